/-! MissingMiddlesModel -/
set_option maxRecDepth 100000
def RX4 : String := "MissingMiddlesModel"
def TX4 : u_T := fun k => match k with
  | 0 => ("MissingMiddlesModel", "s", "[I", true)
  | 1 => ("MissingMiddlesModel", "before", "[I", true)
  | 2 => ("MissingMiddlesModel", "saved", "[I", true)
  | 3 => ("MissingMiddlesModel", "isSaved", "Z", false)
  | 4 => ("MissingMiddlesModel", "past", "[I", true)
  | 5 => ("MissingMiddlesModel", "pastMany", "I", false)
  | 6 => ("MissingMiddlesModel", "thrown", "I", false)
  | 7 => ("MissingMiddlesModel", "refused", "[I", true)
  | 8 => ("MissingMiddlesModel", "isUsed", "[Z", true)
  | 9 => ("MissingMiddlesModel", "usedMany", "I", false)
  | 10 => ("MissingMiddlesModel", "chain", "[I", true)
  | 11 => ("MissingMiddlesModel", "chainMany", "I", false)
  | 12 => ("MissingMiddlesModel", "line", "[C", true)
  | 13 => ("MissingMiddlesModel", "lineMany", "I", false)
  | 14 => ("MissingMiddlesModel", "text", "[C", true)
  | 15 => ("MissingMiddlesModel", "length", "I", false)
  | 16 => ("MissingMiddlesModel", "at", "I", false)
  | 17 => ("MissingMiddlesModel", "isWrong", "Z", false)
  | 18 => ("MissingMiddlesModel", "error", "I", false)
  | 19 => ("MissingMiddlesModel", "item", "I", false)
  | 20 => ("MissingMiddlesModel", "orders", "[I", true)
  | _ => ("MissingMiddlesModel", "orderMany", "I", false)
def tyX4 : Nat → FieldType := fun k => match k with
  | 0 => .array .int
  | 1 => .array .int
  | 2 => .array .int
  | 3 => .boolean
  | 4 => .array .int
  | 5 => .int
  | 6 => .int
  | 7 => .array .int
  | 8 => .array .boolean
  | 9 => .int
  | 10 => .array .int
  | 11 => .int
  | 12 => .array .char
  | 13 => .int
  | 14 => .array .char
  | 15 => .int
  | 16 => .int
  | 17 => .boolean
  | 18 => .int
  | 19 => .int
  | 20 => .array .int
  | _ => .int
abbrev wsX40 : List Cond := u_ws RX4 TX4 22
set_option maxRecDepth 100000 in
theorem nmX4 : ∀ a, a < 22 → ∀ b, b < 22 → a ≠ b → (TX4 a).2.1 ≠ (TX4 b).2.1 := by decide +kernel
set_option maxRecDepth 100000 in
theorem tyX4_ok : ∀ k, k < 22 → parseFieldDescriptor (TX4 k).2.2.1 = some (tyX4 k) := by decide +kernel
abbrev cX4_init : ByteArray := prog_14_method_1_code
def yX4_init : MethodName := ⟨RX4, "<init>", "()V"⟩
def dkwX4_init_4 : List UInt8 := [181, 0, 46, 42, 182, 0, 49, 177]
abbrev dktX4_init_4 : List UInt8 := dkwX4_init_4 ++ []
def dkwX4_init_3 : List UInt8 := [42, 16, 60, 188, 5, 181, 0, 36, 42, 2, 181, 0, 39, 42, 2, 181, 0, 43, 42, 17, 1, 104, 188, 10]
abbrev dktX4_init_3 : List UInt8 := dkwX4_init_3 ++ dktX4_init_4
def dkwX4_init_2 : List UInt8 := [42, 16, 13, 188, 4, 181, 0, 25, 42, 16, 13, 188, 10, 181, 0, 29, 42, 16, 60, 188, 5, 181, 0, 32]
abbrev dktX4_init_2 : List UInt8 := dkwX4_init_2 ++ dktX4_init_3
def dkwX4_init_1 : List UInt8 := [17, 1, 19, 188, 10, 181, 0, 16, 42, 17, 8, 152, 188, 10, 181, 0, 19, 42, 7, 188, 10, 181, 0, 22]
abbrev dktX4_init_1 : List UInt8 := dkwX4_init_1 ++ dktX4_init_2
def dkwX4_init_0 : List UInt8 := [42, 183, 0, 3, 42, 17, 1, 19, 188, 10, 181, 0, 9, 42, 17, 1, 19, 188, 10, 181, 0, 13, 42]
abbrev dktX4_init_0 : List UInt8 := dkwX4_init_0 ++ dktX4_init_1
theorem dksX4_init_0 : cX4_init.data.toList.drop 0 = dktX4_init_0 := by decide +kernel
theorem dksX4_init_1 : cX4_init.data.toList.drop 23 = dktX4_init_1 := dk_seg dksX4_init_0 23 rfl rfl
theorem dksX4_init_2 : cX4_init.data.toList.drop 47 = dktX4_init_2 := dk_seg dksX4_init_1 24 rfl rfl
theorem dksX4_init_3 : cX4_init.data.toList.drop 71 = dktX4_init_3 := dk_seg dksX4_init_2 24 rfl rfl
theorem dksX4_init_4 : cX4_init.data.toList.drop 95 = dktX4_init_4 := dk_seg dksX4_init_3 24 rfl rfl
theorem dX4_init_0 : decode cX4_init 0 = .ok (.aload_n 0, 1) := dk_42 (dk_at dksX4_init_0 0 rfl rfl)
theorem dX4_init_1 : decode cX4_init 1 = .ok (.invokespecial 3, 3) := dk_183 0 3 (dk_at dksX4_init_0 1 rfl rfl)
theorem dX4_init_4 : decode cX4_init 4 = .ok (.aload_n 0, 1) := dk_42 (dk_at dksX4_init_0 4 rfl rfl)
theorem dX4_init_5 : decode cX4_init 5 = .ok (.sipush 275, 3) := dk_17 1 19 (dk_at dksX4_init_0 5 rfl rfl)
theorem dX4_init_8 : decode cX4_init 8 = .ok (.newarray .int, 2) := dk_188_10 (dk_at dksX4_init_0 8 rfl rfl)
theorem dX4_init_10 : decode cX4_init 10 = .ok (.putfield 9, 3) := dk_181 0 9 (dk_at dksX4_init_0 10 rfl rfl)
theorem dX4_init_13 : decode cX4_init 13 = .ok (.aload_n 0, 1) := dk_42 (dk_at dksX4_init_0 13 rfl rfl)
theorem dX4_init_14 : decode cX4_init 14 = .ok (.sipush 275, 3) := dk_17 1 19 (dk_at dksX4_init_0 14 rfl rfl)
theorem dX4_init_17 : decode cX4_init 17 = .ok (.newarray .int, 2) := dk_188_10 (dk_at dksX4_init_0 17 rfl rfl)
theorem dX4_init_19 : decode cX4_init 19 = .ok (.putfield 13, 3) := dk_181 0 13 (dk_at dksX4_init_0 19 rfl rfl)
theorem dX4_init_22 : decode cX4_init 22 = .ok (.aload_n 0, 1) := dk_42 (dk_at dksX4_init_0 22 rfl rfl)
theorem dX4_init_23 : decode cX4_init 23 = .ok (.sipush 275, 3) := dk_17 1 19 (dk_at dksX4_init_1 0 rfl rfl)
theorem dX4_init_26 : decode cX4_init 26 = .ok (.newarray .int, 2) := dk_188_10 (dk_at dksX4_init_1 3 rfl rfl)
theorem dX4_init_28 : decode cX4_init 28 = .ok (.putfield 16, 3) := dk_181 0 16 (dk_at dksX4_init_1 5 rfl rfl)
theorem dX4_init_31 : decode cX4_init 31 = .ok (.aload_n 0, 1) := dk_42 (dk_at dksX4_init_1 8 rfl rfl)
theorem dX4_init_32 : decode cX4_init 32 = .ok (.sipush 2200, 3) := dk_17 8 152 (dk_at dksX4_init_1 9 rfl rfl)
theorem dX4_init_35 : decode cX4_init 35 = .ok (.newarray .int, 2) := dk_188_10 (dk_at dksX4_init_1 12 rfl rfl)
theorem dX4_init_37 : decode cX4_init 37 = .ok (.putfield 19, 3) := dk_181 0 19 (dk_at dksX4_init_1 14 rfl rfl)
theorem dX4_init_40 : decode cX4_init 40 = .ok (.aload_n 0, 1) := dk_42 (dk_at dksX4_init_1 17 rfl rfl)
theorem dX4_init_41 : decode cX4_init 41 = .ok (.iconst 4, 1) := dk_7 (dk_at dksX4_init_1 18 rfl rfl)
theorem dX4_init_42 : decode cX4_init 42 = .ok (.newarray .int, 2) := dk_188_10 (dk_at dksX4_init_1 19 rfl rfl)
theorem dX4_init_44 : decode cX4_init 44 = .ok (.putfield 22, 3) := dk_181 0 22 (dk_at dksX4_init_1 21 rfl rfl)
theorem dX4_init_47 : decode cX4_init 47 = .ok (.aload_n 0, 1) := dk_42 (dk_at dksX4_init_2 0 rfl rfl)
theorem dX4_init_48 : decode cX4_init 48 = .ok (.bipush 13, 2) := dk_16 13 (dk_at dksX4_init_2 1 rfl rfl)
theorem dX4_init_50 : decode cX4_init 50 = .ok (.newarray .boolean, 2) := dk_188_4 (dk_at dksX4_init_2 3 rfl rfl)
theorem dX4_init_52 : decode cX4_init 52 = .ok (.putfield 25, 3) := dk_181 0 25 (dk_at dksX4_init_2 5 rfl rfl)
theorem dX4_init_55 : decode cX4_init 55 = .ok (.aload_n 0, 1) := dk_42 (dk_at dksX4_init_2 8 rfl rfl)
theorem dX4_init_56 : decode cX4_init 56 = .ok (.bipush 13, 2) := dk_16 13 (dk_at dksX4_init_2 9 rfl rfl)
theorem dX4_init_58 : decode cX4_init 58 = .ok (.newarray .int, 2) := dk_188_10 (dk_at dksX4_init_2 11 rfl rfl)
theorem dX4_init_60 : decode cX4_init 60 = .ok (.putfield 29, 3) := dk_181 0 29 (dk_at dksX4_init_2 13 rfl rfl)
theorem dX4_init_63 : decode cX4_init 63 = .ok (.aload_n 0, 1) := dk_42 (dk_at dksX4_init_2 16 rfl rfl)
theorem dX4_init_64 : decode cX4_init 64 = .ok (.bipush 60, 2) := dk_16 60 (dk_at dksX4_init_2 17 rfl rfl)
theorem dX4_init_66 : decode cX4_init 66 = .ok (.newarray .char, 2) := dk_188_5 (dk_at dksX4_init_2 19 rfl rfl)
theorem dX4_init_68 : decode cX4_init 68 = .ok (.putfield 32, 3) := dk_181 0 32 (dk_at dksX4_init_2 21 rfl rfl)
theorem dX4_init_71 : decode cX4_init 71 = .ok (.aload_n 0, 1) := dk_42 (dk_at dksX4_init_3 0 rfl rfl)
theorem dX4_init_72 : decode cX4_init 72 = .ok (.bipush 60, 2) := dk_16 60 (dk_at dksX4_init_3 1 rfl rfl)
theorem dX4_init_74 : decode cX4_init 74 = .ok (.newarray .char, 2) := dk_188_5 (dk_at dksX4_init_3 3 rfl rfl)
theorem dX4_init_76 : decode cX4_init 76 = .ok (.putfield 36, 3) := dk_181 0 36 (dk_at dksX4_init_3 5 rfl rfl)
theorem dX4_init_79 : decode cX4_init 79 = .ok (.aload_n 0, 1) := dk_42 (dk_at dksX4_init_3 8 rfl rfl)
theorem dX4_init_80 : decode cX4_init 80 = .ok (.iconst (-1), 1) := dk_2 (dk_at dksX4_init_3 9 rfl rfl)
theorem dX4_init_81 : decode cX4_init 81 = .ok (.putfield 39, 3) := dk_181 0 39 (dk_at dksX4_init_3 10 rfl rfl)
theorem dX4_init_84 : decode cX4_init 84 = .ok (.aload_n 0, 1) := dk_42 (dk_at dksX4_init_3 13 rfl rfl)
theorem dX4_init_85 : decode cX4_init 85 = .ok (.iconst (-1), 1) := dk_2 (dk_at dksX4_init_3 14 rfl rfl)
theorem dX4_init_86 : decode cX4_init 86 = .ok (.putfield 43, 3) := dk_181 0 43 (dk_at dksX4_init_3 15 rfl rfl)
theorem dX4_init_89 : decode cX4_init 89 = .ok (.aload_n 0, 1) := dk_42 (dk_at dksX4_init_3 18 rfl rfl)
theorem dX4_init_90 : decode cX4_init 90 = .ok (.sipush 360, 3) := dk_17 1 104 (dk_at dksX4_init_3 19 rfl rfl)
theorem dX4_init_93 : decode cX4_init 93 = .ok (.newarray .int, 2) := dk_188_10 (dk_at dksX4_init_3 22 rfl rfl)
theorem dX4_init_95 : decode cX4_init 95 = .ok (.putfield 46, 3) := dk_181 0 46 (dk_at dksX4_init_4 0 rfl rfl)
theorem dX4_init_98 : decode cX4_init 98 = .ok (.aload_n 0, 1) := dk_42 (dk_at dksX4_init_4 3 rfl rfl)
theorem dX4_init_99 : decode cX4_init 99 = .ok (.invokevirtual 49, 3) := dk_182 0 49 (dk_at dksX4_init_4 4 rfl rfl)
theorem dX4_init_102 : decode cX4_init 102 = .ok (.return_, 1) := dk_177 (dk_at dksX4_init_4 7 rfl rfl)
abbrev cX4_empties : ByteArray := prog_14_method_4_code
def yX4_empties : MethodName := ⟨RX4, "empties", "()V"⟩
def dkwX4_empties_2 : List UInt8 := [79, 132, 1, 1, 167, 255, 236, 177]
abbrev dktX4_empties_2 : List UInt8 := dkwX4_empties_2 ++ []
def dkwX4_empties_1 : List UInt8 := [180, 0, 9, 6, 6, 79, 3, 60, 27, 8, 162, 0, 21, 42, 180, 0, 9, 16, 9, 6, 27, 104, 96, 8]
abbrev dktX4_empties_1 : List UInt8 := dkwX4_empties_1 ++ dktX4_empties_2
def dkwX4_empties_0 : List UInt8 := [3, 60, 27, 17, 1, 19, 162, 0, 16, 42, 180, 0, 9, 27, 3, 79, 132, 1, 1, 167, 255, 239, 42]
abbrev dktX4_empties_0 : List UInt8 := dkwX4_empties_0 ++ dktX4_empties_1
theorem dksX4_empties_0 : cX4_empties.data.toList.drop 0 = dktX4_empties_0 := by decide +kernel
theorem dksX4_empties_1 : cX4_empties.data.toList.drop 23 = dktX4_empties_1 := dk_seg dksX4_empties_0 23 rfl rfl
theorem dksX4_empties_2 : cX4_empties.data.toList.drop 47 = dktX4_empties_2 := dk_seg dksX4_empties_1 24 rfl rfl
theorem dX4_empties_0 : decode cX4_empties 0 = .ok (.iconst 0, 1) := dk_3 (dk_at dksX4_empties_0 0 rfl rfl)
theorem dX4_empties_1 : decode cX4_empties 1 = .ok (.istore_n 1, 1) := dk_60 (dk_at dksX4_empties_0 1 rfl rfl)
theorem dX4_empties_2 : decode cX4_empties 2 = .ok (.iload_n 1, 1) := dk_27 (dk_at dksX4_empties_0 2 rfl rfl)
theorem dX4_empties_3 : decode cX4_empties 3 = .ok (.sipush 275, 3) := dk_17 1 19 (dk_at dksX4_empties_0 3 rfl rfl)
theorem dX4_empties_6 : decode cX4_empties 6 = .ok (.if_icmp .ge 16, 3) := dk_162 0 16 (dk_at dksX4_empties_0 6 rfl rfl)
theorem dX4_empties_9 : decode cX4_empties 9 = .ok (.aload_n 0, 1) := dk_42 (dk_at dksX4_empties_0 9 rfl rfl)
theorem dX4_empties_10 : decode cX4_empties 10 = .ok (.getfield 9, 3) := dk_180 0 9 (dk_at dksX4_empties_0 10 rfl rfl)
theorem dX4_empties_13 : decode cX4_empties 13 = .ok (.iload_n 1, 1) := dk_27 (dk_at dksX4_empties_0 13 rfl rfl)
theorem dX4_empties_14 : decode cX4_empties 14 = .ok (.iconst 0, 1) := dk_3 (dk_at dksX4_empties_0 14 rfl rfl)
theorem dX4_empties_15 : decode cX4_empties 15 = .ok (.iastore, 1) := dk_79 (dk_at dksX4_empties_0 15 rfl rfl)
theorem dX4_empties_16 : decode cX4_empties 16 = .ok (.iinc 1 1, 3) := dk_132 1 1 (dk_at dksX4_empties_0 16 rfl rfl)
theorem dX4_empties_19 : decode cX4_empties 19 = .ok (.goto (-17), 3) := dk_167 255 239 (dk_at dksX4_empties_0 19 rfl rfl)
theorem dX4_empties_22 : decode cX4_empties 22 = .ok (.aload_n 0, 1) := dk_42 (dk_at dksX4_empties_0 22 rfl rfl)
theorem dX4_empties_23 : decode cX4_empties 23 = .ok (.getfield 9, 3) := dk_180 0 9 (dk_at dksX4_empties_1 0 rfl rfl)
theorem dX4_empties_26 : decode cX4_empties 26 = .ok (.iconst 3, 1) := dk_6 (dk_at dksX4_empties_1 3 rfl rfl)
theorem dX4_empties_27 : decode cX4_empties 27 = .ok (.iconst 3, 1) := dk_6 (dk_at dksX4_empties_1 4 rfl rfl)
theorem dX4_empties_28 : decode cX4_empties 28 = .ok (.iastore, 1) := dk_79 (dk_at dksX4_empties_1 5 rfl rfl)
theorem dX4_empties_29 : decode cX4_empties 29 = .ok (.iconst 0, 1) := dk_3 (dk_at dksX4_empties_1 6 rfl rfl)
theorem dX4_empties_30 : decode cX4_empties 30 = .ok (.istore_n 1, 1) := dk_60 (dk_at dksX4_empties_1 7 rfl rfl)
theorem dX4_empties_31 : decode cX4_empties 31 = .ok (.iload_n 1, 1) := dk_27 (dk_at dksX4_empties_1 8 rfl rfl)
theorem dX4_empties_32 : decode cX4_empties 32 = .ok (.iconst 5, 1) := dk_8 (dk_at dksX4_empties_1 9 rfl rfl)
theorem dX4_empties_33 : decode cX4_empties 33 = .ok (.if_icmp .ge 21, 3) := dk_162 0 21 (dk_at dksX4_empties_1 10 rfl rfl)
theorem dX4_empties_36 : decode cX4_empties 36 = .ok (.aload_n 0, 1) := dk_42 (dk_at dksX4_empties_1 13 rfl rfl)
theorem dX4_empties_37 : decode cX4_empties 37 = .ok (.getfield 9, 3) := dk_180 0 9 (dk_at dksX4_empties_1 14 rfl rfl)
theorem dX4_empties_40 : decode cX4_empties 40 = .ok (.bipush 9, 2) := dk_16 9 (dk_at dksX4_empties_1 17 rfl rfl)
theorem dX4_empties_42 : decode cX4_empties 42 = .ok (.iconst 3, 1) := dk_6 (dk_at dksX4_empties_1 19 rfl rfl)
theorem dX4_empties_43 : decode cX4_empties 43 = .ok (.iload_n 1, 1) := dk_27 (dk_at dksX4_empties_1 20 rfl rfl)
theorem dX4_empties_44 : decode cX4_empties 44 = .ok (.imul, 1) := dk_104 (dk_at dksX4_empties_1 21 rfl rfl)
theorem dX4_empties_45 : decode cX4_empties 45 = .ok (.iadd, 1) := dk_96 (dk_at dksX4_empties_1 22 rfl rfl)
theorem dX4_empties_46 : decode cX4_empties 46 = .ok (.iconst 5, 1) := dk_8 (dk_at dksX4_empties_1 23 rfl rfl)
theorem dX4_empties_47 : decode cX4_empties 47 = .ok (.iastore, 1) := dk_79 (dk_at dksX4_empties_2 0 rfl rfl)
theorem dX4_empties_48 : decode cX4_empties 48 = .ok (.iinc 1 1, 3) := dk_132 1 1 (dk_at dksX4_empties_2 1 rfl rfl)
theorem dX4_empties_51 : decode cX4_empties 51 = .ok (.goto (-20), 3) := dk_167 255 236 (dk_at dksX4_empties_2 4 rfl rfl)
theorem dX4_empties_54 : decode cX4_empties 54 = .ok (.return_, 1) := dk_177 (dk_at dksX4_empties_2 7 rfl rfl)
abbrev cX4_thrown : ByteArray := prog_14_method_2_code
def yX4_thrown : MethodName := ⟨RX4, "thrown", "()I"⟩
theorem dX4_thrown_0 : decode cX4_thrown 0 = .ok (.aload_n 0, 1) := by decide +kernel
theorem dX4_thrown_1 : decode cX4_thrown 1 = .ok (.getfield 52, 3) := by decide +kernel
theorem dX4_thrown_4 : decode cX4_thrown 4 = .ok (.ireturn, 1) := by decide +kernel
abbrev cX4_clear : ByteArray := prog_14_method_5_code
def yX4_clear : MethodName := ⟨RX4, "clear", "()I"⟩
def dkwX4_clear_0 : List UInt8 := [42, 3, 181, 0, 52, 42, 180, 0, 9, 3, 46, 60, 42, 182, 0, 49, 42, 3, 181, 0, 55, 27, 172]
abbrev dktX4_clear_0 : List UInt8 := dkwX4_clear_0 ++ []
theorem dksX4_clear_0 : cX4_clear.data.toList.drop 0 = dktX4_clear_0 := by decide +kernel
theorem dX4_clear_0 : decode cX4_clear 0 = .ok (.aload_n 0, 1) := dk_42 (dk_at dksX4_clear_0 0 rfl rfl)
theorem dX4_clear_1 : decode cX4_clear 1 = .ok (.iconst 0, 1) := dk_3 (dk_at dksX4_clear_0 1 rfl rfl)
theorem dX4_clear_2 : decode cX4_clear 2 = .ok (.putfield 52, 3) := dk_181 0 52 (dk_at dksX4_clear_0 2 rfl rfl)
theorem dX4_clear_5 : decode cX4_clear 5 = .ok (.aload_n 0, 1) := dk_42 (dk_at dksX4_clear_0 5 rfl rfl)
theorem dX4_clear_6 : decode cX4_clear 6 = .ok (.getfield 9, 3) := dk_180 0 9 (dk_at dksX4_clear_0 6 rfl rfl)
theorem dX4_clear_9 : decode cX4_clear 9 = .ok (.iconst 0, 1) := dk_3 (dk_at dksX4_clear_0 9 rfl rfl)
theorem dX4_clear_10 : decode cX4_clear 10 = .ok (.iaload, 1) := dk_46 (dk_at dksX4_clear_0 10 rfl rfl)
theorem dX4_clear_11 : decode cX4_clear 11 = .ok (.istore_n 1, 1) := dk_60 (dk_at dksX4_clear_0 11 rfl rfl)
theorem dX4_clear_12 : decode cX4_clear 12 = .ok (.aload_n 0, 1) := dk_42 (dk_at dksX4_clear_0 12 rfl rfl)
theorem dX4_clear_13 : decode cX4_clear 13 = .ok (.invokevirtual 49, 3) := dk_182 0 49 (dk_at dksX4_clear_0 13 rfl rfl)
theorem dX4_clear_16 : decode cX4_clear 16 = .ok (.aload_n 0, 1) := dk_42 (dk_at dksX4_clear_0 16 rfl rfl)
theorem dX4_clear_17 : decode cX4_clear 17 = .ok (.iconst 0, 1) := dk_3 (dk_at dksX4_clear_0 17 rfl rfl)
theorem dX4_clear_18 : decode cX4_clear 18 = .ok (.putfield 55, 3) := dk_181 0 55 (dk_at dksX4_clear_0 18 rfl rfl)
theorem dX4_clear_21 : decode cX4_clear 21 = .ok (.iload_n 1, 1) := dk_27 (dk_at dksX4_clear_0 21 rfl rfl)
theorem dX4_clear_22 : decode cX4_clear 22 = .ok (.ireturn, 1) := dk_172 (dk_at dksX4_clear_0 22 rfl rfl)
abbrev cX4_refusal : ByteArray := prog_14_method_10_code
def yX4_refusal : MethodName := ⟨RX4, "refusal", "(ZZ)I"⟩
def dkwX4_refusal_2 : List UInt8 := [180, 0, 22, 27, 153, 0, 7, 5, 167, 0, 4, 3, 28, 153, 0, 7, 4, 167, 0, 4, 3, 96, 46, 172]
abbrev dktX4_refusal_2 : List UInt8 := dkwX4_refusal_2 ++ []
def dkwX4_refusal_1 : List UInt8 := [154, 0, 7, 5, 167, 0, 4, 3, 181, 0, 52, 42, 180, 0, 52, 158, 0, 7, 3, 167, 0, 27, 42]
abbrev dktX4_refusal_1 : List UInt8 := dkwX4_refusal_1 ++ dktX4_refusal_2
def dkwX4_refusal_0 : List UInt8 := [42, 42, 180, 0, 22, 3, 46, 154, 0, 7, 4, 167, 0, 21, 27, 153, 0, 16, 42, 180, 0, 22, 5, 46]
abbrev dktX4_refusal_0 : List UInt8 := dkwX4_refusal_0 ++ dktX4_refusal_1
theorem dksX4_refusal_0 : cX4_refusal.data.toList.drop 0 = dktX4_refusal_0 := by decide +kernel
theorem dksX4_refusal_1 : cX4_refusal.data.toList.drop 24 = dktX4_refusal_1 := dk_seg dksX4_refusal_0 24 rfl rfl
theorem dksX4_refusal_2 : cX4_refusal.data.toList.drop 47 = dktX4_refusal_2 := dk_seg dksX4_refusal_1 23 rfl rfl
theorem dX4_refusal_0 : decode cX4_refusal 0 = .ok (.aload_n 0, 1) := dk_42 (dk_at dksX4_refusal_0 0 rfl rfl)
theorem dX4_refusal_1 : decode cX4_refusal 1 = .ok (.aload_n 0, 1) := dk_42 (dk_at dksX4_refusal_0 1 rfl rfl)
theorem dX4_refusal_2 : decode cX4_refusal 2 = .ok (.getfield 22, 3) := dk_180 0 22 (dk_at dksX4_refusal_0 2 rfl rfl)
theorem dX4_refusal_5 : decode cX4_refusal 5 = .ok (.iconst 0, 1) := dk_3 (dk_at dksX4_refusal_0 5 rfl rfl)
theorem dX4_refusal_6 : decode cX4_refusal 6 = .ok (.iaload, 1) := dk_46 (dk_at dksX4_refusal_0 6 rfl rfl)
theorem dX4_refusal_7 : decode cX4_refusal 7 = .ok (.ifCond .ne 7, 3) := dk_154 0 7 (dk_at dksX4_refusal_0 7 rfl rfl)
theorem dX4_refusal_10 : decode cX4_refusal 10 = .ok (.iconst 1, 1) := dk_4 (dk_at dksX4_refusal_0 10 rfl rfl)
theorem dX4_refusal_11 : decode cX4_refusal 11 = .ok (.goto 21, 3) := dk_167 0 21 (dk_at dksX4_refusal_0 11 rfl rfl)
theorem dX4_refusal_14 : decode cX4_refusal 14 = .ok (.iload_n 1, 1) := dk_27 (dk_at dksX4_refusal_0 14 rfl rfl)
theorem dX4_refusal_15 : decode cX4_refusal 15 = .ok (.ifCond .eq 16, 3) := dk_153 0 16 (dk_at dksX4_refusal_0 15 rfl rfl)
theorem dX4_refusal_18 : decode cX4_refusal 18 = .ok (.aload_n 0, 1) := dk_42 (dk_at dksX4_refusal_0 18 rfl rfl)
theorem dX4_refusal_19 : decode cX4_refusal 19 = .ok (.getfield 22, 3) := dk_180 0 22 (dk_at dksX4_refusal_0 19 rfl rfl)
theorem dX4_refusal_22 : decode cX4_refusal 22 = .ok (.iconst 2, 1) := dk_5 (dk_at dksX4_refusal_0 22 rfl rfl)
theorem dX4_refusal_23 : decode cX4_refusal 23 = .ok (.iaload, 1) := dk_46 (dk_at dksX4_refusal_0 23 rfl rfl)
theorem dX4_refusal_24 : decode cX4_refusal 24 = .ok (.ifCond .ne 7, 3) := dk_154 0 7 (dk_at dksX4_refusal_1 0 rfl rfl)
theorem dX4_refusal_27 : decode cX4_refusal 27 = .ok (.iconst 2, 1) := dk_5 (dk_at dksX4_refusal_1 3 rfl rfl)
theorem dX4_refusal_28 : decode cX4_refusal 28 = .ok (.goto 4, 3) := dk_167 0 4 (dk_at dksX4_refusal_1 4 rfl rfl)
theorem dX4_refusal_31 : decode cX4_refusal 31 = .ok (.iconst 0, 1) := dk_3 (dk_at dksX4_refusal_1 7 rfl rfl)
theorem dX4_refusal_32 : decode cX4_refusal 32 = .ok (.putfield 52, 3) := dk_181 0 52 (dk_at dksX4_refusal_1 8 rfl rfl)
theorem dX4_refusal_35 : decode cX4_refusal 35 = .ok (.aload_n 0, 1) := dk_42 (dk_at dksX4_refusal_1 11 rfl rfl)
theorem dX4_refusal_36 : decode cX4_refusal 36 = .ok (.getfield 52, 3) := dk_180 0 52 (dk_at dksX4_refusal_1 12 rfl rfl)
theorem dX4_refusal_39 : decode cX4_refusal 39 = .ok (.ifCond .le 7, 3) := dk_158 0 7 (dk_at dksX4_refusal_1 15 rfl rfl)
theorem dX4_refusal_42 : decode cX4_refusal 42 = .ok (.iconst 0, 1) := dk_3 (dk_at dksX4_refusal_1 18 rfl rfl)
theorem dX4_refusal_43 : decode cX4_refusal 43 = .ok (.goto 27, 3) := dk_167 0 27 (dk_at dksX4_refusal_1 19 rfl rfl)
theorem dX4_refusal_46 : decode cX4_refusal 46 = .ok (.aload_n 0, 1) := dk_42 (dk_at dksX4_refusal_1 22 rfl rfl)
theorem dX4_refusal_47 : decode cX4_refusal 47 = .ok (.getfield 22, 3) := dk_180 0 22 (dk_at dksX4_refusal_2 0 rfl rfl)
theorem dX4_refusal_50 : decode cX4_refusal 50 = .ok (.iload_n 1, 1) := dk_27 (dk_at dksX4_refusal_2 3 rfl rfl)
theorem dX4_refusal_51 : decode cX4_refusal 51 = .ok (.ifCond .eq 7, 3) := dk_153 0 7 (dk_at dksX4_refusal_2 4 rfl rfl)
theorem dX4_refusal_54 : decode cX4_refusal 54 = .ok (.iconst 2, 1) := dk_5 (dk_at dksX4_refusal_2 7 rfl rfl)
theorem dX4_refusal_55 : decode cX4_refusal 55 = .ok (.goto 4, 3) := dk_167 0 4 (dk_at dksX4_refusal_2 8 rfl rfl)
theorem dX4_refusal_58 : decode cX4_refusal 58 = .ok (.iconst 0, 1) := dk_3 (dk_at dksX4_refusal_2 11 rfl rfl)
theorem dX4_refusal_59 : decode cX4_refusal 59 = .ok (.iload_n 2, 1) := dk_28 (dk_at dksX4_refusal_2 12 rfl rfl)
theorem dX4_refusal_60 : decode cX4_refusal 60 = .ok (.ifCond .eq 7, 3) := dk_153 0 7 (dk_at dksX4_refusal_2 13 rfl rfl)
theorem dX4_refusal_63 : decode cX4_refusal 63 = .ok (.iconst 1, 1) := dk_4 (dk_at dksX4_refusal_2 16 rfl rfl)
theorem dX4_refusal_64 : decode cX4_refusal 64 = .ok (.goto 4, 3) := dk_167 0 4 (dk_at dksX4_refusal_2 17 rfl rfl)
theorem dX4_refusal_67 : decode cX4_refusal 67 = .ok (.iconst 0, 1) := dk_3 (dk_at dksX4_refusal_2 20 rfl rfl)
theorem dX4_refusal_68 : decode cX4_refusal 68 = .ok (.iadd, 1) := dk_96 (dk_at dksX4_refusal_2 21 rfl rfl)
theorem dX4_refusal_69 : decode cX4_refusal 69 = .ok (.iaload, 1) := dk_46 (dk_at dksX4_refusal_2 22 rfl rfl)
theorem dX4_refusal_70 : decode cX4_refusal 70 = .ok (.ireturn, 1) := dk_172 (dk_at dksX4_refusal_2 23 rfl rfl)
abbrev cX4_book : ByteArray := prog_14_method_21_code
def yX4_book : MethodName := ⟨RX4, "book", "(IIIII)I"⟩
def dkwX4_book_0 : List UInt8 := [42, 182, 0, 80, 42, 42, 27, 28, 29, 21, 4, 21, 5, 182, 0, 83, 182, 0, 87, 172]
abbrev dktX4_book_0 : List UInt8 := dkwX4_book_0 ++ []
theorem dksX4_book_0 : cX4_book.data.toList.drop 0 = dktX4_book_0 := by decide +kernel
theorem dX4_book_0 : decode cX4_book 0 = .ok (.aload_n 0, 1) := dk_42 (dk_at dksX4_book_0 0 rfl rfl)
theorem dX4_book_1 : decode cX4_book 1 = .ok (.invokevirtual 80, 3) := dk_182 0 80 (dk_at dksX4_book_0 1 rfl rfl)
theorem dX4_book_4 : decode cX4_book 4 = .ok (.aload_n 0, 1) := dk_42 (dk_at dksX4_book_0 4 rfl rfl)
theorem dX4_book_5 : decode cX4_book 5 = .ok (.aload_n 0, 1) := dk_42 (dk_at dksX4_book_0 5 rfl rfl)
theorem dX4_book_6 : decode cX4_book 6 = .ok (.iload_n 1, 1) := dk_27 (dk_at dksX4_book_0 6 rfl rfl)
theorem dX4_book_7 : decode cX4_book 7 = .ok (.iload_n 2, 1) := dk_28 (dk_at dksX4_book_0 7 rfl rfl)
theorem dX4_book_8 : decode cX4_book 8 = .ok (.iload_n 3, 1) := dk_29 (dk_at dksX4_book_0 8 rfl rfl)
theorem dX4_book_9 : decode cX4_book 9 = .ok (.iload 4, 2) := dk_21 4 (dk_at dksX4_book_0 9 rfl rfl)
theorem dX4_book_11 : decode cX4_book 11 = .ok (.iload 5, 2) := dk_21 5 (dk_at dksX4_book_0 11 rfl rfl)
theorem dX4_book_13 : decode cX4_book 13 = .ok (.invokevirtual 83, 3) := dk_182 0 83 (dk_at dksX4_book_0 13 rfl rfl)
theorem dX4_book_16 : decode cX4_book 16 = .ok (.invokevirtual 87, 3) := dk_182 0 87 (dk_at dksX4_book_0 16 rfl rfl)
theorem dX4_book_19 : decode cX4_book 19 = .ok (.ireturn, 1) := dk_172 (dk_at dksX4_book_0 19 rfl rfl)
abbrev cX4_keep : ByteArray := prog_14_method_6_code
def yX4_keep : MethodName := ⟨RX4, "keep", "()V"⟩
def dkwX4_keep_0 : List UInt8 := [42, 3, 181, 0, 52, 42, 180, 0, 9, 3, 42, 180, 0, 13, 3, 17, 1, 19, 184, 0, 58, 177]
abbrev dktX4_keep_0 : List UInt8 := dkwX4_keep_0 ++ []
theorem dksX4_keep_0 : cX4_keep.data.toList.drop 0 = dktX4_keep_0 := by decide +kernel
theorem dX4_keep_0 : decode cX4_keep 0 = .ok (.aload_n 0, 1) := dk_42 (dk_at dksX4_keep_0 0 rfl rfl)
theorem dX4_keep_1 : decode cX4_keep 1 = .ok (.iconst 0, 1) := dk_3 (dk_at dksX4_keep_0 1 rfl rfl)
theorem dX4_keep_2 : decode cX4_keep 2 = .ok (.putfield 52, 3) := dk_181 0 52 (dk_at dksX4_keep_0 2 rfl rfl)
theorem dX4_keep_5 : decode cX4_keep 5 = .ok (.aload_n 0, 1) := dk_42 (dk_at dksX4_keep_0 5 rfl rfl)
theorem dX4_keep_6 : decode cX4_keep 6 = .ok (.getfield 9, 3) := dk_180 0 9 (dk_at dksX4_keep_0 6 rfl rfl)
theorem dX4_keep_9 : decode cX4_keep 9 = .ok (.iconst 0, 1) := dk_3 (dk_at dksX4_keep_0 9 rfl rfl)
theorem dX4_keep_10 : decode cX4_keep 10 = .ok (.aload_n 0, 1) := dk_42 (dk_at dksX4_keep_0 10 rfl rfl)
theorem dX4_keep_11 : decode cX4_keep 11 = .ok (.getfield 13, 3) := dk_180 0 13 (dk_at dksX4_keep_0 11 rfl rfl)
theorem dX4_keep_14 : decode cX4_keep 14 = .ok (.iconst 0, 1) := dk_3 (dk_at dksX4_keep_0 14 rfl rfl)
theorem dX4_keep_15 : decode cX4_keep 15 = .ok (.sipush 275, 3) := dk_17 1 19 (dk_at dksX4_keep_0 15 rfl rfl)
theorem dX4_keep_18 : decode cX4_keep 18 = .ok (.invokestatic 58, 3) := dk_184 0 58 (dk_at dksX4_keep_0 18 rfl rfl)
theorem dX4_keep_21 : decode cX4_keep 21 = .ok (.return_, 1) := dk_177 (dk_at dksX4_keep_0 21 rfl rfl)
abbrev cX4_doBook : ByteArray := prog_14_method_20_code
def yX4_doBook : MethodName := ⟨RX4, "doBook", "(IIIII)I"⟩
def dkwX4_doBook_6 : List UInt8 := [180, 0, 9, 21, 8, 8, 96, 3, 79, 42, 180, 0, 9, 3, 92, 46, 4, 96, 79, 21, 6, 172]
abbrev dktX4_doBook_6 : List UInt8 := dkwX4_doBook_6 ++ []
def dkwX4_doBook_5 : List UInt8 := [180, 0, 9, 21, 8, 6, 96, 21, 4, 79, 42, 180, 0, 9, 21, 8, 7, 96, 21, 5, 79, 42]
abbrev dktX4_doBook_5 : List UInt8 := dkwX4_doBook_5 ++ dktX4_doBook_6
def dkwX4_doBook_4 : List UInt8 := [27, 79, 42, 180, 0, 9, 21, 8, 4, 96, 28, 79, 42, 180, 0, 9, 21, 8, 5, 96, 29, 79, 42]
abbrev dktX4_doBook_4 : List UInt8 := dkwX4_doBook_4 ++ dktX4_doBook_5
def dkwX4_doBook_3 : List UInt8 := [5, 4, 16, 6, 182, 0, 76, 172, 16, 96, 16, 6, 21, 6, 104, 96, 54, 8, 42, 180, 0, 9, 21, 8]
abbrev dktX4_doBook_3 : List UInt8 := dkwX4_doBook_3 ++ dktX4_doBook_4
def dkwX4_doBook_2 : List UInt8 := [21, 4, 21, 5, 184, 0, 68, 154, 0, 9, 42, 4, 182, 0, 72, 172, 21, 6, 16, 6, 160, 0, 12, 42]
abbrev dktX4_doBook_2 : List UInt8 := dkwX4_doBook_2 ++ dktX4_doBook_3
def dkwX4_doBook_1 : List UInt8 := [184, 0, 64, 153, 0, 12, 29, 27, 162, 0, 7, 4, 167, 0, 4, 3, 54, 7, 21, 7, 153, 0, 13]
abbrev dktX4_doBook_1 : List UInt8 := dkwX4_doBook_1 ++ dktX4_doBook_2
def dkwX4_doBook_0 : List UInt8 := [42, 180, 0, 9, 3, 46, 54, 6, 27, 16, 10, 16, 60, 184, 0, 64, 153, 0, 21, 28, 5, 29]
abbrev dktX4_doBook_0 : List UInt8 := dkwX4_doBook_0 ++ dktX4_doBook_1
theorem dksX4_doBook_0 : cX4_doBook.data.toList.drop 0 = dktX4_doBook_0 := by decide +kernel
theorem dksX4_doBook_1 : cX4_doBook.data.toList.drop 22 = dktX4_doBook_1 := dk_seg dksX4_doBook_0 22 rfl rfl
theorem dksX4_doBook_2 : cX4_doBook.data.toList.drop 45 = dktX4_doBook_2 := dk_seg dksX4_doBook_1 23 rfl rfl
theorem dksX4_doBook_3 : cX4_doBook.data.toList.drop 69 = dktX4_doBook_3 := dk_seg dksX4_doBook_2 24 rfl rfl
theorem dksX4_doBook_4 : cX4_doBook.data.toList.drop 93 = dktX4_doBook_4 := dk_seg dksX4_doBook_3 24 rfl rfl
theorem dksX4_doBook_5 : cX4_doBook.data.toList.drop 116 = dktX4_doBook_5 := dk_seg dksX4_doBook_4 23 rfl rfl
theorem dksX4_doBook_6 : cX4_doBook.data.toList.drop 138 = dktX4_doBook_6 := dk_seg dksX4_doBook_5 22 rfl rfl
theorem dX4_doBook_0 : decode cX4_doBook 0 = .ok (.aload_n 0, 1) := dk_42 (dk_at dksX4_doBook_0 0 rfl rfl)
theorem dX4_doBook_1 : decode cX4_doBook 1 = .ok (.getfield 9, 3) := dk_180 0 9 (dk_at dksX4_doBook_0 1 rfl rfl)
theorem dX4_doBook_4 : decode cX4_doBook 4 = .ok (.iconst 0, 1) := dk_3 (dk_at dksX4_doBook_0 4 rfl rfl)
theorem dX4_doBook_5 : decode cX4_doBook 5 = .ok (.iaload, 1) := dk_46 (dk_at dksX4_doBook_0 5 rfl rfl)
theorem dX4_doBook_6 : decode cX4_doBook 6 = .ok (.istore 6, 2) := dk_54 6 (dk_at dksX4_doBook_0 6 rfl rfl)
theorem dX4_doBook_8 : decode cX4_doBook 8 = .ok (.iload_n 1, 1) := dk_27 (dk_at dksX4_doBook_0 8 rfl rfl)
theorem dX4_doBook_9 : decode cX4_doBook 9 = .ok (.bipush 10, 2) := dk_16 10 (dk_at dksX4_doBook_0 9 rfl rfl)
theorem dX4_doBook_11 : decode cX4_doBook 11 = .ok (.bipush 60, 2) := dk_16 60 (dk_at dksX4_doBook_0 11 rfl rfl)
theorem dX4_doBook_13 : decode cX4_doBook 13 = .ok (.invokestatic 64, 3) := dk_184 0 64 (dk_at dksX4_doBook_0 13 rfl rfl)
theorem dX4_doBook_16 : decode cX4_doBook 16 = .ok (.ifCond .eq 21, 3) := dk_153 0 21 (dk_at dksX4_doBook_0 16 rfl rfl)
theorem dX4_doBook_19 : decode cX4_doBook 19 = .ok (.iload_n 2, 1) := dk_28 (dk_at dksX4_doBook_0 19 rfl rfl)
theorem dX4_doBook_20 : decode cX4_doBook 20 = .ok (.iconst 2, 1) := dk_5 (dk_at dksX4_doBook_0 20 rfl rfl)
theorem dX4_doBook_21 : decode cX4_doBook 21 = .ok (.iload_n 3, 1) := dk_29 (dk_at dksX4_doBook_0 21 rfl rfl)
theorem dX4_doBook_22 : decode cX4_doBook 22 = .ok (.invokestatic 64, 3) := dk_184 0 64 (dk_at dksX4_doBook_1 0 rfl rfl)
theorem dX4_doBook_25 : decode cX4_doBook 25 = .ok (.ifCond .eq 12, 3) := dk_153 0 12 (dk_at dksX4_doBook_1 3 rfl rfl)
theorem dX4_doBook_28 : decode cX4_doBook 28 = .ok (.iload_n 3, 1) := dk_29 (dk_at dksX4_doBook_1 6 rfl rfl)
theorem dX4_doBook_29 : decode cX4_doBook 29 = .ok (.iload_n 1, 1) := dk_27 (dk_at dksX4_doBook_1 7 rfl rfl)
theorem dX4_doBook_30 : decode cX4_doBook 30 = .ok (.if_icmp .ge 7, 3) := dk_162 0 7 (dk_at dksX4_doBook_1 8 rfl rfl)
theorem dX4_doBook_33 : decode cX4_doBook 33 = .ok (.iconst 1, 1) := dk_4 (dk_at dksX4_doBook_1 11 rfl rfl)
theorem dX4_doBook_34 : decode cX4_doBook 34 = .ok (.goto 4, 3) := dk_167 0 4 (dk_at dksX4_doBook_1 12 rfl rfl)
theorem dX4_doBook_37 : decode cX4_doBook 37 = .ok (.iconst 0, 1) := dk_3 (dk_at dksX4_doBook_1 15 rfl rfl)
theorem dX4_doBook_38 : decode cX4_doBook 38 = .ok (.istore 7, 2) := dk_54 7 (dk_at dksX4_doBook_1 16 rfl rfl)
theorem dX4_doBook_40 : decode cX4_doBook 40 = .ok (.iload 7, 2) := dk_21 7 (dk_at dksX4_doBook_1 18 rfl rfl)
theorem dX4_doBook_42 : decode cX4_doBook 42 = .ok (.ifCond .eq 13, 3) := dk_153 0 13 (dk_at dksX4_doBook_1 20 rfl rfl)
theorem dX4_doBook_45 : decode cX4_doBook 45 = .ok (.iload 4, 2) := dk_21 4 (dk_at dksX4_doBook_2 0 rfl rfl)
theorem dX4_doBook_47 : decode cX4_doBook 47 = .ok (.iload 5, 2) := dk_21 5 (dk_at dksX4_doBook_2 2 rfl rfl)
theorem dX4_doBook_49 : decode cX4_doBook 49 = .ok (.invokestatic 68, 3) := dk_184 0 68 (dk_at dksX4_doBook_2 4 rfl rfl)
theorem dX4_doBook_52 : decode cX4_doBook 52 = .ok (.ifCond .ne 9, 3) := dk_154 0 9 (dk_at dksX4_doBook_2 7 rfl rfl)
theorem dX4_doBook_55 : decode cX4_doBook 55 = .ok (.aload_n 0, 1) := dk_42 (dk_at dksX4_doBook_2 10 rfl rfl)
theorem dX4_doBook_56 : decode cX4_doBook 56 = .ok (.iconst 1, 1) := dk_4 (dk_at dksX4_doBook_2 11 rfl rfl)
theorem dX4_doBook_57 : decode cX4_doBook 57 = .ok (.invokevirtual 72, 3) := dk_182 0 72 (dk_at dksX4_doBook_2 12 rfl rfl)
theorem dX4_doBook_60 : decode cX4_doBook 60 = .ok (.ireturn, 1) := dk_172 (dk_at dksX4_doBook_2 15 rfl rfl)
theorem dX4_doBook_61 : decode cX4_doBook 61 = .ok (.iload 6, 2) := dk_21 6 (dk_at dksX4_doBook_2 16 rfl rfl)
theorem dX4_doBook_63 : decode cX4_doBook 63 = .ok (.bipush 6, 2) := dk_16 6 (dk_at dksX4_doBook_2 18 rfl rfl)
theorem dX4_doBook_65 : decode cX4_doBook 65 = .ok (.if_icmp .ne 12, 3) := dk_160 0 12 (dk_at dksX4_doBook_2 20 rfl rfl)
theorem dX4_doBook_68 : decode cX4_doBook 68 = .ok (.aload_n 0, 1) := dk_42 (dk_at dksX4_doBook_2 23 rfl rfl)
theorem dX4_doBook_69 : decode cX4_doBook 69 = .ok (.iconst 2, 1) := dk_5 (dk_at dksX4_doBook_3 0 rfl rfl)
theorem dX4_doBook_70 : decode cX4_doBook 70 = .ok (.iconst 1, 1) := dk_4 (dk_at dksX4_doBook_3 1 rfl rfl)
theorem dX4_doBook_71 : decode cX4_doBook 71 = .ok (.bipush 6, 2) := dk_16 6 (dk_at dksX4_doBook_3 2 rfl rfl)
theorem dX4_doBook_73 : decode cX4_doBook 73 = .ok (.invokevirtual 76, 3) := dk_182 0 76 (dk_at dksX4_doBook_3 4 rfl rfl)
theorem dX4_doBook_76 : decode cX4_doBook 76 = .ok (.ireturn, 1) := dk_172 (dk_at dksX4_doBook_3 7 rfl rfl)
theorem dX4_doBook_77 : decode cX4_doBook 77 = .ok (.bipush 96, 2) := dk_16 96 (dk_at dksX4_doBook_3 8 rfl rfl)
theorem dX4_doBook_79 : decode cX4_doBook 79 = .ok (.bipush 6, 2) := dk_16 6 (dk_at dksX4_doBook_3 10 rfl rfl)
theorem dX4_doBook_81 : decode cX4_doBook 81 = .ok (.iload 6, 2) := dk_21 6 (dk_at dksX4_doBook_3 12 rfl rfl)
theorem dX4_doBook_83 : decode cX4_doBook 83 = .ok (.imul, 1) := dk_104 (dk_at dksX4_doBook_3 14 rfl rfl)
theorem dX4_doBook_84 : decode cX4_doBook 84 = .ok (.iadd, 1) := dk_96 (dk_at dksX4_doBook_3 15 rfl rfl)
theorem dX4_doBook_85 : decode cX4_doBook 85 = .ok (.istore 8, 2) := dk_54 8 (dk_at dksX4_doBook_3 16 rfl rfl)
theorem dX4_doBook_87 : decode cX4_doBook 87 = .ok (.aload_n 0, 1) := dk_42 (dk_at dksX4_doBook_3 18 rfl rfl)
theorem dX4_doBook_88 : decode cX4_doBook 88 = .ok (.getfield 9, 3) := dk_180 0 9 (dk_at dksX4_doBook_3 19 rfl rfl)
theorem dX4_doBook_91 : decode cX4_doBook 91 = .ok (.iload 8, 2) := dk_21 8 (dk_at dksX4_doBook_3 22 rfl rfl)
theorem dX4_doBook_93 : decode cX4_doBook 93 = .ok (.iload_n 1, 1) := dk_27 (dk_at dksX4_doBook_4 0 rfl rfl)
theorem dX4_doBook_94 : decode cX4_doBook 94 = .ok (.iastore, 1) := dk_79 (dk_at dksX4_doBook_4 1 rfl rfl)
theorem dX4_doBook_95 : decode cX4_doBook 95 = .ok (.aload_n 0, 1) := dk_42 (dk_at dksX4_doBook_4 2 rfl rfl)
theorem dX4_doBook_96 : decode cX4_doBook 96 = .ok (.getfield 9, 3) := dk_180 0 9 (dk_at dksX4_doBook_4 3 rfl rfl)
theorem dX4_doBook_99 : decode cX4_doBook 99 = .ok (.iload 8, 2) := dk_21 8 (dk_at dksX4_doBook_4 6 rfl rfl)
theorem dX4_doBook_101 : decode cX4_doBook 101 = .ok (.iconst 1, 1) := dk_4 (dk_at dksX4_doBook_4 8 rfl rfl)
theorem dX4_doBook_102 : decode cX4_doBook 102 = .ok (.iadd, 1) := dk_96 (dk_at dksX4_doBook_4 9 rfl rfl)
theorem dX4_doBook_103 : decode cX4_doBook 103 = .ok (.iload_n 2, 1) := dk_28 (dk_at dksX4_doBook_4 10 rfl rfl)
theorem dX4_doBook_104 : decode cX4_doBook 104 = .ok (.iastore, 1) := dk_79 (dk_at dksX4_doBook_4 11 rfl rfl)
theorem dX4_doBook_105 : decode cX4_doBook 105 = .ok (.aload_n 0, 1) := dk_42 (dk_at dksX4_doBook_4 12 rfl rfl)
theorem dX4_doBook_106 : decode cX4_doBook 106 = .ok (.getfield 9, 3) := dk_180 0 9 (dk_at dksX4_doBook_4 13 rfl rfl)
theorem dX4_doBook_109 : decode cX4_doBook 109 = .ok (.iload 8, 2) := dk_21 8 (dk_at dksX4_doBook_4 16 rfl rfl)
theorem dX4_doBook_111 : decode cX4_doBook 111 = .ok (.iconst 2, 1) := dk_5 (dk_at dksX4_doBook_4 18 rfl rfl)
theorem dX4_doBook_112 : decode cX4_doBook 112 = .ok (.iadd, 1) := dk_96 (dk_at dksX4_doBook_4 19 rfl rfl)
theorem dX4_doBook_113 : decode cX4_doBook 113 = .ok (.iload_n 3, 1) := dk_29 (dk_at dksX4_doBook_4 20 rfl rfl)
theorem dX4_doBook_114 : decode cX4_doBook 114 = .ok (.iastore, 1) := dk_79 (dk_at dksX4_doBook_4 21 rfl rfl)
theorem dX4_doBook_115 : decode cX4_doBook 115 = .ok (.aload_n 0, 1) := dk_42 (dk_at dksX4_doBook_4 22 rfl rfl)
theorem dX4_doBook_116 : decode cX4_doBook 116 = .ok (.getfield 9, 3) := dk_180 0 9 (dk_at dksX4_doBook_5 0 rfl rfl)
theorem dX4_doBook_119 : decode cX4_doBook 119 = .ok (.iload 8, 2) := dk_21 8 (dk_at dksX4_doBook_5 3 rfl rfl)
theorem dX4_doBook_121 : decode cX4_doBook 121 = .ok (.iconst 3, 1) := dk_6 (dk_at dksX4_doBook_5 5 rfl rfl)
theorem dX4_doBook_122 : decode cX4_doBook 122 = .ok (.iadd, 1) := dk_96 (dk_at dksX4_doBook_5 6 rfl rfl)
theorem dX4_doBook_123 : decode cX4_doBook 123 = .ok (.iload 4, 2) := dk_21 4 (dk_at dksX4_doBook_5 7 rfl rfl)
theorem dX4_doBook_125 : decode cX4_doBook 125 = .ok (.iastore, 1) := dk_79 (dk_at dksX4_doBook_5 9 rfl rfl)
theorem dX4_doBook_126 : decode cX4_doBook 126 = .ok (.aload_n 0, 1) := dk_42 (dk_at dksX4_doBook_5 10 rfl rfl)
theorem dX4_doBook_127 : decode cX4_doBook 127 = .ok (.getfield 9, 3) := dk_180 0 9 (dk_at dksX4_doBook_5 11 rfl rfl)
theorem dX4_doBook_130 : decode cX4_doBook 130 = .ok (.iload 8, 2) := dk_21 8 (dk_at dksX4_doBook_5 14 rfl rfl)
theorem dX4_doBook_132 : decode cX4_doBook 132 = .ok (.iconst 4, 1) := dk_7 (dk_at dksX4_doBook_5 16 rfl rfl)
theorem dX4_doBook_133 : decode cX4_doBook 133 = .ok (.iadd, 1) := dk_96 (dk_at dksX4_doBook_5 17 rfl rfl)
theorem dX4_doBook_134 : decode cX4_doBook 134 = .ok (.iload 5, 2) := dk_21 5 (dk_at dksX4_doBook_5 18 rfl rfl)
theorem dX4_doBook_136 : decode cX4_doBook 136 = .ok (.iastore, 1) := dk_79 (dk_at dksX4_doBook_5 20 rfl rfl)
theorem dX4_doBook_137 : decode cX4_doBook 137 = .ok (.aload_n 0, 1) := dk_42 (dk_at dksX4_doBook_5 21 rfl rfl)
theorem dX4_doBook_138 : decode cX4_doBook 138 = .ok (.getfield 9, 3) := dk_180 0 9 (dk_at dksX4_doBook_6 0 rfl rfl)
theorem dX4_doBook_141 : decode cX4_doBook 141 = .ok (.iload 8, 2) := dk_21 8 (dk_at dksX4_doBook_6 3 rfl rfl)
theorem dX4_doBook_143 : decode cX4_doBook 143 = .ok (.iconst 5, 1) := dk_8 (dk_at dksX4_doBook_6 5 rfl rfl)
theorem dX4_doBook_144 : decode cX4_doBook 144 = .ok (.iadd, 1) := dk_96 (dk_at dksX4_doBook_6 6 rfl rfl)
theorem dX4_doBook_145 : decode cX4_doBook 145 = .ok (.iconst 0, 1) := dk_3 (dk_at dksX4_doBook_6 7 rfl rfl)
theorem dX4_doBook_146 : decode cX4_doBook 146 = .ok (.iastore, 1) := dk_79 (dk_at dksX4_doBook_6 8 rfl rfl)
theorem dX4_doBook_147 : decode cX4_doBook 147 = .ok (.aload_n 0, 1) := dk_42 (dk_at dksX4_doBook_6 9 rfl rfl)
theorem dX4_doBook_148 : decode cX4_doBook 148 = .ok (.getfield 9, 3) := dk_180 0 9 (dk_at dksX4_doBook_6 10 rfl rfl)
theorem dX4_doBook_151 : decode cX4_doBook 151 = .ok (.iconst 0, 1) := dk_3 (dk_at dksX4_doBook_6 13 rfl rfl)
theorem dX4_doBook_152 : decode cX4_doBook 152 = .ok (.dup2, 1) := dk_92 (dk_at dksX4_doBook_6 14 rfl rfl)
theorem dX4_doBook_153 : decode cX4_doBook 153 = .ok (.iaload, 1) := dk_46 (dk_at dksX4_doBook_6 15 rfl rfl)
theorem dX4_doBook_154 : decode cX4_doBook 154 = .ok (.iconst 1, 1) := dk_4 (dk_at dksX4_doBook_6 16 rfl rfl)
theorem dX4_doBook_155 : decode cX4_doBook 155 = .ok (.iadd, 1) := dk_96 (dk_at dksX4_doBook_6 17 rfl rfl)
theorem dX4_doBook_156 : decode cX4_doBook 156 = .ok (.iastore, 1) := dk_79 (dk_at dksX4_doBook_6 18 rfl rfl)
theorem dX4_doBook_157 : decode cX4_doBook 157 = .ok (.iload 6, 2) := dk_21 6 (dk_at dksX4_doBook_6 19 rfl rfl)
theorem dX4_doBook_159 : decode cX4_doBook 159 = .ok (.ireturn, 1) := dk_172 (dk_at dksX4_doBook_6 21 rfl rfl)
abbrev cX4_in : ByteArray := prog_14_method_3_code
def yX4_in : MethodName := ⟨RX4, "in", "(III)Z"⟩
def dkwX4_in_0 : List UInt8 := [26, 27, 161, 0, 12, 26, 28, 163, 0, 7, 4, 167, 0, 4, 3, 172]
abbrev dktX4_in_0 : List UInt8 := dkwX4_in_0 ++ []
theorem dksX4_in_0 : cX4_in.data.toList.drop 0 = dktX4_in_0 := by decide +kernel
theorem dX4_in_0 : decode cX4_in 0 = .ok (.iload_n 0, 1) := dk_26 (dk_at dksX4_in_0 0 rfl rfl)
theorem dX4_in_1 : decode cX4_in 1 = .ok (.iload_n 1, 1) := dk_27 (dk_at dksX4_in_0 1 rfl rfl)
theorem dX4_in_2 : decode cX4_in 2 = .ok (.if_icmp .lt 12, 3) := dk_161 0 12 (dk_at dksX4_in_0 2 rfl rfl)
theorem dX4_in_5 : decode cX4_in 5 = .ok (.iload_n 0, 1) := dk_26 (dk_at dksX4_in_0 5 rfl rfl)
theorem dX4_in_6 : decode cX4_in 6 = .ok (.iload_n 2, 1) := dk_28 (dk_at dksX4_in_0 6 rfl rfl)
theorem dX4_in_7 : decode cX4_in 7 = .ok (.if_icmp .gt 7, 3) := dk_163 0 7 (dk_at dksX4_in_0 7 rfl rfl)
theorem dX4_in_10 : decode cX4_in 10 = .ok (.iconst 1, 1) := dk_4 (dk_at dksX4_in_0 10 rfl rfl)
theorem dX4_in_11 : decode cX4_in 11 = .ok (.goto 4, 3) := dk_167 0 4 (dk_at dksX4_in_0 11 rfl rfl)
theorem dX4_in_14 : decode cX4_in 14 = .ok (.iconst 0, 1) := dk_3 (dk_at dksX4_in_0 14 rfl rfl)
theorem dX4_in_15 : decode cX4_in 15 = .ok (.ireturn, 1) := dk_172 (dk_at dksX4_in_0 15 rfl rfl)
abbrev cX4_areSigns : ByteArray := prog_14_method_11_code
def yX4_areSigns : MethodName := ⟨RX4, "areSigns", "(II)Z"⟩
def dkwX4_areSigns_1 : List UInt8 := [3, 172]
abbrev dktX4_areSigns_1 : List UInt8 := dkwX4_areSigns_1 ++ []
def dkwX4_areSigns_0 : List UInt8 := [26, 3, 16, 7, 184, 0, 64, 153, 0, 17, 27, 3, 16, 7, 184, 0, 64, 153, 0, 7, 4, 167, 0, 4]
abbrev dktX4_areSigns_0 : List UInt8 := dkwX4_areSigns_0 ++ dktX4_areSigns_1
theorem dksX4_areSigns_0 : cX4_areSigns.data.toList.drop 0 = dktX4_areSigns_0 := by decide +kernel
theorem dksX4_areSigns_1 : cX4_areSigns.data.toList.drop 24 = dktX4_areSigns_1 := dk_seg dksX4_areSigns_0 24 rfl rfl
theorem dX4_areSigns_0 : decode cX4_areSigns 0 = .ok (.iload_n 0, 1) := dk_26 (dk_at dksX4_areSigns_0 0 rfl rfl)
theorem dX4_areSigns_1 : decode cX4_areSigns 1 = .ok (.iconst 0, 1) := dk_3 (dk_at dksX4_areSigns_0 1 rfl rfl)
theorem dX4_areSigns_2 : decode cX4_areSigns 2 = .ok (.bipush 7, 2) := dk_16 7 (dk_at dksX4_areSigns_0 2 rfl rfl)
theorem dX4_areSigns_4 : decode cX4_areSigns 4 = .ok (.invokestatic 64, 3) := dk_184 0 64 (dk_at dksX4_areSigns_0 4 rfl rfl)
theorem dX4_areSigns_7 : decode cX4_areSigns 7 = .ok (.ifCond .eq 17, 3) := dk_153 0 17 (dk_at dksX4_areSigns_0 7 rfl rfl)
theorem dX4_areSigns_10 : decode cX4_areSigns 10 = .ok (.iload_n 1, 1) := dk_27 (dk_at dksX4_areSigns_0 10 rfl rfl)
theorem dX4_areSigns_11 : decode cX4_areSigns 11 = .ok (.iconst 0, 1) := dk_3 (dk_at dksX4_areSigns_0 11 rfl rfl)
theorem dX4_areSigns_12 : decode cX4_areSigns 12 = .ok (.bipush 7, 2) := dk_16 7 (dk_at dksX4_areSigns_0 12 rfl rfl)
theorem dX4_areSigns_14 : decode cX4_areSigns 14 = .ok (.invokestatic 64, 3) := dk_184 0 64 (dk_at dksX4_areSigns_0 14 rfl rfl)
theorem dX4_areSigns_17 : decode cX4_areSigns 17 = .ok (.ifCond .eq 7, 3) := dk_153 0 7 (dk_at dksX4_areSigns_0 17 rfl rfl)
theorem dX4_areSigns_20 : decode cX4_areSigns 20 = .ok (.iconst 1, 1) := dk_4 (dk_at dksX4_areSigns_0 20 rfl rfl)
theorem dX4_areSigns_21 : decode cX4_areSigns 21 = .ok (.goto 4, 3) := dk_167 0 4 (dk_at dksX4_areSigns_0 21 rfl rfl)
theorem dX4_areSigns_24 : decode cX4_areSigns 24 = .ok (.iconst 0, 1) := dk_3 (dk_at dksX4_areSigns_1 0 rfl rfl)
theorem dX4_areSigns_25 : decode cX4_areSigns 25 = .ok (.ireturn, 1) := dk_172 (dk_at dksX4_areSigns_1 1 rfl rfl)
abbrev cX4_fails : ByteArray := prog_14_method_8_code
def yX4_fails : MethodName := ⟨RX4, "fails", "(I)I"⟩
def dkwX4_fails_0 : List UInt8 := [42, 27, 181, 0, 52, 3, 172]
abbrev dktX4_fails_0 : List UInt8 := dkwX4_fails_0 ++ []
theorem dksX4_fails_0 : cX4_fails.data.toList.drop 0 = dktX4_fails_0 := by decide +kernel
theorem dX4_fails_0 : decode cX4_fails 0 = .ok (.aload_n 0, 1) := dk_42 (dk_at dksX4_fails_0 0 rfl rfl)
theorem dX4_fails_1 : decode cX4_fails 1 = .ok (.iload_n 1, 1) := dk_27 (dk_at dksX4_fails_0 1 rfl rfl)
theorem dX4_fails_2 : decode cX4_fails 2 = .ok (.putfield 52, 3) := dk_181 0 52 (dk_at dksX4_fails_0 2 rfl rfl)
theorem dX4_fails_5 : decode cX4_fails 5 = .ok (.iconst 0, 1) := dk_3 (dk_at dksX4_fails_0 5 rfl rfl)
theorem dX4_fails_6 : decode cX4_fails 6 = .ok (.ireturn, 1) := dk_172 (dk_at dksX4_fails_0 6 rfl rfl)
abbrev cX4_refuse : ByteArray := prog_14_method_9_code
def yX4_refuse : MethodName := ⟨RX4, "refuse", "(III)I"⟩
def dkwX4_refuse_1 : List UInt8 := [3, 79, 42, 180, 0, 22, 6, 3, 79, 3, 172]
abbrev dktX4_refuse_1 : List UInt8 := dkwX4_refuse_1 ++ []
def dkwX4_refuse_0 : List UInt8 := [42, 27, 181, 0, 52, 42, 180, 0, 22, 3, 28, 79, 42, 180, 0, 22, 4, 29, 79, 42, 180, 0, 22, 5]
abbrev dktX4_refuse_0 : List UInt8 := dkwX4_refuse_0 ++ dktX4_refuse_1
theorem dksX4_refuse_0 : cX4_refuse.data.toList.drop 0 = dktX4_refuse_0 := by decide +kernel
theorem dksX4_refuse_1 : cX4_refuse.data.toList.drop 24 = dktX4_refuse_1 := dk_seg dksX4_refuse_0 24 rfl rfl
theorem dX4_refuse_0 : decode cX4_refuse 0 = .ok (.aload_n 0, 1) := dk_42 (dk_at dksX4_refuse_0 0 rfl rfl)
theorem dX4_refuse_1 : decode cX4_refuse 1 = .ok (.iload_n 1, 1) := dk_27 (dk_at dksX4_refuse_0 1 rfl rfl)
theorem dX4_refuse_2 : decode cX4_refuse 2 = .ok (.putfield 52, 3) := dk_181 0 52 (dk_at dksX4_refuse_0 2 rfl rfl)
theorem dX4_refuse_5 : decode cX4_refuse 5 = .ok (.aload_n 0, 1) := dk_42 (dk_at dksX4_refuse_0 5 rfl rfl)
theorem dX4_refuse_6 : decode cX4_refuse 6 = .ok (.getfield 22, 3) := dk_180 0 22 (dk_at dksX4_refuse_0 6 rfl rfl)
theorem dX4_refuse_9 : decode cX4_refuse 9 = .ok (.iconst 0, 1) := dk_3 (dk_at dksX4_refuse_0 9 rfl rfl)
theorem dX4_refuse_10 : decode cX4_refuse 10 = .ok (.iload_n 2, 1) := dk_28 (dk_at dksX4_refuse_0 10 rfl rfl)
theorem dX4_refuse_11 : decode cX4_refuse 11 = .ok (.iastore, 1) := dk_79 (dk_at dksX4_refuse_0 11 rfl rfl)
theorem dX4_refuse_12 : decode cX4_refuse 12 = .ok (.aload_n 0, 1) := dk_42 (dk_at dksX4_refuse_0 12 rfl rfl)
theorem dX4_refuse_13 : decode cX4_refuse 13 = .ok (.getfield 22, 3) := dk_180 0 22 (dk_at dksX4_refuse_0 13 rfl rfl)
theorem dX4_refuse_16 : decode cX4_refuse 16 = .ok (.iconst 1, 1) := dk_4 (dk_at dksX4_refuse_0 16 rfl rfl)
theorem dX4_refuse_17 : decode cX4_refuse 17 = .ok (.iload_n 3, 1) := dk_29 (dk_at dksX4_refuse_0 17 rfl rfl)
theorem dX4_refuse_18 : decode cX4_refuse 18 = .ok (.iastore, 1) := dk_79 (dk_at dksX4_refuse_0 18 rfl rfl)
theorem dX4_refuse_19 : decode cX4_refuse 19 = .ok (.aload_n 0, 1) := dk_42 (dk_at dksX4_refuse_0 19 rfl rfl)
theorem dX4_refuse_20 : decode cX4_refuse 20 = .ok (.getfield 22, 3) := dk_180 0 22 (dk_at dksX4_refuse_0 20 rfl rfl)
theorem dX4_refuse_23 : decode cX4_refuse 23 = .ok (.iconst 2, 1) := dk_5 (dk_at dksX4_refuse_0 23 rfl rfl)
theorem dX4_refuse_24 : decode cX4_refuse 24 = .ok (.iconst 0, 1) := dk_3 (dk_at dksX4_refuse_1 0 rfl rfl)
theorem dX4_refuse_25 : decode cX4_refuse 25 = .ok (.iastore, 1) := dk_79 (dk_at dksX4_refuse_1 1 rfl rfl)
theorem dX4_refuse_26 : decode cX4_refuse 26 = .ok (.aload_n 0, 1) := dk_42 (dk_at dksX4_refuse_1 2 rfl rfl)
theorem dX4_refuse_27 : decode cX4_refuse 27 = .ok (.getfield 22, 3) := dk_180 0 22 (dk_at dksX4_refuse_1 3 rfl rfl)
theorem dX4_refuse_30 : decode cX4_refuse 30 = .ok (.iconst 3, 1) := dk_6 (dk_at dksX4_refuse_1 6 rfl rfl)
theorem dX4_refuse_31 : decode cX4_refuse 31 = .ok (.iconst 0, 1) := dk_3 (dk_at dksX4_refuse_1 7 rfl rfl)
theorem dX4_refuse_32 : decode cX4_refuse 32 = .ok (.iastore, 1) := dk_79 (dk_at dksX4_refuse_1 8 rfl rfl)
theorem dX4_refuse_33 : decode cX4_refuse 33 = .ok (.iconst 0, 1) := dk_3 (dk_at dksX4_refuse_1 9 rfl rfl)
theorem dX4_refuse_34 : decode cX4_refuse 34 = .ok (.ireturn, 1) := dk_172 (dk_at dksX4_refuse_1 10 rfl rfl)
abbrev cX4_ends : ByteArray := prog_14_method_7_code
def yX4_ends : MethodName := ⟨RX4, "ends", "(I)I"⟩
def dkwX4_ends_4 : List UInt8 := [181, 0, 55, 27, 172]
abbrev dktX4_ends_4 : List UInt8 := dkwX4_ends_4 ++ []
def dkwX4_ends_3 : List UInt8 := [180, 0, 19, 17, 1, 19, 42, 180, 0, 55, 104, 17, 1, 19, 184, 0, 58, 42, 89, 180, 0, 55, 4, 96]
abbrev dktX4_ends_3 : List UInt8 := dkwX4_ends_3 ++ dktX4_ends_4
def dkwX4_ends_2 : List UInt8 := [17, 7, 133, 184, 0, 58, 42, 89, 180, 0, 55, 4, 100, 181, 0, 55, 42, 180, 0, 13, 3, 42]
abbrev dktX4_ends_2 : List UInt8 := dkwX4_ends_2 ++ dktX4_ends_3
def dkwX4_ends_1 : List UInt8 := [172, 42, 180, 0, 55, 16, 8, 160, 0, 31, 42, 180, 0, 19, 17, 1, 19, 42, 180, 0, 19, 3]
abbrev dktX4_ends_1 : List UInt8 := dkwX4_ends_1 ++ dktX4_ends_2
def dkwX4_ends_0 : List UInt8 := [42, 180, 0, 52, 158, 0, 21, 42, 180, 0, 13, 3, 42, 180, 0, 9, 3, 17, 1, 19, 184, 0, 58, 3]
abbrev dktX4_ends_0 : List UInt8 := dkwX4_ends_0 ++ dktX4_ends_1
theorem dksX4_ends_0 : cX4_ends.data.toList.drop 0 = dktX4_ends_0 := by decide +kernel
theorem dksX4_ends_1 : cX4_ends.data.toList.drop 24 = dktX4_ends_1 := dk_seg dksX4_ends_0 24 rfl rfl
theorem dksX4_ends_2 : cX4_ends.data.toList.drop 46 = dktX4_ends_2 := dk_seg dksX4_ends_1 22 rfl rfl
theorem dksX4_ends_3 : cX4_ends.data.toList.drop 68 = dktX4_ends_3 := dk_seg dksX4_ends_2 22 rfl rfl
theorem dksX4_ends_4 : cX4_ends.data.toList.drop 92 = dktX4_ends_4 := dk_seg dksX4_ends_3 24 rfl rfl
theorem dX4_ends_0 : decode cX4_ends 0 = .ok (.aload_n 0, 1) := dk_42 (dk_at dksX4_ends_0 0 rfl rfl)
theorem dX4_ends_1 : decode cX4_ends 1 = .ok (.getfield 52, 3) := dk_180 0 52 (dk_at dksX4_ends_0 1 rfl rfl)
theorem dX4_ends_4 : decode cX4_ends 4 = .ok (.ifCond .le 21, 3) := dk_158 0 21 (dk_at dksX4_ends_0 4 rfl rfl)
theorem dX4_ends_7 : decode cX4_ends 7 = .ok (.aload_n 0, 1) := dk_42 (dk_at dksX4_ends_0 7 rfl rfl)
theorem dX4_ends_8 : decode cX4_ends 8 = .ok (.getfield 13, 3) := dk_180 0 13 (dk_at dksX4_ends_0 8 rfl rfl)
theorem dX4_ends_11 : decode cX4_ends 11 = .ok (.iconst 0, 1) := dk_3 (dk_at dksX4_ends_0 11 rfl rfl)
theorem dX4_ends_12 : decode cX4_ends 12 = .ok (.aload_n 0, 1) := dk_42 (dk_at dksX4_ends_0 12 rfl rfl)
theorem dX4_ends_13 : decode cX4_ends 13 = .ok (.getfield 9, 3) := dk_180 0 9 (dk_at dksX4_ends_0 13 rfl rfl)
theorem dX4_ends_16 : decode cX4_ends 16 = .ok (.iconst 0, 1) := dk_3 (dk_at dksX4_ends_0 16 rfl rfl)
theorem dX4_ends_17 : decode cX4_ends 17 = .ok (.sipush 275, 3) := dk_17 1 19 (dk_at dksX4_ends_0 17 rfl rfl)
theorem dX4_ends_20 : decode cX4_ends 20 = .ok (.invokestatic 58, 3) := dk_184 0 58 (dk_at dksX4_ends_0 20 rfl rfl)
theorem dX4_ends_23 : decode cX4_ends 23 = .ok (.iconst 0, 1) := dk_3 (dk_at dksX4_ends_0 23 rfl rfl)
theorem dX4_ends_24 : decode cX4_ends 24 = .ok (.ireturn, 1) := dk_172 (dk_at dksX4_ends_1 0 rfl rfl)
theorem dX4_ends_25 : decode cX4_ends 25 = .ok (.aload_n 0, 1) := dk_42 (dk_at dksX4_ends_1 1 rfl rfl)
theorem dX4_ends_26 : decode cX4_ends 26 = .ok (.getfield 55, 3) := dk_180 0 55 (dk_at dksX4_ends_1 2 rfl rfl)
theorem dX4_ends_29 : decode cX4_ends 29 = .ok (.bipush 8, 2) := dk_16 8 (dk_at dksX4_ends_1 5 rfl rfl)
theorem dX4_ends_31 : decode cX4_ends 31 = .ok (.if_icmp .ne 31, 3) := dk_160 0 31 (dk_at dksX4_ends_1 7 rfl rfl)
theorem dX4_ends_34 : decode cX4_ends 34 = .ok (.aload_n 0, 1) := dk_42 (dk_at dksX4_ends_1 10 rfl rfl)
theorem dX4_ends_35 : decode cX4_ends 35 = .ok (.getfield 19, 3) := dk_180 0 19 (dk_at dksX4_ends_1 11 rfl rfl)
theorem dX4_ends_38 : decode cX4_ends 38 = .ok (.sipush 275, 3) := dk_17 1 19 (dk_at dksX4_ends_1 14 rfl rfl)
theorem dX4_ends_41 : decode cX4_ends 41 = .ok (.aload_n 0, 1) := dk_42 (dk_at dksX4_ends_1 17 rfl rfl)
theorem dX4_ends_42 : decode cX4_ends 42 = .ok (.getfield 19, 3) := dk_180 0 19 (dk_at dksX4_ends_1 18 rfl rfl)
theorem dX4_ends_45 : decode cX4_ends 45 = .ok (.iconst 0, 1) := dk_3 (dk_at dksX4_ends_1 21 rfl rfl)
theorem dX4_ends_46 : decode cX4_ends 46 = .ok (.sipush 1925, 3) := dk_17 7 133 (dk_at dksX4_ends_2 0 rfl rfl)
theorem dX4_ends_49 : decode cX4_ends 49 = .ok (.invokestatic 58, 3) := dk_184 0 58 (dk_at dksX4_ends_2 3 rfl rfl)
theorem dX4_ends_52 : decode cX4_ends 52 = .ok (.aload_n 0, 1) := dk_42 (dk_at dksX4_ends_2 6 rfl rfl)
theorem dX4_ends_53 : decode cX4_ends 53 = .ok (.dup, 1) := dk_89 (dk_at dksX4_ends_2 7 rfl rfl)
theorem dX4_ends_54 : decode cX4_ends 54 = .ok (.getfield 55, 3) := dk_180 0 55 (dk_at dksX4_ends_2 8 rfl rfl)
theorem dX4_ends_57 : decode cX4_ends 57 = .ok (.iconst 1, 1) := dk_4 (dk_at dksX4_ends_2 11 rfl rfl)
theorem dX4_ends_58 : decode cX4_ends 58 = .ok (.isub, 1) := dk_100 (dk_at dksX4_ends_2 12 rfl rfl)
theorem dX4_ends_59 : decode cX4_ends 59 = .ok (.putfield 55, 3) := dk_181 0 55 (dk_at dksX4_ends_2 13 rfl rfl)
theorem dX4_ends_62 : decode cX4_ends 62 = .ok (.aload_n 0, 1) := dk_42 (dk_at dksX4_ends_2 16 rfl rfl)
theorem dX4_ends_63 : decode cX4_ends 63 = .ok (.getfield 13, 3) := dk_180 0 13 (dk_at dksX4_ends_2 17 rfl rfl)
theorem dX4_ends_66 : decode cX4_ends 66 = .ok (.iconst 0, 1) := dk_3 (dk_at dksX4_ends_2 20 rfl rfl)
theorem dX4_ends_67 : decode cX4_ends 67 = .ok (.aload_n 0, 1) := dk_42 (dk_at dksX4_ends_2 21 rfl rfl)
theorem dX4_ends_68 : decode cX4_ends 68 = .ok (.getfield 19, 3) := dk_180 0 19 (dk_at dksX4_ends_3 0 rfl rfl)
theorem dX4_ends_71 : decode cX4_ends 71 = .ok (.sipush 275, 3) := dk_17 1 19 (dk_at dksX4_ends_3 3 rfl rfl)
theorem dX4_ends_74 : decode cX4_ends 74 = .ok (.aload_n 0, 1) := dk_42 (dk_at dksX4_ends_3 6 rfl rfl)
theorem dX4_ends_75 : decode cX4_ends 75 = .ok (.getfield 55, 3) := dk_180 0 55 (dk_at dksX4_ends_3 7 rfl rfl)
theorem dX4_ends_78 : decode cX4_ends 78 = .ok (.imul, 1) := dk_104 (dk_at dksX4_ends_3 10 rfl rfl)
theorem dX4_ends_79 : decode cX4_ends 79 = .ok (.sipush 275, 3) := dk_17 1 19 (dk_at dksX4_ends_3 11 rfl rfl)
theorem dX4_ends_82 : decode cX4_ends 82 = .ok (.invokestatic 58, 3) := dk_184 0 58 (dk_at dksX4_ends_3 14 rfl rfl)
theorem dX4_ends_85 : decode cX4_ends 85 = .ok (.aload_n 0, 1) := dk_42 (dk_at dksX4_ends_3 17 rfl rfl)
theorem dX4_ends_86 : decode cX4_ends 86 = .ok (.dup, 1) := dk_89 (dk_at dksX4_ends_3 18 rfl rfl)
theorem dX4_ends_87 : decode cX4_ends 87 = .ok (.getfield 55, 3) := dk_180 0 55 (dk_at dksX4_ends_3 19 rfl rfl)
theorem dX4_ends_90 : decode cX4_ends 90 = .ok (.iconst 1, 1) := dk_4 (dk_at dksX4_ends_3 22 rfl rfl)
theorem dX4_ends_91 : decode cX4_ends 91 = .ok (.iadd, 1) := dk_96 (dk_at dksX4_ends_3 23 rfl rfl)
theorem dX4_ends_92 : decode cX4_ends 92 = .ok (.putfield 55, 3) := dk_181 0 55 (dk_at dksX4_ends_4 0 rfl rfl)
theorem dX4_ends_95 : decode cX4_ends 95 = .ok (.iload_n 1, 1) := dk_27 (dk_at dksX4_ends_4 3 rfl rfl)
theorem dX4_ends_96 : decode cX4_ends 96 = .ok (.ireturn, 1) := dk_172 (dk_at dksX4_ends_4 4 rfl rfl)
abbrev cX4_hide : ByteArray := prog_14_method_23_code
def yX4_hide : MethodName := ⟨RX4, "hide", "(IIIII)I"⟩
def dkwX4_hide_0 : List UInt8 := [42, 182, 0, 80, 42, 42, 27, 28, 29, 21, 4, 21, 5, 182, 0, 98, 182, 0, 87, 172]
abbrev dktX4_hide_0 : List UInt8 := dkwX4_hide_0 ++ []
theorem dksX4_hide_0 : cX4_hide.data.toList.drop 0 = dktX4_hide_0 := by decide +kernel
theorem dX4_hide_0 : decode cX4_hide 0 = .ok (.aload_n 0, 1) := dk_42 (dk_at dksX4_hide_0 0 rfl rfl)
theorem dX4_hide_1 : decode cX4_hide 1 = .ok (.invokevirtual 80, 3) := dk_182 0 80 (dk_at dksX4_hide_0 1 rfl rfl)
theorem dX4_hide_4 : decode cX4_hide 4 = .ok (.aload_n 0, 1) := dk_42 (dk_at dksX4_hide_0 4 rfl rfl)
theorem dX4_hide_5 : decode cX4_hide 5 = .ok (.aload_n 0, 1) := dk_42 (dk_at dksX4_hide_0 5 rfl rfl)
theorem dX4_hide_6 : decode cX4_hide 6 = .ok (.iload_n 1, 1) := dk_27 (dk_at dksX4_hide_0 6 rfl rfl)
theorem dX4_hide_7 : decode cX4_hide 7 = .ok (.iload_n 2, 1) := dk_28 (dk_at dksX4_hide_0 7 rfl rfl)
theorem dX4_hide_8 : decode cX4_hide 8 = .ok (.iload_n 3, 1) := dk_29 (dk_at dksX4_hide_0 8 rfl rfl)
theorem dX4_hide_9 : decode cX4_hide 9 = .ok (.iload 4, 2) := dk_21 4 (dk_at dksX4_hide_0 9 rfl rfl)
theorem dX4_hide_11 : decode cX4_hide 11 = .ok (.iload 5, 2) := dk_21 5 (dk_at dksX4_hide_0 11 rfl rfl)
theorem dX4_hide_13 : decode cX4_hide 13 = .ok (.invokevirtual 98, 3) := dk_182 0 98 (dk_at dksX4_hide_0 13 rfl rfl)
theorem dX4_hide_16 : decode cX4_hide 16 = .ok (.invokevirtual 87, 3) := dk_182 0 87 (dk_at dksX4_hide_0 16 rfl rfl)
theorem dX4_hide_19 : decode cX4_hide 19 = .ok (.ireturn, 1) := dk_172 (dk_at dksX4_hide_0 19 rfl rfl)
abbrev cX4_doHide : ByteArray := prog_14_method_22_code
def yX4_doHide : MethodName := ⟨RX4, "doHide", "(IIIII)I"⟩
def dkwX4_doHide_6 : List UInt8 := [96, 172]
abbrev dktX4_doHide_6 : List UInt8 := dkwX4_doHide_6 ++ []
def dkwX4_doHide_5 : List UInt8 := [21, 7, 6, 96, 21, 5, 79, 42, 180, 0, 9, 27, 3, 184, 0, 94, 92, 46, 4, 96, 79, 21, 6, 4]
abbrev dktX4_doHide_5 : List UInt8 := dkwX4_doHide_5 ++ dktX4_doHide_6
def dkwX4_doHide_4 : List UInt8 := [180, 0, 9, 21, 7, 4, 96, 29, 79, 42, 180, 0, 9, 21, 7, 5, 96, 21, 4, 79, 42, 180, 0, 9]
abbrev dktX4_doHide_4 : List UInt8 := dkwX4_doHide_4 ++ dktX4_doHide_5
def dkwX4_doHide_3 : List UInt8 := [172, 27, 5, 7, 21, 6, 104, 96, 184, 0, 94, 54, 7, 42, 180, 0, 9, 21, 7, 28, 79, 42]
abbrev dktX4_doHide_3 : List UInt8 := dkwX4_doHide_3 ++ dktX4_doHide_4
def dkwX4_doHide_2 : List UInt8 := [180, 0, 9, 27, 3, 184, 0, 94, 46, 54, 6, 21, 6, 7, 160, 0, 11, 42, 6, 4, 7, 182, 0, 76]
abbrev dktX4_doHide_2 : List UInt8 := dkwX4_doHide_2 ++ dktX4_doHide_3
def dkwX4_doHide_1 : List UInt8 := [16, 60, 163, 0, 13, 21, 4, 21, 5, 184, 0, 68, 154, 0, 9, 42, 5, 182, 0, 72, 172, 42]
abbrev dktX4_doHide_1 : List UInt8 := dkwX4_doHide_1 ++ dktX4_doHide_2
def dkwX4_doHide_0 : List UInt8 := [27, 184, 0, 90, 154, 0, 9, 42, 4, 182, 0, 72, 172, 28, 4, 29, 184, 0, 64, 153, 0, 19, 29]
abbrev dktX4_doHide_0 : List UInt8 := dkwX4_doHide_0 ++ dktX4_doHide_1
theorem dksX4_doHide_0 : cX4_doHide.data.toList.drop 0 = dktX4_doHide_0 := by decide +kernel
theorem dksX4_doHide_1 : cX4_doHide.data.toList.drop 23 = dktX4_doHide_1 := dk_seg dksX4_doHide_0 23 rfl rfl
theorem dksX4_doHide_2 : cX4_doHide.data.toList.drop 45 = dktX4_doHide_2 := dk_seg dksX4_doHide_1 22 rfl rfl
theorem dksX4_doHide_3 : cX4_doHide.data.toList.drop 69 = dktX4_doHide_3 := dk_seg dksX4_doHide_2 24 rfl rfl
theorem dksX4_doHide_4 : cX4_doHide.data.toList.drop 91 = dktX4_doHide_4 := dk_seg dksX4_doHide_3 22 rfl rfl
theorem dksX4_doHide_5 : cX4_doHide.data.toList.drop 115 = dktX4_doHide_5 := dk_seg dksX4_doHide_4 24 rfl rfl
theorem dksX4_doHide_6 : cX4_doHide.data.toList.drop 139 = dktX4_doHide_6 := dk_seg dksX4_doHide_5 24 rfl rfl
theorem dX4_doHide_0 : decode cX4_doHide 0 = .ok (.iload_n 1, 1) := dk_27 (dk_at dksX4_doHide_0 0 rfl rfl)
theorem dX4_doHide_1 : decode cX4_doHide 1 = .ok (.invokestatic 90, 3) := dk_184 0 90 (dk_at dksX4_doHide_0 1 rfl rfl)
theorem dX4_doHide_4 : decode cX4_doHide 4 = .ok (.ifCond .ne 9, 3) := dk_154 0 9 (dk_at dksX4_doHide_0 4 rfl rfl)
theorem dX4_doHide_7 : decode cX4_doHide 7 = .ok (.aload_n 0, 1) := dk_42 (dk_at dksX4_doHide_0 7 rfl rfl)
theorem dX4_doHide_8 : decode cX4_doHide 8 = .ok (.iconst 1, 1) := dk_4 (dk_at dksX4_doHide_0 8 rfl rfl)
theorem dX4_doHide_9 : decode cX4_doHide 9 = .ok (.invokevirtual 72, 3) := dk_182 0 72 (dk_at dksX4_doHide_0 9 rfl rfl)
theorem dX4_doHide_12 : decode cX4_doHide 12 = .ok (.ireturn, 1) := dk_172 (dk_at dksX4_doHide_0 12 rfl rfl)
theorem dX4_doHide_13 : decode cX4_doHide 13 = .ok (.iload_n 2, 1) := dk_28 (dk_at dksX4_doHide_0 13 rfl rfl)
theorem dX4_doHide_14 : decode cX4_doHide 14 = .ok (.iconst 1, 1) := dk_4 (dk_at dksX4_doHide_0 14 rfl rfl)
theorem dX4_doHide_15 : decode cX4_doHide 15 = .ok (.iload_n 3, 1) := dk_29 (dk_at dksX4_doHide_0 15 rfl rfl)
theorem dX4_doHide_16 : decode cX4_doHide 16 = .ok (.invokestatic 64, 3) := dk_184 0 64 (dk_at dksX4_doHide_0 16 rfl rfl)
theorem dX4_doHide_19 : decode cX4_doHide 19 = .ok (.ifCond .eq 19, 3) := dk_153 0 19 (dk_at dksX4_doHide_0 19 rfl rfl)
theorem dX4_doHide_22 : decode cX4_doHide 22 = .ok (.iload_n 3, 1) := dk_29 (dk_at dksX4_doHide_0 22 rfl rfl)
theorem dX4_doHide_23 : decode cX4_doHide 23 = .ok (.bipush 60, 2) := dk_16 60 (dk_at dksX4_doHide_1 0 rfl rfl)
theorem dX4_doHide_25 : decode cX4_doHide 25 = .ok (.if_icmp .gt 13, 3) := dk_163 0 13 (dk_at dksX4_doHide_1 2 rfl rfl)
theorem dX4_doHide_28 : decode cX4_doHide 28 = .ok (.iload 4, 2) := dk_21 4 (dk_at dksX4_doHide_1 5 rfl rfl)
theorem dX4_doHide_30 : decode cX4_doHide 30 = .ok (.iload 5, 2) := dk_21 5 (dk_at dksX4_doHide_1 7 rfl rfl)
theorem dX4_doHide_32 : decode cX4_doHide 32 = .ok (.invokestatic 68, 3) := dk_184 0 68 (dk_at dksX4_doHide_1 9 rfl rfl)
theorem dX4_doHide_35 : decode cX4_doHide 35 = .ok (.ifCond .ne 9, 3) := dk_154 0 9 (dk_at dksX4_doHide_1 12 rfl rfl)
theorem dX4_doHide_38 : decode cX4_doHide 38 = .ok (.aload_n 0, 1) := dk_42 (dk_at dksX4_doHide_1 15 rfl rfl)
theorem dX4_doHide_39 : decode cX4_doHide 39 = .ok (.iconst 2, 1) := dk_5 (dk_at dksX4_doHide_1 16 rfl rfl)
theorem dX4_doHide_40 : decode cX4_doHide 40 = .ok (.invokevirtual 72, 3) := dk_182 0 72 (dk_at dksX4_doHide_1 17 rfl rfl)
theorem dX4_doHide_43 : decode cX4_doHide 43 = .ok (.ireturn, 1) := dk_172 (dk_at dksX4_doHide_1 20 rfl rfl)
theorem dX4_doHide_44 : decode cX4_doHide 44 = .ok (.aload_n 0, 1) := dk_42 (dk_at dksX4_doHide_1 21 rfl rfl)
theorem dX4_doHide_45 : decode cX4_doHide 45 = .ok (.getfield 9, 3) := dk_180 0 9 (dk_at dksX4_doHide_2 0 rfl rfl)
theorem dX4_doHide_48 : decode cX4_doHide 48 = .ok (.iload_n 1, 1) := dk_27 (dk_at dksX4_doHide_2 3 rfl rfl)
theorem dX4_doHide_49 : decode cX4_doHide 49 = .ok (.iconst 0, 1) := dk_3 (dk_at dksX4_doHide_2 4 rfl rfl)
theorem dX4_doHide_50 : decode cX4_doHide 50 = .ok (.invokestatic 94, 3) := dk_184 0 94 (dk_at dksX4_doHide_2 5 rfl rfl)
theorem dX4_doHide_53 : decode cX4_doHide 53 = .ok (.iaload, 1) := dk_46 (dk_at dksX4_doHide_2 8 rfl rfl)
theorem dX4_doHide_54 : decode cX4_doHide 54 = .ok (.istore 6, 2) := dk_54 6 (dk_at dksX4_doHide_2 9 rfl rfl)
theorem dX4_doHide_56 : decode cX4_doHide 56 = .ok (.iload 6, 2) := dk_21 6 (dk_at dksX4_doHide_2 11 rfl rfl)
theorem dX4_doHide_58 : decode cX4_doHide 58 = .ok (.iconst 4, 1) := dk_7 (dk_at dksX4_doHide_2 13 rfl rfl)
theorem dX4_doHide_59 : decode cX4_doHide 59 = .ok (.if_icmp .ne 11, 3) := dk_160 0 11 (dk_at dksX4_doHide_2 14 rfl rfl)
theorem dX4_doHide_62 : decode cX4_doHide 62 = .ok (.aload_n 0, 1) := dk_42 (dk_at dksX4_doHide_2 17 rfl rfl)
theorem dX4_doHide_63 : decode cX4_doHide 63 = .ok (.iconst 3, 1) := dk_6 (dk_at dksX4_doHide_2 18 rfl rfl)
theorem dX4_doHide_64 : decode cX4_doHide 64 = .ok (.iconst 1, 1) := dk_4 (dk_at dksX4_doHide_2 19 rfl rfl)
theorem dX4_doHide_65 : decode cX4_doHide 65 = .ok (.iconst 4, 1) := dk_7 (dk_at dksX4_doHide_2 20 rfl rfl)
theorem dX4_doHide_66 : decode cX4_doHide 66 = .ok (.invokevirtual 76, 3) := dk_182 0 76 (dk_at dksX4_doHide_2 21 rfl rfl)
theorem dX4_doHide_69 : decode cX4_doHide 69 = .ok (.ireturn, 1) := dk_172 (dk_at dksX4_doHide_3 0 rfl rfl)
theorem dX4_doHide_70 : decode cX4_doHide 70 = .ok (.iload_n 1, 1) := dk_27 (dk_at dksX4_doHide_3 1 rfl rfl)
theorem dX4_doHide_71 : decode cX4_doHide 71 = .ok (.iconst 2, 1) := dk_5 (dk_at dksX4_doHide_3 2 rfl rfl)
theorem dX4_doHide_72 : decode cX4_doHide 72 = .ok (.iconst 4, 1) := dk_7 (dk_at dksX4_doHide_3 3 rfl rfl)
theorem dX4_doHide_73 : decode cX4_doHide 73 = .ok (.iload 6, 2) := dk_21 6 (dk_at dksX4_doHide_3 4 rfl rfl)
theorem dX4_doHide_75 : decode cX4_doHide 75 = .ok (.imul, 1) := dk_104 (dk_at dksX4_doHide_3 6 rfl rfl)
theorem dX4_doHide_76 : decode cX4_doHide 76 = .ok (.iadd, 1) := dk_96 (dk_at dksX4_doHide_3 7 rfl rfl)
theorem dX4_doHide_77 : decode cX4_doHide 77 = .ok (.invokestatic 94, 3) := dk_184 0 94 (dk_at dksX4_doHide_3 8 rfl rfl)
theorem dX4_doHide_80 : decode cX4_doHide 80 = .ok (.istore 7, 2) := dk_54 7 (dk_at dksX4_doHide_3 11 rfl rfl)
theorem dX4_doHide_82 : decode cX4_doHide 82 = .ok (.aload_n 0, 1) := dk_42 (dk_at dksX4_doHide_3 13 rfl rfl)
theorem dX4_doHide_83 : decode cX4_doHide 83 = .ok (.getfield 9, 3) := dk_180 0 9 (dk_at dksX4_doHide_3 14 rfl rfl)
theorem dX4_doHide_86 : decode cX4_doHide 86 = .ok (.iload 7, 2) := dk_21 7 (dk_at dksX4_doHide_3 17 rfl rfl)
theorem dX4_doHide_88 : decode cX4_doHide 88 = .ok (.iload_n 2, 1) := dk_28 (dk_at dksX4_doHide_3 19 rfl rfl)
theorem dX4_doHide_89 : decode cX4_doHide 89 = .ok (.iastore, 1) := dk_79 (dk_at dksX4_doHide_3 20 rfl rfl)
theorem dX4_doHide_90 : decode cX4_doHide 90 = .ok (.aload_n 0, 1) := dk_42 (dk_at dksX4_doHide_3 21 rfl rfl)
theorem dX4_doHide_91 : decode cX4_doHide 91 = .ok (.getfield 9, 3) := dk_180 0 9 (dk_at dksX4_doHide_4 0 rfl rfl)
theorem dX4_doHide_94 : decode cX4_doHide 94 = .ok (.iload 7, 2) := dk_21 7 (dk_at dksX4_doHide_4 3 rfl rfl)
theorem dX4_doHide_96 : decode cX4_doHide 96 = .ok (.iconst 1, 1) := dk_4 (dk_at dksX4_doHide_4 5 rfl rfl)
theorem dX4_doHide_97 : decode cX4_doHide 97 = .ok (.iadd, 1) := dk_96 (dk_at dksX4_doHide_4 6 rfl rfl)
theorem dX4_doHide_98 : decode cX4_doHide 98 = .ok (.iload_n 3, 1) := dk_29 (dk_at dksX4_doHide_4 7 rfl rfl)
theorem dX4_doHide_99 : decode cX4_doHide 99 = .ok (.iastore, 1) := dk_79 (dk_at dksX4_doHide_4 8 rfl rfl)
theorem dX4_doHide_100 : decode cX4_doHide 100 = .ok (.aload_n 0, 1) := dk_42 (dk_at dksX4_doHide_4 9 rfl rfl)
theorem dX4_doHide_101 : decode cX4_doHide 101 = .ok (.getfield 9, 3) := dk_180 0 9 (dk_at dksX4_doHide_4 10 rfl rfl)
theorem dX4_doHide_104 : decode cX4_doHide 104 = .ok (.iload 7, 2) := dk_21 7 (dk_at dksX4_doHide_4 13 rfl rfl)
theorem dX4_doHide_106 : decode cX4_doHide 106 = .ok (.iconst 2, 1) := dk_5 (dk_at dksX4_doHide_4 15 rfl rfl)
theorem dX4_doHide_107 : decode cX4_doHide 107 = .ok (.iadd, 1) := dk_96 (dk_at dksX4_doHide_4 16 rfl rfl)
theorem dX4_doHide_108 : decode cX4_doHide 108 = .ok (.iload 4, 2) := dk_21 4 (dk_at dksX4_doHide_4 17 rfl rfl)
theorem dX4_doHide_110 : decode cX4_doHide 110 = .ok (.iastore, 1) := dk_79 (dk_at dksX4_doHide_4 19 rfl rfl)
theorem dX4_doHide_111 : decode cX4_doHide 111 = .ok (.aload_n 0, 1) := dk_42 (dk_at dksX4_doHide_4 20 rfl rfl)
theorem dX4_doHide_112 : decode cX4_doHide 112 = .ok (.getfield 9, 3) := dk_180 0 9 (dk_at dksX4_doHide_4 21 rfl rfl)
theorem dX4_doHide_115 : decode cX4_doHide 115 = .ok (.iload 7, 2) := dk_21 7 (dk_at dksX4_doHide_5 0 rfl rfl)
theorem dX4_doHide_117 : decode cX4_doHide 117 = .ok (.iconst 3, 1) := dk_6 (dk_at dksX4_doHide_5 2 rfl rfl)
theorem dX4_doHide_118 : decode cX4_doHide 118 = .ok (.iadd, 1) := dk_96 (dk_at dksX4_doHide_5 3 rfl rfl)
theorem dX4_doHide_119 : decode cX4_doHide 119 = .ok (.iload 5, 2) := dk_21 5 (dk_at dksX4_doHide_5 4 rfl rfl)
theorem dX4_doHide_121 : decode cX4_doHide 121 = .ok (.iastore, 1) := dk_79 (dk_at dksX4_doHide_5 6 rfl rfl)
theorem dX4_doHide_122 : decode cX4_doHide 122 = .ok (.aload_n 0, 1) := dk_42 (dk_at dksX4_doHide_5 7 rfl rfl)
theorem dX4_doHide_123 : decode cX4_doHide 123 = .ok (.getfield 9, 3) := dk_180 0 9 (dk_at dksX4_doHide_5 8 rfl rfl)
theorem dX4_doHide_126 : decode cX4_doHide 126 = .ok (.iload_n 1, 1) := dk_27 (dk_at dksX4_doHide_5 11 rfl rfl)
theorem dX4_doHide_127 : decode cX4_doHide 127 = .ok (.iconst 0, 1) := dk_3 (dk_at dksX4_doHide_5 12 rfl rfl)
theorem dX4_doHide_128 : decode cX4_doHide 128 = .ok (.invokestatic 94, 3) := dk_184 0 94 (dk_at dksX4_doHide_5 13 rfl rfl)
theorem dX4_doHide_131 : decode cX4_doHide 131 = .ok (.dup2, 1) := dk_92 (dk_at dksX4_doHide_5 16 rfl rfl)
theorem dX4_doHide_132 : decode cX4_doHide 132 = .ok (.iaload, 1) := dk_46 (dk_at dksX4_doHide_5 17 rfl rfl)
theorem dX4_doHide_133 : decode cX4_doHide 133 = .ok (.iconst 1, 1) := dk_4 (dk_at dksX4_doHide_5 18 rfl rfl)
theorem dX4_doHide_134 : decode cX4_doHide 134 = .ok (.iadd, 1) := dk_96 (dk_at dksX4_doHide_5 19 rfl rfl)
theorem dX4_doHide_135 : decode cX4_doHide 135 = .ok (.iastore, 1) := dk_79 (dk_at dksX4_doHide_5 20 rfl rfl)
theorem dX4_doHide_136 : decode cX4_doHide 136 = .ok (.iload 6, 2) := dk_21 6 (dk_at dksX4_doHide_5 21 rfl rfl)
theorem dX4_doHide_138 : decode cX4_doHide 138 = .ok (.iconst 1, 1) := dk_4 (dk_at dksX4_doHide_5 23 rfl rfl)
theorem dX4_doHide_139 : decode cX4_doHide 139 = .ok (.iadd, 1) := dk_96 (dk_at dksX4_doHide_6 0 rfl rfl)
theorem dX4_doHide_140 : decode cX4_doHide 140 = .ok (.ireturn, 1) := dk_172 (dk_at dksX4_doHide_6 1 rfl rfl)
abbrev cX4_isAttic : ByteArray := prog_14_method_14_code
def yX4_isAttic : MethodName := ⟨RX4, "isAttic", "(I)Z"⟩
def dkwX4_isAttic_0 : List UInt8 := [26, 3, 6, 184, 0, 64, 172]
abbrev dktX4_isAttic_0 : List UInt8 := dkwX4_isAttic_0 ++ []
theorem dksX4_isAttic_0 : cX4_isAttic.data.toList.drop 0 = dktX4_isAttic_0 := by decide +kernel
theorem dX4_isAttic_0 : decode cX4_isAttic 0 = .ok (.iload_n 0, 1) := dk_26 (dk_at dksX4_isAttic_0 0 rfl rfl)
theorem dX4_isAttic_1 : decode cX4_isAttic 1 = .ok (.iconst 0, 1) := dk_3 (dk_at dksX4_isAttic_0 1 rfl rfl)
theorem dX4_isAttic_2 : decode cX4_isAttic 2 = .ok (.iconst 3, 1) := dk_6 (dk_at dksX4_isAttic_0 2 rfl rfl)
theorem dX4_isAttic_3 : decode cX4_isAttic 3 = .ok (.invokestatic 64, 3) := dk_184 0 64 (dk_at dksX4_isAttic_0 3 rfl rfl)
theorem dX4_isAttic_6 : decode cX4_isAttic 6 = .ok (.ireturn, 1) := dk_172 (dk_at dksX4_isAttic_0 6 rfl rfl)
abbrev cX4_atAttic : ByteArray := prog_14_method_18_code
def yX4_atAttic : MethodName := ⟨RX4, "atAttic", "(II)I"⟩
def dkwX4_atAttic_0 : List UInt8 := [16, 24, 16, 18, 26, 104, 96, 27, 96, 172]
abbrev dktX4_atAttic_0 : List UInt8 := dkwX4_atAttic_0 ++ []
theorem dksX4_atAttic_0 : cX4_atAttic.data.toList.drop 0 = dktX4_atAttic_0 := by decide +kernel
theorem dX4_atAttic_0 : decode cX4_atAttic 0 = .ok (.bipush 24, 2) := dk_16 24 (dk_at dksX4_atAttic_0 0 rfl rfl)
theorem dX4_atAttic_2 : decode cX4_atAttic 2 = .ok (.bipush 18, 2) := dk_16 18 (dk_at dksX4_atAttic_0 2 rfl rfl)
theorem dX4_atAttic_4 : decode cX4_atAttic 4 = .ok (.iload_n 0, 1) := dk_26 (dk_at dksX4_atAttic_0 4 rfl rfl)
theorem dX4_atAttic_5 : decode cX4_atAttic 5 = .ok (.imul, 1) := dk_104 (dk_at dksX4_atAttic_0 5 rfl rfl)
theorem dX4_atAttic_6 : decode cX4_atAttic 6 = .ok (.iadd, 1) := dk_96 (dk_at dksX4_atAttic_0 6 rfl rfl)
theorem dX4_atAttic_7 : decode cX4_atAttic 7 = .ok (.iload_n 1, 1) := dk_27 (dk_at dksX4_atAttic_0 7 rfl rfl)
theorem dX4_atAttic_8 : decode cX4_atAttic 8 = .ok (.iadd, 1) := dk_96 (dk_at dksX4_atAttic_0 8 rfl rfl)
theorem dX4_atAttic_9 : decode cX4_atAttic 9 = .ok (.ireturn, 1) := dk_172 (dk_at dksX4_atAttic_0 9 rfl rfl)
abbrev cX4_find : ByteArray := prog_14_method_26_code
def yX4_find : MethodName := ⟨RX4, "find", "(I)I"⟩
def dkwX4_find_0 : List UInt8 := [42, 182, 0, 80, 42, 42, 27, 182, 0, 108, 182, 0, 87, 172]
abbrev dktX4_find_0 : List UInt8 := dkwX4_find_0 ++ []
theorem dksX4_find_0 : cX4_find.data.toList.drop 0 = dktX4_find_0 := by decide +kernel
theorem dX4_find_0 : decode cX4_find 0 = .ok (.aload_n 0, 1) := dk_42 (dk_at dksX4_find_0 0 rfl rfl)
theorem dX4_find_1 : decode cX4_find 1 = .ok (.invokevirtual 80, 3) := dk_182 0 80 (dk_at dksX4_find_0 1 rfl rfl)
theorem dX4_find_4 : decode cX4_find 4 = .ok (.aload_n 0, 1) := dk_42 (dk_at dksX4_find_0 4 rfl rfl)
theorem dX4_find_5 : decode cX4_find 5 = .ok (.aload_n 0, 1) := dk_42 (dk_at dksX4_find_0 5 rfl rfl)
theorem dX4_find_6 : decode cX4_find 6 = .ok (.iload_n 1, 1) := dk_27 (dk_at dksX4_find_0 6 rfl rfl)
theorem dX4_find_7 : decode cX4_find 7 = .ok (.invokevirtual 108, 3) := dk_182 0 108 (dk_at dksX4_find_0 7 rfl rfl)
theorem dX4_find_10 : decode cX4_find 10 = .ok (.invokevirtual 87, 3) := dk_182 0 87 (dk_at dksX4_find_0 10 rfl rfl)
theorem dX4_find_13 : decode cX4_find 13 = .ok (.ireturn, 1) := dk_172 (dk_at dksX4_find_0 13 rfl rfl)
abbrev cX4_doFind : ByteArray := prog_14_method_25_code
def yX4_doFind : MethodName := ⟨RX4, "doFind", "(I)I"⟩
def dkwX4_doFind_5 : List UInt8 := [46, 4, 96, 79, 42, 180, 0, 9, 7, 92, 46, 4, 96, 79, 28, 172]
abbrev dktX4_doFind_5 : List UInt8 := dkwX4_doFind_5 ++ []
def dkwX4_doFind_4 : List UInt8 := [46, 4, 100, 79, 42, 180, 0, 9, 27, 4, 184, 0, 94, 92, 46, 4, 96, 79, 42, 180, 0, 9, 4, 92]
abbrev dktX4_doFind_4 : List UInt8 := dkwX4_doFind_4 ++ dktX4_doFind_5
def dkwX4_doFind_3 : List UInt8 := [42, 180, 0, 9, 27, 5, 184, 0, 94, 16, 12, 184, 0, 58, 42, 180, 0, 9, 27, 3, 184, 0, 94, 92]
abbrev dktX4_doFind_3 : List UInt8 := dkwX4_doFind_3 ++ dktX4_doFind_4
def dkwX4_doFind_2 : List UInt8 := [5, 4, 16, 12, 182, 0, 76, 172, 42, 27, 28, 182, 0, 104, 42, 180, 0, 9, 27, 16, 6, 184, 0, 94]
abbrev dktX4_doFind_2 : List UInt8 := dkwX4_doFind_2 ++ dktX4_doFind_3
def dkwX4_doFind_1 : List UInt8 := [27, 3, 184, 0, 94, 46, 154, 0, 11, 42, 5, 5, 28, 182, 0, 76, 172, 28, 16, 12, 160, 0, 12, 42]
abbrev dktX4_doFind_1 : List UInt8 := dkwX4_doFind_1 ++ dktX4_doFind_2
def dkwX4_doFind_0 : List UInt8 := [42, 180, 0, 9, 4, 46, 61, 27, 184, 0, 90, 154, 0, 9, 42, 4, 182, 0, 72, 172, 42, 180, 0, 9]
abbrev dktX4_doFind_0 : List UInt8 := dkwX4_doFind_0 ++ dktX4_doFind_1
theorem dksX4_doFind_0 : cX4_doFind.data.toList.drop 0 = dktX4_doFind_0 := by decide +kernel
theorem dksX4_doFind_1 : cX4_doFind.data.toList.drop 24 = dktX4_doFind_1 := dk_seg dksX4_doFind_0 24 rfl rfl
theorem dksX4_doFind_2 : cX4_doFind.data.toList.drop 48 = dktX4_doFind_2 := dk_seg dksX4_doFind_1 24 rfl rfl
theorem dksX4_doFind_3 : cX4_doFind.data.toList.drop 72 = dktX4_doFind_3 := dk_seg dksX4_doFind_2 24 rfl rfl
theorem dksX4_doFind_4 : cX4_doFind.data.toList.drop 96 = dktX4_doFind_4 := dk_seg dksX4_doFind_3 24 rfl rfl
theorem dksX4_doFind_5 : cX4_doFind.data.toList.drop 120 = dktX4_doFind_5 := dk_seg dksX4_doFind_4 24 rfl rfl
theorem dX4_doFind_0 : decode cX4_doFind 0 = .ok (.aload_n 0, 1) := dk_42 (dk_at dksX4_doFind_0 0 rfl rfl)
theorem dX4_doFind_1 : decode cX4_doFind 1 = .ok (.getfield 9, 3) := dk_180 0 9 (dk_at dksX4_doFind_0 1 rfl rfl)
theorem dX4_doFind_4 : decode cX4_doFind 4 = .ok (.iconst 1, 1) := dk_4 (dk_at dksX4_doFind_0 4 rfl rfl)
theorem dX4_doFind_5 : decode cX4_doFind 5 = .ok (.iaload, 1) := dk_46 (dk_at dksX4_doFind_0 5 rfl rfl)
theorem dX4_doFind_6 : decode cX4_doFind 6 = .ok (.istore_n 2, 1) := dk_61 (dk_at dksX4_doFind_0 6 rfl rfl)
theorem dX4_doFind_7 : decode cX4_doFind 7 = .ok (.iload_n 1, 1) := dk_27 (dk_at dksX4_doFind_0 7 rfl rfl)
theorem dX4_doFind_8 : decode cX4_doFind 8 = .ok (.invokestatic 90, 3) := dk_184 0 90 (dk_at dksX4_doFind_0 8 rfl rfl)
theorem dX4_doFind_11 : decode cX4_doFind 11 = .ok (.ifCond .ne 9, 3) := dk_154 0 9 (dk_at dksX4_doFind_0 11 rfl rfl)
theorem dX4_doFind_14 : decode cX4_doFind 14 = .ok (.aload_n 0, 1) := dk_42 (dk_at dksX4_doFind_0 14 rfl rfl)
theorem dX4_doFind_15 : decode cX4_doFind 15 = .ok (.iconst 1, 1) := dk_4 (dk_at dksX4_doFind_0 15 rfl rfl)
theorem dX4_doFind_16 : decode cX4_doFind 16 = .ok (.invokevirtual 72, 3) := dk_182 0 72 (dk_at dksX4_doFind_0 16 rfl rfl)
theorem dX4_doFind_19 : decode cX4_doFind 19 = .ok (.ireturn, 1) := dk_172 (dk_at dksX4_doFind_0 19 rfl rfl)
theorem dX4_doFind_20 : decode cX4_doFind 20 = .ok (.aload_n 0, 1) := dk_42 (dk_at dksX4_doFind_0 20 rfl rfl)
theorem dX4_doFind_21 : decode cX4_doFind 21 = .ok (.getfield 9, 3) := dk_180 0 9 (dk_at dksX4_doFind_0 21 rfl rfl)
theorem dX4_doFind_24 : decode cX4_doFind 24 = .ok (.iload_n 1, 1) := dk_27 (dk_at dksX4_doFind_1 0 rfl rfl)
theorem dX4_doFind_25 : decode cX4_doFind 25 = .ok (.iconst 0, 1) := dk_3 (dk_at dksX4_doFind_1 1 rfl rfl)
theorem dX4_doFind_26 : decode cX4_doFind 26 = .ok (.invokestatic 94, 3) := dk_184 0 94 (dk_at dksX4_doFind_1 2 rfl rfl)
theorem dX4_doFind_29 : decode cX4_doFind 29 = .ok (.iaload, 1) := dk_46 (dk_at dksX4_doFind_1 5 rfl rfl)
theorem dX4_doFind_30 : decode cX4_doFind 30 = .ok (.ifCond .ne 11, 3) := dk_154 0 11 (dk_at dksX4_doFind_1 6 rfl rfl)
theorem dX4_doFind_33 : decode cX4_doFind 33 = .ok (.aload_n 0, 1) := dk_42 (dk_at dksX4_doFind_1 9 rfl rfl)
theorem dX4_doFind_34 : decode cX4_doFind 34 = .ok (.iconst 2, 1) := dk_5 (dk_at dksX4_doFind_1 10 rfl rfl)
theorem dX4_doFind_35 : decode cX4_doFind 35 = .ok (.iconst 2, 1) := dk_5 (dk_at dksX4_doFind_1 11 rfl rfl)
theorem dX4_doFind_36 : decode cX4_doFind 36 = .ok (.iload_n 2, 1) := dk_28 (dk_at dksX4_doFind_1 12 rfl rfl)
theorem dX4_doFind_37 : decode cX4_doFind 37 = .ok (.invokevirtual 76, 3) := dk_182 0 76 (dk_at dksX4_doFind_1 13 rfl rfl)
theorem dX4_doFind_40 : decode cX4_doFind 40 = .ok (.ireturn, 1) := dk_172 (dk_at dksX4_doFind_1 16 rfl rfl)
theorem dX4_doFind_41 : decode cX4_doFind 41 = .ok (.iload_n 2, 1) := dk_28 (dk_at dksX4_doFind_1 17 rfl rfl)
theorem dX4_doFind_42 : decode cX4_doFind 42 = .ok (.bipush 12, 2) := dk_16 12 (dk_at dksX4_doFind_1 18 rfl rfl)
theorem dX4_doFind_44 : decode cX4_doFind 44 = .ok (.if_icmp .ne 12, 3) := dk_160 0 12 (dk_at dksX4_doFind_1 20 rfl rfl)
theorem dX4_doFind_47 : decode cX4_doFind 47 = .ok (.aload_n 0, 1) := dk_42 (dk_at dksX4_doFind_1 23 rfl rfl)
theorem dX4_doFind_48 : decode cX4_doFind 48 = .ok (.iconst 2, 1) := dk_5 (dk_at dksX4_doFind_2 0 rfl rfl)
theorem dX4_doFind_49 : decode cX4_doFind 49 = .ok (.iconst 1, 1) := dk_4 (dk_at dksX4_doFind_2 1 rfl rfl)
theorem dX4_doFind_50 : decode cX4_doFind 50 = .ok (.bipush 12, 2) := dk_16 12 (dk_at dksX4_doFind_2 2 rfl rfl)
theorem dX4_doFind_52 : decode cX4_doFind 52 = .ok (.invokevirtual 76, 3) := dk_182 0 76 (dk_at dksX4_doFind_2 4 rfl rfl)
theorem dX4_doFind_55 : decode cX4_doFind 55 = .ok (.ireturn, 1) := dk_172 (dk_at dksX4_doFind_2 7 rfl rfl)
theorem dX4_doFind_56 : decode cX4_doFind 56 = .ok (.aload_n 0, 1) := dk_42 (dk_at dksX4_doFind_2 8 rfl rfl)
theorem dX4_doFind_57 : decode cX4_doFind 57 = .ok (.iload_n 1, 1) := dk_27 (dk_at dksX4_doFind_2 9 rfl rfl)
theorem dX4_doFind_58 : decode cX4_doFind 58 = .ok (.iload_n 2, 1) := dk_28 (dk_at dksX4_doFind_2 10 rfl rfl)
theorem dX4_doFind_59 : decode cX4_doFind 59 = .ok (.invokevirtual 104, 3) := dk_182 0 104 (dk_at dksX4_doFind_2 11 rfl rfl)
theorem dX4_doFind_62 : decode cX4_doFind 62 = .ok (.aload_n 0, 1) := dk_42 (dk_at dksX4_doFind_2 14 rfl rfl)
theorem dX4_doFind_63 : decode cX4_doFind 63 = .ok (.getfield 9, 3) := dk_180 0 9 (dk_at dksX4_doFind_2 15 rfl rfl)
theorem dX4_doFind_66 : decode cX4_doFind 66 = .ok (.iload_n 1, 1) := dk_27 (dk_at dksX4_doFind_2 18 rfl rfl)
theorem dX4_doFind_67 : decode cX4_doFind 67 = .ok (.bipush 6, 2) := dk_16 6 (dk_at dksX4_doFind_2 19 rfl rfl)
theorem dX4_doFind_69 : decode cX4_doFind 69 = .ok (.invokestatic 94, 3) := dk_184 0 94 (dk_at dksX4_doFind_2 21 rfl rfl)
theorem dX4_doFind_72 : decode cX4_doFind 72 = .ok (.aload_n 0, 1) := dk_42 (dk_at dksX4_doFind_3 0 rfl rfl)
theorem dX4_doFind_73 : decode cX4_doFind 73 = .ok (.getfield 9, 3) := dk_180 0 9 (dk_at dksX4_doFind_3 1 rfl rfl)
theorem dX4_doFind_76 : decode cX4_doFind 76 = .ok (.iload_n 1, 1) := dk_27 (dk_at dksX4_doFind_3 4 rfl rfl)
theorem dX4_doFind_77 : decode cX4_doFind 77 = .ok (.iconst 2, 1) := dk_5 (dk_at dksX4_doFind_3 5 rfl rfl)
theorem dX4_doFind_78 : decode cX4_doFind 78 = .ok (.invokestatic 94, 3) := dk_184 0 94 (dk_at dksX4_doFind_3 6 rfl rfl)
theorem dX4_doFind_81 : decode cX4_doFind 81 = .ok (.bipush 12, 2) := dk_16 12 (dk_at dksX4_doFind_3 9 rfl rfl)
theorem dX4_doFind_83 : decode cX4_doFind 83 = .ok (.invokestatic 58, 3) := dk_184 0 58 (dk_at dksX4_doFind_3 11 rfl rfl)
theorem dX4_doFind_86 : decode cX4_doFind 86 = .ok (.aload_n 0, 1) := dk_42 (dk_at dksX4_doFind_3 14 rfl rfl)
theorem dX4_doFind_87 : decode cX4_doFind 87 = .ok (.getfield 9, 3) := dk_180 0 9 (dk_at dksX4_doFind_3 15 rfl rfl)
theorem dX4_doFind_90 : decode cX4_doFind 90 = .ok (.iload_n 1, 1) := dk_27 (dk_at dksX4_doFind_3 18 rfl rfl)
theorem dX4_doFind_91 : decode cX4_doFind 91 = .ok (.iconst 0, 1) := dk_3 (dk_at dksX4_doFind_3 19 rfl rfl)
theorem dX4_doFind_92 : decode cX4_doFind 92 = .ok (.invokestatic 94, 3) := dk_184 0 94 (dk_at dksX4_doFind_3 20 rfl rfl)
theorem dX4_doFind_95 : decode cX4_doFind 95 = .ok (.dup2, 1) := dk_92 (dk_at dksX4_doFind_3 23 rfl rfl)
theorem dX4_doFind_96 : decode cX4_doFind 96 = .ok (.iaload, 1) := dk_46 (dk_at dksX4_doFind_4 0 rfl rfl)
theorem dX4_doFind_97 : decode cX4_doFind 97 = .ok (.iconst 1, 1) := dk_4 (dk_at dksX4_doFind_4 1 rfl rfl)
theorem dX4_doFind_98 : decode cX4_doFind 98 = .ok (.isub, 1) := dk_100 (dk_at dksX4_doFind_4 2 rfl rfl)
theorem dX4_doFind_99 : decode cX4_doFind 99 = .ok (.iastore, 1) := dk_79 (dk_at dksX4_doFind_4 3 rfl rfl)
theorem dX4_doFind_100 : decode cX4_doFind 100 = .ok (.aload_n 0, 1) := dk_42 (dk_at dksX4_doFind_4 4 rfl rfl)
theorem dX4_doFind_101 : decode cX4_doFind 101 = .ok (.getfield 9, 3) := dk_180 0 9 (dk_at dksX4_doFind_4 5 rfl rfl)
theorem dX4_doFind_104 : decode cX4_doFind 104 = .ok (.iload_n 1, 1) := dk_27 (dk_at dksX4_doFind_4 8 rfl rfl)
theorem dX4_doFind_105 : decode cX4_doFind 105 = .ok (.iconst 1, 1) := dk_4 (dk_at dksX4_doFind_4 9 rfl rfl)
theorem dX4_doFind_106 : decode cX4_doFind 106 = .ok (.invokestatic 94, 3) := dk_184 0 94 (dk_at dksX4_doFind_4 10 rfl rfl)
theorem dX4_doFind_109 : decode cX4_doFind 109 = .ok (.dup2, 1) := dk_92 (dk_at dksX4_doFind_4 13 rfl rfl)
theorem dX4_doFind_110 : decode cX4_doFind 110 = .ok (.iaload, 1) := dk_46 (dk_at dksX4_doFind_4 14 rfl rfl)
theorem dX4_doFind_111 : decode cX4_doFind 111 = .ok (.iconst 1, 1) := dk_4 (dk_at dksX4_doFind_4 15 rfl rfl)
theorem dX4_doFind_112 : decode cX4_doFind 112 = .ok (.iadd, 1) := dk_96 (dk_at dksX4_doFind_4 16 rfl rfl)
theorem dX4_doFind_113 : decode cX4_doFind 113 = .ok (.iastore, 1) := dk_79 (dk_at dksX4_doFind_4 17 rfl rfl)
theorem dX4_doFind_114 : decode cX4_doFind 114 = .ok (.aload_n 0, 1) := dk_42 (dk_at dksX4_doFind_4 18 rfl rfl)
theorem dX4_doFind_115 : decode cX4_doFind 115 = .ok (.getfield 9, 3) := dk_180 0 9 (dk_at dksX4_doFind_4 19 rfl rfl)
theorem dX4_doFind_118 : decode cX4_doFind 118 = .ok (.iconst 1, 1) := dk_4 (dk_at dksX4_doFind_4 22 rfl rfl)
theorem dX4_doFind_119 : decode cX4_doFind 119 = .ok (.dup2, 1) := dk_92 (dk_at dksX4_doFind_4 23 rfl rfl)
theorem dX4_doFind_120 : decode cX4_doFind 120 = .ok (.iaload, 1) := dk_46 (dk_at dksX4_doFind_5 0 rfl rfl)
theorem dX4_doFind_121 : decode cX4_doFind 121 = .ok (.iconst 1, 1) := dk_4 (dk_at dksX4_doFind_5 1 rfl rfl)
theorem dX4_doFind_122 : decode cX4_doFind 122 = .ok (.iadd, 1) := dk_96 (dk_at dksX4_doFind_5 2 rfl rfl)
theorem dX4_doFind_123 : decode cX4_doFind 123 = .ok (.iastore, 1) := dk_79 (dk_at dksX4_doFind_5 3 rfl rfl)
theorem dX4_doFind_124 : decode cX4_doFind 124 = .ok (.aload_n 0, 1) := dk_42 (dk_at dksX4_doFind_5 4 rfl rfl)
theorem dX4_doFind_125 : decode cX4_doFind 125 = .ok (.getfield 9, 3) := dk_180 0 9 (dk_at dksX4_doFind_5 5 rfl rfl)
theorem dX4_doFind_128 : decode cX4_doFind 128 = .ok (.iconst 4, 1) := dk_7 (dk_at dksX4_doFind_5 8 rfl rfl)
theorem dX4_doFind_129 : decode cX4_doFind 129 = .ok (.dup2, 1) := dk_92 (dk_at dksX4_doFind_5 9 rfl rfl)
theorem dX4_doFind_130 : decode cX4_doFind 130 = .ok (.iaload, 1) := dk_46 (dk_at dksX4_doFind_5 10 rfl rfl)
theorem dX4_doFind_131 : decode cX4_doFind 131 = .ok (.iconst 1, 1) := dk_4 (dk_at dksX4_doFind_5 11 rfl rfl)
theorem dX4_doFind_132 : decode cX4_doFind 132 = .ok (.iadd, 1) := dk_96 (dk_at dksX4_doFind_5 12 rfl rfl)
theorem dX4_doFind_133 : decode cX4_doFind 133 = .ok (.iastore, 1) := dk_79 (dk_at dksX4_doFind_5 13 rfl rfl)
theorem dX4_doFind_134 : decode cX4_doFind 134 = .ok (.iload_n 2, 1) := dk_28 (dk_at dksX4_doFind_5 14 rfl rfl)
theorem dX4_doFind_135 : decode cX4_doFind 135 = .ok (.ireturn, 1) := dk_172 (dk_at dksX4_doFind_5 15 rfl rfl)
abbrev cX4_lays : ByteArray := prog_14_method_24_code
def yX4_lays : MethodName := ⟨RX4, "lays", "(II)V"⟩
def dkwX4_lays_3 : List UInt8 := [177]
abbrev dktX4_lays_3 : List UInt8 := dkwX4_lays_3 ++ []
def dkwX4_lays_2 : List UInt8 := [8, 162, 0, 23, 42, 180, 0, 9, 28, 16, 6, 29, 96, 184, 0, 101, 2, 79, 132, 3, 1, 167, 255, 234]
abbrev dktX4_lays_2 : List UInt8 := dkwX4_lays_2 ++ dktX4_lays_3
def dkwX4_lays_1 : List UInt8 := [180, 0, 9, 28, 7, 184, 0, 101, 27, 79, 42, 180, 0, 9, 28, 8, 184, 0, 101, 2, 79, 3, 62, 29]
abbrev dktX4_lays_1 : List UInt8 := dkwX4_lays_1 ++ dktX4_lays_2
def dkwX4_lays_0 : List UInt8 := [42, 180, 0, 9, 27, 5, 184, 0, 94, 42, 180, 0, 9, 28, 3, 184, 0, 101, 7, 184, 0, 58, 42]
abbrev dktX4_lays_0 : List UInt8 := dkwX4_lays_0 ++ dktX4_lays_1
theorem dksX4_lays_0 : cX4_lays.data.toList.drop 0 = dktX4_lays_0 := by decide +kernel
theorem dksX4_lays_1 : cX4_lays.data.toList.drop 23 = dktX4_lays_1 := dk_seg dksX4_lays_0 23 rfl rfl
theorem dksX4_lays_2 : cX4_lays.data.toList.drop 47 = dktX4_lays_2 := dk_seg dksX4_lays_1 24 rfl rfl
theorem dksX4_lays_3 : cX4_lays.data.toList.drop 71 = dktX4_lays_3 := dk_seg dksX4_lays_2 24 rfl rfl
theorem dX4_lays_0 : decode cX4_lays 0 = .ok (.aload_n 0, 1) := dk_42 (dk_at dksX4_lays_0 0 rfl rfl)
theorem dX4_lays_1 : decode cX4_lays 1 = .ok (.getfield 9, 3) := dk_180 0 9 (dk_at dksX4_lays_0 1 rfl rfl)
theorem dX4_lays_4 : decode cX4_lays 4 = .ok (.iload_n 1, 1) := dk_27 (dk_at dksX4_lays_0 4 rfl rfl)
theorem dX4_lays_5 : decode cX4_lays 5 = .ok (.iconst 2, 1) := dk_5 (dk_at dksX4_lays_0 5 rfl rfl)
theorem dX4_lays_6 : decode cX4_lays 6 = .ok (.invokestatic 94, 3) := dk_184 0 94 (dk_at dksX4_lays_0 6 rfl rfl)
theorem dX4_lays_9 : decode cX4_lays 9 = .ok (.aload_n 0, 1) := dk_42 (dk_at dksX4_lays_0 9 rfl rfl)
theorem dX4_lays_10 : decode cX4_lays 10 = .ok (.getfield 9, 3) := dk_180 0 9 (dk_at dksX4_lays_0 10 rfl rfl)
theorem dX4_lays_13 : decode cX4_lays 13 = .ok (.iload_n 2, 1) := dk_28 (dk_at dksX4_lays_0 13 rfl rfl)
theorem dX4_lays_14 : decode cX4_lays 14 = .ok (.iconst 0, 1) := dk_3 (dk_at dksX4_lays_0 14 rfl rfl)
theorem dX4_lays_15 : decode cX4_lays 15 = .ok (.invokestatic 101, 3) := dk_184 0 101 (dk_at dksX4_lays_0 15 rfl rfl)
theorem dX4_lays_18 : decode cX4_lays 18 = .ok (.iconst 4, 1) := dk_7 (dk_at dksX4_lays_0 18 rfl rfl)
theorem dX4_lays_19 : decode cX4_lays 19 = .ok (.invokestatic 58, 3) := dk_184 0 58 (dk_at dksX4_lays_0 19 rfl rfl)
theorem dX4_lays_22 : decode cX4_lays 22 = .ok (.aload_n 0, 1) := dk_42 (dk_at dksX4_lays_0 22 rfl rfl)
theorem dX4_lays_23 : decode cX4_lays 23 = .ok (.getfield 9, 3) := dk_180 0 9 (dk_at dksX4_lays_1 0 rfl rfl)
theorem dX4_lays_26 : decode cX4_lays 26 = .ok (.iload_n 2, 1) := dk_28 (dk_at dksX4_lays_1 3 rfl rfl)
theorem dX4_lays_27 : decode cX4_lays 27 = .ok (.iconst 4, 1) := dk_7 (dk_at dksX4_lays_1 4 rfl rfl)
theorem dX4_lays_28 : decode cX4_lays 28 = .ok (.invokestatic 101, 3) := dk_184 0 101 (dk_at dksX4_lays_1 5 rfl rfl)
theorem dX4_lays_31 : decode cX4_lays 31 = .ok (.iload_n 1, 1) := dk_27 (dk_at dksX4_lays_1 8 rfl rfl)
theorem dX4_lays_32 : decode cX4_lays 32 = .ok (.iastore, 1) := dk_79 (dk_at dksX4_lays_1 9 rfl rfl)
theorem dX4_lays_33 : decode cX4_lays 33 = .ok (.aload_n 0, 1) := dk_42 (dk_at dksX4_lays_1 10 rfl rfl)
theorem dX4_lays_34 : decode cX4_lays 34 = .ok (.getfield 9, 3) := dk_180 0 9 (dk_at dksX4_lays_1 11 rfl rfl)
theorem dX4_lays_37 : decode cX4_lays 37 = .ok (.iload_n 2, 1) := dk_28 (dk_at dksX4_lays_1 14 rfl rfl)
theorem dX4_lays_38 : decode cX4_lays 38 = .ok (.iconst 5, 1) := dk_8 (dk_at dksX4_lays_1 15 rfl rfl)
theorem dX4_lays_39 : decode cX4_lays 39 = .ok (.invokestatic 101, 3) := dk_184 0 101 (dk_at dksX4_lays_1 16 rfl rfl)
theorem dX4_lays_42 : decode cX4_lays 42 = .ok (.iconst (-1), 1) := dk_2 (dk_at dksX4_lays_1 19 rfl rfl)
theorem dX4_lays_43 : decode cX4_lays 43 = .ok (.iastore, 1) := dk_79 (dk_at dksX4_lays_1 20 rfl rfl)
theorem dX4_lays_44 : decode cX4_lays 44 = .ok (.iconst 0, 1) := dk_3 (dk_at dksX4_lays_1 21 rfl rfl)
theorem dX4_lays_45 : decode cX4_lays 45 = .ok (.istore_n 3, 1) := dk_62 (dk_at dksX4_lays_1 22 rfl rfl)
theorem dX4_lays_46 : decode cX4_lays 46 = .ok (.iload_n 3, 1) := dk_29 (dk_at dksX4_lays_1 23 rfl rfl)
theorem dX4_lays_47 : decode cX4_lays 47 = .ok (.iconst 5, 1) := dk_8 (dk_at dksX4_lays_2 0 rfl rfl)
theorem dX4_lays_48 : decode cX4_lays 48 = .ok (.if_icmp .ge 23, 3) := dk_162 0 23 (dk_at dksX4_lays_2 1 rfl rfl)
theorem dX4_lays_51 : decode cX4_lays 51 = .ok (.aload_n 0, 1) := dk_42 (dk_at dksX4_lays_2 4 rfl rfl)
theorem dX4_lays_52 : decode cX4_lays 52 = .ok (.getfield 9, 3) := dk_180 0 9 (dk_at dksX4_lays_2 5 rfl rfl)
theorem dX4_lays_55 : decode cX4_lays 55 = .ok (.iload_n 2, 1) := dk_28 (dk_at dksX4_lays_2 8 rfl rfl)
theorem dX4_lays_56 : decode cX4_lays 56 = .ok (.bipush 6, 2) := dk_16 6 (dk_at dksX4_lays_2 9 rfl rfl)
theorem dX4_lays_58 : decode cX4_lays 58 = .ok (.iload_n 3, 1) := dk_29 (dk_at dksX4_lays_2 11 rfl rfl)
theorem dX4_lays_59 : decode cX4_lays 59 = .ok (.iadd, 1) := dk_96 (dk_at dksX4_lays_2 12 rfl rfl)
theorem dX4_lays_60 : decode cX4_lays 60 = .ok (.invokestatic 101, 3) := dk_184 0 101 (dk_at dksX4_lays_2 13 rfl rfl)
theorem dX4_lays_63 : decode cX4_lays 63 = .ok (.iconst (-1), 1) := dk_2 (dk_at dksX4_lays_2 16 rfl rfl)
theorem dX4_lays_64 : decode cX4_lays 64 = .ok (.iastore, 1) := dk_79 (dk_at dksX4_lays_2 17 rfl rfl)
theorem dX4_lays_65 : decode cX4_lays 65 = .ok (.iinc 3 1, 3) := dk_132 3 1 (dk_at dksX4_lays_2 18 rfl rfl)
theorem dX4_lays_68 : decode cX4_lays 68 = .ok (.goto (-22), 3) := dk_167 255 234 (dk_at dksX4_lays_2 21 rfl rfl)
theorem dX4_lays_71 : decode cX4_lays 71 = .ok (.return_, 1) := dk_177 (dk_at dksX4_lays_3 0 rfl rfl)
abbrev cX4_at : ByteArray := prog_14_method_17_code
def yX4_at : MethodName := ⟨RX4, "at", "(II)I"⟩
def dkwX4_at_0 : List UInt8 := [17, 0, 132, 16, 11, 26, 104, 96, 27, 96, 172]
abbrev dktX4_at_0 : List UInt8 := dkwX4_at_0 ++ []
theorem dksX4_at_0 : cX4_at.data.toList.drop 0 = dktX4_at_0 := by decide +kernel
theorem dX4_at_0 : decode cX4_at 0 = .ok (.sipush 132, 3) := dk_17 0 132 (dk_at dksX4_at_0 0 rfl rfl)
theorem dX4_at_3 : decode cX4_at 3 = .ok (.bipush 11, 2) := dk_16 11 (dk_at dksX4_at_0 3 rfl rfl)
theorem dX4_at_5 : decode cX4_at 5 = .ok (.iload_n 0, 1) := dk_26 (dk_at dksX4_at_0 5 rfl rfl)
theorem dX4_at_6 : decode cX4_at 6 = .ok (.imul, 1) := dk_104 (dk_at dksX4_at_0 6 rfl rfl)
theorem dX4_at_7 : decode cX4_at 7 = .ok (.iadd, 1) := dk_96 (dk_at dksX4_at_0 7 rfl rfl)
theorem dX4_at_8 : decode cX4_at 8 = .ok (.iload_n 1, 1) := dk_27 (dk_at dksX4_at_0 8 rfl rfl)
theorem dX4_at_9 : decode cX4_at 9 = .ok (.iadd, 1) := dk_96 (dk_at dksX4_at_0 9 rfl rfl)
theorem dX4_at_10 : decode cX4_at 10 = .ok (.ireturn, 1) := dk_172 (dk_at dksX4_at_0 10 rfl rfl)
abbrev cX4_drop : ByteArray := prog_14_method_29_code
def yX4_drop : MethodName := ⟨RX4, "drop", "(I)I"⟩
def dkwX4_drop_0 : List UInt8 := [42, 182, 0, 80, 42, 42, 27, 182, 0, 118, 182, 0, 87, 172]
abbrev dktX4_drop_0 : List UInt8 := dkwX4_drop_0 ++ []
theorem dksX4_drop_0 : cX4_drop.data.toList.drop 0 = dktX4_drop_0 := by decide +kernel
theorem dX4_drop_0 : decode cX4_drop 0 = .ok (.aload_n 0, 1) := dk_42 (dk_at dksX4_drop_0 0 rfl rfl)
theorem dX4_drop_1 : decode cX4_drop 1 = .ok (.invokevirtual 80, 3) := dk_182 0 80 (dk_at dksX4_drop_0 1 rfl rfl)
theorem dX4_drop_4 : decode cX4_drop 4 = .ok (.aload_n 0, 1) := dk_42 (dk_at dksX4_drop_0 4 rfl rfl)
theorem dX4_drop_5 : decode cX4_drop 5 = .ok (.aload_n 0, 1) := dk_42 (dk_at dksX4_drop_0 5 rfl rfl)
theorem dX4_drop_6 : decode cX4_drop 6 = .ok (.iload_n 1, 1) := dk_27 (dk_at dksX4_drop_0 6 rfl rfl)
theorem dX4_drop_7 : decode cX4_drop 7 = .ok (.invokevirtual 118, 3) := dk_182 0 118 (dk_at dksX4_drop_0 7 rfl rfl)
theorem dX4_drop_10 : decode cX4_drop 10 = .ok (.invokevirtual 87, 3) := dk_182 0 87 (dk_at dksX4_drop_0 10 rfl rfl)
theorem dX4_drop_13 : decode cX4_drop 13 = .ok (.ireturn, 1) := dk_172 (dk_at dksX4_drop_0 13 rfl rfl)
abbrev cX4_doDrop : ByteArray := prog_14_method_28_code
def yX4_doDrop : MethodName := ⟨RX4, "doDrop", "(I)I"⟩
def dkwX4_doDrop_1 : List UInt8 := [92, 46, 4, 96, 79, 42, 180, 0, 9, 4, 46, 172]
abbrev dktX4_doDrop_1 : List UInt8 := dkwX4_doDrop_1 ++ []
def dkwX4_doDrop_0 : List UInt8 := [42, 27, 182, 0, 111, 154, 0, 9, 42, 4, 182, 0, 72, 172, 42, 27, 182, 0, 114, 42, 180, 0, 9, 8]
abbrev dktX4_doDrop_0 : List UInt8 := dkwX4_doDrop_0 ++ dktX4_doDrop_1
theorem dksX4_doDrop_0 : cX4_doDrop.data.toList.drop 0 = dktX4_doDrop_0 := by decide +kernel
theorem dksX4_doDrop_1 : cX4_doDrop.data.toList.drop 24 = dktX4_doDrop_1 := dk_seg dksX4_doDrop_0 24 rfl rfl
theorem dX4_doDrop_0 : decode cX4_doDrop 0 = .ok (.aload_n 0, 1) := dk_42 (dk_at dksX4_doDrop_0 0 rfl rfl)
theorem dX4_doDrop_1 : decode cX4_doDrop 1 = .ok (.iload_n 1, 1) := dk_27 (dk_at dksX4_doDrop_0 1 rfl rfl)
theorem dX4_doDrop_2 : decode cX4_doDrop 2 = .ok (.invokevirtual 111, 3) := dk_182 0 111 (dk_at dksX4_doDrop_0 2 rfl rfl)
theorem dX4_doDrop_5 : decode cX4_doDrop 5 = .ok (.ifCond .ne 9, 3) := dk_154 0 9 (dk_at dksX4_doDrop_0 5 rfl rfl)
theorem dX4_doDrop_8 : decode cX4_doDrop 8 = .ok (.aload_n 0, 1) := dk_42 (dk_at dksX4_doDrop_0 8 rfl rfl)
theorem dX4_doDrop_9 : decode cX4_doDrop 9 = .ok (.iconst 1, 1) := dk_4 (dk_at dksX4_doDrop_0 9 rfl rfl)
theorem dX4_doDrop_10 : decode cX4_doDrop 10 = .ok (.invokevirtual 72, 3) := dk_182 0 72 (dk_at dksX4_doDrop_0 10 rfl rfl)
theorem dX4_doDrop_13 : decode cX4_doDrop 13 = .ok (.ireturn, 1) := dk_172 (dk_at dksX4_doDrop_0 13 rfl rfl)
theorem dX4_doDrop_14 : decode cX4_doDrop 14 = .ok (.aload_n 0, 1) := dk_42 (dk_at dksX4_doDrop_0 14 rfl rfl)
theorem dX4_doDrop_15 : decode cX4_doDrop 15 = .ok (.iload_n 1, 1) := dk_27 (dk_at dksX4_doDrop_0 15 rfl rfl)
theorem dX4_doDrop_16 : decode cX4_doDrop 16 = .ok (.invokevirtual 114, 3) := dk_182 0 114 (dk_at dksX4_doDrop_0 16 rfl rfl)
theorem dX4_doDrop_19 : decode cX4_doDrop 19 = .ok (.aload_n 0, 1) := dk_42 (dk_at dksX4_doDrop_0 19 rfl rfl)
theorem dX4_doDrop_20 : decode cX4_doDrop 20 = .ok (.getfield 9, 3) := dk_180 0 9 (dk_at dksX4_doDrop_0 20 rfl rfl)
theorem dX4_doDrop_23 : decode cX4_doDrop 23 = .ok (.iconst 5, 1) := dk_8 (dk_at dksX4_doDrop_0 23 rfl rfl)
theorem dX4_doDrop_24 : decode cX4_doDrop 24 = .ok (.dup2, 1) := dk_92 (dk_at dksX4_doDrop_1 0 rfl rfl)
theorem dX4_doDrop_25 : decode cX4_doDrop 25 = .ok (.iaload, 1) := dk_46 (dk_at dksX4_doDrop_1 1 rfl rfl)
theorem dX4_doDrop_26 : decode cX4_doDrop 26 = .ok (.iconst 1, 1) := dk_4 (dk_at dksX4_doDrop_1 2 rfl rfl)
theorem dX4_doDrop_27 : decode cX4_doDrop 27 = .ok (.iadd, 1) := dk_96 (dk_at dksX4_doDrop_1 3 rfl rfl)
theorem dX4_doDrop_28 : decode cX4_doDrop 28 = .ok (.iastore, 1) := dk_79 (dk_at dksX4_doDrop_1 4 rfl rfl)
theorem dX4_doDrop_29 : decode cX4_doDrop 29 = .ok (.aload_n 0, 1) := dk_42 (dk_at dksX4_doDrop_1 5 rfl rfl)
theorem dX4_doDrop_30 : decode cX4_doDrop 30 = .ok (.getfield 9, 3) := dk_180 0 9 (dk_at dksX4_doDrop_1 6 rfl rfl)
theorem dX4_doDrop_33 : decode cX4_doDrop 33 = .ok (.iconst 1, 1) := dk_4 (dk_at dksX4_doDrop_1 9 rfl rfl)
theorem dX4_doDrop_34 : decode cX4_doDrop 34 = .ok (.iaload, 1) := dk_46 (dk_at dksX4_doDrop_1 10 rfl rfl)
theorem dX4_doDrop_35 : decode cX4_doDrop 35 = .ok (.ireturn, 1) := dk_172 (dk_at dksX4_doDrop_1 11 rfl rfl)
abbrev cX4_isScrap : ByteArray := prog_14_method_13_code
def yX4_isScrap : MethodName := ⟨RX4, "isScrap", "(I)Z"⟩
def dkwX4_isScrap_0 : List UInt8 := [27, 3, 42, 180, 0, 9, 4, 46, 4, 100, 184, 0, 64, 172]
abbrev dktX4_isScrap_0 : List UInt8 := dkwX4_isScrap_0 ++ []
theorem dksX4_isScrap_0 : cX4_isScrap.data.toList.drop 0 = dktX4_isScrap_0 := by decide +kernel
theorem dX4_isScrap_0 : decode cX4_isScrap 0 = .ok (.iload_n 1, 1) := dk_27 (dk_at dksX4_isScrap_0 0 rfl rfl)
theorem dX4_isScrap_1 : decode cX4_isScrap 1 = .ok (.iconst 0, 1) := dk_3 (dk_at dksX4_isScrap_0 1 rfl rfl)
theorem dX4_isScrap_2 : decode cX4_isScrap 2 = .ok (.aload_n 0, 1) := dk_42 (dk_at dksX4_isScrap_0 2 rfl rfl)
theorem dX4_isScrap_3 : decode cX4_isScrap 3 = .ok (.getfield 9, 3) := dk_180 0 9 (dk_at dksX4_isScrap_0 3 rfl rfl)
theorem dX4_isScrap_6 : decode cX4_isScrap 6 = .ok (.iconst 1, 1) := dk_4 (dk_at dksX4_isScrap_0 6 rfl rfl)
theorem dX4_isScrap_7 : decode cX4_isScrap 7 = .ok (.iaload, 1) := dk_46 (dk_at dksX4_isScrap_0 7 rfl rfl)
theorem dX4_isScrap_8 : decode cX4_isScrap 8 = .ok (.iconst 1, 1) := dk_4 (dk_at dksX4_isScrap_0 8 rfl rfl)
theorem dX4_isScrap_9 : decode cX4_isScrap 9 = .ok (.isub, 1) := dk_100 (dk_at dksX4_isScrap_0 9 rfl rfl)
theorem dX4_isScrap_10 : decode cX4_isScrap 10 = .ok (.invokestatic 64, 3) := dk_184 0 64 (dk_at dksX4_isScrap_0 10 rfl rfl)
theorem dX4_isScrap_13 : decode cX4_isScrap 13 = .ok (.ireturn, 1) := dk_172 (dk_at dksX4_isScrap_0 13 rfl rfl)
abbrev cX4_goes : ByteArray := prog_14_method_27_code
def yX4_goes : MethodName := ⟨RX4, "goes", "(I)V"⟩
def dkwX4_goes_1 : List UInt8 := [27, 3, 184, 0, 101, 16, 11, 28, 27, 100, 104, 184, 0, 58, 42, 180, 0, 9, 4, 28, 79, 177]
abbrev dktX4_goes_1 : List UInt8 := dkwX4_goes_1 ++ []
def dkwX4_goes_0 : List UInt8 := [42, 180, 0, 9, 4, 46, 4, 100, 61, 42, 180, 0, 9, 27, 4, 96, 3, 184, 0, 101, 42, 180, 0, 9]
abbrev dktX4_goes_0 : List UInt8 := dkwX4_goes_0 ++ dktX4_goes_1
theorem dksX4_goes_0 : cX4_goes.data.toList.drop 0 = dktX4_goes_0 := by decide +kernel
theorem dksX4_goes_1 : cX4_goes.data.toList.drop 24 = dktX4_goes_1 := dk_seg dksX4_goes_0 24 rfl rfl
theorem dX4_goes_0 : decode cX4_goes 0 = .ok (.aload_n 0, 1) := dk_42 (dk_at dksX4_goes_0 0 rfl rfl)
theorem dX4_goes_1 : decode cX4_goes 1 = .ok (.getfield 9, 3) := dk_180 0 9 (dk_at dksX4_goes_0 1 rfl rfl)
theorem dX4_goes_4 : decode cX4_goes 4 = .ok (.iconst 1, 1) := dk_4 (dk_at dksX4_goes_0 4 rfl rfl)
theorem dX4_goes_5 : decode cX4_goes 5 = .ok (.iaload, 1) := dk_46 (dk_at dksX4_goes_0 5 rfl rfl)
theorem dX4_goes_6 : decode cX4_goes 6 = .ok (.iconst 1, 1) := dk_4 (dk_at dksX4_goes_0 6 rfl rfl)
theorem dX4_goes_7 : decode cX4_goes 7 = .ok (.isub, 1) := dk_100 (dk_at dksX4_goes_0 7 rfl rfl)
theorem dX4_goes_8 : decode cX4_goes 8 = .ok (.istore_n 2, 1) := dk_61 (dk_at dksX4_goes_0 8 rfl rfl)
theorem dX4_goes_9 : decode cX4_goes 9 = .ok (.aload_n 0, 1) := dk_42 (dk_at dksX4_goes_0 9 rfl rfl)
theorem dX4_goes_10 : decode cX4_goes 10 = .ok (.getfield 9, 3) := dk_180 0 9 (dk_at dksX4_goes_0 10 rfl rfl)
theorem dX4_goes_13 : decode cX4_goes 13 = .ok (.iload_n 1, 1) := dk_27 (dk_at dksX4_goes_0 13 rfl rfl)
theorem dX4_goes_14 : decode cX4_goes 14 = .ok (.iconst 1, 1) := dk_4 (dk_at dksX4_goes_0 14 rfl rfl)
theorem dX4_goes_15 : decode cX4_goes 15 = .ok (.iadd, 1) := dk_96 (dk_at dksX4_goes_0 15 rfl rfl)
theorem dX4_goes_16 : decode cX4_goes 16 = .ok (.iconst 0, 1) := dk_3 (dk_at dksX4_goes_0 16 rfl rfl)
theorem dX4_goes_17 : decode cX4_goes 17 = .ok (.invokestatic 101, 3) := dk_184 0 101 (dk_at dksX4_goes_0 17 rfl rfl)
theorem dX4_goes_20 : decode cX4_goes 20 = .ok (.aload_n 0, 1) := dk_42 (dk_at dksX4_goes_0 20 rfl rfl)
theorem dX4_goes_21 : decode cX4_goes 21 = .ok (.getfield 9, 3) := dk_180 0 9 (dk_at dksX4_goes_0 21 rfl rfl)
theorem dX4_goes_24 : decode cX4_goes 24 = .ok (.iload_n 1, 1) := dk_27 (dk_at dksX4_goes_1 0 rfl rfl)
theorem dX4_goes_25 : decode cX4_goes 25 = .ok (.iconst 0, 1) := dk_3 (dk_at dksX4_goes_1 1 rfl rfl)
theorem dX4_goes_26 : decode cX4_goes 26 = .ok (.invokestatic 101, 3) := dk_184 0 101 (dk_at dksX4_goes_1 2 rfl rfl)
theorem dX4_goes_29 : decode cX4_goes 29 = .ok (.bipush 11, 2) := dk_16 11 (dk_at dksX4_goes_1 5 rfl rfl)
theorem dX4_goes_31 : decode cX4_goes 31 = .ok (.iload_n 2, 1) := dk_28 (dk_at dksX4_goes_1 7 rfl rfl)
theorem dX4_goes_32 : decode cX4_goes 32 = .ok (.iload_n 1, 1) := dk_27 (dk_at dksX4_goes_1 8 rfl rfl)
theorem dX4_goes_33 : decode cX4_goes 33 = .ok (.isub, 1) := dk_100 (dk_at dksX4_goes_1 9 rfl rfl)
theorem dX4_goes_34 : decode cX4_goes 34 = .ok (.imul, 1) := dk_104 (dk_at dksX4_goes_1 10 rfl rfl)
theorem dX4_goes_35 : decode cX4_goes 35 = .ok (.invokestatic 58, 3) := dk_184 0 58 (dk_at dksX4_goes_1 11 rfl rfl)
theorem dX4_goes_38 : decode cX4_goes 38 = .ok (.aload_n 0, 1) := dk_42 (dk_at dksX4_goes_1 14 rfl rfl)
theorem dX4_goes_39 : decode cX4_goes 39 = .ok (.getfield 9, 3) := dk_180 0 9 (dk_at dksX4_goes_1 15 rfl rfl)
theorem dX4_goes_42 : decode cX4_goes 42 = .ok (.iconst 1, 1) := dk_4 (dk_at dksX4_goes_1 18 rfl rfl)
theorem dX4_goes_43 : decode cX4_goes 43 = .ok (.iload_n 2, 1) := dk_28 (dk_at dksX4_goes_1 19 rfl rfl)
theorem dX4_goes_44 : decode cX4_goes 44 = .ok (.iastore, 1) := dk_79 (dk_at dksX4_goes_1 20 rfl rfl)
theorem dX4_goes_45 : decode cX4_goes 45 = .ok (.return_, 1) := dk_177 (dk_at dksX4_goes_1 21 rfl rfl)
abbrev cX4_swear : ByteArray := prog_14_method_33_code
def yX4_swear : MethodName := ⟨RX4, "swear", "(IIZ)I"⟩
def dkwX4_swear_0 : List UInt8 := [42, 182, 0, 80, 42, 42, 27, 28, 29, 182, 0, 130, 182, 0, 87, 172]
abbrev dktX4_swear_0 : List UInt8 := dkwX4_swear_0 ++ []
theorem dksX4_swear_0 : cX4_swear.data.toList.drop 0 = dktX4_swear_0 := by decide +kernel
theorem dX4_swear_0 : decode cX4_swear 0 = .ok (.aload_n 0, 1) := dk_42 (dk_at dksX4_swear_0 0 rfl rfl)
theorem dX4_swear_1 : decode cX4_swear 1 = .ok (.invokevirtual 80, 3) := dk_182 0 80 (dk_at dksX4_swear_0 1 rfl rfl)
theorem dX4_swear_4 : decode cX4_swear 4 = .ok (.aload_n 0, 1) := dk_42 (dk_at dksX4_swear_0 4 rfl rfl)
theorem dX4_swear_5 : decode cX4_swear 5 = .ok (.aload_n 0, 1) := dk_42 (dk_at dksX4_swear_0 5 rfl rfl)
theorem dX4_swear_6 : decode cX4_swear 6 = .ok (.iload_n 1, 1) := dk_27 (dk_at dksX4_swear_0 6 rfl rfl)
theorem dX4_swear_7 : decode cX4_swear 7 = .ok (.iload_n 2, 1) := dk_28 (dk_at dksX4_swear_0 7 rfl rfl)
theorem dX4_swear_8 : decode cX4_swear 8 = .ok (.iload_n 3, 1) := dk_29 (dk_at dksX4_swear_0 8 rfl rfl)
theorem dX4_swear_9 : decode cX4_swear 9 = .ok (.invokevirtual 130, 3) := dk_182 0 130 (dk_at dksX4_swear_0 9 rfl rfl)
theorem dX4_swear_12 : decode cX4_swear 12 = .ok (.invokevirtual 87, 3) := dk_182 0 87 (dk_at dksX4_swear_0 12 rfl rfl)
theorem dX4_swear_15 : decode cX4_swear 15 = .ok (.ireturn, 1) := dk_172 (dk_at dksX4_swear_0 15 rfl rfl)
abbrev cX4_doSwear : ByteArray := prog_14_method_32_code
def yX4_doSwear : MethodName := ⟨RX4, "doSwear", "(IIZ)I"⟩
def dkwX4_doSwear_4 : List UInt8 := [180, 0, 9, 28, 16, 6, 27, 96, 184, 0, 101, 21, 4, 79, 42, 28, 182, 0, 124, 172]
abbrev dktX4_doSwear_4 : List UInt8 := dkwX4_doSwear_4 ++ []
def dkwX4_doSwear_3 : List UInt8 := [96, 184, 0, 101, 46, 21, 4, 160, 0, 15, 42, 5, 6, 42, 27, 182, 0, 121, 182, 0, 76, 172, 42]
abbrev dktX4_doSwear_3 : List UInt8 := dkwX4_doSwear_3 ++ dktX4_doSwear_4
def dkwX4_doSwear_2 : List UInt8 := [5, 7, 42, 180, 0, 9, 28, 8, 184, 0, 101, 46, 182, 0, 76, 172, 42, 180, 0, 9, 28, 16, 6, 27]
abbrev dktX4_doSwear_2 : List UInt8 := dkwX4_doSwear_2 ++ dktX4_doSwear_3
def dkwX4_doSwear_1 : List UInt8 := [153, 0, 7, 4, 167, 0, 4, 3, 54, 4, 42, 180, 0, 9, 28, 8, 184, 0, 101, 46, 155, 0, 20, 42]
abbrev dktX4_doSwear_1 : List UInt8 := dkwX4_doSwear_1 ++ dktX4_doSwear_2
def dkwX4_doSwear_0 : List UInt8 := [27, 184, 0, 127, 153, 0, 11, 42, 28, 182, 0, 111, 154, 0, 9, 42, 4, 182, 0, 72, 172, 29]
abbrev dktX4_doSwear_0 : List UInt8 := dkwX4_doSwear_0 ++ dktX4_doSwear_1
theorem dksX4_doSwear_0 : cX4_doSwear.data.toList.drop 0 = dktX4_doSwear_0 := by decide +kernel
theorem dksX4_doSwear_1 : cX4_doSwear.data.toList.drop 22 = dktX4_doSwear_1 := dk_seg dksX4_doSwear_0 22 rfl rfl
theorem dksX4_doSwear_2 : cX4_doSwear.data.toList.drop 46 = dktX4_doSwear_2 := dk_seg dksX4_doSwear_1 24 rfl rfl
theorem dksX4_doSwear_3 : cX4_doSwear.data.toList.drop 70 = dktX4_doSwear_3 := dk_seg dksX4_doSwear_2 24 rfl rfl
theorem dksX4_doSwear_4 : cX4_doSwear.data.toList.drop 93 = dktX4_doSwear_4 := dk_seg dksX4_doSwear_3 23 rfl rfl
theorem dX4_doSwear_0 : decode cX4_doSwear 0 = .ok (.iload_n 1, 1) := dk_27 (dk_at dksX4_doSwear_0 0 rfl rfl)
theorem dX4_doSwear_1 : decode cX4_doSwear 1 = .ok (.invokestatic 127, 3) := dk_184 0 127 (dk_at dksX4_doSwear_0 1 rfl rfl)
theorem dX4_doSwear_4 : decode cX4_doSwear 4 = .ok (.ifCond .eq 11, 3) := dk_153 0 11 (dk_at dksX4_doSwear_0 4 rfl rfl)
theorem dX4_doSwear_7 : decode cX4_doSwear 7 = .ok (.aload_n 0, 1) := dk_42 (dk_at dksX4_doSwear_0 7 rfl rfl)
theorem dX4_doSwear_8 : decode cX4_doSwear 8 = .ok (.iload_n 2, 1) := dk_28 (dk_at dksX4_doSwear_0 8 rfl rfl)
theorem dX4_doSwear_9 : decode cX4_doSwear 9 = .ok (.invokevirtual 111, 3) := dk_182 0 111 (dk_at dksX4_doSwear_0 9 rfl rfl)
theorem dX4_doSwear_12 : decode cX4_doSwear 12 = .ok (.ifCond .ne 9, 3) := dk_154 0 9 (dk_at dksX4_doSwear_0 12 rfl rfl)
theorem dX4_doSwear_15 : decode cX4_doSwear 15 = .ok (.aload_n 0, 1) := dk_42 (dk_at dksX4_doSwear_0 15 rfl rfl)
theorem dX4_doSwear_16 : decode cX4_doSwear 16 = .ok (.iconst 1, 1) := dk_4 (dk_at dksX4_doSwear_0 16 rfl rfl)
theorem dX4_doSwear_17 : decode cX4_doSwear 17 = .ok (.invokevirtual 72, 3) := dk_182 0 72 (dk_at dksX4_doSwear_0 17 rfl rfl)
theorem dX4_doSwear_20 : decode cX4_doSwear 20 = .ok (.ireturn, 1) := dk_172 (dk_at dksX4_doSwear_0 20 rfl rfl)
theorem dX4_doSwear_21 : decode cX4_doSwear 21 = .ok (.iload_n 3, 1) := dk_29 (dk_at dksX4_doSwear_0 21 rfl rfl)
theorem dX4_doSwear_22 : decode cX4_doSwear 22 = .ok (.ifCond .eq 7, 3) := dk_153 0 7 (dk_at dksX4_doSwear_1 0 rfl rfl)
theorem dX4_doSwear_25 : decode cX4_doSwear 25 = .ok (.iconst 1, 1) := dk_4 (dk_at dksX4_doSwear_1 3 rfl rfl)
theorem dX4_doSwear_26 : decode cX4_doSwear 26 = .ok (.goto 4, 3) := dk_167 0 4 (dk_at dksX4_doSwear_1 4 rfl rfl)
theorem dX4_doSwear_29 : decode cX4_doSwear 29 = .ok (.iconst 0, 1) := dk_3 (dk_at dksX4_doSwear_1 7 rfl rfl)
theorem dX4_doSwear_30 : decode cX4_doSwear 30 = .ok (.istore 4, 2) := dk_54 4 (dk_at dksX4_doSwear_1 8 rfl rfl)
theorem dX4_doSwear_32 : decode cX4_doSwear 32 = .ok (.aload_n 0, 1) := dk_42 (dk_at dksX4_doSwear_1 10 rfl rfl)
theorem dX4_doSwear_33 : decode cX4_doSwear 33 = .ok (.getfield 9, 3) := dk_180 0 9 (dk_at dksX4_doSwear_1 11 rfl rfl)
theorem dX4_doSwear_36 : decode cX4_doSwear 36 = .ok (.iload_n 2, 1) := dk_28 (dk_at dksX4_doSwear_1 14 rfl rfl)
theorem dX4_doSwear_37 : decode cX4_doSwear 37 = .ok (.iconst 5, 1) := dk_8 (dk_at dksX4_doSwear_1 15 rfl rfl)
theorem dX4_doSwear_38 : decode cX4_doSwear 38 = .ok (.invokestatic 101, 3) := dk_184 0 101 (dk_at dksX4_doSwear_1 16 rfl rfl)
theorem dX4_doSwear_41 : decode cX4_doSwear 41 = .ok (.iaload, 1) := dk_46 (dk_at dksX4_doSwear_1 19 rfl rfl)
theorem dX4_doSwear_42 : decode cX4_doSwear 42 = .ok (.ifCond .lt 20, 3) := dk_155 0 20 (dk_at dksX4_doSwear_1 20 rfl rfl)
theorem dX4_doSwear_45 : decode cX4_doSwear 45 = .ok (.aload_n 0, 1) := dk_42 (dk_at dksX4_doSwear_1 23 rfl rfl)
theorem dX4_doSwear_46 : decode cX4_doSwear 46 = .ok (.iconst 2, 1) := dk_5 (dk_at dksX4_doSwear_2 0 rfl rfl)
theorem dX4_doSwear_47 : decode cX4_doSwear 47 = .ok (.iconst 4, 1) := dk_7 (dk_at dksX4_doSwear_2 1 rfl rfl)
theorem dX4_doSwear_48 : decode cX4_doSwear 48 = .ok (.aload_n 0, 1) := dk_42 (dk_at dksX4_doSwear_2 2 rfl rfl)
theorem dX4_doSwear_49 : decode cX4_doSwear 49 = .ok (.getfield 9, 3) := dk_180 0 9 (dk_at dksX4_doSwear_2 3 rfl rfl)
theorem dX4_doSwear_52 : decode cX4_doSwear 52 = .ok (.iload_n 2, 1) := dk_28 (dk_at dksX4_doSwear_2 6 rfl rfl)
theorem dX4_doSwear_53 : decode cX4_doSwear 53 = .ok (.iconst 5, 1) := dk_8 (dk_at dksX4_doSwear_2 7 rfl rfl)
theorem dX4_doSwear_54 : decode cX4_doSwear 54 = .ok (.invokestatic 101, 3) := dk_184 0 101 (dk_at dksX4_doSwear_2 8 rfl rfl)
theorem dX4_doSwear_57 : decode cX4_doSwear 57 = .ok (.iaload, 1) := dk_46 (dk_at dksX4_doSwear_2 11 rfl rfl)
theorem dX4_doSwear_58 : decode cX4_doSwear 58 = .ok (.invokevirtual 76, 3) := dk_182 0 76 (dk_at dksX4_doSwear_2 12 rfl rfl)
theorem dX4_doSwear_61 : decode cX4_doSwear 61 = .ok (.ireturn, 1) := dk_172 (dk_at dksX4_doSwear_2 15 rfl rfl)
theorem dX4_doSwear_62 : decode cX4_doSwear 62 = .ok (.aload_n 0, 1) := dk_42 (dk_at dksX4_doSwear_2 16 rfl rfl)
theorem dX4_doSwear_63 : decode cX4_doSwear 63 = .ok (.getfield 9, 3) := dk_180 0 9 (dk_at dksX4_doSwear_2 17 rfl rfl)
theorem dX4_doSwear_66 : decode cX4_doSwear 66 = .ok (.iload_n 2, 1) := dk_28 (dk_at dksX4_doSwear_2 20 rfl rfl)
theorem dX4_doSwear_67 : decode cX4_doSwear 67 = .ok (.bipush 6, 2) := dk_16 6 (dk_at dksX4_doSwear_2 21 rfl rfl)
theorem dX4_doSwear_69 : decode cX4_doSwear 69 = .ok (.iload_n 1, 1) := dk_27 (dk_at dksX4_doSwear_2 23 rfl rfl)
theorem dX4_doSwear_70 : decode cX4_doSwear 70 = .ok (.iadd, 1) := dk_96 (dk_at dksX4_doSwear_3 0 rfl rfl)
theorem dX4_doSwear_71 : decode cX4_doSwear 71 = .ok (.invokestatic 101, 3) := dk_184 0 101 (dk_at dksX4_doSwear_3 1 rfl rfl)
theorem dX4_doSwear_74 : decode cX4_doSwear 74 = .ok (.iaload, 1) := dk_46 (dk_at dksX4_doSwear_3 4 rfl rfl)
theorem dX4_doSwear_75 : decode cX4_doSwear 75 = .ok (.iload 4, 2) := dk_21 4 (dk_at dksX4_doSwear_3 5 rfl rfl)
theorem dX4_doSwear_77 : decode cX4_doSwear 77 = .ok (.if_icmp .ne 15, 3) := dk_160 0 15 (dk_at dksX4_doSwear_3 7 rfl rfl)
theorem dX4_doSwear_80 : decode cX4_doSwear 80 = .ok (.aload_n 0, 1) := dk_42 (dk_at dksX4_doSwear_3 10 rfl rfl)
theorem dX4_doSwear_81 : decode cX4_doSwear 81 = .ok (.iconst 2, 1) := dk_5 (dk_at dksX4_doSwear_3 11 rfl rfl)
theorem dX4_doSwear_82 : decode cX4_doSwear 82 = .ok (.iconst 3, 1) := dk_6 (dk_at dksX4_doSwear_3 12 rfl rfl)
theorem dX4_doSwear_83 : decode cX4_doSwear 83 = .ok (.aload_n 0, 1) := dk_42 (dk_at dksX4_doSwear_3 13 rfl rfl)
theorem dX4_doSwear_84 : decode cX4_doSwear 84 = .ok (.iload_n 1, 1) := dk_27 (dk_at dksX4_doSwear_3 14 rfl rfl)
theorem dX4_doSwear_85 : decode cX4_doSwear 85 = .ok (.invokevirtual 121, 3) := dk_182 0 121 (dk_at dksX4_doSwear_3 15 rfl rfl)
theorem dX4_doSwear_88 : decode cX4_doSwear 88 = .ok (.invokevirtual 76, 3) := dk_182 0 76 (dk_at dksX4_doSwear_3 18 rfl rfl)
theorem dX4_doSwear_91 : decode cX4_doSwear 91 = .ok (.ireturn, 1) := dk_172 (dk_at dksX4_doSwear_3 21 rfl rfl)
theorem dX4_doSwear_92 : decode cX4_doSwear 92 = .ok (.aload_n 0, 1) := dk_42 (dk_at dksX4_doSwear_3 22 rfl rfl)
theorem dX4_doSwear_93 : decode cX4_doSwear 93 = .ok (.getfield 9, 3) := dk_180 0 9 (dk_at dksX4_doSwear_4 0 rfl rfl)
theorem dX4_doSwear_96 : decode cX4_doSwear 96 = .ok (.iload_n 2, 1) := dk_28 (dk_at dksX4_doSwear_4 3 rfl rfl)
theorem dX4_doSwear_97 : decode cX4_doSwear 97 = .ok (.bipush 6, 2) := dk_16 6 (dk_at dksX4_doSwear_4 4 rfl rfl)
theorem dX4_doSwear_99 : decode cX4_doSwear 99 = .ok (.iload_n 1, 1) := dk_27 (dk_at dksX4_doSwear_4 6 rfl rfl)
theorem dX4_doSwear_100 : decode cX4_doSwear 100 = .ok (.iadd, 1) := dk_96 (dk_at dksX4_doSwear_4 7 rfl rfl)
theorem dX4_doSwear_101 : decode cX4_doSwear 101 = .ok (.invokestatic 101, 3) := dk_184 0 101 (dk_at dksX4_doSwear_4 8 rfl rfl)
theorem dX4_doSwear_104 : decode cX4_doSwear 104 = .ok (.iload 4, 2) := dk_21 4 (dk_at dksX4_doSwear_4 11 rfl rfl)
theorem dX4_doSwear_106 : decode cX4_doSwear 106 = .ok (.iastore, 1) := dk_79 (dk_at dksX4_doSwear_4 13 rfl rfl)
theorem dX4_doSwear_107 : decode cX4_doSwear 107 = .ok (.aload_n 0, 1) := dk_42 (dk_at dksX4_doSwear_4 14 rfl rfl)
theorem dX4_doSwear_108 : decode cX4_doSwear 108 = .ok (.iload_n 2, 1) := dk_28 (dk_at dksX4_doSwear_4 15 rfl rfl)
theorem dX4_doSwear_109 : decode cX4_doSwear 109 = .ok (.invokevirtual 124, 3) := dk_182 0 124 (dk_at dksX4_doSwear_4 16 rfl rfl)
theorem dX4_doSwear_112 : decode cX4_doSwear 112 = .ok (.ireturn, 1) := dk_172 (dk_at dksX4_doSwear_4 19 rfl rfl)
abbrev cX4_isReader : ByteArray := prog_14_method_15_code
def yX4_isReader : MethodName := ⟨RX4, "isReader", "(I)Z"⟩
def dkwX4_isReader_0 : List UInt8 := [26, 3, 7, 184, 0, 64, 172]
abbrev dktX4_isReader_0 : List UInt8 := dkwX4_isReader_0 ++ []
theorem dksX4_isReader_0 : cX4_isReader.data.toList.drop 0 = dktX4_isReader_0 := by decide +kernel
theorem dX4_isReader_0 : decode cX4_isReader 0 = .ok (.iload_n 0, 1) := dk_26 (dk_at dksX4_isReader_0 0 rfl rfl)
theorem dX4_isReader_1 : decode cX4_isReader 1 = .ok (.iconst 0, 1) := dk_3 (dk_at dksX4_isReader_0 1 rfl rfl)
theorem dX4_isReader_2 : decode cX4_isReader 2 = .ok (.iconst 4, 1) := dk_7 (dk_at dksX4_isReader_0 2 rfl rfl)
theorem dX4_isReader_3 : decode cX4_isReader 3 = .ok (.invokestatic 64, 3) := dk_184 0 64 (dk_at dksX4_isReader_0 3 rfl rfl)
theorem dX4_isReader_6 : decode cX4_isReader 6 = .ok (.ireturn, 1) := dk_172 (dk_at dksX4_isReader_0 6 rfl rfl)
abbrev cX4_trust : ByteArray := prog_14_method_19_code
def yX4_trust : MethodName := ⟨RX4, "trust", "(I)I"⟩
def dkwX4_trust_0 : List UInt8 := [42, 180, 0, 9, 16, 9, 6, 27, 104, 96, 46, 172]
abbrev dktX4_trust_0 : List UInt8 := dkwX4_trust_0 ++ []
theorem dksX4_trust_0 : cX4_trust.data.toList.drop 0 = dktX4_trust_0 := by decide +kernel
theorem dX4_trust_0 : decode cX4_trust 0 = .ok (.aload_n 0, 1) := dk_42 (dk_at dksX4_trust_0 0 rfl rfl)
theorem dX4_trust_1 : decode cX4_trust 1 = .ok (.getfield 9, 3) := dk_180 0 9 (dk_at dksX4_trust_0 1 rfl rfl)
theorem dX4_trust_4 : decode cX4_trust 4 = .ok (.bipush 9, 2) := dk_16 9 (dk_at dksX4_trust_0 4 rfl rfl)
theorem dX4_trust_6 : decode cX4_trust 6 = .ok (.iconst 3, 1) := dk_6 (dk_at dksX4_trust_0 6 rfl rfl)
theorem dX4_trust_7 : decode cX4_trust 7 = .ok (.iload_n 1, 1) := dk_27 (dk_at dksX4_trust_0 7 rfl rfl)
theorem dX4_trust_8 : decode cX4_trust 8 = .ok (.imul, 1) := dk_104 (dk_at dksX4_trust_0 8 rfl rfl)
theorem dX4_trust_9 : decode cX4_trust 9 = .ok (.iadd, 1) := dk_96 (dk_at dksX4_trust_0 9 rfl rfl)
theorem dX4_trust_10 : decode cX4_trust 10 = .ok (.iaload, 1) := dk_46 (dk_at dksX4_trust_0 10 rfl rfl)
theorem dX4_trust_11 : decode cX4_trust 11 = .ok (.ireturn, 1) := dk_172 (dk_at dksX4_trust_0 11 rfl rfl)
abbrev cX4_weight : ByteArray := prog_14_method_30_code
def yX4_weight : MethodName := ⟨RX4, "weight", "(I)I"⟩
def dkwX4_weight_2 : List UInt8 := [42, 29, 182, 0, 121, 116, 96, 61, 132, 3, 1, 167, 255, 201, 28, 172]
abbrev dktX4_weight_2 : List UInt8 := dkwX4_weight_2 ++ []
def dkwX4_weight_1 : List UInt8 := [28, 21, 4, 156, 0, 7, 3, 167, 0, 23, 21, 4, 4, 160, 0, 11, 42, 29, 182, 0, 121, 167, 0, 9]
abbrev dktX4_weight_1 : List UInt8 := dkwX4_weight_1 ++ dktX4_weight_2
def dkwX4_weight_0 : List UInt8 := [3, 61, 3, 62, 29, 8, 162, 0, 56, 42, 180, 0, 9, 27, 16, 6, 29, 96, 184, 0, 101, 46, 54, 4]
abbrev dktX4_weight_0 : List UInt8 := dkwX4_weight_0 ++ dktX4_weight_1
theorem dksX4_weight_0 : cX4_weight.data.toList.drop 0 = dktX4_weight_0 := by decide +kernel
theorem dksX4_weight_1 : cX4_weight.data.toList.drop 24 = dktX4_weight_1 := dk_seg dksX4_weight_0 24 rfl rfl
theorem dksX4_weight_2 : cX4_weight.data.toList.drop 48 = dktX4_weight_2 := dk_seg dksX4_weight_1 24 rfl rfl
theorem dX4_weight_0 : decode cX4_weight 0 = .ok (.iconst 0, 1) := dk_3 (dk_at dksX4_weight_0 0 rfl rfl)
theorem dX4_weight_1 : decode cX4_weight 1 = .ok (.istore_n 2, 1) := dk_61 (dk_at dksX4_weight_0 1 rfl rfl)
theorem dX4_weight_2 : decode cX4_weight 2 = .ok (.iconst 0, 1) := dk_3 (dk_at dksX4_weight_0 2 rfl rfl)
theorem dX4_weight_3 : decode cX4_weight 3 = .ok (.istore_n 3, 1) := dk_62 (dk_at dksX4_weight_0 3 rfl rfl)
theorem dX4_weight_4 : decode cX4_weight 4 = .ok (.iload_n 3, 1) := dk_29 (dk_at dksX4_weight_0 4 rfl rfl)
theorem dX4_weight_5 : decode cX4_weight 5 = .ok (.iconst 5, 1) := dk_8 (dk_at dksX4_weight_0 5 rfl rfl)
theorem dX4_weight_6 : decode cX4_weight 6 = .ok (.if_icmp .ge 56, 3) := dk_162 0 56 (dk_at dksX4_weight_0 6 rfl rfl)
theorem dX4_weight_9 : decode cX4_weight 9 = .ok (.aload_n 0, 1) := dk_42 (dk_at dksX4_weight_0 9 rfl rfl)
theorem dX4_weight_10 : decode cX4_weight 10 = .ok (.getfield 9, 3) := dk_180 0 9 (dk_at dksX4_weight_0 10 rfl rfl)
theorem dX4_weight_13 : decode cX4_weight 13 = .ok (.iload_n 1, 1) := dk_27 (dk_at dksX4_weight_0 13 rfl rfl)
theorem dX4_weight_14 : decode cX4_weight 14 = .ok (.bipush 6, 2) := dk_16 6 (dk_at dksX4_weight_0 14 rfl rfl)
theorem dX4_weight_16 : decode cX4_weight 16 = .ok (.iload_n 3, 1) := dk_29 (dk_at dksX4_weight_0 16 rfl rfl)
theorem dX4_weight_17 : decode cX4_weight 17 = .ok (.iadd, 1) := dk_96 (dk_at dksX4_weight_0 17 rfl rfl)
theorem dX4_weight_18 : decode cX4_weight 18 = .ok (.invokestatic 101, 3) := dk_184 0 101 (dk_at dksX4_weight_0 18 rfl rfl)
theorem dX4_weight_21 : decode cX4_weight 21 = .ok (.iaload, 1) := dk_46 (dk_at dksX4_weight_0 21 rfl rfl)
theorem dX4_weight_22 : decode cX4_weight 22 = .ok (.istore 4, 2) := dk_54 4 (dk_at dksX4_weight_0 22 rfl rfl)
theorem dX4_weight_24 : decode cX4_weight 24 = .ok (.iload_n 2, 1) := dk_28 (dk_at dksX4_weight_1 0 rfl rfl)
theorem dX4_weight_25 : decode cX4_weight 25 = .ok (.iload 4, 2) := dk_21 4 (dk_at dksX4_weight_1 1 rfl rfl)
theorem dX4_weight_27 : decode cX4_weight 27 = .ok (.ifCond .ge 7, 3) := dk_156 0 7 (dk_at dksX4_weight_1 3 rfl rfl)
theorem dX4_weight_30 : decode cX4_weight 30 = .ok (.iconst 0, 1) := dk_3 (dk_at dksX4_weight_1 6 rfl rfl)
theorem dX4_weight_31 : decode cX4_weight 31 = .ok (.goto 23, 3) := dk_167 0 23 (dk_at dksX4_weight_1 7 rfl rfl)
theorem dX4_weight_34 : decode cX4_weight 34 = .ok (.iload 4, 2) := dk_21 4 (dk_at dksX4_weight_1 10 rfl rfl)
theorem dX4_weight_36 : decode cX4_weight 36 = .ok (.iconst 1, 1) := dk_4 (dk_at dksX4_weight_1 12 rfl rfl)
theorem dX4_weight_37 : decode cX4_weight 37 = .ok (.if_icmp .ne 11, 3) := dk_160 0 11 (dk_at dksX4_weight_1 13 rfl rfl)
theorem dX4_weight_40 : decode cX4_weight 40 = .ok (.aload_n 0, 1) := dk_42 (dk_at dksX4_weight_1 16 rfl rfl)
theorem dX4_weight_41 : decode cX4_weight 41 = .ok (.iload_n 3, 1) := dk_29 (dk_at dksX4_weight_1 17 rfl rfl)
theorem dX4_weight_42 : decode cX4_weight 42 = .ok (.invokevirtual 121, 3) := dk_182 0 121 (dk_at dksX4_weight_1 18 rfl rfl)
theorem dX4_weight_45 : decode cX4_weight 45 = .ok (.goto 9, 3) := dk_167 0 9 (dk_at dksX4_weight_1 21 rfl rfl)
theorem dX4_weight_48 : decode cX4_weight 48 = .ok (.aload_n 0, 1) := dk_42 (dk_at dksX4_weight_2 0 rfl rfl)
theorem dX4_weight_49 : decode cX4_weight 49 = .ok (.iload_n 3, 1) := dk_29 (dk_at dksX4_weight_2 1 rfl rfl)
theorem dX4_weight_50 : decode cX4_weight 50 = .ok (.invokevirtual 121, 3) := dk_182 0 121 (dk_at dksX4_weight_2 2 rfl rfl)
theorem dX4_weight_53 : decode cX4_weight 53 = .ok (.ineg, 1) := dk_116 (dk_at dksX4_weight_2 5 rfl rfl)
theorem dX4_weight_54 : decode cX4_weight 54 = .ok (.iadd, 1) := dk_96 (dk_at dksX4_weight_2 6 rfl rfl)
theorem dX4_weight_55 : decode cX4_weight 55 = .ok (.istore_n 2, 1) := dk_61 (dk_at dksX4_weight_2 7 rfl rfl)
theorem dX4_weight_56 : decode cX4_weight 56 = .ok (.iinc 3 1, 3) := dk_132 3 1 (dk_at dksX4_weight_2 8 rfl rfl)
theorem dX4_weight_59 : decode cX4_weight 59 = .ok (.goto (-55), 3) := dk_167 255 201 (dk_at dksX4_weight_2 11 rfl rfl)
theorem dX4_weight_62 : decode cX4_weight 62 = .ok (.iload_n 2, 1) := dk_28 (dk_at dksX4_weight_2 14 rfl rfl)
theorem dX4_weight_63 : decode cX4_weight 63 = .ok (.ireturn, 1) := dk_172 (dk_at dksX4_weight_2 15 rfl rfl)
abbrev cX4_prove : ByteArray := prog_14_method_35_code
def yX4_prove : MethodName := ⟨RX4, "prove", "(IZ)I"⟩
def dkwX4_prove_0 : List UInt8 := [42, 182, 0, 80, 42, 42, 27, 28, 182, 0, 142, 182, 0, 87, 172]
abbrev dktX4_prove_0 : List UInt8 := dkwX4_prove_0 ++ []
theorem dksX4_prove_0 : cX4_prove.data.toList.drop 0 = dktX4_prove_0 := by decide +kernel
theorem dX4_prove_0 : decode cX4_prove 0 = .ok (.aload_n 0, 1) := dk_42 (dk_at dksX4_prove_0 0 rfl rfl)
theorem dX4_prove_1 : decode cX4_prove 1 = .ok (.invokevirtual 80, 3) := dk_182 0 80 (dk_at dksX4_prove_0 1 rfl rfl)
theorem dX4_prove_4 : decode cX4_prove 4 = .ok (.aload_n 0, 1) := dk_42 (dk_at dksX4_prove_0 4 rfl rfl)
theorem dX4_prove_5 : decode cX4_prove 5 = .ok (.aload_n 0, 1) := dk_42 (dk_at dksX4_prove_0 5 rfl rfl)
theorem dX4_prove_6 : decode cX4_prove 6 = .ok (.iload_n 1, 1) := dk_27 (dk_at dksX4_prove_0 6 rfl rfl)
theorem dX4_prove_7 : decode cX4_prove 7 = .ok (.iload_n 2, 1) := dk_28 (dk_at dksX4_prove_0 7 rfl rfl)
theorem dX4_prove_8 : decode cX4_prove 8 = .ok (.invokevirtual 142, 3) := dk_182 0 142 (dk_at dksX4_prove_0 8 rfl rfl)
theorem dX4_prove_11 : decode cX4_prove 11 = .ok (.invokevirtual 87, 3) := dk_182 0 87 (dk_at dksX4_prove_0 11 rfl rfl)
theorem dX4_prove_14 : decode cX4_prove 14 = .ok (.ireturn, 1) := dk_172 (dk_at dksX4_prove_0 14 rfl rfl)
abbrev cX4_doProve : ByteArray := prog_14_method_34_code
def yX4_doProve : MethodName := ⟨RX4, "doProve", "(IZ)I"⟩
def dkwX4_doProve_8 : List UInt8 := [132, 5, 1, 167, 255, 138, 21, 4, 172]
abbrev dktX4_doProve_8 : List UInt8 := dkwX4_doProve_8 ++ []
def dkwX4_doProve_7 : List UInt8 := [21, 6, 46, 5, 100, 184, 0, 139, 79, 42, 180, 0, 9, 21, 6, 5, 96, 92, 46, 4, 96, 79]
abbrev dktX4_doProve_7 : List UInt8 := dkwX4_doProve_7 ++ dktX4_doProve_8
def dkwX4_doProve_6 : List UInt8 := [79, 132, 4, 1, 167, 0, 41, 21, 7, 155, 0, 36, 42, 180, 0, 9, 21, 6, 3, 42, 180, 0, 9]
abbrev dktX4_doProve_6 : List UInt8 := dkwX4_doProve_6 ++ dktX4_doProve_7
def dkwX4_doProve_5 : List UInt8 := [180, 0, 9, 21, 6, 46, 4, 96, 184, 0, 134, 79, 42, 180, 0, 9, 21, 6, 4, 96, 92, 46, 4, 96]
abbrev dktX4_doProve_5 : List UInt8 := dkwX4_doProve_5 ++ dktX4_doProve_6
def dkwX4_doProve_4 : List UInt8 := [96, 184, 0, 101, 46, 54, 7, 21, 7, 29, 160, 0, 43, 42, 180, 0, 9, 21, 6, 16, 9, 42]
abbrev dktX4_doProve_4 : List UInt8 := dkwX4_doProve_4 ++ dktX4_doProve_5
def dkwX4_doProve_3 : List UInt8 := [21, 5, 8, 162, 0, 118, 16, 9, 6, 21, 5, 104, 96, 54, 6, 42, 180, 0, 9, 27, 16, 6, 21, 5]
abbrev dktX4_doProve_3 : List UInt8 := dkwX4_doProve_3 ++ dktX4_doProve_4
def dkwX4_doProve_2 : List UInt8 := [4, 167, 0, 4, 3, 62, 3, 54, 4, 42, 180, 0, 9, 27, 8, 184, 0, 101, 29, 79, 3, 54, 5]
abbrev dktX4_doProve_2 : List UInt8 := dkwX4_doProve_2 ++ dktX4_doProve_3
def dkwX4_doProve_1 : List UInt8 := [155, 0, 20, 42, 5, 7, 42, 180, 0, 9, 27, 8, 184, 0, 101, 46, 182, 0, 76, 172, 28, 153, 0, 7]
abbrev dktX4_doProve_1 : List UInt8 := dkwX4_doProve_1 ++ dktX4_doProve_2
def dkwX4_doProve_0 : List UInt8 := [42, 27, 182, 0, 111, 154, 0, 9, 42, 4, 182, 0, 72, 172, 42, 180, 0, 9, 27, 8, 184, 0, 101, 46]
abbrev dktX4_doProve_0 : List UInt8 := dkwX4_doProve_0 ++ dktX4_doProve_1
theorem dksX4_doProve_0 : cX4_doProve.data.toList.drop 0 = dktX4_doProve_0 := by decide +kernel
theorem dksX4_doProve_1 : cX4_doProve.data.toList.drop 24 = dktX4_doProve_1 := dk_seg dksX4_doProve_0 24 rfl rfl
theorem dksX4_doProve_2 : cX4_doProve.data.toList.drop 48 = dktX4_doProve_2 := dk_seg dksX4_doProve_1 24 rfl rfl
theorem dksX4_doProve_3 : cX4_doProve.data.toList.drop 71 = dktX4_doProve_3 := dk_seg dksX4_doProve_2 23 rfl rfl
theorem dksX4_doProve_4 : cX4_doProve.data.toList.drop 95 = dktX4_doProve_4 := dk_seg dksX4_doProve_3 24 rfl rfl
theorem dksX4_doProve_5 : cX4_doProve.data.toList.drop 117 = dktX4_doProve_5 := dk_seg dksX4_doProve_4 22 rfl rfl
theorem dksX4_doProve_6 : cX4_doProve.data.toList.drop 141 = dktX4_doProve_6 := dk_seg dksX4_doProve_5 24 rfl rfl
theorem dksX4_doProve_7 : cX4_doProve.data.toList.drop 164 = dktX4_doProve_7 := dk_seg dksX4_doProve_6 23 rfl rfl
theorem dksX4_doProve_8 : cX4_doProve.data.toList.drop 186 = dktX4_doProve_8 := dk_seg dksX4_doProve_7 22 rfl rfl
theorem dX4_doProve_0 : decode cX4_doProve 0 = .ok (.aload_n 0, 1) := dk_42 (dk_at dksX4_doProve_0 0 rfl rfl)
theorem dX4_doProve_1 : decode cX4_doProve 1 = .ok (.iload_n 1, 1) := dk_27 (dk_at dksX4_doProve_0 1 rfl rfl)
theorem dX4_doProve_2 : decode cX4_doProve 2 = .ok (.invokevirtual 111, 3) := dk_182 0 111 (dk_at dksX4_doProve_0 2 rfl rfl)
theorem dX4_doProve_5 : decode cX4_doProve 5 = .ok (.ifCond .ne 9, 3) := dk_154 0 9 (dk_at dksX4_doProve_0 5 rfl rfl)
theorem dX4_doProve_8 : decode cX4_doProve 8 = .ok (.aload_n 0, 1) := dk_42 (dk_at dksX4_doProve_0 8 rfl rfl)
theorem dX4_doProve_9 : decode cX4_doProve 9 = .ok (.iconst 1, 1) := dk_4 (dk_at dksX4_doProve_0 9 rfl rfl)
theorem dX4_doProve_10 : decode cX4_doProve 10 = .ok (.invokevirtual 72, 3) := dk_182 0 72 (dk_at dksX4_doProve_0 10 rfl rfl)
theorem dX4_doProve_13 : decode cX4_doProve 13 = .ok (.ireturn, 1) := dk_172 (dk_at dksX4_doProve_0 13 rfl rfl)
theorem dX4_doProve_14 : decode cX4_doProve 14 = .ok (.aload_n 0, 1) := dk_42 (dk_at dksX4_doProve_0 14 rfl rfl)
theorem dX4_doProve_15 : decode cX4_doProve 15 = .ok (.getfield 9, 3) := dk_180 0 9 (dk_at dksX4_doProve_0 15 rfl rfl)
theorem dX4_doProve_18 : decode cX4_doProve 18 = .ok (.iload_n 1, 1) := dk_27 (dk_at dksX4_doProve_0 18 rfl rfl)
theorem dX4_doProve_19 : decode cX4_doProve 19 = .ok (.iconst 5, 1) := dk_8 (dk_at dksX4_doProve_0 19 rfl rfl)
theorem dX4_doProve_20 : decode cX4_doProve 20 = .ok (.invokestatic 101, 3) := dk_184 0 101 (dk_at dksX4_doProve_0 20 rfl rfl)
theorem dX4_doProve_23 : decode cX4_doProve 23 = .ok (.iaload, 1) := dk_46 (dk_at dksX4_doProve_0 23 rfl rfl)
theorem dX4_doProve_24 : decode cX4_doProve 24 = .ok (.ifCond .lt 20, 3) := dk_155 0 20 (dk_at dksX4_doProve_1 0 rfl rfl)
theorem dX4_doProve_27 : decode cX4_doProve 27 = .ok (.aload_n 0, 1) := dk_42 (dk_at dksX4_doProve_1 3 rfl rfl)
theorem dX4_doProve_28 : decode cX4_doProve 28 = .ok (.iconst 2, 1) := dk_5 (dk_at dksX4_doProve_1 4 rfl rfl)
theorem dX4_doProve_29 : decode cX4_doProve 29 = .ok (.iconst 4, 1) := dk_7 (dk_at dksX4_doProve_1 5 rfl rfl)
theorem dX4_doProve_30 : decode cX4_doProve 30 = .ok (.aload_n 0, 1) := dk_42 (dk_at dksX4_doProve_1 6 rfl rfl)
theorem dX4_doProve_31 : decode cX4_doProve 31 = .ok (.getfield 9, 3) := dk_180 0 9 (dk_at dksX4_doProve_1 7 rfl rfl)
theorem dX4_doProve_34 : decode cX4_doProve 34 = .ok (.iload_n 1, 1) := dk_27 (dk_at dksX4_doProve_1 10 rfl rfl)
theorem dX4_doProve_35 : decode cX4_doProve 35 = .ok (.iconst 5, 1) := dk_8 (dk_at dksX4_doProve_1 11 rfl rfl)
theorem dX4_doProve_36 : decode cX4_doProve 36 = .ok (.invokestatic 101, 3) := dk_184 0 101 (dk_at dksX4_doProve_1 12 rfl rfl)
theorem dX4_doProve_39 : decode cX4_doProve 39 = .ok (.iaload, 1) := dk_46 (dk_at dksX4_doProve_1 15 rfl rfl)
theorem dX4_doProve_40 : decode cX4_doProve 40 = .ok (.invokevirtual 76, 3) := dk_182 0 76 (dk_at dksX4_doProve_1 16 rfl rfl)
theorem dX4_doProve_43 : decode cX4_doProve 43 = .ok (.ireturn, 1) := dk_172 (dk_at dksX4_doProve_1 19 rfl rfl)
theorem dX4_doProve_44 : decode cX4_doProve 44 = .ok (.iload_n 2, 1) := dk_28 (dk_at dksX4_doProve_1 20 rfl rfl)
theorem dX4_doProve_45 : decode cX4_doProve 45 = .ok (.ifCond .eq 7, 3) := dk_153 0 7 (dk_at dksX4_doProve_1 21 rfl rfl)
theorem dX4_doProve_48 : decode cX4_doProve 48 = .ok (.iconst 1, 1) := dk_4 (dk_at dksX4_doProve_2 0 rfl rfl)
theorem dX4_doProve_49 : decode cX4_doProve 49 = .ok (.goto 4, 3) := dk_167 0 4 (dk_at dksX4_doProve_2 1 rfl rfl)
theorem dX4_doProve_52 : decode cX4_doProve 52 = .ok (.iconst 0, 1) := dk_3 (dk_at dksX4_doProve_2 4 rfl rfl)
theorem dX4_doProve_53 : decode cX4_doProve 53 = .ok (.istore_n 3, 1) := dk_62 (dk_at dksX4_doProve_2 5 rfl rfl)
theorem dX4_doProve_54 : decode cX4_doProve 54 = .ok (.iconst 0, 1) := dk_3 (dk_at dksX4_doProve_2 6 rfl rfl)
theorem dX4_doProve_55 : decode cX4_doProve 55 = .ok (.istore 4, 2) := dk_54 4 (dk_at dksX4_doProve_2 7 rfl rfl)
theorem dX4_doProve_57 : decode cX4_doProve 57 = .ok (.aload_n 0, 1) := dk_42 (dk_at dksX4_doProve_2 9 rfl rfl)
theorem dX4_doProve_58 : decode cX4_doProve 58 = .ok (.getfield 9, 3) := dk_180 0 9 (dk_at dksX4_doProve_2 10 rfl rfl)
theorem dX4_doProve_61 : decode cX4_doProve 61 = .ok (.iload_n 1, 1) := dk_27 (dk_at dksX4_doProve_2 13 rfl rfl)
theorem dX4_doProve_62 : decode cX4_doProve 62 = .ok (.iconst 5, 1) := dk_8 (dk_at dksX4_doProve_2 14 rfl rfl)
theorem dX4_doProve_63 : decode cX4_doProve 63 = .ok (.invokestatic 101, 3) := dk_184 0 101 (dk_at dksX4_doProve_2 15 rfl rfl)
theorem dX4_doProve_66 : decode cX4_doProve 66 = .ok (.iload_n 3, 1) := dk_29 (dk_at dksX4_doProve_2 18 rfl rfl)
theorem dX4_doProve_67 : decode cX4_doProve 67 = .ok (.iastore, 1) := dk_79 (dk_at dksX4_doProve_2 19 rfl rfl)
theorem dX4_doProve_68 : decode cX4_doProve 68 = .ok (.iconst 0, 1) := dk_3 (dk_at dksX4_doProve_2 20 rfl rfl)
theorem dX4_doProve_69 : decode cX4_doProve 69 = .ok (.istore 5, 2) := dk_54 5 (dk_at dksX4_doProve_2 21 rfl rfl)
theorem dX4_doProve_71 : decode cX4_doProve 71 = .ok (.iload 5, 2) := dk_21 5 (dk_at dksX4_doProve_3 0 rfl rfl)
theorem dX4_doProve_73 : decode cX4_doProve 73 = .ok (.iconst 5, 1) := dk_8 (dk_at dksX4_doProve_3 2 rfl rfl)
theorem dX4_doProve_74 : decode cX4_doProve 74 = .ok (.if_icmp .ge 118, 3) := dk_162 0 118 (dk_at dksX4_doProve_3 3 rfl rfl)
theorem dX4_doProve_77 : decode cX4_doProve 77 = .ok (.bipush 9, 2) := dk_16 9 (dk_at dksX4_doProve_3 6 rfl rfl)
theorem dX4_doProve_79 : decode cX4_doProve 79 = .ok (.iconst 3, 1) := dk_6 (dk_at dksX4_doProve_3 8 rfl rfl)
theorem dX4_doProve_80 : decode cX4_doProve 80 = .ok (.iload 5, 2) := dk_21 5 (dk_at dksX4_doProve_3 9 rfl rfl)
theorem dX4_doProve_82 : decode cX4_doProve 82 = .ok (.imul, 1) := dk_104 (dk_at dksX4_doProve_3 11 rfl rfl)
theorem dX4_doProve_83 : decode cX4_doProve 83 = .ok (.iadd, 1) := dk_96 (dk_at dksX4_doProve_3 12 rfl rfl)
theorem dX4_doProve_84 : decode cX4_doProve 84 = .ok (.istore 6, 2) := dk_54 6 (dk_at dksX4_doProve_3 13 rfl rfl)
theorem dX4_doProve_86 : decode cX4_doProve 86 = .ok (.aload_n 0, 1) := dk_42 (dk_at dksX4_doProve_3 15 rfl rfl)
theorem dX4_doProve_87 : decode cX4_doProve 87 = .ok (.getfield 9, 3) := dk_180 0 9 (dk_at dksX4_doProve_3 16 rfl rfl)
theorem dX4_doProve_90 : decode cX4_doProve 90 = .ok (.iload_n 1, 1) := dk_27 (dk_at dksX4_doProve_3 19 rfl rfl)
theorem dX4_doProve_91 : decode cX4_doProve 91 = .ok (.bipush 6, 2) := dk_16 6 (dk_at dksX4_doProve_3 20 rfl rfl)
theorem dX4_doProve_93 : decode cX4_doProve 93 = .ok (.iload 5, 2) := dk_21 5 (dk_at dksX4_doProve_3 22 rfl rfl)
theorem dX4_doProve_95 : decode cX4_doProve 95 = .ok (.iadd, 1) := dk_96 (dk_at dksX4_doProve_4 0 rfl rfl)
theorem dX4_doProve_96 : decode cX4_doProve 96 = .ok (.invokestatic 101, 3) := dk_184 0 101 (dk_at dksX4_doProve_4 1 rfl rfl)
theorem dX4_doProve_99 : decode cX4_doProve 99 = .ok (.iaload, 1) := dk_46 (dk_at dksX4_doProve_4 4 rfl rfl)
theorem dX4_doProve_100 : decode cX4_doProve 100 = .ok (.istore 7, 2) := dk_54 7 (dk_at dksX4_doProve_4 5 rfl rfl)
theorem dX4_doProve_102 : decode cX4_doProve 102 = .ok (.iload 7, 2) := dk_21 7 (dk_at dksX4_doProve_4 7 rfl rfl)
theorem dX4_doProve_104 : decode cX4_doProve 104 = .ok (.iload_n 3, 1) := dk_29 (dk_at dksX4_doProve_4 9 rfl rfl)
theorem dX4_doProve_105 : decode cX4_doProve 105 = .ok (.if_icmp .ne 43, 3) := dk_160 0 43 (dk_at dksX4_doProve_4 10 rfl rfl)
theorem dX4_doProve_108 : decode cX4_doProve 108 = .ok (.aload_n 0, 1) := dk_42 (dk_at dksX4_doProve_4 13 rfl rfl)
theorem dX4_doProve_109 : decode cX4_doProve 109 = .ok (.getfield 9, 3) := dk_180 0 9 (dk_at dksX4_doProve_4 14 rfl rfl)
theorem dX4_doProve_112 : decode cX4_doProve 112 = .ok (.iload 6, 2) := dk_21 6 (dk_at dksX4_doProve_4 17 rfl rfl)
theorem dX4_doProve_114 : decode cX4_doProve 114 = .ok (.bipush 9, 2) := dk_16 9 (dk_at dksX4_doProve_4 19 rfl rfl)
theorem dX4_doProve_116 : decode cX4_doProve 116 = .ok (.aload_n 0, 1) := dk_42 (dk_at dksX4_doProve_4 21 rfl rfl)
theorem dX4_doProve_117 : decode cX4_doProve 117 = .ok (.getfield 9, 3) := dk_180 0 9 (dk_at dksX4_doProve_5 0 rfl rfl)
theorem dX4_doProve_120 : decode cX4_doProve 120 = .ok (.iload 6, 2) := dk_21 6 (dk_at dksX4_doProve_5 3 rfl rfl)
theorem dX4_doProve_122 : decode cX4_doProve 122 = .ok (.iaload, 1) := dk_46 (dk_at dksX4_doProve_5 5 rfl rfl)
theorem dX4_doProve_123 : decode cX4_doProve 123 = .ok (.iconst 1, 1) := dk_4 (dk_at dksX4_doProve_5 6 rfl rfl)
theorem dX4_doProve_124 : decode cX4_doProve 124 = .ok (.iadd, 1) := dk_96 (dk_at dksX4_doProve_5 7 rfl rfl)
theorem dX4_doProve_125 : decode cX4_doProve 125 = .ok (.invokestatic 134, 3) := dk_184 0 134 (dk_at dksX4_doProve_5 8 rfl rfl)
theorem dX4_doProve_128 : decode cX4_doProve 128 = .ok (.iastore, 1) := dk_79 (dk_at dksX4_doProve_5 11 rfl rfl)
theorem dX4_doProve_129 : decode cX4_doProve 129 = .ok (.aload_n 0, 1) := dk_42 (dk_at dksX4_doProve_5 12 rfl rfl)
theorem dX4_doProve_130 : decode cX4_doProve 130 = .ok (.getfield 9, 3) := dk_180 0 9 (dk_at dksX4_doProve_5 13 rfl rfl)
theorem dX4_doProve_133 : decode cX4_doProve 133 = .ok (.iload 6, 2) := dk_21 6 (dk_at dksX4_doProve_5 16 rfl rfl)
theorem dX4_doProve_135 : decode cX4_doProve 135 = .ok (.iconst 1, 1) := dk_4 (dk_at dksX4_doProve_5 18 rfl rfl)
theorem dX4_doProve_136 : decode cX4_doProve 136 = .ok (.iadd, 1) := dk_96 (dk_at dksX4_doProve_5 19 rfl rfl)
theorem dX4_doProve_137 : decode cX4_doProve 137 = .ok (.dup2, 1) := dk_92 (dk_at dksX4_doProve_5 20 rfl rfl)
theorem dX4_doProve_138 : decode cX4_doProve 138 = .ok (.iaload, 1) := dk_46 (dk_at dksX4_doProve_5 21 rfl rfl)
theorem dX4_doProve_139 : decode cX4_doProve 139 = .ok (.iconst 1, 1) := dk_4 (dk_at dksX4_doProve_5 22 rfl rfl)
theorem dX4_doProve_140 : decode cX4_doProve 140 = .ok (.iadd, 1) := dk_96 (dk_at dksX4_doProve_5 23 rfl rfl)
theorem dX4_doProve_141 : decode cX4_doProve 141 = .ok (.iastore, 1) := dk_79 (dk_at dksX4_doProve_6 0 rfl rfl)
theorem dX4_doProve_142 : decode cX4_doProve 142 = .ok (.iinc 4 1, 3) := dk_132 4 1 (dk_at dksX4_doProve_6 1 rfl rfl)
theorem dX4_doProve_145 : decode cX4_doProve 145 = .ok (.goto 41, 3) := dk_167 0 41 (dk_at dksX4_doProve_6 4 rfl rfl)
theorem dX4_doProve_148 : decode cX4_doProve 148 = .ok (.iload 7, 2) := dk_21 7 (dk_at dksX4_doProve_6 7 rfl rfl)
theorem dX4_doProve_150 : decode cX4_doProve 150 = .ok (.ifCond .lt 36, 3) := dk_155 0 36 (dk_at dksX4_doProve_6 9 rfl rfl)
theorem dX4_doProve_153 : decode cX4_doProve 153 = .ok (.aload_n 0, 1) := dk_42 (dk_at dksX4_doProve_6 12 rfl rfl)
theorem dX4_doProve_154 : decode cX4_doProve 154 = .ok (.getfield 9, 3) := dk_180 0 9 (dk_at dksX4_doProve_6 13 rfl rfl)
theorem dX4_doProve_157 : decode cX4_doProve 157 = .ok (.iload 6, 2) := dk_21 6 (dk_at dksX4_doProve_6 16 rfl rfl)
theorem dX4_doProve_159 : decode cX4_doProve 159 = .ok (.iconst 0, 1) := dk_3 (dk_at dksX4_doProve_6 18 rfl rfl)
theorem dX4_doProve_160 : decode cX4_doProve 160 = .ok (.aload_n 0, 1) := dk_42 (dk_at dksX4_doProve_6 19 rfl rfl)
theorem dX4_doProve_161 : decode cX4_doProve 161 = .ok (.getfield 9, 3) := dk_180 0 9 (dk_at dksX4_doProve_6 20 rfl rfl)
theorem dX4_doProve_164 : decode cX4_doProve 164 = .ok (.iload 6, 2) := dk_21 6 (dk_at dksX4_doProve_7 0 rfl rfl)
theorem dX4_doProve_166 : decode cX4_doProve 166 = .ok (.iaload, 1) := dk_46 (dk_at dksX4_doProve_7 2 rfl rfl)
theorem dX4_doProve_167 : decode cX4_doProve 167 = .ok (.iconst 2, 1) := dk_5 (dk_at dksX4_doProve_7 3 rfl rfl)
theorem dX4_doProve_168 : decode cX4_doProve 168 = .ok (.isub, 1) := dk_100 (dk_at dksX4_doProve_7 4 rfl rfl)
theorem dX4_doProve_169 : decode cX4_doProve 169 = .ok (.invokestatic 139, 3) := dk_184 0 139 (dk_at dksX4_doProve_7 5 rfl rfl)
theorem dX4_doProve_172 : decode cX4_doProve 172 = .ok (.iastore, 1) := dk_79 (dk_at dksX4_doProve_7 8 rfl rfl)
theorem dX4_doProve_173 : decode cX4_doProve 173 = .ok (.aload_n 0, 1) := dk_42 (dk_at dksX4_doProve_7 9 rfl rfl)
theorem dX4_doProve_174 : decode cX4_doProve 174 = .ok (.getfield 9, 3) := dk_180 0 9 (dk_at dksX4_doProve_7 10 rfl rfl)
theorem dX4_doProve_177 : decode cX4_doProve 177 = .ok (.iload 6, 2) := dk_21 6 (dk_at dksX4_doProve_7 13 rfl rfl)
theorem dX4_doProve_179 : decode cX4_doProve 179 = .ok (.iconst 2, 1) := dk_5 (dk_at dksX4_doProve_7 15 rfl rfl)
theorem dX4_doProve_180 : decode cX4_doProve 180 = .ok (.iadd, 1) := dk_96 (dk_at dksX4_doProve_7 16 rfl rfl)
theorem dX4_doProve_181 : decode cX4_doProve 181 = .ok (.dup2, 1) := dk_92 (dk_at dksX4_doProve_7 17 rfl rfl)
theorem dX4_doProve_182 : decode cX4_doProve 182 = .ok (.iaload, 1) := dk_46 (dk_at dksX4_doProve_7 18 rfl rfl)
theorem dX4_doProve_183 : decode cX4_doProve 183 = .ok (.iconst 1, 1) := dk_4 (dk_at dksX4_doProve_7 19 rfl rfl)
theorem dX4_doProve_184 : decode cX4_doProve 184 = .ok (.iadd, 1) := dk_96 (dk_at dksX4_doProve_7 20 rfl rfl)
theorem dX4_doProve_185 : decode cX4_doProve 185 = .ok (.iastore, 1) := dk_79 (dk_at dksX4_doProve_7 21 rfl rfl)
theorem dX4_doProve_186 : decode cX4_doProve 186 = .ok (.iinc 5 1, 3) := dk_132 5 1 (dk_at dksX4_doProve_8 0 rfl rfl)
theorem dX4_doProve_189 : decode cX4_doProve 189 = .ok (.goto (-118), 3) := dk_167 255 138 (dk_at dksX4_doProve_8 3 rfl rfl)
theorem dX4_doProve_192 : decode cX4_doProve 192 = .ok (.iload 4, 2) := dk_21 4 (dk_at dksX4_doProve_8 6 rfl rfl)
theorem dX4_doProve_194 : decode cX4_doProve 194 = .ok (.ireturn, 1) := dk_172 (dk_at dksX4_doProve_8 8 rfl rfl)
abbrev cX4_readerOf : ByteArray := prog_14_method_36_code
def yX4_readerOf : MethodName := ⟨RX4, "readerOf", "(II)I"⟩
def dkwX4_readerOf_4 : List UInt8 := [27, 96, 184, 0, 101, 46, 155, 0, 7, 4, 167, 0, 4, 3, 96, 62, 132, 4, 1, 167, 255, 217, 29, 172]
abbrev dktX4_readerOf_4 : List UInt8 := dkwX4_readerOf_4 ++ []
def dkwX4_readerOf_3 : List UInt8 := [62, 3, 54, 4, 21, 4, 42, 180, 0, 9, 4, 46, 162, 0, 34, 29, 42, 180, 0, 9, 21, 4, 16, 6]
abbrev dktX4_readerOf_3 : List UInt8 := dkwX4_readerOf_3 ++ dktX4_readerOf_4
def dkwX4_readerOf_2 : List UInt8 := [180, 0, 9, 16, 9, 6, 27, 104, 96, 28, 154, 0, 7, 3, 167, 0, 6, 28, 4, 100, 96, 46, 172, 3]
abbrev dktX4_readerOf_2 : List UInt8 := dkwX4_readerOf_2 ++ dktX4_readerOf_3
def dkwX4_readerOf_1 : List UInt8 := [167, 0, 4, 3, 181, 0, 52, 42, 180, 0, 52, 158, 0, 5, 3, 172, 28, 4, 159, 0, 27, 42]
abbrev dktX4_readerOf_1 : List UInt8 := dkwX4_readerOf_1 ++ dktX4_readerOf_2
def dkwX4_readerOf_0 : List UInt8 := [42, 27, 184, 0, 127, 154, 0, 7, 4, 167, 0, 17, 28, 3, 6, 184, 0, 64, 154, 0, 7, 5]
abbrev dktX4_readerOf_0 : List UInt8 := dkwX4_readerOf_0 ++ dktX4_readerOf_1
theorem dksX4_readerOf_0 : cX4_readerOf.data.toList.drop 0 = dktX4_readerOf_0 := by decide +kernel
theorem dksX4_readerOf_1 : cX4_readerOf.data.toList.drop 22 = dktX4_readerOf_1 := dk_seg dksX4_readerOf_0 22 rfl rfl
theorem dksX4_readerOf_2 : cX4_readerOf.data.toList.drop 44 = dktX4_readerOf_2 := dk_seg dksX4_readerOf_1 22 rfl rfl
theorem dksX4_readerOf_3 : cX4_readerOf.data.toList.drop 68 = dktX4_readerOf_3 := dk_seg dksX4_readerOf_2 24 rfl rfl
theorem dksX4_readerOf_4 : cX4_readerOf.data.toList.drop 92 = dktX4_readerOf_4 := dk_seg dksX4_readerOf_3 24 rfl rfl
theorem dX4_readerOf_0 : decode cX4_readerOf 0 = .ok (.aload_n 0, 1) := dk_42 (dk_at dksX4_readerOf_0 0 rfl rfl)
theorem dX4_readerOf_1 : decode cX4_readerOf 1 = .ok (.iload_n 1, 1) := dk_27 (dk_at dksX4_readerOf_0 1 rfl rfl)
theorem dX4_readerOf_2 : decode cX4_readerOf 2 = .ok (.invokestatic 127, 3) := dk_184 0 127 (dk_at dksX4_readerOf_0 2 rfl rfl)
theorem dX4_readerOf_5 : decode cX4_readerOf 5 = .ok (.ifCond .ne 7, 3) := dk_154 0 7 (dk_at dksX4_readerOf_0 5 rfl rfl)
theorem dX4_readerOf_8 : decode cX4_readerOf 8 = .ok (.iconst 1, 1) := dk_4 (dk_at dksX4_readerOf_0 8 rfl rfl)
theorem dX4_readerOf_9 : decode cX4_readerOf 9 = .ok (.goto 17, 3) := dk_167 0 17 (dk_at dksX4_readerOf_0 9 rfl rfl)
theorem dX4_readerOf_12 : decode cX4_readerOf 12 = .ok (.iload_n 2, 1) := dk_28 (dk_at dksX4_readerOf_0 12 rfl rfl)
theorem dX4_readerOf_13 : decode cX4_readerOf 13 = .ok (.iconst 0, 1) := dk_3 (dk_at dksX4_readerOf_0 13 rfl rfl)
theorem dX4_readerOf_14 : decode cX4_readerOf 14 = .ok (.iconst 3, 1) := dk_6 (dk_at dksX4_readerOf_0 14 rfl rfl)
theorem dX4_readerOf_15 : decode cX4_readerOf 15 = .ok (.invokestatic 64, 3) := dk_184 0 64 (dk_at dksX4_readerOf_0 15 rfl rfl)
theorem dX4_readerOf_18 : decode cX4_readerOf 18 = .ok (.ifCond .ne 7, 3) := dk_154 0 7 (dk_at dksX4_readerOf_0 18 rfl rfl)
theorem dX4_readerOf_21 : decode cX4_readerOf 21 = .ok (.iconst 2, 1) := dk_5 (dk_at dksX4_readerOf_0 21 rfl rfl)
theorem dX4_readerOf_22 : decode cX4_readerOf 22 = .ok (.goto 4, 3) := dk_167 0 4 (dk_at dksX4_readerOf_1 0 rfl rfl)
theorem dX4_readerOf_25 : decode cX4_readerOf 25 = .ok (.iconst 0, 1) := dk_3 (dk_at dksX4_readerOf_1 3 rfl rfl)
theorem dX4_readerOf_26 : decode cX4_readerOf 26 = .ok (.putfield 52, 3) := dk_181 0 52 (dk_at dksX4_readerOf_1 4 rfl rfl)
theorem dX4_readerOf_29 : decode cX4_readerOf 29 = .ok (.aload_n 0, 1) := dk_42 (dk_at dksX4_readerOf_1 7 rfl rfl)
theorem dX4_readerOf_30 : decode cX4_readerOf 30 = .ok (.getfield 52, 3) := dk_180 0 52 (dk_at dksX4_readerOf_1 8 rfl rfl)
theorem dX4_readerOf_33 : decode cX4_readerOf 33 = .ok (.ifCond .le 5, 3) := dk_158 0 5 (dk_at dksX4_readerOf_1 11 rfl rfl)
theorem dX4_readerOf_36 : decode cX4_readerOf 36 = .ok (.iconst 0, 1) := dk_3 (dk_at dksX4_readerOf_1 14 rfl rfl)
theorem dX4_readerOf_37 : decode cX4_readerOf 37 = .ok (.ireturn, 1) := dk_172 (dk_at dksX4_readerOf_1 15 rfl rfl)
theorem dX4_readerOf_38 : decode cX4_readerOf 38 = .ok (.iload_n 2, 1) := dk_28 (dk_at dksX4_readerOf_1 16 rfl rfl)
theorem dX4_readerOf_39 : decode cX4_readerOf 39 = .ok (.iconst 1, 1) := dk_4 (dk_at dksX4_readerOf_1 17 rfl rfl)
theorem dX4_readerOf_40 : decode cX4_readerOf 40 = .ok (.if_icmp .eq 27, 3) := dk_159 0 27 (dk_at dksX4_readerOf_1 18 rfl rfl)
theorem dX4_readerOf_43 : decode cX4_readerOf 43 = .ok (.aload_n 0, 1) := dk_42 (dk_at dksX4_readerOf_1 21 rfl rfl)
theorem dX4_readerOf_44 : decode cX4_readerOf 44 = .ok (.getfield 9, 3) := dk_180 0 9 (dk_at dksX4_readerOf_2 0 rfl rfl)
theorem dX4_readerOf_47 : decode cX4_readerOf 47 = .ok (.bipush 9, 2) := dk_16 9 (dk_at dksX4_readerOf_2 3 rfl rfl)
theorem dX4_readerOf_49 : decode cX4_readerOf 49 = .ok (.iconst 3, 1) := dk_6 (dk_at dksX4_readerOf_2 5 rfl rfl)
theorem dX4_readerOf_50 : decode cX4_readerOf 50 = .ok (.iload_n 1, 1) := dk_27 (dk_at dksX4_readerOf_2 6 rfl rfl)
theorem dX4_readerOf_51 : decode cX4_readerOf 51 = .ok (.imul, 1) := dk_104 (dk_at dksX4_readerOf_2 7 rfl rfl)
theorem dX4_readerOf_52 : decode cX4_readerOf 52 = .ok (.iadd, 1) := dk_96 (dk_at dksX4_readerOf_2 8 rfl rfl)
theorem dX4_readerOf_53 : decode cX4_readerOf 53 = .ok (.iload_n 2, 1) := dk_28 (dk_at dksX4_readerOf_2 9 rfl rfl)
theorem dX4_readerOf_54 : decode cX4_readerOf 54 = .ok (.ifCond .ne 7, 3) := dk_154 0 7 (dk_at dksX4_readerOf_2 10 rfl rfl)
theorem dX4_readerOf_57 : decode cX4_readerOf 57 = .ok (.iconst 0, 1) := dk_3 (dk_at dksX4_readerOf_2 13 rfl rfl)
theorem dX4_readerOf_58 : decode cX4_readerOf 58 = .ok (.goto 6, 3) := dk_167 0 6 (dk_at dksX4_readerOf_2 14 rfl rfl)
theorem dX4_readerOf_61 : decode cX4_readerOf 61 = .ok (.iload_n 2, 1) := dk_28 (dk_at dksX4_readerOf_2 17 rfl rfl)
theorem dX4_readerOf_62 : decode cX4_readerOf 62 = .ok (.iconst 1, 1) := dk_4 (dk_at dksX4_readerOf_2 18 rfl rfl)
theorem dX4_readerOf_63 : decode cX4_readerOf 63 = .ok (.isub, 1) := dk_100 (dk_at dksX4_readerOf_2 19 rfl rfl)
theorem dX4_readerOf_64 : decode cX4_readerOf 64 = .ok (.iadd, 1) := dk_96 (dk_at dksX4_readerOf_2 20 rfl rfl)
theorem dX4_readerOf_65 : decode cX4_readerOf 65 = .ok (.iaload, 1) := dk_46 (dk_at dksX4_readerOf_2 21 rfl rfl)
theorem dX4_readerOf_66 : decode cX4_readerOf 66 = .ok (.ireturn, 1) := dk_172 (dk_at dksX4_readerOf_2 22 rfl rfl)
theorem dX4_readerOf_67 : decode cX4_readerOf 67 = .ok (.iconst 0, 1) := dk_3 (dk_at dksX4_readerOf_2 23 rfl rfl)
theorem dX4_readerOf_68 : decode cX4_readerOf 68 = .ok (.istore_n 3, 1) := dk_62 (dk_at dksX4_readerOf_3 0 rfl rfl)
theorem dX4_readerOf_69 : decode cX4_readerOf 69 = .ok (.iconst 0, 1) := dk_3 (dk_at dksX4_readerOf_3 1 rfl rfl)
theorem dX4_readerOf_70 : decode cX4_readerOf 70 = .ok (.istore 4, 2) := dk_54 4 (dk_at dksX4_readerOf_3 2 rfl rfl)
theorem dX4_readerOf_72 : decode cX4_readerOf 72 = .ok (.iload 4, 2) := dk_21 4 (dk_at dksX4_readerOf_3 4 rfl rfl)
theorem dX4_readerOf_74 : decode cX4_readerOf 74 = .ok (.aload_n 0, 1) := dk_42 (dk_at dksX4_readerOf_3 6 rfl rfl)
theorem dX4_readerOf_75 : decode cX4_readerOf 75 = .ok (.getfield 9, 3) := dk_180 0 9 (dk_at dksX4_readerOf_3 7 rfl rfl)
theorem dX4_readerOf_78 : decode cX4_readerOf 78 = .ok (.iconst 1, 1) := dk_4 (dk_at dksX4_readerOf_3 10 rfl rfl)
theorem dX4_readerOf_79 : decode cX4_readerOf 79 = .ok (.iaload, 1) := dk_46 (dk_at dksX4_readerOf_3 11 rfl rfl)
theorem dX4_readerOf_80 : decode cX4_readerOf 80 = .ok (.if_icmp .ge 34, 3) := dk_162 0 34 (dk_at dksX4_readerOf_3 12 rfl rfl)
theorem dX4_readerOf_83 : decode cX4_readerOf 83 = .ok (.iload_n 3, 1) := dk_29 (dk_at dksX4_readerOf_3 15 rfl rfl)
theorem dX4_readerOf_84 : decode cX4_readerOf 84 = .ok (.aload_n 0, 1) := dk_42 (dk_at dksX4_readerOf_3 16 rfl rfl)
theorem dX4_readerOf_85 : decode cX4_readerOf 85 = .ok (.getfield 9, 3) := dk_180 0 9 (dk_at dksX4_readerOf_3 17 rfl rfl)
theorem dX4_readerOf_88 : decode cX4_readerOf 88 = .ok (.iload 4, 2) := dk_21 4 (dk_at dksX4_readerOf_3 20 rfl rfl)
theorem dX4_readerOf_90 : decode cX4_readerOf 90 = .ok (.bipush 6, 2) := dk_16 6 (dk_at dksX4_readerOf_3 22 rfl rfl)
theorem dX4_readerOf_92 : decode cX4_readerOf 92 = .ok (.iload_n 1, 1) := dk_27 (dk_at dksX4_readerOf_4 0 rfl rfl)
theorem dX4_readerOf_93 : decode cX4_readerOf 93 = .ok (.iadd, 1) := dk_96 (dk_at dksX4_readerOf_4 1 rfl rfl)
theorem dX4_readerOf_94 : decode cX4_readerOf 94 = .ok (.invokestatic 101, 3) := dk_184 0 101 (dk_at dksX4_readerOf_4 2 rfl rfl)
theorem dX4_readerOf_97 : decode cX4_readerOf 97 = .ok (.iaload, 1) := dk_46 (dk_at dksX4_readerOf_4 5 rfl rfl)
theorem dX4_readerOf_98 : decode cX4_readerOf 98 = .ok (.ifCond .lt 7, 3) := dk_155 0 7 (dk_at dksX4_readerOf_4 6 rfl rfl)
theorem dX4_readerOf_101 : decode cX4_readerOf 101 = .ok (.iconst 1, 1) := dk_4 (dk_at dksX4_readerOf_4 9 rfl rfl)
theorem dX4_readerOf_102 : decode cX4_readerOf 102 = .ok (.goto 4, 3) := dk_167 0 4 (dk_at dksX4_readerOf_4 10 rfl rfl)
theorem dX4_readerOf_105 : decode cX4_readerOf 105 = .ok (.iconst 0, 1) := dk_3 (dk_at dksX4_readerOf_4 13 rfl rfl)
theorem dX4_readerOf_106 : decode cX4_readerOf 106 = .ok (.iadd, 1) := dk_96 (dk_at dksX4_readerOf_4 14 rfl rfl)
theorem dX4_readerOf_107 : decode cX4_readerOf 107 = .ok (.istore_n 3, 1) := dk_62 (dk_at dksX4_readerOf_4 15 rfl rfl)
theorem dX4_readerOf_108 : decode cX4_readerOf 108 = .ok (.iinc 4 1, 3) := dk_132 4 1 (dk_at dksX4_readerOf_4 16 rfl rfl)
theorem dX4_readerOf_111 : decode cX4_readerOf 111 = .ok (.goto (-39), 3) := dk_167 255 217 (dk_at dksX4_readerOf_4 19 rfl rfl)
theorem dX4_readerOf_114 : decode cX4_readerOf 114 = .ok (.iload_n 3, 1) := dk_29 (dk_at dksX4_readerOf_4 22 rfl rfl)
theorem dX4_readerOf_115 : decode cX4_readerOf 115 = .ok (.ireturn, 1) := dk_172 (dk_at dksX4_readerOf_4 23 rfl rfl)
abbrev cX4_oath : ByteArray := prog_14_method_37_code
def yX4_oath : MethodName := ⟨RX4, "oath", "(II)I"⟩
def dkwX4_oath_2 : List UInt8 := [172]
abbrev dktX4_oath_2 : List UInt8 := dkwX4_oath_2 ++ []
def dkwX4_oath_1 : List UInt8 := [42, 180, 0, 52, 158, 0, 7, 3, 167, 0, 16, 42, 180, 0, 9, 28, 16, 6, 27, 96, 184, 0, 101, 46]
abbrev dktX4_oath_1 : List UInt8 := dkwX4_oath_1 ++ dktX4_oath_2
def dkwX4_oath_0 : List UInt8 := [42, 27, 184, 0, 127, 153, 0, 15, 42, 28, 182, 0, 111, 153, 0, 7, 3, 167, 0, 4, 4, 181, 0, 52]
abbrev dktX4_oath_0 : List UInt8 := dkwX4_oath_0 ++ dktX4_oath_1
theorem dksX4_oath_0 : cX4_oath.data.toList.drop 0 = dktX4_oath_0 := by decide +kernel
theorem dksX4_oath_1 : cX4_oath.data.toList.drop 24 = dktX4_oath_1 := dk_seg dksX4_oath_0 24 rfl rfl
theorem dksX4_oath_2 : cX4_oath.data.toList.drop 48 = dktX4_oath_2 := dk_seg dksX4_oath_1 24 rfl rfl
theorem dX4_oath_0 : decode cX4_oath 0 = .ok (.aload_n 0, 1) := dk_42 (dk_at dksX4_oath_0 0 rfl rfl)
theorem dX4_oath_1 : decode cX4_oath 1 = .ok (.iload_n 1, 1) := dk_27 (dk_at dksX4_oath_0 1 rfl rfl)
theorem dX4_oath_2 : decode cX4_oath 2 = .ok (.invokestatic 127, 3) := dk_184 0 127 (dk_at dksX4_oath_0 2 rfl rfl)
theorem dX4_oath_5 : decode cX4_oath 5 = .ok (.ifCond .eq 15, 3) := dk_153 0 15 (dk_at dksX4_oath_0 5 rfl rfl)
theorem dX4_oath_8 : decode cX4_oath 8 = .ok (.aload_n 0, 1) := dk_42 (dk_at dksX4_oath_0 8 rfl rfl)
theorem dX4_oath_9 : decode cX4_oath 9 = .ok (.iload_n 2, 1) := dk_28 (dk_at dksX4_oath_0 9 rfl rfl)
theorem dX4_oath_10 : decode cX4_oath 10 = .ok (.invokevirtual 111, 3) := dk_182 0 111 (dk_at dksX4_oath_0 10 rfl rfl)
theorem dX4_oath_13 : decode cX4_oath 13 = .ok (.ifCond .eq 7, 3) := dk_153 0 7 (dk_at dksX4_oath_0 13 rfl rfl)
theorem dX4_oath_16 : decode cX4_oath 16 = .ok (.iconst 0, 1) := dk_3 (dk_at dksX4_oath_0 16 rfl rfl)
theorem dX4_oath_17 : decode cX4_oath 17 = .ok (.goto 4, 3) := dk_167 0 4 (dk_at dksX4_oath_0 17 rfl rfl)
theorem dX4_oath_20 : decode cX4_oath 20 = .ok (.iconst 1, 1) := dk_4 (dk_at dksX4_oath_0 20 rfl rfl)
theorem dX4_oath_21 : decode cX4_oath 21 = .ok (.putfield 52, 3) := dk_181 0 52 (dk_at dksX4_oath_0 21 rfl rfl)
theorem dX4_oath_24 : decode cX4_oath 24 = .ok (.aload_n 0, 1) := dk_42 (dk_at dksX4_oath_1 0 rfl rfl)
theorem dX4_oath_25 : decode cX4_oath 25 = .ok (.getfield 52, 3) := dk_180 0 52 (dk_at dksX4_oath_1 1 rfl rfl)
theorem dX4_oath_28 : decode cX4_oath 28 = .ok (.ifCond .le 7, 3) := dk_158 0 7 (dk_at dksX4_oath_1 4 rfl rfl)
theorem dX4_oath_31 : decode cX4_oath 31 = .ok (.iconst 0, 1) := dk_3 (dk_at dksX4_oath_1 7 rfl rfl)
theorem dX4_oath_32 : decode cX4_oath 32 = .ok (.goto 16, 3) := dk_167 0 16 (dk_at dksX4_oath_1 8 rfl rfl)
theorem dX4_oath_35 : decode cX4_oath 35 = .ok (.aload_n 0, 1) := dk_42 (dk_at dksX4_oath_1 11 rfl rfl)
theorem dX4_oath_36 : decode cX4_oath 36 = .ok (.getfield 9, 3) := dk_180 0 9 (dk_at dksX4_oath_1 12 rfl rfl)
theorem dX4_oath_39 : decode cX4_oath 39 = .ok (.iload_n 2, 1) := dk_28 (dk_at dksX4_oath_1 15 rfl rfl)
theorem dX4_oath_40 : decode cX4_oath 40 = .ok (.bipush 6, 2) := dk_16 6 (dk_at dksX4_oath_1 16 rfl rfl)
theorem dX4_oath_42 : decode cX4_oath 42 = .ok (.iload_n 1, 1) := dk_27 (dk_at dksX4_oath_1 18 rfl rfl)
theorem dX4_oath_43 : decode cX4_oath 43 = .ok (.iadd, 1) := dk_96 (dk_at dksX4_oath_1 19 rfl rfl)
theorem dX4_oath_44 : decode cX4_oath 44 = .ok (.invokestatic 101, 3) := dk_184 0 101 (dk_at dksX4_oath_1 20 rfl rfl)
theorem dX4_oath_47 : decode cX4_oath 47 = .ok (.iaload, 1) := dk_46 (dk_at dksX4_oath_1 23 rfl rfl)
theorem dX4_oath_48 : decode cX4_oath 48 = .ok (.ireturn, 1) := dk_172 (dk_at dksX4_oath_2 0 rfl rfl)
abbrev cX4_chains : ByteArray := prog_14_method_48_code
def yX4_chains : MethodName := ⟨RX4, "chains", "(IZ)I"⟩
def dkwX4_chains_1 : List UInt8 := [3, 172, 42, 3, 182, 0, 171, 42, 27, 182, 0, 184, 172]
abbrev dktX4_chains_1 : List UInt8 := dkwX4_chains_1 ++ []
def dkwX4_chains_0 : List UInt8 := [42, 42, 27, 182, 0, 181, 153, 0, 7, 3, 167, 0, 4, 4, 181, 0, 52, 42, 180, 0, 52, 158, 0, 5]
abbrev dktX4_chains_0 : List UInt8 := dkwX4_chains_0 ++ dktX4_chains_1
theorem dksX4_chains_0 : cX4_chains.data.toList.drop 0 = dktX4_chains_0 := by decide +kernel
theorem dksX4_chains_1 : cX4_chains.data.toList.drop 24 = dktX4_chains_1 := dk_seg dksX4_chains_0 24 rfl rfl
theorem dX4_chains_0 : decode cX4_chains 0 = .ok (.aload_n 0, 1) := dk_42 (dk_at dksX4_chains_0 0 rfl rfl)
theorem dX4_chains_1 : decode cX4_chains 1 = .ok (.aload_n 0, 1) := dk_42 (dk_at dksX4_chains_0 1 rfl rfl)
theorem dX4_chains_2 : decode cX4_chains 2 = .ok (.iload_n 1, 1) := dk_27 (dk_at dksX4_chains_0 2 rfl rfl)
theorem dX4_chains_3 : decode cX4_chains 3 = .ok (.invokevirtual 181, 3) := dk_182 0 181 (dk_at dksX4_chains_0 3 rfl rfl)
theorem dX4_chains_6 : decode cX4_chains 6 = .ok (.ifCond .eq 7, 3) := dk_153 0 7 (dk_at dksX4_chains_0 6 rfl rfl)
theorem dX4_chains_9 : decode cX4_chains 9 = .ok (.iconst 0, 1) := dk_3 (dk_at dksX4_chains_0 9 rfl rfl)
theorem dX4_chains_10 : decode cX4_chains 10 = .ok (.goto 4, 3) := dk_167 0 4 (dk_at dksX4_chains_0 10 rfl rfl)
theorem dX4_chains_13 : decode cX4_chains 13 = .ok (.iconst 1, 1) := dk_4 (dk_at dksX4_chains_0 13 rfl rfl)
theorem dX4_chains_14 : decode cX4_chains 14 = .ok (.putfield 52, 3) := dk_181 0 52 (dk_at dksX4_chains_0 14 rfl rfl)
theorem dX4_chains_17 : decode cX4_chains 17 = .ok (.aload_n 0, 1) := dk_42 (dk_at dksX4_chains_0 17 rfl rfl)
theorem dX4_chains_18 : decode cX4_chains 18 = .ok (.getfield 52, 3) := dk_180 0 52 (dk_at dksX4_chains_0 18 rfl rfl)
theorem dX4_chains_21 : decode cX4_chains 21 = .ok (.ifCond .le 5, 3) := dk_158 0 5 (dk_at dksX4_chains_0 21 rfl rfl)
theorem dX4_chains_24 : decode cX4_chains 24 = .ok (.iconst 0, 1) := dk_3 (dk_at dksX4_chains_1 0 rfl rfl)
theorem dX4_chains_25 : decode cX4_chains 25 = .ok (.ireturn, 1) := dk_172 (dk_at dksX4_chains_1 1 rfl rfl)
theorem dX4_chains_26 : decode cX4_chains 26 = .ok (.aload_n 0, 1) := dk_42 (dk_at dksX4_chains_1 2 rfl rfl)
theorem dX4_chains_27 : decode cX4_chains 27 = .ok (.iconst 0, 1) := dk_3 (dk_at dksX4_chains_1 3 rfl rfl)
theorem dX4_chains_28 : decode cX4_chains 28 = .ok (.invokevirtual 171, 3) := dk_182 0 171 (dk_at dksX4_chains_1 4 rfl rfl)
theorem dX4_chains_31 : decode cX4_chains 31 = .ok (.aload_n 0, 1) := dk_42 (dk_at dksX4_chains_1 7 rfl rfl)
theorem dX4_chains_32 : decode cX4_chains 32 = .ok (.iload_n 1, 1) := dk_27 (dk_at dksX4_chains_1 8 rfl rfl)
theorem dX4_chains_33 : decode cX4_chains 33 = .ok (.invokevirtual 184, 3) := dk_182 0 184 (dk_at dksX4_chains_1 9 rfl rfl)
theorem dX4_chains_36 : decode cX4_chains 36 = .ok (.ireturn, 1) := dk_172 (dk_at dksX4_chains_1 12 rfl rfl)
abbrev cX4_isBook : ByteArray := prog_14_method_12_code
def yX4_isBook : MethodName := ⟨RX4, "isBook", "(I)Z"⟩
def dkwX4_isBook_0 : List UInt8 := [27, 3, 42, 180, 0, 9, 3, 46, 4, 100, 184, 0, 64, 172]
abbrev dktX4_isBook_0 : List UInt8 := dkwX4_isBook_0 ++ []
theorem dksX4_isBook_0 : cX4_isBook.data.toList.drop 0 = dktX4_isBook_0 := by decide +kernel
theorem dX4_isBook_0 : decode cX4_isBook 0 = .ok (.iload_n 1, 1) := dk_27 (dk_at dksX4_isBook_0 0 rfl rfl)
theorem dX4_isBook_1 : decode cX4_isBook 1 = .ok (.iconst 0, 1) := dk_3 (dk_at dksX4_isBook_0 1 rfl rfl)
theorem dX4_isBook_2 : decode cX4_isBook 2 = .ok (.aload_n 0, 1) := dk_42 (dk_at dksX4_isBook_0 2 rfl rfl)
theorem dX4_isBook_3 : decode cX4_isBook 3 = .ok (.getfield 9, 3) := dk_180 0 9 (dk_at dksX4_isBook_0 3 rfl rfl)
theorem dX4_isBook_6 : decode cX4_isBook 6 = .ok (.iconst 0, 1) := dk_3 (dk_at dksX4_isBook_0 6 rfl rfl)
theorem dX4_isBook_7 : decode cX4_isBook 7 = .ok (.iaload, 1) := dk_46 (dk_at dksX4_isBook_0 7 rfl rfl)
theorem dX4_isBook_8 : decode cX4_isBook 8 = .ok (.iconst 1, 1) := dk_4 (dk_at dksX4_isBook_0 8 rfl rfl)
theorem dX4_isBook_9 : decode cX4_isBook 9 = .ok (.isub, 1) := dk_100 (dk_at dksX4_isBook_0 9 rfl rfl)
theorem dX4_isBook_10 : decode cX4_isBook 10 = .ok (.invokestatic 64, 3) := dk_184 0 64 (dk_at dksX4_isBook_0 10 rfl rfl)
theorem dX4_isBook_13 : decode cX4_isBook 13 = .ok (.ireturn, 1) := dk_172 (dk_at dksX4_isBook_0 13 rfl rfl)
abbrev cX4_uses : ByteArray := prog_14_method_38_code
def yX4_uses : MethodName := ⟨RX4, "uses", "(Z)V"⟩
def dkwX4_uses_2 : List UInt8 := [167, 255, 222, 177]
abbrev dktX4_uses_2 : List UInt8 := dkwX4_uses_2 ++ []
def dkwX4_uses_1 : List UInt8 := [28, 27, 154, 0, 11, 42, 28, 182, 0, 149, 153, 0, 7, 4, 167, 0, 4, 3, 84, 132, 2, 1]
abbrev dktX4_uses_1 : List UInt8 := dkwX4_uses_1 ++ dktX4_uses_2
def dkwX4_uses_0 : List UInt8 := [42, 42, 180, 0, 9, 4, 46, 181, 0, 146, 3, 61, 28, 42, 180, 0, 146, 162, 0, 32, 42, 180, 0, 25]
abbrev dktX4_uses_0 : List UInt8 := dkwX4_uses_0 ++ dktX4_uses_1
theorem dksX4_uses_0 : cX4_uses.data.toList.drop 0 = dktX4_uses_0 := by decide +kernel
theorem dksX4_uses_1 : cX4_uses.data.toList.drop 24 = dktX4_uses_1 := dk_seg dksX4_uses_0 24 rfl rfl
theorem dksX4_uses_2 : cX4_uses.data.toList.drop 46 = dktX4_uses_2 := dk_seg dksX4_uses_1 22 rfl rfl
theorem dX4_uses_0 : decode cX4_uses 0 = .ok (.aload_n 0, 1) := dk_42 (dk_at dksX4_uses_0 0 rfl rfl)
theorem dX4_uses_1 : decode cX4_uses 1 = .ok (.aload_n 0, 1) := dk_42 (dk_at dksX4_uses_0 1 rfl rfl)
theorem dX4_uses_2 : decode cX4_uses 2 = .ok (.getfield 9, 3) := dk_180 0 9 (dk_at dksX4_uses_0 2 rfl rfl)
theorem dX4_uses_5 : decode cX4_uses 5 = .ok (.iconst 1, 1) := dk_4 (dk_at dksX4_uses_0 5 rfl rfl)
theorem dX4_uses_6 : decode cX4_uses 6 = .ok (.iaload, 1) := dk_46 (dk_at dksX4_uses_0 6 rfl rfl)
theorem dX4_uses_7 : decode cX4_uses 7 = .ok (.putfield 146, 3) := dk_181 0 146 (dk_at dksX4_uses_0 7 rfl rfl)
theorem dX4_uses_10 : decode cX4_uses 10 = .ok (.iconst 0, 1) := dk_3 (dk_at dksX4_uses_0 10 rfl rfl)
theorem dX4_uses_11 : decode cX4_uses 11 = .ok (.istore_n 2, 1) := dk_61 (dk_at dksX4_uses_0 11 rfl rfl)
theorem dX4_uses_12 : decode cX4_uses 12 = .ok (.iload_n 2, 1) := dk_28 (dk_at dksX4_uses_0 12 rfl rfl)
theorem dX4_uses_13 : decode cX4_uses 13 = .ok (.aload_n 0, 1) := dk_42 (dk_at dksX4_uses_0 13 rfl rfl)
theorem dX4_uses_14 : decode cX4_uses 14 = .ok (.getfield 146, 3) := dk_180 0 146 (dk_at dksX4_uses_0 14 rfl rfl)
theorem dX4_uses_17 : decode cX4_uses 17 = .ok (.if_icmp .ge 32, 3) := dk_162 0 32 (dk_at dksX4_uses_0 17 rfl rfl)
theorem dX4_uses_20 : decode cX4_uses 20 = .ok (.aload_n 0, 1) := dk_42 (dk_at dksX4_uses_0 20 rfl rfl)
theorem dX4_uses_21 : decode cX4_uses 21 = .ok (.getfield 25, 3) := dk_180 0 25 (dk_at dksX4_uses_0 21 rfl rfl)
theorem dX4_uses_24 : decode cX4_uses 24 = .ok (.iload_n 2, 1) := dk_28 (dk_at dksX4_uses_1 0 rfl rfl)
theorem dX4_uses_25 : decode cX4_uses 25 = .ok (.iload_n 1, 1) := dk_27 (dk_at dksX4_uses_1 1 rfl rfl)
theorem dX4_uses_26 : decode cX4_uses 26 = .ok (.ifCond .ne 11, 3) := dk_154 0 11 (dk_at dksX4_uses_1 2 rfl rfl)
theorem dX4_uses_29 : decode cX4_uses 29 = .ok (.aload_n 0, 1) := dk_42 (dk_at dksX4_uses_1 5 rfl rfl)
theorem dX4_uses_30 : decode cX4_uses 30 = .ok (.iload_n 2, 1) := dk_28 (dk_at dksX4_uses_1 6 rfl rfl)
theorem dX4_uses_31 : decode cX4_uses 31 = .ok (.invokevirtual 149, 3) := dk_182 0 149 (dk_at dksX4_uses_1 7 rfl rfl)
theorem dX4_uses_34 : decode cX4_uses 34 = .ok (.ifCond .eq 7, 3) := dk_153 0 7 (dk_at dksX4_uses_1 10 rfl rfl)
theorem dX4_uses_37 : decode cX4_uses 37 = .ok (.iconst 1, 1) := dk_4 (dk_at dksX4_uses_1 13 rfl rfl)
theorem dX4_uses_38 : decode cX4_uses 38 = .ok (.goto 4, 3) := dk_167 0 4 (dk_at dksX4_uses_1 14 rfl rfl)
theorem dX4_uses_41 : decode cX4_uses 41 = .ok (.iconst 0, 1) := dk_3 (dk_at dksX4_uses_1 17 rfl rfl)
theorem dX4_uses_42 : decode cX4_uses 42 = .ok (.bastore, 1) := dk_84 (dk_at dksX4_uses_1 18 rfl rfl)
theorem dX4_uses_43 : decode cX4_uses 43 = .ok (.iinc 2 1, 3) := dk_132 2 1 (dk_at dksX4_uses_1 19 rfl rfl)
theorem dX4_uses_46 : decode cX4_uses 46 = .ok (.goto (-34), 3) := dk_167 255 222 (dk_at dksX4_uses_2 0 rfl rfl)
theorem dX4_uses_49 : decode cX4_uses 49 = .ok (.return_, 1) := dk_177 (dk_at dksX4_uses_2 3 rfl rfl)
abbrev cX4_counts : ByteArray := prog_14_method_31_code
def yX4_counts : MethodName := ⟨RX4, "counts", "(I)Z"⟩
def dkwX4_counts_1 : List UInt8 := [182, 0, 124, 155, 0, 7, 4, 167, 0, 4, 3, 172]
abbrev dktX4_counts_1 : List UInt8 := dkwX4_counts_1 ++ []
def dkwX4_counts_0 : List UInt8 := [42, 180, 0, 9, 27, 8, 184, 0, 101, 46, 61, 28, 4, 159, 0, 15, 28, 156, 0, 15, 42, 27]
abbrev dktX4_counts_0 : List UInt8 := dkwX4_counts_0 ++ dktX4_counts_1
theorem dksX4_counts_0 : cX4_counts.data.toList.drop 0 = dktX4_counts_0 := by decide +kernel
theorem dksX4_counts_1 : cX4_counts.data.toList.drop 22 = dktX4_counts_1 := dk_seg dksX4_counts_0 22 rfl rfl
theorem dX4_counts_0 : decode cX4_counts 0 = .ok (.aload_n 0, 1) := dk_42 (dk_at dksX4_counts_0 0 rfl rfl)
theorem dX4_counts_1 : decode cX4_counts 1 = .ok (.getfield 9, 3) := dk_180 0 9 (dk_at dksX4_counts_0 1 rfl rfl)
theorem dX4_counts_4 : decode cX4_counts 4 = .ok (.iload_n 1, 1) := dk_27 (dk_at dksX4_counts_0 4 rfl rfl)
theorem dX4_counts_5 : decode cX4_counts 5 = .ok (.iconst 5, 1) := dk_8 (dk_at dksX4_counts_0 5 rfl rfl)
theorem dX4_counts_6 : decode cX4_counts 6 = .ok (.invokestatic 101, 3) := dk_184 0 101 (dk_at dksX4_counts_0 6 rfl rfl)
theorem dX4_counts_9 : decode cX4_counts 9 = .ok (.iaload, 1) := dk_46 (dk_at dksX4_counts_0 9 rfl rfl)
theorem dX4_counts_10 : decode cX4_counts 10 = .ok (.istore_n 2, 1) := dk_61 (dk_at dksX4_counts_0 10 rfl rfl)
theorem dX4_counts_11 : decode cX4_counts 11 = .ok (.iload_n 2, 1) := dk_28 (dk_at dksX4_counts_0 11 rfl rfl)
theorem dX4_counts_12 : decode cX4_counts 12 = .ok (.iconst 1, 1) := dk_4 (dk_at dksX4_counts_0 12 rfl rfl)
theorem dX4_counts_13 : decode cX4_counts 13 = .ok (.if_icmp .eq 15, 3) := dk_159 0 15 (dk_at dksX4_counts_0 13 rfl rfl)
theorem dX4_counts_16 : decode cX4_counts 16 = .ok (.iload_n 2, 1) := dk_28 (dk_at dksX4_counts_0 16 rfl rfl)
theorem dX4_counts_17 : decode cX4_counts 17 = .ok (.ifCond .ge 15, 3) := dk_156 0 15 (dk_at dksX4_counts_0 17 rfl rfl)
theorem dX4_counts_20 : decode cX4_counts 20 = .ok (.aload_n 0, 1) := dk_42 (dk_at dksX4_counts_0 20 rfl rfl)
theorem dX4_counts_21 : decode cX4_counts 21 = .ok (.iload_n 1, 1) := dk_27 (dk_at dksX4_counts_0 21 rfl rfl)
theorem dX4_counts_22 : decode cX4_counts 22 = .ok (.invokevirtual 124, 3) := dk_182 0 124 (dk_at dksX4_counts_1 0 rfl rfl)
theorem dX4_counts_25 : decode cX4_counts 25 = .ok (.ifCond .lt 7, 3) := dk_155 0 7 (dk_at dksX4_counts_1 3 rfl rfl)
theorem dX4_counts_28 : decode cX4_counts 28 = .ok (.iconst 1, 1) := dk_4 (dk_at dksX4_counts_1 6 rfl rfl)
theorem dX4_counts_29 : decode cX4_counts 29 = .ok (.goto 4, 3) := dk_167 0 4 (dk_at dksX4_counts_1 7 rfl rfl)
theorem dX4_counts_32 : decode cX4_counts 32 = .ok (.iconst 0, 1) := dk_3 (dk_at dksX4_counts_1 10 rfl rfl)
theorem dX4_counts_33 : decode cX4_counts 33 = .ok (.ireturn, 1) := dk_172 (dk_at dksX4_counts_1 11 rfl rfl)
abbrev cX4_chainsOf : ByteArray := prog_14_method_42_code
def yX4_chainsOf : MethodName := ⟨RX4, "chainsOf", "(I)I"⟩
def dkwX4_chainsOf_0 : List UInt8 := [42, 27, 42, 27, 4, 182, 0, 152, 42, 27, 6, 182, 0, 152, 182, 0, 162, 172]
abbrev dktX4_chainsOf_0 : List UInt8 := dkwX4_chainsOf_0 ++ []
theorem dksX4_chainsOf_0 : cX4_chainsOf.data.toList.drop 0 = dktX4_chainsOf_0 := by decide +kernel
theorem dX4_chainsOf_0 : decode cX4_chainsOf 0 = .ok (.aload_n 0, 1) := dk_42 (dk_at dksX4_chainsOf_0 0 rfl rfl)
theorem dX4_chainsOf_1 : decode cX4_chainsOf 1 = .ok (.iload_n 1, 1) := dk_27 (dk_at dksX4_chainsOf_0 1 rfl rfl)
theorem dX4_chainsOf_2 : decode cX4_chainsOf 2 = .ok (.aload_n 0, 1) := dk_42 (dk_at dksX4_chainsOf_0 2 rfl rfl)
theorem dX4_chainsOf_3 : decode cX4_chainsOf 3 = .ok (.iload_n 1, 1) := dk_27 (dk_at dksX4_chainsOf_0 3 rfl rfl)
theorem dX4_chainsOf_4 : decode cX4_chainsOf 4 = .ok (.iconst 1, 1) := dk_4 (dk_at dksX4_chainsOf_0 4 rfl rfl)
theorem dX4_chainsOf_5 : decode cX4_chainsOf 5 = .ok (.invokevirtual 152, 3) := dk_182 0 152 (dk_at dksX4_chainsOf_0 5 rfl rfl)
theorem dX4_chainsOf_8 : decode cX4_chainsOf 8 = .ok (.aload_n 0, 1) := dk_42 (dk_at dksX4_chainsOf_0 8 rfl rfl)
theorem dX4_chainsOf_9 : decode cX4_chainsOf 9 = .ok (.iload_n 1, 1) := dk_27 (dk_at dksX4_chainsOf_0 9 rfl rfl)
theorem dX4_chainsOf_10 : decode cX4_chainsOf 10 = .ok (.iconst 3, 1) := dk_6 (dk_at dksX4_chainsOf_0 10 rfl rfl)
theorem dX4_chainsOf_11 : decode cX4_chainsOf 11 = .ok (.invokevirtual 152, 3) := dk_182 0 152 (dk_at dksX4_chainsOf_0 11 rfl rfl)
theorem dX4_chainsOf_14 : decode cX4_chainsOf 14 = .ok (.invokevirtual 162, 3) := dk_182 0 162 (dk_at dksX4_chainsOf_0 14 rfl rfl)
theorem dX4_chainsOf_17 : decode cX4_chainsOf 17 = .ok (.ireturn, 1) := dk_172 (dk_at dksX4_chainsOf_0 17 rfl rfl)
abbrev cX4_ofBook : ByteArray := prog_14_method_16_code
def yX4_ofBook : MethodName := ⟨RX4, "ofBook", "(II)I"⟩
def dkwX4_ofBook_0 : List UInt8 := [42, 180, 0, 9, 16, 96, 16, 6, 27, 104, 96, 28, 96, 46, 172]
abbrev dktX4_ofBook_0 : List UInt8 := dkwX4_ofBook_0 ++ []
theorem dksX4_ofBook_0 : cX4_ofBook.data.toList.drop 0 = dktX4_ofBook_0 := by decide +kernel
theorem dX4_ofBook_0 : decode cX4_ofBook 0 = .ok (.aload_n 0, 1) := dk_42 (dk_at dksX4_ofBook_0 0 rfl rfl)
theorem dX4_ofBook_1 : decode cX4_ofBook 1 = .ok (.getfield 9, 3) := dk_180 0 9 (dk_at dksX4_ofBook_0 1 rfl rfl)
theorem dX4_ofBook_4 : decode cX4_ofBook 4 = .ok (.bipush 96, 2) := dk_16 96 (dk_at dksX4_ofBook_0 4 rfl rfl)
theorem dX4_ofBook_6 : decode cX4_ofBook 6 = .ok (.bipush 6, 2) := dk_16 6 (dk_at dksX4_ofBook_0 6 rfl rfl)
theorem dX4_ofBook_8 : decode cX4_ofBook 8 = .ok (.iload_n 1, 1) := dk_27 (dk_at dksX4_ofBook_0 8 rfl rfl)
theorem dX4_ofBook_9 : decode cX4_ofBook 9 = .ok (.imul, 1) := dk_104 (dk_at dksX4_ofBook_0 9 rfl rfl)
theorem dX4_ofBook_10 : decode cX4_ofBook 10 = .ok (.iadd, 1) := dk_96 (dk_at dksX4_ofBook_0 10 rfl rfl)
theorem dX4_ofBook_11 : decode cX4_ofBook 11 = .ok (.iload_n 2, 1) := dk_28 (dk_at dksX4_ofBook_0 11 rfl rfl)
theorem dX4_ofBook_12 : decode cX4_ofBook 12 = .ok (.iadd, 1) := dk_96 (dk_at dksX4_ofBook_0 12 rfl rfl)
theorem dX4_ofBook_13 : decode cX4_ofBook 13 = .ok (.iaload, 1) := dk_46 (dk_at dksX4_ofBook_0 13 rfl rfl)
theorem dX4_ofBook_14 : decode cX4_ofBook 14 = .ok (.ireturn, 1) := dk_172 (dk_at dksX4_ofBook_0 14 rfl rfl)
abbrev cX4_chainsFrom : ByteArray := prog_14_method_41_code
def yX4_chainsFrom : MethodName := ⟨RX4, "chainsFrom", "(III)I"⟩
def dkwX4_chainsFrom_3 : List UInt8 := [182, 0, 162, 96, 54, 4, 132, 5, 1, 167, 255, 184, 17, 3, 231, 21, 4, 184, 0, 134, 172]
abbrev dktX4_chainsFrom_3 : List UInt8 := dkwX4_chainsFrom_3 ++ []
def dkwX4_chainsFrom_2 : List UInt8 := [180, 0, 9, 21, 5, 4, 184, 0, 101, 46, 4, 96, 42, 180, 0, 9, 21, 5, 6, 184, 0, 101, 46]
abbrev dktX4_chainsFrom_2 : List UInt8 := dkwX4_chainsFrom_2 ++ dktX4_chainsFrom_3
def dkwX4_chainsFrom_1 : List UInt8 := [153, 0, 51, 21, 4, 42, 21, 5, 27, 182, 0, 159, 153, 0, 7, 4, 167, 0, 32, 42, 27, 42]
abbrev dktX4_chainsFrom_1 : List UInt8 := dkwX4_chainsFrom_1 ++ dktX4_chainsFrom_2
def dkwX4_chainsFrom_0 : List UInt8 := [3, 54, 4, 3, 54, 5, 21, 5, 42, 180, 0, 146, 162, 0, 69, 42, 21, 5, 27, 28, 29, 182, 0, 155]
abbrev dktX4_chainsFrom_0 : List UInt8 := dkwX4_chainsFrom_0 ++ dktX4_chainsFrom_1
theorem dksX4_chainsFrom_0 : cX4_chainsFrom.data.toList.drop 0 = dktX4_chainsFrom_0 := by decide +kernel
theorem dksX4_chainsFrom_1 : cX4_chainsFrom.data.toList.drop 24 = dktX4_chainsFrom_1 := dk_seg dksX4_chainsFrom_0 24 rfl rfl
theorem dksX4_chainsFrom_2 : cX4_chainsFrom.data.toList.drop 46 = dktX4_chainsFrom_2 := dk_seg dksX4_chainsFrom_1 22 rfl rfl
theorem dksX4_chainsFrom_3 : cX4_chainsFrom.data.toList.drop 69 = dktX4_chainsFrom_3 := dk_seg dksX4_chainsFrom_2 23 rfl rfl
theorem dX4_chainsFrom_0 : decode cX4_chainsFrom 0 = .ok (.iconst 0, 1) := dk_3 (dk_at dksX4_chainsFrom_0 0 rfl rfl)
theorem dX4_chainsFrom_1 : decode cX4_chainsFrom 1 = .ok (.istore 4, 2) := dk_54 4 (dk_at dksX4_chainsFrom_0 1 rfl rfl)
theorem dX4_chainsFrom_3 : decode cX4_chainsFrom 3 = .ok (.iconst 0, 1) := dk_3 (dk_at dksX4_chainsFrom_0 3 rfl rfl)
theorem dX4_chainsFrom_4 : decode cX4_chainsFrom 4 = .ok (.istore 5, 2) := dk_54 5 (dk_at dksX4_chainsFrom_0 4 rfl rfl)
theorem dX4_chainsFrom_6 : decode cX4_chainsFrom 6 = .ok (.iload 5, 2) := dk_21 5 (dk_at dksX4_chainsFrom_0 6 rfl rfl)
theorem dX4_chainsFrom_8 : decode cX4_chainsFrom 8 = .ok (.aload_n 0, 1) := dk_42 (dk_at dksX4_chainsFrom_0 8 rfl rfl)
theorem dX4_chainsFrom_9 : decode cX4_chainsFrom 9 = .ok (.getfield 146, 3) := dk_180 0 146 (dk_at dksX4_chainsFrom_0 9 rfl rfl)
theorem dX4_chainsFrom_12 : decode cX4_chainsFrom 12 = .ok (.if_icmp .ge 69, 3) := dk_162 0 69 (dk_at dksX4_chainsFrom_0 12 rfl rfl)
theorem dX4_chainsFrom_15 : decode cX4_chainsFrom 15 = .ok (.aload_n 0, 1) := dk_42 (dk_at dksX4_chainsFrom_0 15 rfl rfl)
theorem dX4_chainsFrom_16 : decode cX4_chainsFrom 16 = .ok (.iload 5, 2) := dk_21 5 (dk_at dksX4_chainsFrom_0 16 rfl rfl)
theorem dX4_chainsFrom_18 : decode cX4_chainsFrom 18 = .ok (.iload_n 1, 1) := dk_27 (dk_at dksX4_chainsFrom_0 18 rfl rfl)
theorem dX4_chainsFrom_19 : decode cX4_chainsFrom 19 = .ok (.iload_n 2, 1) := dk_28 (dk_at dksX4_chainsFrom_0 19 rfl rfl)
theorem dX4_chainsFrom_20 : decode cX4_chainsFrom 20 = .ok (.iload_n 3, 1) := dk_29 (dk_at dksX4_chainsFrom_0 20 rfl rfl)
theorem dX4_chainsFrom_21 : decode cX4_chainsFrom 21 = .ok (.invokevirtual 155, 3) := dk_182 0 155 (dk_at dksX4_chainsFrom_0 21 rfl rfl)
theorem dX4_chainsFrom_24 : decode cX4_chainsFrom 24 = .ok (.ifCond .eq 51, 3) := dk_153 0 51 (dk_at dksX4_chainsFrom_1 0 rfl rfl)
theorem dX4_chainsFrom_27 : decode cX4_chainsFrom 27 = .ok (.iload 4, 2) := dk_21 4 (dk_at dksX4_chainsFrom_1 3 rfl rfl)
theorem dX4_chainsFrom_29 : decode cX4_chainsFrom 29 = .ok (.aload_n 0, 1) := dk_42 (dk_at dksX4_chainsFrom_1 5 rfl rfl)
theorem dX4_chainsFrom_30 : decode cX4_chainsFrom 30 = .ok (.iload 5, 2) := dk_21 5 (dk_at dksX4_chainsFrom_1 6 rfl rfl)
theorem dX4_chainsFrom_32 : decode cX4_chainsFrom 32 = .ok (.iload_n 1, 1) := dk_27 (dk_at dksX4_chainsFrom_1 8 rfl rfl)
theorem dX4_chainsFrom_33 : decode cX4_chainsFrom 33 = .ok (.invokevirtual 159, 3) := dk_182 0 159 (dk_at dksX4_chainsFrom_1 9 rfl rfl)
theorem dX4_chainsFrom_36 : decode cX4_chainsFrom 36 = .ok (.ifCond .eq 7, 3) := dk_153 0 7 (dk_at dksX4_chainsFrom_1 12 rfl rfl)
theorem dX4_chainsFrom_39 : decode cX4_chainsFrom 39 = .ok (.iconst 1, 1) := dk_4 (dk_at dksX4_chainsFrom_1 15 rfl rfl)
theorem dX4_chainsFrom_40 : decode cX4_chainsFrom 40 = .ok (.goto 32, 3) := dk_167 0 32 (dk_at dksX4_chainsFrom_1 16 rfl rfl)
theorem dX4_chainsFrom_43 : decode cX4_chainsFrom 43 = .ok (.aload_n 0, 1) := dk_42 (dk_at dksX4_chainsFrom_1 19 rfl rfl)
theorem dX4_chainsFrom_44 : decode cX4_chainsFrom 44 = .ok (.iload_n 1, 1) := dk_27 (dk_at dksX4_chainsFrom_1 20 rfl rfl)
theorem dX4_chainsFrom_45 : decode cX4_chainsFrom 45 = .ok (.aload_n 0, 1) := dk_42 (dk_at dksX4_chainsFrom_1 21 rfl rfl)
theorem dX4_chainsFrom_46 : decode cX4_chainsFrom 46 = .ok (.getfield 9, 3) := dk_180 0 9 (dk_at dksX4_chainsFrom_2 0 rfl rfl)
theorem dX4_chainsFrom_49 : decode cX4_chainsFrom 49 = .ok (.iload 5, 2) := dk_21 5 (dk_at dksX4_chainsFrom_2 3 rfl rfl)
theorem dX4_chainsFrom_51 : decode cX4_chainsFrom 51 = .ok (.iconst 1, 1) := dk_4 (dk_at dksX4_chainsFrom_2 5 rfl rfl)
theorem dX4_chainsFrom_52 : decode cX4_chainsFrom 52 = .ok (.invokestatic 101, 3) := dk_184 0 101 (dk_at dksX4_chainsFrom_2 6 rfl rfl)
theorem dX4_chainsFrom_55 : decode cX4_chainsFrom 55 = .ok (.iaload, 1) := dk_46 (dk_at dksX4_chainsFrom_2 9 rfl rfl)
theorem dX4_chainsFrom_56 : decode cX4_chainsFrom 56 = .ok (.iconst 1, 1) := dk_4 (dk_at dksX4_chainsFrom_2 10 rfl rfl)
theorem dX4_chainsFrom_57 : decode cX4_chainsFrom 57 = .ok (.iadd, 1) := dk_96 (dk_at dksX4_chainsFrom_2 11 rfl rfl)
theorem dX4_chainsFrom_58 : decode cX4_chainsFrom 58 = .ok (.aload_n 0, 1) := dk_42 (dk_at dksX4_chainsFrom_2 12 rfl rfl)
theorem dX4_chainsFrom_59 : decode cX4_chainsFrom 59 = .ok (.getfield 9, 3) := dk_180 0 9 (dk_at dksX4_chainsFrom_2 13 rfl rfl)
theorem dX4_chainsFrom_62 : decode cX4_chainsFrom 62 = .ok (.iload 5, 2) := dk_21 5 (dk_at dksX4_chainsFrom_2 16 rfl rfl)
theorem dX4_chainsFrom_64 : decode cX4_chainsFrom 64 = .ok (.iconst 3, 1) := dk_6 (dk_at dksX4_chainsFrom_2 18 rfl rfl)
theorem dX4_chainsFrom_65 : decode cX4_chainsFrom 65 = .ok (.invokestatic 101, 3) := dk_184 0 101 (dk_at dksX4_chainsFrom_2 19 rfl rfl)
theorem dX4_chainsFrom_68 : decode cX4_chainsFrom 68 = .ok (.iaload, 1) := dk_46 (dk_at dksX4_chainsFrom_2 22 rfl rfl)
theorem dX4_chainsFrom_69 : decode cX4_chainsFrom 69 = .ok (.invokevirtual 162, 3) := dk_182 0 162 (dk_at dksX4_chainsFrom_3 0 rfl rfl)
theorem dX4_chainsFrom_72 : decode cX4_chainsFrom 72 = .ok (.iadd, 1) := dk_96 (dk_at dksX4_chainsFrom_3 3 rfl rfl)
theorem dX4_chainsFrom_73 : decode cX4_chainsFrom 73 = .ok (.istore 4, 2) := dk_54 4 (dk_at dksX4_chainsFrom_3 4 rfl rfl)
theorem dX4_chainsFrom_75 : decode cX4_chainsFrom 75 = .ok (.iinc 5 1, 3) := dk_132 5 1 (dk_at dksX4_chainsFrom_3 6 rfl rfl)
theorem dX4_chainsFrom_78 : decode cX4_chainsFrom 78 = .ok (.goto (-72), 3) := dk_167 255 184 (dk_at dksX4_chainsFrom_3 9 rfl rfl)
theorem dX4_chainsFrom_81 : decode cX4_chainsFrom 81 = .ok (.sipush 999, 3) := dk_17 3 231 (dk_at dksX4_chainsFrom_3 12 rfl rfl)
theorem dX4_chainsFrom_84 : decode cX4_chainsFrom 84 = .ok (.iload 4, 2) := dk_21 4 (dk_at dksX4_chainsFrom_3 15 rfl rfl)
theorem dX4_chainsFrom_86 : decode cX4_chainsFrom 86 = .ok (.invokestatic 134, 3) := dk_184 0 134 (dk_at dksX4_chainsFrom_3 17 rfl rfl)
theorem dX4_chainsFrom_89 : decode cX4_chainsFrom 89 = .ok (.ireturn, 1) := dk_172 (dk_at dksX4_chainsFrom_3 20 rfl rfl)
abbrev cX4_goesOn : ByteArray := prog_14_method_39_code
def yX4_goesOn : MethodName := ⟨RX4, "goesOn", "(IIII)Z"⟩
def dkwX4_goesOn_3 : List UInt8 := [167, 0, 4, 3, 172]
abbrev dktX4_goesOn_3 : List UInt8 := dkwX4_goesOn_3 ++ []
def dkwX4_goesOn_2 : List UInt8 := [153, 0, 26, 42, 180, 0, 9, 27, 4, 184, 0, 101, 46, 42, 28, 5, 182, 0, 152, 163, 0, 7, 4]
abbrev dktX4_goesOn_2 : List UInt8 := dkwX4_goesOn_2 ++ dktX4_goesOn_3
def dkwX4_goesOn_1 : List UInt8 := [180, 0, 9, 27, 5, 184, 0, 101, 46, 21, 4, 160, 0, 7, 4, 167, 0, 4, 3, 54, 5, 21, 5]
abbrev dktX4_goesOn_1 : List UInt8 := dkwX4_goesOn_1 ++ dktX4_goesOn_2
def dkwX4_goesOn_0 : List UInt8 := [42, 180, 0, 25, 27, 51, 153, 0, 36, 42, 180, 0, 9, 27, 3, 184, 0, 101, 46, 29, 160, 0, 22, 42]
abbrev dktX4_goesOn_0 : List UInt8 := dkwX4_goesOn_0 ++ dktX4_goesOn_1
theorem dksX4_goesOn_0 : cX4_goesOn.data.toList.drop 0 = dktX4_goesOn_0 := by decide +kernel
theorem dksX4_goesOn_1 : cX4_goesOn.data.toList.drop 24 = dktX4_goesOn_1 := dk_seg dksX4_goesOn_0 24 rfl rfl
theorem dksX4_goesOn_2 : cX4_goesOn.data.toList.drop 47 = dktX4_goesOn_2 := dk_seg dksX4_goesOn_1 23 rfl rfl
theorem dksX4_goesOn_3 : cX4_goesOn.data.toList.drop 70 = dktX4_goesOn_3 := dk_seg dksX4_goesOn_2 23 rfl rfl
theorem dX4_goesOn_0 : decode cX4_goesOn 0 = .ok (.aload_n 0, 1) := dk_42 (dk_at dksX4_goesOn_0 0 rfl rfl)
theorem dX4_goesOn_1 : decode cX4_goesOn 1 = .ok (.getfield 25, 3) := dk_180 0 25 (dk_at dksX4_goesOn_0 1 rfl rfl)
theorem dX4_goesOn_4 : decode cX4_goesOn 4 = .ok (.iload_n 1, 1) := dk_27 (dk_at dksX4_goesOn_0 4 rfl rfl)
theorem dX4_goesOn_5 : decode cX4_goesOn 5 = .ok (.baload, 1) := dk_51 (dk_at dksX4_goesOn_0 5 rfl rfl)
theorem dX4_goesOn_6 : decode cX4_goesOn 6 = .ok (.ifCond .eq 36, 3) := dk_153 0 36 (dk_at dksX4_goesOn_0 6 rfl rfl)
theorem dX4_goesOn_9 : decode cX4_goesOn 9 = .ok (.aload_n 0, 1) := dk_42 (dk_at dksX4_goesOn_0 9 rfl rfl)
theorem dX4_goesOn_10 : decode cX4_goesOn 10 = .ok (.getfield 9, 3) := dk_180 0 9 (dk_at dksX4_goesOn_0 10 rfl rfl)
theorem dX4_goesOn_13 : decode cX4_goesOn 13 = .ok (.iload_n 1, 1) := dk_27 (dk_at dksX4_goesOn_0 13 rfl rfl)
theorem dX4_goesOn_14 : decode cX4_goesOn 14 = .ok (.iconst 0, 1) := dk_3 (dk_at dksX4_goesOn_0 14 rfl rfl)
theorem dX4_goesOn_15 : decode cX4_goesOn 15 = .ok (.invokestatic 101, 3) := dk_184 0 101 (dk_at dksX4_goesOn_0 15 rfl rfl)
theorem dX4_goesOn_18 : decode cX4_goesOn 18 = .ok (.iaload, 1) := dk_46 (dk_at dksX4_goesOn_0 18 rfl rfl)
theorem dX4_goesOn_19 : decode cX4_goesOn 19 = .ok (.iload_n 3, 1) := dk_29 (dk_at dksX4_goesOn_0 19 rfl rfl)
theorem dX4_goesOn_20 : decode cX4_goesOn 20 = .ok (.if_icmp .ne 22, 3) := dk_160 0 22 (dk_at dksX4_goesOn_0 20 rfl rfl)
theorem dX4_goesOn_23 : decode cX4_goesOn 23 = .ok (.aload_n 0, 1) := dk_42 (dk_at dksX4_goesOn_0 23 rfl rfl)
theorem dX4_goesOn_24 : decode cX4_goesOn 24 = .ok (.getfield 9, 3) := dk_180 0 9 (dk_at dksX4_goesOn_1 0 rfl rfl)
theorem dX4_goesOn_27 : decode cX4_goesOn 27 = .ok (.iload_n 1, 1) := dk_27 (dk_at dksX4_goesOn_1 3 rfl rfl)
theorem dX4_goesOn_28 : decode cX4_goesOn 28 = .ok (.iconst 2, 1) := dk_5 (dk_at dksX4_goesOn_1 4 rfl rfl)
theorem dX4_goesOn_29 : decode cX4_goesOn 29 = .ok (.invokestatic 101, 3) := dk_184 0 101 (dk_at dksX4_goesOn_1 5 rfl rfl)
theorem dX4_goesOn_32 : decode cX4_goesOn 32 = .ok (.iaload, 1) := dk_46 (dk_at dksX4_goesOn_1 8 rfl rfl)
theorem dX4_goesOn_33 : decode cX4_goesOn 33 = .ok (.iload 4, 2) := dk_21 4 (dk_at dksX4_goesOn_1 9 rfl rfl)
theorem dX4_goesOn_35 : decode cX4_goesOn 35 = .ok (.if_icmp .ne 7, 3) := dk_160 0 7 (dk_at dksX4_goesOn_1 11 rfl rfl)
theorem dX4_goesOn_38 : decode cX4_goesOn 38 = .ok (.iconst 1, 1) := dk_4 (dk_at dksX4_goesOn_1 14 rfl rfl)
theorem dX4_goesOn_39 : decode cX4_goesOn 39 = .ok (.goto 4, 3) := dk_167 0 4 (dk_at dksX4_goesOn_1 15 rfl rfl)
theorem dX4_goesOn_42 : decode cX4_goesOn 42 = .ok (.iconst 0, 1) := dk_3 (dk_at dksX4_goesOn_1 18 rfl rfl)
theorem dX4_goesOn_43 : decode cX4_goesOn 43 = .ok (.istore 5, 2) := dk_54 5 (dk_at dksX4_goesOn_1 19 rfl rfl)
theorem dX4_goesOn_45 : decode cX4_goesOn 45 = .ok (.iload 5, 2) := dk_21 5 (dk_at dksX4_goesOn_1 21 rfl rfl)
theorem dX4_goesOn_47 : decode cX4_goesOn 47 = .ok (.ifCond .eq 26, 3) := dk_153 0 26 (dk_at dksX4_goesOn_2 0 rfl rfl)
theorem dX4_goesOn_50 : decode cX4_goesOn 50 = .ok (.aload_n 0, 1) := dk_42 (dk_at dksX4_goesOn_2 3 rfl rfl)
theorem dX4_goesOn_51 : decode cX4_goesOn 51 = .ok (.getfield 9, 3) := dk_180 0 9 (dk_at dksX4_goesOn_2 4 rfl rfl)
theorem dX4_goesOn_54 : decode cX4_goesOn 54 = .ok (.iload_n 1, 1) := dk_27 (dk_at dksX4_goesOn_2 7 rfl rfl)
theorem dX4_goesOn_55 : decode cX4_goesOn 55 = .ok (.iconst 1, 1) := dk_4 (dk_at dksX4_goesOn_2 8 rfl rfl)
theorem dX4_goesOn_56 : decode cX4_goesOn 56 = .ok (.invokestatic 101, 3) := dk_184 0 101 (dk_at dksX4_goesOn_2 9 rfl rfl)
theorem dX4_goesOn_59 : decode cX4_goesOn 59 = .ok (.iaload, 1) := dk_46 (dk_at dksX4_goesOn_2 12 rfl rfl)
theorem dX4_goesOn_60 : decode cX4_goesOn 60 = .ok (.aload_n 0, 1) := dk_42 (dk_at dksX4_goesOn_2 13 rfl rfl)
theorem dX4_goesOn_61 : decode cX4_goesOn 61 = .ok (.iload_n 2, 1) := dk_28 (dk_at dksX4_goesOn_2 14 rfl rfl)
theorem dX4_goesOn_62 : decode cX4_goesOn 62 = .ok (.iconst 2, 1) := dk_5 (dk_at dksX4_goesOn_2 15 rfl rfl)
theorem dX4_goesOn_63 : decode cX4_goesOn 63 = .ok (.invokevirtual 152, 3) := dk_182 0 152 (dk_at dksX4_goesOn_2 16 rfl rfl)
theorem dX4_goesOn_66 : decode cX4_goesOn 66 = .ok (.if_icmp .gt 7, 3) := dk_163 0 7 (dk_at dksX4_goesOn_2 19 rfl rfl)
theorem dX4_goesOn_69 : decode cX4_goesOn 69 = .ok (.iconst 1, 1) := dk_4 (dk_at dksX4_goesOn_2 22 rfl rfl)
theorem dX4_goesOn_70 : decode cX4_goesOn 70 = .ok (.goto 4, 3) := dk_167 0 4 (dk_at dksX4_goesOn_3 0 rfl rfl)
theorem dX4_goesOn_73 : decode cX4_goesOn 73 = .ok (.iconst 0, 1) := dk_3 (dk_at dksX4_goesOn_3 3 rfl rfl)
theorem dX4_goesOn_74 : decode cX4_goesOn 74 = .ok (.ireturn, 1) := dk_172 (dk_at dksX4_goesOn_3 4 rfl rfl)
abbrev cX4_isEnd : ByteArray := prog_14_method_40_code
def yX4_isEnd : MethodName := ⟨RX4, "isEnd", "(II)Z"⟩
def dkwX4_isEnd_1 : List UInt8 := [6, 184, 0, 101, 46, 42, 28, 7, 182, 0, 152, 160, 0, 7, 4, 167, 0, 4, 3, 172]
abbrev dktX4_isEnd_1 : List UInt8 := dkwX4_isEnd_1 ++ []
def dkwX4_isEnd_0 : List UInt8 := [42, 180, 0, 9, 27, 4, 184, 0, 101, 46, 42, 28, 5, 182, 0, 152, 160, 0, 26, 42, 180, 0, 9, 27]
abbrev dktX4_isEnd_0 : List UInt8 := dkwX4_isEnd_0 ++ dktX4_isEnd_1
theorem dksX4_isEnd_0 : cX4_isEnd.data.toList.drop 0 = dktX4_isEnd_0 := by decide +kernel
theorem dksX4_isEnd_1 : cX4_isEnd.data.toList.drop 24 = dktX4_isEnd_1 := dk_seg dksX4_isEnd_0 24 rfl rfl
theorem dX4_isEnd_0 : decode cX4_isEnd 0 = .ok (.aload_n 0, 1) := dk_42 (dk_at dksX4_isEnd_0 0 rfl rfl)
theorem dX4_isEnd_1 : decode cX4_isEnd 1 = .ok (.getfield 9, 3) := dk_180 0 9 (dk_at dksX4_isEnd_0 1 rfl rfl)
theorem dX4_isEnd_4 : decode cX4_isEnd 4 = .ok (.iload_n 1, 1) := dk_27 (dk_at dksX4_isEnd_0 4 rfl rfl)
theorem dX4_isEnd_5 : decode cX4_isEnd 5 = .ok (.iconst 1, 1) := dk_4 (dk_at dksX4_isEnd_0 5 rfl rfl)
theorem dX4_isEnd_6 : decode cX4_isEnd 6 = .ok (.invokestatic 101, 3) := dk_184 0 101 (dk_at dksX4_isEnd_0 6 rfl rfl)
theorem dX4_isEnd_9 : decode cX4_isEnd 9 = .ok (.iaload, 1) := dk_46 (dk_at dksX4_isEnd_0 9 rfl rfl)
theorem dX4_isEnd_10 : decode cX4_isEnd 10 = .ok (.aload_n 0, 1) := dk_42 (dk_at dksX4_isEnd_0 10 rfl rfl)
theorem dX4_isEnd_11 : decode cX4_isEnd 11 = .ok (.iload_n 2, 1) := dk_28 (dk_at dksX4_isEnd_0 11 rfl rfl)
theorem dX4_isEnd_12 : decode cX4_isEnd 12 = .ok (.iconst 2, 1) := dk_5 (dk_at dksX4_isEnd_0 12 rfl rfl)
theorem dX4_isEnd_13 : decode cX4_isEnd 13 = .ok (.invokevirtual 152, 3) := dk_182 0 152 (dk_at dksX4_isEnd_0 13 rfl rfl)
theorem dX4_isEnd_16 : decode cX4_isEnd 16 = .ok (.if_icmp .ne 26, 3) := dk_160 0 26 (dk_at dksX4_isEnd_0 16 rfl rfl)
theorem dX4_isEnd_19 : decode cX4_isEnd 19 = .ok (.aload_n 0, 1) := dk_42 (dk_at dksX4_isEnd_0 19 rfl rfl)
theorem dX4_isEnd_20 : decode cX4_isEnd 20 = .ok (.getfield 9, 3) := dk_180 0 9 (dk_at dksX4_isEnd_0 20 rfl rfl)
theorem dX4_isEnd_23 : decode cX4_isEnd 23 = .ok (.iload_n 1, 1) := dk_27 (dk_at dksX4_isEnd_0 23 rfl rfl)
theorem dX4_isEnd_24 : decode cX4_isEnd 24 = .ok (.iconst 3, 1) := dk_6 (dk_at dksX4_isEnd_1 0 rfl rfl)
theorem dX4_isEnd_25 : decode cX4_isEnd 25 = .ok (.invokestatic 101, 3) := dk_184 0 101 (dk_at dksX4_isEnd_1 1 rfl rfl)
theorem dX4_isEnd_28 : decode cX4_isEnd 28 = .ok (.iaload, 1) := dk_46 (dk_at dksX4_isEnd_1 4 rfl rfl)
theorem dX4_isEnd_29 : decode cX4_isEnd 29 = .ok (.aload_n 0, 1) := dk_42 (dk_at dksX4_isEnd_1 5 rfl rfl)
theorem dX4_isEnd_30 : decode cX4_isEnd 30 = .ok (.iload_n 2, 1) := dk_28 (dk_at dksX4_isEnd_1 6 rfl rfl)
theorem dX4_isEnd_31 : decode cX4_isEnd 31 = .ok (.iconst 4, 1) := dk_7 (dk_at dksX4_isEnd_1 7 rfl rfl)
theorem dX4_isEnd_32 : decode cX4_isEnd 32 = .ok (.invokevirtual 152, 3) := dk_182 0 152 (dk_at dksX4_isEnd_1 8 rfl rfl)
theorem dX4_isEnd_35 : decode cX4_isEnd 35 = .ok (.if_icmp .ne 7, 3) := dk_160 0 7 (dk_at dksX4_isEnd_1 11 rfl rfl)
theorem dX4_isEnd_38 : decode cX4_isEnd 38 = .ok (.iconst 1, 1) := dk_4 (dk_at dksX4_isEnd_1 14 rfl rfl)
theorem dX4_isEnd_39 : decode cX4_isEnd 39 = .ok (.goto 4, 3) := dk_167 0 4 (dk_at dksX4_isEnd_1 15 rfl rfl)
theorem dX4_isEnd_42 : decode cX4_isEnd 42 = .ok (.iconst 0, 1) := dk_3 (dk_at dksX4_isEnd_1 18 rfl rfl)
theorem dX4_isEnd_43 : decode cX4_isEnd 43 = .ok (.ireturn, 1) := dk_172 (dk_at dksX4_isEnd_1 19 rfl rfl)
abbrev cX4_chainOf : ByteArray := prog_14_method_49_code
def yX4_chainOf : MethodName := ⟨RX4, "chainOf", "(II)I"⟩
def dkwX4_chainOf_2 : List UInt8 := [158, 0, 7, 3, 167, 0, 9, 42, 180, 0, 29, 28, 46, 172]
abbrev dktX4_chainOf_2 : List UInt8 := dkwX4_chainOf_2 ++ []
def dkwX4_chainOf_1 : List UInt8 := [180, 0, 175, 4, 100, 184, 0, 64, 154, 0, 7, 5, 167, 0, 4, 3, 181, 0, 52, 42, 180, 0, 52]
abbrev dktX4_chainOf_1 : List UInt8 := dkwX4_chainOf_1 ++ dktX4_chainOf_2
def dkwX4_chainOf_0 : List UInt8 := [42, 42, 27, 182, 0, 181, 154, 0, 7, 4, 167, 0, 30, 42, 27, 182, 0, 187, 153, 0, 17, 28, 3, 42]
abbrev dktX4_chainOf_0 : List UInt8 := dkwX4_chainOf_0 ++ dktX4_chainOf_1
theorem dksX4_chainOf_0 : cX4_chainOf.data.toList.drop 0 = dktX4_chainOf_0 := by decide +kernel
theorem dksX4_chainOf_1 : cX4_chainOf.data.toList.drop 24 = dktX4_chainOf_1 := dk_seg dksX4_chainOf_0 24 rfl rfl
theorem dksX4_chainOf_2 : cX4_chainOf.data.toList.drop 47 = dktX4_chainOf_2 := dk_seg dksX4_chainOf_1 23 rfl rfl
theorem dX4_chainOf_0 : decode cX4_chainOf 0 = .ok (.aload_n 0, 1) := dk_42 (dk_at dksX4_chainOf_0 0 rfl rfl)
theorem dX4_chainOf_1 : decode cX4_chainOf 1 = .ok (.aload_n 0, 1) := dk_42 (dk_at dksX4_chainOf_0 1 rfl rfl)
theorem dX4_chainOf_2 : decode cX4_chainOf 2 = .ok (.iload_n 1, 1) := dk_27 (dk_at dksX4_chainOf_0 2 rfl rfl)
theorem dX4_chainOf_3 : decode cX4_chainOf 3 = .ok (.invokevirtual 181, 3) := dk_182 0 181 (dk_at dksX4_chainOf_0 3 rfl rfl)
theorem dX4_chainOf_6 : decode cX4_chainOf 6 = .ok (.ifCond .ne 7, 3) := dk_154 0 7 (dk_at dksX4_chainOf_0 6 rfl rfl)
theorem dX4_chainOf_9 : decode cX4_chainOf 9 = .ok (.iconst 1, 1) := dk_4 (dk_at dksX4_chainOf_0 9 rfl rfl)
theorem dX4_chainOf_10 : decode cX4_chainOf 10 = .ok (.goto 30, 3) := dk_167 0 30 (dk_at dksX4_chainOf_0 10 rfl rfl)
theorem dX4_chainOf_13 : decode cX4_chainOf 13 = .ok (.aload_n 0, 1) := dk_42 (dk_at dksX4_chainOf_0 13 rfl rfl)
theorem dX4_chainOf_14 : decode cX4_chainOf 14 = .ok (.iload_n 1, 1) := dk_27 (dk_at dksX4_chainOf_0 14 rfl rfl)
theorem dX4_chainOf_15 : decode cX4_chainOf 15 = .ok (.invokevirtual 187, 3) := dk_182 0 187 (dk_at dksX4_chainOf_0 15 rfl rfl)
theorem dX4_chainOf_18 : decode cX4_chainOf 18 = .ok (.ifCond .eq 17, 3) := dk_153 0 17 (dk_at dksX4_chainOf_0 18 rfl rfl)
theorem dX4_chainOf_21 : decode cX4_chainOf 21 = .ok (.iload_n 2, 1) := dk_28 (dk_at dksX4_chainOf_0 21 rfl rfl)
theorem dX4_chainOf_22 : decode cX4_chainOf 22 = .ok (.iconst 0, 1) := dk_3 (dk_at dksX4_chainOf_0 22 rfl rfl)
theorem dX4_chainOf_23 : decode cX4_chainOf 23 = .ok (.aload_n 0, 1) := dk_42 (dk_at dksX4_chainOf_0 23 rfl rfl)
theorem dX4_chainOf_24 : decode cX4_chainOf 24 = .ok (.getfield 175, 3) := dk_180 0 175 (dk_at dksX4_chainOf_1 0 rfl rfl)
theorem dX4_chainOf_27 : decode cX4_chainOf 27 = .ok (.iconst 1, 1) := dk_4 (dk_at dksX4_chainOf_1 3 rfl rfl)
theorem dX4_chainOf_28 : decode cX4_chainOf 28 = .ok (.isub, 1) := dk_100 (dk_at dksX4_chainOf_1 4 rfl rfl)
theorem dX4_chainOf_29 : decode cX4_chainOf 29 = .ok (.invokestatic 64, 3) := dk_184 0 64 (dk_at dksX4_chainOf_1 5 rfl rfl)
theorem dX4_chainOf_32 : decode cX4_chainOf 32 = .ok (.ifCond .ne 7, 3) := dk_154 0 7 (dk_at dksX4_chainOf_1 8 rfl rfl)
theorem dX4_chainOf_35 : decode cX4_chainOf 35 = .ok (.iconst 2, 1) := dk_5 (dk_at dksX4_chainOf_1 11 rfl rfl)
theorem dX4_chainOf_36 : decode cX4_chainOf 36 = .ok (.goto 4, 3) := dk_167 0 4 (dk_at dksX4_chainOf_1 12 rfl rfl)
theorem dX4_chainOf_39 : decode cX4_chainOf 39 = .ok (.iconst 0, 1) := dk_3 (dk_at dksX4_chainOf_1 15 rfl rfl)
theorem dX4_chainOf_40 : decode cX4_chainOf 40 = .ok (.putfield 52, 3) := dk_181 0 52 (dk_at dksX4_chainOf_1 16 rfl rfl)
theorem dX4_chainOf_43 : decode cX4_chainOf 43 = .ok (.aload_n 0, 1) := dk_42 (dk_at dksX4_chainOf_1 19 rfl rfl)
theorem dX4_chainOf_44 : decode cX4_chainOf 44 = .ok (.getfield 52, 3) := dk_180 0 52 (dk_at dksX4_chainOf_1 20 rfl rfl)
theorem dX4_chainOf_47 : decode cX4_chainOf 47 = .ok (.ifCond .le 7, 3) := dk_158 0 7 (dk_at dksX4_chainOf_2 0 rfl rfl)
theorem dX4_chainOf_50 : decode cX4_chainOf 50 = .ok (.iconst 0, 1) := dk_3 (dk_at dksX4_chainOf_2 3 rfl rfl)
theorem dX4_chainOf_51 : decode cX4_chainOf 51 = .ok (.goto 9, 3) := dk_167 0 9 (dk_at dksX4_chainOf_2 4 rfl rfl)
theorem dX4_chainOf_54 : decode cX4_chainOf 54 = .ok (.aload_n 0, 1) := dk_42 (dk_at dksX4_chainOf_2 7 rfl rfl)
theorem dX4_chainOf_55 : decode cX4_chainOf 55 = .ok (.getfield 29, 3) := dk_180 0 29 (dk_at dksX4_chainOf_2 8 rfl rfl)
theorem dX4_chainOf_58 : decode cX4_chainOf 58 = .ok (.iload_n 2, 1) := dk_28 (dk_at dksX4_chainOf_2 11 rfl rfl)
theorem dX4_chainOf_59 : decode cX4_chainOf 59 = .ok (.iaload, 1) := dk_46 (dk_at dksX4_chainOf_2 12 rfl rfl)
theorem dX4_chainOf_60 : decode cX4_chainOf 60 = .ok (.ireturn, 1) := dk_172 (dk_at dksX4_chainOf_2 13 rfl rfl)
abbrev cX4_tellsChain : ByteArray := prog_14_method_45_code
def yX4_tellsChain : MethodName := ⟨RX4, "tellsChain", "(I)Z"⟩
def dkwX4_tellsChain_7 : List UInt8 := [167, 255, 141, 21, 5, 172]
abbrev dktX4_tellsChain_7 : List UInt8 := dkwX4_tellsChain_7 ++ []
def dkwX4_tellsChain_6 : List UInt8 := [184, 0, 101, 46, 4, 96, 61, 42, 180, 0, 9, 21, 6, 6, 184, 0, 101, 46, 62, 132, 4, 255]
abbrev dktX4_tellsChain_6 : List UInt8 := dkwX4_tellsChain_6 ++ dktX4_tellsChain_7
def dkwX4_tellsChain_5 : List UInt8 := [180, 0, 175, 21, 6, 79, 42, 89, 180, 0, 175, 4, 96, 181, 0, 175, 42, 180, 0, 9, 21, 6, 4]
abbrev dktX4_tellsChain_5 : List UInt8 := dkwX4_tellsChain_5 ++ dktX4_tellsChain_6
def dkwX4_tellsChain_4 : List UInt8 := [160, 0, 8, 21, 7, 167, 0, 5, 21, 6, 54, 6, 132, 7, 255, 167, 255, 215, 42, 180, 0, 29, 42]
abbrev dktX4_tellsChain_4 : List UInt8 := dkwX4_tellsChain_4 ++ dktX4_tellsChain_5
def dkwX4_tellsChain_3 : List UInt8 := [155, 0, 42, 42, 21, 7, 27, 28, 29, 182, 0, 155, 153, 0, 20, 42, 21, 7, 27, 182, 0, 165, 21, 4]
abbrev dktX4_tellsChain_3 : List UInt8 := dkwX4_tellsChain_3 ++ dktX4_tellsChain_4
def dkwX4_tellsChain_2 : List UInt8 := [21, 5, 153, 0, 116, 21, 4, 158, 0, 111, 2, 54, 6, 42, 180, 0, 146, 4, 100, 54, 7, 21, 7]
abbrev dktX4_tellsChain_2 : List UInt8 := dkwX4_tellsChain_2 ++ dktX4_tellsChain_3
def dkwX4_tellsChain_1 : List UInt8 := [182, 0, 168, 54, 4, 42, 3, 181, 0, 175, 21, 4, 16, 100, 162, 0, 7, 4, 167, 0, 4, 3, 54, 5]
abbrev dktX4_tellsChain_1 : List UInt8 := dkwX4_tellsChain_1 ++ dktX4_tellsChain_2
def dkwX4_tellsChain_0 : List UInt8 := [42, 3, 182, 0, 171, 42, 27, 4, 182, 0, 152, 61, 42, 27, 6, 182, 0, 152, 62, 42, 27, 28, 29]
abbrev dktX4_tellsChain_0 : List UInt8 := dkwX4_tellsChain_0 ++ dktX4_tellsChain_1
theorem dksX4_tellsChain_0 : cX4_tellsChain.data.toList.drop 0 = dktX4_tellsChain_0 := by decide +kernel
theorem dksX4_tellsChain_1 : cX4_tellsChain.data.toList.drop 23 = dktX4_tellsChain_1 := dk_seg dksX4_tellsChain_0 23 rfl rfl
theorem dksX4_tellsChain_2 : cX4_tellsChain.data.toList.drop 47 = dktX4_tellsChain_2 := dk_seg dksX4_tellsChain_1 24 rfl rfl
theorem dksX4_tellsChain_3 : cX4_tellsChain.data.toList.drop 70 = dktX4_tellsChain_3 := dk_seg dksX4_tellsChain_2 23 rfl rfl
theorem dksX4_tellsChain_4 : cX4_tellsChain.data.toList.drop 94 = dktX4_tellsChain_4 := dk_seg dksX4_tellsChain_3 24 rfl rfl
theorem dksX4_tellsChain_5 : cX4_tellsChain.data.toList.drop 117 = dktX4_tellsChain_5 := dk_seg dksX4_tellsChain_4 23 rfl rfl
theorem dksX4_tellsChain_6 : cX4_tellsChain.data.toList.drop 140 = dktX4_tellsChain_6 := dk_seg dksX4_tellsChain_5 23 rfl rfl
theorem dksX4_tellsChain_7 : cX4_tellsChain.data.toList.drop 162 = dktX4_tellsChain_7 := dk_seg dksX4_tellsChain_6 22 rfl rfl
theorem dX4_tellsChain_0 : decode cX4_tellsChain 0 = .ok (.aload_n 0, 1) := dk_42 (dk_at dksX4_tellsChain_0 0 rfl rfl)
theorem dX4_tellsChain_1 : decode cX4_tellsChain 1 = .ok (.iconst 0, 1) := dk_3 (dk_at dksX4_tellsChain_0 1 rfl rfl)
theorem dX4_tellsChain_2 : decode cX4_tellsChain 2 = .ok (.invokevirtual 171, 3) := dk_182 0 171 (dk_at dksX4_tellsChain_0 2 rfl rfl)
theorem dX4_tellsChain_5 : decode cX4_tellsChain 5 = .ok (.aload_n 0, 1) := dk_42 (dk_at dksX4_tellsChain_0 5 rfl rfl)
theorem dX4_tellsChain_6 : decode cX4_tellsChain 6 = .ok (.iload_n 1, 1) := dk_27 (dk_at dksX4_tellsChain_0 6 rfl rfl)
theorem dX4_tellsChain_7 : decode cX4_tellsChain 7 = .ok (.iconst 1, 1) := dk_4 (dk_at dksX4_tellsChain_0 7 rfl rfl)
theorem dX4_tellsChain_8 : decode cX4_tellsChain 8 = .ok (.invokevirtual 152, 3) := dk_182 0 152 (dk_at dksX4_tellsChain_0 8 rfl rfl)
theorem dX4_tellsChain_11 : decode cX4_tellsChain 11 = .ok (.istore_n 2, 1) := dk_61 (dk_at dksX4_tellsChain_0 11 rfl rfl)
theorem dX4_tellsChain_12 : decode cX4_tellsChain 12 = .ok (.aload_n 0, 1) := dk_42 (dk_at dksX4_tellsChain_0 12 rfl rfl)
theorem dX4_tellsChain_13 : decode cX4_tellsChain 13 = .ok (.iload_n 1, 1) := dk_27 (dk_at dksX4_tellsChain_0 13 rfl rfl)
theorem dX4_tellsChain_14 : decode cX4_tellsChain 14 = .ok (.iconst 3, 1) := dk_6 (dk_at dksX4_tellsChain_0 14 rfl rfl)
theorem dX4_tellsChain_15 : decode cX4_tellsChain 15 = .ok (.invokevirtual 152, 3) := dk_182 0 152 (dk_at dksX4_tellsChain_0 15 rfl rfl)
theorem dX4_tellsChain_18 : decode cX4_tellsChain 18 = .ok (.istore_n 3, 1) := dk_62 (dk_at dksX4_tellsChain_0 18 rfl rfl)
theorem dX4_tellsChain_19 : decode cX4_tellsChain 19 = .ok (.aload_n 0, 1) := dk_42 (dk_at dksX4_tellsChain_0 19 rfl rfl)
theorem dX4_tellsChain_20 : decode cX4_tellsChain 20 = .ok (.iload_n 1, 1) := dk_27 (dk_at dksX4_tellsChain_0 20 rfl rfl)
theorem dX4_tellsChain_21 : decode cX4_tellsChain 21 = .ok (.iload_n 2, 1) := dk_28 (dk_at dksX4_tellsChain_0 21 rfl rfl)
theorem dX4_tellsChain_22 : decode cX4_tellsChain 22 = .ok (.iload_n 3, 1) := dk_29 (dk_at dksX4_tellsChain_0 22 rfl rfl)
theorem dX4_tellsChain_23 : decode cX4_tellsChain 23 = .ok (.invokevirtual 168, 3) := dk_182 0 168 (dk_at dksX4_tellsChain_1 0 rfl rfl)
theorem dX4_tellsChain_26 : decode cX4_tellsChain 26 = .ok (.istore 4, 2) := dk_54 4 (dk_at dksX4_tellsChain_1 3 rfl rfl)
theorem dX4_tellsChain_28 : decode cX4_tellsChain 28 = .ok (.aload_n 0, 1) := dk_42 (dk_at dksX4_tellsChain_1 5 rfl rfl)
theorem dX4_tellsChain_29 : decode cX4_tellsChain 29 = .ok (.iconst 0, 1) := dk_3 (dk_at dksX4_tellsChain_1 6 rfl rfl)
theorem dX4_tellsChain_30 : decode cX4_tellsChain 30 = .ok (.putfield 175, 3) := dk_181 0 175 (dk_at dksX4_tellsChain_1 7 rfl rfl)
theorem dX4_tellsChain_33 : decode cX4_tellsChain 33 = .ok (.iload 4, 2) := dk_21 4 (dk_at dksX4_tellsChain_1 10 rfl rfl)
theorem dX4_tellsChain_35 : decode cX4_tellsChain 35 = .ok (.bipush 100, 2) := dk_16 100 (dk_at dksX4_tellsChain_1 12 rfl rfl)
theorem dX4_tellsChain_37 : decode cX4_tellsChain 37 = .ok (.if_icmp .ge 7, 3) := dk_162 0 7 (dk_at dksX4_tellsChain_1 14 rfl rfl)
theorem dX4_tellsChain_40 : decode cX4_tellsChain 40 = .ok (.iconst 1, 1) := dk_4 (dk_at dksX4_tellsChain_1 17 rfl rfl)
theorem dX4_tellsChain_41 : decode cX4_tellsChain 41 = .ok (.goto 4, 3) := dk_167 0 4 (dk_at dksX4_tellsChain_1 18 rfl rfl)
theorem dX4_tellsChain_44 : decode cX4_tellsChain 44 = .ok (.iconst 0, 1) := dk_3 (dk_at dksX4_tellsChain_1 21 rfl rfl)
theorem dX4_tellsChain_45 : decode cX4_tellsChain 45 = .ok (.istore 5, 2) := dk_54 5 (dk_at dksX4_tellsChain_1 22 rfl rfl)
theorem dX4_tellsChain_47 : decode cX4_tellsChain 47 = .ok (.iload 5, 2) := dk_21 5 (dk_at dksX4_tellsChain_2 0 rfl rfl)
theorem dX4_tellsChain_49 : decode cX4_tellsChain 49 = .ok (.ifCond .eq 116, 3) := dk_153 0 116 (dk_at dksX4_tellsChain_2 2 rfl rfl)
theorem dX4_tellsChain_52 : decode cX4_tellsChain 52 = .ok (.iload 4, 2) := dk_21 4 (dk_at dksX4_tellsChain_2 5 rfl rfl)
theorem dX4_tellsChain_54 : decode cX4_tellsChain 54 = .ok (.ifCond .le 111, 3) := dk_158 0 111 (dk_at dksX4_tellsChain_2 7 rfl rfl)
theorem dX4_tellsChain_57 : decode cX4_tellsChain 57 = .ok (.iconst (-1), 1) := dk_2 (dk_at dksX4_tellsChain_2 10 rfl rfl)
theorem dX4_tellsChain_58 : decode cX4_tellsChain 58 = .ok (.istore 6, 2) := dk_54 6 (dk_at dksX4_tellsChain_2 11 rfl rfl)
theorem dX4_tellsChain_60 : decode cX4_tellsChain 60 = .ok (.aload_n 0, 1) := dk_42 (dk_at dksX4_tellsChain_2 13 rfl rfl)
theorem dX4_tellsChain_61 : decode cX4_tellsChain 61 = .ok (.getfield 146, 3) := dk_180 0 146 (dk_at dksX4_tellsChain_2 14 rfl rfl)
theorem dX4_tellsChain_64 : decode cX4_tellsChain 64 = .ok (.iconst 1, 1) := dk_4 (dk_at dksX4_tellsChain_2 17 rfl rfl)
theorem dX4_tellsChain_65 : decode cX4_tellsChain 65 = .ok (.isub, 1) := dk_100 (dk_at dksX4_tellsChain_2 18 rfl rfl)
theorem dX4_tellsChain_66 : decode cX4_tellsChain 66 = .ok (.istore 7, 2) := dk_54 7 (dk_at dksX4_tellsChain_2 19 rfl rfl)
theorem dX4_tellsChain_68 : decode cX4_tellsChain 68 = .ok (.iload 7, 2) := dk_21 7 (dk_at dksX4_tellsChain_2 21 rfl rfl)
theorem dX4_tellsChain_70 : decode cX4_tellsChain 70 = .ok (.ifCond .lt 42, 3) := dk_155 0 42 (dk_at dksX4_tellsChain_3 0 rfl rfl)
theorem dX4_tellsChain_73 : decode cX4_tellsChain 73 = .ok (.aload_n 0, 1) := dk_42 (dk_at dksX4_tellsChain_3 3 rfl rfl)
theorem dX4_tellsChain_74 : decode cX4_tellsChain 74 = .ok (.iload 7, 2) := dk_21 7 (dk_at dksX4_tellsChain_3 4 rfl rfl)
theorem dX4_tellsChain_76 : decode cX4_tellsChain 76 = .ok (.iload_n 1, 1) := dk_27 (dk_at dksX4_tellsChain_3 6 rfl rfl)
theorem dX4_tellsChain_77 : decode cX4_tellsChain 77 = .ok (.iload_n 2, 1) := dk_28 (dk_at dksX4_tellsChain_3 7 rfl rfl)
theorem dX4_tellsChain_78 : decode cX4_tellsChain 78 = .ok (.iload_n 3, 1) := dk_29 (dk_at dksX4_tellsChain_3 8 rfl rfl)
theorem dX4_tellsChain_79 : decode cX4_tellsChain 79 = .ok (.invokevirtual 155, 3) := dk_182 0 155 (dk_at dksX4_tellsChain_3 9 rfl rfl)
theorem dX4_tellsChain_82 : decode cX4_tellsChain 82 = .ok (.ifCond .eq 20, 3) := dk_153 0 20 (dk_at dksX4_tellsChain_3 12 rfl rfl)
theorem dX4_tellsChain_85 : decode cX4_tellsChain 85 = .ok (.aload_n 0, 1) := dk_42 (dk_at dksX4_tellsChain_3 15 rfl rfl)
theorem dX4_tellsChain_86 : decode cX4_tellsChain 86 = .ok (.iload 7, 2) := dk_21 7 (dk_at dksX4_tellsChain_3 16 rfl rfl)
theorem dX4_tellsChain_88 : decode cX4_tellsChain 88 = .ok (.iload_n 1, 1) := dk_27 (dk_at dksX4_tellsChain_3 18 rfl rfl)
theorem dX4_tellsChain_89 : decode cX4_tellsChain 89 = .ok (.invokevirtual 165, 3) := dk_182 0 165 (dk_at dksX4_tellsChain_3 19 rfl rfl)
theorem dX4_tellsChain_92 : decode cX4_tellsChain 92 = .ok (.iload 4, 2) := dk_21 4 (dk_at dksX4_tellsChain_3 22 rfl rfl)
theorem dX4_tellsChain_94 : decode cX4_tellsChain 94 = .ok (.if_icmp .ne 8, 3) := dk_160 0 8 (dk_at dksX4_tellsChain_4 0 rfl rfl)
theorem dX4_tellsChain_97 : decode cX4_tellsChain 97 = .ok (.iload 7, 2) := dk_21 7 (dk_at dksX4_tellsChain_4 3 rfl rfl)
theorem dX4_tellsChain_99 : decode cX4_tellsChain 99 = .ok (.goto 5, 3) := dk_167 0 5 (dk_at dksX4_tellsChain_4 5 rfl rfl)
theorem dX4_tellsChain_102 : decode cX4_tellsChain 102 = .ok (.iload 6, 2) := dk_21 6 (dk_at dksX4_tellsChain_4 8 rfl rfl)
theorem dX4_tellsChain_104 : decode cX4_tellsChain 104 = .ok (.istore 6, 2) := dk_54 6 (dk_at dksX4_tellsChain_4 10 rfl rfl)
theorem dX4_tellsChain_106 : decode cX4_tellsChain 106 = .ok (.iinc 7 (-1), 3) := dk_132 7 255 (dk_at dksX4_tellsChain_4 12 rfl rfl)
theorem dX4_tellsChain_109 : decode cX4_tellsChain 109 = .ok (.goto (-41), 3) := dk_167 255 215 (dk_at dksX4_tellsChain_4 15 rfl rfl)
theorem dX4_tellsChain_112 : decode cX4_tellsChain 112 = .ok (.aload_n 0, 1) := dk_42 (dk_at dksX4_tellsChain_4 18 rfl rfl)
theorem dX4_tellsChain_113 : decode cX4_tellsChain 113 = .ok (.getfield 29, 3) := dk_180 0 29 (dk_at dksX4_tellsChain_4 19 rfl rfl)
theorem dX4_tellsChain_116 : decode cX4_tellsChain 116 = .ok (.aload_n 0, 1) := dk_42 (dk_at dksX4_tellsChain_4 22 rfl rfl)
theorem dX4_tellsChain_117 : decode cX4_tellsChain 117 = .ok (.getfield 175, 3) := dk_180 0 175 (dk_at dksX4_tellsChain_5 0 rfl rfl)
theorem dX4_tellsChain_120 : decode cX4_tellsChain 120 = .ok (.iload 6, 2) := dk_21 6 (dk_at dksX4_tellsChain_5 3 rfl rfl)
theorem dX4_tellsChain_122 : decode cX4_tellsChain 122 = .ok (.iastore, 1) := dk_79 (dk_at dksX4_tellsChain_5 5 rfl rfl)
theorem dX4_tellsChain_123 : decode cX4_tellsChain 123 = .ok (.aload_n 0, 1) := dk_42 (dk_at dksX4_tellsChain_5 6 rfl rfl)
theorem dX4_tellsChain_124 : decode cX4_tellsChain 124 = .ok (.dup, 1) := dk_89 (dk_at dksX4_tellsChain_5 7 rfl rfl)
theorem dX4_tellsChain_125 : decode cX4_tellsChain 125 = .ok (.getfield 175, 3) := dk_180 0 175 (dk_at dksX4_tellsChain_5 8 rfl rfl)
theorem dX4_tellsChain_128 : decode cX4_tellsChain 128 = .ok (.iconst 1, 1) := dk_4 (dk_at dksX4_tellsChain_5 11 rfl rfl)
theorem dX4_tellsChain_129 : decode cX4_tellsChain 129 = .ok (.iadd, 1) := dk_96 (dk_at dksX4_tellsChain_5 12 rfl rfl)
theorem dX4_tellsChain_130 : decode cX4_tellsChain 130 = .ok (.putfield 175, 3) := dk_181 0 175 (dk_at dksX4_tellsChain_5 13 rfl rfl)
theorem dX4_tellsChain_133 : decode cX4_tellsChain 133 = .ok (.aload_n 0, 1) := dk_42 (dk_at dksX4_tellsChain_5 16 rfl rfl)
theorem dX4_tellsChain_134 : decode cX4_tellsChain 134 = .ok (.getfield 9, 3) := dk_180 0 9 (dk_at dksX4_tellsChain_5 17 rfl rfl)
theorem dX4_tellsChain_137 : decode cX4_tellsChain 137 = .ok (.iload 6, 2) := dk_21 6 (dk_at dksX4_tellsChain_5 20 rfl rfl)
theorem dX4_tellsChain_139 : decode cX4_tellsChain 139 = .ok (.iconst 1, 1) := dk_4 (dk_at dksX4_tellsChain_5 22 rfl rfl)
theorem dX4_tellsChain_140 : decode cX4_tellsChain 140 = .ok (.invokestatic 101, 3) := dk_184 0 101 (dk_at dksX4_tellsChain_6 0 rfl rfl)
theorem dX4_tellsChain_143 : decode cX4_tellsChain 143 = .ok (.iaload, 1) := dk_46 (dk_at dksX4_tellsChain_6 3 rfl rfl)
theorem dX4_tellsChain_144 : decode cX4_tellsChain 144 = .ok (.iconst 1, 1) := dk_4 (dk_at dksX4_tellsChain_6 4 rfl rfl)
theorem dX4_tellsChain_145 : decode cX4_tellsChain 145 = .ok (.iadd, 1) := dk_96 (dk_at dksX4_tellsChain_6 5 rfl rfl)
theorem dX4_tellsChain_146 : decode cX4_tellsChain 146 = .ok (.istore_n 2, 1) := dk_61 (dk_at dksX4_tellsChain_6 6 rfl rfl)
theorem dX4_tellsChain_147 : decode cX4_tellsChain 147 = .ok (.aload_n 0, 1) := dk_42 (dk_at dksX4_tellsChain_6 7 rfl rfl)
theorem dX4_tellsChain_148 : decode cX4_tellsChain 148 = .ok (.getfield 9, 3) := dk_180 0 9 (dk_at dksX4_tellsChain_6 8 rfl rfl)
theorem dX4_tellsChain_151 : decode cX4_tellsChain 151 = .ok (.iload 6, 2) := dk_21 6 (dk_at dksX4_tellsChain_6 11 rfl rfl)
theorem dX4_tellsChain_153 : decode cX4_tellsChain 153 = .ok (.iconst 3, 1) := dk_6 (dk_at dksX4_tellsChain_6 13 rfl rfl)
theorem dX4_tellsChain_154 : decode cX4_tellsChain 154 = .ok (.invokestatic 101, 3) := dk_184 0 101 (dk_at dksX4_tellsChain_6 14 rfl rfl)
theorem dX4_tellsChain_157 : decode cX4_tellsChain 157 = .ok (.iaload, 1) := dk_46 (dk_at dksX4_tellsChain_6 17 rfl rfl)
theorem dX4_tellsChain_158 : decode cX4_tellsChain 158 = .ok (.istore_n 3, 1) := dk_62 (dk_at dksX4_tellsChain_6 18 rfl rfl)
theorem dX4_tellsChain_159 : decode cX4_tellsChain 159 = .ok (.iinc 4 (-1), 3) := dk_132 4 255 (dk_at dksX4_tellsChain_6 19 rfl rfl)
theorem dX4_tellsChain_162 : decode cX4_tellsChain 162 = .ok (.goto (-115), 3) := dk_167 255 141 (dk_at dksX4_tellsChain_7 0 rfl rfl)
theorem dX4_tellsChain_165 : decode cX4_tellsChain 165 = .ok (.iload 5, 2) := dk_21 5 (dk_at dksX4_tellsChain_7 3 rfl rfl)
theorem dX4_tellsChain_167 : decode cX4_tellsChain 167 = .ok (.ireturn, 1) := dk_172 (dk_at dksX4_tellsChain_7 5 rfl rfl)
abbrev cX4_fewestFrom : ByteArray := prog_14_method_43_code
def yX4_fewestFrom : MethodName := ⟨RX4, "fewestFrom", "(III)I"⟩
def dkwX4_fewestFrom_2 : List UInt8 := [167, 255, 218, 21, 4, 172]
abbrev dktX4_fewestFrom_2 : List UInt8 := dkwX4_fewestFrom_2 ++ []
def dkwX4_fewestFrom_1 : List UInt8 := [182, 0, 155, 153, 0, 17, 21, 4, 42, 21, 5, 27, 182, 0, 165, 184, 0, 134, 54, 4, 132, 5, 1]
abbrev dktX4_fewestFrom_1 : List UInt8 := dkwX4_fewestFrom_1 ++ dktX4_fewestFrom_2
def dkwX4_fewestFrom_0 : List UInt8 := [16, 100, 54, 4, 3, 54, 5, 21, 5, 42, 180, 0, 146, 162, 0, 35, 42, 21, 5, 27, 28, 29]
abbrev dktX4_fewestFrom_0 : List UInt8 := dkwX4_fewestFrom_0 ++ dktX4_fewestFrom_1
theorem dksX4_fewestFrom_0 : cX4_fewestFrom.data.toList.drop 0 = dktX4_fewestFrom_0 := by decide +kernel
theorem dksX4_fewestFrom_1 : cX4_fewestFrom.data.toList.drop 22 = dktX4_fewestFrom_1 := dk_seg dksX4_fewestFrom_0 22 rfl rfl
theorem dksX4_fewestFrom_2 : cX4_fewestFrom.data.toList.drop 45 = dktX4_fewestFrom_2 := dk_seg dksX4_fewestFrom_1 23 rfl rfl
theorem dX4_fewestFrom_0 : decode cX4_fewestFrom 0 = .ok (.bipush 100, 2) := dk_16 100 (dk_at dksX4_fewestFrom_0 0 rfl rfl)
theorem dX4_fewestFrom_2 : decode cX4_fewestFrom 2 = .ok (.istore 4, 2) := dk_54 4 (dk_at dksX4_fewestFrom_0 2 rfl rfl)
theorem dX4_fewestFrom_4 : decode cX4_fewestFrom 4 = .ok (.iconst 0, 1) := dk_3 (dk_at dksX4_fewestFrom_0 4 rfl rfl)
theorem dX4_fewestFrom_5 : decode cX4_fewestFrom 5 = .ok (.istore 5, 2) := dk_54 5 (dk_at dksX4_fewestFrom_0 5 rfl rfl)
theorem dX4_fewestFrom_7 : decode cX4_fewestFrom 7 = .ok (.iload 5, 2) := dk_21 5 (dk_at dksX4_fewestFrom_0 7 rfl rfl)
theorem dX4_fewestFrom_9 : decode cX4_fewestFrom 9 = .ok (.aload_n 0, 1) := dk_42 (dk_at dksX4_fewestFrom_0 9 rfl rfl)
theorem dX4_fewestFrom_10 : decode cX4_fewestFrom 10 = .ok (.getfield 146, 3) := dk_180 0 146 (dk_at dksX4_fewestFrom_0 10 rfl rfl)
theorem dX4_fewestFrom_13 : decode cX4_fewestFrom 13 = .ok (.if_icmp .ge 35, 3) := dk_162 0 35 (dk_at dksX4_fewestFrom_0 13 rfl rfl)
theorem dX4_fewestFrom_16 : decode cX4_fewestFrom 16 = .ok (.aload_n 0, 1) := dk_42 (dk_at dksX4_fewestFrom_0 16 rfl rfl)
theorem dX4_fewestFrom_17 : decode cX4_fewestFrom 17 = .ok (.iload 5, 2) := dk_21 5 (dk_at dksX4_fewestFrom_0 17 rfl rfl)
theorem dX4_fewestFrom_19 : decode cX4_fewestFrom 19 = .ok (.iload_n 1, 1) := dk_27 (dk_at dksX4_fewestFrom_0 19 rfl rfl)
theorem dX4_fewestFrom_20 : decode cX4_fewestFrom 20 = .ok (.iload_n 2, 1) := dk_28 (dk_at dksX4_fewestFrom_0 20 rfl rfl)
theorem dX4_fewestFrom_21 : decode cX4_fewestFrom 21 = .ok (.iload_n 3, 1) := dk_29 (dk_at dksX4_fewestFrom_0 21 rfl rfl)
theorem dX4_fewestFrom_22 : decode cX4_fewestFrom 22 = .ok (.invokevirtual 155, 3) := dk_182 0 155 (dk_at dksX4_fewestFrom_1 0 rfl rfl)
theorem dX4_fewestFrom_25 : decode cX4_fewestFrom 25 = .ok (.ifCond .eq 17, 3) := dk_153 0 17 (dk_at dksX4_fewestFrom_1 3 rfl rfl)
theorem dX4_fewestFrom_28 : decode cX4_fewestFrom 28 = .ok (.iload 4, 2) := dk_21 4 (dk_at dksX4_fewestFrom_1 6 rfl rfl)
theorem dX4_fewestFrom_30 : decode cX4_fewestFrom 30 = .ok (.aload_n 0, 1) := dk_42 (dk_at dksX4_fewestFrom_1 8 rfl rfl)
theorem dX4_fewestFrom_31 : decode cX4_fewestFrom 31 = .ok (.iload 5, 2) := dk_21 5 (dk_at dksX4_fewestFrom_1 9 rfl rfl)
theorem dX4_fewestFrom_33 : decode cX4_fewestFrom 33 = .ok (.iload_n 1, 1) := dk_27 (dk_at dksX4_fewestFrom_1 11 rfl rfl)
theorem dX4_fewestFrom_34 : decode cX4_fewestFrom 34 = .ok (.invokevirtual 165, 3) := dk_182 0 165 (dk_at dksX4_fewestFrom_1 12 rfl rfl)
theorem dX4_fewestFrom_37 : decode cX4_fewestFrom 37 = .ok (.invokestatic 134, 3) := dk_184 0 134 (dk_at dksX4_fewestFrom_1 15 rfl rfl)
theorem dX4_fewestFrom_40 : decode cX4_fewestFrom 40 = .ok (.istore 4, 2) := dk_54 4 (dk_at dksX4_fewestFrom_1 18 rfl rfl)
theorem dX4_fewestFrom_42 : decode cX4_fewestFrom 42 = .ok (.iinc 5 1, 3) := dk_132 5 1 (dk_at dksX4_fewestFrom_1 20 rfl rfl)
theorem dX4_fewestFrom_45 : decode cX4_fewestFrom 45 = .ok (.goto (-38), 3) := dk_167 255 218 (dk_at dksX4_fewestFrom_2 0 rfl rfl)
theorem dX4_fewestFrom_48 : decode cX4_fewestFrom 48 = .ok (.iload 4, 2) := dk_21 4 (dk_at dksX4_fewestFrom_2 3 rfl rfl)
theorem dX4_fewestFrom_50 : decode cX4_fewestFrom 50 = .ok (.ireturn, 1) := dk_172 (dk_at dksX4_fewestFrom_2 5 rfl rfl)
abbrev cX4_fewestWith : ByteArray := prog_14_method_44_code
def yX4_fewestWith : MethodName := ⟨RX4, "fewestWith", "(II)I"⟩
def dkwX4_fewestWith_1 : List UInt8 := [184, 0, 101, 46, 4, 96, 42, 180, 0, 9, 27, 6, 184, 0, 101, 46, 182, 0, 168, 96, 172]
abbrev dktX4_fewestWith_1 : List UInt8 := dkwX4_fewestWith_1 ++ []
def dkwX4_fewestWith_0 : List UInt8 := [42, 27, 28, 182, 0, 159, 153, 0, 7, 4, 167, 0, 32, 4, 42, 28, 42, 180, 0, 9, 27, 4]
abbrev dktX4_fewestWith_0 : List UInt8 := dkwX4_fewestWith_0 ++ dktX4_fewestWith_1
theorem dksX4_fewestWith_0 : cX4_fewestWith.data.toList.drop 0 = dktX4_fewestWith_0 := by decide +kernel
theorem dksX4_fewestWith_1 : cX4_fewestWith.data.toList.drop 22 = dktX4_fewestWith_1 := dk_seg dksX4_fewestWith_0 22 rfl rfl
theorem dX4_fewestWith_0 : decode cX4_fewestWith 0 = .ok (.aload_n 0, 1) := dk_42 (dk_at dksX4_fewestWith_0 0 rfl rfl)
theorem dX4_fewestWith_1 : decode cX4_fewestWith 1 = .ok (.iload_n 1, 1) := dk_27 (dk_at dksX4_fewestWith_0 1 rfl rfl)
theorem dX4_fewestWith_2 : decode cX4_fewestWith 2 = .ok (.iload_n 2, 1) := dk_28 (dk_at dksX4_fewestWith_0 2 rfl rfl)
theorem dX4_fewestWith_3 : decode cX4_fewestWith 3 = .ok (.invokevirtual 159, 3) := dk_182 0 159 (dk_at dksX4_fewestWith_0 3 rfl rfl)
theorem dX4_fewestWith_6 : decode cX4_fewestWith 6 = .ok (.ifCond .eq 7, 3) := dk_153 0 7 (dk_at dksX4_fewestWith_0 6 rfl rfl)
theorem dX4_fewestWith_9 : decode cX4_fewestWith 9 = .ok (.iconst 1, 1) := dk_4 (dk_at dksX4_fewestWith_0 9 rfl rfl)
theorem dX4_fewestWith_10 : decode cX4_fewestWith 10 = .ok (.goto 32, 3) := dk_167 0 32 (dk_at dksX4_fewestWith_0 10 rfl rfl)
theorem dX4_fewestWith_13 : decode cX4_fewestWith 13 = .ok (.iconst 1, 1) := dk_4 (dk_at dksX4_fewestWith_0 13 rfl rfl)
theorem dX4_fewestWith_14 : decode cX4_fewestWith 14 = .ok (.aload_n 0, 1) := dk_42 (dk_at dksX4_fewestWith_0 14 rfl rfl)
theorem dX4_fewestWith_15 : decode cX4_fewestWith 15 = .ok (.iload_n 2, 1) := dk_28 (dk_at dksX4_fewestWith_0 15 rfl rfl)
theorem dX4_fewestWith_16 : decode cX4_fewestWith 16 = .ok (.aload_n 0, 1) := dk_42 (dk_at dksX4_fewestWith_0 16 rfl rfl)
theorem dX4_fewestWith_17 : decode cX4_fewestWith 17 = .ok (.getfield 9, 3) := dk_180 0 9 (dk_at dksX4_fewestWith_0 17 rfl rfl)
theorem dX4_fewestWith_20 : decode cX4_fewestWith 20 = .ok (.iload_n 1, 1) := dk_27 (dk_at dksX4_fewestWith_0 20 rfl rfl)
theorem dX4_fewestWith_21 : decode cX4_fewestWith 21 = .ok (.iconst 1, 1) := dk_4 (dk_at dksX4_fewestWith_0 21 rfl rfl)
theorem dX4_fewestWith_22 : decode cX4_fewestWith 22 = .ok (.invokestatic 101, 3) := dk_184 0 101 (dk_at dksX4_fewestWith_1 0 rfl rfl)
theorem dX4_fewestWith_25 : decode cX4_fewestWith 25 = .ok (.iaload, 1) := dk_46 (dk_at dksX4_fewestWith_1 3 rfl rfl)
theorem dX4_fewestWith_26 : decode cX4_fewestWith 26 = .ok (.iconst 1, 1) := dk_4 (dk_at dksX4_fewestWith_1 4 rfl rfl)
theorem dX4_fewestWith_27 : decode cX4_fewestWith 27 = .ok (.iadd, 1) := dk_96 (dk_at dksX4_fewestWith_1 5 rfl rfl)
theorem dX4_fewestWith_28 : decode cX4_fewestWith 28 = .ok (.aload_n 0, 1) := dk_42 (dk_at dksX4_fewestWith_1 6 rfl rfl)
theorem dX4_fewestWith_29 : decode cX4_fewestWith 29 = .ok (.getfield 9, 3) := dk_180 0 9 (dk_at dksX4_fewestWith_1 7 rfl rfl)
theorem dX4_fewestWith_32 : decode cX4_fewestWith 32 = .ok (.iload_n 1, 1) := dk_27 (dk_at dksX4_fewestWith_1 10 rfl rfl)
theorem dX4_fewestWith_33 : decode cX4_fewestWith 33 = .ok (.iconst 3, 1) := dk_6 (dk_at dksX4_fewestWith_1 11 rfl rfl)
theorem dX4_fewestWith_34 : decode cX4_fewestWith 34 = .ok (.invokestatic 101, 3) := dk_184 0 101 (dk_at dksX4_fewestWith_1 12 rfl rfl)
theorem dX4_fewestWith_37 : decode cX4_fewestWith 37 = .ok (.iaload, 1) := dk_46 (dk_at dksX4_fewestWith_1 15 rfl rfl)
theorem dX4_fewestWith_38 : decode cX4_fewestWith 38 = .ok (.invokevirtual 168, 3) := dk_182 0 168 (dk_at dksX4_fewestWith_1 16 rfl rfl)
theorem dX4_fewestWith_41 : decode cX4_fewestWith 41 = .ok (.iadd, 1) := dk_96 (dk_at dksX4_fewestWith_1 19 rfl rfl)
theorem dX4_fewestWith_42 : decode cX4_fewestWith 42 = .ok (.ireturn, 1) := dk_172 (dk_at dksX4_fewestWith_1 20 rfl rfl)
abbrev cX4_reach : ByteArray := prog_14_method_52_code
def yX4_reach : MethodName := ⟨RX4, "reach", "(IZ)I"⟩
def dkwX4_reach_3 : List UInt8 := [182, 0, 190, 172]
abbrev dktX4_reach_3 : List UInt8 := dkwX4_reach_3 ++ []
def dkwX4_reach_2 : List UInt8 := [182, 0, 152, 182, 0, 193, 167, 0, 20, 42, 27, 42, 27, 4, 182, 0, 152, 42, 27, 6, 182, 0, 152]
abbrev dktX4_reach_2 : List UInt8 := dkwX4_reach_2 ++ dktX4_reach_3
def dkwX4_reach_1 : List UInt8 := [3, 172, 42, 3, 182, 0, 171, 28, 153, 0, 23, 42, 27, 42, 27, 5, 182, 0, 152, 42, 27, 7]
abbrev dktX4_reach_1 : List UInt8 := dkwX4_reach_1 ++ dktX4_reach_2
def dkwX4_reach_0 : List UInt8 := [42, 42, 27, 182, 0, 181, 153, 0, 7, 3, 167, 0, 4, 4, 181, 0, 52, 42, 180, 0, 52, 158, 0, 5]
abbrev dktX4_reach_0 : List UInt8 := dkwX4_reach_0 ++ dktX4_reach_1
theorem dksX4_reach_0 : cX4_reach.data.toList.drop 0 = dktX4_reach_0 := by decide +kernel
theorem dksX4_reach_1 : cX4_reach.data.toList.drop 24 = dktX4_reach_1 := dk_seg dksX4_reach_0 24 rfl rfl
theorem dksX4_reach_2 : cX4_reach.data.toList.drop 46 = dktX4_reach_2 := dk_seg dksX4_reach_1 22 rfl rfl
theorem dksX4_reach_3 : cX4_reach.data.toList.drop 69 = dktX4_reach_3 := dk_seg dksX4_reach_2 23 rfl rfl
theorem dX4_reach_0 : decode cX4_reach 0 = .ok (.aload_n 0, 1) := dk_42 (dk_at dksX4_reach_0 0 rfl rfl)
theorem dX4_reach_1 : decode cX4_reach 1 = .ok (.aload_n 0, 1) := dk_42 (dk_at dksX4_reach_0 1 rfl rfl)
theorem dX4_reach_2 : decode cX4_reach 2 = .ok (.iload_n 1, 1) := dk_27 (dk_at dksX4_reach_0 2 rfl rfl)
theorem dX4_reach_3 : decode cX4_reach 3 = .ok (.invokevirtual 181, 3) := dk_182 0 181 (dk_at dksX4_reach_0 3 rfl rfl)
theorem dX4_reach_6 : decode cX4_reach 6 = .ok (.ifCond .eq 7, 3) := dk_153 0 7 (dk_at dksX4_reach_0 6 rfl rfl)
theorem dX4_reach_9 : decode cX4_reach 9 = .ok (.iconst 0, 1) := dk_3 (dk_at dksX4_reach_0 9 rfl rfl)
theorem dX4_reach_10 : decode cX4_reach 10 = .ok (.goto 4, 3) := dk_167 0 4 (dk_at dksX4_reach_0 10 rfl rfl)
theorem dX4_reach_13 : decode cX4_reach 13 = .ok (.iconst 1, 1) := dk_4 (dk_at dksX4_reach_0 13 rfl rfl)
theorem dX4_reach_14 : decode cX4_reach 14 = .ok (.putfield 52, 3) := dk_181 0 52 (dk_at dksX4_reach_0 14 rfl rfl)
theorem dX4_reach_17 : decode cX4_reach 17 = .ok (.aload_n 0, 1) := dk_42 (dk_at dksX4_reach_0 17 rfl rfl)
theorem dX4_reach_18 : decode cX4_reach 18 = .ok (.getfield 52, 3) := dk_180 0 52 (dk_at dksX4_reach_0 18 rfl rfl)
theorem dX4_reach_21 : decode cX4_reach 21 = .ok (.ifCond .le 5, 3) := dk_158 0 5 (dk_at dksX4_reach_0 21 rfl rfl)
theorem dX4_reach_24 : decode cX4_reach 24 = .ok (.iconst 0, 1) := dk_3 (dk_at dksX4_reach_1 0 rfl rfl)
theorem dX4_reach_25 : decode cX4_reach 25 = .ok (.ireturn, 1) := dk_172 (dk_at dksX4_reach_1 1 rfl rfl)
theorem dX4_reach_26 : decode cX4_reach 26 = .ok (.aload_n 0, 1) := dk_42 (dk_at dksX4_reach_1 2 rfl rfl)
theorem dX4_reach_27 : decode cX4_reach 27 = .ok (.iconst 0, 1) := dk_3 (dk_at dksX4_reach_1 3 rfl rfl)
theorem dX4_reach_28 : decode cX4_reach 28 = .ok (.invokevirtual 171, 3) := dk_182 0 171 (dk_at dksX4_reach_1 4 rfl rfl)
theorem dX4_reach_31 : decode cX4_reach 31 = .ok (.iload_n 2, 1) := dk_28 (dk_at dksX4_reach_1 7 rfl rfl)
theorem dX4_reach_32 : decode cX4_reach 32 = .ok (.ifCond .eq 23, 3) := dk_153 0 23 (dk_at dksX4_reach_1 8 rfl rfl)
theorem dX4_reach_35 : decode cX4_reach 35 = .ok (.aload_n 0, 1) := dk_42 (dk_at dksX4_reach_1 11 rfl rfl)
theorem dX4_reach_36 : decode cX4_reach 36 = .ok (.iload_n 1, 1) := dk_27 (dk_at dksX4_reach_1 12 rfl rfl)
theorem dX4_reach_37 : decode cX4_reach 37 = .ok (.aload_n 0, 1) := dk_42 (dk_at dksX4_reach_1 13 rfl rfl)
theorem dX4_reach_38 : decode cX4_reach 38 = .ok (.iload_n 1, 1) := dk_27 (dk_at dksX4_reach_1 14 rfl rfl)
theorem dX4_reach_39 : decode cX4_reach 39 = .ok (.iconst 2, 1) := dk_5 (dk_at dksX4_reach_1 15 rfl rfl)
theorem dX4_reach_40 : decode cX4_reach 40 = .ok (.invokevirtual 152, 3) := dk_182 0 152 (dk_at dksX4_reach_1 16 rfl rfl)
theorem dX4_reach_43 : decode cX4_reach 43 = .ok (.aload_n 0, 1) := dk_42 (dk_at dksX4_reach_1 19 rfl rfl)
theorem dX4_reach_44 : decode cX4_reach 44 = .ok (.iload_n 1, 1) := dk_27 (dk_at dksX4_reach_1 20 rfl rfl)
theorem dX4_reach_45 : decode cX4_reach 45 = .ok (.iconst 4, 1) := dk_7 (dk_at dksX4_reach_1 21 rfl rfl)
theorem dX4_reach_46 : decode cX4_reach 46 = .ok (.invokevirtual 152, 3) := dk_182 0 152 (dk_at dksX4_reach_2 0 rfl rfl)
theorem dX4_reach_49 : decode cX4_reach 49 = .ok (.invokevirtual 193, 3) := dk_182 0 193 (dk_at dksX4_reach_2 3 rfl rfl)
theorem dX4_reach_52 : decode cX4_reach 52 = .ok (.goto 20, 3) := dk_167 0 20 (dk_at dksX4_reach_2 6 rfl rfl)
theorem dX4_reach_55 : decode cX4_reach 55 = .ok (.aload_n 0, 1) := dk_42 (dk_at dksX4_reach_2 9 rfl rfl)
theorem dX4_reach_56 : decode cX4_reach 56 = .ok (.iload_n 1, 1) := dk_27 (dk_at dksX4_reach_2 10 rfl rfl)
theorem dX4_reach_57 : decode cX4_reach 57 = .ok (.aload_n 0, 1) := dk_42 (dk_at dksX4_reach_2 11 rfl rfl)
theorem dX4_reach_58 : decode cX4_reach 58 = .ok (.iload_n 1, 1) := dk_27 (dk_at dksX4_reach_2 12 rfl rfl)
theorem dX4_reach_59 : decode cX4_reach 59 = .ok (.iconst 1, 1) := dk_4 (dk_at dksX4_reach_2 13 rfl rfl)
theorem dX4_reach_60 : decode cX4_reach 60 = .ok (.invokevirtual 152, 3) := dk_182 0 152 (dk_at dksX4_reach_2 14 rfl rfl)
theorem dX4_reach_63 : decode cX4_reach 63 = .ok (.aload_n 0, 1) := dk_42 (dk_at dksX4_reach_2 17 rfl rfl)
theorem dX4_reach_64 : decode cX4_reach 64 = .ok (.iload_n 1, 1) := dk_27 (dk_at dksX4_reach_2 18 rfl rfl)
theorem dX4_reach_65 : decode cX4_reach 65 = .ok (.iconst 3, 1) := dk_6 (dk_at dksX4_reach_2 19 rfl rfl)
theorem dX4_reach_66 : decode cX4_reach 66 = .ok (.invokevirtual 152, 3) := dk_182 0 152 (dk_at dksX4_reach_2 20 rfl rfl)
theorem dX4_reach_69 : decode cX4_reach 69 = .ok (.invokevirtual 190, 3) := dk_182 0 190 (dk_at dksX4_reach_3 0 rfl rfl)
theorem dX4_reach_72 : decode cX4_reach 72 = .ok (.ireturn, 1) := dk_172 (dk_at dksX4_reach_3 3 rfl rfl)
abbrev cX4_rightReach : ByteArray := prog_14_method_51_code
def yX4_rightReach : MethodName := ⟨RX4, "rightReach", "(III)I"⟩
def dkwX4_rightReach_5 : List UInt8 := [182, 0, 193, 184, 0, 134, 54, 4, 132, 5, 1, 167, 255, 136, 21, 4, 172]
abbrev dktX4_rightReach_5 : List UInt8 := dkwX4_rightReach_5 ++ []
def dkwX4_rightReach_4 : List UInt8 := [180, 0, 9, 21, 5, 3, 184, 0, 101, 46, 4, 100, 42, 180, 0, 9, 21, 5, 5, 184, 0, 101, 46]
abbrev dktX4_rightReach_4 : List UInt8 := dkwX4_rightReach_4 ++ dktX4_rightReach_5
def dkwX4_rightReach_3 : List UInt8 := [180, 0, 9, 21, 5, 3, 184, 0, 101, 46, 42, 27, 4, 182, 0, 152, 161, 0, 39, 21, 4, 42, 27, 42]
abbrev dktX4_rightReach_3 : List UInt8 := dkwX4_rightReach_3 ++ dktX4_rightReach_4
def dkwX4_rightReach_2 : List UInt8 := [6, 184, 0, 101, 46, 29, 160, 0, 7, 4, 167, 0, 4, 3, 54, 6, 21, 6, 153, 0, 59, 42]
abbrev dktX4_rightReach_2 : List UInt8 := dkwX4_rightReach_2 ++ dktX4_rightReach_3
def dkwX4_rightReach_1 : List UInt8 := [153, 0, 37, 42, 180, 0, 9, 21, 5, 4, 184, 0, 101, 46, 28, 160, 0, 22, 42, 180, 0, 9, 21, 5]
abbrev dktX4_rightReach_1 : List UInt8 := dkwX4_rightReach_1 ++ dktX4_rightReach_2
def dkwX4_rightReach_0 : List UInt8 := [28, 4, 96, 54, 4, 3, 54, 5, 21, 5, 42, 180, 0, 146, 162, 0, 117, 42, 180, 0, 25, 21, 5, 51]
abbrev dktX4_rightReach_0 : List UInt8 := dkwX4_rightReach_0 ++ dktX4_rightReach_1
theorem dksX4_rightReach_0 : cX4_rightReach.data.toList.drop 0 = dktX4_rightReach_0 := by decide +kernel
theorem dksX4_rightReach_1 : cX4_rightReach.data.toList.drop 24 = dktX4_rightReach_1 := dk_seg dksX4_rightReach_0 24 rfl rfl
theorem dksX4_rightReach_2 : cX4_rightReach.data.toList.drop 48 = dktX4_rightReach_2 := dk_seg dksX4_rightReach_1 24 rfl rfl
theorem dksX4_rightReach_3 : cX4_rightReach.data.toList.drop 70 = dktX4_rightReach_3 := dk_seg dksX4_rightReach_2 22 rfl rfl
theorem dksX4_rightReach_4 : cX4_rightReach.data.toList.drop 94 = dktX4_rightReach_4 := dk_seg dksX4_rightReach_3 24 rfl rfl
theorem dksX4_rightReach_5 : cX4_rightReach.data.toList.drop 117 = dktX4_rightReach_5 := dk_seg dksX4_rightReach_4 23 rfl rfl
theorem dX4_rightReach_0 : decode cX4_rightReach 0 = .ok (.iload_n 2, 1) := dk_28 (dk_at dksX4_rightReach_0 0 rfl rfl)
theorem dX4_rightReach_1 : decode cX4_rightReach 1 = .ok (.iconst 1, 1) := dk_4 (dk_at dksX4_rightReach_0 1 rfl rfl)
theorem dX4_rightReach_2 : decode cX4_rightReach 2 = .ok (.iadd, 1) := dk_96 (dk_at dksX4_rightReach_0 2 rfl rfl)
theorem dX4_rightReach_3 : decode cX4_rightReach 3 = .ok (.istore 4, 2) := dk_54 4 (dk_at dksX4_rightReach_0 3 rfl rfl)
theorem dX4_rightReach_5 : decode cX4_rightReach 5 = .ok (.iconst 0, 1) := dk_3 (dk_at dksX4_rightReach_0 5 rfl rfl)
theorem dX4_rightReach_6 : decode cX4_rightReach 6 = .ok (.istore 5, 2) := dk_54 5 (dk_at dksX4_rightReach_0 6 rfl rfl)
theorem dX4_rightReach_8 : decode cX4_rightReach 8 = .ok (.iload 5, 2) := dk_21 5 (dk_at dksX4_rightReach_0 8 rfl rfl)
theorem dX4_rightReach_10 : decode cX4_rightReach 10 = .ok (.aload_n 0, 1) := dk_42 (dk_at dksX4_rightReach_0 10 rfl rfl)
theorem dX4_rightReach_11 : decode cX4_rightReach 11 = .ok (.getfield 146, 3) := dk_180 0 146 (dk_at dksX4_rightReach_0 11 rfl rfl)
theorem dX4_rightReach_14 : decode cX4_rightReach 14 = .ok (.if_icmp .ge 117, 3) := dk_162 0 117 (dk_at dksX4_rightReach_0 14 rfl rfl)
theorem dX4_rightReach_17 : decode cX4_rightReach 17 = .ok (.aload_n 0, 1) := dk_42 (dk_at dksX4_rightReach_0 17 rfl rfl)
theorem dX4_rightReach_18 : decode cX4_rightReach 18 = .ok (.getfield 25, 3) := dk_180 0 25 (dk_at dksX4_rightReach_0 18 rfl rfl)
theorem dX4_rightReach_21 : decode cX4_rightReach 21 = .ok (.iload 5, 2) := dk_21 5 (dk_at dksX4_rightReach_0 21 rfl rfl)
theorem dX4_rightReach_23 : decode cX4_rightReach 23 = .ok (.baload, 1) := dk_51 (dk_at dksX4_rightReach_0 23 rfl rfl)
theorem dX4_rightReach_24 : decode cX4_rightReach 24 = .ok (.ifCond .eq 37, 3) := dk_153 0 37 (dk_at dksX4_rightReach_1 0 rfl rfl)
theorem dX4_rightReach_27 : decode cX4_rightReach 27 = .ok (.aload_n 0, 1) := dk_42 (dk_at dksX4_rightReach_1 3 rfl rfl)
theorem dX4_rightReach_28 : decode cX4_rightReach 28 = .ok (.getfield 9, 3) := dk_180 0 9 (dk_at dksX4_rightReach_1 4 rfl rfl)
theorem dX4_rightReach_31 : decode cX4_rightReach 31 = .ok (.iload 5, 2) := dk_21 5 (dk_at dksX4_rightReach_1 7 rfl rfl)
theorem dX4_rightReach_33 : decode cX4_rightReach 33 = .ok (.iconst 1, 1) := dk_4 (dk_at dksX4_rightReach_1 9 rfl rfl)
theorem dX4_rightReach_34 : decode cX4_rightReach 34 = .ok (.invokestatic 101, 3) := dk_184 0 101 (dk_at dksX4_rightReach_1 10 rfl rfl)
theorem dX4_rightReach_37 : decode cX4_rightReach 37 = .ok (.iaload, 1) := dk_46 (dk_at dksX4_rightReach_1 13 rfl rfl)
theorem dX4_rightReach_38 : decode cX4_rightReach 38 = .ok (.iload_n 2, 1) := dk_28 (dk_at dksX4_rightReach_1 14 rfl rfl)
theorem dX4_rightReach_39 : decode cX4_rightReach 39 = .ok (.if_icmp .ne 22, 3) := dk_160 0 22 (dk_at dksX4_rightReach_1 15 rfl rfl)
theorem dX4_rightReach_42 : decode cX4_rightReach 42 = .ok (.aload_n 0, 1) := dk_42 (dk_at dksX4_rightReach_1 18 rfl rfl)
theorem dX4_rightReach_43 : decode cX4_rightReach 43 = .ok (.getfield 9, 3) := dk_180 0 9 (dk_at dksX4_rightReach_1 19 rfl rfl)
theorem dX4_rightReach_46 : decode cX4_rightReach 46 = .ok (.iload 5, 2) := dk_21 5 (dk_at dksX4_rightReach_1 22 rfl rfl)
theorem dX4_rightReach_48 : decode cX4_rightReach 48 = .ok (.iconst 3, 1) := dk_6 (dk_at dksX4_rightReach_2 0 rfl rfl)
theorem dX4_rightReach_49 : decode cX4_rightReach 49 = .ok (.invokestatic 101, 3) := dk_184 0 101 (dk_at dksX4_rightReach_2 1 rfl rfl)
theorem dX4_rightReach_52 : decode cX4_rightReach 52 = .ok (.iaload, 1) := dk_46 (dk_at dksX4_rightReach_2 4 rfl rfl)
theorem dX4_rightReach_53 : decode cX4_rightReach 53 = .ok (.iload_n 3, 1) := dk_29 (dk_at dksX4_rightReach_2 5 rfl rfl)
theorem dX4_rightReach_54 : decode cX4_rightReach 54 = .ok (.if_icmp .ne 7, 3) := dk_160 0 7 (dk_at dksX4_rightReach_2 6 rfl rfl)
theorem dX4_rightReach_57 : decode cX4_rightReach 57 = .ok (.iconst 1, 1) := dk_4 (dk_at dksX4_rightReach_2 9 rfl rfl)
theorem dX4_rightReach_58 : decode cX4_rightReach 58 = .ok (.goto 4, 3) := dk_167 0 4 (dk_at dksX4_rightReach_2 10 rfl rfl)
theorem dX4_rightReach_61 : decode cX4_rightReach 61 = .ok (.iconst 0, 1) := dk_3 (dk_at dksX4_rightReach_2 13 rfl rfl)
theorem dX4_rightReach_62 : decode cX4_rightReach 62 = .ok (.istore 6, 2) := dk_54 6 (dk_at dksX4_rightReach_2 14 rfl rfl)
theorem dX4_rightReach_64 : decode cX4_rightReach 64 = .ok (.iload 6, 2) := dk_21 6 (dk_at dksX4_rightReach_2 16 rfl rfl)
theorem dX4_rightReach_66 : decode cX4_rightReach 66 = .ok (.ifCond .eq 59, 3) := dk_153 0 59 (dk_at dksX4_rightReach_2 18 rfl rfl)
theorem dX4_rightReach_69 : decode cX4_rightReach 69 = .ok (.aload_n 0, 1) := dk_42 (dk_at dksX4_rightReach_2 21 rfl rfl)
theorem dX4_rightReach_70 : decode cX4_rightReach 70 = .ok (.getfield 9, 3) := dk_180 0 9 (dk_at dksX4_rightReach_3 0 rfl rfl)
theorem dX4_rightReach_73 : decode cX4_rightReach 73 = .ok (.iload 5, 2) := dk_21 5 (dk_at dksX4_rightReach_3 3 rfl rfl)
theorem dX4_rightReach_75 : decode cX4_rightReach 75 = .ok (.iconst 0, 1) := dk_3 (dk_at dksX4_rightReach_3 5 rfl rfl)
theorem dX4_rightReach_76 : decode cX4_rightReach 76 = .ok (.invokestatic 101, 3) := dk_184 0 101 (dk_at dksX4_rightReach_3 6 rfl rfl)
theorem dX4_rightReach_79 : decode cX4_rightReach 79 = .ok (.iaload, 1) := dk_46 (dk_at dksX4_rightReach_3 9 rfl rfl)
theorem dX4_rightReach_80 : decode cX4_rightReach 80 = .ok (.aload_n 0, 1) := dk_42 (dk_at dksX4_rightReach_3 10 rfl rfl)
theorem dX4_rightReach_81 : decode cX4_rightReach 81 = .ok (.iload_n 1, 1) := dk_27 (dk_at dksX4_rightReach_3 11 rfl rfl)
theorem dX4_rightReach_82 : decode cX4_rightReach 82 = .ok (.iconst 1, 1) := dk_4 (dk_at dksX4_rightReach_3 12 rfl rfl)
theorem dX4_rightReach_83 : decode cX4_rightReach 83 = .ok (.invokevirtual 152, 3) := dk_182 0 152 (dk_at dksX4_rightReach_3 13 rfl rfl)
theorem dX4_rightReach_86 : decode cX4_rightReach 86 = .ok (.if_icmp .lt 39, 3) := dk_161 0 39 (dk_at dksX4_rightReach_3 16 rfl rfl)
theorem dX4_rightReach_89 : decode cX4_rightReach 89 = .ok (.iload 4, 2) := dk_21 4 (dk_at dksX4_rightReach_3 19 rfl rfl)
theorem dX4_rightReach_91 : decode cX4_rightReach 91 = .ok (.aload_n 0, 1) := dk_42 (dk_at dksX4_rightReach_3 21 rfl rfl)
theorem dX4_rightReach_92 : decode cX4_rightReach 92 = .ok (.iload_n 1, 1) := dk_27 (dk_at dksX4_rightReach_3 22 rfl rfl)
theorem dX4_rightReach_93 : decode cX4_rightReach 93 = .ok (.aload_n 0, 1) := dk_42 (dk_at dksX4_rightReach_3 23 rfl rfl)
theorem dX4_rightReach_94 : decode cX4_rightReach 94 = .ok (.getfield 9, 3) := dk_180 0 9 (dk_at dksX4_rightReach_4 0 rfl rfl)
theorem dX4_rightReach_97 : decode cX4_rightReach 97 = .ok (.iload 5, 2) := dk_21 5 (dk_at dksX4_rightReach_4 3 rfl rfl)
theorem dX4_rightReach_99 : decode cX4_rightReach 99 = .ok (.iconst 0, 1) := dk_3 (dk_at dksX4_rightReach_4 5 rfl rfl)
theorem dX4_rightReach_100 : decode cX4_rightReach 100 = .ok (.invokestatic 101, 3) := dk_184 0 101 (dk_at dksX4_rightReach_4 6 rfl rfl)
theorem dX4_rightReach_103 : decode cX4_rightReach 103 = .ok (.iaload, 1) := dk_46 (dk_at dksX4_rightReach_4 9 rfl rfl)
theorem dX4_rightReach_104 : decode cX4_rightReach 104 = .ok (.iconst 1, 1) := dk_4 (dk_at dksX4_rightReach_4 10 rfl rfl)
theorem dX4_rightReach_105 : decode cX4_rightReach 105 = .ok (.isub, 1) := dk_100 (dk_at dksX4_rightReach_4 11 rfl rfl)
theorem dX4_rightReach_106 : decode cX4_rightReach 106 = .ok (.aload_n 0, 1) := dk_42 (dk_at dksX4_rightReach_4 12 rfl rfl)
theorem dX4_rightReach_107 : decode cX4_rightReach 107 = .ok (.getfield 9, 3) := dk_180 0 9 (dk_at dksX4_rightReach_4 13 rfl rfl)
theorem dX4_rightReach_110 : decode cX4_rightReach 110 = .ok (.iload 5, 2) := dk_21 5 (dk_at dksX4_rightReach_4 16 rfl rfl)
theorem dX4_rightReach_112 : decode cX4_rightReach 112 = .ok (.iconst 2, 1) := dk_5 (dk_at dksX4_rightReach_4 18 rfl rfl)
theorem dX4_rightReach_113 : decode cX4_rightReach 113 = .ok (.invokestatic 101, 3) := dk_184 0 101 (dk_at dksX4_rightReach_4 19 rfl rfl)
theorem dX4_rightReach_116 : decode cX4_rightReach 116 = .ok (.iaload, 1) := dk_46 (dk_at dksX4_rightReach_4 22 rfl rfl)
theorem dX4_rightReach_117 : decode cX4_rightReach 117 = .ok (.invokevirtual 193, 3) := dk_182 0 193 (dk_at dksX4_rightReach_5 0 rfl rfl)
theorem dX4_rightReach_120 : decode cX4_rightReach 120 = .ok (.invokestatic 134, 3) := dk_184 0 134 (dk_at dksX4_rightReach_5 3 rfl rfl)
theorem dX4_rightReach_123 : decode cX4_rightReach 123 = .ok (.istore 4, 2) := dk_54 4 (dk_at dksX4_rightReach_5 6 rfl rfl)
theorem dX4_rightReach_125 : decode cX4_rightReach 125 = .ok (.iinc 5 1, 3) := dk_132 5 1 (dk_at dksX4_rightReach_5 8 rfl rfl)
theorem dX4_rightReach_128 : decode cX4_rightReach 128 = .ok (.goto (-120), 3) := dk_167 255 136 (dk_at dksX4_rightReach_5 11 rfl rfl)
theorem dX4_rightReach_131 : decode cX4_rightReach 131 = .ok (.iload 4, 2) := dk_21 4 (dk_at dksX4_rightReach_5 14 rfl rfl)
theorem dX4_rightReach_133 : decode cX4_rightReach 133 = .ok (.ireturn, 1) := dk_172 (dk_at dksX4_rightReach_5 16 rfl rfl)
abbrev cX4_leftReach : ByteArray := prog_14_method_50_code
def yX4_leftReach : MethodName := ⟨RX4, "leftReach", "(III)I"⟩
def dkwX4_leftReach_3 : List UInt8 := [21, 4, 172]
abbrev dktX4_leftReach_3 : List UInt8 := dkwX4_leftReach_3 ++ []
def dkwX4_leftReach_2 : List UInt8 := [180, 0, 9, 21, 5, 6, 184, 0, 101, 46, 182, 0, 190, 184, 0, 139, 54, 4, 132, 5, 1, 167, 255, 196]
abbrev dktX4_leftReach_2 : List UInt8 := dkwX4_leftReach_2 ++ dktX4_leftReach_3
def dkwX4_leftReach_1 : List UInt8 := [182, 0, 155, 153, 0, 39, 21, 4, 42, 27, 42, 180, 0, 9, 21, 5, 4, 184, 0, 101, 46, 4, 96, 42]
abbrev dktX4_leftReach_1 : List UInt8 := dkwX4_leftReach_1 ++ dktX4_leftReach_2
def dkwX4_leftReach_0 : List UInt8 := [28, 4, 100, 54, 4, 3, 54, 5, 21, 5, 42, 180, 0, 146, 162, 0, 57, 42, 21, 5, 27, 28, 29]
abbrev dktX4_leftReach_0 : List UInt8 := dkwX4_leftReach_0 ++ dktX4_leftReach_1
theorem dksX4_leftReach_0 : cX4_leftReach.data.toList.drop 0 = dktX4_leftReach_0 := by decide +kernel
theorem dksX4_leftReach_1 : cX4_leftReach.data.toList.drop 23 = dktX4_leftReach_1 := dk_seg dksX4_leftReach_0 23 rfl rfl
theorem dksX4_leftReach_2 : cX4_leftReach.data.toList.drop 47 = dktX4_leftReach_2 := dk_seg dksX4_leftReach_1 24 rfl rfl
theorem dksX4_leftReach_3 : cX4_leftReach.data.toList.drop 71 = dktX4_leftReach_3 := dk_seg dksX4_leftReach_2 24 rfl rfl
theorem dX4_leftReach_0 : decode cX4_leftReach 0 = .ok (.iload_n 2, 1) := dk_28 (dk_at dksX4_leftReach_0 0 rfl rfl)
theorem dX4_leftReach_1 : decode cX4_leftReach 1 = .ok (.iconst 1, 1) := dk_4 (dk_at dksX4_leftReach_0 1 rfl rfl)
theorem dX4_leftReach_2 : decode cX4_leftReach 2 = .ok (.isub, 1) := dk_100 (dk_at dksX4_leftReach_0 2 rfl rfl)
theorem dX4_leftReach_3 : decode cX4_leftReach 3 = .ok (.istore 4, 2) := dk_54 4 (dk_at dksX4_leftReach_0 3 rfl rfl)
theorem dX4_leftReach_5 : decode cX4_leftReach 5 = .ok (.iconst 0, 1) := dk_3 (dk_at dksX4_leftReach_0 5 rfl rfl)
theorem dX4_leftReach_6 : decode cX4_leftReach 6 = .ok (.istore 5, 2) := dk_54 5 (dk_at dksX4_leftReach_0 6 rfl rfl)
theorem dX4_leftReach_8 : decode cX4_leftReach 8 = .ok (.iload 5, 2) := dk_21 5 (dk_at dksX4_leftReach_0 8 rfl rfl)
theorem dX4_leftReach_10 : decode cX4_leftReach 10 = .ok (.aload_n 0, 1) := dk_42 (dk_at dksX4_leftReach_0 10 rfl rfl)
theorem dX4_leftReach_11 : decode cX4_leftReach 11 = .ok (.getfield 146, 3) := dk_180 0 146 (dk_at dksX4_leftReach_0 11 rfl rfl)
theorem dX4_leftReach_14 : decode cX4_leftReach 14 = .ok (.if_icmp .ge 57, 3) := dk_162 0 57 (dk_at dksX4_leftReach_0 14 rfl rfl)
theorem dX4_leftReach_17 : decode cX4_leftReach 17 = .ok (.aload_n 0, 1) := dk_42 (dk_at dksX4_leftReach_0 17 rfl rfl)
theorem dX4_leftReach_18 : decode cX4_leftReach 18 = .ok (.iload 5, 2) := dk_21 5 (dk_at dksX4_leftReach_0 18 rfl rfl)
theorem dX4_leftReach_20 : decode cX4_leftReach 20 = .ok (.iload_n 1, 1) := dk_27 (dk_at dksX4_leftReach_0 20 rfl rfl)
theorem dX4_leftReach_21 : decode cX4_leftReach 21 = .ok (.iload_n 2, 1) := dk_28 (dk_at dksX4_leftReach_0 21 rfl rfl)
theorem dX4_leftReach_22 : decode cX4_leftReach 22 = .ok (.iload_n 3, 1) := dk_29 (dk_at dksX4_leftReach_0 22 rfl rfl)
theorem dX4_leftReach_23 : decode cX4_leftReach 23 = .ok (.invokevirtual 155, 3) := dk_182 0 155 (dk_at dksX4_leftReach_1 0 rfl rfl)
theorem dX4_leftReach_26 : decode cX4_leftReach 26 = .ok (.ifCond .eq 39, 3) := dk_153 0 39 (dk_at dksX4_leftReach_1 3 rfl rfl)
theorem dX4_leftReach_29 : decode cX4_leftReach 29 = .ok (.iload 4, 2) := dk_21 4 (dk_at dksX4_leftReach_1 6 rfl rfl)
theorem dX4_leftReach_31 : decode cX4_leftReach 31 = .ok (.aload_n 0, 1) := dk_42 (dk_at dksX4_leftReach_1 8 rfl rfl)
theorem dX4_leftReach_32 : decode cX4_leftReach 32 = .ok (.iload_n 1, 1) := dk_27 (dk_at dksX4_leftReach_1 9 rfl rfl)
theorem dX4_leftReach_33 : decode cX4_leftReach 33 = .ok (.aload_n 0, 1) := dk_42 (dk_at dksX4_leftReach_1 10 rfl rfl)
theorem dX4_leftReach_34 : decode cX4_leftReach 34 = .ok (.getfield 9, 3) := dk_180 0 9 (dk_at dksX4_leftReach_1 11 rfl rfl)
theorem dX4_leftReach_37 : decode cX4_leftReach 37 = .ok (.iload 5, 2) := dk_21 5 (dk_at dksX4_leftReach_1 14 rfl rfl)
theorem dX4_leftReach_39 : decode cX4_leftReach 39 = .ok (.iconst 1, 1) := dk_4 (dk_at dksX4_leftReach_1 16 rfl rfl)
theorem dX4_leftReach_40 : decode cX4_leftReach 40 = .ok (.invokestatic 101, 3) := dk_184 0 101 (dk_at dksX4_leftReach_1 17 rfl rfl)
theorem dX4_leftReach_43 : decode cX4_leftReach 43 = .ok (.iaload, 1) := dk_46 (dk_at dksX4_leftReach_1 20 rfl rfl)
theorem dX4_leftReach_44 : decode cX4_leftReach 44 = .ok (.iconst 1, 1) := dk_4 (dk_at dksX4_leftReach_1 21 rfl rfl)
theorem dX4_leftReach_45 : decode cX4_leftReach 45 = .ok (.iadd, 1) := dk_96 (dk_at dksX4_leftReach_1 22 rfl rfl)
theorem dX4_leftReach_46 : decode cX4_leftReach 46 = .ok (.aload_n 0, 1) := dk_42 (dk_at dksX4_leftReach_1 23 rfl rfl)
theorem dX4_leftReach_47 : decode cX4_leftReach 47 = .ok (.getfield 9, 3) := dk_180 0 9 (dk_at dksX4_leftReach_2 0 rfl rfl)
theorem dX4_leftReach_50 : decode cX4_leftReach 50 = .ok (.iload 5, 2) := dk_21 5 (dk_at dksX4_leftReach_2 3 rfl rfl)
theorem dX4_leftReach_52 : decode cX4_leftReach 52 = .ok (.iconst 3, 1) := dk_6 (dk_at dksX4_leftReach_2 5 rfl rfl)
theorem dX4_leftReach_53 : decode cX4_leftReach 53 = .ok (.invokestatic 101, 3) := dk_184 0 101 (dk_at dksX4_leftReach_2 6 rfl rfl)
theorem dX4_leftReach_56 : decode cX4_leftReach 56 = .ok (.iaload, 1) := dk_46 (dk_at dksX4_leftReach_2 9 rfl rfl)
theorem dX4_leftReach_57 : decode cX4_leftReach 57 = .ok (.invokevirtual 190, 3) := dk_182 0 190 (dk_at dksX4_leftReach_2 10 rfl rfl)
theorem dX4_leftReach_60 : decode cX4_leftReach 60 = .ok (.invokestatic 139, 3) := dk_184 0 139 (dk_at dksX4_leftReach_2 13 rfl rfl)
theorem dX4_leftReach_63 : decode cX4_leftReach 63 = .ok (.istore 4, 2) := dk_54 4 (dk_at dksX4_leftReach_2 16 rfl rfl)
theorem dX4_leftReach_65 : decode cX4_leftReach 65 = .ok (.iinc 5 1, 3) := dk_132 5 1 (dk_at dksX4_leftReach_2 18 rfl rfl)
theorem dX4_leftReach_68 : decode cX4_leftReach 68 = .ok (.goto (-60), 3) := dk_167 255 196 (dk_at dksX4_leftReach_2 21 rfl rfl)
theorem dX4_leftReach_71 : decode cX4_leftReach 71 = .ok (.iload 4, 2) := dk_21 4 (dk_at dksX4_leftReach_3 0 rfl rfl)
theorem dX4_leftReach_73 : decode cX4_leftReach 73 = .ok (.ireturn, 1) := dk_172 (dk_at dksX4_leftReach_3 2 rfl rfl)
abbrev cX4_needed : ByteArray := prog_14_method_54_code
def yX4_needed : MethodName := ⟨RX4, "needed", "(I)I"⟩
def dkwX4_needed_3 : List UInt8 := [182, 0, 196, 154, 0, 10, 4, 21, 4, 120, 167, 0, 4, 3, 128, 61, 132, 4, 1, 167, 255, 217, 28, 172]
abbrev dktX4_needed_3 : List UInt8 := dkwX4_needed_3 ++ []
def dkwX4_needed_2 : List UInt8 := [54, 4, 21, 4, 42, 180, 0, 9, 4, 46, 162, 0, 34, 28, 29, 153, 0, 20, 42, 27, 21, 4]
abbrev dktX4_needed_2 : List UInt8 := dkwX4_needed_2 ++ dktX4_needed_3
def dkwX4_needed_1 : List UInt8 := [3, 172, 42, 3, 182, 0, 171, 3, 61, 42, 27, 182, 0, 184, 158, 0, 7, 4, 167, 0, 4, 3, 62, 3]
abbrev dktX4_needed_1 : List UInt8 := dkwX4_needed_1 ++ dktX4_needed_2
def dkwX4_needed_0 : List UInt8 := [42, 42, 27, 182, 0, 181, 153, 0, 7, 3, 167, 0, 4, 4, 181, 0, 52, 42, 180, 0, 52, 158, 0, 5]
abbrev dktX4_needed_0 : List UInt8 := dkwX4_needed_0 ++ dktX4_needed_1
theorem dksX4_needed_0 : cX4_needed.data.toList.drop 0 = dktX4_needed_0 := by decide +kernel
theorem dksX4_needed_1 : cX4_needed.data.toList.drop 24 = dktX4_needed_1 := dk_seg dksX4_needed_0 24 rfl rfl
theorem dksX4_needed_2 : cX4_needed.data.toList.drop 48 = dktX4_needed_2 := dk_seg dksX4_needed_1 24 rfl rfl
theorem dksX4_needed_3 : cX4_needed.data.toList.drop 70 = dktX4_needed_3 := dk_seg dksX4_needed_2 22 rfl rfl
theorem dX4_needed_0 : decode cX4_needed 0 = .ok (.aload_n 0, 1) := dk_42 (dk_at dksX4_needed_0 0 rfl rfl)
theorem dX4_needed_1 : decode cX4_needed 1 = .ok (.aload_n 0, 1) := dk_42 (dk_at dksX4_needed_0 1 rfl rfl)
theorem dX4_needed_2 : decode cX4_needed 2 = .ok (.iload_n 1, 1) := dk_27 (dk_at dksX4_needed_0 2 rfl rfl)
theorem dX4_needed_3 : decode cX4_needed 3 = .ok (.invokevirtual 181, 3) := dk_182 0 181 (dk_at dksX4_needed_0 3 rfl rfl)
theorem dX4_needed_6 : decode cX4_needed 6 = .ok (.ifCond .eq 7, 3) := dk_153 0 7 (dk_at dksX4_needed_0 6 rfl rfl)
theorem dX4_needed_9 : decode cX4_needed 9 = .ok (.iconst 0, 1) := dk_3 (dk_at dksX4_needed_0 9 rfl rfl)
theorem dX4_needed_10 : decode cX4_needed 10 = .ok (.goto 4, 3) := dk_167 0 4 (dk_at dksX4_needed_0 10 rfl rfl)
theorem dX4_needed_13 : decode cX4_needed 13 = .ok (.iconst 1, 1) := dk_4 (dk_at dksX4_needed_0 13 rfl rfl)
theorem dX4_needed_14 : decode cX4_needed 14 = .ok (.putfield 52, 3) := dk_181 0 52 (dk_at dksX4_needed_0 14 rfl rfl)
theorem dX4_needed_17 : decode cX4_needed 17 = .ok (.aload_n 0, 1) := dk_42 (dk_at dksX4_needed_0 17 rfl rfl)
theorem dX4_needed_18 : decode cX4_needed 18 = .ok (.getfield 52, 3) := dk_180 0 52 (dk_at dksX4_needed_0 18 rfl rfl)
theorem dX4_needed_21 : decode cX4_needed 21 = .ok (.ifCond .le 5, 3) := dk_158 0 5 (dk_at dksX4_needed_0 21 rfl rfl)
theorem dX4_needed_24 : decode cX4_needed 24 = .ok (.iconst 0, 1) := dk_3 (dk_at dksX4_needed_1 0 rfl rfl)
theorem dX4_needed_25 : decode cX4_needed 25 = .ok (.ireturn, 1) := dk_172 (dk_at dksX4_needed_1 1 rfl rfl)
theorem dX4_needed_26 : decode cX4_needed 26 = .ok (.aload_n 0, 1) := dk_42 (dk_at dksX4_needed_1 2 rfl rfl)
theorem dX4_needed_27 : decode cX4_needed 27 = .ok (.iconst 0, 1) := dk_3 (dk_at dksX4_needed_1 3 rfl rfl)
theorem dX4_needed_28 : decode cX4_needed 28 = .ok (.invokevirtual 171, 3) := dk_182 0 171 (dk_at dksX4_needed_1 4 rfl rfl)
theorem dX4_needed_31 : decode cX4_needed 31 = .ok (.iconst 0, 1) := dk_3 (dk_at dksX4_needed_1 7 rfl rfl)
theorem dX4_needed_32 : decode cX4_needed 32 = .ok (.istore_n 2, 1) := dk_61 (dk_at dksX4_needed_1 8 rfl rfl)
theorem dX4_needed_33 : decode cX4_needed 33 = .ok (.aload_n 0, 1) := dk_42 (dk_at dksX4_needed_1 9 rfl rfl)
theorem dX4_needed_34 : decode cX4_needed 34 = .ok (.iload_n 1, 1) := dk_27 (dk_at dksX4_needed_1 10 rfl rfl)
theorem dX4_needed_35 : decode cX4_needed 35 = .ok (.invokevirtual 184, 3) := dk_182 0 184 (dk_at dksX4_needed_1 11 rfl rfl)
theorem dX4_needed_38 : decode cX4_needed 38 = .ok (.ifCond .le 7, 3) := dk_158 0 7 (dk_at dksX4_needed_1 14 rfl rfl)
theorem dX4_needed_41 : decode cX4_needed 41 = .ok (.iconst 1, 1) := dk_4 (dk_at dksX4_needed_1 17 rfl rfl)
theorem dX4_needed_42 : decode cX4_needed 42 = .ok (.goto 4, 3) := dk_167 0 4 (dk_at dksX4_needed_1 18 rfl rfl)
theorem dX4_needed_45 : decode cX4_needed 45 = .ok (.iconst 0, 1) := dk_3 (dk_at dksX4_needed_1 21 rfl rfl)
theorem dX4_needed_46 : decode cX4_needed 46 = .ok (.istore_n 3, 1) := dk_62 (dk_at dksX4_needed_1 22 rfl rfl)
theorem dX4_needed_47 : decode cX4_needed 47 = .ok (.iconst 0, 1) := dk_3 (dk_at dksX4_needed_1 23 rfl rfl)
theorem dX4_needed_48 : decode cX4_needed 48 = .ok (.istore 4, 2) := dk_54 4 (dk_at dksX4_needed_2 0 rfl rfl)
theorem dX4_needed_50 : decode cX4_needed 50 = .ok (.iload 4, 2) := dk_21 4 (dk_at dksX4_needed_2 2 rfl rfl)
theorem dX4_needed_52 : decode cX4_needed 52 = .ok (.aload_n 0, 1) := dk_42 (dk_at dksX4_needed_2 4 rfl rfl)
theorem dX4_needed_53 : decode cX4_needed 53 = .ok (.getfield 9, 3) := dk_180 0 9 (dk_at dksX4_needed_2 5 rfl rfl)
theorem dX4_needed_56 : decode cX4_needed 56 = .ok (.iconst 1, 1) := dk_4 (dk_at dksX4_needed_2 8 rfl rfl)
theorem dX4_needed_57 : decode cX4_needed 57 = .ok (.iaload, 1) := dk_46 (dk_at dksX4_needed_2 9 rfl rfl)
theorem dX4_needed_58 : decode cX4_needed 58 = .ok (.if_icmp .ge 34, 3) := dk_162 0 34 (dk_at dksX4_needed_2 10 rfl rfl)
theorem dX4_needed_61 : decode cX4_needed 61 = .ok (.iload_n 2, 1) := dk_28 (dk_at dksX4_needed_2 13 rfl rfl)
theorem dX4_needed_62 : decode cX4_needed 62 = .ok (.iload_n 3, 1) := dk_29 (dk_at dksX4_needed_2 14 rfl rfl)
theorem dX4_needed_63 : decode cX4_needed 63 = .ok (.ifCond .eq 20, 3) := dk_153 0 20 (dk_at dksX4_needed_2 15 rfl rfl)
theorem dX4_needed_66 : decode cX4_needed 66 = .ok (.aload_n 0, 1) := dk_42 (dk_at dksX4_needed_2 18 rfl rfl)
theorem dX4_needed_67 : decode cX4_needed 67 = .ok (.iload_n 1, 1) := dk_27 (dk_at dksX4_needed_2 19 rfl rfl)
theorem dX4_needed_68 : decode cX4_needed 68 = .ok (.iload 4, 2) := dk_21 4 (dk_at dksX4_needed_2 20 rfl rfl)
theorem dX4_needed_70 : decode cX4_needed 70 = .ok (.invokevirtual 196, 3) := dk_182 0 196 (dk_at dksX4_needed_3 0 rfl rfl)
theorem dX4_needed_73 : decode cX4_needed 73 = .ok (.ifCond .ne 10, 3) := dk_154 0 10 (dk_at dksX4_needed_3 3 rfl rfl)
theorem dX4_needed_76 : decode cX4_needed 76 = .ok (.iconst 1, 1) := dk_4 (dk_at dksX4_needed_3 6 rfl rfl)
theorem dX4_needed_77 : decode cX4_needed 77 = .ok (.iload 4, 2) := dk_21 4 (dk_at dksX4_needed_3 7 rfl rfl)
theorem dX4_needed_79 : decode cX4_needed 79 = .ok (.ishl, 1) := dk_120 (dk_at dksX4_needed_3 9 rfl rfl)
theorem dX4_needed_80 : decode cX4_needed 80 = .ok (.goto 4, 3) := dk_167 0 4 (dk_at dksX4_needed_3 10 rfl rfl)
theorem dX4_needed_83 : decode cX4_needed 83 = .ok (.iconst 0, 1) := dk_3 (dk_at dksX4_needed_3 13 rfl rfl)
theorem dX4_needed_84 : decode cX4_needed 84 = .ok (.ior, 1) := dk_128 (dk_at dksX4_needed_3 14 rfl rfl)
theorem dX4_needed_85 : decode cX4_needed 85 = .ok (.istore_n 2, 1) := dk_61 (dk_at dksX4_needed_3 15 rfl rfl)
theorem dX4_needed_86 : decode cX4_needed 86 = .ok (.iinc 4 1, 3) := dk_132 4 1 (dk_at dksX4_needed_3 16 rfl rfl)
theorem dX4_needed_89 : decode cX4_needed 89 = .ok (.goto (-39), 3) := dk_167 255 217 (dk_at dksX4_needed_3 19 rfl rfl)
theorem dX4_needed_92 : decode cX4_needed 92 = .ok (.iload_n 2, 1) := dk_28 (dk_at dksX4_needed_3 22 rfl rfl)
theorem dX4_needed_93 : decode cX4_needed 93 = .ok (.ireturn, 1) := dk_172 (dk_at dksX4_needed_3 23 rfl rfl)
abbrev cX4_chainsWithout : ByteArray := prog_14_method_53_code
def yX4_chainsWithout : MethodName := ⟨RX4, "chainsWithout", "(II)I"⟩
def dkwX4_chainsWithout_0 : List UInt8 := [42, 3, 182, 0, 171, 42, 180, 0, 25, 28, 3, 84, 42, 27, 182, 0, 184, 172]
abbrev dktX4_chainsWithout_0 : List UInt8 := dkwX4_chainsWithout_0 ++ []
theorem dksX4_chainsWithout_0 : cX4_chainsWithout.data.toList.drop 0 = dktX4_chainsWithout_0 := by decide +kernel
theorem dX4_chainsWithout_0 : decode cX4_chainsWithout 0 = .ok (.aload_n 0, 1) := dk_42 (dk_at dksX4_chainsWithout_0 0 rfl rfl)
theorem dX4_chainsWithout_1 : decode cX4_chainsWithout 1 = .ok (.iconst 0, 1) := dk_3 (dk_at dksX4_chainsWithout_0 1 rfl rfl)
theorem dX4_chainsWithout_2 : decode cX4_chainsWithout 2 = .ok (.invokevirtual 171, 3) := dk_182 0 171 (dk_at dksX4_chainsWithout_0 2 rfl rfl)
theorem dX4_chainsWithout_5 : decode cX4_chainsWithout 5 = .ok (.aload_n 0, 1) := dk_42 (dk_at dksX4_chainsWithout_0 5 rfl rfl)
theorem dX4_chainsWithout_6 : decode cX4_chainsWithout 6 = .ok (.getfield 25, 3) := dk_180 0 25 (dk_at dksX4_chainsWithout_0 6 rfl rfl)
theorem dX4_chainsWithout_9 : decode cX4_chainsWithout 9 = .ok (.iload_n 2, 1) := dk_28 (dk_at dksX4_chainsWithout_0 9 rfl rfl)
theorem dX4_chainsWithout_10 : decode cX4_chainsWithout 10 = .ok (.iconst 0, 1) := dk_3 (dk_at dksX4_chainsWithout_0 10 rfl rfl)
theorem dX4_chainsWithout_11 : decode cX4_chainsWithout 11 = .ok (.bastore, 1) := dk_84 (dk_at dksX4_chainsWithout_0 11 rfl rfl)
theorem dX4_chainsWithout_12 : decode cX4_chainsWithout 12 = .ok (.aload_n 0, 1) := dk_42 (dk_at dksX4_chainsWithout_0 12 rfl rfl)
theorem dX4_chainsWithout_13 : decode cX4_chainsWithout 13 = .ok (.iload_n 1, 1) := dk_27 (dk_at dksX4_chainsWithout_0 13 rfl rfl)
theorem dX4_chainsWithout_14 : decode cX4_chainsWithout 14 = .ok (.invokevirtual 184, 3) := dk_182 0 184 (dk_at dksX4_chainsWithout_0 14 rfl rfl)
theorem dX4_chainsWithout_17 : decode cX4_chainsWithout 17 = .ok (.ireturn, 1) := dk_172 (dk_at dksX4_chainsWithout_0 17 rfl rfl)
abbrev cX4_without : ByteArray := prog_14_method_55_code
def yX4_without : MethodName := ⟨RX4, "without", "(II)I"⟩
def dkwX4_without_1 : List UInt8 := [181, 0, 52, 42, 180, 0, 52, 158, 0, 7, 3, 167, 0, 9, 42, 27, 28, 182, 0, 196, 172]
abbrev dktX4_without_1 : List UInt8 := dkwX4_without_1 ++ []
def dkwX4_without_0 : List UInt8 := [42, 42, 27, 182, 0, 181, 153, 0, 15, 42, 28, 182, 0, 111, 153, 0, 7, 3, 167, 0, 4, 4]
abbrev dktX4_without_0 : List UInt8 := dkwX4_without_0 ++ dktX4_without_1
theorem dksX4_without_0 : cX4_without.data.toList.drop 0 = dktX4_without_0 := by decide +kernel
theorem dksX4_without_1 : cX4_without.data.toList.drop 22 = dktX4_without_1 := dk_seg dksX4_without_0 22 rfl rfl
theorem dX4_without_0 : decode cX4_without 0 = .ok (.aload_n 0, 1) := dk_42 (dk_at dksX4_without_0 0 rfl rfl)
theorem dX4_without_1 : decode cX4_without 1 = .ok (.aload_n 0, 1) := dk_42 (dk_at dksX4_without_0 1 rfl rfl)
theorem dX4_without_2 : decode cX4_without 2 = .ok (.iload_n 1, 1) := dk_27 (dk_at dksX4_without_0 2 rfl rfl)
theorem dX4_without_3 : decode cX4_without 3 = .ok (.invokevirtual 181, 3) := dk_182 0 181 (dk_at dksX4_without_0 3 rfl rfl)
theorem dX4_without_6 : decode cX4_without 6 = .ok (.ifCond .eq 15, 3) := dk_153 0 15 (dk_at dksX4_without_0 6 rfl rfl)
theorem dX4_without_9 : decode cX4_without 9 = .ok (.aload_n 0, 1) := dk_42 (dk_at dksX4_without_0 9 rfl rfl)
theorem dX4_without_10 : decode cX4_without 10 = .ok (.iload_n 2, 1) := dk_28 (dk_at dksX4_without_0 10 rfl rfl)
theorem dX4_without_11 : decode cX4_without 11 = .ok (.invokevirtual 111, 3) := dk_182 0 111 (dk_at dksX4_without_0 11 rfl rfl)
theorem dX4_without_14 : decode cX4_without 14 = .ok (.ifCond .eq 7, 3) := dk_153 0 7 (dk_at dksX4_without_0 14 rfl rfl)
theorem dX4_without_17 : decode cX4_without 17 = .ok (.iconst 0, 1) := dk_3 (dk_at dksX4_without_0 17 rfl rfl)
theorem dX4_without_18 : decode cX4_without 18 = .ok (.goto 4, 3) := dk_167 0 4 (dk_at dksX4_without_0 18 rfl rfl)
theorem dX4_without_21 : decode cX4_without 21 = .ok (.iconst 1, 1) := dk_4 (dk_at dksX4_without_0 21 rfl rfl)
theorem dX4_without_22 : decode cX4_without 22 = .ok (.putfield 52, 3) := dk_181 0 52 (dk_at dksX4_without_1 0 rfl rfl)
theorem dX4_without_25 : decode cX4_without 25 = .ok (.aload_n 0, 1) := dk_42 (dk_at dksX4_without_1 3 rfl rfl)
theorem dX4_without_26 : decode cX4_without 26 = .ok (.getfield 52, 3) := dk_180 0 52 (dk_at dksX4_without_1 4 rfl rfl)
theorem dX4_without_29 : decode cX4_without 29 = .ok (.ifCond .le 7, 3) := dk_158 0 7 (dk_at dksX4_without_1 7 rfl rfl)
theorem dX4_without_32 : decode cX4_without 32 = .ok (.iconst 0, 1) := dk_3 (dk_at dksX4_without_1 10 rfl rfl)
theorem dX4_without_33 : decode cX4_without 33 = .ok (.goto 9, 3) := dk_167 0 9 (dk_at dksX4_without_1 11 rfl rfl)
theorem dX4_without_36 : decode cX4_without 36 = .ok (.aload_n 0, 1) := dk_42 (dk_at dksX4_without_1 14 rfl rfl)
theorem dX4_without_37 : decode cX4_without 37 = .ok (.iload_n 1, 1) := dk_27 (dk_at dksX4_without_1 15 rfl rfl)
theorem dX4_without_38 : decode cX4_without 38 = .ok (.iload_n 2, 1) := dk_28 (dk_at dksX4_without_1 16 rfl rfl)
theorem dX4_without_39 : decode cX4_without 39 = .ok (.invokevirtual 196, 3) := dk_182 0 196 (dk_at dksX4_without_1 17 rfl rfl)
theorem dX4_without_42 : decode cX4_without 42 = .ok (.ireturn, 1) := dk_172 (dk_at dksX4_without_1 20 rfl rfl)
abbrev cX4_would : ByteArray := prog_14_method_56_code
def yX4_would : MethodName := ⟨RX4, "would", "(II)I"⟩
def dkwX4_would_3 : List UInt8 := [4, 84, 42, 89, 180, 0, 146, 4, 96, 181, 0, 146, 42, 27, 182, 0, 184, 62, 29, 172]
abbrev dktX4_would_3 : List UInt8 := dkwX4_would_3 ++ []
def dkwX4_would_2 : List UInt8 := [3, 172, 42, 3, 182, 0, 171, 42, 28, 42, 180, 0, 146, 182, 0, 104, 42, 180, 0, 25, 42, 180, 0, 146]
abbrev dktX4_would_2 : List UInt8 := dkwX4_would_2 ++ dktX4_would_3
def dkwX4_would_1 : List UInt8 := [28, 3, 184, 0, 94, 46, 154, 0, 7, 5, 167, 0, 4, 3, 181, 0, 52, 42, 180, 0, 52, 158, 0, 5]
abbrev dktX4_would_1 : List UInt8 := dkwX4_would_1 ++ dktX4_would_2
def dkwX4_would_0 : List UInt8 := [42, 42, 27, 182, 0, 181, 153, 0, 10, 28, 184, 0, 90, 154, 0, 7, 4, 167, 0, 21, 42, 180, 0, 9]
abbrev dktX4_would_0 : List UInt8 := dkwX4_would_0 ++ dktX4_would_1
theorem dksX4_would_0 : cX4_would.data.toList.drop 0 = dktX4_would_0 := by decide +kernel
theorem dksX4_would_1 : cX4_would.data.toList.drop 24 = dktX4_would_1 := dk_seg dksX4_would_0 24 rfl rfl
theorem dksX4_would_2 : cX4_would.data.toList.drop 48 = dktX4_would_2 := dk_seg dksX4_would_1 24 rfl rfl
theorem dksX4_would_3 : cX4_would.data.toList.drop 72 = dktX4_would_3 := dk_seg dksX4_would_2 24 rfl rfl
theorem dX4_would_0 : decode cX4_would 0 = .ok (.aload_n 0, 1) := dk_42 (dk_at dksX4_would_0 0 rfl rfl)
theorem dX4_would_1 : decode cX4_would 1 = .ok (.aload_n 0, 1) := dk_42 (dk_at dksX4_would_0 1 rfl rfl)
theorem dX4_would_2 : decode cX4_would 2 = .ok (.iload_n 1, 1) := dk_27 (dk_at dksX4_would_0 2 rfl rfl)
theorem dX4_would_3 : decode cX4_would 3 = .ok (.invokevirtual 181, 3) := dk_182 0 181 (dk_at dksX4_would_0 3 rfl rfl)
theorem dX4_would_6 : decode cX4_would 6 = .ok (.ifCond .eq 10, 3) := dk_153 0 10 (dk_at dksX4_would_0 6 rfl rfl)
theorem dX4_would_9 : decode cX4_would 9 = .ok (.iload_n 2, 1) := dk_28 (dk_at dksX4_would_0 9 rfl rfl)
theorem dX4_would_10 : decode cX4_would 10 = .ok (.invokestatic 90, 3) := dk_184 0 90 (dk_at dksX4_would_0 10 rfl rfl)
theorem dX4_would_13 : decode cX4_would 13 = .ok (.ifCond .ne 7, 3) := dk_154 0 7 (dk_at dksX4_would_0 13 rfl rfl)
theorem dX4_would_16 : decode cX4_would 16 = .ok (.iconst 1, 1) := dk_4 (dk_at dksX4_would_0 16 rfl rfl)
theorem dX4_would_17 : decode cX4_would 17 = .ok (.goto 21, 3) := dk_167 0 21 (dk_at dksX4_would_0 17 rfl rfl)
theorem dX4_would_20 : decode cX4_would 20 = .ok (.aload_n 0, 1) := dk_42 (dk_at dksX4_would_0 20 rfl rfl)
theorem dX4_would_21 : decode cX4_would 21 = .ok (.getfield 9, 3) := dk_180 0 9 (dk_at dksX4_would_0 21 rfl rfl)
theorem dX4_would_24 : decode cX4_would 24 = .ok (.iload_n 2, 1) := dk_28 (dk_at dksX4_would_1 0 rfl rfl)
theorem dX4_would_25 : decode cX4_would 25 = .ok (.iconst 0, 1) := dk_3 (dk_at dksX4_would_1 1 rfl rfl)
theorem dX4_would_26 : decode cX4_would 26 = .ok (.invokestatic 94, 3) := dk_184 0 94 (dk_at dksX4_would_1 2 rfl rfl)
theorem dX4_would_29 : decode cX4_would 29 = .ok (.iaload, 1) := dk_46 (dk_at dksX4_would_1 5 rfl rfl)
theorem dX4_would_30 : decode cX4_would 30 = .ok (.ifCond .ne 7, 3) := dk_154 0 7 (dk_at dksX4_would_1 6 rfl rfl)
theorem dX4_would_33 : decode cX4_would 33 = .ok (.iconst 2, 1) := dk_5 (dk_at dksX4_would_1 9 rfl rfl)
theorem dX4_would_34 : decode cX4_would 34 = .ok (.goto 4, 3) := dk_167 0 4 (dk_at dksX4_would_1 10 rfl rfl)
theorem dX4_would_37 : decode cX4_would 37 = .ok (.iconst 0, 1) := dk_3 (dk_at dksX4_would_1 13 rfl rfl)
theorem dX4_would_38 : decode cX4_would 38 = .ok (.putfield 52, 3) := dk_181 0 52 (dk_at dksX4_would_1 14 rfl rfl)
theorem dX4_would_41 : decode cX4_would 41 = .ok (.aload_n 0, 1) := dk_42 (dk_at dksX4_would_1 17 rfl rfl)
theorem dX4_would_42 : decode cX4_would 42 = .ok (.getfield 52, 3) := dk_180 0 52 (dk_at dksX4_would_1 18 rfl rfl)
theorem dX4_would_45 : decode cX4_would 45 = .ok (.ifCond .le 5, 3) := dk_158 0 5 (dk_at dksX4_would_1 21 rfl rfl)
theorem dX4_would_48 : decode cX4_would 48 = .ok (.iconst 0, 1) := dk_3 (dk_at dksX4_would_2 0 rfl rfl)
theorem dX4_would_49 : decode cX4_would 49 = .ok (.ireturn, 1) := dk_172 (dk_at dksX4_would_2 1 rfl rfl)
theorem dX4_would_50 : decode cX4_would 50 = .ok (.aload_n 0, 1) := dk_42 (dk_at dksX4_would_2 2 rfl rfl)
theorem dX4_would_51 : decode cX4_would 51 = .ok (.iconst 0, 1) := dk_3 (dk_at dksX4_would_2 3 rfl rfl)
theorem dX4_would_52 : decode cX4_would 52 = .ok (.invokevirtual 171, 3) := dk_182 0 171 (dk_at dksX4_would_2 4 rfl rfl)
theorem dX4_would_55 : decode cX4_would 55 = .ok (.aload_n 0, 1) := dk_42 (dk_at dksX4_would_2 7 rfl rfl)
theorem dX4_would_56 : decode cX4_would 56 = .ok (.iload_n 2, 1) := dk_28 (dk_at dksX4_would_2 8 rfl rfl)
theorem dX4_would_57 : decode cX4_would 57 = .ok (.aload_n 0, 1) := dk_42 (dk_at dksX4_would_2 9 rfl rfl)
theorem dX4_would_58 : decode cX4_would 58 = .ok (.getfield 146, 3) := dk_180 0 146 (dk_at dksX4_would_2 10 rfl rfl)
theorem dX4_would_61 : decode cX4_would 61 = .ok (.invokevirtual 104, 3) := dk_182 0 104 (dk_at dksX4_would_2 13 rfl rfl)
theorem dX4_would_64 : decode cX4_would 64 = .ok (.aload_n 0, 1) := dk_42 (dk_at dksX4_would_2 16 rfl rfl)
theorem dX4_would_65 : decode cX4_would 65 = .ok (.getfield 25, 3) := dk_180 0 25 (dk_at dksX4_would_2 17 rfl rfl)
theorem dX4_would_68 : decode cX4_would 68 = .ok (.aload_n 0, 1) := dk_42 (dk_at dksX4_would_2 20 rfl rfl)
theorem dX4_would_69 : decode cX4_would 69 = .ok (.getfield 146, 3) := dk_180 0 146 (dk_at dksX4_would_2 21 rfl rfl)
theorem dX4_would_72 : decode cX4_would 72 = .ok (.iconst 1, 1) := dk_4 (dk_at dksX4_would_3 0 rfl rfl)
theorem dX4_would_73 : decode cX4_would 73 = .ok (.bastore, 1) := dk_84 (dk_at dksX4_would_3 1 rfl rfl)
theorem dX4_would_74 : decode cX4_would 74 = .ok (.aload_n 0, 1) := dk_42 (dk_at dksX4_would_3 2 rfl rfl)
theorem dX4_would_75 : decode cX4_would 75 = .ok (.dup, 1) := dk_89 (dk_at dksX4_would_3 3 rfl rfl)
theorem dX4_would_76 : decode cX4_would 76 = .ok (.getfield 146, 3) := dk_180 0 146 (dk_at dksX4_would_3 4 rfl rfl)
theorem dX4_would_79 : decode cX4_would 79 = .ok (.iconst 1, 1) := dk_4 (dk_at dksX4_would_3 7 rfl rfl)
theorem dX4_would_80 : decode cX4_would 80 = .ok (.iadd, 1) := dk_96 (dk_at dksX4_would_3 8 rfl rfl)
theorem dX4_would_81 : decode cX4_would 81 = .ok (.putfield 146, 3) := dk_181 0 146 (dk_at dksX4_would_3 9 rfl rfl)
theorem dX4_would_84 : decode cX4_would 84 = .ok (.aload_n 0, 1) := dk_42 (dk_at dksX4_would_3 12 rfl rfl)
theorem dX4_would_85 : decode cX4_would 85 = .ok (.iload_n 1, 1) := dk_27 (dk_at dksX4_would_3 13 rfl rfl)
theorem dX4_would_86 : decode cX4_would 86 = .ok (.invokevirtual 184, 3) := dk_182 0 184 (dk_at dksX4_would_3 14 rfl rfl)
theorem dX4_would_89 : decode cX4_would 89 = .ok (.istore_n 3, 1) := dk_62 (dk_at dksX4_would_3 17 rfl rfl)
theorem dX4_would_90 : decode cX4_would 90 = .ok (.iload_n 3, 1) := dk_29 (dk_at dksX4_would_3 18 rfl rfl)
theorem dX4_would_91 : decode cX4_would 91 = .ok (.ireturn, 1) := dk_172 (dk_at dksX4_would_3 19 rfl rfl)
abbrev cX4_ranked : ByteArray := prog_14_method_58_code
def yX4_ranked : MethodName := ⟨RX4, "ranked", "(I)I"⟩
def dkwX4_ranked_4 : List UInt8 := [132, 3, 1, 167, 255, 181, 28, 172]
abbrev dktX4_ranked_4 : List UInt8 := dkwX4_ranked_4 ++ []
def dkwX4_ranked_3 : List UInt8 := [3, 96, 54, 4, 132, 5, 1, 167, 255, 222, 21, 4, 27, 160, 0, 7, 29, 167, 0, 4, 28, 61]
abbrev dktX4_ranked_3 : List UInt8 := dkwX4_ranked_3 ++ dktX4_ranked_4
def dkwX4_ranked_2 : List UInt8 := [180, 0, 9, 4, 46, 162, 0, 29, 21, 4, 42, 21, 5, 29, 182, 0, 199, 153, 0, 7, 4, 167, 0, 4]
abbrev dktX4_ranked_2 : List UInt8 := dkwX4_ranked_2 ++ dktX4_ranked_3
def dkwX4_ranked_1 : List UInt8 := [180, 0, 9, 4, 46, 162, 0, 71, 42, 180, 0, 52, 154, 0, 64, 3, 54, 4, 3, 54, 5, 21, 5, 42]
abbrev dktX4_ranked_1 : List UInt8 := dkwX4_ranked_1 ++ dktX4_ranked_2
def dkwX4_ranked_0 : List UInt8 := [42, 42, 27, 182, 0, 111, 153, 0, 7, 3, 167, 0, 4, 4, 181, 0, 52, 3, 61, 3, 62, 29, 42]
abbrev dktX4_ranked_0 : List UInt8 := dkwX4_ranked_0 ++ dktX4_ranked_1
theorem dksX4_ranked_0 : cX4_ranked.data.toList.drop 0 = dktX4_ranked_0 := by decide +kernel
theorem dksX4_ranked_1 : cX4_ranked.data.toList.drop 23 = dktX4_ranked_1 := dk_seg dksX4_ranked_0 23 rfl rfl
theorem dksX4_ranked_2 : cX4_ranked.data.toList.drop 47 = dktX4_ranked_2 := dk_seg dksX4_ranked_1 24 rfl rfl
theorem dksX4_ranked_3 : cX4_ranked.data.toList.drop 71 = dktX4_ranked_3 := dk_seg dksX4_ranked_2 24 rfl rfl
theorem dksX4_ranked_4 : cX4_ranked.data.toList.drop 93 = dktX4_ranked_4 := dk_seg dksX4_ranked_3 22 rfl rfl
theorem dX4_ranked_0 : decode cX4_ranked 0 = .ok (.aload_n 0, 1) := dk_42 (dk_at dksX4_ranked_0 0 rfl rfl)
theorem dX4_ranked_1 : decode cX4_ranked 1 = .ok (.aload_n 0, 1) := dk_42 (dk_at dksX4_ranked_0 1 rfl rfl)
theorem dX4_ranked_2 : decode cX4_ranked 2 = .ok (.iload_n 1, 1) := dk_27 (dk_at dksX4_ranked_0 2 rfl rfl)
theorem dX4_ranked_3 : decode cX4_ranked 3 = .ok (.invokevirtual 111, 3) := dk_182 0 111 (dk_at dksX4_ranked_0 3 rfl rfl)
theorem dX4_ranked_6 : decode cX4_ranked 6 = .ok (.ifCond .eq 7, 3) := dk_153 0 7 (dk_at dksX4_ranked_0 6 rfl rfl)
theorem dX4_ranked_9 : decode cX4_ranked 9 = .ok (.iconst 0, 1) := dk_3 (dk_at dksX4_ranked_0 9 rfl rfl)
theorem dX4_ranked_10 : decode cX4_ranked 10 = .ok (.goto 4, 3) := dk_167 0 4 (dk_at dksX4_ranked_0 10 rfl rfl)
theorem dX4_ranked_13 : decode cX4_ranked 13 = .ok (.iconst 1, 1) := dk_4 (dk_at dksX4_ranked_0 13 rfl rfl)
theorem dX4_ranked_14 : decode cX4_ranked 14 = .ok (.putfield 52, 3) := dk_181 0 52 (dk_at dksX4_ranked_0 14 rfl rfl)
theorem dX4_ranked_17 : decode cX4_ranked 17 = .ok (.iconst 0, 1) := dk_3 (dk_at dksX4_ranked_0 17 rfl rfl)
theorem dX4_ranked_18 : decode cX4_ranked 18 = .ok (.istore_n 2, 1) := dk_61 (dk_at dksX4_ranked_0 18 rfl rfl)
theorem dX4_ranked_19 : decode cX4_ranked 19 = .ok (.iconst 0, 1) := dk_3 (dk_at dksX4_ranked_0 19 rfl rfl)
theorem dX4_ranked_20 : decode cX4_ranked 20 = .ok (.istore_n 3, 1) := dk_62 (dk_at dksX4_ranked_0 20 rfl rfl)
theorem dX4_ranked_21 : decode cX4_ranked 21 = .ok (.iload_n 3, 1) := dk_29 (dk_at dksX4_ranked_0 21 rfl rfl)
theorem dX4_ranked_22 : decode cX4_ranked 22 = .ok (.aload_n 0, 1) := dk_42 (dk_at dksX4_ranked_0 22 rfl rfl)
theorem dX4_ranked_23 : decode cX4_ranked 23 = .ok (.getfield 9, 3) := dk_180 0 9 (dk_at dksX4_ranked_1 0 rfl rfl)
theorem dX4_ranked_26 : decode cX4_ranked 26 = .ok (.iconst 1, 1) := dk_4 (dk_at dksX4_ranked_1 3 rfl rfl)
theorem dX4_ranked_27 : decode cX4_ranked 27 = .ok (.iaload, 1) := dk_46 (dk_at dksX4_ranked_1 4 rfl rfl)
theorem dX4_ranked_28 : decode cX4_ranked 28 = .ok (.if_icmp .ge 71, 3) := dk_162 0 71 (dk_at dksX4_ranked_1 5 rfl rfl)
theorem dX4_ranked_31 : decode cX4_ranked 31 = .ok (.aload_n 0, 1) := dk_42 (dk_at dksX4_ranked_1 8 rfl rfl)
theorem dX4_ranked_32 : decode cX4_ranked 32 = .ok (.getfield 52, 3) := dk_180 0 52 (dk_at dksX4_ranked_1 9 rfl rfl)
theorem dX4_ranked_35 : decode cX4_ranked 35 = .ok (.ifCond .ne 64, 3) := dk_154 0 64 (dk_at dksX4_ranked_1 12 rfl rfl)
theorem dX4_ranked_38 : decode cX4_ranked 38 = .ok (.iconst 0, 1) := dk_3 (dk_at dksX4_ranked_1 15 rfl rfl)
theorem dX4_ranked_39 : decode cX4_ranked 39 = .ok (.istore 4, 2) := dk_54 4 (dk_at dksX4_ranked_1 16 rfl rfl)
theorem dX4_ranked_41 : decode cX4_ranked 41 = .ok (.iconst 0, 1) := dk_3 (dk_at dksX4_ranked_1 18 rfl rfl)
theorem dX4_ranked_42 : decode cX4_ranked 42 = .ok (.istore 5, 2) := dk_54 5 (dk_at dksX4_ranked_1 19 rfl rfl)
theorem dX4_ranked_44 : decode cX4_ranked 44 = .ok (.iload 5, 2) := dk_21 5 (dk_at dksX4_ranked_1 21 rfl rfl)
theorem dX4_ranked_46 : decode cX4_ranked 46 = .ok (.aload_n 0, 1) := dk_42 (dk_at dksX4_ranked_1 23 rfl rfl)
theorem dX4_ranked_47 : decode cX4_ranked 47 = .ok (.getfield 9, 3) := dk_180 0 9 (dk_at dksX4_ranked_2 0 rfl rfl)
theorem dX4_ranked_50 : decode cX4_ranked 50 = .ok (.iconst 1, 1) := dk_4 (dk_at dksX4_ranked_2 3 rfl rfl)
theorem dX4_ranked_51 : decode cX4_ranked 51 = .ok (.iaload, 1) := dk_46 (dk_at dksX4_ranked_2 4 rfl rfl)
theorem dX4_ranked_52 : decode cX4_ranked 52 = .ok (.if_icmp .ge 29, 3) := dk_162 0 29 (dk_at dksX4_ranked_2 5 rfl rfl)
theorem dX4_ranked_55 : decode cX4_ranked 55 = .ok (.iload 4, 2) := dk_21 4 (dk_at dksX4_ranked_2 8 rfl rfl)
theorem dX4_ranked_57 : decode cX4_ranked 57 = .ok (.aload_n 0, 1) := dk_42 (dk_at dksX4_ranked_2 10 rfl rfl)
theorem dX4_ranked_58 : decode cX4_ranked 58 = .ok (.iload 5, 2) := dk_21 5 (dk_at dksX4_ranked_2 11 rfl rfl)
theorem dX4_ranked_60 : decode cX4_ranked 60 = .ok (.iload_n 3, 1) := dk_29 (dk_at dksX4_ranked_2 13 rfl rfl)
theorem dX4_ranked_61 : decode cX4_ranked 61 = .ok (.invokevirtual 199, 3) := dk_182 0 199 (dk_at dksX4_ranked_2 14 rfl rfl)
theorem dX4_ranked_64 : decode cX4_ranked 64 = .ok (.ifCond .eq 7, 3) := dk_153 0 7 (dk_at dksX4_ranked_2 17 rfl rfl)
theorem dX4_ranked_67 : decode cX4_ranked 67 = .ok (.iconst 1, 1) := dk_4 (dk_at dksX4_ranked_2 20 rfl rfl)
theorem dX4_ranked_68 : decode cX4_ranked 68 = .ok (.goto 4, 3) := dk_167 0 4 (dk_at dksX4_ranked_2 21 rfl rfl)
theorem dX4_ranked_71 : decode cX4_ranked 71 = .ok (.iconst 0, 1) := dk_3 (dk_at dksX4_ranked_3 0 rfl rfl)
theorem dX4_ranked_72 : decode cX4_ranked 72 = .ok (.iadd, 1) := dk_96 (dk_at dksX4_ranked_3 1 rfl rfl)
theorem dX4_ranked_73 : decode cX4_ranked 73 = .ok (.istore 4, 2) := dk_54 4 (dk_at dksX4_ranked_3 2 rfl rfl)
theorem dX4_ranked_75 : decode cX4_ranked 75 = .ok (.iinc 5 1, 3) := dk_132 5 1 (dk_at dksX4_ranked_3 4 rfl rfl)
theorem dX4_ranked_78 : decode cX4_ranked 78 = .ok (.goto (-34), 3) := dk_167 255 222 (dk_at dksX4_ranked_3 7 rfl rfl)
theorem dX4_ranked_81 : decode cX4_ranked 81 = .ok (.iload 4, 2) := dk_21 4 (dk_at dksX4_ranked_3 10 rfl rfl)
theorem dX4_ranked_83 : decode cX4_ranked 83 = .ok (.iload_n 1, 1) := dk_27 (dk_at dksX4_ranked_3 12 rfl rfl)
theorem dX4_ranked_84 : decode cX4_ranked 84 = .ok (.if_icmp .ne 7, 3) := dk_160 0 7 (dk_at dksX4_ranked_3 13 rfl rfl)
theorem dX4_ranked_87 : decode cX4_ranked 87 = .ok (.iload_n 3, 1) := dk_29 (dk_at dksX4_ranked_3 16 rfl rfl)
theorem dX4_ranked_88 : decode cX4_ranked 88 = .ok (.goto 4, 3) := dk_167 0 4 (dk_at dksX4_ranked_3 17 rfl rfl)
theorem dX4_ranked_91 : decode cX4_ranked 91 = .ok (.iload_n 2, 1) := dk_28 (dk_at dksX4_ranked_3 20 rfl rfl)
theorem dX4_ranked_92 : decode cX4_ranked 92 = .ok (.istore_n 2, 1) := dk_61 (dk_at dksX4_ranked_3 21 rfl rfl)
theorem dX4_ranked_93 : decode cX4_ranked 93 = .ok (.iinc 3 1, 3) := dk_132 3 1 (dk_at dksX4_ranked_4 0 rfl rfl)
theorem dX4_ranked_96 : decode cX4_ranked 96 = .ok (.goto (-75), 3) := dk_167 255 181 (dk_at dksX4_ranked_4 3 rfl rfl)
theorem dX4_ranked_99 : decode cX4_ranked 99 = .ok (.iload_n 2, 1) := dk_28 (dk_at dksX4_ranked_4 6 rfl rfl)
theorem dX4_ranked_100 : decode cX4_ranked 100 = .ok (.ireturn, 1) := dk_172 (dk_at dksX4_ranked_4 7 rfl rfl)
abbrev cX4_isAhead : ByteArray := prog_14_method_57_code
def yX4_isAhead : MethodName := ⟨RX4, "isAhead", "(II)Z"⟩
def dkwX4_isAhead_3 : List UInt8 := [154, 0, 12, 27, 28, 162, 0, 7, 4, 167, 0, 4, 3, 172]
abbrev dktX4_isAhead_3 : List UInt8 := dkwX4_isAhead_3 ++ []
def dkwX4_isAhead_2 : List UInt8 := [184, 0, 101, 46, 100, 42, 180, 0, 9, 28, 3, 184, 0, 101, 46, 96, 62, 29, 157, 0, 12, 29]
abbrev dktX4_isAhead_2 : List UInt8 := dkwX4_isAhead_2 ++ dktX4_isAhead_3
def dkwX4_isAhead_1 : List UInt8 := [27, 4, 184, 0, 101, 46, 42, 180, 0, 9, 27, 3, 184, 0, 101, 46, 100, 42, 180, 0, 9, 28, 4]
abbrev dktX4_isAhead_1 : List UInt8 := dkwX4_isAhead_1 ++ dktX4_isAhead_2
def dkwX4_isAhead_0 : List UInt8 := [42, 27, 182, 0, 124, 42, 28, 182, 0, 124, 100, 62, 29, 153, 0, 7, 29, 167, 0, 46, 42, 180, 0, 9]
abbrev dktX4_isAhead_0 : List UInt8 := dkwX4_isAhead_0 ++ dktX4_isAhead_1
theorem dksX4_isAhead_0 : cX4_isAhead.data.toList.drop 0 = dktX4_isAhead_0 := by decide +kernel
theorem dksX4_isAhead_1 : cX4_isAhead.data.toList.drop 24 = dktX4_isAhead_1 := dk_seg dksX4_isAhead_0 24 rfl rfl
theorem dksX4_isAhead_2 : cX4_isAhead.data.toList.drop 47 = dktX4_isAhead_2 := dk_seg dksX4_isAhead_1 23 rfl rfl
theorem dksX4_isAhead_3 : cX4_isAhead.data.toList.drop 69 = dktX4_isAhead_3 := dk_seg dksX4_isAhead_2 22 rfl rfl
theorem dX4_isAhead_0 : decode cX4_isAhead 0 = .ok (.aload_n 0, 1) := dk_42 (dk_at dksX4_isAhead_0 0 rfl rfl)
theorem dX4_isAhead_1 : decode cX4_isAhead 1 = .ok (.iload_n 1, 1) := dk_27 (dk_at dksX4_isAhead_0 1 rfl rfl)
theorem dX4_isAhead_2 : decode cX4_isAhead 2 = .ok (.invokevirtual 124, 3) := dk_182 0 124 (dk_at dksX4_isAhead_0 2 rfl rfl)
theorem dX4_isAhead_5 : decode cX4_isAhead 5 = .ok (.aload_n 0, 1) := dk_42 (dk_at dksX4_isAhead_0 5 rfl rfl)
theorem dX4_isAhead_6 : decode cX4_isAhead 6 = .ok (.iload_n 2, 1) := dk_28 (dk_at dksX4_isAhead_0 6 rfl rfl)
theorem dX4_isAhead_7 : decode cX4_isAhead 7 = .ok (.invokevirtual 124, 3) := dk_182 0 124 (dk_at dksX4_isAhead_0 7 rfl rfl)
theorem dX4_isAhead_10 : decode cX4_isAhead 10 = .ok (.isub, 1) := dk_100 (dk_at dksX4_isAhead_0 10 rfl rfl)
theorem dX4_isAhead_11 : decode cX4_isAhead 11 = .ok (.istore_n 3, 1) := dk_62 (dk_at dksX4_isAhead_0 11 rfl rfl)
theorem dX4_isAhead_12 : decode cX4_isAhead 12 = .ok (.iload_n 3, 1) := dk_29 (dk_at dksX4_isAhead_0 12 rfl rfl)
theorem dX4_isAhead_13 : decode cX4_isAhead 13 = .ok (.ifCond .eq 7, 3) := dk_153 0 7 (dk_at dksX4_isAhead_0 13 rfl rfl)
theorem dX4_isAhead_16 : decode cX4_isAhead 16 = .ok (.iload_n 3, 1) := dk_29 (dk_at dksX4_isAhead_0 16 rfl rfl)
theorem dX4_isAhead_17 : decode cX4_isAhead 17 = .ok (.goto 46, 3) := dk_167 0 46 (dk_at dksX4_isAhead_0 17 rfl rfl)
theorem dX4_isAhead_20 : decode cX4_isAhead 20 = .ok (.aload_n 0, 1) := dk_42 (dk_at dksX4_isAhead_0 20 rfl rfl)
theorem dX4_isAhead_21 : decode cX4_isAhead 21 = .ok (.getfield 9, 3) := dk_180 0 9 (dk_at dksX4_isAhead_0 21 rfl rfl)
theorem dX4_isAhead_24 : decode cX4_isAhead 24 = .ok (.iload_n 1, 1) := dk_27 (dk_at dksX4_isAhead_1 0 rfl rfl)
theorem dX4_isAhead_25 : decode cX4_isAhead 25 = .ok (.iconst 1, 1) := dk_4 (dk_at dksX4_isAhead_1 1 rfl rfl)
theorem dX4_isAhead_26 : decode cX4_isAhead 26 = .ok (.invokestatic 101, 3) := dk_184 0 101 (dk_at dksX4_isAhead_1 2 rfl rfl)
theorem dX4_isAhead_29 : decode cX4_isAhead 29 = .ok (.iaload, 1) := dk_46 (dk_at dksX4_isAhead_1 5 rfl rfl)
theorem dX4_isAhead_30 : decode cX4_isAhead 30 = .ok (.aload_n 0, 1) := dk_42 (dk_at dksX4_isAhead_1 6 rfl rfl)
theorem dX4_isAhead_31 : decode cX4_isAhead 31 = .ok (.getfield 9, 3) := dk_180 0 9 (dk_at dksX4_isAhead_1 7 rfl rfl)
theorem dX4_isAhead_34 : decode cX4_isAhead 34 = .ok (.iload_n 1, 1) := dk_27 (dk_at dksX4_isAhead_1 10 rfl rfl)
theorem dX4_isAhead_35 : decode cX4_isAhead 35 = .ok (.iconst 0, 1) := dk_3 (dk_at dksX4_isAhead_1 11 rfl rfl)
theorem dX4_isAhead_36 : decode cX4_isAhead 36 = .ok (.invokestatic 101, 3) := dk_184 0 101 (dk_at dksX4_isAhead_1 12 rfl rfl)
theorem dX4_isAhead_39 : decode cX4_isAhead 39 = .ok (.iaload, 1) := dk_46 (dk_at dksX4_isAhead_1 15 rfl rfl)
theorem dX4_isAhead_40 : decode cX4_isAhead 40 = .ok (.isub, 1) := dk_100 (dk_at dksX4_isAhead_1 16 rfl rfl)
theorem dX4_isAhead_41 : decode cX4_isAhead 41 = .ok (.aload_n 0, 1) := dk_42 (dk_at dksX4_isAhead_1 17 rfl rfl)
theorem dX4_isAhead_42 : decode cX4_isAhead 42 = .ok (.getfield 9, 3) := dk_180 0 9 (dk_at dksX4_isAhead_1 18 rfl rfl)
theorem dX4_isAhead_45 : decode cX4_isAhead 45 = .ok (.iload_n 2, 1) := dk_28 (dk_at dksX4_isAhead_1 21 rfl rfl)
theorem dX4_isAhead_46 : decode cX4_isAhead 46 = .ok (.iconst 1, 1) := dk_4 (dk_at dksX4_isAhead_1 22 rfl rfl)
theorem dX4_isAhead_47 : decode cX4_isAhead 47 = .ok (.invokestatic 101, 3) := dk_184 0 101 (dk_at dksX4_isAhead_2 0 rfl rfl)
theorem dX4_isAhead_50 : decode cX4_isAhead 50 = .ok (.iaload, 1) := dk_46 (dk_at dksX4_isAhead_2 3 rfl rfl)
theorem dX4_isAhead_51 : decode cX4_isAhead 51 = .ok (.isub, 1) := dk_100 (dk_at dksX4_isAhead_2 4 rfl rfl)
theorem dX4_isAhead_52 : decode cX4_isAhead 52 = .ok (.aload_n 0, 1) := dk_42 (dk_at dksX4_isAhead_2 5 rfl rfl)
theorem dX4_isAhead_53 : decode cX4_isAhead 53 = .ok (.getfield 9, 3) := dk_180 0 9 (dk_at dksX4_isAhead_2 6 rfl rfl)
theorem dX4_isAhead_56 : decode cX4_isAhead 56 = .ok (.iload_n 2, 1) := dk_28 (dk_at dksX4_isAhead_2 9 rfl rfl)
theorem dX4_isAhead_57 : decode cX4_isAhead 57 = .ok (.iconst 0, 1) := dk_3 (dk_at dksX4_isAhead_2 10 rfl rfl)
theorem dX4_isAhead_58 : decode cX4_isAhead 58 = .ok (.invokestatic 101, 3) := dk_184 0 101 (dk_at dksX4_isAhead_2 11 rfl rfl)
theorem dX4_isAhead_61 : decode cX4_isAhead 61 = .ok (.iaload, 1) := dk_46 (dk_at dksX4_isAhead_2 14 rfl rfl)
theorem dX4_isAhead_62 : decode cX4_isAhead 62 = .ok (.iadd, 1) := dk_96 (dk_at dksX4_isAhead_2 15 rfl rfl)
theorem dX4_isAhead_63 : decode cX4_isAhead 63 = .ok (.istore_n 3, 1) := dk_62 (dk_at dksX4_isAhead_2 16 rfl rfl)
theorem dX4_isAhead_64 : decode cX4_isAhead 64 = .ok (.iload_n 3, 1) := dk_29 (dk_at dksX4_isAhead_2 17 rfl rfl)
theorem dX4_isAhead_65 : decode cX4_isAhead 65 = .ok (.ifCond .gt 12, 3) := dk_157 0 12 (dk_at dksX4_isAhead_2 18 rfl rfl)
theorem dX4_isAhead_68 : decode cX4_isAhead 68 = .ok (.iload_n 3, 1) := dk_29 (dk_at dksX4_isAhead_2 21 rfl rfl)
theorem dX4_isAhead_69 : decode cX4_isAhead 69 = .ok (.ifCond .ne 12, 3) := dk_154 0 12 (dk_at dksX4_isAhead_3 0 rfl rfl)
theorem dX4_isAhead_72 : decode cX4_isAhead 72 = .ok (.iload_n 1, 1) := dk_27 (dk_at dksX4_isAhead_3 3 rfl rfl)
theorem dX4_isAhead_73 : decode cX4_isAhead 73 = .ok (.iload_n 2, 1) := dk_28 (dk_at dksX4_isAhead_3 4 rfl rfl)
theorem dX4_isAhead_74 : decode cX4_isAhead 74 = .ok (.if_icmp .ge 7, 3) := dk_162 0 7 (dk_at dksX4_isAhead_3 5 rfl rfl)
theorem dX4_isAhead_77 : decode cX4_isAhead 77 = .ok (.iconst 1, 1) := dk_4 (dk_at dksX4_isAhead_3 8 rfl rfl)
theorem dX4_isAhead_78 : decode cX4_isAhead 78 = .ok (.goto 4, 3) := dk_167 0 4 (dk_at dksX4_isAhead_3 9 rfl rfl)
theorem dX4_isAhead_81 : decode cX4_isAhead 81 = .ok (.iconst 0, 1) := dk_3 (dk_at dksX4_isAhead_3 12 rfl rfl)
theorem dX4_isAhead_82 : decode cX4_isAhead 82 = .ok (.ireturn, 1) := dk_172 (dk_at dksX4_isAhead_3 13 rfl rfl)
abbrev cX4_isRight : ByteArray := prog_14_method_59_code
def yX4_isRight : MethodName := ⟨RX4, "isRight", "()Z"⟩
def dkwX4_isRight_0 : List UInt8 := [42, 3, 181, 0, 52, 4, 172]
abbrev dktX4_isRight_0 : List UInt8 := dkwX4_isRight_0 ++ []
theorem dksX4_isRight_0 : cX4_isRight.data.toList.drop 0 = dktX4_isRight_0 := by decide +kernel
theorem dX4_isRight_0 : decode cX4_isRight 0 = .ok (.aload_n 0, 1) := dk_42 (dk_at dksX4_isRight_0 0 rfl rfl)
theorem dX4_isRight_1 : decode cX4_isRight 1 = .ok (.iconst 0, 1) := dk_3 (dk_at dksX4_isRight_0 1 rfl rfl)
theorem dX4_isRight_2 : decode cX4_isRight 2 = .ok (.putfield 52, 3) := dk_181 0 52 (dk_at dksX4_isRight_0 2 rfl rfl)
theorem dX4_isRight_5 : decode cX4_isRight 5 = .ok (.iconst 1, 1) := dk_4 (dk_at dksX4_isRight_0 5 rfl rfl)
theorem dX4_isRight_6 : decode cX4_isRight 6 = .ok (.ireturn, 1) := dk_172 (dk_at dksX4_isRight_0 6 rfl rfl)
abbrev cX4_bookOf : ByteArray := prog_14_method_60_code
def yX4_bookOf : MethodName := ⟨RX4, "bookOf", "(II)I"⟩
def dkwX4_bookOf_3 : List UInt8 := [160, 0, 10, 42, 180, 0, 175, 167, 0, 7, 42, 182, 0, 202, 172]
abbrev dktX4_bookOf_3 : List UInt8 := dkwX4_bookOf_3 ++ []
def dkwX4_bookOf_2 : List UInt8 := [28, 182, 0, 152, 172, 42, 27, 182, 0, 187, 62, 29, 154, 0, 7, 2, 167, 0, 20, 28, 16, 6]
abbrev dktX4_bookOf_2 : List UInt8 := dkwX4_bookOf_2 ++ dktX4_bookOf_3
def dkwX4_bookOf_1 : List UInt8 := [167, 0, 4, 3, 181, 0, 52, 42, 180, 0, 52, 158, 0, 5, 3, 172, 28, 16, 6, 162, 0, 10, 42, 27]
abbrev dktX4_bookOf_1 : List UInt8 := dkwX4_bookOf_1 ++ dktX4_bookOf_2
def dkwX4_bookOf_0 : List UInt8 := [42, 42, 27, 182, 0, 181, 154, 0, 7, 4, 167, 0, 18, 28, 3, 16, 7, 184, 0, 64, 154, 0, 7, 5]
abbrev dktX4_bookOf_0 : List UInt8 := dkwX4_bookOf_0 ++ dktX4_bookOf_1
theorem dksX4_bookOf_0 : cX4_bookOf.data.toList.drop 0 = dktX4_bookOf_0 := by decide +kernel
theorem dksX4_bookOf_1 : cX4_bookOf.data.toList.drop 24 = dktX4_bookOf_1 := dk_seg dksX4_bookOf_0 24 rfl rfl
theorem dksX4_bookOf_2 : cX4_bookOf.data.toList.drop 48 = dktX4_bookOf_2 := dk_seg dksX4_bookOf_1 24 rfl rfl
theorem dksX4_bookOf_3 : cX4_bookOf.data.toList.drop 70 = dktX4_bookOf_3 := dk_seg dksX4_bookOf_2 22 rfl rfl
theorem dX4_bookOf_0 : decode cX4_bookOf 0 = .ok (.aload_n 0, 1) := dk_42 (dk_at dksX4_bookOf_0 0 rfl rfl)
theorem dX4_bookOf_1 : decode cX4_bookOf 1 = .ok (.aload_n 0, 1) := dk_42 (dk_at dksX4_bookOf_0 1 rfl rfl)
theorem dX4_bookOf_2 : decode cX4_bookOf 2 = .ok (.iload_n 1, 1) := dk_27 (dk_at dksX4_bookOf_0 2 rfl rfl)
theorem dX4_bookOf_3 : decode cX4_bookOf 3 = .ok (.invokevirtual 181, 3) := dk_182 0 181 (dk_at dksX4_bookOf_0 3 rfl rfl)
theorem dX4_bookOf_6 : decode cX4_bookOf 6 = .ok (.ifCond .ne 7, 3) := dk_154 0 7 (dk_at dksX4_bookOf_0 6 rfl rfl)
theorem dX4_bookOf_9 : decode cX4_bookOf 9 = .ok (.iconst 1, 1) := dk_4 (dk_at dksX4_bookOf_0 9 rfl rfl)
theorem dX4_bookOf_10 : decode cX4_bookOf 10 = .ok (.goto 18, 3) := dk_167 0 18 (dk_at dksX4_bookOf_0 10 rfl rfl)
theorem dX4_bookOf_13 : decode cX4_bookOf 13 = .ok (.iload_n 2, 1) := dk_28 (dk_at dksX4_bookOf_0 13 rfl rfl)
theorem dX4_bookOf_14 : decode cX4_bookOf 14 = .ok (.iconst 0, 1) := dk_3 (dk_at dksX4_bookOf_0 14 rfl rfl)
theorem dX4_bookOf_15 : decode cX4_bookOf 15 = .ok (.bipush 7, 2) := dk_16 7 (dk_at dksX4_bookOf_0 15 rfl rfl)
theorem dX4_bookOf_17 : decode cX4_bookOf 17 = .ok (.invokestatic 64, 3) := dk_184 0 64 (dk_at dksX4_bookOf_0 17 rfl rfl)
theorem dX4_bookOf_20 : decode cX4_bookOf 20 = .ok (.ifCond .ne 7, 3) := dk_154 0 7 (dk_at dksX4_bookOf_0 20 rfl rfl)
theorem dX4_bookOf_23 : decode cX4_bookOf 23 = .ok (.iconst 2, 1) := dk_5 (dk_at dksX4_bookOf_0 23 rfl rfl)
theorem dX4_bookOf_24 : decode cX4_bookOf 24 = .ok (.goto 4, 3) := dk_167 0 4 (dk_at dksX4_bookOf_1 0 rfl rfl)
theorem dX4_bookOf_27 : decode cX4_bookOf 27 = .ok (.iconst 0, 1) := dk_3 (dk_at dksX4_bookOf_1 3 rfl rfl)
theorem dX4_bookOf_28 : decode cX4_bookOf 28 = .ok (.putfield 52, 3) := dk_181 0 52 (dk_at dksX4_bookOf_1 4 rfl rfl)
theorem dX4_bookOf_31 : decode cX4_bookOf 31 = .ok (.aload_n 0, 1) := dk_42 (dk_at dksX4_bookOf_1 7 rfl rfl)
theorem dX4_bookOf_32 : decode cX4_bookOf 32 = .ok (.getfield 52, 3) := dk_180 0 52 (dk_at dksX4_bookOf_1 8 rfl rfl)
theorem dX4_bookOf_35 : decode cX4_bookOf 35 = .ok (.ifCond .le 5, 3) := dk_158 0 5 (dk_at dksX4_bookOf_1 11 rfl rfl)
theorem dX4_bookOf_38 : decode cX4_bookOf 38 = .ok (.iconst 0, 1) := dk_3 (dk_at dksX4_bookOf_1 14 rfl rfl)
theorem dX4_bookOf_39 : decode cX4_bookOf 39 = .ok (.ireturn, 1) := dk_172 (dk_at dksX4_bookOf_1 15 rfl rfl)
theorem dX4_bookOf_40 : decode cX4_bookOf 40 = .ok (.iload_n 2, 1) := dk_28 (dk_at dksX4_bookOf_1 16 rfl rfl)
theorem dX4_bookOf_41 : decode cX4_bookOf 41 = .ok (.bipush 6, 2) := dk_16 6 (dk_at dksX4_bookOf_1 17 rfl rfl)
theorem dX4_bookOf_43 : decode cX4_bookOf 43 = .ok (.if_icmp .ge 10, 3) := dk_162 0 10 (dk_at dksX4_bookOf_1 19 rfl rfl)
theorem dX4_bookOf_46 : decode cX4_bookOf 46 = .ok (.aload_n 0, 1) := dk_42 (dk_at dksX4_bookOf_1 22 rfl rfl)
theorem dX4_bookOf_47 : decode cX4_bookOf 47 = .ok (.iload_n 1, 1) := dk_27 (dk_at dksX4_bookOf_1 23 rfl rfl)
theorem dX4_bookOf_48 : decode cX4_bookOf 48 = .ok (.iload_n 2, 1) := dk_28 (dk_at dksX4_bookOf_2 0 rfl rfl)
theorem dX4_bookOf_49 : decode cX4_bookOf 49 = .ok (.invokevirtual 152, 3) := dk_182 0 152 (dk_at dksX4_bookOf_2 1 rfl rfl)
theorem dX4_bookOf_52 : decode cX4_bookOf 52 = .ok (.ireturn, 1) := dk_172 (dk_at dksX4_bookOf_2 4 rfl rfl)
theorem dX4_bookOf_53 : decode cX4_bookOf 53 = .ok (.aload_n 0, 1) := dk_42 (dk_at dksX4_bookOf_2 5 rfl rfl)
theorem dX4_bookOf_54 : decode cX4_bookOf 54 = .ok (.iload_n 1, 1) := dk_27 (dk_at dksX4_bookOf_2 6 rfl rfl)
theorem dX4_bookOf_55 : decode cX4_bookOf 55 = .ok (.invokevirtual 187, 3) := dk_182 0 187 (dk_at dksX4_bookOf_2 7 rfl rfl)
theorem dX4_bookOf_58 : decode cX4_bookOf 58 = .ok (.istore_n 3, 1) := dk_62 (dk_at dksX4_bookOf_2 10 rfl rfl)
theorem dX4_bookOf_59 : decode cX4_bookOf 59 = .ok (.iload_n 3, 1) := dk_29 (dk_at dksX4_bookOf_2 11 rfl rfl)
theorem dX4_bookOf_60 : decode cX4_bookOf 60 = .ok (.ifCond .ne 7, 3) := dk_154 0 7 (dk_at dksX4_bookOf_2 12 rfl rfl)
theorem dX4_bookOf_63 : decode cX4_bookOf 63 = .ok (.iconst (-1), 1) := dk_2 (dk_at dksX4_bookOf_2 15 rfl rfl)
theorem dX4_bookOf_64 : decode cX4_bookOf 64 = .ok (.goto 20, 3) := dk_167 0 20 (dk_at dksX4_bookOf_2 16 rfl rfl)
theorem dX4_bookOf_67 : decode cX4_bookOf 67 = .ok (.iload_n 2, 1) := dk_28 (dk_at dksX4_bookOf_2 19 rfl rfl)
theorem dX4_bookOf_68 : decode cX4_bookOf 68 = .ok (.bipush 6, 2) := dk_16 6 (dk_at dksX4_bookOf_2 20 rfl rfl)
theorem dX4_bookOf_70 : decode cX4_bookOf 70 = .ok (.if_icmp .ne 10, 3) := dk_160 0 10 (dk_at dksX4_bookOf_3 0 rfl rfl)
theorem dX4_bookOf_73 : decode cX4_bookOf 73 = .ok (.aload_n 0, 1) := dk_42 (dk_at dksX4_bookOf_3 3 rfl rfl)
theorem dX4_bookOf_74 : decode cX4_bookOf 74 = .ok (.getfield 175, 3) := dk_180 0 175 (dk_at dksX4_bookOf_3 4 rfl rfl)
theorem dX4_bookOf_77 : decode cX4_bookOf 77 = .ok (.goto 7, 3) := dk_167 0 7 (dk_at dksX4_bookOf_3 7 rfl rfl)
theorem dX4_bookOf_80 : decode cX4_bookOf 80 = .ok (.aload_n 0, 1) := dk_42 (dk_at dksX4_bookOf_3 10 rfl rfl)
theorem dX4_bookOf_81 : decode cX4_bookOf 81 = .ok (.invokevirtual 202, 3) := dk_182 0 202 (dk_at dksX4_bookOf_3 11 rfl rfl)
theorem dX4_bookOf_84 : decode cX4_bookOf 84 = .ok (.ireturn, 1) := dk_172 (dk_at dksX4_bookOf_3 14 rfl rfl)
abbrev cX4_chainPrice : ByteArray := prog_14_method_47_code
def yX4_chainPrice : MethodName := ⟨RX4, "chainPrice", "()I"⟩
def dkwX4_chainPrice_1 : List UInt8 := [60, 132, 2, 1, 167, 255, 232, 27, 172]
abbrev dktX4_chainPrice_1 : List UInt8 := dkwX4_chainPrice_1 ++ []
def dkwX4_chainPrice_0 : List UInt8 := [3, 60, 3, 61, 28, 42, 180, 0, 175, 162, 0, 22, 27, 42, 42, 180, 0, 29, 28, 46, 182, 0, 178, 96]
abbrev dktX4_chainPrice_0 : List UInt8 := dkwX4_chainPrice_0 ++ dktX4_chainPrice_1
theorem dksX4_chainPrice_0 : cX4_chainPrice.data.toList.drop 0 = dktX4_chainPrice_0 := by decide +kernel
theorem dksX4_chainPrice_1 : cX4_chainPrice.data.toList.drop 24 = dktX4_chainPrice_1 := dk_seg dksX4_chainPrice_0 24 rfl rfl
theorem dX4_chainPrice_0 : decode cX4_chainPrice 0 = .ok (.iconst 0, 1) := dk_3 (dk_at dksX4_chainPrice_0 0 rfl rfl)
theorem dX4_chainPrice_1 : decode cX4_chainPrice 1 = .ok (.istore_n 1, 1) := dk_60 (dk_at dksX4_chainPrice_0 1 rfl rfl)
theorem dX4_chainPrice_2 : decode cX4_chainPrice 2 = .ok (.iconst 0, 1) := dk_3 (dk_at dksX4_chainPrice_0 2 rfl rfl)
theorem dX4_chainPrice_3 : decode cX4_chainPrice 3 = .ok (.istore_n 2, 1) := dk_61 (dk_at dksX4_chainPrice_0 3 rfl rfl)
theorem dX4_chainPrice_4 : decode cX4_chainPrice 4 = .ok (.iload_n 2, 1) := dk_28 (dk_at dksX4_chainPrice_0 4 rfl rfl)
theorem dX4_chainPrice_5 : decode cX4_chainPrice 5 = .ok (.aload_n 0, 1) := dk_42 (dk_at dksX4_chainPrice_0 5 rfl rfl)
theorem dX4_chainPrice_6 : decode cX4_chainPrice 6 = .ok (.getfield 175, 3) := dk_180 0 175 (dk_at dksX4_chainPrice_0 6 rfl rfl)
theorem dX4_chainPrice_9 : decode cX4_chainPrice 9 = .ok (.if_icmp .ge 22, 3) := dk_162 0 22 (dk_at dksX4_chainPrice_0 9 rfl rfl)
theorem dX4_chainPrice_12 : decode cX4_chainPrice 12 = .ok (.iload_n 1, 1) := dk_27 (dk_at dksX4_chainPrice_0 12 rfl rfl)
theorem dX4_chainPrice_13 : decode cX4_chainPrice 13 = .ok (.aload_n 0, 1) := dk_42 (dk_at dksX4_chainPrice_0 13 rfl rfl)
theorem dX4_chainPrice_14 : decode cX4_chainPrice 14 = .ok (.aload_n 0, 1) := dk_42 (dk_at dksX4_chainPrice_0 14 rfl rfl)
theorem dX4_chainPrice_15 : decode cX4_chainPrice 15 = .ok (.getfield 29, 3) := dk_180 0 29 (dk_at dksX4_chainPrice_0 15 rfl rfl)
theorem dX4_chainPrice_18 : decode cX4_chainPrice 18 = .ok (.iload_n 2, 1) := dk_28 (dk_at dksX4_chainPrice_0 18 rfl rfl)
theorem dX4_chainPrice_19 : decode cX4_chainPrice 19 = .ok (.iaload, 1) := dk_46 (dk_at dksX4_chainPrice_0 19 rfl rfl)
theorem dX4_chainPrice_20 : decode cX4_chainPrice 20 = .ok (.invokevirtual 178, 3) := dk_182 0 178 (dk_at dksX4_chainPrice_0 20 rfl rfl)
theorem dX4_chainPrice_23 : decode cX4_chainPrice 23 = .ok (.iadd, 1) := dk_96 (dk_at dksX4_chainPrice_0 23 rfl rfl)
theorem dX4_chainPrice_24 : decode cX4_chainPrice 24 = .ok (.istore_n 1, 1) := dk_60 (dk_at dksX4_chainPrice_1 0 rfl rfl)
theorem dX4_chainPrice_25 : decode cX4_chainPrice 25 = .ok (.iinc 2 1, 3) := dk_132 2 1 (dk_at dksX4_chainPrice_1 1 rfl rfl)
theorem dX4_chainPrice_28 : decode cX4_chainPrice 28 = .ok (.goto (-24), 3) := dk_167 255 232 (dk_at dksX4_chainPrice_1 4 rfl rfl)
theorem dX4_chainPrice_31 : decode cX4_chainPrice 31 = .ok (.iload_n 1, 1) := dk_27 (dk_at dksX4_chainPrice_1 7 rfl rfl)
theorem dX4_chainPrice_32 : decode cX4_chainPrice 32 = .ok (.ireturn, 1) := dk_172 (dk_at dksX4_chainPrice_1 8 rfl rfl)
abbrev cX4_priceOf : ByteArray := prog_14_method_46_code
def yX4_priceOf : MethodName := ⟨RX4, "priceOf", "(I)I"⟩
def dkwX4_priceOf_1 : List UInt8 := [180, 0, 9, 6, 46, 104, 172]
abbrev dktX4_priceOf_1 : List UInt8 := dkwX4_priceOf_1 ++ []
def dkwX4_priceOf_0 : List UInt8 := [42, 180, 0, 9, 27, 4, 184, 0, 101, 46, 42, 180, 0, 9, 27, 3, 184, 0, 101, 46, 100, 4, 96, 42]
abbrev dktX4_priceOf_0 : List UInt8 := dkwX4_priceOf_0 ++ dktX4_priceOf_1
theorem dksX4_priceOf_0 : cX4_priceOf.data.toList.drop 0 = dktX4_priceOf_0 := by decide +kernel
theorem dksX4_priceOf_1 : cX4_priceOf.data.toList.drop 24 = dktX4_priceOf_1 := dk_seg dksX4_priceOf_0 24 rfl rfl
theorem dX4_priceOf_0 : decode cX4_priceOf 0 = .ok (.aload_n 0, 1) := dk_42 (dk_at dksX4_priceOf_0 0 rfl rfl)
theorem dX4_priceOf_1 : decode cX4_priceOf 1 = .ok (.getfield 9, 3) := dk_180 0 9 (dk_at dksX4_priceOf_0 1 rfl rfl)
theorem dX4_priceOf_4 : decode cX4_priceOf 4 = .ok (.iload_n 1, 1) := dk_27 (dk_at dksX4_priceOf_0 4 rfl rfl)
theorem dX4_priceOf_5 : decode cX4_priceOf 5 = .ok (.iconst 1, 1) := dk_4 (dk_at dksX4_priceOf_0 5 rfl rfl)
theorem dX4_priceOf_6 : decode cX4_priceOf 6 = .ok (.invokestatic 101, 3) := dk_184 0 101 (dk_at dksX4_priceOf_0 6 rfl rfl)
theorem dX4_priceOf_9 : decode cX4_priceOf 9 = .ok (.iaload, 1) := dk_46 (dk_at dksX4_priceOf_0 9 rfl rfl)
theorem dX4_priceOf_10 : decode cX4_priceOf 10 = .ok (.aload_n 0, 1) := dk_42 (dk_at dksX4_priceOf_0 10 rfl rfl)
theorem dX4_priceOf_11 : decode cX4_priceOf 11 = .ok (.getfield 9, 3) := dk_180 0 9 (dk_at dksX4_priceOf_0 11 rfl rfl)
theorem dX4_priceOf_14 : decode cX4_priceOf 14 = .ok (.iload_n 1, 1) := dk_27 (dk_at dksX4_priceOf_0 14 rfl rfl)
theorem dX4_priceOf_15 : decode cX4_priceOf 15 = .ok (.iconst 0, 1) := dk_3 (dk_at dksX4_priceOf_0 15 rfl rfl)
theorem dX4_priceOf_16 : decode cX4_priceOf 16 = .ok (.invokestatic 101, 3) := dk_184 0 101 (dk_at dksX4_priceOf_0 16 rfl rfl)
theorem dX4_priceOf_19 : decode cX4_priceOf 19 = .ok (.iaload, 1) := dk_46 (dk_at dksX4_priceOf_0 19 rfl rfl)
theorem dX4_priceOf_20 : decode cX4_priceOf 20 = .ok (.isub, 1) := dk_100 (dk_at dksX4_priceOf_0 20 rfl rfl)
theorem dX4_priceOf_21 : decode cX4_priceOf 21 = .ok (.iconst 1, 1) := dk_4 (dk_at dksX4_priceOf_0 21 rfl rfl)
theorem dX4_priceOf_22 : decode cX4_priceOf 22 = .ok (.iadd, 1) := dk_96 (dk_at dksX4_priceOf_0 22 rfl rfl)
theorem dX4_priceOf_23 : decode cX4_priceOf 23 = .ok (.aload_n 0, 1) := dk_42 (dk_at dksX4_priceOf_0 23 rfl rfl)
theorem dX4_priceOf_24 : decode cX4_priceOf 24 = .ok (.getfield 9, 3) := dk_180 0 9 (dk_at dksX4_priceOf_1 0 rfl rfl)
theorem dX4_priceOf_27 : decode cX4_priceOf 27 = .ok (.iconst 3, 1) := dk_6 (dk_at dksX4_priceOf_1 3 rfl rfl)
theorem dX4_priceOf_28 : decode cX4_priceOf 28 = .ok (.iaload, 1) := dk_46 (dk_at dksX4_priceOf_1 4 rfl rfl)
theorem dX4_priceOf_29 : decode cX4_priceOf 29 = .ok (.imul, 1) := dk_104 (dk_at dksX4_priceOf_1 5 rfl rfl)
theorem dX4_priceOf_30 : decode cX4_priceOf 30 = .ok (.ireturn, 1) := dk_172 (dk_at dksX4_priceOf_1 6 rfl rfl)
abbrev cX4_scrapOf : ByteArray := prog_14_method_61_code
def yX4_scrapOf : MethodName := ⟨RX4, "scrapOf", "(II)I"⟩
def dkwX4_scrapOf_4 : List UInt8 := [27, 182, 0, 149, 153, 0, 7, 4, 167, 0, 4, 3, 172, 42, 180, 0, 9, 27, 28, 184, 0, 101, 46, 172]
abbrev dktX4_scrapOf_4 : List UInt8 := dkwX4_scrapOf_4 ++ []
def dkwX4_scrapOf_3 : List UInt8 := [42, 27, 182, 0, 124, 172, 42, 180, 0, 9, 27, 8, 184, 0, 101, 46, 172, 42, 27, 182, 0, 178, 172, 42]
abbrev dktX4_scrapOf_3 : List UInt8 := dkwX4_scrapOf_3 ++ dktX4_scrapOf_4
def dkwX4_scrapOf_2 : List UInt8 := [170, 0, 0, 0, 0, 0, 68, 0, 0, 0, 5, 0, 0, 0, 8, 0, 0, 0, 31, 0, 0, 0, 37, 0, 0, 0, 48, 0, 0, 0, 54]
abbrev dktX4_scrapOf_2 : List UInt8 := dkwX4_scrapOf_2 ++ dktX4_scrapOf_3
def dkwX4_scrapOf_1 : List UInt8 := [167, 0, 4, 3, 181, 0, 52, 42, 180, 0, 52, 158, 0, 5, 3, 172, 28]
abbrev dktX4_scrapOf_1 : List UInt8 := dkwX4_scrapOf_1 ++ dktX4_scrapOf_2
def dkwX4_scrapOf_0 : List UInt8 := [42, 42, 27, 182, 0, 111, 154, 0, 7, 4, 167, 0, 18, 28, 3, 16, 8, 184, 0, 64, 154, 0, 7, 5]
abbrev dktX4_scrapOf_0 : List UInt8 := dkwX4_scrapOf_0 ++ dktX4_scrapOf_1
theorem dksX4_scrapOf_0 : cX4_scrapOf.data.toList.drop 0 = dktX4_scrapOf_0 := by decide +kernel
theorem dksX4_scrapOf_1 : cX4_scrapOf.data.toList.drop 24 = dktX4_scrapOf_1 := dk_seg dksX4_scrapOf_0 24 rfl rfl
theorem dksX4_scrapOf_2 : cX4_scrapOf.data.toList.drop 41 = dktX4_scrapOf_2 := dk_seg dksX4_scrapOf_1 17 rfl rfl
theorem dksX4_scrapOf_3 : cX4_scrapOf.data.toList.drop 72 = dktX4_scrapOf_3 := dk_seg dksX4_scrapOf_2 31 rfl rfl
theorem dksX4_scrapOf_4 : cX4_scrapOf.data.toList.drop 96 = dktX4_scrapOf_4 := dk_seg dksX4_scrapOf_3 24 rfl rfl
theorem dX4_scrapOf_0 : decode cX4_scrapOf 0 = .ok (.aload_n 0, 1) := dk_42 (dk_at dksX4_scrapOf_0 0 rfl rfl)
theorem dX4_scrapOf_1 : decode cX4_scrapOf 1 = .ok (.aload_n 0, 1) := dk_42 (dk_at dksX4_scrapOf_0 1 rfl rfl)
theorem dX4_scrapOf_2 : decode cX4_scrapOf 2 = .ok (.iload_n 1, 1) := dk_27 (dk_at dksX4_scrapOf_0 2 rfl rfl)
theorem dX4_scrapOf_3 : decode cX4_scrapOf 3 = .ok (.invokevirtual 111, 3) := dk_182 0 111 (dk_at dksX4_scrapOf_0 3 rfl rfl)
theorem dX4_scrapOf_6 : decode cX4_scrapOf 6 = .ok (.ifCond .ne 7, 3) := dk_154 0 7 (dk_at dksX4_scrapOf_0 6 rfl rfl)
theorem dX4_scrapOf_9 : decode cX4_scrapOf 9 = .ok (.iconst 1, 1) := dk_4 (dk_at dksX4_scrapOf_0 9 rfl rfl)
theorem dX4_scrapOf_10 : decode cX4_scrapOf 10 = .ok (.goto 18, 3) := dk_167 0 18 (dk_at dksX4_scrapOf_0 10 rfl rfl)
theorem dX4_scrapOf_13 : decode cX4_scrapOf 13 = .ok (.iload_n 2, 1) := dk_28 (dk_at dksX4_scrapOf_0 13 rfl rfl)
theorem dX4_scrapOf_14 : decode cX4_scrapOf 14 = .ok (.iconst 0, 1) := dk_3 (dk_at dksX4_scrapOf_0 14 rfl rfl)
theorem dX4_scrapOf_15 : decode cX4_scrapOf 15 = .ok (.bipush 8, 2) := dk_16 8 (dk_at dksX4_scrapOf_0 15 rfl rfl)
theorem dX4_scrapOf_17 : decode cX4_scrapOf 17 = .ok (.invokestatic 64, 3) := dk_184 0 64 (dk_at dksX4_scrapOf_0 17 rfl rfl)
theorem dX4_scrapOf_20 : decode cX4_scrapOf 20 = .ok (.ifCond .ne 7, 3) := dk_154 0 7 (dk_at dksX4_scrapOf_0 20 rfl rfl)
theorem dX4_scrapOf_23 : decode cX4_scrapOf 23 = .ok (.iconst 2, 1) := dk_5 (dk_at dksX4_scrapOf_0 23 rfl rfl)
theorem dX4_scrapOf_24 : decode cX4_scrapOf 24 = .ok (.goto 4, 3) := dk_167 0 4 (dk_at dksX4_scrapOf_1 0 rfl rfl)
theorem dX4_scrapOf_27 : decode cX4_scrapOf 27 = .ok (.iconst 0, 1) := dk_3 (dk_at dksX4_scrapOf_1 3 rfl rfl)
theorem dX4_scrapOf_28 : decode cX4_scrapOf 28 = .ok (.putfield 52, 3) := dk_181 0 52 (dk_at dksX4_scrapOf_1 4 rfl rfl)
theorem dX4_scrapOf_31 : decode cX4_scrapOf 31 = .ok (.aload_n 0, 1) := dk_42 (dk_at dksX4_scrapOf_1 7 rfl rfl)
theorem dX4_scrapOf_32 : decode cX4_scrapOf 32 = .ok (.getfield 52, 3) := dk_180 0 52 (dk_at dksX4_scrapOf_1 8 rfl rfl)
theorem dX4_scrapOf_35 : decode cX4_scrapOf 35 = .ok (.ifCond .le 5, 3) := dk_158 0 5 (dk_at dksX4_scrapOf_1 11 rfl rfl)
theorem dX4_scrapOf_38 : decode cX4_scrapOf 38 = .ok (.iconst 0, 1) := dk_3 (dk_at dksX4_scrapOf_1 14 rfl rfl)
theorem dX4_scrapOf_39 : decode cX4_scrapOf 39 = .ok (.ireturn, 1) := dk_172 (dk_at dksX4_scrapOf_1 15 rfl rfl)
theorem dX4_scrapOf_40 : decode cX4_scrapOf 40 = .ok (.iload_n 2, 1) := dk_28 (dk_at dksX4_scrapOf_1 16 rfl rfl)
theorem dX4_scrapOf_41 : decode cX4_scrapOf 41 = .ok (.tableswitch 68 5 8 #[31, 37, 48, 54], 31) := by decide +kernel
theorem dX4_scrapOf_72 : decode cX4_scrapOf 72 = .ok (.aload_n 0, 1) := dk_42 (dk_at dksX4_scrapOf_3 0 rfl rfl)
theorem dX4_scrapOf_73 : decode cX4_scrapOf 73 = .ok (.iload_n 1, 1) := dk_27 (dk_at dksX4_scrapOf_3 1 rfl rfl)
theorem dX4_scrapOf_74 : decode cX4_scrapOf 74 = .ok (.invokevirtual 124, 3) := dk_182 0 124 (dk_at dksX4_scrapOf_3 2 rfl rfl)
theorem dX4_scrapOf_77 : decode cX4_scrapOf 77 = .ok (.ireturn, 1) := dk_172 (dk_at dksX4_scrapOf_3 5 rfl rfl)
theorem dX4_scrapOf_78 : decode cX4_scrapOf 78 = .ok (.aload_n 0, 1) := dk_42 (dk_at dksX4_scrapOf_3 6 rfl rfl)
theorem dX4_scrapOf_79 : decode cX4_scrapOf 79 = .ok (.getfield 9, 3) := dk_180 0 9 (dk_at dksX4_scrapOf_3 7 rfl rfl)
theorem dX4_scrapOf_82 : decode cX4_scrapOf 82 = .ok (.iload_n 1, 1) := dk_27 (dk_at dksX4_scrapOf_3 10 rfl rfl)
theorem dX4_scrapOf_83 : decode cX4_scrapOf 83 = .ok (.iconst 5, 1) := dk_8 (dk_at dksX4_scrapOf_3 11 rfl rfl)
theorem dX4_scrapOf_84 : decode cX4_scrapOf 84 = .ok (.invokestatic 101, 3) := dk_184 0 101 (dk_at dksX4_scrapOf_3 12 rfl rfl)
theorem dX4_scrapOf_87 : decode cX4_scrapOf 87 = .ok (.iaload, 1) := dk_46 (dk_at dksX4_scrapOf_3 15 rfl rfl)
theorem dX4_scrapOf_88 : decode cX4_scrapOf 88 = .ok (.ireturn, 1) := dk_172 (dk_at dksX4_scrapOf_3 16 rfl rfl)
theorem dX4_scrapOf_89 : decode cX4_scrapOf 89 = .ok (.aload_n 0, 1) := dk_42 (dk_at dksX4_scrapOf_3 17 rfl rfl)
theorem dX4_scrapOf_90 : decode cX4_scrapOf 90 = .ok (.iload_n 1, 1) := dk_27 (dk_at dksX4_scrapOf_3 18 rfl rfl)
theorem dX4_scrapOf_91 : decode cX4_scrapOf 91 = .ok (.invokevirtual 178, 3) := dk_182 0 178 (dk_at dksX4_scrapOf_3 19 rfl rfl)
theorem dX4_scrapOf_94 : decode cX4_scrapOf 94 = .ok (.ireturn, 1) := dk_172 (dk_at dksX4_scrapOf_3 22 rfl rfl)
theorem dX4_scrapOf_95 : decode cX4_scrapOf 95 = .ok (.aload_n 0, 1) := dk_42 (dk_at dksX4_scrapOf_3 23 rfl rfl)
theorem dX4_scrapOf_96 : decode cX4_scrapOf 96 = .ok (.iload_n 1, 1) := dk_27 (dk_at dksX4_scrapOf_4 0 rfl rfl)
theorem dX4_scrapOf_97 : decode cX4_scrapOf 97 = .ok (.invokevirtual 149, 3) := dk_182 0 149 (dk_at dksX4_scrapOf_4 1 rfl rfl)
theorem dX4_scrapOf_100 : decode cX4_scrapOf 100 = .ok (.ifCond .eq 7, 3) := dk_153 0 7 (dk_at dksX4_scrapOf_4 4 rfl rfl)
theorem dX4_scrapOf_103 : decode cX4_scrapOf 103 = .ok (.iconst 1, 1) := dk_4 (dk_at dksX4_scrapOf_4 7 rfl rfl)
theorem dX4_scrapOf_104 : decode cX4_scrapOf 104 = .ok (.goto 4, 3) := dk_167 0 4 (dk_at dksX4_scrapOf_4 8 rfl rfl)
theorem dX4_scrapOf_107 : decode cX4_scrapOf 107 = .ok (.iconst 0, 1) := dk_3 (dk_at dksX4_scrapOf_4 11 rfl rfl)
theorem dX4_scrapOf_108 : decode cX4_scrapOf 108 = .ok (.ireturn, 1) := dk_172 (dk_at dksX4_scrapOf_4 12 rfl rfl)
theorem dX4_scrapOf_109 : decode cX4_scrapOf 109 = .ok (.aload_n 0, 1) := dk_42 (dk_at dksX4_scrapOf_4 13 rfl rfl)
theorem dX4_scrapOf_110 : decode cX4_scrapOf 110 = .ok (.getfield 9, 3) := dk_180 0 9 (dk_at dksX4_scrapOf_4 14 rfl rfl)
theorem dX4_scrapOf_113 : decode cX4_scrapOf 113 = .ok (.iload_n 1, 1) := dk_27 (dk_at dksX4_scrapOf_4 17 rfl rfl)
theorem dX4_scrapOf_114 : decode cX4_scrapOf 114 = .ok (.iload_n 2, 1) := dk_28 (dk_at dksX4_scrapOf_4 18 rfl rfl)
theorem dX4_scrapOf_115 : decode cX4_scrapOf 115 = .ok (.invokestatic 101, 3) := dk_184 0 101 (dk_at dksX4_scrapOf_4 19 rfl rfl)
theorem dX4_scrapOf_118 : decode cX4_scrapOf 118 = .ok (.iaload, 1) := dk_46 (dk_at dksX4_scrapOf_4 22 rfl rfl)
theorem dX4_scrapOf_119 : decode cX4_scrapOf 119 = .ok (.ireturn, 1) := dk_172 (dk_at dksX4_scrapOf_4 23 rfl rfl)
abbrev cX4_atticOf : ByteArray := prog_14_method_62_code
def yX4_atticOf : MethodName := ⟨RX4, "atticOf", "(II)I"⟩
def dkwX4_atticOf_3 : List UInt8 := [184, 0, 94, 46, 172]
abbrev dktX4_atticOf_3 : List UInt8 := dkwX4_atticOf_3 ++ []
def dkwX4_atticOf_2 : List UInt8 := [180, 0, 9, 27, 3, 184, 0, 94, 46, 154, 0, 7, 2, 167, 0, 13, 42, 180, 0, 9, 27, 28]
abbrev dktX4_atticOf_2 : List UInt8 := dkwX4_atticOf_2 ++ dktX4_atticOf_3
def dkwX4_atticOf_1 : List UInt8 := [167, 0, 4, 3, 181, 0, 52, 42, 180, 0, 52, 158, 0, 5, 3, 172, 28, 4, 164, 0, 20, 42]
abbrev dktX4_atticOf_1 : List UInt8 := dkwX4_atticOf_1 ++ dktX4_atticOf_2
def dkwX4_atticOf_0 : List UInt8 := [42, 27, 184, 0, 90, 154, 0, 7, 4, 167, 0, 17, 28, 3, 6, 184, 0, 64, 154, 0, 7, 5]
abbrev dktX4_atticOf_0 : List UInt8 := dkwX4_atticOf_0 ++ dktX4_atticOf_1
theorem dksX4_atticOf_0 : cX4_atticOf.data.toList.drop 0 = dktX4_atticOf_0 := by decide +kernel
theorem dksX4_atticOf_1 : cX4_atticOf.data.toList.drop 22 = dktX4_atticOf_1 := dk_seg dksX4_atticOf_0 22 rfl rfl
theorem dksX4_atticOf_2 : cX4_atticOf.data.toList.drop 44 = dktX4_atticOf_2 := dk_seg dksX4_atticOf_1 22 rfl rfl
theorem dksX4_atticOf_3 : cX4_atticOf.data.toList.drop 66 = dktX4_atticOf_3 := dk_seg dksX4_atticOf_2 22 rfl rfl
theorem dX4_atticOf_0 : decode cX4_atticOf 0 = .ok (.aload_n 0, 1) := dk_42 (dk_at dksX4_atticOf_0 0 rfl rfl)
theorem dX4_atticOf_1 : decode cX4_atticOf 1 = .ok (.iload_n 1, 1) := dk_27 (dk_at dksX4_atticOf_0 1 rfl rfl)
theorem dX4_atticOf_2 : decode cX4_atticOf 2 = .ok (.invokestatic 90, 3) := dk_184 0 90 (dk_at dksX4_atticOf_0 2 rfl rfl)
theorem dX4_atticOf_5 : decode cX4_atticOf 5 = .ok (.ifCond .ne 7, 3) := dk_154 0 7 (dk_at dksX4_atticOf_0 5 rfl rfl)
theorem dX4_atticOf_8 : decode cX4_atticOf 8 = .ok (.iconst 1, 1) := dk_4 (dk_at dksX4_atticOf_0 8 rfl rfl)
theorem dX4_atticOf_9 : decode cX4_atticOf 9 = .ok (.goto 17, 3) := dk_167 0 17 (dk_at dksX4_atticOf_0 9 rfl rfl)
theorem dX4_atticOf_12 : decode cX4_atticOf 12 = .ok (.iload_n 2, 1) := dk_28 (dk_at dksX4_atticOf_0 12 rfl rfl)
theorem dX4_atticOf_13 : decode cX4_atticOf 13 = .ok (.iconst 0, 1) := dk_3 (dk_at dksX4_atticOf_0 13 rfl rfl)
theorem dX4_atticOf_14 : decode cX4_atticOf 14 = .ok (.iconst 3, 1) := dk_6 (dk_at dksX4_atticOf_0 14 rfl rfl)
theorem dX4_atticOf_15 : decode cX4_atticOf 15 = .ok (.invokestatic 64, 3) := dk_184 0 64 (dk_at dksX4_atticOf_0 15 rfl rfl)
theorem dX4_atticOf_18 : decode cX4_atticOf 18 = .ok (.ifCond .ne 7, 3) := dk_154 0 7 (dk_at dksX4_atticOf_0 18 rfl rfl)
theorem dX4_atticOf_21 : decode cX4_atticOf 21 = .ok (.iconst 2, 1) := dk_5 (dk_at dksX4_atticOf_0 21 rfl rfl)
theorem dX4_atticOf_22 : decode cX4_atticOf 22 = .ok (.goto 4, 3) := dk_167 0 4 (dk_at dksX4_atticOf_1 0 rfl rfl)
theorem dX4_atticOf_25 : decode cX4_atticOf 25 = .ok (.iconst 0, 1) := dk_3 (dk_at dksX4_atticOf_1 3 rfl rfl)
theorem dX4_atticOf_26 : decode cX4_atticOf 26 = .ok (.putfield 52, 3) := dk_181 0 52 (dk_at dksX4_atticOf_1 4 rfl rfl)
theorem dX4_atticOf_29 : decode cX4_atticOf 29 = .ok (.aload_n 0, 1) := dk_42 (dk_at dksX4_atticOf_1 7 rfl rfl)
theorem dX4_atticOf_30 : decode cX4_atticOf 30 = .ok (.getfield 52, 3) := dk_180 0 52 (dk_at dksX4_atticOf_1 8 rfl rfl)
theorem dX4_atticOf_33 : decode cX4_atticOf 33 = .ok (.ifCond .le 5, 3) := dk_158 0 5 (dk_at dksX4_atticOf_1 11 rfl rfl)
theorem dX4_atticOf_36 : decode cX4_atticOf 36 = .ok (.iconst 0, 1) := dk_3 (dk_at dksX4_atticOf_1 14 rfl rfl)
theorem dX4_atticOf_37 : decode cX4_atticOf 37 = .ok (.ireturn, 1) := dk_172 (dk_at dksX4_atticOf_1 15 rfl rfl)
theorem dX4_atticOf_38 : decode cX4_atticOf 38 = .ok (.iload_n 2, 1) := dk_28 (dk_at dksX4_atticOf_1 16 rfl rfl)
theorem dX4_atticOf_39 : decode cX4_atticOf 39 = .ok (.iconst 1, 1) := dk_4 (dk_at dksX4_atticOf_1 17 rfl rfl)
theorem dX4_atticOf_40 : decode cX4_atticOf 40 = .ok (.if_icmp .le 20, 3) := dk_164 0 20 (dk_at dksX4_atticOf_1 18 rfl rfl)
theorem dX4_atticOf_43 : decode cX4_atticOf 43 = .ok (.aload_n 0, 1) := dk_42 (dk_at dksX4_atticOf_1 21 rfl rfl)
theorem dX4_atticOf_44 : decode cX4_atticOf 44 = .ok (.getfield 9, 3) := dk_180 0 9 (dk_at dksX4_atticOf_2 0 rfl rfl)
theorem dX4_atticOf_47 : decode cX4_atticOf 47 = .ok (.iload_n 1, 1) := dk_27 (dk_at dksX4_atticOf_2 3 rfl rfl)
theorem dX4_atticOf_48 : decode cX4_atticOf 48 = .ok (.iconst 0, 1) := dk_3 (dk_at dksX4_atticOf_2 4 rfl rfl)
theorem dX4_atticOf_49 : decode cX4_atticOf 49 = .ok (.invokestatic 94, 3) := dk_184 0 94 (dk_at dksX4_atticOf_2 5 rfl rfl)
theorem dX4_atticOf_52 : decode cX4_atticOf 52 = .ok (.iaload, 1) := dk_46 (dk_at dksX4_atticOf_2 8 rfl rfl)
theorem dX4_atticOf_53 : decode cX4_atticOf 53 = .ok (.ifCond .ne 7, 3) := dk_154 0 7 (dk_at dksX4_atticOf_2 9 rfl rfl)
theorem dX4_atticOf_56 : decode cX4_atticOf 56 = .ok (.iconst (-1), 1) := dk_2 (dk_at dksX4_atticOf_2 12 rfl rfl)
theorem dX4_atticOf_57 : decode cX4_atticOf 57 = .ok (.goto 13, 3) := dk_167 0 13 (dk_at dksX4_atticOf_2 13 rfl rfl)
theorem dX4_atticOf_60 : decode cX4_atticOf 60 = .ok (.aload_n 0, 1) := dk_42 (dk_at dksX4_atticOf_2 16 rfl rfl)
theorem dX4_atticOf_61 : decode cX4_atticOf 61 = .ok (.getfield 9, 3) := dk_180 0 9 (dk_at dksX4_atticOf_2 17 rfl rfl)
theorem dX4_atticOf_64 : decode cX4_atticOf 64 = .ok (.iload_n 1, 1) := dk_27 (dk_at dksX4_atticOf_2 20 rfl rfl)
theorem dX4_atticOf_65 : decode cX4_atticOf 65 = .ok (.iload_n 2, 1) := dk_28 (dk_at dksX4_atticOf_2 21 rfl rfl)
theorem dX4_atticOf_66 : decode cX4_atticOf 66 = .ok (.invokestatic 94, 3) := dk_184 0 94 (dk_at dksX4_atticOf_3 0 rfl rfl)
theorem dX4_atticOf_69 : decode cX4_atticOf 69 = .ok (.iaload, 1) := dk_46 (dk_at dksX4_atticOf_3 3 rfl rfl)
theorem dX4_atticOf_70 : decode cX4_atticOf 70 = .ok (.ireturn, 1) := dk_172 (dk_at dksX4_atticOf_3 4 rfl rfl)
abbrev cX4_mend : ByteArray := prog_14_method_66_code
def yX4_mend : MethodName := ⟨RX4, "mend", "(I)I"⟩
def dkwX4_mend_0 : List UInt8 := [42, 182, 0, 80, 42, 42, 27, 182, 0, 212, 182, 0, 87, 172]
abbrev dktX4_mend_0 : List UInt8 := dkwX4_mend_0 ++ []
theorem dksX4_mend_0 : cX4_mend.data.toList.drop 0 = dktX4_mend_0 := by decide +kernel
theorem dX4_mend_0 : decode cX4_mend 0 = .ok (.aload_n 0, 1) := dk_42 (dk_at dksX4_mend_0 0 rfl rfl)
theorem dX4_mend_1 : decode cX4_mend 1 = .ok (.invokevirtual 80, 3) := dk_182 0 80 (dk_at dksX4_mend_0 1 rfl rfl)
theorem dX4_mend_4 : decode cX4_mend 4 = .ok (.aload_n 0, 1) := dk_42 (dk_at dksX4_mend_0 4 rfl rfl)
theorem dX4_mend_5 : decode cX4_mend 5 = .ok (.aload_n 0, 1) := dk_42 (dk_at dksX4_mend_0 5 rfl rfl)
theorem dX4_mend_6 : decode cX4_mend 6 = .ok (.iload_n 1, 1) := dk_27 (dk_at dksX4_mend_0 6 rfl rfl)
theorem dX4_mend_7 : decode cX4_mend 7 = .ok (.invokevirtual 212, 3) := dk_182 0 212 (dk_at dksX4_mend_0 7 rfl rfl)
theorem dX4_mend_10 : decode cX4_mend 10 = .ok (.invokevirtual 87, 3) := dk_182 0 87 (dk_at dksX4_mend_0 10 rfl rfl)
theorem dX4_mend_13 : decode cX4_mend 13 = .ok (.ireturn, 1) := dk_172 (dk_at dksX4_mend_0 13 rfl rfl)
abbrev cX4_doMend : ByteArray := prog_14_method_65_code
def yX4_doMend : MethodName := ⟨RX4, "doMend", "(I)I"⟩
def dkwX4_doMend_9 : List UInt8 := [27, 104, 96, 8, 96, 4, 79, 42, 180, 0, 175, 172]
abbrev dktX4_doMend_9 : List UInt8 := dkwX4_doMend_9 ++ []
def dkwX4_doMend_8 : List UInt8 := [79, 42, 180, 0, 9, 16, 8, 92, 46, 42, 27, 182, 0, 206, 96, 79, 42, 180, 0, 9, 16, 96, 16, 6]
abbrev dktX4_doMend_8 : List UInt8 := dkwX4_doMend_8 ++ dktX4_doMend_9
def dkwX4_doMend_7 : List UInt8 := [42, 180, 0, 9, 16, 7, 92, 46, 28, 96, 79, 42, 180, 0, 9, 16, 6, 92, 46, 42, 180, 0, 175, 96]
abbrev dktX4_doMend_7 : List UInt8 := dkwX4_doMend_7 ++ dktX4_doMend_8
def dkwX4_doMend_6 : List UInt8 := [153, 0, 8, 42, 29, 182, 0, 114, 132, 3, 255, 167, 255, 195, 42, 180, 0, 9, 5, 92, 46, 28, 100, 79]
abbrev dktX4_doMend_6 : List UInt8 := dkwX4_doMend_6 ++ dktX4_doMend_7
def dkwX4_doMend_5 : List UInt8 := [21, 5, 46, 29, 160, 0, 7, 4, 167, 0, 4, 3, 54, 4, 132, 5, 1, 167, 255, 221, 21, 4]
abbrev dktX4_doMend_5 : List UInt8 := dkwX4_doMend_5 ++ dktX4_doMend_6
def dkwX4_doMend_4 : List UInt8 := [3, 54, 4, 3, 54, 5, 21, 5, 42, 180, 0, 175, 162, 0, 32, 21, 4, 154, 0, 14, 42, 180, 0, 29]
abbrev dktX4_doMend_4 : List UInt8 := dkwX4_doMend_4 ++ dktX4_doMend_5
def dkwX4_doMend_3 : List UInt8 := [42, 180, 0, 9, 5, 46, 100, 182, 0, 76, 172, 42, 180, 0, 9, 4, 46, 4, 100, 62, 29, 155, 0, 63]
abbrev dktX4_doMend_3 : List UInt8 := dkwX4_doMend_3 ++ dktX4_doMend_4
def dkwX4_doMend_2 : List UInt8 := [182, 0, 209, 172, 42, 182, 0, 202, 61, 28, 42, 180, 0, 9, 5, 46, 164, 0, 19, 42, 5, 16, 9, 28]
abbrev dktX4_doMend_2 : List UInt8 := dkwX4_doMend_2 ++ dktX4_doMend_3
def dkwX4_doMend_1 : List UInt8 := [42, 5, 8, 42, 27, 3, 182, 0, 152, 182, 0, 76, 172, 42, 27, 182, 0, 187, 154, 0, 9, 42, 27]
abbrev dktX4_doMend_1 : List UInt8 := dkwX4_doMend_1 ++ dktX4_doMend_2
def dkwX4_doMend_0 : List UInt8 := [42, 27, 182, 0, 181, 154, 0, 9, 42, 4, 182, 0, 72, 172, 42, 27, 8, 182, 0, 152, 4, 160, 0, 16]
abbrev dktX4_doMend_0 : List UInt8 := dkwX4_doMend_0 ++ dktX4_doMend_1
theorem dksX4_doMend_0 : cX4_doMend.data.toList.drop 0 = dktX4_doMend_0 := by decide +kernel
theorem dksX4_doMend_1 : cX4_doMend.data.toList.drop 24 = dktX4_doMend_1 := dk_seg dksX4_doMend_0 24 rfl rfl
theorem dksX4_doMend_2 : cX4_doMend.data.toList.drop 47 = dktX4_doMend_2 := dk_seg dksX4_doMend_1 23 rfl rfl
theorem dksX4_doMend_3 : cX4_doMend.data.toList.drop 71 = dktX4_doMend_3 := dk_seg dksX4_doMend_2 24 rfl rfl
theorem dksX4_doMend_4 : cX4_doMend.data.toList.drop 95 = dktX4_doMend_4 := dk_seg dksX4_doMend_3 24 rfl rfl
theorem dksX4_doMend_5 : cX4_doMend.data.toList.drop 119 = dktX4_doMend_5 := dk_seg dksX4_doMend_4 24 rfl rfl
theorem dksX4_doMend_6 : cX4_doMend.data.toList.drop 141 = dktX4_doMend_6 := dk_seg dksX4_doMend_5 22 rfl rfl
theorem dksX4_doMend_7 : cX4_doMend.data.toList.drop 165 = dktX4_doMend_7 := dk_seg dksX4_doMend_6 24 rfl rfl
theorem dksX4_doMend_8 : cX4_doMend.data.toList.drop 189 = dktX4_doMend_8 := dk_seg dksX4_doMend_7 24 rfl rfl
theorem dksX4_doMend_9 : cX4_doMend.data.toList.drop 213 = dktX4_doMend_9 := dk_seg dksX4_doMend_8 24 rfl rfl
theorem dX4_doMend_0 : decode cX4_doMend 0 = .ok (.aload_n 0, 1) := dk_42 (dk_at dksX4_doMend_0 0 rfl rfl)
theorem dX4_doMend_1 : decode cX4_doMend 1 = .ok (.iload_n 1, 1) := dk_27 (dk_at dksX4_doMend_0 1 rfl rfl)
theorem dX4_doMend_2 : decode cX4_doMend 2 = .ok (.invokevirtual 181, 3) := dk_182 0 181 (dk_at dksX4_doMend_0 2 rfl rfl)
theorem dX4_doMend_5 : decode cX4_doMend 5 = .ok (.ifCond .ne 9, 3) := dk_154 0 9 (dk_at dksX4_doMend_0 5 rfl rfl)
theorem dX4_doMend_8 : decode cX4_doMend 8 = .ok (.aload_n 0, 1) := dk_42 (dk_at dksX4_doMend_0 8 rfl rfl)
theorem dX4_doMend_9 : decode cX4_doMend 9 = .ok (.iconst 1, 1) := dk_4 (dk_at dksX4_doMend_0 9 rfl rfl)
theorem dX4_doMend_10 : decode cX4_doMend 10 = .ok (.invokevirtual 72, 3) := dk_182 0 72 (dk_at dksX4_doMend_0 10 rfl rfl)
theorem dX4_doMend_13 : decode cX4_doMend 13 = .ok (.ireturn, 1) := dk_172 (dk_at dksX4_doMend_0 13 rfl rfl)
theorem dX4_doMend_14 : decode cX4_doMend 14 = .ok (.aload_n 0, 1) := dk_42 (dk_at dksX4_doMend_0 14 rfl rfl)
theorem dX4_doMend_15 : decode cX4_doMend 15 = .ok (.iload_n 1, 1) := dk_27 (dk_at dksX4_doMend_0 15 rfl rfl)
theorem dX4_doMend_16 : decode cX4_doMend 16 = .ok (.iconst 5, 1) := dk_8 (dk_at dksX4_doMend_0 16 rfl rfl)
theorem dX4_doMend_17 : decode cX4_doMend 17 = .ok (.invokevirtual 152, 3) := dk_182 0 152 (dk_at dksX4_doMend_0 17 rfl rfl)
theorem dX4_doMend_20 : decode cX4_doMend 20 = .ok (.iconst 1, 1) := dk_4 (dk_at dksX4_doMend_0 20 rfl rfl)
theorem dX4_doMend_21 : decode cX4_doMend 21 = .ok (.if_icmp .ne 16, 3) := dk_160 0 16 (dk_at dksX4_doMend_0 21 rfl rfl)
theorem dX4_doMend_24 : decode cX4_doMend 24 = .ok (.aload_n 0, 1) := dk_42 (dk_at dksX4_doMend_1 0 rfl rfl)
theorem dX4_doMend_25 : decode cX4_doMend 25 = .ok (.iconst 2, 1) := dk_5 (dk_at dksX4_doMend_1 1 rfl rfl)
theorem dX4_doMend_26 : decode cX4_doMend 26 = .ok (.iconst 5, 1) := dk_8 (dk_at dksX4_doMend_1 2 rfl rfl)
theorem dX4_doMend_27 : decode cX4_doMend 27 = .ok (.aload_n 0, 1) := dk_42 (dk_at dksX4_doMend_1 3 rfl rfl)
theorem dX4_doMend_28 : decode cX4_doMend 28 = .ok (.iload_n 1, 1) := dk_27 (dk_at dksX4_doMend_1 4 rfl rfl)
theorem dX4_doMend_29 : decode cX4_doMend 29 = .ok (.iconst 0, 1) := dk_3 (dk_at dksX4_doMend_1 5 rfl rfl)
theorem dX4_doMend_30 : decode cX4_doMend 30 = .ok (.invokevirtual 152, 3) := dk_182 0 152 (dk_at dksX4_doMend_1 6 rfl rfl)
theorem dX4_doMend_33 : decode cX4_doMend 33 = .ok (.invokevirtual 76, 3) := dk_182 0 76 (dk_at dksX4_doMend_1 9 rfl rfl)
theorem dX4_doMend_36 : decode cX4_doMend 36 = .ok (.ireturn, 1) := dk_172 (dk_at dksX4_doMend_1 12 rfl rfl)
theorem dX4_doMend_37 : decode cX4_doMend 37 = .ok (.aload_n 0, 1) := dk_42 (dk_at dksX4_doMend_1 13 rfl rfl)
theorem dX4_doMend_38 : decode cX4_doMend 38 = .ok (.iload_n 1, 1) := dk_27 (dk_at dksX4_doMend_1 14 rfl rfl)
theorem dX4_doMend_39 : decode cX4_doMend 39 = .ok (.invokevirtual 187, 3) := dk_182 0 187 (dk_at dksX4_doMend_1 15 rfl rfl)
theorem dX4_doMend_42 : decode cX4_doMend 42 = .ok (.ifCond .ne 9, 3) := dk_154 0 9 (dk_at dksX4_doMend_1 18 rfl rfl)
theorem dX4_doMend_45 : decode cX4_doMend 45 = .ok (.aload_n 0, 1) := dk_42 (dk_at dksX4_doMend_1 21 rfl rfl)
theorem dX4_doMend_46 : decode cX4_doMend 46 = .ok (.iload_n 1, 1) := dk_27 (dk_at dksX4_doMend_1 22 rfl rfl)
theorem dX4_doMend_47 : decode cX4_doMend 47 = .ok (.invokevirtual 209, 3) := dk_182 0 209 (dk_at dksX4_doMend_2 0 rfl rfl)
theorem dX4_doMend_50 : decode cX4_doMend 50 = .ok (.ireturn, 1) := dk_172 (dk_at dksX4_doMend_2 3 rfl rfl)
theorem dX4_doMend_51 : decode cX4_doMend 51 = .ok (.aload_n 0, 1) := dk_42 (dk_at dksX4_doMend_2 4 rfl rfl)
theorem dX4_doMend_52 : decode cX4_doMend 52 = .ok (.invokevirtual 202, 3) := dk_182 0 202 (dk_at dksX4_doMend_2 5 rfl rfl)
theorem dX4_doMend_55 : decode cX4_doMend 55 = .ok (.istore_n 2, 1) := dk_61 (dk_at dksX4_doMend_2 8 rfl rfl)
theorem dX4_doMend_56 : decode cX4_doMend 56 = .ok (.iload_n 2, 1) := dk_28 (dk_at dksX4_doMend_2 9 rfl rfl)
theorem dX4_doMend_57 : decode cX4_doMend 57 = .ok (.aload_n 0, 1) := dk_42 (dk_at dksX4_doMend_2 10 rfl rfl)
theorem dX4_doMend_58 : decode cX4_doMend 58 = .ok (.getfield 9, 3) := dk_180 0 9 (dk_at dksX4_doMend_2 11 rfl rfl)
theorem dX4_doMend_61 : decode cX4_doMend 61 = .ok (.iconst 2, 1) := dk_5 (dk_at dksX4_doMend_2 14 rfl rfl)
theorem dX4_doMend_62 : decode cX4_doMend 62 = .ok (.iaload, 1) := dk_46 (dk_at dksX4_doMend_2 15 rfl rfl)
theorem dX4_doMend_63 : decode cX4_doMend 63 = .ok (.if_icmp .le 19, 3) := dk_164 0 19 (dk_at dksX4_doMend_2 16 rfl rfl)
theorem dX4_doMend_66 : decode cX4_doMend 66 = .ok (.aload_n 0, 1) := dk_42 (dk_at dksX4_doMend_2 19 rfl rfl)
theorem dX4_doMend_67 : decode cX4_doMend 67 = .ok (.iconst 2, 1) := dk_5 (dk_at dksX4_doMend_2 20 rfl rfl)
theorem dX4_doMend_68 : decode cX4_doMend 68 = .ok (.bipush 9, 2) := dk_16 9 (dk_at dksX4_doMend_2 21 rfl rfl)
theorem dX4_doMend_70 : decode cX4_doMend 70 = .ok (.iload_n 2, 1) := dk_28 (dk_at dksX4_doMend_2 23 rfl rfl)
theorem dX4_doMend_71 : decode cX4_doMend 71 = .ok (.aload_n 0, 1) := dk_42 (dk_at dksX4_doMend_3 0 rfl rfl)
theorem dX4_doMend_72 : decode cX4_doMend 72 = .ok (.getfield 9, 3) := dk_180 0 9 (dk_at dksX4_doMend_3 1 rfl rfl)
theorem dX4_doMend_75 : decode cX4_doMend 75 = .ok (.iconst 2, 1) := dk_5 (dk_at dksX4_doMend_3 4 rfl rfl)
theorem dX4_doMend_76 : decode cX4_doMend 76 = .ok (.iaload, 1) := dk_46 (dk_at dksX4_doMend_3 5 rfl rfl)
theorem dX4_doMend_77 : decode cX4_doMend 77 = .ok (.isub, 1) := dk_100 (dk_at dksX4_doMend_3 6 rfl rfl)
theorem dX4_doMend_78 : decode cX4_doMend 78 = .ok (.invokevirtual 76, 3) := dk_182 0 76 (dk_at dksX4_doMend_3 7 rfl rfl)
theorem dX4_doMend_81 : decode cX4_doMend 81 = .ok (.ireturn, 1) := dk_172 (dk_at dksX4_doMend_3 10 rfl rfl)
theorem dX4_doMend_82 : decode cX4_doMend 82 = .ok (.aload_n 0, 1) := dk_42 (dk_at dksX4_doMend_3 11 rfl rfl)
theorem dX4_doMend_83 : decode cX4_doMend 83 = .ok (.getfield 9, 3) := dk_180 0 9 (dk_at dksX4_doMend_3 12 rfl rfl)
theorem dX4_doMend_86 : decode cX4_doMend 86 = .ok (.iconst 1, 1) := dk_4 (dk_at dksX4_doMend_3 15 rfl rfl)
theorem dX4_doMend_87 : decode cX4_doMend 87 = .ok (.iaload, 1) := dk_46 (dk_at dksX4_doMend_3 16 rfl rfl)
theorem dX4_doMend_88 : decode cX4_doMend 88 = .ok (.iconst 1, 1) := dk_4 (dk_at dksX4_doMend_3 17 rfl rfl)
theorem dX4_doMend_89 : decode cX4_doMend 89 = .ok (.isub, 1) := dk_100 (dk_at dksX4_doMend_3 18 rfl rfl)
theorem dX4_doMend_90 : decode cX4_doMend 90 = .ok (.istore_n 3, 1) := dk_62 (dk_at dksX4_doMend_3 19 rfl rfl)
theorem dX4_doMend_91 : decode cX4_doMend 91 = .ok (.iload_n 3, 1) := dk_29 (dk_at dksX4_doMend_3 20 rfl rfl)
theorem dX4_doMend_92 : decode cX4_doMend 92 = .ok (.ifCond .lt 63, 3) := dk_155 0 63 (dk_at dksX4_doMend_3 21 rfl rfl)
theorem dX4_doMend_95 : decode cX4_doMend 95 = .ok (.iconst 0, 1) := dk_3 (dk_at dksX4_doMend_4 0 rfl rfl)
theorem dX4_doMend_96 : decode cX4_doMend 96 = .ok (.istore 4, 2) := dk_54 4 (dk_at dksX4_doMend_4 1 rfl rfl)
theorem dX4_doMend_98 : decode cX4_doMend 98 = .ok (.iconst 0, 1) := dk_3 (dk_at dksX4_doMend_4 3 rfl rfl)
theorem dX4_doMend_99 : decode cX4_doMend 99 = .ok (.istore 5, 2) := dk_54 5 (dk_at dksX4_doMend_4 4 rfl rfl)
theorem dX4_doMend_101 : decode cX4_doMend 101 = .ok (.iload 5, 2) := dk_21 5 (dk_at dksX4_doMend_4 6 rfl rfl)
theorem dX4_doMend_103 : decode cX4_doMend 103 = .ok (.aload_n 0, 1) := dk_42 (dk_at dksX4_doMend_4 8 rfl rfl)
theorem dX4_doMend_104 : decode cX4_doMend 104 = .ok (.getfield 175, 3) := dk_180 0 175 (dk_at dksX4_doMend_4 9 rfl rfl)
theorem dX4_doMend_107 : decode cX4_doMend 107 = .ok (.if_icmp .ge 32, 3) := dk_162 0 32 (dk_at dksX4_doMend_4 12 rfl rfl)
theorem dX4_doMend_110 : decode cX4_doMend 110 = .ok (.iload 4, 2) := dk_21 4 (dk_at dksX4_doMend_4 15 rfl rfl)
theorem dX4_doMend_112 : decode cX4_doMend 112 = .ok (.ifCond .ne 14, 3) := dk_154 0 14 (dk_at dksX4_doMend_4 17 rfl rfl)
theorem dX4_doMend_115 : decode cX4_doMend 115 = .ok (.aload_n 0, 1) := dk_42 (dk_at dksX4_doMend_4 20 rfl rfl)
theorem dX4_doMend_116 : decode cX4_doMend 116 = .ok (.getfield 29, 3) := dk_180 0 29 (dk_at dksX4_doMend_4 21 rfl rfl)
theorem dX4_doMend_119 : decode cX4_doMend 119 = .ok (.iload 5, 2) := dk_21 5 (dk_at dksX4_doMend_5 0 rfl rfl)
theorem dX4_doMend_121 : decode cX4_doMend 121 = .ok (.iaload, 1) := dk_46 (dk_at dksX4_doMend_5 2 rfl rfl)
theorem dX4_doMend_122 : decode cX4_doMend 122 = .ok (.iload_n 3, 1) := dk_29 (dk_at dksX4_doMend_5 3 rfl rfl)
theorem dX4_doMend_123 : decode cX4_doMend 123 = .ok (.if_icmp .ne 7, 3) := dk_160 0 7 (dk_at dksX4_doMend_5 4 rfl rfl)
theorem dX4_doMend_126 : decode cX4_doMend 126 = .ok (.iconst 1, 1) := dk_4 (dk_at dksX4_doMend_5 7 rfl rfl)
theorem dX4_doMend_127 : decode cX4_doMend 127 = .ok (.goto 4, 3) := dk_167 0 4 (dk_at dksX4_doMend_5 8 rfl rfl)
theorem dX4_doMend_130 : decode cX4_doMend 130 = .ok (.iconst 0, 1) := dk_3 (dk_at dksX4_doMend_5 11 rfl rfl)
theorem dX4_doMend_131 : decode cX4_doMend 131 = .ok (.istore 4, 2) := dk_54 4 (dk_at dksX4_doMend_5 12 rfl rfl)
theorem dX4_doMend_133 : decode cX4_doMend 133 = .ok (.iinc 5 1, 3) := dk_132 5 1 (dk_at dksX4_doMend_5 14 rfl rfl)
theorem dX4_doMend_136 : decode cX4_doMend 136 = .ok (.goto (-35), 3) := dk_167 255 221 (dk_at dksX4_doMend_5 17 rfl rfl)
theorem dX4_doMend_139 : decode cX4_doMend 139 = .ok (.iload 4, 2) := dk_21 4 (dk_at dksX4_doMend_5 20 rfl rfl)
theorem dX4_doMend_141 : decode cX4_doMend 141 = .ok (.ifCond .eq 8, 3) := dk_153 0 8 (dk_at dksX4_doMend_6 0 rfl rfl)
theorem dX4_doMend_144 : decode cX4_doMend 144 = .ok (.aload_n 0, 1) := dk_42 (dk_at dksX4_doMend_6 3 rfl rfl)
theorem dX4_doMend_145 : decode cX4_doMend 145 = .ok (.iload_n 3, 1) := dk_29 (dk_at dksX4_doMend_6 4 rfl rfl)
theorem dX4_doMend_146 : decode cX4_doMend 146 = .ok (.invokevirtual 114, 3) := dk_182 0 114 (dk_at dksX4_doMend_6 5 rfl rfl)
theorem dX4_doMend_149 : decode cX4_doMend 149 = .ok (.iinc 3 (-1), 3) := dk_132 3 255 (dk_at dksX4_doMend_6 8 rfl rfl)
theorem dX4_doMend_152 : decode cX4_doMend 152 = .ok (.goto (-61), 3) := dk_167 255 195 (dk_at dksX4_doMend_6 11 rfl rfl)
theorem dX4_doMend_155 : decode cX4_doMend 155 = .ok (.aload_n 0, 1) := dk_42 (dk_at dksX4_doMend_6 14 rfl rfl)
theorem dX4_doMend_156 : decode cX4_doMend 156 = .ok (.getfield 9, 3) := dk_180 0 9 (dk_at dksX4_doMend_6 15 rfl rfl)
theorem dX4_doMend_159 : decode cX4_doMend 159 = .ok (.iconst 2, 1) := dk_5 (dk_at dksX4_doMend_6 18 rfl rfl)
theorem dX4_doMend_160 : decode cX4_doMend 160 = .ok (.dup2, 1) := dk_92 (dk_at dksX4_doMend_6 19 rfl rfl)
theorem dX4_doMend_161 : decode cX4_doMend 161 = .ok (.iaload, 1) := dk_46 (dk_at dksX4_doMend_6 20 rfl rfl)
theorem dX4_doMend_162 : decode cX4_doMend 162 = .ok (.iload_n 2, 1) := dk_28 (dk_at dksX4_doMend_6 21 rfl rfl)
theorem dX4_doMend_163 : decode cX4_doMend 163 = .ok (.isub, 1) := dk_100 (dk_at dksX4_doMend_6 22 rfl rfl)
theorem dX4_doMend_164 : decode cX4_doMend 164 = .ok (.iastore, 1) := dk_79 (dk_at dksX4_doMend_6 23 rfl rfl)
theorem dX4_doMend_165 : decode cX4_doMend 165 = .ok (.aload_n 0, 1) := dk_42 (dk_at dksX4_doMend_7 0 rfl rfl)
theorem dX4_doMend_166 : decode cX4_doMend 166 = .ok (.getfield 9, 3) := dk_180 0 9 (dk_at dksX4_doMend_7 1 rfl rfl)
theorem dX4_doMend_169 : decode cX4_doMend 169 = .ok (.bipush 7, 2) := dk_16 7 (dk_at dksX4_doMend_7 4 rfl rfl)
theorem dX4_doMend_171 : decode cX4_doMend 171 = .ok (.dup2, 1) := dk_92 (dk_at dksX4_doMend_7 6 rfl rfl)
theorem dX4_doMend_172 : decode cX4_doMend 172 = .ok (.iaload, 1) := dk_46 (dk_at dksX4_doMend_7 7 rfl rfl)
theorem dX4_doMend_173 : decode cX4_doMend 173 = .ok (.iload_n 2, 1) := dk_28 (dk_at dksX4_doMend_7 8 rfl rfl)
theorem dX4_doMend_174 : decode cX4_doMend 174 = .ok (.iadd, 1) := dk_96 (dk_at dksX4_doMend_7 9 rfl rfl)
theorem dX4_doMend_175 : decode cX4_doMend 175 = .ok (.iastore, 1) := dk_79 (dk_at dksX4_doMend_7 10 rfl rfl)
theorem dX4_doMend_176 : decode cX4_doMend 176 = .ok (.aload_n 0, 1) := dk_42 (dk_at dksX4_doMend_7 11 rfl rfl)
theorem dX4_doMend_177 : decode cX4_doMend 177 = .ok (.getfield 9, 3) := dk_180 0 9 (dk_at dksX4_doMend_7 12 rfl rfl)
theorem dX4_doMend_180 : decode cX4_doMend 180 = .ok (.bipush 6, 2) := dk_16 6 (dk_at dksX4_doMend_7 15 rfl rfl)
theorem dX4_doMend_182 : decode cX4_doMend 182 = .ok (.dup2, 1) := dk_92 (dk_at dksX4_doMend_7 17 rfl rfl)
theorem dX4_doMend_183 : decode cX4_doMend 183 = .ok (.iaload, 1) := dk_46 (dk_at dksX4_doMend_7 18 rfl rfl)
theorem dX4_doMend_184 : decode cX4_doMend 184 = .ok (.aload_n 0, 1) := dk_42 (dk_at dksX4_doMend_7 19 rfl rfl)
theorem dX4_doMend_185 : decode cX4_doMend 185 = .ok (.getfield 175, 3) := dk_180 0 175 (dk_at dksX4_doMend_7 20 rfl rfl)
theorem dX4_doMend_188 : decode cX4_doMend 188 = .ok (.iadd, 1) := dk_96 (dk_at dksX4_doMend_7 23 rfl rfl)
theorem dX4_doMend_189 : decode cX4_doMend 189 = .ok (.iastore, 1) := dk_79 (dk_at dksX4_doMend_8 0 rfl rfl)
theorem dX4_doMend_190 : decode cX4_doMend 190 = .ok (.aload_n 0, 1) := dk_42 (dk_at dksX4_doMend_8 1 rfl rfl)
theorem dX4_doMend_191 : decode cX4_doMend 191 = .ok (.getfield 9, 3) := dk_180 0 9 (dk_at dksX4_doMend_8 2 rfl rfl)
theorem dX4_doMend_194 : decode cX4_doMend 194 = .ok (.bipush 8, 2) := dk_16 8 (dk_at dksX4_doMend_8 5 rfl rfl)
theorem dX4_doMend_196 : decode cX4_doMend 196 = .ok (.dup2, 1) := dk_92 (dk_at dksX4_doMend_8 7 rfl rfl)
theorem dX4_doMend_197 : decode cX4_doMend 197 = .ok (.iaload, 1) := dk_46 (dk_at dksX4_doMend_8 8 rfl rfl)
theorem dX4_doMend_198 : decode cX4_doMend 198 = .ok (.aload_n 0, 1) := dk_42 (dk_at dksX4_doMend_8 9 rfl rfl)
theorem dX4_doMend_199 : decode cX4_doMend 199 = .ok (.iload_n 1, 1) := dk_27 (dk_at dksX4_doMend_8 10 rfl rfl)
theorem dX4_doMend_200 : decode cX4_doMend 200 = .ok (.invokevirtual 206, 3) := dk_182 0 206 (dk_at dksX4_doMend_8 11 rfl rfl)
theorem dX4_doMend_203 : decode cX4_doMend 203 = .ok (.iadd, 1) := dk_96 (dk_at dksX4_doMend_8 14 rfl rfl)
theorem dX4_doMend_204 : decode cX4_doMend 204 = .ok (.iastore, 1) := dk_79 (dk_at dksX4_doMend_8 15 rfl rfl)
theorem dX4_doMend_205 : decode cX4_doMend 205 = .ok (.aload_n 0, 1) := dk_42 (dk_at dksX4_doMend_8 16 rfl rfl)
theorem dX4_doMend_206 : decode cX4_doMend 206 = .ok (.getfield 9, 3) := dk_180 0 9 (dk_at dksX4_doMend_8 17 rfl rfl)
theorem dX4_doMend_209 : decode cX4_doMend 209 = .ok (.bipush 96, 2) := dk_16 96 (dk_at dksX4_doMend_8 20 rfl rfl)
theorem dX4_doMend_211 : decode cX4_doMend 211 = .ok (.bipush 6, 2) := dk_16 6 (dk_at dksX4_doMend_8 22 rfl rfl)
theorem dX4_doMend_213 : decode cX4_doMend 213 = .ok (.iload_n 1, 1) := dk_27 (dk_at dksX4_doMend_9 0 rfl rfl)
theorem dX4_doMend_214 : decode cX4_doMend 214 = .ok (.imul, 1) := dk_104 (dk_at dksX4_doMend_9 1 rfl rfl)
theorem dX4_doMend_215 : decode cX4_doMend 215 = .ok (.iadd, 1) := dk_96 (dk_at dksX4_doMend_9 2 rfl rfl)
theorem dX4_doMend_216 : decode cX4_doMend 216 = .ok (.iconst 5, 1) := dk_8 (dk_at dksX4_doMend_9 3 rfl rfl)
theorem dX4_doMend_217 : decode cX4_doMend 217 = .ok (.iadd, 1) := dk_96 (dk_at dksX4_doMend_9 4 rfl rfl)
theorem dX4_doMend_218 : decode cX4_doMend 218 = .ok (.iconst 1, 1) := dk_4 (dk_at dksX4_doMend_9 5 rfl rfl)
theorem dX4_doMend_219 : decode cX4_doMend 219 = .ok (.iastore, 1) := dk_79 (dk_at dksX4_doMend_9 6 rfl rfl)
theorem dX4_doMend_220 : decode cX4_doMend 220 = .ok (.aload_n 0, 1) := dk_42 (dk_at dksX4_doMend_9 7 rfl rfl)
theorem dX4_doMend_221 : decode cX4_doMend 221 = .ok (.getfield 175, 3) := dk_180 0 175 (dk_at dksX4_doMend_9 8 rfl rfl)
theorem dX4_doMend_224 : decode cX4_doMend 224 = .ok (.ireturn, 1) := dk_172 (dk_at dksX4_doMend_9 11 rfl rfl)
abbrev cX4_refuseChain : ByteArray := prog_14_method_64_code
def yX4_refuseChain : MethodName := ⟨RX4, "refuseChain", "(I)I"⟩
def dkwX4_refuseChain_3 : List UInt8 := [182, 0, 152, 182, 0, 190, 79, 28, 172]
abbrev dktX4_refuseChain_3 : List UInt8 := dkwX4_refuseChain_3 ++ []
def dkwX4_refuseChain_2 : List UInt8 := [180, 0, 22, 6, 29, 158, 0, 7, 29, 167, 0, 20, 42, 27, 42, 27, 4, 182, 0, 152, 42, 27, 6]
abbrev dktX4_refuseChain_2 : List UInt8 := dkwX4_refuseChain_2 ++ dktX4_refuseChain_3
def dkwX4_refuseChain_1 : List UInt8 := [42, 3, 182, 0, 171, 42, 180, 0, 22, 5, 29, 158, 0, 8, 16, 7, 167, 0, 5, 16, 8, 79, 42]
abbrev dktX4_refuseChain_1 : List UInt8 := dkwX4_refuseChain_1 ++ dktX4_refuseChain_2
def dkwX4_refuseChain_0 : List UInt8 := [42, 5, 16, 6, 42, 27, 182, 0, 206, 182, 0, 76, 61, 42, 4, 182, 0, 171, 42, 27, 182, 0, 184, 62]
abbrev dktX4_refuseChain_0 : List UInt8 := dkwX4_refuseChain_0 ++ dktX4_refuseChain_1
theorem dksX4_refuseChain_0 : cX4_refuseChain.data.toList.drop 0 = dktX4_refuseChain_0 := by decide +kernel
theorem dksX4_refuseChain_1 : cX4_refuseChain.data.toList.drop 24 = dktX4_refuseChain_1 := dk_seg dksX4_refuseChain_0 24 rfl rfl
theorem dksX4_refuseChain_2 : cX4_refuseChain.data.toList.drop 47 = dktX4_refuseChain_2 := dk_seg dksX4_refuseChain_1 23 rfl rfl
theorem dksX4_refuseChain_3 : cX4_refuseChain.data.toList.drop 70 = dktX4_refuseChain_3 := dk_seg dksX4_refuseChain_2 23 rfl rfl
theorem dX4_refuseChain_0 : decode cX4_refuseChain 0 = .ok (.aload_n 0, 1) := dk_42 (dk_at dksX4_refuseChain_0 0 rfl rfl)
theorem dX4_refuseChain_1 : decode cX4_refuseChain 1 = .ok (.iconst 2, 1) := dk_5 (dk_at dksX4_refuseChain_0 1 rfl rfl)
theorem dX4_refuseChain_2 : decode cX4_refuseChain 2 = .ok (.bipush 6, 2) := dk_16 6 (dk_at dksX4_refuseChain_0 2 rfl rfl)
theorem dX4_refuseChain_4 : decode cX4_refuseChain 4 = .ok (.aload_n 0, 1) := dk_42 (dk_at dksX4_refuseChain_0 4 rfl rfl)
theorem dX4_refuseChain_5 : decode cX4_refuseChain 5 = .ok (.iload_n 1, 1) := dk_27 (dk_at dksX4_refuseChain_0 5 rfl rfl)
theorem dX4_refuseChain_6 : decode cX4_refuseChain 6 = .ok (.invokevirtual 206, 3) := dk_182 0 206 (dk_at dksX4_refuseChain_0 6 rfl rfl)
theorem dX4_refuseChain_9 : decode cX4_refuseChain 9 = .ok (.invokevirtual 76, 3) := dk_182 0 76 (dk_at dksX4_refuseChain_0 9 rfl rfl)
theorem dX4_refuseChain_12 : decode cX4_refuseChain 12 = .ok (.istore_n 2, 1) := dk_61 (dk_at dksX4_refuseChain_0 12 rfl rfl)
theorem dX4_refuseChain_13 : decode cX4_refuseChain 13 = .ok (.aload_n 0, 1) := dk_42 (dk_at dksX4_refuseChain_0 13 rfl rfl)
theorem dX4_refuseChain_14 : decode cX4_refuseChain 14 = .ok (.iconst 1, 1) := dk_4 (dk_at dksX4_refuseChain_0 14 rfl rfl)
theorem dX4_refuseChain_15 : decode cX4_refuseChain 15 = .ok (.invokevirtual 171, 3) := dk_182 0 171 (dk_at dksX4_refuseChain_0 15 rfl rfl)
theorem dX4_refuseChain_18 : decode cX4_refuseChain 18 = .ok (.aload_n 0, 1) := dk_42 (dk_at dksX4_refuseChain_0 18 rfl rfl)
theorem dX4_refuseChain_19 : decode cX4_refuseChain 19 = .ok (.iload_n 1, 1) := dk_27 (dk_at dksX4_refuseChain_0 19 rfl rfl)
theorem dX4_refuseChain_20 : decode cX4_refuseChain 20 = .ok (.invokevirtual 184, 3) := dk_182 0 184 (dk_at dksX4_refuseChain_0 20 rfl rfl)
theorem dX4_refuseChain_23 : decode cX4_refuseChain 23 = .ok (.istore_n 3, 1) := dk_62 (dk_at dksX4_refuseChain_0 23 rfl rfl)
theorem dX4_refuseChain_24 : decode cX4_refuseChain 24 = .ok (.aload_n 0, 1) := dk_42 (dk_at dksX4_refuseChain_1 0 rfl rfl)
theorem dX4_refuseChain_25 : decode cX4_refuseChain 25 = .ok (.iconst 0, 1) := dk_3 (dk_at dksX4_refuseChain_1 1 rfl rfl)
theorem dX4_refuseChain_26 : decode cX4_refuseChain 26 = .ok (.invokevirtual 171, 3) := dk_182 0 171 (dk_at dksX4_refuseChain_1 2 rfl rfl)
theorem dX4_refuseChain_29 : decode cX4_refuseChain 29 = .ok (.aload_n 0, 1) := dk_42 (dk_at dksX4_refuseChain_1 5 rfl rfl)
theorem dX4_refuseChain_30 : decode cX4_refuseChain 30 = .ok (.getfield 22, 3) := dk_180 0 22 (dk_at dksX4_refuseChain_1 6 rfl rfl)
theorem dX4_refuseChain_33 : decode cX4_refuseChain 33 = .ok (.iconst 2, 1) := dk_5 (dk_at dksX4_refuseChain_1 9 rfl rfl)
theorem dX4_refuseChain_34 : decode cX4_refuseChain 34 = .ok (.iload_n 3, 1) := dk_29 (dk_at dksX4_refuseChain_1 10 rfl rfl)
theorem dX4_refuseChain_35 : decode cX4_refuseChain 35 = .ok (.ifCond .le 8, 3) := dk_158 0 8 (dk_at dksX4_refuseChain_1 11 rfl rfl)
theorem dX4_refuseChain_38 : decode cX4_refuseChain 38 = .ok (.bipush 7, 2) := dk_16 7 (dk_at dksX4_refuseChain_1 14 rfl rfl)
theorem dX4_refuseChain_40 : decode cX4_refuseChain 40 = .ok (.goto 5, 3) := dk_167 0 5 (dk_at dksX4_refuseChain_1 16 rfl rfl)
theorem dX4_refuseChain_43 : decode cX4_refuseChain 43 = .ok (.bipush 8, 2) := dk_16 8 (dk_at dksX4_refuseChain_1 19 rfl rfl)
theorem dX4_refuseChain_45 : decode cX4_refuseChain 45 = .ok (.iastore, 1) := dk_79 (dk_at dksX4_refuseChain_1 21 rfl rfl)
theorem dX4_refuseChain_46 : decode cX4_refuseChain 46 = .ok (.aload_n 0, 1) := dk_42 (dk_at dksX4_refuseChain_1 22 rfl rfl)
theorem dX4_refuseChain_47 : decode cX4_refuseChain 47 = .ok (.getfield 22, 3) := dk_180 0 22 (dk_at dksX4_refuseChain_2 0 rfl rfl)
theorem dX4_refuseChain_50 : decode cX4_refuseChain 50 = .ok (.iconst 3, 1) := dk_6 (dk_at dksX4_refuseChain_2 3 rfl rfl)
theorem dX4_refuseChain_51 : decode cX4_refuseChain 51 = .ok (.iload_n 3, 1) := dk_29 (dk_at dksX4_refuseChain_2 4 rfl rfl)
theorem dX4_refuseChain_52 : decode cX4_refuseChain 52 = .ok (.ifCond .le 7, 3) := dk_158 0 7 (dk_at dksX4_refuseChain_2 5 rfl rfl)
theorem dX4_refuseChain_55 : decode cX4_refuseChain 55 = .ok (.iload_n 3, 1) := dk_29 (dk_at dksX4_refuseChain_2 8 rfl rfl)
theorem dX4_refuseChain_56 : decode cX4_refuseChain 56 = .ok (.goto 20, 3) := dk_167 0 20 (dk_at dksX4_refuseChain_2 9 rfl rfl)
theorem dX4_refuseChain_59 : decode cX4_refuseChain 59 = .ok (.aload_n 0, 1) := dk_42 (dk_at dksX4_refuseChain_2 12 rfl rfl)
theorem dX4_refuseChain_60 : decode cX4_refuseChain 60 = .ok (.iload_n 1, 1) := dk_27 (dk_at dksX4_refuseChain_2 13 rfl rfl)
theorem dX4_refuseChain_61 : decode cX4_refuseChain 61 = .ok (.aload_n 0, 1) := dk_42 (dk_at dksX4_refuseChain_2 14 rfl rfl)
theorem dX4_refuseChain_62 : decode cX4_refuseChain 62 = .ok (.iload_n 1, 1) := dk_27 (dk_at dksX4_refuseChain_2 15 rfl rfl)
theorem dX4_refuseChain_63 : decode cX4_refuseChain 63 = .ok (.iconst 1, 1) := dk_4 (dk_at dksX4_refuseChain_2 16 rfl rfl)
theorem dX4_refuseChain_64 : decode cX4_refuseChain 64 = .ok (.invokevirtual 152, 3) := dk_182 0 152 (dk_at dksX4_refuseChain_2 17 rfl rfl)
theorem dX4_refuseChain_67 : decode cX4_refuseChain 67 = .ok (.aload_n 0, 1) := dk_42 (dk_at dksX4_refuseChain_2 20 rfl rfl)
theorem dX4_refuseChain_68 : decode cX4_refuseChain 68 = .ok (.iload_n 1, 1) := dk_27 (dk_at dksX4_refuseChain_2 21 rfl rfl)
theorem dX4_refuseChain_69 : decode cX4_refuseChain 69 = .ok (.iconst 3, 1) := dk_6 (dk_at dksX4_refuseChain_2 22 rfl rfl)
theorem dX4_refuseChain_70 : decode cX4_refuseChain 70 = .ok (.invokevirtual 152, 3) := dk_182 0 152 (dk_at dksX4_refuseChain_3 0 rfl rfl)
theorem dX4_refuseChain_73 : decode cX4_refuseChain 73 = .ok (.invokevirtual 190, 3) := dk_182 0 190 (dk_at dksX4_refuseChain_3 3 rfl rfl)
theorem dX4_refuseChain_76 : decode cX4_refuseChain 76 = .ok (.iastore, 1) := dk_79 (dk_at dksX4_refuseChain_3 6 rfl rfl)
theorem dX4_refuseChain_77 : decode cX4_refuseChain 77 = .ok (.iload_n 2, 1) := dk_28 (dk_at dksX4_refuseChain_3 7 rfl rfl)
theorem dX4_refuseChain_78 : decode cX4_refuseChain 78 = .ok (.ireturn, 1) := dk_172 (dk_at dksX4_refuseChain_3 8 rfl rfl)
abbrev cX4_missing : ByteArray := prog_14_method_63_code
def yX4_missing : MethodName := ⟨RX4, "missing", "(I)I"⟩
def dkwX4_missing_0 : List UInt8 := [42, 27, 5, 182, 0, 152, 42, 27, 4, 182, 0, 152, 100, 4, 96, 172]
abbrev dktX4_missing_0 : List UInt8 := dkwX4_missing_0 ++ []
theorem dksX4_missing_0 : cX4_missing.data.toList.drop 0 = dktX4_missing_0 := by decide +kernel
theorem dX4_missing_0 : decode cX4_missing 0 = .ok (.aload_n 0, 1) := dk_42 (dk_at dksX4_missing_0 0 rfl rfl)
theorem dX4_missing_1 : decode cX4_missing 1 = .ok (.iload_n 1, 1) := dk_27 (dk_at dksX4_missing_0 1 rfl rfl)
theorem dX4_missing_2 : decode cX4_missing 2 = .ok (.iconst 2, 1) := dk_5 (dk_at dksX4_missing_0 2 rfl rfl)
theorem dX4_missing_3 : decode cX4_missing 3 = .ok (.invokevirtual 152, 3) := dk_182 0 152 (dk_at dksX4_missing_0 3 rfl rfl)
theorem dX4_missing_6 : decode cX4_missing 6 = .ok (.aload_n 0, 1) := dk_42 (dk_at dksX4_missing_0 6 rfl rfl)
theorem dX4_missing_7 : decode cX4_missing 7 = .ok (.iload_n 1, 1) := dk_27 (dk_at dksX4_missing_0 7 rfl rfl)
theorem dX4_missing_8 : decode cX4_missing 8 = .ok (.iconst 1, 1) := dk_4 (dk_at dksX4_missing_0 8 rfl rfl)
theorem dX4_missing_9 : decode cX4_missing 9 = .ok (.invokevirtual 152, 3) := dk_182 0 152 (dk_at dksX4_missing_0 9 rfl rfl)
theorem dX4_missing_12 : decode cX4_missing 12 = .ok (.isub, 1) := dk_100 (dk_at dksX4_missing_0 12 rfl rfl)
theorem dX4_missing_13 : decode cX4_missing 13 = .ok (.iconst 1, 1) := dk_4 (dk_at dksX4_missing_0 13 rfl rfl)
theorem dX4_missing_14 : decode cX4_missing 14 = .ok (.iadd, 1) := dk_96 (dk_at dksX4_missing_0 14 rfl rfl)
theorem dX4_missing_15 : decode cX4_missing 15 = .ok (.ireturn, 1) := dk_172 (dk_at dksX4_missing_0 15 rfl rfl)
abbrev cX4_earn : ByteArray := prog_14_method_68_code
def yX4_earn : MethodName := ⟨RX4, "earn", "(I)I"⟩
def dkwX4_earn_0 : List UInt8 := [42, 182, 0, 80, 42, 42, 27, 182, 0, 215, 182, 0, 87, 172]
abbrev dktX4_earn_0 : List UInt8 := dkwX4_earn_0 ++ []
theorem dksX4_earn_0 : cX4_earn.data.toList.drop 0 = dktX4_earn_0 := by decide +kernel
theorem dX4_earn_0 : decode cX4_earn 0 = .ok (.aload_n 0, 1) := dk_42 (dk_at dksX4_earn_0 0 rfl rfl)
theorem dX4_earn_1 : decode cX4_earn 1 = .ok (.invokevirtual 80, 3) := dk_182 0 80 (dk_at dksX4_earn_0 1 rfl rfl)
theorem dX4_earn_4 : decode cX4_earn 4 = .ok (.aload_n 0, 1) := dk_42 (dk_at dksX4_earn_0 4 rfl rfl)
theorem dX4_earn_5 : decode cX4_earn 5 = .ok (.aload_n 0, 1) := dk_42 (dk_at dksX4_earn_0 5 rfl rfl)
theorem dX4_earn_6 : decode cX4_earn 6 = .ok (.iload_n 1, 1) := dk_27 (dk_at dksX4_earn_0 6 rfl rfl)
theorem dX4_earn_7 : decode cX4_earn 7 = .ok (.invokevirtual 215, 3) := dk_182 0 215 (dk_at dksX4_earn_0 7 rfl rfl)
theorem dX4_earn_10 : decode cX4_earn 10 = .ok (.invokevirtual 87, 3) := dk_182 0 87 (dk_at dksX4_earn_0 10 rfl rfl)
theorem dX4_earn_13 : decode cX4_earn 13 = .ok (.ireturn, 1) := dk_172 (dk_at dksX4_earn_0 13 rfl rfl)
abbrev cX4_doEarn : ByteArray := prog_14_method_67_code
def yX4_doEarn : MethodName := ⟨RX4, "doEarn", "(I)I"⟩
def dkwX4_doEarn_1 : List UInt8 := [96, 79, 42, 180, 0, 9, 5, 46, 172]
abbrev dktX4_doEarn_1 : List UInt8 := dkwX4_doEarn_1 ++ []
def dkwX4_doEarn_0 : List UInt8 := [27, 4, 16, 99, 184, 0, 64, 154, 0, 9, 42, 4, 182, 0, 72, 172, 42, 180, 0, 9, 5, 92, 46, 27]
abbrev dktX4_doEarn_0 : List UInt8 := dkwX4_doEarn_0 ++ dktX4_doEarn_1
theorem dksX4_doEarn_0 : cX4_doEarn.data.toList.drop 0 = dktX4_doEarn_0 := by decide +kernel
theorem dksX4_doEarn_1 : cX4_doEarn.data.toList.drop 24 = dktX4_doEarn_1 := dk_seg dksX4_doEarn_0 24 rfl rfl
theorem dX4_doEarn_0 : decode cX4_doEarn 0 = .ok (.iload_n 1, 1) := dk_27 (dk_at dksX4_doEarn_0 0 rfl rfl)
theorem dX4_doEarn_1 : decode cX4_doEarn 1 = .ok (.iconst 1, 1) := dk_4 (dk_at dksX4_doEarn_0 1 rfl rfl)
theorem dX4_doEarn_2 : decode cX4_doEarn 2 = .ok (.bipush 99, 2) := dk_16 99 (dk_at dksX4_doEarn_0 2 rfl rfl)
theorem dX4_doEarn_4 : decode cX4_doEarn 4 = .ok (.invokestatic 64, 3) := dk_184 0 64 (dk_at dksX4_doEarn_0 4 rfl rfl)
theorem dX4_doEarn_7 : decode cX4_doEarn 7 = .ok (.ifCond .ne 9, 3) := dk_154 0 9 (dk_at dksX4_doEarn_0 7 rfl rfl)
theorem dX4_doEarn_10 : decode cX4_doEarn 10 = .ok (.aload_n 0, 1) := dk_42 (dk_at dksX4_doEarn_0 10 rfl rfl)
theorem dX4_doEarn_11 : decode cX4_doEarn 11 = .ok (.iconst 1, 1) := dk_4 (dk_at dksX4_doEarn_0 11 rfl rfl)
theorem dX4_doEarn_12 : decode cX4_doEarn 12 = .ok (.invokevirtual 72, 3) := dk_182 0 72 (dk_at dksX4_doEarn_0 12 rfl rfl)
theorem dX4_doEarn_15 : decode cX4_doEarn 15 = .ok (.ireturn, 1) := dk_172 (dk_at dksX4_doEarn_0 15 rfl rfl)
theorem dX4_doEarn_16 : decode cX4_doEarn 16 = .ok (.aload_n 0, 1) := dk_42 (dk_at dksX4_doEarn_0 16 rfl rfl)
theorem dX4_doEarn_17 : decode cX4_doEarn 17 = .ok (.getfield 9, 3) := dk_180 0 9 (dk_at dksX4_doEarn_0 17 rfl rfl)
theorem dX4_doEarn_20 : decode cX4_doEarn 20 = .ok (.iconst 2, 1) := dk_5 (dk_at dksX4_doEarn_0 20 rfl rfl)
theorem dX4_doEarn_21 : decode cX4_doEarn 21 = .ok (.dup2, 1) := dk_92 (dk_at dksX4_doEarn_0 21 rfl rfl)
theorem dX4_doEarn_22 : decode cX4_doEarn 22 = .ok (.iaload, 1) := dk_46 (dk_at dksX4_doEarn_0 22 rfl rfl)
theorem dX4_doEarn_23 : decode cX4_doEarn 23 = .ok (.iload_n 1, 1) := dk_27 (dk_at dksX4_doEarn_0 23 rfl rfl)
theorem dX4_doEarn_24 : decode cX4_doEarn 24 = .ok (.iadd, 1) := dk_96 (dk_at dksX4_doEarn_1 0 rfl rfl)
theorem dX4_doEarn_25 : decode cX4_doEarn 25 = .ok (.iastore, 1) := dk_79 (dk_at dksX4_doEarn_1 1 rfl rfl)
theorem dX4_doEarn_26 : decode cX4_doEarn 26 = .ok (.aload_n 0, 1) := dk_42 (dk_at dksX4_doEarn_1 2 rfl rfl)
theorem dX4_doEarn_27 : decode cX4_doEarn 27 = .ok (.getfield 9, 3) := dk_180 0 9 (dk_at dksX4_doEarn_1 3 rfl rfl)
theorem dX4_doEarn_30 : decode cX4_doEarn 30 = .ok (.iconst 2, 1) := dk_5 (dk_at dksX4_doEarn_1 6 rfl rfl)
theorem dX4_doEarn_31 : decode cX4_doEarn 31 = .ok (.iaload, 1) := dk_46 (dk_at dksX4_doEarn_1 7 rfl rfl)
theorem dX4_doEarn_32 : decode cX4_doEarn 32 = .ok (.ireturn, 1) := dk_172 (dk_at dksX4_doEarn_1 8 rfl rfl)
abbrev cX4_price : ByteArray := prog_14_method_70_code
def yX4_price : MethodName := ⟨RX4, "price", "(I)I"⟩
def dkwX4_price_0 : List UInt8 := [42, 182, 0, 80, 42, 42, 27, 182, 0, 218, 182, 0, 87, 172]
abbrev dktX4_price_0 : List UInt8 := dkwX4_price_0 ++ []
theorem dksX4_price_0 : cX4_price.data.toList.drop 0 = dktX4_price_0 := by decide +kernel
theorem dX4_price_0 : decode cX4_price 0 = .ok (.aload_n 0, 1) := dk_42 (dk_at dksX4_price_0 0 rfl rfl)
theorem dX4_price_1 : decode cX4_price 1 = .ok (.invokevirtual 80, 3) := dk_182 0 80 (dk_at dksX4_price_0 1 rfl rfl)
theorem dX4_price_4 : decode cX4_price 4 = .ok (.aload_n 0, 1) := dk_42 (dk_at dksX4_price_0 4 rfl rfl)
theorem dX4_price_5 : decode cX4_price 5 = .ok (.aload_n 0, 1) := dk_42 (dk_at dksX4_price_0 5 rfl rfl)
theorem dX4_price_6 : decode cX4_price 6 = .ok (.iload_n 1, 1) := dk_27 (dk_at dksX4_price_0 6 rfl rfl)
theorem dX4_price_7 : decode cX4_price 7 = .ok (.invokevirtual 218, 3) := dk_182 0 218 (dk_at dksX4_price_0 7 rfl rfl)
theorem dX4_price_10 : decode cX4_price 10 = .ok (.invokevirtual 87, 3) := dk_182 0 87 (dk_at dksX4_price_0 10 rfl rfl)
theorem dX4_price_13 : decode cX4_price 13 = .ok (.ireturn, 1) := dk_172 (dk_at dksX4_price_0 13 rfl rfl)
abbrev cX4_doPrice : ByteArray := prog_14_method_69_code
def yX4_doPrice : MethodName := ⟨RX4, "doPrice", "(I)I"⟩
def dkwX4_doPrice_1 : List UInt8 := [180, 0, 9, 6, 27, 79, 28, 172]
abbrev dktX4_doPrice_1 : List UInt8 := dkwX4_doPrice_1 ++ []
def dkwX4_doPrice_0 : List UInt8 := [27, 4, 16, 9, 184, 0, 64, 154, 0, 9, 42, 4, 182, 0, 72, 172, 42, 180, 0, 9, 6, 46, 61, 42]
abbrev dktX4_doPrice_0 : List UInt8 := dkwX4_doPrice_0 ++ dktX4_doPrice_1
theorem dksX4_doPrice_0 : cX4_doPrice.data.toList.drop 0 = dktX4_doPrice_0 := by decide +kernel
theorem dksX4_doPrice_1 : cX4_doPrice.data.toList.drop 24 = dktX4_doPrice_1 := dk_seg dksX4_doPrice_0 24 rfl rfl
theorem dX4_doPrice_0 : decode cX4_doPrice 0 = .ok (.iload_n 1, 1) := dk_27 (dk_at dksX4_doPrice_0 0 rfl rfl)
theorem dX4_doPrice_1 : decode cX4_doPrice 1 = .ok (.iconst 1, 1) := dk_4 (dk_at dksX4_doPrice_0 1 rfl rfl)
theorem dX4_doPrice_2 : decode cX4_doPrice 2 = .ok (.bipush 9, 2) := dk_16 9 (dk_at dksX4_doPrice_0 2 rfl rfl)
theorem dX4_doPrice_4 : decode cX4_doPrice 4 = .ok (.invokestatic 64, 3) := dk_184 0 64 (dk_at dksX4_doPrice_0 4 rfl rfl)
theorem dX4_doPrice_7 : decode cX4_doPrice 7 = .ok (.ifCond .ne 9, 3) := dk_154 0 9 (dk_at dksX4_doPrice_0 7 rfl rfl)
theorem dX4_doPrice_10 : decode cX4_doPrice 10 = .ok (.aload_n 0, 1) := dk_42 (dk_at dksX4_doPrice_0 10 rfl rfl)
theorem dX4_doPrice_11 : decode cX4_doPrice 11 = .ok (.iconst 1, 1) := dk_4 (dk_at dksX4_doPrice_0 11 rfl rfl)
theorem dX4_doPrice_12 : decode cX4_doPrice 12 = .ok (.invokevirtual 72, 3) := dk_182 0 72 (dk_at dksX4_doPrice_0 12 rfl rfl)
theorem dX4_doPrice_15 : decode cX4_doPrice 15 = .ok (.ireturn, 1) := dk_172 (dk_at dksX4_doPrice_0 15 rfl rfl)
theorem dX4_doPrice_16 : decode cX4_doPrice 16 = .ok (.aload_n 0, 1) := dk_42 (dk_at dksX4_doPrice_0 16 rfl rfl)
theorem dX4_doPrice_17 : decode cX4_doPrice 17 = .ok (.getfield 9, 3) := dk_180 0 9 (dk_at dksX4_doPrice_0 17 rfl rfl)
theorem dX4_doPrice_20 : decode cX4_doPrice 20 = .ok (.iconst 3, 1) := dk_6 (dk_at dksX4_doPrice_0 20 rfl rfl)
theorem dX4_doPrice_21 : decode cX4_doPrice 21 = .ok (.iaload, 1) := dk_46 (dk_at dksX4_doPrice_0 21 rfl rfl)
theorem dX4_doPrice_22 : decode cX4_doPrice 22 = .ok (.istore_n 2, 1) := dk_61 (dk_at dksX4_doPrice_0 22 rfl rfl)
theorem dX4_doPrice_23 : decode cX4_doPrice 23 = .ok (.aload_n 0, 1) := dk_42 (dk_at dksX4_doPrice_0 23 rfl rfl)
theorem dX4_doPrice_24 : decode cX4_doPrice 24 = .ok (.getfield 9, 3) := dk_180 0 9 (dk_at dksX4_doPrice_1 0 rfl rfl)
theorem dX4_doPrice_27 : decode cX4_doPrice 27 = .ok (.iconst 3, 1) := dk_6 (dk_at dksX4_doPrice_1 3 rfl rfl)
theorem dX4_doPrice_28 : decode cX4_doPrice 28 = .ok (.iload_n 1, 1) := dk_27 (dk_at dksX4_doPrice_1 4 rfl rfl)
theorem dX4_doPrice_29 : decode cX4_doPrice 29 = .ok (.iastore, 1) := dk_79 (dk_at dksX4_doPrice_1 5 rfl rfl)
theorem dX4_doPrice_30 : decode cX4_doPrice 30 = .ok (.iload_n 2, 1) := dk_28 (dk_at dksX4_doPrice_1 6 rfl rfl)
theorem dX4_doPrice_31 : decode cX4_doPrice 31 = .ok (.ireturn, 1) := dk_172 (dk_at dksX4_doPrice_1 7 rfl rfl)
abbrev cX4_line : ByteArray := prog_14_method_74_code
def yX4_line : MethodName := ⟨RX4, "line", "(I)I"⟩
def dkwX4_line_3 : List UInt8 := [16, 33, 182, 0, 224, 42, 180, 0, 221, 172]
abbrev dktX4_line_3 : List UInt8 := dkwX4_line_3 ++ []
def dkwX4_line_2 : List UInt8 := [16, 96, 16, 6, 27, 104, 96, 4, 96, 182, 0, 234, 42, 27, 8, 182, 0, 152, 4, 160, 0, 9, 42]
abbrev dktX4_line_2 : List UInt8 := dkwX4_line_2 ++ dktX4_line_3
def dkwX4_line_1 : List UInt8 := [3, 172, 42, 3, 181, 0, 221, 42, 42, 27, 3, 182, 0, 152, 182, 0, 231, 42, 16, 58, 182, 0, 224, 42]
abbrev dktX4_line_1 : List UInt8 := dkwX4_line_1 ++ dktX4_line_2
def dkwX4_line_0 : List UInt8 := [42, 42, 27, 182, 0, 181, 153, 0, 7, 3, 167, 0, 4, 4, 181, 0, 52, 42, 180, 0, 52, 158, 0, 5]
abbrev dktX4_line_0 : List UInt8 := dkwX4_line_0 ++ dktX4_line_1
theorem dksX4_line_0 : cX4_line.data.toList.drop 0 = dktX4_line_0 := by decide +kernel
theorem dksX4_line_1 : cX4_line.data.toList.drop 24 = dktX4_line_1 := dk_seg dksX4_line_0 24 rfl rfl
theorem dksX4_line_2 : cX4_line.data.toList.drop 48 = dktX4_line_2 := dk_seg dksX4_line_1 24 rfl rfl
theorem dksX4_line_3 : cX4_line.data.toList.drop 71 = dktX4_line_3 := dk_seg dksX4_line_2 23 rfl rfl
theorem dX4_line_0 : decode cX4_line 0 = .ok (.aload_n 0, 1) := dk_42 (dk_at dksX4_line_0 0 rfl rfl)
theorem dX4_line_1 : decode cX4_line 1 = .ok (.aload_n 0, 1) := dk_42 (dk_at dksX4_line_0 1 rfl rfl)
theorem dX4_line_2 : decode cX4_line 2 = .ok (.iload_n 1, 1) := dk_27 (dk_at dksX4_line_0 2 rfl rfl)
theorem dX4_line_3 : decode cX4_line 3 = .ok (.invokevirtual 181, 3) := dk_182 0 181 (dk_at dksX4_line_0 3 rfl rfl)
theorem dX4_line_6 : decode cX4_line 6 = .ok (.ifCond .eq 7, 3) := dk_153 0 7 (dk_at dksX4_line_0 6 rfl rfl)
theorem dX4_line_9 : decode cX4_line 9 = .ok (.iconst 0, 1) := dk_3 (dk_at dksX4_line_0 9 rfl rfl)
theorem dX4_line_10 : decode cX4_line 10 = .ok (.goto 4, 3) := dk_167 0 4 (dk_at dksX4_line_0 10 rfl rfl)
theorem dX4_line_13 : decode cX4_line 13 = .ok (.iconst 1, 1) := dk_4 (dk_at dksX4_line_0 13 rfl rfl)
theorem dX4_line_14 : decode cX4_line 14 = .ok (.putfield 52, 3) := dk_181 0 52 (dk_at dksX4_line_0 14 rfl rfl)
theorem dX4_line_17 : decode cX4_line 17 = .ok (.aload_n 0, 1) := dk_42 (dk_at dksX4_line_0 17 rfl rfl)
theorem dX4_line_18 : decode cX4_line 18 = .ok (.getfield 52, 3) := dk_180 0 52 (dk_at dksX4_line_0 18 rfl rfl)
theorem dX4_line_21 : decode cX4_line 21 = .ok (.ifCond .le 5, 3) := dk_158 0 5 (dk_at dksX4_line_0 21 rfl rfl)
theorem dX4_line_24 : decode cX4_line 24 = .ok (.iconst 0, 1) := dk_3 (dk_at dksX4_line_1 0 rfl rfl)
theorem dX4_line_25 : decode cX4_line 25 = .ok (.ireturn, 1) := dk_172 (dk_at dksX4_line_1 1 rfl rfl)
theorem dX4_line_26 : decode cX4_line 26 = .ok (.aload_n 0, 1) := dk_42 (dk_at dksX4_line_1 2 rfl rfl)
theorem dX4_line_27 : decode cX4_line 27 = .ok (.iconst 0, 1) := dk_3 (dk_at dksX4_line_1 3 rfl rfl)
theorem dX4_line_28 : decode cX4_line 28 = .ok (.putfield 221, 3) := dk_181 0 221 (dk_at dksX4_line_1 4 rfl rfl)
theorem dX4_line_31 : decode cX4_line 31 = .ok (.aload_n 0, 1) := dk_42 (dk_at dksX4_line_1 7 rfl rfl)
theorem dX4_line_32 : decode cX4_line 32 = .ok (.aload_n 0, 1) := dk_42 (dk_at dksX4_line_1 8 rfl rfl)
theorem dX4_line_33 : decode cX4_line 33 = .ok (.iload_n 1, 1) := dk_27 (dk_at dksX4_line_1 9 rfl rfl)
theorem dX4_line_34 : decode cX4_line 34 = .ok (.iconst 0, 1) := dk_3 (dk_at dksX4_line_1 10 rfl rfl)
theorem dX4_line_35 : decode cX4_line 35 = .ok (.invokevirtual 152, 3) := dk_182 0 152 (dk_at dksX4_line_1 11 rfl rfl)
theorem dX4_line_38 : decode cX4_line 38 = .ok (.invokevirtual 231, 3) := dk_182 0 231 (dk_at dksX4_line_1 14 rfl rfl)
theorem dX4_line_41 : decode cX4_line 41 = .ok (.aload_n 0, 1) := dk_42 (dk_at dksX4_line_1 17 rfl rfl)
theorem dX4_line_42 : decode cX4_line 42 = .ok (.bipush 58, 2) := dk_16 58 (dk_at dksX4_line_1 18 rfl rfl)
theorem dX4_line_44 : decode cX4_line 44 = .ok (.invokevirtual 224, 3) := dk_182 0 224 (dk_at dksX4_line_1 20 rfl rfl)
theorem dX4_line_47 : decode cX4_line 47 = .ok (.aload_n 0, 1) := dk_42 (dk_at dksX4_line_1 23 rfl rfl)
theorem dX4_line_48 : decode cX4_line 48 = .ok (.bipush 96, 2) := dk_16 96 (dk_at dksX4_line_2 0 rfl rfl)
theorem dX4_line_50 : decode cX4_line 50 = .ok (.bipush 6, 2) := dk_16 6 (dk_at dksX4_line_2 2 rfl rfl)
theorem dX4_line_52 : decode cX4_line 52 = .ok (.iload_n 1, 1) := dk_27 (dk_at dksX4_line_2 4 rfl rfl)
theorem dX4_line_53 : decode cX4_line 53 = .ok (.imul, 1) := dk_104 (dk_at dksX4_line_2 5 rfl rfl)
theorem dX4_line_54 : decode cX4_line 54 = .ok (.iadd, 1) := dk_96 (dk_at dksX4_line_2 6 rfl rfl)
theorem dX4_line_55 : decode cX4_line 55 = .ok (.iconst 1, 1) := dk_4 (dk_at dksX4_line_2 7 rfl rfl)
theorem dX4_line_56 : decode cX4_line 56 = .ok (.iadd, 1) := dk_96 (dk_at dksX4_line_2 8 rfl rfl)
theorem dX4_line_57 : decode cX4_line 57 = .ok (.invokevirtual 234, 3) := dk_182 0 234 (dk_at dksX4_line_2 9 rfl rfl)
theorem dX4_line_60 : decode cX4_line 60 = .ok (.aload_n 0, 1) := dk_42 (dk_at dksX4_line_2 12 rfl rfl)
theorem dX4_line_61 : decode cX4_line 61 = .ok (.iload_n 1, 1) := dk_27 (dk_at dksX4_line_2 13 rfl rfl)
theorem dX4_line_62 : decode cX4_line 62 = .ok (.iconst 5, 1) := dk_8 (dk_at dksX4_line_2 14 rfl rfl)
theorem dX4_line_63 : decode cX4_line 63 = .ok (.invokevirtual 152, 3) := dk_182 0 152 (dk_at dksX4_line_2 15 rfl rfl)
theorem dX4_line_66 : decode cX4_line 66 = .ok (.iconst 1, 1) := dk_4 (dk_at dksX4_line_2 18 rfl rfl)
theorem dX4_line_67 : decode cX4_line 67 = .ok (.if_icmp .ne 9, 3) := dk_160 0 9 (dk_at dksX4_line_2 19 rfl rfl)
theorem dX4_line_70 : decode cX4_line 70 = .ok (.aload_n 0, 1) := dk_42 (dk_at dksX4_line_2 22 rfl rfl)
theorem dX4_line_71 : decode cX4_line 71 = .ok (.bipush 33, 2) := dk_16 33 (dk_at dksX4_line_3 0 rfl rfl)
theorem dX4_line_73 : decode cX4_line 73 = .ok (.invokevirtual 224, 3) := dk_182 0 224 (dk_at dksX4_line_3 2 rfl rfl)
theorem dX4_line_76 : decode cX4_line 76 = .ok (.aload_n 0, 1) := dk_42 (dk_at dksX4_line_3 5 rfl rfl)
theorem dX4_line_77 : decode cX4_line 77 = .ok (.getfield 221, 3) := dk_180 0 221 (dk_at dksX4_line_3 6 rfl rfl)
theorem dX4_line_80 : decode cX4_line 80 = .ok (.ireturn, 1) := dk_172 (dk_at dksX4_line_3 9 rfl rfl)
abbrev cX4_saysNumber : ByteArray := prog_14_method_72_code
def yX4_saysNumber : MethodName := ⟨RX4, "saysNumber", "(I)V"⟩
def dkwX4_saysNumber_1 : List UInt8 := [16, 10, 108, 182, 0, 231, 42, 16, 48, 28, 16, 10, 112, 96, 146, 182, 0, 224, 177]
abbrev dktX4_saysNumber_1 : List UInt8 := dkwX4_saysNumber_1 ++ []
def dkwX4_saysNumber_0 : List UInt8 := [27, 156, 0, 9, 42, 16, 45, 182, 0, 224, 27, 184, 0, 228, 61, 28, 16, 9, 164, 0, 11, 42, 28]
abbrev dktX4_saysNumber_0 : List UInt8 := dkwX4_saysNumber_0 ++ dktX4_saysNumber_1
theorem dksX4_saysNumber_0 : cX4_saysNumber.data.toList.drop 0 = dktX4_saysNumber_0 := by decide +kernel
theorem dksX4_saysNumber_1 : cX4_saysNumber.data.toList.drop 23 = dktX4_saysNumber_1 := dk_seg dksX4_saysNumber_0 23 rfl rfl
theorem dX4_saysNumber_0 : decode cX4_saysNumber 0 = .ok (.iload_n 1, 1) := dk_27 (dk_at dksX4_saysNumber_0 0 rfl rfl)
theorem dX4_saysNumber_1 : decode cX4_saysNumber 1 = .ok (.ifCond .ge 9, 3) := dk_156 0 9 (dk_at dksX4_saysNumber_0 1 rfl rfl)
theorem dX4_saysNumber_4 : decode cX4_saysNumber 4 = .ok (.aload_n 0, 1) := dk_42 (dk_at dksX4_saysNumber_0 4 rfl rfl)
theorem dX4_saysNumber_5 : decode cX4_saysNumber 5 = .ok (.bipush 45, 2) := dk_16 45 (dk_at dksX4_saysNumber_0 5 rfl rfl)
theorem dX4_saysNumber_7 : decode cX4_saysNumber 7 = .ok (.invokevirtual 224, 3) := dk_182 0 224 (dk_at dksX4_saysNumber_0 7 rfl rfl)
theorem dX4_saysNumber_10 : decode cX4_saysNumber 10 = .ok (.iload_n 1, 1) := dk_27 (dk_at dksX4_saysNumber_0 10 rfl rfl)
theorem dX4_saysNumber_11 : decode cX4_saysNumber 11 = .ok (.invokestatic 228, 3) := dk_184 0 228 (dk_at dksX4_saysNumber_0 11 rfl rfl)
theorem dX4_saysNumber_14 : decode cX4_saysNumber 14 = .ok (.istore_n 2, 1) := dk_61 (dk_at dksX4_saysNumber_0 14 rfl rfl)
theorem dX4_saysNumber_15 : decode cX4_saysNumber 15 = .ok (.iload_n 2, 1) := dk_28 (dk_at dksX4_saysNumber_0 15 rfl rfl)
theorem dX4_saysNumber_16 : decode cX4_saysNumber 16 = .ok (.bipush 9, 2) := dk_16 9 (dk_at dksX4_saysNumber_0 16 rfl rfl)
theorem dX4_saysNumber_18 : decode cX4_saysNumber 18 = .ok (.if_icmp .le 11, 3) := dk_164 0 11 (dk_at dksX4_saysNumber_0 18 rfl rfl)
theorem dX4_saysNumber_21 : decode cX4_saysNumber 21 = .ok (.aload_n 0, 1) := dk_42 (dk_at dksX4_saysNumber_0 21 rfl rfl)
theorem dX4_saysNumber_22 : decode cX4_saysNumber 22 = .ok (.iload_n 2, 1) := dk_28 (dk_at dksX4_saysNumber_0 22 rfl rfl)
theorem dX4_saysNumber_23 : decode cX4_saysNumber 23 = .ok (.bipush 10, 2) := dk_16 10 (dk_at dksX4_saysNumber_1 0 rfl rfl)
theorem dX4_saysNumber_25 : decode cX4_saysNumber 25 = .ok (.idiv, 1) := dk_108 (dk_at dksX4_saysNumber_1 2 rfl rfl)
theorem dX4_saysNumber_26 : decode cX4_saysNumber 26 = .ok (.invokevirtual 231, 3) := dk_182 0 231 (dk_at dksX4_saysNumber_1 3 rfl rfl)
theorem dX4_saysNumber_29 : decode cX4_saysNumber 29 = .ok (.aload_n 0, 1) := dk_42 (dk_at dksX4_saysNumber_1 6 rfl rfl)
theorem dX4_saysNumber_30 : decode cX4_saysNumber 30 = .ok (.bipush 48, 2) := dk_16 48 (dk_at dksX4_saysNumber_1 7 rfl rfl)
theorem dX4_saysNumber_32 : decode cX4_saysNumber 32 = .ok (.iload_n 2, 1) := dk_28 (dk_at dksX4_saysNumber_1 9 rfl rfl)
theorem dX4_saysNumber_33 : decode cX4_saysNumber 33 = .ok (.bipush 10, 2) := dk_16 10 (dk_at dksX4_saysNumber_1 10 rfl rfl)
theorem dX4_saysNumber_35 : decode cX4_saysNumber 35 = .ok (.irem, 1) := dk_112 (dk_at dksX4_saysNumber_1 12 rfl rfl)
theorem dX4_saysNumber_36 : decode cX4_saysNumber 36 = .ok (.iadd, 1) := dk_96 (dk_at dksX4_saysNumber_1 13 rfl rfl)
theorem dX4_saysNumber_37 : decode cX4_saysNumber 37 = .ok (.i2c, 1) := dk_146 (dk_at dksX4_saysNumber_1 14 rfl rfl)
theorem dX4_saysNumber_38 : decode cX4_saysNumber 38 = .ok (.invokevirtual 224, 3) := dk_182 0 224 (dk_at dksX4_saysNumber_1 15 rfl rfl)
theorem dX4_saysNumber_41 : decode cX4_saysNumber 41 = .ok (.return_, 1) := dk_177 (dk_at dksX4_saysNumber_1 18 rfl rfl)
abbrev cX4_says : ByteArray := prog_14_method_71_code
def yX4_says : MethodName := ⟨RX4, "says", "(C)V"⟩
def dkwX4_says_0 : List UInt8 := [42, 180, 0, 32, 42, 180, 0, 221, 27, 85, 42, 89, 180, 0, 221, 4, 96, 181, 0, 221, 177]
abbrev dktX4_says_0 : List UInt8 := dkwX4_says_0 ++ []
theorem dksX4_says_0 : cX4_says.data.toList.drop 0 = dktX4_says_0 := by decide +kernel
theorem dX4_says_0 : decode cX4_says 0 = .ok (.aload_n 0, 1) := dk_42 (dk_at dksX4_says_0 0 rfl rfl)
theorem dX4_says_1 : decode cX4_says 1 = .ok (.getfield 32, 3) := dk_180 0 32 (dk_at dksX4_says_0 1 rfl rfl)
theorem dX4_says_4 : decode cX4_says 4 = .ok (.aload_n 0, 1) := dk_42 (dk_at dksX4_says_0 4 rfl rfl)
theorem dX4_says_5 : decode cX4_says 5 = .ok (.getfield 221, 3) := dk_180 0 221 (dk_at dksX4_says_0 5 rfl rfl)
theorem dX4_says_8 : decode cX4_says 8 = .ok (.iload_n 1, 1) := dk_27 (dk_at dksX4_says_0 8 rfl rfl)
theorem dX4_says_9 : decode cX4_says 9 = .ok (.castore, 1) := dk_85 (dk_at dksX4_says_0 9 rfl rfl)
theorem dX4_says_10 : decode cX4_says 10 = .ok (.aload_n 0, 1) := dk_42 (dk_at dksX4_says_0 10 rfl rfl)
theorem dX4_says_11 : decode cX4_says 11 = .ok (.dup, 1) := dk_89 (dk_at dksX4_says_0 11 rfl rfl)
theorem dX4_says_12 : decode cX4_says 12 = .ok (.getfield 221, 3) := dk_180 0 221 (dk_at dksX4_says_0 12 rfl rfl)
theorem dX4_says_15 : decode cX4_says 15 = .ok (.iconst 1, 1) := dk_4 (dk_at dksX4_says_0 15 rfl rfl)
theorem dX4_says_16 : decode cX4_says 16 = .ok (.iadd, 1) := dk_96 (dk_at dksX4_says_0 16 rfl rfl)
theorem dX4_says_17 : decode cX4_says 17 = .ok (.putfield 221, 3) := dk_181 0 221 (dk_at dksX4_says_0 17 rfl rfl)
theorem dX4_says_20 : decode cX4_says 20 = .ok (.return_, 1) := dk_177 (dk_at dksX4_says_0 20 rfl rfl)
abbrev cX4_saysMiddle : ByteArray := prog_14_method_73_code
def yX4_saysMiddle : MethodName := ⟨RX4, "saysMiddle", "(I)V"⟩
def dkwX4_saysMiddle_2 : List UInt8 := [180, 0, 9, 27, 6, 96, 46, 96, 146, 182, 0, 224, 177]
abbrev dktX4_saysMiddle_2 : List UInt8 := dkwX4_saysMiddle_2 ++ []
def dkwX4_saysMiddle_1 : List UInt8 := [46, 182, 0, 231, 42, 16, 97, 42, 180, 0, 9, 27, 5, 96, 46, 96, 146, 182, 0, 224, 42, 16, 97, 42]
abbrev dktX4_saysMiddle_1 : List UInt8 := dkwX4_saysMiddle_1 ++ dktX4_saysMiddle_2
def dkwX4_saysMiddle_0 : List UInt8 := [42, 42, 180, 0, 9, 27, 46, 182, 0, 231, 42, 16, 45, 182, 0, 224, 42, 42, 180, 0, 9, 27, 4, 96]
abbrev dktX4_saysMiddle_0 : List UInt8 := dkwX4_saysMiddle_0 ++ dktX4_saysMiddle_1
theorem dksX4_saysMiddle_0 : cX4_saysMiddle.data.toList.drop 0 = dktX4_saysMiddle_0 := by decide +kernel
theorem dksX4_saysMiddle_1 : cX4_saysMiddle.data.toList.drop 24 = dktX4_saysMiddle_1 := dk_seg dksX4_saysMiddle_0 24 rfl rfl
theorem dksX4_saysMiddle_2 : cX4_saysMiddle.data.toList.drop 48 = dktX4_saysMiddle_2 := dk_seg dksX4_saysMiddle_1 24 rfl rfl
theorem dX4_saysMiddle_0 : decode cX4_saysMiddle 0 = .ok (.aload_n 0, 1) := dk_42 (dk_at dksX4_saysMiddle_0 0 rfl rfl)
theorem dX4_saysMiddle_1 : decode cX4_saysMiddle 1 = .ok (.aload_n 0, 1) := dk_42 (dk_at dksX4_saysMiddle_0 1 rfl rfl)
theorem dX4_saysMiddle_2 : decode cX4_saysMiddle 2 = .ok (.getfield 9, 3) := dk_180 0 9 (dk_at dksX4_saysMiddle_0 2 rfl rfl)
theorem dX4_saysMiddle_5 : decode cX4_saysMiddle 5 = .ok (.iload_n 1, 1) := dk_27 (dk_at dksX4_saysMiddle_0 5 rfl rfl)
theorem dX4_saysMiddle_6 : decode cX4_saysMiddle 6 = .ok (.iaload, 1) := dk_46 (dk_at dksX4_saysMiddle_0 6 rfl rfl)
theorem dX4_saysMiddle_7 : decode cX4_saysMiddle 7 = .ok (.invokevirtual 231, 3) := dk_182 0 231 (dk_at dksX4_saysMiddle_0 7 rfl rfl)
theorem dX4_saysMiddle_10 : decode cX4_saysMiddle 10 = .ok (.aload_n 0, 1) := dk_42 (dk_at dksX4_saysMiddle_0 10 rfl rfl)
theorem dX4_saysMiddle_11 : decode cX4_saysMiddle 11 = .ok (.bipush 45, 2) := dk_16 45 (dk_at dksX4_saysMiddle_0 11 rfl rfl)
theorem dX4_saysMiddle_13 : decode cX4_saysMiddle 13 = .ok (.invokevirtual 224, 3) := dk_182 0 224 (dk_at dksX4_saysMiddle_0 13 rfl rfl)
theorem dX4_saysMiddle_16 : decode cX4_saysMiddle 16 = .ok (.aload_n 0, 1) := dk_42 (dk_at dksX4_saysMiddle_0 16 rfl rfl)
theorem dX4_saysMiddle_17 : decode cX4_saysMiddle 17 = .ok (.aload_n 0, 1) := dk_42 (dk_at dksX4_saysMiddle_0 17 rfl rfl)
theorem dX4_saysMiddle_18 : decode cX4_saysMiddle 18 = .ok (.getfield 9, 3) := dk_180 0 9 (dk_at dksX4_saysMiddle_0 18 rfl rfl)
theorem dX4_saysMiddle_21 : decode cX4_saysMiddle 21 = .ok (.iload_n 1, 1) := dk_27 (dk_at dksX4_saysMiddle_0 21 rfl rfl)
theorem dX4_saysMiddle_22 : decode cX4_saysMiddle 22 = .ok (.iconst 1, 1) := dk_4 (dk_at dksX4_saysMiddle_0 22 rfl rfl)
theorem dX4_saysMiddle_23 : decode cX4_saysMiddle 23 = .ok (.iadd, 1) := dk_96 (dk_at dksX4_saysMiddle_0 23 rfl rfl)
theorem dX4_saysMiddle_24 : decode cX4_saysMiddle 24 = .ok (.iaload, 1) := dk_46 (dk_at dksX4_saysMiddle_1 0 rfl rfl)
theorem dX4_saysMiddle_25 : decode cX4_saysMiddle 25 = .ok (.invokevirtual 231, 3) := dk_182 0 231 (dk_at dksX4_saysMiddle_1 1 rfl rfl)
theorem dX4_saysMiddle_28 : decode cX4_saysMiddle 28 = .ok (.aload_n 0, 1) := dk_42 (dk_at dksX4_saysMiddle_1 4 rfl rfl)
theorem dX4_saysMiddle_29 : decode cX4_saysMiddle 29 = .ok (.bipush 97, 2) := dk_16 97 (dk_at dksX4_saysMiddle_1 5 rfl rfl)
theorem dX4_saysMiddle_31 : decode cX4_saysMiddle 31 = .ok (.aload_n 0, 1) := dk_42 (dk_at dksX4_saysMiddle_1 7 rfl rfl)
theorem dX4_saysMiddle_32 : decode cX4_saysMiddle 32 = .ok (.getfield 9, 3) := dk_180 0 9 (dk_at dksX4_saysMiddle_1 8 rfl rfl)
theorem dX4_saysMiddle_35 : decode cX4_saysMiddle 35 = .ok (.iload_n 1, 1) := dk_27 (dk_at dksX4_saysMiddle_1 11 rfl rfl)
theorem dX4_saysMiddle_36 : decode cX4_saysMiddle 36 = .ok (.iconst 2, 1) := dk_5 (dk_at dksX4_saysMiddle_1 12 rfl rfl)
theorem dX4_saysMiddle_37 : decode cX4_saysMiddle 37 = .ok (.iadd, 1) := dk_96 (dk_at dksX4_saysMiddle_1 13 rfl rfl)
theorem dX4_saysMiddle_38 : decode cX4_saysMiddle 38 = .ok (.iaload, 1) := dk_46 (dk_at dksX4_saysMiddle_1 14 rfl rfl)
theorem dX4_saysMiddle_39 : decode cX4_saysMiddle 39 = .ok (.iadd, 1) := dk_96 (dk_at dksX4_saysMiddle_1 15 rfl rfl)
theorem dX4_saysMiddle_40 : decode cX4_saysMiddle 40 = .ok (.i2c, 1) := dk_146 (dk_at dksX4_saysMiddle_1 16 rfl rfl)
theorem dX4_saysMiddle_41 : decode cX4_saysMiddle 41 = .ok (.invokevirtual 224, 3) := dk_182 0 224 (dk_at dksX4_saysMiddle_1 17 rfl rfl)
theorem dX4_saysMiddle_44 : decode cX4_saysMiddle 44 = .ok (.aload_n 0, 1) := dk_42 (dk_at dksX4_saysMiddle_1 20 rfl rfl)
theorem dX4_saysMiddle_45 : decode cX4_saysMiddle 45 = .ok (.bipush 97, 2) := dk_16 97 (dk_at dksX4_saysMiddle_1 21 rfl rfl)
theorem dX4_saysMiddle_47 : decode cX4_saysMiddle 47 = .ok (.aload_n 0, 1) := dk_42 (dk_at dksX4_saysMiddle_1 23 rfl rfl)
theorem dX4_saysMiddle_48 : decode cX4_saysMiddle 48 = .ok (.getfield 9, 3) := dk_180 0 9 (dk_at dksX4_saysMiddle_2 0 rfl rfl)
theorem dX4_saysMiddle_51 : decode cX4_saysMiddle 51 = .ok (.iload_n 1, 1) := dk_27 (dk_at dksX4_saysMiddle_2 3 rfl rfl)
theorem dX4_saysMiddle_52 : decode cX4_saysMiddle 52 = .ok (.iconst 3, 1) := dk_6 (dk_at dksX4_saysMiddle_2 4 rfl rfl)
theorem dX4_saysMiddle_53 : decode cX4_saysMiddle 53 = .ok (.iadd, 1) := dk_96 (dk_at dksX4_saysMiddle_2 5 rfl rfl)
theorem dX4_saysMiddle_54 : decode cX4_saysMiddle 54 = .ok (.iaload, 1) := dk_46 (dk_at dksX4_saysMiddle_2 6 rfl rfl)
theorem dX4_saysMiddle_55 : decode cX4_saysMiddle 55 = .ok (.iadd, 1) := dk_96 (dk_at dksX4_saysMiddle_2 7 rfl rfl)
theorem dX4_saysMiddle_56 : decode cX4_saysMiddle 56 = .ok (.i2c, 1) := dk_146 (dk_at dksX4_saysMiddle_2 8 rfl rfl)
theorem dX4_saysMiddle_57 : decode cX4_saysMiddle 57 = .ok (.invokevirtual 224, 3) := dk_182 0 224 (dk_at dksX4_saysMiddle_2 9 rfl rfl)
theorem dX4_saysMiddle_60 : decode cX4_saysMiddle 60 = .ok (.return_, 1) := dk_177 (dk_at dksX4_saysMiddle_2 12 rfl rfl)
abbrev cX4_scrapLine : ByteArray := prog_14_method_75_code
def yX4_scrapLine : MethodName := ⟨RX4, "scrapLine", "(I)I"⟩
def dkwX4_scrapLine_4 : List UInt8 := [184, 0, 101, 46, 4, 160, 0, 8, 16, 43, 167, 0, 5, 16, 45, 182, 0, 224, 42, 180, 0, 221, 172]
abbrev dktX4_scrapLine_4 : List UInt8 := dkwX4_scrapLine_4 ++ []
def dkwX4_scrapLine_3 : List UInt8 := [182, 0, 231, 42, 180, 0, 9, 27, 8, 184, 0, 101, 46, 155, 0, 28, 42, 42, 180, 0, 9, 27, 8]
abbrev dktX4_scrapLine_3 : List UInt8 := dkwX4_scrapLine_3 ++ dktX4_scrapLine_4
def dkwX4_scrapLine_2 : List UInt8 := [180, 0, 9, 27, 7, 184, 0, 101, 46, 182, 0, 231, 42, 16, 61, 182, 0, 224, 42, 42, 27, 182, 0, 124]
abbrev dktX4_scrapLine_2 : List UInt8 := dkwX4_scrapLine_2 ++ dktX4_scrapLine_3
def dkwX4_scrapLine_1 : List UInt8 := [3, 172, 42, 3, 181, 0, 221, 42, 27, 3, 184, 0, 101, 182, 0, 234, 42, 16, 64, 182, 0, 224, 42, 42]
abbrev dktX4_scrapLine_1 : List UInt8 := dkwX4_scrapLine_1 ++ dktX4_scrapLine_2
def dkwX4_scrapLine_0 : List UInt8 := [42, 42, 27, 182, 0, 111, 153, 0, 7, 3, 167, 0, 4, 4, 181, 0, 52, 42, 180, 0, 52, 158, 0, 5]
abbrev dktX4_scrapLine_0 : List UInt8 := dkwX4_scrapLine_0 ++ dktX4_scrapLine_1
theorem dksX4_scrapLine_0 : cX4_scrapLine.data.toList.drop 0 = dktX4_scrapLine_0 := by decide +kernel
theorem dksX4_scrapLine_1 : cX4_scrapLine.data.toList.drop 24 = dktX4_scrapLine_1 := dk_seg dksX4_scrapLine_0 24 rfl rfl
theorem dksX4_scrapLine_2 : cX4_scrapLine.data.toList.drop 48 = dktX4_scrapLine_2 := dk_seg dksX4_scrapLine_1 24 rfl rfl
theorem dksX4_scrapLine_3 : cX4_scrapLine.data.toList.drop 72 = dktX4_scrapLine_3 := dk_seg dksX4_scrapLine_2 24 rfl rfl
theorem dksX4_scrapLine_4 : cX4_scrapLine.data.toList.drop 95 = dktX4_scrapLine_4 := dk_seg dksX4_scrapLine_3 23 rfl rfl
theorem dX4_scrapLine_0 : decode cX4_scrapLine 0 = .ok (.aload_n 0, 1) := dk_42 (dk_at dksX4_scrapLine_0 0 rfl rfl)
theorem dX4_scrapLine_1 : decode cX4_scrapLine 1 = .ok (.aload_n 0, 1) := dk_42 (dk_at dksX4_scrapLine_0 1 rfl rfl)
theorem dX4_scrapLine_2 : decode cX4_scrapLine 2 = .ok (.iload_n 1, 1) := dk_27 (dk_at dksX4_scrapLine_0 2 rfl rfl)
theorem dX4_scrapLine_3 : decode cX4_scrapLine 3 = .ok (.invokevirtual 111, 3) := dk_182 0 111 (dk_at dksX4_scrapLine_0 3 rfl rfl)
theorem dX4_scrapLine_6 : decode cX4_scrapLine 6 = .ok (.ifCond .eq 7, 3) := dk_153 0 7 (dk_at dksX4_scrapLine_0 6 rfl rfl)
theorem dX4_scrapLine_9 : decode cX4_scrapLine 9 = .ok (.iconst 0, 1) := dk_3 (dk_at dksX4_scrapLine_0 9 rfl rfl)
theorem dX4_scrapLine_10 : decode cX4_scrapLine 10 = .ok (.goto 4, 3) := dk_167 0 4 (dk_at dksX4_scrapLine_0 10 rfl rfl)
theorem dX4_scrapLine_13 : decode cX4_scrapLine 13 = .ok (.iconst 1, 1) := dk_4 (dk_at dksX4_scrapLine_0 13 rfl rfl)
theorem dX4_scrapLine_14 : decode cX4_scrapLine 14 = .ok (.putfield 52, 3) := dk_181 0 52 (dk_at dksX4_scrapLine_0 14 rfl rfl)
theorem dX4_scrapLine_17 : decode cX4_scrapLine 17 = .ok (.aload_n 0, 1) := dk_42 (dk_at dksX4_scrapLine_0 17 rfl rfl)
theorem dX4_scrapLine_18 : decode cX4_scrapLine 18 = .ok (.getfield 52, 3) := dk_180 0 52 (dk_at dksX4_scrapLine_0 18 rfl rfl)
theorem dX4_scrapLine_21 : decode cX4_scrapLine 21 = .ok (.ifCond .le 5, 3) := dk_158 0 5 (dk_at dksX4_scrapLine_0 21 rfl rfl)
theorem dX4_scrapLine_24 : decode cX4_scrapLine 24 = .ok (.iconst 0, 1) := dk_3 (dk_at dksX4_scrapLine_1 0 rfl rfl)
theorem dX4_scrapLine_25 : decode cX4_scrapLine 25 = .ok (.ireturn, 1) := dk_172 (dk_at dksX4_scrapLine_1 1 rfl rfl)
theorem dX4_scrapLine_26 : decode cX4_scrapLine 26 = .ok (.aload_n 0, 1) := dk_42 (dk_at dksX4_scrapLine_1 2 rfl rfl)
theorem dX4_scrapLine_27 : decode cX4_scrapLine 27 = .ok (.iconst 0, 1) := dk_3 (dk_at dksX4_scrapLine_1 3 rfl rfl)
theorem dX4_scrapLine_28 : decode cX4_scrapLine 28 = .ok (.putfield 221, 3) := dk_181 0 221 (dk_at dksX4_scrapLine_1 4 rfl rfl)
theorem dX4_scrapLine_31 : decode cX4_scrapLine 31 = .ok (.aload_n 0, 1) := dk_42 (dk_at dksX4_scrapLine_1 7 rfl rfl)
theorem dX4_scrapLine_32 : decode cX4_scrapLine 32 = .ok (.iload_n 1, 1) := dk_27 (dk_at dksX4_scrapLine_1 8 rfl rfl)
theorem dX4_scrapLine_33 : decode cX4_scrapLine 33 = .ok (.iconst 0, 1) := dk_3 (dk_at dksX4_scrapLine_1 9 rfl rfl)
theorem dX4_scrapLine_34 : decode cX4_scrapLine 34 = .ok (.invokestatic 101, 3) := dk_184 0 101 (dk_at dksX4_scrapLine_1 10 rfl rfl)
theorem dX4_scrapLine_37 : decode cX4_scrapLine 37 = .ok (.invokevirtual 234, 3) := dk_182 0 234 (dk_at dksX4_scrapLine_1 13 rfl rfl)
theorem dX4_scrapLine_40 : decode cX4_scrapLine 40 = .ok (.aload_n 0, 1) := dk_42 (dk_at dksX4_scrapLine_1 16 rfl rfl)
theorem dX4_scrapLine_41 : decode cX4_scrapLine 41 = .ok (.bipush 64, 2) := dk_16 64 (dk_at dksX4_scrapLine_1 17 rfl rfl)
theorem dX4_scrapLine_43 : decode cX4_scrapLine 43 = .ok (.invokevirtual 224, 3) := dk_182 0 224 (dk_at dksX4_scrapLine_1 19 rfl rfl)
theorem dX4_scrapLine_46 : decode cX4_scrapLine 46 = .ok (.aload_n 0, 1) := dk_42 (dk_at dksX4_scrapLine_1 22 rfl rfl)
theorem dX4_scrapLine_47 : decode cX4_scrapLine 47 = .ok (.aload_n 0, 1) := dk_42 (dk_at dksX4_scrapLine_1 23 rfl rfl)
theorem dX4_scrapLine_48 : decode cX4_scrapLine 48 = .ok (.getfield 9, 3) := dk_180 0 9 (dk_at dksX4_scrapLine_2 0 rfl rfl)
theorem dX4_scrapLine_51 : decode cX4_scrapLine 51 = .ok (.iload_n 1, 1) := dk_27 (dk_at dksX4_scrapLine_2 3 rfl rfl)
theorem dX4_scrapLine_52 : decode cX4_scrapLine 52 = .ok (.iconst 4, 1) := dk_7 (dk_at dksX4_scrapLine_2 4 rfl rfl)
theorem dX4_scrapLine_53 : decode cX4_scrapLine 53 = .ok (.invokestatic 101, 3) := dk_184 0 101 (dk_at dksX4_scrapLine_2 5 rfl rfl)
theorem dX4_scrapLine_56 : decode cX4_scrapLine 56 = .ok (.iaload, 1) := dk_46 (dk_at dksX4_scrapLine_2 8 rfl rfl)
theorem dX4_scrapLine_57 : decode cX4_scrapLine 57 = .ok (.invokevirtual 231, 3) := dk_182 0 231 (dk_at dksX4_scrapLine_2 9 rfl rfl)
theorem dX4_scrapLine_60 : decode cX4_scrapLine 60 = .ok (.aload_n 0, 1) := dk_42 (dk_at dksX4_scrapLine_2 12 rfl rfl)
theorem dX4_scrapLine_61 : decode cX4_scrapLine 61 = .ok (.bipush 61, 2) := dk_16 61 (dk_at dksX4_scrapLine_2 13 rfl rfl)
theorem dX4_scrapLine_63 : decode cX4_scrapLine 63 = .ok (.invokevirtual 224, 3) := dk_182 0 224 (dk_at dksX4_scrapLine_2 15 rfl rfl)
theorem dX4_scrapLine_66 : decode cX4_scrapLine 66 = .ok (.aload_n 0, 1) := dk_42 (dk_at dksX4_scrapLine_2 18 rfl rfl)
theorem dX4_scrapLine_67 : decode cX4_scrapLine 67 = .ok (.aload_n 0, 1) := dk_42 (dk_at dksX4_scrapLine_2 19 rfl rfl)
theorem dX4_scrapLine_68 : decode cX4_scrapLine 68 = .ok (.iload_n 1, 1) := dk_27 (dk_at dksX4_scrapLine_2 20 rfl rfl)
theorem dX4_scrapLine_69 : decode cX4_scrapLine 69 = .ok (.invokevirtual 124, 3) := dk_182 0 124 (dk_at dksX4_scrapLine_2 21 rfl rfl)
theorem dX4_scrapLine_72 : decode cX4_scrapLine 72 = .ok (.invokevirtual 231, 3) := dk_182 0 231 (dk_at dksX4_scrapLine_3 0 rfl rfl)
theorem dX4_scrapLine_75 : decode cX4_scrapLine 75 = .ok (.aload_n 0, 1) := dk_42 (dk_at dksX4_scrapLine_3 3 rfl rfl)
theorem dX4_scrapLine_76 : decode cX4_scrapLine 76 = .ok (.getfield 9, 3) := dk_180 0 9 (dk_at dksX4_scrapLine_3 4 rfl rfl)
theorem dX4_scrapLine_79 : decode cX4_scrapLine 79 = .ok (.iload_n 1, 1) := dk_27 (dk_at dksX4_scrapLine_3 7 rfl rfl)
theorem dX4_scrapLine_80 : decode cX4_scrapLine 80 = .ok (.iconst 5, 1) := dk_8 (dk_at dksX4_scrapLine_3 8 rfl rfl)
theorem dX4_scrapLine_81 : decode cX4_scrapLine 81 = .ok (.invokestatic 101, 3) := dk_184 0 101 (dk_at dksX4_scrapLine_3 9 rfl rfl)
theorem dX4_scrapLine_84 : decode cX4_scrapLine 84 = .ok (.iaload, 1) := dk_46 (dk_at dksX4_scrapLine_3 12 rfl rfl)
theorem dX4_scrapLine_85 : decode cX4_scrapLine 85 = .ok (.ifCond .lt 28, 3) := dk_155 0 28 (dk_at dksX4_scrapLine_3 13 rfl rfl)
theorem dX4_scrapLine_88 : decode cX4_scrapLine 88 = .ok (.aload_n 0, 1) := dk_42 (dk_at dksX4_scrapLine_3 16 rfl rfl)
theorem dX4_scrapLine_89 : decode cX4_scrapLine 89 = .ok (.aload_n 0, 1) := dk_42 (dk_at dksX4_scrapLine_3 17 rfl rfl)
theorem dX4_scrapLine_90 : decode cX4_scrapLine 90 = .ok (.getfield 9, 3) := dk_180 0 9 (dk_at dksX4_scrapLine_3 18 rfl rfl)
theorem dX4_scrapLine_93 : decode cX4_scrapLine 93 = .ok (.iload_n 1, 1) := dk_27 (dk_at dksX4_scrapLine_3 21 rfl rfl)
theorem dX4_scrapLine_94 : decode cX4_scrapLine 94 = .ok (.iconst 5, 1) := dk_8 (dk_at dksX4_scrapLine_3 22 rfl rfl)
theorem dX4_scrapLine_95 : decode cX4_scrapLine 95 = .ok (.invokestatic 101, 3) := dk_184 0 101 (dk_at dksX4_scrapLine_4 0 rfl rfl)
theorem dX4_scrapLine_98 : decode cX4_scrapLine 98 = .ok (.iaload, 1) := dk_46 (dk_at dksX4_scrapLine_4 3 rfl rfl)
theorem dX4_scrapLine_99 : decode cX4_scrapLine 99 = .ok (.iconst 1, 1) := dk_4 (dk_at dksX4_scrapLine_4 4 rfl rfl)
theorem dX4_scrapLine_100 : decode cX4_scrapLine 100 = .ok (.if_icmp .ne 8, 3) := dk_160 0 8 (dk_at dksX4_scrapLine_4 5 rfl rfl)
theorem dX4_scrapLine_103 : decode cX4_scrapLine 103 = .ok (.bipush 43, 2) := dk_16 43 (dk_at dksX4_scrapLine_4 8 rfl rfl)
theorem dX4_scrapLine_105 : decode cX4_scrapLine 105 = .ok (.goto 5, 3) := dk_167 0 5 (dk_at dksX4_scrapLine_4 10 rfl rfl)
theorem dX4_scrapLine_108 : decode cX4_scrapLine 108 = .ok (.bipush 45, 2) := dk_16 45 (dk_at dksX4_scrapLine_4 13 rfl rfl)
theorem dX4_scrapLine_110 : decode cX4_scrapLine 110 = .ok (.invokevirtual 224, 3) := dk_182 0 224 (dk_at dksX4_scrapLine_4 15 rfl rfl)
theorem dX4_scrapLine_113 : decode cX4_scrapLine 113 = .ok (.aload_n 0, 1) := dk_42 (dk_at dksX4_scrapLine_4 18 rfl rfl)
theorem dX4_scrapLine_114 : decode cX4_scrapLine 114 = .ok (.getfield 221, 3) := dk_180 0 221 (dk_at dksX4_scrapLine_4 19 rfl rfl)
theorem dX4_scrapLine_117 : decode cX4_scrapLine 117 = .ok (.ireturn, 1) := dk_172 (dk_at dksX4_scrapLine_4 22 rfl rfl)
abbrev cX4_chainLine : ByteArray := prog_14_method_76_code
def yX4_chainLine : MethodName := ⟨RX4, "chainLine", "(I)I"⟩
def dkwX4_chainLine_3 : List UInt8 := [182, 0, 231, 132, 2, 1, 167, 255, 225, 42, 180, 0, 221, 172]
abbrev dktX4_chainLine_3 : List UInt8 := dkwX4_chainLine_3 ++ []
def dkwX4_chainLine_2 : List UInt8 := [42, 180, 0, 175, 162, 0, 29, 28, 158, 0, 9, 42, 16, 44, 182, 0, 224, 42, 42, 180, 0, 29, 28, 46]
abbrev dktX4_chainLine_2 : List UInt8 := dkwX4_chainLine_2 ++ dktX4_chainLine_3
def dkwX4_chainLine_1 : List UInt8 := [167, 0, 4, 3, 181, 0, 52, 42, 180, 0, 52, 158, 0, 5, 3, 172, 42, 3, 181, 0, 221, 3, 61, 28]
abbrev dktX4_chainLine_1 : List UInt8 := dkwX4_chainLine_1 ++ dktX4_chainLine_2
def dkwX4_chainLine_0 : List UInt8 := [42, 42, 27, 182, 0, 181, 154, 0, 7, 4, 167, 0, 16, 42, 27, 182, 0, 187, 154, 0, 7, 5]
abbrev dktX4_chainLine_0 : List UInt8 := dkwX4_chainLine_0 ++ dktX4_chainLine_1
theorem dksX4_chainLine_0 : cX4_chainLine.data.toList.drop 0 = dktX4_chainLine_0 := by decide +kernel
theorem dksX4_chainLine_1 : cX4_chainLine.data.toList.drop 22 = dktX4_chainLine_1 := dk_seg dksX4_chainLine_0 22 rfl rfl
theorem dksX4_chainLine_2 : cX4_chainLine.data.toList.drop 46 = dktX4_chainLine_2 := dk_seg dksX4_chainLine_1 24 rfl rfl
theorem dksX4_chainLine_3 : cX4_chainLine.data.toList.drop 70 = dktX4_chainLine_3 := dk_seg dksX4_chainLine_2 24 rfl rfl
theorem dX4_chainLine_0 : decode cX4_chainLine 0 = .ok (.aload_n 0, 1) := dk_42 (dk_at dksX4_chainLine_0 0 rfl rfl)
theorem dX4_chainLine_1 : decode cX4_chainLine 1 = .ok (.aload_n 0, 1) := dk_42 (dk_at dksX4_chainLine_0 1 rfl rfl)
theorem dX4_chainLine_2 : decode cX4_chainLine 2 = .ok (.iload_n 1, 1) := dk_27 (dk_at dksX4_chainLine_0 2 rfl rfl)
theorem dX4_chainLine_3 : decode cX4_chainLine 3 = .ok (.invokevirtual 181, 3) := dk_182 0 181 (dk_at dksX4_chainLine_0 3 rfl rfl)
theorem dX4_chainLine_6 : decode cX4_chainLine 6 = .ok (.ifCond .ne 7, 3) := dk_154 0 7 (dk_at dksX4_chainLine_0 6 rfl rfl)
theorem dX4_chainLine_9 : decode cX4_chainLine 9 = .ok (.iconst 1, 1) := dk_4 (dk_at dksX4_chainLine_0 9 rfl rfl)
theorem dX4_chainLine_10 : decode cX4_chainLine 10 = .ok (.goto 16, 3) := dk_167 0 16 (dk_at dksX4_chainLine_0 10 rfl rfl)
theorem dX4_chainLine_13 : decode cX4_chainLine 13 = .ok (.aload_n 0, 1) := dk_42 (dk_at dksX4_chainLine_0 13 rfl rfl)
theorem dX4_chainLine_14 : decode cX4_chainLine 14 = .ok (.iload_n 1, 1) := dk_27 (dk_at dksX4_chainLine_0 14 rfl rfl)
theorem dX4_chainLine_15 : decode cX4_chainLine 15 = .ok (.invokevirtual 187, 3) := dk_182 0 187 (dk_at dksX4_chainLine_0 15 rfl rfl)
theorem dX4_chainLine_18 : decode cX4_chainLine 18 = .ok (.ifCond .ne 7, 3) := dk_154 0 7 (dk_at dksX4_chainLine_0 18 rfl rfl)
theorem dX4_chainLine_21 : decode cX4_chainLine 21 = .ok (.iconst 2, 1) := dk_5 (dk_at dksX4_chainLine_0 21 rfl rfl)
theorem dX4_chainLine_22 : decode cX4_chainLine 22 = .ok (.goto 4, 3) := dk_167 0 4 (dk_at dksX4_chainLine_1 0 rfl rfl)
theorem dX4_chainLine_25 : decode cX4_chainLine 25 = .ok (.iconst 0, 1) := dk_3 (dk_at dksX4_chainLine_1 3 rfl rfl)
theorem dX4_chainLine_26 : decode cX4_chainLine 26 = .ok (.putfield 52, 3) := dk_181 0 52 (dk_at dksX4_chainLine_1 4 rfl rfl)
theorem dX4_chainLine_29 : decode cX4_chainLine 29 = .ok (.aload_n 0, 1) := dk_42 (dk_at dksX4_chainLine_1 7 rfl rfl)
theorem dX4_chainLine_30 : decode cX4_chainLine 30 = .ok (.getfield 52, 3) := dk_180 0 52 (dk_at dksX4_chainLine_1 8 rfl rfl)
theorem dX4_chainLine_33 : decode cX4_chainLine 33 = .ok (.ifCond .le 5, 3) := dk_158 0 5 (dk_at dksX4_chainLine_1 11 rfl rfl)
theorem dX4_chainLine_36 : decode cX4_chainLine 36 = .ok (.iconst 0, 1) := dk_3 (dk_at dksX4_chainLine_1 14 rfl rfl)
theorem dX4_chainLine_37 : decode cX4_chainLine 37 = .ok (.ireturn, 1) := dk_172 (dk_at dksX4_chainLine_1 15 rfl rfl)
theorem dX4_chainLine_38 : decode cX4_chainLine 38 = .ok (.aload_n 0, 1) := dk_42 (dk_at dksX4_chainLine_1 16 rfl rfl)
theorem dX4_chainLine_39 : decode cX4_chainLine 39 = .ok (.iconst 0, 1) := dk_3 (dk_at dksX4_chainLine_1 17 rfl rfl)
theorem dX4_chainLine_40 : decode cX4_chainLine 40 = .ok (.putfield 221, 3) := dk_181 0 221 (dk_at dksX4_chainLine_1 18 rfl rfl)
theorem dX4_chainLine_43 : decode cX4_chainLine 43 = .ok (.iconst 0, 1) := dk_3 (dk_at dksX4_chainLine_1 21 rfl rfl)
theorem dX4_chainLine_44 : decode cX4_chainLine 44 = .ok (.istore_n 2, 1) := dk_61 (dk_at dksX4_chainLine_1 22 rfl rfl)
theorem dX4_chainLine_45 : decode cX4_chainLine 45 = .ok (.iload_n 2, 1) := dk_28 (dk_at dksX4_chainLine_1 23 rfl rfl)
theorem dX4_chainLine_46 : decode cX4_chainLine 46 = .ok (.aload_n 0, 1) := dk_42 (dk_at dksX4_chainLine_2 0 rfl rfl)
theorem dX4_chainLine_47 : decode cX4_chainLine 47 = .ok (.getfield 175, 3) := dk_180 0 175 (dk_at dksX4_chainLine_2 1 rfl rfl)
theorem dX4_chainLine_50 : decode cX4_chainLine 50 = .ok (.if_icmp .ge 29, 3) := dk_162 0 29 (dk_at dksX4_chainLine_2 4 rfl rfl)
theorem dX4_chainLine_53 : decode cX4_chainLine 53 = .ok (.iload_n 2, 1) := dk_28 (dk_at dksX4_chainLine_2 7 rfl rfl)
theorem dX4_chainLine_54 : decode cX4_chainLine 54 = .ok (.ifCond .le 9, 3) := dk_158 0 9 (dk_at dksX4_chainLine_2 8 rfl rfl)
theorem dX4_chainLine_57 : decode cX4_chainLine 57 = .ok (.aload_n 0, 1) := dk_42 (dk_at dksX4_chainLine_2 11 rfl rfl)
theorem dX4_chainLine_58 : decode cX4_chainLine 58 = .ok (.bipush 44, 2) := dk_16 44 (dk_at dksX4_chainLine_2 12 rfl rfl)
theorem dX4_chainLine_60 : decode cX4_chainLine 60 = .ok (.invokevirtual 224, 3) := dk_182 0 224 (dk_at dksX4_chainLine_2 14 rfl rfl)
theorem dX4_chainLine_63 : decode cX4_chainLine 63 = .ok (.aload_n 0, 1) := dk_42 (dk_at dksX4_chainLine_2 17 rfl rfl)
theorem dX4_chainLine_64 : decode cX4_chainLine 64 = .ok (.aload_n 0, 1) := dk_42 (dk_at dksX4_chainLine_2 18 rfl rfl)
theorem dX4_chainLine_65 : decode cX4_chainLine 65 = .ok (.getfield 29, 3) := dk_180 0 29 (dk_at dksX4_chainLine_2 19 rfl rfl)
theorem dX4_chainLine_68 : decode cX4_chainLine 68 = .ok (.iload_n 2, 1) := dk_28 (dk_at dksX4_chainLine_2 22 rfl rfl)
theorem dX4_chainLine_69 : decode cX4_chainLine 69 = .ok (.iaload, 1) := dk_46 (dk_at dksX4_chainLine_2 23 rfl rfl)
theorem dX4_chainLine_70 : decode cX4_chainLine 70 = .ok (.invokevirtual 231, 3) := dk_182 0 231 (dk_at dksX4_chainLine_3 0 rfl rfl)
theorem dX4_chainLine_73 : decode cX4_chainLine 73 = .ok (.iinc 2 1, 3) := dk_132 2 1 (dk_at dksX4_chainLine_3 3 rfl rfl)
theorem dX4_chainLine_76 : decode cX4_chainLine 76 = .ok (.goto (-31), 3) := dk_167 255 225 (dk_at dksX4_chainLine_3 6 rfl rfl)
theorem dX4_chainLine_79 : decode cX4_chainLine 79 = .ok (.aload_n 0, 1) := dk_42 (dk_at dksX4_chainLine_3 9 rfl rfl)
theorem dX4_chainLine_80 : decode cX4_chainLine 80 = .ok (.getfield 221, 3) := dk_180 0 221 (dk_at dksX4_chainLine_3 10 rfl rfl)
theorem dX4_chainLine_83 : decode cX4_chainLine 83 = .ok (.ireturn, 1) := dk_172 (dk_at dksX4_chainLine_3 13 rfl rfl)
abbrev cX4_character : ByteArray := prog_14_method_77_code
def yX4_character : MethodName := ⟨RX4, "character", "(I)C"⟩
def dkwX4_character_1 : List UInt8 := [180, 0, 52, 158, 0, 8, 16, 32, 167, 0, 9, 42, 180, 0, 32, 27, 52, 172]
abbrev dktX4_character_1 : List UInt8 := dkwX4_character_1 ++ []
def dkwX4_character_0 : List UInt8 := [42, 27, 3, 42, 180, 0, 221, 4, 100, 184, 0, 64, 153, 0, 7, 3, 167, 0, 4, 4, 181, 0, 52, 42]
abbrev dktX4_character_0 : List UInt8 := dkwX4_character_0 ++ dktX4_character_1
theorem dksX4_character_0 : cX4_character.data.toList.drop 0 = dktX4_character_0 := by decide +kernel
theorem dksX4_character_1 : cX4_character.data.toList.drop 24 = dktX4_character_1 := dk_seg dksX4_character_0 24 rfl rfl
theorem dX4_character_0 : decode cX4_character 0 = .ok (.aload_n 0, 1) := dk_42 (dk_at dksX4_character_0 0 rfl rfl)
theorem dX4_character_1 : decode cX4_character 1 = .ok (.iload_n 1, 1) := dk_27 (dk_at dksX4_character_0 1 rfl rfl)
theorem dX4_character_2 : decode cX4_character 2 = .ok (.iconst 0, 1) := dk_3 (dk_at dksX4_character_0 2 rfl rfl)
theorem dX4_character_3 : decode cX4_character 3 = .ok (.aload_n 0, 1) := dk_42 (dk_at dksX4_character_0 3 rfl rfl)
theorem dX4_character_4 : decode cX4_character 4 = .ok (.getfield 221, 3) := dk_180 0 221 (dk_at dksX4_character_0 4 rfl rfl)
theorem dX4_character_7 : decode cX4_character 7 = .ok (.iconst 1, 1) := dk_4 (dk_at dksX4_character_0 7 rfl rfl)
theorem dX4_character_8 : decode cX4_character 8 = .ok (.isub, 1) := dk_100 (dk_at dksX4_character_0 8 rfl rfl)
theorem dX4_character_9 : decode cX4_character 9 = .ok (.invokestatic 64, 3) := dk_184 0 64 (dk_at dksX4_character_0 9 rfl rfl)
theorem dX4_character_12 : decode cX4_character 12 = .ok (.ifCond .eq 7, 3) := dk_153 0 7 (dk_at dksX4_character_0 12 rfl rfl)
theorem dX4_character_15 : decode cX4_character 15 = .ok (.iconst 0, 1) := dk_3 (dk_at dksX4_character_0 15 rfl rfl)
theorem dX4_character_16 : decode cX4_character 16 = .ok (.goto 4, 3) := dk_167 0 4 (dk_at dksX4_character_0 16 rfl rfl)
theorem dX4_character_19 : decode cX4_character 19 = .ok (.iconst 1, 1) := dk_4 (dk_at dksX4_character_0 19 rfl rfl)
theorem dX4_character_20 : decode cX4_character 20 = .ok (.putfield 52, 3) := dk_181 0 52 (dk_at dksX4_character_0 20 rfl rfl)
theorem dX4_character_23 : decode cX4_character 23 = .ok (.aload_n 0, 1) := dk_42 (dk_at dksX4_character_0 23 rfl rfl)
theorem dX4_character_24 : decode cX4_character 24 = .ok (.getfield 52, 3) := dk_180 0 52 (dk_at dksX4_character_1 0 rfl rfl)
theorem dX4_character_27 : decode cX4_character 27 = .ok (.ifCond .le 8, 3) := dk_158 0 8 (dk_at dksX4_character_1 3 rfl rfl)
theorem dX4_character_30 : decode cX4_character 30 = .ok (.bipush 32, 2) := dk_16 32 (dk_at dksX4_character_1 6 rfl rfl)
theorem dX4_character_32 : decode cX4_character 32 = .ok (.goto 9, 3) := dk_167 0 9 (dk_at dksX4_character_1 8 rfl rfl)
theorem dX4_character_35 : decode cX4_character 35 = .ok (.aload_n 0, 1) := dk_42 (dk_at dksX4_character_1 11 rfl rfl)
theorem dX4_character_36 : decode cX4_character 36 = .ok (.getfield 32, 3) := dk_180 0 32 (dk_at dksX4_character_1 12 rfl rfl)
theorem dX4_character_39 : decode cX4_character 39 = .ok (.iload_n 1, 1) := dk_27 (dk_at dksX4_character_1 15 rfl rfl)
theorem dX4_character_40 : decode cX4_character 40 = .ok (.caload, 1) := dk_52 (dk_at dksX4_character_1 16 rfl rfl)
theorem dX4_character_41 : decode cX4_character 41 = .ok (.ireturn, 1) := dk_172 (dk_at dksX4_character_1 17 rfl rfl)
abbrev cX4_account : ByteArray := prog_14_method_81_code
def yX4_account : MethodName := ⟨RX4, "account", "(I)I"⟩
def dkwX4_account_5 : List UInt8 := [42, 180, 0, 55, 172, 42, 180, 0, 9, 7, 27, 96, 16, 7, 100, 46, 172]
abbrev dktX4_account_5 : List UInt8 := dkwX4_account_5 ++ []
def dkwX4_account_4 : List UInt8 := [42, 180, 0, 9, 5, 46, 172, 42, 180, 0, 9, 6, 46, 172, 42, 182, 0, 243, 172, 42, 180, 0, 246, 172]
abbrev dktX4_account_4 : List UInt8 := dkwX4_account_4 ++ dktX4_account_5
def dkwX4_account_3 : List UInt8 := [42, 180, 0, 9, 3, 46, 172, 42, 182, 0, 237, 172, 42, 180, 0, 9, 4, 46, 172, 42, 182, 0, 240, 172]
abbrev dktX4_account_3 : List UInt8 := dkwX4_account_3 ++ dktX4_account_4
def dkwX4_account_2 : List UInt8 := [170, 0, 0, 0, 0, 0, 124, 0, 0, 0, 0, 0, 0, 0, 13, 0, 0, 0, 71, 0, 0, 0, 78, 0, 0, 0, 83, 0, 0, 0, 90, 0, 0, 0, 95, 0, 0, 0, 102, 0, 0, 0, 109, 0, 0, 0, 124, 0, 0, 0, 124, 0, 0, 0, 124, 0, 0, 0, 124, 0, 0, 0, 124, 0, 0, 0, 114, 0, 0, 0, 119]
abbrev dktX4_account_2 : List UInt8 := dkwX4_account_2 ++ dktX4_account_3
def dkwX4_account_1 : List UInt8 := [158, 0, 5, 3, 172, 27]
abbrev dktX4_account_1 : List UInt8 := dkwX4_account_1 ++ dktX4_account_2
def dkwX4_account_0 : List UInt8 := [42, 27, 3, 16, 13, 184, 0, 64, 153, 0, 7, 3, 167, 0, 4, 4, 181, 0, 52, 42, 180, 0, 52]
abbrev dktX4_account_0 : List UInt8 := dkwX4_account_0 ++ dktX4_account_1
theorem dksX4_account_0 : cX4_account.data.toList.drop 0 = dktX4_account_0 := by decide +kernel
theorem dksX4_account_1 : cX4_account.data.toList.drop 23 = dktX4_account_1 := dk_seg dksX4_account_0 23 rfl rfl
theorem dksX4_account_2 : cX4_account.data.toList.drop 29 = dktX4_account_2 := dk_seg dksX4_account_1 6 rfl rfl
theorem dksX4_account_3 : cX4_account.data.toList.drop 100 = dktX4_account_3 := dk_seg dksX4_account_2 71 rfl rfl
theorem dksX4_account_4 : cX4_account.data.toList.drop 124 = dktX4_account_4 := dk_seg dksX4_account_3 24 rfl rfl
theorem dksX4_account_5 : cX4_account.data.toList.drop 148 = dktX4_account_5 := dk_seg dksX4_account_4 24 rfl rfl
theorem dX4_account_0 : decode cX4_account 0 = .ok (.aload_n 0, 1) := dk_42 (dk_at dksX4_account_0 0 rfl rfl)
theorem dX4_account_1 : decode cX4_account 1 = .ok (.iload_n 1, 1) := dk_27 (dk_at dksX4_account_0 1 rfl rfl)
theorem dX4_account_2 : decode cX4_account 2 = .ok (.iconst 0, 1) := dk_3 (dk_at dksX4_account_0 2 rfl rfl)
theorem dX4_account_3 : decode cX4_account 3 = .ok (.bipush 13, 2) := dk_16 13 (dk_at dksX4_account_0 3 rfl rfl)
theorem dX4_account_5 : decode cX4_account 5 = .ok (.invokestatic 64, 3) := dk_184 0 64 (dk_at dksX4_account_0 5 rfl rfl)
theorem dX4_account_8 : decode cX4_account 8 = .ok (.ifCond .eq 7, 3) := dk_153 0 7 (dk_at dksX4_account_0 8 rfl rfl)
theorem dX4_account_11 : decode cX4_account 11 = .ok (.iconst 0, 1) := dk_3 (dk_at dksX4_account_0 11 rfl rfl)
theorem dX4_account_12 : decode cX4_account 12 = .ok (.goto 4, 3) := dk_167 0 4 (dk_at dksX4_account_0 12 rfl rfl)
theorem dX4_account_15 : decode cX4_account 15 = .ok (.iconst 1, 1) := dk_4 (dk_at dksX4_account_0 15 rfl rfl)
theorem dX4_account_16 : decode cX4_account 16 = .ok (.putfield 52, 3) := dk_181 0 52 (dk_at dksX4_account_0 16 rfl rfl)
theorem dX4_account_19 : decode cX4_account 19 = .ok (.aload_n 0, 1) := dk_42 (dk_at dksX4_account_0 19 rfl rfl)
theorem dX4_account_20 : decode cX4_account 20 = .ok (.getfield 52, 3) := dk_180 0 52 (dk_at dksX4_account_0 20 rfl rfl)
theorem dX4_account_23 : decode cX4_account 23 = .ok (.ifCond .le 5, 3) := dk_158 0 5 (dk_at dksX4_account_1 0 rfl rfl)
theorem dX4_account_26 : decode cX4_account 26 = .ok (.iconst 0, 1) := dk_3 (dk_at dksX4_account_1 3 rfl rfl)
theorem dX4_account_27 : decode cX4_account 27 = .ok (.ireturn, 1) := dk_172 (dk_at dksX4_account_1 4 rfl rfl)
theorem dX4_account_28 : decode cX4_account 28 = .ok (.iload_n 1, 1) := dk_27 (dk_at dksX4_account_1 5 rfl rfl)
theorem dX4_account_29 : decode cX4_account 29 = .ok (.tableswitch 124 0 13 #[71, 78, 83, 90, 95, 102, 109, 124, 124, 124, 124, 124, 114, 119], 71) := by decide +kernel
theorem dX4_account_100 : decode cX4_account 100 = .ok (.aload_n 0, 1) := dk_42 (dk_at dksX4_account_3 0 rfl rfl)
theorem dX4_account_101 : decode cX4_account 101 = .ok (.getfield 9, 3) := dk_180 0 9 (dk_at dksX4_account_3 1 rfl rfl)
theorem dX4_account_104 : decode cX4_account 104 = .ok (.iconst 0, 1) := dk_3 (dk_at dksX4_account_3 4 rfl rfl)
theorem dX4_account_105 : decode cX4_account 105 = .ok (.iaload, 1) := dk_46 (dk_at dksX4_account_3 5 rfl rfl)
theorem dX4_account_106 : decode cX4_account 106 = .ok (.ireturn, 1) := dk_172 (dk_at dksX4_account_3 6 rfl rfl)
theorem dX4_account_107 : decode cX4_account 107 = .ok (.aload_n 0, 1) := dk_42 (dk_at dksX4_account_3 7 rfl rfl)
theorem dX4_account_108 : decode cX4_account 108 = .ok (.invokevirtual 237, 3) := dk_182 0 237 (dk_at dksX4_account_3 8 rfl rfl)
theorem dX4_account_111 : decode cX4_account 111 = .ok (.ireturn, 1) := dk_172 (dk_at dksX4_account_3 11 rfl rfl)
theorem dX4_account_112 : decode cX4_account 112 = .ok (.aload_n 0, 1) := dk_42 (dk_at dksX4_account_3 12 rfl rfl)
theorem dX4_account_113 : decode cX4_account 113 = .ok (.getfield 9, 3) := dk_180 0 9 (dk_at dksX4_account_3 13 rfl rfl)
theorem dX4_account_116 : decode cX4_account 116 = .ok (.iconst 1, 1) := dk_4 (dk_at dksX4_account_3 16 rfl rfl)
theorem dX4_account_117 : decode cX4_account 117 = .ok (.iaload, 1) := dk_46 (dk_at dksX4_account_3 17 rfl rfl)
theorem dX4_account_118 : decode cX4_account 118 = .ok (.ireturn, 1) := dk_172 (dk_at dksX4_account_3 18 rfl rfl)
theorem dX4_account_119 : decode cX4_account 119 = .ok (.aload_n 0, 1) := dk_42 (dk_at dksX4_account_3 19 rfl rfl)
theorem dX4_account_120 : decode cX4_account 120 = .ok (.invokevirtual 240, 3) := dk_182 0 240 (dk_at dksX4_account_3 20 rfl rfl)
theorem dX4_account_123 : decode cX4_account 123 = .ok (.ireturn, 1) := dk_172 (dk_at dksX4_account_3 23 rfl rfl)
theorem dX4_account_124 : decode cX4_account 124 = .ok (.aload_n 0, 1) := dk_42 (dk_at dksX4_account_4 0 rfl rfl)
theorem dX4_account_125 : decode cX4_account 125 = .ok (.getfield 9, 3) := dk_180 0 9 (dk_at dksX4_account_4 1 rfl rfl)
theorem dX4_account_128 : decode cX4_account 128 = .ok (.iconst 2, 1) := dk_5 (dk_at dksX4_account_4 4 rfl rfl)
theorem dX4_account_129 : decode cX4_account 129 = .ok (.iaload, 1) := dk_46 (dk_at dksX4_account_4 5 rfl rfl)
theorem dX4_account_130 : decode cX4_account 130 = .ok (.ireturn, 1) := dk_172 (dk_at dksX4_account_4 6 rfl rfl)
theorem dX4_account_131 : decode cX4_account 131 = .ok (.aload_n 0, 1) := dk_42 (dk_at dksX4_account_4 7 rfl rfl)
theorem dX4_account_132 : decode cX4_account 132 = .ok (.getfield 9, 3) := dk_180 0 9 (dk_at dksX4_account_4 8 rfl rfl)
theorem dX4_account_135 : decode cX4_account 135 = .ok (.iconst 3, 1) := dk_6 (dk_at dksX4_account_4 11 rfl rfl)
theorem dX4_account_136 : decode cX4_account 136 = .ok (.iaload, 1) := dk_46 (dk_at dksX4_account_4 12 rfl rfl)
theorem dX4_account_137 : decode cX4_account 137 = .ok (.ireturn, 1) := dk_172 (dk_at dksX4_account_4 13 rfl rfl)
theorem dX4_account_138 : decode cX4_account 138 = .ok (.aload_n 0, 1) := dk_42 (dk_at dksX4_account_4 14 rfl rfl)
theorem dX4_account_139 : decode cX4_account 139 = .ok (.invokevirtual 243, 3) := dk_182 0 243 (dk_at dksX4_account_4 15 rfl rfl)
theorem dX4_account_142 : decode cX4_account 142 = .ok (.ireturn, 1) := dk_172 (dk_at dksX4_account_4 18 rfl rfl)
theorem dX4_account_143 : decode cX4_account 143 = .ok (.aload_n 0, 1) := dk_42 (dk_at dksX4_account_4 19 rfl rfl)
theorem dX4_account_144 : decode cX4_account 144 = .ok (.getfield 246, 3) := dk_180 0 246 (dk_at dksX4_account_4 20 rfl rfl)
theorem dX4_account_147 : decode cX4_account 147 = .ok (.ireturn, 1) := dk_172 (dk_at dksX4_account_4 23 rfl rfl)
theorem dX4_account_148 : decode cX4_account 148 = .ok (.aload_n 0, 1) := dk_42 (dk_at dksX4_account_5 0 rfl rfl)
theorem dX4_account_149 : decode cX4_account 149 = .ok (.getfield 55, 3) := dk_180 0 55 (dk_at dksX4_account_5 1 rfl rfl)
theorem dX4_account_152 : decode cX4_account 152 = .ok (.ireturn, 1) := dk_172 (dk_at dksX4_account_5 4 rfl rfl)
theorem dX4_account_153 : decode cX4_account 153 = .ok (.aload_n 0, 1) := dk_42 (dk_at dksX4_account_5 5 rfl rfl)
theorem dX4_account_154 : decode cX4_account 154 = .ok (.getfield 9, 3) := dk_180 0 9 (dk_at dksX4_account_5 6 rfl rfl)
theorem dX4_account_157 : decode cX4_account 157 = .ok (.iconst 4, 1) := dk_7 (dk_at dksX4_account_5 9 rfl rfl)
theorem dX4_account_158 : decode cX4_account 158 = .ok (.iload_n 1, 1) := dk_27 (dk_at dksX4_account_5 10 rfl rfl)
theorem dX4_account_159 : decode cX4_account 159 = .ok (.iadd, 1) := dk_96 (dk_at dksX4_account_5 11 rfl rfl)
theorem dX4_account_160 : decode cX4_account 160 = .ok (.bipush 7, 2) := dk_16 7 (dk_at dksX4_account_5 12 rfl rfl)
theorem dX4_account_162 : decode cX4_account 162 = .ok (.isub, 1) := dk_100 (dk_at dksX4_account_5 14 rfl rfl)
theorem dX4_account_163 : decode cX4_account 163 = .ok (.iaload, 1) := dk_46 (dk_at dksX4_account_5 15 rfl rfl)
theorem dX4_account_164 : decode cX4_account 164 = .ok (.ireturn, 1) := dk_172 (dk_at dksX4_account_5 16 rfl rfl)
abbrev cX4_whole : ByteArray := prog_14_method_80_code
def yX4_whole : MethodName := ⟨RX4, "whole", "()I"⟩
def dkwX4_whole_1 : List UInt8 := [132, 2, 1, 167, 255, 234, 27, 172]
abbrev dktX4_whole_1 : List UInt8 := dkwX4_whole_1 ++ []
def dkwX4_whole_0 : List UInt8 := [3, 60, 3, 61, 28, 42, 180, 0, 9, 3, 46, 162, 0, 18, 27, 42, 28, 8, 182, 0, 152, 96, 60]
abbrev dktX4_whole_0 : List UInt8 := dkwX4_whole_0 ++ dktX4_whole_1
theorem dksX4_whole_0 : cX4_whole.data.toList.drop 0 = dktX4_whole_0 := by decide +kernel
theorem dksX4_whole_1 : cX4_whole.data.toList.drop 23 = dktX4_whole_1 := dk_seg dksX4_whole_0 23 rfl rfl
theorem dX4_whole_0 : decode cX4_whole 0 = .ok (.iconst 0, 1) := dk_3 (dk_at dksX4_whole_0 0 rfl rfl)
theorem dX4_whole_1 : decode cX4_whole 1 = .ok (.istore_n 1, 1) := dk_60 (dk_at dksX4_whole_0 1 rfl rfl)
theorem dX4_whole_2 : decode cX4_whole 2 = .ok (.iconst 0, 1) := dk_3 (dk_at dksX4_whole_0 2 rfl rfl)
theorem dX4_whole_3 : decode cX4_whole 3 = .ok (.istore_n 2, 1) := dk_61 (dk_at dksX4_whole_0 3 rfl rfl)
theorem dX4_whole_4 : decode cX4_whole 4 = .ok (.iload_n 2, 1) := dk_28 (dk_at dksX4_whole_0 4 rfl rfl)
theorem dX4_whole_5 : decode cX4_whole 5 = .ok (.aload_n 0, 1) := dk_42 (dk_at dksX4_whole_0 5 rfl rfl)
theorem dX4_whole_6 : decode cX4_whole 6 = .ok (.getfield 9, 3) := dk_180 0 9 (dk_at dksX4_whole_0 6 rfl rfl)
theorem dX4_whole_9 : decode cX4_whole 9 = .ok (.iconst 0, 1) := dk_3 (dk_at dksX4_whole_0 9 rfl rfl)
theorem dX4_whole_10 : decode cX4_whole 10 = .ok (.iaload, 1) := dk_46 (dk_at dksX4_whole_0 10 rfl rfl)
theorem dX4_whole_11 : decode cX4_whole 11 = .ok (.if_icmp .ge 18, 3) := dk_162 0 18 (dk_at dksX4_whole_0 11 rfl rfl)
theorem dX4_whole_14 : decode cX4_whole 14 = .ok (.iload_n 1, 1) := dk_27 (dk_at dksX4_whole_0 14 rfl rfl)
theorem dX4_whole_15 : decode cX4_whole 15 = .ok (.aload_n 0, 1) := dk_42 (dk_at dksX4_whole_0 15 rfl rfl)
theorem dX4_whole_16 : decode cX4_whole 16 = .ok (.iload_n 2, 1) := dk_28 (dk_at dksX4_whole_0 16 rfl rfl)
theorem dX4_whole_17 : decode cX4_whole 17 = .ok (.iconst 5, 1) := dk_8 (dk_at dksX4_whole_0 17 rfl rfl)
theorem dX4_whole_18 : decode cX4_whole 18 = .ok (.invokevirtual 152, 3) := dk_182 0 152 (dk_at dksX4_whole_0 18 rfl rfl)
theorem dX4_whole_21 : decode cX4_whole 21 = .ok (.iadd, 1) := dk_96 (dk_at dksX4_whole_0 21 rfl rfl)
theorem dX4_whole_22 : decode cX4_whole 22 = .ok (.istore_n 1, 1) := dk_60 (dk_at dksX4_whole_0 22 rfl rfl)
theorem dX4_whole_23 : decode cX4_whole 23 = .ok (.iinc 2 1, 3) := dk_132 2 1 (dk_at dksX4_whole_1 0 rfl rfl)
theorem dX4_whole_26 : decode cX4_whole 26 = .ok (.goto (-22), 3) := dk_167 255 234 (dk_at dksX4_whole_1 3 rfl rfl)
theorem dX4_whole_29 : decode cX4_whole 29 = .ok (.iload_n 1, 1) := dk_27 (dk_at dksX4_whole_1 6 rfl rfl)
theorem dX4_whole_30 : decode cX4_whole 30 = .ok (.ireturn, 1) := dk_172 (dk_at dksX4_whole_1 7 rfl rfl)
abbrev cX4_hidden : ByteArray := prog_14_method_78_code
def yX4_hidden : MethodName := ⟨RX4, "hidden", "()I"⟩
def dkwX4_hidden_1 : List UInt8 := [132, 2, 1, 167, 255, 235, 27, 172]
abbrev dktX4_hidden_1 : List UInt8 := dkwX4_hidden_1 ++ []
def dkwX4_hidden_0 : List UInt8 := [3, 60, 3, 61, 28, 7, 162, 0, 22, 27, 42, 180, 0, 9, 28, 3, 184, 0, 94, 46, 96, 60]
abbrev dktX4_hidden_0 : List UInt8 := dkwX4_hidden_0 ++ dktX4_hidden_1
theorem dksX4_hidden_0 : cX4_hidden.data.toList.drop 0 = dktX4_hidden_0 := by decide +kernel
theorem dksX4_hidden_1 : cX4_hidden.data.toList.drop 22 = dktX4_hidden_1 := dk_seg dksX4_hidden_0 22 rfl rfl
theorem dX4_hidden_0 : decode cX4_hidden 0 = .ok (.iconst 0, 1) := dk_3 (dk_at dksX4_hidden_0 0 rfl rfl)
theorem dX4_hidden_1 : decode cX4_hidden 1 = .ok (.istore_n 1, 1) := dk_60 (dk_at dksX4_hidden_0 1 rfl rfl)
theorem dX4_hidden_2 : decode cX4_hidden 2 = .ok (.iconst 0, 1) := dk_3 (dk_at dksX4_hidden_0 2 rfl rfl)
theorem dX4_hidden_3 : decode cX4_hidden 3 = .ok (.istore_n 2, 1) := dk_61 (dk_at dksX4_hidden_0 3 rfl rfl)
theorem dX4_hidden_4 : decode cX4_hidden 4 = .ok (.iload_n 2, 1) := dk_28 (dk_at dksX4_hidden_0 4 rfl rfl)
theorem dX4_hidden_5 : decode cX4_hidden 5 = .ok (.iconst 4, 1) := dk_7 (dk_at dksX4_hidden_0 5 rfl rfl)
theorem dX4_hidden_6 : decode cX4_hidden 6 = .ok (.if_icmp .ge 22, 3) := dk_162 0 22 (dk_at dksX4_hidden_0 6 rfl rfl)
theorem dX4_hidden_9 : decode cX4_hidden 9 = .ok (.iload_n 1, 1) := dk_27 (dk_at dksX4_hidden_0 9 rfl rfl)
theorem dX4_hidden_10 : decode cX4_hidden 10 = .ok (.aload_n 0, 1) := dk_42 (dk_at dksX4_hidden_0 10 rfl rfl)
theorem dX4_hidden_11 : decode cX4_hidden 11 = .ok (.getfield 9, 3) := dk_180 0 9 (dk_at dksX4_hidden_0 11 rfl rfl)
theorem dX4_hidden_14 : decode cX4_hidden 14 = .ok (.iload_n 2, 1) := dk_28 (dk_at dksX4_hidden_0 14 rfl rfl)
theorem dX4_hidden_15 : decode cX4_hidden 15 = .ok (.iconst 0, 1) := dk_3 (dk_at dksX4_hidden_0 15 rfl rfl)
theorem dX4_hidden_16 : decode cX4_hidden 16 = .ok (.invokestatic 94, 3) := dk_184 0 94 (dk_at dksX4_hidden_0 16 rfl rfl)
theorem dX4_hidden_19 : decode cX4_hidden 19 = .ok (.iaload, 1) := dk_46 (dk_at dksX4_hidden_0 19 rfl rfl)
theorem dX4_hidden_20 : decode cX4_hidden 20 = .ok (.iadd, 1) := dk_96 (dk_at dksX4_hidden_0 20 rfl rfl)
theorem dX4_hidden_21 : decode cX4_hidden 21 = .ok (.istore_n 1, 1) := dk_60 (dk_at dksX4_hidden_0 21 rfl rfl)
theorem dX4_hidden_22 : decode cX4_hidden 22 = .ok (.iinc 2 1, 3) := dk_132 2 1 (dk_at dksX4_hidden_1 0 rfl rfl)
theorem dX4_hidden_25 : decode cX4_hidden 25 = .ok (.goto (-21), 3) := dk_167 255 235 (dk_at dksX4_hidden_1 3 rfl rfl)
theorem dX4_hidden_28 : decode cX4_hidden 28 = .ok (.iload_n 1, 1) := dk_27 (dk_at dksX4_hidden_1 6 rfl rfl)
theorem dX4_hidden_29 : decode cX4_hidden 29 = .ok (.ireturn, 1) := dk_172 (dk_at dksX4_hidden_1 7 rfl rfl)
abbrev cX4_counting : ByteArray := prog_14_method_79_code
def yX4_counting : MethodName := ⟨RX4, "counting", "()I"⟩
def dkwX4_counting_1 : List UInt8 := [167, 0, 4, 3, 96, 60, 132, 2, 1, 167, 255, 227, 27, 172]
abbrev dktX4_counting_1 : List UInt8 := dkwX4_counting_1 ++ []
def dkwX4_counting_0 : List UInt8 := [3, 60, 3, 61, 28, 42, 180, 0, 9, 4, 46, 162, 0, 25, 27, 42, 28, 182, 0, 149, 153, 0, 7, 4]
abbrev dktX4_counting_0 : List UInt8 := dkwX4_counting_0 ++ dktX4_counting_1
theorem dksX4_counting_0 : cX4_counting.data.toList.drop 0 = dktX4_counting_0 := by decide +kernel
theorem dksX4_counting_1 : cX4_counting.data.toList.drop 24 = dktX4_counting_1 := dk_seg dksX4_counting_0 24 rfl rfl
theorem dX4_counting_0 : decode cX4_counting 0 = .ok (.iconst 0, 1) := dk_3 (dk_at dksX4_counting_0 0 rfl rfl)
theorem dX4_counting_1 : decode cX4_counting 1 = .ok (.istore_n 1, 1) := dk_60 (dk_at dksX4_counting_0 1 rfl rfl)
theorem dX4_counting_2 : decode cX4_counting 2 = .ok (.iconst 0, 1) := dk_3 (dk_at dksX4_counting_0 2 rfl rfl)
theorem dX4_counting_3 : decode cX4_counting 3 = .ok (.istore_n 2, 1) := dk_61 (dk_at dksX4_counting_0 3 rfl rfl)
theorem dX4_counting_4 : decode cX4_counting 4 = .ok (.iload_n 2, 1) := dk_28 (dk_at dksX4_counting_0 4 rfl rfl)
theorem dX4_counting_5 : decode cX4_counting 5 = .ok (.aload_n 0, 1) := dk_42 (dk_at dksX4_counting_0 5 rfl rfl)
theorem dX4_counting_6 : decode cX4_counting 6 = .ok (.getfield 9, 3) := dk_180 0 9 (dk_at dksX4_counting_0 6 rfl rfl)
theorem dX4_counting_9 : decode cX4_counting 9 = .ok (.iconst 1, 1) := dk_4 (dk_at dksX4_counting_0 9 rfl rfl)
theorem dX4_counting_10 : decode cX4_counting 10 = .ok (.iaload, 1) := dk_46 (dk_at dksX4_counting_0 10 rfl rfl)
theorem dX4_counting_11 : decode cX4_counting 11 = .ok (.if_icmp .ge 25, 3) := dk_162 0 25 (dk_at dksX4_counting_0 11 rfl rfl)
theorem dX4_counting_14 : decode cX4_counting 14 = .ok (.iload_n 1, 1) := dk_27 (dk_at dksX4_counting_0 14 rfl rfl)
theorem dX4_counting_15 : decode cX4_counting 15 = .ok (.aload_n 0, 1) := dk_42 (dk_at dksX4_counting_0 15 rfl rfl)
theorem dX4_counting_16 : decode cX4_counting 16 = .ok (.iload_n 2, 1) := dk_28 (dk_at dksX4_counting_0 16 rfl rfl)
theorem dX4_counting_17 : decode cX4_counting 17 = .ok (.invokevirtual 149, 3) := dk_182 0 149 (dk_at dksX4_counting_0 17 rfl rfl)
theorem dX4_counting_20 : decode cX4_counting 20 = .ok (.ifCond .eq 7, 3) := dk_153 0 7 (dk_at dksX4_counting_0 20 rfl rfl)
theorem dX4_counting_23 : decode cX4_counting 23 = .ok (.iconst 1, 1) := dk_4 (dk_at dksX4_counting_0 23 rfl rfl)
theorem dX4_counting_24 : decode cX4_counting 24 = .ok (.goto 4, 3) := dk_167 0 4 (dk_at dksX4_counting_1 0 rfl rfl)
theorem dX4_counting_27 : decode cX4_counting 27 = .ok (.iconst 0, 1) := dk_3 (dk_at dksX4_counting_1 3 rfl rfl)
theorem dX4_counting_28 : decode cX4_counting 28 = .ok (.iadd, 1) := dk_96 (dk_at dksX4_counting_1 4 rfl rfl)
theorem dX4_counting_29 : decode cX4_counting 29 = .ok (.istore_n 1, 1) := dk_60 (dk_at dksX4_counting_1 5 rfl rfl)
theorem dX4_counting_30 : decode cX4_counting 30 = .ok (.iinc 2 1, 3) := dk_132 2 1 (dk_at dksX4_counting_1 6 rfl rfl)
theorem dX4_counting_33 : decode cX4_counting 33 = .ok (.goto (-29), 3) := dk_167 255 227 (dk_at dksX4_counting_1 9 rfl rfl)
theorem dX4_counting_36 : decode cX4_counting 36 = .ok (.iload_n 1, 1) := dk_27 (dk_at dksX4_counting_1 12 rfl rfl)
theorem dX4_counting_37 : decode cX4_counting 37 = .ok (.ireturn, 1) := dk_172 (dk_at dksX4_counting_1 13 rfl rfl)
abbrev cX4_meanTrust : ByteArray := prog_14_method_82_code
def yX4_meanTrust : MethodName := ⟨RX4, "meanTrust", "()D"⟩
def dkwX4_meanTrust_1 : List UInt8 := [132, 2, 1, 167, 255, 240, 27, 135, 20, 0, 249, 111, 175]
abbrev dktX4_meanTrust_1 : List UInt8 := dkwX4_meanTrust_1 ++ []
def dkwX4_meanTrust_0 : List UInt8 := [42, 3, 181, 0, 52, 3, 60, 3, 61, 28, 8, 162, 0, 17, 27, 42, 28, 182, 0, 121, 96, 60]
abbrev dktX4_meanTrust_0 : List UInt8 := dkwX4_meanTrust_0 ++ dktX4_meanTrust_1
theorem dksX4_meanTrust_0 : cX4_meanTrust.data.toList.drop 0 = dktX4_meanTrust_0 := by decide +kernel
theorem dksX4_meanTrust_1 : cX4_meanTrust.data.toList.drop 22 = dktX4_meanTrust_1 := dk_seg dksX4_meanTrust_0 22 rfl rfl
theorem dX4_meanTrust_0 : decode cX4_meanTrust 0 = .ok (.aload_n 0, 1) := dk_42 (dk_at dksX4_meanTrust_0 0 rfl rfl)
theorem dX4_meanTrust_1 : decode cX4_meanTrust 1 = .ok (.iconst 0, 1) := dk_3 (dk_at dksX4_meanTrust_0 1 rfl rfl)
theorem dX4_meanTrust_2 : decode cX4_meanTrust 2 = .ok (.putfield 52, 3) := dk_181 0 52 (dk_at dksX4_meanTrust_0 2 rfl rfl)
theorem dX4_meanTrust_5 : decode cX4_meanTrust 5 = .ok (.iconst 0, 1) := dk_3 (dk_at dksX4_meanTrust_0 5 rfl rfl)
theorem dX4_meanTrust_6 : decode cX4_meanTrust 6 = .ok (.istore_n 1, 1) := dk_60 (dk_at dksX4_meanTrust_0 6 rfl rfl)
theorem dX4_meanTrust_7 : decode cX4_meanTrust 7 = .ok (.iconst 0, 1) := dk_3 (dk_at dksX4_meanTrust_0 7 rfl rfl)
theorem dX4_meanTrust_8 : decode cX4_meanTrust 8 = .ok (.istore_n 2, 1) := dk_61 (dk_at dksX4_meanTrust_0 8 rfl rfl)
theorem dX4_meanTrust_9 : decode cX4_meanTrust 9 = .ok (.iload_n 2, 1) := dk_28 (dk_at dksX4_meanTrust_0 9 rfl rfl)
theorem dX4_meanTrust_10 : decode cX4_meanTrust 10 = .ok (.iconst 5, 1) := dk_8 (dk_at dksX4_meanTrust_0 10 rfl rfl)
theorem dX4_meanTrust_11 : decode cX4_meanTrust 11 = .ok (.if_icmp .ge 17, 3) := dk_162 0 17 (dk_at dksX4_meanTrust_0 11 rfl rfl)
theorem dX4_meanTrust_14 : decode cX4_meanTrust 14 = .ok (.iload_n 1, 1) := dk_27 (dk_at dksX4_meanTrust_0 14 rfl rfl)
theorem dX4_meanTrust_15 : decode cX4_meanTrust 15 = .ok (.aload_n 0, 1) := dk_42 (dk_at dksX4_meanTrust_0 15 rfl rfl)
theorem dX4_meanTrust_16 : decode cX4_meanTrust 16 = .ok (.iload_n 2, 1) := dk_28 (dk_at dksX4_meanTrust_0 16 rfl rfl)
theorem dX4_meanTrust_17 : decode cX4_meanTrust 17 = .ok (.invokevirtual 121, 3) := dk_182 0 121 (dk_at dksX4_meanTrust_0 17 rfl rfl)
theorem dX4_meanTrust_20 : decode cX4_meanTrust 20 = .ok (.iadd, 1) := dk_96 (dk_at dksX4_meanTrust_0 20 rfl rfl)
theorem dX4_meanTrust_21 : decode cX4_meanTrust 21 = .ok (.istore_n 1, 1) := dk_60 (dk_at dksX4_meanTrust_0 21 rfl rfl)
theorem dX4_meanTrust_22 : decode cX4_meanTrust 22 = .ok (.iinc 2 1, 3) := dk_132 2 1 (dk_at dksX4_meanTrust_1 0 rfl rfl)
theorem dX4_meanTrust_25 : decode cX4_meanTrust 25 = .ok (.goto (-16), 3) := dk_167 255 240 (dk_at dksX4_meanTrust_1 3 rfl rfl)
theorem dX4_meanTrust_28 : decode cX4_meanTrust 28 = .ok (.iload_n 1, 1) := dk_27 (dk_at dksX4_meanTrust_1 6 rfl rfl)
theorem dX4_meanTrust_29 : decode cX4_meanTrust 29 = .ok (.i2d, 1) := dk_135 (dk_at dksX4_meanTrust_1 7 rfl rfl)
theorem dX4_meanTrust_30 : decode cX4_meanTrust 30 = .ok (.ldc2_w 249, 3) := dk_20 0 249 (dk_at dksX4_meanTrust_1 8 rfl rfl)
theorem dX4_meanTrust_33 : decode cX4_meanTrust 33 = .ok (.ddiv, 1) := dk_111 (dk_at dksX4_meanTrust_1 11 rfl rfl)
theorem dX4_meanTrust_34 : decode cX4_meanTrust 34 = .ok (.dreturn, 1) := dk_175 (dk_at dksX4_meanTrust_1 12 rfl rfl)
abbrev cX4_wholeShare : ByteArray := prog_14_method_83_code
def yX4_wholeShare : MethodName := ⟨RX4, "wholeShare", "()F"⟩
def dkwX4_wholeShare_1 : List UInt8 := [158, 0, 7, 11, 167, 0, 11, 42, 182, 0, 237, 134, 27, 134, 110, 174]
abbrev dktX4_wholeShare_1 : List UInt8 := dkwX4_wholeShare_1 ++ []
def dkwX4_wholeShare_0 : List UInt8 := [42, 180, 0, 9, 3, 46, 60, 42, 27, 154, 0, 7, 4, 167, 0, 4, 3, 181, 0, 52, 42, 180, 0, 52]
abbrev dktX4_wholeShare_0 : List UInt8 := dkwX4_wholeShare_0 ++ dktX4_wholeShare_1
theorem dksX4_wholeShare_0 : cX4_wholeShare.data.toList.drop 0 = dktX4_wholeShare_0 := by decide +kernel
theorem dksX4_wholeShare_1 : cX4_wholeShare.data.toList.drop 24 = dktX4_wholeShare_1 := dk_seg dksX4_wholeShare_0 24 rfl rfl
theorem dX4_wholeShare_0 : decode cX4_wholeShare 0 = .ok (.aload_n 0, 1) := dk_42 (dk_at dksX4_wholeShare_0 0 rfl rfl)
theorem dX4_wholeShare_1 : decode cX4_wholeShare 1 = .ok (.getfield 9, 3) := dk_180 0 9 (dk_at dksX4_wholeShare_0 1 rfl rfl)
theorem dX4_wholeShare_4 : decode cX4_wholeShare 4 = .ok (.iconst 0, 1) := dk_3 (dk_at dksX4_wholeShare_0 4 rfl rfl)
theorem dX4_wholeShare_5 : decode cX4_wholeShare 5 = .ok (.iaload, 1) := dk_46 (dk_at dksX4_wholeShare_0 5 rfl rfl)
theorem dX4_wholeShare_6 : decode cX4_wholeShare 6 = .ok (.istore_n 1, 1) := dk_60 (dk_at dksX4_wholeShare_0 6 rfl rfl)
theorem dX4_wholeShare_7 : decode cX4_wholeShare 7 = .ok (.aload_n 0, 1) := dk_42 (dk_at dksX4_wholeShare_0 7 rfl rfl)
theorem dX4_wholeShare_8 : decode cX4_wholeShare 8 = .ok (.iload_n 1, 1) := dk_27 (dk_at dksX4_wholeShare_0 8 rfl rfl)
theorem dX4_wholeShare_9 : decode cX4_wholeShare 9 = .ok (.ifCond .ne 7, 3) := dk_154 0 7 (dk_at dksX4_wholeShare_0 9 rfl rfl)
theorem dX4_wholeShare_12 : decode cX4_wholeShare 12 = .ok (.iconst 1, 1) := dk_4 (dk_at dksX4_wholeShare_0 12 rfl rfl)
theorem dX4_wholeShare_13 : decode cX4_wholeShare 13 = .ok (.goto 4, 3) := dk_167 0 4 (dk_at dksX4_wholeShare_0 13 rfl rfl)
theorem dX4_wholeShare_16 : decode cX4_wholeShare 16 = .ok (.iconst 0, 1) := dk_3 (dk_at dksX4_wholeShare_0 16 rfl rfl)
theorem dX4_wholeShare_17 : decode cX4_wholeShare 17 = .ok (.putfield 52, 3) := dk_181 0 52 (dk_at dksX4_wholeShare_0 17 rfl rfl)
theorem dX4_wholeShare_20 : decode cX4_wholeShare 20 = .ok (.aload_n 0, 1) := dk_42 (dk_at dksX4_wholeShare_0 20 rfl rfl)
theorem dX4_wholeShare_21 : decode cX4_wholeShare 21 = .ok (.getfield 52, 3) := dk_180 0 52 (dk_at dksX4_wholeShare_0 21 rfl rfl)
theorem dX4_wholeShare_24 : decode cX4_wholeShare 24 = .ok (.ifCond .le 7, 3) := dk_158 0 7 (dk_at dksX4_wholeShare_1 0 rfl rfl)
theorem dX4_wholeShare_27 : decode cX4_wholeShare 27 = .ok (.fconst 0, 1) := dk_11 (dk_at dksX4_wholeShare_1 3 rfl rfl)
theorem dX4_wholeShare_28 : decode cX4_wholeShare 28 = .ok (.goto 11, 3) := dk_167 0 11 (dk_at dksX4_wholeShare_1 4 rfl rfl)
theorem dX4_wholeShare_31 : decode cX4_wholeShare 31 = .ok (.aload_n 0, 1) := dk_42 (dk_at dksX4_wholeShare_1 7 rfl rfl)
theorem dX4_wholeShare_32 : decode cX4_wholeShare 32 = .ok (.invokevirtual 237, 3) := dk_182 0 237 (dk_at dksX4_wholeShare_1 8 rfl rfl)
theorem dX4_wholeShare_35 : decode cX4_wholeShare 35 = .ok (.i2f, 1) := dk_134 (dk_at dksX4_wholeShare_1 11 rfl rfl)
theorem dX4_wholeShare_36 : decode cX4_wholeShare 36 = .ok (.iload_n 1, 1) := dk_27 (dk_at dksX4_wholeShare_1 12 rfl rfl)
theorem dX4_wholeShare_37 : decode cX4_wholeShare 37 = .ok (.i2f, 1) := dk_134 (dk_at dksX4_wholeShare_1 13 rfl rfl)
theorem dX4_wholeShare_38 : decode cX4_wholeShare 38 = .ok (.fdiv, 1) := dk_110 (dk_at dksX4_wholeShare_1 14 rfl rfl)
theorem dX4_wholeShare_39 : decode cX4_wholeShare 39 = .ok (.freturn, 1) := dk_174 (dk_at dksX4_wholeShare_1 15 rfl rfl)
abbrev cX4_append : ByteArray := prog_14_method_84_code
def yX4_append : MethodName := ⟨RX4, "append", "(I)I"⟩
def dkwX4_append_7 : List UInt8 := [158, 0, 7, 3, 167, 0, 7, 42, 180, 0, 246, 172]
abbrev dktX4_append_7 : List UInt8 := dkwX4_append_7 ++ []
def dkwX4_append_6 : List UInt8 := [146, 85, 42, 89, 180, 0, 246, 4, 96, 181, 0, 246, 132, 3, 248, 167, 255, 206, 42, 180, 0, 52]
abbrev dktX4_append_6 : List UInt8 := dkwX4_append_6 ++ dktX4_append_7
def dkwX4_append_5 : List UInt8 := [27, 29, 124, 17, 0, 255, 126, 54, 4, 21, 4, 153, 0, 25, 42, 180, 0, 36, 42, 180, 0, 246, 21, 4]
abbrev dktX4_append_5 : List UInt8 := dkwX4_append_5 ++ dktX4_append_6
def dkwX4_append_4 : List UInt8 := [167, 0, 7, 42, 180, 0, 52, 181, 0, 52, 16, 24, 62, 29, 155, 0, 52, 42, 180, 0, 52, 154, 0, 45]
abbrev dktX4_append_4 : List UInt8 := dkwX4_append_4 ++ dktX4_append_5
def dkwX4_append_3 : List UInt8 := [167, 255, 198, 42, 42, 180, 0, 52, 154, 0, 18, 42, 180, 0, 246, 28, 96, 16, 60, 164, 0, 7, 5]
abbrev dktX4_append_3 : List UInt8 := dkwX4_append_3 ++ dktX4_append_4
def dkwX4_append_2 : List UInt8 := [180, 0, 52, 181, 0, 52, 28, 21, 4, 153, 0, 7, 4, 167, 0, 4, 3, 96, 61, 132, 3, 248]
abbrev dktX4_append_2 : List UInt8 := dkwX4_append_2 ++ dktX4_append_3
def dkwX4_append_1 : List UInt8 := [21, 4, 153, 0, 19, 21, 4, 16, 32, 16, 126, 184, 0, 64, 154, 0, 7, 4, 167, 0, 7, 42]
abbrev dktX4_append_1 : List UInt8 := dkwX4_append_1 ++ dktX4_append_2
def dkwX4_append_0 : List UInt8 := [3, 61, 42, 3, 181, 0, 52, 16, 24, 62, 29, 155, 0, 60, 27, 29, 124, 17, 0, 255, 126, 54, 4, 42]
abbrev dktX4_append_0 : List UInt8 := dkwX4_append_0 ++ dktX4_append_1
theorem dksX4_append_0 : cX4_append.data.toList.drop 0 = dktX4_append_0 := by decide +kernel
theorem dksX4_append_1 : cX4_append.data.toList.drop 24 = dktX4_append_1 := dk_seg dksX4_append_0 24 rfl rfl
theorem dksX4_append_2 : cX4_append.data.toList.drop 46 = dktX4_append_2 := dk_seg dksX4_append_1 22 rfl rfl
theorem dksX4_append_3 : cX4_append.data.toList.drop 68 = dktX4_append_3 := dk_seg dksX4_append_2 22 rfl rfl
theorem dksX4_append_4 : cX4_append.data.toList.drop 91 = dktX4_append_4 := dk_seg dksX4_append_3 23 rfl rfl
theorem dksX4_append_5 : cX4_append.data.toList.drop 115 = dktX4_append_5 := dk_seg dksX4_append_4 24 rfl rfl
theorem dksX4_append_6 : cX4_append.data.toList.drop 139 = dktX4_append_6 := dk_seg dksX4_append_5 24 rfl rfl
theorem dksX4_append_7 : cX4_append.data.toList.drop 161 = dktX4_append_7 := dk_seg dksX4_append_6 22 rfl rfl
theorem dX4_append_0 : decode cX4_append 0 = .ok (.iconst 0, 1) := dk_3 (dk_at dksX4_append_0 0 rfl rfl)
theorem dX4_append_1 : decode cX4_append 1 = .ok (.istore_n 2, 1) := dk_61 (dk_at dksX4_append_0 1 rfl rfl)
theorem dX4_append_2 : decode cX4_append 2 = .ok (.aload_n 0, 1) := dk_42 (dk_at dksX4_append_0 2 rfl rfl)
theorem dX4_append_3 : decode cX4_append 3 = .ok (.iconst 0, 1) := dk_3 (dk_at dksX4_append_0 3 rfl rfl)
theorem dX4_append_4 : decode cX4_append 4 = .ok (.putfield 52, 3) := dk_181 0 52 (dk_at dksX4_append_0 4 rfl rfl)
theorem dX4_append_7 : decode cX4_append 7 = .ok (.bipush 24, 2) := dk_16 24 (dk_at dksX4_append_0 7 rfl rfl)
theorem dX4_append_9 : decode cX4_append 9 = .ok (.istore_n 3, 1) := dk_62 (dk_at dksX4_append_0 9 rfl rfl)
theorem dX4_append_10 : decode cX4_append 10 = .ok (.iload_n 3, 1) := dk_29 (dk_at dksX4_append_0 10 rfl rfl)
theorem dX4_append_11 : decode cX4_append 11 = .ok (.ifCond .lt 60, 3) := dk_155 0 60 (dk_at dksX4_append_0 11 rfl rfl)
theorem dX4_append_14 : decode cX4_append 14 = .ok (.iload_n 1, 1) := dk_27 (dk_at dksX4_append_0 14 rfl rfl)
theorem dX4_append_15 : decode cX4_append 15 = .ok (.iload_n 3, 1) := dk_29 (dk_at dksX4_append_0 15 rfl rfl)
theorem dX4_append_16 : decode cX4_append 16 = .ok (.iushr, 1) := dk_124 (dk_at dksX4_append_0 16 rfl rfl)
theorem dX4_append_17 : decode cX4_append 17 = .ok (.sipush 255, 3) := dk_17 0 255 (dk_at dksX4_append_0 17 rfl rfl)
theorem dX4_append_20 : decode cX4_append 20 = .ok (.iand, 1) := dk_126 (dk_at dksX4_append_0 20 rfl rfl)
theorem dX4_append_21 : decode cX4_append 21 = .ok (.istore 4, 2) := dk_54 4 (dk_at dksX4_append_0 21 rfl rfl)
theorem dX4_append_23 : decode cX4_append 23 = .ok (.aload_n 0, 1) := dk_42 (dk_at dksX4_append_0 23 rfl rfl)
theorem dX4_append_24 : decode cX4_append 24 = .ok (.iload 4, 2) := dk_21 4 (dk_at dksX4_append_1 0 rfl rfl)
theorem dX4_append_26 : decode cX4_append 26 = .ok (.ifCond .eq 19, 3) := dk_153 0 19 (dk_at dksX4_append_1 2 rfl rfl)
theorem dX4_append_29 : decode cX4_append 29 = .ok (.iload 4, 2) := dk_21 4 (dk_at dksX4_append_1 5 rfl rfl)
theorem dX4_append_31 : decode cX4_append 31 = .ok (.bipush 32, 2) := dk_16 32 (dk_at dksX4_append_1 7 rfl rfl)
theorem dX4_append_33 : decode cX4_append 33 = .ok (.bipush 126, 2) := dk_16 126 (dk_at dksX4_append_1 9 rfl rfl)
theorem dX4_append_35 : decode cX4_append 35 = .ok (.invokestatic 64, 3) := dk_184 0 64 (dk_at dksX4_append_1 11 rfl rfl)
theorem dX4_append_38 : decode cX4_append 38 = .ok (.ifCond .ne 7, 3) := dk_154 0 7 (dk_at dksX4_append_1 14 rfl rfl)
theorem dX4_append_41 : decode cX4_append 41 = .ok (.iconst 1, 1) := dk_4 (dk_at dksX4_append_1 17 rfl rfl)
theorem dX4_append_42 : decode cX4_append 42 = .ok (.goto 7, 3) := dk_167 0 7 (dk_at dksX4_append_1 18 rfl rfl)
theorem dX4_append_45 : decode cX4_append 45 = .ok (.aload_n 0, 1) := dk_42 (dk_at dksX4_append_1 21 rfl rfl)
theorem dX4_append_46 : decode cX4_append 46 = .ok (.getfield 52, 3) := dk_180 0 52 (dk_at dksX4_append_2 0 rfl rfl)
theorem dX4_append_49 : decode cX4_append 49 = .ok (.putfield 52, 3) := dk_181 0 52 (dk_at dksX4_append_2 3 rfl rfl)
theorem dX4_append_52 : decode cX4_append 52 = .ok (.iload_n 2, 1) := dk_28 (dk_at dksX4_append_2 6 rfl rfl)
theorem dX4_append_53 : decode cX4_append 53 = .ok (.iload 4, 2) := dk_21 4 (dk_at dksX4_append_2 7 rfl rfl)
theorem dX4_append_55 : decode cX4_append 55 = .ok (.ifCond .eq 7, 3) := dk_153 0 7 (dk_at dksX4_append_2 9 rfl rfl)
theorem dX4_append_58 : decode cX4_append 58 = .ok (.iconst 1, 1) := dk_4 (dk_at dksX4_append_2 12 rfl rfl)
theorem dX4_append_59 : decode cX4_append 59 = .ok (.goto 4, 3) := dk_167 0 4 (dk_at dksX4_append_2 13 rfl rfl)
theorem dX4_append_62 : decode cX4_append 62 = .ok (.iconst 0, 1) := dk_3 (dk_at dksX4_append_2 16 rfl rfl)
theorem dX4_append_63 : decode cX4_append 63 = .ok (.iadd, 1) := dk_96 (dk_at dksX4_append_2 17 rfl rfl)
theorem dX4_append_64 : decode cX4_append 64 = .ok (.istore_n 2, 1) := dk_61 (dk_at dksX4_append_2 18 rfl rfl)
theorem dX4_append_65 : decode cX4_append 65 = .ok (.iinc 3 (-8), 3) := dk_132 3 248 (dk_at dksX4_append_2 19 rfl rfl)
theorem dX4_append_68 : decode cX4_append 68 = .ok (.goto (-58), 3) := dk_167 255 198 (dk_at dksX4_append_3 0 rfl rfl)
theorem dX4_append_71 : decode cX4_append 71 = .ok (.aload_n 0, 1) := dk_42 (dk_at dksX4_append_3 3 rfl rfl)
theorem dX4_append_72 : decode cX4_append 72 = .ok (.aload_n 0, 1) := dk_42 (dk_at dksX4_append_3 4 rfl rfl)
theorem dX4_append_73 : decode cX4_append 73 = .ok (.getfield 52, 3) := dk_180 0 52 (dk_at dksX4_append_3 5 rfl rfl)
theorem dX4_append_76 : decode cX4_append 76 = .ok (.ifCond .ne 18, 3) := dk_154 0 18 (dk_at dksX4_append_3 8 rfl rfl)
theorem dX4_append_79 : decode cX4_append 79 = .ok (.aload_n 0, 1) := dk_42 (dk_at dksX4_append_3 11 rfl rfl)
theorem dX4_append_80 : decode cX4_append 80 = .ok (.getfield 246, 3) := dk_180 0 246 (dk_at dksX4_append_3 12 rfl rfl)
theorem dX4_append_83 : decode cX4_append 83 = .ok (.iload_n 2, 1) := dk_28 (dk_at dksX4_append_3 15 rfl rfl)
theorem dX4_append_84 : decode cX4_append 84 = .ok (.iadd, 1) := dk_96 (dk_at dksX4_append_3 16 rfl rfl)
theorem dX4_append_85 : decode cX4_append 85 = .ok (.bipush 60, 2) := dk_16 60 (dk_at dksX4_append_3 17 rfl rfl)
theorem dX4_append_87 : decode cX4_append 87 = .ok (.if_icmp .le 7, 3) := dk_164 0 7 (dk_at dksX4_append_3 19 rfl rfl)
theorem dX4_append_90 : decode cX4_append 90 = .ok (.iconst 2, 1) := dk_5 (dk_at dksX4_append_3 22 rfl rfl)
theorem dX4_append_91 : decode cX4_append 91 = .ok (.goto 7, 3) := dk_167 0 7 (dk_at dksX4_append_4 0 rfl rfl)
theorem dX4_append_94 : decode cX4_append 94 = .ok (.aload_n 0, 1) := dk_42 (dk_at dksX4_append_4 3 rfl rfl)
theorem dX4_append_95 : decode cX4_append 95 = .ok (.getfield 52, 3) := dk_180 0 52 (dk_at dksX4_append_4 4 rfl rfl)
theorem dX4_append_98 : decode cX4_append 98 = .ok (.putfield 52, 3) := dk_181 0 52 (dk_at dksX4_append_4 7 rfl rfl)
theorem dX4_append_101 : decode cX4_append 101 = .ok (.bipush 24, 2) := dk_16 24 (dk_at dksX4_append_4 10 rfl rfl)
theorem dX4_append_103 : decode cX4_append 103 = .ok (.istore_n 3, 1) := dk_62 (dk_at dksX4_append_4 12 rfl rfl)
theorem dX4_append_104 : decode cX4_append 104 = .ok (.iload_n 3, 1) := dk_29 (dk_at dksX4_append_4 13 rfl rfl)
theorem dX4_append_105 : decode cX4_append 105 = .ok (.ifCond .lt 52, 3) := dk_155 0 52 (dk_at dksX4_append_4 14 rfl rfl)
theorem dX4_append_108 : decode cX4_append 108 = .ok (.aload_n 0, 1) := dk_42 (dk_at dksX4_append_4 17 rfl rfl)
theorem dX4_append_109 : decode cX4_append 109 = .ok (.getfield 52, 3) := dk_180 0 52 (dk_at dksX4_append_4 18 rfl rfl)
theorem dX4_append_112 : decode cX4_append 112 = .ok (.ifCond .ne 45, 3) := dk_154 0 45 (dk_at dksX4_append_4 21 rfl rfl)
theorem dX4_append_115 : decode cX4_append 115 = .ok (.iload_n 1, 1) := dk_27 (dk_at dksX4_append_5 0 rfl rfl)
theorem dX4_append_116 : decode cX4_append 116 = .ok (.iload_n 3, 1) := dk_29 (dk_at dksX4_append_5 1 rfl rfl)
theorem dX4_append_117 : decode cX4_append 117 = .ok (.iushr, 1) := dk_124 (dk_at dksX4_append_5 2 rfl rfl)
theorem dX4_append_118 : decode cX4_append 118 = .ok (.sipush 255, 3) := dk_17 0 255 (dk_at dksX4_append_5 3 rfl rfl)
theorem dX4_append_121 : decode cX4_append 121 = .ok (.iand, 1) := dk_126 (dk_at dksX4_append_5 6 rfl rfl)
theorem dX4_append_122 : decode cX4_append 122 = .ok (.istore 4, 2) := dk_54 4 (dk_at dksX4_append_5 7 rfl rfl)
theorem dX4_append_124 : decode cX4_append 124 = .ok (.iload 4, 2) := dk_21 4 (dk_at dksX4_append_5 9 rfl rfl)
theorem dX4_append_126 : decode cX4_append 126 = .ok (.ifCond .eq 25, 3) := dk_153 0 25 (dk_at dksX4_append_5 11 rfl rfl)
theorem dX4_append_129 : decode cX4_append 129 = .ok (.aload_n 0, 1) := dk_42 (dk_at dksX4_append_5 14 rfl rfl)
theorem dX4_append_130 : decode cX4_append 130 = .ok (.getfield 36, 3) := dk_180 0 36 (dk_at dksX4_append_5 15 rfl rfl)
theorem dX4_append_133 : decode cX4_append 133 = .ok (.aload_n 0, 1) := dk_42 (dk_at dksX4_append_5 18 rfl rfl)
theorem dX4_append_134 : decode cX4_append 134 = .ok (.getfield 246, 3) := dk_180 0 246 (dk_at dksX4_append_5 19 rfl rfl)
theorem dX4_append_137 : decode cX4_append 137 = .ok (.iload 4, 2) := dk_21 4 (dk_at dksX4_append_5 22 rfl rfl)
theorem dX4_append_139 : decode cX4_append 139 = .ok (.i2c, 1) := dk_146 (dk_at dksX4_append_6 0 rfl rfl)
theorem dX4_append_140 : decode cX4_append 140 = .ok (.castore, 1) := dk_85 (dk_at dksX4_append_6 1 rfl rfl)
theorem dX4_append_141 : decode cX4_append 141 = .ok (.aload_n 0, 1) := dk_42 (dk_at dksX4_append_6 2 rfl rfl)
theorem dX4_append_142 : decode cX4_append 142 = .ok (.dup, 1) := dk_89 (dk_at dksX4_append_6 3 rfl rfl)
theorem dX4_append_143 : decode cX4_append 143 = .ok (.getfield 246, 3) := dk_180 0 246 (dk_at dksX4_append_6 4 rfl rfl)
theorem dX4_append_146 : decode cX4_append 146 = .ok (.iconst 1, 1) := dk_4 (dk_at dksX4_append_6 7 rfl rfl)
theorem dX4_append_147 : decode cX4_append 147 = .ok (.iadd, 1) := dk_96 (dk_at dksX4_append_6 8 rfl rfl)
theorem dX4_append_148 : decode cX4_append 148 = .ok (.putfield 246, 3) := dk_181 0 246 (dk_at dksX4_append_6 9 rfl rfl)
theorem dX4_append_151 : decode cX4_append 151 = .ok (.iinc 3 (-8), 3) := dk_132 3 248 (dk_at dksX4_append_6 12 rfl rfl)
theorem dX4_append_154 : decode cX4_append 154 = .ok (.goto (-50), 3) := dk_167 255 206 (dk_at dksX4_append_6 15 rfl rfl)
theorem dX4_append_157 : decode cX4_append 157 = .ok (.aload_n 0, 1) := dk_42 (dk_at dksX4_append_6 18 rfl rfl)
theorem dX4_append_158 : decode cX4_append 158 = .ok (.getfield 52, 3) := dk_180 0 52 (dk_at dksX4_append_6 19 rfl rfl)
theorem dX4_append_161 : decode cX4_append 161 = .ok (.ifCond .le 7, 3) := dk_158 0 7 (dk_at dksX4_append_7 0 rfl rfl)
theorem dX4_append_164 : decode cX4_append 164 = .ok (.iconst 0, 1) := dk_3 (dk_at dksX4_append_7 3 rfl rfl)
theorem dX4_append_165 : decode cX4_append 165 = .ok (.goto 7, 3) := dk_167 0 7 (dk_at dksX4_append_7 4 rfl rfl)
theorem dX4_append_168 : decode cX4_append 168 = .ok (.aload_n 0, 1) := dk_42 (dk_at dksX4_append_7 7 rfl rfl)
theorem dX4_append_169 : decode cX4_append 169 = .ok (.getfield 246, 3) := dk_180 0 246 (dk_at dksX4_append_7 8 rfl rfl)
theorem dX4_append_172 : decode cX4_append 172 = .ok (.ireturn, 1) := dk_172 (dk_at dksX4_append_7 11 rfl rfl)
abbrev cX4_read : ByteArray := prog_14_method_92_code
def yX4_read : MethodName := ⟨RX4, "read", "()I"⟩
def dkwX4_read_7 : List UInt8 := [42, 42, 180, 1, 19, 182, 0, 87, 172]
abbrev dktX4_read_7 : List UInt8 := dkwX4_read_7 ++ []
def dkwX4_read_6 : List UInt8 := [158, 0, 18, 42, 27, 181, 0, 43, 42, 42, 5, 182, 0, 72, 182, 0, 87, 172, 132, 1, 1, 167, 255, 218]
abbrev dktX4_read_6 : List UInt8 := dkwX4_read_6 ++ dktX4_read_7
def dkwX4_read_5 : List UInt8 := [182, 0, 80, 3, 60, 27, 42, 180, 1, 19, 162, 0, 36, 42, 27, 182, 1, 31, 42, 180, 0, 52]
abbrev dktX4_read_5 : List UInt8 := dkwX4_read_5 ++ dktX4_read_6
def dkwX4_read_4 : List UInt8 := [181, 0, 39, 42, 3, 181, 0, 246, 42, 180, 0, 251, 153, 0, 9, 42, 4, 182, 0, 72, 172, 42]
abbrev dktX4_read_4 : List UInt8 := dkwX4_read_4 ++ dktX4_read_5
def dkwX4_read_3 : List UInt8 := [181, 0, 251, 42, 42, 180, 0, 251, 153, 0, 10, 42, 180, 0, 255, 167, 0, 7, 42, 180, 0, 39]
abbrev dktX4_read_3 : List UInt8 := dkwX4_read_3 ++ dktX4_read_4
def dkwX4_read_2 : List UInt8 := [42, 180, 0, 251, 154, 0, 14, 42, 180, 0, 255, 42, 180, 0, 246, 162, 0, 7, 4, 167, 0, 4, 3]
abbrev dktX4_read_2 : List UInt8 := dkwX4_read_2 ++ dktX4_read_3
def dkwX4_read_1 : List UInt8 := [182, 1, 1, 153, 0, 20, 42, 89, 180, 0, 255, 4, 96, 181, 0, 255, 42, 182, 1, 28, 167, 255, 231, 42]
abbrev dktX4_read_1 : List UInt8 := dkwX4_read_1 ++ dktX4_read_2
def dkwX4_read_0 : List UInt8 := [42, 3, 181, 0, 255, 42, 3, 181, 0, 251, 42, 3, 181, 1, 19, 42, 182, 1, 28, 42, 16, 59, 16, 59]
abbrev dktX4_read_0 : List UInt8 := dkwX4_read_0 ++ dktX4_read_1
theorem dksX4_read_0 : cX4_read.data.toList.drop 0 = dktX4_read_0 := by decide +kernel
theorem dksX4_read_1 : cX4_read.data.toList.drop 24 = dktX4_read_1 := dk_seg dksX4_read_0 24 rfl rfl
theorem dksX4_read_2 : cX4_read.data.toList.drop 48 = dktX4_read_2 := dk_seg dksX4_read_1 24 rfl rfl
theorem dksX4_read_3 : cX4_read.data.toList.drop 71 = dktX4_read_3 := dk_seg dksX4_read_2 23 rfl rfl
theorem dksX4_read_4 : cX4_read.data.toList.drop 93 = dktX4_read_4 := dk_seg dksX4_read_3 22 rfl rfl
theorem dksX4_read_5 : cX4_read.data.toList.drop 115 = dktX4_read_5 := dk_seg dksX4_read_4 22 rfl rfl
theorem dksX4_read_6 : cX4_read.data.toList.drop 137 = dktX4_read_6 := dk_seg dksX4_read_5 22 rfl rfl
theorem dksX4_read_7 : cX4_read.data.toList.drop 161 = dktX4_read_7 := dk_seg dksX4_read_6 24 rfl rfl
theorem dX4_read_0 : decode cX4_read 0 = .ok (.aload_n 0, 1) := dk_42 (dk_at dksX4_read_0 0 rfl rfl)
theorem dX4_read_1 : decode cX4_read 1 = .ok (.iconst 0, 1) := dk_3 (dk_at dksX4_read_0 1 rfl rfl)
theorem dX4_read_2 : decode cX4_read 2 = .ok (.putfield 255, 3) := dk_181 0 255 (dk_at dksX4_read_0 2 rfl rfl)
theorem dX4_read_5 : decode cX4_read 5 = .ok (.aload_n 0, 1) := dk_42 (dk_at dksX4_read_0 5 rfl rfl)
theorem dX4_read_6 : decode cX4_read 6 = .ok (.iconst 0, 1) := dk_3 (dk_at dksX4_read_0 6 rfl rfl)
theorem dX4_read_7 : decode cX4_read 7 = .ok (.putfield 251, 3) := dk_181 0 251 (dk_at dksX4_read_0 7 rfl rfl)
theorem dX4_read_10 : decode cX4_read 10 = .ok (.aload_n 0, 1) := dk_42 (dk_at dksX4_read_0 10 rfl rfl)
theorem dX4_read_11 : decode cX4_read 11 = .ok (.iconst 0, 1) := dk_3 (dk_at dksX4_read_0 11 rfl rfl)
theorem dX4_read_12 : decode cX4_read 12 = .ok (.putfield 275, 3) := dk_181 1 19 (dk_at dksX4_read_0 12 rfl rfl)
theorem dX4_read_15 : decode cX4_read 15 = .ok (.aload_n 0, 1) := dk_42 (dk_at dksX4_read_0 15 rfl rfl)
theorem dX4_read_16 : decode cX4_read 16 = .ok (.invokevirtual 284, 3) := dk_182 1 28 (dk_at dksX4_read_0 16 rfl rfl)
theorem dX4_read_19 : decode cX4_read 19 = .ok (.aload_n 0, 1) := dk_42 (dk_at dksX4_read_0 19 rfl rfl)
theorem dX4_read_20 : decode cX4_read 20 = .ok (.bipush 59, 2) := dk_16 59 (dk_at dksX4_read_0 20 rfl rfl)
theorem dX4_read_22 : decode cX4_read 22 = .ok (.bipush 59, 2) := dk_16 59 (dk_at dksX4_read_0 22 rfl rfl)
theorem dX4_read_24 : decode cX4_read 24 = .ok (.invokevirtual 257, 3) := dk_182 1 1 (dk_at dksX4_read_1 0 rfl rfl)
theorem dX4_read_27 : decode cX4_read 27 = .ok (.ifCond .eq 20, 3) := dk_153 0 20 (dk_at dksX4_read_1 3 rfl rfl)
theorem dX4_read_30 : decode cX4_read 30 = .ok (.aload_n 0, 1) := dk_42 (dk_at dksX4_read_1 6 rfl rfl)
theorem dX4_read_31 : decode cX4_read 31 = .ok (.dup, 1) := dk_89 (dk_at dksX4_read_1 7 rfl rfl)
theorem dX4_read_32 : decode cX4_read 32 = .ok (.getfield 255, 3) := dk_180 0 255 (dk_at dksX4_read_1 8 rfl rfl)
theorem dX4_read_35 : decode cX4_read 35 = .ok (.iconst 1, 1) := dk_4 (dk_at dksX4_read_1 11 rfl rfl)
theorem dX4_read_36 : decode cX4_read 36 = .ok (.iadd, 1) := dk_96 (dk_at dksX4_read_1 12 rfl rfl)
theorem dX4_read_37 : decode cX4_read 37 = .ok (.putfield 255, 3) := dk_181 0 255 (dk_at dksX4_read_1 13 rfl rfl)
theorem dX4_read_40 : decode cX4_read 40 = .ok (.aload_n 0, 1) := dk_42 (dk_at dksX4_read_1 16 rfl rfl)
theorem dX4_read_41 : decode cX4_read 41 = .ok (.invokevirtual 284, 3) := dk_182 1 28 (dk_at dksX4_read_1 17 rfl rfl)
theorem dX4_read_44 : decode cX4_read 44 = .ok (.goto (-25), 3) := dk_167 255 231 (dk_at dksX4_read_1 20 rfl rfl)
theorem dX4_read_47 : decode cX4_read 47 = .ok (.aload_n 0, 1) := dk_42 (dk_at dksX4_read_1 23 rfl rfl)
theorem dX4_read_48 : decode cX4_read 48 = .ok (.aload_n 0, 1) := dk_42 (dk_at dksX4_read_2 0 rfl rfl)
theorem dX4_read_49 : decode cX4_read 49 = .ok (.getfield 251, 3) := dk_180 0 251 (dk_at dksX4_read_2 1 rfl rfl)
theorem dX4_read_52 : decode cX4_read 52 = .ok (.ifCond .ne 14, 3) := dk_154 0 14 (dk_at dksX4_read_2 4 rfl rfl)
theorem dX4_read_55 : decode cX4_read 55 = .ok (.aload_n 0, 1) := dk_42 (dk_at dksX4_read_2 7 rfl rfl)
theorem dX4_read_56 : decode cX4_read 56 = .ok (.getfield 255, 3) := dk_180 0 255 (dk_at dksX4_read_2 8 rfl rfl)
theorem dX4_read_59 : decode cX4_read 59 = .ok (.aload_n 0, 1) := dk_42 (dk_at dksX4_read_2 11 rfl rfl)
theorem dX4_read_60 : decode cX4_read 60 = .ok (.getfield 246, 3) := dk_180 0 246 (dk_at dksX4_read_2 12 rfl rfl)
theorem dX4_read_63 : decode cX4_read 63 = .ok (.if_icmp .ge 7, 3) := dk_162 0 7 (dk_at dksX4_read_2 15 rfl rfl)
theorem dX4_read_66 : decode cX4_read 66 = .ok (.iconst 1, 1) := dk_4 (dk_at dksX4_read_2 18 rfl rfl)
theorem dX4_read_67 : decode cX4_read 67 = .ok (.goto 4, 3) := dk_167 0 4 (dk_at dksX4_read_2 19 rfl rfl)
theorem dX4_read_70 : decode cX4_read 70 = .ok (.iconst 0, 1) := dk_3 (dk_at dksX4_read_2 22 rfl rfl)
theorem dX4_read_71 : decode cX4_read 71 = .ok (.putfield 251, 3) := dk_181 0 251 (dk_at dksX4_read_3 0 rfl rfl)
theorem dX4_read_74 : decode cX4_read 74 = .ok (.aload_n 0, 1) := dk_42 (dk_at dksX4_read_3 3 rfl rfl)
theorem dX4_read_75 : decode cX4_read 75 = .ok (.aload_n 0, 1) := dk_42 (dk_at dksX4_read_3 4 rfl rfl)
theorem dX4_read_76 : decode cX4_read 76 = .ok (.getfield 251, 3) := dk_180 0 251 (dk_at dksX4_read_3 5 rfl rfl)
theorem dX4_read_79 : decode cX4_read 79 = .ok (.ifCond .eq 10, 3) := dk_153 0 10 (dk_at dksX4_read_3 8 rfl rfl)
theorem dX4_read_82 : decode cX4_read 82 = .ok (.aload_n 0, 1) := dk_42 (dk_at dksX4_read_3 11 rfl rfl)
theorem dX4_read_83 : decode cX4_read 83 = .ok (.getfield 255, 3) := dk_180 0 255 (dk_at dksX4_read_3 12 rfl rfl)
theorem dX4_read_86 : decode cX4_read 86 = .ok (.goto 7, 3) := dk_167 0 7 (dk_at dksX4_read_3 15 rfl rfl)
theorem dX4_read_89 : decode cX4_read 89 = .ok (.aload_n 0, 1) := dk_42 (dk_at dksX4_read_3 18 rfl rfl)
theorem dX4_read_90 : decode cX4_read 90 = .ok (.getfield 39, 3) := dk_180 0 39 (dk_at dksX4_read_3 19 rfl rfl)
theorem dX4_read_93 : decode cX4_read 93 = .ok (.putfield 39, 3) := dk_181 0 39 (dk_at dksX4_read_4 0 rfl rfl)
theorem dX4_read_96 : decode cX4_read 96 = .ok (.aload_n 0, 1) := dk_42 (dk_at dksX4_read_4 3 rfl rfl)
theorem dX4_read_97 : decode cX4_read 97 = .ok (.iconst 0, 1) := dk_3 (dk_at dksX4_read_4 4 rfl rfl)
theorem dX4_read_98 : decode cX4_read 98 = .ok (.putfield 246, 3) := dk_181 0 246 (dk_at dksX4_read_4 5 rfl rfl)
theorem dX4_read_101 : decode cX4_read 101 = .ok (.aload_n 0, 1) := dk_42 (dk_at dksX4_read_4 8 rfl rfl)
theorem dX4_read_102 : decode cX4_read 102 = .ok (.getfield 251, 3) := dk_180 0 251 (dk_at dksX4_read_4 9 rfl rfl)
theorem dX4_read_105 : decode cX4_read 105 = .ok (.ifCond .eq 9, 3) := dk_153 0 9 (dk_at dksX4_read_4 12 rfl rfl)
theorem dX4_read_108 : decode cX4_read 108 = .ok (.aload_n 0, 1) := dk_42 (dk_at dksX4_read_4 15 rfl rfl)
theorem dX4_read_109 : decode cX4_read 109 = .ok (.iconst 1, 1) := dk_4 (dk_at dksX4_read_4 16 rfl rfl)
theorem dX4_read_110 : decode cX4_read 110 = .ok (.invokevirtual 72, 3) := dk_182 0 72 (dk_at dksX4_read_4 17 rfl rfl)
theorem dX4_read_113 : decode cX4_read 113 = .ok (.ireturn, 1) := dk_172 (dk_at dksX4_read_4 20 rfl rfl)
theorem dX4_read_114 : decode cX4_read 114 = .ok (.aload_n 0, 1) := dk_42 (dk_at dksX4_read_4 21 rfl rfl)
theorem dX4_read_115 : decode cX4_read 115 = .ok (.invokevirtual 80, 3) := dk_182 0 80 (dk_at dksX4_read_5 0 rfl rfl)
theorem dX4_read_118 : decode cX4_read 118 = .ok (.iconst 0, 1) := dk_3 (dk_at dksX4_read_5 3 rfl rfl)
theorem dX4_read_119 : decode cX4_read 119 = .ok (.istore_n 1, 1) := dk_60 (dk_at dksX4_read_5 4 rfl rfl)
theorem dX4_read_120 : decode cX4_read 120 = .ok (.iload_n 1, 1) := dk_27 (dk_at dksX4_read_5 5 rfl rfl)
theorem dX4_read_121 : decode cX4_read 121 = .ok (.aload_n 0, 1) := dk_42 (dk_at dksX4_read_5 6 rfl rfl)
theorem dX4_read_122 : decode cX4_read 122 = .ok (.getfield 275, 3) := dk_180 1 19 (dk_at dksX4_read_5 7 rfl rfl)
theorem dX4_read_125 : decode cX4_read 125 = .ok (.if_icmp .ge 36, 3) := dk_162 0 36 (dk_at dksX4_read_5 10 rfl rfl)
theorem dX4_read_128 : decode cX4_read 128 = .ok (.aload_n 0, 1) := dk_42 (dk_at dksX4_read_5 13 rfl rfl)
theorem dX4_read_129 : decode cX4_read 129 = .ok (.iload_n 1, 1) := dk_27 (dk_at dksX4_read_5 14 rfl rfl)
theorem dX4_read_130 : decode cX4_read 130 = .ok (.invokevirtual 287, 3) := dk_182 1 31 (dk_at dksX4_read_5 15 rfl rfl)
theorem dX4_read_133 : decode cX4_read 133 = .ok (.aload_n 0, 1) := dk_42 (dk_at dksX4_read_5 18 rfl rfl)
theorem dX4_read_134 : decode cX4_read 134 = .ok (.getfield 52, 3) := dk_180 0 52 (dk_at dksX4_read_5 19 rfl rfl)
theorem dX4_read_137 : decode cX4_read 137 = .ok (.ifCond .le 18, 3) := dk_158 0 18 (dk_at dksX4_read_6 0 rfl rfl)
theorem dX4_read_140 : decode cX4_read 140 = .ok (.aload_n 0, 1) := dk_42 (dk_at dksX4_read_6 3 rfl rfl)
theorem dX4_read_141 : decode cX4_read 141 = .ok (.iload_n 1, 1) := dk_27 (dk_at dksX4_read_6 4 rfl rfl)
theorem dX4_read_142 : decode cX4_read 142 = .ok (.putfield 43, 3) := dk_181 0 43 (dk_at dksX4_read_6 5 rfl rfl)
theorem dX4_read_145 : decode cX4_read 145 = .ok (.aload_n 0, 1) := dk_42 (dk_at dksX4_read_6 8 rfl rfl)
theorem dX4_read_146 : decode cX4_read 146 = .ok (.aload_n 0, 1) := dk_42 (dk_at dksX4_read_6 9 rfl rfl)
theorem dX4_read_147 : decode cX4_read 147 = .ok (.iconst 2, 1) := dk_5 (dk_at dksX4_read_6 10 rfl rfl)
theorem dX4_read_148 : decode cX4_read 148 = .ok (.invokevirtual 72, 3) := dk_182 0 72 (dk_at dksX4_read_6 11 rfl rfl)
theorem dX4_read_151 : decode cX4_read 151 = .ok (.invokevirtual 87, 3) := dk_182 0 87 (dk_at dksX4_read_6 14 rfl rfl)
theorem dX4_read_154 : decode cX4_read 154 = .ok (.ireturn, 1) := dk_172 (dk_at dksX4_read_6 17 rfl rfl)
theorem dX4_read_155 : decode cX4_read 155 = .ok (.iinc 1 1, 3) := dk_132 1 1 (dk_at dksX4_read_6 18 rfl rfl)
theorem dX4_read_158 : decode cX4_read 158 = .ok (.goto (-38), 3) := dk_167 255 218 (dk_at dksX4_read_6 21 rfl rfl)
theorem dX4_read_161 : decode cX4_read 161 = .ok (.aload_n 0, 1) := dk_42 (dk_at dksX4_read_7 0 rfl rfl)
theorem dX4_read_162 : decode cX4_read 162 = .ok (.aload_n 0, 1) := dk_42 (dk_at dksX4_read_7 1 rfl rfl)
theorem dX4_read_163 : decode cX4_read 163 = .ok (.getfield 275, 3) := dk_180 1 19 (dk_at dksX4_read_7 2 rfl rfl)
theorem dX4_read_166 : decode cX4_read 166 = .ok (.invokevirtual 87, 3) := dk_182 0 87 (dk_at dksX4_read_7 5 rfl rfl)
theorem dX4_read_169 : decode cX4_read 169 = .ok (.ireturn, 1) := dk_172 (dk_at dksX4_read_7 8 rfl rfl)
abbrev cX4_readOrder : ByteArray := prog_14_method_90_code
def yX4_readOrder : MethodName := ⟨RX4, "readOrder", "()V"⟩
def dkwX4_readOrder_11 : List UInt8 := [96, 42, 16, 48, 16, 57, 182, 1, 5, 79, 177]
abbrev dktX4_readOrder_11 : List UInt8 := dkwX4_readOrder_11 ++ []
def dkwX4_readOrder_10 : List UInt8 := [167, 0, 34, 42, 180, 0, 46, 28, 4, 96, 42, 182, 1, 9, 79, 167, 0, 19, 42, 180, 0, 46, 28, 4]
abbrev dktX4_readOrder_10 : List UInt8 := dkwX4_readOrder_10 ++ dktX4_readOrder_11
def dkwX4_readOrder_9 : List UInt8 := [180, 0, 46, 28, 4, 96, 42, 182, 1, 9, 79, 42, 180, 0, 46, 28, 5, 96, 42, 182, 1, 25, 79]
abbrev dktX4_readOrder_9 : List UInt8 := dkwX4_readOrder_9 ++ dktX4_readOrder_10
def dkwX4_readOrder_8 : List UInt8 := [5, 96, 42, 182, 1, 25, 79, 42, 180, 0, 46, 28, 6, 96, 42, 182, 1, 9, 79, 167, 0, 61, 42]
abbrev dktX4_readOrder_8 : List UInt8 := dkwX4_readOrder_8 ++ dktX4_readOrder_9
def dkwX4_readOrder_7 : List UInt8 := [167, 0, 104, 42, 180, 0, 46, 28, 4, 96, 42, 16, 48, 16, 57, 182, 1, 5, 79, 42, 180, 0, 46, 28]
abbrev dktX4_readOrder_7 : List UInt8 := dkwX4_readOrder_7 ++ dktX4_readOrder_8
def dkwX4_readOrder_6 : List UInt8 := [180, 0, 46, 28, 4, 96, 42, 16, 48, 16, 57, 182, 1, 5, 79, 42, 28, 5, 96, 182, 1, 22]
abbrev dktX4_readOrder_6 : List UInt8 := dkwX4_readOrder_6 ++ dktX4_readOrder_7
def dkwX4_readOrder_5 : List UInt8 := [42, 180, 0, 46, 28, 4, 96, 42, 182, 1, 9, 79, 42, 28, 5, 96, 182, 1, 22, 167, 0, 130, 42]
abbrev dktX4_readOrder_5 : List UInt8 := dkwX4_readOrder_5 ++ dktX4_readOrder_6
def dkwX4_readOrder_4 : List UInt8 := [170, 0, 0, 0, 0, 0, 208, 0, 0, 0, 98, 0, 0, 0, 112, 0, 0, 0, 75, 0, 0, 0, 193, 0, 0, 0, 193, 0, 0, 0, 208, 0, 0, 0, 208, 0, 0, 0, 208, 0, 0, 0, 97, 0, 0, 0, 208, 0, 0, 0, 208, 0, 0, 0, 208, 0, 0, 0, 208, 0, 0, 0, 208, 0, 0, 0, 208, 0, 0, 0, 123, 0, 0, 0, 166]
abbrev dktX4_readOrder_4 : List UInt8 := dkwX4_readOrder_4 ++ dktX4_readOrder_5
def dkwX4_readOrder_3 : List UInt8 := [4, 96, 181, 1, 19, 42, 180, 0, 46, 28, 27, 79, 27]
abbrev dktX4_readOrder_3 : List UInt8 := dkwX4_readOrder_3 ++ dktX4_readOrder_4
def dkwX4_readOrder_2 : List UInt8 := [177, 42, 89, 180, 0, 255, 4, 96, 181, 0, 255, 16, 6, 42, 180, 1, 19, 104, 61, 42, 89, 180, 1, 19]
abbrev dktX4_readOrder_2 : List UInt8 := dkwX4_readOrder_2 ++ dktX4_readOrder_3
def dkwX4_readOrder_1 : List UInt8 := [180, 0, 255, 52, 167, 0, 4, 3, 60, 19, 1, 12, 27, 182, 1, 14, 156, 0, 9, 42, 4, 181, 0, 251]
abbrev dktX4_readOrder_1 : List UInt8 := dkwX4_readOrder_1 ++ dktX4_readOrder_2
def dkwX4_readOrder_0 : List UInt8 := [42, 180, 0, 251, 153, 0, 4, 177, 42, 180, 0, 255, 42, 180, 0, 246, 162, 0, 15, 42, 180, 0, 36, 42]
abbrev dktX4_readOrder_0 : List UInt8 := dkwX4_readOrder_0 ++ dktX4_readOrder_1
theorem dksX4_readOrder_0 : cX4_readOrder.data.toList.drop 0 = dktX4_readOrder_0 := by decide +kernel
theorem dksX4_readOrder_1 : cX4_readOrder.data.toList.drop 24 = dktX4_readOrder_1 := dk_seg dksX4_readOrder_0 24 rfl rfl
theorem dksX4_readOrder_2 : cX4_readOrder.data.toList.drop 48 = dktX4_readOrder_2 := dk_seg dksX4_readOrder_1 24 rfl rfl
theorem dksX4_readOrder_3 : cX4_readOrder.data.toList.drop 72 = dktX4_readOrder_3 := dk_seg dksX4_readOrder_2 24 rfl rfl
theorem dksX4_readOrder_4 : cX4_readOrder.data.toList.drop 85 = dktX4_readOrder_4 := dk_seg dksX4_readOrder_3 13 rfl rfl
theorem dksX4_readOrder_5 : cX4_readOrder.data.toList.drop 160 = dktX4_readOrder_5 := dk_seg dksX4_readOrder_4 75 rfl rfl
theorem dksX4_readOrder_6 : cX4_readOrder.data.toList.drop 183 = dktX4_readOrder_6 := dk_seg dksX4_readOrder_5 23 rfl rfl
theorem dksX4_readOrder_7 : cX4_readOrder.data.toList.drop 205 = dktX4_readOrder_7 := dk_seg dksX4_readOrder_6 22 rfl rfl
theorem dksX4_readOrder_8 : cX4_readOrder.data.toList.drop 229 = dktX4_readOrder_8 := dk_seg dksX4_readOrder_7 24 rfl rfl
theorem dksX4_readOrder_9 : cX4_readOrder.data.toList.drop 252 = dktX4_readOrder_9 := dk_seg dksX4_readOrder_8 23 rfl rfl
theorem dksX4_readOrder_10 : cX4_readOrder.data.toList.drop 275 = dktX4_readOrder_10 := dk_seg dksX4_readOrder_9 23 rfl rfl
theorem dksX4_readOrder_11 : cX4_readOrder.data.toList.drop 299 = dktX4_readOrder_11 := dk_seg dksX4_readOrder_10 24 rfl rfl
theorem dX4_readOrder_0 : decode cX4_readOrder 0 = .ok (.aload_n 0, 1) := dk_42 (dk_at dksX4_readOrder_0 0 rfl rfl)
theorem dX4_readOrder_1 : decode cX4_readOrder 1 = .ok (.getfield 251, 3) := dk_180 0 251 (dk_at dksX4_readOrder_0 1 rfl rfl)
theorem dX4_readOrder_4 : decode cX4_readOrder 4 = .ok (.ifCond .eq 4, 3) := dk_153 0 4 (dk_at dksX4_readOrder_0 4 rfl rfl)
theorem dX4_readOrder_7 : decode cX4_readOrder 7 = .ok (.return_, 1) := dk_177 (dk_at dksX4_readOrder_0 7 rfl rfl)
theorem dX4_readOrder_8 : decode cX4_readOrder 8 = .ok (.aload_n 0, 1) := dk_42 (dk_at dksX4_readOrder_0 8 rfl rfl)
theorem dX4_readOrder_9 : decode cX4_readOrder 9 = .ok (.getfield 255, 3) := dk_180 0 255 (dk_at dksX4_readOrder_0 9 rfl rfl)
theorem dX4_readOrder_12 : decode cX4_readOrder 12 = .ok (.aload_n 0, 1) := dk_42 (dk_at dksX4_readOrder_0 12 rfl rfl)
theorem dX4_readOrder_13 : decode cX4_readOrder 13 = .ok (.getfield 246, 3) := dk_180 0 246 (dk_at dksX4_readOrder_0 13 rfl rfl)
theorem dX4_readOrder_16 : decode cX4_readOrder 16 = .ok (.if_icmp .ge 15, 3) := dk_162 0 15 (dk_at dksX4_readOrder_0 16 rfl rfl)
theorem dX4_readOrder_19 : decode cX4_readOrder 19 = .ok (.aload_n 0, 1) := dk_42 (dk_at dksX4_readOrder_0 19 rfl rfl)
theorem dX4_readOrder_20 : decode cX4_readOrder 20 = .ok (.getfield 36, 3) := dk_180 0 36 (dk_at dksX4_readOrder_0 20 rfl rfl)
theorem dX4_readOrder_23 : decode cX4_readOrder 23 = .ok (.aload_n 0, 1) := dk_42 (dk_at dksX4_readOrder_0 23 rfl rfl)
theorem dX4_readOrder_24 : decode cX4_readOrder 24 = .ok (.getfield 255, 3) := dk_180 0 255 (dk_at dksX4_readOrder_1 0 rfl rfl)
theorem dX4_readOrder_27 : decode cX4_readOrder 27 = .ok (.caload, 1) := dk_52 (dk_at dksX4_readOrder_1 3 rfl rfl)
theorem dX4_readOrder_28 : decode cX4_readOrder 28 = .ok (.goto 4, 3) := dk_167 0 4 (dk_at dksX4_readOrder_1 4 rfl rfl)
theorem dX4_readOrder_31 : decode cX4_readOrder 31 = .ok (.iconst 0, 1) := dk_3 (dk_at dksX4_readOrder_1 7 rfl rfl)
theorem dX4_readOrder_32 : decode cX4_readOrder 32 = .ok (.istore_n 1, 1) := dk_60 (dk_at dksX4_readOrder_1 8 rfl rfl)
theorem dX4_readOrder_33 : decode cX4_readOrder 33 = .ok (.ldc_w 268, 3) := dk_19 1 12 (dk_at dksX4_readOrder_1 9 rfl rfl)
theorem dX4_readOrder_36 : decode cX4_readOrder 36 = .ok (.iload_n 1, 1) := dk_27 (dk_at dksX4_readOrder_1 12 rfl rfl)
theorem dX4_readOrder_37 : decode cX4_readOrder 37 = .ok (.invokevirtual 270, 3) := dk_182 1 14 (dk_at dksX4_readOrder_1 13 rfl rfl)
theorem dX4_readOrder_40 : decode cX4_readOrder 40 = .ok (.ifCond .ge 9, 3) := dk_156 0 9 (dk_at dksX4_readOrder_1 16 rfl rfl)
theorem dX4_readOrder_43 : decode cX4_readOrder 43 = .ok (.aload_n 0, 1) := dk_42 (dk_at dksX4_readOrder_1 19 rfl rfl)
theorem dX4_readOrder_44 : decode cX4_readOrder 44 = .ok (.iconst 1, 1) := dk_4 (dk_at dksX4_readOrder_1 20 rfl rfl)
theorem dX4_readOrder_45 : decode cX4_readOrder 45 = .ok (.putfield 251, 3) := dk_181 0 251 (dk_at dksX4_readOrder_1 21 rfl rfl)
theorem dX4_readOrder_48 : decode cX4_readOrder 48 = .ok (.return_, 1) := dk_177 (dk_at dksX4_readOrder_2 0 rfl rfl)
theorem dX4_readOrder_49 : decode cX4_readOrder 49 = .ok (.aload_n 0, 1) := dk_42 (dk_at dksX4_readOrder_2 1 rfl rfl)
theorem dX4_readOrder_50 : decode cX4_readOrder 50 = .ok (.dup, 1) := dk_89 (dk_at dksX4_readOrder_2 2 rfl rfl)
theorem dX4_readOrder_51 : decode cX4_readOrder 51 = .ok (.getfield 255, 3) := dk_180 0 255 (dk_at dksX4_readOrder_2 3 rfl rfl)
theorem dX4_readOrder_54 : decode cX4_readOrder 54 = .ok (.iconst 1, 1) := dk_4 (dk_at dksX4_readOrder_2 6 rfl rfl)
theorem dX4_readOrder_55 : decode cX4_readOrder 55 = .ok (.iadd, 1) := dk_96 (dk_at dksX4_readOrder_2 7 rfl rfl)
theorem dX4_readOrder_56 : decode cX4_readOrder 56 = .ok (.putfield 255, 3) := dk_181 0 255 (dk_at dksX4_readOrder_2 8 rfl rfl)
theorem dX4_readOrder_59 : decode cX4_readOrder 59 = .ok (.bipush 6, 2) := dk_16 6 (dk_at dksX4_readOrder_2 11 rfl rfl)
theorem dX4_readOrder_61 : decode cX4_readOrder 61 = .ok (.aload_n 0, 1) := dk_42 (dk_at dksX4_readOrder_2 13 rfl rfl)
theorem dX4_readOrder_62 : decode cX4_readOrder 62 = .ok (.getfield 275, 3) := dk_180 1 19 (dk_at dksX4_readOrder_2 14 rfl rfl)
theorem dX4_readOrder_65 : decode cX4_readOrder 65 = .ok (.imul, 1) := dk_104 (dk_at dksX4_readOrder_2 17 rfl rfl)
theorem dX4_readOrder_66 : decode cX4_readOrder 66 = .ok (.istore_n 2, 1) := dk_61 (dk_at dksX4_readOrder_2 18 rfl rfl)
theorem dX4_readOrder_67 : decode cX4_readOrder 67 = .ok (.aload_n 0, 1) := dk_42 (dk_at dksX4_readOrder_2 19 rfl rfl)
theorem dX4_readOrder_68 : decode cX4_readOrder 68 = .ok (.dup, 1) := dk_89 (dk_at dksX4_readOrder_2 20 rfl rfl)
theorem dX4_readOrder_69 : decode cX4_readOrder 69 = .ok (.getfield 275, 3) := dk_180 1 19 (dk_at dksX4_readOrder_2 21 rfl rfl)
theorem dX4_readOrder_72 : decode cX4_readOrder 72 = .ok (.iconst 1, 1) := dk_4 (dk_at dksX4_readOrder_3 0 rfl rfl)
theorem dX4_readOrder_73 : decode cX4_readOrder 73 = .ok (.iadd, 1) := dk_96 (dk_at dksX4_readOrder_3 1 rfl rfl)
theorem dX4_readOrder_74 : decode cX4_readOrder 74 = .ok (.putfield 275, 3) := dk_181 1 19 (dk_at dksX4_readOrder_3 2 rfl rfl)
theorem dX4_readOrder_77 : decode cX4_readOrder 77 = .ok (.aload_n 0, 1) := dk_42 (dk_at dksX4_readOrder_3 5 rfl rfl)
theorem dX4_readOrder_78 : decode cX4_readOrder 78 = .ok (.getfield 46, 3) := dk_180 0 46 (dk_at dksX4_readOrder_3 6 rfl rfl)
theorem dX4_readOrder_81 : decode cX4_readOrder 81 = .ok (.iload_n 2, 1) := dk_28 (dk_at dksX4_readOrder_3 9 rfl rfl)
theorem dX4_readOrder_82 : decode cX4_readOrder 82 = .ok (.iload_n 1, 1) := dk_27 (dk_at dksX4_readOrder_3 10 rfl rfl)
theorem dX4_readOrder_83 : decode cX4_readOrder 83 = .ok (.iastore, 1) := dk_79 (dk_at dksX4_readOrder_3 11 rfl rfl)
theorem dX4_readOrder_84 : decode cX4_readOrder 84 = .ok (.iload_n 1, 1) := dk_27 (dk_at dksX4_readOrder_3 12 rfl rfl)
theorem dX4_readOrder_85 : decode cX4_readOrder 85 = .ok (.tableswitch 208 98 112 #[75, 193, 193, 208, 208, 208, 97, 208, 208, 208, 208, 208, 208, 123, 166], 75) := by decide +kernel
theorem dX4_readOrder_160 : decode cX4_readOrder 160 = .ok (.aload_n 0, 1) := dk_42 (dk_at dksX4_readOrder_5 0 rfl rfl)
theorem dX4_readOrder_161 : decode cX4_readOrder 161 = .ok (.getfield 46, 3) := dk_180 0 46 (dk_at dksX4_readOrder_5 1 rfl rfl)
theorem dX4_readOrder_164 : decode cX4_readOrder 164 = .ok (.iload_n 2, 1) := dk_28 (dk_at dksX4_readOrder_5 4 rfl rfl)
theorem dX4_readOrder_165 : decode cX4_readOrder 165 = .ok (.iconst 1, 1) := dk_4 (dk_at dksX4_readOrder_5 5 rfl rfl)
theorem dX4_readOrder_166 : decode cX4_readOrder 166 = .ok (.iadd, 1) := dk_96 (dk_at dksX4_readOrder_5 6 rfl rfl)
theorem dX4_readOrder_167 : decode cX4_readOrder 167 = .ok (.aload_n 0, 1) := dk_42 (dk_at dksX4_readOrder_5 7 rfl rfl)
theorem dX4_readOrder_168 : decode cX4_readOrder 168 = .ok (.invokevirtual 265, 3) := dk_182 1 9 (dk_at dksX4_readOrder_5 8 rfl rfl)
theorem dX4_readOrder_171 : decode cX4_readOrder 171 = .ok (.iastore, 1) := dk_79 (dk_at dksX4_readOrder_5 11 rfl rfl)
theorem dX4_readOrder_172 : decode cX4_readOrder 172 = .ok (.aload_n 0, 1) := dk_42 (dk_at dksX4_readOrder_5 12 rfl rfl)
theorem dX4_readOrder_173 : decode cX4_readOrder 173 = .ok (.iload_n 2, 1) := dk_28 (dk_at dksX4_readOrder_5 13 rfl rfl)
theorem dX4_readOrder_174 : decode cX4_readOrder 174 = .ok (.iconst 2, 1) := dk_5 (dk_at dksX4_readOrder_5 14 rfl rfl)
theorem dX4_readOrder_175 : decode cX4_readOrder 175 = .ok (.iadd, 1) := dk_96 (dk_at dksX4_readOrder_5 15 rfl rfl)
theorem dX4_readOrder_176 : decode cX4_readOrder 176 = .ok (.invokevirtual 278, 3) := dk_182 1 22 (dk_at dksX4_readOrder_5 16 rfl rfl)
theorem dX4_readOrder_179 : decode cX4_readOrder 179 = .ok (.goto 130, 3) := dk_167 0 130 (dk_at dksX4_readOrder_5 19 rfl rfl)
theorem dX4_readOrder_182 : decode cX4_readOrder 182 = .ok (.aload_n 0, 1) := dk_42 (dk_at dksX4_readOrder_5 22 rfl rfl)
theorem dX4_readOrder_183 : decode cX4_readOrder 183 = .ok (.getfield 46, 3) := dk_180 0 46 (dk_at dksX4_readOrder_6 0 rfl rfl)
theorem dX4_readOrder_186 : decode cX4_readOrder 186 = .ok (.iload_n 2, 1) := dk_28 (dk_at dksX4_readOrder_6 3 rfl rfl)
theorem dX4_readOrder_187 : decode cX4_readOrder 187 = .ok (.iconst 1, 1) := dk_4 (dk_at dksX4_readOrder_6 4 rfl rfl)
theorem dX4_readOrder_188 : decode cX4_readOrder 188 = .ok (.iadd, 1) := dk_96 (dk_at dksX4_readOrder_6 5 rfl rfl)
theorem dX4_readOrder_189 : decode cX4_readOrder 189 = .ok (.aload_n 0, 1) := dk_42 (dk_at dksX4_readOrder_6 6 rfl rfl)
theorem dX4_readOrder_190 : decode cX4_readOrder 190 = .ok (.bipush 48, 2) := dk_16 48 (dk_at dksX4_readOrder_6 7 rfl rfl)
theorem dX4_readOrder_192 : decode cX4_readOrder 192 = .ok (.bipush 57, 2) := dk_16 57 (dk_at dksX4_readOrder_6 9 rfl rfl)
theorem dX4_readOrder_194 : decode cX4_readOrder 194 = .ok (.invokevirtual 261, 3) := dk_182 1 5 (dk_at dksX4_readOrder_6 11 rfl rfl)
theorem dX4_readOrder_197 : decode cX4_readOrder 197 = .ok (.iastore, 1) := dk_79 (dk_at dksX4_readOrder_6 14 rfl rfl)
theorem dX4_readOrder_198 : decode cX4_readOrder 198 = .ok (.aload_n 0, 1) := dk_42 (dk_at dksX4_readOrder_6 15 rfl rfl)
theorem dX4_readOrder_199 : decode cX4_readOrder 199 = .ok (.iload_n 2, 1) := dk_28 (dk_at dksX4_readOrder_6 16 rfl rfl)
theorem dX4_readOrder_200 : decode cX4_readOrder 200 = .ok (.iconst 2, 1) := dk_5 (dk_at dksX4_readOrder_6 17 rfl rfl)
theorem dX4_readOrder_201 : decode cX4_readOrder 201 = .ok (.iadd, 1) := dk_96 (dk_at dksX4_readOrder_6 18 rfl rfl)
theorem dX4_readOrder_202 : decode cX4_readOrder 202 = .ok (.invokevirtual 278, 3) := dk_182 1 22 (dk_at dksX4_readOrder_6 19 rfl rfl)
theorem dX4_readOrder_205 : decode cX4_readOrder 205 = .ok (.goto 104, 3) := dk_167 0 104 (dk_at dksX4_readOrder_7 0 rfl rfl)
theorem dX4_readOrder_208 : decode cX4_readOrder 208 = .ok (.aload_n 0, 1) := dk_42 (dk_at dksX4_readOrder_7 3 rfl rfl)
theorem dX4_readOrder_209 : decode cX4_readOrder 209 = .ok (.getfield 46, 3) := dk_180 0 46 (dk_at dksX4_readOrder_7 4 rfl rfl)
theorem dX4_readOrder_212 : decode cX4_readOrder 212 = .ok (.iload_n 2, 1) := dk_28 (dk_at dksX4_readOrder_7 7 rfl rfl)
theorem dX4_readOrder_213 : decode cX4_readOrder 213 = .ok (.iconst 1, 1) := dk_4 (dk_at dksX4_readOrder_7 8 rfl rfl)
theorem dX4_readOrder_214 : decode cX4_readOrder 214 = .ok (.iadd, 1) := dk_96 (dk_at dksX4_readOrder_7 9 rfl rfl)
theorem dX4_readOrder_215 : decode cX4_readOrder 215 = .ok (.aload_n 0, 1) := dk_42 (dk_at dksX4_readOrder_7 10 rfl rfl)
theorem dX4_readOrder_216 : decode cX4_readOrder 216 = .ok (.bipush 48, 2) := dk_16 48 (dk_at dksX4_readOrder_7 11 rfl rfl)
theorem dX4_readOrder_218 : decode cX4_readOrder 218 = .ok (.bipush 57, 2) := dk_16 57 (dk_at dksX4_readOrder_7 13 rfl rfl)
theorem dX4_readOrder_220 : decode cX4_readOrder 220 = .ok (.invokevirtual 261, 3) := dk_182 1 5 (dk_at dksX4_readOrder_7 15 rfl rfl)
theorem dX4_readOrder_223 : decode cX4_readOrder 223 = .ok (.iastore, 1) := dk_79 (dk_at dksX4_readOrder_7 18 rfl rfl)
theorem dX4_readOrder_224 : decode cX4_readOrder 224 = .ok (.aload_n 0, 1) := dk_42 (dk_at dksX4_readOrder_7 19 rfl rfl)
theorem dX4_readOrder_225 : decode cX4_readOrder 225 = .ok (.getfield 46, 3) := dk_180 0 46 (dk_at dksX4_readOrder_7 20 rfl rfl)
theorem dX4_readOrder_228 : decode cX4_readOrder 228 = .ok (.iload_n 2, 1) := dk_28 (dk_at dksX4_readOrder_7 23 rfl rfl)
theorem dX4_readOrder_229 : decode cX4_readOrder 229 = .ok (.iconst 2, 1) := dk_5 (dk_at dksX4_readOrder_8 0 rfl rfl)
theorem dX4_readOrder_230 : decode cX4_readOrder 230 = .ok (.iadd, 1) := dk_96 (dk_at dksX4_readOrder_8 1 rfl rfl)
theorem dX4_readOrder_231 : decode cX4_readOrder 231 = .ok (.aload_n 0, 1) := dk_42 (dk_at dksX4_readOrder_8 2 rfl rfl)
theorem dX4_readOrder_232 : decode cX4_readOrder 232 = .ok (.invokevirtual 281, 3) := dk_182 1 25 (dk_at dksX4_readOrder_8 3 rfl rfl)
theorem dX4_readOrder_235 : decode cX4_readOrder 235 = .ok (.iastore, 1) := dk_79 (dk_at dksX4_readOrder_8 6 rfl rfl)
theorem dX4_readOrder_236 : decode cX4_readOrder 236 = .ok (.aload_n 0, 1) := dk_42 (dk_at dksX4_readOrder_8 7 rfl rfl)
theorem dX4_readOrder_237 : decode cX4_readOrder 237 = .ok (.getfield 46, 3) := dk_180 0 46 (dk_at dksX4_readOrder_8 8 rfl rfl)
theorem dX4_readOrder_240 : decode cX4_readOrder 240 = .ok (.iload_n 2, 1) := dk_28 (dk_at dksX4_readOrder_8 11 rfl rfl)
theorem dX4_readOrder_241 : decode cX4_readOrder 241 = .ok (.iconst 3, 1) := dk_6 (dk_at dksX4_readOrder_8 12 rfl rfl)
theorem dX4_readOrder_242 : decode cX4_readOrder 242 = .ok (.iadd, 1) := dk_96 (dk_at dksX4_readOrder_8 13 rfl rfl)
theorem dX4_readOrder_243 : decode cX4_readOrder 243 = .ok (.aload_n 0, 1) := dk_42 (dk_at dksX4_readOrder_8 14 rfl rfl)
theorem dX4_readOrder_244 : decode cX4_readOrder 244 = .ok (.invokevirtual 265, 3) := dk_182 1 9 (dk_at dksX4_readOrder_8 15 rfl rfl)
theorem dX4_readOrder_247 : decode cX4_readOrder 247 = .ok (.iastore, 1) := dk_79 (dk_at dksX4_readOrder_8 18 rfl rfl)
theorem dX4_readOrder_248 : decode cX4_readOrder 248 = .ok (.goto 61, 3) := dk_167 0 61 (dk_at dksX4_readOrder_8 19 rfl rfl)
theorem dX4_readOrder_251 : decode cX4_readOrder 251 = .ok (.aload_n 0, 1) := dk_42 (dk_at dksX4_readOrder_8 22 rfl rfl)
theorem dX4_readOrder_252 : decode cX4_readOrder 252 = .ok (.getfield 46, 3) := dk_180 0 46 (dk_at dksX4_readOrder_9 0 rfl rfl)
theorem dX4_readOrder_255 : decode cX4_readOrder 255 = .ok (.iload_n 2, 1) := dk_28 (dk_at dksX4_readOrder_9 3 rfl rfl)
theorem dX4_readOrder_256 : decode cX4_readOrder 256 = .ok (.iconst 1, 1) := dk_4 (dk_at dksX4_readOrder_9 4 rfl rfl)
theorem dX4_readOrder_257 : decode cX4_readOrder 257 = .ok (.iadd, 1) := dk_96 (dk_at dksX4_readOrder_9 5 rfl rfl)
theorem dX4_readOrder_258 : decode cX4_readOrder 258 = .ok (.aload_n 0, 1) := dk_42 (dk_at dksX4_readOrder_9 6 rfl rfl)
theorem dX4_readOrder_259 : decode cX4_readOrder 259 = .ok (.invokevirtual 265, 3) := dk_182 1 9 (dk_at dksX4_readOrder_9 7 rfl rfl)
theorem dX4_readOrder_262 : decode cX4_readOrder 262 = .ok (.iastore, 1) := dk_79 (dk_at dksX4_readOrder_9 10 rfl rfl)
theorem dX4_readOrder_263 : decode cX4_readOrder 263 = .ok (.aload_n 0, 1) := dk_42 (dk_at dksX4_readOrder_9 11 rfl rfl)
theorem dX4_readOrder_264 : decode cX4_readOrder 264 = .ok (.getfield 46, 3) := dk_180 0 46 (dk_at dksX4_readOrder_9 12 rfl rfl)
theorem dX4_readOrder_267 : decode cX4_readOrder 267 = .ok (.iload_n 2, 1) := dk_28 (dk_at dksX4_readOrder_9 15 rfl rfl)
theorem dX4_readOrder_268 : decode cX4_readOrder 268 = .ok (.iconst 2, 1) := dk_5 (dk_at dksX4_readOrder_9 16 rfl rfl)
theorem dX4_readOrder_269 : decode cX4_readOrder 269 = .ok (.iadd, 1) := dk_96 (dk_at dksX4_readOrder_9 17 rfl rfl)
theorem dX4_readOrder_270 : decode cX4_readOrder 270 = .ok (.aload_n 0, 1) := dk_42 (dk_at dksX4_readOrder_9 18 rfl rfl)
theorem dX4_readOrder_271 : decode cX4_readOrder 271 = .ok (.invokevirtual 281, 3) := dk_182 1 25 (dk_at dksX4_readOrder_9 19 rfl rfl)
theorem dX4_readOrder_274 : decode cX4_readOrder 274 = .ok (.iastore, 1) := dk_79 (dk_at dksX4_readOrder_9 22 rfl rfl)
theorem dX4_readOrder_275 : decode cX4_readOrder 275 = .ok (.goto 34, 3) := dk_167 0 34 (dk_at dksX4_readOrder_10 0 rfl rfl)
theorem dX4_readOrder_278 : decode cX4_readOrder 278 = .ok (.aload_n 0, 1) := dk_42 (dk_at dksX4_readOrder_10 3 rfl rfl)
theorem dX4_readOrder_279 : decode cX4_readOrder 279 = .ok (.getfield 46, 3) := dk_180 0 46 (dk_at dksX4_readOrder_10 4 rfl rfl)
theorem dX4_readOrder_282 : decode cX4_readOrder 282 = .ok (.iload_n 2, 1) := dk_28 (dk_at dksX4_readOrder_10 7 rfl rfl)
theorem dX4_readOrder_283 : decode cX4_readOrder 283 = .ok (.iconst 1, 1) := dk_4 (dk_at dksX4_readOrder_10 8 rfl rfl)
theorem dX4_readOrder_284 : decode cX4_readOrder 284 = .ok (.iadd, 1) := dk_96 (dk_at dksX4_readOrder_10 9 rfl rfl)
theorem dX4_readOrder_285 : decode cX4_readOrder 285 = .ok (.aload_n 0, 1) := dk_42 (dk_at dksX4_readOrder_10 10 rfl rfl)
theorem dX4_readOrder_286 : decode cX4_readOrder 286 = .ok (.invokevirtual 265, 3) := dk_182 1 9 (dk_at dksX4_readOrder_10 11 rfl rfl)
theorem dX4_readOrder_289 : decode cX4_readOrder 289 = .ok (.iastore, 1) := dk_79 (dk_at dksX4_readOrder_10 14 rfl rfl)
theorem dX4_readOrder_290 : decode cX4_readOrder 290 = .ok (.goto 19, 3) := dk_167 0 19 (dk_at dksX4_readOrder_10 15 rfl rfl)
theorem dX4_readOrder_293 : decode cX4_readOrder 293 = .ok (.aload_n 0, 1) := dk_42 (dk_at dksX4_readOrder_10 18 rfl rfl)
theorem dX4_readOrder_294 : decode cX4_readOrder 294 = .ok (.getfield 46, 3) := dk_180 0 46 (dk_at dksX4_readOrder_10 19 rfl rfl)
theorem dX4_readOrder_297 : decode cX4_readOrder 297 = .ok (.iload_n 2, 1) := dk_28 (dk_at dksX4_readOrder_10 22 rfl rfl)
theorem dX4_readOrder_298 : decode cX4_readOrder 298 = .ok (.iconst 1, 1) := dk_4 (dk_at dksX4_readOrder_10 23 rfl rfl)
theorem dX4_readOrder_299 : decode cX4_readOrder 299 = .ok (.iadd, 1) := dk_96 (dk_at dksX4_readOrder_11 0 rfl rfl)
theorem dX4_readOrder_300 : decode cX4_readOrder 300 = .ok (.aload_n 0, 1) := dk_42 (dk_at dksX4_readOrder_11 1 rfl rfl)
theorem dX4_readOrder_301 : decode cX4_readOrder 301 = .ok (.bipush 48, 2) := dk_16 48 (dk_at dksX4_readOrder_11 2 rfl rfl)
theorem dX4_readOrder_303 : decode cX4_readOrder 303 = .ok (.bipush 57, 2) := dk_16 57 (dk_at dksX4_readOrder_11 4 rfl rfl)
theorem dX4_readOrder_305 : decode cX4_readOrder 305 = .ok (.invokevirtual 261, 3) := dk_182 1 5 (dk_at dksX4_readOrder_11 6 rfl rfl)
theorem dX4_readOrder_308 : decode cX4_readOrder 308 = .ok (.iastore, 1) := dk_79 (dk_at dksX4_readOrder_11 9 rfl rfl)
theorem dX4_readOrder_309 : decode cX4_readOrder 309 = .ok (.return_, 1) := dk_177 (dk_at dksX4_readOrder_11 10 rfl rfl)
abbrev cX4_number : ByteArray := prog_14_method_87_code
def yX4_number : MethodName := ⟨RX4, "number", "()I"⟩
def dkwX4_number_1 : List UInt8 := [42, 16, 48, 16, 57, 182, 1, 5, 96, 167, 0, 4, 27, 172]
abbrev dktX4_number_1 : List UInt8 := dkwX4_number_1 ++ []
def dkwX4_number_0 : List UInt8 := [42, 16, 48, 16, 57, 182, 1, 5, 60, 42, 16, 48, 16, 57, 182, 1, 1, 153, 0, 19, 16, 10, 27, 104]
abbrev dktX4_number_0 : List UInt8 := dkwX4_number_0 ++ dktX4_number_1
theorem dksX4_number_0 : cX4_number.data.toList.drop 0 = dktX4_number_0 := by decide +kernel
theorem dksX4_number_1 : cX4_number.data.toList.drop 24 = dktX4_number_1 := dk_seg dksX4_number_0 24 rfl rfl
theorem dX4_number_0 : decode cX4_number 0 = .ok (.aload_n 0, 1) := dk_42 (dk_at dksX4_number_0 0 rfl rfl)
theorem dX4_number_1 : decode cX4_number 1 = .ok (.bipush 48, 2) := dk_16 48 (dk_at dksX4_number_0 1 rfl rfl)
theorem dX4_number_3 : decode cX4_number 3 = .ok (.bipush 57, 2) := dk_16 57 (dk_at dksX4_number_0 3 rfl rfl)
theorem dX4_number_5 : decode cX4_number 5 = .ok (.invokevirtual 261, 3) := dk_182 1 5 (dk_at dksX4_number_0 5 rfl rfl)
theorem dX4_number_8 : decode cX4_number 8 = .ok (.istore_n 1, 1) := dk_60 (dk_at dksX4_number_0 8 rfl rfl)
theorem dX4_number_9 : decode cX4_number 9 = .ok (.aload_n 0, 1) := dk_42 (dk_at dksX4_number_0 9 rfl rfl)
theorem dX4_number_10 : decode cX4_number 10 = .ok (.bipush 48, 2) := dk_16 48 (dk_at dksX4_number_0 10 rfl rfl)
theorem dX4_number_12 : decode cX4_number 12 = .ok (.bipush 57, 2) := dk_16 57 (dk_at dksX4_number_0 12 rfl rfl)
theorem dX4_number_14 : decode cX4_number 14 = .ok (.invokevirtual 257, 3) := dk_182 1 1 (dk_at dksX4_number_0 14 rfl rfl)
theorem dX4_number_17 : decode cX4_number 17 = .ok (.ifCond .eq 19, 3) := dk_153 0 19 (dk_at dksX4_number_0 17 rfl rfl)
theorem dX4_number_20 : decode cX4_number 20 = .ok (.bipush 10, 2) := dk_16 10 (dk_at dksX4_number_0 20 rfl rfl)
theorem dX4_number_22 : decode cX4_number 22 = .ok (.iload_n 1, 1) := dk_27 (dk_at dksX4_number_0 22 rfl rfl)
theorem dX4_number_23 : decode cX4_number 23 = .ok (.imul, 1) := dk_104 (dk_at dksX4_number_0 23 rfl rfl)
theorem dX4_number_24 : decode cX4_number 24 = .ok (.aload_n 0, 1) := dk_42 (dk_at dksX4_number_1 0 rfl rfl)
theorem dX4_number_25 : decode cX4_number 25 = .ok (.bipush 48, 2) := dk_16 48 (dk_at dksX4_number_1 1 rfl rfl)
theorem dX4_number_27 : decode cX4_number 27 = .ok (.bipush 57, 2) := dk_16 57 (dk_at dksX4_number_1 3 rfl rfl)
theorem dX4_number_29 : decode cX4_number 29 = .ok (.invokevirtual 261, 3) := dk_182 1 5 (dk_at dksX4_number_1 5 rfl rfl)
theorem dX4_number_32 : decode cX4_number 32 = .ok (.iadd, 1) := dk_96 (dk_at dksX4_number_1 8 rfl rfl)
theorem dX4_number_33 : decode cX4_number 33 = .ok (.goto 4, 3) := dk_167 0 4 (dk_at dksX4_number_1 9 rfl rfl)
theorem dX4_number_36 : decode cX4_number 36 = .ok (.iload_n 1, 1) := dk_27 (dk_at dksX4_number_1 12 rfl rfl)
theorem dX4_number_37 : decode cX4_number 37 = .ok (.ireturn, 1) := dk_172 (dk_at dksX4_number_1 13 rfl rfl)
abbrev cX4_sign : ByteArray := prog_14_method_86_code
def yX4_sign : MethodName := ⟨RX4, "sign", "(CC)I"⟩
def dkwX4_sign_2 : List UInt8 := [180, 0, 36, 42, 180, 0, 255, 4, 100, 52, 27, 100, 172]
abbrev dktX4_sign_2 : List UInt8 := dkwX4_sign_2 ++ []
def dkwX4_sign_1 : List UInt8 := [181, 0, 251, 42, 180, 0, 251, 153, 0, 5, 3, 172, 42, 89, 180, 0, 255, 4, 96, 181, 0, 255, 42]
abbrev dktX4_sign_1 : List UInt8 := dkwX4_sign_1 ++ dktX4_sign_2
def dkwX4_sign_0 : List UInt8 := [42, 42, 180, 0, 251, 154, 0, 12, 42, 27, 28, 182, 1, 1, 154, 0, 7, 4, 167, 0, 4, 3]
abbrev dktX4_sign_0 : List UInt8 := dkwX4_sign_0 ++ dktX4_sign_1
theorem dksX4_sign_0 : cX4_sign.data.toList.drop 0 = dktX4_sign_0 := by decide +kernel
theorem dksX4_sign_1 : cX4_sign.data.toList.drop 22 = dktX4_sign_1 := dk_seg dksX4_sign_0 22 rfl rfl
theorem dksX4_sign_2 : cX4_sign.data.toList.drop 45 = dktX4_sign_2 := dk_seg dksX4_sign_1 23 rfl rfl
theorem dX4_sign_0 : decode cX4_sign 0 = .ok (.aload_n 0, 1) := dk_42 (dk_at dksX4_sign_0 0 rfl rfl)
theorem dX4_sign_1 : decode cX4_sign 1 = .ok (.aload_n 0, 1) := dk_42 (dk_at dksX4_sign_0 1 rfl rfl)
theorem dX4_sign_2 : decode cX4_sign 2 = .ok (.getfield 251, 3) := dk_180 0 251 (dk_at dksX4_sign_0 2 rfl rfl)
theorem dX4_sign_5 : decode cX4_sign 5 = .ok (.ifCond .ne 12, 3) := dk_154 0 12 (dk_at dksX4_sign_0 5 rfl rfl)
theorem dX4_sign_8 : decode cX4_sign 8 = .ok (.aload_n 0, 1) := dk_42 (dk_at dksX4_sign_0 8 rfl rfl)
theorem dX4_sign_9 : decode cX4_sign 9 = .ok (.iload_n 1, 1) := dk_27 (dk_at dksX4_sign_0 9 rfl rfl)
theorem dX4_sign_10 : decode cX4_sign 10 = .ok (.iload_n 2, 1) := dk_28 (dk_at dksX4_sign_0 10 rfl rfl)
theorem dX4_sign_11 : decode cX4_sign 11 = .ok (.invokevirtual 257, 3) := dk_182 1 1 (dk_at dksX4_sign_0 11 rfl rfl)
theorem dX4_sign_14 : decode cX4_sign 14 = .ok (.ifCond .ne 7, 3) := dk_154 0 7 (dk_at dksX4_sign_0 14 rfl rfl)
theorem dX4_sign_17 : decode cX4_sign 17 = .ok (.iconst 1, 1) := dk_4 (dk_at dksX4_sign_0 17 rfl rfl)
theorem dX4_sign_18 : decode cX4_sign 18 = .ok (.goto 4, 3) := dk_167 0 4 (dk_at dksX4_sign_0 18 rfl rfl)
theorem dX4_sign_21 : decode cX4_sign 21 = .ok (.iconst 0, 1) := dk_3 (dk_at dksX4_sign_0 21 rfl rfl)
theorem dX4_sign_22 : decode cX4_sign 22 = .ok (.putfield 251, 3) := dk_181 0 251 (dk_at dksX4_sign_1 0 rfl rfl)
theorem dX4_sign_25 : decode cX4_sign 25 = .ok (.aload_n 0, 1) := dk_42 (dk_at dksX4_sign_1 3 rfl rfl)
theorem dX4_sign_26 : decode cX4_sign 26 = .ok (.getfield 251, 3) := dk_180 0 251 (dk_at dksX4_sign_1 4 rfl rfl)
theorem dX4_sign_29 : decode cX4_sign 29 = .ok (.ifCond .eq 5, 3) := dk_153 0 5 (dk_at dksX4_sign_1 7 rfl rfl)
theorem dX4_sign_32 : decode cX4_sign 32 = .ok (.iconst 0, 1) := dk_3 (dk_at dksX4_sign_1 10 rfl rfl)
theorem dX4_sign_33 : decode cX4_sign 33 = .ok (.ireturn, 1) := dk_172 (dk_at dksX4_sign_1 11 rfl rfl)
theorem dX4_sign_34 : decode cX4_sign 34 = .ok (.aload_n 0, 1) := dk_42 (dk_at dksX4_sign_1 12 rfl rfl)
theorem dX4_sign_35 : decode cX4_sign 35 = .ok (.dup, 1) := dk_89 (dk_at dksX4_sign_1 13 rfl rfl)
theorem dX4_sign_36 : decode cX4_sign 36 = .ok (.getfield 255, 3) := dk_180 0 255 (dk_at dksX4_sign_1 14 rfl rfl)
theorem dX4_sign_39 : decode cX4_sign 39 = .ok (.iconst 1, 1) := dk_4 (dk_at dksX4_sign_1 17 rfl rfl)
theorem dX4_sign_40 : decode cX4_sign 40 = .ok (.iadd, 1) := dk_96 (dk_at dksX4_sign_1 18 rfl rfl)
theorem dX4_sign_41 : decode cX4_sign 41 = .ok (.putfield 255, 3) := dk_181 0 255 (dk_at dksX4_sign_1 19 rfl rfl)
theorem dX4_sign_44 : decode cX4_sign 44 = .ok (.aload_n 0, 1) := dk_42 (dk_at dksX4_sign_1 22 rfl rfl)
theorem dX4_sign_45 : decode cX4_sign 45 = .ok (.getfield 36, 3) := dk_180 0 36 (dk_at dksX4_sign_2 0 rfl rfl)
theorem dX4_sign_48 : decode cX4_sign 48 = .ok (.aload_n 0, 1) := dk_42 (dk_at dksX4_sign_2 3 rfl rfl)
theorem dX4_sign_49 : decode cX4_sign 49 = .ok (.getfield 255, 3) := dk_180 0 255 (dk_at dksX4_sign_2 4 rfl rfl)
theorem dX4_sign_52 : decode cX4_sign 52 = .ok (.iconst 1, 1) := dk_4 (dk_at dksX4_sign_2 7 rfl rfl)
theorem dX4_sign_53 : decode cX4_sign 53 = .ok (.isub, 1) := dk_100 (dk_at dksX4_sign_2 8 rfl rfl)
theorem dX4_sign_54 : decode cX4_sign 54 = .ok (.caload, 1) := dk_52 (dk_at dksX4_sign_2 9 rfl rfl)
theorem dX4_sign_55 : decode cX4_sign 55 = .ok (.iload_n 1, 1) := dk_27 (dk_at dksX4_sign_2 10 rfl rfl)
theorem dX4_sign_56 : decode cX4_sign 56 = .ok (.isub, 1) := dk_100 (dk_at dksX4_sign_2 11 rfl rfl)
theorem dX4_sign_57 : decode cX4_sign 57 = .ok (.ireturn, 1) := dk_172 (dk_at dksX4_sign_2 12 rfl rfl)
abbrev cX4_isHere : ByteArray := prog_14_method_85_code
def yX4_isHere : MethodName := ⟨RX4, "isHere", "(CC)Z"⟩
def dkwX4_isHere_1 : List UInt8 := [180, 0, 255, 52, 27, 28, 184, 0, 64, 153, 0, 7, 4, 167, 0, 4, 3, 172]
abbrev dktX4_isHere_1 : List UInt8 := dkwX4_isHere_1 ++ []
def dkwX4_isHere_0 : List UInt8 := [42, 180, 0, 251, 154, 0, 35, 42, 180, 0, 255, 42, 180, 0, 246, 162, 0, 24, 42, 180, 0, 36, 42]
abbrev dktX4_isHere_0 : List UInt8 := dkwX4_isHere_0 ++ dktX4_isHere_1
theorem dksX4_isHere_0 : cX4_isHere.data.toList.drop 0 = dktX4_isHere_0 := by decide +kernel
theorem dksX4_isHere_1 : cX4_isHere.data.toList.drop 23 = dktX4_isHere_1 := dk_seg dksX4_isHere_0 23 rfl rfl
theorem dX4_isHere_0 : decode cX4_isHere 0 = .ok (.aload_n 0, 1) := dk_42 (dk_at dksX4_isHere_0 0 rfl rfl)
theorem dX4_isHere_1 : decode cX4_isHere 1 = .ok (.getfield 251, 3) := dk_180 0 251 (dk_at dksX4_isHere_0 1 rfl rfl)
theorem dX4_isHere_4 : decode cX4_isHere 4 = .ok (.ifCond .ne 35, 3) := dk_154 0 35 (dk_at dksX4_isHere_0 4 rfl rfl)
theorem dX4_isHere_7 : decode cX4_isHere 7 = .ok (.aload_n 0, 1) := dk_42 (dk_at dksX4_isHere_0 7 rfl rfl)
theorem dX4_isHere_8 : decode cX4_isHere 8 = .ok (.getfield 255, 3) := dk_180 0 255 (dk_at dksX4_isHere_0 8 rfl rfl)
theorem dX4_isHere_11 : decode cX4_isHere 11 = .ok (.aload_n 0, 1) := dk_42 (dk_at dksX4_isHere_0 11 rfl rfl)
theorem dX4_isHere_12 : decode cX4_isHere 12 = .ok (.getfield 246, 3) := dk_180 0 246 (dk_at dksX4_isHere_0 12 rfl rfl)
theorem dX4_isHere_15 : decode cX4_isHere 15 = .ok (.if_icmp .ge 24, 3) := dk_162 0 24 (dk_at dksX4_isHere_0 15 rfl rfl)
theorem dX4_isHere_18 : decode cX4_isHere 18 = .ok (.aload_n 0, 1) := dk_42 (dk_at dksX4_isHere_0 18 rfl rfl)
theorem dX4_isHere_19 : decode cX4_isHere 19 = .ok (.getfield 36, 3) := dk_180 0 36 (dk_at dksX4_isHere_0 19 rfl rfl)
theorem dX4_isHere_22 : decode cX4_isHere 22 = .ok (.aload_n 0, 1) := dk_42 (dk_at dksX4_isHere_0 22 rfl rfl)
theorem dX4_isHere_23 : decode cX4_isHere 23 = .ok (.getfield 255, 3) := dk_180 0 255 (dk_at dksX4_isHere_1 0 rfl rfl)
theorem dX4_isHere_26 : decode cX4_isHere 26 = .ok (.caload, 1) := dk_52 (dk_at dksX4_isHere_1 3 rfl rfl)
theorem dX4_isHere_27 : decode cX4_isHere 27 = .ok (.iload_n 1, 1) := dk_27 (dk_at dksX4_isHere_1 4 rfl rfl)
theorem dX4_isHere_28 : decode cX4_isHere 28 = .ok (.iload_n 2, 1) := dk_28 (dk_at dksX4_isHere_1 5 rfl rfl)
theorem dX4_isHere_29 : decode cX4_isHere 29 = .ok (.invokestatic 64, 3) := dk_184 0 64 (dk_at dksX4_isHere_1 6 rfl rfl)
theorem dX4_isHere_32 : decode cX4_isHere 32 = .ok (.ifCond .eq 7, 3) := dk_153 0 7 (dk_at dksX4_isHere_1 9 rfl rfl)
theorem dX4_isHere_35 : decode cX4_isHere 35 = .ok (.iconst 1, 1) := dk_4 (dk_at dksX4_isHere_1 12 rfl rfl)
theorem dX4_isHere_36 : decode cX4_isHere 36 = .ok (.goto 4, 3) := dk_167 0 4 (dk_at dksX4_isHere_1 13 rfl rfl)
theorem dX4_isHere_39 : decode cX4_isHere 39 = .ok (.iconst 0, 1) := dk_3 (dk_at dksX4_isHere_1 16 rfl rfl)
theorem dX4_isHere_40 : decode cX4_isHere 40 = .ok (.ireturn, 1) := dk_172 (dk_at dksX4_isHere_1 17 rfl rfl)
abbrev cX4_middle : ByteArray := prog_14_method_89_code
def yX4_middle : MethodName := ⟨RX4, "middle", "(I)V"⟩
def dkwX4_middle_3 : List UInt8 := [177]
abbrev dktX4_middle_3 : List UInt8 := dkwX4_middle_3 ++ []
def dkwX4_middle_2 : List UInt8 := [16, 97, 16, 104, 182, 1, 5, 79, 42, 180, 0, 46, 27, 6, 96, 42, 16, 97, 16, 104, 182, 1, 5, 79]
abbrev dktX4_middle_2 : List UInt8 := dkwX4_middle_2 ++ dktX4_middle_3
def dkwX4_middle_1 : List UInt8 := [182, 1, 5, 61, 42, 180, 0, 46, 27, 4, 96, 42, 182, 1, 9, 79, 42, 180, 0, 46, 27, 5, 96, 42]
abbrev dktX4_middle_1 : List UInt8 := dkwX4_middle_1 ++ dktX4_middle_2
def dkwX4_middle_0 : List UInt8 := [42, 16, 58, 16, 58, 182, 1, 5, 61, 42, 180, 0, 46, 27, 42, 182, 1, 9, 79, 42, 16, 45, 16, 45]
abbrev dktX4_middle_0 : List UInt8 := dkwX4_middle_0 ++ dktX4_middle_1
theorem dksX4_middle_0 : cX4_middle.data.toList.drop 0 = dktX4_middle_0 := by decide +kernel
theorem dksX4_middle_1 : cX4_middle.data.toList.drop 24 = dktX4_middle_1 := dk_seg dksX4_middle_0 24 rfl rfl
theorem dksX4_middle_2 : cX4_middle.data.toList.drop 48 = dktX4_middle_2 := dk_seg dksX4_middle_1 24 rfl rfl
theorem dksX4_middle_3 : cX4_middle.data.toList.drop 72 = dktX4_middle_3 := dk_seg dksX4_middle_2 24 rfl rfl
theorem dX4_middle_0 : decode cX4_middle 0 = .ok (.aload_n 0, 1) := dk_42 (dk_at dksX4_middle_0 0 rfl rfl)
theorem dX4_middle_1 : decode cX4_middle 1 = .ok (.bipush 58, 2) := dk_16 58 (dk_at dksX4_middle_0 1 rfl rfl)
theorem dX4_middle_3 : decode cX4_middle 3 = .ok (.bipush 58, 2) := dk_16 58 (dk_at dksX4_middle_0 3 rfl rfl)
theorem dX4_middle_5 : decode cX4_middle 5 = .ok (.invokevirtual 261, 3) := dk_182 1 5 (dk_at dksX4_middle_0 5 rfl rfl)
theorem dX4_middle_8 : decode cX4_middle 8 = .ok (.istore_n 2, 1) := dk_61 (dk_at dksX4_middle_0 8 rfl rfl)
theorem dX4_middle_9 : decode cX4_middle 9 = .ok (.aload_n 0, 1) := dk_42 (dk_at dksX4_middle_0 9 rfl rfl)
theorem dX4_middle_10 : decode cX4_middle 10 = .ok (.getfield 46, 3) := dk_180 0 46 (dk_at dksX4_middle_0 10 rfl rfl)
theorem dX4_middle_13 : decode cX4_middle 13 = .ok (.iload_n 1, 1) := dk_27 (dk_at dksX4_middle_0 13 rfl rfl)
theorem dX4_middle_14 : decode cX4_middle 14 = .ok (.aload_n 0, 1) := dk_42 (dk_at dksX4_middle_0 14 rfl rfl)
theorem dX4_middle_15 : decode cX4_middle 15 = .ok (.invokevirtual 265, 3) := dk_182 1 9 (dk_at dksX4_middle_0 15 rfl rfl)
theorem dX4_middle_18 : decode cX4_middle 18 = .ok (.iastore, 1) := dk_79 (dk_at dksX4_middle_0 18 rfl rfl)
theorem dX4_middle_19 : decode cX4_middle 19 = .ok (.aload_n 0, 1) := dk_42 (dk_at dksX4_middle_0 19 rfl rfl)
theorem dX4_middle_20 : decode cX4_middle 20 = .ok (.bipush 45, 2) := dk_16 45 (dk_at dksX4_middle_0 20 rfl rfl)
theorem dX4_middle_22 : decode cX4_middle 22 = .ok (.bipush 45, 2) := dk_16 45 (dk_at dksX4_middle_0 22 rfl rfl)
theorem dX4_middle_24 : decode cX4_middle 24 = .ok (.invokevirtual 261, 3) := dk_182 1 5 (dk_at dksX4_middle_1 0 rfl rfl)
theorem dX4_middle_27 : decode cX4_middle 27 = .ok (.istore_n 2, 1) := dk_61 (dk_at dksX4_middle_1 3 rfl rfl)
theorem dX4_middle_28 : decode cX4_middle 28 = .ok (.aload_n 0, 1) := dk_42 (dk_at dksX4_middle_1 4 rfl rfl)
theorem dX4_middle_29 : decode cX4_middle 29 = .ok (.getfield 46, 3) := dk_180 0 46 (dk_at dksX4_middle_1 5 rfl rfl)
theorem dX4_middle_32 : decode cX4_middle 32 = .ok (.iload_n 1, 1) := dk_27 (dk_at dksX4_middle_1 8 rfl rfl)
theorem dX4_middle_33 : decode cX4_middle 33 = .ok (.iconst 1, 1) := dk_4 (dk_at dksX4_middle_1 9 rfl rfl)
theorem dX4_middle_34 : decode cX4_middle 34 = .ok (.iadd, 1) := dk_96 (dk_at dksX4_middle_1 10 rfl rfl)
theorem dX4_middle_35 : decode cX4_middle 35 = .ok (.aload_n 0, 1) := dk_42 (dk_at dksX4_middle_1 11 rfl rfl)
theorem dX4_middle_36 : decode cX4_middle 36 = .ok (.invokevirtual 265, 3) := dk_182 1 9 (dk_at dksX4_middle_1 12 rfl rfl)
theorem dX4_middle_39 : decode cX4_middle 39 = .ok (.iastore, 1) := dk_79 (dk_at dksX4_middle_1 15 rfl rfl)
theorem dX4_middle_40 : decode cX4_middle 40 = .ok (.aload_n 0, 1) := dk_42 (dk_at dksX4_middle_1 16 rfl rfl)
theorem dX4_middle_41 : decode cX4_middle 41 = .ok (.getfield 46, 3) := dk_180 0 46 (dk_at dksX4_middle_1 17 rfl rfl)
theorem dX4_middle_44 : decode cX4_middle 44 = .ok (.iload_n 1, 1) := dk_27 (dk_at dksX4_middle_1 20 rfl rfl)
theorem dX4_middle_45 : decode cX4_middle 45 = .ok (.iconst 2, 1) := dk_5 (dk_at dksX4_middle_1 21 rfl rfl)
theorem dX4_middle_46 : decode cX4_middle 46 = .ok (.iadd, 1) := dk_96 (dk_at dksX4_middle_1 22 rfl rfl)
theorem dX4_middle_47 : decode cX4_middle 47 = .ok (.aload_n 0, 1) := dk_42 (dk_at dksX4_middle_1 23 rfl rfl)
theorem dX4_middle_48 : decode cX4_middle 48 = .ok (.bipush 97, 2) := dk_16 97 (dk_at dksX4_middle_2 0 rfl rfl)
theorem dX4_middle_50 : decode cX4_middle 50 = .ok (.bipush 104, 2) := dk_16 104 (dk_at dksX4_middle_2 2 rfl rfl)
theorem dX4_middle_52 : decode cX4_middle 52 = .ok (.invokevirtual 261, 3) := dk_182 1 5 (dk_at dksX4_middle_2 4 rfl rfl)
theorem dX4_middle_55 : decode cX4_middle 55 = .ok (.iastore, 1) := dk_79 (dk_at dksX4_middle_2 7 rfl rfl)
theorem dX4_middle_56 : decode cX4_middle 56 = .ok (.aload_n 0, 1) := dk_42 (dk_at dksX4_middle_2 8 rfl rfl)
theorem dX4_middle_57 : decode cX4_middle 57 = .ok (.getfield 46, 3) := dk_180 0 46 (dk_at dksX4_middle_2 9 rfl rfl)
theorem dX4_middle_60 : decode cX4_middle 60 = .ok (.iload_n 1, 1) := dk_27 (dk_at dksX4_middle_2 12 rfl rfl)
theorem dX4_middle_61 : decode cX4_middle 61 = .ok (.iconst 3, 1) := dk_6 (dk_at dksX4_middle_2 13 rfl rfl)
theorem dX4_middle_62 : decode cX4_middle 62 = .ok (.iadd, 1) := dk_96 (dk_at dksX4_middle_2 14 rfl rfl)
theorem dX4_middle_63 : decode cX4_middle 63 = .ok (.aload_n 0, 1) := dk_42 (dk_at dksX4_middle_2 15 rfl rfl)
theorem dX4_middle_64 : decode cX4_middle 64 = .ok (.bipush 97, 2) := dk_16 97 (dk_at dksX4_middle_2 16 rfl rfl)
theorem dX4_middle_66 : decode cX4_middle 66 = .ok (.bipush 104, 2) := dk_16 104 (dk_at dksX4_middle_2 18 rfl rfl)
theorem dX4_middle_68 : decode cX4_middle 68 = .ok (.invokevirtual 261, 3) := dk_182 1 5 (dk_at dksX4_middle_2 20 rfl rfl)
theorem dX4_middle_71 : decode cX4_middle 71 = .ok (.iastore, 1) := dk_79 (dk_at dksX4_middle_2 23 rfl rfl)
theorem dX4_middle_72 : decode cX4_middle 72 = .ok (.return_, 1) := dk_177 (dk_at dksX4_middle_3 0 rfl rfl)
abbrev cX4_plus : ByteArray := prog_14_method_88_code
def yX4_plus : MethodName := ⟨RX4, "plus", "()I"⟩
def dkwX4_plus_1 : List UInt8 := [16, 43, 16, 43, 182, 1, 5, 167, 0, 11, 42, 16, 45, 16, 45, 182, 1, 5, 61, 27, 172]
abbrev dktX4_plus_1 : List UInt8 := dkwX4_plus_1 ++ []
def dkwX4_plus_0 : List UInt8 := [42, 16, 43, 16, 43, 182, 1, 1, 153, 0, 7, 4, 167, 0, 4, 3, 60, 27, 4, 160, 0, 14, 42]
abbrev dktX4_plus_0 : List UInt8 := dkwX4_plus_0 ++ dktX4_plus_1
theorem dksX4_plus_0 : cX4_plus.data.toList.drop 0 = dktX4_plus_0 := by decide +kernel
theorem dksX4_plus_1 : cX4_plus.data.toList.drop 23 = dktX4_plus_1 := dk_seg dksX4_plus_0 23 rfl rfl
theorem dX4_plus_0 : decode cX4_plus 0 = .ok (.aload_n 0, 1) := dk_42 (dk_at dksX4_plus_0 0 rfl rfl)
theorem dX4_plus_1 : decode cX4_plus 1 = .ok (.bipush 43, 2) := dk_16 43 (dk_at dksX4_plus_0 1 rfl rfl)
theorem dX4_plus_3 : decode cX4_plus 3 = .ok (.bipush 43, 2) := dk_16 43 (dk_at dksX4_plus_0 3 rfl rfl)
theorem dX4_plus_5 : decode cX4_plus 5 = .ok (.invokevirtual 257, 3) := dk_182 1 1 (dk_at dksX4_plus_0 5 rfl rfl)
theorem dX4_plus_8 : decode cX4_plus 8 = .ok (.ifCond .eq 7, 3) := dk_153 0 7 (dk_at dksX4_plus_0 8 rfl rfl)
theorem dX4_plus_11 : decode cX4_plus 11 = .ok (.iconst 1, 1) := dk_4 (dk_at dksX4_plus_0 11 rfl rfl)
theorem dX4_plus_12 : decode cX4_plus 12 = .ok (.goto 4, 3) := dk_167 0 4 (dk_at dksX4_plus_0 12 rfl rfl)
theorem dX4_plus_15 : decode cX4_plus 15 = .ok (.iconst 0, 1) := dk_3 (dk_at dksX4_plus_0 15 rfl rfl)
theorem dX4_plus_16 : decode cX4_plus 16 = .ok (.istore_n 1, 1) := dk_60 (dk_at dksX4_plus_0 16 rfl rfl)
theorem dX4_plus_17 : decode cX4_plus 17 = .ok (.iload_n 1, 1) := dk_27 (dk_at dksX4_plus_0 17 rfl rfl)
theorem dX4_plus_18 : decode cX4_plus 18 = .ok (.iconst 1, 1) := dk_4 (dk_at dksX4_plus_0 18 rfl rfl)
theorem dX4_plus_19 : decode cX4_plus 19 = .ok (.if_icmp .ne 14, 3) := dk_160 0 14 (dk_at dksX4_plus_0 19 rfl rfl)
theorem dX4_plus_22 : decode cX4_plus 22 = .ok (.aload_n 0, 1) := dk_42 (dk_at dksX4_plus_0 22 rfl rfl)
theorem dX4_plus_23 : decode cX4_plus 23 = .ok (.bipush 43, 2) := dk_16 43 (dk_at dksX4_plus_1 0 rfl rfl)
theorem dX4_plus_25 : decode cX4_plus 25 = .ok (.bipush 43, 2) := dk_16 43 (dk_at dksX4_plus_1 2 rfl rfl)
theorem dX4_plus_27 : decode cX4_plus 27 = .ok (.invokevirtual 261, 3) := dk_182 1 5 (dk_at dksX4_plus_1 4 rfl rfl)
theorem dX4_plus_30 : decode cX4_plus 30 = .ok (.goto 11, 3) := dk_167 0 11 (dk_at dksX4_plus_1 7 rfl rfl)
theorem dX4_plus_33 : decode cX4_plus 33 = .ok (.aload_n 0, 1) := dk_42 (dk_at dksX4_plus_1 10 rfl rfl)
theorem dX4_plus_34 : decode cX4_plus 34 = .ok (.bipush 45, 2) := dk_16 45 (dk_at dksX4_plus_1 11 rfl rfl)
theorem dX4_plus_36 : decode cX4_plus 36 = .ok (.bipush 45, 2) := dk_16 45 (dk_at dksX4_plus_1 13 rfl rfl)
theorem dX4_plus_38 : decode cX4_plus 38 = .ok (.invokevirtual 261, 3) := dk_182 1 5 (dk_at dksX4_plus_1 15 rfl rfl)
theorem dX4_plus_41 : decode cX4_plus 41 = .ok (.istore_n 2, 1) := dk_61 (dk_at dksX4_plus_1 18 rfl rfl)
theorem dX4_plus_42 : decode cX4_plus 42 = .ok (.iload_n 1, 1) := dk_27 (dk_at dksX4_plus_1 19 rfl rfl)
theorem dX4_plus_43 : decode cX4_plus 43 = .ok (.ireturn, 1) := dk_172 (dk_at dksX4_plus_1 20 rfl rfl)
abbrev cX4_does : ByteArray := prog_14_method_91_code
def yX4_does : MethodName := ⟨RX4, "does", "(I)V"⟩
def dkwX4_does_10 : List UInt8 := [54, 4, 167, 0, 20, 42, 28, 182, 0, 215, 54, 4, 167, 0, 10, 42, 28, 182, 0, 218, 54, 4, 177]
abbrev dktX4_does_10 : List UInt8 := dkwX4_does_10 ++ []
def dkwX4_does_9 : List UInt8 := [182, 0, 142, 54, 4, 167, 0, 40, 42, 28, 182, 0, 212, 54, 4, 167, 0, 30, 42, 28, 182, 0, 118]
abbrev dktX4_does_9 : List UInt8 := dkwX4_does_9 ++ dktX4_does_10
def dkwX4_does_8 : List UInt8 := [167, 0, 4, 3, 182, 0, 130, 54, 4, 167, 0, 60, 42, 28, 29, 4, 160, 0, 7, 4, 167, 0, 4, 3]
abbrev dktX4_does_8 : List UInt8 := dkwX4_does_8 ++ dktX4_does_9
def dkwX4_does_7 : List UInt8 := [54, 4, 167, 0, 91, 42, 28, 42, 180, 0, 46, 16, 6, 27, 104, 6, 96, 46, 29, 4, 160, 0, 7, 4]
abbrev dktX4_does_7 : List UInt8 := dkwX4_does_7 ++ dktX4_does_8
def dkwX4_does_6 : List UInt8 := [180, 0, 46, 16, 6, 27, 104, 8, 96, 46, 182, 0, 98, 54, 4, 167, 0, 101, 42, 28, 182, 0, 108]
abbrev dktX4_does_6 : List UInt8 := dkwX4_does_6 ++ dktX4_does_7
def dkwX4_does_5 : List UInt8 := [180, 0, 46, 16, 6, 27, 104, 6, 96, 46, 42, 180, 0, 46, 16, 6, 27, 104, 7, 96, 46, 42]
abbrev dktX4_does_5 : List UInt8 := dkwX4_does_5 ++ dktX4_does_6
def dkwX4_does_4 : List UInt8 := [46, 42, 180, 0, 46, 16, 6, 27, 104, 8, 96, 46, 182, 0, 83, 54, 4, 167, 0, 145, 42, 28, 29, 42]
abbrev dktX4_does_4 : List UInt8 := dkwX4_does_4 ++ dktX4_does_5
def dkwX4_does_3 : List UInt8 := [42, 28, 29, 42, 180, 0, 46, 16, 6, 27, 104, 6, 96, 46, 42, 180, 0, 46, 16, 6, 27, 104, 7, 96]
abbrev dktX4_does_3 : List UInt8 := dkwX4_does_3 ++ dktX4_does_4
def dkwX4_does_2 : List UInt8 := [170, 0, 0, 0, 0, 0, 254, 0, 0, 0, 98, 0, 0, 0, 112, 0, 0, 0, 75, 0, 0, 0, 244, 0, 0, 0, 234, 0, 0, 0, 254, 0, 0, 0, 163, 0, 0, 0, 254, 0, 0, 0, 119, 0, 0, 0, 254, 0, 0, 0, 254, 0, 0, 0, 254, 0, 0, 0, 254, 0, 0, 0, 224, 0, 0, 0, 254, 0, 0, 0, 173, 0, 0, 0, 204]
abbrev dktX4_does_2 : List UInt8 := dkwX4_does_2 ++ dktX4_does_3
def dkwX4_does_1 : List UInt8 := [42, 180, 0, 46, 16, 6, 27, 104, 46]
abbrev dktX4_does_1 : List UInt8 := dkwX4_does_1 ++ dktX4_does_2
def dkwX4_does_0 : List UInt8 := [42, 180, 0, 46, 16, 6, 27, 104, 4, 96, 46, 61, 42, 180, 0, 46, 16, 6, 27, 104, 5, 96, 46, 62]
abbrev dktX4_does_0 : List UInt8 := dkwX4_does_0 ++ dktX4_does_1
theorem dksX4_does_0 : cX4_does.data.toList.drop 0 = dktX4_does_0 := by decide +kernel
theorem dksX4_does_1 : cX4_does.data.toList.drop 24 = dktX4_does_1 := dk_seg dksX4_does_0 24 rfl rfl
theorem dksX4_does_2 : cX4_does.data.toList.drop 33 = dktX4_does_2 := dk_seg dksX4_does_1 9 rfl rfl
theorem dksX4_does_3 : cX4_does.data.toList.drop 108 = dktX4_does_3 := dk_seg dksX4_does_2 75 rfl rfl
theorem dksX4_does_4 : cX4_does.data.toList.drop 132 = dktX4_does_4 := dk_seg dksX4_does_3 24 rfl rfl
theorem dksX4_does_5 : cX4_does.data.toList.drop 156 = dktX4_does_5 := dk_seg dksX4_does_4 24 rfl rfl
theorem dksX4_does_6 : cX4_does.data.toList.drop 178 = dktX4_does_6 := dk_seg dksX4_does_5 22 rfl rfl
theorem dksX4_does_7 : cX4_does.data.toList.drop 201 = dktX4_does_7 := dk_seg dksX4_does_6 23 rfl rfl
theorem dksX4_does_8 : cX4_does.data.toList.drop 225 = dktX4_does_8 := dk_seg dksX4_does_7 24 rfl rfl
theorem dksX4_does_9 : cX4_does.data.toList.drop 249 = dktX4_does_9 := dk_seg dksX4_does_8 24 rfl rfl
theorem dksX4_does_10 : cX4_does.data.toList.drop 272 = dktX4_does_10 := dk_seg dksX4_does_9 23 rfl rfl
theorem dX4_does_0 : decode cX4_does 0 = .ok (.aload_n 0, 1) := dk_42 (dk_at dksX4_does_0 0 rfl rfl)
theorem dX4_does_1 : decode cX4_does 1 = .ok (.getfield 46, 3) := dk_180 0 46 (dk_at dksX4_does_0 1 rfl rfl)
theorem dX4_does_4 : decode cX4_does 4 = .ok (.bipush 6, 2) := dk_16 6 (dk_at dksX4_does_0 4 rfl rfl)
theorem dX4_does_6 : decode cX4_does 6 = .ok (.iload_n 1, 1) := dk_27 (dk_at dksX4_does_0 6 rfl rfl)
theorem dX4_does_7 : decode cX4_does 7 = .ok (.imul, 1) := dk_104 (dk_at dksX4_does_0 7 rfl rfl)
theorem dX4_does_8 : decode cX4_does 8 = .ok (.iconst 1, 1) := dk_4 (dk_at dksX4_does_0 8 rfl rfl)
theorem dX4_does_9 : decode cX4_does 9 = .ok (.iadd, 1) := dk_96 (dk_at dksX4_does_0 9 rfl rfl)
theorem dX4_does_10 : decode cX4_does 10 = .ok (.iaload, 1) := dk_46 (dk_at dksX4_does_0 10 rfl rfl)
theorem dX4_does_11 : decode cX4_does 11 = .ok (.istore_n 2, 1) := dk_61 (dk_at dksX4_does_0 11 rfl rfl)
theorem dX4_does_12 : decode cX4_does 12 = .ok (.aload_n 0, 1) := dk_42 (dk_at dksX4_does_0 12 rfl rfl)
theorem dX4_does_13 : decode cX4_does 13 = .ok (.getfield 46, 3) := dk_180 0 46 (dk_at dksX4_does_0 13 rfl rfl)
theorem dX4_does_16 : decode cX4_does 16 = .ok (.bipush 6, 2) := dk_16 6 (dk_at dksX4_does_0 16 rfl rfl)
theorem dX4_does_18 : decode cX4_does 18 = .ok (.iload_n 1, 1) := dk_27 (dk_at dksX4_does_0 18 rfl rfl)
theorem dX4_does_19 : decode cX4_does 19 = .ok (.imul, 1) := dk_104 (dk_at dksX4_does_0 19 rfl rfl)
theorem dX4_does_20 : decode cX4_does 20 = .ok (.iconst 2, 1) := dk_5 (dk_at dksX4_does_0 20 rfl rfl)
theorem dX4_does_21 : decode cX4_does 21 = .ok (.iadd, 1) := dk_96 (dk_at dksX4_does_0 21 rfl rfl)
theorem dX4_does_22 : decode cX4_does 22 = .ok (.iaload, 1) := dk_46 (dk_at dksX4_does_0 22 rfl rfl)
theorem dX4_does_23 : decode cX4_does 23 = .ok (.istore_n 3, 1) := dk_62 (dk_at dksX4_does_0 23 rfl rfl)
theorem dX4_does_24 : decode cX4_does 24 = .ok (.aload_n 0, 1) := dk_42 (dk_at dksX4_does_1 0 rfl rfl)
theorem dX4_does_25 : decode cX4_does 25 = .ok (.getfield 46, 3) := dk_180 0 46 (dk_at dksX4_does_1 1 rfl rfl)
theorem dX4_does_28 : decode cX4_does 28 = .ok (.bipush 6, 2) := dk_16 6 (dk_at dksX4_does_1 4 rfl rfl)
theorem dX4_does_30 : decode cX4_does 30 = .ok (.iload_n 1, 1) := dk_27 (dk_at dksX4_does_1 6 rfl rfl)
theorem dX4_does_31 : decode cX4_does 31 = .ok (.imul, 1) := dk_104 (dk_at dksX4_does_1 7 rfl rfl)
theorem dX4_does_32 : decode cX4_does 32 = .ok (.iaload, 1) := dk_46 (dk_at dksX4_does_1 8 rfl rfl)
theorem dX4_does_33 : decode cX4_does 33 = .ok (.tableswitch 254 98 112 #[75, 244, 234, 254, 163, 254, 119, 254, 254, 254, 254, 224, 254, 173, 204], 75) := by decide +kernel
theorem dX4_does_108 : decode cX4_does 108 = .ok (.aload_n 0, 1) := dk_42 (dk_at dksX4_does_3 0 rfl rfl)
theorem dX4_does_109 : decode cX4_does 109 = .ok (.iload_n 2, 1) := dk_28 (dk_at dksX4_does_3 1 rfl rfl)
theorem dX4_does_110 : decode cX4_does 110 = .ok (.iload_n 3, 1) := dk_29 (dk_at dksX4_does_3 2 rfl rfl)
theorem dX4_does_111 : decode cX4_does 111 = .ok (.aload_n 0, 1) := dk_42 (dk_at dksX4_does_3 3 rfl rfl)
theorem dX4_does_112 : decode cX4_does 112 = .ok (.getfield 46, 3) := dk_180 0 46 (dk_at dksX4_does_3 4 rfl rfl)
theorem dX4_does_115 : decode cX4_does 115 = .ok (.bipush 6, 2) := dk_16 6 (dk_at dksX4_does_3 7 rfl rfl)
theorem dX4_does_117 : decode cX4_does 117 = .ok (.iload_n 1, 1) := dk_27 (dk_at dksX4_does_3 9 rfl rfl)
theorem dX4_does_118 : decode cX4_does 118 = .ok (.imul, 1) := dk_104 (dk_at dksX4_does_3 10 rfl rfl)
theorem dX4_does_119 : decode cX4_does 119 = .ok (.iconst 3, 1) := dk_6 (dk_at dksX4_does_3 11 rfl rfl)
theorem dX4_does_120 : decode cX4_does 120 = .ok (.iadd, 1) := dk_96 (dk_at dksX4_does_3 12 rfl rfl)
theorem dX4_does_121 : decode cX4_does 121 = .ok (.iaload, 1) := dk_46 (dk_at dksX4_does_3 13 rfl rfl)
theorem dX4_does_122 : decode cX4_does 122 = .ok (.aload_n 0, 1) := dk_42 (dk_at dksX4_does_3 14 rfl rfl)
theorem dX4_does_123 : decode cX4_does 123 = .ok (.getfield 46, 3) := dk_180 0 46 (dk_at dksX4_does_3 15 rfl rfl)
theorem dX4_does_126 : decode cX4_does 126 = .ok (.bipush 6, 2) := dk_16 6 (dk_at dksX4_does_3 18 rfl rfl)
theorem dX4_does_128 : decode cX4_does 128 = .ok (.iload_n 1, 1) := dk_27 (dk_at dksX4_does_3 20 rfl rfl)
theorem dX4_does_129 : decode cX4_does 129 = .ok (.imul, 1) := dk_104 (dk_at dksX4_does_3 21 rfl rfl)
theorem dX4_does_130 : decode cX4_does 130 = .ok (.iconst 4, 1) := dk_7 (dk_at dksX4_does_3 22 rfl rfl)
theorem dX4_does_131 : decode cX4_does 131 = .ok (.iadd, 1) := dk_96 (dk_at dksX4_does_3 23 rfl rfl)
theorem dX4_does_132 : decode cX4_does 132 = .ok (.iaload, 1) := dk_46 (dk_at dksX4_does_4 0 rfl rfl)
theorem dX4_does_133 : decode cX4_does 133 = .ok (.aload_n 0, 1) := dk_42 (dk_at dksX4_does_4 1 rfl rfl)
theorem dX4_does_134 : decode cX4_does 134 = .ok (.getfield 46, 3) := dk_180 0 46 (dk_at dksX4_does_4 2 rfl rfl)
theorem dX4_does_137 : decode cX4_does 137 = .ok (.bipush 6, 2) := dk_16 6 (dk_at dksX4_does_4 5 rfl rfl)
theorem dX4_does_139 : decode cX4_does 139 = .ok (.iload_n 1, 1) := dk_27 (dk_at dksX4_does_4 7 rfl rfl)
theorem dX4_does_140 : decode cX4_does 140 = .ok (.imul, 1) := dk_104 (dk_at dksX4_does_4 8 rfl rfl)
theorem dX4_does_141 : decode cX4_does 141 = .ok (.iconst 5, 1) := dk_8 (dk_at dksX4_does_4 9 rfl rfl)
theorem dX4_does_142 : decode cX4_does 142 = .ok (.iadd, 1) := dk_96 (dk_at dksX4_does_4 10 rfl rfl)
theorem dX4_does_143 : decode cX4_does 143 = .ok (.iaload, 1) := dk_46 (dk_at dksX4_does_4 11 rfl rfl)
theorem dX4_does_144 : decode cX4_does 144 = .ok (.invokevirtual 83, 3) := dk_182 0 83 (dk_at dksX4_does_4 12 rfl rfl)
theorem dX4_does_147 : decode cX4_does 147 = .ok (.istore 4, 2) := dk_54 4 (dk_at dksX4_does_4 15 rfl rfl)
theorem dX4_does_149 : decode cX4_does 149 = .ok (.goto 145, 3) := dk_167 0 145 (dk_at dksX4_does_4 17 rfl rfl)
theorem dX4_does_152 : decode cX4_does 152 = .ok (.aload_n 0, 1) := dk_42 (dk_at dksX4_does_4 20 rfl rfl)
theorem dX4_does_153 : decode cX4_does 153 = .ok (.iload_n 2, 1) := dk_28 (dk_at dksX4_does_4 21 rfl rfl)
theorem dX4_does_154 : decode cX4_does 154 = .ok (.iload_n 3, 1) := dk_29 (dk_at dksX4_does_4 22 rfl rfl)
theorem dX4_does_155 : decode cX4_does 155 = .ok (.aload_n 0, 1) := dk_42 (dk_at dksX4_does_4 23 rfl rfl)
theorem dX4_does_156 : decode cX4_does 156 = .ok (.getfield 46, 3) := dk_180 0 46 (dk_at dksX4_does_5 0 rfl rfl)
theorem dX4_does_159 : decode cX4_does 159 = .ok (.bipush 6, 2) := dk_16 6 (dk_at dksX4_does_5 3 rfl rfl)
theorem dX4_does_161 : decode cX4_does 161 = .ok (.iload_n 1, 1) := dk_27 (dk_at dksX4_does_5 5 rfl rfl)
theorem dX4_does_162 : decode cX4_does 162 = .ok (.imul, 1) := dk_104 (dk_at dksX4_does_5 6 rfl rfl)
theorem dX4_does_163 : decode cX4_does 163 = .ok (.iconst 3, 1) := dk_6 (dk_at dksX4_does_5 7 rfl rfl)
theorem dX4_does_164 : decode cX4_does 164 = .ok (.iadd, 1) := dk_96 (dk_at dksX4_does_5 8 rfl rfl)
theorem dX4_does_165 : decode cX4_does 165 = .ok (.iaload, 1) := dk_46 (dk_at dksX4_does_5 9 rfl rfl)
theorem dX4_does_166 : decode cX4_does 166 = .ok (.aload_n 0, 1) := dk_42 (dk_at dksX4_does_5 10 rfl rfl)
theorem dX4_does_167 : decode cX4_does 167 = .ok (.getfield 46, 3) := dk_180 0 46 (dk_at dksX4_does_5 11 rfl rfl)
theorem dX4_does_170 : decode cX4_does 170 = .ok (.bipush 6, 2) := dk_16 6 (dk_at dksX4_does_5 14 rfl rfl)
theorem dX4_does_172 : decode cX4_does 172 = .ok (.iload_n 1, 1) := dk_27 (dk_at dksX4_does_5 16 rfl rfl)
theorem dX4_does_173 : decode cX4_does 173 = .ok (.imul, 1) := dk_104 (dk_at dksX4_does_5 17 rfl rfl)
theorem dX4_does_174 : decode cX4_does 174 = .ok (.iconst 4, 1) := dk_7 (dk_at dksX4_does_5 18 rfl rfl)
theorem dX4_does_175 : decode cX4_does 175 = .ok (.iadd, 1) := dk_96 (dk_at dksX4_does_5 19 rfl rfl)
theorem dX4_does_176 : decode cX4_does 176 = .ok (.iaload, 1) := dk_46 (dk_at dksX4_does_5 20 rfl rfl)
theorem dX4_does_177 : decode cX4_does 177 = .ok (.aload_n 0, 1) := dk_42 (dk_at dksX4_does_5 21 rfl rfl)
theorem dX4_does_178 : decode cX4_does 178 = .ok (.getfield 46, 3) := dk_180 0 46 (dk_at dksX4_does_6 0 rfl rfl)
theorem dX4_does_181 : decode cX4_does 181 = .ok (.bipush 6, 2) := dk_16 6 (dk_at dksX4_does_6 3 rfl rfl)
theorem dX4_does_183 : decode cX4_does 183 = .ok (.iload_n 1, 1) := dk_27 (dk_at dksX4_does_6 5 rfl rfl)
theorem dX4_does_184 : decode cX4_does 184 = .ok (.imul, 1) := dk_104 (dk_at dksX4_does_6 6 rfl rfl)
theorem dX4_does_185 : decode cX4_does 185 = .ok (.iconst 5, 1) := dk_8 (dk_at dksX4_does_6 7 rfl rfl)
theorem dX4_does_186 : decode cX4_does 186 = .ok (.iadd, 1) := dk_96 (dk_at dksX4_does_6 8 rfl rfl)
theorem dX4_does_187 : decode cX4_does 187 = .ok (.iaload, 1) := dk_46 (dk_at dksX4_does_6 9 rfl rfl)
theorem dX4_does_188 : decode cX4_does 188 = .ok (.invokevirtual 98, 3) := dk_182 0 98 (dk_at dksX4_does_6 10 rfl rfl)
theorem dX4_does_191 : decode cX4_does 191 = .ok (.istore 4, 2) := dk_54 4 (dk_at dksX4_does_6 13 rfl rfl)
theorem dX4_does_193 : decode cX4_does 193 = .ok (.goto 101, 3) := dk_167 0 101 (dk_at dksX4_does_6 15 rfl rfl)
theorem dX4_does_196 : decode cX4_does 196 = .ok (.aload_n 0, 1) := dk_42 (dk_at dksX4_does_6 18 rfl rfl)
theorem dX4_does_197 : decode cX4_does 197 = .ok (.iload_n 2, 1) := dk_28 (dk_at dksX4_does_6 19 rfl rfl)
theorem dX4_does_198 : decode cX4_does 198 = .ok (.invokevirtual 108, 3) := dk_182 0 108 (dk_at dksX4_does_6 20 rfl rfl)
theorem dX4_does_201 : decode cX4_does 201 = .ok (.istore 4, 2) := dk_54 4 (dk_at dksX4_does_7 0 rfl rfl)
theorem dX4_does_203 : decode cX4_does 203 = .ok (.goto 91, 3) := dk_167 0 91 (dk_at dksX4_does_7 2 rfl rfl)
theorem dX4_does_206 : decode cX4_does 206 = .ok (.aload_n 0, 1) := dk_42 (dk_at dksX4_does_7 5 rfl rfl)
theorem dX4_does_207 : decode cX4_does 207 = .ok (.iload_n 2, 1) := dk_28 (dk_at dksX4_does_7 6 rfl rfl)
theorem dX4_does_208 : decode cX4_does 208 = .ok (.aload_n 0, 1) := dk_42 (dk_at dksX4_does_7 7 rfl rfl)
theorem dX4_does_209 : decode cX4_does 209 = .ok (.getfield 46, 3) := dk_180 0 46 (dk_at dksX4_does_7 8 rfl rfl)
theorem dX4_does_212 : decode cX4_does 212 = .ok (.bipush 6, 2) := dk_16 6 (dk_at dksX4_does_7 11 rfl rfl)
theorem dX4_does_214 : decode cX4_does 214 = .ok (.iload_n 1, 1) := dk_27 (dk_at dksX4_does_7 13 rfl rfl)
theorem dX4_does_215 : decode cX4_does 215 = .ok (.imul, 1) := dk_104 (dk_at dksX4_does_7 14 rfl rfl)
theorem dX4_does_216 : decode cX4_does 216 = .ok (.iconst 3, 1) := dk_6 (dk_at dksX4_does_7 15 rfl rfl)
theorem dX4_does_217 : decode cX4_does 217 = .ok (.iadd, 1) := dk_96 (dk_at dksX4_does_7 16 rfl rfl)
theorem dX4_does_218 : decode cX4_does 218 = .ok (.iaload, 1) := dk_46 (dk_at dksX4_does_7 17 rfl rfl)
theorem dX4_does_219 : decode cX4_does 219 = .ok (.iload_n 3, 1) := dk_29 (dk_at dksX4_does_7 18 rfl rfl)
theorem dX4_does_220 : decode cX4_does 220 = .ok (.iconst 1, 1) := dk_4 (dk_at dksX4_does_7 19 rfl rfl)
theorem dX4_does_221 : decode cX4_does 221 = .ok (.if_icmp .ne 7, 3) := dk_160 0 7 (dk_at dksX4_does_7 20 rfl rfl)
theorem dX4_does_224 : decode cX4_does 224 = .ok (.iconst 1, 1) := dk_4 (dk_at dksX4_does_7 23 rfl rfl)
theorem dX4_does_225 : decode cX4_does 225 = .ok (.goto 4, 3) := dk_167 0 4 (dk_at dksX4_does_8 0 rfl rfl)
theorem dX4_does_228 : decode cX4_does 228 = .ok (.iconst 0, 1) := dk_3 (dk_at dksX4_does_8 3 rfl rfl)
theorem dX4_does_229 : decode cX4_does 229 = .ok (.invokevirtual 130, 3) := dk_182 0 130 (dk_at dksX4_does_8 4 rfl rfl)
theorem dX4_does_232 : decode cX4_does 232 = .ok (.istore 4, 2) := dk_54 4 (dk_at dksX4_does_8 7 rfl rfl)
theorem dX4_does_234 : decode cX4_does 234 = .ok (.goto 60, 3) := dk_167 0 60 (dk_at dksX4_does_8 9 rfl rfl)
theorem dX4_does_237 : decode cX4_does 237 = .ok (.aload_n 0, 1) := dk_42 (dk_at dksX4_does_8 12 rfl rfl)
theorem dX4_does_238 : decode cX4_does 238 = .ok (.iload_n 2, 1) := dk_28 (dk_at dksX4_does_8 13 rfl rfl)
theorem dX4_does_239 : decode cX4_does 239 = .ok (.iload_n 3, 1) := dk_29 (dk_at dksX4_does_8 14 rfl rfl)
theorem dX4_does_240 : decode cX4_does 240 = .ok (.iconst 1, 1) := dk_4 (dk_at dksX4_does_8 15 rfl rfl)
theorem dX4_does_241 : decode cX4_does 241 = .ok (.if_icmp .ne 7, 3) := dk_160 0 7 (dk_at dksX4_does_8 16 rfl rfl)
theorem dX4_does_244 : decode cX4_does 244 = .ok (.iconst 1, 1) := dk_4 (dk_at dksX4_does_8 19 rfl rfl)
theorem dX4_does_245 : decode cX4_does 245 = .ok (.goto 4, 3) := dk_167 0 4 (dk_at dksX4_does_8 20 rfl rfl)
theorem dX4_does_248 : decode cX4_does 248 = .ok (.iconst 0, 1) := dk_3 (dk_at dksX4_does_8 23 rfl rfl)
theorem dX4_does_249 : decode cX4_does 249 = .ok (.invokevirtual 142, 3) := dk_182 0 142 (dk_at dksX4_does_9 0 rfl rfl)
theorem dX4_does_252 : decode cX4_does 252 = .ok (.istore 4, 2) := dk_54 4 (dk_at dksX4_does_9 3 rfl rfl)
theorem dX4_does_254 : decode cX4_does 254 = .ok (.goto 40, 3) := dk_167 0 40 (dk_at dksX4_does_9 5 rfl rfl)
theorem dX4_does_257 : decode cX4_does 257 = .ok (.aload_n 0, 1) := dk_42 (dk_at dksX4_does_9 8 rfl rfl)
theorem dX4_does_258 : decode cX4_does 258 = .ok (.iload_n 2, 1) := dk_28 (dk_at dksX4_does_9 9 rfl rfl)
theorem dX4_does_259 : decode cX4_does 259 = .ok (.invokevirtual 212, 3) := dk_182 0 212 (dk_at dksX4_does_9 10 rfl rfl)
theorem dX4_does_262 : decode cX4_does 262 = .ok (.istore 4, 2) := dk_54 4 (dk_at dksX4_does_9 13 rfl rfl)
theorem dX4_does_264 : decode cX4_does 264 = .ok (.goto 30, 3) := dk_167 0 30 (dk_at dksX4_does_9 15 rfl rfl)
theorem dX4_does_267 : decode cX4_does 267 = .ok (.aload_n 0, 1) := dk_42 (dk_at dksX4_does_9 18 rfl rfl)
theorem dX4_does_268 : decode cX4_does 268 = .ok (.iload_n 2, 1) := dk_28 (dk_at dksX4_does_9 19 rfl rfl)
theorem dX4_does_269 : decode cX4_does 269 = .ok (.invokevirtual 118, 3) := dk_182 0 118 (dk_at dksX4_does_9 20 rfl rfl)
theorem dX4_does_272 : decode cX4_does 272 = .ok (.istore 4, 2) := dk_54 4 (dk_at dksX4_does_10 0 rfl rfl)
theorem dX4_does_274 : decode cX4_does 274 = .ok (.goto 20, 3) := dk_167 0 20 (dk_at dksX4_does_10 2 rfl rfl)
theorem dX4_does_277 : decode cX4_does 277 = .ok (.aload_n 0, 1) := dk_42 (dk_at dksX4_does_10 5 rfl rfl)
theorem dX4_does_278 : decode cX4_does 278 = .ok (.iload_n 2, 1) := dk_28 (dk_at dksX4_does_10 6 rfl rfl)
theorem dX4_does_279 : decode cX4_does 279 = .ok (.invokevirtual 215, 3) := dk_182 0 215 (dk_at dksX4_does_10 7 rfl rfl)
theorem dX4_does_282 : decode cX4_does 282 = .ok (.istore 4, 2) := dk_54 4 (dk_at dksX4_does_10 10 rfl rfl)
theorem dX4_does_284 : decode cX4_does 284 = .ok (.goto 10, 3) := dk_167 0 10 (dk_at dksX4_does_10 12 rfl rfl)
theorem dX4_does_287 : decode cX4_does 287 = .ok (.aload_n 0, 1) := dk_42 (dk_at dksX4_does_10 15 rfl rfl)
theorem dX4_does_288 : decode cX4_does 288 = .ok (.iload_n 2, 1) := dk_28 (dk_at dksX4_does_10 16 rfl rfl)
theorem dX4_does_289 : decode cX4_does 289 = .ok (.invokevirtual 218, 3) := dk_182 0 218 (dk_at dksX4_does_10 17 rfl rfl)
theorem dX4_does_292 : decode cX4_does 292 = .ok (.istore 4, 2) := dk_54 4 (dk_at dksX4_does_10 20 rfl rfl)
theorem dX4_does_294 : decode cX4_does 294 = .ok (.return_, 1) := dk_177 (dk_at dksX4_does_10 22 rfl rfl)
abbrev cX4_errorPosition : ByteArray := prog_14_method_93_code
def yX4_errorPosition : MethodName := ⟨RX4, "errorPosition", "()I"⟩
def dkwX4_errorPosition_1 : List UInt8 := [167, 0, 7, 42, 180, 0, 39, 172]
abbrev dktX4_errorPosition_1 : List UInt8 := dkwX4_errorPosition_1 ++ []
def dkwX4_errorPosition_0 : List UInt8 := [42, 42, 180, 0, 39, 156, 0, 7, 4, 167, 0, 4, 3, 181, 0, 52, 42, 180, 0, 52, 158, 0, 7, 3]
abbrev dktX4_errorPosition_0 : List UInt8 := dkwX4_errorPosition_0 ++ dktX4_errorPosition_1
theorem dksX4_errorPosition_0 : cX4_errorPosition.data.toList.drop 0 = dktX4_errorPosition_0 := by decide +kernel
theorem dksX4_errorPosition_1 : cX4_errorPosition.data.toList.drop 24 = dktX4_errorPosition_1 := dk_seg dksX4_errorPosition_0 24 rfl rfl
theorem dX4_errorPosition_0 : decode cX4_errorPosition 0 = .ok (.aload_n 0, 1) := dk_42 (dk_at dksX4_errorPosition_0 0 rfl rfl)
theorem dX4_errorPosition_1 : decode cX4_errorPosition 1 = .ok (.aload_n 0, 1) := dk_42 (dk_at dksX4_errorPosition_0 1 rfl rfl)
theorem dX4_errorPosition_2 : decode cX4_errorPosition 2 = .ok (.getfield 39, 3) := dk_180 0 39 (dk_at dksX4_errorPosition_0 2 rfl rfl)
theorem dX4_errorPosition_5 : decode cX4_errorPosition 5 = .ok (.ifCond .ge 7, 3) := dk_156 0 7 (dk_at dksX4_errorPosition_0 5 rfl rfl)
theorem dX4_errorPosition_8 : decode cX4_errorPosition 8 = .ok (.iconst 1, 1) := dk_4 (dk_at dksX4_errorPosition_0 8 rfl rfl)
theorem dX4_errorPosition_9 : decode cX4_errorPosition 9 = .ok (.goto 4, 3) := dk_167 0 4 (dk_at dksX4_errorPosition_0 9 rfl rfl)
theorem dX4_errorPosition_12 : decode cX4_errorPosition 12 = .ok (.iconst 0, 1) := dk_3 (dk_at dksX4_errorPosition_0 12 rfl rfl)
theorem dX4_errorPosition_13 : decode cX4_errorPosition 13 = .ok (.putfield 52, 3) := dk_181 0 52 (dk_at dksX4_errorPosition_0 13 rfl rfl)
theorem dX4_errorPosition_16 : decode cX4_errorPosition 16 = .ok (.aload_n 0, 1) := dk_42 (dk_at dksX4_errorPosition_0 16 rfl rfl)
theorem dX4_errorPosition_17 : decode cX4_errorPosition 17 = .ok (.getfield 52, 3) := dk_180 0 52 (dk_at dksX4_errorPosition_0 17 rfl rfl)
theorem dX4_errorPosition_20 : decode cX4_errorPosition 20 = .ok (.ifCond .le 7, 3) := dk_158 0 7 (dk_at dksX4_errorPosition_0 20 rfl rfl)
theorem dX4_errorPosition_23 : decode cX4_errorPosition 23 = .ok (.iconst 0, 1) := dk_3 (dk_at dksX4_errorPosition_0 23 rfl rfl)
theorem dX4_errorPosition_24 : decode cX4_errorPosition 24 = .ok (.goto 7, 3) := dk_167 0 7 (dk_at dksX4_errorPosition_1 0 rfl rfl)
theorem dX4_errorPosition_27 : decode cX4_errorPosition 27 = .ok (.aload_n 0, 1) := dk_42 (dk_at dksX4_errorPosition_1 3 rfl rfl)
theorem dX4_errorPosition_28 : decode cX4_errorPosition 28 = .ok (.getfield 39, 3) := dk_180 0 39 (dk_at dksX4_errorPosition_1 4 rfl rfl)
theorem dX4_errorPosition_31 : decode cX4_errorPosition 31 = .ok (.ireturn, 1) := dk_172 (dk_at dksX4_errorPosition_1 7 rfl rfl)
abbrev cX4_refusedItem : ByteArray := prog_14_method_94_code
def yX4_refusedItem : MethodName := ⟨RX4, "refusedItem", "()I"⟩
def dkwX4_refusedItem_1 : List UInt8 := [167, 0, 7, 42, 180, 0, 43, 172]
abbrev dktX4_refusedItem_1 : List UInt8 := dkwX4_refusedItem_1 ++ []
def dkwX4_refusedItem_0 : List UInt8 := [42, 42, 180, 0, 43, 156, 0, 7, 4, 167, 0, 4, 3, 181, 0, 52, 42, 180, 0, 52, 158, 0, 7, 3]
abbrev dktX4_refusedItem_0 : List UInt8 := dkwX4_refusedItem_0 ++ dktX4_refusedItem_1
theorem dksX4_refusedItem_0 : cX4_refusedItem.data.toList.drop 0 = dktX4_refusedItem_0 := by decide +kernel
theorem dksX4_refusedItem_1 : cX4_refusedItem.data.toList.drop 24 = dktX4_refusedItem_1 := dk_seg dksX4_refusedItem_0 24 rfl rfl
theorem dX4_refusedItem_0 : decode cX4_refusedItem 0 = .ok (.aload_n 0, 1) := dk_42 (dk_at dksX4_refusedItem_0 0 rfl rfl)
theorem dX4_refusedItem_1 : decode cX4_refusedItem 1 = .ok (.aload_n 0, 1) := dk_42 (dk_at dksX4_refusedItem_0 1 rfl rfl)
theorem dX4_refusedItem_2 : decode cX4_refusedItem 2 = .ok (.getfield 43, 3) := dk_180 0 43 (dk_at dksX4_refusedItem_0 2 rfl rfl)
theorem dX4_refusedItem_5 : decode cX4_refusedItem 5 = .ok (.ifCond .ge 7, 3) := dk_156 0 7 (dk_at dksX4_refusedItem_0 5 rfl rfl)
theorem dX4_refusedItem_8 : decode cX4_refusedItem 8 = .ok (.iconst 1, 1) := dk_4 (dk_at dksX4_refusedItem_0 8 rfl rfl)
theorem dX4_refusedItem_9 : decode cX4_refusedItem 9 = .ok (.goto 4, 3) := dk_167 0 4 (dk_at dksX4_refusedItem_0 9 rfl rfl)
theorem dX4_refusedItem_12 : decode cX4_refusedItem 12 = .ok (.iconst 0, 1) := dk_3 (dk_at dksX4_refusedItem_0 12 rfl rfl)
theorem dX4_refusedItem_13 : decode cX4_refusedItem 13 = .ok (.putfield 52, 3) := dk_181 0 52 (dk_at dksX4_refusedItem_0 13 rfl rfl)
theorem dX4_refusedItem_16 : decode cX4_refusedItem 16 = .ok (.aload_n 0, 1) := dk_42 (dk_at dksX4_refusedItem_0 16 rfl rfl)
theorem dX4_refusedItem_17 : decode cX4_refusedItem 17 = .ok (.getfield 52, 3) := dk_180 0 52 (dk_at dksX4_refusedItem_0 17 rfl rfl)
theorem dX4_refusedItem_20 : decode cX4_refusedItem 20 = .ok (.ifCond .le 7, 3) := dk_158 0 7 (dk_at dksX4_refusedItem_0 20 rfl rfl)
theorem dX4_refusedItem_23 : decode cX4_refusedItem 23 = .ok (.iconst 0, 1) := dk_3 (dk_at dksX4_refusedItem_0 23 rfl rfl)
theorem dX4_refusedItem_24 : decode cX4_refusedItem 24 = .ok (.goto 7, 3) := dk_167 0 7 (dk_at dksX4_refusedItem_1 0 rfl rfl)
theorem dX4_refusedItem_27 : decode cX4_refusedItem 27 = .ok (.aload_n 0, 1) := dk_42 (dk_at dksX4_refusedItem_1 3 rfl rfl)
theorem dX4_refusedItem_28 : decode cX4_refusedItem 28 = .ok (.getfield 43, 3) := dk_180 0 43 (dk_at dksX4_refusedItem_1 4 rfl rfl)
theorem dX4_refusedItem_31 : decode cX4_refusedItem 31 = .ok (.ireturn, 1) := dk_172 (dk_at dksX4_refusedItem_1 7 rfl rfl)
abbrev cX4_undo : ByteArray := prog_14_method_95_code
def yX4_undo : MethodName := ⟨RX4, "undo", "()I"⟩
def dkwX4_undo_2 : List UInt8 := [180, 0, 9, 3, 17, 1, 19, 184, 0, 58, 42, 180, 0, 55, 172]
abbrev dktX4_undo_2 : List UInt8 := dkwX4_undo_2 ++ []
def dkwX4_undo_1 : List UInt8 := [172, 42, 89, 180, 0, 55, 4, 100, 181, 0, 55, 42, 180, 0, 19, 17, 1, 19, 42, 180, 0, 55, 104, 42]
abbrev dktX4_undo_1 : List UInt8 := dkwX4_undo_1 ++ dktX4_undo_2
def dkwX4_undo_0 : List UInt8 := [42, 42, 180, 0, 55, 154, 0, 7, 4, 167, 0, 4, 3, 181, 0, 52, 42, 180, 0, 52, 158, 0, 5, 3]
abbrev dktX4_undo_0 : List UInt8 := dkwX4_undo_0 ++ dktX4_undo_1
theorem dksX4_undo_0 : cX4_undo.data.toList.drop 0 = dktX4_undo_0 := by decide +kernel
theorem dksX4_undo_1 : cX4_undo.data.toList.drop 24 = dktX4_undo_1 := dk_seg dksX4_undo_0 24 rfl rfl
theorem dksX4_undo_2 : cX4_undo.data.toList.drop 48 = dktX4_undo_2 := dk_seg dksX4_undo_1 24 rfl rfl
theorem dX4_undo_0 : decode cX4_undo 0 = .ok (.aload_n 0, 1) := dk_42 (dk_at dksX4_undo_0 0 rfl rfl)
theorem dX4_undo_1 : decode cX4_undo 1 = .ok (.aload_n 0, 1) := dk_42 (dk_at dksX4_undo_0 1 rfl rfl)
theorem dX4_undo_2 : decode cX4_undo 2 = .ok (.getfield 55, 3) := dk_180 0 55 (dk_at dksX4_undo_0 2 rfl rfl)
theorem dX4_undo_5 : decode cX4_undo 5 = .ok (.ifCond .ne 7, 3) := dk_154 0 7 (dk_at dksX4_undo_0 5 rfl rfl)
theorem dX4_undo_8 : decode cX4_undo 8 = .ok (.iconst 1, 1) := dk_4 (dk_at dksX4_undo_0 8 rfl rfl)
theorem dX4_undo_9 : decode cX4_undo 9 = .ok (.goto 4, 3) := dk_167 0 4 (dk_at dksX4_undo_0 9 rfl rfl)
theorem dX4_undo_12 : decode cX4_undo 12 = .ok (.iconst 0, 1) := dk_3 (dk_at dksX4_undo_0 12 rfl rfl)
theorem dX4_undo_13 : decode cX4_undo 13 = .ok (.putfield 52, 3) := dk_181 0 52 (dk_at dksX4_undo_0 13 rfl rfl)
theorem dX4_undo_16 : decode cX4_undo 16 = .ok (.aload_n 0, 1) := dk_42 (dk_at dksX4_undo_0 16 rfl rfl)
theorem dX4_undo_17 : decode cX4_undo 17 = .ok (.getfield 52, 3) := dk_180 0 52 (dk_at dksX4_undo_0 17 rfl rfl)
theorem dX4_undo_20 : decode cX4_undo 20 = .ok (.ifCond .le 5, 3) := dk_158 0 5 (dk_at dksX4_undo_0 20 rfl rfl)
theorem dX4_undo_23 : decode cX4_undo 23 = .ok (.iconst 0, 1) := dk_3 (dk_at dksX4_undo_0 23 rfl rfl)
theorem dX4_undo_24 : decode cX4_undo 24 = .ok (.ireturn, 1) := dk_172 (dk_at dksX4_undo_1 0 rfl rfl)
theorem dX4_undo_25 : decode cX4_undo 25 = .ok (.aload_n 0, 1) := dk_42 (dk_at dksX4_undo_1 1 rfl rfl)
theorem dX4_undo_26 : decode cX4_undo 26 = .ok (.dup, 1) := dk_89 (dk_at dksX4_undo_1 2 rfl rfl)
theorem dX4_undo_27 : decode cX4_undo 27 = .ok (.getfield 55, 3) := dk_180 0 55 (dk_at dksX4_undo_1 3 rfl rfl)
theorem dX4_undo_30 : decode cX4_undo 30 = .ok (.iconst 1, 1) := dk_4 (dk_at dksX4_undo_1 6 rfl rfl)
theorem dX4_undo_31 : decode cX4_undo 31 = .ok (.isub, 1) := dk_100 (dk_at dksX4_undo_1 7 rfl rfl)
theorem dX4_undo_32 : decode cX4_undo 32 = .ok (.putfield 55, 3) := dk_181 0 55 (dk_at dksX4_undo_1 8 rfl rfl)
theorem dX4_undo_35 : decode cX4_undo 35 = .ok (.aload_n 0, 1) := dk_42 (dk_at dksX4_undo_1 11 rfl rfl)
theorem dX4_undo_36 : decode cX4_undo 36 = .ok (.getfield 19, 3) := dk_180 0 19 (dk_at dksX4_undo_1 12 rfl rfl)
theorem dX4_undo_39 : decode cX4_undo 39 = .ok (.sipush 275, 3) := dk_17 1 19 (dk_at dksX4_undo_1 15 rfl rfl)
theorem dX4_undo_42 : decode cX4_undo 42 = .ok (.aload_n 0, 1) := dk_42 (dk_at dksX4_undo_1 18 rfl rfl)
theorem dX4_undo_43 : decode cX4_undo 43 = .ok (.getfield 55, 3) := dk_180 0 55 (dk_at dksX4_undo_1 19 rfl rfl)
theorem dX4_undo_46 : decode cX4_undo 46 = .ok (.imul, 1) := dk_104 (dk_at dksX4_undo_1 22 rfl rfl)
theorem dX4_undo_47 : decode cX4_undo 47 = .ok (.aload_n 0, 1) := dk_42 (dk_at dksX4_undo_1 23 rfl rfl)
theorem dX4_undo_48 : decode cX4_undo 48 = .ok (.getfield 9, 3) := dk_180 0 9 (dk_at dksX4_undo_2 0 rfl rfl)
theorem dX4_undo_51 : decode cX4_undo 51 = .ok (.iconst 0, 1) := dk_3 (dk_at dksX4_undo_2 3 rfl rfl)
theorem dX4_undo_52 : decode cX4_undo 52 = .ok (.sipush 275, 3) := dk_17 1 19 (dk_at dksX4_undo_2 4 rfl rfl)
theorem dX4_undo_55 : decode cX4_undo 55 = .ok (.invokestatic 58, 3) := dk_184 0 58 (dk_at dksX4_undo_2 7 rfl rfl)
theorem dX4_undo_58 : decode cX4_undo 58 = .ok (.aload_n 0, 1) := dk_42 (dk_at dksX4_undo_2 10 rfl rfl)
theorem dX4_undo_59 : decode cX4_undo 59 = .ok (.getfield 55, 3) := dk_180 0 55 (dk_at dksX4_undo_2 11 rfl rfl)
theorem dX4_undo_62 : decode cX4_undo 62 = .ok (.ireturn, 1) := dk_172 (dk_at dksX4_undo_2 14 rfl rfl)
abbrev cX4_snapshot : ByteArray := prog_14_method_96_code
def yX4_snapshot : MethodName := ⟨RX4, "snapshot", "()I"⟩
def dkwX4_snapshot_1 : List UInt8 := [181, 1, 34, 42, 180, 0, 9, 3, 46, 172]
abbrev dktX4_snapshot_1 : List UInt8 := dkwX4_snapshot_1 ++ []
def dkwX4_snapshot_0 : List UInt8 := [42, 3, 181, 0, 52, 42, 180, 0, 9, 3, 42, 180, 0, 16, 3, 17, 1, 19, 184, 0, 58, 42, 4]
abbrev dktX4_snapshot_0 : List UInt8 := dkwX4_snapshot_0 ++ dktX4_snapshot_1
theorem dksX4_snapshot_0 : cX4_snapshot.data.toList.drop 0 = dktX4_snapshot_0 := by decide +kernel
theorem dksX4_snapshot_1 : cX4_snapshot.data.toList.drop 23 = dktX4_snapshot_1 := dk_seg dksX4_snapshot_0 23 rfl rfl
theorem dX4_snapshot_0 : decode cX4_snapshot 0 = .ok (.aload_n 0, 1) := dk_42 (dk_at dksX4_snapshot_0 0 rfl rfl)
theorem dX4_snapshot_1 : decode cX4_snapshot 1 = .ok (.iconst 0, 1) := dk_3 (dk_at dksX4_snapshot_0 1 rfl rfl)
theorem dX4_snapshot_2 : decode cX4_snapshot 2 = .ok (.putfield 52, 3) := dk_181 0 52 (dk_at dksX4_snapshot_0 2 rfl rfl)
theorem dX4_snapshot_5 : decode cX4_snapshot 5 = .ok (.aload_n 0, 1) := dk_42 (dk_at dksX4_snapshot_0 5 rfl rfl)
theorem dX4_snapshot_6 : decode cX4_snapshot 6 = .ok (.getfield 9, 3) := dk_180 0 9 (dk_at dksX4_snapshot_0 6 rfl rfl)
theorem dX4_snapshot_9 : decode cX4_snapshot 9 = .ok (.iconst 0, 1) := dk_3 (dk_at dksX4_snapshot_0 9 rfl rfl)
theorem dX4_snapshot_10 : decode cX4_snapshot 10 = .ok (.aload_n 0, 1) := dk_42 (dk_at dksX4_snapshot_0 10 rfl rfl)
theorem dX4_snapshot_11 : decode cX4_snapshot 11 = .ok (.getfield 16, 3) := dk_180 0 16 (dk_at dksX4_snapshot_0 11 rfl rfl)
theorem dX4_snapshot_14 : decode cX4_snapshot 14 = .ok (.iconst 0, 1) := dk_3 (dk_at dksX4_snapshot_0 14 rfl rfl)
theorem dX4_snapshot_15 : decode cX4_snapshot 15 = .ok (.sipush 275, 3) := dk_17 1 19 (dk_at dksX4_snapshot_0 15 rfl rfl)
theorem dX4_snapshot_18 : decode cX4_snapshot 18 = .ok (.invokestatic 58, 3) := dk_184 0 58 (dk_at dksX4_snapshot_0 18 rfl rfl)
theorem dX4_snapshot_21 : decode cX4_snapshot 21 = .ok (.aload_n 0, 1) := dk_42 (dk_at dksX4_snapshot_0 21 rfl rfl)
theorem dX4_snapshot_22 : decode cX4_snapshot 22 = .ok (.iconst 1, 1) := dk_4 (dk_at dksX4_snapshot_0 22 rfl rfl)
theorem dX4_snapshot_23 : decode cX4_snapshot 23 = .ok (.putfield 290, 3) := dk_181 1 34 (dk_at dksX4_snapshot_1 0 rfl rfl)
theorem dX4_snapshot_26 : decode cX4_snapshot 26 = .ok (.aload_n 0, 1) := dk_42 (dk_at dksX4_snapshot_1 3 rfl rfl)
theorem dX4_snapshot_27 : decode cX4_snapshot 27 = .ok (.getfield 9, 3) := dk_180 0 9 (dk_at dksX4_snapshot_1 4 rfl rfl)
theorem dX4_snapshot_30 : decode cX4_snapshot 30 = .ok (.iconst 0, 1) := dk_3 (dk_at dksX4_snapshot_1 7 rfl rfl)
theorem dX4_snapshot_31 : decode cX4_snapshot 31 = .ok (.iaload, 1) := dk_46 (dk_at dksX4_snapshot_1 8 rfl rfl)
theorem dX4_snapshot_32 : decode cX4_snapshot 32 = .ok (.ireturn, 1) := dk_172 (dk_at dksX4_snapshot_1 9 rfl rfl)
abbrev cX4_restore : ByteArray := prog_14_method_97_code
def yX4_restore : MethodName := ⟨RX4, "restore", "()I"⟩
def dkwX4_restore_2 : List UInt8 := [180, 0, 9, 3, 46, 172]
abbrev dktX4_restore_2 : List UInt8 := dkwX4_restore_2 ++ []
def dkwX4_restore_1 : List UInt8 := [172, 42, 180, 0, 16, 3, 42, 180, 0, 9, 3, 17, 1, 19, 184, 0, 58, 42, 3, 181, 0, 55, 42]
abbrev dktX4_restore_1 : List UInt8 := dkwX4_restore_1 ++ dktX4_restore_2
def dkwX4_restore_0 : List UInt8 := [42, 42, 180, 1, 34, 153, 0, 7, 3, 167, 0, 4, 4, 181, 0, 52, 42, 180, 0, 52, 158, 0, 5, 3]
abbrev dktX4_restore_0 : List UInt8 := dkwX4_restore_0 ++ dktX4_restore_1
theorem dksX4_restore_0 : cX4_restore.data.toList.drop 0 = dktX4_restore_0 := by decide +kernel
theorem dksX4_restore_1 : cX4_restore.data.toList.drop 24 = dktX4_restore_1 := dk_seg dksX4_restore_0 24 rfl rfl
theorem dksX4_restore_2 : cX4_restore.data.toList.drop 47 = dktX4_restore_2 := dk_seg dksX4_restore_1 23 rfl rfl
theorem dX4_restore_0 : decode cX4_restore 0 = .ok (.aload_n 0, 1) := dk_42 (dk_at dksX4_restore_0 0 rfl rfl)
theorem dX4_restore_1 : decode cX4_restore 1 = .ok (.aload_n 0, 1) := dk_42 (dk_at dksX4_restore_0 1 rfl rfl)
theorem dX4_restore_2 : decode cX4_restore 2 = .ok (.getfield 290, 3) := dk_180 1 34 (dk_at dksX4_restore_0 2 rfl rfl)
theorem dX4_restore_5 : decode cX4_restore 5 = .ok (.ifCond .eq 7, 3) := dk_153 0 7 (dk_at dksX4_restore_0 5 rfl rfl)
theorem dX4_restore_8 : decode cX4_restore 8 = .ok (.iconst 0, 1) := dk_3 (dk_at dksX4_restore_0 8 rfl rfl)
theorem dX4_restore_9 : decode cX4_restore 9 = .ok (.goto 4, 3) := dk_167 0 4 (dk_at dksX4_restore_0 9 rfl rfl)
theorem dX4_restore_12 : decode cX4_restore 12 = .ok (.iconst 1, 1) := dk_4 (dk_at dksX4_restore_0 12 rfl rfl)
theorem dX4_restore_13 : decode cX4_restore 13 = .ok (.putfield 52, 3) := dk_181 0 52 (dk_at dksX4_restore_0 13 rfl rfl)
theorem dX4_restore_16 : decode cX4_restore 16 = .ok (.aload_n 0, 1) := dk_42 (dk_at dksX4_restore_0 16 rfl rfl)
theorem dX4_restore_17 : decode cX4_restore 17 = .ok (.getfield 52, 3) := dk_180 0 52 (dk_at dksX4_restore_0 17 rfl rfl)
theorem dX4_restore_20 : decode cX4_restore 20 = .ok (.ifCond .le 5, 3) := dk_158 0 5 (dk_at dksX4_restore_0 20 rfl rfl)
theorem dX4_restore_23 : decode cX4_restore 23 = .ok (.iconst 0, 1) := dk_3 (dk_at dksX4_restore_0 23 rfl rfl)
theorem dX4_restore_24 : decode cX4_restore 24 = .ok (.ireturn, 1) := dk_172 (dk_at dksX4_restore_1 0 rfl rfl)
theorem dX4_restore_25 : decode cX4_restore 25 = .ok (.aload_n 0, 1) := dk_42 (dk_at dksX4_restore_1 1 rfl rfl)
theorem dX4_restore_26 : decode cX4_restore 26 = .ok (.getfield 16, 3) := dk_180 0 16 (dk_at dksX4_restore_1 2 rfl rfl)
theorem dX4_restore_29 : decode cX4_restore 29 = .ok (.iconst 0, 1) := dk_3 (dk_at dksX4_restore_1 5 rfl rfl)
theorem dX4_restore_30 : decode cX4_restore 30 = .ok (.aload_n 0, 1) := dk_42 (dk_at dksX4_restore_1 6 rfl rfl)
theorem dX4_restore_31 : decode cX4_restore 31 = .ok (.getfield 9, 3) := dk_180 0 9 (dk_at dksX4_restore_1 7 rfl rfl)
theorem dX4_restore_34 : decode cX4_restore 34 = .ok (.iconst 0, 1) := dk_3 (dk_at dksX4_restore_1 10 rfl rfl)
theorem dX4_restore_35 : decode cX4_restore 35 = .ok (.sipush 275, 3) := dk_17 1 19 (dk_at dksX4_restore_1 11 rfl rfl)
theorem dX4_restore_38 : decode cX4_restore 38 = .ok (.invokestatic 58, 3) := dk_184 0 58 (dk_at dksX4_restore_1 14 rfl rfl)
theorem dX4_restore_41 : decode cX4_restore 41 = .ok (.aload_n 0, 1) := dk_42 (dk_at dksX4_restore_1 17 rfl rfl)
theorem dX4_restore_42 : decode cX4_restore 42 = .ok (.iconst 0, 1) := dk_3 (dk_at dksX4_restore_1 18 rfl rfl)
theorem dX4_restore_43 : decode cX4_restore 43 = .ok (.putfield 55, 3) := dk_181 0 55 (dk_at dksX4_restore_1 19 rfl rfl)
theorem dX4_restore_46 : decode cX4_restore 46 = .ok (.aload_n 0, 1) := dk_42 (dk_at dksX4_restore_1 22 rfl rfl)
theorem dX4_restore_47 : decode cX4_restore 47 = .ok (.getfield 9, 3) := dk_180 0 9 (dk_at dksX4_restore_2 0 rfl rfl)
theorem dX4_restore_50 : decode cX4_restore 50 = .ok (.iconst 0, 1) := dk_3 (dk_at dksX4_restore_2 3 rfl rfl)
theorem dX4_restore_51 : decode cX4_restore 51 = .ok (.iaload, 1) := dk_46 (dk_at dksX4_restore_2 4 rfl rfl)
theorem dX4_restore_52 : decode cX4_restore 52 = .ok (.ireturn, 1) := dk_172 (dk_at dksX4_restore_2 5 rfl rfl)
theorem q120 : (Jvm.Cond.initialized "MissingMiddlesModel") ∈ lw_all := lw_g (lw_at lw_m1 18 rfl) rfl
theorem q267 : (Jvm.Cond.selects "MissingMiddlesModel" ({ cls := "java/lang/Object", name := "getClass", desc := "()Ljava/lang/Class;" } : Jvm.MethodName) ({ cls := "java/lang/Object", name := "getClass", desc := "()Ljava/lang/Class;" } : Jvm.MethodName)) ∈ lw_all := lw_g (lw_at lw_m1 165 rfl) rfl
theorem q1786 : (Jvm.Cond.selects "MissingMiddlesModel" ({ cls := "java/lang/Object", name := "equals", desc := "(Ljava/lang/Object;)Z" } : Jvm.MethodName) ({ cls := "java/lang/Object", name := "equals", desc := "(Ljava/lang/Object;)Z" } : Jvm.MethodName)) ∈ lw_all := lw_g (lw_at lw_m8 4 rfl) rfl
theorem q2640 : (Jvm.Cond.instantiable "MissingMiddlesModel" (22 : Nat)) ∈ lw_all := lw_g (lw_at lw_m11 138 rfl) rfl
theorem q2642 : (Jvm.Cond.instanceMethod ({ cls := "MissingMiddlesModel", name := "<init>", desc := "()V" } : Jvm.MethodName)) ∈ lw_all := lw_g (lw_at lw_m11 140 rfl) rfl
theorem q2643 : (Jvm.Cond.code ({ cls := "MissingMiddlesModel", name := "<init>", desc := "()V" } : Jvm.MethodName) prog_14_method_1_code (1 : Nat) (Option.none : Option Jvm.ClassFile.FieldType)) ∈ lw_all := lw_g (lw_at lw_m11 141 rfl) rfl
theorem q2644 : (Jvm.Cond.methodLink "MissingMiddlesModel" (3 : Nat) ({ cls := "java/lang/Object", name := "<init>", desc := "()V" } : Jvm.MethodName)) ∈ lw_all := lw_g (lw_at lw_m11 142 rfl) rfl
theorem q2645 : (Jvm.Cond.methodLink "MissingMiddlesModel" (49 : Nat) ({ cls := "MissingMiddlesModel", name := "empties", desc := "()V" } : Jvm.MethodName)) ∈ lw_all := lw_g (lw_at lw_m11 143 rfl) rfl
theorem q2646 : (Jvm.Cond.privateMethod ({ cls := "MissingMiddlesModel", name := "empties", desc := "()V" } : Jvm.MethodName)) ∈ lw_tbl := lw_at lw_m11 144 rfl
theorem q2647 : (Jvm.Cond.instanceMethod ({ cls := "MissingMiddlesModel", name := "empties", desc := "()V" } : Jvm.MethodName)) ∈ lw_all := lw_g (lw_at lw_m11 145 rfl) rfl
theorem q2648 : (Jvm.Cond.code ({ cls := "MissingMiddlesModel", name := "empties", desc := "()V" } : Jvm.MethodName) prog_14_method_4_code (2 : Nat) (Option.none : Option Jvm.ClassFile.FieldType)) ∈ lw_all := lw_g (lw_at lw_m11 146 rfl) rfl
theorem q2649 : (Jvm.Cond.fieldLink "MissingMiddlesModel" (9 : Nat) "MissingMiddlesModel" "s" "[I") ∈ lw_all := lw_g (lw_at lw_m11 147 rfl) rfl
theorem q2650 : (Jvm.Cond.fieldLink "MissingMiddlesModel" (13 : Nat) "MissingMiddlesModel" "before" "[I") ∈ lw_all := lw_g (lw_at lw_m11 148 rfl) rfl
theorem q2651 : (Jvm.Cond.fieldLink "MissingMiddlesModel" (16 : Nat) "MissingMiddlesModel" "saved" "[I") ∈ lw_all := lw_g (lw_at lw_m11 149 rfl) rfl
theorem q2652 : (Jvm.Cond.fieldLink "MissingMiddlesModel" (290 : Nat) "MissingMiddlesModel" "isSaved" "Z") ∈ lw_all := lw_g (lw_at lw_m11 150 rfl) rfl
theorem q2653 : (Jvm.Cond.fieldLink "MissingMiddlesModel" (19 : Nat) "MissingMiddlesModel" "past" "[I") ∈ lw_all := lw_g (lw_at lw_m11 151 rfl) rfl
theorem q2654 : (Jvm.Cond.fieldLink "MissingMiddlesModel" (55 : Nat) "MissingMiddlesModel" "pastMany" "I") ∈ lw_all := lw_g (lw_at lw_m11 152 rfl) rfl
theorem q2655 : (Jvm.Cond.fieldLink "MissingMiddlesModel" (52 : Nat) "MissingMiddlesModel" "thrown" "I") ∈ lw_all := lw_g (lw_at lw_m11 153 rfl) rfl
theorem q2656 : (Jvm.Cond.fieldLink "MissingMiddlesModel" (22 : Nat) "MissingMiddlesModel" "refused" "[I") ∈ lw_all := lw_g (lw_at lw_m11 154 rfl) rfl
theorem q2657 : (Jvm.Cond.fieldLink "MissingMiddlesModel" (25 : Nat) "MissingMiddlesModel" "isUsed" "[Z") ∈ lw_all := lw_g (lw_at lw_m11 155 rfl) rfl
theorem q2658 : (Jvm.Cond.fieldLink "MissingMiddlesModel" (146 : Nat) "MissingMiddlesModel" "usedMany" "I") ∈ lw_all := lw_g (lw_at lw_m11 156 rfl) rfl
theorem q2659 : (Jvm.Cond.fieldLink "MissingMiddlesModel" (29 : Nat) "MissingMiddlesModel" "chain" "[I") ∈ lw_all := lw_g (lw_at lw_m11 157 rfl) rfl
theorem q2660 : (Jvm.Cond.fieldLink "MissingMiddlesModel" (175 : Nat) "MissingMiddlesModel" "chainMany" "I") ∈ lw_all := lw_g (lw_at lw_m11 158 rfl) rfl
theorem q2661 : (Jvm.Cond.fieldLink "MissingMiddlesModel" (32 : Nat) "MissingMiddlesModel" "line" "[C") ∈ lw_all := lw_g (lw_at lw_m11 159 rfl) rfl
theorem q2662 : (Jvm.Cond.fieldLink "MissingMiddlesModel" (221 : Nat) "MissingMiddlesModel" "lineMany" "I") ∈ lw_all := lw_g (lw_at lw_m11 160 rfl) rfl
theorem q2663 : (Jvm.Cond.fieldLink "MissingMiddlesModel" (36 : Nat) "MissingMiddlesModel" "text" "[C") ∈ lw_all := lw_g (lw_at lw_m11 161 rfl) rfl
theorem q2664 : (Jvm.Cond.fieldLink "MissingMiddlesModel" (246 : Nat) "MissingMiddlesModel" "length" "I") ∈ lw_all := lw_g (lw_at lw_m11 162 rfl) rfl
theorem q2665 : (Jvm.Cond.fieldLink "MissingMiddlesModel" (255 : Nat) "MissingMiddlesModel" "at" "I") ∈ lw_all := lw_g (lw_at lw_m11 163 rfl) rfl
theorem q2666 : (Jvm.Cond.fieldLink "MissingMiddlesModel" (251 : Nat) "MissingMiddlesModel" "isWrong" "Z") ∈ lw_all := lw_g (lw_at lw_m11 164 rfl) rfl
theorem q2667 : (Jvm.Cond.fieldLink "MissingMiddlesModel" (39 : Nat) "MissingMiddlesModel" "error" "I") ∈ lw_all := lw_g (lw_at lw_m11 165 rfl) rfl
theorem q2668 : (Jvm.Cond.fieldLink "MissingMiddlesModel" (43 : Nat) "MissingMiddlesModel" "item" "I") ∈ lw_all := lw_g (lw_at lw_m11 166 rfl) rfl
theorem q2669 : (Jvm.Cond.fieldLink "MissingMiddlesModel" (46 : Nat) "MissingMiddlesModel" "orders" "[I") ∈ lw_all := lw_g (lw_at lw_m11 167 rfl) rfl
theorem q2670 : (Jvm.Cond.fieldLink "MissingMiddlesModel" (275 : Nat) "MissingMiddlesModel" "orderMany" "I") ∈ lw_all := lw_g (lw_at lw_m11 168 rfl) rfl
theorem q2671 : (Jvm.Cond.laysFinal "MissingMiddlesModel" "MissingMiddlesModel" "s" "[I") ∈ lw_all := lw_g (lw_at lw_m11 169 rfl) rfl
theorem q2672 : (Jvm.Cond.soleField "MissingMiddlesModel" "s") ∈ lw_all := lw_g (lw_at lw_m11 170 rfl) rfl
theorem q2673 : (Jvm.Cond.laysFinal "MissingMiddlesModel" "MissingMiddlesModel" "before" "[I") ∈ lw_all := lw_g (lw_at lw_m11 171 rfl) rfl
theorem q2674 : (Jvm.Cond.soleField "MissingMiddlesModel" "before") ∈ lw_all := lw_g (lw_at lw_m11 172 rfl) rfl
theorem q2675 : (Jvm.Cond.laysFinal "MissingMiddlesModel" "MissingMiddlesModel" "saved" "[I") ∈ lw_all := lw_g (lw_at lw_m11 173 rfl) rfl
theorem q2676 : (Jvm.Cond.soleField "MissingMiddlesModel" "saved") ∈ lw_all := lw_g (lw_at lw_m11 174 rfl) rfl
theorem q2677 : (Jvm.Cond.lays "MissingMiddlesModel" "MissingMiddlesModel" "isSaved" "Z") ∈ lw_all := lw_g (lw_at lw_m11 175 rfl) rfl
theorem q2678 : (Jvm.Cond.soleField "MissingMiddlesModel" "isSaved") ∈ lw_all := lw_g (lw_at lw_m11 176 rfl) rfl
theorem q2679 : (Jvm.Cond.laysFinal "MissingMiddlesModel" "MissingMiddlesModel" "past" "[I") ∈ lw_all := lw_g (lw_at lw_m11 177 rfl) rfl
theorem q2680 : (Jvm.Cond.soleField "MissingMiddlesModel" "past") ∈ lw_all := lw_g (lw_at lw_m11 178 rfl) rfl
theorem q2681 : (Jvm.Cond.lays "MissingMiddlesModel" "MissingMiddlesModel" "pastMany" "I") ∈ lw_all := lw_g (lw_at lw_m11 179 rfl) rfl
theorem q2682 : (Jvm.Cond.soleField "MissingMiddlesModel" "pastMany") ∈ lw_all := lw_g (lw_at lw_m11 180 rfl) rfl
theorem q2683 : (Jvm.Cond.lays "MissingMiddlesModel" "MissingMiddlesModel" "thrown" "I") ∈ lw_all := lw_g (lw_at lw_m11 181 rfl) rfl
theorem q2684 : (Jvm.Cond.soleField "MissingMiddlesModel" "thrown") ∈ lw_all := lw_g (lw_at lw_m11 182 rfl) rfl
theorem q2685 : (Jvm.Cond.laysFinal "MissingMiddlesModel" "MissingMiddlesModel" "refused" "[I") ∈ lw_all := lw_g (lw_at lw_m11 183 rfl) rfl
theorem q2686 : (Jvm.Cond.soleField "MissingMiddlesModel" "refused") ∈ lw_all := lw_g (lw_at lw_m11 184 rfl) rfl
theorem q2687 : (Jvm.Cond.laysFinal "MissingMiddlesModel" "MissingMiddlesModel" "isUsed" "[Z") ∈ lw_all := lw_g (lw_at lw_m11 185 rfl) rfl
theorem q2688 : (Jvm.Cond.soleField "MissingMiddlesModel" "isUsed") ∈ lw_all := lw_g (lw_at lw_m11 186 rfl) rfl
theorem q2689 : (Jvm.Cond.lays "MissingMiddlesModel" "MissingMiddlesModel" "usedMany" "I") ∈ lw_all := lw_g (lw_at lw_m11 187 rfl) rfl
theorem q2690 : (Jvm.Cond.soleField "MissingMiddlesModel" "usedMany") ∈ lw_all := lw_g (lw_at lw_m11 188 rfl) rfl
theorem q2691 : (Jvm.Cond.laysFinal "MissingMiddlesModel" "MissingMiddlesModel" "chain" "[I") ∈ lw_all := lw_g (lw_at lw_m11 189 rfl) rfl
theorem q2692 : (Jvm.Cond.soleField "MissingMiddlesModel" "chain") ∈ lw_all := lw_g (lw_at lw_m11 190 rfl) rfl
theorem q2693 : (Jvm.Cond.lays "MissingMiddlesModel" "MissingMiddlesModel" "chainMany" "I") ∈ lw_all := lw_g (lw_at lw_m11 191 rfl) rfl
theorem q2694 : (Jvm.Cond.soleField "MissingMiddlesModel" "chainMany") ∈ lw_all := lw_g (lw_at lw_m11 192 rfl) rfl
theorem q2695 : (Jvm.Cond.laysFinal "MissingMiddlesModel" "MissingMiddlesModel" "line" "[C") ∈ lw_all := lw_g (lw_at lw_m11 193 rfl) rfl
theorem q2696 : (Jvm.Cond.soleField "MissingMiddlesModel" "line") ∈ lw_all := lw_g (lw_at lw_m11 194 rfl) rfl
theorem q2697 : (Jvm.Cond.lays "MissingMiddlesModel" "MissingMiddlesModel" "lineMany" "I") ∈ lw_all := lw_g (lw_at lw_m11 195 rfl) rfl
theorem q2698 : (Jvm.Cond.soleField "MissingMiddlesModel" "lineMany") ∈ lw_all := lw_g (lw_at lw_m11 196 rfl) rfl
theorem q2699 : (Jvm.Cond.laysFinal "MissingMiddlesModel" "MissingMiddlesModel" "text" "[C") ∈ lw_all := lw_g (lw_at lw_m11 197 rfl) rfl
theorem q2700 : (Jvm.Cond.soleField "MissingMiddlesModel" "text") ∈ lw_all := lw_g (lw_at lw_m11 198 rfl) rfl
theorem q2701 : (Jvm.Cond.lays "MissingMiddlesModel" "MissingMiddlesModel" "length" "I") ∈ lw_all := lw_g (lw_at lw_m11 199 rfl) rfl
theorem q2702 : (Jvm.Cond.soleField "MissingMiddlesModel" "length") ∈ lw_all := lw_g (lw_at lw_m11 200 rfl) rfl
theorem q2703 : (Jvm.Cond.lays "MissingMiddlesModel" "MissingMiddlesModel" "at" "I") ∈ lw_all := lw_g (lw_at lw_m11 201 rfl) rfl
theorem q2704 : (Jvm.Cond.soleField "MissingMiddlesModel" "at") ∈ lw_all := lw_g (lw_at lw_m11 202 rfl) rfl
theorem q2705 : (Jvm.Cond.lays "MissingMiddlesModel" "MissingMiddlesModel" "isWrong" "Z") ∈ lw_all := lw_g (lw_at lw_m11 203 rfl) rfl
theorem q2706 : (Jvm.Cond.soleField "MissingMiddlesModel" "isWrong") ∈ lw_all := lw_g (lw_at lw_m11 204 rfl) rfl
theorem q2707 : (Jvm.Cond.lays "MissingMiddlesModel" "MissingMiddlesModel" "error" "I") ∈ lw_all := lw_g (lw_at lw_m11 205 rfl) rfl
theorem q2708 : (Jvm.Cond.soleField "MissingMiddlesModel" "error") ∈ lw_all := lw_g (lw_at lw_m11 206 rfl) rfl
theorem q2709 : (Jvm.Cond.lays "MissingMiddlesModel" "MissingMiddlesModel" "item" "I") ∈ lw_all := lw_g (lw_at lw_m11 207 rfl) rfl
theorem q2710 : (Jvm.Cond.soleField "MissingMiddlesModel" "item") ∈ lw_all := lw_g (lw_at lw_m11 208 rfl) rfl
theorem q2711 : (Jvm.Cond.laysFinal "MissingMiddlesModel" "MissingMiddlesModel" "orders" "[I") ∈ lw_all := lw_g (lw_at lw_m11 209 rfl) rfl
theorem q2712 : (Jvm.Cond.soleField "MissingMiddlesModel" "orders") ∈ lw_all := lw_g (lw_at lw_m11 210 rfl) rfl
theorem q2713 : (Jvm.Cond.lays "MissingMiddlesModel" "MissingMiddlesModel" "orderMany" "I") ∈ lw_all := lw_g (lw_at lw_m11 211 rfl) rfl
theorem q2714 : (Jvm.Cond.soleField "MissingMiddlesModel" "orderMany") ∈ lw_all := lw_g (lw_at lw_m11 212 rfl) rfl
theorem q2715 : (Jvm.Cond.superclass "MissingMiddlesModel" "java/lang/Object") ∈ lw_all := lw_g (lw_at lw_m11 213 rfl) rfl
theorem q2719 : (Jvm.Cond.instanceMethod ({ cls := "MissingMiddlesModel", name := "thrown", desc := "()I" } : Jvm.MethodName)) ∈ lw_all := lw_g (lw_at lw_m11 217 rfl) rfl
theorem q2720 : (Jvm.Cond.selects "MissingMiddlesModel" ({ cls := "MissingMiddlesModel", name := "thrown", desc := "()I" } : Jvm.MethodName) ({ cls := "MissingMiddlesModel", name := "thrown", desc := "()I" } : Jvm.MethodName)) ∈ lw_all := lw_g (lw_at lw_m11 218 rfl) rfl
theorem q2721 : (Jvm.Cond.code ({ cls := "MissingMiddlesModel", name := "thrown", desc := "()I" } : Jvm.MethodName) prog_14_method_2_code (1 : Nat) (Option.some Jvm.ClassFile.FieldType.int)) ∈ lw_all := lw_g (lw_at lw_m11 219 rfl) rfl
theorem q2723 : (Jvm.Cond.instanceMethod ({ cls := "MissingMiddlesModel", name := "clear", desc := "()I" } : Jvm.MethodName)) ∈ lw_all := lw_g (lw_at lw_m11 221 rfl) rfl
theorem q2724 : (Jvm.Cond.selects "MissingMiddlesModel" ({ cls := "MissingMiddlesModel", name := "clear", desc := "()I" } : Jvm.MethodName) ({ cls := "MissingMiddlesModel", name := "clear", desc := "()I" } : Jvm.MethodName)) ∈ lw_all := lw_g (lw_at lw_m11 222 rfl) rfl
theorem q2725 : (Jvm.Cond.code ({ cls := "MissingMiddlesModel", name := "clear", desc := "()I" } : Jvm.MethodName) prog_14_method_5_code (2 : Nat) (Option.some Jvm.ClassFile.FieldType.int)) ∈ lw_all := lw_g (lw_at lw_m11 223 rfl) rfl
theorem q2727 : (Jvm.Cond.instanceMethod ({ cls := "MissingMiddlesModel", name := "refusal", desc := "(ZZ)I" } : Jvm.MethodName)) ∈ lw_all := lw_g (lw_at lw_m11 225 rfl) rfl
theorem q2728 : (Jvm.Cond.selects "MissingMiddlesModel" ({ cls := "MissingMiddlesModel", name := "refusal", desc := "(ZZ)I" } : Jvm.MethodName) ({ cls := "MissingMiddlesModel", name := "refusal", desc := "(ZZ)I" } : Jvm.MethodName)) ∈ lw_all := lw_g (lw_at lw_m11 226 rfl) rfl
theorem q2729 : (Jvm.Cond.code ({ cls := "MissingMiddlesModel", name := "refusal", desc := "(ZZ)I" } : Jvm.MethodName) prog_14_method_10_code (3 : Nat) (Option.some Jvm.ClassFile.FieldType.int)) ∈ lw_all := lw_g (lw_at lw_m11 227 rfl) rfl
theorem q2731 : (Jvm.Cond.instanceMethod ({ cls := "MissingMiddlesModel", name := "book", desc := "(IIIII)I" } : Jvm.MethodName)) ∈ lw_all := lw_g (lw_at lw_m11 229 rfl) rfl
theorem q2732 : (Jvm.Cond.selects "MissingMiddlesModel" ({ cls := "MissingMiddlesModel", name := "book", desc := "(IIIII)I" } : Jvm.MethodName) ({ cls := "MissingMiddlesModel", name := "book", desc := "(IIIII)I" } : Jvm.MethodName)) ∈ lw_all := lw_g (lw_at lw_m11 230 rfl) rfl
theorem q2733 : (Jvm.Cond.code ({ cls := "MissingMiddlesModel", name := "book", desc := "(IIIII)I" } : Jvm.MethodName) prog_14_method_21_code (6 : Nat) (Option.some Jvm.ClassFile.FieldType.int)) ∈ lw_all := lw_g (lw_at lw_m11 231 rfl) rfl
theorem q2734 : (Jvm.Cond.methodLink "MissingMiddlesModel" (80 : Nat) ({ cls := "MissingMiddlesModel", name := "keep", desc := "()V" } : Jvm.MethodName)) ∈ lw_all := lw_g (lw_at lw_m11 232 rfl) rfl
theorem q2735 : (Jvm.Cond.privateMethod ({ cls := "MissingMiddlesModel", name := "keep", desc := "()V" } : Jvm.MethodName)) ∈ lw_tbl := lw_at lw_m11 233 rfl
theorem q2736 : (Jvm.Cond.instanceMethod ({ cls := "MissingMiddlesModel", name := "keep", desc := "()V" } : Jvm.MethodName)) ∈ lw_all := lw_g (lw_at lw_m11 234 rfl) rfl
theorem q2737 : (Jvm.Cond.code ({ cls := "MissingMiddlesModel", name := "keep", desc := "()V" } : Jvm.MethodName) prog_14_method_6_code (1 : Nat) (Option.none : Option Jvm.ClassFile.FieldType)) ∈ lw_all := lw_g (lw_at lw_m11 235 rfl) rfl
theorem q2738 : (Jvm.Cond.methodLink "MissingMiddlesModel" (58 : Nat) ({ cls := "java/lang/System", name := "arraycopy", desc := "(Ljava/lang/Object;ILjava/lang/Object;II)V" } : Jvm.MethodName)) ∈ lw_all := lw_g (lw_at lw_m11 236 rfl) rfl
theorem q2739 : (Jvm.Cond.methodLink "MissingMiddlesModel" (83 : Nat) ({ cls := "MissingMiddlesModel", name := "doBook", desc := "(IIIII)I" } : Jvm.MethodName)) ∈ lw_all := lw_g (lw_at lw_m11 237 rfl) rfl
theorem q2740 : (Jvm.Cond.privateMethod ({ cls := "MissingMiddlesModel", name := "doBook", desc := "(IIIII)I" } : Jvm.MethodName)) ∈ lw_tbl := lw_at lw_m11 238 rfl
theorem q2741 : (Jvm.Cond.instanceMethod ({ cls := "MissingMiddlesModel", name := "doBook", desc := "(IIIII)I" } : Jvm.MethodName)) ∈ lw_all := lw_g (lw_at lw_m11 239 rfl) rfl
theorem q2742 : (Jvm.Cond.code ({ cls := "MissingMiddlesModel", name := "doBook", desc := "(IIIII)I" } : Jvm.MethodName) prog_14_method_20_code (9 : Nat) (Option.some Jvm.ClassFile.FieldType.int)) ∈ lw_all := lw_g (lw_at lw_m12 0 rfl) rfl
theorem q2743 : (Jvm.Cond.methodLink "MissingMiddlesModel" (64 : Nat) ({ cls := "MissingMiddlesModel", name := "in", desc := "(III)Z" } : Jvm.MethodName)) ∈ lw_all := lw_g (lw_at lw_m12 1 rfl) rfl
theorem q2744 : (Jvm.Cond.static ({ cls := "MissingMiddlesModel", name := "in", desc := "(III)Z" } : Jvm.MethodName)) ∈ lw_all := lw_g (lw_at lw_m12 2 rfl) rfl
theorem q2745 : (Jvm.Cond.code ({ cls := "MissingMiddlesModel", name := "in", desc := "(III)Z" } : Jvm.MethodName) prog_14_method_3_code (3 : Nat) (Option.some Jvm.ClassFile.FieldType.boolean)) ∈ lw_all := lw_g (lw_at lw_m12 3 rfl) rfl
theorem q2746 : (Jvm.Cond.methodLink "MissingMiddlesModel" (68 : Nat) ({ cls := "MissingMiddlesModel", name := "areSigns", desc := "(II)Z" } : Jvm.MethodName)) ∈ lw_all := lw_g (lw_at lw_m12 4 rfl) rfl
theorem q2747 : (Jvm.Cond.static ({ cls := "MissingMiddlesModel", name := "areSigns", desc := "(II)Z" } : Jvm.MethodName)) ∈ lw_all := lw_g (lw_at lw_m12 5 rfl) rfl
theorem q2748 : (Jvm.Cond.code ({ cls := "MissingMiddlesModel", name := "areSigns", desc := "(II)Z" } : Jvm.MethodName) prog_14_method_11_code (2 : Nat) (Option.some Jvm.ClassFile.FieldType.boolean)) ∈ lw_all := lw_g (lw_at lw_m12 6 rfl) rfl
theorem q2749 : (Jvm.Cond.methodLink "MissingMiddlesModel" (72 : Nat) ({ cls := "MissingMiddlesModel", name := "fails", desc := "(I)I" } : Jvm.MethodName)) ∈ lw_all := lw_g (lw_at lw_m12 7 rfl) rfl
theorem q2750 : (Jvm.Cond.privateMethod ({ cls := "MissingMiddlesModel", name := "fails", desc := "(I)I" } : Jvm.MethodName)) ∈ lw_tbl := lw_at lw_m12 8 rfl
theorem q2751 : (Jvm.Cond.instanceMethod ({ cls := "MissingMiddlesModel", name := "fails", desc := "(I)I" } : Jvm.MethodName)) ∈ lw_all := lw_g (lw_at lw_m12 9 rfl) rfl
theorem q2752 : (Jvm.Cond.code ({ cls := "MissingMiddlesModel", name := "fails", desc := "(I)I" } : Jvm.MethodName) prog_14_method_8_code (2 : Nat) (Option.some Jvm.ClassFile.FieldType.int)) ∈ lw_all := lw_g (lw_at lw_m12 10 rfl) rfl
theorem q2753 : (Jvm.Cond.methodLink "MissingMiddlesModel" (76 : Nat) ({ cls := "MissingMiddlesModel", name := "refuse", desc := "(III)I" } : Jvm.MethodName)) ∈ lw_all := lw_g (lw_at lw_m12 11 rfl) rfl
theorem q2754 : (Jvm.Cond.privateMethod ({ cls := "MissingMiddlesModel", name := "refuse", desc := "(III)I" } : Jvm.MethodName)) ∈ lw_tbl := lw_at lw_m12 12 rfl
theorem q2755 : (Jvm.Cond.instanceMethod ({ cls := "MissingMiddlesModel", name := "refuse", desc := "(III)I" } : Jvm.MethodName)) ∈ lw_all := lw_g (lw_at lw_m12 13 rfl) rfl
theorem q2756 : (Jvm.Cond.code ({ cls := "MissingMiddlesModel", name := "refuse", desc := "(III)I" } : Jvm.MethodName) prog_14_method_9_code (4 : Nat) (Option.some Jvm.ClassFile.FieldType.int)) ∈ lw_all := lw_g (lw_at lw_m12 14 rfl) rfl
theorem q2757 : (Jvm.Cond.methodLink "MissingMiddlesModel" (87 : Nat) ({ cls := "MissingMiddlesModel", name := "ends", desc := "(I)I" } : Jvm.MethodName)) ∈ lw_all := lw_g (lw_at lw_m12 15 rfl) rfl
theorem q2758 : (Jvm.Cond.privateMethod ({ cls := "MissingMiddlesModel", name := "ends", desc := "(I)I" } : Jvm.MethodName)) ∈ lw_tbl := lw_at lw_m12 16 rfl
theorem q2759 : (Jvm.Cond.instanceMethod ({ cls := "MissingMiddlesModel", name := "ends", desc := "(I)I" } : Jvm.MethodName)) ∈ lw_all := lw_g (lw_at lw_m12 17 rfl) rfl
theorem q2760 : (Jvm.Cond.code ({ cls := "MissingMiddlesModel", name := "ends", desc := "(I)I" } : Jvm.MethodName) prog_14_method_7_code (2 : Nat) (Option.some Jvm.ClassFile.FieldType.int)) ∈ lw_all := lw_g (lw_at lw_m12 18 rfl) rfl
theorem q2762 : (Jvm.Cond.instanceMethod ({ cls := "MissingMiddlesModel", name := "hide", desc := "(IIIII)I" } : Jvm.MethodName)) ∈ lw_all := lw_g (lw_at lw_m12 20 rfl) rfl
theorem q2763 : (Jvm.Cond.selects "MissingMiddlesModel" ({ cls := "MissingMiddlesModel", name := "hide", desc := "(IIIII)I" } : Jvm.MethodName) ({ cls := "MissingMiddlesModel", name := "hide", desc := "(IIIII)I" } : Jvm.MethodName)) ∈ lw_all := lw_g (lw_at lw_m12 21 rfl) rfl
theorem q2764 : (Jvm.Cond.code ({ cls := "MissingMiddlesModel", name := "hide", desc := "(IIIII)I" } : Jvm.MethodName) prog_14_method_23_code (6 : Nat) (Option.some Jvm.ClassFile.FieldType.int)) ∈ lw_all := lw_g (lw_at lw_m12 22 rfl) rfl
theorem q2765 : (Jvm.Cond.methodLink "MissingMiddlesModel" (98 : Nat) ({ cls := "MissingMiddlesModel", name := "doHide", desc := "(IIIII)I" } : Jvm.MethodName)) ∈ lw_all := lw_g (lw_at lw_m12 23 rfl) rfl
theorem q2766 : (Jvm.Cond.privateMethod ({ cls := "MissingMiddlesModel", name := "doHide", desc := "(IIIII)I" } : Jvm.MethodName)) ∈ lw_tbl := lw_at lw_m12 24 rfl
theorem q2767 : (Jvm.Cond.instanceMethod ({ cls := "MissingMiddlesModel", name := "doHide", desc := "(IIIII)I" } : Jvm.MethodName)) ∈ lw_all := lw_g (lw_at lw_m12 25 rfl) rfl
theorem q2768 : (Jvm.Cond.code ({ cls := "MissingMiddlesModel", name := "doHide", desc := "(IIIII)I" } : Jvm.MethodName) prog_14_method_22_code (8 : Nat) (Option.some Jvm.ClassFile.FieldType.int)) ∈ lw_all := lw_g (lw_at lw_m12 26 rfl) rfl
theorem q2769 : (Jvm.Cond.methodLink "MissingMiddlesModel" (90 : Nat) ({ cls := "MissingMiddlesModel", name := "isAttic", desc := "(I)Z" } : Jvm.MethodName)) ∈ lw_all := lw_g (lw_at lw_m12 27 rfl) rfl
theorem q2770 : (Jvm.Cond.static ({ cls := "MissingMiddlesModel", name := "isAttic", desc := "(I)Z" } : Jvm.MethodName)) ∈ lw_all := lw_g (lw_at lw_m12 28 rfl) rfl
theorem q2771 : (Jvm.Cond.code ({ cls := "MissingMiddlesModel", name := "isAttic", desc := "(I)Z" } : Jvm.MethodName) prog_14_method_14_code (1 : Nat) (Option.some Jvm.ClassFile.FieldType.boolean)) ∈ lw_all := lw_g (lw_at lw_m12 29 rfl) rfl
theorem q2772 : (Jvm.Cond.methodLink "MissingMiddlesModel" (94 : Nat) ({ cls := "MissingMiddlesModel", name := "atAttic", desc := "(II)I" } : Jvm.MethodName)) ∈ lw_all := lw_g (lw_at lw_m12 30 rfl) rfl
theorem q2773 : (Jvm.Cond.static ({ cls := "MissingMiddlesModel", name := "atAttic", desc := "(II)I" } : Jvm.MethodName)) ∈ lw_all := lw_g (lw_at lw_m12 31 rfl) rfl
theorem q2774 : (Jvm.Cond.code ({ cls := "MissingMiddlesModel", name := "atAttic", desc := "(II)I" } : Jvm.MethodName) prog_14_method_18_code (2 : Nat) (Option.some Jvm.ClassFile.FieldType.int)) ∈ lw_all := lw_g (lw_at lw_m12 32 rfl) rfl
theorem q2776 : (Jvm.Cond.instanceMethod ({ cls := "MissingMiddlesModel", name := "find", desc := "(I)I" } : Jvm.MethodName)) ∈ lw_all := lw_g (lw_at lw_m12 34 rfl) rfl
theorem q2777 : (Jvm.Cond.selects "MissingMiddlesModel" ({ cls := "MissingMiddlesModel", name := "find", desc := "(I)I" } : Jvm.MethodName) ({ cls := "MissingMiddlesModel", name := "find", desc := "(I)I" } : Jvm.MethodName)) ∈ lw_all := lw_g (lw_at lw_m12 35 rfl) rfl
theorem q2778 : (Jvm.Cond.code ({ cls := "MissingMiddlesModel", name := "find", desc := "(I)I" } : Jvm.MethodName) prog_14_method_26_code (2 : Nat) (Option.some Jvm.ClassFile.FieldType.int)) ∈ lw_all := lw_g (lw_at lw_m12 36 rfl) rfl
theorem q2779 : (Jvm.Cond.methodLink "MissingMiddlesModel" (108 : Nat) ({ cls := "MissingMiddlesModel", name := "doFind", desc := "(I)I" } : Jvm.MethodName)) ∈ lw_all := lw_g (lw_at lw_m12 37 rfl) rfl
theorem q2780 : (Jvm.Cond.privateMethod ({ cls := "MissingMiddlesModel", name := "doFind", desc := "(I)I" } : Jvm.MethodName)) ∈ lw_tbl := lw_at lw_m12 38 rfl
theorem q2781 : (Jvm.Cond.instanceMethod ({ cls := "MissingMiddlesModel", name := "doFind", desc := "(I)I" } : Jvm.MethodName)) ∈ lw_all := lw_g (lw_at lw_m12 39 rfl) rfl
theorem q2782 : (Jvm.Cond.code ({ cls := "MissingMiddlesModel", name := "doFind", desc := "(I)I" } : Jvm.MethodName) prog_14_method_25_code (3 : Nat) (Option.some Jvm.ClassFile.FieldType.int)) ∈ lw_all := lw_g (lw_at lw_m12 40 rfl) rfl
theorem q2783 : (Jvm.Cond.methodLink "MissingMiddlesModel" (104 : Nat) ({ cls := "MissingMiddlesModel", name := "lays", desc := "(II)V" } : Jvm.MethodName)) ∈ lw_all := lw_g (lw_at lw_m12 41 rfl) rfl
theorem q2784 : (Jvm.Cond.privateMethod ({ cls := "MissingMiddlesModel", name := "lays", desc := "(II)V" } : Jvm.MethodName)) ∈ lw_tbl := lw_at lw_m12 42 rfl
theorem q2785 : (Jvm.Cond.instanceMethod ({ cls := "MissingMiddlesModel", name := "lays", desc := "(II)V" } : Jvm.MethodName)) ∈ lw_all := lw_g (lw_at lw_m12 43 rfl) rfl
theorem q2786 : (Jvm.Cond.code ({ cls := "MissingMiddlesModel", name := "lays", desc := "(II)V" } : Jvm.MethodName) prog_14_method_24_code (4 : Nat) (Option.none : Option Jvm.ClassFile.FieldType)) ∈ lw_all := lw_g (lw_at lw_m12 44 rfl) rfl
theorem q2787 : (Jvm.Cond.methodLink "MissingMiddlesModel" (101 : Nat) ({ cls := "MissingMiddlesModel", name := "at", desc := "(II)I" } : Jvm.MethodName)) ∈ lw_all := lw_g (lw_at lw_m12 45 rfl) rfl
theorem q2788 : (Jvm.Cond.static ({ cls := "MissingMiddlesModel", name := "at", desc := "(II)I" } : Jvm.MethodName)) ∈ lw_all := lw_g (lw_at lw_m12 46 rfl) rfl
theorem q2789 : (Jvm.Cond.code ({ cls := "MissingMiddlesModel", name := "at", desc := "(II)I" } : Jvm.MethodName) prog_14_method_17_code (2 : Nat) (Option.some Jvm.ClassFile.FieldType.int)) ∈ lw_all := lw_g (lw_at lw_m12 47 rfl) rfl
theorem q2791 : (Jvm.Cond.instanceMethod ({ cls := "MissingMiddlesModel", name := "drop", desc := "(I)I" } : Jvm.MethodName)) ∈ lw_all := lw_g (lw_at lw_m12 49 rfl) rfl
theorem q2792 : (Jvm.Cond.selects "MissingMiddlesModel" ({ cls := "MissingMiddlesModel", name := "drop", desc := "(I)I" } : Jvm.MethodName) ({ cls := "MissingMiddlesModel", name := "drop", desc := "(I)I" } : Jvm.MethodName)) ∈ lw_all := lw_g (lw_at lw_m12 50 rfl) rfl
theorem q2793 : (Jvm.Cond.code ({ cls := "MissingMiddlesModel", name := "drop", desc := "(I)I" } : Jvm.MethodName) prog_14_method_29_code (2 : Nat) (Option.some Jvm.ClassFile.FieldType.int)) ∈ lw_all := lw_g (lw_at lw_m12 51 rfl) rfl
theorem q2794 : (Jvm.Cond.methodLink "MissingMiddlesModel" (118 : Nat) ({ cls := "MissingMiddlesModel", name := "doDrop", desc := "(I)I" } : Jvm.MethodName)) ∈ lw_all := lw_g (lw_at lw_m12 52 rfl) rfl
theorem q2795 : (Jvm.Cond.privateMethod ({ cls := "MissingMiddlesModel", name := "doDrop", desc := "(I)I" } : Jvm.MethodName)) ∈ lw_tbl := lw_at lw_m12 53 rfl
theorem q2796 : (Jvm.Cond.instanceMethod ({ cls := "MissingMiddlesModel", name := "doDrop", desc := "(I)I" } : Jvm.MethodName)) ∈ lw_all := lw_g (lw_at lw_m12 54 rfl) rfl
theorem q2797 : (Jvm.Cond.code ({ cls := "MissingMiddlesModel", name := "doDrop", desc := "(I)I" } : Jvm.MethodName) prog_14_method_28_code (2 : Nat) (Option.some Jvm.ClassFile.FieldType.int)) ∈ lw_all := lw_g (lw_at lw_m12 55 rfl) rfl
theorem q2798 : (Jvm.Cond.methodLink "MissingMiddlesModel" (111 : Nat) ({ cls := "MissingMiddlesModel", name := "isScrap", desc := "(I)Z" } : Jvm.MethodName)) ∈ lw_all := lw_g (lw_at lw_m12 56 rfl) rfl
theorem q2799 : (Jvm.Cond.privateMethod ({ cls := "MissingMiddlesModel", name := "isScrap", desc := "(I)Z" } : Jvm.MethodName)) ∈ lw_tbl := lw_at lw_m12 57 rfl
theorem q2800 : (Jvm.Cond.instanceMethod ({ cls := "MissingMiddlesModel", name := "isScrap", desc := "(I)Z" } : Jvm.MethodName)) ∈ lw_all := lw_g (lw_at lw_m12 58 rfl) rfl
theorem q2801 : (Jvm.Cond.code ({ cls := "MissingMiddlesModel", name := "isScrap", desc := "(I)Z" } : Jvm.MethodName) prog_14_method_13_code (2 : Nat) (Option.some Jvm.ClassFile.FieldType.boolean)) ∈ lw_all := lw_g (lw_at lw_m12 59 rfl) rfl
theorem q2802 : (Jvm.Cond.methodLink "MissingMiddlesModel" (114 : Nat) ({ cls := "MissingMiddlesModel", name := "goes", desc := "(I)V" } : Jvm.MethodName)) ∈ lw_all := lw_g (lw_at lw_m12 60 rfl) rfl
theorem q2803 : (Jvm.Cond.privateMethod ({ cls := "MissingMiddlesModel", name := "goes", desc := "(I)V" } : Jvm.MethodName)) ∈ lw_tbl := lw_at lw_m12 61 rfl
theorem q2804 : (Jvm.Cond.instanceMethod ({ cls := "MissingMiddlesModel", name := "goes", desc := "(I)V" } : Jvm.MethodName)) ∈ lw_all := lw_g (lw_at lw_m12 62 rfl) rfl
theorem q2805 : (Jvm.Cond.code ({ cls := "MissingMiddlesModel", name := "goes", desc := "(I)V" } : Jvm.MethodName) prog_14_method_27_code (3 : Nat) (Option.none : Option Jvm.ClassFile.FieldType)) ∈ lw_all := lw_g (lw_at lw_m12 63 rfl) rfl
theorem q2807 : (Jvm.Cond.instanceMethod ({ cls := "MissingMiddlesModel", name := "swear", desc := "(IIZ)I" } : Jvm.MethodName)) ∈ lw_all := lw_g (lw_at lw_m12 65 rfl) rfl
theorem q2808 : (Jvm.Cond.selects "MissingMiddlesModel" ({ cls := "MissingMiddlesModel", name := "swear", desc := "(IIZ)I" } : Jvm.MethodName) ({ cls := "MissingMiddlesModel", name := "swear", desc := "(IIZ)I" } : Jvm.MethodName)) ∈ lw_all := lw_g (lw_at lw_m12 66 rfl) rfl
theorem q2809 : (Jvm.Cond.code ({ cls := "MissingMiddlesModel", name := "swear", desc := "(IIZ)I" } : Jvm.MethodName) prog_14_method_33_code (4 : Nat) (Option.some Jvm.ClassFile.FieldType.int)) ∈ lw_all := lw_g (lw_at lw_m12 67 rfl) rfl
theorem q2810 : (Jvm.Cond.methodLink "MissingMiddlesModel" (130 : Nat) ({ cls := "MissingMiddlesModel", name := "doSwear", desc := "(IIZ)I" } : Jvm.MethodName)) ∈ lw_all := lw_g (lw_at lw_m12 68 rfl) rfl
theorem q2811 : (Jvm.Cond.privateMethod ({ cls := "MissingMiddlesModel", name := "doSwear", desc := "(IIZ)I" } : Jvm.MethodName)) ∈ lw_tbl := lw_at lw_m12 69 rfl
theorem q2812 : (Jvm.Cond.instanceMethod ({ cls := "MissingMiddlesModel", name := "doSwear", desc := "(IIZ)I" } : Jvm.MethodName)) ∈ lw_all := lw_g (lw_at lw_m12 70 rfl) rfl
theorem q2813 : (Jvm.Cond.code ({ cls := "MissingMiddlesModel", name := "doSwear", desc := "(IIZ)I" } : Jvm.MethodName) prog_14_method_32_code (5 : Nat) (Option.some Jvm.ClassFile.FieldType.int)) ∈ lw_all := lw_g (lw_at lw_m12 71 rfl) rfl
theorem q2814 : (Jvm.Cond.methodLink "MissingMiddlesModel" (127 : Nat) ({ cls := "MissingMiddlesModel", name := "isReader", desc := "(I)Z" } : Jvm.MethodName)) ∈ lw_all := lw_g (lw_at lw_m12 72 rfl) rfl
theorem q2815 : (Jvm.Cond.static ({ cls := "MissingMiddlesModel", name := "isReader", desc := "(I)Z" } : Jvm.MethodName)) ∈ lw_all := lw_g (lw_at lw_m12 73 rfl) rfl
theorem q2816 : (Jvm.Cond.code ({ cls := "MissingMiddlesModel", name := "isReader", desc := "(I)Z" } : Jvm.MethodName) prog_14_method_15_code (1 : Nat) (Option.some Jvm.ClassFile.FieldType.boolean)) ∈ lw_all := lw_g (lw_at lw_m12 74 rfl) rfl
theorem q2817 : (Jvm.Cond.methodLink "MissingMiddlesModel" (121 : Nat) ({ cls := "MissingMiddlesModel", name := "trust", desc := "(I)I" } : Jvm.MethodName)) ∈ lw_all := lw_g (lw_at lw_m12 75 rfl) rfl
theorem q2818 : (Jvm.Cond.privateMethod ({ cls := "MissingMiddlesModel", name := "trust", desc := "(I)I" } : Jvm.MethodName)) ∈ lw_tbl := lw_at lw_m12 76 rfl
theorem q2819 : (Jvm.Cond.instanceMethod ({ cls := "MissingMiddlesModel", name := "trust", desc := "(I)I" } : Jvm.MethodName)) ∈ lw_all := lw_g (lw_at lw_m12 77 rfl) rfl
theorem q2820 : (Jvm.Cond.code ({ cls := "MissingMiddlesModel", name := "trust", desc := "(I)I" } : Jvm.MethodName) prog_14_method_19_code (2 : Nat) (Option.some Jvm.ClassFile.FieldType.int)) ∈ lw_all := lw_g (lw_at lw_m12 78 rfl) rfl
theorem q2821 : (Jvm.Cond.methodLink "MissingMiddlesModel" (124 : Nat) ({ cls := "MissingMiddlesModel", name := "weight", desc := "(I)I" } : Jvm.MethodName)) ∈ lw_all := lw_g (lw_at lw_m12 79 rfl) rfl
theorem q2822 : (Jvm.Cond.privateMethod ({ cls := "MissingMiddlesModel", name := "weight", desc := "(I)I" } : Jvm.MethodName)) ∈ lw_tbl := lw_at lw_m12 80 rfl
theorem q2823 : (Jvm.Cond.instanceMethod ({ cls := "MissingMiddlesModel", name := "weight", desc := "(I)I" } : Jvm.MethodName)) ∈ lw_all := lw_g (lw_at lw_m12 81 rfl) rfl
theorem q2824 : (Jvm.Cond.code ({ cls := "MissingMiddlesModel", name := "weight", desc := "(I)I" } : Jvm.MethodName) prog_14_method_30_code (5 : Nat) (Option.some Jvm.ClassFile.FieldType.int)) ∈ lw_all := lw_g (lw_at lw_m12 82 rfl) rfl
theorem q2826 : (Jvm.Cond.instanceMethod ({ cls := "MissingMiddlesModel", name := "prove", desc := "(IZ)I" } : Jvm.MethodName)) ∈ lw_all := lw_g (lw_at lw_m12 84 rfl) rfl
theorem q2827 : (Jvm.Cond.selects "MissingMiddlesModel" ({ cls := "MissingMiddlesModel", name := "prove", desc := "(IZ)I" } : Jvm.MethodName) ({ cls := "MissingMiddlesModel", name := "prove", desc := "(IZ)I" } : Jvm.MethodName)) ∈ lw_all := lw_g (lw_at lw_m12 85 rfl) rfl
theorem q2828 : (Jvm.Cond.code ({ cls := "MissingMiddlesModel", name := "prove", desc := "(IZ)I" } : Jvm.MethodName) prog_14_method_35_code (3 : Nat) (Option.some Jvm.ClassFile.FieldType.int)) ∈ lw_all := lw_g (lw_at lw_m12 86 rfl) rfl
theorem q2829 : (Jvm.Cond.methodLink "MissingMiddlesModel" (142 : Nat) ({ cls := "MissingMiddlesModel", name := "doProve", desc := "(IZ)I" } : Jvm.MethodName)) ∈ lw_all := lw_g (lw_at lw_m12 87 rfl) rfl
theorem q2830 : (Jvm.Cond.privateMethod ({ cls := "MissingMiddlesModel", name := "doProve", desc := "(IZ)I" } : Jvm.MethodName)) ∈ lw_tbl := lw_at lw_m12 88 rfl
theorem q2831 : (Jvm.Cond.instanceMethod ({ cls := "MissingMiddlesModel", name := "doProve", desc := "(IZ)I" } : Jvm.MethodName)) ∈ lw_all := lw_g (lw_at lw_m12 89 rfl) rfl
theorem q2832 : (Jvm.Cond.code ({ cls := "MissingMiddlesModel", name := "doProve", desc := "(IZ)I" } : Jvm.MethodName) prog_14_method_34_code (8 : Nat) (Option.some Jvm.ClassFile.FieldType.int)) ∈ lw_all := lw_g (lw_at lw_m12 90 rfl) rfl
theorem q2833 : (Jvm.Cond.methodLink "MissingMiddlesModel" (134 : Nat) ({ cls := "java/lang/Math", name := "min", desc := "(II)I" } : Jvm.MethodName)) ∈ lw_all := lw_g (lw_at lw_m12 91 rfl) rfl
theorem q2834 : (Jvm.Cond.methodLink "MissingMiddlesModel" (139 : Nat) ({ cls := "java/lang/Math", name := "max", desc := "(II)I" } : Jvm.MethodName)) ∈ lw_all := lw_g (lw_at lw_m12 92 rfl) rfl
theorem q2836 : (Jvm.Cond.instanceMethod ({ cls := "MissingMiddlesModel", name := "readerOf", desc := "(II)I" } : Jvm.MethodName)) ∈ lw_all := lw_g (lw_at lw_m12 94 rfl) rfl
theorem q2837 : (Jvm.Cond.selects "MissingMiddlesModel" ({ cls := "MissingMiddlesModel", name := "readerOf", desc := "(II)I" } : Jvm.MethodName) ({ cls := "MissingMiddlesModel", name := "readerOf", desc := "(II)I" } : Jvm.MethodName)) ∈ lw_all := lw_g (lw_at lw_m12 95 rfl) rfl
theorem q2838 : (Jvm.Cond.code ({ cls := "MissingMiddlesModel", name := "readerOf", desc := "(II)I" } : Jvm.MethodName) prog_14_method_36_code (5 : Nat) (Option.some Jvm.ClassFile.FieldType.int)) ∈ lw_all := lw_g (lw_at lw_m12 96 rfl) rfl
theorem q2840 : (Jvm.Cond.instanceMethod ({ cls := "MissingMiddlesModel", name := "oath", desc := "(II)I" } : Jvm.MethodName)) ∈ lw_all := lw_g (lw_at lw_m12 98 rfl) rfl
theorem q2841 : (Jvm.Cond.selects "MissingMiddlesModel" ({ cls := "MissingMiddlesModel", name := "oath", desc := "(II)I" } : Jvm.MethodName) ({ cls := "MissingMiddlesModel", name := "oath", desc := "(II)I" } : Jvm.MethodName)) ∈ lw_all := lw_g (lw_at lw_m12 99 rfl) rfl
theorem q2842 : (Jvm.Cond.code ({ cls := "MissingMiddlesModel", name := "oath", desc := "(II)I" } : Jvm.MethodName) prog_14_method_37_code (3 : Nat) (Option.some Jvm.ClassFile.FieldType.int)) ∈ lw_all := lw_g (lw_at lw_m12 100 rfl) rfl
theorem q2844 : (Jvm.Cond.instanceMethod ({ cls := "MissingMiddlesModel", name := "chains", desc := "(IZ)I" } : Jvm.MethodName)) ∈ lw_all := lw_g (lw_at lw_m12 102 rfl) rfl
theorem q2845 : (Jvm.Cond.selects "MissingMiddlesModel" ({ cls := "MissingMiddlesModel", name := "chains", desc := "(IZ)I" } : Jvm.MethodName) ({ cls := "MissingMiddlesModel", name := "chains", desc := "(IZ)I" } : Jvm.MethodName)) ∈ lw_all := lw_g (lw_at lw_m12 103 rfl) rfl
theorem q2846 : (Jvm.Cond.code ({ cls := "MissingMiddlesModel", name := "chains", desc := "(IZ)I" } : Jvm.MethodName) prog_14_method_48_code (3 : Nat) (Option.some Jvm.ClassFile.FieldType.int)) ∈ lw_all := lw_g (lw_at lw_m12 104 rfl) rfl
theorem q2847 : (Jvm.Cond.methodLink "MissingMiddlesModel" (181 : Nat) ({ cls := "MissingMiddlesModel", name := "isBook", desc := "(I)Z" } : Jvm.MethodName)) ∈ lw_all := lw_g (lw_at lw_m12 105 rfl) rfl
theorem q2848 : (Jvm.Cond.privateMethod ({ cls := "MissingMiddlesModel", name := "isBook", desc := "(I)Z" } : Jvm.MethodName)) ∈ lw_tbl := lw_at lw_m12 106 rfl
theorem q2849 : (Jvm.Cond.instanceMethod ({ cls := "MissingMiddlesModel", name := "isBook", desc := "(I)Z" } : Jvm.MethodName)) ∈ lw_all := lw_g (lw_at lw_m12 107 rfl) rfl
theorem q2850 : (Jvm.Cond.code ({ cls := "MissingMiddlesModel", name := "isBook", desc := "(I)Z" } : Jvm.MethodName) prog_14_method_12_code (2 : Nat) (Option.some Jvm.ClassFile.FieldType.boolean)) ∈ lw_all := lw_g (lw_at lw_m12 108 rfl) rfl
theorem q2851 : (Jvm.Cond.methodLink "MissingMiddlesModel" (171 : Nat) ({ cls := "MissingMiddlesModel", name := "uses", desc := "(Z)V" } : Jvm.MethodName)) ∈ lw_all := lw_g (lw_at lw_m12 109 rfl) rfl
theorem q2852 : (Jvm.Cond.privateMethod ({ cls := "MissingMiddlesModel", name := "uses", desc := "(Z)V" } : Jvm.MethodName)) ∈ lw_tbl := lw_at lw_m12 110 rfl
theorem q2853 : (Jvm.Cond.instanceMethod ({ cls := "MissingMiddlesModel", name := "uses", desc := "(Z)V" } : Jvm.MethodName)) ∈ lw_all := lw_g (lw_at lw_m12 111 rfl) rfl
theorem q2854 : (Jvm.Cond.code ({ cls := "MissingMiddlesModel", name := "uses", desc := "(Z)V" } : Jvm.MethodName) prog_14_method_38_code (3 : Nat) (Option.none : Option Jvm.ClassFile.FieldType)) ∈ lw_all := lw_g (lw_at lw_m12 112 rfl) rfl
theorem q2855 : (Jvm.Cond.methodLink "MissingMiddlesModel" (149 : Nat) ({ cls := "MissingMiddlesModel", name := "counts", desc := "(I)Z" } : Jvm.MethodName)) ∈ lw_all := lw_g (lw_at lw_m12 113 rfl) rfl
theorem q2856 : (Jvm.Cond.privateMethod ({ cls := "MissingMiddlesModel", name := "counts", desc := "(I)Z" } : Jvm.MethodName)) ∈ lw_tbl := lw_at lw_m12 114 rfl
theorem q2857 : (Jvm.Cond.instanceMethod ({ cls := "MissingMiddlesModel", name := "counts", desc := "(I)Z" } : Jvm.MethodName)) ∈ lw_all := lw_g (lw_at lw_m12 115 rfl) rfl
theorem q2858 : (Jvm.Cond.code ({ cls := "MissingMiddlesModel", name := "counts", desc := "(I)Z" } : Jvm.MethodName) prog_14_method_31_code (3 : Nat) (Option.some Jvm.ClassFile.FieldType.boolean)) ∈ lw_all := lw_g (lw_at lw_m12 116 rfl) rfl
theorem q2859 : (Jvm.Cond.methodLink "MissingMiddlesModel" (184 : Nat) ({ cls := "MissingMiddlesModel", name := "chainsOf", desc := "(I)I" } : Jvm.MethodName)) ∈ lw_all := lw_g (lw_at lw_m12 117 rfl) rfl
theorem q2860 : (Jvm.Cond.privateMethod ({ cls := "MissingMiddlesModel", name := "chainsOf", desc := "(I)I" } : Jvm.MethodName)) ∈ lw_tbl := lw_at lw_m12 118 rfl
theorem q2861 : (Jvm.Cond.instanceMethod ({ cls := "MissingMiddlesModel", name := "chainsOf", desc := "(I)I" } : Jvm.MethodName)) ∈ lw_all := lw_g (lw_at lw_m12 119 rfl) rfl
theorem q2862 : (Jvm.Cond.code ({ cls := "MissingMiddlesModel", name := "chainsOf", desc := "(I)I" } : Jvm.MethodName) prog_14_method_42_code (2 : Nat) (Option.some Jvm.ClassFile.FieldType.int)) ∈ lw_all := lw_g (lw_at lw_m12 120 rfl) rfl
theorem q2863 : (Jvm.Cond.methodLink "MissingMiddlesModel" (152 : Nat) ({ cls := "MissingMiddlesModel", name := "ofBook", desc := "(II)I" } : Jvm.MethodName)) ∈ lw_all := lw_g (lw_at lw_m12 121 rfl) rfl
theorem q2864 : (Jvm.Cond.privateMethod ({ cls := "MissingMiddlesModel", name := "ofBook", desc := "(II)I" } : Jvm.MethodName)) ∈ lw_tbl := lw_at lw_m12 122 rfl
theorem q2865 : (Jvm.Cond.instanceMethod ({ cls := "MissingMiddlesModel", name := "ofBook", desc := "(II)I" } : Jvm.MethodName)) ∈ lw_all := lw_g (lw_at lw_m12 123 rfl) rfl
theorem q2866 : (Jvm.Cond.code ({ cls := "MissingMiddlesModel", name := "ofBook", desc := "(II)I" } : Jvm.MethodName) prog_14_method_16_code (3 : Nat) (Option.some Jvm.ClassFile.FieldType.int)) ∈ lw_all := lw_g (lw_at lw_m12 124 rfl) rfl
theorem q2867 : (Jvm.Cond.methodLink "MissingMiddlesModel" (162 : Nat) ({ cls := "MissingMiddlesModel", name := "chainsFrom", desc := "(III)I" } : Jvm.MethodName)) ∈ lw_all := lw_g (lw_at lw_m12 125 rfl) rfl
theorem q2868 : (Jvm.Cond.privateMethod ({ cls := "MissingMiddlesModel", name := "chainsFrom", desc := "(III)I" } : Jvm.MethodName)) ∈ lw_tbl := lw_at lw_m12 126 rfl
theorem q2869 : (Jvm.Cond.instanceMethod ({ cls := "MissingMiddlesModel", name := "chainsFrom", desc := "(III)I" } : Jvm.MethodName)) ∈ lw_all := lw_g (lw_at lw_m12 127 rfl) rfl
theorem q2870 : (Jvm.Cond.code ({ cls := "MissingMiddlesModel", name := "chainsFrom", desc := "(III)I" } : Jvm.MethodName) prog_14_method_41_code (6 : Nat) (Option.some Jvm.ClassFile.FieldType.int)) ∈ lw_all := lw_g (lw_at lw_m12 128 rfl) rfl
theorem q2871 : (Jvm.Cond.methodLink "MissingMiddlesModel" (155 : Nat) ({ cls := "MissingMiddlesModel", name := "goesOn", desc := "(IIII)Z" } : Jvm.MethodName)) ∈ lw_all := lw_g (lw_at lw_m12 129 rfl) rfl
theorem q2872 : (Jvm.Cond.privateMethod ({ cls := "MissingMiddlesModel", name := "goesOn", desc := "(IIII)Z" } : Jvm.MethodName)) ∈ lw_tbl := lw_at lw_m12 130 rfl
theorem q2873 : (Jvm.Cond.instanceMethod ({ cls := "MissingMiddlesModel", name := "goesOn", desc := "(IIII)Z" } : Jvm.MethodName)) ∈ lw_all := lw_g (lw_at lw_m12 131 rfl) rfl
theorem q2874 : (Jvm.Cond.code ({ cls := "MissingMiddlesModel", name := "goesOn", desc := "(IIII)Z" } : Jvm.MethodName) prog_14_method_39_code (6 : Nat) (Option.some Jvm.ClassFile.FieldType.boolean)) ∈ lw_all := lw_g (lw_at lw_m12 132 rfl) rfl
theorem q2875 : (Jvm.Cond.methodLink "MissingMiddlesModel" (159 : Nat) ({ cls := "MissingMiddlesModel", name := "isEnd", desc := "(II)Z" } : Jvm.MethodName)) ∈ lw_all := lw_g (lw_at lw_m12 133 rfl) rfl
theorem q2876 : (Jvm.Cond.privateMethod ({ cls := "MissingMiddlesModel", name := "isEnd", desc := "(II)Z" } : Jvm.MethodName)) ∈ lw_tbl := lw_at lw_m12 134 rfl
theorem q2877 : (Jvm.Cond.instanceMethod ({ cls := "MissingMiddlesModel", name := "isEnd", desc := "(II)Z" } : Jvm.MethodName)) ∈ lw_all := lw_g (lw_at lw_m12 135 rfl) rfl
theorem q2878 : (Jvm.Cond.code ({ cls := "MissingMiddlesModel", name := "isEnd", desc := "(II)Z" } : Jvm.MethodName) prog_14_method_40_code (3 : Nat) (Option.some Jvm.ClassFile.FieldType.boolean)) ∈ lw_all := lw_g (lw_at lw_m12 136 rfl) rfl
theorem q2880 : (Jvm.Cond.instanceMethod ({ cls := "MissingMiddlesModel", name := "chainOf", desc := "(II)I" } : Jvm.MethodName)) ∈ lw_all := lw_g (lw_at lw_m12 138 rfl) rfl
theorem q2881 : (Jvm.Cond.selects "MissingMiddlesModel" ({ cls := "MissingMiddlesModel", name := "chainOf", desc := "(II)I" } : Jvm.MethodName) ({ cls := "MissingMiddlesModel", name := "chainOf", desc := "(II)I" } : Jvm.MethodName)) ∈ lw_all := lw_g (lw_at lw_m12 139 rfl) rfl
theorem q2882 : (Jvm.Cond.code ({ cls := "MissingMiddlesModel", name := "chainOf", desc := "(II)I" } : Jvm.MethodName) prog_14_method_49_code (3 : Nat) (Option.some Jvm.ClassFile.FieldType.int)) ∈ lw_all := lw_g (lw_at lw_m12 140 rfl) rfl
theorem q2883 : (Jvm.Cond.methodLink "MissingMiddlesModel" (187 : Nat) ({ cls := "MissingMiddlesModel", name := "tellsChain", desc := "(I)Z" } : Jvm.MethodName)) ∈ lw_all := lw_g (lw_at lw_m12 141 rfl) rfl
theorem q2884 : (Jvm.Cond.privateMethod ({ cls := "MissingMiddlesModel", name := "tellsChain", desc := "(I)Z" } : Jvm.MethodName)) ∈ lw_tbl := lw_at lw_m12 142 rfl
theorem q2885 : (Jvm.Cond.instanceMethod ({ cls := "MissingMiddlesModel", name := "tellsChain", desc := "(I)Z" } : Jvm.MethodName)) ∈ lw_all := lw_g (lw_at lw_m12 143 rfl) rfl
theorem q2886 : (Jvm.Cond.code ({ cls := "MissingMiddlesModel", name := "tellsChain", desc := "(I)Z" } : Jvm.MethodName) prog_14_method_45_code (8 : Nat) (Option.some Jvm.ClassFile.FieldType.boolean)) ∈ lw_all := lw_g (lw_at lw_m12 144 rfl) rfl
theorem q2887 : (Jvm.Cond.methodLink "MissingMiddlesModel" (168 : Nat) ({ cls := "MissingMiddlesModel", name := "fewestFrom", desc := "(III)I" } : Jvm.MethodName)) ∈ lw_all := lw_g (lw_at lw_m12 145 rfl) rfl
theorem q2888 : (Jvm.Cond.privateMethod ({ cls := "MissingMiddlesModel", name := "fewestFrom", desc := "(III)I" } : Jvm.MethodName)) ∈ lw_tbl := lw_at lw_m12 146 rfl
theorem q2889 : (Jvm.Cond.instanceMethod ({ cls := "MissingMiddlesModel", name := "fewestFrom", desc := "(III)I" } : Jvm.MethodName)) ∈ lw_all := lw_g (lw_at lw_m12 147 rfl) rfl
theorem q2890 : (Jvm.Cond.code ({ cls := "MissingMiddlesModel", name := "fewestFrom", desc := "(III)I" } : Jvm.MethodName) prog_14_method_43_code (6 : Nat) (Option.some Jvm.ClassFile.FieldType.int)) ∈ lw_all := lw_g (lw_at lw_m12 148 rfl) rfl
theorem q2891 : (Jvm.Cond.methodLink "MissingMiddlesModel" (165 : Nat) ({ cls := "MissingMiddlesModel", name := "fewestWith", desc := "(II)I" } : Jvm.MethodName)) ∈ lw_all := lw_g (lw_at lw_m12 149 rfl) rfl
theorem q2892 : (Jvm.Cond.privateMethod ({ cls := "MissingMiddlesModel", name := "fewestWith", desc := "(II)I" } : Jvm.MethodName)) ∈ lw_tbl := lw_at lw_m12 150 rfl
theorem q2893 : (Jvm.Cond.instanceMethod ({ cls := "MissingMiddlesModel", name := "fewestWith", desc := "(II)I" } : Jvm.MethodName)) ∈ lw_all := lw_g (lw_at lw_m12 151 rfl) rfl
theorem q2894 : (Jvm.Cond.code ({ cls := "MissingMiddlesModel", name := "fewestWith", desc := "(II)I" } : Jvm.MethodName) prog_14_method_44_code (3 : Nat) (Option.some Jvm.ClassFile.FieldType.int)) ∈ lw_all := lw_g (lw_at lw_m12 152 rfl) rfl
theorem q2896 : (Jvm.Cond.instanceMethod ({ cls := "MissingMiddlesModel", name := "reach", desc := "(IZ)I" } : Jvm.MethodName)) ∈ lw_all := lw_g (lw_at lw_m12 154 rfl) rfl
theorem q2897 : (Jvm.Cond.selects "MissingMiddlesModel" ({ cls := "MissingMiddlesModel", name := "reach", desc := "(IZ)I" } : Jvm.MethodName) ({ cls := "MissingMiddlesModel", name := "reach", desc := "(IZ)I" } : Jvm.MethodName)) ∈ lw_all := lw_g (lw_at lw_m12 155 rfl) rfl
theorem q2898 : (Jvm.Cond.code ({ cls := "MissingMiddlesModel", name := "reach", desc := "(IZ)I" } : Jvm.MethodName) prog_14_method_52_code (3 : Nat) (Option.some Jvm.ClassFile.FieldType.int)) ∈ lw_all := lw_g (lw_at lw_m12 156 rfl) rfl
theorem q2899 : (Jvm.Cond.methodLink "MissingMiddlesModel" (193 : Nat) ({ cls := "MissingMiddlesModel", name := "rightReach", desc := "(III)I" } : Jvm.MethodName)) ∈ lw_all := lw_g (lw_at lw_m12 157 rfl) rfl
theorem q2900 : (Jvm.Cond.privateMethod ({ cls := "MissingMiddlesModel", name := "rightReach", desc := "(III)I" } : Jvm.MethodName)) ∈ lw_tbl := lw_at lw_m12 158 rfl
theorem q2901 : (Jvm.Cond.instanceMethod ({ cls := "MissingMiddlesModel", name := "rightReach", desc := "(III)I" } : Jvm.MethodName)) ∈ lw_all := lw_g (lw_at lw_m12 159 rfl) rfl
theorem q2902 : (Jvm.Cond.code ({ cls := "MissingMiddlesModel", name := "rightReach", desc := "(III)I" } : Jvm.MethodName) prog_14_method_51_code (7 : Nat) (Option.some Jvm.ClassFile.FieldType.int)) ∈ lw_all := lw_g (lw_at lw_m12 160 rfl) rfl
theorem q2903 : (Jvm.Cond.methodLink "MissingMiddlesModel" (190 : Nat) ({ cls := "MissingMiddlesModel", name := "leftReach", desc := "(III)I" } : Jvm.MethodName)) ∈ lw_all := lw_g (lw_at lw_m12 161 rfl) rfl
theorem q2904 : (Jvm.Cond.privateMethod ({ cls := "MissingMiddlesModel", name := "leftReach", desc := "(III)I" } : Jvm.MethodName)) ∈ lw_tbl := lw_at lw_m12 162 rfl
theorem q2905 : (Jvm.Cond.instanceMethod ({ cls := "MissingMiddlesModel", name := "leftReach", desc := "(III)I" } : Jvm.MethodName)) ∈ lw_all := lw_g (lw_at lw_m12 163 rfl) rfl
theorem q2906 : (Jvm.Cond.code ({ cls := "MissingMiddlesModel", name := "leftReach", desc := "(III)I" } : Jvm.MethodName) prog_14_method_50_code (6 : Nat) (Option.some Jvm.ClassFile.FieldType.int)) ∈ lw_all := lw_g (lw_at lw_m12 164 rfl) rfl
theorem q2908 : (Jvm.Cond.instanceMethod ({ cls := "MissingMiddlesModel", name := "needed", desc := "(I)I" } : Jvm.MethodName)) ∈ lw_all := lw_g (lw_at lw_m12 166 rfl) rfl
theorem q2909 : (Jvm.Cond.selects "MissingMiddlesModel" ({ cls := "MissingMiddlesModel", name := "needed", desc := "(I)I" } : Jvm.MethodName) ({ cls := "MissingMiddlesModel", name := "needed", desc := "(I)I" } : Jvm.MethodName)) ∈ lw_all := lw_g (lw_at lw_m12 167 rfl) rfl
theorem q2910 : (Jvm.Cond.code ({ cls := "MissingMiddlesModel", name := "needed", desc := "(I)I" } : Jvm.MethodName) prog_14_method_54_code (5 : Nat) (Option.some Jvm.ClassFile.FieldType.int)) ∈ lw_all := lw_g (lw_at lw_m12 168 rfl) rfl
theorem q2911 : (Jvm.Cond.methodLink "MissingMiddlesModel" (196 : Nat) ({ cls := "MissingMiddlesModel", name := "chainsWithout", desc := "(II)I" } : Jvm.MethodName)) ∈ lw_all := lw_g (lw_at lw_m12 169 rfl) rfl
theorem q2912 : (Jvm.Cond.privateMethod ({ cls := "MissingMiddlesModel", name := "chainsWithout", desc := "(II)I" } : Jvm.MethodName)) ∈ lw_tbl := lw_at lw_m12 170 rfl
theorem q2913 : (Jvm.Cond.instanceMethod ({ cls := "MissingMiddlesModel", name := "chainsWithout", desc := "(II)I" } : Jvm.MethodName)) ∈ lw_all := lw_g (lw_at lw_m12 171 rfl) rfl
theorem q2914 : (Jvm.Cond.code ({ cls := "MissingMiddlesModel", name := "chainsWithout", desc := "(II)I" } : Jvm.MethodName) prog_14_method_53_code (3 : Nat) (Option.some Jvm.ClassFile.FieldType.int)) ∈ lw_all := lw_g (lw_at lw_m12 172 rfl) rfl
theorem q2916 : (Jvm.Cond.instanceMethod ({ cls := "MissingMiddlesModel", name := "without", desc := "(II)I" } : Jvm.MethodName)) ∈ lw_all := lw_g (lw_at lw_m12 174 rfl) rfl
theorem q2917 : (Jvm.Cond.selects "MissingMiddlesModel" ({ cls := "MissingMiddlesModel", name := "without", desc := "(II)I" } : Jvm.MethodName) ({ cls := "MissingMiddlesModel", name := "without", desc := "(II)I" } : Jvm.MethodName)) ∈ lw_all := lw_g (lw_at lw_m12 175 rfl) rfl
theorem q2918 : (Jvm.Cond.code ({ cls := "MissingMiddlesModel", name := "without", desc := "(II)I" } : Jvm.MethodName) prog_14_method_55_code (3 : Nat) (Option.some Jvm.ClassFile.FieldType.int)) ∈ lw_all := lw_g (lw_at lw_m12 176 rfl) rfl
theorem q2920 : (Jvm.Cond.instanceMethod ({ cls := "MissingMiddlesModel", name := "would", desc := "(II)I" } : Jvm.MethodName)) ∈ lw_all := lw_g (lw_at lw_m12 178 rfl) rfl
theorem q2921 : (Jvm.Cond.selects "MissingMiddlesModel" ({ cls := "MissingMiddlesModel", name := "would", desc := "(II)I" } : Jvm.MethodName) ({ cls := "MissingMiddlesModel", name := "would", desc := "(II)I" } : Jvm.MethodName)) ∈ lw_all := lw_g (lw_at lw_m12 179 rfl) rfl
theorem q2922 : (Jvm.Cond.code ({ cls := "MissingMiddlesModel", name := "would", desc := "(II)I" } : Jvm.MethodName) prog_14_method_56_code (4 : Nat) (Option.some Jvm.ClassFile.FieldType.int)) ∈ lw_all := lw_g (lw_at lw_m12 180 rfl) rfl
theorem q2924 : (Jvm.Cond.instanceMethod ({ cls := "MissingMiddlesModel", name := "ranked", desc := "(I)I" } : Jvm.MethodName)) ∈ lw_all := lw_g (lw_at lw_m12 182 rfl) rfl
theorem q2925 : (Jvm.Cond.selects "MissingMiddlesModel" ({ cls := "MissingMiddlesModel", name := "ranked", desc := "(I)I" } : Jvm.MethodName) ({ cls := "MissingMiddlesModel", name := "ranked", desc := "(I)I" } : Jvm.MethodName)) ∈ lw_all := lw_g (lw_at lw_m12 183 rfl) rfl
theorem q2926 : (Jvm.Cond.code ({ cls := "MissingMiddlesModel", name := "ranked", desc := "(I)I" } : Jvm.MethodName) prog_14_method_58_code (6 : Nat) (Option.some Jvm.ClassFile.FieldType.int)) ∈ lw_all := lw_g (lw_at lw_m12 184 rfl) rfl
theorem q2927 : (Jvm.Cond.methodLink "MissingMiddlesModel" (199 : Nat) ({ cls := "MissingMiddlesModel", name := "isAhead", desc := "(II)Z" } : Jvm.MethodName)) ∈ lw_all := lw_g (lw_at lw_m12 185 rfl) rfl
theorem q2928 : (Jvm.Cond.privateMethod ({ cls := "MissingMiddlesModel", name := "isAhead", desc := "(II)Z" } : Jvm.MethodName)) ∈ lw_tbl := lw_at lw_m12 186 rfl
theorem q2929 : (Jvm.Cond.instanceMethod ({ cls := "MissingMiddlesModel", name := "isAhead", desc := "(II)Z" } : Jvm.MethodName)) ∈ lw_all := lw_g (lw_at lw_m12 187 rfl) rfl
theorem q2930 : (Jvm.Cond.code ({ cls := "MissingMiddlesModel", name := "isAhead", desc := "(II)Z" } : Jvm.MethodName) prog_14_method_57_code (4 : Nat) (Option.some Jvm.ClassFile.FieldType.boolean)) ∈ lw_all := lw_g (lw_at lw_m12 188 rfl) rfl
theorem q2932 : (Jvm.Cond.instanceMethod ({ cls := "MissingMiddlesModel", name := "isRight", desc := "()Z" } : Jvm.MethodName)) ∈ lw_all := lw_g (lw_at lw_m12 190 rfl) rfl
theorem q2933 : (Jvm.Cond.selects "MissingMiddlesModel" ({ cls := "MissingMiddlesModel", name := "isRight", desc := "()Z" } : Jvm.MethodName) ({ cls := "MissingMiddlesModel", name := "isRight", desc := "()Z" } : Jvm.MethodName)) ∈ lw_all := lw_g (lw_at lw_m12 191 rfl) rfl
theorem q2934 : (Jvm.Cond.code ({ cls := "MissingMiddlesModel", name := "isRight", desc := "()Z" } : Jvm.MethodName) prog_14_method_59_code (1 : Nat) (Option.some Jvm.ClassFile.FieldType.boolean)) ∈ lw_all := lw_g (lw_at lw_m12 192 rfl) rfl
theorem q2936 : (Jvm.Cond.instanceMethod ({ cls := "MissingMiddlesModel", name := "bookOf", desc := "(II)I" } : Jvm.MethodName)) ∈ lw_all := lw_g (lw_at lw_m12 194 rfl) rfl
theorem q2937 : (Jvm.Cond.selects "MissingMiddlesModel" ({ cls := "MissingMiddlesModel", name := "bookOf", desc := "(II)I" } : Jvm.MethodName) ({ cls := "MissingMiddlesModel", name := "bookOf", desc := "(II)I" } : Jvm.MethodName)) ∈ lw_all := lw_g (lw_at lw_m12 195 rfl) rfl
theorem q2938 : (Jvm.Cond.code ({ cls := "MissingMiddlesModel", name := "bookOf", desc := "(II)I" } : Jvm.MethodName) prog_14_method_60_code (4 : Nat) (Option.some Jvm.ClassFile.FieldType.int)) ∈ lw_all := lw_g (lw_at lw_m12 196 rfl) rfl
theorem q2939 : (Jvm.Cond.methodLink "MissingMiddlesModel" (202 : Nat) ({ cls := "MissingMiddlesModel", name := "chainPrice", desc := "()I" } : Jvm.MethodName)) ∈ lw_all := lw_g (lw_at lw_m12 197 rfl) rfl
theorem q2940 : (Jvm.Cond.privateMethod ({ cls := "MissingMiddlesModel", name := "chainPrice", desc := "()I" } : Jvm.MethodName)) ∈ lw_tbl := lw_at lw_m12 198 rfl
theorem q2941 : (Jvm.Cond.instanceMethod ({ cls := "MissingMiddlesModel", name := "chainPrice", desc := "()I" } : Jvm.MethodName)) ∈ lw_all := lw_g (lw_at lw_m12 199 rfl) rfl
theorem q2942 : (Jvm.Cond.code ({ cls := "MissingMiddlesModel", name := "chainPrice", desc := "()I" } : Jvm.MethodName) prog_14_method_47_code (3 : Nat) (Option.some Jvm.ClassFile.FieldType.int)) ∈ lw_all := lw_g (lw_at lw_m12 200 rfl) rfl
theorem q2943 : (Jvm.Cond.methodLink "MissingMiddlesModel" (178 : Nat) ({ cls := "MissingMiddlesModel", name := "priceOf", desc := "(I)I" } : Jvm.MethodName)) ∈ lw_all := lw_g (lw_at lw_m12 201 rfl) rfl
theorem q2944 : (Jvm.Cond.privateMethod ({ cls := "MissingMiddlesModel", name := "priceOf", desc := "(I)I" } : Jvm.MethodName)) ∈ lw_tbl := lw_at lw_m12 202 rfl
theorem q2945 : (Jvm.Cond.instanceMethod ({ cls := "MissingMiddlesModel", name := "priceOf", desc := "(I)I" } : Jvm.MethodName)) ∈ lw_all := lw_g (lw_at lw_m12 203 rfl) rfl
theorem q2946 : (Jvm.Cond.code ({ cls := "MissingMiddlesModel", name := "priceOf", desc := "(I)I" } : Jvm.MethodName) prog_14_method_46_code (2 : Nat) (Option.some Jvm.ClassFile.FieldType.int)) ∈ lw_all := lw_g (lw_at lw_m12 204 rfl) rfl
theorem q2948 : (Jvm.Cond.instanceMethod ({ cls := "MissingMiddlesModel", name := "scrapOf", desc := "(II)I" } : Jvm.MethodName)) ∈ lw_all := lw_g (lw_at lw_m12 206 rfl) rfl
theorem q2949 : (Jvm.Cond.selects "MissingMiddlesModel" ({ cls := "MissingMiddlesModel", name := "scrapOf", desc := "(II)I" } : Jvm.MethodName) ({ cls := "MissingMiddlesModel", name := "scrapOf", desc := "(II)I" } : Jvm.MethodName)) ∈ lw_all := lw_g (lw_at lw_m12 207 rfl) rfl
theorem q2950 : (Jvm.Cond.code ({ cls := "MissingMiddlesModel", name := "scrapOf", desc := "(II)I" } : Jvm.MethodName) prog_14_method_61_code (3 : Nat) (Option.some Jvm.ClassFile.FieldType.int)) ∈ lw_all := lw_g (lw_at lw_m12 208 rfl) rfl
theorem q2952 : (Jvm.Cond.instanceMethod ({ cls := "MissingMiddlesModel", name := "atticOf", desc := "(II)I" } : Jvm.MethodName)) ∈ lw_all := lw_g (lw_at lw_m12 210 rfl) rfl
theorem q2953 : (Jvm.Cond.selects "MissingMiddlesModel" ({ cls := "MissingMiddlesModel", name := "atticOf", desc := "(II)I" } : Jvm.MethodName) ({ cls := "MissingMiddlesModel", name := "atticOf", desc := "(II)I" } : Jvm.MethodName)) ∈ lw_all := lw_g (lw_at lw_m12 211 rfl) rfl
theorem q2954 : (Jvm.Cond.code ({ cls := "MissingMiddlesModel", name := "atticOf", desc := "(II)I" } : Jvm.MethodName) prog_14_method_62_code (3 : Nat) (Option.some Jvm.ClassFile.FieldType.int)) ∈ lw_all := lw_g (lw_at lw_m12 212 rfl) rfl
theorem q2956 : (Jvm.Cond.instanceMethod ({ cls := "MissingMiddlesModel", name := "mend", desc := "(I)I" } : Jvm.MethodName)) ∈ lw_all := lw_g (lw_at lw_m12 214 rfl) rfl
theorem q2957 : (Jvm.Cond.selects "MissingMiddlesModel" ({ cls := "MissingMiddlesModel", name := "mend", desc := "(I)I" } : Jvm.MethodName) ({ cls := "MissingMiddlesModel", name := "mend", desc := "(I)I" } : Jvm.MethodName)) ∈ lw_all := lw_g (lw_at lw_m12 215 rfl) rfl
theorem q2958 : (Jvm.Cond.code ({ cls := "MissingMiddlesModel", name := "mend", desc := "(I)I" } : Jvm.MethodName) prog_14_method_66_code (2 : Nat) (Option.some Jvm.ClassFile.FieldType.int)) ∈ lw_all := lw_g (lw_at lw_m12 216 rfl) rfl
theorem q2959 : (Jvm.Cond.methodLink "MissingMiddlesModel" (212 : Nat) ({ cls := "MissingMiddlesModel", name := "doMend", desc := "(I)I" } : Jvm.MethodName)) ∈ lw_all := lw_g (lw_at lw_m12 217 rfl) rfl
theorem q2960 : (Jvm.Cond.privateMethod ({ cls := "MissingMiddlesModel", name := "doMend", desc := "(I)I" } : Jvm.MethodName)) ∈ lw_tbl := lw_at lw_m12 218 rfl
theorem q2961 : (Jvm.Cond.instanceMethod ({ cls := "MissingMiddlesModel", name := "doMend", desc := "(I)I" } : Jvm.MethodName)) ∈ lw_all := lw_g (lw_at lw_m12 219 rfl) rfl
theorem q2962 : (Jvm.Cond.code ({ cls := "MissingMiddlesModel", name := "doMend", desc := "(I)I" } : Jvm.MethodName) prog_14_method_65_code (6 : Nat) (Option.some Jvm.ClassFile.FieldType.int)) ∈ lw_all := lw_g (lw_at lw_m12 220 rfl) rfl
theorem q2963 : (Jvm.Cond.methodLink "MissingMiddlesModel" (209 : Nat) ({ cls := "MissingMiddlesModel", name := "refuseChain", desc := "(I)I" } : Jvm.MethodName)) ∈ lw_all := lw_g (lw_at lw_m12 221 rfl) rfl
theorem q2964 : (Jvm.Cond.privateMethod ({ cls := "MissingMiddlesModel", name := "refuseChain", desc := "(I)I" } : Jvm.MethodName)) ∈ lw_tbl := lw_at lw_m12 222 rfl
theorem q2965 : (Jvm.Cond.instanceMethod ({ cls := "MissingMiddlesModel", name := "refuseChain", desc := "(I)I" } : Jvm.MethodName)) ∈ lw_all := lw_g (lw_at lw_m12 223 rfl) rfl
theorem q2966 : (Jvm.Cond.code ({ cls := "MissingMiddlesModel", name := "refuseChain", desc := "(I)I" } : Jvm.MethodName) prog_14_method_64_code (4 : Nat) (Option.some Jvm.ClassFile.FieldType.int)) ∈ lw_all := lw_g (lw_at lw_m12 224 rfl) rfl
theorem q2967 : (Jvm.Cond.methodLink "MissingMiddlesModel" (206 : Nat) ({ cls := "MissingMiddlesModel", name := "missing", desc := "(I)I" } : Jvm.MethodName)) ∈ lw_all := lw_g (lw_at lw_m12 225 rfl) rfl
theorem q2968 : (Jvm.Cond.privateMethod ({ cls := "MissingMiddlesModel", name := "missing", desc := "(I)I" } : Jvm.MethodName)) ∈ lw_tbl := lw_at lw_m12 226 rfl
theorem q2969 : (Jvm.Cond.instanceMethod ({ cls := "MissingMiddlesModel", name := "missing", desc := "(I)I" } : Jvm.MethodName)) ∈ lw_all := lw_g (lw_at lw_m12 227 rfl) rfl
theorem q2970 : (Jvm.Cond.code ({ cls := "MissingMiddlesModel", name := "missing", desc := "(I)I" } : Jvm.MethodName) prog_14_method_63_code (2 : Nat) (Option.some Jvm.ClassFile.FieldType.int)) ∈ lw_all := lw_g (lw_at lw_m12 228 rfl) rfl
theorem q2972 : (Jvm.Cond.instanceMethod ({ cls := "MissingMiddlesModel", name := "earn", desc := "(I)I" } : Jvm.MethodName)) ∈ lw_all := lw_g (lw_at lw_m12 230 rfl) rfl
theorem q2973 : (Jvm.Cond.selects "MissingMiddlesModel" ({ cls := "MissingMiddlesModel", name := "earn", desc := "(I)I" } : Jvm.MethodName) ({ cls := "MissingMiddlesModel", name := "earn", desc := "(I)I" } : Jvm.MethodName)) ∈ lw_all := lw_g (lw_at lw_m12 231 rfl) rfl
theorem q2974 : (Jvm.Cond.code ({ cls := "MissingMiddlesModel", name := "earn", desc := "(I)I" } : Jvm.MethodName) prog_14_method_68_code (2 : Nat) (Option.some Jvm.ClassFile.FieldType.int)) ∈ lw_all := lw_g (lw_at lw_m12 232 rfl) rfl
theorem q2975 : (Jvm.Cond.methodLink "MissingMiddlesModel" (215 : Nat) ({ cls := "MissingMiddlesModel", name := "doEarn", desc := "(I)I" } : Jvm.MethodName)) ∈ lw_all := lw_g (lw_at lw_m12 233 rfl) rfl
theorem q2976 : (Jvm.Cond.privateMethod ({ cls := "MissingMiddlesModel", name := "doEarn", desc := "(I)I" } : Jvm.MethodName)) ∈ lw_tbl := lw_at lw_m12 234 rfl
theorem q2977 : (Jvm.Cond.instanceMethod ({ cls := "MissingMiddlesModel", name := "doEarn", desc := "(I)I" } : Jvm.MethodName)) ∈ lw_all := lw_g (lw_at lw_m12 235 rfl) rfl
theorem q2978 : (Jvm.Cond.code ({ cls := "MissingMiddlesModel", name := "doEarn", desc := "(I)I" } : Jvm.MethodName) prog_14_method_67_code (2 : Nat) (Option.some Jvm.ClassFile.FieldType.int)) ∈ lw_all := lw_g (lw_at lw_m12 236 rfl) rfl
theorem q2980 : (Jvm.Cond.instanceMethod ({ cls := "MissingMiddlesModel", name := "price", desc := "(I)I" } : Jvm.MethodName)) ∈ lw_all := lw_g (lw_at lw_m12 238 rfl) rfl
theorem q2981 : (Jvm.Cond.selects "MissingMiddlesModel" ({ cls := "MissingMiddlesModel", name := "price", desc := "(I)I" } : Jvm.MethodName) ({ cls := "MissingMiddlesModel", name := "price", desc := "(I)I" } : Jvm.MethodName)) ∈ lw_all := lw_g (lw_at lw_m12 239 rfl) rfl
theorem q2982 : (Jvm.Cond.code ({ cls := "MissingMiddlesModel", name := "price", desc := "(I)I" } : Jvm.MethodName) prog_14_method_70_code (2 : Nat) (Option.some Jvm.ClassFile.FieldType.int)) ∈ lw_all := lw_g (lw_at lw_m13 0 rfl) rfl
theorem q2983 : (Jvm.Cond.methodLink "MissingMiddlesModel" (218 : Nat) ({ cls := "MissingMiddlesModel", name := "doPrice", desc := "(I)I" } : Jvm.MethodName)) ∈ lw_all := lw_g (lw_at lw_m13 1 rfl) rfl
theorem q2984 : (Jvm.Cond.privateMethod ({ cls := "MissingMiddlesModel", name := "doPrice", desc := "(I)I" } : Jvm.MethodName)) ∈ lw_tbl := lw_at lw_m13 2 rfl
theorem q2985 : (Jvm.Cond.instanceMethod ({ cls := "MissingMiddlesModel", name := "doPrice", desc := "(I)I" } : Jvm.MethodName)) ∈ lw_all := lw_g (lw_at lw_m13 3 rfl) rfl
theorem q2986 : (Jvm.Cond.code ({ cls := "MissingMiddlesModel", name := "doPrice", desc := "(I)I" } : Jvm.MethodName) prog_14_method_69_code (3 : Nat) (Option.some Jvm.ClassFile.FieldType.int)) ∈ lw_all := lw_g (lw_at lw_m13 4 rfl) rfl
theorem q2988 : (Jvm.Cond.instanceMethod ({ cls := "MissingMiddlesModel", name := "line", desc := "(I)I" } : Jvm.MethodName)) ∈ lw_all := lw_g (lw_at lw_m13 6 rfl) rfl
theorem q2989 : (Jvm.Cond.selects "MissingMiddlesModel" ({ cls := "MissingMiddlesModel", name := "line", desc := "(I)I" } : Jvm.MethodName) ({ cls := "MissingMiddlesModel", name := "line", desc := "(I)I" } : Jvm.MethodName)) ∈ lw_all := lw_g (lw_at lw_m13 7 rfl) rfl
theorem q2990 : (Jvm.Cond.code ({ cls := "MissingMiddlesModel", name := "line", desc := "(I)I" } : Jvm.MethodName) prog_14_method_74_code (2 : Nat) (Option.some Jvm.ClassFile.FieldType.int)) ∈ lw_all := lw_g (lw_at lw_m13 8 rfl) rfl
theorem q2991 : (Jvm.Cond.methodLink "MissingMiddlesModel" (231 : Nat) ({ cls := "MissingMiddlesModel", name := "saysNumber", desc := "(I)V" } : Jvm.MethodName)) ∈ lw_all := lw_g (lw_at lw_m13 9 rfl) rfl
theorem q2992 : (Jvm.Cond.privateMethod ({ cls := "MissingMiddlesModel", name := "saysNumber", desc := "(I)V" } : Jvm.MethodName)) ∈ lw_tbl := lw_at lw_m13 10 rfl
theorem q2993 : (Jvm.Cond.instanceMethod ({ cls := "MissingMiddlesModel", name := "saysNumber", desc := "(I)V" } : Jvm.MethodName)) ∈ lw_all := lw_g (lw_at lw_m13 11 rfl) rfl
theorem q2994 : (Jvm.Cond.code ({ cls := "MissingMiddlesModel", name := "saysNumber", desc := "(I)V" } : Jvm.MethodName) prog_14_method_72_code (3 : Nat) (Option.none : Option Jvm.ClassFile.FieldType)) ∈ lw_all := lw_g (lw_at lw_m13 12 rfl) rfl
theorem q2995 : (Jvm.Cond.methodLink "MissingMiddlesModel" (224 : Nat) ({ cls := "MissingMiddlesModel", name := "says", desc := "(C)V" } : Jvm.MethodName)) ∈ lw_all := lw_g (lw_at lw_m13 13 rfl) rfl
theorem q2996 : (Jvm.Cond.privateMethod ({ cls := "MissingMiddlesModel", name := "says", desc := "(C)V" } : Jvm.MethodName)) ∈ lw_tbl := lw_at lw_m13 14 rfl
theorem q2997 : (Jvm.Cond.instanceMethod ({ cls := "MissingMiddlesModel", name := "says", desc := "(C)V" } : Jvm.MethodName)) ∈ lw_all := lw_g (lw_at lw_m13 15 rfl) rfl
theorem q2998 : (Jvm.Cond.code ({ cls := "MissingMiddlesModel", name := "says", desc := "(C)V" } : Jvm.MethodName) prog_14_method_71_code (2 : Nat) (Option.none : Option Jvm.ClassFile.FieldType)) ∈ lw_all := lw_g (lw_at lw_m13 16 rfl) rfl
theorem q2999 : (Jvm.Cond.methodLink "MissingMiddlesModel" (228 : Nat) ({ cls := "java/lang/Math", name := "abs", desc := "(I)I" } : Jvm.MethodName)) ∈ lw_all := lw_g (lw_at lw_m13 17 rfl) rfl
theorem q3002 : (Jvm.Cond.methodLink "MissingMiddlesModel" (234 : Nat) ({ cls := "MissingMiddlesModel", name := "saysMiddle", desc := "(I)V" } : Jvm.MethodName)) ∈ lw_all := lw_g (lw_at lw_m13 20 rfl) rfl
theorem q3003 : (Jvm.Cond.privateMethod ({ cls := "MissingMiddlesModel", name := "saysMiddle", desc := "(I)V" } : Jvm.MethodName)) ∈ lw_tbl := lw_at lw_m13 21 rfl
theorem q3004 : (Jvm.Cond.instanceMethod ({ cls := "MissingMiddlesModel", name := "saysMiddle", desc := "(I)V" } : Jvm.MethodName)) ∈ lw_all := lw_g (lw_at lw_m13 22 rfl) rfl
theorem q3005 : (Jvm.Cond.code ({ cls := "MissingMiddlesModel", name := "saysMiddle", desc := "(I)V" } : Jvm.MethodName) prog_14_method_73_code (2 : Nat) (Option.none : Option Jvm.ClassFile.FieldType)) ∈ lw_all := lw_g (lw_at lw_m13 23 rfl) rfl
theorem q3007 : (Jvm.Cond.instanceMethod ({ cls := "MissingMiddlesModel", name := "scrapLine", desc := "(I)I" } : Jvm.MethodName)) ∈ lw_all := lw_g (lw_at lw_m13 25 rfl) rfl
theorem q3008 : (Jvm.Cond.selects "MissingMiddlesModel" ({ cls := "MissingMiddlesModel", name := "scrapLine", desc := "(I)I" } : Jvm.MethodName) ({ cls := "MissingMiddlesModel", name := "scrapLine", desc := "(I)I" } : Jvm.MethodName)) ∈ lw_all := lw_g (lw_at lw_m13 26 rfl) rfl
theorem q3009 : (Jvm.Cond.code ({ cls := "MissingMiddlesModel", name := "scrapLine", desc := "(I)I" } : Jvm.MethodName) prog_14_method_75_code (2 : Nat) (Option.some Jvm.ClassFile.FieldType.int)) ∈ lw_all := lw_g (lw_at lw_m13 27 rfl) rfl
theorem q3011 : (Jvm.Cond.instanceMethod ({ cls := "MissingMiddlesModel", name := "chainLine", desc := "(I)I" } : Jvm.MethodName)) ∈ lw_all := lw_g (lw_at lw_m13 29 rfl) rfl
theorem q3012 : (Jvm.Cond.selects "MissingMiddlesModel" ({ cls := "MissingMiddlesModel", name := "chainLine", desc := "(I)I" } : Jvm.MethodName) ({ cls := "MissingMiddlesModel", name := "chainLine", desc := "(I)I" } : Jvm.MethodName)) ∈ lw_all := lw_g (lw_at lw_m13 30 rfl) rfl
theorem q3013 : (Jvm.Cond.code ({ cls := "MissingMiddlesModel", name := "chainLine", desc := "(I)I" } : Jvm.MethodName) prog_14_method_76_code (3 : Nat) (Option.some Jvm.ClassFile.FieldType.int)) ∈ lw_all := lw_g (lw_at lw_m13 31 rfl) rfl
theorem q3015 : (Jvm.Cond.instanceMethod ({ cls := "MissingMiddlesModel", name := "character", desc := "(I)C" } : Jvm.MethodName)) ∈ lw_all := lw_g (lw_at lw_m13 33 rfl) rfl
theorem q3016 : (Jvm.Cond.selects "MissingMiddlesModel" ({ cls := "MissingMiddlesModel", name := "character", desc := "(I)C" } : Jvm.MethodName) ({ cls := "MissingMiddlesModel", name := "character", desc := "(I)C" } : Jvm.MethodName)) ∈ lw_all := lw_g (lw_at lw_m13 34 rfl) rfl
theorem q3017 : (Jvm.Cond.code ({ cls := "MissingMiddlesModel", name := "character", desc := "(I)C" } : Jvm.MethodName) prog_14_method_77_code (2 : Nat) (Option.some Jvm.ClassFile.FieldType.char)) ∈ lw_all := lw_g (lw_at lw_m13 35 rfl) rfl
theorem q3019 : (Jvm.Cond.instanceMethod ({ cls := "MissingMiddlesModel", name := "account", desc := "(I)I" } : Jvm.MethodName)) ∈ lw_all := lw_g (lw_at lw_m13 37 rfl) rfl
theorem q3020 : (Jvm.Cond.selects "MissingMiddlesModel" ({ cls := "MissingMiddlesModel", name := "account", desc := "(I)I" } : Jvm.MethodName) ({ cls := "MissingMiddlesModel", name := "account", desc := "(I)I" } : Jvm.MethodName)) ∈ lw_all := lw_g (lw_at lw_m13 38 rfl) rfl
theorem q3021 : (Jvm.Cond.code ({ cls := "MissingMiddlesModel", name := "account", desc := "(I)I" } : Jvm.MethodName) prog_14_method_81_code (2 : Nat) (Option.some Jvm.ClassFile.FieldType.int)) ∈ lw_all := lw_g (lw_at lw_m13 39 rfl) rfl
theorem q3022 : (Jvm.Cond.methodLink "MissingMiddlesModel" (237 : Nat) ({ cls := "MissingMiddlesModel", name := "whole", desc := "()I" } : Jvm.MethodName)) ∈ lw_all := lw_g (lw_at lw_m13 40 rfl) rfl
theorem q3023 : (Jvm.Cond.privateMethod ({ cls := "MissingMiddlesModel", name := "whole", desc := "()I" } : Jvm.MethodName)) ∈ lw_tbl := lw_at lw_m13 41 rfl
theorem q3024 : (Jvm.Cond.instanceMethod ({ cls := "MissingMiddlesModel", name := "whole", desc := "()I" } : Jvm.MethodName)) ∈ lw_all := lw_g (lw_at lw_m13 42 rfl) rfl
theorem q3025 : (Jvm.Cond.code ({ cls := "MissingMiddlesModel", name := "whole", desc := "()I" } : Jvm.MethodName) prog_14_method_80_code (3 : Nat) (Option.some Jvm.ClassFile.FieldType.int)) ∈ lw_all := lw_g (lw_at lw_m13 43 rfl) rfl
theorem q3026 : (Jvm.Cond.methodLink "MissingMiddlesModel" (240 : Nat) ({ cls := "MissingMiddlesModel", name := "hidden", desc := "()I" } : Jvm.MethodName)) ∈ lw_all := lw_g (lw_at lw_m13 44 rfl) rfl
theorem q3027 : (Jvm.Cond.privateMethod ({ cls := "MissingMiddlesModel", name := "hidden", desc := "()I" } : Jvm.MethodName)) ∈ lw_tbl := lw_at lw_m13 45 rfl
theorem q3028 : (Jvm.Cond.instanceMethod ({ cls := "MissingMiddlesModel", name := "hidden", desc := "()I" } : Jvm.MethodName)) ∈ lw_all := lw_g (lw_at lw_m13 46 rfl) rfl
theorem q3029 : (Jvm.Cond.code ({ cls := "MissingMiddlesModel", name := "hidden", desc := "()I" } : Jvm.MethodName) prog_14_method_78_code (3 : Nat) (Option.some Jvm.ClassFile.FieldType.int)) ∈ lw_all := lw_g (lw_at lw_m13 47 rfl) rfl
theorem q3030 : (Jvm.Cond.methodLink "MissingMiddlesModel" (243 : Nat) ({ cls := "MissingMiddlesModel", name := "counting", desc := "()I" } : Jvm.MethodName)) ∈ lw_all := lw_g (lw_at lw_m13 48 rfl) rfl
theorem q3031 : (Jvm.Cond.privateMethod ({ cls := "MissingMiddlesModel", name := "counting", desc := "()I" } : Jvm.MethodName)) ∈ lw_tbl := lw_at lw_m13 49 rfl
theorem q3032 : (Jvm.Cond.instanceMethod ({ cls := "MissingMiddlesModel", name := "counting", desc := "()I" } : Jvm.MethodName)) ∈ lw_all := lw_g (lw_at lw_m13 50 rfl) rfl
theorem q3033 : (Jvm.Cond.code ({ cls := "MissingMiddlesModel", name := "counting", desc := "()I" } : Jvm.MethodName) prog_14_method_79_code (3 : Nat) (Option.some Jvm.ClassFile.FieldType.int)) ∈ lw_all := lw_g (lw_at lw_m13 51 rfl) rfl
theorem q3035 : (Jvm.Cond.instanceMethod ({ cls := "MissingMiddlesModel", name := "meanTrust", desc := "()D" } : Jvm.MethodName)) ∈ lw_all := lw_g (lw_at lw_m13 53 rfl) rfl
theorem q3036 : (Jvm.Cond.selects "MissingMiddlesModel" ({ cls := "MissingMiddlesModel", name := "meanTrust", desc := "()D" } : Jvm.MethodName) ({ cls := "MissingMiddlesModel", name := "meanTrust", desc := "()D" } : Jvm.MethodName)) ∈ lw_all := lw_g (lw_at lw_m13 54 rfl) rfl
theorem q3037 : (Jvm.Cond.code ({ cls := "MissingMiddlesModel", name := "meanTrust", desc := "()D" } : Jvm.MethodName) prog_14_method_82_code (3 : Nat) (Option.some Jvm.ClassFile.FieldType.double)) ∈ lw_all := lw_g (lw_at lw_m13 55 rfl) rfl
theorem q3038 : (Jvm.Cond.constantDouble "MissingMiddlesModel" (249 : Nat) (4617315517961601024 : UInt64)) ∈ lw_all := lw_g (lw_at lw_m13 56 rfl) rfl
theorem q3040 : (Jvm.Cond.instanceMethod ({ cls := "MissingMiddlesModel", name := "wholeShare", desc := "()F" } : Jvm.MethodName)) ∈ lw_all := lw_g (lw_at lw_m13 58 rfl) rfl
theorem q3041 : (Jvm.Cond.selects "MissingMiddlesModel" ({ cls := "MissingMiddlesModel", name := "wholeShare", desc := "()F" } : Jvm.MethodName) ({ cls := "MissingMiddlesModel", name := "wholeShare", desc := "()F" } : Jvm.MethodName)) ∈ lw_all := lw_g (lw_at lw_m13 59 rfl) rfl
theorem q3042 : (Jvm.Cond.code ({ cls := "MissingMiddlesModel", name := "wholeShare", desc := "()F" } : Jvm.MethodName) prog_14_method_83_code (2 : Nat) (Option.some Jvm.ClassFile.FieldType.float)) ∈ lw_all := lw_g (lw_at lw_m13 60 rfl) rfl
theorem q3044 : (Jvm.Cond.instanceMethod ({ cls := "MissingMiddlesModel", name := "append", desc := "(I)I" } : Jvm.MethodName)) ∈ lw_all := lw_g (lw_at lw_m13 62 rfl) rfl
theorem q3045 : (Jvm.Cond.selects "MissingMiddlesModel" ({ cls := "MissingMiddlesModel", name := "append", desc := "(I)I" } : Jvm.MethodName) ({ cls := "MissingMiddlesModel", name := "append", desc := "(I)I" } : Jvm.MethodName)) ∈ lw_all := lw_g (lw_at lw_m13 63 rfl) rfl
theorem q3046 : (Jvm.Cond.code ({ cls := "MissingMiddlesModel", name := "append", desc := "(I)I" } : Jvm.MethodName) prog_14_method_84_code (5 : Nat) (Option.some Jvm.ClassFile.FieldType.int)) ∈ lw_all := lw_g (lw_at lw_m13 64 rfl) rfl
theorem q3048 : (Jvm.Cond.instanceMethod ({ cls := "MissingMiddlesModel", name := "read", desc := "()I" } : Jvm.MethodName)) ∈ lw_all := lw_g (lw_at lw_m13 66 rfl) rfl
theorem q3049 : (Jvm.Cond.selects "MissingMiddlesModel" ({ cls := "MissingMiddlesModel", name := "read", desc := "()I" } : Jvm.MethodName) ({ cls := "MissingMiddlesModel", name := "read", desc := "()I" } : Jvm.MethodName)) ∈ lw_all := lw_g (lw_at lw_m13 67 rfl) rfl
theorem q3050 : (Jvm.Cond.code ({ cls := "MissingMiddlesModel", name := "read", desc := "()I" } : Jvm.MethodName) prog_14_method_92_code (2 : Nat) (Option.some Jvm.ClassFile.FieldType.int)) ∈ lw_all := lw_g (lw_at lw_m13 68 rfl) rfl
theorem q3051 : (Jvm.Cond.methodLink "MissingMiddlesModel" (284 : Nat) ({ cls := "MissingMiddlesModel", name := "readOrder", desc := "()V" } : Jvm.MethodName)) ∈ lw_all := lw_g (lw_at lw_m13 69 rfl) rfl
theorem q3052 : (Jvm.Cond.privateMethod ({ cls := "MissingMiddlesModel", name := "readOrder", desc := "()V" } : Jvm.MethodName)) ∈ lw_tbl := lw_at lw_m13 70 rfl
theorem q3053 : (Jvm.Cond.instanceMethod ({ cls := "MissingMiddlesModel", name := "readOrder", desc := "()V" } : Jvm.MethodName)) ∈ lw_all := lw_g (lw_at lw_m13 71 rfl) rfl
theorem q3054 : (Jvm.Cond.code ({ cls := "MissingMiddlesModel", name := "readOrder", desc := "()V" } : Jvm.MethodName) prog_14_method_90_code (3 : Nat) (Option.none : Option Jvm.ClassFile.FieldType)) ∈ lw_all := lw_g (lw_at lw_m13 72 rfl) rfl
theorem q3055 : (Jvm.Cond.stringRef "MissingMiddlesModel" (268 : Nat) "bhfopmdce") ∈ lw_tbl := lw_at lw_m13 73 rfl
theorem q3056 : (Jvm.Cond.methodLink "MissingMiddlesModel" (270 : Nat) ({ cls := "java/lang/String", name := "indexOf", desc := "(I)I" } : Jvm.MethodName)) ∈ lw_all := lw_g (lw_at lw_m13 74 rfl) rfl
theorem q3102 : (Jvm.Cond.methodLink "MissingMiddlesModel" (265 : Nat) ({ cls := "MissingMiddlesModel", name := "number", desc := "()I" } : Jvm.MethodName)) ∈ lw_all := lw_g (lw_at lw_m13 120 rfl) rfl
theorem q3103 : (Jvm.Cond.privateMethod ({ cls := "MissingMiddlesModel", name := "number", desc := "()I" } : Jvm.MethodName)) ∈ lw_tbl := lw_at lw_m13 121 rfl
theorem q3104 : (Jvm.Cond.instanceMethod ({ cls := "MissingMiddlesModel", name := "number", desc := "()I" } : Jvm.MethodName)) ∈ lw_all := lw_g (lw_at lw_m13 122 rfl) rfl
theorem q3105 : (Jvm.Cond.code ({ cls := "MissingMiddlesModel", name := "number", desc := "()I" } : Jvm.MethodName) prog_14_method_87_code (2 : Nat) (Option.some Jvm.ClassFile.FieldType.int)) ∈ lw_all := lw_g (lw_at lw_m13 123 rfl) rfl
theorem q3106 : (Jvm.Cond.methodLink "MissingMiddlesModel" (261 : Nat) ({ cls := "MissingMiddlesModel", name := "sign", desc := "(CC)I" } : Jvm.MethodName)) ∈ lw_all := lw_g (lw_at lw_m13 124 rfl) rfl
theorem q3107 : (Jvm.Cond.privateMethod ({ cls := "MissingMiddlesModel", name := "sign", desc := "(CC)I" } : Jvm.MethodName)) ∈ lw_tbl := lw_at lw_m13 125 rfl
theorem q3108 : (Jvm.Cond.instanceMethod ({ cls := "MissingMiddlesModel", name := "sign", desc := "(CC)I" } : Jvm.MethodName)) ∈ lw_all := lw_g (lw_at lw_m13 126 rfl) rfl
theorem q3109 : (Jvm.Cond.code ({ cls := "MissingMiddlesModel", name := "sign", desc := "(CC)I" } : Jvm.MethodName) prog_14_method_86_code (3 : Nat) (Option.some Jvm.ClassFile.FieldType.int)) ∈ lw_all := lw_g (lw_at lw_m13 127 rfl) rfl
theorem q3110 : (Jvm.Cond.methodLink "MissingMiddlesModel" (257 : Nat) ({ cls := "MissingMiddlesModel", name := "isHere", desc := "(CC)Z" } : Jvm.MethodName)) ∈ lw_all := lw_g (lw_at lw_m13 128 rfl) rfl
theorem q3111 : (Jvm.Cond.privateMethod ({ cls := "MissingMiddlesModel", name := "isHere", desc := "(CC)Z" } : Jvm.MethodName)) ∈ lw_tbl := lw_at lw_m13 129 rfl
theorem q3112 : (Jvm.Cond.instanceMethod ({ cls := "MissingMiddlesModel", name := "isHere", desc := "(CC)Z" } : Jvm.MethodName)) ∈ lw_all := lw_g (lw_at lw_m13 130 rfl) rfl
theorem q3113 : (Jvm.Cond.code ({ cls := "MissingMiddlesModel", name := "isHere", desc := "(CC)Z" } : Jvm.MethodName) prog_14_method_85_code (3 : Nat) (Option.some Jvm.ClassFile.FieldType.boolean)) ∈ lw_all := lw_g (lw_at lw_m13 131 rfl) rfl
theorem q3114 : (Jvm.Cond.methodLink "MissingMiddlesModel" (278 : Nat) ({ cls := "MissingMiddlesModel", name := "middle", desc := "(I)V" } : Jvm.MethodName)) ∈ lw_all := lw_g (lw_at lw_m13 132 rfl) rfl
theorem q3115 : (Jvm.Cond.privateMethod ({ cls := "MissingMiddlesModel", name := "middle", desc := "(I)V" } : Jvm.MethodName)) ∈ lw_tbl := lw_at lw_m13 133 rfl
theorem q3116 : (Jvm.Cond.instanceMethod ({ cls := "MissingMiddlesModel", name := "middle", desc := "(I)V" } : Jvm.MethodName)) ∈ lw_all := lw_g (lw_at lw_m13 134 rfl) rfl
theorem q3117 : (Jvm.Cond.code ({ cls := "MissingMiddlesModel", name := "middle", desc := "(I)V" } : Jvm.MethodName) prog_14_method_89_code (3 : Nat) (Option.none : Option Jvm.ClassFile.FieldType)) ∈ lw_all := lw_g (lw_at lw_m13 135 rfl) rfl
theorem q3118 : (Jvm.Cond.methodLink "MissingMiddlesModel" (281 : Nat) ({ cls := "MissingMiddlesModel", name := "plus", desc := "()I" } : Jvm.MethodName)) ∈ lw_all := lw_g (lw_at lw_m13 136 rfl) rfl
theorem q3119 : (Jvm.Cond.privateMethod ({ cls := "MissingMiddlesModel", name := "plus", desc := "()I" } : Jvm.MethodName)) ∈ lw_tbl := lw_at lw_m13 137 rfl
theorem q3120 : (Jvm.Cond.instanceMethod ({ cls := "MissingMiddlesModel", name := "plus", desc := "()I" } : Jvm.MethodName)) ∈ lw_all := lw_g (lw_at lw_m13 138 rfl) rfl
theorem q3121 : (Jvm.Cond.code ({ cls := "MissingMiddlesModel", name := "plus", desc := "()I" } : Jvm.MethodName) prog_14_method_88_code (3 : Nat) (Option.some Jvm.ClassFile.FieldType.int)) ∈ lw_all := lw_g (lw_at lw_m13 139 rfl) rfl
theorem q3122 : (Jvm.Cond.methodLink "MissingMiddlesModel" (287 : Nat) ({ cls := "MissingMiddlesModel", name := "does", desc := "(I)V" } : Jvm.MethodName)) ∈ lw_all := lw_g (lw_at lw_m13 140 rfl) rfl
theorem q3123 : (Jvm.Cond.privateMethod ({ cls := "MissingMiddlesModel", name := "does", desc := "(I)V" } : Jvm.MethodName)) ∈ lw_tbl := lw_at lw_m13 141 rfl
theorem q3124 : (Jvm.Cond.instanceMethod ({ cls := "MissingMiddlesModel", name := "does", desc := "(I)V" } : Jvm.MethodName)) ∈ lw_all := lw_g (lw_at lw_m13 142 rfl) rfl
theorem q3125 : (Jvm.Cond.code ({ cls := "MissingMiddlesModel", name := "does", desc := "(I)V" } : Jvm.MethodName) prog_14_method_91_code (5 : Nat) (Option.none : Option Jvm.ClassFile.FieldType)) ∈ lw_all := lw_g (lw_at lw_m13 143 rfl) rfl
theorem q3127 : (Jvm.Cond.instanceMethod ({ cls := "MissingMiddlesModel", name := "errorPosition", desc := "()I" } : Jvm.MethodName)) ∈ lw_all := lw_g (lw_at lw_m13 145 rfl) rfl
theorem q3128 : (Jvm.Cond.selects "MissingMiddlesModel" ({ cls := "MissingMiddlesModel", name := "errorPosition", desc := "()I" } : Jvm.MethodName) ({ cls := "MissingMiddlesModel", name := "errorPosition", desc := "()I" } : Jvm.MethodName)) ∈ lw_all := lw_g (lw_at lw_m13 146 rfl) rfl
theorem q3129 : (Jvm.Cond.code ({ cls := "MissingMiddlesModel", name := "errorPosition", desc := "()I" } : Jvm.MethodName) prog_14_method_93_code (1 : Nat) (Option.some Jvm.ClassFile.FieldType.int)) ∈ lw_all := lw_g (lw_at lw_m13 147 rfl) rfl
theorem q3131 : (Jvm.Cond.instanceMethod ({ cls := "MissingMiddlesModel", name := "refusedItem", desc := "()I" } : Jvm.MethodName)) ∈ lw_all := lw_g (lw_at lw_m13 149 rfl) rfl
theorem q3132 : (Jvm.Cond.selects "MissingMiddlesModel" ({ cls := "MissingMiddlesModel", name := "refusedItem", desc := "()I" } : Jvm.MethodName) ({ cls := "MissingMiddlesModel", name := "refusedItem", desc := "()I" } : Jvm.MethodName)) ∈ lw_all := lw_g (lw_at lw_m13 150 rfl) rfl
theorem q3133 : (Jvm.Cond.code ({ cls := "MissingMiddlesModel", name := "refusedItem", desc := "()I" } : Jvm.MethodName) prog_14_method_94_code (1 : Nat) (Option.some Jvm.ClassFile.FieldType.int)) ∈ lw_all := lw_g (lw_at lw_m13 151 rfl) rfl
theorem q3135 : (Jvm.Cond.instanceMethod ({ cls := "MissingMiddlesModel", name := "undo", desc := "()I" } : Jvm.MethodName)) ∈ lw_all := lw_g (lw_at lw_m13 153 rfl) rfl
theorem q3136 : (Jvm.Cond.selects "MissingMiddlesModel" ({ cls := "MissingMiddlesModel", name := "undo", desc := "()I" } : Jvm.MethodName) ({ cls := "MissingMiddlesModel", name := "undo", desc := "()I" } : Jvm.MethodName)) ∈ lw_all := lw_g (lw_at lw_m13 154 rfl) rfl
theorem q3137 : (Jvm.Cond.code ({ cls := "MissingMiddlesModel", name := "undo", desc := "()I" } : Jvm.MethodName) prog_14_method_95_code (1 : Nat) (Option.some Jvm.ClassFile.FieldType.int)) ∈ lw_all := lw_g (lw_at lw_m13 155 rfl) rfl
theorem q3139 : (Jvm.Cond.instanceMethod ({ cls := "MissingMiddlesModel", name := "snapshot", desc := "()I" } : Jvm.MethodName)) ∈ lw_all := lw_g (lw_at lw_m13 157 rfl) rfl
theorem q3140 : (Jvm.Cond.selects "MissingMiddlesModel" ({ cls := "MissingMiddlesModel", name := "snapshot", desc := "()I" } : Jvm.MethodName) ({ cls := "MissingMiddlesModel", name := "snapshot", desc := "()I" } : Jvm.MethodName)) ∈ lw_all := lw_g (lw_at lw_m13 158 rfl) rfl
theorem q3141 : (Jvm.Cond.code ({ cls := "MissingMiddlesModel", name := "snapshot", desc := "()I" } : Jvm.MethodName) prog_14_method_96_code (1 : Nat) (Option.some Jvm.ClassFile.FieldType.int)) ∈ lw_all := lw_g (lw_at lw_m13 159 rfl) rfl
theorem q3143 : (Jvm.Cond.instanceMethod ({ cls := "MissingMiddlesModel", name := "restore", desc := "()I" } : Jvm.MethodName)) ∈ lw_all := lw_g (lw_at lw_m13 161 rfl) rfl
theorem q3144 : (Jvm.Cond.selects "MissingMiddlesModel" ({ cls := "MissingMiddlesModel", name := "restore", desc := "()I" } : Jvm.MethodName) ({ cls := "MissingMiddlesModel", name := "restore", desc := "()I" } : Jvm.MethodName)) ∈ lw_all := lw_g (lw_at lw_m13 162 rfl) rfl
theorem q3145 : (Jvm.Cond.code ({ cls := "MissingMiddlesModel", name := "restore", desc := "()I" } : Jvm.MethodName) prog_14_method_97_code (1 : Nat) (Option.some Jvm.ClassFile.FieldType.int)) ∈ lw_all := lw_g (lw_at lw_m13 163 rfl) rfl
theorem q3176 : (Jvm.Cond.castable "MissingMiddlesModel" "java/lang/Object") ∈ lw_tbl := lw_at lw_m13 194 rfl
theorem in_X4 : ∀ w ∈ wsX40, w ∈ lw_all := lw_in wsX40 [2671, 2673, 2675, 2677, 2679, 2681, 2683, 2685, 2687, 2689, 2691, 2693, 2695, 2697, 2699, 2701, 2703, 2705, 2707, 2709, 2711, 2713] (by decide +kernel) (by decide +kernel)
