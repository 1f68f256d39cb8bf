/-! java/lang/StringUTF16 -/
set_option maxRecDepth 100000
def RJ12 : String := "java/lang/StringUTF16"
abbrev cJ12_newBytesFor : ByteArray := prog_38_method_2_code
def yJ12_newBytesFor : MethodName := ⟨RJ12, "newBytesFor", "(I)[B"⟩
def dkwJ12_newBytesFor_0 : List UInt8 := [26, 184, 0, 11, 188, 8, 176]
abbrev dktJ12_newBytesFor_0 : List UInt8 := dkwJ12_newBytesFor_0 ++ []
theorem dksJ12_newBytesFor_0 : cJ12_newBytesFor.data.toList.drop 0 = dktJ12_newBytesFor_0 := by decide +kernel
theorem dJ12_newBytesFor_0 : decode cJ12_newBytesFor 0 = .ok (.iload_n 0, 1) := dk_26 (dk_at dksJ12_newBytesFor_0 0 rfl rfl)
theorem dJ12_newBytesFor_1 : decode cJ12_newBytesFor 1 = .ok (.invokestatic 11, 3) := dk_184 0 11 (dk_at dksJ12_newBytesFor_0 1 rfl rfl)
theorem dJ12_newBytesFor_4 : decode cJ12_newBytesFor 4 = .ok (.newarray .byte, 2) := dk_188_8 (dk_at dksJ12_newBytesFor_0 4 rfl rfl)
theorem dJ12_newBytesFor_6 : decode cJ12_newBytesFor 6 = .ok (.areturn, 1) := dk_176 (dk_at dksJ12_newBytesFor_0 6 rfl rfl)
abbrev cJ12_newBytesLength : ByteArray := prog_38_method_3_code
def yJ12_newBytesLength : MethodName := ⟨RJ12, "newBytesLength", "(I)I"⟩
def dkwJ12_newBytesLength_2 : List UInt8 := [182, 0, 32, 182, 0, 37, 183, 0, 41, 191, 26, 4, 120, 172]
abbrev dktJ12_newBytesLength_2 : List UInt8 := dkwJ12_newBytesLength_2 ++ []
def dkwJ12_newBytesLength_1 : List UInt8 := [187, 0, 23, 89, 183, 0, 25, 18, 26, 182, 0, 28, 26, 182, 0, 32, 18, 35, 182, 0, 28, 18, 20]
abbrev dktJ12_newBytesLength_1 : List UInt8 := dkwJ12_newBytesLength_1 ++ dktJ12_newBytesLength_2
def dkwJ12_newBytesLength_0 : List UInt8 := [26, 156, 0, 11, 187, 0, 17, 89, 183, 0, 19, 191, 26, 18, 20, 161, 0, 40, 187, 0, 21, 89]
abbrev dktJ12_newBytesLength_0 : List UInt8 := dkwJ12_newBytesLength_0 ++ dktJ12_newBytesLength_1
theorem dksJ12_newBytesLength_0 : cJ12_newBytesLength.data.toList.drop 0 = dktJ12_newBytesLength_0 := by decide +kernel
theorem dksJ12_newBytesLength_1 : cJ12_newBytesLength.data.toList.drop 22 = dktJ12_newBytesLength_1 := dk_seg dksJ12_newBytesLength_0 22 rfl rfl
theorem dksJ12_newBytesLength_2 : cJ12_newBytesLength.data.toList.drop 45 = dktJ12_newBytesLength_2 := dk_seg dksJ12_newBytesLength_1 23 rfl rfl
theorem dJ12_newBytesLength_0 : decode cJ12_newBytesLength 0 = .ok (.iload_n 0, 1) := dk_26 (dk_at dksJ12_newBytesLength_0 0 rfl rfl)
theorem dJ12_newBytesLength_1 : decode cJ12_newBytesLength 1 = .ok (.ifCond .ge 11, 3) := dk_156 0 11 (dk_at dksJ12_newBytesLength_0 1 rfl rfl)
theorem dJ12_newBytesLength_4 : decode cJ12_newBytesLength 4 = .ok (.new 17, 3) := dk_187 0 17 (dk_at dksJ12_newBytesLength_0 4 rfl rfl)
theorem dJ12_newBytesLength_7 : decode cJ12_newBytesLength 7 = .ok (.dup, 1) := dk_89 (dk_at dksJ12_newBytesLength_0 7 rfl rfl)
theorem dJ12_newBytesLength_8 : decode cJ12_newBytesLength 8 = .ok (.invokespecial 19, 3) := dk_183 0 19 (dk_at dksJ12_newBytesLength_0 8 rfl rfl)
theorem dJ12_newBytesLength_11 : decode cJ12_newBytesLength 11 = .ok (.athrow, 1) := dk_191 (dk_at dksJ12_newBytesLength_0 11 rfl rfl)
theorem dJ12_newBytesLength_12 : decode cJ12_newBytesLength 12 = .ok (.iload_n 0, 1) := dk_26 (dk_at dksJ12_newBytesLength_0 12 rfl rfl)
theorem dJ12_newBytesLength_13 : decode cJ12_newBytesLength 13 = .ok (.ldc 20, 2) := dk_18 20 (dk_at dksJ12_newBytesLength_0 13 rfl rfl)
theorem dJ12_newBytesLength_15 : decode cJ12_newBytesLength 15 = .ok (.if_icmp .lt 40, 3) := dk_161 0 40 (dk_at dksJ12_newBytesLength_0 15 rfl rfl)
theorem dJ12_newBytesLength_18 : decode cJ12_newBytesLength 18 = .ok (.new 21, 3) := dk_187 0 21 (dk_at dksJ12_newBytesLength_0 18 rfl rfl)
theorem dJ12_newBytesLength_21 : decode cJ12_newBytesLength 21 = .ok (.dup, 1) := dk_89 (dk_at dksJ12_newBytesLength_0 21 rfl rfl)
theorem dJ12_newBytesLength_22 : decode cJ12_newBytesLength 22 = .ok (.new 23, 3) := dk_187 0 23 (dk_at dksJ12_newBytesLength_1 0 rfl rfl)
theorem dJ12_newBytesLength_25 : decode cJ12_newBytesLength 25 = .ok (.dup, 1) := dk_89 (dk_at dksJ12_newBytesLength_1 3 rfl rfl)
theorem dJ12_newBytesLength_26 : decode cJ12_newBytesLength 26 = .ok (.invokespecial 25, 3) := dk_183 0 25 (dk_at dksJ12_newBytesLength_1 4 rfl rfl)
theorem dJ12_newBytesLength_29 : decode cJ12_newBytesLength 29 = .ok (.ldc 26, 2) := dk_18 26 (dk_at dksJ12_newBytesLength_1 7 rfl rfl)
theorem dJ12_newBytesLength_31 : decode cJ12_newBytesLength 31 = .ok (.invokevirtual 28, 3) := dk_182 0 28 (dk_at dksJ12_newBytesLength_1 9 rfl rfl)
theorem dJ12_newBytesLength_34 : decode cJ12_newBytesLength 34 = .ok (.iload_n 0, 1) := dk_26 (dk_at dksJ12_newBytesLength_1 12 rfl rfl)
theorem dJ12_newBytesLength_35 : decode cJ12_newBytesLength 35 = .ok (.invokevirtual 32, 3) := dk_182 0 32 (dk_at dksJ12_newBytesLength_1 13 rfl rfl)
theorem dJ12_newBytesLength_38 : decode cJ12_newBytesLength 38 = .ok (.ldc 35, 2) := dk_18 35 (dk_at dksJ12_newBytesLength_1 16 rfl rfl)
theorem dJ12_newBytesLength_40 : decode cJ12_newBytesLength 40 = .ok (.invokevirtual 28, 3) := dk_182 0 28 (dk_at dksJ12_newBytesLength_1 18 rfl rfl)
theorem dJ12_newBytesLength_43 : decode cJ12_newBytesLength 43 = .ok (.ldc 20, 2) := dk_18 20 (dk_at dksJ12_newBytesLength_1 21 rfl rfl)
theorem dJ12_newBytesLength_45 : decode cJ12_newBytesLength 45 = .ok (.invokevirtual 32, 3) := dk_182 0 32 (dk_at dksJ12_newBytesLength_2 0 rfl rfl)
theorem dJ12_newBytesLength_48 : decode cJ12_newBytesLength 48 = .ok (.invokevirtual 37, 3) := dk_182 0 37 (dk_at dksJ12_newBytesLength_2 3 rfl rfl)
theorem dJ12_newBytesLength_51 : decode cJ12_newBytesLength 51 = .ok (.invokespecial 41, 3) := dk_183 0 41 (dk_at dksJ12_newBytesLength_2 6 rfl rfl)
theorem dJ12_newBytesLength_54 : decode cJ12_newBytesLength 54 = .ok (.athrow, 1) := dk_191 (dk_at dksJ12_newBytesLength_2 9 rfl rfl)
theorem dJ12_newBytesLength_55 : decode cJ12_newBytesLength 55 = .ok (.iload_n 0, 1) := dk_26 (dk_at dksJ12_newBytesLength_2 10 rfl rfl)
theorem dJ12_newBytesLength_56 : decode cJ12_newBytesLength 56 = .ok (.iconst 1, 1) := dk_4 (dk_at dksJ12_newBytesLength_2 11 rfl rfl)
theorem dJ12_newBytesLength_57 : decode cJ12_newBytesLength 57 = .ok (.ishl, 1) := dk_120 (dk_at dksJ12_newBytesLength_2 12 rfl rfl)
theorem dJ12_newBytesLength_58 : decode cJ12_newBytesLength 58 = .ok (.ireturn, 1) := dk_172 (dk_at dksJ12_newBytesLength_2 13 rfl rfl)
abbrev cJ12_putCharsAt : ByteArray := prog_38_method_81_code
def yJ12_putCharsAt : MethodName := ⟨RJ12, "putCharsAt", "([BICCCC)I"⟩
def dkwJ12_putCharsAt_3 : List UInt8 := [21, 6, 172]
abbrev dktJ12_putCharsAt_3 : List UInt8 := dkwJ12_putCharsAt_3 ++ []
def dkwJ12_putCharsAt_2 : List UInt8 := [184, 0, 111, 178, 0, 44, 154, 0, 17, 27, 21, 6, 159, 0, 11, 187, 0, 52, 89, 183, 0, 66, 191]
abbrev dktJ12_putCharsAt_2 : List UInt8 := dkwJ12_putCharsAt_2 ++ dktJ12_putCharsAt_3
def dkwJ12_putCharsAt_1 : List UInt8 := [132, 1, 1, 29, 184, 0, 111, 42, 27, 132, 1, 1, 21, 4, 184, 0, 111, 42, 27, 132, 1, 1, 21, 5]
abbrev dktJ12_putCharsAt_1 : List UInt8 := dkwJ12_putCharsAt_1 ++ dktJ12_putCharsAt_2
def dkwJ12_putCharsAt_0 : List UInt8 := [27, 7, 96, 54, 6, 27, 21, 6, 42, 184, 0, 96, 42, 27, 132, 1, 1, 28, 184, 0, 111, 42, 27]
abbrev dktJ12_putCharsAt_0 : List UInt8 := dkwJ12_putCharsAt_0 ++ dktJ12_putCharsAt_1
theorem dksJ12_putCharsAt_0 : cJ12_putCharsAt.data.toList.drop 0 = dktJ12_putCharsAt_0 := by decide +kernel
theorem dksJ12_putCharsAt_1 : cJ12_putCharsAt.data.toList.drop 23 = dktJ12_putCharsAt_1 := dk_seg dksJ12_putCharsAt_0 23 rfl rfl
theorem dksJ12_putCharsAt_2 : cJ12_putCharsAt.data.toList.drop 47 = dktJ12_putCharsAt_2 := dk_seg dksJ12_putCharsAt_1 24 rfl rfl
theorem dksJ12_putCharsAt_3 : cJ12_putCharsAt.data.toList.drop 70 = dktJ12_putCharsAt_3 := dk_seg dksJ12_putCharsAt_2 23 rfl rfl
theorem dJ12_putCharsAt_0 : decode cJ12_putCharsAt 0 = .ok (.iload_n 1, 1) := dk_27 (dk_at dksJ12_putCharsAt_0 0 rfl rfl)
theorem dJ12_putCharsAt_1 : decode cJ12_putCharsAt 1 = .ok (.iconst 4, 1) := dk_7 (dk_at dksJ12_putCharsAt_0 1 rfl rfl)
theorem dJ12_putCharsAt_2 : decode cJ12_putCharsAt 2 = .ok (.iadd, 1) := dk_96 (dk_at dksJ12_putCharsAt_0 2 rfl rfl)
theorem dJ12_putCharsAt_3 : decode cJ12_putCharsAt 3 = .ok (.istore 6, 2) := dk_54 6 (dk_at dksJ12_putCharsAt_0 3 rfl rfl)
theorem dJ12_putCharsAt_5 : decode cJ12_putCharsAt 5 = .ok (.iload_n 1, 1) := dk_27 (dk_at dksJ12_putCharsAt_0 5 rfl rfl)
theorem dJ12_putCharsAt_6 : decode cJ12_putCharsAt 6 = .ok (.iload 6, 2) := dk_21 6 (dk_at dksJ12_putCharsAt_0 6 rfl rfl)
theorem dJ12_putCharsAt_8 : decode cJ12_putCharsAt 8 = .ok (.aload_n 0, 1) := dk_42 (dk_at dksJ12_putCharsAt_0 8 rfl rfl)
theorem dJ12_putCharsAt_9 : decode cJ12_putCharsAt 9 = .ok (.invokestatic 96, 3) := dk_184 0 96 (dk_at dksJ12_putCharsAt_0 9 rfl rfl)
theorem dJ12_putCharsAt_12 : decode cJ12_putCharsAt 12 = .ok (.aload_n 0, 1) := dk_42 (dk_at dksJ12_putCharsAt_0 12 rfl rfl)
theorem dJ12_putCharsAt_13 : decode cJ12_putCharsAt 13 = .ok (.iload_n 1, 1) := dk_27 (dk_at dksJ12_putCharsAt_0 13 rfl rfl)
theorem dJ12_putCharsAt_14 : decode cJ12_putCharsAt 14 = .ok (.iinc 1 1, 3) := dk_132 1 1 (dk_at dksJ12_putCharsAt_0 14 rfl rfl)
theorem dJ12_putCharsAt_17 : decode cJ12_putCharsAt 17 = .ok (.iload_n 2, 1) := dk_28 (dk_at dksJ12_putCharsAt_0 17 rfl rfl)
theorem dJ12_putCharsAt_18 : decode cJ12_putCharsAt 18 = .ok (.invokestatic 111, 3) := dk_184 0 111 (dk_at dksJ12_putCharsAt_0 18 rfl rfl)
theorem dJ12_putCharsAt_21 : decode cJ12_putCharsAt 21 = .ok (.aload_n 0, 1) := dk_42 (dk_at dksJ12_putCharsAt_0 21 rfl rfl)
theorem dJ12_putCharsAt_22 : decode cJ12_putCharsAt 22 = .ok (.iload_n 1, 1) := dk_27 (dk_at dksJ12_putCharsAt_0 22 rfl rfl)
theorem dJ12_putCharsAt_23 : decode cJ12_putCharsAt 23 = .ok (.iinc 1 1, 3) := dk_132 1 1 (dk_at dksJ12_putCharsAt_1 0 rfl rfl)
theorem dJ12_putCharsAt_26 : decode cJ12_putCharsAt 26 = .ok (.iload_n 3, 1) := dk_29 (dk_at dksJ12_putCharsAt_1 3 rfl rfl)
theorem dJ12_putCharsAt_27 : decode cJ12_putCharsAt 27 = .ok (.invokestatic 111, 3) := dk_184 0 111 (dk_at dksJ12_putCharsAt_1 4 rfl rfl)
theorem dJ12_putCharsAt_30 : decode cJ12_putCharsAt 30 = .ok (.aload_n 0, 1) := dk_42 (dk_at dksJ12_putCharsAt_1 7 rfl rfl)
theorem dJ12_putCharsAt_31 : decode cJ12_putCharsAt 31 = .ok (.iload_n 1, 1) := dk_27 (dk_at dksJ12_putCharsAt_1 8 rfl rfl)
theorem dJ12_putCharsAt_32 : decode cJ12_putCharsAt 32 = .ok (.iinc 1 1, 3) := dk_132 1 1 (dk_at dksJ12_putCharsAt_1 9 rfl rfl)
theorem dJ12_putCharsAt_35 : decode cJ12_putCharsAt 35 = .ok (.iload 4, 2) := dk_21 4 (dk_at dksJ12_putCharsAt_1 12 rfl rfl)
theorem dJ12_putCharsAt_37 : decode cJ12_putCharsAt 37 = .ok (.invokestatic 111, 3) := dk_184 0 111 (dk_at dksJ12_putCharsAt_1 14 rfl rfl)
theorem dJ12_putCharsAt_40 : decode cJ12_putCharsAt 40 = .ok (.aload_n 0, 1) := dk_42 (dk_at dksJ12_putCharsAt_1 17 rfl rfl)
theorem dJ12_putCharsAt_41 : decode cJ12_putCharsAt 41 = .ok (.iload_n 1, 1) := dk_27 (dk_at dksJ12_putCharsAt_1 18 rfl rfl)
theorem dJ12_putCharsAt_42 : decode cJ12_putCharsAt 42 = .ok (.iinc 1 1, 3) := dk_132 1 1 (dk_at dksJ12_putCharsAt_1 19 rfl rfl)
theorem dJ12_putCharsAt_45 : decode cJ12_putCharsAt 45 = .ok (.iload 5, 2) := dk_21 5 (dk_at dksJ12_putCharsAt_1 22 rfl rfl)
theorem dJ12_putCharsAt_47 : decode cJ12_putCharsAt 47 = .ok (.invokestatic 111, 3) := dk_184 0 111 (dk_at dksJ12_putCharsAt_2 0 rfl rfl)
theorem dJ12_putCharsAt_50 : decode cJ12_putCharsAt 50 = .ok (.getstatic 44, 3) := dk_178 0 44 (dk_at dksJ12_putCharsAt_2 3 rfl rfl)
theorem dJ12_putCharsAt_53 : decode cJ12_putCharsAt 53 = .ok (.ifCond .ne 17, 3) := dk_154 0 17 (dk_at dksJ12_putCharsAt_2 6 rfl rfl)
theorem dJ12_putCharsAt_56 : decode cJ12_putCharsAt 56 = .ok (.iload_n 1, 1) := dk_27 (dk_at dksJ12_putCharsAt_2 9 rfl rfl)
theorem dJ12_putCharsAt_57 : decode cJ12_putCharsAt 57 = .ok (.iload 6, 2) := dk_21 6 (dk_at dksJ12_putCharsAt_2 10 rfl rfl)
theorem dJ12_putCharsAt_59 : decode cJ12_putCharsAt 59 = .ok (.if_icmp .eq 11, 3) := dk_159 0 11 (dk_at dksJ12_putCharsAt_2 12 rfl rfl)
theorem dJ12_putCharsAt_62 : decode cJ12_putCharsAt 62 = .ok (.new 52, 3) := dk_187 0 52 (dk_at dksJ12_putCharsAt_2 15 rfl rfl)
theorem dJ12_putCharsAt_65 : decode cJ12_putCharsAt 65 = .ok (.dup, 1) := dk_89 (dk_at dksJ12_putCharsAt_2 18 rfl rfl)
theorem dJ12_putCharsAt_66 : decode cJ12_putCharsAt 66 = .ok (.invokespecial 66, 3) := dk_183 0 66 (dk_at dksJ12_putCharsAt_2 19 rfl rfl)
theorem dJ12_putCharsAt_69 : decode cJ12_putCharsAt 69 = .ok (.athrow, 1) := dk_191 (dk_at dksJ12_putCharsAt_2 22 rfl rfl)
theorem dJ12_putCharsAt_70 : decode cJ12_putCharsAt 70 = .ok (.iload 6, 2) := dk_21 6 (dk_at dksJ12_putCharsAt_3 0 rfl rfl)
theorem dJ12_putCharsAt_72 : decode cJ12_putCharsAt 72 = .ok (.ireturn, 1) := dk_172 (dk_at dksJ12_putCharsAt_3 2 rfl rfl)
abbrev cJ12_checkBoundsBeginEnd : ByteArray := prog_38_method_93_code
def yJ12_checkBoundsBeginEnd : MethodName := ⟨RJ12, "checkBoundsBeginEnd", "(II[B)V"⟩
def dkwJ12_checkBoundsBeginEnd_0 : List UInt8 := [26, 27, 44, 184, 0, 48, 184, 0, 241, 177]
abbrev dktJ12_checkBoundsBeginEnd_0 : List UInt8 := dkwJ12_checkBoundsBeginEnd_0 ++ []
theorem dksJ12_checkBoundsBeginEnd_0 : cJ12_checkBoundsBeginEnd.data.toList.drop 0 = dktJ12_checkBoundsBeginEnd_0 := by decide +kernel
theorem dJ12_checkBoundsBeginEnd_0 : decode cJ12_checkBoundsBeginEnd 0 = .ok (.iload_n 0, 1) := dk_26 (dk_at dksJ12_checkBoundsBeginEnd_0 0 rfl rfl)
theorem dJ12_checkBoundsBeginEnd_1 : decode cJ12_checkBoundsBeginEnd 1 = .ok (.iload_n 1, 1) := dk_27 (dk_at dksJ12_checkBoundsBeginEnd_0 1 rfl rfl)
theorem dJ12_checkBoundsBeginEnd_2 : decode cJ12_checkBoundsBeginEnd 2 = .ok (.aload_n 2, 1) := dk_44 (dk_at dksJ12_checkBoundsBeginEnd_0 2 rfl rfl)
theorem dJ12_checkBoundsBeginEnd_3 : decode cJ12_checkBoundsBeginEnd 3 = .ok (.invokestatic 48, 3) := dk_184 0 48 (dk_at dksJ12_checkBoundsBeginEnd_0 3 rfl rfl)
theorem dJ12_checkBoundsBeginEnd_6 : decode cJ12_checkBoundsBeginEnd 6 = .ok (.invokestatic 241, 3) := dk_184 0 241 (dk_at dksJ12_checkBoundsBeginEnd_0 6 rfl rfl)
theorem dJ12_checkBoundsBeginEnd_9 : decode cJ12_checkBoundsBeginEnd 9 = .ok (.return_, 1) := dk_177 (dk_at dksJ12_checkBoundsBeginEnd_0 9 rfl rfl)
abbrev cJ12_length : ByteArray := prog_38_method_6_code
def yJ12_length : MethodName := ⟨RJ12, "length", "([B)I"⟩
def dkwJ12_length_0 : List UInt8 := [42, 190, 4, 122, 172]
abbrev dktJ12_length_0 : List UInt8 := dkwJ12_length_0 ++ []
theorem dksJ12_length_0 : cJ12_length.data.toList.drop 0 = dktJ12_length_0 := by decide +kernel
theorem dJ12_length_0 : decode cJ12_length 0 = .ok (.aload_n 0, 1) := dk_42 (dk_at dksJ12_length_0 0 rfl rfl)
theorem dJ12_length_1 : decode cJ12_length 1 = .ok (.arraylength, 1) := dk_190 (dk_at dksJ12_length_0 1 rfl rfl)
theorem dJ12_length_2 : decode cJ12_length 2 = .ok (.iconst 1, 1) := dk_4 (dk_at dksJ12_length_0 2 rfl rfl)
theorem dJ12_length_3 : decode cJ12_length 3 = .ok (.ishr, 1) := dk_122 (dk_at dksJ12_length_0 3 rfl rfl)
theorem dJ12_length_4 : decode cJ12_length 4 = .ok (.ireturn, 1) := dk_172 (dk_at dksJ12_length_0 4 rfl rfl)
abbrev cJ12_putChar : ByteArray := prog_38_method_4_code
def yJ12_putChar : MethodName := ⟨RJ12, "putChar", "([BII)V"⟩
def dkwJ12_putChar_2 : List UInt8 := [178, 0, 63, 122, 145, 84, 177]
abbrev dktJ12_putChar_2 : List UInt8 := dkwJ12_putChar_2 ++ []
def dkwJ12_putChar_1 : List UInt8 := [183, 0, 56, 191, 27, 4, 120, 60, 42, 27, 132, 1, 1, 28, 178, 0, 59, 122, 145, 84, 42, 27, 28]
abbrev dktJ12_putChar_1 : List UInt8 := dkwJ12_putChar_1 ++ dktJ12_putChar_2
def dkwJ12_putChar_0 : List UInt8 := [178, 0, 44, 154, 0, 25, 27, 155, 0, 11, 27, 42, 184, 0, 48, 161, 0, 13, 187, 0, 52, 89, 18, 54]
abbrev dktJ12_putChar_0 : List UInt8 := dkwJ12_putChar_0 ++ dktJ12_putChar_1
theorem dksJ12_putChar_0 : cJ12_putChar.data.toList.drop 0 = dktJ12_putChar_0 := by decide +kernel
theorem dksJ12_putChar_1 : cJ12_putChar.data.toList.drop 24 = dktJ12_putChar_1 := dk_seg dksJ12_putChar_0 24 rfl rfl
theorem dksJ12_putChar_2 : cJ12_putChar.data.toList.drop 47 = dktJ12_putChar_2 := dk_seg dksJ12_putChar_1 23 rfl rfl
theorem dJ12_putChar_0 : decode cJ12_putChar 0 = .ok (.getstatic 44, 3) := dk_178 0 44 (dk_at dksJ12_putChar_0 0 rfl rfl)
theorem dJ12_putChar_3 : decode cJ12_putChar 3 = .ok (.ifCond .ne 25, 3) := dk_154 0 25 (dk_at dksJ12_putChar_0 3 rfl rfl)
theorem dJ12_putChar_6 : decode cJ12_putChar 6 = .ok (.iload_n 1, 1) := dk_27 (dk_at dksJ12_putChar_0 6 rfl rfl)
theorem dJ12_putChar_7 : decode cJ12_putChar 7 = .ok (.ifCond .lt 11, 3) := dk_155 0 11 (dk_at dksJ12_putChar_0 7 rfl rfl)
theorem dJ12_putChar_10 : decode cJ12_putChar 10 = .ok (.iload_n 1, 1) := dk_27 (dk_at dksJ12_putChar_0 10 rfl rfl)
theorem dJ12_putChar_11 : decode cJ12_putChar 11 = .ok (.aload_n 0, 1) := dk_42 (dk_at dksJ12_putChar_0 11 rfl rfl)
theorem dJ12_putChar_12 : decode cJ12_putChar 12 = .ok (.invokestatic 48, 3) := dk_184 0 48 (dk_at dksJ12_putChar_0 12 rfl rfl)
theorem dJ12_putChar_15 : decode cJ12_putChar 15 = .ok (.if_icmp .lt 13, 3) := dk_161 0 13 (dk_at dksJ12_putChar_0 15 rfl rfl)
theorem dJ12_putChar_18 : decode cJ12_putChar 18 = .ok (.new 52, 3) := dk_187 0 52 (dk_at dksJ12_putChar_0 18 rfl rfl)
theorem dJ12_putChar_21 : decode cJ12_putChar 21 = .ok (.dup, 1) := dk_89 (dk_at dksJ12_putChar_0 21 rfl rfl)
theorem dJ12_putChar_22 : decode cJ12_putChar 22 = .ok (.ldc 54, 2) := dk_18 54 (dk_at dksJ12_putChar_0 22 rfl rfl)
theorem dJ12_putChar_24 : decode cJ12_putChar 24 = .ok (.invokespecial 56, 3) := dk_183 0 56 (dk_at dksJ12_putChar_1 0 rfl rfl)
theorem dJ12_putChar_27 : decode cJ12_putChar 27 = .ok (.athrow, 1) := dk_191 (dk_at dksJ12_putChar_1 3 rfl rfl)
theorem dJ12_putChar_28 : decode cJ12_putChar 28 = .ok (.iload_n 1, 1) := dk_27 (dk_at dksJ12_putChar_1 4 rfl rfl)
theorem dJ12_putChar_29 : decode cJ12_putChar 29 = .ok (.iconst 1, 1) := dk_4 (dk_at dksJ12_putChar_1 5 rfl rfl)
theorem dJ12_putChar_30 : decode cJ12_putChar 30 = .ok (.ishl, 1) := dk_120 (dk_at dksJ12_putChar_1 6 rfl rfl)
theorem dJ12_putChar_31 : decode cJ12_putChar 31 = .ok (.istore_n 1, 1) := dk_60 (dk_at dksJ12_putChar_1 7 rfl rfl)
theorem dJ12_putChar_32 : decode cJ12_putChar 32 = .ok (.aload_n 0, 1) := dk_42 (dk_at dksJ12_putChar_1 8 rfl rfl)
theorem dJ12_putChar_33 : decode cJ12_putChar 33 = .ok (.iload_n 1, 1) := dk_27 (dk_at dksJ12_putChar_1 9 rfl rfl)
theorem dJ12_putChar_34 : decode cJ12_putChar 34 = .ok (.iinc 1 1, 3) := dk_132 1 1 (dk_at dksJ12_putChar_1 10 rfl rfl)
theorem dJ12_putChar_37 : decode cJ12_putChar 37 = .ok (.iload_n 2, 1) := dk_28 (dk_at dksJ12_putChar_1 13 rfl rfl)
theorem dJ12_putChar_38 : decode cJ12_putChar 38 = .ok (.getstatic 59, 3) := dk_178 0 59 (dk_at dksJ12_putChar_1 14 rfl rfl)
theorem dJ12_putChar_41 : decode cJ12_putChar 41 = .ok (.ishr, 1) := dk_122 (dk_at dksJ12_putChar_1 17 rfl rfl)
theorem dJ12_putChar_42 : decode cJ12_putChar 42 = .ok (.i2b, 1) := dk_145 (dk_at dksJ12_putChar_1 18 rfl rfl)
theorem dJ12_putChar_43 : decode cJ12_putChar 43 = .ok (.bastore, 1) := dk_84 (dk_at dksJ12_putChar_1 19 rfl rfl)
theorem dJ12_putChar_44 : decode cJ12_putChar 44 = .ok (.aload_n 0, 1) := dk_42 (dk_at dksJ12_putChar_1 20 rfl rfl)
theorem dJ12_putChar_45 : decode cJ12_putChar 45 = .ok (.iload_n 1, 1) := dk_27 (dk_at dksJ12_putChar_1 21 rfl rfl)
theorem dJ12_putChar_46 : decode cJ12_putChar 46 = .ok (.iload_n 2, 1) := dk_28 (dk_at dksJ12_putChar_1 22 rfl rfl)
theorem dJ12_putChar_47 : decode cJ12_putChar 47 = .ok (.getstatic 63, 3) := dk_178 0 63 (dk_at dksJ12_putChar_2 0 rfl rfl)
theorem dJ12_putChar_50 : decode cJ12_putChar 50 = .ok (.ishr, 1) := dk_122 (dk_at dksJ12_putChar_2 3 rfl rfl)
theorem dJ12_putChar_51 : decode cJ12_putChar 51 = .ok (.i2b, 1) := dk_145 (dk_at dksJ12_putChar_2 4 rfl rfl)
theorem dJ12_putChar_52 : decode cJ12_putChar 52 = .ok (.bastore, 1) := dk_84 (dk_at dksJ12_putChar_2 5 rfl rfl)
theorem dJ12_putChar_53 : decode cJ12_putChar 53 = .ok (.return_, 1) := dk_177 (dk_at dksJ12_putChar_2 6 rfl rfl)
abbrev cJ12_inflate : ByteArray := prog_38_method_86_code
def yJ12_inflate : MethodName := ⟨RJ12, "inflate", "([BI[BII)V"⟩
def dkwJ12_inflate_1 : List UInt8 := [132, 1, 1, 51, 17, 0, 255, 126, 184, 0, 111, 132, 5, 1, 167, 255, 228, 177]
abbrev dktJ12_inflate_1 : List UInt8 := dkwJ12_inflate_1 ++ []
def dkwJ12_inflate_0 : List UInt8 := [29, 21, 4, 44, 184, 0, 173, 3, 54, 5, 21, 5, 21, 4, 162, 0, 27, 44, 29, 132, 3, 1, 42, 27]
abbrev dktJ12_inflate_0 : List UInt8 := dkwJ12_inflate_0 ++ dktJ12_inflate_1
theorem dksJ12_inflate_0 : cJ12_inflate.data.toList.drop 0 = dktJ12_inflate_0 := by decide +kernel
theorem dksJ12_inflate_1 : cJ12_inflate.data.toList.drop 24 = dktJ12_inflate_1 := dk_seg dksJ12_inflate_0 24 rfl rfl
theorem dJ12_inflate_0 : decode cJ12_inflate 0 = .ok (.iload_n 3, 1) := dk_29 (dk_at dksJ12_inflate_0 0 rfl rfl)
theorem dJ12_inflate_1 : decode cJ12_inflate 1 = .ok (.iload 4, 2) := dk_21 4 (dk_at dksJ12_inflate_0 1 rfl rfl)
theorem dJ12_inflate_3 : decode cJ12_inflate 3 = .ok (.aload_n 2, 1) := dk_44 (dk_at dksJ12_inflate_0 3 rfl rfl)
theorem dJ12_inflate_4 : decode cJ12_inflate 4 = .ok (.invokestatic 173, 3) := dk_184 0 173 (dk_at dksJ12_inflate_0 4 rfl rfl)
theorem dJ12_inflate_7 : decode cJ12_inflate 7 = .ok (.iconst 0, 1) := dk_3 (dk_at dksJ12_inflate_0 7 rfl rfl)
theorem dJ12_inflate_8 : decode cJ12_inflate 8 = .ok (.istore 5, 2) := dk_54 5 (dk_at dksJ12_inflate_0 8 rfl rfl)
theorem dJ12_inflate_10 : decode cJ12_inflate 10 = .ok (.iload 5, 2) := dk_21 5 (dk_at dksJ12_inflate_0 10 rfl rfl)
theorem dJ12_inflate_12 : decode cJ12_inflate 12 = .ok (.iload 4, 2) := dk_21 4 (dk_at dksJ12_inflate_0 12 rfl rfl)
theorem dJ12_inflate_14 : decode cJ12_inflate 14 = .ok (.if_icmp .ge 27, 3) := dk_162 0 27 (dk_at dksJ12_inflate_0 14 rfl rfl)
theorem dJ12_inflate_17 : decode cJ12_inflate 17 = .ok (.aload_n 2, 1) := dk_44 (dk_at dksJ12_inflate_0 17 rfl rfl)
theorem dJ12_inflate_18 : decode cJ12_inflate 18 = .ok (.iload_n 3, 1) := dk_29 (dk_at dksJ12_inflate_0 18 rfl rfl)
theorem dJ12_inflate_19 : decode cJ12_inflate 19 = .ok (.iinc 3 1, 3) := dk_132 3 1 (dk_at dksJ12_inflate_0 19 rfl rfl)
theorem dJ12_inflate_22 : decode cJ12_inflate 22 = .ok (.aload_n 0, 1) := dk_42 (dk_at dksJ12_inflate_0 22 rfl rfl)
theorem dJ12_inflate_23 : decode cJ12_inflate 23 = .ok (.iload_n 1, 1) := dk_27 (dk_at dksJ12_inflate_0 23 rfl rfl)
theorem dJ12_inflate_24 : decode cJ12_inflate 24 = .ok (.iinc 1 1, 3) := dk_132 1 1 (dk_at dksJ12_inflate_1 0 rfl rfl)
theorem dJ12_inflate_27 : decode cJ12_inflate 27 = .ok (.baload, 1) := dk_51 (dk_at dksJ12_inflate_1 3 rfl rfl)
theorem dJ12_inflate_28 : decode cJ12_inflate 28 = .ok (.sipush 255, 3) := dk_17 0 255 (dk_at dksJ12_inflate_1 4 rfl rfl)
theorem dJ12_inflate_31 : decode cJ12_inflate 31 = .ok (.iand, 1) := dk_126 (dk_at dksJ12_inflate_1 7 rfl rfl)
theorem dJ12_inflate_32 : decode cJ12_inflate 32 = .ok (.invokestatic 111, 3) := dk_184 0 111 (dk_at dksJ12_inflate_1 8 rfl rfl)
theorem dJ12_inflate_35 : decode cJ12_inflate 35 = .ok (.iinc 5 1, 3) := dk_132 5 1 (dk_at dksJ12_inflate_1 11 rfl rfl)
theorem dJ12_inflate_38 : decode cJ12_inflate 38 = .ok (.goto (-28), 3) := dk_167 255 228 (dk_at dksJ12_inflate_1 14 rfl rfl)
theorem dJ12_inflate_41 : decode cJ12_inflate 41 = .ok (.return_, 1) := dk_177 (dk_at dksJ12_inflate_1 17 rfl rfl)
abbrev cJ12_checkBoundsOffCount : ByteArray := prog_38_method_94_code
def yJ12_checkBoundsOffCount : MethodName := ⟨RJ12, "checkBoundsOffCount", "(II[B)V"⟩
def dkwJ12_checkBoundsOffCount_0 : List UInt8 := [26, 27, 44, 184, 0, 48, 184, 1, 163, 87, 177]
abbrev dktJ12_checkBoundsOffCount_0 : List UInt8 := dkwJ12_checkBoundsOffCount_0 ++ []
theorem dksJ12_checkBoundsOffCount_0 : cJ12_checkBoundsOffCount.data.toList.drop 0 = dktJ12_checkBoundsOffCount_0 := by decide +kernel
theorem dJ12_checkBoundsOffCount_0 : decode cJ12_checkBoundsOffCount 0 = .ok (.iload_n 0, 1) := dk_26 (dk_at dksJ12_checkBoundsOffCount_0 0 rfl rfl)
theorem dJ12_checkBoundsOffCount_1 : decode cJ12_checkBoundsOffCount 1 = .ok (.iload_n 1, 1) := dk_27 (dk_at dksJ12_checkBoundsOffCount_0 1 rfl rfl)
theorem dJ12_checkBoundsOffCount_2 : decode cJ12_checkBoundsOffCount 2 = .ok (.aload_n 2, 1) := dk_44 (dk_at dksJ12_checkBoundsOffCount_0 2 rfl rfl)
theorem dJ12_checkBoundsOffCount_3 : decode cJ12_checkBoundsOffCount 3 = .ok (.invokestatic 48, 3) := dk_184 0 48 (dk_at dksJ12_checkBoundsOffCount_0 3 rfl rfl)
theorem dJ12_checkBoundsOffCount_6 : decode cJ12_checkBoundsOffCount 6 = .ok (.invokestatic 419, 3) := dk_184 1 163 (dk_at dksJ12_checkBoundsOffCount_0 6 rfl rfl)
theorem dJ12_checkBoundsOffCount_9 : decode cJ12_checkBoundsOffCount 9 = .ok (.pop, 1) := dk_87 (dk_at dksJ12_checkBoundsOffCount_0 9 rfl rfl)
theorem dJ12_checkBoundsOffCount_10 : decode cJ12_checkBoundsOffCount 10 = .ok (.return_, 1) := dk_177 (dk_at dksJ12_checkBoundsOffCount_0 10 rfl rfl)
abbrev cJ12_getChars : ByteArray := prog_38_method_77_code
def yJ12_getChars : MethodName := ⟨RJ12, "getChars", "(III[B)I"⟩
def dkwJ12_getChars_1 : List UInt8 := [159, 0, 11, 187, 0, 52, 89, 183, 0, 66, 191, 21, 4, 172]
abbrev dktJ12_getChars_1 : List UInt8 := dkwJ12_getChars_1 ++ []
def dkwJ12_getChars_0 : List UInt8 := [27, 28, 45, 184, 0, 96, 26, 28, 45, 184, 1, 137, 54, 4, 178, 0, 44, 154, 0, 17, 27, 21, 4]
abbrev dktJ12_getChars_0 : List UInt8 := dkwJ12_getChars_0 ++ dktJ12_getChars_1
theorem dksJ12_getChars_0 : cJ12_getChars.data.toList.drop 0 = dktJ12_getChars_0 := by decide +kernel
theorem dksJ12_getChars_1 : cJ12_getChars.data.toList.drop 23 = dktJ12_getChars_1 := dk_seg dksJ12_getChars_0 23 rfl rfl
theorem dJ12_getChars_0 : decode cJ12_getChars 0 = .ok (.iload_n 1, 1) := dk_27 (dk_at dksJ12_getChars_0 0 rfl rfl)
theorem dJ12_getChars_1 : decode cJ12_getChars 1 = .ok (.iload_n 2, 1) := dk_28 (dk_at dksJ12_getChars_0 1 rfl rfl)
theorem dJ12_getChars_2 : decode cJ12_getChars 2 = .ok (.aload_n 3, 1) := dk_45 (dk_at dksJ12_getChars_0 2 rfl rfl)
theorem dJ12_getChars_3 : decode cJ12_getChars 3 = .ok (.invokestatic 96, 3) := dk_184 0 96 (dk_at dksJ12_getChars_0 3 rfl rfl)
theorem dJ12_getChars_6 : decode cJ12_getChars 6 = .ok (.iload_n 0, 1) := dk_26 (dk_at dksJ12_getChars_0 6 rfl rfl)
theorem dJ12_getChars_7 : decode cJ12_getChars 7 = .ok (.iload_n 2, 1) := dk_28 (dk_at dksJ12_getChars_0 7 rfl rfl)
theorem dJ12_getChars_8 : decode cJ12_getChars 8 = .ok (.aload_n 3, 1) := dk_45 (dk_at dksJ12_getChars_0 8 rfl rfl)
theorem dJ12_getChars_9 : decode cJ12_getChars 9 = .ok (.invokestatic 393, 3) := dk_184 1 137 (dk_at dksJ12_getChars_0 9 rfl rfl)
theorem dJ12_getChars_12 : decode cJ12_getChars 12 = .ok (.istore 4, 2) := dk_54 4 (dk_at dksJ12_getChars_0 12 rfl rfl)
theorem dJ12_getChars_14 : decode cJ12_getChars 14 = .ok (.getstatic 44, 3) := dk_178 0 44 (dk_at dksJ12_getChars_0 14 rfl rfl)
theorem dJ12_getChars_17 : decode cJ12_getChars 17 = .ok (.ifCond .ne 17, 3) := dk_154 0 17 (dk_at dksJ12_getChars_0 17 rfl rfl)
theorem dJ12_getChars_20 : decode cJ12_getChars 20 = .ok (.iload_n 1, 1) := dk_27 (dk_at dksJ12_getChars_0 20 rfl rfl)
theorem dJ12_getChars_21 : decode cJ12_getChars 21 = .ok (.iload 4, 2) := dk_21 4 (dk_at dksJ12_getChars_0 21 rfl rfl)
theorem dJ12_getChars_23 : decode cJ12_getChars 23 = .ok (.if_icmp .eq 11, 3) := dk_159 0 11 (dk_at dksJ12_getChars_1 0 rfl rfl)
theorem dJ12_getChars_26 : decode cJ12_getChars 26 = .ok (.new 52, 3) := dk_187 0 52 (dk_at dksJ12_getChars_1 3 rfl rfl)
theorem dJ12_getChars_29 : decode cJ12_getChars 29 = .ok (.dup, 1) := dk_89 (dk_at dksJ12_getChars_1 6 rfl rfl)
theorem dJ12_getChars_30 : decode cJ12_getChars 30 = .ok (.invokespecial 66, 3) := dk_183 0 66 (dk_at dksJ12_getChars_1 7 rfl rfl)
theorem dJ12_getChars_33 : decode cJ12_getChars 33 = .ok (.athrow, 1) := dk_191 (dk_at dksJ12_getChars_1 10 rfl rfl)
theorem dJ12_getChars_34 : decode cJ12_getChars 34 = .ok (.iload 4, 2) := dk_21 4 (dk_at dksJ12_getChars_1 11 rfl rfl)
theorem dJ12_getChars_36 : decode cJ12_getChars 36 = .ok (.ireturn, 1) := dk_172 (dk_at dksJ12_getChars_1 13 rfl rfl)
abbrev cJ12_getChars_2 : ByteArray := prog_38_method_89_code
def yJ12_getChars_2 : MethodName := ⟨RJ12, "getChars", "(II[B)I"⟩
def dkwJ12_getChars_2_5 : List UInt8 := [132, 5, 255, 21, 5, 16, 45, 184, 0, 111, 21, 5, 172]
abbrev dktJ12_getChars_2_5 : List UInt8 := dkwJ12_getChars_2_5 ++ []
def dkwJ12_getChars_2_4 : List UInt8 := [162, 0, 18, 44, 132, 5, 255, 21, 5, 178, 1, 151, 26, 116, 51, 184, 0, 111, 21, 6, 153, 0, 14, 44]
abbrev dktJ12_getChars_2_4 : List UInt8 := dkwJ12_getChars_2_4 ++ dktJ12_getChars_2_5
def dkwJ12_getChars_2_3 : List UInt8 := [184, 0, 111, 167, 255, 205, 44, 132, 5, 255, 21, 5, 178, 1, 147, 26, 116, 51, 184, 0, 111, 26, 16, 247]
abbrev dktJ12_getChars_2_3 : List UInt8 := dkwJ12_getChars_2_3 ++ dktJ12_getChars_2_4
def dkwJ12_getChars_2_2 : List UInt8 := [21, 5, 178, 1, 147, 21, 4, 51, 184, 0, 111, 44, 132, 5, 255, 21, 5, 178, 1, 151, 21, 4, 51]
abbrev dktJ12_getChars_2_2 : List UInt8 := dkwJ12_getChars_2_2 ++ dktJ12_getChars_2_3
def dkwJ12_getChars_2_1 : List UInt8 := [16, 156, 163, 0, 51, 26, 16, 100, 108, 62, 29, 16, 100, 104, 26, 100, 54, 4, 29, 59, 44, 132, 5, 255]
abbrev dktJ12_getChars_2_1 : List UInt8 := dkwJ12_getChars_2_1 ++ dktJ12_getChars_2_2
def dkwJ12_getChars_2_0 : List UInt8 := [27, 54, 5, 26, 156, 0, 7, 4, 167, 0, 4, 3, 54, 6, 21, 6, 154, 0, 6, 26, 116, 59, 26]
abbrev dktJ12_getChars_2_0 : List UInt8 := dkwJ12_getChars_2_0 ++ dktJ12_getChars_2_1
theorem dksJ12_getChars_2_0 : cJ12_getChars_2.data.toList.drop 0 = dktJ12_getChars_2_0 := by decide +kernel
theorem dksJ12_getChars_2_1 : cJ12_getChars_2.data.toList.drop 23 = dktJ12_getChars_2_1 := dk_seg dksJ12_getChars_2_0 23 rfl rfl
theorem dksJ12_getChars_2_2 : cJ12_getChars_2.data.toList.drop 47 = dktJ12_getChars_2_2 := dk_seg dksJ12_getChars_2_1 24 rfl rfl
theorem dksJ12_getChars_2_3 : cJ12_getChars_2.data.toList.drop 70 = dktJ12_getChars_2_3 := dk_seg dksJ12_getChars_2_2 23 rfl rfl
theorem dksJ12_getChars_2_4 : cJ12_getChars_2.data.toList.drop 94 = dktJ12_getChars_2_4 := dk_seg dksJ12_getChars_2_3 24 rfl rfl
theorem dksJ12_getChars_2_5 : cJ12_getChars_2.data.toList.drop 118 = dktJ12_getChars_2_5 := dk_seg dksJ12_getChars_2_4 24 rfl rfl
theorem dJ12_getChars_2_0 : decode cJ12_getChars_2 0 = .ok (.iload_n 1, 1) := dk_27 (dk_at dksJ12_getChars_2_0 0 rfl rfl)
theorem dJ12_getChars_2_1 : decode cJ12_getChars_2 1 = .ok (.istore 5, 2) := dk_54 5 (dk_at dksJ12_getChars_2_0 1 rfl rfl)
theorem dJ12_getChars_2_3 : decode cJ12_getChars_2 3 = .ok (.iload_n 0, 1) := dk_26 (dk_at dksJ12_getChars_2_0 3 rfl rfl)
theorem dJ12_getChars_2_4 : decode cJ12_getChars_2 4 = .ok (.ifCond .ge 7, 3) := dk_156 0 7 (dk_at dksJ12_getChars_2_0 4 rfl rfl)
theorem dJ12_getChars_2_7 : decode cJ12_getChars_2 7 = .ok (.iconst 1, 1) := dk_4 (dk_at dksJ12_getChars_2_0 7 rfl rfl)
theorem dJ12_getChars_2_8 : decode cJ12_getChars_2 8 = .ok (.goto 4, 3) := dk_167 0 4 (dk_at dksJ12_getChars_2_0 8 rfl rfl)
theorem dJ12_getChars_2_11 : decode cJ12_getChars_2 11 = .ok (.iconst 0, 1) := dk_3 (dk_at dksJ12_getChars_2_0 11 rfl rfl)
theorem dJ12_getChars_2_12 : decode cJ12_getChars_2 12 = .ok (.istore 6, 2) := dk_54 6 (dk_at dksJ12_getChars_2_0 12 rfl rfl)
theorem dJ12_getChars_2_14 : decode cJ12_getChars_2 14 = .ok (.iload 6, 2) := dk_21 6 (dk_at dksJ12_getChars_2_0 14 rfl rfl)
theorem dJ12_getChars_2_16 : decode cJ12_getChars_2 16 = .ok (.ifCond .ne 6, 3) := dk_154 0 6 (dk_at dksJ12_getChars_2_0 16 rfl rfl)
theorem dJ12_getChars_2_19 : decode cJ12_getChars_2 19 = .ok (.iload_n 0, 1) := dk_26 (dk_at dksJ12_getChars_2_0 19 rfl rfl)
theorem dJ12_getChars_2_20 : decode cJ12_getChars_2 20 = .ok (.ineg, 1) := dk_116 (dk_at dksJ12_getChars_2_0 20 rfl rfl)
theorem dJ12_getChars_2_21 : decode cJ12_getChars_2 21 = .ok (.istore_n 0, 1) := dk_59 (dk_at dksJ12_getChars_2_0 21 rfl rfl)
theorem dJ12_getChars_2_22 : decode cJ12_getChars_2 22 = .ok (.iload_n 0, 1) := dk_26 (dk_at dksJ12_getChars_2_0 22 rfl rfl)
theorem dJ12_getChars_2_23 : decode cJ12_getChars_2 23 = .ok (.bipush (-100), 2) := dk_16 156 (dk_at dksJ12_getChars_2_1 0 rfl rfl)
theorem dJ12_getChars_2_25 : decode cJ12_getChars_2 25 = .ok (.if_icmp .gt 51, 3) := dk_163 0 51 (dk_at dksJ12_getChars_2_1 2 rfl rfl)
theorem dJ12_getChars_2_28 : decode cJ12_getChars_2 28 = .ok (.iload_n 0, 1) := dk_26 (dk_at dksJ12_getChars_2_1 5 rfl rfl)
theorem dJ12_getChars_2_29 : decode cJ12_getChars_2 29 = .ok (.bipush 100, 2) := dk_16 100 (dk_at dksJ12_getChars_2_1 6 rfl rfl)
theorem dJ12_getChars_2_31 : decode cJ12_getChars_2 31 = .ok (.idiv, 1) := dk_108 (dk_at dksJ12_getChars_2_1 8 rfl rfl)
theorem dJ12_getChars_2_32 : decode cJ12_getChars_2 32 = .ok (.istore_n 3, 1) := dk_62 (dk_at dksJ12_getChars_2_1 9 rfl rfl)
theorem dJ12_getChars_2_33 : decode cJ12_getChars_2 33 = .ok (.iload_n 3, 1) := dk_29 (dk_at dksJ12_getChars_2_1 10 rfl rfl)
theorem dJ12_getChars_2_34 : decode cJ12_getChars_2 34 = .ok (.bipush 100, 2) := dk_16 100 (dk_at dksJ12_getChars_2_1 11 rfl rfl)
theorem dJ12_getChars_2_36 : decode cJ12_getChars_2 36 = .ok (.imul, 1) := dk_104 (dk_at dksJ12_getChars_2_1 13 rfl rfl)
theorem dJ12_getChars_2_37 : decode cJ12_getChars_2 37 = .ok (.iload_n 0, 1) := dk_26 (dk_at dksJ12_getChars_2_1 14 rfl rfl)
theorem dJ12_getChars_2_38 : decode cJ12_getChars_2 38 = .ok (.isub, 1) := dk_100 (dk_at dksJ12_getChars_2_1 15 rfl rfl)
theorem dJ12_getChars_2_39 : decode cJ12_getChars_2 39 = .ok (.istore 4, 2) := dk_54 4 (dk_at dksJ12_getChars_2_1 16 rfl rfl)
theorem dJ12_getChars_2_41 : decode cJ12_getChars_2 41 = .ok (.iload_n 3, 1) := dk_29 (dk_at dksJ12_getChars_2_1 18 rfl rfl)
theorem dJ12_getChars_2_42 : decode cJ12_getChars_2 42 = .ok (.istore_n 0, 1) := dk_59 (dk_at dksJ12_getChars_2_1 19 rfl rfl)
theorem dJ12_getChars_2_43 : decode cJ12_getChars_2 43 = .ok (.aload_n 2, 1) := dk_44 (dk_at dksJ12_getChars_2_1 20 rfl rfl)
theorem dJ12_getChars_2_44 : decode cJ12_getChars_2 44 = .ok (.iinc 5 (-1), 3) := dk_132 5 255 (dk_at dksJ12_getChars_2_1 21 rfl rfl)
theorem dJ12_getChars_2_47 : decode cJ12_getChars_2 47 = .ok (.iload 5, 2) := dk_21 5 (dk_at dksJ12_getChars_2_2 0 rfl rfl)
theorem dJ12_getChars_2_49 : decode cJ12_getChars_2 49 = .ok (.getstatic 403, 3) := dk_178 1 147 (dk_at dksJ12_getChars_2_2 2 rfl rfl)
theorem dJ12_getChars_2_52 : decode cJ12_getChars_2 52 = .ok (.iload 4, 2) := dk_21 4 (dk_at dksJ12_getChars_2_2 5 rfl rfl)
theorem dJ12_getChars_2_54 : decode cJ12_getChars_2 54 = .ok (.baload, 1) := dk_51 (dk_at dksJ12_getChars_2_2 7 rfl rfl)
theorem dJ12_getChars_2_55 : decode cJ12_getChars_2 55 = .ok (.invokestatic 111, 3) := dk_184 0 111 (dk_at dksJ12_getChars_2_2 8 rfl rfl)
theorem dJ12_getChars_2_58 : decode cJ12_getChars_2 58 = .ok (.aload_n 2, 1) := dk_44 (dk_at dksJ12_getChars_2_2 11 rfl rfl)
theorem dJ12_getChars_2_59 : decode cJ12_getChars_2 59 = .ok (.iinc 5 (-1), 3) := dk_132 5 255 (dk_at dksJ12_getChars_2_2 12 rfl rfl)
theorem dJ12_getChars_2_62 : decode cJ12_getChars_2 62 = .ok (.iload 5, 2) := dk_21 5 (dk_at dksJ12_getChars_2_2 15 rfl rfl)
theorem dJ12_getChars_2_64 : decode cJ12_getChars_2 64 = .ok (.getstatic 407, 3) := dk_178 1 151 (dk_at dksJ12_getChars_2_2 17 rfl rfl)
theorem dJ12_getChars_2_67 : decode cJ12_getChars_2 67 = .ok (.iload 4, 2) := dk_21 4 (dk_at dksJ12_getChars_2_2 20 rfl rfl)
theorem dJ12_getChars_2_69 : decode cJ12_getChars_2 69 = .ok (.baload, 1) := dk_51 (dk_at dksJ12_getChars_2_2 22 rfl rfl)
theorem dJ12_getChars_2_70 : decode cJ12_getChars_2 70 = .ok (.invokestatic 111, 3) := dk_184 0 111 (dk_at dksJ12_getChars_2_3 0 rfl rfl)
theorem dJ12_getChars_2_73 : decode cJ12_getChars_2 73 = .ok (.goto (-51), 3) := dk_167 255 205 (dk_at dksJ12_getChars_2_3 3 rfl rfl)
theorem dJ12_getChars_2_76 : decode cJ12_getChars_2 76 = .ok (.aload_n 2, 1) := dk_44 (dk_at dksJ12_getChars_2_3 6 rfl rfl)
theorem dJ12_getChars_2_77 : decode cJ12_getChars_2 77 = .ok (.iinc 5 (-1), 3) := dk_132 5 255 (dk_at dksJ12_getChars_2_3 7 rfl rfl)
theorem dJ12_getChars_2_80 : decode cJ12_getChars_2 80 = .ok (.iload 5, 2) := dk_21 5 (dk_at dksJ12_getChars_2_3 10 rfl rfl)
theorem dJ12_getChars_2_82 : decode cJ12_getChars_2 82 = .ok (.getstatic 403, 3) := dk_178 1 147 (dk_at dksJ12_getChars_2_3 12 rfl rfl)
theorem dJ12_getChars_2_85 : decode cJ12_getChars_2 85 = .ok (.iload_n 0, 1) := dk_26 (dk_at dksJ12_getChars_2_3 15 rfl rfl)
theorem dJ12_getChars_2_86 : decode cJ12_getChars_2 86 = .ok (.ineg, 1) := dk_116 (dk_at dksJ12_getChars_2_3 16 rfl rfl)
theorem dJ12_getChars_2_87 : decode cJ12_getChars_2 87 = .ok (.baload, 1) := dk_51 (dk_at dksJ12_getChars_2_3 17 rfl rfl)
theorem dJ12_getChars_2_88 : decode cJ12_getChars_2 88 = .ok (.invokestatic 111, 3) := dk_184 0 111 (dk_at dksJ12_getChars_2_3 18 rfl rfl)
theorem dJ12_getChars_2_91 : decode cJ12_getChars_2 91 = .ok (.iload_n 0, 1) := dk_26 (dk_at dksJ12_getChars_2_3 21 rfl rfl)
theorem dJ12_getChars_2_92 : decode cJ12_getChars_2 92 = .ok (.bipush (-9), 2) := dk_16 247 (dk_at dksJ12_getChars_2_3 22 rfl rfl)
theorem dJ12_getChars_2_94 : decode cJ12_getChars_2 94 = .ok (.if_icmp .ge 18, 3) := dk_162 0 18 (dk_at dksJ12_getChars_2_4 0 rfl rfl)
theorem dJ12_getChars_2_97 : decode cJ12_getChars_2 97 = .ok (.aload_n 2, 1) := dk_44 (dk_at dksJ12_getChars_2_4 3 rfl rfl)
theorem dJ12_getChars_2_98 : decode cJ12_getChars_2 98 = .ok (.iinc 5 (-1), 3) := dk_132 5 255 (dk_at dksJ12_getChars_2_4 4 rfl rfl)
theorem dJ12_getChars_2_101 : decode cJ12_getChars_2 101 = .ok (.iload 5, 2) := dk_21 5 (dk_at dksJ12_getChars_2_4 7 rfl rfl)
theorem dJ12_getChars_2_103 : decode cJ12_getChars_2 103 = .ok (.getstatic 407, 3) := dk_178 1 151 (dk_at dksJ12_getChars_2_4 9 rfl rfl)
theorem dJ12_getChars_2_106 : decode cJ12_getChars_2 106 = .ok (.iload_n 0, 1) := dk_26 (dk_at dksJ12_getChars_2_4 12 rfl rfl)
theorem dJ12_getChars_2_107 : decode cJ12_getChars_2 107 = .ok (.ineg, 1) := dk_116 (dk_at dksJ12_getChars_2_4 13 rfl rfl)
theorem dJ12_getChars_2_108 : decode cJ12_getChars_2 108 = .ok (.baload, 1) := dk_51 (dk_at dksJ12_getChars_2_4 14 rfl rfl)
theorem dJ12_getChars_2_109 : decode cJ12_getChars_2 109 = .ok (.invokestatic 111, 3) := dk_184 0 111 (dk_at dksJ12_getChars_2_4 15 rfl rfl)
theorem dJ12_getChars_2_112 : decode cJ12_getChars_2 112 = .ok (.iload 6, 2) := dk_21 6 (dk_at dksJ12_getChars_2_4 18 rfl rfl)
theorem dJ12_getChars_2_114 : decode cJ12_getChars_2 114 = .ok (.ifCond .eq 14, 3) := dk_153 0 14 (dk_at dksJ12_getChars_2_4 20 rfl rfl)
theorem dJ12_getChars_2_117 : decode cJ12_getChars_2 117 = .ok (.aload_n 2, 1) := dk_44 (dk_at dksJ12_getChars_2_4 23 rfl rfl)
theorem dJ12_getChars_2_118 : decode cJ12_getChars_2 118 = .ok (.iinc 5 (-1), 3) := dk_132 5 255 (dk_at dksJ12_getChars_2_5 0 rfl rfl)
theorem dJ12_getChars_2_121 : decode cJ12_getChars_2 121 = .ok (.iload 5, 2) := dk_21 5 (dk_at dksJ12_getChars_2_5 3 rfl rfl)
theorem dJ12_getChars_2_123 : decode cJ12_getChars_2 123 = .ok (.bipush 45, 2) := dk_16 45 (dk_at dksJ12_getChars_2_5 5 rfl rfl)
theorem dJ12_getChars_2_125 : decode cJ12_getChars_2 125 = .ok (.invokestatic 111, 3) := dk_184 0 111 (dk_at dksJ12_getChars_2_5 7 rfl rfl)
theorem dJ12_getChars_2_128 : decode cJ12_getChars_2 128 = .ok (.iload 5, 2) := dk_21 5 (dk_at dksJ12_getChars_2_5 10 rfl rfl)
theorem dJ12_getChars_2_130 : decode cJ12_getChars_2 130 = .ok (.ireturn, 1) := dk_172 (dk_at dksJ12_getChars_2_5 12 rfl rfl)
abbrev cJ12_compress : ByteArray := prog_38_method_17_code
def yJ12_compress : MethodName := ⟨RJ12, "compress", "([BII)[B"⟩
def dkwJ12_compress_2 : List UInt8 := [25, 5, 3, 45, 3, 28, 184, 0, 123, 28, 159, 0, 6, 25, 5, 176, 45, 176]
abbrev dktJ12_compress_2 : List UInt8 := dkwJ12_compress_2 ++ []
def dkwJ12_compress_1 : List UInt8 := [27, 28, 96, 184, 0, 11, 184, 0, 126, 58, 5, 25, 5, 21, 4, 184, 0, 71, 17, 0, 255, 163, 0, 16]
abbrev dktJ12_compress_1 : List UInt8 := dkwJ12_compress_1 ++ dktJ12_compress_2
def dkwJ12_compress_0 : List UInt8 := [28, 188, 8, 78, 42, 27, 45, 3, 28, 184, 0, 123, 54, 4, 21, 4, 28, 159, 0, 47, 42, 27, 4, 120]
abbrev dktJ12_compress_0 : List UInt8 := dkwJ12_compress_0 ++ dktJ12_compress_1
theorem dksJ12_compress_0 : cJ12_compress.data.toList.drop 0 = dktJ12_compress_0 := by decide +kernel
theorem dksJ12_compress_1 : cJ12_compress.data.toList.drop 24 = dktJ12_compress_1 := dk_seg dksJ12_compress_0 24 rfl rfl
theorem dksJ12_compress_2 : cJ12_compress.data.toList.drop 48 = dktJ12_compress_2 := dk_seg dksJ12_compress_1 24 rfl rfl
theorem dJ12_compress_0 : decode cJ12_compress 0 = .ok (.iload_n 2, 1) := dk_28 (dk_at dksJ12_compress_0 0 rfl rfl)
theorem dJ12_compress_1 : decode cJ12_compress 1 = .ok (.newarray .byte, 2) := dk_188_8 (dk_at dksJ12_compress_0 1 rfl rfl)
theorem dJ12_compress_3 : decode cJ12_compress 3 = .ok (.astore_n 3, 1) := dk_78 (dk_at dksJ12_compress_0 3 rfl rfl)
theorem dJ12_compress_4 : decode cJ12_compress 4 = .ok (.aload_n 0, 1) := dk_42 (dk_at dksJ12_compress_0 4 rfl rfl)
theorem dJ12_compress_5 : decode cJ12_compress 5 = .ok (.iload_n 1, 1) := dk_27 (dk_at dksJ12_compress_0 5 rfl rfl)
theorem dJ12_compress_6 : decode cJ12_compress 6 = .ok (.aload_n 3, 1) := dk_45 (dk_at dksJ12_compress_0 6 rfl rfl)
theorem dJ12_compress_7 : decode cJ12_compress 7 = .ok (.iconst 0, 1) := dk_3 (dk_at dksJ12_compress_0 7 rfl rfl)
theorem dJ12_compress_8 : decode cJ12_compress 8 = .ok (.iload_n 2, 1) := dk_28 (dk_at dksJ12_compress_0 8 rfl rfl)
theorem dJ12_compress_9 : decode cJ12_compress 9 = .ok (.invokestatic 123, 3) := dk_184 0 123 (dk_at dksJ12_compress_0 9 rfl rfl)
theorem dJ12_compress_12 : decode cJ12_compress 12 = .ok (.istore 4, 2) := dk_54 4 (dk_at dksJ12_compress_0 12 rfl rfl)
theorem dJ12_compress_14 : decode cJ12_compress 14 = .ok (.iload 4, 2) := dk_21 4 (dk_at dksJ12_compress_0 14 rfl rfl)
theorem dJ12_compress_16 : decode cJ12_compress 16 = .ok (.iload_n 2, 1) := dk_28 (dk_at dksJ12_compress_0 16 rfl rfl)
theorem dJ12_compress_17 : decode cJ12_compress 17 = .ok (.if_icmp .eq 47, 3) := dk_159 0 47 (dk_at dksJ12_compress_0 17 rfl rfl)
theorem dJ12_compress_20 : decode cJ12_compress 20 = .ok (.aload_n 0, 1) := dk_42 (dk_at dksJ12_compress_0 20 rfl rfl)
theorem dJ12_compress_21 : decode cJ12_compress 21 = .ok (.iload_n 1, 1) := dk_27 (dk_at dksJ12_compress_0 21 rfl rfl)
theorem dJ12_compress_22 : decode cJ12_compress 22 = .ok (.iconst 1, 1) := dk_4 (dk_at dksJ12_compress_0 22 rfl rfl)
theorem dJ12_compress_23 : decode cJ12_compress 23 = .ok (.ishl, 1) := dk_120 (dk_at dksJ12_compress_0 23 rfl rfl)
theorem dJ12_compress_24 : decode cJ12_compress 24 = .ok (.iload_n 1, 1) := dk_27 (dk_at dksJ12_compress_1 0 rfl rfl)
theorem dJ12_compress_25 : decode cJ12_compress 25 = .ok (.iload_n 2, 1) := dk_28 (dk_at dksJ12_compress_1 1 rfl rfl)
theorem dJ12_compress_26 : decode cJ12_compress 26 = .ok (.iadd, 1) := dk_96 (dk_at dksJ12_compress_1 2 rfl rfl)
theorem dJ12_compress_27 : decode cJ12_compress 27 = .ok (.invokestatic 11, 3) := dk_184 0 11 (dk_at dksJ12_compress_1 3 rfl rfl)
theorem dJ12_compress_30 : decode cJ12_compress 30 = .ok (.invokestatic 126, 3) := dk_184 0 126 (dk_at dksJ12_compress_1 6 rfl rfl)
theorem dJ12_compress_33 : decode cJ12_compress 33 = .ok (.astore 5, 2) := dk_58 5 (dk_at dksJ12_compress_1 9 rfl rfl)
theorem dJ12_compress_35 : decode cJ12_compress 35 = .ok (.aload 5, 2) := dk_25 5 (dk_at dksJ12_compress_1 11 rfl rfl)
theorem dJ12_compress_37 : decode cJ12_compress 37 = .ok (.iload 4, 2) := dk_21 4 (dk_at dksJ12_compress_1 13 rfl rfl)
theorem dJ12_compress_39 : decode cJ12_compress 39 = .ok (.invokestatic 71, 3) := dk_184 0 71 (dk_at dksJ12_compress_1 15 rfl rfl)
theorem dJ12_compress_42 : decode cJ12_compress 42 = .ok (.sipush 255, 3) := dk_17 0 255 (dk_at dksJ12_compress_1 18 rfl rfl)
theorem dJ12_compress_45 : decode cJ12_compress 45 = .ok (.if_icmp .gt 16, 3) := dk_163 0 16 (dk_at dksJ12_compress_1 21 rfl rfl)
theorem dJ12_compress_48 : decode cJ12_compress 48 = .ok (.aload 5, 2) := dk_25 5 (dk_at dksJ12_compress_2 0 rfl rfl)
theorem dJ12_compress_50 : decode cJ12_compress 50 = .ok (.iconst 0, 1) := dk_3 (dk_at dksJ12_compress_2 2 rfl rfl)
theorem dJ12_compress_51 : decode cJ12_compress 51 = .ok (.aload_n 3, 1) := dk_45 (dk_at dksJ12_compress_2 3 rfl rfl)
theorem dJ12_compress_52 : decode cJ12_compress 52 = .ok (.iconst 0, 1) := dk_3 (dk_at dksJ12_compress_2 4 rfl rfl)
theorem dJ12_compress_53 : decode cJ12_compress 53 = .ok (.iload_n 2, 1) := dk_28 (dk_at dksJ12_compress_2 5 rfl rfl)
theorem dJ12_compress_54 : decode cJ12_compress 54 = .ok (.invokestatic 123, 3) := dk_184 0 123 (dk_at dksJ12_compress_2 6 rfl rfl)
theorem dJ12_compress_57 : decode cJ12_compress 57 = .ok (.iload_n 2, 1) := dk_28 (dk_at dksJ12_compress_2 9 rfl rfl)
theorem dJ12_compress_58 : decode cJ12_compress 58 = .ok (.if_icmp .eq 6, 3) := dk_159 0 6 (dk_at dksJ12_compress_2 10 rfl rfl)
theorem dJ12_compress_61 : decode cJ12_compress 61 = .ok (.aload 5, 2) := dk_25 5 (dk_at dksJ12_compress_2 13 rfl rfl)
theorem dJ12_compress_63 : decode cJ12_compress 63 = .ok (.areturn, 1) := dk_176 (dk_at dksJ12_compress_2 15 rfl rfl)
theorem dJ12_compress_64 : decode cJ12_compress 64 = .ok (.aload_n 3, 1) := dk_45 (dk_at dksJ12_compress_2 16 rfl rfl)
theorem dJ12_compress_65 : decode cJ12_compress 65 = .ok (.areturn, 1) := dk_176 (dk_at dksJ12_compress_2 17 rfl rfl)
abbrev cJ12_compress_2 : ByteArray := prog_38_method_22_code
def yJ12_compress_2 : MethodName := ⟨RJ12, "compress", "([BI[BII)I"⟩
def dkwJ12_compress_2_2 : List UInt8 := [132, 5, 1, 167, 255, 216, 21, 4, 172]
abbrev dktJ12_compress_2_2 : List UInt8 := dkwJ12_compress_2_2 ++ []
def dkwJ12_compress_2_1 : List UInt8 := [21, 6, 17, 0, 255, 164, 0, 6, 21, 5, 172, 44, 29, 21, 6, 145, 84, 132, 1, 1, 132, 3, 1]
abbrev dktJ12_compress_2_1 : List UInt8 := dkwJ12_compress_2_1 ++ dktJ12_compress_2_2
def dkwJ12_compress_2_0 : List UInt8 := [27, 21, 4, 42, 184, 0, 173, 3, 54, 5, 21, 5, 21, 4, 162, 0, 39, 42, 27, 184, 0, 71, 54, 6]
abbrev dktJ12_compress_2_0 : List UInt8 := dkwJ12_compress_2_0 ++ dktJ12_compress_2_1
theorem dksJ12_compress_2_0 : cJ12_compress_2.data.toList.drop 0 = dktJ12_compress_2_0 := by decide +kernel
theorem dksJ12_compress_2_1 : cJ12_compress_2.data.toList.drop 24 = dktJ12_compress_2_1 := dk_seg dksJ12_compress_2_0 24 rfl rfl
theorem dksJ12_compress_2_2 : cJ12_compress_2.data.toList.drop 47 = dktJ12_compress_2_2 := dk_seg dksJ12_compress_2_1 23 rfl rfl
theorem dJ12_compress_2_0 : decode cJ12_compress_2 0 = .ok (.iload_n 1, 1) := dk_27 (dk_at dksJ12_compress_2_0 0 rfl rfl)
theorem dJ12_compress_2_1 : decode cJ12_compress_2 1 = .ok (.iload 4, 2) := dk_21 4 (dk_at dksJ12_compress_2_0 1 rfl rfl)
theorem dJ12_compress_2_3 : decode cJ12_compress_2 3 = .ok (.aload_n 0, 1) := dk_42 (dk_at dksJ12_compress_2_0 3 rfl rfl)
theorem dJ12_compress_2_4 : decode cJ12_compress_2 4 = .ok (.invokestatic 173, 3) := dk_184 0 173 (dk_at dksJ12_compress_2_0 4 rfl rfl)
theorem dJ12_compress_2_7 : decode cJ12_compress_2 7 = .ok (.iconst 0, 1) := dk_3 (dk_at dksJ12_compress_2_0 7 rfl rfl)
theorem dJ12_compress_2_8 : decode cJ12_compress_2 8 = .ok (.istore 5, 2) := dk_54 5 (dk_at dksJ12_compress_2_0 8 rfl rfl)
theorem dJ12_compress_2_10 : decode cJ12_compress_2 10 = .ok (.iload 5, 2) := dk_21 5 (dk_at dksJ12_compress_2_0 10 rfl rfl)
theorem dJ12_compress_2_12 : decode cJ12_compress_2 12 = .ok (.iload 4, 2) := dk_21 4 (dk_at dksJ12_compress_2_0 12 rfl rfl)
theorem dJ12_compress_2_14 : decode cJ12_compress_2 14 = .ok (.if_icmp .ge 39, 3) := dk_162 0 39 (dk_at dksJ12_compress_2_0 14 rfl rfl)
theorem dJ12_compress_2_17 : decode cJ12_compress_2 17 = .ok (.aload_n 0, 1) := dk_42 (dk_at dksJ12_compress_2_0 17 rfl rfl)
theorem dJ12_compress_2_18 : decode cJ12_compress_2 18 = .ok (.iload_n 1, 1) := dk_27 (dk_at dksJ12_compress_2_0 18 rfl rfl)
theorem dJ12_compress_2_19 : decode cJ12_compress_2 19 = .ok (.invokestatic 71, 3) := dk_184 0 71 (dk_at dksJ12_compress_2_0 19 rfl rfl)
theorem dJ12_compress_2_22 : decode cJ12_compress_2 22 = .ok (.istore 6, 2) := dk_54 6 (dk_at dksJ12_compress_2_0 22 rfl rfl)
theorem dJ12_compress_2_24 : decode cJ12_compress_2 24 = .ok (.iload 6, 2) := dk_21 6 (dk_at dksJ12_compress_2_1 0 rfl rfl)
theorem dJ12_compress_2_26 : decode cJ12_compress_2 26 = .ok (.sipush 255, 3) := dk_17 0 255 (dk_at dksJ12_compress_2_1 2 rfl rfl)
theorem dJ12_compress_2_29 : decode cJ12_compress_2 29 = .ok (.if_icmp .le 6, 3) := dk_164 0 6 (dk_at dksJ12_compress_2_1 5 rfl rfl)
theorem dJ12_compress_2_32 : decode cJ12_compress_2 32 = .ok (.iload 5, 2) := dk_21 5 (dk_at dksJ12_compress_2_1 8 rfl rfl)
theorem dJ12_compress_2_34 : decode cJ12_compress_2 34 = .ok (.ireturn, 1) := dk_172 (dk_at dksJ12_compress_2_1 10 rfl rfl)
theorem dJ12_compress_2_35 : decode cJ12_compress_2 35 = .ok (.aload_n 2, 1) := dk_44 (dk_at dksJ12_compress_2_1 11 rfl rfl)
theorem dJ12_compress_2_36 : decode cJ12_compress_2 36 = .ok (.iload_n 3, 1) := dk_29 (dk_at dksJ12_compress_2_1 12 rfl rfl)
theorem dJ12_compress_2_37 : decode cJ12_compress_2 37 = .ok (.iload 6, 2) := dk_21 6 (dk_at dksJ12_compress_2_1 13 rfl rfl)
theorem dJ12_compress_2_39 : decode cJ12_compress_2 39 = .ok (.i2b, 1) := dk_145 (dk_at dksJ12_compress_2_1 15 rfl rfl)
theorem dJ12_compress_2_40 : decode cJ12_compress_2 40 = .ok (.bastore, 1) := dk_84 (dk_at dksJ12_compress_2_1 16 rfl rfl)
theorem dJ12_compress_2_41 : decode cJ12_compress_2 41 = .ok (.iinc 1 1, 3) := dk_132 1 1 (dk_at dksJ12_compress_2_1 17 rfl rfl)
theorem dJ12_compress_2_44 : decode cJ12_compress_2 44 = .ok (.iinc 3 1, 3) := dk_132 3 1 (dk_at dksJ12_compress_2_1 20 rfl rfl)
theorem dJ12_compress_2_47 : decode cJ12_compress_2 47 = .ok (.iinc 5 1, 3) := dk_132 5 1 (dk_at dksJ12_compress_2_2 0 rfl rfl)
theorem dJ12_compress_2_50 : decode cJ12_compress_2 50 = .ok (.goto (-40), 3) := dk_167 255 216 (dk_at dksJ12_compress_2_2 3 rfl rfl)
theorem dJ12_compress_2_53 : decode cJ12_compress_2 53 = .ok (.iload 4, 2) := dk_21 4 (dk_at dksJ12_compress_2_2 6 rfl rfl)
theorem dJ12_compress_2_55 : decode cJ12_compress_2 55 = .ok (.ireturn, 1) := dk_172 (dk_at dksJ12_compress_2_2 8 rfl rfl)
abbrev cJ12_getChar : ByteArray := prog_38_method_5_code
def yJ12_getChar : MethodName := ⟨RJ12, "getChar", "([BI)C"⟩
def dkwJ12_getChar_2 : List UInt8 := [51, 17, 0, 255, 126, 178, 0, 63, 120, 128, 146, 172]
abbrev dktJ12_getChar_2 : List UInt8 := dkwJ12_getChar_2 ++ []
def dkwJ12_getChar_1 : List UInt8 := [183, 0, 56, 191, 27, 4, 120, 60, 42, 27, 132, 1, 1, 51, 17, 0, 255, 126, 178, 0, 59, 120, 42, 27]
abbrev dktJ12_getChar_1 : List UInt8 := dkwJ12_getChar_1 ++ dktJ12_getChar_2
def dkwJ12_getChar_0 : List UInt8 := [178, 0, 44, 154, 0, 25, 27, 155, 0, 11, 27, 42, 184, 0, 48, 161, 0, 13, 187, 0, 52, 89, 18, 54]
abbrev dktJ12_getChar_0 : List UInt8 := dkwJ12_getChar_0 ++ dktJ12_getChar_1
theorem dksJ12_getChar_0 : cJ12_getChar.data.toList.drop 0 = dktJ12_getChar_0 := by decide +kernel
theorem dksJ12_getChar_1 : cJ12_getChar.data.toList.drop 24 = dktJ12_getChar_1 := dk_seg dksJ12_getChar_0 24 rfl rfl
theorem dksJ12_getChar_2 : cJ12_getChar.data.toList.drop 48 = dktJ12_getChar_2 := dk_seg dksJ12_getChar_1 24 rfl rfl
theorem dJ12_getChar_0 : decode cJ12_getChar 0 = .ok (.getstatic 44, 3) := dk_178 0 44 (dk_at dksJ12_getChar_0 0 rfl rfl)
theorem dJ12_getChar_3 : decode cJ12_getChar 3 = .ok (.ifCond .ne 25, 3) := dk_154 0 25 (dk_at dksJ12_getChar_0 3 rfl rfl)
theorem dJ12_getChar_6 : decode cJ12_getChar 6 = .ok (.iload_n 1, 1) := dk_27 (dk_at dksJ12_getChar_0 6 rfl rfl)
theorem dJ12_getChar_7 : decode cJ12_getChar 7 = .ok (.ifCond .lt 11, 3) := dk_155 0 11 (dk_at dksJ12_getChar_0 7 rfl rfl)
theorem dJ12_getChar_10 : decode cJ12_getChar 10 = .ok (.iload_n 1, 1) := dk_27 (dk_at dksJ12_getChar_0 10 rfl rfl)
theorem dJ12_getChar_11 : decode cJ12_getChar 11 = .ok (.aload_n 0, 1) := dk_42 (dk_at dksJ12_getChar_0 11 rfl rfl)
theorem dJ12_getChar_12 : decode cJ12_getChar 12 = .ok (.invokestatic 48, 3) := dk_184 0 48 (dk_at dksJ12_getChar_0 12 rfl rfl)
theorem dJ12_getChar_15 : decode cJ12_getChar 15 = .ok (.if_icmp .lt 13, 3) := dk_161 0 13 (dk_at dksJ12_getChar_0 15 rfl rfl)
theorem dJ12_getChar_18 : decode cJ12_getChar 18 = .ok (.new 52, 3) := dk_187 0 52 (dk_at dksJ12_getChar_0 18 rfl rfl)
theorem dJ12_getChar_21 : decode cJ12_getChar 21 = .ok (.dup, 1) := dk_89 (dk_at dksJ12_getChar_0 21 rfl rfl)
theorem dJ12_getChar_22 : decode cJ12_getChar 22 = .ok (.ldc 54, 2) := dk_18 54 (dk_at dksJ12_getChar_0 22 rfl rfl)
theorem dJ12_getChar_24 : decode cJ12_getChar 24 = .ok (.invokespecial 56, 3) := dk_183 0 56 (dk_at dksJ12_getChar_1 0 rfl rfl)
theorem dJ12_getChar_27 : decode cJ12_getChar 27 = .ok (.athrow, 1) := dk_191 (dk_at dksJ12_getChar_1 3 rfl rfl)
theorem dJ12_getChar_28 : decode cJ12_getChar 28 = .ok (.iload_n 1, 1) := dk_27 (dk_at dksJ12_getChar_1 4 rfl rfl)
theorem dJ12_getChar_29 : decode cJ12_getChar 29 = .ok (.iconst 1, 1) := dk_4 (dk_at dksJ12_getChar_1 5 rfl rfl)
theorem dJ12_getChar_30 : decode cJ12_getChar 30 = .ok (.ishl, 1) := dk_120 (dk_at dksJ12_getChar_1 6 rfl rfl)
theorem dJ12_getChar_31 : decode cJ12_getChar 31 = .ok (.istore_n 1, 1) := dk_60 (dk_at dksJ12_getChar_1 7 rfl rfl)
theorem dJ12_getChar_32 : decode cJ12_getChar 32 = .ok (.aload_n 0, 1) := dk_42 (dk_at dksJ12_getChar_1 8 rfl rfl)
theorem dJ12_getChar_33 : decode cJ12_getChar 33 = .ok (.iload_n 1, 1) := dk_27 (dk_at dksJ12_getChar_1 9 rfl rfl)
theorem dJ12_getChar_34 : decode cJ12_getChar 34 = .ok (.iinc 1 1, 3) := dk_132 1 1 (dk_at dksJ12_getChar_1 10 rfl rfl)
theorem dJ12_getChar_37 : decode cJ12_getChar 37 = .ok (.baload, 1) := dk_51 (dk_at dksJ12_getChar_1 13 rfl rfl)
theorem dJ12_getChar_38 : decode cJ12_getChar 38 = .ok (.sipush 255, 3) := dk_17 0 255 (dk_at dksJ12_getChar_1 14 rfl rfl)
theorem dJ12_getChar_41 : decode cJ12_getChar 41 = .ok (.iand, 1) := dk_126 (dk_at dksJ12_getChar_1 17 rfl rfl)
theorem dJ12_getChar_42 : decode cJ12_getChar 42 = .ok (.getstatic 59, 3) := dk_178 0 59 (dk_at dksJ12_getChar_1 18 rfl rfl)
theorem dJ12_getChar_45 : decode cJ12_getChar 45 = .ok (.ishl, 1) := dk_120 (dk_at dksJ12_getChar_1 21 rfl rfl)
theorem dJ12_getChar_46 : decode cJ12_getChar 46 = .ok (.aload_n 0, 1) := dk_42 (dk_at dksJ12_getChar_1 22 rfl rfl)
theorem dJ12_getChar_47 : decode cJ12_getChar 47 = .ok (.iload_n 1, 1) := dk_27 (dk_at dksJ12_getChar_1 23 rfl rfl)
theorem dJ12_getChar_48 : decode cJ12_getChar 48 = .ok (.baload, 1) := dk_51 (dk_at dksJ12_getChar_2 0 rfl rfl)
theorem dJ12_getChar_49 : decode cJ12_getChar 49 = .ok (.sipush 255, 3) := dk_17 0 255 (dk_at dksJ12_getChar_2 1 rfl rfl)
theorem dJ12_getChar_52 : decode cJ12_getChar 52 = .ok (.iand, 1) := dk_126 (dk_at dksJ12_getChar_2 4 rfl rfl)
theorem dJ12_getChar_53 : decode cJ12_getChar 53 = .ok (.getstatic 63, 3) := dk_178 0 63 (dk_at dksJ12_getChar_2 5 rfl rfl)
theorem dJ12_getChar_56 : decode cJ12_getChar 56 = .ok (.ishl, 1) := dk_120 (dk_at dksJ12_getChar_2 8 rfl rfl)
theorem dJ12_getChar_57 : decode cJ12_getChar 57 = .ok (.ior, 1) := dk_128 (dk_at dksJ12_getChar_2 9 rfl rfl)
theorem dJ12_getChar_58 : decode cJ12_getChar 58 = .ok (.i2c, 1) := dk_146 (dk_at dksJ12_getChar_2 10 rfl rfl)
theorem dJ12_getChar_59 : decode cJ12_getChar 59 = .ok (.ireturn, 1) := dk_172 (dk_at dksJ12_getChar_2 11 rfl rfl)
abbrev cJ12_coderFromArrayLen : ByteArray := prog_38_method_15_code
def yJ12_coderFromArrayLen : MethodName := ⟨RJ12, "coderFromArrayLen", "([BI)B"⟩
def dkwJ12_coderFromArrayLen_0 : List UInt8 := [27, 42, 190, 100, 16, 31, 124, 145, 172]
abbrev dktJ12_coderFromArrayLen_0 : List UInt8 := dkwJ12_coderFromArrayLen_0 ++ []
theorem dksJ12_coderFromArrayLen_0 : cJ12_coderFromArrayLen.data.toList.drop 0 = dktJ12_coderFromArrayLen_0 := by decide +kernel
theorem dJ12_coderFromArrayLen_0 : decode cJ12_coderFromArrayLen 0 = .ok (.iload_n 1, 1) := dk_27 (dk_at dksJ12_coderFromArrayLen_0 0 rfl rfl)
theorem dJ12_coderFromArrayLen_1 : decode cJ12_coderFromArrayLen 1 = .ok (.aload_n 0, 1) := dk_42 (dk_at dksJ12_coderFromArrayLen_0 1 rfl rfl)
theorem dJ12_coderFromArrayLen_2 : decode cJ12_coderFromArrayLen 2 = .ok (.arraylength, 1) := dk_190 (dk_at dksJ12_coderFromArrayLen_0 2 rfl rfl)
theorem dJ12_coderFromArrayLen_3 : decode cJ12_coderFromArrayLen 3 = .ok (.isub, 1) := dk_100 (dk_at dksJ12_coderFromArrayLen_0 3 rfl rfl)
theorem dJ12_coderFromArrayLen_4 : decode cJ12_coderFromArrayLen 4 = .ok (.bipush 31, 2) := dk_16 31 (dk_at dksJ12_coderFromArrayLen_0 4 rfl rfl)
theorem dJ12_coderFromArrayLen_6 : decode cJ12_coderFromArrayLen 6 = .ok (.iushr, 1) := dk_124 (dk_at dksJ12_coderFromArrayLen_0 6 rfl rfl)
theorem dJ12_coderFromArrayLen_7 : decode cJ12_coderFromArrayLen 7 = .ok (.i2b, 1) := dk_145 (dk_at dksJ12_coderFromArrayLen_0 7 rfl rfl)
theorem dJ12_coderFromArrayLen_8 : decode cJ12_coderFromArrayLen 8 = .ok (.ireturn, 1) := dk_172 (dk_at dksJ12_coderFromArrayLen_0 8 rfl rfl)
abbrev cJ12_hashCode : ByteArray := prog_38_method_39_code
def yJ12_hashCode : MethodName := ⟨RJ12, "hashCode", "([B)I"⟩
def dkwJ12_hashCode_2 : List UInt8 := [3, 167, 0, 22, 42, 3, 184, 0, 71, 167, 0, 14, 42, 3, 42, 190, 4, 122, 3, 8, 184, 0, 220, 172]
abbrev dktJ12_hashCode_2 : List UInt8 := dkwJ12_hashCode_2 ++ []
def dkwJ12_hashCode_1 : List UInt8 := [171, 0, 0, 0, 0, 38, 0, 0, 0, 2, 0, 0, 0, 0, 0, 0, 0, 26, 0, 0, 0, 2, 0, 0, 0, 30]
abbrev dktJ12_hashCode_1 : List UInt8 := dkwJ12_hashCode_1 ++ dktJ12_hashCode_2
def dkwJ12_hashCode_0 : List UInt8 := [42, 190]
abbrev dktJ12_hashCode_0 : List UInt8 := dkwJ12_hashCode_0 ++ dktJ12_hashCode_1
theorem dksJ12_hashCode_0 : cJ12_hashCode.data.toList.drop 0 = dktJ12_hashCode_0 := by decide +kernel
theorem dksJ12_hashCode_1 : cJ12_hashCode.data.toList.drop 2 = dktJ12_hashCode_1 := dk_seg dksJ12_hashCode_0 2 rfl rfl
theorem dksJ12_hashCode_2 : cJ12_hashCode.data.toList.drop 28 = dktJ12_hashCode_2 := dk_seg dksJ12_hashCode_1 26 rfl rfl
theorem dJ12_hashCode_0 : decode cJ12_hashCode 0 = .ok (.aload_n 0, 1) := dk_42 (dk_at dksJ12_hashCode_0 0 rfl rfl)
theorem dJ12_hashCode_1 : decode cJ12_hashCode 1 = .ok (.arraylength, 1) := dk_190 (dk_at dksJ12_hashCode_0 1 rfl rfl)
theorem dJ12_hashCode_2 : decode cJ12_hashCode 2 = .ok (.lookupswitch 38 #[(0, 26), (2, 30)], 26) := by decide +kernel
theorem dJ12_hashCode_28 : decode cJ12_hashCode 28 = .ok (.iconst 0, 1) := dk_3 (dk_at dksJ12_hashCode_2 0 rfl rfl)
theorem dJ12_hashCode_29 : decode cJ12_hashCode 29 = .ok (.goto 22, 3) := dk_167 0 22 (dk_at dksJ12_hashCode_2 1 rfl rfl)
theorem dJ12_hashCode_32 : decode cJ12_hashCode 32 = .ok (.aload_n 0, 1) := dk_42 (dk_at dksJ12_hashCode_2 4 rfl rfl)
theorem dJ12_hashCode_33 : decode cJ12_hashCode 33 = .ok (.iconst 0, 1) := dk_3 (dk_at dksJ12_hashCode_2 5 rfl rfl)
theorem dJ12_hashCode_34 : decode cJ12_hashCode 34 = .ok (.invokestatic 71, 3) := dk_184 0 71 (dk_at dksJ12_hashCode_2 6 rfl rfl)
theorem dJ12_hashCode_37 : decode cJ12_hashCode 37 = .ok (.goto 14, 3) := dk_167 0 14 (dk_at dksJ12_hashCode_2 9 rfl rfl)
theorem dJ12_hashCode_40 : decode cJ12_hashCode 40 = .ok (.aload_n 0, 1) := dk_42 (dk_at dksJ12_hashCode_2 12 rfl rfl)
theorem dJ12_hashCode_41 : decode cJ12_hashCode 41 = .ok (.iconst 0, 1) := dk_3 (dk_at dksJ12_hashCode_2 13 rfl rfl)
theorem dJ12_hashCode_42 : decode cJ12_hashCode 42 = .ok (.aload_n 0, 1) := dk_42 (dk_at dksJ12_hashCode_2 14 rfl rfl)
theorem dJ12_hashCode_43 : decode cJ12_hashCode 43 = .ok (.arraylength, 1) := dk_190 (dk_at dksJ12_hashCode_2 15 rfl rfl)
theorem dJ12_hashCode_44 : decode cJ12_hashCode 44 = .ok (.iconst 1, 1) := dk_4 (dk_at dksJ12_hashCode_2 16 rfl rfl)
theorem dJ12_hashCode_45 : decode cJ12_hashCode 45 = .ok (.ishr, 1) := dk_122 (dk_at dksJ12_hashCode_2 17 rfl rfl)
theorem dJ12_hashCode_46 : decode cJ12_hashCode 46 = .ok (.iconst 0, 1) := dk_3 (dk_at dksJ12_hashCode_2 18 rfl rfl)
theorem dJ12_hashCode_47 : decode cJ12_hashCode 47 = .ok (.iconst 5, 1) := dk_8 (dk_at dksJ12_hashCode_2 19 rfl rfl)
theorem dJ12_hashCode_48 : decode cJ12_hashCode 48 = .ok (.invokestatic 220, 3) := dk_184 0 220 (dk_at dksJ12_hashCode_2 20 rfl rfl)
theorem dJ12_hashCode_51 : decode cJ12_hashCode 51 = .ok (.ireturn, 1) := dk_172 (dk_at dksJ12_hashCode_2 23 rfl rfl)
abbrev cJ12_putCharSB : ByteArray := prog_38_method_71_code
def yJ12_putCharSB : MethodName := ⟨RJ12, "putCharSB", "([BII)V"⟩
def dkwJ12_putCharSB_0 : List UInt8 := [27, 42, 184, 0, 67, 42, 27, 28, 184, 0, 111, 177]
abbrev dktJ12_putCharSB_0 : List UInt8 := dkwJ12_putCharSB_0 ++ []
theorem dksJ12_putCharSB_0 : cJ12_putCharSB.data.toList.drop 0 = dktJ12_putCharSB_0 := by decide +kernel
theorem dJ12_putCharSB_0 : decode cJ12_putCharSB 0 = .ok (.iload_n 1, 1) := dk_27 (dk_at dksJ12_putCharSB_0 0 rfl rfl)
theorem dJ12_putCharSB_1 : decode cJ12_putCharSB 1 = .ok (.aload_n 0, 1) := dk_42 (dk_at dksJ12_putCharSB_0 1 rfl rfl)
theorem dJ12_putCharSB_2 : decode cJ12_putCharSB 2 = .ok (.invokestatic 67, 3) := dk_184 0 67 (dk_at dksJ12_putCharSB_0 2 rfl rfl)
theorem dJ12_putCharSB_5 : decode cJ12_putCharSB 5 = .ok (.aload_n 0, 1) := dk_42 (dk_at dksJ12_putCharSB_0 5 rfl rfl)
theorem dJ12_putCharSB_6 : decode cJ12_putCharSB 6 = .ok (.iload_n 1, 1) := dk_27 (dk_at dksJ12_putCharSB_0 6 rfl rfl)
theorem dJ12_putCharSB_7 : decode cJ12_putCharSB 7 = .ok (.iload_n 2, 1) := dk_28 (dk_at dksJ12_putCharSB_0 7 rfl rfl)
theorem dJ12_putCharSB_8 : decode cJ12_putCharSB 8 = .ok (.invokestatic 111, 3) := dk_184 0 111 (dk_at dksJ12_putCharSB_0 8 rfl rfl)
theorem dJ12_putCharSB_11 : decode cJ12_putCharSB 11 = .ok (.return_, 1) := dk_177 (dk_at dksJ12_putCharSB_0 11 rfl rfl)
abbrev cJ12_checkIndex : ByteArray := prog_38_method_91_code
def yJ12_checkIndex : MethodName := ⟨RJ12, "checkIndex", "(I[B)V"⟩
def dkwJ12_checkIndex_0 : List UInt8 := [26, 43, 184, 0, 48, 184, 1, 158, 177]
abbrev dktJ12_checkIndex_0 : List UInt8 := dkwJ12_checkIndex_0 ++ []
theorem dksJ12_checkIndex_0 : cJ12_checkIndex.data.toList.drop 0 = dktJ12_checkIndex_0 := by decide +kernel
theorem dJ12_checkIndex_0 : decode cJ12_checkIndex 0 = .ok (.iload_n 0, 1) := dk_26 (dk_at dksJ12_checkIndex_0 0 rfl rfl)
theorem dJ12_checkIndex_1 : decode cJ12_checkIndex 1 = .ok (.aload_n 1, 1) := dk_43 (dk_at dksJ12_checkIndex_0 1 rfl rfl)
theorem dJ12_checkIndex_2 : decode cJ12_checkIndex 2 = .ok (.invokestatic 48, 3) := dk_184 0 48 (dk_at dksJ12_checkIndex_0 2 rfl rfl)
theorem dJ12_checkIndex_5 : decode cJ12_checkIndex 5 = .ok (.invokestatic 414, 3) := dk_184 1 158 (dk_at dksJ12_checkIndex_0 5 rfl rfl)
theorem dJ12_checkIndex_8 : decode cJ12_checkIndex 8 = .ok (.return_, 1) := dk_177 (dk_at dksJ12_checkIndex_0 8 rfl rfl)
abbrev cJ12_charAt : ByteArray := prog_38_method_83_code
def yJ12_charAt : MethodName := ⟨RJ12, "charAt", "([BI)C"⟩
def dkwJ12_charAt_0 : List UInt8 := [27, 42, 184, 0, 67, 42, 27, 184, 0, 71, 172]
abbrev dktJ12_charAt_0 : List UInt8 := dkwJ12_charAt_0 ++ []
theorem dksJ12_charAt_0 : cJ12_charAt.data.toList.drop 0 = dktJ12_charAt_0 := by decide +kernel
theorem dJ12_charAt_0 : decode cJ12_charAt 0 = .ok (.iload_n 1, 1) := dk_27 (dk_at dksJ12_charAt_0 0 rfl rfl)
theorem dJ12_charAt_1 : decode cJ12_charAt 1 = .ok (.aload_n 0, 1) := dk_42 (dk_at dksJ12_charAt_0 1 rfl rfl)
theorem dJ12_charAt_2 : decode cJ12_charAt 2 = .ok (.invokestatic 67, 3) := dk_184 0 67 (dk_at dksJ12_charAt_0 2 rfl rfl)
theorem dJ12_charAt_5 : decode cJ12_charAt 5 = .ok (.aload_n 0, 1) := dk_42 (dk_at dksJ12_charAt_0 5 rfl rfl)
theorem dJ12_charAt_6 : decode cJ12_charAt 6 = .ok (.iload_n 1, 1) := dk_27 (dk_at dksJ12_charAt_0 6 rfl rfl)
theorem dJ12_charAt_7 : decode cJ12_charAt 7 = .ok (.invokestatic 71, 3) := dk_184 0 71 (dk_at dksJ12_charAt_0 7 rfl rfl)
theorem dJ12_charAt_10 : decode cJ12_charAt 10 = .ok (.ireturn, 1) := dk_172 (dk_at dksJ12_charAt_0 10 rfl rfl)
abbrev cJ12_indexOf : ByteArray := prog_38_method_40_code
def yJ12_indexOf : MethodName := ⟨RJ12, "indexOf", "([BIII)I"⟩
def dkwJ12_indexOf_1 : List UInt8 := [18, 227, 162, 0, 11, 42, 27, 28, 29, 184, 0, 228, 172, 42, 27, 28, 29, 184, 0, 232, 172]
abbrev dktJ12_indexOf_1 : List UInt8 := dkwJ12_indexOf_1 ++ []
def dkwJ12_indexOf_0 : List UInt8 := [28, 3, 184, 0, 224, 61, 29, 42, 190, 4, 122, 184, 0, 183, 62, 28, 29, 161, 0, 5, 2, 172, 27]
abbrev dktJ12_indexOf_0 : List UInt8 := dkwJ12_indexOf_0 ++ dktJ12_indexOf_1
theorem dksJ12_indexOf_0 : cJ12_indexOf.data.toList.drop 0 = dktJ12_indexOf_0 := by decide +kernel
theorem dksJ12_indexOf_1 : cJ12_indexOf.data.toList.drop 23 = dktJ12_indexOf_1 := dk_seg dksJ12_indexOf_0 23 rfl rfl
theorem dJ12_indexOf_0 : decode cJ12_indexOf 0 = .ok (.iload_n 2, 1) := dk_28 (dk_at dksJ12_indexOf_0 0 rfl rfl)
theorem dJ12_indexOf_1 : decode cJ12_indexOf 1 = .ok (.iconst 0, 1) := dk_3 (dk_at dksJ12_indexOf_0 1 rfl rfl)
theorem dJ12_indexOf_2 : decode cJ12_indexOf 2 = .ok (.invokestatic 224, 3) := dk_184 0 224 (dk_at dksJ12_indexOf_0 2 rfl rfl)
theorem dJ12_indexOf_5 : decode cJ12_indexOf 5 = .ok (.istore_n 2, 1) := dk_61 (dk_at dksJ12_indexOf_0 5 rfl rfl)
theorem dJ12_indexOf_6 : decode cJ12_indexOf 6 = .ok (.iload_n 3, 1) := dk_29 (dk_at dksJ12_indexOf_0 6 rfl rfl)
theorem dJ12_indexOf_7 : decode cJ12_indexOf 7 = .ok (.aload_n 0, 1) := dk_42 (dk_at dksJ12_indexOf_0 7 rfl rfl)
theorem dJ12_indexOf_8 : decode cJ12_indexOf 8 = .ok (.arraylength, 1) := dk_190 (dk_at dksJ12_indexOf_0 8 rfl rfl)
theorem dJ12_indexOf_9 : decode cJ12_indexOf 9 = .ok (.iconst 1, 1) := dk_4 (dk_at dksJ12_indexOf_0 9 rfl rfl)
theorem dJ12_indexOf_10 : decode cJ12_indexOf 10 = .ok (.ishr, 1) := dk_122 (dk_at dksJ12_indexOf_0 10 rfl rfl)
theorem dJ12_indexOf_11 : decode cJ12_indexOf 11 = .ok (.invokestatic 183, 3) := dk_184 0 183 (dk_at dksJ12_indexOf_0 11 rfl rfl)
theorem dJ12_indexOf_14 : decode cJ12_indexOf 14 = .ok (.istore_n 3, 1) := dk_62 (dk_at dksJ12_indexOf_0 14 rfl rfl)
theorem dJ12_indexOf_15 : decode cJ12_indexOf 15 = .ok (.iload_n 2, 1) := dk_28 (dk_at dksJ12_indexOf_0 15 rfl rfl)
theorem dJ12_indexOf_16 : decode cJ12_indexOf 16 = .ok (.iload_n 3, 1) := dk_29 (dk_at dksJ12_indexOf_0 16 rfl rfl)
theorem dJ12_indexOf_17 : decode cJ12_indexOf 17 = .ok (.if_icmp .lt 5, 3) := dk_161 0 5 (dk_at dksJ12_indexOf_0 17 rfl rfl)
theorem dJ12_indexOf_20 : decode cJ12_indexOf 20 = .ok (.iconst (-1), 1) := dk_2 (dk_at dksJ12_indexOf_0 20 rfl rfl)
theorem dJ12_indexOf_21 : decode cJ12_indexOf 21 = .ok (.ireturn, 1) := dk_172 (dk_at dksJ12_indexOf_0 21 rfl rfl)
theorem dJ12_indexOf_22 : decode cJ12_indexOf 22 = .ok (.iload_n 1, 1) := dk_27 (dk_at dksJ12_indexOf_0 22 rfl rfl)
theorem dJ12_indexOf_23 : decode cJ12_indexOf 23 = .ok (.ldc 227, 2) := dk_18 227 (dk_at dksJ12_indexOf_1 0 rfl rfl)
theorem dJ12_indexOf_25 : decode cJ12_indexOf 25 = .ok (.if_icmp .ge 11, 3) := dk_162 0 11 (dk_at dksJ12_indexOf_1 2 rfl rfl)
theorem dJ12_indexOf_28 : decode cJ12_indexOf 28 = .ok (.aload_n 0, 1) := dk_42 (dk_at dksJ12_indexOf_1 5 rfl rfl)
theorem dJ12_indexOf_29 : decode cJ12_indexOf 29 = .ok (.iload_n 1, 1) := dk_27 (dk_at dksJ12_indexOf_1 6 rfl rfl)
theorem dJ12_indexOf_30 : decode cJ12_indexOf 30 = .ok (.iload_n 2, 1) := dk_28 (dk_at dksJ12_indexOf_1 7 rfl rfl)
theorem dJ12_indexOf_31 : decode cJ12_indexOf 31 = .ok (.iload_n 3, 1) := dk_29 (dk_at dksJ12_indexOf_1 8 rfl rfl)
theorem dJ12_indexOf_32 : decode cJ12_indexOf 32 = .ok (.invokestatic 228, 3) := dk_184 0 228 (dk_at dksJ12_indexOf_1 9 rfl rfl)
theorem dJ12_indexOf_35 : decode cJ12_indexOf 35 = .ok (.ireturn, 1) := dk_172 (dk_at dksJ12_indexOf_1 12 rfl rfl)
theorem dJ12_indexOf_36 : decode cJ12_indexOf 36 = .ok (.aload_n 0, 1) := dk_42 (dk_at dksJ12_indexOf_1 13 rfl rfl)
theorem dJ12_indexOf_37 : decode cJ12_indexOf 37 = .ok (.iload_n 1, 1) := dk_27 (dk_at dksJ12_indexOf_1 14 rfl rfl)
theorem dJ12_indexOf_38 : decode cJ12_indexOf 38 = .ok (.iload_n 2, 1) := dk_28 (dk_at dksJ12_indexOf_1 15 rfl rfl)
theorem dJ12_indexOf_39 : decode cJ12_indexOf 39 = .ok (.iload_n 3, 1) := dk_29 (dk_at dksJ12_indexOf_1 16 rfl rfl)
theorem dJ12_indexOf_40 : decode cJ12_indexOf 40 = .ok (.invokestatic 232, 3) := dk_184 0 232 (dk_at dksJ12_indexOf_1 17 rfl rfl)
theorem dJ12_indexOf_43 : decode cJ12_indexOf 43 = .ok (.ireturn, 1) := dk_172 (dk_at dksJ12_indexOf_1 20 rfl rfl)
abbrev cJ12_indexOfChar : ByteArray := prog_38_method_47_code
def yJ12_indexOfChar : MethodName := ⟨RJ12, "indexOfChar", "([BIII)I"⟩
def dkwJ12_indexOfChar_0 : List UInt8 := [28, 29, 42, 184, 0, 96, 42, 27, 28, 29, 184, 0, 244, 172]
abbrev dktJ12_indexOfChar_0 : List UInt8 := dkwJ12_indexOfChar_0 ++ []
theorem dksJ12_indexOfChar_0 : cJ12_indexOfChar.data.toList.drop 0 = dktJ12_indexOfChar_0 := by decide +kernel
theorem dJ12_indexOfChar_0 : decode cJ12_indexOfChar 0 = .ok (.iload_n 2, 1) := dk_28 (dk_at dksJ12_indexOfChar_0 0 rfl rfl)
theorem dJ12_indexOfChar_1 : decode cJ12_indexOfChar 1 = .ok (.iload_n 3, 1) := dk_29 (dk_at dksJ12_indexOfChar_0 1 rfl rfl)
theorem dJ12_indexOfChar_2 : decode cJ12_indexOfChar 2 = .ok (.aload_n 0, 1) := dk_42 (dk_at dksJ12_indexOfChar_0 2 rfl rfl)
theorem dJ12_indexOfChar_3 : decode cJ12_indexOfChar 3 = .ok (.invokestatic 96, 3) := dk_184 0 96 (dk_at dksJ12_indexOfChar_0 3 rfl rfl)
theorem dJ12_indexOfChar_6 : decode cJ12_indexOfChar 6 = .ok (.aload_n 0, 1) := dk_42 (dk_at dksJ12_indexOfChar_0 6 rfl rfl)
theorem dJ12_indexOfChar_7 : decode cJ12_indexOfChar 7 = .ok (.iload_n 1, 1) := dk_27 (dk_at dksJ12_indexOfChar_0 7 rfl rfl)
theorem dJ12_indexOfChar_8 : decode cJ12_indexOfChar 8 = .ok (.iload_n 2, 1) := dk_28 (dk_at dksJ12_indexOfChar_0 8 rfl rfl)
theorem dJ12_indexOfChar_9 : decode cJ12_indexOfChar 9 = .ok (.iload_n 3, 1) := dk_29 (dk_at dksJ12_indexOfChar_0 9 rfl rfl)
theorem dJ12_indexOfChar_10 : decode cJ12_indexOfChar 10 = .ok (.invokestatic 244, 3) := dk_184 0 244 (dk_at dksJ12_indexOfChar_0 10 rfl rfl)
theorem dJ12_indexOfChar_13 : decode cJ12_indexOfChar 13 = .ok (.ireturn, 1) := dk_172 (dk_at dksJ12_indexOfChar_0 13 rfl rfl)
abbrev cJ12_indexOfCharUnsafe : ByteArray := prog_38_method_48_code
def yJ12_indexOfCharUnsafe : MethodName := ⟨RJ12, "indexOfCharUnsafe", "([BIII)I"⟩
def dkwJ12_indexOfCharUnsafe_1 : List UInt8 := [132, 4, 1, 167, 255, 234, 2, 172]
abbrev dktJ12_indexOfCharUnsafe_1 : List UInt8 := dkwJ12_indexOfCharUnsafe_1 ++ []
def dkwJ12_indexOfCharUnsafe_0 : List UInt8 := [28, 54, 4, 21, 4, 29, 162, 0, 22, 42, 21, 4, 184, 0, 71, 27, 160, 0, 6, 21, 4, 172]
abbrev dktJ12_indexOfCharUnsafe_0 : List UInt8 := dkwJ12_indexOfCharUnsafe_0 ++ dktJ12_indexOfCharUnsafe_1
theorem dksJ12_indexOfCharUnsafe_0 : cJ12_indexOfCharUnsafe.data.toList.drop 0 = dktJ12_indexOfCharUnsafe_0 := by decide +kernel
theorem dksJ12_indexOfCharUnsafe_1 : cJ12_indexOfCharUnsafe.data.toList.drop 22 = dktJ12_indexOfCharUnsafe_1 := dk_seg dksJ12_indexOfCharUnsafe_0 22 rfl rfl
theorem dJ12_indexOfCharUnsafe_0 : decode cJ12_indexOfCharUnsafe 0 = .ok (.iload_n 2, 1) := dk_28 (dk_at dksJ12_indexOfCharUnsafe_0 0 rfl rfl)
theorem dJ12_indexOfCharUnsafe_1 : decode cJ12_indexOfCharUnsafe 1 = .ok (.istore 4, 2) := dk_54 4 (dk_at dksJ12_indexOfCharUnsafe_0 1 rfl rfl)
theorem dJ12_indexOfCharUnsafe_3 : decode cJ12_indexOfCharUnsafe 3 = .ok (.iload 4, 2) := dk_21 4 (dk_at dksJ12_indexOfCharUnsafe_0 3 rfl rfl)
theorem dJ12_indexOfCharUnsafe_5 : decode cJ12_indexOfCharUnsafe 5 = .ok (.iload_n 3, 1) := dk_29 (dk_at dksJ12_indexOfCharUnsafe_0 5 rfl rfl)
theorem dJ12_indexOfCharUnsafe_6 : decode cJ12_indexOfCharUnsafe 6 = .ok (.if_icmp .ge 22, 3) := dk_162 0 22 (dk_at dksJ12_indexOfCharUnsafe_0 6 rfl rfl)
theorem dJ12_indexOfCharUnsafe_9 : decode cJ12_indexOfCharUnsafe 9 = .ok (.aload_n 0, 1) := dk_42 (dk_at dksJ12_indexOfCharUnsafe_0 9 rfl rfl)
theorem dJ12_indexOfCharUnsafe_10 : decode cJ12_indexOfCharUnsafe 10 = .ok (.iload 4, 2) := dk_21 4 (dk_at dksJ12_indexOfCharUnsafe_0 10 rfl rfl)
theorem dJ12_indexOfCharUnsafe_12 : decode cJ12_indexOfCharUnsafe 12 = .ok (.invokestatic 71, 3) := dk_184 0 71 (dk_at dksJ12_indexOfCharUnsafe_0 12 rfl rfl)
theorem dJ12_indexOfCharUnsafe_15 : decode cJ12_indexOfCharUnsafe 15 = .ok (.iload_n 1, 1) := dk_27 (dk_at dksJ12_indexOfCharUnsafe_0 15 rfl rfl)
theorem dJ12_indexOfCharUnsafe_16 : decode cJ12_indexOfCharUnsafe 16 = .ok (.if_icmp .ne 6, 3) := dk_160 0 6 (dk_at dksJ12_indexOfCharUnsafe_0 16 rfl rfl)
theorem dJ12_indexOfCharUnsafe_19 : decode cJ12_indexOfCharUnsafe 19 = .ok (.iload 4, 2) := dk_21 4 (dk_at dksJ12_indexOfCharUnsafe_0 19 rfl rfl)
theorem dJ12_indexOfCharUnsafe_21 : decode cJ12_indexOfCharUnsafe 21 = .ok (.ireturn, 1) := dk_172 (dk_at dksJ12_indexOfCharUnsafe_0 21 rfl rfl)
theorem dJ12_indexOfCharUnsafe_22 : decode cJ12_indexOfCharUnsafe 22 = .ok (.iinc 4 1, 3) := dk_132 4 1 (dk_at dksJ12_indexOfCharUnsafe_1 0 rfl rfl)
theorem dJ12_indexOfCharUnsafe_25 : decode cJ12_indexOfCharUnsafe 25 = .ok (.goto (-22), 3) := dk_167 255 234 (dk_at dksJ12_indexOfCharUnsafe_1 3 rfl rfl)
theorem dJ12_indexOfCharUnsafe_28 : decode cJ12_indexOfCharUnsafe 28 = .ok (.iconst (-1), 1) := dk_2 (dk_at dksJ12_indexOfCharUnsafe_1 6 rfl rfl)
theorem dJ12_indexOfCharUnsafe_29 : decode cJ12_indexOfCharUnsafe 29 = .ok (.ireturn, 1) := dk_172 (dk_at dksJ12_indexOfCharUnsafe_1 7 rfl rfl)
abbrev cJ12_indexOfSupplementary : ByteArray := prog_38_method_49_code
def yJ12_indexOfSupplementary : MethodName := ⟨RJ12, "indexOfSupplementary", "([BIII)I"⟩
def dkwJ12_indexOfSupplementary_3 : List UInt8 := [167, 255, 218, 2, 172]
abbrev dktJ12_indexOfSupplementary_3 : List UInt8 := dkwJ12_indexOfSupplementary_3 ++ []
def dkwJ12_indexOfSupplementary_2 : List UInt8 := [160, 0, 19, 42, 21, 6, 4, 96, 184, 0, 71, 21, 5, 160, 0, 6, 21, 6, 172, 132, 6, 1]
abbrev dktJ12_indexOfSupplementary_2 : List UInt8 := dkwJ12_indexOfSupplementary_2 ++ dktJ12_indexOfSupplementary_3
def dkwJ12_indexOfSupplementary_1 : List UInt8 := [184, 0, 96, 28, 54, 6, 21, 6, 29, 4, 100, 162, 0, 36, 42, 21, 6, 184, 0, 71, 21, 4]
abbrev dktJ12_indexOfSupplementary_1 : List UInt8 := dkwJ12_indexOfSupplementary_1 ++ dktJ12_indexOfSupplementary_2
def dkwJ12_indexOfSupplementary_0 : List UInt8 := [27, 184, 0, 164, 153, 0, 65, 27, 184, 0, 157, 54, 4, 27, 184, 0, 161, 54, 5, 28, 29, 42]
abbrev dktJ12_indexOfSupplementary_0 : List UInt8 := dkwJ12_indexOfSupplementary_0 ++ dktJ12_indexOfSupplementary_1
theorem dksJ12_indexOfSupplementary_0 : cJ12_indexOfSupplementary.data.toList.drop 0 = dktJ12_indexOfSupplementary_0 := by decide +kernel
theorem dksJ12_indexOfSupplementary_1 : cJ12_indexOfSupplementary.data.toList.drop 22 = dktJ12_indexOfSupplementary_1 := dk_seg dksJ12_indexOfSupplementary_0 22 rfl rfl
theorem dksJ12_indexOfSupplementary_2 : cJ12_indexOfSupplementary.data.toList.drop 44 = dktJ12_indexOfSupplementary_2 := dk_seg dksJ12_indexOfSupplementary_1 22 rfl rfl
theorem dksJ12_indexOfSupplementary_3 : cJ12_indexOfSupplementary.data.toList.drop 66 = dktJ12_indexOfSupplementary_3 := dk_seg dksJ12_indexOfSupplementary_2 22 rfl rfl
theorem dJ12_indexOfSupplementary_0 : decode cJ12_indexOfSupplementary 0 = .ok (.iload_n 1, 1) := dk_27 (dk_at dksJ12_indexOfSupplementary_0 0 rfl rfl)
theorem dJ12_indexOfSupplementary_1 : decode cJ12_indexOfSupplementary 1 = .ok (.invokestatic 164, 3) := dk_184 0 164 (dk_at dksJ12_indexOfSupplementary_0 1 rfl rfl)
theorem dJ12_indexOfSupplementary_4 : decode cJ12_indexOfSupplementary 4 = .ok (.ifCond .eq 65, 3) := dk_153 0 65 (dk_at dksJ12_indexOfSupplementary_0 4 rfl rfl)
theorem dJ12_indexOfSupplementary_7 : decode cJ12_indexOfSupplementary 7 = .ok (.iload_n 1, 1) := dk_27 (dk_at dksJ12_indexOfSupplementary_0 7 rfl rfl)
theorem dJ12_indexOfSupplementary_8 : decode cJ12_indexOfSupplementary 8 = .ok (.invokestatic 157, 3) := dk_184 0 157 (dk_at dksJ12_indexOfSupplementary_0 8 rfl rfl)
theorem dJ12_indexOfSupplementary_11 : decode cJ12_indexOfSupplementary 11 = .ok (.istore 4, 2) := dk_54 4 (dk_at dksJ12_indexOfSupplementary_0 11 rfl rfl)
theorem dJ12_indexOfSupplementary_13 : decode cJ12_indexOfSupplementary 13 = .ok (.iload_n 1, 1) := dk_27 (dk_at dksJ12_indexOfSupplementary_0 13 rfl rfl)
theorem dJ12_indexOfSupplementary_14 : decode cJ12_indexOfSupplementary 14 = .ok (.invokestatic 161, 3) := dk_184 0 161 (dk_at dksJ12_indexOfSupplementary_0 14 rfl rfl)
theorem dJ12_indexOfSupplementary_17 : decode cJ12_indexOfSupplementary 17 = .ok (.istore 5, 2) := dk_54 5 (dk_at dksJ12_indexOfSupplementary_0 17 rfl rfl)
theorem dJ12_indexOfSupplementary_19 : decode cJ12_indexOfSupplementary 19 = .ok (.iload_n 2, 1) := dk_28 (dk_at dksJ12_indexOfSupplementary_0 19 rfl rfl)
theorem dJ12_indexOfSupplementary_20 : decode cJ12_indexOfSupplementary 20 = .ok (.iload_n 3, 1) := dk_29 (dk_at dksJ12_indexOfSupplementary_0 20 rfl rfl)
theorem dJ12_indexOfSupplementary_21 : decode cJ12_indexOfSupplementary 21 = .ok (.aload_n 0, 1) := dk_42 (dk_at dksJ12_indexOfSupplementary_0 21 rfl rfl)
theorem dJ12_indexOfSupplementary_22 : decode cJ12_indexOfSupplementary 22 = .ok (.invokestatic 96, 3) := dk_184 0 96 (dk_at dksJ12_indexOfSupplementary_1 0 rfl rfl)
theorem dJ12_indexOfSupplementary_25 : decode cJ12_indexOfSupplementary 25 = .ok (.iload_n 2, 1) := dk_28 (dk_at dksJ12_indexOfSupplementary_1 3 rfl rfl)
theorem dJ12_indexOfSupplementary_26 : decode cJ12_indexOfSupplementary 26 = .ok (.istore 6, 2) := dk_54 6 (dk_at dksJ12_indexOfSupplementary_1 4 rfl rfl)
theorem dJ12_indexOfSupplementary_28 : decode cJ12_indexOfSupplementary 28 = .ok (.iload 6, 2) := dk_21 6 (dk_at dksJ12_indexOfSupplementary_1 6 rfl rfl)
theorem dJ12_indexOfSupplementary_30 : decode cJ12_indexOfSupplementary 30 = .ok (.iload_n 3, 1) := dk_29 (dk_at dksJ12_indexOfSupplementary_1 8 rfl rfl)
theorem dJ12_indexOfSupplementary_31 : decode cJ12_indexOfSupplementary 31 = .ok (.iconst 1, 1) := dk_4 (dk_at dksJ12_indexOfSupplementary_1 9 rfl rfl)
theorem dJ12_indexOfSupplementary_32 : decode cJ12_indexOfSupplementary 32 = .ok (.isub, 1) := dk_100 (dk_at dksJ12_indexOfSupplementary_1 10 rfl rfl)
theorem dJ12_indexOfSupplementary_33 : decode cJ12_indexOfSupplementary 33 = .ok (.if_icmp .ge 36, 3) := dk_162 0 36 (dk_at dksJ12_indexOfSupplementary_1 11 rfl rfl)
theorem dJ12_indexOfSupplementary_36 : decode cJ12_indexOfSupplementary 36 = .ok (.aload_n 0, 1) := dk_42 (dk_at dksJ12_indexOfSupplementary_1 14 rfl rfl)
theorem dJ12_indexOfSupplementary_37 : decode cJ12_indexOfSupplementary 37 = .ok (.iload 6, 2) := dk_21 6 (dk_at dksJ12_indexOfSupplementary_1 15 rfl rfl)
theorem dJ12_indexOfSupplementary_39 : decode cJ12_indexOfSupplementary 39 = .ok (.invokestatic 71, 3) := dk_184 0 71 (dk_at dksJ12_indexOfSupplementary_1 17 rfl rfl)
theorem dJ12_indexOfSupplementary_42 : decode cJ12_indexOfSupplementary 42 = .ok (.iload 4, 2) := dk_21 4 (dk_at dksJ12_indexOfSupplementary_1 20 rfl rfl)
theorem dJ12_indexOfSupplementary_44 : decode cJ12_indexOfSupplementary 44 = .ok (.if_icmp .ne 19, 3) := dk_160 0 19 (dk_at dksJ12_indexOfSupplementary_2 0 rfl rfl)
theorem dJ12_indexOfSupplementary_47 : decode cJ12_indexOfSupplementary 47 = .ok (.aload_n 0, 1) := dk_42 (dk_at dksJ12_indexOfSupplementary_2 3 rfl rfl)
theorem dJ12_indexOfSupplementary_48 : decode cJ12_indexOfSupplementary 48 = .ok (.iload 6, 2) := dk_21 6 (dk_at dksJ12_indexOfSupplementary_2 4 rfl rfl)
theorem dJ12_indexOfSupplementary_50 : decode cJ12_indexOfSupplementary 50 = .ok (.iconst 1, 1) := dk_4 (dk_at dksJ12_indexOfSupplementary_2 6 rfl rfl)
theorem dJ12_indexOfSupplementary_51 : decode cJ12_indexOfSupplementary 51 = .ok (.iadd, 1) := dk_96 (dk_at dksJ12_indexOfSupplementary_2 7 rfl rfl)
theorem dJ12_indexOfSupplementary_52 : decode cJ12_indexOfSupplementary 52 = .ok (.invokestatic 71, 3) := dk_184 0 71 (dk_at dksJ12_indexOfSupplementary_2 8 rfl rfl)
theorem dJ12_indexOfSupplementary_55 : decode cJ12_indexOfSupplementary 55 = .ok (.iload 5, 2) := dk_21 5 (dk_at dksJ12_indexOfSupplementary_2 11 rfl rfl)
theorem dJ12_indexOfSupplementary_57 : decode cJ12_indexOfSupplementary 57 = .ok (.if_icmp .ne 6, 3) := dk_160 0 6 (dk_at dksJ12_indexOfSupplementary_2 13 rfl rfl)
theorem dJ12_indexOfSupplementary_60 : decode cJ12_indexOfSupplementary 60 = .ok (.iload 6, 2) := dk_21 6 (dk_at dksJ12_indexOfSupplementary_2 16 rfl rfl)
theorem dJ12_indexOfSupplementary_62 : decode cJ12_indexOfSupplementary 62 = .ok (.ireturn, 1) := dk_172 (dk_at dksJ12_indexOfSupplementary_2 18 rfl rfl)
theorem dJ12_indexOfSupplementary_63 : decode cJ12_indexOfSupplementary 63 = .ok (.iinc 6 1, 3) := dk_132 6 1 (dk_at dksJ12_indexOfSupplementary_2 19 rfl rfl)
theorem dJ12_indexOfSupplementary_66 : decode cJ12_indexOfSupplementary 66 = .ok (.goto (-38), 3) := dk_167 255 218 (dk_at dksJ12_indexOfSupplementary_3 0 rfl rfl)
theorem dJ12_indexOfSupplementary_69 : decode cJ12_indexOfSupplementary 69 = .ok (.iconst (-1), 1) := dk_2 (dk_at dksJ12_indexOfSupplementary_3 3 rfl rfl)
theorem dJ12_indexOfSupplementary_70 : decode cJ12_indexOfSupplementary 70 = .ok (.ireturn, 1) := dk_172 (dk_at dksJ12_indexOfSupplementary_3 4 rfl rfl)
theorem q119 : (Jvm.Cond.initialized "java/lang/StringUTF16") ∈ lw_all := lw_g (lw_at lw_m1 17 rfl) rfl
theorem q392 : (Jvm.Cond.static ({ cls := "java/lang/StringUTF16", name := "newBytesFor", desc := "(I)[B" } : Jvm.MethodName)) ∈ lw_all := lw_g (lw_at lw_m2 50 rfl) rfl
theorem q393 : (Jvm.Cond.code ({ cls := "java/lang/StringUTF16", name := "newBytesFor", desc := "(I)[B" } : Jvm.MethodName) prog_38_method_2_code (1 : Nat) (Option.some (Jvm.ClassFile.FieldType.array Jvm.ClassFile.FieldType.byte))) ∈ lw_all := lw_g (lw_at lw_m2 51 rfl) rfl
theorem q394 : (Jvm.Cond.methodLink "java/lang/StringUTF16" (11 : Nat) ({ cls := "java/lang/StringUTF16", name := "newBytesLength", desc := "(I)I" } : Jvm.MethodName)) ∈ lw_all := lw_g (lw_at lw_m2 52 rfl) rfl
theorem q395 : (Jvm.Cond.static ({ cls := "java/lang/StringUTF16", name := "newBytesLength", desc := "(I)I" } : Jvm.MethodName)) ∈ lw_all := lw_g (lw_at lw_m2 53 rfl) rfl
theorem q396 : (Jvm.Cond.code ({ cls := "java/lang/StringUTF16", name := "newBytesLength", desc := "(I)I" } : Jvm.MethodName) prog_38_method_3_code (1 : Nat) (Option.some Jvm.ClassFile.FieldType.int)) ∈ lw_all := lw_g (lw_at lw_m2 54 rfl) rfl
theorem q397 : (Jvm.Cond.constant "java/lang/StringUTF16" (20 : Nat) (1073741823 : Int32)) ∈ lw_all := lw_g (lw_at lw_m2 55 rfl) rfl
theorem q701 : (Jvm.Cond.static ({ cls := "java/lang/StringUTF16", name := "putCharsAt", desc := "([BICCCC)I" } : Jvm.MethodName)) ∈ lw_all := lw_g (lw_at lw_m3 119 rfl) rfl
theorem q702 : (Jvm.Cond.code ({ cls := "java/lang/StringUTF16", name := "putCharsAt", desc := "([BICCCC)I" } : Jvm.MethodName) prog_38_method_81_code (7 : Nat) (Option.some Jvm.ClassFile.FieldType.int)) ∈ lw_all := lw_g (lw_at lw_m3 120 rfl) rfl
theorem q703 : (Jvm.Cond.methodLink "java/lang/StringUTF16" (96 : Nat) ({ cls := "java/lang/StringUTF16", name := "checkBoundsBeginEnd", desc := "(II[B)V" } : Jvm.MethodName)) ∈ lw_all := lw_g (lw_at lw_m3 121 rfl) rfl
theorem q704 : (Jvm.Cond.static ({ cls := "java/lang/StringUTF16", name := "checkBoundsBeginEnd", desc := "(II[B)V" } : Jvm.MethodName)) ∈ lw_all := lw_g (lw_at lw_m3 122 rfl) rfl
theorem q705 : (Jvm.Cond.code ({ cls := "java/lang/StringUTF16", name := "checkBoundsBeginEnd", desc := "(II[B)V" } : Jvm.MethodName) prog_38_method_93_code (3 : Nat) (Option.none : Option Jvm.ClassFile.FieldType)) ∈ lw_all := lw_g (lw_at lw_m3 123 rfl) rfl
theorem q706 : (Jvm.Cond.methodLink "java/lang/StringUTF16" (48 : Nat) ({ cls := "java/lang/StringUTF16", name := "length", desc := "([B)I" } : Jvm.MethodName)) ∈ lw_all := lw_g (lw_at lw_m3 124 rfl) rfl
theorem q707 : (Jvm.Cond.static ({ cls := "java/lang/StringUTF16", name := "length", desc := "([B)I" } : Jvm.MethodName)) ∈ lw_all := lw_g (lw_at lw_m3 125 rfl) rfl
theorem q708 : (Jvm.Cond.code ({ cls := "java/lang/StringUTF16", name := "length", desc := "([B)I" } : Jvm.MethodName) prog_38_method_6_code (1 : Nat) (Option.some Jvm.ClassFile.FieldType.int)) ∈ lw_all := lw_g (lw_at lw_m3 126 rfl) rfl
theorem q709 : (Jvm.Cond.methodLink "java/lang/StringUTF16" (241 : Nat) ({ cls := "java/lang/String", name := "checkBoundsBeginEnd", desc := "(III)V" } : Jvm.MethodName)) ∈ lw_all := lw_g (lw_at lw_m3 127 rfl) rfl
theorem q717 : (Jvm.Cond.methodLink "java/lang/StringUTF16" (111 : Nat) ({ cls := "java/lang/StringUTF16", name := "putChar", desc := "([BII)V" } : Jvm.MethodName)) ∈ lw_all := lw_g (lw_at lw_m3 135 rfl) rfl
theorem q718 : (Jvm.Cond.static ({ cls := "java/lang/StringUTF16", name := "putChar", desc := "([BII)V" } : Jvm.MethodName)) ∈ lw_all := lw_g (lw_at lw_m3 136 rfl) rfl
theorem q719 : (Jvm.Cond.code ({ cls := "java/lang/StringUTF16", name := "putChar", desc := "([BII)V" } : Jvm.MethodName) prog_38_method_4_code (3 : Nat) (Option.none : Option Jvm.ClassFile.FieldType)) ∈ lw_all := lw_g (lw_at lw_m3 137 rfl) rfl
theorem q720 : (Jvm.Cond.fieldLink "java/lang/StringUTF16" (44 : Nat) "java/lang/StringUTF16" "$assertionsDisabled" "Z") ∈ lw_all := lw_g (lw_at lw_m3 138 rfl) rfl
theorem q721 : (Jvm.Cond.laysStatic "java/lang/StringUTF16" "$assertionsDisabled" "Z") ∈ lw_tbl := lw_at lw_m3 139 rfl
theorem q722 : (Jvm.Cond.fieldLink "java/lang/StringUTF16" (59 : Nat) "java/lang/StringUTF16" "HI_BYTE_SHIFT" "I") ∈ lw_all := lw_g (lw_at lw_m3 140 rfl) rfl
theorem q723 : (Jvm.Cond.laysStatic "java/lang/StringUTF16" "HI_BYTE_SHIFT" "I") ∈ lw_tbl := lw_at lw_m3 141 rfl
theorem q724 : (Jvm.Cond.fieldLink "java/lang/StringUTF16" (63 : Nat) "java/lang/StringUTF16" "LO_BYTE_SHIFT" "I") ∈ lw_all := lw_g (lw_at lw_m3 142 rfl) rfl
theorem q725 : (Jvm.Cond.laysStatic "java/lang/StringUTF16" "LO_BYTE_SHIFT" "I") ∈ lw_tbl := lw_at lw_m3 143 rfl
theorem q752 : (Jvm.Cond.static ({ cls := "java/lang/StringUTF16", name := "inflate", desc := "([BI[BII)V" } : Jvm.MethodName)) ∈ lw_all := lw_g (lw_at lw_m3 170 rfl) rfl
theorem q753 : (Jvm.Cond.code ({ cls := "java/lang/StringUTF16", name := "inflate", desc := "([BI[BII)V" } : Jvm.MethodName) prog_38_method_86_code (6 : Nat) (Option.none : Option Jvm.ClassFile.FieldType)) ∈ lw_all := lw_g (lw_at lw_m3 171 rfl) rfl
theorem q754 : (Jvm.Cond.methodLink "java/lang/StringUTF16" (173 : Nat) ({ cls := "java/lang/StringUTF16", name := "checkBoundsOffCount", desc := "(II[B)V" } : Jvm.MethodName)) ∈ lw_all := lw_g (lw_at lw_m3 172 rfl) rfl
theorem q755 : (Jvm.Cond.static ({ cls := "java/lang/StringUTF16", name := "checkBoundsOffCount", desc := "(II[B)V" } : Jvm.MethodName)) ∈ lw_all := lw_g (lw_at lw_m3 173 rfl) rfl
theorem q756 : (Jvm.Cond.code ({ cls := "java/lang/StringUTF16", name := "checkBoundsOffCount", desc := "(II[B)V" } : Jvm.MethodName) prog_38_method_94_code (3 : Nat) (Option.none : Option Jvm.ClassFile.FieldType)) ∈ lw_all := lw_g (lw_at lw_m3 174 rfl) rfl
theorem q757 : (Jvm.Cond.methodLink "java/lang/StringUTF16" (419 : Nat) ({ cls := "java/lang/String", name := "checkBoundsOffCount", desc := "(III)I" } : Jvm.MethodName)) ∈ lw_all := lw_g (lw_at lw_m3 175 rfl) rfl
theorem q787 : (Jvm.Cond.static ({ cls := "java/lang/StringUTF16", name := "getChars", desc := "(III[B)I" } : Jvm.MethodName)) ∈ lw_all := lw_g (lw_at lw_m3 205 rfl) rfl
theorem q788 : (Jvm.Cond.code ({ cls := "java/lang/StringUTF16", name := "getChars", desc := "(III[B)I" } : Jvm.MethodName) prog_38_method_77_code (5 : Nat) (Option.some Jvm.ClassFile.FieldType.int)) ∈ lw_all := lw_g (lw_at lw_m3 206 rfl) rfl
theorem q789 : (Jvm.Cond.methodLink "java/lang/StringUTF16" (393 : Nat) ({ cls := "java/lang/StringUTF16", name := "getChars", desc := "(II[B)I" } : Jvm.MethodName)) ∈ lw_all := lw_g (lw_at lw_m3 207 rfl) rfl
theorem q790 : (Jvm.Cond.static ({ cls := "java/lang/StringUTF16", name := "getChars", desc := "(II[B)I" } : Jvm.MethodName)) ∈ lw_all := lw_g (lw_at lw_m3 208 rfl) rfl
theorem q791 : (Jvm.Cond.code ({ cls := "java/lang/StringUTF16", name := "getChars", desc := "(II[B)I" } : Jvm.MethodName) prog_38_method_89_code (7 : Nat) (Option.some Jvm.ClassFile.FieldType.int)) ∈ lw_all := lw_g (lw_at lw_m3 209 rfl) rfl
theorem q792 : (Jvm.Cond.fieldLink "java/lang/StringUTF16" (403 : Nat) "java/lang/Integer" "DigitOnes" "[B") ∈ lw_all := lw_g (lw_at lw_m3 210 rfl) rfl
theorem q793 : (Jvm.Cond.fieldLink "java/lang/StringUTF16" (407 : Nat) "java/lang/Integer" "DigitTens" "[B") ∈ lw_all := lw_g (lw_at lw_m3 211 rfl) rfl
theorem q872 : (Jvm.Cond.static ({ cls := "java/lang/StringUTF16", name := "compress", desc := "([BII)[B" } : Jvm.MethodName)) ∈ lw_all := lw_g (lw_at lw_m4 50 rfl) rfl
theorem q873 : (Jvm.Cond.code ({ cls := "java/lang/StringUTF16", name := "compress", desc := "([BII)[B" } : Jvm.MethodName) prog_38_method_17_code (6 : Nat) (Option.some (Jvm.ClassFile.FieldType.array Jvm.ClassFile.FieldType.byte))) ∈ lw_all := lw_g (lw_at lw_m4 51 rfl) rfl
theorem q874 : (Jvm.Cond.methodLink "java/lang/StringUTF16" (123 : Nat) ({ cls := "java/lang/StringUTF16", name := "compress", desc := "([BI[BII)I" } : Jvm.MethodName)) ∈ lw_all := lw_g (lw_at lw_m4 52 rfl) rfl
theorem q875 : (Jvm.Cond.static ({ cls := "java/lang/StringUTF16", name := "compress", desc := "([BI[BII)I" } : Jvm.MethodName)) ∈ lw_all := lw_g (lw_at lw_m4 53 rfl) rfl
theorem q876 : (Jvm.Cond.code ({ cls := "java/lang/StringUTF16", name := "compress", desc := "([BI[BII)I" } : Jvm.MethodName) prog_38_method_22_code (7 : Nat) (Option.some Jvm.ClassFile.FieldType.int)) ∈ lw_all := lw_g (lw_at lw_m4 54 rfl) rfl
theorem q877 : (Jvm.Cond.methodLink "java/lang/StringUTF16" (71 : Nat) ({ cls := "java/lang/StringUTF16", name := "getChar", desc := "([BI)C" } : Jvm.MethodName)) ∈ lw_all := lw_g (lw_at lw_m4 55 rfl) rfl
theorem q878 : (Jvm.Cond.static ({ cls := "java/lang/StringUTF16", name := "getChar", desc := "([BI)C" } : Jvm.MethodName)) ∈ lw_all := lw_g (lw_at lw_m4 56 rfl) rfl
theorem q879 : (Jvm.Cond.code ({ cls := "java/lang/StringUTF16", name := "getChar", desc := "([BI)C" } : Jvm.MethodName) prog_38_method_5_code (2 : Nat) (Option.some Jvm.ClassFile.FieldType.char)) ∈ lw_all := lw_g (lw_at lw_m4 57 rfl) rfl
theorem q880 : (Jvm.Cond.methodLink "java/lang/StringUTF16" (126 : Nat) ({ cls := "java/util/Arrays", name := "copyOfRange", desc := "([BII)[B" } : Jvm.MethodName)) ∈ lw_all := lw_g (lw_at lw_m4 58 rfl) rfl
theorem q882 : (Jvm.Cond.static ({ cls := "java/lang/StringUTF16", name := "coderFromArrayLen", desc := "([BI)B" } : Jvm.MethodName)) ∈ lw_all := lw_g (lw_at lw_m4 60 rfl) rfl
theorem q883 : (Jvm.Cond.code ({ cls := "java/lang/StringUTF16", name := "coderFromArrayLen", desc := "([BI)B" } : Jvm.MethodName) prog_38_method_15_code (2 : Nat) (Option.some Jvm.ClassFile.FieldType.byte)) ∈ lw_all := lw_g (lw_at lw_m4 61 rfl) rfl
theorem q1542 : (Jvm.Cond.static ({ cls := "java/lang/StringUTF16", name := "hashCode", desc := "([B)I" } : Jvm.MethodName)) ∈ lw_all := lw_g (lw_at lw_m7 0 rfl) rfl
theorem q1543 : (Jvm.Cond.code ({ cls := "java/lang/StringUTF16", name := "hashCode", desc := "([B)I" } : Jvm.MethodName) prog_38_method_39_code (1 : Nat) (Option.some Jvm.ClassFile.FieldType.int)) ∈ lw_all := lw_g (lw_at lw_m7 1 rfl) rfl
theorem q1544 : (Jvm.Cond.methodLink "java/lang/StringUTF16" (220 : Nat) ({ cls := "jdk/internal/util/ArraysSupport", name := "vectorizedHashCode", desc := "(Ljava/lang/Object;IIII)I" } : Jvm.MethodName)) ∈ lw_all := lw_g (lw_at lw_m7 2 rfl) rfl
theorem q2283 : (Jvm.Cond.static ({ cls := "java/lang/StringUTF16", name := "putCharSB", desc := "([BII)V" } : Jvm.MethodName)) ∈ lw_all := lw_g (lw_at lw_m10 21 rfl) rfl
theorem q2284 : (Jvm.Cond.code ({ cls := "java/lang/StringUTF16", name := "putCharSB", desc := "([BII)V" } : Jvm.MethodName) prog_38_method_71_code (3 : Nat) (Option.none : Option Jvm.ClassFile.FieldType)) ∈ lw_all := lw_g (lw_at lw_m10 22 rfl) rfl
theorem q2285 : (Jvm.Cond.methodLink "java/lang/StringUTF16" (67 : Nat) ({ cls := "java/lang/StringUTF16", name := "checkIndex", desc := "(I[B)V" } : Jvm.MethodName)) ∈ lw_all := lw_g (lw_at lw_m10 23 rfl) rfl
theorem q2286 : (Jvm.Cond.static ({ cls := "java/lang/StringUTF16", name := "checkIndex", desc := "(I[B)V" } : Jvm.MethodName)) ∈ lw_all := lw_g (lw_at lw_m10 24 rfl) rfl
theorem q2287 : (Jvm.Cond.code ({ cls := "java/lang/StringUTF16", name := "checkIndex", desc := "(I[B)V" } : Jvm.MethodName) prog_38_method_91_code (2 : Nat) (Option.none : Option Jvm.ClassFile.FieldType)) ∈ lw_all := lw_g (lw_at lw_m10 25 rfl) rfl
theorem q2288 : (Jvm.Cond.methodLink "java/lang/StringUTF16" (414 : Nat) ({ cls := "java/lang/String", name := "checkIndex", desc := "(II)V" } : Jvm.MethodName)) ∈ lw_all := lw_g (lw_at lw_m10 26 rfl) rfl
theorem q2372 : (Jvm.Cond.static ({ cls := "java/lang/StringUTF16", name := "charAt", desc := "([BI)C" } : Jvm.MethodName)) ∈ lw_all := lw_g (lw_at lw_m10 110 rfl) rfl
theorem q2373 : (Jvm.Cond.code ({ cls := "java/lang/StringUTF16", name := "charAt", desc := "([BI)C" } : Jvm.MethodName) prog_38_method_83_code (2 : Nat) (Option.some Jvm.ClassFile.FieldType.char)) ∈ lw_all := lw_g (lw_at lw_m10 111 rfl) rfl
theorem q3077 : (Jvm.Cond.static ({ cls := "java/lang/StringUTF16", name := "indexOf", desc := "([BIII)I" } : Jvm.MethodName)) ∈ lw_all := lw_g (lw_at lw_m13 95 rfl) rfl
theorem q3078 : (Jvm.Cond.code ({ cls := "java/lang/StringUTF16", name := "indexOf", desc := "([BIII)I" } : Jvm.MethodName) prog_38_method_40_code (4 : Nat) (Option.some Jvm.ClassFile.FieldType.int)) ∈ lw_all := lw_g (lw_at lw_m13 96 rfl) rfl
theorem q3079 : (Jvm.Cond.methodLink "java/lang/StringUTF16" (224 : Nat) ({ cls := "java/lang/Math", name := "max", desc := "(II)I" } : Jvm.MethodName)) ∈ lw_all := lw_g (lw_at lw_m13 97 rfl) rfl
theorem q3080 : (Jvm.Cond.methodLink "java/lang/StringUTF16" (183 : Nat) ({ cls := "java/lang/Math", name := "min", desc := "(II)I" } : Jvm.MethodName)) ∈ lw_all := lw_g (lw_at lw_m13 98 rfl) rfl
theorem q3081 : (Jvm.Cond.constant "java/lang/StringUTF16" (227 : Nat) (65536 : Int32)) ∈ lw_all := lw_g (lw_at lw_m13 99 rfl) rfl
theorem q3082 : (Jvm.Cond.methodLink "java/lang/StringUTF16" (228 : Nat) ({ cls := "java/lang/StringUTF16", name := "indexOfChar", desc := "([BIII)I" } : Jvm.MethodName)) ∈ lw_all := lw_g (lw_at lw_m13 100 rfl) rfl
theorem q3083 : (Jvm.Cond.static ({ cls := "java/lang/StringUTF16", name := "indexOfChar", desc := "([BIII)I" } : Jvm.MethodName)) ∈ lw_all := lw_g (lw_at lw_m13 101 rfl) rfl
theorem q3084 : (Jvm.Cond.code ({ cls := "java/lang/StringUTF16", name := "indexOfChar", desc := "([BIII)I" } : Jvm.MethodName) prog_38_method_47_code (4 : Nat) (Option.some Jvm.ClassFile.FieldType.int)) ∈ lw_all := lw_g (lw_at lw_m13 102 rfl) rfl
theorem q3085 : (Jvm.Cond.methodLink "java/lang/StringUTF16" (244 : Nat) ({ cls := "java/lang/StringUTF16", name := "indexOfCharUnsafe", desc := "([BIII)I" } : Jvm.MethodName)) ∈ lw_all := lw_g (lw_at lw_m13 103 rfl) rfl
theorem q3086 : (Jvm.Cond.static ({ cls := "java/lang/StringUTF16", name := "indexOfCharUnsafe", desc := "([BIII)I" } : Jvm.MethodName)) ∈ lw_all := lw_g (lw_at lw_m13 104 rfl) rfl
theorem q3087 : (Jvm.Cond.code ({ cls := "java/lang/StringUTF16", name := "indexOfCharUnsafe", desc := "([BIII)I" } : Jvm.MethodName) prog_38_method_48_code (5 : Nat) (Option.some Jvm.ClassFile.FieldType.int)) ∈ lw_all := lw_g (lw_at lw_m13 105 rfl) rfl
theorem q3088 : (Jvm.Cond.methodLink "java/lang/StringUTF16" (232 : Nat) ({ cls := "java/lang/StringUTF16", name := "indexOfSupplementary", desc := "([BIII)I" } : Jvm.MethodName)) ∈ lw_all := lw_g (lw_at lw_m13 106 rfl) rfl
theorem q3089 : (Jvm.Cond.static ({ cls := "java/lang/StringUTF16", name := "indexOfSupplementary", desc := "([BIII)I" } : Jvm.MethodName)) ∈ lw_all := lw_g (lw_at lw_m13 107 rfl) rfl
theorem q3090 : (Jvm.Cond.code ({ cls := "java/lang/StringUTF16", name := "indexOfSupplementary", desc := "([BIII)I" } : Jvm.MethodName) prog_38_method_49_code (7 : Nat) (Option.some Jvm.ClassFile.FieldType.int)) ∈ lw_all := lw_g (lw_at lw_m13 108 rfl) rfl
theorem q3091 : (Jvm.Cond.methodLink "java/lang/StringUTF16" (164 : Nat) ({ cls := "java/lang/Character", name := "isValidCodePoint", desc := "(I)Z" } : Jvm.MethodName)) ∈ lw_all := lw_g (lw_at lw_m13 109 rfl) rfl
theorem q3094 : (Jvm.Cond.methodLink "java/lang/StringUTF16" (157 : Nat) ({ cls := "java/lang/Character", name := "highSurrogate", desc := "(I)C" } : Jvm.MethodName)) ∈ lw_all := lw_g (lw_at lw_m13 112 rfl) rfl
theorem q3098 : (Jvm.Cond.methodLink "java/lang/StringUTF16" (161 : Nat) ({ cls := "java/lang/Character", name := "lowSurrogate", desc := "(I)C" } : Jvm.MethodName)) ∈ lw_all := lw_g (lw_at lw_m13 116 rfl) rfl
/-! java/lang/Throwable -/
set_option maxRecDepth 100000
def RJ13 : String := "java/lang/Throwable"
def TJ13 : u_T := fun k => match k with
  | 0 => ("java/lang/Throwable", "cause", "Ljava/lang/Throwable;", false)
  | 1 => ("java/lang/Throwable", "stackTrace", "[Ljava/lang/StackTraceElement;", false)
  | 2 => ("java/lang/Throwable", "suppressedExceptions", "Ljava/util/List;", false)
  | 3 => ("java/lang/Throwable", "detailMessage", "Ljava/lang/String;", false)
  | _ => ("java/lang/Throwable", "backtrace", "Ljava/lang/Object;", false)
def tyJ13 : Nat → FieldType := fun k => match k with
  | 0 => .object "java/lang/Throwable"
  | 1 => .array (.object "java/lang/StackTraceElement")
  | 2 => .object "java/util/List"
  | 3 => .object "java/lang/String"
  | _ => .object "java/lang/Object"
abbrev wsJ130 : List Cond := u_ws RJ13 TJ13 5
theorem nmJ13 : ∀ a, a < 5 → ∀ b, b < 5 → a ≠ b → (TJ13 a).2.1 ≠ (TJ13 b).2.1 := by decide +kernel
theorem tyJ13_ok : ∀ k, k < 5 → parseFieldDescriptor (TJ13 k).2.2.1 = some (tyJ13 k) := by decide +kernel
abbrev cJ13_init : ByteArray := prog_41_method_1_code
def yJ13_init : MethodName := ⟨RJ13, "<init>", "()V"⟩
def dkwJ13_init_1 : List UInt8 := [182, 0, 27, 87, 177]
abbrev dktJ13_init_1 : List UInt8 := dkwJ13_init_1 ++ []
def dkwJ13_init_0 : List UInt8 := [42, 183, 0, 1, 42, 42, 181, 0, 7, 42, 178, 0, 13, 181, 0, 17, 42, 178, 0, 20, 181, 0, 24, 42]
abbrev dktJ13_init_0 : List UInt8 := dkwJ13_init_0 ++ dktJ13_init_1
theorem dksJ13_init_0 : cJ13_init.data.toList.drop 0 = dktJ13_init_0 := by decide +kernel
theorem dksJ13_init_1 : cJ13_init.data.toList.drop 24 = dktJ13_init_1 := dk_seg dksJ13_init_0 24 rfl rfl
theorem dJ13_init_0 : decode cJ13_init 0 = .ok (.aload_n 0, 1) := dk_42 (dk_at dksJ13_init_0 0 rfl rfl)
theorem dJ13_init_1 : decode cJ13_init 1 = .ok (.invokespecial 1, 3) := dk_183 0 1 (dk_at dksJ13_init_0 1 rfl rfl)
theorem dJ13_init_4 : decode cJ13_init 4 = .ok (.aload_n 0, 1) := dk_42 (dk_at dksJ13_init_0 4 rfl rfl)
theorem dJ13_init_5 : decode cJ13_init 5 = .ok (.aload_n 0, 1) := dk_42 (dk_at dksJ13_init_0 5 rfl rfl)
theorem dJ13_init_6 : decode cJ13_init 6 = .ok (.putfield 7, 3) := dk_181 0 7 (dk_at dksJ13_init_0 6 rfl rfl)
theorem dJ13_init_9 : decode cJ13_init 9 = .ok (.aload_n 0, 1) := dk_42 (dk_at dksJ13_init_0 9 rfl rfl)
theorem dJ13_init_10 : decode cJ13_init 10 = .ok (.getstatic 13, 3) := dk_178 0 13 (dk_at dksJ13_init_0 10 rfl rfl)
theorem dJ13_init_13 : decode cJ13_init 13 = .ok (.putfield 17, 3) := dk_181 0 17 (dk_at dksJ13_init_0 13 rfl rfl)
theorem dJ13_init_16 : decode cJ13_init 16 = .ok (.aload_n 0, 1) := dk_42 (dk_at dksJ13_init_0 16 rfl rfl)
theorem dJ13_init_17 : decode cJ13_init 17 = .ok (.getstatic 20, 3) := dk_178 0 20 (dk_at dksJ13_init_0 17 rfl rfl)
theorem dJ13_init_20 : decode cJ13_init 20 = .ok (.putfield 24, 3) := dk_181 0 24 (dk_at dksJ13_init_0 20 rfl rfl)
theorem dJ13_init_23 : decode cJ13_init 23 = .ok (.aload_n 0, 1) := dk_42 (dk_at dksJ13_init_0 23 rfl rfl)
theorem dJ13_init_24 : decode cJ13_init 24 = .ok (.invokevirtual 27, 3) := dk_182 0 27 (dk_at dksJ13_init_1 0 rfl rfl)
theorem dJ13_init_27 : decode cJ13_init 27 = .ok (.pop, 1) := dk_87 (dk_at dksJ13_init_1 3 rfl rfl)
theorem dJ13_init_28 : decode cJ13_init 28 = .ok (.return_, 1) := dk_177 (dk_at dksJ13_init_1 4 rfl rfl)
abbrev cJ13_init_2 : ByteArray := prog_41_method_2_code
def yJ13_init_2 : MethodName := ⟨RJ13, "<init>", "(Ljava/lang/String;)V"⟩
def dkwJ13_init_2_1 : List UInt8 := [182, 0, 27, 87, 42, 43, 181, 0, 31, 177]
abbrev dktJ13_init_2_1 : List UInt8 := dkwJ13_init_2_1 ++ []
def dkwJ13_init_2_0 : List UInt8 := [42, 183, 0, 1, 42, 42, 181, 0, 7, 42, 178, 0, 13, 181, 0, 17, 42, 178, 0, 20, 181, 0, 24, 42]
abbrev dktJ13_init_2_0 : List UInt8 := dkwJ13_init_2_0 ++ dktJ13_init_2_1
theorem dksJ13_init_2_0 : cJ13_init_2.data.toList.drop 0 = dktJ13_init_2_0 := by decide +kernel
theorem dksJ13_init_2_1 : cJ13_init_2.data.toList.drop 24 = dktJ13_init_2_1 := dk_seg dksJ13_init_2_0 24 rfl rfl
theorem dJ13_init_2_0 : decode cJ13_init_2 0 = .ok (.aload_n 0, 1) := dk_42 (dk_at dksJ13_init_2_0 0 rfl rfl)
theorem dJ13_init_2_1 : decode cJ13_init_2 1 = .ok (.invokespecial 1, 3) := dk_183 0 1 (dk_at dksJ13_init_2_0 1 rfl rfl)
theorem dJ13_init_2_4 : decode cJ13_init_2 4 = .ok (.aload_n 0, 1) := dk_42 (dk_at dksJ13_init_2_0 4 rfl rfl)
theorem dJ13_init_2_5 : decode cJ13_init_2 5 = .ok (.aload_n 0, 1) := dk_42 (dk_at dksJ13_init_2_0 5 rfl rfl)
theorem dJ13_init_2_6 : decode cJ13_init_2 6 = .ok (.putfield 7, 3) := dk_181 0 7 (dk_at dksJ13_init_2_0 6 rfl rfl)
theorem dJ13_init_2_9 : decode cJ13_init_2 9 = .ok (.aload_n 0, 1) := dk_42 (dk_at dksJ13_init_2_0 9 rfl rfl)
theorem dJ13_init_2_10 : decode cJ13_init_2 10 = .ok (.getstatic 13, 3) := dk_178 0 13 (dk_at dksJ13_init_2_0 10 rfl rfl)
theorem dJ13_init_2_13 : decode cJ13_init_2 13 = .ok (.putfield 17, 3) := dk_181 0 17 (dk_at dksJ13_init_2_0 13 rfl rfl)
theorem dJ13_init_2_16 : decode cJ13_init_2 16 = .ok (.aload_n 0, 1) := dk_42 (dk_at dksJ13_init_2_0 16 rfl rfl)
theorem dJ13_init_2_17 : decode cJ13_init_2 17 = .ok (.getstatic 20, 3) := dk_178 0 20 (dk_at dksJ13_init_2_0 17 rfl rfl)
theorem dJ13_init_2_20 : decode cJ13_init_2 20 = .ok (.putfield 24, 3) := dk_181 0 24 (dk_at dksJ13_init_2_0 20 rfl rfl)
theorem dJ13_init_2_23 : decode cJ13_init_2 23 = .ok (.aload_n 0, 1) := dk_42 (dk_at dksJ13_init_2_0 23 rfl rfl)
theorem dJ13_init_2_24 : decode cJ13_init_2 24 = .ok (.invokevirtual 27, 3) := dk_182 0 27 (dk_at dksJ13_init_2_1 0 rfl rfl)
theorem dJ13_init_2_27 : decode cJ13_init_2 27 = .ok (.pop, 1) := dk_87 (dk_at dksJ13_init_2_1 3 rfl rfl)
theorem dJ13_init_2_28 : decode cJ13_init_2 28 = .ok (.aload_n 0, 1) := dk_42 (dk_at dksJ13_init_2_1 4 rfl rfl)
theorem dJ13_init_2_29 : decode cJ13_init_2 29 = .ok (.aload_n 1, 1) := dk_43 (dk_at dksJ13_init_2_1 5 rfl rfl)
theorem dJ13_init_2_30 : decode cJ13_init_2 30 = .ok (.putfield 31, 3) := dk_181 0 31 (dk_at dksJ13_init_2_1 6 rfl rfl)
theorem dJ13_init_2_33 : decode cJ13_init_2 33 = .ok (.return_, 1) := dk_177 (dk_at dksJ13_init_2_1 9 rfl rfl)
abbrev cJ13_init_3 : ByteArray := prog_41_method_4_code
def yJ13_init_3 : MethodName := ⟨RJ13, "<init>", "(Ljava/lang/Throwable;)V"⟩
def dkwJ13_init_3_2 : List UInt8 := [181, 0, 7, 177]
abbrev dktJ13_init_3_2 : List UInt8 := dkwJ13_init_3_2 ++ []
def dkwJ13_init_3_1 : List UInt8 := [182, 0, 27, 87, 42, 43, 199, 0, 7, 1, 167, 0, 7, 43, 182, 0, 35, 181, 0, 31, 42, 43]
abbrev dktJ13_init_3_1 : List UInt8 := dkwJ13_init_3_1 ++ dktJ13_init_3_2
def dkwJ13_init_3_0 : List UInt8 := [42, 183, 0, 1, 42, 42, 181, 0, 7, 42, 178, 0, 13, 181, 0, 17, 42, 178, 0, 20, 181, 0, 24, 42]
abbrev dktJ13_init_3_0 : List UInt8 := dkwJ13_init_3_0 ++ dktJ13_init_3_1
theorem dksJ13_init_3_0 : cJ13_init_3.data.toList.drop 0 = dktJ13_init_3_0 := by decide +kernel
theorem dksJ13_init_3_1 : cJ13_init_3.data.toList.drop 24 = dktJ13_init_3_1 := dk_seg dksJ13_init_3_0 24 rfl rfl
theorem dksJ13_init_3_2 : cJ13_init_3.data.toList.drop 46 = dktJ13_init_3_2 := dk_seg dksJ13_init_3_1 22 rfl rfl
theorem dJ13_init_3_0 : decode cJ13_init_3 0 = .ok (.aload_n 0, 1) := dk_42 (dk_at dksJ13_init_3_0 0 rfl rfl)
theorem dJ13_init_3_1 : decode cJ13_init_3 1 = .ok (.invokespecial 1, 3) := dk_183 0 1 (dk_at dksJ13_init_3_0 1 rfl rfl)
theorem dJ13_init_3_4 : decode cJ13_init_3 4 = .ok (.aload_n 0, 1) := dk_42 (dk_at dksJ13_init_3_0 4 rfl rfl)
theorem dJ13_init_3_5 : decode cJ13_init_3 5 = .ok (.aload_n 0, 1) := dk_42 (dk_at dksJ13_init_3_0 5 rfl rfl)
theorem dJ13_init_3_6 : decode cJ13_init_3 6 = .ok (.putfield 7, 3) := dk_181 0 7 (dk_at dksJ13_init_3_0 6 rfl rfl)
theorem dJ13_init_3_9 : decode cJ13_init_3 9 = .ok (.aload_n 0, 1) := dk_42 (dk_at dksJ13_init_3_0 9 rfl rfl)
theorem dJ13_init_3_10 : decode cJ13_init_3 10 = .ok (.getstatic 13, 3) := dk_178 0 13 (dk_at dksJ13_init_3_0 10 rfl rfl)
theorem dJ13_init_3_13 : decode cJ13_init_3 13 = .ok (.putfield 17, 3) := dk_181 0 17 (dk_at dksJ13_init_3_0 13 rfl rfl)
theorem dJ13_init_3_16 : decode cJ13_init_3 16 = .ok (.aload_n 0, 1) := dk_42 (dk_at dksJ13_init_3_0 16 rfl rfl)
theorem dJ13_init_3_17 : decode cJ13_init_3 17 = .ok (.getstatic 20, 3) := dk_178 0 20 (dk_at dksJ13_init_3_0 17 rfl rfl)
theorem dJ13_init_3_20 : decode cJ13_init_3 20 = .ok (.putfield 24, 3) := dk_181 0 24 (dk_at dksJ13_init_3_0 20 rfl rfl)
theorem dJ13_init_3_23 : decode cJ13_init_3 23 = .ok (.aload_n 0, 1) := dk_42 (dk_at dksJ13_init_3_0 23 rfl rfl)
theorem dJ13_init_3_24 : decode cJ13_init_3 24 = .ok (.invokevirtual 27, 3) := dk_182 0 27 (dk_at dksJ13_init_3_1 0 rfl rfl)
theorem dJ13_init_3_27 : decode cJ13_init_3 27 = .ok (.pop, 1) := dk_87 (dk_at dksJ13_init_3_1 3 rfl rfl)
theorem dJ13_init_3_28 : decode cJ13_init_3 28 = .ok (.aload_n 0, 1) := dk_42 (dk_at dksJ13_init_3_1 4 rfl rfl)
theorem dJ13_init_3_29 : decode cJ13_init_3 29 = .ok (.aload_n 1, 1) := dk_43 (dk_at dksJ13_init_3_1 5 rfl rfl)
theorem dJ13_init_3_30 : decode cJ13_init_3 30 = .ok (.ifnonnull 7, 3) := dk_199 0 7 (dk_at dksJ13_init_3_1 6 rfl rfl)
theorem dJ13_init_3_33 : decode cJ13_init_3 33 = .ok (.aconst_null, 1) := dk_1 (dk_at dksJ13_init_3_1 9 rfl rfl)
theorem dJ13_init_3_34 : decode cJ13_init_3 34 = .ok (.goto 7, 3) := dk_167 0 7 (dk_at dksJ13_init_3_1 10 rfl rfl)
theorem dJ13_init_3_37 : decode cJ13_init_3 37 = .ok (.aload_n 1, 1) := dk_43 (dk_at dksJ13_init_3_1 13 rfl rfl)
theorem dJ13_init_3_38 : decode cJ13_init_3 38 = .ok (.invokevirtual 35, 3) := dk_182 0 35 (dk_at dksJ13_init_3_1 14 rfl rfl)
theorem dJ13_init_3_41 : decode cJ13_init_3 41 = .ok (.putfield 31, 3) := dk_181 0 31 (dk_at dksJ13_init_3_1 17 rfl rfl)
theorem dJ13_init_3_44 : decode cJ13_init_3 44 = .ok (.aload_n 0, 1) := dk_42 (dk_at dksJ13_init_3_1 20 rfl rfl)
theorem dJ13_init_3_45 : decode cJ13_init_3 45 = .ok (.aload_n 1, 1) := dk_43 (dk_at dksJ13_init_3_1 21 rfl rfl)
theorem dJ13_init_3_46 : decode cJ13_init_3 46 = .ok (.putfield 7, 3) := dk_181 0 7 (dk_at dksJ13_init_3_2 0 rfl rfl)
theorem dJ13_init_3_49 : decode cJ13_init_3 49 = .ok (.return_, 1) := dk_177 (dk_at dksJ13_init_3_2 3 rfl rfl)
abbrev cJ13_toString : ByteArray := prog_41_method_11_code
def yJ13_toString : MethodName := ⟨RJ13, "toString", "()Ljava/lang/String;"⟩
def dkwJ13_toString_1 : List UInt8 := [43, 182, 0, 49, 18, 81, 182, 0, 49, 44, 182, 0, 49, 182, 0, 60, 167, 0, 4, 43, 176]
abbrev dktJ13_toString_1 : List UInt8 := dkwJ13_toString_1 ++ []
def dkwJ13_toString_0 : List UInt8 := [42, 182, 0, 69, 182, 0, 73, 76, 42, 182, 0, 78, 77, 44, 198, 0, 29, 187, 0, 44, 89, 183, 0, 46]
abbrev dktJ13_toString_0 : List UInt8 := dkwJ13_toString_0 ++ dktJ13_toString_1
theorem dksJ13_toString_0 : cJ13_toString.data.toList.drop 0 = dktJ13_toString_0 := by decide +kernel
theorem dksJ13_toString_1 : cJ13_toString.data.toList.drop 24 = dktJ13_toString_1 := dk_seg dksJ13_toString_0 24 rfl rfl
theorem dJ13_toString_0 : decode cJ13_toString 0 = .ok (.aload_n 0, 1) := dk_42 (dk_at dksJ13_toString_0 0 rfl rfl)
theorem dJ13_toString_1 : decode cJ13_toString 1 = .ok (.invokevirtual 69, 3) := dk_182 0 69 (dk_at dksJ13_toString_0 1 rfl rfl)
theorem dJ13_toString_4 : decode cJ13_toString 4 = .ok (.invokevirtual 73, 3) := dk_182 0 73 (dk_at dksJ13_toString_0 4 rfl rfl)
theorem dJ13_toString_7 : decode cJ13_toString 7 = .ok (.astore_n 1, 1) := dk_76 (dk_at dksJ13_toString_0 7 rfl rfl)
theorem dJ13_toString_8 : decode cJ13_toString 8 = .ok (.aload_n 0, 1) := dk_42 (dk_at dksJ13_toString_0 8 rfl rfl)
theorem dJ13_toString_9 : decode cJ13_toString 9 = .ok (.invokevirtual 78, 3) := dk_182 0 78 (dk_at dksJ13_toString_0 9 rfl rfl)
theorem dJ13_toString_12 : decode cJ13_toString 12 = .ok (.astore_n 2, 1) := dk_77 (dk_at dksJ13_toString_0 12 rfl rfl)
theorem dJ13_toString_13 : decode cJ13_toString 13 = .ok (.aload_n 2, 1) := dk_44 (dk_at dksJ13_toString_0 13 rfl rfl)
theorem dJ13_toString_14 : decode cJ13_toString 14 = .ok (.ifnull 29, 3) := dk_198 0 29 (dk_at dksJ13_toString_0 14 rfl rfl)
theorem dJ13_toString_17 : decode cJ13_toString 17 = .ok (.new 44, 3) := dk_187 0 44 (dk_at dksJ13_toString_0 17 rfl rfl)
theorem dJ13_toString_20 : decode cJ13_toString 20 = .ok (.dup, 1) := dk_89 (dk_at dksJ13_toString_0 20 rfl rfl)
theorem dJ13_toString_21 : decode cJ13_toString 21 = .ok (.invokespecial 46, 3) := dk_183 0 46 (dk_at dksJ13_toString_0 21 rfl rfl)
theorem dJ13_toString_24 : decode cJ13_toString 24 = .ok (.aload_n 1, 1) := dk_43 (dk_at dksJ13_toString_1 0 rfl rfl)
theorem dJ13_toString_25 : decode cJ13_toString 25 = .ok (.invokevirtual 49, 3) := dk_182 0 49 (dk_at dksJ13_toString_1 1 rfl rfl)
theorem dJ13_toString_28 : decode cJ13_toString 28 = .ok (.ldc 81, 2) := dk_18 81 (dk_at dksJ13_toString_1 4 rfl rfl)
theorem dJ13_toString_30 : decode cJ13_toString 30 = .ok (.invokevirtual 49, 3) := dk_182 0 49 (dk_at dksJ13_toString_1 6 rfl rfl)
theorem dJ13_toString_33 : decode cJ13_toString 33 = .ok (.aload_n 2, 1) := dk_44 (dk_at dksJ13_toString_1 9 rfl rfl)
theorem dJ13_toString_34 : decode cJ13_toString 34 = .ok (.invokevirtual 49, 3) := dk_182 0 49 (dk_at dksJ13_toString_1 10 rfl rfl)
theorem dJ13_toString_37 : decode cJ13_toString 37 = .ok (.invokevirtual 60, 3) := dk_182 0 60 (dk_at dksJ13_toString_1 13 rfl rfl)
theorem dJ13_toString_40 : decode cJ13_toString 40 = .ok (.goto 4, 3) := dk_167 0 4 (dk_at dksJ13_toString_1 16 rfl rfl)
theorem dJ13_toString_43 : decode cJ13_toString 43 = .ok (.aload_n 1, 1) := dk_43 (dk_at dksJ13_toString_1 19 rfl rfl)
theorem dJ13_toString_44 : decode cJ13_toString 44 = .ok (.areturn, 1) := dk_176 (dk_at dksJ13_toString_1 20 rfl rfl)
abbrev cJ13_getLocalizedMessage : ByteArray := prog_41_method_7_code
def yJ13_getLocalizedMessage : MethodName := ⟨RJ13, "getLocalizedMessage", "()Ljava/lang/String;"⟩
theorem dJ13_getLocalizedMessage_0 : decode cJ13_getLocalizedMessage 0 = .ok (.aload_n 0, 1) := by decide +kernel
theorem dJ13_getLocalizedMessage_1 : decode cJ13_getLocalizedMessage 1 = .ok (.invokevirtual 39, 3) := by decide +kernel
theorem dJ13_getLocalizedMessage_4 : decode cJ13_getLocalizedMessage 4 = .ok (.areturn, 1) := by decide +kernel
abbrev cJ13_getMessage : ByteArray := prog_41_method_6_code
def yJ13_getMessage : MethodName := ⟨RJ13, "getMessage", "()Ljava/lang/String;"⟩
theorem dJ13_getMessage_0 : decode cJ13_getMessage 0 = .ok (.aload_n 0, 1) := by decide +kernel
theorem dJ13_getMessage_1 : decode cJ13_getMessage 1 = .ok (.getfield 31, 3) := by decide +kernel
theorem dJ13_getMessage_4 : decode cJ13_getMessage 4 = .ok (.areturn, 1) := by decide +kernel
abbrev cJ13_init_4 : ByteArray := prog_41_method_5_code
def yJ13_init_4 : MethodName := ⟨RJ13, "<init>", "(Ljava/lang/String;Ljava/lang/Throwable;ZZ)V"⟩
def dkwJ13_init_4_2 : List UInt8 := [44, 181, 0, 7, 29, 154, 0, 8, 42, 1, 181, 0, 24, 177]
abbrev dktJ13_init_4_2 : List UInt8 := dkwJ13_init_4_2 ++ []
def dkwJ13_init_4_1 : List UInt8 := [21, 4, 153, 0, 11, 42, 182, 0, 27, 87, 167, 0, 8, 42, 1, 181, 0, 17, 42, 43, 181, 0, 31, 42]
abbrev dktJ13_init_4_1 : List UInt8 := dkwJ13_init_4_1 ++ dktJ13_init_4_2
def dkwJ13_init_4_0 : List UInt8 := [42, 183, 0, 1, 42, 42, 181, 0, 7, 42, 178, 0, 13, 181, 0, 17, 42, 178, 0, 20, 181, 0, 24]
abbrev dktJ13_init_4_0 : List UInt8 := dkwJ13_init_4_0 ++ dktJ13_init_4_1
theorem dksJ13_init_4_0 : cJ13_init_4.data.toList.drop 0 = dktJ13_init_4_0 := by decide +kernel
theorem dksJ13_init_4_1 : cJ13_init_4.data.toList.drop 23 = dktJ13_init_4_1 := dk_seg dksJ13_init_4_0 23 rfl rfl
theorem dksJ13_init_4_2 : cJ13_init_4.data.toList.drop 47 = dktJ13_init_4_2 := dk_seg dksJ13_init_4_1 24 rfl rfl
theorem dJ13_init_4_0 : decode cJ13_init_4 0 = .ok (.aload_n 0, 1) := dk_42 (dk_at dksJ13_init_4_0 0 rfl rfl)
theorem dJ13_init_4_1 : decode cJ13_init_4 1 = .ok (.invokespecial 1, 3) := dk_183 0 1 (dk_at dksJ13_init_4_0 1 rfl rfl)
theorem dJ13_init_4_4 : decode cJ13_init_4 4 = .ok (.aload_n 0, 1) := dk_42 (dk_at dksJ13_init_4_0 4 rfl rfl)
theorem dJ13_init_4_5 : decode cJ13_init_4 5 = .ok (.aload_n 0, 1) := dk_42 (dk_at dksJ13_init_4_0 5 rfl rfl)
theorem dJ13_init_4_6 : decode cJ13_init_4 6 = .ok (.putfield 7, 3) := dk_181 0 7 (dk_at dksJ13_init_4_0 6 rfl rfl)
theorem dJ13_init_4_9 : decode cJ13_init_4 9 = .ok (.aload_n 0, 1) := dk_42 (dk_at dksJ13_init_4_0 9 rfl rfl)
theorem dJ13_init_4_10 : decode cJ13_init_4 10 = .ok (.getstatic 13, 3) := dk_178 0 13 (dk_at dksJ13_init_4_0 10 rfl rfl)
theorem dJ13_init_4_13 : decode cJ13_init_4 13 = .ok (.putfield 17, 3) := dk_181 0 17 (dk_at dksJ13_init_4_0 13 rfl rfl)
theorem dJ13_init_4_16 : decode cJ13_init_4 16 = .ok (.aload_n 0, 1) := dk_42 (dk_at dksJ13_init_4_0 16 rfl rfl)
theorem dJ13_init_4_17 : decode cJ13_init_4 17 = .ok (.getstatic 20, 3) := dk_178 0 20 (dk_at dksJ13_init_4_0 17 rfl rfl)
theorem dJ13_init_4_20 : decode cJ13_init_4 20 = .ok (.putfield 24, 3) := dk_181 0 24 (dk_at dksJ13_init_4_0 20 rfl rfl)
theorem dJ13_init_4_23 : decode cJ13_init_4 23 = .ok (.iload 4, 2) := dk_21 4 (dk_at dksJ13_init_4_1 0 rfl rfl)
theorem dJ13_init_4_25 : decode cJ13_init_4 25 = .ok (.ifCond .eq 11, 3) := dk_153 0 11 (dk_at dksJ13_init_4_1 2 rfl rfl)
theorem dJ13_init_4_28 : decode cJ13_init_4 28 = .ok (.aload_n 0, 1) := dk_42 (dk_at dksJ13_init_4_1 5 rfl rfl)
theorem dJ13_init_4_29 : decode cJ13_init_4 29 = .ok (.invokevirtual 27, 3) := dk_182 0 27 (dk_at dksJ13_init_4_1 6 rfl rfl)
theorem dJ13_init_4_32 : decode cJ13_init_4 32 = .ok (.pop, 1) := dk_87 (dk_at dksJ13_init_4_1 9 rfl rfl)
theorem dJ13_init_4_33 : decode cJ13_init_4 33 = .ok (.goto 8, 3) := dk_167 0 8 (dk_at dksJ13_init_4_1 10 rfl rfl)
theorem dJ13_init_4_36 : decode cJ13_init_4 36 = .ok (.aload_n 0, 1) := dk_42 (dk_at dksJ13_init_4_1 13 rfl rfl)
theorem dJ13_init_4_37 : decode cJ13_init_4 37 = .ok (.aconst_null, 1) := dk_1 (dk_at dksJ13_init_4_1 14 rfl rfl)
theorem dJ13_init_4_38 : decode cJ13_init_4 38 = .ok (.putfield 17, 3) := dk_181 0 17 (dk_at dksJ13_init_4_1 15 rfl rfl)
theorem dJ13_init_4_41 : decode cJ13_init_4 41 = .ok (.aload_n 0, 1) := dk_42 (dk_at dksJ13_init_4_1 18 rfl rfl)
theorem dJ13_init_4_42 : decode cJ13_init_4 42 = .ok (.aload_n 1, 1) := dk_43 (dk_at dksJ13_init_4_1 19 rfl rfl)
theorem dJ13_init_4_43 : decode cJ13_init_4 43 = .ok (.putfield 31, 3) := dk_181 0 31 (dk_at dksJ13_init_4_1 20 rfl rfl)
theorem dJ13_init_4_46 : decode cJ13_init_4 46 = .ok (.aload_n 0, 1) := dk_42 (dk_at dksJ13_init_4_1 23 rfl rfl)
theorem dJ13_init_4_47 : decode cJ13_init_4 47 = .ok (.aload_n 2, 1) := dk_44 (dk_at dksJ13_init_4_2 0 rfl rfl)
theorem dJ13_init_4_48 : decode cJ13_init_4 48 = .ok (.putfield 7, 3) := dk_181 0 7 (dk_at dksJ13_init_4_2 1 rfl rfl)
theorem dJ13_init_4_51 : decode cJ13_init_4 51 = .ok (.iload_n 3, 1) := dk_29 (dk_at dksJ13_init_4_2 4 rfl rfl)
theorem dJ13_init_4_52 : decode cJ13_init_4 52 = .ok (.ifCond .ne 8, 3) := dk_154 0 8 (dk_at dksJ13_init_4_2 5 rfl rfl)
theorem dJ13_init_4_55 : decode cJ13_init_4 55 = .ok (.aload_n 0, 1) := dk_42 (dk_at dksJ13_init_4_2 8 rfl rfl)
theorem dJ13_init_4_56 : decode cJ13_init_4 56 = .ok (.aconst_null, 1) := dk_1 (dk_at dksJ13_init_4_2 9 rfl rfl)
theorem dJ13_init_4_57 : decode cJ13_init_4 57 = .ok (.putfield 24, 3) := dk_181 0 24 (dk_at dksJ13_init_4_2 10 rfl rfl)
theorem dJ13_init_4_60 : decode cJ13_init_4 60 = .ok (.return_, 1) := dk_177 (dk_at dksJ13_init_4_2 13 rfl rfl)
theorem q122 : (Jvm.Cond.initialized "java/lang/Throwable") ∈ lw_all := lw_g (lw_at lw_m1 20 rfl) rfl
theorem q617 : (Jvm.Cond.declares ({ cls := "java/lang/Throwable", name := "<init>", desc := "()V" } : Jvm.MethodName)) ∈ lw_tbl := lw_at lw_m3 35 rfl
theorem q618 : (Jvm.Cond.declares ({ cls := "java/lang/Throwable", name := "<init>", desc := "(Ljava/lang/String;)V" } : Jvm.MethodName)) ∈ lw_tbl := lw_at lw_m3 36 rfl
theorem q622 : (Jvm.Cond.lays "java/lang/Throwable" "java/lang/Throwable" "cause" "Ljava/lang/Throwable;") ∈ lw_all := lw_g (lw_at lw_m3 40 rfl) rfl
theorem q624 : (Jvm.Cond.lays "java/lang/Throwable" "java/lang/Throwable" "stackTrace" "[Ljava/lang/StackTraceElement;") ∈ lw_all := lw_g (lw_at lw_m3 42 rfl) rfl
theorem q626 : (Jvm.Cond.lays "java/lang/Throwable" "java/lang/Throwable" "suppressedExceptions" "Ljava/util/List;") ∈ lw_all := lw_g (lw_at lw_m3 44 rfl) rfl
theorem q628 : (Jvm.Cond.lays "java/lang/Throwable" "java/lang/Throwable" "detailMessage" "Ljava/lang/String;") ∈ lw_all := lw_g (lw_at lw_m3 46 rfl) rfl
theorem q630 : (Jvm.Cond.lays "java/lang/Throwable" "java/lang/Throwable" "backtrace" "Ljava/lang/Object;") ∈ lw_all := lw_g (lw_at lw_m3 48 rfl) rfl
theorem q631 : (Jvm.Cond.fieldLink "java/lang/Throwable" (198 : Nat) "java/lang/Throwable" "backtrace" "Ljava/lang/Object;") ∈ lw_all := lw_g (lw_at lw_m3 49 rfl) rfl
theorem q632 : (Jvm.Cond.superclass "java/lang/Throwable" "java/lang/Object") ∈ lw_all := lw_g (lw_at lw_m3 50 rfl) rfl
theorem q633 : (Jvm.Cond.instanceMethod ({ cls := "java/lang/Throwable", name := "<init>", desc := "()V" } : Jvm.MethodName)) ∈ lw_all := lw_g (lw_at lw_m3 51 rfl) rfl
theorem q634 : (Jvm.Cond.code ({ cls := "java/lang/Throwable", name := "<init>", desc := "()V" } : Jvm.MethodName) prog_41_method_1_code (1 : Nat) (Option.none : Option Jvm.ClassFile.FieldType)) ∈ lw_all := lw_g (lw_at lw_m3 52 rfl) rfl
theorem q635 : (Jvm.Cond.methodLink "java/lang/Throwable" (1 : Nat) ({ cls := "java/lang/Object", name := "<init>", desc := "()V" } : Jvm.MethodName)) ∈ lw_all := lw_g (lw_at lw_m3 53 rfl) rfl
theorem q636 : (Jvm.Cond.fieldLink "java/lang/Throwable" (13 : Nat) "java/lang/Throwable" "UNASSIGNED_STACK" "[Ljava/lang/StackTraceElement;") ∈ lw_all := lw_g (lw_at lw_m3 54 rfl) rfl
theorem q637 : (Jvm.Cond.laysStatic "java/lang/Throwable" "UNASSIGNED_STACK" "[Ljava/lang/StackTraceElement;") ∈ lw_tbl := lw_at lw_m3 55 rfl
theorem q638 : (Jvm.Cond.fieldLink "java/lang/Throwable" (20 : Nat) "java/lang/Throwable" "SUPPRESSED_SENTINEL" "Ljava/util/List;") ∈ lw_all := lw_g (lw_at lw_m3 56 rfl) rfl
theorem q639 : (Jvm.Cond.laysStatic "java/lang/Throwable" "SUPPRESSED_SENTINEL" "Ljava/util/List;") ∈ lw_tbl := lw_at lw_m3 57 rfl
theorem q640 : (Jvm.Cond.methodLink "java/lang/Throwable" (27 : Nat) ({ cls := "java/lang/Throwable", name := "fillInStackTrace", desc := "()Ljava/lang/Throwable;" } : Jvm.MethodName)) ∈ lw_all := lw_g (lw_at lw_m3 58 rfl) rfl
theorem q641 : (Jvm.Cond.instanceMethod ({ cls := "java/lang/Throwable", name := "fillInStackTrace", desc := "()Ljava/lang/Throwable;" } : Jvm.MethodName)) ∈ lw_all := lw_g (lw_at lw_m3 59 rfl) rfl
theorem q642 : (Jvm.Cond.sameMethod "java/lang/Throwable" "java/lang/Throwable" "fillInStackTrace" "()Ljava/lang/Throwable;") ∈ lw_all := lw_g (lw_at lw_m3 60 rfl) rfl
theorem q651 : (Jvm.Cond.codeSync ({ cls := "java/lang/Throwable", name := "fillInStackTrace", desc := "()Ljava/lang/Throwable;" } : Jvm.MethodName) prog_41_method_18_code (1 : Nat) (Option.some (Jvm.ClassFile.FieldType.object "java/lang/Throwable"))) ∈ lw_all := lw_g (lw_at lw_m3 69 rfl) rfl
theorem q652 : (Jvm.Cond.methodLink "java/lang/Throwable" (202 : Nat) ({ cls := "java/lang/Throwable", name := "fillInStackTrace", desc := "(I)Ljava/lang/Throwable;" } : Jvm.MethodName)) ∈ lw_all := lw_g (lw_at lw_m3 70 rfl) rfl
theorem q653 : (Jvm.Cond.privateMethod ({ cls := "java/lang/Throwable", name := "fillInStackTrace", desc := "(I)Ljava/lang/Throwable;" } : Jvm.MethodName)) ∈ lw_tbl := lw_at lw_m3 71 rfl
theorem q654 : (Jvm.Cond.instanceMethod ({ cls := "java/lang/Throwable", name := "fillInStackTrace", desc := "(I)Ljava/lang/Throwable;" } : Jvm.MethodName)) ∈ lw_all := lw_g (lw_at lw_m3 72 rfl) rfl
theorem q655 : (Jvm.Cond.instantiable "java/lang/Throwable" (6 : Nat)) ∈ lw_all := lw_g (lw_at lw_m3 73 rfl) rfl
theorem q656 : (Jvm.Cond.native ({ cls := "java/lang/Throwable", name := "fillInStackTrace", desc := "(I)Ljava/lang/Throwable;" } : Jvm.MethodName)) ∈ lw_all := lw_g (lw_at lw_m3 74 rfl) rfl
theorem q856 : (Jvm.Cond.instanceMethod ({ cls := "java/lang/Throwable", name := "<init>", desc := "(Ljava/lang/String;)V" } : Jvm.MethodName)) ∈ lw_all := lw_g (lw_at lw_m4 34 rfl) rfl
theorem q857 : (Jvm.Cond.code ({ cls := "java/lang/Throwable", name := "<init>", desc := "(Ljava/lang/String;)V" } : Jvm.MethodName) prog_41_method_2_code (2 : Nat) (Option.none : Option Jvm.ClassFile.FieldType)) ∈ lw_all := lw_g (lw_at lw_m4 35 rfl) rfl
theorem q858 : (Jvm.Cond.fieldLink "java/lang/Throwable" (198 : Nat) "java/lang/Throwable" "backtrace" "Ljava/lang/Object;") ∈ lw_all := lw_g (lw_at lw_m4 36 rfl) rfl
theorem q859 : (Jvm.Cond.fieldLink "java/lang/Throwable" (31 : Nat) "java/lang/Throwable" "detailMessage" "Ljava/lang/String;") ∈ lw_all := lw_g (lw_at lw_m4 37 rfl) rfl
theorem q860 : (Jvm.Cond.fieldLink "java/lang/Throwable" (7 : Nat) "java/lang/Throwable" "cause" "Ljava/lang/Throwable;") ∈ lw_all := lw_g (lw_at lw_m4 38 rfl) rfl
theorem q861 : (Jvm.Cond.fieldLink "java/lang/Throwable" (17 : Nat) "java/lang/Throwable" "stackTrace" "[Ljava/lang/StackTraceElement;") ∈ lw_all := lw_g (lw_at lw_m4 39 rfl) rfl
theorem q862 : (Jvm.Cond.fieldLink "java/lang/Throwable" (24 : Nat) "java/lang/Throwable" "suppressedExceptions" "Ljava/util/List;") ∈ lw_all := lw_g (lw_at lw_m4 40 rfl) rfl
theorem q863 : (Jvm.Cond.soleField "java/lang/Throwable" "backtrace") ∈ lw_all := lw_g (lw_at lw_m4 41 rfl) rfl
theorem q864 : (Jvm.Cond.soleField "java/lang/Throwable" "detailMessage") ∈ lw_all := lw_g (lw_at lw_m4 42 rfl) rfl
theorem q865 : (Jvm.Cond.soleField "java/lang/Throwable" "cause") ∈ lw_all := lw_g (lw_at lw_m4 43 rfl) rfl
theorem q866 : (Jvm.Cond.soleField "java/lang/Throwable" "stackTrace") ∈ lw_all := lw_g (lw_at lw_m4 44 rfl) rfl
theorem q868 : (Jvm.Cond.soleField "java/lang/Throwable" "depth") ∈ lw_all := lw_g (lw_at lw_m4 46 rfl) rfl
theorem q869 : (Jvm.Cond.soleField "java/lang/Throwable" "suppressedExceptions") ∈ lw_all := lw_g (lw_at lw_m4 47 rfl) rfl
theorem q926 : (Jvm.Cond.instanceMethod ({ cls := "java/lang/Throwable", name := "<init>", desc := "(Ljava/lang/Throwable;)V" } : Jvm.MethodName)) ∈ lw_all := lw_g (lw_at lw_m4 104 rfl) rfl
theorem q927 : (Jvm.Cond.code ({ cls := "java/lang/Throwable", name := "<init>", desc := "(Ljava/lang/Throwable;)V" } : Jvm.MethodName) prog_41_method_4_code (2 : Nat) (Option.none : Option Jvm.ClassFile.FieldType)) ∈ lw_all := lw_g (lw_at lw_m4 105 rfl) rfl
theorem q928 : (Jvm.Cond.methodLink "java/lang/Throwable" (35 : Nat) ({ cls := "java/lang/Throwable", name := "toString", desc := "()Ljava/lang/String;" } : Jvm.MethodName)) ∈ lw_all := lw_g (lw_at lw_m4 106 rfl) rfl
theorem q929 : (Jvm.Cond.instanceMethod ({ cls := "java/lang/Throwable", name := "toString", desc := "()Ljava/lang/String;" } : Jvm.MethodName)) ∈ lw_all := lw_g (lw_at lw_m4 107 rfl) rfl
theorem q930 : (Jvm.Cond.sameMethod "java/lang/Throwable" "java/lang/Throwable" "toString" "()Ljava/lang/String;") ∈ lw_all := lw_g (lw_at lw_m4 108 rfl) rfl
theorem q940 : (Jvm.Cond.code ({ cls := "java/lang/Throwable", name := "toString", desc := "()Ljava/lang/String;" } : Jvm.MethodName) prog_41_method_11_code (3 : Nat) (Option.some (Jvm.ClassFile.FieldType.object "java/lang/String"))) ∈ lw_all := lw_g (lw_at lw_m4 118 rfl) rfl
theorem q941 : (Jvm.Cond.methodLink "java/lang/Throwable" (69 : Nat) ({ cls := "java/lang/Object", name := "getClass", desc := "()Ljava/lang/Class;" } : Jvm.MethodName)) ∈ lw_all := lw_g (lw_at lw_m4 119 rfl) rfl
theorem q942 : (Jvm.Cond.methodLink "java/lang/Throwable" (78 : Nat) ({ cls := "java/lang/Throwable", name := "getLocalizedMessage", desc := "()Ljava/lang/String;" } : Jvm.MethodName)) ∈ lw_all := lw_g (lw_at lw_m4 120 rfl) rfl
theorem q943 : (Jvm.Cond.instanceMethod ({ cls := "java/lang/Throwable", name := "getLocalizedMessage", desc := "()Ljava/lang/String;" } : Jvm.MethodName)) ∈ lw_all := lw_g (lw_at lw_m4 121 rfl) rfl
theorem q944 : (Jvm.Cond.sameMethod "java/lang/Throwable" "java/lang/Throwable" "getLocalizedMessage" "()Ljava/lang/String;") ∈ lw_all := lw_g (lw_at lw_m4 122 rfl) rfl
theorem q954 : (Jvm.Cond.code ({ cls := "java/lang/Throwable", name := "getLocalizedMessage", desc := "()Ljava/lang/String;" } : Jvm.MethodName) prog_41_method_7_code (1 : Nat) (Option.some (Jvm.ClassFile.FieldType.object "java/lang/String"))) ∈ lw_all := lw_g (lw_at lw_m4 132 rfl) rfl
theorem q955 : (Jvm.Cond.methodLink "java/lang/Throwable" (39 : Nat) ({ cls := "java/lang/Throwable", name := "getMessage", desc := "()Ljava/lang/String;" } : Jvm.MethodName)) ∈ lw_all := lw_g (lw_at lw_m4 133 rfl) rfl
theorem q956 : (Jvm.Cond.instanceMethod ({ cls := "java/lang/Throwable", name := "getMessage", desc := "()Ljava/lang/String;" } : Jvm.MethodName)) ∈ lw_all := lw_g (lw_at lw_m4 134 rfl) rfl
theorem q957 : (Jvm.Cond.sameMethod "java/lang/Throwable" "java/lang/Throwable" "getMessage" "()Ljava/lang/String;") ∈ lw_all := lw_g (lw_at lw_m4 135 rfl) rfl
theorem q967 : (Jvm.Cond.code ({ cls := "java/lang/Throwable", name := "getMessage", desc := "()Ljava/lang/String;" } : Jvm.MethodName) prog_41_method_6_code (1 : Nat) (Option.some (Jvm.ClassFile.FieldType.object "java/lang/String"))) ∈ lw_all := lw_g (lw_at lw_m4 145 rfl) rfl
theorem q968 : (Jvm.Cond.classLink "java/lang/Throwable" (44 : Nat) "java/lang/StringBuilder") ∈ lw_all := lw_g (lw_at lw_m4 146 rfl) rfl
theorem q969 : (Jvm.Cond.methodLink "java/lang/Throwable" (46 : Nat) ({ cls := "java/lang/StringBuilder", name := "<init>", desc := "()V" } : Jvm.MethodName)) ∈ lw_all := lw_g (lw_at lw_m4 147 rfl) rfl
theorem q970 : (Jvm.Cond.methodLink "java/lang/Throwable" (49 : Nat) ({ cls := "java/lang/StringBuilder", name := "append", desc := "(Ljava/lang/String;)Ljava/lang/StringBuilder;" } : Jvm.MethodName)) ∈ lw_all := lw_g (lw_at lw_m4 148 rfl) rfl
theorem q971 : (Jvm.Cond.stringRef "java/lang/Throwable" (81 : Nat) ": ") ∈ lw_tbl := lw_at lw_m4 149 rfl
theorem q972 : (Jvm.Cond.methodLink "java/lang/Throwable" (60 : Nat) ({ cls := "java/lang/StringBuilder", name := "toString", desc := "()Ljava/lang/String;" } : Jvm.MethodName)) ∈ lw_all := lw_g (lw_at lw_m4 150 rfl) rfl
theorem q1604 : (Jvm.Cond.instanceMethod ({ cls := "java/lang/Throwable", name := "<init>", desc := "(Ljava/lang/String;Ljava/lang/Throwable;ZZ)V" } : Jvm.MethodName)) ∈ lw_all := lw_g (lw_at lw_m7 62 rfl) rfl
theorem q1605 : (Jvm.Cond.code ({ cls := "java/lang/Throwable", name := "<init>", desc := "(Ljava/lang/String;Ljava/lang/Throwable;ZZ)V" } : Jvm.MethodName) prog_41_method_5_code (5 : Nat) (Option.none : Option Jvm.ClassFile.FieldType)) ∈ lw_all := lw_g (lw_at lw_m7 63 rfl) rfl
theorem q2392 : (Jvm.Cond.declares ({ cls := "java/lang/Throwable", name := "getCause", desc := "()Ljava/lang/Throwable;" } : Jvm.MethodName)) ∈ lw_tbl := lw_at lw_m10 130 rfl
theorem q2394 : (Jvm.Cond.instanceMethod ({ cls := "java/lang/Throwable", name := "getCause", desc := "()Ljava/lang/Throwable;" } : Jvm.MethodName)) ∈ lw_all := lw_g (lw_at lw_m10 132 rfl) rfl
theorem q2395 : (Jvm.Cond.codeSync ({ cls := "java/lang/Throwable", name := "getCause", desc := "()Ljava/lang/Throwable;" } : Jvm.MethodName) prog_41_method_8_code (1 : Nat) (Option.some (Jvm.ClassFile.FieldType.object "java/lang/Throwable"))) ∈ lw_all := lw_g (lw_at lw_m10 133 rfl) rfl
theorem q3147 : (Jvm.Cond.sameMethod "java/lang/Throwable" "java/lang/Throwable" "fillInStackTrace" "(I)Ljava/lang/Throwable;") ∈ lw_all := lw_g (lw_at lw_m13 165 rfl) rfl
theorem q3200 : (Jvm.Cond.castable "java/lang/Throwable" "java/lang/Object") ∈ lw_tbl := lw_at lw_m13 218 rfl
theorem in_J13 : ∀ w ∈ wsJ130, w ∈ lw_all := lw_in wsJ130 [622, 624, 626, 628, 630] (by decide +kernel) (by decide +kernel)
/-! java/lang/Exception -/
set_option maxRecDepth 100000
def RJ14 : String := "java/lang/Exception"
abbrev cJ14_init : ByteArray := prog_24_method_2_code
def yJ14_init : MethodName := ⟨RJ14, "<init>", "(Ljava/lang/String;)V"⟩
def dkwJ14_init_0 : List UInt8 := [42, 43, 183, 0, 7, 177]
abbrev dktJ14_init_0 : List UInt8 := dkwJ14_init_0 ++ []
theorem dksJ14_init_0 : cJ14_init.data.toList.drop 0 = dktJ14_init_0 := by decide +kernel
theorem dJ14_init_0 : decode cJ14_init 0 = .ok (.aload_n 0, 1) := dk_42 (dk_at dksJ14_init_0 0 rfl rfl)
theorem dJ14_init_1 : decode cJ14_init 1 = .ok (.aload_n 1, 1) := dk_43 (dk_at dksJ14_init_0 1 rfl rfl)
theorem dJ14_init_2 : decode cJ14_init 2 = .ok (.invokespecial 7, 3) := dk_183 0 7 (dk_at dksJ14_init_0 2 rfl rfl)
theorem dJ14_init_5 : decode cJ14_init 5 = .ok (.return_, 1) := dk_177 (dk_at dksJ14_init_0 5 rfl rfl)
abbrev cJ14_init_2 : ByteArray := prog_24_method_4_code
def yJ14_init_2 : MethodName := ⟨RJ14, "<init>", "(Ljava/lang/Throwable;)V"⟩
def dkwJ14_init_2_0 : List UInt8 := [42, 43, 183, 0, 13, 177]
abbrev dktJ14_init_2_0 : List UInt8 := dkwJ14_init_2_0 ++ []
theorem dksJ14_init_2_0 : cJ14_init_2.data.toList.drop 0 = dktJ14_init_2_0 := by decide +kernel
theorem dJ14_init_2_0 : decode cJ14_init_2 0 = .ok (.aload_n 0, 1) := dk_42 (dk_at dksJ14_init_2_0 0 rfl rfl)
theorem dJ14_init_2_1 : decode cJ14_init_2 1 = .ok (.aload_n 1, 1) := dk_43 (dk_at dksJ14_init_2_0 1 rfl rfl)
theorem dJ14_init_2_2 : decode cJ14_init_2 2 = .ok (.invokespecial 13, 3) := dk_183 0 13 (dk_at dksJ14_init_2_0 2 rfl rfl)
theorem dJ14_init_2_5 : decode cJ14_init_2 5 = .ok (.return_, 1) := dk_177 (dk_at dksJ14_init_2_0 5 rfl rfl)
abbrev cJ14_init_3 : ByteArray := prog_24_method_1_code
def yJ14_init_3 : MethodName := ⟨RJ14, "<init>", "()V"⟩
theorem dJ14_init_3_0 : decode cJ14_init_3 0 = .ok (.aload_n 0, 1) := by decide +kernel
theorem dJ14_init_3_1 : decode cJ14_init_3 1 = .ok (.invokespecial 1, 3) := by decide +kernel
theorem dJ14_init_3_4 : decode cJ14_init_3 4 = .ok (.return_, 1) := by decide +kernel
abbrev cJ14_init_4 : ByteArray := prog_24_method_5_code
def yJ14_init_4 : MethodName := ⟨RJ14, "<init>", "(Ljava/lang/String;Ljava/lang/Throwable;ZZ)V"⟩
def dkwJ14_init_4_0 : List UInt8 := [42, 43, 44, 29, 21, 4, 183, 0, 16, 177]
abbrev dktJ14_init_4_0 : List UInt8 := dkwJ14_init_4_0 ++ []
theorem dksJ14_init_4_0 : cJ14_init_4.data.toList.drop 0 = dktJ14_init_4_0 := by decide +kernel
theorem dJ14_init_4_0 : decode cJ14_init_4 0 = .ok (.aload_n 0, 1) := dk_42 (dk_at dksJ14_init_4_0 0 rfl rfl)
theorem dJ14_init_4_1 : decode cJ14_init_4 1 = .ok (.aload_n 1, 1) := dk_43 (dk_at dksJ14_init_4_0 1 rfl rfl)
theorem dJ14_init_4_2 : decode cJ14_init_4 2 = .ok (.aload_n 2, 1) := dk_44 (dk_at dksJ14_init_4_0 2 rfl rfl)
theorem dJ14_init_4_3 : decode cJ14_init_4 3 = .ok (.iload_n 3, 1) := dk_29 (dk_at dksJ14_init_4_0 3 rfl rfl)
theorem dJ14_init_4_4 : decode cJ14_init_4 4 = .ok (.iload 4, 2) := dk_21 4 (dk_at dksJ14_init_4_0 4 rfl rfl)
theorem dJ14_init_4_6 : decode cJ14_init_4 6 = .ok (.invokespecial 16, 3) := dk_183 0 16 (dk_at dksJ14_init_4_0 6 rfl rfl)
theorem dJ14_init_4_9 : decode cJ14_init_4 9 = .ok (.return_, 1) := dk_177 (dk_at dksJ14_init_4_0 9 rfl rfl)
theorem q123 : (Jvm.Cond.initialized "java/lang/Exception") ∈ lw_all := lw_g (lw_at lw_m1 21 rfl) rfl
theorem q615 : (Jvm.Cond.declares ({ cls := "java/lang/Exception", name := "<init>", desc := "()V" } : Jvm.MethodName)) ∈ lw_tbl := lw_at lw_m3 33 rfl
theorem q616 : (Jvm.Cond.declares ({ cls := "java/lang/Exception", name := "<init>", desc := "(Ljava/lang/String;)V" } : Jvm.MethodName)) ∈ lw_tbl := lw_at lw_m3 34 rfl
theorem q853 : (Jvm.Cond.instanceMethod ({ cls := "java/lang/Exception", name := "<init>", desc := "(Ljava/lang/String;)V" } : Jvm.MethodName)) ∈ lw_all := lw_g (lw_at lw_m4 31 rfl) rfl
theorem q854 : (Jvm.Cond.code ({ cls := "java/lang/Exception", name := "<init>", desc := "(Ljava/lang/String;)V" } : Jvm.MethodName) prog_24_method_2_code (2 : Nat) (Option.none : Option Jvm.ClassFile.FieldType)) ∈ lw_all := lw_g (lw_at lw_m4 32 rfl) rfl
theorem q855 : (Jvm.Cond.methodLink "java/lang/Exception" (7 : Nat) ({ cls := "java/lang/Throwable", name := "<init>", desc := "(Ljava/lang/String;)V" } : Jvm.MethodName)) ∈ lw_all := lw_g (lw_at lw_m4 33 rfl) rfl
theorem q923 : (Jvm.Cond.instanceMethod ({ cls := "java/lang/Exception", name := "<init>", desc := "(Ljava/lang/Throwable;)V" } : Jvm.MethodName)) ∈ lw_all := lw_g (lw_at lw_m4 101 rfl) rfl
theorem q924 : (Jvm.Cond.code ({ cls := "java/lang/Exception", name := "<init>", desc := "(Ljava/lang/Throwable;)V" } : Jvm.MethodName) prog_24_method_4_code (2 : Nat) (Option.none : Option Jvm.ClassFile.FieldType)) ∈ lw_all := lw_g (lw_at lw_m4 102 rfl) rfl
theorem q925 : (Jvm.Cond.methodLink "java/lang/Exception" (13 : Nat) ({ cls := "java/lang/Throwable", name := "<init>", desc := "(Ljava/lang/Throwable;)V" } : Jvm.MethodName)) ∈ lw_all := lw_g (lw_at lw_m4 103 rfl) rfl
theorem q994 : (Jvm.Cond.instanceMethod ({ cls := "java/lang/Exception", name := "<init>", desc := "()V" } : Jvm.MethodName)) ∈ lw_all := lw_g (lw_at lw_m4 172 rfl) rfl
theorem q995 : (Jvm.Cond.code ({ cls := "java/lang/Exception", name := "<init>", desc := "()V" } : Jvm.MethodName) prog_24_method_1_code (1 : Nat) (Option.none : Option Jvm.ClassFile.FieldType)) ∈ lw_all := lw_g (lw_at lw_m4 173 rfl) rfl
theorem q996 : (Jvm.Cond.methodLink "java/lang/Exception" (1 : Nat) ({ cls := "java/lang/Throwable", name := "<init>", desc := "()V" } : Jvm.MethodName)) ∈ lw_all := lw_g (lw_at lw_m4 174 rfl) rfl
theorem q1601 : (Jvm.Cond.instanceMethod ({ cls := "java/lang/Exception", name := "<init>", desc := "(Ljava/lang/String;Ljava/lang/Throwable;ZZ)V" } : Jvm.MethodName)) ∈ lw_all := lw_g (lw_at lw_m7 59 rfl) rfl
theorem q1602 : (Jvm.Cond.code ({ cls := "java/lang/Exception", name := "<init>", desc := "(Ljava/lang/String;Ljava/lang/Throwable;ZZ)V" } : Jvm.MethodName) prog_24_method_5_code (5 : Nat) (Option.none : Option Jvm.ClassFile.FieldType)) ∈ lw_all := lw_g (lw_at lw_m7 60 rfl) rfl
theorem q1603 : (Jvm.Cond.methodLink "java/lang/Exception" (16 : Nat) ({ cls := "java/lang/Throwable", name := "<init>", desc := "(Ljava/lang/String;Ljava/lang/Throwable;ZZ)V" } : Jvm.MethodName)) ∈ lw_all := lw_g (lw_at lw_m7 61 rfl) rfl
