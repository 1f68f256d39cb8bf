/-! jdk/internal/util/ArraysSupport -/
set_option maxRecDepth 100000
def RJ5 : String := "jdk/internal/util/ArraysSupport"
abbrev cJ5_newLength : ByteArray := prog_70_method_27_code
def yJ5_newLength : MethodName := ⟨RJ5, "newLength", "(III)I"⟩
def dkwJ5_newLength_1 : List UInt8 := [184, 0, 201, 172]
abbrev dktJ5_newLength_1 : List UInt8 := dkwJ5_newLength_1 ++ []
def dkwJ5_newLength_0 : List UInt8 := [26, 27, 28, 184, 0, 194, 96, 62, 3, 29, 162, 0, 11, 29, 18, 200, 163, 0, 5, 29, 172, 26, 27]
abbrev dktJ5_newLength_0 : List UInt8 := dkwJ5_newLength_0 ++ dktJ5_newLength_1
theorem dksJ5_newLength_0 : cJ5_newLength.data.toList.drop 0 = dktJ5_newLength_0 := by decide +kernel
theorem dksJ5_newLength_1 : cJ5_newLength.data.toList.drop 23 = dktJ5_newLength_1 := dk_seg dksJ5_newLength_0 23 rfl rfl
theorem dJ5_newLength_0 : decode cJ5_newLength 0 = .ok (.iload_n 0, 1) := dk_26 (dk_at dksJ5_newLength_0 0 rfl rfl)
theorem dJ5_newLength_1 : decode cJ5_newLength 1 = .ok (.iload_n 1, 1) := dk_27 (dk_at dksJ5_newLength_0 1 rfl rfl)
theorem dJ5_newLength_2 : decode cJ5_newLength 2 = .ok (.iload_n 2, 1) := dk_28 (dk_at dksJ5_newLength_0 2 rfl rfl)
theorem dJ5_newLength_3 : decode cJ5_newLength 3 = .ok (.invokestatic 194, 3) := dk_184 0 194 (dk_at dksJ5_newLength_0 3 rfl rfl)
theorem dJ5_newLength_6 : decode cJ5_newLength 6 = .ok (.iadd, 1) := dk_96 (dk_at dksJ5_newLength_0 6 rfl rfl)
theorem dJ5_newLength_7 : decode cJ5_newLength 7 = .ok (.istore_n 3, 1) := dk_62 (dk_at dksJ5_newLength_0 7 rfl rfl)
theorem dJ5_newLength_8 : decode cJ5_newLength 8 = .ok (.iconst 0, 1) := dk_3 (dk_at dksJ5_newLength_0 8 rfl rfl)
theorem dJ5_newLength_9 : decode cJ5_newLength 9 = .ok (.iload_n 3, 1) := dk_29 (dk_at dksJ5_newLength_0 9 rfl rfl)
theorem dJ5_newLength_10 : decode cJ5_newLength 10 = .ok (.if_icmp .ge 11, 3) := dk_162 0 11 (dk_at dksJ5_newLength_0 10 rfl rfl)
theorem dJ5_newLength_13 : decode cJ5_newLength 13 = .ok (.iload_n 3, 1) := dk_29 (dk_at dksJ5_newLength_0 13 rfl rfl)
theorem dJ5_newLength_14 : decode cJ5_newLength 14 = .ok (.ldc 200, 2) := dk_18 200 (dk_at dksJ5_newLength_0 14 rfl rfl)
theorem dJ5_newLength_16 : decode cJ5_newLength 16 = .ok (.if_icmp .gt 5, 3) := dk_163 0 5 (dk_at dksJ5_newLength_0 16 rfl rfl)
theorem dJ5_newLength_19 : decode cJ5_newLength 19 = .ok (.iload_n 3, 1) := dk_29 (dk_at dksJ5_newLength_0 19 rfl rfl)
theorem dJ5_newLength_20 : decode cJ5_newLength 20 = .ok (.ireturn, 1) := dk_172 (dk_at dksJ5_newLength_0 20 rfl rfl)
theorem dJ5_newLength_21 : decode cJ5_newLength 21 = .ok (.iload_n 0, 1) := dk_26 (dk_at dksJ5_newLength_0 21 rfl rfl)
theorem dJ5_newLength_22 : decode cJ5_newLength 22 = .ok (.iload_n 1, 1) := dk_27 (dk_at dksJ5_newLength_0 22 rfl rfl)
theorem dJ5_newLength_23 : decode cJ5_newLength 23 = .ok (.invokestatic 201, 3) := dk_184 0 201 (dk_at dksJ5_newLength_1 0 rfl rfl)
theorem dJ5_newLength_26 : decode cJ5_newLength 26 = .ok (.ireturn, 1) := dk_172 (dk_at dksJ5_newLength_1 3 rfl rfl)
abbrev cJ5_hugeLength : ByteArray := prog_70_method_28_code
def yJ5_hugeLength : MethodName := ⟨RJ5, "hugeLength", "(II)I"⟩
def dkwJ5_hugeLength_2 : List UInt8 := [191, 28, 18, 200, 163, 0, 6, 18, 200, 172, 28, 172]
abbrev dktJ5_hugeLength_2 : List UInt8 := dkwJ5_hugeLength_2 ++ []
def dkwJ5_hugeLength_1 : List UInt8 := [26, 182, 0, 98, 18, 208, 182, 0, 94, 27, 182, 0, 98, 18, 210, 182, 0, 94, 182, 0, 101, 183, 0, 212]
abbrev dktJ5_hugeLength_1 : List UInt8 := dkwJ5_hugeLength_1 ++ dktJ5_hugeLength_2
def dkwJ5_hugeLength_0 : List UInt8 := [26, 27, 96, 61, 28, 156, 0, 44, 187, 0, 204, 89, 187, 0, 89, 89, 183, 0, 91, 18, 206, 182, 0, 94]
abbrev dktJ5_hugeLength_0 : List UInt8 := dkwJ5_hugeLength_0 ++ dktJ5_hugeLength_1
theorem dksJ5_hugeLength_0 : cJ5_hugeLength.data.toList.drop 0 = dktJ5_hugeLength_0 := by decide +kernel
theorem dksJ5_hugeLength_1 : cJ5_hugeLength.data.toList.drop 24 = dktJ5_hugeLength_1 := dk_seg dksJ5_hugeLength_0 24 rfl rfl
theorem dksJ5_hugeLength_2 : cJ5_hugeLength.data.toList.drop 48 = dktJ5_hugeLength_2 := dk_seg dksJ5_hugeLength_1 24 rfl rfl
theorem dJ5_hugeLength_0 : decode cJ5_hugeLength 0 = .ok (.iload_n 0, 1) := dk_26 (dk_at dksJ5_hugeLength_0 0 rfl rfl)
theorem dJ5_hugeLength_1 : decode cJ5_hugeLength 1 = .ok (.iload_n 1, 1) := dk_27 (dk_at dksJ5_hugeLength_0 1 rfl rfl)
theorem dJ5_hugeLength_2 : decode cJ5_hugeLength 2 = .ok (.iadd, 1) := dk_96 (dk_at dksJ5_hugeLength_0 2 rfl rfl)
theorem dJ5_hugeLength_3 : decode cJ5_hugeLength 3 = .ok (.istore_n 2, 1) := dk_61 (dk_at dksJ5_hugeLength_0 3 rfl rfl)
theorem dJ5_hugeLength_4 : decode cJ5_hugeLength 4 = .ok (.iload_n 2, 1) := dk_28 (dk_at dksJ5_hugeLength_0 4 rfl rfl)
theorem dJ5_hugeLength_5 : decode cJ5_hugeLength 5 = .ok (.ifCond .ge 44, 3) := dk_156 0 44 (dk_at dksJ5_hugeLength_0 5 rfl rfl)
theorem dJ5_hugeLength_8 : decode cJ5_hugeLength 8 = .ok (.new 204, 3) := dk_187 0 204 (dk_at dksJ5_hugeLength_0 8 rfl rfl)
theorem dJ5_hugeLength_11 : decode cJ5_hugeLength 11 = .ok (.dup, 1) := dk_89 (dk_at dksJ5_hugeLength_0 11 rfl rfl)
theorem dJ5_hugeLength_12 : decode cJ5_hugeLength 12 = .ok (.new 89, 3) := dk_187 0 89 (dk_at dksJ5_hugeLength_0 12 rfl rfl)
theorem dJ5_hugeLength_15 : decode cJ5_hugeLength 15 = .ok (.dup, 1) := dk_89 (dk_at dksJ5_hugeLength_0 15 rfl rfl)
theorem dJ5_hugeLength_16 : decode cJ5_hugeLength 16 = .ok (.invokespecial 91, 3) := dk_183 0 91 (dk_at dksJ5_hugeLength_0 16 rfl rfl)
theorem dJ5_hugeLength_19 : decode cJ5_hugeLength 19 = .ok (.ldc 206, 2) := dk_18 206 (dk_at dksJ5_hugeLength_0 19 rfl rfl)
theorem dJ5_hugeLength_21 : decode cJ5_hugeLength 21 = .ok (.invokevirtual 94, 3) := dk_182 0 94 (dk_at dksJ5_hugeLength_0 21 rfl rfl)
theorem dJ5_hugeLength_24 : decode cJ5_hugeLength 24 = .ok (.iload_n 0, 1) := dk_26 (dk_at dksJ5_hugeLength_1 0 rfl rfl)
theorem dJ5_hugeLength_25 : decode cJ5_hugeLength 25 = .ok (.invokevirtual 98, 3) := dk_182 0 98 (dk_at dksJ5_hugeLength_1 1 rfl rfl)
theorem dJ5_hugeLength_28 : decode cJ5_hugeLength 28 = .ok (.ldc 208, 2) := dk_18 208 (dk_at dksJ5_hugeLength_1 4 rfl rfl)
theorem dJ5_hugeLength_30 : decode cJ5_hugeLength 30 = .ok (.invokevirtual 94, 3) := dk_182 0 94 (dk_at dksJ5_hugeLength_1 6 rfl rfl)
theorem dJ5_hugeLength_33 : decode cJ5_hugeLength 33 = .ok (.iload_n 1, 1) := dk_27 (dk_at dksJ5_hugeLength_1 9 rfl rfl)
theorem dJ5_hugeLength_34 : decode cJ5_hugeLength 34 = .ok (.invokevirtual 98, 3) := dk_182 0 98 (dk_at dksJ5_hugeLength_1 10 rfl rfl)
theorem dJ5_hugeLength_37 : decode cJ5_hugeLength 37 = .ok (.ldc 210, 2) := dk_18 210 (dk_at dksJ5_hugeLength_1 13 rfl rfl)
theorem dJ5_hugeLength_39 : decode cJ5_hugeLength 39 = .ok (.invokevirtual 94, 3) := dk_182 0 94 (dk_at dksJ5_hugeLength_1 15 rfl rfl)
theorem dJ5_hugeLength_42 : decode cJ5_hugeLength 42 = .ok (.invokevirtual 101, 3) := dk_182 0 101 (dk_at dksJ5_hugeLength_1 18 rfl rfl)
theorem dJ5_hugeLength_45 : decode cJ5_hugeLength 45 = .ok (.invokespecial 212, 3) := dk_183 0 212 (dk_at dksJ5_hugeLength_1 21 rfl rfl)
theorem dJ5_hugeLength_48 : decode cJ5_hugeLength 48 = .ok (.athrow, 1) := dk_191 (dk_at dksJ5_hugeLength_2 0 rfl rfl)
theorem dJ5_hugeLength_49 : decode cJ5_hugeLength 49 = .ok (.iload_n 2, 1) := dk_28 (dk_at dksJ5_hugeLength_2 1 rfl rfl)
theorem dJ5_hugeLength_50 : decode cJ5_hugeLength 50 = .ok (.ldc 200, 2) := dk_18 200 (dk_at dksJ5_hugeLength_2 2 rfl rfl)
theorem dJ5_hugeLength_52 : decode cJ5_hugeLength 52 = .ok (.if_icmp .gt 6, 3) := dk_163 0 6 (dk_at dksJ5_hugeLength_2 4 rfl rfl)
theorem dJ5_hugeLength_55 : decode cJ5_hugeLength 55 = .ok (.ldc 200, 2) := dk_18 200 (dk_at dksJ5_hugeLength_2 7 rfl rfl)
theorem dJ5_hugeLength_57 : decode cJ5_hugeLength 57 = .ok (.ireturn, 1) := dk_172 (dk_at dksJ5_hugeLength_2 9 rfl rfl)
theorem dJ5_hugeLength_58 : decode cJ5_hugeLength 58 = .ok (.iload_n 2, 1) := dk_28 (dk_at dksJ5_hugeLength_2 10 rfl rfl)
theorem dJ5_hugeLength_59 : decode cJ5_hugeLength 59 = .ok (.ireturn, 1) := dk_172 (dk_at dksJ5_hugeLength_2 11 rfl rfl)
abbrev cJ5_vectorizedHashCode : ByteArray := prog_70_method_4_code
def yJ5_vectorizedHashCode : MethodName := ⟨RJ5, "vectorizedHashCode", "(Ljava/lang/Object;IIII)I"⟩
def dkwJ5_vectorizedHashCode_6 : List UInt8 := [183, 0, 91, 18, 92, 182, 0, 94, 21, 4, 182, 0, 98, 182, 0, 101, 183, 0, 105, 191, 172]
abbrev dktJ5_vectorizedHashCode_6 : List UInt8 := dkwJ5_vectorizedHashCode_6 ++ []
def dkwJ5_vectorizedHashCode_5 : List UInt8 := [167, 0, 44, 29, 42, 192, 0, 82, 27, 28, 184, 0, 84, 167, 0, 31, 187, 0, 87, 89, 187, 0, 89, 89]
abbrev dktJ5_vectorizedHashCode_5 : List UInt8 := dkwJ5_vectorizedHashCode_5 ++ dktJ5_vectorizedHashCode_6
def dkwJ5_vectorizedHashCode_4 : List UInt8 := [29, 42, 192, 0, 60, 27, 28, 184, 0, 75, 167, 0, 57, 29, 42, 192, 0, 77, 27, 28, 184, 0, 79]
abbrev dktJ5_vectorizedHashCode_4 : List UInt8 := dkwJ5_vectorizedHashCode_4 ++ dktJ5_vectorizedHashCode_5
def dkwJ5_vectorizedHashCode_3 : List UInt8 := [192, 0, 60, 27, 28, 184, 0, 66, 167, 0, 83, 29, 42, 192, 0, 69, 27, 28, 184, 0, 71, 167, 0, 70]
abbrev dktJ5_vectorizedHashCode_3 : List UInt8 := dkwJ5_vectorizedHashCode_3 ++ dktJ5_vectorizedHashCode_4
def dkwJ5_vectorizedHashCode_2 : List UInt8 := [29, 42, 192, 0, 60, 27, 28, 184, 0, 62, 167, 0, 103, 42, 193, 0, 60, 153, 0, 16, 29, 42]
abbrev dktJ5_vectorizedHashCode_2 : List UInt8 := dkwJ5_vectorizedHashCode_2 ++ dktJ5_vectorizedHashCode_3
def dkwJ5_vectorizedHashCode_1 : List UInt8 := [170, 0, 0, 0, 0, 127, 0, 0, 0, 4, 0, 0, 0, 10, 0, 0, 0, 42, 0, 0, 0, 55, 0, 0, 0, 127, 0, 0, 0, 127, 0, 0, 0, 88, 0, 0, 0, 101, 0, 0, 0, 114]
abbrev dktJ5_vectorizedHashCode_1 : List UInt8 := dkwJ5_vectorizedHashCode_1 ++ dktJ5_vectorizedHashCode_2
def dkwJ5_vectorizedHashCode_0 : List UInt8 := [21, 4]
abbrev dktJ5_vectorizedHashCode_0 : List UInt8 := dkwJ5_vectorizedHashCode_0 ++ dktJ5_vectorizedHashCode_1
theorem dksJ5_vectorizedHashCode_0 : cJ5_vectorizedHashCode.data.toList.drop 0 = dktJ5_vectorizedHashCode_0 := by decide +kernel
theorem dksJ5_vectorizedHashCode_1 : cJ5_vectorizedHashCode.data.toList.drop 2 = dktJ5_vectorizedHashCode_1 := dk_seg dksJ5_vectorizedHashCode_0 2 rfl rfl
theorem dksJ5_vectorizedHashCode_2 : cJ5_vectorizedHashCode.data.toList.drop 44 = dktJ5_vectorizedHashCode_2 := dk_seg dksJ5_vectorizedHashCode_1 42 rfl rfl
theorem dksJ5_vectorizedHashCode_3 : cJ5_vectorizedHashCode.data.toList.drop 66 = dktJ5_vectorizedHashCode_3 := dk_seg dksJ5_vectorizedHashCode_2 22 rfl rfl
theorem dksJ5_vectorizedHashCode_4 : cJ5_vectorizedHashCode.data.toList.drop 90 = dktJ5_vectorizedHashCode_4 := dk_seg dksJ5_vectorizedHashCode_3 24 rfl rfl
theorem dksJ5_vectorizedHashCode_5 : cJ5_vectorizedHashCode.data.toList.drop 113 = dktJ5_vectorizedHashCode_5 := dk_seg dksJ5_vectorizedHashCode_4 23 rfl rfl
theorem dksJ5_vectorizedHashCode_6 : cJ5_vectorizedHashCode.data.toList.drop 137 = dktJ5_vectorizedHashCode_6 := dk_seg dksJ5_vectorizedHashCode_5 24 rfl rfl
theorem dJ5_vectorizedHashCode_0 : decode cJ5_vectorizedHashCode 0 = .ok (.iload 4, 2) := dk_21 4 (dk_at dksJ5_vectorizedHashCode_0 0 rfl rfl)
theorem dJ5_vectorizedHashCode_2 : decode cJ5_vectorizedHashCode 2 = .ok (.tableswitch 127 4 10 #[42, 55, 127, 127, 88, 101, 114], 42) := by decide +kernel
theorem dJ5_vectorizedHashCode_44 : decode cJ5_vectorizedHashCode 44 = .ok (.iload_n 3, 1) := dk_29 (dk_at dksJ5_vectorizedHashCode_2 0 rfl rfl)
theorem dJ5_vectorizedHashCode_45 : decode cJ5_vectorizedHashCode 45 = .ok (.aload_n 0, 1) := dk_42 (dk_at dksJ5_vectorizedHashCode_2 1 rfl rfl)
theorem dJ5_vectorizedHashCode_46 : decode cJ5_vectorizedHashCode 46 = .ok (.checkcast 60, 3) := dk_192 0 60 (dk_at dksJ5_vectorizedHashCode_2 2 rfl rfl)
theorem dJ5_vectorizedHashCode_49 : decode cJ5_vectorizedHashCode 49 = .ok (.iload_n 1, 1) := dk_27 (dk_at dksJ5_vectorizedHashCode_2 5 rfl rfl)
theorem dJ5_vectorizedHashCode_50 : decode cJ5_vectorizedHashCode 50 = .ok (.iload_n 2, 1) := dk_28 (dk_at dksJ5_vectorizedHashCode_2 6 rfl rfl)
theorem dJ5_vectorizedHashCode_51 : decode cJ5_vectorizedHashCode 51 = .ok (.invokestatic 62, 3) := dk_184 0 62 (dk_at dksJ5_vectorizedHashCode_2 7 rfl rfl)
theorem dJ5_vectorizedHashCode_54 : decode cJ5_vectorizedHashCode 54 = .ok (.goto 103, 3) := dk_167 0 103 (dk_at dksJ5_vectorizedHashCode_2 10 rfl rfl)
theorem dJ5_vectorizedHashCode_57 : decode cJ5_vectorizedHashCode 57 = .ok (.aload_n 0, 1) := dk_42 (dk_at dksJ5_vectorizedHashCode_2 13 rfl rfl)
theorem dJ5_vectorizedHashCode_58 : decode cJ5_vectorizedHashCode 58 = .ok (.instanceof 60, 3) := dk_193 0 60 (dk_at dksJ5_vectorizedHashCode_2 14 rfl rfl)
theorem dJ5_vectorizedHashCode_61 : decode cJ5_vectorizedHashCode 61 = .ok (.ifCond .eq 16, 3) := dk_153 0 16 (dk_at dksJ5_vectorizedHashCode_2 17 rfl rfl)
theorem dJ5_vectorizedHashCode_64 : decode cJ5_vectorizedHashCode 64 = .ok (.iload_n 3, 1) := dk_29 (dk_at dksJ5_vectorizedHashCode_2 20 rfl rfl)
theorem dJ5_vectorizedHashCode_65 : decode cJ5_vectorizedHashCode 65 = .ok (.aload_n 0, 1) := dk_42 (dk_at dksJ5_vectorizedHashCode_2 21 rfl rfl)
theorem dJ5_vectorizedHashCode_66 : decode cJ5_vectorizedHashCode 66 = .ok (.checkcast 60, 3) := dk_192 0 60 (dk_at dksJ5_vectorizedHashCode_3 0 rfl rfl)
theorem dJ5_vectorizedHashCode_69 : decode cJ5_vectorizedHashCode 69 = .ok (.iload_n 1, 1) := dk_27 (dk_at dksJ5_vectorizedHashCode_3 3 rfl rfl)
theorem dJ5_vectorizedHashCode_70 : decode cJ5_vectorizedHashCode 70 = .ok (.iload_n 2, 1) := dk_28 (dk_at dksJ5_vectorizedHashCode_3 4 rfl rfl)
theorem dJ5_vectorizedHashCode_71 : decode cJ5_vectorizedHashCode 71 = .ok (.invokestatic 66, 3) := dk_184 0 66 (dk_at dksJ5_vectorizedHashCode_3 5 rfl rfl)
theorem dJ5_vectorizedHashCode_74 : decode cJ5_vectorizedHashCode 74 = .ok (.goto 83, 3) := dk_167 0 83 (dk_at dksJ5_vectorizedHashCode_3 8 rfl rfl)
theorem dJ5_vectorizedHashCode_77 : decode cJ5_vectorizedHashCode 77 = .ok (.iload_n 3, 1) := dk_29 (dk_at dksJ5_vectorizedHashCode_3 11 rfl rfl)
theorem dJ5_vectorizedHashCode_78 : decode cJ5_vectorizedHashCode 78 = .ok (.aload_n 0, 1) := dk_42 (dk_at dksJ5_vectorizedHashCode_3 12 rfl rfl)
theorem dJ5_vectorizedHashCode_79 : decode cJ5_vectorizedHashCode 79 = .ok (.checkcast 69, 3) := dk_192 0 69 (dk_at dksJ5_vectorizedHashCode_3 13 rfl rfl)
theorem dJ5_vectorizedHashCode_82 : decode cJ5_vectorizedHashCode 82 = .ok (.iload_n 1, 1) := dk_27 (dk_at dksJ5_vectorizedHashCode_3 16 rfl rfl)
theorem dJ5_vectorizedHashCode_83 : decode cJ5_vectorizedHashCode 83 = .ok (.iload_n 2, 1) := dk_28 (dk_at dksJ5_vectorizedHashCode_3 17 rfl rfl)
theorem dJ5_vectorizedHashCode_84 : decode cJ5_vectorizedHashCode 84 = .ok (.invokestatic 71, 3) := dk_184 0 71 (dk_at dksJ5_vectorizedHashCode_3 18 rfl rfl)
theorem dJ5_vectorizedHashCode_87 : decode cJ5_vectorizedHashCode 87 = .ok (.goto 70, 3) := dk_167 0 70 (dk_at dksJ5_vectorizedHashCode_3 21 rfl rfl)
theorem dJ5_vectorizedHashCode_90 : decode cJ5_vectorizedHashCode 90 = .ok (.iload_n 3, 1) := dk_29 (dk_at dksJ5_vectorizedHashCode_4 0 rfl rfl)
theorem dJ5_vectorizedHashCode_91 : decode cJ5_vectorizedHashCode 91 = .ok (.aload_n 0, 1) := dk_42 (dk_at dksJ5_vectorizedHashCode_4 1 rfl rfl)
theorem dJ5_vectorizedHashCode_92 : decode cJ5_vectorizedHashCode 92 = .ok (.checkcast 60, 3) := dk_192 0 60 (dk_at dksJ5_vectorizedHashCode_4 2 rfl rfl)
theorem dJ5_vectorizedHashCode_95 : decode cJ5_vectorizedHashCode 95 = .ok (.iload_n 1, 1) := dk_27 (dk_at dksJ5_vectorizedHashCode_4 5 rfl rfl)
theorem dJ5_vectorizedHashCode_96 : decode cJ5_vectorizedHashCode 96 = .ok (.iload_n 2, 1) := dk_28 (dk_at dksJ5_vectorizedHashCode_4 6 rfl rfl)
theorem dJ5_vectorizedHashCode_97 : decode cJ5_vectorizedHashCode 97 = .ok (.invokestatic 75, 3) := dk_184 0 75 (dk_at dksJ5_vectorizedHashCode_4 7 rfl rfl)
theorem dJ5_vectorizedHashCode_100 : decode cJ5_vectorizedHashCode 100 = .ok (.goto 57, 3) := dk_167 0 57 (dk_at dksJ5_vectorizedHashCode_4 10 rfl rfl)
theorem dJ5_vectorizedHashCode_103 : decode cJ5_vectorizedHashCode 103 = .ok (.iload_n 3, 1) := dk_29 (dk_at dksJ5_vectorizedHashCode_4 13 rfl rfl)
theorem dJ5_vectorizedHashCode_104 : decode cJ5_vectorizedHashCode 104 = .ok (.aload_n 0, 1) := dk_42 (dk_at dksJ5_vectorizedHashCode_4 14 rfl rfl)
theorem dJ5_vectorizedHashCode_105 : decode cJ5_vectorizedHashCode 105 = .ok (.checkcast 77, 3) := dk_192 0 77 (dk_at dksJ5_vectorizedHashCode_4 15 rfl rfl)
theorem dJ5_vectorizedHashCode_108 : decode cJ5_vectorizedHashCode 108 = .ok (.iload_n 1, 1) := dk_27 (dk_at dksJ5_vectorizedHashCode_4 18 rfl rfl)
theorem dJ5_vectorizedHashCode_109 : decode cJ5_vectorizedHashCode 109 = .ok (.iload_n 2, 1) := dk_28 (dk_at dksJ5_vectorizedHashCode_4 19 rfl rfl)
theorem dJ5_vectorizedHashCode_110 : decode cJ5_vectorizedHashCode 110 = .ok (.invokestatic 79, 3) := dk_184 0 79 (dk_at dksJ5_vectorizedHashCode_4 20 rfl rfl)
theorem dJ5_vectorizedHashCode_113 : decode cJ5_vectorizedHashCode 113 = .ok (.goto 44, 3) := dk_167 0 44 (dk_at dksJ5_vectorizedHashCode_5 0 rfl rfl)
theorem dJ5_vectorizedHashCode_116 : decode cJ5_vectorizedHashCode 116 = .ok (.iload_n 3, 1) := dk_29 (dk_at dksJ5_vectorizedHashCode_5 3 rfl rfl)
theorem dJ5_vectorizedHashCode_117 : decode cJ5_vectorizedHashCode 117 = .ok (.aload_n 0, 1) := dk_42 (dk_at dksJ5_vectorizedHashCode_5 4 rfl rfl)
theorem dJ5_vectorizedHashCode_118 : decode cJ5_vectorizedHashCode 118 = .ok (.checkcast 82, 3) := dk_192 0 82 (dk_at dksJ5_vectorizedHashCode_5 5 rfl rfl)
theorem dJ5_vectorizedHashCode_121 : decode cJ5_vectorizedHashCode 121 = .ok (.iload_n 1, 1) := dk_27 (dk_at dksJ5_vectorizedHashCode_5 8 rfl rfl)
theorem dJ5_vectorizedHashCode_122 : decode cJ5_vectorizedHashCode 122 = .ok (.iload_n 2, 1) := dk_28 (dk_at dksJ5_vectorizedHashCode_5 9 rfl rfl)
theorem dJ5_vectorizedHashCode_123 : decode cJ5_vectorizedHashCode 123 = .ok (.invokestatic 84, 3) := dk_184 0 84 (dk_at dksJ5_vectorizedHashCode_5 10 rfl rfl)
theorem dJ5_vectorizedHashCode_126 : decode cJ5_vectorizedHashCode 126 = .ok (.goto 31, 3) := dk_167 0 31 (dk_at dksJ5_vectorizedHashCode_5 13 rfl rfl)
theorem dJ5_vectorizedHashCode_129 : decode cJ5_vectorizedHashCode 129 = .ok (.new 87, 3) := dk_187 0 87 (dk_at dksJ5_vectorizedHashCode_5 16 rfl rfl)
theorem dJ5_vectorizedHashCode_132 : decode cJ5_vectorizedHashCode 132 = .ok (.dup, 1) := dk_89 (dk_at dksJ5_vectorizedHashCode_5 19 rfl rfl)
theorem dJ5_vectorizedHashCode_133 : decode cJ5_vectorizedHashCode 133 = .ok (.new 89, 3) := dk_187 0 89 (dk_at dksJ5_vectorizedHashCode_5 20 rfl rfl)
theorem dJ5_vectorizedHashCode_136 : decode cJ5_vectorizedHashCode 136 = .ok (.dup, 1) := dk_89 (dk_at dksJ5_vectorizedHashCode_5 23 rfl rfl)
theorem dJ5_vectorizedHashCode_137 : decode cJ5_vectorizedHashCode 137 = .ok (.invokespecial 91, 3) := dk_183 0 91 (dk_at dksJ5_vectorizedHashCode_6 0 rfl rfl)
theorem dJ5_vectorizedHashCode_140 : decode cJ5_vectorizedHashCode 140 = .ok (.ldc 92, 2) := dk_18 92 (dk_at dksJ5_vectorizedHashCode_6 3 rfl rfl)
theorem dJ5_vectorizedHashCode_142 : decode cJ5_vectorizedHashCode 142 = .ok (.invokevirtual 94, 3) := dk_182 0 94 (dk_at dksJ5_vectorizedHashCode_6 5 rfl rfl)
theorem dJ5_vectorizedHashCode_145 : decode cJ5_vectorizedHashCode 145 = .ok (.iload 4, 2) := dk_21 4 (dk_at dksJ5_vectorizedHashCode_6 8 rfl rfl)
theorem dJ5_vectorizedHashCode_147 : decode cJ5_vectorizedHashCode 147 = .ok (.invokevirtual 98, 3) := dk_182 0 98 (dk_at dksJ5_vectorizedHashCode_6 10 rfl rfl)
theorem dJ5_vectorizedHashCode_150 : decode cJ5_vectorizedHashCode 150 = .ok (.invokevirtual 101, 3) := dk_182 0 101 (dk_at dksJ5_vectorizedHashCode_6 13 rfl rfl)
theorem dJ5_vectorizedHashCode_153 : decode cJ5_vectorizedHashCode 153 = .ok (.invokespecial 105, 3) := dk_183 0 105 (dk_at dksJ5_vectorizedHashCode_6 16 rfl rfl)
theorem dJ5_vectorizedHashCode_156 : decode cJ5_vectorizedHashCode 156 = .ok (.athrow, 1) := dk_191 (dk_at dksJ5_vectorizedHashCode_6 19 rfl rfl)
theorem dJ5_vectorizedHashCode_157 : decode cJ5_vectorizedHashCode 157 = .ok (.ireturn, 1) := dk_172 (dk_at dksJ5_vectorizedHashCode_6 20 rfl rfl)
abbrev cJ5_signedHashCode : ByteArray := prog_70_method_5_code
def yJ5_signedHashCode : MethodName := ⟨RJ5, "signedHashCode", "(I[BII)I"⟩
def dkwJ5_signedHashCode_1 : List UInt8 := [17, 0, 255, 126, 96, 59, 132, 5, 1, 167, 255, 232, 26, 172]
abbrev dktJ5_signedHashCode_1 : List UInt8 := dkwJ5_signedHashCode_1 ++ []
def dkwJ5_signedHashCode_0 : List UInt8 := [28, 29, 96, 54, 4, 28, 54, 5, 21, 5, 21, 4, 162, 0, 23, 16, 31, 26, 104, 43, 21, 5, 51]
abbrev dktJ5_signedHashCode_0 : List UInt8 := dkwJ5_signedHashCode_0 ++ dktJ5_signedHashCode_1
theorem dksJ5_signedHashCode_0 : cJ5_signedHashCode.data.toList.drop 0 = dktJ5_signedHashCode_0 := by decide +kernel
theorem dksJ5_signedHashCode_1 : cJ5_signedHashCode.data.toList.drop 23 = dktJ5_signedHashCode_1 := dk_seg dksJ5_signedHashCode_0 23 rfl rfl
theorem dJ5_signedHashCode_0 : decode cJ5_signedHashCode 0 = .ok (.iload_n 2, 1) := dk_28 (dk_at dksJ5_signedHashCode_0 0 rfl rfl)
theorem dJ5_signedHashCode_1 : decode cJ5_signedHashCode 1 = .ok (.iload_n 3, 1) := dk_29 (dk_at dksJ5_signedHashCode_0 1 rfl rfl)
theorem dJ5_signedHashCode_2 : decode cJ5_signedHashCode 2 = .ok (.iadd, 1) := dk_96 (dk_at dksJ5_signedHashCode_0 2 rfl rfl)
theorem dJ5_signedHashCode_3 : decode cJ5_signedHashCode 3 = .ok (.istore 4, 2) := dk_54 4 (dk_at dksJ5_signedHashCode_0 3 rfl rfl)
theorem dJ5_signedHashCode_5 : decode cJ5_signedHashCode 5 = .ok (.iload_n 2, 1) := dk_28 (dk_at dksJ5_signedHashCode_0 5 rfl rfl)
theorem dJ5_signedHashCode_6 : decode cJ5_signedHashCode 6 = .ok (.istore 5, 2) := dk_54 5 (dk_at dksJ5_signedHashCode_0 6 rfl rfl)
theorem dJ5_signedHashCode_8 : decode cJ5_signedHashCode 8 = .ok (.iload 5, 2) := dk_21 5 (dk_at dksJ5_signedHashCode_0 8 rfl rfl)
theorem dJ5_signedHashCode_10 : decode cJ5_signedHashCode 10 = .ok (.iload 4, 2) := dk_21 4 (dk_at dksJ5_signedHashCode_0 10 rfl rfl)
theorem dJ5_signedHashCode_12 : decode cJ5_signedHashCode 12 = .ok (.if_icmp .ge 23, 3) := dk_162 0 23 (dk_at dksJ5_signedHashCode_0 12 rfl rfl)
theorem dJ5_signedHashCode_15 : decode cJ5_signedHashCode 15 = .ok (.bipush 31, 2) := dk_16 31 (dk_at dksJ5_signedHashCode_0 15 rfl rfl)
theorem dJ5_signedHashCode_17 : decode cJ5_signedHashCode 17 = .ok (.iload_n 0, 1) := dk_26 (dk_at dksJ5_signedHashCode_0 17 rfl rfl)
theorem dJ5_signedHashCode_18 : decode cJ5_signedHashCode 18 = .ok (.imul, 1) := dk_104 (dk_at dksJ5_signedHashCode_0 18 rfl rfl)
theorem dJ5_signedHashCode_19 : decode cJ5_signedHashCode 19 = .ok (.aload_n 1, 1) := dk_43 (dk_at dksJ5_signedHashCode_0 19 rfl rfl)
theorem dJ5_signedHashCode_20 : decode cJ5_signedHashCode 20 = .ok (.iload 5, 2) := dk_21 5 (dk_at dksJ5_signedHashCode_0 20 rfl rfl)
theorem dJ5_signedHashCode_22 : decode cJ5_signedHashCode 22 = .ok (.baload, 1) := dk_51 (dk_at dksJ5_signedHashCode_0 22 rfl rfl)
theorem dJ5_signedHashCode_23 : decode cJ5_signedHashCode 23 = .ok (.sipush 255, 3) := dk_17 0 255 (dk_at dksJ5_signedHashCode_1 0 rfl rfl)
theorem dJ5_signedHashCode_26 : decode cJ5_signedHashCode 26 = .ok (.iand, 1) := dk_126 (dk_at dksJ5_signedHashCode_1 3 rfl rfl)
theorem dJ5_signedHashCode_27 : decode cJ5_signedHashCode 27 = .ok (.iadd, 1) := dk_96 (dk_at dksJ5_signedHashCode_1 4 rfl rfl)
theorem dJ5_signedHashCode_28 : decode cJ5_signedHashCode 28 = .ok (.istore_n 0, 1) := dk_59 (dk_at dksJ5_signedHashCode_1 5 rfl rfl)
theorem dJ5_signedHashCode_29 : decode cJ5_signedHashCode 29 = .ok (.iinc 5 1, 3) := dk_132 5 1 (dk_at dksJ5_signedHashCode_1 6 rfl rfl)
theorem dJ5_signedHashCode_32 : decode cJ5_signedHashCode 32 = .ok (.goto (-24), 3) := dk_167 255 232 (dk_at dksJ5_signedHashCode_1 9 rfl rfl)
theorem dJ5_signedHashCode_35 : decode cJ5_signedHashCode 35 = .ok (.iload_n 0, 1) := dk_26 (dk_at dksJ5_signedHashCode_1 12 rfl rfl)
theorem dJ5_signedHashCode_36 : decode cJ5_signedHashCode 36 = .ok (.ireturn, 1) := dk_172 (dk_at dksJ5_signedHashCode_1 13 rfl rfl)
abbrev cJ5_utf16hashCode : ByteArray := prog_70_method_10_code
def yJ5_utf16hashCode : MethodName := ⟨RJ5, "utf16hashCode", "(I[BII)I"⟩
def dkwJ5_utf16hashCode_1 : List UInt8 := [21, 5, 185, 0, 110, 3, 0, 96, 59, 132, 5, 1, 167, 255, 229, 26, 172]
abbrev dktJ5_utf16hashCode_1 : List UInt8 := dkwJ5_utf16hashCode_1 ++ []
def dkwJ5_utf16hashCode_0 : List UInt8 := [28, 29, 96, 54, 4, 28, 54, 5, 21, 5, 21, 4, 162, 0, 26, 16, 31, 26, 104, 178, 0, 106, 43]
abbrev dktJ5_utf16hashCode_0 : List UInt8 := dkwJ5_utf16hashCode_0 ++ dktJ5_utf16hashCode_1
theorem dksJ5_utf16hashCode_0 : cJ5_utf16hashCode.data.toList.drop 0 = dktJ5_utf16hashCode_0 := by decide +kernel
theorem dksJ5_utf16hashCode_1 : cJ5_utf16hashCode.data.toList.drop 23 = dktJ5_utf16hashCode_1 := dk_seg dksJ5_utf16hashCode_0 23 rfl rfl
theorem dJ5_utf16hashCode_0 : decode cJ5_utf16hashCode 0 = .ok (.iload_n 2, 1) := dk_28 (dk_at dksJ5_utf16hashCode_0 0 rfl rfl)
theorem dJ5_utf16hashCode_1 : decode cJ5_utf16hashCode 1 = .ok (.iload_n 3, 1) := dk_29 (dk_at dksJ5_utf16hashCode_0 1 rfl rfl)
theorem dJ5_utf16hashCode_2 : decode cJ5_utf16hashCode 2 = .ok (.iadd, 1) := dk_96 (dk_at dksJ5_utf16hashCode_0 2 rfl rfl)
theorem dJ5_utf16hashCode_3 : decode cJ5_utf16hashCode 3 = .ok (.istore 4, 2) := dk_54 4 (dk_at dksJ5_utf16hashCode_0 3 rfl rfl)
theorem dJ5_utf16hashCode_5 : decode cJ5_utf16hashCode 5 = .ok (.iload_n 2, 1) := dk_28 (dk_at dksJ5_utf16hashCode_0 5 rfl rfl)
theorem dJ5_utf16hashCode_6 : decode cJ5_utf16hashCode 6 = .ok (.istore 5, 2) := dk_54 5 (dk_at dksJ5_utf16hashCode_0 6 rfl rfl)
theorem dJ5_utf16hashCode_8 : decode cJ5_utf16hashCode 8 = .ok (.iload 5, 2) := dk_21 5 (dk_at dksJ5_utf16hashCode_0 8 rfl rfl)
theorem dJ5_utf16hashCode_10 : decode cJ5_utf16hashCode 10 = .ok (.iload 4, 2) := dk_21 4 (dk_at dksJ5_utf16hashCode_0 10 rfl rfl)
theorem dJ5_utf16hashCode_12 : decode cJ5_utf16hashCode 12 = .ok (.if_icmp .ge 26, 3) := dk_162 0 26 (dk_at dksJ5_utf16hashCode_0 12 rfl rfl)
theorem dJ5_utf16hashCode_15 : decode cJ5_utf16hashCode 15 = .ok (.bipush 31, 2) := dk_16 31 (dk_at dksJ5_utf16hashCode_0 15 rfl rfl)
theorem dJ5_utf16hashCode_17 : decode cJ5_utf16hashCode 17 = .ok (.iload_n 0, 1) := dk_26 (dk_at dksJ5_utf16hashCode_0 17 rfl rfl)
theorem dJ5_utf16hashCode_18 : decode cJ5_utf16hashCode 18 = .ok (.imul, 1) := dk_104 (dk_at dksJ5_utf16hashCode_0 18 rfl rfl)
theorem dJ5_utf16hashCode_19 : decode cJ5_utf16hashCode 19 = .ok (.getstatic 106, 3) := dk_178 0 106 (dk_at dksJ5_utf16hashCode_0 19 rfl rfl)
theorem dJ5_utf16hashCode_22 : decode cJ5_utf16hashCode 22 = .ok (.aload_n 1, 1) := dk_43 (dk_at dksJ5_utf16hashCode_0 22 rfl rfl)
theorem dJ5_utf16hashCode_23 : decode cJ5_utf16hashCode 23 = .ok (.iload 5, 2) := dk_21 5 (dk_at dksJ5_utf16hashCode_1 0 rfl rfl)
theorem dJ5_utf16hashCode_25 : decode cJ5_utf16hashCode 25 = .ok (.invokeinterface 110 3, 5) := by decide +kernel
theorem dJ5_utf16hashCode_30 : decode cJ5_utf16hashCode 30 = .ok (.iadd, 1) := dk_96 (dk_at dksJ5_utf16hashCode_1 7 rfl rfl)
theorem dJ5_utf16hashCode_31 : decode cJ5_utf16hashCode 31 = .ok (.istore_n 0, 1) := dk_59 (dk_at dksJ5_utf16hashCode_1 8 rfl rfl)
theorem dJ5_utf16hashCode_32 : decode cJ5_utf16hashCode 32 = .ok (.iinc 5 1, 3) := dk_132 5 1 (dk_at dksJ5_utf16hashCode_1 9 rfl rfl)
theorem dJ5_utf16hashCode_35 : decode cJ5_utf16hashCode 35 = .ok (.goto (-27), 3) := dk_167 255 229 (dk_at dksJ5_utf16hashCode_1 12 rfl rfl)
theorem dJ5_utf16hashCode_38 : decode cJ5_utf16hashCode 38 = .ok (.iload_n 0, 1) := dk_26 (dk_at dksJ5_utf16hashCode_1 15 rfl rfl)
theorem dJ5_utf16hashCode_39 : decode cJ5_utf16hashCode 39 = .ok (.ireturn, 1) := dk_172 (dk_at dksJ5_utf16hashCode_1 16 rfl rfl)
abbrev cJ5_hashCode : ByteArray := prog_70_method_7_code
def yJ5_hashCode : MethodName := ⟨RJ5, "hashCode", "(I[CII)I"⟩
def dkwJ5_hashCode_1 : List UInt8 := [59, 132, 5, 1, 167, 255, 236, 26, 172]
abbrev dktJ5_hashCode_1 : List UInt8 := dkwJ5_hashCode_1 ++ []
def dkwJ5_hashCode_0 : List UInt8 := [28, 29, 96, 54, 4, 28, 54, 5, 21, 5, 21, 4, 162, 0, 19, 16, 31, 26, 104, 43, 21, 5, 52, 96]
abbrev dktJ5_hashCode_0 : List UInt8 := dkwJ5_hashCode_0 ++ dktJ5_hashCode_1
theorem dksJ5_hashCode_0 : cJ5_hashCode.data.toList.drop 0 = dktJ5_hashCode_0 := by decide +kernel
theorem dksJ5_hashCode_1 : cJ5_hashCode.data.toList.drop 24 = dktJ5_hashCode_1 := dk_seg dksJ5_hashCode_0 24 rfl rfl
theorem dJ5_hashCode_0 : decode cJ5_hashCode 0 = .ok (.iload_n 2, 1) := dk_28 (dk_at dksJ5_hashCode_0 0 rfl rfl)
theorem dJ5_hashCode_1 : decode cJ5_hashCode 1 = .ok (.iload_n 3, 1) := dk_29 (dk_at dksJ5_hashCode_0 1 rfl rfl)
theorem dJ5_hashCode_2 : decode cJ5_hashCode 2 = .ok (.iadd, 1) := dk_96 (dk_at dksJ5_hashCode_0 2 rfl rfl)
theorem dJ5_hashCode_3 : decode cJ5_hashCode 3 = .ok (.istore 4, 2) := dk_54 4 (dk_at dksJ5_hashCode_0 3 rfl rfl)
theorem dJ5_hashCode_5 : decode cJ5_hashCode 5 = .ok (.iload_n 2, 1) := dk_28 (dk_at dksJ5_hashCode_0 5 rfl rfl)
theorem dJ5_hashCode_6 : decode cJ5_hashCode 6 = .ok (.istore 5, 2) := dk_54 5 (dk_at dksJ5_hashCode_0 6 rfl rfl)
theorem dJ5_hashCode_8 : decode cJ5_hashCode 8 = .ok (.iload 5, 2) := dk_21 5 (dk_at dksJ5_hashCode_0 8 rfl rfl)
theorem dJ5_hashCode_10 : decode cJ5_hashCode 10 = .ok (.iload 4, 2) := dk_21 4 (dk_at dksJ5_hashCode_0 10 rfl rfl)
theorem dJ5_hashCode_12 : decode cJ5_hashCode 12 = .ok (.if_icmp .ge 19, 3) := dk_162 0 19 (dk_at dksJ5_hashCode_0 12 rfl rfl)
theorem dJ5_hashCode_15 : decode cJ5_hashCode 15 = .ok (.bipush 31, 2) := dk_16 31 (dk_at dksJ5_hashCode_0 15 rfl rfl)
theorem dJ5_hashCode_17 : decode cJ5_hashCode 17 = .ok (.iload_n 0, 1) := dk_26 (dk_at dksJ5_hashCode_0 17 rfl rfl)
theorem dJ5_hashCode_18 : decode cJ5_hashCode 18 = .ok (.imul, 1) := dk_104 (dk_at dksJ5_hashCode_0 18 rfl rfl)
theorem dJ5_hashCode_19 : decode cJ5_hashCode 19 = .ok (.aload_n 1, 1) := dk_43 (dk_at dksJ5_hashCode_0 19 rfl rfl)
theorem dJ5_hashCode_20 : decode cJ5_hashCode 20 = .ok (.iload 5, 2) := dk_21 5 (dk_at dksJ5_hashCode_0 20 rfl rfl)
theorem dJ5_hashCode_22 : decode cJ5_hashCode 22 = .ok (.caload, 1) := dk_52 (dk_at dksJ5_hashCode_0 22 rfl rfl)
theorem dJ5_hashCode_23 : decode cJ5_hashCode 23 = .ok (.iadd, 1) := dk_96 (dk_at dksJ5_hashCode_0 23 rfl rfl)
theorem dJ5_hashCode_24 : decode cJ5_hashCode 24 = .ok (.istore_n 0, 1) := dk_59 (dk_at dksJ5_hashCode_1 0 rfl rfl)
theorem dJ5_hashCode_25 : decode cJ5_hashCode 25 = .ok (.iinc 5 1, 3) := dk_132 5 1 (dk_at dksJ5_hashCode_1 1 rfl rfl)
theorem dJ5_hashCode_28 : decode cJ5_hashCode 28 = .ok (.goto (-20), 3) := dk_167 255 236 (dk_at dksJ5_hashCode_1 4 rfl rfl)
theorem dJ5_hashCode_31 : decode cJ5_hashCode 31 = .ok (.iload_n 0, 1) := dk_26 (dk_at dksJ5_hashCode_1 7 rfl rfl)
theorem dJ5_hashCode_32 : decode cJ5_hashCode 32 = .ok (.ireturn, 1) := dk_172 (dk_at dksJ5_hashCode_1 8 rfl rfl)
abbrev cJ5_hashCode_2 : ByteArray := prog_70_method_6_code
def yJ5_hashCode_2 : MethodName := ⟨RJ5, "hashCode", "(I[BII)I"⟩
def dkwJ5_hashCode_2_1 : List UInt8 := [59, 132, 5, 1, 167, 255, 236, 26, 172]
abbrev dktJ5_hashCode_2_1 : List UInt8 := dkwJ5_hashCode_2_1 ++ []
def dkwJ5_hashCode_2_0 : List UInt8 := [28, 29, 96, 54, 4, 28, 54, 5, 21, 5, 21, 4, 162, 0, 19, 16, 31, 26, 104, 43, 21, 5, 51, 96]
abbrev dktJ5_hashCode_2_0 : List UInt8 := dkwJ5_hashCode_2_0 ++ dktJ5_hashCode_2_1
theorem dksJ5_hashCode_2_0 : cJ5_hashCode_2.data.toList.drop 0 = dktJ5_hashCode_2_0 := by decide +kernel
theorem dksJ5_hashCode_2_1 : cJ5_hashCode_2.data.toList.drop 24 = dktJ5_hashCode_2_1 := dk_seg dksJ5_hashCode_2_0 24 rfl rfl
theorem dJ5_hashCode_2_0 : decode cJ5_hashCode_2 0 = .ok (.iload_n 2, 1) := dk_28 (dk_at dksJ5_hashCode_2_0 0 rfl rfl)
theorem dJ5_hashCode_2_1 : decode cJ5_hashCode_2 1 = .ok (.iload_n 3, 1) := dk_29 (dk_at dksJ5_hashCode_2_0 1 rfl rfl)
theorem dJ5_hashCode_2_2 : decode cJ5_hashCode_2 2 = .ok (.iadd, 1) := dk_96 (dk_at dksJ5_hashCode_2_0 2 rfl rfl)
theorem dJ5_hashCode_2_3 : decode cJ5_hashCode_2 3 = .ok (.istore 4, 2) := dk_54 4 (dk_at dksJ5_hashCode_2_0 3 rfl rfl)
theorem dJ5_hashCode_2_5 : decode cJ5_hashCode_2 5 = .ok (.iload_n 2, 1) := dk_28 (dk_at dksJ5_hashCode_2_0 5 rfl rfl)
theorem dJ5_hashCode_2_6 : decode cJ5_hashCode_2 6 = .ok (.istore 5, 2) := dk_54 5 (dk_at dksJ5_hashCode_2_0 6 rfl rfl)
theorem dJ5_hashCode_2_8 : decode cJ5_hashCode_2 8 = .ok (.iload 5, 2) := dk_21 5 (dk_at dksJ5_hashCode_2_0 8 rfl rfl)
theorem dJ5_hashCode_2_10 : decode cJ5_hashCode_2 10 = .ok (.iload 4, 2) := dk_21 4 (dk_at dksJ5_hashCode_2_0 10 rfl rfl)
theorem dJ5_hashCode_2_12 : decode cJ5_hashCode_2 12 = .ok (.if_icmp .ge 19, 3) := dk_162 0 19 (dk_at dksJ5_hashCode_2_0 12 rfl rfl)
theorem dJ5_hashCode_2_15 : decode cJ5_hashCode_2 15 = .ok (.bipush 31, 2) := dk_16 31 (dk_at dksJ5_hashCode_2_0 15 rfl rfl)
theorem dJ5_hashCode_2_17 : decode cJ5_hashCode_2 17 = .ok (.iload_n 0, 1) := dk_26 (dk_at dksJ5_hashCode_2_0 17 rfl rfl)
theorem dJ5_hashCode_2_18 : decode cJ5_hashCode_2 18 = .ok (.imul, 1) := dk_104 (dk_at dksJ5_hashCode_2_0 18 rfl rfl)
theorem dJ5_hashCode_2_19 : decode cJ5_hashCode_2 19 = .ok (.aload_n 1, 1) := dk_43 (dk_at dksJ5_hashCode_2_0 19 rfl rfl)
theorem dJ5_hashCode_2_20 : decode cJ5_hashCode_2 20 = .ok (.iload 5, 2) := dk_21 5 (dk_at dksJ5_hashCode_2_0 20 rfl rfl)
theorem dJ5_hashCode_2_22 : decode cJ5_hashCode_2 22 = .ok (.baload, 1) := dk_51 (dk_at dksJ5_hashCode_2_0 22 rfl rfl)
theorem dJ5_hashCode_2_23 : decode cJ5_hashCode_2 23 = .ok (.iadd, 1) := dk_96 (dk_at dksJ5_hashCode_2_0 23 rfl rfl)
theorem dJ5_hashCode_2_24 : decode cJ5_hashCode_2 24 = .ok (.istore_n 0, 1) := dk_59 (dk_at dksJ5_hashCode_2_1 0 rfl rfl)
theorem dJ5_hashCode_2_25 : decode cJ5_hashCode_2 25 = .ok (.iinc 5 1, 3) := dk_132 5 1 (dk_at dksJ5_hashCode_2_1 1 rfl rfl)
theorem dJ5_hashCode_2_28 : decode cJ5_hashCode_2 28 = .ok (.goto (-20), 3) := dk_167 255 236 (dk_at dksJ5_hashCode_2_1 4 rfl rfl)
theorem dJ5_hashCode_2_31 : decode cJ5_hashCode_2 31 = .ok (.iload_n 0, 1) := dk_26 (dk_at dksJ5_hashCode_2_1 7 rfl rfl)
theorem dJ5_hashCode_2_32 : decode cJ5_hashCode_2 32 = .ok (.ireturn, 1) := dk_172 (dk_at dksJ5_hashCode_2_1 8 rfl rfl)
abbrev cJ5_hashCode_3 : ByteArray := prog_70_method_8_code
def yJ5_hashCode_3 : MethodName := ⟨RJ5, "hashCode", "(I[SII)I"⟩
def dkwJ5_hashCode_3_1 : List UInt8 := [59, 132, 5, 1, 167, 255, 236, 26, 172]
abbrev dktJ5_hashCode_3_1 : List UInt8 := dkwJ5_hashCode_3_1 ++ []
def dkwJ5_hashCode_3_0 : List UInt8 := [28, 29, 96, 54, 4, 28, 54, 5, 21, 5, 21, 4, 162, 0, 19, 16, 31, 26, 104, 43, 21, 5, 53, 96]
abbrev dktJ5_hashCode_3_0 : List UInt8 := dkwJ5_hashCode_3_0 ++ dktJ5_hashCode_3_1
theorem dksJ5_hashCode_3_0 : cJ5_hashCode_3.data.toList.drop 0 = dktJ5_hashCode_3_0 := by decide +kernel
theorem dksJ5_hashCode_3_1 : cJ5_hashCode_3.data.toList.drop 24 = dktJ5_hashCode_3_1 := dk_seg dksJ5_hashCode_3_0 24 rfl rfl
theorem dJ5_hashCode_3_0 : decode cJ5_hashCode_3 0 = .ok (.iload_n 2, 1) := dk_28 (dk_at dksJ5_hashCode_3_0 0 rfl rfl)
theorem dJ5_hashCode_3_1 : decode cJ5_hashCode_3 1 = .ok (.iload_n 3, 1) := dk_29 (dk_at dksJ5_hashCode_3_0 1 rfl rfl)
theorem dJ5_hashCode_3_2 : decode cJ5_hashCode_3 2 = .ok (.iadd, 1) := dk_96 (dk_at dksJ5_hashCode_3_0 2 rfl rfl)
theorem dJ5_hashCode_3_3 : decode cJ5_hashCode_3 3 = .ok (.istore 4, 2) := dk_54 4 (dk_at dksJ5_hashCode_3_0 3 rfl rfl)
theorem dJ5_hashCode_3_5 : decode cJ5_hashCode_3 5 = .ok (.iload_n 2, 1) := dk_28 (dk_at dksJ5_hashCode_3_0 5 rfl rfl)
theorem dJ5_hashCode_3_6 : decode cJ5_hashCode_3 6 = .ok (.istore 5, 2) := dk_54 5 (dk_at dksJ5_hashCode_3_0 6 rfl rfl)
theorem dJ5_hashCode_3_8 : decode cJ5_hashCode_3 8 = .ok (.iload 5, 2) := dk_21 5 (dk_at dksJ5_hashCode_3_0 8 rfl rfl)
theorem dJ5_hashCode_3_10 : decode cJ5_hashCode_3 10 = .ok (.iload 4, 2) := dk_21 4 (dk_at dksJ5_hashCode_3_0 10 rfl rfl)
theorem dJ5_hashCode_3_12 : decode cJ5_hashCode_3 12 = .ok (.if_icmp .ge 19, 3) := dk_162 0 19 (dk_at dksJ5_hashCode_3_0 12 rfl rfl)
theorem dJ5_hashCode_3_15 : decode cJ5_hashCode_3 15 = .ok (.bipush 31, 2) := dk_16 31 (dk_at dksJ5_hashCode_3_0 15 rfl rfl)
theorem dJ5_hashCode_3_17 : decode cJ5_hashCode_3 17 = .ok (.iload_n 0, 1) := dk_26 (dk_at dksJ5_hashCode_3_0 17 rfl rfl)
theorem dJ5_hashCode_3_18 : decode cJ5_hashCode_3 18 = .ok (.imul, 1) := dk_104 (dk_at dksJ5_hashCode_3_0 18 rfl rfl)
theorem dJ5_hashCode_3_19 : decode cJ5_hashCode_3 19 = .ok (.aload_n 1, 1) := dk_43 (dk_at dksJ5_hashCode_3_0 19 rfl rfl)
theorem dJ5_hashCode_3_20 : decode cJ5_hashCode_3 20 = .ok (.iload 5, 2) := dk_21 5 (dk_at dksJ5_hashCode_3_0 20 rfl rfl)
theorem dJ5_hashCode_3_22 : decode cJ5_hashCode_3 22 = .ok (.saload, 1) := dk_53 (dk_at dksJ5_hashCode_3_0 22 rfl rfl)
theorem dJ5_hashCode_3_23 : decode cJ5_hashCode_3 23 = .ok (.iadd, 1) := dk_96 (dk_at dksJ5_hashCode_3_0 23 rfl rfl)
theorem dJ5_hashCode_3_24 : decode cJ5_hashCode_3 24 = .ok (.istore_n 0, 1) := dk_59 (dk_at dksJ5_hashCode_3_1 0 rfl rfl)
theorem dJ5_hashCode_3_25 : decode cJ5_hashCode_3 25 = .ok (.iinc 5 1, 3) := dk_132 5 1 (dk_at dksJ5_hashCode_3_1 1 rfl rfl)
theorem dJ5_hashCode_3_28 : decode cJ5_hashCode_3 28 = .ok (.goto (-20), 3) := dk_167 255 236 (dk_at dksJ5_hashCode_3_1 4 rfl rfl)
theorem dJ5_hashCode_3_31 : decode cJ5_hashCode_3 31 = .ok (.iload_n 0, 1) := dk_26 (dk_at dksJ5_hashCode_3_1 7 rfl rfl)
theorem dJ5_hashCode_3_32 : decode cJ5_hashCode_3 32 = .ok (.ireturn, 1) := dk_172 (dk_at dksJ5_hashCode_3_1 8 rfl rfl)
abbrev cJ5_hashCode_4 : ByteArray := prog_70_method_9_code
def yJ5_hashCode_4 : MethodName := ⟨RJ5, "hashCode", "(I[III)I"⟩
def dkwJ5_hashCode_4_1 : List UInt8 := [59, 132, 5, 1, 167, 255, 236, 26, 172]
abbrev dktJ5_hashCode_4_1 : List UInt8 := dkwJ5_hashCode_4_1 ++ []
def dkwJ5_hashCode_4_0 : List UInt8 := [28, 29, 96, 54, 4, 28, 54, 5, 21, 5, 21, 4, 162, 0, 19, 16, 31, 26, 104, 43, 21, 5, 46, 96]
abbrev dktJ5_hashCode_4_0 : List UInt8 := dkwJ5_hashCode_4_0 ++ dktJ5_hashCode_4_1
theorem dksJ5_hashCode_4_0 : cJ5_hashCode_4.data.toList.drop 0 = dktJ5_hashCode_4_0 := by decide +kernel
theorem dksJ5_hashCode_4_1 : cJ5_hashCode_4.data.toList.drop 24 = dktJ5_hashCode_4_1 := dk_seg dksJ5_hashCode_4_0 24 rfl rfl
theorem dJ5_hashCode_4_0 : decode cJ5_hashCode_4 0 = .ok (.iload_n 2, 1) := dk_28 (dk_at dksJ5_hashCode_4_0 0 rfl rfl)
theorem dJ5_hashCode_4_1 : decode cJ5_hashCode_4 1 = .ok (.iload_n 3, 1) := dk_29 (dk_at dksJ5_hashCode_4_0 1 rfl rfl)
theorem dJ5_hashCode_4_2 : decode cJ5_hashCode_4 2 = .ok (.iadd, 1) := dk_96 (dk_at dksJ5_hashCode_4_0 2 rfl rfl)
theorem dJ5_hashCode_4_3 : decode cJ5_hashCode_4 3 = .ok (.istore 4, 2) := dk_54 4 (dk_at dksJ5_hashCode_4_0 3 rfl rfl)
theorem dJ5_hashCode_4_5 : decode cJ5_hashCode_4 5 = .ok (.iload_n 2, 1) := dk_28 (dk_at dksJ5_hashCode_4_0 5 rfl rfl)
theorem dJ5_hashCode_4_6 : decode cJ5_hashCode_4 6 = .ok (.istore 5, 2) := dk_54 5 (dk_at dksJ5_hashCode_4_0 6 rfl rfl)
theorem dJ5_hashCode_4_8 : decode cJ5_hashCode_4 8 = .ok (.iload 5, 2) := dk_21 5 (dk_at dksJ5_hashCode_4_0 8 rfl rfl)
theorem dJ5_hashCode_4_10 : decode cJ5_hashCode_4 10 = .ok (.iload 4, 2) := dk_21 4 (dk_at dksJ5_hashCode_4_0 10 rfl rfl)
theorem dJ5_hashCode_4_12 : decode cJ5_hashCode_4 12 = .ok (.if_icmp .ge 19, 3) := dk_162 0 19 (dk_at dksJ5_hashCode_4_0 12 rfl rfl)
theorem dJ5_hashCode_4_15 : decode cJ5_hashCode_4 15 = .ok (.bipush 31, 2) := dk_16 31 (dk_at dksJ5_hashCode_4_0 15 rfl rfl)
theorem dJ5_hashCode_4_17 : decode cJ5_hashCode_4 17 = .ok (.iload_n 0, 1) := dk_26 (dk_at dksJ5_hashCode_4_0 17 rfl rfl)
theorem dJ5_hashCode_4_18 : decode cJ5_hashCode_4 18 = .ok (.imul, 1) := dk_104 (dk_at dksJ5_hashCode_4_0 18 rfl rfl)
theorem dJ5_hashCode_4_19 : decode cJ5_hashCode_4 19 = .ok (.aload_n 1, 1) := dk_43 (dk_at dksJ5_hashCode_4_0 19 rfl rfl)
theorem dJ5_hashCode_4_20 : decode cJ5_hashCode_4 20 = .ok (.iload 5, 2) := dk_21 5 (dk_at dksJ5_hashCode_4_0 20 rfl rfl)
theorem dJ5_hashCode_4_22 : decode cJ5_hashCode_4 22 = .ok (.iaload, 1) := dk_46 (dk_at dksJ5_hashCode_4_0 22 rfl rfl)
theorem dJ5_hashCode_4_23 : decode cJ5_hashCode_4 23 = .ok (.iadd, 1) := dk_96 (dk_at dksJ5_hashCode_4_0 23 rfl rfl)
theorem dJ5_hashCode_4_24 : decode cJ5_hashCode_4 24 = .ok (.istore_n 0, 1) := dk_59 (dk_at dksJ5_hashCode_4_1 0 rfl rfl)
theorem dJ5_hashCode_4_25 : decode cJ5_hashCode_4 25 = .ok (.iinc 5 1, 3) := dk_132 5 1 (dk_at dksJ5_hashCode_4_1 1 rfl rfl)
theorem dJ5_hashCode_4_28 : decode cJ5_hashCode_4 28 = .ok (.goto (-20), 3) := dk_167 255 236 (dk_at dksJ5_hashCode_4_1 4 rfl rfl)
theorem dJ5_hashCode_4_31 : decode cJ5_hashCode_4 31 = .ok (.iload_n 0, 1) := dk_26 (dk_at dksJ5_hashCode_4_1 7 rfl rfl)
theorem dJ5_hashCode_4_32 : decode cJ5_hashCode_4 32 = .ok (.ireturn, 1) := dk_172 (dk_at dksJ5_hashCode_4_1 8 rfl rfl)
theorem q110 : (Jvm.Cond.initialized "jdk/internal/util/ArraysSupport") ∈ lw_all := lw_g (lw_at lw_m1 8 rfl) rfl
theorem q242 : (Jvm.Cond.static ({ cls := "jdk/internal/util/ArraysSupport", name := "newLength", desc := "(III)I" } : Jvm.MethodName)) ∈ lw_all := lw_g (lw_at lw_m1 140 rfl) rfl
theorem q243 : (Jvm.Cond.code ({ cls := "jdk/internal/util/ArraysSupport", name := "newLength", desc := "(III)I" } : Jvm.MethodName) prog_70_method_27_code (4 : Nat) (Option.some Jvm.ClassFile.FieldType.int)) ∈ lw_all := lw_g (lw_at lw_m1 141 rfl) rfl
theorem q244 : (Jvm.Cond.methodLink "jdk/internal/util/ArraysSupport" (194 : Nat) ({ cls := "java/lang/Math", name := "max", desc := "(II)I" } : Jvm.MethodName)) ∈ lw_all := lw_g (lw_at lw_m1 142 rfl) rfl
theorem q247 : (Jvm.Cond.constant "jdk/internal/util/ArraysSupport" (200 : Nat) (2147483639 : Int32)) ∈ lw_all := lw_g (lw_at lw_m1 145 rfl) rfl
theorem q248 : (Jvm.Cond.methodLink "jdk/internal/util/ArraysSupport" (201 : Nat) ({ cls := "jdk/internal/util/ArraysSupport", name := "hugeLength", desc := "(II)I" } : Jvm.MethodName)) ∈ lw_all := lw_g (lw_at lw_m1 146 rfl) rfl
theorem q249 : (Jvm.Cond.static ({ cls := "jdk/internal/util/ArraysSupport", name := "hugeLength", desc := "(II)I" } : Jvm.MethodName)) ∈ lw_all := lw_g (lw_at lw_m1 147 rfl) rfl
theorem q250 : (Jvm.Cond.code ({ cls := "jdk/internal/util/ArraysSupport", name := "hugeLength", desc := "(II)I" } : Jvm.MethodName) prog_70_method_28_code (3 : Nat) (Option.some Jvm.ClassFile.FieldType.int)) ∈ lw_all := lw_g (lw_at lw_m1 148 rfl) rfl
theorem q1496 : (Jvm.Cond.static ({ cls := "jdk/internal/util/ArraysSupport", name := "vectorizedHashCode", desc := "(Ljava/lang/Object;IIII)I" } : Jvm.MethodName)) ∈ lw_all := lw_g (lw_at lw_m6 194 rfl) rfl
theorem q1497 : (Jvm.Cond.code ({ cls := "jdk/internal/util/ArraysSupport", name := "vectorizedHashCode", desc := "(Ljava/lang/Object;IIII)I" } : Jvm.MethodName) prog_70_method_4_code (5 : Nat) (Option.some Jvm.ClassFile.FieldType.int)) ∈ lw_all := lw_g (lw_at lw_m6 195 rfl) rfl
theorem q1498 : (Jvm.Cond.classLink "jdk/internal/util/ArraysSupport" (60 : Nat) "[B") ∈ lw_all := lw_g (lw_at lw_m6 196 rfl) rfl
theorem q1499 : (Jvm.Cond.methodLink "jdk/internal/util/ArraysSupport" (62 : Nat) ({ cls := "jdk/internal/util/ArraysSupport", name := "signedHashCode", desc := "(I[BII)I" } : Jvm.MethodName)) ∈ lw_all := lw_g (lw_at lw_m6 197 rfl) rfl
theorem q1500 : (Jvm.Cond.static ({ cls := "jdk/internal/util/ArraysSupport", name := "signedHashCode", desc := "(I[BII)I" } : Jvm.MethodName)) ∈ lw_all := lw_g (lw_at lw_m6 198 rfl) rfl
theorem q1501 : (Jvm.Cond.code ({ cls := "jdk/internal/util/ArraysSupport", name := "signedHashCode", desc := "(I[BII)I" } : Jvm.MethodName) prog_70_method_5_code (6 : Nat) (Option.some Jvm.ClassFile.FieldType.int)) ∈ lw_all := lw_g (lw_at lw_m6 199 rfl) rfl
theorem q1502 : (Jvm.Cond.methodLink "jdk/internal/util/ArraysSupport" (66 : Nat) ({ cls := "jdk/internal/util/ArraysSupport", name := "utf16hashCode", desc := "(I[BII)I" } : Jvm.MethodName)) ∈ lw_all := lw_g (lw_at lw_m6 200 rfl) rfl
theorem q1503 : (Jvm.Cond.static ({ cls := "jdk/internal/util/ArraysSupport", name := "utf16hashCode", desc := "(I[BII)I" } : Jvm.MethodName)) ∈ lw_all := lw_g (lw_at lw_m6 201 rfl) rfl
theorem q1504 : (Jvm.Cond.code ({ cls := "jdk/internal/util/ArraysSupport", name := "utf16hashCode", desc := "(I[BII)I" } : Jvm.MethodName) prog_70_method_10_code (6 : Nat) (Option.some Jvm.ClassFile.FieldType.int)) ∈ lw_all := lw_g (lw_at lw_m6 202 rfl) rfl
theorem q1505 : (Jvm.Cond.fieldLink "jdk/internal/util/ArraysSupport" (106 : Nat) "jdk/internal/util/ArraysSupport" "JLA" "Ljdk/internal/access/JavaLangAccess;") ∈ lw_all := lw_g (lw_at lw_m6 203 rfl) rfl
theorem q1506 : (Jvm.Cond.laysStatic "jdk/internal/util/ArraysSupport" "JLA" "Ljdk/internal/access/JavaLangAccess;") ∈ lw_tbl := lw_at lw_m6 204 rfl
theorem q1507 : (Jvm.Cond.interfaceEntry "jdk/internal/util/ArraysSupport" (110 : Nat)) ∈ lw_tbl := lw_at lw_m6 205 rfl
theorem q1508 : (Jvm.Cond.methodLink "jdk/internal/util/ArraysSupport" (110 : Nat) ({ cls := "jdk/internal/access/JavaLangAccess", name := "getUTF16Char", desc := "([BI)C" } : Jvm.MethodName)) ∈ lw_all := lw_g (lw_at lw_m6 206 rfl) rfl
theorem q1518 : (Jvm.Cond.classLink "jdk/internal/util/ArraysSupport" (69 : Nat) "[C") ∈ lw_all := lw_g (lw_at lw_m6 216 rfl) rfl
theorem q1519 : (Jvm.Cond.methodLink "jdk/internal/util/ArraysSupport" (71 : Nat) ({ cls := "jdk/internal/util/ArraysSupport", name := "hashCode", desc := "(I[CII)I" } : Jvm.MethodName)) ∈ lw_all := lw_g (lw_at lw_m6 217 rfl) rfl
theorem q1520 : (Jvm.Cond.static ({ cls := "jdk/internal/util/ArraysSupport", name := "hashCode", desc := "(I[CII)I" } : Jvm.MethodName)) ∈ lw_all := lw_g (lw_at lw_m6 218 rfl) rfl
theorem q1521 : (Jvm.Cond.code ({ cls := "jdk/internal/util/ArraysSupport", name := "hashCode", desc := "(I[CII)I" } : Jvm.MethodName) prog_70_method_7_code (6 : Nat) (Option.some Jvm.ClassFile.FieldType.int)) ∈ lw_all := lw_g (lw_at lw_m6 219 rfl) rfl
theorem q1522 : (Jvm.Cond.methodLink "jdk/internal/util/ArraysSupport" (75 : Nat) ({ cls := "jdk/internal/util/ArraysSupport", name := "hashCode", desc := "(I[BII)I" } : Jvm.MethodName)) ∈ lw_all := lw_g (lw_at lw_m6 220 rfl) rfl
theorem q1523 : (Jvm.Cond.static ({ cls := "jdk/internal/util/ArraysSupport", name := "hashCode", desc := "(I[BII)I" } : Jvm.MethodName)) ∈ lw_all := lw_g (lw_at lw_m6 221 rfl) rfl
theorem q1524 : (Jvm.Cond.code ({ cls := "jdk/internal/util/ArraysSupport", name := "hashCode", desc := "(I[BII)I" } : Jvm.MethodName) prog_70_method_6_code (6 : Nat) (Option.some Jvm.ClassFile.FieldType.int)) ∈ lw_all := lw_g (lw_at lw_m6 222 rfl) rfl
theorem q1525 : (Jvm.Cond.classLink "jdk/internal/util/ArraysSupport" (77 : Nat) "[S") ∈ lw_all := lw_g (lw_at lw_m6 223 rfl) rfl
theorem q1526 : (Jvm.Cond.methodLink "jdk/internal/util/ArraysSupport" (79 : Nat) ({ cls := "jdk/internal/util/ArraysSupport", name := "hashCode", desc := "(I[SII)I" } : Jvm.MethodName)) ∈ lw_all := lw_g (lw_at lw_m6 224 rfl) rfl
theorem q1527 : (Jvm.Cond.static ({ cls := "jdk/internal/util/ArraysSupport", name := "hashCode", desc := "(I[SII)I" } : Jvm.MethodName)) ∈ lw_all := lw_g (lw_at lw_m6 225 rfl) rfl
theorem q1528 : (Jvm.Cond.code ({ cls := "jdk/internal/util/ArraysSupport", name := "hashCode", desc := "(I[SII)I" } : Jvm.MethodName) prog_70_method_8_code (6 : Nat) (Option.some Jvm.ClassFile.FieldType.int)) ∈ lw_all := lw_g (lw_at lw_m6 226 rfl) rfl
theorem q1529 : (Jvm.Cond.classLink "jdk/internal/util/ArraysSupport" (82 : Nat) "[I") ∈ lw_all := lw_g (lw_at lw_m6 227 rfl) rfl
theorem q1530 : (Jvm.Cond.methodLink "jdk/internal/util/ArraysSupport" (84 : Nat) ({ cls := "jdk/internal/util/ArraysSupport", name := "hashCode", desc := "(I[III)I" } : Jvm.MethodName)) ∈ lw_all := lw_g (lw_at lw_m6 228 rfl) rfl
theorem q1531 : (Jvm.Cond.static ({ cls := "jdk/internal/util/ArraysSupport", name := "hashCode", desc := "(I[III)I" } : Jvm.MethodName)) ∈ lw_all := lw_g (lw_at lw_m6 229 rfl) rfl
theorem q1532 : (Jvm.Cond.code ({ cls := "jdk/internal/util/ArraysSupport", name := "hashCode", desc := "(I[III)I" } : Jvm.MethodName) prog_70_method_9_code (6 : Nat) (Option.some Jvm.ClassFile.FieldType.int)) ∈ lw_all := lw_g (lw_at lw_m6 230 rfl) rfl
theorem q1533 : (Jvm.Cond.classLink "jdk/internal/util/ArraysSupport" (87 : Nat) "java/lang/IllegalArgumentException") ∈ lw_all := lw_g (lw_at lw_m6 231 rfl) rfl
theorem q1534 : (Jvm.Cond.classLink "jdk/internal/util/ArraysSupport" (89 : Nat) "java/lang/StringBuilder") ∈ lw_all := lw_g (lw_at lw_m6 232 rfl) rfl
theorem q1535 : (Jvm.Cond.methodLink "jdk/internal/util/ArraysSupport" (91 : Nat) ({ cls := "java/lang/StringBuilder", name := "<init>", desc := "()V" } : Jvm.MethodName)) ∈ lw_all := lw_g (lw_at lw_m6 233 rfl) rfl
theorem q1536 : (Jvm.Cond.stringRef "jdk/internal/util/ArraysSupport" (92 : Nat) "unrecognized basic type: ") ∈ lw_tbl := lw_at lw_m6 234 rfl
theorem q1537 : (Jvm.Cond.methodLink "jdk/internal/util/ArraysSupport" (94 : Nat) ({ cls := "java/lang/StringBuilder", name := "append", desc := "(Ljava/lang/String;)Ljava/lang/StringBuilder;" } : Jvm.MethodName)) ∈ lw_all := lw_g (lw_at lw_m6 235 rfl) rfl
theorem q1538 : (Jvm.Cond.methodLink "jdk/internal/util/ArraysSupport" (98 : Nat) ({ cls := "java/lang/StringBuilder", name := "append", desc := "(I)Ljava/lang/StringBuilder;" } : Jvm.MethodName)) ∈ lw_all := lw_g (lw_at lw_m6 236 rfl) rfl
theorem q1539 : (Jvm.Cond.methodLink "jdk/internal/util/ArraysSupport" (101 : Nat) ({ cls := "java/lang/StringBuilder", name := "toString", desc := "()Ljava/lang/String;" } : Jvm.MethodName)) ∈ lw_all := lw_g (lw_at lw_m6 237 rfl) rfl
theorem q1540 : (Jvm.Cond.methodLink "jdk/internal/util/ArraysSupport" (105 : Nat) ({ cls := "java/lang/IllegalArgumentException", name := "<init>", desc := "(Ljava/lang/String;)V" } : Jvm.MethodName)) ∈ lw_all := lw_g (lw_at lw_m6 238 rfl) rfl
/-! java/lang/Math -/
set_option maxRecDepth 100000
def RJ6 : String := "java/lang/Math"
abbrev cJ6_max : ByteArray := prog_32_method_65_code
def yJ6_max : MethodName := ⟨RJ6, "max", "(II)I"⟩
def dkwJ6_max_0 : List UInt8 := [26, 27, 161, 0, 7, 26, 167, 0, 4, 27, 172]
abbrev dktJ6_max_0 : List UInt8 := dkwJ6_max_0 ++ []
theorem dksJ6_max_0 : cJ6_max.data.toList.drop 0 = dktJ6_max_0 := by decide +kernel
theorem dJ6_max_0 : decode cJ6_max 0 = .ok (.iload_n 0, 1) := dk_26 (dk_at dksJ6_max_0 0 rfl rfl)
theorem dJ6_max_1 : decode cJ6_max 1 = .ok (.iload_n 1, 1) := dk_27 (dk_at dksJ6_max_0 1 rfl rfl)
theorem dJ6_max_2 : decode cJ6_max 2 = .ok (.if_icmp .lt 7, 3) := dk_161 0 7 (dk_at dksJ6_max_0 2 rfl rfl)
theorem dJ6_max_5 : decode cJ6_max 5 = .ok (.iload_n 0, 1) := dk_26 (dk_at dksJ6_max_0 5 rfl rfl)
theorem dJ6_max_6 : decode cJ6_max 6 = .ok (.goto 4, 3) := dk_167 0 4 (dk_at dksJ6_max_0 6 rfl rfl)
theorem dJ6_max_9 : decode cJ6_max 9 = .ok (.iload_n 1, 1) := dk_27 (dk_at dksJ6_max_0 9 rfl rfl)
theorem dJ6_max_10 : decode cJ6_max 10 = .ok (.ireturn, 1) := dk_172 (dk_at dksJ6_max_0 10 rfl rfl)
abbrev cJ6_min : ByteArray := prog_32_method_69_code
def yJ6_min : MethodName := ⟨RJ6, "min", "(II)I"⟩
def dkwJ6_min_0 : List UInt8 := [26, 27, 163, 0, 7, 26, 167, 0, 4, 27, 172]
abbrev dktJ6_min_0 : List UInt8 := dkwJ6_min_0 ++ []
theorem dksJ6_min_0 : cJ6_min.data.toList.drop 0 = dktJ6_min_0 := by decide +kernel
theorem dJ6_min_0 : decode cJ6_min 0 = .ok (.iload_n 0, 1) := dk_26 (dk_at dksJ6_min_0 0 rfl rfl)
theorem dJ6_min_1 : decode cJ6_min 1 = .ok (.iload_n 1, 1) := dk_27 (dk_at dksJ6_min_0 1 rfl rfl)
theorem dJ6_min_2 : decode cJ6_min 2 = .ok (.if_icmp .gt 7, 3) := dk_163 0 7 (dk_at dksJ6_min_0 2 rfl rfl)
theorem dJ6_min_5 : decode cJ6_min 5 = .ok (.iload_n 0, 1) := dk_26 (dk_at dksJ6_min_0 5 rfl rfl)
theorem dJ6_min_6 : decode cJ6_min 6 = .ok (.goto 4, 3) := dk_167 0 4 (dk_at dksJ6_min_0 6 rfl rfl)
theorem dJ6_min_9 : decode cJ6_min 9 = .ok (.iload_n 1, 1) := dk_27 (dk_at dksJ6_min_0 9 rfl rfl)
theorem dJ6_min_10 : decode cJ6_min 10 = .ok (.ireturn, 1) := dk_172 (dk_at dksJ6_min_0 10 rfl rfl)
abbrev cJ6_abs : ByteArray := prog_32_method_59_code
def yJ6_abs : MethodName := ⟨RJ6, "abs", "(I)I"⟩
def dkwJ6_abs_0 : List UInt8 := [26, 156, 0, 8, 26, 116, 167, 0, 4, 26, 172]
abbrev dktJ6_abs_0 : List UInt8 := dkwJ6_abs_0 ++ []
theorem dksJ6_abs_0 : cJ6_abs.data.toList.drop 0 = dktJ6_abs_0 := by decide +kernel
theorem dJ6_abs_0 : decode cJ6_abs 0 = .ok (.iload_n 0, 1) := dk_26 (dk_at dksJ6_abs_0 0 rfl rfl)
theorem dJ6_abs_1 : decode cJ6_abs 1 = .ok (.ifCond .ge 8, 3) := dk_156 0 8 (dk_at dksJ6_abs_0 1 rfl rfl)
theorem dJ6_abs_4 : decode cJ6_abs 4 = .ok (.iload_n 0, 1) := dk_26 (dk_at dksJ6_abs_0 4 rfl rfl)
theorem dJ6_abs_5 : decode cJ6_abs 5 = .ok (.ineg, 1) := dk_116 (dk_at dksJ6_abs_0 5 rfl rfl)
theorem dJ6_abs_6 : decode cJ6_abs 6 = .ok (.goto 4, 3) := dk_167 0 4 (dk_at dksJ6_abs_0 6 rfl rfl)
theorem dJ6_abs_9 : decode cJ6_abs 9 = .ok (.iload_n 0, 1) := dk_26 (dk_at dksJ6_abs_0 9 rfl rfl)
theorem dJ6_abs_10 : decode cJ6_abs 10 = .ok (.ireturn, 1) := dk_172 (dk_at dksJ6_abs_0 10 rfl rfl)
theorem q111 : (Jvm.Cond.initialized "java/lang/Math") ∈ lw_all := lw_g (lw_at lw_m1 9 rfl) rfl
theorem q245 : (Jvm.Cond.static ({ cls := "java/lang/Math", name := "max", desc := "(II)I" } : Jvm.MethodName)) ∈ lw_all := lw_g (lw_at lw_m1 143 rfl) rfl
theorem q246 : (Jvm.Cond.code ({ cls := "java/lang/Math", name := "max", desc := "(II)I" } : Jvm.MethodName) prog_32_method_65_code (2 : Nat) (Option.some Jvm.ClassFile.FieldType.int)) ∈ lw_all := lw_g (lw_at lw_m1 144 rfl) rfl
theorem q296 : (Jvm.Cond.static ({ cls := "java/lang/Math", name := "min", desc := "(II)I" } : Jvm.MethodName)) ∈ lw_all := lw_g (lw_at lw_m1 194 rfl) rfl
theorem q297 : (Jvm.Cond.code ({ cls := "java/lang/Math", name := "min", desc := "(II)I" } : Jvm.MethodName) prog_32_method_69_code (2 : Nat) (Option.some Jvm.ClassFile.FieldType.int)) ∈ lw_all := lw_g (lw_at lw_m1 195 rfl) rfl
theorem q3000 : (Jvm.Cond.static ({ cls := "java/lang/Math", name := "abs", desc := "(I)I" } : Jvm.MethodName)) ∈ lw_all := lw_g (lw_at lw_m13 18 rfl) rfl
theorem q3001 : (Jvm.Cond.code ({ cls := "java/lang/Math", name := "abs", desc := "(I)I" } : Jvm.MethodName) prog_32_method_59_code (1 : Nat) (Option.some Jvm.ClassFile.FieldType.int)) ∈ lw_all := lw_g (lw_at lw_m13 19 rfl) rfl
/-! java/util/Arrays -/
set_option maxRecDepth 100000
def RJ7 : String := "java/util/Arrays"
abbrev cJ7_copyOf : ByteArray := prog_54_method_119_code
def yJ7_copyOf : MethodName := ⟨RJ7, "copyOf", "([Ljava/lang/Object;I)[Ljava/lang/Object;"⟩
def dkwJ7_copyOf_0 : List UInt8 := [42, 27, 42, 182, 0, 86, 184, 1, 44, 176]
abbrev dktJ7_copyOf_0 : List UInt8 := dkwJ7_copyOf_0 ++ []
theorem dksJ7_copyOf_0 : cJ7_copyOf.data.toList.drop 0 = dktJ7_copyOf_0 := by decide +kernel
theorem dJ7_copyOf_0 : decode cJ7_copyOf 0 = .ok (.aload_n 0, 1) := dk_42 (dk_at dksJ7_copyOf_0 0 rfl rfl)
theorem dJ7_copyOf_1 : decode cJ7_copyOf 1 = .ok (.iload_n 1, 1) := dk_27 (dk_at dksJ7_copyOf_0 1 rfl rfl)
theorem dJ7_copyOf_2 : decode cJ7_copyOf 2 = .ok (.aload_n 0, 1) := dk_42 (dk_at dksJ7_copyOf_0 2 rfl rfl)
theorem dJ7_copyOf_3 : decode cJ7_copyOf 3 = .ok (.invokevirtual 86, 3) := dk_182 0 86 (dk_at dksJ7_copyOf_0 3 rfl rfl)
theorem dJ7_copyOf_6 : decode cJ7_copyOf 6 = .ok (.invokestatic 300, 3) := dk_184 1 44 (dk_at dksJ7_copyOf_0 6 rfl rfl)
theorem dJ7_copyOf_9 : decode cJ7_copyOf 9 = .ok (.areturn, 1) := dk_176 (dk_at dksJ7_copyOf_0 9 rfl rfl)
abbrev cJ7_copyOf_2 : ByteArray := prog_54_method_120_code
def yJ7_copyOf_2 : MethodName := ⟨RJ7, "copyOf", "([Ljava/lang/Object;ILjava/lang/Class;)[Ljava/lang/Object;"⟩
def dkwJ7_copyOf_2_1 : List UInt8 := [78, 42, 3, 45, 3, 42, 190, 27, 184, 1, 48, 184, 0, 150, 45, 176]
abbrev dktJ7_copyOf_2_1 : List UInt8 := dkwJ7_copyOf_2_1 ++ []
def dkwJ7_copyOf_2_0 : List UInt8 := [44, 18, 110, 166, 0, 10, 27, 189, 0, 2, 167, 0, 14, 44, 182, 0, 90, 27, 184, 0, 95, 192, 0, 110]
abbrev dktJ7_copyOf_2_0 : List UInt8 := dkwJ7_copyOf_2_0 ++ dktJ7_copyOf_2_1
theorem dksJ7_copyOf_2_0 : cJ7_copyOf_2.data.toList.drop 0 = dktJ7_copyOf_2_0 := by decide +kernel
theorem dksJ7_copyOf_2_1 : cJ7_copyOf_2.data.toList.drop 24 = dktJ7_copyOf_2_1 := dk_seg dksJ7_copyOf_2_0 24 rfl rfl
theorem dJ7_copyOf_2_0 : decode cJ7_copyOf_2 0 = .ok (.aload_n 2, 1) := dk_44 (dk_at dksJ7_copyOf_2_0 0 rfl rfl)
theorem dJ7_copyOf_2_1 : decode cJ7_copyOf_2 1 = .ok (.ldc 110, 2) := dk_18 110 (dk_at dksJ7_copyOf_2_0 1 rfl rfl)
theorem dJ7_copyOf_2_3 : decode cJ7_copyOf_2 3 = .ok (.if_acmp .ne 10, 3) := dk_166 0 10 (dk_at dksJ7_copyOf_2_0 3 rfl rfl)
theorem dJ7_copyOf_2_6 : decode cJ7_copyOf_2 6 = .ok (.iload_n 1, 1) := dk_27 (dk_at dksJ7_copyOf_2_0 6 rfl rfl)
theorem dJ7_copyOf_2_7 : decode cJ7_copyOf_2 7 = .ok (.anewarray 2, 3) := dk_189 0 2 (dk_at dksJ7_copyOf_2_0 7 rfl rfl)
theorem dJ7_copyOf_2_10 : decode cJ7_copyOf_2 10 = .ok (.goto 14, 3) := dk_167 0 14 (dk_at dksJ7_copyOf_2_0 10 rfl rfl)
theorem dJ7_copyOf_2_13 : decode cJ7_copyOf_2 13 = .ok (.aload_n 2, 1) := dk_44 (dk_at dksJ7_copyOf_2_0 13 rfl rfl)
theorem dJ7_copyOf_2_14 : decode cJ7_copyOf_2 14 = .ok (.invokevirtual 90, 3) := dk_182 0 90 (dk_at dksJ7_copyOf_2_0 14 rfl rfl)
theorem dJ7_copyOf_2_17 : decode cJ7_copyOf_2 17 = .ok (.iload_n 1, 1) := dk_27 (dk_at dksJ7_copyOf_2_0 17 rfl rfl)
theorem dJ7_copyOf_2_18 : decode cJ7_copyOf_2 18 = .ok (.invokestatic 95, 3) := dk_184 0 95 (dk_at dksJ7_copyOf_2_0 18 rfl rfl)
theorem dJ7_copyOf_2_21 : decode cJ7_copyOf_2 21 = .ok (.checkcast 110, 3) := dk_192 0 110 (dk_at dksJ7_copyOf_2_0 21 rfl rfl)
theorem dJ7_copyOf_2_24 : decode cJ7_copyOf_2 24 = .ok (.astore_n 3, 1) := dk_78 (dk_at dksJ7_copyOf_2_1 0 rfl rfl)
theorem dJ7_copyOf_2_25 : decode cJ7_copyOf_2 25 = .ok (.aload_n 0, 1) := dk_42 (dk_at dksJ7_copyOf_2_1 1 rfl rfl)
theorem dJ7_copyOf_2_26 : decode cJ7_copyOf_2 26 = .ok (.iconst 0, 1) := dk_3 (dk_at dksJ7_copyOf_2_1 2 rfl rfl)
theorem dJ7_copyOf_2_27 : decode cJ7_copyOf_2 27 = .ok (.aload_n 3, 1) := dk_45 (dk_at dksJ7_copyOf_2_1 3 rfl rfl)
theorem dJ7_copyOf_2_28 : decode cJ7_copyOf_2 28 = .ok (.iconst 0, 1) := dk_3 (dk_at dksJ7_copyOf_2_1 4 rfl rfl)
theorem dJ7_copyOf_2_29 : decode cJ7_copyOf_2 29 = .ok (.aload_n 0, 1) := dk_42 (dk_at dksJ7_copyOf_2_1 5 rfl rfl)
theorem dJ7_copyOf_2_30 : decode cJ7_copyOf_2 30 = .ok (.arraylength, 1) := dk_190 (dk_at dksJ7_copyOf_2_1 6 rfl rfl)
theorem dJ7_copyOf_2_31 : decode cJ7_copyOf_2 31 = .ok (.iload_n 1, 1) := dk_27 (dk_at dksJ7_copyOf_2_1 7 rfl rfl)
theorem dJ7_copyOf_2_32 : decode cJ7_copyOf_2 32 = .ok (.invokestatic 304, 3) := dk_184 1 48 (dk_at dksJ7_copyOf_2_1 8 rfl rfl)
theorem dJ7_copyOf_2_35 : decode cJ7_copyOf_2 35 = .ok (.invokestatic 150, 3) := dk_184 0 150 (dk_at dksJ7_copyOf_2_1 11 rfl rfl)
theorem dJ7_copyOf_2_38 : decode cJ7_copyOf_2 38 = .ok (.aload_n 3, 1) := dk_45 (dk_at dksJ7_copyOf_2_1 14 rfl rfl)
theorem dJ7_copyOf_2_39 : decode cJ7_copyOf_2 39 = .ok (.areturn, 1) := dk_176 (dk_at dksJ7_copyOf_2_1 15 rfl rfl)
abbrev cJ7_copyOf_3 : ByteArray := prog_54_method_121_code
def yJ7_copyOf_3 : MethodName := ⟨RJ7, "copyOf", "([BI)[B"⟩
def dkwJ7_copyOf_3_1 : List UInt8 := [27, 184, 1, 48, 184, 0, 150, 44, 176]
abbrev dktJ7_copyOf_3_1 : List UInt8 := dkwJ7_copyOf_3_1 ++ []
def dkwJ7_copyOf_3_0 : List UInt8 := [27, 42, 190, 160, 0, 11, 42, 182, 1, 54, 192, 1, 55, 176, 27, 188, 8, 77, 42, 3, 44, 3, 42, 190]
abbrev dktJ7_copyOf_3_0 : List UInt8 := dkwJ7_copyOf_3_0 ++ dktJ7_copyOf_3_1
theorem dksJ7_copyOf_3_0 : cJ7_copyOf_3.data.toList.drop 0 = dktJ7_copyOf_3_0 := by decide +kernel
theorem dksJ7_copyOf_3_1 : cJ7_copyOf_3.data.toList.drop 24 = dktJ7_copyOf_3_1 := dk_seg dksJ7_copyOf_3_0 24 rfl rfl
theorem dJ7_copyOf_3_0 : decode cJ7_copyOf_3 0 = .ok (.iload_n 1, 1) := dk_27 (dk_at dksJ7_copyOf_3_0 0 rfl rfl)
theorem dJ7_copyOf_3_1 : decode cJ7_copyOf_3 1 = .ok (.aload_n 0, 1) := dk_42 (dk_at dksJ7_copyOf_3_0 1 rfl rfl)
theorem dJ7_copyOf_3_2 : decode cJ7_copyOf_3 2 = .ok (.arraylength, 1) := dk_190 (dk_at dksJ7_copyOf_3_0 2 rfl rfl)
theorem dJ7_copyOf_3_3 : decode cJ7_copyOf_3 3 = .ok (.if_icmp .ne 11, 3) := dk_160 0 11 (dk_at dksJ7_copyOf_3_0 3 rfl rfl)
theorem dJ7_copyOf_3_6 : decode cJ7_copyOf_3 6 = .ok (.aload_n 0, 1) := dk_42 (dk_at dksJ7_copyOf_3_0 6 rfl rfl)
theorem dJ7_copyOf_3_7 : decode cJ7_copyOf_3 7 = .ok (.invokevirtual 310, 3) := dk_182 1 54 (dk_at dksJ7_copyOf_3_0 7 rfl rfl)
theorem dJ7_copyOf_3_10 : decode cJ7_copyOf_3 10 = .ok (.checkcast 311, 3) := dk_192 1 55 (dk_at dksJ7_copyOf_3_0 10 rfl rfl)
theorem dJ7_copyOf_3_13 : decode cJ7_copyOf_3 13 = .ok (.areturn, 1) := dk_176 (dk_at dksJ7_copyOf_3_0 13 rfl rfl)
theorem dJ7_copyOf_3_14 : decode cJ7_copyOf_3 14 = .ok (.iload_n 1, 1) := dk_27 (dk_at dksJ7_copyOf_3_0 14 rfl rfl)
theorem dJ7_copyOf_3_15 : decode cJ7_copyOf_3 15 = .ok (.newarray .byte, 2) := dk_188_8 (dk_at dksJ7_copyOf_3_0 15 rfl rfl)
theorem dJ7_copyOf_3_17 : decode cJ7_copyOf_3 17 = .ok (.astore_n 2, 1) := dk_77 (dk_at dksJ7_copyOf_3_0 17 rfl rfl)
theorem dJ7_copyOf_3_18 : decode cJ7_copyOf_3 18 = .ok (.aload_n 0, 1) := dk_42 (dk_at dksJ7_copyOf_3_0 18 rfl rfl)
theorem dJ7_copyOf_3_19 : decode cJ7_copyOf_3 19 = .ok (.iconst 0, 1) := dk_3 (dk_at dksJ7_copyOf_3_0 19 rfl rfl)
theorem dJ7_copyOf_3_20 : decode cJ7_copyOf_3 20 = .ok (.aload_n 2, 1) := dk_44 (dk_at dksJ7_copyOf_3_0 20 rfl rfl)
theorem dJ7_copyOf_3_21 : decode cJ7_copyOf_3 21 = .ok (.iconst 0, 1) := dk_3 (dk_at dksJ7_copyOf_3_0 21 rfl rfl)
theorem dJ7_copyOf_3_22 : decode cJ7_copyOf_3 22 = .ok (.aload_n 0, 1) := dk_42 (dk_at dksJ7_copyOf_3_0 22 rfl rfl)
theorem dJ7_copyOf_3_23 : decode cJ7_copyOf_3 23 = .ok (.arraylength, 1) := dk_190 (dk_at dksJ7_copyOf_3_0 23 rfl rfl)
theorem dJ7_copyOf_3_24 : decode cJ7_copyOf_3 24 = .ok (.iload_n 1, 1) := dk_27 (dk_at dksJ7_copyOf_3_1 0 rfl rfl)
theorem dJ7_copyOf_3_25 : decode cJ7_copyOf_3 25 = .ok (.invokestatic 304, 3) := dk_184 1 48 (dk_at dksJ7_copyOf_3_1 1 rfl rfl)
theorem dJ7_copyOf_3_28 : decode cJ7_copyOf_3 28 = .ok (.invokestatic 150, 3) := dk_184 0 150 (dk_at dksJ7_copyOf_3_1 4 rfl rfl)
theorem dJ7_copyOf_3_31 : decode cJ7_copyOf_3 31 = .ok (.aload_n 2, 1) := dk_44 (dk_at dksJ7_copyOf_3_1 7 rfl rfl)
theorem dJ7_copyOf_3_32 : decode cJ7_copyOf_3 32 = .ok (.areturn, 1) := dk_176 (dk_at dksJ7_copyOf_3_1 8 rfl rfl)
abbrev cJ7_copyOfRange : ByteArray := prog_54_method_132_code
def yJ7_copyOfRange : MethodName := ⟨RJ7, "copyOfRange", "([BII)[B"⟩
def dkwJ7_copyOfRange_1 : List UInt8 := [176]
abbrev dktJ7_copyOfRange_1 : List UInt8 := dkwJ7_copyOfRange_1 ++ []
def dkwJ7_copyOfRange_0 : List UInt8 := [27, 154, 0, 9, 28, 42, 190, 159, 0, 10, 42, 27, 28, 184, 1, 83, 176, 42, 182, 1, 54, 192, 1, 55]
abbrev dktJ7_copyOfRange_0 : List UInt8 := dkwJ7_copyOfRange_0 ++ dktJ7_copyOfRange_1
theorem dksJ7_copyOfRange_0 : cJ7_copyOfRange.data.toList.drop 0 = dktJ7_copyOfRange_0 := by decide +kernel
theorem dksJ7_copyOfRange_1 : cJ7_copyOfRange.data.toList.drop 24 = dktJ7_copyOfRange_1 := dk_seg dksJ7_copyOfRange_0 24 rfl rfl
theorem dJ7_copyOfRange_0 : decode cJ7_copyOfRange 0 = .ok (.iload_n 1, 1) := dk_27 (dk_at dksJ7_copyOfRange_0 0 rfl rfl)
theorem dJ7_copyOfRange_1 : decode cJ7_copyOfRange 1 = .ok (.ifCond .ne 9, 3) := dk_154 0 9 (dk_at dksJ7_copyOfRange_0 1 rfl rfl)
theorem dJ7_copyOfRange_4 : decode cJ7_copyOfRange 4 = .ok (.iload_n 2, 1) := dk_28 (dk_at dksJ7_copyOfRange_0 4 rfl rfl)
theorem dJ7_copyOfRange_5 : decode cJ7_copyOfRange 5 = .ok (.aload_n 0, 1) := dk_42 (dk_at dksJ7_copyOfRange_0 5 rfl rfl)
theorem dJ7_copyOfRange_6 : decode cJ7_copyOfRange 6 = .ok (.arraylength, 1) := dk_190 (dk_at dksJ7_copyOfRange_0 6 rfl rfl)
theorem dJ7_copyOfRange_7 : decode cJ7_copyOfRange 7 = .ok (.if_icmp .eq 10, 3) := dk_159 0 10 (dk_at dksJ7_copyOfRange_0 7 rfl rfl)
theorem dJ7_copyOfRange_10 : decode cJ7_copyOfRange 10 = .ok (.aload_n 0, 1) := dk_42 (dk_at dksJ7_copyOfRange_0 10 rfl rfl)
theorem dJ7_copyOfRange_11 : decode cJ7_copyOfRange 11 = .ok (.iload_n 1, 1) := dk_27 (dk_at dksJ7_copyOfRange_0 11 rfl rfl)
theorem dJ7_copyOfRange_12 : decode cJ7_copyOfRange 12 = .ok (.iload_n 2, 1) := dk_28 (dk_at dksJ7_copyOfRange_0 12 rfl rfl)
theorem dJ7_copyOfRange_13 : decode cJ7_copyOfRange 13 = .ok (.invokestatic 339, 3) := dk_184 1 83 (dk_at dksJ7_copyOfRange_0 13 rfl rfl)
theorem dJ7_copyOfRange_16 : decode cJ7_copyOfRange 16 = .ok (.areturn, 1) := dk_176 (dk_at dksJ7_copyOfRange_0 16 rfl rfl)
theorem dJ7_copyOfRange_17 : decode cJ7_copyOfRange 17 = .ok (.aload_n 0, 1) := dk_42 (dk_at dksJ7_copyOfRange_0 17 rfl rfl)
theorem dJ7_copyOfRange_18 : decode cJ7_copyOfRange 18 = .ok (.invokevirtual 310, 3) := dk_182 1 54 (dk_at dksJ7_copyOfRange_0 18 rfl rfl)
theorem dJ7_copyOfRange_21 : decode cJ7_copyOfRange 21 = .ok (.checkcast 311, 3) := dk_192 1 55 (dk_at dksJ7_copyOfRange_0 21 rfl rfl)
theorem dJ7_copyOfRange_24 : decode cJ7_copyOfRange 24 = .ok (.areturn, 1) := dk_176 (dk_at dksJ7_copyOfRange_1 0 rfl rfl)
abbrev cJ7_copyOfRangeByte : ByteArray := prog_54_method_133_code
def yJ7_copyOfRangeByte : MethodName := ⟨RJ7, "copyOfRangeByte", "([BII)[B"⟩
def dkwJ7_copyOfRangeByte_1 : List UInt8 := [184, 1, 48, 184, 0, 150, 25, 4, 176]
abbrev dktJ7_copyOfRangeByte_1 : List UInt8 := dkwJ7_copyOfRangeByte_1 ++ []
def dkwJ7_copyOfRangeByte_0 : List UInt8 := [27, 28, 184, 1, 87, 28, 27, 100, 62, 29, 188, 8, 58, 4, 42, 27, 25, 4, 3, 42, 190, 27, 100, 29]
abbrev dktJ7_copyOfRangeByte_0 : List UInt8 := dkwJ7_copyOfRangeByte_0 ++ dktJ7_copyOfRangeByte_1
theorem dksJ7_copyOfRangeByte_0 : cJ7_copyOfRangeByte.data.toList.drop 0 = dktJ7_copyOfRangeByte_0 := by decide +kernel
theorem dksJ7_copyOfRangeByte_1 : cJ7_copyOfRangeByte.data.toList.drop 24 = dktJ7_copyOfRangeByte_1 := dk_seg dksJ7_copyOfRangeByte_0 24 rfl rfl
theorem dJ7_copyOfRangeByte_0 : decode cJ7_copyOfRangeByte 0 = .ok (.iload_n 1, 1) := dk_27 (dk_at dksJ7_copyOfRangeByte_0 0 rfl rfl)
theorem dJ7_copyOfRangeByte_1 : decode cJ7_copyOfRangeByte 1 = .ok (.iload_n 2, 1) := dk_28 (dk_at dksJ7_copyOfRangeByte_0 1 rfl rfl)
theorem dJ7_copyOfRangeByte_2 : decode cJ7_copyOfRangeByte 2 = .ok (.invokestatic 343, 3) := dk_184 1 87 (dk_at dksJ7_copyOfRangeByte_0 2 rfl rfl)
theorem dJ7_copyOfRangeByte_5 : decode cJ7_copyOfRangeByte 5 = .ok (.iload_n 2, 1) := dk_28 (dk_at dksJ7_copyOfRangeByte_0 5 rfl rfl)
theorem dJ7_copyOfRangeByte_6 : decode cJ7_copyOfRangeByte 6 = .ok (.iload_n 1, 1) := dk_27 (dk_at dksJ7_copyOfRangeByte_0 6 rfl rfl)
theorem dJ7_copyOfRangeByte_7 : decode cJ7_copyOfRangeByte 7 = .ok (.isub, 1) := dk_100 (dk_at dksJ7_copyOfRangeByte_0 7 rfl rfl)
theorem dJ7_copyOfRangeByte_8 : decode cJ7_copyOfRangeByte 8 = .ok (.istore_n 3, 1) := dk_62 (dk_at dksJ7_copyOfRangeByte_0 8 rfl rfl)
theorem dJ7_copyOfRangeByte_9 : decode cJ7_copyOfRangeByte 9 = .ok (.iload_n 3, 1) := dk_29 (dk_at dksJ7_copyOfRangeByte_0 9 rfl rfl)
theorem dJ7_copyOfRangeByte_10 : decode cJ7_copyOfRangeByte 10 = .ok (.newarray .byte, 2) := dk_188_8 (dk_at dksJ7_copyOfRangeByte_0 10 rfl rfl)
theorem dJ7_copyOfRangeByte_12 : decode cJ7_copyOfRangeByte 12 = .ok (.astore 4, 2) := dk_58 4 (dk_at dksJ7_copyOfRangeByte_0 12 rfl rfl)
theorem dJ7_copyOfRangeByte_14 : decode cJ7_copyOfRangeByte 14 = .ok (.aload_n 0, 1) := dk_42 (dk_at dksJ7_copyOfRangeByte_0 14 rfl rfl)
theorem dJ7_copyOfRangeByte_15 : decode cJ7_copyOfRangeByte 15 = .ok (.iload_n 1, 1) := dk_27 (dk_at dksJ7_copyOfRangeByte_0 15 rfl rfl)
theorem dJ7_copyOfRangeByte_16 : decode cJ7_copyOfRangeByte 16 = .ok (.aload 4, 2) := dk_25 4 (dk_at dksJ7_copyOfRangeByte_0 16 rfl rfl)
theorem dJ7_copyOfRangeByte_18 : decode cJ7_copyOfRangeByte 18 = .ok (.iconst 0, 1) := dk_3 (dk_at dksJ7_copyOfRangeByte_0 18 rfl rfl)
theorem dJ7_copyOfRangeByte_19 : decode cJ7_copyOfRangeByte 19 = .ok (.aload_n 0, 1) := dk_42 (dk_at dksJ7_copyOfRangeByte_0 19 rfl rfl)
theorem dJ7_copyOfRangeByte_20 : decode cJ7_copyOfRangeByte 20 = .ok (.arraylength, 1) := dk_190 (dk_at dksJ7_copyOfRangeByte_0 20 rfl rfl)
theorem dJ7_copyOfRangeByte_21 : decode cJ7_copyOfRangeByte 21 = .ok (.iload_n 1, 1) := dk_27 (dk_at dksJ7_copyOfRangeByte_0 21 rfl rfl)
theorem dJ7_copyOfRangeByte_22 : decode cJ7_copyOfRangeByte 22 = .ok (.isub, 1) := dk_100 (dk_at dksJ7_copyOfRangeByte_0 22 rfl rfl)
theorem dJ7_copyOfRangeByte_23 : decode cJ7_copyOfRangeByte 23 = .ok (.iload_n 3, 1) := dk_29 (dk_at dksJ7_copyOfRangeByte_0 23 rfl rfl)
theorem dJ7_copyOfRangeByte_24 : decode cJ7_copyOfRangeByte 24 = .ok (.invokestatic 304, 3) := dk_184 1 48 (dk_at dksJ7_copyOfRangeByte_1 0 rfl rfl)
theorem dJ7_copyOfRangeByte_27 : decode cJ7_copyOfRangeByte 27 = .ok (.invokestatic 150, 3) := dk_184 0 150 (dk_at dksJ7_copyOfRangeByte_1 3 rfl rfl)
theorem dJ7_copyOfRangeByte_30 : decode cJ7_copyOfRangeByte 30 = .ok (.aload 4, 2) := dk_25 4 (dk_at dksJ7_copyOfRangeByte_1 6 rfl rfl)
theorem dJ7_copyOfRangeByte_32 : decode cJ7_copyOfRangeByte 32 = .ok (.areturn, 1) := dk_176 (dk_at dksJ7_copyOfRangeByte_1 8 rfl rfl)
abbrev cJ7_checkLength : ByteArray := prog_54_method_131_code
def yJ7_checkLength : MethodName := ⟨RJ7, "checkLength", "(II)V"⟩
def dkwJ7_checkLength_1 : List UInt8 := [182, 0, 50, 27, 182, 0, 54, 182, 0, 61, 183, 0, 65, 191, 177]
abbrev dktJ7_checkLength_1 : List UInt8 := dkwJ7_checkLength_1 ++ []
def dkwJ7_checkLength_0 : List UInt8 := [27, 26, 162, 0, 35, 187, 0, 43, 89, 187, 0, 45, 89, 183, 0, 47, 26, 182, 0, 54, 19, 1, 81]
abbrev dktJ7_checkLength_0 : List UInt8 := dkwJ7_checkLength_0 ++ dktJ7_checkLength_1
theorem dksJ7_checkLength_0 : cJ7_checkLength.data.toList.drop 0 = dktJ7_checkLength_0 := by decide +kernel
theorem dksJ7_checkLength_1 : cJ7_checkLength.data.toList.drop 23 = dktJ7_checkLength_1 := dk_seg dksJ7_checkLength_0 23 rfl rfl
theorem dJ7_checkLength_0 : decode cJ7_checkLength 0 = .ok (.iload_n 1, 1) := dk_27 (dk_at dksJ7_checkLength_0 0 rfl rfl)
theorem dJ7_checkLength_1 : decode cJ7_checkLength 1 = .ok (.iload_n 0, 1) := dk_26 (dk_at dksJ7_checkLength_0 1 rfl rfl)
theorem dJ7_checkLength_2 : decode cJ7_checkLength 2 = .ok (.if_icmp .ge 35, 3) := dk_162 0 35 (dk_at dksJ7_checkLength_0 2 rfl rfl)
theorem dJ7_checkLength_5 : decode cJ7_checkLength 5 = .ok (.new 43, 3) := dk_187 0 43 (dk_at dksJ7_checkLength_0 5 rfl rfl)
theorem dJ7_checkLength_8 : decode cJ7_checkLength 8 = .ok (.dup, 1) := dk_89 (dk_at dksJ7_checkLength_0 8 rfl rfl)
theorem dJ7_checkLength_9 : decode cJ7_checkLength 9 = .ok (.new 45, 3) := dk_187 0 45 (dk_at dksJ7_checkLength_0 9 rfl rfl)
theorem dJ7_checkLength_12 : decode cJ7_checkLength 12 = .ok (.dup, 1) := dk_89 (dk_at dksJ7_checkLength_0 12 rfl rfl)
theorem dJ7_checkLength_13 : decode cJ7_checkLength 13 = .ok (.invokespecial 47, 3) := dk_183 0 47 (dk_at dksJ7_checkLength_0 13 rfl rfl)
theorem dJ7_checkLength_16 : decode cJ7_checkLength 16 = .ok (.iload_n 0, 1) := dk_26 (dk_at dksJ7_checkLength_0 16 rfl rfl)
theorem dJ7_checkLength_17 : decode cJ7_checkLength 17 = .ok (.invokevirtual 54, 3) := dk_182 0 54 (dk_at dksJ7_checkLength_0 17 rfl rfl)
theorem dJ7_checkLength_20 : decode cJ7_checkLength 20 = .ok (.ldc_w 337, 3) := dk_19 1 81 (dk_at dksJ7_checkLength_0 20 rfl rfl)
theorem dJ7_checkLength_23 : decode cJ7_checkLength 23 = .ok (.invokevirtual 50, 3) := dk_182 0 50 (dk_at dksJ7_checkLength_1 0 rfl rfl)
theorem dJ7_checkLength_26 : decode cJ7_checkLength 26 = .ok (.iload_n 1, 1) := dk_27 (dk_at dksJ7_checkLength_1 3 rfl rfl)
theorem dJ7_checkLength_27 : decode cJ7_checkLength 27 = .ok (.invokevirtual 54, 3) := dk_182 0 54 (dk_at dksJ7_checkLength_1 4 rfl rfl)
theorem dJ7_checkLength_30 : decode cJ7_checkLength 30 = .ok (.invokevirtual 61, 3) := dk_182 0 61 (dk_at dksJ7_checkLength_1 7 rfl rfl)
theorem dJ7_checkLength_33 : decode cJ7_checkLength 33 = .ok (.invokespecial 65, 3) := dk_183 0 65 (dk_at dksJ7_checkLength_1 10 rfl rfl)
theorem dJ7_checkLength_36 : decode cJ7_checkLength 36 = .ok (.athrow, 1) := dk_191 (dk_at dksJ7_checkLength_1 13 rfl rfl)
theorem dJ7_checkLength_37 : decode cJ7_checkLength 37 = .ok (.return_, 1) := dk_177 (dk_at dksJ7_checkLength_1 14 rfl rfl)
abbrev cJ7_copyOf_4 : ByteArray := prog_54_method_124_code
def yJ7_copyOf_4 : MethodName := ⟨RJ7, "copyOf", "([JI)[J"⟩
def dkwJ7_copyOf_4_1 : List UInt8 := [27, 184, 1, 48, 184, 0, 150, 44, 176]
abbrev dktJ7_copyOf_4_1 : List UInt8 := dkwJ7_copyOf_4_1 ++ []
def dkwJ7_copyOf_4_0 : List UInt8 := [27, 42, 190, 160, 0, 11, 42, 182, 1, 63, 192, 1, 64, 176, 27, 188, 11, 77, 42, 3, 44, 3, 42, 190]
abbrev dktJ7_copyOf_4_0 : List UInt8 := dkwJ7_copyOf_4_0 ++ dktJ7_copyOf_4_1
theorem dksJ7_copyOf_4_0 : cJ7_copyOf_4.data.toList.drop 0 = dktJ7_copyOf_4_0 := by decide +kernel
theorem dksJ7_copyOf_4_1 : cJ7_copyOf_4.data.toList.drop 24 = dktJ7_copyOf_4_1 := dk_seg dksJ7_copyOf_4_0 24 rfl rfl
theorem dJ7_copyOf_4_0 : decode cJ7_copyOf_4 0 = .ok (.iload_n 1, 1) := dk_27 (dk_at dksJ7_copyOf_4_0 0 rfl rfl)
theorem dJ7_copyOf_4_1 : decode cJ7_copyOf_4 1 = .ok (.aload_n 0, 1) := dk_42 (dk_at dksJ7_copyOf_4_0 1 rfl rfl)
theorem dJ7_copyOf_4_2 : decode cJ7_copyOf_4 2 = .ok (.arraylength, 1) := dk_190 (dk_at dksJ7_copyOf_4_0 2 rfl rfl)
theorem dJ7_copyOf_4_3 : decode cJ7_copyOf_4 3 = .ok (.if_icmp .ne 11, 3) := dk_160 0 11 (dk_at dksJ7_copyOf_4_0 3 rfl rfl)
theorem dJ7_copyOf_4_6 : decode cJ7_copyOf_4 6 = .ok (.aload_n 0, 1) := dk_42 (dk_at dksJ7_copyOf_4_0 6 rfl rfl)
theorem dJ7_copyOf_4_7 : decode cJ7_copyOf_4 7 = .ok (.invokevirtual 319, 3) := dk_182 1 63 (dk_at dksJ7_copyOf_4_0 7 rfl rfl)
theorem dJ7_copyOf_4_10 : decode cJ7_copyOf_4 10 = .ok (.checkcast 320, 3) := dk_192 1 64 (dk_at dksJ7_copyOf_4_0 10 rfl rfl)
theorem dJ7_copyOf_4_13 : decode cJ7_copyOf_4 13 = .ok (.areturn, 1) := dk_176 (dk_at dksJ7_copyOf_4_0 13 rfl rfl)
theorem dJ7_copyOf_4_14 : decode cJ7_copyOf_4 14 = .ok (.iload_n 1, 1) := dk_27 (dk_at dksJ7_copyOf_4_0 14 rfl rfl)
theorem dJ7_copyOf_4_15 : decode cJ7_copyOf_4 15 = .ok (.newarray .long, 2) := dk_188_11 (dk_at dksJ7_copyOf_4_0 15 rfl rfl)
theorem dJ7_copyOf_4_17 : decode cJ7_copyOf_4 17 = .ok (.astore_n 2, 1) := dk_77 (dk_at dksJ7_copyOf_4_0 17 rfl rfl)
theorem dJ7_copyOf_4_18 : decode cJ7_copyOf_4 18 = .ok (.aload_n 0, 1) := dk_42 (dk_at dksJ7_copyOf_4_0 18 rfl rfl)
theorem dJ7_copyOf_4_19 : decode cJ7_copyOf_4 19 = .ok (.iconst 0, 1) := dk_3 (dk_at dksJ7_copyOf_4_0 19 rfl rfl)
theorem dJ7_copyOf_4_20 : decode cJ7_copyOf_4 20 = .ok (.aload_n 2, 1) := dk_44 (dk_at dksJ7_copyOf_4_0 20 rfl rfl)
theorem dJ7_copyOf_4_21 : decode cJ7_copyOf_4 21 = .ok (.iconst 0, 1) := dk_3 (dk_at dksJ7_copyOf_4_0 21 rfl rfl)
theorem dJ7_copyOf_4_22 : decode cJ7_copyOf_4 22 = .ok (.aload_n 0, 1) := dk_42 (dk_at dksJ7_copyOf_4_0 22 rfl rfl)
theorem dJ7_copyOf_4_23 : decode cJ7_copyOf_4 23 = .ok (.arraylength, 1) := dk_190 (dk_at dksJ7_copyOf_4_0 23 rfl rfl)
theorem dJ7_copyOf_4_24 : decode cJ7_copyOf_4 24 = .ok (.iload_n 1, 1) := dk_27 (dk_at dksJ7_copyOf_4_1 0 rfl rfl)
theorem dJ7_copyOf_4_25 : decode cJ7_copyOf_4 25 = .ok (.invokestatic 304, 3) := dk_184 1 48 (dk_at dksJ7_copyOf_4_1 1 rfl rfl)
theorem dJ7_copyOf_4_28 : decode cJ7_copyOf_4 28 = .ok (.invokestatic 150, 3) := dk_184 0 150 (dk_at dksJ7_copyOf_4_1 4 rfl rfl)
theorem dJ7_copyOf_4_31 : decode cJ7_copyOf_4 31 = .ok (.aload_n 2, 1) := dk_44 (dk_at dksJ7_copyOf_4_1 7 rfl rfl)
theorem dJ7_copyOf_4_32 : decode cJ7_copyOf_4 32 = .ok (.areturn, 1) := dk_176 (dk_at dksJ7_copyOf_4_1 8 rfl rfl)
abbrev cJ7_copyOfRange_2 : ByteArray := prog_54_method_130_code
def yJ7_copyOfRange_2 : MethodName := ⟨RJ7, "copyOfRange", "([Ljava/lang/Object;IILjava/lang/Class;)[Ljava/lang/Object;"⟩
def dkwJ7_copyOfRange_2_3 : List UInt8 := [58, 5, 42, 27, 25, 5, 3, 42, 190, 27, 100, 21, 4, 184, 1, 48, 184, 0, 150, 25, 5, 176]
abbrev dktJ7_copyOfRange_2_3 : List UInt8 := dkwJ7_copyOfRange_2_3 ++ []
def dkwJ7_copyOfRange_2_2 : List UInt8 := [166, 0, 11, 21, 4, 189, 0, 2, 167, 0, 15, 45, 182, 0, 90, 21, 4, 184, 0, 95, 192, 0, 110]
abbrev dktJ7_copyOfRange_2_2 : List UInt8 := dkwJ7_copyOfRange_2_2 ++ dktJ7_copyOfRange_2_3
def dkwJ7_copyOfRange_2_1 : List UInt8 := [182, 0, 54, 19, 1, 81, 182, 0, 50, 28, 182, 0, 54, 182, 0, 61, 183, 0, 65, 191, 45, 18, 110]
abbrev dktJ7_copyOfRange_2_1 : List UInt8 := dkwJ7_copyOfRange_2_1 ++ dktJ7_copyOfRange_2_2
def dkwJ7_copyOfRange_2_0 : List UInt8 := [28, 27, 100, 54, 4, 21, 4, 156, 0, 35, 187, 0, 43, 89, 187, 0, 45, 89, 183, 0, 47, 27]
abbrev dktJ7_copyOfRange_2_0 : List UInt8 := dkwJ7_copyOfRange_2_0 ++ dktJ7_copyOfRange_2_1
theorem dksJ7_copyOfRange_2_0 : cJ7_copyOfRange_2.data.toList.drop 0 = dktJ7_copyOfRange_2_0 := by decide +kernel
theorem dksJ7_copyOfRange_2_1 : cJ7_copyOfRange_2.data.toList.drop 22 = dktJ7_copyOfRange_2_1 := dk_seg dksJ7_copyOfRange_2_0 22 rfl rfl
theorem dksJ7_copyOfRange_2_2 : cJ7_copyOfRange_2.data.toList.drop 45 = dktJ7_copyOfRange_2_2 := dk_seg dksJ7_copyOfRange_2_1 23 rfl rfl
theorem dksJ7_copyOfRange_2_3 : cJ7_copyOfRange_2.data.toList.drop 68 = dktJ7_copyOfRange_2_3 := dk_seg dksJ7_copyOfRange_2_2 23 rfl rfl
theorem dJ7_copyOfRange_2_0 : decode cJ7_copyOfRange_2 0 = .ok (.iload_n 2, 1) := dk_28 (dk_at dksJ7_copyOfRange_2_0 0 rfl rfl)
theorem dJ7_copyOfRange_2_1 : decode cJ7_copyOfRange_2 1 = .ok (.iload_n 1, 1) := dk_27 (dk_at dksJ7_copyOfRange_2_0 1 rfl rfl)
theorem dJ7_copyOfRange_2_2 : decode cJ7_copyOfRange_2 2 = .ok (.isub, 1) := dk_100 (dk_at dksJ7_copyOfRange_2_0 2 rfl rfl)
theorem dJ7_copyOfRange_2_3 : decode cJ7_copyOfRange_2 3 = .ok (.istore 4, 2) := dk_54 4 (dk_at dksJ7_copyOfRange_2_0 3 rfl rfl)
theorem dJ7_copyOfRange_2_5 : decode cJ7_copyOfRange_2 5 = .ok (.iload 4, 2) := dk_21 4 (dk_at dksJ7_copyOfRange_2_0 5 rfl rfl)
theorem dJ7_copyOfRange_2_7 : decode cJ7_copyOfRange_2 7 = .ok (.ifCond .ge 35, 3) := dk_156 0 35 (dk_at dksJ7_copyOfRange_2_0 7 rfl rfl)
theorem dJ7_copyOfRange_2_10 : decode cJ7_copyOfRange_2 10 = .ok (.new 43, 3) := dk_187 0 43 (dk_at dksJ7_copyOfRange_2_0 10 rfl rfl)
theorem dJ7_copyOfRange_2_13 : decode cJ7_copyOfRange_2 13 = .ok (.dup, 1) := dk_89 (dk_at dksJ7_copyOfRange_2_0 13 rfl rfl)
theorem dJ7_copyOfRange_2_14 : decode cJ7_copyOfRange_2 14 = .ok (.new 45, 3) := dk_187 0 45 (dk_at dksJ7_copyOfRange_2_0 14 rfl rfl)
theorem dJ7_copyOfRange_2_17 : decode cJ7_copyOfRange_2 17 = .ok (.dup, 1) := dk_89 (dk_at dksJ7_copyOfRange_2_0 17 rfl rfl)
theorem dJ7_copyOfRange_2_18 : decode cJ7_copyOfRange_2 18 = .ok (.invokespecial 47, 3) := dk_183 0 47 (dk_at dksJ7_copyOfRange_2_0 18 rfl rfl)
theorem dJ7_copyOfRange_2_21 : decode cJ7_copyOfRange_2 21 = .ok (.iload_n 1, 1) := dk_27 (dk_at dksJ7_copyOfRange_2_0 21 rfl rfl)
theorem dJ7_copyOfRange_2_22 : decode cJ7_copyOfRange_2 22 = .ok (.invokevirtual 54, 3) := dk_182 0 54 (dk_at dksJ7_copyOfRange_2_1 0 rfl rfl)
theorem dJ7_copyOfRange_2_25 : decode cJ7_copyOfRange_2 25 = .ok (.ldc_w 337, 3) := dk_19 1 81 (dk_at dksJ7_copyOfRange_2_1 3 rfl rfl)
theorem dJ7_copyOfRange_2_28 : decode cJ7_copyOfRange_2 28 = .ok (.invokevirtual 50, 3) := dk_182 0 50 (dk_at dksJ7_copyOfRange_2_1 6 rfl rfl)
theorem dJ7_copyOfRange_2_31 : decode cJ7_copyOfRange_2 31 = .ok (.iload_n 2, 1) := dk_28 (dk_at dksJ7_copyOfRange_2_1 9 rfl rfl)
theorem dJ7_copyOfRange_2_32 : decode cJ7_copyOfRange_2 32 = .ok (.invokevirtual 54, 3) := dk_182 0 54 (dk_at dksJ7_copyOfRange_2_1 10 rfl rfl)
theorem dJ7_copyOfRange_2_35 : decode cJ7_copyOfRange_2 35 = .ok (.invokevirtual 61, 3) := dk_182 0 61 (dk_at dksJ7_copyOfRange_2_1 13 rfl rfl)
theorem dJ7_copyOfRange_2_38 : decode cJ7_copyOfRange_2 38 = .ok (.invokespecial 65, 3) := dk_183 0 65 (dk_at dksJ7_copyOfRange_2_1 16 rfl rfl)
theorem dJ7_copyOfRange_2_41 : decode cJ7_copyOfRange_2 41 = .ok (.athrow, 1) := dk_191 (dk_at dksJ7_copyOfRange_2_1 19 rfl rfl)
theorem dJ7_copyOfRange_2_42 : decode cJ7_copyOfRange_2 42 = .ok (.aload_n 3, 1) := dk_45 (dk_at dksJ7_copyOfRange_2_1 20 rfl rfl)
theorem dJ7_copyOfRange_2_43 : decode cJ7_copyOfRange_2 43 = .ok (.ldc 110, 2) := dk_18 110 (dk_at dksJ7_copyOfRange_2_1 21 rfl rfl)
theorem dJ7_copyOfRange_2_45 : decode cJ7_copyOfRange_2 45 = .ok (.if_acmp .ne 11, 3) := dk_166 0 11 (dk_at dksJ7_copyOfRange_2_2 0 rfl rfl)
theorem dJ7_copyOfRange_2_48 : decode cJ7_copyOfRange_2 48 = .ok (.iload 4, 2) := dk_21 4 (dk_at dksJ7_copyOfRange_2_2 3 rfl rfl)
theorem dJ7_copyOfRange_2_50 : decode cJ7_copyOfRange_2 50 = .ok (.anewarray 2, 3) := dk_189 0 2 (dk_at dksJ7_copyOfRange_2_2 5 rfl rfl)
theorem dJ7_copyOfRange_2_53 : decode cJ7_copyOfRange_2 53 = .ok (.goto 15, 3) := dk_167 0 15 (dk_at dksJ7_copyOfRange_2_2 8 rfl rfl)
theorem dJ7_copyOfRange_2_56 : decode cJ7_copyOfRange_2 56 = .ok (.aload_n 3, 1) := dk_45 (dk_at dksJ7_copyOfRange_2_2 11 rfl rfl)
theorem dJ7_copyOfRange_2_57 : decode cJ7_copyOfRange_2 57 = .ok (.invokevirtual 90, 3) := dk_182 0 90 (dk_at dksJ7_copyOfRange_2_2 12 rfl rfl)
theorem dJ7_copyOfRange_2_60 : decode cJ7_copyOfRange_2 60 = .ok (.iload 4, 2) := dk_21 4 (dk_at dksJ7_copyOfRange_2_2 15 rfl rfl)
theorem dJ7_copyOfRange_2_62 : decode cJ7_copyOfRange_2 62 = .ok (.invokestatic 95, 3) := dk_184 0 95 (dk_at dksJ7_copyOfRange_2_2 17 rfl rfl)
theorem dJ7_copyOfRange_2_65 : decode cJ7_copyOfRange_2 65 = .ok (.checkcast 110, 3) := dk_192 0 110 (dk_at dksJ7_copyOfRange_2_2 20 rfl rfl)
theorem dJ7_copyOfRange_2_68 : decode cJ7_copyOfRange_2 68 = .ok (.astore 5, 2) := dk_58 5 (dk_at dksJ7_copyOfRange_2_3 0 rfl rfl)
theorem dJ7_copyOfRange_2_70 : decode cJ7_copyOfRange_2 70 = .ok (.aload_n 0, 1) := dk_42 (dk_at dksJ7_copyOfRange_2_3 2 rfl rfl)
theorem dJ7_copyOfRange_2_71 : decode cJ7_copyOfRange_2 71 = .ok (.iload_n 1, 1) := dk_27 (dk_at dksJ7_copyOfRange_2_3 3 rfl rfl)
theorem dJ7_copyOfRange_2_72 : decode cJ7_copyOfRange_2 72 = .ok (.aload 5, 2) := dk_25 5 (dk_at dksJ7_copyOfRange_2_3 4 rfl rfl)
theorem dJ7_copyOfRange_2_74 : decode cJ7_copyOfRange_2 74 = .ok (.iconst 0, 1) := dk_3 (dk_at dksJ7_copyOfRange_2_3 6 rfl rfl)
theorem dJ7_copyOfRange_2_75 : decode cJ7_copyOfRange_2 75 = .ok (.aload_n 0, 1) := dk_42 (dk_at dksJ7_copyOfRange_2_3 7 rfl rfl)
theorem dJ7_copyOfRange_2_76 : decode cJ7_copyOfRange_2 76 = .ok (.arraylength, 1) := dk_190 (dk_at dksJ7_copyOfRange_2_3 8 rfl rfl)
theorem dJ7_copyOfRange_2_77 : decode cJ7_copyOfRange_2 77 = .ok (.iload_n 1, 1) := dk_27 (dk_at dksJ7_copyOfRange_2_3 9 rfl rfl)
theorem dJ7_copyOfRange_2_78 : decode cJ7_copyOfRange_2 78 = .ok (.isub, 1) := dk_100 (dk_at dksJ7_copyOfRange_2_3 10 rfl rfl)
theorem dJ7_copyOfRange_2_79 : decode cJ7_copyOfRange_2 79 = .ok (.iload 4, 2) := dk_21 4 (dk_at dksJ7_copyOfRange_2_3 11 rfl rfl)
theorem dJ7_copyOfRange_2_81 : decode cJ7_copyOfRange_2 81 = .ok (.invokestatic 304, 3) := dk_184 1 48 (dk_at dksJ7_copyOfRange_2_3 13 rfl rfl)
theorem dJ7_copyOfRange_2_84 : decode cJ7_copyOfRange_2 84 = .ok (.invokestatic 150, 3) := dk_184 0 150 (dk_at dksJ7_copyOfRange_2_3 16 rfl rfl)
theorem dJ7_copyOfRange_2_87 : decode cJ7_copyOfRange_2 87 = .ok (.aload 5, 2) := dk_25 5 (dk_at dksJ7_copyOfRange_2_3 19 rfl rfl)
theorem dJ7_copyOfRange_2_89 : decode cJ7_copyOfRange_2 89 = .ok (.areturn, 1) := dk_176 (dk_at dksJ7_copyOfRange_2_3 21 rfl rfl)
theorem q112 : (Jvm.Cond.initialized "java/util/Arrays") ∈ lw_all := lw_g (lw_at lw_m1 10 rfl) rfl
theorem q252 : (Jvm.Cond.static ({ cls := "java/util/Arrays", name := "copyOf", desc := "([Ljava/lang/Object;I)[Ljava/lang/Object;" } : Jvm.MethodName)) ∈ lw_all := lw_g (lw_at lw_m1 150 rfl) rfl
theorem q253 : (Jvm.Cond.code ({ cls := "java/util/Arrays", name := "copyOf", desc := "([Ljava/lang/Object;I)[Ljava/lang/Object;" } : Jvm.MethodName) prog_54_method_119_code (2 : Nat) (Option.some (Jvm.ClassFile.FieldType.array (Jvm.ClassFile.FieldType.object "java/lang/Object")))) ∈ lw_all := lw_g (lw_at lw_m1 151 rfl) rfl
theorem q254 : (Jvm.Cond.methodLink "java/util/Arrays" (86 : Nat) ({ cls := "java/lang/Object", name := "getClass", desc := "()Ljava/lang/Class;" } : Jvm.MethodName)) ∈ lw_all := lw_g (lw_at lw_m1 152 rfl) rfl
theorem q289 : (Jvm.Cond.methodLink "java/util/Arrays" (300 : Nat) ({ cls := "java/util/Arrays", name := "copyOf", desc := "([Ljava/lang/Object;ILjava/lang/Class;)[Ljava/lang/Object;" } : Jvm.MethodName)) ∈ lw_all := lw_g (lw_at lw_m1 187 rfl) rfl
theorem q290 : (Jvm.Cond.static ({ cls := "java/util/Arrays", name := "copyOf", desc := "([Ljava/lang/Object;ILjava/lang/Class;)[Ljava/lang/Object;" } : Jvm.MethodName)) ∈ lw_all := lw_g (lw_at lw_m1 188 rfl) rfl
theorem q291 : (Jvm.Cond.code ({ cls := "java/util/Arrays", name := "copyOf", desc := "([Ljava/lang/Object;ILjava/lang/Class;)[Ljava/lang/Object;" } : Jvm.MethodName) prog_54_method_120_code (4 : Nat) (Option.some (Jvm.ClassFile.FieldType.array (Jvm.ClassFile.FieldType.object "java/lang/Object")))) ∈ lw_all := lw_g (lw_at lw_m1 189 rfl) rfl
theorem q292 : (Jvm.Cond.classLink "java/util/Arrays" (110 : Nat) "[Ljava/lang/Object;") ∈ lw_all := lw_g (lw_at lw_m1 190 rfl) rfl
theorem q294 : (Jvm.Cond.classLink "java/util/Arrays" (2 : Nat) "java/lang/Object") ∈ lw_all := lw_g (lw_at lw_m1 192 rfl) rfl
theorem q295 : (Jvm.Cond.methodLink "java/util/Arrays" (304 : Nat) ({ cls := "java/lang/Math", name := "min", desc := "(II)I" } : Jvm.MethodName)) ∈ lw_all := lw_g (lw_at lw_m1 193 rfl) rfl
theorem q298 : (Jvm.Cond.methodLink "java/util/Arrays" (150 : Nat) ({ cls := "java/lang/System", name := "arraycopy", desc := "(Ljava/lang/Object;ILjava/lang/Object;II)V" } : Jvm.MethodName)) ∈ lw_all := lw_g (lw_at lw_m1 196 rfl) rfl
theorem q686 : (Jvm.Cond.static ({ cls := "java/util/Arrays", name := "copyOf", desc := "([BI)[B" } : Jvm.MethodName)) ∈ lw_all := lw_g (lw_at lw_m3 104 rfl) rfl
theorem q687 : (Jvm.Cond.code ({ cls := "java/util/Arrays", name := "copyOf", desc := "([BI)[B" } : Jvm.MethodName) prog_54_method_121_code (3 : Nat) (Option.some (Jvm.ClassFile.FieldType.array Jvm.ClassFile.FieldType.byte))) ∈ lw_all := lw_g (lw_at lw_m3 105 rfl) rfl
theorem q688 : (Jvm.Cond.methodLink "java/util/Arrays" (310 : Nat) ({ cls := "[B", name := "clone", desc := "()Ljava/lang/Object;" } : Jvm.MethodName)) ∈ lw_all := lw_g (lw_at lw_m3 106 rfl) rfl
theorem q694 : (Jvm.Cond.classLink "java/util/Arrays" (311 : Nat) "[B") ∈ lw_all := lw_g (lw_at lw_m3 112 rfl) rfl
theorem q823 : (Jvm.Cond.static ({ cls := "java/util/Arrays", name := "copyOfRange", desc := "([BII)[B" } : Jvm.MethodName)) ∈ lw_all := lw_g (lw_at lw_m4 1 rfl) rfl
theorem q824 : (Jvm.Cond.code ({ cls := "java/util/Arrays", name := "copyOfRange", desc := "([BII)[B" } : Jvm.MethodName) prog_54_method_132_code (3 : Nat) (Option.some (Jvm.ClassFile.FieldType.array Jvm.ClassFile.FieldType.byte))) ∈ lw_all := lw_g (lw_at lw_m4 2 rfl) rfl
theorem q825 : (Jvm.Cond.methodLink "java/util/Arrays" (339 : Nat) ({ cls := "java/util/Arrays", name := "copyOfRangeByte", desc := "([BII)[B" } : Jvm.MethodName)) ∈ lw_all := lw_g (lw_at lw_m4 3 rfl) rfl
theorem q826 : (Jvm.Cond.static ({ cls := "java/util/Arrays", name := "copyOfRangeByte", desc := "([BII)[B" } : Jvm.MethodName)) ∈ lw_all := lw_g (lw_at lw_m4 4 rfl) rfl
theorem q827 : (Jvm.Cond.code ({ cls := "java/util/Arrays", name := "copyOfRangeByte", desc := "([BII)[B" } : Jvm.MethodName) prog_54_method_133_code (5 : Nat) (Option.some (Jvm.ClassFile.FieldType.array Jvm.ClassFile.FieldType.byte))) ∈ lw_all := lw_g (lw_at lw_m4 5 rfl) rfl
theorem q828 : (Jvm.Cond.methodLink "java/util/Arrays" (343 : Nat) ({ cls := "java/util/Arrays", name := "checkLength", desc := "(II)V" } : Jvm.MethodName)) ∈ lw_all := lw_g (lw_at lw_m4 6 rfl) rfl
theorem q829 : (Jvm.Cond.static ({ cls := "java/util/Arrays", name := "checkLength", desc := "(II)V" } : Jvm.MethodName)) ∈ lw_all := lw_g (lw_at lw_m4 7 rfl) rfl
theorem q830 : (Jvm.Cond.code ({ cls := "java/util/Arrays", name := "checkLength", desc := "(II)V" } : Jvm.MethodName) prog_54_method_131_code (2 : Nat) (Option.none : Option Jvm.ClassFile.FieldType)) ∈ lw_all := lw_g (lw_at lw_m4 8 rfl) rfl
theorem q831 : (Jvm.Cond.classLink "java/util/Arrays" (43 : Nat) "java/lang/IllegalArgumentException") ∈ lw_all := lw_g (lw_at lw_m4 9 rfl) rfl
theorem q840 : (Jvm.Cond.classLink "java/util/Arrays" (45 : Nat) "java/lang/StringBuilder") ∈ lw_all := lw_g (lw_at lw_m4 18 rfl) rfl
theorem q841 : (Jvm.Cond.methodLink "java/util/Arrays" (47 : Nat) ({ cls := "java/lang/StringBuilder", name := "<init>", desc := "()V" } : Jvm.MethodName)) ∈ lw_all := lw_g (lw_at lw_m4 19 rfl) rfl
theorem q842 : (Jvm.Cond.methodLink "java/util/Arrays" (54 : Nat) ({ cls := "java/lang/StringBuilder", name := "append", desc := "(I)Ljava/lang/StringBuilder;" } : Jvm.MethodName)) ∈ lw_all := lw_g (lw_at lw_m4 20 rfl) rfl
theorem q843 : (Jvm.Cond.stringRef "java/util/Arrays" (337 : Nat) " > ") ∈ lw_tbl := lw_at lw_m4 21 rfl
theorem q844 : (Jvm.Cond.methodLink "java/util/Arrays" (50 : Nat) ({ cls := "java/lang/StringBuilder", name := "append", desc := "(Ljava/lang/String;)Ljava/lang/StringBuilder;" } : Jvm.MethodName)) ∈ lw_all := lw_g (lw_at lw_m4 22 rfl) rfl
theorem q845 : (Jvm.Cond.methodLink "java/util/Arrays" (61 : Nat) ({ cls := "java/lang/StringBuilder", name := "toString", desc := "()Ljava/lang/String;" } : Jvm.MethodName)) ∈ lw_all := lw_g (lw_at lw_m4 23 rfl) rfl
theorem q846 : (Jvm.Cond.methodLink "java/util/Arrays" (65 : Nat) ({ cls := "java/lang/IllegalArgumentException", name := "<init>", desc := "(Ljava/lang/String;)V" } : Jvm.MethodName)) ∈ lw_all := lw_g (lw_at lw_m4 24 rfl) rfl
theorem q1252 : (Jvm.Cond.static ({ cls := "java/util/Arrays", name := "copyOf", desc := "([JI)[J" } : Jvm.MethodName)) ∈ lw_all := lw_g (lw_at lw_m5 190 rfl) rfl
theorem q1253 : (Jvm.Cond.code ({ cls := "java/util/Arrays", name := "copyOf", desc := "([JI)[J" } : Jvm.MethodName) prog_54_method_124_code (3 : Nat) (Option.some (Jvm.ClassFile.FieldType.array Jvm.ClassFile.FieldType.long))) ∈ lw_all := lw_g (lw_at lw_m5 191 rfl) rfl
theorem q1254 : (Jvm.Cond.methodLink "java/util/Arrays" (319 : Nat) ({ cls := "[J", name := "clone", desc := "()Ljava/lang/Object;" } : Jvm.MethodName)) ∈ lw_all := lw_g (lw_at lw_m5 192 rfl) rfl
theorem q1258 : (Jvm.Cond.classLink "java/util/Arrays" (320 : Nat) "[J") ∈ lw_all := lw_g (lw_at lw_m5 196 rfl) rfl
theorem q1396 : (Jvm.Cond.static ({ cls := "java/util/Arrays", name := "copyOfRange", desc := "([Ljava/lang/Object;IILjava/lang/Class;)[Ljava/lang/Object;" } : Jvm.MethodName)) ∈ lw_all := lw_g (lw_at lw_m6 94 rfl) rfl
theorem q1397 : (Jvm.Cond.code ({ cls := "java/util/Arrays", name := "copyOfRange", desc := "([Ljava/lang/Object;IILjava/lang/Class;)[Ljava/lang/Object;" } : Jvm.MethodName) prog_54_method_130_code (6 : Nat) (Option.some (Jvm.ClassFile.FieldType.array (Jvm.ClassFile.FieldType.object "java/lang/Object")))) ∈ lw_all := lw_g (lw_at lw_m6 95 rfl) rfl
/-! java/util/ArrayDeque -/
set_option maxRecDepth 100000
def RJ8 : String := "java/util/ArrayDeque"
def TJ8 : u_T := fun k => match k with
  | 0 => ("java/util/ArrayDeque", "elements", "[Ljava/lang/Object;", false)
  | 1 => ("java/util/ArrayDeque", "head", "I", false)
  | _ => ("java/util/ArrayDeque", "tail", "I", false)
def tyJ8 : Nat → FieldType := fun k => match k with
  | 0 => .array (.object "java/lang/Object")
  | 1 => .int
  | _ => .int
abbrev wsJ80 : List Cond := u_ws RJ8 TJ8 3
theorem nmJ8 : ∀ a, a < 3 → ∀ b, b < 3 → a ≠ b → (TJ8 a).2.1 ≠ (TJ8 b).2.1 := by decide +kernel
theorem tyJ8_ok : ∀ k, k < 3 → parseFieldDescriptor (TJ8 k).2.2.1 = some (tyJ8 k) := by decide +kernel
abbrev cJ8_init : ByteArray := prog_50_method_3_code
def yJ8_init : MethodName := ⟨RJ8, "<init>", "()V"⟩
def dkwJ8_init_0 : List UInt8 := [42, 183, 0, 42, 42, 16, 17, 189, 0, 47, 181, 0, 3, 177]
abbrev dktJ8_init_0 : List UInt8 := dkwJ8_init_0 ++ []
theorem dksJ8_init_0 : cJ8_init.data.toList.drop 0 = dktJ8_init_0 := by decide +kernel
theorem dJ8_init_0 : decode cJ8_init 0 = .ok (.aload_n 0, 1) := dk_42 (dk_at dksJ8_init_0 0 rfl rfl)
theorem dJ8_init_1 : decode cJ8_init 1 = .ok (.invokespecial 42, 3) := dk_183 0 42 (dk_at dksJ8_init_0 1 rfl rfl)
theorem dJ8_init_4 : decode cJ8_init 4 = .ok (.aload_n 0, 1) := dk_42 (dk_at dksJ8_init_0 4 rfl rfl)
theorem dJ8_init_5 : decode cJ8_init 5 = .ok (.bipush 17, 2) := dk_16 17 (dk_at dksJ8_init_0 5 rfl rfl)
theorem dJ8_init_7 : decode cJ8_init 7 = .ok (.anewarray 47, 3) := dk_189 0 47 (dk_at dksJ8_init_0 7 rfl rfl)
theorem dJ8_init_10 : decode cJ8_init 10 = .ok (.putfield 3, 3) := dk_181 0 3 (dk_at dksJ8_init_0 10 rfl rfl)
theorem dJ8_init_13 : decode cJ8_init 13 = .ok (.return_, 1) := dk_177 (dk_at dksJ8_init_0 13 rfl rfl)
abbrev cJ8_clear : ByteArray := prog_50_method_53_code
def yJ8_clear : MethodName := ⟨RJ8, "clear", "()V"⟩
def dkwJ8_clear_1 : List UInt8 := [181, 0, 24, 177]
abbrev dktJ8_clear_1 : List UInt8 := dkwJ8_clear_1 ++ []
def dkwJ8_clear_0 : List UInt8 := [42, 180, 0, 3, 42, 180, 0, 24, 42, 180, 0, 20, 184, 0, 181, 42, 42, 3, 90, 181, 0, 20]
abbrev dktJ8_clear_0 : List UInt8 := dkwJ8_clear_0 ++ dktJ8_clear_1
theorem dksJ8_clear_0 : cJ8_clear.data.toList.drop 0 = dktJ8_clear_0 := by decide +kernel
theorem dksJ8_clear_1 : cJ8_clear.data.toList.drop 22 = dktJ8_clear_1 := dk_seg dksJ8_clear_0 22 rfl rfl
theorem dJ8_clear_0 : decode cJ8_clear 0 = .ok (.aload_n 0, 1) := dk_42 (dk_at dksJ8_clear_0 0 rfl rfl)
theorem dJ8_clear_1 : decode cJ8_clear 1 = .ok (.getfield 3, 3) := dk_180 0 3 (dk_at dksJ8_clear_0 1 rfl rfl)
theorem dJ8_clear_4 : decode cJ8_clear 4 = .ok (.aload_n 0, 1) := dk_42 (dk_at dksJ8_clear_0 4 rfl rfl)
theorem dJ8_clear_5 : decode cJ8_clear 5 = .ok (.getfield 24, 3) := dk_180 0 24 (dk_at dksJ8_clear_0 5 rfl rfl)
theorem dJ8_clear_8 : decode cJ8_clear 8 = .ok (.aload_n 0, 1) := dk_42 (dk_at dksJ8_clear_0 8 rfl rfl)
theorem dJ8_clear_9 : decode cJ8_clear 9 = .ok (.getfield 20, 3) := dk_180 0 20 (dk_at dksJ8_clear_0 9 rfl rfl)
theorem dJ8_clear_12 : decode cJ8_clear 12 = .ok (.invokestatic 181, 3) := dk_184 0 181 (dk_at dksJ8_clear_0 12 rfl rfl)
theorem dJ8_clear_15 : decode cJ8_clear 15 = .ok (.aload_n 0, 1) := dk_42 (dk_at dksJ8_clear_0 15 rfl rfl)
theorem dJ8_clear_16 : decode cJ8_clear 16 = .ok (.aload_n 0, 1) := dk_42 (dk_at dksJ8_clear_0 16 rfl rfl)
theorem dJ8_clear_17 : decode cJ8_clear 17 = .ok (.iconst 0, 1) := dk_3 (dk_at dksJ8_clear_0 17 rfl rfl)
theorem dJ8_clear_18 : decode cJ8_clear 18 = .ok (.dup_x1, 1) := dk_90 (dk_at dksJ8_clear_0 18 rfl rfl)
theorem dJ8_clear_19 : decode cJ8_clear 19 = .ok (.putfield 20, 3) := dk_181 0 20 (dk_at dksJ8_clear_0 19 rfl rfl)
theorem dJ8_clear_22 : decode cJ8_clear 22 = .ok (.putfield 24, 3) := dk_181 0 24 (dk_at dksJ8_clear_1 0 rfl rfl)
theorem dJ8_clear_25 : decode cJ8_clear 25 = .ok (.return_, 1) := dk_177 (dk_at dksJ8_clear_1 3 rfl rfl)
abbrev cJ8_circularClear : ByteArray := prog_50_method_54_code
def yJ8_circularClear : MethodName := ⟨RJ8, "circularClear", "([Ljava/lang/Object;II)V"⟩
def dkwJ8_circularClear_1 : List UInt8 := [167, 255, 244, 29, 28, 160, 0, 6, 167, 0, 10, 3, 60, 28, 62, 167, 255, 229, 177]
abbrev dktJ8_circularClear_1 : List UInt8 := dkwJ8_circularClear_1 ++ []
def dkwJ8_circularClear_0 : List UInt8 := [27, 28, 163, 0, 7, 28, 167, 0, 5, 42, 190, 62, 27, 29, 162, 0, 13, 42, 27, 1, 83, 132, 1, 1]
abbrev dktJ8_circularClear_0 : List UInt8 := dkwJ8_circularClear_0 ++ dktJ8_circularClear_1
theorem dksJ8_circularClear_0 : cJ8_circularClear.data.toList.drop 0 = dktJ8_circularClear_0 := by decide +kernel
theorem dksJ8_circularClear_1 : cJ8_circularClear.data.toList.drop 24 = dktJ8_circularClear_1 := dk_seg dksJ8_circularClear_0 24 rfl rfl
theorem dJ8_circularClear_0 : decode cJ8_circularClear 0 = .ok (.iload_n 1, 1) := dk_27 (dk_at dksJ8_circularClear_0 0 rfl rfl)
theorem dJ8_circularClear_1 : decode cJ8_circularClear 1 = .ok (.iload_n 2, 1) := dk_28 (dk_at dksJ8_circularClear_0 1 rfl rfl)
theorem dJ8_circularClear_2 : decode cJ8_circularClear 2 = .ok (.if_icmp .gt 7, 3) := dk_163 0 7 (dk_at dksJ8_circularClear_0 2 rfl rfl)
theorem dJ8_circularClear_5 : decode cJ8_circularClear 5 = .ok (.iload_n 2, 1) := dk_28 (dk_at dksJ8_circularClear_0 5 rfl rfl)
theorem dJ8_circularClear_6 : decode cJ8_circularClear 6 = .ok (.goto 5, 3) := dk_167 0 5 (dk_at dksJ8_circularClear_0 6 rfl rfl)
theorem dJ8_circularClear_9 : decode cJ8_circularClear 9 = .ok (.aload_n 0, 1) := dk_42 (dk_at dksJ8_circularClear_0 9 rfl rfl)
theorem dJ8_circularClear_10 : decode cJ8_circularClear 10 = .ok (.arraylength, 1) := dk_190 (dk_at dksJ8_circularClear_0 10 rfl rfl)
theorem dJ8_circularClear_11 : decode cJ8_circularClear 11 = .ok (.istore_n 3, 1) := dk_62 (dk_at dksJ8_circularClear_0 11 rfl rfl)
theorem dJ8_circularClear_12 : decode cJ8_circularClear 12 = .ok (.iload_n 1, 1) := dk_27 (dk_at dksJ8_circularClear_0 12 rfl rfl)
theorem dJ8_circularClear_13 : decode cJ8_circularClear 13 = .ok (.iload_n 3, 1) := dk_29 (dk_at dksJ8_circularClear_0 13 rfl rfl)
theorem dJ8_circularClear_14 : decode cJ8_circularClear 14 = .ok (.if_icmp .ge 13, 3) := dk_162 0 13 (dk_at dksJ8_circularClear_0 14 rfl rfl)
theorem dJ8_circularClear_17 : decode cJ8_circularClear 17 = .ok (.aload_n 0, 1) := dk_42 (dk_at dksJ8_circularClear_0 17 rfl rfl)
theorem dJ8_circularClear_18 : decode cJ8_circularClear 18 = .ok (.iload_n 1, 1) := dk_27 (dk_at dksJ8_circularClear_0 18 rfl rfl)
theorem dJ8_circularClear_19 : decode cJ8_circularClear 19 = .ok (.aconst_null, 1) := dk_1 (dk_at dksJ8_circularClear_0 19 rfl rfl)
theorem dJ8_circularClear_20 : decode cJ8_circularClear 20 = .ok (.aastore, 1) := dk_83 (dk_at dksJ8_circularClear_0 20 rfl rfl)
theorem dJ8_circularClear_21 : decode cJ8_circularClear 21 = .ok (.iinc 1 1, 3) := dk_132 1 1 (dk_at dksJ8_circularClear_0 21 rfl rfl)
theorem dJ8_circularClear_24 : decode cJ8_circularClear 24 = .ok (.goto (-12), 3) := dk_167 255 244 (dk_at dksJ8_circularClear_1 0 rfl rfl)
theorem dJ8_circularClear_27 : decode cJ8_circularClear 27 = .ok (.iload_n 3, 1) := dk_29 (dk_at dksJ8_circularClear_1 3 rfl rfl)
theorem dJ8_circularClear_28 : decode cJ8_circularClear 28 = .ok (.iload_n 2, 1) := dk_28 (dk_at dksJ8_circularClear_1 4 rfl rfl)
theorem dJ8_circularClear_29 : decode cJ8_circularClear 29 = .ok (.if_icmp .ne 6, 3) := dk_160 0 6 (dk_at dksJ8_circularClear_1 5 rfl rfl)
theorem dJ8_circularClear_32 : decode cJ8_circularClear 32 = .ok (.goto 10, 3) := dk_167 0 10 (dk_at dksJ8_circularClear_1 8 rfl rfl)
theorem dJ8_circularClear_35 : decode cJ8_circularClear 35 = .ok (.iconst 0, 1) := dk_3 (dk_at dksJ8_circularClear_1 11 rfl rfl)
theorem dJ8_circularClear_36 : decode cJ8_circularClear 36 = .ok (.istore_n 1, 1) := dk_60 (dk_at dksJ8_circularClear_1 12 rfl rfl)
theorem dJ8_circularClear_37 : decode cJ8_circularClear 37 = .ok (.iload_n 2, 1) := dk_28 (dk_at dksJ8_circularClear_1 13 rfl rfl)
theorem dJ8_circularClear_38 : decode cJ8_circularClear 38 = .ok (.istore_n 3, 1) := dk_62 (dk_at dksJ8_circularClear_1 14 rfl rfl)
theorem dJ8_circularClear_39 : decode cJ8_circularClear 39 = .ok (.goto (-27), 3) := dk_167 255 229 (dk_at dksJ8_circularClear_1 15 rfl rfl)
theorem dJ8_circularClear_42 : decode cJ8_circularClear 42 = .ok (.return_, 1) := dk_177 (dk_at dksJ8_circularClear_1 18 rfl rfl)
abbrev cJ8_toArray : ByteArray := prog_50_method_55_code
def yJ8_toArray : MethodName := ⟨RJ8, "toArray", "()[Ljava/lang/Object;"⟩
def dkwJ8_toArray_0 : List UInt8 := [42, 18, 188, 182, 0, 189, 176]
abbrev dktJ8_toArray_0 : List UInt8 := dkwJ8_toArray_0 ++ []
theorem dksJ8_toArray_0 : cJ8_toArray.data.toList.drop 0 = dktJ8_toArray_0 := by decide +kernel
theorem dJ8_toArray_0 : decode cJ8_toArray 0 = .ok (.aload_n 0, 1) := dk_42 (dk_at dksJ8_toArray_0 0 rfl rfl)
theorem dJ8_toArray_1 : decode cJ8_toArray 1 = .ok (.ldc 188, 2) := dk_18 188 (dk_at dksJ8_toArray_0 1 rfl rfl)
theorem dJ8_toArray_3 : decode cJ8_toArray 3 = .ok (.invokevirtual 189, 3) := dk_182 0 189 (dk_at dksJ8_toArray_0 3 rfl rfl)
theorem dJ8_toArray_6 : decode cJ8_toArray 6 = .ok (.areturn, 1) := dk_176 (dk_at dksJ8_toArray_0 6 rfl rfl)
abbrev cJ8_toArray_2 : ByteArray := prog_50_method_56_code
def yJ8_toArray_2 : MethodName := ⟨RJ8, "toArray", "(Ljava/lang/Class;)[Ljava/lang/Object;"⟩
def dkwJ8_toArray_2_4 : List UInt8 := [21, 5, 184, 0, 27, 45, 176]
abbrev dktJ8_toArray_2_4 : List UInt8 := dkwJ8_toArray_2_4 ++ []
def dkwJ8_toArray_2_3 : List UInt8 := [44, 190, 21, 4, 100, 184, 0, 27, 21, 6, 21, 5, 159, 0, 16, 44, 3, 45, 44, 190, 21, 4, 100]
abbrev dktJ8_toArray_2_3 : List UInt8 := dkwJ8_toArray_2_3 ++ dktJ8_toArray_2_4
def dkwJ8_toArray_2_2 : List UInt8 := [184, 0, 193, 78, 167, 0, 28, 44, 3, 21, 6, 21, 4, 100, 43, 184, 0, 193, 78, 44, 21, 4, 45, 3]
abbrev dktJ8_toArray_2_2 : List UInt8 := dkwJ8_toArray_2_2 ++ dktJ8_toArray_2_3
def dkwJ8_toArray_2_1 : List UInt8 := [163, 0, 7, 3, 167, 0, 5, 44, 190, 96, 89, 54, 6, 155, 0, 16, 44, 21, 4, 21, 6, 43]
abbrev dktJ8_toArray_2_1 : List UInt8 := dkwJ8_toArray_2_1 ++ dktJ8_toArray_2_2
def dkwJ8_toArray_2_0 : List UInt8 := [42, 180, 0, 3, 77, 42, 180, 0, 24, 54, 4, 42, 180, 0, 20, 54, 5, 21, 5, 21, 4, 21, 5]
abbrev dktJ8_toArray_2_0 : List UInt8 := dkwJ8_toArray_2_0 ++ dktJ8_toArray_2_1
theorem dksJ8_toArray_2_0 : cJ8_toArray_2.data.toList.drop 0 = dktJ8_toArray_2_0 := by decide +kernel
theorem dksJ8_toArray_2_1 : cJ8_toArray_2.data.toList.drop 23 = dktJ8_toArray_2_1 := dk_seg dksJ8_toArray_2_0 23 rfl rfl
theorem dksJ8_toArray_2_2 : cJ8_toArray_2.data.toList.drop 45 = dktJ8_toArray_2_2 := dk_seg dksJ8_toArray_2_1 22 rfl rfl
theorem dksJ8_toArray_2_3 : cJ8_toArray_2.data.toList.drop 69 = dktJ8_toArray_2_3 := dk_seg dksJ8_toArray_2_2 24 rfl rfl
theorem dksJ8_toArray_2_4 : cJ8_toArray_2.data.toList.drop 92 = dktJ8_toArray_2_4 := dk_seg dksJ8_toArray_2_3 23 rfl rfl
theorem dJ8_toArray_2_0 : decode cJ8_toArray_2 0 = .ok (.aload_n 0, 1) := dk_42 (dk_at dksJ8_toArray_2_0 0 rfl rfl)
theorem dJ8_toArray_2_1 : decode cJ8_toArray_2 1 = .ok (.getfield 3, 3) := dk_180 0 3 (dk_at dksJ8_toArray_2_0 1 rfl rfl)
theorem dJ8_toArray_2_4 : decode cJ8_toArray_2 4 = .ok (.astore_n 2, 1) := dk_77 (dk_at dksJ8_toArray_2_0 4 rfl rfl)
theorem dJ8_toArray_2_5 : decode cJ8_toArray_2 5 = .ok (.aload_n 0, 1) := dk_42 (dk_at dksJ8_toArray_2_0 5 rfl rfl)
theorem dJ8_toArray_2_6 : decode cJ8_toArray_2 6 = .ok (.getfield 24, 3) := dk_180 0 24 (dk_at dksJ8_toArray_2_0 6 rfl rfl)
theorem dJ8_toArray_2_9 : decode cJ8_toArray_2 9 = .ok (.istore 4, 2) := dk_54 4 (dk_at dksJ8_toArray_2_0 9 rfl rfl)
theorem dJ8_toArray_2_11 : decode cJ8_toArray_2 11 = .ok (.aload_n 0, 1) := dk_42 (dk_at dksJ8_toArray_2_0 11 rfl rfl)
theorem dJ8_toArray_2_12 : decode cJ8_toArray_2 12 = .ok (.getfield 20, 3) := dk_180 0 20 (dk_at dksJ8_toArray_2_0 12 rfl rfl)
theorem dJ8_toArray_2_15 : decode cJ8_toArray_2 15 = .ok (.istore 5, 2) := dk_54 5 (dk_at dksJ8_toArray_2_0 15 rfl rfl)
theorem dJ8_toArray_2_17 : decode cJ8_toArray_2 17 = .ok (.iload 5, 2) := dk_21 5 (dk_at dksJ8_toArray_2_0 17 rfl rfl)
theorem dJ8_toArray_2_19 : decode cJ8_toArray_2 19 = .ok (.iload 4, 2) := dk_21 4 (dk_at dksJ8_toArray_2_0 19 rfl rfl)
theorem dJ8_toArray_2_21 : decode cJ8_toArray_2 21 = .ok (.iload 5, 2) := dk_21 5 (dk_at dksJ8_toArray_2_0 21 rfl rfl)
theorem dJ8_toArray_2_23 : decode cJ8_toArray_2 23 = .ok (.if_icmp .gt 7, 3) := dk_163 0 7 (dk_at dksJ8_toArray_2_1 0 rfl rfl)
theorem dJ8_toArray_2_26 : decode cJ8_toArray_2 26 = .ok (.iconst 0, 1) := dk_3 (dk_at dksJ8_toArray_2_1 3 rfl rfl)
theorem dJ8_toArray_2_27 : decode cJ8_toArray_2 27 = .ok (.goto 5, 3) := dk_167 0 5 (dk_at dksJ8_toArray_2_1 4 rfl rfl)
theorem dJ8_toArray_2_30 : decode cJ8_toArray_2 30 = .ok (.aload_n 2, 1) := dk_44 (dk_at dksJ8_toArray_2_1 7 rfl rfl)
theorem dJ8_toArray_2_31 : decode cJ8_toArray_2 31 = .ok (.arraylength, 1) := dk_190 (dk_at dksJ8_toArray_2_1 8 rfl rfl)
theorem dJ8_toArray_2_32 : decode cJ8_toArray_2 32 = .ok (.iadd, 1) := dk_96 (dk_at dksJ8_toArray_2_1 9 rfl rfl)
theorem dJ8_toArray_2_33 : decode cJ8_toArray_2 33 = .ok (.dup, 1) := dk_89 (dk_at dksJ8_toArray_2_1 10 rfl rfl)
theorem dJ8_toArray_2_34 : decode cJ8_toArray_2 34 = .ok (.istore 6, 2) := dk_54 6 (dk_at dksJ8_toArray_2_1 11 rfl rfl)
theorem dJ8_toArray_2_36 : decode cJ8_toArray_2 36 = .ok (.ifCond .lt 16, 3) := dk_155 0 16 (dk_at dksJ8_toArray_2_1 13 rfl rfl)
theorem dJ8_toArray_2_39 : decode cJ8_toArray_2 39 = .ok (.aload_n 2, 1) := dk_44 (dk_at dksJ8_toArray_2_1 16 rfl rfl)
theorem dJ8_toArray_2_40 : decode cJ8_toArray_2 40 = .ok (.iload 4, 2) := dk_21 4 (dk_at dksJ8_toArray_2_1 17 rfl rfl)
theorem dJ8_toArray_2_42 : decode cJ8_toArray_2 42 = .ok (.iload 6, 2) := dk_21 6 (dk_at dksJ8_toArray_2_1 19 rfl rfl)
theorem dJ8_toArray_2_44 : decode cJ8_toArray_2 44 = .ok (.aload_n 1, 1) := dk_43 (dk_at dksJ8_toArray_2_1 21 rfl rfl)
theorem dJ8_toArray_2_45 : decode cJ8_toArray_2 45 = .ok (.invokestatic 193, 3) := dk_184 0 193 (dk_at dksJ8_toArray_2_2 0 rfl rfl)
theorem dJ8_toArray_2_48 : decode cJ8_toArray_2 48 = .ok (.astore_n 3, 1) := dk_78 (dk_at dksJ8_toArray_2_2 3 rfl rfl)
theorem dJ8_toArray_2_49 : decode cJ8_toArray_2 49 = .ok (.goto 28, 3) := dk_167 0 28 (dk_at dksJ8_toArray_2_2 4 rfl rfl)
theorem dJ8_toArray_2_52 : decode cJ8_toArray_2 52 = .ok (.aload_n 2, 1) := dk_44 (dk_at dksJ8_toArray_2_2 7 rfl rfl)
theorem dJ8_toArray_2_53 : decode cJ8_toArray_2 53 = .ok (.iconst 0, 1) := dk_3 (dk_at dksJ8_toArray_2_2 8 rfl rfl)
theorem dJ8_toArray_2_54 : decode cJ8_toArray_2 54 = .ok (.iload 6, 2) := dk_21 6 (dk_at dksJ8_toArray_2_2 9 rfl rfl)
theorem dJ8_toArray_2_56 : decode cJ8_toArray_2 56 = .ok (.iload 4, 2) := dk_21 4 (dk_at dksJ8_toArray_2_2 11 rfl rfl)
theorem dJ8_toArray_2_58 : decode cJ8_toArray_2 58 = .ok (.isub, 1) := dk_100 (dk_at dksJ8_toArray_2_2 13 rfl rfl)
theorem dJ8_toArray_2_59 : decode cJ8_toArray_2 59 = .ok (.aload_n 1, 1) := dk_43 (dk_at dksJ8_toArray_2_2 14 rfl rfl)
theorem dJ8_toArray_2_60 : decode cJ8_toArray_2 60 = .ok (.invokestatic 193, 3) := dk_184 0 193 (dk_at dksJ8_toArray_2_2 15 rfl rfl)
theorem dJ8_toArray_2_63 : decode cJ8_toArray_2 63 = .ok (.astore_n 3, 1) := dk_78 (dk_at dksJ8_toArray_2_2 18 rfl rfl)
theorem dJ8_toArray_2_64 : decode cJ8_toArray_2 64 = .ok (.aload_n 2, 1) := dk_44 (dk_at dksJ8_toArray_2_2 19 rfl rfl)
theorem dJ8_toArray_2_65 : decode cJ8_toArray_2 65 = .ok (.iload 4, 2) := dk_21 4 (dk_at dksJ8_toArray_2_2 20 rfl rfl)
theorem dJ8_toArray_2_67 : decode cJ8_toArray_2 67 = .ok (.aload_n 3, 1) := dk_45 (dk_at dksJ8_toArray_2_2 22 rfl rfl)
theorem dJ8_toArray_2_68 : decode cJ8_toArray_2 68 = .ok (.iconst 0, 1) := dk_3 (dk_at dksJ8_toArray_2_2 23 rfl rfl)
theorem dJ8_toArray_2_69 : decode cJ8_toArray_2 69 = .ok (.aload_n 2, 1) := dk_44 (dk_at dksJ8_toArray_2_3 0 rfl rfl)
theorem dJ8_toArray_2_70 : decode cJ8_toArray_2 70 = .ok (.arraylength, 1) := dk_190 (dk_at dksJ8_toArray_2_3 1 rfl rfl)
theorem dJ8_toArray_2_71 : decode cJ8_toArray_2 71 = .ok (.iload 4, 2) := dk_21 4 (dk_at dksJ8_toArray_2_3 2 rfl rfl)
theorem dJ8_toArray_2_73 : decode cJ8_toArray_2 73 = .ok (.isub, 1) := dk_100 (dk_at dksJ8_toArray_2_3 4 rfl rfl)
theorem dJ8_toArray_2_74 : decode cJ8_toArray_2 74 = .ok (.invokestatic 27, 3) := dk_184 0 27 (dk_at dksJ8_toArray_2_3 5 rfl rfl)
theorem dJ8_toArray_2_77 : decode cJ8_toArray_2 77 = .ok (.iload 6, 2) := dk_21 6 (dk_at dksJ8_toArray_2_3 8 rfl rfl)
theorem dJ8_toArray_2_79 : decode cJ8_toArray_2 79 = .ok (.iload 5, 2) := dk_21 5 (dk_at dksJ8_toArray_2_3 10 rfl rfl)
theorem dJ8_toArray_2_81 : decode cJ8_toArray_2 81 = .ok (.if_icmp .eq 16, 3) := dk_159 0 16 (dk_at dksJ8_toArray_2_3 12 rfl rfl)
theorem dJ8_toArray_2_84 : decode cJ8_toArray_2 84 = .ok (.aload_n 2, 1) := dk_44 (dk_at dksJ8_toArray_2_3 15 rfl rfl)
theorem dJ8_toArray_2_85 : decode cJ8_toArray_2 85 = .ok (.iconst 0, 1) := dk_3 (dk_at dksJ8_toArray_2_3 16 rfl rfl)
theorem dJ8_toArray_2_86 : decode cJ8_toArray_2 86 = .ok (.aload_n 3, 1) := dk_45 (dk_at dksJ8_toArray_2_3 17 rfl rfl)
theorem dJ8_toArray_2_87 : decode cJ8_toArray_2 87 = .ok (.aload_n 2, 1) := dk_44 (dk_at dksJ8_toArray_2_3 18 rfl rfl)
theorem dJ8_toArray_2_88 : decode cJ8_toArray_2 88 = .ok (.arraylength, 1) := dk_190 (dk_at dksJ8_toArray_2_3 19 rfl rfl)
theorem dJ8_toArray_2_89 : decode cJ8_toArray_2 89 = .ok (.iload 4, 2) := dk_21 4 (dk_at dksJ8_toArray_2_3 20 rfl rfl)
theorem dJ8_toArray_2_91 : decode cJ8_toArray_2 91 = .ok (.isub, 1) := dk_100 (dk_at dksJ8_toArray_2_3 22 rfl rfl)
theorem dJ8_toArray_2_92 : decode cJ8_toArray_2 92 = .ok (.iload 5, 2) := dk_21 5 (dk_at dksJ8_toArray_2_4 0 rfl rfl)
theorem dJ8_toArray_2_94 : decode cJ8_toArray_2 94 = .ok (.invokestatic 27, 3) := dk_184 0 27 (dk_at dksJ8_toArray_2_4 2 rfl rfl)
theorem dJ8_toArray_2_97 : decode cJ8_toArray_2 97 = .ok (.aload_n 3, 1) := dk_45 (dk_at dksJ8_toArray_2_4 5 rfl rfl)
theorem dJ8_toArray_2_98 : decode cJ8_toArray_2 98 = .ok (.areturn, 1) := dk_176 (dk_at dksJ8_toArray_2_4 6 rfl rfl)
abbrev cJ8_size : ByteArray := prog_50_method_37_code
def yJ8_size : MethodName := ⟨RJ8, "size", "()I"⟩
def dkwJ8_size_0 : List UInt8 := [42, 180, 0, 20, 42, 180, 0, 24, 42, 180, 0, 3, 190, 184, 0, 127, 172]
abbrev dktJ8_size_0 : List UInt8 := dkwJ8_size_0 ++ []
theorem dksJ8_size_0 : cJ8_size.data.toList.drop 0 = dktJ8_size_0 := by decide +kernel
theorem dJ8_size_0 : decode cJ8_size 0 = .ok (.aload_n 0, 1) := dk_42 (dk_at dksJ8_size_0 0 rfl rfl)
theorem dJ8_size_1 : decode cJ8_size 1 = .ok (.getfield 20, 3) := dk_180 0 20 (dk_at dksJ8_size_0 1 rfl rfl)
theorem dJ8_size_4 : decode cJ8_size 4 = .ok (.aload_n 0, 1) := dk_42 (dk_at dksJ8_size_0 4 rfl rfl)
theorem dJ8_size_5 : decode cJ8_size 5 = .ok (.getfield 24, 3) := dk_180 0 24 (dk_at dksJ8_size_0 5 rfl rfl)
theorem dJ8_size_8 : decode cJ8_size 8 = .ok (.aload_n 0, 1) := dk_42 (dk_at dksJ8_size_0 8 rfl rfl)
theorem dJ8_size_9 : decode cJ8_size 9 = .ok (.getfield 3, 3) := dk_180 0 3 (dk_at dksJ8_size_0 9 rfl rfl)
theorem dJ8_size_12 : decode cJ8_size 12 = .ok (.arraylength, 1) := dk_190 (dk_at dksJ8_size_0 12 rfl rfl)
theorem dJ8_size_13 : decode cJ8_size 13 = .ok (.invokestatic 127, 3) := dk_184 0 127 (dk_at dksJ8_size_0 13 rfl rfl)
theorem dJ8_size_16 : decode cJ8_size 16 = .ok (.ireturn, 1) := dk_172 (dk_at dksJ8_size_0 16 rfl rfl)
abbrev cJ8_sub : ByteArray := prog_50_method_9_code
def yJ8_sub : MethodName := ⟨RJ8, "sub", "(III)I"⟩
def dkwJ8_sub_0 : List UInt8 := [26, 27, 100, 89, 59, 156, 0, 7, 26, 28, 96, 59, 26, 172]
abbrev dktJ8_sub_0 : List UInt8 := dkwJ8_sub_0 ++ []
theorem dksJ8_sub_0 : cJ8_sub.data.toList.drop 0 = dktJ8_sub_0 := by decide +kernel
theorem dJ8_sub_0 : decode cJ8_sub 0 = .ok (.iload_n 0, 1) := dk_26 (dk_at dksJ8_sub_0 0 rfl rfl)
theorem dJ8_sub_1 : decode cJ8_sub 1 = .ok (.iload_n 1, 1) := dk_27 (dk_at dksJ8_sub_0 1 rfl rfl)
theorem dJ8_sub_2 : decode cJ8_sub 2 = .ok (.isub, 1) := dk_100 (dk_at dksJ8_sub_0 2 rfl rfl)
theorem dJ8_sub_3 : decode cJ8_sub 3 = .ok (.dup, 1) := dk_89 (dk_at dksJ8_sub_0 3 rfl rfl)
theorem dJ8_sub_4 : decode cJ8_sub 4 = .ok (.istore_n 0, 1) := dk_59 (dk_at dksJ8_sub_0 4 rfl rfl)
theorem dJ8_sub_5 : decode cJ8_sub 5 = .ok (.ifCond .ge 7, 3) := dk_156 0 7 (dk_at dksJ8_sub_0 5 rfl rfl)
theorem dJ8_sub_8 : decode cJ8_sub 8 = .ok (.iload_n 0, 1) := dk_26 (dk_at dksJ8_sub_0 8 rfl rfl)
theorem dJ8_sub_9 : decode cJ8_sub 9 = .ok (.iload_n 2, 1) := dk_28 (dk_at dksJ8_sub_0 9 rfl rfl)
theorem dJ8_sub_10 : decode cJ8_sub 10 = .ok (.iadd, 1) := dk_96 (dk_at dksJ8_sub_0 10 rfl rfl)
theorem dJ8_sub_11 : decode cJ8_sub 11 = .ok (.istore_n 0, 1) := dk_59 (dk_at dksJ8_sub_0 11 rfl rfl)
theorem dJ8_sub_12 : decode cJ8_sub 12 = .ok (.iload_n 0, 1) := dk_26 (dk_at dksJ8_sub_0 12 rfl rfl)
theorem dJ8_sub_13 : decode cJ8_sub 13 = .ok (.ireturn, 1) := dk_172 (dk_at dksJ8_sub_0 13 rfl rfl)
abbrev cJ8_contains : ByteArray := prog_50_method_51_code
def yJ8_contains : MethodName := ⟨RJ8, "contains", "(Ljava/lang/Object;)Z"⟩
def dkwJ8_contains_3 : List UInt8 := [3, 62, 21, 4, 54, 5, 167, 255, 216, 3, 172]
abbrev dktJ8_contains_3 : List UInt8 := dkwJ8_contains_3 ++ []
def dkwJ8_contains_2 : List UInt8 := [182, 0, 107, 153, 0, 5, 4, 172, 132, 3, 1, 167, 255, 235, 21, 5, 21, 4, 160, 0, 6, 167, 0, 12]
abbrev dktJ8_contains_2 : List UInt8 := dkwJ8_contains_2 ++ dktJ8_contains_3
def dkwJ8_contains_1 : List UInt8 := [163, 0, 8, 21, 4, 167, 0, 5, 44, 190, 54, 5, 29, 21, 5, 162, 0, 21, 43, 44, 29, 50]
abbrev dktJ8_contains_1 : List UInt8 := dkwJ8_contains_1 ++ dktJ8_contains_2
def dkwJ8_contains_0 : List UInt8 := [43, 198, 0, 77, 42, 180, 0, 3, 77, 42, 180, 0, 24, 62, 42, 180, 0, 20, 54, 4, 29, 21, 4]
abbrev dktJ8_contains_0 : List UInt8 := dkwJ8_contains_0 ++ dktJ8_contains_1
theorem dksJ8_contains_0 : cJ8_contains.data.toList.drop 0 = dktJ8_contains_0 := by decide +kernel
theorem dksJ8_contains_1 : cJ8_contains.data.toList.drop 23 = dktJ8_contains_1 := dk_seg dksJ8_contains_0 23 rfl rfl
theorem dksJ8_contains_2 : cJ8_contains.data.toList.drop 45 = dktJ8_contains_2 := dk_seg dksJ8_contains_1 22 rfl rfl
theorem dksJ8_contains_3 : cJ8_contains.data.toList.drop 69 = dktJ8_contains_3 := dk_seg dksJ8_contains_2 24 rfl rfl
theorem dJ8_contains_0 : decode cJ8_contains 0 = .ok (.aload_n 1, 1) := dk_43 (dk_at dksJ8_contains_0 0 rfl rfl)
theorem dJ8_contains_1 : decode cJ8_contains 1 = .ok (.ifnull 77, 3) := dk_198 0 77 (dk_at dksJ8_contains_0 1 rfl rfl)
theorem dJ8_contains_4 : decode cJ8_contains 4 = .ok (.aload_n 0, 1) := dk_42 (dk_at dksJ8_contains_0 4 rfl rfl)
theorem dJ8_contains_5 : decode cJ8_contains 5 = .ok (.getfield 3, 3) := dk_180 0 3 (dk_at dksJ8_contains_0 5 rfl rfl)
theorem dJ8_contains_8 : decode cJ8_contains 8 = .ok (.astore_n 2, 1) := dk_77 (dk_at dksJ8_contains_0 8 rfl rfl)
theorem dJ8_contains_9 : decode cJ8_contains 9 = .ok (.aload_n 0, 1) := dk_42 (dk_at dksJ8_contains_0 9 rfl rfl)
theorem dJ8_contains_10 : decode cJ8_contains 10 = .ok (.getfield 24, 3) := dk_180 0 24 (dk_at dksJ8_contains_0 10 rfl rfl)
theorem dJ8_contains_13 : decode cJ8_contains 13 = .ok (.istore_n 3, 1) := dk_62 (dk_at dksJ8_contains_0 13 rfl rfl)
theorem dJ8_contains_14 : decode cJ8_contains 14 = .ok (.aload_n 0, 1) := dk_42 (dk_at dksJ8_contains_0 14 rfl rfl)
theorem dJ8_contains_15 : decode cJ8_contains 15 = .ok (.getfield 20, 3) := dk_180 0 20 (dk_at dksJ8_contains_0 15 rfl rfl)
theorem dJ8_contains_18 : decode cJ8_contains 18 = .ok (.istore 4, 2) := dk_54 4 (dk_at dksJ8_contains_0 18 rfl rfl)
theorem dJ8_contains_20 : decode cJ8_contains 20 = .ok (.iload_n 3, 1) := dk_29 (dk_at dksJ8_contains_0 20 rfl rfl)
theorem dJ8_contains_21 : decode cJ8_contains 21 = .ok (.iload 4, 2) := dk_21 4 (dk_at dksJ8_contains_0 21 rfl rfl)
theorem dJ8_contains_23 : decode cJ8_contains 23 = .ok (.if_icmp .gt 8, 3) := dk_163 0 8 (dk_at dksJ8_contains_1 0 rfl rfl)
theorem dJ8_contains_26 : decode cJ8_contains 26 = .ok (.iload 4, 2) := dk_21 4 (dk_at dksJ8_contains_1 3 rfl rfl)
theorem dJ8_contains_28 : decode cJ8_contains 28 = .ok (.goto 5, 3) := dk_167 0 5 (dk_at dksJ8_contains_1 5 rfl rfl)
theorem dJ8_contains_31 : decode cJ8_contains 31 = .ok (.aload_n 2, 1) := dk_44 (dk_at dksJ8_contains_1 8 rfl rfl)
theorem dJ8_contains_32 : decode cJ8_contains 32 = .ok (.arraylength, 1) := dk_190 (dk_at dksJ8_contains_1 9 rfl rfl)
theorem dJ8_contains_33 : decode cJ8_contains 33 = .ok (.istore 5, 2) := dk_54 5 (dk_at dksJ8_contains_1 10 rfl rfl)
theorem dJ8_contains_35 : decode cJ8_contains 35 = .ok (.iload_n 3, 1) := dk_29 (dk_at dksJ8_contains_1 12 rfl rfl)
theorem dJ8_contains_36 : decode cJ8_contains 36 = .ok (.iload 5, 2) := dk_21 5 (dk_at dksJ8_contains_1 13 rfl rfl)
theorem dJ8_contains_38 : decode cJ8_contains 38 = .ok (.if_icmp .ge 21, 3) := dk_162 0 21 (dk_at dksJ8_contains_1 15 rfl rfl)
theorem dJ8_contains_41 : decode cJ8_contains 41 = .ok (.aload_n 1, 1) := dk_43 (dk_at dksJ8_contains_1 18 rfl rfl)
theorem dJ8_contains_42 : decode cJ8_contains 42 = .ok (.aload_n 2, 1) := dk_44 (dk_at dksJ8_contains_1 19 rfl rfl)
theorem dJ8_contains_43 : decode cJ8_contains 43 = .ok (.iload_n 3, 1) := dk_29 (dk_at dksJ8_contains_1 20 rfl rfl)
theorem dJ8_contains_44 : decode cJ8_contains 44 = .ok (.aaload, 1) := dk_50 (dk_at dksJ8_contains_1 21 rfl rfl)
theorem dJ8_contains_45 : decode cJ8_contains 45 = .ok (.invokevirtual 107, 3) := dk_182 0 107 (dk_at dksJ8_contains_2 0 rfl rfl)
theorem dJ8_contains_48 : decode cJ8_contains 48 = .ok (.ifCond .eq 5, 3) := dk_153 0 5 (dk_at dksJ8_contains_2 3 rfl rfl)
theorem dJ8_contains_51 : decode cJ8_contains 51 = .ok (.iconst 1, 1) := dk_4 (dk_at dksJ8_contains_2 6 rfl rfl)
theorem dJ8_contains_52 : decode cJ8_contains 52 = .ok (.ireturn, 1) := dk_172 (dk_at dksJ8_contains_2 7 rfl rfl)
theorem dJ8_contains_53 : decode cJ8_contains 53 = .ok (.iinc 3 1, 3) := dk_132 3 1 (dk_at dksJ8_contains_2 8 rfl rfl)
theorem dJ8_contains_56 : decode cJ8_contains 56 = .ok (.goto (-21), 3) := dk_167 255 235 (dk_at dksJ8_contains_2 11 rfl rfl)
theorem dJ8_contains_59 : decode cJ8_contains 59 = .ok (.iload 5, 2) := dk_21 5 (dk_at dksJ8_contains_2 14 rfl rfl)
theorem dJ8_contains_61 : decode cJ8_contains 61 = .ok (.iload 4, 2) := dk_21 4 (dk_at dksJ8_contains_2 16 rfl rfl)
theorem dJ8_contains_63 : decode cJ8_contains 63 = .ok (.if_icmp .ne 6, 3) := dk_160 0 6 (dk_at dksJ8_contains_2 18 rfl rfl)
theorem dJ8_contains_66 : decode cJ8_contains 66 = .ok (.goto 12, 3) := dk_167 0 12 (dk_at dksJ8_contains_2 21 rfl rfl)
theorem dJ8_contains_69 : decode cJ8_contains 69 = .ok (.iconst 0, 1) := dk_3 (dk_at dksJ8_contains_3 0 rfl rfl)
theorem dJ8_contains_70 : decode cJ8_contains 70 = .ok (.istore_n 3, 1) := dk_62 (dk_at dksJ8_contains_3 1 rfl rfl)
theorem dJ8_contains_71 : decode cJ8_contains 71 = .ok (.iload 4, 2) := dk_21 4 (dk_at dksJ8_contains_3 2 rfl rfl)
theorem dJ8_contains_73 : decode cJ8_contains 73 = .ok (.istore 5, 2) := dk_54 5 (dk_at dksJ8_contains_3 4 rfl rfl)
theorem dJ8_contains_75 : decode cJ8_contains 75 = .ok (.goto (-40), 3) := dk_167 255 216 (dk_at dksJ8_contains_3 6 rfl rfl)
theorem dJ8_contains_78 : decode cJ8_contains 78 = .ok (.iconst 0, 1) := dk_3 (dk_at dksJ8_contains_3 9 rfl rfl)
theorem dJ8_contains_79 : decode cJ8_contains 79 = .ok (.ireturn, 1) := dk_172 (dk_at dksJ8_contains_3 10 rfl rfl)
abbrev cJ8_addLast : ByteArray := prog_50_method_13_code
def yJ8_addLast : MethodName := ⟨RJ8, "addLast", "(Ljava/lang/Object;)V"⟩
def dkwJ8_addLast_2 : List UInt8 := [182, 0, 71, 177]
abbrev dktJ8_addLast_2 : List UInt8 := dkwJ8_addLast_2 ++ []
def dkwJ8_addLast_1 : List UInt8 := [42, 180, 0, 24, 42, 42, 180, 0, 20, 44, 190, 184, 0, 74, 90, 181, 0, 20, 160, 0, 8, 42, 4]
abbrev dktJ8_addLast_1 : List UInt8 := dkwJ8_addLast_1 ++ dktJ8_addLast_2
def dkwJ8_addLast_0 : List UInt8 := [43, 199, 0, 11, 187, 0, 65, 89, 183, 0, 67, 191, 42, 180, 0, 3, 77, 44, 42, 180, 0, 20, 43, 83]
abbrev dktJ8_addLast_0 : List UInt8 := dkwJ8_addLast_0 ++ dktJ8_addLast_1
theorem dksJ8_addLast_0 : cJ8_addLast.data.toList.drop 0 = dktJ8_addLast_0 := by decide +kernel
theorem dksJ8_addLast_1 : cJ8_addLast.data.toList.drop 24 = dktJ8_addLast_1 := dk_seg dksJ8_addLast_0 24 rfl rfl
theorem dksJ8_addLast_2 : cJ8_addLast.data.toList.drop 47 = dktJ8_addLast_2 := dk_seg dksJ8_addLast_1 23 rfl rfl
theorem dJ8_addLast_0 : decode cJ8_addLast 0 = .ok (.aload_n 1, 1) := dk_43 (dk_at dksJ8_addLast_0 0 rfl rfl)
theorem dJ8_addLast_1 : decode cJ8_addLast 1 = .ok (.ifnonnull 11, 3) := dk_199 0 11 (dk_at dksJ8_addLast_0 1 rfl rfl)
theorem dJ8_addLast_4 : decode cJ8_addLast 4 = .ok (.new 65, 3) := dk_187 0 65 (dk_at dksJ8_addLast_0 4 rfl rfl)
theorem dJ8_addLast_7 : decode cJ8_addLast 7 = .ok (.dup, 1) := dk_89 (dk_at dksJ8_addLast_0 7 rfl rfl)
theorem dJ8_addLast_8 : decode cJ8_addLast 8 = .ok (.invokespecial 67, 3) := dk_183 0 67 (dk_at dksJ8_addLast_0 8 rfl rfl)
theorem dJ8_addLast_11 : decode cJ8_addLast 11 = .ok (.athrow, 1) := dk_191 (dk_at dksJ8_addLast_0 11 rfl rfl)
theorem dJ8_addLast_12 : decode cJ8_addLast 12 = .ok (.aload_n 0, 1) := dk_42 (dk_at dksJ8_addLast_0 12 rfl rfl)
theorem dJ8_addLast_13 : decode cJ8_addLast 13 = .ok (.getfield 3, 3) := dk_180 0 3 (dk_at dksJ8_addLast_0 13 rfl rfl)
theorem dJ8_addLast_16 : decode cJ8_addLast 16 = .ok (.astore_n 2, 1) := dk_77 (dk_at dksJ8_addLast_0 16 rfl rfl)
theorem dJ8_addLast_17 : decode cJ8_addLast 17 = .ok (.aload_n 2, 1) := dk_44 (dk_at dksJ8_addLast_0 17 rfl rfl)
theorem dJ8_addLast_18 : decode cJ8_addLast 18 = .ok (.aload_n 0, 1) := dk_42 (dk_at dksJ8_addLast_0 18 rfl rfl)
theorem dJ8_addLast_19 : decode cJ8_addLast 19 = .ok (.getfield 20, 3) := dk_180 0 20 (dk_at dksJ8_addLast_0 19 rfl rfl)
theorem dJ8_addLast_22 : decode cJ8_addLast 22 = .ok (.aload_n 1, 1) := dk_43 (dk_at dksJ8_addLast_0 22 rfl rfl)
theorem dJ8_addLast_23 : decode cJ8_addLast 23 = .ok (.aastore, 1) := dk_83 (dk_at dksJ8_addLast_0 23 rfl rfl)
theorem dJ8_addLast_24 : decode cJ8_addLast 24 = .ok (.aload_n 0, 1) := dk_42 (dk_at dksJ8_addLast_1 0 rfl rfl)
theorem dJ8_addLast_25 : decode cJ8_addLast 25 = .ok (.getfield 24, 3) := dk_180 0 24 (dk_at dksJ8_addLast_1 1 rfl rfl)
theorem dJ8_addLast_28 : decode cJ8_addLast 28 = .ok (.aload_n 0, 1) := dk_42 (dk_at dksJ8_addLast_1 4 rfl rfl)
theorem dJ8_addLast_29 : decode cJ8_addLast 29 = .ok (.aload_n 0, 1) := dk_42 (dk_at dksJ8_addLast_1 5 rfl rfl)
theorem dJ8_addLast_30 : decode cJ8_addLast 30 = .ok (.getfield 20, 3) := dk_180 0 20 (dk_at dksJ8_addLast_1 6 rfl rfl)
theorem dJ8_addLast_33 : decode cJ8_addLast 33 = .ok (.aload_n 2, 1) := dk_44 (dk_at dksJ8_addLast_1 9 rfl rfl)
theorem dJ8_addLast_34 : decode cJ8_addLast 34 = .ok (.arraylength, 1) := dk_190 (dk_at dksJ8_addLast_1 10 rfl rfl)
theorem dJ8_addLast_35 : decode cJ8_addLast 35 = .ok (.invokestatic 74, 3) := dk_184 0 74 (dk_at dksJ8_addLast_1 11 rfl rfl)
theorem dJ8_addLast_38 : decode cJ8_addLast 38 = .ok (.dup_x1, 1) := dk_90 (dk_at dksJ8_addLast_1 14 rfl rfl)
theorem dJ8_addLast_39 : decode cJ8_addLast 39 = .ok (.putfield 20, 3) := dk_181 0 20 (dk_at dksJ8_addLast_1 15 rfl rfl)
theorem dJ8_addLast_42 : decode cJ8_addLast 42 = .ok (.if_icmp .ne 8, 3) := dk_160 0 8 (dk_at dksJ8_addLast_1 18 rfl rfl)
theorem dJ8_addLast_45 : decode cJ8_addLast 45 = .ok (.aload_n 0, 1) := dk_42 (dk_at dksJ8_addLast_1 21 rfl rfl)
theorem dJ8_addLast_46 : decode cJ8_addLast 46 = .ok (.iconst 1, 1) := dk_4 (dk_at dksJ8_addLast_1 22 rfl rfl)
theorem dJ8_addLast_47 : decode cJ8_addLast 47 = .ok (.invokevirtual 71, 3) := dk_182 0 71 (dk_at dksJ8_addLast_2 0 rfl rfl)
theorem dJ8_addLast_50 : decode cJ8_addLast 50 = .ok (.return_, 1) := dk_177 (dk_at dksJ8_addLast_2 3 rfl rfl)
abbrev cJ8_inc : ByteArray := prog_50_method_6_code
def yJ8_inc : MethodName := ⟨RJ8, "inc", "(II)I"⟩
def dkwJ8_inc_0 : List UInt8 := [132, 0, 1, 26, 27, 161, 0, 5, 3, 59, 26, 172]
abbrev dktJ8_inc_0 : List UInt8 := dkwJ8_inc_0 ++ []
theorem dksJ8_inc_0 : cJ8_inc.data.toList.drop 0 = dktJ8_inc_0 := by decide +kernel
theorem dJ8_inc_0 : decode cJ8_inc 0 = .ok (.iinc 0 1, 3) := dk_132 0 1 (dk_at dksJ8_inc_0 0 rfl rfl)
theorem dJ8_inc_3 : decode cJ8_inc 3 = .ok (.iload_n 0, 1) := dk_26 (dk_at dksJ8_inc_0 3 rfl rfl)
theorem dJ8_inc_4 : decode cJ8_inc 4 = .ok (.iload_n 1, 1) := dk_27 (dk_at dksJ8_inc_0 4 rfl rfl)
theorem dJ8_inc_5 : decode cJ8_inc 5 = .ok (.if_icmp .lt 5, 3) := dk_161 0 5 (dk_at dksJ8_inc_0 5 rfl rfl)
theorem dJ8_inc_8 : decode cJ8_inc 8 = .ok (.iconst 0, 1) := dk_3 (dk_at dksJ8_inc_0 8 rfl rfl)
theorem dJ8_inc_9 : decode cJ8_inc 9 = .ok (.istore_n 0, 1) := dk_59 (dk_at dksJ8_inc_0 9 rfl rfl)
theorem dJ8_inc_10 : decode cJ8_inc 10 = .ok (.iload_n 0, 1) := dk_26 (dk_at dksJ8_inc_0 10 rfl rfl)
theorem dJ8_inc_11 : decode cJ8_inc 11 = .ok (.ireturn, 1) := dk_172 (dk_at dksJ8_inc_0 11 rfl rfl)
abbrev cJ8_grow : ByteArray := prog_50_method_1_code
def yJ8_grow : MethodName := ⟨RJ8, "grow", "(I)V"⟩
def dkwJ8_grow_7 : List UInt8 := [177]
abbrev dktJ8_grow_7 : List UInt8 := dkwJ8_grow_7 ++ []
def dkwJ8_grow_6 : List UInt8 := [181, 0, 24, 54, 8, 21, 7, 21, 8, 162, 0, 15, 25, 5, 21, 7, 1, 83, 132, 7, 1, 167, 255, 240]
abbrev dktJ8_grow_6 : List UInt8 := dkwJ8_grow_6 ++ dktJ8_grow_7
def dkwJ8_grow_5 : List UInt8 := [42, 180, 0, 24, 100, 184, 0, 27, 42, 180, 0, 24, 54, 7, 42, 89, 180, 0, 24, 21, 6, 96, 90]
abbrev dktJ8_grow_5 : List UInt8 := dkwJ8_grow_5 ++ dktJ8_grow_6
def dkwJ8_grow_4 : List UInt8 := [198, 0, 71, 29, 28, 100, 54, 6, 25, 5, 42, 180, 0, 24, 25, 5, 42, 180, 0, 24, 21, 6, 96, 28]
abbrev dktJ8_grow_4 : List UInt8 := dkwJ8_grow_4 ++ dktJ8_grow_5
def dkwJ8_grow_3 : List UInt8 := [180, 0, 24, 161, 0, 24, 42, 180, 0, 20, 42, 180, 0, 24, 160, 0, 81, 25, 5, 42, 180, 0, 24, 50]
abbrev dktJ8_grow_3 : List UInt8 := dkwJ8_grow_3 ++ dktJ8_grow_4
def dkwJ8_grow_2 : List UInt8 := [182, 0, 10, 62, 42, 42, 180, 0, 3, 29, 184, 0, 14, 90, 181, 0, 3, 58, 5, 42, 180, 0, 20, 42]
abbrev dktJ8_grow_2 : List UInt8 := dkwJ8_grow_2 ++ dktJ8_grow_3
def dkwJ8_grow_1 : List UInt8 := [21, 4, 27, 161, 0, 15, 28, 21, 4, 96, 89, 62, 18, 9, 100, 158, 0, 11, 42, 27, 21, 4]
abbrev dktJ8_grow_1 : List UInt8 := dkwJ8_grow_1 ++ dktJ8_grow_2
def dkwJ8_grow_0 : List UInt8 := [42, 180, 0, 3, 190, 61, 28, 16, 64, 162, 0, 9, 28, 5, 96, 167, 0, 6, 28, 4, 122, 54, 4]
abbrev dktJ8_grow_0 : List UInt8 := dkwJ8_grow_0 ++ dktJ8_grow_1
theorem dksJ8_grow_0 : cJ8_grow.data.toList.drop 0 = dktJ8_grow_0 := by decide +kernel
theorem dksJ8_grow_1 : cJ8_grow.data.toList.drop 23 = dktJ8_grow_1 := dk_seg dksJ8_grow_0 23 rfl rfl
theorem dksJ8_grow_2 : cJ8_grow.data.toList.drop 45 = dktJ8_grow_2 := dk_seg dksJ8_grow_1 22 rfl rfl
theorem dksJ8_grow_3 : cJ8_grow.data.toList.drop 69 = dktJ8_grow_3 := dk_seg dksJ8_grow_2 24 rfl rfl
theorem dksJ8_grow_4 : cJ8_grow.data.toList.drop 93 = dktJ8_grow_4 := dk_seg dksJ8_grow_3 24 rfl rfl
theorem dksJ8_grow_5 : cJ8_grow.data.toList.drop 117 = dktJ8_grow_5 := dk_seg dksJ8_grow_4 24 rfl rfl
theorem dksJ8_grow_6 : cJ8_grow.data.toList.drop 140 = dktJ8_grow_6 := dk_seg dksJ8_grow_5 23 rfl rfl
theorem dksJ8_grow_7 : cJ8_grow.data.toList.drop 164 = dktJ8_grow_7 := dk_seg dksJ8_grow_6 24 rfl rfl
theorem dJ8_grow_0 : decode cJ8_grow 0 = .ok (.aload_n 0, 1) := dk_42 (dk_at dksJ8_grow_0 0 rfl rfl)
theorem dJ8_grow_1 : decode cJ8_grow 1 = .ok (.getfield 3, 3) := dk_180 0 3 (dk_at dksJ8_grow_0 1 rfl rfl)
theorem dJ8_grow_4 : decode cJ8_grow 4 = .ok (.arraylength, 1) := dk_190 (dk_at dksJ8_grow_0 4 rfl rfl)
theorem dJ8_grow_5 : decode cJ8_grow 5 = .ok (.istore_n 2, 1) := dk_61 (dk_at dksJ8_grow_0 5 rfl rfl)
theorem dJ8_grow_6 : decode cJ8_grow 6 = .ok (.iload_n 2, 1) := dk_28 (dk_at dksJ8_grow_0 6 rfl rfl)
theorem dJ8_grow_7 : decode cJ8_grow 7 = .ok (.bipush 64, 2) := dk_16 64 (dk_at dksJ8_grow_0 7 rfl rfl)
theorem dJ8_grow_9 : decode cJ8_grow 9 = .ok (.if_icmp .ge 9, 3) := dk_162 0 9 (dk_at dksJ8_grow_0 9 rfl rfl)
theorem dJ8_grow_12 : decode cJ8_grow 12 = .ok (.iload_n 2, 1) := dk_28 (dk_at dksJ8_grow_0 12 rfl rfl)
theorem dJ8_grow_13 : decode cJ8_grow 13 = .ok (.iconst 2, 1) := dk_5 (dk_at dksJ8_grow_0 13 rfl rfl)
theorem dJ8_grow_14 : decode cJ8_grow 14 = .ok (.iadd, 1) := dk_96 (dk_at dksJ8_grow_0 14 rfl rfl)
theorem dJ8_grow_15 : decode cJ8_grow 15 = .ok (.goto 6, 3) := dk_167 0 6 (dk_at dksJ8_grow_0 15 rfl rfl)
theorem dJ8_grow_18 : decode cJ8_grow 18 = .ok (.iload_n 2, 1) := dk_28 (dk_at dksJ8_grow_0 18 rfl rfl)
theorem dJ8_grow_19 : decode cJ8_grow 19 = .ok (.iconst 1, 1) := dk_4 (dk_at dksJ8_grow_0 19 rfl rfl)
theorem dJ8_grow_20 : decode cJ8_grow 20 = .ok (.ishr, 1) := dk_122 (dk_at dksJ8_grow_0 20 rfl rfl)
theorem dJ8_grow_21 : decode cJ8_grow 21 = .ok (.istore 4, 2) := dk_54 4 (dk_at dksJ8_grow_0 21 rfl rfl)
theorem dJ8_grow_23 : decode cJ8_grow 23 = .ok (.iload 4, 2) := dk_21 4 (dk_at dksJ8_grow_1 0 rfl rfl)
theorem dJ8_grow_25 : decode cJ8_grow 25 = .ok (.iload_n 1, 1) := dk_27 (dk_at dksJ8_grow_1 2 rfl rfl)
theorem dJ8_grow_26 : decode cJ8_grow 26 = .ok (.if_icmp .lt 15, 3) := dk_161 0 15 (dk_at dksJ8_grow_1 3 rfl rfl)
theorem dJ8_grow_29 : decode cJ8_grow 29 = .ok (.iload_n 2, 1) := dk_28 (dk_at dksJ8_grow_1 6 rfl rfl)
theorem dJ8_grow_30 : decode cJ8_grow 30 = .ok (.iload 4, 2) := dk_21 4 (dk_at dksJ8_grow_1 7 rfl rfl)
theorem dJ8_grow_32 : decode cJ8_grow 32 = .ok (.iadd, 1) := dk_96 (dk_at dksJ8_grow_1 9 rfl rfl)
theorem dJ8_grow_33 : decode cJ8_grow 33 = .ok (.dup, 1) := dk_89 (dk_at dksJ8_grow_1 10 rfl rfl)
theorem dJ8_grow_34 : decode cJ8_grow 34 = .ok (.istore_n 3, 1) := dk_62 (dk_at dksJ8_grow_1 11 rfl rfl)
theorem dJ8_grow_35 : decode cJ8_grow 35 = .ok (.ldc 9, 2) := dk_18 9 (dk_at dksJ8_grow_1 12 rfl rfl)
theorem dJ8_grow_37 : decode cJ8_grow 37 = .ok (.isub, 1) := dk_100 (dk_at dksJ8_grow_1 14 rfl rfl)
theorem dJ8_grow_38 : decode cJ8_grow 38 = .ok (.ifCond .le 11, 3) := dk_158 0 11 (dk_at dksJ8_grow_1 15 rfl rfl)
theorem dJ8_grow_41 : decode cJ8_grow 41 = .ok (.aload_n 0, 1) := dk_42 (dk_at dksJ8_grow_1 18 rfl rfl)
theorem dJ8_grow_42 : decode cJ8_grow 42 = .ok (.iload_n 1, 1) := dk_27 (dk_at dksJ8_grow_1 19 rfl rfl)
theorem dJ8_grow_43 : decode cJ8_grow 43 = .ok (.iload 4, 2) := dk_21 4 (dk_at dksJ8_grow_1 20 rfl rfl)
theorem dJ8_grow_45 : decode cJ8_grow 45 = .ok (.invokevirtual 10, 3) := dk_182 0 10 (dk_at dksJ8_grow_2 0 rfl rfl)
theorem dJ8_grow_48 : decode cJ8_grow 48 = .ok (.istore_n 3, 1) := dk_62 (dk_at dksJ8_grow_2 3 rfl rfl)
theorem dJ8_grow_49 : decode cJ8_grow 49 = .ok (.aload_n 0, 1) := dk_42 (dk_at dksJ8_grow_2 4 rfl rfl)
theorem dJ8_grow_50 : decode cJ8_grow 50 = .ok (.aload_n 0, 1) := dk_42 (dk_at dksJ8_grow_2 5 rfl rfl)
theorem dJ8_grow_51 : decode cJ8_grow 51 = .ok (.getfield 3, 3) := dk_180 0 3 (dk_at dksJ8_grow_2 6 rfl rfl)
theorem dJ8_grow_54 : decode cJ8_grow 54 = .ok (.iload_n 3, 1) := dk_29 (dk_at dksJ8_grow_2 9 rfl rfl)
theorem dJ8_grow_55 : decode cJ8_grow 55 = .ok (.invokestatic 14, 3) := dk_184 0 14 (dk_at dksJ8_grow_2 10 rfl rfl)
theorem dJ8_grow_58 : decode cJ8_grow 58 = .ok (.dup_x1, 1) := dk_90 (dk_at dksJ8_grow_2 13 rfl rfl)
theorem dJ8_grow_59 : decode cJ8_grow 59 = .ok (.putfield 3, 3) := dk_181 0 3 (dk_at dksJ8_grow_2 14 rfl rfl)
theorem dJ8_grow_62 : decode cJ8_grow 62 = .ok (.astore 5, 2) := dk_58 5 (dk_at dksJ8_grow_2 17 rfl rfl)
theorem dJ8_grow_64 : decode cJ8_grow 64 = .ok (.aload_n 0, 1) := dk_42 (dk_at dksJ8_grow_2 19 rfl rfl)
theorem dJ8_grow_65 : decode cJ8_grow 65 = .ok (.getfield 20, 3) := dk_180 0 20 (dk_at dksJ8_grow_2 20 rfl rfl)
theorem dJ8_grow_68 : decode cJ8_grow 68 = .ok (.aload_n 0, 1) := dk_42 (dk_at dksJ8_grow_2 23 rfl rfl)
theorem dJ8_grow_69 : decode cJ8_grow 69 = .ok (.getfield 24, 3) := dk_180 0 24 (dk_at dksJ8_grow_3 0 rfl rfl)
theorem dJ8_grow_72 : decode cJ8_grow 72 = .ok (.if_icmp .lt 24, 3) := dk_161 0 24 (dk_at dksJ8_grow_3 3 rfl rfl)
theorem dJ8_grow_75 : decode cJ8_grow 75 = .ok (.aload_n 0, 1) := dk_42 (dk_at dksJ8_grow_3 6 rfl rfl)
theorem dJ8_grow_76 : decode cJ8_grow 76 = .ok (.getfield 20, 3) := dk_180 0 20 (dk_at dksJ8_grow_3 7 rfl rfl)
theorem dJ8_grow_79 : decode cJ8_grow 79 = .ok (.aload_n 0, 1) := dk_42 (dk_at dksJ8_grow_3 10 rfl rfl)
theorem dJ8_grow_80 : decode cJ8_grow 80 = .ok (.getfield 24, 3) := dk_180 0 24 (dk_at dksJ8_grow_3 11 rfl rfl)
theorem dJ8_grow_83 : decode cJ8_grow 83 = .ok (.if_icmp .ne 81, 3) := dk_160 0 81 (dk_at dksJ8_grow_3 14 rfl rfl)
theorem dJ8_grow_86 : decode cJ8_grow 86 = .ok (.aload 5, 2) := dk_25 5 (dk_at dksJ8_grow_3 17 rfl rfl)
theorem dJ8_grow_88 : decode cJ8_grow 88 = .ok (.aload_n 0, 1) := dk_42 (dk_at dksJ8_grow_3 19 rfl rfl)
theorem dJ8_grow_89 : decode cJ8_grow 89 = .ok (.getfield 24, 3) := dk_180 0 24 (dk_at dksJ8_grow_3 20 rfl rfl)
theorem dJ8_grow_92 : decode cJ8_grow 92 = .ok (.aaload, 1) := dk_50 (dk_at dksJ8_grow_3 23 rfl rfl)
theorem dJ8_grow_93 : decode cJ8_grow 93 = .ok (.ifnull 71, 3) := dk_198 0 71 (dk_at dksJ8_grow_4 0 rfl rfl)
theorem dJ8_grow_96 : decode cJ8_grow 96 = .ok (.iload_n 3, 1) := dk_29 (dk_at dksJ8_grow_4 3 rfl rfl)
theorem dJ8_grow_97 : decode cJ8_grow 97 = .ok (.iload_n 2, 1) := dk_28 (dk_at dksJ8_grow_4 4 rfl rfl)
theorem dJ8_grow_98 : decode cJ8_grow 98 = .ok (.isub, 1) := dk_100 (dk_at dksJ8_grow_4 5 rfl rfl)
theorem dJ8_grow_99 : decode cJ8_grow 99 = .ok (.istore 6, 2) := dk_54 6 (dk_at dksJ8_grow_4 6 rfl rfl)
theorem dJ8_grow_101 : decode cJ8_grow 101 = .ok (.aload 5, 2) := dk_25 5 (dk_at dksJ8_grow_4 8 rfl rfl)
theorem dJ8_grow_103 : decode cJ8_grow 103 = .ok (.aload_n 0, 1) := dk_42 (dk_at dksJ8_grow_4 10 rfl rfl)
theorem dJ8_grow_104 : decode cJ8_grow 104 = .ok (.getfield 24, 3) := dk_180 0 24 (dk_at dksJ8_grow_4 11 rfl rfl)
theorem dJ8_grow_107 : decode cJ8_grow 107 = .ok (.aload 5, 2) := dk_25 5 (dk_at dksJ8_grow_4 14 rfl rfl)
theorem dJ8_grow_109 : decode cJ8_grow 109 = .ok (.aload_n 0, 1) := dk_42 (dk_at dksJ8_grow_4 16 rfl rfl)
theorem dJ8_grow_110 : decode cJ8_grow 110 = .ok (.getfield 24, 3) := dk_180 0 24 (dk_at dksJ8_grow_4 17 rfl rfl)
theorem dJ8_grow_113 : decode cJ8_grow 113 = .ok (.iload 6, 2) := dk_21 6 (dk_at dksJ8_grow_4 20 rfl rfl)
theorem dJ8_grow_115 : decode cJ8_grow 115 = .ok (.iadd, 1) := dk_96 (dk_at dksJ8_grow_4 22 rfl rfl)
theorem dJ8_grow_116 : decode cJ8_grow 116 = .ok (.iload_n 2, 1) := dk_28 (dk_at dksJ8_grow_4 23 rfl rfl)
theorem dJ8_grow_117 : decode cJ8_grow 117 = .ok (.aload_n 0, 1) := dk_42 (dk_at dksJ8_grow_5 0 rfl rfl)
theorem dJ8_grow_118 : decode cJ8_grow 118 = .ok (.getfield 24, 3) := dk_180 0 24 (dk_at dksJ8_grow_5 1 rfl rfl)
theorem dJ8_grow_121 : decode cJ8_grow 121 = .ok (.isub, 1) := dk_100 (dk_at dksJ8_grow_5 4 rfl rfl)
theorem dJ8_grow_122 : decode cJ8_grow 122 = .ok (.invokestatic 27, 3) := dk_184 0 27 (dk_at dksJ8_grow_5 5 rfl rfl)
theorem dJ8_grow_125 : decode cJ8_grow 125 = .ok (.aload_n 0, 1) := dk_42 (dk_at dksJ8_grow_5 8 rfl rfl)
theorem dJ8_grow_126 : decode cJ8_grow 126 = .ok (.getfield 24, 3) := dk_180 0 24 (dk_at dksJ8_grow_5 9 rfl rfl)
theorem dJ8_grow_129 : decode cJ8_grow 129 = .ok (.istore 7, 2) := dk_54 7 (dk_at dksJ8_grow_5 12 rfl rfl)
theorem dJ8_grow_131 : decode cJ8_grow 131 = .ok (.aload_n 0, 1) := dk_42 (dk_at dksJ8_grow_5 14 rfl rfl)
theorem dJ8_grow_132 : decode cJ8_grow 132 = .ok (.dup, 1) := dk_89 (dk_at dksJ8_grow_5 15 rfl rfl)
theorem dJ8_grow_133 : decode cJ8_grow 133 = .ok (.getfield 24, 3) := dk_180 0 24 (dk_at dksJ8_grow_5 16 rfl rfl)
theorem dJ8_grow_136 : decode cJ8_grow 136 = .ok (.iload 6, 2) := dk_21 6 (dk_at dksJ8_grow_5 19 rfl rfl)
theorem dJ8_grow_138 : decode cJ8_grow 138 = .ok (.iadd, 1) := dk_96 (dk_at dksJ8_grow_5 21 rfl rfl)
theorem dJ8_grow_139 : decode cJ8_grow 139 = .ok (.dup_x1, 1) := dk_90 (dk_at dksJ8_grow_5 22 rfl rfl)
theorem dJ8_grow_140 : decode cJ8_grow 140 = .ok (.putfield 24, 3) := dk_181 0 24 (dk_at dksJ8_grow_6 0 rfl rfl)
theorem dJ8_grow_143 : decode cJ8_grow 143 = .ok (.istore 8, 2) := dk_54 8 (dk_at dksJ8_grow_6 3 rfl rfl)
theorem dJ8_grow_145 : decode cJ8_grow 145 = .ok (.iload 7, 2) := dk_21 7 (dk_at dksJ8_grow_6 5 rfl rfl)
theorem dJ8_grow_147 : decode cJ8_grow 147 = .ok (.iload 8, 2) := dk_21 8 (dk_at dksJ8_grow_6 7 rfl rfl)
theorem dJ8_grow_149 : decode cJ8_grow 149 = .ok (.if_icmp .ge 15, 3) := dk_162 0 15 (dk_at dksJ8_grow_6 9 rfl rfl)
theorem dJ8_grow_152 : decode cJ8_grow 152 = .ok (.aload 5, 2) := dk_25 5 (dk_at dksJ8_grow_6 12 rfl rfl)
theorem dJ8_grow_154 : decode cJ8_grow 154 = .ok (.iload 7, 2) := dk_21 7 (dk_at dksJ8_grow_6 14 rfl rfl)
theorem dJ8_grow_156 : decode cJ8_grow 156 = .ok (.aconst_null, 1) := dk_1 (dk_at dksJ8_grow_6 16 rfl rfl)
theorem dJ8_grow_157 : decode cJ8_grow 157 = .ok (.aastore, 1) := dk_83 (dk_at dksJ8_grow_6 17 rfl rfl)
theorem dJ8_grow_158 : decode cJ8_grow 158 = .ok (.iinc 7 1, 3) := dk_132 7 1 (dk_at dksJ8_grow_6 18 rfl rfl)
theorem dJ8_grow_161 : decode cJ8_grow 161 = .ok (.goto (-16), 3) := dk_167 255 240 (dk_at dksJ8_grow_6 21 rfl rfl)
theorem dJ8_grow_164 : decode cJ8_grow 164 = .ok (.return_, 1) := dk_177 (dk_at dksJ8_grow_7 0 rfl rfl)
abbrev cJ8_newCapacity : ByteArray := prog_50_method_2_code
def yJ8_newCapacity : MethodName := ⟨RJ8, "newCapacity", "(II)I"⟩
def dkwJ8_newCapacity_2 : List UInt8 := [18, 9, 100, 156, 0, 9, 29, 28, 96, 167, 0, 5, 18, 9, 172]
abbrev dktJ8_newCapacity_2 : List UInt8 := dkwJ8_newCapacity_2 ++ []
def dkwJ8_newCapacity_1 : List UInt8 := [187, 0, 33, 89, 18, 35, 183, 0, 37, 191, 18, 41, 172, 27, 28, 164, 0, 6, 21, 4, 172, 29, 28, 96]
abbrev dktJ8_newCapacity_1 : List UInt8 := dkwJ8_newCapacity_1 ++ dktJ8_newCapacity_2
def dkwJ8_newCapacity_0 : List UInt8 := [42, 180, 0, 3, 190, 62, 29, 27, 96, 89, 54, 4, 18, 9, 100, 158, 0, 21, 21, 4, 156, 0, 13]
abbrev dktJ8_newCapacity_0 : List UInt8 := dkwJ8_newCapacity_0 ++ dktJ8_newCapacity_1
theorem dksJ8_newCapacity_0 : cJ8_newCapacity.data.toList.drop 0 = dktJ8_newCapacity_0 := by decide +kernel
theorem dksJ8_newCapacity_1 : cJ8_newCapacity.data.toList.drop 23 = dktJ8_newCapacity_1 := dk_seg dksJ8_newCapacity_0 23 rfl rfl
theorem dksJ8_newCapacity_2 : cJ8_newCapacity.data.toList.drop 47 = dktJ8_newCapacity_2 := dk_seg dksJ8_newCapacity_1 24 rfl rfl
theorem dJ8_newCapacity_0 : decode cJ8_newCapacity 0 = .ok (.aload_n 0, 1) := dk_42 (dk_at dksJ8_newCapacity_0 0 rfl rfl)
theorem dJ8_newCapacity_1 : decode cJ8_newCapacity 1 = .ok (.getfield 3, 3) := dk_180 0 3 (dk_at dksJ8_newCapacity_0 1 rfl rfl)
theorem dJ8_newCapacity_4 : decode cJ8_newCapacity 4 = .ok (.arraylength, 1) := dk_190 (dk_at dksJ8_newCapacity_0 4 rfl rfl)
theorem dJ8_newCapacity_5 : decode cJ8_newCapacity 5 = .ok (.istore_n 3, 1) := dk_62 (dk_at dksJ8_newCapacity_0 5 rfl rfl)
theorem dJ8_newCapacity_6 : decode cJ8_newCapacity 6 = .ok (.iload_n 3, 1) := dk_29 (dk_at dksJ8_newCapacity_0 6 rfl rfl)
theorem dJ8_newCapacity_7 : decode cJ8_newCapacity 7 = .ok (.iload_n 1, 1) := dk_27 (dk_at dksJ8_newCapacity_0 7 rfl rfl)
theorem dJ8_newCapacity_8 : decode cJ8_newCapacity 8 = .ok (.iadd, 1) := dk_96 (dk_at dksJ8_newCapacity_0 8 rfl rfl)
theorem dJ8_newCapacity_9 : decode cJ8_newCapacity 9 = .ok (.dup, 1) := dk_89 (dk_at dksJ8_newCapacity_0 9 rfl rfl)
theorem dJ8_newCapacity_10 : decode cJ8_newCapacity 10 = .ok (.istore 4, 2) := dk_54 4 (dk_at dksJ8_newCapacity_0 10 rfl rfl)
theorem dJ8_newCapacity_12 : decode cJ8_newCapacity 12 = .ok (.ldc 9, 2) := dk_18 9 (dk_at dksJ8_newCapacity_0 12 rfl rfl)
theorem dJ8_newCapacity_14 : decode cJ8_newCapacity 14 = .ok (.isub, 1) := dk_100 (dk_at dksJ8_newCapacity_0 14 rfl rfl)
theorem dJ8_newCapacity_15 : decode cJ8_newCapacity 15 = .ok (.ifCond .le 21, 3) := dk_158 0 21 (dk_at dksJ8_newCapacity_0 15 rfl rfl)
theorem dJ8_newCapacity_18 : decode cJ8_newCapacity 18 = .ok (.iload 4, 2) := dk_21 4 (dk_at dksJ8_newCapacity_0 18 rfl rfl)
theorem dJ8_newCapacity_20 : decode cJ8_newCapacity 20 = .ok (.ifCond .ge 13, 3) := dk_156 0 13 (dk_at dksJ8_newCapacity_0 20 rfl rfl)
theorem dJ8_newCapacity_23 : decode cJ8_newCapacity 23 = .ok (.new 33, 3) := dk_187 0 33 (dk_at dksJ8_newCapacity_1 0 rfl rfl)
theorem dJ8_newCapacity_26 : decode cJ8_newCapacity 26 = .ok (.dup, 1) := dk_89 (dk_at dksJ8_newCapacity_1 3 rfl rfl)
theorem dJ8_newCapacity_27 : decode cJ8_newCapacity 27 = .ok (.ldc 35, 2) := dk_18 35 (dk_at dksJ8_newCapacity_1 4 rfl rfl)
theorem dJ8_newCapacity_29 : decode cJ8_newCapacity 29 = .ok (.invokespecial 37, 3) := dk_183 0 37 (dk_at dksJ8_newCapacity_1 6 rfl rfl)
theorem dJ8_newCapacity_32 : decode cJ8_newCapacity 32 = .ok (.athrow, 1) := dk_191 (dk_at dksJ8_newCapacity_1 9 rfl rfl)
theorem dJ8_newCapacity_33 : decode cJ8_newCapacity 33 = .ok (.ldc 41, 2) := dk_18 41 (dk_at dksJ8_newCapacity_1 10 rfl rfl)
theorem dJ8_newCapacity_35 : decode cJ8_newCapacity 35 = .ok (.ireturn, 1) := dk_172 (dk_at dksJ8_newCapacity_1 12 rfl rfl)
theorem dJ8_newCapacity_36 : decode cJ8_newCapacity 36 = .ok (.iload_n 1, 1) := dk_27 (dk_at dksJ8_newCapacity_1 13 rfl rfl)
theorem dJ8_newCapacity_37 : decode cJ8_newCapacity 37 = .ok (.iload_n 2, 1) := dk_28 (dk_at dksJ8_newCapacity_1 14 rfl rfl)
theorem dJ8_newCapacity_38 : decode cJ8_newCapacity 38 = .ok (.if_icmp .le 6, 3) := dk_164 0 6 (dk_at dksJ8_newCapacity_1 15 rfl rfl)
theorem dJ8_newCapacity_41 : decode cJ8_newCapacity 41 = .ok (.iload 4, 2) := dk_21 4 (dk_at dksJ8_newCapacity_1 18 rfl rfl)
theorem dJ8_newCapacity_43 : decode cJ8_newCapacity 43 = .ok (.ireturn, 1) := dk_172 (dk_at dksJ8_newCapacity_1 20 rfl rfl)
theorem dJ8_newCapacity_44 : decode cJ8_newCapacity 44 = .ok (.iload_n 3, 1) := dk_29 (dk_at dksJ8_newCapacity_1 21 rfl rfl)
theorem dJ8_newCapacity_45 : decode cJ8_newCapacity 45 = .ok (.iload_n 2, 1) := dk_28 (dk_at dksJ8_newCapacity_1 22 rfl rfl)
theorem dJ8_newCapacity_46 : decode cJ8_newCapacity 46 = .ok (.iadd, 1) := dk_96 (dk_at dksJ8_newCapacity_1 23 rfl rfl)
theorem dJ8_newCapacity_47 : decode cJ8_newCapacity 47 = .ok (.ldc 9, 2) := dk_18 9 (dk_at dksJ8_newCapacity_2 0 rfl rfl)
theorem dJ8_newCapacity_49 : decode cJ8_newCapacity 49 = .ok (.isub, 1) := dk_100 (dk_at dksJ8_newCapacity_2 2 rfl rfl)
theorem dJ8_newCapacity_50 : decode cJ8_newCapacity 50 = .ok (.ifCond .ge 9, 3) := dk_156 0 9 (dk_at dksJ8_newCapacity_2 3 rfl rfl)
theorem dJ8_newCapacity_53 : decode cJ8_newCapacity 53 = .ok (.iload_n 3, 1) := dk_29 (dk_at dksJ8_newCapacity_2 6 rfl rfl)
theorem dJ8_newCapacity_54 : decode cJ8_newCapacity 54 = .ok (.iload_n 2, 1) := dk_28 (dk_at dksJ8_newCapacity_2 7 rfl rfl)
theorem dJ8_newCapacity_55 : decode cJ8_newCapacity 55 = .ok (.iadd, 1) := dk_96 (dk_at dksJ8_newCapacity_2 8 rfl rfl)
theorem dJ8_newCapacity_56 : decode cJ8_newCapacity 56 = .ok (.goto 5, 3) := dk_167 0 5 (dk_at dksJ8_newCapacity_2 9 rfl rfl)
theorem dJ8_newCapacity_59 : decode cJ8_newCapacity 59 = .ok (.ldc 9, 2) := dk_18 9 (dk_at dksJ8_newCapacity_2 12 rfl rfl)
theorem dJ8_newCapacity_61 : decode cJ8_newCapacity 61 = .ok (.ireturn, 1) := dk_172 (dk_at dksJ8_newCapacity_2 14 rfl rfl)
abbrev cJ8_isEmpty : ByteArray := prog_50_method_38_code
def yJ8_isEmpty : MethodName := ⟨RJ8, "isEmpty", "()Z"⟩
def dkwJ8_isEmpty_0 : List UInt8 := [42, 180, 0, 24, 42, 180, 0, 20, 160, 0, 7, 4, 167, 0, 4, 3, 172]
abbrev dktJ8_isEmpty_0 : List UInt8 := dkwJ8_isEmpty_0 ++ []
theorem dksJ8_isEmpty_0 : cJ8_isEmpty.data.toList.drop 0 = dktJ8_isEmpty_0 := by decide +kernel
theorem dJ8_isEmpty_0 : decode cJ8_isEmpty 0 = .ok (.aload_n 0, 1) := dk_42 (dk_at dksJ8_isEmpty_0 0 rfl rfl)
theorem dJ8_isEmpty_1 : decode cJ8_isEmpty 1 = .ok (.getfield 24, 3) := dk_180 0 24 (dk_at dksJ8_isEmpty_0 1 rfl rfl)
theorem dJ8_isEmpty_4 : decode cJ8_isEmpty 4 = .ok (.aload_n 0, 1) := dk_42 (dk_at dksJ8_isEmpty_0 4 rfl rfl)
theorem dJ8_isEmpty_5 : decode cJ8_isEmpty 5 = .ok (.getfield 20, 3) := dk_180 0 20 (dk_at dksJ8_isEmpty_0 5 rfl rfl)
theorem dJ8_isEmpty_8 : decode cJ8_isEmpty 8 = .ok (.if_icmp .ne 7, 3) := dk_160 0 7 (dk_at dksJ8_isEmpty_0 8 rfl rfl)
theorem dJ8_isEmpty_11 : decode cJ8_isEmpty 11 = .ok (.iconst 1, 1) := dk_4 (dk_at dksJ8_isEmpty_0 11 rfl rfl)
theorem dJ8_isEmpty_12 : decode cJ8_isEmpty 12 = .ok (.goto 4, 3) := dk_167 0 4 (dk_at dksJ8_isEmpty_0 12 rfl rfl)
theorem dJ8_isEmpty_15 : decode cJ8_isEmpty 15 = .ok (.iconst 0, 1) := dk_3 (dk_at dksJ8_isEmpty_0 15 rfl rfl)
theorem dJ8_isEmpty_16 : decode cJ8_isEmpty 16 = .ok (.ireturn, 1) := dk_172 (dk_at dksJ8_isEmpty_0 16 rfl rfl)
abbrev cJ8_removeFirst : ByteArray := prog_50_method_18_code
def yJ8_removeFirst : MethodName := ⟨RJ8, "removeFirst", "()Ljava/lang/Object;"⟩
def dkwJ8_removeFirst_0 : List UInt8 := [42, 182, 0, 93, 76, 43, 199, 0, 11, 187, 0, 97, 89, 183, 0, 99, 191, 43, 176]
abbrev dktJ8_removeFirst_0 : List UInt8 := dkwJ8_removeFirst_0 ++ []
theorem dksJ8_removeFirst_0 : cJ8_removeFirst.data.toList.drop 0 = dktJ8_removeFirst_0 := by decide +kernel
theorem dJ8_removeFirst_0 : decode cJ8_removeFirst 0 = .ok (.aload_n 0, 1) := dk_42 (dk_at dksJ8_removeFirst_0 0 rfl rfl)
theorem dJ8_removeFirst_1 : decode cJ8_removeFirst 1 = .ok (.invokevirtual 93, 3) := dk_182 0 93 (dk_at dksJ8_removeFirst_0 1 rfl rfl)
theorem dJ8_removeFirst_4 : decode cJ8_removeFirst 4 = .ok (.astore_n 1, 1) := dk_76 (dk_at dksJ8_removeFirst_0 4 rfl rfl)
theorem dJ8_removeFirst_5 : decode cJ8_removeFirst 5 = .ok (.aload_n 1, 1) := dk_43 (dk_at dksJ8_removeFirst_0 5 rfl rfl)
theorem dJ8_removeFirst_6 : decode cJ8_removeFirst 6 = .ok (.ifnonnull 11, 3) := dk_199 0 11 (dk_at dksJ8_removeFirst_0 6 rfl rfl)
theorem dJ8_removeFirst_9 : decode cJ8_removeFirst 9 = .ok (.new 97, 3) := dk_187 0 97 (dk_at dksJ8_removeFirst_0 9 rfl rfl)
theorem dJ8_removeFirst_12 : decode cJ8_removeFirst 12 = .ok (.dup, 1) := dk_89 (dk_at dksJ8_removeFirst_0 12 rfl rfl)
theorem dJ8_removeFirst_13 : decode cJ8_removeFirst 13 = .ok (.invokespecial 99, 3) := dk_183 0 99 (dk_at dksJ8_removeFirst_0 13 rfl rfl)
theorem dJ8_removeFirst_16 : decode cJ8_removeFirst 16 = .ok (.athrow, 1) := dk_191 (dk_at dksJ8_removeFirst_0 16 rfl rfl)
theorem dJ8_removeFirst_17 : decode cJ8_removeFirst 17 = .ok (.aload_n 1, 1) := dk_43 (dk_at dksJ8_removeFirst_0 17 rfl rfl)
theorem dJ8_removeFirst_18 : decode cJ8_removeFirst 18 = .ok (.areturn, 1) := dk_176 (dk_at dksJ8_removeFirst_0 18 rfl rfl)
abbrev cJ8_pollFirst : ByteArray := prog_50_method_20_code
def yJ8_pollFirst : MethodName := ⟨RJ8, "pollFirst", "()Ljava/lang/Object;"⟩
def dkwJ8_pollFirst_1 : List UInt8 := [42, 28, 43, 190, 184, 0, 74, 181, 0, 24, 45, 176]
abbrev dktJ8_pollFirst_1 : List UInt8 := dkwJ8_pollFirst_1 ++ []
def dkwJ8_pollFirst_0 : List UInt8 := [42, 180, 0, 3, 89, 76, 42, 180, 0, 24, 89, 61, 184, 0, 103, 78, 45, 198, 0, 17, 43, 28, 1, 83]
abbrev dktJ8_pollFirst_0 : List UInt8 := dkwJ8_pollFirst_0 ++ dktJ8_pollFirst_1
theorem dksJ8_pollFirst_0 : cJ8_pollFirst.data.toList.drop 0 = dktJ8_pollFirst_0 := by decide +kernel
theorem dksJ8_pollFirst_1 : cJ8_pollFirst.data.toList.drop 24 = dktJ8_pollFirst_1 := dk_seg dksJ8_pollFirst_0 24 rfl rfl
theorem dJ8_pollFirst_0 : decode cJ8_pollFirst 0 = .ok (.aload_n 0, 1) := dk_42 (dk_at dksJ8_pollFirst_0 0 rfl rfl)
theorem dJ8_pollFirst_1 : decode cJ8_pollFirst 1 = .ok (.getfield 3, 3) := dk_180 0 3 (dk_at dksJ8_pollFirst_0 1 rfl rfl)
theorem dJ8_pollFirst_4 : decode cJ8_pollFirst 4 = .ok (.dup, 1) := dk_89 (dk_at dksJ8_pollFirst_0 4 rfl rfl)
theorem dJ8_pollFirst_5 : decode cJ8_pollFirst 5 = .ok (.astore_n 1, 1) := dk_76 (dk_at dksJ8_pollFirst_0 5 rfl rfl)
theorem dJ8_pollFirst_6 : decode cJ8_pollFirst 6 = .ok (.aload_n 0, 1) := dk_42 (dk_at dksJ8_pollFirst_0 6 rfl rfl)
theorem dJ8_pollFirst_7 : decode cJ8_pollFirst 7 = .ok (.getfield 24, 3) := dk_180 0 24 (dk_at dksJ8_pollFirst_0 7 rfl rfl)
theorem dJ8_pollFirst_10 : decode cJ8_pollFirst 10 = .ok (.dup, 1) := dk_89 (dk_at dksJ8_pollFirst_0 10 rfl rfl)
theorem dJ8_pollFirst_11 : decode cJ8_pollFirst 11 = .ok (.istore_n 2, 1) := dk_61 (dk_at dksJ8_pollFirst_0 11 rfl rfl)
theorem dJ8_pollFirst_12 : decode cJ8_pollFirst 12 = .ok (.invokestatic 103, 3) := dk_184 0 103 (dk_at dksJ8_pollFirst_0 12 rfl rfl)
theorem dJ8_pollFirst_15 : decode cJ8_pollFirst 15 = .ok (.astore_n 3, 1) := dk_78 (dk_at dksJ8_pollFirst_0 15 rfl rfl)
theorem dJ8_pollFirst_16 : decode cJ8_pollFirst 16 = .ok (.aload_n 3, 1) := dk_45 (dk_at dksJ8_pollFirst_0 16 rfl rfl)
theorem dJ8_pollFirst_17 : decode cJ8_pollFirst 17 = .ok (.ifnull 17, 3) := dk_198 0 17 (dk_at dksJ8_pollFirst_0 17 rfl rfl)
theorem dJ8_pollFirst_20 : decode cJ8_pollFirst 20 = .ok (.aload_n 1, 1) := dk_43 (dk_at dksJ8_pollFirst_0 20 rfl rfl)
theorem dJ8_pollFirst_21 : decode cJ8_pollFirst 21 = .ok (.iload_n 2, 1) := dk_28 (dk_at dksJ8_pollFirst_0 21 rfl rfl)
theorem dJ8_pollFirst_22 : decode cJ8_pollFirst 22 = .ok (.aconst_null, 1) := dk_1 (dk_at dksJ8_pollFirst_0 22 rfl rfl)
theorem dJ8_pollFirst_23 : decode cJ8_pollFirst 23 = .ok (.aastore, 1) := dk_83 (dk_at dksJ8_pollFirst_0 23 rfl rfl)
theorem dJ8_pollFirst_24 : decode cJ8_pollFirst 24 = .ok (.aload_n 0, 1) := dk_42 (dk_at dksJ8_pollFirst_1 0 rfl rfl)
theorem dJ8_pollFirst_25 : decode cJ8_pollFirst 25 = .ok (.iload_n 2, 1) := dk_28 (dk_at dksJ8_pollFirst_1 1 rfl rfl)
theorem dJ8_pollFirst_26 : decode cJ8_pollFirst 26 = .ok (.aload_n 1, 1) := dk_43 (dk_at dksJ8_pollFirst_1 2 rfl rfl)
theorem dJ8_pollFirst_27 : decode cJ8_pollFirst 27 = .ok (.arraylength, 1) := dk_190 (dk_at dksJ8_pollFirst_1 3 rfl rfl)
theorem dJ8_pollFirst_28 : decode cJ8_pollFirst 28 = .ok (.invokestatic 74, 3) := dk_184 0 74 (dk_at dksJ8_pollFirst_1 4 rfl rfl)
theorem dJ8_pollFirst_31 : decode cJ8_pollFirst 31 = .ok (.putfield 24, 3) := dk_181 0 24 (dk_at dksJ8_pollFirst_1 7 rfl rfl)
theorem dJ8_pollFirst_34 : decode cJ8_pollFirst 34 = .ok (.aload_n 3, 1) := dk_45 (dk_at dksJ8_pollFirst_1 10 rfl rfl)
theorem dJ8_pollFirst_35 : decode cJ8_pollFirst 35 = .ok (.areturn, 1) := dk_176 (dk_at dksJ8_pollFirst_1 11 rfl rfl)
abbrev cJ8_elementAt : ByteArray := prog_50_method_10_code
def yJ8_elementAt : MethodName := ⟨RJ8, "elementAt", "([Ljava/lang/Object;I)Ljava/lang/Object;"⟩
def dkwJ8_elementAt_0 : List UInt8 := [42, 27, 50, 176]
abbrev dktJ8_elementAt_0 : List UInt8 := dkwJ8_elementAt_0 ++ []
theorem dksJ8_elementAt_0 : cJ8_elementAt.data.toList.drop 0 = dktJ8_elementAt_0 := by decide +kernel
theorem dJ8_elementAt_0 : decode cJ8_elementAt 0 = .ok (.aload_n 0, 1) := dk_42 (dk_at dksJ8_elementAt_0 0 rfl rfl)
theorem dJ8_elementAt_1 : decode cJ8_elementAt 1 = .ok (.iload_n 1, 1) := dk_27 (dk_at dksJ8_elementAt_0 1 rfl rfl)
theorem dJ8_elementAt_2 : decode cJ8_elementAt 2 = .ok (.aaload, 1) := dk_50 (dk_at dksJ8_elementAt_0 2 rfl rfl)
theorem dJ8_elementAt_3 : decode cJ8_elementAt 3 = .ok (.areturn, 1) := dk_176 (dk_at dksJ8_elementAt_0 3 rfl rfl)
abbrev cJ8_removeLast : ByteArray := prog_50_method_19_code
def yJ8_removeLast : MethodName := ⟨RJ8, "removeLast", "()Ljava/lang/Object;"⟩
def dkwJ8_removeLast_0 : List UInt8 := [42, 182, 0, 100, 76, 43, 199, 0, 11, 187, 0, 97, 89, 183, 0, 99, 191, 43, 176]
abbrev dktJ8_removeLast_0 : List UInt8 := dkwJ8_removeLast_0 ++ []
theorem dksJ8_removeLast_0 : cJ8_removeLast.data.toList.drop 0 = dktJ8_removeLast_0 := by decide +kernel
theorem dJ8_removeLast_0 : decode cJ8_removeLast 0 = .ok (.aload_n 0, 1) := dk_42 (dk_at dksJ8_removeLast_0 0 rfl rfl)
theorem dJ8_removeLast_1 : decode cJ8_removeLast 1 = .ok (.invokevirtual 100, 3) := dk_182 0 100 (dk_at dksJ8_removeLast_0 1 rfl rfl)
theorem dJ8_removeLast_4 : decode cJ8_removeLast 4 = .ok (.astore_n 1, 1) := dk_76 (dk_at dksJ8_removeLast_0 4 rfl rfl)
theorem dJ8_removeLast_5 : decode cJ8_removeLast 5 = .ok (.aload_n 1, 1) := dk_43 (dk_at dksJ8_removeLast_0 5 rfl rfl)
theorem dJ8_removeLast_6 : decode cJ8_removeLast 6 = .ok (.ifnonnull 11, 3) := dk_199 0 11 (dk_at dksJ8_removeLast_0 6 rfl rfl)
theorem dJ8_removeLast_9 : decode cJ8_removeLast 9 = .ok (.new 97, 3) := dk_187 0 97 (dk_at dksJ8_removeLast_0 9 rfl rfl)
theorem dJ8_removeLast_12 : decode cJ8_removeLast 12 = .ok (.dup, 1) := dk_89 (dk_at dksJ8_removeLast_0 12 rfl rfl)
theorem dJ8_removeLast_13 : decode cJ8_removeLast 13 = .ok (.invokespecial 99, 3) := dk_183 0 99 (dk_at dksJ8_removeLast_0 13 rfl rfl)
theorem dJ8_removeLast_16 : decode cJ8_removeLast 16 = .ok (.athrow, 1) := dk_191 (dk_at dksJ8_removeLast_0 16 rfl rfl)
theorem dJ8_removeLast_17 : decode cJ8_removeLast 17 = .ok (.aload_n 1, 1) := dk_43 (dk_at dksJ8_removeLast_0 17 rfl rfl)
theorem dJ8_removeLast_18 : decode cJ8_removeLast 18 = .ok (.areturn, 1) := dk_176 (dk_at dksJ8_removeLast_0 18 rfl rfl)
abbrev cJ8_pollLast : ByteArray := prog_50_method_21_code
def yJ8_pollLast : MethodName := ⟨RJ8, "pollLast", "()Ljava/lang/Object;"⟩
def dkwJ8_pollLast_1 : List UInt8 := [198, 0, 12, 43, 42, 28, 90, 181, 0, 20, 1, 83, 45, 176]
abbrev dktJ8_pollLast_1 : List UInt8 := dkwJ8_pollLast_1 ++ []
def dkwJ8_pollLast_0 : List UInt8 := [42, 180, 0, 3, 89, 76, 42, 180, 0, 20, 43, 190, 184, 0, 68, 89, 61, 184, 0, 103, 78, 45]
abbrev dktJ8_pollLast_0 : List UInt8 := dkwJ8_pollLast_0 ++ dktJ8_pollLast_1
theorem dksJ8_pollLast_0 : cJ8_pollLast.data.toList.drop 0 = dktJ8_pollLast_0 := by decide +kernel
theorem dksJ8_pollLast_1 : cJ8_pollLast.data.toList.drop 22 = dktJ8_pollLast_1 := dk_seg dksJ8_pollLast_0 22 rfl rfl
theorem dJ8_pollLast_0 : decode cJ8_pollLast 0 = .ok (.aload_n 0, 1) := dk_42 (dk_at dksJ8_pollLast_0 0 rfl rfl)
theorem dJ8_pollLast_1 : decode cJ8_pollLast 1 = .ok (.getfield 3, 3) := dk_180 0 3 (dk_at dksJ8_pollLast_0 1 rfl rfl)
theorem dJ8_pollLast_4 : decode cJ8_pollLast 4 = .ok (.dup, 1) := dk_89 (dk_at dksJ8_pollLast_0 4 rfl rfl)
theorem dJ8_pollLast_5 : decode cJ8_pollLast 5 = .ok (.astore_n 1, 1) := dk_76 (dk_at dksJ8_pollLast_0 5 rfl rfl)
theorem dJ8_pollLast_6 : decode cJ8_pollLast 6 = .ok (.aload_n 0, 1) := dk_42 (dk_at dksJ8_pollLast_0 6 rfl rfl)
theorem dJ8_pollLast_7 : decode cJ8_pollLast 7 = .ok (.getfield 20, 3) := dk_180 0 20 (dk_at dksJ8_pollLast_0 7 rfl rfl)
theorem dJ8_pollLast_10 : decode cJ8_pollLast 10 = .ok (.aload_n 1, 1) := dk_43 (dk_at dksJ8_pollLast_0 10 rfl rfl)
theorem dJ8_pollLast_11 : decode cJ8_pollLast 11 = .ok (.arraylength, 1) := dk_190 (dk_at dksJ8_pollLast_0 11 rfl rfl)
theorem dJ8_pollLast_12 : decode cJ8_pollLast 12 = .ok (.invokestatic 68, 3) := dk_184 0 68 (dk_at dksJ8_pollLast_0 12 rfl rfl)
theorem dJ8_pollLast_15 : decode cJ8_pollLast 15 = .ok (.dup, 1) := dk_89 (dk_at dksJ8_pollLast_0 15 rfl rfl)
theorem dJ8_pollLast_16 : decode cJ8_pollLast 16 = .ok (.istore_n 2, 1) := dk_61 (dk_at dksJ8_pollLast_0 16 rfl rfl)
theorem dJ8_pollLast_17 : decode cJ8_pollLast 17 = .ok (.invokestatic 103, 3) := dk_184 0 103 (dk_at dksJ8_pollLast_0 17 rfl rfl)
theorem dJ8_pollLast_20 : decode cJ8_pollLast 20 = .ok (.astore_n 3, 1) := dk_78 (dk_at dksJ8_pollLast_0 20 rfl rfl)
theorem dJ8_pollLast_21 : decode cJ8_pollLast 21 = .ok (.aload_n 3, 1) := dk_45 (dk_at dksJ8_pollLast_0 21 rfl rfl)
theorem dJ8_pollLast_22 : decode cJ8_pollLast 22 = .ok (.ifnull 12, 3) := dk_198 0 12 (dk_at dksJ8_pollLast_1 0 rfl rfl)
theorem dJ8_pollLast_25 : decode cJ8_pollLast 25 = .ok (.aload_n 1, 1) := dk_43 (dk_at dksJ8_pollLast_1 3 rfl rfl)
theorem dJ8_pollLast_26 : decode cJ8_pollLast 26 = .ok (.aload_n 0, 1) := dk_42 (dk_at dksJ8_pollLast_1 4 rfl rfl)
theorem dJ8_pollLast_27 : decode cJ8_pollLast 27 = .ok (.iload_n 2, 1) := dk_28 (dk_at dksJ8_pollLast_1 5 rfl rfl)
theorem dJ8_pollLast_28 : decode cJ8_pollLast 28 = .ok (.dup_x1, 1) := dk_90 (dk_at dksJ8_pollLast_1 6 rfl rfl)
theorem dJ8_pollLast_29 : decode cJ8_pollLast 29 = .ok (.putfield 20, 3) := dk_181 0 20 (dk_at dksJ8_pollLast_1 7 rfl rfl)
theorem dJ8_pollLast_32 : decode cJ8_pollLast 32 = .ok (.aconst_null, 1) := dk_1 (dk_at dksJ8_pollLast_1 10 rfl rfl)
theorem dJ8_pollLast_33 : decode cJ8_pollLast 33 = .ok (.aastore, 1) := dk_83 (dk_at dksJ8_pollLast_1 11 rfl rfl)
theorem dJ8_pollLast_34 : decode cJ8_pollLast 34 = .ok (.aload_n 3, 1) := dk_45 (dk_at dksJ8_pollLast_1 12 rfl rfl)
theorem dJ8_pollLast_35 : decode cJ8_pollLast 35 = .ok (.areturn, 1) := dk_176 (dk_at dksJ8_pollLast_1 13 rfl rfl)
abbrev cJ8_dec : ByteArray := prog_50_method_7_code
def yJ8_dec : MethodName := ⟨RJ8, "dec", "(II)I"⟩
def dkwJ8_dec_0 : List UInt8 := [132, 0, 255, 26, 156, 0, 7, 27, 4, 100, 59, 26, 172]
abbrev dktJ8_dec_0 : List UInt8 := dkwJ8_dec_0 ++ []
theorem dksJ8_dec_0 : cJ8_dec.data.toList.drop 0 = dktJ8_dec_0 := by decide +kernel
theorem dJ8_dec_0 : decode cJ8_dec 0 = .ok (.iinc 0 (-1), 3) := dk_132 0 255 (dk_at dksJ8_dec_0 0 rfl rfl)
theorem dJ8_dec_3 : decode cJ8_dec 3 = .ok (.iload_n 0, 1) := dk_26 (dk_at dksJ8_dec_0 3 rfl rfl)
theorem dJ8_dec_4 : decode cJ8_dec 4 = .ok (.ifCond .ge 7, 3) := dk_156 0 7 (dk_at dksJ8_dec_0 4 rfl rfl)
theorem dJ8_dec_7 : decode cJ8_dec 7 = .ok (.iload_n 1, 1) := dk_27 (dk_at dksJ8_dec_0 7 rfl rfl)
theorem dJ8_dec_8 : decode cJ8_dec 8 = .ok (.iconst 1, 1) := dk_4 (dk_at dksJ8_dec_0 8 rfl rfl)
theorem dJ8_dec_9 : decode cJ8_dec 9 = .ok (.isub, 1) := dk_100 (dk_at dksJ8_dec_0 9 rfl rfl)
theorem dJ8_dec_10 : decode cJ8_dec 10 = .ok (.istore_n 0, 1) := dk_59 (dk_at dksJ8_dec_0 10 rfl rfl)
theorem dJ8_dec_11 : decode cJ8_dec 11 = .ok (.iload_n 0, 1) := dk_26 (dk_at dksJ8_dec_0 11 rfl rfl)
theorem dJ8_dec_12 : decode cJ8_dec 12 = .ok (.ireturn, 1) := dk_172 (dk_at dksJ8_dec_0 12 rfl rfl)
theorem q115 : (Jvm.Cond.initialized "java/util/ArrayDeque") ∈ lw_all := lw_g (lw_at lw_m1 13 rfl) rfl
theorem q279 : (Jvm.Cond.selects "java/util/ArrayDeque" ({ cls := "java/lang/Object", name := "getClass", desc := "()Ljava/lang/Class;" } : Jvm.MethodName) ({ cls := "java/lang/Object", name := "getClass", desc := "()Ljava/lang/Class;" } : Jvm.MethodName)) ∈ lw_all := lw_g (lw_at lw_m1 177 rfl) rfl
theorem q364 : (Jvm.Cond.instantiable "java/util/ArrayDeque" (3 : Nat)) ∈ lw_all := lw_g (lw_at lw_m2 22 rfl) rfl
theorem q366 : (Jvm.Cond.instanceMethod ({ cls := "java/util/ArrayDeque", name := "<init>", desc := "()V" } : Jvm.MethodName)) ∈ lw_all := lw_g (lw_at lw_m2 24 rfl) rfl
theorem q367 : (Jvm.Cond.code ({ cls := "java/util/ArrayDeque", name := "<init>", desc := "()V" } : Jvm.MethodName) prog_50_method_3_code (1 : Nat) (Option.none : Option Jvm.ClassFile.FieldType)) ∈ lw_all := lw_g (lw_at lw_m2 25 rfl) rfl
theorem q368 : (Jvm.Cond.methodLink "java/util/ArrayDeque" (42 : Nat) ({ cls := "java/util/AbstractCollection", name := "<init>", desc := "()V" } : Jvm.MethodName)) ∈ lw_all := lw_g (lw_at lw_m2 26 rfl) rfl
theorem q369 : (Jvm.Cond.classLink "java/util/ArrayDeque" (47 : Nat) "java/lang/Object") ∈ lw_all := lw_g (lw_at lw_m2 27 rfl) rfl
theorem q370 : (Jvm.Cond.fieldLink "java/util/ArrayDeque" (3 : Nat) "java/util/ArrayDeque" "elements" "[Ljava/lang/Object;") ∈ lw_all := lw_g (lw_at lw_m2 28 rfl) rfl
theorem q371 : (Jvm.Cond.fieldLink "java/util/ArrayDeque" (24 : Nat) "java/util/ArrayDeque" "head" "I") ∈ lw_all := lw_g (lw_at lw_m2 29 rfl) rfl
theorem q372 : (Jvm.Cond.fieldLink "java/util/ArrayDeque" (20 : Nat) "java/util/ArrayDeque" "tail" "I") ∈ lw_all := lw_g (lw_at lw_m2 30 rfl) rfl
theorem q373 : (Jvm.Cond.lays "java/util/ArrayDeque" "java/util/ArrayDeque" "elements" "[Ljava/lang/Object;") ∈ lw_all := lw_g (lw_at lw_m2 31 rfl) rfl
theorem q374 : (Jvm.Cond.soleField "java/util/ArrayDeque" "elements") ∈ lw_all := lw_g (lw_at lw_m2 32 rfl) rfl
theorem q375 : (Jvm.Cond.lays "java/util/ArrayDeque" "java/util/ArrayDeque" "head" "I") ∈ lw_all := lw_g (lw_at lw_m2 33 rfl) rfl
theorem q376 : (Jvm.Cond.soleField "java/util/ArrayDeque" "head") ∈ lw_all := lw_g (lw_at lw_m2 34 rfl) rfl
theorem q377 : (Jvm.Cond.lays "java/util/ArrayDeque" "java/util/ArrayDeque" "tail" "I") ∈ lw_all := lw_g (lw_at lw_m2 35 rfl) rfl
theorem q378 : (Jvm.Cond.soleField "java/util/ArrayDeque" "tail") ∈ lw_all := lw_g (lw_at lw_m2 36 rfl) rfl
theorem q379 : (Jvm.Cond.superclass "java/util/ArrayDeque" "java/util/AbstractCollection") ∈ lw_all := lw_g (lw_at lw_m2 37 rfl) rfl
theorem q447 : (Jvm.Cond.instanceMethod ({ cls := "java/util/ArrayDeque", name := "clear", desc := "()V" } : Jvm.MethodName)) ∈ lw_all := lw_g (lw_at lw_m2 105 rfl) rfl
theorem q448 : (Jvm.Cond.selects "java/util/ArrayDeque" ({ cls := "java/util/ArrayDeque", name := "clear", desc := "()V" } : Jvm.MethodName) ({ cls := "java/util/ArrayDeque", name := "clear", desc := "()V" } : Jvm.MethodName)) ∈ lw_all := lw_g (lw_at lw_m2 106 rfl) rfl
theorem q449 : (Jvm.Cond.code ({ cls := "java/util/ArrayDeque", name := "clear", desc := "()V" } : Jvm.MethodName) prog_50_method_53_code (1 : Nat) (Option.none : Option Jvm.ClassFile.FieldType)) ∈ lw_all := lw_g (lw_at lw_m2 107 rfl) rfl
theorem q450 : (Jvm.Cond.methodLink "java/util/ArrayDeque" (181 : Nat) ({ cls := "java/util/ArrayDeque", name := "circularClear", desc := "([Ljava/lang/Object;II)V" } : Jvm.MethodName)) ∈ lw_all := lw_g (lw_at lw_m2 108 rfl) rfl
theorem q451 : (Jvm.Cond.static ({ cls := "java/util/ArrayDeque", name := "circularClear", desc := "([Ljava/lang/Object;II)V" } : Jvm.MethodName)) ∈ lw_all := lw_g (lw_at lw_m2 109 rfl) rfl
theorem q452 : (Jvm.Cond.code ({ cls := "java/util/ArrayDeque", name := "circularClear", desc := "([Ljava/lang/Object;II)V" } : Jvm.MethodName) prog_50_method_54_code (4 : Nat) (Option.none : Option Jvm.ClassFile.FieldType)) ∈ lw_all := lw_g (lw_at lw_m2 110 rfl) rfl
theorem q1384 : (Jvm.Cond.castable "java/util/ArrayDeque" "java/util/Collection") ∈ lw_tbl := lw_at lw_m6 82 rfl
theorem q1385 : (Jvm.Cond.selects "java/util/ArrayDeque" ({ cls := "java/util/Collection", name := "toArray", desc := "()[Ljava/lang/Object;" } : Jvm.MethodName) ({ cls := "java/util/ArrayDeque", name := "toArray", desc := "()[Ljava/lang/Object;" } : Jvm.MethodName)) ∈ lw_all := lw_g (lw_at lw_m6 83 rfl) rfl
theorem q1386 : (Jvm.Cond.unhidden "java/util/ArrayDeque" "toArray" "()[Ljava/lang/Object;") ∈ lw_tbl := lw_at lw_m6 84 rfl
theorem q1387 : (Jvm.Cond.instanceMethod ({ cls := "java/util/ArrayDeque", name := "toArray", desc := "()[Ljava/lang/Object;" } : Jvm.MethodName)) ∈ lw_all := lw_g (lw_at lw_m6 85 rfl) rfl
theorem q1388 : (Jvm.Cond.publicMethod ({ cls := "java/util/ArrayDeque", name := "toArray", desc := "()[Ljava/lang/Object;" } : Jvm.MethodName)) ∈ lw_tbl := lw_at lw_m6 86 rfl
theorem q1389 : (Jvm.Cond.code ({ cls := "java/util/ArrayDeque", name := "toArray", desc := "()[Ljava/lang/Object;" } : Jvm.MethodName) prog_50_method_55_code (1 : Nat) (Option.some (Jvm.ClassFile.FieldType.array (Jvm.ClassFile.FieldType.object "java/lang/Object")))) ∈ lw_all := lw_g (lw_at lw_m6 87 rfl) rfl
theorem q1390 : (Jvm.Cond.classLink "java/util/ArrayDeque" (188 : Nat) "[Ljava/lang/Object;") ∈ lw_all := lw_g (lw_at lw_m6 88 rfl) rfl
theorem q1391 : (Jvm.Cond.methodLink "java/util/ArrayDeque" (189 : Nat) ({ cls := "java/util/ArrayDeque", name := "toArray", desc := "(Ljava/lang/Class;)[Ljava/lang/Object;" } : Jvm.MethodName)) ∈ lw_all := lw_g (lw_at lw_m6 89 rfl) rfl
theorem q1392 : (Jvm.Cond.privateMethod ({ cls := "java/util/ArrayDeque", name := "toArray", desc := "(Ljava/lang/Class;)[Ljava/lang/Object;" } : Jvm.MethodName)) ∈ lw_tbl := lw_at lw_m6 90 rfl
theorem q1393 : (Jvm.Cond.instanceMethod ({ cls := "java/util/ArrayDeque", name := "toArray", desc := "(Ljava/lang/Class;)[Ljava/lang/Object;" } : Jvm.MethodName)) ∈ lw_all := lw_g (lw_at lw_m6 91 rfl) rfl
theorem q1394 : (Jvm.Cond.code ({ cls := "java/util/ArrayDeque", name := "toArray", desc := "(Ljava/lang/Class;)[Ljava/lang/Object;" } : Jvm.MethodName) prog_50_method_56_code (7 : Nat) (Option.some (Jvm.ClassFile.FieldType.array (Jvm.ClassFile.FieldType.object "java/lang/Object")))) ∈ lw_all := lw_g (lw_at lw_m6 92 rfl) rfl
theorem q1395 : (Jvm.Cond.methodLink "java/util/ArrayDeque" (193 : Nat) ({ cls := "java/util/Arrays", name := "copyOfRange", desc := "([Ljava/lang/Object;IILjava/lang/Class;)[Ljava/lang/Object;" } : Jvm.MethodName)) ∈ lw_all := lw_g (lw_at lw_m6 93 rfl) rfl
theorem q1398 : (Jvm.Cond.methodLink "java/util/ArrayDeque" (27 : Nat) ({ cls := "java/lang/System", name := "arraycopy", desc := "(Ljava/lang/Object;ILjava/lang/Object;II)V" } : Jvm.MethodName)) ∈ lw_all := lw_g (lw_at lw_m6 96 rfl) rfl
theorem q1674 : (Jvm.Cond.instanceMethod ({ cls := "java/util/ArrayDeque", name := "size", desc := "()I" } : Jvm.MethodName)) ∈ lw_all := lw_g (lw_at lw_m7 132 rfl) rfl
theorem q1675 : (Jvm.Cond.code ({ cls := "java/util/ArrayDeque", name := "size", desc := "()I" } : Jvm.MethodName) prog_50_method_37_code (1 : Nat) (Option.some Jvm.ClassFile.FieldType.int)) ∈ lw_all := lw_g (lw_at lw_m7 133 rfl) rfl
theorem q1676 : (Jvm.Cond.methodLink "java/util/ArrayDeque" (127 : Nat) ({ cls := "java/util/ArrayDeque", name := "sub", desc := "(III)I" } : Jvm.MethodName)) ∈ lw_all := lw_g (lw_at lw_m7 134 rfl) rfl
theorem q1677 : (Jvm.Cond.static ({ cls := "java/util/ArrayDeque", name := "sub", desc := "(III)I" } : Jvm.MethodName)) ∈ lw_all := lw_g (lw_at lw_m7 135 rfl) rfl
theorem q1678 : (Jvm.Cond.code ({ cls := "java/util/ArrayDeque", name := "sub", desc := "(III)I" } : Jvm.MethodName) prog_50_method_9_code (3 : Nat) (Option.some Jvm.ClassFile.FieldType.int)) ∈ lw_all := lw_g (lw_at lw_m7 136 rfl) rfl
theorem q1769 : (Jvm.Cond.instanceMethod ({ cls := "java/util/ArrayDeque", name := "contains", desc := "(Ljava/lang/Object;)Z" } : Jvm.MethodName)) ∈ lw_all := lw_g (lw_at lw_m7 227 rfl) rfl
theorem q1770 : (Jvm.Cond.selects "java/util/ArrayDeque" ({ cls := "java/util/ArrayDeque", name := "contains", desc := "(Ljava/lang/Object;)Z" } : Jvm.MethodName) ({ cls := "java/util/ArrayDeque", name := "contains", desc := "(Ljava/lang/Object;)Z" } : Jvm.MethodName)) ∈ lw_all := lw_g (lw_at lw_m7 228 rfl) rfl
theorem q1771 : (Jvm.Cond.code ({ cls := "java/util/ArrayDeque", name := "contains", desc := "(Ljava/lang/Object;)Z" } : Jvm.MethodName) prog_50_method_51_code (6 : Nat) (Option.some Jvm.ClassFile.FieldType.boolean)) ∈ lw_all := lw_g (lw_at lw_m7 229 rfl) rfl
theorem q1773 : (Jvm.Cond.methodLink "java/util/ArrayDeque" (107 : Nat) ({ cls := "java/lang/Object", name := "equals", desc := "(Ljava/lang/Object;)Z" } : Jvm.MethodName)) ∈ lw_all := lw_g (lw_at lw_m7 231 rfl) rfl
theorem q1802 : (Jvm.Cond.instanceMethod ({ cls := "java/util/ArrayDeque", name := "addLast", desc := "(Ljava/lang/Object;)V" } : Jvm.MethodName)) ∈ lw_all := lw_g (lw_at lw_m8 20 rfl) rfl
theorem q1803 : (Jvm.Cond.selects "java/util/ArrayDeque" ({ cls := "java/util/ArrayDeque", name := "addLast", desc := "(Ljava/lang/Object;)V" } : Jvm.MethodName) ({ cls := "java/util/ArrayDeque", name := "addLast", desc := "(Ljava/lang/Object;)V" } : Jvm.MethodName)) ∈ lw_all := lw_g (lw_at lw_m8 21 rfl) rfl
theorem q1804 : (Jvm.Cond.code ({ cls := "java/util/ArrayDeque", name := "addLast", desc := "(Ljava/lang/Object;)V" } : Jvm.MethodName) prog_50_method_13_code (3 : Nat) (Option.none : Option Jvm.ClassFile.FieldType)) ∈ lw_all := lw_g (lw_at lw_m8 22 rfl) rfl
theorem q1805 : (Jvm.Cond.methodLink "java/util/ArrayDeque" (74 : Nat) ({ cls := "java/util/ArrayDeque", name := "inc", desc := "(II)I" } : Jvm.MethodName)) ∈ lw_all := lw_g (lw_at lw_m8 23 rfl) rfl
theorem q1806 : (Jvm.Cond.static ({ cls := "java/util/ArrayDeque", name := "inc", desc := "(II)I" } : Jvm.MethodName)) ∈ lw_all := lw_g (lw_at lw_m8 24 rfl) rfl
theorem q1807 : (Jvm.Cond.code ({ cls := "java/util/ArrayDeque", name := "inc", desc := "(II)I" } : Jvm.MethodName) prog_50_method_6_code (2 : Nat) (Option.some Jvm.ClassFile.FieldType.int)) ∈ lw_all := lw_g (lw_at lw_m8 25 rfl) rfl
theorem q1808 : (Jvm.Cond.methodLink "java/util/ArrayDeque" (71 : Nat) ({ cls := "java/util/ArrayDeque", name := "grow", desc := "(I)V" } : Jvm.MethodName)) ∈ lw_all := lw_g (lw_at lw_m8 26 rfl) rfl
theorem q1809 : (Jvm.Cond.privateMethod ({ cls := "java/util/ArrayDeque", name := "grow", desc := "(I)V" } : Jvm.MethodName)) ∈ lw_tbl := lw_at lw_m8 27 rfl
theorem q1810 : (Jvm.Cond.instanceMethod ({ cls := "java/util/ArrayDeque", name := "grow", desc := "(I)V" } : Jvm.MethodName)) ∈ lw_all := lw_g (lw_at lw_m8 28 rfl) rfl
theorem q1811 : (Jvm.Cond.code ({ cls := "java/util/ArrayDeque", name := "grow", desc := "(I)V" } : Jvm.MethodName) prog_50_method_1_code (9 : Nat) (Option.none : Option Jvm.ClassFile.FieldType)) ∈ lw_all := lw_g (lw_at lw_m8 29 rfl) rfl
theorem q1812 : (Jvm.Cond.constant "java/util/ArrayDeque" (9 : Nat) (2147483639 : Int32)) ∈ lw_all := lw_g (lw_at lw_m8 30 rfl) rfl
theorem q1813 : (Jvm.Cond.methodLink "java/util/ArrayDeque" (10 : Nat) ({ cls := "java/util/ArrayDeque", name := "newCapacity", desc := "(II)I" } : Jvm.MethodName)) ∈ lw_all := lw_g (lw_at lw_m8 31 rfl) rfl
theorem q1814 : (Jvm.Cond.privateMethod ({ cls := "java/util/ArrayDeque", name := "newCapacity", desc := "(II)I" } : Jvm.MethodName)) ∈ lw_tbl := lw_at lw_m8 32 rfl
theorem q1815 : (Jvm.Cond.instanceMethod ({ cls := "java/util/ArrayDeque", name := "newCapacity", desc := "(II)I" } : Jvm.MethodName)) ∈ lw_all := lw_g (lw_at lw_m8 33 rfl) rfl
theorem q1816 : (Jvm.Cond.code ({ cls := "java/util/ArrayDeque", name := "newCapacity", desc := "(II)I" } : Jvm.MethodName) prog_50_method_2_code (5 : Nat) (Option.some Jvm.ClassFile.FieldType.int)) ∈ lw_all := lw_g (lw_at lw_m8 34 rfl) rfl
theorem q1817 : (Jvm.Cond.classLink "java/util/ArrayDeque" (33 : Nat) "java/lang/IllegalStateException") ∈ lw_all := lw_g (lw_at lw_m8 35 rfl) rfl
theorem q1826 : (Jvm.Cond.stringRef "java/util/ArrayDeque" (35 : Nat) "Sorry, deque too big") ∈ lw_tbl := lw_at lw_m8 44 rfl
theorem q1827 : (Jvm.Cond.methodLink "java/util/ArrayDeque" (37 : Nat) ({ cls := "java/lang/IllegalStateException", name := "<init>", desc := "(Ljava/lang/String;)V" } : Jvm.MethodName)) ∈ lw_all := lw_g (lw_at lw_m8 45 rfl) rfl
theorem q1833 : (Jvm.Cond.constant "java/util/ArrayDeque" (41 : Nat) (2147483647 : Int32)) ∈ lw_all := lw_g (lw_at lw_m8 51 rfl) rfl
theorem q1834 : (Jvm.Cond.methodLink "java/util/ArrayDeque" (14 : Nat) ({ cls := "java/util/Arrays", name := "copyOf", desc := "([Ljava/lang/Object;I)[Ljava/lang/Object;" } : Jvm.MethodName)) ∈ lw_all := lw_g (lw_at lw_m8 52 rfl) rfl
theorem q1836 : (Jvm.Cond.instanceMethod ({ cls := "java/util/ArrayDeque", name := "isEmpty", desc := "()Z" } : Jvm.MethodName)) ∈ lw_all := lw_g (lw_at lw_m8 54 rfl) rfl
theorem q1837 : (Jvm.Cond.selects "java/util/ArrayDeque" ({ cls := "java/util/ArrayDeque", name := "isEmpty", desc := "()Z" } : Jvm.MethodName) ({ cls := "java/util/ArrayDeque", name := "isEmpty", desc := "()Z" } : Jvm.MethodName)) ∈ lw_all := lw_g (lw_at lw_m8 55 rfl) rfl
theorem q1838 : (Jvm.Cond.code ({ cls := "java/util/ArrayDeque", name := "isEmpty", desc := "()Z" } : Jvm.MethodName) prog_50_method_38_code (1 : Nat) (Option.some Jvm.ClassFile.FieldType.boolean)) ∈ lw_all := lw_g (lw_at lw_m8 56 rfl) rfl
theorem q1840 : (Jvm.Cond.instanceMethod ({ cls := "java/util/ArrayDeque", name := "removeFirst", desc := "()Ljava/lang/Object;" } : Jvm.MethodName)) ∈ lw_all := lw_g (lw_at lw_m8 58 rfl) rfl
theorem q1841 : (Jvm.Cond.selects "java/util/ArrayDeque" ({ cls := "java/util/ArrayDeque", name := "removeFirst", desc := "()Ljava/lang/Object;" } : Jvm.MethodName) ({ cls := "java/util/ArrayDeque", name := "removeFirst", desc := "()Ljava/lang/Object;" } : Jvm.MethodName)) ∈ lw_all := lw_g (lw_at lw_m8 59 rfl) rfl
theorem q1842 : (Jvm.Cond.code ({ cls := "java/util/ArrayDeque", name := "removeFirst", desc := "()Ljava/lang/Object;" } : Jvm.MethodName) prog_50_method_18_code (2 : Nat) (Option.some (Jvm.ClassFile.FieldType.object "java/lang/Object"))) ∈ lw_all := lw_g (lw_at lw_m8 60 rfl) rfl
theorem q1843 : (Jvm.Cond.methodLink "java/util/ArrayDeque" (93 : Nat) ({ cls := "java/util/ArrayDeque", name := "pollFirst", desc := "()Ljava/lang/Object;" } : Jvm.MethodName)) ∈ lw_all := lw_g (lw_at lw_m8 61 rfl) rfl
theorem q1844 : (Jvm.Cond.instanceMethod ({ cls := "java/util/ArrayDeque", name := "pollFirst", desc := "()Ljava/lang/Object;" } : Jvm.MethodName)) ∈ lw_all := lw_g (lw_at lw_m8 62 rfl) rfl
theorem q1845 : (Jvm.Cond.selects "java/util/ArrayDeque" ({ cls := "java/util/ArrayDeque", name := "pollFirst", desc := "()Ljava/lang/Object;" } : Jvm.MethodName) ({ cls := "java/util/ArrayDeque", name := "pollFirst", desc := "()Ljava/lang/Object;" } : Jvm.MethodName)) ∈ lw_all := lw_g (lw_at lw_m8 63 rfl) rfl
theorem q1846 : (Jvm.Cond.code ({ cls := "java/util/ArrayDeque", name := "pollFirst", desc := "()Ljava/lang/Object;" } : Jvm.MethodName) prog_50_method_20_code (4 : Nat) (Option.some (Jvm.ClassFile.FieldType.object "java/lang/Object"))) ∈ lw_all := lw_g (lw_at lw_m8 64 rfl) rfl
theorem q1847 : (Jvm.Cond.methodLink "java/util/ArrayDeque" (103 : Nat) ({ cls := "java/util/ArrayDeque", name := "elementAt", desc := "([Ljava/lang/Object;I)Ljava/lang/Object;" } : Jvm.MethodName)) ∈ lw_all := lw_g (lw_at lw_m8 65 rfl) rfl
theorem q1848 : (Jvm.Cond.static ({ cls := "java/util/ArrayDeque", name := "elementAt", desc := "([Ljava/lang/Object;I)Ljava/lang/Object;" } : Jvm.MethodName)) ∈ lw_all := lw_g (lw_at lw_m8 66 rfl) rfl
theorem q1849 : (Jvm.Cond.code ({ cls := "java/util/ArrayDeque", name := "elementAt", desc := "([Ljava/lang/Object;I)Ljava/lang/Object;" } : Jvm.MethodName) prog_50_method_10_code (2 : Nat) (Option.some (Jvm.ClassFile.FieldType.object "java/lang/Object"))) ∈ lw_all := lw_g (lw_at lw_m8 67 rfl) rfl
theorem q1850 : (Jvm.Cond.classLink "java/util/ArrayDeque" (97 : Nat) "java/util/NoSuchElementException") ∈ lw_all := lw_g (lw_at lw_m8 68 rfl) rfl
theorem q1851 : (Jvm.Cond.methodLink "java/util/ArrayDeque" (99 : Nat) ({ cls := "java/util/NoSuchElementException", name := "<init>", desc := "()V" } : Jvm.MethodName)) ∈ lw_all := lw_g (lw_at lw_m8 69 rfl) rfl
theorem q1881 : (Jvm.Cond.selects "java/util/ArrayDeque" ({ cls := "java/util/Collection", name := "contains", desc := "(Ljava/lang/Object;)Z" } : Jvm.MethodName) ({ cls := "java/util/ArrayDeque", name := "contains", desc := "(Ljava/lang/Object;)Z" } : Jvm.MethodName)) ∈ lw_all := lw_g (lw_at lw_m8 99 rfl) rfl
theorem q1882 : (Jvm.Cond.unhidden "java/util/ArrayDeque" "contains" "(Ljava/lang/Object;)Z") ∈ lw_tbl := lw_at lw_m8 100 rfl
theorem q1883 : (Jvm.Cond.publicMethod ({ cls := "java/util/ArrayDeque", name := "contains", desc := "(Ljava/lang/Object;)Z" } : Jvm.MethodName)) ∈ lw_tbl := lw_at lw_m8 101 rfl
theorem q2178 : (Jvm.Cond.unhidden "java/util/ArrayDeque" "getClass" "()Ljava/lang/Class;") ∈ lw_tbl := lw_at lw_m9 156 rfl
theorem q2622 : (Jvm.Cond.instanceMethod ({ cls := "java/util/ArrayDeque", name := "removeLast", desc := "()Ljava/lang/Object;" } : Jvm.MethodName)) ∈ lw_all := lw_g (lw_at lw_m11 120 rfl) rfl
theorem q2623 : (Jvm.Cond.selects "java/util/ArrayDeque" ({ cls := "java/util/ArrayDeque", name := "removeLast", desc := "()Ljava/lang/Object;" } : Jvm.MethodName) ({ cls := "java/util/ArrayDeque", name := "removeLast", desc := "()Ljava/lang/Object;" } : Jvm.MethodName)) ∈ lw_all := lw_g (lw_at lw_m11 121 rfl) rfl
theorem q2624 : (Jvm.Cond.code ({ cls := "java/util/ArrayDeque", name := "removeLast", desc := "()Ljava/lang/Object;" } : Jvm.MethodName) prog_50_method_19_code (2 : Nat) (Option.some (Jvm.ClassFile.FieldType.object "java/lang/Object"))) ∈ lw_all := lw_g (lw_at lw_m11 122 rfl) rfl
theorem q2625 : (Jvm.Cond.methodLink "java/util/ArrayDeque" (100 : Nat) ({ cls := "java/util/ArrayDeque", name := "pollLast", desc := "()Ljava/lang/Object;" } : Jvm.MethodName)) ∈ lw_all := lw_g (lw_at lw_m11 123 rfl) rfl
theorem q2626 : (Jvm.Cond.instanceMethod ({ cls := "java/util/ArrayDeque", name := "pollLast", desc := "()Ljava/lang/Object;" } : Jvm.MethodName)) ∈ lw_all := lw_g (lw_at lw_m11 124 rfl) rfl
theorem q2627 : (Jvm.Cond.selects "java/util/ArrayDeque" ({ cls := "java/util/ArrayDeque", name := "pollLast", desc := "()Ljava/lang/Object;" } : Jvm.MethodName) ({ cls := "java/util/ArrayDeque", name := "pollLast", desc := "()Ljava/lang/Object;" } : Jvm.MethodName)) ∈ lw_all := lw_g (lw_at lw_m11 125 rfl) rfl
theorem q2628 : (Jvm.Cond.code ({ cls := "java/util/ArrayDeque", name := "pollLast", desc := "()Ljava/lang/Object;" } : Jvm.MethodName) prog_50_method_21_code (4 : Nat) (Option.some (Jvm.ClassFile.FieldType.object "java/lang/Object"))) ∈ lw_all := lw_g (lw_at lw_m11 126 rfl) rfl
theorem q2629 : (Jvm.Cond.methodLink "java/util/ArrayDeque" (68 : Nat) ({ cls := "java/util/ArrayDeque", name := "dec", desc := "(II)I" } : Jvm.MethodName)) ∈ lw_all := lw_g (lw_at lw_m11 127 rfl) rfl
theorem q2630 : (Jvm.Cond.static ({ cls := "java/util/ArrayDeque", name := "dec", desc := "(II)I" } : Jvm.MethodName)) ∈ lw_all := lw_g (lw_at lw_m11 128 rfl) rfl
theorem q2631 : (Jvm.Cond.code ({ cls := "java/util/ArrayDeque", name := "dec", desc := "(II)I" } : Jvm.MethodName) prog_50_method_7_code (2 : Nat) (Option.some Jvm.ClassFile.FieldType.int)) ∈ lw_all := lw_g (lw_at lw_m11 129 rfl) rfl
theorem q3159 : (Jvm.Cond.selects "java/util/ArrayDeque" ({ cls := "java/util/AbstractCollection", name := "size", desc := "()I" } : Jvm.MethodName) ({ cls := "java/util/ArrayDeque", name := "size", desc := "()I" } : Jvm.MethodName)) ∈ lw_all := lw_g (lw_at lw_m13 177 rfl) rfl
theorem q3162 : (Jvm.Cond.selects "java/util/ArrayDeque" ({ cls := "java/util/ArrayDeque", name := "size", desc := "()I" } : Jvm.MethodName) ({ cls := "java/util/ArrayDeque", name := "size", desc := "()I" } : Jvm.MethodName)) ∈ lw_all := lw_g (lw_at lw_m13 180 rfl) rfl
theorem q3174 : (Jvm.Cond.castable "java/util/ArrayDeque" "java/lang/Object") ∈ lw_tbl := lw_at lw_m13 192 rfl
theorem in_J8 : ∀ w ∈ wsJ80, w ∈ lw_all := lw_in wsJ80 [373, 375, 377] (by decide +kernel) (by decide +kernel)
