/-! java/lang/AbstractStringBuilder -/
set_option maxRecDepth 100000
def RJ9 : String := "java/lang/AbstractStringBuilder"
abbrev cJ9_init : ByteArray := prog_16_method_2_code
def yJ9_init : MethodName := ⟨RJ9, "<init>", "(I)V"⟩
def dkwJ9_init_1 : List UInt8 := [167, 0, 16, 42, 27, 184, 0, 26, 181, 0, 15, 42, 4, 181, 0, 22, 177]
abbrev dktJ9_init_1 : List UInt8 := dkwJ9_init_1 ++ []
def dkwJ9_init_0 : List UInt8 := [42, 183, 0, 3, 178, 0, 18, 153, 0, 18, 42, 27, 188, 8, 181, 0, 15, 42, 3, 181, 0, 22]
abbrev dktJ9_init_0 : List UInt8 := dkwJ9_init_0 ++ dktJ9_init_1
theorem dksJ9_init_0 : cJ9_init.data.toList.drop 0 = dktJ9_init_0 := by decide +kernel
theorem dksJ9_init_1 : cJ9_init.data.toList.drop 22 = dktJ9_init_1 := dk_seg dksJ9_init_0 22 rfl rfl
theorem dJ9_init_0 : decode cJ9_init 0 = .ok (.aload_n 0, 1) := dk_42 (dk_at dksJ9_init_0 0 rfl rfl)
theorem dJ9_init_1 : decode cJ9_init 1 = .ok (.invokespecial 3, 3) := dk_183 0 3 (dk_at dksJ9_init_0 1 rfl rfl)
theorem dJ9_init_4 : decode cJ9_init 4 = .ok (.getstatic 18, 3) := dk_178 0 18 (dk_at dksJ9_init_0 4 rfl rfl)
theorem dJ9_init_7 : decode cJ9_init 7 = .ok (.ifCond .eq 18, 3) := dk_153 0 18 (dk_at dksJ9_init_0 7 rfl rfl)
theorem dJ9_init_10 : decode cJ9_init 10 = .ok (.aload_n 0, 1) := dk_42 (dk_at dksJ9_init_0 10 rfl rfl)
theorem dJ9_init_11 : decode cJ9_init 11 = .ok (.iload_n 1, 1) := dk_27 (dk_at dksJ9_init_0 11 rfl rfl)
theorem dJ9_init_12 : decode cJ9_init 12 = .ok (.newarray .byte, 2) := dk_188_8 (dk_at dksJ9_init_0 12 rfl rfl)
theorem dJ9_init_14 : decode cJ9_init 14 = .ok (.putfield 15, 3) := dk_181 0 15 (dk_at dksJ9_init_0 14 rfl rfl)
theorem dJ9_init_17 : decode cJ9_init 17 = .ok (.aload_n 0, 1) := dk_42 (dk_at dksJ9_init_0 17 rfl rfl)
theorem dJ9_init_18 : decode cJ9_init 18 = .ok (.iconst 0, 1) := dk_3 (dk_at dksJ9_init_0 18 rfl rfl)
theorem dJ9_init_19 : decode cJ9_init 19 = .ok (.putfield 22, 3) := dk_181 0 22 (dk_at dksJ9_init_0 19 rfl rfl)
theorem dJ9_init_22 : decode cJ9_init 22 = .ok (.goto 16, 3) := dk_167 0 16 (dk_at dksJ9_init_1 0 rfl rfl)
theorem dJ9_init_25 : decode cJ9_init 25 = .ok (.aload_n 0, 1) := dk_42 (dk_at dksJ9_init_1 3 rfl rfl)
theorem dJ9_init_26 : decode cJ9_init 26 = .ok (.iload_n 1, 1) := dk_27 (dk_at dksJ9_init_1 4 rfl rfl)
theorem dJ9_init_27 : decode cJ9_init 27 = .ok (.invokestatic 26, 3) := dk_184 0 26 (dk_at dksJ9_init_1 5 rfl rfl)
theorem dJ9_init_30 : decode cJ9_init 30 = .ok (.putfield 15, 3) := dk_181 0 15 (dk_at dksJ9_init_1 8 rfl rfl)
theorem dJ9_init_33 : decode cJ9_init 33 = .ok (.aload_n 0, 1) := dk_42 (dk_at dksJ9_init_1 11 rfl rfl)
theorem dJ9_init_34 : decode cJ9_init 34 = .ok (.iconst 1, 1) := dk_4 (dk_at dksJ9_init_1 12 rfl rfl)
theorem dJ9_init_35 : decode cJ9_init 35 = .ok (.putfield 22, 3) := dk_181 0 22 (dk_at dksJ9_init_1 13 rfl rfl)
theorem dJ9_init_38 : decode cJ9_init 38 = .ok (.return_, 1) := dk_177 (dk_at dksJ9_init_1 16 rfl rfl)
abbrev cJ9_append : ByteArray := prog_16_method_22_code
def yJ9_append : MethodName := ⟨RJ9, "append", "(Ljava/lang/String;)Ljava/lang/AbstractStringBuilder;"⟩
def dkwJ9_append_1 : List UInt8 := [42, 42, 180, 0, 79, 43, 182, 0, 208, 42, 89, 180, 0, 79, 28, 96, 181, 0, 79, 42, 176]
abbrev dktJ9_append_1 : List UInt8 := dkwJ9_append_1 ++ []
def dkwJ9_append_0 : List UInt8 := [43, 199, 0, 8, 42, 182, 0, 204, 176, 43, 182, 0, 32, 61, 42, 42, 180, 0, 79, 28, 96, 182, 0, 100]
abbrev dktJ9_append_0 : List UInt8 := dkwJ9_append_0 ++ dktJ9_append_1
theorem dksJ9_append_0 : cJ9_append.data.toList.drop 0 = dktJ9_append_0 := by decide +kernel
theorem dksJ9_append_1 : cJ9_append.data.toList.drop 24 = dktJ9_append_1 := dk_seg dksJ9_append_0 24 rfl rfl
theorem dJ9_append_0 : decode cJ9_append 0 = .ok (.aload_n 1, 1) := dk_43 (dk_at dksJ9_append_0 0 rfl rfl)
theorem dJ9_append_1 : decode cJ9_append 1 = .ok (.ifnonnull 8, 3) := dk_199 0 8 (dk_at dksJ9_append_0 1 rfl rfl)
theorem dJ9_append_4 : decode cJ9_append 4 = .ok (.aload_n 0, 1) := dk_42 (dk_at dksJ9_append_0 4 rfl rfl)
theorem dJ9_append_5 : decode cJ9_append 5 = .ok (.invokevirtual 204, 3) := dk_182 0 204 (dk_at dksJ9_append_0 5 rfl rfl)
theorem dJ9_append_8 : decode cJ9_append 8 = .ok (.areturn, 1) := dk_176 (dk_at dksJ9_append_0 8 rfl rfl)
theorem dJ9_append_9 : decode cJ9_append 9 = .ok (.aload_n 1, 1) := dk_43 (dk_at dksJ9_append_0 9 rfl rfl)
theorem dJ9_append_10 : decode cJ9_append 10 = .ok (.invokevirtual 32, 3) := dk_182 0 32 (dk_at dksJ9_append_0 10 rfl rfl)
theorem dJ9_append_13 : decode cJ9_append 13 = .ok (.istore_n 2, 1) := dk_61 (dk_at dksJ9_append_0 13 rfl rfl)
theorem dJ9_append_14 : decode cJ9_append 14 = .ok (.aload_n 0, 1) := dk_42 (dk_at dksJ9_append_0 14 rfl rfl)
theorem dJ9_append_15 : decode cJ9_append 15 = .ok (.aload_n 0, 1) := dk_42 (dk_at dksJ9_append_0 15 rfl rfl)
theorem dJ9_append_16 : decode cJ9_append 16 = .ok (.getfield 79, 3) := dk_180 0 79 (dk_at dksJ9_append_0 16 rfl rfl)
theorem dJ9_append_19 : decode cJ9_append 19 = .ok (.iload_n 2, 1) := dk_28 (dk_at dksJ9_append_0 19 rfl rfl)
theorem dJ9_append_20 : decode cJ9_append 20 = .ok (.iadd, 1) := dk_96 (dk_at dksJ9_append_0 20 rfl rfl)
theorem dJ9_append_21 : decode cJ9_append 21 = .ok (.invokevirtual 100, 3) := dk_182 0 100 (dk_at dksJ9_append_0 21 rfl rfl)
theorem dJ9_append_24 : decode cJ9_append 24 = .ok (.aload_n 0, 1) := dk_42 (dk_at dksJ9_append_1 0 rfl rfl)
theorem dJ9_append_25 : decode cJ9_append 25 = .ok (.aload_n 0, 1) := dk_42 (dk_at dksJ9_append_1 1 rfl rfl)
theorem dJ9_append_26 : decode cJ9_append 26 = .ok (.getfield 79, 3) := dk_180 0 79 (dk_at dksJ9_append_1 2 rfl rfl)
theorem dJ9_append_29 : decode cJ9_append 29 = .ok (.aload_n 1, 1) := dk_43 (dk_at dksJ9_append_1 5 rfl rfl)
theorem dJ9_append_30 : decode cJ9_append 30 = .ok (.invokevirtual 208, 3) := dk_182 0 208 (dk_at dksJ9_append_1 6 rfl rfl)
theorem dJ9_append_33 : decode cJ9_append 33 = .ok (.aload_n 0, 1) := dk_42 (dk_at dksJ9_append_1 9 rfl rfl)
theorem dJ9_append_34 : decode cJ9_append 34 = .ok (.dup, 1) := dk_89 (dk_at dksJ9_append_1 10 rfl rfl)
theorem dJ9_append_35 : decode cJ9_append 35 = .ok (.getfield 79, 3) := dk_180 0 79 (dk_at dksJ9_append_1 11 rfl rfl)
theorem dJ9_append_38 : decode cJ9_append 38 = .ok (.iload_n 2, 1) := dk_28 (dk_at dksJ9_append_1 14 rfl rfl)
theorem dJ9_append_39 : decode cJ9_append 39 = .ok (.iadd, 1) := dk_96 (dk_at dksJ9_append_1 15 rfl rfl)
theorem dJ9_append_40 : decode cJ9_append 40 = .ok (.putfield 79, 3) := dk_181 0 79 (dk_at dksJ9_append_1 16 rfl rfl)
theorem dJ9_append_43 : decode cJ9_append 43 = .ok (.aload_n 0, 1) := dk_42 (dk_at dksJ9_append_1 19 rfl rfl)
theorem dJ9_append_44 : decode cJ9_append 44 = .ok (.areturn, 1) := dk_176 (dk_at dksJ9_append_1 20 rfl rfl)
abbrev cJ9_appendNull : ByteArray := prog_16_method_26_code
def yJ9_appendNull : MethodName := ⟨RJ9, "appendNull", "()Ljava/lang/AbstractStringBuilder;"⟩
def dkwJ9_appendNull_3 : List UInt8 := [184, 0, 226, 60, 42, 27, 181, 0, 79, 42, 176]
abbrev dktJ9_appendNull_3 : List UInt8 := dkwJ9_appendNull_3 ++ []
def dkwJ9_appendNull_2 : List UInt8 := [16, 108, 84, 44, 27, 132, 1, 1, 16, 108, 84, 167, 0, 17, 44, 27, 16, 110, 16, 117, 16, 108, 16, 108]
abbrev dktJ9_appendNull_2 : List UInt8 := dkwJ9_appendNull_2 ++ dktJ9_appendNull_3
def dkwJ9_appendNull_1 : List UInt8 := [153, 0, 38, 44, 27, 132, 1, 1, 16, 110, 84, 44, 27, 132, 1, 1, 16, 117, 84, 44, 27, 132, 1, 1]
abbrev dktJ9_appendNull_1 : List UInt8 := dkwJ9_appendNull_1 ++ dktJ9_appendNull_2
def dkwJ9_appendNull_0 : List UInt8 := [42, 42, 180, 0, 79, 7, 96, 182, 0, 100, 42, 180, 0, 79, 60, 42, 180, 0, 15, 77, 42, 182, 0, 83]
abbrev dktJ9_appendNull_0 : List UInt8 := dkwJ9_appendNull_0 ++ dktJ9_appendNull_1
theorem dksJ9_appendNull_0 : cJ9_appendNull.data.toList.drop 0 = dktJ9_appendNull_0 := by decide +kernel
theorem dksJ9_appendNull_1 : cJ9_appendNull.data.toList.drop 24 = dktJ9_appendNull_1 := dk_seg dksJ9_appendNull_0 24 rfl rfl
theorem dksJ9_appendNull_2 : cJ9_appendNull.data.toList.drop 48 = dktJ9_appendNull_2 := dk_seg dksJ9_appendNull_1 24 rfl rfl
theorem dksJ9_appendNull_3 : cJ9_appendNull.data.toList.drop 72 = dktJ9_appendNull_3 := dk_seg dksJ9_appendNull_2 24 rfl rfl
theorem dJ9_appendNull_0 : decode cJ9_appendNull 0 = .ok (.aload_n 0, 1) := dk_42 (dk_at dksJ9_appendNull_0 0 rfl rfl)
theorem dJ9_appendNull_1 : decode cJ9_appendNull 1 = .ok (.aload_n 0, 1) := dk_42 (dk_at dksJ9_appendNull_0 1 rfl rfl)
theorem dJ9_appendNull_2 : decode cJ9_appendNull 2 = .ok (.getfield 79, 3) := dk_180 0 79 (dk_at dksJ9_appendNull_0 2 rfl rfl)
theorem dJ9_appendNull_5 : decode cJ9_appendNull 5 = .ok (.iconst 4, 1) := dk_7 (dk_at dksJ9_appendNull_0 5 rfl rfl)
theorem dJ9_appendNull_6 : decode cJ9_appendNull 6 = .ok (.iadd, 1) := dk_96 (dk_at dksJ9_appendNull_0 6 rfl rfl)
theorem dJ9_appendNull_7 : decode cJ9_appendNull 7 = .ok (.invokevirtual 100, 3) := dk_182 0 100 (dk_at dksJ9_appendNull_0 7 rfl rfl)
theorem dJ9_appendNull_10 : decode cJ9_appendNull 10 = .ok (.aload_n 0, 1) := dk_42 (dk_at dksJ9_appendNull_0 10 rfl rfl)
theorem dJ9_appendNull_11 : decode cJ9_appendNull 11 = .ok (.getfield 79, 3) := dk_180 0 79 (dk_at dksJ9_appendNull_0 11 rfl rfl)
theorem dJ9_appendNull_14 : decode cJ9_appendNull 14 = .ok (.istore_n 1, 1) := dk_60 (dk_at dksJ9_appendNull_0 14 rfl rfl)
theorem dJ9_appendNull_15 : decode cJ9_appendNull 15 = .ok (.aload_n 0, 1) := dk_42 (dk_at dksJ9_appendNull_0 15 rfl rfl)
theorem dJ9_appendNull_16 : decode cJ9_appendNull 16 = .ok (.getfield 15, 3) := dk_180 0 15 (dk_at dksJ9_appendNull_0 16 rfl rfl)
theorem dJ9_appendNull_19 : decode cJ9_appendNull 19 = .ok (.astore_n 2, 1) := dk_77 (dk_at dksJ9_appendNull_0 19 rfl rfl)
theorem dJ9_appendNull_20 : decode cJ9_appendNull 20 = .ok (.aload_n 0, 1) := dk_42 (dk_at dksJ9_appendNull_0 20 rfl rfl)
theorem dJ9_appendNull_21 : decode cJ9_appendNull 21 = .ok (.invokevirtual 83, 3) := dk_182 0 83 (dk_at dksJ9_appendNull_0 21 rfl rfl)
theorem dJ9_appendNull_24 : decode cJ9_appendNull 24 = .ok (.ifCond .eq 38, 3) := dk_153 0 38 (dk_at dksJ9_appendNull_1 0 rfl rfl)
theorem dJ9_appendNull_27 : decode cJ9_appendNull 27 = .ok (.aload_n 2, 1) := dk_44 (dk_at dksJ9_appendNull_1 3 rfl rfl)
theorem dJ9_appendNull_28 : decode cJ9_appendNull 28 = .ok (.iload_n 1, 1) := dk_27 (dk_at dksJ9_appendNull_1 4 rfl rfl)
theorem dJ9_appendNull_29 : decode cJ9_appendNull 29 = .ok (.iinc 1 1, 3) := dk_132 1 1 (dk_at dksJ9_appendNull_1 5 rfl rfl)
theorem dJ9_appendNull_32 : decode cJ9_appendNull 32 = .ok (.bipush 110, 2) := dk_16 110 (dk_at dksJ9_appendNull_1 8 rfl rfl)
theorem dJ9_appendNull_34 : decode cJ9_appendNull 34 = .ok (.bastore, 1) := dk_84 (dk_at dksJ9_appendNull_1 10 rfl rfl)
theorem dJ9_appendNull_35 : decode cJ9_appendNull 35 = .ok (.aload_n 2, 1) := dk_44 (dk_at dksJ9_appendNull_1 11 rfl rfl)
theorem dJ9_appendNull_36 : decode cJ9_appendNull 36 = .ok (.iload_n 1, 1) := dk_27 (dk_at dksJ9_appendNull_1 12 rfl rfl)
theorem dJ9_appendNull_37 : decode cJ9_appendNull 37 = .ok (.iinc 1 1, 3) := dk_132 1 1 (dk_at dksJ9_appendNull_1 13 rfl rfl)
theorem dJ9_appendNull_40 : decode cJ9_appendNull 40 = .ok (.bipush 117, 2) := dk_16 117 (dk_at dksJ9_appendNull_1 16 rfl rfl)
theorem dJ9_appendNull_42 : decode cJ9_appendNull 42 = .ok (.bastore, 1) := dk_84 (dk_at dksJ9_appendNull_1 18 rfl rfl)
theorem dJ9_appendNull_43 : decode cJ9_appendNull 43 = .ok (.aload_n 2, 1) := dk_44 (dk_at dksJ9_appendNull_1 19 rfl rfl)
theorem dJ9_appendNull_44 : decode cJ9_appendNull 44 = .ok (.iload_n 1, 1) := dk_27 (dk_at dksJ9_appendNull_1 20 rfl rfl)
theorem dJ9_appendNull_45 : decode cJ9_appendNull 45 = .ok (.iinc 1 1, 3) := dk_132 1 1 (dk_at dksJ9_appendNull_1 21 rfl rfl)
theorem dJ9_appendNull_48 : decode cJ9_appendNull 48 = .ok (.bipush 108, 2) := dk_16 108 (dk_at dksJ9_appendNull_2 0 rfl rfl)
theorem dJ9_appendNull_50 : decode cJ9_appendNull 50 = .ok (.bastore, 1) := dk_84 (dk_at dksJ9_appendNull_2 2 rfl rfl)
theorem dJ9_appendNull_51 : decode cJ9_appendNull 51 = .ok (.aload_n 2, 1) := dk_44 (dk_at dksJ9_appendNull_2 3 rfl rfl)
theorem dJ9_appendNull_52 : decode cJ9_appendNull 52 = .ok (.iload_n 1, 1) := dk_27 (dk_at dksJ9_appendNull_2 4 rfl rfl)
theorem dJ9_appendNull_53 : decode cJ9_appendNull 53 = .ok (.iinc 1 1, 3) := dk_132 1 1 (dk_at dksJ9_appendNull_2 5 rfl rfl)
theorem dJ9_appendNull_56 : decode cJ9_appendNull 56 = .ok (.bipush 108, 2) := dk_16 108 (dk_at dksJ9_appendNull_2 8 rfl rfl)
theorem dJ9_appendNull_58 : decode cJ9_appendNull 58 = .ok (.bastore, 1) := dk_84 (dk_at dksJ9_appendNull_2 10 rfl rfl)
theorem dJ9_appendNull_59 : decode cJ9_appendNull 59 = .ok (.goto 17, 3) := dk_167 0 17 (dk_at dksJ9_appendNull_2 11 rfl rfl)
theorem dJ9_appendNull_62 : decode cJ9_appendNull 62 = .ok (.aload_n 2, 1) := dk_44 (dk_at dksJ9_appendNull_2 14 rfl rfl)
theorem dJ9_appendNull_63 : decode cJ9_appendNull 63 = .ok (.iload_n 1, 1) := dk_27 (dk_at dksJ9_appendNull_2 15 rfl rfl)
theorem dJ9_appendNull_64 : decode cJ9_appendNull 64 = .ok (.bipush 110, 2) := dk_16 110 (dk_at dksJ9_appendNull_2 16 rfl rfl)
theorem dJ9_appendNull_66 : decode cJ9_appendNull 66 = .ok (.bipush 117, 2) := dk_16 117 (dk_at dksJ9_appendNull_2 18 rfl rfl)
theorem dJ9_appendNull_68 : decode cJ9_appendNull 68 = .ok (.bipush 108, 2) := dk_16 108 (dk_at dksJ9_appendNull_2 20 rfl rfl)
theorem dJ9_appendNull_70 : decode cJ9_appendNull 70 = .ok (.bipush 108, 2) := dk_16 108 (dk_at dksJ9_appendNull_2 22 rfl rfl)
theorem dJ9_appendNull_72 : decode cJ9_appendNull 72 = .ok (.invokestatic 226, 3) := dk_184 0 226 (dk_at dksJ9_appendNull_3 0 rfl rfl)
theorem dJ9_appendNull_75 : decode cJ9_appendNull 75 = .ok (.istore_n 1, 1) := dk_60 (dk_at dksJ9_appendNull_3 3 rfl rfl)
theorem dJ9_appendNull_76 : decode cJ9_appendNull 76 = .ok (.aload_n 0, 1) := dk_42 (dk_at dksJ9_appendNull_3 4 rfl rfl)
theorem dJ9_appendNull_77 : decode cJ9_appendNull 77 = .ok (.iload_n 1, 1) := dk_27 (dk_at dksJ9_appendNull_3 5 rfl rfl)
theorem dJ9_appendNull_78 : decode cJ9_appendNull 78 = .ok (.putfield 79, 3) := dk_181 0 79 (dk_at dksJ9_appendNull_3 6 rfl rfl)
theorem dJ9_appendNull_81 : decode cJ9_appendNull 81 = .ok (.aload_n 0, 1) := dk_42 (dk_at dksJ9_appendNull_3 9 rfl rfl)
theorem dJ9_appendNull_82 : decode cJ9_appendNull 82 = .ok (.areturn, 1) := dk_176 (dk_at dksJ9_appendNull_3 10 rfl rfl)
abbrev cJ9_ensureCapacityInternal : ByteArray := prog_16_method_9_code
def yJ9_ensureCapacityInternal : MethodName := ⟨RJ9, "ensureCapacityInternal", "(I)V"⟩
def dkwJ9_ensureCapacityInternal_1 : List UInt8 := [182, 0, 104, 42, 180, 0, 22, 120, 184, 0, 108, 181, 0, 15, 177]
abbrev dktJ9_ensureCapacityInternal_1 : List UInt8 := dkwJ9_ensureCapacityInternal_1 ++ []
def dkwJ9_ensureCapacityInternal_0 : List UInt8 := [42, 180, 0, 15, 190, 42, 180, 0, 22, 122, 61, 27, 28, 100, 158, 0, 24, 42, 42, 180, 0, 15, 42, 27]
abbrev dktJ9_ensureCapacityInternal_0 : List UInt8 := dkwJ9_ensureCapacityInternal_0 ++ dktJ9_ensureCapacityInternal_1
theorem dksJ9_ensureCapacityInternal_0 : cJ9_ensureCapacityInternal.data.toList.drop 0 = dktJ9_ensureCapacityInternal_0 := by decide +kernel
theorem dksJ9_ensureCapacityInternal_1 : cJ9_ensureCapacityInternal.data.toList.drop 24 = dktJ9_ensureCapacityInternal_1 := dk_seg dksJ9_ensureCapacityInternal_0 24 rfl rfl
theorem dJ9_ensureCapacityInternal_0 : decode cJ9_ensureCapacityInternal 0 = .ok (.aload_n 0, 1) := dk_42 (dk_at dksJ9_ensureCapacityInternal_0 0 rfl rfl)
theorem dJ9_ensureCapacityInternal_1 : decode cJ9_ensureCapacityInternal 1 = .ok (.getfield 15, 3) := dk_180 0 15 (dk_at dksJ9_ensureCapacityInternal_0 1 rfl rfl)
theorem dJ9_ensureCapacityInternal_4 : decode cJ9_ensureCapacityInternal 4 = .ok (.arraylength, 1) := dk_190 (dk_at dksJ9_ensureCapacityInternal_0 4 rfl rfl)
theorem dJ9_ensureCapacityInternal_5 : decode cJ9_ensureCapacityInternal 5 = .ok (.aload_n 0, 1) := dk_42 (dk_at dksJ9_ensureCapacityInternal_0 5 rfl rfl)
theorem dJ9_ensureCapacityInternal_6 : decode cJ9_ensureCapacityInternal 6 = .ok (.getfield 22, 3) := dk_180 0 22 (dk_at dksJ9_ensureCapacityInternal_0 6 rfl rfl)
theorem dJ9_ensureCapacityInternal_9 : decode cJ9_ensureCapacityInternal 9 = .ok (.ishr, 1) := dk_122 (dk_at dksJ9_ensureCapacityInternal_0 9 rfl rfl)
theorem dJ9_ensureCapacityInternal_10 : decode cJ9_ensureCapacityInternal 10 = .ok (.istore_n 2, 1) := dk_61 (dk_at dksJ9_ensureCapacityInternal_0 10 rfl rfl)
theorem dJ9_ensureCapacityInternal_11 : decode cJ9_ensureCapacityInternal 11 = .ok (.iload_n 1, 1) := dk_27 (dk_at dksJ9_ensureCapacityInternal_0 11 rfl rfl)
theorem dJ9_ensureCapacityInternal_12 : decode cJ9_ensureCapacityInternal 12 = .ok (.iload_n 2, 1) := dk_28 (dk_at dksJ9_ensureCapacityInternal_0 12 rfl rfl)
theorem dJ9_ensureCapacityInternal_13 : decode cJ9_ensureCapacityInternal 13 = .ok (.isub, 1) := dk_100 (dk_at dksJ9_ensureCapacityInternal_0 13 rfl rfl)
theorem dJ9_ensureCapacityInternal_14 : decode cJ9_ensureCapacityInternal 14 = .ok (.ifCond .le 24, 3) := dk_158 0 24 (dk_at dksJ9_ensureCapacityInternal_0 14 rfl rfl)
theorem dJ9_ensureCapacityInternal_17 : decode cJ9_ensureCapacityInternal 17 = .ok (.aload_n 0, 1) := dk_42 (dk_at dksJ9_ensureCapacityInternal_0 17 rfl rfl)
theorem dJ9_ensureCapacityInternal_18 : decode cJ9_ensureCapacityInternal 18 = .ok (.aload_n 0, 1) := dk_42 (dk_at dksJ9_ensureCapacityInternal_0 18 rfl rfl)
theorem dJ9_ensureCapacityInternal_19 : decode cJ9_ensureCapacityInternal 19 = .ok (.getfield 15, 3) := dk_180 0 15 (dk_at dksJ9_ensureCapacityInternal_0 19 rfl rfl)
theorem dJ9_ensureCapacityInternal_22 : decode cJ9_ensureCapacityInternal 22 = .ok (.aload_n 0, 1) := dk_42 (dk_at dksJ9_ensureCapacityInternal_0 22 rfl rfl)
theorem dJ9_ensureCapacityInternal_23 : decode cJ9_ensureCapacityInternal 23 = .ok (.iload_n 1, 1) := dk_27 (dk_at dksJ9_ensureCapacityInternal_0 23 rfl rfl)
theorem dJ9_ensureCapacityInternal_24 : decode cJ9_ensureCapacityInternal 24 = .ok (.invokevirtual 104, 3) := dk_182 0 104 (dk_at dksJ9_ensureCapacityInternal_1 0 rfl rfl)
theorem dJ9_ensureCapacityInternal_27 : decode cJ9_ensureCapacityInternal 27 = .ok (.aload_n 0, 1) := dk_42 (dk_at dksJ9_ensureCapacityInternal_1 3 rfl rfl)
theorem dJ9_ensureCapacityInternal_28 : decode cJ9_ensureCapacityInternal 28 = .ok (.getfield 22, 3) := dk_180 0 22 (dk_at dksJ9_ensureCapacityInternal_1 4 rfl rfl)
theorem dJ9_ensureCapacityInternal_31 : decode cJ9_ensureCapacityInternal 31 = .ok (.ishl, 1) := dk_120 (dk_at dksJ9_ensureCapacityInternal_1 7 rfl rfl)
theorem dJ9_ensureCapacityInternal_32 : decode cJ9_ensureCapacityInternal 32 = .ok (.invokestatic 108, 3) := dk_184 0 108 (dk_at dksJ9_ensureCapacityInternal_1 8 rfl rfl)
theorem dJ9_ensureCapacityInternal_35 : decode cJ9_ensureCapacityInternal 35 = .ok (.putfield 15, 3) := dk_181 0 15 (dk_at dksJ9_ensureCapacityInternal_1 11 rfl rfl)
theorem dJ9_ensureCapacityInternal_38 : decode cJ9_ensureCapacityInternal 38 = .ok (.return_, 1) := dk_177 (dk_at dksJ9_ensureCapacityInternal_1 14 rfl rfl)
abbrev cJ9_newCapacity : ByteArray := prog_16_method_10_code
def yJ9_newCapacity : MethodName := ⟨RJ9, "newCapacity", "(I)I"⟩
def dkwJ9_newCapacity_2 : List UInt8 := [183, 0, 124, 191, 21, 5, 42, 180, 0, 22, 122, 172]
abbrev dktJ9_newCapacity_2 : List UInt8 := dkwJ9_newCapacity_2 ++ []
def dkwJ9_newCapacity_1 : List UInt8 := [180, 0, 22, 120, 96, 184, 0, 114, 54, 5, 21, 5, 18, 39, 160, 0, 13, 187, 0, 120, 89, 18, 122]
abbrev dktJ9_newCapacity_1 : List UInt8 := dkwJ9_newCapacity_1 ++ dktJ9_newCapacity_2
def dkwJ9_newCapacity_0 : List UInt8 := [42, 180, 0, 15, 190, 61, 27, 42, 180, 0, 22, 120, 62, 29, 28, 100, 54, 4, 28, 21, 4, 28, 5, 42]
abbrev dktJ9_newCapacity_0 : List UInt8 := dkwJ9_newCapacity_0 ++ dktJ9_newCapacity_1
theorem dksJ9_newCapacity_0 : cJ9_newCapacity.data.toList.drop 0 = dktJ9_newCapacity_0 := by decide +kernel
theorem dksJ9_newCapacity_1 : cJ9_newCapacity.data.toList.drop 24 = dktJ9_newCapacity_1 := dk_seg dksJ9_newCapacity_0 24 rfl rfl
theorem dksJ9_newCapacity_2 : cJ9_newCapacity.data.toList.drop 47 = dktJ9_newCapacity_2 := dk_seg dksJ9_newCapacity_1 23 rfl rfl
theorem dJ9_newCapacity_0 : decode cJ9_newCapacity 0 = .ok (.aload_n 0, 1) := dk_42 (dk_at dksJ9_newCapacity_0 0 rfl rfl)
theorem dJ9_newCapacity_1 : decode cJ9_newCapacity 1 = .ok (.getfield 15, 3) := dk_180 0 15 (dk_at dksJ9_newCapacity_0 1 rfl rfl)
theorem dJ9_newCapacity_4 : decode cJ9_newCapacity 4 = .ok (.arraylength, 1) := dk_190 (dk_at dksJ9_newCapacity_0 4 rfl rfl)
theorem dJ9_newCapacity_5 : decode cJ9_newCapacity 5 = .ok (.istore_n 2, 1) := dk_61 (dk_at dksJ9_newCapacity_0 5 rfl rfl)
theorem dJ9_newCapacity_6 : decode cJ9_newCapacity 6 = .ok (.iload_n 1, 1) := dk_27 (dk_at dksJ9_newCapacity_0 6 rfl rfl)
theorem dJ9_newCapacity_7 : decode cJ9_newCapacity 7 = .ok (.aload_n 0, 1) := dk_42 (dk_at dksJ9_newCapacity_0 7 rfl rfl)
theorem dJ9_newCapacity_8 : decode cJ9_newCapacity 8 = .ok (.getfield 22, 3) := dk_180 0 22 (dk_at dksJ9_newCapacity_0 8 rfl rfl)
theorem dJ9_newCapacity_11 : decode cJ9_newCapacity 11 = .ok (.ishl, 1) := dk_120 (dk_at dksJ9_newCapacity_0 11 rfl rfl)
theorem dJ9_newCapacity_12 : decode cJ9_newCapacity 12 = .ok (.istore_n 3, 1) := dk_62 (dk_at dksJ9_newCapacity_0 12 rfl rfl)
theorem dJ9_newCapacity_13 : decode cJ9_newCapacity 13 = .ok (.iload_n 3, 1) := dk_29 (dk_at dksJ9_newCapacity_0 13 rfl rfl)
theorem dJ9_newCapacity_14 : decode cJ9_newCapacity 14 = .ok (.iload_n 2, 1) := dk_28 (dk_at dksJ9_newCapacity_0 14 rfl rfl)
theorem dJ9_newCapacity_15 : decode cJ9_newCapacity 15 = .ok (.isub, 1) := dk_100 (dk_at dksJ9_newCapacity_0 15 rfl rfl)
theorem dJ9_newCapacity_16 : decode cJ9_newCapacity 16 = .ok (.istore 4, 2) := dk_54 4 (dk_at dksJ9_newCapacity_0 16 rfl rfl)
theorem dJ9_newCapacity_18 : decode cJ9_newCapacity 18 = .ok (.iload_n 2, 1) := dk_28 (dk_at dksJ9_newCapacity_0 18 rfl rfl)
theorem dJ9_newCapacity_19 : decode cJ9_newCapacity 19 = .ok (.iload 4, 2) := dk_21 4 (dk_at dksJ9_newCapacity_0 19 rfl rfl)
theorem dJ9_newCapacity_21 : decode cJ9_newCapacity 21 = .ok (.iload_n 2, 1) := dk_28 (dk_at dksJ9_newCapacity_0 21 rfl rfl)
theorem dJ9_newCapacity_22 : decode cJ9_newCapacity 22 = .ok (.iconst 2, 1) := dk_5 (dk_at dksJ9_newCapacity_0 22 rfl rfl)
theorem dJ9_newCapacity_23 : decode cJ9_newCapacity 23 = .ok (.aload_n 0, 1) := dk_42 (dk_at dksJ9_newCapacity_0 23 rfl rfl)
theorem dJ9_newCapacity_24 : decode cJ9_newCapacity 24 = .ok (.getfield 22, 3) := dk_180 0 22 (dk_at dksJ9_newCapacity_1 0 rfl rfl)
theorem dJ9_newCapacity_27 : decode cJ9_newCapacity 27 = .ok (.ishl, 1) := dk_120 (dk_at dksJ9_newCapacity_1 3 rfl rfl)
theorem dJ9_newCapacity_28 : decode cJ9_newCapacity 28 = .ok (.iadd, 1) := dk_96 (dk_at dksJ9_newCapacity_1 4 rfl rfl)
theorem dJ9_newCapacity_29 : decode cJ9_newCapacity 29 = .ok (.invokestatic 114, 3) := dk_184 0 114 (dk_at dksJ9_newCapacity_1 5 rfl rfl)
theorem dJ9_newCapacity_32 : decode cJ9_newCapacity 32 = .ok (.istore 5, 2) := dk_54 5 (dk_at dksJ9_newCapacity_1 8 rfl rfl)
theorem dJ9_newCapacity_34 : decode cJ9_newCapacity 34 = .ok (.iload 5, 2) := dk_21 5 (dk_at dksJ9_newCapacity_1 10 rfl rfl)
theorem dJ9_newCapacity_36 : decode cJ9_newCapacity 36 = .ok (.ldc 39, 2) := dk_18 39 (dk_at dksJ9_newCapacity_1 12 rfl rfl)
theorem dJ9_newCapacity_38 : decode cJ9_newCapacity 38 = .ok (.if_icmp .ne 13, 3) := dk_160 0 13 (dk_at dksJ9_newCapacity_1 14 rfl rfl)
theorem dJ9_newCapacity_41 : decode cJ9_newCapacity 41 = .ok (.new 120, 3) := dk_187 0 120 (dk_at dksJ9_newCapacity_1 17 rfl rfl)
theorem dJ9_newCapacity_44 : decode cJ9_newCapacity 44 = .ok (.dup, 1) := dk_89 (dk_at dksJ9_newCapacity_1 20 rfl rfl)
theorem dJ9_newCapacity_45 : decode cJ9_newCapacity 45 = .ok (.ldc 122, 2) := dk_18 122 (dk_at dksJ9_newCapacity_1 21 rfl rfl)
theorem dJ9_newCapacity_47 : decode cJ9_newCapacity 47 = .ok (.invokespecial 124, 3) := dk_183 0 124 (dk_at dksJ9_newCapacity_2 0 rfl rfl)
theorem dJ9_newCapacity_50 : decode cJ9_newCapacity 50 = .ok (.athrow, 1) := dk_191 (dk_at dksJ9_newCapacity_2 3 rfl rfl)
theorem dJ9_newCapacity_51 : decode cJ9_newCapacity 51 = .ok (.iload 5, 2) := dk_21 5 (dk_at dksJ9_newCapacity_2 4 rfl rfl)
theorem dJ9_newCapacity_53 : decode cJ9_newCapacity 53 = .ok (.aload_n 0, 1) := dk_42 (dk_at dksJ9_newCapacity_2 6 rfl rfl)
theorem dJ9_newCapacity_54 : decode cJ9_newCapacity 54 = .ok (.getfield 22, 3) := dk_180 0 22 (dk_at dksJ9_newCapacity_2 7 rfl rfl)
theorem dJ9_newCapacity_57 : decode cJ9_newCapacity 57 = .ok (.ishr, 1) := dk_122 (dk_at dksJ9_newCapacity_2 10 rfl rfl)
theorem dJ9_newCapacity_58 : decode cJ9_newCapacity 58 = .ok (.ireturn, 1) := dk_172 (dk_at dksJ9_newCapacity_2 11 rfl rfl)
abbrev cJ9_isLatin1 : ByteArray := prog_16_method_68_code
def yJ9_isLatin1 : MethodName := ⟨RJ9, "isLatin1", "()Z"⟩
def dkwJ9_isLatin1_0 : List UInt8 := [178, 0, 18, 153, 0, 14, 42, 180, 0, 22, 154, 0, 7, 4, 167, 0, 4, 3, 172]
abbrev dktJ9_isLatin1_0 : List UInt8 := dkwJ9_isLatin1_0 ++ []
theorem dksJ9_isLatin1_0 : cJ9_isLatin1.data.toList.drop 0 = dktJ9_isLatin1_0 := by decide +kernel
theorem dJ9_isLatin1_0 : decode cJ9_isLatin1 0 = .ok (.getstatic 18, 3) := dk_178 0 18 (dk_at dksJ9_isLatin1_0 0 rfl rfl)
theorem dJ9_isLatin1_3 : decode cJ9_isLatin1 3 = .ok (.ifCond .eq 14, 3) := dk_153 0 14 (dk_at dksJ9_isLatin1_0 3 rfl rfl)
theorem dJ9_isLatin1_6 : decode cJ9_isLatin1 6 = .ok (.aload_n 0, 1) := dk_42 (dk_at dksJ9_isLatin1_0 6 rfl rfl)
theorem dJ9_isLatin1_7 : decode cJ9_isLatin1 7 = .ok (.getfield 22, 3) := dk_180 0 22 (dk_at dksJ9_isLatin1_0 7 rfl rfl)
theorem dJ9_isLatin1_10 : decode cJ9_isLatin1 10 = .ok (.ifCond .ne 7, 3) := dk_154 0 7 (dk_at dksJ9_isLatin1_0 10 rfl rfl)
theorem dJ9_isLatin1_13 : decode cJ9_isLatin1 13 = .ok (.iconst 1, 1) := dk_4 (dk_at dksJ9_isLatin1_0 13 rfl rfl)
theorem dJ9_isLatin1_14 : decode cJ9_isLatin1 14 = .ok (.goto 4, 3) := dk_167 0 4 (dk_at dksJ9_isLatin1_0 14 rfl rfl)
theorem dJ9_isLatin1_17 : decode cJ9_isLatin1 17 = .ok (.iconst 0, 1) := dk_3 (dk_at dksJ9_isLatin1_0 17 rfl rfl)
theorem dJ9_isLatin1_18 : decode cJ9_isLatin1 18 = .ok (.ireturn, 1) := dk_172 (dk_at dksJ9_isLatin1_0 18 rfl rfl)
abbrev cJ9_putStringAt : ByteArray := prog_16_method_73_code
def yJ9_putStringAt : MethodName := ⟨RJ9, "putStringAt", "(ILjava/lang/String;)V"⟩
def dkwJ9_putStringAt_0 : List UInt8 := [42, 44, 182, 1, 141, 44, 42, 180, 0, 15, 27, 42, 180, 0, 22, 182, 1, 143, 177]
abbrev dktJ9_putStringAt_0 : List UInt8 := dkwJ9_putStringAt_0 ++ []
theorem dksJ9_putStringAt_0 : cJ9_putStringAt.data.toList.drop 0 = dktJ9_putStringAt_0 := by decide +kernel
theorem dJ9_putStringAt_0 : decode cJ9_putStringAt 0 = .ok (.aload_n 0, 1) := dk_42 (dk_at dksJ9_putStringAt_0 0 rfl rfl)
theorem dJ9_putStringAt_1 : decode cJ9_putStringAt 1 = .ok (.aload_n 2, 1) := dk_44 (dk_at dksJ9_putStringAt_0 1 rfl rfl)
theorem dJ9_putStringAt_2 : decode cJ9_putStringAt 2 = .ok (.invokevirtual 397, 3) := dk_182 1 141 (dk_at dksJ9_putStringAt_0 2 rfl rfl)
theorem dJ9_putStringAt_5 : decode cJ9_putStringAt 5 = .ok (.aload_n 2, 1) := dk_44 (dk_at dksJ9_putStringAt_0 5 rfl rfl)
theorem dJ9_putStringAt_6 : decode cJ9_putStringAt 6 = .ok (.aload_n 0, 1) := dk_42 (dk_at dksJ9_putStringAt_0 6 rfl rfl)
theorem dJ9_putStringAt_7 : decode cJ9_putStringAt 7 = .ok (.getfield 15, 3) := dk_180 0 15 (dk_at dksJ9_putStringAt_0 7 rfl rfl)
theorem dJ9_putStringAt_10 : decode cJ9_putStringAt 10 = .ok (.iload_n 1, 1) := dk_27 (dk_at dksJ9_putStringAt_0 10 rfl rfl)
theorem dJ9_putStringAt_11 : decode cJ9_putStringAt 11 = .ok (.aload_n 0, 1) := dk_42 (dk_at dksJ9_putStringAt_0 11 rfl rfl)
theorem dJ9_putStringAt_12 : decode cJ9_putStringAt 12 = .ok (.getfield 22, 3) := dk_180 0 22 (dk_at dksJ9_putStringAt_0 12 rfl rfl)
theorem dJ9_putStringAt_15 : decode cJ9_putStringAt 15 = .ok (.invokevirtual 399, 3) := dk_182 1 143 (dk_at dksJ9_putStringAt_0 15 rfl rfl)
theorem dJ9_putStringAt_18 : decode cJ9_putStringAt 18 = .ok (.return_, 1) := dk_177 (dk_at dksJ9_putStringAt_0 18 rfl rfl)
abbrev cJ9_inflateIfNeededFor : ByteArray := prog_16_method_71_code
def yJ9_inflateIfNeededFor : MethodName := ⟨RJ9, "inflateIfNeededFor", "(Ljava/lang/String;)V"⟩
def dkwJ9_inflateIfNeededFor_0 : List UInt8 := [178, 0, 18, 153, 0, 18, 42, 180, 0, 22, 43, 182, 0, 40, 159, 0, 7, 42, 182, 0, 195, 177]
abbrev dktJ9_inflateIfNeededFor_0 : List UInt8 := dkwJ9_inflateIfNeededFor_0 ++ []
theorem dksJ9_inflateIfNeededFor_0 : cJ9_inflateIfNeededFor.data.toList.drop 0 = dktJ9_inflateIfNeededFor_0 := by decide +kernel
theorem dJ9_inflateIfNeededFor_0 : decode cJ9_inflateIfNeededFor 0 = .ok (.getstatic 18, 3) := dk_178 0 18 (dk_at dksJ9_inflateIfNeededFor_0 0 rfl rfl)
theorem dJ9_inflateIfNeededFor_3 : decode cJ9_inflateIfNeededFor 3 = .ok (.ifCond .eq 18, 3) := dk_153 0 18 (dk_at dksJ9_inflateIfNeededFor_0 3 rfl rfl)
theorem dJ9_inflateIfNeededFor_6 : decode cJ9_inflateIfNeededFor 6 = .ok (.aload_n 0, 1) := dk_42 (dk_at dksJ9_inflateIfNeededFor_0 6 rfl rfl)
theorem dJ9_inflateIfNeededFor_7 : decode cJ9_inflateIfNeededFor 7 = .ok (.getfield 22, 3) := dk_180 0 22 (dk_at dksJ9_inflateIfNeededFor_0 7 rfl rfl)
theorem dJ9_inflateIfNeededFor_10 : decode cJ9_inflateIfNeededFor 10 = .ok (.aload_n 1, 1) := dk_43 (dk_at dksJ9_inflateIfNeededFor_0 10 rfl rfl)
theorem dJ9_inflateIfNeededFor_11 : decode cJ9_inflateIfNeededFor 11 = .ok (.invokevirtual 40, 3) := dk_182 0 40 (dk_at dksJ9_inflateIfNeededFor_0 11 rfl rfl)
theorem dJ9_inflateIfNeededFor_14 : decode cJ9_inflateIfNeededFor 14 = .ok (.if_icmp .eq 7, 3) := dk_159 0 7 (dk_at dksJ9_inflateIfNeededFor_0 14 rfl rfl)
theorem dJ9_inflateIfNeededFor_17 : decode cJ9_inflateIfNeededFor 17 = .ok (.aload_n 0, 1) := dk_42 (dk_at dksJ9_inflateIfNeededFor_0 17 rfl rfl)
theorem dJ9_inflateIfNeededFor_18 : decode cJ9_inflateIfNeededFor 18 = .ok (.invokevirtual 195, 3) := dk_182 0 195 (dk_at dksJ9_inflateIfNeededFor_0 18 rfl rfl)
theorem dJ9_inflateIfNeededFor_21 : decode cJ9_inflateIfNeededFor 21 = .ok (.return_, 1) := dk_177 (dk_at dksJ9_inflateIfNeededFor_0 21 rfl rfl)
abbrev cJ9_inflate : ByteArray := prog_16_method_11_code
def yJ9_inflate : MethodName := ⟨RJ9, "inflate", "()V"⟩
def dkwJ9_inflate_1 : List UInt8 := [42, 180, 0, 79, 184, 0, 125, 42, 43, 181, 0, 15, 42, 4, 181, 0, 22, 177]
abbrev dktJ9_inflate_1 : List UInt8 := dkwJ9_inflate_1 ++ []
def dkwJ9_inflate_0 : List UInt8 := [42, 182, 0, 83, 154, 0, 4, 177, 42, 180, 0, 15, 190, 184, 0, 26, 76, 42, 180, 0, 15, 3, 43, 3]
abbrev dktJ9_inflate_0 : List UInt8 := dkwJ9_inflate_0 ++ dktJ9_inflate_1
theorem dksJ9_inflate_0 : cJ9_inflate.data.toList.drop 0 = dktJ9_inflate_0 := by decide +kernel
theorem dksJ9_inflate_1 : cJ9_inflate.data.toList.drop 24 = dktJ9_inflate_1 := dk_seg dksJ9_inflate_0 24 rfl rfl
theorem dJ9_inflate_0 : decode cJ9_inflate 0 = .ok (.aload_n 0, 1) := dk_42 (dk_at dksJ9_inflate_0 0 rfl rfl)
theorem dJ9_inflate_1 : decode cJ9_inflate 1 = .ok (.invokevirtual 83, 3) := dk_182 0 83 (dk_at dksJ9_inflate_0 1 rfl rfl)
theorem dJ9_inflate_4 : decode cJ9_inflate 4 = .ok (.ifCond .ne 4, 3) := dk_154 0 4 (dk_at dksJ9_inflate_0 4 rfl rfl)
theorem dJ9_inflate_7 : decode cJ9_inflate 7 = .ok (.return_, 1) := dk_177 (dk_at dksJ9_inflate_0 7 rfl rfl)
theorem dJ9_inflate_8 : decode cJ9_inflate 8 = .ok (.aload_n 0, 1) := dk_42 (dk_at dksJ9_inflate_0 8 rfl rfl)
theorem dJ9_inflate_9 : decode cJ9_inflate 9 = .ok (.getfield 15, 3) := dk_180 0 15 (dk_at dksJ9_inflate_0 9 rfl rfl)
theorem dJ9_inflate_12 : decode cJ9_inflate 12 = .ok (.arraylength, 1) := dk_190 (dk_at dksJ9_inflate_0 12 rfl rfl)
theorem dJ9_inflate_13 : decode cJ9_inflate 13 = .ok (.invokestatic 26, 3) := dk_184 0 26 (dk_at dksJ9_inflate_0 13 rfl rfl)
theorem dJ9_inflate_16 : decode cJ9_inflate 16 = .ok (.astore_n 1, 1) := dk_76 (dk_at dksJ9_inflate_0 16 rfl rfl)
theorem dJ9_inflate_17 : decode cJ9_inflate 17 = .ok (.aload_n 0, 1) := dk_42 (dk_at dksJ9_inflate_0 17 rfl rfl)
theorem dJ9_inflate_18 : decode cJ9_inflate 18 = .ok (.getfield 15, 3) := dk_180 0 15 (dk_at dksJ9_inflate_0 18 rfl rfl)
theorem dJ9_inflate_21 : decode cJ9_inflate 21 = .ok (.iconst 0, 1) := dk_3 (dk_at dksJ9_inflate_0 21 rfl rfl)
theorem dJ9_inflate_22 : decode cJ9_inflate 22 = .ok (.aload_n 1, 1) := dk_43 (dk_at dksJ9_inflate_0 22 rfl rfl)
theorem dJ9_inflate_23 : decode cJ9_inflate 23 = .ok (.iconst 0, 1) := dk_3 (dk_at dksJ9_inflate_0 23 rfl rfl)
theorem dJ9_inflate_24 : decode cJ9_inflate 24 = .ok (.aload_n 0, 1) := dk_42 (dk_at dksJ9_inflate_1 0 rfl rfl)
theorem dJ9_inflate_25 : decode cJ9_inflate 25 = .ok (.getfield 79, 3) := dk_180 0 79 (dk_at dksJ9_inflate_1 1 rfl rfl)
theorem dJ9_inflate_28 : decode cJ9_inflate 28 = .ok (.invokestatic 125, 3) := dk_184 0 125 (dk_at dksJ9_inflate_1 4 rfl rfl)
theorem dJ9_inflate_31 : decode cJ9_inflate 31 = .ok (.aload_n 0, 1) := dk_42 (dk_at dksJ9_inflate_1 7 rfl rfl)
theorem dJ9_inflate_32 : decode cJ9_inflate 32 = .ok (.aload_n 1, 1) := dk_43 (dk_at dksJ9_inflate_1 8 rfl rfl)
theorem dJ9_inflate_33 : decode cJ9_inflate 33 = .ok (.putfield 15, 3) := dk_181 0 15 (dk_at dksJ9_inflate_1 9 rfl rfl)
theorem dJ9_inflate_36 : decode cJ9_inflate 36 = .ok (.aload_n 0, 1) := dk_42 (dk_at dksJ9_inflate_1 12 rfl rfl)
theorem dJ9_inflate_37 : decode cJ9_inflate 37 = .ok (.iconst 1, 1) := dk_4 (dk_at dksJ9_inflate_1 13 rfl rfl)
theorem dJ9_inflate_38 : decode cJ9_inflate 38 = .ok (.putfield 22, 3) := dk_181 0 22 (dk_at dksJ9_inflate_1 14 rfl rfl)
theorem dJ9_inflate_41 : decode cJ9_inflate 41 = .ok (.return_, 1) := dk_177 (dk_at dksJ9_inflate_1 17 rfl rfl)
abbrev cJ9_append_2 : ByteArray := prog_16_method_32_code
def yJ9_append_2 : MethodName := ⟨RJ9, "append", "(I)Ljava/lang/AbstractStringBuilder;"⟩
def dkwJ9_append_2_2 : List UInt8 := [42, 29, 181, 0, 79, 42, 176]
abbrev dktJ9_append_2_2 : List UInt8 := dkwJ9_append_2_2 ++ []
def dkwJ9_append_2_1 : List UInt8 := [27, 29, 42, 180, 0, 15, 184, 0, 248, 87, 167, 0, 14, 27, 28, 29, 42, 180, 0, 15, 184, 0, 251, 87]
abbrev dktJ9_append_2_1 : List UInt8 := dkwJ9_append_2_1 ++ dktJ9_append_2_2
def dkwJ9_append_2_0 : List UInt8 := [42, 180, 0, 79, 61, 28, 27, 184, 0, 245, 96, 62, 42, 29, 182, 0, 100, 42, 182, 0, 83, 153, 0, 16]
abbrev dktJ9_append_2_0 : List UInt8 := dkwJ9_append_2_0 ++ dktJ9_append_2_1
theorem dksJ9_append_2_0 : cJ9_append_2.data.toList.drop 0 = dktJ9_append_2_0 := by decide +kernel
theorem dksJ9_append_2_1 : cJ9_append_2.data.toList.drop 24 = dktJ9_append_2_1 := dk_seg dksJ9_append_2_0 24 rfl rfl
theorem dksJ9_append_2_2 : cJ9_append_2.data.toList.drop 48 = dktJ9_append_2_2 := dk_seg dksJ9_append_2_1 24 rfl rfl
theorem dJ9_append_2_0 : decode cJ9_append_2 0 = .ok (.aload_n 0, 1) := dk_42 (dk_at dksJ9_append_2_0 0 rfl rfl)
theorem dJ9_append_2_1 : decode cJ9_append_2 1 = .ok (.getfield 79, 3) := dk_180 0 79 (dk_at dksJ9_append_2_0 1 rfl rfl)
theorem dJ9_append_2_4 : decode cJ9_append_2 4 = .ok (.istore_n 2, 1) := dk_61 (dk_at dksJ9_append_2_0 4 rfl rfl)
theorem dJ9_append_2_5 : decode cJ9_append_2 5 = .ok (.iload_n 2, 1) := dk_28 (dk_at dksJ9_append_2_0 5 rfl rfl)
theorem dJ9_append_2_6 : decode cJ9_append_2 6 = .ok (.iload_n 1, 1) := dk_27 (dk_at dksJ9_append_2_0 6 rfl rfl)
theorem dJ9_append_2_7 : decode cJ9_append_2 7 = .ok (.invokestatic 245, 3) := dk_184 0 245 (dk_at dksJ9_append_2_0 7 rfl rfl)
theorem dJ9_append_2_10 : decode cJ9_append_2 10 = .ok (.iadd, 1) := dk_96 (dk_at dksJ9_append_2_0 10 rfl rfl)
theorem dJ9_append_2_11 : decode cJ9_append_2 11 = .ok (.istore_n 3, 1) := dk_62 (dk_at dksJ9_append_2_0 11 rfl rfl)
theorem dJ9_append_2_12 : decode cJ9_append_2 12 = .ok (.aload_n 0, 1) := dk_42 (dk_at dksJ9_append_2_0 12 rfl rfl)
theorem dJ9_append_2_13 : decode cJ9_append_2 13 = .ok (.iload_n 3, 1) := dk_29 (dk_at dksJ9_append_2_0 13 rfl rfl)
theorem dJ9_append_2_14 : decode cJ9_append_2 14 = .ok (.invokevirtual 100, 3) := dk_182 0 100 (dk_at dksJ9_append_2_0 14 rfl rfl)
theorem dJ9_append_2_17 : decode cJ9_append_2 17 = .ok (.aload_n 0, 1) := dk_42 (dk_at dksJ9_append_2_0 17 rfl rfl)
theorem dJ9_append_2_18 : decode cJ9_append_2 18 = .ok (.invokevirtual 83, 3) := dk_182 0 83 (dk_at dksJ9_append_2_0 18 rfl rfl)
theorem dJ9_append_2_21 : decode cJ9_append_2 21 = .ok (.ifCond .eq 16, 3) := dk_153 0 16 (dk_at dksJ9_append_2_0 21 rfl rfl)
theorem dJ9_append_2_24 : decode cJ9_append_2 24 = .ok (.iload_n 1, 1) := dk_27 (dk_at dksJ9_append_2_1 0 rfl rfl)
theorem dJ9_append_2_25 : decode cJ9_append_2 25 = .ok (.iload_n 3, 1) := dk_29 (dk_at dksJ9_append_2_1 1 rfl rfl)
theorem dJ9_append_2_26 : decode cJ9_append_2 26 = .ok (.aload_n 0, 1) := dk_42 (dk_at dksJ9_append_2_1 2 rfl rfl)
theorem dJ9_append_2_27 : decode cJ9_append_2 27 = .ok (.getfield 15, 3) := dk_180 0 15 (dk_at dksJ9_append_2_1 3 rfl rfl)
theorem dJ9_append_2_30 : decode cJ9_append_2 30 = .ok (.invokestatic 248, 3) := dk_184 0 248 (dk_at dksJ9_append_2_1 6 rfl rfl)
theorem dJ9_append_2_33 : decode cJ9_append_2 33 = .ok (.pop, 1) := dk_87 (dk_at dksJ9_append_2_1 9 rfl rfl)
theorem dJ9_append_2_34 : decode cJ9_append_2 34 = .ok (.goto 14, 3) := dk_167 0 14 (dk_at dksJ9_append_2_1 10 rfl rfl)
theorem dJ9_append_2_37 : decode cJ9_append_2 37 = .ok (.iload_n 1, 1) := dk_27 (dk_at dksJ9_append_2_1 13 rfl rfl)
theorem dJ9_append_2_38 : decode cJ9_append_2 38 = .ok (.iload_n 2, 1) := dk_28 (dk_at dksJ9_append_2_1 14 rfl rfl)
theorem dJ9_append_2_39 : decode cJ9_append_2 39 = .ok (.iload_n 3, 1) := dk_29 (dk_at dksJ9_append_2_1 15 rfl rfl)
theorem dJ9_append_2_40 : decode cJ9_append_2 40 = .ok (.aload_n 0, 1) := dk_42 (dk_at dksJ9_append_2_1 16 rfl rfl)
theorem dJ9_append_2_41 : decode cJ9_append_2 41 = .ok (.getfield 15, 3) := dk_180 0 15 (dk_at dksJ9_append_2_1 17 rfl rfl)
theorem dJ9_append_2_44 : decode cJ9_append_2 44 = .ok (.invokestatic 251, 3) := dk_184 0 251 (dk_at dksJ9_append_2_1 20 rfl rfl)
theorem dJ9_append_2_47 : decode cJ9_append_2 47 = .ok (.pop, 1) := dk_87 (dk_at dksJ9_append_2_1 23 rfl rfl)
theorem dJ9_append_2_48 : decode cJ9_append_2 48 = .ok (.aload_n 0, 1) := dk_42 (dk_at dksJ9_append_2_2 0 rfl rfl)
theorem dJ9_append_2_49 : decode cJ9_append_2 49 = .ok (.iload_n 3, 1) := dk_29 (dk_at dksJ9_append_2_2 1 rfl rfl)
theorem dJ9_append_2_50 : decode cJ9_append_2 50 = .ok (.putfield 79, 3) := dk_181 0 79 (dk_at dksJ9_append_2_2 2 rfl rfl)
theorem dJ9_append_2_53 : decode cJ9_append_2 53 = .ok (.aload_n 0, 1) := dk_42 (dk_at dksJ9_append_2_2 5 rfl rfl)
theorem dJ9_append_2_54 : decode cJ9_append_2 54 = .ok (.areturn, 1) := dk_176 (dk_at dksJ9_append_2_2 6 rfl rfl)
abbrev cJ9_getValue : ByteArray := prog_16_method_64_code
def yJ9_getValue : MethodName := ⟨RJ9, "getValue", "()[B"⟩
theorem dJ9_getValue_0 : decode cJ9_getValue 0 = .ok (.aload_n 0, 1) := by decide +kernel
theorem dJ9_getValue_1 : decode cJ9_getValue 1 = .ok (.getfield 15, 3) := by decide +kernel
theorem dJ9_getValue_4 : decode cJ9_getValue 4 = .ok (.areturn, 1) := by decide +kernel
abbrev cJ9_length : ByteArray := prog_16_method_6_code
def yJ9_length : MethodName := ⟨RJ9, "length", "()I"⟩
theorem dJ9_length_0 : decode cJ9_length 0 = .ok (.aload_n 0, 1) := by decide +kernel
theorem dJ9_length_1 : decode cJ9_length 1 = .ok (.getfield 79, 3) := by decide +kernel
theorem dJ9_length_4 : decode cJ9_length 4 = .ok (.ireturn, 1) := by decide +kernel
abbrev cJ9_append_3 : ByteArray := prog_16_method_31_code
def yJ9_append_3 : MethodName := ⟨RJ9, "append", "(C)Ljava/lang/AbstractStringBuilder;"⟩
def dkwJ9_append_3_3 : List UInt8 := [181, 0, 79, 27, 184, 0, 197, 42, 176]
abbrev dktJ9_append_3_3 : List UInt8 := dkwJ9_append_3_3 ++ []
def dkwJ9_append_3_2 : List UInt8 := [182, 0, 83, 153, 0, 7, 42, 182, 0, 195, 42, 180, 0, 15, 42, 89, 180, 0, 79, 90, 4, 96]
abbrev dktJ9_append_3_2 : List UInt8 := dkwJ9_append_3_2 ++ dktJ9_append_3_3
def dkwJ9_append_3_1 : List UInt8 := [42, 180, 0, 15, 42, 89, 180, 0, 79, 90, 4, 96, 181, 0, 79, 27, 145, 84, 167, 0, 33, 42]
abbrev dktJ9_append_3_1 : List UInt8 := dkwJ9_append_3_1 ++ dktJ9_append_3_2
def dkwJ9_append_3_0 : List UInt8 := [42, 42, 180, 0, 79, 4, 96, 182, 0, 100, 42, 182, 0, 83, 153, 0, 31, 27, 184, 0, 191, 153, 0, 24]
abbrev dktJ9_append_3_0 : List UInt8 := dkwJ9_append_3_0 ++ dktJ9_append_3_1
theorem dksJ9_append_3_0 : cJ9_append_3.data.toList.drop 0 = dktJ9_append_3_0 := by decide +kernel
theorem dksJ9_append_3_1 : cJ9_append_3.data.toList.drop 24 = dktJ9_append_3_1 := dk_seg dksJ9_append_3_0 24 rfl rfl
theorem dksJ9_append_3_2 : cJ9_append_3.data.toList.drop 46 = dktJ9_append_3_2 := dk_seg dksJ9_append_3_1 22 rfl rfl
theorem dksJ9_append_3_3 : cJ9_append_3.data.toList.drop 68 = dktJ9_append_3_3 := dk_seg dksJ9_append_3_2 22 rfl rfl
theorem dJ9_append_3_0 : decode cJ9_append_3 0 = .ok (.aload_n 0, 1) := dk_42 (dk_at dksJ9_append_3_0 0 rfl rfl)
theorem dJ9_append_3_1 : decode cJ9_append_3 1 = .ok (.aload_n 0, 1) := dk_42 (dk_at dksJ9_append_3_0 1 rfl rfl)
theorem dJ9_append_3_2 : decode cJ9_append_3 2 = .ok (.getfield 79, 3) := dk_180 0 79 (dk_at dksJ9_append_3_0 2 rfl rfl)
theorem dJ9_append_3_5 : decode cJ9_append_3 5 = .ok (.iconst 1, 1) := dk_4 (dk_at dksJ9_append_3_0 5 rfl rfl)
theorem dJ9_append_3_6 : decode cJ9_append_3 6 = .ok (.iadd, 1) := dk_96 (dk_at dksJ9_append_3_0 6 rfl rfl)
theorem dJ9_append_3_7 : decode cJ9_append_3 7 = .ok (.invokevirtual 100, 3) := dk_182 0 100 (dk_at dksJ9_append_3_0 7 rfl rfl)
theorem dJ9_append_3_10 : decode cJ9_append_3 10 = .ok (.aload_n 0, 1) := dk_42 (dk_at dksJ9_append_3_0 10 rfl rfl)
theorem dJ9_append_3_11 : decode cJ9_append_3 11 = .ok (.invokevirtual 83, 3) := dk_182 0 83 (dk_at dksJ9_append_3_0 11 rfl rfl)
theorem dJ9_append_3_14 : decode cJ9_append_3 14 = .ok (.ifCond .eq 31, 3) := dk_153 0 31 (dk_at dksJ9_append_3_0 14 rfl rfl)
theorem dJ9_append_3_17 : decode cJ9_append_3 17 = .ok (.iload_n 1, 1) := dk_27 (dk_at dksJ9_append_3_0 17 rfl rfl)
theorem dJ9_append_3_18 : decode cJ9_append_3 18 = .ok (.invokestatic 191, 3) := dk_184 0 191 (dk_at dksJ9_append_3_0 18 rfl rfl)
theorem dJ9_append_3_21 : decode cJ9_append_3 21 = .ok (.ifCond .eq 24, 3) := dk_153 0 24 (dk_at dksJ9_append_3_0 21 rfl rfl)
theorem dJ9_append_3_24 : decode cJ9_append_3 24 = .ok (.aload_n 0, 1) := dk_42 (dk_at dksJ9_append_3_1 0 rfl rfl)
theorem dJ9_append_3_25 : decode cJ9_append_3 25 = .ok (.getfield 15, 3) := dk_180 0 15 (dk_at dksJ9_append_3_1 1 rfl rfl)
theorem dJ9_append_3_28 : decode cJ9_append_3 28 = .ok (.aload_n 0, 1) := dk_42 (dk_at dksJ9_append_3_1 4 rfl rfl)
theorem dJ9_append_3_29 : decode cJ9_append_3 29 = .ok (.dup, 1) := dk_89 (dk_at dksJ9_append_3_1 5 rfl rfl)
theorem dJ9_append_3_30 : decode cJ9_append_3 30 = .ok (.getfield 79, 3) := dk_180 0 79 (dk_at dksJ9_append_3_1 6 rfl rfl)
theorem dJ9_append_3_33 : decode cJ9_append_3 33 = .ok (.dup_x1, 1) := dk_90 (dk_at dksJ9_append_3_1 9 rfl rfl)
theorem dJ9_append_3_34 : decode cJ9_append_3 34 = .ok (.iconst 1, 1) := dk_4 (dk_at dksJ9_append_3_1 10 rfl rfl)
theorem dJ9_append_3_35 : decode cJ9_append_3 35 = .ok (.iadd, 1) := dk_96 (dk_at dksJ9_append_3_1 11 rfl rfl)
theorem dJ9_append_3_36 : decode cJ9_append_3 36 = .ok (.putfield 79, 3) := dk_181 0 79 (dk_at dksJ9_append_3_1 12 rfl rfl)
theorem dJ9_append_3_39 : decode cJ9_append_3 39 = .ok (.iload_n 1, 1) := dk_27 (dk_at dksJ9_append_3_1 15 rfl rfl)
theorem dJ9_append_3_40 : decode cJ9_append_3 40 = .ok (.i2b, 1) := dk_145 (dk_at dksJ9_append_3_1 16 rfl rfl)
theorem dJ9_append_3_41 : decode cJ9_append_3 41 = .ok (.bastore, 1) := dk_84 (dk_at dksJ9_append_3_1 17 rfl rfl)
theorem dJ9_append_3_42 : decode cJ9_append_3 42 = .ok (.goto 33, 3) := dk_167 0 33 (dk_at dksJ9_append_3_1 18 rfl rfl)
theorem dJ9_append_3_45 : decode cJ9_append_3 45 = .ok (.aload_n 0, 1) := dk_42 (dk_at dksJ9_append_3_1 21 rfl rfl)
theorem dJ9_append_3_46 : decode cJ9_append_3 46 = .ok (.invokevirtual 83, 3) := dk_182 0 83 (dk_at dksJ9_append_3_2 0 rfl rfl)
theorem dJ9_append_3_49 : decode cJ9_append_3 49 = .ok (.ifCond .eq 7, 3) := dk_153 0 7 (dk_at dksJ9_append_3_2 3 rfl rfl)
theorem dJ9_append_3_52 : decode cJ9_append_3 52 = .ok (.aload_n 0, 1) := dk_42 (dk_at dksJ9_append_3_2 6 rfl rfl)
theorem dJ9_append_3_53 : decode cJ9_append_3 53 = .ok (.invokevirtual 195, 3) := dk_182 0 195 (dk_at dksJ9_append_3_2 7 rfl rfl)
theorem dJ9_append_3_56 : decode cJ9_append_3 56 = .ok (.aload_n 0, 1) := dk_42 (dk_at dksJ9_append_3_2 10 rfl rfl)
theorem dJ9_append_3_57 : decode cJ9_append_3 57 = .ok (.getfield 15, 3) := dk_180 0 15 (dk_at dksJ9_append_3_2 11 rfl rfl)
theorem dJ9_append_3_60 : decode cJ9_append_3 60 = .ok (.aload_n 0, 1) := dk_42 (dk_at dksJ9_append_3_2 14 rfl rfl)
theorem dJ9_append_3_61 : decode cJ9_append_3 61 = .ok (.dup, 1) := dk_89 (dk_at dksJ9_append_3_2 15 rfl rfl)
theorem dJ9_append_3_62 : decode cJ9_append_3 62 = .ok (.getfield 79, 3) := dk_180 0 79 (dk_at dksJ9_append_3_2 16 rfl rfl)
theorem dJ9_append_3_65 : decode cJ9_append_3 65 = .ok (.dup_x1, 1) := dk_90 (dk_at dksJ9_append_3_2 19 rfl rfl)
theorem dJ9_append_3_66 : decode cJ9_append_3 66 = .ok (.iconst 1, 1) := dk_4 (dk_at dksJ9_append_3_2 20 rfl rfl)
theorem dJ9_append_3_67 : decode cJ9_append_3 67 = .ok (.iadd, 1) := dk_96 (dk_at dksJ9_append_3_2 21 rfl rfl)
theorem dJ9_append_3_68 : decode cJ9_append_3 68 = .ok (.putfield 79, 3) := dk_181 0 79 (dk_at dksJ9_append_3_3 0 rfl rfl)
theorem dJ9_append_3_71 : decode cJ9_append_3 71 = .ok (.iload_n 1, 1) := dk_27 (dk_at dksJ9_append_3_3 3 rfl rfl)
theorem dJ9_append_3_72 : decode cJ9_append_3 72 = .ok (.invokestatic 197, 3) := dk_184 0 197 (dk_at dksJ9_append_3_3 4 rfl rfl)
theorem dJ9_append_3_75 : decode cJ9_append_3 75 = .ok (.aload_n 0, 1) := dk_42 (dk_at dksJ9_append_3_3 7 rfl rfl)
theorem dJ9_append_3_76 : decode cJ9_append_3 76 = .ok (.areturn, 1) := dk_176 (dk_at dksJ9_append_3_3 8 rfl rfl)
abbrev cJ9_charAt : ByteArray := prog_16_method_14_code
def yJ9_charAt : MethodName := ⟨RJ9, "charAt", "(I)C"⟩
def dkwJ9_charAt_1 : List UInt8 := [21, 4, 184, 0, 144, 28, 154, 0, 12, 45, 27, 51, 17, 0, 255, 126, 146, 172, 45, 27, 184, 0, 148, 172]
abbrev dktJ9_charAt_1 : List UInt8 := dkwJ9_charAt_1 ++ []
def dkwJ9_charAt_0 : List UInt8 := [42, 180, 0, 22, 61, 42, 180, 0, 15, 78, 42, 180, 0, 79, 45, 190, 28, 122, 184, 0, 138, 54, 4, 27]
abbrev dktJ9_charAt_0 : List UInt8 := dkwJ9_charAt_0 ++ dktJ9_charAt_1
theorem dksJ9_charAt_0 : cJ9_charAt.data.toList.drop 0 = dktJ9_charAt_0 := by decide +kernel
theorem dksJ9_charAt_1 : cJ9_charAt.data.toList.drop 24 = dktJ9_charAt_1 := dk_seg dksJ9_charAt_0 24 rfl rfl
theorem dJ9_charAt_0 : decode cJ9_charAt 0 = .ok (.aload_n 0, 1) := dk_42 (dk_at dksJ9_charAt_0 0 rfl rfl)
theorem dJ9_charAt_1 : decode cJ9_charAt 1 = .ok (.getfield 22, 3) := dk_180 0 22 (dk_at dksJ9_charAt_0 1 rfl rfl)
theorem dJ9_charAt_4 : decode cJ9_charAt 4 = .ok (.istore_n 2, 1) := dk_61 (dk_at dksJ9_charAt_0 4 rfl rfl)
theorem dJ9_charAt_5 : decode cJ9_charAt 5 = .ok (.aload_n 0, 1) := dk_42 (dk_at dksJ9_charAt_0 5 rfl rfl)
theorem dJ9_charAt_6 : decode cJ9_charAt 6 = .ok (.getfield 15, 3) := dk_180 0 15 (dk_at dksJ9_charAt_0 6 rfl rfl)
theorem dJ9_charAt_9 : decode cJ9_charAt 9 = .ok (.astore_n 3, 1) := dk_78 (dk_at dksJ9_charAt_0 9 rfl rfl)
theorem dJ9_charAt_10 : decode cJ9_charAt 10 = .ok (.aload_n 0, 1) := dk_42 (dk_at dksJ9_charAt_0 10 rfl rfl)
theorem dJ9_charAt_11 : decode cJ9_charAt 11 = .ok (.getfield 79, 3) := dk_180 0 79 (dk_at dksJ9_charAt_0 11 rfl rfl)
theorem dJ9_charAt_14 : decode cJ9_charAt 14 = .ok (.aload_n 3, 1) := dk_45 (dk_at dksJ9_charAt_0 14 rfl rfl)
theorem dJ9_charAt_15 : decode cJ9_charAt 15 = .ok (.arraylength, 1) := dk_190 (dk_at dksJ9_charAt_0 15 rfl rfl)
theorem dJ9_charAt_16 : decode cJ9_charAt 16 = .ok (.iload_n 2, 1) := dk_28 (dk_at dksJ9_charAt_0 16 rfl rfl)
theorem dJ9_charAt_17 : decode cJ9_charAt 17 = .ok (.ishr, 1) := dk_122 (dk_at dksJ9_charAt_0 17 rfl rfl)
theorem dJ9_charAt_18 : decode cJ9_charAt 18 = .ok (.invokestatic 138, 3) := dk_184 0 138 (dk_at dksJ9_charAt_0 18 rfl rfl)
theorem dJ9_charAt_21 : decode cJ9_charAt 21 = .ok (.istore 4, 2) := dk_54 4 (dk_at dksJ9_charAt_0 21 rfl rfl)
theorem dJ9_charAt_23 : decode cJ9_charAt 23 = .ok (.iload_n 1, 1) := dk_27 (dk_at dksJ9_charAt_0 23 rfl rfl)
theorem dJ9_charAt_24 : decode cJ9_charAt 24 = .ok (.iload 4, 2) := dk_21 4 (dk_at dksJ9_charAt_1 0 rfl rfl)
theorem dJ9_charAt_26 : decode cJ9_charAt 26 = .ok (.invokestatic 144, 3) := dk_184 0 144 (dk_at dksJ9_charAt_1 2 rfl rfl)
theorem dJ9_charAt_29 : decode cJ9_charAt 29 = .ok (.iload_n 2, 1) := dk_28 (dk_at dksJ9_charAt_1 5 rfl rfl)
theorem dJ9_charAt_30 : decode cJ9_charAt 30 = .ok (.ifCond .ne 12, 3) := dk_154 0 12 (dk_at dksJ9_charAt_1 6 rfl rfl)
theorem dJ9_charAt_33 : decode cJ9_charAt 33 = .ok (.aload_n 3, 1) := dk_45 (dk_at dksJ9_charAt_1 9 rfl rfl)
theorem dJ9_charAt_34 : decode cJ9_charAt 34 = .ok (.iload_n 1, 1) := dk_27 (dk_at dksJ9_charAt_1 10 rfl rfl)
theorem dJ9_charAt_35 : decode cJ9_charAt 35 = .ok (.baload, 1) := dk_51 (dk_at dksJ9_charAt_1 11 rfl rfl)
theorem dJ9_charAt_36 : decode cJ9_charAt 36 = .ok (.sipush 255, 3) := dk_17 0 255 (dk_at dksJ9_charAt_1 12 rfl rfl)
theorem dJ9_charAt_39 : decode cJ9_charAt 39 = .ok (.iand, 1) := dk_126 (dk_at dksJ9_charAt_1 15 rfl rfl)
theorem dJ9_charAt_40 : decode cJ9_charAt 40 = .ok (.i2c, 1) := dk_146 (dk_at dksJ9_charAt_1 16 rfl rfl)
theorem dJ9_charAt_41 : decode cJ9_charAt 41 = .ok (.ireturn, 1) := dk_172 (dk_at dksJ9_charAt_1 17 rfl rfl)
theorem dJ9_charAt_42 : decode cJ9_charAt 42 = .ok (.aload_n 3, 1) := dk_45 (dk_at dksJ9_charAt_1 18 rfl rfl)
theorem dJ9_charAt_43 : decode cJ9_charAt 43 = .ok (.iload_n 1, 1) := dk_27 (dk_at dksJ9_charAt_1 19 rfl rfl)
theorem dJ9_charAt_44 : decode cJ9_charAt 44 = .ok (.invokestatic 148, 3) := dk_184 0 148 (dk_at dksJ9_charAt_1 20 rfl rfl)
theorem dJ9_charAt_47 : decode cJ9_charAt 47 = .ok (.ireturn, 1) := dk_172 (dk_at dksJ9_charAt_1 23 rfl rfl)
theorem q116 : (Jvm.Cond.initialized "java/lang/AbstractStringBuilder") ∈ lw_all := lw_g (lw_at lw_m1 14 rfl) rfl
theorem q386 : (Jvm.Cond.instanceMethod ({ cls := "java/lang/AbstractStringBuilder", name := "<init>", desc := "(I)V" } : Jvm.MethodName)) ∈ lw_all := lw_g (lw_at lw_m2 44 rfl) rfl
theorem q387 : (Jvm.Cond.code ({ cls := "java/lang/AbstractStringBuilder", name := "<init>", desc := "(I)V" } : Jvm.MethodName) prog_16_method_2_code (2 : Nat) (Option.none : Option Jvm.ClassFile.FieldType)) ∈ lw_all := lw_g (lw_at lw_m2 45 rfl) rfl
theorem q388 : (Jvm.Cond.methodLink "java/lang/AbstractStringBuilder" (3 : Nat) ({ cls := "java/lang/Object", name := "<init>", desc := "()V" } : Jvm.MethodName)) ∈ lw_all := lw_g (lw_at lw_m2 46 rfl) rfl
theorem q389 : (Jvm.Cond.fieldLink "java/lang/AbstractStringBuilder" (18 : Nat) "java/lang/String" "COMPACT_STRINGS" "Z") ∈ lw_all := lw_g (lw_at lw_m2 47 rfl) rfl
theorem q391 : (Jvm.Cond.methodLink "java/lang/AbstractStringBuilder" (26 : Nat) ({ cls := "java/lang/StringUTF16", name := "newBytesFor", desc := "(I)[B" } : Jvm.MethodName)) ∈ lw_all := lw_g (lw_at lw_m2 49 rfl) rfl
theorem q398 : (Jvm.Cond.fieldLink "java/lang/AbstractStringBuilder" (15 : Nat) "java/lang/AbstractStringBuilder" "value" "[B") ∈ lw_all := lw_g (lw_at lw_m2 56 rfl) rfl
theorem q399 : (Jvm.Cond.fieldLink "java/lang/AbstractStringBuilder" (22 : Nat) "java/lang/AbstractStringBuilder" "coder" "B") ∈ lw_all := lw_g (lw_at lw_m2 57 rfl) rfl
theorem q401 : (Jvm.Cond.fieldLink "java/lang/AbstractStringBuilder" (79 : Nat) "java/lang/AbstractStringBuilder" "count" "I") ∈ lw_all := lw_g (lw_at lw_m2 59 rfl) rfl
theorem q403 : (Jvm.Cond.soleField "java/lang/AbstractStringBuilder" "value") ∈ lw_all := lw_g (lw_at lw_m2 61 rfl) rfl
theorem q405 : (Jvm.Cond.soleField "java/lang/AbstractStringBuilder" "coder") ∈ lw_all := lw_g (lw_at lw_m2 63 rfl) rfl
theorem q407 : (Jvm.Cond.soleField "java/lang/AbstractStringBuilder" "maybeLatin1") ∈ lw_all := lw_g (lw_at lw_m2 65 rfl) rfl
theorem q409 : (Jvm.Cond.soleField "java/lang/AbstractStringBuilder" "count") ∈ lw_all := lw_g (lw_at lw_m2 67 rfl) rfl
theorem q669 : (Jvm.Cond.instanceMethod ({ cls := "java/lang/AbstractStringBuilder", name := "append", desc := "(Ljava/lang/String;)Ljava/lang/AbstractStringBuilder;" } : Jvm.MethodName)) ∈ lw_all := lw_g (lw_at lw_m3 87 rfl) rfl
theorem q670 : (Jvm.Cond.code ({ cls := "java/lang/AbstractStringBuilder", name := "append", desc := "(Ljava/lang/String;)Ljava/lang/AbstractStringBuilder;" } : Jvm.MethodName) prog_16_method_22_code (3 : Nat) (Option.some (Jvm.ClassFile.FieldType.object "java/lang/AbstractStringBuilder"))) ∈ lw_all := lw_g (lw_at lw_m3 88 rfl) rfl
theorem q671 : (Jvm.Cond.methodLink "java/lang/AbstractStringBuilder" (204 : Nat) ({ cls := "java/lang/AbstractStringBuilder", name := "appendNull", desc := "()Ljava/lang/AbstractStringBuilder;" } : Jvm.MethodName)) ∈ lw_all := lw_g (lw_at lw_m3 89 rfl) rfl
theorem q672 : (Jvm.Cond.privateMethod ({ cls := "java/lang/AbstractStringBuilder", name := "appendNull", desc := "()Ljava/lang/AbstractStringBuilder;" } : Jvm.MethodName)) ∈ lw_tbl := lw_at lw_m3 90 rfl
theorem q673 : (Jvm.Cond.instanceMethod ({ cls := "java/lang/AbstractStringBuilder", name := "appendNull", desc := "()Ljava/lang/AbstractStringBuilder;" } : Jvm.MethodName)) ∈ lw_all := lw_g (lw_at lw_m3 91 rfl) rfl
theorem q674 : (Jvm.Cond.code ({ cls := "java/lang/AbstractStringBuilder", name := "appendNull", desc := "()Ljava/lang/AbstractStringBuilder;" } : Jvm.MethodName) prog_16_method_26_code (3 : Nat) (Option.some (Jvm.ClassFile.FieldType.object "java/lang/AbstractStringBuilder"))) ∈ lw_all := lw_g (lw_at lw_m3 92 rfl) rfl
theorem q675 : (Jvm.Cond.methodLink "java/lang/AbstractStringBuilder" (100 : Nat) ({ cls := "java/lang/AbstractStringBuilder", name := "ensureCapacityInternal", desc := "(I)V" } : Jvm.MethodName)) ∈ lw_all := lw_g (lw_at lw_m3 93 rfl) rfl
theorem q676 : (Jvm.Cond.privateMethod ({ cls := "java/lang/AbstractStringBuilder", name := "ensureCapacityInternal", desc := "(I)V" } : Jvm.MethodName)) ∈ lw_tbl := lw_at lw_m3 94 rfl
theorem q677 : (Jvm.Cond.instanceMethod ({ cls := "java/lang/AbstractStringBuilder", name := "ensureCapacityInternal", desc := "(I)V" } : Jvm.MethodName)) ∈ lw_all := lw_g (lw_at lw_m3 95 rfl) rfl
theorem q678 : (Jvm.Cond.code ({ cls := "java/lang/AbstractStringBuilder", name := "ensureCapacityInternal", desc := "(I)V" } : Jvm.MethodName) prog_16_method_9_code (3 : Nat) (Option.none : Option Jvm.ClassFile.FieldType)) ∈ lw_all := lw_g (lw_at lw_m3 96 rfl) rfl
theorem q679 : (Jvm.Cond.methodLink "java/lang/AbstractStringBuilder" (104 : Nat) ({ cls := "java/lang/AbstractStringBuilder", name := "newCapacity", desc := "(I)I" } : Jvm.MethodName)) ∈ lw_all := lw_g (lw_at lw_m3 97 rfl) rfl
theorem q680 : (Jvm.Cond.privateMethod ({ cls := "java/lang/AbstractStringBuilder", name := "newCapacity", desc := "(I)I" } : Jvm.MethodName)) ∈ lw_tbl := lw_at lw_m3 98 rfl
theorem q681 : (Jvm.Cond.instanceMethod ({ cls := "java/lang/AbstractStringBuilder", name := "newCapacity", desc := "(I)I" } : Jvm.MethodName)) ∈ lw_all := lw_g (lw_at lw_m3 99 rfl) rfl
theorem q682 : (Jvm.Cond.code ({ cls := "java/lang/AbstractStringBuilder", name := "newCapacity", desc := "(I)I" } : Jvm.MethodName) prog_16_method_10_code (6 : Nat) (Option.some Jvm.ClassFile.FieldType.int)) ∈ lw_all := lw_g (lw_at lw_m3 100 rfl) rfl
theorem q683 : (Jvm.Cond.methodLink "java/lang/AbstractStringBuilder" (114 : Nat) ({ cls := "jdk/internal/util/ArraysSupport", name := "newLength", desc := "(III)I" } : Jvm.MethodName)) ∈ lw_all := lw_g (lw_at lw_m3 101 rfl) rfl
theorem q684 : (Jvm.Cond.constant "java/lang/AbstractStringBuilder" (39 : Nat) (2147483647 : Int32)) ∈ lw_all := lw_g (lw_at lw_m3 102 rfl) rfl
theorem q685 : (Jvm.Cond.methodLink "java/lang/AbstractStringBuilder" (108 : Nat) ({ cls := "java/util/Arrays", name := "copyOf", desc := "([BI)[B" } : Jvm.MethodName)) ∈ lw_all := lw_g (lw_at lw_m3 103 rfl) rfl
theorem q695 : (Jvm.Cond.methodLink "java/lang/AbstractStringBuilder" (83 : Nat) ({ cls := "java/lang/AbstractStringBuilder", name := "isLatin1", desc := "()Z" } : Jvm.MethodName)) ∈ lw_all := lw_g (lw_at lw_m3 113 rfl) rfl
theorem q696 : (Jvm.Cond.instanceMethod ({ cls := "java/lang/AbstractStringBuilder", name := "isLatin1", desc := "()Z" } : Jvm.MethodName)) ∈ lw_all := lw_g (lw_at lw_m3 114 rfl) rfl
theorem q697 : (Jvm.Cond.sameMethod "java/lang/AbstractStringBuilder" "java/lang/AbstractStringBuilder" "isLatin1" "()Z") ∈ lw_all := lw_g (lw_at lw_m3 115 rfl) rfl
theorem q699 : (Jvm.Cond.code ({ cls := "java/lang/AbstractStringBuilder", name := "isLatin1", desc := "()Z" } : Jvm.MethodName) prog_16_method_68_code (1 : Nat) (Option.some Jvm.ClassFile.FieldType.boolean)) ∈ lw_all := lw_g (lw_at lw_m3 117 rfl) rfl
theorem q700 : (Jvm.Cond.methodLink "java/lang/AbstractStringBuilder" (226 : Nat) ({ cls := "java/lang/StringUTF16", name := "putCharsAt", desc := "([BICCCC)I" } : Jvm.MethodName)) ∈ lw_all := lw_g (lw_at lw_m3 118 rfl) rfl
theorem q726 : (Jvm.Cond.methodLink "java/lang/AbstractStringBuilder" (32 : Nat) ({ cls := "java/lang/String", name := "length", desc := "()I" } : Jvm.MethodName)) ∈ lw_all := lw_g (lw_at lw_m3 144 rfl) rfl
theorem q735 : (Jvm.Cond.methodLink "java/lang/AbstractStringBuilder" (208 : Nat) ({ cls := "java/lang/AbstractStringBuilder", name := "putStringAt", desc := "(ILjava/lang/String;)V" } : Jvm.MethodName)) ∈ lw_all := lw_g (lw_at lw_m3 153 rfl) rfl
theorem q736 : (Jvm.Cond.privateMethod ({ cls := "java/lang/AbstractStringBuilder", name := "putStringAt", desc := "(ILjava/lang/String;)V" } : Jvm.MethodName)) ∈ lw_tbl := lw_at lw_m3 154 rfl
theorem q737 : (Jvm.Cond.instanceMethod ({ cls := "java/lang/AbstractStringBuilder", name := "putStringAt", desc := "(ILjava/lang/String;)V" } : Jvm.MethodName)) ∈ lw_all := lw_g (lw_at lw_m3 155 rfl) rfl
theorem q738 : (Jvm.Cond.code ({ cls := "java/lang/AbstractStringBuilder", name := "putStringAt", desc := "(ILjava/lang/String;)V" } : Jvm.MethodName) prog_16_method_73_code (3 : Nat) (Option.none : Option Jvm.ClassFile.FieldType)) ∈ lw_all := lw_g (lw_at lw_m3 156 rfl) rfl
theorem q739 : (Jvm.Cond.methodLink "java/lang/AbstractStringBuilder" (397 : Nat) ({ cls := "java/lang/AbstractStringBuilder", name := "inflateIfNeededFor", desc := "(Ljava/lang/String;)V" } : Jvm.MethodName)) ∈ lw_all := lw_g (lw_at lw_m3 157 rfl) rfl
theorem q740 : (Jvm.Cond.privateMethod ({ cls := "java/lang/AbstractStringBuilder", name := "inflateIfNeededFor", desc := "(Ljava/lang/String;)V" } : Jvm.MethodName)) ∈ lw_tbl := lw_at lw_m3 158 rfl
theorem q741 : (Jvm.Cond.instanceMethod ({ cls := "java/lang/AbstractStringBuilder", name := "inflateIfNeededFor", desc := "(Ljava/lang/String;)V" } : Jvm.MethodName)) ∈ lw_all := lw_g (lw_at lw_m3 159 rfl) rfl
theorem q742 : (Jvm.Cond.code ({ cls := "java/lang/AbstractStringBuilder", name := "inflateIfNeededFor", desc := "(Ljava/lang/String;)V" } : Jvm.MethodName) prog_16_method_71_code (2 : Nat) (Option.none : Option Jvm.ClassFile.FieldType)) ∈ lw_all := lw_g (lw_at lw_m3 160 rfl) rfl
theorem q743 : (Jvm.Cond.methodLink "java/lang/AbstractStringBuilder" (40 : Nat) ({ cls := "java/lang/String", name := "coder", desc := "()B" } : Jvm.MethodName)) ∈ lw_all := lw_g (lw_at lw_m3 161 rfl) rfl
theorem q744 : (Jvm.Cond.methodLink "java/lang/AbstractStringBuilder" (195 : Nat) ({ cls := "java/lang/AbstractStringBuilder", name := "inflate", desc := "()V" } : Jvm.MethodName)) ∈ lw_all := lw_g (lw_at lw_m3 162 rfl) rfl
theorem q745 : (Jvm.Cond.privateMethod ({ cls := "java/lang/AbstractStringBuilder", name := "inflate", desc := "()V" } : Jvm.MethodName)) ∈ lw_tbl := lw_at lw_m3 163 rfl
theorem q746 : (Jvm.Cond.instanceMethod ({ cls := "java/lang/AbstractStringBuilder", name := "inflate", desc := "()V" } : Jvm.MethodName)) ∈ lw_all := lw_g (lw_at lw_m3 164 rfl) rfl
theorem q747 : (Jvm.Cond.code ({ cls := "java/lang/AbstractStringBuilder", name := "inflate", desc := "()V" } : Jvm.MethodName) prog_16_method_11_code (2 : Nat) (Option.none : Option Jvm.ClassFile.FieldType)) ∈ lw_all := lw_g (lw_at lw_m3 165 rfl) rfl
theorem q748 : (Jvm.Cond.methodLink "java/lang/AbstractStringBuilder" (125 : Nat) ({ cls := "java/lang/StringLatin1", name := "inflate", desc := "([BI[BII)V" } : Jvm.MethodName)) ∈ lw_all := lw_g (lw_at lw_m3 166 rfl) rfl
theorem q763 : (Jvm.Cond.methodLink "java/lang/AbstractStringBuilder" (399 : Nat) ({ cls := "java/lang/String", name := "getBytes", desc := "([BIB)V" } : Jvm.MethodName)) ∈ lw_all := lw_g (lw_at lw_m3 181 rfl) rfl
theorem q774 : (Jvm.Cond.instanceMethod ({ cls := "java/lang/AbstractStringBuilder", name := "append", desc := "(I)Ljava/lang/AbstractStringBuilder;" } : Jvm.MethodName)) ∈ lw_all := lw_g (lw_at lw_m3 192 rfl) rfl
theorem q775 : (Jvm.Cond.code ({ cls := "java/lang/AbstractStringBuilder", name := "append", desc := "(I)Ljava/lang/AbstractStringBuilder;" } : Jvm.MethodName) prog_16_method_32_code (4 : Nat) (Option.some (Jvm.ClassFile.FieldType.object "java/lang/AbstractStringBuilder"))) ∈ lw_all := lw_g (lw_at lw_m3 193 rfl) rfl
theorem q776 : (Jvm.Cond.methodLink "java/lang/AbstractStringBuilder" (245 : Nat) ({ cls := "java/lang/Integer", name := "stringSize", desc := "(I)I" } : Jvm.MethodName)) ∈ lw_all := lw_g (lw_at lw_m3 194 rfl) rfl
theorem q779 : (Jvm.Cond.methodLink "java/lang/AbstractStringBuilder" (248 : Nat) ({ cls := "java/lang/Integer", name := "getChars", desc := "(II[B)I" } : Jvm.MethodName)) ∈ lw_all := lw_g (lw_at lw_m3 197 rfl) rfl
theorem q786 : (Jvm.Cond.methodLink "java/lang/AbstractStringBuilder" (251 : Nat) ({ cls := "java/lang/StringUTF16", name := "getChars", desc := "(III[B)I" } : Jvm.MethodName)) ∈ lw_all := lw_g (lw_at lw_m3 204 rfl) rfl
theorem q809 : (Jvm.Cond.instanceMethod ({ cls := "java/lang/AbstractStringBuilder", name := "getValue", desc := "()[B" } : Jvm.MethodName)) ∈ lw_all := lw_g (lw_at lw_m3 227 rfl) rfl
theorem q810 : (Jvm.Cond.sameMethod "java/lang/AbstractStringBuilder" "java/lang/AbstractStringBuilder" "getValue" "()[B") ∈ lw_all := lw_g (lw_at lw_m3 228 rfl) rfl
theorem q812 : (Jvm.Cond.code ({ cls := "java/lang/AbstractStringBuilder", name := "getValue", desc := "()[B" } : Jvm.MethodName) prog_16_method_64_code (1 : Nat) (Option.some (Jvm.ClassFile.FieldType.array Jvm.ClassFile.FieldType.byte))) ∈ lw_all := lw_g (lw_at lw_m3 230 rfl) rfl
theorem q814 : (Jvm.Cond.instanceMethod ({ cls := "java/lang/AbstractStringBuilder", name := "length", desc := "()I" } : Jvm.MethodName)) ∈ lw_all := lw_g (lw_at lw_m3 232 rfl) rfl
theorem q815 : (Jvm.Cond.sameMethod "java/lang/AbstractStringBuilder" "java/lang/AbstractStringBuilder" "length" "()I") ∈ lw_all := lw_g (lw_at lw_m3 233 rfl) rfl
theorem q820 : (Jvm.Cond.code ({ cls := "java/lang/AbstractStringBuilder", name := "length", desc := "()I" } : Jvm.MethodName) prog_16_method_6_code (1 : Nat) (Option.some Jvm.ClassFile.FieldType.int)) ∈ lw_all := lw_g (lw_at lw_m3 238 rfl) rfl
theorem q2277 : (Jvm.Cond.instanceMethod ({ cls := "java/lang/AbstractStringBuilder", name := "append", desc := "(C)Ljava/lang/AbstractStringBuilder;" } : Jvm.MethodName)) ∈ lw_all := lw_g (lw_at lw_m10 15 rfl) rfl
theorem q2278 : (Jvm.Cond.code ({ cls := "java/lang/AbstractStringBuilder", name := "append", desc := "(C)Ljava/lang/AbstractStringBuilder;" } : Jvm.MethodName) prog_16_method_31_code (2 : Nat) (Option.some (Jvm.ClassFile.FieldType.object "java/lang/AbstractStringBuilder"))) ∈ lw_all := lw_g (lw_at lw_m10 16 rfl) rfl
theorem q2279 : (Jvm.Cond.methodLink "java/lang/AbstractStringBuilder" (191 : Nat) ({ cls := "java/lang/StringLatin1", name := "canEncode", desc := "(C)Z" } : Jvm.MethodName)) ∈ lw_all := lw_g (lw_at lw_m10 17 rfl) rfl
theorem q2282 : (Jvm.Cond.methodLink "java/lang/AbstractStringBuilder" (197 : Nat) ({ cls := "java/lang/StringUTF16", name := "putCharSB", desc := "([BII)V" } : Jvm.MethodName)) ∈ lw_all := lw_g (lw_at lw_m10 20 rfl) rfl
theorem q2537 : (Jvm.Cond.instanceMethod ({ cls := "java/lang/AbstractStringBuilder", name := "charAt", desc := "(I)C" } : Jvm.MethodName)) ∈ lw_all := lw_g (lw_at lw_m11 35 rfl) rfl
theorem q2538 : (Jvm.Cond.code ({ cls := "java/lang/AbstractStringBuilder", name := "charAt", desc := "(I)C" } : Jvm.MethodName) prog_16_method_14_code (5 : Nat) (Option.some Jvm.ClassFile.FieldType.char)) ∈ lw_all := lw_g (lw_at lw_m11 36 rfl) rfl
theorem q2539 : (Jvm.Cond.methodLink "java/lang/AbstractStringBuilder" (138 : Nat) ({ cls := "java/lang/Math", name := "min", desc := "(II)I" } : Jvm.MethodName)) ∈ lw_all := lw_g (lw_at lw_m11 37 rfl) rfl
theorem q2540 : (Jvm.Cond.methodLink "java/lang/AbstractStringBuilder" (144 : Nat) ({ cls := "java/lang/String", name := "checkIndex", desc := "(II)V" } : Jvm.MethodName)) ∈ lw_all := lw_g (lw_at lw_m11 38 rfl) rfl
theorem q2541 : (Jvm.Cond.methodLink "java/lang/AbstractStringBuilder" (148 : Nat) ({ cls := "java/lang/StringUTF16", name := "getChar", desc := "([BI)C" } : Jvm.MethodName)) ∈ lw_all := lw_g (lw_at lw_m11 39 rfl) rfl
theorem q3148 : (Jvm.Cond.sameMethod "java/lang/AbstractStringBuilder" "java/lang/AbstractStringBuilder" "append" "(Ljava/lang/String;)Ljava/lang/AbstractStringBuilder;") ∈ lw_all := lw_g (lw_at lw_m13 166 rfl) rfl
theorem q3149 : (Jvm.Cond.sameMethod "java/lang/AbstractStringBuilder" "java/lang/AbstractStringBuilder" "appendNull" "()Ljava/lang/AbstractStringBuilder;") ∈ lw_all := lw_g (lw_at lw_m13 167 rfl) rfl
theorem q3150 : (Jvm.Cond.sameMethod "java/lang/AbstractStringBuilder" "java/lang/AbstractStringBuilder" "ensureCapacityInternal" "(I)V") ∈ lw_all := lw_g (lw_at lw_m13 168 rfl) rfl
theorem q3151 : (Jvm.Cond.sameMethod "java/lang/AbstractStringBuilder" "java/lang/AbstractStringBuilder" "newCapacity" "(I)I") ∈ lw_all := lw_g (lw_at lw_m13 169 rfl) rfl
theorem q3152 : (Jvm.Cond.sameMethod "java/lang/AbstractStringBuilder" "java/lang/AbstractStringBuilder" "putStringAt" "(ILjava/lang/String;)V") ∈ lw_all := lw_g (lw_at lw_m13 170 rfl) rfl
theorem q3153 : (Jvm.Cond.sameMethod "java/lang/AbstractStringBuilder" "java/lang/AbstractStringBuilder" "inflateIfNeededFor" "(Ljava/lang/String;)V") ∈ lw_all := lw_g (lw_at lw_m13 171 rfl) rfl
theorem q3154 : (Jvm.Cond.sameMethod "java/lang/AbstractStringBuilder" "java/lang/AbstractStringBuilder" "inflate" "()V") ∈ lw_all := lw_g (lw_at lw_m13 172 rfl) rfl
theorem q3155 : (Jvm.Cond.sameMethod "java/lang/AbstractStringBuilder" "java/lang/AbstractStringBuilder" "append" "(I)Ljava/lang/AbstractStringBuilder;") ∈ lw_all := lw_g (lw_at lw_m13 173 rfl) rfl
theorem q3164 : (Jvm.Cond.sameMethod "java/lang/AbstractStringBuilder" "java/lang/AbstractStringBuilder" "append" "(C)Ljava/lang/AbstractStringBuilder;") ∈ lw_all := lw_g (lw_at lw_m13 182 rfl) rfl
theorem q3166 : (Jvm.Cond.sameMethod "java/lang/AbstractStringBuilder" "java/lang/AbstractStringBuilder" "charAt" "(I)C") ∈ lw_all := lw_g (lw_at lw_m13 184 rfl) rfl
/-! java/lang/StringBuilder -/
set_option maxRecDepth 100000
def RJ10 : String := "java/lang/StringBuilder"
def TJ10 : u_T := fun k => match k with
  | 0 => ("java/lang/AbstractStringBuilder", "value", "[B", false)
  | 1 => ("java/lang/AbstractStringBuilder", "coder", "B", false)
  | 2 => ("java/lang/AbstractStringBuilder", "maybeLatin1", "Z", false)
  | _ => ("java/lang/AbstractStringBuilder", "count", "I", false)
def tyJ10 : Nat → FieldType := fun k => match k with
  | 0 => .array .byte
  | 1 => .byte
  | 2 => .boolean
  | _ => .int
abbrev wsJ100 : List Cond := u_ws RJ10 TJ10 4
theorem nmJ10 : ∀ a, a < 4 → ∀ b, b < 4 → a ≠ b → (TJ10 a).2.1 ≠ (TJ10 b).2.1 := by decide +kernel
theorem tyJ10_ok : ∀ k, k < 4 → parseFieldDescriptor (TJ10 k).2.2.1 = some (tyJ10 k) := by decide +kernel
abbrev cJ10_init : ByteArray := prog_36_method_1_code
def yJ10_init : MethodName := ⟨RJ10, "<init>", "()V"⟩
def dkwJ10_init_0 : List UInt8 := [42, 16, 16, 183, 0, 1, 177]
abbrev dktJ10_init_0 : List UInt8 := dkwJ10_init_0 ++ []
theorem dksJ10_init_0 : cJ10_init.data.toList.drop 0 = dktJ10_init_0 := by decide +kernel
theorem dJ10_init_0 : decode cJ10_init 0 = .ok (.aload_n 0, 1) := dk_42 (dk_at dksJ10_init_0 0 rfl rfl)
theorem dJ10_init_1 : decode cJ10_init 1 = .ok (.bipush 16, 2) := dk_16 16 (dk_at dksJ10_init_0 1 rfl rfl)
theorem dJ10_init_3 : decode cJ10_init 3 = .ok (.invokespecial 1, 3) := dk_183 0 1 (dk_at dksJ10_init_0 3 rfl rfl)
theorem dJ10_init_6 : decode cJ10_init 6 = .ok (.return_, 1) := dk_177 (dk_at dksJ10_init_0 6 rfl rfl)
abbrev cJ10_append : ByteArray := prog_36_method_7_code
def yJ10_append : MethodName := ⟨RJ10, "append", "(Ljava/lang/String;)Ljava/lang/StringBuilder;"⟩
def dkwJ10_append_0 : List UInt8 := [42, 43, 183, 0, 29, 87, 42, 176]
abbrev dktJ10_append_0 : List UInt8 := dkwJ10_append_0 ++ []
theorem dksJ10_append_0 : cJ10_append.data.toList.drop 0 = dktJ10_append_0 := by decide +kernel
theorem dJ10_append_0 : decode cJ10_append 0 = .ok (.aload_n 0, 1) := dk_42 (dk_at dksJ10_append_0 0 rfl rfl)
theorem dJ10_append_1 : decode cJ10_append 1 = .ok (.aload_n 1, 1) := dk_43 (dk_at dksJ10_append_0 1 rfl rfl)
theorem dJ10_append_2 : decode cJ10_append 2 = .ok (.invokespecial 29, 3) := dk_183 0 29 (dk_at dksJ10_append_0 2 rfl rfl)
theorem dJ10_append_5 : decode cJ10_append 5 = .ok (.pop, 1) := dk_87 (dk_at dksJ10_append_0 5 rfl rfl)
theorem dJ10_append_6 : decode cJ10_append 6 = .ok (.aload_n 0, 1) := dk_42 (dk_at dksJ10_append_0 6 rfl rfl)
theorem dJ10_append_7 : decode cJ10_append 7 = .ok (.areturn, 1) := dk_176 (dk_at dksJ10_append_0 7 rfl rfl)
abbrev cJ10_append_2 : ByteArray := prog_36_method_15_code
def yJ10_append_2 : MethodName := ⟨RJ10, "append", "(I)Ljava/lang/StringBuilder;"⟩
def dkwJ10_append_2_0 : List UInt8 := [42, 27, 183, 0, 53, 87, 42, 176]
abbrev dktJ10_append_2_0 : List UInt8 := dkwJ10_append_2_0 ++ []
theorem dksJ10_append_2_0 : cJ10_append_2.data.toList.drop 0 = dktJ10_append_2_0 := by decide +kernel
theorem dJ10_append_2_0 : decode cJ10_append_2 0 = .ok (.aload_n 0, 1) := dk_42 (dk_at dksJ10_append_2_0 0 rfl rfl)
theorem dJ10_append_2_1 : decode cJ10_append_2 1 = .ok (.iload_n 1, 1) := dk_27 (dk_at dksJ10_append_2_0 1 rfl rfl)
theorem dJ10_append_2_2 : decode cJ10_append_2 2 = .ok (.invokespecial 53, 3) := dk_183 0 53 (dk_at dksJ10_append_2_0 2 rfl rfl)
theorem dJ10_append_2_5 : decode cJ10_append_2 5 = .ok (.pop, 1) := dk_87 (dk_at dksJ10_append_2_0 5 rfl rfl)
theorem dJ10_append_2_6 : decode cJ10_append_2 6 = .ok (.aload_n 0, 1) := dk_42 (dk_at dksJ10_append_2_0 6 rfl rfl)
theorem dJ10_append_2_7 : decode cJ10_append_2 7 = .ok (.areturn, 1) := dk_176 (dk_at dksJ10_append_2_0 7 rfl rfl)
abbrev cJ10_toString : ByteArray := prog_36_method_42_code
def yJ10_toString : MethodName := ⟨RJ10, "toString", "()Ljava/lang/String;"⟩
def dkwJ10_toString_0 : List UInt8 := [187, 0, 18, 89, 42, 183, 0, 137, 176]
abbrev dktJ10_toString_0 : List UInt8 := dkwJ10_toString_0 ++ []
theorem dksJ10_toString_0 : cJ10_toString.data.toList.drop 0 = dktJ10_toString_0 := by decide +kernel
theorem dJ10_toString_0 : decode cJ10_toString 0 = .ok (.new 18, 3) := dk_187 0 18 (dk_at dksJ10_toString_0 0 rfl rfl)
theorem dJ10_toString_3 : decode cJ10_toString 3 = .ok (.dup, 1) := dk_89 (dk_at dksJ10_toString_0 3 rfl rfl)
theorem dJ10_toString_4 : decode cJ10_toString 4 = .ok (.aload_n 0, 1) := dk_42 (dk_at dksJ10_toString_0 4 rfl rfl)
theorem dJ10_toString_5 : decode cJ10_toString 5 = .ok (.invokespecial 137, 3) := dk_183 0 137 (dk_at dksJ10_toString_0 5 rfl rfl)
theorem dJ10_toString_8 : decode cJ10_toString 8 = .ok (.areturn, 1) := dk_176 (dk_at dksJ10_toString_0 8 rfl rfl)
abbrev cJ10_length : ByteArray := prog_36_method_93_code
def yJ10_length : MethodName := ⟨RJ10, "length", "()I"⟩
theorem dJ10_length_0 : decode cJ10_length 0 = .ok (.aload_n 0, 1) := by decide +kernel
theorem dJ10_length_1 : decode cJ10_length 1 = .ok (.invokespecial 343, 3) := by decide +kernel
theorem dJ10_length_4 : decode cJ10_length 4 = .ok (.ireturn, 1) := by decide +kernel
abbrev cJ10_append_3 : ByteArray := prog_36_method_14_code
def yJ10_append_3 : MethodName := ⟨RJ10, "append", "(C)Ljava/lang/StringBuilder;"⟩
def dkwJ10_append_3_0 : List UInt8 := [42, 27, 183, 0, 50, 87, 42, 176]
abbrev dktJ10_append_3_0 : List UInt8 := dkwJ10_append_3_0 ++ []
theorem dksJ10_append_3_0 : cJ10_append_3.data.toList.drop 0 = dktJ10_append_3_0 := by decide +kernel
theorem dJ10_append_3_0 : decode cJ10_append_3 0 = .ok (.aload_n 0, 1) := dk_42 (dk_at dksJ10_append_3_0 0 rfl rfl)
theorem dJ10_append_3_1 : decode cJ10_append_3 1 = .ok (.iload_n 1, 1) := dk_27 (dk_at dksJ10_append_3_0 1 rfl rfl)
theorem dJ10_append_3_2 : decode cJ10_append_3 2 = .ok (.invokespecial 50, 3) := dk_183 0 50 (dk_at dksJ10_append_3_0 2 rfl rfl)
theorem dJ10_append_3_5 : decode cJ10_append_3 5 = .ok (.pop, 1) := dk_87 (dk_at dksJ10_append_3_0 5 rfl rfl)
theorem dJ10_append_3_6 : decode cJ10_append_3 6 = .ok (.aload_n 0, 1) := dk_42 (dk_at dksJ10_append_3_0 6 rfl rfl)
theorem dJ10_append_3_7 : decode cJ10_append_3 7 = .ok (.areturn, 1) := dk_176 (dk_at dksJ10_append_3_0 7 rfl rfl)
abbrev cJ10_charAt : ByteArray := prog_36_method_88_code
def yJ10_charAt : MethodName := ⟨RJ10, "charAt", "(I)C"⟩
def dkwJ10_charAt_0 : List UInt8 := [42, 27, 183, 1, 73, 172]
abbrev dktJ10_charAt_0 : List UInt8 := dkwJ10_charAt_0 ++ []
theorem dksJ10_charAt_0 : cJ10_charAt.data.toList.drop 0 = dktJ10_charAt_0 := by decide +kernel
theorem dJ10_charAt_0 : decode cJ10_charAt 0 = .ok (.aload_n 0, 1) := dk_42 (dk_at dksJ10_charAt_0 0 rfl rfl)
theorem dJ10_charAt_1 : decode cJ10_charAt 1 = .ok (.iload_n 1, 1) := dk_27 (dk_at dksJ10_charAt_0 1 rfl rfl)
theorem dJ10_charAt_2 : decode cJ10_charAt 2 = .ok (.invokespecial 329, 3) := dk_183 1 73 (dk_at dksJ10_charAt_0 2 rfl rfl)
theorem dJ10_charAt_5 : decode cJ10_charAt 5 = .ok (.ireturn, 1) := dk_172 (dk_at dksJ10_charAt_0 5 rfl rfl)
theorem q117 : (Jvm.Cond.initialized "java/lang/StringBuilder") ∈ lw_all := lw_g (lw_at lw_m1 15 rfl) rfl
theorem q275 : (Jvm.Cond.selects "java/lang/StringBuilder" ({ cls := "java/lang/Object", name := "getClass", desc := "()Ljava/lang/Class;" } : Jvm.MethodName) ({ cls := "java/lang/Object", name := "getClass", desc := "()Ljava/lang/Class;" } : Jvm.MethodName)) ∈ lw_all := lw_g (lw_at lw_m1 173 rfl) rfl
theorem q381 : (Jvm.Cond.instantiable "java/lang/StringBuilder" (4 : Nat)) ∈ lw_all := lw_g (lw_at lw_m2 39 rfl) rfl
theorem q383 : (Jvm.Cond.instanceMethod ({ cls := "java/lang/StringBuilder", name := "<init>", desc := "()V" } : Jvm.MethodName)) ∈ lw_all := lw_g (lw_at lw_m2 41 rfl) rfl
theorem q384 : (Jvm.Cond.code ({ cls := "java/lang/StringBuilder", name := "<init>", desc := "()V" } : Jvm.MethodName) prog_36_method_1_code (1 : Nat) (Option.none : Option Jvm.ClassFile.FieldType)) ∈ lw_all := lw_g (lw_at lw_m2 42 rfl) rfl
theorem q385 : (Jvm.Cond.methodLink "java/lang/StringBuilder" (1 : Nat) ({ cls := "java/lang/AbstractStringBuilder", name := "<init>", desc := "(I)V" } : Jvm.MethodName)) ∈ lw_all := lw_g (lw_at lw_m2 43 rfl) rfl
theorem q402 : (Jvm.Cond.lays "java/lang/StringBuilder" "java/lang/AbstractStringBuilder" "value" "[B") ∈ lw_all := lw_g (lw_at lw_m2 60 rfl) rfl
theorem q404 : (Jvm.Cond.lays "java/lang/StringBuilder" "java/lang/AbstractStringBuilder" "coder" "B") ∈ lw_all := lw_g (lw_at lw_m2 62 rfl) rfl
theorem q406 : (Jvm.Cond.lays "java/lang/StringBuilder" "java/lang/AbstractStringBuilder" "maybeLatin1" "Z") ∈ lw_all := lw_g (lw_at lw_m2 64 rfl) rfl
theorem q408 : (Jvm.Cond.lays "java/lang/StringBuilder" "java/lang/AbstractStringBuilder" "count" "I") ∈ lw_all := lw_g (lw_at lw_m2 66 rfl) rfl
theorem q410 : (Jvm.Cond.superclass "java/lang/StringBuilder" "java/lang/AbstractStringBuilder") ∈ lw_all := lw_g (lw_at lw_m2 68 rfl) rfl
theorem q665 : (Jvm.Cond.instanceMethod ({ cls := "java/lang/StringBuilder", name := "append", desc := "(Ljava/lang/String;)Ljava/lang/StringBuilder;" } : Jvm.MethodName)) ∈ lw_all := lw_g (lw_at lw_m3 83 rfl) rfl
theorem q666 : (Jvm.Cond.selects "java/lang/StringBuilder" ({ cls := "java/lang/StringBuilder", name := "append", desc := "(Ljava/lang/String;)Ljava/lang/StringBuilder;" } : Jvm.MethodName) ({ cls := "java/lang/StringBuilder", name := "append", desc := "(Ljava/lang/String;)Ljava/lang/StringBuilder;" } : Jvm.MethodName)) ∈ lw_all := lw_g (lw_at lw_m3 84 rfl) rfl
theorem q667 : (Jvm.Cond.code ({ cls := "java/lang/StringBuilder", name := "append", desc := "(Ljava/lang/String;)Ljava/lang/StringBuilder;" } : Jvm.MethodName) prog_36_method_7_code (2 : Nat) (Option.some (Jvm.ClassFile.FieldType.object "java/lang/StringBuilder"))) ∈ lw_all := lw_g (lw_at lw_m3 85 rfl) rfl
theorem q668 : (Jvm.Cond.methodLink "java/lang/StringBuilder" (29 : Nat) ({ cls := "java/lang/AbstractStringBuilder", name := "append", desc := "(Ljava/lang/String;)Ljava/lang/AbstractStringBuilder;" } : Jvm.MethodName)) ∈ lw_all := lw_g (lw_at lw_m3 86 rfl) rfl
theorem q698 : (Jvm.Cond.selects "java/lang/StringBuilder" ({ cls := "java/lang/AbstractStringBuilder", name := "isLatin1", desc := "()Z" } : Jvm.MethodName) ({ cls := "java/lang/AbstractStringBuilder", name := "isLatin1", desc := "()Z" } : Jvm.MethodName)) ∈ lw_all := lw_g (lw_at lw_m3 116 rfl) rfl
theorem q770 : (Jvm.Cond.instanceMethod ({ cls := "java/lang/StringBuilder", name := "append", desc := "(I)Ljava/lang/StringBuilder;" } : Jvm.MethodName)) ∈ lw_all := lw_g (lw_at lw_m3 188 rfl) rfl
theorem q771 : (Jvm.Cond.selects "java/lang/StringBuilder" ({ cls := "java/lang/StringBuilder", name := "append", desc := "(I)Ljava/lang/StringBuilder;" } : Jvm.MethodName) ({ cls := "java/lang/StringBuilder", name := "append", desc := "(I)Ljava/lang/StringBuilder;" } : Jvm.MethodName)) ∈ lw_all := lw_g (lw_at lw_m3 189 rfl) rfl
theorem q772 : (Jvm.Cond.code ({ cls := "java/lang/StringBuilder", name := "append", desc := "(I)Ljava/lang/StringBuilder;" } : Jvm.MethodName) prog_36_method_15_code (2 : Nat) (Option.some (Jvm.ClassFile.FieldType.object "java/lang/StringBuilder"))) ∈ lw_all := lw_g (lw_at lw_m3 190 rfl) rfl
theorem q773 : (Jvm.Cond.methodLink "java/lang/StringBuilder" (53 : Nat) ({ cls := "java/lang/AbstractStringBuilder", name := "append", desc := "(I)Ljava/lang/AbstractStringBuilder;" } : Jvm.MethodName)) ∈ lw_all := lw_g (lw_at lw_m3 191 rfl) rfl
theorem q796 : (Jvm.Cond.instanceMethod ({ cls := "java/lang/StringBuilder", name := "toString", desc := "()Ljava/lang/String;" } : Jvm.MethodName)) ∈ lw_all := lw_g (lw_at lw_m3 214 rfl) rfl
theorem q797 : (Jvm.Cond.selects "java/lang/StringBuilder" ({ cls := "java/lang/StringBuilder", name := "toString", desc := "()Ljava/lang/String;" } : Jvm.MethodName) ({ cls := "java/lang/StringBuilder", name := "toString", desc := "()Ljava/lang/String;" } : Jvm.MethodName)) ∈ lw_all := lw_g (lw_at lw_m3 215 rfl) rfl
theorem q798 : (Jvm.Cond.code ({ cls := "java/lang/StringBuilder", name := "toString", desc := "()Ljava/lang/String;" } : Jvm.MethodName) prog_36_method_42_code (1 : Nat) (Option.some (Jvm.ClassFile.FieldType.object "java/lang/String"))) ∈ lw_all := lw_g (lw_at lw_m3 216 rfl) rfl
theorem q799 : (Jvm.Cond.classLink "java/lang/StringBuilder" (18 : Nat) "java/lang/String") ∈ lw_all := lw_g (lw_at lw_m3 217 rfl) rfl
theorem q801 : (Jvm.Cond.methodLink "java/lang/StringBuilder" (137 : Nat) ({ cls := "java/lang/String", name := "<init>", desc := "(Ljava/lang/StringBuilder;)V" } : Jvm.MethodName)) ∈ lw_all := lw_g (lw_at lw_m3 219 rfl) rfl
theorem q811 : (Jvm.Cond.selects "java/lang/StringBuilder" ({ cls := "java/lang/AbstractStringBuilder", name := "getValue", desc := "()[B" } : Jvm.MethodName) ({ cls := "java/lang/AbstractStringBuilder", name := "getValue", desc := "()[B" } : Jvm.MethodName)) ∈ lw_all := lw_g (lw_at lw_m3 229 rfl) rfl
theorem q816 : (Jvm.Cond.selects "java/lang/StringBuilder" ({ cls := "java/lang/AbstractStringBuilder", name := "length", desc := "()I" } : Jvm.MethodName) ({ cls := "java/lang/StringBuilder", name := "length", desc := "()I" } : Jvm.MethodName)) ∈ lw_all := lw_g (lw_at lw_m3 234 rfl) rfl
theorem q817 : (Jvm.Cond.instanceMethod ({ cls := "java/lang/StringBuilder", name := "length", desc := "()I" } : Jvm.MethodName)) ∈ lw_all := lw_g (lw_at lw_m3 235 rfl) rfl
theorem q818 : (Jvm.Cond.code ({ cls := "java/lang/StringBuilder", name := "length", desc := "()I" } : Jvm.MethodName) prog_36_method_93_code (1 : Nat) (Option.some Jvm.ClassFile.FieldType.int)) ∈ lw_all := lw_g (lw_at lw_m3 236 rfl) rfl
theorem q819 : (Jvm.Cond.methodLink "java/lang/StringBuilder" (343 : Nat) ({ cls := "java/lang/AbstractStringBuilder", name := "length", desc := "()I" } : Jvm.MethodName)) ∈ lw_all := lw_g (lw_at lw_m3 237 rfl) rfl
theorem q1797 : (Jvm.Cond.selects "java/lang/StringBuilder" ({ cls := "java/lang/Object", name := "equals", desc := "(Ljava/lang/Object;)Z" } : Jvm.MethodName) ({ cls := "java/lang/Object", name := "equals", desc := "(Ljava/lang/Object;)Z" } : Jvm.MethodName)) ∈ lw_all := lw_g (lw_at lw_m8 15 rfl) rfl
theorem q2273 : (Jvm.Cond.instanceMethod ({ cls := "java/lang/StringBuilder", name := "append", desc := "(C)Ljava/lang/StringBuilder;" } : Jvm.MethodName)) ∈ lw_all := lw_g (lw_at lw_m10 11 rfl) rfl
theorem q2274 : (Jvm.Cond.selects "java/lang/StringBuilder" ({ cls := "java/lang/StringBuilder", name := "append", desc := "(C)Ljava/lang/StringBuilder;" } : Jvm.MethodName) ({ cls := "java/lang/StringBuilder", name := "append", desc := "(C)Ljava/lang/StringBuilder;" } : Jvm.MethodName)) ∈ lw_all := lw_g (lw_at lw_m10 12 rfl) rfl
theorem q2275 : (Jvm.Cond.code ({ cls := "java/lang/StringBuilder", name := "append", desc := "(C)Ljava/lang/StringBuilder;" } : Jvm.MethodName) prog_36_method_14_code (2 : Nat) (Option.some (Jvm.ClassFile.FieldType.object "java/lang/StringBuilder"))) ∈ lw_all := lw_g (lw_at lw_m10 13 rfl) rfl
theorem q2276 : (Jvm.Cond.methodLink "java/lang/StringBuilder" (50 : Nat) ({ cls := "java/lang/AbstractStringBuilder", name := "append", desc := "(C)Ljava/lang/AbstractStringBuilder;" } : Jvm.MethodName)) ∈ lw_all := lw_g (lw_at lw_m10 14 rfl) rfl
theorem q2520 : (Jvm.Cond.castable "java/lang/StringBuilder" "java/lang/CharSequence") ∈ lw_tbl := lw_at lw_m11 18 rfl
theorem q2521 : (Jvm.Cond.selects "java/lang/StringBuilder" ({ cls := "java/lang/CharSequence", name := "length", desc := "()I" } : Jvm.MethodName) ({ cls := "java/lang/StringBuilder", name := "length", desc := "()I" } : Jvm.MethodName)) ∈ lw_all := lw_g (lw_at lw_m11 19 rfl) rfl
theorem q2522 : (Jvm.Cond.unhidden "java/lang/StringBuilder" "length" "()I") ∈ lw_tbl := lw_at lw_m11 20 rfl
theorem q2523 : (Jvm.Cond.publicMethod ({ cls := "java/lang/StringBuilder", name := "length", desc := "()I" } : Jvm.MethodName)) ∈ lw_tbl := lw_at lw_m11 21 rfl
theorem q2531 : (Jvm.Cond.selects "java/lang/StringBuilder" ({ cls := "java/lang/CharSequence", name := "charAt", desc := "(I)C" } : Jvm.MethodName) ({ cls := "java/lang/StringBuilder", name := "charAt", desc := "(I)C" } : Jvm.MethodName)) ∈ lw_all := lw_g (lw_at lw_m11 29 rfl) rfl
theorem q2532 : (Jvm.Cond.unhidden "java/lang/StringBuilder" "charAt" "(I)C") ∈ lw_tbl := lw_at lw_m11 30 rfl
theorem q2533 : (Jvm.Cond.instanceMethod ({ cls := "java/lang/StringBuilder", name := "charAt", desc := "(I)C" } : Jvm.MethodName)) ∈ lw_all := lw_g (lw_at lw_m11 31 rfl) rfl
theorem q2534 : (Jvm.Cond.publicMethod ({ cls := "java/lang/StringBuilder", name := "charAt", desc := "(I)C" } : Jvm.MethodName)) ∈ lw_tbl := lw_at lw_m11 32 rfl
theorem q2535 : (Jvm.Cond.code ({ cls := "java/lang/StringBuilder", name := "charAt", desc := "(I)C" } : Jvm.MethodName) prog_36_method_88_code (2 : Nat) (Option.some Jvm.ClassFile.FieldType.char)) ∈ lw_all := lw_g (lw_at lw_m11 33 rfl) rfl
theorem q2536 : (Jvm.Cond.methodLink "java/lang/StringBuilder" (329 : Nat) ({ cls := "java/lang/AbstractStringBuilder", name := "charAt", desc := "(I)C" } : Jvm.MethodName)) ∈ lw_all := lw_g (lw_at lw_m11 34 rfl) rfl
theorem q3165 : (Jvm.Cond.selects "java/lang/StringBuilder" ({ cls := "java/lang/StringBuilder", name := "length", desc := "()I" } : Jvm.MethodName) ({ cls := "java/lang/StringBuilder", name := "length", desc := "()I" } : Jvm.MethodName)) ∈ lw_all := lw_g (lw_at lw_m13 183 rfl) rfl
theorem q3175 : (Jvm.Cond.castable "java/lang/StringBuilder" "java/lang/Object") ∈ lw_tbl := lw_at lw_m13 193 rfl
theorem in_J10 : ∀ w ∈ wsJ100, w ∈ lw_all := lw_in wsJ100 [402, 404, 406, 408] (by decide +kernel) (by decide +kernel)
/-! java/lang/String -/
set_option maxRecDepth 100000
def RJ11 : String := "java/lang/String"
def TJ11 : u_T := fun k => match k with
  | 0 => ("java/lang/String", "value", "[B", true)
  | 1 => ("java/lang/String", "coder", "B", true)
  | 2 => ("java/lang/String", "hash", "I", false)
  | _ => ("java/lang/String", "hashIsZero", "Z", false)
def tyJ11 : Nat → FieldType := fun k => match k with
  | 0 => .array .byte
  | 1 => .byte
  | 2 => .int
  | _ => .boolean
abbrev wsJ110 : List Cond := u_ws RJ11 TJ11 4
theorem nmJ11 : ∀ a, a < 4 → ∀ b, b < 4 → a ≠ b → (TJ11 a).2.1 ≠ (TJ11 b).2.1 := by decide +kernel
theorem tyJ11_ok : ∀ k, k < 4 → parseFieldDescriptor (TJ11 k).2.2.1 = some (tyJ11 k) := by decide +kernel
abbrev cJ11_checkBoundsBeginEnd : ByteArray := prog_35_method_158_code
def yJ11_checkBoundsBeginEnd : MethodName := ⟨RJ11, "checkBoundsBeginEnd", "(III)V"⟩
def dkwJ11_checkBoundsBeginEnd_0 : List UInt8 := [26, 27, 28, 178, 4, 29, 184, 4, 38, 87, 177]
abbrev dktJ11_checkBoundsBeginEnd_0 : List UInt8 := dkwJ11_checkBoundsBeginEnd_0 ++ []
theorem dksJ11_checkBoundsBeginEnd_0 : cJ11_checkBoundsBeginEnd.data.toList.drop 0 = dktJ11_checkBoundsBeginEnd_0 := by decide +kernel
theorem dJ11_checkBoundsBeginEnd_0 : decode cJ11_checkBoundsBeginEnd 0 = .ok (.iload_n 0, 1) := dk_26 (dk_at dksJ11_checkBoundsBeginEnd_0 0 rfl rfl)
theorem dJ11_checkBoundsBeginEnd_1 : decode cJ11_checkBoundsBeginEnd 1 = .ok (.iload_n 1, 1) := dk_27 (dk_at dksJ11_checkBoundsBeginEnd_0 1 rfl rfl)
theorem dJ11_checkBoundsBeginEnd_2 : decode cJ11_checkBoundsBeginEnd 2 = .ok (.iload_n 2, 1) := dk_28 (dk_at dksJ11_checkBoundsBeginEnd_0 2 rfl rfl)
theorem dJ11_checkBoundsBeginEnd_3 : decode cJ11_checkBoundsBeginEnd 3 = .ok (.getstatic 1053, 3) := dk_178 4 29 (dk_at dksJ11_checkBoundsBeginEnd_0 3 rfl rfl)
theorem dJ11_checkBoundsBeginEnd_6 : decode cJ11_checkBoundsBeginEnd 6 = .ok (.invokestatic 1062, 3) := dk_184 4 38 (dk_at dksJ11_checkBoundsBeginEnd_0 6 rfl rfl)
theorem dJ11_checkBoundsBeginEnd_9 : decode cJ11_checkBoundsBeginEnd 9 = .ok (.pop, 1) := dk_87 (dk_at dksJ11_checkBoundsBeginEnd_0 9 rfl rfl)
theorem dJ11_checkBoundsBeginEnd_10 : decode cJ11_checkBoundsBeginEnd 10 = .ok (.return_, 1) := dk_177 (dk_at dksJ11_checkBoundsBeginEnd_0 10 rfl rfl)
abbrev cJ11_length : ByteArray := prog_35_method_54_code
def yJ11_length : MethodName := ⟨RJ11, "length", "()I"⟩
def dkwJ11_length_0 : List UInt8 := [42, 180, 0, 9, 190, 42, 182, 1, 79, 122, 172]
abbrev dktJ11_length_0 : List UInt8 := dkwJ11_length_0 ++ []
theorem dksJ11_length_0 : cJ11_length.data.toList.drop 0 = dktJ11_length_0 := by decide +kernel
theorem dJ11_length_0 : decode cJ11_length 0 = .ok (.aload_n 0, 1) := dk_42 (dk_at dksJ11_length_0 0 rfl rfl)
theorem dJ11_length_1 : decode cJ11_length 1 = .ok (.getfield 9, 3) := dk_180 0 9 (dk_at dksJ11_length_0 1 rfl rfl)
theorem dJ11_length_4 : decode cJ11_length 4 = .ok (.arraylength, 1) := dk_190 (dk_at dksJ11_length_0 4 rfl rfl)
theorem dJ11_length_5 : decode cJ11_length 5 = .ok (.aload_n 0, 1) := dk_42 (dk_at dksJ11_length_0 5 rfl rfl)
theorem dJ11_length_6 : decode cJ11_length 6 = .ok (.invokevirtual 335, 3) := dk_182 1 79 (dk_at dksJ11_length_0 6 rfl rfl)
theorem dJ11_length_9 : decode cJ11_length 9 = .ok (.ishr, 1) := dk_122 (dk_at dksJ11_length_0 9 rfl rfl)
theorem dJ11_length_10 : decode cJ11_length 10 = .ok (.ireturn, 1) := dk_172 (dk_at dksJ11_length_0 10 rfl rfl)
abbrev cJ11_coder : ByteArray := prog_35_method_152_code
def yJ11_coder : MethodName := ⟨RJ11, "coder", "()B"⟩
def dkwJ11_coder_0 : List UInt8 := [178, 0, 38, 153, 0, 10, 42, 180, 0, 15, 167, 0, 4, 4, 172]
abbrev dktJ11_coder_0 : List UInt8 := dkwJ11_coder_0 ++ []
theorem dksJ11_coder_0 : cJ11_coder.data.toList.drop 0 = dktJ11_coder_0 := by decide +kernel
theorem dJ11_coder_0 : decode cJ11_coder 0 = .ok (.getstatic 38, 3) := dk_178 0 38 (dk_at dksJ11_coder_0 0 rfl rfl)
theorem dJ11_coder_3 : decode cJ11_coder 3 = .ok (.ifCond .eq 10, 3) := dk_153 0 10 (dk_at dksJ11_coder_0 3 rfl rfl)
theorem dJ11_coder_6 : decode cJ11_coder 6 = .ok (.aload_n 0, 1) := dk_42 (dk_at dksJ11_coder_0 6 rfl rfl)
theorem dJ11_coder_7 : decode cJ11_coder 7 = .ok (.getfield 15, 3) := dk_180 0 15 (dk_at dksJ11_coder_0 7 rfl rfl)
theorem dJ11_coder_10 : decode cJ11_coder 10 = .ok (.goto 4, 3) := dk_167 0 4 (dk_at dksJ11_coder_0 10 rfl rfl)
theorem dJ11_coder_13 : decode cJ11_coder 13 = .ok (.iconst 1, 1) := dk_4 (dk_at dksJ11_coder_0 13 rfl rfl)
theorem dJ11_coder_14 : decode cJ11_coder 14 = .ok (.ireturn, 1) := dk_172 (dk_at dksJ11_coder_0 14 rfl rfl)
abbrev cJ11_checkBoundsOffCount : ByteArray := prog_35_method_157_code
def yJ11_checkBoundsOffCount : MethodName := ⟨RJ11, "checkBoundsOffCount", "(III)I"⟩
def dkwJ11_checkBoundsOffCount_0 : List UInt8 := [26, 27, 28, 178, 4, 29, 184, 4, 41, 172]
abbrev dktJ11_checkBoundsOffCount_0 : List UInt8 := dkwJ11_checkBoundsOffCount_0 ++ []
theorem dksJ11_checkBoundsOffCount_0 : cJ11_checkBoundsOffCount.data.toList.drop 0 = dktJ11_checkBoundsOffCount_0 := by decide +kernel
theorem dJ11_checkBoundsOffCount_0 : decode cJ11_checkBoundsOffCount 0 = .ok (.iload_n 0, 1) := dk_26 (dk_at dksJ11_checkBoundsOffCount_0 0 rfl rfl)
theorem dJ11_checkBoundsOffCount_1 : decode cJ11_checkBoundsOffCount 1 = .ok (.iload_n 1, 1) := dk_27 (dk_at dksJ11_checkBoundsOffCount_0 1 rfl rfl)
theorem dJ11_checkBoundsOffCount_2 : decode cJ11_checkBoundsOffCount 2 = .ok (.iload_n 2, 1) := dk_28 (dk_at dksJ11_checkBoundsOffCount_0 2 rfl rfl)
theorem dJ11_checkBoundsOffCount_3 : decode cJ11_checkBoundsOffCount 3 = .ok (.getstatic 1053, 3) := dk_178 4 29 (dk_at dksJ11_checkBoundsOffCount_0 3 rfl rfl)
theorem dJ11_checkBoundsOffCount_6 : decode cJ11_checkBoundsOffCount 6 = .ok (.invokestatic 1065, 3) := dk_184 4 41 (dk_at dksJ11_checkBoundsOffCount_0 6 rfl rfl)
theorem dJ11_checkBoundsOffCount_9 : decode cJ11_checkBoundsOffCount 9 = .ok (.ireturn, 1) := dk_172 (dk_at dksJ11_checkBoundsOffCount_0 9 rfl rfl)
abbrev cJ11_getBytes : ByteArray := prog_35_method_147_code
def yJ11_getBytes : MethodName := ⟨RJ11, "getBytes", "([BIB)V"⟩
def dkwJ11_getBytes_1 : List UInt8 := [184, 0, 212, 167, 0, 18, 42, 180, 0, 9, 3, 43, 28, 42, 180, 0, 9, 190, 184, 0, 106, 177]
abbrev dktJ11_getBytes_1 : List UInt8 := dkwJ11_getBytes_1 ++ []
def dkwJ11_getBytes_0 : List UInt8 := [42, 182, 1, 79, 29, 160, 0, 23, 42, 180, 0, 9, 3, 43, 28, 29, 120, 42, 180, 0, 9, 190]
abbrev dktJ11_getBytes_0 : List UInt8 := dkwJ11_getBytes_0 ++ dktJ11_getBytes_1
theorem dksJ11_getBytes_0 : cJ11_getBytes.data.toList.drop 0 = dktJ11_getBytes_0 := by decide +kernel
theorem dksJ11_getBytes_1 : cJ11_getBytes.data.toList.drop 22 = dktJ11_getBytes_1 := dk_seg dksJ11_getBytes_0 22 rfl rfl
theorem dJ11_getBytes_0 : decode cJ11_getBytes 0 = .ok (.aload_n 0, 1) := dk_42 (dk_at dksJ11_getBytes_0 0 rfl rfl)
theorem dJ11_getBytes_1 : decode cJ11_getBytes 1 = .ok (.invokevirtual 335, 3) := dk_182 1 79 (dk_at dksJ11_getBytes_0 1 rfl rfl)
theorem dJ11_getBytes_4 : decode cJ11_getBytes 4 = .ok (.iload_n 3, 1) := dk_29 (dk_at dksJ11_getBytes_0 4 rfl rfl)
theorem dJ11_getBytes_5 : decode cJ11_getBytes 5 = .ok (.if_icmp .ne 23, 3) := dk_160 0 23 (dk_at dksJ11_getBytes_0 5 rfl rfl)
theorem dJ11_getBytes_8 : decode cJ11_getBytes 8 = .ok (.aload_n 0, 1) := dk_42 (dk_at dksJ11_getBytes_0 8 rfl rfl)
theorem dJ11_getBytes_9 : decode cJ11_getBytes 9 = .ok (.getfield 9, 3) := dk_180 0 9 (dk_at dksJ11_getBytes_0 9 rfl rfl)
theorem dJ11_getBytes_12 : decode cJ11_getBytes 12 = .ok (.iconst 0, 1) := dk_3 (dk_at dksJ11_getBytes_0 12 rfl rfl)
theorem dJ11_getBytes_13 : decode cJ11_getBytes 13 = .ok (.aload_n 1, 1) := dk_43 (dk_at dksJ11_getBytes_0 13 rfl rfl)
theorem dJ11_getBytes_14 : decode cJ11_getBytes 14 = .ok (.iload_n 2, 1) := dk_28 (dk_at dksJ11_getBytes_0 14 rfl rfl)
theorem dJ11_getBytes_15 : decode cJ11_getBytes 15 = .ok (.iload_n 3, 1) := dk_29 (dk_at dksJ11_getBytes_0 15 rfl rfl)
theorem dJ11_getBytes_16 : decode cJ11_getBytes 16 = .ok (.ishl, 1) := dk_120 (dk_at dksJ11_getBytes_0 16 rfl rfl)
theorem dJ11_getBytes_17 : decode cJ11_getBytes 17 = .ok (.aload_n 0, 1) := dk_42 (dk_at dksJ11_getBytes_0 17 rfl rfl)
theorem dJ11_getBytes_18 : decode cJ11_getBytes 18 = .ok (.getfield 9, 3) := dk_180 0 9 (dk_at dksJ11_getBytes_0 18 rfl rfl)
theorem dJ11_getBytes_21 : decode cJ11_getBytes 21 = .ok (.arraylength, 1) := dk_190 (dk_at dksJ11_getBytes_0 21 rfl rfl)
theorem dJ11_getBytes_22 : decode cJ11_getBytes 22 = .ok (.invokestatic 212, 3) := dk_184 0 212 (dk_at dksJ11_getBytes_1 0 rfl rfl)
theorem dJ11_getBytes_25 : decode cJ11_getBytes 25 = .ok (.goto 18, 3) := dk_167 0 18 (dk_at dksJ11_getBytes_1 3 rfl rfl)
theorem dJ11_getBytes_28 : decode cJ11_getBytes 28 = .ok (.aload_n 0, 1) := dk_42 (dk_at dksJ11_getBytes_1 6 rfl rfl)
theorem dJ11_getBytes_29 : decode cJ11_getBytes 29 = .ok (.getfield 9, 3) := dk_180 0 9 (dk_at dksJ11_getBytes_1 7 rfl rfl)
theorem dJ11_getBytes_32 : decode cJ11_getBytes 32 = .ok (.iconst 0, 1) := dk_3 (dk_at dksJ11_getBytes_1 10 rfl rfl)
theorem dJ11_getBytes_33 : decode cJ11_getBytes 33 = .ok (.aload_n 1, 1) := dk_43 (dk_at dksJ11_getBytes_1 11 rfl rfl)
theorem dJ11_getBytes_34 : decode cJ11_getBytes 34 = .ok (.iload_n 2, 1) := dk_28 (dk_at dksJ11_getBytes_1 12 rfl rfl)
theorem dJ11_getBytes_35 : decode cJ11_getBytes 35 = .ok (.aload_n 0, 1) := dk_42 (dk_at dksJ11_getBytes_1 13 rfl rfl)
theorem dJ11_getBytes_36 : decode cJ11_getBytes 36 = .ok (.getfield 9, 3) := dk_180 0 9 (dk_at dksJ11_getBytes_1 14 rfl rfl)
theorem dJ11_getBytes_39 : decode cJ11_getBytes 39 = .ok (.arraylength, 1) := dk_190 (dk_at dksJ11_getBytes_1 17 rfl rfl)
theorem dJ11_getBytes_40 : decode cJ11_getBytes 40 = .ok (.invokestatic 106, 3) := dk_184 0 106 (dk_at dksJ11_getBytes_1 18 rfl rfl)
theorem dJ11_getBytes_43 : decode cJ11_getBytes 43 = .ok (.return_, 1) := dk_177 (dk_at dksJ11_getBytes_1 21 rfl rfl)
abbrev cJ11_init : ByteArray := prog_35_method_53_code
def yJ11_init : MethodName := ⟨RJ11, "<init>", "(Ljava/lang/StringBuilder;)V"⟩
def dkwJ11_init_0 : List UInt8 := [42, 43, 1, 183, 1, 233, 177]
abbrev dktJ11_init_0 : List UInt8 := dkwJ11_init_0 ++ []
theorem dksJ11_init_0 : cJ11_init.data.toList.drop 0 = dktJ11_init_0 := by decide +kernel
theorem dJ11_init_0 : decode cJ11_init 0 = .ok (.aload_n 0, 1) := dk_42 (dk_at dksJ11_init_0 0 rfl rfl)
theorem dJ11_init_1 : decode cJ11_init 1 = .ok (.aload_n 1, 1) := dk_43 (dk_at dksJ11_init_0 1 rfl rfl)
theorem dJ11_init_2 : decode cJ11_init 2 = .ok (.aconst_null, 1) := dk_1 (dk_at dksJ11_init_0 2 rfl rfl)
theorem dJ11_init_3 : decode cJ11_init 3 = .ok (.invokespecial 489, 3) := dk_183 1 233 (dk_at dksJ11_init_0 3 rfl rfl)
theorem dJ11_init_6 : decode cJ11_init 6 = .ok (.return_, 1) := dk_177 (dk_at dksJ11_init_0 6 rfl rfl)
abbrev cJ11_init_2 : ByteArray := prog_35_method_150_code
def yJ11_init_2 : MethodName := ⟨RJ11, "<init>", "(Ljava/lang/AbstractStringBuilder;Ljava/lang/Void;)V"⟩
def dkwJ11_init_2_4 : List UInt8 := [181, 0, 9, 177]
abbrev dktJ11_init_2_4 : List UInt8 := dkwJ11_init_2_4 ++ []
def dkwJ11_init_2_3 : List UInt8 := [184, 0, 47, 181, 0, 15, 177, 42, 4, 181, 0, 15, 42, 45, 3, 21, 4, 4, 120, 184, 0, 54]
abbrev dktJ11_init_2_3 : List UInt8 := dkwJ11_init_2_3 ++ dktJ11_init_2_4
def dkwJ11_init_2_2 : List UInt8 := [180, 4, 24, 153, 0, 28, 42, 45, 3, 21, 4, 184, 4, 27, 181, 0, 9, 42, 42, 180, 0, 9, 21, 4]
abbrev dktJ11_init_2_2 : List UInt8 := dkwJ11_init_2_2 ++ dktJ11_init_2_3
def dkwJ11_init_2_1 : List UInt8 := [181, 0, 15, 42, 45, 3, 21, 4, 184, 0, 54, 181, 0, 9, 167, 0, 59, 178, 0, 38, 153, 0, 35, 43]
abbrev dktJ11_init_2_1 : List UInt8 := dkwJ11_init_2_1 ++ dktJ11_init_2_2
def dkwJ11_init_2_0 : List UInt8 := [42, 183, 0, 1, 43, 182, 2, 40, 78, 43, 182, 2, 37, 54, 4, 43, 182, 4, 23, 153, 0, 22, 42, 3]
abbrev dktJ11_init_2_0 : List UInt8 := dkwJ11_init_2_0 ++ dktJ11_init_2_1
theorem dksJ11_init_2_0 : cJ11_init_2.data.toList.drop 0 = dktJ11_init_2_0 := by decide +kernel
theorem dksJ11_init_2_1 : cJ11_init_2.data.toList.drop 24 = dktJ11_init_2_1 := dk_seg dksJ11_init_2_0 24 rfl rfl
theorem dksJ11_init_2_2 : cJ11_init_2.data.toList.drop 48 = dktJ11_init_2_2 := dk_seg dksJ11_init_2_1 24 rfl rfl
theorem dksJ11_init_2_3 : cJ11_init_2.data.toList.drop 72 = dktJ11_init_2_3 := dk_seg dksJ11_init_2_2 24 rfl rfl
theorem dksJ11_init_2_4 : cJ11_init_2.data.toList.drop 94 = dktJ11_init_2_4 := dk_seg dksJ11_init_2_3 22 rfl rfl
theorem dJ11_init_2_0 : decode cJ11_init_2 0 = .ok (.aload_n 0, 1) := dk_42 (dk_at dksJ11_init_2_0 0 rfl rfl)
theorem dJ11_init_2_1 : decode cJ11_init_2 1 = .ok (.invokespecial 1, 3) := dk_183 0 1 (dk_at dksJ11_init_2_0 1 rfl rfl)
theorem dJ11_init_2_4 : decode cJ11_init_2 4 = .ok (.aload_n 1, 1) := dk_43 (dk_at dksJ11_init_2_0 4 rfl rfl)
theorem dJ11_init_2_5 : decode cJ11_init_2 5 = .ok (.invokevirtual 552, 3) := dk_182 2 40 (dk_at dksJ11_init_2_0 5 rfl rfl)
theorem dJ11_init_2_8 : decode cJ11_init_2 8 = .ok (.astore_n 3, 1) := dk_78 (dk_at dksJ11_init_2_0 8 rfl rfl)
theorem dJ11_init_2_9 : decode cJ11_init_2 9 = .ok (.aload_n 1, 1) := dk_43 (dk_at dksJ11_init_2_0 9 rfl rfl)
theorem dJ11_init_2_10 : decode cJ11_init_2 10 = .ok (.invokevirtual 549, 3) := dk_182 2 37 (dk_at dksJ11_init_2_0 10 rfl rfl)
theorem dJ11_init_2_13 : decode cJ11_init_2 13 = .ok (.istore 4, 2) := dk_54 4 (dk_at dksJ11_init_2_0 13 rfl rfl)
theorem dJ11_init_2_15 : decode cJ11_init_2 15 = .ok (.aload_n 1, 1) := dk_43 (dk_at dksJ11_init_2_0 15 rfl rfl)
theorem dJ11_init_2_16 : decode cJ11_init_2 16 = .ok (.invokevirtual 1047, 3) := dk_182 4 23 (dk_at dksJ11_init_2_0 16 rfl rfl)
theorem dJ11_init_2_19 : decode cJ11_init_2 19 = .ok (.ifCond .eq 22, 3) := dk_153 0 22 (dk_at dksJ11_init_2_0 19 rfl rfl)
theorem dJ11_init_2_22 : decode cJ11_init_2 22 = .ok (.aload_n 0, 1) := dk_42 (dk_at dksJ11_init_2_0 22 rfl rfl)
theorem dJ11_init_2_23 : decode cJ11_init_2 23 = .ok (.iconst 0, 1) := dk_3 (dk_at dksJ11_init_2_0 23 rfl rfl)
theorem dJ11_init_2_24 : decode cJ11_init_2 24 = .ok (.putfield 15, 3) := dk_181 0 15 (dk_at dksJ11_init_2_1 0 rfl rfl)
theorem dJ11_init_2_27 : decode cJ11_init_2 27 = .ok (.aload_n 0, 1) := dk_42 (dk_at dksJ11_init_2_1 3 rfl rfl)
theorem dJ11_init_2_28 : decode cJ11_init_2 28 = .ok (.aload_n 3, 1) := dk_45 (dk_at dksJ11_init_2_1 4 rfl rfl)
theorem dJ11_init_2_29 : decode cJ11_init_2 29 = .ok (.iconst 0, 1) := dk_3 (dk_at dksJ11_init_2_1 5 rfl rfl)
theorem dJ11_init_2_30 : decode cJ11_init_2 30 = .ok (.iload 4, 2) := dk_21 4 (dk_at dksJ11_init_2_1 6 rfl rfl)
theorem dJ11_init_2_32 : decode cJ11_init_2 32 = .ok (.invokestatic 54, 3) := dk_184 0 54 (dk_at dksJ11_init_2_1 8 rfl rfl)
theorem dJ11_init_2_35 : decode cJ11_init_2 35 = .ok (.putfield 9, 3) := dk_181 0 9 (dk_at dksJ11_init_2_1 11 rfl rfl)
theorem dJ11_init_2_38 : decode cJ11_init_2 38 = .ok (.goto 59, 3) := dk_167 0 59 (dk_at dksJ11_init_2_1 14 rfl rfl)
theorem dJ11_init_2_41 : decode cJ11_init_2 41 = .ok (.getstatic 38, 3) := dk_178 0 38 (dk_at dksJ11_init_2_1 17 rfl rfl)
theorem dJ11_init_2_44 : decode cJ11_init_2 44 = .ok (.ifCond .eq 35, 3) := dk_153 0 35 (dk_at dksJ11_init_2_1 20 rfl rfl)
theorem dJ11_init_2_47 : decode cJ11_init_2 47 = .ok (.aload_n 1, 1) := dk_43 (dk_at dksJ11_init_2_1 23 rfl rfl)
theorem dJ11_init_2_48 : decode cJ11_init_2 48 = .ok (.getfield 1048, 3) := dk_180 4 24 (dk_at dksJ11_init_2_2 0 rfl rfl)
theorem dJ11_init_2_51 : decode cJ11_init_2 51 = .ok (.ifCond .eq 28, 3) := dk_153 0 28 (dk_at dksJ11_init_2_2 3 rfl rfl)
theorem dJ11_init_2_54 : decode cJ11_init_2 54 = .ok (.aload_n 0, 1) := dk_42 (dk_at dksJ11_init_2_2 6 rfl rfl)
theorem dJ11_init_2_55 : decode cJ11_init_2 55 = .ok (.aload_n 3, 1) := dk_45 (dk_at dksJ11_init_2_2 7 rfl rfl)
theorem dJ11_init_2_56 : decode cJ11_init_2 56 = .ok (.iconst 0, 1) := dk_3 (dk_at dksJ11_init_2_2 8 rfl rfl)
theorem dJ11_init_2_57 : decode cJ11_init_2 57 = .ok (.iload 4, 2) := dk_21 4 (dk_at dksJ11_init_2_2 9 rfl rfl)
theorem dJ11_init_2_59 : decode cJ11_init_2 59 = .ok (.invokestatic 1051, 3) := dk_184 4 27 (dk_at dksJ11_init_2_2 11 rfl rfl)
theorem dJ11_init_2_62 : decode cJ11_init_2 62 = .ok (.putfield 9, 3) := dk_181 0 9 (dk_at dksJ11_init_2_2 14 rfl rfl)
theorem dJ11_init_2_65 : decode cJ11_init_2 65 = .ok (.aload_n 0, 1) := dk_42 (dk_at dksJ11_init_2_2 17 rfl rfl)
theorem dJ11_init_2_66 : decode cJ11_init_2 66 = .ok (.aload_n 0, 1) := dk_42 (dk_at dksJ11_init_2_2 18 rfl rfl)
theorem dJ11_init_2_67 : decode cJ11_init_2 67 = .ok (.getfield 9, 3) := dk_180 0 9 (dk_at dksJ11_init_2_2 19 rfl rfl)
theorem dJ11_init_2_70 : decode cJ11_init_2 70 = .ok (.iload 4, 2) := dk_21 4 (dk_at dksJ11_init_2_2 22 rfl rfl)
theorem dJ11_init_2_72 : decode cJ11_init_2 72 = .ok (.invokestatic 47, 3) := dk_184 0 47 (dk_at dksJ11_init_2_3 0 rfl rfl)
theorem dJ11_init_2_75 : decode cJ11_init_2 75 = .ok (.putfield 15, 3) := dk_181 0 15 (dk_at dksJ11_init_2_3 3 rfl rfl)
theorem dJ11_init_2_78 : decode cJ11_init_2 78 = .ok (.return_, 1) := dk_177 (dk_at dksJ11_init_2_3 6 rfl rfl)
theorem dJ11_init_2_79 : decode cJ11_init_2 79 = .ok (.aload_n 0, 1) := dk_42 (dk_at dksJ11_init_2_3 7 rfl rfl)
theorem dJ11_init_2_80 : decode cJ11_init_2 80 = .ok (.iconst 1, 1) := dk_4 (dk_at dksJ11_init_2_3 8 rfl rfl)
theorem dJ11_init_2_81 : decode cJ11_init_2 81 = .ok (.putfield 15, 3) := dk_181 0 15 (dk_at dksJ11_init_2_3 9 rfl rfl)
theorem dJ11_init_2_84 : decode cJ11_init_2 84 = .ok (.aload_n 0, 1) := dk_42 (dk_at dksJ11_init_2_3 12 rfl rfl)
theorem dJ11_init_2_85 : decode cJ11_init_2 85 = .ok (.aload_n 3, 1) := dk_45 (dk_at dksJ11_init_2_3 13 rfl rfl)
theorem dJ11_init_2_86 : decode cJ11_init_2 86 = .ok (.iconst 0, 1) := dk_3 (dk_at dksJ11_init_2_3 14 rfl rfl)
theorem dJ11_init_2_87 : decode cJ11_init_2 87 = .ok (.iload 4, 2) := dk_21 4 (dk_at dksJ11_init_2_3 15 rfl rfl)
theorem dJ11_init_2_89 : decode cJ11_init_2 89 = .ok (.iconst 1, 1) := dk_4 (dk_at dksJ11_init_2_3 17 rfl rfl)
theorem dJ11_init_2_90 : decode cJ11_init_2 90 = .ok (.ishl, 1) := dk_120 (dk_at dksJ11_init_2_3 18 rfl rfl)
theorem dJ11_init_2_91 : decode cJ11_init_2 91 = .ok (.invokestatic 54, 3) := dk_184 0 54 (dk_at dksJ11_init_2_3 19 rfl rfl)
theorem dJ11_init_2_94 : decode cJ11_init_2 94 = .ok (.putfield 9, 3) := dk_181 0 9 (dk_at dksJ11_init_2_4 0 rfl rfl)
theorem dJ11_init_2_97 : decode cJ11_init_2 97 = .ok (.return_, 1) := dk_177 (dk_at dksJ11_init_2_4 3 rfl rfl)
abbrev cJ11_hashCode : ByteArray := prog_35_method_78_code
def yJ11_hashCode : MethodName := ⟨RJ11, "hashCode", "()I"⟩
def dkwJ11_hashCode_2 : List UInt8 := [181, 0, 23, 167, 0, 8, 42, 27, 181, 0, 19, 27, 172]
abbrev dktJ11_hashCode_2 : List UInt8 := dkwJ11_hashCode_2 ++ []
def dkwJ11_hashCode_1 : List UInt8 := [180, 0, 9, 184, 2, 116, 167, 0, 10, 42, 180, 0, 9, 184, 2, 120, 60, 27, 154, 0, 11, 42, 4]
abbrev dktJ11_hashCode_1 : List UInt8 := dkwJ11_hashCode_1 ++ dktJ11_hashCode_2
def dkwJ11_hashCode_0 : List UInt8 := [42, 180, 0, 19, 60, 27, 154, 0, 52, 42, 180, 0, 23, 154, 0, 45, 42, 182, 1, 236, 153, 0, 13, 42]
abbrev dktJ11_hashCode_0 : List UInt8 := dkwJ11_hashCode_0 ++ dktJ11_hashCode_1
theorem dksJ11_hashCode_0 : cJ11_hashCode.data.toList.drop 0 = dktJ11_hashCode_0 := by decide +kernel
theorem dksJ11_hashCode_1 : cJ11_hashCode.data.toList.drop 24 = dktJ11_hashCode_1 := dk_seg dksJ11_hashCode_0 24 rfl rfl
theorem dksJ11_hashCode_2 : cJ11_hashCode.data.toList.drop 47 = dktJ11_hashCode_2 := dk_seg dksJ11_hashCode_1 23 rfl rfl
theorem dJ11_hashCode_0 : decode cJ11_hashCode 0 = .ok (.aload_n 0, 1) := dk_42 (dk_at dksJ11_hashCode_0 0 rfl rfl)
theorem dJ11_hashCode_1 : decode cJ11_hashCode 1 = .ok (.getfield 19, 3) := dk_180 0 19 (dk_at dksJ11_hashCode_0 1 rfl rfl)
theorem dJ11_hashCode_4 : decode cJ11_hashCode 4 = .ok (.istore_n 1, 1) := dk_60 (dk_at dksJ11_hashCode_0 4 rfl rfl)
theorem dJ11_hashCode_5 : decode cJ11_hashCode 5 = .ok (.iload_n 1, 1) := dk_27 (dk_at dksJ11_hashCode_0 5 rfl rfl)
theorem dJ11_hashCode_6 : decode cJ11_hashCode 6 = .ok (.ifCond .ne 52, 3) := dk_154 0 52 (dk_at dksJ11_hashCode_0 6 rfl rfl)
theorem dJ11_hashCode_9 : decode cJ11_hashCode 9 = .ok (.aload_n 0, 1) := dk_42 (dk_at dksJ11_hashCode_0 9 rfl rfl)
theorem dJ11_hashCode_10 : decode cJ11_hashCode 10 = .ok (.getfield 23, 3) := dk_180 0 23 (dk_at dksJ11_hashCode_0 10 rfl rfl)
theorem dJ11_hashCode_13 : decode cJ11_hashCode 13 = .ok (.ifCond .ne 45, 3) := dk_154 0 45 (dk_at dksJ11_hashCode_0 13 rfl rfl)
theorem dJ11_hashCode_16 : decode cJ11_hashCode 16 = .ok (.aload_n 0, 1) := dk_42 (dk_at dksJ11_hashCode_0 16 rfl rfl)
theorem dJ11_hashCode_17 : decode cJ11_hashCode 17 = .ok (.invokevirtual 492, 3) := dk_182 1 236 (dk_at dksJ11_hashCode_0 17 rfl rfl)
theorem dJ11_hashCode_20 : decode cJ11_hashCode 20 = .ok (.ifCond .eq 13, 3) := dk_153 0 13 (dk_at dksJ11_hashCode_0 20 rfl rfl)
theorem dJ11_hashCode_23 : decode cJ11_hashCode 23 = .ok (.aload_n 0, 1) := dk_42 (dk_at dksJ11_hashCode_0 23 rfl rfl)
theorem dJ11_hashCode_24 : decode cJ11_hashCode 24 = .ok (.getfield 9, 3) := dk_180 0 9 (dk_at dksJ11_hashCode_1 0 rfl rfl)
theorem dJ11_hashCode_27 : decode cJ11_hashCode 27 = .ok (.invokestatic 628, 3) := dk_184 2 116 (dk_at dksJ11_hashCode_1 3 rfl rfl)
theorem dJ11_hashCode_30 : decode cJ11_hashCode 30 = .ok (.goto 10, 3) := dk_167 0 10 (dk_at dksJ11_hashCode_1 6 rfl rfl)
theorem dJ11_hashCode_33 : decode cJ11_hashCode 33 = .ok (.aload_n 0, 1) := dk_42 (dk_at dksJ11_hashCode_1 9 rfl rfl)
theorem dJ11_hashCode_34 : decode cJ11_hashCode 34 = .ok (.getfield 9, 3) := dk_180 0 9 (dk_at dksJ11_hashCode_1 10 rfl rfl)
theorem dJ11_hashCode_37 : decode cJ11_hashCode 37 = .ok (.invokestatic 632, 3) := dk_184 2 120 (dk_at dksJ11_hashCode_1 13 rfl rfl)
theorem dJ11_hashCode_40 : decode cJ11_hashCode 40 = .ok (.istore_n 1, 1) := dk_60 (dk_at dksJ11_hashCode_1 16 rfl rfl)
theorem dJ11_hashCode_41 : decode cJ11_hashCode 41 = .ok (.iload_n 1, 1) := dk_27 (dk_at dksJ11_hashCode_1 17 rfl rfl)
theorem dJ11_hashCode_42 : decode cJ11_hashCode 42 = .ok (.ifCond .ne 11, 3) := dk_154 0 11 (dk_at dksJ11_hashCode_1 18 rfl rfl)
theorem dJ11_hashCode_45 : decode cJ11_hashCode 45 = .ok (.aload_n 0, 1) := dk_42 (dk_at dksJ11_hashCode_1 21 rfl rfl)
theorem dJ11_hashCode_46 : decode cJ11_hashCode 46 = .ok (.iconst 1, 1) := dk_4 (dk_at dksJ11_hashCode_1 22 rfl rfl)
theorem dJ11_hashCode_47 : decode cJ11_hashCode 47 = .ok (.putfield 23, 3) := dk_181 0 23 (dk_at dksJ11_hashCode_2 0 rfl rfl)
theorem dJ11_hashCode_50 : decode cJ11_hashCode 50 = .ok (.goto 8, 3) := dk_167 0 8 (dk_at dksJ11_hashCode_2 3 rfl rfl)
theorem dJ11_hashCode_53 : decode cJ11_hashCode 53 = .ok (.aload_n 0, 1) := dk_42 (dk_at dksJ11_hashCode_2 6 rfl rfl)
theorem dJ11_hashCode_54 : decode cJ11_hashCode 54 = .ok (.iload_n 1, 1) := dk_27 (dk_at dksJ11_hashCode_2 7 rfl rfl)
theorem dJ11_hashCode_55 : decode cJ11_hashCode 55 = .ok (.putfield 19, 3) := dk_181 0 19 (dk_at dksJ11_hashCode_2 8 rfl rfl)
theorem dJ11_hashCode_58 : decode cJ11_hashCode 58 = .ok (.iload_n 1, 1) := dk_27 (dk_at dksJ11_hashCode_2 11 rfl rfl)
theorem dJ11_hashCode_59 : decode cJ11_hashCode 59 = .ok (.ireturn, 1) := dk_172 (dk_at dksJ11_hashCode_2 12 rfl rfl)
abbrev cJ11_isLatin1 : ByteArray := prog_35_method_154_code
def yJ11_isLatin1 : MethodName := ⟨RJ11, "isLatin1", "()Z"⟩
def dkwJ11_isLatin1_0 : List UInt8 := [178, 0, 38, 153, 0, 14, 42, 180, 0, 15, 154, 0, 7, 4, 167, 0, 4, 3, 172]
abbrev dktJ11_isLatin1_0 : List UInt8 := dkwJ11_isLatin1_0 ++ []
theorem dksJ11_isLatin1_0 : cJ11_isLatin1.data.toList.drop 0 = dktJ11_isLatin1_0 := by decide +kernel
theorem dJ11_isLatin1_0 : decode cJ11_isLatin1 0 = .ok (.getstatic 38, 3) := dk_178 0 38 (dk_at dksJ11_isLatin1_0 0 rfl rfl)
theorem dJ11_isLatin1_3 : decode cJ11_isLatin1 3 = .ok (.ifCond .eq 14, 3) := dk_153 0 14 (dk_at dksJ11_isLatin1_0 3 rfl rfl)
theorem dJ11_isLatin1_6 : decode cJ11_isLatin1 6 = .ok (.aload_n 0, 1) := dk_42 (dk_at dksJ11_isLatin1_0 6 rfl rfl)
theorem dJ11_isLatin1_7 : decode cJ11_isLatin1 7 = .ok (.getfield 15, 3) := dk_180 0 15 (dk_at dksJ11_isLatin1_0 7 rfl rfl)
theorem dJ11_isLatin1_10 : decode cJ11_isLatin1 10 = .ok (.ifCond .ne 7, 3) := dk_154 0 7 (dk_at dksJ11_isLatin1_0 10 rfl rfl)
theorem dJ11_isLatin1_13 : decode cJ11_isLatin1 13 = .ok (.iconst 1, 1) := dk_4 (dk_at dksJ11_isLatin1_0 13 rfl rfl)
theorem dJ11_isLatin1_14 : decode cJ11_isLatin1 14 = .ok (.goto 4, 3) := dk_167 0 4 (dk_at dksJ11_isLatin1_0 14 rfl rfl)
theorem dJ11_isLatin1_17 : decode cJ11_isLatin1 17 = .ok (.iconst 0, 1) := dk_3 (dk_at dksJ11_isLatin1_0 17 rfl rfl)
theorem dJ11_isLatin1_18 : decode cJ11_isLatin1 18 = .ok (.ireturn, 1) := dk_172 (dk_at dksJ11_isLatin1_0 18 rfl rfl)
abbrev cJ11_equals : ByteArray := prog_35_method_66_code
def yJ11_equals : MethodName := ⟨RJ11, "equals", "(Ljava/lang/Object;)Z"⟩
def dkwJ11_equals_2 : List UInt8 := [184, 2, 29, 153, 0, 7, 4, 167, 0, 4, 3, 172]
abbrev dktJ11_equals_2 : List UInt8 := dkwJ11_equals_2 ++ []
def dkwJ11_equals_1 : List UInt8 := [153, 0, 14, 42, 180, 0, 15, 44, 180, 0, 15, 160, 0, 21, 42, 180, 0, 9, 44, 180, 0, 9]
abbrev dktJ11_equals_1 : List UInt8 := dkwJ11_equals_1 ++ dktJ11_equals_2
def dkwJ11_equals_0 : List UInt8 := [42, 43, 166, 0, 5, 4, 172, 43, 193, 0, 10, 153, 0, 43, 43, 192, 0, 10, 77, 178, 0, 38]
abbrev dktJ11_equals_0 : List UInt8 := dkwJ11_equals_0 ++ dktJ11_equals_1
theorem dksJ11_equals_0 : cJ11_equals.data.toList.drop 0 = dktJ11_equals_0 := by decide +kernel
theorem dksJ11_equals_1 : cJ11_equals.data.toList.drop 22 = dktJ11_equals_1 := dk_seg dksJ11_equals_0 22 rfl rfl
theorem dksJ11_equals_2 : cJ11_equals.data.toList.drop 44 = dktJ11_equals_2 := dk_seg dksJ11_equals_1 22 rfl rfl
theorem dJ11_equals_0 : decode cJ11_equals 0 = .ok (.aload_n 0, 1) := dk_42 (dk_at dksJ11_equals_0 0 rfl rfl)
theorem dJ11_equals_1 : decode cJ11_equals 1 = .ok (.aload_n 1, 1) := dk_43 (dk_at dksJ11_equals_0 1 rfl rfl)
theorem dJ11_equals_2 : decode cJ11_equals 2 = .ok (.if_acmp .ne 5, 3) := dk_166 0 5 (dk_at dksJ11_equals_0 2 rfl rfl)
theorem dJ11_equals_5 : decode cJ11_equals 5 = .ok (.iconst 1, 1) := dk_4 (dk_at dksJ11_equals_0 5 rfl rfl)
theorem dJ11_equals_6 : decode cJ11_equals 6 = .ok (.ireturn, 1) := dk_172 (dk_at dksJ11_equals_0 6 rfl rfl)
theorem dJ11_equals_7 : decode cJ11_equals 7 = .ok (.aload_n 1, 1) := dk_43 (dk_at dksJ11_equals_0 7 rfl rfl)
theorem dJ11_equals_8 : decode cJ11_equals 8 = .ok (.instanceof 10, 3) := dk_193 0 10 (dk_at dksJ11_equals_0 8 rfl rfl)
theorem dJ11_equals_11 : decode cJ11_equals 11 = .ok (.ifCond .eq 43, 3) := dk_153 0 43 (dk_at dksJ11_equals_0 11 rfl rfl)
theorem dJ11_equals_14 : decode cJ11_equals 14 = .ok (.aload_n 1, 1) := dk_43 (dk_at dksJ11_equals_0 14 rfl rfl)
theorem dJ11_equals_15 : decode cJ11_equals 15 = .ok (.checkcast 10, 3) := dk_192 0 10 (dk_at dksJ11_equals_0 15 rfl rfl)
theorem dJ11_equals_18 : decode cJ11_equals 18 = .ok (.astore_n 2, 1) := dk_77 (dk_at dksJ11_equals_0 18 rfl rfl)
theorem dJ11_equals_19 : decode cJ11_equals 19 = .ok (.getstatic 38, 3) := dk_178 0 38 (dk_at dksJ11_equals_0 19 rfl rfl)
theorem dJ11_equals_22 : decode cJ11_equals 22 = .ok (.ifCond .eq 14, 3) := dk_153 0 14 (dk_at dksJ11_equals_1 0 rfl rfl)
theorem dJ11_equals_25 : decode cJ11_equals 25 = .ok (.aload_n 0, 1) := dk_42 (dk_at dksJ11_equals_1 3 rfl rfl)
theorem dJ11_equals_26 : decode cJ11_equals 26 = .ok (.getfield 15, 3) := dk_180 0 15 (dk_at dksJ11_equals_1 4 rfl rfl)
theorem dJ11_equals_29 : decode cJ11_equals 29 = .ok (.aload_n 2, 1) := dk_44 (dk_at dksJ11_equals_1 7 rfl rfl)
theorem dJ11_equals_30 : decode cJ11_equals 30 = .ok (.getfield 15, 3) := dk_180 0 15 (dk_at dksJ11_equals_1 8 rfl rfl)
theorem dJ11_equals_33 : decode cJ11_equals 33 = .ok (.if_icmp .ne 21, 3) := dk_160 0 21 (dk_at dksJ11_equals_1 11 rfl rfl)
theorem dJ11_equals_36 : decode cJ11_equals 36 = .ok (.aload_n 0, 1) := dk_42 (dk_at dksJ11_equals_1 14 rfl rfl)
theorem dJ11_equals_37 : decode cJ11_equals 37 = .ok (.getfield 9, 3) := dk_180 0 9 (dk_at dksJ11_equals_1 15 rfl rfl)
theorem dJ11_equals_40 : decode cJ11_equals 40 = .ok (.aload_n 2, 1) := dk_44 (dk_at dksJ11_equals_1 18 rfl rfl)
theorem dJ11_equals_41 : decode cJ11_equals 41 = .ok (.getfield 9, 3) := dk_180 0 9 (dk_at dksJ11_equals_1 19 rfl rfl)
theorem dJ11_equals_44 : decode cJ11_equals 44 = .ok (.invokestatic 541, 3) := dk_184 2 29 (dk_at dksJ11_equals_2 0 rfl rfl)
theorem dJ11_equals_47 : decode cJ11_equals 47 = .ok (.ifCond .eq 7, 3) := dk_153 0 7 (dk_at dksJ11_equals_2 3 rfl rfl)
theorem dJ11_equals_50 : decode cJ11_equals 50 = .ok (.iconst 1, 1) := dk_4 (dk_at dksJ11_equals_2 6 rfl rfl)
theorem dJ11_equals_51 : decode cJ11_equals 51 = .ok (.goto 4, 3) := dk_167 0 4 (dk_at dksJ11_equals_2 7 rfl rfl)
theorem dJ11_equals_54 : decode cJ11_equals 54 = .ok (.iconst 0, 1) := dk_3 (dk_at dksJ11_equals_2 10 rfl rfl)
theorem dJ11_equals_55 : decode cJ11_equals 55 = .ok (.ireturn, 1) := dk_172 (dk_at dksJ11_equals_2 11 rfl rfl)
abbrev cJ11_checkIndex : ByteArray := prog_35_method_155_code
def yJ11_checkIndex : MethodName := ⟨RJ11, "checkIndex", "(II)V"⟩
def dkwJ11_checkIndex_0 : List UInt8 := [26, 27, 178, 4, 29, 184, 4, 35, 87, 177]
abbrev dktJ11_checkIndex_0 : List UInt8 := dkwJ11_checkIndex_0 ++ []
theorem dksJ11_checkIndex_0 : cJ11_checkIndex.data.toList.drop 0 = dktJ11_checkIndex_0 := by decide +kernel
theorem dJ11_checkIndex_0 : decode cJ11_checkIndex 0 = .ok (.iload_n 0, 1) := dk_26 (dk_at dksJ11_checkIndex_0 0 rfl rfl)
theorem dJ11_checkIndex_1 : decode cJ11_checkIndex 1 = .ok (.iload_n 1, 1) := dk_27 (dk_at dksJ11_checkIndex_0 1 rfl rfl)
theorem dJ11_checkIndex_2 : decode cJ11_checkIndex 2 = .ok (.getstatic 1053, 3) := dk_178 4 29 (dk_at dksJ11_checkIndex_0 2 rfl rfl)
theorem dJ11_checkIndex_5 : decode cJ11_checkIndex 5 = .ok (.invokestatic 1059, 3) := dk_184 4 35 (dk_at dksJ11_checkIndex_0 5 rfl rfl)
theorem dJ11_checkIndex_8 : decode cJ11_checkIndex 8 = .ok (.pop, 1) := dk_87 (dk_at dksJ11_checkIndex_0 8 rfl rfl)
theorem dJ11_checkIndex_9 : decode cJ11_checkIndex 9 = .ok (.return_, 1) := dk_177 (dk_at dksJ11_checkIndex_0 9 rfl rfl)
abbrev cJ11_charAt : ByteArray := prog_35_method_56_code
def yJ11_charAt : MethodName := ⟨RJ11, "charAt", "(I)C"⟩
def dkwJ11_charAt_1 : List UInt8 := [172]
abbrev dktJ11_charAt_1 : List UInt8 := dkwJ11_charAt_1 ++ []
def dkwJ11_charAt_0 : List UInt8 := [42, 182, 1, 236, 153, 0, 12, 42, 180, 0, 9, 27, 184, 1, 239, 172, 42, 180, 0, 9, 27, 184, 1, 242]
abbrev dktJ11_charAt_0 : List UInt8 := dkwJ11_charAt_0 ++ dktJ11_charAt_1
theorem dksJ11_charAt_0 : cJ11_charAt.data.toList.drop 0 = dktJ11_charAt_0 := by decide +kernel
theorem dksJ11_charAt_1 : cJ11_charAt.data.toList.drop 24 = dktJ11_charAt_1 := dk_seg dksJ11_charAt_0 24 rfl rfl
theorem dJ11_charAt_0 : decode cJ11_charAt 0 = .ok (.aload_n 0, 1) := dk_42 (dk_at dksJ11_charAt_0 0 rfl rfl)
theorem dJ11_charAt_1 : decode cJ11_charAt 1 = .ok (.invokevirtual 492, 3) := dk_182 1 236 (dk_at dksJ11_charAt_0 1 rfl rfl)
theorem dJ11_charAt_4 : decode cJ11_charAt 4 = .ok (.ifCond .eq 12, 3) := dk_153 0 12 (dk_at dksJ11_charAt_0 4 rfl rfl)
theorem dJ11_charAt_7 : decode cJ11_charAt 7 = .ok (.aload_n 0, 1) := dk_42 (dk_at dksJ11_charAt_0 7 rfl rfl)
theorem dJ11_charAt_8 : decode cJ11_charAt 8 = .ok (.getfield 9, 3) := dk_180 0 9 (dk_at dksJ11_charAt_0 8 rfl rfl)
theorem dJ11_charAt_11 : decode cJ11_charAt 11 = .ok (.iload_n 1, 1) := dk_27 (dk_at dksJ11_charAt_0 11 rfl rfl)
theorem dJ11_charAt_12 : decode cJ11_charAt 12 = .ok (.invokestatic 495, 3) := dk_184 1 239 (dk_at dksJ11_charAt_0 12 rfl rfl)
theorem dJ11_charAt_15 : decode cJ11_charAt 15 = .ok (.ireturn, 1) := dk_172 (dk_at dksJ11_charAt_0 15 rfl rfl)
theorem dJ11_charAt_16 : decode cJ11_charAt 16 = .ok (.aload_n 0, 1) := dk_42 (dk_at dksJ11_charAt_0 16 rfl rfl)
theorem dJ11_charAt_17 : decode cJ11_charAt 17 = .ok (.getfield 9, 3) := dk_180 0 9 (dk_at dksJ11_charAt_0 17 rfl rfl)
theorem dJ11_charAt_20 : decode cJ11_charAt 20 = .ok (.iload_n 1, 1) := dk_27 (dk_at dksJ11_charAt_0 20 rfl rfl)
theorem dJ11_charAt_21 : decode cJ11_charAt 21 = .ok (.invokestatic 498, 3) := dk_184 1 242 (dk_at dksJ11_charAt_0 21 rfl rfl)
theorem dJ11_charAt_24 : decode cJ11_charAt 24 = .ok (.ireturn, 1) := dk_172 (dk_at dksJ11_charAt_1 0 rfl rfl)
abbrev cJ11_indexOf : ByteArray := prog_35_method_79_code
def yJ11_indexOf : MethodName := ⟨RJ11, "indexOf", "(I)I"⟩
def dkwJ11_indexOf_0 : List UInt8 := [42, 27, 3, 182, 2, 121, 172]
abbrev dktJ11_indexOf_0 : List UInt8 := dkwJ11_indexOf_0 ++ []
theorem dksJ11_indexOf_0 : cJ11_indexOf.data.toList.drop 0 = dktJ11_indexOf_0 := by decide +kernel
theorem dJ11_indexOf_0 : decode cJ11_indexOf 0 = .ok (.aload_n 0, 1) := dk_42 (dk_at dksJ11_indexOf_0 0 rfl rfl)
theorem dJ11_indexOf_1 : decode cJ11_indexOf 1 = .ok (.iload_n 1, 1) := dk_27 (dk_at dksJ11_indexOf_0 1 rfl rfl)
theorem dJ11_indexOf_2 : decode cJ11_indexOf 2 = .ok (.iconst 0, 1) := dk_3 (dk_at dksJ11_indexOf_0 2 rfl rfl)
theorem dJ11_indexOf_3 : decode cJ11_indexOf 3 = .ok (.invokevirtual 633, 3) := dk_182 2 121 (dk_at dksJ11_indexOf_0 3 rfl rfl)
theorem dJ11_indexOf_6 : decode cJ11_indexOf 6 = .ok (.ireturn, 1) := dk_172 (dk_at dksJ11_indexOf_0 6 rfl rfl)
abbrev cJ11_indexOf_2 : ByteArray := prog_35_method_80_code
def yJ11_indexOf_2 : MethodName := ⟨RJ11, "indexOf", "(II)I"⟩
def dkwJ11_indexOf_2_1 : List UInt8 := [180, 0, 9, 27, 28, 42, 182, 1, 249, 184, 2, 128, 172]
abbrev dktJ11_indexOf_2_1 : List UInt8 := dkwJ11_indexOf_2_1 ++ []
def dkwJ11_indexOf_2_0 : List UInt8 := [42, 182, 1, 236, 153, 0, 19, 42, 180, 0, 9, 27, 28, 42, 182, 1, 249, 184, 2, 125, 167, 0, 16, 42]
abbrev dktJ11_indexOf_2_0 : List UInt8 := dkwJ11_indexOf_2_0 ++ dktJ11_indexOf_2_1
theorem dksJ11_indexOf_2_0 : cJ11_indexOf_2.data.toList.drop 0 = dktJ11_indexOf_2_0 := by decide +kernel
theorem dksJ11_indexOf_2_1 : cJ11_indexOf_2.data.toList.drop 24 = dktJ11_indexOf_2_1 := dk_seg dksJ11_indexOf_2_0 24 rfl rfl
theorem dJ11_indexOf_2_0 : decode cJ11_indexOf_2 0 = .ok (.aload_n 0, 1) := dk_42 (dk_at dksJ11_indexOf_2_0 0 rfl rfl)
theorem dJ11_indexOf_2_1 : decode cJ11_indexOf_2 1 = .ok (.invokevirtual 492, 3) := dk_182 1 236 (dk_at dksJ11_indexOf_2_0 1 rfl rfl)
theorem dJ11_indexOf_2_4 : decode cJ11_indexOf_2 4 = .ok (.ifCond .eq 19, 3) := dk_153 0 19 (dk_at dksJ11_indexOf_2_0 4 rfl rfl)
theorem dJ11_indexOf_2_7 : decode cJ11_indexOf_2 7 = .ok (.aload_n 0, 1) := dk_42 (dk_at dksJ11_indexOf_2_0 7 rfl rfl)
theorem dJ11_indexOf_2_8 : decode cJ11_indexOf_2 8 = .ok (.getfield 9, 3) := dk_180 0 9 (dk_at dksJ11_indexOf_2_0 8 rfl rfl)
theorem dJ11_indexOf_2_11 : decode cJ11_indexOf_2 11 = .ok (.iload_n 1, 1) := dk_27 (dk_at dksJ11_indexOf_2_0 11 rfl rfl)
theorem dJ11_indexOf_2_12 : decode cJ11_indexOf_2 12 = .ok (.iload_n 2, 1) := dk_28 (dk_at dksJ11_indexOf_2_0 12 rfl rfl)
theorem dJ11_indexOf_2_13 : decode cJ11_indexOf_2 13 = .ok (.aload_n 0, 1) := dk_42 (dk_at dksJ11_indexOf_2_0 13 rfl rfl)
theorem dJ11_indexOf_2_14 : decode cJ11_indexOf_2 14 = .ok (.invokevirtual 505, 3) := dk_182 1 249 (dk_at dksJ11_indexOf_2_0 14 rfl rfl)
theorem dJ11_indexOf_2_17 : decode cJ11_indexOf_2 17 = .ok (.invokestatic 637, 3) := dk_184 2 125 (dk_at dksJ11_indexOf_2_0 17 rfl rfl)
theorem dJ11_indexOf_2_20 : decode cJ11_indexOf_2 20 = .ok (.goto 16, 3) := dk_167 0 16 (dk_at dksJ11_indexOf_2_0 20 rfl rfl)
theorem dJ11_indexOf_2_23 : decode cJ11_indexOf_2 23 = .ok (.aload_n 0, 1) := dk_42 (dk_at dksJ11_indexOf_2_0 23 rfl rfl)
theorem dJ11_indexOf_2_24 : decode cJ11_indexOf_2 24 = .ok (.getfield 9, 3) := dk_180 0 9 (dk_at dksJ11_indexOf_2_1 0 rfl rfl)
theorem dJ11_indexOf_2_27 : decode cJ11_indexOf_2 27 = .ok (.iload_n 1, 1) := dk_27 (dk_at dksJ11_indexOf_2_1 3 rfl rfl)
theorem dJ11_indexOf_2_28 : decode cJ11_indexOf_2 28 = .ok (.iload_n 2, 1) := dk_28 (dk_at dksJ11_indexOf_2_1 4 rfl rfl)
theorem dJ11_indexOf_2_29 : decode cJ11_indexOf_2 29 = .ok (.aload_n 0, 1) := dk_42 (dk_at dksJ11_indexOf_2_1 5 rfl rfl)
theorem dJ11_indexOf_2_30 : decode cJ11_indexOf_2 30 = .ok (.invokevirtual 505, 3) := dk_182 1 249 (dk_at dksJ11_indexOf_2_1 6 rfl rfl)
theorem dJ11_indexOf_2_33 : decode cJ11_indexOf_2 33 = .ok (.invokestatic 640, 3) := dk_184 2 128 (dk_at dksJ11_indexOf_2_1 9 rfl rfl)
theorem dJ11_indexOf_2_36 : decode cJ11_indexOf_2 36 = .ok (.ireturn, 1) := dk_172 (dk_at dksJ11_indexOf_2_1 12 rfl rfl)
theorem q118 : (Jvm.Cond.initialized "java/lang/String") ∈ lw_all := lw_g (lw_at lw_m1 16 rfl) rfl
theorem q274 : (Jvm.Cond.selects "java/lang/String" ({ cls := "java/lang/Object", name := "getClass", desc := "()Ljava/lang/Class;" } : Jvm.MethodName) ({ cls := "java/lang/Object", name := "getClass", desc := "()Ljava/lang/Class;" } : Jvm.MethodName)) ∈ lw_all := lw_g (lw_at lw_m1 172 rfl) rfl
theorem q390 : (Jvm.Cond.laysStatic "java/lang/String" "COMPACT_STRINGS" "Z") ∈ lw_tbl := lw_at lw_m2 48 rfl
theorem q400 : (Jvm.Cond.fieldLink "java/lang/String" (1048 : Nat) "java/lang/AbstractStringBuilder" "maybeLatin1" "Z") ∈ lw_all := lw_g (lw_at lw_m2 58 rfl) rfl
theorem q710 : (Jvm.Cond.static ({ cls := "java/lang/String", name := "checkBoundsBeginEnd", desc := "(III)V" } : Jvm.MethodName)) ∈ lw_all := lw_g (lw_at lw_m3 128 rfl) rfl
theorem q711 : (Jvm.Cond.code ({ cls := "java/lang/String", name := "checkBoundsBeginEnd", desc := "(III)V" } : Jvm.MethodName) prog_35_method_158_code (3 : Nat) (Option.none : Option Jvm.ClassFile.FieldType)) ∈ lw_all := lw_g (lw_at lw_m3 129 rfl) rfl
theorem q712 : (Jvm.Cond.fieldLink "java/lang/String" (1053 : Nat) "jdk/internal/util/Preconditions" "SIOOBE_FORMATTER" "Ljava/util/function/BiFunction;") ∈ lw_all := lw_g (lw_at lw_m3 130 rfl) rfl
theorem q714 : (Jvm.Cond.methodLink "java/lang/String" (1062 : Nat) ({ cls := "jdk/internal/util/Preconditions", name := "checkFromToIndex", desc := "(IIILjava/util/function/BiFunction;)I" } : Jvm.MethodName)) ∈ lw_all := lw_g (lw_at lw_m3 132 rfl) rfl
theorem q727 : (Jvm.Cond.instanceMethod ({ cls := "java/lang/String", name := "length", desc := "()I" } : Jvm.MethodName)) ∈ lw_all := lw_g (lw_at lw_m3 145 rfl) rfl
theorem q728 : (Jvm.Cond.selects "java/lang/String" ({ cls := "java/lang/String", name := "length", desc := "()I" } : Jvm.MethodName) ({ cls := "java/lang/String", name := "length", desc := "()I" } : Jvm.MethodName)) ∈ lw_all := lw_g (lw_at lw_m3 146 rfl) rfl
theorem q729 : (Jvm.Cond.code ({ cls := "java/lang/String", name := "length", desc := "()I" } : Jvm.MethodName) prog_35_method_54_code (1 : Nat) (Option.some Jvm.ClassFile.FieldType.int)) ∈ lw_all := lw_g (lw_at lw_m3 147 rfl) rfl
theorem q730 : (Jvm.Cond.methodLink "java/lang/String" (335 : Nat) ({ cls := "java/lang/String", name := "coder", desc := "()B" } : Jvm.MethodName)) ∈ lw_all := lw_g (lw_at lw_m3 148 rfl) rfl
theorem q731 : (Jvm.Cond.instanceMethod ({ cls := "java/lang/String", name := "coder", desc := "()B" } : Jvm.MethodName)) ∈ lw_all := lw_g (lw_at lw_m3 149 rfl) rfl
theorem q732 : (Jvm.Cond.selects "java/lang/String" ({ cls := "java/lang/String", name := "coder", desc := "()B" } : Jvm.MethodName) ({ cls := "java/lang/String", name := "coder", desc := "()B" } : Jvm.MethodName)) ∈ lw_all := lw_g (lw_at lw_m3 150 rfl) rfl
theorem q733 : (Jvm.Cond.code ({ cls := "java/lang/String", name := "coder", desc := "()B" } : Jvm.MethodName) prog_35_method_152_code (1 : Nat) (Option.some Jvm.ClassFile.FieldType.byte)) ∈ lw_all := lw_g (lw_at lw_m3 151 rfl) rfl
theorem q734 : (Jvm.Cond.fieldLink "java/lang/String" (38 : Nat) "java/lang/String" "COMPACT_STRINGS" "Z") ∈ lw_all := lw_g (lw_at lw_m3 152 rfl) rfl
theorem q758 : (Jvm.Cond.static ({ cls := "java/lang/String", name := "checkBoundsOffCount", desc := "(III)I" } : Jvm.MethodName)) ∈ lw_all := lw_g (lw_at lw_m3 176 rfl) rfl
theorem q759 : (Jvm.Cond.code ({ cls := "java/lang/String", name := "checkBoundsOffCount", desc := "(III)I" } : Jvm.MethodName) prog_35_method_157_code (3 : Nat) (Option.some Jvm.ClassFile.FieldType.int)) ∈ lw_all := lw_g (lw_at lw_m3 177 rfl) rfl
theorem q760 : (Jvm.Cond.methodLink "java/lang/String" (1065 : Nat) ({ cls := "jdk/internal/util/Preconditions", name := "checkFromIndexSize", desc := "(IIILjava/util/function/BiFunction;)I" } : Jvm.MethodName)) ∈ lw_all := lw_g (lw_at lw_m3 178 rfl) rfl
theorem q764 : (Jvm.Cond.instanceMethod ({ cls := "java/lang/String", name := "getBytes", desc := "([BIB)V" } : Jvm.MethodName)) ∈ lw_all := lw_g (lw_at lw_m3 182 rfl) rfl
theorem q765 : (Jvm.Cond.selects "java/lang/String" ({ cls := "java/lang/String", name := "getBytes", desc := "([BIB)V" } : Jvm.MethodName) ({ cls := "java/lang/String", name := "getBytes", desc := "([BIB)V" } : Jvm.MethodName)) ∈ lw_all := lw_g (lw_at lw_m3 183 rfl) rfl
theorem q766 : (Jvm.Cond.code ({ cls := "java/lang/String", name := "getBytes", desc := "([BIB)V" } : Jvm.MethodName) prog_35_method_147_code (4 : Nat) (Option.none : Option Jvm.ClassFile.FieldType)) ∈ lw_all := lw_g (lw_at lw_m3 184 rfl) rfl
theorem q767 : (Jvm.Cond.methodLink "java/lang/String" (212 : Nat) ({ cls := "java/lang/System", name := "arraycopy", desc := "(Ljava/lang/Object;ILjava/lang/Object;II)V" } : Jvm.MethodName)) ∈ lw_all := lw_g (lw_at lw_m3 185 rfl) rfl
theorem q768 : (Jvm.Cond.methodLink "java/lang/String" (106 : Nat) ({ cls := "java/lang/StringLatin1", name := "inflate", desc := "([BI[BII)V" } : Jvm.MethodName)) ∈ lw_all := lw_g (lw_at lw_m3 186 rfl) rfl
theorem q800 : (Jvm.Cond.instantiable "java/lang/String" (4 : Nat)) ∈ lw_all := lw_g (lw_at lw_m3 218 rfl) rfl
theorem q802 : (Jvm.Cond.instanceMethod ({ cls := "java/lang/String", name := "<init>", desc := "(Ljava/lang/StringBuilder;)V" } : Jvm.MethodName)) ∈ lw_all := lw_g (lw_at lw_m3 220 rfl) rfl
theorem q803 : (Jvm.Cond.code ({ cls := "java/lang/String", name := "<init>", desc := "(Ljava/lang/StringBuilder;)V" } : Jvm.MethodName) prog_35_method_53_code (2 : Nat) (Option.none : Option Jvm.ClassFile.FieldType)) ∈ lw_all := lw_g (lw_at lw_m3 221 rfl) rfl
theorem q804 : (Jvm.Cond.methodLink "java/lang/String" (489 : Nat) ({ cls := "java/lang/String", name := "<init>", desc := "(Ljava/lang/AbstractStringBuilder;Ljava/lang/Void;)V" } : Jvm.MethodName)) ∈ lw_all := lw_g (lw_at lw_m3 222 rfl) rfl
theorem q805 : (Jvm.Cond.instanceMethod ({ cls := "java/lang/String", name := "<init>", desc := "(Ljava/lang/AbstractStringBuilder;Ljava/lang/Void;)V" } : Jvm.MethodName)) ∈ lw_all := lw_g (lw_at lw_m3 223 rfl) rfl
theorem q806 : (Jvm.Cond.code ({ cls := "java/lang/String", name := "<init>", desc := "(Ljava/lang/AbstractStringBuilder;Ljava/lang/Void;)V" } : Jvm.MethodName) prog_35_method_150_code (5 : Nat) (Option.none : Option Jvm.ClassFile.FieldType)) ∈ lw_all := lw_g (lw_at lw_m3 224 rfl) rfl
theorem q807 : (Jvm.Cond.methodLink "java/lang/String" (1 : Nat) ({ cls := "java/lang/Object", name := "<init>", desc := "()V" } : Jvm.MethodName)) ∈ lw_all := lw_g (lw_at lw_m3 225 rfl) rfl
theorem q808 : (Jvm.Cond.methodLink "java/lang/String" (552 : Nat) ({ cls := "java/lang/AbstractStringBuilder", name := "getValue", desc := "()[B" } : Jvm.MethodName)) ∈ lw_all := lw_g (lw_at lw_m3 226 rfl) rfl
theorem q813 : (Jvm.Cond.methodLink "java/lang/String" (549 : Nat) ({ cls := "java/lang/AbstractStringBuilder", name := "length", desc := "()I" } : Jvm.MethodName)) ∈ lw_all := lw_g (lw_at lw_m3 231 rfl) rfl
theorem q821 : (Jvm.Cond.methodLink "java/lang/String" (1047 : Nat) ({ cls := "java/lang/AbstractStringBuilder", name := "isLatin1", desc := "()Z" } : Jvm.MethodName)) ∈ lw_all := lw_g (lw_at lw_m3 239 rfl) rfl
theorem q822 : (Jvm.Cond.methodLink "java/lang/String" (54 : Nat) ({ cls := "java/util/Arrays", name := "copyOfRange", desc := "([BII)[B" } : Jvm.MethodName)) ∈ lw_all := lw_g (lw_at lw_m4 0 rfl) rfl
theorem q871 : (Jvm.Cond.methodLink "java/lang/String" (1051 : Nat) ({ cls := "java/lang/StringUTF16", name := "compress", desc := "([BII)[B" } : Jvm.MethodName)) ∈ lw_all := lw_g (lw_at lw_m4 49 rfl) rfl
theorem q881 : (Jvm.Cond.methodLink "java/lang/String" (47 : Nat) ({ cls := "java/lang/StringUTF16", name := "coderFromArrayLen", desc := "([BI)B" } : Jvm.MethodName)) ∈ lw_all := lw_g (lw_at lw_m4 59 rfl) rfl
theorem q884 : (Jvm.Cond.fieldLink "java/lang/String" (9 : Nat) "java/lang/String" "value" "[B") ∈ lw_all := lw_g (lw_at lw_m4 62 rfl) rfl
theorem q885 : (Jvm.Cond.fieldLink "java/lang/String" (15 : Nat) "java/lang/String" "coder" "B") ∈ lw_all := lw_g (lw_at lw_m4 63 rfl) rfl
theorem q886 : (Jvm.Cond.fieldLink "java/lang/String" (19 : Nat) "java/lang/String" "hash" "I") ∈ lw_all := lw_g (lw_at lw_m4 64 rfl) rfl
theorem q887 : (Jvm.Cond.fieldLink "java/lang/String" (23 : Nat) "java/lang/String" "hashIsZero" "Z") ∈ lw_all := lw_g (lw_at lw_m4 65 rfl) rfl
theorem q888 : (Jvm.Cond.laysFinal "java/lang/String" "java/lang/String" "value" "[B") ∈ lw_all := lw_g (lw_at lw_m4 66 rfl) rfl
theorem q889 : (Jvm.Cond.soleField "java/lang/String" "value") ∈ lw_all := lw_g (lw_at lw_m4 67 rfl) rfl
theorem q890 : (Jvm.Cond.laysFinal "java/lang/String" "java/lang/String" "coder" "B") ∈ lw_all := lw_g (lw_at lw_m4 68 rfl) rfl
theorem q891 : (Jvm.Cond.soleField "java/lang/String" "coder") ∈ lw_all := lw_g (lw_at lw_m4 69 rfl) rfl
theorem q892 : (Jvm.Cond.lays "java/lang/String" "java/lang/String" "hash" "I") ∈ lw_all := lw_g (lw_at lw_m4 70 rfl) rfl
theorem q893 : (Jvm.Cond.soleField "java/lang/String" "hash") ∈ lw_all := lw_g (lw_at lw_m4 71 rfl) rfl
theorem q894 : (Jvm.Cond.lays "java/lang/String" "java/lang/String" "hashIsZero" "Z") ∈ lw_all := lw_g (lw_at lw_m4 72 rfl) rfl
theorem q895 : (Jvm.Cond.soleField "java/lang/String" "hashIsZero") ∈ lw_all := lw_g (lw_at lw_m4 73 rfl) rfl
theorem q896 : (Jvm.Cond.superclass "java/lang/String" "java/lang/Object") ∈ lw_all := lw_g (lw_at lw_m4 74 rfl) rfl
theorem q1485 : (Jvm.Cond.instanceMethod ({ cls := "java/lang/String", name := "hashCode", desc := "()I" } : Jvm.MethodName)) ∈ lw_all := lw_g (lw_at lw_m6 183 rfl) rfl
theorem q1486 : (Jvm.Cond.selects "java/lang/String" ({ cls := "java/lang/String", name := "hashCode", desc := "()I" } : Jvm.MethodName) ({ cls := "java/lang/String", name := "hashCode", desc := "()I" } : Jvm.MethodName)) ∈ lw_all := lw_g (lw_at lw_m6 184 rfl) rfl
theorem q1487 : (Jvm.Cond.code ({ cls := "java/lang/String", name := "hashCode", desc := "()I" } : Jvm.MethodName) prog_35_method_78_code (2 : Nat) (Option.some Jvm.ClassFile.FieldType.int)) ∈ lw_all := lw_g (lw_at lw_m6 185 rfl) rfl
theorem q1488 : (Jvm.Cond.methodLink "java/lang/String" (492 : Nat) ({ cls := "java/lang/String", name := "isLatin1", desc := "()Z" } : Jvm.MethodName)) ∈ lw_all := lw_g (lw_at lw_m6 186 rfl) rfl
theorem q1489 : (Jvm.Cond.instanceMethod ({ cls := "java/lang/String", name := "isLatin1", desc := "()Z" } : Jvm.MethodName)) ∈ lw_all := lw_g (lw_at lw_m6 187 rfl) rfl
theorem q1490 : (Jvm.Cond.selects "java/lang/String" ({ cls := "java/lang/String", name := "isLatin1", desc := "()Z" } : Jvm.MethodName) ({ cls := "java/lang/String", name := "isLatin1", desc := "()Z" } : Jvm.MethodName)) ∈ lw_all := lw_g (lw_at lw_m6 188 rfl) rfl
theorem q1491 : (Jvm.Cond.code ({ cls := "java/lang/String", name := "isLatin1", desc := "()Z" } : Jvm.MethodName) prog_35_method_154_code (1 : Nat) (Option.some Jvm.ClassFile.FieldType.boolean)) ∈ lw_all := lw_g (lw_at lw_m6 189 rfl) rfl
theorem q1492 : (Jvm.Cond.methodLink "java/lang/String" (628 : Nat) ({ cls := "java/lang/StringLatin1", name := "hashCode", desc := "([B)I" } : Jvm.MethodName)) ∈ lw_all := lw_g (lw_at lw_m6 190 rfl) rfl
theorem q1541 : (Jvm.Cond.methodLink "java/lang/String" (632 : Nat) ({ cls := "java/lang/StringUTF16", name := "hashCode", desc := "([B)I" } : Jvm.MethodName)) ∈ lw_all := lw_g (lw_at lw_m6 239 rfl) rfl
theorem q1547 : (Jvm.Cond.instanceMethod ({ cls := "java/lang/String", name := "equals", desc := "(Ljava/lang/Object;)Z" } : Jvm.MethodName)) ∈ lw_all := lw_g (lw_at lw_m7 5 rfl) rfl
theorem q1548 : (Jvm.Cond.selects "java/lang/String" ({ cls := "java/lang/String", name := "equals", desc := "(Ljava/lang/Object;)Z" } : Jvm.MethodName) ({ cls := "java/lang/String", name := "equals", desc := "(Ljava/lang/Object;)Z" } : Jvm.MethodName)) ∈ lw_all := lw_g (lw_at lw_m7 6 rfl) rfl
theorem q1549 : (Jvm.Cond.code ({ cls := "java/lang/String", name := "equals", desc := "(Ljava/lang/Object;)Z" } : Jvm.MethodName) prog_35_method_66_code (3 : Nat) (Option.some Jvm.ClassFile.FieldType.boolean)) ∈ lw_all := lw_g (lw_at lw_m7 7 rfl) rfl
theorem q1550 : (Jvm.Cond.classLink "java/lang/String" (10 : Nat) "java/lang/String") ∈ lw_all := lw_g (lw_at lw_m7 8 rfl) rfl
theorem q1551 : (Jvm.Cond.methodLink "java/lang/String" (541 : Nat) ({ cls := "java/lang/StringLatin1", name := "equals", desc := "([B[B)Z" } : Jvm.MethodName)) ∈ lw_all := lw_g (lw_at lw_m7 9 rfl) rfl
theorem q1796 : (Jvm.Cond.selects "java/lang/String" ({ cls := "java/lang/Object", name := "equals", desc := "(Ljava/lang/Object;)Z" } : Jvm.MethodName) ({ cls := "java/lang/String", name := "equals", desc := "(Ljava/lang/Object;)Z" } : Jvm.MethodName)) ∈ lw_all := lw_g (lw_at lw_m8 14 rfl) rfl
theorem q2289 : (Jvm.Cond.static ({ cls := "java/lang/String", name := "checkIndex", desc := "(II)V" } : Jvm.MethodName)) ∈ lw_all := lw_g (lw_at lw_m10 27 rfl) rfl
theorem q2290 : (Jvm.Cond.code ({ cls := "java/lang/String", name := "checkIndex", desc := "(II)V" } : Jvm.MethodName) prog_35_method_155_code (2 : Nat) (Option.none : Option Jvm.ClassFile.FieldType)) ∈ lw_all := lw_g (lw_at lw_m10 28 rfl) rfl
theorem q2291 : (Jvm.Cond.methodLink "java/lang/String" (1059 : Nat) ({ cls := "jdk/internal/util/Preconditions", name := "checkIndex", desc := "(IILjava/util/function/BiFunction;)I" } : Jvm.MethodName)) ∈ lw_all := lw_g (lw_at lw_m10 29 rfl) rfl
theorem q2364 : (Jvm.Cond.instanceMethod ({ cls := "java/lang/String", name := "charAt", desc := "(I)C" } : Jvm.MethodName)) ∈ lw_all := lw_g (lw_at lw_m10 102 rfl) rfl
theorem q2365 : (Jvm.Cond.selects "java/lang/String" ({ cls := "java/lang/String", name := "charAt", desc := "(I)C" } : Jvm.MethodName) ({ cls := "java/lang/String", name := "charAt", desc := "(I)C" } : Jvm.MethodName)) ∈ lw_all := lw_g (lw_at lw_m10 103 rfl) rfl
theorem q2366 : (Jvm.Cond.code ({ cls := "java/lang/String", name := "charAt", desc := "(I)C" } : Jvm.MethodName) prog_35_method_56_code (2 : Nat) (Option.some Jvm.ClassFile.FieldType.char)) ∈ lw_all := lw_g (lw_at lw_m10 104 rfl) rfl
theorem q2367 : (Jvm.Cond.methodLink "java/lang/String" (495 : Nat) ({ cls := "java/lang/StringLatin1", name := "charAt", desc := "([BI)C" } : Jvm.MethodName)) ∈ lw_all := lw_g (lw_at lw_m10 105 rfl) rfl
theorem q2371 : (Jvm.Cond.methodLink "java/lang/String" (498 : Nat) ({ cls := "java/lang/StringUTF16", name := "charAt", desc := "([BI)C" } : Jvm.MethodName)) ∈ lw_all := lw_g (lw_at lw_m10 109 rfl) rfl
theorem q2516 : (Jvm.Cond.castable "java/lang/String" "java/lang/CharSequence") ∈ lw_tbl := lw_at lw_m11 14 rfl
theorem q2517 : (Jvm.Cond.selects "java/lang/String" ({ cls := "java/lang/CharSequence", name := "length", desc := "()I" } : Jvm.MethodName) ({ cls := "java/lang/String", name := "length", desc := "()I" } : Jvm.MethodName)) ∈ lw_all := lw_g (lw_at lw_m11 15 rfl) rfl
theorem q2518 : (Jvm.Cond.unhidden "java/lang/String" "length" "()I") ∈ lw_tbl := lw_at lw_m11 16 rfl
theorem q2519 : (Jvm.Cond.publicMethod ({ cls := "java/lang/String", name := "length", desc := "()I" } : Jvm.MethodName)) ∈ lw_tbl := lw_at lw_m11 17 rfl
theorem q2528 : (Jvm.Cond.selects "java/lang/String" ({ cls := "java/lang/CharSequence", name := "charAt", desc := "(I)C" } : Jvm.MethodName) ({ cls := "java/lang/String", name := "charAt", desc := "(I)C" } : Jvm.MethodName)) ∈ lw_all := lw_g (lw_at lw_m11 26 rfl) rfl
theorem q2529 : (Jvm.Cond.unhidden "java/lang/String" "charAt" "(I)C") ∈ lw_tbl := lw_at lw_m11 27 rfl
theorem q2530 : (Jvm.Cond.publicMethod ({ cls := "java/lang/String", name := "charAt", desc := "(I)C" } : Jvm.MethodName)) ∈ lw_tbl := lw_at lw_m11 28 rfl
theorem q3057 : (Jvm.Cond.instanceMethod ({ cls := "java/lang/String", name := "indexOf", desc := "(I)I" } : Jvm.MethodName)) ∈ lw_all := lw_g (lw_at lw_m13 75 rfl) rfl
theorem q3058 : (Jvm.Cond.selects "java/lang/String" ({ cls := "java/lang/String", name := "indexOf", desc := "(I)I" } : Jvm.MethodName) ({ cls := "java/lang/String", name := "indexOf", desc := "(I)I" } : Jvm.MethodName)) ∈ lw_all := lw_g (lw_at lw_m13 76 rfl) rfl
theorem q3059 : (Jvm.Cond.code ({ cls := "java/lang/String", name := "indexOf", desc := "(I)I" } : Jvm.MethodName) prog_35_method_79_code (2 : Nat) (Option.some Jvm.ClassFile.FieldType.int)) ∈ lw_all := lw_g (lw_at lw_m13 77 rfl) rfl
theorem q3060 : (Jvm.Cond.methodLink "java/lang/String" (633 : Nat) ({ cls := "java/lang/String", name := "indexOf", desc := "(II)I" } : Jvm.MethodName)) ∈ lw_all := lw_g (lw_at lw_m13 78 rfl) rfl
theorem q3061 : (Jvm.Cond.instanceMethod ({ cls := "java/lang/String", name := "indexOf", desc := "(II)I" } : Jvm.MethodName)) ∈ lw_all := lw_g (lw_at lw_m13 79 rfl) rfl
theorem q3062 : (Jvm.Cond.selects "java/lang/String" ({ cls := "java/lang/String", name := "indexOf", desc := "(II)I" } : Jvm.MethodName) ({ cls := "java/lang/String", name := "indexOf", desc := "(II)I" } : Jvm.MethodName)) ∈ lw_all := lw_g (lw_at lw_m13 80 rfl) rfl
theorem q3063 : (Jvm.Cond.code ({ cls := "java/lang/String", name := "indexOf", desc := "(II)I" } : Jvm.MethodName) prog_35_method_80_code (3 : Nat) (Option.some Jvm.ClassFile.FieldType.int)) ∈ lw_all := lw_g (lw_at lw_m13 81 rfl) rfl
theorem q3064 : (Jvm.Cond.methodLink "java/lang/String" (505 : Nat) ({ cls := "java/lang/String", name := "length", desc := "()I" } : Jvm.MethodName)) ∈ lw_all := lw_g (lw_at lw_m13 82 rfl) rfl
theorem q3065 : (Jvm.Cond.methodLink "java/lang/String" (637 : Nat) ({ cls := "java/lang/StringLatin1", name := "indexOf", desc := "([BIII)I" } : Jvm.MethodName)) ∈ lw_all := lw_g (lw_at lw_m13 83 rfl) rfl
theorem q3076 : (Jvm.Cond.methodLink "java/lang/String" (640 : Nat) ({ cls := "java/lang/StringUTF16", name := "indexOf", desc := "([BIII)I" } : Jvm.MethodName)) ∈ lw_all := lw_g (lw_at lw_m13 94 rfl) rfl
theorem q3179 : (Jvm.Cond.castable "java/lang/String" "java/lang/Object") ∈ lw_tbl := lw_at lw_m13 197 rfl
theorem in_J11 : ∀ w ∈ wsJ110, w ∈ lw_all := lw_in wsJ110 [888, 890, 892, 894] (by decide +kernel) (by decide +kernel)
