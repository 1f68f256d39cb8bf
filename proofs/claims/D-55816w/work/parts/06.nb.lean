/-! MissingMiddles -/
set_option maxRecDepth 100000
def RX1 : String := "MissingMiddles"
def TX1 : u_T := fun k => match k with
  | 0 => ("MissingMiddles", "office", "LMissingMiddles$Office;", false)
  | 1 => ("MissingMiddles", "undoSteps", "Ljava/util/ArrayDeque;", true)
  | 2 => ("MissingMiddles", "saved", "LMissingMiddles$Office;", false)
  | 3 => ("MissingMiddles", "input", "Ljava/lang/StringBuilder;", false)
  | 4 => ("MissingMiddles", "line", "Ljava/lang/String;", false)
  | 5 => ("MissingMiddles", "lastError", "LMissingMiddles$SyntaxException;", false)
  | 6 => ("MissingMiddles", "lastItem", "I", false)
  | _ => ("MissingMiddles", "lastRefusal", "LMissingMiddles$Refused;", false)
def tyX1 : Nat → FieldType := fun k => match k with
  | 0 => .object "MissingMiddles$Office"
  | 1 => .object "java/util/ArrayDeque"
  | 2 => .object "MissingMiddles$Office"
  | 3 => .object "java/lang/StringBuilder"
  | 4 => .object "java/lang/String"
  | 5 => .object "MissingMiddles$SyntaxException"
  | 6 => .int
  | _ => .object "MissingMiddles$Refused"
abbrev wsX10 : List Cond := u_ws RX1 TX1 8
theorem nmX1 : ∀ a, a < 8 → ∀ b, b < 8 → a ≠ b → (TX1 a).2.1 ≠ (TX1 b).2.1 := by decide +kernel
theorem tyX1_ok : ∀ k, k < 8 → parseFieldDescriptor (TX1 k).2.2.1 = some (tyX1 k) := by decide +kernel
abbrev cX1_init : ByteArray := prog_1_method_11_code
def yX1_init : MethodName := ⟨RX1, "<init>", "()V"⟩
def dkwX1_init_2 : List UInt8 := [181, 0, 104, 177]
abbrev dktX1_init_2 : List UInt8 := dkwX1_init_2 ++ []
def dkwX1_init_1 : List UInt8 := [181, 0, 92, 42, 187, 0, 39, 89, 183, 0, 41, 181, 0, 96, 42, 18, 42, 181, 0, 100, 42, 2]
abbrev dktX1_init_1 : List UInt8 := dkwX1_init_1 ++ dktX1_init_2
def dkwX1_init_0 : List UInt8 := [42, 183, 0, 79, 42, 187, 0, 82, 89, 183, 0, 84, 181, 0, 85, 42, 187, 0, 89, 89, 183, 0, 91]
abbrev dktX1_init_0 : List UInt8 := dkwX1_init_0 ++ dktX1_init_1
theorem dksX1_init_0 : cX1_init.data.toList.drop 0 = dktX1_init_0 := by decide +kernel
theorem dksX1_init_1 : cX1_init.data.toList.drop 23 = dktX1_init_1 := dk_seg dksX1_init_0 23 rfl rfl
theorem dksX1_init_2 : cX1_init.data.toList.drop 45 = dktX1_init_2 := dk_seg dksX1_init_1 22 rfl rfl
theorem dX1_init_0 : decode cX1_init 0 = .ok (.aload_n 0, 1) := dk_42 (dk_at dksX1_init_0 0 rfl rfl)
theorem dX1_init_1 : decode cX1_init 1 = .ok (.invokespecial 79, 3) := dk_183 0 79 (dk_at dksX1_init_0 1 rfl rfl)
theorem dX1_init_4 : decode cX1_init 4 = .ok (.aload_n 0, 1) := dk_42 (dk_at dksX1_init_0 4 rfl rfl)
theorem dX1_init_5 : decode cX1_init 5 = .ok (.new 82, 3) := dk_187 0 82 (dk_at dksX1_init_0 5 rfl rfl)
theorem dX1_init_8 : decode cX1_init 8 = .ok (.dup, 1) := dk_89 (dk_at dksX1_init_0 8 rfl rfl)
theorem dX1_init_9 : decode cX1_init 9 = .ok (.invokespecial 84, 3) := dk_183 0 84 (dk_at dksX1_init_0 9 rfl rfl)
theorem dX1_init_12 : decode cX1_init 12 = .ok (.putfield 85, 3) := dk_181 0 85 (dk_at dksX1_init_0 12 rfl rfl)
theorem dX1_init_15 : decode cX1_init 15 = .ok (.aload_n 0, 1) := dk_42 (dk_at dksX1_init_0 15 rfl rfl)
theorem dX1_init_16 : decode cX1_init 16 = .ok (.new 89, 3) := dk_187 0 89 (dk_at dksX1_init_0 16 rfl rfl)
theorem dX1_init_19 : decode cX1_init 19 = .ok (.dup, 1) := dk_89 (dk_at dksX1_init_0 19 rfl rfl)
theorem dX1_init_20 : decode cX1_init 20 = .ok (.invokespecial 91, 3) := dk_183 0 91 (dk_at dksX1_init_0 20 rfl rfl)
theorem dX1_init_23 : decode cX1_init 23 = .ok (.putfield 92, 3) := dk_181 0 92 (dk_at dksX1_init_1 0 rfl rfl)
theorem dX1_init_26 : decode cX1_init 26 = .ok (.aload_n 0, 1) := dk_42 (dk_at dksX1_init_1 3 rfl rfl)
theorem dX1_init_27 : decode cX1_init 27 = .ok (.new 39, 3) := dk_187 0 39 (dk_at dksX1_init_1 4 rfl rfl)
theorem dX1_init_30 : decode cX1_init 30 = .ok (.dup, 1) := dk_89 (dk_at dksX1_init_1 7 rfl rfl)
theorem dX1_init_31 : decode cX1_init 31 = .ok (.invokespecial 41, 3) := dk_183 0 41 (dk_at dksX1_init_1 8 rfl rfl)
theorem dX1_init_34 : decode cX1_init 34 = .ok (.putfield 96, 3) := dk_181 0 96 (dk_at dksX1_init_1 11 rfl rfl)
theorem dX1_init_37 : decode cX1_init 37 = .ok (.aload_n 0, 1) := dk_42 (dk_at dksX1_init_1 14 rfl rfl)
theorem dX1_init_38 : decode cX1_init 38 = .ok (.ldc 42, 2) := dk_18 42 (dk_at dksX1_init_1 15 rfl rfl)
theorem dX1_init_40 : decode cX1_init 40 = .ok (.putfield 100, 3) := dk_181 0 100 (dk_at dksX1_init_1 17 rfl rfl)
theorem dX1_init_43 : decode cX1_init 43 = .ok (.aload_n 0, 1) := dk_42 (dk_at dksX1_init_1 20 rfl rfl)
theorem dX1_init_44 : decode cX1_init 44 = .ok (.iconst (-1), 1) := dk_2 (dk_at dksX1_init_1 21 rfl rfl)
theorem dX1_init_45 : decode cX1_init 45 = .ok (.putfield 104, 3) := dk_181 0 104 (dk_at dksX1_init_2 0 rfl rfl)
theorem dX1_init_48 : decode cX1_init 48 = .ok (.return_, 1) := dk_177 (dk_at dksX1_init_2 3 rfl rfl)
abbrev cX1_clear : ByteArray := prog_1_method_14_code
def yX1_clear : MethodName := ⟨RX1, "clear", "()I"⟩
def dkwX1_clear_1 : List UInt8 := [180, 0, 92, 182, 0, 148, 27, 172]
abbrev dktX1_clear_1 : List UInt8 := dkwX1_clear_1 ++ []
def dkwX1_clear_0 : List UInt8 := [42, 180, 0, 85, 180, 0, 141, 182, 0, 145, 60, 42, 187, 0, 82, 89, 183, 0, 84, 181, 0, 85, 42]
abbrev dktX1_clear_0 : List UInt8 := dkwX1_clear_0 ++ dktX1_clear_1
theorem dksX1_clear_0 : cX1_clear.data.toList.drop 0 = dktX1_clear_0 := by decide +kernel
theorem dksX1_clear_1 : cX1_clear.data.toList.drop 23 = dktX1_clear_1 := dk_seg dksX1_clear_0 23 rfl rfl
theorem dX1_clear_0 : decode cX1_clear 0 = .ok (.aload_n 0, 1) := dk_42 (dk_at dksX1_clear_0 0 rfl rfl)
theorem dX1_clear_1 : decode cX1_clear 1 = .ok (.getfield 85, 3) := dk_180 0 85 (dk_at dksX1_clear_0 1 rfl rfl)
theorem dX1_clear_4 : decode cX1_clear 4 = .ok (.getfield 141, 3) := dk_180 0 141 (dk_at dksX1_clear_0 4 rfl rfl)
theorem dX1_clear_7 : decode cX1_clear 7 = .ok (.invokevirtual 145, 3) := dk_182 0 145 (dk_at dksX1_clear_0 7 rfl rfl)
theorem dX1_clear_10 : decode cX1_clear 10 = .ok (.istore_n 1, 1) := dk_60 (dk_at dksX1_clear_0 10 rfl rfl)
theorem dX1_clear_11 : decode cX1_clear 11 = .ok (.aload_n 0, 1) := dk_42 (dk_at dksX1_clear_0 11 rfl rfl)
theorem dX1_clear_12 : decode cX1_clear 12 = .ok (.new 82, 3) := dk_187 0 82 (dk_at dksX1_clear_0 12 rfl rfl)
theorem dX1_clear_15 : decode cX1_clear 15 = .ok (.dup, 1) := dk_89 (dk_at dksX1_clear_0 15 rfl rfl)
theorem dX1_clear_16 : decode cX1_clear 16 = .ok (.invokespecial 84, 3) := dk_183 0 84 (dk_at dksX1_clear_0 16 rfl rfl)
theorem dX1_clear_19 : decode cX1_clear 19 = .ok (.putfield 85, 3) := dk_181 0 85 (dk_at dksX1_clear_0 19 rfl rfl)
theorem dX1_clear_22 : decode cX1_clear 22 = .ok (.aload_n 0, 1) := dk_42 (dk_at dksX1_clear_0 22 rfl rfl)
theorem dX1_clear_23 : decode cX1_clear 23 = .ok (.getfield 92, 3) := dk_180 0 92 (dk_at dksX1_clear_1 0 rfl rfl)
theorem dX1_clear_26 : decode cX1_clear 26 = .ok (.invokevirtual 148, 3) := dk_182 0 148 (dk_at dksX1_clear_1 3 rfl rfl)
theorem dX1_clear_29 : decode cX1_clear 29 = .ok (.iload_n 1, 1) := dk_27 (dk_at dksX1_clear_1 6 rfl rfl)
theorem dX1_clear_30 : decode cX1_clear 30 = .ok (.ireturn, 1) := dk_172 (dk_at dksX1_clear_1 7 rfl rfl)
abbrev cX1_isRight : ByteArray := prog_1_method_35_code
def yX1_isRight : MethodName := ⟨RX1, "isRight", "()Z"⟩
def dkwX1_isRight_0 : List UInt8 := [42, 180, 0, 85, 182, 0, 250, 172]
abbrev dktX1_isRight_0 : List UInt8 := dkwX1_isRight_0 ++ []
theorem dksX1_isRight_0 : cX1_isRight.data.toList.drop 0 = dktX1_isRight_0 := by decide +kernel
theorem dX1_isRight_0 : decode cX1_isRight 0 = .ok (.aload_n 0, 1) := dk_42 (dk_at dksX1_isRight_0 0 rfl rfl)
theorem dX1_isRight_1 : decode cX1_isRight 1 = .ok (.getfield 85, 3) := dk_180 0 85 (dk_at dksX1_isRight_0 1 rfl rfl)
theorem dX1_isRight_4 : decode cX1_isRight 4 = .ok (.invokevirtual 250, 3) := dk_182 0 250 (dk_at dksX1_isRight_0 4 rfl rfl)
theorem dX1_isRight_7 : decode cX1_isRight 7 = .ok (.ireturn, 1) := dk_172 (dk_at dksX1_isRight_0 7 rfl rfl)
abbrev cX1_atMost : ByteArray := prog_1_method_9_code
def yX1_atMost : MethodName := ⟨RX1, "atMost", "(I)I"⟩
def dkwX1_atMost_0 : List UInt8 := [17, 3, 231, 26, 184, 0, 33, 172]
abbrev dktX1_atMost_0 : List UInt8 := dkwX1_atMost_0 ++ []
theorem dksX1_atMost_0 : cX1_atMost.data.toList.drop 0 = dktX1_atMost_0 := by decide +kernel
theorem dX1_atMost_0 : decode cX1_atMost 0 = .ok (.sipush 999, 3) := dk_17 3 231 (dk_at dksX1_atMost_0 0 rfl rfl)
theorem dX1_atMost_3 : decode cX1_atMost 3 = .ok (.iload_n 0, 1) := dk_26 (dk_at dksX1_atMost_0 3 rfl rfl)
theorem dX1_atMost_4 : decode cX1_atMost 4 = .ok (.invokestatic 33, 3) := dk_184 0 33 (dk_at dksX1_atMost_0 4 rfl rfl)
theorem dX1_atMost_7 : decode cX1_atMost 7 = .ok (.ireturn, 1) := dk_172 (dk_at dksX1_atMost_0 7 rfl rfl)
abbrev cX1_inRange : ByteArray := prog_1_method_1_code
def yX1_inRange : MethodName := ⟨RX1, "inRange", "(JJJ)Z"⟩
def dkwX1_inRange_0 : List UInt8 := [30, 32, 148, 155, 0, 14, 30, 22, 4, 148, 157, 0, 7, 4, 167, 0, 4, 3, 172]
abbrev dktX1_inRange_0 : List UInt8 := dkwX1_inRange_0 ++ []
theorem dksX1_inRange_0 : cX1_inRange.data.toList.drop 0 = dktX1_inRange_0 := by decide +kernel
theorem dX1_inRange_0 : decode cX1_inRange 0 = .ok (.lload_n 0, 1) := dk_30 (dk_at dksX1_inRange_0 0 rfl rfl)
theorem dX1_inRange_1 : decode cX1_inRange 1 = .ok (.lload_n 2, 1) := dk_32 (dk_at dksX1_inRange_0 1 rfl rfl)
theorem dX1_inRange_2 : decode cX1_inRange 2 = .ok (.lcmp, 1) := dk_148 (dk_at dksX1_inRange_0 2 rfl rfl)
theorem dX1_inRange_3 : decode cX1_inRange 3 = .ok (.ifCond .lt 14, 3) := dk_155 0 14 (dk_at dksX1_inRange_0 3 rfl rfl)
theorem dX1_inRange_6 : decode cX1_inRange 6 = .ok (.lload_n 0, 1) := dk_30 (dk_at dksX1_inRange_0 6 rfl rfl)
theorem dX1_inRange_7 : decode cX1_inRange 7 = .ok (.lload 4, 2) := dk_22 4 (dk_at dksX1_inRange_0 7 rfl rfl)
theorem dX1_inRange_9 : decode cX1_inRange 9 = .ok (.lcmp, 1) := dk_148 (dk_at dksX1_inRange_0 9 rfl rfl)
theorem dX1_inRange_10 : decode cX1_inRange 10 = .ok (.ifCond .gt 7, 3) := dk_157 0 7 (dk_at dksX1_inRange_0 10 rfl rfl)
theorem dX1_inRange_13 : decode cX1_inRange 13 = .ok (.iconst 1, 1) := dk_4 (dk_at dksX1_inRange_0 13 rfl rfl)
theorem dX1_inRange_14 : decode cX1_inRange 14 = .ok (.goto 4, 3) := dk_167 0 4 (dk_at dksX1_inRange_0 14 rfl rfl)
theorem dX1_inRange_17 : decode cX1_inRange 17 = .ok (.iconst 0, 1) := dk_3 (dk_at dksX1_inRange_0 17 rfl rfl)
theorem dX1_inRange_18 : decode cX1_inRange 18 = .ok (.ireturn, 1) := dk_172 (dk_at dksX1_inRange_0 18 rfl rfl)
abbrev cX1_checkIndex : ByteArray := prog_1_method_3_code
def yX1_checkIndex : MethodName := ⟨RX1, "checkIndex", "(Z)V"⟩
def dkwX1_checkIndex_0 : List UInt8 := [26, 154, 0, 11, 187, 0, 7, 89, 183, 0, 9, 191, 177]
abbrev dktX1_checkIndex_0 : List UInt8 := dkwX1_checkIndex_0 ++ []
theorem dksX1_checkIndex_0 : cX1_checkIndex.data.toList.drop 0 = dktX1_checkIndex_0 := by decide +kernel
theorem dX1_checkIndex_0 : decode cX1_checkIndex 0 = .ok (.iload_n 0, 1) := dk_26 (dk_at dksX1_checkIndex_0 0 rfl rfl)
theorem dX1_checkIndex_1 : decode cX1_checkIndex 1 = .ok (.ifCond .ne 11, 3) := dk_154 0 11 (dk_at dksX1_checkIndex_0 1 rfl rfl)
theorem dX1_checkIndex_4 : decode cX1_checkIndex 4 = .ok (.new 7, 3) := dk_187 0 7 (dk_at dksX1_checkIndex_0 4 rfl rfl)
theorem dX1_checkIndex_7 : decode cX1_checkIndex 7 = .ok (.dup, 1) := dk_89 (dk_at dksX1_checkIndex_0 7 rfl rfl)
theorem dX1_checkIndex_8 : decode cX1_checkIndex 8 = .ok (.invokespecial 9, 3) := dk_183 0 9 (dk_at dksX1_checkIndex_0 8 rfl rfl)
theorem dX1_checkIndex_11 : decode cX1_checkIndex 11 = .ok (.athrow, 1) := dk_191 (dk_at dksX1_checkIndex_0 11 rfl rfl)
theorem dX1_checkIndex_12 : decode cX1_checkIndex 12 = .ok (.return_, 1) := dk_177 (dk_at dksX1_checkIndex_0 12 rfl rfl)
abbrev cX1_meanTrust : ByteArray := prog_1_method_46_code
def yX1_meanTrust : MethodName := ⟨RX1, "meanTrust", "()D"⟩
def dkwX1_meanTrust_0 : List UInt8 := [42, 180, 0, 85, 182, 1, 78, 135, 20, 1, 81, 111, 175]
abbrev dktX1_meanTrust_0 : List UInt8 := dkwX1_meanTrust_0 ++ []
theorem dksX1_meanTrust_0 : cX1_meanTrust.data.toList.drop 0 = dktX1_meanTrust_0 := by decide +kernel
theorem dX1_meanTrust_0 : decode cX1_meanTrust 0 = .ok (.aload_n 0, 1) := dk_42 (dk_at dksX1_meanTrust_0 0 rfl rfl)
theorem dX1_meanTrust_1 : decode cX1_meanTrust 1 = .ok (.getfield 85, 3) := dk_180 0 85 (dk_at dksX1_meanTrust_0 1 rfl rfl)
theorem dX1_meanTrust_4 : decode cX1_meanTrust 4 = .ok (.invokevirtual 334, 3) := dk_182 1 78 (dk_at dksX1_meanTrust_0 4 rfl rfl)
theorem dX1_meanTrust_7 : decode cX1_meanTrust 7 = .ok (.i2d, 1) := dk_135 (dk_at dksX1_meanTrust_0 7 rfl rfl)
theorem dX1_meanTrust_8 : decode cX1_meanTrust 8 = .ok (.ldc2_w 337, 3) := dk_20 1 81 (dk_at dksX1_meanTrust_0 8 rfl rfl)
theorem dX1_meanTrust_11 : decode cX1_meanTrust 11 = .ok (.ddiv, 1) := dk_111 (dk_at dksX1_meanTrust_0 11 rfl rfl)
theorem dX1_meanTrust_12 : decode cX1_meanTrust 12 = .ok (.dreturn, 1) := dk_175 (dk_at dksX1_meanTrust_0 12 rfl rfl)
abbrev cX1_snapshot : ByteArray := prog_1_method_54_code
def yX1_snapshot : MethodName := ⟨RX1, "snapshot", "()I"⟩
def dkwX1_snapshot_0 : List UInt8 := [42, 42, 180, 0, 85, 181, 1, 124, 42, 180, 0, 85, 180, 0, 141, 182, 0, 145, 172]
abbrev dktX1_snapshot_0 : List UInt8 := dkwX1_snapshot_0 ++ []
theorem dksX1_snapshot_0 : cX1_snapshot.data.toList.drop 0 = dktX1_snapshot_0 := by decide +kernel
theorem dX1_snapshot_0 : decode cX1_snapshot 0 = .ok (.aload_n 0, 1) := dk_42 (dk_at dksX1_snapshot_0 0 rfl rfl)
theorem dX1_snapshot_1 : decode cX1_snapshot 1 = .ok (.aload_n 0, 1) := dk_42 (dk_at dksX1_snapshot_0 1 rfl rfl)
theorem dX1_snapshot_2 : decode cX1_snapshot 2 = .ok (.getfield 85, 3) := dk_180 0 85 (dk_at dksX1_snapshot_0 2 rfl rfl)
theorem dX1_snapshot_5 : decode cX1_snapshot 5 = .ok (.putfield 380, 3) := dk_181 1 124 (dk_at dksX1_snapshot_0 5 rfl rfl)
theorem dX1_snapshot_8 : decode cX1_snapshot 8 = .ok (.aload_n 0, 1) := dk_42 (dk_at dksX1_snapshot_0 8 rfl rfl)
theorem dX1_snapshot_9 : decode cX1_snapshot 9 = .ok (.getfield 85, 3) := dk_180 0 85 (dk_at dksX1_snapshot_0 9 rfl rfl)
theorem dX1_snapshot_12 : decode cX1_snapshot 12 = .ok (.getfield 141, 3) := dk_180 0 141 (dk_at dksX1_snapshot_0 12 rfl rfl)
theorem dX1_snapshot_15 : decode cX1_snapshot 15 = .ok (.invokevirtual 145, 3) := dk_182 0 145 (dk_at dksX1_snapshot_0 15 rfl rfl)
theorem dX1_snapshot_18 : decode cX1_snapshot 18 = .ok (.ireturn, 1) := dk_172 (dk_at dksX1_snapshot_0 18 rfl rfl)
abbrev cX1_book : ByteArray := prog_1_method_15_code
def yX1_book : MethodName := ⟨RX1, "book", "(IIIII)I"⟩
def dkwX1_book_1 : List UInt8 := [6, 21, 4, 79, 89, 7, 21, 5, 79, 183, 0, 153, 182, 0, 156, 172]
abbrev dktX1_book_1 : List UInt8 := dkwX1_book_1 ++ []
def dkwX1_book_0 : List UInt8 := [42, 187, 0, 123, 89, 18, 151, 3, 8, 188, 10, 89, 3, 27, 79, 89, 4, 28, 79, 89, 5, 29, 79, 89]
abbrev dktX1_book_0 : List UInt8 := dkwX1_book_0 ++ dktX1_book_1
theorem dksX1_book_0 : cX1_book.data.toList.drop 0 = dktX1_book_0 := by decide +kernel
theorem dksX1_book_1 : cX1_book.data.toList.drop 24 = dktX1_book_1 := dk_seg dksX1_book_0 24 rfl rfl
theorem dX1_book_0 : decode cX1_book 0 = .ok (.aload_n 0, 1) := dk_42 (dk_at dksX1_book_0 0 rfl rfl)
theorem dX1_book_1 : decode cX1_book 1 = .ok (.new 123, 3) := dk_187 0 123 (dk_at dksX1_book_0 1 rfl rfl)
theorem dX1_book_4 : decode cX1_book 4 = .ok (.dup, 1) := dk_89 (dk_at dksX1_book_0 4 rfl rfl)
theorem dX1_book_5 : decode cX1_book 5 = .ok (.ldc 151, 2) := dk_18 151 (dk_at dksX1_book_0 5 rfl rfl)
theorem dX1_book_7 : decode cX1_book 7 = .ok (.iconst 0, 1) := dk_3 (dk_at dksX1_book_0 7 rfl rfl)
theorem dX1_book_8 : decode cX1_book 8 = .ok (.iconst 5, 1) := dk_8 (dk_at dksX1_book_0 8 rfl rfl)
theorem dX1_book_9 : decode cX1_book 9 = .ok (.newarray .int, 2) := dk_188_10 (dk_at dksX1_book_0 9 rfl rfl)
theorem dX1_book_11 : decode cX1_book 11 = .ok (.dup, 1) := dk_89 (dk_at dksX1_book_0 11 rfl rfl)
theorem dX1_book_12 : decode cX1_book 12 = .ok (.iconst 0, 1) := dk_3 (dk_at dksX1_book_0 12 rfl rfl)
theorem dX1_book_13 : decode cX1_book 13 = .ok (.iload_n 1, 1) := dk_27 (dk_at dksX1_book_0 13 rfl rfl)
theorem dX1_book_14 : decode cX1_book 14 = .ok (.iastore, 1) := dk_79 (dk_at dksX1_book_0 14 rfl rfl)
theorem dX1_book_15 : decode cX1_book 15 = .ok (.dup, 1) := dk_89 (dk_at dksX1_book_0 15 rfl rfl)
theorem dX1_book_16 : decode cX1_book 16 = .ok (.iconst 1, 1) := dk_4 (dk_at dksX1_book_0 16 rfl rfl)
theorem dX1_book_17 : decode cX1_book 17 = .ok (.iload_n 2, 1) := dk_28 (dk_at dksX1_book_0 17 rfl rfl)
theorem dX1_book_18 : decode cX1_book 18 = .ok (.iastore, 1) := dk_79 (dk_at dksX1_book_0 18 rfl rfl)
theorem dX1_book_19 : decode cX1_book 19 = .ok (.dup, 1) := dk_89 (dk_at dksX1_book_0 19 rfl rfl)
theorem dX1_book_20 : decode cX1_book 20 = .ok (.iconst 2, 1) := dk_5 (dk_at dksX1_book_0 20 rfl rfl)
theorem dX1_book_21 : decode cX1_book 21 = .ok (.iload_n 3, 1) := dk_29 (dk_at dksX1_book_0 21 rfl rfl)
theorem dX1_book_22 : decode cX1_book 22 = .ok (.iastore, 1) := dk_79 (dk_at dksX1_book_0 22 rfl rfl)
theorem dX1_book_23 : decode cX1_book 23 = .ok (.dup, 1) := dk_89 (dk_at dksX1_book_0 23 rfl rfl)
theorem dX1_book_24 : decode cX1_book 24 = .ok (.iconst 3, 1) := dk_6 (dk_at dksX1_book_1 0 rfl rfl)
theorem dX1_book_25 : decode cX1_book 25 = .ok (.iload 4, 2) := dk_21 4 (dk_at dksX1_book_1 1 rfl rfl)
theorem dX1_book_27 : decode cX1_book 27 = .ok (.iastore, 1) := dk_79 (dk_at dksX1_book_1 3 rfl rfl)
theorem dX1_book_28 : decode cX1_book 28 = .ok (.dup, 1) := dk_89 (dk_at dksX1_book_1 4 rfl rfl)
theorem dX1_book_29 : decode cX1_book 29 = .ok (.iconst 4, 1) := dk_7 (dk_at dksX1_book_1 5 rfl rfl)
theorem dX1_book_30 : decode cX1_book 30 = .ok (.iload 5, 2) := dk_21 5 (dk_at dksX1_book_1 6 rfl rfl)
theorem dX1_book_32 : decode cX1_book 32 = .ok (.iastore, 1) := dk_79 (dk_at dksX1_book_1 8 rfl rfl)
theorem dX1_book_33 : decode cX1_book 33 = .ok (.invokespecial 153, 3) := dk_183 0 153 (dk_at dksX1_book_1 9 rfl rfl)
theorem dX1_book_36 : decode cX1_book 36 = .ok (.invokevirtual 156, 3) := dk_182 0 156 (dk_at dksX1_book_1 12 rfl rfl)
theorem dX1_book_39 : decode cX1_book 39 = .ok (.ireturn, 1) := dk_172 (dk_at dksX1_book_1 15 rfl rfl)
abbrev cX1_change : ByteArray := prog_1_method_13_code
def yX1_change : MethodName := ⟨RX1, "change", "(LMissingMiddles$Order;)I"⟩
def dkwX1_change_1 : List UInt8 := [181, 0, 130, 187, 0, 134, 89, 183, 0, 136, 191, 42, 44, 182, 0, 137, 29, 172]
abbrev dktX1_change_1 : List UInt8 := dkwX1_change_1 ++ []
def dkwX1_change_0 : List UInt8 := [42, 180, 0, 85, 182, 0, 118, 77, 43, 44, 182, 0, 122, 62, 167, 0, 19, 58, 4, 42, 25, 4]
abbrev dktX1_change_0 : List UInt8 := dkwX1_change_0 ++ dktX1_change_1
theorem dksX1_change_0 : cX1_change.data.toList.drop 0 = dktX1_change_0 := by decide +kernel
theorem dksX1_change_1 : cX1_change.data.toList.drop 22 = dktX1_change_1 := dk_seg dksX1_change_0 22 rfl rfl
theorem dX1_change_0 : decode cX1_change 0 = .ok (.aload_n 0, 1) := dk_42 (dk_at dksX1_change_0 0 rfl rfl)
theorem dX1_change_1 : decode cX1_change 1 = .ok (.getfield 85, 3) := dk_180 0 85 (dk_at dksX1_change_0 1 rfl rfl)
theorem dX1_change_4 : decode cX1_change 4 = .ok (.invokevirtual 118, 3) := dk_182 0 118 (dk_at dksX1_change_0 4 rfl rfl)
theorem dX1_change_7 : decode cX1_change 7 = .ok (.astore_n 2, 1) := dk_77 (dk_at dksX1_change_0 7 rfl rfl)
theorem dX1_change_8 : decode cX1_change 8 = .ok (.aload_n 1, 1) := dk_43 (dk_at dksX1_change_0 8 rfl rfl)
theorem dX1_change_9 : decode cX1_change 9 = .ok (.aload_n 2, 1) := dk_44 (dk_at dksX1_change_0 9 rfl rfl)
theorem dX1_change_10 : decode cX1_change 10 = .ok (.invokevirtual 122, 3) := dk_182 0 122 (dk_at dksX1_change_0 10 rfl rfl)
theorem dX1_change_13 : decode cX1_change 13 = .ok (.istore_n 3, 1) := dk_62 (dk_at dksX1_change_0 13 rfl rfl)
theorem dX1_change_14 : decode cX1_change 14 = .ok (.goto 19, 3) := dk_167 0 19 (dk_at dksX1_change_0 14 rfl rfl)
theorem dX1_change_17 : decode cX1_change 17 = .ok (.astore 4, 2) := dk_58 4 (dk_at dksX1_change_0 17 rfl rfl)
theorem dX1_change_19 : decode cX1_change 19 = .ok (.aload_n 0, 1) := dk_42 (dk_at dksX1_change_0 19 rfl rfl)
theorem dX1_change_20 : decode cX1_change 20 = .ok (.aload 4, 2) := dk_25 4 (dk_at dksX1_change_0 20 rfl rfl)
theorem dX1_change_22 : decode cX1_change 22 = .ok (.putfield 130, 3) := dk_181 0 130 (dk_at dksX1_change_1 0 rfl rfl)
theorem dX1_change_25 : decode cX1_change 25 = .ok (.new 134, 3) := dk_187 0 134 (dk_at dksX1_change_1 3 rfl rfl)
theorem dX1_change_28 : decode cX1_change 28 = .ok (.dup, 1) := dk_89 (dk_at dksX1_change_1 6 rfl rfl)
theorem dX1_change_29 : decode cX1_change 29 = .ok (.invokespecial 136, 3) := dk_183 0 136 (dk_at dksX1_change_1 7 rfl rfl)
theorem dX1_change_32 : decode cX1_change 32 = .ok (.athrow, 1) := dk_191 (dk_at dksX1_change_1 10 rfl rfl)
theorem dX1_change_33 : decode cX1_change 33 = .ok (.aload_n 0, 1) := dk_42 (dk_at dksX1_change_1 11 rfl rfl)
theorem dX1_change_34 : decode cX1_change 34 = .ok (.aload_n 2, 1) := dk_44 (dk_at dksX1_change_1 12 rfl rfl)
theorem dX1_change_35 : decode cX1_change 35 = .ok (.invokevirtual 137, 3) := dk_182 0 137 (dk_at dksX1_change_1 13 rfl rfl)
theorem dX1_change_38 : decode cX1_change 38 = .ok (.iload_n 3, 1) := dk_29 (dk_at dksX1_change_1 16 rfl rfl)
theorem dX1_change_39 : decode cX1_change 39 = .ok (.ireturn, 1) := dk_172 (dk_at dksX1_change_1 17 rfl rfl)
abbrev cX1_checkArgument : ByteArray := prog_1_method_2_code
def yX1_checkArgument : MethodName := ⟨RX1, "checkArgument", "(Z)V"⟩
def dkwX1_checkArgument_0 : List UInt8 := [26, 154, 0, 11, 187, 0, 1, 89, 183, 0, 3, 191, 177]
abbrev dktX1_checkArgument_0 : List UInt8 := dkwX1_checkArgument_0 ++ []
theorem dksX1_checkArgument_0 : cX1_checkArgument.data.toList.drop 0 = dktX1_checkArgument_0 := by decide +kernel
theorem dX1_checkArgument_0 : decode cX1_checkArgument 0 = .ok (.iload_n 0, 1) := dk_26 (dk_at dksX1_checkArgument_0 0 rfl rfl)
theorem dX1_checkArgument_1 : decode cX1_checkArgument 1 = .ok (.ifCond .ne 11, 3) := dk_154 0 11 (dk_at dksX1_checkArgument_0 1 rfl rfl)
theorem dX1_checkArgument_4 : decode cX1_checkArgument 4 = .ok (.new 1, 3) := dk_187 0 1 (dk_at dksX1_checkArgument_0 4 rfl rfl)
theorem dX1_checkArgument_7 : decode cX1_checkArgument 7 = .ok (.dup, 1) := dk_89 (dk_at dksX1_checkArgument_0 7 rfl rfl)
theorem dX1_checkArgument_8 : decode cX1_checkArgument 8 = .ok (.invokespecial 3, 3) := dk_183 0 3 (dk_at dksX1_checkArgument_0 8 rfl rfl)
theorem dX1_checkArgument_11 : decode cX1_checkArgument 11 = .ok (.athrow, 1) := dk_191 (dk_at dksX1_checkArgument_0 11 rfl rfl)
theorem dX1_checkArgument_12 : decode cX1_checkArgument 12 = .ok (.return_, 1) := dk_177 (dk_at dksX1_checkArgument_0 12 rfl rfl)
abbrev cX1_checkAttic : ByteArray := prog_1_method_7_code
def yX1_checkAttic : MethodName := ⟨RX1, "checkAttic", "(I)V"⟩
def dkwX1_checkAttic_0 : List UInt8 := [26, 133, 9, 20, 0, 21, 184, 0, 23, 184, 0, 27, 177]
abbrev dktX1_checkAttic_0 : List UInt8 := dkwX1_checkAttic_0 ++ []
theorem dksX1_checkAttic_0 : cX1_checkAttic.data.toList.drop 0 = dktX1_checkAttic_0 := by decide +kernel
theorem dX1_checkAttic_0 : decode cX1_checkAttic 0 = .ok (.iload_n 0, 1) := dk_26 (dk_at dksX1_checkAttic_0 0 rfl rfl)
theorem dX1_checkAttic_1 : decode cX1_checkAttic 1 = .ok (.i2l, 1) := dk_133 (dk_at dksX1_checkAttic_0 1 rfl rfl)
theorem dX1_checkAttic_2 : decode cX1_checkAttic 2 = .ok (.lconst 0, 1) := dk_9 (dk_at dksX1_checkAttic_0 2 rfl rfl)
theorem dX1_checkAttic_3 : decode cX1_checkAttic 3 = .ok (.ldc2_w 21, 3) := dk_20 0 21 (dk_at dksX1_checkAttic_0 3 rfl rfl)
theorem dX1_checkAttic_6 : decode cX1_checkAttic 6 = .ok (.invokestatic 23, 3) := dk_184 0 23 (dk_at dksX1_checkAttic_0 6 rfl rfl)
theorem dX1_checkAttic_9 : decode cX1_checkAttic 9 = .ok (.invokestatic 27, 3) := dk_184 0 27 (dk_at dksX1_checkAttic_0 9 rfl rfl)
theorem dX1_checkAttic_12 : decode cX1_checkAttic 12 = .ok (.return_, 1) := dk_177 (dk_at dksX1_checkAttic_0 12 rfl rfl)
abbrev cX1_checkReader : ByteArray := prog_1_method_8_code
def yX1_checkReader : MethodName := ⟨RX1, "checkReader", "(I)V"⟩
def dkwX1_checkReader_0 : List UInt8 := [26, 133, 9, 20, 0, 31, 184, 0, 23, 184, 0, 27, 177]
abbrev dktX1_checkReader_0 : List UInt8 := dkwX1_checkReader_0 ++ []
theorem dksX1_checkReader_0 : cX1_checkReader.data.toList.drop 0 = dktX1_checkReader_0 := by decide +kernel
theorem dX1_checkReader_0 : decode cX1_checkReader 0 = .ok (.iload_n 0, 1) := dk_26 (dk_at dksX1_checkReader_0 0 rfl rfl)
theorem dX1_checkReader_1 : decode cX1_checkReader 1 = .ok (.i2l, 1) := dk_133 (dk_at dksX1_checkReader_0 1 rfl rfl)
theorem dX1_checkReader_2 : decode cX1_checkReader 2 = .ok (.lconst 0, 1) := dk_9 (dk_at dksX1_checkReader_0 2 rfl rfl)
theorem dX1_checkReader_3 : decode cX1_checkReader 3 = .ok (.ldc2_w 31, 3) := dk_20 0 31 (dk_at dksX1_checkReader_0 3 rfl rfl)
theorem dX1_checkReader_6 : decode cX1_checkReader 6 = .ok (.invokestatic 23, 3) := dk_184 0 23 (dk_at dksX1_checkReader_0 6 rfl rfl)
theorem dX1_checkReader_9 : decode cX1_checkReader 9 = .ok (.invokestatic 27, 3) := dk_184 0 27 (dk_at dksX1_checkReader_0 9 rfl rfl)
theorem dX1_checkReader_12 : decode cX1_checkReader 12 = .ok (.return_, 1) := dk_177 (dk_at dksX1_checkReader_0 12 rfl rfl)
abbrev cX1_become : ByteArray := prog_1_method_12_code
def yX1_become : MethodName := ⟨RX1, "become", "(LMissingMiddles$Office;)V"⟩
def dkwX1_become_1 : List UInt8 := [180, 0, 92, 42, 180, 0, 85, 182, 0, 114, 42, 43, 181, 0, 85, 177]
abbrev dktX1_become_1 : List UInt8 := dkwX1_become_1 ++ []
def dkwX1_become_0 : List UInt8 := [42, 180, 0, 92, 182, 0, 108, 16, 8, 160, 0, 14, 42, 180, 0, 92, 182, 0, 111, 192, 0, 82, 77, 42]
abbrev dktX1_become_0 : List UInt8 := dkwX1_become_0 ++ dktX1_become_1
theorem dksX1_become_0 : cX1_become.data.toList.drop 0 = dktX1_become_0 := by decide +kernel
theorem dksX1_become_1 : cX1_become.data.toList.drop 24 = dktX1_become_1 := dk_seg dksX1_become_0 24 rfl rfl
theorem dX1_become_0 : decode cX1_become 0 = .ok (.aload_n 0, 1) := dk_42 (dk_at dksX1_become_0 0 rfl rfl)
theorem dX1_become_1 : decode cX1_become 1 = .ok (.getfield 92, 3) := dk_180 0 92 (dk_at dksX1_become_0 1 rfl rfl)
theorem dX1_become_4 : decode cX1_become 4 = .ok (.invokevirtual 108, 3) := dk_182 0 108 (dk_at dksX1_become_0 4 rfl rfl)
theorem dX1_become_7 : decode cX1_become 7 = .ok (.bipush 8, 2) := dk_16 8 (dk_at dksX1_become_0 7 rfl rfl)
theorem dX1_become_9 : decode cX1_become 9 = .ok (.if_icmp .ne 14, 3) := dk_160 0 14 (dk_at dksX1_become_0 9 rfl rfl)
theorem dX1_become_12 : decode cX1_become 12 = .ok (.aload_n 0, 1) := dk_42 (dk_at dksX1_become_0 12 rfl rfl)
theorem dX1_become_13 : decode cX1_become 13 = .ok (.getfield 92, 3) := dk_180 0 92 (dk_at dksX1_become_0 13 rfl rfl)
theorem dX1_become_16 : decode cX1_become 16 = .ok (.invokevirtual 111, 3) := dk_182 0 111 (dk_at dksX1_become_0 16 rfl rfl)
theorem dX1_become_19 : decode cX1_become 19 = .ok (.checkcast 82, 3) := dk_192 0 82 (dk_at dksX1_become_0 19 rfl rfl)
theorem dX1_become_22 : decode cX1_become 22 = .ok (.astore_n 2, 1) := dk_77 (dk_at dksX1_become_0 22 rfl rfl)
theorem dX1_become_23 : decode cX1_become 23 = .ok (.aload_n 0, 1) := dk_42 (dk_at dksX1_become_0 23 rfl rfl)
theorem dX1_become_24 : decode cX1_become 24 = .ok (.getfield 92, 3) := dk_180 0 92 (dk_at dksX1_become_1 0 rfl rfl)
theorem dX1_become_27 : decode cX1_become 27 = .ok (.aload_n 0, 1) := dk_42 (dk_at dksX1_become_1 3 rfl rfl)
theorem dX1_become_28 : decode cX1_become 28 = .ok (.getfield 85, 3) := dk_180 0 85 (dk_at dksX1_become_1 4 rfl rfl)
theorem dX1_become_31 : decode cX1_become 31 = .ok (.invokevirtual 114, 3) := dk_182 0 114 (dk_at dksX1_become_1 7 rfl rfl)
theorem dX1_become_34 : decode cX1_become 34 = .ok (.aload_n 0, 1) := dk_42 (dk_at dksX1_become_1 10 rfl rfl)
theorem dX1_become_35 : decode cX1_become 35 = .ok (.aload_n 1, 1) := dk_43 (dk_at dksX1_become_1 11 rfl rfl)
theorem dX1_become_36 : decode cX1_become 36 = .ok (.putfield 85, 3) := dk_181 0 85 (dk_at dksX1_become_1 12 rfl rfl)
theorem dX1_become_39 : decode cX1_become 39 = .ok (.return_, 1) := dk_177 (dk_at dksX1_become_1 15 rfl rfl)
abbrev cX1_hide : ByteArray := prog_1_method_16_code
def yX1_hide : MethodName := ⟨RX1, "hide", "(IIIII)I"⟩
def dkwX1_hide_1 : List UInt8 := [6, 21, 4, 79, 89, 7, 21, 5, 79, 183, 0, 153, 182, 0, 156, 172]
abbrev dktX1_hide_1 : List UInt8 := dkwX1_hide_1 ++ []
def dkwX1_hide_0 : List UInt8 := [42, 187, 0, 123, 89, 18, 160, 3, 8, 188, 10, 89, 3, 27, 79, 89, 4, 28, 79, 89, 5, 29, 79, 89]
abbrev dktX1_hide_0 : List UInt8 := dkwX1_hide_0 ++ dktX1_hide_1
theorem dksX1_hide_0 : cX1_hide.data.toList.drop 0 = dktX1_hide_0 := by decide +kernel
theorem dksX1_hide_1 : cX1_hide.data.toList.drop 24 = dktX1_hide_1 := dk_seg dksX1_hide_0 24 rfl rfl
theorem dX1_hide_0 : decode cX1_hide 0 = .ok (.aload_n 0, 1) := dk_42 (dk_at dksX1_hide_0 0 rfl rfl)
theorem dX1_hide_1 : decode cX1_hide 1 = .ok (.new 123, 3) := dk_187 0 123 (dk_at dksX1_hide_0 1 rfl rfl)
theorem dX1_hide_4 : decode cX1_hide 4 = .ok (.dup, 1) := dk_89 (dk_at dksX1_hide_0 4 rfl rfl)
theorem dX1_hide_5 : decode cX1_hide 5 = .ok (.ldc 160, 2) := dk_18 160 (dk_at dksX1_hide_0 5 rfl rfl)
theorem dX1_hide_7 : decode cX1_hide 7 = .ok (.iconst 0, 1) := dk_3 (dk_at dksX1_hide_0 7 rfl rfl)
theorem dX1_hide_8 : decode cX1_hide 8 = .ok (.iconst 5, 1) := dk_8 (dk_at dksX1_hide_0 8 rfl rfl)
theorem dX1_hide_9 : decode cX1_hide 9 = .ok (.newarray .int, 2) := dk_188_10 (dk_at dksX1_hide_0 9 rfl rfl)
theorem dX1_hide_11 : decode cX1_hide 11 = .ok (.dup, 1) := dk_89 (dk_at dksX1_hide_0 11 rfl rfl)
theorem dX1_hide_12 : decode cX1_hide 12 = .ok (.iconst 0, 1) := dk_3 (dk_at dksX1_hide_0 12 rfl rfl)
theorem dX1_hide_13 : decode cX1_hide 13 = .ok (.iload_n 1, 1) := dk_27 (dk_at dksX1_hide_0 13 rfl rfl)
theorem dX1_hide_14 : decode cX1_hide 14 = .ok (.iastore, 1) := dk_79 (dk_at dksX1_hide_0 14 rfl rfl)
theorem dX1_hide_15 : decode cX1_hide 15 = .ok (.dup, 1) := dk_89 (dk_at dksX1_hide_0 15 rfl rfl)
theorem dX1_hide_16 : decode cX1_hide 16 = .ok (.iconst 1, 1) := dk_4 (dk_at dksX1_hide_0 16 rfl rfl)
theorem dX1_hide_17 : decode cX1_hide 17 = .ok (.iload_n 2, 1) := dk_28 (dk_at dksX1_hide_0 17 rfl rfl)
theorem dX1_hide_18 : decode cX1_hide 18 = .ok (.iastore, 1) := dk_79 (dk_at dksX1_hide_0 18 rfl rfl)
theorem dX1_hide_19 : decode cX1_hide 19 = .ok (.dup, 1) := dk_89 (dk_at dksX1_hide_0 19 rfl rfl)
theorem dX1_hide_20 : decode cX1_hide 20 = .ok (.iconst 2, 1) := dk_5 (dk_at dksX1_hide_0 20 rfl rfl)
theorem dX1_hide_21 : decode cX1_hide 21 = .ok (.iload_n 3, 1) := dk_29 (dk_at dksX1_hide_0 21 rfl rfl)
theorem dX1_hide_22 : decode cX1_hide 22 = .ok (.iastore, 1) := dk_79 (dk_at dksX1_hide_0 22 rfl rfl)
theorem dX1_hide_23 : decode cX1_hide 23 = .ok (.dup, 1) := dk_89 (dk_at dksX1_hide_0 23 rfl rfl)
theorem dX1_hide_24 : decode cX1_hide 24 = .ok (.iconst 3, 1) := dk_6 (dk_at dksX1_hide_1 0 rfl rfl)
theorem dX1_hide_25 : decode cX1_hide 25 = .ok (.iload 4, 2) := dk_21 4 (dk_at dksX1_hide_1 1 rfl rfl)
theorem dX1_hide_27 : decode cX1_hide 27 = .ok (.iastore, 1) := dk_79 (dk_at dksX1_hide_1 3 rfl rfl)
theorem dX1_hide_28 : decode cX1_hide 28 = .ok (.dup, 1) := dk_89 (dk_at dksX1_hide_1 4 rfl rfl)
theorem dX1_hide_29 : decode cX1_hide 29 = .ok (.iconst 4, 1) := dk_7 (dk_at dksX1_hide_1 5 rfl rfl)
theorem dX1_hide_30 : decode cX1_hide 30 = .ok (.iload 5, 2) := dk_21 5 (dk_at dksX1_hide_1 6 rfl rfl)
theorem dX1_hide_32 : decode cX1_hide 32 = .ok (.iastore, 1) := dk_79 (dk_at dksX1_hide_1 8 rfl rfl)
theorem dX1_hide_33 : decode cX1_hide 33 = .ok (.invokespecial 153, 3) := dk_183 0 153 (dk_at dksX1_hide_1 9 rfl rfl)
theorem dX1_hide_36 : decode cX1_hide 36 = .ok (.invokevirtual 156, 3) := dk_182 0 156 (dk_at dksX1_hide_1 12 rfl rfl)
theorem dX1_hide_39 : decode cX1_hide 39 = .ok (.ireturn, 1) := dk_172 (dk_at dksX1_hide_1 15 rfl rfl)
abbrev cX1_find : ByteArray := prog_1_method_17_code
def yX1_find : MethodName := ⟨RX1, "find", "(I)I"⟩
def dkwX1_find_0 : List UInt8 := [42, 187, 0, 123, 89, 18, 162, 3, 4, 188, 10, 89, 3, 27, 79, 183, 0, 153, 182, 0, 156, 172]
abbrev dktX1_find_0 : List UInt8 := dkwX1_find_0 ++ []
theorem dksX1_find_0 : cX1_find.data.toList.drop 0 = dktX1_find_0 := by decide +kernel
theorem dX1_find_0 : decode cX1_find 0 = .ok (.aload_n 0, 1) := dk_42 (dk_at dksX1_find_0 0 rfl rfl)
theorem dX1_find_1 : decode cX1_find 1 = .ok (.new 123, 3) := dk_187 0 123 (dk_at dksX1_find_0 1 rfl rfl)
theorem dX1_find_4 : decode cX1_find 4 = .ok (.dup, 1) := dk_89 (dk_at dksX1_find_0 4 rfl rfl)
theorem dX1_find_5 : decode cX1_find 5 = .ok (.ldc 162, 2) := dk_18 162 (dk_at dksX1_find_0 5 rfl rfl)
theorem dX1_find_7 : decode cX1_find 7 = .ok (.iconst 0, 1) := dk_3 (dk_at dksX1_find_0 7 rfl rfl)
theorem dX1_find_8 : decode cX1_find 8 = .ok (.iconst 1, 1) := dk_4 (dk_at dksX1_find_0 8 rfl rfl)
theorem dX1_find_9 : decode cX1_find 9 = .ok (.newarray .int, 2) := dk_188_10 (dk_at dksX1_find_0 9 rfl rfl)
theorem dX1_find_11 : decode cX1_find 11 = .ok (.dup, 1) := dk_89 (dk_at dksX1_find_0 11 rfl rfl)
theorem dX1_find_12 : decode cX1_find 12 = .ok (.iconst 0, 1) := dk_3 (dk_at dksX1_find_0 12 rfl rfl)
theorem dX1_find_13 : decode cX1_find 13 = .ok (.iload_n 1, 1) := dk_27 (dk_at dksX1_find_0 13 rfl rfl)
theorem dX1_find_14 : decode cX1_find 14 = .ok (.iastore, 1) := dk_79 (dk_at dksX1_find_0 14 rfl rfl)
theorem dX1_find_15 : decode cX1_find 15 = .ok (.invokespecial 153, 3) := dk_183 0 153 (dk_at dksX1_find_0 15 rfl rfl)
theorem dX1_find_18 : decode cX1_find 18 = .ok (.invokevirtual 156, 3) := dk_182 0 156 (dk_at dksX1_find_0 18 rfl rfl)
theorem dX1_find_21 : decode cX1_find 21 = .ok (.ireturn, 1) := dk_172 (dk_at dksX1_find_0 21 rfl rfl)
abbrev cX1_drop : ByteArray := prog_1_method_18_code
def yX1_drop : MethodName := ⟨RX1, "drop", "(I)I"⟩
def dkwX1_drop_0 : List UInt8 := [42, 187, 0, 123, 89, 18, 164, 3, 4, 188, 10, 89, 3, 27, 79, 183, 0, 153, 182, 0, 156, 172]
abbrev dktX1_drop_0 : List UInt8 := dkwX1_drop_0 ++ []
theorem dksX1_drop_0 : cX1_drop.data.toList.drop 0 = dktX1_drop_0 := by decide +kernel
theorem dX1_drop_0 : decode cX1_drop 0 = .ok (.aload_n 0, 1) := dk_42 (dk_at dksX1_drop_0 0 rfl rfl)
theorem dX1_drop_1 : decode cX1_drop 1 = .ok (.new 123, 3) := dk_187 0 123 (dk_at dksX1_drop_0 1 rfl rfl)
theorem dX1_drop_4 : decode cX1_drop 4 = .ok (.dup, 1) := dk_89 (dk_at dksX1_drop_0 4 rfl rfl)
theorem dX1_drop_5 : decode cX1_drop 5 = .ok (.ldc 164, 2) := dk_18 164 (dk_at dksX1_drop_0 5 rfl rfl)
theorem dX1_drop_7 : decode cX1_drop 7 = .ok (.iconst 0, 1) := dk_3 (dk_at dksX1_drop_0 7 rfl rfl)
theorem dX1_drop_8 : decode cX1_drop 8 = .ok (.iconst 1, 1) := dk_4 (dk_at dksX1_drop_0 8 rfl rfl)
theorem dX1_drop_9 : decode cX1_drop 9 = .ok (.newarray .int, 2) := dk_188_10 (dk_at dksX1_drop_0 9 rfl rfl)
theorem dX1_drop_11 : decode cX1_drop 11 = .ok (.dup, 1) := dk_89 (dk_at dksX1_drop_0 11 rfl rfl)
theorem dX1_drop_12 : decode cX1_drop 12 = .ok (.iconst 0, 1) := dk_3 (dk_at dksX1_drop_0 12 rfl rfl)
theorem dX1_drop_13 : decode cX1_drop 13 = .ok (.iload_n 1, 1) := dk_27 (dk_at dksX1_drop_0 13 rfl rfl)
theorem dX1_drop_14 : decode cX1_drop 14 = .ok (.iastore, 1) := dk_79 (dk_at dksX1_drop_0 14 rfl rfl)
theorem dX1_drop_15 : decode cX1_drop 15 = .ok (.invokespecial 153, 3) := dk_183 0 153 (dk_at dksX1_drop_0 15 rfl rfl)
theorem dX1_drop_18 : decode cX1_drop 18 = .ok (.invokevirtual 156, 3) := dk_182 0 156 (dk_at dksX1_drop_0 18 rfl rfl)
theorem dX1_drop_21 : decode cX1_drop 21 = .ok (.ireturn, 1) := dk_172 (dk_at dksX1_drop_0 21 rfl rfl)
abbrev cX1_bookOf : ByteArray := prog_1_method_19_code
def yX1_bookOf : MethodName := ⟨RX1, "bookOf", "(II)I"⟩
def dkwX1_bookOf_0 : List UInt8 := [42, 180, 0, 85, 27, 28, 182, 0, 166, 172]
abbrev dktX1_bookOf_0 : List UInt8 := dkwX1_bookOf_0 ++ []
theorem dksX1_bookOf_0 : cX1_bookOf.data.toList.drop 0 = dktX1_bookOf_0 := by decide +kernel
theorem dX1_bookOf_0 : decode cX1_bookOf 0 = .ok (.aload_n 0, 1) := dk_42 (dk_at dksX1_bookOf_0 0 rfl rfl)
theorem dX1_bookOf_1 : decode cX1_bookOf 1 = .ok (.getfield 85, 3) := dk_180 0 85 (dk_at dksX1_bookOf_0 1 rfl rfl)
theorem dX1_bookOf_4 : decode cX1_bookOf 4 = .ok (.iload_n 1, 1) := dk_27 (dk_at dksX1_bookOf_0 4 rfl rfl)
theorem dX1_bookOf_5 : decode cX1_bookOf 5 = .ok (.iload_n 2, 1) := dk_28 (dk_at dksX1_bookOf_0 5 rfl rfl)
theorem dX1_bookOf_6 : decode cX1_bookOf 6 = .ok (.invokevirtual 166, 3) := dk_182 0 166 (dk_at dksX1_bookOf_0 6 rfl rfl)
theorem dX1_bookOf_9 : decode cX1_bookOf 9 = .ok (.ireturn, 1) := dk_172 (dk_at dksX1_bookOf_0 9 rfl rfl)
abbrev cX1_scrapOf : ByteArray := prog_1_method_20_code
def yX1_scrapOf : MethodName := ⟨RX1, "scrapOf", "(II)I"⟩
def dkwX1_scrapOf_0 : List UInt8 := [42, 180, 0, 85, 27, 28, 182, 0, 169, 172]
abbrev dktX1_scrapOf_0 : List UInt8 := dkwX1_scrapOf_0 ++ []
theorem dksX1_scrapOf_0 : cX1_scrapOf.data.toList.drop 0 = dktX1_scrapOf_0 := by decide +kernel
theorem dX1_scrapOf_0 : decode cX1_scrapOf 0 = .ok (.aload_n 0, 1) := dk_42 (dk_at dksX1_scrapOf_0 0 rfl rfl)
theorem dX1_scrapOf_1 : decode cX1_scrapOf 1 = .ok (.getfield 85, 3) := dk_180 0 85 (dk_at dksX1_scrapOf_0 1 rfl rfl)
theorem dX1_scrapOf_4 : decode cX1_scrapOf 4 = .ok (.iload_n 1, 1) := dk_27 (dk_at dksX1_scrapOf_0 4 rfl rfl)
theorem dX1_scrapOf_5 : decode cX1_scrapOf 5 = .ok (.iload_n 2, 1) := dk_28 (dk_at dksX1_scrapOf_0 5 rfl rfl)
theorem dX1_scrapOf_6 : decode cX1_scrapOf 6 = .ok (.invokevirtual 169, 3) := dk_182 0 169 (dk_at dksX1_scrapOf_0 6 rfl rfl)
theorem dX1_scrapOf_9 : decode cX1_scrapOf 9 = .ok (.ireturn, 1) := dk_172 (dk_at dksX1_scrapOf_0 9 rfl rfl)
abbrev cX1_atticOf : ByteArray := prog_1_method_21_code
def yX1_atticOf : MethodName := ⟨RX1, "atticOf", "(II)I"⟩
def dkwX1_atticOf_0 : List UInt8 := [42, 180, 0, 85, 27, 28, 182, 0, 172, 172]
abbrev dktX1_atticOf_0 : List UInt8 := dkwX1_atticOf_0 ++ []
theorem dksX1_atticOf_0 : cX1_atticOf.data.toList.drop 0 = dktX1_atticOf_0 := by decide +kernel
theorem dX1_atticOf_0 : decode cX1_atticOf 0 = .ok (.aload_n 0, 1) := dk_42 (dk_at dksX1_atticOf_0 0 rfl rfl)
theorem dX1_atticOf_1 : decode cX1_atticOf 1 = .ok (.getfield 85, 3) := dk_180 0 85 (dk_at dksX1_atticOf_0 1 rfl rfl)
theorem dX1_atticOf_4 : decode cX1_atticOf 4 = .ok (.iload_n 1, 1) := dk_27 (dk_at dksX1_atticOf_0 4 rfl rfl)
theorem dX1_atticOf_5 : decode cX1_atticOf 5 = .ok (.iload_n 2, 1) := dk_28 (dk_at dksX1_atticOf_0 5 rfl rfl)
theorem dX1_atticOf_6 : decode cX1_atticOf 6 = .ok (.invokevirtual 172, 3) := dk_182 0 172 (dk_at dksX1_atticOf_0 6 rfl rfl)
theorem dX1_atticOf_9 : decode cX1_atticOf 9 = .ok (.ireturn, 1) := dk_172 (dk_at dksX1_atticOf_0 9 rfl rfl)
abbrev cX1_swear : ByteArray := prog_1_method_22_code
def yX1_swear : MethodName := ⟨RX1, "swear", "(IIZ)I"⟩
def dkwX1_swear_1 : List UInt8 := [182, 0, 156, 172]
abbrev dktX1_swear_1 : List UInt8 := dkwX1_swear_1 ++ []
def dkwX1_swear_0 : List UInt8 := [42, 187, 0, 123, 89, 18, 175, 29, 5, 188, 10, 89, 3, 27, 79, 89, 4, 28, 79, 183, 0, 153]
abbrev dktX1_swear_0 : List UInt8 := dkwX1_swear_0 ++ dktX1_swear_1
theorem dksX1_swear_0 : cX1_swear.data.toList.drop 0 = dktX1_swear_0 := by decide +kernel
theorem dksX1_swear_1 : cX1_swear.data.toList.drop 22 = dktX1_swear_1 := dk_seg dksX1_swear_0 22 rfl rfl
theorem dX1_swear_0 : decode cX1_swear 0 = .ok (.aload_n 0, 1) := dk_42 (dk_at dksX1_swear_0 0 rfl rfl)
theorem dX1_swear_1 : decode cX1_swear 1 = .ok (.new 123, 3) := dk_187 0 123 (dk_at dksX1_swear_0 1 rfl rfl)
theorem dX1_swear_4 : decode cX1_swear 4 = .ok (.dup, 1) := dk_89 (dk_at dksX1_swear_0 4 rfl rfl)
theorem dX1_swear_5 : decode cX1_swear 5 = .ok (.ldc 175, 2) := dk_18 175 (dk_at dksX1_swear_0 5 rfl rfl)
theorem dX1_swear_7 : decode cX1_swear 7 = .ok (.iload_n 3, 1) := dk_29 (dk_at dksX1_swear_0 7 rfl rfl)
theorem dX1_swear_8 : decode cX1_swear 8 = .ok (.iconst 2, 1) := dk_5 (dk_at dksX1_swear_0 8 rfl rfl)
theorem dX1_swear_9 : decode cX1_swear 9 = .ok (.newarray .int, 2) := dk_188_10 (dk_at dksX1_swear_0 9 rfl rfl)
theorem dX1_swear_11 : decode cX1_swear 11 = .ok (.dup, 1) := dk_89 (dk_at dksX1_swear_0 11 rfl rfl)
theorem dX1_swear_12 : decode cX1_swear 12 = .ok (.iconst 0, 1) := dk_3 (dk_at dksX1_swear_0 12 rfl rfl)
theorem dX1_swear_13 : decode cX1_swear 13 = .ok (.iload_n 1, 1) := dk_27 (dk_at dksX1_swear_0 13 rfl rfl)
theorem dX1_swear_14 : decode cX1_swear 14 = .ok (.iastore, 1) := dk_79 (dk_at dksX1_swear_0 14 rfl rfl)
theorem dX1_swear_15 : decode cX1_swear 15 = .ok (.dup, 1) := dk_89 (dk_at dksX1_swear_0 15 rfl rfl)
theorem dX1_swear_16 : decode cX1_swear 16 = .ok (.iconst 1, 1) := dk_4 (dk_at dksX1_swear_0 16 rfl rfl)
theorem dX1_swear_17 : decode cX1_swear 17 = .ok (.iload_n 2, 1) := dk_28 (dk_at dksX1_swear_0 17 rfl rfl)
theorem dX1_swear_18 : decode cX1_swear 18 = .ok (.iastore, 1) := dk_79 (dk_at dksX1_swear_0 18 rfl rfl)
theorem dX1_swear_19 : decode cX1_swear 19 = .ok (.invokespecial 153, 3) := dk_183 0 153 (dk_at dksX1_swear_0 19 rfl rfl)
theorem dX1_swear_22 : decode cX1_swear 22 = .ok (.invokevirtual 156, 3) := dk_182 0 156 (dk_at dksX1_swear_1 0 rfl rfl)
theorem dX1_swear_25 : decode cX1_swear 25 = .ok (.ireturn, 1) := dk_172 (dk_at dksX1_swear_1 3 rfl rfl)
abbrev cX1_prove : ByteArray := prog_1_method_23_code
def yX1_prove : MethodName := ⟨RX1, "prove", "(IZ)I"⟩
def dkwX1_prove_0 : List UInt8 := [42, 187, 0, 123, 89, 18, 177, 28, 4, 188, 10, 89, 3, 27, 79, 183, 0, 153, 182, 0, 156, 172]
abbrev dktX1_prove_0 : List UInt8 := dkwX1_prove_0 ++ []
theorem dksX1_prove_0 : cX1_prove.data.toList.drop 0 = dktX1_prove_0 := by decide +kernel
theorem dX1_prove_0 : decode cX1_prove 0 = .ok (.aload_n 0, 1) := dk_42 (dk_at dksX1_prove_0 0 rfl rfl)
theorem dX1_prove_1 : decode cX1_prove 1 = .ok (.new 123, 3) := dk_187 0 123 (dk_at dksX1_prove_0 1 rfl rfl)
theorem dX1_prove_4 : decode cX1_prove 4 = .ok (.dup, 1) := dk_89 (dk_at dksX1_prove_0 4 rfl rfl)
theorem dX1_prove_5 : decode cX1_prove 5 = .ok (.ldc 177, 2) := dk_18 177 (dk_at dksX1_prove_0 5 rfl rfl)
theorem dX1_prove_7 : decode cX1_prove 7 = .ok (.iload_n 2, 1) := dk_28 (dk_at dksX1_prove_0 7 rfl rfl)
theorem dX1_prove_8 : decode cX1_prove 8 = .ok (.iconst 1, 1) := dk_4 (dk_at dksX1_prove_0 8 rfl rfl)
theorem dX1_prove_9 : decode cX1_prove 9 = .ok (.newarray .int, 2) := dk_188_10 (dk_at dksX1_prove_0 9 rfl rfl)
theorem dX1_prove_11 : decode cX1_prove 11 = .ok (.dup, 1) := dk_89 (dk_at dksX1_prove_0 11 rfl rfl)
theorem dX1_prove_12 : decode cX1_prove 12 = .ok (.iconst 0, 1) := dk_3 (dk_at dksX1_prove_0 12 rfl rfl)
theorem dX1_prove_13 : decode cX1_prove 13 = .ok (.iload_n 1, 1) := dk_27 (dk_at dksX1_prove_0 13 rfl rfl)
theorem dX1_prove_14 : decode cX1_prove 14 = .ok (.iastore, 1) := dk_79 (dk_at dksX1_prove_0 14 rfl rfl)
theorem dX1_prove_15 : decode cX1_prove 15 = .ok (.invokespecial 153, 3) := dk_183 0 153 (dk_at dksX1_prove_0 15 rfl rfl)
theorem dX1_prove_18 : decode cX1_prove 18 = .ok (.invokevirtual 156, 3) := dk_182 0 156 (dk_at dksX1_prove_0 18 rfl rfl)
theorem dX1_prove_21 : decode cX1_prove 21 = .ok (.ireturn, 1) := dk_172 (dk_at dksX1_prove_0 21 rfl rfl)
abbrev cX1_readerOf : ByteArray := prog_1_method_24_code
def yX1_readerOf : MethodName := ⟨RX1, "readerOf", "(II)I"⟩
def dkwX1_readerOf_0 : List UInt8 := [42, 180, 0, 85, 27, 28, 182, 0, 179, 172]
abbrev dktX1_readerOf_0 : List UInt8 := dkwX1_readerOf_0 ++ []
theorem dksX1_readerOf_0 : cX1_readerOf.data.toList.drop 0 = dktX1_readerOf_0 := by decide +kernel
theorem dX1_readerOf_0 : decode cX1_readerOf 0 = .ok (.aload_n 0, 1) := dk_42 (dk_at dksX1_readerOf_0 0 rfl rfl)
theorem dX1_readerOf_1 : decode cX1_readerOf 1 = .ok (.getfield 85, 3) := dk_180 0 85 (dk_at dksX1_readerOf_0 1 rfl rfl)
theorem dX1_readerOf_4 : decode cX1_readerOf 4 = .ok (.iload_n 1, 1) := dk_27 (dk_at dksX1_readerOf_0 4 rfl rfl)
theorem dX1_readerOf_5 : decode cX1_readerOf 5 = .ok (.iload_n 2, 1) := dk_28 (dk_at dksX1_readerOf_0 5 rfl rfl)
theorem dX1_readerOf_6 : decode cX1_readerOf 6 = .ok (.invokevirtual 179, 3) := dk_182 0 179 (dk_at dksX1_readerOf_0 6 rfl rfl)
theorem dX1_readerOf_9 : decode cX1_readerOf 9 = .ok (.ireturn, 1) := dk_172 (dk_at dksX1_readerOf_0 9 rfl rfl)
abbrev cX1_oath : ByteArray := prog_1_method_25_code
def yX1_oath : MethodName := ⟨RX1, "oath", "(II)I"⟩
def dkwX1_oath_0 : List UInt8 := [27, 184, 0, 182, 42, 180, 0, 85, 28, 182, 0, 186, 180, 0, 190, 27, 46, 172]
abbrev dktX1_oath_0 : List UInt8 := dkwX1_oath_0 ++ []
theorem dksX1_oath_0 : cX1_oath.data.toList.drop 0 = dktX1_oath_0 := by decide +kernel
theorem dX1_oath_0 : decode cX1_oath 0 = .ok (.iload_n 1, 1) := dk_27 (dk_at dksX1_oath_0 0 rfl rfl)
theorem dX1_oath_1 : decode cX1_oath 1 = .ok (.invokestatic 182, 3) := dk_184 0 182 (dk_at dksX1_oath_0 1 rfl rfl)
theorem dX1_oath_4 : decode cX1_oath 4 = .ok (.aload_n 0, 1) := dk_42 (dk_at dksX1_oath_0 4 rfl rfl)
theorem dX1_oath_5 : decode cX1_oath 5 = .ok (.getfield 85, 3) := dk_180 0 85 (dk_at dksX1_oath_0 5 rfl rfl)
theorem dX1_oath_8 : decode cX1_oath 8 = .ok (.iload_n 2, 1) := dk_28 (dk_at dksX1_oath_0 8 rfl rfl)
theorem dX1_oath_9 : decode cX1_oath 9 = .ok (.invokevirtual 186, 3) := dk_182 0 186 (dk_at dksX1_oath_0 9 rfl rfl)
theorem dX1_oath_12 : decode cX1_oath 12 = .ok (.getfield 190, 3) := dk_180 0 190 (dk_at dksX1_oath_0 12 rfl rfl)
theorem dX1_oath_15 : decode cX1_oath 15 = .ok (.iload_n 1, 1) := dk_27 (dk_at dksX1_oath_0 15 rfl rfl)
theorem dX1_oath_16 : decode cX1_oath 16 = .ok (.iaload, 1) := dk_46 (dk_at dksX1_oath_0 16 rfl rfl)
theorem dX1_oath_17 : decode cX1_oath 17 = .ok (.ireturn, 1) := dk_172 (dk_at dksX1_oath_0 17 rfl rfl)
abbrev cX1_chains : ByteArray := prog_1_method_27_code
def yX1_chains : MethodName := ⟨RX1, "chains", "(IZ)I"⟩
def dkwX1_chains_0 : List UInt8 := [42, 27, 182, 0, 204, 78, 28, 153, 0, 10, 45, 182, 0, 208, 167, 0, 7, 45, 182, 0, 213, 172]
abbrev dktX1_chains_0 : List UInt8 := dkwX1_chains_0 ++ []
theorem dksX1_chains_0 : cX1_chains.data.toList.drop 0 = dktX1_chains_0 := by decide +kernel
theorem dX1_chains_0 : decode cX1_chains 0 = .ok (.aload_n 0, 1) := dk_42 (dk_at dksX1_chains_0 0 rfl rfl)
theorem dX1_chains_1 : decode cX1_chains 1 = .ok (.iload_n 1, 1) := dk_27 (dk_at dksX1_chains_0 1 rfl rfl)
theorem dX1_chains_2 : decode cX1_chains 2 = .ok (.invokevirtual 204, 3) := dk_182 0 204 (dk_at dksX1_chains_0 2 rfl rfl)
theorem dX1_chains_5 : decode cX1_chains 5 = .ok (.astore_n 3, 1) := dk_78 (dk_at dksX1_chains_0 5 rfl rfl)
theorem dX1_chains_6 : decode cX1_chains 6 = .ok (.iload_n 2, 1) := dk_28 (dk_at dksX1_chains_0 6 rfl rfl)
theorem dX1_chains_7 : decode cX1_chains 7 = .ok (.ifCond .eq 10, 3) := dk_153 0 10 (dk_at dksX1_chains_0 7 rfl rfl)
theorem dX1_chains_10 : decode cX1_chains 10 = .ok (.aload_n 3, 1) := dk_45 (dk_at dksX1_chains_0 10 rfl rfl)
theorem dX1_chains_11 : decode cX1_chains 11 = .ok (.invokevirtual 208, 3) := dk_182 0 208 (dk_at dksX1_chains_0 11 rfl rfl)
theorem dX1_chains_14 : decode cX1_chains 14 = .ok (.goto 7, 3) := dk_167 0 7 (dk_at dksX1_chains_0 14 rfl rfl)
theorem dX1_chains_17 : decode cX1_chains 17 = .ok (.aload_n 3, 1) := dk_45 (dk_at dksX1_chains_0 17 rfl rfl)
theorem dX1_chains_18 : decode cX1_chains 18 = .ok (.invokevirtual 213, 3) := dk_182 0 213 (dk_at dksX1_chains_0 18 rfl rfl)
theorem dX1_chains_21 : decode cX1_chains 21 = .ok (.ireturn, 1) := dk_172 (dk_at dksX1_chains_0 21 rfl rfl)
abbrev cX1_chainsOf : ByteArray := prog_1_method_26_code
def yX1_chainsOf : MethodName := ⟨RX1, "chainsOf", "(I)LMissingMiddles$Chains;"⟩
def dkwX1_chainsOf_0 : List UInt8 := [42, 180, 0, 85, 42, 180, 0, 85, 27, 182, 0, 196, 182, 0, 200, 176]
abbrev dktX1_chainsOf_0 : List UInt8 := dkwX1_chainsOf_0 ++ []
theorem dksX1_chainsOf_0 : cX1_chainsOf.data.toList.drop 0 = dktX1_chainsOf_0 := by decide +kernel
theorem dX1_chainsOf_0 : decode cX1_chainsOf 0 = .ok (.aload_n 0, 1) := dk_42 (dk_at dksX1_chainsOf_0 0 rfl rfl)
theorem dX1_chainsOf_1 : decode cX1_chainsOf 1 = .ok (.getfield 85, 3) := dk_180 0 85 (dk_at dksX1_chainsOf_0 1 rfl rfl)
theorem dX1_chainsOf_4 : decode cX1_chainsOf 4 = .ok (.aload_n 0, 1) := dk_42 (dk_at dksX1_chainsOf_0 4 rfl rfl)
theorem dX1_chainsOf_5 : decode cX1_chainsOf 5 = .ok (.getfield 85, 3) := dk_180 0 85 (dk_at dksX1_chainsOf_0 5 rfl rfl)
theorem dX1_chainsOf_8 : decode cX1_chainsOf 8 = .ok (.iload_n 1, 1) := dk_27 (dk_at dksX1_chainsOf_0 8 rfl rfl)
theorem dX1_chainsOf_9 : decode cX1_chainsOf 9 = .ok (.invokevirtual 196, 3) := dk_182 0 196 (dk_at dksX1_chainsOf_0 9 rfl rfl)
theorem dX1_chainsOf_12 : decode cX1_chainsOf 12 = .ok (.invokevirtual 200, 3) := dk_182 0 200 (dk_at dksX1_chainsOf_0 12 rfl rfl)
theorem dX1_chainsOf_15 : decode cX1_chainsOf 15 = .ok (.areturn, 1) := dk_176 (dk_at dksX1_chainsOf_0 15 rfl rfl)
abbrev cX1_chainOf : ByteArray := prog_1_method_29_code
def yX1_chainOf : MethodName := ⟨RX1, "chainOf", "(II)I"⟩
def dkwX1_chainOf_1 : List UInt8 := [182, 0, 227, 192, 0, 60, 182, 0, 62, 172]
abbrev dktX1_chainOf_1 : List UInt8 := dkwX1_chainOf_1 ++ []
def dkwX1_chainOf_0 : List UInt8 := [42, 27, 182, 0, 223, 78, 28, 133, 9, 45, 182, 0, 226, 4, 100, 133, 184, 0, 23, 184, 0, 220, 45, 28]
abbrev dktX1_chainOf_0 : List UInt8 := dkwX1_chainOf_0 ++ dktX1_chainOf_1
theorem dksX1_chainOf_0 : cX1_chainOf.data.toList.drop 0 = dktX1_chainOf_0 := by decide +kernel
theorem dksX1_chainOf_1 : cX1_chainOf.data.toList.drop 24 = dktX1_chainOf_1 := dk_seg dksX1_chainOf_0 24 rfl rfl
theorem dX1_chainOf_0 : decode cX1_chainOf 0 = .ok (.aload_n 0, 1) := dk_42 (dk_at dksX1_chainOf_0 0 rfl rfl)
theorem dX1_chainOf_1 : decode cX1_chainOf 1 = .ok (.iload_n 1, 1) := dk_27 (dk_at dksX1_chainOf_0 1 rfl rfl)
theorem dX1_chainOf_2 : decode cX1_chainOf 2 = .ok (.invokevirtual 223, 3) := dk_182 0 223 (dk_at dksX1_chainOf_0 2 rfl rfl)
theorem dX1_chainOf_5 : decode cX1_chainOf 5 = .ok (.astore_n 3, 1) := dk_78 (dk_at dksX1_chainOf_0 5 rfl rfl)
theorem dX1_chainOf_6 : decode cX1_chainOf 6 = .ok (.iload_n 2, 1) := dk_28 (dk_at dksX1_chainOf_0 6 rfl rfl)
theorem dX1_chainOf_7 : decode cX1_chainOf 7 = .ok (.i2l, 1) := dk_133 (dk_at dksX1_chainOf_0 7 rfl rfl)
theorem dX1_chainOf_8 : decode cX1_chainOf 8 = .ok (.lconst 0, 1) := dk_9 (dk_at dksX1_chainOf_0 8 rfl rfl)
theorem dX1_chainOf_9 : decode cX1_chainOf 9 = .ok (.aload_n 3, 1) := dk_45 (dk_at dksX1_chainOf_0 9 rfl rfl)
theorem dX1_chainOf_10 : decode cX1_chainOf 10 = .ok (.invokevirtual 226, 3) := dk_182 0 226 (dk_at dksX1_chainOf_0 10 rfl rfl)
theorem dX1_chainOf_13 : decode cX1_chainOf 13 = .ok (.iconst 1, 1) := dk_4 (dk_at dksX1_chainOf_0 13 rfl rfl)
theorem dX1_chainOf_14 : decode cX1_chainOf 14 = .ok (.isub, 1) := dk_100 (dk_at dksX1_chainOf_0 14 rfl rfl)
theorem dX1_chainOf_15 : decode cX1_chainOf 15 = .ok (.i2l, 1) := dk_133 (dk_at dksX1_chainOf_0 15 rfl rfl)
theorem dX1_chainOf_16 : decode cX1_chainOf 16 = .ok (.invokestatic 23, 3) := dk_184 0 23 (dk_at dksX1_chainOf_0 16 rfl rfl)
theorem dX1_chainOf_19 : decode cX1_chainOf 19 = .ok (.invokestatic 220, 3) := dk_184 0 220 (dk_at dksX1_chainOf_0 19 rfl rfl)
theorem dX1_chainOf_22 : decode cX1_chainOf 22 = .ok (.aload_n 3, 1) := dk_45 (dk_at dksX1_chainOf_0 22 rfl rfl)
theorem dX1_chainOf_23 : decode cX1_chainOf 23 = .ok (.iload_n 2, 1) := dk_28 (dk_at dksX1_chainOf_0 23 rfl rfl)
theorem dX1_chainOf_24 : decode cX1_chainOf 24 = .ok (.invokevirtual 227, 3) := dk_182 0 227 (dk_at dksX1_chainOf_1 0 rfl rfl)
theorem dX1_chainOf_27 : decode cX1_chainOf 27 = .ok (.checkcast 60, 3) := dk_192 0 60 (dk_at dksX1_chainOf_1 3 rfl rfl)
theorem dX1_chainOf_30 : decode cX1_chainOf 30 = .ok (.invokevirtual 62, 3) := dk_182 0 62 (dk_at dksX1_chainOf_1 6 rfl rfl)
theorem dX1_chainOf_33 : decode cX1_chainOf 33 = .ok (.ireturn, 1) := dk_172 (dk_at dksX1_chainOf_1 9 rfl rfl)
abbrev cX1_best : ByteArray := prog_1_method_28_code
def yX1_best : MethodName := ⟨RX1, "best", "(I)Ljava/util/LinkedList;"⟩
def dkwX1_best_0 : List UInt8 := [42, 27, 182, 0, 204, 182, 0, 216, 77, 44, 198, 0, 7, 4, 167, 0, 4, 3, 184, 0, 220, 44, 176]
abbrev dktX1_best_0 : List UInt8 := dkwX1_best_0 ++ []
theorem dksX1_best_0 : cX1_best.data.toList.drop 0 = dktX1_best_0 := by decide +kernel
theorem dX1_best_0 : decode cX1_best 0 = .ok (.aload_n 0, 1) := dk_42 (dk_at dksX1_best_0 0 rfl rfl)
theorem dX1_best_1 : decode cX1_best 1 = .ok (.iload_n 1, 1) := dk_27 (dk_at dksX1_best_0 1 rfl rfl)
theorem dX1_best_2 : decode cX1_best 2 = .ok (.invokevirtual 204, 3) := dk_182 0 204 (dk_at dksX1_best_0 2 rfl rfl)
theorem dX1_best_5 : decode cX1_best 5 = .ok (.invokevirtual 216, 3) := dk_182 0 216 (dk_at dksX1_best_0 5 rfl rfl)
theorem dX1_best_8 : decode cX1_best 8 = .ok (.astore_n 2, 1) := dk_77 (dk_at dksX1_best_0 8 rfl rfl)
theorem dX1_best_9 : decode cX1_best 9 = .ok (.aload_n 2, 1) := dk_44 (dk_at dksX1_best_0 9 rfl rfl)
theorem dX1_best_10 : decode cX1_best 10 = .ok (.ifnull 7, 3) := dk_198 0 7 (dk_at dksX1_best_0 10 rfl rfl)
theorem dX1_best_13 : decode cX1_best 13 = .ok (.iconst 1, 1) := dk_4 (dk_at dksX1_best_0 13 rfl rfl)
theorem dX1_best_14 : decode cX1_best 14 = .ok (.goto 4, 3) := dk_167 0 4 (dk_at dksX1_best_0 14 rfl rfl)
theorem dX1_best_17 : decode cX1_best 17 = .ok (.iconst 0, 1) := dk_3 (dk_at dksX1_best_0 17 rfl rfl)
theorem dX1_best_18 : decode cX1_best 18 = .ok (.invokestatic 220, 3) := dk_184 0 220 (dk_at dksX1_best_0 18 rfl rfl)
theorem dX1_best_21 : decode cX1_best 21 = .ok (.aload_n 2, 1) := dk_44 (dk_at dksX1_best_0 21 rfl rfl)
theorem dX1_best_22 : decode cX1_best 22 = .ok (.areturn, 1) := dk_176 (dk_at dksX1_best_0 22 rfl rfl)
abbrev cX1_checkElement : ByteArray := prog_1_method_5_code
def yX1_checkElement : MethodName := ⟨RX1, "checkElement", "(Z)V"⟩
def dkwX1_checkElement_0 : List UInt8 := [26, 154, 0, 11, 187, 0, 13, 89, 183, 0, 15, 191, 177]
abbrev dktX1_checkElement_0 : List UInt8 := dkwX1_checkElement_0 ++ []
theorem dksX1_checkElement_0 : cX1_checkElement.data.toList.drop 0 = dktX1_checkElement_0 := by decide +kernel
theorem dX1_checkElement_0 : decode cX1_checkElement 0 = .ok (.iload_n 0, 1) := dk_26 (dk_at dksX1_checkElement_0 0 rfl rfl)
theorem dX1_checkElement_1 : decode cX1_checkElement 1 = .ok (.ifCond .ne 11, 3) := dk_154 0 11 (dk_at dksX1_checkElement_0 1 rfl rfl)
theorem dX1_checkElement_4 : decode cX1_checkElement 4 = .ok (.new 13, 3) := dk_187 0 13 (dk_at dksX1_checkElement_0 4 rfl rfl)
theorem dX1_checkElement_7 : decode cX1_checkElement 7 = .ok (.dup, 1) := dk_89 (dk_at dksX1_checkElement_0 7 rfl rfl)
theorem dX1_checkElement_8 : decode cX1_checkElement 8 = .ok (.invokespecial 15, 3) := dk_183 0 15 (dk_at dksX1_checkElement_0 8 rfl rfl)
theorem dX1_checkElement_11 : decode cX1_checkElement 11 = .ok (.athrow, 1) := dk_191 (dk_at dksX1_checkElement_0 11 rfl rfl)
theorem dX1_checkElement_12 : decode cX1_checkElement 12 = .ok (.return_, 1) := dk_177 (dk_at dksX1_checkElement_0 12 rfl rfl)
abbrev cX1_reach : ByteArray := prog_1_method_30_code
def yX1_reach : MethodName := ⟨RX1, "reach", "(IZ)I"⟩
def dkwX1_reach_0 : List UInt8 := [42, 27, 182, 0, 204, 78, 28, 153, 0, 10, 45, 182, 0, 231, 167, 0, 7, 45, 182, 0, 234, 172]
abbrev dktX1_reach_0 : List UInt8 := dkwX1_reach_0 ++ []
theorem dksX1_reach_0 : cX1_reach.data.toList.drop 0 = dktX1_reach_0 := by decide +kernel
theorem dX1_reach_0 : decode cX1_reach 0 = .ok (.aload_n 0, 1) := dk_42 (dk_at dksX1_reach_0 0 rfl rfl)
theorem dX1_reach_1 : decode cX1_reach 1 = .ok (.iload_n 1, 1) := dk_27 (dk_at dksX1_reach_0 1 rfl rfl)
theorem dX1_reach_2 : decode cX1_reach 2 = .ok (.invokevirtual 204, 3) := dk_182 0 204 (dk_at dksX1_reach_0 2 rfl rfl)
theorem dX1_reach_5 : decode cX1_reach 5 = .ok (.astore_n 3, 1) := dk_78 (dk_at dksX1_reach_0 5 rfl rfl)
theorem dX1_reach_6 : decode cX1_reach 6 = .ok (.iload_n 2, 1) := dk_28 (dk_at dksX1_reach_0 6 rfl rfl)
theorem dX1_reach_7 : decode cX1_reach 7 = .ok (.ifCond .eq 10, 3) := dk_153 0 10 (dk_at dksX1_reach_0 7 rfl rfl)
theorem dX1_reach_10 : decode cX1_reach 10 = .ok (.aload_n 3, 1) := dk_45 (dk_at dksX1_reach_0 10 rfl rfl)
theorem dX1_reach_11 : decode cX1_reach 11 = .ok (.invokevirtual 231, 3) := dk_182 0 231 (dk_at dksX1_reach_0 11 rfl rfl)
theorem dX1_reach_14 : decode cX1_reach 14 = .ok (.goto 7, 3) := dk_167 0 7 (dk_at dksX1_reach_0 14 rfl rfl)
theorem dX1_reach_17 : decode cX1_reach 17 = .ok (.aload_n 3, 1) := dk_45 (dk_at dksX1_reach_0 17 rfl rfl)
theorem dX1_reach_18 : decode cX1_reach 18 = .ok (.invokevirtual 234, 3) := dk_182 0 234 (dk_at dksX1_reach_0 18 rfl rfl)
theorem dX1_reach_21 : decode cX1_reach 21 = .ok (.ireturn, 1) := dk_172 (dk_at dksX1_reach_0 21 rfl rfl)
abbrev cX1_needed : ByteArray := prog_1_method_31_code
def yX1_needed : MethodName := ⟨RX1, "needed", "(I)I"⟩
def dkwX1_needed_0 : List UInt8 := [42, 27, 182, 0, 204, 182, 0, 237, 172]
abbrev dktX1_needed_0 : List UInt8 := dkwX1_needed_0 ++ []
theorem dksX1_needed_0 : cX1_needed.data.toList.drop 0 = dktX1_needed_0 := by decide +kernel
theorem dX1_needed_0 : decode cX1_needed 0 = .ok (.aload_n 0, 1) := dk_42 (dk_at dksX1_needed_0 0 rfl rfl)
theorem dX1_needed_1 : decode cX1_needed 1 = .ok (.iload_n 1, 1) := dk_27 (dk_at dksX1_needed_0 1 rfl rfl)
theorem dX1_needed_2 : decode cX1_needed 2 = .ok (.invokevirtual 204, 3) := dk_182 0 204 (dk_at dksX1_needed_0 2 rfl rfl)
theorem dX1_needed_5 : decode cX1_needed 5 = .ok (.invokevirtual 237, 3) := dk_182 0 237 (dk_at dksX1_needed_0 5 rfl rfl)
theorem dX1_needed_8 : decode cX1_needed 8 = .ok (.ireturn, 1) := dk_172 (dk_at dksX1_needed_0 8 rfl rfl)
abbrev cX1_without : ByteArray := prog_1_method_32_code
def yX1_without : MethodName := ⟨RX1, "without", "(II)I"⟩
def dkwX1_without_0 : List UInt8 := [42, 180, 0, 85, 27, 28, 182, 0, 240, 172]
abbrev dktX1_without_0 : List UInt8 := dkwX1_without_0 ++ []
theorem dksX1_without_0 : cX1_without.data.toList.drop 0 = dktX1_without_0 := by decide +kernel
theorem dX1_without_0 : decode cX1_without 0 = .ok (.aload_n 0, 1) := dk_42 (dk_at dksX1_without_0 0 rfl rfl)
theorem dX1_without_1 : decode cX1_without 1 = .ok (.getfield 85, 3) := dk_180 0 85 (dk_at dksX1_without_0 1 rfl rfl)
theorem dX1_without_4 : decode cX1_without 4 = .ok (.iload_n 1, 1) := dk_27 (dk_at dksX1_without_0 4 rfl rfl)
theorem dX1_without_5 : decode cX1_without 5 = .ok (.iload_n 2, 1) := dk_28 (dk_at dksX1_without_0 5 rfl rfl)
theorem dX1_without_6 : decode cX1_without 6 = .ok (.invokevirtual 240, 3) := dk_182 0 240 (dk_at dksX1_without_0 6 rfl rfl)
theorem dX1_without_9 : decode cX1_without 9 = .ok (.ireturn, 1) := dk_172 (dk_at dksX1_without_0 9 rfl rfl)
abbrev cX1_would : ByteArray := prog_1_method_33_code
def yX1_would : MethodName := ⟨RX1, "would", "(II)I"⟩
def dkwX1_would_0 : List UInt8 := [42, 180, 0, 85, 27, 28, 182, 0, 243, 172]
abbrev dktX1_would_0 : List UInt8 := dkwX1_would_0 ++ []
theorem dksX1_would_0 : cX1_would.data.toList.drop 0 = dktX1_would_0 := by decide +kernel
theorem dX1_would_0 : decode cX1_would 0 = .ok (.aload_n 0, 1) := dk_42 (dk_at dksX1_would_0 0 rfl rfl)
theorem dX1_would_1 : decode cX1_would 1 = .ok (.getfield 85, 3) := dk_180 0 85 (dk_at dksX1_would_0 1 rfl rfl)
theorem dX1_would_4 : decode cX1_would 4 = .ok (.iload_n 1, 1) := dk_27 (dk_at dksX1_would_0 4 rfl rfl)
theorem dX1_would_5 : decode cX1_would 5 = .ok (.iload_n 2, 1) := dk_28 (dk_at dksX1_would_0 5 rfl rfl)
theorem dX1_would_6 : decode cX1_would 6 = .ok (.invokevirtual 243, 3) := dk_182 0 243 (dk_at dksX1_would_0 6 rfl rfl)
theorem dX1_would_9 : decode cX1_would 9 = .ok (.ireturn, 1) := dk_172 (dk_at dksX1_would_0 9 rfl rfl)
abbrev cX1_ranked : ByteArray := prog_1_method_34_code
def yX1_ranked : MethodName := ⟨RX1, "ranked", "(I)I"⟩
def dkwX1_ranked_0 : List UInt8 := [42, 180, 0, 85, 27, 182, 0, 246, 61, 28, 2, 159, 0, 7, 4, 167, 0, 4, 3, 184, 0, 220, 28, 172]
abbrev dktX1_ranked_0 : List UInt8 := dkwX1_ranked_0 ++ []
theorem dksX1_ranked_0 : cX1_ranked.data.toList.drop 0 = dktX1_ranked_0 := by decide +kernel
theorem dX1_ranked_0 : decode cX1_ranked 0 = .ok (.aload_n 0, 1) := dk_42 (dk_at dksX1_ranked_0 0 rfl rfl)
theorem dX1_ranked_1 : decode cX1_ranked 1 = .ok (.getfield 85, 3) := dk_180 0 85 (dk_at dksX1_ranked_0 1 rfl rfl)
theorem dX1_ranked_4 : decode cX1_ranked 4 = .ok (.iload_n 1, 1) := dk_27 (dk_at dksX1_ranked_0 4 rfl rfl)
theorem dX1_ranked_5 : decode cX1_ranked 5 = .ok (.invokevirtual 246, 3) := dk_182 0 246 (dk_at dksX1_ranked_0 5 rfl rfl)
theorem dX1_ranked_8 : decode cX1_ranked 8 = .ok (.istore_n 2, 1) := dk_61 (dk_at dksX1_ranked_0 8 rfl rfl)
theorem dX1_ranked_9 : decode cX1_ranked 9 = .ok (.iload_n 2, 1) := dk_28 (dk_at dksX1_ranked_0 9 rfl rfl)
theorem dX1_ranked_10 : decode cX1_ranked 10 = .ok (.iconst (-1), 1) := dk_2 (dk_at dksX1_ranked_0 10 rfl rfl)
theorem dX1_ranked_11 : decode cX1_ranked 11 = .ok (.if_icmp .eq 7, 3) := dk_159 0 7 (dk_at dksX1_ranked_0 11 rfl rfl)
theorem dX1_ranked_14 : decode cX1_ranked 14 = .ok (.iconst 1, 1) := dk_4 (dk_at dksX1_ranked_0 14 rfl rfl)
theorem dX1_ranked_15 : decode cX1_ranked 15 = .ok (.goto 4, 3) := dk_167 0 4 (dk_at dksX1_ranked_0 15 rfl rfl)
theorem dX1_ranked_18 : decode cX1_ranked 18 = .ok (.iconst 0, 1) := dk_3 (dk_at dksX1_ranked_0 18 rfl rfl)
theorem dX1_ranked_19 : decode cX1_ranked 19 = .ok (.invokestatic 220, 3) := dk_184 0 220 (dk_at dksX1_ranked_0 19 rfl rfl)
theorem dX1_ranked_22 : decode cX1_ranked 22 = .ok (.iload_n 2, 1) := dk_28 (dk_at dksX1_ranked_0 22 rfl rfl)
theorem dX1_ranked_23 : decode cX1_ranked 23 = .ok (.ireturn, 1) := dk_172 (dk_at dksX1_ranked_0 23 rfl rfl)
abbrev cX1_mend : ByteArray := prog_1_method_36_code
def yX1_mend : MethodName := ⟨RX1, "mend", "(I)I"⟩
def dkwX1_mend_0 : List UInt8 := [42, 187, 0, 123, 89, 18, 253, 3, 4, 188, 10, 89, 3, 27, 79, 183, 0, 153, 182, 0, 156, 172]
abbrev dktX1_mend_0 : List UInt8 := dkwX1_mend_0 ++ []
theorem dksX1_mend_0 : cX1_mend.data.toList.drop 0 = dktX1_mend_0 := by decide +kernel
theorem dX1_mend_0 : decode cX1_mend 0 = .ok (.aload_n 0, 1) := dk_42 (dk_at dksX1_mend_0 0 rfl rfl)
theorem dX1_mend_1 : decode cX1_mend 1 = .ok (.new 123, 3) := dk_187 0 123 (dk_at dksX1_mend_0 1 rfl rfl)
theorem dX1_mend_4 : decode cX1_mend 4 = .ok (.dup, 1) := dk_89 (dk_at dksX1_mend_0 4 rfl rfl)
theorem dX1_mend_5 : decode cX1_mend 5 = .ok (.ldc 253, 2) := dk_18 253 (dk_at dksX1_mend_0 5 rfl rfl)
theorem dX1_mend_7 : decode cX1_mend 7 = .ok (.iconst 0, 1) := dk_3 (dk_at dksX1_mend_0 7 rfl rfl)
theorem dX1_mend_8 : decode cX1_mend 8 = .ok (.iconst 1, 1) := dk_4 (dk_at dksX1_mend_0 8 rfl rfl)
theorem dX1_mend_9 : decode cX1_mend 9 = .ok (.newarray .int, 2) := dk_188_10 (dk_at dksX1_mend_0 9 rfl rfl)
theorem dX1_mend_11 : decode cX1_mend 11 = .ok (.dup, 1) := dk_89 (dk_at dksX1_mend_0 11 rfl rfl)
theorem dX1_mend_12 : decode cX1_mend 12 = .ok (.iconst 0, 1) := dk_3 (dk_at dksX1_mend_0 12 rfl rfl)
theorem dX1_mend_13 : decode cX1_mend 13 = .ok (.iload_n 1, 1) := dk_27 (dk_at dksX1_mend_0 13 rfl rfl)
theorem dX1_mend_14 : decode cX1_mend 14 = .ok (.iastore, 1) := dk_79 (dk_at dksX1_mend_0 14 rfl rfl)
theorem dX1_mend_15 : decode cX1_mend 15 = .ok (.invokespecial 153, 3) := dk_183 0 153 (dk_at dksX1_mend_0 15 rfl rfl)
theorem dX1_mend_18 : decode cX1_mend 18 = .ok (.invokevirtual 156, 3) := dk_182 0 156 (dk_at dksX1_mend_0 18 rfl rfl)
theorem dX1_mend_21 : decode cX1_mend 21 = .ok (.ireturn, 1) := dk_172 (dk_at dksX1_mend_0 21 rfl rfl)
abbrev cX1_earn : ByteArray := prog_1_method_37_code
def yX1_earn : MethodName := ⟨RX1, "earn", "(I)I"⟩
def dkwX1_earn_0 : List UInt8 := [42, 187, 0, 123, 89, 18, 255, 3, 4, 188, 10, 89, 3, 27, 79, 183, 0, 153, 182, 0, 156, 172]
abbrev dktX1_earn_0 : List UInt8 := dkwX1_earn_0 ++ []
theorem dksX1_earn_0 : cX1_earn.data.toList.drop 0 = dktX1_earn_0 := by decide +kernel
theorem dX1_earn_0 : decode cX1_earn 0 = .ok (.aload_n 0, 1) := dk_42 (dk_at dksX1_earn_0 0 rfl rfl)
theorem dX1_earn_1 : decode cX1_earn 1 = .ok (.new 123, 3) := dk_187 0 123 (dk_at dksX1_earn_0 1 rfl rfl)
theorem dX1_earn_4 : decode cX1_earn 4 = .ok (.dup, 1) := dk_89 (dk_at dksX1_earn_0 4 rfl rfl)
theorem dX1_earn_5 : decode cX1_earn 5 = .ok (.ldc 255, 2) := dk_18 255 (dk_at dksX1_earn_0 5 rfl rfl)
theorem dX1_earn_7 : decode cX1_earn 7 = .ok (.iconst 0, 1) := dk_3 (dk_at dksX1_earn_0 7 rfl rfl)
theorem dX1_earn_8 : decode cX1_earn 8 = .ok (.iconst 1, 1) := dk_4 (dk_at dksX1_earn_0 8 rfl rfl)
theorem dX1_earn_9 : decode cX1_earn 9 = .ok (.newarray .int, 2) := dk_188_10 (dk_at dksX1_earn_0 9 rfl rfl)
theorem dX1_earn_11 : decode cX1_earn 11 = .ok (.dup, 1) := dk_89 (dk_at dksX1_earn_0 11 rfl rfl)
theorem dX1_earn_12 : decode cX1_earn 12 = .ok (.iconst 0, 1) := dk_3 (dk_at dksX1_earn_0 12 rfl rfl)
theorem dX1_earn_13 : decode cX1_earn 13 = .ok (.iload_n 1, 1) := dk_27 (dk_at dksX1_earn_0 13 rfl rfl)
theorem dX1_earn_14 : decode cX1_earn 14 = .ok (.iastore, 1) := dk_79 (dk_at dksX1_earn_0 14 rfl rfl)
theorem dX1_earn_15 : decode cX1_earn 15 = .ok (.invokespecial 153, 3) := dk_183 0 153 (dk_at dksX1_earn_0 15 rfl rfl)
theorem dX1_earn_18 : decode cX1_earn 18 = .ok (.invokevirtual 156, 3) := dk_182 0 156 (dk_at dksX1_earn_0 18 rfl rfl)
theorem dX1_earn_21 : decode cX1_earn 21 = .ok (.ireturn, 1) := dk_172 (dk_at dksX1_earn_0 21 rfl rfl)
abbrev cX1_price : ByteArray := prog_1_method_38_code
def yX1_price : MethodName := ⟨RX1, "price", "(I)I"⟩
def dkwX1_price_0 : List UInt8 := [42, 187, 0, 123, 89, 19, 1, 1, 3, 4, 188, 10, 89, 3, 27, 79, 183, 0, 153, 182, 0, 156, 172]
abbrev dktX1_price_0 : List UInt8 := dkwX1_price_0 ++ []
theorem dksX1_price_0 : cX1_price.data.toList.drop 0 = dktX1_price_0 := by decide +kernel
theorem dX1_price_0 : decode cX1_price 0 = .ok (.aload_n 0, 1) := dk_42 (dk_at dksX1_price_0 0 rfl rfl)
theorem dX1_price_1 : decode cX1_price 1 = .ok (.new 123, 3) := dk_187 0 123 (dk_at dksX1_price_0 1 rfl rfl)
theorem dX1_price_4 : decode cX1_price 4 = .ok (.dup, 1) := dk_89 (dk_at dksX1_price_0 4 rfl rfl)
theorem dX1_price_5 : decode cX1_price 5 = .ok (.ldc_w 257, 3) := dk_19 1 1 (dk_at dksX1_price_0 5 rfl rfl)
theorem dX1_price_8 : decode cX1_price 8 = .ok (.iconst 0, 1) := dk_3 (dk_at dksX1_price_0 8 rfl rfl)
theorem dX1_price_9 : decode cX1_price 9 = .ok (.iconst 1, 1) := dk_4 (dk_at dksX1_price_0 9 rfl rfl)
theorem dX1_price_10 : decode cX1_price 10 = .ok (.newarray .int, 2) := dk_188_10 (dk_at dksX1_price_0 10 rfl rfl)
theorem dX1_price_12 : decode cX1_price 12 = .ok (.dup, 1) := dk_89 (dk_at dksX1_price_0 12 rfl rfl)
theorem dX1_price_13 : decode cX1_price 13 = .ok (.iconst 0, 1) := dk_3 (dk_at dksX1_price_0 13 rfl rfl)
theorem dX1_price_14 : decode cX1_price 14 = .ok (.iload_n 1, 1) := dk_27 (dk_at dksX1_price_0 14 rfl rfl)
theorem dX1_price_15 : decode cX1_price 15 = .ok (.iastore, 1) := dk_79 (dk_at dksX1_price_0 15 rfl rfl)
theorem dX1_price_16 : decode cX1_price 16 = .ok (.invokespecial 153, 3) := dk_183 0 153 (dk_at dksX1_price_0 16 rfl rfl)
theorem dX1_price_19 : decode cX1_price 19 = .ok (.invokevirtual 156, 3) := dk_182 0 156 (dk_at dksX1_price_0 19 rfl rfl)
theorem dX1_price_22 : decode cX1_price 22 = .ok (.ireturn, 1) := dk_172 (dk_at dksX1_price_0 22 rfl rfl)
abbrev cX1_line : ByteArray := prog_1_method_40_code
def yX1_line : MethodName := ⟨RX1, "line", "(I)I"⟩
def dkwX1_line_0 : List UInt8 := [42, 42, 180, 0, 85, 27, 182, 0, 196, 182, 1, 8, 182, 1, 13, 172]
abbrev dktX1_line_0 : List UInt8 := dkwX1_line_0 ++ []
theorem dksX1_line_0 : cX1_line.data.toList.drop 0 = dktX1_line_0 := by decide +kernel
theorem dX1_line_0 : decode cX1_line 0 = .ok (.aload_n 0, 1) := dk_42 (dk_at dksX1_line_0 0 rfl rfl)
theorem dX1_line_1 : decode cX1_line 1 = .ok (.aload_n 0, 1) := dk_42 (dk_at dksX1_line_0 1 rfl rfl)
theorem dX1_line_2 : decode cX1_line 2 = .ok (.getfield 85, 3) := dk_180 0 85 (dk_at dksX1_line_0 2 rfl rfl)
theorem dX1_line_5 : decode cX1_line 5 = .ok (.iload_n 1, 1) := dk_27 (dk_at dksX1_line_0 5 rfl rfl)
theorem dX1_line_6 : decode cX1_line 6 = .ok (.invokevirtual 196, 3) := dk_182 0 196 (dk_at dksX1_line_0 6 rfl rfl)
theorem dX1_line_9 : decode cX1_line 9 = .ok (.invokevirtual 264, 3) := dk_182 1 8 (dk_at dksX1_line_0 9 rfl rfl)
theorem dX1_line_12 : decode cX1_line 12 = .ok (.invokevirtual 269, 3) := dk_182 1 13 (dk_at dksX1_line_0 12 rfl rfl)
theorem dX1_line_15 : decode cX1_line 15 = .ok (.ireturn, 1) := dk_172 (dk_at dksX1_line_0 15 rfl rfl)
abbrev cX1_tell : ByteArray := prog_1_method_39_code
def yX1_tell : MethodName := ⟨RX1, "tell", "(Ljava/lang/String;)I"⟩
def dkwX1_tell_0 : List UInt8 := [42, 43, 181, 0, 100, 43, 182, 1, 3, 172]
abbrev dktX1_tell_0 : List UInt8 := dkwX1_tell_0 ++ []
theorem dksX1_tell_0 : cX1_tell.data.toList.drop 0 = dktX1_tell_0 := by decide +kernel
theorem dX1_tell_0 : decode cX1_tell 0 = .ok (.aload_n 0, 1) := dk_42 (dk_at dksX1_tell_0 0 rfl rfl)
theorem dX1_tell_1 : decode cX1_tell 1 = .ok (.aload_n 1, 1) := dk_43 (dk_at dksX1_tell_0 1 rfl rfl)
theorem dX1_tell_2 : decode cX1_tell 2 = .ok (.putfield 100, 3) := dk_181 0 100 (dk_at dksX1_tell_0 2 rfl rfl)
theorem dX1_tell_5 : decode cX1_tell 5 = .ok (.aload_n 1, 1) := dk_43 (dk_at dksX1_tell_0 5 rfl rfl)
theorem dX1_tell_6 : decode cX1_tell 6 = .ok (.invokevirtual 259, 3) := dk_182 1 3 (dk_at dksX1_tell_0 6 rfl rfl)
theorem dX1_tell_9 : decode cX1_tell 9 = .ok (.ireturn, 1) := dk_172 (dk_at dksX1_tell_0 9 rfl rfl)
abbrev cX1_scrapLine : ByteArray := prog_1_method_41_code
def yX1_scrapLine : MethodName := ⟨RX1, "scrapLine", "(I)I"⟩
def dkwX1_scrapLine_0 : List UInt8 := [42, 42, 180, 0, 85, 27, 182, 1, 17, 182, 1, 13, 172]
abbrev dktX1_scrapLine_0 : List UInt8 := dkwX1_scrapLine_0 ++ []
theorem dksX1_scrapLine_0 : cX1_scrapLine.data.toList.drop 0 = dktX1_scrapLine_0 := by decide +kernel
theorem dX1_scrapLine_0 : decode cX1_scrapLine 0 = .ok (.aload_n 0, 1) := dk_42 (dk_at dksX1_scrapLine_0 0 rfl rfl)
theorem dX1_scrapLine_1 : decode cX1_scrapLine 1 = .ok (.aload_n 0, 1) := dk_42 (dk_at dksX1_scrapLine_0 1 rfl rfl)
theorem dX1_scrapLine_2 : decode cX1_scrapLine 2 = .ok (.getfield 85, 3) := dk_180 0 85 (dk_at dksX1_scrapLine_0 2 rfl rfl)
theorem dX1_scrapLine_5 : decode cX1_scrapLine 5 = .ok (.iload_n 1, 1) := dk_27 (dk_at dksX1_scrapLine_0 5 rfl rfl)
theorem dX1_scrapLine_6 : decode cX1_scrapLine 6 = .ok (.invokevirtual 273, 3) := dk_182 1 17 (dk_at dksX1_scrapLine_0 6 rfl rfl)
theorem dX1_scrapLine_9 : decode cX1_scrapLine 9 = .ok (.invokevirtual 269, 3) := dk_182 1 13 (dk_at dksX1_scrapLine_0 9 rfl rfl)
theorem dX1_scrapLine_12 : decode cX1_scrapLine 12 = .ok (.ireturn, 1) := dk_172 (dk_at dksX1_scrapLine_0 12 rfl rfl)
abbrev cX1_chainLine : ByteArray := prog_1_method_42_code
def yX1_chainLine : MethodName := ⟨RX1, "chainLine", "(I)I"⟩
def dkwX1_chainLine_0 : List UInt8 := [42, 42, 27, 182, 0, 223, 184, 1, 20, 182, 1, 13, 172]
abbrev dktX1_chainLine_0 : List UInt8 := dkwX1_chainLine_0 ++ []
theorem dksX1_chainLine_0 : cX1_chainLine.data.toList.drop 0 = dktX1_chainLine_0 := by decide +kernel
theorem dX1_chainLine_0 : decode cX1_chainLine 0 = .ok (.aload_n 0, 1) := dk_42 (dk_at dksX1_chainLine_0 0 rfl rfl)
theorem dX1_chainLine_1 : decode cX1_chainLine 1 = .ok (.aload_n 0, 1) := dk_42 (dk_at dksX1_chainLine_0 1 rfl rfl)
theorem dX1_chainLine_2 : decode cX1_chainLine 2 = .ok (.iload_n 1, 1) := dk_27 (dk_at dksX1_chainLine_0 2 rfl rfl)
theorem dX1_chainLine_3 : decode cX1_chainLine 3 = .ok (.invokevirtual 223, 3) := dk_182 0 223 (dk_at dksX1_chainLine_0 3 rfl rfl)
theorem dX1_chainLine_6 : decode cX1_chainLine 6 = .ok (.invokestatic 276, 3) := dk_184 1 20 (dk_at dksX1_chainLine_0 6 rfl rfl)
theorem dX1_chainLine_9 : decode cX1_chainLine 9 = .ok (.invokevirtual 269, 3) := dk_182 1 13 (dk_at dksX1_chainLine_0 9 rfl rfl)
theorem dX1_chainLine_12 : decode cX1_chainLine 12 = .ok (.ireturn, 1) := dk_172 (dk_at dksX1_chainLine_0 12 rfl rfl)
abbrev cX1_toldOf : ByteArray := prog_1_method_10_code
def yX1_toldOf : MethodName := ⟨RX1, "toldOf", "(Ljava/util/LinkedList;)Ljava/lang/String;"⟩
def dkwX1_toldOf_2 : List UInt8 := [182, 0, 70, 58, 5, 18, 73, 77, 167, 255, 218, 43, 182, 0, 75, 176]
abbrev dktX1_toldOf_2 : List UInt8 := dkwX1_toldOf_2 ++ []
def dkwX1_toldOf_1 : List UInt8 := [153, 0, 35, 45, 185, 0, 56, 1, 0, 192, 0, 60, 182, 0, 62, 54, 4, 43, 44, 182, 0, 66, 21, 4]
abbrev dktX1_toldOf_1 : List UInt8 := dkwX1_toldOf_1 ++ dktX1_toldOf_2
def dkwX1_toldOf_0 : List UInt8 := [187, 0, 39, 89, 183, 0, 41, 76, 18, 42, 77, 42, 182, 0, 44, 78, 45, 185, 0, 50, 1, 0]
abbrev dktX1_toldOf_0 : List UInt8 := dkwX1_toldOf_0 ++ dktX1_toldOf_1
theorem dksX1_toldOf_0 : cX1_toldOf.data.toList.drop 0 = dktX1_toldOf_0 := by decide +kernel
theorem dksX1_toldOf_1 : cX1_toldOf.data.toList.drop 22 = dktX1_toldOf_1 := dk_seg dksX1_toldOf_0 22 rfl rfl
theorem dksX1_toldOf_2 : cX1_toldOf.data.toList.drop 46 = dktX1_toldOf_2 := dk_seg dksX1_toldOf_1 24 rfl rfl
theorem dX1_toldOf_0 : decode cX1_toldOf 0 = .ok (.new 39, 3) := dk_187 0 39 (dk_at dksX1_toldOf_0 0 rfl rfl)
theorem dX1_toldOf_3 : decode cX1_toldOf 3 = .ok (.dup, 1) := dk_89 (dk_at dksX1_toldOf_0 3 rfl rfl)
theorem dX1_toldOf_4 : decode cX1_toldOf 4 = .ok (.invokespecial 41, 3) := dk_183 0 41 (dk_at dksX1_toldOf_0 4 rfl rfl)
theorem dX1_toldOf_7 : decode cX1_toldOf 7 = .ok (.astore_n 1, 1) := dk_76 (dk_at dksX1_toldOf_0 7 rfl rfl)
theorem dX1_toldOf_8 : decode cX1_toldOf 8 = .ok (.ldc 42, 2) := dk_18 42 (dk_at dksX1_toldOf_0 8 rfl rfl)
theorem dX1_toldOf_10 : decode cX1_toldOf 10 = .ok (.astore_n 2, 1) := dk_77 (dk_at dksX1_toldOf_0 10 rfl rfl)
theorem dX1_toldOf_11 : decode cX1_toldOf 11 = .ok (.aload_n 0, 1) := dk_42 (dk_at dksX1_toldOf_0 11 rfl rfl)
theorem dX1_toldOf_12 : decode cX1_toldOf 12 = .ok (.invokevirtual 44, 3) := dk_182 0 44 (dk_at dksX1_toldOf_0 12 rfl rfl)
theorem dX1_toldOf_15 : decode cX1_toldOf 15 = .ok (.astore_n 3, 1) := dk_78 (dk_at dksX1_toldOf_0 15 rfl rfl)
theorem dX1_toldOf_16 : decode cX1_toldOf 16 = .ok (.aload_n 3, 1) := dk_45 (dk_at dksX1_toldOf_0 16 rfl rfl)
theorem dX1_toldOf_17 : decode cX1_toldOf 17 = .ok (.invokeinterface 50 1, 5) := by decide +kernel
theorem dX1_toldOf_22 : decode cX1_toldOf 22 = .ok (.ifCond .eq 35, 3) := dk_153 0 35 (dk_at dksX1_toldOf_1 0 rfl rfl)
theorem dX1_toldOf_25 : decode cX1_toldOf 25 = .ok (.aload_n 3, 1) := dk_45 (dk_at dksX1_toldOf_1 3 rfl rfl)
theorem dX1_toldOf_26 : decode cX1_toldOf 26 = .ok (.invokeinterface 56 1, 5) := by decide +kernel
theorem dX1_toldOf_31 : decode cX1_toldOf 31 = .ok (.checkcast 60, 3) := dk_192 0 60 (dk_at dksX1_toldOf_1 9 rfl rfl)
theorem dX1_toldOf_34 : decode cX1_toldOf 34 = .ok (.invokevirtual 62, 3) := dk_182 0 62 (dk_at dksX1_toldOf_1 12 rfl rfl)
theorem dX1_toldOf_37 : decode cX1_toldOf 37 = .ok (.istore 4, 2) := dk_54 4 (dk_at dksX1_toldOf_1 15 rfl rfl)
theorem dX1_toldOf_39 : decode cX1_toldOf 39 = .ok (.aload_n 1, 1) := dk_43 (dk_at dksX1_toldOf_1 17 rfl rfl)
theorem dX1_toldOf_40 : decode cX1_toldOf 40 = .ok (.aload_n 2, 1) := dk_44 (dk_at dksX1_toldOf_1 18 rfl rfl)
theorem dX1_toldOf_41 : decode cX1_toldOf 41 = .ok (.invokevirtual 66, 3) := dk_182 0 66 (dk_at dksX1_toldOf_1 19 rfl rfl)
theorem dX1_toldOf_44 : decode cX1_toldOf 44 = .ok (.iload 4, 2) := dk_21 4 (dk_at dksX1_toldOf_1 22 rfl rfl)
theorem dX1_toldOf_46 : decode cX1_toldOf 46 = .ok (.invokevirtual 70, 3) := dk_182 0 70 (dk_at dksX1_toldOf_2 0 rfl rfl)
theorem dX1_toldOf_49 : decode cX1_toldOf 49 = .ok (.astore 5, 2) := dk_58 5 (dk_at dksX1_toldOf_2 3 rfl rfl)
theorem dX1_toldOf_51 : decode cX1_toldOf 51 = .ok (.ldc 73, 2) := dk_18 73 (dk_at dksX1_toldOf_2 5 rfl rfl)
theorem dX1_toldOf_53 : decode cX1_toldOf 53 = .ok (.astore_n 2, 1) := dk_77 (dk_at dksX1_toldOf_2 7 rfl rfl)
theorem dX1_toldOf_54 : decode cX1_toldOf 54 = .ok (.goto (-38), 3) := dk_167 255 218 (dk_at dksX1_toldOf_2 8 rfl rfl)
theorem dX1_toldOf_57 : decode cX1_toldOf 57 = .ok (.aload_n 1, 1) := dk_43 (dk_at dksX1_toldOf_2 11 rfl rfl)
theorem dX1_toldOf_58 : decode cX1_toldOf 58 = .ok (.invokevirtual 75, 3) := dk_182 0 75 (dk_at dksX1_toldOf_2 12 rfl rfl)
theorem dX1_toldOf_61 : decode cX1_toldOf 61 = .ok (.areturn, 1) := dk_176 (dk_at dksX1_toldOf_2 15 rfl rfl)
abbrev cX1_character : ByteArray := prog_1_method_43_code
def yX1_character : MethodName := ⟨RX1, "character", "(I)C"⟩
def dkwX1_character_1 : List UInt8 := [182, 1, 24, 172]
abbrev dktX1_character_1 : List UInt8 := dkwX1_character_1 ++ []
def dkwX1_character_0 : List UInt8 := [27, 133, 9, 42, 180, 0, 100, 182, 1, 3, 4, 100, 133, 184, 0, 23, 184, 0, 27, 42, 180, 0, 100, 27]
abbrev dktX1_character_0 : List UInt8 := dkwX1_character_0 ++ dktX1_character_1
theorem dksX1_character_0 : cX1_character.data.toList.drop 0 = dktX1_character_0 := by decide +kernel
theorem dksX1_character_1 : cX1_character.data.toList.drop 24 = dktX1_character_1 := dk_seg dksX1_character_0 24 rfl rfl
theorem dX1_character_0 : decode cX1_character 0 = .ok (.iload_n 1, 1) := dk_27 (dk_at dksX1_character_0 0 rfl rfl)
theorem dX1_character_1 : decode cX1_character 1 = .ok (.i2l, 1) := dk_133 (dk_at dksX1_character_0 1 rfl rfl)
theorem dX1_character_2 : decode cX1_character 2 = .ok (.lconst 0, 1) := dk_9 (dk_at dksX1_character_0 2 rfl rfl)
theorem dX1_character_3 : decode cX1_character 3 = .ok (.aload_n 0, 1) := dk_42 (dk_at dksX1_character_0 3 rfl rfl)
theorem dX1_character_4 : decode cX1_character 4 = .ok (.getfield 100, 3) := dk_180 0 100 (dk_at dksX1_character_0 4 rfl rfl)
theorem dX1_character_7 : decode cX1_character 7 = .ok (.invokevirtual 259, 3) := dk_182 1 3 (dk_at dksX1_character_0 7 rfl rfl)
theorem dX1_character_10 : decode cX1_character 10 = .ok (.iconst 1, 1) := dk_4 (dk_at dksX1_character_0 10 rfl rfl)
theorem dX1_character_11 : decode cX1_character 11 = .ok (.isub, 1) := dk_100 (dk_at dksX1_character_0 11 rfl rfl)
theorem dX1_character_12 : decode cX1_character 12 = .ok (.i2l, 1) := dk_133 (dk_at dksX1_character_0 12 rfl rfl)
theorem dX1_character_13 : decode cX1_character 13 = .ok (.invokestatic 23, 3) := dk_184 0 23 (dk_at dksX1_character_0 13 rfl rfl)
theorem dX1_character_16 : decode cX1_character 16 = .ok (.invokestatic 27, 3) := dk_184 0 27 (dk_at dksX1_character_0 16 rfl rfl)
theorem dX1_character_19 : decode cX1_character 19 = .ok (.aload_n 0, 1) := dk_42 (dk_at dksX1_character_0 19 rfl rfl)
theorem dX1_character_20 : decode cX1_character 20 = .ok (.getfield 100, 3) := dk_180 0 100 (dk_at dksX1_character_0 20 rfl rfl)
theorem dX1_character_23 : decode cX1_character 23 = .ok (.iload_n 1, 1) := dk_27 (dk_at dksX1_character_0 23 rfl rfl)
theorem dX1_character_24 : decode cX1_character 24 = .ok (.invokevirtual 280, 3) := dk_182 1 24 (dk_at dksX1_character_1 0 rfl rfl)
theorem dX1_character_27 : decode cX1_character 27 = .ok (.ireturn, 1) := dk_172 (dk_at dksX1_character_1 3 rfl rfl)
abbrev cX1_refusal : ByteArray := prog_1_method_44_code
def yX1_refusal : MethodName := ⟨RX1, "refusal", "(ZZ)I"⟩
def dkwX1_refusal_2 : List UInt8 := [184, 0, 220, 45, 28, 182, 1, 35, 172]
abbrev dktX1_refusal_2 : List UInt8 := dkwX1_refusal_2 ++ []
def dkwX1_refusal_1 : List UInt8 := [182, 1, 31, 192, 0, 128, 167, 0, 7, 42, 180, 0, 130, 78, 45, 198, 0, 7, 4, 167, 0, 4, 3]
abbrev dktX1_refusal_1 : List UInt8 := dkwX1_refusal_1 ++ dktX1_refusal_2
def dkwX1_refusal_0 : List UInt8 := [42, 180, 0, 130, 198, 0, 7, 4, 167, 0, 4, 3, 184, 1, 28, 27, 153, 0, 16, 42, 180, 0, 130]
abbrev dktX1_refusal_0 : List UInt8 := dkwX1_refusal_0 ++ dktX1_refusal_1
theorem dksX1_refusal_0 : cX1_refusal.data.toList.drop 0 = dktX1_refusal_0 := by decide +kernel
theorem dksX1_refusal_1 : cX1_refusal.data.toList.drop 23 = dktX1_refusal_1 := dk_seg dksX1_refusal_0 23 rfl rfl
theorem dksX1_refusal_2 : cX1_refusal.data.toList.drop 46 = dktX1_refusal_2 := dk_seg dksX1_refusal_1 23 rfl rfl
theorem dX1_refusal_0 : decode cX1_refusal 0 = .ok (.aload_n 0, 1) := dk_42 (dk_at dksX1_refusal_0 0 rfl rfl)
theorem dX1_refusal_1 : decode cX1_refusal 1 = .ok (.getfield 130, 3) := dk_180 0 130 (dk_at dksX1_refusal_0 1 rfl rfl)
theorem dX1_refusal_4 : decode cX1_refusal 4 = .ok (.ifnull 7, 3) := dk_198 0 7 (dk_at dksX1_refusal_0 4 rfl rfl)
theorem dX1_refusal_7 : decode cX1_refusal 7 = .ok (.iconst 1, 1) := dk_4 (dk_at dksX1_refusal_0 7 rfl rfl)
theorem dX1_refusal_8 : decode cX1_refusal 8 = .ok (.goto 4, 3) := dk_167 0 4 (dk_at dksX1_refusal_0 8 rfl rfl)
theorem dX1_refusal_11 : decode cX1_refusal 11 = .ok (.iconst 0, 1) := dk_3 (dk_at dksX1_refusal_0 11 rfl rfl)
theorem dX1_refusal_12 : decode cX1_refusal 12 = .ok (.invokestatic 284, 3) := dk_184 1 28 (dk_at dksX1_refusal_0 12 rfl rfl)
theorem dX1_refusal_15 : decode cX1_refusal 15 = .ok (.iload_n 1, 1) := dk_27 (dk_at dksX1_refusal_0 15 rfl rfl)
theorem dX1_refusal_16 : decode cX1_refusal 16 = .ok (.ifCond .eq 16, 3) := dk_153 0 16 (dk_at dksX1_refusal_0 16 rfl rfl)
theorem dX1_refusal_19 : decode cX1_refusal 19 = .ok (.aload_n 0, 1) := dk_42 (dk_at dksX1_refusal_0 19 rfl rfl)
theorem dX1_refusal_20 : decode cX1_refusal 20 = .ok (.getfield 130, 3) := dk_180 0 130 (dk_at dksX1_refusal_0 20 rfl rfl)
theorem dX1_refusal_23 : decode cX1_refusal 23 = .ok (.invokevirtual 287, 3) := dk_182 1 31 (dk_at dksX1_refusal_1 0 rfl rfl)
theorem dX1_refusal_26 : decode cX1_refusal 26 = .ok (.checkcast 128, 3) := dk_192 0 128 (dk_at dksX1_refusal_1 3 rfl rfl)
theorem dX1_refusal_29 : decode cX1_refusal 29 = .ok (.goto 7, 3) := dk_167 0 7 (dk_at dksX1_refusal_1 6 rfl rfl)
theorem dX1_refusal_32 : decode cX1_refusal 32 = .ok (.aload_n 0, 1) := dk_42 (dk_at dksX1_refusal_1 9 rfl rfl)
theorem dX1_refusal_33 : decode cX1_refusal 33 = .ok (.getfield 130, 3) := dk_180 0 130 (dk_at dksX1_refusal_1 10 rfl rfl)
theorem dX1_refusal_36 : decode cX1_refusal 36 = .ok (.astore_n 3, 1) := dk_78 (dk_at dksX1_refusal_1 13 rfl rfl)
theorem dX1_refusal_37 : decode cX1_refusal 37 = .ok (.aload_n 3, 1) := dk_45 (dk_at dksX1_refusal_1 14 rfl rfl)
theorem dX1_refusal_38 : decode cX1_refusal 38 = .ok (.ifnull 7, 3) := dk_198 0 7 (dk_at dksX1_refusal_1 15 rfl rfl)
theorem dX1_refusal_41 : decode cX1_refusal 41 = .ok (.iconst 1, 1) := dk_4 (dk_at dksX1_refusal_1 18 rfl rfl)
theorem dX1_refusal_42 : decode cX1_refusal 42 = .ok (.goto 4, 3) := dk_167 0 4 (dk_at dksX1_refusal_1 19 rfl rfl)
theorem dX1_refusal_45 : decode cX1_refusal 45 = .ok (.iconst 0, 1) := dk_3 (dk_at dksX1_refusal_1 22 rfl rfl)
theorem dX1_refusal_46 : decode cX1_refusal 46 = .ok (.invokestatic 220, 3) := dk_184 0 220 (dk_at dksX1_refusal_2 0 rfl rfl)
theorem dX1_refusal_49 : decode cX1_refusal 49 = .ok (.aload_n 3, 1) := dk_45 (dk_at dksX1_refusal_2 3 rfl rfl)
theorem dX1_refusal_50 : decode cX1_refusal 50 = .ok (.iload_n 2, 1) := dk_28 (dk_at dksX1_refusal_2 4 rfl rfl)
theorem dX1_refusal_51 : decode cX1_refusal 51 = .ok (.invokevirtual 291, 3) := dk_182 1 35 (dk_at dksX1_refusal_2 5 rfl rfl)
theorem dX1_refusal_54 : decode cX1_refusal 54 = .ok (.ireturn, 1) := dk_172 (dk_at dksX1_refusal_2 8 rfl rfl)
abbrev cX1_checkState : ByteArray := prog_1_method_4_code
def yX1_checkState : MethodName := ⟨RX1, "checkState", "(Z)V"⟩
def dkwX1_checkState_0 : List UInt8 := [26, 154, 0, 11, 187, 0, 10, 89, 183, 0, 12, 191, 177]
abbrev dktX1_checkState_0 : List UInt8 := dkwX1_checkState_0 ++ []
theorem dksX1_checkState_0 : cX1_checkState.data.toList.drop 0 = dktX1_checkState_0 := by decide +kernel
theorem dX1_checkState_0 : decode cX1_checkState 0 = .ok (.iload_n 0, 1) := dk_26 (dk_at dksX1_checkState_0 0 rfl rfl)
theorem dX1_checkState_1 : decode cX1_checkState 1 = .ok (.ifCond .ne 11, 3) := dk_154 0 11 (dk_at dksX1_checkState_0 1 rfl rfl)
theorem dX1_checkState_4 : decode cX1_checkState 4 = .ok (.new 10, 3) := dk_187 0 10 (dk_at dksX1_checkState_0 4 rfl rfl)
theorem dX1_checkState_7 : decode cX1_checkState 7 = .ok (.dup, 1) := dk_89 (dk_at dksX1_checkState_0 7 rfl rfl)
theorem dX1_checkState_8 : decode cX1_checkState 8 = .ok (.invokespecial 12, 3) := dk_183 0 12 (dk_at dksX1_checkState_0 8 rfl rfl)
theorem dX1_checkState_11 : decode cX1_checkState 11 = .ok (.athrow, 1) := dk_191 (dk_at dksX1_checkState_0 11 rfl rfl)
theorem dX1_checkState_12 : decode cX1_checkState 12 = .ok (.return_, 1) := dk_177 (dk_at dksX1_checkState_0 12 rfl rfl)
abbrev cX1_account : ByteArray := prog_1_method_45_code
def yX1_account : MethodName := ⟨RX1, "account", "(I)I"⟩
def dkwX1_account_7 : List UInt8 := [180, 0, 92, 182, 0, 108, 172, 187, 0, 1, 89, 183, 0, 3, 191]
abbrev dktX1_account_7 : List UInt8 := dkwX1_account_7 ++ []
def dkwX1_account_6 : List UInt8 := [180, 0, 85, 180, 1, 71, 172, 42, 180, 0, 85, 180, 1, 74, 172, 42, 180, 0, 96, 182, 1, 77, 172, 42]
abbrev dktX1_account_6 : List UInt8 := dkwX1_account_6 ++ dktX1_account_7
def dkwX1_account_5 : List UInt8 := [180, 0, 85, 182, 1, 62, 172, 42, 180, 0, 85, 180, 1, 65, 172, 42, 180, 0, 85, 180, 1, 68, 172, 42]
abbrev dktX1_account_5 : List UInt8 := dkwX1_account_5 ++ dktX1_account_6
def dkwX1_account_4 : List UInt8 := [180, 0, 85, 180, 1, 51, 172, 42, 180, 0, 85, 42, 186, 1, 54, 0, 0, 182, 1, 58, 172, 42]
abbrev dktX1_account_4 : List UInt8 := dkwX1_account_4 ++ dktX1_account_5
def dkwX1_account_3 : List UInt8 := [180, 1, 42, 182, 0, 145, 172, 42, 180, 0, 85, 182, 1, 45, 172, 42, 180, 0, 85, 180, 1, 48, 172, 42]
abbrev dktX1_account_3 : List UInt8 := dkwX1_account_3 ++ dktX1_account_4
def dkwX1_account_2 : List UInt8 := [42, 180, 0, 85, 180, 0, 141, 182, 0, 145, 172, 42, 180, 0, 85, 182, 1, 39, 172, 42, 180, 0, 85]
abbrev dktX1_account_2 : List UInt8 := dkwX1_account_2 ++ dktX1_account_3
def dkwX1_account_1 : List UInt8 := [170, 0, 0, 0, 0, 0, 195, 0, 0, 0, 0, 0, 0, 0, 13, 0, 0, 0, 71, 0, 0, 0, 82, 0, 0, 0, 90, 0, 0, 0, 101, 0, 0, 0, 109, 0, 0, 0, 117, 0, 0, 0, 125, 0, 0, 0, 139, 0, 0, 0, 147, 0, 0, 0, 155, 0, 0, 0, 163, 0, 0, 0, 171, 0, 0, 0, 179, 0, 0, 0, 187]
abbrev dktX1_account_1 : List UInt8 := dkwX1_account_1 ++ dktX1_account_2
def dkwX1_account_0 : List UInt8 := [27]
abbrev dktX1_account_0 : List UInt8 := dkwX1_account_0 ++ dktX1_account_1
theorem dksX1_account_0 : cX1_account.data.toList.drop 0 = dktX1_account_0 := by decide +kernel
theorem dksX1_account_1 : cX1_account.data.toList.drop 1 = dktX1_account_1 := dk_seg dksX1_account_0 1 rfl rfl
theorem dksX1_account_2 : cX1_account.data.toList.drop 72 = dktX1_account_2 := dk_seg dksX1_account_1 71 rfl rfl
theorem dksX1_account_3 : cX1_account.data.toList.drop 95 = dktX1_account_3 := dk_seg dksX1_account_2 23 rfl rfl
theorem dksX1_account_4 : cX1_account.data.toList.drop 119 = dktX1_account_4 := dk_seg dksX1_account_3 24 rfl rfl
theorem dksX1_account_5 : cX1_account.data.toList.drop 141 = dktX1_account_5 := dk_seg dksX1_account_4 22 rfl rfl
theorem dksX1_account_6 : cX1_account.data.toList.drop 165 = dktX1_account_6 := dk_seg dksX1_account_5 24 rfl rfl
theorem dksX1_account_7 : cX1_account.data.toList.drop 189 = dktX1_account_7 := dk_seg dksX1_account_6 24 rfl rfl
theorem dX1_account_0 : decode cX1_account 0 = .ok (.iload_n 1, 1) := dk_27 (dk_at dksX1_account_0 0 rfl rfl)
theorem dX1_account_1 : decode cX1_account 1 = .ok (.tableswitch 195 0 13 #[71, 82, 90, 101, 109, 117, 125, 139, 147, 155, 163, 171, 179, 187], 71) := by decide +kernel
theorem dX1_account_72 : decode cX1_account 72 = .ok (.aload_n 0, 1) := dk_42 (dk_at dksX1_account_2 0 rfl rfl)
theorem dX1_account_73 : decode cX1_account 73 = .ok (.getfield 85, 3) := dk_180 0 85 (dk_at dksX1_account_2 1 rfl rfl)
theorem dX1_account_76 : decode cX1_account 76 = .ok (.getfield 141, 3) := dk_180 0 141 (dk_at dksX1_account_2 4 rfl rfl)
theorem dX1_account_79 : decode cX1_account 79 = .ok (.invokevirtual 145, 3) := dk_182 0 145 (dk_at dksX1_account_2 7 rfl rfl)
theorem dX1_account_82 : decode cX1_account 82 = .ok (.ireturn, 1) := dk_172 (dk_at dksX1_account_2 10 rfl rfl)
theorem dX1_account_83 : decode cX1_account 83 = .ok (.aload_n 0, 1) := dk_42 (dk_at dksX1_account_2 11 rfl rfl)
theorem dX1_account_84 : decode cX1_account 84 = .ok (.getfield 85, 3) := dk_180 0 85 (dk_at dksX1_account_2 12 rfl rfl)
theorem dX1_account_87 : decode cX1_account 87 = .ok (.invokevirtual 295, 3) := dk_182 1 39 (dk_at dksX1_account_2 15 rfl rfl)
theorem dX1_account_90 : decode cX1_account 90 = .ok (.ireturn, 1) := dk_172 (dk_at dksX1_account_2 18 rfl rfl)
theorem dX1_account_91 : decode cX1_account 91 = .ok (.aload_n 0, 1) := dk_42 (dk_at dksX1_account_2 19 rfl rfl)
theorem dX1_account_92 : decode cX1_account 92 = .ok (.getfield 85, 3) := dk_180 0 85 (dk_at dksX1_account_2 20 rfl rfl)
theorem dX1_account_95 : decode cX1_account 95 = .ok (.getfield 298, 3) := dk_180 1 42 (dk_at dksX1_account_3 0 rfl rfl)
theorem dX1_account_98 : decode cX1_account 98 = .ok (.invokevirtual 145, 3) := dk_182 0 145 (dk_at dksX1_account_3 3 rfl rfl)
theorem dX1_account_101 : decode cX1_account 101 = .ok (.ireturn, 1) := dk_172 (dk_at dksX1_account_3 6 rfl rfl)
theorem dX1_account_102 : decode cX1_account 102 = .ok (.aload_n 0, 1) := dk_42 (dk_at dksX1_account_3 7 rfl rfl)
theorem dX1_account_103 : decode cX1_account 103 = .ok (.getfield 85, 3) := dk_180 0 85 (dk_at dksX1_account_3 8 rfl rfl)
theorem dX1_account_106 : decode cX1_account 106 = .ok (.invokevirtual 301, 3) := dk_182 1 45 (dk_at dksX1_account_3 11 rfl rfl)
theorem dX1_account_109 : decode cX1_account 109 = .ok (.ireturn, 1) := dk_172 (dk_at dksX1_account_3 14 rfl rfl)
theorem dX1_account_110 : decode cX1_account 110 = .ok (.aload_n 0, 1) := dk_42 (dk_at dksX1_account_3 15 rfl rfl)
theorem dX1_account_111 : decode cX1_account 111 = .ok (.getfield 85, 3) := dk_180 0 85 (dk_at dksX1_account_3 16 rfl rfl)
theorem dX1_account_114 : decode cX1_account 114 = .ok (.getfield 304, 3) := dk_180 1 48 (dk_at dksX1_account_3 19 rfl rfl)
theorem dX1_account_117 : decode cX1_account 117 = .ok (.ireturn, 1) := dk_172 (dk_at dksX1_account_3 22 rfl rfl)
theorem dX1_account_118 : decode cX1_account 118 = .ok (.aload_n 0, 1) := dk_42 (dk_at dksX1_account_3 23 rfl rfl)
theorem dX1_account_119 : decode cX1_account 119 = .ok (.getfield 85, 3) := dk_180 0 85 (dk_at dksX1_account_4 0 rfl rfl)
theorem dX1_account_122 : decode cX1_account 122 = .ok (.getfield 307, 3) := dk_180 1 51 (dk_at dksX1_account_4 3 rfl rfl)
theorem dX1_account_125 : decode cX1_account 125 = .ok (.ireturn, 1) := dk_172 (dk_at dksX1_account_4 6 rfl rfl)
theorem dX1_account_126 : decode cX1_account 126 = .ok (.aload_n 0, 1) := dk_42 (dk_at dksX1_account_4 7 rfl rfl)
theorem dX1_account_127 : decode cX1_account 127 = .ok (.getfield 85, 3) := dk_180 0 85 (dk_at dksX1_account_4 8 rfl rfl)
theorem dX1_account_130 : decode cX1_account 130 = .ok (.aload_n 0, 1) := dk_42 (dk_at dksX1_account_4 11 rfl rfl)
theorem dX1_account_131 : decode cX1_account 131 = .ok (.invokedynamic 310, 5) := by decide +kernel
theorem dX1_account_136 : decode cX1_account 136 = .ok (.invokevirtual 314, 3) := dk_182 1 58 (dk_at dksX1_account_4 17 rfl rfl)
theorem dX1_account_139 : decode cX1_account 139 = .ok (.ireturn, 1) := dk_172 (dk_at dksX1_account_4 20 rfl rfl)
theorem dX1_account_140 : decode cX1_account 140 = .ok (.aload_n 0, 1) := dk_42 (dk_at dksX1_account_4 21 rfl rfl)
theorem dX1_account_141 : decode cX1_account 141 = .ok (.getfield 85, 3) := dk_180 0 85 (dk_at dksX1_account_5 0 rfl rfl)
theorem dX1_account_144 : decode cX1_account 144 = .ok (.invokevirtual 318, 3) := dk_182 1 62 (dk_at dksX1_account_5 3 rfl rfl)
theorem dX1_account_147 : decode cX1_account 147 = .ok (.ireturn, 1) := dk_172 (dk_at dksX1_account_5 6 rfl rfl)
theorem dX1_account_148 : decode cX1_account 148 = .ok (.aload_n 0, 1) := dk_42 (dk_at dksX1_account_5 7 rfl rfl)
theorem dX1_account_149 : decode cX1_account 149 = .ok (.getfield 85, 3) := dk_180 0 85 (dk_at dksX1_account_5 8 rfl rfl)
theorem dX1_account_152 : decode cX1_account 152 = .ok (.getfield 321, 3) := dk_180 1 65 (dk_at dksX1_account_5 11 rfl rfl)
theorem dX1_account_155 : decode cX1_account 155 = .ok (.ireturn, 1) := dk_172 (dk_at dksX1_account_5 14 rfl rfl)
theorem dX1_account_156 : decode cX1_account 156 = .ok (.aload_n 0, 1) := dk_42 (dk_at dksX1_account_5 15 rfl rfl)
theorem dX1_account_157 : decode cX1_account 157 = .ok (.getfield 85, 3) := dk_180 0 85 (dk_at dksX1_account_5 16 rfl rfl)
theorem dX1_account_160 : decode cX1_account 160 = .ok (.getfield 324, 3) := dk_180 1 68 (dk_at dksX1_account_5 19 rfl rfl)
theorem dX1_account_163 : decode cX1_account 163 = .ok (.ireturn, 1) := dk_172 (dk_at dksX1_account_5 22 rfl rfl)
theorem dX1_account_164 : decode cX1_account 164 = .ok (.aload_n 0, 1) := dk_42 (dk_at dksX1_account_5 23 rfl rfl)
theorem dX1_account_165 : decode cX1_account 165 = .ok (.getfield 85, 3) := dk_180 0 85 (dk_at dksX1_account_6 0 rfl rfl)
theorem dX1_account_168 : decode cX1_account 168 = .ok (.getfield 327, 3) := dk_180 1 71 (dk_at dksX1_account_6 3 rfl rfl)
theorem dX1_account_171 : decode cX1_account 171 = .ok (.ireturn, 1) := dk_172 (dk_at dksX1_account_6 6 rfl rfl)
theorem dX1_account_172 : decode cX1_account 172 = .ok (.aload_n 0, 1) := dk_42 (dk_at dksX1_account_6 7 rfl rfl)
theorem dX1_account_173 : decode cX1_account 173 = .ok (.getfield 85, 3) := dk_180 0 85 (dk_at dksX1_account_6 8 rfl rfl)
theorem dX1_account_176 : decode cX1_account 176 = .ok (.getfield 330, 3) := dk_180 1 74 (dk_at dksX1_account_6 11 rfl rfl)
theorem dX1_account_179 : decode cX1_account 179 = .ok (.ireturn, 1) := dk_172 (dk_at dksX1_account_6 14 rfl rfl)
theorem dX1_account_180 : decode cX1_account 180 = .ok (.aload_n 0, 1) := dk_42 (dk_at dksX1_account_6 15 rfl rfl)
theorem dX1_account_181 : decode cX1_account 181 = .ok (.getfield 96, 3) := dk_180 0 96 (dk_at dksX1_account_6 16 rfl rfl)
theorem dX1_account_184 : decode cX1_account 184 = .ok (.invokevirtual 333, 3) := dk_182 1 77 (dk_at dksX1_account_6 19 rfl rfl)
theorem dX1_account_187 : decode cX1_account 187 = .ok (.ireturn, 1) := dk_172 (dk_at dksX1_account_6 22 rfl rfl)
theorem dX1_account_188 : decode cX1_account 188 = .ok (.aload_n 0, 1) := dk_42 (dk_at dksX1_account_6 23 rfl rfl)
theorem dX1_account_189 : decode cX1_account 189 = .ok (.getfield 92, 3) := dk_180 0 92 (dk_at dksX1_account_7 0 rfl rfl)
theorem dX1_account_192 : decode cX1_account 192 = .ok (.invokevirtual 108, 3) := dk_182 0 108 (dk_at dksX1_account_7 3 rfl rfl)
theorem dX1_account_195 : decode cX1_account 195 = .ok (.ireturn, 1) := dk_172 (dk_at dksX1_account_7 6 rfl rfl)
theorem dX1_account_196 : decode cX1_account 196 = .ok (.new 1, 3) := dk_187 0 1 (dk_at dksX1_account_7 7 rfl rfl)
theorem dX1_account_199 : decode cX1_account 199 = .ok (.dup, 1) := dk_89 (dk_at dksX1_account_7 10 rfl rfl)
theorem dX1_account_200 : decode cX1_account 200 = .ok (.invokespecial 3, 3) := dk_183 0 3 (dk_at dksX1_account_7 11 rfl rfl)
theorem dX1_account_203 : decode cX1_account 203 = .ok (.athrow, 1) := dk_191 (dk_at dksX1_account_7 14 rfl rfl)
abbrev cX1_lambda_account_0 : ByteArray := prog_1_method_56_code
def yX1_lambda_account_0 : MethodName := ⟨RX1, "lambda$account$0", "(LMissingMiddles$Scrap;)Z"⟩
def dkwX1_lambda_account_0_0 : List UInt8 := [42, 180, 0, 85, 43, 182, 1, 127, 172]
abbrev dktX1_lambda_account_0_0 : List UInt8 := dkwX1_lambda_account_0_0 ++ []
theorem dksX1_lambda_account_0_0 : cX1_lambda_account_0.data.toList.drop 0 = dktX1_lambda_account_0_0 := by decide +kernel
theorem dX1_lambda_account_0_0 : decode cX1_lambda_account_0 0 = .ok (.aload_n 0, 1) := dk_42 (dk_at dksX1_lambda_account_0_0 0 rfl rfl)
theorem dX1_lambda_account_0_1 : decode cX1_lambda_account_0 1 = .ok (.getfield 85, 3) := dk_180 0 85 (dk_at dksX1_lambda_account_0_0 1 rfl rfl)
theorem dX1_lambda_account_0_4 : decode cX1_lambda_account_0 4 = .ok (.aload_n 1, 1) := dk_43 (dk_at dksX1_lambda_account_0_0 4 rfl rfl)
theorem dX1_lambda_account_0_5 : decode cX1_lambda_account_0 5 = .ok (.invokevirtual 383, 3) := dk_182 1 127 (dk_at dksX1_lambda_account_0_0 5 rfl rfl)
theorem dX1_lambda_account_0_8 : decode cX1_lambda_account_0 8 = .ok (.ireturn, 1) := dk_172 (dk_at dksX1_lambda_account_0_0 8 rfl rfl)
abbrev cX1_wholeShare : ByteArray := prog_1_method_47_code
def yX1_wholeShare : MethodName := ⟨RX1, "wholeShare", "()F"⟩
def dkwX1_wholeShare_1 : List UInt8 := [180, 0, 85, 182, 1, 39, 134, 27, 134, 110, 174]
abbrev dktX1_wholeShare_1 : List UInt8 := dkwX1_wholeShare_1 ++ []
def dkwX1_wholeShare_0 : List UInt8 := [42, 180, 0, 85, 180, 0, 141, 182, 0, 145, 60, 27, 158, 0, 7, 4, 167, 0, 4, 3, 184, 1, 83, 42]
abbrev dktX1_wholeShare_0 : List UInt8 := dkwX1_wholeShare_0 ++ dktX1_wholeShare_1
theorem dksX1_wholeShare_0 : cX1_wholeShare.data.toList.drop 0 = dktX1_wholeShare_0 := by decide +kernel
theorem dksX1_wholeShare_1 : cX1_wholeShare.data.toList.drop 24 = dktX1_wholeShare_1 := dk_seg dksX1_wholeShare_0 24 rfl rfl
theorem dX1_wholeShare_0 : decode cX1_wholeShare 0 = .ok (.aload_n 0, 1) := dk_42 (dk_at dksX1_wholeShare_0 0 rfl rfl)
theorem dX1_wholeShare_1 : decode cX1_wholeShare 1 = .ok (.getfield 85, 3) := dk_180 0 85 (dk_at dksX1_wholeShare_0 1 rfl rfl)
theorem dX1_wholeShare_4 : decode cX1_wholeShare 4 = .ok (.getfield 141, 3) := dk_180 0 141 (dk_at dksX1_wholeShare_0 4 rfl rfl)
theorem dX1_wholeShare_7 : decode cX1_wholeShare 7 = .ok (.invokevirtual 145, 3) := dk_182 0 145 (dk_at dksX1_wholeShare_0 7 rfl rfl)
theorem dX1_wholeShare_10 : decode cX1_wholeShare 10 = .ok (.istore_n 1, 1) := dk_60 (dk_at dksX1_wholeShare_0 10 rfl rfl)
theorem dX1_wholeShare_11 : decode cX1_wholeShare 11 = .ok (.iload_n 1, 1) := dk_27 (dk_at dksX1_wholeShare_0 11 rfl rfl)
theorem dX1_wholeShare_12 : decode cX1_wholeShare 12 = .ok (.ifCond .le 7, 3) := dk_158 0 7 (dk_at dksX1_wholeShare_0 12 rfl rfl)
theorem dX1_wholeShare_15 : decode cX1_wholeShare 15 = .ok (.iconst 1, 1) := dk_4 (dk_at dksX1_wholeShare_0 15 rfl rfl)
theorem dX1_wholeShare_16 : decode cX1_wholeShare 16 = .ok (.goto 4, 3) := dk_167 0 4 (dk_at dksX1_wholeShare_0 16 rfl rfl)
theorem dX1_wholeShare_19 : decode cX1_wholeShare 19 = .ok (.iconst 0, 1) := dk_3 (dk_at dksX1_wholeShare_0 19 rfl rfl)
theorem dX1_wholeShare_20 : decode cX1_wholeShare 20 = .ok (.invokestatic 339, 3) := dk_184 1 83 (dk_at dksX1_wholeShare_0 20 rfl rfl)
theorem dX1_wholeShare_23 : decode cX1_wholeShare 23 = .ok (.aload_n 0, 1) := dk_42 (dk_at dksX1_wholeShare_0 23 rfl rfl)
theorem dX1_wholeShare_24 : decode cX1_wholeShare 24 = .ok (.getfield 85, 3) := dk_180 0 85 (dk_at dksX1_wholeShare_1 0 rfl rfl)
theorem dX1_wholeShare_27 : decode cX1_wholeShare 27 = .ok (.invokevirtual 295, 3) := dk_182 1 39 (dk_at dksX1_wholeShare_1 3 rfl rfl)
theorem dX1_wholeShare_30 : decode cX1_wholeShare 30 = .ok (.i2f, 1) := dk_134 (dk_at dksX1_wholeShare_1 6 rfl rfl)
theorem dX1_wholeShare_31 : decode cX1_wholeShare 31 = .ok (.iload_n 1, 1) := dk_27 (dk_at dksX1_wholeShare_1 7 rfl rfl)
theorem dX1_wholeShare_32 : decode cX1_wholeShare 32 = .ok (.i2f, 1) := dk_134 (dk_at dksX1_wholeShare_1 8 rfl rfl)
theorem dX1_wholeShare_33 : decode cX1_wholeShare 33 = .ok (.fdiv, 1) := dk_110 (dk_at dksX1_wholeShare_1 9 rfl rfl)
theorem dX1_wholeShare_34 : decode cX1_wholeShare 34 = .ok (.freturn, 1) := dk_174 (dk_at dksX1_wholeShare_1 10 rfl rfl)
abbrev cX1_checkNumbers : ByteArray := prog_1_method_6_code
def yX1_checkNumbers : MethodName := ⟨RX1, "checkNumbers", "(Z)V"⟩
def dkwX1_checkNumbers_0 : List UInt8 := [26, 154, 0, 11, 187, 0, 16, 89, 183, 0, 18, 191, 177]
abbrev dktX1_checkNumbers_0 : List UInt8 := dkwX1_checkNumbers_0 ++ []
theorem dksX1_checkNumbers_0 : cX1_checkNumbers.data.toList.drop 0 = dktX1_checkNumbers_0 := by decide +kernel
theorem dX1_checkNumbers_0 : decode cX1_checkNumbers 0 = .ok (.iload_n 0, 1) := dk_26 (dk_at dksX1_checkNumbers_0 0 rfl rfl)
theorem dX1_checkNumbers_1 : decode cX1_checkNumbers 1 = .ok (.ifCond .ne 11, 3) := dk_154 0 11 (dk_at dksX1_checkNumbers_0 1 rfl rfl)
theorem dX1_checkNumbers_4 : decode cX1_checkNumbers 4 = .ok (.new 16, 3) := dk_187 0 16 (dk_at dksX1_checkNumbers_0 4 rfl rfl)
theorem dX1_checkNumbers_7 : decode cX1_checkNumbers 7 = .ok (.dup, 1) := dk_89 (dk_at dksX1_checkNumbers_0 7 rfl rfl)
theorem dX1_checkNumbers_8 : decode cX1_checkNumbers 8 = .ok (.invokespecial 18, 3) := dk_183 0 18 (dk_at dksX1_checkNumbers_0 8 rfl rfl)
theorem dX1_checkNumbers_11 : decode cX1_checkNumbers 11 = .ok (.athrow, 1) := dk_191 (dk_at dksX1_checkNumbers_0 11 rfl rfl)
theorem dX1_checkNumbers_12 : decode cX1_checkNumbers 12 = .ok (.return_, 1) := dk_177 (dk_at dksX1_checkNumbers_0 12 rfl rfl)
abbrev cX1_append : ByteArray := prog_1_method_48_code
def yX1_append : MethodName := ⟨RX1, "append", "(I)I"⟩
def dkwX1_append_5 : List UInt8 := [182, 1, 93, 87, 132, 3, 248, 167, 255, 224, 42, 180, 0, 96, 182, 1, 77, 172]
abbrev dktX1_append_5 : List UInt8 := dkwX1_append_5 ++ []
def dkwX1_append_4 : List UInt8 := [155, 0, 34, 27, 29, 124, 17, 0, 255, 126, 54, 4, 21, 4, 153, 0, 14, 42, 180, 0, 96, 21, 4, 146]
abbrev dktX1_append_4 : List UInt8 := dkwX1_append_4 ++ dktX1_append_5
def dkwX1_append_3 : List UInt8 := [182, 1, 77, 28, 96, 16, 60, 163, 0, 7, 4, 167, 0, 4, 3, 184, 1, 28, 16, 24, 62, 29]
abbrev dktX1_append_3 : List UInt8 := dkwX1_append_3 ++ dktX1_append_4
def dkwX1_append_2 : List UInt8 := [21, 4, 154, 0, 7, 3, 167, 0, 4, 4, 96, 61, 132, 3, 248, 167, 255, 199, 42, 180, 0, 96]
abbrev dktX1_append_2 : List UInt8 := dkwX1_append_2 ++ dktX1_append_3
def dkwX1_append_1 : List UInt8 := [21, 4, 133, 20, 1, 86, 20, 1, 88, 184, 0, 23, 153, 0, 7, 4, 167, 0, 4, 3, 184, 1, 90, 28]
abbrev dktX1_append_1 : List UInt8 := dkwX1_append_1 ++ dktX1_append_2
def dkwX1_append_0 : List UInt8 := [3, 61, 16, 24, 62, 29, 155, 0, 59, 27, 29, 124, 17, 0, 255, 126, 54, 4, 21, 4, 153, 0, 18]
abbrev dktX1_append_0 : List UInt8 := dkwX1_append_0 ++ dktX1_append_1
theorem dksX1_append_0 : cX1_append.data.toList.drop 0 = dktX1_append_0 := by decide +kernel
theorem dksX1_append_1 : cX1_append.data.toList.drop 23 = dktX1_append_1 := dk_seg dksX1_append_0 23 rfl rfl
theorem dksX1_append_2 : cX1_append.data.toList.drop 47 = dktX1_append_2 := dk_seg dksX1_append_1 24 rfl rfl
theorem dksX1_append_3 : cX1_append.data.toList.drop 69 = dktX1_append_3 := dk_seg dksX1_append_2 22 rfl rfl
theorem dksX1_append_4 : cX1_append.data.toList.drop 91 = dktX1_append_4 := dk_seg dksX1_append_3 22 rfl rfl
theorem dksX1_append_5 : cX1_append.data.toList.drop 115 = dktX1_append_5 := dk_seg dksX1_append_4 24 rfl rfl
theorem dX1_append_0 : decode cX1_append 0 = .ok (.iconst 0, 1) := dk_3 (dk_at dksX1_append_0 0 rfl rfl)
theorem dX1_append_1 : decode cX1_append 1 = .ok (.istore_n 2, 1) := dk_61 (dk_at dksX1_append_0 1 rfl rfl)
theorem dX1_append_2 : decode cX1_append 2 = .ok (.bipush 24, 2) := dk_16 24 (dk_at dksX1_append_0 2 rfl rfl)
theorem dX1_append_4 : decode cX1_append 4 = .ok (.istore_n 3, 1) := dk_62 (dk_at dksX1_append_0 4 rfl rfl)
theorem dX1_append_5 : decode cX1_append 5 = .ok (.iload_n 3, 1) := dk_29 (dk_at dksX1_append_0 5 rfl rfl)
theorem dX1_append_6 : decode cX1_append 6 = .ok (.ifCond .lt 59, 3) := dk_155 0 59 (dk_at dksX1_append_0 6 rfl rfl)
theorem dX1_append_9 : decode cX1_append 9 = .ok (.iload_n 1, 1) := dk_27 (dk_at dksX1_append_0 9 rfl rfl)
theorem dX1_append_10 : decode cX1_append 10 = .ok (.iload_n 3, 1) := dk_29 (dk_at dksX1_append_0 10 rfl rfl)
theorem dX1_append_11 : decode cX1_append 11 = .ok (.iushr, 1) := dk_124 (dk_at dksX1_append_0 11 rfl rfl)
theorem dX1_append_12 : decode cX1_append 12 = .ok (.sipush 255, 3) := dk_17 0 255 (dk_at dksX1_append_0 12 rfl rfl)
theorem dX1_append_15 : decode cX1_append 15 = .ok (.iand, 1) := dk_126 (dk_at dksX1_append_0 15 rfl rfl)
theorem dX1_append_16 : decode cX1_append 16 = .ok (.istore 4, 2) := dk_54 4 (dk_at dksX1_append_0 16 rfl rfl)
theorem dX1_append_18 : decode cX1_append 18 = .ok (.iload 4, 2) := dk_21 4 (dk_at dksX1_append_0 18 rfl rfl)
theorem dX1_append_20 : decode cX1_append 20 = .ok (.ifCond .eq 18, 3) := dk_153 0 18 (dk_at dksX1_append_0 20 rfl rfl)
theorem dX1_append_23 : decode cX1_append 23 = .ok (.iload 4, 2) := dk_21 4 (dk_at dksX1_append_1 0 rfl rfl)
theorem dX1_append_25 : decode cX1_append 25 = .ok (.i2l, 1) := dk_133 (dk_at dksX1_append_1 2 rfl rfl)
theorem dX1_append_26 : decode cX1_append 26 = .ok (.ldc2_w 342, 3) := dk_20 1 86 (dk_at dksX1_append_1 3 rfl rfl)
theorem dX1_append_29 : decode cX1_append 29 = .ok (.ldc2_w 344, 3) := dk_20 1 88 (dk_at dksX1_append_1 6 rfl rfl)
theorem dX1_append_32 : decode cX1_append 32 = .ok (.invokestatic 23, 3) := dk_184 0 23 (dk_at dksX1_append_1 9 rfl rfl)
theorem dX1_append_35 : decode cX1_append 35 = .ok (.ifCond .eq 7, 3) := dk_153 0 7 (dk_at dksX1_append_1 12 rfl rfl)
theorem dX1_append_38 : decode cX1_append 38 = .ok (.iconst 1, 1) := dk_4 (dk_at dksX1_append_1 15 rfl rfl)
theorem dX1_append_39 : decode cX1_append 39 = .ok (.goto 4, 3) := dk_167 0 4 (dk_at dksX1_append_1 16 rfl rfl)
theorem dX1_append_42 : decode cX1_append 42 = .ok (.iconst 0, 1) := dk_3 (dk_at dksX1_append_1 19 rfl rfl)
theorem dX1_append_43 : decode cX1_append 43 = .ok (.invokestatic 346, 3) := dk_184 1 90 (dk_at dksX1_append_1 20 rfl rfl)
theorem dX1_append_46 : decode cX1_append 46 = .ok (.iload_n 2, 1) := dk_28 (dk_at dksX1_append_1 23 rfl rfl)
theorem dX1_append_47 : decode cX1_append 47 = .ok (.iload 4, 2) := dk_21 4 (dk_at dksX1_append_2 0 rfl rfl)
theorem dX1_append_49 : decode cX1_append 49 = .ok (.ifCond .ne 7, 3) := dk_154 0 7 (dk_at dksX1_append_2 2 rfl rfl)
theorem dX1_append_52 : decode cX1_append 52 = .ok (.iconst 0, 1) := dk_3 (dk_at dksX1_append_2 5 rfl rfl)
theorem dX1_append_53 : decode cX1_append 53 = .ok (.goto 4, 3) := dk_167 0 4 (dk_at dksX1_append_2 6 rfl rfl)
theorem dX1_append_56 : decode cX1_append 56 = .ok (.iconst 1, 1) := dk_4 (dk_at dksX1_append_2 9 rfl rfl)
theorem dX1_append_57 : decode cX1_append 57 = .ok (.iadd, 1) := dk_96 (dk_at dksX1_append_2 10 rfl rfl)
theorem dX1_append_58 : decode cX1_append 58 = .ok (.istore_n 2, 1) := dk_61 (dk_at dksX1_append_2 11 rfl rfl)
theorem dX1_append_59 : decode cX1_append 59 = .ok (.iinc 3 (-8), 3) := dk_132 3 248 (dk_at dksX1_append_2 12 rfl rfl)
theorem dX1_append_62 : decode cX1_append 62 = .ok (.goto (-57), 3) := dk_167 255 199 (dk_at dksX1_append_2 15 rfl rfl)
theorem dX1_append_65 : decode cX1_append 65 = .ok (.aload_n 0, 1) := dk_42 (dk_at dksX1_append_2 18 rfl rfl)
theorem dX1_append_66 : decode cX1_append 66 = .ok (.getfield 96, 3) := dk_180 0 96 (dk_at dksX1_append_2 19 rfl rfl)
theorem dX1_append_69 : decode cX1_append 69 = .ok (.invokevirtual 333, 3) := dk_182 1 77 (dk_at dksX1_append_3 0 rfl rfl)
theorem dX1_append_72 : decode cX1_append 72 = .ok (.iload_n 2, 1) := dk_28 (dk_at dksX1_append_3 3 rfl rfl)
theorem dX1_append_73 : decode cX1_append 73 = .ok (.iadd, 1) := dk_96 (dk_at dksX1_append_3 4 rfl rfl)
theorem dX1_append_74 : decode cX1_append 74 = .ok (.bipush 60, 2) := dk_16 60 (dk_at dksX1_append_3 5 rfl rfl)
theorem dX1_append_76 : decode cX1_append 76 = .ok (.if_icmp .gt 7, 3) := dk_163 0 7 (dk_at dksX1_append_3 7 rfl rfl)
theorem dX1_append_79 : decode cX1_append 79 = .ok (.iconst 1, 1) := dk_4 (dk_at dksX1_append_3 10 rfl rfl)
theorem dX1_append_80 : decode cX1_append 80 = .ok (.goto 4, 3) := dk_167 0 4 (dk_at dksX1_append_3 11 rfl rfl)
theorem dX1_append_83 : decode cX1_append 83 = .ok (.iconst 0, 1) := dk_3 (dk_at dksX1_append_3 14 rfl rfl)
theorem dX1_append_84 : decode cX1_append 84 = .ok (.invokestatic 284, 3) := dk_184 1 28 (dk_at dksX1_append_3 15 rfl rfl)
theorem dX1_append_87 : decode cX1_append 87 = .ok (.bipush 24, 2) := dk_16 24 (dk_at dksX1_append_3 18 rfl rfl)
theorem dX1_append_89 : decode cX1_append 89 = .ok (.istore_n 3, 1) := dk_62 (dk_at dksX1_append_3 20 rfl rfl)
theorem dX1_append_90 : decode cX1_append 90 = .ok (.iload_n 3, 1) := dk_29 (dk_at dksX1_append_3 21 rfl rfl)
theorem dX1_append_91 : decode cX1_append 91 = .ok (.ifCond .lt 34, 3) := dk_155 0 34 (dk_at dksX1_append_4 0 rfl rfl)
theorem dX1_append_94 : decode cX1_append 94 = .ok (.iload_n 1, 1) := dk_27 (dk_at dksX1_append_4 3 rfl rfl)
theorem dX1_append_95 : decode cX1_append 95 = .ok (.iload_n 3, 1) := dk_29 (dk_at dksX1_append_4 4 rfl rfl)
theorem dX1_append_96 : decode cX1_append 96 = .ok (.iushr, 1) := dk_124 (dk_at dksX1_append_4 5 rfl rfl)
theorem dX1_append_97 : decode cX1_append 97 = .ok (.sipush 255, 3) := dk_17 0 255 (dk_at dksX1_append_4 6 rfl rfl)
theorem dX1_append_100 : decode cX1_append 100 = .ok (.iand, 1) := dk_126 (dk_at dksX1_append_4 9 rfl rfl)
theorem dX1_append_101 : decode cX1_append 101 = .ok (.istore 4, 2) := dk_54 4 (dk_at dksX1_append_4 10 rfl rfl)
theorem dX1_append_103 : decode cX1_append 103 = .ok (.iload 4, 2) := dk_21 4 (dk_at dksX1_append_4 12 rfl rfl)
theorem dX1_append_105 : decode cX1_append 105 = .ok (.ifCond .eq 14, 3) := dk_153 0 14 (dk_at dksX1_append_4 14 rfl rfl)
theorem dX1_append_108 : decode cX1_append 108 = .ok (.aload_n 0, 1) := dk_42 (dk_at dksX1_append_4 17 rfl rfl)
theorem dX1_append_109 : decode cX1_append 109 = .ok (.getfield 96, 3) := dk_180 0 96 (dk_at dksX1_append_4 18 rfl rfl)
theorem dX1_append_112 : decode cX1_append 112 = .ok (.iload 4, 2) := dk_21 4 (dk_at dksX1_append_4 21 rfl rfl)
theorem dX1_append_114 : decode cX1_append 114 = .ok (.i2c, 1) := dk_146 (dk_at dksX1_append_4 23 rfl rfl)
theorem dX1_append_115 : decode cX1_append 115 = .ok (.invokevirtual 349, 3) := dk_182 1 93 (dk_at dksX1_append_5 0 rfl rfl)
theorem dX1_append_118 : decode cX1_append 118 = .ok (.pop, 1) := dk_87 (dk_at dksX1_append_5 3 rfl rfl)
theorem dX1_append_119 : decode cX1_append 119 = .ok (.iinc 3 (-8), 3) := dk_132 3 248 (dk_at dksX1_append_5 4 rfl rfl)
theorem dX1_append_122 : decode cX1_append 122 = .ok (.goto (-32), 3) := dk_167 255 224 (dk_at dksX1_append_5 7 rfl rfl)
theorem dX1_append_125 : decode cX1_append 125 = .ok (.aload_n 0, 1) := dk_42 (dk_at dksX1_append_5 10 rfl rfl)
theorem dX1_append_126 : decode cX1_append 126 = .ok (.getfield 96, 3) := dk_180 0 96 (dk_at dksX1_append_5 11 rfl rfl)
theorem dX1_append_129 : decode cX1_append 129 = .ok (.invokevirtual 333, 3) := dk_182 1 77 (dk_at dksX1_append_5 14 rfl rfl)
theorem dX1_append_132 : decode cX1_append 132 = .ok (.ireturn, 1) := dk_172 (dk_at dksX1_append_5 17 rfl rfl)
abbrev cX1_read : ByteArray := prog_1_method_50_code
def yX1_read : MethodName := ⟨RX1, "read", "()I"⟩
def dkwX1_read_4 : List UInt8 := [183, 0, 136, 191, 42, 44, 182, 0, 137, 29, 172]
abbrev dktX1_read_4 : List UInt8 := dkwX1_read_4 ++ []
def dkwX1_read_3 : List UInt8 := [181, 0, 130, 187, 0, 134, 89, 183, 0, 136, 191, 58, 4, 42, 29, 181, 0, 104, 187, 0, 134, 89]
abbrev dktX1_read_3 : List UInt8 := dkwX1_read_3 ++ dktX1_read_4
def dkwX1_read_2 : List UInt8 := [182, 0, 122, 54, 6, 132, 3, 1, 167, 255, 223, 167, 0, 39, 58, 4, 42, 29, 181, 0, 104, 42, 25, 4]
abbrev dktX1_read_2 : List UInt8 := dkwX1_read_2 ++ dktX1_read_3
def dkwX1_read_1 : List UInt8 := [185, 0, 50, 1, 0, 153, 0, 29, 25, 4, 185, 0, 56, 1, 0, 192, 0, 123, 58, 5, 25, 5, 44]
abbrev dktX1_read_1 : List UInt8 := dkwX1_read_1 ++ dktX1_read_2
def dkwX1_read_0 : List UInt8 := [42, 182, 1, 111, 76, 42, 180, 0, 85, 182, 0, 118, 77, 3, 62, 43, 182, 1, 114, 58, 4, 25, 4]
abbrev dktX1_read_0 : List UInt8 := dkwX1_read_0 ++ dktX1_read_1
theorem dksX1_read_0 : cX1_read.data.toList.drop 0 = dktX1_read_0 := by decide +kernel
theorem dksX1_read_1 : cX1_read.data.toList.drop 23 = dktX1_read_1 := dk_seg dksX1_read_0 23 rfl rfl
theorem dksX1_read_2 : cX1_read.data.toList.drop 46 = dktX1_read_2 := dk_seg dksX1_read_1 23 rfl rfl
theorem dksX1_read_3 : cX1_read.data.toList.drop 70 = dktX1_read_3 := dk_seg dksX1_read_2 24 rfl rfl
theorem dksX1_read_4 : cX1_read.data.toList.drop 92 = dktX1_read_4 := dk_seg dksX1_read_3 22 rfl rfl
theorem dX1_read_0 : decode cX1_read 0 = .ok (.aload_n 0, 1) := dk_42 (dk_at dksX1_read_0 0 rfl rfl)
theorem dX1_read_1 : decode cX1_read 1 = .ok (.invokevirtual 367, 3) := dk_182 1 111 (dk_at dksX1_read_0 1 rfl rfl)
theorem dX1_read_4 : decode cX1_read 4 = .ok (.astore_n 1, 1) := dk_76 (dk_at dksX1_read_0 4 rfl rfl)
theorem dX1_read_5 : decode cX1_read 5 = .ok (.aload_n 0, 1) := dk_42 (dk_at dksX1_read_0 5 rfl rfl)
theorem dX1_read_6 : decode cX1_read 6 = .ok (.getfield 85, 3) := dk_180 0 85 (dk_at dksX1_read_0 6 rfl rfl)
theorem dX1_read_9 : decode cX1_read 9 = .ok (.invokevirtual 118, 3) := dk_182 0 118 (dk_at dksX1_read_0 9 rfl rfl)
theorem dX1_read_12 : decode cX1_read 12 = .ok (.astore_n 2, 1) := dk_77 (dk_at dksX1_read_0 12 rfl rfl)
theorem dX1_read_13 : decode cX1_read 13 = .ok (.iconst 0, 1) := dk_3 (dk_at dksX1_read_0 13 rfl rfl)
theorem dX1_read_14 : decode cX1_read 14 = .ok (.istore_n 3, 1) := dk_62 (dk_at dksX1_read_0 14 rfl rfl)
theorem dX1_read_15 : decode cX1_read 15 = .ok (.aload_n 1, 1) := dk_43 (dk_at dksX1_read_0 15 rfl rfl)
theorem dX1_read_16 : decode cX1_read 16 = .ok (.invokevirtual 370, 3) := dk_182 1 114 (dk_at dksX1_read_0 16 rfl rfl)
theorem dX1_read_19 : decode cX1_read 19 = .ok (.astore 4, 2) := dk_58 4 (dk_at dksX1_read_0 19 rfl rfl)
theorem dX1_read_21 : decode cX1_read 21 = .ok (.aload 4, 2) := dk_25 4 (dk_at dksX1_read_0 21 rfl rfl)
theorem dX1_read_23 : decode cX1_read 23 = .ok (.invokeinterface 50 1, 5) := by decide +kernel
theorem dX1_read_28 : decode cX1_read 28 = .ok (.ifCond .eq 29, 3) := dk_153 0 29 (dk_at dksX1_read_1 5 rfl rfl)
theorem dX1_read_31 : decode cX1_read 31 = .ok (.aload 4, 2) := dk_25 4 (dk_at dksX1_read_1 8 rfl rfl)
theorem dX1_read_33 : decode cX1_read 33 = .ok (.invokeinterface 56 1, 5) := by decide +kernel
theorem dX1_read_38 : decode cX1_read 38 = .ok (.checkcast 123, 3) := dk_192 0 123 (dk_at dksX1_read_1 15 rfl rfl)
theorem dX1_read_41 : decode cX1_read 41 = .ok (.astore 5, 2) := dk_58 5 (dk_at dksX1_read_1 18 rfl rfl)
theorem dX1_read_43 : decode cX1_read 43 = .ok (.aload 5, 2) := dk_25 5 (dk_at dksX1_read_1 20 rfl rfl)
theorem dX1_read_45 : decode cX1_read 45 = .ok (.aload_n 2, 1) := dk_44 (dk_at dksX1_read_1 22 rfl rfl)
theorem dX1_read_46 : decode cX1_read 46 = .ok (.invokevirtual 122, 3) := dk_182 0 122 (dk_at dksX1_read_2 0 rfl rfl)
theorem dX1_read_49 : decode cX1_read 49 = .ok (.istore 6, 2) := dk_54 6 (dk_at dksX1_read_2 3 rfl rfl)
theorem dX1_read_51 : decode cX1_read 51 = .ok (.iinc 3 1, 3) := dk_132 3 1 (dk_at dksX1_read_2 5 rfl rfl)
theorem dX1_read_54 : decode cX1_read 54 = .ok (.goto (-33), 3) := dk_167 255 223 (dk_at dksX1_read_2 8 rfl rfl)
theorem dX1_read_57 : decode cX1_read 57 = .ok (.goto 39, 3) := dk_167 0 39 (dk_at dksX1_read_2 11 rfl rfl)
theorem dX1_read_60 : decode cX1_read 60 = .ok (.astore 4, 2) := dk_58 4 (dk_at dksX1_read_2 14 rfl rfl)
theorem dX1_read_62 : decode cX1_read 62 = .ok (.aload_n 0, 1) := dk_42 (dk_at dksX1_read_2 16 rfl rfl)
theorem dX1_read_63 : decode cX1_read 63 = .ok (.iload_n 3, 1) := dk_29 (dk_at dksX1_read_2 17 rfl rfl)
theorem dX1_read_64 : decode cX1_read 64 = .ok (.putfield 104, 3) := dk_181 0 104 (dk_at dksX1_read_2 18 rfl rfl)
theorem dX1_read_67 : decode cX1_read 67 = .ok (.aload_n 0, 1) := dk_42 (dk_at dksX1_read_2 21 rfl rfl)
theorem dX1_read_68 : decode cX1_read 68 = .ok (.aload 4, 2) := dk_25 4 (dk_at dksX1_read_2 22 rfl rfl)
theorem dX1_read_70 : decode cX1_read 70 = .ok (.putfield 130, 3) := dk_181 0 130 (dk_at dksX1_read_3 0 rfl rfl)
theorem dX1_read_73 : decode cX1_read 73 = .ok (.new 134, 3) := dk_187 0 134 (dk_at dksX1_read_3 3 rfl rfl)
theorem dX1_read_76 : decode cX1_read 76 = .ok (.dup, 1) := dk_89 (dk_at dksX1_read_3 6 rfl rfl)
theorem dX1_read_77 : decode cX1_read 77 = .ok (.invokespecial 136, 3) := dk_183 0 136 (dk_at dksX1_read_3 7 rfl rfl)
theorem dX1_read_80 : decode cX1_read 80 = .ok (.athrow, 1) := dk_191 (dk_at dksX1_read_3 10 rfl rfl)
theorem dX1_read_81 : decode cX1_read 81 = .ok (.astore 4, 2) := dk_58 4 (dk_at dksX1_read_3 11 rfl rfl)
theorem dX1_read_83 : decode cX1_read 83 = .ok (.aload_n 0, 1) := dk_42 (dk_at dksX1_read_3 13 rfl rfl)
theorem dX1_read_84 : decode cX1_read 84 = .ok (.iload_n 3, 1) := dk_29 (dk_at dksX1_read_3 14 rfl rfl)
theorem dX1_read_85 : decode cX1_read 85 = .ok (.putfield 104, 3) := dk_181 0 104 (dk_at dksX1_read_3 15 rfl rfl)
theorem dX1_read_88 : decode cX1_read 88 = .ok (.new 134, 3) := dk_187 0 134 (dk_at dksX1_read_3 18 rfl rfl)
theorem dX1_read_91 : decode cX1_read 91 = .ok (.dup, 1) := dk_89 (dk_at dksX1_read_3 21 rfl rfl)
theorem dX1_read_92 : decode cX1_read 92 = .ok (.invokespecial 136, 3) := dk_183 0 136 (dk_at dksX1_read_4 0 rfl rfl)
theorem dX1_read_95 : decode cX1_read 95 = .ok (.athrow, 1) := dk_191 (dk_at dksX1_read_4 3 rfl rfl)
theorem dX1_read_96 : decode cX1_read 96 = .ok (.aload_n 0, 1) := dk_42 (dk_at dksX1_read_4 4 rfl rfl)
theorem dX1_read_97 : decode cX1_read 97 = .ok (.aload_n 2, 1) := dk_44 (dk_at dksX1_read_4 5 rfl rfl)
theorem dX1_read_98 : decode cX1_read 98 = .ok (.invokevirtual 137, 3) := dk_182 0 137 (dk_at dksX1_read_4 6 rfl rfl)
theorem dX1_read_101 : decode cX1_read 101 = .ok (.iload_n 3, 1) := dk_29 (dk_at dksX1_read_4 9 rfl rfl)
theorem dX1_read_102 : decode cX1_read 102 = .ok (.ireturn, 1) := dk_172 (dk_at dksX1_read_4 10 rfl rfl)
abbrev cX1_takeOrders : ByteArray := prog_1_method_49_code
def yX1_takeOrders : MethodName := ⟨RX1, "takeOrders", "()Ljava/util/ArrayList;"⟩
def dkwX1_takeOrders_1 : List UInt8 := [182, 1, 101, 176, 77, 42, 44, 181, 1, 107, 187, 0, 1, 89, 183, 0, 3, 191]
abbrev dktX1_takeOrders_1 : List UInt8 := dkwX1_takeOrders_1 ++ []
def dkwX1_takeOrders_0 : List UInt8 := [187, 1, 96, 89, 42, 180, 0, 96, 183, 1, 98, 76, 42, 187, 0, 39, 89, 183, 0, 41, 181, 0, 96, 43]
abbrev dktX1_takeOrders_0 : List UInt8 := dkwX1_takeOrders_0 ++ dktX1_takeOrders_1
theorem dksX1_takeOrders_0 : cX1_takeOrders.data.toList.drop 0 = dktX1_takeOrders_0 := by decide +kernel
theorem dksX1_takeOrders_1 : cX1_takeOrders.data.toList.drop 24 = dktX1_takeOrders_1 := dk_seg dksX1_takeOrders_0 24 rfl rfl
theorem dX1_takeOrders_0 : decode cX1_takeOrders 0 = .ok (.new 352, 3) := dk_187 1 96 (dk_at dksX1_takeOrders_0 0 rfl rfl)
theorem dX1_takeOrders_3 : decode cX1_takeOrders 3 = .ok (.dup, 1) := dk_89 (dk_at dksX1_takeOrders_0 3 rfl rfl)
theorem dX1_takeOrders_4 : decode cX1_takeOrders 4 = .ok (.aload_n 0, 1) := dk_42 (dk_at dksX1_takeOrders_0 4 rfl rfl)
theorem dX1_takeOrders_5 : decode cX1_takeOrders 5 = .ok (.getfield 96, 3) := dk_180 0 96 (dk_at dksX1_takeOrders_0 5 rfl rfl)
theorem dX1_takeOrders_8 : decode cX1_takeOrders 8 = .ok (.invokespecial 354, 3) := dk_183 1 98 (dk_at dksX1_takeOrders_0 8 rfl rfl)
theorem dX1_takeOrders_11 : decode cX1_takeOrders 11 = .ok (.astore_n 1, 1) := dk_76 (dk_at dksX1_takeOrders_0 11 rfl rfl)
theorem dX1_takeOrders_12 : decode cX1_takeOrders 12 = .ok (.aload_n 0, 1) := dk_42 (dk_at dksX1_takeOrders_0 12 rfl rfl)
theorem dX1_takeOrders_13 : decode cX1_takeOrders 13 = .ok (.new 39, 3) := dk_187 0 39 (dk_at dksX1_takeOrders_0 13 rfl rfl)
theorem dX1_takeOrders_16 : decode cX1_takeOrders 16 = .ok (.dup, 1) := dk_89 (dk_at dksX1_takeOrders_0 16 rfl rfl)
theorem dX1_takeOrders_17 : decode cX1_takeOrders 17 = .ok (.invokespecial 41, 3) := dk_183 0 41 (dk_at dksX1_takeOrders_0 17 rfl rfl)
theorem dX1_takeOrders_20 : decode cX1_takeOrders 20 = .ok (.putfield 96, 3) := dk_181 0 96 (dk_at dksX1_takeOrders_0 20 rfl rfl)
theorem dX1_takeOrders_23 : decode cX1_takeOrders 23 = .ok (.aload_n 1, 1) := dk_43 (dk_at dksX1_takeOrders_0 23 rfl rfl)
theorem dX1_takeOrders_24 : decode cX1_takeOrders 24 = .ok (.invokevirtual 357, 3) := dk_182 1 101 (dk_at dksX1_takeOrders_1 0 rfl rfl)
theorem dX1_takeOrders_27 : decode cX1_takeOrders 27 = .ok (.areturn, 1) := dk_176 (dk_at dksX1_takeOrders_1 3 rfl rfl)
theorem dX1_takeOrders_28 : decode cX1_takeOrders 28 = .ok (.astore_n 2, 1) := dk_77 (dk_at dksX1_takeOrders_1 4 rfl rfl)
theorem dX1_takeOrders_29 : decode cX1_takeOrders 29 = .ok (.aload_n 0, 1) := dk_42 (dk_at dksX1_takeOrders_1 5 rfl rfl)
theorem dX1_takeOrders_30 : decode cX1_takeOrders 30 = .ok (.aload_n 2, 1) := dk_44 (dk_at dksX1_takeOrders_1 6 rfl rfl)
theorem dX1_takeOrders_31 : decode cX1_takeOrders 31 = .ok (.putfield 363, 3) := dk_181 1 107 (dk_at dksX1_takeOrders_1 7 rfl rfl)
theorem dX1_takeOrders_34 : decode cX1_takeOrders 34 = .ok (.new 1, 3) := dk_187 0 1 (dk_at dksX1_takeOrders_1 10 rfl rfl)
theorem dX1_takeOrders_37 : decode cX1_takeOrders 37 = .ok (.dup, 1) := dk_89 (dk_at dksX1_takeOrders_1 13 rfl rfl)
theorem dX1_takeOrders_38 : decode cX1_takeOrders 38 = .ok (.invokespecial 3, 3) := dk_183 0 3 (dk_at dksX1_takeOrders_1 14 rfl rfl)
theorem dX1_takeOrders_41 : decode cX1_takeOrders 41 = .ok (.athrow, 1) := dk_191 (dk_at dksX1_takeOrders_1 17 rfl rfl)
abbrev cX1_errorPosition : ByteArray := prog_1_method_51_code
def yX1_errorPosition : MethodName := ⟨RX1, "errorPosition", "()I"⟩
def dkwX1_errorPosition_0 : List UInt8 := [42, 180, 1, 107, 198, 0, 7, 4, 167, 0, 4, 3, 184, 0, 220, 42, 180, 1, 107, 180, 1, 115, 172]
abbrev dktX1_errorPosition_0 : List UInt8 := dkwX1_errorPosition_0 ++ []
theorem dksX1_errorPosition_0 : cX1_errorPosition.data.toList.drop 0 = dktX1_errorPosition_0 := by decide +kernel
theorem dX1_errorPosition_0 : decode cX1_errorPosition 0 = .ok (.aload_n 0, 1) := dk_42 (dk_at dksX1_errorPosition_0 0 rfl rfl)
theorem dX1_errorPosition_1 : decode cX1_errorPosition 1 = .ok (.getfield 363, 3) := dk_180 1 107 (dk_at dksX1_errorPosition_0 1 rfl rfl)
theorem dX1_errorPosition_4 : decode cX1_errorPosition 4 = .ok (.ifnull 7, 3) := dk_198 0 7 (dk_at dksX1_errorPosition_0 4 rfl rfl)
theorem dX1_errorPosition_7 : decode cX1_errorPosition 7 = .ok (.iconst 1, 1) := dk_4 (dk_at dksX1_errorPosition_0 7 rfl rfl)
theorem dX1_errorPosition_8 : decode cX1_errorPosition 8 = .ok (.goto 4, 3) := dk_167 0 4 (dk_at dksX1_errorPosition_0 8 rfl rfl)
theorem dX1_errorPosition_11 : decode cX1_errorPosition 11 = .ok (.iconst 0, 1) := dk_3 (dk_at dksX1_errorPosition_0 11 rfl rfl)
theorem dX1_errorPosition_12 : decode cX1_errorPosition 12 = .ok (.invokestatic 220, 3) := dk_184 0 220 (dk_at dksX1_errorPosition_0 12 rfl rfl)
theorem dX1_errorPosition_15 : decode cX1_errorPosition 15 = .ok (.aload_n 0, 1) := dk_42 (dk_at dksX1_errorPosition_0 15 rfl rfl)
theorem dX1_errorPosition_16 : decode cX1_errorPosition 16 = .ok (.getfield 363, 3) := dk_180 1 107 (dk_at dksX1_errorPosition_0 16 rfl rfl)
theorem dX1_errorPosition_19 : decode cX1_errorPosition 19 = .ok (.getfield 371, 3) := dk_180 1 115 (dk_at dksX1_errorPosition_0 19 rfl rfl)
theorem dX1_errorPosition_22 : decode cX1_errorPosition 22 = .ok (.ireturn, 1) := dk_172 (dk_at dksX1_errorPosition_0 22 rfl rfl)
abbrev cX1_refusedItem : ByteArray := prog_1_method_52_code
def yX1_refusedItem : MethodName := ⟨RX1, "refusedItem", "()I"⟩
def dkwX1_refusedItem_0 : List UInt8 := [42, 180, 0, 104, 2, 159, 0, 7, 4, 167, 0, 4, 3, 184, 0, 220, 42, 180, 0, 104, 172]
abbrev dktX1_refusedItem_0 : List UInt8 := dkwX1_refusedItem_0 ++ []
theorem dksX1_refusedItem_0 : cX1_refusedItem.data.toList.drop 0 = dktX1_refusedItem_0 := by decide +kernel
theorem dX1_refusedItem_0 : decode cX1_refusedItem 0 = .ok (.aload_n 0, 1) := dk_42 (dk_at dksX1_refusedItem_0 0 rfl rfl)
theorem dX1_refusedItem_1 : decode cX1_refusedItem 1 = .ok (.getfield 104, 3) := dk_180 0 104 (dk_at dksX1_refusedItem_0 1 rfl rfl)
theorem dX1_refusedItem_4 : decode cX1_refusedItem 4 = .ok (.iconst (-1), 1) := dk_2 (dk_at dksX1_refusedItem_0 4 rfl rfl)
theorem dX1_refusedItem_5 : decode cX1_refusedItem 5 = .ok (.if_icmp .eq 7, 3) := dk_159 0 7 (dk_at dksX1_refusedItem_0 5 rfl rfl)
theorem dX1_refusedItem_8 : decode cX1_refusedItem 8 = .ok (.iconst 1, 1) := dk_4 (dk_at dksX1_refusedItem_0 8 rfl rfl)
theorem dX1_refusedItem_9 : decode cX1_refusedItem 9 = .ok (.goto 4, 3) := dk_167 0 4 (dk_at dksX1_refusedItem_0 9 rfl rfl)
theorem dX1_refusedItem_12 : decode cX1_refusedItem 12 = .ok (.iconst 0, 1) := dk_3 (dk_at dksX1_refusedItem_0 12 rfl rfl)
theorem dX1_refusedItem_13 : decode cX1_refusedItem 13 = .ok (.invokestatic 220, 3) := dk_184 0 220 (dk_at dksX1_refusedItem_0 13 rfl rfl)
theorem dX1_refusedItem_16 : decode cX1_refusedItem 16 = .ok (.aload_n 0, 1) := dk_42 (dk_at dksX1_refusedItem_0 16 rfl rfl)
theorem dX1_refusedItem_17 : decode cX1_refusedItem 17 = .ok (.getfield 104, 3) := dk_180 0 104 (dk_at dksX1_refusedItem_0 17 rfl rfl)
theorem dX1_refusedItem_20 : decode cX1_refusedItem 20 = .ok (.ireturn, 1) := dk_172 (dk_at dksX1_refusedItem_0 20 rfl rfl)
abbrev cX1_undo : ByteArray := prog_1_method_53_code
def yX1_undo : MethodName := ⟨RX1, "undo", "()I"⟩
def dkwX1_undo_1 : List UInt8 := [182, 1, 121, 192, 0, 82, 181, 0, 85, 42, 180, 0, 92, 182, 0, 108, 172]
abbrev dktX1_undo_1 : List UInt8 := dkwX1_undo_1 ++ []
def dkwX1_undo_0 : List UInt8 := [42, 180, 0, 92, 182, 1, 118, 154, 0, 7, 4, 167, 0, 4, 3, 184, 1, 28, 42, 42, 180, 0, 92]
abbrev dktX1_undo_0 : List UInt8 := dkwX1_undo_0 ++ dktX1_undo_1
theorem dksX1_undo_0 : cX1_undo.data.toList.drop 0 = dktX1_undo_0 := by decide +kernel
theorem dksX1_undo_1 : cX1_undo.data.toList.drop 23 = dktX1_undo_1 := dk_seg dksX1_undo_0 23 rfl rfl
theorem dX1_undo_0 : decode cX1_undo 0 = .ok (.aload_n 0, 1) := dk_42 (dk_at dksX1_undo_0 0 rfl rfl)
theorem dX1_undo_1 : decode cX1_undo 1 = .ok (.getfield 92, 3) := dk_180 0 92 (dk_at dksX1_undo_0 1 rfl rfl)
theorem dX1_undo_4 : decode cX1_undo 4 = .ok (.invokevirtual 374, 3) := dk_182 1 118 (dk_at dksX1_undo_0 4 rfl rfl)
theorem dX1_undo_7 : decode cX1_undo 7 = .ok (.ifCond .ne 7, 3) := dk_154 0 7 (dk_at dksX1_undo_0 7 rfl rfl)
theorem dX1_undo_10 : decode cX1_undo 10 = .ok (.iconst 1, 1) := dk_4 (dk_at dksX1_undo_0 10 rfl rfl)
theorem dX1_undo_11 : decode cX1_undo 11 = .ok (.goto 4, 3) := dk_167 0 4 (dk_at dksX1_undo_0 11 rfl rfl)
theorem dX1_undo_14 : decode cX1_undo 14 = .ok (.iconst 0, 1) := dk_3 (dk_at dksX1_undo_0 14 rfl rfl)
theorem dX1_undo_15 : decode cX1_undo 15 = .ok (.invokestatic 284, 3) := dk_184 1 28 (dk_at dksX1_undo_0 15 rfl rfl)
theorem dX1_undo_18 : decode cX1_undo 18 = .ok (.aload_n 0, 1) := dk_42 (dk_at dksX1_undo_0 18 rfl rfl)
theorem dX1_undo_19 : decode cX1_undo 19 = .ok (.aload_n 0, 1) := dk_42 (dk_at dksX1_undo_0 19 rfl rfl)
theorem dX1_undo_20 : decode cX1_undo 20 = .ok (.getfield 92, 3) := dk_180 0 92 (dk_at dksX1_undo_0 20 rfl rfl)
theorem dX1_undo_23 : decode cX1_undo 23 = .ok (.invokevirtual 377, 3) := dk_182 1 121 (dk_at dksX1_undo_1 0 rfl rfl)
theorem dX1_undo_26 : decode cX1_undo 26 = .ok (.checkcast 82, 3) := dk_192 0 82 (dk_at dksX1_undo_1 3 rfl rfl)
theorem dX1_undo_29 : decode cX1_undo 29 = .ok (.putfield 85, 3) := dk_181 0 85 (dk_at dksX1_undo_1 6 rfl rfl)
theorem dX1_undo_32 : decode cX1_undo 32 = .ok (.aload_n 0, 1) := dk_42 (dk_at dksX1_undo_1 9 rfl rfl)
theorem dX1_undo_33 : decode cX1_undo 33 = .ok (.getfield 92, 3) := dk_180 0 92 (dk_at dksX1_undo_1 10 rfl rfl)
theorem dX1_undo_36 : decode cX1_undo 36 = .ok (.invokevirtual 108, 3) := dk_182 0 108 (dk_at dksX1_undo_1 13 rfl rfl)
theorem dX1_undo_39 : decode cX1_undo 39 = .ok (.ireturn, 1) := dk_172 (dk_at dksX1_undo_1 16 rfl rfl)
abbrev cX1_restore : ByteArray := prog_1_method_55_code
def yX1_restore : MethodName := ⟨RX1, "restore", "()I"⟩
def dkwX1_restore_1 : List UInt8 := [180, 0, 92, 182, 0, 148, 42, 180, 0, 85, 180, 0, 141, 182, 0, 145, 172]
abbrev dktX1_restore_1 : List UInt8 := dkwX1_restore_1 ++ []
def dkwX1_restore_0 : List UInt8 := [42, 180, 1, 124, 198, 0, 7, 4, 167, 0, 4, 3, 184, 1, 28, 42, 42, 180, 1, 124, 181, 0, 85, 42]
abbrev dktX1_restore_0 : List UInt8 := dkwX1_restore_0 ++ dktX1_restore_1
theorem dksX1_restore_0 : cX1_restore.data.toList.drop 0 = dktX1_restore_0 := by decide +kernel
theorem dksX1_restore_1 : cX1_restore.data.toList.drop 24 = dktX1_restore_1 := dk_seg dksX1_restore_0 24 rfl rfl
theorem dX1_restore_0 : decode cX1_restore 0 = .ok (.aload_n 0, 1) := dk_42 (dk_at dksX1_restore_0 0 rfl rfl)
theorem dX1_restore_1 : decode cX1_restore 1 = .ok (.getfield 380, 3) := dk_180 1 124 (dk_at dksX1_restore_0 1 rfl rfl)
theorem dX1_restore_4 : decode cX1_restore 4 = .ok (.ifnull 7, 3) := dk_198 0 7 (dk_at dksX1_restore_0 4 rfl rfl)
theorem dX1_restore_7 : decode cX1_restore 7 = .ok (.iconst 1, 1) := dk_4 (dk_at dksX1_restore_0 7 rfl rfl)
theorem dX1_restore_8 : decode cX1_restore 8 = .ok (.goto 4, 3) := dk_167 0 4 (dk_at dksX1_restore_0 8 rfl rfl)
theorem dX1_restore_11 : decode cX1_restore 11 = .ok (.iconst 0, 1) := dk_3 (dk_at dksX1_restore_0 11 rfl rfl)
theorem dX1_restore_12 : decode cX1_restore 12 = .ok (.invokestatic 284, 3) := dk_184 1 28 (dk_at dksX1_restore_0 12 rfl rfl)
theorem dX1_restore_15 : decode cX1_restore 15 = .ok (.aload_n 0, 1) := dk_42 (dk_at dksX1_restore_0 15 rfl rfl)
theorem dX1_restore_16 : decode cX1_restore 16 = .ok (.aload_n 0, 1) := dk_42 (dk_at dksX1_restore_0 16 rfl rfl)
theorem dX1_restore_17 : decode cX1_restore 17 = .ok (.getfield 380, 3) := dk_180 1 124 (dk_at dksX1_restore_0 17 rfl rfl)
theorem dX1_restore_20 : decode cX1_restore 20 = .ok (.putfield 85, 3) := dk_181 0 85 (dk_at dksX1_restore_0 20 rfl rfl)
theorem dX1_restore_23 : decode cX1_restore 23 = .ok (.aload_n 0, 1) := dk_42 (dk_at dksX1_restore_0 23 rfl rfl)
theorem dX1_restore_24 : decode cX1_restore 24 = .ok (.getfield 92, 3) := dk_180 0 92 (dk_at dksX1_restore_1 0 rfl rfl)
theorem dX1_restore_27 : decode cX1_restore 27 = .ok (.invokevirtual 148, 3) := dk_182 0 148 (dk_at dksX1_restore_1 3 rfl rfl)
theorem dX1_restore_30 : decode cX1_restore 30 = .ok (.aload_n 0, 1) := dk_42 (dk_at dksX1_restore_1 6 rfl rfl)
theorem dX1_restore_31 : decode cX1_restore 31 = .ok (.getfield 85, 3) := dk_180 0 85 (dk_at dksX1_restore_1 7 rfl rfl)
theorem dX1_restore_34 : decode cX1_restore 34 = .ok (.getfield 141, 3) := dk_180 0 141 (dk_at dksX1_restore_1 10 rfl rfl)
theorem dX1_restore_37 : decode cX1_restore 37 = .ok (.invokevirtual 145, 3) := dk_182 0 145 (dk_at dksX1_restore_1 13 rfl rfl)
theorem dX1_restore_40 : decode cX1_restore 40 = .ok (.ireturn, 1) := dk_172 (dk_at dksX1_restore_1 16 rfl rfl)
theorem q103 : (Jvm.Cond.initialized "MissingMiddles") ∈ lw_all := lw_g (lw_at lw_m1 1 rfl) rfl
theorem q155 : (Jvm.Cond.instantiable "MissingMiddles" (8 : Nat)) ∈ lw_all := lw_g (lw_at lw_m1 53 rfl) rfl
theorem q157 : (Jvm.Cond.instanceMethod ({ cls := "MissingMiddles", name := "<init>", desc := "()V" } : Jvm.MethodName)) ∈ lw_all := lw_g (lw_at lw_m1 55 rfl) rfl
theorem q158 : (Jvm.Cond.code ({ cls := "MissingMiddles", name := "<init>", desc := "()V" } : Jvm.MethodName) prog_1_method_11_code (1 : Nat) (Option.none : Option Jvm.ClassFile.FieldType)) ∈ lw_all := lw_g (lw_at lw_m1 56 rfl) rfl
theorem q159 : (Jvm.Cond.methodLink "MissingMiddles" (79 : Nat) ({ cls := "java/lang/Object", name := "<init>", desc := "()V" } : Jvm.MethodName)) ∈ lw_all := lw_g (lw_at lw_m1 57 rfl) rfl
theorem q162 : (Jvm.Cond.classLink "MissingMiddles" (82 : Nat) "MissingMiddles$Office") ∈ lw_all := lw_g (lw_at lw_m1 60 rfl) rfl
theorem q164 : (Jvm.Cond.methodLink "MissingMiddles" (84 : Nat) ({ cls := "MissingMiddles$Office", name := "<init>", desc := "()V" } : Jvm.MethodName)) ∈ lw_all := lw_g (lw_at lw_m1 62 rfl) rfl
theorem q257 : (Jvm.Cond.selects "MissingMiddles" ({ cls := "java/lang/Object", name := "getClass", desc := "()Ljava/lang/Class;" } : Jvm.MethodName) ({ cls := "java/lang/Object", name := "getClass", desc := "()Ljava/lang/Class;" } : Jvm.MethodName)) ∈ lw_all := lw_g (lw_at lw_m1 155 rfl) rfl
theorem q322 : (Jvm.Cond.fieldLinkNest "MissingMiddles" (141 : Nat) "MissingMiddles$Office" "books" "Ljava/util/ArrayList;" "MissingMiddles") ∈ lw_tbl := lw_at lw_m1 220 rfl
theorem q324 : (Jvm.Cond.fieldLinkNest "MissingMiddles" (298 : Nat) "MissingMiddles$Office" "scraps" "Ljava/util/ArrayList;" "MissingMiddles") ∈ lw_tbl := lw_at lw_m1 222 rfl
theorem q329 : (Jvm.Cond.fieldLinkNest "MissingMiddles" (304 : Nat) "MissingMiddles$Office" "coins" "I" "MissingMiddles") ∈ lw_tbl := lw_at lw_m1 227 rfl
theorem q331 : (Jvm.Cond.fieldLinkNest "MissingMiddles" (307 : Nat) "MissingMiddles$Office" "price" "I" "MissingMiddles") ∈ lw_tbl := lw_at lw_m1 229 rfl
theorem q333 : (Jvm.Cond.fieldLinkNest "MissingMiddles" (321 : Nat) "MissingMiddles$Office" "dropped" "I" "MissingMiddles") ∈ lw_tbl := lw_at lw_m1 231 rfl
theorem q335 : (Jvm.Cond.fieldLinkNest "MissingMiddles" (324 : Nat) "MissingMiddles$Office" "used" "I" "MissingMiddles") ∈ lw_tbl := lw_at lw_m1 233 rfl
theorem q337 : (Jvm.Cond.fieldLinkNest "MissingMiddles" (327 : Nat) "MissingMiddles$Office" "paid" "I" "MissingMiddles") ∈ lw_tbl := lw_at lw_m1 235 rfl
theorem q339 : (Jvm.Cond.fieldLinkNest "MissingMiddles" (330 : Nat) "MissingMiddles$Office" "joined" "I" "MissingMiddles") ∈ lw_tbl := lw_at lw_m1 237 rfl
theorem q363 : (Jvm.Cond.classLink "MissingMiddles" (89 : Nat) "java/util/ArrayDeque") ∈ lw_all := lw_g (lw_at lw_m2 21 rfl) rfl
theorem q365 : (Jvm.Cond.methodLink "MissingMiddles" (91 : Nat) ({ cls := "java/util/ArrayDeque", name := "<init>", desc := "()V" } : Jvm.MethodName)) ∈ lw_all := lw_g (lw_at lw_m2 23 rfl) rfl
theorem q380 : (Jvm.Cond.classLink "MissingMiddles" (39 : Nat) "java/lang/StringBuilder") ∈ lw_all := lw_g (lw_at lw_m2 38 rfl) rfl
theorem q382 : (Jvm.Cond.methodLink "MissingMiddles" (41 : Nat) ({ cls := "java/lang/StringBuilder", name := "<init>", desc := "()V" } : Jvm.MethodName)) ∈ lw_all := lw_g (lw_at lw_m2 40 rfl) rfl
theorem q412 : (Jvm.Cond.stringRef "MissingMiddles" (42 : Nat) "") ∈ lw_tbl := lw_at lw_m2 70 rfl
theorem q413 : (Jvm.Cond.fieldLink "MissingMiddles" (85 : Nat) "MissingMiddles" "office" "LMissingMiddles$Office;") ∈ lw_all := lw_g (lw_at lw_m2 71 rfl) rfl
theorem q414 : (Jvm.Cond.fieldLink "MissingMiddles" (92 : Nat) "MissingMiddles" "undoSteps" "Ljava/util/ArrayDeque;") ∈ lw_all := lw_g (lw_at lw_m2 72 rfl) rfl
theorem q415 : (Jvm.Cond.fieldLink "MissingMiddles" (380 : Nat) "MissingMiddles" "saved" "LMissingMiddles$Office;") ∈ lw_all := lw_g (lw_at lw_m2 73 rfl) rfl
theorem q416 : (Jvm.Cond.fieldLink "MissingMiddles" (96 : Nat) "MissingMiddles" "input" "Ljava/lang/StringBuilder;") ∈ lw_all := lw_g (lw_at lw_m2 74 rfl) rfl
theorem q417 : (Jvm.Cond.fieldLink "MissingMiddles" (100 : Nat) "MissingMiddles" "line" "Ljava/lang/String;") ∈ lw_all := lw_g (lw_at lw_m2 75 rfl) rfl
theorem q418 : (Jvm.Cond.fieldLink "MissingMiddles" (363 : Nat) "MissingMiddles" "lastError" "LMissingMiddles$SyntaxException;") ∈ lw_all := lw_g (lw_at lw_m2 76 rfl) rfl
theorem q419 : (Jvm.Cond.fieldLink "MissingMiddles" (104 : Nat) "MissingMiddles" "lastItem" "I") ∈ lw_all := lw_g (lw_at lw_m2 77 rfl) rfl
theorem q420 : (Jvm.Cond.fieldLink "MissingMiddles" (130 : Nat) "MissingMiddles" "lastRefusal" "LMissingMiddles$Refused;") ∈ lw_all := lw_g (lw_at lw_m2 78 rfl) rfl
theorem q421 : (Jvm.Cond.lays "MissingMiddles" "MissingMiddles" "office" "LMissingMiddles$Office;") ∈ lw_all := lw_g (lw_at lw_m2 79 rfl) rfl
theorem q422 : (Jvm.Cond.soleField "MissingMiddles" "office") ∈ lw_all := lw_g (lw_at lw_m2 80 rfl) rfl
theorem q423 : (Jvm.Cond.laysFinal "MissingMiddles" "MissingMiddles" "undoSteps" "Ljava/util/ArrayDeque;") ∈ lw_all := lw_g (lw_at lw_m2 81 rfl) rfl
theorem q424 : (Jvm.Cond.soleField "MissingMiddles" "undoSteps") ∈ lw_all := lw_g (lw_at lw_m2 82 rfl) rfl
theorem q425 : (Jvm.Cond.lays "MissingMiddles" "MissingMiddles" "saved" "LMissingMiddles$Office;") ∈ lw_all := lw_g (lw_at lw_m2 83 rfl) rfl
theorem q426 : (Jvm.Cond.soleField "MissingMiddles" "saved") ∈ lw_all := lw_g (lw_at lw_m2 84 rfl) rfl
theorem q427 : (Jvm.Cond.lays "MissingMiddles" "MissingMiddles" "input" "Ljava/lang/StringBuilder;") ∈ lw_all := lw_g (lw_at lw_m2 85 rfl) rfl
theorem q428 : (Jvm.Cond.soleField "MissingMiddles" "input") ∈ lw_all := lw_g (lw_at lw_m2 86 rfl) rfl
theorem q429 : (Jvm.Cond.lays "MissingMiddles" "MissingMiddles" "line" "Ljava/lang/String;") ∈ lw_all := lw_g (lw_at lw_m2 87 rfl) rfl
theorem q430 : (Jvm.Cond.soleField "MissingMiddles" "line") ∈ lw_all := lw_g (lw_at lw_m2 88 rfl) rfl
theorem q431 : (Jvm.Cond.lays "MissingMiddles" "MissingMiddles" "lastError" "LMissingMiddles$SyntaxException;") ∈ lw_all := lw_g (lw_at lw_m2 89 rfl) rfl
theorem q432 : (Jvm.Cond.soleField "MissingMiddles" "lastError") ∈ lw_all := lw_g (lw_at lw_m2 90 rfl) rfl
theorem q433 : (Jvm.Cond.lays "MissingMiddles" "MissingMiddles" "lastItem" "I") ∈ lw_all := lw_g (lw_at lw_m2 91 rfl) rfl
theorem q434 : (Jvm.Cond.soleField "MissingMiddles" "lastItem") ∈ lw_all := lw_g (lw_at lw_m2 92 rfl) rfl
theorem q435 : (Jvm.Cond.lays "MissingMiddles" "MissingMiddles" "lastRefusal" "LMissingMiddles$Refused;") ∈ lw_all := lw_g (lw_at lw_m2 93 rfl) rfl
theorem q436 : (Jvm.Cond.soleField "MissingMiddles" "lastRefusal") ∈ lw_all := lw_g (lw_at lw_m2 94 rfl) rfl
theorem q437 : (Jvm.Cond.superclass "MissingMiddles" "java/lang/Object") ∈ lw_all := lw_g (lw_at lw_m2 95 rfl) rfl
theorem q439 : (Jvm.Cond.instanceMethod ({ cls := "MissingMiddles", name := "clear", desc := "()I" } : Jvm.MethodName)) ∈ lw_all := lw_g (lw_at lw_m2 97 rfl) rfl
theorem q440 : (Jvm.Cond.selects "MissingMiddles" ({ cls := "MissingMiddles", name := "clear", desc := "()I" } : Jvm.MethodName) ({ cls := "MissingMiddles", name := "clear", desc := "()I" } : Jvm.MethodName)) ∈ lw_all := lw_g (lw_at lw_m2 98 rfl) rfl
theorem q441 : (Jvm.Cond.code ({ cls := "MissingMiddles", name := "clear", desc := "()I" } : Jvm.MethodName) prog_1_method_14_code (2 : Nat) (Option.some Jvm.ClassFile.FieldType.int)) ∈ lw_all := lw_g (lw_at lw_m2 99 rfl) rfl
theorem q442 : (Jvm.Cond.methodLink "MissingMiddles" (145 : Nat) ({ cls := "java/util/ArrayList", name := "size", desc := "()I" } : Jvm.MethodName)) ∈ lw_all := lw_g (lw_at lw_m2 100 rfl) rfl
theorem q446 : (Jvm.Cond.methodLink "MissingMiddles" (148 : Nat) ({ cls := "java/util/ArrayDeque", name := "clear", desc := "()V" } : Jvm.MethodName)) ∈ lw_all := lw_g (lw_at lw_m2 104 rfl) rfl
theorem q454 : (Jvm.Cond.instanceMethod ({ cls := "MissingMiddles", name := "isRight", desc := "()Z" } : Jvm.MethodName)) ∈ lw_all := lw_g (lw_at lw_m2 112 rfl) rfl
theorem q455 : (Jvm.Cond.selects "MissingMiddles" ({ cls := "MissingMiddles", name := "isRight", desc := "()Z" } : Jvm.MethodName) ({ cls := "MissingMiddles", name := "isRight", desc := "()Z" } : Jvm.MethodName)) ∈ lw_all := lw_g (lw_at lw_m2 113 rfl) rfl
theorem q456 : (Jvm.Cond.code ({ cls := "MissingMiddles", name := "isRight", desc := "()Z" } : Jvm.MethodName) prog_1_method_35_code (1 : Nat) (Option.some Jvm.ClassFile.FieldType.boolean)) ∈ lw_all := lw_g (lw_at lw_m2 114 rfl) rfl
theorem q457 : (Jvm.Cond.methodLink "MissingMiddles" (250 : Nat) ({ cls := "MissingMiddles$Office", name := "isRight", desc := "()Z" } : Jvm.MethodName)) ∈ lw_all := lw_g (lw_at lw_m2 115 rfl) rfl
theorem q1087 : (Jvm.Cond.static ({ cls := "MissingMiddles", name := "atMost", desc := "(I)I" } : Jvm.MethodName)) ∈ lw_all := lw_g (lw_at lw_m5 25 rfl) rfl
theorem q1088 : (Jvm.Cond.code ({ cls := "MissingMiddles", name := "atMost", desc := "(I)I" } : Jvm.MethodName) prog_1_method_9_code (1 : Nat) (Option.some Jvm.ClassFile.FieldType.int)) ∈ lw_all := lw_g (lw_at lw_m5 26 rfl) rfl
theorem q1089 : (Jvm.Cond.methodLink "MissingMiddles" (33 : Nat) ({ cls := "java/lang/Math", name := "min", desc := "(II)I" } : Jvm.MethodName)) ∈ lw_all := lw_g (lw_at lw_m5 27 rfl) rfl
theorem q1308 : (Jvm.Cond.static ({ cls := "MissingMiddles", name := "inRange", desc := "(JJJ)Z" } : Jvm.MethodName)) ∈ lw_all := lw_g (lw_at lw_m6 6 rfl) rfl
theorem q1309 : (Jvm.Cond.code ({ cls := "MissingMiddles", name := "inRange", desc := "(JJJ)Z" } : Jvm.MethodName) prog_1_method_1_code (6 : Nat) (Option.some Jvm.ClassFile.FieldType.boolean)) ∈ lw_all := lw_g (lw_at lw_m6 7 rfl) rfl
theorem q1311 : (Jvm.Cond.static ({ cls := "MissingMiddles", name := "checkIndex", desc := "(Z)V" } : Jvm.MethodName)) ∈ lw_all := lw_g (lw_at lw_m6 9 rfl) rfl
theorem q1312 : (Jvm.Cond.code ({ cls := "MissingMiddles", name := "checkIndex", desc := "(Z)V" } : Jvm.MethodName) prog_1_method_3_code (1 : Nat) (Option.none : Option Jvm.ClassFile.FieldType)) ∈ lw_all := lw_g (lw_at lw_m6 10 rfl) rfl
theorem q1313 : (Jvm.Cond.classLink "MissingMiddles" (7 : Nat) "java/lang/IndexOutOfBoundsException") ∈ lw_all := lw_g (lw_at lw_m6 11 rfl) rfl
theorem q1314 : (Jvm.Cond.methodLink "MissingMiddles" (9 : Nat) ({ cls := "java/lang/IndexOutOfBoundsException", name := "<init>", desc := "()V" } : Jvm.MethodName)) ∈ lw_all := lw_g (lw_at lw_m6 12 rfl) rfl
theorem q1327 : (Jvm.Cond.instanceMethod ({ cls := "MissingMiddles", name := "meanTrust", desc := "()D" } : Jvm.MethodName)) ∈ lw_all := lw_g (lw_at lw_m6 25 rfl) rfl
theorem q1328 : (Jvm.Cond.selects "MissingMiddles" ({ cls := "MissingMiddles", name := "meanTrust", desc := "()D" } : Jvm.MethodName) ({ cls := "MissingMiddles", name := "meanTrust", desc := "()D" } : Jvm.MethodName)) ∈ lw_all := lw_g (lw_at lw_m6 26 rfl) rfl
theorem q1329 : (Jvm.Cond.code ({ cls := "MissingMiddles", name := "meanTrust", desc := "()D" } : Jvm.MethodName) prog_1_method_46_code (1 : Nat) (Option.some Jvm.ClassFile.FieldType.double)) ∈ lw_all := lw_g (lw_at lw_m6 27 rfl) rfl
theorem q1330 : (Jvm.Cond.methodLink "MissingMiddles" (334 : Nat) ({ cls := "MissingMiddles$Office", name := "trusts", desc := "()I" } : Jvm.MethodName)) ∈ lw_all := lw_g (lw_at lw_m6 28 rfl) rfl
theorem q1334 : (Jvm.Cond.constantDouble "MissingMiddles" (337 : Nat) (4617315517961601024 : UInt64)) ∈ lw_all := lw_g (lw_at lw_m6 32 rfl) rfl
theorem q1336 : (Jvm.Cond.instanceMethod ({ cls := "MissingMiddles", name := "snapshot", desc := "()I" } : Jvm.MethodName)) ∈ lw_all := lw_g (lw_at lw_m6 34 rfl) rfl
theorem q1337 : (Jvm.Cond.selects "MissingMiddles" ({ cls := "MissingMiddles", name := "snapshot", desc := "()I" } : Jvm.MethodName) ({ cls := "MissingMiddles", name := "snapshot", desc := "()I" } : Jvm.MethodName)) ∈ lw_all := lw_g (lw_at lw_m6 35 rfl) rfl
theorem q1338 : (Jvm.Cond.code ({ cls := "MissingMiddles", name := "snapshot", desc := "()I" } : Jvm.MethodName) prog_1_method_54_code (1 : Nat) (Option.some Jvm.ClassFile.FieldType.int)) ∈ lw_all := lw_g (lw_at lw_m6 36 rfl) rfl
theorem q1345 : (Jvm.Cond.instanceMethod ({ cls := "MissingMiddles", name := "book", desc := "(IIIII)I" } : Jvm.MethodName)) ∈ lw_all := lw_g (lw_at lw_m6 43 rfl) rfl
theorem q1346 : (Jvm.Cond.selects "MissingMiddles" ({ cls := "MissingMiddles", name := "book", desc := "(IIIII)I" } : Jvm.MethodName) ({ cls := "MissingMiddles", name := "book", desc := "(IIIII)I" } : Jvm.MethodName)) ∈ lw_all := lw_g (lw_at lw_m6 44 rfl) rfl
theorem q1347 : (Jvm.Cond.code ({ cls := "MissingMiddles", name := "book", desc := "(IIIII)I" } : Jvm.MethodName) prog_1_method_15_code (6 : Nat) (Option.some Jvm.ClassFile.FieldType.int)) ∈ lw_all := lw_g (lw_at lw_m6 45 rfl) rfl
theorem q1348 : (Jvm.Cond.classLink "MissingMiddles" (123 : Nat) "MissingMiddles$Order") ∈ lw_all := lw_g (lw_at lw_m6 46 rfl) rfl
theorem q1350 : (Jvm.Cond.stringRef "MissingMiddles" (151 : Nat) "b") ∈ lw_tbl := lw_at lw_m6 48 rfl
theorem q1351 : (Jvm.Cond.methodLink "MissingMiddles" (153 : Nat) ({ cls := "MissingMiddles$Order", name := "<init>", desc := "(Ljava/lang/String;Z[I)V" } : Jvm.MethodName)) ∈ lw_all := lw_g (lw_at lw_m6 49 rfl) rfl
theorem q1365 : (Jvm.Cond.methodLink "MissingMiddles" (156 : Nat) ({ cls := "MissingMiddles", name := "change", desc := "(LMissingMiddles$Order;)I" } : Jvm.MethodName)) ∈ lw_all := lw_g (lw_at lw_m6 63 rfl) rfl
theorem q1366 : (Jvm.Cond.privateMethod ({ cls := "MissingMiddles", name := "change", desc := "(LMissingMiddles$Order;)I" } : Jvm.MethodName)) ∈ lw_tbl := lw_at lw_m6 64 rfl
theorem q1367 : (Jvm.Cond.instanceMethod ({ cls := "MissingMiddles", name := "change", desc := "(LMissingMiddles$Order;)I" } : Jvm.MethodName)) ∈ lw_all := lw_g (lw_at lw_m6 65 rfl) rfl
theorem q1368 : (Jvm.Cond.codeWith ({ cls := "MissingMiddles", name := "change", desc := "(LMissingMiddles$Order;)I" } : Jvm.MethodName) prog_1_method_13_code (5 : Nat) (Option.some Jvm.ClassFile.FieldType.int) [((8 : Nat), (14 : Nat), (17 : Nat), (128 : Nat))]) ∈ lw_all := lw_g (lw_at lw_m6 66 rfl) rfl
theorem q1369 : (Jvm.Cond.classLink "MissingMiddles" (128 : Nat) "MissingMiddles$Refused") ∈ lw_all := lw_g (lw_at lw_m6 67 rfl) rfl
theorem q1370 : (Jvm.Cond.methodLink "MissingMiddles" (118 : Nat) ({ cls := "MissingMiddles$Office", name := "copy", desc := "()LMissingMiddles$Office;" } : Jvm.MethodName)) ∈ lw_all := lw_g (lw_at lw_m6 68 rfl) rfl
theorem q1444 : (Jvm.Cond.fieldLinkNest "MissingMiddles" (190 : Nat) "MissingMiddles$Scrap" "oaths" "[I" "MissingMiddles") ∈ lw_tbl := lw_at lw_m6 142 rfl
theorem q1480 : (Jvm.Cond.methodLink "MissingMiddles" (122 : Nat) ({ cls := "MissingMiddles$Order", name := "make", desc := "(LMissingMiddles$Office;)I" } : Jvm.MethodName)) ∈ lw_all := lw_g (lw_at lw_m6 178 rfl) rfl
theorem q1568 : (Jvm.Cond.static ({ cls := "MissingMiddles", name := "checkArgument", desc := "(Z)V" } : Jvm.MethodName)) ∈ lw_all := lw_g (lw_at lw_m7 26 rfl) rfl
theorem q1569 : (Jvm.Cond.code ({ cls := "MissingMiddles", name := "checkArgument", desc := "(Z)V" } : Jvm.MethodName) prog_1_method_2_code (1 : Nat) (Option.none : Option Jvm.ClassFile.FieldType)) ∈ lw_all := lw_g (lw_at lw_m7 27 rfl) rfl
theorem q1570 : (Jvm.Cond.classLink "MissingMiddles" (1 : Nat) "java/lang/IllegalArgumentException") ∈ lw_all := lw_g (lw_at lw_m7 28 rfl) rfl
theorem q1571 : (Jvm.Cond.methodLink "MissingMiddles" (3 : Nat) ({ cls := "java/lang/IllegalArgumentException", name := "<init>", desc := "()V" } : Jvm.MethodName)) ∈ lw_all := lw_g (lw_at lw_m7 29 rfl) rfl
theorem q1655 : (Jvm.Cond.static ({ cls := "MissingMiddles", name := "checkAttic", desc := "(I)V" } : Jvm.MethodName)) ∈ lw_all := lw_g (lw_at lw_m7 113 rfl) rfl
theorem q1656 : (Jvm.Cond.code ({ cls := "MissingMiddles", name := "checkAttic", desc := "(I)V" } : Jvm.MethodName) prog_1_method_7_code (1 : Nat) (Option.none : Option Jvm.ClassFile.FieldType)) ∈ lw_all := lw_g (lw_at lw_m7 114 rfl) rfl
theorem q1657 : (Jvm.Cond.constantLong "MissingMiddles" (21 : Nat) (3 : Int64)) ∈ lw_all := lw_g (lw_at lw_m7 115 rfl) rfl
theorem q1658 : (Jvm.Cond.methodLink "MissingMiddles" (23 : Nat) ({ cls := "MissingMiddles", name := "inRange", desc := "(JJJ)Z" } : Jvm.MethodName)) ∈ lw_all := lw_g (lw_at lw_m7 116 rfl) rfl
theorem q1659 : (Jvm.Cond.methodLink "MissingMiddles" (27 : Nat) ({ cls := "MissingMiddles", name := "checkIndex", desc := "(Z)V" } : Jvm.MethodName)) ∈ lw_all := lw_g (lw_at lw_m7 117 rfl) rfl
theorem q1694 : (Jvm.Cond.static ({ cls := "MissingMiddles", name := "checkReader", desc := "(I)V" } : Jvm.MethodName)) ∈ lw_all := lw_g (lw_at lw_m7 152 rfl) rfl
theorem q1695 : (Jvm.Cond.code ({ cls := "MissingMiddles", name := "checkReader", desc := "(I)V" } : Jvm.MethodName) prog_1_method_8_code (1 : Nat) (Option.none : Option Jvm.ClassFile.FieldType)) ∈ lw_all := lw_g (lw_at lw_m7 153 rfl) rfl
theorem q1696 : (Jvm.Cond.constantLong "MissingMiddles" (31 : Nat) (4 : Int64)) ∈ lw_all := lw_g (lw_at lw_m7 154 rfl) rfl
theorem q1776 : (Jvm.Cond.selects "MissingMiddles" ({ cls := "java/lang/Object", name := "equals", desc := "(Ljava/lang/Object;)Z" } : Jvm.MethodName) ({ cls := "java/lang/Object", name := "equals", desc := "(Ljava/lang/Object;)Z" } : Jvm.MethodName)) ∈ lw_all := lw_g (lw_at lw_m7 234 rfl) rfl
theorem q1944 : (Jvm.Cond.classLink "MissingMiddles" (134 : Nat) "java/lang/UnsupportedOperationException") ∈ lw_all := lw_g (lw_at lw_m8 162 rfl) rfl
theorem q1953 : (Jvm.Cond.methodLink "MissingMiddles" (136 : Nat) ({ cls := "java/lang/UnsupportedOperationException", name := "<init>", desc := "()V" } : Jvm.MethodName)) ∈ lw_all := lw_g (lw_at lw_m8 171 rfl) rfl
theorem q1959 : (Jvm.Cond.methodLink "MissingMiddles" (137 : Nat) ({ cls := "MissingMiddles", name := "become", desc := "(LMissingMiddles$Office;)V" } : Jvm.MethodName)) ∈ lw_all := lw_g (lw_at lw_m8 177 rfl) rfl
theorem q1960 : (Jvm.Cond.privateMethod ({ cls := "MissingMiddles", name := "become", desc := "(LMissingMiddles$Office;)V" } : Jvm.MethodName)) ∈ lw_tbl := lw_at lw_m8 178 rfl
theorem q1961 : (Jvm.Cond.instanceMethod ({ cls := "MissingMiddles", name := "become", desc := "(LMissingMiddles$Office;)V" } : Jvm.MethodName)) ∈ lw_all := lw_g (lw_at lw_m8 179 rfl) rfl
theorem q1962 : (Jvm.Cond.code ({ cls := "MissingMiddles", name := "become", desc := "(LMissingMiddles$Office;)V" } : Jvm.MethodName) prog_1_method_12_code (3 : Nat) (Option.none : Option Jvm.ClassFile.FieldType)) ∈ lw_all := lw_g (lw_at lw_m8 180 rfl) rfl
theorem q1963 : (Jvm.Cond.methodLink "MissingMiddles" (108 : Nat) ({ cls := "java/util/ArrayDeque", name := "size", desc := "()I" } : Jvm.MethodName)) ∈ lw_all := lw_g (lw_at lw_m8 181 rfl) rfl
theorem q1964 : (Jvm.Cond.methodLink "MissingMiddles" (111 : Nat) ({ cls := "java/util/ArrayDeque", name := "removeFirst", desc := "()Ljava/lang/Object;" } : Jvm.MethodName)) ∈ lw_all := lw_g (lw_at lw_m8 182 rfl) rfl
theorem q1965 : (Jvm.Cond.methodLink "MissingMiddles" (114 : Nat) ({ cls := "java/util/ArrayDeque", name := "addLast", desc := "(Ljava/lang/Object;)V" } : Jvm.MethodName)) ∈ lw_all := lw_g (lw_at lw_m8 183 rfl) rfl
theorem q1986 : (Jvm.Cond.instanceMethod ({ cls := "MissingMiddles", name := "hide", desc := "(IIIII)I" } : Jvm.MethodName)) ∈ lw_all := lw_g (lw_at lw_m8 204 rfl) rfl
theorem q1987 : (Jvm.Cond.selects "MissingMiddles" ({ cls := "MissingMiddles", name := "hide", desc := "(IIIII)I" } : Jvm.MethodName) ({ cls := "MissingMiddles", name := "hide", desc := "(IIIII)I" } : Jvm.MethodName)) ∈ lw_all := lw_g (lw_at lw_m8 205 rfl) rfl
theorem q1988 : (Jvm.Cond.code ({ cls := "MissingMiddles", name := "hide", desc := "(IIIII)I" } : Jvm.MethodName) prog_1_method_16_code (6 : Nat) (Option.some Jvm.ClassFile.FieldType.int)) ∈ lw_all := lw_g (lw_at lw_m8 206 rfl) rfl
theorem q1989 : (Jvm.Cond.stringRef "MissingMiddles" (160 : Nat) "h") ∈ lw_tbl := lw_at lw_m8 207 rfl
theorem q1994 : (Jvm.Cond.instanceMethod ({ cls := "MissingMiddles", name := "find", desc := "(I)I" } : Jvm.MethodName)) ∈ lw_all := lw_g (lw_at lw_m8 212 rfl) rfl
theorem q1995 : (Jvm.Cond.selects "MissingMiddles" ({ cls := "MissingMiddles", name := "find", desc := "(I)I" } : Jvm.MethodName) ({ cls := "MissingMiddles", name := "find", desc := "(I)I" } : Jvm.MethodName)) ∈ lw_all := lw_g (lw_at lw_m8 213 rfl) rfl
theorem q1996 : (Jvm.Cond.code ({ cls := "MissingMiddles", name := "find", desc := "(I)I" } : Jvm.MethodName) prog_1_method_17_code (2 : Nat) (Option.some Jvm.ClassFile.FieldType.int)) ∈ lw_all := lw_g (lw_at lw_m8 214 rfl) rfl
theorem q1997 : (Jvm.Cond.stringRef "MissingMiddles" (162 : Nat) "f") ∈ lw_tbl := lw_at lw_m8 215 rfl
theorem q2002 : (Jvm.Cond.instanceMethod ({ cls := "MissingMiddles", name := "drop", desc := "(I)I" } : Jvm.MethodName)) ∈ lw_all := lw_g (lw_at lw_m8 220 rfl) rfl
theorem q2003 : (Jvm.Cond.selects "MissingMiddles" ({ cls := "MissingMiddles", name := "drop", desc := "(I)I" } : Jvm.MethodName) ({ cls := "MissingMiddles", name := "drop", desc := "(I)I" } : Jvm.MethodName)) ∈ lw_all := lw_g (lw_at lw_m8 221 rfl) rfl
theorem q2004 : (Jvm.Cond.code ({ cls := "MissingMiddles", name := "drop", desc := "(I)I" } : Jvm.MethodName) prog_1_method_18_code (2 : Nat) (Option.some Jvm.ClassFile.FieldType.int)) ∈ lw_all := lw_g (lw_at lw_m8 222 rfl) rfl
theorem q2005 : (Jvm.Cond.stringRef "MissingMiddles" (164 : Nat) "d") ∈ lw_tbl := lw_at lw_m8 223 rfl
theorem q2010 : (Jvm.Cond.instanceMethod ({ cls := "MissingMiddles", name := "bookOf", desc := "(II)I" } : Jvm.MethodName)) ∈ lw_all := lw_g (lw_at lw_m8 228 rfl) rfl
theorem q2011 : (Jvm.Cond.selects "MissingMiddles" ({ cls := "MissingMiddles", name := "bookOf", desc := "(II)I" } : Jvm.MethodName) ({ cls := "MissingMiddles", name := "bookOf", desc := "(II)I" } : Jvm.MethodName)) ∈ lw_all := lw_g (lw_at lw_m8 229 rfl) rfl
theorem q2012 : (Jvm.Cond.code ({ cls := "MissingMiddles", name := "bookOf", desc := "(II)I" } : Jvm.MethodName) prog_1_method_19_code (3 : Nat) (Option.some Jvm.ClassFile.FieldType.int)) ∈ lw_all := lw_g (lw_at lw_m8 230 rfl) rfl
theorem q2013 : (Jvm.Cond.methodLink "MissingMiddles" (166 : Nat) ({ cls := "MissingMiddles$Office", name := "bookOf", desc := "(II)I" } : Jvm.MethodName)) ∈ lw_all := lw_g (lw_at lw_m8 231 rfl) rfl
theorem q2023 : (Jvm.Cond.instanceMethod ({ cls := "MissingMiddles", name := "scrapOf", desc := "(II)I" } : Jvm.MethodName)) ∈ lw_all := lw_g (lw_at lw_m9 1 rfl) rfl
theorem q2024 : (Jvm.Cond.selects "MissingMiddles" ({ cls := "MissingMiddles", name := "scrapOf", desc := "(II)I" } : Jvm.MethodName) ({ cls := "MissingMiddles", name := "scrapOf", desc := "(II)I" } : Jvm.MethodName)) ∈ lw_all := lw_g (lw_at lw_m9 2 rfl) rfl
theorem q2025 : (Jvm.Cond.code ({ cls := "MissingMiddles", name := "scrapOf", desc := "(II)I" } : Jvm.MethodName) prog_1_method_20_code (3 : Nat) (Option.some Jvm.ClassFile.FieldType.int)) ∈ lw_all := lw_g (lw_at lw_m9 3 rfl) rfl
theorem q2026 : (Jvm.Cond.methodLink "MissingMiddles" (169 : Nat) ({ cls := "MissingMiddles$Office", name := "scrapOf", desc := "(II)I" } : Jvm.MethodName)) ∈ lw_all := lw_g (lw_at lw_m9 4 rfl) rfl
theorem q2034 : (Jvm.Cond.instanceMethod ({ cls := "MissingMiddles", name := "atticOf", desc := "(II)I" } : Jvm.MethodName)) ∈ lw_all := lw_g (lw_at lw_m9 12 rfl) rfl
theorem q2035 : (Jvm.Cond.selects "MissingMiddles" ({ cls := "MissingMiddles", name := "atticOf", desc := "(II)I" } : Jvm.MethodName) ({ cls := "MissingMiddles", name := "atticOf", desc := "(II)I" } : Jvm.MethodName)) ∈ lw_all := lw_g (lw_at lw_m9 13 rfl) rfl
theorem q2036 : (Jvm.Cond.code ({ cls := "MissingMiddles", name := "atticOf", desc := "(II)I" } : Jvm.MethodName) prog_1_method_21_code (3 : Nat) (Option.some Jvm.ClassFile.FieldType.int)) ∈ lw_all := lw_g (lw_at lw_m9 14 rfl) rfl
theorem q2037 : (Jvm.Cond.methodLink "MissingMiddles" (172 : Nat) ({ cls := "MissingMiddles$Office", name := "atticOf", desc := "(II)I" } : Jvm.MethodName)) ∈ lw_all := lw_g (lw_at lw_m9 15 rfl) rfl
theorem q2049 : (Jvm.Cond.instanceMethod ({ cls := "MissingMiddles", name := "swear", desc := "(IIZ)I" } : Jvm.MethodName)) ∈ lw_all := lw_g (lw_at lw_m9 27 rfl) rfl
theorem q2050 : (Jvm.Cond.selects "MissingMiddles" ({ cls := "MissingMiddles", name := "swear", desc := "(IIZ)I" } : Jvm.MethodName) ({ cls := "MissingMiddles", name := "swear", desc := "(IIZ)I" } : Jvm.MethodName)) ∈ lw_all := lw_g (lw_at lw_m9 28 rfl) rfl
theorem q2051 : (Jvm.Cond.code ({ cls := "MissingMiddles", name := "swear", desc := "(IIZ)I" } : Jvm.MethodName) prog_1_method_22_code (4 : Nat) (Option.some Jvm.ClassFile.FieldType.int)) ∈ lw_all := lw_g (lw_at lw_m9 29 rfl) rfl
theorem q2052 : (Jvm.Cond.stringRef "MissingMiddles" (175 : Nat) "o") ∈ lw_tbl := lw_at lw_m9 30 rfl
theorem q2057 : (Jvm.Cond.instanceMethod ({ cls := "MissingMiddles", name := "prove", desc := "(IZ)I" } : Jvm.MethodName)) ∈ lw_all := lw_g (lw_at lw_m9 35 rfl) rfl
theorem q2058 : (Jvm.Cond.selects "MissingMiddles" ({ cls := "MissingMiddles", name := "prove", desc := "(IZ)I" } : Jvm.MethodName) ({ cls := "MissingMiddles", name := "prove", desc := "(IZ)I" } : Jvm.MethodName)) ∈ lw_all := lw_g (lw_at lw_m9 36 rfl) rfl
theorem q2059 : (Jvm.Cond.code ({ cls := "MissingMiddles", name := "prove", desc := "(IZ)I" } : Jvm.MethodName) prog_1_method_23_code (3 : Nat) (Option.some Jvm.ClassFile.FieldType.int)) ∈ lw_all := lw_g (lw_at lw_m9 37 rfl) rfl
theorem q2060 : (Jvm.Cond.stringRef "MissingMiddles" (177 : Nat) "p") ∈ lw_tbl := lw_at lw_m9 38 rfl
theorem q2065 : (Jvm.Cond.instanceMethod ({ cls := "MissingMiddles", name := "readerOf", desc := "(II)I" } : Jvm.MethodName)) ∈ lw_all := lw_g (lw_at lw_m9 43 rfl) rfl
theorem q2066 : (Jvm.Cond.selects "MissingMiddles" ({ cls := "MissingMiddles", name := "readerOf", desc := "(II)I" } : Jvm.MethodName) ({ cls := "MissingMiddles", name := "readerOf", desc := "(II)I" } : Jvm.MethodName)) ∈ lw_all := lw_g (lw_at lw_m9 44 rfl) rfl
theorem q2067 : (Jvm.Cond.code ({ cls := "MissingMiddles", name := "readerOf", desc := "(II)I" } : Jvm.MethodName) prog_1_method_24_code (3 : Nat) (Option.some Jvm.ClassFile.FieldType.int)) ∈ lw_all := lw_g (lw_at lw_m9 45 rfl) rfl
theorem q2068 : (Jvm.Cond.methodLink "MissingMiddles" (179 : Nat) ({ cls := "MissingMiddles$Office", name := "readerOf", desc := "(II)I" } : Jvm.MethodName)) ∈ lw_all := lw_g (lw_at lw_m9 46 rfl) rfl
theorem q2084 : (Jvm.Cond.instanceMethod ({ cls := "MissingMiddles", name := "oath", desc := "(II)I" } : Jvm.MethodName)) ∈ lw_all := lw_g (lw_at lw_m9 62 rfl) rfl
theorem q2085 : (Jvm.Cond.selects "MissingMiddles" ({ cls := "MissingMiddles", name := "oath", desc := "(II)I" } : Jvm.MethodName) ({ cls := "MissingMiddles", name := "oath", desc := "(II)I" } : Jvm.MethodName)) ∈ lw_all := lw_g (lw_at lw_m9 63 rfl) rfl
theorem q2086 : (Jvm.Cond.code ({ cls := "MissingMiddles", name := "oath", desc := "(II)I" } : Jvm.MethodName) prog_1_method_25_code (3 : Nat) (Option.some Jvm.ClassFile.FieldType.int)) ∈ lw_all := lw_g (lw_at lw_m9 64 rfl) rfl
theorem q2087 : (Jvm.Cond.methodLink "MissingMiddles" (182 : Nat) ({ cls := "MissingMiddles", name := "checkReader", desc := "(I)V" } : Jvm.MethodName)) ∈ lw_all := lw_g (lw_at lw_m9 65 rfl) rfl
theorem q2088 : (Jvm.Cond.methodLink "MissingMiddles" (186 : Nat) ({ cls := "MissingMiddles$Office", name := "scrap", desc := "(I)LMissingMiddles$Scrap;" } : Jvm.MethodName)) ∈ lw_all := lw_g (lw_at lw_m9 66 rfl) rfl
theorem q2093 : (Jvm.Cond.instanceMethod ({ cls := "MissingMiddles", name := "chains", desc := "(IZ)I" } : Jvm.MethodName)) ∈ lw_all := lw_g (lw_at lw_m9 71 rfl) rfl
theorem q2094 : (Jvm.Cond.selects "MissingMiddles" ({ cls := "MissingMiddles", name := "chains", desc := "(IZ)I" } : Jvm.MethodName) ({ cls := "MissingMiddles", name := "chains", desc := "(IZ)I" } : Jvm.MethodName)) ∈ lw_all := lw_g (lw_at lw_m9 72 rfl) rfl
theorem q2095 : (Jvm.Cond.code ({ cls := "MissingMiddles", name := "chains", desc := "(IZ)I" } : Jvm.MethodName) prog_1_method_27_code (4 : Nat) (Option.some Jvm.ClassFile.FieldType.int)) ∈ lw_all := lw_g (lw_at lw_m9 73 rfl) rfl
theorem q2096 : (Jvm.Cond.methodLink "MissingMiddles" (204 : Nat) ({ cls := "MissingMiddles", name := "chainsOf", desc := "(I)LMissingMiddles$Chains;" } : Jvm.MethodName)) ∈ lw_all := lw_g (lw_at lw_m9 74 rfl) rfl
theorem q2097 : (Jvm.Cond.privateMethod ({ cls := "MissingMiddles", name := "chainsOf", desc := "(I)LMissingMiddles$Chains;" } : Jvm.MethodName)) ∈ lw_tbl := lw_at lw_m9 75 rfl
theorem q2098 : (Jvm.Cond.instanceMethod ({ cls := "MissingMiddles", name := "chainsOf", desc := "(I)LMissingMiddles$Chains;" } : Jvm.MethodName)) ∈ lw_all := lw_g (lw_at lw_m9 76 rfl) rfl
theorem q2099 : (Jvm.Cond.code ({ cls := "MissingMiddles", name := "chainsOf", desc := "(I)LMissingMiddles$Chains;" } : Jvm.MethodName) prog_1_method_26_code (2 : Nat) (Option.some (Jvm.ClassFile.FieldType.object "MissingMiddles$Chains"))) ∈ lw_all := lw_g (lw_at lw_m9 77 rfl) rfl
theorem q2100 : (Jvm.Cond.methodLink "MissingMiddles" (196 : Nat) ({ cls := "MissingMiddles$Office", name := "book", desc := "(I)LMissingMiddles$Book;" } : Jvm.MethodName)) ∈ lw_all := lw_g (lw_at lw_m9 78 rfl) rfl
theorem q2101 : (Jvm.Cond.methodLink "MissingMiddles" (200 : Nat) ({ cls := "MissingMiddles$Office", name := "chains", desc := "(LMissingMiddles$Book;)LMissingMiddles$Chains;" } : Jvm.MethodName)) ∈ lw_all := lw_g (lw_at lw_m9 79 rfl) rfl
theorem q2102 : (Jvm.Cond.methodLink "MissingMiddles" (208 : Nat) ({ cls := "MissingMiddles$Chains", name := "countBack", desc := "()I" } : Jvm.MethodName)) ∈ lw_all := lw_g (lw_at lw_m9 80 rfl) rfl
theorem q2103 : (Jvm.Cond.methodLink "MissingMiddles" (213 : Nat) ({ cls := "MissingMiddles$Chains", name := "count", desc := "()I" } : Jvm.MethodName)) ∈ lw_all := lw_g (lw_at lw_m9 81 rfl) rfl
theorem q2109 : (Jvm.Cond.instanceMethod ({ cls := "MissingMiddles", name := "chainOf", desc := "(II)I" } : Jvm.MethodName)) ∈ lw_all := lw_g (lw_at lw_m9 87 rfl) rfl
theorem q2110 : (Jvm.Cond.selects "MissingMiddles" ({ cls := "MissingMiddles", name := "chainOf", desc := "(II)I" } : Jvm.MethodName) ({ cls := "MissingMiddles", name := "chainOf", desc := "(II)I" } : Jvm.MethodName)) ∈ lw_all := lw_g (lw_at lw_m9 88 rfl) rfl
theorem q2111 : (Jvm.Cond.code ({ cls := "MissingMiddles", name := "chainOf", desc := "(II)I" } : Jvm.MethodName) prog_1_method_29_code (4 : Nat) (Option.some Jvm.ClassFile.FieldType.int)) ∈ lw_all := lw_g (lw_at lw_m9 89 rfl) rfl
theorem q2112 : (Jvm.Cond.methodLink "MissingMiddles" (223 : Nat) ({ cls := "MissingMiddles", name := "best", desc := "(I)Ljava/util/LinkedList;" } : Jvm.MethodName)) ∈ lw_all := lw_g (lw_at lw_m9 90 rfl) rfl
theorem q2113 : (Jvm.Cond.privateMethod ({ cls := "MissingMiddles", name := "best", desc := "(I)Ljava/util/LinkedList;" } : Jvm.MethodName)) ∈ lw_tbl := lw_at lw_m9 91 rfl
theorem q2114 : (Jvm.Cond.instanceMethod ({ cls := "MissingMiddles", name := "best", desc := "(I)Ljava/util/LinkedList;" } : Jvm.MethodName)) ∈ lw_all := lw_g (lw_at lw_m9 92 rfl) rfl
theorem q2115 : (Jvm.Cond.code ({ cls := "MissingMiddles", name := "best", desc := "(I)Ljava/util/LinkedList;" } : Jvm.MethodName) prog_1_method_28_code (3 : Nat) (Option.some (Jvm.ClassFile.FieldType.object "java/util/LinkedList"))) ∈ lw_all := lw_g (lw_at lw_m9 93 rfl) rfl
theorem q2116 : (Jvm.Cond.methodLink "MissingMiddles" (216 : Nat) ({ cls := "MissingMiddles$Chains", name := "best", desc := "()Ljava/util/LinkedList;" } : Jvm.MethodName)) ∈ lw_all := lw_g (lw_at lw_m9 94 rfl) rfl
theorem q2117 : (Jvm.Cond.methodLink "MissingMiddles" (220 : Nat) ({ cls := "MissingMiddles", name := "checkElement", desc := "(Z)V" } : Jvm.MethodName)) ∈ lw_all := lw_g (lw_at lw_m9 95 rfl) rfl
theorem q2118 : (Jvm.Cond.static ({ cls := "MissingMiddles", name := "checkElement", desc := "(Z)V" } : Jvm.MethodName)) ∈ lw_all := lw_g (lw_at lw_m9 96 rfl) rfl
theorem q2119 : (Jvm.Cond.code ({ cls := "MissingMiddles", name := "checkElement", desc := "(Z)V" } : Jvm.MethodName) prog_1_method_5_code (1 : Nat) (Option.none : Option Jvm.ClassFile.FieldType)) ∈ lw_all := lw_g (lw_at lw_m9 97 rfl) rfl
theorem q2120 : (Jvm.Cond.classLink "MissingMiddles" (13 : Nat) "java/util/NoSuchElementException") ∈ lw_all := lw_g (lw_at lw_m9 98 rfl) rfl
theorem q2121 : (Jvm.Cond.methodLink "MissingMiddles" (15 : Nat) ({ cls := "java/util/NoSuchElementException", name := "<init>", desc := "()V" } : Jvm.MethodName)) ∈ lw_all := lw_g (lw_at lw_m9 99 rfl) rfl
theorem q2122 : (Jvm.Cond.methodLink "MissingMiddles" (226 : Nat) ({ cls := "java/util/LinkedList", name := "size", desc := "()I" } : Jvm.MethodName)) ∈ lw_all := lw_g (lw_at lw_m9 100 rfl) rfl
theorem q2123 : (Jvm.Cond.methodLink "MissingMiddles" (227 : Nat) ({ cls := "java/util/LinkedList", name := "get", desc := "(I)Ljava/lang/Object;" } : Jvm.MethodName)) ∈ lw_all := lw_g (lw_at lw_m9 101 rfl) rfl
theorem q2124 : (Jvm.Cond.classLink "MissingMiddles" (60 : Nat) "java/lang/Integer") ∈ lw_all := lw_g (lw_at lw_m9 102 rfl) rfl
theorem q2125 : (Jvm.Cond.methodLink "MissingMiddles" (62 : Nat) ({ cls := "java/lang/Integer", name := "intValue", desc := "()I" } : Jvm.MethodName)) ∈ lw_all := lw_g (lw_at lw_m9 103 rfl) rfl
theorem q2130 : (Jvm.Cond.instanceMethod ({ cls := "MissingMiddles", name := "reach", desc := "(IZ)I" } : Jvm.MethodName)) ∈ lw_all := lw_g (lw_at lw_m9 108 rfl) rfl
theorem q2131 : (Jvm.Cond.selects "MissingMiddles" ({ cls := "MissingMiddles", name := "reach", desc := "(IZ)I" } : Jvm.MethodName) ({ cls := "MissingMiddles", name := "reach", desc := "(IZ)I" } : Jvm.MethodName)) ∈ lw_all := lw_g (lw_at lw_m9 109 rfl) rfl
theorem q2132 : (Jvm.Cond.code ({ cls := "MissingMiddles", name := "reach", desc := "(IZ)I" } : Jvm.MethodName) prog_1_method_30_code (4 : Nat) (Option.some Jvm.ClassFile.FieldType.int)) ∈ lw_all := lw_g (lw_at lw_m9 110 rfl) rfl
theorem q2133 : (Jvm.Cond.methodLink "MissingMiddles" (231 : Nat) ({ cls := "MissingMiddles$Chains", name := "reachLeft", desc := "()I" } : Jvm.MethodName)) ∈ lw_all := lw_g (lw_at lw_m9 111 rfl) rfl
theorem q2142 : (Jvm.Cond.methodLink "MissingMiddles" (234 : Nat) ({ cls := "MissingMiddles$Chains", name := "reachRight", desc := "()I" } : Jvm.MethodName)) ∈ lw_all := lw_g (lw_at lw_m9 120 rfl) rfl
theorem q2147 : (Jvm.Cond.instanceMethod ({ cls := "MissingMiddles", name := "needed", desc := "(I)I" } : Jvm.MethodName)) ∈ lw_all := lw_g (lw_at lw_m9 125 rfl) rfl
theorem q2148 : (Jvm.Cond.selects "MissingMiddles" ({ cls := "MissingMiddles", name := "needed", desc := "(I)I" } : Jvm.MethodName) ({ cls := "MissingMiddles", name := "needed", desc := "(I)I" } : Jvm.MethodName)) ∈ lw_all := lw_g (lw_at lw_m9 126 rfl) rfl
theorem q2149 : (Jvm.Cond.code ({ cls := "MissingMiddles", name := "needed", desc := "(I)I" } : Jvm.MethodName) prog_1_method_31_code (2 : Nat) (Option.some Jvm.ClassFile.FieldType.int)) ∈ lw_all := lw_g (lw_at lw_m9 127 rfl) rfl
theorem q2150 : (Jvm.Cond.methodLink "MissingMiddles" (237 : Nat) ({ cls := "MissingMiddles$Chains", name := "needed", desc := "()I" } : Jvm.MethodName)) ∈ lw_all := lw_g (lw_at lw_m9 128 rfl) rfl
theorem q2155 : (Jvm.Cond.instanceMethod ({ cls := "MissingMiddles", name := "without", desc := "(II)I" } : Jvm.MethodName)) ∈ lw_all := lw_g (lw_at lw_m9 133 rfl) rfl
theorem q2156 : (Jvm.Cond.selects "MissingMiddles" ({ cls := "MissingMiddles", name := "without", desc := "(II)I" } : Jvm.MethodName) ({ cls := "MissingMiddles", name := "without", desc := "(II)I" } : Jvm.MethodName)) ∈ lw_all := lw_g (lw_at lw_m9 134 rfl) rfl
theorem q2157 : (Jvm.Cond.code ({ cls := "MissingMiddles", name := "without", desc := "(II)I" } : Jvm.MethodName) prog_1_method_32_code (3 : Nat) (Option.some Jvm.ClassFile.FieldType.int)) ∈ lw_all := lw_g (lw_at lw_m9 135 rfl) rfl
theorem q2158 : (Jvm.Cond.methodLink "MissingMiddles" (240 : Nat) ({ cls := "MissingMiddles$Office", name := "without", desc := "(II)I" } : Jvm.MethodName)) ∈ lw_all := lw_g (lw_at lw_m9 136 rfl) rfl
theorem q2163 : (Jvm.Cond.instanceMethod ({ cls := "MissingMiddles", name := "would", desc := "(II)I" } : Jvm.MethodName)) ∈ lw_all := lw_g (lw_at lw_m9 141 rfl) rfl
theorem q2164 : (Jvm.Cond.selects "MissingMiddles" ({ cls := "MissingMiddles", name := "would", desc := "(II)I" } : Jvm.MethodName) ({ cls := "MissingMiddles", name := "would", desc := "(II)I" } : Jvm.MethodName)) ∈ lw_all := lw_g (lw_at lw_m9 142 rfl) rfl
theorem q2165 : (Jvm.Cond.code ({ cls := "MissingMiddles", name := "would", desc := "(II)I" } : Jvm.MethodName) prog_1_method_33_code (3 : Nat) (Option.some Jvm.ClassFile.FieldType.int)) ∈ lw_all := lw_g (lw_at lw_m9 143 rfl) rfl
theorem q2166 : (Jvm.Cond.methodLink "MissingMiddles" (243 : Nat) ({ cls := "MissingMiddles$Office", name := "would", desc := "(II)I" } : Jvm.MethodName)) ∈ lw_all := lw_g (lw_at lw_m9 144 rfl) rfl
theorem q2194 : (Jvm.Cond.instanceMethod ({ cls := "MissingMiddles", name := "ranked", desc := "(I)I" } : Jvm.MethodName)) ∈ lw_all := lw_g (lw_at lw_m9 172 rfl) rfl
theorem q2195 : (Jvm.Cond.selects "MissingMiddles" ({ cls := "MissingMiddles", name := "ranked", desc := "(I)I" } : Jvm.MethodName) ({ cls := "MissingMiddles", name := "ranked", desc := "(I)I" } : Jvm.MethodName)) ∈ lw_all := lw_g (lw_at lw_m9 173 rfl) rfl
theorem q2196 : (Jvm.Cond.code ({ cls := "MissingMiddles", name := "ranked", desc := "(I)I" } : Jvm.MethodName) prog_1_method_34_code (3 : Nat) (Option.some Jvm.ClassFile.FieldType.int)) ∈ lw_all := lw_g (lw_at lw_m9 174 rfl) rfl
theorem q2197 : (Jvm.Cond.methodLink "MissingMiddles" (246 : Nat) ({ cls := "MissingMiddles$Office", name := "ranked", desc := "(I)I" } : Jvm.MethodName)) ∈ lw_all := lw_g (lw_at lw_m9 175 rfl) rfl
theorem q2209 : (Jvm.Cond.instanceMethod ({ cls := "MissingMiddles", name := "mend", desc := "(I)I" } : Jvm.MethodName)) ∈ lw_all := lw_g (lw_at lw_m9 187 rfl) rfl
theorem q2210 : (Jvm.Cond.selects "MissingMiddles" ({ cls := "MissingMiddles", name := "mend", desc := "(I)I" } : Jvm.MethodName) ({ cls := "MissingMiddles", name := "mend", desc := "(I)I" } : Jvm.MethodName)) ∈ lw_all := lw_g (lw_at lw_m9 188 rfl) rfl
theorem q2211 : (Jvm.Cond.code ({ cls := "MissingMiddles", name := "mend", desc := "(I)I" } : Jvm.MethodName) prog_1_method_36_code (2 : Nat) (Option.some Jvm.ClassFile.FieldType.int)) ∈ lw_all := lw_g (lw_at lw_m9 189 rfl) rfl
theorem q2212 : (Jvm.Cond.stringRef "MissingMiddles" (253 : Nat) "m") ∈ lw_tbl := lw_at lw_m9 190 rfl
theorem q2217 : (Jvm.Cond.instanceMethod ({ cls := "MissingMiddles", name := "earn", desc := "(I)I" } : Jvm.MethodName)) ∈ lw_all := lw_g (lw_at lw_m9 195 rfl) rfl
theorem q2218 : (Jvm.Cond.selects "MissingMiddles" ({ cls := "MissingMiddles", name := "earn", desc := "(I)I" } : Jvm.MethodName) ({ cls := "MissingMiddles", name := "earn", desc := "(I)I" } : Jvm.MethodName)) ∈ lw_all := lw_g (lw_at lw_m9 196 rfl) rfl
theorem q2219 : (Jvm.Cond.code ({ cls := "MissingMiddles", name := "earn", desc := "(I)I" } : Jvm.MethodName) prog_1_method_37_code (2 : Nat) (Option.some Jvm.ClassFile.FieldType.int)) ∈ lw_all := lw_g (lw_at lw_m9 197 rfl) rfl
theorem q2220 : (Jvm.Cond.stringRef "MissingMiddles" (255 : Nat) "c") ∈ lw_tbl := lw_at lw_m9 198 rfl
theorem q2225 : (Jvm.Cond.instanceMethod ({ cls := "MissingMiddles", name := "price", desc := "(I)I" } : Jvm.MethodName)) ∈ lw_all := lw_g (lw_at lw_m9 203 rfl) rfl
theorem q2226 : (Jvm.Cond.selects "MissingMiddles" ({ cls := "MissingMiddles", name := "price", desc := "(I)I" } : Jvm.MethodName) ({ cls := "MissingMiddles", name := "price", desc := "(I)I" } : Jvm.MethodName)) ∈ lw_all := lw_g (lw_at lw_m9 204 rfl) rfl
theorem q2227 : (Jvm.Cond.code ({ cls := "MissingMiddles", name := "price", desc := "(I)I" } : Jvm.MethodName) prog_1_method_38_code (2 : Nat) (Option.some Jvm.ClassFile.FieldType.int)) ∈ lw_all := lw_g (lw_at lw_m9 205 rfl) rfl
theorem q2228 : (Jvm.Cond.stringRef "MissingMiddles" (257 : Nat) "e") ∈ lw_tbl := lw_at lw_m9 206 rfl
theorem q2233 : (Jvm.Cond.instanceMethod ({ cls := "MissingMiddles", name := "line", desc := "(I)I" } : Jvm.MethodName)) ∈ lw_all := lw_g (lw_at lw_m9 211 rfl) rfl
theorem q2234 : (Jvm.Cond.selects "MissingMiddles" ({ cls := "MissingMiddles", name := "line", desc := "(I)I" } : Jvm.MethodName) ({ cls := "MissingMiddles", name := "line", desc := "(I)I" } : Jvm.MethodName)) ∈ lw_all := lw_g (lw_at lw_m9 212 rfl) rfl
theorem q2235 : (Jvm.Cond.code ({ cls := "MissingMiddles", name := "line", desc := "(I)I" } : Jvm.MethodName) prog_1_method_40_code (2 : Nat) (Option.some Jvm.ClassFile.FieldType.int)) ∈ lw_all := lw_g (lw_at lw_m9 213 rfl) rfl
theorem q2236 : (Jvm.Cond.methodLink "MissingMiddles" (264 : Nat) ({ cls := "MissingMiddles$Book", name := "told", desc := "()Ljava/lang/String;" } : Jvm.MethodName)) ∈ lw_all := lw_g (lw_at lw_m9 214 rfl) rfl
theorem q2310 : (Jvm.Cond.methodLink "MissingMiddles" (269 : Nat) ({ cls := "MissingMiddles", name := "tell", desc := "(Ljava/lang/String;)I" } : Jvm.MethodName)) ∈ lw_all := lw_g (lw_at lw_m10 48 rfl) rfl
theorem q2311 : (Jvm.Cond.privateMethod ({ cls := "MissingMiddles", name := "tell", desc := "(Ljava/lang/String;)I" } : Jvm.MethodName)) ∈ lw_tbl := lw_at lw_m10 49 rfl
theorem q2312 : (Jvm.Cond.instanceMethod ({ cls := "MissingMiddles", name := "tell", desc := "(Ljava/lang/String;)I" } : Jvm.MethodName)) ∈ lw_all := lw_g (lw_at lw_m10 50 rfl) rfl
theorem q2313 : (Jvm.Cond.code ({ cls := "MissingMiddles", name := "tell", desc := "(Ljava/lang/String;)I" } : Jvm.MethodName) prog_1_method_39_code (2 : Nat) (Option.some Jvm.ClassFile.FieldType.int)) ∈ lw_all := lw_g (lw_at lw_m10 51 rfl) rfl
theorem q2314 : (Jvm.Cond.methodLink "MissingMiddles" (259 : Nat) ({ cls := "java/lang/String", name := "length", desc := "()I" } : Jvm.MethodName)) ∈ lw_all := lw_g (lw_at lw_m10 52 rfl) rfl
theorem q2319 : (Jvm.Cond.instanceMethod ({ cls := "MissingMiddles", name := "scrapLine", desc := "(I)I" } : Jvm.MethodName)) ∈ lw_all := lw_g (lw_at lw_m10 57 rfl) rfl
theorem q2320 : (Jvm.Cond.selects "MissingMiddles" ({ cls := "MissingMiddles", name := "scrapLine", desc := "(I)I" } : Jvm.MethodName) ({ cls := "MissingMiddles", name := "scrapLine", desc := "(I)I" } : Jvm.MethodName)) ∈ lw_all := lw_g (lw_at lw_m10 58 rfl) rfl
theorem q2321 : (Jvm.Cond.code ({ cls := "MissingMiddles", name := "scrapLine", desc := "(I)I" } : Jvm.MethodName) prog_1_method_41_code (2 : Nat) (Option.some Jvm.ClassFile.FieldType.int)) ∈ lw_all := lw_g (lw_at lw_m10 59 rfl) rfl
theorem q2322 : (Jvm.Cond.methodLink "MissingMiddles" (273 : Nat) ({ cls := "MissingMiddles$Office", name := "told", desc := "(I)Ljava/lang/String;" } : Jvm.MethodName)) ∈ lw_all := lw_g (lw_at lw_m10 60 rfl) rfl
theorem q2341 : (Jvm.Cond.instanceMethod ({ cls := "MissingMiddles", name := "chainLine", desc := "(I)I" } : Jvm.MethodName)) ∈ lw_all := lw_g (lw_at lw_m10 79 rfl) rfl
theorem q2342 : (Jvm.Cond.selects "MissingMiddles" ({ cls := "MissingMiddles", name := "chainLine", desc := "(I)I" } : Jvm.MethodName) ({ cls := "MissingMiddles", name := "chainLine", desc := "(I)I" } : Jvm.MethodName)) ∈ lw_all := lw_g (lw_at lw_m10 80 rfl) rfl
theorem q2343 : (Jvm.Cond.code ({ cls := "MissingMiddles", name := "chainLine", desc := "(I)I" } : Jvm.MethodName) prog_1_method_42_code (2 : Nat) (Option.some Jvm.ClassFile.FieldType.int)) ∈ lw_all := lw_g (lw_at lw_m10 81 rfl) rfl
theorem q2344 : (Jvm.Cond.methodLink "MissingMiddles" (276 : Nat) ({ cls := "MissingMiddles", name := "toldOf", desc := "(Ljava/util/LinkedList;)Ljava/lang/String;" } : Jvm.MethodName)) ∈ lw_all := lw_g (lw_at lw_m10 82 rfl) rfl
theorem q2345 : (Jvm.Cond.static ({ cls := "MissingMiddles", name := "toldOf", desc := "(Ljava/util/LinkedList;)Ljava/lang/String;" } : Jvm.MethodName)) ∈ lw_all := lw_g (lw_at lw_m10 83 rfl) rfl
theorem q2346 : (Jvm.Cond.code ({ cls := "MissingMiddles", name := "toldOf", desc := "(Ljava/util/LinkedList;)Ljava/lang/String;" } : Jvm.MethodName) prog_1_method_10_code (6 : Nat) (Option.some (Jvm.ClassFile.FieldType.object "java/lang/String"))) ∈ lw_all := lw_g (lw_at lw_m10 84 rfl) rfl
theorem q2347 : (Jvm.Cond.methodLink "MissingMiddles" (44 : Nat) ({ cls := "java/util/LinkedList", name := "iterator", desc := "()Ljava/util/Iterator;" } : Jvm.MethodName)) ∈ lw_all := lw_g (lw_at lw_m10 85 rfl) rfl
theorem q2348 : (Jvm.Cond.interfaceEntry "MissingMiddles" (50 : Nat)) ∈ lw_tbl := lw_at lw_m10 86 rfl
theorem q2349 : (Jvm.Cond.methodLink "MissingMiddles" (50 : Nat) ({ cls := "java/util/Iterator", name := "hasNext", desc := "()Z" } : Jvm.MethodName)) ∈ lw_all := lw_g (lw_at lw_m10 87 rfl) rfl
theorem q2350 : (Jvm.Cond.interfaceEntry "MissingMiddles" (56 : Nat)) ∈ lw_tbl := lw_at lw_m10 88 rfl
theorem q2351 : (Jvm.Cond.methodLink "MissingMiddles" (56 : Nat) ({ cls := "java/util/Iterator", name := "next", desc := "()Ljava/lang/Object;" } : Jvm.MethodName)) ∈ lw_all := lw_g (lw_at lw_m10 89 rfl) rfl
theorem q2352 : (Jvm.Cond.methodLink "MissingMiddles" (66 : Nat) ({ cls := "java/lang/StringBuilder", name := "append", desc := "(Ljava/lang/String;)Ljava/lang/StringBuilder;" } : Jvm.MethodName)) ∈ lw_all := lw_g (lw_at lw_m10 90 rfl) rfl
theorem q2353 : (Jvm.Cond.methodLink "MissingMiddles" (70 : Nat) ({ cls := "java/lang/StringBuilder", name := "append", desc := "(I)Ljava/lang/StringBuilder;" } : Jvm.MethodName)) ∈ lw_all := lw_g (lw_at lw_m10 91 rfl) rfl
theorem q2354 : (Jvm.Cond.stringRef "MissingMiddles" (73 : Nat) ",") ∈ lw_tbl := lw_at lw_m10 92 rfl
theorem q2355 : (Jvm.Cond.methodLink "MissingMiddles" (75 : Nat) ({ cls := "java/lang/StringBuilder", name := "toString", desc := "()Ljava/lang/String;" } : Jvm.MethodName)) ∈ lw_all := lw_g (lw_at lw_m10 93 rfl) rfl
theorem q2360 : (Jvm.Cond.instanceMethod ({ cls := "MissingMiddles", name := "character", desc := "(I)C" } : Jvm.MethodName)) ∈ lw_all := lw_g (lw_at lw_m10 98 rfl) rfl
theorem q2361 : (Jvm.Cond.selects "MissingMiddles" ({ cls := "MissingMiddles", name := "character", desc := "(I)C" } : Jvm.MethodName) ({ cls := "MissingMiddles", name := "character", desc := "(I)C" } : Jvm.MethodName)) ∈ lw_all := lw_g (lw_at lw_m10 99 rfl) rfl
theorem q2362 : (Jvm.Cond.code ({ cls := "MissingMiddles", name := "character", desc := "(I)C" } : Jvm.MethodName) prog_1_method_43_code (2 : Nat) (Option.some Jvm.ClassFile.FieldType.char)) ∈ lw_all := lw_g (lw_at lw_m10 100 rfl) rfl
theorem q2363 : (Jvm.Cond.methodLink "MissingMiddles" (280 : Nat) ({ cls := "java/lang/String", name := "charAt", desc := "(I)C" } : Jvm.MethodName)) ∈ lw_all := lw_g (lw_at lw_m10 101 rfl) rfl
theorem q2379 : (Jvm.Cond.instanceMethod ({ cls := "MissingMiddles", name := "refusal", desc := "(ZZ)I" } : Jvm.MethodName)) ∈ lw_all := lw_g (lw_at lw_m10 117 rfl) rfl
theorem q2380 : (Jvm.Cond.selects "MissingMiddles" ({ cls := "MissingMiddles", name := "refusal", desc := "(ZZ)I" } : Jvm.MethodName) ({ cls := "MissingMiddles", name := "refusal", desc := "(ZZ)I" } : Jvm.MethodName)) ∈ lw_all := lw_g (lw_at lw_m10 118 rfl) rfl
theorem q2381 : (Jvm.Cond.code ({ cls := "MissingMiddles", name := "refusal", desc := "(ZZ)I" } : Jvm.MethodName) prog_1_method_44_code (4 : Nat) (Option.some Jvm.ClassFile.FieldType.int)) ∈ lw_all := lw_g (lw_at lw_m10 119 rfl) rfl
theorem q2382 : (Jvm.Cond.methodLink "MissingMiddles" (284 : Nat) ({ cls := "MissingMiddles", name := "checkState", desc := "(Z)V" } : Jvm.MethodName)) ∈ lw_all := lw_g (lw_at lw_m10 120 rfl) rfl
theorem q2383 : (Jvm.Cond.static ({ cls := "MissingMiddles", name := "checkState", desc := "(Z)V" } : Jvm.MethodName)) ∈ lw_all := lw_g (lw_at lw_m10 121 rfl) rfl
theorem q2384 : (Jvm.Cond.code ({ cls := "MissingMiddles", name := "checkState", desc := "(Z)V" } : Jvm.MethodName) prog_1_method_4_code (1 : Nat) (Option.none : Option Jvm.ClassFile.FieldType)) ∈ lw_all := lw_g (lw_at lw_m10 122 rfl) rfl
theorem q2385 : (Jvm.Cond.classLink "MissingMiddles" (10 : Nat) "java/lang/IllegalStateException") ∈ lw_all := lw_g (lw_at lw_m10 123 rfl) rfl
theorem q2386 : (Jvm.Cond.methodLink "MissingMiddles" (12 : Nat) ({ cls := "java/lang/IllegalStateException", name := "<init>", desc := "()V" } : Jvm.MethodName)) ∈ lw_all := lw_g (lw_at lw_m10 124 rfl) rfl
theorem q2390 : (Jvm.Cond.methodLink "MissingMiddles" (287 : Nat) ({ cls := "MissingMiddles$Refused", name := "getCause", desc := "()Ljava/lang/Throwable;" } : Jvm.MethodName)) ∈ lw_all := lw_g (lw_at lw_m10 128 rfl) rfl
theorem q2396 : (Jvm.Cond.methodLink "MissingMiddles" (291 : Nat) ({ cls := "MissingMiddles$Refused", name := "number", desc := "(Z)I" } : Jvm.MethodName)) ∈ lw_all := lw_g (lw_at lw_m10 134 rfl) rfl
theorem q2404 : (Jvm.Cond.instanceMethod ({ cls := "MissingMiddles", name := "account", desc := "(I)I" } : Jvm.MethodName)) ∈ lw_all := lw_g (lw_at lw_m10 142 rfl) rfl
theorem q2405 : (Jvm.Cond.selects "MissingMiddles" ({ cls := "MissingMiddles", name := "account", desc := "(I)I" } : Jvm.MethodName) ({ cls := "MissingMiddles", name := "account", desc := "(I)I" } : Jvm.MethodName)) ∈ lw_all := lw_g (lw_at lw_m10 143 rfl) rfl
theorem q2406 : (Jvm.Cond.code ({ cls := "MissingMiddles", name := "account", desc := "(I)I" } : Jvm.MethodName) prog_1_method_45_code (2 : Nat) (Option.some Jvm.ClassFile.FieldType.int)) ∈ lw_all := lw_g (lw_at lw_m10 144 rfl) rfl
theorem q2407 : (Jvm.Cond.methodLink "MissingMiddles" (295 : Nat) ({ cls := "MissingMiddles$Office", name := "whole", desc := "()I" } : Jvm.MethodName)) ∈ lw_all := lw_g (lw_at lw_m10 145 rfl) rfl
theorem q2411 : (Jvm.Cond.methodLink "MissingMiddles" (301 : Nat) ({ cls := "MissingMiddles$Office", name := "hidden", desc := "()I" } : Jvm.MethodName)) ∈ lw_all := lw_g (lw_at lw_m10 149 rfl) rfl
theorem q2415 : (Jvm.Cond.privateMethod ({ cls := "MissingMiddles", name := "lambda$account$0", desc := "(LMissingMiddles$Scrap;)Z" } : Jvm.MethodName)) ∈ lw_tbl := lw_at lw_m10 153 rfl
theorem q2416 : (Jvm.Cond.instanceMethod ({ cls := "MissingMiddles", name := "lambda$account$0", desc := "(LMissingMiddles$Scrap;)Z" } : Jvm.MethodName)) ∈ lw_all := lw_g (lw_at lw_m10 154 rfl) rfl
theorem q2417 : (Jvm.Cond.code ({ cls := "MissingMiddles", name := "lambda$account$0", desc := "(LMissingMiddles$Scrap;)Z" } : Jvm.MethodName) prog_1_method_56_code (2 : Nat) (Option.some Jvm.ClassFile.FieldType.boolean)) ∈ lw_all := lw_g (lw_at lw_m10 155 rfl) rfl
theorem q2418 : (Jvm.Cond.methodLink "MissingMiddles" (383 : Nat) ({ cls := "MissingMiddles$Office", name := "doesCount", desc := "(LMissingMiddles$Scrap;)Z" } : Jvm.MethodName)) ∈ lw_all := lw_g (lw_at lw_m10 156 rfl) rfl
theorem q2419 : (Jvm.Cond.methodLink "MissingMiddles" (314 : Nat) ({ cls := "MissingMiddles$Office", name := "countOf", desc := "(LMissingMiddles$Choice;)I" } : Jvm.MethodName)) ∈ lw_all := lw_g (lw_at lw_m10 157 rfl) rfl
theorem q2420 : (Jvm.Cond.methodLink "MissingMiddles" (318 : Nat) ({ cls := "MissingMiddles$Office", name := "found", desc := "()I" } : Jvm.MethodName)) ∈ lw_all := lw_g (lw_at lw_m10 158 rfl) rfl
theorem q2424 : (Jvm.Cond.methodLink "MissingMiddles" (333 : Nat) ({ cls := "java/lang/StringBuilder", name := "length", desc := "()I" } : Jvm.MethodName)) ∈ lw_all := lw_g (lw_at lw_m10 162 rfl) rfl
theorem q2443 : (Jvm.Cond.instanceMethod ({ cls := "MissingMiddles", name := "wholeShare", desc := "()F" } : Jvm.MethodName)) ∈ lw_all := lw_g (lw_at lw_m10 181 rfl) rfl
theorem q2444 : (Jvm.Cond.selects "MissingMiddles" ({ cls := "MissingMiddles", name := "wholeShare", desc := "()F" } : Jvm.MethodName) ({ cls := "MissingMiddles", name := "wholeShare", desc := "()F" } : Jvm.MethodName)) ∈ lw_all := lw_g (lw_at lw_m10 182 rfl) rfl
theorem q2445 : (Jvm.Cond.code ({ cls := "MissingMiddles", name := "wholeShare", desc := "()F" } : Jvm.MethodName) prog_1_method_47_code (2 : Nat) (Option.some Jvm.ClassFile.FieldType.float)) ∈ lw_all := lw_g (lw_at lw_m10 183 rfl) rfl
theorem q2446 : (Jvm.Cond.methodLink "MissingMiddles" (339 : Nat) ({ cls := "MissingMiddles", name := "checkNumbers", desc := "(Z)V" } : Jvm.MethodName)) ∈ lw_all := lw_g (lw_at lw_m10 184 rfl) rfl
theorem q2447 : (Jvm.Cond.static ({ cls := "MissingMiddles", name := "checkNumbers", desc := "(Z)V" } : Jvm.MethodName)) ∈ lw_all := lw_g (lw_at lw_m10 185 rfl) rfl
theorem q2448 : (Jvm.Cond.code ({ cls := "MissingMiddles", name := "checkNumbers", desc := "(Z)V" } : Jvm.MethodName) prog_1_method_6_code (1 : Nat) (Option.none : Option Jvm.ClassFile.FieldType)) ∈ lw_all := lw_g (lw_at lw_m10 186 rfl) rfl
theorem q2449 : (Jvm.Cond.classLink "MissingMiddles" (16 : Nat) "java/lang/ArithmeticException") ∈ lw_all := lw_g (lw_at lw_m10 187 rfl) rfl
theorem q2450 : (Jvm.Cond.methodLink "MissingMiddles" (18 : Nat) ({ cls := "java/lang/ArithmeticException", name := "<init>", desc := "()V" } : Jvm.MethodName)) ∈ lw_all := lw_g (lw_at lw_m10 188 rfl) rfl
theorem q2458 : (Jvm.Cond.instanceMethod ({ cls := "MissingMiddles", name := "append", desc := "(I)I" } : Jvm.MethodName)) ∈ lw_all := lw_g (lw_at lw_m10 196 rfl) rfl
theorem q2459 : (Jvm.Cond.selects "MissingMiddles" ({ cls := "MissingMiddles", name := "append", desc := "(I)I" } : Jvm.MethodName) ({ cls := "MissingMiddles", name := "append", desc := "(I)I" } : Jvm.MethodName)) ∈ lw_all := lw_g (lw_at lw_m10 197 rfl) rfl
theorem q2460 : (Jvm.Cond.code ({ cls := "MissingMiddles", name := "append", desc := "(I)I" } : Jvm.MethodName) prog_1_method_48_code (5 : Nat) (Option.some Jvm.ClassFile.FieldType.int)) ∈ lw_all := lw_g (lw_at lw_m10 198 rfl) rfl
theorem q2461 : (Jvm.Cond.constantLong "MissingMiddles" (342 : Nat) (32 : Int64)) ∈ lw_all := lw_g (lw_at lw_m10 199 rfl) rfl
theorem q2462 : (Jvm.Cond.constantLong "MissingMiddles" (344 : Nat) (126 : Int64)) ∈ lw_all := lw_g (lw_at lw_m10 200 rfl) rfl
theorem q2463 : (Jvm.Cond.methodLink "MissingMiddles" (346 : Nat) ({ cls := "MissingMiddles", name := "checkArgument", desc := "(Z)V" } : Jvm.MethodName)) ∈ lw_all := lw_g (lw_at lw_m10 201 rfl) rfl
theorem q2464 : (Jvm.Cond.methodLink "MissingMiddles" (349 : Nat) ({ cls := "java/lang/StringBuilder", name := "append", desc := "(C)Ljava/lang/StringBuilder;" } : Jvm.MethodName)) ∈ lw_all := lw_g (lw_at lw_m10 202 rfl) rfl
theorem q2469 : (Jvm.Cond.instanceMethod ({ cls := "MissingMiddles", name := "read", desc := "()I" } : Jvm.MethodName)) ∈ lw_all := lw_g (lw_at lw_m10 207 rfl) rfl
theorem q2470 : (Jvm.Cond.selects "MissingMiddles" ({ cls := "MissingMiddles", name := "read", desc := "()I" } : Jvm.MethodName) ({ cls := "MissingMiddles", name := "read", desc := "()I" } : Jvm.MethodName)) ∈ lw_all := lw_g (lw_at lw_m10 208 rfl) rfl
theorem q2471 : (Jvm.Cond.codeWith ({ cls := "MissingMiddles", name := "read", desc := "()I" } : Jvm.MethodName) prog_1_method_50_code (7 : Nat) (Option.some Jvm.ClassFile.FieldType.int) [((15 : Nat), (57 : Nat), (60 : Nat), (128 : Nat)), ((15 : Nat), (57 : Nat), (81 : Nat), (1 : Nat)), ((15 : Nat), (57 : Nat), (81 : Nat), (7 : Nat))]) ∈ lw_all := lw_g (lw_at lw_m10 209 rfl) rfl
theorem q2472 : (Jvm.Cond.methodLink "MissingMiddles" (367 : Nat) ({ cls := "MissingMiddles", name := "takeOrders", desc := "()Ljava/util/ArrayList;" } : Jvm.MethodName)) ∈ lw_all := lw_g (lw_at lw_m10 210 rfl) rfl
theorem q2473 : (Jvm.Cond.privateMethod ({ cls := "MissingMiddles", name := "takeOrders", desc := "()Ljava/util/ArrayList;" } : Jvm.MethodName)) ∈ lw_tbl := lw_at lw_m10 211 rfl
theorem q2474 : (Jvm.Cond.instanceMethod ({ cls := "MissingMiddles", name := "takeOrders", desc := "()Ljava/util/ArrayList;" } : Jvm.MethodName)) ∈ lw_all := lw_g (lw_at lw_m10 212 rfl) rfl
theorem q2475 : (Jvm.Cond.codeWith ({ cls := "MissingMiddles", name := "takeOrders", desc := "()Ljava/util/ArrayList;" } : Jvm.MethodName) prog_1_method_49_code (3 : Nat) (Option.some (Jvm.ClassFile.FieldType.object "java/util/ArrayList")) [((23 : Nat), (27 : Nat), (28 : Nat), (361 : Nat))]) ∈ lw_all := lw_g (lw_at lw_m10 213 rfl) rfl
theorem q2476 : (Jvm.Cond.classLink "MissingMiddles" (361 : Nat) "MissingMiddles$SyntaxException") ∈ lw_all := lw_g (lw_at lw_m10 214 rfl) rfl
theorem q2477 : (Jvm.Cond.classLink "MissingMiddles" (352 : Nat) "MissingMiddles$Parser") ∈ lw_all := lw_g (lw_at lw_m10 215 rfl) rfl
theorem q2479 : (Jvm.Cond.methodLink "MissingMiddles" (354 : Nat) ({ cls := "MissingMiddles$Parser", name := "<init>", desc := "(Ljava/lang/CharSequence;)V" } : Jvm.MethodName)) ∈ lw_all := lw_g (lw_at lw_m10 217 rfl) rfl
theorem q2490 : (Jvm.Cond.methodLink "MissingMiddles" (357 : Nat) ({ cls := "MissingMiddles$Parser", name := "orders", desc := "()Ljava/util/ArrayList;" } : Jvm.MethodName)) ∈ lw_all := lw_g (lw_at lw_m10 228 rfl) rfl
theorem q2557 : (Jvm.Cond.fieldLinkNest "MissingMiddles" (371 : Nat) "MissingMiddles$SyntaxException" "position" "I" "MissingMiddles") ∈ lw_tbl := lw_at lw_m11 55 rfl
theorem q2598 : (Jvm.Cond.methodLink "MissingMiddles" (370 : Nat) ({ cls := "java/util/ArrayList", name := "iterator", desc := "()Ljava/util/Iterator;" } : Jvm.MethodName)) ∈ lw_all := lw_g (lw_at lw_m11 96 rfl) rfl
theorem q2603 : (Jvm.Cond.instanceMethod ({ cls := "MissingMiddles", name := "errorPosition", desc := "()I" } : Jvm.MethodName)) ∈ lw_all := lw_g (lw_at lw_m11 101 rfl) rfl
theorem q2604 : (Jvm.Cond.selects "MissingMiddles" ({ cls := "MissingMiddles", name := "errorPosition", desc := "()I" } : Jvm.MethodName) ({ cls := "MissingMiddles", name := "errorPosition", desc := "()I" } : Jvm.MethodName)) ∈ lw_all := lw_g (lw_at lw_m11 102 rfl) rfl
theorem q2605 : (Jvm.Cond.code ({ cls := "MissingMiddles", name := "errorPosition", desc := "()I" } : Jvm.MethodName) prog_1_method_51_code (1 : Nat) (Option.some Jvm.ClassFile.FieldType.int)) ∈ lw_all := lw_g (lw_at lw_m11 103 rfl) rfl
theorem q2610 : (Jvm.Cond.instanceMethod ({ cls := "MissingMiddles", name := "refusedItem", desc := "()I" } : Jvm.MethodName)) ∈ lw_all := lw_g (lw_at lw_m11 108 rfl) rfl
theorem q2611 : (Jvm.Cond.selects "MissingMiddles" ({ cls := "MissingMiddles", name := "refusedItem", desc := "()I" } : Jvm.MethodName) ({ cls := "MissingMiddles", name := "refusedItem", desc := "()I" } : Jvm.MethodName)) ∈ lw_all := lw_g (lw_at lw_m11 109 rfl) rfl
theorem q2612 : (Jvm.Cond.code ({ cls := "MissingMiddles", name := "refusedItem", desc := "()I" } : Jvm.MethodName) prog_1_method_52_code (1 : Nat) (Option.some Jvm.ClassFile.FieldType.int)) ∈ lw_all := lw_g (lw_at lw_m11 110 rfl) rfl
theorem q2617 : (Jvm.Cond.instanceMethod ({ cls := "MissingMiddles", name := "undo", desc := "()I" } : Jvm.MethodName)) ∈ lw_all := lw_g (lw_at lw_m11 115 rfl) rfl
theorem q2618 : (Jvm.Cond.selects "MissingMiddles" ({ cls := "MissingMiddles", name := "undo", desc := "()I" } : Jvm.MethodName) ({ cls := "MissingMiddles", name := "undo", desc := "()I" } : Jvm.MethodName)) ∈ lw_all := lw_g (lw_at lw_m11 116 rfl) rfl
theorem q2619 : (Jvm.Cond.code ({ cls := "MissingMiddles", name := "undo", desc := "()I" } : Jvm.MethodName) prog_1_method_53_code (1 : Nat) (Option.some Jvm.ClassFile.FieldType.int)) ∈ lw_all := lw_g (lw_at lw_m11 117 rfl) rfl
theorem q2620 : (Jvm.Cond.methodLink "MissingMiddles" (374 : Nat) ({ cls := "java/util/ArrayDeque", name := "isEmpty", desc := "()Z" } : Jvm.MethodName)) ∈ lw_all := lw_g (lw_at lw_m11 118 rfl) rfl
theorem q2621 : (Jvm.Cond.methodLink "MissingMiddles" (377 : Nat) ({ cls := "java/util/ArrayDeque", name := "removeLast", desc := "()Ljava/lang/Object;" } : Jvm.MethodName)) ∈ lw_all := lw_g (lw_at lw_m11 119 rfl) rfl
theorem q2636 : (Jvm.Cond.instanceMethod ({ cls := "MissingMiddles", name := "restore", desc := "()I" } : Jvm.MethodName)) ∈ lw_all := lw_g (lw_at lw_m11 134 rfl) rfl
theorem q2637 : (Jvm.Cond.selects "MissingMiddles" ({ cls := "MissingMiddles", name := "restore", desc := "()I" } : Jvm.MethodName) ({ cls := "MissingMiddles", name := "restore", desc := "()I" } : Jvm.MethodName)) ∈ lw_all := lw_g (lw_at lw_m11 135 rfl) rfl
theorem q2638 : (Jvm.Cond.code ({ cls := "MissingMiddles", name := "restore", desc := "()I" } : Jvm.MethodName) prog_1_method_55_code (1 : Nat) (Option.some Jvm.ClassFile.FieldType.int)) ∈ lw_all := lw_g (lw_at lw_m11 136 rfl) rfl
theorem q3170 : (Jvm.Cond.castable "MissingMiddles" "java/lang/Object") ∈ lw_tbl := lw_at lw_m13 188 rfl
theorem in_X1 : ∀ w ∈ wsX10, w ∈ lw_all := lw_in wsX10 [421, 423, 425, 427, 429, 431, 433, 435] (by decide +kernel) (by decide +kernel)
