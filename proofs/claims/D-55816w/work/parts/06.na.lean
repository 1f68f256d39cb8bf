/-! MissingMiddlesLaw -/
set_option maxRecDepth 100000
def RX0 : String := "MissingMiddlesLaw"
abbrev cX0_book : ByteArray := method_3_code
def yX0_book : MethodName := ⟨RX0, "book", "(LMissingMiddles;IIIII[J)I"⟩
def dkwX0_book_1 : List UInt8 := [58, 7, 5, 172, 3, 172]
abbrev dktX0_book_1 : List UInt8 := dkwX0_book_1 ++ []
def dkwX0_book_0 : List UInt8 := [25, 6, 3, 42, 27, 28, 29, 21, 4, 21, 5, 182, 0, 7, 133, 80, 167, 0, 11, 58, 7, 4, 172]
abbrev dktX0_book_0 : List UInt8 := dkwX0_book_0 ++ dktX0_book_1
theorem dksX0_book_0 : cX0_book.data.toList.drop 0 = dktX0_book_0 := by decide +kernel
theorem dksX0_book_1 : cX0_book.data.toList.drop 23 = dktX0_book_1 := dk_seg dksX0_book_0 23 rfl rfl
theorem dX0_book_0 : decode cX0_book 0 = .ok (.aload 6, 2) := dk_25 6 (dk_at dksX0_book_0 0 rfl rfl)
theorem dX0_book_2 : decode cX0_book 2 = .ok (.iconst 0, 1) := dk_3 (dk_at dksX0_book_0 2 rfl rfl)
theorem dX0_book_3 : decode cX0_book 3 = .ok (.aload_n 0, 1) := dk_42 (dk_at dksX0_book_0 3 rfl rfl)
theorem dX0_book_4 : decode cX0_book 4 = .ok (.iload_n 1, 1) := dk_27 (dk_at dksX0_book_0 4 rfl rfl)
theorem dX0_book_5 : decode cX0_book 5 = .ok (.iload_n 2, 1) := dk_28 (dk_at dksX0_book_0 5 rfl rfl)
theorem dX0_book_6 : decode cX0_book 6 = .ok (.iload_n 3, 1) := dk_29 (dk_at dksX0_book_0 6 rfl rfl)
theorem dX0_book_7 : decode cX0_book 7 = .ok (.iload 4, 2) := dk_21 4 (dk_at dksX0_book_0 7 rfl rfl)
theorem dX0_book_9 : decode cX0_book 9 = .ok (.iload 5, 2) := dk_21 5 (dk_at dksX0_book_0 9 rfl rfl)
theorem dX0_book_11 : decode cX0_book 11 = .ok (.invokevirtual 7, 3) := dk_182 0 7 (dk_at dksX0_book_0 11 rfl rfl)
theorem dX0_book_14 : decode cX0_book 14 = .ok (.i2l, 1) := dk_133 (dk_at dksX0_book_0 14 rfl rfl)
theorem dX0_book_15 : decode cX0_book 15 = .ok (.lastore, 1) := dk_80 (dk_at dksX0_book_0 15 rfl rfl)
theorem dX0_book_16 : decode cX0_book 16 = .ok (.goto 11, 3) := dk_167 0 11 (dk_at dksX0_book_0 16 rfl rfl)
theorem dX0_book_19 : decode cX0_book 19 = .ok (.astore 7, 2) := dk_58 7 (dk_at dksX0_book_0 19 rfl rfl)
theorem dX0_book_21 : decode cX0_book 21 = .ok (.iconst 1, 1) := dk_4 (dk_at dksX0_book_0 21 rfl rfl)
theorem dX0_book_22 : decode cX0_book 22 = .ok (.ireturn, 1) := dk_172 (dk_at dksX0_book_0 22 rfl rfl)
theorem dX0_book_23 : decode cX0_book 23 = .ok (.astore 7, 2) := dk_58 7 (dk_at dksX0_book_1 0 rfl rfl)
theorem dX0_book_25 : decode cX0_book 25 = .ok (.iconst 2, 1) := dk_5 (dk_at dksX0_book_1 2 rfl rfl)
theorem dX0_book_26 : decode cX0_book 26 = .ok (.ireturn, 1) := dk_172 (dk_at dksX0_book_1 3 rfl rfl)
theorem dX0_book_27 : decode cX0_book 27 = .ok (.iconst 0, 1) := dk_3 (dk_at dksX0_book_1 4 rfl rfl)
theorem dX0_book_28 : decode cX0_book 28 = .ok (.ireturn, 1) := dk_172 (dk_at dksX0_book_1 5 rfl rfl)
abbrev cX0_hide : ByteArray := method_4_code
def yX0_hide : MethodName := ⟨RX0, "hide", "(LMissingMiddles;IIIII[J)I"⟩
def dkwX0_hide_1 : List UInt8 := [58, 7, 5, 172, 58, 7, 6, 172, 3, 172]
abbrev dktX0_hide_1 : List UInt8 := dkwX0_hide_1 ++ []
def dkwX0_hide_0 : List UInt8 := [25, 6, 3, 42, 27, 28, 29, 21, 4, 21, 5, 182, 0, 17, 133, 80, 167, 0, 15, 58, 7, 4, 172]
abbrev dktX0_hide_0 : List UInt8 := dkwX0_hide_0 ++ dktX0_hide_1
theorem dksX0_hide_0 : cX0_hide.data.toList.drop 0 = dktX0_hide_0 := by decide +kernel
theorem dksX0_hide_1 : cX0_hide.data.toList.drop 23 = dktX0_hide_1 := dk_seg dksX0_hide_0 23 rfl rfl
theorem dX0_hide_0 : decode cX0_hide 0 = .ok (.aload 6, 2) := dk_25 6 (dk_at dksX0_hide_0 0 rfl rfl)
theorem dX0_hide_2 : decode cX0_hide 2 = .ok (.iconst 0, 1) := dk_3 (dk_at dksX0_hide_0 2 rfl rfl)
theorem dX0_hide_3 : decode cX0_hide 3 = .ok (.aload_n 0, 1) := dk_42 (dk_at dksX0_hide_0 3 rfl rfl)
theorem dX0_hide_4 : decode cX0_hide 4 = .ok (.iload_n 1, 1) := dk_27 (dk_at dksX0_hide_0 4 rfl rfl)
theorem dX0_hide_5 : decode cX0_hide 5 = .ok (.iload_n 2, 1) := dk_28 (dk_at dksX0_hide_0 5 rfl rfl)
theorem dX0_hide_6 : decode cX0_hide 6 = .ok (.iload_n 3, 1) := dk_29 (dk_at dksX0_hide_0 6 rfl rfl)
theorem dX0_hide_7 : decode cX0_hide 7 = .ok (.iload 4, 2) := dk_21 4 (dk_at dksX0_hide_0 7 rfl rfl)
theorem dX0_hide_9 : decode cX0_hide 9 = .ok (.iload 5, 2) := dk_21 5 (dk_at dksX0_hide_0 9 rfl rfl)
theorem dX0_hide_11 : decode cX0_hide 11 = .ok (.invokevirtual 17, 3) := dk_182 0 17 (dk_at dksX0_hide_0 11 rfl rfl)
theorem dX0_hide_14 : decode cX0_hide 14 = .ok (.i2l, 1) := dk_133 (dk_at dksX0_hide_0 14 rfl rfl)
theorem dX0_hide_15 : decode cX0_hide 15 = .ok (.lastore, 1) := dk_80 (dk_at dksX0_hide_0 15 rfl rfl)
theorem dX0_hide_16 : decode cX0_hide 16 = .ok (.goto 15, 3) := dk_167 0 15 (dk_at dksX0_hide_0 16 rfl rfl)
theorem dX0_hide_19 : decode cX0_hide 19 = .ok (.astore 7, 2) := dk_58 7 (dk_at dksX0_hide_0 19 rfl rfl)
theorem dX0_hide_21 : decode cX0_hide 21 = .ok (.iconst 1, 1) := dk_4 (dk_at dksX0_hide_0 21 rfl rfl)
theorem dX0_hide_22 : decode cX0_hide 22 = .ok (.ireturn, 1) := dk_172 (dk_at dksX0_hide_0 22 rfl rfl)
theorem dX0_hide_23 : decode cX0_hide 23 = .ok (.astore 7, 2) := dk_58 7 (dk_at dksX0_hide_1 0 rfl rfl)
theorem dX0_hide_25 : decode cX0_hide 25 = .ok (.iconst 2, 1) := dk_5 (dk_at dksX0_hide_1 2 rfl rfl)
theorem dX0_hide_26 : decode cX0_hide 26 = .ok (.ireturn, 1) := dk_172 (dk_at dksX0_hide_1 3 rfl rfl)
theorem dX0_hide_27 : decode cX0_hide 27 = .ok (.astore 7, 2) := dk_58 7 (dk_at dksX0_hide_1 4 rfl rfl)
theorem dX0_hide_29 : decode cX0_hide 29 = .ok (.iconst 3, 1) := dk_6 (dk_at dksX0_hide_1 6 rfl rfl)
theorem dX0_hide_30 : decode cX0_hide 30 = .ok (.ireturn, 1) := dk_172 (dk_at dksX0_hide_1 7 rfl rfl)
theorem dX0_hide_31 : decode cX0_hide 31 = .ok (.iconst 0, 1) := dk_3 (dk_at dksX0_hide_1 8 rfl rfl)
theorem dX0_hide_32 : decode cX0_hide 32 = .ok (.ireturn, 1) := dk_172 (dk_at dksX0_hide_1 9 rfl rfl)
abbrev cX0_find : ByteArray := method_5_code
def yX0_find : MethodName := ⟨RX0, "find", "(LMissingMiddles;I[J)I"⟩
def dkwX0_find_0 : List UInt8 := [44, 3, 42, 27, 182, 0, 22, 133, 80, 167, 0, 9, 78, 4, 172, 78, 5, 172, 3, 172]
abbrev dktX0_find_0 : List UInt8 := dkwX0_find_0 ++ []
theorem dksX0_find_0 : cX0_find.data.toList.drop 0 = dktX0_find_0 := by decide +kernel
theorem dX0_find_0 : decode cX0_find 0 = .ok (.aload_n 2, 1) := dk_44 (dk_at dksX0_find_0 0 rfl rfl)
theorem dX0_find_1 : decode cX0_find 1 = .ok (.iconst 0, 1) := dk_3 (dk_at dksX0_find_0 1 rfl rfl)
theorem dX0_find_2 : decode cX0_find 2 = .ok (.aload_n 0, 1) := dk_42 (dk_at dksX0_find_0 2 rfl rfl)
theorem dX0_find_3 : decode cX0_find 3 = .ok (.iload_n 1, 1) := dk_27 (dk_at dksX0_find_0 3 rfl rfl)
theorem dX0_find_4 : decode cX0_find 4 = .ok (.invokevirtual 22, 3) := dk_182 0 22 (dk_at dksX0_find_0 4 rfl rfl)
theorem dX0_find_7 : decode cX0_find 7 = .ok (.i2l, 1) := dk_133 (dk_at dksX0_find_0 7 rfl rfl)
theorem dX0_find_8 : decode cX0_find 8 = .ok (.lastore, 1) := dk_80 (dk_at dksX0_find_0 8 rfl rfl)
theorem dX0_find_9 : decode cX0_find 9 = .ok (.goto 9, 3) := dk_167 0 9 (dk_at dksX0_find_0 9 rfl rfl)
theorem dX0_find_12 : decode cX0_find 12 = .ok (.astore_n 3, 1) := dk_78 (dk_at dksX0_find_0 12 rfl rfl)
theorem dX0_find_13 : decode cX0_find 13 = .ok (.iconst 1, 1) := dk_4 (dk_at dksX0_find_0 13 rfl rfl)
theorem dX0_find_14 : decode cX0_find 14 = .ok (.ireturn, 1) := dk_172 (dk_at dksX0_find_0 14 rfl rfl)
theorem dX0_find_15 : decode cX0_find 15 = .ok (.astore_n 3, 1) := dk_78 (dk_at dksX0_find_0 15 rfl rfl)
theorem dX0_find_16 : decode cX0_find 16 = .ok (.iconst 2, 1) := dk_5 (dk_at dksX0_find_0 16 rfl rfl)
theorem dX0_find_17 : decode cX0_find 17 = .ok (.ireturn, 1) := dk_172 (dk_at dksX0_find_0 17 rfl rfl)
theorem dX0_find_18 : decode cX0_find 18 = .ok (.iconst 0, 1) := dk_3 (dk_at dksX0_find_0 18 rfl rfl)
theorem dX0_find_19 : decode cX0_find 19 = .ok (.ireturn, 1) := dk_172 (dk_at dksX0_find_0 19 rfl rfl)
abbrev cX0_drop : ByteArray := method_6_code
def yX0_drop : MethodName := ⟨RX0, "drop", "(LMissingMiddles;I[J)I"⟩
def dkwX0_drop_0 : List UInt8 := [44, 3, 42, 27, 182, 0, 26, 133, 80, 167, 0, 6, 78, 4, 172, 3, 172]
abbrev dktX0_drop_0 : List UInt8 := dkwX0_drop_0 ++ []
theorem dksX0_drop_0 : cX0_drop.data.toList.drop 0 = dktX0_drop_0 := by decide +kernel
theorem dX0_drop_0 : decode cX0_drop 0 = .ok (.aload_n 2, 1) := dk_44 (dk_at dksX0_drop_0 0 rfl rfl)
theorem dX0_drop_1 : decode cX0_drop 1 = .ok (.iconst 0, 1) := dk_3 (dk_at dksX0_drop_0 1 rfl rfl)
theorem dX0_drop_2 : decode cX0_drop 2 = .ok (.aload_n 0, 1) := dk_42 (dk_at dksX0_drop_0 2 rfl rfl)
theorem dX0_drop_3 : decode cX0_drop 3 = .ok (.iload_n 1, 1) := dk_27 (dk_at dksX0_drop_0 3 rfl rfl)
theorem dX0_drop_4 : decode cX0_drop 4 = .ok (.invokevirtual 26, 3) := dk_182 0 26 (dk_at dksX0_drop_0 4 rfl rfl)
theorem dX0_drop_7 : decode cX0_drop 7 = .ok (.i2l, 1) := dk_133 (dk_at dksX0_drop_0 7 rfl rfl)
theorem dX0_drop_8 : decode cX0_drop 8 = .ok (.lastore, 1) := dk_80 (dk_at dksX0_drop_0 8 rfl rfl)
theorem dX0_drop_9 : decode cX0_drop 9 = .ok (.goto 6, 3) := dk_167 0 6 (dk_at dksX0_drop_0 9 rfl rfl)
theorem dX0_drop_12 : decode cX0_drop 12 = .ok (.astore_n 3, 1) := dk_78 (dk_at dksX0_drop_0 12 rfl rfl)
theorem dX0_drop_13 : decode cX0_drop 13 = .ok (.iconst 1, 1) := dk_4 (dk_at dksX0_drop_0 13 rfl rfl)
theorem dX0_drop_14 : decode cX0_drop 14 = .ok (.ireturn, 1) := dk_172 (dk_at dksX0_drop_0 14 rfl rfl)
theorem dX0_drop_15 : decode cX0_drop 15 = .ok (.iconst 0, 1) := dk_3 (dk_at dksX0_drop_0 15 rfl rfl)
theorem dX0_drop_16 : decode cX0_drop 16 = .ok (.ireturn, 1) := dk_172 (dk_at dksX0_drop_0 16 rfl rfl)
abbrev cX0_bookOf : ByteArray := method_7_code
def yX0_bookOf : MethodName := ⟨RX0, "bookOf", "(LMissingMiddles;II[J)I"⟩
def dkwX0_bookOf_0 : List UInt8 := [45, 3, 42, 27, 28, 182, 0, 29, 133, 80, 167, 0, 11, 58, 4, 4, 172, 58, 4, 5, 172, 3, 172]
abbrev dktX0_bookOf_0 : List UInt8 := dkwX0_bookOf_0 ++ []
theorem dksX0_bookOf_0 : cX0_bookOf.data.toList.drop 0 = dktX0_bookOf_0 := by decide +kernel
theorem dX0_bookOf_0 : decode cX0_bookOf 0 = .ok (.aload_n 3, 1) := dk_45 (dk_at dksX0_bookOf_0 0 rfl rfl)
theorem dX0_bookOf_1 : decode cX0_bookOf 1 = .ok (.iconst 0, 1) := dk_3 (dk_at dksX0_bookOf_0 1 rfl rfl)
theorem dX0_bookOf_2 : decode cX0_bookOf 2 = .ok (.aload_n 0, 1) := dk_42 (dk_at dksX0_bookOf_0 2 rfl rfl)
theorem dX0_bookOf_3 : decode cX0_bookOf 3 = .ok (.iload_n 1, 1) := dk_27 (dk_at dksX0_bookOf_0 3 rfl rfl)
theorem dX0_bookOf_4 : decode cX0_bookOf 4 = .ok (.iload_n 2, 1) := dk_28 (dk_at dksX0_bookOf_0 4 rfl rfl)
theorem dX0_bookOf_5 : decode cX0_bookOf 5 = .ok (.invokevirtual 29, 3) := dk_182 0 29 (dk_at dksX0_bookOf_0 5 rfl rfl)
theorem dX0_bookOf_8 : decode cX0_bookOf 8 = .ok (.i2l, 1) := dk_133 (dk_at dksX0_bookOf_0 8 rfl rfl)
theorem dX0_bookOf_9 : decode cX0_bookOf 9 = .ok (.lastore, 1) := dk_80 (dk_at dksX0_bookOf_0 9 rfl rfl)
theorem dX0_bookOf_10 : decode cX0_bookOf 10 = .ok (.goto 11, 3) := dk_167 0 11 (dk_at dksX0_bookOf_0 10 rfl rfl)
theorem dX0_bookOf_13 : decode cX0_bookOf 13 = .ok (.astore 4, 2) := dk_58 4 (dk_at dksX0_bookOf_0 13 rfl rfl)
theorem dX0_bookOf_15 : decode cX0_bookOf 15 = .ok (.iconst 1, 1) := dk_4 (dk_at dksX0_bookOf_0 15 rfl rfl)
theorem dX0_bookOf_16 : decode cX0_bookOf 16 = .ok (.ireturn, 1) := dk_172 (dk_at dksX0_bookOf_0 16 rfl rfl)
theorem dX0_bookOf_17 : decode cX0_bookOf 17 = .ok (.astore 4, 2) := dk_58 4 (dk_at dksX0_bookOf_0 17 rfl rfl)
theorem dX0_bookOf_19 : decode cX0_bookOf 19 = .ok (.iconst 2, 1) := dk_5 (dk_at dksX0_bookOf_0 19 rfl rfl)
theorem dX0_bookOf_20 : decode cX0_bookOf 20 = .ok (.ireturn, 1) := dk_172 (dk_at dksX0_bookOf_0 20 rfl rfl)
theorem dX0_bookOf_21 : decode cX0_bookOf 21 = .ok (.iconst 0, 1) := dk_3 (dk_at dksX0_bookOf_0 21 rfl rfl)
theorem dX0_bookOf_22 : decode cX0_bookOf 22 = .ok (.ireturn, 1) := dk_172 (dk_at dksX0_bookOf_0 22 rfl rfl)
abbrev cX0_scrapOf : ByteArray := method_8_code
def yX0_scrapOf : MethodName := ⟨RX0, "scrapOf", "(LMissingMiddles;II[J)I"⟩
def dkwX0_scrapOf_0 : List UInt8 := [45, 3, 42, 27, 28, 182, 0, 33, 133, 80, 167, 0, 11, 58, 4, 4, 172, 58, 4, 5, 172, 3, 172]
abbrev dktX0_scrapOf_0 : List UInt8 := dkwX0_scrapOf_0 ++ []
theorem dksX0_scrapOf_0 : cX0_scrapOf.data.toList.drop 0 = dktX0_scrapOf_0 := by decide +kernel
theorem dX0_scrapOf_0 : decode cX0_scrapOf 0 = .ok (.aload_n 3, 1) := dk_45 (dk_at dksX0_scrapOf_0 0 rfl rfl)
theorem dX0_scrapOf_1 : decode cX0_scrapOf 1 = .ok (.iconst 0, 1) := dk_3 (dk_at dksX0_scrapOf_0 1 rfl rfl)
theorem dX0_scrapOf_2 : decode cX0_scrapOf 2 = .ok (.aload_n 0, 1) := dk_42 (dk_at dksX0_scrapOf_0 2 rfl rfl)
theorem dX0_scrapOf_3 : decode cX0_scrapOf 3 = .ok (.iload_n 1, 1) := dk_27 (dk_at dksX0_scrapOf_0 3 rfl rfl)
theorem dX0_scrapOf_4 : decode cX0_scrapOf 4 = .ok (.iload_n 2, 1) := dk_28 (dk_at dksX0_scrapOf_0 4 rfl rfl)
theorem dX0_scrapOf_5 : decode cX0_scrapOf 5 = .ok (.invokevirtual 33, 3) := dk_182 0 33 (dk_at dksX0_scrapOf_0 5 rfl rfl)
theorem dX0_scrapOf_8 : decode cX0_scrapOf 8 = .ok (.i2l, 1) := dk_133 (dk_at dksX0_scrapOf_0 8 rfl rfl)
theorem dX0_scrapOf_9 : decode cX0_scrapOf 9 = .ok (.lastore, 1) := dk_80 (dk_at dksX0_scrapOf_0 9 rfl rfl)
theorem dX0_scrapOf_10 : decode cX0_scrapOf 10 = .ok (.goto 11, 3) := dk_167 0 11 (dk_at dksX0_scrapOf_0 10 rfl rfl)
theorem dX0_scrapOf_13 : decode cX0_scrapOf 13 = .ok (.astore 4, 2) := dk_58 4 (dk_at dksX0_scrapOf_0 13 rfl rfl)
theorem dX0_scrapOf_15 : decode cX0_scrapOf 15 = .ok (.iconst 1, 1) := dk_4 (dk_at dksX0_scrapOf_0 15 rfl rfl)
theorem dX0_scrapOf_16 : decode cX0_scrapOf 16 = .ok (.ireturn, 1) := dk_172 (dk_at dksX0_scrapOf_0 16 rfl rfl)
theorem dX0_scrapOf_17 : decode cX0_scrapOf 17 = .ok (.astore 4, 2) := dk_58 4 (dk_at dksX0_scrapOf_0 17 rfl rfl)
theorem dX0_scrapOf_19 : decode cX0_scrapOf 19 = .ok (.iconst 2, 1) := dk_5 (dk_at dksX0_scrapOf_0 19 rfl rfl)
theorem dX0_scrapOf_20 : decode cX0_scrapOf 20 = .ok (.ireturn, 1) := dk_172 (dk_at dksX0_scrapOf_0 20 rfl rfl)
theorem dX0_scrapOf_21 : decode cX0_scrapOf 21 = .ok (.iconst 0, 1) := dk_3 (dk_at dksX0_scrapOf_0 21 rfl rfl)
theorem dX0_scrapOf_22 : decode cX0_scrapOf 22 = .ok (.ireturn, 1) := dk_172 (dk_at dksX0_scrapOf_0 22 rfl rfl)
abbrev cX0_atticOf : ByteArray := method_9_code
def yX0_atticOf : MethodName := ⟨RX0, "atticOf", "(LMissingMiddles;II[J)I"⟩
def dkwX0_atticOf_0 : List UInt8 := [45, 3, 42, 27, 28, 182, 0, 36, 133, 80, 167, 0, 11, 58, 4, 4, 172, 58, 4, 5, 172, 3, 172]
abbrev dktX0_atticOf_0 : List UInt8 := dkwX0_atticOf_0 ++ []
theorem dksX0_atticOf_0 : cX0_atticOf.data.toList.drop 0 = dktX0_atticOf_0 := by decide +kernel
theorem dX0_atticOf_0 : decode cX0_atticOf 0 = .ok (.aload_n 3, 1) := dk_45 (dk_at dksX0_atticOf_0 0 rfl rfl)
theorem dX0_atticOf_1 : decode cX0_atticOf 1 = .ok (.iconst 0, 1) := dk_3 (dk_at dksX0_atticOf_0 1 rfl rfl)
theorem dX0_atticOf_2 : decode cX0_atticOf 2 = .ok (.aload_n 0, 1) := dk_42 (dk_at dksX0_atticOf_0 2 rfl rfl)
theorem dX0_atticOf_3 : decode cX0_atticOf 3 = .ok (.iload_n 1, 1) := dk_27 (dk_at dksX0_atticOf_0 3 rfl rfl)
theorem dX0_atticOf_4 : decode cX0_atticOf 4 = .ok (.iload_n 2, 1) := dk_28 (dk_at dksX0_atticOf_0 4 rfl rfl)
theorem dX0_atticOf_5 : decode cX0_atticOf 5 = .ok (.invokevirtual 36, 3) := dk_182 0 36 (dk_at dksX0_atticOf_0 5 rfl rfl)
theorem dX0_atticOf_8 : decode cX0_atticOf 8 = .ok (.i2l, 1) := dk_133 (dk_at dksX0_atticOf_0 8 rfl rfl)
theorem dX0_atticOf_9 : decode cX0_atticOf 9 = .ok (.lastore, 1) := dk_80 (dk_at dksX0_atticOf_0 9 rfl rfl)
theorem dX0_atticOf_10 : decode cX0_atticOf 10 = .ok (.goto 11, 3) := dk_167 0 11 (dk_at dksX0_atticOf_0 10 rfl rfl)
theorem dX0_atticOf_13 : decode cX0_atticOf 13 = .ok (.astore 4, 2) := dk_58 4 (dk_at dksX0_atticOf_0 13 rfl rfl)
theorem dX0_atticOf_15 : decode cX0_atticOf 15 = .ok (.iconst 1, 1) := dk_4 (dk_at dksX0_atticOf_0 15 rfl rfl)
theorem dX0_atticOf_16 : decode cX0_atticOf 16 = .ok (.ireturn, 1) := dk_172 (dk_at dksX0_atticOf_0 16 rfl rfl)
theorem dX0_atticOf_17 : decode cX0_atticOf 17 = .ok (.astore 4, 2) := dk_58 4 (dk_at dksX0_atticOf_0 17 rfl rfl)
theorem dX0_atticOf_19 : decode cX0_atticOf 19 = .ok (.iconst 2, 1) := dk_5 (dk_at dksX0_atticOf_0 19 rfl rfl)
theorem dX0_atticOf_20 : decode cX0_atticOf 20 = .ok (.ireturn, 1) := dk_172 (dk_at dksX0_atticOf_0 20 rfl rfl)
theorem dX0_atticOf_21 : decode cX0_atticOf 21 = .ok (.iconst 0, 1) := dk_3 (dk_at dksX0_atticOf_0 21 rfl rfl)
theorem dX0_atticOf_22 : decode cX0_atticOf 22 = .ok (.ireturn, 1) := dk_172 (dk_at dksX0_atticOf_0 22 rfl rfl)
abbrev cX0_swear : ByteArray := method_10_code
def yX0_swear : MethodName := ⟨RX0, "swear", "(LMissingMiddles;IIZ[J)I"⟩
def dkwX0_swear_1 : List UInt8 := [172]
abbrev dktX0_swear_1 : List UInt8 := dkwX0_swear_1 ++ []
def dkwX0_swear_0 : List UInt8 := [25, 4, 3, 42, 27, 28, 29, 182, 0, 39, 133, 80, 167, 0, 11, 58, 5, 4, 172, 58, 5, 5, 172, 3]
abbrev dktX0_swear_0 : List UInt8 := dkwX0_swear_0 ++ dktX0_swear_1
theorem dksX0_swear_0 : cX0_swear.data.toList.drop 0 = dktX0_swear_0 := by decide +kernel
theorem dksX0_swear_1 : cX0_swear.data.toList.drop 24 = dktX0_swear_1 := dk_seg dksX0_swear_0 24 rfl rfl
theorem dX0_swear_0 : decode cX0_swear 0 = .ok (.aload 4, 2) := dk_25 4 (dk_at dksX0_swear_0 0 rfl rfl)
theorem dX0_swear_2 : decode cX0_swear 2 = .ok (.iconst 0, 1) := dk_3 (dk_at dksX0_swear_0 2 rfl rfl)
theorem dX0_swear_3 : decode cX0_swear 3 = .ok (.aload_n 0, 1) := dk_42 (dk_at dksX0_swear_0 3 rfl rfl)
theorem dX0_swear_4 : decode cX0_swear 4 = .ok (.iload_n 1, 1) := dk_27 (dk_at dksX0_swear_0 4 rfl rfl)
theorem dX0_swear_5 : decode cX0_swear 5 = .ok (.iload_n 2, 1) := dk_28 (dk_at dksX0_swear_0 5 rfl rfl)
theorem dX0_swear_6 : decode cX0_swear 6 = .ok (.iload_n 3, 1) := dk_29 (dk_at dksX0_swear_0 6 rfl rfl)
theorem dX0_swear_7 : decode cX0_swear 7 = .ok (.invokevirtual 39, 3) := dk_182 0 39 (dk_at dksX0_swear_0 7 rfl rfl)
theorem dX0_swear_10 : decode cX0_swear 10 = .ok (.i2l, 1) := dk_133 (dk_at dksX0_swear_0 10 rfl rfl)
theorem dX0_swear_11 : decode cX0_swear 11 = .ok (.lastore, 1) := dk_80 (dk_at dksX0_swear_0 11 rfl rfl)
theorem dX0_swear_12 : decode cX0_swear 12 = .ok (.goto 11, 3) := dk_167 0 11 (dk_at dksX0_swear_0 12 rfl rfl)
theorem dX0_swear_15 : decode cX0_swear 15 = .ok (.astore 5, 2) := dk_58 5 (dk_at dksX0_swear_0 15 rfl rfl)
theorem dX0_swear_17 : decode cX0_swear 17 = .ok (.iconst 1, 1) := dk_4 (dk_at dksX0_swear_0 17 rfl rfl)
theorem dX0_swear_18 : decode cX0_swear 18 = .ok (.ireturn, 1) := dk_172 (dk_at dksX0_swear_0 18 rfl rfl)
theorem dX0_swear_19 : decode cX0_swear 19 = .ok (.astore 5, 2) := dk_58 5 (dk_at dksX0_swear_0 19 rfl rfl)
theorem dX0_swear_21 : decode cX0_swear 21 = .ok (.iconst 2, 1) := dk_5 (dk_at dksX0_swear_0 21 rfl rfl)
theorem dX0_swear_22 : decode cX0_swear 22 = .ok (.ireturn, 1) := dk_172 (dk_at dksX0_swear_0 22 rfl rfl)
theorem dX0_swear_23 : decode cX0_swear 23 = .ok (.iconst 0, 1) := dk_3 (dk_at dksX0_swear_0 23 rfl rfl)
theorem dX0_swear_24 : decode cX0_swear 24 = .ok (.ireturn, 1) := dk_172 (dk_at dksX0_swear_1 0 rfl rfl)
abbrev cX0_prove : ByteArray := method_11_code
def yX0_prove : MethodName := ⟨RX0, "prove", "(LMissingMiddles;IZ[J)I"⟩
def dkwX0_prove_0 : List UInt8 := [45, 3, 42, 27, 28, 182, 0, 43, 133, 80, 167, 0, 11, 58, 4, 4, 172, 58, 4, 5, 172, 3, 172]
abbrev dktX0_prove_0 : List UInt8 := dkwX0_prove_0 ++ []
theorem dksX0_prove_0 : cX0_prove.data.toList.drop 0 = dktX0_prove_0 := by decide +kernel
theorem dX0_prove_0 : decode cX0_prove 0 = .ok (.aload_n 3, 1) := dk_45 (dk_at dksX0_prove_0 0 rfl rfl)
theorem dX0_prove_1 : decode cX0_prove 1 = .ok (.iconst 0, 1) := dk_3 (dk_at dksX0_prove_0 1 rfl rfl)
theorem dX0_prove_2 : decode cX0_prove 2 = .ok (.aload_n 0, 1) := dk_42 (dk_at dksX0_prove_0 2 rfl rfl)
theorem dX0_prove_3 : decode cX0_prove 3 = .ok (.iload_n 1, 1) := dk_27 (dk_at dksX0_prove_0 3 rfl rfl)
theorem dX0_prove_4 : decode cX0_prove 4 = .ok (.iload_n 2, 1) := dk_28 (dk_at dksX0_prove_0 4 rfl rfl)
theorem dX0_prove_5 : decode cX0_prove 5 = .ok (.invokevirtual 43, 3) := dk_182 0 43 (dk_at dksX0_prove_0 5 rfl rfl)
theorem dX0_prove_8 : decode cX0_prove 8 = .ok (.i2l, 1) := dk_133 (dk_at dksX0_prove_0 8 rfl rfl)
theorem dX0_prove_9 : decode cX0_prove 9 = .ok (.lastore, 1) := dk_80 (dk_at dksX0_prove_0 9 rfl rfl)
theorem dX0_prove_10 : decode cX0_prove 10 = .ok (.goto 11, 3) := dk_167 0 11 (dk_at dksX0_prove_0 10 rfl rfl)
theorem dX0_prove_13 : decode cX0_prove 13 = .ok (.astore 4, 2) := dk_58 4 (dk_at dksX0_prove_0 13 rfl rfl)
theorem dX0_prove_15 : decode cX0_prove 15 = .ok (.iconst 1, 1) := dk_4 (dk_at dksX0_prove_0 15 rfl rfl)
theorem dX0_prove_16 : decode cX0_prove 16 = .ok (.ireturn, 1) := dk_172 (dk_at dksX0_prove_0 16 rfl rfl)
theorem dX0_prove_17 : decode cX0_prove 17 = .ok (.astore 4, 2) := dk_58 4 (dk_at dksX0_prove_0 17 rfl rfl)
theorem dX0_prove_19 : decode cX0_prove 19 = .ok (.iconst 2, 1) := dk_5 (dk_at dksX0_prove_0 19 rfl rfl)
theorem dX0_prove_20 : decode cX0_prove 20 = .ok (.ireturn, 1) := dk_172 (dk_at dksX0_prove_0 20 rfl rfl)
theorem dX0_prove_21 : decode cX0_prove 21 = .ok (.iconst 0, 1) := dk_3 (dk_at dksX0_prove_0 21 rfl rfl)
theorem dX0_prove_22 : decode cX0_prove 22 = .ok (.ireturn, 1) := dk_172 (dk_at dksX0_prove_0 22 rfl rfl)
abbrev cX0_readerOf : ByteArray := method_12_code
def yX0_readerOf : MethodName := ⟨RX0, "readerOf", "(LMissingMiddles;II[J)I"⟩
def dkwX0_readerOf_0 : List UInt8 := [45, 3, 42, 27, 28, 182, 0, 47, 133, 80, 167, 0, 11, 58, 4, 4, 172, 58, 4, 5, 172, 3, 172]
abbrev dktX0_readerOf_0 : List UInt8 := dkwX0_readerOf_0 ++ []
theorem dksX0_readerOf_0 : cX0_readerOf.data.toList.drop 0 = dktX0_readerOf_0 := by decide +kernel
theorem dX0_readerOf_0 : decode cX0_readerOf 0 = .ok (.aload_n 3, 1) := dk_45 (dk_at dksX0_readerOf_0 0 rfl rfl)
theorem dX0_readerOf_1 : decode cX0_readerOf 1 = .ok (.iconst 0, 1) := dk_3 (dk_at dksX0_readerOf_0 1 rfl rfl)
theorem dX0_readerOf_2 : decode cX0_readerOf 2 = .ok (.aload_n 0, 1) := dk_42 (dk_at dksX0_readerOf_0 2 rfl rfl)
theorem dX0_readerOf_3 : decode cX0_readerOf 3 = .ok (.iload_n 1, 1) := dk_27 (dk_at dksX0_readerOf_0 3 rfl rfl)
theorem dX0_readerOf_4 : decode cX0_readerOf 4 = .ok (.iload_n 2, 1) := dk_28 (dk_at dksX0_readerOf_0 4 rfl rfl)
theorem dX0_readerOf_5 : decode cX0_readerOf 5 = .ok (.invokevirtual 47, 3) := dk_182 0 47 (dk_at dksX0_readerOf_0 5 rfl rfl)
theorem dX0_readerOf_8 : decode cX0_readerOf 8 = .ok (.i2l, 1) := dk_133 (dk_at dksX0_readerOf_0 8 rfl rfl)
theorem dX0_readerOf_9 : decode cX0_readerOf 9 = .ok (.lastore, 1) := dk_80 (dk_at dksX0_readerOf_0 9 rfl rfl)
theorem dX0_readerOf_10 : decode cX0_readerOf 10 = .ok (.goto 11, 3) := dk_167 0 11 (dk_at dksX0_readerOf_0 10 rfl rfl)
theorem dX0_readerOf_13 : decode cX0_readerOf 13 = .ok (.astore 4, 2) := dk_58 4 (dk_at dksX0_readerOf_0 13 rfl rfl)
theorem dX0_readerOf_15 : decode cX0_readerOf 15 = .ok (.iconst 1, 1) := dk_4 (dk_at dksX0_readerOf_0 15 rfl rfl)
theorem dX0_readerOf_16 : decode cX0_readerOf 16 = .ok (.ireturn, 1) := dk_172 (dk_at dksX0_readerOf_0 16 rfl rfl)
theorem dX0_readerOf_17 : decode cX0_readerOf 17 = .ok (.astore 4, 2) := dk_58 4 (dk_at dksX0_readerOf_0 17 rfl rfl)
theorem dX0_readerOf_19 : decode cX0_readerOf 19 = .ok (.iconst 2, 1) := dk_5 (dk_at dksX0_readerOf_0 19 rfl rfl)
theorem dX0_readerOf_20 : decode cX0_readerOf 20 = .ok (.ireturn, 1) := dk_172 (dk_at dksX0_readerOf_0 20 rfl rfl)
theorem dX0_readerOf_21 : decode cX0_readerOf 21 = .ok (.iconst 0, 1) := dk_3 (dk_at dksX0_readerOf_0 21 rfl rfl)
theorem dX0_readerOf_22 : decode cX0_readerOf 22 = .ok (.ireturn, 1) := dk_172 (dk_at dksX0_readerOf_0 22 rfl rfl)
abbrev cX0_oath : ByteArray := method_13_code
def yX0_oath : MethodName := ⟨RX0, "oath", "(LMissingMiddles;II[J)I"⟩
def dkwX0_oath_0 : List UInt8 := [45, 3, 42, 27, 28, 182, 0, 50, 133, 80, 167, 0, 7, 58, 4, 4, 172, 3, 172]
abbrev dktX0_oath_0 : List UInt8 := dkwX0_oath_0 ++ []
theorem dksX0_oath_0 : cX0_oath.data.toList.drop 0 = dktX0_oath_0 := by decide +kernel
theorem dX0_oath_0 : decode cX0_oath 0 = .ok (.aload_n 3, 1) := dk_45 (dk_at dksX0_oath_0 0 rfl rfl)
theorem dX0_oath_1 : decode cX0_oath 1 = .ok (.iconst 0, 1) := dk_3 (dk_at dksX0_oath_0 1 rfl rfl)
theorem dX0_oath_2 : decode cX0_oath 2 = .ok (.aload_n 0, 1) := dk_42 (dk_at dksX0_oath_0 2 rfl rfl)
theorem dX0_oath_3 : decode cX0_oath 3 = .ok (.iload_n 1, 1) := dk_27 (dk_at dksX0_oath_0 3 rfl rfl)
theorem dX0_oath_4 : decode cX0_oath 4 = .ok (.iload_n 2, 1) := dk_28 (dk_at dksX0_oath_0 4 rfl rfl)
theorem dX0_oath_5 : decode cX0_oath 5 = .ok (.invokevirtual 50, 3) := dk_182 0 50 (dk_at dksX0_oath_0 5 rfl rfl)
theorem dX0_oath_8 : decode cX0_oath 8 = .ok (.i2l, 1) := dk_133 (dk_at dksX0_oath_0 8 rfl rfl)
theorem dX0_oath_9 : decode cX0_oath 9 = .ok (.lastore, 1) := dk_80 (dk_at dksX0_oath_0 9 rfl rfl)
theorem dX0_oath_10 : decode cX0_oath 10 = .ok (.goto 7, 3) := dk_167 0 7 (dk_at dksX0_oath_0 10 rfl rfl)
theorem dX0_oath_13 : decode cX0_oath 13 = .ok (.astore 4, 2) := dk_58 4 (dk_at dksX0_oath_0 13 rfl rfl)
theorem dX0_oath_15 : decode cX0_oath 15 = .ok (.iconst 1, 1) := dk_4 (dk_at dksX0_oath_0 15 rfl rfl)
theorem dX0_oath_16 : decode cX0_oath 16 = .ok (.ireturn, 1) := dk_172 (dk_at dksX0_oath_0 16 rfl rfl)
theorem dX0_oath_17 : decode cX0_oath 17 = .ok (.iconst 0, 1) := dk_3 (dk_at dksX0_oath_0 17 rfl rfl)
theorem dX0_oath_18 : decode cX0_oath 18 = .ok (.ireturn, 1) := dk_172 (dk_at dksX0_oath_0 18 rfl rfl)
abbrev cX0_chains : ByteArray := method_14_code
def yX0_chains : MethodName := ⟨RX0, "chains", "(LMissingMiddles;IZ[J)I"⟩
def dkwX0_chains_0 : List UInt8 := [45, 3, 42, 27, 28, 182, 0, 53, 133, 80, 167, 0, 7, 58, 4, 4, 172, 3, 172]
abbrev dktX0_chains_0 : List UInt8 := dkwX0_chains_0 ++ []
theorem dksX0_chains_0 : cX0_chains.data.toList.drop 0 = dktX0_chains_0 := by decide +kernel
theorem dX0_chains_0 : decode cX0_chains 0 = .ok (.aload_n 3, 1) := dk_45 (dk_at dksX0_chains_0 0 rfl rfl)
theorem dX0_chains_1 : decode cX0_chains 1 = .ok (.iconst 0, 1) := dk_3 (dk_at dksX0_chains_0 1 rfl rfl)
theorem dX0_chains_2 : decode cX0_chains 2 = .ok (.aload_n 0, 1) := dk_42 (dk_at dksX0_chains_0 2 rfl rfl)
theorem dX0_chains_3 : decode cX0_chains 3 = .ok (.iload_n 1, 1) := dk_27 (dk_at dksX0_chains_0 3 rfl rfl)
theorem dX0_chains_4 : decode cX0_chains 4 = .ok (.iload_n 2, 1) := dk_28 (dk_at dksX0_chains_0 4 rfl rfl)
theorem dX0_chains_5 : decode cX0_chains 5 = .ok (.invokevirtual 53, 3) := dk_182 0 53 (dk_at dksX0_chains_0 5 rfl rfl)
theorem dX0_chains_8 : decode cX0_chains 8 = .ok (.i2l, 1) := dk_133 (dk_at dksX0_chains_0 8 rfl rfl)
theorem dX0_chains_9 : decode cX0_chains 9 = .ok (.lastore, 1) := dk_80 (dk_at dksX0_chains_0 9 rfl rfl)
theorem dX0_chains_10 : decode cX0_chains 10 = .ok (.goto 7, 3) := dk_167 0 7 (dk_at dksX0_chains_0 10 rfl rfl)
theorem dX0_chains_13 : decode cX0_chains 13 = .ok (.astore 4, 2) := dk_58 4 (dk_at dksX0_chains_0 13 rfl rfl)
theorem dX0_chains_15 : decode cX0_chains 15 = .ok (.iconst 1, 1) := dk_4 (dk_at dksX0_chains_0 15 rfl rfl)
theorem dX0_chains_16 : decode cX0_chains 16 = .ok (.ireturn, 1) := dk_172 (dk_at dksX0_chains_0 16 rfl rfl)
theorem dX0_chains_17 : decode cX0_chains 17 = .ok (.iconst 0, 1) := dk_3 (dk_at dksX0_chains_0 17 rfl rfl)
theorem dX0_chains_18 : decode cX0_chains 18 = .ok (.ireturn, 1) := dk_172 (dk_at dksX0_chains_0 18 rfl rfl)
abbrev cX0_chainOf : ByteArray := method_15_code
def yX0_chainOf : MethodName := ⟨RX0, "chainOf", "(LMissingMiddles;II[J)I"⟩
def dkwX0_chainOf_0 : List UInt8 := [45, 3, 42, 27, 28, 182, 0, 56, 133, 80, 167, 0, 11, 58, 4, 4, 172, 58, 4, 5, 172, 3, 172]
abbrev dktX0_chainOf_0 : List UInt8 := dkwX0_chainOf_0 ++ []
theorem dksX0_chainOf_0 : cX0_chainOf.data.toList.drop 0 = dktX0_chainOf_0 := by decide +kernel
theorem dX0_chainOf_0 : decode cX0_chainOf 0 = .ok (.aload_n 3, 1) := dk_45 (dk_at dksX0_chainOf_0 0 rfl rfl)
theorem dX0_chainOf_1 : decode cX0_chainOf 1 = .ok (.iconst 0, 1) := dk_3 (dk_at dksX0_chainOf_0 1 rfl rfl)
theorem dX0_chainOf_2 : decode cX0_chainOf 2 = .ok (.aload_n 0, 1) := dk_42 (dk_at dksX0_chainOf_0 2 rfl rfl)
theorem dX0_chainOf_3 : decode cX0_chainOf 3 = .ok (.iload_n 1, 1) := dk_27 (dk_at dksX0_chainOf_0 3 rfl rfl)
theorem dX0_chainOf_4 : decode cX0_chainOf 4 = .ok (.iload_n 2, 1) := dk_28 (dk_at dksX0_chainOf_0 4 rfl rfl)
theorem dX0_chainOf_5 : decode cX0_chainOf 5 = .ok (.invokevirtual 56, 3) := dk_182 0 56 (dk_at dksX0_chainOf_0 5 rfl rfl)
theorem dX0_chainOf_8 : decode cX0_chainOf 8 = .ok (.i2l, 1) := dk_133 (dk_at dksX0_chainOf_0 8 rfl rfl)
theorem dX0_chainOf_9 : decode cX0_chainOf 9 = .ok (.lastore, 1) := dk_80 (dk_at dksX0_chainOf_0 9 rfl rfl)
theorem dX0_chainOf_10 : decode cX0_chainOf 10 = .ok (.goto 11, 3) := dk_167 0 11 (dk_at dksX0_chainOf_0 10 rfl rfl)
theorem dX0_chainOf_13 : decode cX0_chainOf 13 = .ok (.astore 4, 2) := dk_58 4 (dk_at dksX0_chainOf_0 13 rfl rfl)
theorem dX0_chainOf_15 : decode cX0_chainOf 15 = .ok (.iconst 1, 1) := dk_4 (dk_at dksX0_chainOf_0 15 rfl rfl)
theorem dX0_chainOf_16 : decode cX0_chainOf 16 = .ok (.ireturn, 1) := dk_172 (dk_at dksX0_chainOf_0 16 rfl rfl)
theorem dX0_chainOf_17 : decode cX0_chainOf 17 = .ok (.astore 4, 2) := dk_58 4 (dk_at dksX0_chainOf_0 17 rfl rfl)
theorem dX0_chainOf_19 : decode cX0_chainOf 19 = .ok (.iconst 2, 1) := dk_5 (dk_at dksX0_chainOf_0 19 rfl rfl)
theorem dX0_chainOf_20 : decode cX0_chainOf 20 = .ok (.ireturn, 1) := dk_172 (dk_at dksX0_chainOf_0 20 rfl rfl)
theorem dX0_chainOf_21 : decode cX0_chainOf 21 = .ok (.iconst 0, 1) := dk_3 (dk_at dksX0_chainOf_0 21 rfl rfl)
theorem dX0_chainOf_22 : decode cX0_chainOf 22 = .ok (.ireturn, 1) := dk_172 (dk_at dksX0_chainOf_0 22 rfl rfl)
abbrev cX0_reach : ByteArray := method_16_code
def yX0_reach : MethodName := ⟨RX0, "reach", "(LMissingMiddles;IZ[J)I"⟩
def dkwX0_reach_0 : List UInt8 := [45, 3, 42, 27, 28, 182, 0, 61, 133, 80, 167, 0, 7, 58, 4, 4, 172, 3, 172]
abbrev dktX0_reach_0 : List UInt8 := dkwX0_reach_0 ++ []
theorem dksX0_reach_0 : cX0_reach.data.toList.drop 0 = dktX0_reach_0 := by decide +kernel
theorem dX0_reach_0 : decode cX0_reach 0 = .ok (.aload_n 3, 1) := dk_45 (dk_at dksX0_reach_0 0 rfl rfl)
theorem dX0_reach_1 : decode cX0_reach 1 = .ok (.iconst 0, 1) := dk_3 (dk_at dksX0_reach_0 1 rfl rfl)
theorem dX0_reach_2 : decode cX0_reach 2 = .ok (.aload_n 0, 1) := dk_42 (dk_at dksX0_reach_0 2 rfl rfl)
theorem dX0_reach_3 : decode cX0_reach 3 = .ok (.iload_n 1, 1) := dk_27 (dk_at dksX0_reach_0 3 rfl rfl)
theorem dX0_reach_4 : decode cX0_reach 4 = .ok (.iload_n 2, 1) := dk_28 (dk_at dksX0_reach_0 4 rfl rfl)
theorem dX0_reach_5 : decode cX0_reach 5 = .ok (.invokevirtual 61, 3) := dk_182 0 61 (dk_at dksX0_reach_0 5 rfl rfl)
theorem dX0_reach_8 : decode cX0_reach 8 = .ok (.i2l, 1) := dk_133 (dk_at dksX0_reach_0 8 rfl rfl)
theorem dX0_reach_9 : decode cX0_reach 9 = .ok (.lastore, 1) := dk_80 (dk_at dksX0_reach_0 9 rfl rfl)
theorem dX0_reach_10 : decode cX0_reach 10 = .ok (.goto 7, 3) := dk_167 0 7 (dk_at dksX0_reach_0 10 rfl rfl)
theorem dX0_reach_13 : decode cX0_reach 13 = .ok (.astore 4, 2) := dk_58 4 (dk_at dksX0_reach_0 13 rfl rfl)
theorem dX0_reach_15 : decode cX0_reach 15 = .ok (.iconst 1, 1) := dk_4 (dk_at dksX0_reach_0 15 rfl rfl)
theorem dX0_reach_16 : decode cX0_reach 16 = .ok (.ireturn, 1) := dk_172 (dk_at dksX0_reach_0 16 rfl rfl)
theorem dX0_reach_17 : decode cX0_reach 17 = .ok (.iconst 0, 1) := dk_3 (dk_at dksX0_reach_0 17 rfl rfl)
theorem dX0_reach_18 : decode cX0_reach 18 = .ok (.ireturn, 1) := dk_172 (dk_at dksX0_reach_0 18 rfl rfl)
abbrev cX0_needed : ByteArray := method_17_code
def yX0_needed : MethodName := ⟨RX0, "needed", "(LMissingMiddles;I[J)I"⟩
def dkwX0_needed_0 : List UInt8 := [44, 3, 42, 27, 182, 0, 64, 133, 80, 167, 0, 6, 78, 4, 172, 3, 172]
abbrev dktX0_needed_0 : List UInt8 := dkwX0_needed_0 ++ []
theorem dksX0_needed_0 : cX0_needed.data.toList.drop 0 = dktX0_needed_0 := by decide +kernel
theorem dX0_needed_0 : decode cX0_needed 0 = .ok (.aload_n 2, 1) := dk_44 (dk_at dksX0_needed_0 0 rfl rfl)
theorem dX0_needed_1 : decode cX0_needed 1 = .ok (.iconst 0, 1) := dk_3 (dk_at dksX0_needed_0 1 rfl rfl)
theorem dX0_needed_2 : decode cX0_needed 2 = .ok (.aload_n 0, 1) := dk_42 (dk_at dksX0_needed_0 2 rfl rfl)
theorem dX0_needed_3 : decode cX0_needed 3 = .ok (.iload_n 1, 1) := dk_27 (dk_at dksX0_needed_0 3 rfl rfl)
theorem dX0_needed_4 : decode cX0_needed 4 = .ok (.invokevirtual 64, 3) := dk_182 0 64 (dk_at dksX0_needed_0 4 rfl rfl)
theorem dX0_needed_7 : decode cX0_needed 7 = .ok (.i2l, 1) := dk_133 (dk_at dksX0_needed_0 7 rfl rfl)
theorem dX0_needed_8 : decode cX0_needed 8 = .ok (.lastore, 1) := dk_80 (dk_at dksX0_needed_0 8 rfl rfl)
theorem dX0_needed_9 : decode cX0_needed 9 = .ok (.goto 6, 3) := dk_167 0 6 (dk_at dksX0_needed_0 9 rfl rfl)
theorem dX0_needed_12 : decode cX0_needed 12 = .ok (.astore_n 3, 1) := dk_78 (dk_at dksX0_needed_0 12 rfl rfl)
theorem dX0_needed_13 : decode cX0_needed 13 = .ok (.iconst 1, 1) := dk_4 (dk_at dksX0_needed_0 13 rfl rfl)
theorem dX0_needed_14 : decode cX0_needed 14 = .ok (.ireturn, 1) := dk_172 (dk_at dksX0_needed_0 14 rfl rfl)
theorem dX0_needed_15 : decode cX0_needed 15 = .ok (.iconst 0, 1) := dk_3 (dk_at dksX0_needed_0 15 rfl rfl)
theorem dX0_needed_16 : decode cX0_needed 16 = .ok (.ireturn, 1) := dk_172 (dk_at dksX0_needed_0 16 rfl rfl)
abbrev cX0_without : ByteArray := method_18_code
def yX0_without : MethodName := ⟨RX0, "without", "(LMissingMiddles;II[J)I"⟩
def dkwX0_without_0 : List UInt8 := [45, 3, 42, 27, 28, 182, 0, 67, 133, 80, 167, 0, 7, 58, 4, 4, 172, 3, 172]
abbrev dktX0_without_0 : List UInt8 := dkwX0_without_0 ++ []
theorem dksX0_without_0 : cX0_without.data.toList.drop 0 = dktX0_without_0 := by decide +kernel
theorem dX0_without_0 : decode cX0_without 0 = .ok (.aload_n 3, 1) := dk_45 (dk_at dksX0_without_0 0 rfl rfl)
theorem dX0_without_1 : decode cX0_without 1 = .ok (.iconst 0, 1) := dk_3 (dk_at dksX0_without_0 1 rfl rfl)
theorem dX0_without_2 : decode cX0_without 2 = .ok (.aload_n 0, 1) := dk_42 (dk_at dksX0_without_0 2 rfl rfl)
theorem dX0_without_3 : decode cX0_without 3 = .ok (.iload_n 1, 1) := dk_27 (dk_at dksX0_without_0 3 rfl rfl)
theorem dX0_without_4 : decode cX0_without 4 = .ok (.iload_n 2, 1) := dk_28 (dk_at dksX0_without_0 4 rfl rfl)
theorem dX0_without_5 : decode cX0_without 5 = .ok (.invokevirtual 67, 3) := dk_182 0 67 (dk_at dksX0_without_0 5 rfl rfl)
theorem dX0_without_8 : decode cX0_without 8 = .ok (.i2l, 1) := dk_133 (dk_at dksX0_without_0 8 rfl rfl)
theorem dX0_without_9 : decode cX0_without 9 = .ok (.lastore, 1) := dk_80 (dk_at dksX0_without_0 9 rfl rfl)
theorem dX0_without_10 : decode cX0_without 10 = .ok (.goto 7, 3) := dk_167 0 7 (dk_at dksX0_without_0 10 rfl rfl)
theorem dX0_without_13 : decode cX0_without 13 = .ok (.astore 4, 2) := dk_58 4 (dk_at dksX0_without_0 13 rfl rfl)
theorem dX0_without_15 : decode cX0_without 15 = .ok (.iconst 1, 1) := dk_4 (dk_at dksX0_without_0 15 rfl rfl)
theorem dX0_without_16 : decode cX0_without 16 = .ok (.ireturn, 1) := dk_172 (dk_at dksX0_without_0 16 rfl rfl)
theorem dX0_without_17 : decode cX0_without 17 = .ok (.iconst 0, 1) := dk_3 (dk_at dksX0_without_0 17 rfl rfl)
theorem dX0_without_18 : decode cX0_without 18 = .ok (.ireturn, 1) := dk_172 (dk_at dksX0_without_0 18 rfl rfl)
abbrev cX0_would : ByteArray := method_19_code
def yX0_would : MethodName := ⟨RX0, "would", "(LMissingMiddles;II[J)I"⟩
def dkwX0_would_0 : List UInt8 := [45, 3, 42, 27, 28, 182, 0, 70, 133, 80, 167, 0, 11, 58, 4, 4, 172, 58, 4, 5, 172, 3, 172]
abbrev dktX0_would_0 : List UInt8 := dkwX0_would_0 ++ []
theorem dksX0_would_0 : cX0_would.data.toList.drop 0 = dktX0_would_0 := by decide +kernel
theorem dX0_would_0 : decode cX0_would 0 = .ok (.aload_n 3, 1) := dk_45 (dk_at dksX0_would_0 0 rfl rfl)
theorem dX0_would_1 : decode cX0_would 1 = .ok (.iconst 0, 1) := dk_3 (dk_at dksX0_would_0 1 rfl rfl)
theorem dX0_would_2 : decode cX0_would 2 = .ok (.aload_n 0, 1) := dk_42 (dk_at dksX0_would_0 2 rfl rfl)
theorem dX0_would_3 : decode cX0_would 3 = .ok (.iload_n 1, 1) := dk_27 (dk_at dksX0_would_0 3 rfl rfl)
theorem dX0_would_4 : decode cX0_would 4 = .ok (.iload_n 2, 1) := dk_28 (dk_at dksX0_would_0 4 rfl rfl)
theorem dX0_would_5 : decode cX0_would 5 = .ok (.invokevirtual 70, 3) := dk_182 0 70 (dk_at dksX0_would_0 5 rfl rfl)
theorem dX0_would_8 : decode cX0_would 8 = .ok (.i2l, 1) := dk_133 (dk_at dksX0_would_0 8 rfl rfl)
theorem dX0_would_9 : decode cX0_would 9 = .ok (.lastore, 1) := dk_80 (dk_at dksX0_would_0 9 rfl rfl)
theorem dX0_would_10 : decode cX0_would 10 = .ok (.goto 11, 3) := dk_167 0 11 (dk_at dksX0_would_0 10 rfl rfl)
theorem dX0_would_13 : decode cX0_would 13 = .ok (.astore 4, 2) := dk_58 4 (dk_at dksX0_would_0 13 rfl rfl)
theorem dX0_would_15 : decode cX0_would 15 = .ok (.iconst 1, 1) := dk_4 (dk_at dksX0_would_0 15 rfl rfl)
theorem dX0_would_16 : decode cX0_would 16 = .ok (.ireturn, 1) := dk_172 (dk_at dksX0_would_0 16 rfl rfl)
theorem dX0_would_17 : decode cX0_would 17 = .ok (.astore 4, 2) := dk_58 4 (dk_at dksX0_would_0 17 rfl rfl)
theorem dX0_would_19 : decode cX0_would 19 = .ok (.iconst 2, 1) := dk_5 (dk_at dksX0_would_0 19 rfl rfl)
theorem dX0_would_20 : decode cX0_would 20 = .ok (.ireturn, 1) := dk_172 (dk_at dksX0_would_0 20 rfl rfl)
theorem dX0_would_21 : decode cX0_would 21 = .ok (.iconst 0, 1) := dk_3 (dk_at dksX0_would_0 21 rfl rfl)
theorem dX0_would_22 : decode cX0_would 22 = .ok (.ireturn, 1) := dk_172 (dk_at dksX0_would_0 22 rfl rfl)
abbrev cX0_ranked : ByteArray := method_20_code
def yX0_ranked : MethodName := ⟨RX0, "ranked", "(LMissingMiddles;I[J)I"⟩
def dkwX0_ranked_0 : List UInt8 := [44, 3, 42, 27, 182, 0, 73, 133, 80, 167, 0, 6, 78, 4, 172, 3, 172]
abbrev dktX0_ranked_0 : List UInt8 := dkwX0_ranked_0 ++ []
theorem dksX0_ranked_0 : cX0_ranked.data.toList.drop 0 = dktX0_ranked_0 := by decide +kernel
theorem dX0_ranked_0 : decode cX0_ranked 0 = .ok (.aload_n 2, 1) := dk_44 (dk_at dksX0_ranked_0 0 rfl rfl)
theorem dX0_ranked_1 : decode cX0_ranked 1 = .ok (.iconst 0, 1) := dk_3 (dk_at dksX0_ranked_0 1 rfl rfl)
theorem dX0_ranked_2 : decode cX0_ranked 2 = .ok (.aload_n 0, 1) := dk_42 (dk_at dksX0_ranked_0 2 rfl rfl)
theorem dX0_ranked_3 : decode cX0_ranked 3 = .ok (.iload_n 1, 1) := dk_27 (dk_at dksX0_ranked_0 3 rfl rfl)
theorem dX0_ranked_4 : decode cX0_ranked 4 = .ok (.invokevirtual 73, 3) := dk_182 0 73 (dk_at dksX0_ranked_0 4 rfl rfl)
theorem dX0_ranked_7 : decode cX0_ranked 7 = .ok (.i2l, 1) := dk_133 (dk_at dksX0_ranked_0 7 rfl rfl)
theorem dX0_ranked_8 : decode cX0_ranked 8 = .ok (.lastore, 1) := dk_80 (dk_at dksX0_ranked_0 8 rfl rfl)
theorem dX0_ranked_9 : decode cX0_ranked 9 = .ok (.goto 6, 3) := dk_167 0 6 (dk_at dksX0_ranked_0 9 rfl rfl)
theorem dX0_ranked_12 : decode cX0_ranked 12 = .ok (.astore_n 3, 1) := dk_78 (dk_at dksX0_ranked_0 12 rfl rfl)
theorem dX0_ranked_13 : decode cX0_ranked 13 = .ok (.iconst 1, 1) := dk_4 (dk_at dksX0_ranked_0 13 rfl rfl)
theorem dX0_ranked_14 : decode cX0_ranked 14 = .ok (.ireturn, 1) := dk_172 (dk_at dksX0_ranked_0 14 rfl rfl)
theorem dX0_ranked_15 : decode cX0_ranked 15 = .ok (.iconst 0, 1) := dk_3 (dk_at dksX0_ranked_0 15 rfl rfl)
theorem dX0_ranked_16 : decode cX0_ranked 16 = .ok (.ireturn, 1) := dk_172 (dk_at dksX0_ranked_0 16 rfl rfl)
abbrev cX0_mend : ByteArray := method_21_code
def yX0_mend : MethodName := ⟨RX0, "mend", "(LMissingMiddles;I[J)I"⟩
def dkwX0_mend_0 : List UInt8 := [44, 3, 42, 27, 182, 0, 76, 133, 80, 167, 0, 9, 78, 4, 172, 78, 5, 172, 3, 172]
abbrev dktX0_mend_0 : List UInt8 := dkwX0_mend_0 ++ []
theorem dksX0_mend_0 : cX0_mend.data.toList.drop 0 = dktX0_mend_0 := by decide +kernel
theorem dX0_mend_0 : decode cX0_mend 0 = .ok (.aload_n 2, 1) := dk_44 (dk_at dksX0_mend_0 0 rfl rfl)
theorem dX0_mend_1 : decode cX0_mend 1 = .ok (.iconst 0, 1) := dk_3 (dk_at dksX0_mend_0 1 rfl rfl)
theorem dX0_mend_2 : decode cX0_mend 2 = .ok (.aload_n 0, 1) := dk_42 (dk_at dksX0_mend_0 2 rfl rfl)
theorem dX0_mend_3 : decode cX0_mend 3 = .ok (.iload_n 1, 1) := dk_27 (dk_at dksX0_mend_0 3 rfl rfl)
theorem dX0_mend_4 : decode cX0_mend 4 = .ok (.invokevirtual 76, 3) := dk_182 0 76 (dk_at dksX0_mend_0 4 rfl rfl)
theorem dX0_mend_7 : decode cX0_mend 7 = .ok (.i2l, 1) := dk_133 (dk_at dksX0_mend_0 7 rfl rfl)
theorem dX0_mend_8 : decode cX0_mend 8 = .ok (.lastore, 1) := dk_80 (dk_at dksX0_mend_0 8 rfl rfl)
theorem dX0_mend_9 : decode cX0_mend 9 = .ok (.goto 9, 3) := dk_167 0 9 (dk_at dksX0_mend_0 9 rfl rfl)
theorem dX0_mend_12 : decode cX0_mend 12 = .ok (.astore_n 3, 1) := dk_78 (dk_at dksX0_mend_0 12 rfl rfl)
theorem dX0_mend_13 : decode cX0_mend 13 = .ok (.iconst 1, 1) := dk_4 (dk_at dksX0_mend_0 13 rfl rfl)
theorem dX0_mend_14 : decode cX0_mend 14 = .ok (.ireturn, 1) := dk_172 (dk_at dksX0_mend_0 14 rfl rfl)
theorem dX0_mend_15 : decode cX0_mend 15 = .ok (.astore_n 3, 1) := dk_78 (dk_at dksX0_mend_0 15 rfl rfl)
theorem dX0_mend_16 : decode cX0_mend 16 = .ok (.iconst 2, 1) := dk_5 (dk_at dksX0_mend_0 16 rfl rfl)
theorem dX0_mend_17 : decode cX0_mend 17 = .ok (.ireturn, 1) := dk_172 (dk_at dksX0_mend_0 17 rfl rfl)
theorem dX0_mend_18 : decode cX0_mend 18 = .ok (.iconst 0, 1) := dk_3 (dk_at dksX0_mend_0 18 rfl rfl)
theorem dX0_mend_19 : decode cX0_mend 19 = .ok (.ireturn, 1) := dk_172 (dk_at dksX0_mend_0 19 rfl rfl)
abbrev cX0_earn : ByteArray := method_22_code
def yX0_earn : MethodName := ⟨RX0, "earn", "(LMissingMiddles;I[J)I"⟩
def dkwX0_earn_0 : List UInt8 := [44, 3, 42, 27, 182, 0, 79, 133, 80, 167, 0, 6, 78, 4, 172, 3, 172]
abbrev dktX0_earn_0 : List UInt8 := dkwX0_earn_0 ++ []
theorem dksX0_earn_0 : cX0_earn.data.toList.drop 0 = dktX0_earn_0 := by decide +kernel
theorem dX0_earn_0 : decode cX0_earn 0 = .ok (.aload_n 2, 1) := dk_44 (dk_at dksX0_earn_0 0 rfl rfl)
theorem dX0_earn_1 : decode cX0_earn 1 = .ok (.iconst 0, 1) := dk_3 (dk_at dksX0_earn_0 1 rfl rfl)
theorem dX0_earn_2 : decode cX0_earn 2 = .ok (.aload_n 0, 1) := dk_42 (dk_at dksX0_earn_0 2 rfl rfl)
theorem dX0_earn_3 : decode cX0_earn 3 = .ok (.iload_n 1, 1) := dk_27 (dk_at dksX0_earn_0 3 rfl rfl)
theorem dX0_earn_4 : decode cX0_earn 4 = .ok (.invokevirtual 79, 3) := dk_182 0 79 (dk_at dksX0_earn_0 4 rfl rfl)
theorem dX0_earn_7 : decode cX0_earn 7 = .ok (.i2l, 1) := dk_133 (dk_at dksX0_earn_0 7 rfl rfl)
theorem dX0_earn_8 : decode cX0_earn 8 = .ok (.lastore, 1) := dk_80 (dk_at dksX0_earn_0 8 rfl rfl)
theorem dX0_earn_9 : decode cX0_earn 9 = .ok (.goto 6, 3) := dk_167 0 6 (dk_at dksX0_earn_0 9 rfl rfl)
theorem dX0_earn_12 : decode cX0_earn 12 = .ok (.astore_n 3, 1) := dk_78 (dk_at dksX0_earn_0 12 rfl rfl)
theorem dX0_earn_13 : decode cX0_earn 13 = .ok (.iconst 1, 1) := dk_4 (dk_at dksX0_earn_0 13 rfl rfl)
theorem dX0_earn_14 : decode cX0_earn 14 = .ok (.ireturn, 1) := dk_172 (dk_at dksX0_earn_0 14 rfl rfl)
theorem dX0_earn_15 : decode cX0_earn 15 = .ok (.iconst 0, 1) := dk_3 (dk_at dksX0_earn_0 15 rfl rfl)
theorem dX0_earn_16 : decode cX0_earn 16 = .ok (.ireturn, 1) := dk_172 (dk_at dksX0_earn_0 16 rfl rfl)
abbrev cX0_price : ByteArray := method_23_code
def yX0_price : MethodName := ⟨RX0, "price", "(LMissingMiddles;I[J)I"⟩
def dkwX0_price_0 : List UInt8 := [44, 3, 42, 27, 182, 0, 82, 133, 80, 167, 0, 6, 78, 4, 172, 3, 172]
abbrev dktX0_price_0 : List UInt8 := dkwX0_price_0 ++ []
theorem dksX0_price_0 : cX0_price.data.toList.drop 0 = dktX0_price_0 := by decide +kernel
theorem dX0_price_0 : decode cX0_price 0 = .ok (.aload_n 2, 1) := dk_44 (dk_at dksX0_price_0 0 rfl rfl)
theorem dX0_price_1 : decode cX0_price 1 = .ok (.iconst 0, 1) := dk_3 (dk_at dksX0_price_0 1 rfl rfl)
theorem dX0_price_2 : decode cX0_price 2 = .ok (.aload_n 0, 1) := dk_42 (dk_at dksX0_price_0 2 rfl rfl)
theorem dX0_price_3 : decode cX0_price 3 = .ok (.iload_n 1, 1) := dk_27 (dk_at dksX0_price_0 3 rfl rfl)
theorem dX0_price_4 : decode cX0_price 4 = .ok (.invokevirtual 82, 3) := dk_182 0 82 (dk_at dksX0_price_0 4 rfl rfl)
theorem dX0_price_7 : decode cX0_price 7 = .ok (.i2l, 1) := dk_133 (dk_at dksX0_price_0 7 rfl rfl)
theorem dX0_price_8 : decode cX0_price 8 = .ok (.lastore, 1) := dk_80 (dk_at dksX0_price_0 8 rfl rfl)
theorem dX0_price_9 : decode cX0_price 9 = .ok (.goto 6, 3) := dk_167 0 6 (dk_at dksX0_price_0 9 rfl rfl)
theorem dX0_price_12 : decode cX0_price 12 = .ok (.astore_n 3, 1) := dk_78 (dk_at dksX0_price_0 12 rfl rfl)
theorem dX0_price_13 : decode cX0_price 13 = .ok (.iconst 1, 1) := dk_4 (dk_at dksX0_price_0 13 rfl rfl)
theorem dX0_price_14 : decode cX0_price 14 = .ok (.ireturn, 1) := dk_172 (dk_at dksX0_price_0 14 rfl rfl)
theorem dX0_price_15 : decode cX0_price 15 = .ok (.iconst 0, 1) := dk_3 (dk_at dksX0_price_0 15 rfl rfl)
theorem dX0_price_16 : decode cX0_price 16 = .ok (.ireturn, 1) := dk_172 (dk_at dksX0_price_0 16 rfl rfl)
abbrev cX0_line : ByteArray := method_24_code
def yX0_line : MethodName := ⟨RX0, "line", "(LMissingMiddles;I[J)I"⟩
def dkwX0_line_0 : List UInt8 := [44, 3, 42, 27, 182, 0, 85, 133, 80, 167, 0, 6, 78, 4, 172, 3, 172]
abbrev dktX0_line_0 : List UInt8 := dkwX0_line_0 ++ []
theorem dksX0_line_0 : cX0_line.data.toList.drop 0 = dktX0_line_0 := by decide +kernel
theorem dX0_line_0 : decode cX0_line 0 = .ok (.aload_n 2, 1) := dk_44 (dk_at dksX0_line_0 0 rfl rfl)
theorem dX0_line_1 : decode cX0_line 1 = .ok (.iconst 0, 1) := dk_3 (dk_at dksX0_line_0 1 rfl rfl)
theorem dX0_line_2 : decode cX0_line 2 = .ok (.aload_n 0, 1) := dk_42 (dk_at dksX0_line_0 2 rfl rfl)
theorem dX0_line_3 : decode cX0_line 3 = .ok (.iload_n 1, 1) := dk_27 (dk_at dksX0_line_0 3 rfl rfl)
theorem dX0_line_4 : decode cX0_line 4 = .ok (.invokevirtual 85, 3) := dk_182 0 85 (dk_at dksX0_line_0 4 rfl rfl)
theorem dX0_line_7 : decode cX0_line 7 = .ok (.i2l, 1) := dk_133 (dk_at dksX0_line_0 7 rfl rfl)
theorem dX0_line_8 : decode cX0_line 8 = .ok (.lastore, 1) := dk_80 (dk_at dksX0_line_0 8 rfl rfl)
theorem dX0_line_9 : decode cX0_line 9 = .ok (.goto 6, 3) := dk_167 0 6 (dk_at dksX0_line_0 9 rfl rfl)
theorem dX0_line_12 : decode cX0_line 12 = .ok (.astore_n 3, 1) := dk_78 (dk_at dksX0_line_0 12 rfl rfl)
theorem dX0_line_13 : decode cX0_line 13 = .ok (.iconst 1, 1) := dk_4 (dk_at dksX0_line_0 13 rfl rfl)
theorem dX0_line_14 : decode cX0_line 14 = .ok (.ireturn, 1) := dk_172 (dk_at dksX0_line_0 14 rfl rfl)
theorem dX0_line_15 : decode cX0_line 15 = .ok (.iconst 0, 1) := dk_3 (dk_at dksX0_line_0 15 rfl rfl)
theorem dX0_line_16 : decode cX0_line 16 = .ok (.ireturn, 1) := dk_172 (dk_at dksX0_line_0 16 rfl rfl)
abbrev cX0_scrapLine : ByteArray := method_25_code
def yX0_scrapLine : MethodName := ⟨RX0, "scrapLine", "(LMissingMiddles;I[J)I"⟩
def dkwX0_scrapLine_0 : List UInt8 := [44, 3, 42, 27, 182, 0, 88, 133, 80, 167, 0, 6, 78, 4, 172, 3, 172]
abbrev dktX0_scrapLine_0 : List UInt8 := dkwX0_scrapLine_0 ++ []
theorem dksX0_scrapLine_0 : cX0_scrapLine.data.toList.drop 0 = dktX0_scrapLine_0 := by decide +kernel
theorem dX0_scrapLine_0 : decode cX0_scrapLine 0 = .ok (.aload_n 2, 1) := dk_44 (dk_at dksX0_scrapLine_0 0 rfl rfl)
theorem dX0_scrapLine_1 : decode cX0_scrapLine 1 = .ok (.iconst 0, 1) := dk_3 (dk_at dksX0_scrapLine_0 1 rfl rfl)
theorem dX0_scrapLine_2 : decode cX0_scrapLine 2 = .ok (.aload_n 0, 1) := dk_42 (dk_at dksX0_scrapLine_0 2 rfl rfl)
theorem dX0_scrapLine_3 : decode cX0_scrapLine 3 = .ok (.iload_n 1, 1) := dk_27 (dk_at dksX0_scrapLine_0 3 rfl rfl)
theorem dX0_scrapLine_4 : decode cX0_scrapLine 4 = .ok (.invokevirtual 88, 3) := dk_182 0 88 (dk_at dksX0_scrapLine_0 4 rfl rfl)
theorem dX0_scrapLine_7 : decode cX0_scrapLine 7 = .ok (.i2l, 1) := dk_133 (dk_at dksX0_scrapLine_0 7 rfl rfl)
theorem dX0_scrapLine_8 : decode cX0_scrapLine 8 = .ok (.lastore, 1) := dk_80 (dk_at dksX0_scrapLine_0 8 rfl rfl)
theorem dX0_scrapLine_9 : decode cX0_scrapLine 9 = .ok (.goto 6, 3) := dk_167 0 6 (dk_at dksX0_scrapLine_0 9 rfl rfl)
theorem dX0_scrapLine_12 : decode cX0_scrapLine 12 = .ok (.astore_n 3, 1) := dk_78 (dk_at dksX0_scrapLine_0 12 rfl rfl)
theorem dX0_scrapLine_13 : decode cX0_scrapLine 13 = .ok (.iconst 1, 1) := dk_4 (dk_at dksX0_scrapLine_0 13 rfl rfl)
theorem dX0_scrapLine_14 : decode cX0_scrapLine 14 = .ok (.ireturn, 1) := dk_172 (dk_at dksX0_scrapLine_0 14 rfl rfl)
theorem dX0_scrapLine_15 : decode cX0_scrapLine 15 = .ok (.iconst 0, 1) := dk_3 (dk_at dksX0_scrapLine_0 15 rfl rfl)
theorem dX0_scrapLine_16 : decode cX0_scrapLine 16 = .ok (.ireturn, 1) := dk_172 (dk_at dksX0_scrapLine_0 16 rfl rfl)
abbrev cX0_chainLine : ByteArray := method_26_code
def yX0_chainLine : MethodName := ⟨RX0, "chainLine", "(LMissingMiddles;I[J)I"⟩
def dkwX0_chainLine_0 : List UInt8 := [44, 3, 42, 27, 182, 0, 91, 133, 80, 167, 0, 9, 78, 4, 172, 78, 5, 172, 3, 172]
abbrev dktX0_chainLine_0 : List UInt8 := dkwX0_chainLine_0 ++ []
theorem dksX0_chainLine_0 : cX0_chainLine.data.toList.drop 0 = dktX0_chainLine_0 := by decide +kernel
theorem dX0_chainLine_0 : decode cX0_chainLine 0 = .ok (.aload_n 2, 1) := dk_44 (dk_at dksX0_chainLine_0 0 rfl rfl)
theorem dX0_chainLine_1 : decode cX0_chainLine 1 = .ok (.iconst 0, 1) := dk_3 (dk_at dksX0_chainLine_0 1 rfl rfl)
theorem dX0_chainLine_2 : decode cX0_chainLine 2 = .ok (.aload_n 0, 1) := dk_42 (dk_at dksX0_chainLine_0 2 rfl rfl)
theorem dX0_chainLine_3 : decode cX0_chainLine 3 = .ok (.iload_n 1, 1) := dk_27 (dk_at dksX0_chainLine_0 3 rfl rfl)
theorem dX0_chainLine_4 : decode cX0_chainLine 4 = .ok (.invokevirtual 91, 3) := dk_182 0 91 (dk_at dksX0_chainLine_0 4 rfl rfl)
theorem dX0_chainLine_7 : decode cX0_chainLine 7 = .ok (.i2l, 1) := dk_133 (dk_at dksX0_chainLine_0 7 rfl rfl)
theorem dX0_chainLine_8 : decode cX0_chainLine 8 = .ok (.lastore, 1) := dk_80 (dk_at dksX0_chainLine_0 8 rfl rfl)
theorem dX0_chainLine_9 : decode cX0_chainLine 9 = .ok (.goto 9, 3) := dk_167 0 9 (dk_at dksX0_chainLine_0 9 rfl rfl)
theorem dX0_chainLine_12 : decode cX0_chainLine 12 = .ok (.astore_n 3, 1) := dk_78 (dk_at dksX0_chainLine_0 12 rfl rfl)
theorem dX0_chainLine_13 : decode cX0_chainLine 13 = .ok (.iconst 1, 1) := dk_4 (dk_at dksX0_chainLine_0 13 rfl rfl)
theorem dX0_chainLine_14 : decode cX0_chainLine 14 = .ok (.ireturn, 1) := dk_172 (dk_at dksX0_chainLine_0 14 rfl rfl)
theorem dX0_chainLine_15 : decode cX0_chainLine 15 = .ok (.astore_n 3, 1) := dk_78 (dk_at dksX0_chainLine_0 15 rfl rfl)
theorem dX0_chainLine_16 : decode cX0_chainLine 16 = .ok (.iconst 2, 1) := dk_5 (dk_at dksX0_chainLine_0 16 rfl rfl)
theorem dX0_chainLine_17 : decode cX0_chainLine 17 = .ok (.ireturn, 1) := dk_172 (dk_at dksX0_chainLine_0 17 rfl rfl)
theorem dX0_chainLine_18 : decode cX0_chainLine 18 = .ok (.iconst 0, 1) := dk_3 (dk_at dksX0_chainLine_0 18 rfl rfl)
theorem dX0_chainLine_19 : decode cX0_chainLine 19 = .ok (.ireturn, 1) := dk_172 (dk_at dksX0_chainLine_0 19 rfl rfl)
abbrev cX0_character : ByteArray := method_27_code
def yX0_character : MethodName := ⟨RX0, "character", "(LMissingMiddles;I[J)I"⟩
def dkwX0_character_0 : List UInt8 := [44, 3, 42, 27, 182, 0, 94, 133, 80, 167, 0, 6, 78, 4, 172, 3, 172]
abbrev dktX0_character_0 : List UInt8 := dkwX0_character_0 ++ []
theorem dksX0_character_0 : cX0_character.data.toList.drop 0 = dktX0_character_0 := by decide +kernel
theorem dX0_character_0 : decode cX0_character 0 = .ok (.aload_n 2, 1) := dk_44 (dk_at dksX0_character_0 0 rfl rfl)
theorem dX0_character_1 : decode cX0_character 1 = .ok (.iconst 0, 1) := dk_3 (dk_at dksX0_character_0 1 rfl rfl)
theorem dX0_character_2 : decode cX0_character 2 = .ok (.aload_n 0, 1) := dk_42 (dk_at dksX0_character_0 2 rfl rfl)
theorem dX0_character_3 : decode cX0_character 3 = .ok (.iload_n 1, 1) := dk_27 (dk_at dksX0_character_0 3 rfl rfl)
theorem dX0_character_4 : decode cX0_character 4 = .ok (.invokevirtual 94, 3) := dk_182 0 94 (dk_at dksX0_character_0 4 rfl rfl)
theorem dX0_character_7 : decode cX0_character 7 = .ok (.i2l, 1) := dk_133 (dk_at dksX0_character_0 7 rfl rfl)
theorem dX0_character_8 : decode cX0_character 8 = .ok (.lastore, 1) := dk_80 (dk_at dksX0_character_0 8 rfl rfl)
theorem dX0_character_9 : decode cX0_character 9 = .ok (.goto 6, 3) := dk_167 0 6 (dk_at dksX0_character_0 9 rfl rfl)
theorem dX0_character_12 : decode cX0_character 12 = .ok (.astore_n 3, 1) := dk_78 (dk_at dksX0_character_0 12 rfl rfl)
theorem dX0_character_13 : decode cX0_character 13 = .ok (.iconst 1, 1) := dk_4 (dk_at dksX0_character_0 13 rfl rfl)
theorem dX0_character_14 : decode cX0_character 14 = .ok (.ireturn, 1) := dk_172 (dk_at dksX0_character_0 14 rfl rfl)
theorem dX0_character_15 : decode cX0_character 15 = .ok (.iconst 0, 1) := dk_3 (dk_at dksX0_character_0 15 rfl rfl)
theorem dX0_character_16 : decode cX0_character 16 = .ok (.ireturn, 1) := dk_172 (dk_at dksX0_character_0 16 rfl rfl)
abbrev cX0_refusal : ByteArray := method_28_code
def yX0_refusal : MethodName := ⟨RX0, "refusal", "(LMissingMiddles;ZZ[J)I"⟩
def dkwX0_refusal_0 : List UInt8 := [45, 3, 42, 27, 28, 182, 0, 98, 133, 80, 167, 0, 11, 58, 4, 4, 172, 58, 4, 5, 172, 3, 172]
abbrev dktX0_refusal_0 : List UInt8 := dkwX0_refusal_0 ++ []
theorem dksX0_refusal_0 : cX0_refusal.data.toList.drop 0 = dktX0_refusal_0 := by decide +kernel
theorem dX0_refusal_0 : decode cX0_refusal 0 = .ok (.aload_n 3, 1) := dk_45 (dk_at dksX0_refusal_0 0 rfl rfl)
theorem dX0_refusal_1 : decode cX0_refusal 1 = .ok (.iconst 0, 1) := dk_3 (dk_at dksX0_refusal_0 1 rfl rfl)
theorem dX0_refusal_2 : decode cX0_refusal 2 = .ok (.aload_n 0, 1) := dk_42 (dk_at dksX0_refusal_0 2 rfl rfl)
theorem dX0_refusal_3 : decode cX0_refusal 3 = .ok (.iload_n 1, 1) := dk_27 (dk_at dksX0_refusal_0 3 rfl rfl)
theorem dX0_refusal_4 : decode cX0_refusal 4 = .ok (.iload_n 2, 1) := dk_28 (dk_at dksX0_refusal_0 4 rfl rfl)
theorem dX0_refusal_5 : decode cX0_refusal 5 = .ok (.invokevirtual 98, 3) := dk_182 0 98 (dk_at dksX0_refusal_0 5 rfl rfl)
theorem dX0_refusal_8 : decode cX0_refusal 8 = .ok (.i2l, 1) := dk_133 (dk_at dksX0_refusal_0 8 rfl rfl)
theorem dX0_refusal_9 : decode cX0_refusal 9 = .ok (.lastore, 1) := dk_80 (dk_at dksX0_refusal_0 9 rfl rfl)
theorem dX0_refusal_10 : decode cX0_refusal 10 = .ok (.goto 11, 3) := dk_167 0 11 (dk_at dksX0_refusal_0 10 rfl rfl)
theorem dX0_refusal_13 : decode cX0_refusal 13 = .ok (.astore 4, 2) := dk_58 4 (dk_at dksX0_refusal_0 13 rfl rfl)
theorem dX0_refusal_15 : decode cX0_refusal 15 = .ok (.iconst 1, 1) := dk_4 (dk_at dksX0_refusal_0 15 rfl rfl)
theorem dX0_refusal_16 : decode cX0_refusal 16 = .ok (.ireturn, 1) := dk_172 (dk_at dksX0_refusal_0 16 rfl rfl)
theorem dX0_refusal_17 : decode cX0_refusal 17 = .ok (.astore 4, 2) := dk_58 4 (dk_at dksX0_refusal_0 17 rfl rfl)
theorem dX0_refusal_19 : decode cX0_refusal 19 = .ok (.iconst 2, 1) := dk_5 (dk_at dksX0_refusal_0 19 rfl rfl)
theorem dX0_refusal_20 : decode cX0_refusal 20 = .ok (.ireturn, 1) := dk_172 (dk_at dksX0_refusal_0 20 rfl rfl)
theorem dX0_refusal_21 : decode cX0_refusal 21 = .ok (.iconst 0, 1) := dk_3 (dk_at dksX0_refusal_0 21 rfl rfl)
theorem dX0_refusal_22 : decode cX0_refusal 22 = .ok (.ireturn, 1) := dk_172 (dk_at dksX0_refusal_0 22 rfl rfl)
abbrev cX0_account : ByteArray := method_29_code
def yX0_account : MethodName := ⟨RX0, "account", "(LMissingMiddles;I[J)I"⟩
def dkwX0_account_0 : List UInt8 := [44, 3, 42, 27, 182, 0, 104, 133, 80, 167, 0, 6, 78, 4, 172, 3, 172]
abbrev dktX0_account_0 : List UInt8 := dkwX0_account_0 ++ []
theorem dksX0_account_0 : cX0_account.data.toList.drop 0 = dktX0_account_0 := by decide +kernel
theorem dX0_account_0 : decode cX0_account 0 = .ok (.aload_n 2, 1) := dk_44 (dk_at dksX0_account_0 0 rfl rfl)
theorem dX0_account_1 : decode cX0_account 1 = .ok (.iconst 0, 1) := dk_3 (dk_at dksX0_account_0 1 rfl rfl)
theorem dX0_account_2 : decode cX0_account 2 = .ok (.aload_n 0, 1) := dk_42 (dk_at dksX0_account_0 2 rfl rfl)
theorem dX0_account_3 : decode cX0_account 3 = .ok (.iload_n 1, 1) := dk_27 (dk_at dksX0_account_0 3 rfl rfl)
theorem dX0_account_4 : decode cX0_account 4 = .ok (.invokevirtual 104, 3) := dk_182 0 104 (dk_at dksX0_account_0 4 rfl rfl)
theorem dX0_account_7 : decode cX0_account 7 = .ok (.i2l, 1) := dk_133 (dk_at dksX0_account_0 7 rfl rfl)
theorem dX0_account_8 : decode cX0_account 8 = .ok (.lastore, 1) := dk_80 (dk_at dksX0_account_0 8 rfl rfl)
theorem dX0_account_9 : decode cX0_account 9 = .ok (.goto 6, 3) := dk_167 0 6 (dk_at dksX0_account_0 9 rfl rfl)
theorem dX0_account_12 : decode cX0_account 12 = .ok (.astore_n 3, 1) := dk_78 (dk_at dksX0_account_0 12 rfl rfl)
theorem dX0_account_13 : decode cX0_account 13 = .ok (.iconst 1, 1) := dk_4 (dk_at dksX0_account_0 13 rfl rfl)
theorem dX0_account_14 : decode cX0_account 14 = .ok (.ireturn, 1) := dk_172 (dk_at dksX0_account_0 14 rfl rfl)
theorem dX0_account_15 : decode cX0_account 15 = .ok (.iconst 0, 1) := dk_3 (dk_at dksX0_account_0 15 rfl rfl)
theorem dX0_account_16 : decode cX0_account 16 = .ok (.ireturn, 1) := dk_172 (dk_at dksX0_account_0 16 rfl rfl)
abbrev cX0_wholeShare : ByteArray := method_30_code
def yX0_wholeShare : MethodName := ⟨RX0, "wholeShare", "(LMissingMiddles;[D)I"⟩
def dkwX0_wholeShare_0 : List UInt8 := [43, 3, 42, 182, 0, 107, 141, 82, 167, 0, 6, 77, 4, 172, 3, 172]
abbrev dktX0_wholeShare_0 : List UInt8 := dkwX0_wholeShare_0 ++ []
theorem dksX0_wholeShare_0 : cX0_wholeShare.data.toList.drop 0 = dktX0_wholeShare_0 := by decide +kernel
theorem dX0_wholeShare_0 : decode cX0_wholeShare 0 = .ok (.aload_n 1, 1) := dk_43 (dk_at dksX0_wholeShare_0 0 rfl rfl)
theorem dX0_wholeShare_1 : decode cX0_wholeShare 1 = .ok (.iconst 0, 1) := dk_3 (dk_at dksX0_wholeShare_0 1 rfl rfl)
theorem dX0_wholeShare_2 : decode cX0_wholeShare 2 = .ok (.aload_n 0, 1) := dk_42 (dk_at dksX0_wholeShare_0 2 rfl rfl)
theorem dX0_wholeShare_3 : decode cX0_wholeShare 3 = .ok (.invokevirtual 107, 3) := dk_182 0 107 (dk_at dksX0_wholeShare_0 3 rfl rfl)
theorem dX0_wholeShare_6 : decode cX0_wholeShare 6 = .ok (.f2d, 1) := dk_141 (dk_at dksX0_wholeShare_0 6 rfl rfl)
theorem dX0_wholeShare_7 : decode cX0_wholeShare 7 = .ok (.dastore, 1) := dk_82 (dk_at dksX0_wholeShare_0 7 rfl rfl)
theorem dX0_wholeShare_8 : decode cX0_wholeShare 8 = .ok (.goto 6, 3) := dk_167 0 6 (dk_at dksX0_wholeShare_0 8 rfl rfl)
theorem dX0_wholeShare_11 : decode cX0_wholeShare 11 = .ok (.astore_n 2, 1) := dk_77 (dk_at dksX0_wholeShare_0 11 rfl rfl)
theorem dX0_wholeShare_12 : decode cX0_wholeShare 12 = .ok (.iconst 1, 1) := dk_4 (dk_at dksX0_wholeShare_0 12 rfl rfl)
theorem dX0_wholeShare_13 : decode cX0_wholeShare 13 = .ok (.ireturn, 1) := dk_172 (dk_at dksX0_wholeShare_0 13 rfl rfl)
theorem dX0_wholeShare_14 : decode cX0_wholeShare 14 = .ok (.iconst 0, 1) := dk_3 (dk_at dksX0_wholeShare_0 14 rfl rfl)
theorem dX0_wholeShare_15 : decode cX0_wholeShare 15 = .ok (.ireturn, 1) := dk_172 (dk_at dksX0_wholeShare_0 15 rfl rfl)
abbrev cX0_append : ByteArray := method_31_code
def yX0_append : MethodName := ⟨RX0, "append", "(LMissingMiddles;I[J)I"⟩
def dkwX0_append_0 : List UInt8 := [44, 3, 42, 27, 182, 0, 113, 133, 80, 167, 0, 9, 78, 4, 172, 78, 5, 172, 3, 172]
abbrev dktX0_append_0 : List UInt8 := dkwX0_append_0 ++ []
theorem dksX0_append_0 : cX0_append.data.toList.drop 0 = dktX0_append_0 := by decide +kernel
theorem dX0_append_0 : decode cX0_append 0 = .ok (.aload_n 2, 1) := dk_44 (dk_at dksX0_append_0 0 rfl rfl)
theorem dX0_append_1 : decode cX0_append 1 = .ok (.iconst 0, 1) := dk_3 (dk_at dksX0_append_0 1 rfl rfl)
theorem dX0_append_2 : decode cX0_append 2 = .ok (.aload_n 0, 1) := dk_42 (dk_at dksX0_append_0 2 rfl rfl)
theorem dX0_append_3 : decode cX0_append 3 = .ok (.iload_n 1, 1) := dk_27 (dk_at dksX0_append_0 3 rfl rfl)
theorem dX0_append_4 : decode cX0_append 4 = .ok (.invokevirtual 113, 3) := dk_182 0 113 (dk_at dksX0_append_0 4 rfl rfl)
theorem dX0_append_7 : decode cX0_append 7 = .ok (.i2l, 1) := dk_133 (dk_at dksX0_append_0 7 rfl rfl)
theorem dX0_append_8 : decode cX0_append 8 = .ok (.lastore, 1) := dk_80 (dk_at dksX0_append_0 8 rfl rfl)
theorem dX0_append_9 : decode cX0_append 9 = .ok (.goto 9, 3) := dk_167 0 9 (dk_at dksX0_append_0 9 rfl rfl)
theorem dX0_append_12 : decode cX0_append 12 = .ok (.astore_n 3, 1) := dk_78 (dk_at dksX0_append_0 12 rfl rfl)
theorem dX0_append_13 : decode cX0_append 13 = .ok (.iconst 1, 1) := dk_4 (dk_at dksX0_append_0 13 rfl rfl)
theorem dX0_append_14 : decode cX0_append 14 = .ok (.ireturn, 1) := dk_172 (dk_at dksX0_append_0 14 rfl rfl)
theorem dX0_append_15 : decode cX0_append 15 = .ok (.astore_n 3, 1) := dk_78 (dk_at dksX0_append_0 15 rfl rfl)
theorem dX0_append_16 : decode cX0_append 16 = .ok (.iconst 2, 1) := dk_5 (dk_at dksX0_append_0 16 rfl rfl)
theorem dX0_append_17 : decode cX0_append 17 = .ok (.ireturn, 1) := dk_172 (dk_at dksX0_append_0 17 rfl rfl)
theorem dX0_append_18 : decode cX0_append 18 = .ok (.iconst 0, 1) := dk_3 (dk_at dksX0_append_0 18 rfl rfl)
theorem dX0_append_19 : decode cX0_append 19 = .ok (.ireturn, 1) := dk_172 (dk_at dksX0_append_0 19 rfl rfl)
abbrev cX0_read : ByteArray := method_32_code
def yX0_read : MethodName := ⟨RX0, "read", "(LMissingMiddles;[J)I"⟩
def dkwX0_read_0 : List UInt8 := [43, 3, 42, 182, 0, 116, 133, 80, 167, 0, 9, 77, 4, 172, 77, 5, 172, 3, 172]
abbrev dktX0_read_0 : List UInt8 := dkwX0_read_0 ++ []
theorem dksX0_read_0 : cX0_read.data.toList.drop 0 = dktX0_read_0 := by decide +kernel
theorem dX0_read_0 : decode cX0_read 0 = .ok (.aload_n 1, 1) := dk_43 (dk_at dksX0_read_0 0 rfl rfl)
theorem dX0_read_1 : decode cX0_read 1 = .ok (.iconst 0, 1) := dk_3 (dk_at dksX0_read_0 1 rfl rfl)
theorem dX0_read_2 : decode cX0_read 2 = .ok (.aload_n 0, 1) := dk_42 (dk_at dksX0_read_0 2 rfl rfl)
theorem dX0_read_3 : decode cX0_read 3 = .ok (.invokevirtual 116, 3) := dk_182 0 116 (dk_at dksX0_read_0 3 rfl rfl)
theorem dX0_read_6 : decode cX0_read 6 = .ok (.i2l, 1) := dk_133 (dk_at dksX0_read_0 6 rfl rfl)
theorem dX0_read_7 : decode cX0_read 7 = .ok (.lastore, 1) := dk_80 (dk_at dksX0_read_0 7 rfl rfl)
theorem dX0_read_8 : decode cX0_read 8 = .ok (.goto 9, 3) := dk_167 0 9 (dk_at dksX0_read_0 8 rfl rfl)
theorem dX0_read_11 : decode cX0_read 11 = .ok (.astore_n 2, 1) := dk_77 (dk_at dksX0_read_0 11 rfl rfl)
theorem dX0_read_12 : decode cX0_read 12 = .ok (.iconst 1, 1) := dk_4 (dk_at dksX0_read_0 12 rfl rfl)
theorem dX0_read_13 : decode cX0_read 13 = .ok (.ireturn, 1) := dk_172 (dk_at dksX0_read_0 13 rfl rfl)
theorem dX0_read_14 : decode cX0_read 14 = .ok (.astore_n 2, 1) := dk_77 (dk_at dksX0_read_0 14 rfl rfl)
theorem dX0_read_15 : decode cX0_read 15 = .ok (.iconst 2, 1) := dk_5 (dk_at dksX0_read_0 15 rfl rfl)
theorem dX0_read_16 : decode cX0_read 16 = .ok (.ireturn, 1) := dk_172 (dk_at dksX0_read_0 16 rfl rfl)
theorem dX0_read_17 : decode cX0_read 17 = .ok (.iconst 0, 1) := dk_3 (dk_at dksX0_read_0 17 rfl rfl)
theorem dX0_read_18 : decode cX0_read 18 = .ok (.ireturn, 1) := dk_172 (dk_at dksX0_read_0 18 rfl rfl)
abbrev cX0_errorPosition : ByteArray := method_33_code
def yX0_errorPosition : MethodName := ⟨RX0, "errorPosition", "(LMissingMiddles;[J)I"⟩
def dkwX0_errorPosition_0 : List UInt8 := [43, 3, 42, 182, 0, 120, 133, 80, 167, 0, 6, 77, 4, 172, 3, 172]
abbrev dktX0_errorPosition_0 : List UInt8 := dkwX0_errorPosition_0 ++ []
theorem dksX0_errorPosition_0 : cX0_errorPosition.data.toList.drop 0 = dktX0_errorPosition_0 := by decide +kernel
theorem dX0_errorPosition_0 : decode cX0_errorPosition 0 = .ok (.aload_n 1, 1) := dk_43 (dk_at dksX0_errorPosition_0 0 rfl rfl)
theorem dX0_errorPosition_1 : decode cX0_errorPosition 1 = .ok (.iconst 0, 1) := dk_3 (dk_at dksX0_errorPosition_0 1 rfl rfl)
theorem dX0_errorPosition_2 : decode cX0_errorPosition 2 = .ok (.aload_n 0, 1) := dk_42 (dk_at dksX0_errorPosition_0 2 rfl rfl)
theorem dX0_errorPosition_3 : decode cX0_errorPosition 3 = .ok (.invokevirtual 120, 3) := dk_182 0 120 (dk_at dksX0_errorPosition_0 3 rfl rfl)
theorem dX0_errorPosition_6 : decode cX0_errorPosition 6 = .ok (.i2l, 1) := dk_133 (dk_at dksX0_errorPosition_0 6 rfl rfl)
theorem dX0_errorPosition_7 : decode cX0_errorPosition 7 = .ok (.lastore, 1) := dk_80 (dk_at dksX0_errorPosition_0 7 rfl rfl)
theorem dX0_errorPosition_8 : decode cX0_errorPosition 8 = .ok (.goto 6, 3) := dk_167 0 6 (dk_at dksX0_errorPosition_0 8 rfl rfl)
theorem dX0_errorPosition_11 : decode cX0_errorPosition 11 = .ok (.astore_n 2, 1) := dk_77 (dk_at dksX0_errorPosition_0 11 rfl rfl)
theorem dX0_errorPosition_12 : decode cX0_errorPosition 12 = .ok (.iconst 1, 1) := dk_4 (dk_at dksX0_errorPosition_0 12 rfl rfl)
theorem dX0_errorPosition_13 : decode cX0_errorPosition 13 = .ok (.ireturn, 1) := dk_172 (dk_at dksX0_errorPosition_0 13 rfl rfl)
theorem dX0_errorPosition_14 : decode cX0_errorPosition 14 = .ok (.iconst 0, 1) := dk_3 (dk_at dksX0_errorPosition_0 14 rfl rfl)
theorem dX0_errorPosition_15 : decode cX0_errorPosition 15 = .ok (.ireturn, 1) := dk_172 (dk_at dksX0_errorPosition_0 15 rfl rfl)
abbrev cX0_refusedItem : ByteArray := method_34_code
def yX0_refusedItem : MethodName := ⟨RX0, "refusedItem", "(LMissingMiddles;[J)I"⟩
def dkwX0_refusedItem_0 : List UInt8 := [43, 3, 42, 182, 0, 123, 133, 80, 167, 0, 6, 77, 4, 172, 3, 172]
abbrev dktX0_refusedItem_0 : List UInt8 := dkwX0_refusedItem_0 ++ []
theorem dksX0_refusedItem_0 : cX0_refusedItem.data.toList.drop 0 = dktX0_refusedItem_0 := by decide +kernel
theorem dX0_refusedItem_0 : decode cX0_refusedItem 0 = .ok (.aload_n 1, 1) := dk_43 (dk_at dksX0_refusedItem_0 0 rfl rfl)
theorem dX0_refusedItem_1 : decode cX0_refusedItem 1 = .ok (.iconst 0, 1) := dk_3 (dk_at dksX0_refusedItem_0 1 rfl rfl)
theorem dX0_refusedItem_2 : decode cX0_refusedItem 2 = .ok (.aload_n 0, 1) := dk_42 (dk_at dksX0_refusedItem_0 2 rfl rfl)
theorem dX0_refusedItem_3 : decode cX0_refusedItem 3 = .ok (.invokevirtual 123, 3) := dk_182 0 123 (dk_at dksX0_refusedItem_0 3 rfl rfl)
theorem dX0_refusedItem_6 : decode cX0_refusedItem 6 = .ok (.i2l, 1) := dk_133 (dk_at dksX0_refusedItem_0 6 rfl rfl)
theorem dX0_refusedItem_7 : decode cX0_refusedItem 7 = .ok (.lastore, 1) := dk_80 (dk_at dksX0_refusedItem_0 7 rfl rfl)
theorem dX0_refusedItem_8 : decode cX0_refusedItem 8 = .ok (.goto 6, 3) := dk_167 0 6 (dk_at dksX0_refusedItem_0 8 rfl rfl)
theorem dX0_refusedItem_11 : decode cX0_refusedItem 11 = .ok (.astore_n 2, 1) := dk_77 (dk_at dksX0_refusedItem_0 11 rfl rfl)
theorem dX0_refusedItem_12 : decode cX0_refusedItem 12 = .ok (.iconst 1, 1) := dk_4 (dk_at dksX0_refusedItem_0 12 rfl rfl)
theorem dX0_refusedItem_13 : decode cX0_refusedItem 13 = .ok (.ireturn, 1) := dk_172 (dk_at dksX0_refusedItem_0 13 rfl rfl)
theorem dX0_refusedItem_14 : decode cX0_refusedItem 14 = .ok (.iconst 0, 1) := dk_3 (dk_at dksX0_refusedItem_0 14 rfl rfl)
theorem dX0_refusedItem_15 : decode cX0_refusedItem 15 = .ok (.ireturn, 1) := dk_172 (dk_at dksX0_refusedItem_0 15 rfl rfl)
abbrev cX0_undo : ByteArray := method_35_code
def yX0_undo : MethodName := ⟨RX0, "undo", "(LMissingMiddles;[J)I"⟩
def dkwX0_undo_0 : List UInt8 := [43, 3, 42, 182, 0, 126, 133, 80, 167, 0, 6, 77, 4, 172, 3, 172]
abbrev dktX0_undo_0 : List UInt8 := dkwX0_undo_0 ++ []
theorem dksX0_undo_0 : cX0_undo.data.toList.drop 0 = dktX0_undo_0 := by decide +kernel
theorem dX0_undo_0 : decode cX0_undo 0 = .ok (.aload_n 1, 1) := dk_43 (dk_at dksX0_undo_0 0 rfl rfl)
theorem dX0_undo_1 : decode cX0_undo 1 = .ok (.iconst 0, 1) := dk_3 (dk_at dksX0_undo_0 1 rfl rfl)
theorem dX0_undo_2 : decode cX0_undo 2 = .ok (.aload_n 0, 1) := dk_42 (dk_at dksX0_undo_0 2 rfl rfl)
theorem dX0_undo_3 : decode cX0_undo 3 = .ok (.invokevirtual 126, 3) := dk_182 0 126 (dk_at dksX0_undo_0 3 rfl rfl)
theorem dX0_undo_6 : decode cX0_undo 6 = .ok (.i2l, 1) := dk_133 (dk_at dksX0_undo_0 6 rfl rfl)
theorem dX0_undo_7 : decode cX0_undo 7 = .ok (.lastore, 1) := dk_80 (dk_at dksX0_undo_0 7 rfl rfl)
theorem dX0_undo_8 : decode cX0_undo 8 = .ok (.goto 6, 3) := dk_167 0 6 (dk_at dksX0_undo_0 8 rfl rfl)
theorem dX0_undo_11 : decode cX0_undo 11 = .ok (.astore_n 2, 1) := dk_77 (dk_at dksX0_undo_0 11 rfl rfl)
theorem dX0_undo_12 : decode cX0_undo 12 = .ok (.iconst 1, 1) := dk_4 (dk_at dksX0_undo_0 12 rfl rfl)
theorem dX0_undo_13 : decode cX0_undo 13 = .ok (.ireturn, 1) := dk_172 (dk_at dksX0_undo_0 13 rfl rfl)
theorem dX0_undo_14 : decode cX0_undo 14 = .ok (.iconst 0, 1) := dk_3 (dk_at dksX0_undo_0 14 rfl rfl)
theorem dX0_undo_15 : decode cX0_undo 15 = .ok (.ireturn, 1) := dk_172 (dk_at dksX0_undo_0 15 rfl rfl)
abbrev cX0_restore : ByteArray := method_36_code
def yX0_restore : MethodName := ⟨RX0, "restore", "(LMissingMiddles;[J)I"⟩
def dkwX0_restore_0 : List UInt8 := [43, 3, 42, 182, 0, 129, 133, 80, 167, 0, 6, 77, 4, 172, 3, 172]
abbrev dktX0_restore_0 : List UInt8 := dkwX0_restore_0 ++ []
theorem dksX0_restore_0 : cX0_restore.data.toList.drop 0 = dktX0_restore_0 := by decide +kernel
theorem dX0_restore_0 : decode cX0_restore 0 = .ok (.aload_n 1, 1) := dk_43 (dk_at dksX0_restore_0 0 rfl rfl)
theorem dX0_restore_1 : decode cX0_restore 1 = .ok (.iconst 0, 1) := dk_3 (dk_at dksX0_restore_0 1 rfl rfl)
theorem dX0_restore_2 : decode cX0_restore 2 = .ok (.aload_n 0, 1) := dk_42 (dk_at dksX0_restore_0 2 rfl rfl)
theorem dX0_restore_3 : decode cX0_restore 3 = .ok (.invokevirtual 129, 3) := dk_182 0 129 (dk_at dksX0_restore_0 3 rfl rfl)
theorem dX0_restore_6 : decode cX0_restore 6 = .ok (.i2l, 1) := dk_133 (dk_at dksX0_restore_0 6 rfl rfl)
theorem dX0_restore_7 : decode cX0_restore 7 = .ok (.lastore, 1) := dk_80 (dk_at dksX0_restore_0 7 rfl rfl)
theorem dX0_restore_8 : decode cX0_restore 8 = .ok (.goto 6, 3) := dk_167 0 6 (dk_at dksX0_restore_0 8 rfl rfl)
theorem dX0_restore_11 : decode cX0_restore 11 = .ok (.astore_n 2, 1) := dk_77 (dk_at dksX0_restore_0 11 rfl rfl)
theorem dX0_restore_12 : decode cX0_restore 12 = .ok (.iconst 1, 1) := dk_4 (dk_at dksX0_restore_0 12 rfl rfl)
theorem dX0_restore_13 : decode cX0_restore 13 = .ok (.ireturn, 1) := dk_172 (dk_at dksX0_restore_0 13 rfl rfl)
theorem dX0_restore_14 : decode cX0_restore 14 = .ok (.iconst 0, 1) := dk_3 (dk_at dksX0_restore_0 14 rfl rfl)
theorem dX0_restore_15 : decode cX0_restore 15 = .ok (.ireturn, 1) := dk_172 (dk_at dksX0_restore_0 15 rfl rfl)
theorem q102 : (Jvm.Cond.initialized "MissingMiddlesLaw") ∈ lw_all := lw_g (lw_at lw_m1 0 rfl) rfl
theorem q154 : (Jvm.Cond.classLink "MissingMiddlesLaw" (8 : Nat) "MissingMiddles") ∈ lw_all := lw_g (lw_at lw_m1 52 rfl) rfl
theorem q156 : (Jvm.Cond.methodLink "MissingMiddlesLaw" (132 : Nat) ({ cls := "MissingMiddles", name := "<init>", desc := "()V" } : Jvm.MethodName)) ∈ lw_all := lw_g (lw_at lw_m1 54 rfl) rfl
theorem q438 : (Jvm.Cond.methodLink "MissingMiddlesLaw" (136 : Nat) ({ cls := "MissingMiddles", name := "clear", desc := "()I" } : Jvm.MethodName)) ∈ lw_all := lw_g (lw_at lw_m2 96 rfl) rfl
theorem q453 : (Jvm.Cond.methodLink "MissingMiddlesLaw" (204 : Nat) ({ cls := "MissingMiddles", name := "isRight", desc := "()Z" } : Jvm.MethodName)) ∈ lw_all := lw_g (lw_at lw_m2 111 rfl) rfl
theorem q1326 : (Jvm.Cond.methodLink "MissingMiddlesLaw" (237 : Nat) ({ cls := "MissingMiddles", name := "meanTrust", desc := "()D" } : Jvm.MethodName)) ∈ lw_all := lw_g (lw_at lw_m6 24 rfl) rfl
theorem q1335 : (Jvm.Cond.methodLink "MissingMiddlesLaw" (262 : Nat) ({ cls := "MissingMiddles", name := "snapshot", desc := "()I" } : Jvm.MethodName)) ∈ lw_all := lw_g (lw_at lw_m6 33 rfl) rfl
theorem q1339 : (Jvm.Cond.methodLink "MissingMiddlesLaw" (140 : Nat) ({ cls := "MissingMiddlesLaw", name := "book", desc := "(LMissingMiddles;IIIII[J)I" } : Jvm.MethodName)) ∈ lw_all := lw_g (lw_at lw_m6 37 rfl) rfl
theorem q1340 : (Jvm.Cond.static ({ cls := "MissingMiddlesLaw", name := "book", desc := "(LMissingMiddles;IIIII[J)I" } : Jvm.MethodName)) ∈ lw_all := lw_g (lw_at lw_m6 38 rfl) rfl
theorem q1341 : (Jvm.Cond.codeWith ({ cls := "MissingMiddlesLaw", name := "book", desc := "(LMissingMiddles;IIIII[J)I" } : Jvm.MethodName) method_3_code (8 : Nat) (Option.some Jvm.ClassFile.FieldType.int) [((0 : Nat), (16 : Nat), (19 : Nat), (13 : Nat)), ((0 : Nat), (16 : Nat), (23 : Nat), (15 : Nat))]) ∈ lw_all := lw_g (lw_at lw_m6 39 rfl) rfl
theorem q1342 : (Jvm.Cond.classLink "MissingMiddlesLaw" (13 : Nat) "java/lang/IllegalArgumentException") ∈ lw_all := lw_g (lw_at lw_m6 40 rfl) rfl
theorem q1343 : (Jvm.Cond.classLink "MissingMiddlesLaw" (15 : Nat) "java/lang/UnsupportedOperationException") ∈ lw_all := lw_g (lw_at lw_m6 41 rfl) rfl
theorem q1344 : (Jvm.Cond.methodLink "MissingMiddlesLaw" (7 : Nat) ({ cls := "MissingMiddles", name := "book", desc := "(IIIII)I" } : Jvm.MethodName)) ∈ lw_all := lw_g (lw_at lw_m6 42 rfl) rfl
theorem q1966 : (Jvm.Cond.methodLink "MissingMiddlesLaw" (149 : Nat) ({ cls := "MissingMiddlesLaw", name := "hide", desc := "(LMissingMiddles;IIIII[J)I" } : Jvm.MethodName)) ∈ lw_all := lw_g (lw_at lw_m8 184 rfl) rfl
theorem q1967 : (Jvm.Cond.static ({ cls := "MissingMiddlesLaw", name := "hide", desc := "(LMissingMiddles;IIIII[J)I" } : Jvm.MethodName)) ∈ lw_all := lw_g (lw_at lw_m8 185 rfl) rfl
theorem q1968 : (Jvm.Cond.codeWith ({ cls := "MissingMiddlesLaw", name := "hide", desc := "(LMissingMiddles;IIIII[J)I" } : Jvm.MethodName) method_4_code (8 : Nat) (Option.some Jvm.ClassFile.FieldType.int) [((0 : Nat), (16 : Nat), (19 : Nat), (20 : Nat)), ((0 : Nat), (16 : Nat), (23 : Nat), (13 : Nat)), ((0 : Nat), (16 : Nat), (27 : Nat), (15 : Nat))]) ∈ lw_all := lw_g (lw_at lw_m8 186 rfl) rfl
theorem q1969 : (Jvm.Cond.classLink "MissingMiddlesLaw" (20 : Nat) "java/lang/IndexOutOfBoundsException") ∈ lw_all := lw_g (lw_at lw_m8 187 rfl) rfl
theorem q1985 : (Jvm.Cond.methodLink "MissingMiddlesLaw" (17 : Nat) ({ cls := "MissingMiddles", name := "hide", desc := "(IIIII)I" } : Jvm.MethodName)) ∈ lw_all := lw_g (lw_at lw_m8 203 rfl) rfl
theorem q1990 : (Jvm.Cond.methodLink "MissingMiddlesLaw" (152 : Nat) ({ cls := "MissingMiddlesLaw", name := "find", desc := "(LMissingMiddles;I[J)I" } : Jvm.MethodName)) ∈ lw_all := lw_g (lw_at lw_m8 208 rfl) rfl
theorem q1991 : (Jvm.Cond.static ({ cls := "MissingMiddlesLaw", name := "find", desc := "(LMissingMiddles;I[J)I" } : Jvm.MethodName)) ∈ lw_all := lw_g (lw_at lw_m8 209 rfl) rfl
theorem q1992 : (Jvm.Cond.codeWith ({ cls := "MissingMiddlesLaw", name := "find", desc := "(LMissingMiddles;I[J)I" } : Jvm.MethodName) method_5_code (4 : Nat) (Option.some Jvm.ClassFile.FieldType.int) [((0 : Nat), (9 : Nat), (12 : Nat), (20 : Nat)), ((0 : Nat), (9 : Nat), (15 : Nat), (15 : Nat))]) ∈ lw_all := lw_g (lw_at lw_m8 210 rfl) rfl
theorem q1993 : (Jvm.Cond.methodLink "MissingMiddlesLaw" (22 : Nat) ({ cls := "MissingMiddles", name := "find", desc := "(I)I" } : Jvm.MethodName)) ∈ lw_all := lw_g (lw_at lw_m8 211 rfl) rfl
theorem q1998 : (Jvm.Cond.methodLink "MissingMiddlesLaw" (156 : Nat) ({ cls := "MissingMiddlesLaw", name := "drop", desc := "(LMissingMiddles;I[J)I" } : Jvm.MethodName)) ∈ lw_all := lw_g (lw_at lw_m8 216 rfl) rfl
theorem q1999 : (Jvm.Cond.static ({ cls := "MissingMiddlesLaw", name := "drop", desc := "(LMissingMiddles;I[J)I" } : Jvm.MethodName)) ∈ lw_all := lw_g (lw_at lw_m8 217 rfl) rfl
theorem q2000 : (Jvm.Cond.codeWith ({ cls := "MissingMiddlesLaw", name := "drop", desc := "(LMissingMiddles;I[J)I" } : Jvm.MethodName) method_6_code (4 : Nat) (Option.some Jvm.ClassFile.FieldType.int) [((0 : Nat), (9 : Nat), (12 : Nat), (20 : Nat))]) ∈ lw_all := lw_g (lw_at lw_m8 218 rfl) rfl
theorem q2001 : (Jvm.Cond.methodLink "MissingMiddlesLaw" (26 : Nat) ({ cls := "MissingMiddles", name := "drop", desc := "(I)I" } : Jvm.MethodName)) ∈ lw_all := lw_g (lw_at lw_m8 219 rfl) rfl
theorem q2006 : (Jvm.Cond.methodLink "MissingMiddlesLaw" (159 : Nat) ({ cls := "MissingMiddlesLaw", name := "bookOf", desc := "(LMissingMiddles;II[J)I" } : Jvm.MethodName)) ∈ lw_all := lw_g (lw_at lw_m8 224 rfl) rfl
theorem q2007 : (Jvm.Cond.static ({ cls := "MissingMiddlesLaw", name := "bookOf", desc := "(LMissingMiddles;II[J)I" } : Jvm.MethodName)) ∈ lw_all := lw_g (lw_at lw_m8 225 rfl) rfl
theorem q2008 : (Jvm.Cond.codeWith ({ cls := "MissingMiddlesLaw", name := "bookOf", desc := "(LMissingMiddles;II[J)I" } : Jvm.MethodName) method_7_code (5 : Nat) (Option.some Jvm.ClassFile.FieldType.int) [((0 : Nat), (10 : Nat), (13 : Nat), (20 : Nat)), ((0 : Nat), (10 : Nat), (17 : Nat), (13 : Nat))]) ∈ lw_all := lw_g (lw_at lw_m8 226 rfl) rfl
theorem q2009 : (Jvm.Cond.methodLink "MissingMiddlesLaw" (29 : Nat) ({ cls := "MissingMiddles", name := "bookOf", desc := "(II)I" } : Jvm.MethodName)) ∈ lw_all := lw_g (lw_at lw_m8 227 rfl) rfl
theorem q2019 : (Jvm.Cond.methodLink "MissingMiddlesLaw" (163 : Nat) ({ cls := "MissingMiddlesLaw", name := "scrapOf", desc := "(LMissingMiddles;II[J)I" } : Jvm.MethodName)) ∈ lw_all := lw_g (lw_at lw_m8 237 rfl) rfl
theorem q2020 : (Jvm.Cond.static ({ cls := "MissingMiddlesLaw", name := "scrapOf", desc := "(LMissingMiddles;II[J)I" } : Jvm.MethodName)) ∈ lw_all := lw_g (lw_at lw_m8 238 rfl) rfl
theorem q2021 : (Jvm.Cond.codeWith ({ cls := "MissingMiddlesLaw", name := "scrapOf", desc := "(LMissingMiddles;II[J)I" } : Jvm.MethodName) method_8_code (5 : Nat) (Option.some Jvm.ClassFile.FieldType.int) [((0 : Nat), (10 : Nat), (13 : Nat), (20 : Nat)), ((0 : Nat), (10 : Nat), (17 : Nat), (13 : Nat))]) ∈ lw_all := lw_g (lw_at lw_m8 239 rfl) rfl
theorem q2022 : (Jvm.Cond.methodLink "MissingMiddlesLaw" (33 : Nat) ({ cls := "MissingMiddles", name := "scrapOf", desc := "(II)I" } : Jvm.MethodName)) ∈ lw_all := lw_g (lw_at lw_m9 0 rfl) rfl
theorem q2030 : (Jvm.Cond.methodLink "MissingMiddlesLaw" (166 : Nat) ({ cls := "MissingMiddlesLaw", name := "atticOf", desc := "(LMissingMiddles;II[J)I" } : Jvm.MethodName)) ∈ lw_all := lw_g (lw_at lw_m9 8 rfl) rfl
theorem q2031 : (Jvm.Cond.static ({ cls := "MissingMiddlesLaw", name := "atticOf", desc := "(LMissingMiddles;II[J)I" } : Jvm.MethodName)) ∈ lw_all := lw_g (lw_at lw_m9 9 rfl) rfl
theorem q2032 : (Jvm.Cond.codeWith ({ cls := "MissingMiddlesLaw", name := "atticOf", desc := "(LMissingMiddles;II[J)I" } : Jvm.MethodName) method_9_code (5 : Nat) (Option.some Jvm.ClassFile.FieldType.int) [((0 : Nat), (10 : Nat), (13 : Nat), (20 : Nat)), ((0 : Nat), (10 : Nat), (17 : Nat), (13 : Nat))]) ∈ lw_all := lw_g (lw_at lw_m9 10 rfl) rfl
theorem q2033 : (Jvm.Cond.methodLink "MissingMiddlesLaw" (36 : Nat) ({ cls := "MissingMiddles", name := "atticOf", desc := "(II)I" } : Jvm.MethodName)) ∈ lw_all := lw_g (lw_at lw_m9 11 rfl) rfl
theorem q2045 : (Jvm.Cond.methodLink "MissingMiddlesLaw" (169 : Nat) ({ cls := "MissingMiddlesLaw", name := "swear", desc := "(LMissingMiddles;IIZ[J)I" } : Jvm.MethodName)) ∈ lw_all := lw_g (lw_at lw_m9 23 rfl) rfl
theorem q2046 : (Jvm.Cond.static ({ cls := "MissingMiddlesLaw", name := "swear", desc := "(LMissingMiddles;IIZ[J)I" } : Jvm.MethodName)) ∈ lw_all := lw_g (lw_at lw_m9 24 rfl) rfl
theorem q2047 : (Jvm.Cond.codeWith ({ cls := "MissingMiddlesLaw", name := "swear", desc := "(LMissingMiddles;IIZ[J)I" } : Jvm.MethodName) method_10_code (6 : Nat) (Option.some Jvm.ClassFile.FieldType.int) [((0 : Nat), (12 : Nat), (15 : Nat), (20 : Nat)), ((0 : Nat), (12 : Nat), (19 : Nat), (15 : Nat))]) ∈ lw_all := lw_g (lw_at lw_m9 25 rfl) rfl
theorem q2048 : (Jvm.Cond.methodLink "MissingMiddlesLaw" (39 : Nat) ({ cls := "MissingMiddles", name := "swear", desc := "(IIZ)I" } : Jvm.MethodName)) ∈ lw_all := lw_g (lw_at lw_m9 26 rfl) rfl
theorem q2053 : (Jvm.Cond.methodLink "MissingMiddlesLaw" (173 : Nat) ({ cls := "MissingMiddlesLaw", name := "prove", desc := "(LMissingMiddles;IZ[J)I" } : Jvm.MethodName)) ∈ lw_all := lw_g (lw_at lw_m9 31 rfl) rfl
theorem q2054 : (Jvm.Cond.static ({ cls := "MissingMiddlesLaw", name := "prove", desc := "(LMissingMiddles;IZ[J)I" } : Jvm.MethodName)) ∈ lw_all := lw_g (lw_at lw_m9 32 rfl) rfl
theorem q2055 : (Jvm.Cond.codeWith ({ cls := "MissingMiddlesLaw", name := "prove", desc := "(LMissingMiddles;IZ[J)I" } : Jvm.MethodName) method_11_code (5 : Nat) (Option.some Jvm.ClassFile.FieldType.int) [((0 : Nat), (10 : Nat), (13 : Nat), (20 : Nat)), ((0 : Nat), (10 : Nat), (17 : Nat), (15 : Nat))]) ∈ lw_all := lw_g (lw_at lw_m9 33 rfl) rfl
theorem q2056 : (Jvm.Cond.methodLink "MissingMiddlesLaw" (43 : Nat) ({ cls := "MissingMiddles", name := "prove", desc := "(IZ)I" } : Jvm.MethodName)) ∈ lw_all := lw_g (lw_at lw_m9 34 rfl) rfl
theorem q2061 : (Jvm.Cond.methodLink "MissingMiddlesLaw" (177 : Nat) ({ cls := "MissingMiddlesLaw", name := "readerOf", desc := "(LMissingMiddles;II[J)I" } : Jvm.MethodName)) ∈ lw_all := lw_g (lw_at lw_m9 39 rfl) rfl
theorem q2062 : (Jvm.Cond.static ({ cls := "MissingMiddlesLaw", name := "readerOf", desc := "(LMissingMiddles;II[J)I" } : Jvm.MethodName)) ∈ lw_all := lw_g (lw_at lw_m9 40 rfl) rfl
theorem q2063 : (Jvm.Cond.codeWith ({ cls := "MissingMiddlesLaw", name := "readerOf", desc := "(LMissingMiddles;II[J)I" } : Jvm.MethodName) method_12_code (5 : Nat) (Option.some Jvm.ClassFile.FieldType.int) [((0 : Nat), (10 : Nat), (13 : Nat), (20 : Nat)), ((0 : Nat), (10 : Nat), (17 : Nat), (13 : Nat))]) ∈ lw_all := lw_g (lw_at lw_m9 41 rfl) rfl
theorem q2064 : (Jvm.Cond.methodLink "MissingMiddlesLaw" (47 : Nat) ({ cls := "MissingMiddles", name := "readerOf", desc := "(II)I" } : Jvm.MethodName)) ∈ lw_all := lw_g (lw_at lw_m9 42 rfl) rfl
theorem q2080 : (Jvm.Cond.methodLink "MissingMiddlesLaw" (180 : Nat) ({ cls := "MissingMiddlesLaw", name := "oath", desc := "(LMissingMiddles;II[J)I" } : Jvm.MethodName)) ∈ lw_all := lw_g (lw_at lw_m9 58 rfl) rfl
theorem q2081 : (Jvm.Cond.static ({ cls := "MissingMiddlesLaw", name := "oath", desc := "(LMissingMiddles;II[J)I" } : Jvm.MethodName)) ∈ lw_all := lw_g (lw_at lw_m9 59 rfl) rfl
theorem q2082 : (Jvm.Cond.codeWith ({ cls := "MissingMiddlesLaw", name := "oath", desc := "(LMissingMiddles;II[J)I" } : Jvm.MethodName) method_13_code (5 : Nat) (Option.some Jvm.ClassFile.FieldType.int) [((0 : Nat), (10 : Nat), (13 : Nat), (20 : Nat))]) ∈ lw_all := lw_g (lw_at lw_m9 60 rfl) rfl
theorem q2083 : (Jvm.Cond.methodLink "MissingMiddlesLaw" (50 : Nat) ({ cls := "MissingMiddles", name := "oath", desc := "(II)I" } : Jvm.MethodName)) ∈ lw_all := lw_g (lw_at lw_m9 61 rfl) rfl
theorem q2089 : (Jvm.Cond.methodLink "MissingMiddlesLaw" (183 : Nat) ({ cls := "MissingMiddlesLaw", name := "chains", desc := "(LMissingMiddles;IZ[J)I" } : Jvm.MethodName)) ∈ lw_all := lw_g (lw_at lw_m9 67 rfl) rfl
theorem q2090 : (Jvm.Cond.static ({ cls := "MissingMiddlesLaw", name := "chains", desc := "(LMissingMiddles;IZ[J)I" } : Jvm.MethodName)) ∈ lw_all := lw_g (lw_at lw_m9 68 rfl) rfl
theorem q2091 : (Jvm.Cond.codeWith ({ cls := "MissingMiddlesLaw", name := "chains", desc := "(LMissingMiddles;IZ[J)I" } : Jvm.MethodName) method_14_code (5 : Nat) (Option.some Jvm.ClassFile.FieldType.int) [((0 : Nat), (10 : Nat), (13 : Nat), (20 : Nat))]) ∈ lw_all := lw_g (lw_at lw_m9 69 rfl) rfl
theorem q2092 : (Jvm.Cond.methodLink "MissingMiddlesLaw" (53 : Nat) ({ cls := "MissingMiddles", name := "chains", desc := "(IZ)I" } : Jvm.MethodName)) ∈ lw_all := lw_g (lw_at lw_m9 70 rfl) rfl
theorem q2104 : (Jvm.Cond.methodLink "MissingMiddlesLaw" (186 : Nat) ({ cls := "MissingMiddlesLaw", name := "chainOf", desc := "(LMissingMiddles;II[J)I" } : Jvm.MethodName)) ∈ lw_all := lw_g (lw_at lw_m9 82 rfl) rfl
theorem q2105 : (Jvm.Cond.static ({ cls := "MissingMiddlesLaw", name := "chainOf", desc := "(LMissingMiddles;II[J)I" } : Jvm.MethodName)) ∈ lw_all := lw_g (lw_at lw_m9 83 rfl) rfl
theorem q2106 : (Jvm.Cond.codeWith ({ cls := "MissingMiddlesLaw", name := "chainOf", desc := "(LMissingMiddles;II[J)I" } : Jvm.MethodName) method_15_code (5 : Nat) (Option.some Jvm.ClassFile.FieldType.int) [((0 : Nat), (10 : Nat), (13 : Nat), (20 : Nat)), ((0 : Nat), (10 : Nat), (17 : Nat), (59 : Nat))]) ∈ lw_all := lw_g (lw_at lw_m9 84 rfl) rfl
theorem q2107 : (Jvm.Cond.classLink "MissingMiddlesLaw" (59 : Nat) "java/util/NoSuchElementException") ∈ lw_all := lw_g (lw_at lw_m9 85 rfl) rfl
theorem q2108 : (Jvm.Cond.methodLink "MissingMiddlesLaw" (56 : Nat) ({ cls := "MissingMiddles", name := "chainOf", desc := "(II)I" } : Jvm.MethodName)) ∈ lw_all := lw_g (lw_at lw_m9 86 rfl) rfl
theorem q2126 : (Jvm.Cond.methodLink "MissingMiddlesLaw" (189 : Nat) ({ cls := "MissingMiddlesLaw", name := "reach", desc := "(LMissingMiddles;IZ[J)I" } : Jvm.MethodName)) ∈ lw_all := lw_g (lw_at lw_m9 104 rfl) rfl
theorem q2127 : (Jvm.Cond.static ({ cls := "MissingMiddlesLaw", name := "reach", desc := "(LMissingMiddles;IZ[J)I" } : Jvm.MethodName)) ∈ lw_all := lw_g (lw_at lw_m9 105 rfl) rfl
theorem q2128 : (Jvm.Cond.codeWith ({ cls := "MissingMiddlesLaw", name := "reach", desc := "(LMissingMiddles;IZ[J)I" } : Jvm.MethodName) method_16_code (5 : Nat) (Option.some Jvm.ClassFile.FieldType.int) [((0 : Nat), (10 : Nat), (13 : Nat), (20 : Nat))]) ∈ lw_all := lw_g (lw_at lw_m9 106 rfl) rfl
theorem q2129 : (Jvm.Cond.methodLink "MissingMiddlesLaw" (61 : Nat) ({ cls := "MissingMiddles", name := "reach", desc := "(IZ)I" } : Jvm.MethodName)) ∈ lw_all := lw_g (lw_at lw_m9 107 rfl) rfl
theorem q2143 : (Jvm.Cond.methodLink "MissingMiddlesLaw" (192 : Nat) ({ cls := "MissingMiddlesLaw", name := "needed", desc := "(LMissingMiddles;I[J)I" } : Jvm.MethodName)) ∈ lw_all := lw_g (lw_at lw_m9 121 rfl) rfl
theorem q2144 : (Jvm.Cond.static ({ cls := "MissingMiddlesLaw", name := "needed", desc := "(LMissingMiddles;I[J)I" } : Jvm.MethodName)) ∈ lw_all := lw_g (lw_at lw_m9 122 rfl) rfl
theorem q2145 : (Jvm.Cond.codeWith ({ cls := "MissingMiddlesLaw", name := "needed", desc := "(LMissingMiddles;I[J)I" } : Jvm.MethodName) method_17_code (4 : Nat) (Option.some Jvm.ClassFile.FieldType.int) [((0 : Nat), (9 : Nat), (12 : Nat), (20 : Nat))]) ∈ lw_all := lw_g (lw_at lw_m9 123 rfl) rfl
theorem q2146 : (Jvm.Cond.methodLink "MissingMiddlesLaw" (64 : Nat) ({ cls := "MissingMiddles", name := "needed", desc := "(I)I" } : Jvm.MethodName)) ∈ lw_all := lw_g (lw_at lw_m9 124 rfl) rfl
theorem q2151 : (Jvm.Cond.methodLink "MissingMiddlesLaw" (195 : Nat) ({ cls := "MissingMiddlesLaw", name := "without", desc := "(LMissingMiddles;II[J)I" } : Jvm.MethodName)) ∈ lw_all := lw_g (lw_at lw_m9 129 rfl) rfl
theorem q2152 : (Jvm.Cond.static ({ cls := "MissingMiddlesLaw", name := "without", desc := "(LMissingMiddles;II[J)I" } : Jvm.MethodName)) ∈ lw_all := lw_g (lw_at lw_m9 130 rfl) rfl
theorem q2153 : (Jvm.Cond.codeWith ({ cls := "MissingMiddlesLaw", name := "without", desc := "(LMissingMiddles;II[J)I" } : Jvm.MethodName) method_18_code (5 : Nat) (Option.some Jvm.ClassFile.FieldType.int) [((0 : Nat), (10 : Nat), (13 : Nat), (20 : Nat))]) ∈ lw_all := lw_g (lw_at lw_m9 131 rfl) rfl
theorem q2154 : (Jvm.Cond.methodLink "MissingMiddlesLaw" (67 : Nat) ({ cls := "MissingMiddles", name := "without", desc := "(II)I" } : Jvm.MethodName)) ∈ lw_all := lw_g (lw_at lw_m9 132 rfl) rfl
theorem q2159 : (Jvm.Cond.methodLink "MissingMiddlesLaw" (198 : Nat) ({ cls := "MissingMiddlesLaw", name := "would", desc := "(LMissingMiddles;II[J)I" } : Jvm.MethodName)) ∈ lw_all := lw_g (lw_at lw_m9 137 rfl) rfl
theorem q2160 : (Jvm.Cond.static ({ cls := "MissingMiddlesLaw", name := "would", desc := "(LMissingMiddles;II[J)I" } : Jvm.MethodName)) ∈ lw_all := lw_g (lw_at lw_m9 138 rfl) rfl
theorem q2161 : (Jvm.Cond.codeWith ({ cls := "MissingMiddlesLaw", name := "would", desc := "(LMissingMiddles;II[J)I" } : Jvm.MethodName) method_19_code (5 : Nat) (Option.some Jvm.ClassFile.FieldType.int) [((0 : Nat), (10 : Nat), (13 : Nat), (20 : Nat)), ((0 : Nat), (10 : Nat), (17 : Nat), (59 : Nat))]) ∈ lw_all := lw_g (lw_at lw_m9 139 rfl) rfl
theorem q2162 : (Jvm.Cond.methodLink "MissingMiddlesLaw" (70 : Nat) ({ cls := "MissingMiddles", name := "would", desc := "(II)I" } : Jvm.MethodName)) ∈ lw_all := lw_g (lw_at lw_m9 140 rfl) rfl
theorem q2190 : (Jvm.Cond.methodLink "MissingMiddlesLaw" (201 : Nat) ({ cls := "MissingMiddlesLaw", name := "ranked", desc := "(LMissingMiddles;I[J)I" } : Jvm.MethodName)) ∈ lw_all := lw_g (lw_at lw_m9 168 rfl) rfl
theorem q2191 : (Jvm.Cond.static ({ cls := "MissingMiddlesLaw", name := "ranked", desc := "(LMissingMiddles;I[J)I" } : Jvm.MethodName)) ∈ lw_all := lw_g (lw_at lw_m9 169 rfl) rfl
theorem q2192 : (Jvm.Cond.codeWith ({ cls := "MissingMiddlesLaw", name := "ranked", desc := "(LMissingMiddles;I[J)I" } : Jvm.MethodName) method_20_code (4 : Nat) (Option.some Jvm.ClassFile.FieldType.int) [((0 : Nat), (9 : Nat), (12 : Nat), (59 : Nat))]) ∈ lw_all := lw_g (lw_at lw_m9 170 rfl) rfl
theorem q2193 : (Jvm.Cond.methodLink "MissingMiddlesLaw" (73 : Nat) ({ cls := "MissingMiddles", name := "ranked", desc := "(I)I" } : Jvm.MethodName)) ∈ lw_all := lw_g (lw_at lw_m9 171 rfl) rfl
theorem q2205 : (Jvm.Cond.methodLink "MissingMiddlesLaw" (209 : Nat) ({ cls := "MissingMiddlesLaw", name := "mend", desc := "(LMissingMiddles;I[J)I" } : Jvm.MethodName)) ∈ lw_all := lw_g (lw_at lw_m9 183 rfl) rfl
theorem q2206 : (Jvm.Cond.static ({ cls := "MissingMiddlesLaw", name := "mend", desc := "(LMissingMiddles;I[J)I" } : Jvm.MethodName)) ∈ lw_all := lw_g (lw_at lw_m9 184 rfl) rfl
theorem q2207 : (Jvm.Cond.codeWith ({ cls := "MissingMiddlesLaw", name := "mend", desc := "(LMissingMiddles;I[J)I" } : Jvm.MethodName) method_21_code (4 : Nat) (Option.some Jvm.ClassFile.FieldType.int) [((0 : Nat), (9 : Nat), (12 : Nat), (20 : Nat)), ((0 : Nat), (9 : Nat), (15 : Nat), (15 : Nat))]) ∈ lw_all := lw_g (lw_at lw_m9 185 rfl) rfl
theorem q2208 : (Jvm.Cond.methodLink "MissingMiddlesLaw" (76 : Nat) ({ cls := "MissingMiddles", name := "mend", desc := "(I)I" } : Jvm.MethodName)) ∈ lw_all := lw_g (lw_at lw_m9 186 rfl) rfl
theorem q2213 : (Jvm.Cond.methodLink "MissingMiddlesLaw" (212 : Nat) ({ cls := "MissingMiddlesLaw", name := "earn", desc := "(LMissingMiddles;I[J)I" } : Jvm.MethodName)) ∈ lw_all := lw_g (lw_at lw_m9 191 rfl) rfl
theorem q2214 : (Jvm.Cond.static ({ cls := "MissingMiddlesLaw", name := "earn", desc := "(LMissingMiddles;I[J)I" } : Jvm.MethodName)) ∈ lw_all := lw_g (lw_at lw_m9 192 rfl) rfl
theorem q2215 : (Jvm.Cond.codeWith ({ cls := "MissingMiddlesLaw", name := "earn", desc := "(LMissingMiddles;I[J)I" } : Jvm.MethodName) method_22_code (4 : Nat) (Option.some Jvm.ClassFile.FieldType.int) [((0 : Nat), (9 : Nat), (12 : Nat), (13 : Nat))]) ∈ lw_all := lw_g (lw_at lw_m9 193 rfl) rfl
theorem q2216 : (Jvm.Cond.methodLink "MissingMiddlesLaw" (79 : Nat) ({ cls := "MissingMiddles", name := "earn", desc := "(I)I" } : Jvm.MethodName)) ∈ lw_all := lw_g (lw_at lw_m9 194 rfl) rfl
theorem q2221 : (Jvm.Cond.methodLink "MissingMiddlesLaw" (215 : Nat) ({ cls := "MissingMiddlesLaw", name := "price", desc := "(LMissingMiddles;I[J)I" } : Jvm.MethodName)) ∈ lw_all := lw_g (lw_at lw_m9 199 rfl) rfl
theorem q2222 : (Jvm.Cond.static ({ cls := "MissingMiddlesLaw", name := "price", desc := "(LMissingMiddles;I[J)I" } : Jvm.MethodName)) ∈ lw_all := lw_g (lw_at lw_m9 200 rfl) rfl
theorem q2223 : (Jvm.Cond.codeWith ({ cls := "MissingMiddlesLaw", name := "price", desc := "(LMissingMiddles;I[J)I" } : Jvm.MethodName) method_23_code (4 : Nat) (Option.some Jvm.ClassFile.FieldType.int) [((0 : Nat), (9 : Nat), (12 : Nat), (13 : Nat))]) ∈ lw_all := lw_g (lw_at lw_m9 201 rfl) rfl
theorem q2224 : (Jvm.Cond.methodLink "MissingMiddlesLaw" (82 : Nat) ({ cls := "MissingMiddles", name := "price", desc := "(I)I" } : Jvm.MethodName)) ∈ lw_all := lw_g (lw_at lw_m9 202 rfl) rfl
theorem q2229 : (Jvm.Cond.methodLink "MissingMiddlesLaw" (218 : Nat) ({ cls := "MissingMiddlesLaw", name := "line", desc := "(LMissingMiddles;I[J)I" } : Jvm.MethodName)) ∈ lw_all := lw_g (lw_at lw_m9 207 rfl) rfl
theorem q2230 : (Jvm.Cond.static ({ cls := "MissingMiddlesLaw", name := "line", desc := "(LMissingMiddles;I[J)I" } : Jvm.MethodName)) ∈ lw_all := lw_g (lw_at lw_m9 208 rfl) rfl
theorem q2231 : (Jvm.Cond.codeWith ({ cls := "MissingMiddlesLaw", name := "line", desc := "(LMissingMiddles;I[J)I" } : Jvm.MethodName) method_24_code (4 : Nat) (Option.some Jvm.ClassFile.FieldType.int) [((0 : Nat), (9 : Nat), (12 : Nat), (20 : Nat))]) ∈ lw_all := lw_g (lw_at lw_m9 209 rfl) rfl
theorem q2232 : (Jvm.Cond.methodLink "MissingMiddlesLaw" (85 : Nat) ({ cls := "MissingMiddles", name := "line", desc := "(I)I" } : Jvm.MethodName)) ∈ lw_all := lw_g (lw_at lw_m9 210 rfl) rfl
theorem q2315 : (Jvm.Cond.methodLink "MissingMiddlesLaw" (221 : Nat) ({ cls := "MissingMiddlesLaw", name := "scrapLine", desc := "(LMissingMiddles;I[J)I" } : Jvm.MethodName)) ∈ lw_all := lw_g (lw_at lw_m10 53 rfl) rfl
theorem q2316 : (Jvm.Cond.static ({ cls := "MissingMiddlesLaw", name := "scrapLine", desc := "(LMissingMiddles;I[J)I" } : Jvm.MethodName)) ∈ lw_all := lw_g (lw_at lw_m10 54 rfl) rfl
theorem q2317 : (Jvm.Cond.codeWith ({ cls := "MissingMiddlesLaw", name := "scrapLine", desc := "(LMissingMiddles;I[J)I" } : Jvm.MethodName) method_25_code (4 : Nat) (Option.some Jvm.ClassFile.FieldType.int) [((0 : Nat), (9 : Nat), (12 : Nat), (20 : Nat))]) ∈ lw_all := lw_g (lw_at lw_m10 55 rfl) rfl
theorem q2318 : (Jvm.Cond.methodLink "MissingMiddlesLaw" (88 : Nat) ({ cls := "MissingMiddles", name := "scrapLine", desc := "(I)I" } : Jvm.MethodName)) ∈ lw_all := lw_g (lw_at lw_m10 56 rfl) rfl
theorem q2337 : (Jvm.Cond.methodLink "MissingMiddlesLaw" (224 : Nat) ({ cls := "MissingMiddlesLaw", name := "chainLine", desc := "(LMissingMiddles;I[J)I" } : Jvm.MethodName)) ∈ lw_all := lw_g (lw_at lw_m10 75 rfl) rfl
theorem q2338 : (Jvm.Cond.static ({ cls := "MissingMiddlesLaw", name := "chainLine", desc := "(LMissingMiddles;I[J)I" } : Jvm.MethodName)) ∈ lw_all := lw_g (lw_at lw_m10 76 rfl) rfl
theorem q2339 : (Jvm.Cond.codeWith ({ cls := "MissingMiddlesLaw", name := "chainLine", desc := "(LMissingMiddles;I[J)I" } : Jvm.MethodName) method_26_code (4 : Nat) (Option.some Jvm.ClassFile.FieldType.int) [((0 : Nat), (9 : Nat), (12 : Nat), (20 : Nat)), ((0 : Nat), (9 : Nat), (15 : Nat), (59 : Nat))]) ∈ lw_all := lw_g (lw_at lw_m10 77 rfl) rfl
theorem q2340 : (Jvm.Cond.methodLink "MissingMiddlesLaw" (91 : Nat) ({ cls := "MissingMiddles", name := "chainLine", desc := "(I)I" } : Jvm.MethodName)) ∈ lw_all := lw_g (lw_at lw_m10 78 rfl) rfl
theorem q2356 : (Jvm.Cond.methodLink "MissingMiddlesLaw" (227 : Nat) ({ cls := "MissingMiddlesLaw", name := "character", desc := "(LMissingMiddles;I[J)I" } : Jvm.MethodName)) ∈ lw_all := lw_g (lw_at lw_m10 94 rfl) rfl
theorem q2357 : (Jvm.Cond.static ({ cls := "MissingMiddlesLaw", name := "character", desc := "(LMissingMiddles;I[J)I" } : Jvm.MethodName)) ∈ lw_all := lw_g (lw_at lw_m10 95 rfl) rfl
theorem q2358 : (Jvm.Cond.codeWith ({ cls := "MissingMiddlesLaw", name := "character", desc := "(LMissingMiddles;I[J)I" } : Jvm.MethodName) method_27_code (4 : Nat) (Option.some Jvm.ClassFile.FieldType.int) [((0 : Nat), (9 : Nat), (12 : Nat), (20 : Nat))]) ∈ lw_all := lw_g (lw_at lw_m10 96 rfl) rfl
theorem q2359 : (Jvm.Cond.methodLink "MissingMiddlesLaw" (94 : Nat) ({ cls := "MissingMiddles", name := "character", desc := "(I)C" } : Jvm.MethodName)) ∈ lw_all := lw_g (lw_at lw_m10 97 rfl) rfl
theorem q2374 : (Jvm.Cond.methodLink "MissingMiddlesLaw" (230 : Nat) ({ cls := "MissingMiddlesLaw", name := "refusal", desc := "(LMissingMiddles;ZZ[J)I" } : Jvm.MethodName)) ∈ lw_all := lw_g (lw_at lw_m10 112 rfl) rfl
theorem q2375 : (Jvm.Cond.static ({ cls := "MissingMiddlesLaw", name := "refusal", desc := "(LMissingMiddles;ZZ[J)I" } : Jvm.MethodName)) ∈ lw_all := lw_g (lw_at lw_m10 113 rfl) rfl
theorem q2376 : (Jvm.Cond.codeWith ({ cls := "MissingMiddlesLaw", name := "refusal", desc := "(LMissingMiddles;ZZ[J)I" } : Jvm.MethodName) method_28_code (5 : Nat) (Option.some Jvm.ClassFile.FieldType.int) [((0 : Nat), (10 : Nat), (13 : Nat), (102 : Nat)), ((0 : Nat), (10 : Nat), (17 : Nat), (59 : Nat))]) ∈ lw_all := lw_g (lw_at lw_m10 114 rfl) rfl
theorem q2377 : (Jvm.Cond.classLink "MissingMiddlesLaw" (102 : Nat) "java/lang/IllegalStateException") ∈ lw_all := lw_g (lw_at lw_m10 115 rfl) rfl
theorem q2378 : (Jvm.Cond.methodLink "MissingMiddlesLaw" (98 : Nat) ({ cls := "MissingMiddles", name := "refusal", desc := "(ZZ)I" } : Jvm.MethodName)) ∈ lw_all := lw_g (lw_at lw_m10 116 rfl) rfl
theorem q2400 : (Jvm.Cond.methodLink "MissingMiddlesLaw" (234 : Nat) ({ cls := "MissingMiddlesLaw", name := "account", desc := "(LMissingMiddles;I[J)I" } : Jvm.MethodName)) ∈ lw_all := lw_g (lw_at lw_m10 138 rfl) rfl
theorem q2401 : (Jvm.Cond.static ({ cls := "MissingMiddlesLaw", name := "account", desc := "(LMissingMiddles;I[J)I" } : Jvm.MethodName)) ∈ lw_all := lw_g (lw_at lw_m10 139 rfl) rfl
theorem q2402 : (Jvm.Cond.codeWith ({ cls := "MissingMiddlesLaw", name := "account", desc := "(LMissingMiddles;I[J)I" } : Jvm.MethodName) method_29_code (4 : Nat) (Option.some Jvm.ClassFile.FieldType.int) [((0 : Nat), (9 : Nat), (12 : Nat), (13 : Nat))]) ∈ lw_all := lw_g (lw_at lw_m10 140 rfl) rfl
theorem q2403 : (Jvm.Cond.methodLink "MissingMiddlesLaw" (104 : Nat) ({ cls := "MissingMiddles", name := "account", desc := "(I)I" } : Jvm.MethodName)) ∈ lw_all := lw_g (lw_at lw_m10 141 rfl) rfl
theorem q2425 : (Jvm.Cond.methodLink "MissingMiddlesLaw" (242 : Nat) ({ cls := "MissingMiddlesLaw", name := "wholeShare", desc := "(LMissingMiddles;[D)I" } : Jvm.MethodName)) ∈ lw_all := lw_g (lw_at lw_m10 163 rfl) rfl
theorem q2426 : (Jvm.Cond.static ({ cls := "MissingMiddlesLaw", name := "wholeShare", desc := "(LMissingMiddles;[D)I" } : Jvm.MethodName)) ∈ lw_all := lw_g (lw_at lw_m10 164 rfl) rfl
theorem q2427 : (Jvm.Cond.codeWith ({ cls := "MissingMiddlesLaw", name := "wholeShare", desc := "(LMissingMiddles;[D)I" } : Jvm.MethodName) method_30_code (3 : Nat) (Option.some Jvm.ClassFile.FieldType.int) [((0 : Nat), (8 : Nat), (11 : Nat), (111 : Nat))]) ∈ lw_all := lw_g (lw_at lw_m10 165 rfl) rfl
theorem q2428 : (Jvm.Cond.classLink "MissingMiddlesLaw" (111 : Nat) "java/lang/ArithmeticException") ∈ lw_all := lw_g (lw_at lw_m10 166 rfl) rfl
theorem q2442 : (Jvm.Cond.methodLink "MissingMiddlesLaw" (107 : Nat) ({ cls := "MissingMiddles", name := "wholeShare", desc := "()F" } : Jvm.MethodName)) ∈ lw_all := lw_g (lw_at lw_m10 180 rfl) rfl
theorem q2454 : (Jvm.Cond.methodLink "MissingMiddlesLaw" (246 : Nat) ({ cls := "MissingMiddlesLaw", name := "append", desc := "(LMissingMiddles;I[J)I" } : Jvm.MethodName)) ∈ lw_all := lw_g (lw_at lw_m10 192 rfl) rfl
theorem q2455 : (Jvm.Cond.static ({ cls := "MissingMiddlesLaw", name := "append", desc := "(LMissingMiddles;I[J)I" } : Jvm.MethodName)) ∈ lw_all := lw_g (lw_at lw_m10 193 rfl) rfl
theorem q2456 : (Jvm.Cond.codeWith ({ cls := "MissingMiddlesLaw", name := "append", desc := "(LMissingMiddles;I[J)I" } : Jvm.MethodName) method_31_code (4 : Nat) (Option.some Jvm.ClassFile.FieldType.int) [((0 : Nat), (9 : Nat), (12 : Nat), (13 : Nat)), ((0 : Nat), (9 : Nat), (15 : Nat), (102 : Nat))]) ∈ lw_all := lw_g (lw_at lw_m10 194 rfl) rfl
theorem q2457 : (Jvm.Cond.methodLink "MissingMiddlesLaw" (113 : Nat) ({ cls := "MissingMiddles", name := "append", desc := "(I)I" } : Jvm.MethodName)) ∈ lw_all := lw_g (lw_at lw_m10 195 rfl) rfl
theorem q2465 : (Jvm.Cond.methodLink "MissingMiddlesLaw" (249 : Nat) ({ cls := "MissingMiddlesLaw", name := "read", desc := "(LMissingMiddles;[J)I" } : Jvm.MethodName)) ∈ lw_all := lw_g (lw_at lw_m10 203 rfl) rfl
theorem q2466 : (Jvm.Cond.static ({ cls := "MissingMiddlesLaw", name := "read", desc := "(LMissingMiddles;[J)I" } : Jvm.MethodName)) ∈ lw_all := lw_g (lw_at lw_m10 204 rfl) rfl
theorem q2467 : (Jvm.Cond.codeWith ({ cls := "MissingMiddlesLaw", name := "read", desc := "(LMissingMiddles;[J)I" } : Jvm.MethodName) method_32_code (3 : Nat) (Option.some Jvm.ClassFile.FieldType.int) [((0 : Nat), (8 : Nat), (11 : Nat), (13 : Nat)), ((0 : Nat), (8 : Nat), (14 : Nat), (15 : Nat))]) ∈ lw_all := lw_g (lw_at lw_m10 205 rfl) rfl
theorem q2468 : (Jvm.Cond.methodLink "MissingMiddlesLaw" (116 : Nat) ({ cls := "MissingMiddles", name := "read", desc := "()I" } : Jvm.MethodName)) ∈ lw_all := lw_g (lw_at lw_m10 206 rfl) rfl
theorem q2599 : (Jvm.Cond.methodLink "MissingMiddlesLaw" (253 : Nat) ({ cls := "MissingMiddlesLaw", name := "errorPosition", desc := "(LMissingMiddles;[J)I" } : Jvm.MethodName)) ∈ lw_all := lw_g (lw_at lw_m11 97 rfl) rfl
theorem q2600 : (Jvm.Cond.static ({ cls := "MissingMiddlesLaw", name := "errorPosition", desc := "(LMissingMiddles;[J)I" } : Jvm.MethodName)) ∈ lw_all := lw_g (lw_at lw_m11 98 rfl) rfl
theorem q2601 : (Jvm.Cond.codeWith ({ cls := "MissingMiddlesLaw", name := "errorPosition", desc := "(LMissingMiddles;[J)I" } : Jvm.MethodName) method_33_code (3 : Nat) (Option.some Jvm.ClassFile.FieldType.int) [((0 : Nat), (8 : Nat), (11 : Nat), (59 : Nat))]) ∈ lw_all := lw_g (lw_at lw_m11 99 rfl) rfl
theorem q2602 : (Jvm.Cond.methodLink "MissingMiddlesLaw" (120 : Nat) ({ cls := "MissingMiddles", name := "errorPosition", desc := "()I" } : Jvm.MethodName)) ∈ lw_all := lw_g (lw_at lw_m11 100 rfl) rfl
theorem q2606 : (Jvm.Cond.methodLink "MissingMiddlesLaw" (256 : Nat) ({ cls := "MissingMiddlesLaw", name := "refusedItem", desc := "(LMissingMiddles;[J)I" } : Jvm.MethodName)) ∈ lw_all := lw_g (lw_at lw_m11 104 rfl) rfl
theorem q2607 : (Jvm.Cond.static ({ cls := "MissingMiddlesLaw", name := "refusedItem", desc := "(LMissingMiddles;[J)I" } : Jvm.MethodName)) ∈ lw_all := lw_g (lw_at lw_m11 105 rfl) rfl
theorem q2608 : (Jvm.Cond.codeWith ({ cls := "MissingMiddlesLaw", name := "refusedItem", desc := "(LMissingMiddles;[J)I" } : Jvm.MethodName) method_34_code (3 : Nat) (Option.some Jvm.ClassFile.FieldType.int) [((0 : Nat), (8 : Nat), (11 : Nat), (59 : Nat))]) ∈ lw_all := lw_g (lw_at lw_m11 106 rfl) rfl
theorem q2609 : (Jvm.Cond.methodLink "MissingMiddlesLaw" (123 : Nat) ({ cls := "MissingMiddles", name := "refusedItem", desc := "()I" } : Jvm.MethodName)) ∈ lw_all := lw_g (lw_at lw_m11 107 rfl) rfl
theorem q2613 : (Jvm.Cond.methodLink "MissingMiddlesLaw" (259 : Nat) ({ cls := "MissingMiddlesLaw", name := "undo", desc := "(LMissingMiddles;[J)I" } : Jvm.MethodName)) ∈ lw_all := lw_g (lw_at lw_m11 111 rfl) rfl
theorem q2614 : (Jvm.Cond.static ({ cls := "MissingMiddlesLaw", name := "undo", desc := "(LMissingMiddles;[J)I" } : Jvm.MethodName)) ∈ lw_all := lw_g (lw_at lw_m11 112 rfl) rfl
theorem q2615 : (Jvm.Cond.codeWith ({ cls := "MissingMiddlesLaw", name := "undo", desc := "(LMissingMiddles;[J)I" } : Jvm.MethodName) method_35_code (3 : Nat) (Option.some Jvm.ClassFile.FieldType.int) [((0 : Nat), (8 : Nat), (11 : Nat), (102 : Nat))]) ∈ lw_all := lw_g (lw_at lw_m11 113 rfl) rfl
theorem q2616 : (Jvm.Cond.methodLink "MissingMiddlesLaw" (126 : Nat) ({ cls := "MissingMiddles", name := "undo", desc := "()I" } : Jvm.MethodName)) ∈ lw_all := lw_g (lw_at lw_m11 114 rfl) rfl
theorem q2632 : (Jvm.Cond.methodLink "MissingMiddlesLaw" (266 : Nat) ({ cls := "MissingMiddlesLaw", name := "restore", desc := "(LMissingMiddles;[J)I" } : Jvm.MethodName)) ∈ lw_all := lw_g (lw_at lw_m11 130 rfl) rfl
theorem q2633 : (Jvm.Cond.static ({ cls := "MissingMiddlesLaw", name := "restore", desc := "(LMissingMiddles;[J)I" } : Jvm.MethodName)) ∈ lw_all := lw_g (lw_at lw_m11 131 rfl) rfl
theorem q2634 : (Jvm.Cond.codeWith ({ cls := "MissingMiddlesLaw", name := "restore", desc := "(LMissingMiddles;[J)I" } : Jvm.MethodName) method_36_code (3 : Nat) (Option.some Jvm.ClassFile.FieldType.int) [((0 : Nat), (8 : Nat), (11 : Nat), (102 : Nat))]) ∈ lw_all := lw_g (lw_at lw_m11 132 rfl) rfl
theorem q2635 : (Jvm.Cond.methodLink "MissingMiddlesLaw" (129 : Nat) ({ cls := "MissingMiddles", name := "restore", desc := "()I" } : Jvm.MethodName)) ∈ lw_all := lw_g (lw_at lw_m11 133 rfl) rfl
theorem q2639 : (Jvm.Cond.classLink "MissingMiddlesLaw" (133 : Nat) "MissingMiddlesModel") ∈ lw_all := lw_g (lw_at lw_m11 137 rfl) rfl
theorem q2641 : (Jvm.Cond.methodLink "MissingMiddlesLaw" (135 : Nat) ({ cls := "MissingMiddlesModel", name := "<init>", desc := "()V" } : Jvm.MethodName)) ∈ lw_all := lw_g (lw_at lw_m11 139 rfl) rfl
theorem q2718 : (Jvm.Cond.methodLink "MissingMiddlesLaw" (146 : Nat) ({ cls := "MissingMiddlesModel", name := "thrown", desc := "()I" } : Jvm.MethodName)) ∈ lw_all := lw_g (lw_at lw_m11 216 rfl) rfl
theorem q2722 : (Jvm.Cond.methodLink "MissingMiddlesLaw" (139 : Nat) ({ cls := "MissingMiddlesModel", name := "clear", desc := "()I" } : Jvm.MethodName)) ∈ lw_all := lw_g (lw_at lw_m11 220 rfl) rfl
theorem q2726 : (Jvm.Cond.methodLink "MissingMiddlesLaw" (233 : Nat) ({ cls := "MissingMiddlesModel", name := "refusal", desc := "(ZZ)I" } : Jvm.MethodName)) ∈ lw_all := lw_g (lw_at lw_m11 224 rfl) rfl
theorem q2730 : (Jvm.Cond.methodLink "MissingMiddlesLaw" (145 : Nat) ({ cls := "MissingMiddlesModel", name := "book", desc := "(IIIII)I" } : Jvm.MethodName)) ∈ lw_all := lw_g (lw_at lw_m11 228 rfl) rfl
theorem q2761 : (Jvm.Cond.methodLink "MissingMiddlesLaw" (151 : Nat) ({ cls := "MissingMiddlesModel", name := "hide", desc := "(IIIII)I" } : Jvm.MethodName)) ∈ lw_all := lw_g (lw_at lw_m12 19 rfl) rfl
theorem q2775 : (Jvm.Cond.methodLink "MissingMiddlesLaw" (155 : Nat) ({ cls := "MissingMiddlesModel", name := "find", desc := "(I)I" } : Jvm.MethodName)) ∈ lw_all := lw_g (lw_at lw_m12 33 rfl) rfl
theorem q2790 : (Jvm.Cond.methodLink "MissingMiddlesLaw" (158 : Nat) ({ cls := "MissingMiddlesModel", name := "drop", desc := "(I)I" } : Jvm.MethodName)) ∈ lw_all := lw_g (lw_at lw_m12 48 rfl) rfl
theorem q2806 : (Jvm.Cond.methodLink "MissingMiddlesLaw" (172 : Nat) ({ cls := "MissingMiddlesModel", name := "swear", desc := "(IIZ)I" } : Jvm.MethodName)) ∈ lw_all := lw_g (lw_at lw_m12 64 rfl) rfl
theorem q2825 : (Jvm.Cond.methodLink "MissingMiddlesLaw" (176 : Nat) ({ cls := "MissingMiddlesModel", name := "prove", desc := "(IZ)I" } : Jvm.MethodName)) ∈ lw_all := lw_g (lw_at lw_m12 83 rfl) rfl
theorem q2835 : (Jvm.Cond.methodLink "MissingMiddlesLaw" (179 : Nat) ({ cls := "MissingMiddlesModel", name := "readerOf", desc := "(II)I" } : Jvm.MethodName)) ∈ lw_all := lw_g (lw_at lw_m12 93 rfl) rfl
theorem q2839 : (Jvm.Cond.methodLink "MissingMiddlesLaw" (182 : Nat) ({ cls := "MissingMiddlesModel", name := "oath", desc := "(II)I" } : Jvm.MethodName)) ∈ lw_all := lw_g (lw_at lw_m12 97 rfl) rfl
theorem q2843 : (Jvm.Cond.methodLink "MissingMiddlesLaw" (185 : Nat) ({ cls := "MissingMiddlesModel", name := "chains", desc := "(IZ)I" } : Jvm.MethodName)) ∈ lw_all := lw_g (lw_at lw_m12 101 rfl) rfl
theorem q2879 : (Jvm.Cond.methodLink "MissingMiddlesLaw" (188 : Nat) ({ cls := "MissingMiddlesModel", name := "chainOf", desc := "(II)I" } : Jvm.MethodName)) ∈ lw_all := lw_g (lw_at lw_m12 137 rfl) rfl
theorem q2895 : (Jvm.Cond.methodLink "MissingMiddlesLaw" (191 : Nat) ({ cls := "MissingMiddlesModel", name := "reach", desc := "(IZ)I" } : Jvm.MethodName)) ∈ lw_all := lw_g (lw_at lw_m12 153 rfl) rfl
theorem q2907 : (Jvm.Cond.methodLink "MissingMiddlesLaw" (194 : Nat) ({ cls := "MissingMiddlesModel", name := "needed", desc := "(I)I" } : Jvm.MethodName)) ∈ lw_all := lw_g (lw_at lw_m12 165 rfl) rfl
theorem q2915 : (Jvm.Cond.methodLink "MissingMiddlesLaw" (197 : Nat) ({ cls := "MissingMiddlesModel", name := "without", desc := "(II)I" } : Jvm.MethodName)) ∈ lw_all := lw_g (lw_at lw_m12 173 rfl) rfl
theorem q2919 : (Jvm.Cond.methodLink "MissingMiddlesLaw" (200 : Nat) ({ cls := "MissingMiddlesModel", name := "would", desc := "(II)I" } : Jvm.MethodName)) ∈ lw_all := lw_g (lw_at lw_m12 177 rfl) rfl
theorem q2923 : (Jvm.Cond.methodLink "MissingMiddlesLaw" (203 : Nat) ({ cls := "MissingMiddlesModel", name := "ranked", desc := "(I)I" } : Jvm.MethodName)) ∈ lw_all := lw_g (lw_at lw_m12 181 rfl) rfl
theorem q2931 : (Jvm.Cond.methodLink "MissingMiddlesLaw" (208 : Nat) ({ cls := "MissingMiddlesModel", name := "isRight", desc := "()Z" } : Jvm.MethodName)) ∈ lw_all := lw_g (lw_at lw_m12 189 rfl) rfl
theorem q2935 : (Jvm.Cond.methodLink "MissingMiddlesLaw" (162 : Nat) ({ cls := "MissingMiddlesModel", name := "bookOf", desc := "(II)I" } : Jvm.MethodName)) ∈ lw_all := lw_g (lw_at lw_m12 193 rfl) rfl
theorem q2947 : (Jvm.Cond.methodLink "MissingMiddlesLaw" (165 : Nat) ({ cls := "MissingMiddlesModel", name := "scrapOf", desc := "(II)I" } : Jvm.MethodName)) ∈ lw_all := lw_g (lw_at lw_m12 205 rfl) rfl
theorem q2951 : (Jvm.Cond.methodLink "MissingMiddlesLaw" (168 : Nat) ({ cls := "MissingMiddlesModel", name := "atticOf", desc := "(II)I" } : Jvm.MethodName)) ∈ lw_all := lw_g (lw_at lw_m12 209 rfl) rfl
theorem q2955 : (Jvm.Cond.methodLink "MissingMiddlesLaw" (211 : Nat) ({ cls := "MissingMiddlesModel", name := "mend", desc := "(I)I" } : Jvm.MethodName)) ∈ lw_all := lw_g (lw_at lw_m12 213 rfl) rfl
theorem q2971 : (Jvm.Cond.methodLink "MissingMiddlesLaw" (214 : Nat) ({ cls := "MissingMiddlesModel", name := "earn", desc := "(I)I" } : Jvm.MethodName)) ∈ lw_all := lw_g (lw_at lw_m12 229 rfl) rfl
theorem q2979 : (Jvm.Cond.methodLink "MissingMiddlesLaw" (217 : Nat) ({ cls := "MissingMiddlesModel", name := "price", desc := "(I)I" } : Jvm.MethodName)) ∈ lw_all := lw_g (lw_at lw_m12 237 rfl) rfl
theorem q2987 : (Jvm.Cond.methodLink "MissingMiddlesLaw" (220 : Nat) ({ cls := "MissingMiddlesModel", name := "line", desc := "(I)I" } : Jvm.MethodName)) ∈ lw_all := lw_g (lw_at lw_m13 5 rfl) rfl
theorem q3006 : (Jvm.Cond.methodLink "MissingMiddlesLaw" (223 : Nat) ({ cls := "MissingMiddlesModel", name := "scrapLine", desc := "(I)I" } : Jvm.MethodName)) ∈ lw_all := lw_g (lw_at lw_m13 24 rfl) rfl
theorem q3010 : (Jvm.Cond.methodLink "MissingMiddlesLaw" (226 : Nat) ({ cls := "MissingMiddlesModel", name := "chainLine", desc := "(I)I" } : Jvm.MethodName)) ∈ lw_all := lw_g (lw_at lw_m13 28 rfl) rfl
theorem q3014 : (Jvm.Cond.methodLink "MissingMiddlesLaw" (229 : Nat) ({ cls := "MissingMiddlesModel", name := "character", desc := "(I)C" } : Jvm.MethodName)) ∈ lw_all := lw_g (lw_at lw_m13 32 rfl) rfl
theorem q3018 : (Jvm.Cond.methodLink "MissingMiddlesLaw" (236 : Nat) ({ cls := "MissingMiddlesModel", name := "account", desc := "(I)I" } : Jvm.MethodName)) ∈ lw_all := lw_g (lw_at lw_m13 36 rfl) rfl
theorem q3034 : (Jvm.Cond.methodLink "MissingMiddlesLaw" (241 : Nat) ({ cls := "MissingMiddlesModel", name := "meanTrust", desc := "()D" } : Jvm.MethodName)) ∈ lw_all := lw_g (lw_at lw_m13 52 rfl) rfl
theorem q3039 : (Jvm.Cond.methodLink "MissingMiddlesLaw" (245 : Nat) ({ cls := "MissingMiddlesModel", name := "wholeShare", desc := "()F" } : Jvm.MethodName)) ∈ lw_all := lw_g (lw_at lw_m13 57 rfl) rfl
theorem q3043 : (Jvm.Cond.methodLink "MissingMiddlesLaw" (248 : Nat) ({ cls := "MissingMiddlesModel", name := "append", desc := "(I)I" } : Jvm.MethodName)) ∈ lw_all := lw_g (lw_at lw_m13 61 rfl) rfl
theorem q3047 : (Jvm.Cond.methodLink "MissingMiddlesLaw" (252 : Nat) ({ cls := "MissingMiddlesModel", name := "read", desc := "()I" } : Jvm.MethodName)) ∈ lw_all := lw_g (lw_at lw_m13 65 rfl) rfl
theorem q3126 : (Jvm.Cond.methodLink "MissingMiddlesLaw" (255 : Nat) ({ cls := "MissingMiddlesModel", name := "errorPosition", desc := "()I" } : Jvm.MethodName)) ∈ lw_all := lw_g (lw_at lw_m13 144 rfl) rfl
theorem q3130 : (Jvm.Cond.methodLink "MissingMiddlesLaw" (258 : Nat) ({ cls := "MissingMiddlesModel", name := "refusedItem", desc := "()I" } : Jvm.MethodName)) ∈ lw_all := lw_g (lw_at lw_m13 148 rfl) rfl
theorem q3134 : (Jvm.Cond.methodLink "MissingMiddlesLaw" (261 : Nat) ({ cls := "MissingMiddlesModel", name := "undo", desc := "()I" } : Jvm.MethodName)) ∈ lw_all := lw_g (lw_at lw_m13 152 rfl) rfl
theorem q3138 : (Jvm.Cond.methodLink "MissingMiddlesLaw" (265 : Nat) ({ cls := "MissingMiddlesModel", name := "snapshot", desc := "()I" } : Jvm.MethodName)) ∈ lw_all := lw_g (lw_at lw_m13 156 rfl) rfl
theorem q3142 : (Jvm.Cond.methodLink "MissingMiddlesLaw" (268 : Nat) ({ cls := "MissingMiddlesModel", name := "restore", desc := "()I" } : Jvm.MethodName)) ∈ lw_all := lw_g (lw_at lw_m13 160 rfl) rfl
/-! the law's own entry -/
set_option maxRecDepth 100000
abbrev cL_law : ByteArray := code
def dkwL_law_102 : List UInt8 := [4, 172]
abbrev dktL_law_102 : List UInt8 := dkwL_law_102 ++ []
def dkwL_law_101 : List UInt8 := [154, 0, 15, 45, 3, 47, 21, 7, 133, 148, 153, 0, 5, 3, 172, 167, 0, 3, 132, 5, 6, 167, 246, 79]
abbrev dktL_law_101 : List UInt8 := dkwL_law_101 ++ dktL_law_102
def dkwL_law_100 : List UInt8 := [184, 1, 10, 54, 6, 44, 182, 1, 12, 54, 7, 44, 182, 0, 146, 21, 6, 159, 0, 5, 3, 172, 21, 6]
abbrev dktL_law_100 : List UInt8 := dkwL_law_100 ++ dktL_law_101
def dkwL_law_99 : List UInt8 := [153, 0, 5, 3, 172, 167, 0, 60, 43, 182, 1, 6, 44, 182, 1, 9, 159, 0, 49, 3, 172, 43, 45]
abbrev dktL_law_99 : List UInt8 := dkwL_law_99 ++ dktL_law_100
def dkwL_law_98 : List UInt8 := [182, 0, 146, 21, 6, 159, 0, 5, 3, 172, 21, 6, 154, 0, 15, 45, 3, 47, 21, 7, 133, 148]
abbrev dktL_law_98 : List UInt8 := dkwL_law_98 ++ dktL_law_99
def dkwL_law_97 : List UInt8 := [153, 0, 5, 3, 172, 167, 0, 104, 43, 45, 184, 1, 3, 54, 6, 44, 182, 1, 5, 54, 7, 44]
abbrev dktL_law_97 : List UInt8 := dkwL_law_97 ++ dktL_law_98
def dkwL_law_96 : List UInt8 := [182, 0, 146, 21, 6, 159, 0, 5, 3, 172, 21, 6, 154, 0, 15, 45, 3, 47, 21, 7, 133, 148]
abbrev dktL_law_96 : List UInt8 := dkwL_law_96 ++ dktL_law_97
def dkwL_law_95 : List UInt8 := [153, 0, 5, 3, 172, 167, 0, 148, 43, 45, 184, 1, 0, 54, 6, 44, 182, 1, 2, 54, 7, 44]
abbrev dktL_law_95 : List UInt8 := dkwL_law_95 ++ dktL_law_96
def dkwL_law_94 : List UInt8 := [182, 0, 146, 21, 6, 159, 0, 5, 3, 172, 21, 6, 154, 0, 15, 45, 3, 47, 21, 7, 133, 148]
abbrev dktL_law_94 : List UInt8 := dkwL_law_94 ++ dktL_law_95
def dkwL_law_93 : List UInt8 := [153, 0, 5, 3, 172, 167, 0, 192, 43, 45, 184, 0, 253, 54, 6, 44, 182, 0, 255, 54, 7, 44]
abbrev dktL_law_93 : List UInt8 := dkwL_law_93 ++ dktL_law_94
def dkwL_law_92 : List UInt8 := [182, 0, 146, 21, 6, 159, 0, 5, 3, 172, 21, 6, 154, 0, 15, 45, 3, 47, 21, 7, 133, 148]
abbrev dktL_law_92 : List UInt8 := dkwL_law_92 ++ dktL_law_93
def dkwL_law_91 : List UInt8 := [153, 0, 5, 3, 172, 167, 0, 236, 43, 45, 184, 0, 249, 54, 6, 44, 182, 0, 252, 54, 7, 44]
abbrev dktL_law_91 : List UInt8 := dkwL_law_91 ++ dktL_law_92
def dkwL_law_90 : List UInt8 := [182, 0, 146, 21, 6, 159, 0, 5, 3, 172, 21, 6, 154, 0, 15, 45, 3, 47, 21, 7, 133, 148]
abbrev dktL_law_90 : List UInt8 := dkwL_law_90 ++ dktL_law_91
def dkwL_law_89 : List UInt8 := [21, 5, 4, 96, 46, 45, 184, 0, 246, 54, 6, 44, 42, 21, 5, 4, 96, 46, 182, 0, 248, 54, 7, 44]
abbrev dktL_law_89 : List UInt8 := dkwL_law_89 ++ dktL_law_90
def dkwL_law_88 : List UInt8 := [49, 25, 4, 3, 49, 151, 153, 0, 11, 23, 7, 23, 7, 149, 154, 0, 5, 3, 172, 167, 1, 36, 43, 42]
abbrev dktL_law_88 : List UInt8 := dkwL_law_88 ++ dktL_law_89
def dkwL_law_87 : List UInt8 := [159, 0, 5, 3, 172, 21, 6, 154, 0, 36, 25, 4, 3, 49, 23, 7, 141, 151, 153, 0, 25, 25, 4, 3]
abbrev dktL_law_87 : List UInt8 := dkwL_law_87 ++ dktL_law_88
def dkwL_law_86 : List UInt8 := [167, 1, 102, 43, 25, 4, 184, 0, 242, 54, 6, 44, 182, 0, 245, 56, 7, 44, 182, 0, 146, 21, 6]
abbrev dktL_law_86 : List UInt8 := dkwL_law_86 ++ dktL_law_87
def dkwL_law_85 : List UInt8 := [151, 153, 0, 21, 24, 6, 24, 6, 151, 153, 0, 11, 24, 8, 24, 8, 151, 154, 0, 5, 3, 172]
abbrev dktL_law_85 : List UInt8 := dkwL_law_85 ++ dktL_law_86
def dkwL_law_84 : List UInt8 := [153, 0, 5, 3, 172, 167, 1, 143, 43, 182, 0, 237, 57, 6, 44, 182, 0, 241, 57, 8, 24, 6, 24, 8]
abbrev dktL_law_84 : List UInt8 := dkwL_law_84 ++ dktL_law_85
def dkwL_law_83 : List UInt8 := [182, 0, 146, 21, 6, 159, 0, 5, 3, 172, 21, 6, 154, 0, 15, 45, 3, 47, 21, 7, 133, 148]
abbrev dktL_law_83 : List UInt8 := dkwL_law_83 ++ dktL_law_84
def dkwL_law_82 : List UInt8 := [21, 5, 4, 96, 46, 45, 184, 0, 234, 54, 6, 44, 42, 21, 5, 4, 96, 46, 182, 0, 236, 54, 7, 44]
abbrev dktL_law_82 : List UInt8 := dkwL_law_82 ++ dktL_law_83
def dkwL_law_81 : List UInt8 := [3, 172, 21, 6, 154, 0, 15, 45, 3, 47, 21, 7, 133, 148, 153, 0, 5, 3, 172, 167, 1, 199, 43, 42]
abbrev dktL_law_81 : List UInt8 := dkwL_law_81 ++ dktL_law_82
def dkwL_law_80 : List UInt8 := [96, 46, 153, 0, 7, 4, 167, 0, 4, 3, 182, 0, 233, 54, 7, 44, 182, 0, 146, 21, 6, 159, 0, 5]
abbrev dktL_law_80 : List UInt8 := dkwL_law_80 ++ dktL_law_81
def dkwL_law_79 : List UInt8 := [184, 0, 230, 54, 6, 44, 42, 21, 5, 4, 96, 46, 153, 0, 7, 4, 167, 0, 4, 3, 42, 21, 5, 5]
abbrev dktL_law_79 : List UInt8 := dkwL_law_79 ++ dktL_law_80
def dkwL_law_78 : List UInt8 := [46, 153, 0, 7, 4, 167, 0, 4, 3, 42, 21, 5, 5, 96, 46, 153, 0, 7, 4, 167, 0, 4, 3, 45]
abbrev dktL_law_78 : List UInt8 := dkwL_law_78 ++ dktL_law_79
def dkwL_law_77 : List UInt8 := [154, 0, 15, 45, 3, 47, 21, 7, 133, 148, 153, 0, 5, 3, 172, 167, 2, 43, 43, 42, 21, 5, 4, 96]
abbrev dktL_law_77 : List UInt8 := dkwL_law_77 ++ dktL_law_78
def dkwL_law_76 : List UInt8 := [21, 5, 4, 96, 46, 182, 0, 229, 54, 7, 44, 182, 0, 146, 21, 6, 159, 0, 5, 3, 172, 21, 6]
abbrev dktL_law_76 : List UInt8 := dkwL_law_76 ++ dktL_law_77
def dkwL_law_75 : List UInt8 := [153, 0, 5, 3, 172, 167, 2, 99, 43, 42, 21, 5, 4, 96, 46, 45, 184, 0, 227, 54, 6, 44, 42]
abbrev dktL_law_75 : List UInt8 := dkwL_law_75 ++ dktL_law_76
def dkwL_law_74 : List UInt8 := [182, 0, 146, 21, 6, 159, 0, 5, 3, 172, 21, 6, 154, 0, 15, 45, 3, 47, 21, 7, 133, 148]
abbrev dktL_law_74 : List UInt8 := dkwL_law_74 ++ dktL_law_75
def dkwL_law_73 : List UInt8 := [21, 5, 4, 96, 46, 45, 184, 0, 224, 54, 6, 44, 42, 21, 5, 4, 96, 46, 182, 0, 226, 54, 7, 44]
abbrev dktL_law_73 : List UInt8 := dkwL_law_73 ++ dktL_law_74
def dkwL_law_72 : List UInt8 := [172, 21, 6, 154, 0, 15, 45, 3, 47, 21, 7, 133, 148, 153, 0, 5, 3, 172, 167, 2, 155, 43, 42]
abbrev dktL_law_72 : List UInt8 := dkwL_law_72 ++ dktL_law_73
def dkwL_law_71 : List UInt8 := [54, 6, 44, 42, 21, 5, 4, 96, 46, 182, 0, 223, 54, 7, 44, 182, 0, 146, 21, 6, 159, 0, 5, 3]
abbrev dktL_law_71 : List UInt8 := dkwL_law_71 ++ dktL_law_72
def dkwL_law_70 : List UInt8 := [21, 7, 133, 148, 153, 0, 5, 3, 172, 167, 2, 211, 43, 42, 21, 5, 4, 96, 46, 45, 184, 0, 221]
abbrev dktL_law_70 : List UInt8 := dkwL_law_70 ++ dktL_law_71
def dkwL_law_69 : List UInt8 := [182, 0, 220, 54, 7, 44, 182, 0, 146, 21, 6, 159, 0, 5, 3, 172, 21, 6, 154, 0, 15, 45, 3, 47]
abbrev dktL_law_69 : List UInt8 := dkwL_law_69 ++ dktL_law_70
def dkwL_law_68 : List UInt8 := [167, 3, 11, 43, 42, 21, 5, 4, 96, 46, 45, 184, 0, 218, 54, 6, 44, 42, 21, 5, 4, 96, 46]
abbrev dktL_law_68 : List UInt8 := dkwL_law_68 ++ dktL_law_69
def dkwL_law_67 : List UInt8 := [21, 6, 159, 0, 5, 3, 172, 21, 6, 154, 0, 15, 45, 3, 47, 21, 7, 133, 148, 153, 0, 5, 3, 172]
abbrev dktL_law_67 : List UInt8 := dkwL_law_67 ++ dktL_law_68
def dkwL_law_66 : List UInt8 := [46, 45, 184, 0, 215, 54, 6, 44, 42, 21, 5, 4, 96, 46, 182, 0, 217, 54, 7, 44, 182, 0, 146]
abbrev dktL_law_66 : List UInt8 := dkwL_law_66 ++ dktL_law_67
def dkwL_law_65 : List UInt8 := [154, 0, 15, 45, 3, 47, 21, 7, 133, 148, 153, 0, 5, 3, 172, 167, 3, 67, 43, 42, 21, 5, 4, 96]
abbrev dktL_law_65 : List UInt8 := dkwL_law_65 ++ dktL_law_66
def dkwL_law_64 : List UInt8 := [21, 5, 4, 96, 46, 182, 0, 214, 54, 7, 44, 182, 0, 146, 21, 6, 159, 0, 5, 3, 172, 21, 6]
abbrev dktL_law_64 : List UInt8 := dkwL_law_64 ++ dktL_law_65
def dkwL_law_63 : List UInt8 := [148, 153, 0, 5, 3, 172, 167, 3, 123, 43, 42, 21, 5, 4, 96, 46, 45, 184, 0, 212, 54, 6, 44, 42]
abbrev dktL_law_63 : List UInt8 := dkwL_law_63 ++ dktL_law_64
def dkwL_law_62 : List UInt8 := [54, 7, 44, 182, 0, 146, 21, 6, 159, 0, 5, 3, 172, 21, 6, 154, 0, 15, 45, 3, 47, 21, 7, 133]
abbrev dktL_law_62 : List UInt8 := dkwL_law_62 ++ dktL_law_63
def dkwL_law_61 : List UInt8 := [172, 43, 42, 21, 5, 4, 96, 46, 45, 184, 0, 209, 54, 6, 44, 42, 21, 5, 4, 96, 46, 182, 0, 211]
abbrev dktL_law_61 : List UInt8 := dkwL_law_61 ++ dktL_law_62
def dkwL_law_60 : List UInt8 := [21, 7, 133, 148, 153, 0, 5, 3, 172, 167, 3, 192, 43, 182, 0, 204, 44, 182, 0, 208, 159, 3, 181, 3]
abbrev dktL_law_60 : List UInt8 := dkwL_law_60 ++ dktL_law_61
def dkwL_law_59 : List UInt8 := [182, 0, 203, 54, 7, 44, 182, 0, 146, 21, 6, 159, 0, 5, 3, 172, 21, 6, 154, 0, 15, 45, 3, 47]
abbrev dktL_law_59 : List UInt8 := dkwL_law_59 ++ dktL_law_60
def dkwL_law_58 : List UInt8 := [167, 3, 248, 43, 42, 21, 5, 4, 96, 46, 45, 184, 0, 201, 54, 6, 44, 42, 21, 5, 4, 96, 46]
abbrev dktL_law_58 : List UInt8 := dkwL_law_58 ++ dktL_law_59
def dkwL_law_57 : List UInt8 := [159, 0, 5, 3, 172, 21, 6, 154, 0, 15, 45, 3, 47, 21, 7, 133, 148, 153, 0, 5, 3, 172]
abbrev dktL_law_57 : List UInt8 := dkwL_law_57 ++ dktL_law_58
def dkwL_law_56 : List UInt8 := [21, 5, 4, 96, 46, 42, 21, 5, 5, 96, 46, 182, 0, 200, 54, 7, 44, 182, 0, 146, 21, 6]
abbrev dktL_law_56 : List UInt8 := dkwL_law_56 ++ dktL_law_57
def dkwL_law_55 : List UInt8 := [167, 4, 60, 43, 42, 21, 5, 4, 96, 46, 42, 21, 5, 5, 96, 46, 45, 184, 0, 198, 54, 6, 44, 42]
abbrev dktL_law_55 : List UInt8 := dkwL_law_55 ++ dktL_law_56
def dkwL_law_54 : List UInt8 := [159, 0, 5, 3, 172, 21, 6, 154, 0, 15, 45, 3, 47, 21, 7, 133, 148, 153, 0, 5, 3, 172]
abbrev dktL_law_54 : List UInt8 := dkwL_law_54 ++ dktL_law_55
def dkwL_law_53 : List UInt8 := [21, 5, 4, 96, 46, 42, 21, 5, 5, 96, 46, 182, 0, 197, 54, 7, 44, 182, 0, 146, 21, 6]
abbrev dktL_law_53 : List UInt8 := dkwL_law_53 ++ dktL_law_54
def dkwL_law_52 : List UInt8 := [167, 4, 128, 43, 42, 21, 5, 4, 96, 46, 42, 21, 5, 5, 96, 46, 45, 184, 0, 195, 54, 6, 44, 42]
abbrev dktL_law_52 : List UInt8 := dkwL_law_52 ++ dktL_law_53
def dkwL_law_51 : List UInt8 := [21, 6, 159, 0, 5, 3, 172, 21, 6, 154, 0, 15, 45, 3, 47, 21, 7, 133, 148, 153, 0, 5, 3, 172]
abbrev dktL_law_51 : List UInt8 := dkwL_law_51 ++ dktL_law_52
def dkwL_law_50 : List UInt8 := [46, 45, 184, 0, 192, 54, 6, 44, 42, 21, 5, 4, 96, 46, 182, 0, 194, 54, 7, 44, 182, 0, 146]
abbrev dktL_law_50 : List UInt8 := dkwL_law_50 ++ dktL_law_51
def dkwL_law_49 : List UInt8 := [154, 0, 15, 45, 3, 47, 21, 7, 133, 148, 153, 0, 5, 3, 172, 167, 4, 184, 43, 42, 21, 5, 4, 96]
abbrev dktL_law_49 : List UInt8 := dkwL_law_49 ++ dktL_law_50
def dkwL_law_48 : List UInt8 := [167, 0, 4, 3, 182, 0, 191, 54, 7, 44, 182, 0, 146, 21, 6, 159, 0, 5, 3, 172, 21, 6]
abbrev dktL_law_48 : List UInt8 := dkwL_law_48 ++ dktL_law_49
def dkwL_law_47 : List UInt8 := [45, 184, 0, 189, 54, 6, 44, 42, 21, 5, 4, 96, 46, 42, 21, 5, 5, 96, 46, 153, 0, 7, 4]
abbrev dktL_law_47 : List UInt8 := dkwL_law_47 ++ dktL_law_48
def dkwL_law_46 : List UInt8 := [167, 5, 12, 43, 42, 21, 5, 4, 96, 46, 42, 21, 5, 5, 96, 46, 153, 0, 7, 4, 167, 0, 4, 3]
abbrev dktL_law_46 : List UInt8 := dkwL_law_46 ++ dktL_law_47
def dkwL_law_45 : List UInt8 := [159, 0, 5, 3, 172, 21, 6, 154, 0, 15, 45, 3, 47, 21, 7, 133, 148, 153, 0, 5, 3, 172]
abbrev dktL_law_45 : List UInt8 := dkwL_law_45 ++ dktL_law_46
def dkwL_law_44 : List UInt8 := [21, 5, 4, 96, 46, 42, 21, 5, 5, 96, 46, 182, 0, 188, 54, 7, 44, 182, 0, 146, 21, 6]
abbrev dktL_law_44 : List UInt8 := dkwL_law_44 ++ dktL_law_45
def dkwL_law_43 : List UInt8 := [167, 5, 80, 43, 42, 21, 5, 4, 96, 46, 42, 21, 5, 5, 96, 46, 45, 184, 0, 186, 54, 6, 44, 42]
abbrev dktL_law_43 : List UInt8 := dkwL_law_43 ++ dktL_law_44
def dkwL_law_42 : List UInt8 := [21, 6, 159, 0, 5, 3, 172, 21, 6, 154, 0, 15, 45, 3, 47, 21, 7, 133, 148, 153, 0, 5, 3, 172]
abbrev dktL_law_42 : List UInt8 := dkwL_law_42 ++ dktL_law_43
def dkwL_law_41 : List UInt8 := [42, 21, 5, 5, 96, 46, 153, 0, 7, 4, 167, 0, 4, 3, 182, 0, 185, 54, 7, 44, 182, 0, 146]
abbrev dktL_law_41 : List UInt8 := dkwL_law_41 ++ dktL_law_42
def dkwL_law_40 : List UInt8 := [5, 96, 46, 153, 0, 7, 4, 167, 0, 4, 3, 45, 184, 0, 183, 54, 6, 44, 42, 21, 5, 4, 96, 46]
abbrev dktL_law_40 : List UInt8 := dkwL_law_40 ++ dktL_law_41
def dkwL_law_39 : List UInt8 := [3, 47, 21, 7, 133, 148, 153, 0, 5, 3, 172, 167, 5, 164, 43, 42, 21, 5, 4, 96, 46, 42, 21, 5]
abbrev dktL_law_39 : List UInt8 := dkwL_law_39 ++ dktL_law_40
def dkwL_law_38 : List UInt8 := [96, 46, 182, 0, 182, 54, 7, 44, 182, 0, 146, 21, 6, 159, 0, 5, 3, 172, 21, 6, 154, 0, 15, 45]
abbrev dktL_law_38 : List UInt8 := dkwL_law_38 ++ dktL_law_39
def dkwL_law_37 : List UInt8 := [46, 42, 21, 5, 5, 96, 46, 45, 184, 0, 180, 54, 6, 44, 42, 21, 5, 4, 96, 46, 42, 21, 5, 5]
abbrev dktL_law_37 : List UInt8 := dkwL_law_37 ++ dktL_law_38
def dkwL_law_36 : List UInt8 := [154, 0, 15, 45, 3, 47, 21, 7, 133, 148, 153, 0, 5, 3, 172, 167, 5, 232, 43, 42, 21, 5, 4, 96]
abbrev dktL_law_36 : List UInt8 := dkwL_law_36 ++ dktL_law_37
def dkwL_law_35 : List UInt8 := [21, 5, 5, 96, 46, 182, 0, 179, 54, 7, 44, 182, 0, 146, 21, 6, 159, 0, 5, 3, 172, 21, 6]
abbrev dktL_law_35 : List UInt8 := dkwL_law_35 ++ dktL_law_36
def dkwL_law_34 : List UInt8 := [4, 96, 46, 42, 21, 5, 5, 96, 46, 45, 184, 0, 177, 54, 6, 44, 42, 21, 5, 4, 96, 46, 42]
abbrev dktL_law_34 : List UInt8 := dkwL_law_34 ++ dktL_law_35
def dkwL_law_33 : List UInt8 := [21, 6, 154, 0, 15, 45, 3, 47, 21, 7, 133, 148, 153, 0, 5, 3, 172, 167, 6, 44, 43, 42, 21, 5]
abbrev dktL_law_33 : List UInt8 := dkwL_law_33 ++ dktL_law_34
def dkwL_law_32 : List UInt8 := [153, 0, 7, 4, 167, 0, 4, 3, 182, 0, 176, 54, 7, 44, 182, 0, 146, 21, 6, 159, 0, 5, 3, 172]
abbrev dktL_law_32 : List UInt8 := dkwL_law_32 ++ dktL_law_33
def dkwL_law_31 : List UInt8 := [4, 167, 0, 4, 3, 45, 184, 0, 173, 54, 6, 44, 42, 21, 5, 4, 96, 46, 42, 21, 5, 5, 96, 46]
abbrev dktL_law_31 : List UInt8 := dkwL_law_31 ++ dktL_law_32
def dkwL_law_30 : List UInt8 := [153, 0, 5, 3, 172, 167, 6, 128, 43, 42, 21, 5, 4, 96, 46, 42, 21, 5, 5, 96, 46, 153, 0, 7]
abbrev dktL_law_30 : List UInt8 := dkwL_law_30 ++ dktL_law_31
def dkwL_law_29 : List UInt8 := [182, 0, 146, 21, 6, 159, 0, 5, 3, 172, 21, 6, 154, 0, 15, 45, 3, 47, 21, 7, 133, 148]
abbrev dktL_law_29 : List UInt8 := dkwL_law_29 ++ dktL_law_30
def dkwL_law_28 : List UInt8 := [5, 96, 46, 42, 21, 5, 6, 96, 46, 153, 0, 7, 4, 167, 0, 4, 3, 182, 0, 172, 54, 7, 44]
abbrev dktL_law_28 : List UInt8 := dkwL_law_28 ++ dktL_law_29
def dkwL_law_27 : List UInt8 := [153, 0, 7, 4, 167, 0, 4, 3, 45, 184, 0, 169, 54, 6, 44, 42, 21, 5, 4, 96, 46, 42, 21, 5]
abbrev dktL_law_27 : List UInt8 := dkwL_law_27 ++ dktL_law_28
def dkwL_law_26 : List UInt8 := [167, 6, 224, 43, 42, 21, 5, 4, 96, 46, 42, 21, 5, 5, 96, 46, 42, 21, 5, 6, 96, 46]
abbrev dktL_law_26 : List UInt8 := dkwL_law_26 ++ dktL_law_27
def dkwL_law_25 : List UInt8 := [159, 0, 5, 3, 172, 21, 6, 154, 0, 15, 45, 3, 47, 21, 7, 133, 148, 153, 0, 5, 3, 172]
abbrev dktL_law_25 : List UInt8 := dkwL_law_25 ++ dktL_law_26
def dkwL_law_24 : List UInt8 := [21, 5, 4, 96, 46, 42, 21, 5, 5, 96, 46, 182, 0, 168, 54, 7, 44, 182, 0, 146, 21, 6]
abbrev dktL_law_24 : List UInt8 := dkwL_law_24 ++ dktL_law_25
def dkwL_law_23 : List UInt8 := [167, 7, 36, 43, 42, 21, 5, 4, 96, 46, 42, 21, 5, 5, 96, 46, 45, 184, 0, 166, 54, 6, 44, 42]
abbrev dktL_law_23 : List UInt8 := dkwL_law_23 ++ dktL_law_24
def dkwL_law_22 : List UInt8 := [159, 0, 5, 3, 172, 21, 6, 154, 0, 15, 45, 3, 47, 21, 7, 133, 148, 153, 0, 5, 3, 172]
abbrev dktL_law_22 : List UInt8 := dkwL_law_22 ++ dktL_law_23
def dkwL_law_21 : List UInt8 := [21, 5, 4, 96, 46, 42, 21, 5, 5, 96, 46, 182, 0, 165, 54, 7, 44, 182, 0, 146, 21, 6]
abbrev dktL_law_21 : List UInt8 := dkwL_law_21 ++ dktL_law_22
def dkwL_law_20 : List UInt8 := [167, 7, 104, 43, 42, 21, 5, 4, 96, 46, 42, 21, 5, 5, 96, 46, 45, 184, 0, 163, 54, 6, 44, 42]
abbrev dktL_law_20 : List UInt8 := dkwL_law_20 ++ dktL_law_21
def dkwL_law_19 : List UInt8 := [159, 0, 5, 3, 172, 21, 6, 154, 0, 15, 45, 3, 47, 21, 7, 133, 148, 153, 0, 5, 3, 172]
abbrev dktL_law_19 : List UInt8 := dkwL_law_19 ++ dktL_law_20
def dkwL_law_18 : List UInt8 := [21, 5, 4, 96, 46, 42, 21, 5, 5, 96, 46, 182, 0, 162, 54, 7, 44, 182, 0, 146, 21, 6]
abbrev dktL_law_18 : List UInt8 := dkwL_law_18 ++ dktL_law_19
def dkwL_law_17 : List UInt8 := [167, 7, 172, 43, 42, 21, 5, 4, 96, 46, 42, 21, 5, 5, 96, 46, 45, 184, 0, 159, 54, 6, 44, 42]
abbrev dktL_law_17 : List UInt8 := dkwL_law_17 ++ dktL_law_18
def dkwL_law_16 : List UInt8 := [21, 6, 159, 0, 5, 3, 172, 21, 6, 154, 0, 15, 45, 3, 47, 21, 7, 133, 148, 153, 0, 5, 3, 172]
abbrev dktL_law_16 : List UInt8 := dkwL_law_16 ++ dktL_law_17
def dkwL_law_15 : List UInt8 := [46, 45, 184, 0, 156, 54, 6, 44, 42, 21, 5, 4, 96, 46, 182, 0, 158, 54, 7, 44, 182, 0, 146]
abbrev dktL_law_15 : List UInt8 := dkwL_law_15 ++ dktL_law_16
def dkwL_law_14 : List UInt8 := [154, 0, 15, 45, 3, 47, 21, 7, 133, 148, 153, 0, 5, 3, 172, 167, 7, 228, 43, 42, 21, 5, 4, 96]
abbrev dktL_law_14 : List UInt8 := dkwL_law_14 ++ dktL_law_15
def dkwL_law_13 : List UInt8 := [21, 5, 4, 96, 46, 182, 0, 155, 54, 7, 44, 182, 0, 146, 21, 6, 159, 0, 5, 3, 172, 21, 6]
abbrev dktL_law_13 : List UInt8 := dkwL_law_13 ++ dktL_law_14
def dkwL_law_12 : List UInt8 := [153, 0, 5, 3, 172, 167, 8, 28, 43, 42, 21, 5, 4, 96, 46, 45, 184, 0, 152, 54, 6, 44, 42]
abbrev dktL_law_12 : List UInt8 := dkwL_law_12 ++ dktL_law_13
def dkwL_law_11 : List UInt8 := [182, 0, 146, 21, 6, 159, 0, 5, 3, 172, 21, 6, 154, 0, 15, 45, 3, 47, 21, 7, 133, 148]
abbrev dktL_law_11 : List UInt8 := dkwL_law_11 ++ dktL_law_12
def dkwL_law_10 : List UInt8 := [42, 21, 5, 6, 96, 46, 42, 21, 5, 7, 96, 46, 42, 21, 5, 8, 96, 46, 182, 0, 151, 54, 7, 44]
abbrev dktL_law_10 : List UInt8 := dkwL_law_10 ++ dktL_law_11
def dkwL_law_9 : List UInt8 := [21, 5, 8, 96, 46, 45, 184, 0, 149, 54, 6, 44, 42, 21, 5, 4, 96, 46, 42, 21, 5, 5, 96, 46]
abbrev dktL_law_9 : List UInt8 := dkwL_law_9 ++ dktL_law_10
def dkwL_law_8 : List UInt8 := [21, 5, 4, 96, 46, 42, 21, 5, 5, 96, 46, 42, 21, 5, 6, 96, 46, 42, 21, 5, 7, 96, 46, 42]
abbrev dktL_law_8 : List UInt8 := dkwL_law_8 ++ dktL_law_9
def dkwL_law_7 : List UInt8 := [172, 21, 6, 154, 0, 15, 45, 3, 47, 21, 7, 133, 148, 153, 0, 5, 3, 172, 167, 8, 132, 43, 42]
abbrev dktL_law_7 : List UInt8 := dkwL_law_7 ++ dktL_law_8
def dkwL_law_6 : List UInt8 := [7, 96, 46, 42, 21, 5, 8, 96, 46, 182, 0, 145, 54, 7, 44, 182, 0, 146, 21, 6, 159, 0, 5, 3]
abbrev dktL_law_6 : List UInt8 := dkwL_law_6 ++ dktL_law_7
def dkwL_law_5 : List UInt8 := [54, 6, 44, 42, 21, 5, 4, 96, 46, 42, 21, 5, 5, 96, 46, 42, 21, 5, 6, 96, 46, 42, 21, 5]
abbrev dktL_law_5 : List UInt8 := dkwL_law_5 ++ dktL_law_6
def dkwL_law_4 : List UInt8 := [96, 46, 42, 21, 5, 6, 96, 46, 42, 21, 5, 7, 96, 46, 42, 21, 5, 8, 96, 46, 45, 184, 0, 140]
abbrev dktL_law_4 : List UInt8 := dkwL_law_4 ++ dktL_law_5
def dkwL_law_3 : List UInt8 := [43, 182, 0, 136, 44, 182, 0, 139, 159, 8, 238, 3, 172, 43, 42, 21, 5, 4, 96, 46, 42, 21, 5, 5]
abbrev dktL_law_3 : List UInt8 := dkwL_law_3 ++ dktL_law_4
def dkwL_law_2 : List UInt8 := [170, 0, 0, 0, 0, 9, 157, 0, 0, 0, 0, 0, 0, 0, 37, 0, 0, 0, 167, 0, 0, 0, 180, 0, 0, 1, 28, 0, 0, 1, 132, 0, 0, 1, 188, 0, 0, 1, 244, 0, 0, 2, 56, 0, 0, 2, 124, 0, 0, 2, 192, 0, 0, 3, 32, 0, 0, 3, 116, 0, 0, 3, 184, 0, 0, 3, 252, 0, 0, 4, 80, 0, 0, 4, 148, 0, 0, 4, 232, 0, 0, 5, 32, 0, 0, 5, 100, 0, 0, 5, 168, 0, 0, 5, 224, 0, 0, 5, 237, 0, 0, 6, 37, 0, 0, 6, 93, 0, 0, 6, 149, 0, 0, 6, 205, 0, 0, 7, 5, 0, 0, 7, 61, 0, 0, 7, 117, 0, 0, 7, 217, 0, 0, 8, 17, 0, 0, 8, 58, 0, 0, 8, 124, 0, 0, 8, 180, 0, 0, 8, 224, 0, 0, 9, 12, 0, 0, 9, 56, 0, 0, 9, 100, 0, 0, 9, 113]
abbrev dktL_law_2 : List UInt8 := dkwL_law_2 ++ dktL_law_3
def dkwL_law_1 : List UInt8 := [58, 4, 3, 54, 5, 21, 5, 42, 190, 16, 6, 100, 163, 9, 173, 42, 21, 5, 46, 16, 63, 126]
abbrev dktL_law_1 : List UInt8 := dkwL_law_1 ++ dktL_law_2
def dkwL_law_0 : List UInt8 := [187, 0, 8, 89, 183, 0, 132, 76, 187, 0, 133, 89, 183, 0, 135, 77, 4, 188, 11, 78, 4, 188, 7]
abbrev dktL_law_0 : List UInt8 := dkwL_law_0 ++ dktL_law_1
theorem dksL_law_0 : cL_law.data.toList.drop 0 = dktL_law_0 := by decide +kernel
theorem dksL_law_1 : cL_law.data.toList.drop 23 = dktL_law_1 := dk_seg dksL_law_0 23 rfl rfl
theorem dksL_law_2 : cL_law.data.toList.drop 45 = dktL_law_2 := dk_seg dksL_law_1 22 rfl rfl
theorem dksL_law_3 : cL_law.data.toList.drop 212 = dktL_law_3 := dk_seg dksL_law_2 167 rfl rfl
theorem dksL_law_4 : cL_law.data.toList.drop 236 = dktL_law_4 := dk_seg dksL_law_3 24 rfl rfl
theorem dksL_law_5 : cL_law.data.toList.drop 260 = dktL_law_5 := dk_seg dksL_law_4 24 rfl rfl
theorem dksL_law_6 : cL_law.data.toList.drop 284 = dktL_law_6 := dk_seg dksL_law_5 24 rfl rfl
theorem dksL_law_7 : cL_law.data.toList.drop 308 = dktL_law_7 := dk_seg dksL_law_6 24 rfl rfl
theorem dksL_law_8 : cL_law.data.toList.drop 331 = dktL_law_8 := dk_seg dksL_law_7 23 rfl rfl
theorem dksL_law_9 : cL_law.data.toList.drop 355 = dktL_law_9 := dk_seg dksL_law_8 24 rfl rfl
theorem dksL_law_10 : cL_law.data.toList.drop 379 = dktL_law_10 := dk_seg dksL_law_9 24 rfl rfl
theorem dksL_law_11 : cL_law.data.toList.drop 403 = dktL_law_11 := dk_seg dksL_law_10 24 rfl rfl
theorem dksL_law_12 : cL_law.data.toList.drop 425 = dktL_law_12 := dk_seg dksL_law_11 22 rfl rfl
theorem dksL_law_13 : cL_law.data.toList.drop 448 = dktL_law_13 := dk_seg dksL_law_12 23 rfl rfl
theorem dksL_law_14 : cL_law.data.toList.drop 471 = dktL_law_14 := dk_seg dksL_law_13 23 rfl rfl
theorem dksL_law_15 : cL_law.data.toList.drop 495 = dktL_law_15 := dk_seg dksL_law_14 24 rfl rfl
theorem dksL_law_16 : cL_law.data.toList.drop 518 = dktL_law_16 := dk_seg dksL_law_15 23 rfl rfl
theorem dksL_law_17 : cL_law.data.toList.drop 542 = dktL_law_17 := dk_seg dksL_law_16 24 rfl rfl
theorem dksL_law_18 : cL_law.data.toList.drop 566 = dktL_law_18 := dk_seg dksL_law_17 24 rfl rfl
theorem dksL_law_19 : cL_law.data.toList.drop 588 = dktL_law_19 := dk_seg dksL_law_18 22 rfl rfl
theorem dksL_law_20 : cL_law.data.toList.drop 610 = dktL_law_20 := dk_seg dksL_law_19 22 rfl rfl
theorem dksL_law_21 : cL_law.data.toList.drop 634 = dktL_law_21 := dk_seg dksL_law_20 24 rfl rfl
theorem dksL_law_22 : cL_law.data.toList.drop 656 = dktL_law_22 := dk_seg dksL_law_21 22 rfl rfl
theorem dksL_law_23 : cL_law.data.toList.drop 678 = dktL_law_23 := dk_seg dksL_law_22 22 rfl rfl
theorem dksL_law_24 : cL_law.data.toList.drop 702 = dktL_law_24 := dk_seg dksL_law_23 24 rfl rfl
theorem dksL_law_25 : cL_law.data.toList.drop 724 = dktL_law_25 := dk_seg dksL_law_24 22 rfl rfl
theorem dksL_law_26 : cL_law.data.toList.drop 746 = dktL_law_26 := dk_seg dksL_law_25 22 rfl rfl
theorem dksL_law_27 : cL_law.data.toList.drop 768 = dktL_law_27 := dk_seg dksL_law_26 22 rfl rfl
theorem dksL_law_28 : cL_law.data.toList.drop 792 = dktL_law_28 := dk_seg dksL_law_27 24 rfl rfl
theorem dksL_law_29 : cL_law.data.toList.drop 815 = dktL_law_29 := dk_seg dksL_law_28 23 rfl rfl
theorem dksL_law_30 : cL_law.data.toList.drop 837 = dktL_law_30 := dk_seg dksL_law_29 22 rfl rfl
theorem dksL_law_31 : cL_law.data.toList.drop 861 = dktL_law_31 := dk_seg dksL_law_30 24 rfl rfl
theorem dksL_law_32 : cL_law.data.toList.drop 885 = dktL_law_32 := dk_seg dksL_law_31 24 rfl rfl
theorem dksL_law_33 : cL_law.data.toList.drop 909 = dktL_law_33 := dk_seg dksL_law_32 24 rfl rfl
theorem dksL_law_34 : cL_law.data.toList.drop 933 = dktL_law_34 := dk_seg dksL_law_33 24 rfl rfl
theorem dksL_law_35 : cL_law.data.toList.drop 956 = dktL_law_35 := dk_seg dksL_law_34 23 rfl rfl
theorem dksL_law_36 : cL_law.data.toList.drop 979 = dktL_law_36 := dk_seg dksL_law_35 23 rfl rfl
theorem dksL_law_37 : cL_law.data.toList.drop 1003 = dktL_law_37 := dk_seg dksL_law_36 24 rfl rfl
theorem dksL_law_38 : cL_law.data.toList.drop 1027 = dktL_law_38 := dk_seg dksL_law_37 24 rfl rfl
theorem dksL_law_39 : cL_law.data.toList.drop 1051 = dktL_law_39 := dk_seg dksL_law_38 24 rfl rfl
theorem dksL_law_40 : cL_law.data.toList.drop 1075 = dktL_law_40 := dk_seg dksL_law_39 24 rfl rfl
theorem dksL_law_41 : cL_law.data.toList.drop 1099 = dktL_law_41 := dk_seg dksL_law_40 24 rfl rfl
theorem dksL_law_42 : cL_law.data.toList.drop 1122 = dktL_law_42 := dk_seg dksL_law_41 23 rfl rfl
theorem dksL_law_43 : cL_law.data.toList.drop 1146 = dktL_law_43 := dk_seg dksL_law_42 24 rfl rfl
theorem dksL_law_44 : cL_law.data.toList.drop 1170 = dktL_law_44 := dk_seg dksL_law_43 24 rfl rfl
theorem dksL_law_45 : cL_law.data.toList.drop 1192 = dktL_law_45 := dk_seg dksL_law_44 22 rfl rfl
theorem dksL_law_46 : cL_law.data.toList.drop 1214 = dktL_law_46 := dk_seg dksL_law_45 22 rfl rfl
theorem dksL_law_47 : cL_law.data.toList.drop 1238 = dktL_law_47 := dk_seg dksL_law_46 24 rfl rfl
theorem dksL_law_48 : cL_law.data.toList.drop 1261 = dktL_law_48 := dk_seg dksL_law_47 23 rfl rfl
theorem dksL_law_49 : cL_law.data.toList.drop 1283 = dktL_law_49 := dk_seg dksL_law_48 22 rfl rfl
theorem dksL_law_50 : cL_law.data.toList.drop 1307 = dktL_law_50 := dk_seg dksL_law_49 24 rfl rfl
theorem dksL_law_51 : cL_law.data.toList.drop 1330 = dktL_law_51 := dk_seg dksL_law_50 23 rfl rfl
theorem dksL_law_52 : cL_law.data.toList.drop 1354 = dktL_law_52 := dk_seg dksL_law_51 24 rfl rfl
theorem dksL_law_53 : cL_law.data.toList.drop 1378 = dktL_law_53 := dk_seg dksL_law_52 24 rfl rfl
theorem dksL_law_54 : cL_law.data.toList.drop 1400 = dktL_law_54 := dk_seg dksL_law_53 22 rfl rfl
theorem dksL_law_55 : cL_law.data.toList.drop 1422 = dktL_law_55 := dk_seg dksL_law_54 22 rfl rfl
theorem dksL_law_56 : cL_law.data.toList.drop 1446 = dktL_law_56 := dk_seg dksL_law_55 24 rfl rfl
theorem dksL_law_57 : cL_law.data.toList.drop 1468 = dktL_law_57 := dk_seg dksL_law_56 22 rfl rfl
theorem dksL_law_58 : cL_law.data.toList.drop 1490 = dktL_law_58 := dk_seg dksL_law_57 22 rfl rfl
theorem dksL_law_59 : cL_law.data.toList.drop 1513 = dktL_law_59 := dk_seg dksL_law_58 23 rfl rfl
theorem dksL_law_60 : cL_law.data.toList.drop 1537 = dktL_law_60 := dk_seg dksL_law_59 24 rfl rfl
theorem dksL_law_61 : cL_law.data.toList.drop 1561 = dktL_law_61 := dk_seg dksL_law_60 24 rfl rfl
theorem dksL_law_62 : cL_law.data.toList.drop 1585 = dktL_law_62 := dk_seg dksL_law_61 24 rfl rfl
theorem dksL_law_63 : cL_law.data.toList.drop 1609 = dktL_law_63 := dk_seg dksL_law_62 24 rfl rfl
theorem dksL_law_64 : cL_law.data.toList.drop 1633 = dktL_law_64 := dk_seg dksL_law_63 24 rfl rfl
theorem dksL_law_65 : cL_law.data.toList.drop 1656 = dktL_law_65 := dk_seg dksL_law_64 23 rfl rfl
theorem dksL_law_66 : cL_law.data.toList.drop 1680 = dktL_law_66 := dk_seg dksL_law_65 24 rfl rfl
theorem dksL_law_67 : cL_law.data.toList.drop 1703 = dktL_law_67 := dk_seg dksL_law_66 23 rfl rfl
theorem dksL_law_68 : cL_law.data.toList.drop 1727 = dktL_law_68 := dk_seg dksL_law_67 24 rfl rfl
theorem dksL_law_69 : cL_law.data.toList.drop 1750 = dktL_law_69 := dk_seg dksL_law_68 23 rfl rfl
theorem dksL_law_70 : cL_law.data.toList.drop 1774 = dktL_law_70 := dk_seg dksL_law_69 24 rfl rfl
theorem dksL_law_71 : cL_law.data.toList.drop 1797 = dktL_law_71 := dk_seg dksL_law_70 23 rfl rfl
theorem dksL_law_72 : cL_law.data.toList.drop 1821 = dktL_law_72 := dk_seg dksL_law_71 24 rfl rfl
theorem dksL_law_73 : cL_law.data.toList.drop 1844 = dktL_law_73 := dk_seg dksL_law_72 23 rfl rfl
theorem dksL_law_74 : cL_law.data.toList.drop 1868 = dktL_law_74 := dk_seg dksL_law_73 24 rfl rfl
theorem dksL_law_75 : cL_law.data.toList.drop 1890 = dktL_law_75 := dk_seg dksL_law_74 22 rfl rfl
theorem dksL_law_76 : cL_law.data.toList.drop 1913 = dktL_law_76 := dk_seg dksL_law_75 23 rfl rfl
theorem dksL_law_77 : cL_law.data.toList.drop 1936 = dktL_law_77 := dk_seg dksL_law_76 23 rfl rfl
theorem dksL_law_78 : cL_law.data.toList.drop 1960 = dktL_law_78 := dk_seg dksL_law_77 24 rfl rfl
theorem dksL_law_79 : cL_law.data.toList.drop 1984 = dktL_law_79 := dk_seg dksL_law_78 24 rfl rfl
theorem dksL_law_80 : cL_law.data.toList.drop 2008 = dktL_law_80 := dk_seg dksL_law_79 24 rfl rfl
theorem dksL_law_81 : cL_law.data.toList.drop 2032 = dktL_law_81 := dk_seg dksL_law_80 24 rfl rfl
theorem dksL_law_82 : cL_law.data.toList.drop 2056 = dktL_law_82 := dk_seg dksL_law_81 24 rfl rfl
theorem dksL_law_83 : cL_law.data.toList.drop 2080 = dktL_law_83 := dk_seg dksL_law_82 24 rfl rfl
theorem dksL_law_84 : cL_law.data.toList.drop 2102 = dktL_law_84 := dk_seg dksL_law_83 22 rfl rfl
theorem dksL_law_85 : cL_law.data.toList.drop 2126 = dktL_law_85 := dk_seg dksL_law_84 24 rfl rfl
theorem dksL_law_86 : cL_law.data.toList.drop 2148 = dktL_law_86 := dk_seg dksL_law_85 22 rfl rfl
theorem dksL_law_87 : cL_law.data.toList.drop 2171 = dktL_law_87 := dk_seg dksL_law_86 23 rfl rfl
theorem dksL_law_88 : cL_law.data.toList.drop 2195 = dktL_law_88 := dk_seg dksL_law_87 24 rfl rfl
theorem dksL_law_89 : cL_law.data.toList.drop 2219 = dktL_law_89 := dk_seg dksL_law_88 24 rfl rfl
theorem dksL_law_90 : cL_law.data.toList.drop 2243 = dktL_law_90 := dk_seg dksL_law_89 24 rfl rfl
theorem dksL_law_91 : cL_law.data.toList.drop 2265 = dktL_law_91 := dk_seg dksL_law_90 22 rfl rfl
theorem dksL_law_92 : cL_law.data.toList.drop 2287 = dktL_law_92 := dk_seg dksL_law_91 22 rfl rfl
theorem dksL_law_93 : cL_law.data.toList.drop 2309 = dktL_law_93 := dk_seg dksL_law_92 22 rfl rfl
theorem dksL_law_94 : cL_law.data.toList.drop 2331 = dktL_law_94 := dk_seg dksL_law_93 22 rfl rfl
theorem dksL_law_95 : cL_law.data.toList.drop 2353 = dktL_law_95 := dk_seg dksL_law_94 22 rfl rfl
theorem dksL_law_96 : cL_law.data.toList.drop 2375 = dktL_law_96 := dk_seg dksL_law_95 22 rfl rfl
theorem dksL_law_97 : cL_law.data.toList.drop 2397 = dktL_law_97 := dk_seg dksL_law_96 22 rfl rfl
theorem dksL_law_98 : cL_law.data.toList.drop 2419 = dktL_law_98 := dk_seg dksL_law_97 22 rfl rfl
theorem dksL_law_99 : cL_law.data.toList.drop 2441 = dktL_law_99 := dk_seg dksL_law_98 22 rfl rfl
theorem dksL_law_100 : cL_law.data.toList.drop 2464 = dktL_law_100 := dk_seg dksL_law_99 23 rfl rfl
theorem dksL_law_101 : cL_law.data.toList.drop 2488 = dktL_law_101 := dk_seg dksL_law_100 24 rfl rfl
theorem dksL_law_102 : cL_law.data.toList.drop 2512 = dktL_law_102 := dk_seg dksL_law_101 24 rfl rfl
theorem dL_law_0 : decode cL_law 0 = .ok (.new 8, 3) := dk_187 0 8 (dk_at dksL_law_0 0 rfl rfl)
theorem dL_law_3 : decode cL_law 3 = .ok (.dup, 1) := dk_89 (dk_at dksL_law_0 3 rfl rfl)
theorem dL_law_4 : decode cL_law 4 = .ok (.invokespecial 132, 3) := dk_183 0 132 (dk_at dksL_law_0 4 rfl rfl)
theorem dL_law_7 : decode cL_law 7 = .ok (.astore_n 1, 1) := dk_76 (dk_at dksL_law_0 7 rfl rfl)
theorem dL_law_8 : decode cL_law 8 = .ok (.new 133, 3) := dk_187 0 133 (dk_at dksL_law_0 8 rfl rfl)
theorem dL_law_11 : decode cL_law 11 = .ok (.dup, 1) := dk_89 (dk_at dksL_law_0 11 rfl rfl)
theorem dL_law_12 : decode cL_law 12 = .ok (.invokespecial 135, 3) := dk_183 0 135 (dk_at dksL_law_0 12 rfl rfl)
theorem dL_law_15 : decode cL_law 15 = .ok (.astore_n 2, 1) := dk_77 (dk_at dksL_law_0 15 rfl rfl)
theorem dL_law_16 : decode cL_law 16 = .ok (.iconst 1, 1) := dk_4 (dk_at dksL_law_0 16 rfl rfl)
theorem dL_law_17 : decode cL_law 17 = .ok (.newarray .long, 2) := dk_188_11 (dk_at dksL_law_0 17 rfl rfl)
theorem dL_law_19 : decode cL_law 19 = .ok (.astore_n 3, 1) := dk_78 (dk_at dksL_law_0 19 rfl rfl)
theorem dL_law_20 : decode cL_law 20 = .ok (.iconst 1, 1) := dk_4 (dk_at dksL_law_0 20 rfl rfl)
theorem dL_law_21 : decode cL_law 21 = .ok (.newarray .double, 2) := dk_188_7 (dk_at dksL_law_0 21 rfl rfl)
theorem dL_law_23 : decode cL_law 23 = .ok (.astore 4, 2) := dk_58 4 (dk_at dksL_law_1 0 rfl rfl)
theorem dL_law_25 : decode cL_law 25 = .ok (.iconst 0, 1) := dk_3 (dk_at dksL_law_1 2 rfl rfl)
theorem dL_law_26 : decode cL_law 26 = .ok (.istore 5, 2) := dk_54 5 (dk_at dksL_law_1 3 rfl rfl)
theorem dL_law_28 : decode cL_law 28 = .ok (.iload 5, 2) := dk_21 5 (dk_at dksL_law_1 5 rfl rfl)
theorem dL_law_30 : decode cL_law 30 = .ok (.aload_n 0, 1) := dk_42 (dk_at dksL_law_1 7 rfl rfl)
theorem dL_law_31 : decode cL_law 31 = .ok (.arraylength, 1) := dk_190 (dk_at dksL_law_1 8 rfl rfl)
theorem dL_law_32 : decode cL_law 32 = .ok (.bipush 6, 2) := dk_16 6 (dk_at dksL_law_1 9 rfl rfl)
theorem dL_law_34 : decode cL_law 34 = .ok (.isub, 1) := dk_100 (dk_at dksL_law_1 11 rfl rfl)
theorem dL_law_35 : decode cL_law 35 = .ok (.if_icmp .gt 2477, 3) := dk_163 9 173 (dk_at dksL_law_1 12 rfl rfl)
theorem dL_law_38 : decode cL_law 38 = .ok (.aload_n 0, 1) := dk_42 (dk_at dksL_law_1 15 rfl rfl)
theorem dL_law_39 : decode cL_law 39 = .ok (.iload 5, 2) := dk_21 5 (dk_at dksL_law_1 16 rfl rfl)
theorem dL_law_41 : decode cL_law 41 = .ok (.iaload, 1) := dk_46 (dk_at dksL_law_1 18 rfl rfl)
theorem dL_law_42 : decode cL_law 42 = .ok (.bipush 63, 2) := dk_16 63 (dk_at dksL_law_1 19 rfl rfl)
theorem dL_law_44 : decode cL_law 44 = .ok (.iand, 1) := dk_126 (dk_at dksL_law_1 21 rfl rfl)
theorem dL_law_45 : decode cL_law 45 = .ok (.tableswitch 2461 0 37 #[167, 180, 284, 388, 444, 500, 568, 636, 704, 800, 884, 952, 1020, 1104, 1172, 1256, 1312, 1380, 1448, 1504, 1517, 1573, 1629, 1685, 1741, 1797, 1853, 1909, 2009, 2065, 2106, 2172, 2228, 2272, 2316, 2360, 2404, 2417], 167) := by decide +kernel
theorem dL_law_212 : decode cL_law 212 = .ok (.aload_n 1, 1) := dk_43 (dk_at dksL_law_3 0 rfl rfl)
theorem dL_law_213 : decode cL_law 213 = .ok (.invokevirtual 136, 3) := dk_182 0 136 (dk_at dksL_law_3 1 rfl rfl)
theorem dL_law_216 : decode cL_law 216 = .ok (.aload_n 2, 1) := dk_44 (dk_at dksL_law_3 4 rfl rfl)
theorem dL_law_217 : decode cL_law 217 = .ok (.invokevirtual 139, 3) := dk_182 0 139 (dk_at dksL_law_3 5 rfl rfl)
theorem dL_law_220 : decode cL_law 220 = .ok (.if_icmp .eq 2286, 3) := dk_159 8 238 (dk_at dksL_law_3 8 rfl rfl)
theorem dL_law_223 : decode cL_law 223 = .ok (.iconst 0, 1) := dk_3 (dk_at dksL_law_3 11 rfl rfl)
theorem dL_law_224 : decode cL_law 224 = .ok (.ireturn, 1) := dk_172 (dk_at dksL_law_3 12 rfl rfl)
theorem dL_law_225 : decode cL_law 225 = .ok (.aload_n 1, 1) := dk_43 (dk_at dksL_law_3 13 rfl rfl)
theorem dL_law_226 : decode cL_law 226 = .ok (.aload_n 0, 1) := dk_42 (dk_at dksL_law_3 14 rfl rfl)
theorem dL_law_227 : decode cL_law 227 = .ok (.iload 5, 2) := dk_21 5 (dk_at dksL_law_3 15 rfl rfl)
theorem dL_law_229 : decode cL_law 229 = .ok (.iconst 1, 1) := dk_4 (dk_at dksL_law_3 17 rfl rfl)
theorem dL_law_230 : decode cL_law 230 = .ok (.iadd, 1) := dk_96 (dk_at dksL_law_3 18 rfl rfl)
theorem dL_law_231 : decode cL_law 231 = .ok (.iaload, 1) := dk_46 (dk_at dksL_law_3 19 rfl rfl)
theorem dL_law_232 : decode cL_law 232 = .ok (.aload_n 0, 1) := dk_42 (dk_at dksL_law_3 20 rfl rfl)
theorem dL_law_233 : decode cL_law 233 = .ok (.iload 5, 2) := dk_21 5 (dk_at dksL_law_3 21 rfl rfl)
theorem dL_law_235 : decode cL_law 235 = .ok (.iconst 2, 1) := dk_5 (dk_at dksL_law_3 23 rfl rfl)
theorem dL_law_236 : decode cL_law 236 = .ok (.iadd, 1) := dk_96 (dk_at dksL_law_4 0 rfl rfl)
theorem dL_law_237 : decode cL_law 237 = .ok (.iaload, 1) := dk_46 (dk_at dksL_law_4 1 rfl rfl)
theorem dL_law_238 : decode cL_law 238 = .ok (.aload_n 0, 1) := dk_42 (dk_at dksL_law_4 2 rfl rfl)
theorem dL_law_239 : decode cL_law 239 = .ok (.iload 5, 2) := dk_21 5 (dk_at dksL_law_4 3 rfl rfl)
theorem dL_law_241 : decode cL_law 241 = .ok (.iconst 3, 1) := dk_6 (dk_at dksL_law_4 5 rfl rfl)
theorem dL_law_242 : decode cL_law 242 = .ok (.iadd, 1) := dk_96 (dk_at dksL_law_4 6 rfl rfl)
theorem dL_law_243 : decode cL_law 243 = .ok (.iaload, 1) := dk_46 (dk_at dksL_law_4 7 rfl rfl)
theorem dL_law_244 : decode cL_law 244 = .ok (.aload_n 0, 1) := dk_42 (dk_at dksL_law_4 8 rfl rfl)
theorem dL_law_245 : decode cL_law 245 = .ok (.iload 5, 2) := dk_21 5 (dk_at dksL_law_4 9 rfl rfl)
theorem dL_law_247 : decode cL_law 247 = .ok (.iconst 4, 1) := dk_7 (dk_at dksL_law_4 11 rfl rfl)
theorem dL_law_248 : decode cL_law 248 = .ok (.iadd, 1) := dk_96 (dk_at dksL_law_4 12 rfl rfl)
theorem dL_law_249 : decode cL_law 249 = .ok (.iaload, 1) := dk_46 (dk_at dksL_law_4 13 rfl rfl)
theorem dL_law_250 : decode cL_law 250 = .ok (.aload_n 0, 1) := dk_42 (dk_at dksL_law_4 14 rfl rfl)
theorem dL_law_251 : decode cL_law 251 = .ok (.iload 5, 2) := dk_21 5 (dk_at dksL_law_4 15 rfl rfl)
theorem dL_law_253 : decode cL_law 253 = .ok (.iconst 5, 1) := dk_8 (dk_at dksL_law_4 17 rfl rfl)
theorem dL_law_254 : decode cL_law 254 = .ok (.iadd, 1) := dk_96 (dk_at dksL_law_4 18 rfl rfl)
theorem dL_law_255 : decode cL_law 255 = .ok (.iaload, 1) := dk_46 (dk_at dksL_law_4 19 rfl rfl)
theorem dL_law_256 : decode cL_law 256 = .ok (.aload_n 3, 1) := dk_45 (dk_at dksL_law_4 20 rfl rfl)
theorem dL_law_257 : decode cL_law 257 = .ok (.invokestatic 140, 3) := dk_184 0 140 (dk_at dksL_law_4 21 rfl rfl)
theorem dL_law_260 : decode cL_law 260 = .ok (.istore 6, 2) := dk_54 6 (dk_at dksL_law_5 0 rfl rfl)
theorem dL_law_262 : decode cL_law 262 = .ok (.aload_n 2, 1) := dk_44 (dk_at dksL_law_5 2 rfl rfl)
theorem dL_law_263 : decode cL_law 263 = .ok (.aload_n 0, 1) := dk_42 (dk_at dksL_law_5 3 rfl rfl)
theorem dL_law_264 : decode cL_law 264 = .ok (.iload 5, 2) := dk_21 5 (dk_at dksL_law_5 4 rfl rfl)
theorem dL_law_266 : decode cL_law 266 = .ok (.iconst 1, 1) := dk_4 (dk_at dksL_law_5 6 rfl rfl)
theorem dL_law_267 : decode cL_law 267 = .ok (.iadd, 1) := dk_96 (dk_at dksL_law_5 7 rfl rfl)
theorem dL_law_268 : decode cL_law 268 = .ok (.iaload, 1) := dk_46 (dk_at dksL_law_5 8 rfl rfl)
theorem dL_law_269 : decode cL_law 269 = .ok (.aload_n 0, 1) := dk_42 (dk_at dksL_law_5 9 rfl rfl)
theorem dL_law_270 : decode cL_law 270 = .ok (.iload 5, 2) := dk_21 5 (dk_at dksL_law_5 10 rfl rfl)
theorem dL_law_272 : decode cL_law 272 = .ok (.iconst 2, 1) := dk_5 (dk_at dksL_law_5 12 rfl rfl)
theorem dL_law_273 : decode cL_law 273 = .ok (.iadd, 1) := dk_96 (dk_at dksL_law_5 13 rfl rfl)
theorem dL_law_274 : decode cL_law 274 = .ok (.iaload, 1) := dk_46 (dk_at dksL_law_5 14 rfl rfl)
theorem dL_law_275 : decode cL_law 275 = .ok (.aload_n 0, 1) := dk_42 (dk_at dksL_law_5 15 rfl rfl)
theorem dL_law_276 : decode cL_law 276 = .ok (.iload 5, 2) := dk_21 5 (dk_at dksL_law_5 16 rfl rfl)
theorem dL_law_278 : decode cL_law 278 = .ok (.iconst 3, 1) := dk_6 (dk_at dksL_law_5 18 rfl rfl)
theorem dL_law_279 : decode cL_law 279 = .ok (.iadd, 1) := dk_96 (dk_at dksL_law_5 19 rfl rfl)
theorem dL_law_280 : decode cL_law 280 = .ok (.iaload, 1) := dk_46 (dk_at dksL_law_5 20 rfl rfl)
theorem dL_law_281 : decode cL_law 281 = .ok (.aload_n 0, 1) := dk_42 (dk_at dksL_law_5 21 rfl rfl)
theorem dL_law_282 : decode cL_law 282 = .ok (.iload 5, 2) := dk_21 5 (dk_at dksL_law_5 22 rfl rfl)
theorem dL_law_284 : decode cL_law 284 = .ok (.iconst 4, 1) := dk_7 (dk_at dksL_law_6 0 rfl rfl)
theorem dL_law_285 : decode cL_law 285 = .ok (.iadd, 1) := dk_96 (dk_at dksL_law_6 1 rfl rfl)
theorem dL_law_286 : decode cL_law 286 = .ok (.iaload, 1) := dk_46 (dk_at dksL_law_6 2 rfl rfl)
theorem dL_law_287 : decode cL_law 287 = .ok (.aload_n 0, 1) := dk_42 (dk_at dksL_law_6 3 rfl rfl)
theorem dL_law_288 : decode cL_law 288 = .ok (.iload 5, 2) := dk_21 5 (dk_at dksL_law_6 4 rfl rfl)
theorem dL_law_290 : decode cL_law 290 = .ok (.iconst 5, 1) := dk_8 (dk_at dksL_law_6 6 rfl rfl)
theorem dL_law_291 : decode cL_law 291 = .ok (.iadd, 1) := dk_96 (dk_at dksL_law_6 7 rfl rfl)
theorem dL_law_292 : decode cL_law 292 = .ok (.iaload, 1) := dk_46 (dk_at dksL_law_6 8 rfl rfl)
theorem dL_law_293 : decode cL_law 293 = .ok (.invokevirtual 145, 3) := dk_182 0 145 (dk_at dksL_law_6 9 rfl rfl)
theorem dL_law_296 : decode cL_law 296 = .ok (.istore 7, 2) := dk_54 7 (dk_at dksL_law_6 12 rfl rfl)
theorem dL_law_298 : decode cL_law 298 = .ok (.aload_n 2, 1) := dk_44 (dk_at dksL_law_6 14 rfl rfl)
theorem dL_law_299 : decode cL_law 299 = .ok (.invokevirtual 146, 3) := dk_182 0 146 (dk_at dksL_law_6 15 rfl rfl)
theorem dL_law_302 : decode cL_law 302 = .ok (.iload 6, 2) := dk_21 6 (dk_at dksL_law_6 18 rfl rfl)
theorem dL_law_304 : decode cL_law 304 = .ok (.if_icmp .eq 5, 3) := dk_159 0 5 (dk_at dksL_law_6 20 rfl rfl)
theorem dL_law_307 : decode cL_law 307 = .ok (.iconst 0, 1) := dk_3 (dk_at dksL_law_6 23 rfl rfl)
theorem dL_law_308 : decode cL_law 308 = .ok (.ireturn, 1) := dk_172 (dk_at dksL_law_7 0 rfl rfl)
theorem dL_law_309 : decode cL_law 309 = .ok (.iload 6, 2) := dk_21 6 (dk_at dksL_law_7 1 rfl rfl)
theorem dL_law_311 : decode cL_law 311 = .ok (.ifCond .ne 15, 3) := dk_154 0 15 (dk_at dksL_law_7 3 rfl rfl)
theorem dL_law_314 : decode cL_law 314 = .ok (.aload_n 3, 1) := dk_45 (dk_at dksL_law_7 6 rfl rfl)
theorem dL_law_315 : decode cL_law 315 = .ok (.iconst 0, 1) := dk_3 (dk_at dksL_law_7 7 rfl rfl)
theorem dL_law_316 : decode cL_law 316 = .ok (.laload, 1) := dk_47 (dk_at dksL_law_7 8 rfl rfl)
theorem dL_law_317 : decode cL_law 317 = .ok (.iload 7, 2) := dk_21 7 (dk_at dksL_law_7 9 rfl rfl)
theorem dL_law_319 : decode cL_law 319 = .ok (.i2l, 1) := dk_133 (dk_at dksL_law_7 11 rfl rfl)
theorem dL_law_320 : decode cL_law 320 = .ok (.lcmp, 1) := dk_148 (dk_at dksL_law_7 12 rfl rfl)
theorem dL_law_321 : decode cL_law 321 = .ok (.ifCond .eq 5, 3) := dk_153 0 5 (dk_at dksL_law_7 13 rfl rfl)
theorem dL_law_324 : decode cL_law 324 = .ok (.iconst 0, 1) := dk_3 (dk_at dksL_law_7 16 rfl rfl)
theorem dL_law_325 : decode cL_law 325 = .ok (.ireturn, 1) := dk_172 (dk_at dksL_law_7 17 rfl rfl)
theorem dL_law_326 : decode cL_law 326 = .ok (.goto 2180, 3) := dk_167 8 132 (dk_at dksL_law_7 18 rfl rfl)
theorem dL_law_329 : decode cL_law 329 = .ok (.aload_n 1, 1) := dk_43 (dk_at dksL_law_7 21 rfl rfl)
theorem dL_law_330 : decode cL_law 330 = .ok (.aload_n 0, 1) := dk_42 (dk_at dksL_law_7 22 rfl rfl)
theorem dL_law_331 : decode cL_law 331 = .ok (.iload 5, 2) := dk_21 5 (dk_at dksL_law_8 0 rfl rfl)
theorem dL_law_333 : decode cL_law 333 = .ok (.iconst 1, 1) := dk_4 (dk_at dksL_law_8 2 rfl rfl)
theorem dL_law_334 : decode cL_law 334 = .ok (.iadd, 1) := dk_96 (dk_at dksL_law_8 3 rfl rfl)
theorem dL_law_335 : decode cL_law 335 = .ok (.iaload, 1) := dk_46 (dk_at dksL_law_8 4 rfl rfl)
theorem dL_law_336 : decode cL_law 336 = .ok (.aload_n 0, 1) := dk_42 (dk_at dksL_law_8 5 rfl rfl)
theorem dL_law_337 : decode cL_law 337 = .ok (.iload 5, 2) := dk_21 5 (dk_at dksL_law_8 6 rfl rfl)
theorem dL_law_339 : decode cL_law 339 = .ok (.iconst 2, 1) := dk_5 (dk_at dksL_law_8 8 rfl rfl)
theorem dL_law_340 : decode cL_law 340 = .ok (.iadd, 1) := dk_96 (dk_at dksL_law_8 9 rfl rfl)
theorem dL_law_341 : decode cL_law 341 = .ok (.iaload, 1) := dk_46 (dk_at dksL_law_8 10 rfl rfl)
theorem dL_law_342 : decode cL_law 342 = .ok (.aload_n 0, 1) := dk_42 (dk_at dksL_law_8 11 rfl rfl)
theorem dL_law_343 : decode cL_law 343 = .ok (.iload 5, 2) := dk_21 5 (dk_at dksL_law_8 12 rfl rfl)
theorem dL_law_345 : decode cL_law 345 = .ok (.iconst 3, 1) := dk_6 (dk_at dksL_law_8 14 rfl rfl)
theorem dL_law_346 : decode cL_law 346 = .ok (.iadd, 1) := dk_96 (dk_at dksL_law_8 15 rfl rfl)
theorem dL_law_347 : decode cL_law 347 = .ok (.iaload, 1) := dk_46 (dk_at dksL_law_8 16 rfl rfl)
theorem dL_law_348 : decode cL_law 348 = .ok (.aload_n 0, 1) := dk_42 (dk_at dksL_law_8 17 rfl rfl)
theorem dL_law_349 : decode cL_law 349 = .ok (.iload 5, 2) := dk_21 5 (dk_at dksL_law_8 18 rfl rfl)
theorem dL_law_351 : decode cL_law 351 = .ok (.iconst 4, 1) := dk_7 (dk_at dksL_law_8 20 rfl rfl)
theorem dL_law_352 : decode cL_law 352 = .ok (.iadd, 1) := dk_96 (dk_at dksL_law_8 21 rfl rfl)
theorem dL_law_353 : decode cL_law 353 = .ok (.iaload, 1) := dk_46 (dk_at dksL_law_8 22 rfl rfl)
theorem dL_law_354 : decode cL_law 354 = .ok (.aload_n 0, 1) := dk_42 (dk_at dksL_law_8 23 rfl rfl)
theorem dL_law_355 : decode cL_law 355 = .ok (.iload 5, 2) := dk_21 5 (dk_at dksL_law_9 0 rfl rfl)
theorem dL_law_357 : decode cL_law 357 = .ok (.iconst 5, 1) := dk_8 (dk_at dksL_law_9 2 rfl rfl)
theorem dL_law_358 : decode cL_law 358 = .ok (.iadd, 1) := dk_96 (dk_at dksL_law_9 3 rfl rfl)
theorem dL_law_359 : decode cL_law 359 = .ok (.iaload, 1) := dk_46 (dk_at dksL_law_9 4 rfl rfl)
theorem dL_law_360 : decode cL_law 360 = .ok (.aload_n 3, 1) := dk_45 (dk_at dksL_law_9 5 rfl rfl)
theorem dL_law_361 : decode cL_law 361 = .ok (.invokestatic 149, 3) := dk_184 0 149 (dk_at dksL_law_9 6 rfl rfl)
theorem dL_law_364 : decode cL_law 364 = .ok (.istore 6, 2) := dk_54 6 (dk_at dksL_law_9 9 rfl rfl)
theorem dL_law_366 : decode cL_law 366 = .ok (.aload_n 2, 1) := dk_44 (dk_at dksL_law_9 11 rfl rfl)
theorem dL_law_367 : decode cL_law 367 = .ok (.aload_n 0, 1) := dk_42 (dk_at dksL_law_9 12 rfl rfl)
theorem dL_law_368 : decode cL_law 368 = .ok (.iload 5, 2) := dk_21 5 (dk_at dksL_law_9 13 rfl rfl)
theorem dL_law_370 : decode cL_law 370 = .ok (.iconst 1, 1) := dk_4 (dk_at dksL_law_9 15 rfl rfl)
theorem dL_law_371 : decode cL_law 371 = .ok (.iadd, 1) := dk_96 (dk_at dksL_law_9 16 rfl rfl)
theorem dL_law_372 : decode cL_law 372 = .ok (.iaload, 1) := dk_46 (dk_at dksL_law_9 17 rfl rfl)
theorem dL_law_373 : decode cL_law 373 = .ok (.aload_n 0, 1) := dk_42 (dk_at dksL_law_9 18 rfl rfl)
theorem dL_law_374 : decode cL_law 374 = .ok (.iload 5, 2) := dk_21 5 (dk_at dksL_law_9 19 rfl rfl)
theorem dL_law_376 : decode cL_law 376 = .ok (.iconst 2, 1) := dk_5 (dk_at dksL_law_9 21 rfl rfl)
theorem dL_law_377 : decode cL_law 377 = .ok (.iadd, 1) := dk_96 (dk_at dksL_law_9 22 rfl rfl)
theorem dL_law_378 : decode cL_law 378 = .ok (.iaload, 1) := dk_46 (dk_at dksL_law_9 23 rfl rfl)
theorem dL_law_379 : decode cL_law 379 = .ok (.aload_n 0, 1) := dk_42 (dk_at dksL_law_10 0 rfl rfl)
theorem dL_law_380 : decode cL_law 380 = .ok (.iload 5, 2) := dk_21 5 (dk_at dksL_law_10 1 rfl rfl)
theorem dL_law_382 : decode cL_law 382 = .ok (.iconst 3, 1) := dk_6 (dk_at dksL_law_10 3 rfl rfl)
theorem dL_law_383 : decode cL_law 383 = .ok (.iadd, 1) := dk_96 (dk_at dksL_law_10 4 rfl rfl)
theorem dL_law_384 : decode cL_law 384 = .ok (.iaload, 1) := dk_46 (dk_at dksL_law_10 5 rfl rfl)
theorem dL_law_385 : decode cL_law 385 = .ok (.aload_n 0, 1) := dk_42 (dk_at dksL_law_10 6 rfl rfl)
theorem dL_law_386 : decode cL_law 386 = .ok (.iload 5, 2) := dk_21 5 (dk_at dksL_law_10 7 rfl rfl)
theorem dL_law_388 : decode cL_law 388 = .ok (.iconst 4, 1) := dk_7 (dk_at dksL_law_10 9 rfl rfl)
theorem dL_law_389 : decode cL_law 389 = .ok (.iadd, 1) := dk_96 (dk_at dksL_law_10 10 rfl rfl)
theorem dL_law_390 : decode cL_law 390 = .ok (.iaload, 1) := dk_46 (dk_at dksL_law_10 11 rfl rfl)
theorem dL_law_391 : decode cL_law 391 = .ok (.aload_n 0, 1) := dk_42 (dk_at dksL_law_10 12 rfl rfl)
theorem dL_law_392 : decode cL_law 392 = .ok (.iload 5, 2) := dk_21 5 (dk_at dksL_law_10 13 rfl rfl)
theorem dL_law_394 : decode cL_law 394 = .ok (.iconst 5, 1) := dk_8 (dk_at dksL_law_10 15 rfl rfl)
theorem dL_law_395 : decode cL_law 395 = .ok (.iadd, 1) := dk_96 (dk_at dksL_law_10 16 rfl rfl)
theorem dL_law_396 : decode cL_law 396 = .ok (.iaload, 1) := dk_46 (dk_at dksL_law_10 17 rfl rfl)
theorem dL_law_397 : decode cL_law 397 = .ok (.invokevirtual 151, 3) := dk_182 0 151 (dk_at dksL_law_10 18 rfl rfl)
theorem dL_law_400 : decode cL_law 400 = .ok (.istore 7, 2) := dk_54 7 (dk_at dksL_law_10 21 rfl rfl)
theorem dL_law_402 : decode cL_law 402 = .ok (.aload_n 2, 1) := dk_44 (dk_at dksL_law_10 23 rfl rfl)
theorem dL_law_403 : decode cL_law 403 = .ok (.invokevirtual 146, 3) := dk_182 0 146 (dk_at dksL_law_11 0 rfl rfl)
theorem dL_law_406 : decode cL_law 406 = .ok (.iload 6, 2) := dk_21 6 (dk_at dksL_law_11 3 rfl rfl)
theorem dL_law_408 : decode cL_law 408 = .ok (.if_icmp .eq 5, 3) := dk_159 0 5 (dk_at dksL_law_11 5 rfl rfl)
theorem dL_law_411 : decode cL_law 411 = .ok (.iconst 0, 1) := dk_3 (dk_at dksL_law_11 8 rfl rfl)
theorem dL_law_412 : decode cL_law 412 = .ok (.ireturn, 1) := dk_172 (dk_at dksL_law_11 9 rfl rfl)
theorem dL_law_413 : decode cL_law 413 = .ok (.iload 6, 2) := dk_21 6 (dk_at dksL_law_11 10 rfl rfl)
theorem dL_law_415 : decode cL_law 415 = .ok (.ifCond .ne 15, 3) := dk_154 0 15 (dk_at dksL_law_11 12 rfl rfl)
theorem dL_law_418 : decode cL_law 418 = .ok (.aload_n 3, 1) := dk_45 (dk_at dksL_law_11 15 rfl rfl)
theorem dL_law_419 : decode cL_law 419 = .ok (.iconst 0, 1) := dk_3 (dk_at dksL_law_11 16 rfl rfl)
theorem dL_law_420 : decode cL_law 420 = .ok (.laload, 1) := dk_47 (dk_at dksL_law_11 17 rfl rfl)
theorem dL_law_421 : decode cL_law 421 = .ok (.iload 7, 2) := dk_21 7 (dk_at dksL_law_11 18 rfl rfl)
theorem dL_law_423 : decode cL_law 423 = .ok (.i2l, 1) := dk_133 (dk_at dksL_law_11 20 rfl rfl)
theorem dL_law_424 : decode cL_law 424 = .ok (.lcmp, 1) := dk_148 (dk_at dksL_law_11 21 rfl rfl)
theorem dL_law_425 : decode cL_law 425 = .ok (.ifCond .eq 5, 3) := dk_153 0 5 (dk_at dksL_law_12 0 rfl rfl)
theorem dL_law_428 : decode cL_law 428 = .ok (.iconst 0, 1) := dk_3 (dk_at dksL_law_12 3 rfl rfl)
theorem dL_law_429 : decode cL_law 429 = .ok (.ireturn, 1) := dk_172 (dk_at dksL_law_12 4 rfl rfl)
theorem dL_law_430 : decode cL_law 430 = .ok (.goto 2076, 3) := dk_167 8 28 (dk_at dksL_law_12 5 rfl rfl)
theorem dL_law_433 : decode cL_law 433 = .ok (.aload_n 1, 1) := dk_43 (dk_at dksL_law_12 8 rfl rfl)
theorem dL_law_434 : decode cL_law 434 = .ok (.aload_n 0, 1) := dk_42 (dk_at dksL_law_12 9 rfl rfl)
theorem dL_law_435 : decode cL_law 435 = .ok (.iload 5, 2) := dk_21 5 (dk_at dksL_law_12 10 rfl rfl)
theorem dL_law_437 : decode cL_law 437 = .ok (.iconst 1, 1) := dk_4 (dk_at dksL_law_12 12 rfl rfl)
theorem dL_law_438 : decode cL_law 438 = .ok (.iadd, 1) := dk_96 (dk_at dksL_law_12 13 rfl rfl)
theorem dL_law_439 : decode cL_law 439 = .ok (.iaload, 1) := dk_46 (dk_at dksL_law_12 14 rfl rfl)
theorem dL_law_440 : decode cL_law 440 = .ok (.aload_n 3, 1) := dk_45 (dk_at dksL_law_12 15 rfl rfl)
theorem dL_law_441 : decode cL_law 441 = .ok (.invokestatic 152, 3) := dk_184 0 152 (dk_at dksL_law_12 16 rfl rfl)
theorem dL_law_444 : decode cL_law 444 = .ok (.istore 6, 2) := dk_54 6 (dk_at dksL_law_12 19 rfl rfl)
theorem dL_law_446 : decode cL_law 446 = .ok (.aload_n 2, 1) := dk_44 (dk_at dksL_law_12 21 rfl rfl)
theorem dL_law_447 : decode cL_law 447 = .ok (.aload_n 0, 1) := dk_42 (dk_at dksL_law_12 22 rfl rfl)
theorem dL_law_448 : decode cL_law 448 = .ok (.iload 5, 2) := dk_21 5 (dk_at dksL_law_13 0 rfl rfl)
theorem dL_law_450 : decode cL_law 450 = .ok (.iconst 1, 1) := dk_4 (dk_at dksL_law_13 2 rfl rfl)
theorem dL_law_451 : decode cL_law 451 = .ok (.iadd, 1) := dk_96 (dk_at dksL_law_13 3 rfl rfl)
theorem dL_law_452 : decode cL_law 452 = .ok (.iaload, 1) := dk_46 (dk_at dksL_law_13 4 rfl rfl)
theorem dL_law_453 : decode cL_law 453 = .ok (.invokevirtual 155, 3) := dk_182 0 155 (dk_at dksL_law_13 5 rfl rfl)
theorem dL_law_456 : decode cL_law 456 = .ok (.istore 7, 2) := dk_54 7 (dk_at dksL_law_13 8 rfl rfl)
theorem dL_law_458 : decode cL_law 458 = .ok (.aload_n 2, 1) := dk_44 (dk_at dksL_law_13 10 rfl rfl)
theorem dL_law_459 : decode cL_law 459 = .ok (.invokevirtual 146, 3) := dk_182 0 146 (dk_at dksL_law_13 11 rfl rfl)
theorem dL_law_462 : decode cL_law 462 = .ok (.iload 6, 2) := dk_21 6 (dk_at dksL_law_13 14 rfl rfl)
theorem dL_law_464 : decode cL_law 464 = .ok (.if_icmp .eq 5, 3) := dk_159 0 5 (dk_at dksL_law_13 16 rfl rfl)
theorem dL_law_467 : decode cL_law 467 = .ok (.iconst 0, 1) := dk_3 (dk_at dksL_law_13 19 rfl rfl)
theorem dL_law_468 : decode cL_law 468 = .ok (.ireturn, 1) := dk_172 (dk_at dksL_law_13 20 rfl rfl)
theorem dL_law_469 : decode cL_law 469 = .ok (.iload 6, 2) := dk_21 6 (dk_at dksL_law_13 21 rfl rfl)
theorem dL_law_471 : decode cL_law 471 = .ok (.ifCond .ne 15, 3) := dk_154 0 15 (dk_at dksL_law_14 0 rfl rfl)
theorem dL_law_474 : decode cL_law 474 = .ok (.aload_n 3, 1) := dk_45 (dk_at dksL_law_14 3 rfl rfl)
theorem dL_law_475 : decode cL_law 475 = .ok (.iconst 0, 1) := dk_3 (dk_at dksL_law_14 4 rfl rfl)
theorem dL_law_476 : decode cL_law 476 = .ok (.laload, 1) := dk_47 (dk_at dksL_law_14 5 rfl rfl)
theorem dL_law_477 : decode cL_law 477 = .ok (.iload 7, 2) := dk_21 7 (dk_at dksL_law_14 6 rfl rfl)
theorem dL_law_479 : decode cL_law 479 = .ok (.i2l, 1) := dk_133 (dk_at dksL_law_14 8 rfl rfl)
theorem dL_law_480 : decode cL_law 480 = .ok (.lcmp, 1) := dk_148 (dk_at dksL_law_14 9 rfl rfl)
theorem dL_law_481 : decode cL_law 481 = .ok (.ifCond .eq 5, 3) := dk_153 0 5 (dk_at dksL_law_14 10 rfl rfl)
theorem dL_law_484 : decode cL_law 484 = .ok (.iconst 0, 1) := dk_3 (dk_at dksL_law_14 13 rfl rfl)
theorem dL_law_485 : decode cL_law 485 = .ok (.ireturn, 1) := dk_172 (dk_at dksL_law_14 14 rfl rfl)
theorem dL_law_486 : decode cL_law 486 = .ok (.goto 2020, 3) := dk_167 7 228 (dk_at dksL_law_14 15 rfl rfl)
theorem dL_law_489 : decode cL_law 489 = .ok (.aload_n 1, 1) := dk_43 (dk_at dksL_law_14 18 rfl rfl)
theorem dL_law_490 : decode cL_law 490 = .ok (.aload_n 0, 1) := dk_42 (dk_at dksL_law_14 19 rfl rfl)
theorem dL_law_491 : decode cL_law 491 = .ok (.iload 5, 2) := dk_21 5 (dk_at dksL_law_14 20 rfl rfl)
theorem dL_law_493 : decode cL_law 493 = .ok (.iconst 1, 1) := dk_4 (dk_at dksL_law_14 22 rfl rfl)
theorem dL_law_494 : decode cL_law 494 = .ok (.iadd, 1) := dk_96 (dk_at dksL_law_14 23 rfl rfl)
theorem dL_law_495 : decode cL_law 495 = .ok (.iaload, 1) := dk_46 (dk_at dksL_law_15 0 rfl rfl)
theorem dL_law_496 : decode cL_law 496 = .ok (.aload_n 3, 1) := dk_45 (dk_at dksL_law_15 1 rfl rfl)
theorem dL_law_497 : decode cL_law 497 = .ok (.invokestatic 156, 3) := dk_184 0 156 (dk_at dksL_law_15 2 rfl rfl)
theorem dL_law_500 : decode cL_law 500 = .ok (.istore 6, 2) := dk_54 6 (dk_at dksL_law_15 5 rfl rfl)
theorem dL_law_502 : decode cL_law 502 = .ok (.aload_n 2, 1) := dk_44 (dk_at dksL_law_15 7 rfl rfl)
theorem dL_law_503 : decode cL_law 503 = .ok (.aload_n 0, 1) := dk_42 (dk_at dksL_law_15 8 rfl rfl)
theorem dL_law_504 : decode cL_law 504 = .ok (.iload 5, 2) := dk_21 5 (dk_at dksL_law_15 9 rfl rfl)
theorem dL_law_506 : decode cL_law 506 = .ok (.iconst 1, 1) := dk_4 (dk_at dksL_law_15 11 rfl rfl)
theorem dL_law_507 : decode cL_law 507 = .ok (.iadd, 1) := dk_96 (dk_at dksL_law_15 12 rfl rfl)
theorem dL_law_508 : decode cL_law 508 = .ok (.iaload, 1) := dk_46 (dk_at dksL_law_15 13 rfl rfl)
theorem dL_law_509 : decode cL_law 509 = .ok (.invokevirtual 158, 3) := dk_182 0 158 (dk_at dksL_law_15 14 rfl rfl)
theorem dL_law_512 : decode cL_law 512 = .ok (.istore 7, 2) := dk_54 7 (dk_at dksL_law_15 17 rfl rfl)
theorem dL_law_514 : decode cL_law 514 = .ok (.aload_n 2, 1) := dk_44 (dk_at dksL_law_15 19 rfl rfl)
theorem dL_law_515 : decode cL_law 515 = .ok (.invokevirtual 146, 3) := dk_182 0 146 (dk_at dksL_law_15 20 rfl rfl)
theorem dL_law_518 : decode cL_law 518 = .ok (.iload 6, 2) := dk_21 6 (dk_at dksL_law_16 0 rfl rfl)
theorem dL_law_520 : decode cL_law 520 = .ok (.if_icmp .eq 5, 3) := dk_159 0 5 (dk_at dksL_law_16 2 rfl rfl)
theorem dL_law_523 : decode cL_law 523 = .ok (.iconst 0, 1) := dk_3 (dk_at dksL_law_16 5 rfl rfl)
theorem dL_law_524 : decode cL_law 524 = .ok (.ireturn, 1) := dk_172 (dk_at dksL_law_16 6 rfl rfl)
theorem dL_law_525 : decode cL_law 525 = .ok (.iload 6, 2) := dk_21 6 (dk_at dksL_law_16 7 rfl rfl)
theorem dL_law_527 : decode cL_law 527 = .ok (.ifCond .ne 15, 3) := dk_154 0 15 (dk_at dksL_law_16 9 rfl rfl)
theorem dL_law_530 : decode cL_law 530 = .ok (.aload_n 3, 1) := dk_45 (dk_at dksL_law_16 12 rfl rfl)
theorem dL_law_531 : decode cL_law 531 = .ok (.iconst 0, 1) := dk_3 (dk_at dksL_law_16 13 rfl rfl)
theorem dL_law_532 : decode cL_law 532 = .ok (.laload, 1) := dk_47 (dk_at dksL_law_16 14 rfl rfl)
theorem dL_law_533 : decode cL_law 533 = .ok (.iload 7, 2) := dk_21 7 (dk_at dksL_law_16 15 rfl rfl)
theorem dL_law_535 : decode cL_law 535 = .ok (.i2l, 1) := dk_133 (dk_at dksL_law_16 17 rfl rfl)
theorem dL_law_536 : decode cL_law 536 = .ok (.lcmp, 1) := dk_148 (dk_at dksL_law_16 18 rfl rfl)
theorem dL_law_537 : decode cL_law 537 = .ok (.ifCond .eq 5, 3) := dk_153 0 5 (dk_at dksL_law_16 19 rfl rfl)
theorem dL_law_540 : decode cL_law 540 = .ok (.iconst 0, 1) := dk_3 (dk_at dksL_law_16 22 rfl rfl)
theorem dL_law_541 : decode cL_law 541 = .ok (.ireturn, 1) := dk_172 (dk_at dksL_law_16 23 rfl rfl)
theorem dL_law_542 : decode cL_law 542 = .ok (.goto 1964, 3) := dk_167 7 172 (dk_at dksL_law_17 0 rfl rfl)
theorem dL_law_545 : decode cL_law 545 = .ok (.aload_n 1, 1) := dk_43 (dk_at dksL_law_17 3 rfl rfl)
theorem dL_law_546 : decode cL_law 546 = .ok (.aload_n 0, 1) := dk_42 (dk_at dksL_law_17 4 rfl rfl)
theorem dL_law_547 : decode cL_law 547 = .ok (.iload 5, 2) := dk_21 5 (dk_at dksL_law_17 5 rfl rfl)
theorem dL_law_549 : decode cL_law 549 = .ok (.iconst 1, 1) := dk_4 (dk_at dksL_law_17 7 rfl rfl)
theorem dL_law_550 : decode cL_law 550 = .ok (.iadd, 1) := dk_96 (dk_at dksL_law_17 8 rfl rfl)
theorem dL_law_551 : decode cL_law 551 = .ok (.iaload, 1) := dk_46 (dk_at dksL_law_17 9 rfl rfl)
theorem dL_law_552 : decode cL_law 552 = .ok (.aload_n 0, 1) := dk_42 (dk_at dksL_law_17 10 rfl rfl)
theorem dL_law_553 : decode cL_law 553 = .ok (.iload 5, 2) := dk_21 5 (dk_at dksL_law_17 11 rfl rfl)
theorem dL_law_555 : decode cL_law 555 = .ok (.iconst 2, 1) := dk_5 (dk_at dksL_law_17 13 rfl rfl)
theorem dL_law_556 : decode cL_law 556 = .ok (.iadd, 1) := dk_96 (dk_at dksL_law_17 14 rfl rfl)
theorem dL_law_557 : decode cL_law 557 = .ok (.iaload, 1) := dk_46 (dk_at dksL_law_17 15 rfl rfl)
theorem dL_law_558 : decode cL_law 558 = .ok (.aload_n 3, 1) := dk_45 (dk_at dksL_law_17 16 rfl rfl)
theorem dL_law_559 : decode cL_law 559 = .ok (.invokestatic 159, 3) := dk_184 0 159 (dk_at dksL_law_17 17 rfl rfl)
theorem dL_law_562 : decode cL_law 562 = .ok (.istore 6, 2) := dk_54 6 (dk_at dksL_law_17 20 rfl rfl)
theorem dL_law_564 : decode cL_law 564 = .ok (.aload_n 2, 1) := dk_44 (dk_at dksL_law_17 22 rfl rfl)
theorem dL_law_565 : decode cL_law 565 = .ok (.aload_n 0, 1) := dk_42 (dk_at dksL_law_17 23 rfl rfl)
theorem dL_law_566 : decode cL_law 566 = .ok (.iload 5, 2) := dk_21 5 (dk_at dksL_law_18 0 rfl rfl)
theorem dL_law_568 : decode cL_law 568 = .ok (.iconst 1, 1) := dk_4 (dk_at dksL_law_18 2 rfl rfl)
theorem dL_law_569 : decode cL_law 569 = .ok (.iadd, 1) := dk_96 (dk_at dksL_law_18 3 rfl rfl)
theorem dL_law_570 : decode cL_law 570 = .ok (.iaload, 1) := dk_46 (dk_at dksL_law_18 4 rfl rfl)
theorem dL_law_571 : decode cL_law 571 = .ok (.aload_n 0, 1) := dk_42 (dk_at dksL_law_18 5 rfl rfl)
theorem dL_law_572 : decode cL_law 572 = .ok (.iload 5, 2) := dk_21 5 (dk_at dksL_law_18 6 rfl rfl)
theorem dL_law_574 : decode cL_law 574 = .ok (.iconst 2, 1) := dk_5 (dk_at dksL_law_18 8 rfl rfl)
theorem dL_law_575 : decode cL_law 575 = .ok (.iadd, 1) := dk_96 (dk_at dksL_law_18 9 rfl rfl)
theorem dL_law_576 : decode cL_law 576 = .ok (.iaload, 1) := dk_46 (dk_at dksL_law_18 10 rfl rfl)
theorem dL_law_577 : decode cL_law 577 = .ok (.invokevirtual 162, 3) := dk_182 0 162 (dk_at dksL_law_18 11 rfl rfl)
theorem dL_law_580 : decode cL_law 580 = .ok (.istore 7, 2) := dk_54 7 (dk_at dksL_law_18 14 rfl rfl)
theorem dL_law_582 : decode cL_law 582 = .ok (.aload_n 2, 1) := dk_44 (dk_at dksL_law_18 16 rfl rfl)
theorem dL_law_583 : decode cL_law 583 = .ok (.invokevirtual 146, 3) := dk_182 0 146 (dk_at dksL_law_18 17 rfl rfl)
theorem dL_law_586 : decode cL_law 586 = .ok (.iload 6, 2) := dk_21 6 (dk_at dksL_law_18 20 rfl rfl)
theorem dL_law_588 : decode cL_law 588 = .ok (.if_icmp .eq 5, 3) := dk_159 0 5 (dk_at dksL_law_19 0 rfl rfl)
theorem dL_law_591 : decode cL_law 591 = .ok (.iconst 0, 1) := dk_3 (dk_at dksL_law_19 3 rfl rfl)
theorem dL_law_592 : decode cL_law 592 = .ok (.ireturn, 1) := dk_172 (dk_at dksL_law_19 4 rfl rfl)
theorem dL_law_593 : decode cL_law 593 = .ok (.iload 6, 2) := dk_21 6 (dk_at dksL_law_19 5 rfl rfl)
theorem dL_law_595 : decode cL_law 595 = .ok (.ifCond .ne 15, 3) := dk_154 0 15 (dk_at dksL_law_19 7 rfl rfl)
theorem dL_law_598 : decode cL_law 598 = .ok (.aload_n 3, 1) := dk_45 (dk_at dksL_law_19 10 rfl rfl)
theorem dL_law_599 : decode cL_law 599 = .ok (.iconst 0, 1) := dk_3 (dk_at dksL_law_19 11 rfl rfl)
theorem dL_law_600 : decode cL_law 600 = .ok (.laload, 1) := dk_47 (dk_at dksL_law_19 12 rfl rfl)
theorem dL_law_601 : decode cL_law 601 = .ok (.iload 7, 2) := dk_21 7 (dk_at dksL_law_19 13 rfl rfl)
theorem dL_law_603 : decode cL_law 603 = .ok (.i2l, 1) := dk_133 (dk_at dksL_law_19 15 rfl rfl)
theorem dL_law_604 : decode cL_law 604 = .ok (.lcmp, 1) := dk_148 (dk_at dksL_law_19 16 rfl rfl)
theorem dL_law_605 : decode cL_law 605 = .ok (.ifCond .eq 5, 3) := dk_153 0 5 (dk_at dksL_law_19 17 rfl rfl)
theorem dL_law_608 : decode cL_law 608 = .ok (.iconst 0, 1) := dk_3 (dk_at dksL_law_19 20 rfl rfl)
theorem dL_law_609 : decode cL_law 609 = .ok (.ireturn, 1) := dk_172 (dk_at dksL_law_19 21 rfl rfl)
theorem dL_law_610 : decode cL_law 610 = .ok (.goto 1896, 3) := dk_167 7 104 (dk_at dksL_law_20 0 rfl rfl)
theorem dL_law_613 : decode cL_law 613 = .ok (.aload_n 1, 1) := dk_43 (dk_at dksL_law_20 3 rfl rfl)
theorem dL_law_614 : decode cL_law 614 = .ok (.aload_n 0, 1) := dk_42 (dk_at dksL_law_20 4 rfl rfl)
theorem dL_law_615 : decode cL_law 615 = .ok (.iload 5, 2) := dk_21 5 (dk_at dksL_law_20 5 rfl rfl)
theorem dL_law_617 : decode cL_law 617 = .ok (.iconst 1, 1) := dk_4 (dk_at dksL_law_20 7 rfl rfl)
theorem dL_law_618 : decode cL_law 618 = .ok (.iadd, 1) := dk_96 (dk_at dksL_law_20 8 rfl rfl)
theorem dL_law_619 : decode cL_law 619 = .ok (.iaload, 1) := dk_46 (dk_at dksL_law_20 9 rfl rfl)
theorem dL_law_620 : decode cL_law 620 = .ok (.aload_n 0, 1) := dk_42 (dk_at dksL_law_20 10 rfl rfl)
theorem dL_law_621 : decode cL_law 621 = .ok (.iload 5, 2) := dk_21 5 (dk_at dksL_law_20 11 rfl rfl)
theorem dL_law_623 : decode cL_law 623 = .ok (.iconst 2, 1) := dk_5 (dk_at dksL_law_20 13 rfl rfl)
theorem dL_law_624 : decode cL_law 624 = .ok (.iadd, 1) := dk_96 (dk_at dksL_law_20 14 rfl rfl)
theorem dL_law_625 : decode cL_law 625 = .ok (.iaload, 1) := dk_46 (dk_at dksL_law_20 15 rfl rfl)
theorem dL_law_626 : decode cL_law 626 = .ok (.aload_n 3, 1) := dk_45 (dk_at dksL_law_20 16 rfl rfl)
theorem dL_law_627 : decode cL_law 627 = .ok (.invokestatic 163, 3) := dk_184 0 163 (dk_at dksL_law_20 17 rfl rfl)
theorem dL_law_630 : decode cL_law 630 = .ok (.istore 6, 2) := dk_54 6 (dk_at dksL_law_20 20 rfl rfl)
theorem dL_law_632 : decode cL_law 632 = .ok (.aload_n 2, 1) := dk_44 (dk_at dksL_law_20 22 rfl rfl)
theorem dL_law_633 : decode cL_law 633 = .ok (.aload_n 0, 1) := dk_42 (dk_at dksL_law_20 23 rfl rfl)
theorem dL_law_634 : decode cL_law 634 = .ok (.iload 5, 2) := dk_21 5 (dk_at dksL_law_21 0 rfl rfl)
theorem dL_law_636 : decode cL_law 636 = .ok (.iconst 1, 1) := dk_4 (dk_at dksL_law_21 2 rfl rfl)
theorem dL_law_637 : decode cL_law 637 = .ok (.iadd, 1) := dk_96 (dk_at dksL_law_21 3 rfl rfl)
theorem dL_law_638 : decode cL_law 638 = .ok (.iaload, 1) := dk_46 (dk_at dksL_law_21 4 rfl rfl)
theorem dL_law_639 : decode cL_law 639 = .ok (.aload_n 0, 1) := dk_42 (dk_at dksL_law_21 5 rfl rfl)
theorem dL_law_640 : decode cL_law 640 = .ok (.iload 5, 2) := dk_21 5 (dk_at dksL_law_21 6 rfl rfl)
theorem dL_law_642 : decode cL_law 642 = .ok (.iconst 2, 1) := dk_5 (dk_at dksL_law_21 8 rfl rfl)
theorem dL_law_643 : decode cL_law 643 = .ok (.iadd, 1) := dk_96 (dk_at dksL_law_21 9 rfl rfl)
theorem dL_law_644 : decode cL_law 644 = .ok (.iaload, 1) := dk_46 (dk_at dksL_law_21 10 rfl rfl)
theorem dL_law_645 : decode cL_law 645 = .ok (.invokevirtual 165, 3) := dk_182 0 165 (dk_at dksL_law_21 11 rfl rfl)
theorem dL_law_648 : decode cL_law 648 = .ok (.istore 7, 2) := dk_54 7 (dk_at dksL_law_21 14 rfl rfl)
theorem dL_law_650 : decode cL_law 650 = .ok (.aload_n 2, 1) := dk_44 (dk_at dksL_law_21 16 rfl rfl)
theorem dL_law_651 : decode cL_law 651 = .ok (.invokevirtual 146, 3) := dk_182 0 146 (dk_at dksL_law_21 17 rfl rfl)
theorem dL_law_654 : decode cL_law 654 = .ok (.iload 6, 2) := dk_21 6 (dk_at dksL_law_21 20 rfl rfl)
theorem dL_law_656 : decode cL_law 656 = .ok (.if_icmp .eq 5, 3) := dk_159 0 5 (dk_at dksL_law_22 0 rfl rfl)
theorem dL_law_659 : decode cL_law 659 = .ok (.iconst 0, 1) := dk_3 (dk_at dksL_law_22 3 rfl rfl)
theorem dL_law_660 : decode cL_law 660 = .ok (.ireturn, 1) := dk_172 (dk_at dksL_law_22 4 rfl rfl)
theorem dL_law_661 : decode cL_law 661 = .ok (.iload 6, 2) := dk_21 6 (dk_at dksL_law_22 5 rfl rfl)
theorem dL_law_663 : decode cL_law 663 = .ok (.ifCond .ne 15, 3) := dk_154 0 15 (dk_at dksL_law_22 7 rfl rfl)
theorem dL_law_666 : decode cL_law 666 = .ok (.aload_n 3, 1) := dk_45 (dk_at dksL_law_22 10 rfl rfl)
theorem dL_law_667 : decode cL_law 667 = .ok (.iconst 0, 1) := dk_3 (dk_at dksL_law_22 11 rfl rfl)
theorem dL_law_668 : decode cL_law 668 = .ok (.laload, 1) := dk_47 (dk_at dksL_law_22 12 rfl rfl)
theorem dL_law_669 : decode cL_law 669 = .ok (.iload 7, 2) := dk_21 7 (dk_at dksL_law_22 13 rfl rfl)
theorem dL_law_671 : decode cL_law 671 = .ok (.i2l, 1) := dk_133 (dk_at dksL_law_22 15 rfl rfl)
theorem dL_law_672 : decode cL_law 672 = .ok (.lcmp, 1) := dk_148 (dk_at dksL_law_22 16 rfl rfl)
theorem dL_law_673 : decode cL_law 673 = .ok (.ifCond .eq 5, 3) := dk_153 0 5 (dk_at dksL_law_22 17 rfl rfl)
theorem dL_law_676 : decode cL_law 676 = .ok (.iconst 0, 1) := dk_3 (dk_at dksL_law_22 20 rfl rfl)
theorem dL_law_677 : decode cL_law 677 = .ok (.ireturn, 1) := dk_172 (dk_at dksL_law_22 21 rfl rfl)
theorem dL_law_678 : decode cL_law 678 = .ok (.goto 1828, 3) := dk_167 7 36 (dk_at dksL_law_23 0 rfl rfl)
theorem dL_law_681 : decode cL_law 681 = .ok (.aload_n 1, 1) := dk_43 (dk_at dksL_law_23 3 rfl rfl)
theorem dL_law_682 : decode cL_law 682 = .ok (.aload_n 0, 1) := dk_42 (dk_at dksL_law_23 4 rfl rfl)
theorem dL_law_683 : decode cL_law 683 = .ok (.iload 5, 2) := dk_21 5 (dk_at dksL_law_23 5 rfl rfl)
theorem dL_law_685 : decode cL_law 685 = .ok (.iconst 1, 1) := dk_4 (dk_at dksL_law_23 7 rfl rfl)
theorem dL_law_686 : decode cL_law 686 = .ok (.iadd, 1) := dk_96 (dk_at dksL_law_23 8 rfl rfl)
theorem dL_law_687 : decode cL_law 687 = .ok (.iaload, 1) := dk_46 (dk_at dksL_law_23 9 rfl rfl)
theorem dL_law_688 : decode cL_law 688 = .ok (.aload_n 0, 1) := dk_42 (dk_at dksL_law_23 10 rfl rfl)
theorem dL_law_689 : decode cL_law 689 = .ok (.iload 5, 2) := dk_21 5 (dk_at dksL_law_23 11 rfl rfl)
theorem dL_law_691 : decode cL_law 691 = .ok (.iconst 2, 1) := dk_5 (dk_at dksL_law_23 13 rfl rfl)
theorem dL_law_692 : decode cL_law 692 = .ok (.iadd, 1) := dk_96 (dk_at dksL_law_23 14 rfl rfl)
theorem dL_law_693 : decode cL_law 693 = .ok (.iaload, 1) := dk_46 (dk_at dksL_law_23 15 rfl rfl)
theorem dL_law_694 : decode cL_law 694 = .ok (.aload_n 3, 1) := dk_45 (dk_at dksL_law_23 16 rfl rfl)
theorem dL_law_695 : decode cL_law 695 = .ok (.invokestatic 166, 3) := dk_184 0 166 (dk_at dksL_law_23 17 rfl rfl)
theorem dL_law_698 : decode cL_law 698 = .ok (.istore 6, 2) := dk_54 6 (dk_at dksL_law_23 20 rfl rfl)
theorem dL_law_700 : decode cL_law 700 = .ok (.aload_n 2, 1) := dk_44 (dk_at dksL_law_23 22 rfl rfl)
theorem dL_law_701 : decode cL_law 701 = .ok (.aload_n 0, 1) := dk_42 (dk_at dksL_law_23 23 rfl rfl)
theorem dL_law_702 : decode cL_law 702 = .ok (.iload 5, 2) := dk_21 5 (dk_at dksL_law_24 0 rfl rfl)
theorem dL_law_704 : decode cL_law 704 = .ok (.iconst 1, 1) := dk_4 (dk_at dksL_law_24 2 rfl rfl)
theorem dL_law_705 : decode cL_law 705 = .ok (.iadd, 1) := dk_96 (dk_at dksL_law_24 3 rfl rfl)
theorem dL_law_706 : decode cL_law 706 = .ok (.iaload, 1) := dk_46 (dk_at dksL_law_24 4 rfl rfl)
theorem dL_law_707 : decode cL_law 707 = .ok (.aload_n 0, 1) := dk_42 (dk_at dksL_law_24 5 rfl rfl)
theorem dL_law_708 : decode cL_law 708 = .ok (.iload 5, 2) := dk_21 5 (dk_at dksL_law_24 6 rfl rfl)
theorem dL_law_710 : decode cL_law 710 = .ok (.iconst 2, 1) := dk_5 (dk_at dksL_law_24 8 rfl rfl)
theorem dL_law_711 : decode cL_law 711 = .ok (.iadd, 1) := dk_96 (dk_at dksL_law_24 9 rfl rfl)
theorem dL_law_712 : decode cL_law 712 = .ok (.iaload, 1) := dk_46 (dk_at dksL_law_24 10 rfl rfl)
theorem dL_law_713 : decode cL_law 713 = .ok (.invokevirtual 168, 3) := dk_182 0 168 (dk_at dksL_law_24 11 rfl rfl)
theorem dL_law_716 : decode cL_law 716 = .ok (.istore 7, 2) := dk_54 7 (dk_at dksL_law_24 14 rfl rfl)
theorem dL_law_718 : decode cL_law 718 = .ok (.aload_n 2, 1) := dk_44 (dk_at dksL_law_24 16 rfl rfl)
theorem dL_law_719 : decode cL_law 719 = .ok (.invokevirtual 146, 3) := dk_182 0 146 (dk_at dksL_law_24 17 rfl rfl)
theorem dL_law_722 : decode cL_law 722 = .ok (.iload 6, 2) := dk_21 6 (dk_at dksL_law_24 20 rfl rfl)
theorem dL_law_724 : decode cL_law 724 = .ok (.if_icmp .eq 5, 3) := dk_159 0 5 (dk_at dksL_law_25 0 rfl rfl)
theorem dL_law_727 : decode cL_law 727 = .ok (.iconst 0, 1) := dk_3 (dk_at dksL_law_25 3 rfl rfl)
theorem dL_law_728 : decode cL_law 728 = .ok (.ireturn, 1) := dk_172 (dk_at dksL_law_25 4 rfl rfl)
theorem dL_law_729 : decode cL_law 729 = .ok (.iload 6, 2) := dk_21 6 (dk_at dksL_law_25 5 rfl rfl)
theorem dL_law_731 : decode cL_law 731 = .ok (.ifCond .ne 15, 3) := dk_154 0 15 (dk_at dksL_law_25 7 rfl rfl)
theorem dL_law_734 : decode cL_law 734 = .ok (.aload_n 3, 1) := dk_45 (dk_at dksL_law_25 10 rfl rfl)
theorem dL_law_735 : decode cL_law 735 = .ok (.iconst 0, 1) := dk_3 (dk_at dksL_law_25 11 rfl rfl)
theorem dL_law_736 : decode cL_law 736 = .ok (.laload, 1) := dk_47 (dk_at dksL_law_25 12 rfl rfl)
theorem dL_law_737 : decode cL_law 737 = .ok (.iload 7, 2) := dk_21 7 (dk_at dksL_law_25 13 rfl rfl)
theorem dL_law_739 : decode cL_law 739 = .ok (.i2l, 1) := dk_133 (dk_at dksL_law_25 15 rfl rfl)
theorem dL_law_740 : decode cL_law 740 = .ok (.lcmp, 1) := dk_148 (dk_at dksL_law_25 16 rfl rfl)
theorem dL_law_741 : decode cL_law 741 = .ok (.ifCond .eq 5, 3) := dk_153 0 5 (dk_at dksL_law_25 17 rfl rfl)
theorem dL_law_744 : decode cL_law 744 = .ok (.iconst 0, 1) := dk_3 (dk_at dksL_law_25 20 rfl rfl)
theorem dL_law_745 : decode cL_law 745 = .ok (.ireturn, 1) := dk_172 (dk_at dksL_law_25 21 rfl rfl)
theorem dL_law_746 : decode cL_law 746 = .ok (.goto 1760, 3) := dk_167 6 224 (dk_at dksL_law_26 0 rfl rfl)
theorem dL_law_749 : decode cL_law 749 = .ok (.aload_n 1, 1) := dk_43 (dk_at dksL_law_26 3 rfl rfl)
theorem dL_law_750 : decode cL_law 750 = .ok (.aload_n 0, 1) := dk_42 (dk_at dksL_law_26 4 rfl rfl)
theorem dL_law_751 : decode cL_law 751 = .ok (.iload 5, 2) := dk_21 5 (dk_at dksL_law_26 5 rfl rfl)
theorem dL_law_753 : decode cL_law 753 = .ok (.iconst 1, 1) := dk_4 (dk_at dksL_law_26 7 rfl rfl)
theorem dL_law_754 : decode cL_law 754 = .ok (.iadd, 1) := dk_96 (dk_at dksL_law_26 8 rfl rfl)
theorem dL_law_755 : decode cL_law 755 = .ok (.iaload, 1) := dk_46 (dk_at dksL_law_26 9 rfl rfl)
theorem dL_law_756 : decode cL_law 756 = .ok (.aload_n 0, 1) := dk_42 (dk_at dksL_law_26 10 rfl rfl)
theorem dL_law_757 : decode cL_law 757 = .ok (.iload 5, 2) := dk_21 5 (dk_at dksL_law_26 11 rfl rfl)
theorem dL_law_759 : decode cL_law 759 = .ok (.iconst 2, 1) := dk_5 (dk_at dksL_law_26 13 rfl rfl)
theorem dL_law_760 : decode cL_law 760 = .ok (.iadd, 1) := dk_96 (dk_at dksL_law_26 14 rfl rfl)
theorem dL_law_761 : decode cL_law 761 = .ok (.iaload, 1) := dk_46 (dk_at dksL_law_26 15 rfl rfl)
theorem dL_law_762 : decode cL_law 762 = .ok (.aload_n 0, 1) := dk_42 (dk_at dksL_law_26 16 rfl rfl)
theorem dL_law_763 : decode cL_law 763 = .ok (.iload 5, 2) := dk_21 5 (dk_at dksL_law_26 17 rfl rfl)
theorem dL_law_765 : decode cL_law 765 = .ok (.iconst 3, 1) := dk_6 (dk_at dksL_law_26 19 rfl rfl)
theorem dL_law_766 : decode cL_law 766 = .ok (.iadd, 1) := dk_96 (dk_at dksL_law_26 20 rfl rfl)
theorem dL_law_767 : decode cL_law 767 = .ok (.iaload, 1) := dk_46 (dk_at dksL_law_26 21 rfl rfl)
theorem dL_law_768 : decode cL_law 768 = .ok (.ifCond .eq 7, 3) := dk_153 0 7 (dk_at dksL_law_27 0 rfl rfl)
theorem dL_law_771 : decode cL_law 771 = .ok (.iconst 1, 1) := dk_4 (dk_at dksL_law_27 3 rfl rfl)
theorem dL_law_772 : decode cL_law 772 = .ok (.goto 4, 3) := dk_167 0 4 (dk_at dksL_law_27 4 rfl rfl)
theorem dL_law_775 : decode cL_law 775 = .ok (.iconst 0, 1) := dk_3 (dk_at dksL_law_27 7 rfl rfl)
theorem dL_law_776 : decode cL_law 776 = .ok (.aload_n 3, 1) := dk_45 (dk_at dksL_law_27 8 rfl rfl)
theorem dL_law_777 : decode cL_law 777 = .ok (.invokestatic 169, 3) := dk_184 0 169 (dk_at dksL_law_27 9 rfl rfl)
theorem dL_law_780 : decode cL_law 780 = .ok (.istore 6, 2) := dk_54 6 (dk_at dksL_law_27 12 rfl rfl)
theorem dL_law_782 : decode cL_law 782 = .ok (.aload_n 2, 1) := dk_44 (dk_at dksL_law_27 14 rfl rfl)
theorem dL_law_783 : decode cL_law 783 = .ok (.aload_n 0, 1) := dk_42 (dk_at dksL_law_27 15 rfl rfl)
theorem dL_law_784 : decode cL_law 784 = .ok (.iload 5, 2) := dk_21 5 (dk_at dksL_law_27 16 rfl rfl)
theorem dL_law_786 : decode cL_law 786 = .ok (.iconst 1, 1) := dk_4 (dk_at dksL_law_27 18 rfl rfl)
theorem dL_law_787 : decode cL_law 787 = .ok (.iadd, 1) := dk_96 (dk_at dksL_law_27 19 rfl rfl)
theorem dL_law_788 : decode cL_law 788 = .ok (.iaload, 1) := dk_46 (dk_at dksL_law_27 20 rfl rfl)
theorem dL_law_789 : decode cL_law 789 = .ok (.aload_n 0, 1) := dk_42 (dk_at dksL_law_27 21 rfl rfl)
theorem dL_law_790 : decode cL_law 790 = .ok (.iload 5, 2) := dk_21 5 (dk_at dksL_law_27 22 rfl rfl)
theorem dL_law_792 : decode cL_law 792 = .ok (.iconst 2, 1) := dk_5 (dk_at dksL_law_28 0 rfl rfl)
theorem dL_law_793 : decode cL_law 793 = .ok (.iadd, 1) := dk_96 (dk_at dksL_law_28 1 rfl rfl)
theorem dL_law_794 : decode cL_law 794 = .ok (.iaload, 1) := dk_46 (dk_at dksL_law_28 2 rfl rfl)
theorem dL_law_795 : decode cL_law 795 = .ok (.aload_n 0, 1) := dk_42 (dk_at dksL_law_28 3 rfl rfl)
theorem dL_law_796 : decode cL_law 796 = .ok (.iload 5, 2) := dk_21 5 (dk_at dksL_law_28 4 rfl rfl)
theorem dL_law_798 : decode cL_law 798 = .ok (.iconst 3, 1) := dk_6 (dk_at dksL_law_28 6 rfl rfl)
theorem dL_law_799 : decode cL_law 799 = .ok (.iadd, 1) := dk_96 (dk_at dksL_law_28 7 rfl rfl)
theorem dL_law_800 : decode cL_law 800 = .ok (.iaload, 1) := dk_46 (dk_at dksL_law_28 8 rfl rfl)
theorem dL_law_801 : decode cL_law 801 = .ok (.ifCond .eq 7, 3) := dk_153 0 7 (dk_at dksL_law_28 9 rfl rfl)
theorem dL_law_804 : decode cL_law 804 = .ok (.iconst 1, 1) := dk_4 (dk_at dksL_law_28 12 rfl rfl)
theorem dL_law_805 : decode cL_law 805 = .ok (.goto 4, 3) := dk_167 0 4 (dk_at dksL_law_28 13 rfl rfl)
theorem dL_law_808 : decode cL_law 808 = .ok (.iconst 0, 1) := dk_3 (dk_at dksL_law_28 16 rfl rfl)
theorem dL_law_809 : decode cL_law 809 = .ok (.invokevirtual 172, 3) := dk_182 0 172 (dk_at dksL_law_28 17 rfl rfl)
theorem dL_law_812 : decode cL_law 812 = .ok (.istore 7, 2) := dk_54 7 (dk_at dksL_law_28 20 rfl rfl)
theorem dL_law_814 : decode cL_law 814 = .ok (.aload_n 2, 1) := dk_44 (dk_at dksL_law_28 22 rfl rfl)
theorem dL_law_815 : decode cL_law 815 = .ok (.invokevirtual 146, 3) := dk_182 0 146 (dk_at dksL_law_29 0 rfl rfl)
theorem dL_law_818 : decode cL_law 818 = .ok (.iload 6, 2) := dk_21 6 (dk_at dksL_law_29 3 rfl rfl)
theorem dL_law_820 : decode cL_law 820 = .ok (.if_icmp .eq 5, 3) := dk_159 0 5 (dk_at dksL_law_29 5 rfl rfl)
theorem dL_law_823 : decode cL_law 823 = .ok (.iconst 0, 1) := dk_3 (dk_at dksL_law_29 8 rfl rfl)
theorem dL_law_824 : decode cL_law 824 = .ok (.ireturn, 1) := dk_172 (dk_at dksL_law_29 9 rfl rfl)
theorem dL_law_825 : decode cL_law 825 = .ok (.iload 6, 2) := dk_21 6 (dk_at dksL_law_29 10 rfl rfl)
theorem dL_law_827 : decode cL_law 827 = .ok (.ifCond .ne 15, 3) := dk_154 0 15 (dk_at dksL_law_29 12 rfl rfl)
theorem dL_law_830 : decode cL_law 830 = .ok (.aload_n 3, 1) := dk_45 (dk_at dksL_law_29 15 rfl rfl)
theorem dL_law_831 : decode cL_law 831 = .ok (.iconst 0, 1) := dk_3 (dk_at dksL_law_29 16 rfl rfl)
theorem dL_law_832 : decode cL_law 832 = .ok (.laload, 1) := dk_47 (dk_at dksL_law_29 17 rfl rfl)
theorem dL_law_833 : decode cL_law 833 = .ok (.iload 7, 2) := dk_21 7 (dk_at dksL_law_29 18 rfl rfl)
theorem dL_law_835 : decode cL_law 835 = .ok (.i2l, 1) := dk_133 (dk_at dksL_law_29 20 rfl rfl)
theorem dL_law_836 : decode cL_law 836 = .ok (.lcmp, 1) := dk_148 (dk_at dksL_law_29 21 rfl rfl)
theorem dL_law_837 : decode cL_law 837 = .ok (.ifCond .eq 5, 3) := dk_153 0 5 (dk_at dksL_law_30 0 rfl rfl)
theorem dL_law_840 : decode cL_law 840 = .ok (.iconst 0, 1) := dk_3 (dk_at dksL_law_30 3 rfl rfl)
theorem dL_law_841 : decode cL_law 841 = .ok (.ireturn, 1) := dk_172 (dk_at dksL_law_30 4 rfl rfl)
theorem dL_law_842 : decode cL_law 842 = .ok (.goto 1664, 3) := dk_167 6 128 (dk_at dksL_law_30 5 rfl rfl)
theorem dL_law_845 : decode cL_law 845 = .ok (.aload_n 1, 1) := dk_43 (dk_at dksL_law_30 8 rfl rfl)
theorem dL_law_846 : decode cL_law 846 = .ok (.aload_n 0, 1) := dk_42 (dk_at dksL_law_30 9 rfl rfl)
theorem dL_law_847 : decode cL_law 847 = .ok (.iload 5, 2) := dk_21 5 (dk_at dksL_law_30 10 rfl rfl)
theorem dL_law_849 : decode cL_law 849 = .ok (.iconst 1, 1) := dk_4 (dk_at dksL_law_30 12 rfl rfl)
theorem dL_law_850 : decode cL_law 850 = .ok (.iadd, 1) := dk_96 (dk_at dksL_law_30 13 rfl rfl)
theorem dL_law_851 : decode cL_law 851 = .ok (.iaload, 1) := dk_46 (dk_at dksL_law_30 14 rfl rfl)
theorem dL_law_852 : decode cL_law 852 = .ok (.aload_n 0, 1) := dk_42 (dk_at dksL_law_30 15 rfl rfl)
theorem dL_law_853 : decode cL_law 853 = .ok (.iload 5, 2) := dk_21 5 (dk_at dksL_law_30 16 rfl rfl)
theorem dL_law_855 : decode cL_law 855 = .ok (.iconst 2, 1) := dk_5 (dk_at dksL_law_30 18 rfl rfl)
theorem dL_law_856 : decode cL_law 856 = .ok (.iadd, 1) := dk_96 (dk_at dksL_law_30 19 rfl rfl)
theorem dL_law_857 : decode cL_law 857 = .ok (.iaload, 1) := dk_46 (dk_at dksL_law_30 20 rfl rfl)
theorem dL_law_858 : decode cL_law 858 = .ok (.ifCond .eq 7, 3) := dk_153 0 7 (dk_at dksL_law_30 21 rfl rfl)
theorem dL_law_861 : decode cL_law 861 = .ok (.iconst 1, 1) := dk_4 (dk_at dksL_law_31 0 rfl rfl)
theorem dL_law_862 : decode cL_law 862 = .ok (.goto 4, 3) := dk_167 0 4 (dk_at dksL_law_31 1 rfl rfl)
theorem dL_law_865 : decode cL_law 865 = .ok (.iconst 0, 1) := dk_3 (dk_at dksL_law_31 4 rfl rfl)
theorem dL_law_866 : decode cL_law 866 = .ok (.aload_n 3, 1) := dk_45 (dk_at dksL_law_31 5 rfl rfl)
theorem dL_law_867 : decode cL_law 867 = .ok (.invokestatic 173, 3) := dk_184 0 173 (dk_at dksL_law_31 6 rfl rfl)
theorem dL_law_870 : decode cL_law 870 = .ok (.istore 6, 2) := dk_54 6 (dk_at dksL_law_31 9 rfl rfl)
theorem dL_law_872 : decode cL_law 872 = .ok (.aload_n 2, 1) := dk_44 (dk_at dksL_law_31 11 rfl rfl)
theorem dL_law_873 : decode cL_law 873 = .ok (.aload_n 0, 1) := dk_42 (dk_at dksL_law_31 12 rfl rfl)
theorem dL_law_874 : decode cL_law 874 = .ok (.iload 5, 2) := dk_21 5 (dk_at dksL_law_31 13 rfl rfl)
theorem dL_law_876 : decode cL_law 876 = .ok (.iconst 1, 1) := dk_4 (dk_at dksL_law_31 15 rfl rfl)
theorem dL_law_877 : decode cL_law 877 = .ok (.iadd, 1) := dk_96 (dk_at dksL_law_31 16 rfl rfl)
theorem dL_law_878 : decode cL_law 878 = .ok (.iaload, 1) := dk_46 (dk_at dksL_law_31 17 rfl rfl)
theorem dL_law_879 : decode cL_law 879 = .ok (.aload_n 0, 1) := dk_42 (dk_at dksL_law_31 18 rfl rfl)
theorem dL_law_880 : decode cL_law 880 = .ok (.iload 5, 2) := dk_21 5 (dk_at dksL_law_31 19 rfl rfl)
theorem dL_law_882 : decode cL_law 882 = .ok (.iconst 2, 1) := dk_5 (dk_at dksL_law_31 21 rfl rfl)
theorem dL_law_883 : decode cL_law 883 = .ok (.iadd, 1) := dk_96 (dk_at dksL_law_31 22 rfl rfl)
theorem dL_law_884 : decode cL_law 884 = .ok (.iaload, 1) := dk_46 (dk_at dksL_law_31 23 rfl rfl)
theorem dL_law_885 : decode cL_law 885 = .ok (.ifCond .eq 7, 3) := dk_153 0 7 (dk_at dksL_law_32 0 rfl rfl)
theorem dL_law_888 : decode cL_law 888 = .ok (.iconst 1, 1) := dk_4 (dk_at dksL_law_32 3 rfl rfl)
theorem dL_law_889 : decode cL_law 889 = .ok (.goto 4, 3) := dk_167 0 4 (dk_at dksL_law_32 4 rfl rfl)
theorem dL_law_892 : decode cL_law 892 = .ok (.iconst 0, 1) := dk_3 (dk_at dksL_law_32 7 rfl rfl)
theorem dL_law_893 : decode cL_law 893 = .ok (.invokevirtual 176, 3) := dk_182 0 176 (dk_at dksL_law_32 8 rfl rfl)
theorem dL_law_896 : decode cL_law 896 = .ok (.istore 7, 2) := dk_54 7 (dk_at dksL_law_32 11 rfl rfl)
theorem dL_law_898 : decode cL_law 898 = .ok (.aload_n 2, 1) := dk_44 (dk_at dksL_law_32 13 rfl rfl)
theorem dL_law_899 : decode cL_law 899 = .ok (.invokevirtual 146, 3) := dk_182 0 146 (dk_at dksL_law_32 14 rfl rfl)
theorem dL_law_902 : decode cL_law 902 = .ok (.iload 6, 2) := dk_21 6 (dk_at dksL_law_32 17 rfl rfl)
theorem dL_law_904 : decode cL_law 904 = .ok (.if_icmp .eq 5, 3) := dk_159 0 5 (dk_at dksL_law_32 19 rfl rfl)
theorem dL_law_907 : decode cL_law 907 = .ok (.iconst 0, 1) := dk_3 (dk_at dksL_law_32 22 rfl rfl)
theorem dL_law_908 : decode cL_law 908 = .ok (.ireturn, 1) := dk_172 (dk_at dksL_law_32 23 rfl rfl)
theorem dL_law_909 : decode cL_law 909 = .ok (.iload 6, 2) := dk_21 6 (dk_at dksL_law_33 0 rfl rfl)
theorem dL_law_911 : decode cL_law 911 = .ok (.ifCond .ne 15, 3) := dk_154 0 15 (dk_at dksL_law_33 2 rfl rfl)
theorem dL_law_914 : decode cL_law 914 = .ok (.aload_n 3, 1) := dk_45 (dk_at dksL_law_33 5 rfl rfl)
theorem dL_law_915 : decode cL_law 915 = .ok (.iconst 0, 1) := dk_3 (dk_at dksL_law_33 6 rfl rfl)
theorem dL_law_916 : decode cL_law 916 = .ok (.laload, 1) := dk_47 (dk_at dksL_law_33 7 rfl rfl)
theorem dL_law_917 : decode cL_law 917 = .ok (.iload 7, 2) := dk_21 7 (dk_at dksL_law_33 8 rfl rfl)
theorem dL_law_919 : decode cL_law 919 = .ok (.i2l, 1) := dk_133 (dk_at dksL_law_33 10 rfl rfl)
theorem dL_law_920 : decode cL_law 920 = .ok (.lcmp, 1) := dk_148 (dk_at dksL_law_33 11 rfl rfl)
theorem dL_law_921 : decode cL_law 921 = .ok (.ifCond .eq 5, 3) := dk_153 0 5 (dk_at dksL_law_33 12 rfl rfl)
theorem dL_law_924 : decode cL_law 924 = .ok (.iconst 0, 1) := dk_3 (dk_at dksL_law_33 15 rfl rfl)
theorem dL_law_925 : decode cL_law 925 = .ok (.ireturn, 1) := dk_172 (dk_at dksL_law_33 16 rfl rfl)
theorem dL_law_926 : decode cL_law 926 = .ok (.goto 1580, 3) := dk_167 6 44 (dk_at dksL_law_33 17 rfl rfl)
theorem dL_law_929 : decode cL_law 929 = .ok (.aload_n 1, 1) := dk_43 (dk_at dksL_law_33 20 rfl rfl)
theorem dL_law_930 : decode cL_law 930 = .ok (.aload_n 0, 1) := dk_42 (dk_at dksL_law_33 21 rfl rfl)
theorem dL_law_931 : decode cL_law 931 = .ok (.iload 5, 2) := dk_21 5 (dk_at dksL_law_33 22 rfl rfl)
theorem dL_law_933 : decode cL_law 933 = .ok (.iconst 1, 1) := dk_4 (dk_at dksL_law_34 0 rfl rfl)
theorem dL_law_934 : decode cL_law 934 = .ok (.iadd, 1) := dk_96 (dk_at dksL_law_34 1 rfl rfl)
theorem dL_law_935 : decode cL_law 935 = .ok (.iaload, 1) := dk_46 (dk_at dksL_law_34 2 rfl rfl)
theorem dL_law_936 : decode cL_law 936 = .ok (.aload_n 0, 1) := dk_42 (dk_at dksL_law_34 3 rfl rfl)
theorem dL_law_937 : decode cL_law 937 = .ok (.iload 5, 2) := dk_21 5 (dk_at dksL_law_34 4 rfl rfl)
theorem dL_law_939 : decode cL_law 939 = .ok (.iconst 2, 1) := dk_5 (dk_at dksL_law_34 6 rfl rfl)
theorem dL_law_940 : decode cL_law 940 = .ok (.iadd, 1) := dk_96 (dk_at dksL_law_34 7 rfl rfl)
theorem dL_law_941 : decode cL_law 941 = .ok (.iaload, 1) := dk_46 (dk_at dksL_law_34 8 rfl rfl)
theorem dL_law_942 : decode cL_law 942 = .ok (.aload_n 3, 1) := dk_45 (dk_at dksL_law_34 9 rfl rfl)
theorem dL_law_943 : decode cL_law 943 = .ok (.invokestatic 177, 3) := dk_184 0 177 (dk_at dksL_law_34 10 rfl rfl)
theorem dL_law_946 : decode cL_law 946 = .ok (.istore 6, 2) := dk_54 6 (dk_at dksL_law_34 13 rfl rfl)
theorem dL_law_948 : decode cL_law 948 = .ok (.aload_n 2, 1) := dk_44 (dk_at dksL_law_34 15 rfl rfl)
theorem dL_law_949 : decode cL_law 949 = .ok (.aload_n 0, 1) := dk_42 (dk_at dksL_law_34 16 rfl rfl)
theorem dL_law_950 : decode cL_law 950 = .ok (.iload 5, 2) := dk_21 5 (dk_at dksL_law_34 17 rfl rfl)
theorem dL_law_952 : decode cL_law 952 = .ok (.iconst 1, 1) := dk_4 (dk_at dksL_law_34 19 rfl rfl)
theorem dL_law_953 : decode cL_law 953 = .ok (.iadd, 1) := dk_96 (dk_at dksL_law_34 20 rfl rfl)
theorem dL_law_954 : decode cL_law 954 = .ok (.iaload, 1) := dk_46 (dk_at dksL_law_34 21 rfl rfl)
theorem dL_law_955 : decode cL_law 955 = .ok (.aload_n 0, 1) := dk_42 (dk_at dksL_law_34 22 rfl rfl)
theorem dL_law_956 : decode cL_law 956 = .ok (.iload 5, 2) := dk_21 5 (dk_at dksL_law_35 0 rfl rfl)
theorem dL_law_958 : decode cL_law 958 = .ok (.iconst 2, 1) := dk_5 (dk_at dksL_law_35 2 rfl rfl)
theorem dL_law_959 : decode cL_law 959 = .ok (.iadd, 1) := dk_96 (dk_at dksL_law_35 3 rfl rfl)
theorem dL_law_960 : decode cL_law 960 = .ok (.iaload, 1) := dk_46 (dk_at dksL_law_35 4 rfl rfl)
theorem dL_law_961 : decode cL_law 961 = .ok (.invokevirtual 179, 3) := dk_182 0 179 (dk_at dksL_law_35 5 rfl rfl)
theorem dL_law_964 : decode cL_law 964 = .ok (.istore 7, 2) := dk_54 7 (dk_at dksL_law_35 8 rfl rfl)
theorem dL_law_966 : decode cL_law 966 = .ok (.aload_n 2, 1) := dk_44 (dk_at dksL_law_35 10 rfl rfl)
theorem dL_law_967 : decode cL_law 967 = .ok (.invokevirtual 146, 3) := dk_182 0 146 (dk_at dksL_law_35 11 rfl rfl)
theorem dL_law_970 : decode cL_law 970 = .ok (.iload 6, 2) := dk_21 6 (dk_at dksL_law_35 14 rfl rfl)
theorem dL_law_972 : decode cL_law 972 = .ok (.if_icmp .eq 5, 3) := dk_159 0 5 (dk_at dksL_law_35 16 rfl rfl)
theorem dL_law_975 : decode cL_law 975 = .ok (.iconst 0, 1) := dk_3 (dk_at dksL_law_35 19 rfl rfl)
theorem dL_law_976 : decode cL_law 976 = .ok (.ireturn, 1) := dk_172 (dk_at dksL_law_35 20 rfl rfl)
theorem dL_law_977 : decode cL_law 977 = .ok (.iload 6, 2) := dk_21 6 (dk_at dksL_law_35 21 rfl rfl)
theorem dL_law_979 : decode cL_law 979 = .ok (.ifCond .ne 15, 3) := dk_154 0 15 (dk_at dksL_law_36 0 rfl rfl)
theorem dL_law_982 : decode cL_law 982 = .ok (.aload_n 3, 1) := dk_45 (dk_at dksL_law_36 3 rfl rfl)
theorem dL_law_983 : decode cL_law 983 = .ok (.iconst 0, 1) := dk_3 (dk_at dksL_law_36 4 rfl rfl)
theorem dL_law_984 : decode cL_law 984 = .ok (.laload, 1) := dk_47 (dk_at dksL_law_36 5 rfl rfl)
theorem dL_law_985 : decode cL_law 985 = .ok (.iload 7, 2) := dk_21 7 (dk_at dksL_law_36 6 rfl rfl)
theorem dL_law_987 : decode cL_law 987 = .ok (.i2l, 1) := dk_133 (dk_at dksL_law_36 8 rfl rfl)
theorem dL_law_988 : decode cL_law 988 = .ok (.lcmp, 1) := dk_148 (dk_at dksL_law_36 9 rfl rfl)
theorem dL_law_989 : decode cL_law 989 = .ok (.ifCond .eq 5, 3) := dk_153 0 5 (dk_at dksL_law_36 10 rfl rfl)
theorem dL_law_992 : decode cL_law 992 = .ok (.iconst 0, 1) := dk_3 (dk_at dksL_law_36 13 rfl rfl)
theorem dL_law_993 : decode cL_law 993 = .ok (.ireturn, 1) := dk_172 (dk_at dksL_law_36 14 rfl rfl)
theorem dL_law_994 : decode cL_law 994 = .ok (.goto 1512, 3) := dk_167 5 232 (dk_at dksL_law_36 15 rfl rfl)
theorem dL_law_997 : decode cL_law 997 = .ok (.aload_n 1, 1) := dk_43 (dk_at dksL_law_36 18 rfl rfl)
theorem dL_law_998 : decode cL_law 998 = .ok (.aload_n 0, 1) := dk_42 (dk_at dksL_law_36 19 rfl rfl)
theorem dL_law_999 : decode cL_law 999 = .ok (.iload 5, 2) := dk_21 5 (dk_at dksL_law_36 20 rfl rfl)
theorem dL_law_1001 : decode cL_law 1001 = .ok (.iconst 1, 1) := dk_4 (dk_at dksL_law_36 22 rfl rfl)
theorem dL_law_1002 : decode cL_law 1002 = .ok (.iadd, 1) := dk_96 (dk_at dksL_law_36 23 rfl rfl)
theorem dL_law_1003 : decode cL_law 1003 = .ok (.iaload, 1) := dk_46 (dk_at dksL_law_37 0 rfl rfl)
theorem dL_law_1004 : decode cL_law 1004 = .ok (.aload_n 0, 1) := dk_42 (dk_at dksL_law_37 1 rfl rfl)
theorem dL_law_1005 : decode cL_law 1005 = .ok (.iload 5, 2) := dk_21 5 (dk_at dksL_law_37 2 rfl rfl)
theorem dL_law_1007 : decode cL_law 1007 = .ok (.iconst 2, 1) := dk_5 (dk_at dksL_law_37 4 rfl rfl)
theorem dL_law_1008 : decode cL_law 1008 = .ok (.iadd, 1) := dk_96 (dk_at dksL_law_37 5 rfl rfl)
theorem dL_law_1009 : decode cL_law 1009 = .ok (.iaload, 1) := dk_46 (dk_at dksL_law_37 6 rfl rfl)
theorem dL_law_1010 : decode cL_law 1010 = .ok (.aload_n 3, 1) := dk_45 (dk_at dksL_law_37 7 rfl rfl)
theorem dL_law_1011 : decode cL_law 1011 = .ok (.invokestatic 180, 3) := dk_184 0 180 (dk_at dksL_law_37 8 rfl rfl)
theorem dL_law_1014 : decode cL_law 1014 = .ok (.istore 6, 2) := dk_54 6 (dk_at dksL_law_37 11 rfl rfl)
theorem dL_law_1016 : decode cL_law 1016 = .ok (.aload_n 2, 1) := dk_44 (dk_at dksL_law_37 13 rfl rfl)
theorem dL_law_1017 : decode cL_law 1017 = .ok (.aload_n 0, 1) := dk_42 (dk_at dksL_law_37 14 rfl rfl)
theorem dL_law_1018 : decode cL_law 1018 = .ok (.iload 5, 2) := dk_21 5 (dk_at dksL_law_37 15 rfl rfl)
theorem dL_law_1020 : decode cL_law 1020 = .ok (.iconst 1, 1) := dk_4 (dk_at dksL_law_37 17 rfl rfl)
theorem dL_law_1021 : decode cL_law 1021 = .ok (.iadd, 1) := dk_96 (dk_at dksL_law_37 18 rfl rfl)
theorem dL_law_1022 : decode cL_law 1022 = .ok (.iaload, 1) := dk_46 (dk_at dksL_law_37 19 rfl rfl)
theorem dL_law_1023 : decode cL_law 1023 = .ok (.aload_n 0, 1) := dk_42 (dk_at dksL_law_37 20 rfl rfl)
theorem dL_law_1024 : decode cL_law 1024 = .ok (.iload 5, 2) := dk_21 5 (dk_at dksL_law_37 21 rfl rfl)
theorem dL_law_1026 : decode cL_law 1026 = .ok (.iconst 2, 1) := dk_5 (dk_at dksL_law_37 23 rfl rfl)
theorem dL_law_1027 : decode cL_law 1027 = .ok (.iadd, 1) := dk_96 (dk_at dksL_law_38 0 rfl rfl)
theorem dL_law_1028 : decode cL_law 1028 = .ok (.iaload, 1) := dk_46 (dk_at dksL_law_38 1 rfl rfl)
theorem dL_law_1029 : decode cL_law 1029 = .ok (.invokevirtual 182, 3) := dk_182 0 182 (dk_at dksL_law_38 2 rfl rfl)
theorem dL_law_1032 : decode cL_law 1032 = .ok (.istore 7, 2) := dk_54 7 (dk_at dksL_law_38 5 rfl rfl)
theorem dL_law_1034 : decode cL_law 1034 = .ok (.aload_n 2, 1) := dk_44 (dk_at dksL_law_38 7 rfl rfl)
theorem dL_law_1035 : decode cL_law 1035 = .ok (.invokevirtual 146, 3) := dk_182 0 146 (dk_at dksL_law_38 8 rfl rfl)
theorem dL_law_1038 : decode cL_law 1038 = .ok (.iload 6, 2) := dk_21 6 (dk_at dksL_law_38 11 rfl rfl)
theorem dL_law_1040 : decode cL_law 1040 = .ok (.if_icmp .eq 5, 3) := dk_159 0 5 (dk_at dksL_law_38 13 rfl rfl)
theorem dL_law_1043 : decode cL_law 1043 = .ok (.iconst 0, 1) := dk_3 (dk_at dksL_law_38 16 rfl rfl)
theorem dL_law_1044 : decode cL_law 1044 = .ok (.ireturn, 1) := dk_172 (dk_at dksL_law_38 17 rfl rfl)
theorem dL_law_1045 : decode cL_law 1045 = .ok (.iload 6, 2) := dk_21 6 (dk_at dksL_law_38 18 rfl rfl)
theorem dL_law_1047 : decode cL_law 1047 = .ok (.ifCond .ne 15, 3) := dk_154 0 15 (dk_at dksL_law_38 20 rfl rfl)
theorem dL_law_1050 : decode cL_law 1050 = .ok (.aload_n 3, 1) := dk_45 (dk_at dksL_law_38 23 rfl rfl)
theorem dL_law_1051 : decode cL_law 1051 = .ok (.iconst 0, 1) := dk_3 (dk_at dksL_law_39 0 rfl rfl)
theorem dL_law_1052 : decode cL_law 1052 = .ok (.laload, 1) := dk_47 (dk_at dksL_law_39 1 rfl rfl)
theorem dL_law_1053 : decode cL_law 1053 = .ok (.iload 7, 2) := dk_21 7 (dk_at dksL_law_39 2 rfl rfl)
theorem dL_law_1055 : decode cL_law 1055 = .ok (.i2l, 1) := dk_133 (dk_at dksL_law_39 4 rfl rfl)
theorem dL_law_1056 : decode cL_law 1056 = .ok (.lcmp, 1) := dk_148 (dk_at dksL_law_39 5 rfl rfl)
theorem dL_law_1057 : decode cL_law 1057 = .ok (.ifCond .eq 5, 3) := dk_153 0 5 (dk_at dksL_law_39 6 rfl rfl)
theorem dL_law_1060 : decode cL_law 1060 = .ok (.iconst 0, 1) := dk_3 (dk_at dksL_law_39 9 rfl rfl)
theorem dL_law_1061 : decode cL_law 1061 = .ok (.ireturn, 1) := dk_172 (dk_at dksL_law_39 10 rfl rfl)
theorem dL_law_1062 : decode cL_law 1062 = .ok (.goto 1444, 3) := dk_167 5 164 (dk_at dksL_law_39 11 rfl rfl)
theorem dL_law_1065 : decode cL_law 1065 = .ok (.aload_n 1, 1) := dk_43 (dk_at dksL_law_39 14 rfl rfl)
theorem dL_law_1066 : decode cL_law 1066 = .ok (.aload_n 0, 1) := dk_42 (dk_at dksL_law_39 15 rfl rfl)
theorem dL_law_1067 : decode cL_law 1067 = .ok (.iload 5, 2) := dk_21 5 (dk_at dksL_law_39 16 rfl rfl)
theorem dL_law_1069 : decode cL_law 1069 = .ok (.iconst 1, 1) := dk_4 (dk_at dksL_law_39 18 rfl rfl)
theorem dL_law_1070 : decode cL_law 1070 = .ok (.iadd, 1) := dk_96 (dk_at dksL_law_39 19 rfl rfl)
theorem dL_law_1071 : decode cL_law 1071 = .ok (.iaload, 1) := dk_46 (dk_at dksL_law_39 20 rfl rfl)
theorem dL_law_1072 : decode cL_law 1072 = .ok (.aload_n 0, 1) := dk_42 (dk_at dksL_law_39 21 rfl rfl)
theorem dL_law_1073 : decode cL_law 1073 = .ok (.iload 5, 2) := dk_21 5 (dk_at dksL_law_39 22 rfl rfl)
theorem dL_law_1075 : decode cL_law 1075 = .ok (.iconst 2, 1) := dk_5 (dk_at dksL_law_40 0 rfl rfl)
theorem dL_law_1076 : decode cL_law 1076 = .ok (.iadd, 1) := dk_96 (dk_at dksL_law_40 1 rfl rfl)
theorem dL_law_1077 : decode cL_law 1077 = .ok (.iaload, 1) := dk_46 (dk_at dksL_law_40 2 rfl rfl)
theorem dL_law_1078 : decode cL_law 1078 = .ok (.ifCond .eq 7, 3) := dk_153 0 7 (dk_at dksL_law_40 3 rfl rfl)
theorem dL_law_1081 : decode cL_law 1081 = .ok (.iconst 1, 1) := dk_4 (dk_at dksL_law_40 6 rfl rfl)
theorem dL_law_1082 : decode cL_law 1082 = .ok (.goto 4, 3) := dk_167 0 4 (dk_at dksL_law_40 7 rfl rfl)
theorem dL_law_1085 : decode cL_law 1085 = .ok (.iconst 0, 1) := dk_3 (dk_at dksL_law_40 10 rfl rfl)
theorem dL_law_1086 : decode cL_law 1086 = .ok (.aload_n 3, 1) := dk_45 (dk_at dksL_law_40 11 rfl rfl)
theorem dL_law_1087 : decode cL_law 1087 = .ok (.invokestatic 183, 3) := dk_184 0 183 (dk_at dksL_law_40 12 rfl rfl)
theorem dL_law_1090 : decode cL_law 1090 = .ok (.istore 6, 2) := dk_54 6 (dk_at dksL_law_40 15 rfl rfl)
theorem dL_law_1092 : decode cL_law 1092 = .ok (.aload_n 2, 1) := dk_44 (dk_at dksL_law_40 17 rfl rfl)
theorem dL_law_1093 : decode cL_law 1093 = .ok (.aload_n 0, 1) := dk_42 (dk_at dksL_law_40 18 rfl rfl)
theorem dL_law_1094 : decode cL_law 1094 = .ok (.iload 5, 2) := dk_21 5 (dk_at dksL_law_40 19 rfl rfl)
theorem dL_law_1096 : decode cL_law 1096 = .ok (.iconst 1, 1) := dk_4 (dk_at dksL_law_40 21 rfl rfl)
theorem dL_law_1097 : decode cL_law 1097 = .ok (.iadd, 1) := dk_96 (dk_at dksL_law_40 22 rfl rfl)
theorem dL_law_1098 : decode cL_law 1098 = .ok (.iaload, 1) := dk_46 (dk_at dksL_law_40 23 rfl rfl)
theorem dL_law_1099 : decode cL_law 1099 = .ok (.aload_n 0, 1) := dk_42 (dk_at dksL_law_41 0 rfl rfl)
theorem dL_law_1100 : decode cL_law 1100 = .ok (.iload 5, 2) := dk_21 5 (dk_at dksL_law_41 1 rfl rfl)
theorem dL_law_1102 : decode cL_law 1102 = .ok (.iconst 2, 1) := dk_5 (dk_at dksL_law_41 3 rfl rfl)
theorem dL_law_1103 : decode cL_law 1103 = .ok (.iadd, 1) := dk_96 (dk_at dksL_law_41 4 rfl rfl)
theorem dL_law_1104 : decode cL_law 1104 = .ok (.iaload, 1) := dk_46 (dk_at dksL_law_41 5 rfl rfl)
theorem dL_law_1105 : decode cL_law 1105 = .ok (.ifCond .eq 7, 3) := dk_153 0 7 (dk_at dksL_law_41 6 rfl rfl)
theorem dL_law_1108 : decode cL_law 1108 = .ok (.iconst 1, 1) := dk_4 (dk_at dksL_law_41 9 rfl rfl)
theorem dL_law_1109 : decode cL_law 1109 = .ok (.goto 4, 3) := dk_167 0 4 (dk_at dksL_law_41 10 rfl rfl)
theorem dL_law_1112 : decode cL_law 1112 = .ok (.iconst 0, 1) := dk_3 (dk_at dksL_law_41 13 rfl rfl)
theorem dL_law_1113 : decode cL_law 1113 = .ok (.invokevirtual 185, 3) := dk_182 0 185 (dk_at dksL_law_41 14 rfl rfl)
theorem dL_law_1116 : decode cL_law 1116 = .ok (.istore 7, 2) := dk_54 7 (dk_at dksL_law_41 17 rfl rfl)
theorem dL_law_1118 : decode cL_law 1118 = .ok (.aload_n 2, 1) := dk_44 (dk_at dksL_law_41 19 rfl rfl)
theorem dL_law_1119 : decode cL_law 1119 = .ok (.invokevirtual 146, 3) := dk_182 0 146 (dk_at dksL_law_41 20 rfl rfl)
theorem dL_law_1122 : decode cL_law 1122 = .ok (.iload 6, 2) := dk_21 6 (dk_at dksL_law_42 0 rfl rfl)
theorem dL_law_1124 : decode cL_law 1124 = .ok (.if_icmp .eq 5, 3) := dk_159 0 5 (dk_at dksL_law_42 2 rfl rfl)
theorem dL_law_1127 : decode cL_law 1127 = .ok (.iconst 0, 1) := dk_3 (dk_at dksL_law_42 5 rfl rfl)
theorem dL_law_1128 : decode cL_law 1128 = .ok (.ireturn, 1) := dk_172 (dk_at dksL_law_42 6 rfl rfl)
theorem dL_law_1129 : decode cL_law 1129 = .ok (.iload 6, 2) := dk_21 6 (dk_at dksL_law_42 7 rfl rfl)
theorem dL_law_1131 : decode cL_law 1131 = .ok (.ifCond .ne 15, 3) := dk_154 0 15 (dk_at dksL_law_42 9 rfl rfl)
theorem dL_law_1134 : decode cL_law 1134 = .ok (.aload_n 3, 1) := dk_45 (dk_at dksL_law_42 12 rfl rfl)
theorem dL_law_1135 : decode cL_law 1135 = .ok (.iconst 0, 1) := dk_3 (dk_at dksL_law_42 13 rfl rfl)
theorem dL_law_1136 : decode cL_law 1136 = .ok (.laload, 1) := dk_47 (dk_at dksL_law_42 14 rfl rfl)
theorem dL_law_1137 : decode cL_law 1137 = .ok (.iload 7, 2) := dk_21 7 (dk_at dksL_law_42 15 rfl rfl)
theorem dL_law_1139 : decode cL_law 1139 = .ok (.i2l, 1) := dk_133 (dk_at dksL_law_42 17 rfl rfl)
theorem dL_law_1140 : decode cL_law 1140 = .ok (.lcmp, 1) := dk_148 (dk_at dksL_law_42 18 rfl rfl)
theorem dL_law_1141 : decode cL_law 1141 = .ok (.ifCond .eq 5, 3) := dk_153 0 5 (dk_at dksL_law_42 19 rfl rfl)
theorem dL_law_1144 : decode cL_law 1144 = .ok (.iconst 0, 1) := dk_3 (dk_at dksL_law_42 22 rfl rfl)
theorem dL_law_1145 : decode cL_law 1145 = .ok (.ireturn, 1) := dk_172 (dk_at dksL_law_42 23 rfl rfl)
theorem dL_law_1146 : decode cL_law 1146 = .ok (.goto 1360, 3) := dk_167 5 80 (dk_at dksL_law_43 0 rfl rfl)
theorem dL_law_1149 : decode cL_law 1149 = .ok (.aload_n 1, 1) := dk_43 (dk_at dksL_law_43 3 rfl rfl)
theorem dL_law_1150 : decode cL_law 1150 = .ok (.aload_n 0, 1) := dk_42 (dk_at dksL_law_43 4 rfl rfl)
theorem dL_law_1151 : decode cL_law 1151 = .ok (.iload 5, 2) := dk_21 5 (dk_at dksL_law_43 5 rfl rfl)
theorem dL_law_1153 : decode cL_law 1153 = .ok (.iconst 1, 1) := dk_4 (dk_at dksL_law_43 7 rfl rfl)
theorem dL_law_1154 : decode cL_law 1154 = .ok (.iadd, 1) := dk_96 (dk_at dksL_law_43 8 rfl rfl)
theorem dL_law_1155 : decode cL_law 1155 = .ok (.iaload, 1) := dk_46 (dk_at dksL_law_43 9 rfl rfl)
theorem dL_law_1156 : decode cL_law 1156 = .ok (.aload_n 0, 1) := dk_42 (dk_at dksL_law_43 10 rfl rfl)
theorem dL_law_1157 : decode cL_law 1157 = .ok (.iload 5, 2) := dk_21 5 (dk_at dksL_law_43 11 rfl rfl)
theorem dL_law_1159 : decode cL_law 1159 = .ok (.iconst 2, 1) := dk_5 (dk_at dksL_law_43 13 rfl rfl)
theorem dL_law_1160 : decode cL_law 1160 = .ok (.iadd, 1) := dk_96 (dk_at dksL_law_43 14 rfl rfl)
theorem dL_law_1161 : decode cL_law 1161 = .ok (.iaload, 1) := dk_46 (dk_at dksL_law_43 15 rfl rfl)
theorem dL_law_1162 : decode cL_law 1162 = .ok (.aload_n 3, 1) := dk_45 (dk_at dksL_law_43 16 rfl rfl)
theorem dL_law_1163 : decode cL_law 1163 = .ok (.invokestatic 186, 3) := dk_184 0 186 (dk_at dksL_law_43 17 rfl rfl)
theorem dL_law_1166 : decode cL_law 1166 = .ok (.istore 6, 2) := dk_54 6 (dk_at dksL_law_43 20 rfl rfl)
theorem dL_law_1168 : decode cL_law 1168 = .ok (.aload_n 2, 1) := dk_44 (dk_at dksL_law_43 22 rfl rfl)
theorem dL_law_1169 : decode cL_law 1169 = .ok (.aload_n 0, 1) := dk_42 (dk_at dksL_law_43 23 rfl rfl)
theorem dL_law_1170 : decode cL_law 1170 = .ok (.iload 5, 2) := dk_21 5 (dk_at dksL_law_44 0 rfl rfl)
theorem dL_law_1172 : decode cL_law 1172 = .ok (.iconst 1, 1) := dk_4 (dk_at dksL_law_44 2 rfl rfl)
theorem dL_law_1173 : decode cL_law 1173 = .ok (.iadd, 1) := dk_96 (dk_at dksL_law_44 3 rfl rfl)
theorem dL_law_1174 : decode cL_law 1174 = .ok (.iaload, 1) := dk_46 (dk_at dksL_law_44 4 rfl rfl)
theorem dL_law_1175 : decode cL_law 1175 = .ok (.aload_n 0, 1) := dk_42 (dk_at dksL_law_44 5 rfl rfl)
theorem dL_law_1176 : decode cL_law 1176 = .ok (.iload 5, 2) := dk_21 5 (dk_at dksL_law_44 6 rfl rfl)
theorem dL_law_1178 : decode cL_law 1178 = .ok (.iconst 2, 1) := dk_5 (dk_at dksL_law_44 8 rfl rfl)
theorem dL_law_1179 : decode cL_law 1179 = .ok (.iadd, 1) := dk_96 (dk_at dksL_law_44 9 rfl rfl)
theorem dL_law_1180 : decode cL_law 1180 = .ok (.iaload, 1) := dk_46 (dk_at dksL_law_44 10 rfl rfl)
theorem dL_law_1181 : decode cL_law 1181 = .ok (.invokevirtual 188, 3) := dk_182 0 188 (dk_at dksL_law_44 11 rfl rfl)
theorem dL_law_1184 : decode cL_law 1184 = .ok (.istore 7, 2) := dk_54 7 (dk_at dksL_law_44 14 rfl rfl)
theorem dL_law_1186 : decode cL_law 1186 = .ok (.aload_n 2, 1) := dk_44 (dk_at dksL_law_44 16 rfl rfl)
theorem dL_law_1187 : decode cL_law 1187 = .ok (.invokevirtual 146, 3) := dk_182 0 146 (dk_at dksL_law_44 17 rfl rfl)
theorem dL_law_1190 : decode cL_law 1190 = .ok (.iload 6, 2) := dk_21 6 (dk_at dksL_law_44 20 rfl rfl)
theorem dL_law_1192 : decode cL_law 1192 = .ok (.if_icmp .eq 5, 3) := dk_159 0 5 (dk_at dksL_law_45 0 rfl rfl)
theorem dL_law_1195 : decode cL_law 1195 = .ok (.iconst 0, 1) := dk_3 (dk_at dksL_law_45 3 rfl rfl)
theorem dL_law_1196 : decode cL_law 1196 = .ok (.ireturn, 1) := dk_172 (dk_at dksL_law_45 4 rfl rfl)
theorem dL_law_1197 : decode cL_law 1197 = .ok (.iload 6, 2) := dk_21 6 (dk_at dksL_law_45 5 rfl rfl)
theorem dL_law_1199 : decode cL_law 1199 = .ok (.ifCond .ne 15, 3) := dk_154 0 15 (dk_at dksL_law_45 7 rfl rfl)
theorem dL_law_1202 : decode cL_law 1202 = .ok (.aload_n 3, 1) := dk_45 (dk_at dksL_law_45 10 rfl rfl)
theorem dL_law_1203 : decode cL_law 1203 = .ok (.iconst 0, 1) := dk_3 (dk_at dksL_law_45 11 rfl rfl)
theorem dL_law_1204 : decode cL_law 1204 = .ok (.laload, 1) := dk_47 (dk_at dksL_law_45 12 rfl rfl)
theorem dL_law_1205 : decode cL_law 1205 = .ok (.iload 7, 2) := dk_21 7 (dk_at dksL_law_45 13 rfl rfl)
theorem dL_law_1207 : decode cL_law 1207 = .ok (.i2l, 1) := dk_133 (dk_at dksL_law_45 15 rfl rfl)
theorem dL_law_1208 : decode cL_law 1208 = .ok (.lcmp, 1) := dk_148 (dk_at dksL_law_45 16 rfl rfl)
theorem dL_law_1209 : decode cL_law 1209 = .ok (.ifCond .eq 5, 3) := dk_153 0 5 (dk_at dksL_law_45 17 rfl rfl)
theorem dL_law_1212 : decode cL_law 1212 = .ok (.iconst 0, 1) := dk_3 (dk_at dksL_law_45 20 rfl rfl)
theorem dL_law_1213 : decode cL_law 1213 = .ok (.ireturn, 1) := dk_172 (dk_at dksL_law_45 21 rfl rfl)
theorem dL_law_1214 : decode cL_law 1214 = .ok (.goto 1292, 3) := dk_167 5 12 (dk_at dksL_law_46 0 rfl rfl)
theorem dL_law_1217 : decode cL_law 1217 = .ok (.aload_n 1, 1) := dk_43 (dk_at dksL_law_46 3 rfl rfl)
theorem dL_law_1218 : decode cL_law 1218 = .ok (.aload_n 0, 1) := dk_42 (dk_at dksL_law_46 4 rfl rfl)
theorem dL_law_1219 : decode cL_law 1219 = .ok (.iload 5, 2) := dk_21 5 (dk_at dksL_law_46 5 rfl rfl)
theorem dL_law_1221 : decode cL_law 1221 = .ok (.iconst 1, 1) := dk_4 (dk_at dksL_law_46 7 rfl rfl)
theorem dL_law_1222 : decode cL_law 1222 = .ok (.iadd, 1) := dk_96 (dk_at dksL_law_46 8 rfl rfl)
theorem dL_law_1223 : decode cL_law 1223 = .ok (.iaload, 1) := dk_46 (dk_at dksL_law_46 9 rfl rfl)
theorem dL_law_1224 : decode cL_law 1224 = .ok (.aload_n 0, 1) := dk_42 (dk_at dksL_law_46 10 rfl rfl)
theorem dL_law_1225 : decode cL_law 1225 = .ok (.iload 5, 2) := dk_21 5 (dk_at dksL_law_46 11 rfl rfl)
theorem dL_law_1227 : decode cL_law 1227 = .ok (.iconst 2, 1) := dk_5 (dk_at dksL_law_46 13 rfl rfl)
theorem dL_law_1228 : decode cL_law 1228 = .ok (.iadd, 1) := dk_96 (dk_at dksL_law_46 14 rfl rfl)
theorem dL_law_1229 : decode cL_law 1229 = .ok (.iaload, 1) := dk_46 (dk_at dksL_law_46 15 rfl rfl)
theorem dL_law_1230 : decode cL_law 1230 = .ok (.ifCond .eq 7, 3) := dk_153 0 7 (dk_at dksL_law_46 16 rfl rfl)
theorem dL_law_1233 : decode cL_law 1233 = .ok (.iconst 1, 1) := dk_4 (dk_at dksL_law_46 19 rfl rfl)
theorem dL_law_1234 : decode cL_law 1234 = .ok (.goto 4, 3) := dk_167 0 4 (dk_at dksL_law_46 20 rfl rfl)
theorem dL_law_1237 : decode cL_law 1237 = .ok (.iconst 0, 1) := dk_3 (dk_at dksL_law_46 23 rfl rfl)
theorem dL_law_1238 : decode cL_law 1238 = .ok (.aload_n 3, 1) := dk_45 (dk_at dksL_law_47 0 rfl rfl)
theorem dL_law_1239 : decode cL_law 1239 = .ok (.invokestatic 189, 3) := dk_184 0 189 (dk_at dksL_law_47 1 rfl rfl)
theorem dL_law_1242 : decode cL_law 1242 = .ok (.istore 6, 2) := dk_54 6 (dk_at dksL_law_47 4 rfl rfl)
theorem dL_law_1244 : decode cL_law 1244 = .ok (.aload_n 2, 1) := dk_44 (dk_at dksL_law_47 6 rfl rfl)
theorem dL_law_1245 : decode cL_law 1245 = .ok (.aload_n 0, 1) := dk_42 (dk_at dksL_law_47 7 rfl rfl)
theorem dL_law_1246 : decode cL_law 1246 = .ok (.iload 5, 2) := dk_21 5 (dk_at dksL_law_47 8 rfl rfl)
theorem dL_law_1248 : decode cL_law 1248 = .ok (.iconst 1, 1) := dk_4 (dk_at dksL_law_47 10 rfl rfl)
theorem dL_law_1249 : decode cL_law 1249 = .ok (.iadd, 1) := dk_96 (dk_at dksL_law_47 11 rfl rfl)
theorem dL_law_1250 : decode cL_law 1250 = .ok (.iaload, 1) := dk_46 (dk_at dksL_law_47 12 rfl rfl)
theorem dL_law_1251 : decode cL_law 1251 = .ok (.aload_n 0, 1) := dk_42 (dk_at dksL_law_47 13 rfl rfl)
theorem dL_law_1252 : decode cL_law 1252 = .ok (.iload 5, 2) := dk_21 5 (dk_at dksL_law_47 14 rfl rfl)
theorem dL_law_1254 : decode cL_law 1254 = .ok (.iconst 2, 1) := dk_5 (dk_at dksL_law_47 16 rfl rfl)
theorem dL_law_1255 : decode cL_law 1255 = .ok (.iadd, 1) := dk_96 (dk_at dksL_law_47 17 rfl rfl)
theorem dL_law_1256 : decode cL_law 1256 = .ok (.iaload, 1) := dk_46 (dk_at dksL_law_47 18 rfl rfl)
theorem dL_law_1257 : decode cL_law 1257 = .ok (.ifCond .eq 7, 3) := dk_153 0 7 (dk_at dksL_law_47 19 rfl rfl)
theorem dL_law_1260 : decode cL_law 1260 = .ok (.iconst 1, 1) := dk_4 (dk_at dksL_law_47 22 rfl rfl)
theorem dL_law_1261 : decode cL_law 1261 = .ok (.goto 4, 3) := dk_167 0 4 (dk_at dksL_law_48 0 rfl rfl)
theorem dL_law_1264 : decode cL_law 1264 = .ok (.iconst 0, 1) := dk_3 (dk_at dksL_law_48 3 rfl rfl)
theorem dL_law_1265 : decode cL_law 1265 = .ok (.invokevirtual 191, 3) := dk_182 0 191 (dk_at dksL_law_48 4 rfl rfl)
theorem dL_law_1268 : decode cL_law 1268 = .ok (.istore 7, 2) := dk_54 7 (dk_at dksL_law_48 7 rfl rfl)
theorem dL_law_1270 : decode cL_law 1270 = .ok (.aload_n 2, 1) := dk_44 (dk_at dksL_law_48 9 rfl rfl)
theorem dL_law_1271 : decode cL_law 1271 = .ok (.invokevirtual 146, 3) := dk_182 0 146 (dk_at dksL_law_48 10 rfl rfl)
theorem dL_law_1274 : decode cL_law 1274 = .ok (.iload 6, 2) := dk_21 6 (dk_at dksL_law_48 13 rfl rfl)
theorem dL_law_1276 : decode cL_law 1276 = .ok (.if_icmp .eq 5, 3) := dk_159 0 5 (dk_at dksL_law_48 15 rfl rfl)
theorem dL_law_1279 : decode cL_law 1279 = .ok (.iconst 0, 1) := dk_3 (dk_at dksL_law_48 18 rfl rfl)
theorem dL_law_1280 : decode cL_law 1280 = .ok (.ireturn, 1) := dk_172 (dk_at dksL_law_48 19 rfl rfl)
theorem dL_law_1281 : decode cL_law 1281 = .ok (.iload 6, 2) := dk_21 6 (dk_at dksL_law_48 20 rfl rfl)
theorem dL_law_1283 : decode cL_law 1283 = .ok (.ifCond .ne 15, 3) := dk_154 0 15 (dk_at dksL_law_49 0 rfl rfl)
theorem dL_law_1286 : decode cL_law 1286 = .ok (.aload_n 3, 1) := dk_45 (dk_at dksL_law_49 3 rfl rfl)
theorem dL_law_1287 : decode cL_law 1287 = .ok (.iconst 0, 1) := dk_3 (dk_at dksL_law_49 4 rfl rfl)
theorem dL_law_1288 : decode cL_law 1288 = .ok (.laload, 1) := dk_47 (dk_at dksL_law_49 5 rfl rfl)
theorem dL_law_1289 : decode cL_law 1289 = .ok (.iload 7, 2) := dk_21 7 (dk_at dksL_law_49 6 rfl rfl)
theorem dL_law_1291 : decode cL_law 1291 = .ok (.i2l, 1) := dk_133 (dk_at dksL_law_49 8 rfl rfl)
theorem dL_law_1292 : decode cL_law 1292 = .ok (.lcmp, 1) := dk_148 (dk_at dksL_law_49 9 rfl rfl)
theorem dL_law_1293 : decode cL_law 1293 = .ok (.ifCond .eq 5, 3) := dk_153 0 5 (dk_at dksL_law_49 10 rfl rfl)
theorem dL_law_1296 : decode cL_law 1296 = .ok (.iconst 0, 1) := dk_3 (dk_at dksL_law_49 13 rfl rfl)
theorem dL_law_1297 : decode cL_law 1297 = .ok (.ireturn, 1) := dk_172 (dk_at dksL_law_49 14 rfl rfl)
theorem dL_law_1298 : decode cL_law 1298 = .ok (.goto 1208, 3) := dk_167 4 184 (dk_at dksL_law_49 15 rfl rfl)
theorem dL_law_1301 : decode cL_law 1301 = .ok (.aload_n 1, 1) := dk_43 (dk_at dksL_law_49 18 rfl rfl)
theorem dL_law_1302 : decode cL_law 1302 = .ok (.aload_n 0, 1) := dk_42 (dk_at dksL_law_49 19 rfl rfl)
theorem dL_law_1303 : decode cL_law 1303 = .ok (.iload 5, 2) := dk_21 5 (dk_at dksL_law_49 20 rfl rfl)
theorem dL_law_1305 : decode cL_law 1305 = .ok (.iconst 1, 1) := dk_4 (dk_at dksL_law_49 22 rfl rfl)
theorem dL_law_1306 : decode cL_law 1306 = .ok (.iadd, 1) := dk_96 (dk_at dksL_law_49 23 rfl rfl)
theorem dL_law_1307 : decode cL_law 1307 = .ok (.iaload, 1) := dk_46 (dk_at dksL_law_50 0 rfl rfl)
theorem dL_law_1308 : decode cL_law 1308 = .ok (.aload_n 3, 1) := dk_45 (dk_at dksL_law_50 1 rfl rfl)
theorem dL_law_1309 : decode cL_law 1309 = .ok (.invokestatic 192, 3) := dk_184 0 192 (dk_at dksL_law_50 2 rfl rfl)
theorem dL_law_1312 : decode cL_law 1312 = .ok (.istore 6, 2) := dk_54 6 (dk_at dksL_law_50 5 rfl rfl)
theorem dL_law_1314 : decode cL_law 1314 = .ok (.aload_n 2, 1) := dk_44 (dk_at dksL_law_50 7 rfl rfl)
theorem dL_law_1315 : decode cL_law 1315 = .ok (.aload_n 0, 1) := dk_42 (dk_at dksL_law_50 8 rfl rfl)
theorem dL_law_1316 : decode cL_law 1316 = .ok (.iload 5, 2) := dk_21 5 (dk_at dksL_law_50 9 rfl rfl)
theorem dL_law_1318 : decode cL_law 1318 = .ok (.iconst 1, 1) := dk_4 (dk_at dksL_law_50 11 rfl rfl)
theorem dL_law_1319 : decode cL_law 1319 = .ok (.iadd, 1) := dk_96 (dk_at dksL_law_50 12 rfl rfl)
theorem dL_law_1320 : decode cL_law 1320 = .ok (.iaload, 1) := dk_46 (dk_at dksL_law_50 13 rfl rfl)
theorem dL_law_1321 : decode cL_law 1321 = .ok (.invokevirtual 194, 3) := dk_182 0 194 (dk_at dksL_law_50 14 rfl rfl)
theorem dL_law_1324 : decode cL_law 1324 = .ok (.istore 7, 2) := dk_54 7 (dk_at dksL_law_50 17 rfl rfl)
theorem dL_law_1326 : decode cL_law 1326 = .ok (.aload_n 2, 1) := dk_44 (dk_at dksL_law_50 19 rfl rfl)
theorem dL_law_1327 : decode cL_law 1327 = .ok (.invokevirtual 146, 3) := dk_182 0 146 (dk_at dksL_law_50 20 rfl rfl)
theorem dL_law_1330 : decode cL_law 1330 = .ok (.iload 6, 2) := dk_21 6 (dk_at dksL_law_51 0 rfl rfl)
theorem dL_law_1332 : decode cL_law 1332 = .ok (.if_icmp .eq 5, 3) := dk_159 0 5 (dk_at dksL_law_51 2 rfl rfl)
theorem dL_law_1335 : decode cL_law 1335 = .ok (.iconst 0, 1) := dk_3 (dk_at dksL_law_51 5 rfl rfl)
theorem dL_law_1336 : decode cL_law 1336 = .ok (.ireturn, 1) := dk_172 (dk_at dksL_law_51 6 rfl rfl)
theorem dL_law_1337 : decode cL_law 1337 = .ok (.iload 6, 2) := dk_21 6 (dk_at dksL_law_51 7 rfl rfl)
theorem dL_law_1339 : decode cL_law 1339 = .ok (.ifCond .ne 15, 3) := dk_154 0 15 (dk_at dksL_law_51 9 rfl rfl)
theorem dL_law_1342 : decode cL_law 1342 = .ok (.aload_n 3, 1) := dk_45 (dk_at dksL_law_51 12 rfl rfl)
theorem dL_law_1343 : decode cL_law 1343 = .ok (.iconst 0, 1) := dk_3 (dk_at dksL_law_51 13 rfl rfl)
theorem dL_law_1344 : decode cL_law 1344 = .ok (.laload, 1) := dk_47 (dk_at dksL_law_51 14 rfl rfl)
theorem dL_law_1345 : decode cL_law 1345 = .ok (.iload 7, 2) := dk_21 7 (dk_at dksL_law_51 15 rfl rfl)
theorem dL_law_1347 : decode cL_law 1347 = .ok (.i2l, 1) := dk_133 (dk_at dksL_law_51 17 rfl rfl)
theorem dL_law_1348 : decode cL_law 1348 = .ok (.lcmp, 1) := dk_148 (dk_at dksL_law_51 18 rfl rfl)
theorem dL_law_1349 : decode cL_law 1349 = .ok (.ifCond .eq 5, 3) := dk_153 0 5 (dk_at dksL_law_51 19 rfl rfl)
theorem dL_law_1352 : decode cL_law 1352 = .ok (.iconst 0, 1) := dk_3 (dk_at dksL_law_51 22 rfl rfl)
theorem dL_law_1353 : decode cL_law 1353 = .ok (.ireturn, 1) := dk_172 (dk_at dksL_law_51 23 rfl rfl)
theorem dL_law_1354 : decode cL_law 1354 = .ok (.goto 1152, 3) := dk_167 4 128 (dk_at dksL_law_52 0 rfl rfl)
theorem dL_law_1357 : decode cL_law 1357 = .ok (.aload_n 1, 1) := dk_43 (dk_at dksL_law_52 3 rfl rfl)
theorem dL_law_1358 : decode cL_law 1358 = .ok (.aload_n 0, 1) := dk_42 (dk_at dksL_law_52 4 rfl rfl)
theorem dL_law_1359 : decode cL_law 1359 = .ok (.iload 5, 2) := dk_21 5 (dk_at dksL_law_52 5 rfl rfl)
theorem dL_law_1361 : decode cL_law 1361 = .ok (.iconst 1, 1) := dk_4 (dk_at dksL_law_52 7 rfl rfl)
theorem dL_law_1362 : decode cL_law 1362 = .ok (.iadd, 1) := dk_96 (dk_at dksL_law_52 8 rfl rfl)
theorem dL_law_1363 : decode cL_law 1363 = .ok (.iaload, 1) := dk_46 (dk_at dksL_law_52 9 rfl rfl)
theorem dL_law_1364 : decode cL_law 1364 = .ok (.aload_n 0, 1) := dk_42 (dk_at dksL_law_52 10 rfl rfl)
theorem dL_law_1365 : decode cL_law 1365 = .ok (.iload 5, 2) := dk_21 5 (dk_at dksL_law_52 11 rfl rfl)
theorem dL_law_1367 : decode cL_law 1367 = .ok (.iconst 2, 1) := dk_5 (dk_at dksL_law_52 13 rfl rfl)
theorem dL_law_1368 : decode cL_law 1368 = .ok (.iadd, 1) := dk_96 (dk_at dksL_law_52 14 rfl rfl)
theorem dL_law_1369 : decode cL_law 1369 = .ok (.iaload, 1) := dk_46 (dk_at dksL_law_52 15 rfl rfl)
theorem dL_law_1370 : decode cL_law 1370 = .ok (.aload_n 3, 1) := dk_45 (dk_at dksL_law_52 16 rfl rfl)
theorem dL_law_1371 : decode cL_law 1371 = .ok (.invokestatic 195, 3) := dk_184 0 195 (dk_at dksL_law_52 17 rfl rfl)
theorem dL_law_1374 : decode cL_law 1374 = .ok (.istore 6, 2) := dk_54 6 (dk_at dksL_law_52 20 rfl rfl)
theorem dL_law_1376 : decode cL_law 1376 = .ok (.aload_n 2, 1) := dk_44 (dk_at dksL_law_52 22 rfl rfl)
theorem dL_law_1377 : decode cL_law 1377 = .ok (.aload_n 0, 1) := dk_42 (dk_at dksL_law_52 23 rfl rfl)
theorem dL_law_1378 : decode cL_law 1378 = .ok (.iload 5, 2) := dk_21 5 (dk_at dksL_law_53 0 rfl rfl)
theorem dL_law_1380 : decode cL_law 1380 = .ok (.iconst 1, 1) := dk_4 (dk_at dksL_law_53 2 rfl rfl)
theorem dL_law_1381 : decode cL_law 1381 = .ok (.iadd, 1) := dk_96 (dk_at dksL_law_53 3 rfl rfl)
theorem dL_law_1382 : decode cL_law 1382 = .ok (.iaload, 1) := dk_46 (dk_at dksL_law_53 4 rfl rfl)
theorem dL_law_1383 : decode cL_law 1383 = .ok (.aload_n 0, 1) := dk_42 (dk_at dksL_law_53 5 rfl rfl)
theorem dL_law_1384 : decode cL_law 1384 = .ok (.iload 5, 2) := dk_21 5 (dk_at dksL_law_53 6 rfl rfl)
theorem dL_law_1386 : decode cL_law 1386 = .ok (.iconst 2, 1) := dk_5 (dk_at dksL_law_53 8 rfl rfl)
theorem dL_law_1387 : decode cL_law 1387 = .ok (.iadd, 1) := dk_96 (dk_at dksL_law_53 9 rfl rfl)
theorem dL_law_1388 : decode cL_law 1388 = .ok (.iaload, 1) := dk_46 (dk_at dksL_law_53 10 rfl rfl)
theorem dL_law_1389 : decode cL_law 1389 = .ok (.invokevirtual 197, 3) := dk_182 0 197 (dk_at dksL_law_53 11 rfl rfl)
theorem dL_law_1392 : decode cL_law 1392 = .ok (.istore 7, 2) := dk_54 7 (dk_at dksL_law_53 14 rfl rfl)
theorem dL_law_1394 : decode cL_law 1394 = .ok (.aload_n 2, 1) := dk_44 (dk_at dksL_law_53 16 rfl rfl)
theorem dL_law_1395 : decode cL_law 1395 = .ok (.invokevirtual 146, 3) := dk_182 0 146 (dk_at dksL_law_53 17 rfl rfl)
theorem dL_law_1398 : decode cL_law 1398 = .ok (.iload 6, 2) := dk_21 6 (dk_at dksL_law_53 20 rfl rfl)
theorem dL_law_1400 : decode cL_law 1400 = .ok (.if_icmp .eq 5, 3) := dk_159 0 5 (dk_at dksL_law_54 0 rfl rfl)
theorem dL_law_1403 : decode cL_law 1403 = .ok (.iconst 0, 1) := dk_3 (dk_at dksL_law_54 3 rfl rfl)
theorem dL_law_1404 : decode cL_law 1404 = .ok (.ireturn, 1) := dk_172 (dk_at dksL_law_54 4 rfl rfl)
theorem dL_law_1405 : decode cL_law 1405 = .ok (.iload 6, 2) := dk_21 6 (dk_at dksL_law_54 5 rfl rfl)
theorem dL_law_1407 : decode cL_law 1407 = .ok (.ifCond .ne 15, 3) := dk_154 0 15 (dk_at dksL_law_54 7 rfl rfl)
theorem dL_law_1410 : decode cL_law 1410 = .ok (.aload_n 3, 1) := dk_45 (dk_at dksL_law_54 10 rfl rfl)
theorem dL_law_1411 : decode cL_law 1411 = .ok (.iconst 0, 1) := dk_3 (dk_at dksL_law_54 11 rfl rfl)
theorem dL_law_1412 : decode cL_law 1412 = .ok (.laload, 1) := dk_47 (dk_at dksL_law_54 12 rfl rfl)
theorem dL_law_1413 : decode cL_law 1413 = .ok (.iload 7, 2) := dk_21 7 (dk_at dksL_law_54 13 rfl rfl)
theorem dL_law_1415 : decode cL_law 1415 = .ok (.i2l, 1) := dk_133 (dk_at dksL_law_54 15 rfl rfl)
theorem dL_law_1416 : decode cL_law 1416 = .ok (.lcmp, 1) := dk_148 (dk_at dksL_law_54 16 rfl rfl)
theorem dL_law_1417 : decode cL_law 1417 = .ok (.ifCond .eq 5, 3) := dk_153 0 5 (dk_at dksL_law_54 17 rfl rfl)
theorem dL_law_1420 : decode cL_law 1420 = .ok (.iconst 0, 1) := dk_3 (dk_at dksL_law_54 20 rfl rfl)
theorem dL_law_1421 : decode cL_law 1421 = .ok (.ireturn, 1) := dk_172 (dk_at dksL_law_54 21 rfl rfl)
theorem dL_law_1422 : decode cL_law 1422 = .ok (.goto 1084, 3) := dk_167 4 60 (dk_at dksL_law_55 0 rfl rfl)
theorem dL_law_1425 : decode cL_law 1425 = .ok (.aload_n 1, 1) := dk_43 (dk_at dksL_law_55 3 rfl rfl)
theorem dL_law_1426 : decode cL_law 1426 = .ok (.aload_n 0, 1) := dk_42 (dk_at dksL_law_55 4 rfl rfl)
theorem dL_law_1427 : decode cL_law 1427 = .ok (.iload 5, 2) := dk_21 5 (dk_at dksL_law_55 5 rfl rfl)
theorem dL_law_1429 : decode cL_law 1429 = .ok (.iconst 1, 1) := dk_4 (dk_at dksL_law_55 7 rfl rfl)
theorem dL_law_1430 : decode cL_law 1430 = .ok (.iadd, 1) := dk_96 (dk_at dksL_law_55 8 rfl rfl)
theorem dL_law_1431 : decode cL_law 1431 = .ok (.iaload, 1) := dk_46 (dk_at dksL_law_55 9 rfl rfl)
theorem dL_law_1432 : decode cL_law 1432 = .ok (.aload_n 0, 1) := dk_42 (dk_at dksL_law_55 10 rfl rfl)
theorem dL_law_1433 : decode cL_law 1433 = .ok (.iload 5, 2) := dk_21 5 (dk_at dksL_law_55 11 rfl rfl)
theorem dL_law_1435 : decode cL_law 1435 = .ok (.iconst 2, 1) := dk_5 (dk_at dksL_law_55 13 rfl rfl)
theorem dL_law_1436 : decode cL_law 1436 = .ok (.iadd, 1) := dk_96 (dk_at dksL_law_55 14 rfl rfl)
theorem dL_law_1437 : decode cL_law 1437 = .ok (.iaload, 1) := dk_46 (dk_at dksL_law_55 15 rfl rfl)
theorem dL_law_1438 : decode cL_law 1438 = .ok (.aload_n 3, 1) := dk_45 (dk_at dksL_law_55 16 rfl rfl)
theorem dL_law_1439 : decode cL_law 1439 = .ok (.invokestatic 198, 3) := dk_184 0 198 (dk_at dksL_law_55 17 rfl rfl)
theorem dL_law_1442 : decode cL_law 1442 = .ok (.istore 6, 2) := dk_54 6 (dk_at dksL_law_55 20 rfl rfl)
theorem dL_law_1444 : decode cL_law 1444 = .ok (.aload_n 2, 1) := dk_44 (dk_at dksL_law_55 22 rfl rfl)
theorem dL_law_1445 : decode cL_law 1445 = .ok (.aload_n 0, 1) := dk_42 (dk_at dksL_law_55 23 rfl rfl)
theorem dL_law_1446 : decode cL_law 1446 = .ok (.iload 5, 2) := dk_21 5 (dk_at dksL_law_56 0 rfl rfl)
theorem dL_law_1448 : decode cL_law 1448 = .ok (.iconst 1, 1) := dk_4 (dk_at dksL_law_56 2 rfl rfl)
theorem dL_law_1449 : decode cL_law 1449 = .ok (.iadd, 1) := dk_96 (dk_at dksL_law_56 3 rfl rfl)
theorem dL_law_1450 : decode cL_law 1450 = .ok (.iaload, 1) := dk_46 (dk_at dksL_law_56 4 rfl rfl)
theorem dL_law_1451 : decode cL_law 1451 = .ok (.aload_n 0, 1) := dk_42 (dk_at dksL_law_56 5 rfl rfl)
theorem dL_law_1452 : decode cL_law 1452 = .ok (.iload 5, 2) := dk_21 5 (dk_at dksL_law_56 6 rfl rfl)
theorem dL_law_1454 : decode cL_law 1454 = .ok (.iconst 2, 1) := dk_5 (dk_at dksL_law_56 8 rfl rfl)
theorem dL_law_1455 : decode cL_law 1455 = .ok (.iadd, 1) := dk_96 (dk_at dksL_law_56 9 rfl rfl)
theorem dL_law_1456 : decode cL_law 1456 = .ok (.iaload, 1) := dk_46 (dk_at dksL_law_56 10 rfl rfl)
theorem dL_law_1457 : decode cL_law 1457 = .ok (.invokevirtual 200, 3) := dk_182 0 200 (dk_at dksL_law_56 11 rfl rfl)
theorem dL_law_1460 : decode cL_law 1460 = .ok (.istore 7, 2) := dk_54 7 (dk_at dksL_law_56 14 rfl rfl)
theorem dL_law_1462 : decode cL_law 1462 = .ok (.aload_n 2, 1) := dk_44 (dk_at dksL_law_56 16 rfl rfl)
theorem dL_law_1463 : decode cL_law 1463 = .ok (.invokevirtual 146, 3) := dk_182 0 146 (dk_at dksL_law_56 17 rfl rfl)
theorem dL_law_1466 : decode cL_law 1466 = .ok (.iload 6, 2) := dk_21 6 (dk_at dksL_law_56 20 rfl rfl)
theorem dL_law_1468 : decode cL_law 1468 = .ok (.if_icmp .eq 5, 3) := dk_159 0 5 (dk_at dksL_law_57 0 rfl rfl)
theorem dL_law_1471 : decode cL_law 1471 = .ok (.iconst 0, 1) := dk_3 (dk_at dksL_law_57 3 rfl rfl)
theorem dL_law_1472 : decode cL_law 1472 = .ok (.ireturn, 1) := dk_172 (dk_at dksL_law_57 4 rfl rfl)
theorem dL_law_1473 : decode cL_law 1473 = .ok (.iload 6, 2) := dk_21 6 (dk_at dksL_law_57 5 rfl rfl)
theorem dL_law_1475 : decode cL_law 1475 = .ok (.ifCond .ne 15, 3) := dk_154 0 15 (dk_at dksL_law_57 7 rfl rfl)
theorem dL_law_1478 : decode cL_law 1478 = .ok (.aload_n 3, 1) := dk_45 (dk_at dksL_law_57 10 rfl rfl)
theorem dL_law_1479 : decode cL_law 1479 = .ok (.iconst 0, 1) := dk_3 (dk_at dksL_law_57 11 rfl rfl)
theorem dL_law_1480 : decode cL_law 1480 = .ok (.laload, 1) := dk_47 (dk_at dksL_law_57 12 rfl rfl)
theorem dL_law_1481 : decode cL_law 1481 = .ok (.iload 7, 2) := dk_21 7 (dk_at dksL_law_57 13 rfl rfl)
theorem dL_law_1483 : decode cL_law 1483 = .ok (.i2l, 1) := dk_133 (dk_at dksL_law_57 15 rfl rfl)
theorem dL_law_1484 : decode cL_law 1484 = .ok (.lcmp, 1) := dk_148 (dk_at dksL_law_57 16 rfl rfl)
theorem dL_law_1485 : decode cL_law 1485 = .ok (.ifCond .eq 5, 3) := dk_153 0 5 (dk_at dksL_law_57 17 rfl rfl)
theorem dL_law_1488 : decode cL_law 1488 = .ok (.iconst 0, 1) := dk_3 (dk_at dksL_law_57 20 rfl rfl)
theorem dL_law_1489 : decode cL_law 1489 = .ok (.ireturn, 1) := dk_172 (dk_at dksL_law_57 21 rfl rfl)
theorem dL_law_1490 : decode cL_law 1490 = .ok (.goto 1016, 3) := dk_167 3 248 (dk_at dksL_law_58 0 rfl rfl)
theorem dL_law_1493 : decode cL_law 1493 = .ok (.aload_n 1, 1) := dk_43 (dk_at dksL_law_58 3 rfl rfl)
theorem dL_law_1494 : decode cL_law 1494 = .ok (.aload_n 0, 1) := dk_42 (dk_at dksL_law_58 4 rfl rfl)
theorem dL_law_1495 : decode cL_law 1495 = .ok (.iload 5, 2) := dk_21 5 (dk_at dksL_law_58 5 rfl rfl)
theorem dL_law_1497 : decode cL_law 1497 = .ok (.iconst 1, 1) := dk_4 (dk_at dksL_law_58 7 rfl rfl)
theorem dL_law_1498 : decode cL_law 1498 = .ok (.iadd, 1) := dk_96 (dk_at dksL_law_58 8 rfl rfl)
theorem dL_law_1499 : decode cL_law 1499 = .ok (.iaload, 1) := dk_46 (dk_at dksL_law_58 9 rfl rfl)
theorem dL_law_1500 : decode cL_law 1500 = .ok (.aload_n 3, 1) := dk_45 (dk_at dksL_law_58 10 rfl rfl)
theorem dL_law_1501 : decode cL_law 1501 = .ok (.invokestatic 201, 3) := dk_184 0 201 (dk_at dksL_law_58 11 rfl rfl)
theorem dL_law_1504 : decode cL_law 1504 = .ok (.istore 6, 2) := dk_54 6 (dk_at dksL_law_58 14 rfl rfl)
theorem dL_law_1506 : decode cL_law 1506 = .ok (.aload_n 2, 1) := dk_44 (dk_at dksL_law_58 16 rfl rfl)
theorem dL_law_1507 : decode cL_law 1507 = .ok (.aload_n 0, 1) := dk_42 (dk_at dksL_law_58 17 rfl rfl)
theorem dL_law_1508 : decode cL_law 1508 = .ok (.iload 5, 2) := dk_21 5 (dk_at dksL_law_58 18 rfl rfl)
theorem dL_law_1510 : decode cL_law 1510 = .ok (.iconst 1, 1) := dk_4 (dk_at dksL_law_58 20 rfl rfl)
theorem dL_law_1511 : decode cL_law 1511 = .ok (.iadd, 1) := dk_96 (dk_at dksL_law_58 21 rfl rfl)
theorem dL_law_1512 : decode cL_law 1512 = .ok (.iaload, 1) := dk_46 (dk_at dksL_law_58 22 rfl rfl)
theorem dL_law_1513 : decode cL_law 1513 = .ok (.invokevirtual 203, 3) := dk_182 0 203 (dk_at dksL_law_59 0 rfl rfl)
theorem dL_law_1516 : decode cL_law 1516 = .ok (.istore 7, 2) := dk_54 7 (dk_at dksL_law_59 3 rfl rfl)
theorem dL_law_1518 : decode cL_law 1518 = .ok (.aload_n 2, 1) := dk_44 (dk_at dksL_law_59 5 rfl rfl)
theorem dL_law_1519 : decode cL_law 1519 = .ok (.invokevirtual 146, 3) := dk_182 0 146 (dk_at dksL_law_59 6 rfl rfl)
theorem dL_law_1522 : decode cL_law 1522 = .ok (.iload 6, 2) := dk_21 6 (dk_at dksL_law_59 9 rfl rfl)
theorem dL_law_1524 : decode cL_law 1524 = .ok (.if_icmp .eq 5, 3) := dk_159 0 5 (dk_at dksL_law_59 11 rfl rfl)
theorem dL_law_1527 : decode cL_law 1527 = .ok (.iconst 0, 1) := dk_3 (dk_at dksL_law_59 14 rfl rfl)
theorem dL_law_1528 : decode cL_law 1528 = .ok (.ireturn, 1) := dk_172 (dk_at dksL_law_59 15 rfl rfl)
theorem dL_law_1529 : decode cL_law 1529 = .ok (.iload 6, 2) := dk_21 6 (dk_at dksL_law_59 16 rfl rfl)
theorem dL_law_1531 : decode cL_law 1531 = .ok (.ifCond .ne 15, 3) := dk_154 0 15 (dk_at dksL_law_59 18 rfl rfl)
theorem dL_law_1534 : decode cL_law 1534 = .ok (.aload_n 3, 1) := dk_45 (dk_at dksL_law_59 21 rfl rfl)
theorem dL_law_1535 : decode cL_law 1535 = .ok (.iconst 0, 1) := dk_3 (dk_at dksL_law_59 22 rfl rfl)
theorem dL_law_1536 : decode cL_law 1536 = .ok (.laload, 1) := dk_47 (dk_at dksL_law_59 23 rfl rfl)
theorem dL_law_1537 : decode cL_law 1537 = .ok (.iload 7, 2) := dk_21 7 (dk_at dksL_law_60 0 rfl rfl)
theorem dL_law_1539 : decode cL_law 1539 = .ok (.i2l, 1) := dk_133 (dk_at dksL_law_60 2 rfl rfl)
theorem dL_law_1540 : decode cL_law 1540 = .ok (.lcmp, 1) := dk_148 (dk_at dksL_law_60 3 rfl rfl)
theorem dL_law_1541 : decode cL_law 1541 = .ok (.ifCond .eq 5, 3) := dk_153 0 5 (dk_at dksL_law_60 4 rfl rfl)
theorem dL_law_1544 : decode cL_law 1544 = .ok (.iconst 0, 1) := dk_3 (dk_at dksL_law_60 7 rfl rfl)
theorem dL_law_1545 : decode cL_law 1545 = .ok (.ireturn, 1) := dk_172 (dk_at dksL_law_60 8 rfl rfl)
theorem dL_law_1546 : decode cL_law 1546 = .ok (.goto 960, 3) := dk_167 3 192 (dk_at dksL_law_60 9 rfl rfl)
theorem dL_law_1549 : decode cL_law 1549 = .ok (.aload_n 1, 1) := dk_43 (dk_at dksL_law_60 12 rfl rfl)
theorem dL_law_1550 : decode cL_law 1550 = .ok (.invokevirtual 204, 3) := dk_182 0 204 (dk_at dksL_law_60 13 rfl rfl)
theorem dL_law_1553 : decode cL_law 1553 = .ok (.aload_n 2, 1) := dk_44 (dk_at dksL_law_60 16 rfl rfl)
theorem dL_law_1554 : decode cL_law 1554 = .ok (.invokevirtual 208, 3) := dk_182 0 208 (dk_at dksL_law_60 17 rfl rfl)
theorem dL_law_1557 : decode cL_law 1557 = .ok (.if_icmp .eq 949, 3) := dk_159 3 181 (dk_at dksL_law_60 20 rfl rfl)
theorem dL_law_1560 : decode cL_law 1560 = .ok (.iconst 0, 1) := dk_3 (dk_at dksL_law_60 23 rfl rfl)
theorem dL_law_1561 : decode cL_law 1561 = .ok (.ireturn, 1) := dk_172 (dk_at dksL_law_61 0 rfl rfl)
theorem dL_law_1562 : decode cL_law 1562 = .ok (.aload_n 1, 1) := dk_43 (dk_at dksL_law_61 1 rfl rfl)
theorem dL_law_1563 : decode cL_law 1563 = .ok (.aload_n 0, 1) := dk_42 (dk_at dksL_law_61 2 rfl rfl)
theorem dL_law_1564 : decode cL_law 1564 = .ok (.iload 5, 2) := dk_21 5 (dk_at dksL_law_61 3 rfl rfl)
theorem dL_law_1566 : decode cL_law 1566 = .ok (.iconst 1, 1) := dk_4 (dk_at dksL_law_61 5 rfl rfl)
theorem dL_law_1567 : decode cL_law 1567 = .ok (.iadd, 1) := dk_96 (dk_at dksL_law_61 6 rfl rfl)
theorem dL_law_1568 : decode cL_law 1568 = .ok (.iaload, 1) := dk_46 (dk_at dksL_law_61 7 rfl rfl)
theorem dL_law_1569 : decode cL_law 1569 = .ok (.aload_n 3, 1) := dk_45 (dk_at dksL_law_61 8 rfl rfl)
theorem dL_law_1570 : decode cL_law 1570 = .ok (.invokestatic 209, 3) := dk_184 0 209 (dk_at dksL_law_61 9 rfl rfl)
theorem dL_law_1573 : decode cL_law 1573 = .ok (.istore 6, 2) := dk_54 6 (dk_at dksL_law_61 12 rfl rfl)
theorem dL_law_1575 : decode cL_law 1575 = .ok (.aload_n 2, 1) := dk_44 (dk_at dksL_law_61 14 rfl rfl)
theorem dL_law_1576 : decode cL_law 1576 = .ok (.aload_n 0, 1) := dk_42 (dk_at dksL_law_61 15 rfl rfl)
theorem dL_law_1577 : decode cL_law 1577 = .ok (.iload 5, 2) := dk_21 5 (dk_at dksL_law_61 16 rfl rfl)
theorem dL_law_1579 : decode cL_law 1579 = .ok (.iconst 1, 1) := dk_4 (dk_at dksL_law_61 18 rfl rfl)
theorem dL_law_1580 : decode cL_law 1580 = .ok (.iadd, 1) := dk_96 (dk_at dksL_law_61 19 rfl rfl)
theorem dL_law_1581 : decode cL_law 1581 = .ok (.iaload, 1) := dk_46 (dk_at dksL_law_61 20 rfl rfl)
theorem dL_law_1582 : decode cL_law 1582 = .ok (.invokevirtual 211, 3) := dk_182 0 211 (dk_at dksL_law_61 21 rfl rfl)
theorem dL_law_1585 : decode cL_law 1585 = .ok (.istore 7, 2) := dk_54 7 (dk_at dksL_law_62 0 rfl rfl)
theorem dL_law_1587 : decode cL_law 1587 = .ok (.aload_n 2, 1) := dk_44 (dk_at dksL_law_62 2 rfl rfl)
theorem dL_law_1588 : decode cL_law 1588 = .ok (.invokevirtual 146, 3) := dk_182 0 146 (dk_at dksL_law_62 3 rfl rfl)
theorem dL_law_1591 : decode cL_law 1591 = .ok (.iload 6, 2) := dk_21 6 (dk_at dksL_law_62 6 rfl rfl)
theorem dL_law_1593 : decode cL_law 1593 = .ok (.if_icmp .eq 5, 3) := dk_159 0 5 (dk_at dksL_law_62 8 rfl rfl)
theorem dL_law_1596 : decode cL_law 1596 = .ok (.iconst 0, 1) := dk_3 (dk_at dksL_law_62 11 rfl rfl)
theorem dL_law_1597 : decode cL_law 1597 = .ok (.ireturn, 1) := dk_172 (dk_at dksL_law_62 12 rfl rfl)
theorem dL_law_1598 : decode cL_law 1598 = .ok (.iload 6, 2) := dk_21 6 (dk_at dksL_law_62 13 rfl rfl)
theorem dL_law_1600 : decode cL_law 1600 = .ok (.ifCond .ne 15, 3) := dk_154 0 15 (dk_at dksL_law_62 15 rfl rfl)
theorem dL_law_1603 : decode cL_law 1603 = .ok (.aload_n 3, 1) := dk_45 (dk_at dksL_law_62 18 rfl rfl)
theorem dL_law_1604 : decode cL_law 1604 = .ok (.iconst 0, 1) := dk_3 (dk_at dksL_law_62 19 rfl rfl)
theorem dL_law_1605 : decode cL_law 1605 = .ok (.laload, 1) := dk_47 (dk_at dksL_law_62 20 rfl rfl)
theorem dL_law_1606 : decode cL_law 1606 = .ok (.iload 7, 2) := dk_21 7 (dk_at dksL_law_62 21 rfl rfl)
theorem dL_law_1608 : decode cL_law 1608 = .ok (.i2l, 1) := dk_133 (dk_at dksL_law_62 23 rfl rfl)
theorem dL_law_1609 : decode cL_law 1609 = .ok (.lcmp, 1) := dk_148 (dk_at dksL_law_63 0 rfl rfl)
theorem dL_law_1610 : decode cL_law 1610 = .ok (.ifCond .eq 5, 3) := dk_153 0 5 (dk_at dksL_law_63 1 rfl rfl)
theorem dL_law_1613 : decode cL_law 1613 = .ok (.iconst 0, 1) := dk_3 (dk_at dksL_law_63 4 rfl rfl)
theorem dL_law_1614 : decode cL_law 1614 = .ok (.ireturn, 1) := dk_172 (dk_at dksL_law_63 5 rfl rfl)
theorem dL_law_1615 : decode cL_law 1615 = .ok (.goto 891, 3) := dk_167 3 123 (dk_at dksL_law_63 6 rfl rfl)
theorem dL_law_1618 : decode cL_law 1618 = .ok (.aload_n 1, 1) := dk_43 (dk_at dksL_law_63 9 rfl rfl)
theorem dL_law_1619 : decode cL_law 1619 = .ok (.aload_n 0, 1) := dk_42 (dk_at dksL_law_63 10 rfl rfl)
theorem dL_law_1620 : decode cL_law 1620 = .ok (.iload 5, 2) := dk_21 5 (dk_at dksL_law_63 11 rfl rfl)
theorem dL_law_1622 : decode cL_law 1622 = .ok (.iconst 1, 1) := dk_4 (dk_at dksL_law_63 13 rfl rfl)
theorem dL_law_1623 : decode cL_law 1623 = .ok (.iadd, 1) := dk_96 (dk_at dksL_law_63 14 rfl rfl)
theorem dL_law_1624 : decode cL_law 1624 = .ok (.iaload, 1) := dk_46 (dk_at dksL_law_63 15 rfl rfl)
theorem dL_law_1625 : decode cL_law 1625 = .ok (.aload_n 3, 1) := dk_45 (dk_at dksL_law_63 16 rfl rfl)
theorem dL_law_1626 : decode cL_law 1626 = .ok (.invokestatic 212, 3) := dk_184 0 212 (dk_at dksL_law_63 17 rfl rfl)
theorem dL_law_1629 : decode cL_law 1629 = .ok (.istore 6, 2) := dk_54 6 (dk_at dksL_law_63 20 rfl rfl)
theorem dL_law_1631 : decode cL_law 1631 = .ok (.aload_n 2, 1) := dk_44 (dk_at dksL_law_63 22 rfl rfl)
theorem dL_law_1632 : decode cL_law 1632 = .ok (.aload_n 0, 1) := dk_42 (dk_at dksL_law_63 23 rfl rfl)
theorem dL_law_1633 : decode cL_law 1633 = .ok (.iload 5, 2) := dk_21 5 (dk_at dksL_law_64 0 rfl rfl)
theorem dL_law_1635 : decode cL_law 1635 = .ok (.iconst 1, 1) := dk_4 (dk_at dksL_law_64 2 rfl rfl)
theorem dL_law_1636 : decode cL_law 1636 = .ok (.iadd, 1) := dk_96 (dk_at dksL_law_64 3 rfl rfl)
theorem dL_law_1637 : decode cL_law 1637 = .ok (.iaload, 1) := dk_46 (dk_at dksL_law_64 4 rfl rfl)
theorem dL_law_1638 : decode cL_law 1638 = .ok (.invokevirtual 214, 3) := dk_182 0 214 (dk_at dksL_law_64 5 rfl rfl)
theorem dL_law_1641 : decode cL_law 1641 = .ok (.istore 7, 2) := dk_54 7 (dk_at dksL_law_64 8 rfl rfl)
theorem dL_law_1643 : decode cL_law 1643 = .ok (.aload_n 2, 1) := dk_44 (dk_at dksL_law_64 10 rfl rfl)
theorem dL_law_1644 : decode cL_law 1644 = .ok (.invokevirtual 146, 3) := dk_182 0 146 (dk_at dksL_law_64 11 rfl rfl)
theorem dL_law_1647 : decode cL_law 1647 = .ok (.iload 6, 2) := dk_21 6 (dk_at dksL_law_64 14 rfl rfl)
theorem dL_law_1649 : decode cL_law 1649 = .ok (.if_icmp .eq 5, 3) := dk_159 0 5 (dk_at dksL_law_64 16 rfl rfl)
theorem dL_law_1652 : decode cL_law 1652 = .ok (.iconst 0, 1) := dk_3 (dk_at dksL_law_64 19 rfl rfl)
theorem dL_law_1653 : decode cL_law 1653 = .ok (.ireturn, 1) := dk_172 (dk_at dksL_law_64 20 rfl rfl)
theorem dL_law_1654 : decode cL_law 1654 = .ok (.iload 6, 2) := dk_21 6 (dk_at dksL_law_64 21 rfl rfl)
theorem dL_law_1656 : decode cL_law 1656 = .ok (.ifCond .ne 15, 3) := dk_154 0 15 (dk_at dksL_law_65 0 rfl rfl)
theorem dL_law_1659 : decode cL_law 1659 = .ok (.aload_n 3, 1) := dk_45 (dk_at dksL_law_65 3 rfl rfl)
theorem dL_law_1660 : decode cL_law 1660 = .ok (.iconst 0, 1) := dk_3 (dk_at dksL_law_65 4 rfl rfl)
theorem dL_law_1661 : decode cL_law 1661 = .ok (.laload, 1) := dk_47 (dk_at dksL_law_65 5 rfl rfl)
theorem dL_law_1662 : decode cL_law 1662 = .ok (.iload 7, 2) := dk_21 7 (dk_at dksL_law_65 6 rfl rfl)
theorem dL_law_1664 : decode cL_law 1664 = .ok (.i2l, 1) := dk_133 (dk_at dksL_law_65 8 rfl rfl)
theorem dL_law_1665 : decode cL_law 1665 = .ok (.lcmp, 1) := dk_148 (dk_at dksL_law_65 9 rfl rfl)
theorem dL_law_1666 : decode cL_law 1666 = .ok (.ifCond .eq 5, 3) := dk_153 0 5 (dk_at dksL_law_65 10 rfl rfl)
theorem dL_law_1669 : decode cL_law 1669 = .ok (.iconst 0, 1) := dk_3 (dk_at dksL_law_65 13 rfl rfl)
theorem dL_law_1670 : decode cL_law 1670 = .ok (.ireturn, 1) := dk_172 (dk_at dksL_law_65 14 rfl rfl)
theorem dL_law_1671 : decode cL_law 1671 = .ok (.goto 835, 3) := dk_167 3 67 (dk_at dksL_law_65 15 rfl rfl)
theorem dL_law_1674 : decode cL_law 1674 = .ok (.aload_n 1, 1) := dk_43 (dk_at dksL_law_65 18 rfl rfl)
theorem dL_law_1675 : decode cL_law 1675 = .ok (.aload_n 0, 1) := dk_42 (dk_at dksL_law_65 19 rfl rfl)
theorem dL_law_1676 : decode cL_law 1676 = .ok (.iload 5, 2) := dk_21 5 (dk_at dksL_law_65 20 rfl rfl)
theorem dL_law_1678 : decode cL_law 1678 = .ok (.iconst 1, 1) := dk_4 (dk_at dksL_law_65 22 rfl rfl)
theorem dL_law_1679 : decode cL_law 1679 = .ok (.iadd, 1) := dk_96 (dk_at dksL_law_65 23 rfl rfl)
theorem dL_law_1680 : decode cL_law 1680 = .ok (.iaload, 1) := dk_46 (dk_at dksL_law_66 0 rfl rfl)
theorem dL_law_1681 : decode cL_law 1681 = .ok (.aload_n 3, 1) := dk_45 (dk_at dksL_law_66 1 rfl rfl)
theorem dL_law_1682 : decode cL_law 1682 = .ok (.invokestatic 215, 3) := dk_184 0 215 (dk_at dksL_law_66 2 rfl rfl)
theorem dL_law_1685 : decode cL_law 1685 = .ok (.istore 6, 2) := dk_54 6 (dk_at dksL_law_66 5 rfl rfl)
theorem dL_law_1687 : decode cL_law 1687 = .ok (.aload_n 2, 1) := dk_44 (dk_at dksL_law_66 7 rfl rfl)
theorem dL_law_1688 : decode cL_law 1688 = .ok (.aload_n 0, 1) := dk_42 (dk_at dksL_law_66 8 rfl rfl)
theorem dL_law_1689 : decode cL_law 1689 = .ok (.iload 5, 2) := dk_21 5 (dk_at dksL_law_66 9 rfl rfl)
theorem dL_law_1691 : decode cL_law 1691 = .ok (.iconst 1, 1) := dk_4 (dk_at dksL_law_66 11 rfl rfl)
theorem dL_law_1692 : decode cL_law 1692 = .ok (.iadd, 1) := dk_96 (dk_at dksL_law_66 12 rfl rfl)
theorem dL_law_1693 : decode cL_law 1693 = .ok (.iaload, 1) := dk_46 (dk_at dksL_law_66 13 rfl rfl)
theorem dL_law_1694 : decode cL_law 1694 = .ok (.invokevirtual 217, 3) := dk_182 0 217 (dk_at dksL_law_66 14 rfl rfl)
theorem dL_law_1697 : decode cL_law 1697 = .ok (.istore 7, 2) := dk_54 7 (dk_at dksL_law_66 17 rfl rfl)
theorem dL_law_1699 : decode cL_law 1699 = .ok (.aload_n 2, 1) := dk_44 (dk_at dksL_law_66 19 rfl rfl)
theorem dL_law_1700 : decode cL_law 1700 = .ok (.invokevirtual 146, 3) := dk_182 0 146 (dk_at dksL_law_66 20 rfl rfl)
theorem dL_law_1703 : decode cL_law 1703 = .ok (.iload 6, 2) := dk_21 6 (dk_at dksL_law_67 0 rfl rfl)
theorem dL_law_1705 : decode cL_law 1705 = .ok (.if_icmp .eq 5, 3) := dk_159 0 5 (dk_at dksL_law_67 2 rfl rfl)
theorem dL_law_1708 : decode cL_law 1708 = .ok (.iconst 0, 1) := dk_3 (dk_at dksL_law_67 5 rfl rfl)
theorem dL_law_1709 : decode cL_law 1709 = .ok (.ireturn, 1) := dk_172 (dk_at dksL_law_67 6 rfl rfl)
theorem dL_law_1710 : decode cL_law 1710 = .ok (.iload 6, 2) := dk_21 6 (dk_at dksL_law_67 7 rfl rfl)
theorem dL_law_1712 : decode cL_law 1712 = .ok (.ifCond .ne 15, 3) := dk_154 0 15 (dk_at dksL_law_67 9 rfl rfl)
theorem dL_law_1715 : decode cL_law 1715 = .ok (.aload_n 3, 1) := dk_45 (dk_at dksL_law_67 12 rfl rfl)
theorem dL_law_1716 : decode cL_law 1716 = .ok (.iconst 0, 1) := dk_3 (dk_at dksL_law_67 13 rfl rfl)
theorem dL_law_1717 : decode cL_law 1717 = .ok (.laload, 1) := dk_47 (dk_at dksL_law_67 14 rfl rfl)
theorem dL_law_1718 : decode cL_law 1718 = .ok (.iload 7, 2) := dk_21 7 (dk_at dksL_law_67 15 rfl rfl)
theorem dL_law_1720 : decode cL_law 1720 = .ok (.i2l, 1) := dk_133 (dk_at dksL_law_67 17 rfl rfl)
theorem dL_law_1721 : decode cL_law 1721 = .ok (.lcmp, 1) := dk_148 (dk_at dksL_law_67 18 rfl rfl)
theorem dL_law_1722 : decode cL_law 1722 = .ok (.ifCond .eq 5, 3) := dk_153 0 5 (dk_at dksL_law_67 19 rfl rfl)
theorem dL_law_1725 : decode cL_law 1725 = .ok (.iconst 0, 1) := dk_3 (dk_at dksL_law_67 22 rfl rfl)
theorem dL_law_1726 : decode cL_law 1726 = .ok (.ireturn, 1) := dk_172 (dk_at dksL_law_67 23 rfl rfl)
theorem dL_law_1727 : decode cL_law 1727 = .ok (.goto 779, 3) := dk_167 3 11 (dk_at dksL_law_68 0 rfl rfl)
theorem dL_law_1730 : decode cL_law 1730 = .ok (.aload_n 1, 1) := dk_43 (dk_at dksL_law_68 3 rfl rfl)
theorem dL_law_1731 : decode cL_law 1731 = .ok (.aload_n 0, 1) := dk_42 (dk_at dksL_law_68 4 rfl rfl)
theorem dL_law_1732 : decode cL_law 1732 = .ok (.iload 5, 2) := dk_21 5 (dk_at dksL_law_68 5 rfl rfl)
theorem dL_law_1734 : decode cL_law 1734 = .ok (.iconst 1, 1) := dk_4 (dk_at dksL_law_68 7 rfl rfl)
theorem dL_law_1735 : decode cL_law 1735 = .ok (.iadd, 1) := dk_96 (dk_at dksL_law_68 8 rfl rfl)
theorem dL_law_1736 : decode cL_law 1736 = .ok (.iaload, 1) := dk_46 (dk_at dksL_law_68 9 rfl rfl)
theorem dL_law_1737 : decode cL_law 1737 = .ok (.aload_n 3, 1) := dk_45 (dk_at dksL_law_68 10 rfl rfl)
theorem dL_law_1738 : decode cL_law 1738 = .ok (.invokestatic 218, 3) := dk_184 0 218 (dk_at dksL_law_68 11 rfl rfl)
theorem dL_law_1741 : decode cL_law 1741 = .ok (.istore 6, 2) := dk_54 6 (dk_at dksL_law_68 14 rfl rfl)
theorem dL_law_1743 : decode cL_law 1743 = .ok (.aload_n 2, 1) := dk_44 (dk_at dksL_law_68 16 rfl rfl)
theorem dL_law_1744 : decode cL_law 1744 = .ok (.aload_n 0, 1) := dk_42 (dk_at dksL_law_68 17 rfl rfl)
theorem dL_law_1745 : decode cL_law 1745 = .ok (.iload 5, 2) := dk_21 5 (dk_at dksL_law_68 18 rfl rfl)
theorem dL_law_1747 : decode cL_law 1747 = .ok (.iconst 1, 1) := dk_4 (dk_at dksL_law_68 20 rfl rfl)
theorem dL_law_1748 : decode cL_law 1748 = .ok (.iadd, 1) := dk_96 (dk_at dksL_law_68 21 rfl rfl)
theorem dL_law_1749 : decode cL_law 1749 = .ok (.iaload, 1) := dk_46 (dk_at dksL_law_68 22 rfl rfl)
theorem dL_law_1750 : decode cL_law 1750 = .ok (.invokevirtual 220, 3) := dk_182 0 220 (dk_at dksL_law_69 0 rfl rfl)
theorem dL_law_1753 : decode cL_law 1753 = .ok (.istore 7, 2) := dk_54 7 (dk_at dksL_law_69 3 rfl rfl)
theorem dL_law_1755 : decode cL_law 1755 = .ok (.aload_n 2, 1) := dk_44 (dk_at dksL_law_69 5 rfl rfl)
theorem dL_law_1756 : decode cL_law 1756 = .ok (.invokevirtual 146, 3) := dk_182 0 146 (dk_at dksL_law_69 6 rfl rfl)
theorem dL_law_1759 : decode cL_law 1759 = .ok (.iload 6, 2) := dk_21 6 (dk_at dksL_law_69 9 rfl rfl)
theorem dL_law_1761 : decode cL_law 1761 = .ok (.if_icmp .eq 5, 3) := dk_159 0 5 (dk_at dksL_law_69 11 rfl rfl)
theorem dL_law_1764 : decode cL_law 1764 = .ok (.iconst 0, 1) := dk_3 (dk_at dksL_law_69 14 rfl rfl)
theorem dL_law_1765 : decode cL_law 1765 = .ok (.ireturn, 1) := dk_172 (dk_at dksL_law_69 15 rfl rfl)
theorem dL_law_1766 : decode cL_law 1766 = .ok (.iload 6, 2) := dk_21 6 (dk_at dksL_law_69 16 rfl rfl)
theorem dL_law_1768 : decode cL_law 1768 = .ok (.ifCond .ne 15, 3) := dk_154 0 15 (dk_at dksL_law_69 18 rfl rfl)
theorem dL_law_1771 : decode cL_law 1771 = .ok (.aload_n 3, 1) := dk_45 (dk_at dksL_law_69 21 rfl rfl)
theorem dL_law_1772 : decode cL_law 1772 = .ok (.iconst 0, 1) := dk_3 (dk_at dksL_law_69 22 rfl rfl)
theorem dL_law_1773 : decode cL_law 1773 = .ok (.laload, 1) := dk_47 (dk_at dksL_law_69 23 rfl rfl)
theorem dL_law_1774 : decode cL_law 1774 = .ok (.iload 7, 2) := dk_21 7 (dk_at dksL_law_70 0 rfl rfl)
theorem dL_law_1776 : decode cL_law 1776 = .ok (.i2l, 1) := dk_133 (dk_at dksL_law_70 2 rfl rfl)
theorem dL_law_1777 : decode cL_law 1777 = .ok (.lcmp, 1) := dk_148 (dk_at dksL_law_70 3 rfl rfl)
theorem dL_law_1778 : decode cL_law 1778 = .ok (.ifCond .eq 5, 3) := dk_153 0 5 (dk_at dksL_law_70 4 rfl rfl)
theorem dL_law_1781 : decode cL_law 1781 = .ok (.iconst 0, 1) := dk_3 (dk_at dksL_law_70 7 rfl rfl)
theorem dL_law_1782 : decode cL_law 1782 = .ok (.ireturn, 1) := dk_172 (dk_at dksL_law_70 8 rfl rfl)
theorem dL_law_1783 : decode cL_law 1783 = .ok (.goto 723, 3) := dk_167 2 211 (dk_at dksL_law_70 9 rfl rfl)
theorem dL_law_1786 : decode cL_law 1786 = .ok (.aload_n 1, 1) := dk_43 (dk_at dksL_law_70 12 rfl rfl)
theorem dL_law_1787 : decode cL_law 1787 = .ok (.aload_n 0, 1) := dk_42 (dk_at dksL_law_70 13 rfl rfl)
theorem dL_law_1788 : decode cL_law 1788 = .ok (.iload 5, 2) := dk_21 5 (dk_at dksL_law_70 14 rfl rfl)
theorem dL_law_1790 : decode cL_law 1790 = .ok (.iconst 1, 1) := dk_4 (dk_at dksL_law_70 16 rfl rfl)
theorem dL_law_1791 : decode cL_law 1791 = .ok (.iadd, 1) := dk_96 (dk_at dksL_law_70 17 rfl rfl)
theorem dL_law_1792 : decode cL_law 1792 = .ok (.iaload, 1) := dk_46 (dk_at dksL_law_70 18 rfl rfl)
theorem dL_law_1793 : decode cL_law 1793 = .ok (.aload_n 3, 1) := dk_45 (dk_at dksL_law_70 19 rfl rfl)
theorem dL_law_1794 : decode cL_law 1794 = .ok (.invokestatic 221, 3) := dk_184 0 221 (dk_at dksL_law_70 20 rfl rfl)
theorem dL_law_1797 : decode cL_law 1797 = .ok (.istore 6, 2) := dk_54 6 (dk_at dksL_law_71 0 rfl rfl)
theorem dL_law_1799 : decode cL_law 1799 = .ok (.aload_n 2, 1) := dk_44 (dk_at dksL_law_71 2 rfl rfl)
theorem dL_law_1800 : decode cL_law 1800 = .ok (.aload_n 0, 1) := dk_42 (dk_at dksL_law_71 3 rfl rfl)
theorem dL_law_1801 : decode cL_law 1801 = .ok (.iload 5, 2) := dk_21 5 (dk_at dksL_law_71 4 rfl rfl)
theorem dL_law_1803 : decode cL_law 1803 = .ok (.iconst 1, 1) := dk_4 (dk_at dksL_law_71 6 rfl rfl)
theorem dL_law_1804 : decode cL_law 1804 = .ok (.iadd, 1) := dk_96 (dk_at dksL_law_71 7 rfl rfl)
theorem dL_law_1805 : decode cL_law 1805 = .ok (.iaload, 1) := dk_46 (dk_at dksL_law_71 8 rfl rfl)
theorem dL_law_1806 : decode cL_law 1806 = .ok (.invokevirtual 223, 3) := dk_182 0 223 (dk_at dksL_law_71 9 rfl rfl)
theorem dL_law_1809 : decode cL_law 1809 = .ok (.istore 7, 2) := dk_54 7 (dk_at dksL_law_71 12 rfl rfl)
theorem dL_law_1811 : decode cL_law 1811 = .ok (.aload_n 2, 1) := dk_44 (dk_at dksL_law_71 14 rfl rfl)
theorem dL_law_1812 : decode cL_law 1812 = .ok (.invokevirtual 146, 3) := dk_182 0 146 (dk_at dksL_law_71 15 rfl rfl)
theorem dL_law_1815 : decode cL_law 1815 = .ok (.iload 6, 2) := dk_21 6 (dk_at dksL_law_71 18 rfl rfl)
theorem dL_law_1817 : decode cL_law 1817 = .ok (.if_icmp .eq 5, 3) := dk_159 0 5 (dk_at dksL_law_71 20 rfl rfl)
theorem dL_law_1820 : decode cL_law 1820 = .ok (.iconst 0, 1) := dk_3 (dk_at dksL_law_71 23 rfl rfl)
theorem dL_law_1821 : decode cL_law 1821 = .ok (.ireturn, 1) := dk_172 (dk_at dksL_law_72 0 rfl rfl)
theorem dL_law_1822 : decode cL_law 1822 = .ok (.iload 6, 2) := dk_21 6 (dk_at dksL_law_72 1 rfl rfl)
theorem dL_law_1824 : decode cL_law 1824 = .ok (.ifCond .ne 15, 3) := dk_154 0 15 (dk_at dksL_law_72 3 rfl rfl)
theorem dL_law_1827 : decode cL_law 1827 = .ok (.aload_n 3, 1) := dk_45 (dk_at dksL_law_72 6 rfl rfl)
theorem dL_law_1828 : decode cL_law 1828 = .ok (.iconst 0, 1) := dk_3 (dk_at dksL_law_72 7 rfl rfl)
theorem dL_law_1829 : decode cL_law 1829 = .ok (.laload, 1) := dk_47 (dk_at dksL_law_72 8 rfl rfl)
theorem dL_law_1830 : decode cL_law 1830 = .ok (.iload 7, 2) := dk_21 7 (dk_at dksL_law_72 9 rfl rfl)
theorem dL_law_1832 : decode cL_law 1832 = .ok (.i2l, 1) := dk_133 (dk_at dksL_law_72 11 rfl rfl)
theorem dL_law_1833 : decode cL_law 1833 = .ok (.lcmp, 1) := dk_148 (dk_at dksL_law_72 12 rfl rfl)
theorem dL_law_1834 : decode cL_law 1834 = .ok (.ifCond .eq 5, 3) := dk_153 0 5 (dk_at dksL_law_72 13 rfl rfl)
theorem dL_law_1837 : decode cL_law 1837 = .ok (.iconst 0, 1) := dk_3 (dk_at dksL_law_72 16 rfl rfl)
theorem dL_law_1838 : decode cL_law 1838 = .ok (.ireturn, 1) := dk_172 (dk_at dksL_law_72 17 rfl rfl)
theorem dL_law_1839 : decode cL_law 1839 = .ok (.goto 667, 3) := dk_167 2 155 (dk_at dksL_law_72 18 rfl rfl)
theorem dL_law_1842 : decode cL_law 1842 = .ok (.aload_n 1, 1) := dk_43 (dk_at dksL_law_72 21 rfl rfl)
theorem dL_law_1843 : decode cL_law 1843 = .ok (.aload_n 0, 1) := dk_42 (dk_at dksL_law_72 22 rfl rfl)
theorem dL_law_1844 : decode cL_law 1844 = .ok (.iload 5, 2) := dk_21 5 (dk_at dksL_law_73 0 rfl rfl)
theorem dL_law_1846 : decode cL_law 1846 = .ok (.iconst 1, 1) := dk_4 (dk_at dksL_law_73 2 rfl rfl)
theorem dL_law_1847 : decode cL_law 1847 = .ok (.iadd, 1) := dk_96 (dk_at dksL_law_73 3 rfl rfl)
theorem dL_law_1848 : decode cL_law 1848 = .ok (.iaload, 1) := dk_46 (dk_at dksL_law_73 4 rfl rfl)
theorem dL_law_1849 : decode cL_law 1849 = .ok (.aload_n 3, 1) := dk_45 (dk_at dksL_law_73 5 rfl rfl)
theorem dL_law_1850 : decode cL_law 1850 = .ok (.invokestatic 224, 3) := dk_184 0 224 (dk_at dksL_law_73 6 rfl rfl)
theorem dL_law_1853 : decode cL_law 1853 = .ok (.istore 6, 2) := dk_54 6 (dk_at dksL_law_73 9 rfl rfl)
theorem dL_law_1855 : decode cL_law 1855 = .ok (.aload_n 2, 1) := dk_44 (dk_at dksL_law_73 11 rfl rfl)
theorem dL_law_1856 : decode cL_law 1856 = .ok (.aload_n 0, 1) := dk_42 (dk_at dksL_law_73 12 rfl rfl)
theorem dL_law_1857 : decode cL_law 1857 = .ok (.iload 5, 2) := dk_21 5 (dk_at dksL_law_73 13 rfl rfl)
theorem dL_law_1859 : decode cL_law 1859 = .ok (.iconst 1, 1) := dk_4 (dk_at dksL_law_73 15 rfl rfl)
theorem dL_law_1860 : decode cL_law 1860 = .ok (.iadd, 1) := dk_96 (dk_at dksL_law_73 16 rfl rfl)
theorem dL_law_1861 : decode cL_law 1861 = .ok (.iaload, 1) := dk_46 (dk_at dksL_law_73 17 rfl rfl)
theorem dL_law_1862 : decode cL_law 1862 = .ok (.invokevirtual 226, 3) := dk_182 0 226 (dk_at dksL_law_73 18 rfl rfl)
theorem dL_law_1865 : decode cL_law 1865 = .ok (.istore 7, 2) := dk_54 7 (dk_at dksL_law_73 21 rfl rfl)
theorem dL_law_1867 : decode cL_law 1867 = .ok (.aload_n 2, 1) := dk_44 (dk_at dksL_law_73 23 rfl rfl)
theorem dL_law_1868 : decode cL_law 1868 = .ok (.invokevirtual 146, 3) := dk_182 0 146 (dk_at dksL_law_74 0 rfl rfl)
theorem dL_law_1871 : decode cL_law 1871 = .ok (.iload 6, 2) := dk_21 6 (dk_at dksL_law_74 3 rfl rfl)
theorem dL_law_1873 : decode cL_law 1873 = .ok (.if_icmp .eq 5, 3) := dk_159 0 5 (dk_at dksL_law_74 5 rfl rfl)
theorem dL_law_1876 : decode cL_law 1876 = .ok (.iconst 0, 1) := dk_3 (dk_at dksL_law_74 8 rfl rfl)
theorem dL_law_1877 : decode cL_law 1877 = .ok (.ireturn, 1) := dk_172 (dk_at dksL_law_74 9 rfl rfl)
theorem dL_law_1878 : decode cL_law 1878 = .ok (.iload 6, 2) := dk_21 6 (dk_at dksL_law_74 10 rfl rfl)
theorem dL_law_1880 : decode cL_law 1880 = .ok (.ifCond .ne 15, 3) := dk_154 0 15 (dk_at dksL_law_74 12 rfl rfl)
theorem dL_law_1883 : decode cL_law 1883 = .ok (.aload_n 3, 1) := dk_45 (dk_at dksL_law_74 15 rfl rfl)
theorem dL_law_1884 : decode cL_law 1884 = .ok (.iconst 0, 1) := dk_3 (dk_at dksL_law_74 16 rfl rfl)
theorem dL_law_1885 : decode cL_law 1885 = .ok (.laload, 1) := dk_47 (dk_at dksL_law_74 17 rfl rfl)
theorem dL_law_1886 : decode cL_law 1886 = .ok (.iload 7, 2) := dk_21 7 (dk_at dksL_law_74 18 rfl rfl)
theorem dL_law_1888 : decode cL_law 1888 = .ok (.i2l, 1) := dk_133 (dk_at dksL_law_74 20 rfl rfl)
theorem dL_law_1889 : decode cL_law 1889 = .ok (.lcmp, 1) := dk_148 (dk_at dksL_law_74 21 rfl rfl)
theorem dL_law_1890 : decode cL_law 1890 = .ok (.ifCond .eq 5, 3) := dk_153 0 5 (dk_at dksL_law_75 0 rfl rfl)
theorem dL_law_1893 : decode cL_law 1893 = .ok (.iconst 0, 1) := dk_3 (dk_at dksL_law_75 3 rfl rfl)
theorem dL_law_1894 : decode cL_law 1894 = .ok (.ireturn, 1) := dk_172 (dk_at dksL_law_75 4 rfl rfl)
theorem dL_law_1895 : decode cL_law 1895 = .ok (.goto 611, 3) := dk_167 2 99 (dk_at dksL_law_75 5 rfl rfl)
theorem dL_law_1898 : decode cL_law 1898 = .ok (.aload_n 1, 1) := dk_43 (dk_at dksL_law_75 8 rfl rfl)
theorem dL_law_1899 : decode cL_law 1899 = .ok (.aload_n 0, 1) := dk_42 (dk_at dksL_law_75 9 rfl rfl)
theorem dL_law_1900 : decode cL_law 1900 = .ok (.iload 5, 2) := dk_21 5 (dk_at dksL_law_75 10 rfl rfl)
theorem dL_law_1902 : decode cL_law 1902 = .ok (.iconst 1, 1) := dk_4 (dk_at dksL_law_75 12 rfl rfl)
theorem dL_law_1903 : decode cL_law 1903 = .ok (.iadd, 1) := dk_96 (dk_at dksL_law_75 13 rfl rfl)
theorem dL_law_1904 : decode cL_law 1904 = .ok (.iaload, 1) := dk_46 (dk_at dksL_law_75 14 rfl rfl)
theorem dL_law_1905 : decode cL_law 1905 = .ok (.aload_n 3, 1) := dk_45 (dk_at dksL_law_75 15 rfl rfl)
theorem dL_law_1906 : decode cL_law 1906 = .ok (.invokestatic 227, 3) := dk_184 0 227 (dk_at dksL_law_75 16 rfl rfl)
theorem dL_law_1909 : decode cL_law 1909 = .ok (.istore 6, 2) := dk_54 6 (dk_at dksL_law_75 19 rfl rfl)
theorem dL_law_1911 : decode cL_law 1911 = .ok (.aload_n 2, 1) := dk_44 (dk_at dksL_law_75 21 rfl rfl)
theorem dL_law_1912 : decode cL_law 1912 = .ok (.aload_n 0, 1) := dk_42 (dk_at dksL_law_75 22 rfl rfl)
theorem dL_law_1913 : decode cL_law 1913 = .ok (.iload 5, 2) := dk_21 5 (dk_at dksL_law_76 0 rfl rfl)
theorem dL_law_1915 : decode cL_law 1915 = .ok (.iconst 1, 1) := dk_4 (dk_at dksL_law_76 2 rfl rfl)
theorem dL_law_1916 : decode cL_law 1916 = .ok (.iadd, 1) := dk_96 (dk_at dksL_law_76 3 rfl rfl)
theorem dL_law_1917 : decode cL_law 1917 = .ok (.iaload, 1) := dk_46 (dk_at dksL_law_76 4 rfl rfl)
theorem dL_law_1918 : decode cL_law 1918 = .ok (.invokevirtual 229, 3) := dk_182 0 229 (dk_at dksL_law_76 5 rfl rfl)
theorem dL_law_1921 : decode cL_law 1921 = .ok (.istore 7, 2) := dk_54 7 (dk_at dksL_law_76 8 rfl rfl)
theorem dL_law_1923 : decode cL_law 1923 = .ok (.aload_n 2, 1) := dk_44 (dk_at dksL_law_76 10 rfl rfl)
theorem dL_law_1924 : decode cL_law 1924 = .ok (.invokevirtual 146, 3) := dk_182 0 146 (dk_at dksL_law_76 11 rfl rfl)
theorem dL_law_1927 : decode cL_law 1927 = .ok (.iload 6, 2) := dk_21 6 (dk_at dksL_law_76 14 rfl rfl)
theorem dL_law_1929 : decode cL_law 1929 = .ok (.if_icmp .eq 5, 3) := dk_159 0 5 (dk_at dksL_law_76 16 rfl rfl)
theorem dL_law_1932 : decode cL_law 1932 = .ok (.iconst 0, 1) := dk_3 (dk_at dksL_law_76 19 rfl rfl)
theorem dL_law_1933 : decode cL_law 1933 = .ok (.ireturn, 1) := dk_172 (dk_at dksL_law_76 20 rfl rfl)
theorem dL_law_1934 : decode cL_law 1934 = .ok (.iload 6, 2) := dk_21 6 (dk_at dksL_law_76 21 rfl rfl)
theorem dL_law_1936 : decode cL_law 1936 = .ok (.ifCond .ne 15, 3) := dk_154 0 15 (dk_at dksL_law_77 0 rfl rfl)
theorem dL_law_1939 : decode cL_law 1939 = .ok (.aload_n 3, 1) := dk_45 (dk_at dksL_law_77 3 rfl rfl)
theorem dL_law_1940 : decode cL_law 1940 = .ok (.iconst 0, 1) := dk_3 (dk_at dksL_law_77 4 rfl rfl)
theorem dL_law_1941 : decode cL_law 1941 = .ok (.laload, 1) := dk_47 (dk_at dksL_law_77 5 rfl rfl)
theorem dL_law_1942 : decode cL_law 1942 = .ok (.iload 7, 2) := dk_21 7 (dk_at dksL_law_77 6 rfl rfl)
theorem dL_law_1944 : decode cL_law 1944 = .ok (.i2l, 1) := dk_133 (dk_at dksL_law_77 8 rfl rfl)
theorem dL_law_1945 : decode cL_law 1945 = .ok (.lcmp, 1) := dk_148 (dk_at dksL_law_77 9 rfl rfl)
theorem dL_law_1946 : decode cL_law 1946 = .ok (.ifCond .eq 5, 3) := dk_153 0 5 (dk_at dksL_law_77 10 rfl rfl)
theorem dL_law_1949 : decode cL_law 1949 = .ok (.iconst 0, 1) := dk_3 (dk_at dksL_law_77 13 rfl rfl)
theorem dL_law_1950 : decode cL_law 1950 = .ok (.ireturn, 1) := dk_172 (dk_at dksL_law_77 14 rfl rfl)
theorem dL_law_1951 : decode cL_law 1951 = .ok (.goto 555, 3) := dk_167 2 43 (dk_at dksL_law_77 15 rfl rfl)
theorem dL_law_1954 : decode cL_law 1954 = .ok (.aload_n 1, 1) := dk_43 (dk_at dksL_law_77 18 rfl rfl)
theorem dL_law_1955 : decode cL_law 1955 = .ok (.aload_n 0, 1) := dk_42 (dk_at dksL_law_77 19 rfl rfl)
theorem dL_law_1956 : decode cL_law 1956 = .ok (.iload 5, 2) := dk_21 5 (dk_at dksL_law_77 20 rfl rfl)
theorem dL_law_1958 : decode cL_law 1958 = .ok (.iconst 1, 1) := dk_4 (dk_at dksL_law_77 22 rfl rfl)
theorem dL_law_1959 : decode cL_law 1959 = .ok (.iadd, 1) := dk_96 (dk_at dksL_law_77 23 rfl rfl)
theorem dL_law_1960 : decode cL_law 1960 = .ok (.iaload, 1) := dk_46 (dk_at dksL_law_78 0 rfl rfl)
theorem dL_law_1961 : decode cL_law 1961 = .ok (.ifCond .eq 7, 3) := dk_153 0 7 (dk_at dksL_law_78 1 rfl rfl)
theorem dL_law_1964 : decode cL_law 1964 = .ok (.iconst 1, 1) := dk_4 (dk_at dksL_law_78 4 rfl rfl)
theorem dL_law_1965 : decode cL_law 1965 = .ok (.goto 4, 3) := dk_167 0 4 (dk_at dksL_law_78 5 rfl rfl)
theorem dL_law_1968 : decode cL_law 1968 = .ok (.iconst 0, 1) := dk_3 (dk_at dksL_law_78 8 rfl rfl)
theorem dL_law_1969 : decode cL_law 1969 = .ok (.aload_n 0, 1) := dk_42 (dk_at dksL_law_78 9 rfl rfl)
theorem dL_law_1970 : decode cL_law 1970 = .ok (.iload 5, 2) := dk_21 5 (dk_at dksL_law_78 10 rfl rfl)
theorem dL_law_1972 : decode cL_law 1972 = .ok (.iconst 2, 1) := dk_5 (dk_at dksL_law_78 12 rfl rfl)
theorem dL_law_1973 : decode cL_law 1973 = .ok (.iadd, 1) := dk_96 (dk_at dksL_law_78 13 rfl rfl)
theorem dL_law_1974 : decode cL_law 1974 = .ok (.iaload, 1) := dk_46 (dk_at dksL_law_78 14 rfl rfl)
theorem dL_law_1975 : decode cL_law 1975 = .ok (.ifCond .eq 7, 3) := dk_153 0 7 (dk_at dksL_law_78 15 rfl rfl)
theorem dL_law_1978 : decode cL_law 1978 = .ok (.iconst 1, 1) := dk_4 (dk_at dksL_law_78 18 rfl rfl)
theorem dL_law_1979 : decode cL_law 1979 = .ok (.goto 4, 3) := dk_167 0 4 (dk_at dksL_law_78 19 rfl rfl)
theorem dL_law_1982 : decode cL_law 1982 = .ok (.iconst 0, 1) := dk_3 (dk_at dksL_law_78 22 rfl rfl)
theorem dL_law_1983 : decode cL_law 1983 = .ok (.aload_n 3, 1) := dk_45 (dk_at dksL_law_78 23 rfl rfl)
theorem dL_law_1984 : decode cL_law 1984 = .ok (.invokestatic 230, 3) := dk_184 0 230 (dk_at dksL_law_79 0 rfl rfl)
theorem dL_law_1987 : decode cL_law 1987 = .ok (.istore 6, 2) := dk_54 6 (dk_at dksL_law_79 3 rfl rfl)
theorem dL_law_1989 : decode cL_law 1989 = .ok (.aload_n 2, 1) := dk_44 (dk_at dksL_law_79 5 rfl rfl)
theorem dL_law_1990 : decode cL_law 1990 = .ok (.aload_n 0, 1) := dk_42 (dk_at dksL_law_79 6 rfl rfl)
theorem dL_law_1991 : decode cL_law 1991 = .ok (.iload 5, 2) := dk_21 5 (dk_at dksL_law_79 7 rfl rfl)
theorem dL_law_1993 : decode cL_law 1993 = .ok (.iconst 1, 1) := dk_4 (dk_at dksL_law_79 9 rfl rfl)
theorem dL_law_1994 : decode cL_law 1994 = .ok (.iadd, 1) := dk_96 (dk_at dksL_law_79 10 rfl rfl)
theorem dL_law_1995 : decode cL_law 1995 = .ok (.iaload, 1) := dk_46 (dk_at dksL_law_79 11 rfl rfl)
theorem dL_law_1996 : decode cL_law 1996 = .ok (.ifCond .eq 7, 3) := dk_153 0 7 (dk_at dksL_law_79 12 rfl rfl)
theorem dL_law_1999 : decode cL_law 1999 = .ok (.iconst 1, 1) := dk_4 (dk_at dksL_law_79 15 rfl rfl)
theorem dL_law_2000 : decode cL_law 2000 = .ok (.goto 4, 3) := dk_167 0 4 (dk_at dksL_law_79 16 rfl rfl)
theorem dL_law_2003 : decode cL_law 2003 = .ok (.iconst 0, 1) := dk_3 (dk_at dksL_law_79 19 rfl rfl)
theorem dL_law_2004 : decode cL_law 2004 = .ok (.aload_n 0, 1) := dk_42 (dk_at dksL_law_79 20 rfl rfl)
theorem dL_law_2005 : decode cL_law 2005 = .ok (.iload 5, 2) := dk_21 5 (dk_at dksL_law_79 21 rfl rfl)
theorem dL_law_2007 : decode cL_law 2007 = .ok (.iconst 2, 1) := dk_5 (dk_at dksL_law_79 23 rfl rfl)
theorem dL_law_2008 : decode cL_law 2008 = .ok (.iadd, 1) := dk_96 (dk_at dksL_law_80 0 rfl rfl)
theorem dL_law_2009 : decode cL_law 2009 = .ok (.iaload, 1) := dk_46 (dk_at dksL_law_80 1 rfl rfl)
theorem dL_law_2010 : decode cL_law 2010 = .ok (.ifCond .eq 7, 3) := dk_153 0 7 (dk_at dksL_law_80 2 rfl rfl)
theorem dL_law_2013 : decode cL_law 2013 = .ok (.iconst 1, 1) := dk_4 (dk_at dksL_law_80 5 rfl rfl)
theorem dL_law_2014 : decode cL_law 2014 = .ok (.goto 4, 3) := dk_167 0 4 (dk_at dksL_law_80 6 rfl rfl)
theorem dL_law_2017 : decode cL_law 2017 = .ok (.iconst 0, 1) := dk_3 (dk_at dksL_law_80 9 rfl rfl)
theorem dL_law_2018 : decode cL_law 2018 = .ok (.invokevirtual 233, 3) := dk_182 0 233 (dk_at dksL_law_80 10 rfl rfl)
theorem dL_law_2021 : decode cL_law 2021 = .ok (.istore 7, 2) := dk_54 7 (dk_at dksL_law_80 13 rfl rfl)
theorem dL_law_2023 : decode cL_law 2023 = .ok (.aload_n 2, 1) := dk_44 (dk_at dksL_law_80 15 rfl rfl)
theorem dL_law_2024 : decode cL_law 2024 = .ok (.invokevirtual 146, 3) := dk_182 0 146 (dk_at dksL_law_80 16 rfl rfl)
theorem dL_law_2027 : decode cL_law 2027 = .ok (.iload 6, 2) := dk_21 6 (dk_at dksL_law_80 19 rfl rfl)
theorem dL_law_2029 : decode cL_law 2029 = .ok (.if_icmp .eq 5, 3) := dk_159 0 5 (dk_at dksL_law_80 21 rfl rfl)
theorem dL_law_2032 : decode cL_law 2032 = .ok (.iconst 0, 1) := dk_3 (dk_at dksL_law_81 0 rfl rfl)
theorem dL_law_2033 : decode cL_law 2033 = .ok (.ireturn, 1) := dk_172 (dk_at dksL_law_81 1 rfl rfl)
theorem dL_law_2034 : decode cL_law 2034 = .ok (.iload 6, 2) := dk_21 6 (dk_at dksL_law_81 2 rfl rfl)
theorem dL_law_2036 : decode cL_law 2036 = .ok (.ifCond .ne 15, 3) := dk_154 0 15 (dk_at dksL_law_81 4 rfl rfl)
theorem dL_law_2039 : decode cL_law 2039 = .ok (.aload_n 3, 1) := dk_45 (dk_at dksL_law_81 7 rfl rfl)
theorem dL_law_2040 : decode cL_law 2040 = .ok (.iconst 0, 1) := dk_3 (dk_at dksL_law_81 8 rfl rfl)
theorem dL_law_2041 : decode cL_law 2041 = .ok (.laload, 1) := dk_47 (dk_at dksL_law_81 9 rfl rfl)
theorem dL_law_2042 : decode cL_law 2042 = .ok (.iload 7, 2) := dk_21 7 (dk_at dksL_law_81 10 rfl rfl)
theorem dL_law_2044 : decode cL_law 2044 = .ok (.i2l, 1) := dk_133 (dk_at dksL_law_81 12 rfl rfl)
theorem dL_law_2045 : decode cL_law 2045 = .ok (.lcmp, 1) := dk_148 (dk_at dksL_law_81 13 rfl rfl)
theorem dL_law_2046 : decode cL_law 2046 = .ok (.ifCond .eq 5, 3) := dk_153 0 5 (dk_at dksL_law_81 14 rfl rfl)
theorem dL_law_2049 : decode cL_law 2049 = .ok (.iconst 0, 1) := dk_3 (dk_at dksL_law_81 17 rfl rfl)
theorem dL_law_2050 : decode cL_law 2050 = .ok (.ireturn, 1) := dk_172 (dk_at dksL_law_81 18 rfl rfl)
theorem dL_law_2051 : decode cL_law 2051 = .ok (.goto 455, 3) := dk_167 1 199 (dk_at dksL_law_81 19 rfl rfl)
theorem dL_law_2054 : decode cL_law 2054 = .ok (.aload_n 1, 1) := dk_43 (dk_at dksL_law_81 22 rfl rfl)
theorem dL_law_2055 : decode cL_law 2055 = .ok (.aload_n 0, 1) := dk_42 (dk_at dksL_law_81 23 rfl rfl)
theorem dL_law_2056 : decode cL_law 2056 = .ok (.iload 5, 2) := dk_21 5 (dk_at dksL_law_82 0 rfl rfl)
theorem dL_law_2058 : decode cL_law 2058 = .ok (.iconst 1, 1) := dk_4 (dk_at dksL_law_82 2 rfl rfl)
theorem dL_law_2059 : decode cL_law 2059 = .ok (.iadd, 1) := dk_96 (dk_at dksL_law_82 3 rfl rfl)
theorem dL_law_2060 : decode cL_law 2060 = .ok (.iaload, 1) := dk_46 (dk_at dksL_law_82 4 rfl rfl)
theorem dL_law_2061 : decode cL_law 2061 = .ok (.aload_n 3, 1) := dk_45 (dk_at dksL_law_82 5 rfl rfl)
theorem dL_law_2062 : decode cL_law 2062 = .ok (.invokestatic 234, 3) := dk_184 0 234 (dk_at dksL_law_82 6 rfl rfl)
theorem dL_law_2065 : decode cL_law 2065 = .ok (.istore 6, 2) := dk_54 6 (dk_at dksL_law_82 9 rfl rfl)
theorem dL_law_2067 : decode cL_law 2067 = .ok (.aload_n 2, 1) := dk_44 (dk_at dksL_law_82 11 rfl rfl)
theorem dL_law_2068 : decode cL_law 2068 = .ok (.aload_n 0, 1) := dk_42 (dk_at dksL_law_82 12 rfl rfl)
theorem dL_law_2069 : decode cL_law 2069 = .ok (.iload 5, 2) := dk_21 5 (dk_at dksL_law_82 13 rfl rfl)
theorem dL_law_2071 : decode cL_law 2071 = .ok (.iconst 1, 1) := dk_4 (dk_at dksL_law_82 15 rfl rfl)
theorem dL_law_2072 : decode cL_law 2072 = .ok (.iadd, 1) := dk_96 (dk_at dksL_law_82 16 rfl rfl)
theorem dL_law_2073 : decode cL_law 2073 = .ok (.iaload, 1) := dk_46 (dk_at dksL_law_82 17 rfl rfl)
theorem dL_law_2074 : decode cL_law 2074 = .ok (.invokevirtual 236, 3) := dk_182 0 236 (dk_at dksL_law_82 18 rfl rfl)
theorem dL_law_2077 : decode cL_law 2077 = .ok (.istore 7, 2) := dk_54 7 (dk_at dksL_law_82 21 rfl rfl)
theorem dL_law_2079 : decode cL_law 2079 = .ok (.aload_n 2, 1) := dk_44 (dk_at dksL_law_82 23 rfl rfl)
theorem dL_law_2080 : decode cL_law 2080 = .ok (.invokevirtual 146, 3) := dk_182 0 146 (dk_at dksL_law_83 0 rfl rfl)
theorem dL_law_2083 : decode cL_law 2083 = .ok (.iload 6, 2) := dk_21 6 (dk_at dksL_law_83 3 rfl rfl)
theorem dL_law_2085 : decode cL_law 2085 = .ok (.if_icmp .eq 5, 3) := dk_159 0 5 (dk_at dksL_law_83 5 rfl rfl)
theorem dL_law_2088 : decode cL_law 2088 = .ok (.iconst 0, 1) := dk_3 (dk_at dksL_law_83 8 rfl rfl)
theorem dL_law_2089 : decode cL_law 2089 = .ok (.ireturn, 1) := dk_172 (dk_at dksL_law_83 9 rfl rfl)
theorem dL_law_2090 : decode cL_law 2090 = .ok (.iload 6, 2) := dk_21 6 (dk_at dksL_law_83 10 rfl rfl)
theorem dL_law_2092 : decode cL_law 2092 = .ok (.ifCond .ne 15, 3) := dk_154 0 15 (dk_at dksL_law_83 12 rfl rfl)
theorem dL_law_2095 : decode cL_law 2095 = .ok (.aload_n 3, 1) := dk_45 (dk_at dksL_law_83 15 rfl rfl)
theorem dL_law_2096 : decode cL_law 2096 = .ok (.iconst 0, 1) := dk_3 (dk_at dksL_law_83 16 rfl rfl)
theorem dL_law_2097 : decode cL_law 2097 = .ok (.laload, 1) := dk_47 (dk_at dksL_law_83 17 rfl rfl)
theorem dL_law_2098 : decode cL_law 2098 = .ok (.iload 7, 2) := dk_21 7 (dk_at dksL_law_83 18 rfl rfl)
theorem dL_law_2100 : decode cL_law 2100 = .ok (.i2l, 1) := dk_133 (dk_at dksL_law_83 20 rfl rfl)
theorem dL_law_2101 : decode cL_law 2101 = .ok (.lcmp, 1) := dk_148 (dk_at dksL_law_83 21 rfl rfl)
theorem dL_law_2102 : decode cL_law 2102 = .ok (.ifCond .eq 5, 3) := dk_153 0 5 (dk_at dksL_law_84 0 rfl rfl)
theorem dL_law_2105 : decode cL_law 2105 = .ok (.iconst 0, 1) := dk_3 (dk_at dksL_law_84 3 rfl rfl)
theorem dL_law_2106 : decode cL_law 2106 = .ok (.ireturn, 1) := dk_172 (dk_at dksL_law_84 4 rfl rfl)
theorem dL_law_2107 : decode cL_law 2107 = .ok (.goto 399, 3) := dk_167 1 143 (dk_at dksL_law_84 5 rfl rfl)
theorem dL_law_2110 : decode cL_law 2110 = .ok (.aload_n 1, 1) := dk_43 (dk_at dksL_law_84 8 rfl rfl)
theorem dL_law_2111 : decode cL_law 2111 = .ok (.invokevirtual 237, 3) := dk_182 0 237 (dk_at dksL_law_84 9 rfl rfl)
theorem dL_law_2114 : decode cL_law 2114 = .ok (.dstore 6, 2) := dk_57 6 (dk_at dksL_law_84 12 rfl rfl)
theorem dL_law_2116 : decode cL_law 2116 = .ok (.aload_n 2, 1) := dk_44 (dk_at dksL_law_84 14 rfl rfl)
theorem dL_law_2117 : decode cL_law 2117 = .ok (.invokevirtual 241, 3) := dk_182 0 241 (dk_at dksL_law_84 15 rfl rfl)
theorem dL_law_2120 : decode cL_law 2120 = .ok (.dstore 8, 2) := dk_57 8 (dk_at dksL_law_84 18 rfl rfl)
theorem dL_law_2122 : decode cL_law 2122 = .ok (.dload 6, 2) := dk_24 6 (dk_at dksL_law_84 20 rfl rfl)
theorem dL_law_2124 : decode cL_law 2124 = .ok (.dload 8, 2) := dk_24 8 (dk_at dksL_law_84 22 rfl rfl)
theorem dL_law_2126 : decode cL_law 2126 = .ok (.dcmp .l, 1) := dk_151 (dk_at dksL_law_85 0 rfl rfl)
theorem dL_law_2127 : decode cL_law 2127 = .ok (.ifCond .eq 21, 3) := dk_153 0 21 (dk_at dksL_law_85 1 rfl rfl)
theorem dL_law_2130 : decode cL_law 2130 = .ok (.dload 6, 2) := dk_24 6 (dk_at dksL_law_85 4 rfl rfl)
theorem dL_law_2132 : decode cL_law 2132 = .ok (.dload 6, 2) := dk_24 6 (dk_at dksL_law_85 6 rfl rfl)
theorem dL_law_2134 : decode cL_law 2134 = .ok (.dcmp .l, 1) := dk_151 (dk_at dksL_law_85 8 rfl rfl)
theorem dL_law_2135 : decode cL_law 2135 = .ok (.ifCond .eq 11, 3) := dk_153 0 11 (dk_at dksL_law_85 9 rfl rfl)
theorem dL_law_2138 : decode cL_law 2138 = .ok (.dload 8, 2) := dk_24 8 (dk_at dksL_law_85 12 rfl rfl)
theorem dL_law_2140 : decode cL_law 2140 = .ok (.dload 8, 2) := dk_24 8 (dk_at dksL_law_85 14 rfl rfl)
theorem dL_law_2142 : decode cL_law 2142 = .ok (.dcmp .l, 1) := dk_151 (dk_at dksL_law_85 16 rfl rfl)
theorem dL_law_2143 : decode cL_law 2143 = .ok (.ifCond .ne 5, 3) := dk_154 0 5 (dk_at dksL_law_85 17 rfl rfl)
theorem dL_law_2146 : decode cL_law 2146 = .ok (.iconst 0, 1) := dk_3 (dk_at dksL_law_85 20 rfl rfl)
theorem dL_law_2147 : decode cL_law 2147 = .ok (.ireturn, 1) := dk_172 (dk_at dksL_law_85 21 rfl rfl)
theorem dL_law_2148 : decode cL_law 2148 = .ok (.goto 358, 3) := dk_167 1 102 (dk_at dksL_law_86 0 rfl rfl)
theorem dL_law_2151 : decode cL_law 2151 = .ok (.aload_n 1, 1) := dk_43 (dk_at dksL_law_86 3 rfl rfl)
theorem dL_law_2152 : decode cL_law 2152 = .ok (.aload 4, 2) := dk_25 4 (dk_at dksL_law_86 4 rfl rfl)
theorem dL_law_2154 : decode cL_law 2154 = .ok (.invokestatic 242, 3) := dk_184 0 242 (dk_at dksL_law_86 6 rfl rfl)
theorem dL_law_2157 : decode cL_law 2157 = .ok (.istore 6, 2) := dk_54 6 (dk_at dksL_law_86 9 rfl rfl)
theorem dL_law_2159 : decode cL_law 2159 = .ok (.aload_n 2, 1) := dk_44 (dk_at dksL_law_86 11 rfl rfl)
theorem dL_law_2160 : decode cL_law 2160 = .ok (.invokevirtual 245, 3) := dk_182 0 245 (dk_at dksL_law_86 12 rfl rfl)
theorem dL_law_2163 : decode cL_law 2163 = .ok (.fstore 7, 2) := dk_56 7 (dk_at dksL_law_86 15 rfl rfl)
theorem dL_law_2165 : decode cL_law 2165 = .ok (.aload_n 2, 1) := dk_44 (dk_at dksL_law_86 17 rfl rfl)
theorem dL_law_2166 : decode cL_law 2166 = .ok (.invokevirtual 146, 3) := dk_182 0 146 (dk_at dksL_law_86 18 rfl rfl)
theorem dL_law_2169 : decode cL_law 2169 = .ok (.iload 6, 2) := dk_21 6 (dk_at dksL_law_86 21 rfl rfl)
theorem dL_law_2171 : decode cL_law 2171 = .ok (.if_icmp .eq 5, 3) := dk_159 0 5 (dk_at dksL_law_87 0 rfl rfl)
theorem dL_law_2174 : decode cL_law 2174 = .ok (.iconst 0, 1) := dk_3 (dk_at dksL_law_87 3 rfl rfl)
theorem dL_law_2175 : decode cL_law 2175 = .ok (.ireturn, 1) := dk_172 (dk_at dksL_law_87 4 rfl rfl)
theorem dL_law_2176 : decode cL_law 2176 = .ok (.iload 6, 2) := dk_21 6 (dk_at dksL_law_87 5 rfl rfl)
theorem dL_law_2178 : decode cL_law 2178 = .ok (.ifCond .ne 36, 3) := dk_154 0 36 (dk_at dksL_law_87 7 rfl rfl)
theorem dL_law_2181 : decode cL_law 2181 = .ok (.aload 4, 2) := dk_25 4 (dk_at dksL_law_87 10 rfl rfl)
theorem dL_law_2183 : decode cL_law 2183 = .ok (.iconst 0, 1) := dk_3 (dk_at dksL_law_87 12 rfl rfl)
theorem dL_law_2184 : decode cL_law 2184 = .ok (.daload, 1) := dk_49 (dk_at dksL_law_87 13 rfl rfl)
theorem dL_law_2185 : decode cL_law 2185 = .ok (.fload 7, 2) := dk_23 7 (dk_at dksL_law_87 14 rfl rfl)
theorem dL_law_2187 : decode cL_law 2187 = .ok (.f2d, 1) := dk_141 (dk_at dksL_law_87 16 rfl rfl)
theorem dL_law_2188 : decode cL_law 2188 = .ok (.dcmp .l, 1) := dk_151 (dk_at dksL_law_87 17 rfl rfl)
theorem dL_law_2189 : decode cL_law 2189 = .ok (.ifCond .eq 25, 3) := dk_153 0 25 (dk_at dksL_law_87 18 rfl rfl)
theorem dL_law_2192 : decode cL_law 2192 = .ok (.aload 4, 2) := dk_25 4 (dk_at dksL_law_87 21 rfl rfl)
theorem dL_law_2194 : decode cL_law 2194 = .ok (.iconst 0, 1) := dk_3 (dk_at dksL_law_87 23 rfl rfl)
theorem dL_law_2195 : decode cL_law 2195 = .ok (.daload, 1) := dk_49 (dk_at dksL_law_88 0 rfl rfl)
theorem dL_law_2196 : decode cL_law 2196 = .ok (.aload 4, 2) := dk_25 4 (dk_at dksL_law_88 1 rfl rfl)
theorem dL_law_2198 : decode cL_law 2198 = .ok (.iconst 0, 1) := dk_3 (dk_at dksL_law_88 3 rfl rfl)
theorem dL_law_2199 : decode cL_law 2199 = .ok (.daload, 1) := dk_49 (dk_at dksL_law_88 4 rfl rfl)
theorem dL_law_2200 : decode cL_law 2200 = .ok (.dcmp .l, 1) := dk_151 (dk_at dksL_law_88 5 rfl rfl)
theorem dL_law_2201 : decode cL_law 2201 = .ok (.ifCond .eq 11, 3) := dk_153 0 11 (dk_at dksL_law_88 6 rfl rfl)
theorem dL_law_2204 : decode cL_law 2204 = .ok (.fload 7, 2) := dk_23 7 (dk_at dksL_law_88 9 rfl rfl)
theorem dL_law_2206 : decode cL_law 2206 = .ok (.fload 7, 2) := dk_23 7 (dk_at dksL_law_88 11 rfl rfl)
theorem dL_law_2208 : decode cL_law 2208 = .ok (.fcmp .l, 1) := dk_149 (dk_at dksL_law_88 13 rfl rfl)
theorem dL_law_2209 : decode cL_law 2209 = .ok (.ifCond .ne 5, 3) := dk_154 0 5 (dk_at dksL_law_88 14 rfl rfl)
theorem dL_law_2212 : decode cL_law 2212 = .ok (.iconst 0, 1) := dk_3 (dk_at dksL_law_88 17 rfl rfl)
theorem dL_law_2213 : decode cL_law 2213 = .ok (.ireturn, 1) := dk_172 (dk_at dksL_law_88 18 rfl rfl)
theorem dL_law_2214 : decode cL_law 2214 = .ok (.goto 292, 3) := dk_167 1 36 (dk_at dksL_law_88 19 rfl rfl)
theorem dL_law_2217 : decode cL_law 2217 = .ok (.aload_n 1, 1) := dk_43 (dk_at dksL_law_88 22 rfl rfl)
theorem dL_law_2218 : decode cL_law 2218 = .ok (.aload_n 0, 1) := dk_42 (dk_at dksL_law_88 23 rfl rfl)
theorem dL_law_2219 : decode cL_law 2219 = .ok (.iload 5, 2) := dk_21 5 (dk_at dksL_law_89 0 rfl rfl)
theorem dL_law_2221 : decode cL_law 2221 = .ok (.iconst 1, 1) := dk_4 (dk_at dksL_law_89 2 rfl rfl)
theorem dL_law_2222 : decode cL_law 2222 = .ok (.iadd, 1) := dk_96 (dk_at dksL_law_89 3 rfl rfl)
theorem dL_law_2223 : decode cL_law 2223 = .ok (.iaload, 1) := dk_46 (dk_at dksL_law_89 4 rfl rfl)
theorem dL_law_2224 : decode cL_law 2224 = .ok (.aload_n 3, 1) := dk_45 (dk_at dksL_law_89 5 rfl rfl)
theorem dL_law_2225 : decode cL_law 2225 = .ok (.invokestatic 246, 3) := dk_184 0 246 (dk_at dksL_law_89 6 rfl rfl)
theorem dL_law_2228 : decode cL_law 2228 = .ok (.istore 6, 2) := dk_54 6 (dk_at dksL_law_89 9 rfl rfl)
theorem dL_law_2230 : decode cL_law 2230 = .ok (.aload_n 2, 1) := dk_44 (dk_at dksL_law_89 11 rfl rfl)
theorem dL_law_2231 : decode cL_law 2231 = .ok (.aload_n 0, 1) := dk_42 (dk_at dksL_law_89 12 rfl rfl)
theorem dL_law_2232 : decode cL_law 2232 = .ok (.iload 5, 2) := dk_21 5 (dk_at dksL_law_89 13 rfl rfl)
theorem dL_law_2234 : decode cL_law 2234 = .ok (.iconst 1, 1) := dk_4 (dk_at dksL_law_89 15 rfl rfl)
theorem dL_law_2235 : decode cL_law 2235 = .ok (.iadd, 1) := dk_96 (dk_at dksL_law_89 16 rfl rfl)
theorem dL_law_2236 : decode cL_law 2236 = .ok (.iaload, 1) := dk_46 (dk_at dksL_law_89 17 rfl rfl)
theorem dL_law_2237 : decode cL_law 2237 = .ok (.invokevirtual 248, 3) := dk_182 0 248 (dk_at dksL_law_89 18 rfl rfl)
theorem dL_law_2240 : decode cL_law 2240 = .ok (.istore 7, 2) := dk_54 7 (dk_at dksL_law_89 21 rfl rfl)
theorem dL_law_2242 : decode cL_law 2242 = .ok (.aload_n 2, 1) := dk_44 (dk_at dksL_law_89 23 rfl rfl)
theorem dL_law_2243 : decode cL_law 2243 = .ok (.invokevirtual 146, 3) := dk_182 0 146 (dk_at dksL_law_90 0 rfl rfl)
theorem dL_law_2246 : decode cL_law 2246 = .ok (.iload 6, 2) := dk_21 6 (dk_at dksL_law_90 3 rfl rfl)
theorem dL_law_2248 : decode cL_law 2248 = .ok (.if_icmp .eq 5, 3) := dk_159 0 5 (dk_at dksL_law_90 5 rfl rfl)
theorem dL_law_2251 : decode cL_law 2251 = .ok (.iconst 0, 1) := dk_3 (dk_at dksL_law_90 8 rfl rfl)
theorem dL_law_2252 : decode cL_law 2252 = .ok (.ireturn, 1) := dk_172 (dk_at dksL_law_90 9 rfl rfl)
theorem dL_law_2253 : decode cL_law 2253 = .ok (.iload 6, 2) := dk_21 6 (dk_at dksL_law_90 10 rfl rfl)
theorem dL_law_2255 : decode cL_law 2255 = .ok (.ifCond .ne 15, 3) := dk_154 0 15 (dk_at dksL_law_90 12 rfl rfl)
theorem dL_law_2258 : decode cL_law 2258 = .ok (.aload_n 3, 1) := dk_45 (dk_at dksL_law_90 15 rfl rfl)
theorem dL_law_2259 : decode cL_law 2259 = .ok (.iconst 0, 1) := dk_3 (dk_at dksL_law_90 16 rfl rfl)
theorem dL_law_2260 : decode cL_law 2260 = .ok (.laload, 1) := dk_47 (dk_at dksL_law_90 17 rfl rfl)
theorem dL_law_2261 : decode cL_law 2261 = .ok (.iload 7, 2) := dk_21 7 (dk_at dksL_law_90 18 rfl rfl)
theorem dL_law_2263 : decode cL_law 2263 = .ok (.i2l, 1) := dk_133 (dk_at dksL_law_90 20 rfl rfl)
theorem dL_law_2264 : decode cL_law 2264 = .ok (.lcmp, 1) := dk_148 (dk_at dksL_law_90 21 rfl rfl)
theorem dL_law_2265 : decode cL_law 2265 = .ok (.ifCond .eq 5, 3) := dk_153 0 5 (dk_at dksL_law_91 0 rfl rfl)
theorem dL_law_2268 : decode cL_law 2268 = .ok (.iconst 0, 1) := dk_3 (dk_at dksL_law_91 3 rfl rfl)
theorem dL_law_2269 : decode cL_law 2269 = .ok (.ireturn, 1) := dk_172 (dk_at dksL_law_91 4 rfl rfl)
theorem dL_law_2270 : decode cL_law 2270 = .ok (.goto 236, 3) := dk_167 0 236 (dk_at dksL_law_91 5 rfl rfl)
theorem dL_law_2273 : decode cL_law 2273 = .ok (.aload_n 1, 1) := dk_43 (dk_at dksL_law_91 8 rfl rfl)
theorem dL_law_2274 : decode cL_law 2274 = .ok (.aload_n 3, 1) := dk_45 (dk_at dksL_law_91 9 rfl rfl)
theorem dL_law_2275 : decode cL_law 2275 = .ok (.invokestatic 249, 3) := dk_184 0 249 (dk_at dksL_law_91 10 rfl rfl)
theorem dL_law_2278 : decode cL_law 2278 = .ok (.istore 6, 2) := dk_54 6 (dk_at dksL_law_91 13 rfl rfl)
theorem dL_law_2280 : decode cL_law 2280 = .ok (.aload_n 2, 1) := dk_44 (dk_at dksL_law_91 15 rfl rfl)
theorem dL_law_2281 : decode cL_law 2281 = .ok (.invokevirtual 252, 3) := dk_182 0 252 (dk_at dksL_law_91 16 rfl rfl)
theorem dL_law_2284 : decode cL_law 2284 = .ok (.istore 7, 2) := dk_54 7 (dk_at dksL_law_91 19 rfl rfl)
theorem dL_law_2286 : decode cL_law 2286 = .ok (.aload_n 2, 1) := dk_44 (dk_at dksL_law_91 21 rfl rfl)
theorem dL_law_2287 : decode cL_law 2287 = .ok (.invokevirtual 146, 3) := dk_182 0 146 (dk_at dksL_law_92 0 rfl rfl)
theorem dL_law_2290 : decode cL_law 2290 = .ok (.iload 6, 2) := dk_21 6 (dk_at dksL_law_92 3 rfl rfl)
theorem dL_law_2292 : decode cL_law 2292 = .ok (.if_icmp .eq 5, 3) := dk_159 0 5 (dk_at dksL_law_92 5 rfl rfl)
theorem dL_law_2295 : decode cL_law 2295 = .ok (.iconst 0, 1) := dk_3 (dk_at dksL_law_92 8 rfl rfl)
theorem dL_law_2296 : decode cL_law 2296 = .ok (.ireturn, 1) := dk_172 (dk_at dksL_law_92 9 rfl rfl)
theorem dL_law_2297 : decode cL_law 2297 = .ok (.iload 6, 2) := dk_21 6 (dk_at dksL_law_92 10 rfl rfl)
theorem dL_law_2299 : decode cL_law 2299 = .ok (.ifCond .ne 15, 3) := dk_154 0 15 (dk_at dksL_law_92 12 rfl rfl)
theorem dL_law_2302 : decode cL_law 2302 = .ok (.aload_n 3, 1) := dk_45 (dk_at dksL_law_92 15 rfl rfl)
theorem dL_law_2303 : decode cL_law 2303 = .ok (.iconst 0, 1) := dk_3 (dk_at dksL_law_92 16 rfl rfl)
theorem dL_law_2304 : decode cL_law 2304 = .ok (.laload, 1) := dk_47 (dk_at dksL_law_92 17 rfl rfl)
theorem dL_law_2305 : decode cL_law 2305 = .ok (.iload 7, 2) := dk_21 7 (dk_at dksL_law_92 18 rfl rfl)
theorem dL_law_2307 : decode cL_law 2307 = .ok (.i2l, 1) := dk_133 (dk_at dksL_law_92 20 rfl rfl)
theorem dL_law_2308 : decode cL_law 2308 = .ok (.lcmp, 1) := dk_148 (dk_at dksL_law_92 21 rfl rfl)
theorem dL_law_2309 : decode cL_law 2309 = .ok (.ifCond .eq 5, 3) := dk_153 0 5 (dk_at dksL_law_93 0 rfl rfl)
theorem dL_law_2312 : decode cL_law 2312 = .ok (.iconst 0, 1) := dk_3 (dk_at dksL_law_93 3 rfl rfl)
theorem dL_law_2313 : decode cL_law 2313 = .ok (.ireturn, 1) := dk_172 (dk_at dksL_law_93 4 rfl rfl)
theorem dL_law_2314 : decode cL_law 2314 = .ok (.goto 192, 3) := dk_167 0 192 (dk_at dksL_law_93 5 rfl rfl)
theorem dL_law_2317 : decode cL_law 2317 = .ok (.aload_n 1, 1) := dk_43 (dk_at dksL_law_93 8 rfl rfl)
theorem dL_law_2318 : decode cL_law 2318 = .ok (.aload_n 3, 1) := dk_45 (dk_at dksL_law_93 9 rfl rfl)
theorem dL_law_2319 : decode cL_law 2319 = .ok (.invokestatic 253, 3) := dk_184 0 253 (dk_at dksL_law_93 10 rfl rfl)
theorem dL_law_2322 : decode cL_law 2322 = .ok (.istore 6, 2) := dk_54 6 (dk_at dksL_law_93 13 rfl rfl)
theorem dL_law_2324 : decode cL_law 2324 = .ok (.aload_n 2, 1) := dk_44 (dk_at dksL_law_93 15 rfl rfl)
theorem dL_law_2325 : decode cL_law 2325 = .ok (.invokevirtual 255, 3) := dk_182 0 255 (dk_at dksL_law_93 16 rfl rfl)
theorem dL_law_2328 : decode cL_law 2328 = .ok (.istore 7, 2) := dk_54 7 (dk_at dksL_law_93 19 rfl rfl)
theorem dL_law_2330 : decode cL_law 2330 = .ok (.aload_n 2, 1) := dk_44 (dk_at dksL_law_93 21 rfl rfl)
theorem dL_law_2331 : decode cL_law 2331 = .ok (.invokevirtual 146, 3) := dk_182 0 146 (dk_at dksL_law_94 0 rfl rfl)
theorem dL_law_2334 : decode cL_law 2334 = .ok (.iload 6, 2) := dk_21 6 (dk_at dksL_law_94 3 rfl rfl)
theorem dL_law_2336 : decode cL_law 2336 = .ok (.if_icmp .eq 5, 3) := dk_159 0 5 (dk_at dksL_law_94 5 rfl rfl)
theorem dL_law_2339 : decode cL_law 2339 = .ok (.iconst 0, 1) := dk_3 (dk_at dksL_law_94 8 rfl rfl)
theorem dL_law_2340 : decode cL_law 2340 = .ok (.ireturn, 1) := dk_172 (dk_at dksL_law_94 9 rfl rfl)
theorem dL_law_2341 : decode cL_law 2341 = .ok (.iload 6, 2) := dk_21 6 (dk_at dksL_law_94 10 rfl rfl)
theorem dL_law_2343 : decode cL_law 2343 = .ok (.ifCond .ne 15, 3) := dk_154 0 15 (dk_at dksL_law_94 12 rfl rfl)
theorem dL_law_2346 : decode cL_law 2346 = .ok (.aload_n 3, 1) := dk_45 (dk_at dksL_law_94 15 rfl rfl)
theorem dL_law_2347 : decode cL_law 2347 = .ok (.iconst 0, 1) := dk_3 (dk_at dksL_law_94 16 rfl rfl)
theorem dL_law_2348 : decode cL_law 2348 = .ok (.laload, 1) := dk_47 (dk_at dksL_law_94 17 rfl rfl)
theorem dL_law_2349 : decode cL_law 2349 = .ok (.iload 7, 2) := dk_21 7 (dk_at dksL_law_94 18 rfl rfl)
theorem dL_law_2351 : decode cL_law 2351 = .ok (.i2l, 1) := dk_133 (dk_at dksL_law_94 20 rfl rfl)
theorem dL_law_2352 : decode cL_law 2352 = .ok (.lcmp, 1) := dk_148 (dk_at dksL_law_94 21 rfl rfl)
theorem dL_law_2353 : decode cL_law 2353 = .ok (.ifCond .eq 5, 3) := dk_153 0 5 (dk_at dksL_law_95 0 rfl rfl)
theorem dL_law_2356 : decode cL_law 2356 = .ok (.iconst 0, 1) := dk_3 (dk_at dksL_law_95 3 rfl rfl)
theorem dL_law_2357 : decode cL_law 2357 = .ok (.ireturn, 1) := dk_172 (dk_at dksL_law_95 4 rfl rfl)
theorem dL_law_2358 : decode cL_law 2358 = .ok (.goto 148, 3) := dk_167 0 148 (dk_at dksL_law_95 5 rfl rfl)
theorem dL_law_2361 : decode cL_law 2361 = .ok (.aload_n 1, 1) := dk_43 (dk_at dksL_law_95 8 rfl rfl)
theorem dL_law_2362 : decode cL_law 2362 = .ok (.aload_n 3, 1) := dk_45 (dk_at dksL_law_95 9 rfl rfl)
theorem dL_law_2363 : decode cL_law 2363 = .ok (.invokestatic 256, 3) := dk_184 1 0 (dk_at dksL_law_95 10 rfl rfl)
theorem dL_law_2366 : decode cL_law 2366 = .ok (.istore 6, 2) := dk_54 6 (dk_at dksL_law_95 13 rfl rfl)
theorem dL_law_2368 : decode cL_law 2368 = .ok (.aload_n 2, 1) := dk_44 (dk_at dksL_law_95 15 rfl rfl)
theorem dL_law_2369 : decode cL_law 2369 = .ok (.invokevirtual 258, 3) := dk_182 1 2 (dk_at dksL_law_95 16 rfl rfl)
theorem dL_law_2372 : decode cL_law 2372 = .ok (.istore 7, 2) := dk_54 7 (dk_at dksL_law_95 19 rfl rfl)
theorem dL_law_2374 : decode cL_law 2374 = .ok (.aload_n 2, 1) := dk_44 (dk_at dksL_law_95 21 rfl rfl)
theorem dL_law_2375 : decode cL_law 2375 = .ok (.invokevirtual 146, 3) := dk_182 0 146 (dk_at dksL_law_96 0 rfl rfl)
theorem dL_law_2378 : decode cL_law 2378 = .ok (.iload 6, 2) := dk_21 6 (dk_at dksL_law_96 3 rfl rfl)
theorem dL_law_2380 : decode cL_law 2380 = .ok (.if_icmp .eq 5, 3) := dk_159 0 5 (dk_at dksL_law_96 5 rfl rfl)
theorem dL_law_2383 : decode cL_law 2383 = .ok (.iconst 0, 1) := dk_3 (dk_at dksL_law_96 8 rfl rfl)
theorem dL_law_2384 : decode cL_law 2384 = .ok (.ireturn, 1) := dk_172 (dk_at dksL_law_96 9 rfl rfl)
theorem dL_law_2385 : decode cL_law 2385 = .ok (.iload 6, 2) := dk_21 6 (dk_at dksL_law_96 10 rfl rfl)
theorem dL_law_2387 : decode cL_law 2387 = .ok (.ifCond .ne 15, 3) := dk_154 0 15 (dk_at dksL_law_96 12 rfl rfl)
theorem dL_law_2390 : decode cL_law 2390 = .ok (.aload_n 3, 1) := dk_45 (dk_at dksL_law_96 15 rfl rfl)
theorem dL_law_2391 : decode cL_law 2391 = .ok (.iconst 0, 1) := dk_3 (dk_at dksL_law_96 16 rfl rfl)
theorem dL_law_2392 : decode cL_law 2392 = .ok (.laload, 1) := dk_47 (dk_at dksL_law_96 17 rfl rfl)
theorem dL_law_2393 : decode cL_law 2393 = .ok (.iload 7, 2) := dk_21 7 (dk_at dksL_law_96 18 rfl rfl)
theorem dL_law_2395 : decode cL_law 2395 = .ok (.i2l, 1) := dk_133 (dk_at dksL_law_96 20 rfl rfl)
theorem dL_law_2396 : decode cL_law 2396 = .ok (.lcmp, 1) := dk_148 (dk_at dksL_law_96 21 rfl rfl)
theorem dL_law_2397 : decode cL_law 2397 = .ok (.ifCond .eq 5, 3) := dk_153 0 5 (dk_at dksL_law_97 0 rfl rfl)
theorem dL_law_2400 : decode cL_law 2400 = .ok (.iconst 0, 1) := dk_3 (dk_at dksL_law_97 3 rfl rfl)
theorem dL_law_2401 : decode cL_law 2401 = .ok (.ireturn, 1) := dk_172 (dk_at dksL_law_97 4 rfl rfl)
theorem dL_law_2402 : decode cL_law 2402 = .ok (.goto 104, 3) := dk_167 0 104 (dk_at dksL_law_97 5 rfl rfl)
theorem dL_law_2405 : decode cL_law 2405 = .ok (.aload_n 1, 1) := dk_43 (dk_at dksL_law_97 8 rfl rfl)
theorem dL_law_2406 : decode cL_law 2406 = .ok (.aload_n 3, 1) := dk_45 (dk_at dksL_law_97 9 rfl rfl)
theorem dL_law_2407 : decode cL_law 2407 = .ok (.invokestatic 259, 3) := dk_184 1 3 (dk_at dksL_law_97 10 rfl rfl)
theorem dL_law_2410 : decode cL_law 2410 = .ok (.istore 6, 2) := dk_54 6 (dk_at dksL_law_97 13 rfl rfl)
theorem dL_law_2412 : decode cL_law 2412 = .ok (.aload_n 2, 1) := dk_44 (dk_at dksL_law_97 15 rfl rfl)
theorem dL_law_2413 : decode cL_law 2413 = .ok (.invokevirtual 261, 3) := dk_182 1 5 (dk_at dksL_law_97 16 rfl rfl)
theorem dL_law_2416 : decode cL_law 2416 = .ok (.istore 7, 2) := dk_54 7 (dk_at dksL_law_97 19 rfl rfl)
theorem dL_law_2418 : decode cL_law 2418 = .ok (.aload_n 2, 1) := dk_44 (dk_at dksL_law_97 21 rfl rfl)
theorem dL_law_2419 : decode cL_law 2419 = .ok (.invokevirtual 146, 3) := dk_182 0 146 (dk_at dksL_law_98 0 rfl rfl)
theorem dL_law_2422 : decode cL_law 2422 = .ok (.iload 6, 2) := dk_21 6 (dk_at dksL_law_98 3 rfl rfl)
theorem dL_law_2424 : decode cL_law 2424 = .ok (.if_icmp .eq 5, 3) := dk_159 0 5 (dk_at dksL_law_98 5 rfl rfl)
theorem dL_law_2427 : decode cL_law 2427 = .ok (.iconst 0, 1) := dk_3 (dk_at dksL_law_98 8 rfl rfl)
theorem dL_law_2428 : decode cL_law 2428 = .ok (.ireturn, 1) := dk_172 (dk_at dksL_law_98 9 rfl rfl)
theorem dL_law_2429 : decode cL_law 2429 = .ok (.iload 6, 2) := dk_21 6 (dk_at dksL_law_98 10 rfl rfl)
theorem dL_law_2431 : decode cL_law 2431 = .ok (.ifCond .ne 15, 3) := dk_154 0 15 (dk_at dksL_law_98 12 rfl rfl)
theorem dL_law_2434 : decode cL_law 2434 = .ok (.aload_n 3, 1) := dk_45 (dk_at dksL_law_98 15 rfl rfl)
theorem dL_law_2435 : decode cL_law 2435 = .ok (.iconst 0, 1) := dk_3 (dk_at dksL_law_98 16 rfl rfl)
theorem dL_law_2436 : decode cL_law 2436 = .ok (.laload, 1) := dk_47 (dk_at dksL_law_98 17 rfl rfl)
theorem dL_law_2437 : decode cL_law 2437 = .ok (.iload 7, 2) := dk_21 7 (dk_at dksL_law_98 18 rfl rfl)
theorem dL_law_2439 : decode cL_law 2439 = .ok (.i2l, 1) := dk_133 (dk_at dksL_law_98 20 rfl rfl)
theorem dL_law_2440 : decode cL_law 2440 = .ok (.lcmp, 1) := dk_148 (dk_at dksL_law_98 21 rfl rfl)
theorem dL_law_2441 : decode cL_law 2441 = .ok (.ifCond .eq 5, 3) := dk_153 0 5 (dk_at dksL_law_99 0 rfl rfl)
theorem dL_law_2444 : decode cL_law 2444 = .ok (.iconst 0, 1) := dk_3 (dk_at dksL_law_99 3 rfl rfl)
theorem dL_law_2445 : decode cL_law 2445 = .ok (.ireturn, 1) := dk_172 (dk_at dksL_law_99 4 rfl rfl)
theorem dL_law_2446 : decode cL_law 2446 = .ok (.goto 60, 3) := dk_167 0 60 (dk_at dksL_law_99 5 rfl rfl)
theorem dL_law_2449 : decode cL_law 2449 = .ok (.aload_n 1, 1) := dk_43 (dk_at dksL_law_99 8 rfl rfl)
theorem dL_law_2450 : decode cL_law 2450 = .ok (.invokevirtual 262, 3) := dk_182 1 6 (dk_at dksL_law_99 9 rfl rfl)
theorem dL_law_2453 : decode cL_law 2453 = .ok (.aload_n 2, 1) := dk_44 (dk_at dksL_law_99 12 rfl rfl)
theorem dL_law_2454 : decode cL_law 2454 = .ok (.invokevirtual 265, 3) := dk_182 1 9 (dk_at dksL_law_99 13 rfl rfl)
theorem dL_law_2457 : decode cL_law 2457 = .ok (.if_icmp .eq 49, 3) := dk_159 0 49 (dk_at dksL_law_99 16 rfl rfl)
theorem dL_law_2460 : decode cL_law 2460 = .ok (.iconst 0, 1) := dk_3 (dk_at dksL_law_99 19 rfl rfl)
theorem dL_law_2461 : decode cL_law 2461 = .ok (.ireturn, 1) := dk_172 (dk_at dksL_law_99 20 rfl rfl)
theorem dL_law_2462 : decode cL_law 2462 = .ok (.aload_n 1, 1) := dk_43 (dk_at dksL_law_99 21 rfl rfl)
theorem dL_law_2463 : decode cL_law 2463 = .ok (.aload_n 3, 1) := dk_45 (dk_at dksL_law_99 22 rfl rfl)
theorem dL_law_2464 : decode cL_law 2464 = .ok (.invokestatic 266, 3) := dk_184 1 10 (dk_at dksL_law_100 0 rfl rfl)
theorem dL_law_2467 : decode cL_law 2467 = .ok (.istore 6, 2) := dk_54 6 (dk_at dksL_law_100 3 rfl rfl)
theorem dL_law_2469 : decode cL_law 2469 = .ok (.aload_n 2, 1) := dk_44 (dk_at dksL_law_100 5 rfl rfl)
theorem dL_law_2470 : decode cL_law 2470 = .ok (.invokevirtual 268, 3) := dk_182 1 12 (dk_at dksL_law_100 6 rfl rfl)
theorem dL_law_2473 : decode cL_law 2473 = .ok (.istore 7, 2) := dk_54 7 (dk_at dksL_law_100 9 rfl rfl)
theorem dL_law_2475 : decode cL_law 2475 = .ok (.aload_n 2, 1) := dk_44 (dk_at dksL_law_100 11 rfl rfl)
theorem dL_law_2476 : decode cL_law 2476 = .ok (.invokevirtual 146, 3) := dk_182 0 146 (dk_at dksL_law_100 12 rfl rfl)
theorem dL_law_2479 : decode cL_law 2479 = .ok (.iload 6, 2) := dk_21 6 (dk_at dksL_law_100 15 rfl rfl)
theorem dL_law_2481 : decode cL_law 2481 = .ok (.if_icmp .eq 5, 3) := dk_159 0 5 (dk_at dksL_law_100 17 rfl rfl)
theorem dL_law_2484 : decode cL_law 2484 = .ok (.iconst 0, 1) := dk_3 (dk_at dksL_law_100 20 rfl rfl)
theorem dL_law_2485 : decode cL_law 2485 = .ok (.ireturn, 1) := dk_172 (dk_at dksL_law_100 21 rfl rfl)
theorem dL_law_2486 : decode cL_law 2486 = .ok (.iload 6, 2) := dk_21 6 (dk_at dksL_law_100 22 rfl rfl)
theorem dL_law_2488 : decode cL_law 2488 = .ok (.ifCond .ne 15, 3) := dk_154 0 15 (dk_at dksL_law_101 0 rfl rfl)
theorem dL_law_2491 : decode cL_law 2491 = .ok (.aload_n 3, 1) := dk_45 (dk_at dksL_law_101 3 rfl rfl)
theorem dL_law_2492 : decode cL_law 2492 = .ok (.iconst 0, 1) := dk_3 (dk_at dksL_law_101 4 rfl rfl)
theorem dL_law_2493 : decode cL_law 2493 = .ok (.laload, 1) := dk_47 (dk_at dksL_law_101 5 rfl rfl)
theorem dL_law_2494 : decode cL_law 2494 = .ok (.iload 7, 2) := dk_21 7 (dk_at dksL_law_101 6 rfl rfl)
theorem dL_law_2496 : decode cL_law 2496 = .ok (.i2l, 1) := dk_133 (dk_at dksL_law_101 8 rfl rfl)
theorem dL_law_2497 : decode cL_law 2497 = .ok (.lcmp, 1) := dk_148 (dk_at dksL_law_101 9 rfl rfl)
theorem dL_law_2498 : decode cL_law 2498 = .ok (.ifCond .eq 5, 3) := dk_153 0 5 (dk_at dksL_law_101 10 rfl rfl)
theorem dL_law_2501 : decode cL_law 2501 = .ok (.iconst 0, 1) := dk_3 (dk_at dksL_law_101 13 rfl rfl)
theorem dL_law_2502 : decode cL_law 2502 = .ok (.ireturn, 1) := dk_172 (dk_at dksL_law_101 14 rfl rfl)
theorem dL_law_2503 : decode cL_law 2503 = .ok (.goto 3, 3) := dk_167 0 3 (dk_at dksL_law_101 15 rfl rfl)
theorem dL_law_2506 : decode cL_law 2506 = .ok (.iinc 5 6, 3) := dk_132 5 6 (dk_at dksL_law_101 18 rfl rfl)
theorem dL_law_2509 : decode cL_law 2509 = .ok (.goto (-2481), 3) := dk_167 246 79 (dk_at dksL_law_101 21 rfl rfl)
theorem dL_law_2512 : decode cL_law 2512 = .ok (.iconst 1, 1) := dk_4 (dk_at dksL_law_102 0 rfl rfl)
theorem dL_law_2513 : decode cL_law 2513 = .ok (.ireturn, 1) := dk_172 (dk_at dksL_law_102 1 rfl rfl)
