/-! CsrCalculatorLaw -/
set_option maxRecDepth 100000
def RX0 : String := "CsrCalculatorLaw"
abbrev cX0_feed : ByteArray := method_3_code
def yX0_feed : MethodName := ⟨RX0, "feed", "(LCsrCalculator;IIIII[J)I"⟩
def dkwX0_feed_1 : List UInt8 := [172]
abbrev dktX0_feed_1 : List UInt8 := dkwX0_feed_1 ++ []
def dkwX0_feed_0 : List UInt8 := [25, 6, 3, 42, 27, 28, 29, 21, 4, 21, 5, 182, 0, 7, 133, 80, 167, 0, 7, 58, 7, 4, 172, 3]
abbrev dktX0_feed_0 : List UInt8 := dkwX0_feed_0 ++ dktX0_feed_1
theorem dksX0_feed_0 : cX0_feed.data.toList.drop 0 = dktX0_feed_0 := by decide +kernel
theorem dksX0_feed_1 : cX0_feed.data.toList.drop 24 = dktX0_feed_1 := dk_seg dksX0_feed_0 24 rfl rfl
theorem dX0_feed_0 : decode cX0_feed 0 = .ok (.aload 6, 2) := dk_25 6 (dk_at dksX0_feed_0 0 rfl rfl)
theorem dX0_feed_2 : decode cX0_feed 2 = .ok (.iconst 0, 1) := dk_3 (dk_at dksX0_feed_0 2 rfl rfl)
theorem dX0_feed_3 : decode cX0_feed 3 = .ok (.aload_n 0, 1) := dk_42 (dk_at dksX0_feed_0 3 rfl rfl)
theorem dX0_feed_4 : decode cX0_feed 4 = .ok (.iload_n 1, 1) := dk_27 (dk_at dksX0_feed_0 4 rfl rfl)
theorem dX0_feed_5 : decode cX0_feed 5 = .ok (.iload_n 2, 1) := dk_28 (dk_at dksX0_feed_0 5 rfl rfl)
theorem dX0_feed_6 : decode cX0_feed 6 = .ok (.iload_n 3, 1) := dk_29 (dk_at dksX0_feed_0 6 rfl rfl)
theorem dX0_feed_7 : decode cX0_feed 7 = .ok (.iload 4, 2) := dk_21 4 (dk_at dksX0_feed_0 7 rfl rfl)
theorem dX0_feed_9 : decode cX0_feed 9 = .ok (.iload 5, 2) := dk_21 5 (dk_at dksX0_feed_0 9 rfl rfl)
theorem dX0_feed_11 : decode cX0_feed 11 = .ok (.invokevirtual 7, 3) := dk_182 0 7 (dk_at dksX0_feed_0 11 rfl rfl)
theorem dX0_feed_14 : decode cX0_feed 14 = .ok (.i2l, 1) := dk_133 (dk_at dksX0_feed_0 14 rfl rfl)
theorem dX0_feed_15 : decode cX0_feed 15 = .ok (.lastore, 1) := dk_80 (dk_at dksX0_feed_0 15 rfl rfl)
theorem dX0_feed_16 : decode cX0_feed 16 = .ok (.goto 7, 3) := dk_167 0 7 (dk_at dksX0_feed_0 16 rfl rfl)
theorem dX0_feed_19 : decode cX0_feed 19 = .ok (.astore 7, 2) := dk_58 7 (dk_at dksX0_feed_0 19 rfl rfl)
theorem dX0_feed_21 : decode cX0_feed 21 = .ok (.iconst 1, 1) := dk_4 (dk_at dksX0_feed_0 21 rfl rfl)
theorem dX0_feed_22 : decode cX0_feed 22 = .ok (.ireturn, 1) := dk_172 (dk_at dksX0_feed_0 22 rfl rfl)
theorem dX0_feed_23 : decode cX0_feed 23 = .ok (.iconst 0, 1) := dk_3 (dk_at dksX0_feed_0 23 rfl rfl)
theorem dX0_feed_24 : decode cX0_feed 24 = .ok (.ireturn, 1) := dk_172 (dk_at dksX0_feed_1 0 rfl rfl)
abbrev cX0_truncate : ByteArray := method_4_code
def yX0_truncate : MethodName := ⟨RX0, "truncate", "(LCsrCalculator;I[J)I"⟩
def dkwX0_truncate_0 : List UInt8 := [44, 3, 42, 27, 182, 0, 15, 133, 80, 167, 0, 6, 78, 4, 172, 3, 172]
abbrev dktX0_truncate_0 : List UInt8 := dkwX0_truncate_0 ++ []
theorem dksX0_truncate_0 : cX0_truncate.data.toList.drop 0 = dktX0_truncate_0 := by decide +kernel
theorem dX0_truncate_0 : decode cX0_truncate 0 = .ok (.aload_n 2, 1) := dk_44 (dk_at dksX0_truncate_0 0 rfl rfl)
theorem dX0_truncate_1 : decode cX0_truncate 1 = .ok (.iconst 0, 1) := dk_3 (dk_at dksX0_truncate_0 1 rfl rfl)
theorem dX0_truncate_2 : decode cX0_truncate 2 = .ok (.aload_n 0, 1) := dk_42 (dk_at dksX0_truncate_0 2 rfl rfl)
theorem dX0_truncate_3 : decode cX0_truncate 3 = .ok (.iload_n 1, 1) := dk_27 (dk_at dksX0_truncate_0 3 rfl rfl)
theorem dX0_truncate_4 : decode cX0_truncate 4 = .ok (.invokevirtual 15, 3) := dk_182 0 15 (dk_at dksX0_truncate_0 4 rfl rfl)
theorem dX0_truncate_7 : decode cX0_truncate 7 = .ok (.i2l, 1) := dk_133 (dk_at dksX0_truncate_0 7 rfl rfl)
theorem dX0_truncate_8 : decode cX0_truncate 8 = .ok (.lastore, 1) := dk_80 (dk_at dksX0_truncate_0 8 rfl rfl)
theorem dX0_truncate_9 : decode cX0_truncate 9 = .ok (.goto 6, 3) := dk_167 0 6 (dk_at dksX0_truncate_0 9 rfl rfl)
theorem dX0_truncate_12 : decode cX0_truncate 12 = .ok (.astore_n 3, 1) := dk_78 (dk_at dksX0_truncate_0 12 rfl rfl)
theorem dX0_truncate_13 : decode cX0_truncate 13 = .ok (.iconst 1, 1) := dk_4 (dk_at dksX0_truncate_0 13 rfl rfl)
theorem dX0_truncate_14 : decode cX0_truncate 14 = .ok (.ireturn, 1) := dk_172 (dk_at dksX0_truncate_0 14 rfl rfl)
theorem dX0_truncate_15 : decode cX0_truncate 15 = .ok (.iconst 0, 1) := dk_3 (dk_at dksX0_truncate_0 15 rfl rfl)
theorem dX0_truncate_16 : decode cX0_truncate 16 = .ok (.ireturn, 1) := dk_172 (dk_at dksX0_truncate_0 16 rfl rfl)
abbrev cX0_readText : ByteArray := method_5_code
def yX0_readText : MethodName := ⟨RX0, "readText", "(LCsrCalculator;[J)I"⟩
def dkwX0_readText_0 : List UInt8 := [43, 3, 42, 182, 0, 21, 133, 80, 167, 0, 6, 77, 4, 172, 3, 172]
abbrev dktX0_readText_0 : List UInt8 := dkwX0_readText_0 ++ []
theorem dksX0_readText_0 : cX0_readText.data.toList.drop 0 = dktX0_readText_0 := by decide +kernel
theorem dX0_readText_0 : decode cX0_readText 0 = .ok (.aload_n 1, 1) := dk_43 (dk_at dksX0_readText_0 0 rfl rfl)
theorem dX0_readText_1 : decode cX0_readText 1 = .ok (.iconst 0, 1) := dk_3 (dk_at dksX0_readText_0 1 rfl rfl)
theorem dX0_readText_2 : decode cX0_readText 2 = .ok (.aload_n 0, 1) := dk_42 (dk_at dksX0_readText_0 2 rfl rfl)
theorem dX0_readText_3 : decode cX0_readText 3 = .ok (.invokevirtual 21, 3) := dk_182 0 21 (dk_at dksX0_readText_0 3 rfl rfl)
theorem dX0_readText_6 : decode cX0_readText 6 = .ok (.i2l, 1) := dk_133 (dk_at dksX0_readText_0 6 rfl rfl)
theorem dX0_readText_7 : decode cX0_readText 7 = .ok (.lastore, 1) := dk_80 (dk_at dksX0_readText_0 7 rfl rfl)
theorem dX0_readText_8 : decode cX0_readText 8 = .ok (.goto 6, 3) := dk_167 0 6 (dk_at dksX0_readText_0 8 rfl rfl)
theorem dX0_readText_11 : decode cX0_readText 11 = .ok (.astore_n 2, 1) := dk_77 (dk_at dksX0_readText_0 11 rfl rfl)
theorem dX0_readText_12 : decode cX0_readText 12 = .ok (.iconst 1, 1) := dk_4 (dk_at dksX0_readText_0 12 rfl rfl)
theorem dX0_readText_13 : decode cX0_readText 13 = .ok (.ireturn, 1) := dk_172 (dk_at dksX0_readText_0 13 rfl rfl)
theorem dX0_readText_14 : decode cX0_readText 14 = .ok (.iconst 0, 1) := dk_3 (dk_at dksX0_readText_0 14 rfl rfl)
theorem dX0_readText_15 : decode cX0_readText 15 = .ok (.ireturn, 1) := dk_172 (dk_at dksX0_readText_0 15 rfl rfl)
abbrev cX0_runScript : ByteArray := method_6_code
def yX0_runScript : MethodName := ⟨RX0, "runScript", "(LCsrCalculator;[J)I"⟩
def dkwX0_runScript_0 : List UInt8 := [43, 3, 42, 182, 0, 25, 133, 80, 167, 0, 6, 77, 4, 172, 3, 172]
abbrev dktX0_runScript_0 : List UInt8 := dkwX0_runScript_0 ++ []
theorem dksX0_runScript_0 : cX0_runScript.data.toList.drop 0 = dktX0_runScript_0 := by decide +kernel
theorem dX0_runScript_0 : decode cX0_runScript 0 = .ok (.aload_n 1, 1) := dk_43 (dk_at dksX0_runScript_0 0 rfl rfl)
theorem dX0_runScript_1 : decode cX0_runScript 1 = .ok (.iconst 0, 1) := dk_3 (dk_at dksX0_runScript_0 1 rfl rfl)
theorem dX0_runScript_2 : decode cX0_runScript 2 = .ok (.aload_n 0, 1) := dk_42 (dk_at dksX0_runScript_0 2 rfl rfl)
theorem dX0_runScript_3 : decode cX0_runScript 3 = .ok (.invokevirtual 25, 3) := dk_182 0 25 (dk_at dksX0_runScript_0 3 rfl rfl)
theorem dX0_runScript_6 : decode cX0_runScript 6 = .ok (.i2l, 1) := dk_133 (dk_at dksX0_runScript_0 6 rfl rfl)
theorem dX0_runScript_7 : decode cX0_runScript 7 = .ok (.lastore, 1) := dk_80 (dk_at dksX0_runScript_0 7 rfl rfl)
theorem dX0_runScript_8 : decode cX0_runScript 8 = .ok (.goto 6, 3) := dk_167 0 6 (dk_at dksX0_runScript_0 8 rfl rfl)
theorem dX0_runScript_11 : decode cX0_runScript 11 = .ok (.astore_n 2, 1) := dk_77 (dk_at dksX0_runScript_0 11 rfl rfl)
theorem dX0_runScript_12 : decode cX0_runScript 12 = .ok (.iconst 1, 1) := dk_4 (dk_at dksX0_runScript_0 12 rfl rfl)
theorem dX0_runScript_13 : decode cX0_runScript 13 = .ok (.ireturn, 1) := dk_172 (dk_at dksX0_runScript_0 13 rfl rfl)
theorem dX0_runScript_14 : decode cX0_runScript 14 = .ok (.iconst 0, 1) := dk_3 (dk_at dksX0_runScript_0 14 rfl rfl)
theorem dX0_runScript_15 : decode cX0_runScript 15 = .ok (.ireturn, 1) := dk_172 (dk_at dksX0_runScript_0 15 rfl rfl)
abbrev cX0_rowCount : ByteArray := method_7_code
def yX0_rowCount : MethodName := ⟨RX0, "rowCount", "(LCsrCalculator;I[J)I"⟩
def dkwX0_rowCount_0 : List UInt8 := [44, 3, 42, 27, 182, 0, 28, 133, 80, 167, 0, 6, 78, 4, 172, 3, 172]
abbrev dktX0_rowCount_0 : List UInt8 := dkwX0_rowCount_0 ++ []
theorem dksX0_rowCount_0 : cX0_rowCount.data.toList.drop 0 = dktX0_rowCount_0 := by decide +kernel
theorem dX0_rowCount_0 : decode cX0_rowCount 0 = .ok (.aload_n 2, 1) := dk_44 (dk_at dksX0_rowCount_0 0 rfl rfl)
theorem dX0_rowCount_1 : decode cX0_rowCount 1 = .ok (.iconst 0, 1) := dk_3 (dk_at dksX0_rowCount_0 1 rfl rfl)
theorem dX0_rowCount_2 : decode cX0_rowCount 2 = .ok (.aload_n 0, 1) := dk_42 (dk_at dksX0_rowCount_0 2 rfl rfl)
theorem dX0_rowCount_3 : decode cX0_rowCount 3 = .ok (.iload_n 1, 1) := dk_27 (dk_at dksX0_rowCount_0 3 rfl rfl)
theorem dX0_rowCount_4 : decode cX0_rowCount 4 = .ok (.invokevirtual 28, 3) := dk_182 0 28 (dk_at dksX0_rowCount_0 4 rfl rfl)
theorem dX0_rowCount_7 : decode cX0_rowCount 7 = .ok (.i2l, 1) := dk_133 (dk_at dksX0_rowCount_0 7 rfl rfl)
theorem dX0_rowCount_8 : decode cX0_rowCount 8 = .ok (.lastore, 1) := dk_80 (dk_at dksX0_rowCount_0 8 rfl rfl)
theorem dX0_rowCount_9 : decode cX0_rowCount 9 = .ok (.goto 6, 3) := dk_167 0 6 (dk_at dksX0_rowCount_0 9 rfl rfl)
theorem dX0_rowCount_12 : decode cX0_rowCount 12 = .ok (.astore_n 3, 1) := dk_78 (dk_at dksX0_rowCount_0 12 rfl rfl)
theorem dX0_rowCount_13 : decode cX0_rowCount 13 = .ok (.iconst 1, 1) := dk_4 (dk_at dksX0_rowCount_0 13 rfl rfl)
theorem dX0_rowCount_14 : decode cX0_rowCount 14 = .ok (.ireturn, 1) := dk_172 (dk_at dksX0_rowCount_0 14 rfl rfl)
theorem dX0_rowCount_15 : decode cX0_rowCount 15 = .ok (.iconst 0, 1) := dk_3 (dk_at dksX0_rowCount_0 15 rfl rfl)
theorem dX0_rowCount_16 : decode cX0_rowCount 16 = .ok (.ireturn, 1) := dk_172 (dk_at dksX0_rowCount_0 16 rfl rfl)
abbrev cX0_columnCount : ByteArray := method_8_code
def yX0_columnCount : MethodName := ⟨RX0, "columnCount", "(LCsrCalculator;I[J)I"⟩
def dkwX0_columnCount_0 : List UInt8 := [44, 3, 42, 27, 182, 0, 33, 133, 80, 167, 0, 6, 78, 4, 172, 3, 172]
abbrev dktX0_columnCount_0 : List UInt8 := dkwX0_columnCount_0 ++ []
theorem dksX0_columnCount_0 : cX0_columnCount.data.toList.drop 0 = dktX0_columnCount_0 := by decide +kernel
theorem dX0_columnCount_0 : decode cX0_columnCount 0 = .ok (.aload_n 2, 1) := dk_44 (dk_at dksX0_columnCount_0 0 rfl rfl)
theorem dX0_columnCount_1 : decode cX0_columnCount 1 = .ok (.iconst 0, 1) := dk_3 (dk_at dksX0_columnCount_0 1 rfl rfl)
theorem dX0_columnCount_2 : decode cX0_columnCount 2 = .ok (.aload_n 0, 1) := dk_42 (dk_at dksX0_columnCount_0 2 rfl rfl)
theorem dX0_columnCount_3 : decode cX0_columnCount 3 = .ok (.iload_n 1, 1) := dk_27 (dk_at dksX0_columnCount_0 3 rfl rfl)
theorem dX0_columnCount_4 : decode cX0_columnCount 4 = .ok (.invokevirtual 33, 3) := dk_182 0 33 (dk_at dksX0_columnCount_0 4 rfl rfl)
theorem dX0_columnCount_7 : decode cX0_columnCount 7 = .ok (.i2l, 1) := dk_133 (dk_at dksX0_columnCount_0 7 rfl rfl)
theorem dX0_columnCount_8 : decode cX0_columnCount 8 = .ok (.lastore, 1) := dk_80 (dk_at dksX0_columnCount_0 8 rfl rfl)
theorem dX0_columnCount_9 : decode cX0_columnCount 9 = .ok (.goto 6, 3) := dk_167 0 6 (dk_at dksX0_columnCount_0 9 rfl rfl)
theorem dX0_columnCount_12 : decode cX0_columnCount 12 = .ok (.astore_n 3, 1) := dk_78 (dk_at dksX0_columnCount_0 12 rfl rfl)
theorem dX0_columnCount_13 : decode cX0_columnCount 13 = .ok (.iconst 1, 1) := dk_4 (dk_at dksX0_columnCount_0 13 rfl rfl)
theorem dX0_columnCount_14 : decode cX0_columnCount 14 = .ok (.ireturn, 1) := dk_172 (dk_at dksX0_columnCount_0 14 rfl rfl)
theorem dX0_columnCount_15 : decode cX0_columnCount 15 = .ok (.iconst 0, 1) := dk_3 (dk_at dksX0_columnCount_0 15 rfl rfl)
theorem dX0_columnCount_16 : decode cX0_columnCount 16 = .ok (.ireturn, 1) := dk_172 (dk_at dksX0_columnCount_0 16 rfl rfl)
abbrev cX0_storedCount : ByteArray := method_9_code
def yX0_storedCount : MethodName := ⟨RX0, "storedCount", "(LCsrCalculator;I[J)I"⟩
def dkwX0_storedCount_0 : List UInt8 := [44, 3, 42, 27, 182, 0, 36, 133, 80, 167, 0, 6, 78, 4, 172, 3, 172]
abbrev dktX0_storedCount_0 : List UInt8 := dkwX0_storedCount_0 ++ []
theorem dksX0_storedCount_0 : cX0_storedCount.data.toList.drop 0 = dktX0_storedCount_0 := by decide +kernel
theorem dX0_storedCount_0 : decode cX0_storedCount 0 = .ok (.aload_n 2, 1) := dk_44 (dk_at dksX0_storedCount_0 0 rfl rfl)
theorem dX0_storedCount_1 : decode cX0_storedCount 1 = .ok (.iconst 0, 1) := dk_3 (dk_at dksX0_storedCount_0 1 rfl rfl)
theorem dX0_storedCount_2 : decode cX0_storedCount 2 = .ok (.aload_n 0, 1) := dk_42 (dk_at dksX0_storedCount_0 2 rfl rfl)
theorem dX0_storedCount_3 : decode cX0_storedCount 3 = .ok (.iload_n 1, 1) := dk_27 (dk_at dksX0_storedCount_0 3 rfl rfl)
theorem dX0_storedCount_4 : decode cX0_storedCount 4 = .ok (.invokevirtual 36, 3) := dk_182 0 36 (dk_at dksX0_storedCount_0 4 rfl rfl)
theorem dX0_storedCount_7 : decode cX0_storedCount 7 = .ok (.i2l, 1) := dk_133 (dk_at dksX0_storedCount_0 7 rfl rfl)
theorem dX0_storedCount_8 : decode cX0_storedCount 8 = .ok (.lastore, 1) := dk_80 (dk_at dksX0_storedCount_0 8 rfl rfl)
theorem dX0_storedCount_9 : decode cX0_storedCount 9 = .ok (.goto 6, 3) := dk_167 0 6 (dk_at dksX0_storedCount_0 9 rfl rfl)
theorem dX0_storedCount_12 : decode cX0_storedCount 12 = .ok (.astore_n 3, 1) := dk_78 (dk_at dksX0_storedCount_0 12 rfl rfl)
theorem dX0_storedCount_13 : decode cX0_storedCount 13 = .ok (.iconst 1, 1) := dk_4 (dk_at dksX0_storedCount_0 13 rfl rfl)
theorem dX0_storedCount_14 : decode cX0_storedCount 14 = .ok (.ireturn, 1) := dk_172 (dk_at dksX0_storedCount_0 14 rfl rfl)
theorem dX0_storedCount_15 : decode cX0_storedCount 15 = .ok (.iconst 0, 1) := dk_3 (dk_at dksX0_storedCount_0 15 rfl rfl)
theorem dX0_storedCount_16 : decode cX0_storedCount 16 = .ok (.ireturn, 1) := dk_172 (dk_at dksX0_storedCount_0 16 rfl rfl)
abbrev cX0_rowPointer : ByteArray := method_10_code
def yX0_rowPointer : MethodName := ⟨RX0, "rowPointer", "(LCsrCalculator;II[J)I"⟩
def dkwX0_rowPointer_0 : List UInt8 := [45, 3, 42, 27, 28, 182, 0, 39, 133, 80, 167, 0, 7, 58, 4, 4, 172, 3, 172]
abbrev dktX0_rowPointer_0 : List UInt8 := dkwX0_rowPointer_0 ++ []
theorem dksX0_rowPointer_0 : cX0_rowPointer.data.toList.drop 0 = dktX0_rowPointer_0 := by decide +kernel
theorem dX0_rowPointer_0 : decode cX0_rowPointer 0 = .ok (.aload_n 3, 1) := dk_45 (dk_at dksX0_rowPointer_0 0 rfl rfl)
theorem dX0_rowPointer_1 : decode cX0_rowPointer 1 = .ok (.iconst 0, 1) := dk_3 (dk_at dksX0_rowPointer_0 1 rfl rfl)
theorem dX0_rowPointer_2 : decode cX0_rowPointer 2 = .ok (.aload_n 0, 1) := dk_42 (dk_at dksX0_rowPointer_0 2 rfl rfl)
theorem dX0_rowPointer_3 : decode cX0_rowPointer 3 = .ok (.iload_n 1, 1) := dk_27 (dk_at dksX0_rowPointer_0 3 rfl rfl)
theorem dX0_rowPointer_4 : decode cX0_rowPointer 4 = .ok (.iload_n 2, 1) := dk_28 (dk_at dksX0_rowPointer_0 4 rfl rfl)
theorem dX0_rowPointer_5 : decode cX0_rowPointer 5 = .ok (.invokevirtual 39, 3) := dk_182 0 39 (dk_at dksX0_rowPointer_0 5 rfl rfl)
theorem dX0_rowPointer_8 : decode cX0_rowPointer 8 = .ok (.i2l, 1) := dk_133 (dk_at dksX0_rowPointer_0 8 rfl rfl)
theorem dX0_rowPointer_9 : decode cX0_rowPointer 9 = .ok (.lastore, 1) := dk_80 (dk_at dksX0_rowPointer_0 9 rfl rfl)
theorem dX0_rowPointer_10 : decode cX0_rowPointer 10 = .ok (.goto 7, 3) := dk_167 0 7 (dk_at dksX0_rowPointer_0 10 rfl rfl)
theorem dX0_rowPointer_13 : decode cX0_rowPointer 13 = .ok (.astore 4, 2) := dk_58 4 (dk_at dksX0_rowPointer_0 13 rfl rfl)
theorem dX0_rowPointer_15 : decode cX0_rowPointer 15 = .ok (.iconst 1, 1) := dk_4 (dk_at dksX0_rowPointer_0 15 rfl rfl)
theorem dX0_rowPointer_16 : decode cX0_rowPointer 16 = .ok (.ireturn, 1) := dk_172 (dk_at dksX0_rowPointer_0 16 rfl rfl)
theorem dX0_rowPointer_17 : decode cX0_rowPointer 17 = .ok (.iconst 0, 1) := dk_3 (dk_at dksX0_rowPointer_0 17 rfl rfl)
theorem dX0_rowPointer_18 : decode cX0_rowPointer 18 = .ok (.ireturn, 1) := dk_172 (dk_at dksX0_rowPointer_0 18 rfl rfl)
abbrev cX0_columnIndex : ByteArray := method_11_code
def yX0_columnIndex : MethodName := ⟨RX0, "columnIndex", "(LCsrCalculator;II[J)I"⟩
def dkwX0_columnIndex_0 : List UInt8 := [45, 3, 42, 27, 28, 182, 0, 43, 133, 80, 167, 0, 7, 58, 4, 4, 172, 3, 172]
abbrev dktX0_columnIndex_0 : List UInt8 := dkwX0_columnIndex_0 ++ []
theorem dksX0_columnIndex_0 : cX0_columnIndex.data.toList.drop 0 = dktX0_columnIndex_0 := by decide +kernel
theorem dX0_columnIndex_0 : decode cX0_columnIndex 0 = .ok (.aload_n 3, 1) := dk_45 (dk_at dksX0_columnIndex_0 0 rfl rfl)
theorem dX0_columnIndex_1 : decode cX0_columnIndex 1 = .ok (.iconst 0, 1) := dk_3 (dk_at dksX0_columnIndex_0 1 rfl rfl)
theorem dX0_columnIndex_2 : decode cX0_columnIndex 2 = .ok (.aload_n 0, 1) := dk_42 (dk_at dksX0_columnIndex_0 2 rfl rfl)
theorem dX0_columnIndex_3 : decode cX0_columnIndex 3 = .ok (.iload_n 1, 1) := dk_27 (dk_at dksX0_columnIndex_0 3 rfl rfl)
theorem dX0_columnIndex_4 : decode cX0_columnIndex 4 = .ok (.iload_n 2, 1) := dk_28 (dk_at dksX0_columnIndex_0 4 rfl rfl)
theorem dX0_columnIndex_5 : decode cX0_columnIndex 5 = .ok (.invokevirtual 43, 3) := dk_182 0 43 (dk_at dksX0_columnIndex_0 5 rfl rfl)
theorem dX0_columnIndex_8 : decode cX0_columnIndex 8 = .ok (.i2l, 1) := dk_133 (dk_at dksX0_columnIndex_0 8 rfl rfl)
theorem dX0_columnIndex_9 : decode cX0_columnIndex 9 = .ok (.lastore, 1) := dk_80 (dk_at dksX0_columnIndex_0 9 rfl rfl)
theorem dX0_columnIndex_10 : decode cX0_columnIndex 10 = .ok (.goto 7, 3) := dk_167 0 7 (dk_at dksX0_columnIndex_0 10 rfl rfl)
theorem dX0_columnIndex_13 : decode cX0_columnIndex 13 = .ok (.astore 4, 2) := dk_58 4 (dk_at dksX0_columnIndex_0 13 rfl rfl)
theorem dX0_columnIndex_15 : decode cX0_columnIndex 15 = .ok (.iconst 1, 1) := dk_4 (dk_at dksX0_columnIndex_0 15 rfl rfl)
theorem dX0_columnIndex_16 : decode cX0_columnIndex 16 = .ok (.ireturn, 1) := dk_172 (dk_at dksX0_columnIndex_0 16 rfl rfl)
theorem dX0_columnIndex_17 : decode cX0_columnIndex 17 = .ok (.iconst 0, 1) := dk_3 (dk_at dksX0_columnIndex_0 17 rfl rfl)
theorem dX0_columnIndex_18 : decode cX0_columnIndex 18 = .ok (.ireturn, 1) := dk_172 (dk_at dksX0_columnIndex_0 18 rfl rfl)
abbrev cX0_storedValue : ByteArray := method_12_code
def yX0_storedValue : MethodName := ⟨RX0, "storedValue", "(LCsrCalculator;II[J)I"⟩
def dkwX0_storedValue_0 : List UInt8 := [45, 3, 42, 27, 28, 182, 0, 46, 133, 80, 167, 0, 7, 58, 4, 4, 172, 3, 172]
abbrev dktX0_storedValue_0 : List UInt8 := dkwX0_storedValue_0 ++ []
theorem dksX0_storedValue_0 : cX0_storedValue.data.toList.drop 0 = dktX0_storedValue_0 := by decide +kernel
theorem dX0_storedValue_0 : decode cX0_storedValue 0 = .ok (.aload_n 3, 1) := dk_45 (dk_at dksX0_storedValue_0 0 rfl rfl)
theorem dX0_storedValue_1 : decode cX0_storedValue 1 = .ok (.iconst 0, 1) := dk_3 (dk_at dksX0_storedValue_0 1 rfl rfl)
theorem dX0_storedValue_2 : decode cX0_storedValue 2 = .ok (.aload_n 0, 1) := dk_42 (dk_at dksX0_storedValue_0 2 rfl rfl)
theorem dX0_storedValue_3 : decode cX0_storedValue 3 = .ok (.iload_n 1, 1) := dk_27 (dk_at dksX0_storedValue_0 3 rfl rfl)
theorem dX0_storedValue_4 : decode cX0_storedValue 4 = .ok (.iload_n 2, 1) := dk_28 (dk_at dksX0_storedValue_0 4 rfl rfl)
theorem dX0_storedValue_5 : decode cX0_storedValue 5 = .ok (.invokevirtual 46, 3) := dk_182 0 46 (dk_at dksX0_storedValue_0 5 rfl rfl)
theorem dX0_storedValue_8 : decode cX0_storedValue 8 = .ok (.i2l, 1) := dk_133 (dk_at dksX0_storedValue_0 8 rfl rfl)
theorem dX0_storedValue_9 : decode cX0_storedValue 9 = .ok (.lastore, 1) := dk_80 (dk_at dksX0_storedValue_0 9 rfl rfl)
theorem dX0_storedValue_10 : decode cX0_storedValue 10 = .ok (.goto 7, 3) := dk_167 0 7 (dk_at dksX0_storedValue_0 10 rfl rfl)
theorem dX0_storedValue_13 : decode cX0_storedValue 13 = .ok (.astore 4, 2) := dk_58 4 (dk_at dksX0_storedValue_0 13 rfl rfl)
theorem dX0_storedValue_15 : decode cX0_storedValue 15 = .ok (.iconst 1, 1) := dk_4 (dk_at dksX0_storedValue_0 15 rfl rfl)
theorem dX0_storedValue_16 : decode cX0_storedValue 16 = .ok (.ireturn, 1) := dk_172 (dk_at dksX0_storedValue_0 16 rfl rfl)
theorem dX0_storedValue_17 : decode cX0_storedValue 17 = .ok (.iconst 0, 1) := dk_3 (dk_at dksX0_storedValue_0 17 rfl rfl)
theorem dX0_storedValue_18 : decode cX0_storedValue 18 = .ok (.ireturn, 1) := dk_172 (dk_at dksX0_storedValue_0 18 rfl rfl)
abbrev cX0_rowOf : ByteArray := method_13_code
def yX0_rowOf : MethodName := ⟨RX0, "rowOf", "(LCsrCalculator;II[J)I"⟩
def dkwX0_rowOf_0 : List UInt8 := [45, 3, 42, 27, 28, 182, 0, 49, 133, 80, 167, 0, 7, 58, 4, 4, 172, 3, 172]
abbrev dktX0_rowOf_0 : List UInt8 := dkwX0_rowOf_0 ++ []
theorem dksX0_rowOf_0 : cX0_rowOf.data.toList.drop 0 = dktX0_rowOf_0 := by decide +kernel
theorem dX0_rowOf_0 : decode cX0_rowOf 0 = .ok (.aload_n 3, 1) := dk_45 (dk_at dksX0_rowOf_0 0 rfl rfl)
theorem dX0_rowOf_1 : decode cX0_rowOf 1 = .ok (.iconst 0, 1) := dk_3 (dk_at dksX0_rowOf_0 1 rfl rfl)
theorem dX0_rowOf_2 : decode cX0_rowOf 2 = .ok (.aload_n 0, 1) := dk_42 (dk_at dksX0_rowOf_0 2 rfl rfl)
theorem dX0_rowOf_3 : decode cX0_rowOf 3 = .ok (.iload_n 1, 1) := dk_27 (dk_at dksX0_rowOf_0 3 rfl rfl)
theorem dX0_rowOf_4 : decode cX0_rowOf 4 = .ok (.iload_n 2, 1) := dk_28 (dk_at dksX0_rowOf_0 4 rfl rfl)
theorem dX0_rowOf_5 : decode cX0_rowOf 5 = .ok (.invokevirtual 49, 3) := dk_182 0 49 (dk_at dksX0_rowOf_0 5 rfl rfl)
theorem dX0_rowOf_8 : decode cX0_rowOf 8 = .ok (.i2l, 1) := dk_133 (dk_at dksX0_rowOf_0 8 rfl rfl)
theorem dX0_rowOf_9 : decode cX0_rowOf 9 = .ok (.lastore, 1) := dk_80 (dk_at dksX0_rowOf_0 9 rfl rfl)
theorem dX0_rowOf_10 : decode cX0_rowOf 10 = .ok (.goto 7, 3) := dk_167 0 7 (dk_at dksX0_rowOf_0 10 rfl rfl)
theorem dX0_rowOf_13 : decode cX0_rowOf 13 = .ok (.astore 4, 2) := dk_58 4 (dk_at dksX0_rowOf_0 13 rfl rfl)
theorem dX0_rowOf_15 : decode cX0_rowOf 15 = .ok (.iconst 1, 1) := dk_4 (dk_at dksX0_rowOf_0 15 rfl rfl)
theorem dX0_rowOf_16 : decode cX0_rowOf 16 = .ok (.ireturn, 1) := dk_172 (dk_at dksX0_rowOf_0 16 rfl rfl)
theorem dX0_rowOf_17 : decode cX0_rowOf 17 = .ok (.iconst 0, 1) := dk_3 (dk_at dksX0_rowOf_0 17 rfl rfl)
theorem dX0_rowOf_18 : decode cX0_rowOf 18 = .ok (.ireturn, 1) := dk_172 (dk_at dksX0_rowOf_0 18 rfl rfl)
abbrev cX0_value : ByteArray := method_14_code
def yX0_value : MethodName := ⟨RX0, "value", "(LCsrCalculator;III[J)I"⟩
def dkwX0_value_0 : List UInt8 := [25, 4, 3, 42, 27, 28, 29, 182, 0, 52, 133, 80, 167, 0, 7, 58, 5, 4, 172, 3, 172]
abbrev dktX0_value_0 : List UInt8 := dkwX0_value_0 ++ []
theorem dksX0_value_0 : cX0_value.data.toList.drop 0 = dktX0_value_0 := by decide +kernel
theorem dX0_value_0 : decode cX0_value 0 = .ok (.aload 4, 2) := dk_25 4 (dk_at dksX0_value_0 0 rfl rfl)
theorem dX0_value_2 : decode cX0_value 2 = .ok (.iconst 0, 1) := dk_3 (dk_at dksX0_value_0 2 rfl rfl)
theorem dX0_value_3 : decode cX0_value 3 = .ok (.aload_n 0, 1) := dk_42 (dk_at dksX0_value_0 3 rfl rfl)
theorem dX0_value_4 : decode cX0_value 4 = .ok (.iload_n 1, 1) := dk_27 (dk_at dksX0_value_0 4 rfl rfl)
theorem dX0_value_5 : decode cX0_value 5 = .ok (.iload_n 2, 1) := dk_28 (dk_at dksX0_value_0 5 rfl rfl)
theorem dX0_value_6 : decode cX0_value 6 = .ok (.iload_n 3, 1) := dk_29 (dk_at dksX0_value_0 6 rfl rfl)
theorem dX0_value_7 : decode cX0_value 7 = .ok (.invokevirtual 52, 3) := dk_182 0 52 (dk_at dksX0_value_0 7 rfl rfl)
theorem dX0_value_10 : decode cX0_value 10 = .ok (.i2l, 1) := dk_133 (dk_at dksX0_value_0 10 rfl rfl)
theorem dX0_value_11 : decode cX0_value 11 = .ok (.lastore, 1) := dk_80 (dk_at dksX0_value_0 11 rfl rfl)
theorem dX0_value_12 : decode cX0_value 12 = .ok (.goto 7, 3) := dk_167 0 7 (dk_at dksX0_value_0 12 rfl rfl)
theorem dX0_value_15 : decode cX0_value 15 = .ok (.astore 5, 2) := dk_58 5 (dk_at dksX0_value_0 15 rfl rfl)
theorem dX0_value_17 : decode cX0_value 17 = .ok (.iconst 1, 1) := dk_4 (dk_at dksX0_value_0 17 rfl rfl)
theorem dX0_value_18 : decode cX0_value 18 = .ok (.ireturn, 1) := dk_172 (dk_at dksX0_value_0 18 rfl rfl)
theorem dX0_value_19 : decode cX0_value 19 = .ok (.iconst 0, 1) := dk_3 (dk_at dksX0_value_0 19 rfl rfl)
theorem dX0_value_20 : decode cX0_value 20 = .ok (.ireturn, 1) := dk_172 (dk_at dksX0_value_0 20 rfl rfl)
abbrev cX0_storageIndex : ByteArray := method_15_code
def yX0_storageIndex : MethodName := ⟨RX0, "storageIndex", "(LCsrCalculator;III[J)I"⟩
def dkwX0_storageIndex_0 : List UInt8 := [25, 4, 3, 42, 27, 28, 29, 182, 0, 56, 133, 80, 167, 0, 7, 58, 5, 4, 172, 3, 172]
abbrev dktX0_storageIndex_0 : List UInt8 := dkwX0_storageIndex_0 ++ []
theorem dksX0_storageIndex_0 : cX0_storageIndex.data.toList.drop 0 = dktX0_storageIndex_0 := by decide +kernel
theorem dX0_storageIndex_0 : decode cX0_storageIndex 0 = .ok (.aload 4, 2) := dk_25 4 (dk_at dksX0_storageIndex_0 0 rfl rfl)
theorem dX0_storageIndex_2 : decode cX0_storageIndex 2 = .ok (.iconst 0, 1) := dk_3 (dk_at dksX0_storageIndex_0 2 rfl rfl)
theorem dX0_storageIndex_3 : decode cX0_storageIndex 3 = .ok (.aload_n 0, 1) := dk_42 (dk_at dksX0_storageIndex_0 3 rfl rfl)
theorem dX0_storageIndex_4 : decode cX0_storageIndex 4 = .ok (.iload_n 1, 1) := dk_27 (dk_at dksX0_storageIndex_0 4 rfl rfl)
theorem dX0_storageIndex_5 : decode cX0_storageIndex 5 = .ok (.iload_n 2, 1) := dk_28 (dk_at dksX0_storageIndex_0 5 rfl rfl)
theorem dX0_storageIndex_6 : decode cX0_storageIndex 6 = .ok (.iload_n 3, 1) := dk_29 (dk_at dksX0_storageIndex_0 6 rfl rfl)
theorem dX0_storageIndex_7 : decode cX0_storageIndex 7 = .ok (.invokevirtual 56, 3) := dk_182 0 56 (dk_at dksX0_storageIndex_0 7 rfl rfl)
theorem dX0_storageIndex_10 : decode cX0_storageIndex 10 = .ok (.i2l, 1) := dk_133 (dk_at dksX0_storageIndex_0 10 rfl rfl)
theorem dX0_storageIndex_11 : decode cX0_storageIndex 11 = .ok (.lastore, 1) := dk_80 (dk_at dksX0_storageIndex_0 11 rfl rfl)
theorem dX0_storageIndex_12 : decode cX0_storageIndex 12 = .ok (.goto 7, 3) := dk_167 0 7 (dk_at dksX0_storageIndex_0 12 rfl rfl)
theorem dX0_storageIndex_15 : decode cX0_storageIndex 15 = .ok (.astore 5, 2) := dk_58 5 (dk_at dksX0_storageIndex_0 15 rfl rfl)
theorem dX0_storageIndex_17 : decode cX0_storageIndex 17 = .ok (.iconst 1, 1) := dk_4 (dk_at dksX0_storageIndex_0 17 rfl rfl)
theorem dX0_storageIndex_18 : decode cX0_storageIndex 18 = .ok (.ireturn, 1) := dk_172 (dk_at dksX0_storageIndex_0 18 rfl rfl)
theorem dX0_storageIndex_19 : decode cX0_storageIndex 19 = .ok (.iconst 0, 1) := dk_3 (dk_at dksX0_storageIndex_0 19 rfl rfl)
theorem dX0_storageIndex_20 : decode cX0_storageIndex 20 = .ok (.ireturn, 1) := dk_172 (dk_at dksX0_storageIndex_0 20 rfl rfl)
abbrev cX0_explicitZeros : ByteArray := method_16_code
def yX0_explicitZeros : MethodName := ⟨RX0, "explicitZeros", "(LCsrCalculator;I[J)I"⟩
def dkwX0_explicitZeros_0 : List UInt8 := [44, 3, 42, 27, 182, 0, 59, 133, 80, 167, 0, 6, 78, 4, 172, 3, 172]
abbrev dktX0_explicitZeros_0 : List UInt8 := dkwX0_explicitZeros_0 ++ []
theorem dksX0_explicitZeros_0 : cX0_explicitZeros.data.toList.drop 0 = dktX0_explicitZeros_0 := by decide +kernel
theorem dX0_explicitZeros_0 : decode cX0_explicitZeros 0 = .ok (.aload_n 2, 1) := dk_44 (dk_at dksX0_explicitZeros_0 0 rfl rfl)
theorem dX0_explicitZeros_1 : decode cX0_explicitZeros 1 = .ok (.iconst 0, 1) := dk_3 (dk_at dksX0_explicitZeros_0 1 rfl rfl)
theorem dX0_explicitZeros_2 : decode cX0_explicitZeros 2 = .ok (.aload_n 0, 1) := dk_42 (dk_at dksX0_explicitZeros_0 2 rfl rfl)
theorem dX0_explicitZeros_3 : decode cX0_explicitZeros 3 = .ok (.iload_n 1, 1) := dk_27 (dk_at dksX0_explicitZeros_0 3 rfl rfl)
theorem dX0_explicitZeros_4 : decode cX0_explicitZeros 4 = .ok (.invokevirtual 59, 3) := dk_182 0 59 (dk_at dksX0_explicitZeros_0 4 rfl rfl)
theorem dX0_explicitZeros_7 : decode cX0_explicitZeros 7 = .ok (.i2l, 1) := dk_133 (dk_at dksX0_explicitZeros_0 7 rfl rfl)
theorem dX0_explicitZeros_8 : decode cX0_explicitZeros 8 = .ok (.lastore, 1) := dk_80 (dk_at dksX0_explicitZeros_0 8 rfl rfl)
theorem dX0_explicitZeros_9 : decode cX0_explicitZeros 9 = .ok (.goto 6, 3) := dk_167 0 6 (dk_at dksX0_explicitZeros_0 9 rfl rfl)
theorem dX0_explicitZeros_12 : decode cX0_explicitZeros 12 = .ok (.astore_n 3, 1) := dk_78 (dk_at dksX0_explicitZeros_0 12 rfl rfl)
theorem dX0_explicitZeros_13 : decode cX0_explicitZeros 13 = .ok (.iconst 1, 1) := dk_4 (dk_at dksX0_explicitZeros_0 13 rfl rfl)
theorem dX0_explicitZeros_14 : decode cX0_explicitZeros 14 = .ok (.ireturn, 1) := dk_172 (dk_at dksX0_explicitZeros_0 14 rfl rfl)
theorem dX0_explicitZeros_15 : decode cX0_explicitZeros 15 = .ok (.iconst 0, 1) := dk_3 (dk_at dksX0_explicitZeros_0 15 rfl rfl)
theorem dX0_explicitZeros_16 : decode cX0_explicitZeros 16 = .ok (.ireturn, 1) := dk_172 (dk_at dksX0_explicitZeros_0 16 rfl rfl)
abbrev cX0_rowLength : ByteArray := method_17_code
def yX0_rowLength : MethodName := ⟨RX0, "rowLength", "(LCsrCalculator;II[J)I"⟩
def dkwX0_rowLength_0 : List UInt8 := [45, 3, 42, 27, 28, 182, 0, 62, 133, 80, 167, 0, 7, 58, 4, 4, 172, 3, 172]
abbrev dktX0_rowLength_0 : List UInt8 := dkwX0_rowLength_0 ++ []
theorem dksX0_rowLength_0 : cX0_rowLength.data.toList.drop 0 = dktX0_rowLength_0 := by decide +kernel
theorem dX0_rowLength_0 : decode cX0_rowLength 0 = .ok (.aload_n 3, 1) := dk_45 (dk_at dksX0_rowLength_0 0 rfl rfl)
theorem dX0_rowLength_1 : decode cX0_rowLength 1 = .ok (.iconst 0, 1) := dk_3 (dk_at dksX0_rowLength_0 1 rfl rfl)
theorem dX0_rowLength_2 : decode cX0_rowLength 2 = .ok (.aload_n 0, 1) := dk_42 (dk_at dksX0_rowLength_0 2 rfl rfl)
theorem dX0_rowLength_3 : decode cX0_rowLength 3 = .ok (.iload_n 1, 1) := dk_27 (dk_at dksX0_rowLength_0 3 rfl rfl)
theorem dX0_rowLength_4 : decode cX0_rowLength 4 = .ok (.iload_n 2, 1) := dk_28 (dk_at dksX0_rowLength_0 4 rfl rfl)
theorem dX0_rowLength_5 : decode cX0_rowLength 5 = .ok (.invokevirtual 62, 3) := dk_182 0 62 (dk_at dksX0_rowLength_0 5 rfl rfl)
theorem dX0_rowLength_8 : decode cX0_rowLength 8 = .ok (.i2l, 1) := dk_133 (dk_at dksX0_rowLength_0 8 rfl rfl)
theorem dX0_rowLength_9 : decode cX0_rowLength 9 = .ok (.lastore, 1) := dk_80 (dk_at dksX0_rowLength_0 9 rfl rfl)
theorem dX0_rowLength_10 : decode cX0_rowLength 10 = .ok (.goto 7, 3) := dk_167 0 7 (dk_at dksX0_rowLength_0 10 rfl rfl)
theorem dX0_rowLength_13 : decode cX0_rowLength 13 = .ok (.astore 4, 2) := dk_58 4 (dk_at dksX0_rowLength_0 13 rfl rfl)
theorem dX0_rowLength_15 : decode cX0_rowLength 15 = .ok (.iconst 1, 1) := dk_4 (dk_at dksX0_rowLength_0 15 rfl rfl)
theorem dX0_rowLength_16 : decode cX0_rowLength 16 = .ok (.ireturn, 1) := dk_172 (dk_at dksX0_rowLength_0 16 rfl rfl)
theorem dX0_rowLength_17 : decode cX0_rowLength 17 = .ok (.iconst 0, 1) := dk_3 (dk_at dksX0_rowLength_0 17 rfl rfl)
theorem dX0_rowLength_18 : decode cX0_rowLength 18 = .ok (.ireturn, 1) := dk_172 (dk_at dksX0_rowLength_0 18 rfl rfl)
abbrev cX0_columnLength : ByteArray := method_18_code
def yX0_columnLength : MethodName := ⟨RX0, "columnLength", "(LCsrCalculator;II[J)I"⟩
def dkwX0_columnLength_0 : List UInt8 := [45, 3, 42, 27, 28, 182, 0, 65, 133, 80, 167, 0, 7, 58, 4, 4, 172, 3, 172]
abbrev dktX0_columnLength_0 : List UInt8 := dkwX0_columnLength_0 ++ []
theorem dksX0_columnLength_0 : cX0_columnLength.data.toList.drop 0 = dktX0_columnLength_0 := by decide +kernel
theorem dX0_columnLength_0 : decode cX0_columnLength 0 = .ok (.aload_n 3, 1) := dk_45 (dk_at dksX0_columnLength_0 0 rfl rfl)
theorem dX0_columnLength_1 : decode cX0_columnLength 1 = .ok (.iconst 0, 1) := dk_3 (dk_at dksX0_columnLength_0 1 rfl rfl)
theorem dX0_columnLength_2 : decode cX0_columnLength 2 = .ok (.aload_n 0, 1) := dk_42 (dk_at dksX0_columnLength_0 2 rfl rfl)
theorem dX0_columnLength_3 : decode cX0_columnLength 3 = .ok (.iload_n 1, 1) := dk_27 (dk_at dksX0_columnLength_0 3 rfl rfl)
theorem dX0_columnLength_4 : decode cX0_columnLength 4 = .ok (.iload_n 2, 1) := dk_28 (dk_at dksX0_columnLength_0 4 rfl rfl)
theorem dX0_columnLength_5 : decode cX0_columnLength 5 = .ok (.invokevirtual 65, 3) := dk_182 0 65 (dk_at dksX0_columnLength_0 5 rfl rfl)
theorem dX0_columnLength_8 : decode cX0_columnLength 8 = .ok (.i2l, 1) := dk_133 (dk_at dksX0_columnLength_0 8 rfl rfl)
theorem dX0_columnLength_9 : decode cX0_columnLength 9 = .ok (.lastore, 1) := dk_80 (dk_at dksX0_columnLength_0 9 rfl rfl)
theorem dX0_columnLength_10 : decode cX0_columnLength 10 = .ok (.goto 7, 3) := dk_167 0 7 (dk_at dksX0_columnLength_0 10 rfl rfl)
theorem dX0_columnLength_13 : decode cX0_columnLength 13 = .ok (.astore 4, 2) := dk_58 4 (dk_at dksX0_columnLength_0 13 rfl rfl)
theorem dX0_columnLength_15 : decode cX0_columnLength 15 = .ok (.iconst 1, 1) := dk_4 (dk_at dksX0_columnLength_0 15 rfl rfl)
theorem dX0_columnLength_16 : decode cX0_columnLength 16 = .ok (.ireturn, 1) := dk_172 (dk_at dksX0_columnLength_0 16 rfl rfl)
theorem dX0_columnLength_17 : decode cX0_columnLength 17 = .ok (.iconst 0, 1) := dk_3 (dk_at dksX0_columnLength_0 17 rfl rfl)
theorem dX0_columnLength_18 : decode cX0_columnLength 18 = .ok (.ireturn, 1) := dk_172 (dk_at dksX0_columnLength_0 18 rfl rfl)
abbrev cX0_longestRow : ByteArray := method_19_code
def yX0_longestRow : MethodName := ⟨RX0, "longestRow", "(LCsrCalculator;I[J)I"⟩
def dkwX0_longestRow_0 : List UInt8 := [44, 3, 42, 27, 182, 0, 68, 133, 80, 167, 0, 6, 78, 4, 172, 3, 172]
abbrev dktX0_longestRow_0 : List UInt8 := dkwX0_longestRow_0 ++ []
theorem dksX0_longestRow_0 : cX0_longestRow.data.toList.drop 0 = dktX0_longestRow_0 := by decide +kernel
theorem dX0_longestRow_0 : decode cX0_longestRow 0 = .ok (.aload_n 2, 1) := dk_44 (dk_at dksX0_longestRow_0 0 rfl rfl)
theorem dX0_longestRow_1 : decode cX0_longestRow 1 = .ok (.iconst 0, 1) := dk_3 (dk_at dksX0_longestRow_0 1 rfl rfl)
theorem dX0_longestRow_2 : decode cX0_longestRow 2 = .ok (.aload_n 0, 1) := dk_42 (dk_at dksX0_longestRow_0 2 rfl rfl)
theorem dX0_longestRow_3 : decode cX0_longestRow 3 = .ok (.iload_n 1, 1) := dk_27 (dk_at dksX0_longestRow_0 3 rfl rfl)
theorem dX0_longestRow_4 : decode cX0_longestRow 4 = .ok (.invokevirtual 68, 3) := dk_182 0 68 (dk_at dksX0_longestRow_0 4 rfl rfl)
theorem dX0_longestRow_7 : decode cX0_longestRow 7 = .ok (.i2l, 1) := dk_133 (dk_at dksX0_longestRow_0 7 rfl rfl)
theorem dX0_longestRow_8 : decode cX0_longestRow 8 = .ok (.lastore, 1) := dk_80 (dk_at dksX0_longestRow_0 8 rfl rfl)
theorem dX0_longestRow_9 : decode cX0_longestRow 9 = .ok (.goto 6, 3) := dk_167 0 6 (dk_at dksX0_longestRow_0 9 rfl rfl)
theorem dX0_longestRow_12 : decode cX0_longestRow 12 = .ok (.astore_n 3, 1) := dk_78 (dk_at dksX0_longestRow_0 12 rfl rfl)
theorem dX0_longestRow_13 : decode cX0_longestRow 13 = .ok (.iconst 1, 1) := dk_4 (dk_at dksX0_longestRow_0 13 rfl rfl)
theorem dX0_longestRow_14 : decode cX0_longestRow 14 = .ok (.ireturn, 1) := dk_172 (dk_at dksX0_longestRow_0 14 rfl rfl)
theorem dX0_longestRow_15 : decode cX0_longestRow 15 = .ok (.iconst 0, 1) := dk_3 (dk_at dksX0_longestRow_0 15 rfl rfl)
theorem dX0_longestRow_16 : decode cX0_longestRow 16 = .ok (.ireturn, 1) := dk_172 (dk_at dksX0_longestRow_0 16 rfl rfl)
abbrev cX0_emptyRows : ByteArray := method_20_code
def yX0_emptyRows : MethodName := ⟨RX0, "emptyRows", "(LCsrCalculator;I[J)I"⟩
def dkwX0_emptyRows_0 : List UInt8 := [44, 3, 42, 27, 182, 0, 71, 133, 80, 167, 0, 6, 78, 4, 172, 3, 172]
abbrev dktX0_emptyRows_0 : List UInt8 := dkwX0_emptyRows_0 ++ []
theorem dksX0_emptyRows_0 : cX0_emptyRows.data.toList.drop 0 = dktX0_emptyRows_0 := by decide +kernel
theorem dX0_emptyRows_0 : decode cX0_emptyRows 0 = .ok (.aload_n 2, 1) := dk_44 (dk_at dksX0_emptyRows_0 0 rfl rfl)
theorem dX0_emptyRows_1 : decode cX0_emptyRows 1 = .ok (.iconst 0, 1) := dk_3 (dk_at dksX0_emptyRows_0 1 rfl rfl)
theorem dX0_emptyRows_2 : decode cX0_emptyRows 2 = .ok (.aload_n 0, 1) := dk_42 (dk_at dksX0_emptyRows_0 2 rfl rfl)
theorem dX0_emptyRows_3 : decode cX0_emptyRows 3 = .ok (.iload_n 1, 1) := dk_27 (dk_at dksX0_emptyRows_0 3 rfl rfl)
theorem dX0_emptyRows_4 : decode cX0_emptyRows 4 = .ok (.invokevirtual 71, 3) := dk_182 0 71 (dk_at dksX0_emptyRows_0 4 rfl rfl)
theorem dX0_emptyRows_7 : decode cX0_emptyRows 7 = .ok (.i2l, 1) := dk_133 (dk_at dksX0_emptyRows_0 7 rfl rfl)
theorem dX0_emptyRows_8 : decode cX0_emptyRows 8 = .ok (.lastore, 1) := dk_80 (dk_at dksX0_emptyRows_0 8 rfl rfl)
theorem dX0_emptyRows_9 : decode cX0_emptyRows 9 = .ok (.goto 6, 3) := dk_167 0 6 (dk_at dksX0_emptyRows_0 9 rfl rfl)
theorem dX0_emptyRows_12 : decode cX0_emptyRows 12 = .ok (.astore_n 3, 1) := dk_78 (dk_at dksX0_emptyRows_0 12 rfl rfl)
theorem dX0_emptyRows_13 : decode cX0_emptyRows 13 = .ok (.iconst 1, 1) := dk_4 (dk_at dksX0_emptyRows_0 13 rfl rfl)
theorem dX0_emptyRows_14 : decode cX0_emptyRows 14 = .ok (.ireturn, 1) := dk_172 (dk_at dksX0_emptyRows_0 14 rfl rfl)
theorem dX0_emptyRows_15 : decode cX0_emptyRows 15 = .ok (.iconst 0, 1) := dk_3 (dk_at dksX0_emptyRows_0 15 rfl rfl)
theorem dX0_emptyRows_16 : decode cX0_emptyRows 16 = .ok (.ireturn, 1) := dk_172 (dk_at dksX0_emptyRows_0 16 rfl rfl)
abbrev cX0_bandwidth : ByteArray := method_21_code
def yX0_bandwidth : MethodName := ⟨RX0, "bandwidth", "(LCsrCalculator;I[J)I"⟩
def dkwX0_bandwidth_0 : List UInt8 := [44, 3, 42, 27, 182, 0, 74, 133, 80, 167, 0, 6, 78, 4, 172, 3, 172]
abbrev dktX0_bandwidth_0 : List UInt8 := dkwX0_bandwidth_0 ++ []
theorem dksX0_bandwidth_0 : cX0_bandwidth.data.toList.drop 0 = dktX0_bandwidth_0 := by decide +kernel
theorem dX0_bandwidth_0 : decode cX0_bandwidth 0 = .ok (.aload_n 2, 1) := dk_44 (dk_at dksX0_bandwidth_0 0 rfl rfl)
theorem dX0_bandwidth_1 : decode cX0_bandwidth 1 = .ok (.iconst 0, 1) := dk_3 (dk_at dksX0_bandwidth_0 1 rfl rfl)
theorem dX0_bandwidth_2 : decode cX0_bandwidth 2 = .ok (.aload_n 0, 1) := dk_42 (dk_at dksX0_bandwidth_0 2 rfl rfl)
theorem dX0_bandwidth_3 : decode cX0_bandwidth 3 = .ok (.iload_n 1, 1) := dk_27 (dk_at dksX0_bandwidth_0 3 rfl rfl)
theorem dX0_bandwidth_4 : decode cX0_bandwidth 4 = .ok (.invokevirtual 74, 3) := dk_182 0 74 (dk_at dksX0_bandwidth_0 4 rfl rfl)
theorem dX0_bandwidth_7 : decode cX0_bandwidth 7 = .ok (.i2l, 1) := dk_133 (dk_at dksX0_bandwidth_0 7 rfl rfl)
theorem dX0_bandwidth_8 : decode cX0_bandwidth 8 = .ok (.lastore, 1) := dk_80 (dk_at dksX0_bandwidth_0 8 rfl rfl)
theorem dX0_bandwidth_9 : decode cX0_bandwidth 9 = .ok (.goto 6, 3) := dk_167 0 6 (dk_at dksX0_bandwidth_0 9 rfl rfl)
theorem dX0_bandwidth_12 : decode cX0_bandwidth 12 = .ok (.astore_n 3, 1) := dk_78 (dk_at dksX0_bandwidth_0 12 rfl rfl)
theorem dX0_bandwidth_13 : decode cX0_bandwidth 13 = .ok (.iconst 1, 1) := dk_4 (dk_at dksX0_bandwidth_0 13 rfl rfl)
theorem dX0_bandwidth_14 : decode cX0_bandwidth 14 = .ok (.ireturn, 1) := dk_172 (dk_at dksX0_bandwidth_0 14 rfl rfl)
theorem dX0_bandwidth_15 : decode cX0_bandwidth 15 = .ok (.iconst 0, 1) := dk_3 (dk_at dksX0_bandwidth_0 15 rfl rfl)
theorem dX0_bandwidth_16 : decode cX0_bandwidth 16 = .ok (.ireturn, 1) := dk_172 (dk_at dksX0_bandwidth_0 16 rfl rfl)
abbrev cX0_rowSum : ByteArray := method_22_code
def yX0_rowSum : MethodName := ⟨RX0, "rowSum", "(LCsrCalculator;II[J)I"⟩
def dkwX0_rowSum_0 : List UInt8 := [45, 3, 42, 27, 28, 182, 0, 77, 133, 80, 167, 0, 7, 58, 4, 4, 172, 3, 172]
abbrev dktX0_rowSum_0 : List UInt8 := dkwX0_rowSum_0 ++ []
theorem dksX0_rowSum_0 : cX0_rowSum.data.toList.drop 0 = dktX0_rowSum_0 := by decide +kernel
theorem dX0_rowSum_0 : decode cX0_rowSum 0 = .ok (.aload_n 3, 1) := dk_45 (dk_at dksX0_rowSum_0 0 rfl rfl)
theorem dX0_rowSum_1 : decode cX0_rowSum 1 = .ok (.iconst 0, 1) := dk_3 (dk_at dksX0_rowSum_0 1 rfl rfl)
theorem dX0_rowSum_2 : decode cX0_rowSum 2 = .ok (.aload_n 0, 1) := dk_42 (dk_at dksX0_rowSum_0 2 rfl rfl)
theorem dX0_rowSum_3 : decode cX0_rowSum 3 = .ok (.iload_n 1, 1) := dk_27 (dk_at dksX0_rowSum_0 3 rfl rfl)
theorem dX0_rowSum_4 : decode cX0_rowSum 4 = .ok (.iload_n 2, 1) := dk_28 (dk_at dksX0_rowSum_0 4 rfl rfl)
theorem dX0_rowSum_5 : decode cX0_rowSum 5 = .ok (.invokevirtual 77, 3) := dk_182 0 77 (dk_at dksX0_rowSum_0 5 rfl rfl)
theorem dX0_rowSum_8 : decode cX0_rowSum 8 = .ok (.i2l, 1) := dk_133 (dk_at dksX0_rowSum_0 8 rfl rfl)
theorem dX0_rowSum_9 : decode cX0_rowSum 9 = .ok (.lastore, 1) := dk_80 (dk_at dksX0_rowSum_0 9 rfl rfl)
theorem dX0_rowSum_10 : decode cX0_rowSum 10 = .ok (.goto 7, 3) := dk_167 0 7 (dk_at dksX0_rowSum_0 10 rfl rfl)
theorem dX0_rowSum_13 : decode cX0_rowSum 13 = .ok (.astore 4, 2) := dk_58 4 (dk_at dksX0_rowSum_0 13 rfl rfl)
theorem dX0_rowSum_15 : decode cX0_rowSum 15 = .ok (.iconst 1, 1) := dk_4 (dk_at dksX0_rowSum_0 15 rfl rfl)
theorem dX0_rowSum_16 : decode cX0_rowSum 16 = .ok (.ireturn, 1) := dk_172 (dk_at dksX0_rowSum_0 16 rfl rfl)
theorem dX0_rowSum_17 : decode cX0_rowSum 17 = .ok (.iconst 0, 1) := dk_3 (dk_at dksX0_rowSum_0 17 rfl rfl)
theorem dX0_rowSum_18 : decode cX0_rowSum 18 = .ok (.ireturn, 1) := dk_172 (dk_at dksX0_rowSum_0 18 rfl rfl)
abbrev cX0_largestMagnitude : ByteArray := method_23_code
def yX0_largestMagnitude : MethodName := ⟨RX0, "largestMagnitude", "(LCsrCalculator;I[J)I"⟩
def dkwX0_largestMagnitude_0 : List UInt8 := [44, 3, 42, 27, 182, 0, 80, 133, 80, 167, 0, 6, 78, 4, 172, 3, 172]
abbrev dktX0_largestMagnitude_0 : List UInt8 := dkwX0_largestMagnitude_0 ++ []
theorem dksX0_largestMagnitude_0 : cX0_largestMagnitude.data.toList.drop 0 = dktX0_largestMagnitude_0 := by decide +kernel
theorem dX0_largestMagnitude_0 : decode cX0_largestMagnitude 0 = .ok (.aload_n 2, 1) := dk_44 (dk_at dksX0_largestMagnitude_0 0 rfl rfl)
theorem dX0_largestMagnitude_1 : decode cX0_largestMagnitude 1 = .ok (.iconst 0, 1) := dk_3 (dk_at dksX0_largestMagnitude_0 1 rfl rfl)
theorem dX0_largestMagnitude_2 : decode cX0_largestMagnitude 2 = .ok (.aload_n 0, 1) := dk_42 (dk_at dksX0_largestMagnitude_0 2 rfl rfl)
theorem dX0_largestMagnitude_3 : decode cX0_largestMagnitude 3 = .ok (.iload_n 1, 1) := dk_27 (dk_at dksX0_largestMagnitude_0 3 rfl rfl)
theorem dX0_largestMagnitude_4 : decode cX0_largestMagnitude 4 = .ok (.invokevirtual 80, 3) := dk_182 0 80 (dk_at dksX0_largestMagnitude_0 4 rfl rfl)
theorem dX0_largestMagnitude_7 : decode cX0_largestMagnitude 7 = .ok (.i2l, 1) := dk_133 (dk_at dksX0_largestMagnitude_0 7 rfl rfl)
theorem dX0_largestMagnitude_8 : decode cX0_largestMagnitude 8 = .ok (.lastore, 1) := dk_80 (dk_at dksX0_largestMagnitude_0 8 rfl rfl)
theorem dX0_largestMagnitude_9 : decode cX0_largestMagnitude 9 = .ok (.goto 6, 3) := dk_167 0 6 (dk_at dksX0_largestMagnitude_0 9 rfl rfl)
theorem dX0_largestMagnitude_12 : decode cX0_largestMagnitude 12 = .ok (.astore_n 3, 1) := dk_78 (dk_at dksX0_largestMagnitude_0 12 rfl rfl)
theorem dX0_largestMagnitude_13 : decode cX0_largestMagnitude 13 = .ok (.iconst 1, 1) := dk_4 (dk_at dksX0_largestMagnitude_0 13 rfl rfl)
theorem dX0_largestMagnitude_14 : decode cX0_largestMagnitude 14 = .ok (.ireturn, 1) := dk_172 (dk_at dksX0_largestMagnitude_0 14 rfl rfl)
theorem dX0_largestMagnitude_15 : decode cX0_largestMagnitude 15 = .ok (.iconst 0, 1) := dk_3 (dk_at dksX0_largestMagnitude_0 15 rfl rfl)
theorem dX0_largestMagnitude_16 : decode cX0_largestMagnitude 16 = .ok (.ireturn, 1) := dk_172 (dk_at dksX0_largestMagnitude_0 16 rfl rfl)
abbrev cX0_trace : ByteArray := method_24_code
def yX0_trace : MethodName := ⟨RX0, "trace", "(LCsrCalculator;I[J)I"⟩
def dkwX0_trace_0 : List UInt8 := [44, 3, 42, 27, 182, 0, 83, 133, 80, 167, 0, 9, 78, 4, 172, 78, 5, 172, 3, 172]
abbrev dktX0_trace_0 : List UInt8 := dkwX0_trace_0 ++ []
theorem dksX0_trace_0 : cX0_trace.data.toList.drop 0 = dktX0_trace_0 := by decide +kernel
theorem dX0_trace_0 : decode cX0_trace 0 = .ok (.aload_n 2, 1) := dk_44 (dk_at dksX0_trace_0 0 rfl rfl)
theorem dX0_trace_1 : decode cX0_trace 1 = .ok (.iconst 0, 1) := dk_3 (dk_at dksX0_trace_0 1 rfl rfl)
theorem dX0_trace_2 : decode cX0_trace 2 = .ok (.aload_n 0, 1) := dk_42 (dk_at dksX0_trace_0 2 rfl rfl)
theorem dX0_trace_3 : decode cX0_trace 3 = .ok (.iload_n 1, 1) := dk_27 (dk_at dksX0_trace_0 3 rfl rfl)
theorem dX0_trace_4 : decode cX0_trace 4 = .ok (.invokevirtual 83, 3) := dk_182 0 83 (dk_at dksX0_trace_0 4 rfl rfl)
theorem dX0_trace_7 : decode cX0_trace 7 = .ok (.i2l, 1) := dk_133 (dk_at dksX0_trace_0 7 rfl rfl)
theorem dX0_trace_8 : decode cX0_trace 8 = .ok (.lastore, 1) := dk_80 (dk_at dksX0_trace_0 8 rfl rfl)
theorem dX0_trace_9 : decode cX0_trace 9 = .ok (.goto 9, 3) := dk_167 0 9 (dk_at dksX0_trace_0 9 rfl rfl)
theorem dX0_trace_12 : decode cX0_trace 12 = .ok (.astore_n 3, 1) := dk_78 (dk_at dksX0_trace_0 12 rfl rfl)
theorem dX0_trace_13 : decode cX0_trace 13 = .ok (.iconst 1, 1) := dk_4 (dk_at dksX0_trace_0 13 rfl rfl)
theorem dX0_trace_14 : decode cX0_trace 14 = .ok (.ireturn, 1) := dk_172 (dk_at dksX0_trace_0 14 rfl rfl)
theorem dX0_trace_15 : decode cX0_trace 15 = .ok (.astore_n 3, 1) := dk_78 (dk_at dksX0_trace_0 15 rfl rfl)
theorem dX0_trace_16 : decode cX0_trace 16 = .ok (.iconst 2, 1) := dk_5 (dk_at dksX0_trace_0 16 rfl rfl)
theorem dX0_trace_17 : decode cX0_trace 17 = .ok (.ireturn, 1) := dk_172 (dk_at dksX0_trace_0 17 rfl rfl)
theorem dX0_trace_18 : decode cX0_trace 18 = .ok (.iconst 0, 1) := dk_3 (dk_at dksX0_trace_0 18 rfl rfl)
theorem dX0_trace_19 : decode cX0_trace 19 = .ok (.ireturn, 1) := dk_172 (dk_at dksX0_trace_0 19 rfl rfl)
abbrev cX0_isSymmetric : ByteArray := method_25_code
def yX0_isSymmetric : MethodName := ⟨RX0, "isSymmetric", "(LCsrCalculator;I[J)I"⟩
def dkwX0_isSymmetric_0 : List UInt8 := [44, 3, 42, 27, 182, 0, 86, 153, 0, 7, 10, 167, 0, 4, 9, 80, 167, 0, 6, 78, 4, 172, 3, 172]
abbrev dktX0_isSymmetric_0 : List UInt8 := dkwX0_isSymmetric_0 ++ []
theorem dksX0_isSymmetric_0 : cX0_isSymmetric.data.toList.drop 0 = dktX0_isSymmetric_0 := by decide +kernel
theorem dX0_isSymmetric_0 : decode cX0_isSymmetric 0 = .ok (.aload_n 2, 1) := dk_44 (dk_at dksX0_isSymmetric_0 0 rfl rfl)
theorem dX0_isSymmetric_1 : decode cX0_isSymmetric 1 = .ok (.iconst 0, 1) := dk_3 (dk_at dksX0_isSymmetric_0 1 rfl rfl)
theorem dX0_isSymmetric_2 : decode cX0_isSymmetric 2 = .ok (.aload_n 0, 1) := dk_42 (dk_at dksX0_isSymmetric_0 2 rfl rfl)
theorem dX0_isSymmetric_3 : decode cX0_isSymmetric 3 = .ok (.iload_n 1, 1) := dk_27 (dk_at dksX0_isSymmetric_0 3 rfl rfl)
theorem dX0_isSymmetric_4 : decode cX0_isSymmetric 4 = .ok (.invokevirtual 86, 3) := dk_182 0 86 (dk_at dksX0_isSymmetric_0 4 rfl rfl)
theorem dX0_isSymmetric_7 : decode cX0_isSymmetric 7 = .ok (.ifCond .eq 7, 3) := dk_153 0 7 (dk_at dksX0_isSymmetric_0 7 rfl rfl)
theorem dX0_isSymmetric_10 : decode cX0_isSymmetric 10 = .ok (.lconst 1, 1) := dk_10 (dk_at dksX0_isSymmetric_0 10 rfl rfl)
theorem dX0_isSymmetric_11 : decode cX0_isSymmetric 11 = .ok (.goto 4, 3) := dk_167 0 4 (dk_at dksX0_isSymmetric_0 11 rfl rfl)
theorem dX0_isSymmetric_14 : decode cX0_isSymmetric 14 = .ok (.lconst 0, 1) := dk_9 (dk_at dksX0_isSymmetric_0 14 rfl rfl)
theorem dX0_isSymmetric_15 : decode cX0_isSymmetric 15 = .ok (.lastore, 1) := dk_80 (dk_at dksX0_isSymmetric_0 15 rfl rfl)
theorem dX0_isSymmetric_16 : decode cX0_isSymmetric 16 = .ok (.goto 6, 3) := dk_167 0 6 (dk_at dksX0_isSymmetric_0 16 rfl rfl)
theorem dX0_isSymmetric_19 : decode cX0_isSymmetric 19 = .ok (.astore_n 3, 1) := dk_78 (dk_at dksX0_isSymmetric_0 19 rfl rfl)
theorem dX0_isSymmetric_20 : decode cX0_isSymmetric 20 = .ok (.iconst 1, 1) := dk_4 (dk_at dksX0_isSymmetric_0 20 rfl rfl)
theorem dX0_isSymmetric_21 : decode cX0_isSymmetric 21 = .ok (.ireturn, 1) := dk_172 (dk_at dksX0_isSymmetric_0 21 rfl rfl)
theorem dX0_isSymmetric_22 : decode cX0_isSymmetric 22 = .ok (.iconst 0, 1) := dk_3 (dk_at dksX0_isSymmetric_0 22 rfl rfl)
theorem dX0_isSymmetric_23 : decode cX0_isSymmetric 23 = .ok (.ireturn, 1) := dk_172 (dk_at dksX0_isSymmetric_0 23 rfl rfl)
abbrev cX0_haveSameValues : ByteArray := method_26_code
def yX0_haveSameValues : MethodName := ⟨RX0, "haveSameValues", "(LCsrCalculator;II[J)I"⟩
def dkwX0_haveSameValues_1 : List UInt8 := [3, 172]
abbrev dktX0_haveSameValues_1 : List UInt8 := dkwX0_haveSameValues_1 ++ []
def dkwX0_haveSameValues_0 : List UInt8 := [45, 3, 42, 27, 28, 182, 0, 90, 153, 0, 7, 10, 167, 0, 4, 9, 80, 167, 0, 7, 58, 4, 4, 172]
abbrev dktX0_haveSameValues_0 : List UInt8 := dkwX0_haveSameValues_0 ++ dktX0_haveSameValues_1
theorem dksX0_haveSameValues_0 : cX0_haveSameValues.data.toList.drop 0 = dktX0_haveSameValues_0 := by decide +kernel
theorem dksX0_haveSameValues_1 : cX0_haveSameValues.data.toList.drop 24 = dktX0_haveSameValues_1 := dk_seg dksX0_haveSameValues_0 24 rfl rfl
theorem dX0_haveSameValues_0 : decode cX0_haveSameValues 0 = .ok (.aload_n 3, 1) := dk_45 (dk_at dksX0_haveSameValues_0 0 rfl rfl)
theorem dX0_haveSameValues_1 : decode cX0_haveSameValues 1 = .ok (.iconst 0, 1) := dk_3 (dk_at dksX0_haveSameValues_0 1 rfl rfl)
theorem dX0_haveSameValues_2 : decode cX0_haveSameValues 2 = .ok (.aload_n 0, 1) := dk_42 (dk_at dksX0_haveSameValues_0 2 rfl rfl)
theorem dX0_haveSameValues_3 : decode cX0_haveSameValues 3 = .ok (.iload_n 1, 1) := dk_27 (dk_at dksX0_haveSameValues_0 3 rfl rfl)
theorem dX0_haveSameValues_4 : decode cX0_haveSameValues 4 = .ok (.iload_n 2, 1) := dk_28 (dk_at dksX0_haveSameValues_0 4 rfl rfl)
theorem dX0_haveSameValues_5 : decode cX0_haveSameValues 5 = .ok (.invokevirtual 90, 3) := dk_182 0 90 (dk_at dksX0_haveSameValues_0 5 rfl rfl)
theorem dX0_haveSameValues_8 : decode cX0_haveSameValues 8 = .ok (.ifCond .eq 7, 3) := dk_153 0 7 (dk_at dksX0_haveSameValues_0 8 rfl rfl)
theorem dX0_haveSameValues_11 : decode cX0_haveSameValues 11 = .ok (.lconst 1, 1) := dk_10 (dk_at dksX0_haveSameValues_0 11 rfl rfl)
theorem dX0_haveSameValues_12 : decode cX0_haveSameValues 12 = .ok (.goto 4, 3) := dk_167 0 4 (dk_at dksX0_haveSameValues_0 12 rfl rfl)
theorem dX0_haveSameValues_15 : decode cX0_haveSameValues 15 = .ok (.lconst 0, 1) := dk_9 (dk_at dksX0_haveSameValues_0 15 rfl rfl)
theorem dX0_haveSameValues_16 : decode cX0_haveSameValues 16 = .ok (.lastore, 1) := dk_80 (dk_at dksX0_haveSameValues_0 16 rfl rfl)
theorem dX0_haveSameValues_17 : decode cX0_haveSameValues 17 = .ok (.goto 7, 3) := dk_167 0 7 (dk_at dksX0_haveSameValues_0 17 rfl rfl)
theorem dX0_haveSameValues_20 : decode cX0_haveSameValues 20 = .ok (.astore 4, 2) := dk_58 4 (dk_at dksX0_haveSameValues_0 20 rfl rfl)
theorem dX0_haveSameValues_22 : decode cX0_haveSameValues 22 = .ok (.iconst 1, 1) := dk_4 (dk_at dksX0_haveSameValues_0 22 rfl rfl)
theorem dX0_haveSameValues_23 : decode cX0_haveSameValues 23 = .ok (.ireturn, 1) := dk_172 (dk_at dksX0_haveSameValues_0 23 rfl rfl)
theorem dX0_haveSameValues_24 : decode cX0_haveSameValues 24 = .ok (.iconst 0, 1) := dk_3 (dk_at dksX0_haveSameValues_1 0 rfl rfl)
theorem dX0_haveSameValues_25 : decode cX0_haveSameValues 25 = .ok (.ireturn, 1) := dk_172 (dk_at dksX0_haveSameValues_1 1 rfl rfl)
abbrev cX0_haveSameStructure : ByteArray := method_27_code
def yX0_haveSameStructure : MethodName := ⟨RX0, "haveSameStructure", "(LCsrCalculator;II[J)I"⟩
def dkwX0_haveSameStructure_1 : List UInt8 := [3, 172]
abbrev dktX0_haveSameStructure_1 : List UInt8 := dkwX0_haveSameStructure_1 ++ []
def dkwX0_haveSameStructure_0 : List UInt8 := [45, 3, 42, 27, 28, 182, 0, 94, 153, 0, 7, 10, 167, 0, 4, 9, 80, 167, 0, 7, 58, 4, 4, 172]
abbrev dktX0_haveSameStructure_0 : List UInt8 := dkwX0_haveSameStructure_0 ++ dktX0_haveSameStructure_1
theorem dksX0_haveSameStructure_0 : cX0_haveSameStructure.data.toList.drop 0 = dktX0_haveSameStructure_0 := by decide +kernel
theorem dksX0_haveSameStructure_1 : cX0_haveSameStructure.data.toList.drop 24 = dktX0_haveSameStructure_1 := dk_seg dksX0_haveSameStructure_0 24 rfl rfl
theorem dX0_haveSameStructure_0 : decode cX0_haveSameStructure 0 = .ok (.aload_n 3, 1) := dk_45 (dk_at dksX0_haveSameStructure_0 0 rfl rfl)
theorem dX0_haveSameStructure_1 : decode cX0_haveSameStructure 1 = .ok (.iconst 0, 1) := dk_3 (dk_at dksX0_haveSameStructure_0 1 rfl rfl)
theorem dX0_haveSameStructure_2 : decode cX0_haveSameStructure 2 = .ok (.aload_n 0, 1) := dk_42 (dk_at dksX0_haveSameStructure_0 2 rfl rfl)
theorem dX0_haveSameStructure_3 : decode cX0_haveSameStructure 3 = .ok (.iload_n 1, 1) := dk_27 (dk_at dksX0_haveSameStructure_0 3 rfl rfl)
theorem dX0_haveSameStructure_4 : decode cX0_haveSameStructure 4 = .ok (.iload_n 2, 1) := dk_28 (dk_at dksX0_haveSameStructure_0 4 rfl rfl)
theorem dX0_haveSameStructure_5 : decode cX0_haveSameStructure 5 = .ok (.invokevirtual 94, 3) := dk_182 0 94 (dk_at dksX0_haveSameStructure_0 5 rfl rfl)
theorem dX0_haveSameStructure_8 : decode cX0_haveSameStructure 8 = .ok (.ifCond .eq 7, 3) := dk_153 0 7 (dk_at dksX0_haveSameStructure_0 8 rfl rfl)
theorem dX0_haveSameStructure_11 : decode cX0_haveSameStructure 11 = .ok (.lconst 1, 1) := dk_10 (dk_at dksX0_haveSameStructure_0 11 rfl rfl)
theorem dX0_haveSameStructure_12 : decode cX0_haveSameStructure 12 = .ok (.goto 4, 3) := dk_167 0 4 (dk_at dksX0_haveSameStructure_0 12 rfl rfl)
theorem dX0_haveSameStructure_15 : decode cX0_haveSameStructure 15 = .ok (.lconst 0, 1) := dk_9 (dk_at dksX0_haveSameStructure_0 15 rfl rfl)
theorem dX0_haveSameStructure_16 : decode cX0_haveSameStructure 16 = .ok (.lastore, 1) := dk_80 (dk_at dksX0_haveSameStructure_0 16 rfl rfl)
theorem dX0_haveSameStructure_17 : decode cX0_haveSameStructure 17 = .ok (.goto 7, 3) := dk_167 0 7 (dk_at dksX0_haveSameStructure_0 17 rfl rfl)
theorem dX0_haveSameStructure_20 : decode cX0_haveSameStructure 20 = .ok (.astore 4, 2) := dk_58 4 (dk_at dksX0_haveSameStructure_0 20 rfl rfl)
theorem dX0_haveSameStructure_22 : decode cX0_haveSameStructure 22 = .ok (.iconst 1, 1) := dk_4 (dk_at dksX0_haveSameStructure_0 22 rfl rfl)
theorem dX0_haveSameStructure_23 : decode cX0_haveSameStructure 23 = .ok (.ireturn, 1) := dk_172 (dk_at dksX0_haveSameStructure_0 23 rfl rfl)
theorem dX0_haveSameStructure_24 : decode cX0_haveSameStructure 24 = .ok (.iconst 0, 1) := dk_3 (dk_at dksX0_haveSameStructure_1 0 rfl rfl)
theorem dX0_haveSameStructure_25 : decode cX0_haveSameStructure 25 = .ok (.ireturn, 1) := dk_172 (dk_at dksX0_haveSameStructure_1 1 rfl rfl)
abbrev cX0_sumObstacle : ByteArray := method_28_code
def yX0_sumObstacle : MethodName := ⟨RX0, "sumObstacle", "(LCsrCalculator;II[J)I"⟩
def dkwX0_sumObstacle_0 : List UInt8 := [45, 3, 42, 27, 28, 182, 0, 97, 133, 80, 167, 0, 7, 58, 4, 4, 172, 3, 172]
abbrev dktX0_sumObstacle_0 : List UInt8 := dkwX0_sumObstacle_0 ++ []
theorem dksX0_sumObstacle_0 : cX0_sumObstacle.data.toList.drop 0 = dktX0_sumObstacle_0 := by decide +kernel
theorem dX0_sumObstacle_0 : decode cX0_sumObstacle 0 = .ok (.aload_n 3, 1) := dk_45 (dk_at dksX0_sumObstacle_0 0 rfl rfl)
theorem dX0_sumObstacle_1 : decode cX0_sumObstacle 1 = .ok (.iconst 0, 1) := dk_3 (dk_at dksX0_sumObstacle_0 1 rfl rfl)
theorem dX0_sumObstacle_2 : decode cX0_sumObstacle 2 = .ok (.aload_n 0, 1) := dk_42 (dk_at dksX0_sumObstacle_0 2 rfl rfl)
theorem dX0_sumObstacle_3 : decode cX0_sumObstacle 3 = .ok (.iload_n 1, 1) := dk_27 (dk_at dksX0_sumObstacle_0 3 rfl rfl)
theorem dX0_sumObstacle_4 : decode cX0_sumObstacle 4 = .ok (.iload_n 2, 1) := dk_28 (dk_at dksX0_sumObstacle_0 4 rfl rfl)
theorem dX0_sumObstacle_5 : decode cX0_sumObstacle 5 = .ok (.invokevirtual 97, 3) := dk_182 0 97 (dk_at dksX0_sumObstacle_0 5 rfl rfl)
theorem dX0_sumObstacle_8 : decode cX0_sumObstacle 8 = .ok (.i2l, 1) := dk_133 (dk_at dksX0_sumObstacle_0 8 rfl rfl)
theorem dX0_sumObstacle_9 : decode cX0_sumObstacle 9 = .ok (.lastore, 1) := dk_80 (dk_at dksX0_sumObstacle_0 9 rfl rfl)
theorem dX0_sumObstacle_10 : decode cX0_sumObstacle 10 = .ok (.goto 7, 3) := dk_167 0 7 (dk_at dksX0_sumObstacle_0 10 rfl rfl)
theorem dX0_sumObstacle_13 : decode cX0_sumObstacle 13 = .ok (.astore 4, 2) := dk_58 4 (dk_at dksX0_sumObstacle_0 13 rfl rfl)
theorem dX0_sumObstacle_15 : decode cX0_sumObstacle 15 = .ok (.iconst 1, 1) := dk_4 (dk_at dksX0_sumObstacle_0 15 rfl rfl)
theorem dX0_sumObstacle_16 : decode cX0_sumObstacle 16 = .ok (.ireturn, 1) := dk_172 (dk_at dksX0_sumObstacle_0 16 rfl rfl)
theorem dX0_sumObstacle_17 : decode cX0_sumObstacle 17 = .ok (.iconst 0, 1) := dk_3 (dk_at dksX0_sumObstacle_0 17 rfl rfl)
theorem dX0_sumObstacle_18 : decode cX0_sumObstacle 18 = .ok (.ireturn, 1) := dk_172 (dk_at dksX0_sumObstacle_0 18 rfl rfl)
abbrev cX0_productObstacle : ByteArray := method_29_code
def yX0_productObstacle : MethodName := ⟨RX0, "productObstacle", "(LCsrCalculator;II[J)I"⟩
def dkwX0_productObstacle_0 : List UInt8 := [45, 3, 42, 27, 28, 182, 0, 100, 133, 80, 167, 0, 7, 58, 4, 4, 172, 3, 172]
abbrev dktX0_productObstacle_0 : List UInt8 := dkwX0_productObstacle_0 ++ []
theorem dksX0_productObstacle_0 : cX0_productObstacle.data.toList.drop 0 = dktX0_productObstacle_0 := by decide +kernel
theorem dX0_productObstacle_0 : decode cX0_productObstacle 0 = .ok (.aload_n 3, 1) := dk_45 (dk_at dksX0_productObstacle_0 0 rfl rfl)
theorem dX0_productObstacle_1 : decode cX0_productObstacle 1 = .ok (.iconst 0, 1) := dk_3 (dk_at dksX0_productObstacle_0 1 rfl rfl)
theorem dX0_productObstacle_2 : decode cX0_productObstacle 2 = .ok (.aload_n 0, 1) := dk_42 (dk_at dksX0_productObstacle_0 2 rfl rfl)
theorem dX0_productObstacle_3 : decode cX0_productObstacle 3 = .ok (.iload_n 1, 1) := dk_27 (dk_at dksX0_productObstacle_0 3 rfl rfl)
theorem dX0_productObstacle_4 : decode cX0_productObstacle 4 = .ok (.iload_n 2, 1) := dk_28 (dk_at dksX0_productObstacle_0 4 rfl rfl)
theorem dX0_productObstacle_5 : decode cX0_productObstacle 5 = .ok (.invokevirtual 100, 3) := dk_182 0 100 (dk_at dksX0_productObstacle_0 5 rfl rfl)
theorem dX0_productObstacle_8 : decode cX0_productObstacle 8 = .ok (.i2l, 1) := dk_133 (dk_at dksX0_productObstacle_0 8 rfl rfl)
theorem dX0_productObstacle_9 : decode cX0_productObstacle 9 = .ok (.lastore, 1) := dk_80 (dk_at dksX0_productObstacle_0 9 rfl rfl)
theorem dX0_productObstacle_10 : decode cX0_productObstacle 10 = .ok (.goto 7, 3) := dk_167 0 7 (dk_at dksX0_productObstacle_0 10 rfl rfl)
theorem dX0_productObstacle_13 : decode cX0_productObstacle 13 = .ok (.astore 4, 2) := dk_58 4 (dk_at dksX0_productObstacle_0 13 rfl rfl)
theorem dX0_productObstacle_15 : decode cX0_productObstacle 15 = .ok (.iconst 1, 1) := dk_4 (dk_at dksX0_productObstacle_0 15 rfl rfl)
theorem dX0_productObstacle_16 : decode cX0_productObstacle 16 = .ok (.ireturn, 1) := dk_172 (dk_at dksX0_productObstacle_0 16 rfl rfl)
theorem dX0_productObstacle_17 : decode cX0_productObstacle 17 = .ok (.iconst 0, 1) := dk_3 (dk_at dksX0_productObstacle_0 17 rfl rfl)
theorem dX0_productObstacle_18 : decode cX0_productObstacle 18 = .ok (.ireturn, 1) := dk_172 (dk_at dksX0_productObstacle_0 18 rfl rfl)
abbrev cX0_productStoredCount : ByteArray := method_30_code
def yX0_productStoredCount : MethodName := ⟨RX0, "productStoredCount", "(LCsrCalculator;II[J)I"⟩
def dkwX0_productStoredCount_0 : List UInt8 := [45, 3, 42, 27, 28, 182, 0, 103, 133, 80, 167, 0, 7, 58, 4, 4, 172, 3, 172]
abbrev dktX0_productStoredCount_0 : List UInt8 := dkwX0_productStoredCount_0 ++ []
theorem dksX0_productStoredCount_0 : cX0_productStoredCount.data.toList.drop 0 = dktX0_productStoredCount_0 := by decide +kernel
theorem dX0_productStoredCount_0 : decode cX0_productStoredCount 0 = .ok (.aload_n 3, 1) := dk_45 (dk_at dksX0_productStoredCount_0 0 rfl rfl)
theorem dX0_productStoredCount_1 : decode cX0_productStoredCount 1 = .ok (.iconst 0, 1) := dk_3 (dk_at dksX0_productStoredCount_0 1 rfl rfl)
theorem dX0_productStoredCount_2 : decode cX0_productStoredCount 2 = .ok (.aload_n 0, 1) := dk_42 (dk_at dksX0_productStoredCount_0 2 rfl rfl)
theorem dX0_productStoredCount_3 : decode cX0_productStoredCount 3 = .ok (.iload_n 1, 1) := dk_27 (dk_at dksX0_productStoredCount_0 3 rfl rfl)
theorem dX0_productStoredCount_4 : decode cX0_productStoredCount 4 = .ok (.iload_n 2, 1) := dk_28 (dk_at dksX0_productStoredCount_0 4 rfl rfl)
theorem dX0_productStoredCount_5 : decode cX0_productStoredCount 5 = .ok (.invokevirtual 103, 3) := dk_182 0 103 (dk_at dksX0_productStoredCount_0 5 rfl rfl)
theorem dX0_productStoredCount_8 : decode cX0_productStoredCount 8 = .ok (.i2l, 1) := dk_133 (dk_at dksX0_productStoredCount_0 8 rfl rfl)
theorem dX0_productStoredCount_9 : decode cX0_productStoredCount 9 = .ok (.lastore, 1) := dk_80 (dk_at dksX0_productStoredCount_0 9 rfl rfl)
theorem dX0_productStoredCount_10 : decode cX0_productStoredCount 10 = .ok (.goto 7, 3) := dk_167 0 7 (dk_at dksX0_productStoredCount_0 10 rfl rfl)
theorem dX0_productStoredCount_13 : decode cX0_productStoredCount 13 = .ok (.astore 4, 2) := dk_58 4 (dk_at dksX0_productStoredCount_0 13 rfl rfl)
theorem dX0_productStoredCount_15 : decode cX0_productStoredCount 15 = .ok (.iconst 1, 1) := dk_4 (dk_at dksX0_productStoredCount_0 15 rfl rfl)
theorem dX0_productStoredCount_16 : decode cX0_productStoredCount 16 = .ok (.ireturn, 1) := dk_172 (dk_at dksX0_productStoredCount_0 16 rfl rfl)
theorem dX0_productStoredCount_17 : decode cX0_productStoredCount 17 = .ok (.iconst 0, 1) := dk_3 (dk_at dksX0_productStoredCount_0 17 rfl rfl)
theorem dX0_productStoredCount_18 : decode cX0_productStoredCount 18 = .ok (.ireturn, 1) := dk_172 (dk_at dksX0_productStoredCount_0 18 rfl rfl)
abbrev cX0_productWork : ByteArray := method_31_code
def yX0_productWork : MethodName := ⟨RX0, "productWork", "(LCsrCalculator;II[J)I"⟩
def dkwX0_productWork_0 : List UInt8 := [45, 3, 42, 27, 28, 182, 0, 106, 133, 80, 167, 0, 7, 58, 4, 4, 172, 3, 172]
abbrev dktX0_productWork_0 : List UInt8 := dkwX0_productWork_0 ++ []
theorem dksX0_productWork_0 : cX0_productWork.data.toList.drop 0 = dktX0_productWork_0 := by decide +kernel
theorem dX0_productWork_0 : decode cX0_productWork 0 = .ok (.aload_n 3, 1) := dk_45 (dk_at dksX0_productWork_0 0 rfl rfl)
theorem dX0_productWork_1 : decode cX0_productWork 1 = .ok (.iconst 0, 1) := dk_3 (dk_at dksX0_productWork_0 1 rfl rfl)
theorem dX0_productWork_2 : decode cX0_productWork 2 = .ok (.aload_n 0, 1) := dk_42 (dk_at dksX0_productWork_0 2 rfl rfl)
theorem dX0_productWork_3 : decode cX0_productWork 3 = .ok (.iload_n 1, 1) := dk_27 (dk_at dksX0_productWork_0 3 rfl rfl)
theorem dX0_productWork_4 : decode cX0_productWork 4 = .ok (.iload_n 2, 1) := dk_28 (dk_at dksX0_productWork_0 4 rfl rfl)
theorem dX0_productWork_5 : decode cX0_productWork 5 = .ok (.invokevirtual 106, 3) := dk_182 0 106 (dk_at dksX0_productWork_0 5 rfl rfl)
theorem dX0_productWork_8 : decode cX0_productWork 8 = .ok (.i2l, 1) := dk_133 (dk_at dksX0_productWork_0 8 rfl rfl)
theorem dX0_productWork_9 : decode cX0_productWork 9 = .ok (.lastore, 1) := dk_80 (dk_at dksX0_productWork_0 9 rfl rfl)
theorem dX0_productWork_10 : decode cX0_productWork 10 = .ok (.goto 7, 3) := dk_167 0 7 (dk_at dksX0_productWork_0 10 rfl rfl)
theorem dX0_productWork_13 : decode cX0_productWork 13 = .ok (.astore 4, 2) := dk_58 4 (dk_at dksX0_productWork_0 13 rfl rfl)
theorem dX0_productWork_15 : decode cX0_productWork 15 = .ok (.iconst 1, 1) := dk_4 (dk_at dksX0_productWork_0 15 rfl rfl)
theorem dX0_productWork_16 : decode cX0_productWork 16 = .ok (.ireturn, 1) := dk_172 (dk_at dksX0_productWork_0 16 rfl rfl)
theorem dX0_productWork_17 : decode cX0_productWork 17 = .ok (.iconst 0, 1) := dk_3 (dk_at dksX0_productWork_0 17 rfl rfl)
theorem dX0_productWork_18 : decode cX0_productWork 18 = .ok (.ireturn, 1) := dk_172 (dk_at dksX0_productWork_0 18 rfl rfl)
abbrev cX0_sumStoredCount : ByteArray := method_32_code
def yX0_sumStoredCount : MethodName := ⟨RX0, "sumStoredCount", "(LCsrCalculator;II[J)I"⟩
def dkwX0_sumStoredCount_0 : List UInt8 := [45, 3, 42, 27, 28, 182, 0, 109, 133, 80, 167, 0, 7, 58, 4, 4, 172, 3, 172]
abbrev dktX0_sumStoredCount_0 : List UInt8 := dkwX0_sumStoredCount_0 ++ []
theorem dksX0_sumStoredCount_0 : cX0_sumStoredCount.data.toList.drop 0 = dktX0_sumStoredCount_0 := by decide +kernel
theorem dX0_sumStoredCount_0 : decode cX0_sumStoredCount 0 = .ok (.aload_n 3, 1) := dk_45 (dk_at dksX0_sumStoredCount_0 0 rfl rfl)
theorem dX0_sumStoredCount_1 : decode cX0_sumStoredCount 1 = .ok (.iconst 0, 1) := dk_3 (dk_at dksX0_sumStoredCount_0 1 rfl rfl)
theorem dX0_sumStoredCount_2 : decode cX0_sumStoredCount 2 = .ok (.aload_n 0, 1) := dk_42 (dk_at dksX0_sumStoredCount_0 2 rfl rfl)
theorem dX0_sumStoredCount_3 : decode cX0_sumStoredCount 3 = .ok (.iload_n 1, 1) := dk_27 (dk_at dksX0_sumStoredCount_0 3 rfl rfl)
theorem dX0_sumStoredCount_4 : decode cX0_sumStoredCount 4 = .ok (.iload_n 2, 1) := dk_28 (dk_at dksX0_sumStoredCount_0 4 rfl rfl)
theorem dX0_sumStoredCount_5 : decode cX0_sumStoredCount 5 = .ok (.invokevirtual 109, 3) := dk_182 0 109 (dk_at dksX0_sumStoredCount_0 5 rfl rfl)
theorem dX0_sumStoredCount_8 : decode cX0_sumStoredCount 8 = .ok (.i2l, 1) := dk_133 (dk_at dksX0_sumStoredCount_0 8 rfl rfl)
theorem dX0_sumStoredCount_9 : decode cX0_sumStoredCount 9 = .ok (.lastore, 1) := dk_80 (dk_at dksX0_sumStoredCount_0 9 rfl rfl)
theorem dX0_sumStoredCount_10 : decode cX0_sumStoredCount 10 = .ok (.goto 7, 3) := dk_167 0 7 (dk_at dksX0_sumStoredCount_0 10 rfl rfl)
theorem dX0_sumStoredCount_13 : decode cX0_sumStoredCount 13 = .ok (.astore 4, 2) := dk_58 4 (dk_at dksX0_sumStoredCount_0 13 rfl rfl)
theorem dX0_sumStoredCount_15 : decode cX0_sumStoredCount 15 = .ok (.iconst 1, 1) := dk_4 (dk_at dksX0_sumStoredCount_0 15 rfl rfl)
theorem dX0_sumStoredCount_16 : decode cX0_sumStoredCount 16 = .ok (.ireturn, 1) := dk_172 (dk_at dksX0_sumStoredCount_0 16 rfl rfl)
theorem dX0_sumStoredCount_17 : decode cX0_sumStoredCount 17 = .ok (.iconst 0, 1) := dk_3 (dk_at dksX0_sumStoredCount_0 17 rfl rfl)
theorem dX0_sumStoredCount_18 : decode cX0_sumStoredCount 18 = .ok (.ireturn, 1) := dk_172 (dk_at dksX0_sumStoredCount_0 18 rfl rfl)
abbrev cX0_costliestEntry : ByteArray := method_33_code
def yX0_costliestEntry : MethodName := ⟨RX0, "costliestEntry", "(LCsrCalculator;II[J)I"⟩
def dkwX0_costliestEntry_0 : List UInt8 := [45, 3, 42, 27, 28, 182, 0, 112, 133, 80, 167, 0, 7, 58, 4, 4, 172, 3, 172]
abbrev dktX0_costliestEntry_0 : List UInt8 := dkwX0_costliestEntry_0 ++ []
theorem dksX0_costliestEntry_0 : cX0_costliestEntry.data.toList.drop 0 = dktX0_costliestEntry_0 := by decide +kernel
theorem dX0_costliestEntry_0 : decode cX0_costliestEntry 0 = .ok (.aload_n 3, 1) := dk_45 (dk_at dksX0_costliestEntry_0 0 rfl rfl)
theorem dX0_costliestEntry_1 : decode cX0_costliestEntry 1 = .ok (.iconst 0, 1) := dk_3 (dk_at dksX0_costliestEntry_0 1 rfl rfl)
theorem dX0_costliestEntry_2 : decode cX0_costliestEntry 2 = .ok (.aload_n 0, 1) := dk_42 (dk_at dksX0_costliestEntry_0 2 rfl rfl)
theorem dX0_costliestEntry_3 : decode cX0_costliestEntry 3 = .ok (.iload_n 1, 1) := dk_27 (dk_at dksX0_costliestEntry_0 3 rfl rfl)
theorem dX0_costliestEntry_4 : decode cX0_costliestEntry 4 = .ok (.iload_n 2, 1) := dk_28 (dk_at dksX0_costliestEntry_0 4 rfl rfl)
theorem dX0_costliestEntry_5 : decode cX0_costliestEntry 5 = .ok (.invokevirtual 112, 3) := dk_182 0 112 (dk_at dksX0_costliestEntry_0 5 rfl rfl)
theorem dX0_costliestEntry_8 : decode cX0_costliestEntry 8 = .ok (.i2l, 1) := dk_133 (dk_at dksX0_costliestEntry_0 8 rfl rfl)
theorem dX0_costliestEntry_9 : decode cX0_costliestEntry 9 = .ok (.lastore, 1) := dk_80 (dk_at dksX0_costliestEntry_0 9 rfl rfl)
theorem dX0_costliestEntry_10 : decode cX0_costliestEntry 10 = .ok (.goto 7, 3) := dk_167 0 7 (dk_at dksX0_costliestEntry_0 10 rfl rfl)
theorem dX0_costliestEntry_13 : decode cX0_costliestEntry 13 = .ok (.astore 4, 2) := dk_58 4 (dk_at dksX0_costliestEntry_0 13 rfl rfl)
theorem dX0_costliestEntry_15 : decode cX0_costliestEntry 15 = .ok (.iconst 1, 1) := dk_4 (dk_at dksX0_costliestEntry_0 15 rfl rfl)
theorem dX0_costliestEntry_16 : decode cX0_costliestEntry 16 = .ok (.ireturn, 1) := dk_172 (dk_at dksX0_costliestEntry_0 16 rfl rfl)
theorem dX0_costliestEntry_17 : decode cX0_costliestEntry 17 = .ok (.iconst 0, 1) := dk_3 (dk_at dksX0_costliestEntry_0 17 rfl rfl)
theorem dX0_costliestEntry_18 : decode cX0_costliestEntry 18 = .ok (.ireturn, 1) := dk_172 (dk_at dksX0_costliestEntry_0 18 rfl rfl)
abbrev cX0_density : ByteArray := method_34_code
def yX0_density : MethodName := ⟨RX0, "density", "(LCsrCalculator;I[D)I"⟩
def dkwX0_density_0 : List UInt8 := [44, 3, 42, 27, 182, 0, 115, 141, 82, 167, 0, 6, 78, 4, 172, 3, 172]
abbrev dktX0_density_0 : List UInt8 := dkwX0_density_0 ++ []
theorem dksX0_density_0 : cX0_density.data.toList.drop 0 = dktX0_density_0 := by decide +kernel
theorem dX0_density_0 : decode cX0_density 0 = .ok (.aload_n 2, 1) := dk_44 (dk_at dksX0_density_0 0 rfl rfl)
theorem dX0_density_1 : decode cX0_density 1 = .ok (.iconst 0, 1) := dk_3 (dk_at dksX0_density_0 1 rfl rfl)
theorem dX0_density_2 : decode cX0_density 2 = .ok (.aload_n 0, 1) := dk_42 (dk_at dksX0_density_0 2 rfl rfl)
theorem dX0_density_3 : decode cX0_density 3 = .ok (.iload_n 1, 1) := dk_27 (dk_at dksX0_density_0 3 rfl rfl)
theorem dX0_density_4 : decode cX0_density 4 = .ok (.invokevirtual 115, 3) := dk_182 0 115 (dk_at dksX0_density_0 4 rfl rfl)
theorem dX0_density_7 : decode cX0_density 7 = .ok (.f2d, 1) := dk_141 (dk_at dksX0_density_0 7 rfl rfl)
theorem dX0_density_8 : decode cX0_density 8 = .ok (.dastore, 1) := dk_82 (dk_at dksX0_density_0 8 rfl rfl)
theorem dX0_density_9 : decode cX0_density 9 = .ok (.goto 6, 3) := dk_167 0 6 (dk_at dksX0_density_0 9 rfl rfl)
theorem dX0_density_12 : decode cX0_density 12 = .ok (.astore_n 3, 1) := dk_78 (dk_at dksX0_density_0 12 rfl rfl)
theorem dX0_density_13 : decode cX0_density 13 = .ok (.iconst 1, 1) := dk_4 (dk_at dksX0_density_0 13 rfl rfl)
theorem dX0_density_14 : decode cX0_density 14 = .ok (.ireturn, 1) := dk_172 (dk_at dksX0_density_0 14 rfl rfl)
theorem dX0_density_15 : decode cX0_density 15 = .ok (.iconst 0, 1) := dk_3 (dk_at dksX0_density_0 15 rfl rfl)
theorem dX0_density_16 : decode cX0_density 16 = .ok (.ireturn, 1) := dk_172 (dk_at dksX0_density_0 16 rfl rfl)
abbrev cX0_meanStoredValue : ByteArray := method_35_code
def yX0_meanStoredValue : MethodName := ⟨RX0, "meanStoredValue", "(LCsrCalculator;I[D)I"⟩
def dkwX0_meanStoredValue_0 : List UInt8 := [44, 3, 42, 27, 182, 0, 119, 82, 167, 0, 6, 78, 4, 172, 3, 172]
abbrev dktX0_meanStoredValue_0 : List UInt8 := dkwX0_meanStoredValue_0 ++ []
theorem dksX0_meanStoredValue_0 : cX0_meanStoredValue.data.toList.drop 0 = dktX0_meanStoredValue_0 := by decide +kernel
theorem dX0_meanStoredValue_0 : decode cX0_meanStoredValue 0 = .ok (.aload_n 2, 1) := dk_44 (dk_at dksX0_meanStoredValue_0 0 rfl rfl)
theorem dX0_meanStoredValue_1 : decode cX0_meanStoredValue 1 = .ok (.iconst 0, 1) := dk_3 (dk_at dksX0_meanStoredValue_0 1 rfl rfl)
theorem dX0_meanStoredValue_2 : decode cX0_meanStoredValue 2 = .ok (.aload_n 0, 1) := dk_42 (dk_at dksX0_meanStoredValue_0 2 rfl rfl)
theorem dX0_meanStoredValue_3 : decode cX0_meanStoredValue 3 = .ok (.iload_n 1, 1) := dk_27 (dk_at dksX0_meanStoredValue_0 3 rfl rfl)
theorem dX0_meanStoredValue_4 : decode cX0_meanStoredValue 4 = .ok (.invokevirtual 119, 3) := dk_182 0 119 (dk_at dksX0_meanStoredValue_0 4 rfl rfl)
theorem dX0_meanStoredValue_7 : decode cX0_meanStoredValue 7 = .ok (.dastore, 1) := dk_82 (dk_at dksX0_meanStoredValue_0 7 rfl rfl)
theorem dX0_meanStoredValue_8 : decode cX0_meanStoredValue 8 = .ok (.goto 6, 3) := dk_167 0 6 (dk_at dksX0_meanStoredValue_0 8 rfl rfl)
theorem dX0_meanStoredValue_11 : decode cX0_meanStoredValue 11 = .ok (.astore_n 3, 1) := dk_78 (dk_at dksX0_meanStoredValue_0 11 rfl rfl)
theorem dX0_meanStoredValue_12 : decode cX0_meanStoredValue 12 = .ok (.iconst 1, 1) := dk_4 (dk_at dksX0_meanStoredValue_0 12 rfl rfl)
theorem dX0_meanStoredValue_13 : decode cX0_meanStoredValue 13 = .ok (.ireturn, 1) := dk_172 (dk_at dksX0_meanStoredValue_0 13 rfl rfl)
theorem dX0_meanStoredValue_14 : decode cX0_meanStoredValue 14 = .ok (.iconst 0, 1) := dk_3 (dk_at dksX0_meanStoredValue_0 14 rfl rfl)
theorem dX0_meanStoredValue_15 : decode cX0_meanStoredValue 15 = .ok (.ireturn, 1) := dk_172 (dk_at dksX0_meanStoredValue_0 15 rfl rfl)
abbrev cX0_create : ByteArray := method_36_code
def yX0_create : MethodName := ⟨RX0, "create", "(LCsrCalculator;III[J)I"⟩
def dkwX0_create_1 : List UInt8 := [172]
abbrev dktX0_create_1 : List UInt8 := dkwX0_create_1 ++ []
def dkwX0_create_0 : List UInt8 := [25, 4, 3, 42, 27, 28, 29, 182, 0, 123, 133, 80, 167, 0, 11, 58, 5, 4, 172, 58, 5, 5, 172, 3]
abbrev dktX0_create_0 : List UInt8 := dkwX0_create_0 ++ dktX0_create_1
theorem dksX0_create_0 : cX0_create.data.toList.drop 0 = dktX0_create_0 := by decide +kernel
theorem dksX0_create_1 : cX0_create.data.toList.drop 24 = dktX0_create_1 := dk_seg dksX0_create_0 24 rfl rfl
theorem dX0_create_0 : decode cX0_create 0 = .ok (.aload 4, 2) := dk_25 4 (dk_at dksX0_create_0 0 rfl rfl)
theorem dX0_create_2 : decode cX0_create 2 = .ok (.iconst 0, 1) := dk_3 (dk_at dksX0_create_0 2 rfl rfl)
theorem dX0_create_3 : decode cX0_create 3 = .ok (.aload_n 0, 1) := dk_42 (dk_at dksX0_create_0 3 rfl rfl)
theorem dX0_create_4 : decode cX0_create 4 = .ok (.iload_n 1, 1) := dk_27 (dk_at dksX0_create_0 4 rfl rfl)
theorem dX0_create_5 : decode cX0_create 5 = .ok (.iload_n 2, 1) := dk_28 (dk_at dksX0_create_0 5 rfl rfl)
theorem dX0_create_6 : decode cX0_create 6 = .ok (.iload_n 3, 1) := dk_29 (dk_at dksX0_create_0 6 rfl rfl)
theorem dX0_create_7 : decode cX0_create 7 = .ok (.invokevirtual 123, 3) := dk_182 0 123 (dk_at dksX0_create_0 7 rfl rfl)
theorem dX0_create_10 : decode cX0_create 10 = .ok (.i2l, 1) := dk_133 (dk_at dksX0_create_0 10 rfl rfl)
theorem dX0_create_11 : decode cX0_create 11 = .ok (.lastore, 1) := dk_80 (dk_at dksX0_create_0 11 rfl rfl)
theorem dX0_create_12 : decode cX0_create 12 = .ok (.goto 11, 3) := dk_167 0 11 (dk_at dksX0_create_0 12 rfl rfl)
theorem dX0_create_15 : decode cX0_create 15 = .ok (.astore 5, 2) := dk_58 5 (dk_at dksX0_create_0 15 rfl rfl)
theorem dX0_create_17 : decode cX0_create 17 = .ok (.iconst 1, 1) := dk_4 (dk_at dksX0_create_0 17 rfl rfl)
theorem dX0_create_18 : decode cX0_create 18 = .ok (.ireturn, 1) := dk_172 (dk_at dksX0_create_0 18 rfl rfl)
theorem dX0_create_19 : decode cX0_create 19 = .ok (.astore 5, 2) := dk_58 5 (dk_at dksX0_create_0 19 rfl rfl)
theorem dX0_create_21 : decode cX0_create 21 = .ok (.iconst 2, 1) := dk_5 (dk_at dksX0_create_0 21 rfl rfl)
theorem dX0_create_22 : decode cX0_create 22 = .ok (.ireturn, 1) := dk_172 (dk_at dksX0_create_0 22 rfl rfl)
theorem dX0_create_23 : decode cX0_create 23 = .ok (.iconst 0, 1) := dk_3 (dk_at dksX0_create_0 23 rfl rfl)
theorem dX0_create_24 : decode cX0_create 24 = .ok (.ireturn, 1) := dk_172 (dk_at dksX0_create_1 0 rfl rfl)
abbrev cX0_set : ByteArray := method_37_code
def yX0_set : MethodName := ⟨RX0, "set", "(LCsrCalculator;IIII[J)I"⟩
def dkwX0_set_1 : List UInt8 := [172, 3, 172]
abbrev dktX0_set_1 : List UInt8 := dkwX0_set_1 ++ []
def dkwX0_set_0 : List UInt8 := [25, 5, 3, 42, 27, 28, 29, 21, 4, 182, 0, 126, 133, 80, 167, 0, 11, 58, 6, 4, 172, 58, 6, 5]
abbrev dktX0_set_0 : List UInt8 := dkwX0_set_0 ++ dktX0_set_1
theorem dksX0_set_0 : cX0_set.data.toList.drop 0 = dktX0_set_0 := by decide +kernel
theorem dksX0_set_1 : cX0_set.data.toList.drop 24 = dktX0_set_1 := dk_seg dksX0_set_0 24 rfl rfl
theorem dX0_set_0 : decode cX0_set 0 = .ok (.aload 5, 2) := dk_25 5 (dk_at dksX0_set_0 0 rfl rfl)
theorem dX0_set_2 : decode cX0_set 2 = .ok (.iconst 0, 1) := dk_3 (dk_at dksX0_set_0 2 rfl rfl)
theorem dX0_set_3 : decode cX0_set 3 = .ok (.aload_n 0, 1) := dk_42 (dk_at dksX0_set_0 3 rfl rfl)
theorem dX0_set_4 : decode cX0_set 4 = .ok (.iload_n 1, 1) := dk_27 (dk_at dksX0_set_0 4 rfl rfl)
theorem dX0_set_5 : decode cX0_set 5 = .ok (.iload_n 2, 1) := dk_28 (dk_at dksX0_set_0 5 rfl rfl)
theorem dX0_set_6 : decode cX0_set 6 = .ok (.iload_n 3, 1) := dk_29 (dk_at dksX0_set_0 6 rfl rfl)
theorem dX0_set_7 : decode cX0_set 7 = .ok (.iload 4, 2) := dk_21 4 (dk_at dksX0_set_0 7 rfl rfl)
theorem dX0_set_9 : decode cX0_set 9 = .ok (.invokevirtual 126, 3) := dk_182 0 126 (dk_at dksX0_set_0 9 rfl rfl)
theorem dX0_set_12 : decode cX0_set 12 = .ok (.i2l, 1) := dk_133 (dk_at dksX0_set_0 12 rfl rfl)
theorem dX0_set_13 : decode cX0_set 13 = .ok (.lastore, 1) := dk_80 (dk_at dksX0_set_0 13 rfl rfl)
theorem dX0_set_14 : decode cX0_set 14 = .ok (.goto 11, 3) := dk_167 0 11 (dk_at dksX0_set_0 14 rfl rfl)
theorem dX0_set_17 : decode cX0_set 17 = .ok (.astore 6, 2) := dk_58 6 (dk_at dksX0_set_0 17 rfl rfl)
theorem dX0_set_19 : decode cX0_set 19 = .ok (.iconst 1, 1) := dk_4 (dk_at dksX0_set_0 19 rfl rfl)
theorem dX0_set_20 : decode cX0_set 20 = .ok (.ireturn, 1) := dk_172 (dk_at dksX0_set_0 20 rfl rfl)
theorem dX0_set_21 : decode cX0_set 21 = .ok (.astore 6, 2) := dk_58 6 (dk_at dksX0_set_0 21 rfl rfl)
theorem dX0_set_23 : decode cX0_set 23 = .ok (.iconst 2, 1) := dk_5 (dk_at dksX0_set_0 23 rfl rfl)
theorem dX0_set_24 : decode cX0_set 24 = .ok (.ireturn, 1) := dk_172 (dk_at dksX0_set_1 0 rfl rfl)
theorem dX0_set_25 : decode cX0_set 25 = .ok (.iconst 0, 1) := dk_3 (dk_at dksX0_set_1 1 rfl rfl)
theorem dX0_set_26 : decode cX0_set 26 = .ok (.ireturn, 1) := dk_172 (dk_at dksX0_set_1 2 rfl rfl)
abbrev cX0_erase : ByteArray := method_38_code
def yX0_erase : MethodName := ⟨RX0, "erase", "(LCsrCalculator;III[J)I"⟩
def dkwX0_erase_1 : List UInt8 := [172]
abbrev dktX0_erase_1 : List UInt8 := dkwX0_erase_1 ++ []
def dkwX0_erase_0 : List UInt8 := [25, 4, 3, 42, 27, 28, 29, 182, 0, 130, 133, 80, 167, 0, 11, 58, 5, 4, 172, 58, 5, 5, 172, 3]
abbrev dktX0_erase_0 : List UInt8 := dkwX0_erase_0 ++ dktX0_erase_1
theorem dksX0_erase_0 : cX0_erase.data.toList.drop 0 = dktX0_erase_0 := by decide +kernel
theorem dksX0_erase_1 : cX0_erase.data.toList.drop 24 = dktX0_erase_1 := dk_seg dksX0_erase_0 24 rfl rfl
theorem dX0_erase_0 : decode cX0_erase 0 = .ok (.aload 4, 2) := dk_25 4 (dk_at dksX0_erase_0 0 rfl rfl)
theorem dX0_erase_2 : decode cX0_erase 2 = .ok (.iconst 0, 1) := dk_3 (dk_at dksX0_erase_0 2 rfl rfl)
theorem dX0_erase_3 : decode cX0_erase 3 = .ok (.aload_n 0, 1) := dk_42 (dk_at dksX0_erase_0 3 rfl rfl)
theorem dX0_erase_4 : decode cX0_erase 4 = .ok (.iload_n 1, 1) := dk_27 (dk_at dksX0_erase_0 4 rfl rfl)
theorem dX0_erase_5 : decode cX0_erase 5 = .ok (.iload_n 2, 1) := dk_28 (dk_at dksX0_erase_0 5 rfl rfl)
theorem dX0_erase_6 : decode cX0_erase 6 = .ok (.iload_n 3, 1) := dk_29 (dk_at dksX0_erase_0 6 rfl rfl)
theorem dX0_erase_7 : decode cX0_erase 7 = .ok (.invokevirtual 130, 3) := dk_182 0 130 (dk_at dksX0_erase_0 7 rfl rfl)
theorem dX0_erase_10 : decode cX0_erase 10 = .ok (.i2l, 1) := dk_133 (dk_at dksX0_erase_0 10 rfl rfl)
theorem dX0_erase_11 : decode cX0_erase 11 = .ok (.lastore, 1) := dk_80 (dk_at dksX0_erase_0 11 rfl rfl)
theorem dX0_erase_12 : decode cX0_erase 12 = .ok (.goto 11, 3) := dk_167 0 11 (dk_at dksX0_erase_0 12 rfl rfl)
theorem dX0_erase_15 : decode cX0_erase 15 = .ok (.astore 5, 2) := dk_58 5 (dk_at dksX0_erase_0 15 rfl rfl)
theorem dX0_erase_17 : decode cX0_erase 17 = .ok (.iconst 1, 1) := dk_4 (dk_at dksX0_erase_0 17 rfl rfl)
theorem dX0_erase_18 : decode cX0_erase 18 = .ok (.ireturn, 1) := dk_172 (dk_at dksX0_erase_0 18 rfl rfl)
theorem dX0_erase_19 : decode cX0_erase 19 = .ok (.astore 5, 2) := dk_58 5 (dk_at dksX0_erase_0 19 rfl rfl)
theorem dX0_erase_21 : decode cX0_erase 21 = .ok (.iconst 2, 1) := dk_5 (dk_at dksX0_erase_0 21 rfl rfl)
theorem dX0_erase_22 : decode cX0_erase 22 = .ok (.ireturn, 1) := dk_172 (dk_at dksX0_erase_0 22 rfl rfl)
theorem dX0_erase_23 : decode cX0_erase 23 = .ok (.iconst 0, 1) := dk_3 (dk_at dksX0_erase_0 23 rfl rfl)
theorem dX0_erase_24 : decode cX0_erase 24 = .ok (.ireturn, 1) := dk_172 (dk_at dksX0_erase_1 0 rfl rfl)
abbrev cX0_dropZeros : ByteArray := method_39_code
def yX0_dropZeros : MethodName := ⟨RX0, "dropZeros", "(LCsrCalculator;I[J)I"⟩
def dkwX0_dropZeros_0 : List UInt8 := [44, 3, 42, 27, 182, 0, 133, 133, 80, 167, 0, 6, 78, 4, 172, 3, 172]
abbrev dktX0_dropZeros_0 : List UInt8 := dkwX0_dropZeros_0 ++ []
theorem dksX0_dropZeros_0 : cX0_dropZeros.data.toList.drop 0 = dktX0_dropZeros_0 := by decide +kernel
theorem dX0_dropZeros_0 : decode cX0_dropZeros 0 = .ok (.aload_n 2, 1) := dk_44 (dk_at dksX0_dropZeros_0 0 rfl rfl)
theorem dX0_dropZeros_1 : decode cX0_dropZeros 1 = .ok (.iconst 0, 1) := dk_3 (dk_at dksX0_dropZeros_0 1 rfl rfl)
theorem dX0_dropZeros_2 : decode cX0_dropZeros 2 = .ok (.aload_n 0, 1) := dk_42 (dk_at dksX0_dropZeros_0 2 rfl rfl)
theorem dX0_dropZeros_3 : decode cX0_dropZeros 3 = .ok (.iload_n 1, 1) := dk_27 (dk_at dksX0_dropZeros_0 3 rfl rfl)
theorem dX0_dropZeros_4 : decode cX0_dropZeros 4 = .ok (.invokevirtual 133, 3) := dk_182 0 133 (dk_at dksX0_dropZeros_0 4 rfl rfl)
theorem dX0_dropZeros_7 : decode cX0_dropZeros 7 = .ok (.i2l, 1) := dk_133 (dk_at dksX0_dropZeros_0 7 rfl rfl)
theorem dX0_dropZeros_8 : decode cX0_dropZeros 8 = .ok (.lastore, 1) := dk_80 (dk_at dksX0_dropZeros_0 8 rfl rfl)
theorem dX0_dropZeros_9 : decode cX0_dropZeros 9 = .ok (.goto 6, 3) := dk_167 0 6 (dk_at dksX0_dropZeros_0 9 rfl rfl)
theorem dX0_dropZeros_12 : decode cX0_dropZeros 12 = .ok (.astore_n 3, 1) := dk_78 (dk_at dksX0_dropZeros_0 12 rfl rfl)
theorem dX0_dropZeros_13 : decode cX0_dropZeros 13 = .ok (.iconst 1, 1) := dk_4 (dk_at dksX0_dropZeros_0 13 rfl rfl)
theorem dX0_dropZeros_14 : decode cX0_dropZeros 14 = .ok (.ireturn, 1) := dk_172 (dk_at dksX0_dropZeros_0 14 rfl rfl)
theorem dX0_dropZeros_15 : decode cX0_dropZeros 15 = .ok (.iconst 0, 1) := dk_3 (dk_at dksX0_dropZeros_0 15 rfl rfl)
theorem dX0_dropZeros_16 : decode cX0_dropZeros 16 = .ok (.ireturn, 1) := dk_172 (dk_at dksX0_dropZeros_0 16 rfl rfl)
abbrev cX0_swapRows : ByteArray := method_40_code
def yX0_swapRows : MethodName := ⟨RX0, "swapRows", "(LCsrCalculator;III[J)I"⟩
def dkwX0_swapRows_0 : List UInt8 := [25, 4, 3, 42, 27, 28, 29, 182, 0, 136, 133, 80, 167, 0, 7, 58, 5, 4, 172, 3, 172]
abbrev dktX0_swapRows_0 : List UInt8 := dkwX0_swapRows_0 ++ []
theorem dksX0_swapRows_0 : cX0_swapRows.data.toList.drop 0 = dktX0_swapRows_0 := by decide +kernel
theorem dX0_swapRows_0 : decode cX0_swapRows 0 = .ok (.aload 4, 2) := dk_25 4 (dk_at dksX0_swapRows_0 0 rfl rfl)
theorem dX0_swapRows_2 : decode cX0_swapRows 2 = .ok (.iconst 0, 1) := dk_3 (dk_at dksX0_swapRows_0 2 rfl rfl)
theorem dX0_swapRows_3 : decode cX0_swapRows 3 = .ok (.aload_n 0, 1) := dk_42 (dk_at dksX0_swapRows_0 3 rfl rfl)
theorem dX0_swapRows_4 : decode cX0_swapRows 4 = .ok (.iload_n 1, 1) := dk_27 (dk_at dksX0_swapRows_0 4 rfl rfl)
theorem dX0_swapRows_5 : decode cX0_swapRows 5 = .ok (.iload_n 2, 1) := dk_28 (dk_at dksX0_swapRows_0 5 rfl rfl)
theorem dX0_swapRows_6 : decode cX0_swapRows 6 = .ok (.iload_n 3, 1) := dk_29 (dk_at dksX0_swapRows_0 6 rfl rfl)
theorem dX0_swapRows_7 : decode cX0_swapRows 7 = .ok (.invokevirtual 136, 3) := dk_182 0 136 (dk_at dksX0_swapRows_0 7 rfl rfl)
theorem dX0_swapRows_10 : decode cX0_swapRows 10 = .ok (.i2l, 1) := dk_133 (dk_at dksX0_swapRows_0 10 rfl rfl)
theorem dX0_swapRows_11 : decode cX0_swapRows 11 = .ok (.lastore, 1) := dk_80 (dk_at dksX0_swapRows_0 11 rfl rfl)
theorem dX0_swapRows_12 : decode cX0_swapRows 12 = .ok (.goto 7, 3) := dk_167 0 7 (dk_at dksX0_swapRows_0 12 rfl rfl)
theorem dX0_swapRows_15 : decode cX0_swapRows 15 = .ok (.astore 5, 2) := dk_58 5 (dk_at dksX0_swapRows_0 15 rfl rfl)
theorem dX0_swapRows_17 : decode cX0_swapRows 17 = .ok (.iconst 1, 1) := dk_4 (dk_at dksX0_swapRows_0 17 rfl rfl)
theorem dX0_swapRows_18 : decode cX0_swapRows 18 = .ok (.ireturn, 1) := dk_172 (dk_at dksX0_swapRows_0 18 rfl rfl)
theorem dX0_swapRows_19 : decode cX0_swapRows 19 = .ok (.iconst 0, 1) := dk_3 (dk_at dksX0_swapRows_0 19 rfl rfl)
theorem dX0_swapRows_20 : decode cX0_swapRows 20 = .ok (.ireturn, 1) := dk_172 (dk_at dksX0_swapRows_0 20 rfl rfl)
abbrev cX0_scale : ByteArray := method_41_code
def yX0_scale : MethodName := ⟨RX0, "scale", "(LCsrCalculator;II[J)I"⟩
def dkwX0_scale_1 : List UInt8 := [172, 3, 172]
abbrev dktX0_scale_1 : List UInt8 := dkwX0_scale_1 ++ []
def dkwX0_scale_0 : List UInt8 := [45, 3, 42, 27, 28, 182, 0, 139, 133, 80, 167, 0, 15, 58, 4, 4, 172, 58, 4, 5, 172, 58, 4, 6]
abbrev dktX0_scale_0 : List UInt8 := dkwX0_scale_0 ++ dktX0_scale_1
theorem dksX0_scale_0 : cX0_scale.data.toList.drop 0 = dktX0_scale_0 := by decide +kernel
theorem dksX0_scale_1 : cX0_scale.data.toList.drop 24 = dktX0_scale_1 := dk_seg dksX0_scale_0 24 rfl rfl
theorem dX0_scale_0 : decode cX0_scale 0 = .ok (.aload_n 3, 1) := dk_45 (dk_at dksX0_scale_0 0 rfl rfl)
theorem dX0_scale_1 : decode cX0_scale 1 = .ok (.iconst 0, 1) := dk_3 (dk_at dksX0_scale_0 1 rfl rfl)
theorem dX0_scale_2 : decode cX0_scale 2 = .ok (.aload_n 0, 1) := dk_42 (dk_at dksX0_scale_0 2 rfl rfl)
theorem dX0_scale_3 : decode cX0_scale 3 = .ok (.iload_n 1, 1) := dk_27 (dk_at dksX0_scale_0 3 rfl rfl)
theorem dX0_scale_4 : decode cX0_scale 4 = .ok (.iload_n 2, 1) := dk_28 (dk_at dksX0_scale_0 4 rfl rfl)
theorem dX0_scale_5 : decode cX0_scale 5 = .ok (.invokevirtual 139, 3) := dk_182 0 139 (dk_at dksX0_scale_0 5 rfl rfl)
theorem dX0_scale_8 : decode cX0_scale 8 = .ok (.i2l, 1) := dk_133 (dk_at dksX0_scale_0 8 rfl rfl)
theorem dX0_scale_9 : decode cX0_scale 9 = .ok (.lastore, 1) := dk_80 (dk_at dksX0_scale_0 9 rfl rfl)
theorem dX0_scale_10 : decode cX0_scale 10 = .ok (.goto 15, 3) := dk_167 0 15 (dk_at dksX0_scale_0 10 rfl rfl)
theorem dX0_scale_13 : decode cX0_scale 13 = .ok (.astore 4, 2) := dk_58 4 (dk_at dksX0_scale_0 13 rfl rfl)
theorem dX0_scale_15 : decode cX0_scale 15 = .ok (.iconst 1, 1) := dk_4 (dk_at dksX0_scale_0 15 rfl rfl)
theorem dX0_scale_16 : decode cX0_scale 16 = .ok (.ireturn, 1) := dk_172 (dk_at dksX0_scale_0 16 rfl rfl)
theorem dX0_scale_17 : decode cX0_scale 17 = .ok (.astore 4, 2) := dk_58 4 (dk_at dksX0_scale_0 17 rfl rfl)
theorem dX0_scale_19 : decode cX0_scale 19 = .ok (.iconst 2, 1) := dk_5 (dk_at dksX0_scale_0 19 rfl rfl)
theorem dX0_scale_20 : decode cX0_scale 20 = .ok (.ireturn, 1) := dk_172 (dk_at dksX0_scale_0 20 rfl rfl)
theorem dX0_scale_21 : decode cX0_scale 21 = .ok (.astore 4, 2) := dk_58 4 (dk_at dksX0_scale_0 21 rfl rfl)
theorem dX0_scale_23 : decode cX0_scale 23 = .ok (.iconst 3, 1) := dk_6 (dk_at dksX0_scale_0 23 rfl rfl)
theorem dX0_scale_24 : decode cX0_scale 24 = .ok (.ireturn, 1) := dk_172 (dk_at dksX0_scale_1 0 rfl rfl)
theorem dX0_scale_25 : decode cX0_scale 25 = .ok (.iconst 0, 1) := dk_3 (dk_at dksX0_scale_1 1 rfl rfl)
theorem dX0_scale_26 : decode cX0_scale 26 = .ok (.ireturn, 1) := dk_172 (dk_at dksX0_scale_1 2 rfl rfl)
abbrev cX0_transposeInto : ByteArray := method_42_code
def yX0_transposeInto : MethodName := ⟨RX0, "transposeInto", "(LCsrCalculator;II[J)I"⟩
def dkwX0_transposeInto_0 : List UInt8 := [45, 3, 42, 27, 28, 182, 0, 142, 133, 80, 167, 0, 7, 58, 4, 4, 172, 3, 172]
abbrev dktX0_transposeInto_0 : List UInt8 := dkwX0_transposeInto_0 ++ []
theorem dksX0_transposeInto_0 : cX0_transposeInto.data.toList.drop 0 = dktX0_transposeInto_0 := by decide +kernel
theorem dX0_transposeInto_0 : decode cX0_transposeInto 0 = .ok (.aload_n 3, 1) := dk_45 (dk_at dksX0_transposeInto_0 0 rfl rfl)
theorem dX0_transposeInto_1 : decode cX0_transposeInto 1 = .ok (.iconst 0, 1) := dk_3 (dk_at dksX0_transposeInto_0 1 rfl rfl)
theorem dX0_transposeInto_2 : decode cX0_transposeInto 2 = .ok (.aload_n 0, 1) := dk_42 (dk_at dksX0_transposeInto_0 2 rfl rfl)
theorem dX0_transposeInto_3 : decode cX0_transposeInto 3 = .ok (.iload_n 1, 1) := dk_27 (dk_at dksX0_transposeInto_0 3 rfl rfl)
theorem dX0_transposeInto_4 : decode cX0_transposeInto 4 = .ok (.iload_n 2, 1) := dk_28 (dk_at dksX0_transposeInto_0 4 rfl rfl)
theorem dX0_transposeInto_5 : decode cX0_transposeInto 5 = .ok (.invokevirtual 142, 3) := dk_182 0 142 (dk_at dksX0_transposeInto_0 5 rfl rfl)
theorem dX0_transposeInto_8 : decode cX0_transposeInto 8 = .ok (.i2l, 1) := dk_133 (dk_at dksX0_transposeInto_0 8 rfl rfl)
theorem dX0_transposeInto_9 : decode cX0_transposeInto 9 = .ok (.lastore, 1) := dk_80 (dk_at dksX0_transposeInto_0 9 rfl rfl)
theorem dX0_transposeInto_10 : decode cX0_transposeInto 10 = .ok (.goto 7, 3) := dk_167 0 7 (dk_at dksX0_transposeInto_0 10 rfl rfl)
theorem dX0_transposeInto_13 : decode cX0_transposeInto 13 = .ok (.astore 4, 2) := dk_58 4 (dk_at dksX0_transposeInto_0 13 rfl rfl)
theorem dX0_transposeInto_15 : decode cX0_transposeInto 15 = .ok (.iconst 1, 1) := dk_4 (dk_at dksX0_transposeInto_0 15 rfl rfl)
theorem dX0_transposeInto_16 : decode cX0_transposeInto 16 = .ok (.ireturn, 1) := dk_172 (dk_at dksX0_transposeInto_0 16 rfl rfl)
theorem dX0_transposeInto_17 : decode cX0_transposeInto 17 = .ok (.iconst 0, 1) := dk_3 (dk_at dksX0_transposeInto_0 17 rfl rfl)
theorem dX0_transposeInto_18 : decode cX0_transposeInto 18 = .ok (.ireturn, 1) := dk_172 (dk_at dksX0_transposeInto_0 18 rfl rfl)
abbrev cX0_addInto : ByteArray := method_43_code
def yX0_addInto : MethodName := ⟨RX0, "addInto", "(LCsrCalculator;III[J)I"⟩
def dkwX0_addInto_1 : List UInt8 := [172]
abbrev dktX0_addInto_1 : List UInt8 := dkwX0_addInto_1 ++ []
def dkwX0_addInto_0 : List UInt8 := [25, 4, 3, 42, 27, 28, 29, 182, 0, 145, 133, 80, 167, 0, 11, 58, 5, 4, 172, 58, 5, 5, 172, 3]
abbrev dktX0_addInto_0 : List UInt8 := dkwX0_addInto_0 ++ dktX0_addInto_1
theorem dksX0_addInto_0 : cX0_addInto.data.toList.drop 0 = dktX0_addInto_0 := by decide +kernel
theorem dksX0_addInto_1 : cX0_addInto.data.toList.drop 24 = dktX0_addInto_1 := dk_seg dksX0_addInto_0 24 rfl rfl
theorem dX0_addInto_0 : decode cX0_addInto 0 = .ok (.aload 4, 2) := dk_25 4 (dk_at dksX0_addInto_0 0 rfl rfl)
theorem dX0_addInto_2 : decode cX0_addInto 2 = .ok (.iconst 0, 1) := dk_3 (dk_at dksX0_addInto_0 2 rfl rfl)
theorem dX0_addInto_3 : decode cX0_addInto 3 = .ok (.aload_n 0, 1) := dk_42 (dk_at dksX0_addInto_0 3 rfl rfl)
theorem dX0_addInto_4 : decode cX0_addInto 4 = .ok (.iload_n 1, 1) := dk_27 (dk_at dksX0_addInto_0 4 rfl rfl)
theorem dX0_addInto_5 : decode cX0_addInto 5 = .ok (.iload_n 2, 1) := dk_28 (dk_at dksX0_addInto_0 5 rfl rfl)
theorem dX0_addInto_6 : decode cX0_addInto 6 = .ok (.iload_n 3, 1) := dk_29 (dk_at dksX0_addInto_0 6 rfl rfl)
theorem dX0_addInto_7 : decode cX0_addInto 7 = .ok (.invokevirtual 145, 3) := dk_182 0 145 (dk_at dksX0_addInto_0 7 rfl rfl)
theorem dX0_addInto_10 : decode cX0_addInto 10 = .ok (.i2l, 1) := dk_133 (dk_at dksX0_addInto_0 10 rfl rfl)
theorem dX0_addInto_11 : decode cX0_addInto 11 = .ok (.lastore, 1) := dk_80 (dk_at dksX0_addInto_0 11 rfl rfl)
theorem dX0_addInto_12 : decode cX0_addInto 12 = .ok (.goto 11, 3) := dk_167 0 11 (dk_at dksX0_addInto_0 12 rfl rfl)
theorem dX0_addInto_15 : decode cX0_addInto 15 = .ok (.astore 5, 2) := dk_58 5 (dk_at dksX0_addInto_0 15 rfl rfl)
theorem dX0_addInto_17 : decode cX0_addInto 17 = .ok (.iconst 1, 1) := dk_4 (dk_at dksX0_addInto_0 17 rfl rfl)
theorem dX0_addInto_18 : decode cX0_addInto 18 = .ok (.ireturn, 1) := dk_172 (dk_at dksX0_addInto_0 18 rfl rfl)
theorem dX0_addInto_19 : decode cX0_addInto 19 = .ok (.astore 5, 2) := dk_58 5 (dk_at dksX0_addInto_0 19 rfl rfl)
theorem dX0_addInto_21 : decode cX0_addInto 21 = .ok (.iconst 2, 1) := dk_5 (dk_at dksX0_addInto_0 21 rfl rfl)
theorem dX0_addInto_22 : decode cX0_addInto 22 = .ok (.ireturn, 1) := dk_172 (dk_at dksX0_addInto_0 22 rfl rfl)
theorem dX0_addInto_23 : decode cX0_addInto 23 = .ok (.iconst 0, 1) := dk_3 (dk_at dksX0_addInto_0 23 rfl rfl)
theorem dX0_addInto_24 : decode cX0_addInto 24 = .ok (.ireturn, 1) := dk_172 (dk_at dksX0_addInto_1 0 rfl rfl)
abbrev cX0_multiplyInto : ByteArray := method_44_code
def yX0_multiplyInto : MethodName := ⟨RX0, "multiplyInto", "(LCsrCalculator;III[J)I"⟩
def dkwX0_multiplyInto_1 : List UInt8 := [172]
abbrev dktX0_multiplyInto_1 : List UInt8 := dkwX0_multiplyInto_1 ++ []
def dkwX0_multiplyInto_0 : List UInt8 := [25, 4, 3, 42, 27, 28, 29, 182, 0, 148, 133, 80, 167, 0, 11, 58, 5, 4, 172, 58, 5, 5, 172, 3]
abbrev dktX0_multiplyInto_0 : List UInt8 := dkwX0_multiplyInto_0 ++ dktX0_multiplyInto_1
theorem dksX0_multiplyInto_0 : cX0_multiplyInto.data.toList.drop 0 = dktX0_multiplyInto_0 := by decide +kernel
theorem dksX0_multiplyInto_1 : cX0_multiplyInto.data.toList.drop 24 = dktX0_multiplyInto_1 := dk_seg dksX0_multiplyInto_0 24 rfl rfl
theorem dX0_multiplyInto_0 : decode cX0_multiplyInto 0 = .ok (.aload 4, 2) := dk_25 4 (dk_at dksX0_multiplyInto_0 0 rfl rfl)
theorem dX0_multiplyInto_2 : decode cX0_multiplyInto 2 = .ok (.iconst 0, 1) := dk_3 (dk_at dksX0_multiplyInto_0 2 rfl rfl)
theorem dX0_multiplyInto_3 : decode cX0_multiplyInto 3 = .ok (.aload_n 0, 1) := dk_42 (dk_at dksX0_multiplyInto_0 3 rfl rfl)
theorem dX0_multiplyInto_4 : decode cX0_multiplyInto 4 = .ok (.iload_n 1, 1) := dk_27 (dk_at dksX0_multiplyInto_0 4 rfl rfl)
theorem dX0_multiplyInto_5 : decode cX0_multiplyInto 5 = .ok (.iload_n 2, 1) := dk_28 (dk_at dksX0_multiplyInto_0 5 rfl rfl)
theorem dX0_multiplyInto_6 : decode cX0_multiplyInto 6 = .ok (.iload_n 3, 1) := dk_29 (dk_at dksX0_multiplyInto_0 6 rfl rfl)
theorem dX0_multiplyInto_7 : decode cX0_multiplyInto 7 = .ok (.invokevirtual 148, 3) := dk_182 0 148 (dk_at dksX0_multiplyInto_0 7 rfl rfl)
theorem dX0_multiplyInto_10 : decode cX0_multiplyInto 10 = .ok (.i2l, 1) := dk_133 (dk_at dksX0_multiplyInto_0 10 rfl rfl)
theorem dX0_multiplyInto_11 : decode cX0_multiplyInto 11 = .ok (.lastore, 1) := dk_80 (dk_at dksX0_multiplyInto_0 11 rfl rfl)
theorem dX0_multiplyInto_12 : decode cX0_multiplyInto 12 = .ok (.goto 11, 3) := dk_167 0 11 (dk_at dksX0_multiplyInto_0 12 rfl rfl)
theorem dX0_multiplyInto_15 : decode cX0_multiplyInto 15 = .ok (.astore 5, 2) := dk_58 5 (dk_at dksX0_multiplyInto_0 15 rfl rfl)
theorem dX0_multiplyInto_17 : decode cX0_multiplyInto 17 = .ok (.iconst 1, 1) := dk_4 (dk_at dksX0_multiplyInto_0 17 rfl rfl)
theorem dX0_multiplyInto_18 : decode cX0_multiplyInto 18 = .ok (.ireturn, 1) := dk_172 (dk_at dksX0_multiplyInto_0 18 rfl rfl)
theorem dX0_multiplyInto_19 : decode cX0_multiplyInto 19 = .ok (.astore 5, 2) := dk_58 5 (dk_at dksX0_multiplyInto_0 19 rfl rfl)
theorem dX0_multiplyInto_21 : decode cX0_multiplyInto 21 = .ok (.iconst 2, 1) := dk_5 (dk_at dksX0_multiplyInto_0 21 rfl rfl)
theorem dX0_multiplyInto_22 : decode cX0_multiplyInto 22 = .ok (.ireturn, 1) := dk_172 (dk_at dksX0_multiplyInto_0 22 rfl rfl)
theorem dX0_multiplyInto_23 : decode cX0_multiplyInto 23 = .ok (.iconst 0, 1) := dk_3 (dk_at dksX0_multiplyInto_0 23 rfl rfl)
theorem dX0_multiplyInto_24 : decode cX0_multiplyInto 24 = .ok (.ireturn, 1) := dk_172 (dk_at dksX0_multiplyInto_1 0 rfl rfl)
abbrev cX0_undo : ByteArray := method_45_code
def yX0_undo : MethodName := ⟨RX0, "undo", "(LCsrCalculator;[J)I"⟩
def dkwX0_undo_0 : List UInt8 := [43, 3, 42, 182, 0, 151, 133, 80, 167, 0, 6, 77, 4, 172, 3, 172]
abbrev dktX0_undo_0 : List UInt8 := dkwX0_undo_0 ++ []
theorem dksX0_undo_0 : cX0_undo.data.toList.drop 0 = dktX0_undo_0 := by decide +kernel
theorem dX0_undo_0 : decode cX0_undo 0 = .ok (.aload_n 1, 1) := dk_43 (dk_at dksX0_undo_0 0 rfl rfl)
theorem dX0_undo_1 : decode cX0_undo 1 = .ok (.iconst 0, 1) := dk_3 (dk_at dksX0_undo_0 1 rfl rfl)
theorem dX0_undo_2 : decode cX0_undo 2 = .ok (.aload_n 0, 1) := dk_42 (dk_at dksX0_undo_0 2 rfl rfl)
theorem dX0_undo_3 : decode cX0_undo 3 = .ok (.invokevirtual 151, 3) := dk_182 0 151 (dk_at dksX0_undo_0 3 rfl rfl)
theorem dX0_undo_6 : decode cX0_undo 6 = .ok (.i2l, 1) := dk_133 (dk_at dksX0_undo_0 6 rfl rfl)
theorem dX0_undo_7 : decode cX0_undo 7 = .ok (.lastore, 1) := dk_80 (dk_at dksX0_undo_0 7 rfl rfl)
theorem dX0_undo_8 : decode cX0_undo 8 = .ok (.goto 6, 3) := dk_167 0 6 (dk_at dksX0_undo_0 8 rfl rfl)
theorem dX0_undo_11 : decode cX0_undo 11 = .ok (.astore_n 2, 1) := dk_77 (dk_at dksX0_undo_0 11 rfl rfl)
theorem dX0_undo_12 : decode cX0_undo 12 = .ok (.iconst 1, 1) := dk_4 (dk_at dksX0_undo_0 12 rfl rfl)
theorem dX0_undo_13 : decode cX0_undo 13 = .ok (.ireturn, 1) := dk_172 (dk_at dksX0_undo_0 13 rfl rfl)
theorem dX0_undo_14 : decode cX0_undo 14 = .ok (.iconst 0, 1) := dk_3 (dk_at dksX0_undo_0 14 rfl rfl)
theorem dX0_undo_15 : decode cX0_undo 15 = .ok (.ireturn, 1) := dk_172 (dk_at dksX0_undo_0 15 rfl rfl)
abbrev cX0_printMatrix : ByteArray := method_46_code
def yX0_printMatrix : MethodName := ⟨RX0, "printMatrix", "(LCsrCalculator;I[J)I"⟩
def dkwX0_printMatrix_0 : List UInt8 := [44, 3, 42, 27, 182, 0, 154, 133, 80, 167, 0, 6, 78, 4, 172, 3, 172]
abbrev dktX0_printMatrix_0 : List UInt8 := dkwX0_printMatrix_0 ++ []
theorem dksX0_printMatrix_0 : cX0_printMatrix.data.toList.drop 0 = dktX0_printMatrix_0 := by decide +kernel
theorem dX0_printMatrix_0 : decode cX0_printMatrix 0 = .ok (.aload_n 2, 1) := dk_44 (dk_at dksX0_printMatrix_0 0 rfl rfl)
theorem dX0_printMatrix_1 : decode cX0_printMatrix 1 = .ok (.iconst 0, 1) := dk_3 (dk_at dksX0_printMatrix_0 1 rfl rfl)
theorem dX0_printMatrix_2 : decode cX0_printMatrix 2 = .ok (.aload_n 0, 1) := dk_42 (dk_at dksX0_printMatrix_0 2 rfl rfl)
theorem dX0_printMatrix_3 : decode cX0_printMatrix 3 = .ok (.iload_n 1, 1) := dk_27 (dk_at dksX0_printMatrix_0 3 rfl rfl)
theorem dX0_printMatrix_4 : decode cX0_printMatrix 4 = .ok (.invokevirtual 154, 3) := dk_182 0 154 (dk_at dksX0_printMatrix_0 4 rfl rfl)
theorem dX0_printMatrix_7 : decode cX0_printMatrix 7 = .ok (.i2l, 1) := dk_133 (dk_at dksX0_printMatrix_0 7 rfl rfl)
theorem dX0_printMatrix_8 : decode cX0_printMatrix 8 = .ok (.lastore, 1) := dk_80 (dk_at dksX0_printMatrix_0 8 rfl rfl)
theorem dX0_printMatrix_9 : decode cX0_printMatrix 9 = .ok (.goto 6, 3) := dk_167 0 6 (dk_at dksX0_printMatrix_0 9 rfl rfl)
theorem dX0_printMatrix_12 : decode cX0_printMatrix 12 = .ok (.astore_n 3, 1) := dk_78 (dk_at dksX0_printMatrix_0 12 rfl rfl)
theorem dX0_printMatrix_13 : decode cX0_printMatrix 13 = .ok (.iconst 1, 1) := dk_4 (dk_at dksX0_printMatrix_0 13 rfl rfl)
theorem dX0_printMatrix_14 : decode cX0_printMatrix 14 = .ok (.ireturn, 1) := dk_172 (dk_at dksX0_printMatrix_0 14 rfl rfl)
theorem dX0_printMatrix_15 : decode cX0_printMatrix 15 = .ok (.iconst 0, 1) := dk_3 (dk_at dksX0_printMatrix_0 15 rfl rfl)
theorem dX0_printMatrix_16 : decode cX0_printMatrix 16 = .ok (.ireturn, 1) := dk_172 (dk_at dksX0_printMatrix_0 16 rfl rfl)
abbrev cX0_outputByte : ByteArray := method_47_code
def yX0_outputByte : MethodName := ⟨RX0, "outputByte", "(LCsrCalculator;I[J)I"⟩
def dkwX0_outputByte_0 : List UInt8 := [44, 3, 42, 27, 182, 0, 157, 133, 80, 167, 0, 6, 78, 4, 172, 3, 172]
abbrev dktX0_outputByte_0 : List UInt8 := dkwX0_outputByte_0 ++ []
theorem dksX0_outputByte_0 : cX0_outputByte.data.toList.drop 0 = dktX0_outputByte_0 := by decide +kernel
theorem dX0_outputByte_0 : decode cX0_outputByte 0 = .ok (.aload_n 2, 1) := dk_44 (dk_at dksX0_outputByte_0 0 rfl rfl)
theorem dX0_outputByte_1 : decode cX0_outputByte 1 = .ok (.iconst 0, 1) := dk_3 (dk_at dksX0_outputByte_0 1 rfl rfl)
theorem dX0_outputByte_2 : decode cX0_outputByte 2 = .ok (.aload_n 0, 1) := dk_42 (dk_at dksX0_outputByte_0 2 rfl rfl)
theorem dX0_outputByte_3 : decode cX0_outputByte 3 = .ok (.iload_n 1, 1) := dk_27 (dk_at dksX0_outputByte_0 3 rfl rfl)
theorem dX0_outputByte_4 : decode cX0_outputByte 4 = .ok (.invokevirtual 157, 3) := dk_182 0 157 (dk_at dksX0_outputByte_0 4 rfl rfl)
theorem dX0_outputByte_7 : decode cX0_outputByte 7 = .ok (.i2l, 1) := dk_133 (dk_at dksX0_outputByte_0 7 rfl rfl)
theorem dX0_outputByte_8 : decode cX0_outputByte 8 = .ok (.lastore, 1) := dk_80 (dk_at dksX0_outputByte_0 8 rfl rfl)
theorem dX0_outputByte_9 : decode cX0_outputByte 9 = .ok (.goto 6, 3) := dk_167 0 6 (dk_at dksX0_outputByte_0 9 rfl rfl)
theorem dX0_outputByte_12 : decode cX0_outputByte 12 = .ok (.astore_n 3, 1) := dk_78 (dk_at dksX0_outputByte_0 12 rfl rfl)
theorem dX0_outputByte_13 : decode cX0_outputByte 13 = .ok (.iconst 1, 1) := dk_4 (dk_at dksX0_outputByte_0 13 rfl rfl)
theorem dX0_outputByte_14 : decode cX0_outputByte 14 = .ok (.ireturn, 1) := dk_172 (dk_at dksX0_outputByte_0 14 rfl rfl)
theorem dX0_outputByte_15 : decode cX0_outputByte 15 = .ok (.iconst 0, 1) := dk_3 (dk_at dksX0_outputByte_0 15 rfl rfl)
theorem dX0_outputByte_16 : decode cX0_outputByte 16 = .ok (.ireturn, 1) := dk_172 (dk_at dksX0_outputByte_0 16 rfl rfl)
abbrev cX0_restoreState : ByteArray := method_48_code
def yX0_restoreState : MethodName := ⟨RX0, "restoreState", "(LCsrCalculator;[J)I"⟩
def dkwX0_restoreState_0 : List UInt8 := [43, 3, 42, 182, 0, 160, 133, 80, 167, 0, 6, 77, 4, 172, 3, 172]
abbrev dktX0_restoreState_0 : List UInt8 := dkwX0_restoreState_0 ++ []
theorem dksX0_restoreState_0 : cX0_restoreState.data.toList.drop 0 = dktX0_restoreState_0 := by decide +kernel
theorem dX0_restoreState_0 : decode cX0_restoreState 0 = .ok (.aload_n 1, 1) := dk_43 (dk_at dksX0_restoreState_0 0 rfl rfl)
theorem dX0_restoreState_1 : decode cX0_restoreState 1 = .ok (.iconst 0, 1) := dk_3 (dk_at dksX0_restoreState_0 1 rfl rfl)
theorem dX0_restoreState_2 : decode cX0_restoreState 2 = .ok (.aload_n 0, 1) := dk_42 (dk_at dksX0_restoreState_0 2 rfl rfl)
theorem dX0_restoreState_3 : decode cX0_restoreState 3 = .ok (.invokevirtual 160, 3) := dk_182 0 160 (dk_at dksX0_restoreState_0 3 rfl rfl)
theorem dX0_restoreState_6 : decode cX0_restoreState 6 = .ok (.i2l, 1) := dk_133 (dk_at dksX0_restoreState_0 6 rfl rfl)
theorem dX0_restoreState_7 : decode cX0_restoreState 7 = .ok (.lastore, 1) := dk_80 (dk_at dksX0_restoreState_0 7 rfl rfl)
theorem dX0_restoreState_8 : decode cX0_restoreState 8 = .ok (.goto 6, 3) := dk_167 0 6 (dk_at dksX0_restoreState_0 8 rfl rfl)
theorem dX0_restoreState_11 : decode cX0_restoreState 11 = .ok (.astore_n 2, 1) := dk_77 (dk_at dksX0_restoreState_0 11 rfl rfl)
theorem dX0_restoreState_12 : decode cX0_restoreState 12 = .ok (.iconst 1, 1) := dk_4 (dk_at dksX0_restoreState_0 12 rfl rfl)
theorem dX0_restoreState_13 : decode cX0_restoreState 13 = .ok (.ireturn, 1) := dk_172 (dk_at dksX0_restoreState_0 13 rfl rfl)
theorem dX0_restoreState_14 : decode cX0_restoreState 14 = .ok (.iconst 0, 1) := dk_3 (dk_at dksX0_restoreState_0 14 rfl rfl)
theorem dX0_restoreState_15 : decode cX0_restoreState 15 = .ok (.ireturn, 1) := dk_172 (dk_at dksX0_restoreState_0 15 rfl rfl)
theorem q179 : (Jvm.Cond.initialized "CsrCalculatorLaw") ∈ lw_all := lw_g (lw_at lw_m1 0 rfl) rfl
theorem q222 : (Jvm.Cond.classLink "CsrCalculatorLaw" (8 : Nat) "CsrCalculator") ∈ lw_all := lw_g (lw_at lw_m1 43 rfl) rfl
theorem q224 : (Jvm.Cond.methodLink "CsrCalculatorLaw" (163 : Nat) ({ cls := "CsrCalculator", name := "<init>", desc := "()V" } : Jvm.MethodName)) ∈ lw_all := lw_g (lw_at lw_m1 45 rfl) rfl
theorem q365 : (Jvm.Cond.methodLink "CsrCalculatorLaw" (187 : Nat) ({ cls := "CsrCalculator", name := "errorCode", desc := "()I" } : Jvm.MethodName)) ∈ lw_all := lw_g (lw_at lw_m1 186 rfl) rfl
theorem q369 : (Jvm.Cond.methodLink "CsrCalculatorLaw" (191 : Nat) ({ cls := "CsrCalculator", name := "errorOffset", desc := "()I" } : Jvm.MethodName)) ∈ lw_all := lw_g (lw_at lw_m1 190 rfl) rfl
theorem q373 : (Jvm.Cond.methodLink "CsrCalculatorLaw" (278 : Nat) ({ cls := "CsrCalculator", name := "totalWork", desc := "()I" } : Jvm.MethodName)) ∈ lw_all := lw_g (lw_at lw_m1 194 rfl) rfl
theorem q377 : (Jvm.Cond.methodLink "CsrCalculatorLaw" (282 : Nat) ({ cls := "CsrCalculator", name := "violations", desc := "()I" } : Jvm.MethodName)) ∈ lw_all := lw_g (lw_at lw_m1 198 rfl) rfl
theorem q542 : (Jvm.Cond.methodLink "CsrCalculatorLaw" (330 : Nat) ({ cls := "CsrCalculator", name := "saveState", desc := "()I" } : Jvm.MethodName)) ∈ lw_all := lw_g (lw_at lw_m2 123 rfl) rfl
theorem q557 : (Jvm.Cond.methodLink "CsrCalculatorLaw" (167 : Nat) ({ cls := "CsrCalculatorLaw", name := "feed", desc := "(LCsrCalculator;IIIII[J)I" } : Jvm.MethodName)) ∈ lw_all := lw_g (lw_at lw_m2 138 rfl) rfl
theorem q558 : (Jvm.Cond.static ({ cls := "CsrCalculatorLaw", name := "feed", desc := "(LCsrCalculator;IIIII[J)I" } : Jvm.MethodName)) ∈ lw_all := lw_g (lw_at lw_m2 139 rfl) rfl
theorem q559 : (Jvm.Cond.codeWith ({ cls := "CsrCalculatorLaw", name := "feed", desc := "(LCsrCalculator;IIIII[J)I" } : Jvm.MethodName) method_3_code (8 : Nat) (Option.some Jvm.ClassFile.FieldType.int) [((0 : Nat), (16 : Nat), (19 : Nat), (13 : Nat))]) ∈ lw_all := lw_g (lw_at lw_m2 140 rfl) rfl
theorem q560 : (Jvm.Cond.classLink "CsrCalculatorLaw" (13 : Nat) "java/lang/IllegalStateException") ∈ lw_all := lw_g (lw_at lw_m2 141 rfl) rfl
theorem q561 : (Jvm.Cond.methodLink "CsrCalculatorLaw" (7 : Nat) ({ cls := "CsrCalculator", name := "feed", desc := "(IIIII)I" } : Jvm.MethodName)) ∈ lw_all := lw_g (lw_at lw_m2 142 rfl) rfl
theorem q595 : (Jvm.Cond.methodLink "CsrCalculatorLaw" (176 : Nat) ({ cls := "CsrCalculatorLaw", name := "truncate", desc := "(LCsrCalculator;I[J)I" } : Jvm.MethodName)) ∈ lw_all := lw_g (lw_at lw_m2 176 rfl) rfl
theorem q596 : (Jvm.Cond.static ({ cls := "CsrCalculatorLaw", name := "truncate", desc := "(LCsrCalculator;I[J)I" } : Jvm.MethodName)) ∈ lw_all := lw_g (lw_at lw_m2 177 rfl) rfl
theorem q597 : (Jvm.Cond.codeWith ({ cls := "CsrCalculatorLaw", name := "truncate", desc := "(LCsrCalculator;I[J)I" } : Jvm.MethodName) method_4_code (4 : Nat) (Option.some Jvm.ClassFile.FieldType.int) [((0 : Nat), (9 : Nat), (12 : Nat), (19 : Nat))]) ∈ lw_all := lw_g (lw_at lw_m2 178 rfl) rfl
theorem q598 : (Jvm.Cond.classLink "CsrCalculatorLaw" (19 : Nat) "java/lang/IllegalArgumentException") ∈ lw_all := lw_g (lw_at lw_m2 179 rfl) rfl
theorem q599 : (Jvm.Cond.methodLink "CsrCalculatorLaw" (15 : Nat) ({ cls := "CsrCalculator", name := "truncate", desc := "(I)I" } : Jvm.MethodName)) ∈ lw_all := lw_g (lw_at lw_m2 180 rfl) rfl
theorem q622 : (Jvm.Cond.methodLink "CsrCalculatorLaw" (180 : Nat) ({ cls := "CsrCalculatorLaw", name := "readText", desc := "(LCsrCalculator;[J)I" } : Jvm.MethodName)) ∈ lw_all := lw_g (lw_at lw_m2 203 rfl) rfl
theorem q623 : (Jvm.Cond.static ({ cls := "CsrCalculatorLaw", name := "readText", desc := "(LCsrCalculator;[J)I" } : Jvm.MethodName)) ∈ lw_all := lw_g (lw_at lw_m2 204 rfl) rfl
theorem q624 : (Jvm.Cond.codeWith ({ cls := "CsrCalculatorLaw", name := "readText", desc := "(LCsrCalculator;[J)I" } : Jvm.MethodName) method_5_code (3 : Nat) (Option.some Jvm.ClassFile.FieldType.int) [((0 : Nat), (8 : Nat), (11 : Nat), (19 : Nat))]) ∈ lw_all := lw_g (lw_at lw_m2 205 rfl) rfl
theorem q625 : (Jvm.Cond.methodLink "CsrCalculatorLaw" (21 : Nat) ({ cls := "CsrCalculator", name := "readText", desc := "()I" } : Jvm.MethodName)) ∈ lw_all := lw_g (lw_at lw_m2 206 rfl) rfl
theorem q1462 : (Jvm.Cond.methodLink "CsrCalculatorLaw" (184 : Nat) ({ cls := "CsrCalculatorLaw", name := "runScript", desc := "(LCsrCalculator;[J)I" } : Jvm.MethodName)) ∈ lw_all := lw_g (lw_at lw_m6 83 rfl) rfl
theorem q1463 : (Jvm.Cond.static ({ cls := "CsrCalculatorLaw", name := "runScript", desc := "(LCsrCalculator;[J)I" } : Jvm.MethodName)) ∈ lw_all := lw_g (lw_at lw_m6 84 rfl) rfl
theorem q1464 : (Jvm.Cond.codeWith ({ cls := "CsrCalculatorLaw", name := "runScript", desc := "(LCsrCalculator;[J)I" } : Jvm.MethodName) method_6_code (3 : Nat) (Option.some Jvm.ClassFile.FieldType.int) [((0 : Nat), (8 : Nat), (11 : Nat), (19 : Nat))]) ∈ lw_all := lw_g (lw_at lw_m6 85 rfl) rfl
theorem q1465 : (Jvm.Cond.methodLink "CsrCalculatorLaw" (25 : Nat) ({ cls := "CsrCalculator", name := "runScript", desc := "()I" } : Jvm.MethodName)) ∈ lw_all := lw_g (lw_at lw_m6 86 rfl) rfl
theorem q1716 : (Jvm.Cond.methodLink "CsrCalculatorLaw" (195 : Nat) ({ cls := "CsrCalculatorLaw", name := "rowCount", desc := "(LCsrCalculator;I[J)I" } : Jvm.MethodName)) ∈ lw_all := lw_g (lw_at lw_m7 97 rfl) rfl
theorem q1717 : (Jvm.Cond.static ({ cls := "CsrCalculatorLaw", name := "rowCount", desc := "(LCsrCalculator;I[J)I" } : Jvm.MethodName)) ∈ lw_all := lw_g (lw_at lw_m7 98 rfl) rfl
theorem q1718 : (Jvm.Cond.codeWith ({ cls := "CsrCalculatorLaw", name := "rowCount", desc := "(LCsrCalculator;I[J)I" } : Jvm.MethodName) method_7_code (4 : Nat) (Option.some Jvm.ClassFile.FieldType.int) [((0 : Nat), (9 : Nat), (12 : Nat), (31 : Nat))]) ∈ lw_all := lw_g (lw_at lw_m7 99 rfl) rfl
theorem q1719 : (Jvm.Cond.classLink "CsrCalculatorLaw" (31 : Nat) "java/lang/IndexOutOfBoundsException") ∈ lw_all := lw_g (lw_at lw_m7 100 rfl) rfl
theorem q1720 : (Jvm.Cond.methodLink "CsrCalculatorLaw" (28 : Nat) ({ cls := "CsrCalculator", name := "rowCount", desc := "(I)I" } : Jvm.MethodName)) ∈ lw_all := lw_g (lw_at lw_m7 101 rfl) rfl
theorem q1724 : (Jvm.Cond.methodLink "CsrCalculatorLaw" (198 : Nat) ({ cls := "CsrCalculatorLaw", name := "columnCount", desc := "(LCsrCalculator;I[J)I" } : Jvm.MethodName)) ∈ lw_all := lw_g (lw_at lw_m7 105 rfl) rfl
theorem q1725 : (Jvm.Cond.static ({ cls := "CsrCalculatorLaw", name := "columnCount", desc := "(LCsrCalculator;I[J)I" } : Jvm.MethodName)) ∈ lw_all := lw_g (lw_at lw_m7 106 rfl) rfl
theorem q1726 : (Jvm.Cond.codeWith ({ cls := "CsrCalculatorLaw", name := "columnCount", desc := "(LCsrCalculator;I[J)I" } : Jvm.MethodName) method_8_code (4 : Nat) (Option.some Jvm.ClassFile.FieldType.int) [((0 : Nat), (9 : Nat), (12 : Nat), (31 : Nat))]) ∈ lw_all := lw_g (lw_at lw_m7 107 rfl) rfl
theorem q1727 : (Jvm.Cond.methodLink "CsrCalculatorLaw" (33 : Nat) ({ cls := "CsrCalculator", name := "columnCount", desc := "(I)I" } : Jvm.MethodName)) ∈ lw_all := lw_g (lw_at lw_m7 108 rfl) rfl
theorem q1731 : (Jvm.Cond.methodLink "CsrCalculatorLaw" (201 : Nat) ({ cls := "CsrCalculatorLaw", name := "storedCount", desc := "(LCsrCalculator;I[J)I" } : Jvm.MethodName)) ∈ lw_all := lw_g (lw_at lw_m7 112 rfl) rfl
theorem q1732 : (Jvm.Cond.static ({ cls := "CsrCalculatorLaw", name := "storedCount", desc := "(LCsrCalculator;I[J)I" } : Jvm.MethodName)) ∈ lw_all := lw_g (lw_at lw_m7 113 rfl) rfl
theorem q1733 : (Jvm.Cond.codeWith ({ cls := "CsrCalculatorLaw", name := "storedCount", desc := "(LCsrCalculator;I[J)I" } : Jvm.MethodName) method_9_code (4 : Nat) (Option.some Jvm.ClassFile.FieldType.int) [((0 : Nat), (9 : Nat), (12 : Nat), (31 : Nat))]) ∈ lw_all := lw_g (lw_at lw_m7 114 rfl) rfl
theorem q1734 : (Jvm.Cond.methodLink "CsrCalculatorLaw" (36 : Nat) ({ cls := "CsrCalculator", name := "storedCount", desc := "(I)I" } : Jvm.MethodName)) ∈ lw_all := lw_g (lw_at lw_m7 115 rfl) rfl
theorem q1738 : (Jvm.Cond.methodLink "CsrCalculatorLaw" (204 : Nat) ({ cls := "CsrCalculatorLaw", name := "rowPointer", desc := "(LCsrCalculator;II[J)I" } : Jvm.MethodName)) ∈ lw_all := lw_g (lw_at lw_m7 119 rfl) rfl
theorem q1739 : (Jvm.Cond.static ({ cls := "CsrCalculatorLaw", name := "rowPointer", desc := "(LCsrCalculator;II[J)I" } : Jvm.MethodName)) ∈ lw_all := lw_g (lw_at lw_m7 120 rfl) rfl
theorem q1740 : (Jvm.Cond.codeWith ({ cls := "CsrCalculatorLaw", name := "rowPointer", desc := "(LCsrCalculator;II[J)I" } : Jvm.MethodName) method_10_code (5 : Nat) (Option.some Jvm.ClassFile.FieldType.int) [((0 : Nat), (10 : Nat), (13 : Nat), (31 : Nat))]) ∈ lw_all := lw_g (lw_at lw_m7 121 rfl) rfl
theorem q1741 : (Jvm.Cond.methodLink "CsrCalculatorLaw" (39 : Nat) ({ cls := "CsrCalculator", name := "rowPointer", desc := "(II)I" } : Jvm.MethodName)) ∈ lw_all := lw_g (lw_at lw_m7 122 rfl) rfl
theorem q1745 : (Jvm.Cond.methodLink "CsrCalculatorLaw" (208 : Nat) ({ cls := "CsrCalculatorLaw", name := "columnIndex", desc := "(LCsrCalculator;II[J)I" } : Jvm.MethodName)) ∈ lw_all := lw_g (lw_at lw_m7 126 rfl) rfl
theorem q1746 : (Jvm.Cond.static ({ cls := "CsrCalculatorLaw", name := "columnIndex", desc := "(LCsrCalculator;II[J)I" } : Jvm.MethodName)) ∈ lw_all := lw_g (lw_at lw_m7 127 rfl) rfl
theorem q1747 : (Jvm.Cond.codeWith ({ cls := "CsrCalculatorLaw", name := "columnIndex", desc := "(LCsrCalculator;II[J)I" } : Jvm.MethodName) method_11_code (5 : Nat) (Option.some Jvm.ClassFile.FieldType.int) [((0 : Nat), (10 : Nat), (13 : Nat), (31 : Nat))]) ∈ lw_all := lw_g (lw_at lw_m7 128 rfl) rfl
theorem q1748 : (Jvm.Cond.methodLink "CsrCalculatorLaw" (43 : Nat) ({ cls := "CsrCalculator", name := "columnIndex", desc := "(II)I" } : Jvm.MethodName)) ∈ lw_all := lw_g (lw_at lw_m7 129 rfl) rfl
theorem q1756 : (Jvm.Cond.methodLink "CsrCalculatorLaw" (211 : Nat) ({ cls := "CsrCalculatorLaw", name := "storedValue", desc := "(LCsrCalculator;II[J)I" } : Jvm.MethodName)) ∈ lw_all := lw_g (lw_at lw_m7 137 rfl) rfl
theorem q1757 : (Jvm.Cond.static ({ cls := "CsrCalculatorLaw", name := "storedValue", desc := "(LCsrCalculator;II[J)I" } : Jvm.MethodName)) ∈ lw_all := lw_g (lw_at lw_m7 138 rfl) rfl
theorem q1758 : (Jvm.Cond.codeWith ({ cls := "CsrCalculatorLaw", name := "storedValue", desc := "(LCsrCalculator;II[J)I" } : Jvm.MethodName) method_12_code (5 : Nat) (Option.some Jvm.ClassFile.FieldType.int) [((0 : Nat), (10 : Nat), (13 : Nat), (31 : Nat))]) ∈ lw_all := lw_g (lw_at lw_m7 139 rfl) rfl
theorem q1759 : (Jvm.Cond.methodLink "CsrCalculatorLaw" (46 : Nat) ({ cls := "CsrCalculator", name := "storedValue", desc := "(II)I" } : Jvm.MethodName)) ∈ lw_all := lw_g (lw_at lw_m7 140 rfl) rfl
theorem q1763 : (Jvm.Cond.methodLink "CsrCalculatorLaw" (214 : Nat) ({ cls := "CsrCalculatorLaw", name := "rowOf", desc := "(LCsrCalculator;II[J)I" } : Jvm.MethodName)) ∈ lw_all := lw_g (lw_at lw_m7 144 rfl) rfl
theorem q1764 : (Jvm.Cond.static ({ cls := "CsrCalculatorLaw", name := "rowOf", desc := "(LCsrCalculator;II[J)I" } : Jvm.MethodName)) ∈ lw_all := lw_g (lw_at lw_m7 145 rfl) rfl
theorem q1765 : (Jvm.Cond.codeWith ({ cls := "CsrCalculatorLaw", name := "rowOf", desc := "(LCsrCalculator;II[J)I" } : Jvm.MethodName) method_13_code (5 : Nat) (Option.some Jvm.ClassFile.FieldType.int) [((0 : Nat), (10 : Nat), (13 : Nat), (31 : Nat))]) ∈ lw_all := lw_g (lw_at lw_m7 146 rfl) rfl
theorem q1766 : (Jvm.Cond.methodLink "CsrCalculatorLaw" (49 : Nat) ({ cls := "CsrCalculator", name := "rowOf", desc := "(II)I" } : Jvm.MethodName)) ∈ lw_all := lw_g (lw_at lw_m7 147 rfl) rfl
theorem q1774 : (Jvm.Cond.methodLink "CsrCalculatorLaw" (217 : Nat) ({ cls := "CsrCalculatorLaw", name := "value", desc := "(LCsrCalculator;III[J)I" } : Jvm.MethodName)) ∈ lw_all := lw_g (lw_at lw_m7 155 rfl) rfl
theorem q1775 : (Jvm.Cond.static ({ cls := "CsrCalculatorLaw", name := "value", desc := "(LCsrCalculator;III[J)I" } : Jvm.MethodName)) ∈ lw_all := lw_g (lw_at lw_m7 156 rfl) rfl
theorem q1776 : (Jvm.Cond.codeWith ({ cls := "CsrCalculatorLaw", name := "value", desc := "(LCsrCalculator;III[J)I" } : Jvm.MethodName) method_14_code (6 : Nat) (Option.some Jvm.ClassFile.FieldType.int) [((0 : Nat), (12 : Nat), (15 : Nat), (31 : Nat))]) ∈ lw_all := lw_g (lw_at lw_m7 157 rfl) rfl
theorem q1777 : (Jvm.Cond.methodLink "CsrCalculatorLaw" (52 : Nat) ({ cls := "CsrCalculator", name := "value", desc := "(III)I" } : Jvm.MethodName)) ∈ lw_all := lw_g (lw_at lw_m7 158 rfl) rfl
theorem q1781 : (Jvm.Cond.methodLink "CsrCalculatorLaw" (221 : Nat) ({ cls := "CsrCalculatorLaw", name := "storageIndex", desc := "(LCsrCalculator;III[J)I" } : Jvm.MethodName)) ∈ lw_all := lw_g (lw_at lw_m7 162 rfl) rfl
theorem q1782 : (Jvm.Cond.static ({ cls := "CsrCalculatorLaw", name := "storageIndex", desc := "(LCsrCalculator;III[J)I" } : Jvm.MethodName)) ∈ lw_all := lw_g (lw_at lw_m7 163 rfl) rfl
theorem q1783 : (Jvm.Cond.codeWith ({ cls := "CsrCalculatorLaw", name := "storageIndex", desc := "(LCsrCalculator;III[J)I" } : Jvm.MethodName) method_15_code (6 : Nat) (Option.some Jvm.ClassFile.FieldType.int) [((0 : Nat), (12 : Nat), (15 : Nat), (31 : Nat))]) ∈ lw_all := lw_g (lw_at lw_m7 164 rfl) rfl
theorem q1784 : (Jvm.Cond.methodLink "CsrCalculatorLaw" (56 : Nat) ({ cls := "CsrCalculator", name := "storageIndex", desc := "(III)I" } : Jvm.MethodName)) ∈ lw_all := lw_g (lw_at lw_m7 165 rfl) rfl
theorem q1788 : (Jvm.Cond.methodLink "CsrCalculatorLaw" (224 : Nat) ({ cls := "CsrCalculatorLaw", name := "explicitZeros", desc := "(LCsrCalculator;I[J)I" } : Jvm.MethodName)) ∈ lw_all := lw_g (lw_at lw_m7 169 rfl) rfl
theorem q1789 : (Jvm.Cond.static ({ cls := "CsrCalculatorLaw", name := "explicitZeros", desc := "(LCsrCalculator;I[J)I" } : Jvm.MethodName)) ∈ lw_all := lw_g (lw_at lw_m7 170 rfl) rfl
theorem q1790 : (Jvm.Cond.codeWith ({ cls := "CsrCalculatorLaw", name := "explicitZeros", desc := "(LCsrCalculator;I[J)I" } : Jvm.MethodName) method_16_code (4 : Nat) (Option.some Jvm.ClassFile.FieldType.int) [((0 : Nat), (9 : Nat), (12 : Nat), (31 : Nat))]) ∈ lw_all := lw_g (lw_at lw_m7 171 rfl) rfl
theorem q1791 : (Jvm.Cond.methodLink "CsrCalculatorLaw" (59 : Nat) ({ cls := "CsrCalculator", name := "explicitZeros", desc := "(I)I" } : Jvm.MethodName)) ∈ lw_all := lw_g (lw_at lw_m7 172 rfl) rfl
theorem q1799 : (Jvm.Cond.methodLink "CsrCalculatorLaw" (227 : Nat) ({ cls := "CsrCalculatorLaw", name := "rowLength", desc := "(LCsrCalculator;II[J)I" } : Jvm.MethodName)) ∈ lw_all := lw_g (lw_at lw_m7 180 rfl) rfl
theorem q1800 : (Jvm.Cond.static ({ cls := "CsrCalculatorLaw", name := "rowLength", desc := "(LCsrCalculator;II[J)I" } : Jvm.MethodName)) ∈ lw_all := lw_g (lw_at lw_m7 181 rfl) rfl
theorem q1801 : (Jvm.Cond.codeWith ({ cls := "CsrCalculatorLaw", name := "rowLength", desc := "(LCsrCalculator;II[J)I" } : Jvm.MethodName) method_17_code (5 : Nat) (Option.some Jvm.ClassFile.FieldType.int) [((0 : Nat), (10 : Nat), (13 : Nat), (31 : Nat))]) ∈ lw_all := lw_g (lw_at lw_m7 182 rfl) rfl
theorem q1802 : (Jvm.Cond.methodLink "CsrCalculatorLaw" (62 : Nat) ({ cls := "CsrCalculator", name := "rowLength", desc := "(II)I" } : Jvm.MethodName)) ∈ lw_all := lw_g (lw_at lw_m7 183 rfl) rfl
theorem q1806 : (Jvm.Cond.methodLink "CsrCalculatorLaw" (230 : Nat) ({ cls := "CsrCalculatorLaw", name := "columnLength", desc := "(LCsrCalculator;II[J)I" } : Jvm.MethodName)) ∈ lw_all := lw_g (lw_at lw_m7 187 rfl) rfl
theorem q1807 : (Jvm.Cond.static ({ cls := "CsrCalculatorLaw", name := "columnLength", desc := "(LCsrCalculator;II[J)I" } : Jvm.MethodName)) ∈ lw_all := lw_g (lw_at lw_m7 188 rfl) rfl
theorem q1808 : (Jvm.Cond.codeWith ({ cls := "CsrCalculatorLaw", name := "columnLength", desc := "(LCsrCalculator;II[J)I" } : Jvm.MethodName) method_18_code (5 : Nat) (Option.some Jvm.ClassFile.FieldType.int) [((0 : Nat), (10 : Nat), (13 : Nat), (31 : Nat))]) ∈ lw_all := lw_g (lw_at lw_m7 189 rfl) rfl
theorem q1809 : (Jvm.Cond.methodLink "CsrCalculatorLaw" (65 : Nat) ({ cls := "CsrCalculator", name := "columnLength", desc := "(II)I" } : Jvm.MethodName)) ∈ lw_all := lw_g (lw_at lw_m7 190 rfl) rfl
theorem q1817 : (Jvm.Cond.methodLink "CsrCalculatorLaw" (233 : Nat) ({ cls := "CsrCalculatorLaw", name := "longestRow", desc := "(LCsrCalculator;I[J)I" } : Jvm.MethodName)) ∈ lw_all := lw_g (lw_at lw_m7 198 rfl) rfl
theorem q1818 : (Jvm.Cond.static ({ cls := "CsrCalculatorLaw", name := "longestRow", desc := "(LCsrCalculator;I[J)I" } : Jvm.MethodName)) ∈ lw_all := lw_g (lw_at lw_m7 199 rfl) rfl
theorem q1819 : (Jvm.Cond.codeWith ({ cls := "CsrCalculatorLaw", name := "longestRow", desc := "(LCsrCalculator;I[J)I" } : Jvm.MethodName) method_19_code (4 : Nat) (Option.some Jvm.ClassFile.FieldType.int) [((0 : Nat), (9 : Nat), (12 : Nat), (31 : Nat))]) ∈ lw_all := lw_g (lw_at lw_m7 200 rfl) rfl
theorem q1820 : (Jvm.Cond.methodLink "CsrCalculatorLaw" (68 : Nat) ({ cls := "CsrCalculator", name := "longestRow", desc := "(I)I" } : Jvm.MethodName)) ∈ lw_all := lw_g (lw_at lw_m7 201 rfl) rfl
theorem q1824 : (Jvm.Cond.methodLink "CsrCalculatorLaw" (236 : Nat) ({ cls := "CsrCalculatorLaw", name := "emptyRows", desc := "(LCsrCalculator;I[J)I" } : Jvm.MethodName)) ∈ lw_all := lw_g (lw_at lw_m7 205 rfl) rfl
theorem q1825 : (Jvm.Cond.static ({ cls := "CsrCalculatorLaw", name := "emptyRows", desc := "(LCsrCalculator;I[J)I" } : Jvm.MethodName)) ∈ lw_all := lw_g (lw_at lw_m7 206 rfl) rfl
theorem q1826 : (Jvm.Cond.codeWith ({ cls := "CsrCalculatorLaw", name := "emptyRows", desc := "(LCsrCalculator;I[J)I" } : Jvm.MethodName) method_20_code (4 : Nat) (Option.some Jvm.ClassFile.FieldType.int) [((0 : Nat), (9 : Nat), (12 : Nat), (31 : Nat))]) ∈ lw_all := lw_g (lw_at lw_m7 207 rfl) rfl
theorem q1827 : (Jvm.Cond.methodLink "CsrCalculatorLaw" (71 : Nat) ({ cls := "CsrCalculator", name := "emptyRows", desc := "(I)I" } : Jvm.MethodName)) ∈ lw_all := lw_g (lw_at lw_m7 208 rfl) rfl
theorem q1831 : (Jvm.Cond.methodLink "CsrCalculatorLaw" (239 : Nat) ({ cls := "CsrCalculatorLaw", name := "bandwidth", desc := "(LCsrCalculator;I[J)I" } : Jvm.MethodName)) ∈ lw_all := lw_g (lw_at lw_m7 212 rfl) rfl
theorem q1832 : (Jvm.Cond.static ({ cls := "CsrCalculatorLaw", name := "bandwidth", desc := "(LCsrCalculator;I[J)I" } : Jvm.MethodName)) ∈ lw_all := lw_g (lw_at lw_m7 213 rfl) rfl
theorem q1833 : (Jvm.Cond.codeWith ({ cls := "CsrCalculatorLaw", name := "bandwidth", desc := "(LCsrCalculator;I[J)I" } : Jvm.MethodName) method_21_code (4 : Nat) (Option.some Jvm.ClassFile.FieldType.int) [((0 : Nat), (9 : Nat), (12 : Nat), (31 : Nat))]) ∈ lw_all := lw_g (lw_at lw_m7 214 rfl) rfl
theorem q1834 : (Jvm.Cond.methodLink "CsrCalculatorLaw" (74 : Nat) ({ cls := "CsrCalculator", name := "bandwidth", desc := "(I)I" } : Jvm.MethodName)) ∈ lw_all := lw_g (lw_at lw_m7 215 rfl) rfl
theorem q1847 : (Jvm.Cond.methodLink "CsrCalculatorLaw" (242 : Nat) ({ cls := "CsrCalculatorLaw", name := "rowSum", desc := "(LCsrCalculator;II[J)I" } : Jvm.MethodName)) ∈ lw_all := lw_g (lw_at lw_m7 228 rfl) rfl
theorem q1848 : (Jvm.Cond.static ({ cls := "CsrCalculatorLaw", name := "rowSum", desc := "(LCsrCalculator;II[J)I" } : Jvm.MethodName)) ∈ lw_all := lw_g (lw_at lw_m7 229 rfl) rfl
theorem q1849 : (Jvm.Cond.codeWith ({ cls := "CsrCalculatorLaw", name := "rowSum", desc := "(LCsrCalculator;II[J)I" } : Jvm.MethodName) method_22_code (5 : Nat) (Option.some Jvm.ClassFile.FieldType.int) [((0 : Nat), (10 : Nat), (13 : Nat), (31 : Nat))]) ∈ lw_all := lw_g (lw_at lw_m7 230 rfl) rfl
theorem q1850 : (Jvm.Cond.methodLink "CsrCalculatorLaw" (77 : Nat) ({ cls := "CsrCalculator", name := "rowSum", desc := "(II)I" } : Jvm.MethodName)) ∈ lw_all := lw_g (lw_at lw_m7 231 rfl) rfl
theorem q1854 : (Jvm.Cond.methodLink "CsrCalculatorLaw" (245 : Nat) ({ cls := "CsrCalculatorLaw", name := "largestMagnitude", desc := "(LCsrCalculator;I[J)I" } : Jvm.MethodName)) ∈ lw_all := lw_g (lw_at lw_m7 235 rfl) rfl
theorem q1855 : (Jvm.Cond.static ({ cls := "CsrCalculatorLaw", name := "largestMagnitude", desc := "(LCsrCalculator;I[J)I" } : Jvm.MethodName)) ∈ lw_all := lw_g (lw_at lw_m7 236 rfl) rfl
theorem q1856 : (Jvm.Cond.codeWith ({ cls := "CsrCalculatorLaw", name := "largestMagnitude", desc := "(LCsrCalculator;I[J)I" } : Jvm.MethodName) method_23_code (4 : Nat) (Option.some Jvm.ClassFile.FieldType.int) [((0 : Nat), (9 : Nat), (12 : Nat), (31 : Nat))]) ∈ lw_all := lw_g (lw_at lw_m7 237 rfl) rfl
theorem q1857 : (Jvm.Cond.methodLink "CsrCalculatorLaw" (80 : Nat) ({ cls := "CsrCalculator", name := "largestMagnitude", desc := "(I)I" } : Jvm.MethodName)) ∈ lw_all := lw_g (lw_at lw_m7 238 rfl) rfl
theorem q1863 : (Jvm.Cond.methodLink "CsrCalculatorLaw" (248 : Nat) ({ cls := "CsrCalculatorLaw", name := "trace", desc := "(LCsrCalculator;I[J)I" } : Jvm.MethodName)) ∈ lw_all := lw_g (lw_at lw_m8 4 rfl) rfl
theorem q1864 : (Jvm.Cond.static ({ cls := "CsrCalculatorLaw", name := "trace", desc := "(LCsrCalculator;I[J)I" } : Jvm.MethodName)) ∈ lw_all := lw_g (lw_at lw_m8 5 rfl) rfl
theorem q1865 : (Jvm.Cond.codeWith ({ cls := "CsrCalculatorLaw", name := "trace", desc := "(LCsrCalculator;I[J)I" } : Jvm.MethodName) method_24_code (4 : Nat) (Option.some Jvm.ClassFile.FieldType.int) [((0 : Nat), (9 : Nat), (12 : Nat), (31 : Nat)), ((0 : Nat), (9 : Nat), (15 : Nat), (13 : Nat))]) ∈ lw_all := lw_g (lw_at lw_m8 6 rfl) rfl
theorem q1866 : (Jvm.Cond.methodLink "CsrCalculatorLaw" (83 : Nat) ({ cls := "CsrCalculator", name := "trace", desc := "(I)I" } : Jvm.MethodName)) ∈ lw_all := lw_g (lw_at lw_m8 7 rfl) rfl
theorem q1870 : (Jvm.Cond.methodLink "CsrCalculatorLaw" (251 : Nat) ({ cls := "CsrCalculatorLaw", name := "isSymmetric", desc := "(LCsrCalculator;I[J)I" } : Jvm.MethodName)) ∈ lw_all := lw_g (lw_at lw_m8 11 rfl) rfl
theorem q1871 : (Jvm.Cond.static ({ cls := "CsrCalculatorLaw", name := "isSymmetric", desc := "(LCsrCalculator;I[J)I" } : Jvm.MethodName)) ∈ lw_all := lw_g (lw_at lw_m8 12 rfl) rfl
theorem q1872 : (Jvm.Cond.codeWith ({ cls := "CsrCalculatorLaw", name := "isSymmetric", desc := "(LCsrCalculator;I[J)I" } : Jvm.MethodName) method_25_code (4 : Nat) (Option.some Jvm.ClassFile.FieldType.int) [((0 : Nat), (16 : Nat), (19 : Nat), (31 : Nat))]) ∈ lw_all := lw_g (lw_at lw_m8 13 rfl) rfl
theorem q1873 : (Jvm.Cond.methodLink "CsrCalculatorLaw" (86 : Nat) ({ cls := "CsrCalculator", name := "isSymmetric", desc := "(I)Z" } : Jvm.MethodName)) ∈ lw_all := lw_g (lw_at lw_m8 14 rfl) rfl
theorem q1877 : (Jvm.Cond.methodLink "CsrCalculatorLaw" (254 : Nat) ({ cls := "CsrCalculatorLaw", name := "haveSameValues", desc := "(LCsrCalculator;II[J)I" } : Jvm.MethodName)) ∈ lw_all := lw_g (lw_at lw_m8 18 rfl) rfl
theorem q1878 : (Jvm.Cond.static ({ cls := "CsrCalculatorLaw", name := "haveSameValues", desc := "(LCsrCalculator;II[J)I" } : Jvm.MethodName)) ∈ lw_all := lw_g (lw_at lw_m8 19 rfl) rfl
theorem q1879 : (Jvm.Cond.codeWith ({ cls := "CsrCalculatorLaw", name := "haveSameValues", desc := "(LCsrCalculator;II[J)I" } : Jvm.MethodName) method_26_code (5 : Nat) (Option.some Jvm.ClassFile.FieldType.int) [((0 : Nat), (17 : Nat), (20 : Nat), (31 : Nat))]) ∈ lw_all := lw_g (lw_at lw_m8 20 rfl) rfl
theorem q1880 : (Jvm.Cond.methodLink "CsrCalculatorLaw" (90 : Nat) ({ cls := "CsrCalculator", name := "haveSameValues", desc := "(II)Z" } : Jvm.MethodName)) ∈ lw_all := lw_g (lw_at lw_m8 21 rfl) rfl
theorem q1884 : (Jvm.Cond.methodLink "CsrCalculatorLaw" (257 : Nat) ({ cls := "CsrCalculatorLaw", name := "haveSameStructure", desc := "(LCsrCalculator;II[J)I" } : Jvm.MethodName)) ∈ lw_all := lw_g (lw_at lw_m8 25 rfl) rfl
theorem q1885 : (Jvm.Cond.static ({ cls := "CsrCalculatorLaw", name := "haveSameStructure", desc := "(LCsrCalculator;II[J)I" } : Jvm.MethodName)) ∈ lw_all := lw_g (lw_at lw_m8 26 rfl) rfl
theorem q1886 : (Jvm.Cond.codeWith ({ cls := "CsrCalculatorLaw", name := "haveSameStructure", desc := "(LCsrCalculator;II[J)I" } : Jvm.MethodName) method_27_code (5 : Nat) (Option.some Jvm.ClassFile.FieldType.int) [((0 : Nat), (17 : Nat), (20 : Nat), (31 : Nat))]) ∈ lw_all := lw_g (lw_at lw_m8 27 rfl) rfl
theorem q1887 : (Jvm.Cond.methodLink "CsrCalculatorLaw" (94 : Nat) ({ cls := "CsrCalculator", name := "haveSameStructure", desc := "(II)Z" } : Jvm.MethodName)) ∈ lw_all := lw_g (lw_at lw_m8 28 rfl) rfl
theorem q1891 : (Jvm.Cond.methodLink "CsrCalculatorLaw" (260 : Nat) ({ cls := "CsrCalculatorLaw", name := "sumObstacle", desc := "(LCsrCalculator;II[J)I" } : Jvm.MethodName)) ∈ lw_all := lw_g (lw_at lw_m8 32 rfl) rfl
theorem q1892 : (Jvm.Cond.static ({ cls := "CsrCalculatorLaw", name := "sumObstacle", desc := "(LCsrCalculator;II[J)I" } : Jvm.MethodName)) ∈ lw_all := lw_g (lw_at lw_m8 33 rfl) rfl
theorem q1893 : (Jvm.Cond.codeWith ({ cls := "CsrCalculatorLaw", name := "sumObstacle", desc := "(LCsrCalculator;II[J)I" } : Jvm.MethodName) method_28_code (5 : Nat) (Option.some Jvm.ClassFile.FieldType.int) [((0 : Nat), (10 : Nat), (13 : Nat), (31 : Nat))]) ∈ lw_all := lw_g (lw_at lw_m8 34 rfl) rfl
theorem q1894 : (Jvm.Cond.methodLink "CsrCalculatorLaw" (97 : Nat) ({ cls := "CsrCalculator", name := "sumObstacle", desc := "(II)I" } : Jvm.MethodName)) ∈ lw_all := lw_g (lw_at lw_m8 35 rfl) rfl
theorem q1901 : (Jvm.Cond.methodLink "CsrCalculatorLaw" (263 : Nat) ({ cls := "CsrCalculatorLaw", name := "productObstacle", desc := "(LCsrCalculator;II[J)I" } : Jvm.MethodName)) ∈ lw_all := lw_g (lw_at lw_m8 42 rfl) rfl
theorem q1902 : (Jvm.Cond.static ({ cls := "CsrCalculatorLaw", name := "productObstacle", desc := "(LCsrCalculator;II[J)I" } : Jvm.MethodName)) ∈ lw_all := lw_g (lw_at lw_m8 43 rfl) rfl
theorem q1903 : (Jvm.Cond.codeWith ({ cls := "CsrCalculatorLaw", name := "productObstacle", desc := "(LCsrCalculator;II[J)I" } : Jvm.MethodName) method_29_code (5 : Nat) (Option.some Jvm.ClassFile.FieldType.int) [((0 : Nat), (10 : Nat), (13 : Nat), (31 : Nat))]) ∈ lw_all := lw_g (lw_at lw_m8 44 rfl) rfl
theorem q1904 : (Jvm.Cond.methodLink "CsrCalculatorLaw" (100 : Nat) ({ cls := "CsrCalculator", name := "productObstacle", desc := "(II)I" } : Jvm.MethodName)) ∈ lw_all := lw_g (lw_at lw_m8 45 rfl) rfl
theorem q1908 : (Jvm.Cond.methodLink "CsrCalculatorLaw" (266 : Nat) ({ cls := "CsrCalculatorLaw", name := "productStoredCount", desc := "(LCsrCalculator;II[J)I" } : Jvm.MethodName)) ∈ lw_all := lw_g (lw_at lw_m8 49 rfl) rfl
theorem q1909 : (Jvm.Cond.static ({ cls := "CsrCalculatorLaw", name := "productStoredCount", desc := "(LCsrCalculator;II[J)I" } : Jvm.MethodName)) ∈ lw_all := lw_g (lw_at lw_m8 50 rfl) rfl
theorem q1910 : (Jvm.Cond.codeWith ({ cls := "CsrCalculatorLaw", name := "productStoredCount", desc := "(LCsrCalculator;II[J)I" } : Jvm.MethodName) method_30_code (5 : Nat) (Option.some Jvm.ClassFile.FieldType.int) [((0 : Nat), (10 : Nat), (13 : Nat), (31 : Nat))]) ∈ lw_all := lw_g (lw_at lw_m8 51 rfl) rfl
theorem q1911 : (Jvm.Cond.methodLink "CsrCalculatorLaw" (103 : Nat) ({ cls := "CsrCalculator", name := "productStoredCount", desc := "(II)I" } : Jvm.MethodName)) ∈ lw_all := lw_g (lw_at lw_m8 52 rfl) rfl
theorem q1916 : (Jvm.Cond.methodLink "CsrCalculatorLaw" (269 : Nat) ({ cls := "CsrCalculatorLaw", name := "productWork", desc := "(LCsrCalculator;II[J)I" } : Jvm.MethodName)) ∈ lw_all := lw_g (lw_at lw_m8 57 rfl) rfl
theorem q1917 : (Jvm.Cond.static ({ cls := "CsrCalculatorLaw", name := "productWork", desc := "(LCsrCalculator;II[J)I" } : Jvm.MethodName)) ∈ lw_all := lw_g (lw_at lw_m8 58 rfl) rfl
theorem q1918 : (Jvm.Cond.codeWith ({ cls := "CsrCalculatorLaw", name := "productWork", desc := "(LCsrCalculator;II[J)I" } : Jvm.MethodName) method_31_code (5 : Nat) (Option.some Jvm.ClassFile.FieldType.int) [((0 : Nat), (10 : Nat), (13 : Nat), (31 : Nat))]) ∈ lw_all := lw_g (lw_at lw_m8 59 rfl) rfl
theorem q1919 : (Jvm.Cond.methodLink "CsrCalculatorLaw" (106 : Nat) ({ cls := "CsrCalculator", name := "productWork", desc := "(II)I" } : Jvm.MethodName)) ∈ lw_all := lw_g (lw_at lw_m8 60 rfl) rfl
theorem q1924 : (Jvm.Cond.methodLink "CsrCalculatorLaw" (272 : Nat) ({ cls := "CsrCalculatorLaw", name := "sumStoredCount", desc := "(LCsrCalculator;II[J)I" } : Jvm.MethodName)) ∈ lw_all := lw_g (lw_at lw_m8 65 rfl) rfl
theorem q1925 : (Jvm.Cond.static ({ cls := "CsrCalculatorLaw", name := "sumStoredCount", desc := "(LCsrCalculator;II[J)I" } : Jvm.MethodName)) ∈ lw_all := lw_g (lw_at lw_m8 66 rfl) rfl
theorem q1926 : (Jvm.Cond.codeWith ({ cls := "CsrCalculatorLaw", name := "sumStoredCount", desc := "(LCsrCalculator;II[J)I" } : Jvm.MethodName) method_32_code (5 : Nat) (Option.some Jvm.ClassFile.FieldType.int) [((0 : Nat), (10 : Nat), (13 : Nat), (31 : Nat))]) ∈ lw_all := lw_g (lw_at lw_m8 67 rfl) rfl
theorem q1927 : (Jvm.Cond.methodLink "CsrCalculatorLaw" (109 : Nat) ({ cls := "CsrCalculator", name := "sumStoredCount", desc := "(II)I" } : Jvm.MethodName)) ∈ lw_all := lw_g (lw_at lw_m8 68 rfl) rfl
theorem q1932 : (Jvm.Cond.methodLink "CsrCalculatorLaw" (275 : Nat) ({ cls := "CsrCalculatorLaw", name := "costliestEntry", desc := "(LCsrCalculator;II[J)I" } : Jvm.MethodName)) ∈ lw_all := lw_g (lw_at lw_m8 73 rfl) rfl
theorem q1933 : (Jvm.Cond.static ({ cls := "CsrCalculatorLaw", name := "costliestEntry", desc := "(LCsrCalculator;II[J)I" } : Jvm.MethodName)) ∈ lw_all := lw_g (lw_at lw_m8 74 rfl) rfl
theorem q1934 : (Jvm.Cond.codeWith ({ cls := "CsrCalculatorLaw", name := "costliestEntry", desc := "(LCsrCalculator;II[J)I" } : Jvm.MethodName) method_33_code (5 : Nat) (Option.some Jvm.ClassFile.FieldType.int) [((0 : Nat), (10 : Nat), (13 : Nat), (31 : Nat))]) ∈ lw_all := lw_g (lw_at lw_m8 75 rfl) rfl
theorem q1935 : (Jvm.Cond.methodLink "CsrCalculatorLaw" (112 : Nat) ({ cls := "CsrCalculator", name := "costliestEntry", desc := "(II)I" } : Jvm.MethodName)) ∈ lw_all := lw_g (lw_at lw_m8 76 rfl) rfl
theorem q1939 : (Jvm.Cond.methodLink "CsrCalculatorLaw" (286 : Nat) ({ cls := "CsrCalculatorLaw", name := "density", desc := "(LCsrCalculator;I[D)I" } : Jvm.MethodName)) ∈ lw_all := lw_g (lw_at lw_m8 80 rfl) rfl
theorem q1940 : (Jvm.Cond.static ({ cls := "CsrCalculatorLaw", name := "density", desc := "(LCsrCalculator;I[D)I" } : Jvm.MethodName)) ∈ lw_all := lw_g (lw_at lw_m8 81 rfl) rfl
theorem q1941 : (Jvm.Cond.codeWith ({ cls := "CsrCalculatorLaw", name := "density", desc := "(LCsrCalculator;I[D)I" } : Jvm.MethodName) method_34_code (4 : Nat) (Option.some Jvm.ClassFile.FieldType.int) [((0 : Nat), (9 : Nat), (12 : Nat), (31 : Nat))]) ∈ lw_all := lw_g (lw_at lw_m8 82 rfl) rfl
theorem q1942 : (Jvm.Cond.methodLink "CsrCalculatorLaw" (115 : Nat) ({ cls := "CsrCalculator", name := "density", desc := "(I)F" } : Jvm.MethodName)) ∈ lw_all := lw_g (lw_at lw_m8 83 rfl) rfl
theorem q1946 : (Jvm.Cond.methodLink "CsrCalculatorLaw" (290 : Nat) ({ cls := "CsrCalculatorLaw", name := "meanStoredValue", desc := "(LCsrCalculator;I[D)I" } : Jvm.MethodName)) ∈ lw_all := lw_g (lw_at lw_m8 87 rfl) rfl
theorem q1947 : (Jvm.Cond.static ({ cls := "CsrCalculatorLaw", name := "meanStoredValue", desc := "(LCsrCalculator;I[D)I" } : Jvm.MethodName)) ∈ lw_all := lw_g (lw_at lw_m8 88 rfl) rfl
theorem q1948 : (Jvm.Cond.codeWith ({ cls := "CsrCalculatorLaw", name := "meanStoredValue", desc := "(LCsrCalculator;I[D)I" } : Jvm.MethodName) method_35_code (4 : Nat) (Option.some Jvm.ClassFile.FieldType.int) [((0 : Nat), (8 : Nat), (11 : Nat), (31 : Nat))]) ∈ lw_all := lw_g (lw_at lw_m8 89 rfl) rfl
theorem q1949 : (Jvm.Cond.methodLink "CsrCalculatorLaw" (119 : Nat) ({ cls := "CsrCalculator", name := "meanStoredValue", desc := "(I)D" } : Jvm.MethodName)) ∈ lw_all := lw_g (lw_at lw_m8 90 rfl) rfl
theorem q1953 : (Jvm.Cond.methodLink "CsrCalculatorLaw" (293 : Nat) ({ cls := "CsrCalculatorLaw", name := "create", desc := "(LCsrCalculator;III[J)I" } : Jvm.MethodName)) ∈ lw_all := lw_g (lw_at lw_m8 94 rfl) rfl
theorem q1954 : (Jvm.Cond.static ({ cls := "CsrCalculatorLaw", name := "create", desc := "(LCsrCalculator;III[J)I" } : Jvm.MethodName)) ∈ lw_all := lw_g (lw_at lw_m8 95 rfl) rfl
theorem q1955 : (Jvm.Cond.codeWith ({ cls := "CsrCalculatorLaw", name := "create", desc := "(LCsrCalculator;III[J)I" } : Jvm.MethodName) method_36_code (6 : Nat) (Option.some Jvm.ClassFile.FieldType.int) [((0 : Nat), (12 : Nat), (15 : Nat), (31 : Nat)), ((0 : Nat), (12 : Nat), (19 : Nat), (19 : Nat))]) ∈ lw_all := lw_g (lw_at lw_m8 96 rfl) rfl
theorem q1956 : (Jvm.Cond.methodLink "CsrCalculatorLaw" (123 : Nat) ({ cls := "CsrCalculator", name := "create", desc := "(III)I" } : Jvm.MethodName)) ∈ lw_all := lw_g (lw_at lw_m8 97 rfl) rfl
theorem q1960 : (Jvm.Cond.methodLink "CsrCalculatorLaw" (296 : Nat) ({ cls := "CsrCalculatorLaw", name := "set", desc := "(LCsrCalculator;IIII[J)I" } : Jvm.MethodName)) ∈ lw_all := lw_g (lw_at lw_m8 101 rfl) rfl
theorem q1961 : (Jvm.Cond.static ({ cls := "CsrCalculatorLaw", name := "set", desc := "(LCsrCalculator;IIII[J)I" } : Jvm.MethodName)) ∈ lw_all := lw_g (lw_at lw_m8 102 rfl) rfl
theorem q1962 : (Jvm.Cond.codeWith ({ cls := "CsrCalculatorLaw", name := "set", desc := "(LCsrCalculator;IIII[J)I" } : Jvm.MethodName) method_37_code (7 : Nat) (Option.some Jvm.ClassFile.FieldType.int) [((0 : Nat), (14 : Nat), (17 : Nat), (31 : Nat)), ((0 : Nat), (14 : Nat), (21 : Nat), (19 : Nat))]) ∈ lw_all := lw_g (lw_at lw_m8 103 rfl) rfl
theorem q1963 : (Jvm.Cond.methodLink "CsrCalculatorLaw" (126 : Nat) ({ cls := "CsrCalculator", name := "set", desc := "(IIII)I" } : Jvm.MethodName)) ∈ lw_all := lw_g (lw_at lw_m8 104 rfl) rfl
theorem q1967 : (Jvm.Cond.methodLink "CsrCalculatorLaw" (300 : Nat) ({ cls := "CsrCalculatorLaw", name := "erase", desc := "(LCsrCalculator;III[J)I" } : Jvm.MethodName)) ∈ lw_all := lw_g (lw_at lw_m8 108 rfl) rfl
theorem q1968 : (Jvm.Cond.static ({ cls := "CsrCalculatorLaw", name := "erase", desc := "(LCsrCalculator;III[J)I" } : Jvm.MethodName)) ∈ lw_all := lw_g (lw_at lw_m8 109 rfl) rfl
theorem q1969 : (Jvm.Cond.codeWith ({ cls := "CsrCalculatorLaw", name := "erase", desc := "(LCsrCalculator;III[J)I" } : Jvm.MethodName) method_38_code (6 : Nat) (Option.some Jvm.ClassFile.FieldType.int) [((0 : Nat), (12 : Nat), (15 : Nat), (31 : Nat)), ((0 : Nat), (12 : Nat), (19 : Nat), (13 : Nat))]) ∈ lw_all := lw_g (lw_at lw_m8 110 rfl) rfl
theorem q1970 : (Jvm.Cond.methodLink "CsrCalculatorLaw" (130 : Nat) ({ cls := "CsrCalculator", name := "erase", desc := "(III)I" } : Jvm.MethodName)) ∈ lw_all := lw_g (lw_at lw_m8 111 rfl) rfl
theorem q1974 : (Jvm.Cond.methodLink "CsrCalculatorLaw" (303 : Nat) ({ cls := "CsrCalculatorLaw", name := "dropZeros", desc := "(LCsrCalculator;I[J)I" } : Jvm.MethodName)) ∈ lw_all := lw_g (lw_at lw_m8 115 rfl) rfl
theorem q1975 : (Jvm.Cond.static ({ cls := "CsrCalculatorLaw", name := "dropZeros", desc := "(LCsrCalculator;I[J)I" } : Jvm.MethodName)) ∈ lw_all := lw_g (lw_at lw_m8 116 rfl) rfl
theorem q1976 : (Jvm.Cond.codeWith ({ cls := "CsrCalculatorLaw", name := "dropZeros", desc := "(LCsrCalculator;I[J)I" } : Jvm.MethodName) method_39_code (4 : Nat) (Option.some Jvm.ClassFile.FieldType.int) [((0 : Nat), (9 : Nat), (12 : Nat), (31 : Nat))]) ∈ lw_all := lw_g (lw_at lw_m8 117 rfl) rfl
theorem q1977 : (Jvm.Cond.methodLink "CsrCalculatorLaw" (133 : Nat) ({ cls := "CsrCalculator", name := "dropZeros", desc := "(I)I" } : Jvm.MethodName)) ∈ lw_all := lw_g (lw_at lw_m8 118 rfl) rfl
theorem q1981 : (Jvm.Cond.methodLink "CsrCalculatorLaw" (306 : Nat) ({ cls := "CsrCalculatorLaw", name := "swapRows", desc := "(LCsrCalculator;III[J)I" } : Jvm.MethodName)) ∈ lw_all := lw_g (lw_at lw_m8 122 rfl) rfl
theorem q1982 : (Jvm.Cond.static ({ cls := "CsrCalculatorLaw", name := "swapRows", desc := "(LCsrCalculator;III[J)I" } : Jvm.MethodName)) ∈ lw_all := lw_g (lw_at lw_m8 123 rfl) rfl
theorem q1983 : (Jvm.Cond.codeWith ({ cls := "CsrCalculatorLaw", name := "swapRows", desc := "(LCsrCalculator;III[J)I" } : Jvm.MethodName) method_40_code (6 : Nat) (Option.some Jvm.ClassFile.FieldType.int) [((0 : Nat), (12 : Nat), (15 : Nat), (31 : Nat))]) ∈ lw_all := lw_g (lw_at lw_m8 124 rfl) rfl
theorem q1984 : (Jvm.Cond.methodLink "CsrCalculatorLaw" (136 : Nat) ({ cls := "CsrCalculator", name := "swapRows", desc := "(III)I" } : Jvm.MethodName)) ∈ lw_all := lw_g (lw_at lw_m8 125 rfl) rfl
theorem q1988 : (Jvm.Cond.methodLink "CsrCalculatorLaw" (309 : Nat) ({ cls := "CsrCalculatorLaw", name := "scale", desc := "(LCsrCalculator;II[J)I" } : Jvm.MethodName)) ∈ lw_all := lw_g (lw_at lw_m8 129 rfl) rfl
theorem q1989 : (Jvm.Cond.static ({ cls := "CsrCalculatorLaw", name := "scale", desc := "(LCsrCalculator;II[J)I" } : Jvm.MethodName)) ∈ lw_all := lw_g (lw_at lw_m8 130 rfl) rfl
theorem q1990 : (Jvm.Cond.codeWith ({ cls := "CsrCalculatorLaw", name := "scale", desc := "(LCsrCalculator;II[J)I" } : Jvm.MethodName) method_41_code (5 : Nat) (Option.some Jvm.ClassFile.FieldType.int) [((0 : Nat), (10 : Nat), (13 : Nat), (31 : Nat)), ((0 : Nat), (10 : Nat), (17 : Nat), (19 : Nat)), ((0 : Nat), (10 : Nat), (21 : Nat), (13 : Nat))]) ∈ lw_all := lw_g (lw_at lw_m8 131 rfl) rfl
theorem q1991 : (Jvm.Cond.methodLink "CsrCalculatorLaw" (139 : Nat) ({ cls := "CsrCalculator", name := "scale", desc := "(II)I" } : Jvm.MethodName)) ∈ lw_all := lw_g (lw_at lw_m8 132 rfl) rfl
theorem q2004 : (Jvm.Cond.methodLink "CsrCalculatorLaw" (312 : Nat) ({ cls := "CsrCalculatorLaw", name := "transposeInto", desc := "(LCsrCalculator;II[J)I" } : Jvm.MethodName)) ∈ lw_all := lw_g (lw_at lw_m8 145 rfl) rfl
theorem q2005 : (Jvm.Cond.static ({ cls := "CsrCalculatorLaw", name := "transposeInto", desc := "(LCsrCalculator;II[J)I" } : Jvm.MethodName)) ∈ lw_all := lw_g (lw_at lw_m8 146 rfl) rfl
theorem q2006 : (Jvm.Cond.codeWith ({ cls := "CsrCalculatorLaw", name := "transposeInto", desc := "(LCsrCalculator;II[J)I" } : Jvm.MethodName) method_42_code (5 : Nat) (Option.some Jvm.ClassFile.FieldType.int) [((0 : Nat), (10 : Nat), (13 : Nat), (31 : Nat))]) ∈ lw_all := lw_g (lw_at lw_m8 147 rfl) rfl
theorem q2007 : (Jvm.Cond.methodLink "CsrCalculatorLaw" (142 : Nat) ({ cls := "CsrCalculator", name := "transposeInto", desc := "(II)I" } : Jvm.MethodName)) ∈ lw_all := lw_g (lw_at lw_m8 148 rfl) rfl
theorem q2017 : (Jvm.Cond.methodLink "CsrCalculatorLaw" (315 : Nat) ({ cls := "CsrCalculatorLaw", name := "addInto", desc := "(LCsrCalculator;III[J)I" } : Jvm.MethodName)) ∈ lw_all := lw_g (lw_at lw_m8 158 rfl) rfl
theorem q2018 : (Jvm.Cond.static ({ cls := "CsrCalculatorLaw", name := "addInto", desc := "(LCsrCalculator;III[J)I" } : Jvm.MethodName)) ∈ lw_all := lw_g (lw_at lw_m8 159 rfl) rfl
theorem q2019 : (Jvm.Cond.codeWith ({ cls := "CsrCalculatorLaw", name := "addInto", desc := "(LCsrCalculator;III[J)I" } : Jvm.MethodName) method_43_code (6 : Nat) (Option.some Jvm.ClassFile.FieldType.int) [((0 : Nat), (12 : Nat), (15 : Nat), (31 : Nat)), ((0 : Nat), (12 : Nat), (19 : Nat), (13 : Nat))]) ∈ lw_all := lw_g (lw_at lw_m8 160 rfl) rfl
theorem q2020 : (Jvm.Cond.methodLink "CsrCalculatorLaw" (145 : Nat) ({ cls := "CsrCalculator", name := "addInto", desc := "(III)I" } : Jvm.MethodName)) ∈ lw_all := lw_g (lw_at lw_m8 161 rfl) rfl
theorem q2030 : (Jvm.Cond.methodLink "CsrCalculatorLaw" (318 : Nat) ({ cls := "CsrCalculatorLaw", name := "multiplyInto", desc := "(LCsrCalculator;III[J)I" } : Jvm.MethodName)) ∈ lw_all := lw_g (lw_at lw_m8 171 rfl) rfl
theorem q2031 : (Jvm.Cond.static ({ cls := "CsrCalculatorLaw", name := "multiplyInto", desc := "(LCsrCalculator;III[J)I" } : Jvm.MethodName)) ∈ lw_all := lw_g (lw_at lw_m8 172 rfl) rfl
theorem q2032 : (Jvm.Cond.codeWith ({ cls := "CsrCalculatorLaw", name := "multiplyInto", desc := "(LCsrCalculator;III[J)I" } : Jvm.MethodName) method_44_code (6 : Nat) (Option.some Jvm.ClassFile.FieldType.int) [((0 : Nat), (12 : Nat), (15 : Nat), (31 : Nat)), ((0 : Nat), (12 : Nat), (19 : Nat), (13 : Nat))]) ∈ lw_all := lw_g (lw_at lw_m8 173 rfl) rfl
theorem q2033 : (Jvm.Cond.methodLink "CsrCalculatorLaw" (148 : Nat) ({ cls := "CsrCalculator", name := "multiplyInto", desc := "(III)I" } : Jvm.MethodName)) ∈ lw_all := lw_g (lw_at lw_m8 174 rfl) rfl
theorem q2043 : (Jvm.Cond.methodLink "CsrCalculatorLaw" (321 : Nat) ({ cls := "CsrCalculatorLaw", name := "undo", desc := "(LCsrCalculator;[J)I" } : Jvm.MethodName)) ∈ lw_all := lw_g (lw_at lw_m8 184 rfl) rfl
theorem q2044 : (Jvm.Cond.static ({ cls := "CsrCalculatorLaw", name := "undo", desc := "(LCsrCalculator;[J)I" } : Jvm.MethodName)) ∈ lw_all := lw_g (lw_at lw_m8 185 rfl) rfl
theorem q2045 : (Jvm.Cond.codeWith ({ cls := "CsrCalculatorLaw", name := "undo", desc := "(LCsrCalculator;[J)I" } : Jvm.MethodName) method_45_code (3 : Nat) (Option.some Jvm.ClassFile.FieldType.int) [((0 : Nat), (8 : Nat), (11 : Nat), (13 : Nat))]) ∈ lw_all := lw_g (lw_at lw_m8 186 rfl) rfl
theorem q2046 : (Jvm.Cond.methodLink "CsrCalculatorLaw" (151 : Nat) ({ cls := "CsrCalculator", name := "undo", desc := "()I" } : Jvm.MethodName)) ∈ lw_all := lw_g (lw_at lw_m8 187 rfl) rfl
theorem q2065 : (Jvm.Cond.methodLink "CsrCalculatorLaw" (324 : Nat) ({ cls := "CsrCalculatorLaw", name := "printMatrix", desc := "(LCsrCalculator;I[J)I" } : Jvm.MethodName)) ∈ lw_all := lw_g (lw_at lw_m8 206 rfl) rfl
theorem q2066 : (Jvm.Cond.static ({ cls := "CsrCalculatorLaw", name := "printMatrix", desc := "(LCsrCalculator;I[J)I" } : Jvm.MethodName)) ∈ lw_all := lw_g (lw_at lw_m8 207 rfl) rfl
theorem q2067 : (Jvm.Cond.codeWith ({ cls := "CsrCalculatorLaw", name := "printMatrix", desc := "(LCsrCalculator;I[J)I" } : Jvm.MethodName) method_46_code (4 : Nat) (Option.some Jvm.ClassFile.FieldType.int) [((0 : Nat), (9 : Nat), (12 : Nat), (31 : Nat))]) ∈ lw_all := lw_g (lw_at lw_m8 208 rfl) rfl
theorem q2068 : (Jvm.Cond.methodLink "CsrCalculatorLaw" (154 : Nat) ({ cls := "CsrCalculator", name := "printMatrix", desc := "(I)I" } : Jvm.MethodName)) ∈ lw_all := lw_g (lw_at lw_m8 209 rfl) rfl
theorem q2127 : (Jvm.Cond.methodLink "CsrCalculatorLaw" (327 : Nat) ({ cls := "CsrCalculatorLaw", name := "outputByte", desc := "(LCsrCalculator;I[J)I" } : Jvm.MethodName)) ∈ lw_all := lw_g (lw_at lw_m9 28 rfl) rfl
theorem q2128 : (Jvm.Cond.static ({ cls := "CsrCalculatorLaw", name := "outputByte", desc := "(LCsrCalculator;I[J)I" } : Jvm.MethodName)) ∈ lw_all := lw_g (lw_at lw_m9 29 rfl) rfl
theorem q2129 : (Jvm.Cond.codeWith ({ cls := "CsrCalculatorLaw", name := "outputByte", desc := "(LCsrCalculator;I[J)I" } : Jvm.MethodName) method_47_code (4 : Nat) (Option.some Jvm.ClassFile.FieldType.int) [((0 : Nat), (9 : Nat), (12 : Nat), (31 : Nat))]) ∈ lw_all := lw_g (lw_at lw_m9 30 rfl) rfl
theorem q2130 : (Jvm.Cond.methodLink "CsrCalculatorLaw" (157 : Nat) ({ cls := "CsrCalculator", name := "outputByte", desc := "(I)I" } : Jvm.MethodName)) ∈ lw_all := lw_g (lw_at lw_m9 31 rfl) rfl
theorem q2144 : (Jvm.Cond.methodLink "CsrCalculatorLaw" (334 : Nat) ({ cls := "CsrCalculatorLaw", name := "restoreState", desc := "(LCsrCalculator;[J)I" } : Jvm.MethodName)) ∈ lw_all := lw_g (lw_at lw_m9 45 rfl) rfl
theorem q2145 : (Jvm.Cond.static ({ cls := "CsrCalculatorLaw", name := "restoreState", desc := "(LCsrCalculator;[J)I" } : Jvm.MethodName)) ∈ lw_all := lw_g (lw_at lw_m9 46 rfl) rfl
theorem q2146 : (Jvm.Cond.codeWith ({ cls := "CsrCalculatorLaw", name := "restoreState", desc := "(LCsrCalculator;[J)I" } : Jvm.MethodName) method_48_code (3 : Nat) (Option.some Jvm.ClassFile.FieldType.int) [((0 : Nat), (8 : Nat), (11 : Nat), (13 : Nat))]) ∈ lw_all := lw_g (lw_at lw_m9 47 rfl) rfl
theorem q2147 : (Jvm.Cond.methodLink "CsrCalculatorLaw" (160 : Nat) ({ cls := "CsrCalculator", name := "restoreState", desc := "()I" } : Jvm.MethodName)) ∈ lw_all := lw_g (lw_at lw_m9 48 rfl) rfl
theorem q2151 : (Jvm.Cond.classLink "CsrCalculatorLaw" (164 : Nat) "CsrCalculatorModel") ∈ lw_all := lw_g (lw_at lw_m9 52 rfl) rfl
theorem q2153 : (Jvm.Cond.methodLink "CsrCalculatorLaw" (166 : Nat) ({ cls := "CsrCalculatorModel", name := "<init>", desc := "()V" } : Jvm.MethodName)) ∈ lw_all := lw_g (lw_at lw_m9 54 rfl) rfl
theorem q2302 : (Jvm.Cond.methodLink "CsrCalculatorLaw" (173 : Nat) ({ cls := "CsrCalculatorModel", name := "thrown", desc := "()I" } : Jvm.MethodName)) ∈ lw_all := lw_g (lw_at lw_m9 203 rfl) rfl
theorem q2306 : (Jvm.Cond.methodLink "CsrCalculatorLaw" (172 : Nat) ({ cls := "CsrCalculatorModel", name := "feed", desc := "(IIIII)I" } : Jvm.MethodName)) ∈ lw_all := lw_g (lw_at lw_m9 207 rfl) rfl
theorem q2321 : (Jvm.Cond.methodLink "CsrCalculatorLaw" (179 : Nat) ({ cls := "CsrCalculatorModel", name := "truncate", desc := "(I)I" } : Jvm.MethodName)) ∈ lw_all := lw_g (lw_at lw_m9 222 rfl) rfl
theorem q2328 : (Jvm.Cond.methodLink "CsrCalculatorLaw" (190 : Nat) ({ cls := "CsrCalculatorModel", name := "errorCode", desc := "()I" } : Jvm.MethodName)) ∈ lw_all := lw_g (lw_at lw_m9 229 rfl) rfl
theorem q2332 : (Jvm.Cond.methodLink "CsrCalculatorLaw" (194 : Nat) ({ cls := "CsrCalculatorModel", name := "errorOffset", desc := "()I" } : Jvm.MethodName)) ∈ lw_all := lw_g (lw_at lw_m9 233 rfl) rfl
theorem q2336 : (Jvm.Cond.methodLink "CsrCalculatorLaw" (323 : Nat) ({ cls := "CsrCalculatorModel", name := "undo", desc := "()I" } : Jvm.MethodName)) ∈ lw_all := lw_g (lw_at lw_m9 237 rfl) rfl
theorem q2343 : (Jvm.Cond.methodLink "CsrCalculatorLaw" (333 : Nat) ({ cls := "CsrCalculatorModel", name := "saveState", desc := "()I" } : Jvm.MethodName)) ∈ lw_all := lw_g (lw_at lw_m10 4 rfl) rfl
theorem q2377 : (Jvm.Cond.methodLink "CsrCalculatorLaw" (336 : Nat) ({ cls := "CsrCalculatorModel", name := "restoreState", desc := "()I" } : Jvm.MethodName)) ∈ lw_all := lw_g (lw_at lw_m10 38 rfl) rfl
theorem q2381 : (Jvm.Cond.methodLink "CsrCalculatorLaw" (295 : Nat) ({ cls := "CsrCalculatorModel", name := "create", desc := "(III)I" } : Jvm.MethodName)) ∈ lw_all := lw_g (lw_at lw_m10 42 rfl) rfl
theorem q2413 : (Jvm.Cond.methodLink "CsrCalculatorLaw" (299 : Nat) ({ cls := "CsrCalculatorModel", name := "set", desc := "(IIII)I" } : Jvm.MethodName)) ∈ lw_all := lw_g (lw_at lw_m10 74 rfl) rfl
theorem q2438 : (Jvm.Cond.methodLink "CsrCalculatorLaw" (302 : Nat) ({ cls := "CsrCalculatorModel", name := "erase", desc := "(III)I" } : Jvm.MethodName)) ∈ lw_all := lw_g (lw_at lw_m10 99 rfl) rfl
theorem q2460 : (Jvm.Cond.methodLink "CsrCalculatorLaw" (305 : Nat) ({ cls := "CsrCalculatorModel", name := "dropZeros", desc := "(I)I" } : Jvm.MethodName)) ∈ lw_all := lw_g (lw_at lw_m10 121 rfl) rfl
theorem q2468 : (Jvm.Cond.methodLink "CsrCalculatorLaw" (308 : Nat) ({ cls := "CsrCalculatorModel", name := "swapRows", desc := "(III)I" } : Jvm.MethodName)) ∈ lw_all := lw_g (lw_at lw_m10 129 rfl) rfl
theorem q2480 : (Jvm.Cond.methodLink "CsrCalculatorLaw" (311 : Nat) ({ cls := "CsrCalculatorModel", name := "scale", desc := "(II)I" } : Jvm.MethodName)) ∈ lw_all := lw_g (lw_at lw_m10 141 rfl) rfl
theorem q2518 : (Jvm.Cond.methodLink "CsrCalculatorLaw" (314 : Nat) ({ cls := "CsrCalculatorModel", name := "transposeInto", desc := "(II)I" } : Jvm.MethodName)) ∈ lw_all := lw_g (lw_at lw_m10 179 rfl) rfl
theorem q2530 : (Jvm.Cond.methodLink "CsrCalculatorLaw" (317 : Nat) ({ cls := "CsrCalculatorModel", name := "addInto", desc := "(III)I" } : Jvm.MethodName)) ∈ lw_all := lw_g (lw_at lw_m10 191 rfl) rfl
theorem q2546 : (Jvm.Cond.methodLink "CsrCalculatorLaw" (320 : Nat) ({ cls := "CsrCalculatorModel", name := "multiplyInto", desc := "(III)I" } : Jvm.MethodName)) ∈ lw_all := lw_g (lw_at lw_m10 207 rfl) rfl
theorem q2562 : (Jvm.Cond.methodLink "CsrCalculatorLaw" (183 : Nat) ({ cls := "CsrCalculatorModel", name := "readText", desc := "()I" } : Jvm.MethodName)) ∈ lw_all := lw_g (lw_at lw_m10 223 rfl) rfl
theorem q2733 : (Jvm.Cond.methodLink "CsrCalculatorLaw" (197 : Nat) ({ cls := "CsrCalculatorModel", name := "rowCount", desc := "(I)I" } : Jvm.MethodName)) ∈ lw_all := lw_g (lw_at lw_m11 154 rfl) rfl
theorem q2737 : (Jvm.Cond.methodLink "CsrCalculatorLaw" (200 : Nat) ({ cls := "CsrCalculatorModel", name := "columnCount", desc := "(I)I" } : Jvm.MethodName)) ∈ lw_all := lw_g (lw_at lw_m11 158 rfl) rfl
theorem q2741 : (Jvm.Cond.methodLink "CsrCalculatorLaw" (203 : Nat) ({ cls := "CsrCalculatorModel", name := "storedCount", desc := "(I)I" } : Jvm.MethodName)) ∈ lw_all := lw_g (lw_at lw_m11 162 rfl) rfl
theorem q2745 : (Jvm.Cond.methodLink "CsrCalculatorLaw" (207 : Nat) ({ cls := "CsrCalculatorModel", name := "rowPointer", desc := "(II)I" } : Jvm.MethodName)) ∈ lw_all := lw_g (lw_at lw_m11 166 rfl) rfl
theorem q2749 : (Jvm.Cond.methodLink "CsrCalculatorLaw" (210 : Nat) ({ cls := "CsrCalculatorModel", name := "columnIndex", desc := "(II)I" } : Jvm.MethodName)) ∈ lw_all := lw_g (lw_at lw_m11 170 rfl) rfl
theorem q2761 : (Jvm.Cond.methodLink "CsrCalculatorLaw" (213 : Nat) ({ cls := "CsrCalculatorModel", name := "storedValue", desc := "(II)I" } : Jvm.MethodName)) ∈ lw_all := lw_g (lw_at lw_m11 182 rfl) rfl
theorem q2765 : (Jvm.Cond.methodLink "CsrCalculatorLaw" (216 : Nat) ({ cls := "CsrCalculatorModel", name := "rowOf", desc := "(II)I" } : Jvm.MethodName)) ∈ lw_all := lw_g (lw_at lw_m11 186 rfl) rfl
theorem q2769 : (Jvm.Cond.methodLink "CsrCalculatorLaw" (220 : Nat) ({ cls := "CsrCalculatorModel", name := "value", desc := "(III)I" } : Jvm.MethodName)) ∈ lw_all := lw_g (lw_at lw_m11 190 rfl) rfl
theorem q2773 : (Jvm.Cond.methodLink "CsrCalculatorLaw" (223 : Nat) ({ cls := "CsrCalculatorModel", name := "storageIndex", desc := "(III)I" } : Jvm.MethodName)) ∈ lw_all := lw_g (lw_at lw_m11 194 rfl) rfl
theorem q2777 : (Jvm.Cond.methodLink "CsrCalculatorLaw" (226 : Nat) ({ cls := "CsrCalculatorModel", name := "explicitZeros", desc := "(I)I" } : Jvm.MethodName)) ∈ lw_all := lw_g (lw_at lw_m11 198 rfl) rfl
theorem q2785 : (Jvm.Cond.methodLink "CsrCalculatorLaw" (229 : Nat) ({ cls := "CsrCalculatorModel", name := "rowLength", desc := "(II)I" } : Jvm.MethodName)) ∈ lw_all := lw_g (lw_at lw_m11 206 rfl) rfl
theorem q2789 : (Jvm.Cond.methodLink "CsrCalculatorLaw" (232 : Nat) ({ cls := "CsrCalculatorModel", name := "columnLength", desc := "(II)I" } : Jvm.MethodName)) ∈ lw_all := lw_g (lw_at lw_m11 210 rfl) rfl
theorem q2797 : (Jvm.Cond.methodLink "CsrCalculatorLaw" (235 : Nat) ({ cls := "CsrCalculatorModel", name := "longestRow", desc := "(I)I" } : Jvm.MethodName)) ∈ lw_all := lw_g (lw_at lw_m11 218 rfl) rfl
theorem q2805 : (Jvm.Cond.methodLink "CsrCalculatorLaw" (238 : Nat) ({ cls := "CsrCalculatorModel", name := "emptyRows", desc := "(I)I" } : Jvm.MethodName)) ∈ lw_all := lw_g (lw_at lw_m11 226 rfl) rfl
theorem q2813 : (Jvm.Cond.methodLink "CsrCalculatorLaw" (241 : Nat) ({ cls := "CsrCalculatorModel", name := "bandwidth", desc := "(I)I" } : Jvm.MethodName)) ∈ lw_all := lw_g (lw_at lw_m11 234 rfl) rfl
theorem q2824 : (Jvm.Cond.methodLink "CsrCalculatorLaw" (244 : Nat) ({ cls := "CsrCalculatorModel", name := "rowSum", desc := "(II)I" } : Jvm.MethodName)) ∈ lw_all := lw_g (lw_at lw_m12 5 rfl) rfl
theorem q2832 : (Jvm.Cond.methodLink "CsrCalculatorLaw" (247 : Nat) ({ cls := "CsrCalculatorModel", name := "largestMagnitude", desc := "(I)I" } : Jvm.MethodName)) ∈ lw_all := lw_g (lw_at lw_m12 13 rfl) rfl
theorem q2840 : (Jvm.Cond.methodLink "CsrCalculatorLaw" (250 : Nat) ({ cls := "CsrCalculatorModel", name := "trace", desc := "(I)I" } : Jvm.MethodName)) ∈ lw_all := lw_g (lw_at lw_m12 21 rfl) rfl
theorem q2848 : (Jvm.Cond.methodLink "CsrCalculatorLaw" (253 : Nat) ({ cls := "CsrCalculatorModel", name := "isSymmetric", desc := "(I)Z" } : Jvm.MethodName)) ∈ lw_all := lw_g (lw_at lw_m12 29 rfl) rfl
theorem q2856 : (Jvm.Cond.methodLink "CsrCalculatorLaw" (256 : Nat) ({ cls := "CsrCalculatorModel", name := "haveSameValues", desc := "(II)Z" } : Jvm.MethodName)) ∈ lw_all := lw_g (lw_at lw_m12 37 rfl) rfl
theorem q2864 : (Jvm.Cond.methodLink "CsrCalculatorLaw" (259 : Nat) ({ cls := "CsrCalculatorModel", name := "haveSameStructure", desc := "(II)Z" } : Jvm.MethodName)) ∈ lw_all := lw_g (lw_at lw_m12 45 rfl) rfl
theorem q2868 : (Jvm.Cond.methodLink "CsrCalculatorLaw" (262 : Nat) ({ cls := "CsrCalculatorModel", name := "sumObstacle", desc := "(II)I" } : Jvm.MethodName)) ∈ lw_all := lw_g (lw_at lw_m12 49 rfl) rfl
theorem q2876 : (Jvm.Cond.methodLink "CsrCalculatorLaw" (265 : Nat) ({ cls := "CsrCalculatorModel", name := "productObstacle", desc := "(II)I" } : Jvm.MethodName)) ∈ lw_all := lw_g (lw_at lw_m12 57 rfl) rfl
theorem q2884 : (Jvm.Cond.methodLink "CsrCalculatorLaw" (268 : Nat) ({ cls := "CsrCalculatorModel", name := "productStoredCount", desc := "(II)I" } : Jvm.MethodName)) ∈ lw_all := lw_g (lw_at lw_m12 65 rfl) rfl
theorem q2892 : (Jvm.Cond.methodLink "CsrCalculatorLaw" (271 : Nat) ({ cls := "CsrCalculatorModel", name := "productWork", desc := "(II)I" } : Jvm.MethodName)) ∈ lw_all := lw_g (lw_at lw_m12 73 rfl) rfl
theorem q2896 : (Jvm.Cond.methodLink "CsrCalculatorLaw" (274 : Nat) ({ cls := "CsrCalculatorModel", name := "sumStoredCount", desc := "(II)I" } : Jvm.MethodName)) ∈ lw_all := lw_g (lw_at lw_m12 77 rfl) rfl
theorem q2900 : (Jvm.Cond.methodLink "CsrCalculatorLaw" (277 : Nat) ({ cls := "CsrCalculatorModel", name := "costliestEntry", desc := "(II)I" } : Jvm.MethodName)) ∈ lw_all := lw_g (lw_at lw_m12 81 rfl) rfl
theorem q2908 : (Jvm.Cond.methodLink "CsrCalculatorLaw" (281 : Nat) ({ cls := "CsrCalculatorModel", name := "totalWork", desc := "()I" } : Jvm.MethodName)) ∈ lw_all := lw_g (lw_at lw_m12 89 rfl) rfl
theorem q2916 : (Jvm.Cond.methodLink "CsrCalculatorLaw" (285 : Nat) ({ cls := "CsrCalculatorModel", name := "violations", desc := "()I" } : Jvm.MethodName)) ∈ lw_all := lw_g (lw_at lw_m12 97 rfl) rfl
theorem q2940 : (Jvm.Cond.methodLink "CsrCalculatorLaw" (289 : Nat) ({ cls := "CsrCalculatorModel", name := "density", desc := "(I)F" } : Jvm.MethodName)) ∈ lw_all := lw_g (lw_at lw_m12 121 rfl) rfl
theorem q2944 : (Jvm.Cond.methodLink "CsrCalculatorLaw" (292 : Nat) ({ cls := "CsrCalculatorModel", name := "meanStoredValue", desc := "(I)D" } : Jvm.MethodName)) ∈ lw_all := lw_g (lw_at lw_m12 125 rfl) rfl
theorem q2948 : (Jvm.Cond.methodLink "CsrCalculatorLaw" (186 : Nat) ({ cls := "CsrCalculatorModel", name := "runScript", desc := "()I" } : Jvm.MethodName)) ∈ lw_all := lw_g (lw_at lw_m12 129 rfl) rfl
theorem q2995 : (Jvm.Cond.methodLink "CsrCalculatorLaw" (326 : Nat) ({ cls := "CsrCalculatorModel", name := "printMatrix", desc := "(I)I" } : Jvm.MethodName)) ∈ lw_all := lw_g (lw_at lw_m12 176 rfl) rfl
theorem q3012 : (Jvm.Cond.methodLink "CsrCalculatorLaw" (329 : Nat) ({ cls := "CsrCalculatorModel", name := "outputByte", desc := "(I)I" } : Jvm.MethodName)) ∈ lw_all := lw_g (lw_at lw_m12 193 rfl) rfl

/-! the law's own entry -/
set_option maxRecDepth 100000
abbrev cL_law : ByteArray := code
def dkwL_law_136 : List UInt8 := [148, 153, 0, 5, 3, 172, 167, 0, 3, 132, 5, 6, 167, 242, 232, 4, 172]
abbrev dktL_law_136 : List UInt8 := dkwL_law_136 ++ []
def dkwL_law_135 : List UInt8 := [54, 7, 44, 182, 0, 173, 21, 6, 159, 0, 5, 3, 172, 21, 6, 154, 0, 15, 45, 3, 47, 21, 7, 133]
abbrev dktL_law_135 : List UInt8 := dkwL_law_135 ++ dktL_law_136
def dkwL_law_134 : List UInt8 := [182, 1, 74, 44, 182, 1, 77, 159, 0, 49, 3, 172, 43, 45, 184, 1, 78, 54, 6, 44, 182, 1, 80]
abbrev dktL_law_134 : List UInt8 := dkwL_law_134 ++ dktL_law_135
def dkwL_law_133 : List UInt8 := [172, 21, 6, 154, 0, 15, 45, 3, 47, 21, 7, 133, 148, 153, 0, 5, 3, 172, 167, 0, 60, 43]
abbrev dktL_law_133 : List UInt8 := dkwL_law_133 ++ dktL_law_134
def dkwL_law_132 : List UInt8 := [54, 6, 44, 42, 21, 5, 4, 96, 46, 182, 1, 73, 54, 7, 44, 182, 0, 173, 21, 6, 159, 0, 5, 3]
abbrev dktL_law_132 : List UInt8 := dkwL_law_132 ++ dktL_law_133
def dkwL_law_131 : List UInt8 := [21, 7, 133, 148, 153, 0, 5, 3, 172, 167, 0, 116, 43, 42, 21, 5, 4, 96, 46, 45, 184, 1, 71]
abbrev dktL_law_131 : List UInt8 := dkwL_law_131 ++ dktL_law_132
def dkwL_law_130 : List UInt8 := [182, 1, 70, 54, 7, 44, 182, 0, 173, 21, 6, 159, 0, 5, 3, 172, 21, 6, 154, 0, 15, 45, 3, 47]
abbrev dktL_law_130 : List UInt8 := dkwL_law_130 ++ dktL_law_131
def dkwL_law_129 : List UInt8 := [167, 0, 172, 43, 42, 21, 5, 4, 96, 46, 45, 184, 1, 68, 54, 6, 44, 42, 21, 5, 4, 96, 46]
abbrev dktL_law_129 : List UInt8 := dkwL_law_129 ++ dktL_law_130
def dkwL_law_128 : List UInt8 := [159, 0, 5, 3, 172, 21, 6, 154, 0, 15, 45, 3, 47, 21, 7, 133, 148, 153, 0, 5, 3, 172]
abbrev dktL_law_128 : List UInt8 := dkwL_law_128 ++ dktL_law_129
def dkwL_law_127 : List UInt8 := [167, 0, 216, 43, 45, 184, 1, 65, 54, 6, 44, 182, 1, 67, 54, 7, 44, 182, 0, 173, 21, 6]
abbrev dktL_law_127 : List UInt8 := dkwL_law_127 ++ dktL_law_128
def dkwL_law_126 : List UInt8 := [21, 6, 159, 0, 5, 3, 172, 21, 6, 154, 0, 15, 45, 3, 47, 21, 7, 133, 148, 153, 0, 5, 3, 172]
abbrev dktL_law_126 : List UInt8 := dkwL_law_126 ++ dktL_law_127
def dkwL_law_125 : List UInt8 := [96, 46, 42, 21, 5, 5, 96, 46, 42, 21, 5, 6, 96, 46, 182, 1, 64, 54, 7, 44, 182, 0, 173]
abbrev dktL_law_125 : List UInt8 := dkwL_law_125 ++ dktL_law_126
def dkwL_law_124 : List UInt8 := [46, 42, 21, 5, 5, 96, 46, 42, 21, 5, 6, 96, 46, 45, 184, 1, 62, 54, 6, 44, 42, 21, 5, 4]
abbrev dktL_law_124 : List UInt8 := dkwL_law_124 ++ dktL_law_125
def dkwL_law_123 : List UInt8 := [154, 0, 15, 45, 3, 47, 21, 7, 133, 148, 153, 0, 5, 3, 172, 167, 1, 40, 43, 42, 21, 5, 4, 96]
abbrev dktL_law_123 : List UInt8 := dkwL_law_123 ++ dktL_law_124
def dkwL_law_122 : List UInt8 := [21, 5, 6, 96, 46, 182, 1, 61, 54, 7, 44, 182, 0, 173, 21, 6, 159, 0, 5, 3, 172, 21, 6]
abbrev dktL_law_122 : List UInt8 := dkwL_law_122 ++ dktL_law_123
def dkwL_law_121 : List UInt8 := [6, 96, 46, 45, 184, 1, 59, 54, 6, 44, 42, 21, 5, 4, 96, 46, 42, 21, 5, 5, 96, 46, 42]
abbrev dktL_law_121 : List UInt8 := dkwL_law_121 ++ dktL_law_122
def dkwL_law_120 : List UInt8 := [153, 0, 5, 3, 172, 167, 1, 120, 43, 42, 21, 5, 4, 96, 46, 42, 21, 5, 5, 96, 46, 42, 21, 5]
abbrev dktL_law_120 : List UInt8 := dkwL_law_120 ++ dktL_law_121
def dkwL_law_119 : List UInt8 := [182, 0, 173, 21, 6, 159, 0, 5, 3, 172, 21, 6, 154, 0, 15, 45, 3, 47, 21, 7, 133, 148]
abbrev dktL_law_119 : List UInt8 := dkwL_law_119 ++ dktL_law_120
def dkwL_law_118 : List UInt8 := [184, 1, 56, 54, 6, 44, 42, 21, 5, 4, 96, 46, 42, 21, 5, 5, 96, 46, 182, 1, 58, 54, 7, 44]
abbrev dktL_law_118 : List UInt8 := dkwL_law_118 ++ dktL_law_119
def dkwL_law_117 : List UInt8 := [148, 153, 0, 5, 3, 172, 167, 1, 188, 43, 42, 21, 5, 4, 96, 46, 42, 21, 5, 5, 96, 46, 45]
abbrev dktL_law_117 : List UInt8 := dkwL_law_117 ++ dktL_law_118
def dkwL_law_116 : List UInt8 := [54, 7, 44, 182, 0, 173, 21, 6, 159, 0, 5, 3, 172, 21, 6, 154, 0, 15, 45, 3, 47, 21, 7, 133]
abbrev dktL_law_116 : List UInt8 := dkwL_law_116 ++ dktL_law_117
def dkwL_law_115 : List UInt8 := [46, 45, 184, 1, 53, 54, 6, 44, 42, 21, 5, 4, 96, 46, 42, 21, 5, 5, 96, 46, 182, 1, 55]
abbrev dktL_law_115 : List UInt8 := dkwL_law_115 ++ dktL_law_116
def dkwL_law_114 : List UInt8 := [21, 7, 133, 148, 153, 0, 5, 3, 172, 167, 2, 0, 43, 42, 21, 5, 4, 96, 46, 42, 21, 5, 5, 96]
abbrev dktL_law_114 : List UInt8 := dkwL_law_114 ++ dktL_law_115
def dkwL_law_113 : List UInt8 := [182, 1, 52, 54, 7, 44, 182, 0, 173, 21, 6, 159, 0, 5, 3, 172, 21, 6, 154, 0, 15, 45, 3, 47]
abbrev dktL_law_113 : List UInt8 := dkwL_law_113 ++ dktL_law_114
def dkwL_law_112 : List UInt8 := [184, 1, 50, 54, 6, 44, 42, 21, 5, 4, 96, 46, 42, 21, 5, 5, 96, 46, 42, 21, 5, 6, 96, 46]
abbrev dktL_law_112 : List UInt8 := dkwL_law_112 ++ dktL_law_113
def dkwL_law_111 : List UInt8 := [167, 2, 80, 43, 42, 21, 5, 4, 96, 46, 42, 21, 5, 5, 96, 46, 42, 21, 5, 6, 96, 46, 45]
abbrev dktL_law_111 : List UInt8 := dkwL_law_111 ++ dktL_law_112
def dkwL_law_110 : List UInt8 := [21, 6, 159, 0, 5, 3, 172, 21, 6, 154, 0, 15, 45, 3, 47, 21, 7, 133, 148, 153, 0, 5, 3, 172]
abbrev dktL_law_110 : List UInt8 := dkwL_law_110 ++ dktL_law_111
def dkwL_law_109 : List UInt8 := [46, 45, 184, 1, 47, 54, 6, 44, 42, 21, 5, 4, 96, 46, 182, 1, 49, 54, 7, 44, 182, 0, 173]
abbrev dktL_law_109 : List UInt8 := dkwL_law_109 ++ dktL_law_110
def dkwL_law_108 : List UInt8 := [154, 0, 15, 45, 3, 47, 21, 7, 133, 148, 153, 0, 5, 3, 172, 167, 2, 136, 43, 42, 21, 5, 4, 96]
abbrev dktL_law_108 : List UInt8 := dkwL_law_108 ++ dktL_law_109
def dkwL_law_107 : List UInt8 := [21, 5, 6, 96, 46, 182, 1, 46, 54, 7, 44, 182, 0, 173, 21, 6, 159, 0, 5, 3, 172, 21, 6]
abbrev dktL_law_107 : List UInt8 := dkwL_law_107 ++ dktL_law_108
def dkwL_law_106 : List UInt8 := [6, 96, 46, 45, 184, 1, 44, 54, 6, 44, 42, 21, 5, 4, 96, 46, 42, 21, 5, 5, 96, 46, 42]
abbrev dktL_law_106 : List UInt8 := dkwL_law_106 ++ dktL_law_107
def dkwL_law_105 : List UInt8 := [153, 0, 5, 3, 172, 167, 2, 216, 43, 42, 21, 5, 4, 96, 46, 42, 21, 5, 5, 96, 46, 42, 21, 5]
abbrev dktL_law_105 : List UInt8 := dkwL_law_105 ++ dktL_law_106
def dkwL_law_104 : List UInt8 := [182, 0, 173, 21, 6, 159, 0, 5, 3, 172, 21, 6, 154, 0, 15, 45, 3, 47, 21, 7, 133, 148]
abbrev dktL_law_104 : List UInt8 := dkwL_law_104 ++ dktL_law_105
def dkwL_law_103 : List UInt8 := [21, 5, 5, 96, 46, 42, 21, 5, 6, 96, 46, 42, 21, 5, 7, 96, 46, 182, 1, 43, 54, 7, 44]
abbrev dktL_law_103 : List UInt8 := dkwL_law_103 ++ dktL_law_104
def dkwL_law_102 : List UInt8 := [6, 96, 46, 42, 21, 5, 7, 96, 46, 45, 184, 1, 40, 54, 6, 44, 42, 21, 5, 4, 96, 46, 42]
abbrev dktL_law_102 : List UInt8 := dkwL_law_102 ++ dktL_law_103
def dkwL_law_101 : List UInt8 := [153, 0, 5, 3, 172, 167, 3, 52, 43, 42, 21, 5, 4, 96, 46, 42, 21, 5, 5, 96, 46, 42, 21, 5]
abbrev dktL_law_101 : List UInt8 := dkwL_law_101 ++ dktL_law_102
def dkwL_law_100 : List UInt8 := [182, 0, 173, 21, 6, 159, 0, 5, 3, 172, 21, 6, 154, 0, 15, 45, 3, 47, 21, 7, 133, 148]
abbrev dktL_law_100 : List UInt8 := dkwL_law_100 ++ dktL_law_101
def dkwL_law_99 : List UInt8 := [42, 21, 5, 4, 96, 46, 42, 21, 5, 5, 96, 46, 42, 21, 5, 6, 96, 46, 182, 1, 39, 54, 7, 44]
abbrev dktL_law_99 : List UInt8 := dkwL_law_99 ++ dktL_law_100
def dkwL_law_98 : List UInt8 := [21, 5, 4, 96, 46, 42, 21, 5, 5, 96, 46, 42, 21, 5, 6, 96, 46, 45, 184, 1, 37, 54, 6, 44]
abbrev dktL_law_98 : List UInt8 := dkwL_law_98 ++ dktL_law_99
def dkwL_law_97 : List UInt8 := [25, 4, 3, 49, 151, 153, 0, 11, 24, 7, 24, 7, 151, 154, 0, 5, 3, 172, 167, 3, 132, 43, 42]
abbrev dktL_law_97 : List UInt8 := dkwL_law_97 ++ dktL_law_98
def dkwL_law_96 : List UInt8 := [159, 0, 5, 3, 172, 21, 6, 154, 0, 35, 25, 4, 3, 49, 24, 7, 151, 153, 0, 25, 25, 4, 3, 49]
abbrev dktL_law_96 : List UInt8 := dkwL_law_96 ++ dktL_law_97
def dkwL_law_95 : List UInt8 := [184, 1, 34, 54, 6, 44, 42, 21, 5, 4, 96, 46, 182, 1, 36, 57, 7, 44, 182, 0, 173, 21, 6]
abbrev dktL_law_95 : List UInt8 := dkwL_law_95 ++ dktL_law_96
def dkwL_law_94 : List UInt8 := [23, 7, 23, 7, 149, 154, 0, 5, 3, 172, 167, 3, 209, 43, 42, 21, 5, 4, 96, 46, 25, 4]
abbrev dktL_law_94 : List UInt8 := dkwL_law_94 ++ dktL_law_95
def dkwL_law_93 : List UInt8 := [25, 4, 3, 49, 23, 7, 141, 151, 153, 0, 25, 25, 4, 3, 49, 25, 4, 3, 49, 151, 153, 0, 11]
abbrev dktL_law_93 : List UInt8 := dkwL_law_93 ++ dktL_law_94
def dkwL_law_92 : List UInt8 := [96, 46, 182, 1, 33, 56, 7, 44, 182, 0, 173, 21, 6, 159, 0, 5, 3, 172, 21, 6, 154, 0, 36]
abbrev dktL_law_92 : List UInt8 := dkwL_law_92 ++ dktL_law_93
def dkwL_law_91 : List UInt8 := [159, 4, 33, 3, 172, 43, 42, 21, 5, 4, 96, 46, 25, 4, 184, 1, 30, 54, 6, 44, 42, 21, 5, 4]
abbrev dktL_law_91 : List UInt8 := dkwL_law_91 ++ dktL_law_92
def dkwL_law_90 : List UInt8 := [167, 4, 57, 43, 182, 1, 22, 44, 182, 1, 25, 159, 4, 46, 3, 172, 43, 182, 1, 26, 44, 182, 1, 29]
abbrev dktL_law_90 : List UInt8 := dkwL_law_90 ++ dktL_law_91
def dkwL_law_89 : List UInt8 := [159, 0, 5, 3, 172, 21, 6, 154, 0, 15, 45, 3, 47, 21, 7, 133, 148, 153, 0, 5, 3, 172]
abbrev dktL_law_89 : List UInt8 := dkwL_law_89 ++ dktL_law_90
def dkwL_law_88 : List UInt8 := [21, 5, 4, 96, 46, 42, 21, 5, 5, 96, 46, 182, 1, 21, 54, 7, 44, 182, 0, 173, 21, 6]
abbrev dktL_law_88 : List UInt8 := dkwL_law_88 ++ dktL_law_89
def dkwL_law_87 : List UInt8 := [167, 4, 125, 43, 42, 21, 5, 4, 96, 46, 42, 21, 5, 5, 96, 46, 45, 184, 1, 19, 54, 6, 44, 42]
abbrev dktL_law_87 : List UInt8 := dkwL_law_87 ++ dktL_law_88
def dkwL_law_86 : List UInt8 := [159, 0, 5, 3, 172, 21, 6, 154, 0, 15, 45, 3, 47, 21, 7, 133, 148, 153, 0, 5, 3, 172]
abbrev dktL_law_86 : List UInt8 := dkwL_law_86 ++ dktL_law_87
def dkwL_law_85 : List UInt8 := [21, 5, 4, 96, 46, 42, 21, 5, 5, 96, 46, 182, 1, 18, 54, 7, 44, 182, 0, 173, 21, 6]
abbrev dktL_law_85 : List UInt8 := dkwL_law_85 ++ dktL_law_86
def dkwL_law_84 : List UInt8 := [167, 4, 193, 43, 42, 21, 5, 4, 96, 46, 42, 21, 5, 5, 96, 46, 45, 184, 1, 16, 54, 6, 44, 42]
abbrev dktL_law_84 : List UInt8 := dkwL_law_84 ++ dktL_law_85
def dkwL_law_83 : List UInt8 := [159, 0, 5, 3, 172, 21, 6, 154, 0, 15, 45, 3, 47, 21, 7, 133, 148, 153, 0, 5, 3, 172]
abbrev dktL_law_83 : List UInt8 := dkwL_law_83 ++ dktL_law_84
def dkwL_law_82 : List UInt8 := [21, 5, 4, 96, 46, 42, 21, 5, 5, 96, 46, 182, 1, 15, 54, 7, 44, 182, 0, 173, 21, 6]
abbrev dktL_law_82 : List UInt8 := dkwL_law_82 ++ dktL_law_83
def dkwL_law_81 : List UInt8 := [167, 5, 5, 43, 42, 21, 5, 4, 96, 46, 42, 21, 5, 5, 96, 46, 45, 184, 1, 13, 54, 6, 44, 42]
abbrev dktL_law_81 : List UInt8 := dkwL_law_81 ++ dktL_law_82
def dkwL_law_80 : List UInt8 := [159, 0, 5, 3, 172, 21, 6, 154, 0, 15, 45, 3, 47, 21, 7, 133, 148, 153, 0, 5, 3, 172]
abbrev dktL_law_80 : List UInt8 := dkwL_law_80 ++ dktL_law_81
def dkwL_law_79 : List UInt8 := [21, 5, 4, 96, 46, 42, 21, 5, 5, 96, 46, 182, 1, 12, 54, 7, 44, 182, 0, 173, 21, 6]
abbrev dktL_law_79 : List UInt8 := dkwL_law_79 ++ dktL_law_80
def dkwL_law_78 : List UInt8 := [167, 5, 73, 43, 42, 21, 5, 4, 96, 46, 42, 21, 5, 5, 96, 46, 45, 184, 1, 10, 54, 6, 44, 42]
abbrev dktL_law_78 : List UInt8 := dkwL_law_78 ++ dktL_law_79
def dkwL_law_77 : List UInt8 := [159, 0, 5, 3, 172, 21, 6, 154, 0, 15, 45, 3, 47, 21, 7, 133, 148, 153, 0, 5, 3, 172]
abbrev dktL_law_77 : List UInt8 := dkwL_law_77 ++ dktL_law_78
def dkwL_law_76 : List UInt8 := [21, 5, 4, 96, 46, 42, 21, 5, 5, 96, 46, 182, 1, 9, 54, 7, 44, 182, 0, 173, 21, 6]
abbrev dktL_law_76 : List UInt8 := dkwL_law_76 ++ dktL_law_77
def dkwL_law_75 : List UInt8 := [167, 5, 141, 43, 42, 21, 5, 4, 96, 46, 42, 21, 5, 5, 96, 46, 45, 184, 1, 7, 54, 6, 44, 42]
abbrev dktL_law_75 : List UInt8 := dkwL_law_75 ++ dktL_law_76
def dkwL_law_74 : List UInt8 := [159, 0, 5, 3, 172, 21, 6, 154, 0, 15, 45, 3, 47, 21, 7, 133, 148, 153, 0, 5, 3, 172]
abbrev dktL_law_74 : List UInt8 := dkwL_law_74 ++ dktL_law_75
def dkwL_law_73 : List UInt8 := [21, 5, 4, 96, 46, 42, 21, 5, 5, 96, 46, 182, 1, 6, 54, 7, 44, 182, 0, 173, 21, 6]
abbrev dktL_law_73 : List UInt8 := dkwL_law_73 ++ dktL_law_74
def dkwL_law_72 : List UInt8 := [167, 5, 209, 43, 42, 21, 5, 4, 96, 46, 42, 21, 5, 5, 96, 46, 45, 184, 1, 4, 54, 6, 44, 42]
abbrev dktL_law_72 : List UInt8 := dkwL_law_72 ++ dktL_law_73
def dkwL_law_71 : List UInt8 := [154, 0, 22, 45, 3, 47, 21, 7, 153, 0, 7, 10, 167, 0, 4, 9, 148, 153, 0, 5, 3, 172]
abbrev dktL_law_71 : List UInt8 := dkwL_law_71 ++ dktL_law_72
def dkwL_law_70 : List UInt8 := [42, 21, 5, 5, 96, 46, 182, 1, 3, 54, 7, 44, 182, 0, 173, 21, 6, 159, 0, 5, 3, 172, 21, 6]
abbrev dktL_law_70 : List UInt8 := dkwL_law_70 ++ dktL_law_71
def dkwL_law_69 : List UInt8 := [21, 5, 4, 96, 46, 42, 21, 5, 5, 96, 46, 45, 184, 1, 1, 54, 6, 44, 42, 21, 5, 4, 96, 46]
abbrev dktL_law_69 : List UInt8 := dkwL_law_69 ++ dktL_law_70
def dkwL_law_68 : List UInt8 := [45, 3, 47, 21, 7, 153, 0, 7, 10, 167, 0, 4, 9, 148, 153, 0, 5, 3, 172, 167, 6, 28, 43, 42]
abbrev dktL_law_68 : List UInt8 := dkwL_law_68 ++ dktL_law_69
def dkwL_law_67 : List UInt8 := [5, 96, 46, 182, 1, 0, 54, 7, 44, 182, 0, 173, 21, 6, 159, 0, 5, 3, 172, 21, 6, 154, 0, 22]
abbrev dktL_law_67 : List UInt8 := dkwL_law_67 ++ dktL_law_68
def dkwL_law_66 : List UInt8 := [96, 46, 42, 21, 5, 5, 96, 46, 45, 184, 0, 254, 54, 6, 44, 42, 21, 5, 4, 96, 46, 42, 21, 5]
abbrev dktL_law_66 : List UInt8 := dkwL_law_66 ++ dktL_law_67
def dkwL_law_65 : List UInt8 := [21, 7, 153, 0, 7, 10, 167, 0, 4, 9, 148, 153, 0, 5, 3, 172, 167, 6, 103, 43, 42, 21, 5, 4]
abbrev dktL_law_65 : List UInt8 := dkwL_law_65 ++ dktL_law_66
def dkwL_law_64 : List UInt8 := [182, 0, 253, 54, 7, 44, 182, 0, 173, 21, 6, 159, 0, 5, 3, 172, 21, 6, 154, 0, 22, 45, 3, 47]
abbrev dktL_law_64 : List UInt8 := dkwL_law_64 ++ dktL_law_65
def dkwL_law_63 : List UInt8 := [167, 6, 166, 43, 42, 21, 5, 4, 96, 46, 45, 184, 0, 251, 54, 6, 44, 42, 21, 5, 4, 96, 46]
abbrev dktL_law_63 : List UInt8 := dkwL_law_63 ++ dktL_law_64
def dkwL_law_62 : List UInt8 := [21, 6, 159, 0, 5, 3, 172, 21, 6, 154, 0, 15, 45, 3, 47, 21, 7, 133, 148, 153, 0, 5, 3, 172]
abbrev dktL_law_62 : List UInt8 := dkwL_law_62 ++ dktL_law_63
def dkwL_law_61 : List UInt8 := [46, 45, 184, 0, 248, 54, 6, 44, 42, 21, 5, 4, 96, 46, 182, 0, 250, 54, 7, 44, 182, 0, 173]
abbrev dktL_law_61 : List UInt8 := dkwL_law_61 ++ dktL_law_62
def dkwL_law_60 : List UInt8 := [154, 0, 15, 45, 3, 47, 21, 7, 133, 148, 153, 0, 5, 3, 172, 167, 6, 222, 43, 42, 21, 5, 4, 96]
abbrev dktL_law_60 : List UInt8 := dkwL_law_60 ++ dktL_law_61
def dkwL_law_59 : List UInt8 := [21, 5, 4, 96, 46, 182, 0, 247, 54, 7, 44, 182, 0, 173, 21, 6, 159, 0, 5, 3, 172, 21, 6]
abbrev dktL_law_59 : List UInt8 := dkwL_law_59 ++ dktL_law_60
def dkwL_law_58 : List UInt8 := [148, 153, 0, 5, 3, 172, 167, 7, 22, 43, 42, 21, 5, 4, 96, 46, 45, 184, 0, 245, 54, 6, 44, 42]
abbrev dktL_law_58 : List UInt8 := dkwL_law_58 ++ dktL_law_59
def dkwL_law_57 : List UInt8 := [54, 7, 44, 182, 0, 173, 21, 6, 159, 0, 5, 3, 172, 21, 6, 154, 0, 15, 45, 3, 47, 21, 7, 133]
abbrev dktL_law_57 : List UInt8 := dkwL_law_57 ++ dktL_law_58
def dkwL_law_56 : List UInt8 := [46, 45, 184, 0, 242, 54, 6, 44, 42, 21, 5, 4, 96, 46, 42, 21, 5, 5, 96, 46, 182, 0, 244]
abbrev dktL_law_56 : List UInt8 := dkwL_law_56 ++ dktL_law_57
def dkwL_law_55 : List UInt8 := [21, 7, 133, 148, 153, 0, 5, 3, 172, 167, 7, 90, 43, 42, 21, 5, 4, 96, 46, 42, 21, 5, 5, 96]
abbrev dktL_law_55 : List UInt8 := dkwL_law_55 ++ dktL_law_56
def dkwL_law_54 : List UInt8 := [182, 0, 241, 54, 7, 44, 182, 0, 173, 21, 6, 159, 0, 5, 3, 172, 21, 6, 154, 0, 15, 45, 3, 47]
abbrev dktL_law_54 : List UInt8 := dkwL_law_54 ++ dktL_law_55
def dkwL_law_53 : List UInt8 := [167, 7, 146, 43, 42, 21, 5, 4, 96, 46, 45, 184, 0, 239, 54, 6, 44, 42, 21, 5, 4, 96, 46]
abbrev dktL_law_53 : List UInt8 := dkwL_law_53 ++ dktL_law_54
def dkwL_law_52 : List UInt8 := [21, 6, 159, 0, 5, 3, 172, 21, 6, 154, 0, 15, 45, 3, 47, 21, 7, 133, 148, 153, 0, 5, 3, 172]
abbrev dktL_law_52 : List UInt8 := dkwL_law_52 ++ dktL_law_53
def dkwL_law_51 : List UInt8 := [46, 45, 184, 0, 236, 54, 6, 44, 42, 21, 5, 4, 96, 46, 182, 0, 238, 54, 7, 44, 182, 0, 173]
abbrev dktL_law_51 : List UInt8 := dkwL_law_51 ++ dktL_law_52
def dkwL_law_50 : List UInt8 := [154, 0, 15, 45, 3, 47, 21, 7, 133, 148, 153, 0, 5, 3, 172, 167, 7, 202, 43, 42, 21, 5, 4, 96]
abbrev dktL_law_50 : List UInt8 := dkwL_law_50 ++ dktL_law_51
def dkwL_law_49 : List UInt8 := [21, 5, 4, 96, 46, 182, 0, 235, 54, 7, 44, 182, 0, 173, 21, 6, 159, 0, 5, 3, 172, 21, 6]
abbrev dktL_law_49 : List UInt8 := dkwL_law_49 ++ dktL_law_50
def dkwL_law_48 : List UInt8 := [153, 0, 5, 3, 172, 167, 8, 2, 43, 42, 21, 5, 4, 96, 46, 45, 184, 0, 233, 54, 6, 44, 42]
abbrev dktL_law_48 : List UInt8 := dkwL_law_48 ++ dktL_law_49
def dkwL_law_47 : List UInt8 := [182, 0, 173, 21, 6, 159, 0, 5, 3, 172, 21, 6, 154, 0, 15, 45, 3, 47, 21, 7, 133, 148]
abbrev dktL_law_47 : List UInt8 := dkwL_law_47 ++ dktL_law_48
def dkwL_law_46 : List UInt8 := [184, 0, 230, 54, 6, 44, 42, 21, 5, 4, 96, 46, 42, 21, 5, 5, 96, 46, 182, 0, 232, 54, 7, 44]
abbrev dktL_law_46 : List UInt8 := dkwL_law_46 ++ dktL_law_47
def dkwL_law_45 : List UInt8 := [148, 153, 0, 5, 3, 172, 167, 8, 70, 43, 42, 21, 5, 4, 96, 46, 42, 21, 5, 5, 96, 46, 45]
abbrev dktL_law_45 : List UInt8 := dkwL_law_45 ++ dktL_law_46
def dkwL_law_44 : List UInt8 := [54, 7, 44, 182, 0, 173, 21, 6, 159, 0, 5, 3, 172, 21, 6, 154, 0, 15, 45, 3, 47, 21, 7, 133]
abbrev dktL_law_44 : List UInt8 := dkwL_law_44 ++ dktL_law_45
def dkwL_law_43 : List UInt8 := [46, 45, 184, 0, 227, 54, 6, 44, 42, 21, 5, 4, 96, 46, 42, 21, 5, 5, 96, 46, 182, 0, 229]
abbrev dktL_law_43 : List UInt8 := dkwL_law_43 ++ dktL_law_44
def dkwL_law_42 : List UInt8 := [21, 7, 133, 148, 153, 0, 5, 3, 172, 167, 8, 138, 43, 42, 21, 5, 4, 96, 46, 42, 21, 5, 5, 96]
abbrev dktL_law_42 : List UInt8 := dkwL_law_42 ++ dktL_law_43
def dkwL_law_41 : List UInt8 := [182, 0, 226, 54, 7, 44, 182, 0, 173, 21, 6, 159, 0, 5, 3, 172, 21, 6, 154, 0, 15, 45, 3, 47]
abbrev dktL_law_41 : List UInt8 := dkwL_law_41 ++ dktL_law_42
def dkwL_law_40 : List UInt8 := [167, 8, 194, 43, 42, 21, 5, 4, 96, 46, 45, 184, 0, 224, 54, 6, 44, 42, 21, 5, 4, 96, 46]
abbrev dktL_law_40 : List UInt8 := dkwL_law_40 ++ dktL_law_41
def dkwL_law_39 : List UInt8 := [21, 6, 159, 0, 5, 3, 172, 21, 6, 154, 0, 15, 45, 3, 47, 21, 7, 133, 148, 153, 0, 5, 3, 172]
abbrev dktL_law_39 : List UInt8 := dkwL_law_39 ++ dktL_law_40
def dkwL_law_38 : List UInt8 := [96, 46, 42, 21, 5, 5, 96, 46, 42, 21, 5, 6, 96, 46, 182, 0, 223, 54, 7, 44, 182, 0, 173]
abbrev dktL_law_38 : List UInt8 := dkwL_law_38 ++ dktL_law_39
def dkwL_law_37 : List UInt8 := [46, 42, 21, 5, 5, 96, 46, 42, 21, 5, 6, 96, 46, 45, 184, 0, 221, 54, 6, 44, 42, 21, 5, 4]
abbrev dktL_law_37 : List UInt8 := dkwL_law_37 ++ dktL_law_38
def dkwL_law_36 : List UInt8 := [154, 0, 15, 45, 3, 47, 21, 7, 133, 148, 153, 0, 5, 3, 172, 167, 9, 18, 43, 42, 21, 5, 4, 96]
abbrev dktL_law_36 : List UInt8 := dkwL_law_36 ++ dktL_law_37
def dkwL_law_35 : List UInt8 := [42, 21, 5, 6, 96, 46, 182, 0, 220, 54, 7, 44, 182, 0, 173, 21, 6, 159, 0, 5, 3, 172, 21, 6]
abbrev dktL_law_35 : List UInt8 := dkwL_law_35 ++ dktL_law_36
def dkwL_law_34 : List UInt8 := [21, 5, 6, 96, 46, 45, 184, 0, 217, 54, 6, 44, 42, 21, 5, 4, 96, 46, 42, 21, 5, 5, 96, 46]
abbrev dktL_law_34 : List UInt8 := dkwL_law_34 ++ dktL_law_35
def dkwL_law_33 : List UInt8 := [148, 153, 0, 5, 3, 172, 167, 9, 98, 43, 42, 21, 5, 4, 96, 46, 42, 21, 5, 5, 96, 46, 42]
abbrev dktL_law_33 : List UInt8 := dkwL_law_33 ++ dktL_law_34
def dkwL_law_32 : List UInt8 := [54, 7, 44, 182, 0, 173, 21, 6, 159, 0, 5, 3, 172, 21, 6, 154, 0, 15, 45, 3, 47, 21, 7, 133]
abbrev dktL_law_32 : List UInt8 := dkwL_law_32 ++ dktL_law_33
def dkwL_law_31 : List UInt8 := [46, 45, 184, 0, 214, 54, 6, 44, 42, 21, 5, 4, 96, 46, 42, 21, 5, 5, 96, 46, 182, 0, 216]
abbrev dktL_law_31 : List UInt8 := dkwL_law_31 ++ dktL_law_32
def dkwL_law_30 : List UInt8 := [21, 7, 133, 148, 153, 0, 5, 3, 172, 167, 9, 166, 43, 42, 21, 5, 4, 96, 46, 42, 21, 5, 5, 96]
abbrev dktL_law_30 : List UInt8 := dkwL_law_30 ++ dktL_law_31
def dkwL_law_29 : List UInt8 := [182, 0, 213, 54, 7, 44, 182, 0, 173, 21, 6, 159, 0, 5, 3, 172, 21, 6, 154, 0, 15, 45, 3, 47]
abbrev dktL_law_29 : List UInt8 := dkwL_law_29 ++ dktL_law_30
def dkwL_law_28 : List UInt8 := [5, 96, 46, 45, 184, 0, 211, 54, 6, 44, 42, 21, 5, 4, 96, 46, 42, 21, 5, 5, 96, 46]
abbrev dktL_law_28 : List UInt8 := dkwL_law_28 ++ dktL_law_29
def dkwL_law_27 : List UInt8 := [3, 47, 21, 7, 133, 148, 153, 0, 5, 3, 172, 167, 9, 234, 43, 42, 21, 5, 4, 96, 46, 42, 21, 5]
abbrev dktL_law_27 : List UInt8 := dkwL_law_27 ++ dktL_law_28
def dkwL_law_26 : List UInt8 := [96, 46, 182, 0, 210, 54, 7, 44, 182, 0, 173, 21, 6, 159, 0, 5, 3, 172, 21, 6, 154, 0, 15, 45]
abbrev dktL_law_26 : List UInt8 := dkwL_law_26 ++ dktL_law_27
def dkwL_law_25 : List UInt8 := [46, 42, 21, 5, 5, 96, 46, 45, 184, 0, 208, 54, 6, 44, 42, 21, 5, 4, 96, 46, 42, 21, 5, 5]
abbrev dktL_law_25 : List UInt8 := dkwL_law_25 ++ dktL_law_26
def dkwL_law_24 : List UInt8 := [154, 0, 15, 45, 3, 47, 21, 7, 133, 148, 153, 0, 5, 3, 172, 167, 10, 46, 43, 42, 21, 5, 4, 96]
abbrev dktL_law_24 : List UInt8 := dkwL_law_24 ++ dktL_law_25
def dkwL_law_23 : List UInt8 := [42, 21, 5, 5, 96, 46, 182, 0, 207, 54, 7, 44, 182, 0, 173, 21, 6, 159, 0, 5, 3, 172, 21, 6]
abbrev dktL_law_23 : List UInt8 := dkwL_law_23 ++ dktL_law_24
def dkwL_law_22 : List UInt8 := [21, 5, 4, 96, 46, 42, 21, 5, 5, 96, 46, 45, 184, 0, 204, 54, 6, 44, 42, 21, 5, 4, 96, 46]
abbrev dktL_law_22 : List UInt8 := dkwL_law_22 ++ dktL_law_23
def dkwL_law_21 : List UInt8 := [172, 21, 6, 154, 0, 15, 45, 3, 47, 21, 7, 133, 148, 153, 0, 5, 3, 172, 167, 10, 114, 43, 42]
abbrev dktL_law_21 : List UInt8 := dkwL_law_21 ++ dktL_law_22
def dkwL_law_20 : List UInt8 := [54, 6, 44, 42, 21, 5, 4, 96, 46, 182, 0, 203, 54, 7, 44, 182, 0, 173, 21, 6, 159, 0, 5, 3]
abbrev dktL_law_20 : List UInt8 := dkwL_law_20 ++ dktL_law_21
def dkwL_law_19 : List UInt8 := [21, 7, 133, 148, 153, 0, 5, 3, 172, 167, 10, 170, 43, 42, 21, 5, 4, 96, 46, 45, 184, 0, 201]
abbrev dktL_law_19 : List UInt8 := dkwL_law_19 ++ dktL_law_20
def dkwL_law_18 : List UInt8 := [182, 0, 200, 54, 7, 44, 182, 0, 173, 21, 6, 159, 0, 5, 3, 172, 21, 6, 154, 0, 15, 45, 3, 47]
abbrev dktL_law_18 : List UInt8 := dkwL_law_18 ++ dktL_law_19
def dkwL_law_17 : List UInt8 := [167, 10, 226, 43, 42, 21, 5, 4, 96, 46, 45, 184, 0, 198, 54, 6, 44, 42, 21, 5, 4, 96, 46]
abbrev dktL_law_17 : List UInt8 := dkwL_law_17 ++ dktL_law_18
def dkwL_law_16 : List UInt8 := [159, 0, 5, 3, 172, 21, 6, 154, 0, 15, 45, 3, 47, 21, 7, 133, 148, 153, 0, 5, 3, 172]
abbrev dktL_law_16 : List UInt8 := dkwL_law_16 ++ dktL_law_17
def dkwL_law_15 : List UInt8 := [184, 0, 195, 54, 6, 44, 42, 21, 5, 4, 96, 46, 182, 0, 197, 54, 7, 44, 182, 0, 173, 21, 6]
abbrev dktL_law_15 : List UInt8 := dkwL_law_15 ++ dktL_law_16
def dkwL_law_14 : List UInt8 := [172, 43, 182, 0, 191, 44, 182, 0, 194, 159, 11, 28, 3, 172, 43, 42, 21, 5, 4, 96, 46, 45]
abbrev dktL_law_14 : List UInt8 := dkwL_law_14 ++ dktL_law_15
def dkwL_law_13 : List UInt8 := [21, 7, 133, 148, 153, 0, 5, 3, 172, 167, 11, 52, 43, 182, 0, 187, 44, 182, 0, 190, 159, 11, 41, 3]
abbrev dktL_law_13 : List UInt8 := dkwL_law_13 ++ dktL_law_14
def dkwL_law_12 : List UInt8 := [182, 0, 186, 54, 7, 44, 182, 0, 173, 21, 6, 159, 0, 5, 3, 172, 21, 6, 154, 0, 15, 45, 3, 47]
abbrev dktL_law_12 : List UInt8 := dkwL_law_12 ++ dktL_law_13
def dkwL_law_11 : List UInt8 := [45, 3, 47, 21, 7, 133, 148, 153, 0, 5, 3, 172, 167, 11, 96, 43, 45, 184, 0, 184, 54, 6, 44]
abbrev dktL_law_11 : List UInt8 := dkwL_law_11 ++ dktL_law_12
def dkwL_law_10 : List UInt8 := [54, 6, 44, 182, 0, 183, 54, 7, 44, 182, 0, 173, 21, 6, 159, 0, 5, 3, 172, 21, 6, 154, 0, 15]
abbrev dktL_law_10 : List UInt8 := dkwL_law_10 ++ dktL_law_11
def dkwL_law_9 : List UInt8 := [154, 0, 15, 45, 3, 47, 21, 7, 133, 148, 153, 0, 5, 3, 172, 167, 11, 140, 43, 45, 184, 0, 180]
abbrev dktL_law_9 : List UInt8 := dkwL_law_9 ++ dktL_law_10
def dkwL_law_8 : List UInt8 := [21, 5, 4, 96, 46, 182, 0, 179, 54, 7, 44, 182, 0, 173, 21, 6, 159, 0, 5, 3, 172, 21, 6]
abbrev dktL_law_8 : List UInt8 := dkwL_law_8 ++ dktL_law_9
def dkwL_law_7 : List UInt8 := [148, 153, 0, 5, 3, 172, 167, 11, 196, 43, 42, 21, 5, 4, 96, 46, 45, 184, 0, 176, 54, 6, 44, 42]
abbrev dktL_law_7 : List UInt8 := dkwL_law_7 ++ dktL_law_8
def dkwL_law_6 : List UInt8 := [54, 7, 44, 182, 0, 173, 21, 6, 159, 0, 5, 3, 172, 21, 6, 154, 0, 15, 45, 3, 47, 21, 7, 133]
abbrev dktL_law_6 : List UInt8 := dkwL_law_6 ++ dktL_law_7
def dkwL_law_5 : List UInt8 := [96, 46, 42, 21, 5, 6, 96, 46, 42, 21, 5, 7, 96, 46, 42, 21, 5, 8, 96, 46, 182, 0, 172]
abbrev dktL_law_5 : List UInt8 := dkwL_law_5 ++ dktL_law_6
def dkwL_law_4 : List UInt8 := [46, 42, 21, 5, 8, 96, 46, 45, 184, 0, 167, 54, 6, 44, 42, 21, 5, 4, 96, 46, 42, 21, 5, 5]
abbrev dktL_law_4 : List UInt8 := dkwL_law_4 ++ dktL_law_5
def dkwL_law_3 : List UInt8 := [43, 42, 21, 5, 4, 96, 46, 42, 21, 5, 5, 96, 46, 42, 21, 5, 6, 96, 46, 42, 21, 5, 7, 96]
abbrev dktL_law_3 : List UInt8 := dkwL_law_3 ++ dktL_law_4
def dkwL_law_2 : List UInt8 := [170, 0, 0, 0, 0, 13, 4, 0, 0, 0, 0, 0, 0, 0, 50, 0, 0, 0, 219, 0, 0, 1, 67, 0, 0, 1, 123, 0, 0, 1, 167, 0, 0, 1, 211, 0, 0, 1, 224, 0, 0, 1, 237, 0, 0, 2, 37, 0, 0, 2, 93, 0, 0, 2, 149, 0, 0, 2, 217, 0, 0, 3, 29, 0, 0, 3, 97, 0, 0, 3, 165, 0, 0, 3, 245, 0, 0, 4, 69, 0, 0, 4, 125, 0, 0, 4, 193, 0, 0, 5, 5, 0, 0, 5, 61, 0, 0, 5, 117, 0, 0, 5, 173, 0, 0, 5, 241, 0, 0, 6, 41, 0, 0, 6, 97, 0, 0, 6, 160, 0, 0, 6, 235, 0, 0, 7, 54, 0, 0, 7, 122, 0, 0, 7, 190, 0, 0, 8, 2, 0, 0, 8, 70, 0, 0, 8, 138, 0, 0, 8, 206, 0, 0, 8, 219, 0, 0, 8, 232, 0, 0, 9, 54, 0, 0, 9, 131, 0, 0, 9, 211, 0, 0, 10, 47, 0, 0, 10, 127, 0, 0, 10, 183, 0, 0, 11, 7, 0, 0, 11, 75, 0, 0, 11, 143, 0, 0, 11, 223, 0, 0, 12, 47, 0, 0, 12, 91, 0, 0, 12, 147, 0, 0, 12, 203, 0, 0, 12, 216]
abbrev dktL_law_2 : List UInt8 := dkwL_law_2 ++ dktL_law_3
def dkwL_law_1 : List UInt8 := [58, 4, 3, 54, 5, 21, 5, 42, 190, 16, 6, 100, 163, 13, 20, 42, 21, 5, 46, 16, 63, 126]
abbrev dktL_law_1 : List UInt8 := dkwL_law_1 ++ dktL_law_2
def dkwL_law_0 : List UInt8 := [187, 0, 8, 89, 183, 0, 163, 76, 187, 0, 164, 89, 183, 0, 166, 77, 4, 188, 11, 78, 4, 188, 7]
abbrev dktL_law_0 : List UInt8 := dkwL_law_0 ++ dktL_law_1
theorem dksL_law_0 : cL_law.data.toList.drop 0 = dktL_law_0 := by decide +kernel
theorem dksL_law_1 : cL_law.data.toList.drop 23 = dktL_law_1 := dk_seg dksL_law_0 23 rfl rfl
theorem dksL_law_2 : cL_law.data.toList.drop 45 = dktL_law_2 := dk_seg dksL_law_1 22 rfl rfl
theorem dksL_law_3 : cL_law.data.toList.drop 264 = dktL_law_3 := dk_seg dksL_law_2 219 rfl rfl
theorem dksL_law_4 : cL_law.data.toList.drop 288 = dktL_law_4 := dk_seg dksL_law_3 24 rfl rfl
theorem dksL_law_5 : cL_law.data.toList.drop 312 = dktL_law_5 := dk_seg dksL_law_4 24 rfl rfl
theorem dksL_law_6 : cL_law.data.toList.drop 335 = dktL_law_6 := dk_seg dksL_law_5 23 rfl rfl
theorem dksL_law_7 : cL_law.data.toList.drop 359 = dktL_law_7 := dk_seg dksL_law_6 24 rfl rfl
theorem dksL_law_8 : cL_law.data.toList.drop 383 = dktL_law_8 := dk_seg dksL_law_7 24 rfl rfl
theorem dksL_law_9 : cL_law.data.toList.drop 406 = dktL_law_9 := dk_seg dksL_law_8 23 rfl rfl
theorem dksL_law_10 : cL_law.data.toList.drop 429 = dktL_law_10 := dk_seg dksL_law_9 23 rfl rfl
theorem dksL_law_11 : cL_law.data.toList.drop 453 = dktL_law_11 := dk_seg dksL_law_10 24 rfl rfl
theorem dksL_law_12 : cL_law.data.toList.drop 476 = dktL_law_12 := dk_seg dksL_law_11 23 rfl rfl
theorem dksL_law_13 : cL_law.data.toList.drop 500 = dktL_law_13 := dk_seg dksL_law_12 24 rfl rfl
theorem dksL_law_14 : cL_law.data.toList.drop 524 = dktL_law_14 := dk_seg dksL_law_13 24 rfl rfl
theorem dksL_law_15 : cL_law.data.toList.drop 546 = dktL_law_15 := dk_seg dksL_law_14 22 rfl rfl
theorem dksL_law_16 : cL_law.data.toList.drop 569 = dktL_law_16 := dk_seg dksL_law_15 23 rfl rfl
theorem dksL_law_17 : cL_law.data.toList.drop 591 = dktL_law_17 := dk_seg dksL_law_16 22 rfl rfl
theorem dksL_law_18 : cL_law.data.toList.drop 614 = dktL_law_18 := dk_seg dksL_law_17 23 rfl rfl
theorem dksL_law_19 : cL_law.data.toList.drop 638 = dktL_law_19 := dk_seg dksL_law_18 24 rfl rfl
theorem dksL_law_20 : cL_law.data.toList.drop 661 = dktL_law_20 := dk_seg dksL_law_19 23 rfl rfl
theorem dksL_law_21 : cL_law.data.toList.drop 685 = dktL_law_21 := dk_seg dksL_law_20 24 rfl rfl
theorem dksL_law_22 : cL_law.data.toList.drop 708 = dktL_law_22 := dk_seg dksL_law_21 23 rfl rfl
theorem dksL_law_23 : cL_law.data.toList.drop 732 = dktL_law_23 := dk_seg dksL_law_22 24 rfl rfl
theorem dksL_law_24 : cL_law.data.toList.drop 756 = dktL_law_24 := dk_seg dksL_law_23 24 rfl rfl
theorem dksL_law_25 : cL_law.data.toList.drop 780 = dktL_law_25 := dk_seg dksL_law_24 24 rfl rfl
theorem dksL_law_26 : cL_law.data.toList.drop 804 = dktL_law_26 := dk_seg dksL_law_25 24 rfl rfl
theorem dksL_law_27 : cL_law.data.toList.drop 828 = dktL_law_27 := dk_seg dksL_law_26 24 rfl rfl
theorem dksL_law_28 : cL_law.data.toList.drop 852 = dktL_law_28 := dk_seg dksL_law_27 24 rfl rfl
theorem dksL_law_29 : cL_law.data.toList.drop 874 = dktL_law_29 := dk_seg dksL_law_28 22 rfl rfl
theorem dksL_law_30 : cL_law.data.toList.drop 898 = dktL_law_30 := dk_seg dksL_law_29 24 rfl rfl
theorem dksL_law_31 : cL_law.data.toList.drop 922 = dktL_law_31 := dk_seg dksL_law_30 24 rfl rfl
theorem dksL_law_32 : cL_law.data.toList.drop 945 = dktL_law_32 := dk_seg dksL_law_31 23 rfl rfl
theorem dksL_law_33 : cL_law.data.toList.drop 969 = dktL_law_33 := dk_seg dksL_law_32 24 rfl rfl
theorem dksL_law_34 : cL_law.data.toList.drop 992 = dktL_law_34 := dk_seg dksL_law_33 23 rfl rfl
theorem dksL_law_35 : cL_law.data.toList.drop 1016 = dktL_law_35 := dk_seg dksL_law_34 24 rfl rfl
theorem dksL_law_36 : cL_law.data.toList.drop 1040 = dktL_law_36 := dk_seg dksL_law_35 24 rfl rfl
theorem dksL_law_37 : cL_law.data.toList.drop 1064 = dktL_law_37 := dk_seg dksL_law_36 24 rfl rfl
theorem dksL_law_38 : cL_law.data.toList.drop 1088 = dktL_law_38 := dk_seg dksL_law_37 24 rfl rfl
theorem dksL_law_39 : cL_law.data.toList.drop 1111 = dktL_law_39 := dk_seg dksL_law_38 23 rfl rfl
theorem dksL_law_40 : cL_law.data.toList.drop 1135 = dktL_law_40 := dk_seg dksL_law_39 24 rfl rfl
theorem dksL_law_41 : cL_law.data.toList.drop 1158 = dktL_law_41 := dk_seg dksL_law_40 23 rfl rfl
theorem dksL_law_42 : cL_law.data.toList.drop 1182 = dktL_law_42 := dk_seg dksL_law_41 24 rfl rfl
theorem dksL_law_43 : cL_law.data.toList.drop 1206 = dktL_law_43 := dk_seg dksL_law_42 24 rfl rfl
theorem dksL_law_44 : cL_law.data.toList.drop 1229 = dktL_law_44 := dk_seg dksL_law_43 23 rfl rfl
theorem dksL_law_45 : cL_law.data.toList.drop 1253 = dktL_law_45 := dk_seg dksL_law_44 24 rfl rfl
theorem dksL_law_46 : cL_law.data.toList.drop 1276 = dktL_law_46 := dk_seg dksL_law_45 23 rfl rfl
theorem dksL_law_47 : cL_law.data.toList.drop 1300 = dktL_law_47 := dk_seg dksL_law_46 24 rfl rfl
theorem dksL_law_48 : cL_law.data.toList.drop 1322 = dktL_law_48 := dk_seg dksL_law_47 22 rfl rfl
theorem dksL_law_49 : cL_law.data.toList.drop 1345 = dktL_law_49 := dk_seg dksL_law_48 23 rfl rfl
theorem dksL_law_50 : cL_law.data.toList.drop 1368 = dktL_law_50 := dk_seg dksL_law_49 23 rfl rfl
theorem dksL_law_51 : cL_law.data.toList.drop 1392 = dktL_law_51 := dk_seg dksL_law_50 24 rfl rfl
theorem dksL_law_52 : cL_law.data.toList.drop 1415 = dktL_law_52 := dk_seg dksL_law_51 23 rfl rfl
theorem dksL_law_53 : cL_law.data.toList.drop 1439 = dktL_law_53 := dk_seg dksL_law_52 24 rfl rfl
theorem dksL_law_54 : cL_law.data.toList.drop 1462 = dktL_law_54 := dk_seg dksL_law_53 23 rfl rfl
theorem dksL_law_55 : cL_law.data.toList.drop 1486 = dktL_law_55 := dk_seg dksL_law_54 24 rfl rfl
theorem dksL_law_56 : cL_law.data.toList.drop 1510 = dktL_law_56 := dk_seg dksL_law_55 24 rfl rfl
theorem dksL_law_57 : cL_law.data.toList.drop 1533 = dktL_law_57 := dk_seg dksL_law_56 23 rfl rfl
theorem dksL_law_58 : cL_law.data.toList.drop 1557 = dktL_law_58 := dk_seg dksL_law_57 24 rfl rfl
theorem dksL_law_59 : cL_law.data.toList.drop 1581 = dktL_law_59 := dk_seg dksL_law_58 24 rfl rfl
theorem dksL_law_60 : cL_law.data.toList.drop 1604 = dktL_law_60 := dk_seg dksL_law_59 23 rfl rfl
theorem dksL_law_61 : cL_law.data.toList.drop 1628 = dktL_law_61 := dk_seg dksL_law_60 24 rfl rfl
theorem dksL_law_62 : cL_law.data.toList.drop 1651 = dktL_law_62 := dk_seg dksL_law_61 23 rfl rfl
theorem dksL_law_63 : cL_law.data.toList.drop 1675 = dktL_law_63 := dk_seg dksL_law_62 24 rfl rfl
theorem dksL_law_64 : cL_law.data.toList.drop 1698 = dktL_law_64 := dk_seg dksL_law_63 23 rfl rfl
theorem dksL_law_65 : cL_law.data.toList.drop 1722 = dktL_law_65 := dk_seg dksL_law_64 24 rfl rfl
theorem dksL_law_66 : cL_law.data.toList.drop 1746 = dktL_law_66 := dk_seg dksL_law_65 24 rfl rfl
theorem dksL_law_67 : cL_law.data.toList.drop 1770 = dktL_law_67 := dk_seg dksL_law_66 24 rfl rfl
theorem dksL_law_68 : cL_law.data.toList.drop 1794 = dktL_law_68 := dk_seg dksL_law_67 24 rfl rfl
theorem dksL_law_69 : cL_law.data.toList.drop 1818 = dktL_law_69 := dk_seg dksL_law_68 24 rfl rfl
theorem dksL_law_70 : cL_law.data.toList.drop 1842 = dktL_law_70 := dk_seg dksL_law_69 24 rfl rfl
theorem dksL_law_71 : cL_law.data.toList.drop 1866 = dktL_law_71 := dk_seg dksL_law_70 24 rfl rfl
theorem dksL_law_72 : cL_law.data.toList.drop 1888 = dktL_law_72 := dk_seg dksL_law_71 22 rfl rfl
theorem dksL_law_73 : cL_law.data.toList.drop 1912 = dktL_law_73 := dk_seg dksL_law_72 24 rfl rfl
theorem dksL_law_74 : cL_law.data.toList.drop 1934 = dktL_law_74 := dk_seg dksL_law_73 22 rfl rfl
theorem dksL_law_75 : cL_law.data.toList.drop 1956 = dktL_law_75 := dk_seg dksL_law_74 22 rfl rfl
theorem dksL_law_76 : cL_law.data.toList.drop 1980 = dktL_law_76 := dk_seg dksL_law_75 24 rfl rfl
theorem dksL_law_77 : cL_law.data.toList.drop 2002 = dktL_law_77 := dk_seg dksL_law_76 22 rfl rfl
theorem dksL_law_78 : cL_law.data.toList.drop 2024 = dktL_law_78 := dk_seg dksL_law_77 22 rfl rfl
theorem dksL_law_79 : cL_law.data.toList.drop 2048 = dktL_law_79 := dk_seg dksL_law_78 24 rfl rfl
theorem dksL_law_80 : cL_law.data.toList.drop 2070 = dktL_law_80 := dk_seg dksL_law_79 22 rfl rfl
theorem dksL_law_81 : cL_law.data.toList.drop 2092 = dktL_law_81 := dk_seg dksL_law_80 22 rfl rfl
theorem dksL_law_82 : cL_law.data.toList.drop 2116 = dktL_law_82 := dk_seg dksL_law_81 24 rfl rfl
theorem dksL_law_83 : cL_law.data.toList.drop 2138 = dktL_law_83 := dk_seg dksL_law_82 22 rfl rfl
theorem dksL_law_84 : cL_law.data.toList.drop 2160 = dktL_law_84 := dk_seg dksL_law_83 22 rfl rfl
theorem dksL_law_85 : cL_law.data.toList.drop 2184 = dktL_law_85 := dk_seg dksL_law_84 24 rfl rfl
theorem dksL_law_86 : cL_law.data.toList.drop 2206 = dktL_law_86 := dk_seg dksL_law_85 22 rfl rfl
theorem dksL_law_87 : cL_law.data.toList.drop 2228 = dktL_law_87 := dk_seg dksL_law_86 22 rfl rfl
theorem dksL_law_88 : cL_law.data.toList.drop 2252 = dktL_law_88 := dk_seg dksL_law_87 24 rfl rfl
theorem dksL_law_89 : cL_law.data.toList.drop 2274 = dktL_law_89 := dk_seg dksL_law_88 22 rfl rfl
theorem dksL_law_90 : cL_law.data.toList.drop 2296 = dktL_law_90 := dk_seg dksL_law_89 22 rfl rfl
theorem dksL_law_91 : cL_law.data.toList.drop 2320 = dktL_law_91 := dk_seg dksL_law_90 24 rfl rfl
theorem dksL_law_92 : cL_law.data.toList.drop 2344 = dktL_law_92 := dk_seg dksL_law_91 24 rfl rfl
theorem dksL_law_93 : cL_law.data.toList.drop 2367 = dktL_law_93 := dk_seg dksL_law_92 23 rfl rfl
theorem dksL_law_94 : cL_law.data.toList.drop 2390 = dktL_law_94 := dk_seg dksL_law_93 23 rfl rfl
theorem dksL_law_95 : cL_law.data.toList.drop 2412 = dktL_law_95 := dk_seg dksL_law_94 22 rfl rfl
theorem dksL_law_96 : cL_law.data.toList.drop 2435 = dktL_law_96 := dk_seg dksL_law_95 23 rfl rfl
theorem dksL_law_97 : cL_law.data.toList.drop 2459 = dktL_law_97 := dk_seg dksL_law_96 24 rfl rfl
theorem dksL_law_98 : cL_law.data.toList.drop 2482 = dktL_law_98 := dk_seg dksL_law_97 23 rfl rfl
theorem dksL_law_99 : cL_law.data.toList.drop 2506 = dktL_law_99 := dk_seg dksL_law_98 24 rfl rfl
theorem dksL_law_100 : cL_law.data.toList.drop 2530 = dktL_law_100 := dk_seg dksL_law_99 24 rfl rfl
theorem dksL_law_101 : cL_law.data.toList.drop 2552 = dktL_law_101 := dk_seg dksL_law_100 22 rfl rfl
theorem dksL_law_102 : cL_law.data.toList.drop 2576 = dktL_law_102 := dk_seg dksL_law_101 24 rfl rfl
theorem dksL_law_103 : cL_law.data.toList.drop 2599 = dktL_law_103 := dk_seg dksL_law_102 23 rfl rfl
theorem dksL_law_104 : cL_law.data.toList.drop 2622 = dktL_law_104 := dk_seg dksL_law_103 23 rfl rfl
theorem dksL_law_105 : cL_law.data.toList.drop 2644 = dktL_law_105 := dk_seg dksL_law_104 22 rfl rfl
theorem dksL_law_106 : cL_law.data.toList.drop 2668 = dktL_law_106 := dk_seg dksL_law_105 24 rfl rfl
theorem dksL_law_107 : cL_law.data.toList.drop 2691 = dktL_law_107 := dk_seg dksL_law_106 23 rfl rfl
theorem dksL_law_108 : cL_law.data.toList.drop 2714 = dktL_law_108 := dk_seg dksL_law_107 23 rfl rfl
theorem dksL_law_109 : cL_law.data.toList.drop 2738 = dktL_law_109 := dk_seg dksL_law_108 24 rfl rfl
theorem dksL_law_110 : cL_law.data.toList.drop 2761 = dktL_law_110 := dk_seg dksL_law_109 23 rfl rfl
theorem dksL_law_111 : cL_law.data.toList.drop 2785 = dktL_law_111 := dk_seg dksL_law_110 24 rfl rfl
theorem dksL_law_112 : cL_law.data.toList.drop 2808 = dktL_law_112 := dk_seg dksL_law_111 23 rfl rfl
theorem dksL_law_113 : cL_law.data.toList.drop 2832 = dktL_law_113 := dk_seg dksL_law_112 24 rfl rfl
theorem dksL_law_114 : cL_law.data.toList.drop 2856 = dktL_law_114 := dk_seg dksL_law_113 24 rfl rfl
theorem dksL_law_115 : cL_law.data.toList.drop 2880 = dktL_law_115 := dk_seg dksL_law_114 24 rfl rfl
theorem dksL_law_116 : cL_law.data.toList.drop 2903 = dktL_law_116 := dk_seg dksL_law_115 23 rfl rfl
theorem dksL_law_117 : cL_law.data.toList.drop 2927 = dktL_law_117 := dk_seg dksL_law_116 24 rfl rfl
theorem dksL_law_118 : cL_law.data.toList.drop 2950 = dktL_law_118 := dk_seg dksL_law_117 23 rfl rfl
theorem dksL_law_119 : cL_law.data.toList.drop 2974 = dktL_law_119 := dk_seg dksL_law_118 24 rfl rfl
theorem dksL_law_120 : cL_law.data.toList.drop 2996 = dktL_law_120 := dk_seg dksL_law_119 22 rfl rfl
theorem dksL_law_121 : cL_law.data.toList.drop 3020 = dktL_law_121 := dk_seg dksL_law_120 24 rfl rfl
theorem dksL_law_122 : cL_law.data.toList.drop 3043 = dktL_law_122 := dk_seg dksL_law_121 23 rfl rfl
theorem dksL_law_123 : cL_law.data.toList.drop 3066 = dktL_law_123 := dk_seg dksL_law_122 23 rfl rfl
theorem dksL_law_124 : cL_law.data.toList.drop 3090 = dktL_law_124 := dk_seg dksL_law_123 24 rfl rfl
theorem dksL_law_125 : cL_law.data.toList.drop 3114 = dktL_law_125 := dk_seg dksL_law_124 24 rfl rfl
theorem dksL_law_126 : cL_law.data.toList.drop 3137 = dktL_law_126 := dk_seg dksL_law_125 23 rfl rfl
theorem dksL_law_127 : cL_law.data.toList.drop 3161 = dktL_law_127 := dk_seg dksL_law_126 24 rfl rfl
theorem dksL_law_128 : cL_law.data.toList.drop 3183 = dktL_law_128 := dk_seg dksL_law_127 22 rfl rfl
theorem dksL_law_129 : cL_law.data.toList.drop 3205 = dktL_law_129 := dk_seg dksL_law_128 22 rfl rfl
theorem dksL_law_130 : cL_law.data.toList.drop 3228 = dktL_law_130 := dk_seg dksL_law_129 23 rfl rfl
theorem dksL_law_131 : cL_law.data.toList.drop 3252 = dktL_law_131 := dk_seg dksL_law_130 24 rfl rfl
theorem dksL_law_132 : cL_law.data.toList.drop 3275 = dktL_law_132 := dk_seg dksL_law_131 23 rfl rfl
theorem dksL_law_133 : cL_law.data.toList.drop 3299 = dktL_law_133 := dk_seg dksL_law_132 24 rfl rfl
theorem dksL_law_134 : cL_law.data.toList.drop 3321 = dktL_law_134 := dk_seg dksL_law_133 22 rfl rfl
theorem dksL_law_135 : cL_law.data.toList.drop 3344 = dktL_law_135 := dk_seg dksL_law_134 23 rfl rfl
theorem dksL_law_136 : cL_law.data.toList.drop 3368 = dktL_law_136 := dk_seg dksL_law_135 24 rfl rfl
theorem dL_law_0 : decode cL_law 0 = .ok (.new 8, 3) := dk_187 0 8 (dk_at dksL_law_0 0 rfl rfl)
theorem dL_law_3 : decode cL_law 3 = .ok (.dup, 1) := dk_89 (dk_at dksL_law_0 3 rfl rfl)
theorem dL_law_4 : decode cL_law 4 = .ok (.invokespecial 163, 3) := dk_183 0 163 (dk_at dksL_law_0 4 rfl rfl)
theorem dL_law_7 : decode cL_law 7 = .ok (.astore_n 1, 1) := dk_76 (dk_at dksL_law_0 7 rfl rfl)
theorem dL_law_8 : decode cL_law 8 = .ok (.new 164, 3) := dk_187 0 164 (dk_at dksL_law_0 8 rfl rfl)
theorem dL_law_11 : decode cL_law 11 = .ok (.dup, 1) := dk_89 (dk_at dksL_law_0 11 rfl rfl)
theorem dL_law_12 : decode cL_law 12 = .ok (.invokespecial 166, 3) := dk_183 0 166 (dk_at dksL_law_0 12 rfl rfl)
theorem dL_law_15 : decode cL_law 15 = .ok (.astore_n 2, 1) := dk_77 (dk_at dksL_law_0 15 rfl rfl)
theorem dL_law_16 : decode cL_law 16 = .ok (.iconst 1, 1) := dk_4 (dk_at dksL_law_0 16 rfl rfl)
theorem dL_law_17 : decode cL_law 17 = .ok (.newarray .long, 2) := dk_188_11 (dk_at dksL_law_0 17 rfl rfl)
theorem dL_law_19 : decode cL_law 19 = .ok (.astore_n 3, 1) := dk_78 (dk_at dksL_law_0 19 rfl rfl)
theorem dL_law_20 : decode cL_law 20 = .ok (.iconst 1, 1) := dk_4 (dk_at dksL_law_0 20 rfl rfl)
theorem dL_law_21 : decode cL_law 21 = .ok (.newarray .double, 2) := dk_188_7 (dk_at dksL_law_0 21 rfl rfl)
theorem dL_law_23 : decode cL_law 23 = .ok (.astore 4, 2) := dk_58 4 (dk_at dksL_law_1 0 rfl rfl)
theorem dL_law_25 : decode cL_law 25 = .ok (.iconst 0, 1) := dk_3 (dk_at dksL_law_1 2 rfl rfl)
theorem dL_law_26 : decode cL_law 26 = .ok (.istore 5, 2) := dk_54 5 (dk_at dksL_law_1 3 rfl rfl)
theorem dL_law_28 : decode cL_law 28 = .ok (.iload 5, 2) := dk_21 5 (dk_at dksL_law_1 5 rfl rfl)
theorem dL_law_30 : decode cL_law 30 = .ok (.aload_n 0, 1) := dk_42 (dk_at dksL_law_1 7 rfl rfl)
theorem dL_law_31 : decode cL_law 31 = .ok (.arraylength, 1) := dk_190 (dk_at dksL_law_1 8 rfl rfl)
theorem dL_law_32 : decode cL_law 32 = .ok (.bipush 6, 2) := dk_16 6 (dk_at dksL_law_1 9 rfl rfl)
theorem dL_law_34 : decode cL_law 34 = .ok (.isub, 1) := dk_100 (dk_at dksL_law_1 11 rfl rfl)
theorem dL_law_35 : decode cL_law 35 = .ok (.if_icmp .gt 3348, 3) := dk_163 13 20 (dk_at dksL_law_1 12 rfl rfl)
theorem dL_law_38 : decode cL_law 38 = .ok (.aload_n 0, 1) := dk_42 (dk_at dksL_law_1 15 rfl rfl)
theorem dL_law_39 : decode cL_law 39 = .ok (.iload 5, 2) := dk_21 5 (dk_at dksL_law_1 16 rfl rfl)
theorem dL_law_41 : decode cL_law 41 = .ok (.iaload, 1) := dk_46 (dk_at dksL_law_1 18 rfl rfl)
theorem dL_law_42 : decode cL_law 42 = .ok (.bipush 63, 2) := dk_16 63 (dk_at dksL_law_1 19 rfl rfl)
theorem dL_law_44 : decode cL_law 44 = .ok (.iand, 1) := dk_126 (dk_at dksL_law_1 21 rfl rfl)
theorem dL_law_45 : decode cL_law 45 = .ok (.tableswitch 3332 0 50 #[219, 323, 379, 423, 467, 480, 493, 549, 605, 661, 729, 797, 865, 933, 1013, 1093, 1149, 1217, 1285, 1341, 1397, 1453, 1521, 1577, 1633, 1696, 1771, 1846, 1914, 1982, 2050, 2118, 2186, 2254, 2267, 2280, 2358, 2435, 2515, 2607, 2687, 2743, 2823, 2891, 2959, 3039, 3119, 3163, 3219, 3275, 3288], 219) := by decide +kernel
theorem dL_law_264 : decode cL_law 264 = .ok (.aload_n 1, 1) := dk_43 (dk_at dksL_law_3 0 rfl rfl)
theorem dL_law_265 : decode cL_law 265 = .ok (.aload_n 0, 1) := dk_42 (dk_at dksL_law_3 1 rfl rfl)
theorem dL_law_266 : decode cL_law 266 = .ok (.iload 5, 2) := dk_21 5 (dk_at dksL_law_3 2 rfl rfl)
theorem dL_law_268 : decode cL_law 268 = .ok (.iconst 1, 1) := dk_4 (dk_at dksL_law_3 4 rfl rfl)
theorem dL_law_269 : decode cL_law 269 = .ok (.iadd, 1) := dk_96 (dk_at dksL_law_3 5 rfl rfl)
theorem dL_law_270 : decode cL_law 270 = .ok (.iaload, 1) := dk_46 (dk_at dksL_law_3 6 rfl rfl)
theorem dL_law_271 : decode cL_law 271 = .ok (.aload_n 0, 1) := dk_42 (dk_at dksL_law_3 7 rfl rfl)
theorem dL_law_272 : decode cL_law 272 = .ok (.iload 5, 2) := dk_21 5 (dk_at dksL_law_3 8 rfl rfl)
theorem dL_law_274 : decode cL_law 274 = .ok (.iconst 2, 1) := dk_5 (dk_at dksL_law_3 10 rfl rfl)
theorem dL_law_275 : decode cL_law 275 = .ok (.iadd, 1) := dk_96 (dk_at dksL_law_3 11 rfl rfl)
theorem dL_law_276 : decode cL_law 276 = .ok (.iaload, 1) := dk_46 (dk_at dksL_law_3 12 rfl rfl)
theorem dL_law_277 : decode cL_law 277 = .ok (.aload_n 0, 1) := dk_42 (dk_at dksL_law_3 13 rfl rfl)
theorem dL_law_278 : decode cL_law 278 = .ok (.iload 5, 2) := dk_21 5 (dk_at dksL_law_3 14 rfl rfl)
theorem dL_law_280 : decode cL_law 280 = .ok (.iconst 3, 1) := dk_6 (dk_at dksL_law_3 16 rfl rfl)
theorem dL_law_281 : decode cL_law 281 = .ok (.iadd, 1) := dk_96 (dk_at dksL_law_3 17 rfl rfl)
theorem dL_law_282 : decode cL_law 282 = .ok (.iaload, 1) := dk_46 (dk_at dksL_law_3 18 rfl rfl)
theorem dL_law_283 : decode cL_law 283 = .ok (.aload_n 0, 1) := dk_42 (dk_at dksL_law_3 19 rfl rfl)
theorem dL_law_284 : decode cL_law 284 = .ok (.iload 5, 2) := dk_21 5 (dk_at dksL_law_3 20 rfl rfl)
theorem dL_law_286 : decode cL_law 286 = .ok (.iconst 4, 1) := dk_7 (dk_at dksL_law_3 22 rfl rfl)
theorem dL_law_287 : decode cL_law 287 = .ok (.iadd, 1) := dk_96 (dk_at dksL_law_3 23 rfl rfl)
theorem dL_law_288 : decode cL_law 288 = .ok (.iaload, 1) := dk_46 (dk_at dksL_law_4 0 rfl rfl)
theorem dL_law_289 : decode cL_law 289 = .ok (.aload_n 0, 1) := dk_42 (dk_at dksL_law_4 1 rfl rfl)
theorem dL_law_290 : decode cL_law 290 = .ok (.iload 5, 2) := dk_21 5 (dk_at dksL_law_4 2 rfl rfl)
theorem dL_law_292 : decode cL_law 292 = .ok (.iconst 5, 1) := dk_8 (dk_at dksL_law_4 4 rfl rfl)
theorem dL_law_293 : decode cL_law 293 = .ok (.iadd, 1) := dk_96 (dk_at dksL_law_4 5 rfl rfl)
theorem dL_law_294 : decode cL_law 294 = .ok (.iaload, 1) := dk_46 (dk_at dksL_law_4 6 rfl rfl)
theorem dL_law_295 : decode cL_law 295 = .ok (.aload_n 3, 1) := dk_45 (dk_at dksL_law_4 7 rfl rfl)
theorem dL_law_296 : decode cL_law 296 = .ok (.invokestatic 167, 3) := dk_184 0 167 (dk_at dksL_law_4 8 rfl rfl)
theorem dL_law_299 : decode cL_law 299 = .ok (.istore 6, 2) := dk_54 6 (dk_at dksL_law_4 11 rfl rfl)
theorem dL_law_301 : decode cL_law 301 = .ok (.aload_n 2, 1) := dk_44 (dk_at dksL_law_4 13 rfl rfl)
theorem dL_law_302 : decode cL_law 302 = .ok (.aload_n 0, 1) := dk_42 (dk_at dksL_law_4 14 rfl rfl)
theorem dL_law_303 : decode cL_law 303 = .ok (.iload 5, 2) := dk_21 5 (dk_at dksL_law_4 15 rfl rfl)
theorem dL_law_305 : decode cL_law 305 = .ok (.iconst 1, 1) := dk_4 (dk_at dksL_law_4 17 rfl rfl)
theorem dL_law_306 : decode cL_law 306 = .ok (.iadd, 1) := dk_96 (dk_at dksL_law_4 18 rfl rfl)
theorem dL_law_307 : decode cL_law 307 = .ok (.iaload, 1) := dk_46 (dk_at dksL_law_4 19 rfl rfl)
theorem dL_law_308 : decode cL_law 308 = .ok (.aload_n 0, 1) := dk_42 (dk_at dksL_law_4 20 rfl rfl)
theorem dL_law_309 : decode cL_law 309 = .ok (.iload 5, 2) := dk_21 5 (dk_at dksL_law_4 21 rfl rfl)
theorem dL_law_311 : decode cL_law 311 = .ok (.iconst 2, 1) := dk_5 (dk_at dksL_law_4 23 rfl rfl)
theorem dL_law_312 : decode cL_law 312 = .ok (.iadd, 1) := dk_96 (dk_at dksL_law_5 0 rfl rfl)
theorem dL_law_313 : decode cL_law 313 = .ok (.iaload, 1) := dk_46 (dk_at dksL_law_5 1 rfl rfl)
theorem dL_law_314 : decode cL_law 314 = .ok (.aload_n 0, 1) := dk_42 (dk_at dksL_law_5 2 rfl rfl)
theorem dL_law_315 : decode cL_law 315 = .ok (.iload 5, 2) := dk_21 5 (dk_at dksL_law_5 3 rfl rfl)
theorem dL_law_317 : decode cL_law 317 = .ok (.iconst 3, 1) := dk_6 (dk_at dksL_law_5 5 rfl rfl)
theorem dL_law_318 : decode cL_law 318 = .ok (.iadd, 1) := dk_96 (dk_at dksL_law_5 6 rfl rfl)
theorem dL_law_319 : decode cL_law 319 = .ok (.iaload, 1) := dk_46 (dk_at dksL_law_5 7 rfl rfl)
theorem dL_law_320 : decode cL_law 320 = .ok (.aload_n 0, 1) := dk_42 (dk_at dksL_law_5 8 rfl rfl)
theorem dL_law_321 : decode cL_law 321 = .ok (.iload 5, 2) := dk_21 5 (dk_at dksL_law_5 9 rfl rfl)
theorem dL_law_323 : decode cL_law 323 = .ok (.iconst 4, 1) := dk_7 (dk_at dksL_law_5 11 rfl rfl)
theorem dL_law_324 : decode cL_law 324 = .ok (.iadd, 1) := dk_96 (dk_at dksL_law_5 12 rfl rfl)
theorem dL_law_325 : decode cL_law 325 = .ok (.iaload, 1) := dk_46 (dk_at dksL_law_5 13 rfl rfl)
theorem dL_law_326 : decode cL_law 326 = .ok (.aload_n 0, 1) := dk_42 (dk_at dksL_law_5 14 rfl rfl)
theorem dL_law_327 : decode cL_law 327 = .ok (.iload 5, 2) := dk_21 5 (dk_at dksL_law_5 15 rfl rfl)
theorem dL_law_329 : decode cL_law 329 = .ok (.iconst 5, 1) := dk_8 (dk_at dksL_law_5 17 rfl rfl)
theorem dL_law_330 : decode cL_law 330 = .ok (.iadd, 1) := dk_96 (dk_at dksL_law_5 18 rfl rfl)
theorem dL_law_331 : decode cL_law 331 = .ok (.iaload, 1) := dk_46 (dk_at dksL_law_5 19 rfl rfl)
theorem dL_law_332 : decode cL_law 332 = .ok (.invokevirtual 172, 3) := dk_182 0 172 (dk_at dksL_law_5 20 rfl rfl)
theorem dL_law_335 : decode cL_law 335 = .ok (.istore 7, 2) := dk_54 7 (dk_at dksL_law_6 0 rfl rfl)
theorem dL_law_337 : decode cL_law 337 = .ok (.aload_n 2, 1) := dk_44 (dk_at dksL_law_6 2 rfl rfl)
theorem dL_law_338 : decode cL_law 338 = .ok (.invokevirtual 173, 3) := dk_182 0 173 (dk_at dksL_law_6 3 rfl rfl)
theorem dL_law_341 : decode cL_law 341 = .ok (.iload 6, 2) := dk_21 6 (dk_at dksL_law_6 6 rfl rfl)
theorem dL_law_343 : decode cL_law 343 = .ok (.if_icmp .eq 5, 3) := dk_159 0 5 (dk_at dksL_law_6 8 rfl rfl)
theorem dL_law_346 : decode cL_law 346 = .ok (.iconst 0, 1) := dk_3 (dk_at dksL_law_6 11 rfl rfl)
theorem dL_law_347 : decode cL_law 347 = .ok (.ireturn, 1) := dk_172 (dk_at dksL_law_6 12 rfl rfl)
theorem dL_law_348 : decode cL_law 348 = .ok (.iload 6, 2) := dk_21 6 (dk_at dksL_law_6 13 rfl rfl)
theorem dL_law_350 : decode cL_law 350 = .ok (.ifCond .ne 15, 3) := dk_154 0 15 (dk_at dksL_law_6 15 rfl rfl)
theorem dL_law_353 : decode cL_law 353 = .ok (.aload_n 3, 1) := dk_45 (dk_at dksL_law_6 18 rfl rfl)
theorem dL_law_354 : decode cL_law 354 = .ok (.iconst 0, 1) := dk_3 (dk_at dksL_law_6 19 rfl rfl)
theorem dL_law_355 : decode cL_law 355 = .ok (.laload, 1) := dk_47 (dk_at dksL_law_6 20 rfl rfl)
theorem dL_law_356 : decode cL_law 356 = .ok (.iload 7, 2) := dk_21 7 (dk_at dksL_law_6 21 rfl rfl)
theorem dL_law_358 : decode cL_law 358 = .ok (.i2l, 1) := dk_133 (dk_at dksL_law_6 23 rfl rfl)
theorem dL_law_359 : decode cL_law 359 = .ok (.lcmp, 1) := dk_148 (dk_at dksL_law_7 0 rfl rfl)
theorem dL_law_360 : decode cL_law 360 = .ok (.ifCond .eq 5, 3) := dk_153 0 5 (dk_at dksL_law_7 1 rfl rfl)
theorem dL_law_363 : decode cL_law 363 = .ok (.iconst 0, 1) := dk_3 (dk_at dksL_law_7 4 rfl rfl)
theorem dL_law_364 : decode cL_law 364 = .ok (.ireturn, 1) := dk_172 (dk_at dksL_law_7 5 rfl rfl)
theorem dL_law_365 : decode cL_law 365 = .ok (.goto 3012, 3) := dk_167 11 196 (dk_at dksL_law_7 6 rfl rfl)
theorem dL_law_368 : decode cL_law 368 = .ok (.aload_n 1, 1) := dk_43 (dk_at dksL_law_7 9 rfl rfl)
theorem dL_law_369 : decode cL_law 369 = .ok (.aload_n 0, 1) := dk_42 (dk_at dksL_law_7 10 rfl rfl)
theorem dL_law_370 : decode cL_law 370 = .ok (.iload 5, 2) := dk_21 5 (dk_at dksL_law_7 11 rfl rfl)
theorem dL_law_372 : decode cL_law 372 = .ok (.iconst 1, 1) := dk_4 (dk_at dksL_law_7 13 rfl rfl)
theorem dL_law_373 : decode cL_law 373 = .ok (.iadd, 1) := dk_96 (dk_at dksL_law_7 14 rfl rfl)
theorem dL_law_374 : decode cL_law 374 = .ok (.iaload, 1) := dk_46 (dk_at dksL_law_7 15 rfl rfl)
theorem dL_law_375 : decode cL_law 375 = .ok (.aload_n 3, 1) := dk_45 (dk_at dksL_law_7 16 rfl rfl)
theorem dL_law_376 : decode cL_law 376 = .ok (.invokestatic 176, 3) := dk_184 0 176 (dk_at dksL_law_7 17 rfl rfl)
theorem dL_law_379 : decode cL_law 379 = .ok (.istore 6, 2) := dk_54 6 (dk_at dksL_law_7 20 rfl rfl)
theorem dL_law_381 : decode cL_law 381 = .ok (.aload_n 2, 1) := dk_44 (dk_at dksL_law_7 22 rfl rfl)
theorem dL_law_382 : decode cL_law 382 = .ok (.aload_n 0, 1) := dk_42 (dk_at dksL_law_7 23 rfl rfl)
theorem dL_law_383 : decode cL_law 383 = .ok (.iload 5, 2) := dk_21 5 (dk_at dksL_law_8 0 rfl rfl)
theorem dL_law_385 : decode cL_law 385 = .ok (.iconst 1, 1) := dk_4 (dk_at dksL_law_8 2 rfl rfl)
theorem dL_law_386 : decode cL_law 386 = .ok (.iadd, 1) := dk_96 (dk_at dksL_law_8 3 rfl rfl)
theorem dL_law_387 : decode cL_law 387 = .ok (.iaload, 1) := dk_46 (dk_at dksL_law_8 4 rfl rfl)
theorem dL_law_388 : decode cL_law 388 = .ok (.invokevirtual 179, 3) := dk_182 0 179 (dk_at dksL_law_8 5 rfl rfl)
theorem dL_law_391 : decode cL_law 391 = .ok (.istore 7, 2) := dk_54 7 (dk_at dksL_law_8 8 rfl rfl)
theorem dL_law_393 : decode cL_law 393 = .ok (.aload_n 2, 1) := dk_44 (dk_at dksL_law_8 10 rfl rfl)
theorem dL_law_394 : decode cL_law 394 = .ok (.invokevirtual 173, 3) := dk_182 0 173 (dk_at dksL_law_8 11 rfl rfl)
theorem dL_law_397 : decode cL_law 397 = .ok (.iload 6, 2) := dk_21 6 (dk_at dksL_law_8 14 rfl rfl)
theorem dL_law_399 : decode cL_law 399 = .ok (.if_icmp .eq 5, 3) := dk_159 0 5 (dk_at dksL_law_8 16 rfl rfl)
theorem dL_law_402 : decode cL_law 402 = .ok (.iconst 0, 1) := dk_3 (dk_at dksL_law_8 19 rfl rfl)
theorem dL_law_403 : decode cL_law 403 = .ok (.ireturn, 1) := dk_172 (dk_at dksL_law_8 20 rfl rfl)
theorem dL_law_404 : decode cL_law 404 = .ok (.iload 6, 2) := dk_21 6 (dk_at dksL_law_8 21 rfl rfl)
theorem dL_law_406 : decode cL_law 406 = .ok (.ifCond .ne 15, 3) := dk_154 0 15 (dk_at dksL_law_9 0 rfl rfl)
theorem dL_law_409 : decode cL_law 409 = .ok (.aload_n 3, 1) := dk_45 (dk_at dksL_law_9 3 rfl rfl)
theorem dL_law_410 : decode cL_law 410 = .ok (.iconst 0, 1) := dk_3 (dk_at dksL_law_9 4 rfl rfl)
theorem dL_law_411 : decode cL_law 411 = .ok (.laload, 1) := dk_47 (dk_at dksL_law_9 5 rfl rfl)
theorem dL_law_412 : decode cL_law 412 = .ok (.iload 7, 2) := dk_21 7 (dk_at dksL_law_9 6 rfl rfl)
theorem dL_law_414 : decode cL_law 414 = .ok (.i2l, 1) := dk_133 (dk_at dksL_law_9 8 rfl rfl)
theorem dL_law_415 : decode cL_law 415 = .ok (.lcmp, 1) := dk_148 (dk_at dksL_law_9 9 rfl rfl)
theorem dL_law_416 : decode cL_law 416 = .ok (.ifCond .eq 5, 3) := dk_153 0 5 (dk_at dksL_law_9 10 rfl rfl)
theorem dL_law_419 : decode cL_law 419 = .ok (.iconst 0, 1) := dk_3 (dk_at dksL_law_9 13 rfl rfl)
theorem dL_law_420 : decode cL_law 420 = .ok (.ireturn, 1) := dk_172 (dk_at dksL_law_9 14 rfl rfl)
theorem dL_law_421 : decode cL_law 421 = .ok (.goto 2956, 3) := dk_167 11 140 (dk_at dksL_law_9 15 rfl rfl)
theorem dL_law_424 : decode cL_law 424 = .ok (.aload_n 1, 1) := dk_43 (dk_at dksL_law_9 18 rfl rfl)
theorem dL_law_425 : decode cL_law 425 = .ok (.aload_n 3, 1) := dk_45 (dk_at dksL_law_9 19 rfl rfl)
theorem dL_law_426 : decode cL_law 426 = .ok (.invokestatic 180, 3) := dk_184 0 180 (dk_at dksL_law_9 20 rfl rfl)
theorem dL_law_429 : decode cL_law 429 = .ok (.istore 6, 2) := dk_54 6 (dk_at dksL_law_10 0 rfl rfl)
theorem dL_law_431 : decode cL_law 431 = .ok (.aload_n 2, 1) := dk_44 (dk_at dksL_law_10 2 rfl rfl)
theorem dL_law_432 : decode cL_law 432 = .ok (.invokevirtual 183, 3) := dk_182 0 183 (dk_at dksL_law_10 3 rfl rfl)
theorem dL_law_435 : decode cL_law 435 = .ok (.istore 7, 2) := dk_54 7 (dk_at dksL_law_10 6 rfl rfl)
theorem dL_law_437 : decode cL_law 437 = .ok (.aload_n 2, 1) := dk_44 (dk_at dksL_law_10 8 rfl rfl)
theorem dL_law_438 : decode cL_law 438 = .ok (.invokevirtual 173, 3) := dk_182 0 173 (dk_at dksL_law_10 9 rfl rfl)
theorem dL_law_441 : decode cL_law 441 = .ok (.iload 6, 2) := dk_21 6 (dk_at dksL_law_10 12 rfl rfl)
theorem dL_law_443 : decode cL_law 443 = .ok (.if_icmp .eq 5, 3) := dk_159 0 5 (dk_at dksL_law_10 14 rfl rfl)
theorem dL_law_446 : decode cL_law 446 = .ok (.iconst 0, 1) := dk_3 (dk_at dksL_law_10 17 rfl rfl)
theorem dL_law_447 : decode cL_law 447 = .ok (.ireturn, 1) := dk_172 (dk_at dksL_law_10 18 rfl rfl)
theorem dL_law_448 : decode cL_law 448 = .ok (.iload 6, 2) := dk_21 6 (dk_at dksL_law_10 19 rfl rfl)
theorem dL_law_450 : decode cL_law 450 = .ok (.ifCond .ne 15, 3) := dk_154 0 15 (dk_at dksL_law_10 21 rfl rfl)
theorem dL_law_453 : decode cL_law 453 = .ok (.aload_n 3, 1) := dk_45 (dk_at dksL_law_11 0 rfl rfl)
theorem dL_law_454 : decode cL_law 454 = .ok (.iconst 0, 1) := dk_3 (dk_at dksL_law_11 1 rfl rfl)
theorem dL_law_455 : decode cL_law 455 = .ok (.laload, 1) := dk_47 (dk_at dksL_law_11 2 rfl rfl)
theorem dL_law_456 : decode cL_law 456 = .ok (.iload 7, 2) := dk_21 7 (dk_at dksL_law_11 3 rfl rfl)
theorem dL_law_458 : decode cL_law 458 = .ok (.i2l, 1) := dk_133 (dk_at dksL_law_11 5 rfl rfl)
theorem dL_law_459 : decode cL_law 459 = .ok (.lcmp, 1) := dk_148 (dk_at dksL_law_11 6 rfl rfl)
theorem dL_law_460 : decode cL_law 460 = .ok (.ifCond .eq 5, 3) := dk_153 0 5 (dk_at dksL_law_11 7 rfl rfl)
theorem dL_law_463 : decode cL_law 463 = .ok (.iconst 0, 1) := dk_3 (dk_at dksL_law_11 10 rfl rfl)
theorem dL_law_464 : decode cL_law 464 = .ok (.ireturn, 1) := dk_172 (dk_at dksL_law_11 11 rfl rfl)
theorem dL_law_465 : decode cL_law 465 = .ok (.goto 2912, 3) := dk_167 11 96 (dk_at dksL_law_11 12 rfl rfl)
theorem dL_law_468 : decode cL_law 468 = .ok (.aload_n 1, 1) := dk_43 (dk_at dksL_law_11 15 rfl rfl)
theorem dL_law_469 : decode cL_law 469 = .ok (.aload_n 3, 1) := dk_45 (dk_at dksL_law_11 16 rfl rfl)
theorem dL_law_470 : decode cL_law 470 = .ok (.invokestatic 184, 3) := dk_184 0 184 (dk_at dksL_law_11 17 rfl rfl)
theorem dL_law_473 : decode cL_law 473 = .ok (.istore 6, 2) := dk_54 6 (dk_at dksL_law_11 20 rfl rfl)
theorem dL_law_475 : decode cL_law 475 = .ok (.aload_n 2, 1) := dk_44 (dk_at dksL_law_11 22 rfl rfl)
theorem dL_law_476 : decode cL_law 476 = .ok (.invokevirtual 186, 3) := dk_182 0 186 (dk_at dksL_law_12 0 rfl rfl)
theorem dL_law_479 : decode cL_law 479 = .ok (.istore 7, 2) := dk_54 7 (dk_at dksL_law_12 3 rfl rfl)
theorem dL_law_481 : decode cL_law 481 = .ok (.aload_n 2, 1) := dk_44 (dk_at dksL_law_12 5 rfl rfl)
theorem dL_law_482 : decode cL_law 482 = .ok (.invokevirtual 173, 3) := dk_182 0 173 (dk_at dksL_law_12 6 rfl rfl)
theorem dL_law_485 : decode cL_law 485 = .ok (.iload 6, 2) := dk_21 6 (dk_at dksL_law_12 9 rfl rfl)
theorem dL_law_487 : decode cL_law 487 = .ok (.if_icmp .eq 5, 3) := dk_159 0 5 (dk_at dksL_law_12 11 rfl rfl)
theorem dL_law_490 : decode cL_law 490 = .ok (.iconst 0, 1) := dk_3 (dk_at dksL_law_12 14 rfl rfl)
theorem dL_law_491 : decode cL_law 491 = .ok (.ireturn, 1) := dk_172 (dk_at dksL_law_12 15 rfl rfl)
theorem dL_law_492 : decode cL_law 492 = .ok (.iload 6, 2) := dk_21 6 (dk_at dksL_law_12 16 rfl rfl)
theorem dL_law_494 : decode cL_law 494 = .ok (.ifCond .ne 15, 3) := dk_154 0 15 (dk_at dksL_law_12 18 rfl rfl)
theorem dL_law_497 : decode cL_law 497 = .ok (.aload_n 3, 1) := dk_45 (dk_at dksL_law_12 21 rfl rfl)
theorem dL_law_498 : decode cL_law 498 = .ok (.iconst 0, 1) := dk_3 (dk_at dksL_law_12 22 rfl rfl)
theorem dL_law_499 : decode cL_law 499 = .ok (.laload, 1) := dk_47 (dk_at dksL_law_12 23 rfl rfl)
theorem dL_law_500 : decode cL_law 500 = .ok (.iload 7, 2) := dk_21 7 (dk_at dksL_law_13 0 rfl rfl)
theorem dL_law_502 : decode cL_law 502 = .ok (.i2l, 1) := dk_133 (dk_at dksL_law_13 2 rfl rfl)
theorem dL_law_503 : decode cL_law 503 = .ok (.lcmp, 1) := dk_148 (dk_at dksL_law_13 3 rfl rfl)
theorem dL_law_504 : decode cL_law 504 = .ok (.ifCond .eq 5, 3) := dk_153 0 5 (dk_at dksL_law_13 4 rfl rfl)
theorem dL_law_507 : decode cL_law 507 = .ok (.iconst 0, 1) := dk_3 (dk_at dksL_law_13 7 rfl rfl)
theorem dL_law_508 : decode cL_law 508 = .ok (.ireturn, 1) := dk_172 (dk_at dksL_law_13 8 rfl rfl)
theorem dL_law_509 : decode cL_law 509 = .ok (.goto 2868, 3) := dk_167 11 52 (dk_at dksL_law_13 9 rfl rfl)
theorem dL_law_512 : decode cL_law 512 = .ok (.aload_n 1, 1) := dk_43 (dk_at dksL_law_13 12 rfl rfl)
theorem dL_law_513 : decode cL_law 513 = .ok (.invokevirtual 187, 3) := dk_182 0 187 (dk_at dksL_law_13 13 rfl rfl)
theorem dL_law_516 : decode cL_law 516 = .ok (.aload_n 2, 1) := dk_44 (dk_at dksL_law_13 16 rfl rfl)
theorem dL_law_517 : decode cL_law 517 = .ok (.invokevirtual 190, 3) := dk_182 0 190 (dk_at dksL_law_13 17 rfl rfl)
theorem dL_law_520 : decode cL_law 520 = .ok (.if_icmp .eq 2857, 3) := dk_159 11 41 (dk_at dksL_law_13 20 rfl rfl)
theorem dL_law_523 : decode cL_law 523 = .ok (.iconst 0, 1) := dk_3 (dk_at dksL_law_13 23 rfl rfl)
theorem dL_law_524 : decode cL_law 524 = .ok (.ireturn, 1) := dk_172 (dk_at dksL_law_14 0 rfl rfl)
theorem dL_law_525 : decode cL_law 525 = .ok (.aload_n 1, 1) := dk_43 (dk_at dksL_law_14 1 rfl rfl)
theorem dL_law_526 : decode cL_law 526 = .ok (.invokevirtual 191, 3) := dk_182 0 191 (dk_at dksL_law_14 2 rfl rfl)
theorem dL_law_529 : decode cL_law 529 = .ok (.aload_n 2, 1) := dk_44 (dk_at dksL_law_14 5 rfl rfl)
theorem dL_law_530 : decode cL_law 530 = .ok (.invokevirtual 194, 3) := dk_182 0 194 (dk_at dksL_law_14 6 rfl rfl)
theorem dL_law_533 : decode cL_law 533 = .ok (.if_icmp .eq 2844, 3) := dk_159 11 28 (dk_at dksL_law_14 9 rfl rfl)
theorem dL_law_536 : decode cL_law 536 = .ok (.iconst 0, 1) := dk_3 (dk_at dksL_law_14 12 rfl rfl)
theorem dL_law_537 : decode cL_law 537 = .ok (.ireturn, 1) := dk_172 (dk_at dksL_law_14 13 rfl rfl)
theorem dL_law_538 : decode cL_law 538 = .ok (.aload_n 1, 1) := dk_43 (dk_at dksL_law_14 14 rfl rfl)
theorem dL_law_539 : decode cL_law 539 = .ok (.aload_n 0, 1) := dk_42 (dk_at dksL_law_14 15 rfl rfl)
theorem dL_law_540 : decode cL_law 540 = .ok (.iload 5, 2) := dk_21 5 (dk_at dksL_law_14 16 rfl rfl)
theorem dL_law_542 : decode cL_law 542 = .ok (.iconst 1, 1) := dk_4 (dk_at dksL_law_14 18 rfl rfl)
theorem dL_law_543 : decode cL_law 543 = .ok (.iadd, 1) := dk_96 (dk_at dksL_law_14 19 rfl rfl)
theorem dL_law_544 : decode cL_law 544 = .ok (.iaload, 1) := dk_46 (dk_at dksL_law_14 20 rfl rfl)
theorem dL_law_545 : decode cL_law 545 = .ok (.aload_n 3, 1) := dk_45 (dk_at dksL_law_14 21 rfl rfl)
theorem dL_law_546 : decode cL_law 546 = .ok (.invokestatic 195, 3) := dk_184 0 195 (dk_at dksL_law_15 0 rfl rfl)
theorem dL_law_549 : decode cL_law 549 = .ok (.istore 6, 2) := dk_54 6 (dk_at dksL_law_15 3 rfl rfl)
theorem dL_law_551 : decode cL_law 551 = .ok (.aload_n 2, 1) := dk_44 (dk_at dksL_law_15 5 rfl rfl)
theorem dL_law_552 : decode cL_law 552 = .ok (.aload_n 0, 1) := dk_42 (dk_at dksL_law_15 6 rfl rfl)
theorem dL_law_553 : decode cL_law 553 = .ok (.iload 5, 2) := dk_21 5 (dk_at dksL_law_15 7 rfl rfl)
theorem dL_law_555 : decode cL_law 555 = .ok (.iconst 1, 1) := dk_4 (dk_at dksL_law_15 9 rfl rfl)
theorem dL_law_556 : decode cL_law 556 = .ok (.iadd, 1) := dk_96 (dk_at dksL_law_15 10 rfl rfl)
theorem dL_law_557 : decode cL_law 557 = .ok (.iaload, 1) := dk_46 (dk_at dksL_law_15 11 rfl rfl)
theorem dL_law_558 : decode cL_law 558 = .ok (.invokevirtual 197, 3) := dk_182 0 197 (dk_at dksL_law_15 12 rfl rfl)
theorem dL_law_561 : decode cL_law 561 = .ok (.istore 7, 2) := dk_54 7 (dk_at dksL_law_15 15 rfl rfl)
theorem dL_law_563 : decode cL_law 563 = .ok (.aload_n 2, 1) := dk_44 (dk_at dksL_law_15 17 rfl rfl)
theorem dL_law_564 : decode cL_law 564 = .ok (.invokevirtual 173, 3) := dk_182 0 173 (dk_at dksL_law_15 18 rfl rfl)
theorem dL_law_567 : decode cL_law 567 = .ok (.iload 6, 2) := dk_21 6 (dk_at dksL_law_15 21 rfl rfl)
theorem dL_law_569 : decode cL_law 569 = .ok (.if_icmp .eq 5, 3) := dk_159 0 5 (dk_at dksL_law_16 0 rfl rfl)
theorem dL_law_572 : decode cL_law 572 = .ok (.iconst 0, 1) := dk_3 (dk_at dksL_law_16 3 rfl rfl)
theorem dL_law_573 : decode cL_law 573 = .ok (.ireturn, 1) := dk_172 (dk_at dksL_law_16 4 rfl rfl)
theorem dL_law_574 : decode cL_law 574 = .ok (.iload 6, 2) := dk_21 6 (dk_at dksL_law_16 5 rfl rfl)
theorem dL_law_576 : decode cL_law 576 = .ok (.ifCond .ne 15, 3) := dk_154 0 15 (dk_at dksL_law_16 7 rfl rfl)
theorem dL_law_579 : decode cL_law 579 = .ok (.aload_n 3, 1) := dk_45 (dk_at dksL_law_16 10 rfl rfl)
theorem dL_law_580 : decode cL_law 580 = .ok (.iconst 0, 1) := dk_3 (dk_at dksL_law_16 11 rfl rfl)
theorem dL_law_581 : decode cL_law 581 = .ok (.laload, 1) := dk_47 (dk_at dksL_law_16 12 rfl rfl)
theorem dL_law_582 : decode cL_law 582 = .ok (.iload 7, 2) := dk_21 7 (dk_at dksL_law_16 13 rfl rfl)
theorem dL_law_584 : decode cL_law 584 = .ok (.i2l, 1) := dk_133 (dk_at dksL_law_16 15 rfl rfl)
theorem dL_law_585 : decode cL_law 585 = .ok (.lcmp, 1) := dk_148 (dk_at dksL_law_16 16 rfl rfl)
theorem dL_law_586 : decode cL_law 586 = .ok (.ifCond .eq 5, 3) := dk_153 0 5 (dk_at dksL_law_16 17 rfl rfl)
theorem dL_law_589 : decode cL_law 589 = .ok (.iconst 0, 1) := dk_3 (dk_at dksL_law_16 20 rfl rfl)
theorem dL_law_590 : decode cL_law 590 = .ok (.ireturn, 1) := dk_172 (dk_at dksL_law_16 21 rfl rfl)
theorem dL_law_591 : decode cL_law 591 = .ok (.goto 2786, 3) := dk_167 10 226 (dk_at dksL_law_17 0 rfl rfl)
theorem dL_law_594 : decode cL_law 594 = .ok (.aload_n 1, 1) := dk_43 (dk_at dksL_law_17 3 rfl rfl)
theorem dL_law_595 : decode cL_law 595 = .ok (.aload_n 0, 1) := dk_42 (dk_at dksL_law_17 4 rfl rfl)
theorem dL_law_596 : decode cL_law 596 = .ok (.iload 5, 2) := dk_21 5 (dk_at dksL_law_17 5 rfl rfl)
theorem dL_law_598 : decode cL_law 598 = .ok (.iconst 1, 1) := dk_4 (dk_at dksL_law_17 7 rfl rfl)
theorem dL_law_599 : decode cL_law 599 = .ok (.iadd, 1) := dk_96 (dk_at dksL_law_17 8 rfl rfl)
theorem dL_law_600 : decode cL_law 600 = .ok (.iaload, 1) := dk_46 (dk_at dksL_law_17 9 rfl rfl)
theorem dL_law_601 : decode cL_law 601 = .ok (.aload_n 3, 1) := dk_45 (dk_at dksL_law_17 10 rfl rfl)
theorem dL_law_602 : decode cL_law 602 = .ok (.invokestatic 198, 3) := dk_184 0 198 (dk_at dksL_law_17 11 rfl rfl)
theorem dL_law_605 : decode cL_law 605 = .ok (.istore 6, 2) := dk_54 6 (dk_at dksL_law_17 14 rfl rfl)
theorem dL_law_607 : decode cL_law 607 = .ok (.aload_n 2, 1) := dk_44 (dk_at dksL_law_17 16 rfl rfl)
theorem dL_law_608 : decode cL_law 608 = .ok (.aload_n 0, 1) := dk_42 (dk_at dksL_law_17 17 rfl rfl)
theorem dL_law_609 : decode cL_law 609 = .ok (.iload 5, 2) := dk_21 5 (dk_at dksL_law_17 18 rfl rfl)
theorem dL_law_611 : decode cL_law 611 = .ok (.iconst 1, 1) := dk_4 (dk_at dksL_law_17 20 rfl rfl)
theorem dL_law_612 : decode cL_law 612 = .ok (.iadd, 1) := dk_96 (dk_at dksL_law_17 21 rfl rfl)
theorem dL_law_613 : decode cL_law 613 = .ok (.iaload, 1) := dk_46 (dk_at dksL_law_17 22 rfl rfl)
theorem dL_law_614 : decode cL_law 614 = .ok (.invokevirtual 200, 3) := dk_182 0 200 (dk_at dksL_law_18 0 rfl rfl)
theorem dL_law_617 : decode cL_law 617 = .ok (.istore 7, 2) := dk_54 7 (dk_at dksL_law_18 3 rfl rfl)
theorem dL_law_619 : decode cL_law 619 = .ok (.aload_n 2, 1) := dk_44 (dk_at dksL_law_18 5 rfl rfl)
theorem dL_law_620 : decode cL_law 620 = .ok (.invokevirtual 173, 3) := dk_182 0 173 (dk_at dksL_law_18 6 rfl rfl)
theorem dL_law_623 : decode cL_law 623 = .ok (.iload 6, 2) := dk_21 6 (dk_at dksL_law_18 9 rfl rfl)
theorem dL_law_625 : decode cL_law 625 = .ok (.if_icmp .eq 5, 3) := dk_159 0 5 (dk_at dksL_law_18 11 rfl rfl)
theorem dL_law_628 : decode cL_law 628 = .ok (.iconst 0, 1) := dk_3 (dk_at dksL_law_18 14 rfl rfl)
theorem dL_law_629 : decode cL_law 629 = .ok (.ireturn, 1) := dk_172 (dk_at dksL_law_18 15 rfl rfl)
theorem dL_law_630 : decode cL_law 630 = .ok (.iload 6, 2) := dk_21 6 (dk_at dksL_law_18 16 rfl rfl)
theorem dL_law_632 : decode cL_law 632 = .ok (.ifCond .ne 15, 3) := dk_154 0 15 (dk_at dksL_law_18 18 rfl rfl)
theorem dL_law_635 : decode cL_law 635 = .ok (.aload_n 3, 1) := dk_45 (dk_at dksL_law_18 21 rfl rfl)
theorem dL_law_636 : decode cL_law 636 = .ok (.iconst 0, 1) := dk_3 (dk_at dksL_law_18 22 rfl rfl)
theorem dL_law_637 : decode cL_law 637 = .ok (.laload, 1) := dk_47 (dk_at dksL_law_18 23 rfl rfl)
theorem dL_law_638 : decode cL_law 638 = .ok (.iload 7, 2) := dk_21 7 (dk_at dksL_law_19 0 rfl rfl)
theorem dL_law_640 : decode cL_law 640 = .ok (.i2l, 1) := dk_133 (dk_at dksL_law_19 2 rfl rfl)
theorem dL_law_641 : decode cL_law 641 = .ok (.lcmp, 1) := dk_148 (dk_at dksL_law_19 3 rfl rfl)
theorem dL_law_642 : decode cL_law 642 = .ok (.ifCond .eq 5, 3) := dk_153 0 5 (dk_at dksL_law_19 4 rfl rfl)
theorem dL_law_645 : decode cL_law 645 = .ok (.iconst 0, 1) := dk_3 (dk_at dksL_law_19 7 rfl rfl)
theorem dL_law_646 : decode cL_law 646 = .ok (.ireturn, 1) := dk_172 (dk_at dksL_law_19 8 rfl rfl)
theorem dL_law_647 : decode cL_law 647 = .ok (.goto 2730, 3) := dk_167 10 170 (dk_at dksL_law_19 9 rfl rfl)
theorem dL_law_650 : decode cL_law 650 = .ok (.aload_n 1, 1) := dk_43 (dk_at dksL_law_19 12 rfl rfl)
theorem dL_law_651 : decode cL_law 651 = .ok (.aload_n 0, 1) := dk_42 (dk_at dksL_law_19 13 rfl rfl)
theorem dL_law_652 : decode cL_law 652 = .ok (.iload 5, 2) := dk_21 5 (dk_at dksL_law_19 14 rfl rfl)
theorem dL_law_654 : decode cL_law 654 = .ok (.iconst 1, 1) := dk_4 (dk_at dksL_law_19 16 rfl rfl)
theorem dL_law_655 : decode cL_law 655 = .ok (.iadd, 1) := dk_96 (dk_at dksL_law_19 17 rfl rfl)
theorem dL_law_656 : decode cL_law 656 = .ok (.iaload, 1) := dk_46 (dk_at dksL_law_19 18 rfl rfl)
theorem dL_law_657 : decode cL_law 657 = .ok (.aload_n 3, 1) := dk_45 (dk_at dksL_law_19 19 rfl rfl)
theorem dL_law_658 : decode cL_law 658 = .ok (.invokestatic 201, 3) := dk_184 0 201 (dk_at dksL_law_19 20 rfl rfl)
theorem dL_law_661 : decode cL_law 661 = .ok (.istore 6, 2) := dk_54 6 (dk_at dksL_law_20 0 rfl rfl)
theorem dL_law_663 : decode cL_law 663 = .ok (.aload_n 2, 1) := dk_44 (dk_at dksL_law_20 2 rfl rfl)
theorem dL_law_664 : decode cL_law 664 = .ok (.aload_n 0, 1) := dk_42 (dk_at dksL_law_20 3 rfl rfl)
theorem dL_law_665 : decode cL_law 665 = .ok (.iload 5, 2) := dk_21 5 (dk_at dksL_law_20 4 rfl rfl)
theorem dL_law_667 : decode cL_law 667 = .ok (.iconst 1, 1) := dk_4 (dk_at dksL_law_20 6 rfl rfl)
theorem dL_law_668 : decode cL_law 668 = .ok (.iadd, 1) := dk_96 (dk_at dksL_law_20 7 rfl rfl)
theorem dL_law_669 : decode cL_law 669 = .ok (.iaload, 1) := dk_46 (dk_at dksL_law_20 8 rfl rfl)
theorem dL_law_670 : decode cL_law 670 = .ok (.invokevirtual 203, 3) := dk_182 0 203 (dk_at dksL_law_20 9 rfl rfl)
theorem dL_law_673 : decode cL_law 673 = .ok (.istore 7, 2) := dk_54 7 (dk_at dksL_law_20 12 rfl rfl)
theorem dL_law_675 : decode cL_law 675 = .ok (.aload_n 2, 1) := dk_44 (dk_at dksL_law_20 14 rfl rfl)
theorem dL_law_676 : decode cL_law 676 = .ok (.invokevirtual 173, 3) := dk_182 0 173 (dk_at dksL_law_20 15 rfl rfl)
theorem dL_law_679 : decode cL_law 679 = .ok (.iload 6, 2) := dk_21 6 (dk_at dksL_law_20 18 rfl rfl)
theorem dL_law_681 : decode cL_law 681 = .ok (.if_icmp .eq 5, 3) := dk_159 0 5 (dk_at dksL_law_20 20 rfl rfl)
theorem dL_law_684 : decode cL_law 684 = .ok (.iconst 0, 1) := dk_3 (dk_at dksL_law_20 23 rfl rfl)
theorem dL_law_685 : decode cL_law 685 = .ok (.ireturn, 1) := dk_172 (dk_at dksL_law_21 0 rfl rfl)
theorem dL_law_686 : decode cL_law 686 = .ok (.iload 6, 2) := dk_21 6 (dk_at dksL_law_21 1 rfl rfl)
theorem dL_law_688 : decode cL_law 688 = .ok (.ifCond .ne 15, 3) := dk_154 0 15 (dk_at dksL_law_21 3 rfl rfl)
theorem dL_law_691 : decode cL_law 691 = .ok (.aload_n 3, 1) := dk_45 (dk_at dksL_law_21 6 rfl rfl)
theorem dL_law_692 : decode cL_law 692 = .ok (.iconst 0, 1) := dk_3 (dk_at dksL_law_21 7 rfl rfl)
theorem dL_law_693 : decode cL_law 693 = .ok (.laload, 1) := dk_47 (dk_at dksL_law_21 8 rfl rfl)
theorem dL_law_694 : decode cL_law 694 = .ok (.iload 7, 2) := dk_21 7 (dk_at dksL_law_21 9 rfl rfl)
theorem dL_law_696 : decode cL_law 696 = .ok (.i2l, 1) := dk_133 (dk_at dksL_law_21 11 rfl rfl)
theorem dL_law_697 : decode cL_law 697 = .ok (.lcmp, 1) := dk_148 (dk_at dksL_law_21 12 rfl rfl)
theorem dL_law_698 : decode cL_law 698 = .ok (.ifCond .eq 5, 3) := dk_153 0 5 (dk_at dksL_law_21 13 rfl rfl)
theorem dL_law_701 : decode cL_law 701 = .ok (.iconst 0, 1) := dk_3 (dk_at dksL_law_21 16 rfl rfl)
theorem dL_law_702 : decode cL_law 702 = .ok (.ireturn, 1) := dk_172 (dk_at dksL_law_21 17 rfl rfl)
theorem dL_law_703 : decode cL_law 703 = .ok (.goto 2674, 3) := dk_167 10 114 (dk_at dksL_law_21 18 rfl rfl)
theorem dL_law_706 : decode cL_law 706 = .ok (.aload_n 1, 1) := dk_43 (dk_at dksL_law_21 21 rfl rfl)
theorem dL_law_707 : decode cL_law 707 = .ok (.aload_n 0, 1) := dk_42 (dk_at dksL_law_21 22 rfl rfl)
theorem dL_law_708 : decode cL_law 708 = .ok (.iload 5, 2) := dk_21 5 (dk_at dksL_law_22 0 rfl rfl)
theorem dL_law_710 : decode cL_law 710 = .ok (.iconst 1, 1) := dk_4 (dk_at dksL_law_22 2 rfl rfl)
theorem dL_law_711 : decode cL_law 711 = .ok (.iadd, 1) := dk_96 (dk_at dksL_law_22 3 rfl rfl)
theorem dL_law_712 : decode cL_law 712 = .ok (.iaload, 1) := dk_46 (dk_at dksL_law_22 4 rfl rfl)
theorem dL_law_713 : decode cL_law 713 = .ok (.aload_n 0, 1) := dk_42 (dk_at dksL_law_22 5 rfl rfl)
theorem dL_law_714 : decode cL_law 714 = .ok (.iload 5, 2) := dk_21 5 (dk_at dksL_law_22 6 rfl rfl)
theorem dL_law_716 : decode cL_law 716 = .ok (.iconst 2, 1) := dk_5 (dk_at dksL_law_22 8 rfl rfl)
theorem dL_law_717 : decode cL_law 717 = .ok (.iadd, 1) := dk_96 (dk_at dksL_law_22 9 rfl rfl)
theorem dL_law_718 : decode cL_law 718 = .ok (.iaload, 1) := dk_46 (dk_at dksL_law_22 10 rfl rfl)
theorem dL_law_719 : decode cL_law 719 = .ok (.aload_n 3, 1) := dk_45 (dk_at dksL_law_22 11 rfl rfl)
theorem dL_law_720 : decode cL_law 720 = .ok (.invokestatic 204, 3) := dk_184 0 204 (dk_at dksL_law_22 12 rfl rfl)
theorem dL_law_723 : decode cL_law 723 = .ok (.istore 6, 2) := dk_54 6 (dk_at dksL_law_22 15 rfl rfl)
theorem dL_law_725 : decode cL_law 725 = .ok (.aload_n 2, 1) := dk_44 (dk_at dksL_law_22 17 rfl rfl)
theorem dL_law_726 : decode cL_law 726 = .ok (.aload_n 0, 1) := dk_42 (dk_at dksL_law_22 18 rfl rfl)
theorem dL_law_727 : decode cL_law 727 = .ok (.iload 5, 2) := dk_21 5 (dk_at dksL_law_22 19 rfl rfl)
theorem dL_law_729 : decode cL_law 729 = .ok (.iconst 1, 1) := dk_4 (dk_at dksL_law_22 21 rfl rfl)
theorem dL_law_730 : decode cL_law 730 = .ok (.iadd, 1) := dk_96 (dk_at dksL_law_22 22 rfl rfl)
theorem dL_law_731 : decode cL_law 731 = .ok (.iaload, 1) := dk_46 (dk_at dksL_law_22 23 rfl rfl)
theorem dL_law_732 : decode cL_law 732 = .ok (.aload_n 0, 1) := dk_42 (dk_at dksL_law_23 0 rfl rfl)
theorem dL_law_733 : decode cL_law 733 = .ok (.iload 5, 2) := dk_21 5 (dk_at dksL_law_23 1 rfl rfl)
theorem dL_law_735 : decode cL_law 735 = .ok (.iconst 2, 1) := dk_5 (dk_at dksL_law_23 3 rfl rfl)
theorem dL_law_736 : decode cL_law 736 = .ok (.iadd, 1) := dk_96 (dk_at dksL_law_23 4 rfl rfl)
theorem dL_law_737 : decode cL_law 737 = .ok (.iaload, 1) := dk_46 (dk_at dksL_law_23 5 rfl rfl)
theorem dL_law_738 : decode cL_law 738 = .ok (.invokevirtual 207, 3) := dk_182 0 207 (dk_at dksL_law_23 6 rfl rfl)
theorem dL_law_741 : decode cL_law 741 = .ok (.istore 7, 2) := dk_54 7 (dk_at dksL_law_23 9 rfl rfl)
theorem dL_law_743 : decode cL_law 743 = .ok (.aload_n 2, 1) := dk_44 (dk_at dksL_law_23 11 rfl rfl)
theorem dL_law_744 : decode cL_law 744 = .ok (.invokevirtual 173, 3) := dk_182 0 173 (dk_at dksL_law_23 12 rfl rfl)
theorem dL_law_747 : decode cL_law 747 = .ok (.iload 6, 2) := dk_21 6 (dk_at dksL_law_23 15 rfl rfl)
theorem dL_law_749 : decode cL_law 749 = .ok (.if_icmp .eq 5, 3) := dk_159 0 5 (dk_at dksL_law_23 17 rfl rfl)
theorem dL_law_752 : decode cL_law 752 = .ok (.iconst 0, 1) := dk_3 (dk_at dksL_law_23 20 rfl rfl)
theorem dL_law_753 : decode cL_law 753 = .ok (.ireturn, 1) := dk_172 (dk_at dksL_law_23 21 rfl rfl)
theorem dL_law_754 : decode cL_law 754 = .ok (.iload 6, 2) := dk_21 6 (dk_at dksL_law_23 22 rfl rfl)
theorem dL_law_756 : decode cL_law 756 = .ok (.ifCond .ne 15, 3) := dk_154 0 15 (dk_at dksL_law_24 0 rfl rfl)
theorem dL_law_759 : decode cL_law 759 = .ok (.aload_n 3, 1) := dk_45 (dk_at dksL_law_24 3 rfl rfl)
theorem dL_law_760 : decode cL_law 760 = .ok (.iconst 0, 1) := dk_3 (dk_at dksL_law_24 4 rfl rfl)
theorem dL_law_761 : decode cL_law 761 = .ok (.laload, 1) := dk_47 (dk_at dksL_law_24 5 rfl rfl)
theorem dL_law_762 : decode cL_law 762 = .ok (.iload 7, 2) := dk_21 7 (dk_at dksL_law_24 6 rfl rfl)
theorem dL_law_764 : decode cL_law 764 = .ok (.i2l, 1) := dk_133 (dk_at dksL_law_24 8 rfl rfl)
theorem dL_law_765 : decode cL_law 765 = .ok (.lcmp, 1) := dk_148 (dk_at dksL_law_24 9 rfl rfl)
theorem dL_law_766 : decode cL_law 766 = .ok (.ifCond .eq 5, 3) := dk_153 0 5 (dk_at dksL_law_24 10 rfl rfl)
theorem dL_law_769 : decode cL_law 769 = .ok (.iconst 0, 1) := dk_3 (dk_at dksL_law_24 13 rfl rfl)
theorem dL_law_770 : decode cL_law 770 = .ok (.ireturn, 1) := dk_172 (dk_at dksL_law_24 14 rfl rfl)
theorem dL_law_771 : decode cL_law 771 = .ok (.goto 2606, 3) := dk_167 10 46 (dk_at dksL_law_24 15 rfl rfl)
theorem dL_law_774 : decode cL_law 774 = .ok (.aload_n 1, 1) := dk_43 (dk_at dksL_law_24 18 rfl rfl)
theorem dL_law_775 : decode cL_law 775 = .ok (.aload_n 0, 1) := dk_42 (dk_at dksL_law_24 19 rfl rfl)
theorem dL_law_776 : decode cL_law 776 = .ok (.iload 5, 2) := dk_21 5 (dk_at dksL_law_24 20 rfl rfl)
theorem dL_law_778 : decode cL_law 778 = .ok (.iconst 1, 1) := dk_4 (dk_at dksL_law_24 22 rfl rfl)
theorem dL_law_779 : decode cL_law 779 = .ok (.iadd, 1) := dk_96 (dk_at dksL_law_24 23 rfl rfl)
theorem dL_law_780 : decode cL_law 780 = .ok (.iaload, 1) := dk_46 (dk_at dksL_law_25 0 rfl rfl)
theorem dL_law_781 : decode cL_law 781 = .ok (.aload_n 0, 1) := dk_42 (dk_at dksL_law_25 1 rfl rfl)
theorem dL_law_782 : decode cL_law 782 = .ok (.iload 5, 2) := dk_21 5 (dk_at dksL_law_25 2 rfl rfl)
theorem dL_law_784 : decode cL_law 784 = .ok (.iconst 2, 1) := dk_5 (dk_at dksL_law_25 4 rfl rfl)
theorem dL_law_785 : decode cL_law 785 = .ok (.iadd, 1) := dk_96 (dk_at dksL_law_25 5 rfl rfl)
theorem dL_law_786 : decode cL_law 786 = .ok (.iaload, 1) := dk_46 (dk_at dksL_law_25 6 rfl rfl)
theorem dL_law_787 : decode cL_law 787 = .ok (.aload_n 3, 1) := dk_45 (dk_at dksL_law_25 7 rfl rfl)
theorem dL_law_788 : decode cL_law 788 = .ok (.invokestatic 208, 3) := dk_184 0 208 (dk_at dksL_law_25 8 rfl rfl)
theorem dL_law_791 : decode cL_law 791 = .ok (.istore 6, 2) := dk_54 6 (dk_at dksL_law_25 11 rfl rfl)
theorem dL_law_793 : decode cL_law 793 = .ok (.aload_n 2, 1) := dk_44 (dk_at dksL_law_25 13 rfl rfl)
theorem dL_law_794 : decode cL_law 794 = .ok (.aload_n 0, 1) := dk_42 (dk_at dksL_law_25 14 rfl rfl)
theorem dL_law_795 : decode cL_law 795 = .ok (.iload 5, 2) := dk_21 5 (dk_at dksL_law_25 15 rfl rfl)
theorem dL_law_797 : decode cL_law 797 = .ok (.iconst 1, 1) := dk_4 (dk_at dksL_law_25 17 rfl rfl)
theorem dL_law_798 : decode cL_law 798 = .ok (.iadd, 1) := dk_96 (dk_at dksL_law_25 18 rfl rfl)
theorem dL_law_799 : decode cL_law 799 = .ok (.iaload, 1) := dk_46 (dk_at dksL_law_25 19 rfl rfl)
theorem dL_law_800 : decode cL_law 800 = .ok (.aload_n 0, 1) := dk_42 (dk_at dksL_law_25 20 rfl rfl)
theorem dL_law_801 : decode cL_law 801 = .ok (.iload 5, 2) := dk_21 5 (dk_at dksL_law_25 21 rfl rfl)
theorem dL_law_803 : decode cL_law 803 = .ok (.iconst 2, 1) := dk_5 (dk_at dksL_law_25 23 rfl rfl)
theorem dL_law_804 : decode cL_law 804 = .ok (.iadd, 1) := dk_96 (dk_at dksL_law_26 0 rfl rfl)
theorem dL_law_805 : decode cL_law 805 = .ok (.iaload, 1) := dk_46 (dk_at dksL_law_26 1 rfl rfl)
theorem dL_law_806 : decode cL_law 806 = .ok (.invokevirtual 210, 3) := dk_182 0 210 (dk_at dksL_law_26 2 rfl rfl)
theorem dL_law_809 : decode cL_law 809 = .ok (.istore 7, 2) := dk_54 7 (dk_at dksL_law_26 5 rfl rfl)
theorem dL_law_811 : decode cL_law 811 = .ok (.aload_n 2, 1) := dk_44 (dk_at dksL_law_26 7 rfl rfl)
theorem dL_law_812 : decode cL_law 812 = .ok (.invokevirtual 173, 3) := dk_182 0 173 (dk_at dksL_law_26 8 rfl rfl)
theorem dL_law_815 : decode cL_law 815 = .ok (.iload 6, 2) := dk_21 6 (dk_at dksL_law_26 11 rfl rfl)
theorem dL_law_817 : decode cL_law 817 = .ok (.if_icmp .eq 5, 3) := dk_159 0 5 (dk_at dksL_law_26 13 rfl rfl)
theorem dL_law_820 : decode cL_law 820 = .ok (.iconst 0, 1) := dk_3 (dk_at dksL_law_26 16 rfl rfl)
theorem dL_law_821 : decode cL_law 821 = .ok (.ireturn, 1) := dk_172 (dk_at dksL_law_26 17 rfl rfl)
theorem dL_law_822 : decode cL_law 822 = .ok (.iload 6, 2) := dk_21 6 (dk_at dksL_law_26 18 rfl rfl)
theorem dL_law_824 : decode cL_law 824 = .ok (.ifCond .ne 15, 3) := dk_154 0 15 (dk_at dksL_law_26 20 rfl rfl)
theorem dL_law_827 : decode cL_law 827 = .ok (.aload_n 3, 1) := dk_45 (dk_at dksL_law_26 23 rfl rfl)
theorem dL_law_828 : decode cL_law 828 = .ok (.iconst 0, 1) := dk_3 (dk_at dksL_law_27 0 rfl rfl)
theorem dL_law_829 : decode cL_law 829 = .ok (.laload, 1) := dk_47 (dk_at dksL_law_27 1 rfl rfl)
theorem dL_law_830 : decode cL_law 830 = .ok (.iload 7, 2) := dk_21 7 (dk_at dksL_law_27 2 rfl rfl)
theorem dL_law_832 : decode cL_law 832 = .ok (.i2l, 1) := dk_133 (dk_at dksL_law_27 4 rfl rfl)
theorem dL_law_833 : decode cL_law 833 = .ok (.lcmp, 1) := dk_148 (dk_at dksL_law_27 5 rfl rfl)
theorem dL_law_834 : decode cL_law 834 = .ok (.ifCond .eq 5, 3) := dk_153 0 5 (dk_at dksL_law_27 6 rfl rfl)
theorem dL_law_837 : decode cL_law 837 = .ok (.iconst 0, 1) := dk_3 (dk_at dksL_law_27 9 rfl rfl)
theorem dL_law_838 : decode cL_law 838 = .ok (.ireturn, 1) := dk_172 (dk_at dksL_law_27 10 rfl rfl)
theorem dL_law_839 : decode cL_law 839 = .ok (.goto 2538, 3) := dk_167 9 234 (dk_at dksL_law_27 11 rfl rfl)
theorem dL_law_842 : decode cL_law 842 = .ok (.aload_n 1, 1) := dk_43 (dk_at dksL_law_27 14 rfl rfl)
theorem dL_law_843 : decode cL_law 843 = .ok (.aload_n 0, 1) := dk_42 (dk_at dksL_law_27 15 rfl rfl)
theorem dL_law_844 : decode cL_law 844 = .ok (.iload 5, 2) := dk_21 5 (dk_at dksL_law_27 16 rfl rfl)
theorem dL_law_846 : decode cL_law 846 = .ok (.iconst 1, 1) := dk_4 (dk_at dksL_law_27 18 rfl rfl)
theorem dL_law_847 : decode cL_law 847 = .ok (.iadd, 1) := dk_96 (dk_at dksL_law_27 19 rfl rfl)
theorem dL_law_848 : decode cL_law 848 = .ok (.iaload, 1) := dk_46 (dk_at dksL_law_27 20 rfl rfl)
theorem dL_law_849 : decode cL_law 849 = .ok (.aload_n 0, 1) := dk_42 (dk_at dksL_law_27 21 rfl rfl)
theorem dL_law_850 : decode cL_law 850 = .ok (.iload 5, 2) := dk_21 5 (dk_at dksL_law_27 22 rfl rfl)
theorem dL_law_852 : decode cL_law 852 = .ok (.iconst 2, 1) := dk_5 (dk_at dksL_law_28 0 rfl rfl)
theorem dL_law_853 : decode cL_law 853 = .ok (.iadd, 1) := dk_96 (dk_at dksL_law_28 1 rfl rfl)
theorem dL_law_854 : decode cL_law 854 = .ok (.iaload, 1) := dk_46 (dk_at dksL_law_28 2 rfl rfl)
theorem dL_law_855 : decode cL_law 855 = .ok (.aload_n 3, 1) := dk_45 (dk_at dksL_law_28 3 rfl rfl)
theorem dL_law_856 : decode cL_law 856 = .ok (.invokestatic 211, 3) := dk_184 0 211 (dk_at dksL_law_28 4 rfl rfl)
theorem dL_law_859 : decode cL_law 859 = .ok (.istore 6, 2) := dk_54 6 (dk_at dksL_law_28 7 rfl rfl)
theorem dL_law_861 : decode cL_law 861 = .ok (.aload_n 2, 1) := dk_44 (dk_at dksL_law_28 9 rfl rfl)
theorem dL_law_862 : decode cL_law 862 = .ok (.aload_n 0, 1) := dk_42 (dk_at dksL_law_28 10 rfl rfl)
theorem dL_law_863 : decode cL_law 863 = .ok (.iload 5, 2) := dk_21 5 (dk_at dksL_law_28 11 rfl rfl)
theorem dL_law_865 : decode cL_law 865 = .ok (.iconst 1, 1) := dk_4 (dk_at dksL_law_28 13 rfl rfl)
theorem dL_law_866 : decode cL_law 866 = .ok (.iadd, 1) := dk_96 (dk_at dksL_law_28 14 rfl rfl)
theorem dL_law_867 : decode cL_law 867 = .ok (.iaload, 1) := dk_46 (dk_at dksL_law_28 15 rfl rfl)
theorem dL_law_868 : decode cL_law 868 = .ok (.aload_n 0, 1) := dk_42 (dk_at dksL_law_28 16 rfl rfl)
theorem dL_law_869 : decode cL_law 869 = .ok (.iload 5, 2) := dk_21 5 (dk_at dksL_law_28 17 rfl rfl)
theorem dL_law_871 : decode cL_law 871 = .ok (.iconst 2, 1) := dk_5 (dk_at dksL_law_28 19 rfl rfl)
theorem dL_law_872 : decode cL_law 872 = .ok (.iadd, 1) := dk_96 (dk_at dksL_law_28 20 rfl rfl)
theorem dL_law_873 : decode cL_law 873 = .ok (.iaload, 1) := dk_46 (dk_at dksL_law_28 21 rfl rfl)
theorem dL_law_874 : decode cL_law 874 = .ok (.invokevirtual 213, 3) := dk_182 0 213 (dk_at dksL_law_29 0 rfl rfl)
theorem dL_law_877 : decode cL_law 877 = .ok (.istore 7, 2) := dk_54 7 (dk_at dksL_law_29 3 rfl rfl)
theorem dL_law_879 : decode cL_law 879 = .ok (.aload_n 2, 1) := dk_44 (dk_at dksL_law_29 5 rfl rfl)
theorem dL_law_880 : decode cL_law 880 = .ok (.invokevirtual 173, 3) := dk_182 0 173 (dk_at dksL_law_29 6 rfl rfl)
theorem dL_law_883 : decode cL_law 883 = .ok (.iload 6, 2) := dk_21 6 (dk_at dksL_law_29 9 rfl rfl)
theorem dL_law_885 : decode cL_law 885 = .ok (.if_icmp .eq 5, 3) := dk_159 0 5 (dk_at dksL_law_29 11 rfl rfl)
theorem dL_law_888 : decode cL_law 888 = .ok (.iconst 0, 1) := dk_3 (dk_at dksL_law_29 14 rfl rfl)
theorem dL_law_889 : decode cL_law 889 = .ok (.ireturn, 1) := dk_172 (dk_at dksL_law_29 15 rfl rfl)
theorem dL_law_890 : decode cL_law 890 = .ok (.iload 6, 2) := dk_21 6 (dk_at dksL_law_29 16 rfl rfl)
theorem dL_law_892 : decode cL_law 892 = .ok (.ifCond .ne 15, 3) := dk_154 0 15 (dk_at dksL_law_29 18 rfl rfl)
theorem dL_law_895 : decode cL_law 895 = .ok (.aload_n 3, 1) := dk_45 (dk_at dksL_law_29 21 rfl rfl)
theorem dL_law_896 : decode cL_law 896 = .ok (.iconst 0, 1) := dk_3 (dk_at dksL_law_29 22 rfl rfl)
theorem dL_law_897 : decode cL_law 897 = .ok (.laload, 1) := dk_47 (dk_at dksL_law_29 23 rfl rfl)
theorem dL_law_898 : decode cL_law 898 = .ok (.iload 7, 2) := dk_21 7 (dk_at dksL_law_30 0 rfl rfl)
theorem dL_law_900 : decode cL_law 900 = .ok (.i2l, 1) := dk_133 (dk_at dksL_law_30 2 rfl rfl)
theorem dL_law_901 : decode cL_law 901 = .ok (.lcmp, 1) := dk_148 (dk_at dksL_law_30 3 rfl rfl)
theorem dL_law_902 : decode cL_law 902 = .ok (.ifCond .eq 5, 3) := dk_153 0 5 (dk_at dksL_law_30 4 rfl rfl)
theorem dL_law_905 : decode cL_law 905 = .ok (.iconst 0, 1) := dk_3 (dk_at dksL_law_30 7 rfl rfl)
theorem dL_law_906 : decode cL_law 906 = .ok (.ireturn, 1) := dk_172 (dk_at dksL_law_30 8 rfl rfl)
theorem dL_law_907 : decode cL_law 907 = .ok (.goto 2470, 3) := dk_167 9 166 (dk_at dksL_law_30 9 rfl rfl)
theorem dL_law_910 : decode cL_law 910 = .ok (.aload_n 1, 1) := dk_43 (dk_at dksL_law_30 12 rfl rfl)
theorem dL_law_911 : decode cL_law 911 = .ok (.aload_n 0, 1) := dk_42 (dk_at dksL_law_30 13 rfl rfl)
theorem dL_law_912 : decode cL_law 912 = .ok (.iload 5, 2) := dk_21 5 (dk_at dksL_law_30 14 rfl rfl)
theorem dL_law_914 : decode cL_law 914 = .ok (.iconst 1, 1) := dk_4 (dk_at dksL_law_30 16 rfl rfl)
theorem dL_law_915 : decode cL_law 915 = .ok (.iadd, 1) := dk_96 (dk_at dksL_law_30 17 rfl rfl)
theorem dL_law_916 : decode cL_law 916 = .ok (.iaload, 1) := dk_46 (dk_at dksL_law_30 18 rfl rfl)
theorem dL_law_917 : decode cL_law 917 = .ok (.aload_n 0, 1) := dk_42 (dk_at dksL_law_30 19 rfl rfl)
theorem dL_law_918 : decode cL_law 918 = .ok (.iload 5, 2) := dk_21 5 (dk_at dksL_law_30 20 rfl rfl)
theorem dL_law_920 : decode cL_law 920 = .ok (.iconst 2, 1) := dk_5 (dk_at dksL_law_30 22 rfl rfl)
theorem dL_law_921 : decode cL_law 921 = .ok (.iadd, 1) := dk_96 (dk_at dksL_law_30 23 rfl rfl)
theorem dL_law_922 : decode cL_law 922 = .ok (.iaload, 1) := dk_46 (dk_at dksL_law_31 0 rfl rfl)
theorem dL_law_923 : decode cL_law 923 = .ok (.aload_n 3, 1) := dk_45 (dk_at dksL_law_31 1 rfl rfl)
theorem dL_law_924 : decode cL_law 924 = .ok (.invokestatic 214, 3) := dk_184 0 214 (dk_at dksL_law_31 2 rfl rfl)
theorem dL_law_927 : decode cL_law 927 = .ok (.istore 6, 2) := dk_54 6 (dk_at dksL_law_31 5 rfl rfl)
theorem dL_law_929 : decode cL_law 929 = .ok (.aload_n 2, 1) := dk_44 (dk_at dksL_law_31 7 rfl rfl)
theorem dL_law_930 : decode cL_law 930 = .ok (.aload_n 0, 1) := dk_42 (dk_at dksL_law_31 8 rfl rfl)
theorem dL_law_931 : decode cL_law 931 = .ok (.iload 5, 2) := dk_21 5 (dk_at dksL_law_31 9 rfl rfl)
theorem dL_law_933 : decode cL_law 933 = .ok (.iconst 1, 1) := dk_4 (dk_at dksL_law_31 11 rfl rfl)
theorem dL_law_934 : decode cL_law 934 = .ok (.iadd, 1) := dk_96 (dk_at dksL_law_31 12 rfl rfl)
theorem dL_law_935 : decode cL_law 935 = .ok (.iaload, 1) := dk_46 (dk_at dksL_law_31 13 rfl rfl)
theorem dL_law_936 : decode cL_law 936 = .ok (.aload_n 0, 1) := dk_42 (dk_at dksL_law_31 14 rfl rfl)
theorem dL_law_937 : decode cL_law 937 = .ok (.iload 5, 2) := dk_21 5 (dk_at dksL_law_31 15 rfl rfl)
theorem dL_law_939 : decode cL_law 939 = .ok (.iconst 2, 1) := dk_5 (dk_at dksL_law_31 17 rfl rfl)
theorem dL_law_940 : decode cL_law 940 = .ok (.iadd, 1) := dk_96 (dk_at dksL_law_31 18 rfl rfl)
theorem dL_law_941 : decode cL_law 941 = .ok (.iaload, 1) := dk_46 (dk_at dksL_law_31 19 rfl rfl)
theorem dL_law_942 : decode cL_law 942 = .ok (.invokevirtual 216, 3) := dk_182 0 216 (dk_at dksL_law_31 20 rfl rfl)
theorem dL_law_945 : decode cL_law 945 = .ok (.istore 7, 2) := dk_54 7 (dk_at dksL_law_32 0 rfl rfl)
theorem dL_law_947 : decode cL_law 947 = .ok (.aload_n 2, 1) := dk_44 (dk_at dksL_law_32 2 rfl rfl)
theorem dL_law_948 : decode cL_law 948 = .ok (.invokevirtual 173, 3) := dk_182 0 173 (dk_at dksL_law_32 3 rfl rfl)
theorem dL_law_951 : decode cL_law 951 = .ok (.iload 6, 2) := dk_21 6 (dk_at dksL_law_32 6 rfl rfl)
theorem dL_law_953 : decode cL_law 953 = .ok (.if_icmp .eq 5, 3) := dk_159 0 5 (dk_at dksL_law_32 8 rfl rfl)
theorem dL_law_956 : decode cL_law 956 = .ok (.iconst 0, 1) := dk_3 (dk_at dksL_law_32 11 rfl rfl)
theorem dL_law_957 : decode cL_law 957 = .ok (.ireturn, 1) := dk_172 (dk_at dksL_law_32 12 rfl rfl)
theorem dL_law_958 : decode cL_law 958 = .ok (.iload 6, 2) := dk_21 6 (dk_at dksL_law_32 13 rfl rfl)
theorem dL_law_960 : decode cL_law 960 = .ok (.ifCond .ne 15, 3) := dk_154 0 15 (dk_at dksL_law_32 15 rfl rfl)
theorem dL_law_963 : decode cL_law 963 = .ok (.aload_n 3, 1) := dk_45 (dk_at dksL_law_32 18 rfl rfl)
theorem dL_law_964 : decode cL_law 964 = .ok (.iconst 0, 1) := dk_3 (dk_at dksL_law_32 19 rfl rfl)
theorem dL_law_965 : decode cL_law 965 = .ok (.laload, 1) := dk_47 (dk_at dksL_law_32 20 rfl rfl)
theorem dL_law_966 : decode cL_law 966 = .ok (.iload 7, 2) := dk_21 7 (dk_at dksL_law_32 21 rfl rfl)
theorem dL_law_968 : decode cL_law 968 = .ok (.i2l, 1) := dk_133 (dk_at dksL_law_32 23 rfl rfl)
theorem dL_law_969 : decode cL_law 969 = .ok (.lcmp, 1) := dk_148 (dk_at dksL_law_33 0 rfl rfl)
theorem dL_law_970 : decode cL_law 970 = .ok (.ifCond .eq 5, 3) := dk_153 0 5 (dk_at dksL_law_33 1 rfl rfl)
theorem dL_law_973 : decode cL_law 973 = .ok (.iconst 0, 1) := dk_3 (dk_at dksL_law_33 4 rfl rfl)
theorem dL_law_974 : decode cL_law 974 = .ok (.ireturn, 1) := dk_172 (dk_at dksL_law_33 5 rfl rfl)
theorem dL_law_975 : decode cL_law 975 = .ok (.goto 2402, 3) := dk_167 9 98 (dk_at dksL_law_33 6 rfl rfl)
theorem dL_law_978 : decode cL_law 978 = .ok (.aload_n 1, 1) := dk_43 (dk_at dksL_law_33 9 rfl rfl)
theorem dL_law_979 : decode cL_law 979 = .ok (.aload_n 0, 1) := dk_42 (dk_at dksL_law_33 10 rfl rfl)
theorem dL_law_980 : decode cL_law 980 = .ok (.iload 5, 2) := dk_21 5 (dk_at dksL_law_33 11 rfl rfl)
theorem dL_law_982 : decode cL_law 982 = .ok (.iconst 1, 1) := dk_4 (dk_at dksL_law_33 13 rfl rfl)
theorem dL_law_983 : decode cL_law 983 = .ok (.iadd, 1) := dk_96 (dk_at dksL_law_33 14 rfl rfl)
theorem dL_law_984 : decode cL_law 984 = .ok (.iaload, 1) := dk_46 (dk_at dksL_law_33 15 rfl rfl)
theorem dL_law_985 : decode cL_law 985 = .ok (.aload_n 0, 1) := dk_42 (dk_at dksL_law_33 16 rfl rfl)
theorem dL_law_986 : decode cL_law 986 = .ok (.iload 5, 2) := dk_21 5 (dk_at dksL_law_33 17 rfl rfl)
theorem dL_law_988 : decode cL_law 988 = .ok (.iconst 2, 1) := dk_5 (dk_at dksL_law_33 19 rfl rfl)
theorem dL_law_989 : decode cL_law 989 = .ok (.iadd, 1) := dk_96 (dk_at dksL_law_33 20 rfl rfl)
theorem dL_law_990 : decode cL_law 990 = .ok (.iaload, 1) := dk_46 (dk_at dksL_law_33 21 rfl rfl)
theorem dL_law_991 : decode cL_law 991 = .ok (.aload_n 0, 1) := dk_42 (dk_at dksL_law_33 22 rfl rfl)
theorem dL_law_992 : decode cL_law 992 = .ok (.iload 5, 2) := dk_21 5 (dk_at dksL_law_34 0 rfl rfl)
theorem dL_law_994 : decode cL_law 994 = .ok (.iconst 3, 1) := dk_6 (dk_at dksL_law_34 2 rfl rfl)
theorem dL_law_995 : decode cL_law 995 = .ok (.iadd, 1) := dk_96 (dk_at dksL_law_34 3 rfl rfl)
theorem dL_law_996 : decode cL_law 996 = .ok (.iaload, 1) := dk_46 (dk_at dksL_law_34 4 rfl rfl)
theorem dL_law_997 : decode cL_law 997 = .ok (.aload_n 3, 1) := dk_45 (dk_at dksL_law_34 5 rfl rfl)
theorem dL_law_998 : decode cL_law 998 = .ok (.invokestatic 217, 3) := dk_184 0 217 (dk_at dksL_law_34 6 rfl rfl)
theorem dL_law_1001 : decode cL_law 1001 = .ok (.istore 6, 2) := dk_54 6 (dk_at dksL_law_34 9 rfl rfl)
theorem dL_law_1003 : decode cL_law 1003 = .ok (.aload_n 2, 1) := dk_44 (dk_at dksL_law_34 11 rfl rfl)
theorem dL_law_1004 : decode cL_law 1004 = .ok (.aload_n 0, 1) := dk_42 (dk_at dksL_law_34 12 rfl rfl)
theorem dL_law_1005 : decode cL_law 1005 = .ok (.iload 5, 2) := dk_21 5 (dk_at dksL_law_34 13 rfl rfl)
theorem dL_law_1007 : decode cL_law 1007 = .ok (.iconst 1, 1) := dk_4 (dk_at dksL_law_34 15 rfl rfl)
theorem dL_law_1008 : decode cL_law 1008 = .ok (.iadd, 1) := dk_96 (dk_at dksL_law_34 16 rfl rfl)
theorem dL_law_1009 : decode cL_law 1009 = .ok (.iaload, 1) := dk_46 (dk_at dksL_law_34 17 rfl rfl)
theorem dL_law_1010 : decode cL_law 1010 = .ok (.aload_n 0, 1) := dk_42 (dk_at dksL_law_34 18 rfl rfl)
theorem dL_law_1011 : decode cL_law 1011 = .ok (.iload 5, 2) := dk_21 5 (dk_at dksL_law_34 19 rfl rfl)
theorem dL_law_1013 : decode cL_law 1013 = .ok (.iconst 2, 1) := dk_5 (dk_at dksL_law_34 21 rfl rfl)
theorem dL_law_1014 : decode cL_law 1014 = .ok (.iadd, 1) := dk_96 (dk_at dksL_law_34 22 rfl rfl)
theorem dL_law_1015 : decode cL_law 1015 = .ok (.iaload, 1) := dk_46 (dk_at dksL_law_34 23 rfl rfl)
theorem dL_law_1016 : decode cL_law 1016 = .ok (.aload_n 0, 1) := dk_42 (dk_at dksL_law_35 0 rfl rfl)
theorem dL_law_1017 : decode cL_law 1017 = .ok (.iload 5, 2) := dk_21 5 (dk_at dksL_law_35 1 rfl rfl)
theorem dL_law_1019 : decode cL_law 1019 = .ok (.iconst 3, 1) := dk_6 (dk_at dksL_law_35 3 rfl rfl)
theorem dL_law_1020 : decode cL_law 1020 = .ok (.iadd, 1) := dk_96 (dk_at dksL_law_35 4 rfl rfl)
theorem dL_law_1021 : decode cL_law 1021 = .ok (.iaload, 1) := dk_46 (dk_at dksL_law_35 5 rfl rfl)
theorem dL_law_1022 : decode cL_law 1022 = .ok (.invokevirtual 220, 3) := dk_182 0 220 (dk_at dksL_law_35 6 rfl rfl)
theorem dL_law_1025 : decode cL_law 1025 = .ok (.istore 7, 2) := dk_54 7 (dk_at dksL_law_35 9 rfl rfl)
theorem dL_law_1027 : decode cL_law 1027 = .ok (.aload_n 2, 1) := dk_44 (dk_at dksL_law_35 11 rfl rfl)
theorem dL_law_1028 : decode cL_law 1028 = .ok (.invokevirtual 173, 3) := dk_182 0 173 (dk_at dksL_law_35 12 rfl rfl)
theorem dL_law_1031 : decode cL_law 1031 = .ok (.iload 6, 2) := dk_21 6 (dk_at dksL_law_35 15 rfl rfl)
theorem dL_law_1033 : decode cL_law 1033 = .ok (.if_icmp .eq 5, 3) := dk_159 0 5 (dk_at dksL_law_35 17 rfl rfl)
theorem dL_law_1036 : decode cL_law 1036 = .ok (.iconst 0, 1) := dk_3 (dk_at dksL_law_35 20 rfl rfl)
theorem dL_law_1037 : decode cL_law 1037 = .ok (.ireturn, 1) := dk_172 (dk_at dksL_law_35 21 rfl rfl)
theorem dL_law_1038 : decode cL_law 1038 = .ok (.iload 6, 2) := dk_21 6 (dk_at dksL_law_35 22 rfl rfl)
theorem dL_law_1040 : decode cL_law 1040 = .ok (.ifCond .ne 15, 3) := dk_154 0 15 (dk_at dksL_law_36 0 rfl rfl)
theorem dL_law_1043 : decode cL_law 1043 = .ok (.aload_n 3, 1) := dk_45 (dk_at dksL_law_36 3 rfl rfl)
theorem dL_law_1044 : decode cL_law 1044 = .ok (.iconst 0, 1) := dk_3 (dk_at dksL_law_36 4 rfl rfl)
theorem dL_law_1045 : decode cL_law 1045 = .ok (.laload, 1) := dk_47 (dk_at dksL_law_36 5 rfl rfl)
theorem dL_law_1046 : decode cL_law 1046 = .ok (.iload 7, 2) := dk_21 7 (dk_at dksL_law_36 6 rfl rfl)
theorem dL_law_1048 : decode cL_law 1048 = .ok (.i2l, 1) := dk_133 (dk_at dksL_law_36 8 rfl rfl)
theorem dL_law_1049 : decode cL_law 1049 = .ok (.lcmp, 1) := dk_148 (dk_at dksL_law_36 9 rfl rfl)
theorem dL_law_1050 : decode cL_law 1050 = .ok (.ifCond .eq 5, 3) := dk_153 0 5 (dk_at dksL_law_36 10 rfl rfl)
theorem dL_law_1053 : decode cL_law 1053 = .ok (.iconst 0, 1) := dk_3 (dk_at dksL_law_36 13 rfl rfl)
theorem dL_law_1054 : decode cL_law 1054 = .ok (.ireturn, 1) := dk_172 (dk_at dksL_law_36 14 rfl rfl)
theorem dL_law_1055 : decode cL_law 1055 = .ok (.goto 2322, 3) := dk_167 9 18 (dk_at dksL_law_36 15 rfl rfl)
theorem dL_law_1058 : decode cL_law 1058 = .ok (.aload_n 1, 1) := dk_43 (dk_at dksL_law_36 18 rfl rfl)
theorem dL_law_1059 : decode cL_law 1059 = .ok (.aload_n 0, 1) := dk_42 (dk_at dksL_law_36 19 rfl rfl)
theorem dL_law_1060 : decode cL_law 1060 = .ok (.iload 5, 2) := dk_21 5 (dk_at dksL_law_36 20 rfl rfl)
theorem dL_law_1062 : decode cL_law 1062 = .ok (.iconst 1, 1) := dk_4 (dk_at dksL_law_36 22 rfl rfl)
theorem dL_law_1063 : decode cL_law 1063 = .ok (.iadd, 1) := dk_96 (dk_at dksL_law_36 23 rfl rfl)
theorem dL_law_1064 : decode cL_law 1064 = .ok (.iaload, 1) := dk_46 (dk_at dksL_law_37 0 rfl rfl)
theorem dL_law_1065 : decode cL_law 1065 = .ok (.aload_n 0, 1) := dk_42 (dk_at dksL_law_37 1 rfl rfl)
theorem dL_law_1066 : decode cL_law 1066 = .ok (.iload 5, 2) := dk_21 5 (dk_at dksL_law_37 2 rfl rfl)
theorem dL_law_1068 : decode cL_law 1068 = .ok (.iconst 2, 1) := dk_5 (dk_at dksL_law_37 4 rfl rfl)
theorem dL_law_1069 : decode cL_law 1069 = .ok (.iadd, 1) := dk_96 (dk_at dksL_law_37 5 rfl rfl)
theorem dL_law_1070 : decode cL_law 1070 = .ok (.iaload, 1) := dk_46 (dk_at dksL_law_37 6 rfl rfl)
theorem dL_law_1071 : decode cL_law 1071 = .ok (.aload_n 0, 1) := dk_42 (dk_at dksL_law_37 7 rfl rfl)
theorem dL_law_1072 : decode cL_law 1072 = .ok (.iload 5, 2) := dk_21 5 (dk_at dksL_law_37 8 rfl rfl)
theorem dL_law_1074 : decode cL_law 1074 = .ok (.iconst 3, 1) := dk_6 (dk_at dksL_law_37 10 rfl rfl)
theorem dL_law_1075 : decode cL_law 1075 = .ok (.iadd, 1) := dk_96 (dk_at dksL_law_37 11 rfl rfl)
theorem dL_law_1076 : decode cL_law 1076 = .ok (.iaload, 1) := dk_46 (dk_at dksL_law_37 12 rfl rfl)
theorem dL_law_1077 : decode cL_law 1077 = .ok (.aload_n 3, 1) := dk_45 (dk_at dksL_law_37 13 rfl rfl)
theorem dL_law_1078 : decode cL_law 1078 = .ok (.invokestatic 221, 3) := dk_184 0 221 (dk_at dksL_law_37 14 rfl rfl)
theorem dL_law_1081 : decode cL_law 1081 = .ok (.istore 6, 2) := dk_54 6 (dk_at dksL_law_37 17 rfl rfl)
theorem dL_law_1083 : decode cL_law 1083 = .ok (.aload_n 2, 1) := dk_44 (dk_at dksL_law_37 19 rfl rfl)
theorem dL_law_1084 : decode cL_law 1084 = .ok (.aload_n 0, 1) := dk_42 (dk_at dksL_law_37 20 rfl rfl)
theorem dL_law_1085 : decode cL_law 1085 = .ok (.iload 5, 2) := dk_21 5 (dk_at dksL_law_37 21 rfl rfl)
theorem dL_law_1087 : decode cL_law 1087 = .ok (.iconst 1, 1) := dk_4 (dk_at dksL_law_37 23 rfl rfl)
theorem dL_law_1088 : decode cL_law 1088 = .ok (.iadd, 1) := dk_96 (dk_at dksL_law_38 0 rfl rfl)
theorem dL_law_1089 : decode cL_law 1089 = .ok (.iaload, 1) := dk_46 (dk_at dksL_law_38 1 rfl rfl)
theorem dL_law_1090 : decode cL_law 1090 = .ok (.aload_n 0, 1) := dk_42 (dk_at dksL_law_38 2 rfl rfl)
theorem dL_law_1091 : decode cL_law 1091 = .ok (.iload 5, 2) := dk_21 5 (dk_at dksL_law_38 3 rfl rfl)
theorem dL_law_1093 : decode cL_law 1093 = .ok (.iconst 2, 1) := dk_5 (dk_at dksL_law_38 5 rfl rfl)
theorem dL_law_1094 : decode cL_law 1094 = .ok (.iadd, 1) := dk_96 (dk_at dksL_law_38 6 rfl rfl)
theorem dL_law_1095 : decode cL_law 1095 = .ok (.iaload, 1) := dk_46 (dk_at dksL_law_38 7 rfl rfl)
theorem dL_law_1096 : decode cL_law 1096 = .ok (.aload_n 0, 1) := dk_42 (dk_at dksL_law_38 8 rfl rfl)
theorem dL_law_1097 : decode cL_law 1097 = .ok (.iload 5, 2) := dk_21 5 (dk_at dksL_law_38 9 rfl rfl)
theorem dL_law_1099 : decode cL_law 1099 = .ok (.iconst 3, 1) := dk_6 (dk_at dksL_law_38 11 rfl rfl)
theorem dL_law_1100 : decode cL_law 1100 = .ok (.iadd, 1) := dk_96 (dk_at dksL_law_38 12 rfl rfl)
theorem dL_law_1101 : decode cL_law 1101 = .ok (.iaload, 1) := dk_46 (dk_at dksL_law_38 13 rfl rfl)
theorem dL_law_1102 : decode cL_law 1102 = .ok (.invokevirtual 223, 3) := dk_182 0 223 (dk_at dksL_law_38 14 rfl rfl)
theorem dL_law_1105 : decode cL_law 1105 = .ok (.istore 7, 2) := dk_54 7 (dk_at dksL_law_38 17 rfl rfl)
theorem dL_law_1107 : decode cL_law 1107 = .ok (.aload_n 2, 1) := dk_44 (dk_at dksL_law_38 19 rfl rfl)
theorem dL_law_1108 : decode cL_law 1108 = .ok (.invokevirtual 173, 3) := dk_182 0 173 (dk_at dksL_law_38 20 rfl rfl)
theorem dL_law_1111 : decode cL_law 1111 = .ok (.iload 6, 2) := dk_21 6 (dk_at dksL_law_39 0 rfl rfl)
theorem dL_law_1113 : decode cL_law 1113 = .ok (.if_icmp .eq 5, 3) := dk_159 0 5 (dk_at dksL_law_39 2 rfl rfl)
theorem dL_law_1116 : decode cL_law 1116 = .ok (.iconst 0, 1) := dk_3 (dk_at dksL_law_39 5 rfl rfl)
theorem dL_law_1117 : decode cL_law 1117 = .ok (.ireturn, 1) := dk_172 (dk_at dksL_law_39 6 rfl rfl)
theorem dL_law_1118 : decode cL_law 1118 = .ok (.iload 6, 2) := dk_21 6 (dk_at dksL_law_39 7 rfl rfl)
theorem dL_law_1120 : decode cL_law 1120 = .ok (.ifCond .ne 15, 3) := dk_154 0 15 (dk_at dksL_law_39 9 rfl rfl)
theorem dL_law_1123 : decode cL_law 1123 = .ok (.aload_n 3, 1) := dk_45 (dk_at dksL_law_39 12 rfl rfl)
theorem dL_law_1124 : decode cL_law 1124 = .ok (.iconst 0, 1) := dk_3 (dk_at dksL_law_39 13 rfl rfl)
theorem dL_law_1125 : decode cL_law 1125 = .ok (.laload, 1) := dk_47 (dk_at dksL_law_39 14 rfl rfl)
theorem dL_law_1126 : decode cL_law 1126 = .ok (.iload 7, 2) := dk_21 7 (dk_at dksL_law_39 15 rfl rfl)
theorem dL_law_1128 : decode cL_law 1128 = .ok (.i2l, 1) := dk_133 (dk_at dksL_law_39 17 rfl rfl)
theorem dL_law_1129 : decode cL_law 1129 = .ok (.lcmp, 1) := dk_148 (dk_at dksL_law_39 18 rfl rfl)
theorem dL_law_1130 : decode cL_law 1130 = .ok (.ifCond .eq 5, 3) := dk_153 0 5 (dk_at dksL_law_39 19 rfl rfl)
theorem dL_law_1133 : decode cL_law 1133 = .ok (.iconst 0, 1) := dk_3 (dk_at dksL_law_39 22 rfl rfl)
theorem dL_law_1134 : decode cL_law 1134 = .ok (.ireturn, 1) := dk_172 (dk_at dksL_law_39 23 rfl rfl)
theorem dL_law_1135 : decode cL_law 1135 = .ok (.goto 2242, 3) := dk_167 8 194 (dk_at dksL_law_40 0 rfl rfl)
theorem dL_law_1138 : decode cL_law 1138 = .ok (.aload_n 1, 1) := dk_43 (dk_at dksL_law_40 3 rfl rfl)
theorem dL_law_1139 : decode cL_law 1139 = .ok (.aload_n 0, 1) := dk_42 (dk_at dksL_law_40 4 rfl rfl)
theorem dL_law_1140 : decode cL_law 1140 = .ok (.iload 5, 2) := dk_21 5 (dk_at dksL_law_40 5 rfl rfl)
theorem dL_law_1142 : decode cL_law 1142 = .ok (.iconst 1, 1) := dk_4 (dk_at dksL_law_40 7 rfl rfl)
theorem dL_law_1143 : decode cL_law 1143 = .ok (.iadd, 1) := dk_96 (dk_at dksL_law_40 8 rfl rfl)
theorem dL_law_1144 : decode cL_law 1144 = .ok (.iaload, 1) := dk_46 (dk_at dksL_law_40 9 rfl rfl)
theorem dL_law_1145 : decode cL_law 1145 = .ok (.aload_n 3, 1) := dk_45 (dk_at dksL_law_40 10 rfl rfl)
theorem dL_law_1146 : decode cL_law 1146 = .ok (.invokestatic 224, 3) := dk_184 0 224 (dk_at dksL_law_40 11 rfl rfl)
theorem dL_law_1149 : decode cL_law 1149 = .ok (.istore 6, 2) := dk_54 6 (dk_at dksL_law_40 14 rfl rfl)
theorem dL_law_1151 : decode cL_law 1151 = .ok (.aload_n 2, 1) := dk_44 (dk_at dksL_law_40 16 rfl rfl)
theorem dL_law_1152 : decode cL_law 1152 = .ok (.aload_n 0, 1) := dk_42 (dk_at dksL_law_40 17 rfl rfl)
theorem dL_law_1153 : decode cL_law 1153 = .ok (.iload 5, 2) := dk_21 5 (dk_at dksL_law_40 18 rfl rfl)
theorem dL_law_1155 : decode cL_law 1155 = .ok (.iconst 1, 1) := dk_4 (dk_at dksL_law_40 20 rfl rfl)
theorem dL_law_1156 : decode cL_law 1156 = .ok (.iadd, 1) := dk_96 (dk_at dksL_law_40 21 rfl rfl)
theorem dL_law_1157 : decode cL_law 1157 = .ok (.iaload, 1) := dk_46 (dk_at dksL_law_40 22 rfl rfl)
theorem dL_law_1158 : decode cL_law 1158 = .ok (.invokevirtual 226, 3) := dk_182 0 226 (dk_at dksL_law_41 0 rfl rfl)
theorem dL_law_1161 : decode cL_law 1161 = .ok (.istore 7, 2) := dk_54 7 (dk_at dksL_law_41 3 rfl rfl)
theorem dL_law_1163 : decode cL_law 1163 = .ok (.aload_n 2, 1) := dk_44 (dk_at dksL_law_41 5 rfl rfl)
theorem dL_law_1164 : decode cL_law 1164 = .ok (.invokevirtual 173, 3) := dk_182 0 173 (dk_at dksL_law_41 6 rfl rfl)
theorem dL_law_1167 : decode cL_law 1167 = .ok (.iload 6, 2) := dk_21 6 (dk_at dksL_law_41 9 rfl rfl)
theorem dL_law_1169 : decode cL_law 1169 = .ok (.if_icmp .eq 5, 3) := dk_159 0 5 (dk_at dksL_law_41 11 rfl rfl)
theorem dL_law_1172 : decode cL_law 1172 = .ok (.iconst 0, 1) := dk_3 (dk_at dksL_law_41 14 rfl rfl)
theorem dL_law_1173 : decode cL_law 1173 = .ok (.ireturn, 1) := dk_172 (dk_at dksL_law_41 15 rfl rfl)
theorem dL_law_1174 : decode cL_law 1174 = .ok (.iload 6, 2) := dk_21 6 (dk_at dksL_law_41 16 rfl rfl)
theorem dL_law_1176 : decode cL_law 1176 = .ok (.ifCond .ne 15, 3) := dk_154 0 15 (dk_at dksL_law_41 18 rfl rfl)
theorem dL_law_1179 : decode cL_law 1179 = .ok (.aload_n 3, 1) := dk_45 (dk_at dksL_law_41 21 rfl rfl)
theorem dL_law_1180 : decode cL_law 1180 = .ok (.iconst 0, 1) := dk_3 (dk_at dksL_law_41 22 rfl rfl)
theorem dL_law_1181 : decode cL_law 1181 = .ok (.laload, 1) := dk_47 (dk_at dksL_law_41 23 rfl rfl)
theorem dL_law_1182 : decode cL_law 1182 = .ok (.iload 7, 2) := dk_21 7 (dk_at dksL_law_42 0 rfl rfl)
theorem dL_law_1184 : decode cL_law 1184 = .ok (.i2l, 1) := dk_133 (dk_at dksL_law_42 2 rfl rfl)
theorem dL_law_1185 : decode cL_law 1185 = .ok (.lcmp, 1) := dk_148 (dk_at dksL_law_42 3 rfl rfl)
theorem dL_law_1186 : decode cL_law 1186 = .ok (.ifCond .eq 5, 3) := dk_153 0 5 (dk_at dksL_law_42 4 rfl rfl)
theorem dL_law_1189 : decode cL_law 1189 = .ok (.iconst 0, 1) := dk_3 (dk_at dksL_law_42 7 rfl rfl)
theorem dL_law_1190 : decode cL_law 1190 = .ok (.ireturn, 1) := dk_172 (dk_at dksL_law_42 8 rfl rfl)
theorem dL_law_1191 : decode cL_law 1191 = .ok (.goto 2186, 3) := dk_167 8 138 (dk_at dksL_law_42 9 rfl rfl)
theorem dL_law_1194 : decode cL_law 1194 = .ok (.aload_n 1, 1) := dk_43 (dk_at dksL_law_42 12 rfl rfl)
theorem dL_law_1195 : decode cL_law 1195 = .ok (.aload_n 0, 1) := dk_42 (dk_at dksL_law_42 13 rfl rfl)
theorem dL_law_1196 : decode cL_law 1196 = .ok (.iload 5, 2) := dk_21 5 (dk_at dksL_law_42 14 rfl rfl)
theorem dL_law_1198 : decode cL_law 1198 = .ok (.iconst 1, 1) := dk_4 (dk_at dksL_law_42 16 rfl rfl)
theorem dL_law_1199 : decode cL_law 1199 = .ok (.iadd, 1) := dk_96 (dk_at dksL_law_42 17 rfl rfl)
theorem dL_law_1200 : decode cL_law 1200 = .ok (.iaload, 1) := dk_46 (dk_at dksL_law_42 18 rfl rfl)
theorem dL_law_1201 : decode cL_law 1201 = .ok (.aload_n 0, 1) := dk_42 (dk_at dksL_law_42 19 rfl rfl)
theorem dL_law_1202 : decode cL_law 1202 = .ok (.iload 5, 2) := dk_21 5 (dk_at dksL_law_42 20 rfl rfl)
theorem dL_law_1204 : decode cL_law 1204 = .ok (.iconst 2, 1) := dk_5 (dk_at dksL_law_42 22 rfl rfl)
theorem dL_law_1205 : decode cL_law 1205 = .ok (.iadd, 1) := dk_96 (dk_at dksL_law_42 23 rfl rfl)
theorem dL_law_1206 : decode cL_law 1206 = .ok (.iaload, 1) := dk_46 (dk_at dksL_law_43 0 rfl rfl)
theorem dL_law_1207 : decode cL_law 1207 = .ok (.aload_n 3, 1) := dk_45 (dk_at dksL_law_43 1 rfl rfl)
theorem dL_law_1208 : decode cL_law 1208 = .ok (.invokestatic 227, 3) := dk_184 0 227 (dk_at dksL_law_43 2 rfl rfl)
theorem dL_law_1211 : decode cL_law 1211 = .ok (.istore 6, 2) := dk_54 6 (dk_at dksL_law_43 5 rfl rfl)
theorem dL_law_1213 : decode cL_law 1213 = .ok (.aload_n 2, 1) := dk_44 (dk_at dksL_law_43 7 rfl rfl)
theorem dL_law_1214 : decode cL_law 1214 = .ok (.aload_n 0, 1) := dk_42 (dk_at dksL_law_43 8 rfl rfl)
theorem dL_law_1215 : decode cL_law 1215 = .ok (.iload 5, 2) := dk_21 5 (dk_at dksL_law_43 9 rfl rfl)
theorem dL_law_1217 : decode cL_law 1217 = .ok (.iconst 1, 1) := dk_4 (dk_at dksL_law_43 11 rfl rfl)
theorem dL_law_1218 : decode cL_law 1218 = .ok (.iadd, 1) := dk_96 (dk_at dksL_law_43 12 rfl rfl)
theorem dL_law_1219 : decode cL_law 1219 = .ok (.iaload, 1) := dk_46 (dk_at dksL_law_43 13 rfl rfl)
theorem dL_law_1220 : decode cL_law 1220 = .ok (.aload_n 0, 1) := dk_42 (dk_at dksL_law_43 14 rfl rfl)
theorem dL_law_1221 : decode cL_law 1221 = .ok (.iload 5, 2) := dk_21 5 (dk_at dksL_law_43 15 rfl rfl)
theorem dL_law_1223 : decode cL_law 1223 = .ok (.iconst 2, 1) := dk_5 (dk_at dksL_law_43 17 rfl rfl)
theorem dL_law_1224 : decode cL_law 1224 = .ok (.iadd, 1) := dk_96 (dk_at dksL_law_43 18 rfl rfl)
theorem dL_law_1225 : decode cL_law 1225 = .ok (.iaload, 1) := dk_46 (dk_at dksL_law_43 19 rfl rfl)
theorem dL_law_1226 : decode cL_law 1226 = .ok (.invokevirtual 229, 3) := dk_182 0 229 (dk_at dksL_law_43 20 rfl rfl)
theorem dL_law_1229 : decode cL_law 1229 = .ok (.istore 7, 2) := dk_54 7 (dk_at dksL_law_44 0 rfl rfl)
theorem dL_law_1231 : decode cL_law 1231 = .ok (.aload_n 2, 1) := dk_44 (dk_at dksL_law_44 2 rfl rfl)
theorem dL_law_1232 : decode cL_law 1232 = .ok (.invokevirtual 173, 3) := dk_182 0 173 (dk_at dksL_law_44 3 rfl rfl)
theorem dL_law_1235 : decode cL_law 1235 = .ok (.iload 6, 2) := dk_21 6 (dk_at dksL_law_44 6 rfl rfl)
theorem dL_law_1237 : decode cL_law 1237 = .ok (.if_icmp .eq 5, 3) := dk_159 0 5 (dk_at dksL_law_44 8 rfl rfl)
theorem dL_law_1240 : decode cL_law 1240 = .ok (.iconst 0, 1) := dk_3 (dk_at dksL_law_44 11 rfl rfl)
theorem dL_law_1241 : decode cL_law 1241 = .ok (.ireturn, 1) := dk_172 (dk_at dksL_law_44 12 rfl rfl)
theorem dL_law_1242 : decode cL_law 1242 = .ok (.iload 6, 2) := dk_21 6 (dk_at dksL_law_44 13 rfl rfl)
theorem dL_law_1244 : decode cL_law 1244 = .ok (.ifCond .ne 15, 3) := dk_154 0 15 (dk_at dksL_law_44 15 rfl rfl)
theorem dL_law_1247 : decode cL_law 1247 = .ok (.aload_n 3, 1) := dk_45 (dk_at dksL_law_44 18 rfl rfl)
theorem dL_law_1248 : decode cL_law 1248 = .ok (.iconst 0, 1) := dk_3 (dk_at dksL_law_44 19 rfl rfl)
theorem dL_law_1249 : decode cL_law 1249 = .ok (.laload, 1) := dk_47 (dk_at dksL_law_44 20 rfl rfl)
theorem dL_law_1250 : decode cL_law 1250 = .ok (.iload 7, 2) := dk_21 7 (dk_at dksL_law_44 21 rfl rfl)
theorem dL_law_1252 : decode cL_law 1252 = .ok (.i2l, 1) := dk_133 (dk_at dksL_law_44 23 rfl rfl)
theorem dL_law_1253 : decode cL_law 1253 = .ok (.lcmp, 1) := dk_148 (dk_at dksL_law_45 0 rfl rfl)
theorem dL_law_1254 : decode cL_law 1254 = .ok (.ifCond .eq 5, 3) := dk_153 0 5 (dk_at dksL_law_45 1 rfl rfl)
theorem dL_law_1257 : decode cL_law 1257 = .ok (.iconst 0, 1) := dk_3 (dk_at dksL_law_45 4 rfl rfl)
theorem dL_law_1258 : decode cL_law 1258 = .ok (.ireturn, 1) := dk_172 (dk_at dksL_law_45 5 rfl rfl)
theorem dL_law_1259 : decode cL_law 1259 = .ok (.goto 2118, 3) := dk_167 8 70 (dk_at dksL_law_45 6 rfl rfl)
theorem dL_law_1262 : decode cL_law 1262 = .ok (.aload_n 1, 1) := dk_43 (dk_at dksL_law_45 9 rfl rfl)
theorem dL_law_1263 : decode cL_law 1263 = .ok (.aload_n 0, 1) := dk_42 (dk_at dksL_law_45 10 rfl rfl)
theorem dL_law_1264 : decode cL_law 1264 = .ok (.iload 5, 2) := dk_21 5 (dk_at dksL_law_45 11 rfl rfl)
theorem dL_law_1266 : decode cL_law 1266 = .ok (.iconst 1, 1) := dk_4 (dk_at dksL_law_45 13 rfl rfl)
theorem dL_law_1267 : decode cL_law 1267 = .ok (.iadd, 1) := dk_96 (dk_at dksL_law_45 14 rfl rfl)
theorem dL_law_1268 : decode cL_law 1268 = .ok (.iaload, 1) := dk_46 (dk_at dksL_law_45 15 rfl rfl)
theorem dL_law_1269 : decode cL_law 1269 = .ok (.aload_n 0, 1) := dk_42 (dk_at dksL_law_45 16 rfl rfl)
theorem dL_law_1270 : decode cL_law 1270 = .ok (.iload 5, 2) := dk_21 5 (dk_at dksL_law_45 17 rfl rfl)
theorem dL_law_1272 : decode cL_law 1272 = .ok (.iconst 2, 1) := dk_5 (dk_at dksL_law_45 19 rfl rfl)
theorem dL_law_1273 : decode cL_law 1273 = .ok (.iadd, 1) := dk_96 (dk_at dksL_law_45 20 rfl rfl)
theorem dL_law_1274 : decode cL_law 1274 = .ok (.iaload, 1) := dk_46 (dk_at dksL_law_45 21 rfl rfl)
theorem dL_law_1275 : decode cL_law 1275 = .ok (.aload_n 3, 1) := dk_45 (dk_at dksL_law_45 22 rfl rfl)
theorem dL_law_1276 : decode cL_law 1276 = .ok (.invokestatic 230, 3) := dk_184 0 230 (dk_at dksL_law_46 0 rfl rfl)
theorem dL_law_1279 : decode cL_law 1279 = .ok (.istore 6, 2) := dk_54 6 (dk_at dksL_law_46 3 rfl rfl)
theorem dL_law_1281 : decode cL_law 1281 = .ok (.aload_n 2, 1) := dk_44 (dk_at dksL_law_46 5 rfl rfl)
theorem dL_law_1282 : decode cL_law 1282 = .ok (.aload_n 0, 1) := dk_42 (dk_at dksL_law_46 6 rfl rfl)
theorem dL_law_1283 : decode cL_law 1283 = .ok (.iload 5, 2) := dk_21 5 (dk_at dksL_law_46 7 rfl rfl)
theorem dL_law_1285 : decode cL_law 1285 = .ok (.iconst 1, 1) := dk_4 (dk_at dksL_law_46 9 rfl rfl)
theorem dL_law_1286 : decode cL_law 1286 = .ok (.iadd, 1) := dk_96 (dk_at dksL_law_46 10 rfl rfl)
theorem dL_law_1287 : decode cL_law 1287 = .ok (.iaload, 1) := dk_46 (dk_at dksL_law_46 11 rfl rfl)
theorem dL_law_1288 : decode cL_law 1288 = .ok (.aload_n 0, 1) := dk_42 (dk_at dksL_law_46 12 rfl rfl)
theorem dL_law_1289 : decode cL_law 1289 = .ok (.iload 5, 2) := dk_21 5 (dk_at dksL_law_46 13 rfl rfl)
theorem dL_law_1291 : decode cL_law 1291 = .ok (.iconst 2, 1) := dk_5 (dk_at dksL_law_46 15 rfl rfl)
theorem dL_law_1292 : decode cL_law 1292 = .ok (.iadd, 1) := dk_96 (dk_at dksL_law_46 16 rfl rfl)
theorem dL_law_1293 : decode cL_law 1293 = .ok (.iaload, 1) := dk_46 (dk_at dksL_law_46 17 rfl rfl)
theorem dL_law_1294 : decode cL_law 1294 = .ok (.invokevirtual 232, 3) := dk_182 0 232 (dk_at dksL_law_46 18 rfl rfl)
theorem dL_law_1297 : decode cL_law 1297 = .ok (.istore 7, 2) := dk_54 7 (dk_at dksL_law_46 21 rfl rfl)
theorem dL_law_1299 : decode cL_law 1299 = .ok (.aload_n 2, 1) := dk_44 (dk_at dksL_law_46 23 rfl rfl)
theorem dL_law_1300 : decode cL_law 1300 = .ok (.invokevirtual 173, 3) := dk_182 0 173 (dk_at dksL_law_47 0 rfl rfl)
theorem dL_law_1303 : decode cL_law 1303 = .ok (.iload 6, 2) := dk_21 6 (dk_at dksL_law_47 3 rfl rfl)
theorem dL_law_1305 : decode cL_law 1305 = .ok (.if_icmp .eq 5, 3) := dk_159 0 5 (dk_at dksL_law_47 5 rfl rfl)
theorem dL_law_1308 : decode cL_law 1308 = .ok (.iconst 0, 1) := dk_3 (dk_at dksL_law_47 8 rfl rfl)
theorem dL_law_1309 : decode cL_law 1309 = .ok (.ireturn, 1) := dk_172 (dk_at dksL_law_47 9 rfl rfl)
theorem dL_law_1310 : decode cL_law 1310 = .ok (.iload 6, 2) := dk_21 6 (dk_at dksL_law_47 10 rfl rfl)
theorem dL_law_1312 : decode cL_law 1312 = .ok (.ifCond .ne 15, 3) := dk_154 0 15 (dk_at dksL_law_47 12 rfl rfl)
theorem dL_law_1315 : decode cL_law 1315 = .ok (.aload_n 3, 1) := dk_45 (dk_at dksL_law_47 15 rfl rfl)
theorem dL_law_1316 : decode cL_law 1316 = .ok (.iconst 0, 1) := dk_3 (dk_at dksL_law_47 16 rfl rfl)
theorem dL_law_1317 : decode cL_law 1317 = .ok (.laload, 1) := dk_47 (dk_at dksL_law_47 17 rfl rfl)
theorem dL_law_1318 : decode cL_law 1318 = .ok (.iload 7, 2) := dk_21 7 (dk_at dksL_law_47 18 rfl rfl)
theorem dL_law_1320 : decode cL_law 1320 = .ok (.i2l, 1) := dk_133 (dk_at dksL_law_47 20 rfl rfl)
theorem dL_law_1321 : decode cL_law 1321 = .ok (.lcmp, 1) := dk_148 (dk_at dksL_law_47 21 rfl rfl)
theorem dL_law_1322 : decode cL_law 1322 = .ok (.ifCond .eq 5, 3) := dk_153 0 5 (dk_at dksL_law_48 0 rfl rfl)
theorem dL_law_1325 : decode cL_law 1325 = .ok (.iconst 0, 1) := dk_3 (dk_at dksL_law_48 3 rfl rfl)
theorem dL_law_1326 : decode cL_law 1326 = .ok (.ireturn, 1) := dk_172 (dk_at dksL_law_48 4 rfl rfl)
theorem dL_law_1327 : decode cL_law 1327 = .ok (.goto 2050, 3) := dk_167 8 2 (dk_at dksL_law_48 5 rfl rfl)
theorem dL_law_1330 : decode cL_law 1330 = .ok (.aload_n 1, 1) := dk_43 (dk_at dksL_law_48 8 rfl rfl)
theorem dL_law_1331 : decode cL_law 1331 = .ok (.aload_n 0, 1) := dk_42 (dk_at dksL_law_48 9 rfl rfl)
theorem dL_law_1332 : decode cL_law 1332 = .ok (.iload 5, 2) := dk_21 5 (dk_at dksL_law_48 10 rfl rfl)
theorem dL_law_1334 : decode cL_law 1334 = .ok (.iconst 1, 1) := dk_4 (dk_at dksL_law_48 12 rfl rfl)
theorem dL_law_1335 : decode cL_law 1335 = .ok (.iadd, 1) := dk_96 (dk_at dksL_law_48 13 rfl rfl)
theorem dL_law_1336 : decode cL_law 1336 = .ok (.iaload, 1) := dk_46 (dk_at dksL_law_48 14 rfl rfl)
theorem dL_law_1337 : decode cL_law 1337 = .ok (.aload_n 3, 1) := dk_45 (dk_at dksL_law_48 15 rfl rfl)
theorem dL_law_1338 : decode cL_law 1338 = .ok (.invokestatic 233, 3) := dk_184 0 233 (dk_at dksL_law_48 16 rfl rfl)
theorem dL_law_1341 : decode cL_law 1341 = .ok (.istore 6, 2) := dk_54 6 (dk_at dksL_law_48 19 rfl rfl)
theorem dL_law_1343 : decode cL_law 1343 = .ok (.aload_n 2, 1) := dk_44 (dk_at dksL_law_48 21 rfl rfl)
theorem dL_law_1344 : decode cL_law 1344 = .ok (.aload_n 0, 1) := dk_42 (dk_at dksL_law_48 22 rfl rfl)
theorem dL_law_1345 : decode cL_law 1345 = .ok (.iload 5, 2) := dk_21 5 (dk_at dksL_law_49 0 rfl rfl)
theorem dL_law_1347 : decode cL_law 1347 = .ok (.iconst 1, 1) := dk_4 (dk_at dksL_law_49 2 rfl rfl)
theorem dL_law_1348 : decode cL_law 1348 = .ok (.iadd, 1) := dk_96 (dk_at dksL_law_49 3 rfl rfl)
theorem dL_law_1349 : decode cL_law 1349 = .ok (.iaload, 1) := dk_46 (dk_at dksL_law_49 4 rfl rfl)
theorem dL_law_1350 : decode cL_law 1350 = .ok (.invokevirtual 235, 3) := dk_182 0 235 (dk_at dksL_law_49 5 rfl rfl)
theorem dL_law_1353 : decode cL_law 1353 = .ok (.istore 7, 2) := dk_54 7 (dk_at dksL_law_49 8 rfl rfl)
theorem dL_law_1355 : decode cL_law 1355 = .ok (.aload_n 2, 1) := dk_44 (dk_at dksL_law_49 10 rfl rfl)
theorem dL_law_1356 : decode cL_law 1356 = .ok (.invokevirtual 173, 3) := dk_182 0 173 (dk_at dksL_law_49 11 rfl rfl)
theorem dL_law_1359 : decode cL_law 1359 = .ok (.iload 6, 2) := dk_21 6 (dk_at dksL_law_49 14 rfl rfl)
theorem dL_law_1361 : decode cL_law 1361 = .ok (.if_icmp .eq 5, 3) := dk_159 0 5 (dk_at dksL_law_49 16 rfl rfl)
theorem dL_law_1364 : decode cL_law 1364 = .ok (.iconst 0, 1) := dk_3 (dk_at dksL_law_49 19 rfl rfl)
theorem dL_law_1365 : decode cL_law 1365 = .ok (.ireturn, 1) := dk_172 (dk_at dksL_law_49 20 rfl rfl)
theorem dL_law_1366 : decode cL_law 1366 = .ok (.iload 6, 2) := dk_21 6 (dk_at dksL_law_49 21 rfl rfl)
theorem dL_law_1368 : decode cL_law 1368 = .ok (.ifCond .ne 15, 3) := dk_154 0 15 (dk_at dksL_law_50 0 rfl rfl)
theorem dL_law_1371 : decode cL_law 1371 = .ok (.aload_n 3, 1) := dk_45 (dk_at dksL_law_50 3 rfl rfl)
theorem dL_law_1372 : decode cL_law 1372 = .ok (.iconst 0, 1) := dk_3 (dk_at dksL_law_50 4 rfl rfl)
theorem dL_law_1373 : decode cL_law 1373 = .ok (.laload, 1) := dk_47 (dk_at dksL_law_50 5 rfl rfl)
theorem dL_law_1374 : decode cL_law 1374 = .ok (.iload 7, 2) := dk_21 7 (dk_at dksL_law_50 6 rfl rfl)
theorem dL_law_1376 : decode cL_law 1376 = .ok (.i2l, 1) := dk_133 (dk_at dksL_law_50 8 rfl rfl)
theorem dL_law_1377 : decode cL_law 1377 = .ok (.lcmp, 1) := dk_148 (dk_at dksL_law_50 9 rfl rfl)
theorem dL_law_1378 : decode cL_law 1378 = .ok (.ifCond .eq 5, 3) := dk_153 0 5 (dk_at dksL_law_50 10 rfl rfl)
theorem dL_law_1381 : decode cL_law 1381 = .ok (.iconst 0, 1) := dk_3 (dk_at dksL_law_50 13 rfl rfl)
theorem dL_law_1382 : decode cL_law 1382 = .ok (.ireturn, 1) := dk_172 (dk_at dksL_law_50 14 rfl rfl)
theorem dL_law_1383 : decode cL_law 1383 = .ok (.goto 1994, 3) := dk_167 7 202 (dk_at dksL_law_50 15 rfl rfl)
theorem dL_law_1386 : decode cL_law 1386 = .ok (.aload_n 1, 1) := dk_43 (dk_at dksL_law_50 18 rfl rfl)
theorem dL_law_1387 : decode cL_law 1387 = .ok (.aload_n 0, 1) := dk_42 (dk_at dksL_law_50 19 rfl rfl)
theorem dL_law_1388 : decode cL_law 1388 = .ok (.iload 5, 2) := dk_21 5 (dk_at dksL_law_50 20 rfl rfl)
theorem dL_law_1390 : decode cL_law 1390 = .ok (.iconst 1, 1) := dk_4 (dk_at dksL_law_50 22 rfl rfl)
theorem dL_law_1391 : decode cL_law 1391 = .ok (.iadd, 1) := dk_96 (dk_at dksL_law_50 23 rfl rfl)
theorem dL_law_1392 : decode cL_law 1392 = .ok (.iaload, 1) := dk_46 (dk_at dksL_law_51 0 rfl rfl)
theorem dL_law_1393 : decode cL_law 1393 = .ok (.aload_n 3, 1) := dk_45 (dk_at dksL_law_51 1 rfl rfl)
theorem dL_law_1394 : decode cL_law 1394 = .ok (.invokestatic 236, 3) := dk_184 0 236 (dk_at dksL_law_51 2 rfl rfl)
theorem dL_law_1397 : decode cL_law 1397 = .ok (.istore 6, 2) := dk_54 6 (dk_at dksL_law_51 5 rfl rfl)
theorem dL_law_1399 : decode cL_law 1399 = .ok (.aload_n 2, 1) := dk_44 (dk_at dksL_law_51 7 rfl rfl)
theorem dL_law_1400 : decode cL_law 1400 = .ok (.aload_n 0, 1) := dk_42 (dk_at dksL_law_51 8 rfl rfl)
theorem dL_law_1401 : decode cL_law 1401 = .ok (.iload 5, 2) := dk_21 5 (dk_at dksL_law_51 9 rfl rfl)
theorem dL_law_1403 : decode cL_law 1403 = .ok (.iconst 1, 1) := dk_4 (dk_at dksL_law_51 11 rfl rfl)
theorem dL_law_1404 : decode cL_law 1404 = .ok (.iadd, 1) := dk_96 (dk_at dksL_law_51 12 rfl rfl)
theorem dL_law_1405 : decode cL_law 1405 = .ok (.iaload, 1) := dk_46 (dk_at dksL_law_51 13 rfl rfl)
theorem dL_law_1406 : decode cL_law 1406 = .ok (.invokevirtual 238, 3) := dk_182 0 238 (dk_at dksL_law_51 14 rfl rfl)
theorem dL_law_1409 : decode cL_law 1409 = .ok (.istore 7, 2) := dk_54 7 (dk_at dksL_law_51 17 rfl rfl)
theorem dL_law_1411 : decode cL_law 1411 = .ok (.aload_n 2, 1) := dk_44 (dk_at dksL_law_51 19 rfl rfl)
theorem dL_law_1412 : decode cL_law 1412 = .ok (.invokevirtual 173, 3) := dk_182 0 173 (dk_at dksL_law_51 20 rfl rfl)
theorem dL_law_1415 : decode cL_law 1415 = .ok (.iload 6, 2) := dk_21 6 (dk_at dksL_law_52 0 rfl rfl)
theorem dL_law_1417 : decode cL_law 1417 = .ok (.if_icmp .eq 5, 3) := dk_159 0 5 (dk_at dksL_law_52 2 rfl rfl)
theorem dL_law_1420 : decode cL_law 1420 = .ok (.iconst 0, 1) := dk_3 (dk_at dksL_law_52 5 rfl rfl)
theorem dL_law_1421 : decode cL_law 1421 = .ok (.ireturn, 1) := dk_172 (dk_at dksL_law_52 6 rfl rfl)
theorem dL_law_1422 : decode cL_law 1422 = .ok (.iload 6, 2) := dk_21 6 (dk_at dksL_law_52 7 rfl rfl)
theorem dL_law_1424 : decode cL_law 1424 = .ok (.ifCond .ne 15, 3) := dk_154 0 15 (dk_at dksL_law_52 9 rfl rfl)
theorem dL_law_1427 : decode cL_law 1427 = .ok (.aload_n 3, 1) := dk_45 (dk_at dksL_law_52 12 rfl rfl)
theorem dL_law_1428 : decode cL_law 1428 = .ok (.iconst 0, 1) := dk_3 (dk_at dksL_law_52 13 rfl rfl)
theorem dL_law_1429 : decode cL_law 1429 = .ok (.laload, 1) := dk_47 (dk_at dksL_law_52 14 rfl rfl)
theorem dL_law_1430 : decode cL_law 1430 = .ok (.iload 7, 2) := dk_21 7 (dk_at dksL_law_52 15 rfl rfl)
theorem dL_law_1432 : decode cL_law 1432 = .ok (.i2l, 1) := dk_133 (dk_at dksL_law_52 17 rfl rfl)
theorem dL_law_1433 : decode cL_law 1433 = .ok (.lcmp, 1) := dk_148 (dk_at dksL_law_52 18 rfl rfl)
theorem dL_law_1434 : decode cL_law 1434 = .ok (.ifCond .eq 5, 3) := dk_153 0 5 (dk_at dksL_law_52 19 rfl rfl)
theorem dL_law_1437 : decode cL_law 1437 = .ok (.iconst 0, 1) := dk_3 (dk_at dksL_law_52 22 rfl rfl)
theorem dL_law_1438 : decode cL_law 1438 = .ok (.ireturn, 1) := dk_172 (dk_at dksL_law_52 23 rfl rfl)
theorem dL_law_1439 : decode cL_law 1439 = .ok (.goto 1938, 3) := dk_167 7 146 (dk_at dksL_law_53 0 rfl rfl)
theorem dL_law_1442 : decode cL_law 1442 = .ok (.aload_n 1, 1) := dk_43 (dk_at dksL_law_53 3 rfl rfl)
theorem dL_law_1443 : decode cL_law 1443 = .ok (.aload_n 0, 1) := dk_42 (dk_at dksL_law_53 4 rfl rfl)
theorem dL_law_1444 : decode cL_law 1444 = .ok (.iload 5, 2) := dk_21 5 (dk_at dksL_law_53 5 rfl rfl)
theorem dL_law_1446 : decode cL_law 1446 = .ok (.iconst 1, 1) := dk_4 (dk_at dksL_law_53 7 rfl rfl)
theorem dL_law_1447 : decode cL_law 1447 = .ok (.iadd, 1) := dk_96 (dk_at dksL_law_53 8 rfl rfl)
theorem dL_law_1448 : decode cL_law 1448 = .ok (.iaload, 1) := dk_46 (dk_at dksL_law_53 9 rfl rfl)
theorem dL_law_1449 : decode cL_law 1449 = .ok (.aload_n 3, 1) := dk_45 (dk_at dksL_law_53 10 rfl rfl)
theorem dL_law_1450 : decode cL_law 1450 = .ok (.invokestatic 239, 3) := dk_184 0 239 (dk_at dksL_law_53 11 rfl rfl)
theorem dL_law_1453 : decode cL_law 1453 = .ok (.istore 6, 2) := dk_54 6 (dk_at dksL_law_53 14 rfl rfl)
theorem dL_law_1455 : decode cL_law 1455 = .ok (.aload_n 2, 1) := dk_44 (dk_at dksL_law_53 16 rfl rfl)
theorem dL_law_1456 : decode cL_law 1456 = .ok (.aload_n 0, 1) := dk_42 (dk_at dksL_law_53 17 rfl rfl)
theorem dL_law_1457 : decode cL_law 1457 = .ok (.iload 5, 2) := dk_21 5 (dk_at dksL_law_53 18 rfl rfl)
theorem dL_law_1459 : decode cL_law 1459 = .ok (.iconst 1, 1) := dk_4 (dk_at dksL_law_53 20 rfl rfl)
theorem dL_law_1460 : decode cL_law 1460 = .ok (.iadd, 1) := dk_96 (dk_at dksL_law_53 21 rfl rfl)
theorem dL_law_1461 : decode cL_law 1461 = .ok (.iaload, 1) := dk_46 (dk_at dksL_law_53 22 rfl rfl)
theorem dL_law_1462 : decode cL_law 1462 = .ok (.invokevirtual 241, 3) := dk_182 0 241 (dk_at dksL_law_54 0 rfl rfl)
theorem dL_law_1465 : decode cL_law 1465 = .ok (.istore 7, 2) := dk_54 7 (dk_at dksL_law_54 3 rfl rfl)
theorem dL_law_1467 : decode cL_law 1467 = .ok (.aload_n 2, 1) := dk_44 (dk_at dksL_law_54 5 rfl rfl)
theorem dL_law_1468 : decode cL_law 1468 = .ok (.invokevirtual 173, 3) := dk_182 0 173 (dk_at dksL_law_54 6 rfl rfl)
theorem dL_law_1471 : decode cL_law 1471 = .ok (.iload 6, 2) := dk_21 6 (dk_at dksL_law_54 9 rfl rfl)
theorem dL_law_1473 : decode cL_law 1473 = .ok (.if_icmp .eq 5, 3) := dk_159 0 5 (dk_at dksL_law_54 11 rfl rfl)
theorem dL_law_1476 : decode cL_law 1476 = .ok (.iconst 0, 1) := dk_3 (dk_at dksL_law_54 14 rfl rfl)
theorem dL_law_1477 : decode cL_law 1477 = .ok (.ireturn, 1) := dk_172 (dk_at dksL_law_54 15 rfl rfl)
theorem dL_law_1478 : decode cL_law 1478 = .ok (.iload 6, 2) := dk_21 6 (dk_at dksL_law_54 16 rfl rfl)
theorem dL_law_1480 : decode cL_law 1480 = .ok (.ifCond .ne 15, 3) := dk_154 0 15 (dk_at dksL_law_54 18 rfl rfl)
theorem dL_law_1483 : decode cL_law 1483 = .ok (.aload_n 3, 1) := dk_45 (dk_at dksL_law_54 21 rfl rfl)
theorem dL_law_1484 : decode cL_law 1484 = .ok (.iconst 0, 1) := dk_3 (dk_at dksL_law_54 22 rfl rfl)
theorem dL_law_1485 : decode cL_law 1485 = .ok (.laload, 1) := dk_47 (dk_at dksL_law_54 23 rfl rfl)
theorem dL_law_1486 : decode cL_law 1486 = .ok (.iload 7, 2) := dk_21 7 (dk_at dksL_law_55 0 rfl rfl)
theorem dL_law_1488 : decode cL_law 1488 = .ok (.i2l, 1) := dk_133 (dk_at dksL_law_55 2 rfl rfl)
theorem dL_law_1489 : decode cL_law 1489 = .ok (.lcmp, 1) := dk_148 (dk_at dksL_law_55 3 rfl rfl)
theorem dL_law_1490 : decode cL_law 1490 = .ok (.ifCond .eq 5, 3) := dk_153 0 5 (dk_at dksL_law_55 4 rfl rfl)
theorem dL_law_1493 : decode cL_law 1493 = .ok (.iconst 0, 1) := dk_3 (dk_at dksL_law_55 7 rfl rfl)
theorem dL_law_1494 : decode cL_law 1494 = .ok (.ireturn, 1) := dk_172 (dk_at dksL_law_55 8 rfl rfl)
theorem dL_law_1495 : decode cL_law 1495 = .ok (.goto 1882, 3) := dk_167 7 90 (dk_at dksL_law_55 9 rfl rfl)
theorem dL_law_1498 : decode cL_law 1498 = .ok (.aload_n 1, 1) := dk_43 (dk_at dksL_law_55 12 rfl rfl)
theorem dL_law_1499 : decode cL_law 1499 = .ok (.aload_n 0, 1) := dk_42 (dk_at dksL_law_55 13 rfl rfl)
theorem dL_law_1500 : decode cL_law 1500 = .ok (.iload 5, 2) := dk_21 5 (dk_at dksL_law_55 14 rfl rfl)
theorem dL_law_1502 : decode cL_law 1502 = .ok (.iconst 1, 1) := dk_4 (dk_at dksL_law_55 16 rfl rfl)
theorem dL_law_1503 : decode cL_law 1503 = .ok (.iadd, 1) := dk_96 (dk_at dksL_law_55 17 rfl rfl)
theorem dL_law_1504 : decode cL_law 1504 = .ok (.iaload, 1) := dk_46 (dk_at dksL_law_55 18 rfl rfl)
theorem dL_law_1505 : decode cL_law 1505 = .ok (.aload_n 0, 1) := dk_42 (dk_at dksL_law_55 19 rfl rfl)
theorem dL_law_1506 : decode cL_law 1506 = .ok (.iload 5, 2) := dk_21 5 (dk_at dksL_law_55 20 rfl rfl)
theorem dL_law_1508 : decode cL_law 1508 = .ok (.iconst 2, 1) := dk_5 (dk_at dksL_law_55 22 rfl rfl)
theorem dL_law_1509 : decode cL_law 1509 = .ok (.iadd, 1) := dk_96 (dk_at dksL_law_55 23 rfl rfl)
theorem dL_law_1510 : decode cL_law 1510 = .ok (.iaload, 1) := dk_46 (dk_at dksL_law_56 0 rfl rfl)
theorem dL_law_1511 : decode cL_law 1511 = .ok (.aload_n 3, 1) := dk_45 (dk_at dksL_law_56 1 rfl rfl)
theorem dL_law_1512 : decode cL_law 1512 = .ok (.invokestatic 242, 3) := dk_184 0 242 (dk_at dksL_law_56 2 rfl rfl)
theorem dL_law_1515 : decode cL_law 1515 = .ok (.istore 6, 2) := dk_54 6 (dk_at dksL_law_56 5 rfl rfl)
theorem dL_law_1517 : decode cL_law 1517 = .ok (.aload_n 2, 1) := dk_44 (dk_at dksL_law_56 7 rfl rfl)
theorem dL_law_1518 : decode cL_law 1518 = .ok (.aload_n 0, 1) := dk_42 (dk_at dksL_law_56 8 rfl rfl)
theorem dL_law_1519 : decode cL_law 1519 = .ok (.iload 5, 2) := dk_21 5 (dk_at dksL_law_56 9 rfl rfl)
theorem dL_law_1521 : decode cL_law 1521 = .ok (.iconst 1, 1) := dk_4 (dk_at dksL_law_56 11 rfl rfl)
theorem dL_law_1522 : decode cL_law 1522 = .ok (.iadd, 1) := dk_96 (dk_at dksL_law_56 12 rfl rfl)
theorem dL_law_1523 : decode cL_law 1523 = .ok (.iaload, 1) := dk_46 (dk_at dksL_law_56 13 rfl rfl)
theorem dL_law_1524 : decode cL_law 1524 = .ok (.aload_n 0, 1) := dk_42 (dk_at dksL_law_56 14 rfl rfl)
theorem dL_law_1525 : decode cL_law 1525 = .ok (.iload 5, 2) := dk_21 5 (dk_at dksL_law_56 15 rfl rfl)
theorem dL_law_1527 : decode cL_law 1527 = .ok (.iconst 2, 1) := dk_5 (dk_at dksL_law_56 17 rfl rfl)
theorem dL_law_1528 : decode cL_law 1528 = .ok (.iadd, 1) := dk_96 (dk_at dksL_law_56 18 rfl rfl)
theorem dL_law_1529 : decode cL_law 1529 = .ok (.iaload, 1) := dk_46 (dk_at dksL_law_56 19 rfl rfl)
theorem dL_law_1530 : decode cL_law 1530 = .ok (.invokevirtual 244, 3) := dk_182 0 244 (dk_at dksL_law_56 20 rfl rfl)
theorem dL_law_1533 : decode cL_law 1533 = .ok (.istore 7, 2) := dk_54 7 (dk_at dksL_law_57 0 rfl rfl)
theorem dL_law_1535 : decode cL_law 1535 = .ok (.aload_n 2, 1) := dk_44 (dk_at dksL_law_57 2 rfl rfl)
theorem dL_law_1536 : decode cL_law 1536 = .ok (.invokevirtual 173, 3) := dk_182 0 173 (dk_at dksL_law_57 3 rfl rfl)
theorem dL_law_1539 : decode cL_law 1539 = .ok (.iload 6, 2) := dk_21 6 (dk_at dksL_law_57 6 rfl rfl)
theorem dL_law_1541 : decode cL_law 1541 = .ok (.if_icmp .eq 5, 3) := dk_159 0 5 (dk_at dksL_law_57 8 rfl rfl)
theorem dL_law_1544 : decode cL_law 1544 = .ok (.iconst 0, 1) := dk_3 (dk_at dksL_law_57 11 rfl rfl)
theorem dL_law_1545 : decode cL_law 1545 = .ok (.ireturn, 1) := dk_172 (dk_at dksL_law_57 12 rfl rfl)
theorem dL_law_1546 : decode cL_law 1546 = .ok (.iload 6, 2) := dk_21 6 (dk_at dksL_law_57 13 rfl rfl)
theorem dL_law_1548 : decode cL_law 1548 = .ok (.ifCond .ne 15, 3) := dk_154 0 15 (dk_at dksL_law_57 15 rfl rfl)
theorem dL_law_1551 : decode cL_law 1551 = .ok (.aload_n 3, 1) := dk_45 (dk_at dksL_law_57 18 rfl rfl)
theorem dL_law_1552 : decode cL_law 1552 = .ok (.iconst 0, 1) := dk_3 (dk_at dksL_law_57 19 rfl rfl)
theorem dL_law_1553 : decode cL_law 1553 = .ok (.laload, 1) := dk_47 (dk_at dksL_law_57 20 rfl rfl)
theorem dL_law_1554 : decode cL_law 1554 = .ok (.iload 7, 2) := dk_21 7 (dk_at dksL_law_57 21 rfl rfl)
theorem dL_law_1556 : decode cL_law 1556 = .ok (.i2l, 1) := dk_133 (dk_at dksL_law_57 23 rfl rfl)
theorem dL_law_1557 : decode cL_law 1557 = .ok (.lcmp, 1) := dk_148 (dk_at dksL_law_58 0 rfl rfl)
theorem dL_law_1558 : decode cL_law 1558 = .ok (.ifCond .eq 5, 3) := dk_153 0 5 (dk_at dksL_law_58 1 rfl rfl)
theorem dL_law_1561 : decode cL_law 1561 = .ok (.iconst 0, 1) := dk_3 (dk_at dksL_law_58 4 rfl rfl)
theorem dL_law_1562 : decode cL_law 1562 = .ok (.ireturn, 1) := dk_172 (dk_at dksL_law_58 5 rfl rfl)
theorem dL_law_1563 : decode cL_law 1563 = .ok (.goto 1814, 3) := dk_167 7 22 (dk_at dksL_law_58 6 rfl rfl)
theorem dL_law_1566 : decode cL_law 1566 = .ok (.aload_n 1, 1) := dk_43 (dk_at dksL_law_58 9 rfl rfl)
theorem dL_law_1567 : decode cL_law 1567 = .ok (.aload_n 0, 1) := dk_42 (dk_at dksL_law_58 10 rfl rfl)
theorem dL_law_1568 : decode cL_law 1568 = .ok (.iload 5, 2) := dk_21 5 (dk_at dksL_law_58 11 rfl rfl)
theorem dL_law_1570 : decode cL_law 1570 = .ok (.iconst 1, 1) := dk_4 (dk_at dksL_law_58 13 rfl rfl)
theorem dL_law_1571 : decode cL_law 1571 = .ok (.iadd, 1) := dk_96 (dk_at dksL_law_58 14 rfl rfl)
theorem dL_law_1572 : decode cL_law 1572 = .ok (.iaload, 1) := dk_46 (dk_at dksL_law_58 15 rfl rfl)
theorem dL_law_1573 : decode cL_law 1573 = .ok (.aload_n 3, 1) := dk_45 (dk_at dksL_law_58 16 rfl rfl)
theorem dL_law_1574 : decode cL_law 1574 = .ok (.invokestatic 245, 3) := dk_184 0 245 (dk_at dksL_law_58 17 rfl rfl)
theorem dL_law_1577 : decode cL_law 1577 = .ok (.istore 6, 2) := dk_54 6 (dk_at dksL_law_58 20 rfl rfl)
theorem dL_law_1579 : decode cL_law 1579 = .ok (.aload_n 2, 1) := dk_44 (dk_at dksL_law_58 22 rfl rfl)
theorem dL_law_1580 : decode cL_law 1580 = .ok (.aload_n 0, 1) := dk_42 (dk_at dksL_law_58 23 rfl rfl)
theorem dL_law_1581 : decode cL_law 1581 = .ok (.iload 5, 2) := dk_21 5 (dk_at dksL_law_59 0 rfl rfl)
theorem dL_law_1583 : decode cL_law 1583 = .ok (.iconst 1, 1) := dk_4 (dk_at dksL_law_59 2 rfl rfl)
theorem dL_law_1584 : decode cL_law 1584 = .ok (.iadd, 1) := dk_96 (dk_at dksL_law_59 3 rfl rfl)
theorem dL_law_1585 : decode cL_law 1585 = .ok (.iaload, 1) := dk_46 (dk_at dksL_law_59 4 rfl rfl)
theorem dL_law_1586 : decode cL_law 1586 = .ok (.invokevirtual 247, 3) := dk_182 0 247 (dk_at dksL_law_59 5 rfl rfl)
theorem dL_law_1589 : decode cL_law 1589 = .ok (.istore 7, 2) := dk_54 7 (dk_at dksL_law_59 8 rfl rfl)
theorem dL_law_1591 : decode cL_law 1591 = .ok (.aload_n 2, 1) := dk_44 (dk_at dksL_law_59 10 rfl rfl)
theorem dL_law_1592 : decode cL_law 1592 = .ok (.invokevirtual 173, 3) := dk_182 0 173 (dk_at dksL_law_59 11 rfl rfl)
theorem dL_law_1595 : decode cL_law 1595 = .ok (.iload 6, 2) := dk_21 6 (dk_at dksL_law_59 14 rfl rfl)
theorem dL_law_1597 : decode cL_law 1597 = .ok (.if_icmp .eq 5, 3) := dk_159 0 5 (dk_at dksL_law_59 16 rfl rfl)
theorem dL_law_1600 : decode cL_law 1600 = .ok (.iconst 0, 1) := dk_3 (dk_at dksL_law_59 19 rfl rfl)
theorem dL_law_1601 : decode cL_law 1601 = .ok (.ireturn, 1) := dk_172 (dk_at dksL_law_59 20 rfl rfl)
theorem dL_law_1602 : decode cL_law 1602 = .ok (.iload 6, 2) := dk_21 6 (dk_at dksL_law_59 21 rfl rfl)
theorem dL_law_1604 : decode cL_law 1604 = .ok (.ifCond .ne 15, 3) := dk_154 0 15 (dk_at dksL_law_60 0 rfl rfl)
theorem dL_law_1607 : decode cL_law 1607 = .ok (.aload_n 3, 1) := dk_45 (dk_at dksL_law_60 3 rfl rfl)
theorem dL_law_1608 : decode cL_law 1608 = .ok (.iconst 0, 1) := dk_3 (dk_at dksL_law_60 4 rfl rfl)
theorem dL_law_1609 : decode cL_law 1609 = .ok (.laload, 1) := dk_47 (dk_at dksL_law_60 5 rfl rfl)
theorem dL_law_1610 : decode cL_law 1610 = .ok (.iload 7, 2) := dk_21 7 (dk_at dksL_law_60 6 rfl rfl)
theorem dL_law_1612 : decode cL_law 1612 = .ok (.i2l, 1) := dk_133 (dk_at dksL_law_60 8 rfl rfl)
theorem dL_law_1613 : decode cL_law 1613 = .ok (.lcmp, 1) := dk_148 (dk_at dksL_law_60 9 rfl rfl)
theorem dL_law_1614 : decode cL_law 1614 = .ok (.ifCond .eq 5, 3) := dk_153 0 5 (dk_at dksL_law_60 10 rfl rfl)
theorem dL_law_1617 : decode cL_law 1617 = .ok (.iconst 0, 1) := dk_3 (dk_at dksL_law_60 13 rfl rfl)
theorem dL_law_1618 : decode cL_law 1618 = .ok (.ireturn, 1) := dk_172 (dk_at dksL_law_60 14 rfl rfl)
theorem dL_law_1619 : decode cL_law 1619 = .ok (.goto 1758, 3) := dk_167 6 222 (dk_at dksL_law_60 15 rfl rfl)
theorem dL_law_1622 : decode cL_law 1622 = .ok (.aload_n 1, 1) := dk_43 (dk_at dksL_law_60 18 rfl rfl)
theorem dL_law_1623 : decode cL_law 1623 = .ok (.aload_n 0, 1) := dk_42 (dk_at dksL_law_60 19 rfl rfl)
theorem dL_law_1624 : decode cL_law 1624 = .ok (.iload 5, 2) := dk_21 5 (dk_at dksL_law_60 20 rfl rfl)
theorem dL_law_1626 : decode cL_law 1626 = .ok (.iconst 1, 1) := dk_4 (dk_at dksL_law_60 22 rfl rfl)
theorem dL_law_1627 : decode cL_law 1627 = .ok (.iadd, 1) := dk_96 (dk_at dksL_law_60 23 rfl rfl)
theorem dL_law_1628 : decode cL_law 1628 = .ok (.iaload, 1) := dk_46 (dk_at dksL_law_61 0 rfl rfl)
theorem dL_law_1629 : decode cL_law 1629 = .ok (.aload_n 3, 1) := dk_45 (dk_at dksL_law_61 1 rfl rfl)
theorem dL_law_1630 : decode cL_law 1630 = .ok (.invokestatic 248, 3) := dk_184 0 248 (dk_at dksL_law_61 2 rfl rfl)
theorem dL_law_1633 : decode cL_law 1633 = .ok (.istore 6, 2) := dk_54 6 (dk_at dksL_law_61 5 rfl rfl)
theorem dL_law_1635 : decode cL_law 1635 = .ok (.aload_n 2, 1) := dk_44 (dk_at dksL_law_61 7 rfl rfl)
theorem dL_law_1636 : decode cL_law 1636 = .ok (.aload_n 0, 1) := dk_42 (dk_at dksL_law_61 8 rfl rfl)
theorem dL_law_1637 : decode cL_law 1637 = .ok (.iload 5, 2) := dk_21 5 (dk_at dksL_law_61 9 rfl rfl)
theorem dL_law_1639 : decode cL_law 1639 = .ok (.iconst 1, 1) := dk_4 (dk_at dksL_law_61 11 rfl rfl)
theorem dL_law_1640 : decode cL_law 1640 = .ok (.iadd, 1) := dk_96 (dk_at dksL_law_61 12 rfl rfl)
theorem dL_law_1641 : decode cL_law 1641 = .ok (.iaload, 1) := dk_46 (dk_at dksL_law_61 13 rfl rfl)
theorem dL_law_1642 : decode cL_law 1642 = .ok (.invokevirtual 250, 3) := dk_182 0 250 (dk_at dksL_law_61 14 rfl rfl)
theorem dL_law_1645 : decode cL_law 1645 = .ok (.istore 7, 2) := dk_54 7 (dk_at dksL_law_61 17 rfl rfl)
theorem dL_law_1647 : decode cL_law 1647 = .ok (.aload_n 2, 1) := dk_44 (dk_at dksL_law_61 19 rfl rfl)
theorem dL_law_1648 : decode cL_law 1648 = .ok (.invokevirtual 173, 3) := dk_182 0 173 (dk_at dksL_law_61 20 rfl rfl)
theorem dL_law_1651 : decode cL_law 1651 = .ok (.iload 6, 2) := dk_21 6 (dk_at dksL_law_62 0 rfl rfl)
theorem dL_law_1653 : decode cL_law 1653 = .ok (.if_icmp .eq 5, 3) := dk_159 0 5 (dk_at dksL_law_62 2 rfl rfl)
theorem dL_law_1656 : decode cL_law 1656 = .ok (.iconst 0, 1) := dk_3 (dk_at dksL_law_62 5 rfl rfl)
theorem dL_law_1657 : decode cL_law 1657 = .ok (.ireturn, 1) := dk_172 (dk_at dksL_law_62 6 rfl rfl)
theorem dL_law_1658 : decode cL_law 1658 = .ok (.iload 6, 2) := dk_21 6 (dk_at dksL_law_62 7 rfl rfl)
theorem dL_law_1660 : decode cL_law 1660 = .ok (.ifCond .ne 15, 3) := dk_154 0 15 (dk_at dksL_law_62 9 rfl rfl)
theorem dL_law_1663 : decode cL_law 1663 = .ok (.aload_n 3, 1) := dk_45 (dk_at dksL_law_62 12 rfl rfl)
theorem dL_law_1664 : decode cL_law 1664 = .ok (.iconst 0, 1) := dk_3 (dk_at dksL_law_62 13 rfl rfl)
theorem dL_law_1665 : decode cL_law 1665 = .ok (.laload, 1) := dk_47 (dk_at dksL_law_62 14 rfl rfl)
theorem dL_law_1666 : decode cL_law 1666 = .ok (.iload 7, 2) := dk_21 7 (dk_at dksL_law_62 15 rfl rfl)
theorem dL_law_1668 : decode cL_law 1668 = .ok (.i2l, 1) := dk_133 (dk_at dksL_law_62 17 rfl rfl)
theorem dL_law_1669 : decode cL_law 1669 = .ok (.lcmp, 1) := dk_148 (dk_at dksL_law_62 18 rfl rfl)
theorem dL_law_1670 : decode cL_law 1670 = .ok (.ifCond .eq 5, 3) := dk_153 0 5 (dk_at dksL_law_62 19 rfl rfl)
theorem dL_law_1673 : decode cL_law 1673 = .ok (.iconst 0, 1) := dk_3 (dk_at dksL_law_62 22 rfl rfl)
theorem dL_law_1674 : decode cL_law 1674 = .ok (.ireturn, 1) := dk_172 (dk_at dksL_law_62 23 rfl rfl)
theorem dL_law_1675 : decode cL_law 1675 = .ok (.goto 1702, 3) := dk_167 6 166 (dk_at dksL_law_63 0 rfl rfl)
theorem dL_law_1678 : decode cL_law 1678 = .ok (.aload_n 1, 1) := dk_43 (dk_at dksL_law_63 3 rfl rfl)
theorem dL_law_1679 : decode cL_law 1679 = .ok (.aload_n 0, 1) := dk_42 (dk_at dksL_law_63 4 rfl rfl)
theorem dL_law_1680 : decode cL_law 1680 = .ok (.iload 5, 2) := dk_21 5 (dk_at dksL_law_63 5 rfl rfl)
theorem dL_law_1682 : decode cL_law 1682 = .ok (.iconst 1, 1) := dk_4 (dk_at dksL_law_63 7 rfl rfl)
theorem dL_law_1683 : decode cL_law 1683 = .ok (.iadd, 1) := dk_96 (dk_at dksL_law_63 8 rfl rfl)
theorem dL_law_1684 : decode cL_law 1684 = .ok (.iaload, 1) := dk_46 (dk_at dksL_law_63 9 rfl rfl)
theorem dL_law_1685 : decode cL_law 1685 = .ok (.aload_n 3, 1) := dk_45 (dk_at dksL_law_63 10 rfl rfl)
theorem dL_law_1686 : decode cL_law 1686 = .ok (.invokestatic 251, 3) := dk_184 0 251 (dk_at dksL_law_63 11 rfl rfl)
theorem dL_law_1689 : decode cL_law 1689 = .ok (.istore 6, 2) := dk_54 6 (dk_at dksL_law_63 14 rfl rfl)
theorem dL_law_1691 : decode cL_law 1691 = .ok (.aload_n 2, 1) := dk_44 (dk_at dksL_law_63 16 rfl rfl)
theorem dL_law_1692 : decode cL_law 1692 = .ok (.aload_n 0, 1) := dk_42 (dk_at dksL_law_63 17 rfl rfl)
theorem dL_law_1693 : decode cL_law 1693 = .ok (.iload 5, 2) := dk_21 5 (dk_at dksL_law_63 18 rfl rfl)
theorem dL_law_1695 : decode cL_law 1695 = .ok (.iconst 1, 1) := dk_4 (dk_at dksL_law_63 20 rfl rfl)
theorem dL_law_1696 : decode cL_law 1696 = .ok (.iadd, 1) := dk_96 (dk_at dksL_law_63 21 rfl rfl)
theorem dL_law_1697 : decode cL_law 1697 = .ok (.iaload, 1) := dk_46 (dk_at dksL_law_63 22 rfl rfl)
theorem dL_law_1698 : decode cL_law 1698 = .ok (.invokevirtual 253, 3) := dk_182 0 253 (dk_at dksL_law_64 0 rfl rfl)
theorem dL_law_1701 : decode cL_law 1701 = .ok (.istore 7, 2) := dk_54 7 (dk_at dksL_law_64 3 rfl rfl)
theorem dL_law_1703 : decode cL_law 1703 = .ok (.aload_n 2, 1) := dk_44 (dk_at dksL_law_64 5 rfl rfl)
theorem dL_law_1704 : decode cL_law 1704 = .ok (.invokevirtual 173, 3) := dk_182 0 173 (dk_at dksL_law_64 6 rfl rfl)
theorem dL_law_1707 : decode cL_law 1707 = .ok (.iload 6, 2) := dk_21 6 (dk_at dksL_law_64 9 rfl rfl)
theorem dL_law_1709 : decode cL_law 1709 = .ok (.if_icmp .eq 5, 3) := dk_159 0 5 (dk_at dksL_law_64 11 rfl rfl)
theorem dL_law_1712 : decode cL_law 1712 = .ok (.iconst 0, 1) := dk_3 (dk_at dksL_law_64 14 rfl rfl)
theorem dL_law_1713 : decode cL_law 1713 = .ok (.ireturn, 1) := dk_172 (dk_at dksL_law_64 15 rfl rfl)
theorem dL_law_1714 : decode cL_law 1714 = .ok (.iload 6, 2) := dk_21 6 (dk_at dksL_law_64 16 rfl rfl)
theorem dL_law_1716 : decode cL_law 1716 = .ok (.ifCond .ne 22, 3) := dk_154 0 22 (dk_at dksL_law_64 18 rfl rfl)
theorem dL_law_1719 : decode cL_law 1719 = .ok (.aload_n 3, 1) := dk_45 (dk_at dksL_law_64 21 rfl rfl)
theorem dL_law_1720 : decode cL_law 1720 = .ok (.iconst 0, 1) := dk_3 (dk_at dksL_law_64 22 rfl rfl)
theorem dL_law_1721 : decode cL_law 1721 = .ok (.laload, 1) := dk_47 (dk_at dksL_law_64 23 rfl rfl)
theorem dL_law_1722 : decode cL_law 1722 = .ok (.iload 7, 2) := dk_21 7 (dk_at dksL_law_65 0 rfl rfl)
theorem dL_law_1724 : decode cL_law 1724 = .ok (.ifCond .eq 7, 3) := dk_153 0 7 (dk_at dksL_law_65 2 rfl rfl)
theorem dL_law_1727 : decode cL_law 1727 = .ok (.lconst 1, 1) := dk_10 (dk_at dksL_law_65 5 rfl rfl)
theorem dL_law_1728 : decode cL_law 1728 = .ok (.goto 4, 3) := dk_167 0 4 (dk_at dksL_law_65 6 rfl rfl)
theorem dL_law_1731 : decode cL_law 1731 = .ok (.lconst 0, 1) := dk_9 (dk_at dksL_law_65 9 rfl rfl)
theorem dL_law_1732 : decode cL_law 1732 = .ok (.lcmp, 1) := dk_148 (dk_at dksL_law_65 10 rfl rfl)
theorem dL_law_1733 : decode cL_law 1733 = .ok (.ifCond .eq 5, 3) := dk_153 0 5 (dk_at dksL_law_65 11 rfl rfl)
theorem dL_law_1736 : decode cL_law 1736 = .ok (.iconst 0, 1) := dk_3 (dk_at dksL_law_65 14 rfl rfl)
theorem dL_law_1737 : decode cL_law 1737 = .ok (.ireturn, 1) := dk_172 (dk_at dksL_law_65 15 rfl rfl)
theorem dL_law_1738 : decode cL_law 1738 = .ok (.goto 1639, 3) := dk_167 6 103 (dk_at dksL_law_65 16 rfl rfl)
theorem dL_law_1741 : decode cL_law 1741 = .ok (.aload_n 1, 1) := dk_43 (dk_at dksL_law_65 19 rfl rfl)
theorem dL_law_1742 : decode cL_law 1742 = .ok (.aload_n 0, 1) := dk_42 (dk_at dksL_law_65 20 rfl rfl)
theorem dL_law_1743 : decode cL_law 1743 = .ok (.iload 5, 2) := dk_21 5 (dk_at dksL_law_65 21 rfl rfl)
theorem dL_law_1745 : decode cL_law 1745 = .ok (.iconst 1, 1) := dk_4 (dk_at dksL_law_65 23 rfl rfl)
theorem dL_law_1746 : decode cL_law 1746 = .ok (.iadd, 1) := dk_96 (dk_at dksL_law_66 0 rfl rfl)
theorem dL_law_1747 : decode cL_law 1747 = .ok (.iaload, 1) := dk_46 (dk_at dksL_law_66 1 rfl rfl)
theorem dL_law_1748 : decode cL_law 1748 = .ok (.aload_n 0, 1) := dk_42 (dk_at dksL_law_66 2 rfl rfl)
theorem dL_law_1749 : decode cL_law 1749 = .ok (.iload 5, 2) := dk_21 5 (dk_at dksL_law_66 3 rfl rfl)
theorem dL_law_1751 : decode cL_law 1751 = .ok (.iconst 2, 1) := dk_5 (dk_at dksL_law_66 5 rfl rfl)
theorem dL_law_1752 : decode cL_law 1752 = .ok (.iadd, 1) := dk_96 (dk_at dksL_law_66 6 rfl rfl)
theorem dL_law_1753 : decode cL_law 1753 = .ok (.iaload, 1) := dk_46 (dk_at dksL_law_66 7 rfl rfl)
theorem dL_law_1754 : decode cL_law 1754 = .ok (.aload_n 3, 1) := dk_45 (dk_at dksL_law_66 8 rfl rfl)
theorem dL_law_1755 : decode cL_law 1755 = .ok (.invokestatic 254, 3) := dk_184 0 254 (dk_at dksL_law_66 9 rfl rfl)
theorem dL_law_1758 : decode cL_law 1758 = .ok (.istore 6, 2) := dk_54 6 (dk_at dksL_law_66 12 rfl rfl)
theorem dL_law_1760 : decode cL_law 1760 = .ok (.aload_n 2, 1) := dk_44 (dk_at dksL_law_66 14 rfl rfl)
theorem dL_law_1761 : decode cL_law 1761 = .ok (.aload_n 0, 1) := dk_42 (dk_at dksL_law_66 15 rfl rfl)
theorem dL_law_1762 : decode cL_law 1762 = .ok (.iload 5, 2) := dk_21 5 (dk_at dksL_law_66 16 rfl rfl)
theorem dL_law_1764 : decode cL_law 1764 = .ok (.iconst 1, 1) := dk_4 (dk_at dksL_law_66 18 rfl rfl)
theorem dL_law_1765 : decode cL_law 1765 = .ok (.iadd, 1) := dk_96 (dk_at dksL_law_66 19 rfl rfl)
theorem dL_law_1766 : decode cL_law 1766 = .ok (.iaload, 1) := dk_46 (dk_at dksL_law_66 20 rfl rfl)
theorem dL_law_1767 : decode cL_law 1767 = .ok (.aload_n 0, 1) := dk_42 (dk_at dksL_law_66 21 rfl rfl)
theorem dL_law_1768 : decode cL_law 1768 = .ok (.iload 5, 2) := dk_21 5 (dk_at dksL_law_66 22 rfl rfl)
theorem dL_law_1770 : decode cL_law 1770 = .ok (.iconst 2, 1) := dk_5 (dk_at dksL_law_67 0 rfl rfl)
theorem dL_law_1771 : decode cL_law 1771 = .ok (.iadd, 1) := dk_96 (dk_at dksL_law_67 1 rfl rfl)
theorem dL_law_1772 : decode cL_law 1772 = .ok (.iaload, 1) := dk_46 (dk_at dksL_law_67 2 rfl rfl)
theorem dL_law_1773 : decode cL_law 1773 = .ok (.invokevirtual 256, 3) := dk_182 1 0 (dk_at dksL_law_67 3 rfl rfl)
theorem dL_law_1776 : decode cL_law 1776 = .ok (.istore 7, 2) := dk_54 7 (dk_at dksL_law_67 6 rfl rfl)
theorem dL_law_1778 : decode cL_law 1778 = .ok (.aload_n 2, 1) := dk_44 (dk_at dksL_law_67 8 rfl rfl)
theorem dL_law_1779 : decode cL_law 1779 = .ok (.invokevirtual 173, 3) := dk_182 0 173 (dk_at dksL_law_67 9 rfl rfl)
theorem dL_law_1782 : decode cL_law 1782 = .ok (.iload 6, 2) := dk_21 6 (dk_at dksL_law_67 12 rfl rfl)
theorem dL_law_1784 : decode cL_law 1784 = .ok (.if_icmp .eq 5, 3) := dk_159 0 5 (dk_at dksL_law_67 14 rfl rfl)
theorem dL_law_1787 : decode cL_law 1787 = .ok (.iconst 0, 1) := dk_3 (dk_at dksL_law_67 17 rfl rfl)
theorem dL_law_1788 : decode cL_law 1788 = .ok (.ireturn, 1) := dk_172 (dk_at dksL_law_67 18 rfl rfl)
theorem dL_law_1789 : decode cL_law 1789 = .ok (.iload 6, 2) := dk_21 6 (dk_at dksL_law_67 19 rfl rfl)
theorem dL_law_1791 : decode cL_law 1791 = .ok (.ifCond .ne 22, 3) := dk_154 0 22 (dk_at dksL_law_67 21 rfl rfl)
theorem dL_law_1794 : decode cL_law 1794 = .ok (.aload_n 3, 1) := dk_45 (dk_at dksL_law_68 0 rfl rfl)
theorem dL_law_1795 : decode cL_law 1795 = .ok (.iconst 0, 1) := dk_3 (dk_at dksL_law_68 1 rfl rfl)
theorem dL_law_1796 : decode cL_law 1796 = .ok (.laload, 1) := dk_47 (dk_at dksL_law_68 2 rfl rfl)
theorem dL_law_1797 : decode cL_law 1797 = .ok (.iload 7, 2) := dk_21 7 (dk_at dksL_law_68 3 rfl rfl)
theorem dL_law_1799 : decode cL_law 1799 = .ok (.ifCond .eq 7, 3) := dk_153 0 7 (dk_at dksL_law_68 5 rfl rfl)
theorem dL_law_1802 : decode cL_law 1802 = .ok (.lconst 1, 1) := dk_10 (dk_at dksL_law_68 8 rfl rfl)
theorem dL_law_1803 : decode cL_law 1803 = .ok (.goto 4, 3) := dk_167 0 4 (dk_at dksL_law_68 9 rfl rfl)
theorem dL_law_1806 : decode cL_law 1806 = .ok (.lconst 0, 1) := dk_9 (dk_at dksL_law_68 12 rfl rfl)
theorem dL_law_1807 : decode cL_law 1807 = .ok (.lcmp, 1) := dk_148 (dk_at dksL_law_68 13 rfl rfl)
theorem dL_law_1808 : decode cL_law 1808 = .ok (.ifCond .eq 5, 3) := dk_153 0 5 (dk_at dksL_law_68 14 rfl rfl)
theorem dL_law_1811 : decode cL_law 1811 = .ok (.iconst 0, 1) := dk_3 (dk_at dksL_law_68 17 rfl rfl)
theorem dL_law_1812 : decode cL_law 1812 = .ok (.ireturn, 1) := dk_172 (dk_at dksL_law_68 18 rfl rfl)
theorem dL_law_1813 : decode cL_law 1813 = .ok (.goto 1564, 3) := dk_167 6 28 (dk_at dksL_law_68 19 rfl rfl)
theorem dL_law_1816 : decode cL_law 1816 = .ok (.aload_n 1, 1) := dk_43 (dk_at dksL_law_68 22 rfl rfl)
theorem dL_law_1817 : decode cL_law 1817 = .ok (.aload_n 0, 1) := dk_42 (dk_at dksL_law_68 23 rfl rfl)
theorem dL_law_1818 : decode cL_law 1818 = .ok (.iload 5, 2) := dk_21 5 (dk_at dksL_law_69 0 rfl rfl)
theorem dL_law_1820 : decode cL_law 1820 = .ok (.iconst 1, 1) := dk_4 (dk_at dksL_law_69 2 rfl rfl)
theorem dL_law_1821 : decode cL_law 1821 = .ok (.iadd, 1) := dk_96 (dk_at dksL_law_69 3 rfl rfl)
theorem dL_law_1822 : decode cL_law 1822 = .ok (.iaload, 1) := dk_46 (dk_at dksL_law_69 4 rfl rfl)
theorem dL_law_1823 : decode cL_law 1823 = .ok (.aload_n 0, 1) := dk_42 (dk_at dksL_law_69 5 rfl rfl)
theorem dL_law_1824 : decode cL_law 1824 = .ok (.iload 5, 2) := dk_21 5 (dk_at dksL_law_69 6 rfl rfl)
theorem dL_law_1826 : decode cL_law 1826 = .ok (.iconst 2, 1) := dk_5 (dk_at dksL_law_69 8 rfl rfl)
theorem dL_law_1827 : decode cL_law 1827 = .ok (.iadd, 1) := dk_96 (dk_at dksL_law_69 9 rfl rfl)
theorem dL_law_1828 : decode cL_law 1828 = .ok (.iaload, 1) := dk_46 (dk_at dksL_law_69 10 rfl rfl)
theorem dL_law_1829 : decode cL_law 1829 = .ok (.aload_n 3, 1) := dk_45 (dk_at dksL_law_69 11 rfl rfl)
theorem dL_law_1830 : decode cL_law 1830 = .ok (.invokestatic 257, 3) := dk_184 1 1 (dk_at dksL_law_69 12 rfl rfl)
theorem dL_law_1833 : decode cL_law 1833 = .ok (.istore 6, 2) := dk_54 6 (dk_at dksL_law_69 15 rfl rfl)
theorem dL_law_1835 : decode cL_law 1835 = .ok (.aload_n 2, 1) := dk_44 (dk_at dksL_law_69 17 rfl rfl)
theorem dL_law_1836 : decode cL_law 1836 = .ok (.aload_n 0, 1) := dk_42 (dk_at dksL_law_69 18 rfl rfl)
theorem dL_law_1837 : decode cL_law 1837 = .ok (.iload 5, 2) := dk_21 5 (dk_at dksL_law_69 19 rfl rfl)
theorem dL_law_1839 : decode cL_law 1839 = .ok (.iconst 1, 1) := dk_4 (dk_at dksL_law_69 21 rfl rfl)
theorem dL_law_1840 : decode cL_law 1840 = .ok (.iadd, 1) := dk_96 (dk_at dksL_law_69 22 rfl rfl)
theorem dL_law_1841 : decode cL_law 1841 = .ok (.iaload, 1) := dk_46 (dk_at dksL_law_69 23 rfl rfl)
theorem dL_law_1842 : decode cL_law 1842 = .ok (.aload_n 0, 1) := dk_42 (dk_at dksL_law_70 0 rfl rfl)
theorem dL_law_1843 : decode cL_law 1843 = .ok (.iload 5, 2) := dk_21 5 (dk_at dksL_law_70 1 rfl rfl)
theorem dL_law_1845 : decode cL_law 1845 = .ok (.iconst 2, 1) := dk_5 (dk_at dksL_law_70 3 rfl rfl)
theorem dL_law_1846 : decode cL_law 1846 = .ok (.iadd, 1) := dk_96 (dk_at dksL_law_70 4 rfl rfl)
theorem dL_law_1847 : decode cL_law 1847 = .ok (.iaload, 1) := dk_46 (dk_at dksL_law_70 5 rfl rfl)
theorem dL_law_1848 : decode cL_law 1848 = .ok (.invokevirtual 259, 3) := dk_182 1 3 (dk_at dksL_law_70 6 rfl rfl)
theorem dL_law_1851 : decode cL_law 1851 = .ok (.istore 7, 2) := dk_54 7 (dk_at dksL_law_70 9 rfl rfl)
theorem dL_law_1853 : decode cL_law 1853 = .ok (.aload_n 2, 1) := dk_44 (dk_at dksL_law_70 11 rfl rfl)
theorem dL_law_1854 : decode cL_law 1854 = .ok (.invokevirtual 173, 3) := dk_182 0 173 (dk_at dksL_law_70 12 rfl rfl)
theorem dL_law_1857 : decode cL_law 1857 = .ok (.iload 6, 2) := dk_21 6 (dk_at dksL_law_70 15 rfl rfl)
theorem dL_law_1859 : decode cL_law 1859 = .ok (.if_icmp .eq 5, 3) := dk_159 0 5 (dk_at dksL_law_70 17 rfl rfl)
theorem dL_law_1862 : decode cL_law 1862 = .ok (.iconst 0, 1) := dk_3 (dk_at dksL_law_70 20 rfl rfl)
theorem dL_law_1863 : decode cL_law 1863 = .ok (.ireturn, 1) := dk_172 (dk_at dksL_law_70 21 rfl rfl)
theorem dL_law_1864 : decode cL_law 1864 = .ok (.iload 6, 2) := dk_21 6 (dk_at dksL_law_70 22 rfl rfl)
theorem dL_law_1866 : decode cL_law 1866 = .ok (.ifCond .ne 22, 3) := dk_154 0 22 (dk_at dksL_law_71 0 rfl rfl)
theorem dL_law_1869 : decode cL_law 1869 = .ok (.aload_n 3, 1) := dk_45 (dk_at dksL_law_71 3 rfl rfl)
theorem dL_law_1870 : decode cL_law 1870 = .ok (.iconst 0, 1) := dk_3 (dk_at dksL_law_71 4 rfl rfl)
theorem dL_law_1871 : decode cL_law 1871 = .ok (.laload, 1) := dk_47 (dk_at dksL_law_71 5 rfl rfl)
theorem dL_law_1872 : decode cL_law 1872 = .ok (.iload 7, 2) := dk_21 7 (dk_at dksL_law_71 6 rfl rfl)
theorem dL_law_1874 : decode cL_law 1874 = .ok (.ifCond .eq 7, 3) := dk_153 0 7 (dk_at dksL_law_71 8 rfl rfl)
theorem dL_law_1877 : decode cL_law 1877 = .ok (.lconst 1, 1) := dk_10 (dk_at dksL_law_71 11 rfl rfl)
theorem dL_law_1878 : decode cL_law 1878 = .ok (.goto 4, 3) := dk_167 0 4 (dk_at dksL_law_71 12 rfl rfl)
theorem dL_law_1881 : decode cL_law 1881 = .ok (.lconst 0, 1) := dk_9 (dk_at dksL_law_71 15 rfl rfl)
theorem dL_law_1882 : decode cL_law 1882 = .ok (.lcmp, 1) := dk_148 (dk_at dksL_law_71 16 rfl rfl)
theorem dL_law_1883 : decode cL_law 1883 = .ok (.ifCond .eq 5, 3) := dk_153 0 5 (dk_at dksL_law_71 17 rfl rfl)
theorem dL_law_1886 : decode cL_law 1886 = .ok (.iconst 0, 1) := dk_3 (dk_at dksL_law_71 20 rfl rfl)
theorem dL_law_1887 : decode cL_law 1887 = .ok (.ireturn, 1) := dk_172 (dk_at dksL_law_71 21 rfl rfl)
theorem dL_law_1888 : decode cL_law 1888 = .ok (.goto 1489, 3) := dk_167 5 209 (dk_at dksL_law_72 0 rfl rfl)
theorem dL_law_1891 : decode cL_law 1891 = .ok (.aload_n 1, 1) := dk_43 (dk_at dksL_law_72 3 rfl rfl)
theorem dL_law_1892 : decode cL_law 1892 = .ok (.aload_n 0, 1) := dk_42 (dk_at dksL_law_72 4 rfl rfl)
theorem dL_law_1893 : decode cL_law 1893 = .ok (.iload 5, 2) := dk_21 5 (dk_at dksL_law_72 5 rfl rfl)
theorem dL_law_1895 : decode cL_law 1895 = .ok (.iconst 1, 1) := dk_4 (dk_at dksL_law_72 7 rfl rfl)
theorem dL_law_1896 : decode cL_law 1896 = .ok (.iadd, 1) := dk_96 (dk_at dksL_law_72 8 rfl rfl)
theorem dL_law_1897 : decode cL_law 1897 = .ok (.iaload, 1) := dk_46 (dk_at dksL_law_72 9 rfl rfl)
theorem dL_law_1898 : decode cL_law 1898 = .ok (.aload_n 0, 1) := dk_42 (dk_at dksL_law_72 10 rfl rfl)
theorem dL_law_1899 : decode cL_law 1899 = .ok (.iload 5, 2) := dk_21 5 (dk_at dksL_law_72 11 rfl rfl)
theorem dL_law_1901 : decode cL_law 1901 = .ok (.iconst 2, 1) := dk_5 (dk_at dksL_law_72 13 rfl rfl)
theorem dL_law_1902 : decode cL_law 1902 = .ok (.iadd, 1) := dk_96 (dk_at dksL_law_72 14 rfl rfl)
theorem dL_law_1903 : decode cL_law 1903 = .ok (.iaload, 1) := dk_46 (dk_at dksL_law_72 15 rfl rfl)
theorem dL_law_1904 : decode cL_law 1904 = .ok (.aload_n 3, 1) := dk_45 (dk_at dksL_law_72 16 rfl rfl)
theorem dL_law_1905 : decode cL_law 1905 = .ok (.invokestatic 260, 3) := dk_184 1 4 (dk_at dksL_law_72 17 rfl rfl)
theorem dL_law_1908 : decode cL_law 1908 = .ok (.istore 6, 2) := dk_54 6 (dk_at dksL_law_72 20 rfl rfl)
theorem dL_law_1910 : decode cL_law 1910 = .ok (.aload_n 2, 1) := dk_44 (dk_at dksL_law_72 22 rfl rfl)
theorem dL_law_1911 : decode cL_law 1911 = .ok (.aload_n 0, 1) := dk_42 (dk_at dksL_law_72 23 rfl rfl)
theorem dL_law_1912 : decode cL_law 1912 = .ok (.iload 5, 2) := dk_21 5 (dk_at dksL_law_73 0 rfl rfl)
theorem dL_law_1914 : decode cL_law 1914 = .ok (.iconst 1, 1) := dk_4 (dk_at dksL_law_73 2 rfl rfl)
theorem dL_law_1915 : decode cL_law 1915 = .ok (.iadd, 1) := dk_96 (dk_at dksL_law_73 3 rfl rfl)
theorem dL_law_1916 : decode cL_law 1916 = .ok (.iaload, 1) := dk_46 (dk_at dksL_law_73 4 rfl rfl)
theorem dL_law_1917 : decode cL_law 1917 = .ok (.aload_n 0, 1) := dk_42 (dk_at dksL_law_73 5 rfl rfl)
theorem dL_law_1918 : decode cL_law 1918 = .ok (.iload 5, 2) := dk_21 5 (dk_at dksL_law_73 6 rfl rfl)
theorem dL_law_1920 : decode cL_law 1920 = .ok (.iconst 2, 1) := dk_5 (dk_at dksL_law_73 8 rfl rfl)
theorem dL_law_1921 : decode cL_law 1921 = .ok (.iadd, 1) := dk_96 (dk_at dksL_law_73 9 rfl rfl)
theorem dL_law_1922 : decode cL_law 1922 = .ok (.iaload, 1) := dk_46 (dk_at dksL_law_73 10 rfl rfl)
theorem dL_law_1923 : decode cL_law 1923 = .ok (.invokevirtual 262, 3) := dk_182 1 6 (dk_at dksL_law_73 11 rfl rfl)
theorem dL_law_1926 : decode cL_law 1926 = .ok (.istore 7, 2) := dk_54 7 (dk_at dksL_law_73 14 rfl rfl)
theorem dL_law_1928 : decode cL_law 1928 = .ok (.aload_n 2, 1) := dk_44 (dk_at dksL_law_73 16 rfl rfl)
theorem dL_law_1929 : decode cL_law 1929 = .ok (.invokevirtual 173, 3) := dk_182 0 173 (dk_at dksL_law_73 17 rfl rfl)
theorem dL_law_1932 : decode cL_law 1932 = .ok (.iload 6, 2) := dk_21 6 (dk_at dksL_law_73 20 rfl rfl)
theorem dL_law_1934 : decode cL_law 1934 = .ok (.if_icmp .eq 5, 3) := dk_159 0 5 (dk_at dksL_law_74 0 rfl rfl)
theorem dL_law_1937 : decode cL_law 1937 = .ok (.iconst 0, 1) := dk_3 (dk_at dksL_law_74 3 rfl rfl)
theorem dL_law_1938 : decode cL_law 1938 = .ok (.ireturn, 1) := dk_172 (dk_at dksL_law_74 4 rfl rfl)
theorem dL_law_1939 : decode cL_law 1939 = .ok (.iload 6, 2) := dk_21 6 (dk_at dksL_law_74 5 rfl rfl)
theorem dL_law_1941 : decode cL_law 1941 = .ok (.ifCond .ne 15, 3) := dk_154 0 15 (dk_at dksL_law_74 7 rfl rfl)
theorem dL_law_1944 : decode cL_law 1944 = .ok (.aload_n 3, 1) := dk_45 (dk_at dksL_law_74 10 rfl rfl)
theorem dL_law_1945 : decode cL_law 1945 = .ok (.iconst 0, 1) := dk_3 (dk_at dksL_law_74 11 rfl rfl)
theorem dL_law_1946 : decode cL_law 1946 = .ok (.laload, 1) := dk_47 (dk_at dksL_law_74 12 rfl rfl)
theorem dL_law_1947 : decode cL_law 1947 = .ok (.iload 7, 2) := dk_21 7 (dk_at dksL_law_74 13 rfl rfl)
theorem dL_law_1949 : decode cL_law 1949 = .ok (.i2l, 1) := dk_133 (dk_at dksL_law_74 15 rfl rfl)
theorem dL_law_1950 : decode cL_law 1950 = .ok (.lcmp, 1) := dk_148 (dk_at dksL_law_74 16 rfl rfl)
theorem dL_law_1951 : decode cL_law 1951 = .ok (.ifCond .eq 5, 3) := dk_153 0 5 (dk_at dksL_law_74 17 rfl rfl)
theorem dL_law_1954 : decode cL_law 1954 = .ok (.iconst 0, 1) := dk_3 (dk_at dksL_law_74 20 rfl rfl)
theorem dL_law_1955 : decode cL_law 1955 = .ok (.ireturn, 1) := dk_172 (dk_at dksL_law_74 21 rfl rfl)
theorem dL_law_1956 : decode cL_law 1956 = .ok (.goto 1421, 3) := dk_167 5 141 (dk_at dksL_law_75 0 rfl rfl)
theorem dL_law_1959 : decode cL_law 1959 = .ok (.aload_n 1, 1) := dk_43 (dk_at dksL_law_75 3 rfl rfl)
theorem dL_law_1960 : decode cL_law 1960 = .ok (.aload_n 0, 1) := dk_42 (dk_at dksL_law_75 4 rfl rfl)
theorem dL_law_1961 : decode cL_law 1961 = .ok (.iload 5, 2) := dk_21 5 (dk_at dksL_law_75 5 rfl rfl)
theorem dL_law_1963 : decode cL_law 1963 = .ok (.iconst 1, 1) := dk_4 (dk_at dksL_law_75 7 rfl rfl)
theorem dL_law_1964 : decode cL_law 1964 = .ok (.iadd, 1) := dk_96 (dk_at dksL_law_75 8 rfl rfl)
theorem dL_law_1965 : decode cL_law 1965 = .ok (.iaload, 1) := dk_46 (dk_at dksL_law_75 9 rfl rfl)
theorem dL_law_1966 : decode cL_law 1966 = .ok (.aload_n 0, 1) := dk_42 (dk_at dksL_law_75 10 rfl rfl)
theorem dL_law_1967 : decode cL_law 1967 = .ok (.iload 5, 2) := dk_21 5 (dk_at dksL_law_75 11 rfl rfl)
theorem dL_law_1969 : decode cL_law 1969 = .ok (.iconst 2, 1) := dk_5 (dk_at dksL_law_75 13 rfl rfl)
theorem dL_law_1970 : decode cL_law 1970 = .ok (.iadd, 1) := dk_96 (dk_at dksL_law_75 14 rfl rfl)
theorem dL_law_1971 : decode cL_law 1971 = .ok (.iaload, 1) := dk_46 (dk_at dksL_law_75 15 rfl rfl)
theorem dL_law_1972 : decode cL_law 1972 = .ok (.aload_n 3, 1) := dk_45 (dk_at dksL_law_75 16 rfl rfl)
theorem dL_law_1973 : decode cL_law 1973 = .ok (.invokestatic 263, 3) := dk_184 1 7 (dk_at dksL_law_75 17 rfl rfl)
theorem dL_law_1976 : decode cL_law 1976 = .ok (.istore 6, 2) := dk_54 6 (dk_at dksL_law_75 20 rfl rfl)
theorem dL_law_1978 : decode cL_law 1978 = .ok (.aload_n 2, 1) := dk_44 (dk_at dksL_law_75 22 rfl rfl)
theorem dL_law_1979 : decode cL_law 1979 = .ok (.aload_n 0, 1) := dk_42 (dk_at dksL_law_75 23 rfl rfl)
theorem dL_law_1980 : decode cL_law 1980 = .ok (.iload 5, 2) := dk_21 5 (dk_at dksL_law_76 0 rfl rfl)
theorem dL_law_1982 : decode cL_law 1982 = .ok (.iconst 1, 1) := dk_4 (dk_at dksL_law_76 2 rfl rfl)
theorem dL_law_1983 : decode cL_law 1983 = .ok (.iadd, 1) := dk_96 (dk_at dksL_law_76 3 rfl rfl)
theorem dL_law_1984 : decode cL_law 1984 = .ok (.iaload, 1) := dk_46 (dk_at dksL_law_76 4 rfl rfl)
theorem dL_law_1985 : decode cL_law 1985 = .ok (.aload_n 0, 1) := dk_42 (dk_at dksL_law_76 5 rfl rfl)
theorem dL_law_1986 : decode cL_law 1986 = .ok (.iload 5, 2) := dk_21 5 (dk_at dksL_law_76 6 rfl rfl)
theorem dL_law_1988 : decode cL_law 1988 = .ok (.iconst 2, 1) := dk_5 (dk_at dksL_law_76 8 rfl rfl)
theorem dL_law_1989 : decode cL_law 1989 = .ok (.iadd, 1) := dk_96 (dk_at dksL_law_76 9 rfl rfl)
theorem dL_law_1990 : decode cL_law 1990 = .ok (.iaload, 1) := dk_46 (dk_at dksL_law_76 10 rfl rfl)
theorem dL_law_1991 : decode cL_law 1991 = .ok (.invokevirtual 265, 3) := dk_182 1 9 (dk_at dksL_law_76 11 rfl rfl)
theorem dL_law_1994 : decode cL_law 1994 = .ok (.istore 7, 2) := dk_54 7 (dk_at dksL_law_76 14 rfl rfl)
theorem dL_law_1996 : decode cL_law 1996 = .ok (.aload_n 2, 1) := dk_44 (dk_at dksL_law_76 16 rfl rfl)
theorem dL_law_1997 : decode cL_law 1997 = .ok (.invokevirtual 173, 3) := dk_182 0 173 (dk_at dksL_law_76 17 rfl rfl)
theorem dL_law_2000 : decode cL_law 2000 = .ok (.iload 6, 2) := dk_21 6 (dk_at dksL_law_76 20 rfl rfl)
theorem dL_law_2002 : decode cL_law 2002 = .ok (.if_icmp .eq 5, 3) := dk_159 0 5 (dk_at dksL_law_77 0 rfl rfl)
theorem dL_law_2005 : decode cL_law 2005 = .ok (.iconst 0, 1) := dk_3 (dk_at dksL_law_77 3 rfl rfl)
theorem dL_law_2006 : decode cL_law 2006 = .ok (.ireturn, 1) := dk_172 (dk_at dksL_law_77 4 rfl rfl)
theorem dL_law_2007 : decode cL_law 2007 = .ok (.iload 6, 2) := dk_21 6 (dk_at dksL_law_77 5 rfl rfl)
theorem dL_law_2009 : decode cL_law 2009 = .ok (.ifCond .ne 15, 3) := dk_154 0 15 (dk_at dksL_law_77 7 rfl rfl)
theorem dL_law_2012 : decode cL_law 2012 = .ok (.aload_n 3, 1) := dk_45 (dk_at dksL_law_77 10 rfl rfl)
theorem dL_law_2013 : decode cL_law 2013 = .ok (.iconst 0, 1) := dk_3 (dk_at dksL_law_77 11 rfl rfl)
theorem dL_law_2014 : decode cL_law 2014 = .ok (.laload, 1) := dk_47 (dk_at dksL_law_77 12 rfl rfl)
theorem dL_law_2015 : decode cL_law 2015 = .ok (.iload 7, 2) := dk_21 7 (dk_at dksL_law_77 13 rfl rfl)
theorem dL_law_2017 : decode cL_law 2017 = .ok (.i2l, 1) := dk_133 (dk_at dksL_law_77 15 rfl rfl)
theorem dL_law_2018 : decode cL_law 2018 = .ok (.lcmp, 1) := dk_148 (dk_at dksL_law_77 16 rfl rfl)
theorem dL_law_2019 : decode cL_law 2019 = .ok (.ifCond .eq 5, 3) := dk_153 0 5 (dk_at dksL_law_77 17 rfl rfl)
theorem dL_law_2022 : decode cL_law 2022 = .ok (.iconst 0, 1) := dk_3 (dk_at dksL_law_77 20 rfl rfl)
theorem dL_law_2023 : decode cL_law 2023 = .ok (.ireturn, 1) := dk_172 (dk_at dksL_law_77 21 rfl rfl)
theorem dL_law_2024 : decode cL_law 2024 = .ok (.goto 1353, 3) := dk_167 5 73 (dk_at dksL_law_78 0 rfl rfl)
theorem dL_law_2027 : decode cL_law 2027 = .ok (.aload_n 1, 1) := dk_43 (dk_at dksL_law_78 3 rfl rfl)
theorem dL_law_2028 : decode cL_law 2028 = .ok (.aload_n 0, 1) := dk_42 (dk_at dksL_law_78 4 rfl rfl)
theorem dL_law_2029 : decode cL_law 2029 = .ok (.iload 5, 2) := dk_21 5 (dk_at dksL_law_78 5 rfl rfl)
theorem dL_law_2031 : decode cL_law 2031 = .ok (.iconst 1, 1) := dk_4 (dk_at dksL_law_78 7 rfl rfl)
theorem dL_law_2032 : decode cL_law 2032 = .ok (.iadd, 1) := dk_96 (dk_at dksL_law_78 8 rfl rfl)
theorem dL_law_2033 : decode cL_law 2033 = .ok (.iaload, 1) := dk_46 (dk_at dksL_law_78 9 rfl rfl)
theorem dL_law_2034 : decode cL_law 2034 = .ok (.aload_n 0, 1) := dk_42 (dk_at dksL_law_78 10 rfl rfl)
theorem dL_law_2035 : decode cL_law 2035 = .ok (.iload 5, 2) := dk_21 5 (dk_at dksL_law_78 11 rfl rfl)
theorem dL_law_2037 : decode cL_law 2037 = .ok (.iconst 2, 1) := dk_5 (dk_at dksL_law_78 13 rfl rfl)
theorem dL_law_2038 : decode cL_law 2038 = .ok (.iadd, 1) := dk_96 (dk_at dksL_law_78 14 rfl rfl)
theorem dL_law_2039 : decode cL_law 2039 = .ok (.iaload, 1) := dk_46 (dk_at dksL_law_78 15 rfl rfl)
theorem dL_law_2040 : decode cL_law 2040 = .ok (.aload_n 3, 1) := dk_45 (dk_at dksL_law_78 16 rfl rfl)
theorem dL_law_2041 : decode cL_law 2041 = .ok (.invokestatic 266, 3) := dk_184 1 10 (dk_at dksL_law_78 17 rfl rfl)
theorem dL_law_2044 : decode cL_law 2044 = .ok (.istore 6, 2) := dk_54 6 (dk_at dksL_law_78 20 rfl rfl)
theorem dL_law_2046 : decode cL_law 2046 = .ok (.aload_n 2, 1) := dk_44 (dk_at dksL_law_78 22 rfl rfl)
theorem dL_law_2047 : decode cL_law 2047 = .ok (.aload_n 0, 1) := dk_42 (dk_at dksL_law_78 23 rfl rfl)
theorem dL_law_2048 : decode cL_law 2048 = .ok (.iload 5, 2) := dk_21 5 (dk_at dksL_law_79 0 rfl rfl)
theorem dL_law_2050 : decode cL_law 2050 = .ok (.iconst 1, 1) := dk_4 (dk_at dksL_law_79 2 rfl rfl)
theorem dL_law_2051 : decode cL_law 2051 = .ok (.iadd, 1) := dk_96 (dk_at dksL_law_79 3 rfl rfl)
theorem dL_law_2052 : decode cL_law 2052 = .ok (.iaload, 1) := dk_46 (dk_at dksL_law_79 4 rfl rfl)
theorem dL_law_2053 : decode cL_law 2053 = .ok (.aload_n 0, 1) := dk_42 (dk_at dksL_law_79 5 rfl rfl)
theorem dL_law_2054 : decode cL_law 2054 = .ok (.iload 5, 2) := dk_21 5 (dk_at dksL_law_79 6 rfl rfl)
theorem dL_law_2056 : decode cL_law 2056 = .ok (.iconst 2, 1) := dk_5 (dk_at dksL_law_79 8 rfl rfl)
theorem dL_law_2057 : decode cL_law 2057 = .ok (.iadd, 1) := dk_96 (dk_at dksL_law_79 9 rfl rfl)
theorem dL_law_2058 : decode cL_law 2058 = .ok (.iaload, 1) := dk_46 (dk_at dksL_law_79 10 rfl rfl)
theorem dL_law_2059 : decode cL_law 2059 = .ok (.invokevirtual 268, 3) := dk_182 1 12 (dk_at dksL_law_79 11 rfl rfl)
theorem dL_law_2062 : decode cL_law 2062 = .ok (.istore 7, 2) := dk_54 7 (dk_at dksL_law_79 14 rfl rfl)
theorem dL_law_2064 : decode cL_law 2064 = .ok (.aload_n 2, 1) := dk_44 (dk_at dksL_law_79 16 rfl rfl)
theorem dL_law_2065 : decode cL_law 2065 = .ok (.invokevirtual 173, 3) := dk_182 0 173 (dk_at dksL_law_79 17 rfl rfl)
theorem dL_law_2068 : decode cL_law 2068 = .ok (.iload 6, 2) := dk_21 6 (dk_at dksL_law_79 20 rfl rfl)
theorem dL_law_2070 : decode cL_law 2070 = .ok (.if_icmp .eq 5, 3) := dk_159 0 5 (dk_at dksL_law_80 0 rfl rfl)
theorem dL_law_2073 : decode cL_law 2073 = .ok (.iconst 0, 1) := dk_3 (dk_at dksL_law_80 3 rfl rfl)
theorem dL_law_2074 : decode cL_law 2074 = .ok (.ireturn, 1) := dk_172 (dk_at dksL_law_80 4 rfl rfl)
theorem dL_law_2075 : decode cL_law 2075 = .ok (.iload 6, 2) := dk_21 6 (dk_at dksL_law_80 5 rfl rfl)
theorem dL_law_2077 : decode cL_law 2077 = .ok (.ifCond .ne 15, 3) := dk_154 0 15 (dk_at dksL_law_80 7 rfl rfl)
theorem dL_law_2080 : decode cL_law 2080 = .ok (.aload_n 3, 1) := dk_45 (dk_at dksL_law_80 10 rfl rfl)
theorem dL_law_2081 : decode cL_law 2081 = .ok (.iconst 0, 1) := dk_3 (dk_at dksL_law_80 11 rfl rfl)
theorem dL_law_2082 : decode cL_law 2082 = .ok (.laload, 1) := dk_47 (dk_at dksL_law_80 12 rfl rfl)
theorem dL_law_2083 : decode cL_law 2083 = .ok (.iload 7, 2) := dk_21 7 (dk_at dksL_law_80 13 rfl rfl)
theorem dL_law_2085 : decode cL_law 2085 = .ok (.i2l, 1) := dk_133 (dk_at dksL_law_80 15 rfl rfl)
theorem dL_law_2086 : decode cL_law 2086 = .ok (.lcmp, 1) := dk_148 (dk_at dksL_law_80 16 rfl rfl)
theorem dL_law_2087 : decode cL_law 2087 = .ok (.ifCond .eq 5, 3) := dk_153 0 5 (dk_at dksL_law_80 17 rfl rfl)
theorem dL_law_2090 : decode cL_law 2090 = .ok (.iconst 0, 1) := dk_3 (dk_at dksL_law_80 20 rfl rfl)
theorem dL_law_2091 : decode cL_law 2091 = .ok (.ireturn, 1) := dk_172 (dk_at dksL_law_80 21 rfl rfl)
theorem dL_law_2092 : decode cL_law 2092 = .ok (.goto 1285, 3) := dk_167 5 5 (dk_at dksL_law_81 0 rfl rfl)
theorem dL_law_2095 : decode cL_law 2095 = .ok (.aload_n 1, 1) := dk_43 (dk_at dksL_law_81 3 rfl rfl)
theorem dL_law_2096 : decode cL_law 2096 = .ok (.aload_n 0, 1) := dk_42 (dk_at dksL_law_81 4 rfl rfl)
theorem dL_law_2097 : decode cL_law 2097 = .ok (.iload 5, 2) := dk_21 5 (dk_at dksL_law_81 5 rfl rfl)
theorem dL_law_2099 : decode cL_law 2099 = .ok (.iconst 1, 1) := dk_4 (dk_at dksL_law_81 7 rfl rfl)
theorem dL_law_2100 : decode cL_law 2100 = .ok (.iadd, 1) := dk_96 (dk_at dksL_law_81 8 rfl rfl)
theorem dL_law_2101 : decode cL_law 2101 = .ok (.iaload, 1) := dk_46 (dk_at dksL_law_81 9 rfl rfl)
theorem dL_law_2102 : decode cL_law 2102 = .ok (.aload_n 0, 1) := dk_42 (dk_at dksL_law_81 10 rfl rfl)
theorem dL_law_2103 : decode cL_law 2103 = .ok (.iload 5, 2) := dk_21 5 (dk_at dksL_law_81 11 rfl rfl)
theorem dL_law_2105 : decode cL_law 2105 = .ok (.iconst 2, 1) := dk_5 (dk_at dksL_law_81 13 rfl rfl)
theorem dL_law_2106 : decode cL_law 2106 = .ok (.iadd, 1) := dk_96 (dk_at dksL_law_81 14 rfl rfl)
theorem dL_law_2107 : decode cL_law 2107 = .ok (.iaload, 1) := dk_46 (dk_at dksL_law_81 15 rfl rfl)
theorem dL_law_2108 : decode cL_law 2108 = .ok (.aload_n 3, 1) := dk_45 (dk_at dksL_law_81 16 rfl rfl)
theorem dL_law_2109 : decode cL_law 2109 = .ok (.invokestatic 269, 3) := dk_184 1 13 (dk_at dksL_law_81 17 rfl rfl)
theorem dL_law_2112 : decode cL_law 2112 = .ok (.istore 6, 2) := dk_54 6 (dk_at dksL_law_81 20 rfl rfl)
theorem dL_law_2114 : decode cL_law 2114 = .ok (.aload_n 2, 1) := dk_44 (dk_at dksL_law_81 22 rfl rfl)
theorem dL_law_2115 : decode cL_law 2115 = .ok (.aload_n 0, 1) := dk_42 (dk_at dksL_law_81 23 rfl rfl)
theorem dL_law_2116 : decode cL_law 2116 = .ok (.iload 5, 2) := dk_21 5 (dk_at dksL_law_82 0 rfl rfl)
theorem dL_law_2118 : decode cL_law 2118 = .ok (.iconst 1, 1) := dk_4 (dk_at dksL_law_82 2 rfl rfl)
theorem dL_law_2119 : decode cL_law 2119 = .ok (.iadd, 1) := dk_96 (dk_at dksL_law_82 3 rfl rfl)
theorem dL_law_2120 : decode cL_law 2120 = .ok (.iaload, 1) := dk_46 (dk_at dksL_law_82 4 rfl rfl)
theorem dL_law_2121 : decode cL_law 2121 = .ok (.aload_n 0, 1) := dk_42 (dk_at dksL_law_82 5 rfl rfl)
theorem dL_law_2122 : decode cL_law 2122 = .ok (.iload 5, 2) := dk_21 5 (dk_at dksL_law_82 6 rfl rfl)
theorem dL_law_2124 : decode cL_law 2124 = .ok (.iconst 2, 1) := dk_5 (dk_at dksL_law_82 8 rfl rfl)
theorem dL_law_2125 : decode cL_law 2125 = .ok (.iadd, 1) := dk_96 (dk_at dksL_law_82 9 rfl rfl)
theorem dL_law_2126 : decode cL_law 2126 = .ok (.iaload, 1) := dk_46 (dk_at dksL_law_82 10 rfl rfl)
theorem dL_law_2127 : decode cL_law 2127 = .ok (.invokevirtual 271, 3) := dk_182 1 15 (dk_at dksL_law_82 11 rfl rfl)
theorem dL_law_2130 : decode cL_law 2130 = .ok (.istore 7, 2) := dk_54 7 (dk_at dksL_law_82 14 rfl rfl)
theorem dL_law_2132 : decode cL_law 2132 = .ok (.aload_n 2, 1) := dk_44 (dk_at dksL_law_82 16 rfl rfl)
theorem dL_law_2133 : decode cL_law 2133 = .ok (.invokevirtual 173, 3) := dk_182 0 173 (dk_at dksL_law_82 17 rfl rfl)
theorem dL_law_2136 : decode cL_law 2136 = .ok (.iload 6, 2) := dk_21 6 (dk_at dksL_law_82 20 rfl rfl)
theorem dL_law_2138 : decode cL_law 2138 = .ok (.if_icmp .eq 5, 3) := dk_159 0 5 (dk_at dksL_law_83 0 rfl rfl)
theorem dL_law_2141 : decode cL_law 2141 = .ok (.iconst 0, 1) := dk_3 (dk_at dksL_law_83 3 rfl rfl)
theorem dL_law_2142 : decode cL_law 2142 = .ok (.ireturn, 1) := dk_172 (dk_at dksL_law_83 4 rfl rfl)
theorem dL_law_2143 : decode cL_law 2143 = .ok (.iload 6, 2) := dk_21 6 (dk_at dksL_law_83 5 rfl rfl)
theorem dL_law_2145 : decode cL_law 2145 = .ok (.ifCond .ne 15, 3) := dk_154 0 15 (dk_at dksL_law_83 7 rfl rfl)
theorem dL_law_2148 : decode cL_law 2148 = .ok (.aload_n 3, 1) := dk_45 (dk_at dksL_law_83 10 rfl rfl)
theorem dL_law_2149 : decode cL_law 2149 = .ok (.iconst 0, 1) := dk_3 (dk_at dksL_law_83 11 rfl rfl)
theorem dL_law_2150 : decode cL_law 2150 = .ok (.laload, 1) := dk_47 (dk_at dksL_law_83 12 rfl rfl)
theorem dL_law_2151 : decode cL_law 2151 = .ok (.iload 7, 2) := dk_21 7 (dk_at dksL_law_83 13 rfl rfl)
theorem dL_law_2153 : decode cL_law 2153 = .ok (.i2l, 1) := dk_133 (dk_at dksL_law_83 15 rfl rfl)
theorem dL_law_2154 : decode cL_law 2154 = .ok (.lcmp, 1) := dk_148 (dk_at dksL_law_83 16 rfl rfl)
theorem dL_law_2155 : decode cL_law 2155 = .ok (.ifCond .eq 5, 3) := dk_153 0 5 (dk_at dksL_law_83 17 rfl rfl)
theorem dL_law_2158 : decode cL_law 2158 = .ok (.iconst 0, 1) := dk_3 (dk_at dksL_law_83 20 rfl rfl)
theorem dL_law_2159 : decode cL_law 2159 = .ok (.ireturn, 1) := dk_172 (dk_at dksL_law_83 21 rfl rfl)
theorem dL_law_2160 : decode cL_law 2160 = .ok (.goto 1217, 3) := dk_167 4 193 (dk_at dksL_law_84 0 rfl rfl)
theorem dL_law_2163 : decode cL_law 2163 = .ok (.aload_n 1, 1) := dk_43 (dk_at dksL_law_84 3 rfl rfl)
theorem dL_law_2164 : decode cL_law 2164 = .ok (.aload_n 0, 1) := dk_42 (dk_at dksL_law_84 4 rfl rfl)
theorem dL_law_2165 : decode cL_law 2165 = .ok (.iload 5, 2) := dk_21 5 (dk_at dksL_law_84 5 rfl rfl)
theorem dL_law_2167 : decode cL_law 2167 = .ok (.iconst 1, 1) := dk_4 (dk_at dksL_law_84 7 rfl rfl)
theorem dL_law_2168 : decode cL_law 2168 = .ok (.iadd, 1) := dk_96 (dk_at dksL_law_84 8 rfl rfl)
theorem dL_law_2169 : decode cL_law 2169 = .ok (.iaload, 1) := dk_46 (dk_at dksL_law_84 9 rfl rfl)
theorem dL_law_2170 : decode cL_law 2170 = .ok (.aload_n 0, 1) := dk_42 (dk_at dksL_law_84 10 rfl rfl)
theorem dL_law_2171 : decode cL_law 2171 = .ok (.iload 5, 2) := dk_21 5 (dk_at dksL_law_84 11 rfl rfl)
theorem dL_law_2173 : decode cL_law 2173 = .ok (.iconst 2, 1) := dk_5 (dk_at dksL_law_84 13 rfl rfl)
theorem dL_law_2174 : decode cL_law 2174 = .ok (.iadd, 1) := dk_96 (dk_at dksL_law_84 14 rfl rfl)
theorem dL_law_2175 : decode cL_law 2175 = .ok (.iaload, 1) := dk_46 (dk_at dksL_law_84 15 rfl rfl)
theorem dL_law_2176 : decode cL_law 2176 = .ok (.aload_n 3, 1) := dk_45 (dk_at dksL_law_84 16 rfl rfl)
theorem dL_law_2177 : decode cL_law 2177 = .ok (.invokestatic 272, 3) := dk_184 1 16 (dk_at dksL_law_84 17 rfl rfl)
theorem dL_law_2180 : decode cL_law 2180 = .ok (.istore 6, 2) := dk_54 6 (dk_at dksL_law_84 20 rfl rfl)
theorem dL_law_2182 : decode cL_law 2182 = .ok (.aload_n 2, 1) := dk_44 (dk_at dksL_law_84 22 rfl rfl)
theorem dL_law_2183 : decode cL_law 2183 = .ok (.aload_n 0, 1) := dk_42 (dk_at dksL_law_84 23 rfl rfl)
theorem dL_law_2184 : decode cL_law 2184 = .ok (.iload 5, 2) := dk_21 5 (dk_at dksL_law_85 0 rfl rfl)
theorem dL_law_2186 : decode cL_law 2186 = .ok (.iconst 1, 1) := dk_4 (dk_at dksL_law_85 2 rfl rfl)
theorem dL_law_2187 : decode cL_law 2187 = .ok (.iadd, 1) := dk_96 (dk_at dksL_law_85 3 rfl rfl)
theorem dL_law_2188 : decode cL_law 2188 = .ok (.iaload, 1) := dk_46 (dk_at dksL_law_85 4 rfl rfl)
theorem dL_law_2189 : decode cL_law 2189 = .ok (.aload_n 0, 1) := dk_42 (dk_at dksL_law_85 5 rfl rfl)
theorem dL_law_2190 : decode cL_law 2190 = .ok (.iload 5, 2) := dk_21 5 (dk_at dksL_law_85 6 rfl rfl)
theorem dL_law_2192 : decode cL_law 2192 = .ok (.iconst 2, 1) := dk_5 (dk_at dksL_law_85 8 rfl rfl)
theorem dL_law_2193 : decode cL_law 2193 = .ok (.iadd, 1) := dk_96 (dk_at dksL_law_85 9 rfl rfl)
theorem dL_law_2194 : decode cL_law 2194 = .ok (.iaload, 1) := dk_46 (dk_at dksL_law_85 10 rfl rfl)
theorem dL_law_2195 : decode cL_law 2195 = .ok (.invokevirtual 274, 3) := dk_182 1 18 (dk_at dksL_law_85 11 rfl rfl)
theorem dL_law_2198 : decode cL_law 2198 = .ok (.istore 7, 2) := dk_54 7 (dk_at dksL_law_85 14 rfl rfl)
theorem dL_law_2200 : decode cL_law 2200 = .ok (.aload_n 2, 1) := dk_44 (dk_at dksL_law_85 16 rfl rfl)
theorem dL_law_2201 : decode cL_law 2201 = .ok (.invokevirtual 173, 3) := dk_182 0 173 (dk_at dksL_law_85 17 rfl rfl)
theorem dL_law_2204 : decode cL_law 2204 = .ok (.iload 6, 2) := dk_21 6 (dk_at dksL_law_85 20 rfl rfl)
theorem dL_law_2206 : decode cL_law 2206 = .ok (.if_icmp .eq 5, 3) := dk_159 0 5 (dk_at dksL_law_86 0 rfl rfl)
theorem dL_law_2209 : decode cL_law 2209 = .ok (.iconst 0, 1) := dk_3 (dk_at dksL_law_86 3 rfl rfl)
theorem dL_law_2210 : decode cL_law 2210 = .ok (.ireturn, 1) := dk_172 (dk_at dksL_law_86 4 rfl rfl)
theorem dL_law_2211 : decode cL_law 2211 = .ok (.iload 6, 2) := dk_21 6 (dk_at dksL_law_86 5 rfl rfl)
theorem dL_law_2213 : decode cL_law 2213 = .ok (.ifCond .ne 15, 3) := dk_154 0 15 (dk_at dksL_law_86 7 rfl rfl)
theorem dL_law_2216 : decode cL_law 2216 = .ok (.aload_n 3, 1) := dk_45 (dk_at dksL_law_86 10 rfl rfl)
theorem dL_law_2217 : decode cL_law 2217 = .ok (.iconst 0, 1) := dk_3 (dk_at dksL_law_86 11 rfl rfl)
theorem dL_law_2218 : decode cL_law 2218 = .ok (.laload, 1) := dk_47 (dk_at dksL_law_86 12 rfl rfl)
theorem dL_law_2219 : decode cL_law 2219 = .ok (.iload 7, 2) := dk_21 7 (dk_at dksL_law_86 13 rfl rfl)
theorem dL_law_2221 : decode cL_law 2221 = .ok (.i2l, 1) := dk_133 (dk_at dksL_law_86 15 rfl rfl)
theorem dL_law_2222 : decode cL_law 2222 = .ok (.lcmp, 1) := dk_148 (dk_at dksL_law_86 16 rfl rfl)
theorem dL_law_2223 : decode cL_law 2223 = .ok (.ifCond .eq 5, 3) := dk_153 0 5 (dk_at dksL_law_86 17 rfl rfl)
theorem dL_law_2226 : decode cL_law 2226 = .ok (.iconst 0, 1) := dk_3 (dk_at dksL_law_86 20 rfl rfl)
theorem dL_law_2227 : decode cL_law 2227 = .ok (.ireturn, 1) := dk_172 (dk_at dksL_law_86 21 rfl rfl)
theorem dL_law_2228 : decode cL_law 2228 = .ok (.goto 1149, 3) := dk_167 4 125 (dk_at dksL_law_87 0 rfl rfl)
theorem dL_law_2231 : decode cL_law 2231 = .ok (.aload_n 1, 1) := dk_43 (dk_at dksL_law_87 3 rfl rfl)
theorem dL_law_2232 : decode cL_law 2232 = .ok (.aload_n 0, 1) := dk_42 (dk_at dksL_law_87 4 rfl rfl)
theorem dL_law_2233 : decode cL_law 2233 = .ok (.iload 5, 2) := dk_21 5 (dk_at dksL_law_87 5 rfl rfl)
theorem dL_law_2235 : decode cL_law 2235 = .ok (.iconst 1, 1) := dk_4 (dk_at dksL_law_87 7 rfl rfl)
theorem dL_law_2236 : decode cL_law 2236 = .ok (.iadd, 1) := dk_96 (dk_at dksL_law_87 8 rfl rfl)
theorem dL_law_2237 : decode cL_law 2237 = .ok (.iaload, 1) := dk_46 (dk_at dksL_law_87 9 rfl rfl)
theorem dL_law_2238 : decode cL_law 2238 = .ok (.aload_n 0, 1) := dk_42 (dk_at dksL_law_87 10 rfl rfl)
theorem dL_law_2239 : decode cL_law 2239 = .ok (.iload 5, 2) := dk_21 5 (dk_at dksL_law_87 11 rfl rfl)
theorem dL_law_2241 : decode cL_law 2241 = .ok (.iconst 2, 1) := dk_5 (dk_at dksL_law_87 13 rfl rfl)
theorem dL_law_2242 : decode cL_law 2242 = .ok (.iadd, 1) := dk_96 (dk_at dksL_law_87 14 rfl rfl)
theorem dL_law_2243 : decode cL_law 2243 = .ok (.iaload, 1) := dk_46 (dk_at dksL_law_87 15 rfl rfl)
theorem dL_law_2244 : decode cL_law 2244 = .ok (.aload_n 3, 1) := dk_45 (dk_at dksL_law_87 16 rfl rfl)
theorem dL_law_2245 : decode cL_law 2245 = .ok (.invokestatic 275, 3) := dk_184 1 19 (dk_at dksL_law_87 17 rfl rfl)
theorem dL_law_2248 : decode cL_law 2248 = .ok (.istore 6, 2) := dk_54 6 (dk_at dksL_law_87 20 rfl rfl)
theorem dL_law_2250 : decode cL_law 2250 = .ok (.aload_n 2, 1) := dk_44 (dk_at dksL_law_87 22 rfl rfl)
theorem dL_law_2251 : decode cL_law 2251 = .ok (.aload_n 0, 1) := dk_42 (dk_at dksL_law_87 23 rfl rfl)
theorem dL_law_2252 : decode cL_law 2252 = .ok (.iload 5, 2) := dk_21 5 (dk_at dksL_law_88 0 rfl rfl)
theorem dL_law_2254 : decode cL_law 2254 = .ok (.iconst 1, 1) := dk_4 (dk_at dksL_law_88 2 rfl rfl)
theorem dL_law_2255 : decode cL_law 2255 = .ok (.iadd, 1) := dk_96 (dk_at dksL_law_88 3 rfl rfl)
theorem dL_law_2256 : decode cL_law 2256 = .ok (.iaload, 1) := dk_46 (dk_at dksL_law_88 4 rfl rfl)
theorem dL_law_2257 : decode cL_law 2257 = .ok (.aload_n 0, 1) := dk_42 (dk_at dksL_law_88 5 rfl rfl)
theorem dL_law_2258 : decode cL_law 2258 = .ok (.iload 5, 2) := dk_21 5 (dk_at dksL_law_88 6 rfl rfl)
theorem dL_law_2260 : decode cL_law 2260 = .ok (.iconst 2, 1) := dk_5 (dk_at dksL_law_88 8 rfl rfl)
theorem dL_law_2261 : decode cL_law 2261 = .ok (.iadd, 1) := dk_96 (dk_at dksL_law_88 9 rfl rfl)
theorem dL_law_2262 : decode cL_law 2262 = .ok (.iaload, 1) := dk_46 (dk_at dksL_law_88 10 rfl rfl)
theorem dL_law_2263 : decode cL_law 2263 = .ok (.invokevirtual 277, 3) := dk_182 1 21 (dk_at dksL_law_88 11 rfl rfl)
theorem dL_law_2266 : decode cL_law 2266 = .ok (.istore 7, 2) := dk_54 7 (dk_at dksL_law_88 14 rfl rfl)
theorem dL_law_2268 : decode cL_law 2268 = .ok (.aload_n 2, 1) := dk_44 (dk_at dksL_law_88 16 rfl rfl)
theorem dL_law_2269 : decode cL_law 2269 = .ok (.invokevirtual 173, 3) := dk_182 0 173 (dk_at dksL_law_88 17 rfl rfl)
theorem dL_law_2272 : decode cL_law 2272 = .ok (.iload 6, 2) := dk_21 6 (dk_at dksL_law_88 20 rfl rfl)
theorem dL_law_2274 : decode cL_law 2274 = .ok (.if_icmp .eq 5, 3) := dk_159 0 5 (dk_at dksL_law_89 0 rfl rfl)
theorem dL_law_2277 : decode cL_law 2277 = .ok (.iconst 0, 1) := dk_3 (dk_at dksL_law_89 3 rfl rfl)
theorem dL_law_2278 : decode cL_law 2278 = .ok (.ireturn, 1) := dk_172 (dk_at dksL_law_89 4 rfl rfl)
theorem dL_law_2279 : decode cL_law 2279 = .ok (.iload 6, 2) := dk_21 6 (dk_at dksL_law_89 5 rfl rfl)
theorem dL_law_2281 : decode cL_law 2281 = .ok (.ifCond .ne 15, 3) := dk_154 0 15 (dk_at dksL_law_89 7 rfl rfl)
theorem dL_law_2284 : decode cL_law 2284 = .ok (.aload_n 3, 1) := dk_45 (dk_at dksL_law_89 10 rfl rfl)
theorem dL_law_2285 : decode cL_law 2285 = .ok (.iconst 0, 1) := dk_3 (dk_at dksL_law_89 11 rfl rfl)
theorem dL_law_2286 : decode cL_law 2286 = .ok (.laload, 1) := dk_47 (dk_at dksL_law_89 12 rfl rfl)
theorem dL_law_2287 : decode cL_law 2287 = .ok (.iload 7, 2) := dk_21 7 (dk_at dksL_law_89 13 rfl rfl)
theorem dL_law_2289 : decode cL_law 2289 = .ok (.i2l, 1) := dk_133 (dk_at dksL_law_89 15 rfl rfl)
theorem dL_law_2290 : decode cL_law 2290 = .ok (.lcmp, 1) := dk_148 (dk_at dksL_law_89 16 rfl rfl)
theorem dL_law_2291 : decode cL_law 2291 = .ok (.ifCond .eq 5, 3) := dk_153 0 5 (dk_at dksL_law_89 17 rfl rfl)
theorem dL_law_2294 : decode cL_law 2294 = .ok (.iconst 0, 1) := dk_3 (dk_at dksL_law_89 20 rfl rfl)
theorem dL_law_2295 : decode cL_law 2295 = .ok (.ireturn, 1) := dk_172 (dk_at dksL_law_89 21 rfl rfl)
theorem dL_law_2296 : decode cL_law 2296 = .ok (.goto 1081, 3) := dk_167 4 57 (dk_at dksL_law_90 0 rfl rfl)
theorem dL_law_2299 : decode cL_law 2299 = .ok (.aload_n 1, 1) := dk_43 (dk_at dksL_law_90 3 rfl rfl)
theorem dL_law_2300 : decode cL_law 2300 = .ok (.invokevirtual 278, 3) := dk_182 1 22 (dk_at dksL_law_90 4 rfl rfl)
theorem dL_law_2303 : decode cL_law 2303 = .ok (.aload_n 2, 1) := dk_44 (dk_at dksL_law_90 7 rfl rfl)
theorem dL_law_2304 : decode cL_law 2304 = .ok (.invokevirtual 281, 3) := dk_182 1 25 (dk_at dksL_law_90 8 rfl rfl)
theorem dL_law_2307 : decode cL_law 2307 = .ok (.if_icmp .eq 1070, 3) := dk_159 4 46 (dk_at dksL_law_90 11 rfl rfl)
theorem dL_law_2310 : decode cL_law 2310 = .ok (.iconst 0, 1) := dk_3 (dk_at dksL_law_90 14 rfl rfl)
theorem dL_law_2311 : decode cL_law 2311 = .ok (.ireturn, 1) := dk_172 (dk_at dksL_law_90 15 rfl rfl)
theorem dL_law_2312 : decode cL_law 2312 = .ok (.aload_n 1, 1) := dk_43 (dk_at dksL_law_90 16 rfl rfl)
theorem dL_law_2313 : decode cL_law 2313 = .ok (.invokevirtual 282, 3) := dk_182 1 26 (dk_at dksL_law_90 17 rfl rfl)
theorem dL_law_2316 : decode cL_law 2316 = .ok (.aload_n 2, 1) := dk_44 (dk_at dksL_law_90 20 rfl rfl)
theorem dL_law_2317 : decode cL_law 2317 = .ok (.invokevirtual 285, 3) := dk_182 1 29 (dk_at dksL_law_90 21 rfl rfl)
theorem dL_law_2320 : decode cL_law 2320 = .ok (.if_icmp .eq 1057, 3) := dk_159 4 33 (dk_at dksL_law_91 0 rfl rfl)
theorem dL_law_2323 : decode cL_law 2323 = .ok (.iconst 0, 1) := dk_3 (dk_at dksL_law_91 3 rfl rfl)
theorem dL_law_2324 : decode cL_law 2324 = .ok (.ireturn, 1) := dk_172 (dk_at dksL_law_91 4 rfl rfl)
theorem dL_law_2325 : decode cL_law 2325 = .ok (.aload_n 1, 1) := dk_43 (dk_at dksL_law_91 5 rfl rfl)
theorem dL_law_2326 : decode cL_law 2326 = .ok (.aload_n 0, 1) := dk_42 (dk_at dksL_law_91 6 rfl rfl)
theorem dL_law_2327 : decode cL_law 2327 = .ok (.iload 5, 2) := dk_21 5 (dk_at dksL_law_91 7 rfl rfl)
theorem dL_law_2329 : decode cL_law 2329 = .ok (.iconst 1, 1) := dk_4 (dk_at dksL_law_91 9 rfl rfl)
theorem dL_law_2330 : decode cL_law 2330 = .ok (.iadd, 1) := dk_96 (dk_at dksL_law_91 10 rfl rfl)
theorem dL_law_2331 : decode cL_law 2331 = .ok (.iaload, 1) := dk_46 (dk_at dksL_law_91 11 rfl rfl)
theorem dL_law_2332 : decode cL_law 2332 = .ok (.aload 4, 2) := dk_25 4 (dk_at dksL_law_91 12 rfl rfl)
theorem dL_law_2334 : decode cL_law 2334 = .ok (.invokestatic 286, 3) := dk_184 1 30 (dk_at dksL_law_91 14 rfl rfl)
theorem dL_law_2337 : decode cL_law 2337 = .ok (.istore 6, 2) := dk_54 6 (dk_at dksL_law_91 17 rfl rfl)
theorem dL_law_2339 : decode cL_law 2339 = .ok (.aload_n 2, 1) := dk_44 (dk_at dksL_law_91 19 rfl rfl)
theorem dL_law_2340 : decode cL_law 2340 = .ok (.aload_n 0, 1) := dk_42 (dk_at dksL_law_91 20 rfl rfl)
theorem dL_law_2341 : decode cL_law 2341 = .ok (.iload 5, 2) := dk_21 5 (dk_at dksL_law_91 21 rfl rfl)
theorem dL_law_2343 : decode cL_law 2343 = .ok (.iconst 1, 1) := dk_4 (dk_at dksL_law_91 23 rfl rfl)
theorem dL_law_2344 : decode cL_law 2344 = .ok (.iadd, 1) := dk_96 (dk_at dksL_law_92 0 rfl rfl)
theorem dL_law_2345 : decode cL_law 2345 = .ok (.iaload, 1) := dk_46 (dk_at dksL_law_92 1 rfl rfl)
theorem dL_law_2346 : decode cL_law 2346 = .ok (.invokevirtual 289, 3) := dk_182 1 33 (dk_at dksL_law_92 2 rfl rfl)
theorem dL_law_2349 : decode cL_law 2349 = .ok (.fstore 7, 2) := dk_56 7 (dk_at dksL_law_92 5 rfl rfl)
theorem dL_law_2351 : decode cL_law 2351 = .ok (.aload_n 2, 1) := dk_44 (dk_at dksL_law_92 7 rfl rfl)
theorem dL_law_2352 : decode cL_law 2352 = .ok (.invokevirtual 173, 3) := dk_182 0 173 (dk_at dksL_law_92 8 rfl rfl)
theorem dL_law_2355 : decode cL_law 2355 = .ok (.iload 6, 2) := dk_21 6 (dk_at dksL_law_92 11 rfl rfl)
theorem dL_law_2357 : decode cL_law 2357 = .ok (.if_icmp .eq 5, 3) := dk_159 0 5 (dk_at dksL_law_92 13 rfl rfl)
theorem dL_law_2360 : decode cL_law 2360 = .ok (.iconst 0, 1) := dk_3 (dk_at dksL_law_92 16 rfl rfl)
theorem dL_law_2361 : decode cL_law 2361 = .ok (.ireturn, 1) := dk_172 (dk_at dksL_law_92 17 rfl rfl)
theorem dL_law_2362 : decode cL_law 2362 = .ok (.iload 6, 2) := dk_21 6 (dk_at dksL_law_92 18 rfl rfl)
theorem dL_law_2364 : decode cL_law 2364 = .ok (.ifCond .ne 36, 3) := dk_154 0 36 (dk_at dksL_law_92 20 rfl rfl)
theorem dL_law_2367 : decode cL_law 2367 = .ok (.aload 4, 2) := dk_25 4 (dk_at dksL_law_93 0 rfl rfl)
theorem dL_law_2369 : decode cL_law 2369 = .ok (.iconst 0, 1) := dk_3 (dk_at dksL_law_93 2 rfl rfl)
theorem dL_law_2370 : decode cL_law 2370 = .ok (.daload, 1) := dk_49 (dk_at dksL_law_93 3 rfl rfl)
theorem dL_law_2371 : decode cL_law 2371 = .ok (.fload 7, 2) := dk_23 7 (dk_at dksL_law_93 4 rfl rfl)
theorem dL_law_2373 : decode cL_law 2373 = .ok (.f2d, 1) := dk_141 (dk_at dksL_law_93 6 rfl rfl)
theorem dL_law_2374 : decode cL_law 2374 = .ok (.dcmp .l, 1) := dk_151 (dk_at dksL_law_93 7 rfl rfl)
theorem dL_law_2375 : decode cL_law 2375 = .ok (.ifCond .eq 25, 3) := dk_153 0 25 (dk_at dksL_law_93 8 rfl rfl)
theorem dL_law_2378 : decode cL_law 2378 = .ok (.aload 4, 2) := dk_25 4 (dk_at dksL_law_93 11 rfl rfl)
theorem dL_law_2380 : decode cL_law 2380 = .ok (.iconst 0, 1) := dk_3 (dk_at dksL_law_93 13 rfl rfl)
theorem dL_law_2381 : decode cL_law 2381 = .ok (.daload, 1) := dk_49 (dk_at dksL_law_93 14 rfl rfl)
theorem dL_law_2382 : decode cL_law 2382 = .ok (.aload 4, 2) := dk_25 4 (dk_at dksL_law_93 15 rfl rfl)
theorem dL_law_2384 : decode cL_law 2384 = .ok (.iconst 0, 1) := dk_3 (dk_at dksL_law_93 17 rfl rfl)
theorem dL_law_2385 : decode cL_law 2385 = .ok (.daload, 1) := dk_49 (dk_at dksL_law_93 18 rfl rfl)
theorem dL_law_2386 : decode cL_law 2386 = .ok (.dcmp .l, 1) := dk_151 (dk_at dksL_law_93 19 rfl rfl)
theorem dL_law_2387 : decode cL_law 2387 = .ok (.ifCond .eq 11, 3) := dk_153 0 11 (dk_at dksL_law_93 20 rfl rfl)
theorem dL_law_2390 : decode cL_law 2390 = .ok (.fload 7, 2) := dk_23 7 (dk_at dksL_law_94 0 rfl rfl)
theorem dL_law_2392 : decode cL_law 2392 = .ok (.fload 7, 2) := dk_23 7 (dk_at dksL_law_94 2 rfl rfl)
theorem dL_law_2394 : decode cL_law 2394 = .ok (.fcmp .l, 1) := dk_149 (dk_at dksL_law_94 4 rfl rfl)
theorem dL_law_2395 : decode cL_law 2395 = .ok (.ifCond .ne 5, 3) := dk_154 0 5 (dk_at dksL_law_94 5 rfl rfl)
theorem dL_law_2398 : decode cL_law 2398 = .ok (.iconst 0, 1) := dk_3 (dk_at dksL_law_94 8 rfl rfl)
theorem dL_law_2399 : decode cL_law 2399 = .ok (.ireturn, 1) := dk_172 (dk_at dksL_law_94 9 rfl rfl)
theorem dL_law_2400 : decode cL_law 2400 = .ok (.goto 977, 3) := dk_167 3 209 (dk_at dksL_law_94 10 rfl rfl)
theorem dL_law_2403 : decode cL_law 2403 = .ok (.aload_n 1, 1) := dk_43 (dk_at dksL_law_94 13 rfl rfl)
theorem dL_law_2404 : decode cL_law 2404 = .ok (.aload_n 0, 1) := dk_42 (dk_at dksL_law_94 14 rfl rfl)
theorem dL_law_2405 : decode cL_law 2405 = .ok (.iload 5, 2) := dk_21 5 (dk_at dksL_law_94 15 rfl rfl)
theorem dL_law_2407 : decode cL_law 2407 = .ok (.iconst 1, 1) := dk_4 (dk_at dksL_law_94 17 rfl rfl)
theorem dL_law_2408 : decode cL_law 2408 = .ok (.iadd, 1) := dk_96 (dk_at dksL_law_94 18 rfl rfl)
theorem dL_law_2409 : decode cL_law 2409 = .ok (.iaload, 1) := dk_46 (dk_at dksL_law_94 19 rfl rfl)
theorem dL_law_2410 : decode cL_law 2410 = .ok (.aload 4, 2) := dk_25 4 (dk_at dksL_law_94 20 rfl rfl)
theorem dL_law_2412 : decode cL_law 2412 = .ok (.invokestatic 290, 3) := dk_184 1 34 (dk_at dksL_law_95 0 rfl rfl)
theorem dL_law_2415 : decode cL_law 2415 = .ok (.istore 6, 2) := dk_54 6 (dk_at dksL_law_95 3 rfl rfl)
theorem dL_law_2417 : decode cL_law 2417 = .ok (.aload_n 2, 1) := dk_44 (dk_at dksL_law_95 5 rfl rfl)
theorem dL_law_2418 : decode cL_law 2418 = .ok (.aload_n 0, 1) := dk_42 (dk_at dksL_law_95 6 rfl rfl)
theorem dL_law_2419 : decode cL_law 2419 = .ok (.iload 5, 2) := dk_21 5 (dk_at dksL_law_95 7 rfl rfl)
theorem dL_law_2421 : decode cL_law 2421 = .ok (.iconst 1, 1) := dk_4 (dk_at dksL_law_95 9 rfl rfl)
theorem dL_law_2422 : decode cL_law 2422 = .ok (.iadd, 1) := dk_96 (dk_at dksL_law_95 10 rfl rfl)
theorem dL_law_2423 : decode cL_law 2423 = .ok (.iaload, 1) := dk_46 (dk_at dksL_law_95 11 rfl rfl)
theorem dL_law_2424 : decode cL_law 2424 = .ok (.invokevirtual 292, 3) := dk_182 1 36 (dk_at dksL_law_95 12 rfl rfl)
theorem dL_law_2427 : decode cL_law 2427 = .ok (.dstore 7, 2) := dk_57 7 (dk_at dksL_law_95 15 rfl rfl)
theorem dL_law_2429 : decode cL_law 2429 = .ok (.aload_n 2, 1) := dk_44 (dk_at dksL_law_95 17 rfl rfl)
theorem dL_law_2430 : decode cL_law 2430 = .ok (.invokevirtual 173, 3) := dk_182 0 173 (dk_at dksL_law_95 18 rfl rfl)
theorem dL_law_2433 : decode cL_law 2433 = .ok (.iload 6, 2) := dk_21 6 (dk_at dksL_law_95 21 rfl rfl)
theorem dL_law_2435 : decode cL_law 2435 = .ok (.if_icmp .eq 5, 3) := dk_159 0 5 (dk_at dksL_law_96 0 rfl rfl)
theorem dL_law_2438 : decode cL_law 2438 = .ok (.iconst 0, 1) := dk_3 (dk_at dksL_law_96 3 rfl rfl)
theorem dL_law_2439 : decode cL_law 2439 = .ok (.ireturn, 1) := dk_172 (dk_at dksL_law_96 4 rfl rfl)
theorem dL_law_2440 : decode cL_law 2440 = .ok (.iload 6, 2) := dk_21 6 (dk_at dksL_law_96 5 rfl rfl)
theorem dL_law_2442 : decode cL_law 2442 = .ok (.ifCond .ne 35, 3) := dk_154 0 35 (dk_at dksL_law_96 7 rfl rfl)
theorem dL_law_2445 : decode cL_law 2445 = .ok (.aload 4, 2) := dk_25 4 (dk_at dksL_law_96 10 rfl rfl)
theorem dL_law_2447 : decode cL_law 2447 = .ok (.iconst 0, 1) := dk_3 (dk_at dksL_law_96 12 rfl rfl)
theorem dL_law_2448 : decode cL_law 2448 = .ok (.daload, 1) := dk_49 (dk_at dksL_law_96 13 rfl rfl)
theorem dL_law_2449 : decode cL_law 2449 = .ok (.dload 7, 2) := dk_24 7 (dk_at dksL_law_96 14 rfl rfl)
theorem dL_law_2451 : decode cL_law 2451 = .ok (.dcmp .l, 1) := dk_151 (dk_at dksL_law_96 16 rfl rfl)
theorem dL_law_2452 : decode cL_law 2452 = .ok (.ifCond .eq 25, 3) := dk_153 0 25 (dk_at dksL_law_96 17 rfl rfl)
theorem dL_law_2455 : decode cL_law 2455 = .ok (.aload 4, 2) := dk_25 4 (dk_at dksL_law_96 20 rfl rfl)
theorem dL_law_2457 : decode cL_law 2457 = .ok (.iconst 0, 1) := dk_3 (dk_at dksL_law_96 22 rfl rfl)
theorem dL_law_2458 : decode cL_law 2458 = .ok (.daload, 1) := dk_49 (dk_at dksL_law_96 23 rfl rfl)
theorem dL_law_2459 : decode cL_law 2459 = .ok (.aload 4, 2) := dk_25 4 (dk_at dksL_law_97 0 rfl rfl)
theorem dL_law_2461 : decode cL_law 2461 = .ok (.iconst 0, 1) := dk_3 (dk_at dksL_law_97 2 rfl rfl)
theorem dL_law_2462 : decode cL_law 2462 = .ok (.daload, 1) := dk_49 (dk_at dksL_law_97 3 rfl rfl)
theorem dL_law_2463 : decode cL_law 2463 = .ok (.dcmp .l, 1) := dk_151 (dk_at dksL_law_97 4 rfl rfl)
theorem dL_law_2464 : decode cL_law 2464 = .ok (.ifCond .eq 11, 3) := dk_153 0 11 (dk_at dksL_law_97 5 rfl rfl)
theorem dL_law_2467 : decode cL_law 2467 = .ok (.dload 7, 2) := dk_24 7 (dk_at dksL_law_97 8 rfl rfl)
theorem dL_law_2469 : decode cL_law 2469 = .ok (.dload 7, 2) := dk_24 7 (dk_at dksL_law_97 10 rfl rfl)
theorem dL_law_2471 : decode cL_law 2471 = .ok (.dcmp .l, 1) := dk_151 (dk_at dksL_law_97 12 rfl rfl)
theorem dL_law_2472 : decode cL_law 2472 = .ok (.ifCond .ne 5, 3) := dk_154 0 5 (dk_at dksL_law_97 13 rfl rfl)
theorem dL_law_2475 : decode cL_law 2475 = .ok (.iconst 0, 1) := dk_3 (dk_at dksL_law_97 16 rfl rfl)
theorem dL_law_2476 : decode cL_law 2476 = .ok (.ireturn, 1) := dk_172 (dk_at dksL_law_97 17 rfl rfl)
theorem dL_law_2477 : decode cL_law 2477 = .ok (.goto 900, 3) := dk_167 3 132 (dk_at dksL_law_97 18 rfl rfl)
theorem dL_law_2480 : decode cL_law 2480 = .ok (.aload_n 1, 1) := dk_43 (dk_at dksL_law_97 21 rfl rfl)
theorem dL_law_2481 : decode cL_law 2481 = .ok (.aload_n 0, 1) := dk_42 (dk_at dksL_law_97 22 rfl rfl)
theorem dL_law_2482 : decode cL_law 2482 = .ok (.iload 5, 2) := dk_21 5 (dk_at dksL_law_98 0 rfl rfl)
theorem dL_law_2484 : decode cL_law 2484 = .ok (.iconst 1, 1) := dk_4 (dk_at dksL_law_98 2 rfl rfl)
theorem dL_law_2485 : decode cL_law 2485 = .ok (.iadd, 1) := dk_96 (dk_at dksL_law_98 3 rfl rfl)
theorem dL_law_2486 : decode cL_law 2486 = .ok (.iaload, 1) := dk_46 (dk_at dksL_law_98 4 rfl rfl)
theorem dL_law_2487 : decode cL_law 2487 = .ok (.aload_n 0, 1) := dk_42 (dk_at dksL_law_98 5 rfl rfl)
theorem dL_law_2488 : decode cL_law 2488 = .ok (.iload 5, 2) := dk_21 5 (dk_at dksL_law_98 6 rfl rfl)
theorem dL_law_2490 : decode cL_law 2490 = .ok (.iconst 2, 1) := dk_5 (dk_at dksL_law_98 8 rfl rfl)
theorem dL_law_2491 : decode cL_law 2491 = .ok (.iadd, 1) := dk_96 (dk_at dksL_law_98 9 rfl rfl)
theorem dL_law_2492 : decode cL_law 2492 = .ok (.iaload, 1) := dk_46 (dk_at dksL_law_98 10 rfl rfl)
theorem dL_law_2493 : decode cL_law 2493 = .ok (.aload_n 0, 1) := dk_42 (dk_at dksL_law_98 11 rfl rfl)
theorem dL_law_2494 : decode cL_law 2494 = .ok (.iload 5, 2) := dk_21 5 (dk_at dksL_law_98 12 rfl rfl)
theorem dL_law_2496 : decode cL_law 2496 = .ok (.iconst 3, 1) := dk_6 (dk_at dksL_law_98 14 rfl rfl)
theorem dL_law_2497 : decode cL_law 2497 = .ok (.iadd, 1) := dk_96 (dk_at dksL_law_98 15 rfl rfl)
theorem dL_law_2498 : decode cL_law 2498 = .ok (.iaload, 1) := dk_46 (dk_at dksL_law_98 16 rfl rfl)
theorem dL_law_2499 : decode cL_law 2499 = .ok (.aload_n 3, 1) := dk_45 (dk_at dksL_law_98 17 rfl rfl)
theorem dL_law_2500 : decode cL_law 2500 = .ok (.invokestatic 293, 3) := dk_184 1 37 (dk_at dksL_law_98 18 rfl rfl)
theorem dL_law_2503 : decode cL_law 2503 = .ok (.istore 6, 2) := dk_54 6 (dk_at dksL_law_98 21 rfl rfl)
theorem dL_law_2505 : decode cL_law 2505 = .ok (.aload_n 2, 1) := dk_44 (dk_at dksL_law_98 23 rfl rfl)
theorem dL_law_2506 : decode cL_law 2506 = .ok (.aload_n 0, 1) := dk_42 (dk_at dksL_law_99 0 rfl rfl)
theorem dL_law_2507 : decode cL_law 2507 = .ok (.iload 5, 2) := dk_21 5 (dk_at dksL_law_99 1 rfl rfl)
theorem dL_law_2509 : decode cL_law 2509 = .ok (.iconst 1, 1) := dk_4 (dk_at dksL_law_99 3 rfl rfl)
theorem dL_law_2510 : decode cL_law 2510 = .ok (.iadd, 1) := dk_96 (dk_at dksL_law_99 4 rfl rfl)
theorem dL_law_2511 : decode cL_law 2511 = .ok (.iaload, 1) := dk_46 (dk_at dksL_law_99 5 rfl rfl)
theorem dL_law_2512 : decode cL_law 2512 = .ok (.aload_n 0, 1) := dk_42 (dk_at dksL_law_99 6 rfl rfl)
theorem dL_law_2513 : decode cL_law 2513 = .ok (.iload 5, 2) := dk_21 5 (dk_at dksL_law_99 7 rfl rfl)
theorem dL_law_2515 : decode cL_law 2515 = .ok (.iconst 2, 1) := dk_5 (dk_at dksL_law_99 9 rfl rfl)
theorem dL_law_2516 : decode cL_law 2516 = .ok (.iadd, 1) := dk_96 (dk_at dksL_law_99 10 rfl rfl)
theorem dL_law_2517 : decode cL_law 2517 = .ok (.iaload, 1) := dk_46 (dk_at dksL_law_99 11 rfl rfl)
theorem dL_law_2518 : decode cL_law 2518 = .ok (.aload_n 0, 1) := dk_42 (dk_at dksL_law_99 12 rfl rfl)
theorem dL_law_2519 : decode cL_law 2519 = .ok (.iload 5, 2) := dk_21 5 (dk_at dksL_law_99 13 rfl rfl)
theorem dL_law_2521 : decode cL_law 2521 = .ok (.iconst 3, 1) := dk_6 (dk_at dksL_law_99 15 rfl rfl)
theorem dL_law_2522 : decode cL_law 2522 = .ok (.iadd, 1) := dk_96 (dk_at dksL_law_99 16 rfl rfl)
theorem dL_law_2523 : decode cL_law 2523 = .ok (.iaload, 1) := dk_46 (dk_at dksL_law_99 17 rfl rfl)
theorem dL_law_2524 : decode cL_law 2524 = .ok (.invokevirtual 295, 3) := dk_182 1 39 (dk_at dksL_law_99 18 rfl rfl)
theorem dL_law_2527 : decode cL_law 2527 = .ok (.istore 7, 2) := dk_54 7 (dk_at dksL_law_99 21 rfl rfl)
theorem dL_law_2529 : decode cL_law 2529 = .ok (.aload_n 2, 1) := dk_44 (dk_at dksL_law_99 23 rfl rfl)
theorem dL_law_2530 : decode cL_law 2530 = .ok (.invokevirtual 173, 3) := dk_182 0 173 (dk_at dksL_law_100 0 rfl rfl)
theorem dL_law_2533 : decode cL_law 2533 = .ok (.iload 6, 2) := dk_21 6 (dk_at dksL_law_100 3 rfl rfl)
theorem dL_law_2535 : decode cL_law 2535 = .ok (.if_icmp .eq 5, 3) := dk_159 0 5 (dk_at dksL_law_100 5 rfl rfl)
theorem dL_law_2538 : decode cL_law 2538 = .ok (.iconst 0, 1) := dk_3 (dk_at dksL_law_100 8 rfl rfl)
theorem dL_law_2539 : decode cL_law 2539 = .ok (.ireturn, 1) := dk_172 (dk_at dksL_law_100 9 rfl rfl)
theorem dL_law_2540 : decode cL_law 2540 = .ok (.iload 6, 2) := dk_21 6 (dk_at dksL_law_100 10 rfl rfl)
theorem dL_law_2542 : decode cL_law 2542 = .ok (.ifCond .ne 15, 3) := dk_154 0 15 (dk_at dksL_law_100 12 rfl rfl)
theorem dL_law_2545 : decode cL_law 2545 = .ok (.aload_n 3, 1) := dk_45 (dk_at dksL_law_100 15 rfl rfl)
theorem dL_law_2546 : decode cL_law 2546 = .ok (.iconst 0, 1) := dk_3 (dk_at dksL_law_100 16 rfl rfl)
theorem dL_law_2547 : decode cL_law 2547 = .ok (.laload, 1) := dk_47 (dk_at dksL_law_100 17 rfl rfl)
theorem dL_law_2548 : decode cL_law 2548 = .ok (.iload 7, 2) := dk_21 7 (dk_at dksL_law_100 18 rfl rfl)
theorem dL_law_2550 : decode cL_law 2550 = .ok (.i2l, 1) := dk_133 (dk_at dksL_law_100 20 rfl rfl)
theorem dL_law_2551 : decode cL_law 2551 = .ok (.lcmp, 1) := dk_148 (dk_at dksL_law_100 21 rfl rfl)
theorem dL_law_2552 : decode cL_law 2552 = .ok (.ifCond .eq 5, 3) := dk_153 0 5 (dk_at dksL_law_101 0 rfl rfl)
theorem dL_law_2555 : decode cL_law 2555 = .ok (.iconst 0, 1) := dk_3 (dk_at dksL_law_101 3 rfl rfl)
theorem dL_law_2556 : decode cL_law 2556 = .ok (.ireturn, 1) := dk_172 (dk_at dksL_law_101 4 rfl rfl)
theorem dL_law_2557 : decode cL_law 2557 = .ok (.goto 820, 3) := dk_167 3 52 (dk_at dksL_law_101 5 rfl rfl)
theorem dL_law_2560 : decode cL_law 2560 = .ok (.aload_n 1, 1) := dk_43 (dk_at dksL_law_101 8 rfl rfl)
theorem dL_law_2561 : decode cL_law 2561 = .ok (.aload_n 0, 1) := dk_42 (dk_at dksL_law_101 9 rfl rfl)
theorem dL_law_2562 : decode cL_law 2562 = .ok (.iload 5, 2) := dk_21 5 (dk_at dksL_law_101 10 rfl rfl)
theorem dL_law_2564 : decode cL_law 2564 = .ok (.iconst 1, 1) := dk_4 (dk_at dksL_law_101 12 rfl rfl)
theorem dL_law_2565 : decode cL_law 2565 = .ok (.iadd, 1) := dk_96 (dk_at dksL_law_101 13 rfl rfl)
theorem dL_law_2566 : decode cL_law 2566 = .ok (.iaload, 1) := dk_46 (dk_at dksL_law_101 14 rfl rfl)
theorem dL_law_2567 : decode cL_law 2567 = .ok (.aload_n 0, 1) := dk_42 (dk_at dksL_law_101 15 rfl rfl)
theorem dL_law_2568 : decode cL_law 2568 = .ok (.iload 5, 2) := dk_21 5 (dk_at dksL_law_101 16 rfl rfl)
theorem dL_law_2570 : decode cL_law 2570 = .ok (.iconst 2, 1) := dk_5 (dk_at dksL_law_101 18 rfl rfl)
theorem dL_law_2571 : decode cL_law 2571 = .ok (.iadd, 1) := dk_96 (dk_at dksL_law_101 19 rfl rfl)
theorem dL_law_2572 : decode cL_law 2572 = .ok (.iaload, 1) := dk_46 (dk_at dksL_law_101 20 rfl rfl)
theorem dL_law_2573 : decode cL_law 2573 = .ok (.aload_n 0, 1) := dk_42 (dk_at dksL_law_101 21 rfl rfl)
theorem dL_law_2574 : decode cL_law 2574 = .ok (.iload 5, 2) := dk_21 5 (dk_at dksL_law_101 22 rfl rfl)
theorem dL_law_2576 : decode cL_law 2576 = .ok (.iconst 3, 1) := dk_6 (dk_at dksL_law_102 0 rfl rfl)
theorem dL_law_2577 : decode cL_law 2577 = .ok (.iadd, 1) := dk_96 (dk_at dksL_law_102 1 rfl rfl)
theorem dL_law_2578 : decode cL_law 2578 = .ok (.iaload, 1) := dk_46 (dk_at dksL_law_102 2 rfl rfl)
theorem dL_law_2579 : decode cL_law 2579 = .ok (.aload_n 0, 1) := dk_42 (dk_at dksL_law_102 3 rfl rfl)
theorem dL_law_2580 : decode cL_law 2580 = .ok (.iload 5, 2) := dk_21 5 (dk_at dksL_law_102 4 rfl rfl)
theorem dL_law_2582 : decode cL_law 2582 = .ok (.iconst 4, 1) := dk_7 (dk_at dksL_law_102 6 rfl rfl)
theorem dL_law_2583 : decode cL_law 2583 = .ok (.iadd, 1) := dk_96 (dk_at dksL_law_102 7 rfl rfl)
theorem dL_law_2584 : decode cL_law 2584 = .ok (.iaload, 1) := dk_46 (dk_at dksL_law_102 8 rfl rfl)
theorem dL_law_2585 : decode cL_law 2585 = .ok (.aload_n 3, 1) := dk_45 (dk_at dksL_law_102 9 rfl rfl)
theorem dL_law_2586 : decode cL_law 2586 = .ok (.invokestatic 296, 3) := dk_184 1 40 (dk_at dksL_law_102 10 rfl rfl)
theorem dL_law_2589 : decode cL_law 2589 = .ok (.istore 6, 2) := dk_54 6 (dk_at dksL_law_102 13 rfl rfl)
theorem dL_law_2591 : decode cL_law 2591 = .ok (.aload_n 2, 1) := dk_44 (dk_at dksL_law_102 15 rfl rfl)
theorem dL_law_2592 : decode cL_law 2592 = .ok (.aload_n 0, 1) := dk_42 (dk_at dksL_law_102 16 rfl rfl)
theorem dL_law_2593 : decode cL_law 2593 = .ok (.iload 5, 2) := dk_21 5 (dk_at dksL_law_102 17 rfl rfl)
theorem dL_law_2595 : decode cL_law 2595 = .ok (.iconst 1, 1) := dk_4 (dk_at dksL_law_102 19 rfl rfl)
theorem dL_law_2596 : decode cL_law 2596 = .ok (.iadd, 1) := dk_96 (dk_at dksL_law_102 20 rfl rfl)
theorem dL_law_2597 : decode cL_law 2597 = .ok (.iaload, 1) := dk_46 (dk_at dksL_law_102 21 rfl rfl)
theorem dL_law_2598 : decode cL_law 2598 = .ok (.aload_n 0, 1) := dk_42 (dk_at dksL_law_102 22 rfl rfl)
theorem dL_law_2599 : decode cL_law 2599 = .ok (.iload 5, 2) := dk_21 5 (dk_at dksL_law_103 0 rfl rfl)
theorem dL_law_2601 : decode cL_law 2601 = .ok (.iconst 2, 1) := dk_5 (dk_at dksL_law_103 2 rfl rfl)
theorem dL_law_2602 : decode cL_law 2602 = .ok (.iadd, 1) := dk_96 (dk_at dksL_law_103 3 rfl rfl)
theorem dL_law_2603 : decode cL_law 2603 = .ok (.iaload, 1) := dk_46 (dk_at dksL_law_103 4 rfl rfl)
theorem dL_law_2604 : decode cL_law 2604 = .ok (.aload_n 0, 1) := dk_42 (dk_at dksL_law_103 5 rfl rfl)
theorem dL_law_2605 : decode cL_law 2605 = .ok (.iload 5, 2) := dk_21 5 (dk_at dksL_law_103 6 rfl rfl)
theorem dL_law_2607 : decode cL_law 2607 = .ok (.iconst 3, 1) := dk_6 (dk_at dksL_law_103 8 rfl rfl)
theorem dL_law_2608 : decode cL_law 2608 = .ok (.iadd, 1) := dk_96 (dk_at dksL_law_103 9 rfl rfl)
theorem dL_law_2609 : decode cL_law 2609 = .ok (.iaload, 1) := dk_46 (dk_at dksL_law_103 10 rfl rfl)
theorem dL_law_2610 : decode cL_law 2610 = .ok (.aload_n 0, 1) := dk_42 (dk_at dksL_law_103 11 rfl rfl)
theorem dL_law_2611 : decode cL_law 2611 = .ok (.iload 5, 2) := dk_21 5 (dk_at dksL_law_103 12 rfl rfl)
theorem dL_law_2613 : decode cL_law 2613 = .ok (.iconst 4, 1) := dk_7 (dk_at dksL_law_103 14 rfl rfl)
theorem dL_law_2614 : decode cL_law 2614 = .ok (.iadd, 1) := dk_96 (dk_at dksL_law_103 15 rfl rfl)
theorem dL_law_2615 : decode cL_law 2615 = .ok (.iaload, 1) := dk_46 (dk_at dksL_law_103 16 rfl rfl)
theorem dL_law_2616 : decode cL_law 2616 = .ok (.invokevirtual 299, 3) := dk_182 1 43 (dk_at dksL_law_103 17 rfl rfl)
theorem dL_law_2619 : decode cL_law 2619 = .ok (.istore 7, 2) := dk_54 7 (dk_at dksL_law_103 20 rfl rfl)
theorem dL_law_2621 : decode cL_law 2621 = .ok (.aload_n 2, 1) := dk_44 (dk_at dksL_law_103 22 rfl rfl)
theorem dL_law_2622 : decode cL_law 2622 = .ok (.invokevirtual 173, 3) := dk_182 0 173 (dk_at dksL_law_104 0 rfl rfl)
theorem dL_law_2625 : decode cL_law 2625 = .ok (.iload 6, 2) := dk_21 6 (dk_at dksL_law_104 3 rfl rfl)
theorem dL_law_2627 : decode cL_law 2627 = .ok (.if_icmp .eq 5, 3) := dk_159 0 5 (dk_at dksL_law_104 5 rfl rfl)
theorem dL_law_2630 : decode cL_law 2630 = .ok (.iconst 0, 1) := dk_3 (dk_at dksL_law_104 8 rfl rfl)
theorem dL_law_2631 : decode cL_law 2631 = .ok (.ireturn, 1) := dk_172 (dk_at dksL_law_104 9 rfl rfl)
theorem dL_law_2632 : decode cL_law 2632 = .ok (.iload 6, 2) := dk_21 6 (dk_at dksL_law_104 10 rfl rfl)
theorem dL_law_2634 : decode cL_law 2634 = .ok (.ifCond .ne 15, 3) := dk_154 0 15 (dk_at dksL_law_104 12 rfl rfl)
theorem dL_law_2637 : decode cL_law 2637 = .ok (.aload_n 3, 1) := dk_45 (dk_at dksL_law_104 15 rfl rfl)
theorem dL_law_2638 : decode cL_law 2638 = .ok (.iconst 0, 1) := dk_3 (dk_at dksL_law_104 16 rfl rfl)
theorem dL_law_2639 : decode cL_law 2639 = .ok (.laload, 1) := dk_47 (dk_at dksL_law_104 17 rfl rfl)
theorem dL_law_2640 : decode cL_law 2640 = .ok (.iload 7, 2) := dk_21 7 (dk_at dksL_law_104 18 rfl rfl)
theorem dL_law_2642 : decode cL_law 2642 = .ok (.i2l, 1) := dk_133 (dk_at dksL_law_104 20 rfl rfl)
theorem dL_law_2643 : decode cL_law 2643 = .ok (.lcmp, 1) := dk_148 (dk_at dksL_law_104 21 rfl rfl)
theorem dL_law_2644 : decode cL_law 2644 = .ok (.ifCond .eq 5, 3) := dk_153 0 5 (dk_at dksL_law_105 0 rfl rfl)
theorem dL_law_2647 : decode cL_law 2647 = .ok (.iconst 0, 1) := dk_3 (dk_at dksL_law_105 3 rfl rfl)
theorem dL_law_2648 : decode cL_law 2648 = .ok (.ireturn, 1) := dk_172 (dk_at dksL_law_105 4 rfl rfl)
theorem dL_law_2649 : decode cL_law 2649 = .ok (.goto 728, 3) := dk_167 2 216 (dk_at dksL_law_105 5 rfl rfl)
theorem dL_law_2652 : decode cL_law 2652 = .ok (.aload_n 1, 1) := dk_43 (dk_at dksL_law_105 8 rfl rfl)
theorem dL_law_2653 : decode cL_law 2653 = .ok (.aload_n 0, 1) := dk_42 (dk_at dksL_law_105 9 rfl rfl)
theorem dL_law_2654 : decode cL_law 2654 = .ok (.iload 5, 2) := dk_21 5 (dk_at dksL_law_105 10 rfl rfl)
theorem dL_law_2656 : decode cL_law 2656 = .ok (.iconst 1, 1) := dk_4 (dk_at dksL_law_105 12 rfl rfl)
theorem dL_law_2657 : decode cL_law 2657 = .ok (.iadd, 1) := dk_96 (dk_at dksL_law_105 13 rfl rfl)
theorem dL_law_2658 : decode cL_law 2658 = .ok (.iaload, 1) := dk_46 (dk_at dksL_law_105 14 rfl rfl)
theorem dL_law_2659 : decode cL_law 2659 = .ok (.aload_n 0, 1) := dk_42 (dk_at dksL_law_105 15 rfl rfl)
theorem dL_law_2660 : decode cL_law 2660 = .ok (.iload 5, 2) := dk_21 5 (dk_at dksL_law_105 16 rfl rfl)
theorem dL_law_2662 : decode cL_law 2662 = .ok (.iconst 2, 1) := dk_5 (dk_at dksL_law_105 18 rfl rfl)
theorem dL_law_2663 : decode cL_law 2663 = .ok (.iadd, 1) := dk_96 (dk_at dksL_law_105 19 rfl rfl)
theorem dL_law_2664 : decode cL_law 2664 = .ok (.iaload, 1) := dk_46 (dk_at dksL_law_105 20 rfl rfl)
theorem dL_law_2665 : decode cL_law 2665 = .ok (.aload_n 0, 1) := dk_42 (dk_at dksL_law_105 21 rfl rfl)
theorem dL_law_2666 : decode cL_law 2666 = .ok (.iload 5, 2) := dk_21 5 (dk_at dksL_law_105 22 rfl rfl)
theorem dL_law_2668 : decode cL_law 2668 = .ok (.iconst 3, 1) := dk_6 (dk_at dksL_law_106 0 rfl rfl)
theorem dL_law_2669 : decode cL_law 2669 = .ok (.iadd, 1) := dk_96 (dk_at dksL_law_106 1 rfl rfl)
theorem dL_law_2670 : decode cL_law 2670 = .ok (.iaload, 1) := dk_46 (dk_at dksL_law_106 2 rfl rfl)
theorem dL_law_2671 : decode cL_law 2671 = .ok (.aload_n 3, 1) := dk_45 (dk_at dksL_law_106 3 rfl rfl)
theorem dL_law_2672 : decode cL_law 2672 = .ok (.invokestatic 300, 3) := dk_184 1 44 (dk_at dksL_law_106 4 rfl rfl)
theorem dL_law_2675 : decode cL_law 2675 = .ok (.istore 6, 2) := dk_54 6 (dk_at dksL_law_106 7 rfl rfl)
theorem dL_law_2677 : decode cL_law 2677 = .ok (.aload_n 2, 1) := dk_44 (dk_at dksL_law_106 9 rfl rfl)
theorem dL_law_2678 : decode cL_law 2678 = .ok (.aload_n 0, 1) := dk_42 (dk_at dksL_law_106 10 rfl rfl)
theorem dL_law_2679 : decode cL_law 2679 = .ok (.iload 5, 2) := dk_21 5 (dk_at dksL_law_106 11 rfl rfl)
theorem dL_law_2681 : decode cL_law 2681 = .ok (.iconst 1, 1) := dk_4 (dk_at dksL_law_106 13 rfl rfl)
theorem dL_law_2682 : decode cL_law 2682 = .ok (.iadd, 1) := dk_96 (dk_at dksL_law_106 14 rfl rfl)
theorem dL_law_2683 : decode cL_law 2683 = .ok (.iaload, 1) := dk_46 (dk_at dksL_law_106 15 rfl rfl)
theorem dL_law_2684 : decode cL_law 2684 = .ok (.aload_n 0, 1) := dk_42 (dk_at dksL_law_106 16 rfl rfl)
theorem dL_law_2685 : decode cL_law 2685 = .ok (.iload 5, 2) := dk_21 5 (dk_at dksL_law_106 17 rfl rfl)
theorem dL_law_2687 : decode cL_law 2687 = .ok (.iconst 2, 1) := dk_5 (dk_at dksL_law_106 19 rfl rfl)
theorem dL_law_2688 : decode cL_law 2688 = .ok (.iadd, 1) := dk_96 (dk_at dksL_law_106 20 rfl rfl)
theorem dL_law_2689 : decode cL_law 2689 = .ok (.iaload, 1) := dk_46 (dk_at dksL_law_106 21 rfl rfl)
theorem dL_law_2690 : decode cL_law 2690 = .ok (.aload_n 0, 1) := dk_42 (dk_at dksL_law_106 22 rfl rfl)
theorem dL_law_2691 : decode cL_law 2691 = .ok (.iload 5, 2) := dk_21 5 (dk_at dksL_law_107 0 rfl rfl)
theorem dL_law_2693 : decode cL_law 2693 = .ok (.iconst 3, 1) := dk_6 (dk_at dksL_law_107 2 rfl rfl)
theorem dL_law_2694 : decode cL_law 2694 = .ok (.iadd, 1) := dk_96 (dk_at dksL_law_107 3 rfl rfl)
theorem dL_law_2695 : decode cL_law 2695 = .ok (.iaload, 1) := dk_46 (dk_at dksL_law_107 4 rfl rfl)
theorem dL_law_2696 : decode cL_law 2696 = .ok (.invokevirtual 302, 3) := dk_182 1 46 (dk_at dksL_law_107 5 rfl rfl)
theorem dL_law_2699 : decode cL_law 2699 = .ok (.istore 7, 2) := dk_54 7 (dk_at dksL_law_107 8 rfl rfl)
theorem dL_law_2701 : decode cL_law 2701 = .ok (.aload_n 2, 1) := dk_44 (dk_at dksL_law_107 10 rfl rfl)
theorem dL_law_2702 : decode cL_law 2702 = .ok (.invokevirtual 173, 3) := dk_182 0 173 (dk_at dksL_law_107 11 rfl rfl)
theorem dL_law_2705 : decode cL_law 2705 = .ok (.iload 6, 2) := dk_21 6 (dk_at dksL_law_107 14 rfl rfl)
theorem dL_law_2707 : decode cL_law 2707 = .ok (.if_icmp .eq 5, 3) := dk_159 0 5 (dk_at dksL_law_107 16 rfl rfl)
theorem dL_law_2710 : decode cL_law 2710 = .ok (.iconst 0, 1) := dk_3 (dk_at dksL_law_107 19 rfl rfl)
theorem dL_law_2711 : decode cL_law 2711 = .ok (.ireturn, 1) := dk_172 (dk_at dksL_law_107 20 rfl rfl)
theorem dL_law_2712 : decode cL_law 2712 = .ok (.iload 6, 2) := dk_21 6 (dk_at dksL_law_107 21 rfl rfl)
theorem dL_law_2714 : decode cL_law 2714 = .ok (.ifCond .ne 15, 3) := dk_154 0 15 (dk_at dksL_law_108 0 rfl rfl)
theorem dL_law_2717 : decode cL_law 2717 = .ok (.aload_n 3, 1) := dk_45 (dk_at dksL_law_108 3 rfl rfl)
theorem dL_law_2718 : decode cL_law 2718 = .ok (.iconst 0, 1) := dk_3 (dk_at dksL_law_108 4 rfl rfl)
theorem dL_law_2719 : decode cL_law 2719 = .ok (.laload, 1) := dk_47 (dk_at dksL_law_108 5 rfl rfl)
theorem dL_law_2720 : decode cL_law 2720 = .ok (.iload 7, 2) := dk_21 7 (dk_at dksL_law_108 6 rfl rfl)
theorem dL_law_2722 : decode cL_law 2722 = .ok (.i2l, 1) := dk_133 (dk_at dksL_law_108 8 rfl rfl)
theorem dL_law_2723 : decode cL_law 2723 = .ok (.lcmp, 1) := dk_148 (dk_at dksL_law_108 9 rfl rfl)
theorem dL_law_2724 : decode cL_law 2724 = .ok (.ifCond .eq 5, 3) := dk_153 0 5 (dk_at dksL_law_108 10 rfl rfl)
theorem dL_law_2727 : decode cL_law 2727 = .ok (.iconst 0, 1) := dk_3 (dk_at dksL_law_108 13 rfl rfl)
theorem dL_law_2728 : decode cL_law 2728 = .ok (.ireturn, 1) := dk_172 (dk_at dksL_law_108 14 rfl rfl)
theorem dL_law_2729 : decode cL_law 2729 = .ok (.goto 648, 3) := dk_167 2 136 (dk_at dksL_law_108 15 rfl rfl)
theorem dL_law_2732 : decode cL_law 2732 = .ok (.aload_n 1, 1) := dk_43 (dk_at dksL_law_108 18 rfl rfl)
theorem dL_law_2733 : decode cL_law 2733 = .ok (.aload_n 0, 1) := dk_42 (dk_at dksL_law_108 19 rfl rfl)
theorem dL_law_2734 : decode cL_law 2734 = .ok (.iload 5, 2) := dk_21 5 (dk_at dksL_law_108 20 rfl rfl)
theorem dL_law_2736 : decode cL_law 2736 = .ok (.iconst 1, 1) := dk_4 (dk_at dksL_law_108 22 rfl rfl)
theorem dL_law_2737 : decode cL_law 2737 = .ok (.iadd, 1) := dk_96 (dk_at dksL_law_108 23 rfl rfl)
theorem dL_law_2738 : decode cL_law 2738 = .ok (.iaload, 1) := dk_46 (dk_at dksL_law_109 0 rfl rfl)
theorem dL_law_2739 : decode cL_law 2739 = .ok (.aload_n 3, 1) := dk_45 (dk_at dksL_law_109 1 rfl rfl)
theorem dL_law_2740 : decode cL_law 2740 = .ok (.invokestatic 303, 3) := dk_184 1 47 (dk_at dksL_law_109 2 rfl rfl)
theorem dL_law_2743 : decode cL_law 2743 = .ok (.istore 6, 2) := dk_54 6 (dk_at dksL_law_109 5 rfl rfl)
theorem dL_law_2745 : decode cL_law 2745 = .ok (.aload_n 2, 1) := dk_44 (dk_at dksL_law_109 7 rfl rfl)
theorem dL_law_2746 : decode cL_law 2746 = .ok (.aload_n 0, 1) := dk_42 (dk_at dksL_law_109 8 rfl rfl)
theorem dL_law_2747 : decode cL_law 2747 = .ok (.iload 5, 2) := dk_21 5 (dk_at dksL_law_109 9 rfl rfl)
theorem dL_law_2749 : decode cL_law 2749 = .ok (.iconst 1, 1) := dk_4 (dk_at dksL_law_109 11 rfl rfl)
theorem dL_law_2750 : decode cL_law 2750 = .ok (.iadd, 1) := dk_96 (dk_at dksL_law_109 12 rfl rfl)
theorem dL_law_2751 : decode cL_law 2751 = .ok (.iaload, 1) := dk_46 (dk_at dksL_law_109 13 rfl rfl)
theorem dL_law_2752 : decode cL_law 2752 = .ok (.invokevirtual 305, 3) := dk_182 1 49 (dk_at dksL_law_109 14 rfl rfl)
theorem dL_law_2755 : decode cL_law 2755 = .ok (.istore 7, 2) := dk_54 7 (dk_at dksL_law_109 17 rfl rfl)
theorem dL_law_2757 : decode cL_law 2757 = .ok (.aload_n 2, 1) := dk_44 (dk_at dksL_law_109 19 rfl rfl)
theorem dL_law_2758 : decode cL_law 2758 = .ok (.invokevirtual 173, 3) := dk_182 0 173 (dk_at dksL_law_109 20 rfl rfl)
theorem dL_law_2761 : decode cL_law 2761 = .ok (.iload 6, 2) := dk_21 6 (dk_at dksL_law_110 0 rfl rfl)
theorem dL_law_2763 : decode cL_law 2763 = .ok (.if_icmp .eq 5, 3) := dk_159 0 5 (dk_at dksL_law_110 2 rfl rfl)
theorem dL_law_2766 : decode cL_law 2766 = .ok (.iconst 0, 1) := dk_3 (dk_at dksL_law_110 5 rfl rfl)
theorem dL_law_2767 : decode cL_law 2767 = .ok (.ireturn, 1) := dk_172 (dk_at dksL_law_110 6 rfl rfl)
theorem dL_law_2768 : decode cL_law 2768 = .ok (.iload 6, 2) := dk_21 6 (dk_at dksL_law_110 7 rfl rfl)
theorem dL_law_2770 : decode cL_law 2770 = .ok (.ifCond .ne 15, 3) := dk_154 0 15 (dk_at dksL_law_110 9 rfl rfl)
theorem dL_law_2773 : decode cL_law 2773 = .ok (.aload_n 3, 1) := dk_45 (dk_at dksL_law_110 12 rfl rfl)
theorem dL_law_2774 : decode cL_law 2774 = .ok (.iconst 0, 1) := dk_3 (dk_at dksL_law_110 13 rfl rfl)
theorem dL_law_2775 : decode cL_law 2775 = .ok (.laload, 1) := dk_47 (dk_at dksL_law_110 14 rfl rfl)
theorem dL_law_2776 : decode cL_law 2776 = .ok (.iload 7, 2) := dk_21 7 (dk_at dksL_law_110 15 rfl rfl)
theorem dL_law_2778 : decode cL_law 2778 = .ok (.i2l, 1) := dk_133 (dk_at dksL_law_110 17 rfl rfl)
theorem dL_law_2779 : decode cL_law 2779 = .ok (.lcmp, 1) := dk_148 (dk_at dksL_law_110 18 rfl rfl)
theorem dL_law_2780 : decode cL_law 2780 = .ok (.ifCond .eq 5, 3) := dk_153 0 5 (dk_at dksL_law_110 19 rfl rfl)
theorem dL_law_2783 : decode cL_law 2783 = .ok (.iconst 0, 1) := dk_3 (dk_at dksL_law_110 22 rfl rfl)
theorem dL_law_2784 : decode cL_law 2784 = .ok (.ireturn, 1) := dk_172 (dk_at dksL_law_110 23 rfl rfl)
theorem dL_law_2785 : decode cL_law 2785 = .ok (.goto 592, 3) := dk_167 2 80 (dk_at dksL_law_111 0 rfl rfl)
theorem dL_law_2788 : decode cL_law 2788 = .ok (.aload_n 1, 1) := dk_43 (dk_at dksL_law_111 3 rfl rfl)
theorem dL_law_2789 : decode cL_law 2789 = .ok (.aload_n 0, 1) := dk_42 (dk_at dksL_law_111 4 rfl rfl)
theorem dL_law_2790 : decode cL_law 2790 = .ok (.iload 5, 2) := dk_21 5 (dk_at dksL_law_111 5 rfl rfl)
theorem dL_law_2792 : decode cL_law 2792 = .ok (.iconst 1, 1) := dk_4 (dk_at dksL_law_111 7 rfl rfl)
theorem dL_law_2793 : decode cL_law 2793 = .ok (.iadd, 1) := dk_96 (dk_at dksL_law_111 8 rfl rfl)
theorem dL_law_2794 : decode cL_law 2794 = .ok (.iaload, 1) := dk_46 (dk_at dksL_law_111 9 rfl rfl)
theorem dL_law_2795 : decode cL_law 2795 = .ok (.aload_n 0, 1) := dk_42 (dk_at dksL_law_111 10 rfl rfl)
theorem dL_law_2796 : decode cL_law 2796 = .ok (.iload 5, 2) := dk_21 5 (dk_at dksL_law_111 11 rfl rfl)
theorem dL_law_2798 : decode cL_law 2798 = .ok (.iconst 2, 1) := dk_5 (dk_at dksL_law_111 13 rfl rfl)
theorem dL_law_2799 : decode cL_law 2799 = .ok (.iadd, 1) := dk_96 (dk_at dksL_law_111 14 rfl rfl)
theorem dL_law_2800 : decode cL_law 2800 = .ok (.iaload, 1) := dk_46 (dk_at dksL_law_111 15 rfl rfl)
theorem dL_law_2801 : decode cL_law 2801 = .ok (.aload_n 0, 1) := dk_42 (dk_at dksL_law_111 16 rfl rfl)
theorem dL_law_2802 : decode cL_law 2802 = .ok (.iload 5, 2) := dk_21 5 (dk_at dksL_law_111 17 rfl rfl)
theorem dL_law_2804 : decode cL_law 2804 = .ok (.iconst 3, 1) := dk_6 (dk_at dksL_law_111 19 rfl rfl)
theorem dL_law_2805 : decode cL_law 2805 = .ok (.iadd, 1) := dk_96 (dk_at dksL_law_111 20 rfl rfl)
theorem dL_law_2806 : decode cL_law 2806 = .ok (.iaload, 1) := dk_46 (dk_at dksL_law_111 21 rfl rfl)
theorem dL_law_2807 : decode cL_law 2807 = .ok (.aload_n 3, 1) := dk_45 (dk_at dksL_law_111 22 rfl rfl)
theorem dL_law_2808 : decode cL_law 2808 = .ok (.invokestatic 306, 3) := dk_184 1 50 (dk_at dksL_law_112 0 rfl rfl)
theorem dL_law_2811 : decode cL_law 2811 = .ok (.istore 6, 2) := dk_54 6 (dk_at dksL_law_112 3 rfl rfl)
theorem dL_law_2813 : decode cL_law 2813 = .ok (.aload_n 2, 1) := dk_44 (dk_at dksL_law_112 5 rfl rfl)
theorem dL_law_2814 : decode cL_law 2814 = .ok (.aload_n 0, 1) := dk_42 (dk_at dksL_law_112 6 rfl rfl)
theorem dL_law_2815 : decode cL_law 2815 = .ok (.iload 5, 2) := dk_21 5 (dk_at dksL_law_112 7 rfl rfl)
theorem dL_law_2817 : decode cL_law 2817 = .ok (.iconst 1, 1) := dk_4 (dk_at dksL_law_112 9 rfl rfl)
theorem dL_law_2818 : decode cL_law 2818 = .ok (.iadd, 1) := dk_96 (dk_at dksL_law_112 10 rfl rfl)
theorem dL_law_2819 : decode cL_law 2819 = .ok (.iaload, 1) := dk_46 (dk_at dksL_law_112 11 rfl rfl)
theorem dL_law_2820 : decode cL_law 2820 = .ok (.aload_n 0, 1) := dk_42 (dk_at dksL_law_112 12 rfl rfl)
theorem dL_law_2821 : decode cL_law 2821 = .ok (.iload 5, 2) := dk_21 5 (dk_at dksL_law_112 13 rfl rfl)
theorem dL_law_2823 : decode cL_law 2823 = .ok (.iconst 2, 1) := dk_5 (dk_at dksL_law_112 15 rfl rfl)
theorem dL_law_2824 : decode cL_law 2824 = .ok (.iadd, 1) := dk_96 (dk_at dksL_law_112 16 rfl rfl)
theorem dL_law_2825 : decode cL_law 2825 = .ok (.iaload, 1) := dk_46 (dk_at dksL_law_112 17 rfl rfl)
theorem dL_law_2826 : decode cL_law 2826 = .ok (.aload_n 0, 1) := dk_42 (dk_at dksL_law_112 18 rfl rfl)
theorem dL_law_2827 : decode cL_law 2827 = .ok (.iload 5, 2) := dk_21 5 (dk_at dksL_law_112 19 rfl rfl)
theorem dL_law_2829 : decode cL_law 2829 = .ok (.iconst 3, 1) := dk_6 (dk_at dksL_law_112 21 rfl rfl)
theorem dL_law_2830 : decode cL_law 2830 = .ok (.iadd, 1) := dk_96 (dk_at dksL_law_112 22 rfl rfl)
theorem dL_law_2831 : decode cL_law 2831 = .ok (.iaload, 1) := dk_46 (dk_at dksL_law_112 23 rfl rfl)
theorem dL_law_2832 : decode cL_law 2832 = .ok (.invokevirtual 308, 3) := dk_182 1 52 (dk_at dksL_law_113 0 rfl rfl)
theorem dL_law_2835 : decode cL_law 2835 = .ok (.istore 7, 2) := dk_54 7 (dk_at dksL_law_113 3 rfl rfl)
theorem dL_law_2837 : decode cL_law 2837 = .ok (.aload_n 2, 1) := dk_44 (dk_at dksL_law_113 5 rfl rfl)
theorem dL_law_2838 : decode cL_law 2838 = .ok (.invokevirtual 173, 3) := dk_182 0 173 (dk_at dksL_law_113 6 rfl rfl)
theorem dL_law_2841 : decode cL_law 2841 = .ok (.iload 6, 2) := dk_21 6 (dk_at dksL_law_113 9 rfl rfl)
theorem dL_law_2843 : decode cL_law 2843 = .ok (.if_icmp .eq 5, 3) := dk_159 0 5 (dk_at dksL_law_113 11 rfl rfl)
theorem dL_law_2846 : decode cL_law 2846 = .ok (.iconst 0, 1) := dk_3 (dk_at dksL_law_113 14 rfl rfl)
theorem dL_law_2847 : decode cL_law 2847 = .ok (.ireturn, 1) := dk_172 (dk_at dksL_law_113 15 rfl rfl)
theorem dL_law_2848 : decode cL_law 2848 = .ok (.iload 6, 2) := dk_21 6 (dk_at dksL_law_113 16 rfl rfl)
theorem dL_law_2850 : decode cL_law 2850 = .ok (.ifCond .ne 15, 3) := dk_154 0 15 (dk_at dksL_law_113 18 rfl rfl)
theorem dL_law_2853 : decode cL_law 2853 = .ok (.aload_n 3, 1) := dk_45 (dk_at dksL_law_113 21 rfl rfl)
theorem dL_law_2854 : decode cL_law 2854 = .ok (.iconst 0, 1) := dk_3 (dk_at dksL_law_113 22 rfl rfl)
theorem dL_law_2855 : decode cL_law 2855 = .ok (.laload, 1) := dk_47 (dk_at dksL_law_113 23 rfl rfl)
theorem dL_law_2856 : decode cL_law 2856 = .ok (.iload 7, 2) := dk_21 7 (dk_at dksL_law_114 0 rfl rfl)
theorem dL_law_2858 : decode cL_law 2858 = .ok (.i2l, 1) := dk_133 (dk_at dksL_law_114 2 rfl rfl)
theorem dL_law_2859 : decode cL_law 2859 = .ok (.lcmp, 1) := dk_148 (dk_at dksL_law_114 3 rfl rfl)
theorem dL_law_2860 : decode cL_law 2860 = .ok (.ifCond .eq 5, 3) := dk_153 0 5 (dk_at dksL_law_114 4 rfl rfl)
theorem dL_law_2863 : decode cL_law 2863 = .ok (.iconst 0, 1) := dk_3 (dk_at dksL_law_114 7 rfl rfl)
theorem dL_law_2864 : decode cL_law 2864 = .ok (.ireturn, 1) := dk_172 (dk_at dksL_law_114 8 rfl rfl)
theorem dL_law_2865 : decode cL_law 2865 = .ok (.goto 512, 3) := dk_167 2 0 (dk_at dksL_law_114 9 rfl rfl)
theorem dL_law_2868 : decode cL_law 2868 = .ok (.aload_n 1, 1) := dk_43 (dk_at dksL_law_114 12 rfl rfl)
theorem dL_law_2869 : decode cL_law 2869 = .ok (.aload_n 0, 1) := dk_42 (dk_at dksL_law_114 13 rfl rfl)
theorem dL_law_2870 : decode cL_law 2870 = .ok (.iload 5, 2) := dk_21 5 (dk_at dksL_law_114 14 rfl rfl)
theorem dL_law_2872 : decode cL_law 2872 = .ok (.iconst 1, 1) := dk_4 (dk_at dksL_law_114 16 rfl rfl)
theorem dL_law_2873 : decode cL_law 2873 = .ok (.iadd, 1) := dk_96 (dk_at dksL_law_114 17 rfl rfl)
theorem dL_law_2874 : decode cL_law 2874 = .ok (.iaload, 1) := dk_46 (dk_at dksL_law_114 18 rfl rfl)
theorem dL_law_2875 : decode cL_law 2875 = .ok (.aload_n 0, 1) := dk_42 (dk_at dksL_law_114 19 rfl rfl)
theorem dL_law_2876 : decode cL_law 2876 = .ok (.iload 5, 2) := dk_21 5 (dk_at dksL_law_114 20 rfl rfl)
theorem dL_law_2878 : decode cL_law 2878 = .ok (.iconst 2, 1) := dk_5 (dk_at dksL_law_114 22 rfl rfl)
theorem dL_law_2879 : decode cL_law 2879 = .ok (.iadd, 1) := dk_96 (dk_at dksL_law_114 23 rfl rfl)
theorem dL_law_2880 : decode cL_law 2880 = .ok (.iaload, 1) := dk_46 (dk_at dksL_law_115 0 rfl rfl)
theorem dL_law_2881 : decode cL_law 2881 = .ok (.aload_n 3, 1) := dk_45 (dk_at dksL_law_115 1 rfl rfl)
theorem dL_law_2882 : decode cL_law 2882 = .ok (.invokestatic 309, 3) := dk_184 1 53 (dk_at dksL_law_115 2 rfl rfl)
theorem dL_law_2885 : decode cL_law 2885 = .ok (.istore 6, 2) := dk_54 6 (dk_at dksL_law_115 5 rfl rfl)
theorem dL_law_2887 : decode cL_law 2887 = .ok (.aload_n 2, 1) := dk_44 (dk_at dksL_law_115 7 rfl rfl)
theorem dL_law_2888 : decode cL_law 2888 = .ok (.aload_n 0, 1) := dk_42 (dk_at dksL_law_115 8 rfl rfl)
theorem dL_law_2889 : decode cL_law 2889 = .ok (.iload 5, 2) := dk_21 5 (dk_at dksL_law_115 9 rfl rfl)
theorem dL_law_2891 : decode cL_law 2891 = .ok (.iconst 1, 1) := dk_4 (dk_at dksL_law_115 11 rfl rfl)
theorem dL_law_2892 : decode cL_law 2892 = .ok (.iadd, 1) := dk_96 (dk_at dksL_law_115 12 rfl rfl)
theorem dL_law_2893 : decode cL_law 2893 = .ok (.iaload, 1) := dk_46 (dk_at dksL_law_115 13 rfl rfl)
theorem dL_law_2894 : decode cL_law 2894 = .ok (.aload_n 0, 1) := dk_42 (dk_at dksL_law_115 14 rfl rfl)
theorem dL_law_2895 : decode cL_law 2895 = .ok (.iload 5, 2) := dk_21 5 (dk_at dksL_law_115 15 rfl rfl)
theorem dL_law_2897 : decode cL_law 2897 = .ok (.iconst 2, 1) := dk_5 (dk_at dksL_law_115 17 rfl rfl)
theorem dL_law_2898 : decode cL_law 2898 = .ok (.iadd, 1) := dk_96 (dk_at dksL_law_115 18 rfl rfl)
theorem dL_law_2899 : decode cL_law 2899 = .ok (.iaload, 1) := dk_46 (dk_at dksL_law_115 19 rfl rfl)
theorem dL_law_2900 : decode cL_law 2900 = .ok (.invokevirtual 311, 3) := dk_182 1 55 (dk_at dksL_law_115 20 rfl rfl)
theorem dL_law_2903 : decode cL_law 2903 = .ok (.istore 7, 2) := dk_54 7 (dk_at dksL_law_116 0 rfl rfl)
theorem dL_law_2905 : decode cL_law 2905 = .ok (.aload_n 2, 1) := dk_44 (dk_at dksL_law_116 2 rfl rfl)
theorem dL_law_2906 : decode cL_law 2906 = .ok (.invokevirtual 173, 3) := dk_182 0 173 (dk_at dksL_law_116 3 rfl rfl)
theorem dL_law_2909 : decode cL_law 2909 = .ok (.iload 6, 2) := dk_21 6 (dk_at dksL_law_116 6 rfl rfl)
theorem dL_law_2911 : decode cL_law 2911 = .ok (.if_icmp .eq 5, 3) := dk_159 0 5 (dk_at dksL_law_116 8 rfl rfl)
theorem dL_law_2914 : decode cL_law 2914 = .ok (.iconst 0, 1) := dk_3 (dk_at dksL_law_116 11 rfl rfl)
theorem dL_law_2915 : decode cL_law 2915 = .ok (.ireturn, 1) := dk_172 (dk_at dksL_law_116 12 rfl rfl)
theorem dL_law_2916 : decode cL_law 2916 = .ok (.iload 6, 2) := dk_21 6 (dk_at dksL_law_116 13 rfl rfl)
theorem dL_law_2918 : decode cL_law 2918 = .ok (.ifCond .ne 15, 3) := dk_154 0 15 (dk_at dksL_law_116 15 rfl rfl)
theorem dL_law_2921 : decode cL_law 2921 = .ok (.aload_n 3, 1) := dk_45 (dk_at dksL_law_116 18 rfl rfl)
theorem dL_law_2922 : decode cL_law 2922 = .ok (.iconst 0, 1) := dk_3 (dk_at dksL_law_116 19 rfl rfl)
theorem dL_law_2923 : decode cL_law 2923 = .ok (.laload, 1) := dk_47 (dk_at dksL_law_116 20 rfl rfl)
theorem dL_law_2924 : decode cL_law 2924 = .ok (.iload 7, 2) := dk_21 7 (dk_at dksL_law_116 21 rfl rfl)
theorem dL_law_2926 : decode cL_law 2926 = .ok (.i2l, 1) := dk_133 (dk_at dksL_law_116 23 rfl rfl)
theorem dL_law_2927 : decode cL_law 2927 = .ok (.lcmp, 1) := dk_148 (dk_at dksL_law_117 0 rfl rfl)
theorem dL_law_2928 : decode cL_law 2928 = .ok (.ifCond .eq 5, 3) := dk_153 0 5 (dk_at dksL_law_117 1 rfl rfl)
theorem dL_law_2931 : decode cL_law 2931 = .ok (.iconst 0, 1) := dk_3 (dk_at dksL_law_117 4 rfl rfl)
theorem dL_law_2932 : decode cL_law 2932 = .ok (.ireturn, 1) := dk_172 (dk_at dksL_law_117 5 rfl rfl)
theorem dL_law_2933 : decode cL_law 2933 = .ok (.goto 444, 3) := dk_167 1 188 (dk_at dksL_law_117 6 rfl rfl)
theorem dL_law_2936 : decode cL_law 2936 = .ok (.aload_n 1, 1) := dk_43 (dk_at dksL_law_117 9 rfl rfl)
theorem dL_law_2937 : decode cL_law 2937 = .ok (.aload_n 0, 1) := dk_42 (dk_at dksL_law_117 10 rfl rfl)
theorem dL_law_2938 : decode cL_law 2938 = .ok (.iload 5, 2) := dk_21 5 (dk_at dksL_law_117 11 rfl rfl)
theorem dL_law_2940 : decode cL_law 2940 = .ok (.iconst 1, 1) := dk_4 (dk_at dksL_law_117 13 rfl rfl)
theorem dL_law_2941 : decode cL_law 2941 = .ok (.iadd, 1) := dk_96 (dk_at dksL_law_117 14 rfl rfl)
theorem dL_law_2942 : decode cL_law 2942 = .ok (.iaload, 1) := dk_46 (dk_at dksL_law_117 15 rfl rfl)
theorem dL_law_2943 : decode cL_law 2943 = .ok (.aload_n 0, 1) := dk_42 (dk_at dksL_law_117 16 rfl rfl)
theorem dL_law_2944 : decode cL_law 2944 = .ok (.iload 5, 2) := dk_21 5 (dk_at dksL_law_117 17 rfl rfl)
theorem dL_law_2946 : decode cL_law 2946 = .ok (.iconst 2, 1) := dk_5 (dk_at dksL_law_117 19 rfl rfl)
theorem dL_law_2947 : decode cL_law 2947 = .ok (.iadd, 1) := dk_96 (dk_at dksL_law_117 20 rfl rfl)
theorem dL_law_2948 : decode cL_law 2948 = .ok (.iaload, 1) := dk_46 (dk_at dksL_law_117 21 rfl rfl)
theorem dL_law_2949 : decode cL_law 2949 = .ok (.aload_n 3, 1) := dk_45 (dk_at dksL_law_117 22 rfl rfl)
theorem dL_law_2950 : decode cL_law 2950 = .ok (.invokestatic 312, 3) := dk_184 1 56 (dk_at dksL_law_118 0 rfl rfl)
theorem dL_law_2953 : decode cL_law 2953 = .ok (.istore 6, 2) := dk_54 6 (dk_at dksL_law_118 3 rfl rfl)
theorem dL_law_2955 : decode cL_law 2955 = .ok (.aload_n 2, 1) := dk_44 (dk_at dksL_law_118 5 rfl rfl)
theorem dL_law_2956 : decode cL_law 2956 = .ok (.aload_n 0, 1) := dk_42 (dk_at dksL_law_118 6 rfl rfl)
theorem dL_law_2957 : decode cL_law 2957 = .ok (.iload 5, 2) := dk_21 5 (dk_at dksL_law_118 7 rfl rfl)
theorem dL_law_2959 : decode cL_law 2959 = .ok (.iconst 1, 1) := dk_4 (dk_at dksL_law_118 9 rfl rfl)
theorem dL_law_2960 : decode cL_law 2960 = .ok (.iadd, 1) := dk_96 (dk_at dksL_law_118 10 rfl rfl)
theorem dL_law_2961 : decode cL_law 2961 = .ok (.iaload, 1) := dk_46 (dk_at dksL_law_118 11 rfl rfl)
theorem dL_law_2962 : decode cL_law 2962 = .ok (.aload_n 0, 1) := dk_42 (dk_at dksL_law_118 12 rfl rfl)
theorem dL_law_2963 : decode cL_law 2963 = .ok (.iload 5, 2) := dk_21 5 (dk_at dksL_law_118 13 rfl rfl)
theorem dL_law_2965 : decode cL_law 2965 = .ok (.iconst 2, 1) := dk_5 (dk_at dksL_law_118 15 rfl rfl)
theorem dL_law_2966 : decode cL_law 2966 = .ok (.iadd, 1) := dk_96 (dk_at dksL_law_118 16 rfl rfl)
theorem dL_law_2967 : decode cL_law 2967 = .ok (.iaload, 1) := dk_46 (dk_at dksL_law_118 17 rfl rfl)
theorem dL_law_2968 : decode cL_law 2968 = .ok (.invokevirtual 314, 3) := dk_182 1 58 (dk_at dksL_law_118 18 rfl rfl)
theorem dL_law_2971 : decode cL_law 2971 = .ok (.istore 7, 2) := dk_54 7 (dk_at dksL_law_118 21 rfl rfl)
theorem dL_law_2973 : decode cL_law 2973 = .ok (.aload_n 2, 1) := dk_44 (dk_at dksL_law_118 23 rfl rfl)
theorem dL_law_2974 : decode cL_law 2974 = .ok (.invokevirtual 173, 3) := dk_182 0 173 (dk_at dksL_law_119 0 rfl rfl)
theorem dL_law_2977 : decode cL_law 2977 = .ok (.iload 6, 2) := dk_21 6 (dk_at dksL_law_119 3 rfl rfl)
theorem dL_law_2979 : decode cL_law 2979 = .ok (.if_icmp .eq 5, 3) := dk_159 0 5 (dk_at dksL_law_119 5 rfl rfl)
theorem dL_law_2982 : decode cL_law 2982 = .ok (.iconst 0, 1) := dk_3 (dk_at dksL_law_119 8 rfl rfl)
theorem dL_law_2983 : decode cL_law 2983 = .ok (.ireturn, 1) := dk_172 (dk_at dksL_law_119 9 rfl rfl)
theorem dL_law_2984 : decode cL_law 2984 = .ok (.iload 6, 2) := dk_21 6 (dk_at dksL_law_119 10 rfl rfl)
theorem dL_law_2986 : decode cL_law 2986 = .ok (.ifCond .ne 15, 3) := dk_154 0 15 (dk_at dksL_law_119 12 rfl rfl)
theorem dL_law_2989 : decode cL_law 2989 = .ok (.aload_n 3, 1) := dk_45 (dk_at dksL_law_119 15 rfl rfl)
theorem dL_law_2990 : decode cL_law 2990 = .ok (.iconst 0, 1) := dk_3 (dk_at dksL_law_119 16 rfl rfl)
theorem dL_law_2991 : decode cL_law 2991 = .ok (.laload, 1) := dk_47 (dk_at dksL_law_119 17 rfl rfl)
theorem dL_law_2992 : decode cL_law 2992 = .ok (.iload 7, 2) := dk_21 7 (dk_at dksL_law_119 18 rfl rfl)
theorem dL_law_2994 : decode cL_law 2994 = .ok (.i2l, 1) := dk_133 (dk_at dksL_law_119 20 rfl rfl)
theorem dL_law_2995 : decode cL_law 2995 = .ok (.lcmp, 1) := dk_148 (dk_at dksL_law_119 21 rfl rfl)
theorem dL_law_2996 : decode cL_law 2996 = .ok (.ifCond .eq 5, 3) := dk_153 0 5 (dk_at dksL_law_120 0 rfl rfl)
theorem dL_law_2999 : decode cL_law 2999 = .ok (.iconst 0, 1) := dk_3 (dk_at dksL_law_120 3 rfl rfl)
theorem dL_law_3000 : decode cL_law 3000 = .ok (.ireturn, 1) := dk_172 (dk_at dksL_law_120 4 rfl rfl)
theorem dL_law_3001 : decode cL_law 3001 = .ok (.goto 376, 3) := dk_167 1 120 (dk_at dksL_law_120 5 rfl rfl)
theorem dL_law_3004 : decode cL_law 3004 = .ok (.aload_n 1, 1) := dk_43 (dk_at dksL_law_120 8 rfl rfl)
theorem dL_law_3005 : decode cL_law 3005 = .ok (.aload_n 0, 1) := dk_42 (dk_at dksL_law_120 9 rfl rfl)
theorem dL_law_3006 : decode cL_law 3006 = .ok (.iload 5, 2) := dk_21 5 (dk_at dksL_law_120 10 rfl rfl)
theorem dL_law_3008 : decode cL_law 3008 = .ok (.iconst 1, 1) := dk_4 (dk_at dksL_law_120 12 rfl rfl)
theorem dL_law_3009 : decode cL_law 3009 = .ok (.iadd, 1) := dk_96 (dk_at dksL_law_120 13 rfl rfl)
theorem dL_law_3010 : decode cL_law 3010 = .ok (.iaload, 1) := dk_46 (dk_at dksL_law_120 14 rfl rfl)
theorem dL_law_3011 : decode cL_law 3011 = .ok (.aload_n 0, 1) := dk_42 (dk_at dksL_law_120 15 rfl rfl)
theorem dL_law_3012 : decode cL_law 3012 = .ok (.iload 5, 2) := dk_21 5 (dk_at dksL_law_120 16 rfl rfl)
theorem dL_law_3014 : decode cL_law 3014 = .ok (.iconst 2, 1) := dk_5 (dk_at dksL_law_120 18 rfl rfl)
theorem dL_law_3015 : decode cL_law 3015 = .ok (.iadd, 1) := dk_96 (dk_at dksL_law_120 19 rfl rfl)
theorem dL_law_3016 : decode cL_law 3016 = .ok (.iaload, 1) := dk_46 (dk_at dksL_law_120 20 rfl rfl)
theorem dL_law_3017 : decode cL_law 3017 = .ok (.aload_n 0, 1) := dk_42 (dk_at dksL_law_120 21 rfl rfl)
theorem dL_law_3018 : decode cL_law 3018 = .ok (.iload 5, 2) := dk_21 5 (dk_at dksL_law_120 22 rfl rfl)
theorem dL_law_3020 : decode cL_law 3020 = .ok (.iconst 3, 1) := dk_6 (dk_at dksL_law_121 0 rfl rfl)
theorem dL_law_3021 : decode cL_law 3021 = .ok (.iadd, 1) := dk_96 (dk_at dksL_law_121 1 rfl rfl)
theorem dL_law_3022 : decode cL_law 3022 = .ok (.iaload, 1) := dk_46 (dk_at dksL_law_121 2 rfl rfl)
theorem dL_law_3023 : decode cL_law 3023 = .ok (.aload_n 3, 1) := dk_45 (dk_at dksL_law_121 3 rfl rfl)
theorem dL_law_3024 : decode cL_law 3024 = .ok (.invokestatic 315, 3) := dk_184 1 59 (dk_at dksL_law_121 4 rfl rfl)
theorem dL_law_3027 : decode cL_law 3027 = .ok (.istore 6, 2) := dk_54 6 (dk_at dksL_law_121 7 rfl rfl)
theorem dL_law_3029 : decode cL_law 3029 = .ok (.aload_n 2, 1) := dk_44 (dk_at dksL_law_121 9 rfl rfl)
theorem dL_law_3030 : decode cL_law 3030 = .ok (.aload_n 0, 1) := dk_42 (dk_at dksL_law_121 10 rfl rfl)
theorem dL_law_3031 : decode cL_law 3031 = .ok (.iload 5, 2) := dk_21 5 (dk_at dksL_law_121 11 rfl rfl)
theorem dL_law_3033 : decode cL_law 3033 = .ok (.iconst 1, 1) := dk_4 (dk_at dksL_law_121 13 rfl rfl)
theorem dL_law_3034 : decode cL_law 3034 = .ok (.iadd, 1) := dk_96 (dk_at dksL_law_121 14 rfl rfl)
theorem dL_law_3035 : decode cL_law 3035 = .ok (.iaload, 1) := dk_46 (dk_at dksL_law_121 15 rfl rfl)
theorem dL_law_3036 : decode cL_law 3036 = .ok (.aload_n 0, 1) := dk_42 (dk_at dksL_law_121 16 rfl rfl)
theorem dL_law_3037 : decode cL_law 3037 = .ok (.iload 5, 2) := dk_21 5 (dk_at dksL_law_121 17 rfl rfl)
theorem dL_law_3039 : decode cL_law 3039 = .ok (.iconst 2, 1) := dk_5 (dk_at dksL_law_121 19 rfl rfl)
theorem dL_law_3040 : decode cL_law 3040 = .ok (.iadd, 1) := dk_96 (dk_at dksL_law_121 20 rfl rfl)
theorem dL_law_3041 : decode cL_law 3041 = .ok (.iaload, 1) := dk_46 (dk_at dksL_law_121 21 rfl rfl)
theorem dL_law_3042 : decode cL_law 3042 = .ok (.aload_n 0, 1) := dk_42 (dk_at dksL_law_121 22 rfl rfl)
theorem dL_law_3043 : decode cL_law 3043 = .ok (.iload 5, 2) := dk_21 5 (dk_at dksL_law_122 0 rfl rfl)
theorem dL_law_3045 : decode cL_law 3045 = .ok (.iconst 3, 1) := dk_6 (dk_at dksL_law_122 2 rfl rfl)
theorem dL_law_3046 : decode cL_law 3046 = .ok (.iadd, 1) := dk_96 (dk_at dksL_law_122 3 rfl rfl)
theorem dL_law_3047 : decode cL_law 3047 = .ok (.iaload, 1) := dk_46 (dk_at dksL_law_122 4 rfl rfl)
theorem dL_law_3048 : decode cL_law 3048 = .ok (.invokevirtual 317, 3) := dk_182 1 61 (dk_at dksL_law_122 5 rfl rfl)
theorem dL_law_3051 : decode cL_law 3051 = .ok (.istore 7, 2) := dk_54 7 (dk_at dksL_law_122 8 rfl rfl)
theorem dL_law_3053 : decode cL_law 3053 = .ok (.aload_n 2, 1) := dk_44 (dk_at dksL_law_122 10 rfl rfl)
theorem dL_law_3054 : decode cL_law 3054 = .ok (.invokevirtual 173, 3) := dk_182 0 173 (dk_at dksL_law_122 11 rfl rfl)
theorem dL_law_3057 : decode cL_law 3057 = .ok (.iload 6, 2) := dk_21 6 (dk_at dksL_law_122 14 rfl rfl)
theorem dL_law_3059 : decode cL_law 3059 = .ok (.if_icmp .eq 5, 3) := dk_159 0 5 (dk_at dksL_law_122 16 rfl rfl)
theorem dL_law_3062 : decode cL_law 3062 = .ok (.iconst 0, 1) := dk_3 (dk_at dksL_law_122 19 rfl rfl)
theorem dL_law_3063 : decode cL_law 3063 = .ok (.ireturn, 1) := dk_172 (dk_at dksL_law_122 20 rfl rfl)
theorem dL_law_3064 : decode cL_law 3064 = .ok (.iload 6, 2) := dk_21 6 (dk_at dksL_law_122 21 rfl rfl)
theorem dL_law_3066 : decode cL_law 3066 = .ok (.ifCond .ne 15, 3) := dk_154 0 15 (dk_at dksL_law_123 0 rfl rfl)
theorem dL_law_3069 : decode cL_law 3069 = .ok (.aload_n 3, 1) := dk_45 (dk_at dksL_law_123 3 rfl rfl)
theorem dL_law_3070 : decode cL_law 3070 = .ok (.iconst 0, 1) := dk_3 (dk_at dksL_law_123 4 rfl rfl)
theorem dL_law_3071 : decode cL_law 3071 = .ok (.laload, 1) := dk_47 (dk_at dksL_law_123 5 rfl rfl)
theorem dL_law_3072 : decode cL_law 3072 = .ok (.iload 7, 2) := dk_21 7 (dk_at dksL_law_123 6 rfl rfl)
theorem dL_law_3074 : decode cL_law 3074 = .ok (.i2l, 1) := dk_133 (dk_at dksL_law_123 8 rfl rfl)
theorem dL_law_3075 : decode cL_law 3075 = .ok (.lcmp, 1) := dk_148 (dk_at dksL_law_123 9 rfl rfl)
theorem dL_law_3076 : decode cL_law 3076 = .ok (.ifCond .eq 5, 3) := dk_153 0 5 (dk_at dksL_law_123 10 rfl rfl)
theorem dL_law_3079 : decode cL_law 3079 = .ok (.iconst 0, 1) := dk_3 (dk_at dksL_law_123 13 rfl rfl)
theorem dL_law_3080 : decode cL_law 3080 = .ok (.ireturn, 1) := dk_172 (dk_at dksL_law_123 14 rfl rfl)
theorem dL_law_3081 : decode cL_law 3081 = .ok (.goto 296, 3) := dk_167 1 40 (dk_at dksL_law_123 15 rfl rfl)
theorem dL_law_3084 : decode cL_law 3084 = .ok (.aload_n 1, 1) := dk_43 (dk_at dksL_law_123 18 rfl rfl)
theorem dL_law_3085 : decode cL_law 3085 = .ok (.aload_n 0, 1) := dk_42 (dk_at dksL_law_123 19 rfl rfl)
theorem dL_law_3086 : decode cL_law 3086 = .ok (.iload 5, 2) := dk_21 5 (dk_at dksL_law_123 20 rfl rfl)
theorem dL_law_3088 : decode cL_law 3088 = .ok (.iconst 1, 1) := dk_4 (dk_at dksL_law_123 22 rfl rfl)
theorem dL_law_3089 : decode cL_law 3089 = .ok (.iadd, 1) := dk_96 (dk_at dksL_law_123 23 rfl rfl)
theorem dL_law_3090 : decode cL_law 3090 = .ok (.iaload, 1) := dk_46 (dk_at dksL_law_124 0 rfl rfl)
theorem dL_law_3091 : decode cL_law 3091 = .ok (.aload_n 0, 1) := dk_42 (dk_at dksL_law_124 1 rfl rfl)
theorem dL_law_3092 : decode cL_law 3092 = .ok (.iload 5, 2) := dk_21 5 (dk_at dksL_law_124 2 rfl rfl)
theorem dL_law_3094 : decode cL_law 3094 = .ok (.iconst 2, 1) := dk_5 (dk_at dksL_law_124 4 rfl rfl)
theorem dL_law_3095 : decode cL_law 3095 = .ok (.iadd, 1) := dk_96 (dk_at dksL_law_124 5 rfl rfl)
theorem dL_law_3096 : decode cL_law 3096 = .ok (.iaload, 1) := dk_46 (dk_at dksL_law_124 6 rfl rfl)
theorem dL_law_3097 : decode cL_law 3097 = .ok (.aload_n 0, 1) := dk_42 (dk_at dksL_law_124 7 rfl rfl)
theorem dL_law_3098 : decode cL_law 3098 = .ok (.iload 5, 2) := dk_21 5 (dk_at dksL_law_124 8 rfl rfl)
theorem dL_law_3100 : decode cL_law 3100 = .ok (.iconst 3, 1) := dk_6 (dk_at dksL_law_124 10 rfl rfl)
theorem dL_law_3101 : decode cL_law 3101 = .ok (.iadd, 1) := dk_96 (dk_at dksL_law_124 11 rfl rfl)
theorem dL_law_3102 : decode cL_law 3102 = .ok (.iaload, 1) := dk_46 (dk_at dksL_law_124 12 rfl rfl)
theorem dL_law_3103 : decode cL_law 3103 = .ok (.aload_n 3, 1) := dk_45 (dk_at dksL_law_124 13 rfl rfl)
theorem dL_law_3104 : decode cL_law 3104 = .ok (.invokestatic 318, 3) := dk_184 1 62 (dk_at dksL_law_124 14 rfl rfl)
theorem dL_law_3107 : decode cL_law 3107 = .ok (.istore 6, 2) := dk_54 6 (dk_at dksL_law_124 17 rfl rfl)
theorem dL_law_3109 : decode cL_law 3109 = .ok (.aload_n 2, 1) := dk_44 (dk_at dksL_law_124 19 rfl rfl)
theorem dL_law_3110 : decode cL_law 3110 = .ok (.aload_n 0, 1) := dk_42 (dk_at dksL_law_124 20 rfl rfl)
theorem dL_law_3111 : decode cL_law 3111 = .ok (.iload 5, 2) := dk_21 5 (dk_at dksL_law_124 21 rfl rfl)
theorem dL_law_3113 : decode cL_law 3113 = .ok (.iconst 1, 1) := dk_4 (dk_at dksL_law_124 23 rfl rfl)
theorem dL_law_3114 : decode cL_law 3114 = .ok (.iadd, 1) := dk_96 (dk_at dksL_law_125 0 rfl rfl)
theorem dL_law_3115 : decode cL_law 3115 = .ok (.iaload, 1) := dk_46 (dk_at dksL_law_125 1 rfl rfl)
theorem dL_law_3116 : decode cL_law 3116 = .ok (.aload_n 0, 1) := dk_42 (dk_at dksL_law_125 2 rfl rfl)
theorem dL_law_3117 : decode cL_law 3117 = .ok (.iload 5, 2) := dk_21 5 (dk_at dksL_law_125 3 rfl rfl)
theorem dL_law_3119 : decode cL_law 3119 = .ok (.iconst 2, 1) := dk_5 (dk_at dksL_law_125 5 rfl rfl)
theorem dL_law_3120 : decode cL_law 3120 = .ok (.iadd, 1) := dk_96 (dk_at dksL_law_125 6 rfl rfl)
theorem dL_law_3121 : decode cL_law 3121 = .ok (.iaload, 1) := dk_46 (dk_at dksL_law_125 7 rfl rfl)
theorem dL_law_3122 : decode cL_law 3122 = .ok (.aload_n 0, 1) := dk_42 (dk_at dksL_law_125 8 rfl rfl)
theorem dL_law_3123 : decode cL_law 3123 = .ok (.iload 5, 2) := dk_21 5 (dk_at dksL_law_125 9 rfl rfl)
theorem dL_law_3125 : decode cL_law 3125 = .ok (.iconst 3, 1) := dk_6 (dk_at dksL_law_125 11 rfl rfl)
theorem dL_law_3126 : decode cL_law 3126 = .ok (.iadd, 1) := dk_96 (dk_at dksL_law_125 12 rfl rfl)
theorem dL_law_3127 : decode cL_law 3127 = .ok (.iaload, 1) := dk_46 (dk_at dksL_law_125 13 rfl rfl)
theorem dL_law_3128 : decode cL_law 3128 = .ok (.invokevirtual 320, 3) := dk_182 1 64 (dk_at dksL_law_125 14 rfl rfl)
theorem dL_law_3131 : decode cL_law 3131 = .ok (.istore 7, 2) := dk_54 7 (dk_at dksL_law_125 17 rfl rfl)
theorem dL_law_3133 : decode cL_law 3133 = .ok (.aload_n 2, 1) := dk_44 (dk_at dksL_law_125 19 rfl rfl)
theorem dL_law_3134 : decode cL_law 3134 = .ok (.invokevirtual 173, 3) := dk_182 0 173 (dk_at dksL_law_125 20 rfl rfl)
theorem dL_law_3137 : decode cL_law 3137 = .ok (.iload 6, 2) := dk_21 6 (dk_at dksL_law_126 0 rfl rfl)
theorem dL_law_3139 : decode cL_law 3139 = .ok (.if_icmp .eq 5, 3) := dk_159 0 5 (dk_at dksL_law_126 2 rfl rfl)
theorem dL_law_3142 : decode cL_law 3142 = .ok (.iconst 0, 1) := dk_3 (dk_at dksL_law_126 5 rfl rfl)
theorem dL_law_3143 : decode cL_law 3143 = .ok (.ireturn, 1) := dk_172 (dk_at dksL_law_126 6 rfl rfl)
theorem dL_law_3144 : decode cL_law 3144 = .ok (.iload 6, 2) := dk_21 6 (dk_at dksL_law_126 7 rfl rfl)
theorem dL_law_3146 : decode cL_law 3146 = .ok (.ifCond .ne 15, 3) := dk_154 0 15 (dk_at dksL_law_126 9 rfl rfl)
theorem dL_law_3149 : decode cL_law 3149 = .ok (.aload_n 3, 1) := dk_45 (dk_at dksL_law_126 12 rfl rfl)
theorem dL_law_3150 : decode cL_law 3150 = .ok (.iconst 0, 1) := dk_3 (dk_at dksL_law_126 13 rfl rfl)
theorem dL_law_3151 : decode cL_law 3151 = .ok (.laload, 1) := dk_47 (dk_at dksL_law_126 14 rfl rfl)
theorem dL_law_3152 : decode cL_law 3152 = .ok (.iload 7, 2) := dk_21 7 (dk_at dksL_law_126 15 rfl rfl)
theorem dL_law_3154 : decode cL_law 3154 = .ok (.i2l, 1) := dk_133 (dk_at dksL_law_126 17 rfl rfl)
theorem dL_law_3155 : decode cL_law 3155 = .ok (.lcmp, 1) := dk_148 (dk_at dksL_law_126 18 rfl rfl)
theorem dL_law_3156 : decode cL_law 3156 = .ok (.ifCond .eq 5, 3) := dk_153 0 5 (dk_at dksL_law_126 19 rfl rfl)
theorem dL_law_3159 : decode cL_law 3159 = .ok (.iconst 0, 1) := dk_3 (dk_at dksL_law_126 22 rfl rfl)
theorem dL_law_3160 : decode cL_law 3160 = .ok (.ireturn, 1) := dk_172 (dk_at dksL_law_126 23 rfl rfl)
theorem dL_law_3161 : decode cL_law 3161 = .ok (.goto 216, 3) := dk_167 0 216 (dk_at dksL_law_127 0 rfl rfl)
theorem dL_law_3164 : decode cL_law 3164 = .ok (.aload_n 1, 1) := dk_43 (dk_at dksL_law_127 3 rfl rfl)
theorem dL_law_3165 : decode cL_law 3165 = .ok (.aload_n 3, 1) := dk_45 (dk_at dksL_law_127 4 rfl rfl)
theorem dL_law_3166 : decode cL_law 3166 = .ok (.invokestatic 321, 3) := dk_184 1 65 (dk_at dksL_law_127 5 rfl rfl)
theorem dL_law_3169 : decode cL_law 3169 = .ok (.istore 6, 2) := dk_54 6 (dk_at dksL_law_127 8 rfl rfl)
theorem dL_law_3171 : decode cL_law 3171 = .ok (.aload_n 2, 1) := dk_44 (dk_at dksL_law_127 10 rfl rfl)
theorem dL_law_3172 : decode cL_law 3172 = .ok (.invokevirtual 323, 3) := dk_182 1 67 (dk_at dksL_law_127 11 rfl rfl)
theorem dL_law_3175 : decode cL_law 3175 = .ok (.istore 7, 2) := dk_54 7 (dk_at dksL_law_127 14 rfl rfl)
theorem dL_law_3177 : decode cL_law 3177 = .ok (.aload_n 2, 1) := dk_44 (dk_at dksL_law_127 16 rfl rfl)
theorem dL_law_3178 : decode cL_law 3178 = .ok (.invokevirtual 173, 3) := dk_182 0 173 (dk_at dksL_law_127 17 rfl rfl)
theorem dL_law_3181 : decode cL_law 3181 = .ok (.iload 6, 2) := dk_21 6 (dk_at dksL_law_127 20 rfl rfl)
theorem dL_law_3183 : decode cL_law 3183 = .ok (.if_icmp .eq 5, 3) := dk_159 0 5 (dk_at dksL_law_128 0 rfl rfl)
theorem dL_law_3186 : decode cL_law 3186 = .ok (.iconst 0, 1) := dk_3 (dk_at dksL_law_128 3 rfl rfl)
theorem dL_law_3187 : decode cL_law 3187 = .ok (.ireturn, 1) := dk_172 (dk_at dksL_law_128 4 rfl rfl)
theorem dL_law_3188 : decode cL_law 3188 = .ok (.iload 6, 2) := dk_21 6 (dk_at dksL_law_128 5 rfl rfl)
theorem dL_law_3190 : decode cL_law 3190 = .ok (.ifCond .ne 15, 3) := dk_154 0 15 (dk_at dksL_law_128 7 rfl rfl)
theorem dL_law_3193 : decode cL_law 3193 = .ok (.aload_n 3, 1) := dk_45 (dk_at dksL_law_128 10 rfl rfl)
theorem dL_law_3194 : decode cL_law 3194 = .ok (.iconst 0, 1) := dk_3 (dk_at dksL_law_128 11 rfl rfl)
theorem dL_law_3195 : decode cL_law 3195 = .ok (.laload, 1) := dk_47 (dk_at dksL_law_128 12 rfl rfl)
theorem dL_law_3196 : decode cL_law 3196 = .ok (.iload 7, 2) := dk_21 7 (dk_at dksL_law_128 13 rfl rfl)
theorem dL_law_3198 : decode cL_law 3198 = .ok (.i2l, 1) := dk_133 (dk_at dksL_law_128 15 rfl rfl)
theorem dL_law_3199 : decode cL_law 3199 = .ok (.lcmp, 1) := dk_148 (dk_at dksL_law_128 16 rfl rfl)
theorem dL_law_3200 : decode cL_law 3200 = .ok (.ifCond .eq 5, 3) := dk_153 0 5 (dk_at dksL_law_128 17 rfl rfl)
theorem dL_law_3203 : decode cL_law 3203 = .ok (.iconst 0, 1) := dk_3 (dk_at dksL_law_128 20 rfl rfl)
theorem dL_law_3204 : decode cL_law 3204 = .ok (.ireturn, 1) := dk_172 (dk_at dksL_law_128 21 rfl rfl)
theorem dL_law_3205 : decode cL_law 3205 = .ok (.goto 172, 3) := dk_167 0 172 (dk_at dksL_law_129 0 rfl rfl)
theorem dL_law_3208 : decode cL_law 3208 = .ok (.aload_n 1, 1) := dk_43 (dk_at dksL_law_129 3 rfl rfl)
theorem dL_law_3209 : decode cL_law 3209 = .ok (.aload_n 0, 1) := dk_42 (dk_at dksL_law_129 4 rfl rfl)
theorem dL_law_3210 : decode cL_law 3210 = .ok (.iload 5, 2) := dk_21 5 (dk_at dksL_law_129 5 rfl rfl)
theorem dL_law_3212 : decode cL_law 3212 = .ok (.iconst 1, 1) := dk_4 (dk_at dksL_law_129 7 rfl rfl)
theorem dL_law_3213 : decode cL_law 3213 = .ok (.iadd, 1) := dk_96 (dk_at dksL_law_129 8 rfl rfl)
theorem dL_law_3214 : decode cL_law 3214 = .ok (.iaload, 1) := dk_46 (dk_at dksL_law_129 9 rfl rfl)
theorem dL_law_3215 : decode cL_law 3215 = .ok (.aload_n 3, 1) := dk_45 (dk_at dksL_law_129 10 rfl rfl)
theorem dL_law_3216 : decode cL_law 3216 = .ok (.invokestatic 324, 3) := dk_184 1 68 (dk_at dksL_law_129 11 rfl rfl)
theorem dL_law_3219 : decode cL_law 3219 = .ok (.istore 6, 2) := dk_54 6 (dk_at dksL_law_129 14 rfl rfl)
theorem dL_law_3221 : decode cL_law 3221 = .ok (.aload_n 2, 1) := dk_44 (dk_at dksL_law_129 16 rfl rfl)
theorem dL_law_3222 : decode cL_law 3222 = .ok (.aload_n 0, 1) := dk_42 (dk_at dksL_law_129 17 rfl rfl)
theorem dL_law_3223 : decode cL_law 3223 = .ok (.iload 5, 2) := dk_21 5 (dk_at dksL_law_129 18 rfl rfl)
theorem dL_law_3225 : decode cL_law 3225 = .ok (.iconst 1, 1) := dk_4 (dk_at dksL_law_129 20 rfl rfl)
theorem dL_law_3226 : decode cL_law 3226 = .ok (.iadd, 1) := dk_96 (dk_at dksL_law_129 21 rfl rfl)
theorem dL_law_3227 : decode cL_law 3227 = .ok (.iaload, 1) := dk_46 (dk_at dksL_law_129 22 rfl rfl)
theorem dL_law_3228 : decode cL_law 3228 = .ok (.invokevirtual 326, 3) := dk_182 1 70 (dk_at dksL_law_130 0 rfl rfl)
theorem dL_law_3231 : decode cL_law 3231 = .ok (.istore 7, 2) := dk_54 7 (dk_at dksL_law_130 3 rfl rfl)
theorem dL_law_3233 : decode cL_law 3233 = .ok (.aload_n 2, 1) := dk_44 (dk_at dksL_law_130 5 rfl rfl)
theorem dL_law_3234 : decode cL_law 3234 = .ok (.invokevirtual 173, 3) := dk_182 0 173 (dk_at dksL_law_130 6 rfl rfl)
theorem dL_law_3237 : decode cL_law 3237 = .ok (.iload 6, 2) := dk_21 6 (dk_at dksL_law_130 9 rfl rfl)
theorem dL_law_3239 : decode cL_law 3239 = .ok (.if_icmp .eq 5, 3) := dk_159 0 5 (dk_at dksL_law_130 11 rfl rfl)
theorem dL_law_3242 : decode cL_law 3242 = .ok (.iconst 0, 1) := dk_3 (dk_at dksL_law_130 14 rfl rfl)
theorem dL_law_3243 : decode cL_law 3243 = .ok (.ireturn, 1) := dk_172 (dk_at dksL_law_130 15 rfl rfl)
theorem dL_law_3244 : decode cL_law 3244 = .ok (.iload 6, 2) := dk_21 6 (dk_at dksL_law_130 16 rfl rfl)
theorem dL_law_3246 : decode cL_law 3246 = .ok (.ifCond .ne 15, 3) := dk_154 0 15 (dk_at dksL_law_130 18 rfl rfl)
theorem dL_law_3249 : decode cL_law 3249 = .ok (.aload_n 3, 1) := dk_45 (dk_at dksL_law_130 21 rfl rfl)
theorem dL_law_3250 : decode cL_law 3250 = .ok (.iconst 0, 1) := dk_3 (dk_at dksL_law_130 22 rfl rfl)
theorem dL_law_3251 : decode cL_law 3251 = .ok (.laload, 1) := dk_47 (dk_at dksL_law_130 23 rfl rfl)
theorem dL_law_3252 : decode cL_law 3252 = .ok (.iload 7, 2) := dk_21 7 (dk_at dksL_law_131 0 rfl rfl)
theorem dL_law_3254 : decode cL_law 3254 = .ok (.i2l, 1) := dk_133 (dk_at dksL_law_131 2 rfl rfl)
theorem dL_law_3255 : decode cL_law 3255 = .ok (.lcmp, 1) := dk_148 (dk_at dksL_law_131 3 rfl rfl)
theorem dL_law_3256 : decode cL_law 3256 = .ok (.ifCond .eq 5, 3) := dk_153 0 5 (dk_at dksL_law_131 4 rfl rfl)
theorem dL_law_3259 : decode cL_law 3259 = .ok (.iconst 0, 1) := dk_3 (dk_at dksL_law_131 7 rfl rfl)
theorem dL_law_3260 : decode cL_law 3260 = .ok (.ireturn, 1) := dk_172 (dk_at dksL_law_131 8 rfl rfl)
theorem dL_law_3261 : decode cL_law 3261 = .ok (.goto 116, 3) := dk_167 0 116 (dk_at dksL_law_131 9 rfl rfl)
theorem dL_law_3264 : decode cL_law 3264 = .ok (.aload_n 1, 1) := dk_43 (dk_at dksL_law_131 12 rfl rfl)
theorem dL_law_3265 : decode cL_law 3265 = .ok (.aload_n 0, 1) := dk_42 (dk_at dksL_law_131 13 rfl rfl)
theorem dL_law_3266 : decode cL_law 3266 = .ok (.iload 5, 2) := dk_21 5 (dk_at dksL_law_131 14 rfl rfl)
theorem dL_law_3268 : decode cL_law 3268 = .ok (.iconst 1, 1) := dk_4 (dk_at dksL_law_131 16 rfl rfl)
theorem dL_law_3269 : decode cL_law 3269 = .ok (.iadd, 1) := dk_96 (dk_at dksL_law_131 17 rfl rfl)
theorem dL_law_3270 : decode cL_law 3270 = .ok (.iaload, 1) := dk_46 (dk_at dksL_law_131 18 rfl rfl)
theorem dL_law_3271 : decode cL_law 3271 = .ok (.aload_n 3, 1) := dk_45 (dk_at dksL_law_131 19 rfl rfl)
theorem dL_law_3272 : decode cL_law 3272 = .ok (.invokestatic 327, 3) := dk_184 1 71 (dk_at dksL_law_131 20 rfl rfl)
theorem dL_law_3275 : decode cL_law 3275 = .ok (.istore 6, 2) := dk_54 6 (dk_at dksL_law_132 0 rfl rfl)
theorem dL_law_3277 : decode cL_law 3277 = .ok (.aload_n 2, 1) := dk_44 (dk_at dksL_law_132 2 rfl rfl)
theorem dL_law_3278 : decode cL_law 3278 = .ok (.aload_n 0, 1) := dk_42 (dk_at dksL_law_132 3 rfl rfl)
theorem dL_law_3279 : decode cL_law 3279 = .ok (.iload 5, 2) := dk_21 5 (dk_at dksL_law_132 4 rfl rfl)
theorem dL_law_3281 : decode cL_law 3281 = .ok (.iconst 1, 1) := dk_4 (dk_at dksL_law_132 6 rfl rfl)
theorem dL_law_3282 : decode cL_law 3282 = .ok (.iadd, 1) := dk_96 (dk_at dksL_law_132 7 rfl rfl)
theorem dL_law_3283 : decode cL_law 3283 = .ok (.iaload, 1) := dk_46 (dk_at dksL_law_132 8 rfl rfl)
theorem dL_law_3284 : decode cL_law 3284 = .ok (.invokevirtual 329, 3) := dk_182 1 73 (dk_at dksL_law_132 9 rfl rfl)
theorem dL_law_3287 : decode cL_law 3287 = .ok (.istore 7, 2) := dk_54 7 (dk_at dksL_law_132 12 rfl rfl)
theorem dL_law_3289 : decode cL_law 3289 = .ok (.aload_n 2, 1) := dk_44 (dk_at dksL_law_132 14 rfl rfl)
theorem dL_law_3290 : decode cL_law 3290 = .ok (.invokevirtual 173, 3) := dk_182 0 173 (dk_at dksL_law_132 15 rfl rfl)
theorem dL_law_3293 : decode cL_law 3293 = .ok (.iload 6, 2) := dk_21 6 (dk_at dksL_law_132 18 rfl rfl)
theorem dL_law_3295 : decode cL_law 3295 = .ok (.if_icmp .eq 5, 3) := dk_159 0 5 (dk_at dksL_law_132 20 rfl rfl)
theorem dL_law_3298 : decode cL_law 3298 = .ok (.iconst 0, 1) := dk_3 (dk_at dksL_law_132 23 rfl rfl)
theorem dL_law_3299 : decode cL_law 3299 = .ok (.ireturn, 1) := dk_172 (dk_at dksL_law_133 0 rfl rfl)
theorem dL_law_3300 : decode cL_law 3300 = .ok (.iload 6, 2) := dk_21 6 (dk_at dksL_law_133 1 rfl rfl)
theorem dL_law_3302 : decode cL_law 3302 = .ok (.ifCond .ne 15, 3) := dk_154 0 15 (dk_at dksL_law_133 3 rfl rfl)
theorem dL_law_3305 : decode cL_law 3305 = .ok (.aload_n 3, 1) := dk_45 (dk_at dksL_law_133 6 rfl rfl)
theorem dL_law_3306 : decode cL_law 3306 = .ok (.iconst 0, 1) := dk_3 (dk_at dksL_law_133 7 rfl rfl)
theorem dL_law_3307 : decode cL_law 3307 = .ok (.laload, 1) := dk_47 (dk_at dksL_law_133 8 rfl rfl)
theorem dL_law_3308 : decode cL_law 3308 = .ok (.iload 7, 2) := dk_21 7 (dk_at dksL_law_133 9 rfl rfl)
theorem dL_law_3310 : decode cL_law 3310 = .ok (.i2l, 1) := dk_133 (dk_at dksL_law_133 11 rfl rfl)
theorem dL_law_3311 : decode cL_law 3311 = .ok (.lcmp, 1) := dk_148 (dk_at dksL_law_133 12 rfl rfl)
theorem dL_law_3312 : decode cL_law 3312 = .ok (.ifCond .eq 5, 3) := dk_153 0 5 (dk_at dksL_law_133 13 rfl rfl)
theorem dL_law_3315 : decode cL_law 3315 = .ok (.iconst 0, 1) := dk_3 (dk_at dksL_law_133 16 rfl rfl)
theorem dL_law_3316 : decode cL_law 3316 = .ok (.ireturn, 1) := dk_172 (dk_at dksL_law_133 17 rfl rfl)
theorem dL_law_3317 : decode cL_law 3317 = .ok (.goto 60, 3) := dk_167 0 60 (dk_at dksL_law_133 18 rfl rfl)
theorem dL_law_3320 : decode cL_law 3320 = .ok (.aload_n 1, 1) := dk_43 (dk_at dksL_law_133 21 rfl rfl)
theorem dL_law_3321 : decode cL_law 3321 = .ok (.invokevirtual 330, 3) := dk_182 1 74 (dk_at dksL_law_134 0 rfl rfl)
theorem dL_law_3324 : decode cL_law 3324 = .ok (.aload_n 2, 1) := dk_44 (dk_at dksL_law_134 3 rfl rfl)
theorem dL_law_3325 : decode cL_law 3325 = .ok (.invokevirtual 333, 3) := dk_182 1 77 (dk_at dksL_law_134 4 rfl rfl)
theorem dL_law_3328 : decode cL_law 3328 = .ok (.if_icmp .eq 49, 3) := dk_159 0 49 (dk_at dksL_law_134 7 rfl rfl)
theorem dL_law_3331 : decode cL_law 3331 = .ok (.iconst 0, 1) := dk_3 (dk_at dksL_law_134 10 rfl rfl)
theorem dL_law_3332 : decode cL_law 3332 = .ok (.ireturn, 1) := dk_172 (dk_at dksL_law_134 11 rfl rfl)
theorem dL_law_3333 : decode cL_law 3333 = .ok (.aload_n 1, 1) := dk_43 (dk_at dksL_law_134 12 rfl rfl)
theorem dL_law_3334 : decode cL_law 3334 = .ok (.aload_n 3, 1) := dk_45 (dk_at dksL_law_134 13 rfl rfl)
theorem dL_law_3335 : decode cL_law 3335 = .ok (.invokestatic 334, 3) := dk_184 1 78 (dk_at dksL_law_134 14 rfl rfl)
theorem dL_law_3338 : decode cL_law 3338 = .ok (.istore 6, 2) := dk_54 6 (dk_at dksL_law_134 17 rfl rfl)
theorem dL_law_3340 : decode cL_law 3340 = .ok (.aload_n 2, 1) := dk_44 (dk_at dksL_law_134 19 rfl rfl)
theorem dL_law_3341 : decode cL_law 3341 = .ok (.invokevirtual 336, 3) := dk_182 1 80 (dk_at dksL_law_134 20 rfl rfl)
theorem dL_law_3344 : decode cL_law 3344 = .ok (.istore 7, 2) := dk_54 7 (dk_at dksL_law_135 0 rfl rfl)
theorem dL_law_3346 : decode cL_law 3346 = .ok (.aload_n 2, 1) := dk_44 (dk_at dksL_law_135 2 rfl rfl)
theorem dL_law_3347 : decode cL_law 3347 = .ok (.invokevirtual 173, 3) := dk_182 0 173 (dk_at dksL_law_135 3 rfl rfl)
theorem dL_law_3350 : decode cL_law 3350 = .ok (.iload 6, 2) := dk_21 6 (dk_at dksL_law_135 6 rfl rfl)
theorem dL_law_3352 : decode cL_law 3352 = .ok (.if_icmp .eq 5, 3) := dk_159 0 5 (dk_at dksL_law_135 8 rfl rfl)
theorem dL_law_3355 : decode cL_law 3355 = .ok (.iconst 0, 1) := dk_3 (dk_at dksL_law_135 11 rfl rfl)
theorem dL_law_3356 : decode cL_law 3356 = .ok (.ireturn, 1) := dk_172 (dk_at dksL_law_135 12 rfl rfl)
theorem dL_law_3357 : decode cL_law 3357 = .ok (.iload 6, 2) := dk_21 6 (dk_at dksL_law_135 13 rfl rfl)
theorem dL_law_3359 : decode cL_law 3359 = .ok (.ifCond .ne 15, 3) := dk_154 0 15 (dk_at dksL_law_135 15 rfl rfl)
theorem dL_law_3362 : decode cL_law 3362 = .ok (.aload_n 3, 1) := dk_45 (dk_at dksL_law_135 18 rfl rfl)
theorem dL_law_3363 : decode cL_law 3363 = .ok (.iconst 0, 1) := dk_3 (dk_at dksL_law_135 19 rfl rfl)
theorem dL_law_3364 : decode cL_law 3364 = .ok (.laload, 1) := dk_47 (dk_at dksL_law_135 20 rfl rfl)
theorem dL_law_3365 : decode cL_law 3365 = .ok (.iload 7, 2) := dk_21 7 (dk_at dksL_law_135 21 rfl rfl)
theorem dL_law_3367 : decode cL_law 3367 = .ok (.i2l, 1) := dk_133 (dk_at dksL_law_135 23 rfl rfl)
theorem dL_law_3368 : decode cL_law 3368 = .ok (.lcmp, 1) := dk_148 (dk_at dksL_law_136 0 rfl rfl)
theorem dL_law_3369 : decode cL_law 3369 = .ok (.ifCond .eq 5, 3) := dk_153 0 5 (dk_at dksL_law_136 1 rfl rfl)
theorem dL_law_3372 : decode cL_law 3372 = .ok (.iconst 0, 1) := dk_3 (dk_at dksL_law_136 4 rfl rfl)
theorem dL_law_3373 : decode cL_law 3373 = .ok (.ireturn, 1) := dk_172 (dk_at dksL_law_136 5 rfl rfl)
theorem dL_law_3374 : decode cL_law 3374 = .ok (.goto 3, 3) := dk_167 0 3 (dk_at dksL_law_136 6 rfl rfl)
theorem dL_law_3377 : decode cL_law 3377 = .ok (.iinc 5 6, 3) := dk_132 5 6 (dk_at dksL_law_136 9 rfl rfl)
theorem dL_law_3380 : decode cL_law 3380 = .ok (.goto (-3352), 3) := dk_167 242 232 (dk_at dksL_law_136 12 rfl rfl)
theorem dL_law_3383 : decode cL_law 3383 = .ok (.iconst 1, 1) := dk_4 (dk_at dksL_law_136 15 rfl rfl)
theorem dL_law_3384 : decode cL_law 3384 = .ok (.ireturn, 1) := dk_172 (dk_at dksL_law_136 16 rfl rfl)
