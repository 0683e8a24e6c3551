/-! CsrCalculator -/
set_option maxRecDepth 100000
def RX1 : String := "CsrCalculator"
def TX1 : u_T := fun k => match k with
  | 0 => ("CsrCalculator", "done", "I", false)
  | 1 => ("CsrCalculator", "buffer", "[B", true)
  | 2 => ("CsrCalculator", "length", "I", false)
  | 3 => ("CsrCalculator", "errorCode", "I", false)
  | 4 => ("CsrCalculator", "errorOffset", "I", false)
  | 5 => ("CsrCalculator", "now", "LCsrCalculator$World;", false)
  | 6 => ("CsrCalculator", "saved", "LCsrCalculator$World;", false)
  | 7 => ("CsrCalculator", "history", "Ljava/util/ArrayDeque;", true)
  | _ => ("CsrCalculator", "output", "Ljava/lang/StringBuilder;", true)
def tyX1 : Nat → FieldType := fun k => match k with
  | 0 => .int
  | 1 => .array .byte
  | 2 => .int
  | 3 => .int
  | 4 => .int
  | 5 => .object "CsrCalculator$World"
  | 6 => .object "CsrCalculator$World"
  | 7 => .object "java/util/ArrayDeque"
  | _ => .object "java/lang/StringBuilder"
abbrev wsX10 : List Cond := u_ws RX1 TX1 9
theorem nmX1 : ∀ a, a < 9 → ∀ b, b < 9 → a ≠ b → (TX1 a).2.1 ≠ (TX1 b).2.1 := by decide +kernel
theorem tyX1_ok : ∀ k, k < 9 → parseFieldDescriptor (TX1 k).2.2.1 = some (tyX1 k) := by decide +kernel
abbrev cX1_init : ByteArray := prog_1_method_8_code
def yX1_init : MethodName := ⟨RX1, "<init>", "()V"⟩
def dkwX1_init_2 : List UInt8 := [183, 0, 133, 181, 0, 134, 177]
abbrev dktX1_init_2 : List UInt8 := dkwX1_init_2 ++ []
def dkwX1_init_1 : List UInt8 := [183, 0, 119, 181, 0, 120, 42, 187, 0, 124, 89, 183, 0, 126, 181, 0, 127, 42, 187, 0, 131, 89]
abbrev dktX1_init_1 : List UInt8 := dkwX1_init_1 ++ dktX1_init_2
def dkwX1_init_0 : List UInt8 := [42, 183, 0, 104, 42, 17, 2, 88, 188, 8, 181, 0, 110, 42, 2, 181, 0, 114, 42, 187, 0, 117, 89]
abbrev dktX1_init_0 : List UInt8 := dkwX1_init_0 ++ dktX1_init_1
theorem dksX1_init_0 : cX1_init.data.toList.drop 0 = dktX1_init_0 := by decide +kernel
theorem dksX1_init_1 : cX1_init.data.toList.drop 23 = dktX1_init_1 := dk_seg dksX1_init_0 23 rfl rfl
theorem dksX1_init_2 : cX1_init.data.toList.drop 45 = dktX1_init_2 := dk_seg dksX1_init_1 22 rfl rfl
theorem dX1_init_0 : decode cX1_init 0 = .ok (.aload_n 0, 1) := dk_42 (dk_at dksX1_init_0 0 rfl rfl)
theorem dX1_init_1 : decode cX1_init 1 = .ok (.invokespecial 104, 3) := dk_183 0 104 (dk_at dksX1_init_0 1 rfl rfl)
theorem dX1_init_4 : decode cX1_init 4 = .ok (.aload_n 0, 1) := dk_42 (dk_at dksX1_init_0 4 rfl rfl)
theorem dX1_init_5 : decode cX1_init 5 = .ok (.sipush 600, 3) := dk_17 2 88 (dk_at dksX1_init_0 5 rfl rfl)
theorem dX1_init_8 : decode cX1_init 8 = .ok (.newarray .byte, 2) := dk_188_8 (dk_at dksX1_init_0 8 rfl rfl)
theorem dX1_init_10 : decode cX1_init 10 = .ok (.putfield 110, 3) := dk_181 0 110 (dk_at dksX1_init_0 10 rfl rfl)
theorem dX1_init_13 : decode cX1_init 13 = .ok (.aload_n 0, 1) := dk_42 (dk_at dksX1_init_0 13 rfl rfl)
theorem dX1_init_14 : decode cX1_init 14 = .ok (.iconst (-1), 1) := dk_2 (dk_at dksX1_init_0 14 rfl rfl)
theorem dX1_init_15 : decode cX1_init 15 = .ok (.putfield 114, 3) := dk_181 0 114 (dk_at dksX1_init_0 15 rfl rfl)
theorem dX1_init_18 : decode cX1_init 18 = .ok (.aload_n 0, 1) := dk_42 (dk_at dksX1_init_0 18 rfl rfl)
theorem dX1_init_19 : decode cX1_init 19 = .ok (.new 117, 3) := dk_187 0 117 (dk_at dksX1_init_0 19 rfl rfl)
theorem dX1_init_22 : decode cX1_init 22 = .ok (.dup, 1) := dk_89 (dk_at dksX1_init_0 22 rfl rfl)
theorem dX1_init_23 : decode cX1_init 23 = .ok (.invokespecial 119, 3) := dk_183 0 119 (dk_at dksX1_init_1 0 rfl rfl)
theorem dX1_init_26 : decode cX1_init 26 = .ok (.putfield 120, 3) := dk_181 0 120 (dk_at dksX1_init_1 3 rfl rfl)
theorem dX1_init_29 : decode cX1_init 29 = .ok (.aload_n 0, 1) := dk_42 (dk_at dksX1_init_1 6 rfl rfl)
theorem dX1_init_30 : decode cX1_init 30 = .ok (.new 124, 3) := dk_187 0 124 (dk_at dksX1_init_1 7 rfl rfl)
theorem dX1_init_33 : decode cX1_init 33 = .ok (.dup, 1) := dk_89 (dk_at dksX1_init_1 10 rfl rfl)
theorem dX1_init_34 : decode cX1_init 34 = .ok (.invokespecial 126, 3) := dk_183 0 126 (dk_at dksX1_init_1 11 rfl rfl)
theorem dX1_init_37 : decode cX1_init 37 = .ok (.putfield 127, 3) := dk_181 0 127 (dk_at dksX1_init_1 14 rfl rfl)
theorem dX1_init_40 : decode cX1_init 40 = .ok (.aload_n 0, 1) := dk_42 (dk_at dksX1_init_1 17 rfl rfl)
theorem dX1_init_41 : decode cX1_init 41 = .ok (.new 131, 3) := dk_187 0 131 (dk_at dksX1_init_1 18 rfl rfl)
theorem dX1_init_44 : decode cX1_init 44 = .ok (.dup, 1) := dk_89 (dk_at dksX1_init_1 21 rfl rfl)
theorem dX1_init_45 : decode cX1_init 45 = .ok (.invokespecial 133, 3) := dk_183 0 133 (dk_at dksX1_init_2 0 rfl rfl)
theorem dX1_init_48 : decode cX1_init 48 = .ok (.putfield 134, 3) := dk_181 0 134 (dk_at dksX1_init_2 3 rfl rfl)
theorem dX1_init_51 : decode cX1_init 51 = .ok (.return_, 1) := dk_177 (dk_at dksX1_init_2 6 rfl rfl)
abbrev cX1_errorCode : ByteArray := prog_1_method_22_code
def yX1_errorCode : MethodName := ⟨RX1, "errorCode", "()I"⟩
theorem dX1_errorCode_0 : decode cX1_errorCode 0 = .ok (.aload_n 0, 1) := by decide +kernel
theorem dX1_errorCode_1 : decode cX1_errorCode 1 = .ok (.getfield 191, 3) := by decide +kernel
theorem dX1_errorCode_4 : decode cX1_errorCode 4 = .ok (.ireturn, 1) := by decide +kernel
abbrev cX1_errorOffset : ByteArray := prog_1_method_23_code
def yX1_errorOffset : MethodName := ⟨RX1, "errorOffset", "()I"⟩
theorem dX1_errorOffset_0 : decode cX1_errorOffset 0 = .ok (.aload_n 0, 1) := by decide +kernel
theorem dX1_errorOffset_1 : decode cX1_errorOffset 1 = .ok (.getfield 114, 3) := by decide +kernel
theorem dX1_errorOffset_4 : decode cX1_errorOffset 4 = .ok (.ireturn, 1) := by decide +kernel
abbrev cX1_totalWork : ByteArray := prog_1_method_51_code
def yX1_totalWork : MethodName := ⟨RX1, "totalWork", "()I"⟩
def dkwX1_totalWork_0 : List UInt8 := [42, 180, 0, 120, 180, 1, 53, 172]
abbrev dktX1_totalWork_0 : List UInt8 := dkwX1_totalWork_0 ++ []
theorem dksX1_totalWork_0 : cX1_totalWork.data.toList.drop 0 = dktX1_totalWork_0 := by decide +kernel
theorem dX1_totalWork_0 : decode cX1_totalWork 0 = .ok (.aload_n 0, 1) := dk_42 (dk_at dksX1_totalWork_0 0 rfl rfl)
theorem dX1_totalWork_1 : decode cX1_totalWork 1 = .ok (.getfield 120, 3) := dk_180 0 120 (dk_at dksX1_totalWork_0 1 rfl rfl)
theorem dX1_totalWork_4 : decode cX1_totalWork 4 = .ok (.getfield 309, 3) := dk_180 1 53 (dk_at dksX1_totalWork_0 4 rfl rfl)
theorem dX1_totalWork_7 : decode cX1_totalWork 7 = .ok (.ireturn, 1) := dk_172 (dk_at dksX1_totalWork_0 7 rfl rfl)
abbrev cX1_violations : ByteArray := prog_1_method_54_code
def yX1_violations : MethodName := ⟨RX1, "violations", "()I"⟩
def dkwX1_violations_2 : List UInt8 := [96, 96, 60, 132, 4, 1, 167, 255, 219, 27, 172]
abbrev dktX1_violations_2 : List UInt8 := dkwX1_violations_2 ++ []
def dkwX1_violations_1 : List UInt8 := [21, 4, 50, 58, 5, 27, 25, 5, 182, 1, 64, 42, 25, 5, 182, 1, 67, 96, 42, 25, 5, 182, 1, 70]
abbrev dktX1_violations_1 : List UInt8 := dkwX1_violations_1 ++ dktX1_violations_2
def dkwX1_violations_0 : List UInt8 := [3, 60, 42, 180, 0, 120, 180, 0, 151, 77, 44, 190, 62, 3, 54, 4, 21, 4, 29, 162, 0, 37, 44]
abbrev dktX1_violations_0 : List UInt8 := dkwX1_violations_0 ++ dktX1_violations_1
theorem dksX1_violations_0 : cX1_violations.data.toList.drop 0 = dktX1_violations_0 := by decide +kernel
theorem dksX1_violations_1 : cX1_violations.data.toList.drop 23 = dktX1_violations_1 := dk_seg dksX1_violations_0 23 rfl rfl
theorem dksX1_violations_2 : cX1_violations.data.toList.drop 47 = dktX1_violations_2 := dk_seg dksX1_violations_1 24 rfl rfl
theorem dX1_violations_0 : decode cX1_violations 0 = .ok (.iconst 0, 1) := dk_3 (dk_at dksX1_violations_0 0 rfl rfl)
theorem dX1_violations_1 : decode cX1_violations 1 = .ok (.istore_n 1, 1) := dk_60 (dk_at dksX1_violations_0 1 rfl rfl)
theorem dX1_violations_2 : decode cX1_violations 2 = .ok (.aload_n 0, 1) := dk_42 (dk_at dksX1_violations_0 2 rfl rfl)
theorem dX1_violations_3 : decode cX1_violations 3 = .ok (.getfield 120, 3) := dk_180 0 120 (dk_at dksX1_violations_0 3 rfl rfl)
theorem dX1_violations_6 : decode cX1_violations 6 = .ok (.getfield 151, 3) := dk_180 0 151 (dk_at dksX1_violations_0 6 rfl rfl)
theorem dX1_violations_9 : decode cX1_violations 9 = .ok (.astore_n 2, 1) := dk_77 (dk_at dksX1_violations_0 9 rfl rfl)
theorem dX1_violations_10 : decode cX1_violations 10 = .ok (.aload_n 2, 1) := dk_44 (dk_at dksX1_violations_0 10 rfl rfl)
theorem dX1_violations_11 : decode cX1_violations 11 = .ok (.arraylength, 1) := dk_190 (dk_at dksX1_violations_0 11 rfl rfl)
theorem dX1_violations_12 : decode cX1_violations 12 = .ok (.istore_n 3, 1) := dk_62 (dk_at dksX1_violations_0 12 rfl rfl)
theorem dX1_violations_13 : decode cX1_violations 13 = .ok (.iconst 0, 1) := dk_3 (dk_at dksX1_violations_0 13 rfl rfl)
theorem dX1_violations_14 : decode cX1_violations 14 = .ok (.istore 4, 2) := dk_54 4 (dk_at dksX1_violations_0 14 rfl rfl)
theorem dX1_violations_16 : decode cX1_violations 16 = .ok (.iload 4, 2) := dk_21 4 (dk_at dksX1_violations_0 16 rfl rfl)
theorem dX1_violations_18 : decode cX1_violations 18 = .ok (.iload_n 3, 1) := dk_29 (dk_at dksX1_violations_0 18 rfl rfl)
theorem dX1_violations_19 : decode cX1_violations 19 = .ok (.if_icmp .ge 37, 3) := dk_162 0 37 (dk_at dksX1_violations_0 19 rfl rfl)
theorem dX1_violations_22 : decode cX1_violations 22 = .ok (.aload_n 2, 1) := dk_44 (dk_at dksX1_violations_0 22 rfl rfl)
theorem dX1_violations_23 : decode cX1_violations 23 = .ok (.iload 4, 2) := dk_21 4 (dk_at dksX1_violations_1 0 rfl rfl)
theorem dX1_violations_25 : decode cX1_violations 25 = .ok (.aaload, 1) := dk_50 (dk_at dksX1_violations_1 2 rfl rfl)
theorem dX1_violations_26 : decode cX1_violations 26 = .ok (.astore 5, 2) := dk_58 5 (dk_at dksX1_violations_1 3 rfl rfl)
theorem dX1_violations_28 : decode cX1_violations 28 = .ok (.iload_n 1, 1) := dk_27 (dk_at dksX1_violations_1 5 rfl rfl)
theorem dX1_violations_29 : decode cX1_violations 29 = .ok (.aload 5, 2) := dk_25 5 (dk_at dksX1_violations_1 6 rfl rfl)
theorem dX1_violations_31 : decode cX1_violations 31 = .ok (.invokevirtual 320, 3) := dk_182 1 64 (dk_at dksX1_violations_1 8 rfl rfl)
theorem dX1_violations_34 : decode cX1_violations 34 = .ok (.aload_n 0, 1) := dk_42 (dk_at dksX1_violations_1 11 rfl rfl)
theorem dX1_violations_35 : decode cX1_violations 35 = .ok (.aload 5, 2) := dk_25 5 (dk_at dksX1_violations_1 12 rfl rfl)
theorem dX1_violations_37 : decode cX1_violations 37 = .ok (.invokevirtual 323, 3) := dk_182 1 67 (dk_at dksX1_violations_1 14 rfl rfl)
theorem dX1_violations_40 : decode cX1_violations 40 = .ok (.iadd, 1) := dk_96 (dk_at dksX1_violations_1 17 rfl rfl)
theorem dX1_violations_41 : decode cX1_violations 41 = .ok (.aload_n 0, 1) := dk_42 (dk_at dksX1_violations_1 18 rfl rfl)
theorem dX1_violations_42 : decode cX1_violations 42 = .ok (.aload 5, 2) := dk_25 5 (dk_at dksX1_violations_1 19 rfl rfl)
theorem dX1_violations_44 : decode cX1_violations 44 = .ok (.invokevirtual 326, 3) := dk_182 1 70 (dk_at dksX1_violations_1 21 rfl rfl)
theorem dX1_violations_47 : decode cX1_violations 47 = .ok (.iadd, 1) := dk_96 (dk_at dksX1_violations_2 0 rfl rfl)
theorem dX1_violations_48 : decode cX1_violations 48 = .ok (.iadd, 1) := dk_96 (dk_at dksX1_violations_2 1 rfl rfl)
theorem dX1_violations_49 : decode cX1_violations 49 = .ok (.istore_n 1, 1) := dk_60 (dk_at dksX1_violations_2 2 rfl rfl)
theorem dX1_violations_50 : decode cX1_violations 50 = .ok (.iinc 4 1, 3) := dk_132 4 1 (dk_at dksX1_violations_2 3 rfl rfl)
theorem dX1_violations_53 : decode cX1_violations 53 = .ok (.goto (-37), 3) := dk_167 255 219 (dk_at dksX1_violations_2 6 rfl rfl)
theorem dX1_violations_56 : decode cX1_violations 56 = .ok (.iload_n 1, 1) := dk_27 (dk_at dksX1_violations_2 9 rfl rfl)
theorem dX1_violations_57 : decode cX1_violations 57 = .ok (.ireturn, 1) := dk_172 (dk_at dksX1_violations_2 10 rfl rfl)
abbrev cX1_wrongTranspose : ByteArray := prog_1_method_53_code
def yX1_wrongTranspose : MethodName := ⟨RX1, "wrongTranspose", "(LCsrCalculator$Csr;)I"⟩
def dkwX1_wrongTranspose_1 : List UInt8 := [3, 167, 0, 4, 4, 172, 77, 4, 172]
abbrev dktX1_wrongTranspose_1 : List UInt8 := dkwX1_wrongTranspose_1 ++ []
def dkwX1_wrongTranspose_0 : List UInt8 := [43, 182, 1, 60, 182, 1, 60, 77, 43, 44, 182, 1, 19, 153, 0, 15, 43, 44, 182, 1, 15, 153, 0, 7]
abbrev dktX1_wrongTranspose_0 : List UInt8 := dkwX1_wrongTranspose_0 ++ dktX1_wrongTranspose_1
theorem dksX1_wrongTranspose_0 : cX1_wrongTranspose.data.toList.drop 0 = dktX1_wrongTranspose_0 := by decide +kernel
theorem dksX1_wrongTranspose_1 : cX1_wrongTranspose.data.toList.drop 24 = dktX1_wrongTranspose_1 := dk_seg dksX1_wrongTranspose_0 24 rfl rfl
theorem dX1_wrongTranspose_0 : decode cX1_wrongTranspose 0 = .ok (.aload_n 1, 1) := dk_43 (dk_at dksX1_wrongTranspose_0 0 rfl rfl)
theorem dX1_wrongTranspose_1 : decode cX1_wrongTranspose 1 = .ok (.invokevirtual 316, 3) := dk_182 1 60 (dk_at dksX1_wrongTranspose_0 1 rfl rfl)
theorem dX1_wrongTranspose_4 : decode cX1_wrongTranspose 4 = .ok (.invokevirtual 316, 3) := dk_182 1 60 (dk_at dksX1_wrongTranspose_0 4 rfl rfl)
theorem dX1_wrongTranspose_7 : decode cX1_wrongTranspose 7 = .ok (.astore_n 2, 1) := dk_77 (dk_at dksX1_wrongTranspose_0 7 rfl rfl)
theorem dX1_wrongTranspose_8 : decode cX1_wrongTranspose 8 = .ok (.aload_n 1, 1) := dk_43 (dk_at dksX1_wrongTranspose_0 8 rfl rfl)
theorem dX1_wrongTranspose_9 : decode cX1_wrongTranspose 9 = .ok (.aload_n 2, 1) := dk_44 (dk_at dksX1_wrongTranspose_0 9 rfl rfl)
theorem dX1_wrongTranspose_10 : decode cX1_wrongTranspose 10 = .ok (.invokevirtual 275, 3) := dk_182 1 19 (dk_at dksX1_wrongTranspose_0 10 rfl rfl)
theorem dX1_wrongTranspose_13 : decode cX1_wrongTranspose 13 = .ok (.ifCond .eq 15, 3) := dk_153 0 15 (dk_at dksX1_wrongTranspose_0 13 rfl rfl)
theorem dX1_wrongTranspose_16 : decode cX1_wrongTranspose 16 = .ok (.aload_n 1, 1) := dk_43 (dk_at dksX1_wrongTranspose_0 16 rfl rfl)
theorem dX1_wrongTranspose_17 : decode cX1_wrongTranspose 17 = .ok (.aload_n 2, 1) := dk_44 (dk_at dksX1_wrongTranspose_0 17 rfl rfl)
theorem dX1_wrongTranspose_18 : decode cX1_wrongTranspose 18 = .ok (.invokevirtual 271, 3) := dk_182 1 15 (dk_at dksX1_wrongTranspose_0 18 rfl rfl)
theorem dX1_wrongTranspose_21 : decode cX1_wrongTranspose 21 = .ok (.ifCond .eq 7, 3) := dk_153 0 7 (dk_at dksX1_wrongTranspose_0 21 rfl rfl)
theorem dX1_wrongTranspose_24 : decode cX1_wrongTranspose 24 = .ok (.iconst 0, 1) := dk_3 (dk_at dksX1_wrongTranspose_1 0 rfl rfl)
theorem dX1_wrongTranspose_25 : decode cX1_wrongTranspose 25 = .ok (.goto 4, 3) := dk_167 0 4 (dk_at dksX1_wrongTranspose_1 1 rfl rfl)
theorem dX1_wrongTranspose_28 : decode cX1_wrongTranspose 28 = .ok (.iconst 1, 1) := dk_4 (dk_at dksX1_wrongTranspose_1 4 rfl rfl)
theorem dX1_wrongTranspose_29 : decode cX1_wrongTranspose 29 = .ok (.ireturn, 1) := dk_172 (dk_at dksX1_wrongTranspose_1 5 rfl rfl)
theorem dX1_wrongTranspose_30 : decode cX1_wrongTranspose 30 = .ok (.astore_n 2, 1) := dk_77 (dk_at dksX1_wrongTranspose_1 6 rfl rfl)
theorem dX1_wrongTranspose_31 : decode cX1_wrongTranspose 31 = .ok (.iconst 1, 1) := dk_4 (dk_at dksX1_wrongTranspose_1 7 rfl rfl)
theorem dX1_wrongTranspose_32 : decode cX1_wrongTranspose 32 = .ok (.ireturn, 1) := dk_172 (dk_at dksX1_wrongTranspose_1 8 rfl rfl)
abbrev cX1_isIn : ByteArray := prog_1_method_1_code
def yX1_isIn : MethodName := ⟨RX1, "isIn", "(JJJ)Z"⟩
def dkwX1_isIn_0 : List UInt8 := [30, 32, 148, 155, 0, 14, 30, 22, 4, 148, 157, 0, 7, 4, 167, 0, 4, 3, 172]
abbrev dktX1_isIn_0 : List UInt8 := dkwX1_isIn_0 ++ []
theorem dksX1_isIn_0 : cX1_isIn.data.toList.drop 0 = dktX1_isIn_0 := by decide +kernel
theorem dX1_isIn_0 : decode cX1_isIn 0 = .ok (.lload_n 0, 1) := dk_30 (dk_at dksX1_isIn_0 0 rfl rfl)
theorem dX1_isIn_1 : decode cX1_isIn 1 = .ok (.lload_n 2, 1) := dk_32 (dk_at dksX1_isIn_0 1 rfl rfl)
theorem dX1_isIn_2 : decode cX1_isIn 2 = .ok (.lcmp, 1) := dk_148 (dk_at dksX1_isIn_0 2 rfl rfl)
theorem dX1_isIn_3 : decode cX1_isIn 3 = .ok (.ifCond .lt 14, 3) := dk_155 0 14 (dk_at dksX1_isIn_0 3 rfl rfl)
theorem dX1_isIn_6 : decode cX1_isIn 6 = .ok (.lload_n 0, 1) := dk_30 (dk_at dksX1_isIn_0 6 rfl rfl)
theorem dX1_isIn_7 : decode cX1_isIn 7 = .ok (.lload 4, 2) := dk_22 4 (dk_at dksX1_isIn_0 7 rfl rfl)
theorem dX1_isIn_9 : decode cX1_isIn 9 = .ok (.lcmp, 1) := dk_148 (dk_at dksX1_isIn_0 9 rfl rfl)
theorem dX1_isIn_10 : decode cX1_isIn 10 = .ok (.ifCond .gt 7, 3) := dk_157 0 7 (dk_at dksX1_isIn_0 10 rfl rfl)
theorem dX1_isIn_13 : decode cX1_isIn 13 = .ok (.iconst 1, 1) := dk_4 (dk_at dksX1_isIn_0 13 rfl rfl)
theorem dX1_isIn_14 : decode cX1_isIn 14 = .ok (.goto 4, 3) := dk_167 0 4 (dk_at dksX1_isIn_0 14 rfl rfl)
theorem dX1_isIn_17 : decode cX1_isIn 17 = .ok (.iconst 0, 1) := dk_3 (dk_at dksX1_isIn_0 17 rfl rfl)
theorem dX1_isIn_18 : decode cX1_isIn 18 = .ok (.ireturn, 1) := dk_172 (dk_at dksX1_isIn_0 18 rfl rfl)
abbrev cX1_wrongProducts : ByteArray := prog_1_method_52_code
def yX1_wrongProducts : MethodName := ⟨RX1, "wrongProducts", "(LCsrCalculator$Csr;)I"⟩
def dkwX1_wrongProducts_3 : List UInt8 := [167, 255, 202, 28, 172]
abbrev dktX1_wrongProducts_3 : List UInt8 := dkwX1_wrongProducts_3 ++ []
def dkwX1_wrongProducts_2 : List UInt8 := [43, 25, 6, 182, 1, 56, 154, 0, 6, 132, 2, 1, 167, 0, 8, 58, 7, 132, 2, 0, 132, 5, 1]
abbrev dktX1_wrongProducts_2 : List UInt8 := dkwX1_wrongProducts_2 ++ dktX1_wrongProducts_3
def dkwX1_wrongProducts_1 : List UInt8 := [45, 21, 5, 50, 58, 6, 43, 180, 0, 167, 25, 6, 180, 0, 158, 160, 0, 21, 43, 25, 6, 182, 1, 34]
abbrev dktX1_wrongProducts_1 : List UInt8 := dkwX1_wrongProducts_1 ++ dktX1_wrongProducts_2
def dkwX1_wrongProducts_0 : List UInt8 := [3, 61, 42, 180, 0, 120, 180, 0, 151, 78, 45, 190, 54, 4, 3, 54, 5, 21, 5, 21, 4, 162, 0, 53]
abbrev dktX1_wrongProducts_0 : List UInt8 := dkwX1_wrongProducts_0 ++ dktX1_wrongProducts_1
theorem dksX1_wrongProducts_0 : cX1_wrongProducts.data.toList.drop 0 = dktX1_wrongProducts_0 := by decide +kernel
theorem dksX1_wrongProducts_1 : cX1_wrongProducts.data.toList.drop 24 = dktX1_wrongProducts_1 := dk_seg dksX1_wrongProducts_0 24 rfl rfl
theorem dksX1_wrongProducts_2 : cX1_wrongProducts.data.toList.drop 48 = dktX1_wrongProducts_2 := dk_seg dksX1_wrongProducts_1 24 rfl rfl
theorem dksX1_wrongProducts_3 : cX1_wrongProducts.data.toList.drop 71 = dktX1_wrongProducts_3 := dk_seg dksX1_wrongProducts_2 23 rfl rfl
theorem dX1_wrongProducts_0 : decode cX1_wrongProducts 0 = .ok (.iconst 0, 1) := dk_3 (dk_at dksX1_wrongProducts_0 0 rfl rfl)
theorem dX1_wrongProducts_1 : decode cX1_wrongProducts 1 = .ok (.istore_n 2, 1) := dk_61 (dk_at dksX1_wrongProducts_0 1 rfl rfl)
theorem dX1_wrongProducts_2 : decode cX1_wrongProducts 2 = .ok (.aload_n 0, 1) := dk_42 (dk_at dksX1_wrongProducts_0 2 rfl rfl)
theorem dX1_wrongProducts_3 : decode cX1_wrongProducts 3 = .ok (.getfield 120, 3) := dk_180 0 120 (dk_at dksX1_wrongProducts_0 3 rfl rfl)
theorem dX1_wrongProducts_6 : decode cX1_wrongProducts 6 = .ok (.getfield 151, 3) := dk_180 0 151 (dk_at dksX1_wrongProducts_0 6 rfl rfl)
theorem dX1_wrongProducts_9 : decode cX1_wrongProducts 9 = .ok (.astore_n 3, 1) := dk_78 (dk_at dksX1_wrongProducts_0 9 rfl rfl)
theorem dX1_wrongProducts_10 : decode cX1_wrongProducts 10 = .ok (.aload_n 3, 1) := dk_45 (dk_at dksX1_wrongProducts_0 10 rfl rfl)
theorem dX1_wrongProducts_11 : decode cX1_wrongProducts 11 = .ok (.arraylength, 1) := dk_190 (dk_at dksX1_wrongProducts_0 11 rfl rfl)
theorem dX1_wrongProducts_12 : decode cX1_wrongProducts 12 = .ok (.istore 4, 2) := dk_54 4 (dk_at dksX1_wrongProducts_0 12 rfl rfl)
theorem dX1_wrongProducts_14 : decode cX1_wrongProducts 14 = .ok (.iconst 0, 1) := dk_3 (dk_at dksX1_wrongProducts_0 14 rfl rfl)
theorem dX1_wrongProducts_15 : decode cX1_wrongProducts 15 = .ok (.istore 5, 2) := dk_54 5 (dk_at dksX1_wrongProducts_0 15 rfl rfl)
theorem dX1_wrongProducts_17 : decode cX1_wrongProducts 17 = .ok (.iload 5, 2) := dk_21 5 (dk_at dksX1_wrongProducts_0 17 rfl rfl)
theorem dX1_wrongProducts_19 : decode cX1_wrongProducts 19 = .ok (.iload 4, 2) := dk_21 4 (dk_at dksX1_wrongProducts_0 19 rfl rfl)
theorem dX1_wrongProducts_21 : decode cX1_wrongProducts 21 = .ok (.if_icmp .ge 53, 3) := dk_162 0 53 (dk_at dksX1_wrongProducts_0 21 rfl rfl)
theorem dX1_wrongProducts_24 : decode cX1_wrongProducts 24 = .ok (.aload_n 3, 1) := dk_45 (dk_at dksX1_wrongProducts_1 0 rfl rfl)
theorem dX1_wrongProducts_25 : decode cX1_wrongProducts 25 = .ok (.iload 5, 2) := dk_21 5 (dk_at dksX1_wrongProducts_1 1 rfl rfl)
theorem dX1_wrongProducts_27 : decode cX1_wrongProducts 27 = .ok (.aaload, 1) := dk_50 (dk_at dksX1_wrongProducts_1 3 rfl rfl)
theorem dX1_wrongProducts_28 : decode cX1_wrongProducts 28 = .ok (.astore 6, 2) := dk_58 6 (dk_at dksX1_wrongProducts_1 4 rfl rfl)
theorem dX1_wrongProducts_30 : decode cX1_wrongProducts 30 = .ok (.aload_n 1, 1) := dk_43 (dk_at dksX1_wrongProducts_1 6 rfl rfl)
theorem dX1_wrongProducts_31 : decode cX1_wrongProducts 31 = .ok (.getfield 167, 3) := dk_180 0 167 (dk_at dksX1_wrongProducts_1 7 rfl rfl)
theorem dX1_wrongProducts_34 : decode cX1_wrongProducts 34 = .ok (.aload 6, 2) := dk_25 6 (dk_at dksX1_wrongProducts_1 10 rfl rfl)
theorem dX1_wrongProducts_36 : decode cX1_wrongProducts 36 = .ok (.getfield 158, 3) := dk_180 0 158 (dk_at dksX1_wrongProducts_1 12 rfl rfl)
theorem dX1_wrongProducts_39 : decode cX1_wrongProducts 39 = .ok (.if_icmp .ne 21, 3) := dk_160 0 21 (dk_at dksX1_wrongProducts_1 15 rfl rfl)
theorem dX1_wrongProducts_42 : decode cX1_wrongProducts 42 = .ok (.aload_n 1, 1) := dk_43 (dk_at dksX1_wrongProducts_1 18 rfl rfl)
theorem dX1_wrongProducts_43 : decode cX1_wrongProducts 43 = .ok (.aload 6, 2) := dk_25 6 (dk_at dksX1_wrongProducts_1 19 rfl rfl)
theorem dX1_wrongProducts_45 : decode cX1_wrongProducts 45 = .ok (.invokevirtual 290, 3) := dk_182 1 34 (dk_at dksX1_wrongProducts_1 21 rfl rfl)
theorem dX1_wrongProducts_48 : decode cX1_wrongProducts 48 = .ok (.aload_n 1, 1) := dk_43 (dk_at dksX1_wrongProducts_2 0 rfl rfl)
theorem dX1_wrongProducts_49 : decode cX1_wrongProducts 49 = .ok (.aload 6, 2) := dk_25 6 (dk_at dksX1_wrongProducts_2 1 rfl rfl)
theorem dX1_wrongProducts_51 : decode cX1_wrongProducts 51 = .ok (.invokevirtual 312, 3) := dk_182 1 56 (dk_at dksX1_wrongProducts_2 3 rfl rfl)
theorem dX1_wrongProducts_54 : decode cX1_wrongProducts 54 = .ok (.ifCond .ne 6, 3) := dk_154 0 6 (dk_at dksX1_wrongProducts_2 6 rfl rfl)
theorem dX1_wrongProducts_57 : decode cX1_wrongProducts 57 = .ok (.iinc 2 1, 3) := dk_132 2 1 (dk_at dksX1_wrongProducts_2 9 rfl rfl)
theorem dX1_wrongProducts_60 : decode cX1_wrongProducts 60 = .ok (.goto 8, 3) := dk_167 0 8 (dk_at dksX1_wrongProducts_2 12 rfl rfl)
theorem dX1_wrongProducts_63 : decode cX1_wrongProducts 63 = .ok (.astore 7, 2) := dk_58 7 (dk_at dksX1_wrongProducts_2 15 rfl rfl)
theorem dX1_wrongProducts_65 : decode cX1_wrongProducts 65 = .ok (.iinc 2 0, 3) := dk_132 2 0 (dk_at dksX1_wrongProducts_2 17 rfl rfl)
theorem dX1_wrongProducts_68 : decode cX1_wrongProducts 68 = .ok (.iinc 5 1, 3) := dk_132 5 1 (dk_at dksX1_wrongProducts_2 20 rfl rfl)
theorem dX1_wrongProducts_71 : decode cX1_wrongProducts 71 = .ok (.goto (-54), 3) := dk_167 255 202 (dk_at dksX1_wrongProducts_3 0 rfl rfl)
theorem dX1_wrongProducts_74 : decode cX1_wrongProducts 74 = .ok (.iload_n 2, 1) := dk_28 (dk_at dksX1_wrongProducts_3 3 rfl rfl)
theorem dX1_wrongProducts_75 : decode cX1_wrongProducts 75 = .ok (.ireturn, 1) := dk_172 (dk_at dksX1_wrongProducts_3 4 rfl rfl)
abbrev cX1_saveState : ByteArray := prog_1_method_81_code
def yX1_saveState : MethodName := ⟨RX1, "saveState", "()I"⟩
def dkwX1_saveState_0 : List UInt8 := [42, 42, 180, 0, 120, 182, 0, 218, 181, 1, 164, 42, 180, 0, 120, 182, 0, 209, 172]
abbrev dktX1_saveState_0 : List UInt8 := dkwX1_saveState_0 ++ []
theorem dksX1_saveState_0 : cX1_saveState.data.toList.drop 0 = dktX1_saveState_0 := by decide +kernel
theorem dX1_saveState_0 : decode cX1_saveState 0 = .ok (.aload_n 0, 1) := dk_42 (dk_at dksX1_saveState_0 0 rfl rfl)
theorem dX1_saveState_1 : decode cX1_saveState 1 = .ok (.aload_n 0, 1) := dk_42 (dk_at dksX1_saveState_0 1 rfl rfl)
theorem dX1_saveState_2 : decode cX1_saveState 2 = .ok (.getfield 120, 3) := dk_180 0 120 (dk_at dksX1_saveState_0 2 rfl rfl)
theorem dX1_saveState_5 : decode cX1_saveState 5 = .ok (.invokevirtual 218, 3) := dk_182 0 218 (dk_at dksX1_saveState_0 5 rfl rfl)
theorem dX1_saveState_8 : decode cX1_saveState 8 = .ok (.putfield 420, 3) := dk_181 1 164 (dk_at dksX1_saveState_0 8 rfl rfl)
theorem dX1_saveState_11 : decode cX1_saveState 11 = .ok (.aload_n 0, 1) := dk_42 (dk_at dksX1_saveState_0 11 rfl rfl)
theorem dX1_saveState_12 : decode cX1_saveState 12 = .ok (.getfield 120, 3) := dk_180 0 120 (dk_at dksX1_saveState_0 12 rfl rfl)
theorem dX1_saveState_15 : decode cX1_saveState 15 = .ok (.invokevirtual 209, 3) := dk_182 0 209 (dk_at dksX1_saveState_0 15 rfl rfl)
theorem dX1_saveState_18 : decode cX1_saveState 18 = .ok (.ireturn, 1) := dk_172 (dk_at dksX1_saveState_0 18 rfl rfl)
abbrev cX1_feed : ByteArray := prog_1_method_17_code
def yX1_feed : MethodName := ⟨RX1, "feed", "(IIIII)I"⟩
def dkwX1_feed_2 : List UInt8 := [182, 0, 179, 42, 180, 0, 173, 172]
abbrev dktX1_feed_2 : List UInt8 := dkwX1_feed_2 ++ []
def dkwX1_feed_1 : List UInt8 := [182, 0, 179, 42, 28, 182, 0, 179, 42, 29, 182, 0, 179, 42, 21, 4, 182, 0, 179, 42, 21, 5]
abbrev dktX1_feed_1 : List UInt8 := dkwX1_feed_1 ++ dktX1_feed_2
def dkwX1_feed_0 : List UInt8 := [42, 180, 0, 173, 16, 20, 96, 17, 2, 88, 163, 0, 7, 4, 167, 0, 4, 3, 184, 0, 176, 42, 27]
abbrev dktX1_feed_0 : List UInt8 := dkwX1_feed_0 ++ dktX1_feed_1
theorem dksX1_feed_0 : cX1_feed.data.toList.drop 0 = dktX1_feed_0 := by decide +kernel
theorem dksX1_feed_1 : cX1_feed.data.toList.drop 23 = dktX1_feed_1 := dk_seg dksX1_feed_0 23 rfl rfl
theorem dksX1_feed_2 : cX1_feed.data.toList.drop 45 = dktX1_feed_2 := dk_seg dksX1_feed_1 22 rfl rfl
theorem dX1_feed_0 : decode cX1_feed 0 = .ok (.aload_n 0, 1) := dk_42 (dk_at dksX1_feed_0 0 rfl rfl)
theorem dX1_feed_1 : decode cX1_feed 1 = .ok (.getfield 173, 3) := dk_180 0 173 (dk_at dksX1_feed_0 1 rfl rfl)
theorem dX1_feed_4 : decode cX1_feed 4 = .ok (.bipush 20, 2) := dk_16 20 (dk_at dksX1_feed_0 4 rfl rfl)
theorem dX1_feed_6 : decode cX1_feed 6 = .ok (.iadd, 1) := dk_96 (dk_at dksX1_feed_0 6 rfl rfl)
theorem dX1_feed_7 : decode cX1_feed 7 = .ok (.sipush 600, 3) := dk_17 2 88 (dk_at dksX1_feed_0 7 rfl rfl)
theorem dX1_feed_10 : decode cX1_feed 10 = .ok (.if_icmp .gt 7, 3) := dk_163 0 7 (dk_at dksX1_feed_0 10 rfl rfl)
theorem dX1_feed_13 : decode cX1_feed 13 = .ok (.iconst 1, 1) := dk_4 (dk_at dksX1_feed_0 13 rfl rfl)
theorem dX1_feed_14 : decode cX1_feed 14 = .ok (.goto 4, 3) := dk_167 0 4 (dk_at dksX1_feed_0 14 rfl rfl)
theorem dX1_feed_17 : decode cX1_feed 17 = .ok (.iconst 0, 1) := dk_3 (dk_at dksX1_feed_0 17 rfl rfl)
theorem dX1_feed_18 : decode cX1_feed 18 = .ok (.invokestatic 176, 3) := dk_184 0 176 (dk_at dksX1_feed_0 18 rfl rfl)
theorem dX1_feed_21 : decode cX1_feed 21 = .ok (.aload_n 0, 1) := dk_42 (dk_at dksX1_feed_0 21 rfl rfl)
theorem dX1_feed_22 : decode cX1_feed 22 = .ok (.iload_n 1, 1) := dk_27 (dk_at dksX1_feed_0 22 rfl rfl)
theorem dX1_feed_23 : decode cX1_feed 23 = .ok (.invokevirtual 179, 3) := dk_182 0 179 (dk_at dksX1_feed_1 0 rfl rfl)
theorem dX1_feed_26 : decode cX1_feed 26 = .ok (.aload_n 0, 1) := dk_42 (dk_at dksX1_feed_1 3 rfl rfl)
theorem dX1_feed_27 : decode cX1_feed 27 = .ok (.iload_n 2, 1) := dk_28 (dk_at dksX1_feed_1 4 rfl rfl)
theorem dX1_feed_28 : decode cX1_feed 28 = .ok (.invokevirtual 179, 3) := dk_182 0 179 (dk_at dksX1_feed_1 5 rfl rfl)
theorem dX1_feed_31 : decode cX1_feed 31 = .ok (.aload_n 0, 1) := dk_42 (dk_at dksX1_feed_1 8 rfl rfl)
theorem dX1_feed_32 : decode cX1_feed 32 = .ok (.iload_n 3, 1) := dk_29 (dk_at dksX1_feed_1 9 rfl rfl)
theorem dX1_feed_33 : decode cX1_feed 33 = .ok (.invokevirtual 179, 3) := dk_182 0 179 (dk_at dksX1_feed_1 10 rfl rfl)
theorem dX1_feed_36 : decode cX1_feed 36 = .ok (.aload_n 0, 1) := dk_42 (dk_at dksX1_feed_1 13 rfl rfl)
theorem dX1_feed_37 : decode cX1_feed 37 = .ok (.iload 4, 2) := dk_21 4 (dk_at dksX1_feed_1 14 rfl rfl)
theorem dX1_feed_39 : decode cX1_feed 39 = .ok (.invokevirtual 179, 3) := dk_182 0 179 (dk_at dksX1_feed_1 16 rfl rfl)
theorem dX1_feed_42 : decode cX1_feed 42 = .ok (.aload_n 0, 1) := dk_42 (dk_at dksX1_feed_1 19 rfl rfl)
theorem dX1_feed_43 : decode cX1_feed 43 = .ok (.iload 5, 2) := dk_21 5 (dk_at dksX1_feed_1 20 rfl rfl)
theorem dX1_feed_45 : decode cX1_feed 45 = .ok (.invokevirtual 179, 3) := dk_182 0 179 (dk_at dksX1_feed_2 0 rfl rfl)
theorem dX1_feed_48 : decode cX1_feed 48 = .ok (.aload_n 0, 1) := dk_42 (dk_at dksX1_feed_2 3 rfl rfl)
theorem dX1_feed_49 : decode cX1_feed 49 = .ok (.getfield 173, 3) := dk_180 0 173 (dk_at dksX1_feed_2 4 rfl rfl)
theorem dX1_feed_52 : decode cX1_feed 52 = .ok (.ireturn, 1) := dk_172 (dk_at dksX1_feed_2 7 rfl rfl)
abbrev cX1_may : ByteArray := prog_1_method_11_code
def yX1_may : MethodName := ⟨RX1, "may", "(Z)V"⟩
def dkwX1_may_0 : List UInt8 := [26, 154, 0, 11, 187, 0, 72, 89, 183, 0, 140, 191, 177]
abbrev dktX1_may_0 : List UInt8 := dkwX1_may_0 ++ []
theorem dksX1_may_0 : cX1_may.data.toList.drop 0 = dktX1_may_0 := by decide +kernel
theorem dX1_may_0 : decode cX1_may 0 = .ok (.iload_n 0, 1) := dk_26 (dk_at dksX1_may_0 0 rfl rfl)
theorem dX1_may_1 : decode cX1_may 1 = .ok (.ifCond .ne 11, 3) := dk_154 0 11 (dk_at dksX1_may_0 1 rfl rfl)
theorem dX1_may_4 : decode cX1_may 4 = .ok (.new 72, 3) := dk_187 0 72 (dk_at dksX1_may_0 4 rfl rfl)
theorem dX1_may_7 : decode cX1_may 7 = .ok (.dup, 1) := dk_89 (dk_at dksX1_may_0 7 rfl rfl)
theorem dX1_may_8 : decode cX1_may 8 = .ok (.invokespecial 140, 3) := dk_183 0 140 (dk_at dksX1_may_0 8 rfl rfl)
theorem dX1_may_11 : decode cX1_may 11 = .ok (.athrow, 1) := dk_191 (dk_at dksX1_may_0 11 rfl rfl)
theorem dX1_may_12 : decode cX1_may 12 = .ok (.return_, 1) := dk_177 (dk_at dksX1_may_0 12 rfl rfl)
abbrev cX1_push : ByteArray := prog_1_method_16_code
def yX1_push : MethodName := ⟨RX1, "push", "(I)V"⟩
def dkwX1_push_1 : List UInt8 := [180, 0, 173, 4, 96, 181, 0, 173, 132, 2, 248, 167, 255, 226, 177]
abbrev dktX1_push_1 : List UInt8 := dkwX1_push_1 ++ []
def dkwX1_push_0 : List UInt8 := [16, 24, 61, 28, 155, 0, 32, 42, 180, 0, 110, 42, 180, 0, 173, 27, 28, 122, 145, 84, 42, 89]
abbrev dktX1_push_0 : List UInt8 := dkwX1_push_0 ++ dktX1_push_1
theorem dksX1_push_0 : cX1_push.data.toList.drop 0 = dktX1_push_0 := by decide +kernel
theorem dksX1_push_1 : cX1_push.data.toList.drop 22 = dktX1_push_1 := dk_seg dksX1_push_0 22 rfl rfl
theorem dX1_push_0 : decode cX1_push 0 = .ok (.bipush 24, 2) := dk_16 24 (dk_at dksX1_push_0 0 rfl rfl)
theorem dX1_push_2 : decode cX1_push 2 = .ok (.istore_n 2, 1) := dk_61 (dk_at dksX1_push_0 2 rfl rfl)
theorem dX1_push_3 : decode cX1_push 3 = .ok (.iload_n 2, 1) := dk_28 (dk_at dksX1_push_0 3 rfl rfl)
theorem dX1_push_4 : decode cX1_push 4 = .ok (.ifCond .lt 32, 3) := dk_155 0 32 (dk_at dksX1_push_0 4 rfl rfl)
theorem dX1_push_7 : decode cX1_push 7 = .ok (.aload_n 0, 1) := dk_42 (dk_at dksX1_push_0 7 rfl rfl)
theorem dX1_push_8 : decode cX1_push 8 = .ok (.getfield 110, 3) := dk_180 0 110 (dk_at dksX1_push_0 8 rfl rfl)
theorem dX1_push_11 : decode cX1_push 11 = .ok (.aload_n 0, 1) := dk_42 (dk_at dksX1_push_0 11 rfl rfl)
theorem dX1_push_12 : decode cX1_push 12 = .ok (.getfield 173, 3) := dk_180 0 173 (dk_at dksX1_push_0 12 rfl rfl)
theorem dX1_push_15 : decode cX1_push 15 = .ok (.iload_n 1, 1) := dk_27 (dk_at dksX1_push_0 15 rfl rfl)
theorem dX1_push_16 : decode cX1_push 16 = .ok (.iload_n 2, 1) := dk_28 (dk_at dksX1_push_0 16 rfl rfl)
theorem dX1_push_17 : decode cX1_push 17 = .ok (.ishr, 1) := dk_122 (dk_at dksX1_push_0 17 rfl rfl)
theorem dX1_push_18 : decode cX1_push 18 = .ok (.i2b, 1) := dk_145 (dk_at dksX1_push_0 18 rfl rfl)
theorem dX1_push_19 : decode cX1_push 19 = .ok (.bastore, 1) := dk_84 (dk_at dksX1_push_0 19 rfl rfl)
theorem dX1_push_20 : decode cX1_push 20 = .ok (.aload_n 0, 1) := dk_42 (dk_at dksX1_push_0 20 rfl rfl)
theorem dX1_push_21 : decode cX1_push 21 = .ok (.dup, 1) := dk_89 (dk_at dksX1_push_0 21 rfl rfl)
theorem dX1_push_22 : decode cX1_push 22 = .ok (.getfield 173, 3) := dk_180 0 173 (dk_at dksX1_push_1 0 rfl rfl)
theorem dX1_push_25 : decode cX1_push 25 = .ok (.iconst 1, 1) := dk_4 (dk_at dksX1_push_1 3 rfl rfl)
theorem dX1_push_26 : decode cX1_push 26 = .ok (.iadd, 1) := dk_96 (dk_at dksX1_push_1 4 rfl rfl)
theorem dX1_push_27 : decode cX1_push 27 = .ok (.putfield 173, 3) := dk_181 0 173 (dk_at dksX1_push_1 5 rfl rfl)
theorem dX1_push_30 : decode cX1_push 30 = .ok (.iinc 2 (-8), 3) := dk_132 2 248 (dk_at dksX1_push_1 8 rfl rfl)
theorem dX1_push_33 : decode cX1_push 33 = .ok (.goto (-30), 3) := dk_167 255 226 (dk_at dksX1_push_1 11 rfl rfl)
theorem dX1_push_36 : decode cX1_push 36 = .ok (.return_, 1) := dk_177 (dk_at dksX1_push_1 14 rfl rfl)
abbrev cX1_truncate : ByteArray := prog_1_method_18_code
def yX1_truncate : MethodName := ⟨RX1, "truncate", "(I)I"⟩
def dkwX1_truncate_0 : List UInt8 := [27, 133, 9, 42, 180, 0, 173, 133, 184, 0, 143, 184, 0, 183, 42, 27, 181, 0, 173, 27, 172]
abbrev dktX1_truncate_0 : List UInt8 := dkwX1_truncate_0 ++ []
theorem dksX1_truncate_0 : cX1_truncate.data.toList.drop 0 = dktX1_truncate_0 := by decide +kernel
theorem dX1_truncate_0 : decode cX1_truncate 0 = .ok (.iload_n 1, 1) := dk_27 (dk_at dksX1_truncate_0 0 rfl rfl)
theorem dX1_truncate_1 : decode cX1_truncate 1 = .ok (.i2l, 1) := dk_133 (dk_at dksX1_truncate_0 1 rfl rfl)
theorem dX1_truncate_2 : decode cX1_truncate 2 = .ok (.lconst 0, 1) := dk_9 (dk_at dksX1_truncate_0 2 rfl rfl)
theorem dX1_truncate_3 : decode cX1_truncate 3 = .ok (.aload_n 0, 1) := dk_42 (dk_at dksX1_truncate_0 3 rfl rfl)
theorem dX1_truncate_4 : decode cX1_truncate 4 = .ok (.getfield 173, 3) := dk_180 0 173 (dk_at dksX1_truncate_0 4 rfl rfl)
theorem dX1_truncate_7 : decode cX1_truncate 7 = .ok (.i2l, 1) := dk_133 (dk_at dksX1_truncate_0 7 rfl rfl)
theorem dX1_truncate_8 : decode cX1_truncate 8 = .ok (.invokestatic 143, 3) := dk_184 0 143 (dk_at dksX1_truncate_0 8 rfl rfl)
theorem dX1_truncate_11 : decode cX1_truncate 11 = .ok (.invokestatic 183, 3) := dk_184 0 183 (dk_at dksX1_truncate_0 11 rfl rfl)
theorem dX1_truncate_14 : decode cX1_truncate 14 = .ok (.aload_n 0, 1) := dk_42 (dk_at dksX1_truncate_0 14 rfl rfl)
theorem dX1_truncate_15 : decode cX1_truncate 15 = .ok (.iload_n 1, 1) := dk_27 (dk_at dksX1_truncate_0 15 rfl rfl)
theorem dX1_truncate_16 : decode cX1_truncate 16 = .ok (.putfield 173, 3) := dk_181 0 173 (dk_at dksX1_truncate_0 16 rfl rfl)
theorem dX1_truncate_19 : decode cX1_truncate 19 = .ok (.iload_n 1, 1) := dk_27 (dk_at dksX1_truncate_0 19 rfl rfl)
theorem dX1_truncate_20 : decode cX1_truncate 20 = .ok (.ireturn, 1) := dk_172 (dk_at dksX1_truncate_0 20 rfl rfl)
abbrev cX1_argument : ByteArray := prog_1_method_10_code
def yX1_argument : MethodName := ⟨RX1, "argument", "(Z)V"⟩
def dkwX1_argument_0 : List UInt8 := [26, 154, 0, 11, 187, 0, 70, 89, 183, 0, 139, 191, 177]
abbrev dktX1_argument_0 : List UInt8 := dkwX1_argument_0 ++ []
theorem dksX1_argument_0 : cX1_argument.data.toList.drop 0 = dktX1_argument_0 := by decide +kernel
theorem dX1_argument_0 : decode cX1_argument 0 = .ok (.iload_n 0, 1) := dk_26 (dk_at dksX1_argument_0 0 rfl rfl)
theorem dX1_argument_1 : decode cX1_argument 1 = .ok (.ifCond .ne 11, 3) := dk_154 0 11 (dk_at dksX1_argument_0 1 rfl rfl)
theorem dX1_argument_4 : decode cX1_argument 4 = .ok (.new 70, 3) := dk_187 0 70 (dk_at dksX1_argument_0 4 rfl rfl)
theorem dX1_argument_7 : decode cX1_argument 7 = .ok (.dup, 1) := dk_89 (dk_at dksX1_argument_0 7 rfl rfl)
theorem dX1_argument_8 : decode cX1_argument 8 = .ok (.invokespecial 139, 3) := dk_183 0 139 (dk_at dksX1_argument_0 8 rfl rfl)
theorem dX1_argument_11 : decode cX1_argument 11 = .ok (.athrow, 1) := dk_191 (dk_at dksX1_argument_0 11 rfl rfl)
theorem dX1_argument_12 : decode cX1_argument 12 = .ok (.return_, 1) := dk_177 (dk_at dksX1_argument_0 12 rfl rfl)
abbrev cX1_readText : ByteArray := prog_1_method_20_code
def yX1_readText : MethodName := ⟨RX1, "readText", "()I"⟩
def dkwX1_readText_2 : List UInt8 := [172, 76, 42, 43, 182, 0, 210, 187, 0, 70, 89, 183, 0, 139, 191, 77, 42, 3, 181, 0, 173, 44, 191]
abbrev dktX1_readText_2 : List UInt8 := dkwX1_readText_2 ++ []
def dkwX1_readText_1 : List UInt8 := [181, 0, 120, 42, 180, 0, 127, 182, 0, 206, 42, 180, 0, 120, 182, 0, 209, 60, 42, 3, 181, 0, 173, 27]
abbrev dktX1_readText_1 : List UInt8 := dkwX1_readText_1 ++ dktX1_readText_2
def dkwX1_readText_0 : List UInt8 := [42, 3, 181, 0, 191, 42, 2, 181, 0, 114, 42, 187, 0, 197, 89, 42, 183, 0, 199, 182, 0, 202]
abbrev dktX1_readText_0 : List UInt8 := dkwX1_readText_0 ++ dktX1_readText_1
theorem dksX1_readText_0 : cX1_readText.data.toList.drop 0 = dktX1_readText_0 := by decide +kernel
theorem dksX1_readText_1 : cX1_readText.data.toList.drop 22 = dktX1_readText_1 := dk_seg dksX1_readText_0 22 rfl rfl
theorem dksX1_readText_2 : cX1_readText.data.toList.drop 46 = dktX1_readText_2 := dk_seg dksX1_readText_1 24 rfl rfl
theorem dX1_readText_0 : decode cX1_readText 0 = .ok (.aload_n 0, 1) := dk_42 (dk_at dksX1_readText_0 0 rfl rfl)
theorem dX1_readText_1 : decode cX1_readText 1 = .ok (.iconst 0, 1) := dk_3 (dk_at dksX1_readText_0 1 rfl rfl)
theorem dX1_readText_2 : decode cX1_readText 2 = .ok (.putfield 191, 3) := dk_181 0 191 (dk_at dksX1_readText_0 2 rfl rfl)
theorem dX1_readText_5 : decode cX1_readText 5 = .ok (.aload_n 0, 1) := dk_42 (dk_at dksX1_readText_0 5 rfl rfl)
theorem dX1_readText_6 : decode cX1_readText 6 = .ok (.iconst (-1), 1) := dk_2 (dk_at dksX1_readText_0 6 rfl rfl)
theorem dX1_readText_7 : decode cX1_readText 7 = .ok (.putfield 114, 3) := dk_181 0 114 (dk_at dksX1_readText_0 7 rfl rfl)
theorem dX1_readText_10 : decode cX1_readText 10 = .ok (.aload_n 0, 1) := dk_42 (dk_at dksX1_readText_0 10 rfl rfl)
theorem dX1_readText_11 : decode cX1_readText 11 = .ok (.new 197, 3) := dk_187 0 197 (dk_at dksX1_readText_0 11 rfl rfl)
theorem dX1_readText_14 : decode cX1_readText 14 = .ok (.dup, 1) := dk_89 (dk_at dksX1_readText_0 14 rfl rfl)
theorem dX1_readText_15 : decode cX1_readText 15 = .ok (.aload_n 0, 1) := dk_42 (dk_at dksX1_readText_0 15 rfl rfl)
theorem dX1_readText_16 : decode cX1_readText 16 = .ok (.invokespecial 199, 3) := dk_183 0 199 (dk_at dksX1_readText_0 16 rfl rfl)
theorem dX1_readText_19 : decode cX1_readText 19 = .ok (.invokevirtual 202, 3) := dk_182 0 202 (dk_at dksX1_readText_0 19 rfl rfl)
theorem dX1_readText_22 : decode cX1_readText 22 = .ok (.putfield 120, 3) := dk_181 0 120 (dk_at dksX1_readText_1 0 rfl rfl)
theorem dX1_readText_25 : decode cX1_readText 25 = .ok (.aload_n 0, 1) := dk_42 (dk_at dksX1_readText_1 3 rfl rfl)
theorem dX1_readText_26 : decode cX1_readText 26 = .ok (.getfield 127, 3) := dk_180 0 127 (dk_at dksX1_readText_1 4 rfl rfl)
theorem dX1_readText_29 : decode cX1_readText 29 = .ok (.invokevirtual 206, 3) := dk_182 0 206 (dk_at dksX1_readText_1 7 rfl rfl)
theorem dX1_readText_32 : decode cX1_readText 32 = .ok (.aload_n 0, 1) := dk_42 (dk_at dksX1_readText_1 10 rfl rfl)
theorem dX1_readText_33 : decode cX1_readText 33 = .ok (.getfield 120, 3) := dk_180 0 120 (dk_at dksX1_readText_1 11 rfl rfl)
theorem dX1_readText_36 : decode cX1_readText 36 = .ok (.invokevirtual 209, 3) := dk_182 0 209 (dk_at dksX1_readText_1 14 rfl rfl)
theorem dX1_readText_39 : decode cX1_readText 39 = .ok (.istore_n 1, 1) := dk_60 (dk_at dksX1_readText_1 17 rfl rfl)
theorem dX1_readText_40 : decode cX1_readText 40 = .ok (.aload_n 0, 1) := dk_42 (dk_at dksX1_readText_1 18 rfl rfl)
theorem dX1_readText_41 : decode cX1_readText 41 = .ok (.iconst 0, 1) := dk_3 (dk_at dksX1_readText_1 19 rfl rfl)
theorem dX1_readText_42 : decode cX1_readText 42 = .ok (.putfield 173, 3) := dk_181 0 173 (dk_at dksX1_readText_1 20 rfl rfl)
theorem dX1_readText_45 : decode cX1_readText 45 = .ok (.iload_n 1, 1) := dk_27 (dk_at dksX1_readText_1 23 rfl rfl)
theorem dX1_readText_46 : decode cX1_readText 46 = .ok (.ireturn, 1) := dk_172 (dk_at dksX1_readText_2 0 rfl rfl)
theorem dX1_readText_47 : decode cX1_readText 47 = .ok (.astore_n 1, 1) := dk_76 (dk_at dksX1_readText_2 1 rfl rfl)
theorem dX1_readText_48 : decode cX1_readText 48 = .ok (.aload_n 0, 1) := dk_42 (dk_at dksX1_readText_2 2 rfl rfl)
theorem dX1_readText_49 : decode cX1_readText 49 = .ok (.aload_n 1, 1) := dk_43 (dk_at dksX1_readText_2 3 rfl rfl)
theorem dX1_readText_50 : decode cX1_readText 50 = .ok (.invokevirtual 210, 3) := dk_182 0 210 (dk_at dksX1_readText_2 4 rfl rfl)
theorem dX1_readText_53 : decode cX1_readText 53 = .ok (.new 70, 3) := dk_187 0 70 (dk_at dksX1_readText_2 7 rfl rfl)
theorem dX1_readText_56 : decode cX1_readText 56 = .ok (.dup, 1) := dk_89 (dk_at dksX1_readText_2 10 rfl rfl)
theorem dX1_readText_57 : decode cX1_readText 57 = .ok (.invokespecial 139, 3) := dk_183 0 139 (dk_at dksX1_readText_2 11 rfl rfl)
theorem dX1_readText_60 : decode cX1_readText 60 = .ok (.athrow, 1) := dk_191 (dk_at dksX1_readText_2 14 rfl rfl)
theorem dX1_readText_61 : decode cX1_readText 61 = .ok (.astore_n 2, 1) := dk_77 (dk_at dksX1_readText_2 15 rfl rfl)
theorem dX1_readText_62 : decode cX1_readText 62 = .ok (.aload_n 0, 1) := dk_42 (dk_at dksX1_readText_2 16 rfl rfl)
theorem dX1_readText_63 : decode cX1_readText 63 = .ok (.iconst 0, 1) := dk_3 (dk_at dksX1_readText_2 17 rfl rfl)
theorem dX1_readText_64 : decode cX1_readText 64 = .ok (.putfield 173, 3) := dk_181 0 173 (dk_at dksX1_readText_2 18 rfl rfl)
theorem dX1_readText_67 : decode cX1_readText 67 = .ok (.aload_n 2, 1) := dk_44 (dk_at dksX1_readText_2 21 rfl rfl)
theorem dX1_readText_68 : decode cX1_readText 68 = .ok (.athrow, 1) := dk_191 (dk_at dksX1_readText_2 22 rfl rfl)
abbrev cX1_isStatement : ByteArray := prog_1_method_2_code
def yX1_isStatement : MethodName := ⟨RX1, "isStatement", "(Ljava/lang/String;)Z"⟩
def dkwX1_isStatement_6 : List UInt8 := [4, 167, 0, 4, 3, 172]
abbrev dktX1_isStatement_6 : List UInt8 := dkwX1_isStatement_6 ++ []
def dkwX1_isStatement_5 : List UInt8 := [170, 0, 0, 0, 0, 34, 0, 0, 0, 0, 0, 0, 0, 3, 0, 0, 0, 30, 0, 0, 0, 30, 0, 0, 0, 30, 0, 0, 0, 30]
abbrev dktX1_isStatement_5 : List UInt8 := dkwX1_isStatement_5 ++ dktX1_isStatement_6
def dkwX1_isStatement_4 : List UInt8 := [153, 0, 5, 6, 61, 28]
abbrev dktX1_isStatement_4 : List UInt8 := dkwX1_isStatement_4 ++ dktX1_isStatement_5
def dkwX1_isStatement_3 : List UInt8 := [61, 167, 0, 28, 43, 18, 15, 182, 0, 9, 153, 0, 19, 5, 61, 167, 0, 14, 43, 18, 17, 182, 0, 9]
abbrev dktX1_isStatement_3 : List UInt8 := dkwX1_isStatement_3 ++ dktX1_isStatement_4
def dkwX1_isStatement_2 : List UInt8 := [43, 18, 7, 182, 0, 9, 153, 0, 47, 3, 61, 167, 0, 42, 43, 18, 13, 182, 0, 9, 153, 0, 33, 4]
abbrev dktX1_isStatement_2 : List UInt8 := dkwX1_isStatement_2 ++ dktX1_isStatement_3
def dkwX1_isStatement_1 : List UInt8 := [171, 0, 0, 0, 0, 0, 0, 97, 0, 0, 0, 4, 191, 141, 151, 193, 0, 0, 0, 44, 0, 1, 162, 27, 0, 0, 0, 72, 0, 47, 46, 239, 0, 0, 0, 86, 5, 195, 8, 114, 0, 0, 0, 58]
abbrev dktX1_isStatement_1 : List UInt8 := dkwX1_isStatement_1 ++ dktX1_isStatement_2
def dkwX1_isStatement_0 : List UInt8 := [42, 76, 2, 61, 43, 182, 0, 1]
abbrev dktX1_isStatement_0 : List UInt8 := dkwX1_isStatement_0 ++ dktX1_isStatement_1
theorem dksX1_isStatement_0 : cX1_isStatement.data.toList.drop 0 = dktX1_isStatement_0 := by decide +kernel
theorem dksX1_isStatement_1 : cX1_isStatement.data.toList.drop 8 = dktX1_isStatement_1 := dk_seg dksX1_isStatement_0 8 rfl rfl
theorem dksX1_isStatement_2 : cX1_isStatement.data.toList.drop 52 = dktX1_isStatement_2 := dk_seg dksX1_isStatement_1 44 rfl rfl
theorem dksX1_isStatement_3 : cX1_isStatement.data.toList.drop 76 = dktX1_isStatement_3 := dk_seg dksX1_isStatement_2 24 rfl rfl
theorem dksX1_isStatement_4 : cX1_isStatement.data.toList.drop 100 = dktX1_isStatement_4 := dk_seg dksX1_isStatement_3 24 rfl rfl
theorem dksX1_isStatement_5 : cX1_isStatement.data.toList.drop 106 = dktX1_isStatement_5 := dk_seg dksX1_isStatement_4 6 rfl rfl
theorem dksX1_isStatement_6 : cX1_isStatement.data.toList.drop 136 = dktX1_isStatement_6 := dk_seg dksX1_isStatement_5 30 rfl rfl
theorem dX1_isStatement_0 : decode cX1_isStatement 0 = .ok (.aload_n 0, 1) := dk_42 (dk_at dksX1_isStatement_0 0 rfl rfl)
theorem dX1_isStatement_1 : decode cX1_isStatement 1 = .ok (.astore_n 1, 1) := dk_76 (dk_at dksX1_isStatement_0 1 rfl rfl)
theorem dX1_isStatement_2 : decode cX1_isStatement 2 = .ok (.iconst (-1), 1) := dk_2 (dk_at dksX1_isStatement_0 2 rfl rfl)
theorem dX1_isStatement_3 : decode cX1_isStatement 3 = .ok (.istore_n 2, 1) := dk_61 (dk_at dksX1_isStatement_0 3 rfl rfl)
theorem dX1_isStatement_4 : decode cX1_isStatement 4 = .ok (.aload_n 1, 1) := dk_43 (dk_at dksX1_isStatement_0 4 rfl rfl)
theorem dX1_isStatement_5 : decode cX1_isStatement 5 = .ok (.invokevirtual 1, 3) := dk_182 0 1 (dk_at dksX1_isStatement_0 5 rfl rfl)
theorem dX1_isStatement_8 : decode cX1_isStatement 8 = .ok (.lookupswitch 97 #[(-1081239615, 44), (107035, 72), (3092207, 86), (96667762, 58)], 44) := by decide +kernel
theorem dX1_isStatement_52 : decode cX1_isStatement 52 = .ok (.aload_n 1, 1) := dk_43 (dk_at dksX1_isStatement_2 0 rfl rfl)
theorem dX1_isStatement_53 : decode cX1_isStatement 53 = .ok (.ldc 7, 2) := dk_18 7 (dk_at dksX1_isStatement_2 1 rfl rfl)
theorem dX1_isStatement_55 : decode cX1_isStatement 55 = .ok (.invokevirtual 9, 3) := dk_182 0 9 (dk_at dksX1_isStatement_2 3 rfl rfl)
theorem dX1_isStatement_58 : decode cX1_isStatement 58 = .ok (.ifCond .eq 47, 3) := dk_153 0 47 (dk_at dksX1_isStatement_2 6 rfl rfl)
theorem dX1_isStatement_61 : decode cX1_isStatement 61 = .ok (.iconst 0, 1) := dk_3 (dk_at dksX1_isStatement_2 9 rfl rfl)
theorem dX1_isStatement_62 : decode cX1_isStatement 62 = .ok (.istore_n 2, 1) := dk_61 (dk_at dksX1_isStatement_2 10 rfl rfl)
theorem dX1_isStatement_63 : decode cX1_isStatement 63 = .ok (.goto 42, 3) := dk_167 0 42 (dk_at dksX1_isStatement_2 11 rfl rfl)
theorem dX1_isStatement_66 : decode cX1_isStatement 66 = .ok (.aload_n 1, 1) := dk_43 (dk_at dksX1_isStatement_2 14 rfl rfl)
theorem dX1_isStatement_67 : decode cX1_isStatement 67 = .ok (.ldc 13, 2) := dk_18 13 (dk_at dksX1_isStatement_2 15 rfl rfl)
theorem dX1_isStatement_69 : decode cX1_isStatement 69 = .ok (.invokevirtual 9, 3) := dk_182 0 9 (dk_at dksX1_isStatement_2 17 rfl rfl)
theorem dX1_isStatement_72 : decode cX1_isStatement 72 = .ok (.ifCond .eq 33, 3) := dk_153 0 33 (dk_at dksX1_isStatement_2 20 rfl rfl)
theorem dX1_isStatement_75 : decode cX1_isStatement 75 = .ok (.iconst 1, 1) := dk_4 (dk_at dksX1_isStatement_2 23 rfl rfl)
theorem dX1_isStatement_76 : decode cX1_isStatement 76 = .ok (.istore_n 2, 1) := dk_61 (dk_at dksX1_isStatement_3 0 rfl rfl)
theorem dX1_isStatement_77 : decode cX1_isStatement 77 = .ok (.goto 28, 3) := dk_167 0 28 (dk_at dksX1_isStatement_3 1 rfl rfl)
theorem dX1_isStatement_80 : decode cX1_isStatement 80 = .ok (.aload_n 1, 1) := dk_43 (dk_at dksX1_isStatement_3 4 rfl rfl)
theorem dX1_isStatement_81 : decode cX1_isStatement 81 = .ok (.ldc 15, 2) := dk_18 15 (dk_at dksX1_isStatement_3 5 rfl rfl)
theorem dX1_isStatement_83 : decode cX1_isStatement 83 = .ok (.invokevirtual 9, 3) := dk_182 0 9 (dk_at dksX1_isStatement_3 7 rfl rfl)
theorem dX1_isStatement_86 : decode cX1_isStatement 86 = .ok (.ifCond .eq 19, 3) := dk_153 0 19 (dk_at dksX1_isStatement_3 10 rfl rfl)
theorem dX1_isStatement_89 : decode cX1_isStatement 89 = .ok (.iconst 2, 1) := dk_5 (dk_at dksX1_isStatement_3 13 rfl rfl)
theorem dX1_isStatement_90 : decode cX1_isStatement 90 = .ok (.istore_n 2, 1) := dk_61 (dk_at dksX1_isStatement_3 14 rfl rfl)
theorem dX1_isStatement_91 : decode cX1_isStatement 91 = .ok (.goto 14, 3) := dk_167 0 14 (dk_at dksX1_isStatement_3 15 rfl rfl)
theorem dX1_isStatement_94 : decode cX1_isStatement 94 = .ok (.aload_n 1, 1) := dk_43 (dk_at dksX1_isStatement_3 18 rfl rfl)
theorem dX1_isStatement_95 : decode cX1_isStatement 95 = .ok (.ldc 17, 2) := dk_18 17 (dk_at dksX1_isStatement_3 19 rfl rfl)
theorem dX1_isStatement_97 : decode cX1_isStatement 97 = .ok (.invokevirtual 9, 3) := dk_182 0 9 (dk_at dksX1_isStatement_3 21 rfl rfl)
theorem dX1_isStatement_100 : decode cX1_isStatement 100 = .ok (.ifCond .eq 5, 3) := dk_153 0 5 (dk_at dksX1_isStatement_4 0 rfl rfl)
theorem dX1_isStatement_103 : decode cX1_isStatement 103 = .ok (.iconst 3, 1) := dk_6 (dk_at dksX1_isStatement_4 3 rfl rfl)
theorem dX1_isStatement_104 : decode cX1_isStatement 104 = .ok (.istore_n 2, 1) := dk_61 (dk_at dksX1_isStatement_4 4 rfl rfl)
theorem dX1_isStatement_105 : decode cX1_isStatement 105 = .ok (.iload_n 2, 1) := dk_28 (dk_at dksX1_isStatement_4 5 rfl rfl)
theorem dX1_isStatement_106 : decode cX1_isStatement 106 = .ok (.tableswitch 34 0 3 #[30, 30, 30, 30], 30) := by decide +kernel
theorem dX1_isStatement_136 : decode cX1_isStatement 136 = .ok (.iconst 1, 1) := dk_4 (dk_at dksX1_isStatement_6 0 rfl rfl)
theorem dX1_isStatement_137 : decode cX1_isStatement 137 = .ok (.goto 4, 3) := dk_167 0 4 (dk_at dksX1_isStatement_6 1 rfl rfl)
theorem dX1_isStatement_140 : decode cX1_isStatement 140 = .ok (.iconst 0, 1) := dk_3 (dk_at dksX1_isStatement_6 4 rfl rfl)
theorem dX1_isStatement_141 : decode cX1_isStatement 141 = .ok (.ireturn, 1) := dk_172 (dk_at dksX1_isStatement_6 5 rfl rfl)
abbrev cX1_note : ByteArray := prog_1_method_19_code
def yX1_note : MethodName := ⟨RX1, "note", "(LCsrCalculator$Wrong;)V"⟩
def dkwX1_note_0 : List UInt8 := [42, 43, 180, 0, 186, 181, 0, 191, 42, 43, 180, 0, 194, 181, 0, 114, 177]
abbrev dktX1_note_0 : List UInt8 := dkwX1_note_0 ++ []
theorem dksX1_note_0 : cX1_note.data.toList.drop 0 = dktX1_note_0 := by decide +kernel
theorem dX1_note_0 : decode cX1_note 0 = .ok (.aload_n 0, 1) := dk_42 (dk_at dksX1_note_0 0 rfl rfl)
theorem dX1_note_1 : decode cX1_note 1 = .ok (.aload_n 1, 1) := dk_43 (dk_at dksX1_note_0 1 rfl rfl)
theorem dX1_note_2 : decode cX1_note 2 = .ok (.getfield 186, 3) := dk_180 0 186 (dk_at dksX1_note_0 2 rfl rfl)
theorem dX1_note_5 : decode cX1_note 5 = .ok (.putfield 191, 3) := dk_181 0 191 (dk_at dksX1_note_0 5 rfl rfl)
theorem dX1_note_8 : decode cX1_note 8 = .ok (.aload_n 0, 1) := dk_42 (dk_at dksX1_note_0 8 rfl rfl)
theorem dX1_note_9 : decode cX1_note 9 = .ok (.aload_n 1, 1) := dk_43 (dk_at dksX1_note_0 9 rfl rfl)
theorem dX1_note_10 : decode cX1_note 10 = .ok (.getfield 194, 3) := dk_180 0 194 (dk_at dksX1_note_0 10 rfl rfl)
theorem dX1_note_13 : decode cX1_note 13 = .ok (.putfield 114, 3) := dk_181 0 114 (dk_at dksX1_note_0 13 rfl rfl)
theorem dX1_note_16 : decode cX1_note 16 = .ok (.return_, 1) := dk_177 (dk_at dksX1_note_0 16 rfl rfl)
abbrev cX1_runScript : ByteArray := prog_1_method_21_code
def yX1_runScript : MethodName := ⟨RX1, "runScript", "()I"⟩
def dkwX1_runScript_3 : List UInt8 := [42, 44, 42, 180, 0, 74, 182, 0, 221, 172]
abbrev dktX1_runScript_3 : List UInt8 := dkwX1_runScript_3 ++ []
def dkwX1_runScript_2 : List UInt8 := [181, 0, 173, 45, 191, 42, 180, 0, 120, 182, 0, 218, 77, 42, 3, 181, 0, 74, 42, 43, 182, 0, 58, 62]
abbrev dktX1_runScript_2 : List UInt8 := dkwX1_runScript_2 ++ dktX1_runScript_3
def dkwX1_runScript_1 : List UInt8 := [181, 0, 173, 167, 0, 25, 77, 42, 44, 182, 0, 210, 187, 0, 70, 89, 183, 0, 139, 191, 78, 42, 3]
abbrev dktX1_runScript_1 : List UInt8 := dkwX1_runScript_1 ++ dktX1_runScript_2
def dkwX1_runScript_0 : List UInt8 := [42, 3, 181, 0, 191, 42, 2, 181, 0, 114, 187, 0, 197, 89, 42, 183, 0, 199, 182, 0, 214, 76, 42, 3]
abbrev dktX1_runScript_0 : List UInt8 := dkwX1_runScript_0 ++ dktX1_runScript_1
theorem dksX1_runScript_0 : cX1_runScript.data.toList.drop 0 = dktX1_runScript_0 := by decide +kernel
theorem dksX1_runScript_1 : cX1_runScript.data.toList.drop 24 = dktX1_runScript_1 := dk_seg dksX1_runScript_0 24 rfl rfl
theorem dksX1_runScript_2 : cX1_runScript.data.toList.drop 47 = dktX1_runScript_2 := dk_seg dksX1_runScript_1 23 rfl rfl
theorem dksX1_runScript_3 : cX1_runScript.data.toList.drop 71 = dktX1_runScript_3 := dk_seg dksX1_runScript_2 24 rfl rfl
theorem dX1_runScript_0 : decode cX1_runScript 0 = .ok (.aload_n 0, 1) := dk_42 (dk_at dksX1_runScript_0 0 rfl rfl)
theorem dX1_runScript_1 : decode cX1_runScript 1 = .ok (.iconst 0, 1) := dk_3 (dk_at dksX1_runScript_0 1 rfl rfl)
theorem dX1_runScript_2 : decode cX1_runScript 2 = .ok (.putfield 191, 3) := dk_181 0 191 (dk_at dksX1_runScript_0 2 rfl rfl)
theorem dX1_runScript_5 : decode cX1_runScript 5 = .ok (.aload_n 0, 1) := dk_42 (dk_at dksX1_runScript_0 5 rfl rfl)
theorem dX1_runScript_6 : decode cX1_runScript 6 = .ok (.iconst (-1), 1) := dk_2 (dk_at dksX1_runScript_0 6 rfl rfl)
theorem dX1_runScript_7 : decode cX1_runScript 7 = .ok (.putfield 114, 3) := dk_181 0 114 (dk_at dksX1_runScript_0 7 rfl rfl)
theorem dX1_runScript_10 : decode cX1_runScript 10 = .ok (.new 197, 3) := dk_187 0 197 (dk_at dksX1_runScript_0 10 rfl rfl)
theorem dX1_runScript_13 : decode cX1_runScript 13 = .ok (.dup, 1) := dk_89 (dk_at dksX1_runScript_0 13 rfl rfl)
theorem dX1_runScript_14 : decode cX1_runScript 14 = .ok (.aload_n 0, 1) := dk_42 (dk_at dksX1_runScript_0 14 rfl rfl)
theorem dX1_runScript_15 : decode cX1_runScript 15 = .ok (.invokespecial 199, 3) := dk_183 0 199 (dk_at dksX1_runScript_0 15 rfl rfl)
theorem dX1_runScript_18 : decode cX1_runScript 18 = .ok (.invokevirtual 214, 3) := dk_182 0 214 (dk_at dksX1_runScript_0 18 rfl rfl)
theorem dX1_runScript_21 : decode cX1_runScript 21 = .ok (.astore_n 1, 1) := dk_76 (dk_at dksX1_runScript_0 21 rfl rfl)
theorem dX1_runScript_22 : decode cX1_runScript 22 = .ok (.aload_n 0, 1) := dk_42 (dk_at dksX1_runScript_0 22 rfl rfl)
theorem dX1_runScript_23 : decode cX1_runScript 23 = .ok (.iconst 0, 1) := dk_3 (dk_at dksX1_runScript_0 23 rfl rfl)
theorem dX1_runScript_24 : decode cX1_runScript 24 = .ok (.putfield 173, 3) := dk_181 0 173 (dk_at dksX1_runScript_1 0 rfl rfl)
theorem dX1_runScript_27 : decode cX1_runScript 27 = .ok (.goto 25, 3) := dk_167 0 25 (dk_at dksX1_runScript_1 3 rfl rfl)
theorem dX1_runScript_30 : decode cX1_runScript 30 = .ok (.astore_n 2, 1) := dk_77 (dk_at dksX1_runScript_1 6 rfl rfl)
theorem dX1_runScript_31 : decode cX1_runScript 31 = .ok (.aload_n 0, 1) := dk_42 (dk_at dksX1_runScript_1 7 rfl rfl)
theorem dX1_runScript_32 : decode cX1_runScript 32 = .ok (.aload_n 2, 1) := dk_44 (dk_at dksX1_runScript_1 8 rfl rfl)
theorem dX1_runScript_33 : decode cX1_runScript 33 = .ok (.invokevirtual 210, 3) := dk_182 0 210 (dk_at dksX1_runScript_1 9 rfl rfl)
theorem dX1_runScript_36 : decode cX1_runScript 36 = .ok (.new 70, 3) := dk_187 0 70 (dk_at dksX1_runScript_1 12 rfl rfl)
theorem dX1_runScript_39 : decode cX1_runScript 39 = .ok (.dup, 1) := dk_89 (dk_at dksX1_runScript_1 15 rfl rfl)
theorem dX1_runScript_40 : decode cX1_runScript 40 = .ok (.invokespecial 139, 3) := dk_183 0 139 (dk_at dksX1_runScript_1 16 rfl rfl)
theorem dX1_runScript_43 : decode cX1_runScript 43 = .ok (.athrow, 1) := dk_191 (dk_at dksX1_runScript_1 19 rfl rfl)
theorem dX1_runScript_44 : decode cX1_runScript 44 = .ok (.astore_n 3, 1) := dk_78 (dk_at dksX1_runScript_1 20 rfl rfl)
theorem dX1_runScript_45 : decode cX1_runScript 45 = .ok (.aload_n 0, 1) := dk_42 (dk_at dksX1_runScript_1 21 rfl rfl)
theorem dX1_runScript_46 : decode cX1_runScript 46 = .ok (.iconst 0, 1) := dk_3 (dk_at dksX1_runScript_1 22 rfl rfl)
theorem dX1_runScript_47 : decode cX1_runScript 47 = .ok (.putfield 173, 3) := dk_181 0 173 (dk_at dksX1_runScript_2 0 rfl rfl)
theorem dX1_runScript_50 : decode cX1_runScript 50 = .ok (.aload_n 3, 1) := dk_45 (dk_at dksX1_runScript_2 3 rfl rfl)
theorem dX1_runScript_51 : decode cX1_runScript 51 = .ok (.athrow, 1) := dk_191 (dk_at dksX1_runScript_2 4 rfl rfl)
theorem dX1_runScript_52 : decode cX1_runScript 52 = .ok (.aload_n 0, 1) := dk_42 (dk_at dksX1_runScript_2 5 rfl rfl)
theorem dX1_runScript_53 : decode cX1_runScript 53 = .ok (.getfield 120, 3) := dk_180 0 120 (dk_at dksX1_runScript_2 6 rfl rfl)
theorem dX1_runScript_56 : decode cX1_runScript 56 = .ok (.invokevirtual 218, 3) := dk_182 0 218 (dk_at dksX1_runScript_2 9 rfl rfl)
theorem dX1_runScript_59 : decode cX1_runScript 59 = .ok (.astore_n 2, 1) := dk_77 (dk_at dksX1_runScript_2 12 rfl rfl)
theorem dX1_runScript_60 : decode cX1_runScript 60 = .ok (.aload_n 0, 1) := dk_42 (dk_at dksX1_runScript_2 13 rfl rfl)
theorem dX1_runScript_61 : decode cX1_runScript 61 = .ok (.iconst 0, 1) := dk_3 (dk_at dksX1_runScript_2 14 rfl rfl)
theorem dX1_runScript_62 : decode cX1_runScript 62 = .ok (.putfield 74, 3) := dk_181 0 74 (dk_at dksX1_runScript_2 15 rfl rfl)
theorem dX1_runScript_65 : decode cX1_runScript 65 = .ok (.aload_n 0, 1) := dk_42 (dk_at dksX1_runScript_2 18 rfl rfl)
theorem dX1_runScript_66 : decode cX1_runScript 66 = .ok (.aload_n 1, 1) := dk_43 (dk_at dksX1_runScript_2 19 rfl rfl)
theorem dX1_runScript_67 : decode cX1_runScript 67 = .ok (.invokevirtual 58, 3) := dk_182 0 58 (dk_at dksX1_runScript_2 20 rfl rfl)
theorem dX1_runScript_70 : decode cX1_runScript 70 = .ok (.istore_n 3, 1) := dk_62 (dk_at dksX1_runScript_2 23 rfl rfl)
theorem dX1_runScript_71 : decode cX1_runScript 71 = .ok (.aload_n 0, 1) := dk_42 (dk_at dksX1_runScript_3 0 rfl rfl)
theorem dX1_runScript_72 : decode cX1_runScript 72 = .ok (.aload_n 2, 1) := dk_44 (dk_at dksX1_runScript_3 1 rfl rfl)
theorem dX1_runScript_73 : decode cX1_runScript 73 = .ok (.aload_n 0, 1) := dk_42 (dk_at dksX1_runScript_3 2 rfl rfl)
theorem dX1_runScript_74 : decode cX1_runScript 74 = .ok (.getfield 74, 3) := dk_180 0 74 (dk_at dksX1_runScript_3 3 rfl rfl)
theorem dX1_runScript_77 : decode cX1_runScript 77 = .ok (.invokevirtual 221, 3) := dk_182 0 221 (dk_at dksX1_runScript_3 6 rfl rfl)
theorem dX1_runScript_80 : decode cX1_runScript 80 = .ok (.ireturn, 1) := dk_172 (dk_at dksX1_runScript_3 9 rfl rfl)
abbrev cX1_isCommand : ByteArray := prog_1_method_3_code
def yX1_isCommand : MethodName := ⟨RX1, "isCommand", "(Ljava/lang/String;)Z"⟩
def dkwX1_isCommand_5 : List UInt8 := [4, 167, 0, 7, 42, 184, 0, 25, 172]
abbrev dktX1_isCommand_5 : List UInt8 := dkwX1_isCommand_5 ++ []
def dkwX1_isCommand_4 : List UInt8 := [170, 0, 0, 0, 0, 0, 0, 32, 0, 0, 0, 0, 0, 0, 0, 2, 0, 0, 0, 28, 0, 0, 0, 28, 0, 0, 0, 28]
abbrev dktX1_isCommand_4 : List UInt8 := dkwX1_isCommand_4 ++ dktX1_isCommand_5
def dkwX1_isCommand_3 : List UInt8 := [61, 167, 0, 14, 43, 18, 23, 182, 0, 9, 153, 0, 5, 5, 61, 28]
abbrev dktX1_isCommand_3 : List UInt8 := dkwX1_isCommand_3 ++ dktX1_isCommand_4
def dkwX1_isCommand_2 : List UInt8 := [43, 18, 19, 182, 0, 9, 153, 0, 33, 3, 61, 167, 0, 28, 43, 18, 21, 182, 0, 9, 153, 0, 19, 4]
abbrev dktX1_isCommand_2 : List UInt8 := dkwX1_isCommand_2 ++ dktX1_isCommand_3
def dkwX1_isCommand_1 : List UInt8 := [171, 0, 0, 0, 0, 0, 0, 75, 0, 0, 0, 3, 200, 76, 45, 155, 0, 0, 0, 64, 0, 54, 17, 147, 0, 0, 0, 50, 5, 196, 146, 166, 0, 0, 0, 36]
abbrev dktX1_isCommand_1 : List UInt8 := dkwX1_isCommand_1 ++ dktX1_isCommand_2
def dkwX1_isCommand_0 : List UInt8 := [42, 76, 2, 61, 43, 182, 0, 1]
abbrev dktX1_isCommand_0 : List UInt8 := dkwX1_isCommand_0 ++ dktX1_isCommand_1
theorem dksX1_isCommand_0 : cX1_isCommand.data.toList.drop 0 = dktX1_isCommand_0 := by decide +kernel
theorem dksX1_isCommand_1 : cX1_isCommand.data.toList.drop 8 = dktX1_isCommand_1 := dk_seg dksX1_isCommand_0 8 rfl rfl
theorem dksX1_isCommand_2 : cX1_isCommand.data.toList.drop 44 = dktX1_isCommand_2 := dk_seg dksX1_isCommand_1 36 rfl rfl
theorem dksX1_isCommand_3 : cX1_isCommand.data.toList.drop 68 = dktX1_isCommand_3 := dk_seg dksX1_isCommand_2 24 rfl rfl
theorem dksX1_isCommand_4 : cX1_isCommand.data.toList.drop 84 = dktX1_isCommand_4 := dk_seg dksX1_isCommand_3 16 rfl rfl
theorem dksX1_isCommand_5 : cX1_isCommand.data.toList.drop 112 = dktX1_isCommand_5 := dk_seg dksX1_isCommand_4 28 rfl rfl
theorem dX1_isCommand_0 : decode cX1_isCommand 0 = .ok (.aload_n 0, 1) := dk_42 (dk_at dksX1_isCommand_0 0 rfl rfl)
theorem dX1_isCommand_1 : decode cX1_isCommand 1 = .ok (.astore_n 1, 1) := dk_76 (dk_at dksX1_isCommand_0 1 rfl rfl)
theorem dX1_isCommand_2 : decode cX1_isCommand 2 = .ok (.iconst (-1), 1) := dk_2 (dk_at dksX1_isCommand_0 2 rfl rfl)
theorem dX1_isCommand_3 : decode cX1_isCommand 3 = .ok (.istore_n 2, 1) := dk_61 (dk_at dksX1_isCommand_0 3 rfl rfl)
theorem dX1_isCommand_4 : decode cX1_isCommand 4 = .ok (.aload_n 1, 1) := dk_43 (dk_at dksX1_isCommand_0 4 rfl rfl)
theorem dX1_isCommand_5 : decode cX1_isCommand 5 = .ok (.invokevirtual 1, 3) := dk_182 0 1 (dk_at dksX1_isCommand_0 5 rfl rfl)
theorem dX1_isCommand_8 : decode cX1_isCommand 8 = .ok (.lookupswitch 75 #[(-934531685, 64), (3543443, 50), (96768678, 36)], 36) := by decide +kernel
theorem dX1_isCommand_44 : decode cX1_isCommand 44 = .ok (.aload_n 1, 1) := dk_43 (dk_at dksX1_isCommand_2 0 rfl rfl)
theorem dX1_isCommand_45 : decode cX1_isCommand 45 = .ok (.ldc 19, 2) := dk_18 19 (dk_at dksX1_isCommand_2 1 rfl rfl)
theorem dX1_isCommand_47 : decode cX1_isCommand 47 = .ok (.invokevirtual 9, 3) := dk_182 0 9 (dk_at dksX1_isCommand_2 3 rfl rfl)
theorem dX1_isCommand_50 : decode cX1_isCommand 50 = .ok (.ifCond .eq 33, 3) := dk_153 0 33 (dk_at dksX1_isCommand_2 6 rfl rfl)
theorem dX1_isCommand_53 : decode cX1_isCommand 53 = .ok (.iconst 0, 1) := dk_3 (dk_at dksX1_isCommand_2 9 rfl rfl)
theorem dX1_isCommand_54 : decode cX1_isCommand 54 = .ok (.istore_n 2, 1) := dk_61 (dk_at dksX1_isCommand_2 10 rfl rfl)
theorem dX1_isCommand_55 : decode cX1_isCommand 55 = .ok (.goto 28, 3) := dk_167 0 28 (dk_at dksX1_isCommand_2 11 rfl rfl)
theorem dX1_isCommand_58 : decode cX1_isCommand 58 = .ok (.aload_n 1, 1) := dk_43 (dk_at dksX1_isCommand_2 14 rfl rfl)
theorem dX1_isCommand_59 : decode cX1_isCommand 59 = .ok (.ldc 21, 2) := dk_18 21 (dk_at dksX1_isCommand_2 15 rfl rfl)
theorem dX1_isCommand_61 : decode cX1_isCommand 61 = .ok (.invokevirtual 9, 3) := dk_182 0 9 (dk_at dksX1_isCommand_2 17 rfl rfl)
theorem dX1_isCommand_64 : decode cX1_isCommand 64 = .ok (.ifCond .eq 19, 3) := dk_153 0 19 (dk_at dksX1_isCommand_2 20 rfl rfl)
theorem dX1_isCommand_67 : decode cX1_isCommand 67 = .ok (.iconst 1, 1) := dk_4 (dk_at dksX1_isCommand_2 23 rfl rfl)
theorem dX1_isCommand_68 : decode cX1_isCommand 68 = .ok (.istore_n 2, 1) := dk_61 (dk_at dksX1_isCommand_3 0 rfl rfl)
theorem dX1_isCommand_69 : decode cX1_isCommand 69 = .ok (.goto 14, 3) := dk_167 0 14 (dk_at dksX1_isCommand_3 1 rfl rfl)
theorem dX1_isCommand_72 : decode cX1_isCommand 72 = .ok (.aload_n 1, 1) := dk_43 (dk_at dksX1_isCommand_3 4 rfl rfl)
theorem dX1_isCommand_73 : decode cX1_isCommand 73 = .ok (.ldc 23, 2) := dk_18 23 (dk_at dksX1_isCommand_3 5 rfl rfl)
theorem dX1_isCommand_75 : decode cX1_isCommand 75 = .ok (.invokevirtual 9, 3) := dk_182 0 9 (dk_at dksX1_isCommand_3 7 rfl rfl)
theorem dX1_isCommand_78 : decode cX1_isCommand 78 = .ok (.ifCond .eq 5, 3) := dk_153 0 5 (dk_at dksX1_isCommand_3 10 rfl rfl)
theorem dX1_isCommand_81 : decode cX1_isCommand 81 = .ok (.iconst 2, 1) := dk_5 (dk_at dksX1_isCommand_3 13 rfl rfl)
theorem dX1_isCommand_82 : decode cX1_isCommand 82 = .ok (.istore_n 2, 1) := dk_61 (dk_at dksX1_isCommand_3 14 rfl rfl)
theorem dX1_isCommand_83 : decode cX1_isCommand 83 = .ok (.iload_n 2, 1) := dk_28 (dk_at dksX1_isCommand_3 15 rfl rfl)
theorem dX1_isCommand_84 : decode cX1_isCommand 84 = .ok (.tableswitch 32 0 2 #[28, 28, 28], 28) := by decide +kernel
theorem dX1_isCommand_112 : decode cX1_isCommand 112 = .ok (.iconst 1, 1) := dk_4 (dk_at dksX1_isCommand_5 0 rfl rfl)
theorem dX1_isCommand_113 : decode cX1_isCommand 113 = .ok (.goto 7, 3) := dk_167 0 7 (dk_at dksX1_isCommand_5 1 rfl rfl)
theorem dX1_isCommand_116 : decode cX1_isCommand 116 = .ok (.aload_n 0, 1) := dk_42 (dk_at dksX1_isCommand_5 4 rfl rfl)
theorem dX1_isCommand_117 : decode cX1_isCommand 117 = .ok (.invokestatic 25, 3) := dk_184 0 25 (dk_at dksX1_isCommand_5 5 rfl rfl)
theorem dX1_isCommand_120 : decode cX1_isCommand 120 = .ok (.ireturn, 1) := dk_172 (dk_at dksX1_isCommand_5 8 rfl rfl)
abbrev cX1_runAll : ByteArray := prog_1_method_5_code
def yX1_runAll : MethodName := ⟨RX1, "runAll", "(LCsrCalculator$Command;)Z"⟩
def dkwX1_runAll_3 : List UInt8 := [167, 0, 9, 42, 25, 5, 182, 0, 61, 61, 132, 4, 1, 167, 255, 195, 132, 3, 1, 167, 255, 172, 28, 172]
abbrev dktX1_runAll_3 : List UInt8 := dkwX1_runAll_3 ++ []
def dkwX1_runAll_2 : List UInt8 := [185, 0, 50, 2, 0, 192, 0, 32, 58, 5, 25, 5, 184, 0, 54, 153, 0, 12, 42, 25, 5, 182, 0, 58]
abbrev dktX1_runAll_2 : List UInt8 := dkwX1_runAll_2 ++ dktX1_runAll_3
def dkwX1_runAll_1 : List UInt8 := [180, 0, 41, 185, 0, 45, 1, 0, 162, 0, 53, 28, 153, 0, 49, 43, 180, 0, 41, 21, 4]
abbrev dktX1_runAll_1 : List UInt8 := dkwX1_runAll_1 ++ dktX1_runAll_2
def dkwX1_runAll_0 : List UInt8 := [4, 61, 3, 62, 29, 43, 180, 0, 37, 3, 46, 162, 0, 80, 28, 153, 0, 76, 3, 54, 4, 21, 4, 43]
abbrev dktX1_runAll_0 : List UInt8 := dkwX1_runAll_0 ++ dktX1_runAll_1
theorem dksX1_runAll_0 : cX1_runAll.data.toList.drop 0 = dktX1_runAll_0 := by decide +kernel
theorem dksX1_runAll_1 : cX1_runAll.data.toList.drop 24 = dktX1_runAll_1 := dk_seg dksX1_runAll_0 24 rfl rfl
theorem dksX1_runAll_2 : cX1_runAll.data.toList.drop 45 = dktX1_runAll_2 := dk_seg dksX1_runAll_1 21 rfl rfl
theorem dksX1_runAll_3 : cX1_runAll.data.toList.drop 69 = dktX1_runAll_3 := dk_seg dksX1_runAll_2 24 rfl rfl
theorem dX1_runAll_0 : decode cX1_runAll 0 = .ok (.iconst 1, 1) := dk_4 (dk_at dksX1_runAll_0 0 rfl rfl)
theorem dX1_runAll_1 : decode cX1_runAll 1 = .ok (.istore_n 2, 1) := dk_61 (dk_at dksX1_runAll_0 1 rfl rfl)
theorem dX1_runAll_2 : decode cX1_runAll 2 = .ok (.iconst 0, 1) := dk_3 (dk_at dksX1_runAll_0 2 rfl rfl)
theorem dX1_runAll_3 : decode cX1_runAll 3 = .ok (.istore_n 3, 1) := dk_62 (dk_at dksX1_runAll_0 3 rfl rfl)
theorem dX1_runAll_4 : decode cX1_runAll 4 = .ok (.iload_n 3, 1) := dk_29 (dk_at dksX1_runAll_0 4 rfl rfl)
theorem dX1_runAll_5 : decode cX1_runAll 5 = .ok (.aload_n 1, 1) := dk_43 (dk_at dksX1_runAll_0 5 rfl rfl)
theorem dX1_runAll_6 : decode cX1_runAll 6 = .ok (.getfield 37, 3) := dk_180 0 37 (dk_at dksX1_runAll_0 6 rfl rfl)
theorem dX1_runAll_9 : decode cX1_runAll 9 = .ok (.iconst 0, 1) := dk_3 (dk_at dksX1_runAll_0 9 rfl rfl)
theorem dX1_runAll_10 : decode cX1_runAll 10 = .ok (.iaload, 1) := dk_46 (dk_at dksX1_runAll_0 10 rfl rfl)
theorem dX1_runAll_11 : decode cX1_runAll 11 = .ok (.if_icmp .ge 80, 3) := dk_162 0 80 (dk_at dksX1_runAll_0 11 rfl rfl)
theorem dX1_runAll_14 : decode cX1_runAll 14 = .ok (.iload_n 2, 1) := dk_28 (dk_at dksX1_runAll_0 14 rfl rfl)
theorem dX1_runAll_15 : decode cX1_runAll 15 = .ok (.ifCond .eq 76, 3) := dk_153 0 76 (dk_at dksX1_runAll_0 15 rfl rfl)
theorem dX1_runAll_18 : decode cX1_runAll 18 = .ok (.iconst 0, 1) := dk_3 (dk_at dksX1_runAll_0 18 rfl rfl)
theorem dX1_runAll_19 : decode cX1_runAll 19 = .ok (.istore 4, 2) := dk_54 4 (dk_at dksX1_runAll_0 19 rfl rfl)
theorem dX1_runAll_21 : decode cX1_runAll 21 = .ok (.iload 4, 2) := dk_21 4 (dk_at dksX1_runAll_0 21 rfl rfl)
theorem dX1_runAll_23 : decode cX1_runAll 23 = .ok (.aload_n 1, 1) := dk_43 (dk_at dksX1_runAll_0 23 rfl rfl)
theorem dX1_runAll_24 : decode cX1_runAll 24 = .ok (.getfield 41, 3) := dk_180 0 41 (dk_at dksX1_runAll_1 0 rfl rfl)
theorem dX1_runAll_27 : decode cX1_runAll 27 = .ok (.invokeinterface 45 1, 5) := by decide +kernel
theorem dX1_runAll_32 : decode cX1_runAll 32 = .ok (.if_icmp .ge 53, 3) := dk_162 0 53 (dk_at dksX1_runAll_1 8 rfl rfl)
theorem dX1_runAll_35 : decode cX1_runAll 35 = .ok (.iload_n 2, 1) := dk_28 (dk_at dksX1_runAll_1 11 rfl rfl)
theorem dX1_runAll_36 : decode cX1_runAll 36 = .ok (.ifCond .eq 49, 3) := dk_153 0 49 (dk_at dksX1_runAll_1 12 rfl rfl)
theorem dX1_runAll_39 : decode cX1_runAll 39 = .ok (.aload_n 1, 1) := dk_43 (dk_at dksX1_runAll_1 15 rfl rfl)
theorem dX1_runAll_40 : decode cX1_runAll 40 = .ok (.getfield 41, 3) := dk_180 0 41 (dk_at dksX1_runAll_1 16 rfl rfl)
theorem dX1_runAll_43 : decode cX1_runAll 43 = .ok (.iload 4, 2) := dk_21 4 (dk_at dksX1_runAll_1 19 rfl rfl)
theorem dX1_runAll_45 : decode cX1_runAll 45 = .ok (.invokeinterface 50 2, 5) := by decide +kernel
theorem dX1_runAll_50 : decode cX1_runAll 50 = .ok (.checkcast 32, 3) := dk_192 0 32 (dk_at dksX1_runAll_2 5 rfl rfl)
theorem dX1_runAll_53 : decode cX1_runAll 53 = .ok (.astore 5, 2) := dk_58 5 (dk_at dksX1_runAll_2 8 rfl rfl)
theorem dX1_runAll_55 : decode cX1_runAll 55 = .ok (.aload 5, 2) := dk_25 5 (dk_at dksX1_runAll_2 10 rfl rfl)
theorem dX1_runAll_57 : decode cX1_runAll 57 = .ok (.invokestatic 54, 3) := dk_184 0 54 (dk_at dksX1_runAll_2 12 rfl rfl)
theorem dX1_runAll_60 : decode cX1_runAll 60 = .ok (.ifCond .eq 12, 3) := dk_153 0 12 (dk_at dksX1_runAll_2 15 rfl rfl)
theorem dX1_runAll_63 : decode cX1_runAll 63 = .ok (.aload_n 0, 1) := dk_42 (dk_at dksX1_runAll_2 18 rfl rfl)
theorem dX1_runAll_64 : decode cX1_runAll 64 = .ok (.aload 5, 2) := dk_25 5 (dk_at dksX1_runAll_2 19 rfl rfl)
theorem dX1_runAll_66 : decode cX1_runAll 66 = .ok (.invokevirtual 58, 3) := dk_182 0 58 (dk_at dksX1_runAll_2 21 rfl rfl)
theorem dX1_runAll_69 : decode cX1_runAll 69 = .ok (.goto 9, 3) := dk_167 0 9 (dk_at dksX1_runAll_3 0 rfl rfl)
theorem dX1_runAll_72 : decode cX1_runAll 72 = .ok (.aload_n 0, 1) := dk_42 (dk_at dksX1_runAll_3 3 rfl rfl)
theorem dX1_runAll_73 : decode cX1_runAll 73 = .ok (.aload 5, 2) := dk_25 5 (dk_at dksX1_runAll_3 4 rfl rfl)
theorem dX1_runAll_75 : decode cX1_runAll 75 = .ok (.invokevirtual 61, 3) := dk_182 0 61 (dk_at dksX1_runAll_3 6 rfl rfl)
theorem dX1_runAll_78 : decode cX1_runAll 78 = .ok (.istore_n 2, 1) := dk_61 (dk_at dksX1_runAll_3 9 rfl rfl)
theorem dX1_runAll_79 : decode cX1_runAll 79 = .ok (.iinc 4 1, 3) := dk_132 4 1 (dk_at dksX1_runAll_3 10 rfl rfl)
theorem dX1_runAll_82 : decode cX1_runAll 82 = .ok (.goto (-61), 3) := dk_167 255 195 (dk_at dksX1_runAll_3 13 rfl rfl)
theorem dX1_runAll_85 : decode cX1_runAll 85 = .ok (.iinc 3 1, 3) := dk_132 3 1 (dk_at dksX1_runAll_3 16 rfl rfl)
theorem dX1_runAll_88 : decode cX1_runAll 88 = .ok (.goto (-84), 3) := dk_167 255 172 (dk_at dksX1_runAll_3 19 rfl rfl)
theorem dX1_runAll_91 : decode cX1_runAll 91 = .ok (.iload_n 2, 1) := dk_28 (dk_at dksX1_runAll_3 22 rfl rfl)
theorem dX1_runAll_92 : decode cX1_runAll 92 = .ok (.ireturn, 1) := dk_172 (dk_at dksX1_runAll_3 23 rfl rfl)
abbrev cX1_isRepeat : ByteArray := prog_1_method_4_code
def yX1_isRepeat : MethodName := ⟨RX1, "isRepeat", "(LCsrCalculator$Command;)Z"⟩
def dkwX1_isRepeat_0 : List UInt8 := [42, 180, 0, 31, 18, 23, 182, 0, 9, 172]
abbrev dktX1_isRepeat_0 : List UInt8 := dkwX1_isRepeat_0 ++ []
theorem dksX1_isRepeat_0 : cX1_isRepeat.data.toList.drop 0 = dktX1_isRepeat_0 := by decide +kernel
theorem dX1_isRepeat_0 : decode cX1_isRepeat 0 = .ok (.aload_n 0, 1) := dk_42 (dk_at dksX1_isRepeat_0 0 rfl rfl)
theorem dX1_isRepeat_1 : decode cX1_isRepeat 1 = .ok (.getfield 31, 3) := dk_180 0 31 (dk_at dksX1_isRepeat_0 1 rfl rfl)
theorem dX1_isRepeat_4 : decode cX1_isRepeat 4 = .ok (.ldc 23, 2) := dk_18 23 (dk_at dksX1_isRepeat_0 4 rfl rfl)
theorem dX1_isRepeat_6 : decode cX1_isRepeat 6 = .ok (.invokevirtual 9, 3) := dk_182 0 9 (dk_at dksX1_isRepeat_0 6 rfl rfl)
theorem dX1_isRepeat_9 : decode cX1_isRepeat 9 = .ok (.ireturn, 1) := dk_172 (dk_at dksX1_isRepeat_0 9 rfl rfl)
abbrev cX1_runOne : ByteArray := prog_1_method_6_code
def yX1_runOne : MethodName := ⟨RX1, "runOne", "(LCsrCalculator$Command;)Z"⟩
def dkwX1_runOne_1 : List UInt8 := [181, 0, 74, 42, 180, 0, 74, 16, 40, 162, 0, 7, 4, 167, 0, 4, 3, 172]
abbrev dktX1_runOne_1 : List UInt8 := dkwX1_runOne_1 ++ []
def dkwX1_runOne_0 : List UInt8 := [42, 43, 182, 0, 64, 167, 0, 12, 77, 3, 172, 77, 3, 172, 77, 3, 172, 42, 89, 180, 0, 74, 4, 96]
abbrev dktX1_runOne_0 : List UInt8 := dkwX1_runOne_0 ++ dktX1_runOne_1
theorem dksX1_runOne_0 : cX1_runOne.data.toList.drop 0 = dktX1_runOne_0 := by decide +kernel
theorem dksX1_runOne_1 : cX1_runOne.data.toList.drop 24 = dktX1_runOne_1 := dk_seg dksX1_runOne_0 24 rfl rfl
theorem dX1_runOne_0 : decode cX1_runOne 0 = .ok (.aload_n 0, 1) := dk_42 (dk_at dksX1_runOne_0 0 rfl rfl)
theorem dX1_runOne_1 : decode cX1_runOne 1 = .ok (.aload_n 1, 1) := dk_43 (dk_at dksX1_runOne_0 1 rfl rfl)
theorem dX1_runOne_2 : decode cX1_runOne 2 = .ok (.invokevirtual 64, 3) := dk_182 0 64 (dk_at dksX1_runOne_0 2 rfl rfl)
theorem dX1_runOne_5 : decode cX1_runOne 5 = .ok (.goto 12, 3) := dk_167 0 12 (dk_at dksX1_runOne_0 5 rfl rfl)
theorem dX1_runOne_8 : decode cX1_runOne 8 = .ok (.astore_n 2, 1) := dk_77 (dk_at dksX1_runOne_0 8 rfl rfl)
theorem dX1_runOne_9 : decode cX1_runOne 9 = .ok (.iconst 0, 1) := dk_3 (dk_at dksX1_runOne_0 9 rfl rfl)
theorem dX1_runOne_10 : decode cX1_runOne 10 = .ok (.ireturn, 1) := dk_172 (dk_at dksX1_runOne_0 10 rfl rfl)
theorem dX1_runOne_11 : decode cX1_runOne 11 = .ok (.astore_n 2, 1) := dk_77 (dk_at dksX1_runOne_0 11 rfl rfl)
theorem dX1_runOne_12 : decode cX1_runOne 12 = .ok (.iconst 0, 1) := dk_3 (dk_at dksX1_runOne_0 12 rfl rfl)
theorem dX1_runOne_13 : decode cX1_runOne 13 = .ok (.ireturn, 1) := dk_172 (dk_at dksX1_runOne_0 13 rfl rfl)
theorem dX1_runOne_14 : decode cX1_runOne 14 = .ok (.astore_n 2, 1) := dk_77 (dk_at dksX1_runOne_0 14 rfl rfl)
theorem dX1_runOne_15 : decode cX1_runOne 15 = .ok (.iconst 0, 1) := dk_3 (dk_at dksX1_runOne_0 15 rfl rfl)
theorem dX1_runOne_16 : decode cX1_runOne 16 = .ok (.ireturn, 1) := dk_172 (dk_at dksX1_runOne_0 16 rfl rfl)
theorem dX1_runOne_17 : decode cX1_runOne 17 = .ok (.aload_n 0, 1) := dk_42 (dk_at dksX1_runOne_0 17 rfl rfl)
theorem dX1_runOne_18 : decode cX1_runOne 18 = .ok (.dup, 1) := dk_89 (dk_at dksX1_runOne_0 18 rfl rfl)
theorem dX1_runOne_19 : decode cX1_runOne 19 = .ok (.getfield 74, 3) := dk_180 0 74 (dk_at dksX1_runOne_0 19 rfl rfl)
theorem dX1_runOne_22 : decode cX1_runOne 22 = .ok (.iconst 1, 1) := dk_4 (dk_at dksX1_runOne_0 22 rfl rfl)
theorem dX1_runOne_23 : decode cX1_runOne 23 = .ok (.iadd, 1) := dk_96 (dk_at dksX1_runOne_0 23 rfl rfl)
theorem dX1_runOne_24 : decode cX1_runOne 24 = .ok (.putfield 74, 3) := dk_181 0 74 (dk_at dksX1_runOne_1 0 rfl rfl)
theorem dX1_runOne_27 : decode cX1_runOne 27 = .ok (.aload_n 0, 1) := dk_42 (dk_at dksX1_runOne_1 3 rfl rfl)
theorem dX1_runOne_28 : decode cX1_runOne 28 = .ok (.getfield 74, 3) := dk_180 0 74 (dk_at dksX1_runOne_1 4 rfl rfl)
theorem dX1_runOne_31 : decode cX1_runOne 31 = .ok (.bipush 40, 2) := dk_16 40 (dk_at dksX1_runOne_1 7 rfl rfl)
theorem dX1_runOne_33 : decode cX1_runOne 33 = .ok (.if_icmp .ge 7, 3) := dk_162 0 7 (dk_at dksX1_runOne_1 9 rfl rfl)
theorem dX1_runOne_36 : decode cX1_runOne 36 = .ok (.iconst 1, 1) := dk_4 (dk_at dksX1_runOne_1 12 rfl rfl)
theorem dX1_runOne_37 : decode cX1_runOne 37 = .ok (.goto 4, 3) := dk_167 0 4 (dk_at dksX1_runOne_1 13 rfl rfl)
theorem dX1_runOne_40 : decode cX1_runOne 40 = .ok (.iconst 0, 1) := dk_3 (dk_at dksX1_runOne_1 16 rfl rfl)
theorem dX1_runOne_41 : decode cX1_runOne 41 = .ok (.ireturn, 1) := dk_172 (dk_at dksX1_runOne_1 17 rfl rfl)
abbrev cX1_execute : ByteArray := prog_1_method_7_code
def yX1_execute : MethodName := ⟨RX1, "execute", "(LCsrCalculator$Command;)V"⟩
def dkwX1_execute_10 : List UInt8 := [182, 0, 98, 167, 0, 16, 42, 44, 3, 46, 44, 4, 46, 44, 5, 46, 182, 0, 101, 62, 177]
abbrev dktX1_execute_10 : List UInt8 := dkwX1_execute_10 ++ []
def dkwX1_execute_9 : List UInt8 := [167, 0, 42, 42, 44, 3, 46, 182, 0, 94, 167, 0, 32, 42, 44, 3, 46, 44, 4, 46, 44, 5, 46]
abbrev dktX1_execute_9 : List UInt8 := dkwX1_execute_9 ++ dktX1_execute_10
def dkwX1_execute_8 : List UInt8 := [5, 46, 44, 6, 46, 182, 0, 82, 167, 0, 56, 42, 44, 3, 46, 43, 180, 0, 86, 182, 0, 90]
abbrev dktX1_execute_8 : List UInt8 := dkwX1_execute_8 ++ dktX1_execute_9
def dkwX1_execute_7 : List UInt8 := [42, 44, 3, 46, 44, 4, 46, 44, 5, 46, 182, 0, 78, 167, 0, 75, 42, 44, 3, 46, 44, 4, 46, 44]
abbrev dktX1_execute_7 : List UInt8 := dkwX1_execute_7 ++ dktX1_execute_8
def dkwX1_execute_6 : List UInt8 := [170, 0, 0, 0, 108, 0, 0, 0, 0, 0, 0, 0, 4, 0, 0, 0, 33, 0, 0, 0, 49, 0, 0, 0, 68, 0, 0, 0, 82, 0, 0, 0, 92]
abbrev dktX1_execute_6 : List UInt8 := dkwX1_execute_6 ++ dktX1_execute_7
def dkwX1_execute_5 : List UInt8 := [182, 0, 9, 153, 0, 6, 7, 54, 5, 21, 5]
abbrev dktX1_execute_5 : List UInt8 := dkwX1_execute_5 ++ dktX1_execute_6
def dkwX1_execute_4 : List UInt8 := [167, 0, 32, 25, 4, 18, 17, 182, 0, 9, 153, 0, 22, 6, 54, 5, 167, 0, 16, 25, 4, 18, 19]
abbrev dktX1_execute_4 : List UInt8 := dkwX1_execute_4 ++ dktX1_execute_5
def dkwX1_execute_3 : List UInt8 := [153, 0, 54, 4, 54, 5, 167, 0, 48, 25, 4, 18, 15, 182, 0, 9, 153, 0, 38, 5, 54, 5]
abbrev dktX1_execute_3 : List UInt8 := dkwX1_execute_3 ++ dktX1_execute_4
def dkwX1_execute_2 : List UInt8 := [25, 4, 18, 7, 182, 0, 9, 153, 0, 70, 3, 54, 5, 167, 0, 64, 25, 4, 18, 13, 182, 0, 9]
abbrev dktX1_execute_2 : List UInt8 := dkwX1_execute_2 ++ dktX1_execute_3
def dkwX1_execute_1 : List UInt8 := [171, 0, 0, 0, 126, 0, 0, 0, 5, 191, 141, 151, 193, 0, 0, 0, 49, 0, 1, 162, 27, 0, 0, 0, 81, 0, 47, 46, 239, 0, 0, 0, 97, 5, 195, 8, 114, 0, 0, 0, 65, 5, 196, 146, 166, 0, 0, 0, 113]
abbrev dktX1_execute_1 : List UInt8 := dkwX1_execute_1 ++ dktX1_execute_2
def dkwX1_execute_0 : List UInt8 := [43, 180, 0, 37, 77, 43, 180, 0, 31, 58, 4, 2, 54, 5, 25, 4, 182, 0, 1]
abbrev dktX1_execute_0 : List UInt8 := dkwX1_execute_0 ++ dktX1_execute_1
theorem dksX1_execute_0 : cX1_execute.data.toList.drop 0 = dktX1_execute_0 := by decide +kernel
theorem dksX1_execute_1 : cX1_execute.data.toList.drop 19 = dktX1_execute_1 := dk_seg dksX1_execute_0 19 rfl rfl
theorem dksX1_execute_2 : cX1_execute.data.toList.drop 68 = dktX1_execute_2 := dk_seg dksX1_execute_1 49 rfl rfl
theorem dksX1_execute_3 : cX1_execute.data.toList.drop 91 = dktX1_execute_3 := dk_seg dksX1_execute_2 23 rfl rfl
theorem dksX1_execute_4 : cX1_execute.data.toList.drop 113 = dktX1_execute_4 := dk_seg dksX1_execute_3 22 rfl rfl
theorem dksX1_execute_5 : cX1_execute.data.toList.drop 136 = dktX1_execute_5 := dk_seg dksX1_execute_4 23 rfl rfl
theorem dksX1_execute_6 : cX1_execute.data.toList.drop 147 = dktX1_execute_6 := dk_seg dksX1_execute_5 11 rfl rfl
theorem dksX1_execute_7 : cX1_execute.data.toList.drop 180 = dktX1_execute_7 := dk_seg dksX1_execute_6 33 rfl rfl
theorem dksX1_execute_8 : cX1_execute.data.toList.drop 204 = dktX1_execute_8 := dk_seg dksX1_execute_7 24 rfl rfl
theorem dksX1_execute_9 : cX1_execute.data.toList.drop 226 = dktX1_execute_9 := dk_seg dksX1_execute_8 22 rfl rfl
theorem dksX1_execute_10 : cX1_execute.data.toList.drop 249 = dktX1_execute_10 := dk_seg dksX1_execute_9 23 rfl rfl
theorem dX1_execute_0 : decode cX1_execute 0 = .ok (.aload_n 1, 1) := dk_43 (dk_at dksX1_execute_0 0 rfl rfl)
theorem dX1_execute_1 : decode cX1_execute 1 = .ok (.getfield 37, 3) := dk_180 0 37 (dk_at dksX1_execute_0 1 rfl rfl)
theorem dX1_execute_4 : decode cX1_execute 4 = .ok (.astore_n 2, 1) := dk_77 (dk_at dksX1_execute_0 4 rfl rfl)
theorem dX1_execute_5 : decode cX1_execute 5 = .ok (.aload_n 1, 1) := dk_43 (dk_at dksX1_execute_0 5 rfl rfl)
theorem dX1_execute_6 : decode cX1_execute 6 = .ok (.getfield 31, 3) := dk_180 0 31 (dk_at dksX1_execute_0 6 rfl rfl)
theorem dX1_execute_9 : decode cX1_execute 9 = .ok (.astore 4, 2) := dk_58 4 (dk_at dksX1_execute_0 9 rfl rfl)
theorem dX1_execute_11 : decode cX1_execute 11 = .ok (.iconst (-1), 1) := dk_2 (dk_at dksX1_execute_0 11 rfl rfl)
theorem dX1_execute_12 : decode cX1_execute 12 = .ok (.istore 5, 2) := dk_54 5 (dk_at dksX1_execute_0 12 rfl rfl)
theorem dX1_execute_14 : decode cX1_execute 14 = .ok (.aload 4, 2) := dk_25 4 (dk_at dksX1_execute_0 14 rfl rfl)
theorem dX1_execute_16 : decode cX1_execute 16 = .ok (.invokevirtual 1, 3) := dk_182 0 1 (dk_at dksX1_execute_0 16 rfl rfl)
theorem dX1_execute_19 : decode cX1_execute 19 = .ok (.lookupswitch 126 #[(-1081239615, 49), (107035, 81), (3092207, 97), (96667762, 65), (96768678, 113)], 49) := by decide +kernel
theorem dX1_execute_68 : decode cX1_execute 68 = .ok (.aload 4, 2) := dk_25 4 (dk_at dksX1_execute_2 0 rfl rfl)
theorem dX1_execute_70 : decode cX1_execute 70 = .ok (.ldc 7, 2) := dk_18 7 (dk_at dksX1_execute_2 2 rfl rfl)
theorem dX1_execute_72 : decode cX1_execute 72 = .ok (.invokevirtual 9, 3) := dk_182 0 9 (dk_at dksX1_execute_2 4 rfl rfl)
theorem dX1_execute_75 : decode cX1_execute 75 = .ok (.ifCond .eq 70, 3) := dk_153 0 70 (dk_at dksX1_execute_2 7 rfl rfl)
theorem dX1_execute_78 : decode cX1_execute 78 = .ok (.iconst 0, 1) := dk_3 (dk_at dksX1_execute_2 10 rfl rfl)
theorem dX1_execute_79 : decode cX1_execute 79 = .ok (.istore 5, 2) := dk_54 5 (dk_at dksX1_execute_2 11 rfl rfl)
theorem dX1_execute_81 : decode cX1_execute 81 = .ok (.goto 64, 3) := dk_167 0 64 (dk_at dksX1_execute_2 13 rfl rfl)
theorem dX1_execute_84 : decode cX1_execute 84 = .ok (.aload 4, 2) := dk_25 4 (dk_at dksX1_execute_2 16 rfl rfl)
theorem dX1_execute_86 : decode cX1_execute 86 = .ok (.ldc 13, 2) := dk_18 13 (dk_at dksX1_execute_2 18 rfl rfl)
theorem dX1_execute_88 : decode cX1_execute 88 = .ok (.invokevirtual 9, 3) := dk_182 0 9 (dk_at dksX1_execute_2 20 rfl rfl)
theorem dX1_execute_91 : decode cX1_execute 91 = .ok (.ifCond .eq 54, 3) := dk_153 0 54 (dk_at dksX1_execute_3 0 rfl rfl)
theorem dX1_execute_94 : decode cX1_execute 94 = .ok (.iconst 1, 1) := dk_4 (dk_at dksX1_execute_3 3 rfl rfl)
theorem dX1_execute_95 : decode cX1_execute 95 = .ok (.istore 5, 2) := dk_54 5 (dk_at dksX1_execute_3 4 rfl rfl)
theorem dX1_execute_97 : decode cX1_execute 97 = .ok (.goto 48, 3) := dk_167 0 48 (dk_at dksX1_execute_3 6 rfl rfl)
theorem dX1_execute_100 : decode cX1_execute 100 = .ok (.aload 4, 2) := dk_25 4 (dk_at dksX1_execute_3 9 rfl rfl)
theorem dX1_execute_102 : decode cX1_execute 102 = .ok (.ldc 15, 2) := dk_18 15 (dk_at dksX1_execute_3 11 rfl rfl)
theorem dX1_execute_104 : decode cX1_execute 104 = .ok (.invokevirtual 9, 3) := dk_182 0 9 (dk_at dksX1_execute_3 13 rfl rfl)
theorem dX1_execute_107 : decode cX1_execute 107 = .ok (.ifCond .eq 38, 3) := dk_153 0 38 (dk_at dksX1_execute_3 16 rfl rfl)
theorem dX1_execute_110 : decode cX1_execute 110 = .ok (.iconst 2, 1) := dk_5 (dk_at dksX1_execute_3 19 rfl rfl)
theorem dX1_execute_111 : decode cX1_execute 111 = .ok (.istore 5, 2) := dk_54 5 (dk_at dksX1_execute_3 20 rfl rfl)
theorem dX1_execute_113 : decode cX1_execute 113 = .ok (.goto 32, 3) := dk_167 0 32 (dk_at dksX1_execute_4 0 rfl rfl)
theorem dX1_execute_116 : decode cX1_execute 116 = .ok (.aload 4, 2) := dk_25 4 (dk_at dksX1_execute_4 3 rfl rfl)
theorem dX1_execute_118 : decode cX1_execute 118 = .ok (.ldc 17, 2) := dk_18 17 (dk_at dksX1_execute_4 5 rfl rfl)
theorem dX1_execute_120 : decode cX1_execute 120 = .ok (.invokevirtual 9, 3) := dk_182 0 9 (dk_at dksX1_execute_4 7 rfl rfl)
theorem dX1_execute_123 : decode cX1_execute 123 = .ok (.ifCond .eq 22, 3) := dk_153 0 22 (dk_at dksX1_execute_4 10 rfl rfl)
theorem dX1_execute_126 : decode cX1_execute 126 = .ok (.iconst 3, 1) := dk_6 (dk_at dksX1_execute_4 13 rfl rfl)
theorem dX1_execute_127 : decode cX1_execute 127 = .ok (.istore 5, 2) := dk_54 5 (dk_at dksX1_execute_4 14 rfl rfl)
theorem dX1_execute_129 : decode cX1_execute 129 = .ok (.goto 16, 3) := dk_167 0 16 (dk_at dksX1_execute_4 16 rfl rfl)
theorem dX1_execute_132 : decode cX1_execute 132 = .ok (.aload 4, 2) := dk_25 4 (dk_at dksX1_execute_4 19 rfl rfl)
theorem dX1_execute_134 : decode cX1_execute 134 = .ok (.ldc 19, 2) := dk_18 19 (dk_at dksX1_execute_4 21 rfl rfl)
theorem dX1_execute_136 : decode cX1_execute 136 = .ok (.invokevirtual 9, 3) := dk_182 0 9 (dk_at dksX1_execute_5 0 rfl rfl)
theorem dX1_execute_139 : decode cX1_execute 139 = .ok (.ifCond .eq 6, 3) := dk_153 0 6 (dk_at dksX1_execute_5 3 rfl rfl)
theorem dX1_execute_142 : decode cX1_execute 142 = .ok (.iconst 4, 1) := dk_7 (dk_at dksX1_execute_5 6 rfl rfl)
theorem dX1_execute_143 : decode cX1_execute 143 = .ok (.istore 5, 2) := dk_54 5 (dk_at dksX1_execute_5 7 rfl rfl)
theorem dX1_execute_145 : decode cX1_execute 145 = .ok (.iload 5, 2) := dk_21 5 (dk_at dksX1_execute_5 9 rfl rfl)
theorem dX1_execute_147 : decode cX1_execute 147 = .ok (.tableswitch 108 0 4 #[33, 49, 68, 82, 92], 33) := by decide +kernel
theorem dX1_execute_180 : decode cX1_execute 180 = .ok (.aload_n 0, 1) := dk_42 (dk_at dksX1_execute_7 0 rfl rfl)
theorem dX1_execute_181 : decode cX1_execute 181 = .ok (.aload_n 2, 1) := dk_44 (dk_at dksX1_execute_7 1 rfl rfl)
theorem dX1_execute_182 : decode cX1_execute 182 = .ok (.iconst 0, 1) := dk_3 (dk_at dksX1_execute_7 2 rfl rfl)
theorem dX1_execute_183 : decode cX1_execute 183 = .ok (.iaload, 1) := dk_46 (dk_at dksX1_execute_7 3 rfl rfl)
theorem dX1_execute_184 : decode cX1_execute 184 = .ok (.aload_n 2, 1) := dk_44 (dk_at dksX1_execute_7 4 rfl rfl)
theorem dX1_execute_185 : decode cX1_execute 185 = .ok (.iconst 1, 1) := dk_4 (dk_at dksX1_execute_7 5 rfl rfl)
theorem dX1_execute_186 : decode cX1_execute 186 = .ok (.iaload, 1) := dk_46 (dk_at dksX1_execute_7 6 rfl rfl)
theorem dX1_execute_187 : decode cX1_execute 187 = .ok (.aload_n 2, 1) := dk_44 (dk_at dksX1_execute_7 7 rfl rfl)
theorem dX1_execute_188 : decode cX1_execute 188 = .ok (.iconst 2, 1) := dk_5 (dk_at dksX1_execute_7 8 rfl rfl)
theorem dX1_execute_189 : decode cX1_execute 189 = .ok (.iaload, 1) := dk_46 (dk_at dksX1_execute_7 9 rfl rfl)
theorem dX1_execute_190 : decode cX1_execute 190 = .ok (.invokevirtual 78, 3) := dk_182 0 78 (dk_at dksX1_execute_7 10 rfl rfl)
theorem dX1_execute_193 : decode cX1_execute 193 = .ok (.goto 75, 3) := dk_167 0 75 (dk_at dksX1_execute_7 13 rfl rfl)
theorem dX1_execute_196 : decode cX1_execute 196 = .ok (.aload_n 0, 1) := dk_42 (dk_at dksX1_execute_7 16 rfl rfl)
theorem dX1_execute_197 : decode cX1_execute 197 = .ok (.aload_n 2, 1) := dk_44 (dk_at dksX1_execute_7 17 rfl rfl)
theorem dX1_execute_198 : decode cX1_execute 198 = .ok (.iconst 0, 1) := dk_3 (dk_at dksX1_execute_7 18 rfl rfl)
theorem dX1_execute_199 : decode cX1_execute 199 = .ok (.iaload, 1) := dk_46 (dk_at dksX1_execute_7 19 rfl rfl)
theorem dX1_execute_200 : decode cX1_execute 200 = .ok (.aload_n 2, 1) := dk_44 (dk_at dksX1_execute_7 20 rfl rfl)
theorem dX1_execute_201 : decode cX1_execute 201 = .ok (.iconst 1, 1) := dk_4 (dk_at dksX1_execute_7 21 rfl rfl)
theorem dX1_execute_202 : decode cX1_execute 202 = .ok (.iaload, 1) := dk_46 (dk_at dksX1_execute_7 22 rfl rfl)
theorem dX1_execute_203 : decode cX1_execute 203 = .ok (.aload_n 2, 1) := dk_44 (dk_at dksX1_execute_7 23 rfl rfl)
theorem dX1_execute_204 : decode cX1_execute 204 = .ok (.iconst 2, 1) := dk_5 (dk_at dksX1_execute_8 0 rfl rfl)
theorem dX1_execute_205 : decode cX1_execute 205 = .ok (.iaload, 1) := dk_46 (dk_at dksX1_execute_8 1 rfl rfl)
theorem dX1_execute_206 : decode cX1_execute 206 = .ok (.aload_n 2, 1) := dk_44 (dk_at dksX1_execute_8 2 rfl rfl)
theorem dX1_execute_207 : decode cX1_execute 207 = .ok (.iconst 3, 1) := dk_6 (dk_at dksX1_execute_8 3 rfl rfl)
theorem dX1_execute_208 : decode cX1_execute 208 = .ok (.iaload, 1) := dk_46 (dk_at dksX1_execute_8 4 rfl rfl)
theorem dX1_execute_209 : decode cX1_execute 209 = .ok (.invokevirtual 82, 3) := dk_182 0 82 (dk_at dksX1_execute_8 5 rfl rfl)
theorem dX1_execute_212 : decode cX1_execute 212 = .ok (.goto 56, 3) := dk_167 0 56 (dk_at dksX1_execute_8 8 rfl rfl)
theorem dX1_execute_215 : decode cX1_execute 215 = .ok (.aload_n 0, 1) := dk_42 (dk_at dksX1_execute_8 11 rfl rfl)
theorem dX1_execute_216 : decode cX1_execute 216 = .ok (.aload_n 2, 1) := dk_44 (dk_at dksX1_execute_8 12 rfl rfl)
theorem dX1_execute_217 : decode cX1_execute 217 = .ok (.iconst 0, 1) := dk_3 (dk_at dksX1_execute_8 13 rfl rfl)
theorem dX1_execute_218 : decode cX1_execute 218 = .ok (.iaload, 1) := dk_46 (dk_at dksX1_execute_8 14 rfl rfl)
theorem dX1_execute_219 : decode cX1_execute 219 = .ok (.aload_n 1, 1) := dk_43 (dk_at dksX1_execute_8 15 rfl rfl)
theorem dX1_execute_220 : decode cX1_execute 220 = .ok (.getfield 86, 3) := dk_180 0 86 (dk_at dksX1_execute_8 16 rfl rfl)
theorem dX1_execute_223 : decode cX1_execute 223 = .ok (.invokevirtual 90, 3) := dk_182 0 90 (dk_at dksX1_execute_8 19 rfl rfl)
theorem dX1_execute_226 : decode cX1_execute 226 = .ok (.goto 42, 3) := dk_167 0 42 (dk_at dksX1_execute_9 0 rfl rfl)
theorem dX1_execute_229 : decode cX1_execute 229 = .ok (.aload_n 0, 1) := dk_42 (dk_at dksX1_execute_9 3 rfl rfl)
theorem dX1_execute_230 : decode cX1_execute 230 = .ok (.aload_n 2, 1) := dk_44 (dk_at dksX1_execute_9 4 rfl rfl)
theorem dX1_execute_231 : decode cX1_execute 231 = .ok (.iconst 0, 1) := dk_3 (dk_at dksX1_execute_9 5 rfl rfl)
theorem dX1_execute_232 : decode cX1_execute 232 = .ok (.iaload, 1) := dk_46 (dk_at dksX1_execute_9 6 rfl rfl)
theorem dX1_execute_233 : decode cX1_execute 233 = .ok (.invokevirtual 94, 3) := dk_182 0 94 (dk_at dksX1_execute_9 7 rfl rfl)
theorem dX1_execute_236 : decode cX1_execute 236 = .ok (.goto 32, 3) := dk_167 0 32 (dk_at dksX1_execute_9 10 rfl rfl)
theorem dX1_execute_239 : decode cX1_execute 239 = .ok (.aload_n 0, 1) := dk_42 (dk_at dksX1_execute_9 13 rfl rfl)
theorem dX1_execute_240 : decode cX1_execute 240 = .ok (.aload_n 2, 1) := dk_44 (dk_at dksX1_execute_9 14 rfl rfl)
theorem dX1_execute_241 : decode cX1_execute 241 = .ok (.iconst 0, 1) := dk_3 (dk_at dksX1_execute_9 15 rfl rfl)
theorem dX1_execute_242 : decode cX1_execute 242 = .ok (.iaload, 1) := dk_46 (dk_at dksX1_execute_9 16 rfl rfl)
theorem dX1_execute_243 : decode cX1_execute 243 = .ok (.aload_n 2, 1) := dk_44 (dk_at dksX1_execute_9 17 rfl rfl)
theorem dX1_execute_244 : decode cX1_execute 244 = .ok (.iconst 1, 1) := dk_4 (dk_at dksX1_execute_9 18 rfl rfl)
theorem dX1_execute_245 : decode cX1_execute 245 = .ok (.iaload, 1) := dk_46 (dk_at dksX1_execute_9 19 rfl rfl)
theorem dX1_execute_246 : decode cX1_execute 246 = .ok (.aload_n 2, 1) := dk_44 (dk_at dksX1_execute_9 20 rfl rfl)
theorem dX1_execute_247 : decode cX1_execute 247 = .ok (.iconst 2, 1) := dk_5 (dk_at dksX1_execute_9 21 rfl rfl)
theorem dX1_execute_248 : decode cX1_execute 248 = .ok (.iaload, 1) := dk_46 (dk_at dksX1_execute_9 22 rfl rfl)
theorem dX1_execute_249 : decode cX1_execute 249 = .ok (.invokevirtual 98, 3) := dk_182 0 98 (dk_at dksX1_execute_10 0 rfl rfl)
theorem dX1_execute_252 : decode cX1_execute 252 = .ok (.goto 16, 3) := dk_167 0 16 (dk_at dksX1_execute_10 3 rfl rfl)
theorem dX1_execute_255 : decode cX1_execute 255 = .ok (.aload_n 0, 1) := dk_42 (dk_at dksX1_execute_10 6 rfl rfl)
theorem dX1_execute_256 : decode cX1_execute 256 = .ok (.aload_n 2, 1) := dk_44 (dk_at dksX1_execute_10 7 rfl rfl)
theorem dX1_execute_257 : decode cX1_execute 257 = .ok (.iconst 0, 1) := dk_3 (dk_at dksX1_execute_10 8 rfl rfl)
theorem dX1_execute_258 : decode cX1_execute 258 = .ok (.iaload, 1) := dk_46 (dk_at dksX1_execute_10 9 rfl rfl)
theorem dX1_execute_259 : decode cX1_execute 259 = .ok (.aload_n 2, 1) := dk_44 (dk_at dksX1_execute_10 10 rfl rfl)
theorem dX1_execute_260 : decode cX1_execute 260 = .ok (.iconst 1, 1) := dk_4 (dk_at dksX1_execute_10 11 rfl rfl)
theorem dX1_execute_261 : decode cX1_execute 261 = .ok (.iaload, 1) := dk_46 (dk_at dksX1_execute_10 12 rfl rfl)
theorem dX1_execute_262 : decode cX1_execute 262 = .ok (.aload_n 2, 1) := dk_44 (dk_at dksX1_execute_10 13 rfl rfl)
theorem dX1_execute_263 : decode cX1_execute 263 = .ok (.iconst 2, 1) := dk_5 (dk_at dksX1_execute_10 14 rfl rfl)
theorem dX1_execute_264 : decode cX1_execute 264 = .ok (.iaload, 1) := dk_46 (dk_at dksX1_execute_10 15 rfl rfl)
theorem dX1_execute_265 : decode cX1_execute 265 = .ok (.invokevirtual 101, 3) := dk_182 0 101 (dk_at dksX1_execute_10 16 rfl rfl)
theorem dX1_execute_268 : decode cX1_execute 268 = .ok (.istore_n 3, 1) := dk_62 (dk_at dksX1_execute_10 19 rfl rfl)
theorem dX1_execute_269 : decode cX1_execute 269 = .ok (.return_, 1) := dk_177 (dk_at dksX1_execute_10 20 rfl rfl)
abbrev cX1_createNow : ByteArray := prog_1_method_59_code
def yX1_createNow : MethodName := ⟨RX1, "createNow", "(III)I"⟩
def dkwX1_createNow_2 : List UInt8 := [187, 0, 159, 89, 28, 29, 183, 1, 89, 182, 1, 92, 54, 5, 28, 29, 104, 172]
abbrev dktX1_createNow_2 : List UInt8 := dkwX1_createNow_2 ++ []
def dkwX1_createNow_1 : List UInt8 := [20, 1, 87, 184, 0, 143, 153, 0, 7, 4, 167, 0, 4, 3, 184, 0, 183, 42, 180, 0, 120, 27]
abbrev dktX1_createNow_1 : List UInt8 := dkwX1_createNow_1 ++ dktX1_createNow_2
def dkwX1_createNow_0 : List UInt8 := [42, 27, 182, 0, 155, 58, 4, 28, 133, 10, 20, 1, 87, 184, 0, 143, 153, 0, 19, 29, 133, 10]
abbrev dktX1_createNow_0 : List UInt8 := dkwX1_createNow_0 ++ dktX1_createNow_1
theorem dksX1_createNow_0 : cX1_createNow.data.toList.drop 0 = dktX1_createNow_0 := by decide +kernel
theorem dksX1_createNow_1 : cX1_createNow.data.toList.drop 22 = dktX1_createNow_1 := dk_seg dksX1_createNow_0 22 rfl rfl
theorem dksX1_createNow_2 : cX1_createNow.data.toList.drop 44 = dktX1_createNow_2 := dk_seg dksX1_createNow_1 22 rfl rfl
theorem dX1_createNow_0 : decode cX1_createNow 0 = .ok (.aload_n 0, 1) := dk_42 (dk_at dksX1_createNow_0 0 rfl rfl)
theorem dX1_createNow_1 : decode cX1_createNow 1 = .ok (.iload_n 1, 1) := dk_27 (dk_at dksX1_createNow_0 1 rfl rfl)
theorem dX1_createNow_2 : decode cX1_createNow 2 = .ok (.invokevirtual 155, 3) := dk_182 0 155 (dk_at dksX1_createNow_0 2 rfl rfl)
theorem dX1_createNow_5 : decode cX1_createNow 5 = .ok (.astore 4, 2) := dk_58 4 (dk_at dksX1_createNow_0 5 rfl rfl)
theorem dX1_createNow_7 : decode cX1_createNow 7 = .ok (.iload_n 2, 1) := dk_28 (dk_at dksX1_createNow_0 7 rfl rfl)
theorem dX1_createNow_8 : decode cX1_createNow 8 = .ok (.i2l, 1) := dk_133 (dk_at dksX1_createNow_0 8 rfl rfl)
theorem dX1_createNow_9 : decode cX1_createNow 9 = .ok (.lconst 1, 1) := dk_10 (dk_at dksX1_createNow_0 9 rfl rfl)
theorem dX1_createNow_10 : decode cX1_createNow 10 = .ok (.ldc2_w 343, 3) := dk_20 1 87 (dk_at dksX1_createNow_0 10 rfl rfl)
theorem dX1_createNow_13 : decode cX1_createNow 13 = .ok (.invokestatic 143, 3) := dk_184 0 143 (dk_at dksX1_createNow_0 13 rfl rfl)
theorem dX1_createNow_16 : decode cX1_createNow 16 = .ok (.ifCond .eq 19, 3) := dk_153 0 19 (dk_at dksX1_createNow_0 16 rfl rfl)
theorem dX1_createNow_19 : decode cX1_createNow 19 = .ok (.iload_n 3, 1) := dk_29 (dk_at dksX1_createNow_0 19 rfl rfl)
theorem dX1_createNow_20 : decode cX1_createNow 20 = .ok (.i2l, 1) := dk_133 (dk_at dksX1_createNow_0 20 rfl rfl)
theorem dX1_createNow_21 : decode cX1_createNow 21 = .ok (.lconst 1, 1) := dk_10 (dk_at dksX1_createNow_0 21 rfl rfl)
theorem dX1_createNow_22 : decode cX1_createNow 22 = .ok (.ldc2_w 343, 3) := dk_20 1 87 (dk_at dksX1_createNow_1 0 rfl rfl)
theorem dX1_createNow_25 : decode cX1_createNow 25 = .ok (.invokestatic 143, 3) := dk_184 0 143 (dk_at dksX1_createNow_1 3 rfl rfl)
theorem dX1_createNow_28 : decode cX1_createNow 28 = .ok (.ifCond .eq 7, 3) := dk_153 0 7 (dk_at dksX1_createNow_1 6 rfl rfl)
theorem dX1_createNow_31 : decode cX1_createNow 31 = .ok (.iconst 1, 1) := dk_4 (dk_at dksX1_createNow_1 9 rfl rfl)
theorem dX1_createNow_32 : decode cX1_createNow 32 = .ok (.goto 4, 3) := dk_167 0 4 (dk_at dksX1_createNow_1 10 rfl rfl)
theorem dX1_createNow_35 : decode cX1_createNow 35 = .ok (.iconst 0, 1) := dk_3 (dk_at dksX1_createNow_1 13 rfl rfl)
theorem dX1_createNow_36 : decode cX1_createNow 36 = .ok (.invokestatic 183, 3) := dk_184 0 183 (dk_at dksX1_createNow_1 14 rfl rfl)
theorem dX1_createNow_39 : decode cX1_createNow 39 = .ok (.aload_n 0, 1) := dk_42 (dk_at dksX1_createNow_1 17 rfl rfl)
theorem dX1_createNow_40 : decode cX1_createNow 40 = .ok (.getfield 120, 3) := dk_180 0 120 (dk_at dksX1_createNow_1 18 rfl rfl)
theorem dX1_createNow_43 : decode cX1_createNow 43 = .ok (.iload_n 1, 1) := dk_27 (dk_at dksX1_createNow_1 21 rfl rfl)
theorem dX1_createNow_44 : decode cX1_createNow 44 = .ok (.new 159, 3) := dk_187 0 159 (dk_at dksX1_createNow_2 0 rfl rfl)
theorem dX1_createNow_47 : decode cX1_createNow 47 = .ok (.dup, 1) := dk_89 (dk_at dksX1_createNow_2 3 rfl rfl)
theorem dX1_createNow_48 : decode cX1_createNow 48 = .ok (.iload_n 2, 1) := dk_28 (dk_at dksX1_createNow_2 4 rfl rfl)
theorem dX1_createNow_49 : decode cX1_createNow 49 = .ok (.iload_n 3, 1) := dk_29 (dk_at dksX1_createNow_2 5 rfl rfl)
theorem dX1_createNow_50 : decode cX1_createNow 50 = .ok (.invokespecial 345, 3) := dk_183 1 89 (dk_at dksX1_createNow_2 6 rfl rfl)
theorem dX1_createNow_53 : decode cX1_createNow 53 = .ok (.invokevirtual 348, 3) := dk_182 1 92 (dk_at dksX1_createNow_2 9 rfl rfl)
theorem dX1_createNow_56 : decode cX1_createNow 56 = .ok (.istore 5, 2) := dk_54 5 (dk_at dksX1_createNow_2 12 rfl rfl)
theorem dX1_createNow_58 : decode cX1_createNow 58 = .ok (.iload_n 2, 1) := dk_28 (dk_at dksX1_createNow_2 14 rfl rfl)
theorem dX1_createNow_59 : decode cX1_createNow 59 = .ok (.iload_n 3, 1) := dk_29 (dk_at dksX1_createNow_2 15 rfl rfl)
theorem dX1_createNow_60 : decode cX1_createNow 60 = .ok (.imul, 1) := dk_104 (dk_at dksX1_createNow_2 16 rfl rfl)
theorem dX1_createNow_61 : decode cX1_createNow 61 = .ok (.ireturn, 1) := dk_172 (dk_at dksX1_createNow_2 17 rfl rfl)
abbrev cX1_matrix : ByteArray := prog_1_method_12_code
def yX1_matrix : MethodName := ⟨RX1, "matrix", "(I)LCsrCalculator$Csr;"⟩
def dkwX1_matrix_0 : List UInt8 := [27, 133, 9, 20, 0, 141, 184, 0, 143, 184, 0, 147, 42, 180, 0, 120, 180, 0, 151, 27, 50, 176]
abbrev dktX1_matrix_0 : List UInt8 := dkwX1_matrix_0 ++ []
theorem dksX1_matrix_0 : cX1_matrix.data.toList.drop 0 = dktX1_matrix_0 := by decide +kernel
theorem dX1_matrix_0 : decode cX1_matrix 0 = .ok (.iload_n 1, 1) := dk_27 (dk_at dksX1_matrix_0 0 rfl rfl)
theorem dX1_matrix_1 : decode cX1_matrix 1 = .ok (.i2l, 1) := dk_133 (dk_at dksX1_matrix_0 1 rfl rfl)
theorem dX1_matrix_2 : decode cX1_matrix 2 = .ok (.lconst 0, 1) := dk_9 (dk_at dksX1_matrix_0 2 rfl rfl)
theorem dX1_matrix_3 : decode cX1_matrix 3 = .ok (.ldc2_w 141, 3) := dk_20 0 141 (dk_at dksX1_matrix_0 3 rfl rfl)
theorem dX1_matrix_6 : decode cX1_matrix 6 = .ok (.invokestatic 143, 3) := dk_184 0 143 (dk_at dksX1_matrix_0 6 rfl rfl)
theorem dX1_matrix_9 : decode cX1_matrix 9 = .ok (.invokestatic 147, 3) := dk_184 0 147 (dk_at dksX1_matrix_0 9 rfl rfl)
theorem dX1_matrix_12 : decode cX1_matrix 12 = .ok (.aload_n 0, 1) := dk_42 (dk_at dksX1_matrix_0 12 rfl rfl)
theorem dX1_matrix_13 : decode cX1_matrix 13 = .ok (.getfield 120, 3) := dk_180 0 120 (dk_at dksX1_matrix_0 13 rfl rfl)
theorem dX1_matrix_16 : decode cX1_matrix 16 = .ok (.getfield 151, 3) := dk_180 0 151 (dk_at dksX1_matrix_0 16 rfl rfl)
theorem dX1_matrix_19 : decode cX1_matrix 19 = .ok (.iload_n 1, 1) := dk_27 (dk_at dksX1_matrix_0 19 rfl rfl)
theorem dX1_matrix_20 : decode cX1_matrix 20 = .ok (.aaload, 1) := dk_50 (dk_at dksX1_matrix_0 20 rfl rfl)
theorem dX1_matrix_21 : decode cX1_matrix 21 = .ok (.areturn, 1) := dk_176 (dk_at dksX1_matrix_0 21 rfl rfl)
abbrev cX1_index : ByteArray := prog_1_method_9_code
def yX1_index : MethodName := ⟨RX1, "index", "(Z)V"⟩
def dkwX1_index_0 : List UInt8 := [26, 154, 0, 11, 187, 0, 68, 89, 183, 0, 138, 191, 177]
abbrev dktX1_index_0 : List UInt8 := dkwX1_index_0 ++ []
theorem dksX1_index_0 : cX1_index.data.toList.drop 0 = dktX1_index_0 := by decide +kernel
theorem dX1_index_0 : decode cX1_index 0 = .ok (.iload_n 0, 1) := dk_26 (dk_at dksX1_index_0 0 rfl rfl)
theorem dX1_index_1 : decode cX1_index 1 = .ok (.ifCond .ne 11, 3) := dk_154 0 11 (dk_at dksX1_index_0 1 rfl rfl)
theorem dX1_index_4 : decode cX1_index 4 = .ok (.new 68, 3) := dk_187 0 68 (dk_at dksX1_index_0 4 rfl rfl)
theorem dX1_index_7 : decode cX1_index 7 = .ok (.dup, 1) := dk_89 (dk_at dksX1_index_0 7 rfl rfl)
theorem dX1_index_8 : decode cX1_index 8 = .ok (.invokespecial 138, 3) := dk_183 0 138 (dk_at dksX1_index_0 8 rfl rfl)
theorem dX1_index_11 : decode cX1_index 11 = .ok (.athrow, 1) := dk_191 (dk_at dksX1_index_0 11 rfl rfl)
theorem dX1_index_12 : decode cX1_index 12 = .ok (.return_, 1) := dk_177 (dk_at dksX1_index_0 12 rfl rfl)
abbrev cX1_setNow : ByteArray := prog_1_method_60_code
def yX1_setNow : MethodName := ⟨RX1, "setNow", "(IIII)I"⟩
def dkwX1_setNow_2 : List UInt8 := [42, 180, 0, 120, 180, 0, 151, 27, 50, 28, 29, 182, 0, 248, 172]
abbrev dktX1_setNow_2 : List UInt8 := dkwX1_setNow_2 ++ []
def dkwX1_setNow_1 : List UInt8 := [42, 180, 0, 120, 27, 25, 5, 28, 29, 21, 4, 186, 1, 100, 0, 0, 184, 1, 103, 182, 1, 92, 54, 6]
abbrev dktX1_setNow_1 : List UInt8 := dkwX1_setNow_1 ++ dktX1_setNow_2
def dkwX1_setNow_0 : List UInt8 := [42, 27, 28, 29, 182, 0, 240, 58, 5, 21, 4, 133, 20, 1, 96, 20, 1, 98, 184, 0, 143, 184, 0, 183]
abbrev dktX1_setNow_0 : List UInt8 := dkwX1_setNow_0 ++ dktX1_setNow_1
theorem dksX1_setNow_0 : cX1_setNow.data.toList.drop 0 = dktX1_setNow_0 := by decide +kernel
theorem dksX1_setNow_1 : cX1_setNow.data.toList.drop 24 = dktX1_setNow_1 := dk_seg dksX1_setNow_0 24 rfl rfl
theorem dksX1_setNow_2 : cX1_setNow.data.toList.drop 48 = dktX1_setNow_2 := dk_seg dksX1_setNow_1 24 rfl rfl
theorem dX1_setNow_0 : decode cX1_setNow 0 = .ok (.aload_n 0, 1) := dk_42 (dk_at dksX1_setNow_0 0 rfl rfl)
theorem dX1_setNow_1 : decode cX1_setNow 1 = .ok (.iload_n 1, 1) := dk_27 (dk_at dksX1_setNow_0 1 rfl rfl)
theorem dX1_setNow_2 : decode cX1_setNow 2 = .ok (.iload_n 2, 1) := dk_28 (dk_at dksX1_setNow_0 2 rfl rfl)
theorem dX1_setNow_3 : decode cX1_setNow 3 = .ok (.iload_n 3, 1) := dk_29 (dk_at dksX1_setNow_0 3 rfl rfl)
theorem dX1_setNow_4 : decode cX1_setNow 4 = .ok (.invokevirtual 240, 3) := dk_182 0 240 (dk_at dksX1_setNow_0 4 rfl rfl)
theorem dX1_setNow_7 : decode cX1_setNow 7 = .ok (.astore 5, 2) := dk_58 5 (dk_at dksX1_setNow_0 7 rfl rfl)
theorem dX1_setNow_9 : decode cX1_setNow 9 = .ok (.iload 4, 2) := dk_21 4 (dk_at dksX1_setNow_0 9 rfl rfl)
theorem dX1_setNow_11 : decode cX1_setNow 11 = .ok (.i2l, 1) := dk_133 (dk_at dksX1_setNow_0 11 rfl rfl)
theorem dX1_setNow_12 : decode cX1_setNow 12 = .ok (.ldc2_w 352, 3) := dk_20 1 96 (dk_at dksX1_setNow_0 12 rfl rfl)
theorem dX1_setNow_15 : decode cX1_setNow 15 = .ok (.ldc2_w 354, 3) := dk_20 1 98 (dk_at dksX1_setNow_0 15 rfl rfl)
theorem dX1_setNow_18 : decode cX1_setNow 18 = .ok (.invokestatic 143, 3) := dk_184 0 143 (dk_at dksX1_setNow_0 18 rfl rfl)
theorem dX1_setNow_21 : decode cX1_setNow 21 = .ok (.invokestatic 183, 3) := dk_184 0 183 (dk_at dksX1_setNow_0 21 rfl rfl)
theorem dX1_setNow_24 : decode cX1_setNow 24 = .ok (.aload_n 0, 1) := dk_42 (dk_at dksX1_setNow_1 0 rfl rfl)
theorem dX1_setNow_25 : decode cX1_setNow 25 = .ok (.getfield 120, 3) := dk_180 0 120 (dk_at dksX1_setNow_1 1 rfl rfl)
theorem dX1_setNow_28 : decode cX1_setNow 28 = .ok (.iload_n 1, 1) := dk_27 (dk_at dksX1_setNow_1 4 rfl rfl)
theorem dX1_setNow_29 : decode cX1_setNow 29 = .ok (.aload 5, 2) := dk_25 5 (dk_at dksX1_setNow_1 5 rfl rfl)
theorem dX1_setNow_31 : decode cX1_setNow 31 = .ok (.iload_n 2, 1) := dk_28 (dk_at dksX1_setNow_1 7 rfl rfl)
theorem dX1_setNow_32 : decode cX1_setNow 32 = .ok (.iload_n 3, 1) := dk_29 (dk_at dksX1_setNow_1 8 rfl rfl)
theorem dX1_setNow_33 : decode cX1_setNow 33 = .ok (.iload 4, 2) := dk_21 4 (dk_at dksX1_setNow_1 9 rfl rfl)
theorem dX1_setNow_35 : decode cX1_setNow 35 = .ok (.invokedynamic 356, 5) := by decide +kernel
theorem dX1_setNow_40 : decode cX1_setNow 40 = .ok (.invokestatic 359, 3) := dk_184 1 103 (dk_at dksX1_setNow_1 16 rfl rfl)
theorem dX1_setNow_43 : decode cX1_setNow 43 = .ok (.invokevirtual 348, 3) := dk_182 1 92 (dk_at dksX1_setNow_1 19 rfl rfl)
theorem dX1_setNow_46 : decode cX1_setNow 46 = .ok (.istore 6, 2) := dk_54 6 (dk_at dksX1_setNow_1 22 rfl rfl)
theorem dX1_setNow_48 : decode cX1_setNow 48 = .ok (.aload_n 0, 1) := dk_42 (dk_at dksX1_setNow_2 0 rfl rfl)
theorem dX1_setNow_49 : decode cX1_setNow 49 = .ok (.getfield 120, 3) := dk_180 0 120 (dk_at dksX1_setNow_2 1 rfl rfl)
theorem dX1_setNow_52 : decode cX1_setNow 52 = .ok (.getfield 151, 3) := dk_180 0 151 (dk_at dksX1_setNow_2 4 rfl rfl)
theorem dX1_setNow_55 : decode cX1_setNow 55 = .ok (.iload_n 1, 1) := dk_27 (dk_at dksX1_setNow_2 7 rfl rfl)
theorem dX1_setNow_56 : decode cX1_setNow 56 = .ok (.aaload, 1) := dk_50 (dk_at dksX1_setNow_2 8 rfl rfl)
theorem dX1_setNow_57 : decode cX1_setNow 57 = .ok (.iload_n 2, 1) := dk_28 (dk_at dksX1_setNow_2 9 rfl rfl)
theorem dX1_setNow_58 : decode cX1_setNow 58 = .ok (.iload_n 3, 1) := dk_29 (dk_at dksX1_setNow_2 10 rfl rfl)
theorem dX1_setNow_59 : decode cX1_setNow 59 = .ok (.invokevirtual 248, 3) := dk_182 0 248 (dk_at dksX1_setNow_2 11 rfl rfl)
theorem dX1_setNow_62 : decode cX1_setNow 62 = .ok (.ireturn, 1) := dk_172 (dk_at dksX1_setNow_2 14 rfl rfl)
abbrev cX1_matrixWith : ByteArray := prog_1_method_14_code
def yX1_matrixWith : MethodName := ⟨RX1, "matrixWith", "(III)LCsrCalculator$Csr;"⟩
def dkwX1_matrixWith_1 : List UInt8 := [184, 0, 147, 25, 4, 176]
abbrev dktX1_matrixWith_1 : List UInt8 := dkwX1_matrixWith_1 ++ []
def dkwX1_matrixWith_0 : List UInt8 := [42, 27, 28, 182, 0, 163, 58, 4, 29, 133, 9, 25, 4, 180, 0, 167, 4, 100, 133, 184, 0, 143]
abbrev dktX1_matrixWith_0 : List UInt8 := dkwX1_matrixWith_0 ++ dktX1_matrixWith_1
theorem dksX1_matrixWith_0 : cX1_matrixWith.data.toList.drop 0 = dktX1_matrixWith_0 := by decide +kernel
theorem dksX1_matrixWith_1 : cX1_matrixWith.data.toList.drop 22 = dktX1_matrixWith_1 := dk_seg dksX1_matrixWith_0 22 rfl rfl
theorem dX1_matrixWith_0 : decode cX1_matrixWith 0 = .ok (.aload_n 0, 1) := dk_42 (dk_at dksX1_matrixWith_0 0 rfl rfl)
theorem dX1_matrixWith_1 : decode cX1_matrixWith 1 = .ok (.iload_n 1, 1) := dk_27 (dk_at dksX1_matrixWith_0 1 rfl rfl)
theorem dX1_matrixWith_2 : decode cX1_matrixWith 2 = .ok (.iload_n 2, 1) := dk_28 (dk_at dksX1_matrixWith_0 2 rfl rfl)
theorem dX1_matrixWith_3 : decode cX1_matrixWith 3 = .ok (.invokevirtual 163, 3) := dk_182 0 163 (dk_at dksX1_matrixWith_0 3 rfl rfl)
theorem dX1_matrixWith_6 : decode cX1_matrixWith 6 = .ok (.astore 4, 2) := dk_58 4 (dk_at dksX1_matrixWith_0 6 rfl rfl)
theorem dX1_matrixWith_8 : decode cX1_matrixWith 8 = .ok (.iload_n 3, 1) := dk_29 (dk_at dksX1_matrixWith_0 8 rfl rfl)
theorem dX1_matrixWith_9 : decode cX1_matrixWith 9 = .ok (.i2l, 1) := dk_133 (dk_at dksX1_matrixWith_0 9 rfl rfl)
theorem dX1_matrixWith_10 : decode cX1_matrixWith 10 = .ok (.lconst 0, 1) := dk_9 (dk_at dksX1_matrixWith_0 10 rfl rfl)
theorem dX1_matrixWith_11 : decode cX1_matrixWith 11 = .ok (.aload 4, 2) := dk_25 4 (dk_at dksX1_matrixWith_0 11 rfl rfl)
theorem dX1_matrixWith_13 : decode cX1_matrixWith 13 = .ok (.getfield 167, 3) := dk_180 0 167 (dk_at dksX1_matrixWith_0 13 rfl rfl)
theorem dX1_matrixWith_16 : decode cX1_matrixWith 16 = .ok (.iconst 1, 1) := dk_4 (dk_at dksX1_matrixWith_0 16 rfl rfl)
theorem dX1_matrixWith_17 : decode cX1_matrixWith 17 = .ok (.isub, 1) := dk_100 (dk_at dksX1_matrixWith_0 17 rfl rfl)
theorem dX1_matrixWith_18 : decode cX1_matrixWith 18 = .ok (.i2l, 1) := dk_133 (dk_at dksX1_matrixWith_0 18 rfl rfl)
theorem dX1_matrixWith_19 : decode cX1_matrixWith 19 = .ok (.invokestatic 143, 3) := dk_184 0 143 (dk_at dksX1_matrixWith_0 19 rfl rfl)
theorem dX1_matrixWith_22 : decode cX1_matrixWith 22 = .ok (.invokestatic 147, 3) := dk_184 0 147 (dk_at dksX1_matrixWith_1 0 rfl rfl)
theorem dX1_matrixWith_25 : decode cX1_matrixWith 25 = .ok (.aload 4, 2) := dk_25 4 (dk_at dksX1_matrixWith_1 3 rfl rfl)
theorem dX1_matrixWith_27 : decode cX1_matrixWith 27 = .ok (.areturn, 1) := dk_176 (dk_at dksX1_matrixWith_1 5 rfl rfl)
abbrev cX1_matrixWithRow : ByteArray := prog_1_method_13_code
def yX1_matrixWithRow : MethodName := ⟨RX1, "matrixWithRow", "(II)LCsrCalculator$Csr;"⟩
def dkwX1_matrixWithRow_0 : List UInt8 := [42, 27, 182, 0, 155, 78, 28, 133, 9, 45, 180, 0, 158, 4, 100, 133, 184, 0, 143, 184, 0, 147, 45, 176]
abbrev dktX1_matrixWithRow_0 : List UInt8 := dkwX1_matrixWithRow_0 ++ []
theorem dksX1_matrixWithRow_0 : cX1_matrixWithRow.data.toList.drop 0 = dktX1_matrixWithRow_0 := by decide +kernel
theorem dX1_matrixWithRow_0 : decode cX1_matrixWithRow 0 = .ok (.aload_n 0, 1) := dk_42 (dk_at dksX1_matrixWithRow_0 0 rfl rfl)
theorem dX1_matrixWithRow_1 : decode cX1_matrixWithRow 1 = .ok (.iload_n 1, 1) := dk_27 (dk_at dksX1_matrixWithRow_0 1 rfl rfl)
theorem dX1_matrixWithRow_2 : decode cX1_matrixWithRow 2 = .ok (.invokevirtual 155, 3) := dk_182 0 155 (dk_at dksX1_matrixWithRow_0 2 rfl rfl)
theorem dX1_matrixWithRow_5 : decode cX1_matrixWithRow 5 = .ok (.astore_n 3, 1) := dk_78 (dk_at dksX1_matrixWithRow_0 5 rfl rfl)
theorem dX1_matrixWithRow_6 : decode cX1_matrixWithRow 6 = .ok (.iload_n 2, 1) := dk_28 (dk_at dksX1_matrixWithRow_0 6 rfl rfl)
theorem dX1_matrixWithRow_7 : decode cX1_matrixWithRow 7 = .ok (.i2l, 1) := dk_133 (dk_at dksX1_matrixWithRow_0 7 rfl rfl)
theorem dX1_matrixWithRow_8 : decode cX1_matrixWithRow 8 = .ok (.lconst 0, 1) := dk_9 (dk_at dksX1_matrixWithRow_0 8 rfl rfl)
theorem dX1_matrixWithRow_9 : decode cX1_matrixWithRow 9 = .ok (.aload_n 3, 1) := dk_45 (dk_at dksX1_matrixWithRow_0 9 rfl rfl)
theorem dX1_matrixWithRow_10 : decode cX1_matrixWithRow 10 = .ok (.getfield 158, 3) := dk_180 0 158 (dk_at dksX1_matrixWithRow_0 10 rfl rfl)
theorem dX1_matrixWithRow_13 : decode cX1_matrixWithRow 13 = .ok (.iconst 1, 1) := dk_4 (dk_at dksX1_matrixWithRow_0 13 rfl rfl)
theorem dX1_matrixWithRow_14 : decode cX1_matrixWithRow 14 = .ok (.isub, 1) := dk_100 (dk_at dksX1_matrixWithRow_0 14 rfl rfl)
theorem dX1_matrixWithRow_15 : decode cX1_matrixWithRow 15 = .ok (.i2l, 1) := dk_133 (dk_at dksX1_matrixWithRow_0 15 rfl rfl)
theorem dX1_matrixWithRow_16 : decode cX1_matrixWithRow 16 = .ok (.invokestatic 143, 3) := dk_184 0 143 (dk_at dksX1_matrixWithRow_0 16 rfl rfl)
theorem dX1_matrixWithRow_19 : decode cX1_matrixWithRow 19 = .ok (.invokestatic 147, 3) := dk_184 0 147 (dk_at dksX1_matrixWithRow_0 19 rfl rfl)
theorem dX1_matrixWithRow_22 : decode cX1_matrixWithRow 22 = .ok (.aload_n 3, 1) := dk_45 (dk_at dksX1_matrixWithRow_0 22 rfl rfl)
theorem dX1_matrixWithRow_23 : decode cX1_matrixWithRow 23 = .ok (.areturn, 1) := dk_176 (dk_at dksX1_matrixWithRow_0 23 rfl rfl)
abbrev cX1_lambda_setNow_0 : ByteArray := prog_1_method_90_code
def yX1_lambda_setNow_0 : MethodName := ⟨RX1, "lambda$setNow$0", "(LCsrCalculator$Csr;III)LCsrCalculator$Csr;"⟩
def dkwX1_lambda_setNow_0_0 : List UInt8 := [42, 27, 28, 29, 182, 1, 179, 176]
abbrev dktX1_lambda_setNow_0_0 : List UInt8 := dkwX1_lambda_setNow_0_0 ++ []
theorem dksX1_lambda_setNow_0_0 : cX1_lambda_setNow_0.data.toList.drop 0 = dktX1_lambda_setNow_0_0 := by decide +kernel
theorem dX1_lambda_setNow_0_0 : decode cX1_lambda_setNow_0 0 = .ok (.aload_n 0, 1) := dk_42 (dk_at dksX1_lambda_setNow_0_0 0 rfl rfl)
theorem dX1_lambda_setNow_0_1 : decode cX1_lambda_setNow_0 1 = .ok (.iload_n 1, 1) := dk_27 (dk_at dksX1_lambda_setNow_0_0 1 rfl rfl)
theorem dX1_lambda_setNow_0_2 : decode cX1_lambda_setNow_0 2 = .ok (.iload_n 2, 1) := dk_28 (dk_at dksX1_lambda_setNow_0_0 2 rfl rfl)
theorem dX1_lambda_setNow_0_3 : decode cX1_lambda_setNow_0 3 = .ok (.iload_n 3, 1) := dk_29 (dk_at dksX1_lambda_setNow_0_0 3 rfl rfl)
theorem dX1_lambda_setNow_0_4 : decode cX1_lambda_setNow_0 4 = .ok (.invokevirtual 435, 3) := dk_182 1 179 (dk_at dksX1_lambda_setNow_0_0 4 rfl rfl)
theorem dX1_lambda_setNow_0_7 : decode cX1_lambda_setNow_0 7 = .ok (.areturn, 1) := dk_176 (dk_at dksX1_lambda_setNow_0_0 7 rfl rfl)
abbrev cX1_of : ByteArray := prog_1_method_58_code
def yX1_of : MethodName := ⟨RX1, "of", "(LCsrCalculator$Operation;)LCsrCalculator$Csr;"⟩
def dkwX1_of_0 : List UInt8 := [42, 185, 1, 82, 1, 0, 176, 76, 187, 0, 72, 89, 183, 0, 140, 191]
abbrev dktX1_of_0 : List UInt8 := dkwX1_of_0 ++ []
theorem dksX1_of_0 : cX1_of.data.toList.drop 0 = dktX1_of_0 := by decide +kernel
theorem dX1_of_0 : decode cX1_of 0 = .ok (.aload_n 0, 1) := dk_42 (dk_at dksX1_of_0 0 rfl rfl)
theorem dX1_of_1 : decode cX1_of 1 = .ok (.invokeinterface 338 1, 5) := by decide +kernel
theorem dX1_of_6 : decode cX1_of 6 = .ok (.areturn, 1) := dk_176 (dk_at dksX1_of_0 6 rfl rfl)
theorem dX1_of_7 : decode cX1_of 7 = .ok (.astore_n 1, 1) := dk_76 (dk_at dksX1_of_0 7 rfl rfl)
theorem dX1_of_8 : decode cX1_of 8 = .ok (.new 72, 3) := dk_187 0 72 (dk_at dksX1_of_0 8 rfl rfl)
theorem dX1_of_11 : decode cX1_of 11 = .ok (.dup, 1) := dk_89 (dk_at dksX1_of_0 11 rfl rfl)
theorem dX1_of_12 : decode cX1_of 12 = .ok (.invokespecial 140, 3) := dk_183 0 140 (dk_at dksX1_of_0 12 rfl rfl)
theorem dX1_of_15 : decode cX1_of 15 = .ok (.athrow, 1) := dk_191 (dk_at dksX1_of_0 15 rfl rfl)
abbrev cX1_letNow : ByteArray := prog_1_method_68_code
def yX1_letNow : MethodName := ⟨RX1, "letNow", "(ILCsrCalculator$Expr;)I"⟩
def dkwX1_letNow_1 : List UInt8 := [187, 0, 72, 89, 183, 0, 140, 191]
abbrev dktX1_letNow_1 : List UInt8 := dkwX1_letNow_1 ++ []
def dkwX1_letNow_0 : List UInt8 := [42, 180, 0, 120, 27, 44, 182, 1, 126, 42, 180, 0, 120, 180, 0, 151, 27, 50, 182, 0, 170, 172, 78]
abbrev dktX1_letNow_0 : List UInt8 := dkwX1_letNow_0 ++ dktX1_letNow_1
theorem dksX1_letNow_0 : cX1_letNow.data.toList.drop 0 = dktX1_letNow_0 := by decide +kernel
theorem dksX1_letNow_1 : cX1_letNow.data.toList.drop 23 = dktX1_letNow_1 := dk_seg dksX1_letNow_0 23 rfl rfl
theorem dX1_letNow_0 : decode cX1_letNow 0 = .ok (.aload_n 0, 1) := dk_42 (dk_at dksX1_letNow_0 0 rfl rfl)
theorem dX1_letNow_1 : decode cX1_letNow 1 = .ok (.getfield 120, 3) := dk_180 0 120 (dk_at dksX1_letNow_0 1 rfl rfl)
theorem dX1_letNow_4 : decode cX1_letNow 4 = .ok (.iload_n 1, 1) := dk_27 (dk_at dksX1_letNow_0 4 rfl rfl)
theorem dX1_letNow_5 : decode cX1_letNow 5 = .ok (.aload_n 2, 1) := dk_44 (dk_at dksX1_letNow_0 5 rfl rfl)
theorem dX1_letNow_6 : decode cX1_letNow 6 = .ok (.invokevirtual 382, 3) := dk_182 1 126 (dk_at dksX1_letNow_0 6 rfl rfl)
theorem dX1_letNow_9 : decode cX1_letNow 9 = .ok (.aload_n 0, 1) := dk_42 (dk_at dksX1_letNow_0 9 rfl rfl)
theorem dX1_letNow_10 : decode cX1_letNow 10 = .ok (.getfield 120, 3) := dk_180 0 120 (dk_at dksX1_letNow_0 10 rfl rfl)
theorem dX1_letNow_13 : decode cX1_letNow 13 = .ok (.getfield 151, 3) := dk_180 0 151 (dk_at dksX1_letNow_0 13 rfl rfl)
theorem dX1_letNow_16 : decode cX1_letNow 16 = .ok (.iload_n 1, 1) := dk_27 (dk_at dksX1_letNow_0 16 rfl rfl)
theorem dX1_letNow_17 : decode cX1_letNow 17 = .ok (.aaload, 1) := dk_50 (dk_at dksX1_letNow_0 17 rfl rfl)
theorem dX1_letNow_18 : decode cX1_letNow 18 = .ok (.invokevirtual 170, 3) := dk_182 0 170 (dk_at dksX1_letNow_0 18 rfl rfl)
theorem dX1_letNow_21 : decode cX1_letNow 21 = .ok (.ireturn, 1) := dk_172 (dk_at dksX1_letNow_0 21 rfl rfl)
theorem dX1_letNow_22 : decode cX1_letNow 22 = .ok (.astore_n 3, 1) := dk_78 (dk_at dksX1_letNow_0 22 rfl rfl)
theorem dX1_letNow_23 : decode cX1_letNow 23 = .ok (.new 72, 3) := dk_187 0 72 (dk_at dksX1_letNow_1 0 rfl rfl)
theorem dX1_letNow_26 : decode cX1_letNow 26 = .ok (.dup, 1) := dk_89 (dk_at dksX1_letNow_1 3 rfl rfl)
theorem dX1_letNow_27 : decode cX1_letNow 27 = .ok (.invokespecial 140, 3) := dk_183 0 140 (dk_at dksX1_letNow_1 4 rfl rfl)
theorem dX1_letNow_30 : decode cX1_letNow 30 = .ok (.athrow, 1) := dk_191 (dk_at dksX1_letNow_1 7 rfl rfl)
abbrev cX1_dropNow : ByteArray := prog_1_method_62_code
def yX1_dropNow : MethodName := ⟨RX1, "dropNow", "(I)I"⟩
def dkwX1_dropNow_1 : List UInt8 := [182, 1, 92, 100, 172]
abbrev dktX1_dropNow_1 : List UInt8 := dkwX1_dropNow_1 ++ []
def dkwX1_dropNow_0 : List UInt8 := [42, 27, 182, 0, 155, 77, 44, 182, 0, 170, 42, 180, 0, 120, 27, 44, 186, 1, 110, 0, 0, 184, 1, 103]
abbrev dktX1_dropNow_0 : List UInt8 := dkwX1_dropNow_0 ++ dktX1_dropNow_1
theorem dksX1_dropNow_0 : cX1_dropNow.data.toList.drop 0 = dktX1_dropNow_0 := by decide +kernel
theorem dksX1_dropNow_1 : cX1_dropNow.data.toList.drop 24 = dktX1_dropNow_1 := dk_seg dksX1_dropNow_0 24 rfl rfl
theorem dX1_dropNow_0 : decode cX1_dropNow 0 = .ok (.aload_n 0, 1) := dk_42 (dk_at dksX1_dropNow_0 0 rfl rfl)
theorem dX1_dropNow_1 : decode cX1_dropNow 1 = .ok (.iload_n 1, 1) := dk_27 (dk_at dksX1_dropNow_0 1 rfl rfl)
theorem dX1_dropNow_2 : decode cX1_dropNow 2 = .ok (.invokevirtual 155, 3) := dk_182 0 155 (dk_at dksX1_dropNow_0 2 rfl rfl)
theorem dX1_dropNow_5 : decode cX1_dropNow 5 = .ok (.astore_n 2, 1) := dk_77 (dk_at dksX1_dropNow_0 5 rfl rfl)
theorem dX1_dropNow_6 : decode cX1_dropNow 6 = .ok (.aload_n 2, 1) := dk_44 (dk_at dksX1_dropNow_0 6 rfl rfl)
theorem dX1_dropNow_7 : decode cX1_dropNow 7 = .ok (.invokevirtual 170, 3) := dk_182 0 170 (dk_at dksX1_dropNow_0 7 rfl rfl)
theorem dX1_dropNow_10 : decode cX1_dropNow 10 = .ok (.aload_n 0, 1) := dk_42 (dk_at dksX1_dropNow_0 10 rfl rfl)
theorem dX1_dropNow_11 : decode cX1_dropNow 11 = .ok (.getfield 120, 3) := dk_180 0 120 (dk_at dksX1_dropNow_0 11 rfl rfl)
theorem dX1_dropNow_14 : decode cX1_dropNow 14 = .ok (.iload_n 1, 1) := dk_27 (dk_at dksX1_dropNow_0 14 rfl rfl)
theorem dX1_dropNow_15 : decode cX1_dropNow 15 = .ok (.aload_n 2, 1) := dk_44 (dk_at dksX1_dropNow_0 15 rfl rfl)
theorem dX1_dropNow_16 : decode cX1_dropNow 16 = .ok (.invokedynamic 366, 5) := by decide +kernel
theorem dX1_dropNow_21 : decode cX1_dropNow 21 = .ok (.invokestatic 359, 3) := dk_184 1 103 (dk_at dksX1_dropNow_0 21 rfl rfl)
theorem dX1_dropNow_24 : decode cX1_dropNow 24 = .ok (.invokevirtual 348, 3) := dk_182 1 92 (dk_at dksX1_dropNow_1 0 rfl rfl)
theorem dX1_dropNow_27 : decode cX1_dropNow 27 = .ok (.isub, 1) := dk_100 (dk_at dksX1_dropNow_1 3 rfl rfl)
theorem dX1_dropNow_28 : decode cX1_dropNow 28 = .ok (.ireturn, 1) := dk_172 (dk_at dksX1_dropNow_1 4 rfl rfl)
abbrev cX1_lambda_dropNow_2 : ByteArray := prog_1_method_88_code
def yX1_lambda_dropNow_2 : MethodName := ⟨RX1, "lambda$dropNow$2", "(LCsrCalculator$Csr;)LCsrCalculator$Csr;"⟩
theorem dX1_lambda_dropNow_2_0 : decode cX1_lambda_dropNow_2 0 = .ok (.aload_n 0, 1) := by decide +kernel
theorem dX1_lambda_dropNow_2_1 : decode cX1_lambda_dropNow_2 1 = .ok (.invokevirtual 429, 3) := by decide +kernel
theorem dX1_lambda_dropNow_2_4 : decode cX1_lambda_dropNow_2 4 = .ok (.areturn, 1) := by decide +kernel
abbrev cX1_eraseNow : ByteArray := prog_1_method_61_code
def yX1_eraseNow : MethodName := ⟨RX1, "eraseNow", "(III)I"⟩
def dkwX1_eraseNow_2 : List UInt8 := [172]
abbrev dktX1_eraseNow_2 : List UInt8 := dkwX1_eraseNow_2 ++ []
def dkwX1_eraseNow_1 : List UInt8 := [25, 4, 28, 29, 186, 1, 107, 0, 0, 184, 1, 103, 182, 1, 92, 54, 5, 25, 4, 28, 29, 182, 0, 244]
abbrev dktX1_eraseNow_1 : List UInt8 := dkwX1_eraseNow_1 ++ dktX1_eraseNow_2
def dkwX1_eraseNow_0 : List UInt8 := [42, 27, 28, 29, 182, 0, 240, 58, 4, 25, 4, 28, 29, 182, 1, 49, 184, 0, 176, 42, 180, 0, 120, 27]
abbrev dktX1_eraseNow_0 : List UInt8 := dkwX1_eraseNow_0 ++ dktX1_eraseNow_1
theorem dksX1_eraseNow_0 : cX1_eraseNow.data.toList.drop 0 = dktX1_eraseNow_0 := by decide +kernel
theorem dksX1_eraseNow_1 : cX1_eraseNow.data.toList.drop 24 = dktX1_eraseNow_1 := dk_seg dksX1_eraseNow_0 24 rfl rfl
theorem dksX1_eraseNow_2 : cX1_eraseNow.data.toList.drop 48 = dktX1_eraseNow_2 := dk_seg dksX1_eraseNow_1 24 rfl rfl
theorem dX1_eraseNow_0 : decode cX1_eraseNow 0 = .ok (.aload_n 0, 1) := dk_42 (dk_at dksX1_eraseNow_0 0 rfl rfl)
theorem dX1_eraseNow_1 : decode cX1_eraseNow 1 = .ok (.iload_n 1, 1) := dk_27 (dk_at dksX1_eraseNow_0 1 rfl rfl)
theorem dX1_eraseNow_2 : decode cX1_eraseNow 2 = .ok (.iload_n 2, 1) := dk_28 (dk_at dksX1_eraseNow_0 2 rfl rfl)
theorem dX1_eraseNow_3 : decode cX1_eraseNow 3 = .ok (.iload_n 3, 1) := dk_29 (dk_at dksX1_eraseNow_0 3 rfl rfl)
theorem dX1_eraseNow_4 : decode cX1_eraseNow 4 = .ok (.invokevirtual 240, 3) := dk_182 0 240 (dk_at dksX1_eraseNow_0 4 rfl rfl)
theorem dX1_eraseNow_7 : decode cX1_eraseNow 7 = .ok (.astore 4, 2) := dk_58 4 (dk_at dksX1_eraseNow_0 7 rfl rfl)
theorem dX1_eraseNow_9 : decode cX1_eraseNow 9 = .ok (.aload 4, 2) := dk_25 4 (dk_at dksX1_eraseNow_0 9 rfl rfl)
theorem dX1_eraseNow_11 : decode cX1_eraseNow 11 = .ok (.iload_n 2, 1) := dk_28 (dk_at dksX1_eraseNow_0 11 rfl rfl)
theorem dX1_eraseNow_12 : decode cX1_eraseNow 12 = .ok (.iload_n 3, 1) := dk_29 (dk_at dksX1_eraseNow_0 12 rfl rfl)
theorem dX1_eraseNow_13 : decode cX1_eraseNow 13 = .ok (.invokevirtual 305, 3) := dk_182 1 49 (dk_at dksX1_eraseNow_0 13 rfl rfl)
theorem dX1_eraseNow_16 : decode cX1_eraseNow 16 = .ok (.invokestatic 176, 3) := dk_184 0 176 (dk_at dksX1_eraseNow_0 16 rfl rfl)
theorem dX1_eraseNow_19 : decode cX1_eraseNow 19 = .ok (.aload_n 0, 1) := dk_42 (dk_at dksX1_eraseNow_0 19 rfl rfl)
theorem dX1_eraseNow_20 : decode cX1_eraseNow 20 = .ok (.getfield 120, 3) := dk_180 0 120 (dk_at dksX1_eraseNow_0 20 rfl rfl)
theorem dX1_eraseNow_23 : decode cX1_eraseNow 23 = .ok (.iload_n 1, 1) := dk_27 (dk_at dksX1_eraseNow_0 23 rfl rfl)
theorem dX1_eraseNow_24 : decode cX1_eraseNow 24 = .ok (.aload 4, 2) := dk_25 4 (dk_at dksX1_eraseNow_1 0 rfl rfl)
theorem dX1_eraseNow_26 : decode cX1_eraseNow 26 = .ok (.iload_n 2, 1) := dk_28 (dk_at dksX1_eraseNow_1 2 rfl rfl)
theorem dX1_eraseNow_27 : decode cX1_eraseNow 27 = .ok (.iload_n 3, 1) := dk_29 (dk_at dksX1_eraseNow_1 3 rfl rfl)
theorem dX1_eraseNow_28 : decode cX1_eraseNow 28 = .ok (.invokedynamic 363, 5) := by decide +kernel
theorem dX1_eraseNow_33 : decode cX1_eraseNow 33 = .ok (.invokestatic 359, 3) := dk_184 1 103 (dk_at dksX1_eraseNow_1 9 rfl rfl)
theorem dX1_eraseNow_36 : decode cX1_eraseNow 36 = .ok (.invokevirtual 348, 3) := dk_182 1 92 (dk_at dksX1_eraseNow_1 12 rfl rfl)
theorem dX1_eraseNow_39 : decode cX1_eraseNow 39 = .ok (.istore 5, 2) := dk_54 5 (dk_at dksX1_eraseNow_1 15 rfl rfl)
theorem dX1_eraseNow_41 : decode cX1_eraseNow 41 = .ok (.aload 4, 2) := dk_25 4 (dk_at dksX1_eraseNow_1 17 rfl rfl)
theorem dX1_eraseNow_43 : decode cX1_eraseNow 43 = .ok (.iload_n 2, 1) := dk_28 (dk_at dksX1_eraseNow_1 19 rfl rfl)
theorem dX1_eraseNow_44 : decode cX1_eraseNow 44 = .ok (.iload_n 3, 1) := dk_29 (dk_at dksX1_eraseNow_1 20 rfl rfl)
theorem dX1_eraseNow_45 : decode cX1_eraseNow 45 = .ok (.invokevirtual 244, 3) := dk_182 0 244 (dk_at dksX1_eraseNow_1 21 rfl rfl)
theorem dX1_eraseNow_48 : decode cX1_eraseNow 48 = .ok (.ireturn, 1) := dk_172 (dk_at dksX1_eraseNow_2 0 rfl rfl)
abbrev cX1_lambda_eraseNow_1 : ByteArray := prog_1_method_89_code
def yX1_lambda_eraseNow_1 : MethodName := ⟨RX1, "lambda$eraseNow$1", "(LCsrCalculator$Csr;II)LCsrCalculator$Csr;"⟩
def dkwX1_lambda_eraseNow_1_0 : List UInt8 := [42, 27, 28, 182, 1, 176, 176]
abbrev dktX1_lambda_eraseNow_1_0 : List UInt8 := dkwX1_lambda_eraseNow_1_0 ++ []
theorem dksX1_lambda_eraseNow_1_0 : cX1_lambda_eraseNow_1.data.toList.drop 0 = dktX1_lambda_eraseNow_1_0 := by decide +kernel
theorem dX1_lambda_eraseNow_1_0 : decode cX1_lambda_eraseNow_1 0 = .ok (.aload_n 0, 1) := dk_42 (dk_at dksX1_lambda_eraseNow_1_0 0 rfl rfl)
theorem dX1_lambda_eraseNow_1_1 : decode cX1_lambda_eraseNow_1 1 = .ok (.iload_n 1, 1) := dk_27 (dk_at dksX1_lambda_eraseNow_1_0 1 rfl rfl)
theorem dX1_lambda_eraseNow_1_2 : decode cX1_lambda_eraseNow_1 2 = .ok (.iload_n 2, 1) := dk_28 (dk_at dksX1_lambda_eraseNow_1_0 2 rfl rfl)
theorem dX1_lambda_eraseNow_1_3 : decode cX1_lambda_eraseNow_1 3 = .ok (.invokevirtual 432, 3) := dk_182 1 176 (dk_at dksX1_lambda_eraseNow_1_0 3 rfl rfl)
theorem dX1_lambda_eraseNow_1_6 : decode cX1_lambda_eraseNow_1 6 = .ok (.areturn, 1) := dk_176 (dk_at dksX1_lambda_eraseNow_1_0 6 rfl rfl)
abbrev cX1_swapNow : ByteArray := prog_1_method_63_code
def yX1_swapNow : MethodName := ⟨RX1, "swapNow", "(III)I"⟩
def dkwX1_swapNow_3 : List UInt8 := [172]
abbrev dktX1_swapNow_3 : List UInt8 := dkwX1_swapNow_3 ++ []
def dkwX1_swapNow_2 : List UInt8 := [54, 5, 25, 4, 28, 182, 0, 254, 28, 29, 160, 0, 7, 3, 167, 0, 9, 25, 4, 29, 182, 0, 254, 96]
abbrev dktX1_swapNow_2 : List UInt8 := dkwX1_swapNow_2 ++ dktX1_swapNow_3
def dkwX1_swapNow_1 : List UInt8 := [184, 0, 147, 42, 180, 0, 120, 27, 25, 4, 28, 29, 186, 1, 113, 0, 0, 184, 1, 103, 182, 1, 92]
abbrev dktX1_swapNow_1 : List UInt8 := dkwX1_swapNow_1 ++ dktX1_swapNow_2
def dkwX1_swapNow_0 : List UInt8 := [42, 27, 28, 182, 0, 163, 58, 4, 29, 133, 9, 25, 4, 180, 0, 158, 4, 100, 133, 184, 0, 143]
abbrev dktX1_swapNow_0 : List UInt8 := dkwX1_swapNow_0 ++ dktX1_swapNow_1
theorem dksX1_swapNow_0 : cX1_swapNow.data.toList.drop 0 = dktX1_swapNow_0 := by decide +kernel
theorem dksX1_swapNow_1 : cX1_swapNow.data.toList.drop 22 = dktX1_swapNow_1 := dk_seg dksX1_swapNow_0 22 rfl rfl
theorem dksX1_swapNow_2 : cX1_swapNow.data.toList.drop 45 = dktX1_swapNow_2 := dk_seg dksX1_swapNow_1 23 rfl rfl
theorem dksX1_swapNow_3 : cX1_swapNow.data.toList.drop 69 = dktX1_swapNow_3 := dk_seg dksX1_swapNow_2 24 rfl rfl
theorem dX1_swapNow_0 : decode cX1_swapNow 0 = .ok (.aload_n 0, 1) := dk_42 (dk_at dksX1_swapNow_0 0 rfl rfl)
theorem dX1_swapNow_1 : decode cX1_swapNow 1 = .ok (.iload_n 1, 1) := dk_27 (dk_at dksX1_swapNow_0 1 rfl rfl)
theorem dX1_swapNow_2 : decode cX1_swapNow 2 = .ok (.iload_n 2, 1) := dk_28 (dk_at dksX1_swapNow_0 2 rfl rfl)
theorem dX1_swapNow_3 : decode cX1_swapNow 3 = .ok (.invokevirtual 163, 3) := dk_182 0 163 (dk_at dksX1_swapNow_0 3 rfl rfl)
theorem dX1_swapNow_6 : decode cX1_swapNow 6 = .ok (.astore 4, 2) := dk_58 4 (dk_at dksX1_swapNow_0 6 rfl rfl)
theorem dX1_swapNow_8 : decode cX1_swapNow 8 = .ok (.iload_n 3, 1) := dk_29 (dk_at dksX1_swapNow_0 8 rfl rfl)
theorem dX1_swapNow_9 : decode cX1_swapNow 9 = .ok (.i2l, 1) := dk_133 (dk_at dksX1_swapNow_0 9 rfl rfl)
theorem dX1_swapNow_10 : decode cX1_swapNow 10 = .ok (.lconst 0, 1) := dk_9 (dk_at dksX1_swapNow_0 10 rfl rfl)
theorem dX1_swapNow_11 : decode cX1_swapNow 11 = .ok (.aload 4, 2) := dk_25 4 (dk_at dksX1_swapNow_0 11 rfl rfl)
theorem dX1_swapNow_13 : decode cX1_swapNow 13 = .ok (.getfield 158, 3) := dk_180 0 158 (dk_at dksX1_swapNow_0 13 rfl rfl)
theorem dX1_swapNow_16 : decode cX1_swapNow 16 = .ok (.iconst 1, 1) := dk_4 (dk_at dksX1_swapNow_0 16 rfl rfl)
theorem dX1_swapNow_17 : decode cX1_swapNow 17 = .ok (.isub, 1) := dk_100 (dk_at dksX1_swapNow_0 17 rfl rfl)
theorem dX1_swapNow_18 : decode cX1_swapNow 18 = .ok (.i2l, 1) := dk_133 (dk_at dksX1_swapNow_0 18 rfl rfl)
theorem dX1_swapNow_19 : decode cX1_swapNow 19 = .ok (.invokestatic 143, 3) := dk_184 0 143 (dk_at dksX1_swapNow_0 19 rfl rfl)
theorem dX1_swapNow_22 : decode cX1_swapNow 22 = .ok (.invokestatic 147, 3) := dk_184 0 147 (dk_at dksX1_swapNow_1 0 rfl rfl)
theorem dX1_swapNow_25 : decode cX1_swapNow 25 = .ok (.aload_n 0, 1) := dk_42 (dk_at dksX1_swapNow_1 3 rfl rfl)
theorem dX1_swapNow_26 : decode cX1_swapNow 26 = .ok (.getfield 120, 3) := dk_180 0 120 (dk_at dksX1_swapNow_1 4 rfl rfl)
theorem dX1_swapNow_29 : decode cX1_swapNow 29 = .ok (.iload_n 1, 1) := dk_27 (dk_at dksX1_swapNow_1 7 rfl rfl)
theorem dX1_swapNow_30 : decode cX1_swapNow 30 = .ok (.aload 4, 2) := dk_25 4 (dk_at dksX1_swapNow_1 8 rfl rfl)
theorem dX1_swapNow_32 : decode cX1_swapNow 32 = .ok (.iload_n 2, 1) := dk_28 (dk_at dksX1_swapNow_1 10 rfl rfl)
theorem dX1_swapNow_33 : decode cX1_swapNow 33 = .ok (.iload_n 3, 1) := dk_29 (dk_at dksX1_swapNow_1 11 rfl rfl)
theorem dX1_swapNow_34 : decode cX1_swapNow 34 = .ok (.invokedynamic 369, 5) := by decide +kernel
theorem dX1_swapNow_39 : decode cX1_swapNow 39 = .ok (.invokestatic 359, 3) := dk_184 1 103 (dk_at dksX1_swapNow_1 17 rfl rfl)
theorem dX1_swapNow_42 : decode cX1_swapNow 42 = .ok (.invokevirtual 348, 3) := dk_182 1 92 (dk_at dksX1_swapNow_1 20 rfl rfl)
theorem dX1_swapNow_45 : decode cX1_swapNow 45 = .ok (.istore 5, 2) := dk_54 5 (dk_at dksX1_swapNow_2 0 rfl rfl)
theorem dX1_swapNow_47 : decode cX1_swapNow 47 = .ok (.aload 4, 2) := dk_25 4 (dk_at dksX1_swapNow_2 2 rfl rfl)
theorem dX1_swapNow_49 : decode cX1_swapNow 49 = .ok (.iload_n 2, 1) := dk_28 (dk_at dksX1_swapNow_2 4 rfl rfl)
theorem dX1_swapNow_50 : decode cX1_swapNow 50 = .ok (.invokevirtual 254, 3) := dk_182 0 254 (dk_at dksX1_swapNow_2 5 rfl rfl)
theorem dX1_swapNow_53 : decode cX1_swapNow 53 = .ok (.iload_n 2, 1) := dk_28 (dk_at dksX1_swapNow_2 8 rfl rfl)
theorem dX1_swapNow_54 : decode cX1_swapNow 54 = .ok (.iload_n 3, 1) := dk_29 (dk_at dksX1_swapNow_2 9 rfl rfl)
theorem dX1_swapNow_55 : decode cX1_swapNow 55 = .ok (.if_icmp .ne 7, 3) := dk_160 0 7 (dk_at dksX1_swapNow_2 10 rfl rfl)
theorem dX1_swapNow_58 : decode cX1_swapNow 58 = .ok (.iconst 0, 1) := dk_3 (dk_at dksX1_swapNow_2 13 rfl rfl)
theorem dX1_swapNow_59 : decode cX1_swapNow 59 = .ok (.goto 9, 3) := dk_167 0 9 (dk_at dksX1_swapNow_2 14 rfl rfl)
theorem dX1_swapNow_62 : decode cX1_swapNow 62 = .ok (.aload 4, 2) := dk_25 4 (dk_at dksX1_swapNow_2 17 rfl rfl)
theorem dX1_swapNow_64 : decode cX1_swapNow 64 = .ok (.iload_n 3, 1) := dk_29 (dk_at dksX1_swapNow_2 19 rfl rfl)
theorem dX1_swapNow_65 : decode cX1_swapNow 65 = .ok (.invokevirtual 254, 3) := dk_182 0 254 (dk_at dksX1_swapNow_2 20 rfl rfl)
theorem dX1_swapNow_68 : decode cX1_swapNow 68 = .ok (.iadd, 1) := dk_96 (dk_at dksX1_swapNow_2 23 rfl rfl)
theorem dX1_swapNow_69 : decode cX1_swapNow 69 = .ok (.ireturn, 1) := dk_172 (dk_at dksX1_swapNow_3 0 rfl rfl)
abbrev cX1_lambda_swapNow_3 : ByteArray := prog_1_method_87_code
def yX1_lambda_swapNow_3 : MethodName := ⟨RX1, "lambda$swapNow$3", "(LCsrCalculator$Csr;II)LCsrCalculator$Csr;"⟩
def dkwX1_lambda_swapNow_3_0 : List UInt8 := [42, 27, 28, 182, 1, 170, 176]
abbrev dktX1_lambda_swapNow_3_0 : List UInt8 := dkwX1_lambda_swapNow_3_0 ++ []
theorem dksX1_lambda_swapNow_3_0 : cX1_lambda_swapNow_3.data.toList.drop 0 = dktX1_lambda_swapNow_3_0 := by decide +kernel
theorem dX1_lambda_swapNow_3_0 : decode cX1_lambda_swapNow_3 0 = .ok (.aload_n 0, 1) := dk_42 (dk_at dksX1_lambda_swapNow_3_0 0 rfl rfl)
theorem dX1_lambda_swapNow_3_1 : decode cX1_lambda_swapNow_3 1 = .ok (.iload_n 1, 1) := dk_27 (dk_at dksX1_lambda_swapNow_3_0 1 rfl rfl)
theorem dX1_lambda_swapNow_3_2 : decode cX1_lambda_swapNow_3 2 = .ok (.iload_n 2, 1) := dk_28 (dk_at dksX1_lambda_swapNow_3_0 2 rfl rfl)
theorem dX1_lambda_swapNow_3_3 : decode cX1_lambda_swapNow_3 3 = .ok (.invokevirtual 426, 3) := dk_182 1 170 (dk_at dksX1_lambda_swapNow_3_0 3 rfl rfl)
theorem dX1_lambda_swapNow_3_6 : decode cX1_lambda_swapNow_3 6 = .ok (.areturn, 1) := dk_176 (dk_at dksX1_lambda_swapNow_3_0 6 rfl rfl)
abbrev cX1_kept : ByteArray := prog_1_method_57_code
def yX1_kept : MethodName := ⟨RX1, "kept", "(LCsrCalculator$World;I)I"⟩
def dkwX1_kept_1 : List UInt8 := [182, 1, 78, 192, 0, 117, 78, 28, 172]
abbrev dktX1_kept_1 : List UInt8 := dkwX1_kept_1 ++ []
def dkwX1_kept_0 : List UInt8 := [42, 180, 0, 127, 43, 182, 1, 73, 42, 180, 0, 127, 182, 1, 77, 16, 6, 164, 0, 14, 42, 180, 0, 127]
abbrev dktX1_kept_0 : List UInt8 := dkwX1_kept_0 ++ dktX1_kept_1
theorem dksX1_kept_0 : cX1_kept.data.toList.drop 0 = dktX1_kept_0 := by decide +kernel
theorem dksX1_kept_1 : cX1_kept.data.toList.drop 24 = dktX1_kept_1 := dk_seg dksX1_kept_0 24 rfl rfl
theorem dX1_kept_0 : decode cX1_kept 0 = .ok (.aload_n 0, 1) := dk_42 (dk_at dksX1_kept_0 0 rfl rfl)
theorem dX1_kept_1 : decode cX1_kept 1 = .ok (.getfield 127, 3) := dk_180 0 127 (dk_at dksX1_kept_0 1 rfl rfl)
theorem dX1_kept_4 : decode cX1_kept 4 = .ok (.aload_n 1, 1) := dk_43 (dk_at dksX1_kept_0 4 rfl rfl)
theorem dX1_kept_5 : decode cX1_kept 5 = .ok (.invokevirtual 329, 3) := dk_182 1 73 (dk_at dksX1_kept_0 5 rfl rfl)
theorem dX1_kept_8 : decode cX1_kept 8 = .ok (.aload_n 0, 1) := dk_42 (dk_at dksX1_kept_0 8 rfl rfl)
theorem dX1_kept_9 : decode cX1_kept 9 = .ok (.getfield 127, 3) := dk_180 0 127 (dk_at dksX1_kept_0 9 rfl rfl)
theorem dX1_kept_12 : decode cX1_kept 12 = .ok (.invokevirtual 333, 3) := dk_182 1 77 (dk_at dksX1_kept_0 12 rfl rfl)
theorem dX1_kept_15 : decode cX1_kept 15 = .ok (.bipush 6, 2) := dk_16 6 (dk_at dksX1_kept_0 15 rfl rfl)
theorem dX1_kept_17 : decode cX1_kept 17 = .ok (.if_icmp .le 14, 3) := dk_164 0 14 (dk_at dksX1_kept_0 17 rfl rfl)
theorem dX1_kept_20 : decode cX1_kept 20 = .ok (.aload_n 0, 1) := dk_42 (dk_at dksX1_kept_0 20 rfl rfl)
theorem dX1_kept_21 : decode cX1_kept 21 = .ok (.getfield 127, 3) := dk_180 0 127 (dk_at dksX1_kept_0 21 rfl rfl)
theorem dX1_kept_24 : decode cX1_kept 24 = .ok (.invokevirtual 334, 3) := dk_182 1 78 (dk_at dksX1_kept_1 0 rfl rfl)
theorem dX1_kept_27 : decode cX1_kept 27 = .ok (.checkcast 117, 3) := dk_192 0 117 (dk_at dksX1_kept_1 3 rfl rfl)
theorem dX1_kept_30 : decode cX1_kept 30 = .ok (.astore_n 3, 1) := dk_78 (dk_at dksX1_kept_1 6 rfl rfl)
theorem dX1_kept_31 : decode cX1_kept 31 = .ok (.iload_n 2, 1) := dk_28 (dk_at dksX1_kept_1 7 rfl rfl)
theorem dX1_kept_32 : decode cX1_kept 32 = .ok (.ireturn, 1) := dk_172 (dk_at dksX1_kept_1 8 rfl rfl)
abbrev cX1_rowCount : ByteArray := prog_1_method_24_code
def yX1_rowCount : MethodName := ⟨RX1, "rowCount", "(I)I"⟩
def dkwX1_rowCount_0 : List UInt8 := [42, 27, 182, 0, 155, 180, 0, 158, 172]
abbrev dktX1_rowCount_0 : List UInt8 := dkwX1_rowCount_0 ++ []
theorem dksX1_rowCount_0 : cX1_rowCount.data.toList.drop 0 = dktX1_rowCount_0 := by decide +kernel
theorem dX1_rowCount_0 : decode cX1_rowCount 0 = .ok (.aload_n 0, 1) := dk_42 (dk_at dksX1_rowCount_0 0 rfl rfl)
theorem dX1_rowCount_1 : decode cX1_rowCount 1 = .ok (.iload_n 1, 1) := dk_27 (dk_at dksX1_rowCount_0 1 rfl rfl)
theorem dX1_rowCount_2 : decode cX1_rowCount 2 = .ok (.invokevirtual 155, 3) := dk_182 0 155 (dk_at dksX1_rowCount_0 2 rfl rfl)
theorem dX1_rowCount_5 : decode cX1_rowCount 5 = .ok (.getfield 158, 3) := dk_180 0 158 (dk_at dksX1_rowCount_0 5 rfl rfl)
theorem dX1_rowCount_8 : decode cX1_rowCount 8 = .ok (.ireturn, 1) := dk_172 (dk_at dksX1_rowCount_0 8 rfl rfl)
abbrev cX1_columnCount : ByteArray := prog_1_method_25_code
def yX1_columnCount : MethodName := ⟨RX1, "columnCount", "(I)I"⟩
def dkwX1_columnCount_0 : List UInt8 := [42, 27, 182, 0, 155, 180, 0, 167, 172]
abbrev dktX1_columnCount_0 : List UInt8 := dkwX1_columnCount_0 ++ []
theorem dksX1_columnCount_0 : cX1_columnCount.data.toList.drop 0 = dktX1_columnCount_0 := by decide +kernel
theorem dX1_columnCount_0 : decode cX1_columnCount 0 = .ok (.aload_n 0, 1) := dk_42 (dk_at dksX1_columnCount_0 0 rfl rfl)
theorem dX1_columnCount_1 : decode cX1_columnCount 1 = .ok (.iload_n 1, 1) := dk_27 (dk_at dksX1_columnCount_0 1 rfl rfl)
theorem dX1_columnCount_2 : decode cX1_columnCount 2 = .ok (.invokevirtual 155, 3) := dk_182 0 155 (dk_at dksX1_columnCount_0 2 rfl rfl)
theorem dX1_columnCount_5 : decode cX1_columnCount 5 = .ok (.getfield 167, 3) := dk_180 0 167 (dk_at dksX1_columnCount_0 5 rfl rfl)
theorem dX1_columnCount_8 : decode cX1_columnCount 8 = .ok (.ireturn, 1) := dk_172 (dk_at dksX1_columnCount_0 8 rfl rfl)
abbrev cX1_storedCount : ByteArray := prog_1_method_26_code
def yX1_storedCount : MethodName := ⟨RX1, "storedCount", "(I)I"⟩
def dkwX1_storedCount_0 : List UInt8 := [42, 27, 182, 0, 155, 182, 0, 170, 172]
abbrev dktX1_storedCount_0 : List UInt8 := dkwX1_storedCount_0 ++ []
theorem dksX1_storedCount_0 : cX1_storedCount.data.toList.drop 0 = dktX1_storedCount_0 := by decide +kernel
theorem dX1_storedCount_0 : decode cX1_storedCount 0 = .ok (.aload_n 0, 1) := dk_42 (dk_at dksX1_storedCount_0 0 rfl rfl)
theorem dX1_storedCount_1 : decode cX1_storedCount 1 = .ok (.iload_n 1, 1) := dk_27 (dk_at dksX1_storedCount_0 1 rfl rfl)
theorem dX1_storedCount_2 : decode cX1_storedCount 2 = .ok (.invokevirtual 155, 3) := dk_182 0 155 (dk_at dksX1_storedCount_0 2 rfl rfl)
theorem dX1_storedCount_5 : decode cX1_storedCount 5 = .ok (.invokevirtual 170, 3) := dk_182 0 170 (dk_at dksX1_storedCount_0 5 rfl rfl)
theorem dX1_storedCount_8 : decode cX1_storedCount 8 = .ok (.ireturn, 1) := dk_172 (dk_at dksX1_storedCount_0 8 rfl rfl)
abbrev cX1_rowPointer : ByteArray := prog_1_method_27_code
def yX1_rowPointer : MethodName := ⟨RX1, "rowPointer", "(II)I"⟩
def dkwX1_rowPointer_1 : List UInt8 := [28, 46, 172]
abbrev dktX1_rowPointer_1 : List UInt8 := dkwX1_rowPointer_1 ++ []
def dkwX1_rowPointer_0 : List UInt8 := [42, 27, 182, 0, 155, 78, 28, 133, 9, 45, 180, 0, 158, 133, 184, 0, 143, 184, 0, 147, 45, 180, 0, 225]
abbrev dktX1_rowPointer_0 : List UInt8 := dkwX1_rowPointer_0 ++ dktX1_rowPointer_1
theorem dksX1_rowPointer_0 : cX1_rowPointer.data.toList.drop 0 = dktX1_rowPointer_0 := by decide +kernel
theorem dksX1_rowPointer_1 : cX1_rowPointer.data.toList.drop 24 = dktX1_rowPointer_1 := dk_seg dksX1_rowPointer_0 24 rfl rfl
theorem dX1_rowPointer_0 : decode cX1_rowPointer 0 = .ok (.aload_n 0, 1) := dk_42 (dk_at dksX1_rowPointer_0 0 rfl rfl)
theorem dX1_rowPointer_1 : decode cX1_rowPointer 1 = .ok (.iload_n 1, 1) := dk_27 (dk_at dksX1_rowPointer_0 1 rfl rfl)
theorem dX1_rowPointer_2 : decode cX1_rowPointer 2 = .ok (.invokevirtual 155, 3) := dk_182 0 155 (dk_at dksX1_rowPointer_0 2 rfl rfl)
theorem dX1_rowPointer_5 : decode cX1_rowPointer 5 = .ok (.astore_n 3, 1) := dk_78 (dk_at dksX1_rowPointer_0 5 rfl rfl)
theorem dX1_rowPointer_6 : decode cX1_rowPointer 6 = .ok (.iload_n 2, 1) := dk_28 (dk_at dksX1_rowPointer_0 6 rfl rfl)
theorem dX1_rowPointer_7 : decode cX1_rowPointer 7 = .ok (.i2l, 1) := dk_133 (dk_at dksX1_rowPointer_0 7 rfl rfl)
theorem dX1_rowPointer_8 : decode cX1_rowPointer 8 = .ok (.lconst 0, 1) := dk_9 (dk_at dksX1_rowPointer_0 8 rfl rfl)
theorem dX1_rowPointer_9 : decode cX1_rowPointer 9 = .ok (.aload_n 3, 1) := dk_45 (dk_at dksX1_rowPointer_0 9 rfl rfl)
theorem dX1_rowPointer_10 : decode cX1_rowPointer 10 = .ok (.getfield 158, 3) := dk_180 0 158 (dk_at dksX1_rowPointer_0 10 rfl rfl)
theorem dX1_rowPointer_13 : decode cX1_rowPointer 13 = .ok (.i2l, 1) := dk_133 (dk_at dksX1_rowPointer_0 13 rfl rfl)
theorem dX1_rowPointer_14 : decode cX1_rowPointer 14 = .ok (.invokestatic 143, 3) := dk_184 0 143 (dk_at dksX1_rowPointer_0 14 rfl rfl)
theorem dX1_rowPointer_17 : decode cX1_rowPointer 17 = .ok (.invokestatic 147, 3) := dk_184 0 147 (dk_at dksX1_rowPointer_0 17 rfl rfl)
theorem dX1_rowPointer_20 : decode cX1_rowPointer 20 = .ok (.aload_n 3, 1) := dk_45 (dk_at dksX1_rowPointer_0 20 rfl rfl)
theorem dX1_rowPointer_21 : decode cX1_rowPointer 21 = .ok (.getfield 225, 3) := dk_180 0 225 (dk_at dksX1_rowPointer_0 21 rfl rfl)
theorem dX1_rowPointer_24 : decode cX1_rowPointer 24 = .ok (.iload_n 2, 1) := dk_28 (dk_at dksX1_rowPointer_1 0 rfl rfl)
theorem dX1_rowPointer_25 : decode cX1_rowPointer 25 = .ok (.iaload, 1) := dk_46 (dk_at dksX1_rowPointer_1 1 rfl rfl)
theorem dX1_rowPointer_26 : decode cX1_rowPointer 26 = .ok (.ireturn, 1) := dk_172 (dk_at dksX1_rowPointer_1 2 rfl rfl)
abbrev cX1_columnIndex : ByteArray := prog_1_method_28_code
def yX1_columnIndex : MethodName := ⟨RX1, "columnIndex", "(II)I"⟩
def dkwX1_columnIndex_0 : List UInt8 := [42, 27, 28, 182, 0, 228, 180, 0, 231, 28, 46, 172]
abbrev dktX1_columnIndex_0 : List UInt8 := dkwX1_columnIndex_0 ++ []
theorem dksX1_columnIndex_0 : cX1_columnIndex.data.toList.drop 0 = dktX1_columnIndex_0 := by decide +kernel
theorem dX1_columnIndex_0 : decode cX1_columnIndex 0 = .ok (.aload_n 0, 1) := dk_42 (dk_at dksX1_columnIndex_0 0 rfl rfl)
theorem dX1_columnIndex_1 : decode cX1_columnIndex 1 = .ok (.iload_n 1, 1) := dk_27 (dk_at dksX1_columnIndex_0 1 rfl rfl)
theorem dX1_columnIndex_2 : decode cX1_columnIndex 2 = .ok (.iload_n 2, 1) := dk_28 (dk_at dksX1_columnIndex_0 2 rfl rfl)
theorem dX1_columnIndex_3 : decode cX1_columnIndex 3 = .ok (.invokevirtual 228, 3) := dk_182 0 228 (dk_at dksX1_columnIndex_0 3 rfl rfl)
theorem dX1_columnIndex_6 : decode cX1_columnIndex 6 = .ok (.getfield 231, 3) := dk_180 0 231 (dk_at dksX1_columnIndex_0 6 rfl rfl)
theorem dX1_columnIndex_9 : decode cX1_columnIndex 9 = .ok (.iload_n 2, 1) := dk_28 (dk_at dksX1_columnIndex_0 9 rfl rfl)
theorem dX1_columnIndex_10 : decode cX1_columnIndex 10 = .ok (.iaload, 1) := dk_46 (dk_at dksX1_columnIndex_0 10 rfl rfl)
theorem dX1_columnIndex_11 : decode cX1_columnIndex 11 = .ok (.ireturn, 1) := dk_172 (dk_at dksX1_columnIndex_0 11 rfl rfl)
abbrev cX1_matrixStoring : ByteArray := prog_1_method_15_code
def yX1_matrixStoring : MethodName := ⟨RX1, "matrixStoring", "(II)LCsrCalculator$Csr;"⟩
def dkwX1_matrixStoring_0 : List UInt8 := [42, 27, 182, 0, 155, 78, 28, 133, 9, 45, 182, 0, 170, 4, 100, 133, 184, 0, 143, 184, 0, 147, 45, 176]
abbrev dktX1_matrixStoring_0 : List UInt8 := dkwX1_matrixStoring_0 ++ []
theorem dksX1_matrixStoring_0 : cX1_matrixStoring.data.toList.drop 0 = dktX1_matrixStoring_0 := by decide +kernel
theorem dX1_matrixStoring_0 : decode cX1_matrixStoring 0 = .ok (.aload_n 0, 1) := dk_42 (dk_at dksX1_matrixStoring_0 0 rfl rfl)
theorem dX1_matrixStoring_1 : decode cX1_matrixStoring 1 = .ok (.iload_n 1, 1) := dk_27 (dk_at dksX1_matrixStoring_0 1 rfl rfl)
theorem dX1_matrixStoring_2 : decode cX1_matrixStoring 2 = .ok (.invokevirtual 155, 3) := dk_182 0 155 (dk_at dksX1_matrixStoring_0 2 rfl rfl)
theorem dX1_matrixStoring_5 : decode cX1_matrixStoring 5 = .ok (.astore_n 3, 1) := dk_78 (dk_at dksX1_matrixStoring_0 5 rfl rfl)
theorem dX1_matrixStoring_6 : decode cX1_matrixStoring 6 = .ok (.iload_n 2, 1) := dk_28 (dk_at dksX1_matrixStoring_0 6 rfl rfl)
theorem dX1_matrixStoring_7 : decode cX1_matrixStoring 7 = .ok (.i2l, 1) := dk_133 (dk_at dksX1_matrixStoring_0 7 rfl rfl)
theorem dX1_matrixStoring_8 : decode cX1_matrixStoring 8 = .ok (.lconst 0, 1) := dk_9 (dk_at dksX1_matrixStoring_0 8 rfl rfl)
theorem dX1_matrixStoring_9 : decode cX1_matrixStoring 9 = .ok (.aload_n 3, 1) := dk_45 (dk_at dksX1_matrixStoring_0 9 rfl rfl)
theorem dX1_matrixStoring_10 : decode cX1_matrixStoring 10 = .ok (.invokevirtual 170, 3) := dk_182 0 170 (dk_at dksX1_matrixStoring_0 10 rfl rfl)
theorem dX1_matrixStoring_13 : decode cX1_matrixStoring 13 = .ok (.iconst 1, 1) := dk_4 (dk_at dksX1_matrixStoring_0 13 rfl rfl)
theorem dX1_matrixStoring_14 : decode cX1_matrixStoring 14 = .ok (.isub, 1) := dk_100 (dk_at dksX1_matrixStoring_0 14 rfl rfl)
theorem dX1_matrixStoring_15 : decode cX1_matrixStoring 15 = .ok (.i2l, 1) := dk_133 (dk_at dksX1_matrixStoring_0 15 rfl rfl)
theorem dX1_matrixStoring_16 : decode cX1_matrixStoring 16 = .ok (.invokestatic 143, 3) := dk_184 0 143 (dk_at dksX1_matrixStoring_0 16 rfl rfl)
theorem dX1_matrixStoring_19 : decode cX1_matrixStoring 19 = .ok (.invokestatic 147, 3) := dk_184 0 147 (dk_at dksX1_matrixStoring_0 19 rfl rfl)
theorem dX1_matrixStoring_22 : decode cX1_matrixStoring 22 = .ok (.aload_n 3, 1) := dk_45 (dk_at dksX1_matrixStoring_0 22 rfl rfl)
theorem dX1_matrixStoring_23 : decode cX1_matrixStoring 23 = .ok (.areturn, 1) := dk_176 (dk_at dksX1_matrixStoring_0 23 rfl rfl)
abbrev cX1_storedValue : ByteArray := prog_1_method_29_code
def yX1_storedValue : MethodName := ⟨RX1, "storedValue", "(II)I"⟩
def dkwX1_storedValue_0 : List UInt8 := [42, 27, 28, 182, 0, 228, 180, 0, 234, 28, 46, 172]
abbrev dktX1_storedValue_0 : List UInt8 := dkwX1_storedValue_0 ++ []
theorem dksX1_storedValue_0 : cX1_storedValue.data.toList.drop 0 = dktX1_storedValue_0 := by decide +kernel
theorem dX1_storedValue_0 : decode cX1_storedValue 0 = .ok (.aload_n 0, 1) := dk_42 (dk_at dksX1_storedValue_0 0 rfl rfl)
theorem dX1_storedValue_1 : decode cX1_storedValue 1 = .ok (.iload_n 1, 1) := dk_27 (dk_at dksX1_storedValue_0 1 rfl rfl)
theorem dX1_storedValue_2 : decode cX1_storedValue 2 = .ok (.iload_n 2, 1) := dk_28 (dk_at dksX1_storedValue_0 2 rfl rfl)
theorem dX1_storedValue_3 : decode cX1_storedValue 3 = .ok (.invokevirtual 228, 3) := dk_182 0 228 (dk_at dksX1_storedValue_0 3 rfl rfl)
theorem dX1_storedValue_6 : decode cX1_storedValue 6 = .ok (.getfield 234, 3) := dk_180 0 234 (dk_at dksX1_storedValue_0 6 rfl rfl)
theorem dX1_storedValue_9 : decode cX1_storedValue 9 = .ok (.iload_n 2, 1) := dk_28 (dk_at dksX1_storedValue_0 9 rfl rfl)
theorem dX1_storedValue_10 : decode cX1_storedValue 10 = .ok (.iaload, 1) := dk_46 (dk_at dksX1_storedValue_0 10 rfl rfl)
theorem dX1_storedValue_11 : decode cX1_storedValue 11 = .ok (.ireturn, 1) := dk_172 (dk_at dksX1_storedValue_0 11 rfl rfl)
abbrev cX1_rowOf : ByteArray := prog_1_method_30_code
def yX1_rowOf : MethodName := ⟨RX1, "rowOf", "(II)I"⟩
def dkwX1_rowOf_0 : List UInt8 := [42, 27, 28, 182, 0, 228, 28, 182, 0, 237, 172]
abbrev dktX1_rowOf_0 : List UInt8 := dkwX1_rowOf_0 ++ []
theorem dksX1_rowOf_0 : cX1_rowOf.data.toList.drop 0 = dktX1_rowOf_0 := by decide +kernel
theorem dX1_rowOf_0 : decode cX1_rowOf 0 = .ok (.aload_n 0, 1) := dk_42 (dk_at dksX1_rowOf_0 0 rfl rfl)
theorem dX1_rowOf_1 : decode cX1_rowOf 1 = .ok (.iload_n 1, 1) := dk_27 (dk_at dksX1_rowOf_0 1 rfl rfl)
theorem dX1_rowOf_2 : decode cX1_rowOf 2 = .ok (.iload_n 2, 1) := dk_28 (dk_at dksX1_rowOf_0 2 rfl rfl)
theorem dX1_rowOf_3 : decode cX1_rowOf 3 = .ok (.invokevirtual 228, 3) := dk_182 0 228 (dk_at dksX1_rowOf_0 3 rfl rfl)
theorem dX1_rowOf_6 : decode cX1_rowOf 6 = .ok (.iload_n 2, 1) := dk_28 (dk_at dksX1_rowOf_0 6 rfl rfl)
theorem dX1_rowOf_7 : decode cX1_rowOf 7 = .ok (.invokevirtual 237, 3) := dk_182 0 237 (dk_at dksX1_rowOf_0 7 rfl rfl)
theorem dX1_rowOf_10 : decode cX1_rowOf 10 = .ok (.ireturn, 1) := dk_172 (dk_at dksX1_rowOf_0 10 rfl rfl)
abbrev cX1_value : ByteArray := prog_1_method_31_code
def yX1_value : MethodName := ⟨RX1, "value", "(III)I"⟩
def dkwX1_value_0 : List UInt8 := [42, 27, 28, 29, 182, 0, 240, 28, 29, 182, 0, 244, 172]
abbrev dktX1_value_0 : List UInt8 := dkwX1_value_0 ++ []
theorem dksX1_value_0 : cX1_value.data.toList.drop 0 = dktX1_value_0 := by decide +kernel
theorem dX1_value_0 : decode cX1_value 0 = .ok (.aload_n 0, 1) := dk_42 (dk_at dksX1_value_0 0 rfl rfl)
theorem dX1_value_1 : decode cX1_value 1 = .ok (.iload_n 1, 1) := dk_27 (dk_at dksX1_value_0 1 rfl rfl)
theorem dX1_value_2 : decode cX1_value 2 = .ok (.iload_n 2, 1) := dk_28 (dk_at dksX1_value_0 2 rfl rfl)
theorem dX1_value_3 : decode cX1_value 3 = .ok (.iload_n 3, 1) := dk_29 (dk_at dksX1_value_0 3 rfl rfl)
theorem dX1_value_4 : decode cX1_value 4 = .ok (.invokevirtual 240, 3) := dk_182 0 240 (dk_at dksX1_value_0 4 rfl rfl)
theorem dX1_value_7 : decode cX1_value 7 = .ok (.iload_n 2, 1) := dk_28 (dk_at dksX1_value_0 7 rfl rfl)
theorem dX1_value_8 : decode cX1_value 8 = .ok (.iload_n 3, 1) := dk_29 (dk_at dksX1_value_0 8 rfl rfl)
theorem dX1_value_9 : decode cX1_value 9 = .ok (.invokevirtual 244, 3) := dk_182 0 244 (dk_at dksX1_value_0 9 rfl rfl)
theorem dX1_value_12 : decode cX1_value 12 = .ok (.ireturn, 1) := dk_172 (dk_at dksX1_value_0 12 rfl rfl)
abbrev cX1_storageIndex : ByteArray := prog_1_method_32_code
def yX1_storageIndex : MethodName := ⟨RX1, "storageIndex", "(III)I"⟩
def dkwX1_storageIndex_0 : List UInt8 := [42, 27, 28, 29, 182, 0, 240, 28, 29, 182, 0, 248, 172]
abbrev dktX1_storageIndex_0 : List UInt8 := dkwX1_storageIndex_0 ++ []
theorem dksX1_storageIndex_0 : cX1_storageIndex.data.toList.drop 0 = dktX1_storageIndex_0 := by decide +kernel
theorem dX1_storageIndex_0 : decode cX1_storageIndex 0 = .ok (.aload_n 0, 1) := dk_42 (dk_at dksX1_storageIndex_0 0 rfl rfl)
theorem dX1_storageIndex_1 : decode cX1_storageIndex 1 = .ok (.iload_n 1, 1) := dk_27 (dk_at dksX1_storageIndex_0 1 rfl rfl)
theorem dX1_storageIndex_2 : decode cX1_storageIndex 2 = .ok (.iload_n 2, 1) := dk_28 (dk_at dksX1_storageIndex_0 2 rfl rfl)
theorem dX1_storageIndex_3 : decode cX1_storageIndex 3 = .ok (.iload_n 3, 1) := dk_29 (dk_at dksX1_storageIndex_0 3 rfl rfl)
theorem dX1_storageIndex_4 : decode cX1_storageIndex 4 = .ok (.invokevirtual 240, 3) := dk_182 0 240 (dk_at dksX1_storageIndex_0 4 rfl rfl)
theorem dX1_storageIndex_7 : decode cX1_storageIndex 7 = .ok (.iload_n 2, 1) := dk_28 (dk_at dksX1_storageIndex_0 7 rfl rfl)
theorem dX1_storageIndex_8 : decode cX1_storageIndex 8 = .ok (.iload_n 3, 1) := dk_29 (dk_at dksX1_storageIndex_0 8 rfl rfl)
theorem dX1_storageIndex_9 : decode cX1_storageIndex 9 = .ok (.invokevirtual 248, 3) := dk_182 0 248 (dk_at dksX1_storageIndex_0 9 rfl rfl)
theorem dX1_storageIndex_12 : decode cX1_storageIndex 12 = .ok (.ireturn, 1) := dk_172 (dk_at dksX1_storageIndex_0 12 rfl rfl)
abbrev cX1_explicitZeros : ByteArray := prog_1_method_33_code
def yX1_explicitZeros : MethodName := ⟨RX1, "explicitZeros", "(I)I"⟩
def dkwX1_explicitZeros_0 : List UInt8 := [42, 27, 182, 0, 155, 182, 0, 251, 172]
abbrev dktX1_explicitZeros_0 : List UInt8 := dkwX1_explicitZeros_0 ++ []
theorem dksX1_explicitZeros_0 : cX1_explicitZeros.data.toList.drop 0 = dktX1_explicitZeros_0 := by decide +kernel
theorem dX1_explicitZeros_0 : decode cX1_explicitZeros 0 = .ok (.aload_n 0, 1) := dk_42 (dk_at dksX1_explicitZeros_0 0 rfl rfl)
theorem dX1_explicitZeros_1 : decode cX1_explicitZeros 1 = .ok (.iload_n 1, 1) := dk_27 (dk_at dksX1_explicitZeros_0 1 rfl rfl)
theorem dX1_explicitZeros_2 : decode cX1_explicitZeros 2 = .ok (.invokevirtual 155, 3) := dk_182 0 155 (dk_at dksX1_explicitZeros_0 2 rfl rfl)
theorem dX1_explicitZeros_5 : decode cX1_explicitZeros 5 = .ok (.invokevirtual 251, 3) := dk_182 0 251 (dk_at dksX1_explicitZeros_0 5 rfl rfl)
theorem dX1_explicitZeros_8 : decode cX1_explicitZeros 8 = .ok (.ireturn, 1) := dk_172 (dk_at dksX1_explicitZeros_0 8 rfl rfl)
abbrev cX1_rowLength : ByteArray := prog_1_method_34_code
def yX1_rowLength : MethodName := ⟨RX1, "rowLength", "(II)I"⟩
def dkwX1_rowLength_0 : List UInt8 := [42, 27, 28, 182, 0, 163, 28, 182, 0, 254, 172]
abbrev dktX1_rowLength_0 : List UInt8 := dkwX1_rowLength_0 ++ []
theorem dksX1_rowLength_0 : cX1_rowLength.data.toList.drop 0 = dktX1_rowLength_0 := by decide +kernel
theorem dX1_rowLength_0 : decode cX1_rowLength 0 = .ok (.aload_n 0, 1) := dk_42 (dk_at dksX1_rowLength_0 0 rfl rfl)
theorem dX1_rowLength_1 : decode cX1_rowLength 1 = .ok (.iload_n 1, 1) := dk_27 (dk_at dksX1_rowLength_0 1 rfl rfl)
theorem dX1_rowLength_2 : decode cX1_rowLength 2 = .ok (.iload_n 2, 1) := dk_28 (dk_at dksX1_rowLength_0 2 rfl rfl)
theorem dX1_rowLength_3 : decode cX1_rowLength 3 = .ok (.invokevirtual 163, 3) := dk_182 0 163 (dk_at dksX1_rowLength_0 3 rfl rfl)
theorem dX1_rowLength_6 : decode cX1_rowLength 6 = .ok (.iload_n 2, 1) := dk_28 (dk_at dksX1_rowLength_0 6 rfl rfl)
theorem dX1_rowLength_7 : decode cX1_rowLength 7 = .ok (.invokevirtual 254, 3) := dk_182 0 254 (dk_at dksX1_rowLength_0 7 rfl rfl)
theorem dX1_rowLength_10 : decode cX1_rowLength 10 = .ok (.ireturn, 1) := dk_172 (dk_at dksX1_rowLength_0 10 rfl rfl)
abbrev cX1_columnLength : ByteArray := prog_1_method_35_code
def yX1_columnLength : MethodName := ⟨RX1, "columnLength", "(II)I"⟩
def dkwX1_columnLength_1 : List UInt8 := [182, 1, 1, 172]
abbrev dktX1_columnLength_1 : List UInt8 := dkwX1_columnLength_1 ++ []
def dkwX1_columnLength_0 : List UInt8 := [42, 27, 182, 0, 155, 78, 28, 133, 9, 45, 180, 0, 167, 4, 100, 133, 184, 0, 143, 184, 0, 147, 45, 28]
abbrev dktX1_columnLength_0 : List UInt8 := dkwX1_columnLength_0 ++ dktX1_columnLength_1
theorem dksX1_columnLength_0 : cX1_columnLength.data.toList.drop 0 = dktX1_columnLength_0 := by decide +kernel
theorem dksX1_columnLength_1 : cX1_columnLength.data.toList.drop 24 = dktX1_columnLength_1 := dk_seg dksX1_columnLength_0 24 rfl rfl
theorem dX1_columnLength_0 : decode cX1_columnLength 0 = .ok (.aload_n 0, 1) := dk_42 (dk_at dksX1_columnLength_0 0 rfl rfl)
theorem dX1_columnLength_1 : decode cX1_columnLength 1 = .ok (.iload_n 1, 1) := dk_27 (dk_at dksX1_columnLength_0 1 rfl rfl)
theorem dX1_columnLength_2 : decode cX1_columnLength 2 = .ok (.invokevirtual 155, 3) := dk_182 0 155 (dk_at dksX1_columnLength_0 2 rfl rfl)
theorem dX1_columnLength_5 : decode cX1_columnLength 5 = .ok (.astore_n 3, 1) := dk_78 (dk_at dksX1_columnLength_0 5 rfl rfl)
theorem dX1_columnLength_6 : decode cX1_columnLength 6 = .ok (.iload_n 2, 1) := dk_28 (dk_at dksX1_columnLength_0 6 rfl rfl)
theorem dX1_columnLength_7 : decode cX1_columnLength 7 = .ok (.i2l, 1) := dk_133 (dk_at dksX1_columnLength_0 7 rfl rfl)
theorem dX1_columnLength_8 : decode cX1_columnLength 8 = .ok (.lconst 0, 1) := dk_9 (dk_at dksX1_columnLength_0 8 rfl rfl)
theorem dX1_columnLength_9 : decode cX1_columnLength 9 = .ok (.aload_n 3, 1) := dk_45 (dk_at dksX1_columnLength_0 9 rfl rfl)
theorem dX1_columnLength_10 : decode cX1_columnLength 10 = .ok (.getfield 167, 3) := dk_180 0 167 (dk_at dksX1_columnLength_0 10 rfl rfl)
theorem dX1_columnLength_13 : decode cX1_columnLength 13 = .ok (.iconst 1, 1) := dk_4 (dk_at dksX1_columnLength_0 13 rfl rfl)
theorem dX1_columnLength_14 : decode cX1_columnLength 14 = .ok (.isub, 1) := dk_100 (dk_at dksX1_columnLength_0 14 rfl rfl)
theorem dX1_columnLength_15 : decode cX1_columnLength 15 = .ok (.i2l, 1) := dk_133 (dk_at dksX1_columnLength_0 15 rfl rfl)
theorem dX1_columnLength_16 : decode cX1_columnLength 16 = .ok (.invokestatic 143, 3) := dk_184 0 143 (dk_at dksX1_columnLength_0 16 rfl rfl)
theorem dX1_columnLength_19 : decode cX1_columnLength 19 = .ok (.invokestatic 147, 3) := dk_184 0 147 (dk_at dksX1_columnLength_0 19 rfl rfl)
theorem dX1_columnLength_22 : decode cX1_columnLength 22 = .ok (.aload_n 3, 1) := dk_45 (dk_at dksX1_columnLength_0 22 rfl rfl)
theorem dX1_columnLength_23 : decode cX1_columnLength 23 = .ok (.iload_n 2, 1) := dk_28 (dk_at dksX1_columnLength_0 23 rfl rfl)
theorem dX1_columnLength_24 : decode cX1_columnLength 24 = .ok (.invokevirtual 257, 3) := dk_182 1 1 (dk_at dksX1_columnLength_1 0 rfl rfl)
theorem dX1_columnLength_27 : decode cX1_columnLength 27 = .ok (.ireturn, 1) := dk_172 (dk_at dksX1_columnLength_1 3 rfl rfl)
abbrev cX1_longestRow : ByteArray := prog_1_method_36_code
def yX1_longestRow : MethodName := ⟨RX1, "longestRow", "(I)I"⟩
def dkwX1_longestRow_1 : List UInt8 := [182, 0, 254, 44, 29, 182, 0, 254, 164, 0, 6, 21, 4, 62, 132, 4, 1, 167, 255, 227, 29, 172]
abbrev dktX1_longestRow_1 : List UInt8 := dkwX1_longestRow_1 ++ []
def dkwX1_longestRow_0 : List UInt8 := [42, 27, 182, 0, 155, 77, 3, 62, 4, 54, 4, 21, 4, 44, 180, 0, 158, 162, 0, 26, 44, 21, 4]
abbrev dktX1_longestRow_0 : List UInt8 := dkwX1_longestRow_0 ++ dktX1_longestRow_1
theorem dksX1_longestRow_0 : cX1_longestRow.data.toList.drop 0 = dktX1_longestRow_0 := by decide +kernel
theorem dksX1_longestRow_1 : cX1_longestRow.data.toList.drop 23 = dktX1_longestRow_1 := dk_seg dksX1_longestRow_0 23 rfl rfl
theorem dX1_longestRow_0 : decode cX1_longestRow 0 = .ok (.aload_n 0, 1) := dk_42 (dk_at dksX1_longestRow_0 0 rfl rfl)
theorem dX1_longestRow_1 : decode cX1_longestRow 1 = .ok (.iload_n 1, 1) := dk_27 (dk_at dksX1_longestRow_0 1 rfl rfl)
theorem dX1_longestRow_2 : decode cX1_longestRow 2 = .ok (.invokevirtual 155, 3) := dk_182 0 155 (dk_at dksX1_longestRow_0 2 rfl rfl)
theorem dX1_longestRow_5 : decode cX1_longestRow 5 = .ok (.astore_n 2, 1) := dk_77 (dk_at dksX1_longestRow_0 5 rfl rfl)
theorem dX1_longestRow_6 : decode cX1_longestRow 6 = .ok (.iconst 0, 1) := dk_3 (dk_at dksX1_longestRow_0 6 rfl rfl)
theorem dX1_longestRow_7 : decode cX1_longestRow 7 = .ok (.istore_n 3, 1) := dk_62 (dk_at dksX1_longestRow_0 7 rfl rfl)
theorem dX1_longestRow_8 : decode cX1_longestRow 8 = .ok (.iconst 1, 1) := dk_4 (dk_at dksX1_longestRow_0 8 rfl rfl)
theorem dX1_longestRow_9 : decode cX1_longestRow 9 = .ok (.istore 4, 2) := dk_54 4 (dk_at dksX1_longestRow_0 9 rfl rfl)
theorem dX1_longestRow_11 : decode cX1_longestRow 11 = .ok (.iload 4, 2) := dk_21 4 (dk_at dksX1_longestRow_0 11 rfl rfl)
theorem dX1_longestRow_13 : decode cX1_longestRow 13 = .ok (.aload_n 2, 1) := dk_44 (dk_at dksX1_longestRow_0 13 rfl rfl)
theorem dX1_longestRow_14 : decode cX1_longestRow 14 = .ok (.getfield 158, 3) := dk_180 0 158 (dk_at dksX1_longestRow_0 14 rfl rfl)
theorem dX1_longestRow_17 : decode cX1_longestRow 17 = .ok (.if_icmp .ge 26, 3) := dk_162 0 26 (dk_at dksX1_longestRow_0 17 rfl rfl)
theorem dX1_longestRow_20 : decode cX1_longestRow 20 = .ok (.aload_n 2, 1) := dk_44 (dk_at dksX1_longestRow_0 20 rfl rfl)
theorem dX1_longestRow_21 : decode cX1_longestRow 21 = .ok (.iload 4, 2) := dk_21 4 (dk_at dksX1_longestRow_0 21 rfl rfl)
theorem dX1_longestRow_23 : decode cX1_longestRow 23 = .ok (.invokevirtual 254, 3) := dk_182 0 254 (dk_at dksX1_longestRow_1 0 rfl rfl)
theorem dX1_longestRow_26 : decode cX1_longestRow 26 = .ok (.aload_n 2, 1) := dk_44 (dk_at dksX1_longestRow_1 3 rfl rfl)
theorem dX1_longestRow_27 : decode cX1_longestRow 27 = .ok (.iload_n 3, 1) := dk_29 (dk_at dksX1_longestRow_1 4 rfl rfl)
theorem dX1_longestRow_28 : decode cX1_longestRow 28 = .ok (.invokevirtual 254, 3) := dk_182 0 254 (dk_at dksX1_longestRow_1 5 rfl rfl)
theorem dX1_longestRow_31 : decode cX1_longestRow 31 = .ok (.if_icmp .le 6, 3) := dk_164 0 6 (dk_at dksX1_longestRow_1 8 rfl rfl)
theorem dX1_longestRow_34 : decode cX1_longestRow 34 = .ok (.iload 4, 2) := dk_21 4 (dk_at dksX1_longestRow_1 11 rfl rfl)
theorem dX1_longestRow_36 : decode cX1_longestRow 36 = .ok (.istore_n 3, 1) := dk_62 (dk_at dksX1_longestRow_1 13 rfl rfl)
theorem dX1_longestRow_37 : decode cX1_longestRow 37 = .ok (.iinc 4 1, 3) := dk_132 4 1 (dk_at dksX1_longestRow_1 14 rfl rfl)
theorem dX1_longestRow_40 : decode cX1_longestRow 40 = .ok (.goto (-29), 3) := dk_167 255 227 (dk_at dksX1_longestRow_1 17 rfl rfl)
theorem dX1_longestRow_43 : decode cX1_longestRow 43 = .ok (.iload_n 3, 1) := dk_29 (dk_at dksX1_longestRow_1 20 rfl rfl)
theorem dX1_longestRow_44 : decode cX1_longestRow 44 = .ok (.ireturn, 1) := dk_172 (dk_at dksX1_longestRow_1 21 rfl rfl)
abbrev cX1_emptyRows : ByteArray := prog_1_method_37_code
def yX1_emptyRows : MethodName := ⟨RX1, "emptyRows", "(I)I"⟩
def dkwX1_emptyRows_1 : List UInt8 := [182, 0, 254, 154, 0, 6, 132, 3, 1, 132, 4, 1, 167, 255, 232, 29, 172]
abbrev dktX1_emptyRows_1 : List UInt8 := dkwX1_emptyRows_1 ++ []
def dkwX1_emptyRows_0 : List UInt8 := [42, 27, 182, 0, 155, 77, 3, 62, 3, 54, 4, 21, 4, 44, 180, 0, 158, 162, 0, 21, 44, 21, 4]
abbrev dktX1_emptyRows_0 : List UInt8 := dkwX1_emptyRows_0 ++ dktX1_emptyRows_1
theorem dksX1_emptyRows_0 : cX1_emptyRows.data.toList.drop 0 = dktX1_emptyRows_0 := by decide +kernel
theorem dksX1_emptyRows_1 : cX1_emptyRows.data.toList.drop 23 = dktX1_emptyRows_1 := dk_seg dksX1_emptyRows_0 23 rfl rfl
theorem dX1_emptyRows_0 : decode cX1_emptyRows 0 = .ok (.aload_n 0, 1) := dk_42 (dk_at dksX1_emptyRows_0 0 rfl rfl)
theorem dX1_emptyRows_1 : decode cX1_emptyRows 1 = .ok (.iload_n 1, 1) := dk_27 (dk_at dksX1_emptyRows_0 1 rfl rfl)
theorem dX1_emptyRows_2 : decode cX1_emptyRows 2 = .ok (.invokevirtual 155, 3) := dk_182 0 155 (dk_at dksX1_emptyRows_0 2 rfl rfl)
theorem dX1_emptyRows_5 : decode cX1_emptyRows 5 = .ok (.astore_n 2, 1) := dk_77 (dk_at dksX1_emptyRows_0 5 rfl rfl)
theorem dX1_emptyRows_6 : decode cX1_emptyRows 6 = .ok (.iconst 0, 1) := dk_3 (dk_at dksX1_emptyRows_0 6 rfl rfl)
theorem dX1_emptyRows_7 : decode cX1_emptyRows 7 = .ok (.istore_n 3, 1) := dk_62 (dk_at dksX1_emptyRows_0 7 rfl rfl)
theorem dX1_emptyRows_8 : decode cX1_emptyRows 8 = .ok (.iconst 0, 1) := dk_3 (dk_at dksX1_emptyRows_0 8 rfl rfl)
theorem dX1_emptyRows_9 : decode cX1_emptyRows 9 = .ok (.istore 4, 2) := dk_54 4 (dk_at dksX1_emptyRows_0 9 rfl rfl)
theorem dX1_emptyRows_11 : decode cX1_emptyRows 11 = .ok (.iload 4, 2) := dk_21 4 (dk_at dksX1_emptyRows_0 11 rfl rfl)
theorem dX1_emptyRows_13 : decode cX1_emptyRows 13 = .ok (.aload_n 2, 1) := dk_44 (dk_at dksX1_emptyRows_0 13 rfl rfl)
theorem dX1_emptyRows_14 : decode cX1_emptyRows 14 = .ok (.getfield 158, 3) := dk_180 0 158 (dk_at dksX1_emptyRows_0 14 rfl rfl)
theorem dX1_emptyRows_17 : decode cX1_emptyRows 17 = .ok (.if_icmp .ge 21, 3) := dk_162 0 21 (dk_at dksX1_emptyRows_0 17 rfl rfl)
theorem dX1_emptyRows_20 : decode cX1_emptyRows 20 = .ok (.aload_n 2, 1) := dk_44 (dk_at dksX1_emptyRows_0 20 rfl rfl)
theorem dX1_emptyRows_21 : decode cX1_emptyRows 21 = .ok (.iload 4, 2) := dk_21 4 (dk_at dksX1_emptyRows_0 21 rfl rfl)
theorem dX1_emptyRows_23 : decode cX1_emptyRows 23 = .ok (.invokevirtual 254, 3) := dk_182 0 254 (dk_at dksX1_emptyRows_1 0 rfl rfl)
theorem dX1_emptyRows_26 : decode cX1_emptyRows 26 = .ok (.ifCond .ne 6, 3) := dk_154 0 6 (dk_at dksX1_emptyRows_1 3 rfl rfl)
theorem dX1_emptyRows_29 : decode cX1_emptyRows 29 = .ok (.iinc 3 1, 3) := dk_132 3 1 (dk_at dksX1_emptyRows_1 6 rfl rfl)
theorem dX1_emptyRows_32 : decode cX1_emptyRows 32 = .ok (.iinc 4 1, 3) := dk_132 4 1 (dk_at dksX1_emptyRows_1 9 rfl rfl)
theorem dX1_emptyRows_35 : decode cX1_emptyRows 35 = .ok (.goto (-24), 3) := dk_167 255 232 (dk_at dksX1_emptyRows_1 12 rfl rfl)
theorem dX1_emptyRows_38 : decode cX1_emptyRows 38 = .ok (.iload_n 3, 1) := dk_29 (dk_at dksX1_emptyRows_1 15 rfl rfl)
theorem dX1_emptyRows_39 : decode cX1_emptyRows 39 = .ok (.ireturn, 1) := dk_172 (dk_at dksX1_emptyRows_1 16 rfl rfl)
abbrev cX1_bandwidth : ByteArray := prog_1_method_38_code
def yX1_bandwidth : MethodName := ⟨RX1, "bandwidth", "(I)I"⟩
def dkwX1_bandwidth_0 : List UInt8 := [42, 27, 182, 0, 155, 182, 1, 4, 172]
abbrev dktX1_bandwidth_0 : List UInt8 := dkwX1_bandwidth_0 ++ []
theorem dksX1_bandwidth_0 : cX1_bandwidth.data.toList.drop 0 = dktX1_bandwidth_0 := by decide +kernel
theorem dX1_bandwidth_0 : decode cX1_bandwidth 0 = .ok (.aload_n 0, 1) := dk_42 (dk_at dksX1_bandwidth_0 0 rfl rfl)
theorem dX1_bandwidth_1 : decode cX1_bandwidth 1 = .ok (.iload_n 1, 1) := dk_27 (dk_at dksX1_bandwidth_0 1 rfl rfl)
theorem dX1_bandwidth_2 : decode cX1_bandwidth 2 = .ok (.invokevirtual 155, 3) := dk_182 0 155 (dk_at dksX1_bandwidth_0 2 rfl rfl)
theorem dX1_bandwidth_5 : decode cX1_bandwidth 5 = .ok (.invokevirtual 260, 3) := dk_182 1 4 (dk_at dksX1_bandwidth_0 5 rfl rfl)
theorem dX1_bandwidth_8 : decode cX1_bandwidth 8 = .ok (.ireturn, 1) := dk_172 (dk_at dksX1_bandwidth_0 8 rfl rfl)
abbrev cX1_rowSum : ByteArray := prog_1_method_39_code
def yX1_rowSum : MethodName := ⟨RX1, "rowSum", "(II)I"⟩
def dkwX1_rowSum_2 : List UInt8 := [167, 255, 228, 21, 4, 172]
abbrev dktX1_rowSum_2 : List UInt8 := dkwX1_rowSum_2 ++ []
def dkwX1_rowSum_1 : List UInt8 := [28, 4, 96, 46, 162, 0, 21, 21, 4, 45, 180, 0, 234, 21, 5, 46, 96, 54, 4, 132, 5, 1]
abbrev dktX1_rowSum_1 : List UInt8 := dkwX1_rowSum_1 ++ dktX1_rowSum_2
def dkwX1_rowSum_0 : List UInt8 := [42, 27, 28, 182, 0, 163, 78, 3, 54, 4, 45, 180, 0, 225, 28, 46, 54, 5, 21, 5, 45, 180, 0, 225]
abbrev dktX1_rowSum_0 : List UInt8 := dkwX1_rowSum_0 ++ dktX1_rowSum_1
theorem dksX1_rowSum_0 : cX1_rowSum.data.toList.drop 0 = dktX1_rowSum_0 := by decide +kernel
theorem dksX1_rowSum_1 : cX1_rowSum.data.toList.drop 24 = dktX1_rowSum_1 := dk_seg dksX1_rowSum_0 24 rfl rfl
theorem dksX1_rowSum_2 : cX1_rowSum.data.toList.drop 46 = dktX1_rowSum_2 := dk_seg dksX1_rowSum_1 22 rfl rfl
theorem dX1_rowSum_0 : decode cX1_rowSum 0 = .ok (.aload_n 0, 1) := dk_42 (dk_at dksX1_rowSum_0 0 rfl rfl)
theorem dX1_rowSum_1 : decode cX1_rowSum 1 = .ok (.iload_n 1, 1) := dk_27 (dk_at dksX1_rowSum_0 1 rfl rfl)
theorem dX1_rowSum_2 : decode cX1_rowSum 2 = .ok (.iload_n 2, 1) := dk_28 (dk_at dksX1_rowSum_0 2 rfl rfl)
theorem dX1_rowSum_3 : decode cX1_rowSum 3 = .ok (.invokevirtual 163, 3) := dk_182 0 163 (dk_at dksX1_rowSum_0 3 rfl rfl)
theorem dX1_rowSum_6 : decode cX1_rowSum 6 = .ok (.astore_n 3, 1) := dk_78 (dk_at dksX1_rowSum_0 6 rfl rfl)
theorem dX1_rowSum_7 : decode cX1_rowSum 7 = .ok (.iconst 0, 1) := dk_3 (dk_at dksX1_rowSum_0 7 rfl rfl)
theorem dX1_rowSum_8 : decode cX1_rowSum 8 = .ok (.istore 4, 2) := dk_54 4 (dk_at dksX1_rowSum_0 8 rfl rfl)
theorem dX1_rowSum_10 : decode cX1_rowSum 10 = .ok (.aload_n 3, 1) := dk_45 (dk_at dksX1_rowSum_0 10 rfl rfl)
theorem dX1_rowSum_11 : decode cX1_rowSum 11 = .ok (.getfield 225, 3) := dk_180 0 225 (dk_at dksX1_rowSum_0 11 rfl rfl)
theorem dX1_rowSum_14 : decode cX1_rowSum 14 = .ok (.iload_n 2, 1) := dk_28 (dk_at dksX1_rowSum_0 14 rfl rfl)
theorem dX1_rowSum_15 : decode cX1_rowSum 15 = .ok (.iaload, 1) := dk_46 (dk_at dksX1_rowSum_0 15 rfl rfl)
theorem dX1_rowSum_16 : decode cX1_rowSum 16 = .ok (.istore 5, 2) := dk_54 5 (dk_at dksX1_rowSum_0 16 rfl rfl)
theorem dX1_rowSum_18 : decode cX1_rowSum 18 = .ok (.iload 5, 2) := dk_21 5 (dk_at dksX1_rowSum_0 18 rfl rfl)
theorem dX1_rowSum_20 : decode cX1_rowSum 20 = .ok (.aload_n 3, 1) := dk_45 (dk_at dksX1_rowSum_0 20 rfl rfl)
theorem dX1_rowSum_21 : decode cX1_rowSum 21 = .ok (.getfield 225, 3) := dk_180 0 225 (dk_at dksX1_rowSum_0 21 rfl rfl)
theorem dX1_rowSum_24 : decode cX1_rowSum 24 = .ok (.iload_n 2, 1) := dk_28 (dk_at dksX1_rowSum_1 0 rfl rfl)
theorem dX1_rowSum_25 : decode cX1_rowSum 25 = .ok (.iconst 1, 1) := dk_4 (dk_at dksX1_rowSum_1 1 rfl rfl)
theorem dX1_rowSum_26 : decode cX1_rowSum 26 = .ok (.iadd, 1) := dk_96 (dk_at dksX1_rowSum_1 2 rfl rfl)
theorem dX1_rowSum_27 : decode cX1_rowSum 27 = .ok (.iaload, 1) := dk_46 (dk_at dksX1_rowSum_1 3 rfl rfl)
theorem dX1_rowSum_28 : decode cX1_rowSum 28 = .ok (.if_icmp .ge 21, 3) := dk_162 0 21 (dk_at dksX1_rowSum_1 4 rfl rfl)
theorem dX1_rowSum_31 : decode cX1_rowSum 31 = .ok (.iload 4, 2) := dk_21 4 (dk_at dksX1_rowSum_1 7 rfl rfl)
theorem dX1_rowSum_33 : decode cX1_rowSum 33 = .ok (.aload_n 3, 1) := dk_45 (dk_at dksX1_rowSum_1 9 rfl rfl)
theorem dX1_rowSum_34 : decode cX1_rowSum 34 = .ok (.getfield 234, 3) := dk_180 0 234 (dk_at dksX1_rowSum_1 10 rfl rfl)
theorem dX1_rowSum_37 : decode cX1_rowSum 37 = .ok (.iload 5, 2) := dk_21 5 (dk_at dksX1_rowSum_1 13 rfl rfl)
theorem dX1_rowSum_39 : decode cX1_rowSum 39 = .ok (.iaload, 1) := dk_46 (dk_at dksX1_rowSum_1 15 rfl rfl)
theorem dX1_rowSum_40 : decode cX1_rowSum 40 = .ok (.iadd, 1) := dk_96 (dk_at dksX1_rowSum_1 16 rfl rfl)
theorem dX1_rowSum_41 : decode cX1_rowSum 41 = .ok (.istore 4, 2) := dk_54 4 (dk_at dksX1_rowSum_1 17 rfl rfl)
theorem dX1_rowSum_43 : decode cX1_rowSum 43 = .ok (.iinc 5 1, 3) := dk_132 5 1 (dk_at dksX1_rowSum_1 19 rfl rfl)
theorem dX1_rowSum_46 : decode cX1_rowSum 46 = .ok (.goto (-28), 3) := dk_167 255 228 (dk_at dksX1_rowSum_2 0 rfl rfl)
theorem dX1_rowSum_49 : decode cX1_rowSum 49 = .ok (.iload 4, 2) := dk_21 4 (dk_at dksX1_rowSum_2 3 rfl rfl)
theorem dX1_rowSum_51 : decode cX1_rowSum 51 = .ok (.ireturn, 1) := dk_172 (dk_at dksX1_rowSum_2 5 rfl rfl)
abbrev cX1_largestMagnitude : ByteArray := prog_1_method_40_code
def yX1_largestMagnitude : MethodName := ⟨RX1, "largestMagnitude", "(I)I"⟩
def dkwX1_largestMagnitude_2 : List UInt8 := [167, 255, 230, 28, 172]
abbrev dktX1_largestMagnitude_2 : List UInt8 := dkwX1_largestMagnitude_2 ++ []
def dkwX1_largestMagnitude_1 : List UInt8 := [162, 0, 25, 45, 21, 5, 46, 54, 6, 28, 21, 6, 184, 1, 7, 184, 1, 12, 61, 132, 5, 1]
abbrev dktX1_largestMagnitude_1 : List UInt8 := dkwX1_largestMagnitude_1 ++ dktX1_largestMagnitude_2
def dkwX1_largestMagnitude_0 : List UInt8 := [3, 61, 42, 27, 182, 0, 155, 180, 0, 234, 78, 45, 190, 54, 4, 3, 54, 5, 21, 5, 21, 4]
abbrev dktX1_largestMagnitude_0 : List UInt8 := dkwX1_largestMagnitude_0 ++ dktX1_largestMagnitude_1
theorem dksX1_largestMagnitude_0 : cX1_largestMagnitude.data.toList.drop 0 = dktX1_largestMagnitude_0 := by decide +kernel
theorem dksX1_largestMagnitude_1 : cX1_largestMagnitude.data.toList.drop 22 = dktX1_largestMagnitude_1 := dk_seg dksX1_largestMagnitude_0 22 rfl rfl
theorem dksX1_largestMagnitude_2 : cX1_largestMagnitude.data.toList.drop 44 = dktX1_largestMagnitude_2 := dk_seg dksX1_largestMagnitude_1 22 rfl rfl
theorem dX1_largestMagnitude_0 : decode cX1_largestMagnitude 0 = .ok (.iconst 0, 1) := dk_3 (dk_at dksX1_largestMagnitude_0 0 rfl rfl)
theorem dX1_largestMagnitude_1 : decode cX1_largestMagnitude 1 = .ok (.istore_n 2, 1) := dk_61 (dk_at dksX1_largestMagnitude_0 1 rfl rfl)
theorem dX1_largestMagnitude_2 : decode cX1_largestMagnitude 2 = .ok (.aload_n 0, 1) := dk_42 (dk_at dksX1_largestMagnitude_0 2 rfl rfl)
theorem dX1_largestMagnitude_3 : decode cX1_largestMagnitude 3 = .ok (.iload_n 1, 1) := dk_27 (dk_at dksX1_largestMagnitude_0 3 rfl rfl)
theorem dX1_largestMagnitude_4 : decode cX1_largestMagnitude 4 = .ok (.invokevirtual 155, 3) := dk_182 0 155 (dk_at dksX1_largestMagnitude_0 4 rfl rfl)
theorem dX1_largestMagnitude_7 : decode cX1_largestMagnitude 7 = .ok (.getfield 234, 3) := dk_180 0 234 (dk_at dksX1_largestMagnitude_0 7 rfl rfl)
theorem dX1_largestMagnitude_10 : decode cX1_largestMagnitude 10 = .ok (.astore_n 3, 1) := dk_78 (dk_at dksX1_largestMagnitude_0 10 rfl rfl)
theorem dX1_largestMagnitude_11 : decode cX1_largestMagnitude 11 = .ok (.aload_n 3, 1) := dk_45 (dk_at dksX1_largestMagnitude_0 11 rfl rfl)
theorem dX1_largestMagnitude_12 : decode cX1_largestMagnitude 12 = .ok (.arraylength, 1) := dk_190 (dk_at dksX1_largestMagnitude_0 12 rfl rfl)
theorem dX1_largestMagnitude_13 : decode cX1_largestMagnitude 13 = .ok (.istore 4, 2) := dk_54 4 (dk_at dksX1_largestMagnitude_0 13 rfl rfl)
theorem dX1_largestMagnitude_15 : decode cX1_largestMagnitude 15 = .ok (.iconst 0, 1) := dk_3 (dk_at dksX1_largestMagnitude_0 15 rfl rfl)
theorem dX1_largestMagnitude_16 : decode cX1_largestMagnitude 16 = .ok (.istore 5, 2) := dk_54 5 (dk_at dksX1_largestMagnitude_0 16 rfl rfl)
theorem dX1_largestMagnitude_18 : decode cX1_largestMagnitude 18 = .ok (.iload 5, 2) := dk_21 5 (dk_at dksX1_largestMagnitude_0 18 rfl rfl)
theorem dX1_largestMagnitude_20 : decode cX1_largestMagnitude 20 = .ok (.iload 4, 2) := dk_21 4 (dk_at dksX1_largestMagnitude_0 20 rfl rfl)
theorem dX1_largestMagnitude_22 : decode cX1_largestMagnitude 22 = .ok (.if_icmp .ge 25, 3) := dk_162 0 25 (dk_at dksX1_largestMagnitude_1 0 rfl rfl)
theorem dX1_largestMagnitude_25 : decode cX1_largestMagnitude 25 = .ok (.aload_n 3, 1) := dk_45 (dk_at dksX1_largestMagnitude_1 3 rfl rfl)
theorem dX1_largestMagnitude_26 : decode cX1_largestMagnitude 26 = .ok (.iload 5, 2) := dk_21 5 (dk_at dksX1_largestMagnitude_1 4 rfl rfl)
theorem dX1_largestMagnitude_28 : decode cX1_largestMagnitude 28 = .ok (.iaload, 1) := dk_46 (dk_at dksX1_largestMagnitude_1 6 rfl rfl)
theorem dX1_largestMagnitude_29 : decode cX1_largestMagnitude 29 = .ok (.istore 6, 2) := dk_54 6 (dk_at dksX1_largestMagnitude_1 7 rfl rfl)
theorem dX1_largestMagnitude_31 : decode cX1_largestMagnitude 31 = .ok (.iload_n 2, 1) := dk_28 (dk_at dksX1_largestMagnitude_1 9 rfl rfl)
theorem dX1_largestMagnitude_32 : decode cX1_largestMagnitude 32 = .ok (.iload 6, 2) := dk_21 6 (dk_at dksX1_largestMagnitude_1 10 rfl rfl)
theorem dX1_largestMagnitude_34 : decode cX1_largestMagnitude 34 = .ok (.invokestatic 263, 3) := dk_184 1 7 (dk_at dksX1_largestMagnitude_1 12 rfl rfl)
theorem dX1_largestMagnitude_37 : decode cX1_largestMagnitude 37 = .ok (.invokestatic 268, 3) := dk_184 1 12 (dk_at dksX1_largestMagnitude_1 15 rfl rfl)
theorem dX1_largestMagnitude_40 : decode cX1_largestMagnitude 40 = .ok (.istore_n 2, 1) := dk_61 (dk_at dksX1_largestMagnitude_1 18 rfl rfl)
theorem dX1_largestMagnitude_41 : decode cX1_largestMagnitude 41 = .ok (.iinc 5 1, 3) := dk_132 5 1 (dk_at dksX1_largestMagnitude_1 19 rfl rfl)
theorem dX1_largestMagnitude_44 : decode cX1_largestMagnitude 44 = .ok (.goto (-26), 3) := dk_167 255 230 (dk_at dksX1_largestMagnitude_2 0 rfl rfl)
theorem dX1_largestMagnitude_47 : decode cX1_largestMagnitude 47 = .ok (.iload_n 2, 1) := dk_28 (dk_at dksX1_largestMagnitude_2 3 rfl rfl)
theorem dX1_largestMagnitude_48 : decode cX1_largestMagnitude 48 = .ok (.ireturn, 1) := dk_172 (dk_at dksX1_largestMagnitude_2 4 rfl rfl)
abbrev cX1_trace : ByteArray := prog_1_method_41_code
def yX1_trace : MethodName := ⟨RX1, "trace", "(I)I"⟩
def dkwX1_trace_2 : List UInt8 := [182, 0, 244, 96, 62, 132, 4, 1, 167, 255, 233, 29, 172]
abbrev dktX1_trace_2 : List UInt8 := dkwX1_trace_2 ++ []
def dkwX1_trace_1 : List UInt8 := [184, 0, 176, 3, 62, 3, 54, 4, 21, 4, 44, 180, 0, 158, 162, 0, 20, 29, 44, 21, 4, 21, 4]
abbrev dktX1_trace_1 : List UInt8 := dkwX1_trace_1 ++ dktX1_trace_2
def dkwX1_trace_0 : List UInt8 := [42, 27, 182, 0, 155, 77, 44, 180, 0, 158, 44, 180, 0, 167, 160, 0, 7, 4, 167, 0, 4, 3]
abbrev dktX1_trace_0 : List UInt8 := dkwX1_trace_0 ++ dktX1_trace_1
theorem dksX1_trace_0 : cX1_trace.data.toList.drop 0 = dktX1_trace_0 := by decide +kernel
theorem dksX1_trace_1 : cX1_trace.data.toList.drop 22 = dktX1_trace_1 := dk_seg dksX1_trace_0 22 rfl rfl
theorem dksX1_trace_2 : cX1_trace.data.toList.drop 45 = dktX1_trace_2 := dk_seg dksX1_trace_1 23 rfl rfl
theorem dX1_trace_0 : decode cX1_trace 0 = .ok (.aload_n 0, 1) := dk_42 (dk_at dksX1_trace_0 0 rfl rfl)
theorem dX1_trace_1 : decode cX1_trace 1 = .ok (.iload_n 1, 1) := dk_27 (dk_at dksX1_trace_0 1 rfl rfl)
theorem dX1_trace_2 : decode cX1_trace 2 = .ok (.invokevirtual 155, 3) := dk_182 0 155 (dk_at dksX1_trace_0 2 rfl rfl)
theorem dX1_trace_5 : decode cX1_trace 5 = .ok (.astore_n 2, 1) := dk_77 (dk_at dksX1_trace_0 5 rfl rfl)
theorem dX1_trace_6 : decode cX1_trace 6 = .ok (.aload_n 2, 1) := dk_44 (dk_at dksX1_trace_0 6 rfl rfl)
theorem dX1_trace_7 : decode cX1_trace 7 = .ok (.getfield 158, 3) := dk_180 0 158 (dk_at dksX1_trace_0 7 rfl rfl)
theorem dX1_trace_10 : decode cX1_trace 10 = .ok (.aload_n 2, 1) := dk_44 (dk_at dksX1_trace_0 10 rfl rfl)
theorem dX1_trace_11 : decode cX1_trace 11 = .ok (.getfield 167, 3) := dk_180 0 167 (dk_at dksX1_trace_0 11 rfl rfl)
theorem dX1_trace_14 : decode cX1_trace 14 = .ok (.if_icmp .ne 7, 3) := dk_160 0 7 (dk_at dksX1_trace_0 14 rfl rfl)
theorem dX1_trace_17 : decode cX1_trace 17 = .ok (.iconst 1, 1) := dk_4 (dk_at dksX1_trace_0 17 rfl rfl)
theorem dX1_trace_18 : decode cX1_trace 18 = .ok (.goto 4, 3) := dk_167 0 4 (dk_at dksX1_trace_0 18 rfl rfl)
theorem dX1_trace_21 : decode cX1_trace 21 = .ok (.iconst 0, 1) := dk_3 (dk_at dksX1_trace_0 21 rfl rfl)
theorem dX1_trace_22 : decode cX1_trace 22 = .ok (.invokestatic 176, 3) := dk_184 0 176 (dk_at dksX1_trace_1 0 rfl rfl)
theorem dX1_trace_25 : decode cX1_trace 25 = .ok (.iconst 0, 1) := dk_3 (dk_at dksX1_trace_1 3 rfl rfl)
theorem dX1_trace_26 : decode cX1_trace 26 = .ok (.istore_n 3, 1) := dk_62 (dk_at dksX1_trace_1 4 rfl rfl)
theorem dX1_trace_27 : decode cX1_trace 27 = .ok (.iconst 0, 1) := dk_3 (dk_at dksX1_trace_1 5 rfl rfl)
theorem dX1_trace_28 : decode cX1_trace 28 = .ok (.istore 4, 2) := dk_54 4 (dk_at dksX1_trace_1 6 rfl rfl)
theorem dX1_trace_30 : decode cX1_trace 30 = .ok (.iload 4, 2) := dk_21 4 (dk_at dksX1_trace_1 8 rfl rfl)
theorem dX1_trace_32 : decode cX1_trace 32 = .ok (.aload_n 2, 1) := dk_44 (dk_at dksX1_trace_1 10 rfl rfl)
theorem dX1_trace_33 : decode cX1_trace 33 = .ok (.getfield 158, 3) := dk_180 0 158 (dk_at dksX1_trace_1 11 rfl rfl)
theorem dX1_trace_36 : decode cX1_trace 36 = .ok (.if_icmp .ge 20, 3) := dk_162 0 20 (dk_at dksX1_trace_1 14 rfl rfl)
theorem dX1_trace_39 : decode cX1_trace 39 = .ok (.iload_n 3, 1) := dk_29 (dk_at dksX1_trace_1 17 rfl rfl)
theorem dX1_trace_40 : decode cX1_trace 40 = .ok (.aload_n 2, 1) := dk_44 (dk_at dksX1_trace_1 18 rfl rfl)
theorem dX1_trace_41 : decode cX1_trace 41 = .ok (.iload 4, 2) := dk_21 4 (dk_at dksX1_trace_1 19 rfl rfl)
theorem dX1_trace_43 : decode cX1_trace 43 = .ok (.iload 4, 2) := dk_21 4 (dk_at dksX1_trace_1 21 rfl rfl)
theorem dX1_trace_45 : decode cX1_trace 45 = .ok (.invokevirtual 244, 3) := dk_182 0 244 (dk_at dksX1_trace_2 0 rfl rfl)
theorem dX1_trace_48 : decode cX1_trace 48 = .ok (.iadd, 1) := dk_96 (dk_at dksX1_trace_2 3 rfl rfl)
theorem dX1_trace_49 : decode cX1_trace 49 = .ok (.istore_n 3, 1) := dk_62 (dk_at dksX1_trace_2 4 rfl rfl)
theorem dX1_trace_50 : decode cX1_trace 50 = .ok (.iinc 4 1, 3) := dk_132 4 1 (dk_at dksX1_trace_2 5 rfl rfl)
theorem dX1_trace_53 : decode cX1_trace 53 = .ok (.goto (-23), 3) := dk_167 255 233 (dk_at dksX1_trace_2 8 rfl rfl)
theorem dX1_trace_56 : decode cX1_trace 56 = .ok (.iload_n 3, 1) := dk_29 (dk_at dksX1_trace_2 11 rfl rfl)
theorem dX1_trace_57 : decode cX1_trace 57 = .ok (.ireturn, 1) := dk_172 (dk_at dksX1_trace_2 12 rfl rfl)
abbrev cX1_isSymmetric : ByteArray := prog_1_method_42_code
def yX1_isSymmetric : MethodName := ⟨RX1, "isSymmetric", "(I)Z"⟩
def dkwX1_isSymmetric_3 : List UInt8 := [160, 0, 7, 4, 167, 0, 4, 3, 62, 132, 5, 1, 167, 255, 217, 132, 4, 1, 167, 255, 195, 29, 172]
abbrev dktX1_isSymmetric_3 : List UInt8 := dkwX1_isSymmetric_3 ++ []
def dkwX1_isSymmetric_2 : List UInt8 := [162, 0, 38, 29, 153, 0, 34, 44, 21, 4, 21, 5, 182, 0, 244, 44, 21, 5, 21, 4, 182, 0, 244]
abbrev dktX1_isSymmetric_2 : List UInt8 := dkwX1_isSymmetric_2 ++ dktX1_isSymmetric_3
def dkwX1_isSymmetric_1 : List UInt8 := [54, 4, 21, 4, 44, 180, 0, 158, 162, 0, 58, 29, 153, 0, 54, 3, 54, 5, 21, 5, 21, 4]
abbrev dktX1_isSymmetric_1 : List UInt8 := dkwX1_isSymmetric_1 ++ dktX1_isSymmetric_2
def dkwX1_isSymmetric_0 : List UInt8 := [42, 27, 182, 0, 155, 77, 44, 180, 0, 158, 44, 180, 0, 167, 160, 0, 7, 4, 167, 0, 4, 3, 62, 3]
abbrev dktX1_isSymmetric_0 : List UInt8 := dkwX1_isSymmetric_0 ++ dktX1_isSymmetric_1
theorem dksX1_isSymmetric_0 : cX1_isSymmetric.data.toList.drop 0 = dktX1_isSymmetric_0 := by decide +kernel
theorem dksX1_isSymmetric_1 : cX1_isSymmetric.data.toList.drop 24 = dktX1_isSymmetric_1 := dk_seg dksX1_isSymmetric_0 24 rfl rfl
theorem dksX1_isSymmetric_2 : cX1_isSymmetric.data.toList.drop 46 = dktX1_isSymmetric_2 := dk_seg dksX1_isSymmetric_1 22 rfl rfl
theorem dksX1_isSymmetric_3 : cX1_isSymmetric.data.toList.drop 69 = dktX1_isSymmetric_3 := dk_seg dksX1_isSymmetric_2 23 rfl rfl
theorem dX1_isSymmetric_0 : decode cX1_isSymmetric 0 = .ok (.aload_n 0, 1) := dk_42 (dk_at dksX1_isSymmetric_0 0 rfl rfl)
theorem dX1_isSymmetric_1 : decode cX1_isSymmetric 1 = .ok (.iload_n 1, 1) := dk_27 (dk_at dksX1_isSymmetric_0 1 rfl rfl)
theorem dX1_isSymmetric_2 : decode cX1_isSymmetric 2 = .ok (.invokevirtual 155, 3) := dk_182 0 155 (dk_at dksX1_isSymmetric_0 2 rfl rfl)
theorem dX1_isSymmetric_5 : decode cX1_isSymmetric 5 = .ok (.astore_n 2, 1) := dk_77 (dk_at dksX1_isSymmetric_0 5 rfl rfl)
theorem dX1_isSymmetric_6 : decode cX1_isSymmetric 6 = .ok (.aload_n 2, 1) := dk_44 (dk_at dksX1_isSymmetric_0 6 rfl rfl)
theorem dX1_isSymmetric_7 : decode cX1_isSymmetric 7 = .ok (.getfield 158, 3) := dk_180 0 158 (dk_at dksX1_isSymmetric_0 7 rfl rfl)
theorem dX1_isSymmetric_10 : decode cX1_isSymmetric 10 = .ok (.aload_n 2, 1) := dk_44 (dk_at dksX1_isSymmetric_0 10 rfl rfl)
theorem dX1_isSymmetric_11 : decode cX1_isSymmetric 11 = .ok (.getfield 167, 3) := dk_180 0 167 (dk_at dksX1_isSymmetric_0 11 rfl rfl)
theorem dX1_isSymmetric_14 : decode cX1_isSymmetric 14 = .ok (.if_icmp .ne 7, 3) := dk_160 0 7 (dk_at dksX1_isSymmetric_0 14 rfl rfl)
theorem dX1_isSymmetric_17 : decode cX1_isSymmetric 17 = .ok (.iconst 1, 1) := dk_4 (dk_at dksX1_isSymmetric_0 17 rfl rfl)
theorem dX1_isSymmetric_18 : decode cX1_isSymmetric 18 = .ok (.goto 4, 3) := dk_167 0 4 (dk_at dksX1_isSymmetric_0 18 rfl rfl)
theorem dX1_isSymmetric_21 : decode cX1_isSymmetric 21 = .ok (.iconst 0, 1) := dk_3 (dk_at dksX1_isSymmetric_0 21 rfl rfl)
theorem dX1_isSymmetric_22 : decode cX1_isSymmetric 22 = .ok (.istore_n 3, 1) := dk_62 (dk_at dksX1_isSymmetric_0 22 rfl rfl)
theorem dX1_isSymmetric_23 : decode cX1_isSymmetric 23 = .ok (.iconst 0, 1) := dk_3 (dk_at dksX1_isSymmetric_0 23 rfl rfl)
theorem dX1_isSymmetric_24 : decode cX1_isSymmetric 24 = .ok (.istore 4, 2) := dk_54 4 (dk_at dksX1_isSymmetric_1 0 rfl rfl)
theorem dX1_isSymmetric_26 : decode cX1_isSymmetric 26 = .ok (.iload 4, 2) := dk_21 4 (dk_at dksX1_isSymmetric_1 2 rfl rfl)
theorem dX1_isSymmetric_28 : decode cX1_isSymmetric 28 = .ok (.aload_n 2, 1) := dk_44 (dk_at dksX1_isSymmetric_1 4 rfl rfl)
theorem dX1_isSymmetric_29 : decode cX1_isSymmetric 29 = .ok (.getfield 158, 3) := dk_180 0 158 (dk_at dksX1_isSymmetric_1 5 rfl rfl)
theorem dX1_isSymmetric_32 : decode cX1_isSymmetric 32 = .ok (.if_icmp .ge 58, 3) := dk_162 0 58 (dk_at dksX1_isSymmetric_1 8 rfl rfl)
theorem dX1_isSymmetric_35 : decode cX1_isSymmetric 35 = .ok (.iload_n 3, 1) := dk_29 (dk_at dksX1_isSymmetric_1 11 rfl rfl)
theorem dX1_isSymmetric_36 : decode cX1_isSymmetric 36 = .ok (.ifCond .eq 54, 3) := dk_153 0 54 (dk_at dksX1_isSymmetric_1 12 rfl rfl)
theorem dX1_isSymmetric_39 : decode cX1_isSymmetric 39 = .ok (.iconst 0, 1) := dk_3 (dk_at dksX1_isSymmetric_1 15 rfl rfl)
theorem dX1_isSymmetric_40 : decode cX1_isSymmetric 40 = .ok (.istore 5, 2) := dk_54 5 (dk_at dksX1_isSymmetric_1 16 rfl rfl)
theorem dX1_isSymmetric_42 : decode cX1_isSymmetric 42 = .ok (.iload 5, 2) := dk_21 5 (dk_at dksX1_isSymmetric_1 18 rfl rfl)
theorem dX1_isSymmetric_44 : decode cX1_isSymmetric 44 = .ok (.iload 4, 2) := dk_21 4 (dk_at dksX1_isSymmetric_1 20 rfl rfl)
theorem dX1_isSymmetric_46 : decode cX1_isSymmetric 46 = .ok (.if_icmp .ge 38, 3) := dk_162 0 38 (dk_at dksX1_isSymmetric_2 0 rfl rfl)
theorem dX1_isSymmetric_49 : decode cX1_isSymmetric 49 = .ok (.iload_n 3, 1) := dk_29 (dk_at dksX1_isSymmetric_2 3 rfl rfl)
theorem dX1_isSymmetric_50 : decode cX1_isSymmetric 50 = .ok (.ifCond .eq 34, 3) := dk_153 0 34 (dk_at dksX1_isSymmetric_2 4 rfl rfl)
theorem dX1_isSymmetric_53 : decode cX1_isSymmetric 53 = .ok (.aload_n 2, 1) := dk_44 (dk_at dksX1_isSymmetric_2 7 rfl rfl)
theorem dX1_isSymmetric_54 : decode cX1_isSymmetric 54 = .ok (.iload 4, 2) := dk_21 4 (dk_at dksX1_isSymmetric_2 8 rfl rfl)
theorem dX1_isSymmetric_56 : decode cX1_isSymmetric 56 = .ok (.iload 5, 2) := dk_21 5 (dk_at dksX1_isSymmetric_2 10 rfl rfl)
theorem dX1_isSymmetric_58 : decode cX1_isSymmetric 58 = .ok (.invokevirtual 244, 3) := dk_182 0 244 (dk_at dksX1_isSymmetric_2 12 rfl rfl)
theorem dX1_isSymmetric_61 : decode cX1_isSymmetric 61 = .ok (.aload_n 2, 1) := dk_44 (dk_at dksX1_isSymmetric_2 15 rfl rfl)
theorem dX1_isSymmetric_62 : decode cX1_isSymmetric 62 = .ok (.iload 5, 2) := dk_21 5 (dk_at dksX1_isSymmetric_2 16 rfl rfl)
theorem dX1_isSymmetric_64 : decode cX1_isSymmetric 64 = .ok (.iload 4, 2) := dk_21 4 (dk_at dksX1_isSymmetric_2 18 rfl rfl)
theorem dX1_isSymmetric_66 : decode cX1_isSymmetric 66 = .ok (.invokevirtual 244, 3) := dk_182 0 244 (dk_at dksX1_isSymmetric_2 20 rfl rfl)
theorem dX1_isSymmetric_69 : decode cX1_isSymmetric 69 = .ok (.if_icmp .ne 7, 3) := dk_160 0 7 (dk_at dksX1_isSymmetric_3 0 rfl rfl)
theorem dX1_isSymmetric_72 : decode cX1_isSymmetric 72 = .ok (.iconst 1, 1) := dk_4 (dk_at dksX1_isSymmetric_3 3 rfl rfl)
theorem dX1_isSymmetric_73 : decode cX1_isSymmetric 73 = .ok (.goto 4, 3) := dk_167 0 4 (dk_at dksX1_isSymmetric_3 4 rfl rfl)
theorem dX1_isSymmetric_76 : decode cX1_isSymmetric 76 = .ok (.iconst 0, 1) := dk_3 (dk_at dksX1_isSymmetric_3 7 rfl rfl)
theorem dX1_isSymmetric_77 : decode cX1_isSymmetric 77 = .ok (.istore_n 3, 1) := dk_62 (dk_at dksX1_isSymmetric_3 8 rfl rfl)
theorem dX1_isSymmetric_78 : decode cX1_isSymmetric 78 = .ok (.iinc 5 1, 3) := dk_132 5 1 (dk_at dksX1_isSymmetric_3 9 rfl rfl)
theorem dX1_isSymmetric_81 : decode cX1_isSymmetric 81 = .ok (.goto (-39), 3) := dk_167 255 217 (dk_at dksX1_isSymmetric_3 12 rfl rfl)
theorem dX1_isSymmetric_84 : decode cX1_isSymmetric 84 = .ok (.iinc 4 1, 3) := dk_132 4 1 (dk_at dksX1_isSymmetric_3 15 rfl rfl)
theorem dX1_isSymmetric_87 : decode cX1_isSymmetric 87 = .ok (.goto (-61), 3) := dk_167 255 195 (dk_at dksX1_isSymmetric_3 18 rfl rfl)
theorem dX1_isSymmetric_90 : decode cX1_isSymmetric 90 = .ok (.iload_n 3, 1) := dk_29 (dk_at dksX1_isSymmetric_3 21 rfl rfl)
theorem dX1_isSymmetric_91 : decode cX1_isSymmetric 91 = .ok (.ireturn, 1) := dk_172 (dk_at dksX1_isSymmetric_3 22 rfl rfl)
abbrev cX1_haveSameValues : ByteArray := prog_1_method_43_code
def yX1_haveSameValues : MethodName := ⟨RX1, "haveSameValues", "(II)Z"⟩
def dkwX1_haveSameValues_0 : List UInt8 := [42, 27, 182, 0, 155, 42, 28, 182, 0, 155, 182, 1, 15, 172]
abbrev dktX1_haveSameValues_0 : List UInt8 := dkwX1_haveSameValues_0 ++ []
theorem dksX1_haveSameValues_0 : cX1_haveSameValues.data.toList.drop 0 = dktX1_haveSameValues_0 := by decide +kernel
theorem dX1_haveSameValues_0 : decode cX1_haveSameValues 0 = .ok (.aload_n 0, 1) := dk_42 (dk_at dksX1_haveSameValues_0 0 rfl rfl)
theorem dX1_haveSameValues_1 : decode cX1_haveSameValues 1 = .ok (.iload_n 1, 1) := dk_27 (dk_at dksX1_haveSameValues_0 1 rfl rfl)
theorem dX1_haveSameValues_2 : decode cX1_haveSameValues 2 = .ok (.invokevirtual 155, 3) := dk_182 0 155 (dk_at dksX1_haveSameValues_0 2 rfl rfl)
theorem dX1_haveSameValues_5 : decode cX1_haveSameValues 5 = .ok (.aload_n 0, 1) := dk_42 (dk_at dksX1_haveSameValues_0 5 rfl rfl)
theorem dX1_haveSameValues_6 : decode cX1_haveSameValues 6 = .ok (.iload_n 2, 1) := dk_28 (dk_at dksX1_haveSameValues_0 6 rfl rfl)
theorem dX1_haveSameValues_7 : decode cX1_haveSameValues 7 = .ok (.invokevirtual 155, 3) := dk_182 0 155 (dk_at dksX1_haveSameValues_0 7 rfl rfl)
theorem dX1_haveSameValues_10 : decode cX1_haveSameValues 10 = .ok (.invokevirtual 271, 3) := dk_182 1 15 (dk_at dksX1_haveSameValues_0 10 rfl rfl)
theorem dX1_haveSameValues_13 : decode cX1_haveSameValues 13 = .ok (.ireturn, 1) := dk_172 (dk_at dksX1_haveSameValues_0 13 rfl rfl)
abbrev cX1_haveSameStructure : ByteArray := prog_1_method_44_code
def yX1_haveSameStructure : MethodName := ⟨RX1, "haveSameStructure", "(II)Z"⟩
def dkwX1_haveSameStructure_0 : List UInt8 := [42, 27, 182, 0, 155, 42, 28, 182, 0, 155, 182, 1, 19, 172]
abbrev dktX1_haveSameStructure_0 : List UInt8 := dkwX1_haveSameStructure_0 ++ []
theorem dksX1_haveSameStructure_0 : cX1_haveSameStructure.data.toList.drop 0 = dktX1_haveSameStructure_0 := by decide +kernel
theorem dX1_haveSameStructure_0 : decode cX1_haveSameStructure 0 = .ok (.aload_n 0, 1) := dk_42 (dk_at dksX1_haveSameStructure_0 0 rfl rfl)
theorem dX1_haveSameStructure_1 : decode cX1_haveSameStructure 1 = .ok (.iload_n 1, 1) := dk_27 (dk_at dksX1_haveSameStructure_0 1 rfl rfl)
theorem dX1_haveSameStructure_2 : decode cX1_haveSameStructure 2 = .ok (.invokevirtual 155, 3) := dk_182 0 155 (dk_at dksX1_haveSameStructure_0 2 rfl rfl)
theorem dX1_haveSameStructure_5 : decode cX1_haveSameStructure 5 = .ok (.aload_n 0, 1) := dk_42 (dk_at dksX1_haveSameStructure_0 5 rfl rfl)
theorem dX1_haveSameStructure_6 : decode cX1_haveSameStructure 6 = .ok (.iload_n 2, 1) := dk_28 (dk_at dksX1_haveSameStructure_0 6 rfl rfl)
theorem dX1_haveSameStructure_7 : decode cX1_haveSameStructure 7 = .ok (.invokevirtual 155, 3) := dk_182 0 155 (dk_at dksX1_haveSameStructure_0 7 rfl rfl)
theorem dX1_haveSameStructure_10 : decode cX1_haveSameStructure 10 = .ok (.invokevirtual 275, 3) := dk_182 1 19 (dk_at dksX1_haveSameStructure_0 10 rfl rfl)
theorem dX1_haveSameStructure_13 : decode cX1_haveSameStructure 13 = .ok (.ireturn, 1) := dk_172 (dk_at dksX1_haveSameStructure_0 13 rfl rfl)
abbrev cX1_sumObstacle : ByteArray := prog_1_method_45_code
def yX1_sumObstacle : MethodName := ⟨RX1, "sumObstacle", "(II)I"⟩
def dkwX1_sumObstacle_2 : List UInt8 := [25, 4, 182, 1, 28, 58, 5, 3, 172, 58, 5, 6, 172]
abbrev dktX1_sumObstacle_2 : List UInt8 := dkwX1_sumObstacle_2 ++ []
def dkwX1_sumObstacle_1 : List UInt8 := [159, 0, 5, 4, 172, 45, 180, 0, 167, 25, 4, 180, 0, 167, 159, 0, 5, 5, 172, 45, 178, 1, 22]
abbrev dktX1_sumObstacle_1 : List UInt8 := dkwX1_sumObstacle_1 ++ dktX1_sumObstacle_2
def dkwX1_sumObstacle_0 : List UInt8 := [42, 27, 182, 0, 155, 78, 42, 28, 182, 0, 155, 58, 4, 45, 180, 0, 158, 25, 4, 180, 0, 158]
abbrev dktX1_sumObstacle_0 : List UInt8 := dkwX1_sumObstacle_0 ++ dktX1_sumObstacle_1
theorem dksX1_sumObstacle_0 : cX1_sumObstacle.data.toList.drop 0 = dktX1_sumObstacle_0 := by decide +kernel
theorem dksX1_sumObstacle_1 : cX1_sumObstacle.data.toList.drop 22 = dktX1_sumObstacle_1 := dk_seg dksX1_sumObstacle_0 22 rfl rfl
theorem dksX1_sumObstacle_2 : cX1_sumObstacle.data.toList.drop 45 = dktX1_sumObstacle_2 := dk_seg dksX1_sumObstacle_1 23 rfl rfl
theorem dX1_sumObstacle_0 : decode cX1_sumObstacle 0 = .ok (.aload_n 0, 1) := dk_42 (dk_at dksX1_sumObstacle_0 0 rfl rfl)
theorem dX1_sumObstacle_1 : decode cX1_sumObstacle 1 = .ok (.iload_n 1, 1) := dk_27 (dk_at dksX1_sumObstacle_0 1 rfl rfl)
theorem dX1_sumObstacle_2 : decode cX1_sumObstacle 2 = .ok (.invokevirtual 155, 3) := dk_182 0 155 (dk_at dksX1_sumObstacle_0 2 rfl rfl)
theorem dX1_sumObstacle_5 : decode cX1_sumObstacle 5 = .ok (.astore_n 3, 1) := dk_78 (dk_at dksX1_sumObstacle_0 5 rfl rfl)
theorem dX1_sumObstacle_6 : decode cX1_sumObstacle 6 = .ok (.aload_n 0, 1) := dk_42 (dk_at dksX1_sumObstacle_0 6 rfl rfl)
theorem dX1_sumObstacle_7 : decode cX1_sumObstacle 7 = .ok (.iload_n 2, 1) := dk_28 (dk_at dksX1_sumObstacle_0 7 rfl rfl)
theorem dX1_sumObstacle_8 : decode cX1_sumObstacle 8 = .ok (.invokevirtual 155, 3) := dk_182 0 155 (dk_at dksX1_sumObstacle_0 8 rfl rfl)
theorem dX1_sumObstacle_11 : decode cX1_sumObstacle 11 = .ok (.astore 4, 2) := dk_58 4 (dk_at dksX1_sumObstacle_0 11 rfl rfl)
theorem dX1_sumObstacle_13 : decode cX1_sumObstacle 13 = .ok (.aload_n 3, 1) := dk_45 (dk_at dksX1_sumObstacle_0 13 rfl rfl)
theorem dX1_sumObstacle_14 : decode cX1_sumObstacle 14 = .ok (.getfield 158, 3) := dk_180 0 158 (dk_at dksX1_sumObstacle_0 14 rfl rfl)
theorem dX1_sumObstacle_17 : decode cX1_sumObstacle 17 = .ok (.aload 4, 2) := dk_25 4 (dk_at dksX1_sumObstacle_0 17 rfl rfl)
theorem dX1_sumObstacle_19 : decode cX1_sumObstacle 19 = .ok (.getfield 158, 3) := dk_180 0 158 (dk_at dksX1_sumObstacle_0 19 rfl rfl)
theorem dX1_sumObstacle_22 : decode cX1_sumObstacle 22 = .ok (.if_icmp .eq 5, 3) := dk_159 0 5 (dk_at dksX1_sumObstacle_1 0 rfl rfl)
theorem dX1_sumObstacle_25 : decode cX1_sumObstacle 25 = .ok (.iconst 1, 1) := dk_4 (dk_at dksX1_sumObstacle_1 3 rfl rfl)
theorem dX1_sumObstacle_26 : decode cX1_sumObstacle 26 = .ok (.ireturn, 1) := dk_172 (dk_at dksX1_sumObstacle_1 4 rfl rfl)
theorem dX1_sumObstacle_27 : decode cX1_sumObstacle 27 = .ok (.aload_n 3, 1) := dk_45 (dk_at dksX1_sumObstacle_1 5 rfl rfl)
theorem dX1_sumObstacle_28 : decode cX1_sumObstacle 28 = .ok (.getfield 167, 3) := dk_180 0 167 (dk_at dksX1_sumObstacle_1 6 rfl rfl)
theorem dX1_sumObstacle_31 : decode cX1_sumObstacle 31 = .ok (.aload 4, 2) := dk_25 4 (dk_at dksX1_sumObstacle_1 9 rfl rfl)
theorem dX1_sumObstacle_33 : decode cX1_sumObstacle 33 = .ok (.getfield 167, 3) := dk_180 0 167 (dk_at dksX1_sumObstacle_1 11 rfl rfl)
theorem dX1_sumObstacle_36 : decode cX1_sumObstacle 36 = .ok (.if_icmp .eq 5, 3) := dk_159 0 5 (dk_at dksX1_sumObstacle_1 14 rfl rfl)
theorem dX1_sumObstacle_39 : decode cX1_sumObstacle 39 = .ok (.iconst 2, 1) := dk_5 (dk_at dksX1_sumObstacle_1 17 rfl rfl)
theorem dX1_sumObstacle_40 : decode cX1_sumObstacle 40 = .ok (.ireturn, 1) := dk_172 (dk_at dksX1_sumObstacle_1 18 rfl rfl)
theorem dX1_sumObstacle_41 : decode cX1_sumObstacle 41 = .ok (.aload_n 3, 1) := dk_45 (dk_at dksX1_sumObstacle_1 19 rfl rfl)
theorem dX1_sumObstacle_42 : decode cX1_sumObstacle 42 = .ok (.getstatic 278, 3) := dk_178 1 22 (dk_at dksX1_sumObstacle_1 20 rfl rfl)
theorem dX1_sumObstacle_45 : decode cX1_sumObstacle 45 = .ok (.aload 4, 2) := dk_25 4 (dk_at dksX1_sumObstacle_2 0 rfl rfl)
theorem dX1_sumObstacle_47 : decode cX1_sumObstacle 47 = .ok (.invokevirtual 284, 3) := dk_182 1 28 (dk_at dksX1_sumObstacle_2 2 rfl rfl)
theorem dX1_sumObstacle_50 : decode cX1_sumObstacle 50 = .ok (.astore 5, 2) := dk_58 5 (dk_at dksX1_sumObstacle_2 5 rfl rfl)
theorem dX1_sumObstacle_52 : decode cX1_sumObstacle 52 = .ok (.iconst 0, 1) := dk_3 (dk_at dksX1_sumObstacle_2 7 rfl rfl)
theorem dX1_sumObstacle_53 : decode cX1_sumObstacle 53 = .ok (.ireturn, 1) := dk_172 (dk_at dksX1_sumObstacle_2 8 rfl rfl)
theorem dX1_sumObstacle_54 : decode cX1_sumObstacle 54 = .ok (.astore 5, 2) := dk_58 5 (dk_at dksX1_sumObstacle_2 9 rfl rfl)
theorem dX1_sumObstacle_56 : decode cX1_sumObstacle 56 = .ok (.iconst 3, 1) := dk_6 (dk_at dksX1_sumObstacle_2 11 rfl rfl)
theorem dX1_sumObstacle_57 : decode cX1_sumObstacle 57 = .ok (.ireturn, 1) := dk_172 (dk_at dksX1_sumObstacle_2 12 rfl rfl)
abbrev cX1_productObstacle : ByteArray := prog_1_method_46_code
def yX1_productObstacle : MethodName := ⟨RX1, "productObstacle", "(II)I"⟩
def dkwX1_productObstacle_1 : List UInt8 := [159, 0, 5, 4, 172, 45, 25, 4, 182, 1, 34, 58, 5, 3, 172, 58, 5, 5, 172]
abbrev dktX1_productObstacle_1 : List UInt8 := dkwX1_productObstacle_1 ++ []
def dkwX1_productObstacle_0 : List UInt8 := [42, 27, 182, 0, 155, 78, 42, 28, 182, 0, 155, 58, 4, 45, 180, 0, 167, 25, 4, 180, 0, 158]
abbrev dktX1_productObstacle_0 : List UInt8 := dkwX1_productObstacle_0 ++ dktX1_productObstacle_1
theorem dksX1_productObstacle_0 : cX1_productObstacle.data.toList.drop 0 = dktX1_productObstacle_0 := by decide +kernel
theorem dksX1_productObstacle_1 : cX1_productObstacle.data.toList.drop 22 = dktX1_productObstacle_1 := dk_seg dksX1_productObstacle_0 22 rfl rfl
theorem dX1_productObstacle_0 : decode cX1_productObstacle 0 = .ok (.aload_n 0, 1) := dk_42 (dk_at dksX1_productObstacle_0 0 rfl rfl)
theorem dX1_productObstacle_1 : decode cX1_productObstacle 1 = .ok (.iload_n 1, 1) := dk_27 (dk_at dksX1_productObstacle_0 1 rfl rfl)
theorem dX1_productObstacle_2 : decode cX1_productObstacle 2 = .ok (.invokevirtual 155, 3) := dk_182 0 155 (dk_at dksX1_productObstacle_0 2 rfl rfl)
theorem dX1_productObstacle_5 : decode cX1_productObstacle 5 = .ok (.astore_n 3, 1) := dk_78 (dk_at dksX1_productObstacle_0 5 rfl rfl)
theorem dX1_productObstacle_6 : decode cX1_productObstacle 6 = .ok (.aload_n 0, 1) := dk_42 (dk_at dksX1_productObstacle_0 6 rfl rfl)
theorem dX1_productObstacle_7 : decode cX1_productObstacle 7 = .ok (.iload_n 2, 1) := dk_28 (dk_at dksX1_productObstacle_0 7 rfl rfl)
theorem dX1_productObstacle_8 : decode cX1_productObstacle 8 = .ok (.invokevirtual 155, 3) := dk_182 0 155 (dk_at dksX1_productObstacle_0 8 rfl rfl)
theorem dX1_productObstacle_11 : decode cX1_productObstacle 11 = .ok (.astore 4, 2) := dk_58 4 (dk_at dksX1_productObstacle_0 11 rfl rfl)
theorem dX1_productObstacle_13 : decode cX1_productObstacle 13 = .ok (.aload_n 3, 1) := dk_45 (dk_at dksX1_productObstacle_0 13 rfl rfl)
theorem dX1_productObstacle_14 : decode cX1_productObstacle 14 = .ok (.getfield 167, 3) := dk_180 0 167 (dk_at dksX1_productObstacle_0 14 rfl rfl)
theorem dX1_productObstacle_17 : decode cX1_productObstacle 17 = .ok (.aload 4, 2) := dk_25 4 (dk_at dksX1_productObstacle_0 17 rfl rfl)
theorem dX1_productObstacle_19 : decode cX1_productObstacle 19 = .ok (.getfield 158, 3) := dk_180 0 158 (dk_at dksX1_productObstacle_0 19 rfl rfl)
theorem dX1_productObstacle_22 : decode cX1_productObstacle 22 = .ok (.if_icmp .eq 5, 3) := dk_159 0 5 (dk_at dksX1_productObstacle_1 0 rfl rfl)
theorem dX1_productObstacle_25 : decode cX1_productObstacle 25 = .ok (.iconst 1, 1) := dk_4 (dk_at dksX1_productObstacle_1 3 rfl rfl)
theorem dX1_productObstacle_26 : decode cX1_productObstacle 26 = .ok (.ireturn, 1) := dk_172 (dk_at dksX1_productObstacle_1 4 rfl rfl)
theorem dX1_productObstacle_27 : decode cX1_productObstacle 27 = .ok (.aload_n 3, 1) := dk_45 (dk_at dksX1_productObstacle_1 5 rfl rfl)
theorem dX1_productObstacle_28 : decode cX1_productObstacle 28 = .ok (.aload 4, 2) := dk_25 4 (dk_at dksX1_productObstacle_1 6 rfl rfl)
theorem dX1_productObstacle_30 : decode cX1_productObstacle 30 = .ok (.invokevirtual 290, 3) := dk_182 1 34 (dk_at dksX1_productObstacle_1 8 rfl rfl)
theorem dX1_productObstacle_33 : decode cX1_productObstacle 33 = .ok (.astore 5, 2) := dk_58 5 (dk_at dksX1_productObstacle_1 11 rfl rfl)
theorem dX1_productObstacle_35 : decode cX1_productObstacle 35 = .ok (.iconst 0, 1) := dk_3 (dk_at dksX1_productObstacle_1 13 rfl rfl)
theorem dX1_productObstacle_36 : decode cX1_productObstacle 36 = .ok (.ireturn, 1) := dk_172 (dk_at dksX1_productObstacle_1 14 rfl rfl)
theorem dX1_productObstacle_37 : decode cX1_productObstacle 37 = .ok (.astore 5, 2) := dk_58 5 (dk_at dksX1_productObstacle_1 15 rfl rfl)
theorem dX1_productObstacle_39 : decode cX1_productObstacle 39 = .ok (.iconst 2, 1) := dk_5 (dk_at dksX1_productObstacle_1 17 rfl rfl)
theorem dX1_productObstacle_40 : decode cX1_productObstacle 40 = .ok (.ireturn, 1) := dk_172 (dk_at dksX1_productObstacle_1 18 rfl rfl)
abbrev cX1_productStoredCount : ByteArray := prog_1_method_47_code
def yX1_productStoredCount : MethodName := ⟨RX1, "productStoredCount", "(II)I"⟩
def dkwX1_productStoredCount_3 : List UInt8 := [132, 5, 1, 132, 7, 1, 167, 255, 227, 132, 6, 1, 167, 255, 209, 21, 5, 172]
abbrev dktX1_productStoredCount_3 : List UInt8 := dkwX1_productStoredCount_3 ++ []
def dkwX1_productStoredCount_2 : List UInt8 := [21, 7, 25, 4, 180, 0, 167, 162, 0, 25, 45, 25, 4, 21, 6, 21, 7, 182, 1, 38, 153, 0, 6]
abbrev dktX1_productStoredCount_2 : List UInt8 := dkwX1_productStoredCount_2 ++ dktX1_productStoredCount_3
def dkwX1_productStoredCount_1 : List UInt8 := [159, 0, 5, 2, 172, 3, 54, 5, 3, 54, 6, 21, 6, 45, 180, 0, 158, 162, 0, 44, 3, 54, 7]
abbrev dktX1_productStoredCount_1 : List UInt8 := dkwX1_productStoredCount_1 ++ dktX1_productStoredCount_2
def dkwX1_productStoredCount_0 : List UInt8 := [42, 27, 182, 0, 155, 78, 42, 28, 182, 0, 155, 58, 4, 45, 180, 0, 167, 25, 4, 180, 0, 158]
abbrev dktX1_productStoredCount_0 : List UInt8 := dkwX1_productStoredCount_0 ++ dktX1_productStoredCount_1
theorem dksX1_productStoredCount_0 : cX1_productStoredCount.data.toList.drop 0 = dktX1_productStoredCount_0 := by decide +kernel
theorem dksX1_productStoredCount_1 : cX1_productStoredCount.data.toList.drop 22 = dktX1_productStoredCount_1 := dk_seg dksX1_productStoredCount_0 22 rfl rfl
theorem dksX1_productStoredCount_2 : cX1_productStoredCount.data.toList.drop 45 = dktX1_productStoredCount_2 := dk_seg dksX1_productStoredCount_1 23 rfl rfl
theorem dksX1_productStoredCount_3 : cX1_productStoredCount.data.toList.drop 68 = dktX1_productStoredCount_3 := dk_seg dksX1_productStoredCount_2 23 rfl rfl
theorem dX1_productStoredCount_0 : decode cX1_productStoredCount 0 = .ok (.aload_n 0, 1) := dk_42 (dk_at dksX1_productStoredCount_0 0 rfl rfl)
theorem dX1_productStoredCount_1 : decode cX1_productStoredCount 1 = .ok (.iload_n 1, 1) := dk_27 (dk_at dksX1_productStoredCount_0 1 rfl rfl)
theorem dX1_productStoredCount_2 : decode cX1_productStoredCount 2 = .ok (.invokevirtual 155, 3) := dk_182 0 155 (dk_at dksX1_productStoredCount_0 2 rfl rfl)
theorem dX1_productStoredCount_5 : decode cX1_productStoredCount 5 = .ok (.astore_n 3, 1) := dk_78 (dk_at dksX1_productStoredCount_0 5 rfl rfl)
theorem dX1_productStoredCount_6 : decode cX1_productStoredCount 6 = .ok (.aload_n 0, 1) := dk_42 (dk_at dksX1_productStoredCount_0 6 rfl rfl)
theorem dX1_productStoredCount_7 : decode cX1_productStoredCount 7 = .ok (.iload_n 2, 1) := dk_28 (dk_at dksX1_productStoredCount_0 7 rfl rfl)
theorem dX1_productStoredCount_8 : decode cX1_productStoredCount 8 = .ok (.invokevirtual 155, 3) := dk_182 0 155 (dk_at dksX1_productStoredCount_0 8 rfl rfl)
theorem dX1_productStoredCount_11 : decode cX1_productStoredCount 11 = .ok (.astore 4, 2) := dk_58 4 (dk_at dksX1_productStoredCount_0 11 rfl rfl)
theorem dX1_productStoredCount_13 : decode cX1_productStoredCount 13 = .ok (.aload_n 3, 1) := dk_45 (dk_at dksX1_productStoredCount_0 13 rfl rfl)
theorem dX1_productStoredCount_14 : decode cX1_productStoredCount 14 = .ok (.getfield 167, 3) := dk_180 0 167 (dk_at dksX1_productStoredCount_0 14 rfl rfl)
theorem dX1_productStoredCount_17 : decode cX1_productStoredCount 17 = .ok (.aload 4, 2) := dk_25 4 (dk_at dksX1_productStoredCount_0 17 rfl rfl)
theorem dX1_productStoredCount_19 : decode cX1_productStoredCount 19 = .ok (.getfield 158, 3) := dk_180 0 158 (dk_at dksX1_productStoredCount_0 19 rfl rfl)
theorem dX1_productStoredCount_22 : decode cX1_productStoredCount 22 = .ok (.if_icmp .eq 5, 3) := dk_159 0 5 (dk_at dksX1_productStoredCount_1 0 rfl rfl)
theorem dX1_productStoredCount_25 : decode cX1_productStoredCount 25 = .ok (.iconst (-1), 1) := dk_2 (dk_at dksX1_productStoredCount_1 3 rfl rfl)
theorem dX1_productStoredCount_26 : decode cX1_productStoredCount 26 = .ok (.ireturn, 1) := dk_172 (dk_at dksX1_productStoredCount_1 4 rfl rfl)
theorem dX1_productStoredCount_27 : decode cX1_productStoredCount 27 = .ok (.iconst 0, 1) := dk_3 (dk_at dksX1_productStoredCount_1 5 rfl rfl)
theorem dX1_productStoredCount_28 : decode cX1_productStoredCount 28 = .ok (.istore 5, 2) := dk_54 5 (dk_at dksX1_productStoredCount_1 6 rfl rfl)
theorem dX1_productStoredCount_30 : decode cX1_productStoredCount 30 = .ok (.iconst 0, 1) := dk_3 (dk_at dksX1_productStoredCount_1 8 rfl rfl)
theorem dX1_productStoredCount_31 : decode cX1_productStoredCount 31 = .ok (.istore 6, 2) := dk_54 6 (dk_at dksX1_productStoredCount_1 9 rfl rfl)
theorem dX1_productStoredCount_33 : decode cX1_productStoredCount 33 = .ok (.iload 6, 2) := dk_21 6 (dk_at dksX1_productStoredCount_1 11 rfl rfl)
theorem dX1_productStoredCount_35 : decode cX1_productStoredCount 35 = .ok (.aload_n 3, 1) := dk_45 (dk_at dksX1_productStoredCount_1 13 rfl rfl)
theorem dX1_productStoredCount_36 : decode cX1_productStoredCount 36 = .ok (.getfield 158, 3) := dk_180 0 158 (dk_at dksX1_productStoredCount_1 14 rfl rfl)
theorem dX1_productStoredCount_39 : decode cX1_productStoredCount 39 = .ok (.if_icmp .ge 44, 3) := dk_162 0 44 (dk_at dksX1_productStoredCount_1 17 rfl rfl)
theorem dX1_productStoredCount_42 : decode cX1_productStoredCount 42 = .ok (.iconst 0, 1) := dk_3 (dk_at dksX1_productStoredCount_1 20 rfl rfl)
theorem dX1_productStoredCount_43 : decode cX1_productStoredCount 43 = .ok (.istore 7, 2) := dk_54 7 (dk_at dksX1_productStoredCount_1 21 rfl rfl)
theorem dX1_productStoredCount_45 : decode cX1_productStoredCount 45 = .ok (.iload 7, 2) := dk_21 7 (dk_at dksX1_productStoredCount_2 0 rfl rfl)
theorem dX1_productStoredCount_47 : decode cX1_productStoredCount 47 = .ok (.aload 4, 2) := dk_25 4 (dk_at dksX1_productStoredCount_2 2 rfl rfl)
theorem dX1_productStoredCount_49 : decode cX1_productStoredCount 49 = .ok (.getfield 167, 3) := dk_180 0 167 (dk_at dksX1_productStoredCount_2 4 rfl rfl)
theorem dX1_productStoredCount_52 : decode cX1_productStoredCount 52 = .ok (.if_icmp .ge 25, 3) := dk_162 0 25 (dk_at dksX1_productStoredCount_2 7 rfl rfl)
theorem dX1_productStoredCount_55 : decode cX1_productStoredCount 55 = .ok (.aload_n 3, 1) := dk_45 (dk_at dksX1_productStoredCount_2 10 rfl rfl)
theorem dX1_productStoredCount_56 : decode cX1_productStoredCount 56 = .ok (.aload 4, 2) := dk_25 4 (dk_at dksX1_productStoredCount_2 11 rfl rfl)
theorem dX1_productStoredCount_58 : decode cX1_productStoredCount 58 = .ok (.iload 6, 2) := dk_21 6 (dk_at dksX1_productStoredCount_2 13 rfl rfl)
theorem dX1_productStoredCount_60 : decode cX1_productStoredCount 60 = .ok (.iload 7, 2) := dk_21 7 (dk_at dksX1_productStoredCount_2 15 rfl rfl)
theorem dX1_productStoredCount_62 : decode cX1_productStoredCount 62 = .ok (.invokevirtual 294, 3) := dk_182 1 38 (dk_at dksX1_productStoredCount_2 17 rfl rfl)
theorem dX1_productStoredCount_65 : decode cX1_productStoredCount 65 = .ok (.ifCond .eq 6, 3) := dk_153 0 6 (dk_at dksX1_productStoredCount_2 20 rfl rfl)
theorem dX1_productStoredCount_68 : decode cX1_productStoredCount 68 = .ok (.iinc 5 1, 3) := dk_132 5 1 (dk_at dksX1_productStoredCount_3 0 rfl rfl)
theorem dX1_productStoredCount_71 : decode cX1_productStoredCount 71 = .ok (.iinc 7 1, 3) := dk_132 7 1 (dk_at dksX1_productStoredCount_3 3 rfl rfl)
theorem dX1_productStoredCount_74 : decode cX1_productStoredCount 74 = .ok (.goto (-29), 3) := dk_167 255 227 (dk_at dksX1_productStoredCount_3 6 rfl rfl)
theorem dX1_productStoredCount_77 : decode cX1_productStoredCount 77 = .ok (.iinc 6 1, 3) := dk_132 6 1 (dk_at dksX1_productStoredCount_3 9 rfl rfl)
theorem dX1_productStoredCount_80 : decode cX1_productStoredCount 80 = .ok (.goto (-47), 3) := dk_167 255 209 (dk_at dksX1_productStoredCount_3 12 rfl rfl)
theorem dX1_productStoredCount_83 : decode cX1_productStoredCount 83 = .ok (.iload 5, 2) := dk_21 5 (dk_at dksX1_productStoredCount_3 15 rfl rfl)
theorem dX1_productStoredCount_85 : decode cX1_productStoredCount 85 = .ok (.ireturn, 1) := dk_172 (dk_at dksX1_productStoredCount_3 17 rfl rfl)
abbrev cX1_productWork : ByteArray := prog_1_method_48_code
def yX1_productWork : MethodName := ⟨RX1, "productWork", "(II)I"⟩
def dkwX1_productWork_1 : List UInt8 := [160, 0, 12, 45, 25, 4, 182, 1, 42, 167, 0, 4, 2, 172]
abbrev dktX1_productWork_1 : List UInt8 := dkwX1_productWork_1 ++ []
def dkwX1_productWork_0 : List UInt8 := [42, 27, 182, 0, 155, 78, 42, 28, 182, 0, 155, 58, 4, 45, 180, 0, 167, 25, 4, 180, 0, 158]
abbrev dktX1_productWork_0 : List UInt8 := dkwX1_productWork_0 ++ dktX1_productWork_1
theorem dksX1_productWork_0 : cX1_productWork.data.toList.drop 0 = dktX1_productWork_0 := by decide +kernel
theorem dksX1_productWork_1 : cX1_productWork.data.toList.drop 22 = dktX1_productWork_1 := dk_seg dksX1_productWork_0 22 rfl rfl
theorem dX1_productWork_0 : decode cX1_productWork 0 = .ok (.aload_n 0, 1) := dk_42 (dk_at dksX1_productWork_0 0 rfl rfl)
theorem dX1_productWork_1 : decode cX1_productWork 1 = .ok (.iload_n 1, 1) := dk_27 (dk_at dksX1_productWork_0 1 rfl rfl)
theorem dX1_productWork_2 : decode cX1_productWork 2 = .ok (.invokevirtual 155, 3) := dk_182 0 155 (dk_at dksX1_productWork_0 2 rfl rfl)
theorem dX1_productWork_5 : decode cX1_productWork 5 = .ok (.astore_n 3, 1) := dk_78 (dk_at dksX1_productWork_0 5 rfl rfl)
theorem dX1_productWork_6 : decode cX1_productWork 6 = .ok (.aload_n 0, 1) := dk_42 (dk_at dksX1_productWork_0 6 rfl rfl)
theorem dX1_productWork_7 : decode cX1_productWork 7 = .ok (.iload_n 2, 1) := dk_28 (dk_at dksX1_productWork_0 7 rfl rfl)
theorem dX1_productWork_8 : decode cX1_productWork 8 = .ok (.invokevirtual 155, 3) := dk_182 0 155 (dk_at dksX1_productWork_0 8 rfl rfl)
theorem dX1_productWork_11 : decode cX1_productWork 11 = .ok (.astore 4, 2) := dk_58 4 (dk_at dksX1_productWork_0 11 rfl rfl)
theorem dX1_productWork_13 : decode cX1_productWork 13 = .ok (.aload_n 3, 1) := dk_45 (dk_at dksX1_productWork_0 13 rfl rfl)
theorem dX1_productWork_14 : decode cX1_productWork 14 = .ok (.getfield 167, 3) := dk_180 0 167 (dk_at dksX1_productWork_0 14 rfl rfl)
theorem dX1_productWork_17 : decode cX1_productWork 17 = .ok (.aload 4, 2) := dk_25 4 (dk_at dksX1_productWork_0 17 rfl rfl)
theorem dX1_productWork_19 : decode cX1_productWork 19 = .ok (.getfield 158, 3) := dk_180 0 158 (dk_at dksX1_productWork_0 19 rfl rfl)
theorem dX1_productWork_22 : decode cX1_productWork 22 = .ok (.if_icmp .ne 12, 3) := dk_160 0 12 (dk_at dksX1_productWork_1 0 rfl rfl)
theorem dX1_productWork_25 : decode cX1_productWork 25 = .ok (.aload_n 3, 1) := dk_45 (dk_at dksX1_productWork_1 3 rfl rfl)
theorem dX1_productWork_26 : decode cX1_productWork 26 = .ok (.aload 4, 2) := dk_25 4 (dk_at dksX1_productWork_1 4 rfl rfl)
theorem dX1_productWork_28 : decode cX1_productWork 28 = .ok (.invokevirtual 298, 3) := dk_182 1 42 (dk_at dksX1_productWork_1 6 rfl rfl)
theorem dX1_productWork_31 : decode cX1_productWork 31 = .ok (.goto 4, 3) := dk_167 0 4 (dk_at dksX1_productWork_1 9 rfl rfl)
theorem dX1_productWork_34 : decode cX1_productWork 34 = .ok (.iconst (-1), 1) := dk_2 (dk_at dksX1_productWork_1 12 rfl rfl)
theorem dX1_productWork_35 : decode cX1_productWork 35 = .ok (.ireturn, 1) := dk_172 (dk_at dksX1_productWork_1 13 rfl rfl)
abbrev cX1_sumStoredCount : ByteArray := prog_1_method_49_code
def yX1_sumStoredCount : MethodName := ⟨RX1, "sumStoredCount", "(II)I"⟩
def dkwX1_sumStoredCount_3 : List UInt8 := [153, 0, 6, 132, 5, 1, 132, 7, 1, 167, 255, 218, 132, 6, 1, 167, 255, 200, 21, 5, 172]
abbrev dktX1_sumStoredCount_3 : List UInt8 := dkwX1_sumStoredCount_3 ++ []
def dkwX1_sumStoredCount_2 : List UInt8 := [162, 0, 35, 45, 21, 6, 21, 7, 182, 1, 49, 154, 0, 15, 25, 4, 21, 6, 21, 7, 182, 1, 49]
abbrev dktX1_sumStoredCount_2 : List UInt8 := dkwX1_sumStoredCount_2 ++ dktX1_sumStoredCount_3
def dkwX1_sumStoredCount_1 : List UInt8 := [3, 54, 5, 3, 54, 6, 21, 6, 45, 180, 0, 158, 162, 0, 53, 3, 54, 7, 21, 7, 45, 180, 0, 167]
abbrev dktX1_sumStoredCount_1 : List UInt8 := dkwX1_sumStoredCount_1 ++ dktX1_sumStoredCount_2
def dkwX1_sumStoredCount_0 : List UInt8 := [42, 27, 182, 0, 155, 78, 42, 28, 182, 0, 155, 58, 4, 45, 25, 4, 182, 1, 46, 154, 0, 5, 2, 172]
abbrev dktX1_sumStoredCount_0 : List UInt8 := dkwX1_sumStoredCount_0 ++ dktX1_sumStoredCount_1
theorem dksX1_sumStoredCount_0 : cX1_sumStoredCount.data.toList.drop 0 = dktX1_sumStoredCount_0 := by decide +kernel
theorem dksX1_sumStoredCount_1 : cX1_sumStoredCount.data.toList.drop 24 = dktX1_sumStoredCount_1 := dk_seg dksX1_sumStoredCount_0 24 rfl rfl
theorem dksX1_sumStoredCount_2 : cX1_sumStoredCount.data.toList.drop 48 = dktX1_sumStoredCount_2 := dk_seg dksX1_sumStoredCount_1 24 rfl rfl
theorem dksX1_sumStoredCount_3 : cX1_sumStoredCount.data.toList.drop 71 = dktX1_sumStoredCount_3 := dk_seg dksX1_sumStoredCount_2 23 rfl rfl
theorem dX1_sumStoredCount_0 : decode cX1_sumStoredCount 0 = .ok (.aload_n 0, 1) := dk_42 (dk_at dksX1_sumStoredCount_0 0 rfl rfl)
theorem dX1_sumStoredCount_1 : decode cX1_sumStoredCount 1 = .ok (.iload_n 1, 1) := dk_27 (dk_at dksX1_sumStoredCount_0 1 rfl rfl)
theorem dX1_sumStoredCount_2 : decode cX1_sumStoredCount 2 = .ok (.invokevirtual 155, 3) := dk_182 0 155 (dk_at dksX1_sumStoredCount_0 2 rfl rfl)
theorem dX1_sumStoredCount_5 : decode cX1_sumStoredCount 5 = .ok (.astore_n 3, 1) := dk_78 (dk_at dksX1_sumStoredCount_0 5 rfl rfl)
theorem dX1_sumStoredCount_6 : decode cX1_sumStoredCount 6 = .ok (.aload_n 0, 1) := dk_42 (dk_at dksX1_sumStoredCount_0 6 rfl rfl)
theorem dX1_sumStoredCount_7 : decode cX1_sumStoredCount 7 = .ok (.iload_n 2, 1) := dk_28 (dk_at dksX1_sumStoredCount_0 7 rfl rfl)
theorem dX1_sumStoredCount_8 : decode cX1_sumStoredCount 8 = .ok (.invokevirtual 155, 3) := dk_182 0 155 (dk_at dksX1_sumStoredCount_0 8 rfl rfl)
theorem dX1_sumStoredCount_11 : decode cX1_sumStoredCount 11 = .ok (.astore 4, 2) := dk_58 4 (dk_at dksX1_sumStoredCount_0 11 rfl rfl)
theorem dX1_sumStoredCount_13 : decode cX1_sumStoredCount 13 = .ok (.aload_n 3, 1) := dk_45 (dk_at dksX1_sumStoredCount_0 13 rfl rfl)
theorem dX1_sumStoredCount_14 : decode cX1_sumStoredCount 14 = .ok (.aload 4, 2) := dk_25 4 (dk_at dksX1_sumStoredCount_0 14 rfl rfl)
theorem dX1_sumStoredCount_16 : decode cX1_sumStoredCount 16 = .ok (.invokevirtual 302, 3) := dk_182 1 46 (dk_at dksX1_sumStoredCount_0 16 rfl rfl)
theorem dX1_sumStoredCount_19 : decode cX1_sumStoredCount 19 = .ok (.ifCond .ne 5, 3) := dk_154 0 5 (dk_at dksX1_sumStoredCount_0 19 rfl rfl)
theorem dX1_sumStoredCount_22 : decode cX1_sumStoredCount 22 = .ok (.iconst (-1), 1) := dk_2 (dk_at dksX1_sumStoredCount_0 22 rfl rfl)
theorem dX1_sumStoredCount_23 : decode cX1_sumStoredCount 23 = .ok (.ireturn, 1) := dk_172 (dk_at dksX1_sumStoredCount_0 23 rfl rfl)
theorem dX1_sumStoredCount_24 : decode cX1_sumStoredCount 24 = .ok (.iconst 0, 1) := dk_3 (dk_at dksX1_sumStoredCount_1 0 rfl rfl)
theorem dX1_sumStoredCount_25 : decode cX1_sumStoredCount 25 = .ok (.istore 5, 2) := dk_54 5 (dk_at dksX1_sumStoredCount_1 1 rfl rfl)
theorem dX1_sumStoredCount_27 : decode cX1_sumStoredCount 27 = .ok (.iconst 0, 1) := dk_3 (dk_at dksX1_sumStoredCount_1 3 rfl rfl)
theorem dX1_sumStoredCount_28 : decode cX1_sumStoredCount 28 = .ok (.istore 6, 2) := dk_54 6 (dk_at dksX1_sumStoredCount_1 4 rfl rfl)
theorem dX1_sumStoredCount_30 : decode cX1_sumStoredCount 30 = .ok (.iload 6, 2) := dk_21 6 (dk_at dksX1_sumStoredCount_1 6 rfl rfl)
theorem dX1_sumStoredCount_32 : decode cX1_sumStoredCount 32 = .ok (.aload_n 3, 1) := dk_45 (dk_at dksX1_sumStoredCount_1 8 rfl rfl)
theorem dX1_sumStoredCount_33 : decode cX1_sumStoredCount 33 = .ok (.getfield 158, 3) := dk_180 0 158 (dk_at dksX1_sumStoredCount_1 9 rfl rfl)
theorem dX1_sumStoredCount_36 : decode cX1_sumStoredCount 36 = .ok (.if_icmp .ge 53, 3) := dk_162 0 53 (dk_at dksX1_sumStoredCount_1 12 rfl rfl)
theorem dX1_sumStoredCount_39 : decode cX1_sumStoredCount 39 = .ok (.iconst 0, 1) := dk_3 (dk_at dksX1_sumStoredCount_1 15 rfl rfl)
theorem dX1_sumStoredCount_40 : decode cX1_sumStoredCount 40 = .ok (.istore 7, 2) := dk_54 7 (dk_at dksX1_sumStoredCount_1 16 rfl rfl)
theorem dX1_sumStoredCount_42 : decode cX1_sumStoredCount 42 = .ok (.iload 7, 2) := dk_21 7 (dk_at dksX1_sumStoredCount_1 18 rfl rfl)
theorem dX1_sumStoredCount_44 : decode cX1_sumStoredCount 44 = .ok (.aload_n 3, 1) := dk_45 (dk_at dksX1_sumStoredCount_1 20 rfl rfl)
theorem dX1_sumStoredCount_45 : decode cX1_sumStoredCount 45 = .ok (.getfield 167, 3) := dk_180 0 167 (dk_at dksX1_sumStoredCount_1 21 rfl rfl)
theorem dX1_sumStoredCount_48 : decode cX1_sumStoredCount 48 = .ok (.if_icmp .ge 35, 3) := dk_162 0 35 (dk_at dksX1_sumStoredCount_2 0 rfl rfl)
theorem dX1_sumStoredCount_51 : decode cX1_sumStoredCount 51 = .ok (.aload_n 3, 1) := dk_45 (dk_at dksX1_sumStoredCount_2 3 rfl rfl)
theorem dX1_sumStoredCount_52 : decode cX1_sumStoredCount 52 = .ok (.iload 6, 2) := dk_21 6 (dk_at dksX1_sumStoredCount_2 4 rfl rfl)
theorem dX1_sumStoredCount_54 : decode cX1_sumStoredCount 54 = .ok (.iload 7, 2) := dk_21 7 (dk_at dksX1_sumStoredCount_2 6 rfl rfl)
theorem dX1_sumStoredCount_56 : decode cX1_sumStoredCount 56 = .ok (.invokevirtual 305, 3) := dk_182 1 49 (dk_at dksX1_sumStoredCount_2 8 rfl rfl)
theorem dX1_sumStoredCount_59 : decode cX1_sumStoredCount 59 = .ok (.ifCond .ne 15, 3) := dk_154 0 15 (dk_at dksX1_sumStoredCount_2 11 rfl rfl)
theorem dX1_sumStoredCount_62 : decode cX1_sumStoredCount 62 = .ok (.aload 4, 2) := dk_25 4 (dk_at dksX1_sumStoredCount_2 14 rfl rfl)
theorem dX1_sumStoredCount_64 : decode cX1_sumStoredCount 64 = .ok (.iload 6, 2) := dk_21 6 (dk_at dksX1_sumStoredCount_2 16 rfl rfl)
theorem dX1_sumStoredCount_66 : decode cX1_sumStoredCount 66 = .ok (.iload 7, 2) := dk_21 7 (dk_at dksX1_sumStoredCount_2 18 rfl rfl)
theorem dX1_sumStoredCount_68 : decode cX1_sumStoredCount 68 = .ok (.invokevirtual 305, 3) := dk_182 1 49 (dk_at dksX1_sumStoredCount_2 20 rfl rfl)
theorem dX1_sumStoredCount_71 : decode cX1_sumStoredCount 71 = .ok (.ifCond .eq 6, 3) := dk_153 0 6 (dk_at dksX1_sumStoredCount_3 0 rfl rfl)
theorem dX1_sumStoredCount_74 : decode cX1_sumStoredCount 74 = .ok (.iinc 5 1, 3) := dk_132 5 1 (dk_at dksX1_sumStoredCount_3 3 rfl rfl)
theorem dX1_sumStoredCount_77 : decode cX1_sumStoredCount 77 = .ok (.iinc 7 1, 3) := dk_132 7 1 (dk_at dksX1_sumStoredCount_3 6 rfl rfl)
theorem dX1_sumStoredCount_80 : decode cX1_sumStoredCount 80 = .ok (.goto (-38), 3) := dk_167 255 218 (dk_at dksX1_sumStoredCount_3 9 rfl rfl)
theorem dX1_sumStoredCount_83 : decode cX1_sumStoredCount 83 = .ok (.iinc 6 1, 3) := dk_132 6 1 (dk_at dksX1_sumStoredCount_3 12 rfl rfl)
theorem dX1_sumStoredCount_86 : decode cX1_sumStoredCount 86 = .ok (.goto (-56), 3) := dk_167 255 200 (dk_at dksX1_sumStoredCount_3 15 rfl rfl)
theorem dX1_sumStoredCount_89 : decode cX1_sumStoredCount 89 = .ok (.iload 5, 2) := dk_21 5 (dk_at dksX1_sumStoredCount_3 18 rfl rfl)
theorem dX1_sumStoredCount_91 : decode cX1_sumStoredCount 91 = .ok (.ireturn, 1) := dk_172 (dk_at dksX1_sumStoredCount_3 20 rfl rfl)
abbrev cX1_costliestEntry : ByteArray := prog_1_method_50_code
def yX1_costliestEntry : MethodName := ⟨RX1, "costliestEntry", "(II)I"⟩
def dkwX1_costliestEntry_3 : List UInt8 := [164, 0, 7, 21, 6, 54, 5, 132, 6, 1, 167, 255, 195, 21, 5, 172]
abbrev dktX1_costliestEntry_3 : List UInt8 := dkwX1_costliestEntry_3 ++ []
def dkwX1_costliestEntry_2 : List UInt8 := [25, 4, 45, 180, 0, 231, 21, 6, 46, 182, 0, 254, 25, 4, 45, 180, 0, 231, 21, 5, 46, 182, 0, 254]
abbrev dktX1_costliestEntry_2 : List UInt8 := dkwX1_costliestEntry_2 ++ dktX1_costliestEntry_3
def dkwX1_costliestEntry_1 : List UInt8 := [182, 0, 170, 162, 0, 58, 45, 180, 0, 167, 25, 4, 180, 0, 158, 160, 0, 46, 21, 5, 2, 159, 0, 30]
abbrev dktX1_costliestEntry_1 : List UInt8 := dkwX1_costliestEntry_1 ++ dktX1_costliestEntry_2
def dkwX1_costliestEntry_0 : List UInt8 := [42, 27, 182, 0, 155, 78, 42, 28, 182, 0, 155, 58, 4, 2, 54, 5, 3, 54, 6, 21, 6, 45]
abbrev dktX1_costliestEntry_0 : List UInt8 := dkwX1_costliestEntry_0 ++ dktX1_costliestEntry_1
theorem dksX1_costliestEntry_0 : cX1_costliestEntry.data.toList.drop 0 = dktX1_costliestEntry_0 := by decide +kernel
theorem dksX1_costliestEntry_1 : cX1_costliestEntry.data.toList.drop 22 = dktX1_costliestEntry_1 := dk_seg dksX1_costliestEntry_0 22 rfl rfl
theorem dksX1_costliestEntry_2 : cX1_costliestEntry.data.toList.drop 46 = dktX1_costliestEntry_2 := dk_seg dksX1_costliestEntry_1 24 rfl rfl
theorem dksX1_costliestEntry_3 : cX1_costliestEntry.data.toList.drop 70 = dktX1_costliestEntry_3 := dk_seg dksX1_costliestEntry_2 24 rfl rfl
theorem dX1_costliestEntry_0 : decode cX1_costliestEntry 0 = .ok (.aload_n 0, 1) := dk_42 (dk_at dksX1_costliestEntry_0 0 rfl rfl)
theorem dX1_costliestEntry_1 : decode cX1_costliestEntry 1 = .ok (.iload_n 1, 1) := dk_27 (dk_at dksX1_costliestEntry_0 1 rfl rfl)
theorem dX1_costliestEntry_2 : decode cX1_costliestEntry 2 = .ok (.invokevirtual 155, 3) := dk_182 0 155 (dk_at dksX1_costliestEntry_0 2 rfl rfl)
theorem dX1_costliestEntry_5 : decode cX1_costliestEntry 5 = .ok (.astore_n 3, 1) := dk_78 (dk_at dksX1_costliestEntry_0 5 rfl rfl)
theorem dX1_costliestEntry_6 : decode cX1_costliestEntry 6 = .ok (.aload_n 0, 1) := dk_42 (dk_at dksX1_costliestEntry_0 6 rfl rfl)
theorem dX1_costliestEntry_7 : decode cX1_costliestEntry 7 = .ok (.iload_n 2, 1) := dk_28 (dk_at dksX1_costliestEntry_0 7 rfl rfl)
theorem dX1_costliestEntry_8 : decode cX1_costliestEntry 8 = .ok (.invokevirtual 155, 3) := dk_182 0 155 (dk_at dksX1_costliestEntry_0 8 rfl rfl)
theorem dX1_costliestEntry_11 : decode cX1_costliestEntry 11 = .ok (.astore 4, 2) := dk_58 4 (dk_at dksX1_costliestEntry_0 11 rfl rfl)
theorem dX1_costliestEntry_13 : decode cX1_costliestEntry 13 = .ok (.iconst (-1), 1) := dk_2 (dk_at dksX1_costliestEntry_0 13 rfl rfl)
theorem dX1_costliestEntry_14 : decode cX1_costliestEntry 14 = .ok (.istore 5, 2) := dk_54 5 (dk_at dksX1_costliestEntry_0 14 rfl rfl)
theorem dX1_costliestEntry_16 : decode cX1_costliestEntry 16 = .ok (.iconst 0, 1) := dk_3 (dk_at dksX1_costliestEntry_0 16 rfl rfl)
theorem dX1_costliestEntry_17 : decode cX1_costliestEntry 17 = .ok (.istore 6, 2) := dk_54 6 (dk_at dksX1_costliestEntry_0 17 rfl rfl)
theorem dX1_costliestEntry_19 : decode cX1_costliestEntry 19 = .ok (.iload 6, 2) := dk_21 6 (dk_at dksX1_costliestEntry_0 19 rfl rfl)
theorem dX1_costliestEntry_21 : decode cX1_costliestEntry 21 = .ok (.aload_n 3, 1) := dk_45 (dk_at dksX1_costliestEntry_0 21 rfl rfl)
theorem dX1_costliestEntry_22 : decode cX1_costliestEntry 22 = .ok (.invokevirtual 170, 3) := dk_182 0 170 (dk_at dksX1_costliestEntry_1 0 rfl rfl)
theorem dX1_costliestEntry_25 : decode cX1_costliestEntry 25 = .ok (.if_icmp .ge 58, 3) := dk_162 0 58 (dk_at dksX1_costliestEntry_1 3 rfl rfl)
theorem dX1_costliestEntry_28 : decode cX1_costliestEntry 28 = .ok (.aload_n 3, 1) := dk_45 (dk_at dksX1_costliestEntry_1 6 rfl rfl)
theorem dX1_costliestEntry_29 : decode cX1_costliestEntry 29 = .ok (.getfield 167, 3) := dk_180 0 167 (dk_at dksX1_costliestEntry_1 7 rfl rfl)
theorem dX1_costliestEntry_32 : decode cX1_costliestEntry 32 = .ok (.aload 4, 2) := dk_25 4 (dk_at dksX1_costliestEntry_1 10 rfl rfl)
theorem dX1_costliestEntry_34 : decode cX1_costliestEntry 34 = .ok (.getfield 158, 3) := dk_180 0 158 (dk_at dksX1_costliestEntry_1 12 rfl rfl)
theorem dX1_costliestEntry_37 : decode cX1_costliestEntry 37 = .ok (.if_icmp .ne 46, 3) := dk_160 0 46 (dk_at dksX1_costliestEntry_1 15 rfl rfl)
theorem dX1_costliestEntry_40 : decode cX1_costliestEntry 40 = .ok (.iload 5, 2) := dk_21 5 (dk_at dksX1_costliestEntry_1 18 rfl rfl)
theorem dX1_costliestEntry_42 : decode cX1_costliestEntry 42 = .ok (.iconst (-1), 1) := dk_2 (dk_at dksX1_costliestEntry_1 20 rfl rfl)
theorem dX1_costliestEntry_43 : decode cX1_costliestEntry 43 = .ok (.if_icmp .eq 30, 3) := dk_159 0 30 (dk_at dksX1_costliestEntry_1 21 rfl rfl)
theorem dX1_costliestEntry_46 : decode cX1_costliestEntry 46 = .ok (.aload 4, 2) := dk_25 4 (dk_at dksX1_costliestEntry_2 0 rfl rfl)
theorem dX1_costliestEntry_48 : decode cX1_costliestEntry 48 = .ok (.aload_n 3, 1) := dk_45 (dk_at dksX1_costliestEntry_2 2 rfl rfl)
theorem dX1_costliestEntry_49 : decode cX1_costliestEntry 49 = .ok (.getfield 231, 3) := dk_180 0 231 (dk_at dksX1_costliestEntry_2 3 rfl rfl)
theorem dX1_costliestEntry_52 : decode cX1_costliestEntry 52 = .ok (.iload 6, 2) := dk_21 6 (dk_at dksX1_costliestEntry_2 6 rfl rfl)
theorem dX1_costliestEntry_54 : decode cX1_costliestEntry 54 = .ok (.iaload, 1) := dk_46 (dk_at dksX1_costliestEntry_2 8 rfl rfl)
theorem dX1_costliestEntry_55 : decode cX1_costliestEntry 55 = .ok (.invokevirtual 254, 3) := dk_182 0 254 (dk_at dksX1_costliestEntry_2 9 rfl rfl)
theorem dX1_costliestEntry_58 : decode cX1_costliestEntry 58 = .ok (.aload 4, 2) := dk_25 4 (dk_at dksX1_costliestEntry_2 12 rfl rfl)
theorem dX1_costliestEntry_60 : decode cX1_costliestEntry 60 = .ok (.aload_n 3, 1) := dk_45 (dk_at dksX1_costliestEntry_2 14 rfl rfl)
theorem dX1_costliestEntry_61 : decode cX1_costliestEntry 61 = .ok (.getfield 231, 3) := dk_180 0 231 (dk_at dksX1_costliestEntry_2 15 rfl rfl)
theorem dX1_costliestEntry_64 : decode cX1_costliestEntry 64 = .ok (.iload 5, 2) := dk_21 5 (dk_at dksX1_costliestEntry_2 18 rfl rfl)
theorem dX1_costliestEntry_66 : decode cX1_costliestEntry 66 = .ok (.iaload, 1) := dk_46 (dk_at dksX1_costliestEntry_2 20 rfl rfl)
theorem dX1_costliestEntry_67 : decode cX1_costliestEntry 67 = .ok (.invokevirtual 254, 3) := dk_182 0 254 (dk_at dksX1_costliestEntry_2 21 rfl rfl)
theorem dX1_costliestEntry_70 : decode cX1_costliestEntry 70 = .ok (.if_icmp .le 7, 3) := dk_164 0 7 (dk_at dksX1_costliestEntry_3 0 rfl rfl)
theorem dX1_costliestEntry_73 : decode cX1_costliestEntry 73 = .ok (.iload 6, 2) := dk_21 6 (dk_at dksX1_costliestEntry_3 3 rfl rfl)
theorem dX1_costliestEntry_75 : decode cX1_costliestEntry 75 = .ok (.istore 5, 2) := dk_54 5 (dk_at dksX1_costliestEntry_3 5 rfl rfl)
theorem dX1_costliestEntry_77 : decode cX1_costliestEntry 77 = .ok (.iinc 6 1, 3) := dk_132 6 1 (dk_at dksX1_costliestEntry_3 7 rfl rfl)
theorem dX1_costliestEntry_80 : decode cX1_costliestEntry 80 = .ok (.goto (-61), 3) := dk_167 255 195 (dk_at dksX1_costliestEntry_3 10 rfl rfl)
theorem dX1_costliestEntry_83 : decode cX1_costliestEntry 83 = .ok (.iload 5, 2) := dk_21 5 (dk_at dksX1_costliestEntry_3 13 rfl rfl)
theorem dX1_costliestEntry_85 : decode cX1_costliestEntry 85 = .ok (.ireturn, 1) := dk_172 (dk_at dksX1_costliestEntry_3 15 rfl rfl)
abbrev cX1_density : ByteArray := prog_1_method_55_code
def yX1_density : MethodName := ⟨RX1, "density", "(I)F"⟩
def dkwX1_density_0 : List UInt8 := [42, 27, 182, 0, 155, 77, 44, 182, 0, 170, 134, 44, 180, 0, 158, 44, 180, 0, 167, 104, 134, 110, 174]
abbrev dktX1_density_0 : List UInt8 := dkwX1_density_0 ++ []
theorem dksX1_density_0 : cX1_density.data.toList.drop 0 = dktX1_density_0 := by decide +kernel
theorem dX1_density_0 : decode cX1_density 0 = .ok (.aload_n 0, 1) := dk_42 (dk_at dksX1_density_0 0 rfl rfl)
theorem dX1_density_1 : decode cX1_density 1 = .ok (.iload_n 1, 1) := dk_27 (dk_at dksX1_density_0 1 rfl rfl)
theorem dX1_density_2 : decode cX1_density 2 = .ok (.invokevirtual 155, 3) := dk_182 0 155 (dk_at dksX1_density_0 2 rfl rfl)
theorem dX1_density_5 : decode cX1_density 5 = .ok (.astore_n 2, 1) := dk_77 (dk_at dksX1_density_0 5 rfl rfl)
theorem dX1_density_6 : decode cX1_density 6 = .ok (.aload_n 2, 1) := dk_44 (dk_at dksX1_density_0 6 rfl rfl)
theorem dX1_density_7 : decode cX1_density 7 = .ok (.invokevirtual 170, 3) := dk_182 0 170 (dk_at dksX1_density_0 7 rfl rfl)
theorem dX1_density_10 : decode cX1_density 10 = .ok (.i2f, 1) := dk_134 (dk_at dksX1_density_0 10 rfl rfl)
theorem dX1_density_11 : decode cX1_density 11 = .ok (.aload_n 2, 1) := dk_44 (dk_at dksX1_density_0 11 rfl rfl)
theorem dX1_density_12 : decode cX1_density 12 = .ok (.getfield 158, 3) := dk_180 0 158 (dk_at dksX1_density_0 12 rfl rfl)
theorem dX1_density_15 : decode cX1_density 15 = .ok (.aload_n 2, 1) := dk_44 (dk_at dksX1_density_0 15 rfl rfl)
theorem dX1_density_16 : decode cX1_density 16 = .ok (.getfield 167, 3) := dk_180 0 167 (dk_at dksX1_density_0 16 rfl rfl)
theorem dX1_density_19 : decode cX1_density 19 = .ok (.imul, 1) := dk_104 (dk_at dksX1_density_0 19 rfl rfl)
theorem dX1_density_20 : decode cX1_density 20 = .ok (.i2f, 1) := dk_134 (dk_at dksX1_density_0 20 rfl rfl)
theorem dX1_density_21 : decode cX1_density 21 = .ok (.fdiv, 1) := dk_110 (dk_at dksX1_density_0 21 rfl rfl)
theorem dX1_density_22 : decode cX1_density 22 = .ok (.freturn, 1) := dk_174 (dk_at dksX1_density_0 22 rfl rfl)
abbrev cX1_meanStoredValue : ByteArray := prog_1_method_56_code
def yX1_meanStoredValue : MethodName := ⟨RX1, "meanStoredValue", "(I)D"⟩
def dkwX1_meanStoredValue_2 : List UInt8 := [44, 182, 0, 170, 154, 0, 7, 14, 167, 0, 11, 33, 138, 44, 182, 0, 170, 135, 111, 175]
abbrev dktX1_meanStoredValue_2 : List UInt8 := dkwX1_meanStoredValue_2 ++ []
def dkwX1_meanStoredValue_1 : List UInt8 := [21, 6, 162, 0, 22, 25, 5, 21, 7, 46, 54, 8, 33, 21, 8, 133, 97, 66, 132, 7, 1, 167, 255, 233]
abbrev dktX1_meanStoredValue_1 : List UInt8 := dkwX1_meanStoredValue_1 ++ dktX1_meanStoredValue_2
def dkwX1_meanStoredValue_0 : List UInt8 := [42, 27, 182, 0, 155, 77, 9, 66, 44, 180, 0, 234, 58, 5, 25, 5, 190, 54, 6, 3, 54, 7, 21, 7]
abbrev dktX1_meanStoredValue_0 : List UInt8 := dkwX1_meanStoredValue_0 ++ dktX1_meanStoredValue_1
theorem dksX1_meanStoredValue_0 : cX1_meanStoredValue.data.toList.drop 0 = dktX1_meanStoredValue_0 := by decide +kernel
theorem dksX1_meanStoredValue_1 : cX1_meanStoredValue.data.toList.drop 24 = dktX1_meanStoredValue_1 := dk_seg dksX1_meanStoredValue_0 24 rfl rfl
theorem dksX1_meanStoredValue_2 : cX1_meanStoredValue.data.toList.drop 48 = dktX1_meanStoredValue_2 := dk_seg dksX1_meanStoredValue_1 24 rfl rfl
theorem dX1_meanStoredValue_0 : decode cX1_meanStoredValue 0 = .ok (.aload_n 0, 1) := dk_42 (dk_at dksX1_meanStoredValue_0 0 rfl rfl)
theorem dX1_meanStoredValue_1 : decode cX1_meanStoredValue 1 = .ok (.iload_n 1, 1) := dk_27 (dk_at dksX1_meanStoredValue_0 1 rfl rfl)
theorem dX1_meanStoredValue_2 : decode cX1_meanStoredValue 2 = .ok (.invokevirtual 155, 3) := dk_182 0 155 (dk_at dksX1_meanStoredValue_0 2 rfl rfl)
theorem dX1_meanStoredValue_5 : decode cX1_meanStoredValue 5 = .ok (.astore_n 2, 1) := dk_77 (dk_at dksX1_meanStoredValue_0 5 rfl rfl)
theorem dX1_meanStoredValue_6 : decode cX1_meanStoredValue 6 = .ok (.lconst 0, 1) := dk_9 (dk_at dksX1_meanStoredValue_0 6 rfl rfl)
theorem dX1_meanStoredValue_7 : decode cX1_meanStoredValue 7 = .ok (.lstore_n 3, 1) := dk_66 (dk_at dksX1_meanStoredValue_0 7 rfl rfl)
theorem dX1_meanStoredValue_8 : decode cX1_meanStoredValue 8 = .ok (.aload_n 2, 1) := dk_44 (dk_at dksX1_meanStoredValue_0 8 rfl rfl)
theorem dX1_meanStoredValue_9 : decode cX1_meanStoredValue 9 = .ok (.getfield 234, 3) := dk_180 0 234 (dk_at dksX1_meanStoredValue_0 9 rfl rfl)
theorem dX1_meanStoredValue_12 : decode cX1_meanStoredValue 12 = .ok (.astore 5, 2) := dk_58 5 (dk_at dksX1_meanStoredValue_0 12 rfl rfl)
theorem dX1_meanStoredValue_14 : decode cX1_meanStoredValue 14 = .ok (.aload 5, 2) := dk_25 5 (dk_at dksX1_meanStoredValue_0 14 rfl rfl)
theorem dX1_meanStoredValue_16 : decode cX1_meanStoredValue 16 = .ok (.arraylength, 1) := dk_190 (dk_at dksX1_meanStoredValue_0 16 rfl rfl)
theorem dX1_meanStoredValue_17 : decode cX1_meanStoredValue 17 = .ok (.istore 6, 2) := dk_54 6 (dk_at dksX1_meanStoredValue_0 17 rfl rfl)
theorem dX1_meanStoredValue_19 : decode cX1_meanStoredValue 19 = .ok (.iconst 0, 1) := dk_3 (dk_at dksX1_meanStoredValue_0 19 rfl rfl)
theorem dX1_meanStoredValue_20 : decode cX1_meanStoredValue 20 = .ok (.istore 7, 2) := dk_54 7 (dk_at dksX1_meanStoredValue_0 20 rfl rfl)
theorem dX1_meanStoredValue_22 : decode cX1_meanStoredValue 22 = .ok (.iload 7, 2) := dk_21 7 (dk_at dksX1_meanStoredValue_0 22 rfl rfl)
theorem dX1_meanStoredValue_24 : decode cX1_meanStoredValue 24 = .ok (.iload 6, 2) := dk_21 6 (dk_at dksX1_meanStoredValue_1 0 rfl rfl)
theorem dX1_meanStoredValue_26 : decode cX1_meanStoredValue 26 = .ok (.if_icmp .ge 22, 3) := dk_162 0 22 (dk_at dksX1_meanStoredValue_1 2 rfl rfl)
theorem dX1_meanStoredValue_29 : decode cX1_meanStoredValue 29 = .ok (.aload 5, 2) := dk_25 5 (dk_at dksX1_meanStoredValue_1 5 rfl rfl)
theorem dX1_meanStoredValue_31 : decode cX1_meanStoredValue 31 = .ok (.iload 7, 2) := dk_21 7 (dk_at dksX1_meanStoredValue_1 7 rfl rfl)
theorem dX1_meanStoredValue_33 : decode cX1_meanStoredValue 33 = .ok (.iaload, 1) := dk_46 (dk_at dksX1_meanStoredValue_1 9 rfl rfl)
theorem dX1_meanStoredValue_34 : decode cX1_meanStoredValue 34 = .ok (.istore 8, 2) := dk_54 8 (dk_at dksX1_meanStoredValue_1 10 rfl rfl)
theorem dX1_meanStoredValue_36 : decode cX1_meanStoredValue 36 = .ok (.lload_n 3, 1) := dk_33 (dk_at dksX1_meanStoredValue_1 12 rfl rfl)
theorem dX1_meanStoredValue_37 : decode cX1_meanStoredValue 37 = .ok (.iload 8, 2) := dk_21 8 (dk_at dksX1_meanStoredValue_1 13 rfl rfl)
theorem dX1_meanStoredValue_39 : decode cX1_meanStoredValue 39 = .ok (.i2l, 1) := dk_133 (dk_at dksX1_meanStoredValue_1 15 rfl rfl)
theorem dX1_meanStoredValue_40 : decode cX1_meanStoredValue 40 = .ok (.ladd, 1) := dk_97 (dk_at dksX1_meanStoredValue_1 16 rfl rfl)
theorem dX1_meanStoredValue_41 : decode cX1_meanStoredValue 41 = .ok (.lstore_n 3, 1) := dk_66 (dk_at dksX1_meanStoredValue_1 17 rfl rfl)
theorem dX1_meanStoredValue_42 : decode cX1_meanStoredValue 42 = .ok (.iinc 7 1, 3) := dk_132 7 1 (dk_at dksX1_meanStoredValue_1 18 rfl rfl)
theorem dX1_meanStoredValue_45 : decode cX1_meanStoredValue 45 = .ok (.goto (-23), 3) := dk_167 255 233 (dk_at dksX1_meanStoredValue_1 21 rfl rfl)
theorem dX1_meanStoredValue_48 : decode cX1_meanStoredValue 48 = .ok (.aload_n 2, 1) := dk_44 (dk_at dksX1_meanStoredValue_2 0 rfl rfl)
theorem dX1_meanStoredValue_49 : decode cX1_meanStoredValue 49 = .ok (.invokevirtual 170, 3) := dk_182 0 170 (dk_at dksX1_meanStoredValue_2 1 rfl rfl)
theorem dX1_meanStoredValue_52 : decode cX1_meanStoredValue 52 = .ok (.ifCond .ne 7, 3) := dk_154 0 7 (dk_at dksX1_meanStoredValue_2 4 rfl rfl)
theorem dX1_meanStoredValue_55 : decode cX1_meanStoredValue 55 = .ok (.dconst 0, 1) := dk_14 (dk_at dksX1_meanStoredValue_2 7 rfl rfl)
theorem dX1_meanStoredValue_56 : decode cX1_meanStoredValue 56 = .ok (.goto 11, 3) := dk_167 0 11 (dk_at dksX1_meanStoredValue_2 8 rfl rfl)
theorem dX1_meanStoredValue_59 : decode cX1_meanStoredValue 59 = .ok (.lload_n 3, 1) := dk_33 (dk_at dksX1_meanStoredValue_2 11 rfl rfl)
theorem dX1_meanStoredValue_60 : decode cX1_meanStoredValue 60 = .ok (.l2d, 1) := dk_138 (dk_at dksX1_meanStoredValue_2 12 rfl rfl)
theorem dX1_meanStoredValue_61 : decode cX1_meanStoredValue 61 = .ok (.aload_n 2, 1) := dk_44 (dk_at dksX1_meanStoredValue_2 13 rfl rfl)
theorem dX1_meanStoredValue_62 : decode cX1_meanStoredValue 62 = .ok (.invokevirtual 170, 3) := dk_182 0 170 (dk_at dksX1_meanStoredValue_2 14 rfl rfl)
theorem dX1_meanStoredValue_65 : decode cX1_meanStoredValue 65 = .ok (.i2d, 1) := dk_135 (dk_at dksX1_meanStoredValue_2 17 rfl rfl)
theorem dX1_meanStoredValue_66 : decode cX1_meanStoredValue 66 = .ok (.ddiv, 1) := dk_111 (dk_at dksX1_meanStoredValue_2 18 rfl rfl)
theorem dX1_meanStoredValue_67 : decode cX1_meanStoredValue 67 = .ok (.dreturn, 1) := dk_175 (dk_at dksX1_meanStoredValue_2 19 rfl rfl)
abbrev cX1_create : ByteArray := prog_1_method_69_code
def yX1_create : MethodName := ⟨RX1, "create", "(III)I"⟩
def dkwX1_create_0 : List UInt8 := [42, 42, 180, 0, 120, 182, 0, 218, 42, 27, 28, 29, 182, 0, 78, 182, 0, 221, 172]
abbrev dktX1_create_0 : List UInt8 := dkwX1_create_0 ++ []
theorem dksX1_create_0 : cX1_create.data.toList.drop 0 = dktX1_create_0 := by decide +kernel
theorem dX1_create_0 : decode cX1_create 0 = .ok (.aload_n 0, 1) := dk_42 (dk_at dksX1_create_0 0 rfl rfl)
theorem dX1_create_1 : decode cX1_create 1 = .ok (.aload_n 0, 1) := dk_42 (dk_at dksX1_create_0 1 rfl rfl)
theorem dX1_create_2 : decode cX1_create 2 = .ok (.getfield 120, 3) := dk_180 0 120 (dk_at dksX1_create_0 2 rfl rfl)
theorem dX1_create_5 : decode cX1_create 5 = .ok (.invokevirtual 218, 3) := dk_182 0 218 (dk_at dksX1_create_0 5 rfl rfl)
theorem dX1_create_8 : decode cX1_create 8 = .ok (.aload_n 0, 1) := dk_42 (dk_at dksX1_create_0 8 rfl rfl)
theorem dX1_create_9 : decode cX1_create 9 = .ok (.iload_n 1, 1) := dk_27 (dk_at dksX1_create_0 9 rfl rfl)
theorem dX1_create_10 : decode cX1_create 10 = .ok (.iload_n 2, 1) := dk_28 (dk_at dksX1_create_0 10 rfl rfl)
theorem dX1_create_11 : decode cX1_create 11 = .ok (.iload_n 3, 1) := dk_29 (dk_at dksX1_create_0 11 rfl rfl)
theorem dX1_create_12 : decode cX1_create 12 = .ok (.invokevirtual 78, 3) := dk_182 0 78 (dk_at dksX1_create_0 12 rfl rfl)
theorem dX1_create_15 : decode cX1_create 15 = .ok (.invokevirtual 221, 3) := dk_182 0 221 (dk_at dksX1_create_0 15 rfl rfl)
theorem dX1_create_18 : decode cX1_create 18 = .ok (.ireturn, 1) := dk_172 (dk_at dksX1_create_0 18 rfl rfl)
abbrev cX1_set : ByteArray := prog_1_method_70_code
def yX1_set : MethodName := ⟨RX1, "set", "(IIII)I"⟩
def dkwX1_set_0 : List UInt8 := [42, 42, 180, 0, 120, 182, 0, 218, 42, 27, 28, 29, 21, 4, 182, 0, 82, 182, 0, 221, 172]
abbrev dktX1_set_0 : List UInt8 := dkwX1_set_0 ++ []
theorem dksX1_set_0 : cX1_set.data.toList.drop 0 = dktX1_set_0 := by decide +kernel
theorem dX1_set_0 : decode cX1_set 0 = .ok (.aload_n 0, 1) := dk_42 (dk_at dksX1_set_0 0 rfl rfl)
theorem dX1_set_1 : decode cX1_set 1 = .ok (.aload_n 0, 1) := dk_42 (dk_at dksX1_set_0 1 rfl rfl)
theorem dX1_set_2 : decode cX1_set 2 = .ok (.getfield 120, 3) := dk_180 0 120 (dk_at dksX1_set_0 2 rfl rfl)
theorem dX1_set_5 : decode cX1_set 5 = .ok (.invokevirtual 218, 3) := dk_182 0 218 (dk_at dksX1_set_0 5 rfl rfl)
theorem dX1_set_8 : decode cX1_set 8 = .ok (.aload_n 0, 1) := dk_42 (dk_at dksX1_set_0 8 rfl rfl)
theorem dX1_set_9 : decode cX1_set 9 = .ok (.iload_n 1, 1) := dk_27 (dk_at dksX1_set_0 9 rfl rfl)
theorem dX1_set_10 : decode cX1_set 10 = .ok (.iload_n 2, 1) := dk_28 (dk_at dksX1_set_0 10 rfl rfl)
theorem dX1_set_11 : decode cX1_set 11 = .ok (.iload_n 3, 1) := dk_29 (dk_at dksX1_set_0 11 rfl rfl)
theorem dX1_set_12 : decode cX1_set 12 = .ok (.iload 4, 2) := dk_21 4 (dk_at dksX1_set_0 12 rfl rfl)
theorem dX1_set_14 : decode cX1_set 14 = .ok (.invokevirtual 82, 3) := dk_182 0 82 (dk_at dksX1_set_0 14 rfl rfl)
theorem dX1_set_17 : decode cX1_set 17 = .ok (.invokevirtual 221, 3) := dk_182 0 221 (dk_at dksX1_set_0 17 rfl rfl)
theorem dX1_set_20 : decode cX1_set 20 = .ok (.ireturn, 1) := dk_172 (dk_at dksX1_set_0 20 rfl rfl)
abbrev cX1_erase : ByteArray := prog_1_method_71_code
def yX1_erase : MethodName := ⟨RX1, "erase", "(III)I"⟩
def dkwX1_erase_0 : List UInt8 := [42, 42, 180, 0, 120, 182, 0, 218, 42, 27, 28, 29, 182, 0, 98, 182, 0, 221, 172]
abbrev dktX1_erase_0 : List UInt8 := dkwX1_erase_0 ++ []
theorem dksX1_erase_0 : cX1_erase.data.toList.drop 0 = dktX1_erase_0 := by decide +kernel
theorem dX1_erase_0 : decode cX1_erase 0 = .ok (.aload_n 0, 1) := dk_42 (dk_at dksX1_erase_0 0 rfl rfl)
theorem dX1_erase_1 : decode cX1_erase 1 = .ok (.aload_n 0, 1) := dk_42 (dk_at dksX1_erase_0 1 rfl rfl)
theorem dX1_erase_2 : decode cX1_erase 2 = .ok (.getfield 120, 3) := dk_180 0 120 (dk_at dksX1_erase_0 2 rfl rfl)
theorem dX1_erase_5 : decode cX1_erase 5 = .ok (.invokevirtual 218, 3) := dk_182 0 218 (dk_at dksX1_erase_0 5 rfl rfl)
theorem dX1_erase_8 : decode cX1_erase 8 = .ok (.aload_n 0, 1) := dk_42 (dk_at dksX1_erase_0 8 rfl rfl)
theorem dX1_erase_9 : decode cX1_erase 9 = .ok (.iload_n 1, 1) := dk_27 (dk_at dksX1_erase_0 9 rfl rfl)
theorem dX1_erase_10 : decode cX1_erase 10 = .ok (.iload_n 2, 1) := dk_28 (dk_at dksX1_erase_0 10 rfl rfl)
theorem dX1_erase_11 : decode cX1_erase 11 = .ok (.iload_n 3, 1) := dk_29 (dk_at dksX1_erase_0 11 rfl rfl)
theorem dX1_erase_12 : decode cX1_erase 12 = .ok (.invokevirtual 98, 3) := dk_182 0 98 (dk_at dksX1_erase_0 12 rfl rfl)
theorem dX1_erase_15 : decode cX1_erase 15 = .ok (.invokevirtual 221, 3) := dk_182 0 221 (dk_at dksX1_erase_0 15 rfl rfl)
theorem dX1_erase_18 : decode cX1_erase 18 = .ok (.ireturn, 1) := dk_172 (dk_at dksX1_erase_0 18 rfl rfl)
abbrev cX1_dropZeros : ByteArray := prog_1_method_72_code
def yX1_dropZeros : MethodName := ⟨RX1, "dropZeros", "(I)I"⟩
def dkwX1_dropZeros_0 : List UInt8 := [42, 42, 180, 0, 120, 182, 0, 218, 42, 27, 182, 0, 94, 182, 0, 221, 172]
abbrev dktX1_dropZeros_0 : List UInt8 := dkwX1_dropZeros_0 ++ []
theorem dksX1_dropZeros_0 : cX1_dropZeros.data.toList.drop 0 = dktX1_dropZeros_0 := by decide +kernel
theorem dX1_dropZeros_0 : decode cX1_dropZeros 0 = .ok (.aload_n 0, 1) := dk_42 (dk_at dksX1_dropZeros_0 0 rfl rfl)
theorem dX1_dropZeros_1 : decode cX1_dropZeros 1 = .ok (.aload_n 0, 1) := dk_42 (dk_at dksX1_dropZeros_0 1 rfl rfl)
theorem dX1_dropZeros_2 : decode cX1_dropZeros 2 = .ok (.getfield 120, 3) := dk_180 0 120 (dk_at dksX1_dropZeros_0 2 rfl rfl)
theorem dX1_dropZeros_5 : decode cX1_dropZeros 5 = .ok (.invokevirtual 218, 3) := dk_182 0 218 (dk_at dksX1_dropZeros_0 5 rfl rfl)
theorem dX1_dropZeros_8 : decode cX1_dropZeros 8 = .ok (.aload_n 0, 1) := dk_42 (dk_at dksX1_dropZeros_0 8 rfl rfl)
theorem dX1_dropZeros_9 : decode cX1_dropZeros 9 = .ok (.iload_n 1, 1) := dk_27 (dk_at dksX1_dropZeros_0 9 rfl rfl)
theorem dX1_dropZeros_10 : decode cX1_dropZeros 10 = .ok (.invokevirtual 94, 3) := dk_182 0 94 (dk_at dksX1_dropZeros_0 10 rfl rfl)
theorem dX1_dropZeros_13 : decode cX1_dropZeros 13 = .ok (.invokevirtual 221, 3) := dk_182 0 221 (dk_at dksX1_dropZeros_0 13 rfl rfl)
theorem dX1_dropZeros_16 : decode cX1_dropZeros 16 = .ok (.ireturn, 1) := dk_172 (dk_at dksX1_dropZeros_0 16 rfl rfl)
abbrev cX1_swapRows : ByteArray := prog_1_method_73_code
def yX1_swapRows : MethodName := ⟨RX1, "swapRows", "(III)I"⟩
def dkwX1_swapRows_0 : List UInt8 := [42, 42, 180, 0, 120, 182, 0, 218, 42, 27, 28, 29, 182, 0, 101, 182, 0, 221, 172]
abbrev dktX1_swapRows_0 : List UInt8 := dkwX1_swapRows_0 ++ []
theorem dksX1_swapRows_0 : cX1_swapRows.data.toList.drop 0 = dktX1_swapRows_0 := by decide +kernel
theorem dX1_swapRows_0 : decode cX1_swapRows 0 = .ok (.aload_n 0, 1) := dk_42 (dk_at dksX1_swapRows_0 0 rfl rfl)
theorem dX1_swapRows_1 : decode cX1_swapRows 1 = .ok (.aload_n 0, 1) := dk_42 (dk_at dksX1_swapRows_0 1 rfl rfl)
theorem dX1_swapRows_2 : decode cX1_swapRows 2 = .ok (.getfield 120, 3) := dk_180 0 120 (dk_at dksX1_swapRows_0 2 rfl rfl)
theorem dX1_swapRows_5 : decode cX1_swapRows 5 = .ok (.invokevirtual 218, 3) := dk_182 0 218 (dk_at dksX1_swapRows_0 5 rfl rfl)
theorem dX1_swapRows_8 : decode cX1_swapRows 8 = .ok (.aload_n 0, 1) := dk_42 (dk_at dksX1_swapRows_0 8 rfl rfl)
theorem dX1_swapRows_9 : decode cX1_swapRows 9 = .ok (.iload_n 1, 1) := dk_27 (dk_at dksX1_swapRows_0 9 rfl rfl)
theorem dX1_swapRows_10 : decode cX1_swapRows 10 = .ok (.iload_n 2, 1) := dk_28 (dk_at dksX1_swapRows_0 10 rfl rfl)
theorem dX1_swapRows_11 : decode cX1_swapRows 11 = .ok (.iload_n 3, 1) := dk_29 (dk_at dksX1_swapRows_0 11 rfl rfl)
theorem dX1_swapRows_12 : decode cX1_swapRows 12 = .ok (.invokevirtual 101, 3) := dk_182 0 101 (dk_at dksX1_swapRows_0 12 rfl rfl)
theorem dX1_swapRows_15 : decode cX1_swapRows 15 = .ok (.invokevirtual 221, 3) := dk_182 0 221 (dk_at dksX1_swapRows_0 15 rfl rfl)
theorem dX1_swapRows_18 : decode cX1_swapRows 18 = .ok (.ireturn, 1) := dk_172 (dk_at dksX1_swapRows_0 18 rfl rfl)
abbrev cX1_scale : ByteArray := prog_1_method_74_code
def yX1_scale : MethodName := ⟨RX1, "scale", "(II)I"⟩
def dkwX1_scale_0 : List UInt8 := [42, 42, 180, 0, 120, 182, 0, 218, 42, 27, 28, 182, 1, 129, 182, 0, 221, 172]
abbrev dktX1_scale_0 : List UInt8 := dkwX1_scale_0 ++ []
theorem dksX1_scale_0 : cX1_scale.data.toList.drop 0 = dktX1_scale_0 := by decide +kernel
theorem dX1_scale_0 : decode cX1_scale 0 = .ok (.aload_n 0, 1) := dk_42 (dk_at dksX1_scale_0 0 rfl rfl)
theorem dX1_scale_1 : decode cX1_scale 1 = .ok (.aload_n 0, 1) := dk_42 (dk_at dksX1_scale_0 1 rfl rfl)
theorem dX1_scale_2 : decode cX1_scale 2 = .ok (.getfield 120, 3) := dk_180 0 120 (dk_at dksX1_scale_0 2 rfl rfl)
theorem dX1_scale_5 : decode cX1_scale 5 = .ok (.invokevirtual 218, 3) := dk_182 0 218 (dk_at dksX1_scale_0 5 rfl rfl)
theorem dX1_scale_8 : decode cX1_scale 8 = .ok (.aload_n 0, 1) := dk_42 (dk_at dksX1_scale_0 8 rfl rfl)
theorem dX1_scale_9 : decode cX1_scale 9 = .ok (.iload_n 1, 1) := dk_27 (dk_at dksX1_scale_0 9 rfl rfl)
theorem dX1_scale_10 : decode cX1_scale 10 = .ok (.iload_n 2, 1) := dk_28 (dk_at dksX1_scale_0 10 rfl rfl)
theorem dX1_scale_11 : decode cX1_scale 11 = .ok (.invokevirtual 385, 3) := dk_182 1 129 (dk_at dksX1_scale_0 11 rfl rfl)
theorem dX1_scale_14 : decode cX1_scale 14 = .ok (.invokevirtual 221, 3) := dk_182 0 221 (dk_at dksX1_scale_0 14 rfl rfl)
theorem dX1_scale_17 : decode cX1_scale 17 = .ok (.ireturn, 1) := dk_172 (dk_at dksX1_scale_0 17 rfl rfl)
abbrev cX1_scaleNow : ByteArray := prog_1_method_64_code
def yX1_scaleNow : MethodName := ⟨RX1, "scaleNow", "(II)I"⟩
def dkwX1_scaleNow_1 : List UInt8 := [27, 45, 28, 186, 1, 118, 0, 0, 184, 1, 103, 182, 1, 92, 172]
abbrev dktX1_scaleNow_1 : List UInt8 := dkwX1_scaleNow_1 ++ []
def dkwX1_scaleNow_0 : List UInt8 := [42, 27, 182, 0, 155, 78, 28, 133, 20, 1, 114, 20, 1, 116, 184, 0, 143, 184, 0, 183, 42, 180, 0, 120]
abbrev dktX1_scaleNow_0 : List UInt8 := dkwX1_scaleNow_0 ++ dktX1_scaleNow_1
theorem dksX1_scaleNow_0 : cX1_scaleNow.data.toList.drop 0 = dktX1_scaleNow_0 := by decide +kernel
theorem dksX1_scaleNow_1 : cX1_scaleNow.data.toList.drop 24 = dktX1_scaleNow_1 := dk_seg dksX1_scaleNow_0 24 rfl rfl
theorem dX1_scaleNow_0 : decode cX1_scaleNow 0 = .ok (.aload_n 0, 1) := dk_42 (dk_at dksX1_scaleNow_0 0 rfl rfl)
theorem dX1_scaleNow_1 : decode cX1_scaleNow 1 = .ok (.iload_n 1, 1) := dk_27 (dk_at dksX1_scaleNow_0 1 rfl rfl)
theorem dX1_scaleNow_2 : decode cX1_scaleNow 2 = .ok (.invokevirtual 155, 3) := dk_182 0 155 (dk_at dksX1_scaleNow_0 2 rfl rfl)
theorem dX1_scaleNow_5 : decode cX1_scaleNow 5 = .ok (.astore_n 3, 1) := dk_78 (dk_at dksX1_scaleNow_0 5 rfl rfl)
theorem dX1_scaleNow_6 : decode cX1_scaleNow 6 = .ok (.iload_n 2, 1) := dk_28 (dk_at dksX1_scaleNow_0 6 rfl rfl)
theorem dX1_scaleNow_7 : decode cX1_scaleNow 7 = .ok (.i2l, 1) := dk_133 (dk_at dksX1_scaleNow_0 7 rfl rfl)
theorem dX1_scaleNow_8 : decode cX1_scaleNow 8 = .ok (.ldc2_w 370, 3) := dk_20 1 114 (dk_at dksX1_scaleNow_0 8 rfl rfl)
theorem dX1_scaleNow_11 : decode cX1_scaleNow 11 = .ok (.ldc2_w 372, 3) := dk_20 1 116 (dk_at dksX1_scaleNow_0 11 rfl rfl)
theorem dX1_scaleNow_14 : decode cX1_scaleNow 14 = .ok (.invokestatic 143, 3) := dk_184 0 143 (dk_at dksX1_scaleNow_0 14 rfl rfl)
theorem dX1_scaleNow_17 : decode cX1_scaleNow 17 = .ok (.invokestatic 183, 3) := dk_184 0 183 (dk_at dksX1_scaleNow_0 17 rfl rfl)
theorem dX1_scaleNow_20 : decode cX1_scaleNow 20 = .ok (.aload_n 0, 1) := dk_42 (dk_at dksX1_scaleNow_0 20 rfl rfl)
theorem dX1_scaleNow_21 : decode cX1_scaleNow 21 = .ok (.getfield 120, 3) := dk_180 0 120 (dk_at dksX1_scaleNow_0 21 rfl rfl)
theorem dX1_scaleNow_24 : decode cX1_scaleNow 24 = .ok (.iload_n 1, 1) := dk_27 (dk_at dksX1_scaleNow_1 0 rfl rfl)
theorem dX1_scaleNow_25 : decode cX1_scaleNow 25 = .ok (.aload_n 3, 1) := dk_45 (dk_at dksX1_scaleNow_1 1 rfl rfl)
theorem dX1_scaleNow_26 : decode cX1_scaleNow 26 = .ok (.iload_n 2, 1) := dk_28 (dk_at dksX1_scaleNow_1 2 rfl rfl)
theorem dX1_scaleNow_27 : decode cX1_scaleNow 27 = .ok (.invokedynamic 374, 5) := by decide +kernel
theorem dX1_scaleNow_32 : decode cX1_scaleNow 32 = .ok (.invokestatic 359, 3) := dk_184 1 103 (dk_at dksX1_scaleNow_1 8 rfl rfl)
theorem dX1_scaleNow_35 : decode cX1_scaleNow 35 = .ok (.invokevirtual 348, 3) := dk_182 1 92 (dk_at dksX1_scaleNow_1 11 rfl rfl)
theorem dX1_scaleNow_38 : decode cX1_scaleNow 38 = .ok (.ireturn, 1) := dk_172 (dk_at dksX1_scaleNow_1 14 rfl rfl)
abbrev cX1_lambda_scaleNow_4 : ByteArray := prog_1_method_86_code
def yX1_lambda_scaleNow_4 : MethodName := ⟨RX1, "lambda$scaleNow$4", "(LCsrCalculator$Csr;I)LCsrCalculator$Csr;"⟩
def dkwX1_lambda_scaleNow_4_0 : List UInt8 := [42, 27, 182, 1, 167, 176]
abbrev dktX1_lambda_scaleNow_4_0 : List UInt8 := dkwX1_lambda_scaleNow_4_0 ++ []
theorem dksX1_lambda_scaleNow_4_0 : cX1_lambda_scaleNow_4.data.toList.drop 0 = dktX1_lambda_scaleNow_4_0 := by decide +kernel
theorem dX1_lambda_scaleNow_4_0 : decode cX1_lambda_scaleNow_4 0 = .ok (.aload_n 0, 1) := dk_42 (dk_at dksX1_lambda_scaleNow_4_0 0 rfl rfl)
theorem dX1_lambda_scaleNow_4_1 : decode cX1_lambda_scaleNow_4 1 = .ok (.iload_n 1, 1) := dk_27 (dk_at dksX1_lambda_scaleNow_4_0 1 rfl rfl)
theorem dX1_lambda_scaleNow_4_2 : decode cX1_lambda_scaleNow_4 2 = .ok (.invokevirtual 423, 3) := dk_182 1 167 (dk_at dksX1_lambda_scaleNow_4_0 2 rfl rfl)
theorem dX1_lambda_scaleNow_4_5 : decode cX1_lambda_scaleNow_4 5 = .ok (.areturn, 1) := dk_176 (dk_at dksX1_lambda_scaleNow_4_0 5 rfl rfl)
abbrev cX1_transposeInto : ByteArray := prog_1_method_75_code
def yX1_transposeInto : MethodName := ⟨RX1, "transposeInto", "(II)I"⟩
def dkwX1_transposeInto_0 : List UInt8 := [42, 42, 180, 0, 120, 182, 0, 218, 42, 27, 28, 182, 1, 132, 182, 0, 221, 172]
abbrev dktX1_transposeInto_0 : List UInt8 := dkwX1_transposeInto_0 ++ []
theorem dksX1_transposeInto_0 : cX1_transposeInto.data.toList.drop 0 = dktX1_transposeInto_0 := by decide +kernel
theorem dX1_transposeInto_0 : decode cX1_transposeInto 0 = .ok (.aload_n 0, 1) := dk_42 (dk_at dksX1_transposeInto_0 0 rfl rfl)
theorem dX1_transposeInto_1 : decode cX1_transposeInto 1 = .ok (.aload_n 0, 1) := dk_42 (dk_at dksX1_transposeInto_0 1 rfl rfl)
theorem dX1_transposeInto_2 : decode cX1_transposeInto 2 = .ok (.getfield 120, 3) := dk_180 0 120 (dk_at dksX1_transposeInto_0 2 rfl rfl)
theorem dX1_transposeInto_5 : decode cX1_transposeInto 5 = .ok (.invokevirtual 218, 3) := dk_182 0 218 (dk_at dksX1_transposeInto_0 5 rfl rfl)
theorem dX1_transposeInto_8 : decode cX1_transposeInto 8 = .ok (.aload_n 0, 1) := dk_42 (dk_at dksX1_transposeInto_0 8 rfl rfl)
theorem dX1_transposeInto_9 : decode cX1_transposeInto 9 = .ok (.iload_n 1, 1) := dk_27 (dk_at dksX1_transposeInto_0 9 rfl rfl)
theorem dX1_transposeInto_10 : decode cX1_transposeInto 10 = .ok (.iload_n 2, 1) := dk_28 (dk_at dksX1_transposeInto_0 10 rfl rfl)
theorem dX1_transposeInto_11 : decode cX1_transposeInto 11 = .ok (.invokevirtual 388, 3) := dk_182 1 132 (dk_at dksX1_transposeInto_0 11 rfl rfl)
theorem dX1_transposeInto_14 : decode cX1_transposeInto 14 = .ok (.invokevirtual 221, 3) := dk_182 0 221 (dk_at dksX1_transposeInto_0 14 rfl rfl)
theorem dX1_transposeInto_17 : decode cX1_transposeInto 17 = .ok (.ireturn, 1) := dk_172 (dk_at dksX1_transposeInto_0 17 rfl rfl)
abbrev cX1_transposeNow : ByteArray := prog_1_method_65_code
def yX1_transposeNow : MethodName := ⟨RX1, "transposeNow", "(II)I"⟩
def dkwX1_transposeNow_1 : List UInt8 := [184, 1, 103, 182, 1, 92, 172]
abbrev dktX1_transposeNow_1 : List UInt8 := dkwX1_transposeNow_1 ++ []
def dkwX1_transposeNow_0 : List UInt8 := [42, 27, 182, 0, 155, 78, 42, 28, 182, 0, 155, 58, 4, 42, 180, 0, 120, 28, 45, 186, 1, 121, 0, 0]
abbrev dktX1_transposeNow_0 : List UInt8 := dkwX1_transposeNow_0 ++ dktX1_transposeNow_1
theorem dksX1_transposeNow_0 : cX1_transposeNow.data.toList.drop 0 = dktX1_transposeNow_0 := by decide +kernel
theorem dksX1_transposeNow_1 : cX1_transposeNow.data.toList.drop 24 = dktX1_transposeNow_1 := dk_seg dksX1_transposeNow_0 24 rfl rfl
theorem dX1_transposeNow_0 : decode cX1_transposeNow 0 = .ok (.aload_n 0, 1) := dk_42 (dk_at dksX1_transposeNow_0 0 rfl rfl)
theorem dX1_transposeNow_1 : decode cX1_transposeNow 1 = .ok (.iload_n 1, 1) := dk_27 (dk_at dksX1_transposeNow_0 1 rfl rfl)
theorem dX1_transposeNow_2 : decode cX1_transposeNow 2 = .ok (.invokevirtual 155, 3) := dk_182 0 155 (dk_at dksX1_transposeNow_0 2 rfl rfl)
theorem dX1_transposeNow_5 : decode cX1_transposeNow 5 = .ok (.astore_n 3, 1) := dk_78 (dk_at dksX1_transposeNow_0 5 rfl rfl)
theorem dX1_transposeNow_6 : decode cX1_transposeNow 6 = .ok (.aload_n 0, 1) := dk_42 (dk_at dksX1_transposeNow_0 6 rfl rfl)
theorem dX1_transposeNow_7 : decode cX1_transposeNow 7 = .ok (.iload_n 2, 1) := dk_28 (dk_at dksX1_transposeNow_0 7 rfl rfl)
theorem dX1_transposeNow_8 : decode cX1_transposeNow 8 = .ok (.invokevirtual 155, 3) := dk_182 0 155 (dk_at dksX1_transposeNow_0 8 rfl rfl)
theorem dX1_transposeNow_11 : decode cX1_transposeNow 11 = .ok (.astore 4, 2) := dk_58 4 (dk_at dksX1_transposeNow_0 11 rfl rfl)
theorem dX1_transposeNow_13 : decode cX1_transposeNow 13 = .ok (.aload_n 0, 1) := dk_42 (dk_at dksX1_transposeNow_0 13 rfl rfl)
theorem dX1_transposeNow_14 : decode cX1_transposeNow 14 = .ok (.getfield 120, 3) := dk_180 0 120 (dk_at dksX1_transposeNow_0 14 rfl rfl)
theorem dX1_transposeNow_17 : decode cX1_transposeNow 17 = .ok (.iload_n 2, 1) := dk_28 (dk_at dksX1_transposeNow_0 17 rfl rfl)
theorem dX1_transposeNow_18 : decode cX1_transposeNow 18 = .ok (.aload_n 3, 1) := dk_45 (dk_at dksX1_transposeNow_0 18 rfl rfl)
theorem dX1_transposeNow_19 : decode cX1_transposeNow 19 = .ok (.invokedynamic 377, 5) := by decide +kernel
theorem dX1_transposeNow_24 : decode cX1_transposeNow 24 = .ok (.invokestatic 359, 3) := dk_184 1 103 (dk_at dksX1_transposeNow_1 0 rfl rfl)
theorem dX1_transposeNow_27 : decode cX1_transposeNow 27 = .ok (.invokevirtual 348, 3) := dk_182 1 92 (dk_at dksX1_transposeNow_1 3 rfl rfl)
theorem dX1_transposeNow_30 : decode cX1_transposeNow 30 = .ok (.ireturn, 1) := dk_172 (dk_at dksX1_transposeNow_1 6 rfl rfl)
abbrev cX1_lambda_transposeNow_5 : ByteArray := prog_1_method_85_code
def yX1_lambda_transposeNow_5 : MethodName := ⟨RX1, "lambda$transposeNow$5", "(LCsrCalculator$Csr;)LCsrCalculator$Csr;"⟩
theorem dX1_lambda_transposeNow_5_0 : decode cX1_lambda_transposeNow_5 0 = .ok (.aload_n 0, 1) := by decide +kernel
theorem dX1_lambda_transposeNow_5_1 : decode cX1_lambda_transposeNow_5 1 = .ok (.invokevirtual 316, 3) := by decide +kernel
theorem dX1_lambda_transposeNow_5_4 : decode cX1_lambda_transposeNow_5 4 = .ok (.areturn, 1) := by decide +kernel
abbrev cX1_addInto : ByteArray := prog_1_method_76_code
def yX1_addInto : MethodName := ⟨RX1, "addInto", "(III)I"⟩
def dkwX1_addInto_0 : List UInt8 := [42, 42, 180, 0, 120, 182, 0, 218, 42, 27, 28, 29, 182, 1, 135, 182, 0, 221, 172]
abbrev dktX1_addInto_0 : List UInt8 := dkwX1_addInto_0 ++ []
theorem dksX1_addInto_0 : cX1_addInto.data.toList.drop 0 = dktX1_addInto_0 := by decide +kernel
theorem dX1_addInto_0 : decode cX1_addInto 0 = .ok (.aload_n 0, 1) := dk_42 (dk_at dksX1_addInto_0 0 rfl rfl)
theorem dX1_addInto_1 : decode cX1_addInto 1 = .ok (.aload_n 0, 1) := dk_42 (dk_at dksX1_addInto_0 1 rfl rfl)
theorem dX1_addInto_2 : decode cX1_addInto 2 = .ok (.getfield 120, 3) := dk_180 0 120 (dk_at dksX1_addInto_0 2 rfl rfl)
theorem dX1_addInto_5 : decode cX1_addInto 5 = .ok (.invokevirtual 218, 3) := dk_182 0 218 (dk_at dksX1_addInto_0 5 rfl rfl)
theorem dX1_addInto_8 : decode cX1_addInto 8 = .ok (.aload_n 0, 1) := dk_42 (dk_at dksX1_addInto_0 8 rfl rfl)
theorem dX1_addInto_9 : decode cX1_addInto 9 = .ok (.iload_n 1, 1) := dk_27 (dk_at dksX1_addInto_0 9 rfl rfl)
theorem dX1_addInto_10 : decode cX1_addInto 10 = .ok (.iload_n 2, 1) := dk_28 (dk_at dksX1_addInto_0 10 rfl rfl)
theorem dX1_addInto_11 : decode cX1_addInto 11 = .ok (.iload_n 3, 1) := dk_29 (dk_at dksX1_addInto_0 11 rfl rfl)
theorem dX1_addInto_12 : decode cX1_addInto 12 = .ok (.invokevirtual 391, 3) := dk_182 1 135 (dk_at dksX1_addInto_0 12 rfl rfl)
theorem dX1_addInto_15 : decode cX1_addInto 15 = .ok (.invokevirtual 221, 3) := dk_182 0 221 (dk_at dksX1_addInto_0 15 rfl rfl)
theorem dX1_addInto_18 : decode cX1_addInto 18 = .ok (.ireturn, 1) := dk_172 (dk_at dksX1_addInto_0 18 rfl rfl)
abbrev cX1_addNow : ByteArray := prog_1_method_66_code
def yX1_addNow : MethodName := ⟨RX1, "addNow", "(III)I"⟩
def dkwX1_addNow_1 : List UInt8 := [180, 0, 120, 29, 25, 4, 25, 5, 186, 1, 122, 0, 0, 184, 1, 103, 182, 1, 92, 172]
abbrev dktX1_addNow_1 : List UInt8 := dkwX1_addNow_1 ++ []
def dkwX1_addNow_0 : List UInt8 := [42, 27, 182, 0, 155, 58, 4, 42, 28, 182, 0, 155, 58, 5, 42, 29, 182, 0, 155, 58, 6, 42]
abbrev dktX1_addNow_0 : List UInt8 := dkwX1_addNow_0 ++ dktX1_addNow_1
theorem dksX1_addNow_0 : cX1_addNow.data.toList.drop 0 = dktX1_addNow_0 := by decide +kernel
theorem dksX1_addNow_1 : cX1_addNow.data.toList.drop 22 = dktX1_addNow_1 := dk_seg dksX1_addNow_0 22 rfl rfl
theorem dX1_addNow_0 : decode cX1_addNow 0 = .ok (.aload_n 0, 1) := dk_42 (dk_at dksX1_addNow_0 0 rfl rfl)
theorem dX1_addNow_1 : decode cX1_addNow 1 = .ok (.iload_n 1, 1) := dk_27 (dk_at dksX1_addNow_0 1 rfl rfl)
theorem dX1_addNow_2 : decode cX1_addNow 2 = .ok (.invokevirtual 155, 3) := dk_182 0 155 (dk_at dksX1_addNow_0 2 rfl rfl)
theorem dX1_addNow_5 : decode cX1_addNow 5 = .ok (.astore 4, 2) := dk_58 4 (dk_at dksX1_addNow_0 5 rfl rfl)
theorem dX1_addNow_7 : decode cX1_addNow 7 = .ok (.aload_n 0, 1) := dk_42 (dk_at dksX1_addNow_0 7 rfl rfl)
theorem dX1_addNow_8 : decode cX1_addNow 8 = .ok (.iload_n 2, 1) := dk_28 (dk_at dksX1_addNow_0 8 rfl rfl)
theorem dX1_addNow_9 : decode cX1_addNow 9 = .ok (.invokevirtual 155, 3) := dk_182 0 155 (dk_at dksX1_addNow_0 9 rfl rfl)
theorem dX1_addNow_12 : decode cX1_addNow 12 = .ok (.astore 5, 2) := dk_58 5 (dk_at dksX1_addNow_0 12 rfl rfl)
theorem dX1_addNow_14 : decode cX1_addNow 14 = .ok (.aload_n 0, 1) := dk_42 (dk_at dksX1_addNow_0 14 rfl rfl)
theorem dX1_addNow_15 : decode cX1_addNow 15 = .ok (.iload_n 3, 1) := dk_29 (dk_at dksX1_addNow_0 15 rfl rfl)
theorem dX1_addNow_16 : decode cX1_addNow 16 = .ok (.invokevirtual 155, 3) := dk_182 0 155 (dk_at dksX1_addNow_0 16 rfl rfl)
theorem dX1_addNow_19 : decode cX1_addNow 19 = .ok (.astore 6, 2) := dk_58 6 (dk_at dksX1_addNow_0 19 rfl rfl)
theorem dX1_addNow_21 : decode cX1_addNow 21 = .ok (.aload_n 0, 1) := dk_42 (dk_at dksX1_addNow_0 21 rfl rfl)
theorem dX1_addNow_22 : decode cX1_addNow 22 = .ok (.getfield 120, 3) := dk_180 0 120 (dk_at dksX1_addNow_1 0 rfl rfl)
theorem dX1_addNow_25 : decode cX1_addNow 25 = .ok (.iload_n 3, 1) := dk_29 (dk_at dksX1_addNow_1 3 rfl rfl)
theorem dX1_addNow_26 : decode cX1_addNow 26 = .ok (.aload 4, 2) := dk_25 4 (dk_at dksX1_addNow_1 4 rfl rfl)
theorem dX1_addNow_28 : decode cX1_addNow 28 = .ok (.aload 5, 2) := dk_25 5 (dk_at dksX1_addNow_1 6 rfl rfl)
theorem dX1_addNow_30 : decode cX1_addNow 30 = .ok (.invokedynamic 378, 5) := by decide +kernel
theorem dX1_addNow_35 : decode cX1_addNow 35 = .ok (.invokestatic 359, 3) := dk_184 1 103 (dk_at dksX1_addNow_1 13 rfl rfl)
theorem dX1_addNow_38 : decode cX1_addNow 38 = .ok (.invokevirtual 348, 3) := dk_182 1 92 (dk_at dksX1_addNow_1 16 rfl rfl)
theorem dX1_addNow_41 : decode cX1_addNow 41 = .ok (.ireturn, 1) := dk_172 (dk_at dksX1_addNow_1 19 rfl rfl)
abbrev cX1_lambda_addNow_6 : ByteArray := prog_1_method_84_code
def yX1_lambda_addNow_6 : MethodName := ⟨RX1, "lambda$addNow$6", "(LCsrCalculator$Csr;LCsrCalculator$Csr;)LCsrCalculator$Csr;"⟩
def dkwX1_lambda_addNow_6_0 : List UInt8 := [42, 178, 1, 22, 43, 182, 1, 28, 176]
abbrev dktX1_lambda_addNow_6_0 : List UInt8 := dkwX1_lambda_addNow_6_0 ++ []
theorem dksX1_lambda_addNow_6_0 : cX1_lambda_addNow_6.data.toList.drop 0 = dktX1_lambda_addNow_6_0 := by decide +kernel
theorem dX1_lambda_addNow_6_0 : decode cX1_lambda_addNow_6 0 = .ok (.aload_n 0, 1) := dk_42 (dk_at dksX1_lambda_addNow_6_0 0 rfl rfl)
theorem dX1_lambda_addNow_6_1 : decode cX1_lambda_addNow_6 1 = .ok (.getstatic 278, 3) := dk_178 1 22 (dk_at dksX1_lambda_addNow_6_0 1 rfl rfl)
theorem dX1_lambda_addNow_6_4 : decode cX1_lambda_addNow_6 4 = .ok (.aload_n 1, 1) := dk_43 (dk_at dksX1_lambda_addNow_6_0 4 rfl rfl)
theorem dX1_lambda_addNow_6_5 : decode cX1_lambda_addNow_6 5 = .ok (.invokevirtual 284, 3) := dk_182 1 28 (dk_at dksX1_lambda_addNow_6_0 5 rfl rfl)
theorem dX1_lambda_addNow_6_8 : decode cX1_lambda_addNow_6 8 = .ok (.areturn, 1) := dk_176 (dk_at dksX1_lambda_addNow_6_0 8 rfl rfl)
abbrev cX1_multiplyInto : ByteArray := prog_1_method_77_code
def yX1_multiplyInto : MethodName := ⟨RX1, "multiplyInto", "(III)I"⟩
def dkwX1_multiplyInto_0 : List UInt8 := [42, 42, 180, 0, 120, 182, 0, 218, 42, 27, 28, 29, 182, 1, 138, 182, 0, 221, 172]
abbrev dktX1_multiplyInto_0 : List UInt8 := dkwX1_multiplyInto_0 ++ []
theorem dksX1_multiplyInto_0 : cX1_multiplyInto.data.toList.drop 0 = dktX1_multiplyInto_0 := by decide +kernel
theorem dX1_multiplyInto_0 : decode cX1_multiplyInto 0 = .ok (.aload_n 0, 1) := dk_42 (dk_at dksX1_multiplyInto_0 0 rfl rfl)
theorem dX1_multiplyInto_1 : decode cX1_multiplyInto 1 = .ok (.aload_n 0, 1) := dk_42 (dk_at dksX1_multiplyInto_0 1 rfl rfl)
theorem dX1_multiplyInto_2 : decode cX1_multiplyInto 2 = .ok (.getfield 120, 3) := dk_180 0 120 (dk_at dksX1_multiplyInto_0 2 rfl rfl)
theorem dX1_multiplyInto_5 : decode cX1_multiplyInto 5 = .ok (.invokevirtual 218, 3) := dk_182 0 218 (dk_at dksX1_multiplyInto_0 5 rfl rfl)
theorem dX1_multiplyInto_8 : decode cX1_multiplyInto 8 = .ok (.aload_n 0, 1) := dk_42 (dk_at dksX1_multiplyInto_0 8 rfl rfl)
theorem dX1_multiplyInto_9 : decode cX1_multiplyInto 9 = .ok (.iload_n 1, 1) := dk_27 (dk_at dksX1_multiplyInto_0 9 rfl rfl)
theorem dX1_multiplyInto_10 : decode cX1_multiplyInto 10 = .ok (.iload_n 2, 1) := dk_28 (dk_at dksX1_multiplyInto_0 10 rfl rfl)
theorem dX1_multiplyInto_11 : decode cX1_multiplyInto 11 = .ok (.iload_n 3, 1) := dk_29 (dk_at dksX1_multiplyInto_0 11 rfl rfl)
theorem dX1_multiplyInto_12 : decode cX1_multiplyInto 12 = .ok (.invokevirtual 394, 3) := dk_182 1 138 (dk_at dksX1_multiplyInto_0 12 rfl rfl)
theorem dX1_multiplyInto_15 : decode cX1_multiplyInto 15 = .ok (.invokevirtual 221, 3) := dk_182 0 221 (dk_at dksX1_multiplyInto_0 15 rfl rfl)
theorem dX1_multiplyInto_18 : decode cX1_multiplyInto 18 = .ok (.ireturn, 1) := dk_172 (dk_at dksX1_multiplyInto_0 18 rfl rfl)
abbrev cX1_multiplyNow : ByteArray := prog_1_method_67_code
def yX1_multiplyNow : MethodName := ⟨RX1, "multiplyNow", "(III)I"⟩
def dkwX1_multiplyNow_2 : List UInt8 := [182, 1, 42, 96, 181, 1, 53, 42, 180, 0, 120, 29, 25, 7, 182, 1, 92, 172]
abbrev dktX1_multiplyNow_2 : List UInt8 := dkwX1_multiplyNow_2 ++ []
def dkwX1_multiplyNow_1 : List UInt8 := [25, 5, 186, 1, 125, 0, 0, 184, 1, 103, 58, 7, 42, 180, 0, 120, 89, 180, 1, 53, 25, 4, 25, 5]
abbrev dktX1_multiplyNow_1 : List UInt8 := dkwX1_multiplyNow_1 ++ dktX1_multiplyNow_2
def dkwX1_multiplyNow_0 : List UInt8 := [42, 27, 182, 0, 155, 58, 4, 42, 28, 182, 0, 155, 58, 5, 42, 29, 182, 0, 155, 58, 6, 25, 4]
abbrev dktX1_multiplyNow_0 : List UInt8 := dkwX1_multiplyNow_0 ++ dktX1_multiplyNow_1
theorem dksX1_multiplyNow_0 : cX1_multiplyNow.data.toList.drop 0 = dktX1_multiplyNow_0 := by decide +kernel
theorem dksX1_multiplyNow_1 : cX1_multiplyNow.data.toList.drop 23 = dktX1_multiplyNow_1 := dk_seg dksX1_multiplyNow_0 23 rfl rfl
theorem dksX1_multiplyNow_2 : cX1_multiplyNow.data.toList.drop 47 = dktX1_multiplyNow_2 := dk_seg dksX1_multiplyNow_1 24 rfl rfl
theorem dX1_multiplyNow_0 : decode cX1_multiplyNow 0 = .ok (.aload_n 0, 1) := dk_42 (dk_at dksX1_multiplyNow_0 0 rfl rfl)
theorem dX1_multiplyNow_1 : decode cX1_multiplyNow 1 = .ok (.iload_n 1, 1) := dk_27 (dk_at dksX1_multiplyNow_0 1 rfl rfl)
theorem dX1_multiplyNow_2 : decode cX1_multiplyNow 2 = .ok (.invokevirtual 155, 3) := dk_182 0 155 (dk_at dksX1_multiplyNow_0 2 rfl rfl)
theorem dX1_multiplyNow_5 : decode cX1_multiplyNow 5 = .ok (.astore 4, 2) := dk_58 4 (dk_at dksX1_multiplyNow_0 5 rfl rfl)
theorem dX1_multiplyNow_7 : decode cX1_multiplyNow 7 = .ok (.aload_n 0, 1) := dk_42 (dk_at dksX1_multiplyNow_0 7 rfl rfl)
theorem dX1_multiplyNow_8 : decode cX1_multiplyNow 8 = .ok (.iload_n 2, 1) := dk_28 (dk_at dksX1_multiplyNow_0 8 rfl rfl)
theorem dX1_multiplyNow_9 : decode cX1_multiplyNow 9 = .ok (.invokevirtual 155, 3) := dk_182 0 155 (dk_at dksX1_multiplyNow_0 9 rfl rfl)
theorem dX1_multiplyNow_12 : decode cX1_multiplyNow 12 = .ok (.astore 5, 2) := dk_58 5 (dk_at dksX1_multiplyNow_0 12 rfl rfl)
theorem dX1_multiplyNow_14 : decode cX1_multiplyNow 14 = .ok (.aload_n 0, 1) := dk_42 (dk_at dksX1_multiplyNow_0 14 rfl rfl)
theorem dX1_multiplyNow_15 : decode cX1_multiplyNow 15 = .ok (.iload_n 3, 1) := dk_29 (dk_at dksX1_multiplyNow_0 15 rfl rfl)
theorem dX1_multiplyNow_16 : decode cX1_multiplyNow 16 = .ok (.invokevirtual 155, 3) := dk_182 0 155 (dk_at dksX1_multiplyNow_0 16 rfl rfl)
theorem dX1_multiplyNow_19 : decode cX1_multiplyNow 19 = .ok (.astore 6, 2) := dk_58 6 (dk_at dksX1_multiplyNow_0 19 rfl rfl)
theorem dX1_multiplyNow_21 : decode cX1_multiplyNow 21 = .ok (.aload 4, 2) := dk_25 4 (dk_at dksX1_multiplyNow_0 21 rfl rfl)
theorem dX1_multiplyNow_23 : decode cX1_multiplyNow 23 = .ok (.aload 5, 2) := dk_25 5 (dk_at dksX1_multiplyNow_1 0 rfl rfl)
theorem dX1_multiplyNow_25 : decode cX1_multiplyNow 25 = .ok (.invokedynamic 381, 5) := by decide +kernel
theorem dX1_multiplyNow_30 : decode cX1_multiplyNow 30 = .ok (.invokestatic 359, 3) := dk_184 1 103 (dk_at dksX1_multiplyNow_1 7 rfl rfl)
theorem dX1_multiplyNow_33 : decode cX1_multiplyNow 33 = .ok (.astore 7, 2) := dk_58 7 (dk_at dksX1_multiplyNow_1 10 rfl rfl)
theorem dX1_multiplyNow_35 : decode cX1_multiplyNow 35 = .ok (.aload_n 0, 1) := dk_42 (dk_at dksX1_multiplyNow_1 12 rfl rfl)
theorem dX1_multiplyNow_36 : decode cX1_multiplyNow 36 = .ok (.getfield 120, 3) := dk_180 0 120 (dk_at dksX1_multiplyNow_1 13 rfl rfl)
theorem dX1_multiplyNow_39 : decode cX1_multiplyNow 39 = .ok (.dup, 1) := dk_89 (dk_at dksX1_multiplyNow_1 16 rfl rfl)
theorem dX1_multiplyNow_40 : decode cX1_multiplyNow 40 = .ok (.getfield 309, 3) := dk_180 1 53 (dk_at dksX1_multiplyNow_1 17 rfl rfl)
theorem dX1_multiplyNow_43 : decode cX1_multiplyNow 43 = .ok (.aload 4, 2) := dk_25 4 (dk_at dksX1_multiplyNow_1 20 rfl rfl)
theorem dX1_multiplyNow_45 : decode cX1_multiplyNow 45 = .ok (.aload 5, 2) := dk_25 5 (dk_at dksX1_multiplyNow_1 22 rfl rfl)
theorem dX1_multiplyNow_47 : decode cX1_multiplyNow 47 = .ok (.invokevirtual 298, 3) := dk_182 1 42 (dk_at dksX1_multiplyNow_2 0 rfl rfl)
theorem dX1_multiplyNow_50 : decode cX1_multiplyNow 50 = .ok (.iadd, 1) := dk_96 (dk_at dksX1_multiplyNow_2 3 rfl rfl)
theorem dX1_multiplyNow_51 : decode cX1_multiplyNow 51 = .ok (.putfield 309, 3) := dk_181 1 53 (dk_at dksX1_multiplyNow_2 4 rfl rfl)
theorem dX1_multiplyNow_54 : decode cX1_multiplyNow 54 = .ok (.aload_n 0, 1) := dk_42 (dk_at dksX1_multiplyNow_2 7 rfl rfl)
theorem dX1_multiplyNow_55 : decode cX1_multiplyNow 55 = .ok (.getfield 120, 3) := dk_180 0 120 (dk_at dksX1_multiplyNow_2 8 rfl rfl)
theorem dX1_multiplyNow_58 : decode cX1_multiplyNow 58 = .ok (.iload_n 3, 1) := dk_29 (dk_at dksX1_multiplyNow_2 11 rfl rfl)
theorem dX1_multiplyNow_59 : decode cX1_multiplyNow 59 = .ok (.aload 7, 2) := dk_25 7 (dk_at dksX1_multiplyNow_2 12 rfl rfl)
theorem dX1_multiplyNow_61 : decode cX1_multiplyNow 61 = .ok (.invokevirtual 348, 3) := dk_182 1 92 (dk_at dksX1_multiplyNow_2 14 rfl rfl)
theorem dX1_multiplyNow_64 : decode cX1_multiplyNow 64 = .ok (.ireturn, 1) := dk_172 (dk_at dksX1_multiplyNow_2 17 rfl rfl)
abbrev cX1_lambda_multiplyNow_7 : ByteArray := prog_1_method_83_code
def yX1_lambda_multiplyNow_7 : MethodName := ⟨RX1, "lambda$multiplyNow$7", "(LCsrCalculator$Csr;LCsrCalculator$Csr;)LCsrCalculator$Csr;"⟩
def dkwX1_lambda_multiplyNow_7_0 : List UInt8 := [42, 43, 182, 1, 34, 176]
abbrev dktX1_lambda_multiplyNow_7_0 : List UInt8 := dkwX1_lambda_multiplyNow_7_0 ++ []
theorem dksX1_lambda_multiplyNow_7_0 : cX1_lambda_multiplyNow_7.data.toList.drop 0 = dktX1_lambda_multiplyNow_7_0 := by decide +kernel
theorem dX1_lambda_multiplyNow_7_0 : decode cX1_lambda_multiplyNow_7 0 = .ok (.aload_n 0, 1) := dk_42 (dk_at dksX1_lambda_multiplyNow_7_0 0 rfl rfl)
theorem dX1_lambda_multiplyNow_7_1 : decode cX1_lambda_multiplyNow_7 1 = .ok (.aload_n 1, 1) := dk_43 (dk_at dksX1_lambda_multiplyNow_7_0 1 rfl rfl)
theorem dX1_lambda_multiplyNow_7_2 : decode cX1_lambda_multiplyNow_7 2 = .ok (.invokevirtual 290, 3) := dk_182 1 34 (dk_at dksX1_lambda_multiplyNow_7_0 2 rfl rfl)
theorem dX1_lambda_multiplyNow_7_5 : decode cX1_lambda_multiplyNow_7 5 = .ok (.areturn, 1) := dk_176 (dk_at dksX1_lambda_multiplyNow_7_0 5 rfl rfl)
abbrev cX1_undo : ByteArray := prog_1_method_78_code
def yX1_undo : MethodName := ⟨RX1, "undo", "()I"⟩
def dkwX1_undo_1 : List UInt8 := [182, 1, 145, 192, 0, 117, 181, 0, 120, 42, 180, 0, 127, 182, 1, 77, 172]
abbrev dktX1_undo_1 : List UInt8 := dkwX1_undo_1 ++ []
def dkwX1_undo_0 : List UInt8 := [42, 180, 0, 127, 182, 1, 141, 154, 0, 7, 4, 167, 0, 4, 3, 184, 0, 176, 42, 42, 180, 0, 127]
abbrev dktX1_undo_0 : List UInt8 := dkwX1_undo_0 ++ dktX1_undo_1
theorem dksX1_undo_0 : cX1_undo.data.toList.drop 0 = dktX1_undo_0 := by decide +kernel
theorem dksX1_undo_1 : cX1_undo.data.toList.drop 23 = dktX1_undo_1 := dk_seg dksX1_undo_0 23 rfl rfl
theorem dX1_undo_0 : decode cX1_undo 0 = .ok (.aload_n 0, 1) := dk_42 (dk_at dksX1_undo_0 0 rfl rfl)
theorem dX1_undo_1 : decode cX1_undo 1 = .ok (.getfield 127, 3) := dk_180 0 127 (dk_at dksX1_undo_0 1 rfl rfl)
theorem dX1_undo_4 : decode cX1_undo 4 = .ok (.invokevirtual 397, 3) := dk_182 1 141 (dk_at dksX1_undo_0 4 rfl rfl)
theorem dX1_undo_7 : decode cX1_undo 7 = .ok (.ifCond .ne 7, 3) := dk_154 0 7 (dk_at dksX1_undo_0 7 rfl rfl)
theorem dX1_undo_10 : decode cX1_undo 10 = .ok (.iconst 1, 1) := dk_4 (dk_at dksX1_undo_0 10 rfl rfl)
theorem dX1_undo_11 : decode cX1_undo 11 = .ok (.goto 4, 3) := dk_167 0 4 (dk_at dksX1_undo_0 11 rfl rfl)
theorem dX1_undo_14 : decode cX1_undo 14 = .ok (.iconst 0, 1) := dk_3 (dk_at dksX1_undo_0 14 rfl rfl)
theorem dX1_undo_15 : decode cX1_undo 15 = .ok (.invokestatic 176, 3) := dk_184 0 176 (dk_at dksX1_undo_0 15 rfl rfl)
theorem dX1_undo_18 : decode cX1_undo 18 = .ok (.aload_n 0, 1) := dk_42 (dk_at dksX1_undo_0 18 rfl rfl)
theorem dX1_undo_19 : decode cX1_undo 19 = .ok (.aload_n 0, 1) := dk_42 (dk_at dksX1_undo_0 19 rfl rfl)
theorem dX1_undo_20 : decode cX1_undo 20 = .ok (.getfield 127, 3) := dk_180 0 127 (dk_at dksX1_undo_0 20 rfl rfl)
theorem dX1_undo_23 : decode cX1_undo 23 = .ok (.invokevirtual 401, 3) := dk_182 1 145 (dk_at dksX1_undo_1 0 rfl rfl)
theorem dX1_undo_26 : decode cX1_undo 26 = .ok (.checkcast 117, 3) := dk_192 0 117 (dk_at dksX1_undo_1 3 rfl rfl)
theorem dX1_undo_29 : decode cX1_undo 29 = .ok (.putfield 120, 3) := dk_181 0 120 (dk_at dksX1_undo_1 6 rfl rfl)
theorem dX1_undo_32 : decode cX1_undo 32 = .ok (.aload_n 0, 1) := dk_42 (dk_at dksX1_undo_1 9 rfl rfl)
theorem dX1_undo_33 : decode cX1_undo 33 = .ok (.getfield 127, 3) := dk_180 0 127 (dk_at dksX1_undo_1 10 rfl rfl)
theorem dX1_undo_36 : decode cX1_undo 36 = .ok (.invokevirtual 333, 3) := dk_182 1 77 (dk_at dksX1_undo_1 13 rfl rfl)
theorem dX1_undo_39 : decode cX1_undo 39 = .ok (.ireturn, 1) := dk_172 (dk_at dksX1_undo_1 16 rfl rfl)
abbrev cX1_printMatrix : ByteArray := prog_1_method_79_code
def yX1_printMatrix : MethodName := ⟨RX1, "printMatrix", "(I)I"⟩
def dkwX1_printMatrix_5 : List UInt8 := [182, 1, 158, 172]
abbrev dktX1_printMatrix_5 : List UInt8 := dkwX1_printMatrix_5 ++ []
def dkwX1_printMatrix_4 : List UInt8 := [167, 255, 191, 42, 180, 0, 134, 16, 10, 182, 1, 151, 87, 132, 3, 1, 167, 255, 164, 42, 180, 0, 134]
abbrev dktX1_printMatrix_4 : List UInt8 := dkwX1_printMatrix_4 ++ dktX1_printMatrix_5
def dkwX1_printMatrix_3 : List UInt8 := [182, 0, 244, 182, 1, 155, 87, 167, 0, 13, 42, 180, 0, 134, 16, 46, 182, 1, 151, 87, 132, 4, 1]
abbrev dktX1_printMatrix_3 : List UInt8 := dkwX1_printMatrix_3 ++ dktX1_printMatrix_4
def dkwX1_printMatrix_2 : List UInt8 := [182, 1, 151, 87, 44, 29, 21, 4, 182, 1, 49, 153, 0, 21, 42, 180, 0, 134, 44, 29, 21, 4]
abbrev dktX1_printMatrix_2 : List UInt8 := dkwX1_printMatrix_2 ++ dktX1_printMatrix_3
def dkwX1_printMatrix_1 : List UInt8 := [3, 54, 4, 21, 4, 44, 180, 0, 167, 162, 0, 62, 21, 4, 158, 0, 13, 42, 180, 0, 134, 16, 32]
abbrev dktX1_printMatrix_1 : List UInt8 := dkwX1_printMatrix_1 ++ dktX1_printMatrix_2
def dkwX1_printMatrix_0 : List UInt8 := [42, 27, 182, 0, 155, 77, 42, 180, 0, 134, 3, 182, 1, 148, 3, 62, 29, 44, 180, 0, 158, 162, 0, 90]
abbrev dktX1_printMatrix_0 : List UInt8 := dkwX1_printMatrix_0 ++ dktX1_printMatrix_1
theorem dksX1_printMatrix_0 : cX1_printMatrix.data.toList.drop 0 = dktX1_printMatrix_0 := by decide +kernel
theorem dksX1_printMatrix_1 : cX1_printMatrix.data.toList.drop 24 = dktX1_printMatrix_1 := dk_seg dksX1_printMatrix_0 24 rfl rfl
theorem dksX1_printMatrix_2 : cX1_printMatrix.data.toList.drop 47 = dktX1_printMatrix_2 := dk_seg dksX1_printMatrix_1 23 rfl rfl
theorem dksX1_printMatrix_3 : cX1_printMatrix.data.toList.drop 69 = dktX1_printMatrix_3 := dk_seg dksX1_printMatrix_2 22 rfl rfl
theorem dksX1_printMatrix_4 : cX1_printMatrix.data.toList.drop 92 = dktX1_printMatrix_4 := dk_seg dksX1_printMatrix_3 23 rfl rfl
theorem dksX1_printMatrix_5 : cX1_printMatrix.data.toList.drop 115 = dktX1_printMatrix_5 := dk_seg dksX1_printMatrix_4 23 rfl rfl
theorem dX1_printMatrix_0 : decode cX1_printMatrix 0 = .ok (.aload_n 0, 1) := dk_42 (dk_at dksX1_printMatrix_0 0 rfl rfl)
theorem dX1_printMatrix_1 : decode cX1_printMatrix 1 = .ok (.iload_n 1, 1) := dk_27 (dk_at dksX1_printMatrix_0 1 rfl rfl)
theorem dX1_printMatrix_2 : decode cX1_printMatrix 2 = .ok (.invokevirtual 155, 3) := dk_182 0 155 (dk_at dksX1_printMatrix_0 2 rfl rfl)
theorem dX1_printMatrix_5 : decode cX1_printMatrix 5 = .ok (.astore_n 2, 1) := dk_77 (dk_at dksX1_printMatrix_0 5 rfl rfl)
theorem dX1_printMatrix_6 : decode cX1_printMatrix 6 = .ok (.aload_n 0, 1) := dk_42 (dk_at dksX1_printMatrix_0 6 rfl rfl)
theorem dX1_printMatrix_7 : decode cX1_printMatrix 7 = .ok (.getfield 134, 3) := dk_180 0 134 (dk_at dksX1_printMatrix_0 7 rfl rfl)
theorem dX1_printMatrix_10 : decode cX1_printMatrix 10 = .ok (.iconst 0, 1) := dk_3 (dk_at dksX1_printMatrix_0 10 rfl rfl)
theorem dX1_printMatrix_11 : decode cX1_printMatrix 11 = .ok (.invokevirtual 404, 3) := dk_182 1 148 (dk_at dksX1_printMatrix_0 11 rfl rfl)
theorem dX1_printMatrix_14 : decode cX1_printMatrix 14 = .ok (.iconst 0, 1) := dk_3 (dk_at dksX1_printMatrix_0 14 rfl rfl)
theorem dX1_printMatrix_15 : decode cX1_printMatrix 15 = .ok (.istore_n 3, 1) := dk_62 (dk_at dksX1_printMatrix_0 15 rfl rfl)
theorem dX1_printMatrix_16 : decode cX1_printMatrix 16 = .ok (.iload_n 3, 1) := dk_29 (dk_at dksX1_printMatrix_0 16 rfl rfl)
theorem dX1_printMatrix_17 : decode cX1_printMatrix 17 = .ok (.aload_n 2, 1) := dk_44 (dk_at dksX1_printMatrix_0 17 rfl rfl)
theorem dX1_printMatrix_18 : decode cX1_printMatrix 18 = .ok (.getfield 158, 3) := dk_180 0 158 (dk_at dksX1_printMatrix_0 18 rfl rfl)
theorem dX1_printMatrix_21 : decode cX1_printMatrix 21 = .ok (.if_icmp .ge 90, 3) := dk_162 0 90 (dk_at dksX1_printMatrix_0 21 rfl rfl)
theorem dX1_printMatrix_24 : decode cX1_printMatrix 24 = .ok (.iconst 0, 1) := dk_3 (dk_at dksX1_printMatrix_1 0 rfl rfl)
theorem dX1_printMatrix_25 : decode cX1_printMatrix 25 = .ok (.istore 4, 2) := dk_54 4 (dk_at dksX1_printMatrix_1 1 rfl rfl)
theorem dX1_printMatrix_27 : decode cX1_printMatrix 27 = .ok (.iload 4, 2) := dk_21 4 (dk_at dksX1_printMatrix_1 3 rfl rfl)
theorem dX1_printMatrix_29 : decode cX1_printMatrix 29 = .ok (.aload_n 2, 1) := dk_44 (dk_at dksX1_printMatrix_1 5 rfl rfl)
theorem dX1_printMatrix_30 : decode cX1_printMatrix 30 = .ok (.getfield 167, 3) := dk_180 0 167 (dk_at dksX1_printMatrix_1 6 rfl rfl)
theorem dX1_printMatrix_33 : decode cX1_printMatrix 33 = .ok (.if_icmp .ge 62, 3) := dk_162 0 62 (dk_at dksX1_printMatrix_1 9 rfl rfl)
theorem dX1_printMatrix_36 : decode cX1_printMatrix 36 = .ok (.iload 4, 2) := dk_21 4 (dk_at dksX1_printMatrix_1 12 rfl rfl)
theorem dX1_printMatrix_38 : decode cX1_printMatrix 38 = .ok (.ifCond .le 13, 3) := dk_158 0 13 (dk_at dksX1_printMatrix_1 14 rfl rfl)
theorem dX1_printMatrix_41 : decode cX1_printMatrix 41 = .ok (.aload_n 0, 1) := dk_42 (dk_at dksX1_printMatrix_1 17 rfl rfl)
theorem dX1_printMatrix_42 : decode cX1_printMatrix 42 = .ok (.getfield 134, 3) := dk_180 0 134 (dk_at dksX1_printMatrix_1 18 rfl rfl)
theorem dX1_printMatrix_45 : decode cX1_printMatrix 45 = .ok (.bipush 32, 2) := dk_16 32 (dk_at dksX1_printMatrix_1 21 rfl rfl)
theorem dX1_printMatrix_47 : decode cX1_printMatrix 47 = .ok (.invokevirtual 407, 3) := dk_182 1 151 (dk_at dksX1_printMatrix_2 0 rfl rfl)
theorem dX1_printMatrix_50 : decode cX1_printMatrix 50 = .ok (.pop, 1) := dk_87 (dk_at dksX1_printMatrix_2 3 rfl rfl)
theorem dX1_printMatrix_51 : decode cX1_printMatrix 51 = .ok (.aload_n 2, 1) := dk_44 (dk_at dksX1_printMatrix_2 4 rfl rfl)
theorem dX1_printMatrix_52 : decode cX1_printMatrix 52 = .ok (.iload_n 3, 1) := dk_29 (dk_at dksX1_printMatrix_2 5 rfl rfl)
theorem dX1_printMatrix_53 : decode cX1_printMatrix 53 = .ok (.iload 4, 2) := dk_21 4 (dk_at dksX1_printMatrix_2 6 rfl rfl)
theorem dX1_printMatrix_55 : decode cX1_printMatrix 55 = .ok (.invokevirtual 305, 3) := dk_182 1 49 (dk_at dksX1_printMatrix_2 8 rfl rfl)
theorem dX1_printMatrix_58 : decode cX1_printMatrix 58 = .ok (.ifCond .eq 21, 3) := dk_153 0 21 (dk_at dksX1_printMatrix_2 11 rfl rfl)
theorem dX1_printMatrix_61 : decode cX1_printMatrix 61 = .ok (.aload_n 0, 1) := dk_42 (dk_at dksX1_printMatrix_2 14 rfl rfl)
theorem dX1_printMatrix_62 : decode cX1_printMatrix 62 = .ok (.getfield 134, 3) := dk_180 0 134 (dk_at dksX1_printMatrix_2 15 rfl rfl)
theorem dX1_printMatrix_65 : decode cX1_printMatrix 65 = .ok (.aload_n 2, 1) := dk_44 (dk_at dksX1_printMatrix_2 18 rfl rfl)
theorem dX1_printMatrix_66 : decode cX1_printMatrix 66 = .ok (.iload_n 3, 1) := dk_29 (dk_at dksX1_printMatrix_2 19 rfl rfl)
theorem dX1_printMatrix_67 : decode cX1_printMatrix 67 = .ok (.iload 4, 2) := dk_21 4 (dk_at dksX1_printMatrix_2 20 rfl rfl)
theorem dX1_printMatrix_69 : decode cX1_printMatrix 69 = .ok (.invokevirtual 244, 3) := dk_182 0 244 (dk_at dksX1_printMatrix_3 0 rfl rfl)
theorem dX1_printMatrix_72 : decode cX1_printMatrix 72 = .ok (.invokevirtual 411, 3) := dk_182 1 155 (dk_at dksX1_printMatrix_3 3 rfl rfl)
theorem dX1_printMatrix_75 : decode cX1_printMatrix 75 = .ok (.pop, 1) := dk_87 (dk_at dksX1_printMatrix_3 6 rfl rfl)
theorem dX1_printMatrix_76 : decode cX1_printMatrix 76 = .ok (.goto 13, 3) := dk_167 0 13 (dk_at dksX1_printMatrix_3 7 rfl rfl)
theorem dX1_printMatrix_79 : decode cX1_printMatrix 79 = .ok (.aload_n 0, 1) := dk_42 (dk_at dksX1_printMatrix_3 10 rfl rfl)
theorem dX1_printMatrix_80 : decode cX1_printMatrix 80 = .ok (.getfield 134, 3) := dk_180 0 134 (dk_at dksX1_printMatrix_3 11 rfl rfl)
theorem dX1_printMatrix_83 : decode cX1_printMatrix 83 = .ok (.bipush 46, 2) := dk_16 46 (dk_at dksX1_printMatrix_3 14 rfl rfl)
theorem dX1_printMatrix_85 : decode cX1_printMatrix 85 = .ok (.invokevirtual 407, 3) := dk_182 1 151 (dk_at dksX1_printMatrix_3 16 rfl rfl)
theorem dX1_printMatrix_88 : decode cX1_printMatrix 88 = .ok (.pop, 1) := dk_87 (dk_at dksX1_printMatrix_3 19 rfl rfl)
theorem dX1_printMatrix_89 : decode cX1_printMatrix 89 = .ok (.iinc 4 1, 3) := dk_132 4 1 (dk_at dksX1_printMatrix_3 20 rfl rfl)
theorem dX1_printMatrix_92 : decode cX1_printMatrix 92 = .ok (.goto (-65), 3) := dk_167 255 191 (dk_at dksX1_printMatrix_4 0 rfl rfl)
theorem dX1_printMatrix_95 : decode cX1_printMatrix 95 = .ok (.aload_n 0, 1) := dk_42 (dk_at dksX1_printMatrix_4 3 rfl rfl)
theorem dX1_printMatrix_96 : decode cX1_printMatrix 96 = .ok (.getfield 134, 3) := dk_180 0 134 (dk_at dksX1_printMatrix_4 4 rfl rfl)
theorem dX1_printMatrix_99 : decode cX1_printMatrix 99 = .ok (.bipush 10, 2) := dk_16 10 (dk_at dksX1_printMatrix_4 7 rfl rfl)
theorem dX1_printMatrix_101 : decode cX1_printMatrix 101 = .ok (.invokevirtual 407, 3) := dk_182 1 151 (dk_at dksX1_printMatrix_4 9 rfl rfl)
theorem dX1_printMatrix_104 : decode cX1_printMatrix 104 = .ok (.pop, 1) := dk_87 (dk_at dksX1_printMatrix_4 12 rfl rfl)
theorem dX1_printMatrix_105 : decode cX1_printMatrix 105 = .ok (.iinc 3 1, 3) := dk_132 3 1 (dk_at dksX1_printMatrix_4 13 rfl rfl)
theorem dX1_printMatrix_108 : decode cX1_printMatrix 108 = .ok (.goto (-92), 3) := dk_167 255 164 (dk_at dksX1_printMatrix_4 16 rfl rfl)
theorem dX1_printMatrix_111 : decode cX1_printMatrix 111 = .ok (.aload_n 0, 1) := dk_42 (dk_at dksX1_printMatrix_4 19 rfl rfl)
theorem dX1_printMatrix_112 : decode cX1_printMatrix 112 = .ok (.getfield 134, 3) := dk_180 0 134 (dk_at dksX1_printMatrix_4 20 rfl rfl)
theorem dX1_printMatrix_115 : decode cX1_printMatrix 115 = .ok (.invokevirtual 414, 3) := dk_182 1 158 (dk_at dksX1_printMatrix_5 0 rfl rfl)
theorem dX1_printMatrix_118 : decode cX1_printMatrix 118 = .ok (.ireturn, 1) := dk_172 (dk_at dksX1_printMatrix_5 3 rfl rfl)
abbrev cX1_outputByte : ByteArray := prog_1_method_80_code
def yX1_outputByte : MethodName := ⟨RX1, "outputByte", "(I)I"⟩
def dkwX1_outputByte_1 : List UInt8 := [182, 1, 160, 172]
abbrev dktX1_outputByte_1 : List UInt8 := dkwX1_outputByte_1 ++ []
def dkwX1_outputByte_0 : List UInt8 := [27, 133, 9, 42, 180, 0, 134, 182, 1, 158, 4, 100, 133, 184, 0, 143, 184, 0, 147, 42, 180, 0, 134, 27]
abbrev dktX1_outputByte_0 : List UInt8 := dkwX1_outputByte_0 ++ dktX1_outputByte_1
theorem dksX1_outputByte_0 : cX1_outputByte.data.toList.drop 0 = dktX1_outputByte_0 := by decide +kernel
theorem dksX1_outputByte_1 : cX1_outputByte.data.toList.drop 24 = dktX1_outputByte_1 := dk_seg dksX1_outputByte_0 24 rfl rfl
theorem dX1_outputByte_0 : decode cX1_outputByte 0 = .ok (.iload_n 1, 1) := dk_27 (dk_at dksX1_outputByte_0 0 rfl rfl)
theorem dX1_outputByte_1 : decode cX1_outputByte 1 = .ok (.i2l, 1) := dk_133 (dk_at dksX1_outputByte_0 1 rfl rfl)
theorem dX1_outputByte_2 : decode cX1_outputByte 2 = .ok (.lconst 0, 1) := dk_9 (dk_at dksX1_outputByte_0 2 rfl rfl)
theorem dX1_outputByte_3 : decode cX1_outputByte 3 = .ok (.aload_n 0, 1) := dk_42 (dk_at dksX1_outputByte_0 3 rfl rfl)
theorem dX1_outputByte_4 : decode cX1_outputByte 4 = .ok (.getfield 134, 3) := dk_180 0 134 (dk_at dksX1_outputByte_0 4 rfl rfl)
theorem dX1_outputByte_7 : decode cX1_outputByte 7 = .ok (.invokevirtual 414, 3) := dk_182 1 158 (dk_at dksX1_outputByte_0 7 rfl rfl)
theorem dX1_outputByte_10 : decode cX1_outputByte 10 = .ok (.iconst 1, 1) := dk_4 (dk_at dksX1_outputByte_0 10 rfl rfl)
theorem dX1_outputByte_11 : decode cX1_outputByte 11 = .ok (.isub, 1) := dk_100 (dk_at dksX1_outputByte_0 11 rfl rfl)
theorem dX1_outputByte_12 : decode cX1_outputByte 12 = .ok (.i2l, 1) := dk_133 (dk_at dksX1_outputByte_0 12 rfl rfl)
theorem dX1_outputByte_13 : decode cX1_outputByte 13 = .ok (.invokestatic 143, 3) := dk_184 0 143 (dk_at dksX1_outputByte_0 13 rfl rfl)
theorem dX1_outputByte_16 : decode cX1_outputByte 16 = .ok (.invokestatic 147, 3) := dk_184 0 147 (dk_at dksX1_outputByte_0 16 rfl rfl)
theorem dX1_outputByte_19 : decode cX1_outputByte 19 = .ok (.aload_n 0, 1) := dk_42 (dk_at dksX1_outputByte_0 19 rfl rfl)
theorem dX1_outputByte_20 : decode cX1_outputByte 20 = .ok (.getfield 134, 3) := dk_180 0 134 (dk_at dksX1_outputByte_0 20 rfl rfl)
theorem dX1_outputByte_23 : decode cX1_outputByte 23 = .ok (.iload_n 1, 1) := dk_27 (dk_at dksX1_outputByte_0 23 rfl rfl)
theorem dX1_outputByte_24 : decode cX1_outputByte 24 = .ok (.invokevirtual 416, 3) := dk_182 1 160 (dk_at dksX1_outputByte_1 0 rfl rfl)
theorem dX1_outputByte_27 : decode cX1_outputByte 27 = .ok (.ireturn, 1) := dk_172 (dk_at dksX1_outputByte_1 3 rfl rfl)
abbrev cX1_restoreState : ByteArray := prog_1_method_82_code
def yX1_restoreState : MethodName := ⟨RX1, "restoreState", "()I"⟩
def dkwX1_restoreState_1 : List UInt8 := [181, 0, 120, 42, 180, 0, 127, 182, 0, 206, 42, 180, 0, 120, 182, 0, 209, 172]
abbrev dktX1_restoreState_1 : List UInt8 := dkwX1_restoreState_1 ++ []
def dkwX1_restoreState_0 : List UInt8 := [42, 180, 1, 164, 198, 0, 7, 4, 167, 0, 4, 3, 184, 0, 176, 42, 42, 180, 1, 164, 182, 0, 218]
abbrev dktX1_restoreState_0 : List UInt8 := dkwX1_restoreState_0 ++ dktX1_restoreState_1
theorem dksX1_restoreState_0 : cX1_restoreState.data.toList.drop 0 = dktX1_restoreState_0 := by decide +kernel
theorem dksX1_restoreState_1 : cX1_restoreState.data.toList.drop 23 = dktX1_restoreState_1 := dk_seg dksX1_restoreState_0 23 rfl rfl
theorem dX1_restoreState_0 : decode cX1_restoreState 0 = .ok (.aload_n 0, 1) := dk_42 (dk_at dksX1_restoreState_0 0 rfl rfl)
theorem dX1_restoreState_1 : decode cX1_restoreState 1 = .ok (.getfield 420, 3) := dk_180 1 164 (dk_at dksX1_restoreState_0 1 rfl rfl)
theorem dX1_restoreState_4 : decode cX1_restoreState 4 = .ok (.ifnull 7, 3) := dk_198 0 7 (dk_at dksX1_restoreState_0 4 rfl rfl)
theorem dX1_restoreState_7 : decode cX1_restoreState 7 = .ok (.iconst 1, 1) := dk_4 (dk_at dksX1_restoreState_0 7 rfl rfl)
theorem dX1_restoreState_8 : decode cX1_restoreState 8 = .ok (.goto 4, 3) := dk_167 0 4 (dk_at dksX1_restoreState_0 8 rfl rfl)
theorem dX1_restoreState_11 : decode cX1_restoreState 11 = .ok (.iconst 0, 1) := dk_3 (dk_at dksX1_restoreState_0 11 rfl rfl)
theorem dX1_restoreState_12 : decode cX1_restoreState 12 = .ok (.invokestatic 176, 3) := dk_184 0 176 (dk_at dksX1_restoreState_0 12 rfl rfl)
theorem dX1_restoreState_15 : decode cX1_restoreState 15 = .ok (.aload_n 0, 1) := dk_42 (dk_at dksX1_restoreState_0 15 rfl rfl)
theorem dX1_restoreState_16 : decode cX1_restoreState 16 = .ok (.aload_n 0, 1) := dk_42 (dk_at dksX1_restoreState_0 16 rfl rfl)
theorem dX1_restoreState_17 : decode cX1_restoreState 17 = .ok (.getfield 420, 3) := dk_180 1 164 (dk_at dksX1_restoreState_0 17 rfl rfl)
theorem dX1_restoreState_20 : decode cX1_restoreState 20 = .ok (.invokevirtual 218, 3) := dk_182 0 218 (dk_at dksX1_restoreState_0 20 rfl rfl)
theorem dX1_restoreState_23 : decode cX1_restoreState 23 = .ok (.putfield 120, 3) := dk_181 0 120 (dk_at dksX1_restoreState_1 0 rfl rfl)
theorem dX1_restoreState_26 : decode cX1_restoreState 26 = .ok (.aload_n 0, 1) := dk_42 (dk_at dksX1_restoreState_1 3 rfl rfl)
theorem dX1_restoreState_27 : decode cX1_restoreState 27 = .ok (.getfield 127, 3) := dk_180 0 127 (dk_at dksX1_restoreState_1 4 rfl rfl)
theorem dX1_restoreState_30 : decode cX1_restoreState 30 = .ok (.invokevirtual 206, 3) := dk_182 0 206 (dk_at dksX1_restoreState_1 7 rfl rfl)
theorem dX1_restoreState_33 : decode cX1_restoreState 33 = .ok (.aload_n 0, 1) := dk_42 (dk_at dksX1_restoreState_1 10 rfl rfl)
theorem dX1_restoreState_34 : decode cX1_restoreState 34 = .ok (.getfield 120, 3) := dk_180 0 120 (dk_at dksX1_restoreState_1 11 rfl rfl)
theorem dX1_restoreState_37 : decode cX1_restoreState 37 = .ok (.invokevirtual 209, 3) := dk_182 0 209 (dk_at dksX1_restoreState_1 14 rfl rfl)
theorem dX1_restoreState_40 : decode cX1_restoreState 40 = .ok (.ireturn, 1) := dk_172 (dk_at dksX1_restoreState_1 17 rfl rfl)
theorem q180 : (Jvm.Cond.initialized "CsrCalculator") ∈ lw_all := lw_g (lw_at lw_m1 1 rfl) rfl
theorem q223 : (Jvm.Cond.instantiable "CsrCalculator" (9 : Nat)) ∈ lw_all := lw_g (lw_at lw_m1 44 rfl) rfl
theorem q225 : (Jvm.Cond.instanceMethod ({ cls := "CsrCalculator", name := "<init>", desc := "()V" } : Jvm.MethodName)) ∈ lw_all := lw_g (lw_at lw_m1 46 rfl) rfl
theorem q226 : (Jvm.Cond.code ({ cls := "CsrCalculator", name := "<init>", desc := "()V" } : Jvm.MethodName) prog_1_method_8_code (1 : Nat) (Option.none : Option Jvm.ClassFile.FieldType)) ∈ lw_all := lw_g (lw_at lw_m1 47 rfl) rfl
theorem q227 : (Jvm.Cond.methodLink "CsrCalculator" (104 : Nat) ({ cls := "java/lang/Object", name := "<init>", desc := "()V" } : Jvm.MethodName)) ∈ lw_all := lw_g (lw_at lw_m1 48 rfl) rfl
theorem q230 : (Jvm.Cond.classLink "CsrCalculator" (117 : Nat) "CsrCalculator$World") ∈ lw_all := lw_g (lw_at lw_m1 51 rfl) rfl
theorem q232 : (Jvm.Cond.methodLinkNest "CsrCalculator" (119 : Nat) ({ cls := "CsrCalculator$World", name := "<init>", desc := "()V" } : Jvm.MethodName) "CsrCalculator") ∈ lw_tbl := lw_at lw_m1 53 rfl
theorem q247 : (Jvm.Cond.fieldLinkNest "CsrCalculator" (158 : Nat) "CsrCalculator$Csr" "rows" "I" "CsrCalculator") ∈ lw_tbl := lw_at lw_m1 68 rfl
theorem q250 : (Jvm.Cond.fieldLinkNest "CsrCalculator" (167 : Nat) "CsrCalculator$Csr" "columns" "I" "CsrCalculator") ∈ lw_tbl := lw_at lw_m1 71 rfl
theorem q253 : (Jvm.Cond.fieldLinkNest "CsrCalculator" (225 : Nat) "CsrCalculator$Csr" "pointers" "[I" "CsrCalculator") ∈ lw_tbl := lw_at lw_m1 74 rfl
theorem q255 : (Jvm.Cond.fieldLinkNest "CsrCalculator" (231 : Nat) "CsrCalculator$Csr" "indexes" "[I" "CsrCalculator") ∈ lw_tbl := lw_at lw_m1 76 rfl
theorem q257 : (Jvm.Cond.fieldLinkNest "CsrCalculator" (234 : Nat) "CsrCalculator$Csr" "values" "[I" "CsrCalculator") ∈ lw_tbl := lw_at lw_m1 78 rfl
theorem q272 : (Jvm.Cond.fieldLinkNest "CsrCalculator" (151 : Nat) "CsrCalculator$World" "registers" "[LCsrCalculator$Csr;" "CsrCalculator") ∈ lw_tbl := lw_at lw_m1 93 rfl
theorem q275 : (Jvm.Cond.fieldLinkNest "CsrCalculator" (309 : Nat) "CsrCalculator$World" "work" "I" "CsrCalculator") ∈ lw_tbl := lw_at lw_m1 96 rfl
theorem q281 : (Jvm.Cond.classLink "CsrCalculator" (124 : Nat) "java/util/ArrayDeque") ∈ lw_all := lw_g (lw_at lw_m1 102 rfl) rfl
theorem q283 : (Jvm.Cond.methodLink "CsrCalculator" (126 : Nat) ({ cls := "java/util/ArrayDeque", name := "<init>", desc := "()V" } : Jvm.MethodName)) ∈ lw_all := lw_g (lw_at lw_m1 104 rfl) rfl
theorem q302 : (Jvm.Cond.classLink "CsrCalculator" (131 : Nat) "java/lang/StringBuilder") ∈ lw_all := lw_g (lw_at lw_m1 123 rfl) rfl
theorem q304 : (Jvm.Cond.methodLink "CsrCalculator" (133 : Nat) ({ cls := "java/lang/StringBuilder", name := "<init>", desc := "()V" } : Jvm.MethodName)) ∈ lw_all := lw_g (lw_at lw_m1 125 rfl) rfl
theorem q334 : (Jvm.Cond.fieldLink "CsrCalculator" (74 : Nat) "CsrCalculator" "done" "I") ∈ lw_all := lw_g (lw_at lw_m1 155 rfl) rfl
theorem q336 : (Jvm.Cond.fieldLink "CsrCalculator" (110 : Nat) "CsrCalculator" "buffer" "[B") ∈ lw_all := lw_g (lw_at lw_m1 157 rfl) rfl
theorem q338 : (Jvm.Cond.fieldLink "CsrCalculator" (173 : Nat) "CsrCalculator" "length" "I") ∈ lw_all := lw_g (lw_at lw_m1 159 rfl) rfl
theorem q339 : (Jvm.Cond.fieldLink "CsrCalculator" (191 : Nat) "CsrCalculator" "errorCode" "I") ∈ lw_all := lw_g (lw_at lw_m1 160 rfl) rfl
theorem q340 : (Jvm.Cond.fieldLink "CsrCalculator" (114 : Nat) "CsrCalculator" "errorOffset" "I") ∈ lw_all := lw_g (lw_at lw_m1 161 rfl) rfl
theorem q342 : (Jvm.Cond.fieldLink "CsrCalculator" (120 : Nat) "CsrCalculator" "now" "LCsrCalculator$World;") ∈ lw_all := lw_g (lw_at lw_m1 163 rfl) rfl
theorem q343 : (Jvm.Cond.fieldLink "CsrCalculator" (420 : Nat) "CsrCalculator" "saved" "LCsrCalculator$World;") ∈ lw_all := lw_g (lw_at lw_m1 164 rfl) rfl
theorem q344 : (Jvm.Cond.fieldLink "CsrCalculator" (127 : Nat) "CsrCalculator" "history" "Ljava/util/ArrayDeque;") ∈ lw_all := lw_g (lw_at lw_m1 165 rfl) rfl
theorem q345 : (Jvm.Cond.fieldLink "CsrCalculator" (134 : Nat) "CsrCalculator" "output" "Ljava/lang/StringBuilder;") ∈ lw_all := lw_g (lw_at lw_m1 166 rfl) rfl
theorem q346 : (Jvm.Cond.lays "CsrCalculator" "CsrCalculator" "done" "I") ∈ lw_all := lw_g (lw_at lw_m1 167 rfl) rfl
theorem q347 : (Jvm.Cond.soleField "CsrCalculator" "done") ∈ lw_all := lw_g (lw_at lw_m1 168 rfl) rfl
theorem q348 : (Jvm.Cond.laysFinal "CsrCalculator" "CsrCalculator" "buffer" "[B") ∈ lw_all := lw_g (lw_at lw_m1 169 rfl) rfl
theorem q349 : (Jvm.Cond.soleField "CsrCalculator" "buffer") ∈ lw_all := lw_g (lw_at lw_m1 170 rfl) rfl
theorem q350 : (Jvm.Cond.lays "CsrCalculator" "CsrCalculator" "length" "I") ∈ lw_all := lw_g (lw_at lw_m1 171 rfl) rfl
theorem q351 : (Jvm.Cond.soleField "CsrCalculator" "length") ∈ lw_all := lw_g (lw_at lw_m1 172 rfl) rfl
theorem q352 : (Jvm.Cond.lays "CsrCalculator" "CsrCalculator" "errorCode" "I") ∈ lw_all := lw_g (lw_at lw_m1 173 rfl) rfl
theorem q353 : (Jvm.Cond.soleField "CsrCalculator" "errorCode") ∈ lw_all := lw_g (lw_at lw_m1 174 rfl) rfl
theorem q354 : (Jvm.Cond.lays "CsrCalculator" "CsrCalculator" "errorOffset" "I") ∈ lw_all := lw_g (lw_at lw_m1 175 rfl) rfl
theorem q355 : (Jvm.Cond.soleField "CsrCalculator" "errorOffset") ∈ lw_all := lw_g (lw_at lw_m1 176 rfl) rfl
theorem q356 : (Jvm.Cond.lays "CsrCalculator" "CsrCalculator" "now" "LCsrCalculator$World;") ∈ lw_all := lw_g (lw_at lw_m1 177 rfl) rfl
theorem q357 : (Jvm.Cond.soleField "CsrCalculator" "now") ∈ lw_all := lw_g (lw_at lw_m1 178 rfl) rfl
theorem q358 : (Jvm.Cond.lays "CsrCalculator" "CsrCalculator" "saved" "LCsrCalculator$World;") ∈ lw_all := lw_g (lw_at lw_m1 179 rfl) rfl
theorem q359 : (Jvm.Cond.soleField "CsrCalculator" "saved") ∈ lw_all := lw_g (lw_at lw_m1 180 rfl) rfl
theorem q360 : (Jvm.Cond.laysFinal "CsrCalculator" "CsrCalculator" "history" "Ljava/util/ArrayDeque;") ∈ lw_all := lw_g (lw_at lw_m1 181 rfl) rfl
theorem q361 : (Jvm.Cond.soleField "CsrCalculator" "history") ∈ lw_all := lw_g (lw_at lw_m1 182 rfl) rfl
theorem q362 : (Jvm.Cond.laysFinal "CsrCalculator" "CsrCalculator" "output" "Ljava/lang/StringBuilder;") ∈ lw_all := lw_g (lw_at lw_m1 183 rfl) rfl
theorem q363 : (Jvm.Cond.soleField "CsrCalculator" "output") ∈ lw_all := lw_g (lw_at lw_m1 184 rfl) rfl
theorem q364 : (Jvm.Cond.superclass "CsrCalculator" "java/lang/Object") ∈ lw_all := lw_g (lw_at lw_m1 185 rfl) rfl
theorem q366 : (Jvm.Cond.instanceMethod ({ cls := "CsrCalculator", name := "errorCode", desc := "()I" } : Jvm.MethodName)) ∈ lw_all := lw_g (lw_at lw_m1 187 rfl) rfl
theorem q367 : (Jvm.Cond.selects "CsrCalculator" ({ cls := "CsrCalculator", name := "errorCode", desc := "()I" } : Jvm.MethodName) ({ cls := "CsrCalculator", name := "errorCode", desc := "()I" } : Jvm.MethodName)) ∈ lw_all := lw_g (lw_at lw_m1 188 rfl) rfl
theorem q368 : (Jvm.Cond.code ({ cls := "CsrCalculator", name := "errorCode", desc := "()I" } : Jvm.MethodName) prog_1_method_22_code (1 : Nat) (Option.some Jvm.ClassFile.FieldType.int)) ∈ lw_all := lw_g (lw_at lw_m1 189 rfl) rfl
theorem q370 : (Jvm.Cond.instanceMethod ({ cls := "CsrCalculator", name := "errorOffset", desc := "()I" } : Jvm.MethodName)) ∈ lw_all := lw_g (lw_at lw_m1 191 rfl) rfl
theorem q371 : (Jvm.Cond.selects "CsrCalculator" ({ cls := "CsrCalculator", name := "errorOffset", desc := "()I" } : Jvm.MethodName) ({ cls := "CsrCalculator", name := "errorOffset", desc := "()I" } : Jvm.MethodName)) ∈ lw_all := lw_g (lw_at lw_m1 192 rfl) rfl
theorem q372 : (Jvm.Cond.code ({ cls := "CsrCalculator", name := "errorOffset", desc := "()I" } : Jvm.MethodName) prog_1_method_23_code (1 : Nat) (Option.some Jvm.ClassFile.FieldType.int)) ∈ lw_all := lw_g (lw_at lw_m1 193 rfl) rfl
theorem q374 : (Jvm.Cond.instanceMethod ({ cls := "CsrCalculator", name := "totalWork", desc := "()I" } : Jvm.MethodName)) ∈ lw_all := lw_g (lw_at lw_m1 195 rfl) rfl
theorem q375 : (Jvm.Cond.selects "CsrCalculator" ({ cls := "CsrCalculator", name := "totalWork", desc := "()I" } : Jvm.MethodName) ({ cls := "CsrCalculator", name := "totalWork", desc := "()I" } : Jvm.MethodName)) ∈ lw_all := lw_g (lw_at lw_m1 196 rfl) rfl
theorem q376 : (Jvm.Cond.code ({ cls := "CsrCalculator", name := "totalWork", desc := "()I" } : Jvm.MethodName) prog_1_method_51_code (1 : Nat) (Option.some Jvm.ClassFile.FieldType.int)) ∈ lw_all := lw_g (lw_at lw_m1 197 rfl) rfl
theorem q378 : (Jvm.Cond.instanceMethod ({ cls := "CsrCalculator", name := "violations", desc := "()I" } : Jvm.MethodName)) ∈ lw_all := lw_g (lw_at lw_m1 199 rfl) rfl
theorem q379 : (Jvm.Cond.selects "CsrCalculator" ({ cls := "CsrCalculator", name := "violations", desc := "()I" } : Jvm.MethodName) ({ cls := "CsrCalculator", name := "violations", desc := "()I" } : Jvm.MethodName)) ∈ lw_all := lw_g (lw_at lw_m1 200 rfl) rfl
theorem q380 : (Jvm.Cond.code ({ cls := "CsrCalculator", name := "violations", desc := "()I" } : Jvm.MethodName) prog_1_method_54_code (6 : Nat) (Option.some Jvm.ClassFile.FieldType.int)) ∈ lw_all := lw_g (lw_at lw_m1 201 rfl) rfl
theorem q381 : (Jvm.Cond.methodLink "CsrCalculator" (320 : Nat) ({ cls := "CsrCalculator$Csr", name := "wrongOrder", desc := "()I" } : Jvm.MethodName)) ∈ lw_all := lw_g (lw_at lw_m1 202 rfl) rfl
theorem q385 : (Jvm.Cond.methodLink "CsrCalculator" (323 : Nat) ({ cls := "CsrCalculator", name := "wrongTranspose", desc := "(LCsrCalculator$Csr;)I" } : Jvm.MethodName)) ∈ lw_all := lw_g (lw_at lw_m1 206 rfl) rfl
theorem q386 : (Jvm.Cond.privateMethod ({ cls := "CsrCalculator", name := "wrongTranspose", desc := "(LCsrCalculator$Csr;)I" } : Jvm.MethodName)) ∈ lw_tbl := lw_at lw_m1 207 rfl
theorem q387 : (Jvm.Cond.instanceMethod ({ cls := "CsrCalculator", name := "wrongTranspose", desc := "(LCsrCalculator$Csr;)I" } : Jvm.MethodName)) ∈ lw_all := lw_g (lw_at lw_m1 208 rfl) rfl
theorem q388 : (Jvm.Cond.codeWith ({ cls := "CsrCalculator", name := "wrongTranspose", desc := "(LCsrCalculator$Csr;)I" } : Jvm.MethodName) prog_1_method_53_code (3 : Nat) (Option.some Jvm.ClassFile.FieldType.int) [((0 : Nat), (29 : Nat), (30 : Nat), (288 : Nat))]) ∈ lw_all := lw_g (lw_at lw_m1 209 rfl) rfl
theorem q389 : (Jvm.Cond.classLink "CsrCalculator" (288 : Nat) "CsrCalculator$Failure") ∈ lw_all := lw_g (lw_at lw_m1 210 rfl) rfl
theorem q390 : (Jvm.Cond.methodLink "CsrCalculator" (316 : Nat) ({ cls := "CsrCalculator$Csr", name := "transposed", desc := "()LCsrCalculator$Csr;" } : Jvm.MethodName)) ∈ lw_all := lw_g (lw_at lw_m1 211 rfl) rfl
theorem q426 : (Jvm.Cond.static ({ cls := "CsrCalculator", name := "isIn", desc := "(JJJ)Z" } : Jvm.MethodName)) ∈ lw_all := lw_g (lw_at lw_m2 7 rfl) rfl
theorem q427 : (Jvm.Cond.code ({ cls := "CsrCalculator", name := "isIn", desc := "(JJJ)Z" } : Jvm.MethodName) prog_1_method_1_code (6 : Nat) (Option.some Jvm.ClassFile.FieldType.boolean)) ∈ lw_all := lw_g (lw_at lw_m2 8 rfl) rfl
theorem q500 : (Jvm.Cond.methodLink "CsrCalculator" (275 : Nat) ({ cls := "CsrCalculator$Csr", name := "hasSameStructure", desc := "(LCsrCalculator$Csr;)Z" } : Jvm.MethodName)) ∈ lw_all := lw_g (lw_at lw_m2 81 rfl) rfl
theorem q512 : (Jvm.Cond.methodLink "CsrCalculator" (271 : Nat) ({ cls := "CsrCalculator$Csr", name := "hasSameValues", desc := "(LCsrCalculator$Csr;)Z" } : Jvm.MethodName)) ∈ lw_all := lw_g (lw_at lw_m2 93 rfl) rfl
theorem q516 : (Jvm.Cond.methodLink "CsrCalculator" (326 : Nat) ({ cls := "CsrCalculator", name := "wrongProducts", desc := "(LCsrCalculator$Csr;)I" } : Jvm.MethodName)) ∈ lw_all := lw_g (lw_at lw_m2 97 rfl) rfl
theorem q517 : (Jvm.Cond.privateMethod ({ cls := "CsrCalculator", name := "wrongProducts", desc := "(LCsrCalculator$Csr;)I" } : Jvm.MethodName)) ∈ lw_tbl := lw_at lw_m2 98 rfl
theorem q518 : (Jvm.Cond.instanceMethod ({ cls := "CsrCalculator", name := "wrongProducts", desc := "(LCsrCalculator$Csr;)I" } : Jvm.MethodName)) ∈ lw_all := lw_g (lw_at lw_m2 99 rfl) rfl
theorem q519 : (Jvm.Cond.codeWith ({ cls := "CsrCalculator", name := "wrongProducts", desc := "(LCsrCalculator$Csr;)I" } : Jvm.MethodName) prog_1_method_52_code (8 : Nat) (Option.some Jvm.ClassFile.FieldType.int) [((30 : Nat), (60 : Nat), (63 : Nat), (288 : Nat))]) ∈ lw_all := lw_g (lw_at lw_m2 100 rfl) rfl
theorem q520 : (Jvm.Cond.methodLink "CsrCalculator" (290 : Nat) ({ cls := "CsrCalculator$Csr", name := "times", desc := "(LCsrCalculator$Csr;)LCsrCalculator$Csr;" } : Jvm.MethodName)) ∈ lw_all := lw_g (lw_at lw_m2 101 rfl) rfl
theorem q538 : (Jvm.Cond.methodLink "CsrCalculator" (312 : Nat) ({ cls := "CsrCalculator$Csr", name := "equalsDense", desc := "(LCsrCalculator$Csr;LCsrCalculator$Csr;)Z" } : Jvm.MethodName)) ∈ lw_all := lw_g (lw_at lw_m2 119 rfl) rfl
theorem q543 : (Jvm.Cond.instanceMethod ({ cls := "CsrCalculator", name := "saveState", desc := "()I" } : Jvm.MethodName)) ∈ lw_all := lw_g (lw_at lw_m2 124 rfl) rfl
theorem q544 : (Jvm.Cond.selects "CsrCalculator" ({ cls := "CsrCalculator", name := "saveState", desc := "()I" } : Jvm.MethodName) ({ cls := "CsrCalculator", name := "saveState", desc := "()I" } : Jvm.MethodName)) ∈ lw_all := lw_g (lw_at lw_m2 125 rfl) rfl
theorem q545 : (Jvm.Cond.code ({ cls := "CsrCalculator", name := "saveState", desc := "()I" } : Jvm.MethodName) prog_1_method_81_code (1 : Nat) (Option.some Jvm.ClassFile.FieldType.int)) ∈ lw_all := lw_g (lw_at lw_m2 126 rfl) rfl
theorem q546 : (Jvm.Cond.methodLink "CsrCalculator" (218 : Nat) ({ cls := "CsrCalculator$World", name := "copy", desc := "()LCsrCalculator$World;" } : Jvm.MethodName)) ∈ lw_all := lw_g (lw_at lw_m2 127 rfl) rfl
theorem q552 : (Jvm.Cond.methodLink "CsrCalculator" (209 : Nat) ({ cls := "CsrCalculator$World", name := "stored", desc := "()I" } : Jvm.MethodName)) ∈ lw_all := lw_g (lw_at lw_m2 133 rfl) rfl
theorem q562 : (Jvm.Cond.instanceMethod ({ cls := "CsrCalculator", name := "feed", desc := "(IIIII)I" } : Jvm.MethodName)) ∈ lw_all := lw_g (lw_at lw_m2 143 rfl) rfl
theorem q563 : (Jvm.Cond.selects "CsrCalculator" ({ cls := "CsrCalculator", name := "feed", desc := "(IIIII)I" } : Jvm.MethodName) ({ cls := "CsrCalculator", name := "feed", desc := "(IIIII)I" } : Jvm.MethodName)) ∈ lw_all := lw_g (lw_at lw_m2 144 rfl) rfl
theorem q564 : (Jvm.Cond.code ({ cls := "CsrCalculator", name := "feed", desc := "(IIIII)I" } : Jvm.MethodName) prog_1_method_17_code (6 : Nat) (Option.some Jvm.ClassFile.FieldType.int)) ∈ lw_all := lw_g (lw_at lw_m2 145 rfl) rfl
theorem q565 : (Jvm.Cond.methodLink "CsrCalculator" (176 : Nat) ({ cls := "CsrCalculator", name := "may", desc := "(Z)V" } : Jvm.MethodName)) ∈ lw_all := lw_g (lw_at lw_m2 146 rfl) rfl
theorem q566 : (Jvm.Cond.static ({ cls := "CsrCalculator", name := "may", desc := "(Z)V" } : Jvm.MethodName)) ∈ lw_all := lw_g (lw_at lw_m2 147 rfl) rfl
theorem q567 : (Jvm.Cond.code ({ cls := "CsrCalculator", name := "may", desc := "(Z)V" } : Jvm.MethodName) prog_1_method_11_code (1 : Nat) (Option.none : Option Jvm.ClassFile.FieldType)) ∈ lw_all := lw_g (lw_at lw_m2 148 rfl) rfl
theorem q568 : (Jvm.Cond.classLink "CsrCalculator" (72 : Nat) "java/lang/IllegalStateException") ∈ lw_all := lw_g (lw_at lw_m2 149 rfl) rfl
theorem q579 : (Jvm.Cond.methodLink "CsrCalculator" (140 : Nat) ({ cls := "java/lang/IllegalStateException", name := "<init>", desc := "()V" } : Jvm.MethodName)) ∈ lw_all := lw_g (lw_at lw_m2 160 rfl) rfl
theorem q591 : (Jvm.Cond.methodLink "CsrCalculator" (179 : Nat) ({ cls := "CsrCalculator", name := "push", desc := "(I)V" } : Jvm.MethodName)) ∈ lw_all := lw_g (lw_at lw_m2 172 rfl) rfl
theorem q592 : (Jvm.Cond.privateMethod ({ cls := "CsrCalculator", name := "push", desc := "(I)V" } : Jvm.MethodName)) ∈ lw_tbl := lw_at lw_m2 173 rfl
theorem q593 : (Jvm.Cond.instanceMethod ({ cls := "CsrCalculator", name := "push", desc := "(I)V" } : Jvm.MethodName)) ∈ lw_all := lw_g (lw_at lw_m2 174 rfl) rfl
theorem q594 : (Jvm.Cond.code ({ cls := "CsrCalculator", name := "push", desc := "(I)V" } : Jvm.MethodName) prog_1_method_16_code (3 : Nat) (Option.none : Option Jvm.ClassFile.FieldType)) ∈ lw_all := lw_g (lw_at lw_m2 175 rfl) rfl
theorem q600 : (Jvm.Cond.instanceMethod ({ cls := "CsrCalculator", name := "truncate", desc := "(I)I" } : Jvm.MethodName)) ∈ lw_all := lw_g (lw_at lw_m2 181 rfl) rfl
theorem q601 : (Jvm.Cond.selects "CsrCalculator" ({ cls := "CsrCalculator", name := "truncate", desc := "(I)I" } : Jvm.MethodName) ({ cls := "CsrCalculator", name := "truncate", desc := "(I)I" } : Jvm.MethodName)) ∈ lw_all := lw_g (lw_at lw_m2 182 rfl) rfl
theorem q602 : (Jvm.Cond.code ({ cls := "CsrCalculator", name := "truncate", desc := "(I)I" } : Jvm.MethodName) prog_1_method_18_code (2 : Nat) (Option.some Jvm.ClassFile.FieldType.int)) ∈ lw_all := lw_g (lw_at lw_m2 183 rfl) rfl
theorem q603 : (Jvm.Cond.methodLink "CsrCalculator" (143 : Nat) ({ cls := "CsrCalculator", name := "isIn", desc := "(JJJ)Z" } : Jvm.MethodName)) ∈ lw_all := lw_g (lw_at lw_m2 184 rfl) rfl
theorem q604 : (Jvm.Cond.methodLink "CsrCalculator" (183 : Nat) ({ cls := "CsrCalculator", name := "argument", desc := "(Z)V" } : Jvm.MethodName)) ∈ lw_all := lw_g (lw_at lw_m2 185 rfl) rfl
theorem q605 : (Jvm.Cond.static ({ cls := "CsrCalculator", name := "argument", desc := "(Z)V" } : Jvm.MethodName)) ∈ lw_all := lw_g (lw_at lw_m2 186 rfl) rfl
theorem q606 : (Jvm.Cond.code ({ cls := "CsrCalculator", name := "argument", desc := "(Z)V" } : Jvm.MethodName) prog_1_method_10_code (1 : Nat) (Option.none : Option Jvm.ClassFile.FieldType)) ∈ lw_all := lw_g (lw_at lw_m2 187 rfl) rfl
theorem q607 : (Jvm.Cond.classLink "CsrCalculator" (70 : Nat) "java/lang/IllegalArgumentException") ∈ lw_all := lw_g (lw_at lw_m2 188 rfl) rfl
theorem q616 : (Jvm.Cond.methodLink "CsrCalculator" (139 : Nat) ({ cls := "java/lang/IllegalArgumentException", name := "<init>", desc := "()V" } : Jvm.MethodName)) ∈ lw_all := lw_g (lw_at lw_m2 197 rfl) rfl
theorem q626 : (Jvm.Cond.instanceMethod ({ cls := "CsrCalculator", name := "readText", desc := "()I" } : Jvm.MethodName)) ∈ lw_all := lw_g (lw_at lw_m2 207 rfl) rfl
theorem q627 : (Jvm.Cond.selects "CsrCalculator" ({ cls := "CsrCalculator", name := "readText", desc := "()I" } : Jvm.MethodName) ({ cls := "CsrCalculator", name := "readText", desc := "()I" } : Jvm.MethodName)) ∈ lw_all := lw_g (lw_at lw_m2 208 rfl) rfl
theorem q628 : (Jvm.Cond.codeWith ({ cls := "CsrCalculator", name := "readText", desc := "()I" } : Jvm.MethodName) prog_1_method_20_code (3 : Nat) (Option.some Jvm.ClassFile.FieldType.int) [((10 : Nat), (40 : Nat), (47 : Nat), (187 : Nat)), ((10 : Nat), (40 : Nat), (61 : Nat), (0 : Nat)), ((47 : Nat), (62 : Nat), (61 : Nat), (0 : Nat))]) ∈ lw_all := lw_g (lw_at lw_m2 209 rfl) rfl
theorem q629 : (Jvm.Cond.classLink "CsrCalculator" (187 : Nat) "CsrCalculator$Wrong") ∈ lw_all := lw_g (lw_at lw_m2 210 rfl) rfl
theorem q630 : (Jvm.Cond.classLink "CsrCalculator" (197 : Nat) "CsrCalculator$Reader") ∈ lw_all := lw_g (lw_at lw_m2 211 rfl) rfl
theorem q632 : (Jvm.Cond.methodLinkNest "CsrCalculator" (199 : Nat) ({ cls := "CsrCalculator$Reader", name := "<init>", desc := "(LCsrCalculator;)V" } : Jvm.MethodName) "CsrCalculator") ∈ lw_tbl := lw_at lw_m2 213 rfl
theorem q674 : (Jvm.Cond.methodLink "CsrCalculator" (202 : Nat) ({ cls := "CsrCalculator$Reader", name := "description", desc := "()LCsrCalculator$World;" } : Jvm.MethodName)) ∈ lw_all := lw_g (lw_at lw_m3 15 rfl) rfl
theorem q972 : (Jvm.Cond.fieldLinkNest "CsrCalculator" (186 : Nat) "CsrCalculator$Wrong" "code" "I" "CsrCalculator") ∈ lw_tbl := lw_at lw_m4 73 rfl
theorem q974 : (Jvm.Cond.fieldLinkNest "CsrCalculator" (194 : Nat) "CsrCalculator$Wrong" "offset" "I" "CsrCalculator") ∈ lw_tbl := lw_at lw_m4 75 rfl
theorem q990 : (Jvm.Cond.static ({ cls := "CsrCalculator", name := "isStatement", desc := "(Ljava/lang/String;)Z" } : Jvm.MethodName)) ∈ lw_all := lw_g (lw_at lw_m4 91 rfl) rfl
theorem q991 : (Jvm.Cond.code ({ cls := "CsrCalculator", name := "isStatement", desc := "(Ljava/lang/String;)Z" } : Jvm.MethodName) prog_1_method_2_code (3 : Nat) (Option.some Jvm.ClassFile.FieldType.boolean)) ∈ lw_all := lw_g (lw_at lw_m4 92 rfl) rfl
theorem q992 : (Jvm.Cond.methodLink "CsrCalculator" (1 : Nat) ({ cls := "java/lang/String", name := "hashCode", desc := "()I" } : Jvm.MethodName)) ∈ lw_all := lw_g (lw_at lw_m4 93 rfl) rfl
theorem q1053 : (Jvm.Cond.stringRef "CsrCalculator" (7 : Nat) "matrix") ∈ lw_tbl := lw_at lw_m4 154 rfl
theorem q1054 : (Jvm.Cond.methodLink "CsrCalculator" (9 : Nat) ({ cls := "java/lang/String", name := "equals", desc := "(Ljava/lang/Object;)Z" } : Jvm.MethodName)) ∈ lw_all := lw_g (lw_at lw_m4 155 rfl) rfl
theorem q1055 : (Jvm.Cond.stringRef "CsrCalculator" (13 : Nat) "entry") ∈ lw_tbl := lw_at lw_m4 156 rfl
theorem q1056 : (Jvm.Cond.stringRef "CsrCalculator" (15 : Nat) "let") ∈ lw_tbl := lw_at lw_m4 157 rfl
theorem q1057 : (Jvm.Cond.stringRef "CsrCalculator" (17 : Nat) "drop") ∈ lw_tbl := lw_at lw_m4 158 rfl
theorem q1266 : (Jvm.Cond.selects "CsrCalculator" ({ cls := "java/lang/Object", name := "getClass", desc := "()Ljava/lang/Class;" } : Jvm.MethodName) ({ cls := "java/lang/Object", name := "getClass", desc := "()Ljava/lang/Class;" } : Jvm.MethodName)) ∈ lw_all := lw_g (lw_at lw_m5 127 rfl) rfl
theorem q1451 : (Jvm.Cond.methodLink "CsrCalculator" (206 : Nat) ({ cls := "java/util/ArrayDeque", name := "clear", desc := "()V" } : Jvm.MethodName)) ∈ lw_all := lw_g (lw_at lw_m6 72 rfl) rfl
theorem q1458 : (Jvm.Cond.methodLink "CsrCalculator" (210 : Nat) ({ cls := "CsrCalculator", name := "note", desc := "(LCsrCalculator$Wrong;)V" } : Jvm.MethodName)) ∈ lw_all := lw_g (lw_at lw_m6 79 rfl) rfl
theorem q1459 : (Jvm.Cond.privateMethod ({ cls := "CsrCalculator", name := "note", desc := "(LCsrCalculator$Wrong;)V" } : Jvm.MethodName)) ∈ lw_tbl := lw_at lw_m6 80 rfl
theorem q1460 : (Jvm.Cond.instanceMethod ({ cls := "CsrCalculator", name := "note", desc := "(LCsrCalculator$Wrong;)V" } : Jvm.MethodName)) ∈ lw_all := lw_g (lw_at lw_m6 81 rfl) rfl
theorem q1461 : (Jvm.Cond.code ({ cls := "CsrCalculator", name := "note", desc := "(LCsrCalculator$Wrong;)V" } : Jvm.MethodName) prog_1_method_19_code (2 : Nat) (Option.none : Option Jvm.ClassFile.FieldType)) ∈ lw_all := lw_g (lw_at lw_m6 82 rfl) rfl
theorem q1466 : (Jvm.Cond.instanceMethod ({ cls := "CsrCalculator", name := "runScript", desc := "()I" } : Jvm.MethodName)) ∈ lw_all := lw_g (lw_at lw_m6 87 rfl) rfl
theorem q1467 : (Jvm.Cond.selects "CsrCalculator" ({ cls := "CsrCalculator", name := "runScript", desc := "()I" } : Jvm.MethodName) ({ cls := "CsrCalculator", name := "runScript", desc := "()I" } : Jvm.MethodName)) ∈ lw_all := lw_g (lw_at lw_m6 88 rfl) rfl
theorem q1468 : (Jvm.Cond.codeWith ({ cls := "CsrCalculator", name := "runScript", desc := "()I" } : Jvm.MethodName) prog_1_method_21_code (4 : Nat) (Option.some Jvm.ClassFile.FieldType.int) [((10 : Nat), (22 : Nat), (30 : Nat), (187 : Nat)), ((10 : Nat), (22 : Nat), (44 : Nat), (0 : Nat)), ((30 : Nat), (45 : Nat), (44 : Nat), (0 : Nat))]) ∈ lw_all := lw_g (lw_at lw_m6 89 rfl) rfl
theorem q1469 : (Jvm.Cond.methodLink "CsrCalculator" (214 : Nat) ({ cls := "CsrCalculator$Reader", name := "script", desc := "()LCsrCalculator$Command;" } : Jvm.MethodName)) ∈ lw_all := lw_g (lw_at lw_m6 90 rfl) rfl
theorem q1483 : (Jvm.Cond.fieldLinkNest "CsrCalculator" (31 : Nat) "CsrCalculator$Command" "what" "Ljava/lang/String;" "CsrCalculator") ∈ lw_tbl := lw_at lw_m6 104 rfl
theorem q1485 : (Jvm.Cond.fieldLinkNest "CsrCalculator" (37 : Nat) "CsrCalculator$Command" "numbers" "[I" "CsrCalculator") ∈ lw_tbl := lw_at lw_m6 106 rfl
theorem q1487 : (Jvm.Cond.fieldLinkNest "CsrCalculator" (41 : Nat) "CsrCalculator$Command" "inner" "Ljava/util/List;" "CsrCalculator") ∈ lw_tbl := lw_at lw_m6 108 rfl
theorem q1489 : (Jvm.Cond.fieldLinkNest "CsrCalculator" (86 : Nat) "CsrCalculator$Command" "expression" "LCsrCalculator$Expr;" "CsrCalculator") ∈ lw_tbl := lw_at lw_m6 110 rfl
theorem q1505 : (Jvm.Cond.static ({ cls := "CsrCalculator", name := "isCommand", desc := "(Ljava/lang/String;)Z" } : Jvm.MethodName)) ∈ lw_all := lw_g (lw_at lw_m6 126 rfl) rfl
theorem q1506 : (Jvm.Cond.code ({ cls := "CsrCalculator", name := "isCommand", desc := "(Ljava/lang/String;)Z" } : Jvm.MethodName) prog_1_method_3_code (3 : Nat) (Option.some Jvm.ClassFile.FieldType.boolean)) ∈ lw_all := lw_g (lw_at lw_m6 127 rfl) rfl
theorem q1507 : (Jvm.Cond.stringRef "CsrCalculator" (19 : Nat) "erase") ∈ lw_tbl := lw_at lw_m6 128 rfl
theorem q1508 : (Jvm.Cond.stringRef "CsrCalculator" (21 : Nat) "swap") ∈ lw_tbl := lw_at lw_m6 129 rfl
theorem q1509 : (Jvm.Cond.stringRef "CsrCalculator" (23 : Nat) "repeat") ∈ lw_tbl := lw_at lw_m6 130 rfl
theorem q1510 : (Jvm.Cond.methodLink "CsrCalculator" (25 : Nat) ({ cls := "CsrCalculator", name := "isStatement", desc := "(Ljava/lang/String;)Z" } : Jvm.MethodName)) ∈ lw_all := lw_g (lw_at lw_m6 131 rfl) rfl
theorem q1524 : (Jvm.Cond.methodLink "CsrCalculator" (58 : Nat) ({ cls := "CsrCalculator", name := "runAll", desc := "(LCsrCalculator$Command;)Z" } : Jvm.MethodName)) ∈ lw_all := lw_g (lw_at lw_m6 145 rfl) rfl
theorem q1525 : (Jvm.Cond.privateMethod ({ cls := "CsrCalculator", name := "runAll", desc := "(LCsrCalculator$Command;)Z" } : Jvm.MethodName)) ∈ lw_tbl := lw_at lw_m6 146 rfl
theorem q1526 : (Jvm.Cond.instanceMethod ({ cls := "CsrCalculator", name := "runAll", desc := "(LCsrCalculator$Command;)Z" } : Jvm.MethodName)) ∈ lw_all := lw_g (lw_at lw_m6 147 rfl) rfl
theorem q1527 : (Jvm.Cond.code ({ cls := "CsrCalculator", name := "runAll", desc := "(LCsrCalculator$Command;)Z" } : Jvm.MethodName) prog_1_method_5_code (6 : Nat) (Option.some Jvm.ClassFile.FieldType.boolean)) ∈ lw_all := lw_g (lw_at lw_m6 148 rfl) rfl
theorem q1528 : (Jvm.Cond.interfaceEntry "CsrCalculator" (45 : Nat)) ∈ lw_tbl := lw_at lw_m6 149 rfl
theorem q1529 : (Jvm.Cond.methodLink "CsrCalculator" (45 : Nat) ({ cls := "java/util/List", name := "size", desc := "()I" } : Jvm.MethodName)) ∈ lw_all := lw_g (lw_at lw_m6 150 rfl) rfl
theorem q1530 : (Jvm.Cond.interfaceEntry "CsrCalculator" (50 : Nat)) ∈ lw_tbl := lw_at lw_m6 151 rfl
theorem q1531 : (Jvm.Cond.methodLink "CsrCalculator" (50 : Nat) ({ cls := "java/util/List", name := "get", desc := "(I)Ljava/lang/Object;" } : Jvm.MethodName)) ∈ lw_all := lw_g (lw_at lw_m6 152 rfl) rfl
theorem q1532 : (Jvm.Cond.classLink "CsrCalculator" (32 : Nat) "CsrCalculator$Command") ∈ lw_all := lw_g (lw_at lw_m6 153 rfl) rfl
theorem q1533 : (Jvm.Cond.methodLink "CsrCalculator" (54 : Nat) ({ cls := "CsrCalculator", name := "isRepeat", desc := "(LCsrCalculator$Command;)Z" } : Jvm.MethodName)) ∈ lw_all := lw_g (lw_at lw_m6 154 rfl) rfl
theorem q1534 : (Jvm.Cond.static ({ cls := "CsrCalculator", name := "isRepeat", desc := "(LCsrCalculator$Command;)Z" } : Jvm.MethodName)) ∈ lw_all := lw_g (lw_at lw_m6 155 rfl) rfl
theorem q1535 : (Jvm.Cond.code ({ cls := "CsrCalculator", name := "isRepeat", desc := "(LCsrCalculator$Command;)Z" } : Jvm.MethodName) prog_1_method_4_code (1 : Nat) (Option.some Jvm.ClassFile.FieldType.boolean)) ∈ lw_all := lw_g (lw_at lw_m6 156 rfl) rfl
theorem q1536 : (Jvm.Cond.methodLink "CsrCalculator" (61 : Nat) ({ cls := "CsrCalculator", name := "runOne", desc := "(LCsrCalculator$Command;)Z" } : Jvm.MethodName)) ∈ lw_all := lw_g (lw_at lw_m6 157 rfl) rfl
theorem q1537 : (Jvm.Cond.privateMethod ({ cls := "CsrCalculator", name := "runOne", desc := "(LCsrCalculator$Command;)Z" } : Jvm.MethodName)) ∈ lw_tbl := lw_at lw_m6 158 rfl
theorem q1538 : (Jvm.Cond.instanceMethod ({ cls := "CsrCalculator", name := "runOne", desc := "(LCsrCalculator$Command;)Z" } : Jvm.MethodName)) ∈ lw_all := lw_g (lw_at lw_m6 159 rfl) rfl
theorem q1539 : (Jvm.Cond.codeWith ({ cls := "CsrCalculator", name := "runOne", desc := "(LCsrCalculator$Command;)Z" } : Jvm.MethodName) prog_1_method_6_code (3 : Nat) (Option.some Jvm.ClassFile.FieldType.boolean) [((0 : Nat), (5 : Nat), (8 : Nat), (68 : Nat)), ((0 : Nat), (5 : Nat), (11 : Nat), (70 : Nat)), ((0 : Nat), (5 : Nat), (14 : Nat), (72 : Nat))]) ∈ lw_all := lw_g (lw_at lw_m6 160 rfl) rfl
theorem q1540 : (Jvm.Cond.classLink "CsrCalculator" (68 : Nat) "java/lang/IndexOutOfBoundsException") ∈ lw_all := lw_g (lw_at lw_m6 161 rfl) rfl
theorem q1559 : (Jvm.Cond.methodLink "CsrCalculator" (64 : Nat) ({ cls := "CsrCalculator", name := "execute", desc := "(LCsrCalculator$Command;)V" } : Jvm.MethodName)) ∈ lw_all := lw_g (lw_at lw_m6 180 rfl) rfl
theorem q1560 : (Jvm.Cond.privateMethod ({ cls := "CsrCalculator", name := "execute", desc := "(LCsrCalculator$Command;)V" } : Jvm.MethodName)) ∈ lw_tbl := lw_at lw_m6 181 rfl
theorem q1561 : (Jvm.Cond.instanceMethod ({ cls := "CsrCalculator", name := "execute", desc := "(LCsrCalculator$Command;)V" } : Jvm.MethodName)) ∈ lw_all := lw_g (lw_at lw_m6 182 rfl) rfl
theorem q1562 : (Jvm.Cond.code ({ cls := "CsrCalculator", name := "execute", desc := "(LCsrCalculator$Command;)V" } : Jvm.MethodName) prog_1_method_7_code (6 : Nat) (Option.none : Option Jvm.ClassFile.FieldType)) ∈ lw_all := lw_g (lw_at lw_m6 183 rfl) rfl
theorem q1563 : (Jvm.Cond.methodLink "CsrCalculator" (78 : Nat) ({ cls := "CsrCalculator", name := "createNow", desc := "(III)I" } : Jvm.MethodName)) ∈ lw_all := lw_g (lw_at lw_m6 184 rfl) rfl
theorem q1564 : (Jvm.Cond.privateMethod ({ cls := "CsrCalculator", name := "createNow", desc := "(III)I" } : Jvm.MethodName)) ∈ lw_tbl := lw_at lw_m6 185 rfl
theorem q1565 : (Jvm.Cond.instanceMethod ({ cls := "CsrCalculator", name := "createNow", desc := "(III)I" } : Jvm.MethodName)) ∈ lw_all := lw_g (lw_at lw_m6 186 rfl) rfl
theorem q1566 : (Jvm.Cond.code ({ cls := "CsrCalculator", name := "createNow", desc := "(III)I" } : Jvm.MethodName) prog_1_method_59_code (6 : Nat) (Option.some Jvm.ClassFile.FieldType.int)) ∈ lw_all := lw_g (lw_at lw_m6 187 rfl) rfl
theorem q1567 : (Jvm.Cond.methodLink "CsrCalculator" (155 : Nat) ({ cls := "CsrCalculator", name := "matrix", desc := "(I)LCsrCalculator$Csr;" } : Jvm.MethodName)) ∈ lw_all := lw_g (lw_at lw_m6 188 rfl) rfl
theorem q1568 : (Jvm.Cond.privateMethod ({ cls := "CsrCalculator", name := "matrix", desc := "(I)LCsrCalculator$Csr;" } : Jvm.MethodName)) ∈ lw_tbl := lw_at lw_m6 189 rfl
theorem q1569 : (Jvm.Cond.instanceMethod ({ cls := "CsrCalculator", name := "matrix", desc := "(I)LCsrCalculator$Csr;" } : Jvm.MethodName)) ∈ lw_all := lw_g (lw_at lw_m6 190 rfl) rfl
theorem q1570 : (Jvm.Cond.code ({ cls := "CsrCalculator", name := "matrix", desc := "(I)LCsrCalculator$Csr;" } : Jvm.MethodName) prog_1_method_12_code (2 : Nat) (Option.some (Jvm.ClassFile.FieldType.object "CsrCalculator$Csr"))) ∈ lw_all := lw_g (lw_at lw_m6 191 rfl) rfl
theorem q1571 : (Jvm.Cond.constantLong "CsrCalculator" (141 : Nat) (3 : Int64)) ∈ lw_all := lw_g (lw_at lw_m6 192 rfl) rfl
theorem q1572 : (Jvm.Cond.methodLink "CsrCalculator" (147 : Nat) ({ cls := "CsrCalculator", name := "index", desc := "(Z)V" } : Jvm.MethodName)) ∈ lw_all := lw_g (lw_at lw_m6 193 rfl) rfl
theorem q1573 : (Jvm.Cond.static ({ cls := "CsrCalculator", name := "index", desc := "(Z)V" } : Jvm.MethodName)) ∈ lw_all := lw_g (lw_at lw_m6 194 rfl) rfl
theorem q1574 : (Jvm.Cond.code ({ cls := "CsrCalculator", name := "index", desc := "(Z)V" } : Jvm.MethodName) prog_1_method_9_code (1 : Nat) (Option.none : Option Jvm.ClassFile.FieldType)) ∈ lw_all := lw_g (lw_at lw_m6 195 rfl) rfl
theorem q1583 : (Jvm.Cond.methodLink "CsrCalculator" (138 : Nat) ({ cls := "java/lang/IndexOutOfBoundsException", name := "<init>", desc := "()V" } : Jvm.MethodName)) ∈ lw_all := lw_g (lw_at lw_m6 204 rfl) rfl
theorem q1589 : (Jvm.Cond.constantLong "CsrCalculator" (343 : Nat) (12 : Int64)) ∈ lw_all := lw_g (lw_at lw_m6 210 rfl) rfl
theorem q1590 : (Jvm.Cond.classLink "CsrCalculator" (159 : Nat) "CsrCalculator$Csr") ∈ lw_all := lw_g (lw_at lw_m6 211 rfl) rfl
theorem q1591 : (Jvm.Cond.methodLink "CsrCalculator" (345 : Nat) ({ cls := "CsrCalculator$Csr", name := "<init>", desc := "(II)V" } : Jvm.MethodName)) ∈ lw_all := lw_g (lw_at lw_m6 212 rfl) rfl
theorem q1592 : (Jvm.Cond.methodLink "CsrCalculator" (348 : Nat) ({ cls := "CsrCalculator$World", name := "put", desc := "(ILCsrCalculator$Csr;)I" } : Jvm.MethodName)) ∈ lw_all := lw_g (lw_at lw_m6 213 rfl) rfl
theorem q1593 : (Jvm.Cond.methodLink "CsrCalculator" (82 : Nat) ({ cls := "CsrCalculator", name := "setNow", desc := "(IIII)I" } : Jvm.MethodName)) ∈ lw_all := lw_g (lw_at lw_m6 214 rfl) rfl
theorem q1594 : (Jvm.Cond.privateMethod ({ cls := "CsrCalculator", name := "setNow", desc := "(IIII)I" } : Jvm.MethodName)) ∈ lw_tbl := lw_at lw_m6 215 rfl
theorem q1595 : (Jvm.Cond.instanceMethod ({ cls := "CsrCalculator", name := "setNow", desc := "(IIII)I" } : Jvm.MethodName)) ∈ lw_all := lw_g (lw_at lw_m6 216 rfl) rfl
theorem q1596 : (Jvm.Cond.code ({ cls := "CsrCalculator", name := "setNow", desc := "(IIII)I" } : Jvm.MethodName) prog_1_method_60_code (7 : Nat) (Option.some Jvm.ClassFile.FieldType.int)) ∈ lw_all := lw_g (lw_at lw_m6 217 rfl) rfl
theorem q1597 : (Jvm.Cond.methodLink "CsrCalculator" (240 : Nat) ({ cls := "CsrCalculator", name := "matrixWith", desc := "(III)LCsrCalculator$Csr;" } : Jvm.MethodName)) ∈ lw_all := lw_g (lw_at lw_m6 218 rfl) rfl
theorem q1598 : (Jvm.Cond.privateMethod ({ cls := "CsrCalculator", name := "matrixWith", desc := "(III)LCsrCalculator$Csr;" } : Jvm.MethodName)) ∈ lw_tbl := lw_at lw_m6 219 rfl
theorem q1599 : (Jvm.Cond.instanceMethod ({ cls := "CsrCalculator", name := "matrixWith", desc := "(III)LCsrCalculator$Csr;" } : Jvm.MethodName)) ∈ lw_all := lw_g (lw_at lw_m6 220 rfl) rfl
theorem q1600 : (Jvm.Cond.code ({ cls := "CsrCalculator", name := "matrixWith", desc := "(III)LCsrCalculator$Csr;" } : Jvm.MethodName) prog_1_method_14_code (5 : Nat) (Option.some (Jvm.ClassFile.FieldType.object "CsrCalculator$Csr"))) ∈ lw_all := lw_g (lw_at lw_m6 221 rfl) rfl
theorem q1601 : (Jvm.Cond.methodLink "CsrCalculator" (163 : Nat) ({ cls := "CsrCalculator", name := "matrixWithRow", desc := "(II)LCsrCalculator$Csr;" } : Jvm.MethodName)) ∈ lw_all := lw_g (lw_at lw_m6 222 rfl) rfl
theorem q1602 : (Jvm.Cond.privateMethod ({ cls := "CsrCalculator", name := "matrixWithRow", desc := "(II)LCsrCalculator$Csr;" } : Jvm.MethodName)) ∈ lw_tbl := lw_at lw_m6 223 rfl
theorem q1603 : (Jvm.Cond.instanceMethod ({ cls := "CsrCalculator", name := "matrixWithRow", desc := "(II)LCsrCalculator$Csr;" } : Jvm.MethodName)) ∈ lw_all := lw_g (lw_at lw_m6 224 rfl) rfl
theorem q1604 : (Jvm.Cond.code ({ cls := "CsrCalculator", name := "matrixWithRow", desc := "(II)LCsrCalculator$Csr;" } : Jvm.MethodName) prog_1_method_13_code (4 : Nat) (Option.some (Jvm.ClassFile.FieldType.object "CsrCalculator$Csr"))) ∈ lw_all := lw_g (lw_at lw_m6 225 rfl) rfl
theorem q1605 : (Jvm.Cond.constantLong "CsrCalculator" (352 : Nat) (-9999 : Int64)) ∈ lw_all := lw_g (lw_at lw_m6 226 rfl) rfl
theorem q1606 : (Jvm.Cond.constantLong "CsrCalculator" (354 : Nat) (9999 : Int64)) ∈ lw_all := lw_g (lw_at lw_m6 227 rfl) rfl
theorem q1607 : (Jvm.Cond.static ({ cls := "CsrCalculator", name := "lambda$setNow$0", desc := "(LCsrCalculator$Csr;III)LCsrCalculator$Csr;" } : Jvm.MethodName)) ∈ lw_all := lw_g (lw_at lw_m6 228 rfl) rfl
theorem q1608 : (Jvm.Cond.code ({ cls := "CsrCalculator", name := "lambda$setNow$0", desc := "(LCsrCalculator$Csr;III)LCsrCalculator$Csr;" } : Jvm.MethodName) prog_1_method_90_code (4 : Nat) (Option.some (Jvm.ClassFile.FieldType.object "CsrCalculator$Csr"))) ∈ lw_all := lw_g (lw_at lw_m6 229 rfl) rfl
theorem q1609 : (Jvm.Cond.methodLink "CsrCalculator" (435 : Nat) ({ cls := "CsrCalculator$Csr", name := "with", desc := "(III)LCsrCalculator$Csr;" } : Jvm.MethodName)) ∈ lw_all := lw_g (lw_at lw_m6 230 rfl) rfl
theorem q1610 : (Jvm.Cond.methodLink "CsrCalculator" (359 : Nat) ({ cls := "CsrCalculator", name := "of", desc := "(LCsrCalculator$Operation;)LCsrCalculator$Csr;" } : Jvm.MethodName)) ∈ lw_all := lw_g (lw_at lw_m6 231 rfl) rfl
theorem q1611 : (Jvm.Cond.static ({ cls := "CsrCalculator", name := "of", desc := "(LCsrCalculator$Operation;)LCsrCalculator$Csr;" } : Jvm.MethodName)) ∈ lw_all := lw_g (lw_at lw_m6 232 rfl) rfl
theorem q1612 : (Jvm.Cond.codeWith ({ cls := "CsrCalculator", name := "of", desc := "(LCsrCalculator$Operation;)LCsrCalculator$Csr;" } : Jvm.MethodName) prog_1_method_58_code (2 : Nat) (Option.some (Jvm.ClassFile.FieldType.object "CsrCalculator$Csr")) [((0 : Nat), (6 : Nat), (7 : Nat), (288 : Nat))]) ∈ lw_all := lw_g (lw_at lw_m6 233 rfl) rfl
theorem q1613 : (Jvm.Cond.interfaceEntry "CsrCalculator" (338 : Nat)) ∈ lw_tbl := lw_at lw_m6 234 rfl
theorem q1614 : (Jvm.Cond.methodLink "CsrCalculator" (338 : Nat) ({ cls := "CsrCalculator$Operation", name := "result", desc := "()LCsrCalculator$Csr;" } : Jvm.MethodName)) ∈ lw_all := lw_g (lw_at lw_m6 235 rfl) rfl
theorem q1617 : (Jvm.Cond.methodLink "CsrCalculator" (248 : Nat) ({ cls := "CsrCalculator$Csr", name := "find", desc := "(II)I" } : Jvm.MethodName)) ∈ lw_all := lw_g (lw_at lw_m6 238 rfl) rfl
theorem q1618 : (Jvm.Cond.methodLink "CsrCalculator" (90 : Nat) ({ cls := "CsrCalculator", name := "letNow", desc := "(ILCsrCalculator$Expr;)I" } : Jvm.MethodName)) ∈ lw_all := lw_g (lw_at lw_m6 239 rfl) rfl
theorem q1619 : (Jvm.Cond.privateMethod ({ cls := "CsrCalculator", name := "letNow", desc := "(ILCsrCalculator$Expr;)I" } : Jvm.MethodName)) ∈ lw_tbl := lw_at lw_m7 0 rfl
theorem q1620 : (Jvm.Cond.instanceMethod ({ cls := "CsrCalculator", name := "letNow", desc := "(ILCsrCalculator$Expr;)I" } : Jvm.MethodName)) ∈ lw_all := lw_g (lw_at lw_m7 1 rfl) rfl
theorem q1621 : (Jvm.Cond.codeWith ({ cls := "CsrCalculator", name := "letNow", desc := "(ILCsrCalculator$Expr;)I" } : Jvm.MethodName) prog_1_method_68_code (4 : Nat) (Option.some Jvm.ClassFile.FieldType.int) [((0 : Nat), (21 : Nat), (22 : Nat), (288 : Nat))]) ∈ lw_all := lw_g (lw_at lw_m7 2 rfl) rfl
theorem q1622 : (Jvm.Cond.methodLink "CsrCalculator" (382 : Nat) ({ cls := "CsrCalculator$World", name := "let", desc := "(ILCsrCalculator$Expr;)V" } : Jvm.MethodName)) ∈ lw_all := lw_g (lw_at lw_m7 3 rfl) rfl
theorem q1623 : (Jvm.Cond.methodLink "CsrCalculator" (170 : Nat) ({ cls := "CsrCalculator$Csr", name := "stored", desc := "()I" } : Jvm.MethodName)) ∈ lw_all := lw_g (lw_at lw_m7 4 rfl) rfl
theorem q1624 : (Jvm.Cond.methodLink "CsrCalculator" (94 : Nat) ({ cls := "CsrCalculator", name := "dropNow", desc := "(I)I" } : Jvm.MethodName)) ∈ lw_all := lw_g (lw_at lw_m7 5 rfl) rfl
theorem q1625 : (Jvm.Cond.privateMethod ({ cls := "CsrCalculator", name := "dropNow", desc := "(I)I" } : Jvm.MethodName)) ∈ lw_tbl := lw_at lw_m7 6 rfl
theorem q1626 : (Jvm.Cond.instanceMethod ({ cls := "CsrCalculator", name := "dropNow", desc := "(I)I" } : Jvm.MethodName)) ∈ lw_all := lw_g (lw_at lw_m7 7 rfl) rfl
theorem q1627 : (Jvm.Cond.code ({ cls := "CsrCalculator", name := "dropNow", desc := "(I)I" } : Jvm.MethodName) prog_1_method_62_code (3 : Nat) (Option.some Jvm.ClassFile.FieldType.int)) ∈ lw_all := lw_g (lw_at lw_m7 8 rfl) rfl
theorem q1628 : (Jvm.Cond.static ({ cls := "CsrCalculator", name := "lambda$dropNow$2", desc := "(LCsrCalculator$Csr;)LCsrCalculator$Csr;" } : Jvm.MethodName)) ∈ lw_all := lw_g (lw_at lw_m7 9 rfl) rfl
theorem q1629 : (Jvm.Cond.code ({ cls := "CsrCalculator", name := "lambda$dropNow$2", desc := "(LCsrCalculator$Csr;)LCsrCalculator$Csr;" } : Jvm.MethodName) prog_1_method_88_code (1 : Nat) (Option.some (Jvm.ClassFile.FieldType.object "CsrCalculator$Csr"))) ∈ lw_all := lw_g (lw_at lw_m7 10 rfl) rfl
theorem q1630 : (Jvm.Cond.methodLink "CsrCalculator" (429 : Nat) ({ cls := "CsrCalculator$Csr", name := "withoutZeros", desc := "()LCsrCalculator$Csr;" } : Jvm.MethodName)) ∈ lw_all := lw_g (lw_at lw_m7 11 rfl) rfl
theorem q1631 : (Jvm.Cond.methodLink "CsrCalculator" (98 : Nat) ({ cls := "CsrCalculator", name := "eraseNow", desc := "(III)I" } : Jvm.MethodName)) ∈ lw_all := lw_g (lw_at lw_m7 12 rfl) rfl
theorem q1632 : (Jvm.Cond.privateMethod ({ cls := "CsrCalculator", name := "eraseNow", desc := "(III)I" } : Jvm.MethodName)) ∈ lw_tbl := lw_at lw_m7 13 rfl
theorem q1633 : (Jvm.Cond.instanceMethod ({ cls := "CsrCalculator", name := "eraseNow", desc := "(III)I" } : Jvm.MethodName)) ∈ lw_all := lw_g (lw_at lw_m7 14 rfl) rfl
theorem q1634 : (Jvm.Cond.code ({ cls := "CsrCalculator", name := "eraseNow", desc := "(III)I" } : Jvm.MethodName) prog_1_method_61_code (6 : Nat) (Option.some Jvm.ClassFile.FieldType.int)) ∈ lw_all := lw_g (lw_at lw_m7 15 rfl) rfl
theorem q1635 : (Jvm.Cond.methodLink "CsrCalculator" (305 : Nat) ({ cls := "CsrCalculator$Csr", name := "stores", desc := "(II)Z" } : Jvm.MethodName)) ∈ lw_all := lw_g (lw_at lw_m7 16 rfl) rfl
theorem q1636 : (Jvm.Cond.static ({ cls := "CsrCalculator", name := "lambda$eraseNow$1", desc := "(LCsrCalculator$Csr;II)LCsrCalculator$Csr;" } : Jvm.MethodName)) ∈ lw_all := lw_g (lw_at lw_m7 17 rfl) rfl
theorem q1637 : (Jvm.Cond.code ({ cls := "CsrCalculator", name := "lambda$eraseNow$1", desc := "(LCsrCalculator$Csr;II)LCsrCalculator$Csr;" } : Jvm.MethodName) prog_1_method_89_code (3 : Nat) (Option.some (Jvm.ClassFile.FieldType.object "CsrCalculator$Csr"))) ∈ lw_all := lw_g (lw_at lw_m7 18 rfl) rfl
theorem q1638 : (Jvm.Cond.methodLink "CsrCalculator" (432 : Nat) ({ cls := "CsrCalculator$Csr", name := "without", desc := "(II)LCsrCalculator$Csr;" } : Jvm.MethodName)) ∈ lw_all := lw_g (lw_at lw_m7 19 rfl) rfl
theorem q1648 : (Jvm.Cond.methodLink "CsrCalculator" (244 : Nat) ({ cls := "CsrCalculator$Csr", name := "value", desc := "(II)I" } : Jvm.MethodName)) ∈ lw_all := lw_g (lw_at lw_m7 29 rfl) rfl
theorem q1649 : (Jvm.Cond.methodLink "CsrCalculator" (101 : Nat) ({ cls := "CsrCalculator", name := "swapNow", desc := "(III)I" } : Jvm.MethodName)) ∈ lw_all := lw_g (lw_at lw_m7 30 rfl) rfl
theorem q1650 : (Jvm.Cond.privateMethod ({ cls := "CsrCalculator", name := "swapNow", desc := "(III)I" } : Jvm.MethodName)) ∈ lw_tbl := lw_at lw_m7 31 rfl
theorem q1651 : (Jvm.Cond.instanceMethod ({ cls := "CsrCalculator", name := "swapNow", desc := "(III)I" } : Jvm.MethodName)) ∈ lw_all := lw_g (lw_at lw_m7 32 rfl) rfl
theorem q1652 : (Jvm.Cond.code ({ cls := "CsrCalculator", name := "swapNow", desc := "(III)I" } : Jvm.MethodName) prog_1_method_63_code (6 : Nat) (Option.some Jvm.ClassFile.FieldType.int)) ∈ lw_all := lw_g (lw_at lw_m7 33 rfl) rfl
theorem q1653 : (Jvm.Cond.static ({ cls := "CsrCalculator", name := "lambda$swapNow$3", desc := "(LCsrCalculator$Csr;II)LCsrCalculator$Csr;" } : Jvm.MethodName)) ∈ lw_all := lw_g (lw_at lw_m7 34 rfl) rfl
theorem q1654 : (Jvm.Cond.code ({ cls := "CsrCalculator", name := "lambda$swapNow$3", desc := "(LCsrCalculator$Csr;II)LCsrCalculator$Csr;" } : Jvm.MethodName) prog_1_method_87_code (3 : Nat) (Option.some (Jvm.ClassFile.FieldType.object "CsrCalculator$Csr"))) ∈ lw_all := lw_g (lw_at lw_m7 35 rfl) rfl
theorem q1655 : (Jvm.Cond.methodLink "CsrCalculator" (426 : Nat) ({ cls := "CsrCalculator$Csr", name := "withSwapped", desc := "(II)LCsrCalculator$Csr;" } : Jvm.MethodName)) ∈ lw_all := lw_g (lw_at lw_m7 36 rfl) rfl
theorem q1668 : (Jvm.Cond.methodLink "CsrCalculator" (254 : Nat) ({ cls := "CsrCalculator$Csr", name := "rowLength", desc := "(I)I" } : Jvm.MethodName)) ∈ lw_all := lw_g (lw_at lw_m7 49 rfl) rfl
theorem q1669 : (Jvm.Cond.methodLink "CsrCalculator" (221 : Nat) ({ cls := "CsrCalculator", name := "kept", desc := "(LCsrCalculator$World;I)I" } : Jvm.MethodName)) ∈ lw_all := lw_g (lw_at lw_m7 50 rfl) rfl
theorem q1670 : (Jvm.Cond.privateMethod ({ cls := "CsrCalculator", name := "kept", desc := "(LCsrCalculator$World;I)I" } : Jvm.MethodName)) ∈ lw_tbl := lw_at lw_m7 51 rfl
theorem q1671 : (Jvm.Cond.instanceMethod ({ cls := "CsrCalculator", name := "kept", desc := "(LCsrCalculator$World;I)I" } : Jvm.MethodName)) ∈ lw_all := lw_g (lw_at lw_m7 52 rfl) rfl
theorem q1672 : (Jvm.Cond.code ({ cls := "CsrCalculator", name := "kept", desc := "(LCsrCalculator$World;I)I" } : Jvm.MethodName) prog_1_method_57_code (4 : Nat) (Option.some Jvm.ClassFile.FieldType.int)) ∈ lw_all := lw_g (lw_at lw_m7 53 rfl) rfl
theorem q1673 : (Jvm.Cond.methodLink "CsrCalculator" (329 : Nat) ({ cls := "java/util/ArrayDeque", name := "addLast", desc := "(Ljava/lang/Object;)V" } : Jvm.MethodName)) ∈ lw_all := lw_g (lw_at lw_m7 54 rfl) rfl
theorem q1698 : (Jvm.Cond.methodLink "CsrCalculator" (333 : Nat) ({ cls := "java/util/ArrayDeque", name := "size", desc := "()I" } : Jvm.MethodName)) ∈ lw_all := lw_g (lw_at lw_m7 79 rfl) rfl
theorem q1705 : (Jvm.Cond.methodLink "CsrCalculator" (334 : Nat) ({ cls := "java/util/ArrayDeque", name := "removeFirst", desc := "()Ljava/lang/Object;" } : Jvm.MethodName)) ∈ lw_all := lw_g (lw_at lw_m7 86 rfl) rfl
theorem q1721 : (Jvm.Cond.instanceMethod ({ cls := "CsrCalculator", name := "rowCount", desc := "(I)I" } : Jvm.MethodName)) ∈ lw_all := lw_g (lw_at lw_m7 102 rfl) rfl
theorem q1722 : (Jvm.Cond.selects "CsrCalculator" ({ cls := "CsrCalculator", name := "rowCount", desc := "(I)I" } : Jvm.MethodName) ({ cls := "CsrCalculator", name := "rowCount", desc := "(I)I" } : Jvm.MethodName)) ∈ lw_all := lw_g (lw_at lw_m7 103 rfl) rfl
theorem q1723 : (Jvm.Cond.code ({ cls := "CsrCalculator", name := "rowCount", desc := "(I)I" } : Jvm.MethodName) prog_1_method_24_code (2 : Nat) (Option.some Jvm.ClassFile.FieldType.int)) ∈ lw_all := lw_g (lw_at lw_m7 104 rfl) rfl
theorem q1728 : (Jvm.Cond.instanceMethod ({ cls := "CsrCalculator", name := "columnCount", desc := "(I)I" } : Jvm.MethodName)) ∈ lw_all := lw_g (lw_at lw_m7 109 rfl) rfl
theorem q1729 : (Jvm.Cond.selects "CsrCalculator" ({ cls := "CsrCalculator", name := "columnCount", desc := "(I)I" } : Jvm.MethodName) ({ cls := "CsrCalculator", name := "columnCount", desc := "(I)I" } : Jvm.MethodName)) ∈ lw_all := lw_g (lw_at lw_m7 110 rfl) rfl
theorem q1730 : (Jvm.Cond.code ({ cls := "CsrCalculator", name := "columnCount", desc := "(I)I" } : Jvm.MethodName) prog_1_method_25_code (2 : Nat) (Option.some Jvm.ClassFile.FieldType.int)) ∈ lw_all := lw_g (lw_at lw_m7 111 rfl) rfl
theorem q1735 : (Jvm.Cond.instanceMethod ({ cls := "CsrCalculator", name := "storedCount", desc := "(I)I" } : Jvm.MethodName)) ∈ lw_all := lw_g (lw_at lw_m7 116 rfl) rfl
theorem q1736 : (Jvm.Cond.selects "CsrCalculator" ({ cls := "CsrCalculator", name := "storedCount", desc := "(I)I" } : Jvm.MethodName) ({ cls := "CsrCalculator", name := "storedCount", desc := "(I)I" } : Jvm.MethodName)) ∈ lw_all := lw_g (lw_at lw_m7 117 rfl) rfl
theorem q1737 : (Jvm.Cond.code ({ cls := "CsrCalculator", name := "storedCount", desc := "(I)I" } : Jvm.MethodName) prog_1_method_26_code (2 : Nat) (Option.some Jvm.ClassFile.FieldType.int)) ∈ lw_all := lw_g (lw_at lw_m7 118 rfl) rfl
theorem q1742 : (Jvm.Cond.instanceMethod ({ cls := "CsrCalculator", name := "rowPointer", desc := "(II)I" } : Jvm.MethodName)) ∈ lw_all := lw_g (lw_at lw_m7 123 rfl) rfl
theorem q1743 : (Jvm.Cond.selects "CsrCalculator" ({ cls := "CsrCalculator", name := "rowPointer", desc := "(II)I" } : Jvm.MethodName) ({ cls := "CsrCalculator", name := "rowPointer", desc := "(II)I" } : Jvm.MethodName)) ∈ lw_all := lw_g (lw_at lw_m7 124 rfl) rfl
theorem q1744 : (Jvm.Cond.code ({ cls := "CsrCalculator", name := "rowPointer", desc := "(II)I" } : Jvm.MethodName) prog_1_method_27_code (4 : Nat) (Option.some Jvm.ClassFile.FieldType.int)) ∈ lw_all := lw_g (lw_at lw_m7 125 rfl) rfl
theorem q1749 : (Jvm.Cond.instanceMethod ({ cls := "CsrCalculator", name := "columnIndex", desc := "(II)I" } : Jvm.MethodName)) ∈ lw_all := lw_g (lw_at lw_m7 130 rfl) rfl
theorem q1750 : (Jvm.Cond.selects "CsrCalculator" ({ cls := "CsrCalculator", name := "columnIndex", desc := "(II)I" } : Jvm.MethodName) ({ cls := "CsrCalculator", name := "columnIndex", desc := "(II)I" } : Jvm.MethodName)) ∈ lw_all := lw_g (lw_at lw_m7 131 rfl) rfl
theorem q1751 : (Jvm.Cond.code ({ cls := "CsrCalculator", name := "columnIndex", desc := "(II)I" } : Jvm.MethodName) prog_1_method_28_code (3 : Nat) (Option.some Jvm.ClassFile.FieldType.int)) ∈ lw_all := lw_g (lw_at lw_m7 132 rfl) rfl
theorem q1752 : (Jvm.Cond.methodLink "CsrCalculator" (228 : Nat) ({ cls := "CsrCalculator", name := "matrixStoring", desc := "(II)LCsrCalculator$Csr;" } : Jvm.MethodName)) ∈ lw_all := lw_g (lw_at lw_m7 133 rfl) rfl
theorem q1753 : (Jvm.Cond.privateMethod ({ cls := "CsrCalculator", name := "matrixStoring", desc := "(II)LCsrCalculator$Csr;" } : Jvm.MethodName)) ∈ lw_tbl := lw_at lw_m7 134 rfl
theorem q1754 : (Jvm.Cond.instanceMethod ({ cls := "CsrCalculator", name := "matrixStoring", desc := "(II)LCsrCalculator$Csr;" } : Jvm.MethodName)) ∈ lw_all := lw_g (lw_at lw_m7 135 rfl) rfl
theorem q1755 : (Jvm.Cond.code ({ cls := "CsrCalculator", name := "matrixStoring", desc := "(II)LCsrCalculator$Csr;" } : Jvm.MethodName) prog_1_method_15_code (4 : Nat) (Option.some (Jvm.ClassFile.FieldType.object "CsrCalculator$Csr"))) ∈ lw_all := lw_g (lw_at lw_m7 136 rfl) rfl
theorem q1760 : (Jvm.Cond.instanceMethod ({ cls := "CsrCalculator", name := "storedValue", desc := "(II)I" } : Jvm.MethodName)) ∈ lw_all := lw_g (lw_at lw_m7 141 rfl) rfl
theorem q1761 : (Jvm.Cond.selects "CsrCalculator" ({ cls := "CsrCalculator", name := "storedValue", desc := "(II)I" } : Jvm.MethodName) ({ cls := "CsrCalculator", name := "storedValue", desc := "(II)I" } : Jvm.MethodName)) ∈ lw_all := lw_g (lw_at lw_m7 142 rfl) rfl
theorem q1762 : (Jvm.Cond.code ({ cls := "CsrCalculator", name := "storedValue", desc := "(II)I" } : Jvm.MethodName) prog_1_method_29_code (3 : Nat) (Option.some Jvm.ClassFile.FieldType.int)) ∈ lw_all := lw_g (lw_at lw_m7 143 rfl) rfl
theorem q1767 : (Jvm.Cond.instanceMethod ({ cls := "CsrCalculator", name := "rowOf", desc := "(II)I" } : Jvm.MethodName)) ∈ lw_all := lw_g (lw_at lw_m7 148 rfl) rfl
theorem q1768 : (Jvm.Cond.selects "CsrCalculator" ({ cls := "CsrCalculator", name := "rowOf", desc := "(II)I" } : Jvm.MethodName) ({ cls := "CsrCalculator", name := "rowOf", desc := "(II)I" } : Jvm.MethodName)) ∈ lw_all := lw_g (lw_at lw_m7 149 rfl) rfl
theorem q1769 : (Jvm.Cond.code ({ cls := "CsrCalculator", name := "rowOf", desc := "(II)I" } : Jvm.MethodName) prog_1_method_30_code (3 : Nat) (Option.some Jvm.ClassFile.FieldType.int)) ∈ lw_all := lw_g (lw_at lw_m7 150 rfl) rfl
theorem q1770 : (Jvm.Cond.methodLink "CsrCalculator" (237 : Nat) ({ cls := "CsrCalculator$Csr", name := "rowOf", desc := "(I)I" } : Jvm.MethodName)) ∈ lw_all := lw_g (lw_at lw_m7 151 rfl) rfl
theorem q1778 : (Jvm.Cond.instanceMethod ({ cls := "CsrCalculator", name := "value", desc := "(III)I" } : Jvm.MethodName)) ∈ lw_all := lw_g (lw_at lw_m7 159 rfl) rfl
theorem q1779 : (Jvm.Cond.selects "CsrCalculator" ({ cls := "CsrCalculator", name := "value", desc := "(III)I" } : Jvm.MethodName) ({ cls := "CsrCalculator", name := "value", desc := "(III)I" } : Jvm.MethodName)) ∈ lw_all := lw_g (lw_at lw_m7 160 rfl) rfl
theorem q1780 : (Jvm.Cond.code ({ cls := "CsrCalculator", name := "value", desc := "(III)I" } : Jvm.MethodName) prog_1_method_31_code (4 : Nat) (Option.some Jvm.ClassFile.FieldType.int)) ∈ lw_all := lw_g (lw_at lw_m7 161 rfl) rfl
theorem q1785 : (Jvm.Cond.instanceMethod ({ cls := "CsrCalculator", name := "storageIndex", desc := "(III)I" } : Jvm.MethodName)) ∈ lw_all := lw_g (lw_at lw_m7 166 rfl) rfl
theorem q1786 : (Jvm.Cond.selects "CsrCalculator" ({ cls := "CsrCalculator", name := "storageIndex", desc := "(III)I" } : Jvm.MethodName) ({ cls := "CsrCalculator", name := "storageIndex", desc := "(III)I" } : Jvm.MethodName)) ∈ lw_all := lw_g (lw_at lw_m7 167 rfl) rfl
theorem q1787 : (Jvm.Cond.code ({ cls := "CsrCalculator", name := "storageIndex", desc := "(III)I" } : Jvm.MethodName) prog_1_method_32_code (4 : Nat) (Option.some Jvm.ClassFile.FieldType.int)) ∈ lw_all := lw_g (lw_at lw_m7 168 rfl) rfl
theorem q1792 : (Jvm.Cond.instanceMethod ({ cls := "CsrCalculator", name := "explicitZeros", desc := "(I)I" } : Jvm.MethodName)) ∈ lw_all := lw_g (lw_at lw_m7 173 rfl) rfl
theorem q1793 : (Jvm.Cond.selects "CsrCalculator" ({ cls := "CsrCalculator", name := "explicitZeros", desc := "(I)I" } : Jvm.MethodName) ({ cls := "CsrCalculator", name := "explicitZeros", desc := "(I)I" } : Jvm.MethodName)) ∈ lw_all := lw_g (lw_at lw_m7 174 rfl) rfl
theorem q1794 : (Jvm.Cond.code ({ cls := "CsrCalculator", name := "explicitZeros", desc := "(I)I" } : Jvm.MethodName) prog_1_method_33_code (2 : Nat) (Option.some Jvm.ClassFile.FieldType.int)) ∈ lw_all := lw_g (lw_at lw_m7 175 rfl) rfl
theorem q1795 : (Jvm.Cond.methodLink "CsrCalculator" (251 : Nat) ({ cls := "CsrCalculator$Csr", name := "zeros", desc := "()I" } : Jvm.MethodName)) ∈ lw_all := lw_g (lw_at lw_m7 176 rfl) rfl
theorem q1803 : (Jvm.Cond.instanceMethod ({ cls := "CsrCalculator", name := "rowLength", desc := "(II)I" } : Jvm.MethodName)) ∈ lw_all := lw_g (lw_at lw_m7 184 rfl) rfl
theorem q1804 : (Jvm.Cond.selects "CsrCalculator" ({ cls := "CsrCalculator", name := "rowLength", desc := "(II)I" } : Jvm.MethodName) ({ cls := "CsrCalculator", name := "rowLength", desc := "(II)I" } : Jvm.MethodName)) ∈ lw_all := lw_g (lw_at lw_m7 185 rfl) rfl
theorem q1805 : (Jvm.Cond.code ({ cls := "CsrCalculator", name := "rowLength", desc := "(II)I" } : Jvm.MethodName) prog_1_method_34_code (3 : Nat) (Option.some Jvm.ClassFile.FieldType.int)) ∈ lw_all := lw_g (lw_at lw_m7 186 rfl) rfl
theorem q1810 : (Jvm.Cond.instanceMethod ({ cls := "CsrCalculator", name := "columnLength", desc := "(II)I" } : Jvm.MethodName)) ∈ lw_all := lw_g (lw_at lw_m7 191 rfl) rfl
theorem q1811 : (Jvm.Cond.selects "CsrCalculator" ({ cls := "CsrCalculator", name := "columnLength", desc := "(II)I" } : Jvm.MethodName) ({ cls := "CsrCalculator", name := "columnLength", desc := "(II)I" } : Jvm.MethodName)) ∈ lw_all := lw_g (lw_at lw_m7 192 rfl) rfl
theorem q1812 : (Jvm.Cond.code ({ cls := "CsrCalculator", name := "columnLength", desc := "(II)I" } : Jvm.MethodName) prog_1_method_35_code (4 : Nat) (Option.some Jvm.ClassFile.FieldType.int)) ∈ lw_all := lw_g (lw_at lw_m7 193 rfl) rfl
theorem q1813 : (Jvm.Cond.methodLink "CsrCalculator" (257 : Nat) ({ cls := "CsrCalculator$Csr", name := "columnLength", desc := "(I)I" } : Jvm.MethodName)) ∈ lw_all := lw_g (lw_at lw_m7 194 rfl) rfl
theorem q1821 : (Jvm.Cond.instanceMethod ({ cls := "CsrCalculator", name := "longestRow", desc := "(I)I" } : Jvm.MethodName)) ∈ lw_all := lw_g (lw_at lw_m7 202 rfl) rfl
theorem q1822 : (Jvm.Cond.selects "CsrCalculator" ({ cls := "CsrCalculator", name := "longestRow", desc := "(I)I" } : Jvm.MethodName) ({ cls := "CsrCalculator", name := "longestRow", desc := "(I)I" } : Jvm.MethodName)) ∈ lw_all := lw_g (lw_at lw_m7 203 rfl) rfl
theorem q1823 : (Jvm.Cond.code ({ cls := "CsrCalculator", name := "longestRow", desc := "(I)I" } : Jvm.MethodName) prog_1_method_36_code (5 : Nat) (Option.some Jvm.ClassFile.FieldType.int)) ∈ lw_all := lw_g (lw_at lw_m7 204 rfl) rfl
theorem q1828 : (Jvm.Cond.instanceMethod ({ cls := "CsrCalculator", name := "emptyRows", desc := "(I)I" } : Jvm.MethodName)) ∈ lw_all := lw_g (lw_at lw_m7 209 rfl) rfl
theorem q1829 : (Jvm.Cond.selects "CsrCalculator" ({ cls := "CsrCalculator", name := "emptyRows", desc := "(I)I" } : Jvm.MethodName) ({ cls := "CsrCalculator", name := "emptyRows", desc := "(I)I" } : Jvm.MethodName)) ∈ lw_all := lw_g (lw_at lw_m7 210 rfl) rfl
theorem q1830 : (Jvm.Cond.code ({ cls := "CsrCalculator", name := "emptyRows", desc := "(I)I" } : Jvm.MethodName) prog_1_method_37_code (5 : Nat) (Option.some Jvm.ClassFile.FieldType.int)) ∈ lw_all := lw_g (lw_at lw_m7 211 rfl) rfl
theorem q1835 : (Jvm.Cond.instanceMethod ({ cls := "CsrCalculator", name := "bandwidth", desc := "(I)I" } : Jvm.MethodName)) ∈ lw_all := lw_g (lw_at lw_m7 216 rfl) rfl
theorem q1836 : (Jvm.Cond.selects "CsrCalculator" ({ cls := "CsrCalculator", name := "bandwidth", desc := "(I)I" } : Jvm.MethodName) ({ cls := "CsrCalculator", name := "bandwidth", desc := "(I)I" } : Jvm.MethodName)) ∈ lw_all := lw_g (lw_at lw_m7 217 rfl) rfl
theorem q1837 : (Jvm.Cond.code ({ cls := "CsrCalculator", name := "bandwidth", desc := "(I)I" } : Jvm.MethodName) prog_1_method_38_code (2 : Nat) (Option.some Jvm.ClassFile.FieldType.int)) ∈ lw_all := lw_g (lw_at lw_m7 218 rfl) rfl
theorem q1838 : (Jvm.Cond.methodLink "CsrCalculator" (260 : Nat) ({ cls := "CsrCalculator$Csr", name := "bandwidth", desc := "()I" } : Jvm.MethodName)) ∈ lw_all := lw_g (lw_at lw_m7 219 rfl) rfl
theorem q1851 : (Jvm.Cond.instanceMethod ({ cls := "CsrCalculator", name := "rowSum", desc := "(II)I" } : Jvm.MethodName)) ∈ lw_all := lw_g (lw_at lw_m7 232 rfl) rfl
theorem q1852 : (Jvm.Cond.selects "CsrCalculator" ({ cls := "CsrCalculator", name := "rowSum", desc := "(II)I" } : Jvm.MethodName) ({ cls := "CsrCalculator", name := "rowSum", desc := "(II)I" } : Jvm.MethodName)) ∈ lw_all := lw_g (lw_at lw_m7 233 rfl) rfl
theorem q1853 : (Jvm.Cond.code ({ cls := "CsrCalculator", name := "rowSum", desc := "(II)I" } : Jvm.MethodName) prog_1_method_39_code (6 : Nat) (Option.some Jvm.ClassFile.FieldType.int)) ∈ lw_all := lw_g (lw_at lw_m7 234 rfl) rfl
theorem q1858 : (Jvm.Cond.instanceMethod ({ cls := "CsrCalculator", name := "largestMagnitude", desc := "(I)I" } : Jvm.MethodName)) ∈ lw_all := lw_g (lw_at lw_m7 239 rfl) rfl
theorem q1859 : (Jvm.Cond.selects "CsrCalculator" ({ cls := "CsrCalculator", name := "largestMagnitude", desc := "(I)I" } : Jvm.MethodName) ({ cls := "CsrCalculator", name := "largestMagnitude", desc := "(I)I" } : Jvm.MethodName)) ∈ lw_all := lw_g (lw_at lw_m8 0 rfl) rfl
theorem q1860 : (Jvm.Cond.code ({ cls := "CsrCalculator", name := "largestMagnitude", desc := "(I)I" } : Jvm.MethodName) prog_1_method_40_code (7 : Nat) (Option.some Jvm.ClassFile.FieldType.int)) ∈ lw_all := lw_g (lw_at lw_m8 1 rfl) rfl
theorem q1861 : (Jvm.Cond.methodLink "CsrCalculator" (263 : Nat) ({ cls := "java/lang/Math", name := "abs", desc := "(I)I" } : Jvm.MethodName)) ∈ lw_all := lw_g (lw_at lw_m8 2 rfl) rfl
theorem q1862 : (Jvm.Cond.methodLink "CsrCalculator" (268 : Nat) ({ cls := "java/lang/Math", name := "max", desc := "(II)I" } : Jvm.MethodName)) ∈ lw_all := lw_g (lw_at lw_m8 3 rfl) rfl
theorem q1867 : (Jvm.Cond.instanceMethod ({ cls := "CsrCalculator", name := "trace", desc := "(I)I" } : Jvm.MethodName)) ∈ lw_all := lw_g (lw_at lw_m8 8 rfl) rfl
theorem q1868 : (Jvm.Cond.selects "CsrCalculator" ({ cls := "CsrCalculator", name := "trace", desc := "(I)I" } : Jvm.MethodName) ({ cls := "CsrCalculator", name := "trace", desc := "(I)I" } : Jvm.MethodName)) ∈ lw_all := lw_g (lw_at lw_m8 9 rfl) rfl
theorem q1869 : (Jvm.Cond.code ({ cls := "CsrCalculator", name := "trace", desc := "(I)I" } : Jvm.MethodName) prog_1_method_41_code (5 : Nat) (Option.some Jvm.ClassFile.FieldType.int)) ∈ lw_all := lw_g (lw_at lw_m8 10 rfl) rfl
theorem q1874 : (Jvm.Cond.instanceMethod ({ cls := "CsrCalculator", name := "isSymmetric", desc := "(I)Z" } : Jvm.MethodName)) ∈ lw_all := lw_g (lw_at lw_m8 15 rfl) rfl
theorem q1875 : (Jvm.Cond.selects "CsrCalculator" ({ cls := "CsrCalculator", name := "isSymmetric", desc := "(I)Z" } : Jvm.MethodName) ({ cls := "CsrCalculator", name := "isSymmetric", desc := "(I)Z" } : Jvm.MethodName)) ∈ lw_all := lw_g (lw_at lw_m8 16 rfl) rfl
theorem q1876 : (Jvm.Cond.code ({ cls := "CsrCalculator", name := "isSymmetric", desc := "(I)Z" } : Jvm.MethodName) prog_1_method_42_code (6 : Nat) (Option.some Jvm.ClassFile.FieldType.boolean)) ∈ lw_all := lw_g (lw_at lw_m8 17 rfl) rfl
theorem q1881 : (Jvm.Cond.instanceMethod ({ cls := "CsrCalculator", name := "haveSameValues", desc := "(II)Z" } : Jvm.MethodName)) ∈ lw_all := lw_g (lw_at lw_m8 22 rfl) rfl
theorem q1882 : (Jvm.Cond.selects "CsrCalculator" ({ cls := "CsrCalculator", name := "haveSameValues", desc := "(II)Z" } : Jvm.MethodName) ({ cls := "CsrCalculator", name := "haveSameValues", desc := "(II)Z" } : Jvm.MethodName)) ∈ lw_all := lw_g (lw_at lw_m8 23 rfl) rfl
theorem q1883 : (Jvm.Cond.code ({ cls := "CsrCalculator", name := "haveSameValues", desc := "(II)Z" } : Jvm.MethodName) prog_1_method_43_code (3 : Nat) (Option.some Jvm.ClassFile.FieldType.boolean)) ∈ lw_all := lw_g (lw_at lw_m8 24 rfl) rfl
theorem q1888 : (Jvm.Cond.instanceMethod ({ cls := "CsrCalculator", name := "haveSameStructure", desc := "(II)Z" } : Jvm.MethodName)) ∈ lw_all := lw_g (lw_at lw_m8 29 rfl) rfl
theorem q1889 : (Jvm.Cond.selects "CsrCalculator" ({ cls := "CsrCalculator", name := "haveSameStructure", desc := "(II)Z" } : Jvm.MethodName) ({ cls := "CsrCalculator", name := "haveSameStructure", desc := "(II)Z" } : Jvm.MethodName)) ∈ lw_all := lw_g (lw_at lw_m8 30 rfl) rfl
theorem q1890 : (Jvm.Cond.code ({ cls := "CsrCalculator", name := "haveSameStructure", desc := "(II)Z" } : Jvm.MethodName) prog_1_method_44_code (3 : Nat) (Option.some Jvm.ClassFile.FieldType.boolean)) ∈ lw_all := lw_g (lw_at lw_m8 31 rfl) rfl
theorem q1895 : (Jvm.Cond.instanceMethod ({ cls := "CsrCalculator", name := "sumObstacle", desc := "(II)I" } : Jvm.MethodName)) ∈ lw_all := lw_g (lw_at lw_m8 36 rfl) rfl
theorem q1896 : (Jvm.Cond.selects "CsrCalculator" ({ cls := "CsrCalculator", name := "sumObstacle", desc := "(II)I" } : Jvm.MethodName) ({ cls := "CsrCalculator", name := "sumObstacle", desc := "(II)I" } : Jvm.MethodName)) ∈ lw_all := lw_g (lw_at lw_m8 37 rfl) rfl
theorem q1897 : (Jvm.Cond.codeWith ({ cls := "CsrCalculator", name := "sumObstacle", desc := "(II)I" } : Jvm.MethodName) prog_1_method_45_code (6 : Nat) (Option.some Jvm.ClassFile.FieldType.int) [((41 : Nat), (53 : Nat), (54 : Nat), (288 : Nat))]) ∈ lw_all := lw_g (lw_at lw_m8 38 rfl) rfl
theorem q1898 : (Jvm.Cond.fieldLink "CsrCalculator" (278 : Nat) "CsrCalculator$Join" "PLUS" "LCsrCalculator$Join;") ∈ lw_all := lw_g (lw_at lw_m8 39 rfl) rfl
theorem q1900 : (Jvm.Cond.methodLink "CsrCalculator" (284 : Nat) ({ cls := "CsrCalculator$Csr", name := "joined", desc := "(LCsrCalculator$Join;LCsrCalculator$Csr;)LCsrCalculator$Csr;" } : Jvm.MethodName)) ∈ lw_all := lw_g (lw_at lw_m8 41 rfl) rfl
theorem q1905 : (Jvm.Cond.instanceMethod ({ cls := "CsrCalculator", name := "productObstacle", desc := "(II)I" } : Jvm.MethodName)) ∈ lw_all := lw_g (lw_at lw_m8 46 rfl) rfl
theorem q1906 : (Jvm.Cond.selects "CsrCalculator" ({ cls := "CsrCalculator", name := "productObstacle", desc := "(II)I" } : Jvm.MethodName) ({ cls := "CsrCalculator", name := "productObstacle", desc := "(II)I" } : Jvm.MethodName)) ∈ lw_all := lw_g (lw_at lw_m8 47 rfl) rfl
theorem q1907 : (Jvm.Cond.codeWith ({ cls := "CsrCalculator", name := "productObstacle", desc := "(II)I" } : Jvm.MethodName) prog_1_method_46_code (6 : Nat) (Option.some Jvm.ClassFile.FieldType.int) [((27 : Nat), (36 : Nat), (37 : Nat), (288 : Nat))]) ∈ lw_all := lw_g (lw_at lw_m8 48 rfl) rfl
theorem q1912 : (Jvm.Cond.instanceMethod ({ cls := "CsrCalculator", name := "productStoredCount", desc := "(II)I" } : Jvm.MethodName)) ∈ lw_all := lw_g (lw_at lw_m8 53 rfl) rfl
theorem q1913 : (Jvm.Cond.selects "CsrCalculator" ({ cls := "CsrCalculator", name := "productStoredCount", desc := "(II)I" } : Jvm.MethodName) ({ cls := "CsrCalculator", name := "productStoredCount", desc := "(II)I" } : Jvm.MethodName)) ∈ lw_all := lw_g (lw_at lw_m8 54 rfl) rfl
theorem q1914 : (Jvm.Cond.code ({ cls := "CsrCalculator", name := "productStoredCount", desc := "(II)I" } : Jvm.MethodName) prog_1_method_47_code (8 : Nat) (Option.some Jvm.ClassFile.FieldType.int)) ∈ lw_all := lw_g (lw_at lw_m8 55 rfl) rfl
theorem q1915 : (Jvm.Cond.methodLink "CsrCalculator" (294 : Nat) ({ cls := "CsrCalculator$Csr", name := "meets", desc := "(LCsrCalculator$Csr;II)Z" } : Jvm.MethodName)) ∈ lw_all := lw_g (lw_at lw_m8 56 rfl) rfl
theorem q1920 : (Jvm.Cond.instanceMethod ({ cls := "CsrCalculator", name := "productWork", desc := "(II)I" } : Jvm.MethodName)) ∈ lw_all := lw_g (lw_at lw_m8 61 rfl) rfl
theorem q1921 : (Jvm.Cond.selects "CsrCalculator" ({ cls := "CsrCalculator", name := "productWork", desc := "(II)I" } : Jvm.MethodName) ({ cls := "CsrCalculator", name := "productWork", desc := "(II)I" } : Jvm.MethodName)) ∈ lw_all := lw_g (lw_at lw_m8 62 rfl) rfl
theorem q1922 : (Jvm.Cond.code ({ cls := "CsrCalculator", name := "productWork", desc := "(II)I" } : Jvm.MethodName) prog_1_method_48_code (5 : Nat) (Option.some Jvm.ClassFile.FieldType.int)) ∈ lw_all := lw_g (lw_at lw_m8 63 rfl) rfl
theorem q1923 : (Jvm.Cond.methodLink "CsrCalculator" (298 : Nat) ({ cls := "CsrCalculator$Csr", name := "workWith", desc := "(LCsrCalculator$Csr;)I" } : Jvm.MethodName)) ∈ lw_all := lw_g (lw_at lw_m8 64 rfl) rfl
theorem q1928 : (Jvm.Cond.instanceMethod ({ cls := "CsrCalculator", name := "sumStoredCount", desc := "(II)I" } : Jvm.MethodName)) ∈ lw_all := lw_g (lw_at lw_m8 69 rfl) rfl
theorem q1929 : (Jvm.Cond.selects "CsrCalculator" ({ cls := "CsrCalculator", name := "sumStoredCount", desc := "(II)I" } : Jvm.MethodName) ({ cls := "CsrCalculator", name := "sumStoredCount", desc := "(II)I" } : Jvm.MethodName)) ∈ lw_all := lw_g (lw_at lw_m8 70 rfl) rfl
theorem q1930 : (Jvm.Cond.code ({ cls := "CsrCalculator", name := "sumStoredCount", desc := "(II)I" } : Jvm.MethodName) prog_1_method_49_code (8 : Nat) (Option.some Jvm.ClassFile.FieldType.int)) ∈ lw_all := lw_g (lw_at lw_m8 71 rfl) rfl
theorem q1931 : (Jvm.Cond.methodLink "CsrCalculator" (302 : Nat) ({ cls := "CsrCalculator$Csr", name := "hasSameShape", desc := "(LCsrCalculator$Csr;)Z" } : Jvm.MethodName)) ∈ lw_all := lw_g (lw_at lw_m8 72 rfl) rfl
theorem q1936 : (Jvm.Cond.instanceMethod ({ cls := "CsrCalculator", name := "costliestEntry", desc := "(II)I" } : Jvm.MethodName)) ∈ lw_all := lw_g (lw_at lw_m8 77 rfl) rfl
theorem q1937 : (Jvm.Cond.selects "CsrCalculator" ({ cls := "CsrCalculator", name := "costliestEntry", desc := "(II)I" } : Jvm.MethodName) ({ cls := "CsrCalculator", name := "costliestEntry", desc := "(II)I" } : Jvm.MethodName)) ∈ lw_all := lw_g (lw_at lw_m8 78 rfl) rfl
theorem q1938 : (Jvm.Cond.code ({ cls := "CsrCalculator", name := "costliestEntry", desc := "(II)I" } : Jvm.MethodName) prog_1_method_50_code (7 : Nat) (Option.some Jvm.ClassFile.FieldType.int)) ∈ lw_all := lw_g (lw_at lw_m8 79 rfl) rfl
theorem q1943 : (Jvm.Cond.instanceMethod ({ cls := "CsrCalculator", name := "density", desc := "(I)F" } : Jvm.MethodName)) ∈ lw_all := lw_g (lw_at lw_m8 84 rfl) rfl
theorem q1944 : (Jvm.Cond.selects "CsrCalculator" ({ cls := "CsrCalculator", name := "density", desc := "(I)F" } : Jvm.MethodName) ({ cls := "CsrCalculator", name := "density", desc := "(I)F" } : Jvm.MethodName)) ∈ lw_all := lw_g (lw_at lw_m8 85 rfl) rfl
theorem q1945 : (Jvm.Cond.code ({ cls := "CsrCalculator", name := "density", desc := "(I)F" } : Jvm.MethodName) prog_1_method_55_code (3 : Nat) (Option.some Jvm.ClassFile.FieldType.float)) ∈ lw_all := lw_g (lw_at lw_m8 86 rfl) rfl
theorem q1950 : (Jvm.Cond.instanceMethod ({ cls := "CsrCalculator", name := "meanStoredValue", desc := "(I)D" } : Jvm.MethodName)) ∈ lw_all := lw_g (lw_at lw_m8 91 rfl) rfl
theorem q1951 : (Jvm.Cond.selects "CsrCalculator" ({ cls := "CsrCalculator", name := "meanStoredValue", desc := "(I)D" } : Jvm.MethodName) ({ cls := "CsrCalculator", name := "meanStoredValue", desc := "(I)D" } : Jvm.MethodName)) ∈ lw_all := lw_g (lw_at lw_m8 92 rfl) rfl
theorem q1952 : (Jvm.Cond.code ({ cls := "CsrCalculator", name := "meanStoredValue", desc := "(I)D" } : Jvm.MethodName) prog_1_method_56_code (9 : Nat) (Option.some Jvm.ClassFile.FieldType.double)) ∈ lw_all := lw_g (lw_at lw_m8 93 rfl) rfl
theorem q1957 : (Jvm.Cond.instanceMethod ({ cls := "CsrCalculator", name := "create", desc := "(III)I" } : Jvm.MethodName)) ∈ lw_all := lw_g (lw_at lw_m8 98 rfl) rfl
theorem q1958 : (Jvm.Cond.selects "CsrCalculator" ({ cls := "CsrCalculator", name := "create", desc := "(III)I" } : Jvm.MethodName) ({ cls := "CsrCalculator", name := "create", desc := "(III)I" } : Jvm.MethodName)) ∈ lw_all := lw_g (lw_at lw_m8 99 rfl) rfl
theorem q1959 : (Jvm.Cond.code ({ cls := "CsrCalculator", name := "create", desc := "(III)I" } : Jvm.MethodName) prog_1_method_69_code (4 : Nat) (Option.some Jvm.ClassFile.FieldType.int)) ∈ lw_all := lw_g (lw_at lw_m8 100 rfl) rfl
theorem q1964 : (Jvm.Cond.instanceMethod ({ cls := "CsrCalculator", name := "set", desc := "(IIII)I" } : Jvm.MethodName)) ∈ lw_all := lw_g (lw_at lw_m8 105 rfl) rfl
theorem q1965 : (Jvm.Cond.selects "CsrCalculator" ({ cls := "CsrCalculator", name := "set", desc := "(IIII)I" } : Jvm.MethodName) ({ cls := "CsrCalculator", name := "set", desc := "(IIII)I" } : Jvm.MethodName)) ∈ lw_all := lw_g (lw_at lw_m8 106 rfl) rfl
theorem q1966 : (Jvm.Cond.code ({ cls := "CsrCalculator", name := "set", desc := "(IIII)I" } : Jvm.MethodName) prog_1_method_70_code (5 : Nat) (Option.some Jvm.ClassFile.FieldType.int)) ∈ lw_all := lw_g (lw_at lw_m8 107 rfl) rfl
theorem q1971 : (Jvm.Cond.instanceMethod ({ cls := "CsrCalculator", name := "erase", desc := "(III)I" } : Jvm.MethodName)) ∈ lw_all := lw_g (lw_at lw_m8 112 rfl) rfl
theorem q1972 : (Jvm.Cond.selects "CsrCalculator" ({ cls := "CsrCalculator", name := "erase", desc := "(III)I" } : Jvm.MethodName) ({ cls := "CsrCalculator", name := "erase", desc := "(III)I" } : Jvm.MethodName)) ∈ lw_all := lw_g (lw_at lw_m8 113 rfl) rfl
theorem q1973 : (Jvm.Cond.code ({ cls := "CsrCalculator", name := "erase", desc := "(III)I" } : Jvm.MethodName) prog_1_method_71_code (4 : Nat) (Option.some Jvm.ClassFile.FieldType.int)) ∈ lw_all := lw_g (lw_at lw_m8 114 rfl) rfl
theorem q1978 : (Jvm.Cond.instanceMethod ({ cls := "CsrCalculator", name := "dropZeros", desc := "(I)I" } : Jvm.MethodName)) ∈ lw_all := lw_g (lw_at lw_m8 119 rfl) rfl
theorem q1979 : (Jvm.Cond.selects "CsrCalculator" ({ cls := "CsrCalculator", name := "dropZeros", desc := "(I)I" } : Jvm.MethodName) ({ cls := "CsrCalculator", name := "dropZeros", desc := "(I)I" } : Jvm.MethodName)) ∈ lw_all := lw_g (lw_at lw_m8 120 rfl) rfl
theorem q1980 : (Jvm.Cond.code ({ cls := "CsrCalculator", name := "dropZeros", desc := "(I)I" } : Jvm.MethodName) prog_1_method_72_code (2 : Nat) (Option.some Jvm.ClassFile.FieldType.int)) ∈ lw_all := lw_g (lw_at lw_m8 121 rfl) rfl
theorem q1985 : (Jvm.Cond.instanceMethod ({ cls := "CsrCalculator", name := "swapRows", desc := "(III)I" } : Jvm.MethodName)) ∈ lw_all := lw_g (lw_at lw_m8 126 rfl) rfl
theorem q1986 : (Jvm.Cond.selects "CsrCalculator" ({ cls := "CsrCalculator", name := "swapRows", desc := "(III)I" } : Jvm.MethodName) ({ cls := "CsrCalculator", name := "swapRows", desc := "(III)I" } : Jvm.MethodName)) ∈ lw_all := lw_g (lw_at lw_m8 127 rfl) rfl
theorem q1987 : (Jvm.Cond.code ({ cls := "CsrCalculator", name := "swapRows", desc := "(III)I" } : Jvm.MethodName) prog_1_method_73_code (4 : Nat) (Option.some Jvm.ClassFile.FieldType.int)) ∈ lw_all := lw_g (lw_at lw_m8 128 rfl) rfl
theorem q1992 : (Jvm.Cond.instanceMethod ({ cls := "CsrCalculator", name := "scale", desc := "(II)I" } : Jvm.MethodName)) ∈ lw_all := lw_g (lw_at lw_m8 133 rfl) rfl
theorem q1993 : (Jvm.Cond.selects "CsrCalculator" ({ cls := "CsrCalculator", name := "scale", desc := "(II)I" } : Jvm.MethodName) ({ cls := "CsrCalculator", name := "scale", desc := "(II)I" } : Jvm.MethodName)) ∈ lw_all := lw_g (lw_at lw_m8 134 rfl) rfl
theorem q1994 : (Jvm.Cond.code ({ cls := "CsrCalculator", name := "scale", desc := "(II)I" } : Jvm.MethodName) prog_1_method_74_code (3 : Nat) (Option.some Jvm.ClassFile.FieldType.int)) ∈ lw_all := lw_g (lw_at lw_m8 135 rfl) rfl
theorem q1995 : (Jvm.Cond.methodLink "CsrCalculator" (385 : Nat) ({ cls := "CsrCalculator", name := "scaleNow", desc := "(II)I" } : Jvm.MethodName)) ∈ lw_all := lw_g (lw_at lw_m8 136 rfl) rfl
theorem q1996 : (Jvm.Cond.privateMethod ({ cls := "CsrCalculator", name := "scaleNow", desc := "(II)I" } : Jvm.MethodName)) ∈ lw_tbl := lw_at lw_m8 137 rfl
theorem q1997 : (Jvm.Cond.instanceMethod ({ cls := "CsrCalculator", name := "scaleNow", desc := "(II)I" } : Jvm.MethodName)) ∈ lw_all := lw_g (lw_at lw_m8 138 rfl) rfl
theorem q1998 : (Jvm.Cond.code ({ cls := "CsrCalculator", name := "scaleNow", desc := "(II)I" } : Jvm.MethodName) prog_1_method_64_code (4 : Nat) (Option.some Jvm.ClassFile.FieldType.int)) ∈ lw_all := lw_g (lw_at lw_m8 139 rfl) rfl
theorem q1999 : (Jvm.Cond.constantLong "CsrCalculator" (370 : Nat) (-99 : Int64)) ∈ lw_all := lw_g (lw_at lw_m8 140 rfl) rfl
theorem q2000 : (Jvm.Cond.constantLong "CsrCalculator" (372 : Nat) (99 : Int64)) ∈ lw_all := lw_g (lw_at lw_m8 141 rfl) rfl
theorem q2001 : (Jvm.Cond.static ({ cls := "CsrCalculator", name := "lambda$scaleNow$4", desc := "(LCsrCalculator$Csr;I)LCsrCalculator$Csr;" } : Jvm.MethodName)) ∈ lw_all := lw_g (lw_at lw_m8 142 rfl) rfl
theorem q2002 : (Jvm.Cond.code ({ cls := "CsrCalculator", name := "lambda$scaleNow$4", desc := "(LCsrCalculator$Csr;I)LCsrCalculator$Csr;" } : Jvm.MethodName) prog_1_method_86_code (2 : Nat) (Option.some (Jvm.ClassFile.FieldType.object "CsrCalculator$Csr"))) ∈ lw_all := lw_g (lw_at lw_m8 143 rfl) rfl
theorem q2003 : (Jvm.Cond.methodLink "CsrCalculator" (423 : Nat) ({ cls := "CsrCalculator$Csr", name := "scaled", desc := "(I)LCsrCalculator$Csr;" } : Jvm.MethodName)) ∈ lw_all := lw_g (lw_at lw_m8 144 rfl) rfl
theorem q2008 : (Jvm.Cond.instanceMethod ({ cls := "CsrCalculator", name := "transposeInto", desc := "(II)I" } : Jvm.MethodName)) ∈ lw_all := lw_g (lw_at lw_m8 149 rfl) rfl
theorem q2009 : (Jvm.Cond.selects "CsrCalculator" ({ cls := "CsrCalculator", name := "transposeInto", desc := "(II)I" } : Jvm.MethodName) ({ cls := "CsrCalculator", name := "transposeInto", desc := "(II)I" } : Jvm.MethodName)) ∈ lw_all := lw_g (lw_at lw_m8 150 rfl) rfl
theorem q2010 : (Jvm.Cond.code ({ cls := "CsrCalculator", name := "transposeInto", desc := "(II)I" } : Jvm.MethodName) prog_1_method_75_code (3 : Nat) (Option.some Jvm.ClassFile.FieldType.int)) ∈ lw_all := lw_g (lw_at lw_m8 151 rfl) rfl
theorem q2011 : (Jvm.Cond.methodLink "CsrCalculator" (388 : Nat) ({ cls := "CsrCalculator", name := "transposeNow", desc := "(II)I" } : Jvm.MethodName)) ∈ lw_all := lw_g (lw_at lw_m8 152 rfl) rfl
theorem q2012 : (Jvm.Cond.privateMethod ({ cls := "CsrCalculator", name := "transposeNow", desc := "(II)I" } : Jvm.MethodName)) ∈ lw_tbl := lw_at lw_m8 153 rfl
theorem q2013 : (Jvm.Cond.instanceMethod ({ cls := "CsrCalculator", name := "transposeNow", desc := "(II)I" } : Jvm.MethodName)) ∈ lw_all := lw_g (lw_at lw_m8 154 rfl) rfl
theorem q2014 : (Jvm.Cond.code ({ cls := "CsrCalculator", name := "transposeNow", desc := "(II)I" } : Jvm.MethodName) prog_1_method_65_code (5 : Nat) (Option.some Jvm.ClassFile.FieldType.int)) ∈ lw_all := lw_g (lw_at lw_m8 155 rfl) rfl
theorem q2015 : (Jvm.Cond.static ({ cls := "CsrCalculator", name := "lambda$transposeNow$5", desc := "(LCsrCalculator$Csr;)LCsrCalculator$Csr;" } : Jvm.MethodName)) ∈ lw_all := lw_g (lw_at lw_m8 156 rfl) rfl
theorem q2016 : (Jvm.Cond.code ({ cls := "CsrCalculator", name := "lambda$transposeNow$5", desc := "(LCsrCalculator$Csr;)LCsrCalculator$Csr;" } : Jvm.MethodName) prog_1_method_85_code (1 : Nat) (Option.some (Jvm.ClassFile.FieldType.object "CsrCalculator$Csr"))) ∈ lw_all := lw_g (lw_at lw_m8 157 rfl) rfl
theorem q2021 : (Jvm.Cond.instanceMethod ({ cls := "CsrCalculator", name := "addInto", desc := "(III)I" } : Jvm.MethodName)) ∈ lw_all := lw_g (lw_at lw_m8 162 rfl) rfl
theorem q2022 : (Jvm.Cond.selects "CsrCalculator" ({ cls := "CsrCalculator", name := "addInto", desc := "(III)I" } : Jvm.MethodName) ({ cls := "CsrCalculator", name := "addInto", desc := "(III)I" } : Jvm.MethodName)) ∈ lw_all := lw_g (lw_at lw_m8 163 rfl) rfl
theorem q2023 : (Jvm.Cond.code ({ cls := "CsrCalculator", name := "addInto", desc := "(III)I" } : Jvm.MethodName) prog_1_method_76_code (4 : Nat) (Option.some Jvm.ClassFile.FieldType.int)) ∈ lw_all := lw_g (lw_at lw_m8 164 rfl) rfl
theorem q2024 : (Jvm.Cond.methodLink "CsrCalculator" (391 : Nat) ({ cls := "CsrCalculator", name := "addNow", desc := "(III)I" } : Jvm.MethodName)) ∈ lw_all := lw_g (lw_at lw_m8 165 rfl) rfl
theorem q2025 : (Jvm.Cond.privateMethod ({ cls := "CsrCalculator", name := "addNow", desc := "(III)I" } : Jvm.MethodName)) ∈ lw_tbl := lw_at lw_m8 166 rfl
theorem q2026 : (Jvm.Cond.instanceMethod ({ cls := "CsrCalculator", name := "addNow", desc := "(III)I" } : Jvm.MethodName)) ∈ lw_all := lw_g (lw_at lw_m8 167 rfl) rfl
theorem q2027 : (Jvm.Cond.code ({ cls := "CsrCalculator", name := "addNow", desc := "(III)I" } : Jvm.MethodName) prog_1_method_66_code (7 : Nat) (Option.some Jvm.ClassFile.FieldType.int)) ∈ lw_all := lw_g (lw_at lw_m8 168 rfl) rfl
theorem q2028 : (Jvm.Cond.static ({ cls := "CsrCalculator", name := "lambda$addNow$6", desc := "(LCsrCalculator$Csr;LCsrCalculator$Csr;)LCsrCalculator$Csr;" } : Jvm.MethodName)) ∈ lw_all := lw_g (lw_at lw_m8 169 rfl) rfl
theorem q2029 : (Jvm.Cond.code ({ cls := "CsrCalculator", name := "lambda$addNow$6", desc := "(LCsrCalculator$Csr;LCsrCalculator$Csr;)LCsrCalculator$Csr;" } : Jvm.MethodName) prog_1_method_84_code (2 : Nat) (Option.some (Jvm.ClassFile.FieldType.object "CsrCalculator$Csr"))) ∈ lw_all := lw_g (lw_at lw_m8 170 rfl) rfl
theorem q2034 : (Jvm.Cond.instanceMethod ({ cls := "CsrCalculator", name := "multiplyInto", desc := "(III)I" } : Jvm.MethodName)) ∈ lw_all := lw_g (lw_at lw_m8 175 rfl) rfl
theorem q2035 : (Jvm.Cond.selects "CsrCalculator" ({ cls := "CsrCalculator", name := "multiplyInto", desc := "(III)I" } : Jvm.MethodName) ({ cls := "CsrCalculator", name := "multiplyInto", desc := "(III)I" } : Jvm.MethodName)) ∈ lw_all := lw_g (lw_at lw_m8 176 rfl) rfl
theorem q2036 : (Jvm.Cond.code ({ cls := "CsrCalculator", name := "multiplyInto", desc := "(III)I" } : Jvm.MethodName) prog_1_method_77_code (4 : Nat) (Option.some Jvm.ClassFile.FieldType.int)) ∈ lw_all := lw_g (lw_at lw_m8 177 rfl) rfl
theorem q2037 : (Jvm.Cond.methodLink "CsrCalculator" (394 : Nat) ({ cls := "CsrCalculator", name := "multiplyNow", desc := "(III)I" } : Jvm.MethodName)) ∈ lw_all := lw_g (lw_at lw_m8 178 rfl) rfl
theorem q2038 : (Jvm.Cond.privateMethod ({ cls := "CsrCalculator", name := "multiplyNow", desc := "(III)I" } : Jvm.MethodName)) ∈ lw_tbl := lw_at lw_m8 179 rfl
theorem q2039 : (Jvm.Cond.instanceMethod ({ cls := "CsrCalculator", name := "multiplyNow", desc := "(III)I" } : Jvm.MethodName)) ∈ lw_all := lw_g (lw_at lw_m8 180 rfl) rfl
theorem q2040 : (Jvm.Cond.code ({ cls := "CsrCalculator", name := "multiplyNow", desc := "(III)I" } : Jvm.MethodName) prog_1_method_67_code (8 : Nat) (Option.some Jvm.ClassFile.FieldType.int)) ∈ lw_all := lw_g (lw_at lw_m8 181 rfl) rfl
theorem q2041 : (Jvm.Cond.static ({ cls := "CsrCalculator", name := "lambda$multiplyNow$7", desc := "(LCsrCalculator$Csr;LCsrCalculator$Csr;)LCsrCalculator$Csr;" } : Jvm.MethodName)) ∈ lw_all := lw_g (lw_at lw_m8 182 rfl) rfl
theorem q2042 : (Jvm.Cond.code ({ cls := "CsrCalculator", name := "lambda$multiplyNow$7", desc := "(LCsrCalculator$Csr;LCsrCalculator$Csr;)LCsrCalculator$Csr;" } : Jvm.MethodName) prog_1_method_83_code (2 : Nat) (Option.some (Jvm.ClassFile.FieldType.object "CsrCalculator$Csr"))) ∈ lw_all := lw_g (lw_at lw_m8 183 rfl) rfl
theorem q2047 : (Jvm.Cond.instanceMethod ({ cls := "CsrCalculator", name := "undo", desc := "()I" } : Jvm.MethodName)) ∈ lw_all := lw_g (lw_at lw_m8 188 rfl) rfl
theorem q2048 : (Jvm.Cond.selects "CsrCalculator" ({ cls := "CsrCalculator", name := "undo", desc := "()I" } : Jvm.MethodName) ({ cls := "CsrCalculator", name := "undo", desc := "()I" } : Jvm.MethodName)) ∈ lw_all := lw_g (lw_at lw_m8 189 rfl) rfl
theorem q2049 : (Jvm.Cond.code ({ cls := "CsrCalculator", name := "undo", desc := "()I" } : Jvm.MethodName) prog_1_method_78_code (1 : Nat) (Option.some Jvm.ClassFile.FieldType.int)) ∈ lw_all := lw_g (lw_at lw_m8 190 rfl) rfl
theorem q2050 : (Jvm.Cond.methodLink "CsrCalculator" (397 : Nat) ({ cls := "java/util/ArrayDeque", name := "isEmpty", desc := "()Z" } : Jvm.MethodName)) ∈ lw_all := lw_g (lw_at lw_m8 191 rfl) rfl
theorem q2054 : (Jvm.Cond.methodLink "CsrCalculator" (401 : Nat) ({ cls := "java/util/ArrayDeque", name := "removeLast", desc := "()Ljava/lang/Object;" } : Jvm.MethodName)) ∈ lw_all := lw_g (lw_at lw_m8 195 rfl) rfl
theorem q2069 : (Jvm.Cond.instanceMethod ({ cls := "CsrCalculator", name := "printMatrix", desc := "(I)I" } : Jvm.MethodName)) ∈ lw_all := lw_g (lw_at lw_m8 210 rfl) rfl
theorem q2070 : (Jvm.Cond.selects "CsrCalculator" ({ cls := "CsrCalculator", name := "printMatrix", desc := "(I)I" } : Jvm.MethodName) ({ cls := "CsrCalculator", name := "printMatrix", desc := "(I)I" } : Jvm.MethodName)) ∈ lw_all := lw_g (lw_at lw_m8 211 rfl) rfl
theorem q2071 : (Jvm.Cond.code ({ cls := "CsrCalculator", name := "printMatrix", desc := "(I)I" } : Jvm.MethodName) prog_1_method_79_code (5 : Nat) (Option.some Jvm.ClassFile.FieldType.int)) ∈ lw_all := lw_g (lw_at lw_m8 212 rfl) rfl
theorem q2072 : (Jvm.Cond.methodLink "CsrCalculator" (404 : Nat) ({ cls := "java/lang/StringBuilder", name := "setLength", desc := "(I)V" } : Jvm.MethodName)) ∈ lw_all := lw_g (lw_at lw_m8 213 rfl) rfl
theorem q2124 : (Jvm.Cond.methodLink "CsrCalculator" (407 : Nat) ({ cls := "java/lang/StringBuilder", name := "append", desc := "(C)Ljava/lang/StringBuilder;" } : Jvm.MethodName)) ∈ lw_all := lw_g (lw_at lw_m9 25 rfl) rfl
theorem q2125 : (Jvm.Cond.methodLink "CsrCalculator" (411 : Nat) ({ cls := "java/lang/StringBuilder", name := "append", desc := "(I)Ljava/lang/StringBuilder;" } : Jvm.MethodName)) ∈ lw_all := lw_g (lw_at lw_m9 26 rfl) rfl
theorem q2126 : (Jvm.Cond.methodLink "CsrCalculator" (414 : Nat) ({ cls := "java/lang/StringBuilder", name := "length", desc := "()I" } : Jvm.MethodName)) ∈ lw_all := lw_g (lw_at lw_m9 27 rfl) rfl
theorem q2131 : (Jvm.Cond.instanceMethod ({ cls := "CsrCalculator", name := "outputByte", desc := "(I)I" } : Jvm.MethodName)) ∈ lw_all := lw_g (lw_at lw_m9 32 rfl) rfl
theorem q2132 : (Jvm.Cond.selects "CsrCalculator" ({ cls := "CsrCalculator", name := "outputByte", desc := "(I)I" } : Jvm.MethodName) ({ cls := "CsrCalculator", name := "outputByte", desc := "(I)I" } : Jvm.MethodName)) ∈ lw_all := lw_g (lw_at lw_m9 33 rfl) rfl
theorem q2133 : (Jvm.Cond.code ({ cls := "CsrCalculator", name := "outputByte", desc := "(I)I" } : Jvm.MethodName) prog_1_method_80_code (2 : Nat) (Option.some Jvm.ClassFile.FieldType.int)) ∈ lw_all := lw_g (lw_at lw_m9 34 rfl) rfl
theorem q2134 : (Jvm.Cond.methodLink "CsrCalculator" (416 : Nat) ({ cls := "java/lang/StringBuilder", name := "charAt", desc := "(I)C" } : Jvm.MethodName)) ∈ lw_all := lw_g (lw_at lw_m9 35 rfl) rfl
theorem q2148 : (Jvm.Cond.instanceMethod ({ cls := "CsrCalculator", name := "restoreState", desc := "()I" } : Jvm.MethodName)) ∈ lw_all := lw_g (lw_at lw_m9 49 rfl) rfl
theorem q2149 : (Jvm.Cond.selects "CsrCalculator" ({ cls := "CsrCalculator", name := "restoreState", desc := "()I" } : Jvm.MethodName) ({ cls := "CsrCalculator", name := "restoreState", desc := "()I" } : Jvm.MethodName)) ∈ lw_all := lw_g (lw_at lw_m9 50 rfl) rfl
theorem q2150 : (Jvm.Cond.code ({ cls := "CsrCalculator", name := "restoreState", desc := "()I" } : Jvm.MethodName) prog_1_method_82_code (1 : Nat) (Option.some Jvm.ClassFile.FieldType.int)) ∈ lw_all := lw_g (lw_at lw_m9 51 rfl) rfl
theorem q3045 : (Jvm.Cond.castable "CsrCalculator" "java/lang/Object") ∈ lw_tbl := lw_at lw_m12 226 rfl
theorem in_X1 : ∀ w ∈ wsX10, w ∈ lw_all := lw_in wsX10 [346, 348, 350, 352, 354, 356, 358, 360, 362] (by decide +kernel) (by decide +kernel)
