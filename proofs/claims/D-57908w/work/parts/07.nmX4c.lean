set_option maxRecDepth 100000
abbrev cX4_trace : ByteArray := prog_23_method_140_code
def yX4_trace : MethodName := ⟨RX4, "trace", "(I)I"⟩
def dkwX4_trace_2 : List UInt8 := [172]
abbrev dktX4_trace_2 : List UInt8 := dkwX4_trace_2 ++ []
def dkwX4_trace_1 : List UInt8 := [27, 182, 1, 60, 162, 0, 19, 28, 42, 27, 29, 29, 182, 1, 83, 96, 61, 132, 3, 1, 167, 255, 234, 28]
abbrev dktX4_trace_1 : List UInt8 := dkwX4_trace_1 ++ dktX4_trace_2
def dkwX4_trace_0 : List UInt8 := [42, 27, 184, 1, 57, 42, 27, 182, 1, 245, 182, 1, 98, 154, 0, 5, 3, 172, 3, 61, 3, 62, 29, 42]
abbrev dktX4_trace_0 : List UInt8 := dkwX4_trace_0 ++ dktX4_trace_1
theorem dksX4_trace_0 : cX4_trace.data.toList.drop 0 = dktX4_trace_0 := by decide +kernel
theorem dksX4_trace_1 : cX4_trace.data.toList.drop 24 = dktX4_trace_1 := dk_seg dksX4_trace_0 24 rfl rfl
theorem dksX4_trace_2 : cX4_trace.data.toList.drop 48 = dktX4_trace_2 := dk_seg dksX4_trace_1 24 rfl rfl
theorem dX4_trace_0 : decode cX4_trace 0 = .ok (.aload_n 0, 1) := dk_42 (dk_at dksX4_trace_0 0 rfl rfl)
theorem dX4_trace_1 : decode cX4_trace 1 = .ok (.iload_n 1, 1) := dk_27 (dk_at dksX4_trace_0 1 rfl rfl)
theorem dX4_trace_2 : decode cX4_trace 2 = .ok (.invokestatic 313, 3) := dk_184 1 57 (dk_at dksX4_trace_0 2 rfl rfl)
theorem dX4_trace_5 : decode cX4_trace 5 = .ok (.aload_n 0, 1) := dk_42 (dk_at dksX4_trace_0 5 rfl rfl)
theorem dX4_trace_6 : decode cX4_trace 6 = .ok (.iload_n 1, 1) := dk_27 (dk_at dksX4_trace_0 6 rfl rfl)
theorem dX4_trace_7 : decode cX4_trace 7 = .ok (.invokevirtual 501, 3) := dk_182 1 245 (dk_at dksX4_trace_0 7 rfl rfl)
theorem dX4_trace_10 : decode cX4_trace 10 = .ok (.invokevirtual 354, 3) := dk_182 1 98 (dk_at dksX4_trace_0 10 rfl rfl)
theorem dX4_trace_13 : decode cX4_trace 13 = .ok (.ifCond .ne 5, 3) := dk_154 0 5 (dk_at dksX4_trace_0 13 rfl rfl)
theorem dX4_trace_16 : decode cX4_trace 16 = .ok (.iconst 0, 1) := dk_3 (dk_at dksX4_trace_0 16 rfl rfl)
theorem dX4_trace_17 : decode cX4_trace 17 = .ok (.ireturn, 1) := dk_172 (dk_at dksX4_trace_0 17 rfl rfl)
theorem dX4_trace_18 : decode cX4_trace 18 = .ok (.iconst 0, 1) := dk_3 (dk_at dksX4_trace_0 18 rfl rfl)
theorem dX4_trace_19 : decode cX4_trace 19 = .ok (.istore_n 2, 1) := dk_61 (dk_at dksX4_trace_0 19 rfl rfl)
theorem dX4_trace_20 : decode cX4_trace 20 = .ok (.iconst 0, 1) := dk_3 (dk_at dksX4_trace_0 20 rfl rfl)
theorem dX4_trace_21 : decode cX4_trace 21 = .ok (.istore_n 3, 1) := dk_62 (dk_at dksX4_trace_0 21 rfl rfl)
theorem dX4_trace_22 : decode cX4_trace 22 = .ok (.iload_n 3, 1) := dk_29 (dk_at dksX4_trace_0 22 rfl rfl)
theorem dX4_trace_23 : decode cX4_trace 23 = .ok (.aload_n 0, 1) := dk_42 (dk_at dksX4_trace_0 23 rfl rfl)
theorem dX4_trace_24 : decode cX4_trace 24 = .ok (.iload_n 1, 1) := dk_27 (dk_at dksX4_trace_1 0 rfl rfl)
theorem dX4_trace_25 : decode cX4_trace 25 = .ok (.invokevirtual 316, 3) := dk_182 1 60 (dk_at dksX4_trace_1 1 rfl rfl)
theorem dX4_trace_28 : decode cX4_trace 28 = .ok (.if_icmp .ge 19, 3) := dk_162 0 19 (dk_at dksX4_trace_1 4 rfl rfl)
theorem dX4_trace_31 : decode cX4_trace 31 = .ok (.iload_n 2, 1) := dk_28 (dk_at dksX4_trace_1 7 rfl rfl)
theorem dX4_trace_32 : decode cX4_trace 32 = .ok (.aload_n 0, 1) := dk_42 (dk_at dksX4_trace_1 8 rfl rfl)
theorem dX4_trace_33 : decode cX4_trace 33 = .ok (.iload_n 1, 1) := dk_27 (dk_at dksX4_trace_1 9 rfl rfl)
theorem dX4_trace_34 : decode cX4_trace 34 = .ok (.iload_n 3, 1) := dk_29 (dk_at dksX4_trace_1 10 rfl rfl)
theorem dX4_trace_35 : decode cX4_trace 35 = .ok (.iload_n 3, 1) := dk_29 (dk_at dksX4_trace_1 11 rfl rfl)
theorem dX4_trace_36 : decode cX4_trace 36 = .ok (.invokevirtual 339, 3) := dk_182 1 83 (dk_at dksX4_trace_1 12 rfl rfl)
theorem dX4_trace_39 : decode cX4_trace 39 = .ok (.iadd, 1) := dk_96 (dk_at dksX4_trace_1 15 rfl rfl)
theorem dX4_trace_40 : decode cX4_trace 40 = .ok (.istore_n 2, 1) := dk_61 (dk_at dksX4_trace_1 16 rfl rfl)
theorem dX4_trace_41 : decode cX4_trace 41 = .ok (.iinc 3 1, 3) := dk_132 3 1 (dk_at dksX4_trace_1 17 rfl rfl)
theorem dX4_trace_44 : decode cX4_trace 44 = .ok (.goto (-22), 3) := dk_167 255 234 (dk_at dksX4_trace_1 20 rfl rfl)
theorem dX4_trace_47 : decode cX4_trace 47 = .ok (.iload_n 2, 1) := dk_28 (dk_at dksX4_trace_1 23 rfl rfl)
theorem dX4_trace_48 : decode cX4_trace 48 = .ok (.ireturn, 1) := dk_172 (dk_at dksX4_trace_2 0 rfl rfl)
abbrev cX4_isSquare : ByteArray := prog_23_method_139_code
def yX4_isSquare : MethodName := ⟨RX4, "isSquare", "(I)Z"⟩
def dkwX4_isSquare_1 : List UInt8 := [3, 172]
abbrev dktX4_isSquare_1 : List UInt8 := dkwX4_isSquare_1 ++ []
def dkwX4_isSquare_0 : List UInt8 := [27, 184, 1, 57, 153, 0, 20, 42, 27, 182, 1, 60, 42, 27, 182, 1, 66, 160, 0, 7, 4, 167, 0, 4]
abbrev dktX4_isSquare_0 : List UInt8 := dkwX4_isSquare_0 ++ dktX4_isSquare_1
theorem dksX4_isSquare_0 : cX4_isSquare.data.toList.drop 0 = dktX4_isSquare_0 := by decide +kernel
theorem dksX4_isSquare_1 : cX4_isSquare.data.toList.drop 24 = dktX4_isSquare_1 := dk_seg dksX4_isSquare_0 24 rfl rfl
theorem dX4_isSquare_0 : decode cX4_isSquare 0 = .ok (.iload_n 1, 1) := dk_27 (dk_at dksX4_isSquare_0 0 rfl rfl)
theorem dX4_isSquare_1 : decode cX4_isSquare 1 = .ok (.invokestatic 313, 3) := dk_184 1 57 (dk_at dksX4_isSquare_0 1 rfl rfl)
theorem dX4_isSquare_4 : decode cX4_isSquare 4 = .ok (.ifCond .eq 20, 3) := dk_153 0 20 (dk_at dksX4_isSquare_0 4 rfl rfl)
theorem dX4_isSquare_7 : decode cX4_isSquare 7 = .ok (.aload_n 0, 1) := dk_42 (dk_at dksX4_isSquare_0 7 rfl rfl)
theorem dX4_isSquare_8 : decode cX4_isSquare 8 = .ok (.iload_n 1, 1) := dk_27 (dk_at dksX4_isSquare_0 8 rfl rfl)
theorem dX4_isSquare_9 : decode cX4_isSquare 9 = .ok (.invokevirtual 316, 3) := dk_182 1 60 (dk_at dksX4_isSquare_0 9 rfl rfl)
theorem dX4_isSquare_12 : decode cX4_isSquare 12 = .ok (.aload_n 0, 1) := dk_42 (dk_at dksX4_isSquare_0 12 rfl rfl)
theorem dX4_isSquare_13 : decode cX4_isSquare 13 = .ok (.iload_n 1, 1) := dk_27 (dk_at dksX4_isSquare_0 13 rfl rfl)
theorem dX4_isSquare_14 : decode cX4_isSquare 14 = .ok (.invokevirtual 322, 3) := dk_182 1 66 (dk_at dksX4_isSquare_0 14 rfl rfl)
theorem dX4_isSquare_17 : decode cX4_isSquare 17 = .ok (.if_icmp .ne 7, 3) := dk_160 0 7 (dk_at dksX4_isSquare_0 17 rfl rfl)
theorem dX4_isSquare_20 : decode cX4_isSquare 20 = .ok (.iconst 1, 1) := dk_4 (dk_at dksX4_isSquare_0 20 rfl rfl)
theorem dX4_isSquare_21 : decode cX4_isSquare 21 = .ok (.goto 4, 3) := dk_167 0 4 (dk_at dksX4_isSquare_0 21 rfl rfl)
theorem dX4_isSquare_24 : decode cX4_isSquare 24 = .ok (.iconst 0, 1) := dk_3 (dk_at dksX4_isSquare_1 0 rfl rfl)
theorem dX4_isSquare_25 : decode cX4_isSquare 25 = .ok (.ireturn, 1) := dk_172 (dk_at dksX4_isSquare_1 1 rfl rfl)
abbrev cX4_isSymmetric : ByteArray := prog_23_method_142_code
def yX4_isSymmetric : MethodName := ⟨RX4, "isSymmetric", "(I)Z"⟩
def dkwX4_isSymmetric_1 : List UInt8 := [153, 0, 7, 4, 167, 0, 4, 3, 172]
abbrev dktX4_isSymmetric_1 : List UInt8 := dkwX4_isSymmetric_1 ++ []
def dkwX4_isSymmetric_0 : List UInt8 := [42, 27, 184, 1, 57, 182, 0, 87, 153, 0, 23, 42, 27, 182, 1, 245, 153, 0, 15, 42, 27, 182, 1, 248]
abbrev dktX4_isSymmetric_0 : List UInt8 := dkwX4_isSymmetric_0 ++ dktX4_isSymmetric_1
theorem dksX4_isSymmetric_0 : cX4_isSymmetric.data.toList.drop 0 = dktX4_isSymmetric_0 := by decide +kernel
theorem dksX4_isSymmetric_1 : cX4_isSymmetric.data.toList.drop 24 = dktX4_isSymmetric_1 := dk_seg dksX4_isSymmetric_0 24 rfl rfl
theorem dX4_isSymmetric_0 : decode cX4_isSymmetric 0 = .ok (.aload_n 0, 1) := dk_42 (dk_at dksX4_isSymmetric_0 0 rfl rfl)
theorem dX4_isSymmetric_1 : decode cX4_isSymmetric 1 = .ok (.iload_n 1, 1) := dk_27 (dk_at dksX4_isSymmetric_0 1 rfl rfl)
theorem dX4_isSymmetric_2 : decode cX4_isSymmetric 2 = .ok (.invokestatic 313, 3) := dk_184 1 57 (dk_at dksX4_isSymmetric_0 2 rfl rfl)
theorem dX4_isSymmetric_5 : decode cX4_isSymmetric 5 = .ok (.invokevirtual 87, 3) := dk_182 0 87 (dk_at dksX4_isSymmetric_0 5 rfl rfl)
theorem dX4_isSymmetric_8 : decode cX4_isSymmetric 8 = .ok (.ifCond .eq 23, 3) := dk_153 0 23 (dk_at dksX4_isSymmetric_0 8 rfl rfl)
theorem dX4_isSymmetric_11 : decode cX4_isSymmetric 11 = .ok (.aload_n 0, 1) := dk_42 (dk_at dksX4_isSymmetric_0 11 rfl rfl)
theorem dX4_isSymmetric_12 : decode cX4_isSymmetric 12 = .ok (.iload_n 1, 1) := dk_27 (dk_at dksX4_isSymmetric_0 12 rfl rfl)
theorem dX4_isSymmetric_13 : decode cX4_isSymmetric 13 = .ok (.invokevirtual 501, 3) := dk_182 1 245 (dk_at dksX4_isSymmetric_0 13 rfl rfl)
theorem dX4_isSymmetric_16 : decode cX4_isSymmetric 16 = .ok (.ifCond .eq 15, 3) := dk_153 0 15 (dk_at dksX4_isSymmetric_0 16 rfl rfl)
theorem dX4_isSymmetric_19 : decode cX4_isSymmetric 19 = .ok (.aload_n 0, 1) := dk_42 (dk_at dksX4_isSymmetric_0 19 rfl rfl)
theorem dX4_isSymmetric_20 : decode cX4_isSymmetric 20 = .ok (.iload_n 1, 1) := dk_27 (dk_at dksX4_isSymmetric_0 20 rfl rfl)
theorem dX4_isSymmetric_21 : decode cX4_isSymmetric 21 = .ok (.invokevirtual 504, 3) := dk_182 1 248 (dk_at dksX4_isSymmetric_0 21 rfl rfl)
theorem dX4_isSymmetric_24 : decode cX4_isSymmetric 24 = .ok (.ifCond .eq 7, 3) := dk_153 0 7 (dk_at dksX4_isSymmetric_1 0 rfl rfl)
theorem dX4_isSymmetric_27 : decode cX4_isSymmetric 27 = .ok (.iconst 1, 1) := dk_4 (dk_at dksX4_isSymmetric_1 3 rfl rfl)
theorem dX4_isSymmetric_28 : decode cX4_isSymmetric 28 = .ok (.goto 4, 3) := dk_167 0 4 (dk_at dksX4_isSymmetric_1 4 rfl rfl)
theorem dX4_isSymmetric_31 : decode cX4_isSymmetric 31 = .ok (.iconst 0, 1) := dk_3 (dk_at dksX4_isSymmetric_1 7 rfl rfl)
theorem dX4_isSymmetric_32 : decode cX4_isSymmetric 32 = .ok (.ireturn, 1) := dk_172 (dk_at dksX4_isSymmetric_1 8 rfl rfl)
abbrev cX4_isMirrored : ByteArray := prog_23_method_141_code
def yX4_isMirrored : MethodName := ⟨RX4, "isMirrored", "(I)Z"⟩
def dkwX4_isMirrored_2 : List UInt8 := [167, 255, 212, 4, 172]
abbrev dktX4_isMirrored_2 : List UInt8 := dkwX4_isMirrored_2 ++ []
def dkwX4_isMirrored_1 : List UInt8 := [182, 1, 83, 42, 27, 29, 28, 182, 1, 83, 159, 0, 5, 3, 172, 132, 3, 1, 167, 255, 229, 132, 2, 1]
abbrev dktX4_isMirrored_1 : List UInt8 := dkwX4_isMirrored_1 ++ dktX4_isMirrored_2
def dkwX4_isMirrored_0 : List UInt8 := [3, 61, 28, 42, 27, 182, 1, 60, 162, 0, 41, 3, 62, 29, 28, 162, 0, 28, 42, 27, 28, 29]
abbrev dktX4_isMirrored_0 : List UInt8 := dkwX4_isMirrored_0 ++ dktX4_isMirrored_1
theorem dksX4_isMirrored_0 : cX4_isMirrored.data.toList.drop 0 = dktX4_isMirrored_0 := by decide +kernel
theorem dksX4_isMirrored_1 : cX4_isMirrored.data.toList.drop 22 = dktX4_isMirrored_1 := dk_seg dksX4_isMirrored_0 22 rfl rfl
theorem dksX4_isMirrored_2 : cX4_isMirrored.data.toList.drop 46 = dktX4_isMirrored_2 := dk_seg dksX4_isMirrored_1 24 rfl rfl
theorem dX4_isMirrored_0 : decode cX4_isMirrored 0 = .ok (.iconst 0, 1) := dk_3 (dk_at dksX4_isMirrored_0 0 rfl rfl)
theorem dX4_isMirrored_1 : decode cX4_isMirrored 1 = .ok (.istore_n 2, 1) := dk_61 (dk_at dksX4_isMirrored_0 1 rfl rfl)
theorem dX4_isMirrored_2 : decode cX4_isMirrored 2 = .ok (.iload_n 2, 1) := dk_28 (dk_at dksX4_isMirrored_0 2 rfl rfl)
theorem dX4_isMirrored_3 : decode cX4_isMirrored 3 = .ok (.aload_n 0, 1) := dk_42 (dk_at dksX4_isMirrored_0 3 rfl rfl)
theorem dX4_isMirrored_4 : decode cX4_isMirrored 4 = .ok (.iload_n 1, 1) := dk_27 (dk_at dksX4_isMirrored_0 4 rfl rfl)
theorem dX4_isMirrored_5 : decode cX4_isMirrored 5 = .ok (.invokevirtual 316, 3) := dk_182 1 60 (dk_at dksX4_isMirrored_0 5 rfl rfl)
theorem dX4_isMirrored_8 : decode cX4_isMirrored 8 = .ok (.if_icmp .ge 41, 3) := dk_162 0 41 (dk_at dksX4_isMirrored_0 8 rfl rfl)
theorem dX4_isMirrored_11 : decode cX4_isMirrored 11 = .ok (.iconst 0, 1) := dk_3 (dk_at dksX4_isMirrored_0 11 rfl rfl)
theorem dX4_isMirrored_12 : decode cX4_isMirrored 12 = .ok (.istore_n 3, 1) := dk_62 (dk_at dksX4_isMirrored_0 12 rfl rfl)
theorem dX4_isMirrored_13 : decode cX4_isMirrored 13 = .ok (.iload_n 3, 1) := dk_29 (dk_at dksX4_isMirrored_0 13 rfl rfl)
theorem dX4_isMirrored_14 : decode cX4_isMirrored 14 = .ok (.iload_n 2, 1) := dk_28 (dk_at dksX4_isMirrored_0 14 rfl rfl)
theorem dX4_isMirrored_15 : decode cX4_isMirrored 15 = .ok (.if_icmp .ge 28, 3) := dk_162 0 28 (dk_at dksX4_isMirrored_0 15 rfl rfl)
theorem dX4_isMirrored_18 : decode cX4_isMirrored 18 = .ok (.aload_n 0, 1) := dk_42 (dk_at dksX4_isMirrored_0 18 rfl rfl)
theorem dX4_isMirrored_19 : decode cX4_isMirrored 19 = .ok (.iload_n 1, 1) := dk_27 (dk_at dksX4_isMirrored_0 19 rfl rfl)
theorem dX4_isMirrored_20 : decode cX4_isMirrored 20 = .ok (.iload_n 2, 1) := dk_28 (dk_at dksX4_isMirrored_0 20 rfl rfl)
theorem dX4_isMirrored_21 : decode cX4_isMirrored 21 = .ok (.iload_n 3, 1) := dk_29 (dk_at dksX4_isMirrored_0 21 rfl rfl)
theorem dX4_isMirrored_22 : decode cX4_isMirrored 22 = .ok (.invokevirtual 339, 3) := dk_182 1 83 (dk_at dksX4_isMirrored_1 0 rfl rfl)
theorem dX4_isMirrored_25 : decode cX4_isMirrored 25 = .ok (.aload_n 0, 1) := dk_42 (dk_at dksX4_isMirrored_1 3 rfl rfl)
theorem dX4_isMirrored_26 : decode cX4_isMirrored 26 = .ok (.iload_n 1, 1) := dk_27 (dk_at dksX4_isMirrored_1 4 rfl rfl)
theorem dX4_isMirrored_27 : decode cX4_isMirrored 27 = .ok (.iload_n 3, 1) := dk_29 (dk_at dksX4_isMirrored_1 5 rfl rfl)
theorem dX4_isMirrored_28 : decode cX4_isMirrored 28 = .ok (.iload_n 2, 1) := dk_28 (dk_at dksX4_isMirrored_1 6 rfl rfl)
theorem dX4_isMirrored_29 : decode cX4_isMirrored 29 = .ok (.invokevirtual 339, 3) := dk_182 1 83 (dk_at dksX4_isMirrored_1 7 rfl rfl)
theorem dX4_isMirrored_32 : decode cX4_isMirrored 32 = .ok (.if_icmp .eq 5, 3) := dk_159 0 5 (dk_at dksX4_isMirrored_1 10 rfl rfl)
theorem dX4_isMirrored_35 : decode cX4_isMirrored 35 = .ok (.iconst 0, 1) := dk_3 (dk_at dksX4_isMirrored_1 13 rfl rfl)
theorem dX4_isMirrored_36 : decode cX4_isMirrored 36 = .ok (.ireturn, 1) := dk_172 (dk_at dksX4_isMirrored_1 14 rfl rfl)
theorem dX4_isMirrored_37 : decode cX4_isMirrored 37 = .ok (.iinc 3 1, 3) := dk_132 3 1 (dk_at dksX4_isMirrored_1 15 rfl rfl)
theorem dX4_isMirrored_40 : decode cX4_isMirrored 40 = .ok (.goto (-27), 3) := dk_167 255 229 (dk_at dksX4_isMirrored_1 18 rfl rfl)
theorem dX4_isMirrored_43 : decode cX4_isMirrored 43 = .ok (.iinc 2 1, 3) := dk_132 2 1 (dk_at dksX4_isMirrored_1 21 rfl rfl)
theorem dX4_isMirrored_46 : decode cX4_isMirrored 46 = .ok (.goto (-44), 3) := dk_167 255 212 (dk_at dksX4_isMirrored_2 0 rfl rfl)
theorem dX4_isMirrored_49 : decode cX4_isMirrored 49 = .ok (.iconst 1, 1) := dk_4 (dk_at dksX4_isMirrored_2 3 rfl rfl)
theorem dX4_isMirrored_50 : decode cX4_isMirrored 50 = .ok (.ireturn, 1) := dk_172 (dk_at dksX4_isMirrored_2 4 rfl rfl)
abbrev cX4_haveSameValues : ByteArray := prog_23_method_144_code
def yX4_haveSameValues : MethodName := ⟨RX4, "haveSameValues", "(II)Z"⟩
def dkwX4_haveSameValues_1 : List UInt8 := [153, 0, 19, 42, 27, 28, 17, 0, 146, 182, 1, 251, 153, 0, 7, 4, 167, 0, 4, 3, 172]
abbrev dktX4_haveSameValues_1 : List UInt8 := dkwX4_haveSameValues_1 ++ []
def dkwX4_haveSameValues_0 : List UInt8 := [42, 27, 184, 1, 57, 153, 0, 14, 28, 184, 1, 57, 153, 0, 7, 4, 167, 0, 4, 3, 182, 0, 87]
abbrev dktX4_haveSameValues_0 : List UInt8 := dkwX4_haveSameValues_0 ++ dktX4_haveSameValues_1
theorem dksX4_haveSameValues_0 : cX4_haveSameValues.data.toList.drop 0 = dktX4_haveSameValues_0 := by decide +kernel
theorem dksX4_haveSameValues_1 : cX4_haveSameValues.data.toList.drop 23 = dktX4_haveSameValues_1 := dk_seg dksX4_haveSameValues_0 23 rfl rfl
theorem dX4_haveSameValues_0 : decode cX4_haveSameValues 0 = .ok (.aload_n 0, 1) := dk_42 (dk_at dksX4_haveSameValues_0 0 rfl rfl)
theorem dX4_haveSameValues_1 : decode cX4_haveSameValues 1 = .ok (.iload_n 1, 1) := dk_27 (dk_at dksX4_haveSameValues_0 1 rfl rfl)
theorem dX4_haveSameValues_2 : decode cX4_haveSameValues 2 = .ok (.invokestatic 313, 3) := dk_184 1 57 (dk_at dksX4_haveSameValues_0 2 rfl rfl)
theorem dX4_haveSameValues_5 : decode cX4_haveSameValues 5 = .ok (.ifCond .eq 14, 3) := dk_153 0 14 (dk_at dksX4_haveSameValues_0 5 rfl rfl)
theorem dX4_haveSameValues_8 : decode cX4_haveSameValues 8 = .ok (.iload_n 2, 1) := dk_28 (dk_at dksX4_haveSameValues_0 8 rfl rfl)
theorem dX4_haveSameValues_9 : decode cX4_haveSameValues 9 = .ok (.invokestatic 313, 3) := dk_184 1 57 (dk_at dksX4_haveSameValues_0 9 rfl rfl)
theorem dX4_haveSameValues_12 : decode cX4_haveSameValues 12 = .ok (.ifCond .eq 7, 3) := dk_153 0 7 (dk_at dksX4_haveSameValues_0 12 rfl rfl)
theorem dX4_haveSameValues_15 : decode cX4_haveSameValues 15 = .ok (.iconst 1, 1) := dk_4 (dk_at dksX4_haveSameValues_0 15 rfl rfl)
theorem dX4_haveSameValues_16 : decode cX4_haveSameValues 16 = .ok (.goto 4, 3) := dk_167 0 4 (dk_at dksX4_haveSameValues_0 16 rfl rfl)
theorem dX4_haveSameValues_19 : decode cX4_haveSameValues 19 = .ok (.iconst 0, 1) := dk_3 (dk_at dksX4_haveSameValues_0 19 rfl rfl)
theorem dX4_haveSameValues_20 : decode cX4_haveSameValues 20 = .ok (.invokevirtual 87, 3) := dk_182 0 87 (dk_at dksX4_haveSameValues_0 20 rfl rfl)
theorem dX4_haveSameValues_23 : decode cX4_haveSameValues 23 = .ok (.ifCond .eq 19, 3) := dk_153 0 19 (dk_at dksX4_haveSameValues_1 0 rfl rfl)
theorem dX4_haveSameValues_26 : decode cX4_haveSameValues 26 = .ok (.aload_n 0, 1) := dk_42 (dk_at dksX4_haveSameValues_1 3 rfl rfl)
theorem dX4_haveSameValues_27 : decode cX4_haveSameValues 27 = .ok (.iload_n 1, 1) := dk_27 (dk_at dksX4_haveSameValues_1 4 rfl rfl)
theorem dX4_haveSameValues_28 : decode cX4_haveSameValues 28 = .ok (.iload_n 2, 1) := dk_28 (dk_at dksX4_haveSameValues_1 5 rfl rfl)
theorem dX4_haveSameValues_29 : decode cX4_haveSameValues 29 = .ok (.sipush 146, 3) := dk_17 0 146 (dk_at dksX4_haveSameValues_1 6 rfl rfl)
theorem dX4_haveSameValues_32 : decode cX4_haveSameValues 32 = .ok (.invokevirtual 507, 3) := dk_182 1 251 (dk_at dksX4_haveSameValues_1 9 rfl rfl)
theorem dX4_haveSameValues_35 : decode cX4_haveSameValues 35 = .ok (.ifCond .eq 7, 3) := dk_153 0 7 (dk_at dksX4_haveSameValues_1 12 rfl rfl)
theorem dX4_haveSameValues_38 : decode cX4_haveSameValues 38 = .ok (.iconst 1, 1) := dk_4 (dk_at dksX4_haveSameValues_1 15 rfl rfl)
theorem dX4_haveSameValues_39 : decode cX4_haveSameValues 39 = .ok (.goto 4, 3) := dk_167 0 4 (dk_at dksX4_haveSameValues_1 16 rfl rfl)
theorem dX4_haveSameValues_42 : decode cX4_haveSameValues 42 = .ok (.iconst 0, 1) := dk_3 (dk_at dksX4_haveSameValues_1 19 rfl rfl)
theorem dX4_haveSameValues_43 : decode cX4_haveSameValues 43 = .ok (.ireturn, 1) := dk_172 (dk_at dksX4_haveSameValues_1 20 rfl rfl)
abbrev cX4_areSame : ByteArray := prog_23_method_143_code
def yX4_areSame : MethodName := ⟨RX4, "areSame", "(III)Z"⟩
def dkwX4_areSame_3 : List UInt8 := [159, 0, 5, 3, 172, 132, 4, 1, 167, 255, 210, 4, 172]
abbrev dktX4_areSame_3 : List UInt8 := dkwX4_areSame_3 ++ []
def dkwX4_areSame_2 : List UInt8 := [104, 29, 96, 21, 4, 96, 46, 42, 180, 0, 20, 17, 1, 34, 28, 104, 29, 96, 21, 4, 96, 46]
abbrev dktX4_areSame_2 : List UInt8 := dkwX4_areSame_2 ++ dktX4_areSame_3
def dkwX4_areSame_1 : List UInt8 := [159, 0, 5, 3, 172, 3, 54, 4, 21, 4, 17, 0, 144, 162, 0, 44, 42, 180, 0, 20, 17, 1, 34, 27]
abbrev dktX4_areSame_1 : List UInt8 := dkwX4_areSame_1 ++ dktX4_areSame_2
def dkwX4_areSame_0 : List UInt8 := [42, 27, 182, 1, 60, 42, 28, 182, 1, 60, 160, 0, 16, 42, 27, 182, 1, 66, 42, 28, 182, 1, 66]
abbrev dktX4_areSame_0 : List UInt8 := dkwX4_areSame_0 ++ dktX4_areSame_1
theorem dksX4_areSame_0 : cX4_areSame.data.toList.drop 0 = dktX4_areSame_0 := by decide +kernel
theorem dksX4_areSame_1 : cX4_areSame.data.toList.drop 23 = dktX4_areSame_1 := dk_seg dksX4_areSame_0 23 rfl rfl
theorem dksX4_areSame_2 : cX4_areSame.data.toList.drop 47 = dktX4_areSame_2 := dk_seg dksX4_areSame_1 24 rfl rfl
theorem dksX4_areSame_3 : cX4_areSame.data.toList.drop 69 = dktX4_areSame_3 := dk_seg dksX4_areSame_2 22 rfl rfl
theorem dX4_areSame_0 : decode cX4_areSame 0 = .ok (.aload_n 0, 1) := dk_42 (dk_at dksX4_areSame_0 0 rfl rfl)
theorem dX4_areSame_1 : decode cX4_areSame 1 = .ok (.iload_n 1, 1) := dk_27 (dk_at dksX4_areSame_0 1 rfl rfl)
theorem dX4_areSame_2 : decode cX4_areSame 2 = .ok (.invokevirtual 316, 3) := dk_182 1 60 (dk_at dksX4_areSame_0 2 rfl rfl)
theorem dX4_areSame_5 : decode cX4_areSame 5 = .ok (.aload_n 0, 1) := dk_42 (dk_at dksX4_areSame_0 5 rfl rfl)
theorem dX4_areSame_6 : decode cX4_areSame 6 = .ok (.iload_n 2, 1) := dk_28 (dk_at dksX4_areSame_0 6 rfl rfl)
theorem dX4_areSame_7 : decode cX4_areSame 7 = .ok (.invokevirtual 316, 3) := dk_182 1 60 (dk_at dksX4_areSame_0 7 rfl rfl)
theorem dX4_areSame_10 : decode cX4_areSame 10 = .ok (.if_icmp .ne 16, 3) := dk_160 0 16 (dk_at dksX4_areSame_0 10 rfl rfl)
theorem dX4_areSame_13 : decode cX4_areSame 13 = .ok (.aload_n 0, 1) := dk_42 (dk_at dksX4_areSame_0 13 rfl rfl)
theorem dX4_areSame_14 : decode cX4_areSame 14 = .ok (.iload_n 1, 1) := dk_27 (dk_at dksX4_areSame_0 14 rfl rfl)
theorem dX4_areSame_15 : decode cX4_areSame 15 = .ok (.invokevirtual 322, 3) := dk_182 1 66 (dk_at dksX4_areSame_0 15 rfl rfl)
theorem dX4_areSame_18 : decode cX4_areSame 18 = .ok (.aload_n 0, 1) := dk_42 (dk_at dksX4_areSame_0 18 rfl rfl)
theorem dX4_areSame_19 : decode cX4_areSame 19 = .ok (.iload_n 2, 1) := dk_28 (dk_at dksX4_areSame_0 19 rfl rfl)
theorem dX4_areSame_20 : decode cX4_areSame 20 = .ok (.invokevirtual 322, 3) := dk_182 1 66 (dk_at dksX4_areSame_0 20 rfl rfl)
theorem dX4_areSame_23 : decode cX4_areSame 23 = .ok (.if_icmp .eq 5, 3) := dk_159 0 5 (dk_at dksX4_areSame_1 0 rfl rfl)
theorem dX4_areSame_26 : decode cX4_areSame 26 = .ok (.iconst 0, 1) := dk_3 (dk_at dksX4_areSame_1 3 rfl rfl)
theorem dX4_areSame_27 : decode cX4_areSame 27 = .ok (.ireturn, 1) := dk_172 (dk_at dksX4_areSame_1 4 rfl rfl)
theorem dX4_areSame_28 : decode cX4_areSame 28 = .ok (.iconst 0, 1) := dk_3 (dk_at dksX4_areSame_1 5 rfl rfl)
theorem dX4_areSame_29 : decode cX4_areSame 29 = .ok (.istore 4, 2) := dk_54 4 (dk_at dksX4_areSame_1 6 rfl rfl)
theorem dX4_areSame_31 : decode cX4_areSame 31 = .ok (.iload 4, 2) := dk_21 4 (dk_at dksX4_areSame_1 8 rfl rfl)
theorem dX4_areSame_33 : decode cX4_areSame 33 = .ok (.sipush 144, 3) := dk_17 0 144 (dk_at dksX4_areSame_1 10 rfl rfl)
theorem dX4_areSame_36 : decode cX4_areSame 36 = .ok (.if_icmp .ge 44, 3) := dk_162 0 44 (dk_at dksX4_areSame_1 13 rfl rfl)
theorem dX4_areSame_39 : decode cX4_areSame 39 = .ok (.aload_n 0, 1) := dk_42 (dk_at dksX4_areSame_1 16 rfl rfl)
theorem dX4_areSame_40 : decode cX4_areSame 40 = .ok (.getfield 20, 3) := dk_180 0 20 (dk_at dksX4_areSame_1 17 rfl rfl)
theorem dX4_areSame_43 : decode cX4_areSame 43 = .ok (.sipush 290, 3) := dk_17 1 34 (dk_at dksX4_areSame_1 20 rfl rfl)
theorem dX4_areSame_46 : decode cX4_areSame 46 = .ok (.iload_n 1, 1) := dk_27 (dk_at dksX4_areSame_1 23 rfl rfl)
theorem dX4_areSame_47 : decode cX4_areSame 47 = .ok (.imul, 1) := dk_104 (dk_at dksX4_areSame_2 0 rfl rfl)
theorem dX4_areSame_48 : decode cX4_areSame 48 = .ok (.iload_n 3, 1) := dk_29 (dk_at dksX4_areSame_2 1 rfl rfl)
theorem dX4_areSame_49 : decode cX4_areSame 49 = .ok (.iadd, 1) := dk_96 (dk_at dksX4_areSame_2 2 rfl rfl)
theorem dX4_areSame_50 : decode cX4_areSame 50 = .ok (.iload 4, 2) := dk_21 4 (dk_at dksX4_areSame_2 3 rfl rfl)
theorem dX4_areSame_52 : decode cX4_areSame 52 = .ok (.iadd, 1) := dk_96 (dk_at dksX4_areSame_2 5 rfl rfl)
theorem dX4_areSame_53 : decode cX4_areSame 53 = .ok (.iaload, 1) := dk_46 (dk_at dksX4_areSame_2 6 rfl rfl)
theorem dX4_areSame_54 : decode cX4_areSame 54 = .ok (.aload_n 0, 1) := dk_42 (dk_at dksX4_areSame_2 7 rfl rfl)
theorem dX4_areSame_55 : decode cX4_areSame 55 = .ok (.getfield 20, 3) := dk_180 0 20 (dk_at dksX4_areSame_2 8 rfl rfl)
theorem dX4_areSame_58 : decode cX4_areSame 58 = .ok (.sipush 290, 3) := dk_17 1 34 (dk_at dksX4_areSame_2 11 rfl rfl)
theorem dX4_areSame_61 : decode cX4_areSame 61 = .ok (.iload_n 2, 1) := dk_28 (dk_at dksX4_areSame_2 14 rfl rfl)
theorem dX4_areSame_62 : decode cX4_areSame 62 = .ok (.imul, 1) := dk_104 (dk_at dksX4_areSame_2 15 rfl rfl)
theorem dX4_areSame_63 : decode cX4_areSame 63 = .ok (.iload_n 3, 1) := dk_29 (dk_at dksX4_areSame_2 16 rfl rfl)
theorem dX4_areSame_64 : decode cX4_areSame 64 = .ok (.iadd, 1) := dk_96 (dk_at dksX4_areSame_2 17 rfl rfl)
theorem dX4_areSame_65 : decode cX4_areSame 65 = .ok (.iload 4, 2) := dk_21 4 (dk_at dksX4_areSame_2 18 rfl rfl)
theorem dX4_areSame_67 : decode cX4_areSame 67 = .ok (.iadd, 1) := dk_96 (dk_at dksX4_areSame_2 20 rfl rfl)
theorem dX4_areSame_68 : decode cX4_areSame 68 = .ok (.iaload, 1) := dk_46 (dk_at dksX4_areSame_2 21 rfl rfl)
theorem dX4_areSame_69 : decode cX4_areSame 69 = .ok (.if_icmp .eq 5, 3) := dk_159 0 5 (dk_at dksX4_areSame_3 0 rfl rfl)
theorem dX4_areSame_72 : decode cX4_areSame 72 = .ok (.iconst 0, 1) := dk_3 (dk_at dksX4_areSame_3 3 rfl rfl)
theorem dX4_areSame_73 : decode cX4_areSame 73 = .ok (.ireturn, 1) := dk_172 (dk_at dksX4_areSame_3 4 rfl rfl)
theorem dX4_areSame_74 : decode cX4_areSame 74 = .ok (.iinc 4 1, 3) := dk_132 4 1 (dk_at dksX4_areSame_3 5 rfl rfl)
theorem dX4_areSame_77 : decode cX4_areSame 77 = .ok (.goto (-46), 3) := dk_167 255 210 (dk_at dksX4_areSame_3 8 rfl rfl)
theorem dX4_areSame_80 : decode cX4_areSame 80 = .ok (.iconst 1, 1) := dk_4 (dk_at dksX4_areSame_3 11 rfl rfl)
theorem dX4_areSame_81 : decode cX4_areSame 81 = .ok (.ireturn, 1) := dk_172 (dk_at dksX4_areSame_3 12 rfl rfl)
abbrev cX4_haveSameStructure : ByteArray := prog_23_method_145_code
def yX4_haveSameStructure : MethodName := ⟨RX4, "haveSameStructure", "(II)Z"⟩
def dkwX4_haveSameStructure_1 : List UInt8 := [153, 0, 17, 42, 27, 28, 5, 182, 1, 251, 153, 0, 7, 4, 167, 0, 4, 3, 172]
abbrev dktX4_haveSameStructure_1 : List UInt8 := dkwX4_haveSameStructure_1 ++ []
def dkwX4_haveSameStructure_0 : List UInt8 := [42, 27, 184, 1, 57, 153, 0, 14, 28, 184, 1, 57, 153, 0, 7, 4, 167, 0, 4, 3, 182, 0, 87]
abbrev dktX4_haveSameStructure_0 : List UInt8 := dkwX4_haveSameStructure_0 ++ dktX4_haveSameStructure_1
theorem dksX4_haveSameStructure_0 : cX4_haveSameStructure.data.toList.drop 0 = dktX4_haveSameStructure_0 := by decide +kernel
theorem dksX4_haveSameStructure_1 : cX4_haveSameStructure.data.toList.drop 23 = dktX4_haveSameStructure_1 := dk_seg dksX4_haveSameStructure_0 23 rfl rfl
theorem dX4_haveSameStructure_0 : decode cX4_haveSameStructure 0 = .ok (.aload_n 0, 1) := dk_42 (dk_at dksX4_haveSameStructure_0 0 rfl rfl)
theorem dX4_haveSameStructure_1 : decode cX4_haveSameStructure 1 = .ok (.iload_n 1, 1) := dk_27 (dk_at dksX4_haveSameStructure_0 1 rfl rfl)
theorem dX4_haveSameStructure_2 : decode cX4_haveSameStructure 2 = .ok (.invokestatic 313, 3) := dk_184 1 57 (dk_at dksX4_haveSameStructure_0 2 rfl rfl)
theorem dX4_haveSameStructure_5 : decode cX4_haveSameStructure 5 = .ok (.ifCond .eq 14, 3) := dk_153 0 14 (dk_at dksX4_haveSameStructure_0 5 rfl rfl)
theorem dX4_haveSameStructure_8 : decode cX4_haveSameStructure 8 = .ok (.iload_n 2, 1) := dk_28 (dk_at dksX4_haveSameStructure_0 8 rfl rfl)
theorem dX4_haveSameStructure_9 : decode cX4_haveSameStructure 9 = .ok (.invokestatic 313, 3) := dk_184 1 57 (dk_at dksX4_haveSameStructure_0 9 rfl rfl)
theorem dX4_haveSameStructure_12 : decode cX4_haveSameStructure 12 = .ok (.ifCond .eq 7, 3) := dk_153 0 7 (dk_at dksX4_haveSameStructure_0 12 rfl rfl)
theorem dX4_haveSameStructure_15 : decode cX4_haveSameStructure 15 = .ok (.iconst 1, 1) := dk_4 (dk_at dksX4_haveSameStructure_0 15 rfl rfl)
theorem dX4_haveSameStructure_16 : decode cX4_haveSameStructure 16 = .ok (.goto 4, 3) := dk_167 0 4 (dk_at dksX4_haveSameStructure_0 16 rfl rfl)
theorem dX4_haveSameStructure_19 : decode cX4_haveSameStructure 19 = .ok (.iconst 0, 1) := dk_3 (dk_at dksX4_haveSameStructure_0 19 rfl rfl)
theorem dX4_haveSameStructure_20 : decode cX4_haveSameStructure 20 = .ok (.invokevirtual 87, 3) := dk_182 0 87 (dk_at dksX4_haveSameStructure_0 20 rfl rfl)
theorem dX4_haveSameStructure_23 : decode cX4_haveSameStructure 23 = .ok (.ifCond .eq 17, 3) := dk_153 0 17 (dk_at dksX4_haveSameStructure_1 0 rfl rfl)
theorem dX4_haveSameStructure_26 : decode cX4_haveSameStructure 26 = .ok (.aload_n 0, 1) := dk_42 (dk_at dksX4_haveSameStructure_1 3 rfl rfl)
theorem dX4_haveSameStructure_27 : decode cX4_haveSameStructure 27 = .ok (.iload_n 1, 1) := dk_27 (dk_at dksX4_haveSameStructure_1 4 rfl rfl)
theorem dX4_haveSameStructure_28 : decode cX4_haveSameStructure 28 = .ok (.iload_n 2, 1) := dk_28 (dk_at dksX4_haveSameStructure_1 5 rfl rfl)
theorem dX4_haveSameStructure_29 : decode cX4_haveSameStructure 29 = .ok (.iconst 2, 1) := dk_5 (dk_at dksX4_haveSameStructure_1 6 rfl rfl)
theorem dX4_haveSameStructure_30 : decode cX4_haveSameStructure 30 = .ok (.invokevirtual 507, 3) := dk_182 1 251 (dk_at dksX4_haveSameStructure_1 7 rfl rfl)
theorem dX4_haveSameStructure_33 : decode cX4_haveSameStructure 33 = .ok (.ifCond .eq 7, 3) := dk_153 0 7 (dk_at dksX4_haveSameStructure_1 10 rfl rfl)
theorem dX4_haveSameStructure_36 : decode cX4_haveSameStructure 36 = .ok (.iconst 1, 1) := dk_4 (dk_at dksX4_haveSameStructure_1 13 rfl rfl)
theorem dX4_haveSameStructure_37 : decode cX4_haveSameStructure 37 = .ok (.goto 4, 3) := dk_167 0 4 (dk_at dksX4_haveSameStructure_1 14 rfl rfl)
theorem dX4_haveSameStructure_40 : decode cX4_haveSameStructure 40 = .ok (.iconst 0, 1) := dk_3 (dk_at dksX4_haveSameStructure_1 17 rfl rfl)
theorem dX4_haveSameStructure_41 : decode cX4_haveSameStructure 41 = .ok (.ireturn, 1) := dk_172 (dk_at dksX4_haveSameStructure_1 18 rfl rfl)
abbrev cX4_sumObstacle : ByteArray := prog_23_method_147_code
def yX4_sumObstacle : MethodName := ⟨RX4, "sumObstacle", "(II)I"⟩
def dkwX4_sumObstacle_2 : List UInt8 := [27, 28, 182, 1, 148, 153, 0, 7, 3, 167, 0, 4, 6, 172]
abbrev dktX4_sumObstacle_2 : List UInt8 := dkwX4_sumObstacle_2 ++ []
def dkwX4_sumObstacle_1 : List UInt8 := [182, 1, 60, 159, 0, 5, 4, 172, 42, 27, 182, 1, 66, 42, 28, 182, 1, 66, 159, 0, 5, 5, 172, 42]
abbrev dktX4_sumObstacle_1 : List UInt8 := dkwX4_sumObstacle_1 ++ dktX4_sumObstacle_2
def dkwX4_sumObstacle_0 : List UInt8 := [42, 42, 27, 28, 182, 1, 254, 182, 0, 87, 154, 0, 5, 3, 172, 42, 27, 182, 1, 60, 42, 28]
abbrev dktX4_sumObstacle_0 : List UInt8 := dkwX4_sumObstacle_0 ++ dktX4_sumObstacle_1
theorem dksX4_sumObstacle_0 : cX4_sumObstacle.data.toList.drop 0 = dktX4_sumObstacle_0 := by decide +kernel
theorem dksX4_sumObstacle_1 : cX4_sumObstacle.data.toList.drop 22 = dktX4_sumObstacle_1 := dk_seg dksX4_sumObstacle_0 22 rfl rfl
theorem dksX4_sumObstacle_2 : cX4_sumObstacle.data.toList.drop 46 = dktX4_sumObstacle_2 := dk_seg dksX4_sumObstacle_1 24 rfl rfl
theorem dX4_sumObstacle_0 : decode cX4_sumObstacle 0 = .ok (.aload_n 0, 1) := dk_42 (dk_at dksX4_sumObstacle_0 0 rfl rfl)
theorem dX4_sumObstacle_1 : decode cX4_sumObstacle 1 = .ok (.aload_n 0, 1) := dk_42 (dk_at dksX4_sumObstacle_0 1 rfl rfl)
theorem dX4_sumObstacle_2 : decode cX4_sumObstacle 2 = .ok (.iload_n 1, 1) := dk_27 (dk_at dksX4_sumObstacle_0 2 rfl rfl)
theorem dX4_sumObstacle_3 : decode cX4_sumObstacle 3 = .ok (.iload_n 2, 1) := dk_28 (dk_at dksX4_sumObstacle_0 3 rfl rfl)
theorem dX4_sumObstacle_4 : decode cX4_sumObstacle 4 = .ok (.invokevirtual 510, 3) := dk_182 1 254 (dk_at dksX4_sumObstacle_0 4 rfl rfl)
theorem dX4_sumObstacle_7 : decode cX4_sumObstacle 7 = .ok (.invokevirtual 87, 3) := dk_182 0 87 (dk_at dksX4_sumObstacle_0 7 rfl rfl)
theorem dX4_sumObstacle_10 : decode cX4_sumObstacle 10 = .ok (.ifCond .ne 5, 3) := dk_154 0 5 (dk_at dksX4_sumObstacle_0 10 rfl rfl)
theorem dX4_sumObstacle_13 : decode cX4_sumObstacle 13 = .ok (.iconst 0, 1) := dk_3 (dk_at dksX4_sumObstacle_0 13 rfl rfl)
theorem dX4_sumObstacle_14 : decode cX4_sumObstacle 14 = .ok (.ireturn, 1) := dk_172 (dk_at dksX4_sumObstacle_0 14 rfl rfl)
theorem dX4_sumObstacle_15 : decode cX4_sumObstacle 15 = .ok (.aload_n 0, 1) := dk_42 (dk_at dksX4_sumObstacle_0 15 rfl rfl)
theorem dX4_sumObstacle_16 : decode cX4_sumObstacle 16 = .ok (.iload_n 1, 1) := dk_27 (dk_at dksX4_sumObstacle_0 16 rfl rfl)
theorem dX4_sumObstacle_17 : decode cX4_sumObstacle 17 = .ok (.invokevirtual 316, 3) := dk_182 1 60 (dk_at dksX4_sumObstacle_0 17 rfl rfl)
theorem dX4_sumObstacle_20 : decode cX4_sumObstacle 20 = .ok (.aload_n 0, 1) := dk_42 (dk_at dksX4_sumObstacle_0 20 rfl rfl)
theorem dX4_sumObstacle_21 : decode cX4_sumObstacle 21 = .ok (.iload_n 2, 1) := dk_28 (dk_at dksX4_sumObstacle_0 21 rfl rfl)
theorem dX4_sumObstacle_22 : decode cX4_sumObstacle 22 = .ok (.invokevirtual 316, 3) := dk_182 1 60 (dk_at dksX4_sumObstacle_1 0 rfl rfl)
theorem dX4_sumObstacle_25 : decode cX4_sumObstacle 25 = .ok (.if_icmp .eq 5, 3) := dk_159 0 5 (dk_at dksX4_sumObstacle_1 3 rfl rfl)
theorem dX4_sumObstacle_28 : decode cX4_sumObstacle 28 = .ok (.iconst 1, 1) := dk_4 (dk_at dksX4_sumObstacle_1 6 rfl rfl)
theorem dX4_sumObstacle_29 : decode cX4_sumObstacle 29 = .ok (.ireturn, 1) := dk_172 (dk_at dksX4_sumObstacle_1 7 rfl rfl)
theorem dX4_sumObstacle_30 : decode cX4_sumObstacle 30 = .ok (.aload_n 0, 1) := dk_42 (dk_at dksX4_sumObstacle_1 8 rfl rfl)
theorem dX4_sumObstacle_31 : decode cX4_sumObstacle 31 = .ok (.iload_n 1, 1) := dk_27 (dk_at dksX4_sumObstacle_1 9 rfl rfl)
theorem dX4_sumObstacle_32 : decode cX4_sumObstacle 32 = .ok (.invokevirtual 322, 3) := dk_182 1 66 (dk_at dksX4_sumObstacle_1 10 rfl rfl)
theorem dX4_sumObstacle_35 : decode cX4_sumObstacle 35 = .ok (.aload_n 0, 1) := dk_42 (dk_at dksX4_sumObstacle_1 13 rfl rfl)
theorem dX4_sumObstacle_36 : decode cX4_sumObstacle 36 = .ok (.iload_n 2, 1) := dk_28 (dk_at dksX4_sumObstacle_1 14 rfl rfl)
theorem dX4_sumObstacle_37 : decode cX4_sumObstacle 37 = .ok (.invokevirtual 322, 3) := dk_182 1 66 (dk_at dksX4_sumObstacle_1 15 rfl rfl)
theorem dX4_sumObstacle_40 : decode cX4_sumObstacle 40 = .ok (.if_icmp .eq 5, 3) := dk_159 0 5 (dk_at dksX4_sumObstacle_1 18 rfl rfl)
theorem dX4_sumObstacle_43 : decode cX4_sumObstacle 43 = .ok (.iconst 2, 1) := dk_5 (dk_at dksX4_sumObstacle_1 21 rfl rfl)
theorem dX4_sumObstacle_44 : decode cX4_sumObstacle 44 = .ok (.ireturn, 1) := dk_172 (dk_at dksX4_sumObstacle_1 22 rfl rfl)
theorem dX4_sumObstacle_45 : decode cX4_sumObstacle 45 = .ok (.aload_n 0, 1) := dk_42 (dk_at dksX4_sumObstacle_1 23 rfl rfl)
theorem dX4_sumObstacle_46 : decode cX4_sumObstacle 46 = .ok (.iload_n 1, 1) := dk_27 (dk_at dksX4_sumObstacle_2 0 rfl rfl)
theorem dX4_sumObstacle_47 : decode cX4_sumObstacle 47 = .ok (.iload_n 2, 1) := dk_28 (dk_at dksX4_sumObstacle_2 1 rfl rfl)
theorem dX4_sumObstacle_48 : decode cX4_sumObstacle 48 = .ok (.invokevirtual 404, 3) := dk_182 1 148 (dk_at dksX4_sumObstacle_2 2 rfl rfl)
theorem dX4_sumObstacle_51 : decode cX4_sumObstacle 51 = .ok (.ifCond .eq 7, 3) := dk_153 0 7 (dk_at dksX4_sumObstacle_2 5 rfl rfl)
theorem dX4_sumObstacle_54 : decode cX4_sumObstacle 54 = .ok (.iconst 0, 1) := dk_3 (dk_at dksX4_sumObstacle_2 8 rfl rfl)
theorem dX4_sumObstacle_55 : decode cX4_sumObstacle 55 = .ok (.goto 4, 3) := dk_167 0 4 (dk_at dksX4_sumObstacle_2 9 rfl rfl)
theorem dX4_sumObstacle_58 : decode cX4_sumObstacle 58 = .ok (.iconst 3, 1) := dk_6 (dk_at dksX4_sumObstacle_2 12 rfl rfl)
theorem dX4_sumObstacle_59 : decode cX4_sumObstacle 59 = .ok (.ireturn, 1) := dk_172 (dk_at dksX4_sumObstacle_2 13 rfl rfl)
abbrev cX4_areTwo : ByteArray := prog_23_method_146_code
def yX4_areTwo : MethodName := ⟨RX4, "areTwo", "(II)Z"⟩
def dkwX4_areTwo_0 : List UInt8 := [27, 184, 1, 57, 153, 0, 14, 28, 184, 1, 57, 153, 0, 7, 4, 167, 0, 4, 3, 172]
abbrev dktX4_areTwo_0 : List UInt8 := dkwX4_areTwo_0 ++ []
theorem dksX4_areTwo_0 : cX4_areTwo.data.toList.drop 0 = dktX4_areTwo_0 := by decide +kernel
theorem dX4_areTwo_0 : decode cX4_areTwo 0 = .ok (.iload_n 1, 1) := dk_27 (dk_at dksX4_areTwo_0 0 rfl rfl)
theorem dX4_areTwo_1 : decode cX4_areTwo 1 = .ok (.invokestatic 313, 3) := dk_184 1 57 (dk_at dksX4_areTwo_0 1 rfl rfl)
theorem dX4_areTwo_4 : decode cX4_areTwo 4 = .ok (.ifCond .eq 14, 3) := dk_153 0 14 (dk_at dksX4_areTwo_0 4 rfl rfl)
theorem dX4_areTwo_7 : decode cX4_areTwo 7 = .ok (.iload_n 2, 1) := dk_28 (dk_at dksX4_areTwo_0 7 rfl rfl)
theorem dX4_areTwo_8 : decode cX4_areTwo 8 = .ok (.invokestatic 313, 3) := dk_184 1 57 (dk_at dksX4_areTwo_0 8 rfl rfl)
theorem dX4_areTwo_11 : decode cX4_areTwo 11 = .ok (.ifCond .eq 7, 3) := dk_153 0 7 (dk_at dksX4_areTwo_0 11 rfl rfl)
theorem dX4_areTwo_14 : decode cX4_areTwo 14 = .ok (.iconst 1, 1) := dk_4 (dk_at dksX4_areTwo_0 14 rfl rfl)
theorem dX4_areTwo_15 : decode cX4_areTwo 15 = .ok (.goto 4, 3) := dk_167 0 4 (dk_at dksX4_areTwo_0 15 rfl rfl)
theorem dX4_areTwo_18 : decode cX4_areTwo 18 = .ok (.iconst 0, 1) := dk_3 (dk_at dksX4_areTwo_0 18 rfl rfl)
theorem dX4_areTwo_19 : decode cX4_areTwo 19 = .ok (.ireturn, 1) := dk_172 (dk_at dksX4_areTwo_0 19 rfl rfl)
abbrev cX4_productObstacle : ByteArray := prog_23_method_149_code
def yX4_productObstacle : MethodName := ⟨RX4, "productObstacle", "(II)I"⟩
def dkwX4_productObstacle_1 : List UInt8 := [4, 172, 42, 27, 28, 182, 1, 151, 153, 0, 7, 3, 167, 0, 4, 5, 172]
abbrev dktX4_productObstacle_1 : List UInt8 := dkwX4_productObstacle_1 ++ []
def dkwX4_productObstacle_0 : List UInt8 := [42, 42, 27, 28, 182, 1, 254, 182, 0, 87, 154, 0, 5, 3, 172, 42, 27, 28, 182, 2, 1, 154, 0, 5]
abbrev dktX4_productObstacle_0 : List UInt8 := dkwX4_productObstacle_0 ++ dktX4_productObstacle_1
theorem dksX4_productObstacle_0 : cX4_productObstacle.data.toList.drop 0 = dktX4_productObstacle_0 := by decide +kernel
theorem dksX4_productObstacle_1 : cX4_productObstacle.data.toList.drop 24 = dktX4_productObstacle_1 := dk_seg dksX4_productObstacle_0 24 rfl rfl
theorem dX4_productObstacle_0 : decode cX4_productObstacle 0 = .ok (.aload_n 0, 1) := dk_42 (dk_at dksX4_productObstacle_0 0 rfl rfl)
theorem dX4_productObstacle_1 : decode cX4_productObstacle 1 = .ok (.aload_n 0, 1) := dk_42 (dk_at dksX4_productObstacle_0 1 rfl rfl)
theorem dX4_productObstacle_2 : decode cX4_productObstacle 2 = .ok (.iload_n 1, 1) := dk_27 (dk_at dksX4_productObstacle_0 2 rfl rfl)
theorem dX4_productObstacle_3 : decode cX4_productObstacle 3 = .ok (.iload_n 2, 1) := dk_28 (dk_at dksX4_productObstacle_0 3 rfl rfl)
theorem dX4_productObstacle_4 : decode cX4_productObstacle 4 = .ok (.invokevirtual 510, 3) := dk_182 1 254 (dk_at dksX4_productObstacle_0 4 rfl rfl)
theorem dX4_productObstacle_7 : decode cX4_productObstacle 7 = .ok (.invokevirtual 87, 3) := dk_182 0 87 (dk_at dksX4_productObstacle_0 7 rfl rfl)
theorem dX4_productObstacle_10 : decode cX4_productObstacle 10 = .ok (.ifCond .ne 5, 3) := dk_154 0 5 (dk_at dksX4_productObstacle_0 10 rfl rfl)
theorem dX4_productObstacle_13 : decode cX4_productObstacle 13 = .ok (.iconst 0, 1) := dk_3 (dk_at dksX4_productObstacle_0 13 rfl rfl)
theorem dX4_productObstacle_14 : decode cX4_productObstacle 14 = .ok (.ireturn, 1) := dk_172 (dk_at dksX4_productObstacle_0 14 rfl rfl)
theorem dX4_productObstacle_15 : decode cX4_productObstacle 15 = .ok (.aload_n 0, 1) := dk_42 (dk_at dksX4_productObstacle_0 15 rfl rfl)
theorem dX4_productObstacle_16 : decode cX4_productObstacle 16 = .ok (.iload_n 1, 1) := dk_27 (dk_at dksX4_productObstacle_0 16 rfl rfl)
theorem dX4_productObstacle_17 : decode cX4_productObstacle 17 = .ok (.iload_n 2, 1) := dk_28 (dk_at dksX4_productObstacle_0 17 rfl rfl)
theorem dX4_productObstacle_18 : decode cX4_productObstacle 18 = .ok (.invokevirtual 513, 3) := dk_182 2 1 (dk_at dksX4_productObstacle_0 18 rfl rfl)
theorem dX4_productObstacle_21 : decode cX4_productObstacle 21 = .ok (.ifCond .ne 5, 3) := dk_154 0 5 (dk_at dksX4_productObstacle_0 21 rfl rfl)
theorem dX4_productObstacle_24 : decode cX4_productObstacle 24 = .ok (.iconst 1, 1) := dk_4 (dk_at dksX4_productObstacle_1 0 rfl rfl)
theorem dX4_productObstacle_25 : decode cX4_productObstacle 25 = .ok (.ireturn, 1) := dk_172 (dk_at dksX4_productObstacle_1 1 rfl rfl)
theorem dX4_productObstacle_26 : decode cX4_productObstacle 26 = .ok (.aload_n 0, 1) := dk_42 (dk_at dksX4_productObstacle_1 2 rfl rfl)
theorem dX4_productObstacle_27 : decode cX4_productObstacle 27 = .ok (.iload_n 1, 1) := dk_27 (dk_at dksX4_productObstacle_1 3 rfl rfl)
theorem dX4_productObstacle_28 : decode cX4_productObstacle 28 = .ok (.iload_n 2, 1) := dk_28 (dk_at dksX4_productObstacle_1 4 rfl rfl)
theorem dX4_productObstacle_29 : decode cX4_productObstacle 29 = .ok (.invokevirtual 407, 3) := dk_182 1 151 (dk_at dksX4_productObstacle_1 5 rfl rfl)
theorem dX4_productObstacle_32 : decode cX4_productObstacle 32 = .ok (.ifCond .eq 7, 3) := dk_153 0 7 (dk_at dksX4_productObstacle_1 8 rfl rfl)
theorem dX4_productObstacle_35 : decode cX4_productObstacle 35 = .ok (.iconst 0, 1) := dk_3 (dk_at dksX4_productObstacle_1 11 rfl rfl)
theorem dX4_productObstacle_36 : decode cX4_productObstacle 36 = .ok (.goto 4, 3) := dk_167 0 4 (dk_at dksX4_productObstacle_1 12 rfl rfl)
theorem dX4_productObstacle_39 : decode cX4_productObstacle 39 = .ok (.iconst 2, 1) := dk_5 (dk_at dksX4_productObstacle_1 15 rfl rfl)
theorem dX4_productObstacle_40 : decode cX4_productObstacle 40 = .ok (.ireturn, 1) := dk_172 (dk_at dksX4_productObstacle_1 16 rfl rfl)
abbrev cX4_hasProduct : ByteArray := prog_23_method_148_code
def yX4_hasProduct : MethodName := ⟨RX4, "hasProduct", "(II)Z"⟩
def dkwX4_hasProduct_0 : List UInt8 := [42, 27, 182, 1, 66, 42, 28, 182, 1, 60, 160, 0, 7, 4, 167, 0, 4, 3, 172]
abbrev dktX4_hasProduct_0 : List UInt8 := dkwX4_hasProduct_0 ++ []
theorem dksX4_hasProduct_0 : cX4_hasProduct.data.toList.drop 0 = dktX4_hasProduct_0 := by decide +kernel
theorem dX4_hasProduct_0 : decode cX4_hasProduct 0 = .ok (.aload_n 0, 1) := dk_42 (dk_at dksX4_hasProduct_0 0 rfl rfl)
theorem dX4_hasProduct_1 : decode cX4_hasProduct 1 = .ok (.iload_n 1, 1) := dk_27 (dk_at dksX4_hasProduct_0 1 rfl rfl)
theorem dX4_hasProduct_2 : decode cX4_hasProduct 2 = .ok (.invokevirtual 322, 3) := dk_182 1 66 (dk_at dksX4_hasProduct_0 2 rfl rfl)
theorem dX4_hasProduct_5 : decode cX4_hasProduct 5 = .ok (.aload_n 0, 1) := dk_42 (dk_at dksX4_hasProduct_0 5 rfl rfl)
theorem dX4_hasProduct_6 : decode cX4_hasProduct 6 = .ok (.iload_n 2, 1) := dk_28 (dk_at dksX4_hasProduct_0 6 rfl rfl)
theorem dX4_hasProduct_7 : decode cX4_hasProduct 7 = .ok (.invokevirtual 316, 3) := dk_182 1 60 (dk_at dksX4_hasProduct_0 7 rfl rfl)
theorem dX4_hasProduct_10 : decode cX4_hasProduct 10 = .ok (.if_icmp .ne 7, 3) := dk_160 0 7 (dk_at dksX4_hasProduct_0 10 rfl rfl)
theorem dX4_hasProduct_13 : decode cX4_hasProduct 13 = .ok (.iconst 1, 1) := dk_4 (dk_at dksX4_hasProduct_0 13 rfl rfl)
theorem dX4_hasProduct_14 : decode cX4_hasProduct 14 = .ok (.goto 4, 3) := dk_167 0 4 (dk_at dksX4_hasProduct_0 14 rfl rfl)
theorem dX4_hasProduct_17 : decode cX4_hasProduct 17 = .ok (.iconst 0, 1) := dk_3 (dk_at dksX4_hasProduct_0 17 rfl rfl)
theorem dX4_hasProduct_18 : decode cX4_hasProduct 18 = .ok (.ireturn, 1) := dk_172 (dk_at dksX4_hasProduct_0 18 rfl rfl)
abbrev cX4_productStoredCount : ByteArray := prog_23_method_151_code
def yX4_productStoredCount : MethodName := ⟨RX4, "productStoredCount", "(II)I"⟩
def dkwX4_productStoredCount_3 : List UInt8 := [3, 184, 0, 80, 96, 62, 132, 5, 1, 167, 255, 219, 132, 4, 1, 167, 255, 200, 29, 172]
abbrev dktX4_productStoredCount_3 : List UInt8 := dkwX4_productStoredCount_3 ++ []
def dkwX4_productStoredCount_2 : List UInt8 := [182, 1, 66, 162, 0, 33, 29, 42, 27, 28, 21, 4, 21, 5, 182, 2, 4, 158, 0, 7, 4, 167, 0, 4]
abbrev dktX4_productStoredCount_2 : List UInt8 := dkwX4_productStoredCount_2 ++ dktX4_productStoredCount_3
def dkwX4_productStoredCount_1 : List UInt8 := [2, 172, 3, 62, 3, 54, 4, 21, 4, 42, 27, 182, 1, 60, 162, 0, 52, 3, 54, 5, 21, 5, 42, 28]
abbrev dktX4_productStoredCount_1 : List UInt8 := dkwX4_productStoredCount_1 ++ dktX4_productStoredCount_2
def dkwX4_productStoredCount_0 : List UInt8 := [42, 42, 27, 28, 182, 1, 254, 182, 0, 87, 154, 0, 5, 3, 172, 42, 27, 28, 182, 2, 1, 154, 0, 5]
abbrev dktX4_productStoredCount_0 : List UInt8 := dkwX4_productStoredCount_0 ++ dktX4_productStoredCount_1
theorem dksX4_productStoredCount_0 : cX4_productStoredCount.data.toList.drop 0 = dktX4_productStoredCount_0 := by decide +kernel
theorem dksX4_productStoredCount_1 : cX4_productStoredCount.data.toList.drop 24 = dktX4_productStoredCount_1 := dk_seg dksX4_productStoredCount_0 24 rfl rfl
theorem dksX4_productStoredCount_2 : cX4_productStoredCount.data.toList.drop 48 = dktX4_productStoredCount_2 := dk_seg dksX4_productStoredCount_1 24 rfl rfl
theorem dksX4_productStoredCount_3 : cX4_productStoredCount.data.toList.drop 72 = dktX4_productStoredCount_3 := dk_seg dksX4_productStoredCount_2 24 rfl rfl
theorem dX4_productStoredCount_0 : decode cX4_productStoredCount 0 = .ok (.aload_n 0, 1) := dk_42 (dk_at dksX4_productStoredCount_0 0 rfl rfl)
theorem dX4_productStoredCount_1 : decode cX4_productStoredCount 1 = .ok (.aload_n 0, 1) := dk_42 (dk_at dksX4_productStoredCount_0 1 rfl rfl)
theorem dX4_productStoredCount_2 : decode cX4_productStoredCount 2 = .ok (.iload_n 1, 1) := dk_27 (dk_at dksX4_productStoredCount_0 2 rfl rfl)
theorem dX4_productStoredCount_3 : decode cX4_productStoredCount 3 = .ok (.iload_n 2, 1) := dk_28 (dk_at dksX4_productStoredCount_0 3 rfl rfl)
theorem dX4_productStoredCount_4 : decode cX4_productStoredCount 4 = .ok (.invokevirtual 510, 3) := dk_182 1 254 (dk_at dksX4_productStoredCount_0 4 rfl rfl)
theorem dX4_productStoredCount_7 : decode cX4_productStoredCount 7 = .ok (.invokevirtual 87, 3) := dk_182 0 87 (dk_at dksX4_productStoredCount_0 7 rfl rfl)
theorem dX4_productStoredCount_10 : decode cX4_productStoredCount 10 = .ok (.ifCond .ne 5, 3) := dk_154 0 5 (dk_at dksX4_productStoredCount_0 10 rfl rfl)
theorem dX4_productStoredCount_13 : decode cX4_productStoredCount 13 = .ok (.iconst 0, 1) := dk_3 (dk_at dksX4_productStoredCount_0 13 rfl rfl)
theorem dX4_productStoredCount_14 : decode cX4_productStoredCount 14 = .ok (.ireturn, 1) := dk_172 (dk_at dksX4_productStoredCount_0 14 rfl rfl)
theorem dX4_productStoredCount_15 : decode cX4_productStoredCount 15 = .ok (.aload_n 0, 1) := dk_42 (dk_at dksX4_productStoredCount_0 15 rfl rfl)
theorem dX4_productStoredCount_16 : decode cX4_productStoredCount 16 = .ok (.iload_n 1, 1) := dk_27 (dk_at dksX4_productStoredCount_0 16 rfl rfl)
theorem dX4_productStoredCount_17 : decode cX4_productStoredCount 17 = .ok (.iload_n 2, 1) := dk_28 (dk_at dksX4_productStoredCount_0 17 rfl rfl)
theorem dX4_productStoredCount_18 : decode cX4_productStoredCount 18 = .ok (.invokevirtual 513, 3) := dk_182 2 1 (dk_at dksX4_productStoredCount_0 18 rfl rfl)
theorem dX4_productStoredCount_21 : decode cX4_productStoredCount 21 = .ok (.ifCond .ne 5, 3) := dk_154 0 5 (dk_at dksX4_productStoredCount_0 21 rfl rfl)
theorem dX4_productStoredCount_24 : decode cX4_productStoredCount 24 = .ok (.iconst (-1), 1) := dk_2 (dk_at dksX4_productStoredCount_1 0 rfl rfl)
theorem dX4_productStoredCount_25 : decode cX4_productStoredCount 25 = .ok (.ireturn, 1) := dk_172 (dk_at dksX4_productStoredCount_1 1 rfl rfl)
theorem dX4_productStoredCount_26 : decode cX4_productStoredCount 26 = .ok (.iconst 0, 1) := dk_3 (dk_at dksX4_productStoredCount_1 2 rfl rfl)
theorem dX4_productStoredCount_27 : decode cX4_productStoredCount 27 = .ok (.istore_n 3, 1) := dk_62 (dk_at dksX4_productStoredCount_1 3 rfl rfl)
theorem dX4_productStoredCount_28 : decode cX4_productStoredCount 28 = .ok (.iconst 0, 1) := dk_3 (dk_at dksX4_productStoredCount_1 4 rfl rfl)
theorem dX4_productStoredCount_29 : decode cX4_productStoredCount 29 = .ok (.istore 4, 2) := dk_54 4 (dk_at dksX4_productStoredCount_1 5 rfl rfl)
theorem dX4_productStoredCount_31 : decode cX4_productStoredCount 31 = .ok (.iload 4, 2) := dk_21 4 (dk_at dksX4_productStoredCount_1 7 rfl rfl)
theorem dX4_productStoredCount_33 : decode cX4_productStoredCount 33 = .ok (.aload_n 0, 1) := dk_42 (dk_at dksX4_productStoredCount_1 9 rfl rfl)
theorem dX4_productStoredCount_34 : decode cX4_productStoredCount 34 = .ok (.iload_n 1, 1) := dk_27 (dk_at dksX4_productStoredCount_1 10 rfl rfl)
theorem dX4_productStoredCount_35 : decode cX4_productStoredCount 35 = .ok (.invokevirtual 316, 3) := dk_182 1 60 (dk_at dksX4_productStoredCount_1 11 rfl rfl)
theorem dX4_productStoredCount_38 : decode cX4_productStoredCount 38 = .ok (.if_icmp .ge 52, 3) := dk_162 0 52 (dk_at dksX4_productStoredCount_1 14 rfl rfl)
theorem dX4_productStoredCount_41 : decode cX4_productStoredCount 41 = .ok (.iconst 0, 1) := dk_3 (dk_at dksX4_productStoredCount_1 17 rfl rfl)
theorem dX4_productStoredCount_42 : decode cX4_productStoredCount 42 = .ok (.istore 5, 2) := dk_54 5 (dk_at dksX4_productStoredCount_1 18 rfl rfl)
theorem dX4_productStoredCount_44 : decode cX4_productStoredCount 44 = .ok (.iload 5, 2) := dk_21 5 (dk_at dksX4_productStoredCount_1 20 rfl rfl)
theorem dX4_productStoredCount_46 : decode cX4_productStoredCount 46 = .ok (.aload_n 0, 1) := dk_42 (dk_at dksX4_productStoredCount_1 22 rfl rfl)
theorem dX4_productStoredCount_47 : decode cX4_productStoredCount 47 = .ok (.iload_n 2, 1) := dk_28 (dk_at dksX4_productStoredCount_1 23 rfl rfl)
theorem dX4_productStoredCount_48 : decode cX4_productStoredCount 48 = .ok (.invokevirtual 322, 3) := dk_182 1 66 (dk_at dksX4_productStoredCount_2 0 rfl rfl)
theorem dX4_productStoredCount_51 : decode cX4_productStoredCount 51 = .ok (.if_icmp .ge 33, 3) := dk_162 0 33 (dk_at dksX4_productStoredCount_2 3 rfl rfl)
theorem dX4_productStoredCount_54 : decode cX4_productStoredCount 54 = .ok (.iload_n 3, 1) := dk_29 (dk_at dksX4_productStoredCount_2 6 rfl rfl)
theorem dX4_productStoredCount_55 : decode cX4_productStoredCount 55 = .ok (.aload_n 0, 1) := dk_42 (dk_at dksX4_productStoredCount_2 7 rfl rfl)
theorem dX4_productStoredCount_56 : decode cX4_productStoredCount 56 = .ok (.iload_n 1, 1) := dk_27 (dk_at dksX4_productStoredCount_2 8 rfl rfl)
theorem dX4_productStoredCount_57 : decode cX4_productStoredCount 57 = .ok (.iload_n 2, 1) := dk_28 (dk_at dksX4_productStoredCount_2 9 rfl rfl)
theorem dX4_productStoredCount_58 : decode cX4_productStoredCount 58 = .ok (.iload 4, 2) := dk_21 4 (dk_at dksX4_productStoredCount_2 10 rfl rfl)
theorem dX4_productStoredCount_60 : decode cX4_productStoredCount 60 = .ok (.iload 5, 2) := dk_21 5 (dk_at dksX4_productStoredCount_2 12 rfl rfl)
theorem dX4_productStoredCount_62 : decode cX4_productStoredCount 62 = .ok (.invokevirtual 516, 3) := dk_182 2 4 (dk_at dksX4_productStoredCount_2 14 rfl rfl)
theorem dX4_productStoredCount_65 : decode cX4_productStoredCount 65 = .ok (.ifCond .le 7, 3) := dk_158 0 7 (dk_at dksX4_productStoredCount_2 17 rfl rfl)
theorem dX4_productStoredCount_68 : decode cX4_productStoredCount 68 = .ok (.iconst 1, 1) := dk_4 (dk_at dksX4_productStoredCount_2 20 rfl rfl)
theorem dX4_productStoredCount_69 : decode cX4_productStoredCount 69 = .ok (.goto 4, 3) := dk_167 0 4 (dk_at dksX4_productStoredCount_2 21 rfl rfl)
theorem dX4_productStoredCount_72 : decode cX4_productStoredCount 72 = .ok (.iconst 0, 1) := dk_3 (dk_at dksX4_productStoredCount_3 0 rfl rfl)
theorem dX4_productStoredCount_73 : decode cX4_productStoredCount 73 = .ok (.invokestatic 80, 3) := dk_184 0 80 (dk_at dksX4_productStoredCount_3 1 rfl rfl)
theorem dX4_productStoredCount_76 : decode cX4_productStoredCount 76 = .ok (.iadd, 1) := dk_96 (dk_at dksX4_productStoredCount_3 4 rfl rfl)
theorem dX4_productStoredCount_77 : decode cX4_productStoredCount 77 = .ok (.istore_n 3, 1) := dk_62 (dk_at dksX4_productStoredCount_3 5 rfl rfl)
theorem dX4_productStoredCount_78 : decode cX4_productStoredCount 78 = .ok (.iinc 5 1, 3) := dk_132 5 1 (dk_at dksX4_productStoredCount_3 6 rfl rfl)
theorem dX4_productStoredCount_81 : decode cX4_productStoredCount 81 = .ok (.goto (-37), 3) := dk_167 255 219 (dk_at dksX4_productStoredCount_3 9 rfl rfl)
theorem dX4_productStoredCount_84 : decode cX4_productStoredCount 84 = .ok (.iinc 4 1, 3) := dk_132 4 1 (dk_at dksX4_productStoredCount_3 12 rfl rfl)
theorem dX4_productStoredCount_87 : decode cX4_productStoredCount 87 = .ok (.goto (-56), 3) := dk_167 255 200 (dk_at dksX4_productStoredCount_3 15 rfl rfl)
theorem dX4_productStoredCount_90 : decode cX4_productStoredCount 90 = .ok (.iload_n 3, 1) := dk_29 (dk_at dksX4_productStoredCount_3 18 rfl rfl)
theorem dX4_productStoredCount_91 : decode cX4_productStoredCount 91 = .ok (.ireturn, 1) := dk_172 (dk_at dksX4_productStoredCount_3 19 rfl rfl)
abbrev cX4_triples : ByteArray := prog_23_method_150_code
def yX4_triples : MethodName := ⟨RX4, "triples", "(IIII)I"⟩
def dkwX4_triples_2 : List UInt8 := [184, 0, 197, 104, 96, 54, 5, 132, 6, 1, 167, 255, 206, 21, 5, 172]
abbrev dktX4_triples_2 : List UInt8 := dkwX4_triples_2 ++ []
def dkwX4_triples_1 : List UInt8 := [17, 1, 34, 27, 104, 29, 21, 6, 184, 0, 197, 42, 180, 0, 20, 17, 1, 34, 28, 104, 21, 6, 21, 4]
abbrev dktX4_triples_1 : List UInt8 := dkwX4_triples_1 ++ dktX4_triples_2
def dkwX4_triples_0 : List UInt8 := [3, 54, 5, 3, 54, 6, 21, 6, 42, 27, 182, 1, 66, 162, 0, 46, 21, 5, 42, 180, 0, 20]
abbrev dktX4_triples_0 : List UInt8 := dkwX4_triples_0 ++ dktX4_triples_1
theorem dksX4_triples_0 : cX4_triples.data.toList.drop 0 = dktX4_triples_0 := by decide +kernel
theorem dksX4_triples_1 : cX4_triples.data.toList.drop 22 = dktX4_triples_1 := dk_seg dksX4_triples_0 22 rfl rfl
theorem dksX4_triples_2 : cX4_triples.data.toList.drop 46 = dktX4_triples_2 := dk_seg dksX4_triples_1 24 rfl rfl
theorem dX4_triples_0 : decode cX4_triples 0 = .ok (.iconst 0, 1) := dk_3 (dk_at dksX4_triples_0 0 rfl rfl)
theorem dX4_triples_1 : decode cX4_triples 1 = .ok (.istore 5, 2) := dk_54 5 (dk_at dksX4_triples_0 1 rfl rfl)
theorem dX4_triples_3 : decode cX4_triples 3 = .ok (.iconst 0, 1) := dk_3 (dk_at dksX4_triples_0 3 rfl rfl)
theorem dX4_triples_4 : decode cX4_triples 4 = .ok (.istore 6, 2) := dk_54 6 (dk_at dksX4_triples_0 4 rfl rfl)
theorem dX4_triples_6 : decode cX4_triples 6 = .ok (.iload 6, 2) := dk_21 6 (dk_at dksX4_triples_0 6 rfl rfl)
theorem dX4_triples_8 : decode cX4_triples 8 = .ok (.aload_n 0, 1) := dk_42 (dk_at dksX4_triples_0 8 rfl rfl)
theorem dX4_triples_9 : decode cX4_triples 9 = .ok (.iload_n 1, 1) := dk_27 (dk_at dksX4_triples_0 9 rfl rfl)
theorem dX4_triples_10 : decode cX4_triples 10 = .ok (.invokevirtual 322, 3) := dk_182 1 66 (dk_at dksX4_triples_0 10 rfl rfl)
theorem dX4_triples_13 : decode cX4_triples 13 = .ok (.if_icmp .ge 46, 3) := dk_162 0 46 (dk_at dksX4_triples_0 13 rfl rfl)
theorem dX4_triples_16 : decode cX4_triples 16 = .ok (.iload 5, 2) := dk_21 5 (dk_at dksX4_triples_0 16 rfl rfl)
theorem dX4_triples_18 : decode cX4_triples 18 = .ok (.aload_n 0, 1) := dk_42 (dk_at dksX4_triples_0 18 rfl rfl)
theorem dX4_triples_19 : decode cX4_triples 19 = .ok (.getfield 20, 3) := dk_180 0 20 (dk_at dksX4_triples_0 19 rfl rfl)
theorem dX4_triples_22 : decode cX4_triples 22 = .ok (.sipush 290, 3) := dk_17 1 34 (dk_at dksX4_triples_1 0 rfl rfl)
theorem dX4_triples_25 : decode cX4_triples 25 = .ok (.iload_n 1, 1) := dk_27 (dk_at dksX4_triples_1 3 rfl rfl)
theorem dX4_triples_26 : decode cX4_triples 26 = .ok (.imul, 1) := dk_104 (dk_at dksX4_triples_1 4 rfl rfl)
theorem dX4_triples_27 : decode cX4_triples 27 = .ok (.iload_n 3, 1) := dk_29 (dk_at dksX4_triples_1 5 rfl rfl)
theorem dX4_triples_28 : decode cX4_triples 28 = .ok (.iload 6, 2) := dk_21 6 (dk_at dksX4_triples_1 6 rfl rfl)
theorem dX4_triples_30 : decode cX4_triples 30 = .ok (.invokestatic 197, 3) := dk_184 0 197 (dk_at dksX4_triples_1 8 rfl rfl)
theorem dX4_triples_33 : decode cX4_triples 33 = .ok (.aload_n 0, 1) := dk_42 (dk_at dksX4_triples_1 11 rfl rfl)
theorem dX4_triples_34 : decode cX4_triples 34 = .ok (.getfield 20, 3) := dk_180 0 20 (dk_at dksX4_triples_1 12 rfl rfl)
theorem dX4_triples_37 : decode cX4_triples 37 = .ok (.sipush 290, 3) := dk_17 1 34 (dk_at dksX4_triples_1 15 rfl rfl)
theorem dX4_triples_40 : decode cX4_triples 40 = .ok (.iload_n 2, 1) := dk_28 (dk_at dksX4_triples_1 18 rfl rfl)
theorem dX4_triples_41 : decode cX4_triples 41 = .ok (.imul, 1) := dk_104 (dk_at dksX4_triples_1 19 rfl rfl)
theorem dX4_triples_42 : decode cX4_triples 42 = .ok (.iload 6, 2) := dk_21 6 (dk_at dksX4_triples_1 20 rfl rfl)
theorem dX4_triples_44 : decode cX4_triples 44 = .ok (.iload 4, 2) := dk_21 4 (dk_at dksX4_triples_1 22 rfl rfl)
theorem dX4_triples_46 : decode cX4_triples 46 = .ok (.invokestatic 197, 3) := dk_184 0 197 (dk_at dksX4_triples_2 0 rfl rfl)
theorem dX4_triples_49 : decode cX4_triples 49 = .ok (.imul, 1) := dk_104 (dk_at dksX4_triples_2 3 rfl rfl)
theorem dX4_triples_50 : decode cX4_triples 50 = .ok (.iadd, 1) := dk_96 (dk_at dksX4_triples_2 4 rfl rfl)
theorem dX4_triples_51 : decode cX4_triples 51 = .ok (.istore 5, 2) := dk_54 5 (dk_at dksX4_triples_2 5 rfl rfl)
theorem dX4_triples_53 : decode cX4_triples 53 = .ok (.iinc 6 1, 3) := dk_132 6 1 (dk_at dksX4_triples_2 7 rfl rfl)
theorem dX4_triples_56 : decode cX4_triples 56 = .ok (.goto (-50), 3) := dk_167 255 206 (dk_at dksX4_triples_2 10 rfl rfl)
theorem dX4_triples_59 : decode cX4_triples 59 = .ok (.iload 5, 2) := dk_21 5 (dk_at dksX4_triples_2 13 rfl rfl)
theorem dX4_triples_61 : decode cX4_triples 61 = .ok (.ireturn, 1) := dk_172 (dk_at dksX4_triples_2 15 rfl rfl)
abbrev cX4_productWork : ByteArray := prog_23_method_152_code
def yX4_productWork : MethodName := ⟨RX4, "productWork", "(II)I"⟩
def dkwX4_productWork_3 : List UInt8 := [167, 255, 230, 132, 4, 1, 167, 255, 211, 29, 172]
abbrev dktX4_productWork_3 : List UInt8 := dkwX4_productWork_3 ++ []
def dkwX4_productWork_2 : List UInt8 := [182, 1, 66, 162, 0, 22, 29, 42, 27, 28, 21, 4, 21, 5, 182, 2, 4, 96, 62, 132, 5, 1]
abbrev dktX4_productWork_2 : List UInt8 := dkwX4_productWork_2 ++ dktX4_productWork_3
def dkwX4_productWork_1 : List UInt8 := [2, 172, 3, 62, 3, 54, 4, 21, 4, 42, 27, 182, 1, 60, 162, 0, 41, 3, 54, 5, 21, 5, 42, 28]
abbrev dktX4_productWork_1 : List UInt8 := dkwX4_productWork_1 ++ dktX4_productWork_2
def dkwX4_productWork_0 : List UInt8 := [42, 42, 27, 28, 182, 1, 254, 182, 0, 87, 154, 0, 5, 3, 172, 42, 27, 28, 182, 2, 1, 154, 0, 5]
abbrev dktX4_productWork_0 : List UInt8 := dkwX4_productWork_0 ++ dktX4_productWork_1
theorem dksX4_productWork_0 : cX4_productWork.data.toList.drop 0 = dktX4_productWork_0 := by decide +kernel
theorem dksX4_productWork_1 : cX4_productWork.data.toList.drop 24 = dktX4_productWork_1 := dk_seg dksX4_productWork_0 24 rfl rfl
theorem dksX4_productWork_2 : cX4_productWork.data.toList.drop 48 = dktX4_productWork_2 := dk_seg dksX4_productWork_1 24 rfl rfl
theorem dksX4_productWork_3 : cX4_productWork.data.toList.drop 70 = dktX4_productWork_3 := dk_seg dksX4_productWork_2 22 rfl rfl
theorem dX4_productWork_0 : decode cX4_productWork 0 = .ok (.aload_n 0, 1) := dk_42 (dk_at dksX4_productWork_0 0 rfl rfl)
theorem dX4_productWork_1 : decode cX4_productWork 1 = .ok (.aload_n 0, 1) := dk_42 (dk_at dksX4_productWork_0 1 rfl rfl)
theorem dX4_productWork_2 : decode cX4_productWork 2 = .ok (.iload_n 1, 1) := dk_27 (dk_at dksX4_productWork_0 2 rfl rfl)
theorem dX4_productWork_3 : decode cX4_productWork 3 = .ok (.iload_n 2, 1) := dk_28 (dk_at dksX4_productWork_0 3 rfl rfl)
theorem dX4_productWork_4 : decode cX4_productWork 4 = .ok (.invokevirtual 510, 3) := dk_182 1 254 (dk_at dksX4_productWork_0 4 rfl rfl)
theorem dX4_productWork_7 : decode cX4_productWork 7 = .ok (.invokevirtual 87, 3) := dk_182 0 87 (dk_at dksX4_productWork_0 7 rfl rfl)
theorem dX4_productWork_10 : decode cX4_productWork 10 = .ok (.ifCond .ne 5, 3) := dk_154 0 5 (dk_at dksX4_productWork_0 10 rfl rfl)
theorem dX4_productWork_13 : decode cX4_productWork 13 = .ok (.iconst 0, 1) := dk_3 (dk_at dksX4_productWork_0 13 rfl rfl)
theorem dX4_productWork_14 : decode cX4_productWork 14 = .ok (.ireturn, 1) := dk_172 (dk_at dksX4_productWork_0 14 rfl rfl)
theorem dX4_productWork_15 : decode cX4_productWork 15 = .ok (.aload_n 0, 1) := dk_42 (dk_at dksX4_productWork_0 15 rfl rfl)
theorem dX4_productWork_16 : decode cX4_productWork 16 = .ok (.iload_n 1, 1) := dk_27 (dk_at dksX4_productWork_0 16 rfl rfl)
theorem dX4_productWork_17 : decode cX4_productWork 17 = .ok (.iload_n 2, 1) := dk_28 (dk_at dksX4_productWork_0 17 rfl rfl)
theorem dX4_productWork_18 : decode cX4_productWork 18 = .ok (.invokevirtual 513, 3) := dk_182 2 1 (dk_at dksX4_productWork_0 18 rfl rfl)
theorem dX4_productWork_21 : decode cX4_productWork 21 = .ok (.ifCond .ne 5, 3) := dk_154 0 5 (dk_at dksX4_productWork_0 21 rfl rfl)
theorem dX4_productWork_24 : decode cX4_productWork 24 = .ok (.iconst (-1), 1) := dk_2 (dk_at dksX4_productWork_1 0 rfl rfl)
theorem dX4_productWork_25 : decode cX4_productWork 25 = .ok (.ireturn, 1) := dk_172 (dk_at dksX4_productWork_1 1 rfl rfl)
theorem dX4_productWork_26 : decode cX4_productWork 26 = .ok (.iconst 0, 1) := dk_3 (dk_at dksX4_productWork_1 2 rfl rfl)
theorem dX4_productWork_27 : decode cX4_productWork 27 = .ok (.istore_n 3, 1) := dk_62 (dk_at dksX4_productWork_1 3 rfl rfl)
theorem dX4_productWork_28 : decode cX4_productWork 28 = .ok (.iconst 0, 1) := dk_3 (dk_at dksX4_productWork_1 4 rfl rfl)
theorem dX4_productWork_29 : decode cX4_productWork 29 = .ok (.istore 4, 2) := dk_54 4 (dk_at dksX4_productWork_1 5 rfl rfl)
theorem dX4_productWork_31 : decode cX4_productWork 31 = .ok (.iload 4, 2) := dk_21 4 (dk_at dksX4_productWork_1 7 rfl rfl)
theorem dX4_productWork_33 : decode cX4_productWork 33 = .ok (.aload_n 0, 1) := dk_42 (dk_at dksX4_productWork_1 9 rfl rfl)
theorem dX4_productWork_34 : decode cX4_productWork 34 = .ok (.iload_n 1, 1) := dk_27 (dk_at dksX4_productWork_1 10 rfl rfl)
theorem dX4_productWork_35 : decode cX4_productWork 35 = .ok (.invokevirtual 316, 3) := dk_182 1 60 (dk_at dksX4_productWork_1 11 rfl rfl)
theorem dX4_productWork_38 : decode cX4_productWork 38 = .ok (.if_icmp .ge 41, 3) := dk_162 0 41 (dk_at dksX4_productWork_1 14 rfl rfl)
theorem dX4_productWork_41 : decode cX4_productWork 41 = .ok (.iconst 0, 1) := dk_3 (dk_at dksX4_productWork_1 17 rfl rfl)
theorem dX4_productWork_42 : decode cX4_productWork 42 = .ok (.istore 5, 2) := dk_54 5 (dk_at dksX4_productWork_1 18 rfl rfl)
theorem dX4_productWork_44 : decode cX4_productWork 44 = .ok (.iload 5, 2) := dk_21 5 (dk_at dksX4_productWork_1 20 rfl rfl)
theorem dX4_productWork_46 : decode cX4_productWork 46 = .ok (.aload_n 0, 1) := dk_42 (dk_at dksX4_productWork_1 22 rfl rfl)
theorem dX4_productWork_47 : decode cX4_productWork 47 = .ok (.iload_n 2, 1) := dk_28 (dk_at dksX4_productWork_1 23 rfl rfl)
theorem dX4_productWork_48 : decode cX4_productWork 48 = .ok (.invokevirtual 322, 3) := dk_182 1 66 (dk_at dksX4_productWork_2 0 rfl rfl)
theorem dX4_productWork_51 : decode cX4_productWork 51 = .ok (.if_icmp .ge 22, 3) := dk_162 0 22 (dk_at dksX4_productWork_2 3 rfl rfl)
theorem dX4_productWork_54 : decode cX4_productWork 54 = .ok (.iload_n 3, 1) := dk_29 (dk_at dksX4_productWork_2 6 rfl rfl)
theorem dX4_productWork_55 : decode cX4_productWork 55 = .ok (.aload_n 0, 1) := dk_42 (dk_at dksX4_productWork_2 7 rfl rfl)
theorem dX4_productWork_56 : decode cX4_productWork 56 = .ok (.iload_n 1, 1) := dk_27 (dk_at dksX4_productWork_2 8 rfl rfl)
theorem dX4_productWork_57 : decode cX4_productWork 57 = .ok (.iload_n 2, 1) := dk_28 (dk_at dksX4_productWork_2 9 rfl rfl)
theorem dX4_productWork_58 : decode cX4_productWork 58 = .ok (.iload 4, 2) := dk_21 4 (dk_at dksX4_productWork_2 10 rfl rfl)
theorem dX4_productWork_60 : decode cX4_productWork 60 = .ok (.iload 5, 2) := dk_21 5 (dk_at dksX4_productWork_2 12 rfl rfl)
theorem dX4_productWork_62 : decode cX4_productWork 62 = .ok (.invokevirtual 516, 3) := dk_182 2 4 (dk_at dksX4_productWork_2 14 rfl rfl)
theorem dX4_productWork_65 : decode cX4_productWork 65 = .ok (.iadd, 1) := dk_96 (dk_at dksX4_productWork_2 17 rfl rfl)
theorem dX4_productWork_66 : decode cX4_productWork 66 = .ok (.istore_n 3, 1) := dk_62 (dk_at dksX4_productWork_2 18 rfl rfl)
theorem dX4_productWork_67 : decode cX4_productWork 67 = .ok (.iinc 5 1, 3) := dk_132 5 1 (dk_at dksX4_productWork_2 19 rfl rfl)
theorem dX4_productWork_70 : decode cX4_productWork 70 = .ok (.goto (-26), 3) := dk_167 255 230 (dk_at dksX4_productWork_3 0 rfl rfl)
theorem dX4_productWork_73 : decode cX4_productWork 73 = .ok (.iinc 4 1, 3) := dk_132 4 1 (dk_at dksX4_productWork_3 3 rfl rfl)
theorem dX4_productWork_76 : decode cX4_productWork 76 = .ok (.goto (-45), 3) := dk_167 255 211 (dk_at dksX4_productWork_3 6 rfl rfl)
theorem dX4_productWork_79 : decode cX4_productWork 79 = .ok (.iload_n 3, 1) := dk_29 (dk_at dksX4_productWork_3 9 rfl rfl)
theorem dX4_productWork_80 : decode cX4_productWork 80 = .ok (.ireturn, 1) := dk_172 (dk_at dksX4_productWork_3 10 rfl rfl)
abbrev cX4_sumStoredCount : ByteArray := prog_23_method_153_code
def yX4_sumStoredCount : MethodName := ⟨RX4, "sumStoredCount", "(II)I"⟩
def dkwX4_sumStoredCount_4 : List UInt8 := [167, 255, 211, 29, 172]
abbrev dktX4_sumStoredCount_4 : List UInt8 := dkwX4_sumStoredCount_4 ++ []
def dkwX4_sumStoredCount_3 : List UInt8 := [96, 46, 42, 180, 0, 20, 17, 1, 34, 28, 104, 5, 96, 21, 4, 96, 46, 128, 96, 62, 132, 4, 1]
abbrev dktX4_sumStoredCount_3 : List UInt8 := dkwX4_sumStoredCount_3 ++ dktX4_sumStoredCount_4
def dkwX4_sumStoredCount_2 : List UInt8 := [54, 4, 21, 4, 17, 0, 144, 162, 0, 43, 29, 42, 180, 0, 20, 17, 1, 34, 27, 104, 5, 96, 21, 4]
abbrev dktX4_sumStoredCount_2 : List UInt8 := dkwX4_sumStoredCount_2 ++ dktX4_sumStoredCount_3
def dkwX4_sumStoredCount_1 : List UInt8 := [182, 1, 60, 160, 0, 16, 42, 27, 182, 1, 66, 42, 28, 182, 1, 66, 159, 0, 5, 2, 172, 3, 62, 3]
abbrev dktX4_sumStoredCount_1 : List UInt8 := dkwX4_sumStoredCount_1 ++ dktX4_sumStoredCount_2
def dkwX4_sumStoredCount_0 : List UInt8 := [42, 42, 27, 28, 182, 1, 254, 182, 0, 87, 154, 0, 5, 3, 172, 42, 27, 182, 1, 60, 42, 28]
abbrev dktX4_sumStoredCount_0 : List UInt8 := dkwX4_sumStoredCount_0 ++ dktX4_sumStoredCount_1
theorem dksX4_sumStoredCount_0 : cX4_sumStoredCount.data.toList.drop 0 = dktX4_sumStoredCount_0 := by decide +kernel
theorem dksX4_sumStoredCount_1 : cX4_sumStoredCount.data.toList.drop 22 = dktX4_sumStoredCount_1 := dk_seg dksX4_sumStoredCount_0 22 rfl rfl
theorem dksX4_sumStoredCount_2 : cX4_sumStoredCount.data.toList.drop 46 = dktX4_sumStoredCount_2 := dk_seg dksX4_sumStoredCount_1 24 rfl rfl
theorem dksX4_sumStoredCount_3 : cX4_sumStoredCount.data.toList.drop 70 = dktX4_sumStoredCount_3 := dk_seg dksX4_sumStoredCount_2 24 rfl rfl
theorem dksX4_sumStoredCount_4 : cX4_sumStoredCount.data.toList.drop 93 = dktX4_sumStoredCount_4 := dk_seg dksX4_sumStoredCount_3 23 rfl rfl
theorem dX4_sumStoredCount_0 : decode cX4_sumStoredCount 0 = .ok (.aload_n 0, 1) := dk_42 (dk_at dksX4_sumStoredCount_0 0 rfl rfl)
theorem dX4_sumStoredCount_1 : decode cX4_sumStoredCount 1 = .ok (.aload_n 0, 1) := dk_42 (dk_at dksX4_sumStoredCount_0 1 rfl rfl)
theorem dX4_sumStoredCount_2 : decode cX4_sumStoredCount 2 = .ok (.iload_n 1, 1) := dk_27 (dk_at dksX4_sumStoredCount_0 2 rfl rfl)
theorem dX4_sumStoredCount_3 : decode cX4_sumStoredCount 3 = .ok (.iload_n 2, 1) := dk_28 (dk_at dksX4_sumStoredCount_0 3 rfl rfl)
theorem dX4_sumStoredCount_4 : decode cX4_sumStoredCount 4 = .ok (.invokevirtual 510, 3) := dk_182 1 254 (dk_at dksX4_sumStoredCount_0 4 rfl rfl)
theorem dX4_sumStoredCount_7 : decode cX4_sumStoredCount 7 = .ok (.invokevirtual 87, 3) := dk_182 0 87 (dk_at dksX4_sumStoredCount_0 7 rfl rfl)
theorem dX4_sumStoredCount_10 : decode cX4_sumStoredCount 10 = .ok (.ifCond .ne 5, 3) := dk_154 0 5 (dk_at dksX4_sumStoredCount_0 10 rfl rfl)
theorem dX4_sumStoredCount_13 : decode cX4_sumStoredCount 13 = .ok (.iconst 0, 1) := dk_3 (dk_at dksX4_sumStoredCount_0 13 rfl rfl)
theorem dX4_sumStoredCount_14 : decode cX4_sumStoredCount 14 = .ok (.ireturn, 1) := dk_172 (dk_at dksX4_sumStoredCount_0 14 rfl rfl)
theorem dX4_sumStoredCount_15 : decode cX4_sumStoredCount 15 = .ok (.aload_n 0, 1) := dk_42 (dk_at dksX4_sumStoredCount_0 15 rfl rfl)
theorem dX4_sumStoredCount_16 : decode cX4_sumStoredCount 16 = .ok (.iload_n 1, 1) := dk_27 (dk_at dksX4_sumStoredCount_0 16 rfl rfl)
theorem dX4_sumStoredCount_17 : decode cX4_sumStoredCount 17 = .ok (.invokevirtual 316, 3) := dk_182 1 60 (dk_at dksX4_sumStoredCount_0 17 rfl rfl)
theorem dX4_sumStoredCount_20 : decode cX4_sumStoredCount 20 = .ok (.aload_n 0, 1) := dk_42 (dk_at dksX4_sumStoredCount_0 20 rfl rfl)
theorem dX4_sumStoredCount_21 : decode cX4_sumStoredCount 21 = .ok (.iload_n 2, 1) := dk_28 (dk_at dksX4_sumStoredCount_0 21 rfl rfl)
theorem dX4_sumStoredCount_22 : decode cX4_sumStoredCount 22 = .ok (.invokevirtual 316, 3) := dk_182 1 60 (dk_at dksX4_sumStoredCount_1 0 rfl rfl)
theorem dX4_sumStoredCount_25 : decode cX4_sumStoredCount 25 = .ok (.if_icmp .ne 16, 3) := dk_160 0 16 (dk_at dksX4_sumStoredCount_1 3 rfl rfl)
theorem dX4_sumStoredCount_28 : decode cX4_sumStoredCount 28 = .ok (.aload_n 0, 1) := dk_42 (dk_at dksX4_sumStoredCount_1 6 rfl rfl)
theorem dX4_sumStoredCount_29 : decode cX4_sumStoredCount 29 = .ok (.iload_n 1, 1) := dk_27 (dk_at dksX4_sumStoredCount_1 7 rfl rfl)
theorem dX4_sumStoredCount_30 : decode cX4_sumStoredCount 30 = .ok (.invokevirtual 322, 3) := dk_182 1 66 (dk_at dksX4_sumStoredCount_1 8 rfl rfl)
theorem dX4_sumStoredCount_33 : decode cX4_sumStoredCount 33 = .ok (.aload_n 0, 1) := dk_42 (dk_at dksX4_sumStoredCount_1 11 rfl rfl)
theorem dX4_sumStoredCount_34 : decode cX4_sumStoredCount 34 = .ok (.iload_n 2, 1) := dk_28 (dk_at dksX4_sumStoredCount_1 12 rfl rfl)
theorem dX4_sumStoredCount_35 : decode cX4_sumStoredCount 35 = .ok (.invokevirtual 322, 3) := dk_182 1 66 (dk_at dksX4_sumStoredCount_1 13 rfl rfl)
theorem dX4_sumStoredCount_38 : decode cX4_sumStoredCount 38 = .ok (.if_icmp .eq 5, 3) := dk_159 0 5 (dk_at dksX4_sumStoredCount_1 16 rfl rfl)
theorem dX4_sumStoredCount_41 : decode cX4_sumStoredCount 41 = .ok (.iconst (-1), 1) := dk_2 (dk_at dksX4_sumStoredCount_1 19 rfl rfl)
theorem dX4_sumStoredCount_42 : decode cX4_sumStoredCount 42 = .ok (.ireturn, 1) := dk_172 (dk_at dksX4_sumStoredCount_1 20 rfl rfl)
theorem dX4_sumStoredCount_43 : decode cX4_sumStoredCount 43 = .ok (.iconst 0, 1) := dk_3 (dk_at dksX4_sumStoredCount_1 21 rfl rfl)
theorem dX4_sumStoredCount_44 : decode cX4_sumStoredCount 44 = .ok (.istore_n 3, 1) := dk_62 (dk_at dksX4_sumStoredCount_1 22 rfl rfl)
theorem dX4_sumStoredCount_45 : decode cX4_sumStoredCount 45 = .ok (.iconst 0, 1) := dk_3 (dk_at dksX4_sumStoredCount_1 23 rfl rfl)
theorem dX4_sumStoredCount_46 : decode cX4_sumStoredCount 46 = .ok (.istore 4, 2) := dk_54 4 (dk_at dksX4_sumStoredCount_2 0 rfl rfl)
theorem dX4_sumStoredCount_48 : decode cX4_sumStoredCount 48 = .ok (.iload 4, 2) := dk_21 4 (dk_at dksX4_sumStoredCount_2 2 rfl rfl)
theorem dX4_sumStoredCount_50 : decode cX4_sumStoredCount 50 = .ok (.sipush 144, 3) := dk_17 0 144 (dk_at dksX4_sumStoredCount_2 4 rfl rfl)
theorem dX4_sumStoredCount_53 : decode cX4_sumStoredCount 53 = .ok (.if_icmp .ge 43, 3) := dk_162 0 43 (dk_at dksX4_sumStoredCount_2 7 rfl rfl)
theorem dX4_sumStoredCount_56 : decode cX4_sumStoredCount 56 = .ok (.iload_n 3, 1) := dk_29 (dk_at dksX4_sumStoredCount_2 10 rfl rfl)
theorem dX4_sumStoredCount_57 : decode cX4_sumStoredCount 57 = .ok (.aload_n 0, 1) := dk_42 (dk_at dksX4_sumStoredCount_2 11 rfl rfl)
theorem dX4_sumStoredCount_58 : decode cX4_sumStoredCount 58 = .ok (.getfield 20, 3) := dk_180 0 20 (dk_at dksX4_sumStoredCount_2 12 rfl rfl)
theorem dX4_sumStoredCount_61 : decode cX4_sumStoredCount 61 = .ok (.sipush 290, 3) := dk_17 1 34 (dk_at dksX4_sumStoredCount_2 15 rfl rfl)
theorem dX4_sumStoredCount_64 : decode cX4_sumStoredCount 64 = .ok (.iload_n 1, 1) := dk_27 (dk_at dksX4_sumStoredCount_2 18 rfl rfl)
theorem dX4_sumStoredCount_65 : decode cX4_sumStoredCount 65 = .ok (.imul, 1) := dk_104 (dk_at dksX4_sumStoredCount_2 19 rfl rfl)
theorem dX4_sumStoredCount_66 : decode cX4_sumStoredCount 66 = .ok (.iconst 2, 1) := dk_5 (dk_at dksX4_sumStoredCount_2 20 rfl rfl)
theorem dX4_sumStoredCount_67 : decode cX4_sumStoredCount 67 = .ok (.iadd, 1) := dk_96 (dk_at dksX4_sumStoredCount_2 21 rfl rfl)
theorem dX4_sumStoredCount_68 : decode cX4_sumStoredCount 68 = .ok (.iload 4, 2) := dk_21 4 (dk_at dksX4_sumStoredCount_2 22 rfl rfl)
theorem dX4_sumStoredCount_70 : decode cX4_sumStoredCount 70 = .ok (.iadd, 1) := dk_96 (dk_at dksX4_sumStoredCount_3 0 rfl rfl)
theorem dX4_sumStoredCount_71 : decode cX4_sumStoredCount 71 = .ok (.iaload, 1) := dk_46 (dk_at dksX4_sumStoredCount_3 1 rfl rfl)
theorem dX4_sumStoredCount_72 : decode cX4_sumStoredCount 72 = .ok (.aload_n 0, 1) := dk_42 (dk_at dksX4_sumStoredCount_3 2 rfl rfl)
theorem dX4_sumStoredCount_73 : decode cX4_sumStoredCount 73 = .ok (.getfield 20, 3) := dk_180 0 20 (dk_at dksX4_sumStoredCount_3 3 rfl rfl)
theorem dX4_sumStoredCount_76 : decode cX4_sumStoredCount 76 = .ok (.sipush 290, 3) := dk_17 1 34 (dk_at dksX4_sumStoredCount_3 6 rfl rfl)
theorem dX4_sumStoredCount_79 : decode cX4_sumStoredCount 79 = .ok (.iload_n 2, 1) := dk_28 (dk_at dksX4_sumStoredCount_3 9 rfl rfl)
theorem dX4_sumStoredCount_80 : decode cX4_sumStoredCount 80 = .ok (.imul, 1) := dk_104 (dk_at dksX4_sumStoredCount_3 10 rfl rfl)
theorem dX4_sumStoredCount_81 : decode cX4_sumStoredCount 81 = .ok (.iconst 2, 1) := dk_5 (dk_at dksX4_sumStoredCount_3 11 rfl rfl)
theorem dX4_sumStoredCount_82 : decode cX4_sumStoredCount 82 = .ok (.iadd, 1) := dk_96 (dk_at dksX4_sumStoredCount_3 12 rfl rfl)
theorem dX4_sumStoredCount_83 : decode cX4_sumStoredCount 83 = .ok (.iload 4, 2) := dk_21 4 (dk_at dksX4_sumStoredCount_3 13 rfl rfl)
theorem dX4_sumStoredCount_85 : decode cX4_sumStoredCount 85 = .ok (.iadd, 1) := dk_96 (dk_at dksX4_sumStoredCount_3 15 rfl rfl)
theorem dX4_sumStoredCount_86 : decode cX4_sumStoredCount 86 = .ok (.iaload, 1) := dk_46 (dk_at dksX4_sumStoredCount_3 16 rfl rfl)
theorem dX4_sumStoredCount_87 : decode cX4_sumStoredCount 87 = .ok (.ior, 1) := dk_128 (dk_at dksX4_sumStoredCount_3 17 rfl rfl)
theorem dX4_sumStoredCount_88 : decode cX4_sumStoredCount 88 = .ok (.iadd, 1) := dk_96 (dk_at dksX4_sumStoredCount_3 18 rfl rfl)
theorem dX4_sumStoredCount_89 : decode cX4_sumStoredCount 89 = .ok (.istore_n 3, 1) := dk_62 (dk_at dksX4_sumStoredCount_3 19 rfl rfl)
theorem dX4_sumStoredCount_90 : decode cX4_sumStoredCount 90 = .ok (.iinc 4 1, 3) := dk_132 4 1 (dk_at dksX4_sumStoredCount_3 20 rfl rfl)
theorem dX4_sumStoredCount_93 : decode cX4_sumStoredCount 93 = .ok (.goto (-45), 3) := dk_167 255 211 (dk_at dksX4_sumStoredCount_4 0 rfl rfl)
theorem dX4_sumStoredCount_96 : decode cX4_sumStoredCount 96 = .ok (.iload_n 3, 1) := dk_29 (dk_at dksX4_sumStoredCount_4 3 rfl rfl)
theorem dX4_sumStoredCount_97 : decode cX4_sumStoredCount 97 = .ok (.ireturn, 1) := dk_172 (dk_at dksX4_sumStoredCount_4 4 rfl rfl)
abbrev cX4_costliestEntry : ByteArray := prog_23_method_155_code
def yX4_costliestEntry : MethodName := ⟨RX4, "costliestEntry", "(II)I"⟩
def dkwX4_costliestEntry_1 : List UInt8 := [42, 27, 28, 182, 2, 7, 167, 0, 4, 2, 172]
abbrev dktX4_costliestEntry_1 : List UInt8 := dkwX4_costliestEntry_1 ++ []
def dkwX4_costliestEntry_0 : List UInt8 := [42, 42, 27, 28, 182, 1, 254, 182, 0, 87, 154, 0, 5, 3, 172, 42, 27, 28, 182, 2, 1, 153, 0, 12]
abbrev dktX4_costliestEntry_0 : List UInt8 := dkwX4_costliestEntry_0 ++ dktX4_costliestEntry_1
theorem dksX4_costliestEntry_0 : cX4_costliestEntry.data.toList.drop 0 = dktX4_costliestEntry_0 := by decide +kernel
theorem dksX4_costliestEntry_1 : cX4_costliestEntry.data.toList.drop 24 = dktX4_costliestEntry_1 := dk_seg dksX4_costliestEntry_0 24 rfl rfl
theorem dX4_costliestEntry_0 : decode cX4_costliestEntry 0 = .ok (.aload_n 0, 1) := dk_42 (dk_at dksX4_costliestEntry_0 0 rfl rfl)
theorem dX4_costliestEntry_1 : decode cX4_costliestEntry 1 = .ok (.aload_n 0, 1) := dk_42 (dk_at dksX4_costliestEntry_0 1 rfl rfl)
theorem dX4_costliestEntry_2 : decode cX4_costliestEntry 2 = .ok (.iload_n 1, 1) := dk_27 (dk_at dksX4_costliestEntry_0 2 rfl rfl)
theorem dX4_costliestEntry_3 : decode cX4_costliestEntry 3 = .ok (.iload_n 2, 1) := dk_28 (dk_at dksX4_costliestEntry_0 3 rfl rfl)
theorem dX4_costliestEntry_4 : decode cX4_costliestEntry 4 = .ok (.invokevirtual 510, 3) := dk_182 1 254 (dk_at dksX4_costliestEntry_0 4 rfl rfl)
theorem dX4_costliestEntry_7 : decode cX4_costliestEntry 7 = .ok (.invokevirtual 87, 3) := dk_182 0 87 (dk_at dksX4_costliestEntry_0 7 rfl rfl)
theorem dX4_costliestEntry_10 : decode cX4_costliestEntry 10 = .ok (.ifCond .ne 5, 3) := dk_154 0 5 (dk_at dksX4_costliestEntry_0 10 rfl rfl)
theorem dX4_costliestEntry_13 : decode cX4_costliestEntry 13 = .ok (.iconst 0, 1) := dk_3 (dk_at dksX4_costliestEntry_0 13 rfl rfl)
theorem dX4_costliestEntry_14 : decode cX4_costliestEntry 14 = .ok (.ireturn, 1) := dk_172 (dk_at dksX4_costliestEntry_0 14 rfl rfl)
theorem dX4_costliestEntry_15 : decode cX4_costliestEntry 15 = .ok (.aload_n 0, 1) := dk_42 (dk_at dksX4_costliestEntry_0 15 rfl rfl)
theorem dX4_costliestEntry_16 : decode cX4_costliestEntry 16 = .ok (.iload_n 1, 1) := dk_27 (dk_at dksX4_costliestEntry_0 16 rfl rfl)
theorem dX4_costliestEntry_17 : decode cX4_costliestEntry 17 = .ok (.iload_n 2, 1) := dk_28 (dk_at dksX4_costliestEntry_0 17 rfl rfl)
theorem dX4_costliestEntry_18 : decode cX4_costliestEntry 18 = .ok (.invokevirtual 513, 3) := dk_182 2 1 (dk_at dksX4_costliestEntry_0 18 rfl rfl)
theorem dX4_costliestEntry_21 : decode cX4_costliestEntry 21 = .ok (.ifCond .eq 12, 3) := dk_153 0 12 (dk_at dksX4_costliestEntry_0 21 rfl rfl)
theorem dX4_costliestEntry_24 : decode cX4_costliestEntry 24 = .ok (.aload_n 0, 1) := dk_42 (dk_at dksX4_costliestEntry_1 0 rfl rfl)
theorem dX4_costliestEntry_25 : decode cX4_costliestEntry 25 = .ok (.iload_n 1, 1) := dk_27 (dk_at dksX4_costliestEntry_1 1 rfl rfl)
theorem dX4_costliestEntry_26 : decode cX4_costliestEntry 26 = .ok (.iload_n 2, 1) := dk_28 (dk_at dksX4_costliestEntry_1 2 rfl rfl)
theorem dX4_costliestEntry_27 : decode cX4_costliestEntry 27 = .ok (.invokevirtual 519, 3) := dk_182 2 7 (dk_at dksX4_costliestEntry_1 3 rfl rfl)
theorem dX4_costliestEntry_30 : decode cX4_costliestEntry 30 = .ok (.goto 4, 3) := dk_167 0 4 (dk_at dksX4_costliestEntry_1 6 rfl rfl)
theorem dX4_costliestEntry_33 : decode cX4_costliestEntry 33 = .ok (.iconst (-1), 1) := dk_2 (dk_at dksX4_costliestEntry_1 9 rfl rfl)
theorem dX4_costliestEntry_34 : decode cX4_costliestEntry 34 = .ok (.ireturn, 1) := dk_172 (dk_at dksX4_costliestEntry_1 10 rfl rfl)
abbrev cX4_costliest : ByteArray := prog_23_method_154_code
def yX4_costliest : MethodName := ⟨RX4, "costliest", "(II)I"⟩
def dkwX4_costliest_4 : List UInt8 := [29, 172]
abbrev dktX4_costliest_4 : List UInt8 := dkwX4_costliest_4 ++ []
def dkwX4_costliest_3 : List UInt8 := [42, 28, 21, 7, 182, 1, 73, 54, 4, 132, 5, 1, 132, 7, 1, 167, 255, 194, 132, 6, 1, 167, 255, 175]
abbrev dktX4_costliest_3 : List UInt8 := dkwX4_costliest_3 ++ dktX4_costliest_4
def dkwX4_costliest_2 : List UInt8 := [184, 0, 197, 154, 0, 6, 167, 0, 30, 42, 28, 21, 7, 182, 1, 73, 21, 4, 164, 0, 15, 21, 5, 62]
abbrev dktX4_costliest_2 : List UInt8 := dkwX4_costliest_2 ++ dktX4_costliest_3
def dkwX4_costliest_1 : List UInt8 := [21, 7, 42, 27, 182, 1, 66, 162, 0, 58, 42, 180, 0, 20, 17, 1, 34, 27, 104, 21, 6, 21, 7]
abbrev dktX4_costliest_1 : List UInt8 := dkwX4_costliest_1 ++ dktX4_costliest_2
def dkwX4_costliest_0 : List UInt8 := [2, 62, 2, 54, 4, 3, 54, 5, 3, 54, 6, 21, 6, 42, 27, 182, 1, 60, 162, 0, 77, 3, 54, 7]
abbrev dktX4_costliest_0 : List UInt8 := dkwX4_costliest_0 ++ dktX4_costliest_1
theorem dksX4_costliest_0 : cX4_costliest.data.toList.drop 0 = dktX4_costliest_0 := by decide +kernel
theorem dksX4_costliest_1 : cX4_costliest.data.toList.drop 24 = dktX4_costliest_1 := dk_seg dksX4_costliest_0 24 rfl rfl
theorem dksX4_costliest_2 : cX4_costliest.data.toList.drop 47 = dktX4_costliest_2 := dk_seg dksX4_costliest_1 23 rfl rfl
theorem dksX4_costliest_3 : cX4_costliest.data.toList.drop 71 = dktX4_costliest_3 := dk_seg dksX4_costliest_2 24 rfl rfl
theorem dksX4_costliest_4 : cX4_costliest.data.toList.drop 95 = dktX4_costliest_4 := dk_seg dksX4_costliest_3 24 rfl rfl
theorem dX4_costliest_0 : decode cX4_costliest 0 = .ok (.iconst (-1), 1) := dk_2 (dk_at dksX4_costliest_0 0 rfl rfl)
theorem dX4_costliest_1 : decode cX4_costliest 1 = .ok (.istore_n 3, 1) := dk_62 (dk_at dksX4_costliest_0 1 rfl rfl)
theorem dX4_costliest_2 : decode cX4_costliest 2 = .ok (.iconst (-1), 1) := dk_2 (dk_at dksX4_costliest_0 2 rfl rfl)
theorem dX4_costliest_3 : decode cX4_costliest 3 = .ok (.istore 4, 2) := dk_54 4 (dk_at dksX4_costliest_0 3 rfl rfl)
theorem dX4_costliest_5 : decode cX4_costliest 5 = .ok (.iconst 0, 1) := dk_3 (dk_at dksX4_costliest_0 5 rfl rfl)
theorem dX4_costliest_6 : decode cX4_costliest 6 = .ok (.istore 5, 2) := dk_54 5 (dk_at dksX4_costliest_0 6 rfl rfl)
theorem dX4_costliest_8 : decode cX4_costliest 8 = .ok (.iconst 0, 1) := dk_3 (dk_at dksX4_costliest_0 8 rfl rfl)
theorem dX4_costliest_9 : decode cX4_costliest 9 = .ok (.istore 6, 2) := dk_54 6 (dk_at dksX4_costliest_0 9 rfl rfl)
theorem dX4_costliest_11 : decode cX4_costliest 11 = .ok (.iload 6, 2) := dk_21 6 (dk_at dksX4_costliest_0 11 rfl rfl)
theorem dX4_costliest_13 : decode cX4_costliest 13 = .ok (.aload_n 0, 1) := dk_42 (dk_at dksX4_costliest_0 13 rfl rfl)
theorem dX4_costliest_14 : decode cX4_costliest 14 = .ok (.iload_n 1, 1) := dk_27 (dk_at dksX4_costliest_0 14 rfl rfl)
theorem dX4_costliest_15 : decode cX4_costliest 15 = .ok (.invokevirtual 316, 3) := dk_182 1 60 (dk_at dksX4_costliest_0 15 rfl rfl)
theorem dX4_costliest_18 : decode cX4_costliest 18 = .ok (.if_icmp .ge 77, 3) := dk_162 0 77 (dk_at dksX4_costliest_0 18 rfl rfl)
theorem dX4_costliest_21 : decode cX4_costliest 21 = .ok (.iconst 0, 1) := dk_3 (dk_at dksX4_costliest_0 21 rfl rfl)
theorem dX4_costliest_22 : decode cX4_costliest 22 = .ok (.istore 7, 2) := dk_54 7 (dk_at dksX4_costliest_0 22 rfl rfl)
theorem dX4_costliest_24 : decode cX4_costliest 24 = .ok (.iload 7, 2) := dk_21 7 (dk_at dksX4_costliest_1 0 rfl rfl)
theorem dX4_costliest_26 : decode cX4_costliest 26 = .ok (.aload_n 0, 1) := dk_42 (dk_at dksX4_costliest_1 2 rfl rfl)
theorem dX4_costliest_27 : decode cX4_costliest 27 = .ok (.iload_n 1, 1) := dk_27 (dk_at dksX4_costliest_1 3 rfl rfl)
theorem dX4_costliest_28 : decode cX4_costliest 28 = .ok (.invokevirtual 322, 3) := dk_182 1 66 (dk_at dksX4_costliest_1 4 rfl rfl)
theorem dX4_costliest_31 : decode cX4_costliest 31 = .ok (.if_icmp .ge 58, 3) := dk_162 0 58 (dk_at dksX4_costliest_1 7 rfl rfl)
theorem dX4_costliest_34 : decode cX4_costliest 34 = .ok (.aload_n 0, 1) := dk_42 (dk_at dksX4_costliest_1 10 rfl rfl)
theorem dX4_costliest_35 : decode cX4_costliest 35 = .ok (.getfield 20, 3) := dk_180 0 20 (dk_at dksX4_costliest_1 11 rfl rfl)
theorem dX4_costliest_38 : decode cX4_costliest 38 = .ok (.sipush 290, 3) := dk_17 1 34 (dk_at dksX4_costliest_1 14 rfl rfl)
theorem dX4_costliest_41 : decode cX4_costliest 41 = .ok (.iload_n 1, 1) := dk_27 (dk_at dksX4_costliest_1 17 rfl rfl)
theorem dX4_costliest_42 : decode cX4_costliest 42 = .ok (.imul, 1) := dk_104 (dk_at dksX4_costliest_1 18 rfl rfl)
theorem dX4_costliest_43 : decode cX4_costliest 43 = .ok (.iload 6, 2) := dk_21 6 (dk_at dksX4_costliest_1 19 rfl rfl)
theorem dX4_costliest_45 : decode cX4_costliest 45 = .ok (.iload 7, 2) := dk_21 7 (dk_at dksX4_costliest_1 21 rfl rfl)
theorem dX4_costliest_47 : decode cX4_costliest 47 = .ok (.invokestatic 197, 3) := dk_184 0 197 (dk_at dksX4_costliest_2 0 rfl rfl)
theorem dX4_costliest_50 : decode cX4_costliest 50 = .ok (.ifCond .ne 6, 3) := dk_154 0 6 (dk_at dksX4_costliest_2 3 rfl rfl)
theorem dX4_costliest_53 : decode cX4_costliest 53 = .ok (.goto 30, 3) := dk_167 0 30 (dk_at dksX4_costliest_2 6 rfl rfl)
theorem dX4_costliest_56 : decode cX4_costliest 56 = .ok (.aload_n 0, 1) := dk_42 (dk_at dksX4_costliest_2 9 rfl rfl)
theorem dX4_costliest_57 : decode cX4_costliest 57 = .ok (.iload_n 2, 1) := dk_28 (dk_at dksX4_costliest_2 10 rfl rfl)
theorem dX4_costliest_58 : decode cX4_costliest 58 = .ok (.iload 7, 2) := dk_21 7 (dk_at dksX4_costliest_2 11 rfl rfl)
theorem dX4_costliest_60 : decode cX4_costliest 60 = .ok (.invokevirtual 329, 3) := dk_182 1 73 (dk_at dksX4_costliest_2 13 rfl rfl)
theorem dX4_costliest_63 : decode cX4_costliest 63 = .ok (.iload 4, 2) := dk_21 4 (dk_at dksX4_costliest_2 16 rfl rfl)
theorem dX4_costliest_65 : decode cX4_costliest 65 = .ok (.if_icmp .le 15, 3) := dk_164 0 15 (dk_at dksX4_costliest_2 18 rfl rfl)
theorem dX4_costliest_68 : decode cX4_costliest 68 = .ok (.iload 5, 2) := dk_21 5 (dk_at dksX4_costliest_2 21 rfl rfl)
theorem dX4_costliest_70 : decode cX4_costliest 70 = .ok (.istore_n 3, 1) := dk_62 (dk_at dksX4_costliest_2 23 rfl rfl)
theorem dX4_costliest_71 : decode cX4_costliest 71 = .ok (.aload_n 0, 1) := dk_42 (dk_at dksX4_costliest_3 0 rfl rfl)
theorem dX4_costliest_72 : decode cX4_costliest 72 = .ok (.iload_n 2, 1) := dk_28 (dk_at dksX4_costliest_3 1 rfl rfl)
theorem dX4_costliest_73 : decode cX4_costliest 73 = .ok (.iload 7, 2) := dk_21 7 (dk_at dksX4_costliest_3 2 rfl rfl)
theorem dX4_costliest_75 : decode cX4_costliest 75 = .ok (.invokevirtual 329, 3) := dk_182 1 73 (dk_at dksX4_costliest_3 4 rfl rfl)
theorem dX4_costliest_78 : decode cX4_costliest 78 = .ok (.istore 4, 2) := dk_54 4 (dk_at dksX4_costliest_3 7 rfl rfl)
theorem dX4_costliest_80 : decode cX4_costliest 80 = .ok (.iinc 5 1, 3) := dk_132 5 1 (dk_at dksX4_costliest_3 9 rfl rfl)
theorem dX4_costliest_83 : decode cX4_costliest 83 = .ok (.iinc 7 1, 3) := dk_132 7 1 (dk_at dksX4_costliest_3 12 rfl rfl)
theorem dX4_costliest_86 : decode cX4_costliest 86 = .ok (.goto (-62), 3) := dk_167 255 194 (dk_at dksX4_costliest_3 15 rfl rfl)
theorem dX4_costliest_89 : decode cX4_costliest 89 = .ok (.iinc 6 1, 3) := dk_132 6 1 (dk_at dksX4_costliest_3 18 rfl rfl)
theorem dX4_costliest_92 : decode cX4_costliest 92 = .ok (.goto (-81), 3) := dk_167 255 175 (dk_at dksX4_costliest_3 21 rfl rfl)
theorem dX4_costliest_95 : decode cX4_costliest 95 = .ok (.iload_n 3, 1) := dk_29 (dk_at dksX4_costliest_4 0 rfl rfl)
theorem dX4_costliest_96 : decode cX4_costliest 96 = .ok (.ireturn, 1) := dk_172 (dk_at dksX4_costliest_4 1 rfl rfl)
abbrev cX4_totalWork : ByteArray := prog_23_method_156_code
def yX4_totalWork : MethodName := ⟨RX4, "totalWork", "()I"⟩
def dkwX4_totalWork_0 : List UInt8 := [42, 42, 180, 0, 20, 17, 4, 136, 46, 182, 2, 10, 172]
abbrev dktX4_totalWork_0 : List UInt8 := dkwX4_totalWork_0 ++ []
theorem dksX4_totalWork_0 : cX4_totalWork.data.toList.drop 0 = dktX4_totalWork_0 := by decide +kernel
theorem dX4_totalWork_0 : decode cX4_totalWork 0 = .ok (.aload_n 0, 1) := dk_42 (dk_at dksX4_totalWork_0 0 rfl rfl)
theorem dX4_totalWork_1 : decode cX4_totalWork 1 = .ok (.aload_n 0, 1) := dk_42 (dk_at dksX4_totalWork_0 1 rfl rfl)
theorem dX4_totalWork_2 : decode cX4_totalWork 2 = .ok (.getfield 20, 3) := dk_180 0 20 (dk_at dksX4_totalWork_0 2 rfl rfl)
theorem dX4_totalWork_5 : decode cX4_totalWork 5 = .ok (.sipush 1160, 3) := dk_17 4 136 (dk_at dksX4_totalWork_0 5 rfl rfl)
theorem dX4_totalWork_8 : decode cX4_totalWork 8 = .ok (.iaload, 1) := dk_46 (dk_at dksX4_totalWork_0 8 rfl rfl)
theorem dX4_totalWork_9 : decode cX4_totalWork 9 = .ok (.invokevirtual 522, 3) := dk_182 2 10 (dk_at dksX4_totalWork_0 9 rfl rfl)
theorem dX4_totalWork_12 : decode cX4_totalWork 12 = .ok (.ireturn, 1) := dk_172 (dk_at dksX4_totalWork_0 12 rfl rfl)
abbrev cX4_told : ByteArray := prog_23_method_111_code
def yX4_told : MethodName := ⟨RX4, "told", "(I)I"⟩
def dkwX4_told_0 : List UInt8 := [42, 3, 181, 0, 77, 27, 172]
abbrev dktX4_told_0 : List UInt8 := dkwX4_told_0 ++ []
theorem dksX4_told_0 : cX4_told.data.toList.drop 0 = dktX4_told_0 := by decide +kernel
theorem dX4_told_0 : decode cX4_told 0 = .ok (.aload_n 0, 1) := dk_42 (dk_at dksX4_told_0 0 rfl rfl)
theorem dX4_told_1 : decode cX4_told 1 = .ok (.iconst 0, 1) := dk_3 (dk_at dksX4_told_0 1 rfl rfl)
theorem dX4_told_2 : decode cX4_told 2 = .ok (.putfield 77, 3) := dk_181 0 77 (dk_at dksX4_told_0 2 rfl rfl)
theorem dX4_told_5 : decode cX4_told 5 = .ok (.iload_n 1, 1) := dk_27 (dk_at dksX4_told_0 5 rfl rfl)
theorem dX4_told_6 : decode cX4_told 6 = .ok (.ireturn, 1) := dk_172 (dk_at dksX4_told_0 6 rfl rfl)
abbrev cX4_violations : ByteArray := prog_23_method_162_code
def yX4_violations : MethodName := ⟨RX4, "violations", "()I"⟩
def dkwX4_violations_2 : List UInt8 := [60, 132, 3, 1, 167, 255, 236, 132, 2, 1, 167, 255, 209, 27, 172]
abbrev dktX4_violations_2 : List UInt8 := dkwX4_violations_2 ++ []
def dkwX4_violations_1 : List UInt8 := [182, 2, 23, 96, 96, 60, 3, 62, 29, 7, 162, 0, 21, 27, 42, 28, 29, 182, 2, 26, 184, 0, 80, 96]
abbrev dktX4_violations_1 : List UInt8 := dkwX4_violations_1 ++ dktX4_violations_2
def dkwX4_violations_0 : List UInt8 := [42, 3, 181, 0, 77, 3, 60, 3, 61, 28, 7, 162, 0, 48, 27, 42, 28, 182, 2, 20, 42, 28]
abbrev dktX4_violations_0 : List UInt8 := dkwX4_violations_0 ++ dktX4_violations_1
theorem dksX4_violations_0 : cX4_violations.data.toList.drop 0 = dktX4_violations_0 := by decide +kernel
theorem dksX4_violations_1 : cX4_violations.data.toList.drop 22 = dktX4_violations_1 := dk_seg dksX4_violations_0 22 rfl rfl
theorem dksX4_violations_2 : cX4_violations.data.toList.drop 46 = dktX4_violations_2 := dk_seg dksX4_violations_1 24 rfl rfl
theorem dX4_violations_0 : decode cX4_violations 0 = .ok (.aload_n 0, 1) := dk_42 (dk_at dksX4_violations_0 0 rfl rfl)
theorem dX4_violations_1 : decode cX4_violations 1 = .ok (.iconst 0, 1) := dk_3 (dk_at dksX4_violations_0 1 rfl rfl)
theorem dX4_violations_2 : decode cX4_violations 2 = .ok (.putfield 77, 3) := dk_181 0 77 (dk_at dksX4_violations_0 2 rfl rfl)
theorem dX4_violations_5 : decode cX4_violations 5 = .ok (.iconst 0, 1) := dk_3 (dk_at dksX4_violations_0 5 rfl rfl)
theorem dX4_violations_6 : decode cX4_violations 6 = .ok (.istore_n 1, 1) := dk_60 (dk_at dksX4_violations_0 6 rfl rfl)
theorem dX4_violations_7 : decode cX4_violations 7 = .ok (.iconst 0, 1) := dk_3 (dk_at dksX4_violations_0 7 rfl rfl)
theorem dX4_violations_8 : decode cX4_violations 8 = .ok (.istore_n 2, 1) := dk_61 (dk_at dksX4_violations_0 8 rfl rfl)
theorem dX4_violations_9 : decode cX4_violations 9 = .ok (.iload_n 2, 1) := dk_28 (dk_at dksX4_violations_0 9 rfl rfl)
theorem dX4_violations_10 : decode cX4_violations 10 = .ok (.iconst 4, 1) := dk_7 (dk_at dksX4_violations_0 10 rfl rfl)
theorem dX4_violations_11 : decode cX4_violations 11 = .ok (.if_icmp .ge 48, 3) := dk_162 0 48 (dk_at dksX4_violations_0 11 rfl rfl)
theorem dX4_violations_14 : decode cX4_violations 14 = .ok (.iload_n 1, 1) := dk_27 (dk_at dksX4_violations_0 14 rfl rfl)
theorem dX4_violations_15 : decode cX4_violations 15 = .ok (.aload_n 0, 1) := dk_42 (dk_at dksX4_violations_0 15 rfl rfl)
theorem dX4_violations_16 : decode cX4_violations 16 = .ok (.iload_n 2, 1) := dk_28 (dk_at dksX4_violations_0 16 rfl rfl)
theorem dX4_violations_17 : decode cX4_violations 17 = .ok (.invokevirtual 532, 3) := dk_182 2 20 (dk_at dksX4_violations_0 17 rfl rfl)
theorem dX4_violations_20 : decode cX4_violations 20 = .ok (.aload_n 0, 1) := dk_42 (dk_at dksX4_violations_0 20 rfl rfl)
theorem dX4_violations_21 : decode cX4_violations 21 = .ok (.iload_n 2, 1) := dk_28 (dk_at dksX4_violations_0 21 rfl rfl)
theorem dX4_violations_22 : decode cX4_violations 22 = .ok (.invokevirtual 535, 3) := dk_182 2 23 (dk_at dksX4_violations_1 0 rfl rfl)
theorem dX4_violations_25 : decode cX4_violations 25 = .ok (.iadd, 1) := dk_96 (dk_at dksX4_violations_1 3 rfl rfl)
theorem dX4_violations_26 : decode cX4_violations 26 = .ok (.iadd, 1) := dk_96 (dk_at dksX4_violations_1 4 rfl rfl)
theorem dX4_violations_27 : decode cX4_violations 27 = .ok (.istore_n 1, 1) := dk_60 (dk_at dksX4_violations_1 5 rfl rfl)
theorem dX4_violations_28 : decode cX4_violations 28 = .ok (.iconst 0, 1) := dk_3 (dk_at dksX4_violations_1 6 rfl rfl)
theorem dX4_violations_29 : decode cX4_violations 29 = .ok (.istore_n 3, 1) := dk_62 (dk_at dksX4_violations_1 7 rfl rfl)
theorem dX4_violations_30 : decode cX4_violations 30 = .ok (.iload_n 3, 1) := dk_29 (dk_at dksX4_violations_1 8 rfl rfl)
theorem dX4_violations_31 : decode cX4_violations 31 = .ok (.iconst 4, 1) := dk_7 (dk_at dksX4_violations_1 9 rfl rfl)
theorem dX4_violations_32 : decode cX4_violations 32 = .ok (.if_icmp .ge 21, 3) := dk_162 0 21 (dk_at dksX4_violations_1 10 rfl rfl)
theorem dX4_violations_35 : decode cX4_violations 35 = .ok (.iload_n 1, 1) := dk_27 (dk_at dksX4_violations_1 13 rfl rfl)
theorem dX4_violations_36 : decode cX4_violations 36 = .ok (.aload_n 0, 1) := dk_42 (dk_at dksX4_violations_1 14 rfl rfl)
theorem dX4_violations_37 : decode cX4_violations 37 = .ok (.iload_n 2, 1) := dk_28 (dk_at dksX4_violations_1 15 rfl rfl)
theorem dX4_violations_38 : decode cX4_violations 38 = .ok (.iload_n 3, 1) := dk_29 (dk_at dksX4_violations_1 16 rfl rfl)
theorem dX4_violations_39 : decode cX4_violations 39 = .ok (.invokevirtual 538, 3) := dk_182 2 26 (dk_at dksX4_violations_1 17 rfl rfl)
theorem dX4_violations_42 : decode cX4_violations 42 = .ok (.invokestatic 80, 3) := dk_184 0 80 (dk_at dksX4_violations_1 20 rfl rfl)
theorem dX4_violations_45 : decode cX4_violations 45 = .ok (.iadd, 1) := dk_96 (dk_at dksX4_violations_1 23 rfl rfl)
theorem dX4_violations_46 : decode cX4_violations 46 = .ok (.istore_n 1, 1) := dk_60 (dk_at dksX4_violations_2 0 rfl rfl)
theorem dX4_violations_47 : decode cX4_violations 47 = .ok (.iinc 3 1, 3) := dk_132 3 1 (dk_at dksX4_violations_2 1 rfl rfl)
theorem dX4_violations_50 : decode cX4_violations 50 = .ok (.goto (-20), 3) := dk_167 255 236 (dk_at dksX4_violations_2 4 rfl rfl)
theorem dX4_violations_53 : decode cX4_violations 53 = .ok (.iinc 2 1, 3) := dk_132 2 1 (dk_at dksX4_violations_2 7 rfl rfl)
theorem dX4_violations_56 : decode cX4_violations 56 = .ok (.goto (-47), 3) := dk_167 255 209 (dk_at dksX4_violations_2 10 rfl rfl)
theorem dX4_violations_59 : decode cX4_violations 59 = .ok (.iload_n 1, 1) := dk_27 (dk_at dksX4_violations_2 13 rfl rfl)
theorem dX4_violations_60 : decode cX4_violations 60 = .ok (.ireturn, 1) := dk_172 (dk_at dksX4_violations_2 14 rfl rfl)
abbrev cX4_pointerFaults : ByteArray := prog_23_method_157_code
def yX4_pointerFaults : MethodName := ⟨RX4, "pointerFaults", "(I)I"⟩
def dkwX4_pointerFaults_3 : List UInt8 := [182, 1, 218, 163, 0, 7, 4, 167, 0, 4, 3, 184, 0, 80, 96, 61, 132, 3, 1, 167, 255, 216, 28, 172]
abbrev dktX4_pointerFaults_3 : List UInt8 := dkwX4_pointerFaults_3 ++ []
def dkwX4_pointerFaults_2 : List UInt8 := [62, 29, 42, 27, 182, 0, 217, 162, 0, 37, 28, 42, 27, 29, 182, 1, 218, 42, 27, 29, 4, 100]
abbrev dktX4_pointerFaults_2 : List UInt8 := dkwX4_pointerFaults_2 ++ dktX4_pointerFaults_3
def dkwX4_pointerFaults_1 : List UInt8 := [29, 182, 1, 76, 162, 0, 7, 4, 167, 0, 4, 3, 184, 0, 80, 96, 61, 132, 3, 1, 167, 255, 216, 4]
abbrev dktX4_pointerFaults_1 : List UInt8 := dkwX4_pointerFaults_1 ++ dktX4_pointerFaults_2
def dkwX4_pointerFaults_0 : List UInt8 := [3, 61, 3, 62, 29, 42, 27, 182, 1, 60, 162, 0, 37, 28, 42, 27, 29, 4, 96, 182, 1, 76, 42, 27]
abbrev dktX4_pointerFaults_0 : List UInt8 := dkwX4_pointerFaults_0 ++ dktX4_pointerFaults_1
theorem dksX4_pointerFaults_0 : cX4_pointerFaults.data.toList.drop 0 = dktX4_pointerFaults_0 := by decide +kernel
theorem dksX4_pointerFaults_1 : cX4_pointerFaults.data.toList.drop 24 = dktX4_pointerFaults_1 := dk_seg dksX4_pointerFaults_0 24 rfl rfl
theorem dksX4_pointerFaults_2 : cX4_pointerFaults.data.toList.drop 48 = dktX4_pointerFaults_2 := dk_seg dksX4_pointerFaults_1 24 rfl rfl
theorem dksX4_pointerFaults_3 : cX4_pointerFaults.data.toList.drop 70 = dktX4_pointerFaults_3 := dk_seg dksX4_pointerFaults_2 22 rfl rfl
theorem dX4_pointerFaults_0 : decode cX4_pointerFaults 0 = .ok (.iconst 0, 1) := dk_3 (dk_at dksX4_pointerFaults_0 0 rfl rfl)
theorem dX4_pointerFaults_1 : decode cX4_pointerFaults 1 = .ok (.istore_n 2, 1) := dk_61 (dk_at dksX4_pointerFaults_0 1 rfl rfl)
theorem dX4_pointerFaults_2 : decode cX4_pointerFaults 2 = .ok (.iconst 0, 1) := dk_3 (dk_at dksX4_pointerFaults_0 2 rfl rfl)
theorem dX4_pointerFaults_3 : decode cX4_pointerFaults 3 = .ok (.istore_n 3, 1) := dk_62 (dk_at dksX4_pointerFaults_0 3 rfl rfl)
theorem dX4_pointerFaults_4 : decode cX4_pointerFaults 4 = .ok (.iload_n 3, 1) := dk_29 (dk_at dksX4_pointerFaults_0 4 rfl rfl)
theorem dX4_pointerFaults_5 : decode cX4_pointerFaults 5 = .ok (.aload_n 0, 1) := dk_42 (dk_at dksX4_pointerFaults_0 5 rfl rfl)
theorem dX4_pointerFaults_6 : decode cX4_pointerFaults 6 = .ok (.iload_n 1, 1) := dk_27 (dk_at dksX4_pointerFaults_0 6 rfl rfl)
theorem dX4_pointerFaults_7 : decode cX4_pointerFaults 7 = .ok (.invokevirtual 316, 3) := dk_182 1 60 (dk_at dksX4_pointerFaults_0 7 rfl rfl)
theorem dX4_pointerFaults_10 : decode cX4_pointerFaults 10 = .ok (.if_icmp .ge 37, 3) := dk_162 0 37 (dk_at dksX4_pointerFaults_0 10 rfl rfl)
theorem dX4_pointerFaults_13 : decode cX4_pointerFaults 13 = .ok (.iload_n 2, 1) := dk_28 (dk_at dksX4_pointerFaults_0 13 rfl rfl)
theorem dX4_pointerFaults_14 : decode cX4_pointerFaults 14 = .ok (.aload_n 0, 1) := dk_42 (dk_at dksX4_pointerFaults_0 14 rfl rfl)
theorem dX4_pointerFaults_15 : decode cX4_pointerFaults 15 = .ok (.iload_n 1, 1) := dk_27 (dk_at dksX4_pointerFaults_0 15 rfl rfl)
theorem dX4_pointerFaults_16 : decode cX4_pointerFaults 16 = .ok (.iload_n 3, 1) := dk_29 (dk_at dksX4_pointerFaults_0 16 rfl rfl)
theorem dX4_pointerFaults_17 : decode cX4_pointerFaults 17 = .ok (.iconst 1, 1) := dk_4 (dk_at dksX4_pointerFaults_0 17 rfl rfl)
theorem dX4_pointerFaults_18 : decode cX4_pointerFaults 18 = .ok (.iadd, 1) := dk_96 (dk_at dksX4_pointerFaults_0 18 rfl rfl)
theorem dX4_pointerFaults_19 : decode cX4_pointerFaults 19 = .ok (.invokevirtual 332, 3) := dk_182 1 76 (dk_at dksX4_pointerFaults_0 19 rfl rfl)
theorem dX4_pointerFaults_22 : decode cX4_pointerFaults 22 = .ok (.aload_n 0, 1) := dk_42 (dk_at dksX4_pointerFaults_0 22 rfl rfl)
theorem dX4_pointerFaults_23 : decode cX4_pointerFaults 23 = .ok (.iload_n 1, 1) := dk_27 (dk_at dksX4_pointerFaults_0 23 rfl rfl)
theorem dX4_pointerFaults_24 : decode cX4_pointerFaults 24 = .ok (.iload_n 3, 1) := dk_29 (dk_at dksX4_pointerFaults_1 0 rfl rfl)
theorem dX4_pointerFaults_25 : decode cX4_pointerFaults 25 = .ok (.invokevirtual 332, 3) := dk_182 1 76 (dk_at dksX4_pointerFaults_1 1 rfl rfl)
theorem dX4_pointerFaults_28 : decode cX4_pointerFaults 28 = .ok (.if_icmp .ge 7, 3) := dk_162 0 7 (dk_at dksX4_pointerFaults_1 4 rfl rfl)
theorem dX4_pointerFaults_31 : decode cX4_pointerFaults 31 = .ok (.iconst 1, 1) := dk_4 (dk_at dksX4_pointerFaults_1 7 rfl rfl)
theorem dX4_pointerFaults_32 : decode cX4_pointerFaults 32 = .ok (.goto 4, 3) := dk_167 0 4 (dk_at dksX4_pointerFaults_1 8 rfl rfl)
theorem dX4_pointerFaults_35 : decode cX4_pointerFaults 35 = .ok (.iconst 0, 1) := dk_3 (dk_at dksX4_pointerFaults_1 11 rfl rfl)
theorem dX4_pointerFaults_36 : decode cX4_pointerFaults 36 = .ok (.invokestatic 80, 3) := dk_184 0 80 (dk_at dksX4_pointerFaults_1 12 rfl rfl)
theorem dX4_pointerFaults_39 : decode cX4_pointerFaults 39 = .ok (.iadd, 1) := dk_96 (dk_at dksX4_pointerFaults_1 15 rfl rfl)
theorem dX4_pointerFaults_40 : decode cX4_pointerFaults 40 = .ok (.istore_n 2, 1) := dk_61 (dk_at dksX4_pointerFaults_1 16 rfl rfl)
theorem dX4_pointerFaults_41 : decode cX4_pointerFaults 41 = .ok (.iinc 3 1, 3) := dk_132 3 1 (dk_at dksX4_pointerFaults_1 17 rfl rfl)
theorem dX4_pointerFaults_44 : decode cX4_pointerFaults 44 = .ok (.goto (-40), 3) := dk_167 255 216 (dk_at dksX4_pointerFaults_1 20 rfl rfl)
theorem dX4_pointerFaults_47 : decode cX4_pointerFaults 47 = .ok (.iconst 1, 1) := dk_4 (dk_at dksX4_pointerFaults_1 23 rfl rfl)
theorem dX4_pointerFaults_48 : decode cX4_pointerFaults 48 = .ok (.istore_n 3, 1) := dk_62 (dk_at dksX4_pointerFaults_2 0 rfl rfl)
theorem dX4_pointerFaults_49 : decode cX4_pointerFaults 49 = .ok (.iload_n 3, 1) := dk_29 (dk_at dksX4_pointerFaults_2 1 rfl rfl)
theorem dX4_pointerFaults_50 : decode cX4_pointerFaults 50 = .ok (.aload_n 0, 1) := dk_42 (dk_at dksX4_pointerFaults_2 2 rfl rfl)
theorem dX4_pointerFaults_51 : decode cX4_pointerFaults 51 = .ok (.iload_n 1, 1) := dk_27 (dk_at dksX4_pointerFaults_2 3 rfl rfl)
theorem dX4_pointerFaults_52 : decode cX4_pointerFaults 52 = .ok (.invokevirtual 217, 3) := dk_182 0 217 (dk_at dksX4_pointerFaults_2 4 rfl rfl)
theorem dX4_pointerFaults_55 : decode cX4_pointerFaults 55 = .ok (.if_icmp .ge 37, 3) := dk_162 0 37 (dk_at dksX4_pointerFaults_2 7 rfl rfl)
theorem dX4_pointerFaults_58 : decode cX4_pointerFaults 58 = .ok (.iload_n 2, 1) := dk_28 (dk_at dksX4_pointerFaults_2 10 rfl rfl)
theorem dX4_pointerFaults_59 : decode cX4_pointerFaults 59 = .ok (.aload_n 0, 1) := dk_42 (dk_at dksX4_pointerFaults_2 11 rfl rfl)
theorem dX4_pointerFaults_60 : decode cX4_pointerFaults 60 = .ok (.iload_n 1, 1) := dk_27 (dk_at dksX4_pointerFaults_2 12 rfl rfl)
theorem dX4_pointerFaults_61 : decode cX4_pointerFaults 61 = .ok (.iload_n 3, 1) := dk_29 (dk_at dksX4_pointerFaults_2 13 rfl rfl)
theorem dX4_pointerFaults_62 : decode cX4_pointerFaults 62 = .ok (.invokevirtual 474, 3) := dk_182 1 218 (dk_at dksX4_pointerFaults_2 14 rfl rfl)
theorem dX4_pointerFaults_65 : decode cX4_pointerFaults 65 = .ok (.aload_n 0, 1) := dk_42 (dk_at dksX4_pointerFaults_2 17 rfl rfl)
theorem dX4_pointerFaults_66 : decode cX4_pointerFaults 66 = .ok (.iload_n 1, 1) := dk_27 (dk_at dksX4_pointerFaults_2 18 rfl rfl)
theorem dX4_pointerFaults_67 : decode cX4_pointerFaults 67 = .ok (.iload_n 3, 1) := dk_29 (dk_at dksX4_pointerFaults_2 19 rfl rfl)
theorem dX4_pointerFaults_68 : decode cX4_pointerFaults 68 = .ok (.iconst 1, 1) := dk_4 (dk_at dksX4_pointerFaults_2 20 rfl rfl)
theorem dX4_pointerFaults_69 : decode cX4_pointerFaults 69 = .ok (.isub, 1) := dk_100 (dk_at dksX4_pointerFaults_2 21 rfl rfl)
theorem dX4_pointerFaults_70 : decode cX4_pointerFaults 70 = .ok (.invokevirtual 474, 3) := dk_182 1 218 (dk_at dksX4_pointerFaults_3 0 rfl rfl)
theorem dX4_pointerFaults_73 : decode cX4_pointerFaults 73 = .ok (.if_icmp .gt 7, 3) := dk_163 0 7 (dk_at dksX4_pointerFaults_3 3 rfl rfl)
theorem dX4_pointerFaults_76 : decode cX4_pointerFaults 76 = .ok (.iconst 1, 1) := dk_4 (dk_at dksX4_pointerFaults_3 6 rfl rfl)
theorem dX4_pointerFaults_77 : decode cX4_pointerFaults 77 = .ok (.goto 4, 3) := dk_167 0 4 (dk_at dksX4_pointerFaults_3 7 rfl rfl)
theorem dX4_pointerFaults_80 : decode cX4_pointerFaults 80 = .ok (.iconst 0, 1) := dk_3 (dk_at dksX4_pointerFaults_3 10 rfl rfl)
theorem dX4_pointerFaults_81 : decode cX4_pointerFaults 81 = .ok (.invokestatic 80, 3) := dk_184 0 80 (dk_at dksX4_pointerFaults_3 11 rfl rfl)
theorem dX4_pointerFaults_84 : decode cX4_pointerFaults 84 = .ok (.iadd, 1) := dk_96 (dk_at dksX4_pointerFaults_3 14 rfl rfl)
theorem dX4_pointerFaults_85 : decode cX4_pointerFaults 85 = .ok (.istore_n 2, 1) := dk_61 (dk_at dksX4_pointerFaults_3 15 rfl rfl)
theorem dX4_pointerFaults_86 : decode cX4_pointerFaults 86 = .ok (.iinc 3 1, 3) := dk_132 3 1 (dk_at dksX4_pointerFaults_3 16 rfl rfl)
theorem dX4_pointerFaults_89 : decode cX4_pointerFaults 89 = .ok (.goto (-40), 3) := dk_167 255 216 (dk_at dksX4_pointerFaults_3 19 rfl rfl)
theorem dX4_pointerFaults_92 : decode cX4_pointerFaults 92 = .ok (.iload_n 2, 1) := dk_28 (dk_at dksX4_pointerFaults_3 22 rfl rfl)
theorem dX4_pointerFaults_93 : decode cX4_pointerFaults 93 = .ok (.ireturn, 1) := dk_172 (dk_at dksX4_pointerFaults_3 23 rfl rfl)
abbrev cX4_turnFault : ByteArray := prog_23_method_158_code
def yX4_turnFault : MethodName := ⟨RX4, "turnFault", "(I)I"⟩
def dkwX4_turnFault_2 : List UInt8 := [180, 0, 20, 17, 1, 34, 27, 104, 28, 96, 46, 159, 0, 5, 4, 172, 132, 2, 1, 167, 255, 223, 3, 172]
abbrev dktX4_turnFault_2 : List UInt8 := dkwX4_turnFault_2 ++ []
def dkwX4_turnFault_1 : List UInt8 := [4, 167, 0, 4, 3, 181, 1, 142, 3, 61, 28, 17, 1, 34, 162, 0, 32, 42, 180, 0, 32, 28, 46, 42]
abbrev dktX4_turnFault_1 : List UInt8 := dkwX4_turnFault_1 ++ dktX4_turnFault_2
def dkwX4_turnFault_0 : List UInt8 := [42, 182, 0, 238, 42, 27, 182, 0, 235, 42, 42, 182, 0, 223, 153, 0, 14, 42, 182, 0, 223, 153, 0, 7]
abbrev dktX4_turnFault_0 : List UInt8 := dkwX4_turnFault_0 ++ dktX4_turnFault_1
theorem dksX4_turnFault_0 : cX4_turnFault.data.toList.drop 0 = dktX4_turnFault_0 := by decide +kernel
theorem dksX4_turnFault_1 : cX4_turnFault.data.toList.drop 24 = dktX4_turnFault_1 := dk_seg dksX4_turnFault_0 24 rfl rfl
theorem dksX4_turnFault_2 : cX4_turnFault.data.toList.drop 48 = dktX4_turnFault_2 := dk_seg dksX4_turnFault_1 24 rfl rfl
theorem dX4_turnFault_0 : decode cX4_turnFault 0 = .ok (.aload_n 0, 1) := dk_42 (dk_at dksX4_turnFault_0 0 rfl rfl)
theorem dX4_turnFault_1 : decode cX4_turnFault 1 = .ok (.invokevirtual 238, 3) := dk_182 0 238 (dk_at dksX4_turnFault_0 1 rfl rfl)
theorem dX4_turnFault_4 : decode cX4_turnFault 4 = .ok (.aload_n 0, 1) := dk_42 (dk_at dksX4_turnFault_0 4 rfl rfl)
theorem dX4_turnFault_5 : decode cX4_turnFault 5 = .ok (.iload_n 1, 1) := dk_27 (dk_at dksX4_turnFault_0 5 rfl rfl)
theorem dX4_turnFault_6 : decode cX4_turnFault 6 = .ok (.invokevirtual 235, 3) := dk_182 0 235 (dk_at dksX4_turnFault_0 6 rfl rfl)
theorem dX4_turnFault_9 : decode cX4_turnFault 9 = .ok (.aload_n 0, 1) := dk_42 (dk_at dksX4_turnFault_0 9 rfl rfl)
theorem dX4_turnFault_10 : decode cX4_turnFault 10 = .ok (.aload_n 0, 1) := dk_42 (dk_at dksX4_turnFault_0 10 rfl rfl)
theorem dX4_turnFault_11 : decode cX4_turnFault 11 = .ok (.invokevirtual 223, 3) := dk_182 0 223 (dk_at dksX4_turnFault_0 11 rfl rfl)
theorem dX4_turnFault_14 : decode cX4_turnFault 14 = .ok (.ifCond .eq 14, 3) := dk_153 0 14 (dk_at dksX4_turnFault_0 14 rfl rfl)
theorem dX4_turnFault_17 : decode cX4_turnFault 17 = .ok (.aload_n 0, 1) := dk_42 (dk_at dksX4_turnFault_0 17 rfl rfl)
theorem dX4_turnFault_18 : decode cX4_turnFault 18 = .ok (.invokevirtual 223, 3) := dk_182 0 223 (dk_at dksX4_turnFault_0 18 rfl rfl)
theorem dX4_turnFault_21 : decode cX4_turnFault 21 = .ok (.ifCond .eq 7, 3) := dk_153 0 7 (dk_at dksX4_turnFault_0 21 rfl rfl)
theorem dX4_turnFault_24 : decode cX4_turnFault 24 = .ok (.iconst 1, 1) := dk_4 (dk_at dksX4_turnFault_1 0 rfl rfl)
theorem dX4_turnFault_25 : decode cX4_turnFault 25 = .ok (.goto 4, 3) := dk_167 0 4 (dk_at dksX4_turnFault_1 1 rfl rfl)
theorem dX4_turnFault_28 : decode cX4_turnFault 28 = .ok (.iconst 0, 1) := dk_3 (dk_at dksX4_turnFault_1 4 rfl rfl)
theorem dX4_turnFault_29 : decode cX4_turnFault 29 = .ok (.putfield 398, 3) := dk_181 1 142 (dk_at dksX4_turnFault_1 5 rfl rfl)
theorem dX4_turnFault_32 : decode cX4_turnFault 32 = .ok (.iconst 0, 1) := dk_3 (dk_at dksX4_turnFault_1 8 rfl rfl)
theorem dX4_turnFault_33 : decode cX4_turnFault 33 = .ok (.istore_n 2, 1) := dk_61 (dk_at dksX4_turnFault_1 9 rfl rfl)
theorem dX4_turnFault_34 : decode cX4_turnFault 34 = .ok (.iload_n 2, 1) := dk_28 (dk_at dksX4_turnFault_1 10 rfl rfl)
theorem dX4_turnFault_35 : decode cX4_turnFault 35 = .ok (.sipush 290, 3) := dk_17 1 34 (dk_at dksX4_turnFault_1 11 rfl rfl)
theorem dX4_turnFault_38 : decode cX4_turnFault 38 = .ok (.if_icmp .ge 32, 3) := dk_162 0 32 (dk_at dksX4_turnFault_1 14 rfl rfl)
theorem dX4_turnFault_41 : decode cX4_turnFault 41 = .ok (.aload_n 0, 1) := dk_42 (dk_at dksX4_turnFault_1 17 rfl rfl)
theorem dX4_turnFault_42 : decode cX4_turnFault 42 = .ok (.getfield 32, 3) := dk_180 0 32 (dk_at dksX4_turnFault_1 18 rfl rfl)
theorem dX4_turnFault_45 : decode cX4_turnFault 45 = .ok (.iload_n 2, 1) := dk_28 (dk_at dksX4_turnFault_1 21 rfl rfl)
theorem dX4_turnFault_46 : decode cX4_turnFault 46 = .ok (.iaload, 1) := dk_46 (dk_at dksX4_turnFault_1 22 rfl rfl)
theorem dX4_turnFault_47 : decode cX4_turnFault 47 = .ok (.aload_n 0, 1) := dk_42 (dk_at dksX4_turnFault_1 23 rfl rfl)
theorem dX4_turnFault_48 : decode cX4_turnFault 48 = .ok (.getfield 20, 3) := dk_180 0 20 (dk_at dksX4_turnFault_2 0 rfl rfl)
theorem dX4_turnFault_51 : decode cX4_turnFault 51 = .ok (.sipush 290, 3) := dk_17 1 34 (dk_at dksX4_turnFault_2 3 rfl rfl)
theorem dX4_turnFault_54 : decode cX4_turnFault 54 = .ok (.iload_n 1, 1) := dk_27 (dk_at dksX4_turnFault_2 6 rfl rfl)
theorem dX4_turnFault_55 : decode cX4_turnFault 55 = .ok (.imul, 1) := dk_104 (dk_at dksX4_turnFault_2 7 rfl rfl)
theorem dX4_turnFault_56 : decode cX4_turnFault 56 = .ok (.iload_n 2, 1) := dk_28 (dk_at dksX4_turnFault_2 8 rfl rfl)
theorem dX4_turnFault_57 : decode cX4_turnFault 57 = .ok (.iadd, 1) := dk_96 (dk_at dksX4_turnFault_2 9 rfl rfl)
theorem dX4_turnFault_58 : decode cX4_turnFault 58 = .ok (.iaload, 1) := dk_46 (dk_at dksX4_turnFault_2 10 rfl rfl)
theorem dX4_turnFault_59 : decode cX4_turnFault 59 = .ok (.if_icmp .eq 5, 3) := dk_159 0 5 (dk_at dksX4_turnFault_2 11 rfl rfl)
theorem dX4_turnFault_62 : decode cX4_turnFault 62 = .ok (.iconst 1, 1) := dk_4 (dk_at dksX4_turnFault_2 14 rfl rfl)
theorem dX4_turnFault_63 : decode cX4_turnFault 63 = .ok (.ireturn, 1) := dk_172 (dk_at dksX4_turnFault_2 15 rfl rfl)
theorem dX4_turnFault_64 : decode cX4_turnFault 64 = .ok (.iinc 2 1, 3) := dk_132 2 1 (dk_at dksX4_turnFault_2 16 rfl rfl)
theorem dX4_turnFault_67 : decode cX4_turnFault 67 = .ok (.goto (-33), 3) := dk_167 255 223 (dk_at dksX4_turnFault_2 19 rfl rfl)
theorem dX4_turnFault_70 : decode cX4_turnFault 70 = .ok (.iconst 0, 1) := dk_3 (dk_at dksX4_turnFault_2 22 rfl rfl)
theorem dX4_turnFault_71 : decode cX4_turnFault 71 = .ok (.ireturn, 1) := dk_172 (dk_at dksX4_turnFault_2 23 rfl rfl)
abbrev cX4_isProductWrong : ByteArray := prog_23_method_161_code
def yX4_isProductWrong : MethodName := ⟨RX4, "isProductWrong", "(II)Z"⟩
def dkwX4_isProductWrong_3 : List UInt8 := [3, 172]
abbrev dktX4_isProductWrong_3 : List UInt8 := dkwX4_isProductWrong_3 ++ []
def dkwX4_isProductWrong_2 : List UInt8 := [29, 21, 4, 182, 2, 17, 148, 153, 0, 5, 4, 172, 132, 4, 1, 167, 255, 219, 132, 3, 1, 167, 255, 201]
abbrev dktX4_isProductWrong_2 : List UInt8 := dkwX4_isProductWrong_2 ++ dktX4_isProductWrong_3
def dkwX4_isProductWrong_1 : List UInt8 := [54, 4, 21, 4, 42, 28, 182, 1, 66, 162, 0, 33, 42, 27, 28, 29, 21, 4, 182, 2, 13, 42, 27, 28]
abbrev dktX4_isProductWrong_1 : List UInt8 := dkwX4_isProductWrong_1 ++ dktX4_isProductWrong_2
def dkwX4_isProductWrong_0 : List UInt8 := [42, 27, 28, 182, 2, 1, 154, 0, 5, 3, 172, 3, 62, 29, 42, 27, 182, 1, 60, 162, 0, 52, 3]
abbrev dktX4_isProductWrong_0 : List UInt8 := dkwX4_isProductWrong_0 ++ dktX4_isProductWrong_1
theorem dksX4_isProductWrong_0 : cX4_isProductWrong.data.toList.drop 0 = dktX4_isProductWrong_0 := by decide +kernel
theorem dksX4_isProductWrong_1 : cX4_isProductWrong.data.toList.drop 23 = dktX4_isProductWrong_1 := dk_seg dksX4_isProductWrong_0 23 rfl rfl
theorem dksX4_isProductWrong_2 : cX4_isProductWrong.data.toList.drop 47 = dktX4_isProductWrong_2 := dk_seg dksX4_isProductWrong_1 24 rfl rfl
theorem dksX4_isProductWrong_3 : cX4_isProductWrong.data.toList.drop 71 = dktX4_isProductWrong_3 := dk_seg dksX4_isProductWrong_2 24 rfl rfl
theorem dX4_isProductWrong_0 : decode cX4_isProductWrong 0 = .ok (.aload_n 0, 1) := dk_42 (dk_at dksX4_isProductWrong_0 0 rfl rfl)
theorem dX4_isProductWrong_1 : decode cX4_isProductWrong 1 = .ok (.iload_n 1, 1) := dk_27 (dk_at dksX4_isProductWrong_0 1 rfl rfl)
theorem dX4_isProductWrong_2 : decode cX4_isProductWrong 2 = .ok (.iload_n 2, 1) := dk_28 (dk_at dksX4_isProductWrong_0 2 rfl rfl)
theorem dX4_isProductWrong_3 : decode cX4_isProductWrong 3 = .ok (.invokevirtual 513, 3) := dk_182 2 1 (dk_at dksX4_isProductWrong_0 3 rfl rfl)
theorem dX4_isProductWrong_6 : decode cX4_isProductWrong 6 = .ok (.ifCond .ne 5, 3) := dk_154 0 5 (dk_at dksX4_isProductWrong_0 6 rfl rfl)
theorem dX4_isProductWrong_9 : decode cX4_isProductWrong 9 = .ok (.iconst 0, 1) := dk_3 (dk_at dksX4_isProductWrong_0 9 rfl rfl)
theorem dX4_isProductWrong_10 : decode cX4_isProductWrong 10 = .ok (.ireturn, 1) := dk_172 (dk_at dksX4_isProductWrong_0 10 rfl rfl)
theorem dX4_isProductWrong_11 : decode cX4_isProductWrong 11 = .ok (.iconst 0, 1) := dk_3 (dk_at dksX4_isProductWrong_0 11 rfl rfl)
theorem dX4_isProductWrong_12 : decode cX4_isProductWrong 12 = .ok (.istore_n 3, 1) := dk_62 (dk_at dksX4_isProductWrong_0 12 rfl rfl)
theorem dX4_isProductWrong_13 : decode cX4_isProductWrong 13 = .ok (.iload_n 3, 1) := dk_29 (dk_at dksX4_isProductWrong_0 13 rfl rfl)
theorem dX4_isProductWrong_14 : decode cX4_isProductWrong 14 = .ok (.aload_n 0, 1) := dk_42 (dk_at dksX4_isProductWrong_0 14 rfl rfl)
theorem dX4_isProductWrong_15 : decode cX4_isProductWrong 15 = .ok (.iload_n 1, 1) := dk_27 (dk_at dksX4_isProductWrong_0 15 rfl rfl)
theorem dX4_isProductWrong_16 : decode cX4_isProductWrong 16 = .ok (.invokevirtual 316, 3) := dk_182 1 60 (dk_at dksX4_isProductWrong_0 16 rfl rfl)
theorem dX4_isProductWrong_19 : decode cX4_isProductWrong 19 = .ok (.if_icmp .ge 52, 3) := dk_162 0 52 (dk_at dksX4_isProductWrong_0 19 rfl rfl)
theorem dX4_isProductWrong_22 : decode cX4_isProductWrong 22 = .ok (.iconst 0, 1) := dk_3 (dk_at dksX4_isProductWrong_0 22 rfl rfl)
theorem dX4_isProductWrong_23 : decode cX4_isProductWrong 23 = .ok (.istore 4, 2) := dk_54 4 (dk_at dksX4_isProductWrong_1 0 rfl rfl)
theorem dX4_isProductWrong_25 : decode cX4_isProductWrong 25 = .ok (.iload 4, 2) := dk_21 4 (dk_at dksX4_isProductWrong_1 2 rfl rfl)
theorem dX4_isProductWrong_27 : decode cX4_isProductWrong 27 = .ok (.aload_n 0, 1) := dk_42 (dk_at dksX4_isProductWrong_1 4 rfl rfl)
theorem dX4_isProductWrong_28 : decode cX4_isProductWrong 28 = .ok (.iload_n 2, 1) := dk_28 (dk_at dksX4_isProductWrong_1 5 rfl rfl)
theorem dX4_isProductWrong_29 : decode cX4_isProductWrong 29 = .ok (.invokevirtual 322, 3) := dk_182 1 66 (dk_at dksX4_isProductWrong_1 6 rfl rfl)
theorem dX4_isProductWrong_32 : decode cX4_isProductWrong 32 = .ok (.if_icmp .ge 33, 3) := dk_162 0 33 (dk_at dksX4_isProductWrong_1 9 rfl rfl)
theorem dX4_isProductWrong_35 : decode cX4_isProductWrong 35 = .ok (.aload_n 0, 1) := dk_42 (dk_at dksX4_isProductWrong_1 12 rfl rfl)
theorem dX4_isProductWrong_36 : decode cX4_isProductWrong 36 = .ok (.iload_n 1, 1) := dk_27 (dk_at dksX4_isProductWrong_1 13 rfl rfl)
theorem dX4_isProductWrong_37 : decode cX4_isProductWrong 37 = .ok (.iload_n 2, 1) := dk_28 (dk_at dksX4_isProductWrong_1 14 rfl rfl)
theorem dX4_isProductWrong_38 : decode cX4_isProductWrong 38 = .ok (.iload_n 3, 1) := dk_29 (dk_at dksX4_isProductWrong_1 15 rfl rfl)
theorem dX4_isProductWrong_39 : decode cX4_isProductWrong 39 = .ok (.iload 4, 2) := dk_21 4 (dk_at dksX4_isProductWrong_1 16 rfl rfl)
theorem dX4_isProductWrong_41 : decode cX4_isProductWrong 41 = .ok (.invokevirtual 525, 3) := dk_182 2 13 (dk_at dksX4_isProductWrong_1 18 rfl rfl)
theorem dX4_isProductWrong_44 : decode cX4_isProductWrong 44 = .ok (.aload_n 0, 1) := dk_42 (dk_at dksX4_isProductWrong_1 21 rfl rfl)
theorem dX4_isProductWrong_45 : decode cX4_isProductWrong 45 = .ok (.iload_n 1, 1) := dk_27 (dk_at dksX4_isProductWrong_1 22 rfl rfl)
theorem dX4_isProductWrong_46 : decode cX4_isProductWrong 46 = .ok (.iload_n 2, 1) := dk_28 (dk_at dksX4_isProductWrong_1 23 rfl rfl)
theorem dX4_isProductWrong_47 : decode cX4_isProductWrong 47 = .ok (.iload_n 3, 1) := dk_29 (dk_at dksX4_isProductWrong_2 0 rfl rfl)
theorem dX4_isProductWrong_48 : decode cX4_isProductWrong 48 = .ok (.iload 4, 2) := dk_21 4 (dk_at dksX4_isProductWrong_2 1 rfl rfl)
theorem dX4_isProductWrong_50 : decode cX4_isProductWrong 50 = .ok (.invokevirtual 529, 3) := dk_182 2 17 (dk_at dksX4_isProductWrong_2 3 rfl rfl)
theorem dX4_isProductWrong_53 : decode cX4_isProductWrong 53 = .ok (.lcmp, 1) := dk_148 (dk_at dksX4_isProductWrong_2 6 rfl rfl)
theorem dX4_isProductWrong_54 : decode cX4_isProductWrong 54 = .ok (.ifCond .eq 5, 3) := dk_153 0 5 (dk_at dksX4_isProductWrong_2 7 rfl rfl)
theorem dX4_isProductWrong_57 : decode cX4_isProductWrong 57 = .ok (.iconst 1, 1) := dk_4 (dk_at dksX4_isProductWrong_2 10 rfl rfl)
theorem dX4_isProductWrong_58 : decode cX4_isProductWrong 58 = .ok (.ireturn, 1) := dk_172 (dk_at dksX4_isProductWrong_2 11 rfl rfl)
theorem dX4_isProductWrong_59 : decode cX4_isProductWrong 59 = .ok (.iinc 4 1, 3) := dk_132 4 1 (dk_at dksX4_isProductWrong_2 12 rfl rfl)
theorem dX4_isProductWrong_62 : decode cX4_isProductWrong 62 = .ok (.goto (-37), 3) := dk_167 255 219 (dk_at dksX4_isProductWrong_2 15 rfl rfl)
theorem dX4_isProductWrong_65 : decode cX4_isProductWrong 65 = .ok (.iinc 3 1, 3) := dk_132 3 1 (dk_at dksX4_isProductWrong_2 18 rfl rfl)
theorem dX4_isProductWrong_68 : decode cX4_isProductWrong 68 = .ok (.goto (-55), 3) := dk_167 255 201 (dk_at dksX4_isProductWrong_2 21 rfl rfl)
theorem dX4_isProductWrong_71 : decode cX4_isProductWrong 71 = .ok (.iconst 0, 1) := dk_3 (dk_at dksX4_isProductWrong_3 0 rfl rfl)
theorem dX4_isProductWrong_72 : decode cX4_isProductWrong 72 = .ok (.ireturn, 1) := dk_172 (dk_at dksX4_isProductWrong_3 1 rfl rfl)
abbrev cX4_sparse : ByteArray := prog_23_method_159_code
def yX4_sparse : MethodName := ⟨RX4, "sparse", "(IIII)J"⟩
def dkwX4_sparse_3 : List UInt8 := [22, 5, 173]
abbrev dktX4_sparse_3 : List UInt8 := dkwX4_sparse_3 ++ []
def dkwX4_sparse_2 : List UInt8 := [182, 1, 83, 133, 42, 28, 21, 7, 21, 4, 182, 1, 83, 133, 105, 97, 55, 5, 132, 7, 1, 167, 255, 195]
abbrev dktX4_sparse_2 : List UInt8 := dkwX4_sparse_2 ++ dktX4_sparse_3
def dkwX4_sparse_1 : List UInt8 := [153, 0, 40, 42, 28, 21, 7, 21, 4, 182, 1, 89, 153, 0, 28, 22, 5, 42, 27, 29, 21, 7]
abbrev dktX4_sparse_1 : List UInt8 := dkwX4_sparse_1 ++ dktX4_sparse_2
def dkwX4_sparse_0 : List UInt8 := [9, 55, 5, 3, 54, 7, 21, 7, 42, 27, 182, 1, 66, 162, 0, 57, 42, 27, 29, 21, 7, 182, 1, 89]
abbrev dktX4_sparse_0 : List UInt8 := dkwX4_sparse_0 ++ dktX4_sparse_1
theorem dksX4_sparse_0 : cX4_sparse.data.toList.drop 0 = dktX4_sparse_0 := by decide +kernel
theorem dksX4_sparse_1 : cX4_sparse.data.toList.drop 24 = dktX4_sparse_1 := dk_seg dksX4_sparse_0 24 rfl rfl
theorem dksX4_sparse_2 : cX4_sparse.data.toList.drop 46 = dktX4_sparse_2 := dk_seg dksX4_sparse_1 22 rfl rfl
theorem dksX4_sparse_3 : cX4_sparse.data.toList.drop 70 = dktX4_sparse_3 := dk_seg dksX4_sparse_2 24 rfl rfl
theorem dX4_sparse_0 : decode cX4_sparse 0 = .ok (.lconst 0, 1) := dk_9 (dk_at dksX4_sparse_0 0 rfl rfl)
theorem dX4_sparse_1 : decode cX4_sparse 1 = .ok (.lstore 5, 2) := dk_55 5 (dk_at dksX4_sparse_0 1 rfl rfl)
theorem dX4_sparse_3 : decode cX4_sparse 3 = .ok (.iconst 0, 1) := dk_3 (dk_at dksX4_sparse_0 3 rfl rfl)
theorem dX4_sparse_4 : decode cX4_sparse 4 = .ok (.istore 7, 2) := dk_54 7 (dk_at dksX4_sparse_0 4 rfl rfl)
theorem dX4_sparse_6 : decode cX4_sparse 6 = .ok (.iload 7, 2) := dk_21 7 (dk_at dksX4_sparse_0 6 rfl rfl)
theorem dX4_sparse_8 : decode cX4_sparse 8 = .ok (.aload_n 0, 1) := dk_42 (dk_at dksX4_sparse_0 8 rfl rfl)
theorem dX4_sparse_9 : decode cX4_sparse 9 = .ok (.iload_n 1, 1) := dk_27 (dk_at dksX4_sparse_0 9 rfl rfl)
theorem dX4_sparse_10 : decode cX4_sparse 10 = .ok (.invokevirtual 322, 3) := dk_182 1 66 (dk_at dksX4_sparse_0 10 rfl rfl)
theorem dX4_sparse_13 : decode cX4_sparse 13 = .ok (.if_icmp .ge 57, 3) := dk_162 0 57 (dk_at dksX4_sparse_0 13 rfl rfl)
theorem dX4_sparse_16 : decode cX4_sparse 16 = .ok (.aload_n 0, 1) := dk_42 (dk_at dksX4_sparse_0 16 rfl rfl)
theorem dX4_sparse_17 : decode cX4_sparse 17 = .ok (.iload_n 1, 1) := dk_27 (dk_at dksX4_sparse_0 17 rfl rfl)
theorem dX4_sparse_18 : decode cX4_sparse 18 = .ok (.iload_n 3, 1) := dk_29 (dk_at dksX4_sparse_0 18 rfl rfl)
theorem dX4_sparse_19 : decode cX4_sparse 19 = .ok (.iload 7, 2) := dk_21 7 (dk_at dksX4_sparse_0 19 rfl rfl)
theorem dX4_sparse_21 : decode cX4_sparse 21 = .ok (.invokevirtual 345, 3) := dk_182 1 89 (dk_at dksX4_sparse_0 21 rfl rfl)
theorem dX4_sparse_24 : decode cX4_sparse 24 = .ok (.ifCond .eq 40, 3) := dk_153 0 40 (dk_at dksX4_sparse_1 0 rfl rfl)
theorem dX4_sparse_27 : decode cX4_sparse 27 = .ok (.aload_n 0, 1) := dk_42 (dk_at dksX4_sparse_1 3 rfl rfl)
theorem dX4_sparse_28 : decode cX4_sparse 28 = .ok (.iload_n 2, 1) := dk_28 (dk_at dksX4_sparse_1 4 rfl rfl)
theorem dX4_sparse_29 : decode cX4_sparse 29 = .ok (.iload 7, 2) := dk_21 7 (dk_at dksX4_sparse_1 5 rfl rfl)
theorem dX4_sparse_31 : decode cX4_sparse 31 = .ok (.iload 4, 2) := dk_21 4 (dk_at dksX4_sparse_1 7 rfl rfl)
theorem dX4_sparse_33 : decode cX4_sparse 33 = .ok (.invokevirtual 345, 3) := dk_182 1 89 (dk_at dksX4_sparse_1 9 rfl rfl)
theorem dX4_sparse_36 : decode cX4_sparse 36 = .ok (.ifCond .eq 28, 3) := dk_153 0 28 (dk_at dksX4_sparse_1 12 rfl rfl)
theorem dX4_sparse_39 : decode cX4_sparse 39 = .ok (.lload 5, 2) := dk_22 5 (dk_at dksX4_sparse_1 15 rfl rfl)
theorem dX4_sparse_41 : decode cX4_sparse 41 = .ok (.aload_n 0, 1) := dk_42 (dk_at dksX4_sparse_1 17 rfl rfl)
theorem dX4_sparse_42 : decode cX4_sparse 42 = .ok (.iload_n 1, 1) := dk_27 (dk_at dksX4_sparse_1 18 rfl rfl)
theorem dX4_sparse_43 : decode cX4_sparse 43 = .ok (.iload_n 3, 1) := dk_29 (dk_at dksX4_sparse_1 19 rfl rfl)
theorem dX4_sparse_44 : decode cX4_sparse 44 = .ok (.iload 7, 2) := dk_21 7 (dk_at dksX4_sparse_1 20 rfl rfl)
theorem dX4_sparse_46 : decode cX4_sparse 46 = .ok (.invokevirtual 339, 3) := dk_182 1 83 (dk_at dksX4_sparse_2 0 rfl rfl)
theorem dX4_sparse_49 : decode cX4_sparse 49 = .ok (.i2l, 1) := dk_133 (dk_at dksX4_sparse_2 3 rfl rfl)
theorem dX4_sparse_50 : decode cX4_sparse 50 = .ok (.aload_n 0, 1) := dk_42 (dk_at dksX4_sparse_2 4 rfl rfl)
theorem dX4_sparse_51 : decode cX4_sparse 51 = .ok (.iload_n 2, 1) := dk_28 (dk_at dksX4_sparse_2 5 rfl rfl)
theorem dX4_sparse_52 : decode cX4_sparse 52 = .ok (.iload 7, 2) := dk_21 7 (dk_at dksX4_sparse_2 6 rfl rfl)
theorem dX4_sparse_54 : decode cX4_sparse 54 = .ok (.iload 4, 2) := dk_21 4 (dk_at dksX4_sparse_2 8 rfl rfl)
theorem dX4_sparse_56 : decode cX4_sparse 56 = .ok (.invokevirtual 339, 3) := dk_182 1 83 (dk_at dksX4_sparse_2 10 rfl rfl)
theorem dX4_sparse_59 : decode cX4_sparse 59 = .ok (.i2l, 1) := dk_133 (dk_at dksX4_sparse_2 13 rfl rfl)
theorem dX4_sparse_60 : decode cX4_sparse 60 = .ok (.lmul, 1) := dk_105 (dk_at dksX4_sparse_2 14 rfl rfl)
theorem dX4_sparse_61 : decode cX4_sparse 61 = .ok (.ladd, 1) := dk_97 (dk_at dksX4_sparse_2 15 rfl rfl)
theorem dX4_sparse_62 : decode cX4_sparse 62 = .ok (.lstore 5, 2) := dk_55 5 (dk_at dksX4_sparse_2 16 rfl rfl)
theorem dX4_sparse_64 : decode cX4_sparse 64 = .ok (.iinc 7 1, 3) := dk_132 7 1 (dk_at dksX4_sparse_2 18 rfl rfl)
theorem dX4_sparse_67 : decode cX4_sparse 67 = .ok (.goto (-61), 3) := dk_167 255 195 (dk_at dksX4_sparse_2 21 rfl rfl)
theorem dX4_sparse_70 : decode cX4_sparse 70 = .ok (.lload 5, 2) := dk_22 5 (dk_at dksX4_sparse_3 0 rfl rfl)
theorem dX4_sparse_72 : decode cX4_sparse 72 = .ok (.lreturn, 1) := dk_173 (dk_at dksX4_sparse_3 2 rfl rfl)
abbrev cX4_dense : ByteArray := prog_23_method_160_code
def yX4_dense : MethodName := ⟨RX4, "dense", "(IIII)J"⟩
def dkwX4_dense_2 : List UInt8 := [22, 5, 173]
abbrev dktX4_dense_2 : List UInt8 := dkwX4_dense_2 ++ []
def dkwX4_dense_1 : List UInt8 := [182, 1, 83, 133, 42, 28, 21, 7, 21, 4, 182, 1, 83, 133, 105, 97, 55, 5, 132, 7, 1, 167, 255, 218]
abbrev dktX4_dense_1 : List UInt8 := dkwX4_dense_1 ++ dktX4_dense_2
def dkwX4_dense_0 : List UInt8 := [9, 55, 5, 3, 54, 7, 21, 7, 42, 27, 182, 1, 66, 162, 0, 34, 22, 5, 42, 27, 29, 21, 7]
abbrev dktX4_dense_0 : List UInt8 := dkwX4_dense_0 ++ dktX4_dense_1
theorem dksX4_dense_0 : cX4_dense.data.toList.drop 0 = dktX4_dense_0 := by decide +kernel
theorem dksX4_dense_1 : cX4_dense.data.toList.drop 23 = dktX4_dense_1 := dk_seg dksX4_dense_0 23 rfl rfl
theorem dksX4_dense_2 : cX4_dense.data.toList.drop 47 = dktX4_dense_2 := dk_seg dksX4_dense_1 24 rfl rfl
theorem dX4_dense_0 : decode cX4_dense 0 = .ok (.lconst 0, 1) := dk_9 (dk_at dksX4_dense_0 0 rfl rfl)
theorem dX4_dense_1 : decode cX4_dense 1 = .ok (.lstore 5, 2) := dk_55 5 (dk_at dksX4_dense_0 1 rfl rfl)
theorem dX4_dense_3 : decode cX4_dense 3 = .ok (.iconst 0, 1) := dk_3 (dk_at dksX4_dense_0 3 rfl rfl)
theorem dX4_dense_4 : decode cX4_dense 4 = .ok (.istore 7, 2) := dk_54 7 (dk_at dksX4_dense_0 4 rfl rfl)
theorem dX4_dense_6 : decode cX4_dense 6 = .ok (.iload 7, 2) := dk_21 7 (dk_at dksX4_dense_0 6 rfl rfl)
theorem dX4_dense_8 : decode cX4_dense 8 = .ok (.aload_n 0, 1) := dk_42 (dk_at dksX4_dense_0 8 rfl rfl)
theorem dX4_dense_9 : decode cX4_dense 9 = .ok (.iload_n 1, 1) := dk_27 (dk_at dksX4_dense_0 9 rfl rfl)
theorem dX4_dense_10 : decode cX4_dense 10 = .ok (.invokevirtual 322, 3) := dk_182 1 66 (dk_at dksX4_dense_0 10 rfl rfl)
theorem dX4_dense_13 : decode cX4_dense 13 = .ok (.if_icmp .ge 34, 3) := dk_162 0 34 (dk_at dksX4_dense_0 13 rfl rfl)
theorem dX4_dense_16 : decode cX4_dense 16 = .ok (.lload 5, 2) := dk_22 5 (dk_at dksX4_dense_0 16 rfl rfl)
theorem dX4_dense_18 : decode cX4_dense 18 = .ok (.aload_n 0, 1) := dk_42 (dk_at dksX4_dense_0 18 rfl rfl)
theorem dX4_dense_19 : decode cX4_dense 19 = .ok (.iload_n 1, 1) := dk_27 (dk_at dksX4_dense_0 19 rfl rfl)
theorem dX4_dense_20 : decode cX4_dense 20 = .ok (.iload_n 3, 1) := dk_29 (dk_at dksX4_dense_0 20 rfl rfl)
theorem dX4_dense_21 : decode cX4_dense 21 = .ok (.iload 7, 2) := dk_21 7 (dk_at dksX4_dense_0 21 rfl rfl)
theorem dX4_dense_23 : decode cX4_dense 23 = .ok (.invokevirtual 339, 3) := dk_182 1 83 (dk_at dksX4_dense_1 0 rfl rfl)
theorem dX4_dense_26 : decode cX4_dense 26 = .ok (.i2l, 1) := dk_133 (dk_at dksX4_dense_1 3 rfl rfl)
theorem dX4_dense_27 : decode cX4_dense 27 = .ok (.aload_n 0, 1) := dk_42 (dk_at dksX4_dense_1 4 rfl rfl)
theorem dX4_dense_28 : decode cX4_dense 28 = .ok (.iload_n 2, 1) := dk_28 (dk_at dksX4_dense_1 5 rfl rfl)
theorem dX4_dense_29 : decode cX4_dense 29 = .ok (.iload 7, 2) := dk_21 7 (dk_at dksX4_dense_1 6 rfl rfl)
theorem dX4_dense_31 : decode cX4_dense 31 = .ok (.iload 4, 2) := dk_21 4 (dk_at dksX4_dense_1 8 rfl rfl)
theorem dX4_dense_33 : decode cX4_dense 33 = .ok (.invokevirtual 339, 3) := dk_182 1 83 (dk_at dksX4_dense_1 10 rfl rfl)
theorem dX4_dense_36 : decode cX4_dense 36 = .ok (.i2l, 1) := dk_133 (dk_at dksX4_dense_1 13 rfl rfl)
theorem dX4_dense_37 : decode cX4_dense 37 = .ok (.lmul, 1) := dk_105 (dk_at dksX4_dense_1 14 rfl rfl)
theorem dX4_dense_38 : decode cX4_dense 38 = .ok (.ladd, 1) := dk_97 (dk_at dksX4_dense_1 15 rfl rfl)
theorem dX4_dense_39 : decode cX4_dense 39 = .ok (.lstore 5, 2) := dk_55 5 (dk_at dksX4_dense_1 16 rfl rfl)
theorem dX4_dense_41 : decode cX4_dense 41 = .ok (.iinc 7 1, 3) := dk_132 7 1 (dk_at dksX4_dense_1 18 rfl rfl)
theorem dX4_dense_44 : decode cX4_dense 44 = .ok (.goto (-38), 3) := dk_167 255 218 (dk_at dksX4_dense_1 21 rfl rfl)
theorem dX4_dense_47 : decode cX4_dense 47 = .ok (.lload 5, 2) := dk_22 5 (dk_at dksX4_dense_2 0 rfl rfl)
theorem dX4_dense_49 : decode cX4_dense 49 = .ok (.lreturn, 1) := dk_173 (dk_at dksX4_dense_2 2 rfl rfl)
abbrev cX4_density : ByteArray := prog_23_method_163_code
def yX4_density : MethodName := ⟨RX4, "density", "(I)F"⟩
def dkwX4_density_1 : List UInt8 := [182, 1, 66, 104, 134, 110, 167, 0, 4, 11, 174]
abbrev dktX4_density_1 : List UInt8 := dkwX4_density_1 ++ []
def dkwX4_density_0 : List UInt8 := [42, 27, 184, 1, 57, 182, 0, 87, 153, 0, 25, 42, 27, 182, 0, 217, 134, 42, 27, 182, 1, 60, 42, 27]
abbrev dktX4_density_0 : List UInt8 := dkwX4_density_0 ++ dktX4_density_1
theorem dksX4_density_0 : cX4_density.data.toList.drop 0 = dktX4_density_0 := by decide +kernel
theorem dksX4_density_1 : cX4_density.data.toList.drop 24 = dktX4_density_1 := dk_seg dksX4_density_0 24 rfl rfl
theorem dX4_density_0 : decode cX4_density 0 = .ok (.aload_n 0, 1) := dk_42 (dk_at dksX4_density_0 0 rfl rfl)
theorem dX4_density_1 : decode cX4_density 1 = .ok (.iload_n 1, 1) := dk_27 (dk_at dksX4_density_0 1 rfl rfl)
theorem dX4_density_2 : decode cX4_density 2 = .ok (.invokestatic 313, 3) := dk_184 1 57 (dk_at dksX4_density_0 2 rfl rfl)
theorem dX4_density_5 : decode cX4_density 5 = .ok (.invokevirtual 87, 3) := dk_182 0 87 (dk_at dksX4_density_0 5 rfl rfl)
theorem dX4_density_8 : decode cX4_density 8 = .ok (.ifCond .eq 25, 3) := dk_153 0 25 (dk_at dksX4_density_0 8 rfl rfl)
theorem dX4_density_11 : decode cX4_density 11 = .ok (.aload_n 0, 1) := dk_42 (dk_at dksX4_density_0 11 rfl rfl)
theorem dX4_density_12 : decode cX4_density 12 = .ok (.iload_n 1, 1) := dk_27 (dk_at dksX4_density_0 12 rfl rfl)
theorem dX4_density_13 : decode cX4_density 13 = .ok (.invokevirtual 217, 3) := dk_182 0 217 (dk_at dksX4_density_0 13 rfl rfl)
theorem dX4_density_16 : decode cX4_density 16 = .ok (.i2f, 1) := dk_134 (dk_at dksX4_density_0 16 rfl rfl)
theorem dX4_density_17 : decode cX4_density 17 = .ok (.aload_n 0, 1) := dk_42 (dk_at dksX4_density_0 17 rfl rfl)
theorem dX4_density_18 : decode cX4_density 18 = .ok (.iload_n 1, 1) := dk_27 (dk_at dksX4_density_0 18 rfl rfl)
theorem dX4_density_19 : decode cX4_density 19 = .ok (.invokevirtual 316, 3) := dk_182 1 60 (dk_at dksX4_density_0 19 rfl rfl)
theorem dX4_density_22 : decode cX4_density 22 = .ok (.aload_n 0, 1) := dk_42 (dk_at dksX4_density_0 22 rfl rfl)
theorem dX4_density_23 : decode cX4_density 23 = .ok (.iload_n 1, 1) := dk_27 (dk_at dksX4_density_0 23 rfl rfl)
theorem dX4_density_24 : decode cX4_density 24 = .ok (.invokevirtual 322, 3) := dk_182 1 66 (dk_at dksX4_density_1 0 rfl rfl)
theorem dX4_density_27 : decode cX4_density 27 = .ok (.imul, 1) := dk_104 (dk_at dksX4_density_1 3 rfl rfl)
theorem dX4_density_28 : decode cX4_density 28 = .ok (.i2f, 1) := dk_134 (dk_at dksX4_density_1 4 rfl rfl)
theorem dX4_density_29 : decode cX4_density 29 = .ok (.fdiv, 1) := dk_110 (dk_at dksX4_density_1 5 rfl rfl)
theorem dX4_density_30 : decode cX4_density 30 = .ok (.goto 4, 3) := dk_167 0 4 (dk_at dksX4_density_1 6 rfl rfl)
theorem dX4_density_33 : decode cX4_density 33 = .ok (.fconst 0, 1) := dk_11 (dk_at dksX4_density_1 9 rfl rfl)
theorem dX4_density_34 : decode cX4_density 34 = .ok (.freturn, 1) := dk_174 (dk_at dksX4_density_1 10 rfl rfl)
abbrev cX4_meanStoredValue : ByteArray := prog_23_method_164_code
def yX4_meanStoredValue : MethodName := ⟨RX4, "meanStoredValue", "(I)D"⟩
def dkwX4_meanStoredValue_2 : List UInt8 := [167, 255, 233, 28, 154, 0, 7, 14, 167, 0, 8, 29, 135, 28, 135, 111, 175]
abbrev dktX4_meanStoredValue_2 : List UInt8 := dkwX4_meanStoredValue_2 ++ []
def dkwX4_meanStoredValue_1 : List UInt8 := [21, 4, 42, 27, 182, 1, 60, 162, 0, 19, 29, 42, 27, 21, 4, 182, 1, 239, 96, 62, 132, 4, 1]
abbrev dktX4_meanStoredValue_1 : List UInt8 := dkwX4_meanStoredValue_1 ++ dktX4_meanStoredValue_2
def dkwX4_meanStoredValue_0 : List UInt8 := [42, 27, 184, 1, 57, 182, 0, 87, 154, 0, 5, 14, 175, 42, 27, 182, 0, 217, 61, 3, 62, 3, 54, 4]
abbrev dktX4_meanStoredValue_0 : List UInt8 := dkwX4_meanStoredValue_0 ++ dktX4_meanStoredValue_1
theorem dksX4_meanStoredValue_0 : cX4_meanStoredValue.data.toList.drop 0 = dktX4_meanStoredValue_0 := by decide +kernel
theorem dksX4_meanStoredValue_1 : cX4_meanStoredValue.data.toList.drop 24 = dktX4_meanStoredValue_1 := dk_seg dksX4_meanStoredValue_0 24 rfl rfl
theorem dksX4_meanStoredValue_2 : cX4_meanStoredValue.data.toList.drop 47 = dktX4_meanStoredValue_2 := dk_seg dksX4_meanStoredValue_1 23 rfl rfl
theorem dX4_meanStoredValue_0 : decode cX4_meanStoredValue 0 = .ok (.aload_n 0, 1) := dk_42 (dk_at dksX4_meanStoredValue_0 0 rfl rfl)
theorem dX4_meanStoredValue_1 : decode cX4_meanStoredValue 1 = .ok (.iload_n 1, 1) := dk_27 (dk_at dksX4_meanStoredValue_0 1 rfl rfl)
theorem dX4_meanStoredValue_2 : decode cX4_meanStoredValue 2 = .ok (.invokestatic 313, 3) := dk_184 1 57 (dk_at dksX4_meanStoredValue_0 2 rfl rfl)
theorem dX4_meanStoredValue_5 : decode cX4_meanStoredValue 5 = .ok (.invokevirtual 87, 3) := dk_182 0 87 (dk_at dksX4_meanStoredValue_0 5 rfl rfl)
theorem dX4_meanStoredValue_8 : decode cX4_meanStoredValue 8 = .ok (.ifCond .ne 5, 3) := dk_154 0 5 (dk_at dksX4_meanStoredValue_0 8 rfl rfl)
theorem dX4_meanStoredValue_11 : decode cX4_meanStoredValue 11 = .ok (.dconst 0, 1) := dk_14 (dk_at dksX4_meanStoredValue_0 11 rfl rfl)
theorem dX4_meanStoredValue_12 : decode cX4_meanStoredValue 12 = .ok (.dreturn, 1) := dk_175 (dk_at dksX4_meanStoredValue_0 12 rfl rfl)
theorem dX4_meanStoredValue_13 : decode cX4_meanStoredValue 13 = .ok (.aload_n 0, 1) := dk_42 (dk_at dksX4_meanStoredValue_0 13 rfl rfl)
theorem dX4_meanStoredValue_14 : decode cX4_meanStoredValue 14 = .ok (.iload_n 1, 1) := dk_27 (dk_at dksX4_meanStoredValue_0 14 rfl rfl)
theorem dX4_meanStoredValue_15 : decode cX4_meanStoredValue 15 = .ok (.invokevirtual 217, 3) := dk_182 0 217 (dk_at dksX4_meanStoredValue_0 15 rfl rfl)
theorem dX4_meanStoredValue_18 : decode cX4_meanStoredValue 18 = .ok (.istore_n 2, 1) := dk_61 (dk_at dksX4_meanStoredValue_0 18 rfl rfl)
theorem dX4_meanStoredValue_19 : decode cX4_meanStoredValue 19 = .ok (.iconst 0, 1) := dk_3 (dk_at dksX4_meanStoredValue_0 19 rfl rfl)
theorem dX4_meanStoredValue_20 : decode cX4_meanStoredValue 20 = .ok (.istore_n 3, 1) := dk_62 (dk_at dksX4_meanStoredValue_0 20 rfl rfl)
theorem dX4_meanStoredValue_21 : decode cX4_meanStoredValue 21 = .ok (.iconst 0, 1) := dk_3 (dk_at dksX4_meanStoredValue_0 21 rfl rfl)
theorem dX4_meanStoredValue_22 : decode cX4_meanStoredValue 22 = .ok (.istore 4, 2) := dk_54 4 (dk_at dksX4_meanStoredValue_0 22 rfl rfl)
theorem dX4_meanStoredValue_24 : decode cX4_meanStoredValue 24 = .ok (.iload 4, 2) := dk_21 4 (dk_at dksX4_meanStoredValue_1 0 rfl rfl)
theorem dX4_meanStoredValue_26 : decode cX4_meanStoredValue 26 = .ok (.aload_n 0, 1) := dk_42 (dk_at dksX4_meanStoredValue_1 2 rfl rfl)
theorem dX4_meanStoredValue_27 : decode cX4_meanStoredValue 27 = .ok (.iload_n 1, 1) := dk_27 (dk_at dksX4_meanStoredValue_1 3 rfl rfl)
theorem dX4_meanStoredValue_28 : decode cX4_meanStoredValue 28 = .ok (.invokevirtual 316, 3) := dk_182 1 60 (dk_at dksX4_meanStoredValue_1 4 rfl rfl)
theorem dX4_meanStoredValue_31 : decode cX4_meanStoredValue 31 = .ok (.if_icmp .ge 19, 3) := dk_162 0 19 (dk_at dksX4_meanStoredValue_1 7 rfl rfl)
theorem dX4_meanStoredValue_34 : decode cX4_meanStoredValue 34 = .ok (.iload_n 3, 1) := dk_29 (dk_at dksX4_meanStoredValue_1 10 rfl rfl)
theorem dX4_meanStoredValue_35 : decode cX4_meanStoredValue 35 = .ok (.aload_n 0, 1) := dk_42 (dk_at dksX4_meanStoredValue_1 11 rfl rfl)
theorem dX4_meanStoredValue_36 : decode cX4_meanStoredValue 36 = .ok (.iload_n 1, 1) := dk_27 (dk_at dksX4_meanStoredValue_1 12 rfl rfl)
theorem dX4_meanStoredValue_37 : decode cX4_meanStoredValue 37 = .ok (.iload 4, 2) := dk_21 4 (dk_at dksX4_meanStoredValue_1 13 rfl rfl)
theorem dX4_meanStoredValue_39 : decode cX4_meanStoredValue 39 = .ok (.invokevirtual 495, 3) := dk_182 1 239 (dk_at dksX4_meanStoredValue_1 15 rfl rfl)
theorem dX4_meanStoredValue_42 : decode cX4_meanStoredValue 42 = .ok (.iadd, 1) := dk_96 (dk_at dksX4_meanStoredValue_1 18 rfl rfl)
theorem dX4_meanStoredValue_43 : decode cX4_meanStoredValue 43 = .ok (.istore_n 3, 1) := dk_62 (dk_at dksX4_meanStoredValue_1 19 rfl rfl)
theorem dX4_meanStoredValue_44 : decode cX4_meanStoredValue 44 = .ok (.iinc 4 1, 3) := dk_132 4 1 (dk_at dksX4_meanStoredValue_1 20 rfl rfl)
theorem dX4_meanStoredValue_47 : decode cX4_meanStoredValue 47 = .ok (.goto (-23), 3) := dk_167 255 233 (dk_at dksX4_meanStoredValue_2 0 rfl rfl)
theorem dX4_meanStoredValue_50 : decode cX4_meanStoredValue 50 = .ok (.iload_n 2, 1) := dk_28 (dk_at dksX4_meanStoredValue_2 3 rfl rfl)
theorem dX4_meanStoredValue_51 : decode cX4_meanStoredValue 51 = .ok (.ifCond .ne 7, 3) := dk_154 0 7 (dk_at dksX4_meanStoredValue_2 4 rfl rfl)
theorem dX4_meanStoredValue_54 : decode cX4_meanStoredValue 54 = .ok (.dconst 0, 1) := dk_14 (dk_at dksX4_meanStoredValue_2 7 rfl rfl)
theorem dX4_meanStoredValue_55 : decode cX4_meanStoredValue 55 = .ok (.goto 8, 3) := dk_167 0 8 (dk_at dksX4_meanStoredValue_2 8 rfl rfl)
theorem dX4_meanStoredValue_58 : decode cX4_meanStoredValue 58 = .ok (.iload_n 3, 1) := dk_29 (dk_at dksX4_meanStoredValue_2 11 rfl rfl)
theorem dX4_meanStoredValue_59 : decode cX4_meanStoredValue 59 = .ok (.i2d, 1) := dk_135 (dk_at dksX4_meanStoredValue_2 12 rfl rfl)
theorem dX4_meanStoredValue_60 : decode cX4_meanStoredValue 60 = .ok (.iload_n 2, 1) := dk_28 (dk_at dksX4_meanStoredValue_2 13 rfl rfl)
theorem dX4_meanStoredValue_61 : decode cX4_meanStoredValue 61 = .ok (.i2d, 1) := dk_135 (dk_at dksX4_meanStoredValue_2 14 rfl rfl)
theorem dX4_meanStoredValue_62 : decode cX4_meanStoredValue 62 = .ok (.ddiv, 1) := dk_111 (dk_at dksX4_meanStoredValue_2 15 rfl rfl)
theorem dX4_meanStoredValue_63 : decode cX4_meanStoredValue 63 = .ok (.dreturn, 1) := dk_175 (dk_at dksX4_meanStoredValue_2 16 rfl rfl)
abbrev cX4_runScript : ByteArray := prog_23_method_174_code
def yX4_runScript : MethodName := ⟨RX4, "runScript", "()I"⟩
def dkwX4_runScript_4 : List UInt8 := [182, 1, 209, 154, 0, 5, 3, 172, 42, 182, 1, 102, 42, 182, 2, 68, 60, 42, 182, 0, 167, 27, 172]
abbrev dktX4_runScript_4 : List UInt8 := dkwX4_runScript_4 ++ []
def dkwX4_runScript_3 : List UInt8 := [167, 255, 215, 42, 182, 0, 132, 153, 0, 15, 42, 180, 2, 44, 158, 0, 8, 42, 4, 182, 0, 139, 42]
abbrev dktX4_runScript_3 : List UInt8 := dkwX4_runScript_3 ++ dktX4_runScript_4
def dkwX4_runScript_2 : List UInt8 := [42, 182, 2, 62, 42, 180, 2, 44, 27, 160, 0, 9, 42, 16, 59, 182, 1, 203, 42, 182, 2, 65]
abbrev dktX4_runScript_2 : List UInt8 := dkwX4_runScript_2 ++ dktX4_runScript_3
def dkwX4_runScript_1 : List UInt8 := [42, 4, 181, 1, 13, 42, 182, 0, 132, 153, 0, 40, 42, 180, 0, 119, 153, 0, 33, 42, 180, 2, 44, 60]
abbrev dktX4_runScript_1 : List UInt8 := dkwX4_runScript_1 ++ dktX4_runScript_2
def dkwX4_runScript_0 : List UInt8 := [42, 182, 1, 194, 42, 3, 181, 2, 50, 42, 3, 181, 2, 47, 42, 3, 181, 2, 44, 42, 3, 181, 0, 244]
abbrev dktX4_runScript_0 : List UInt8 := dkwX4_runScript_0 ++ dktX4_runScript_1
theorem dksX4_runScript_0 : cX4_runScript.data.toList.drop 0 = dktX4_runScript_0 := by decide +kernel
theorem dksX4_runScript_1 : cX4_runScript.data.toList.drop 24 = dktX4_runScript_1 := dk_seg dksX4_runScript_0 24 rfl rfl
theorem dksX4_runScript_2 : cX4_runScript.data.toList.drop 48 = dktX4_runScript_2 := dk_seg dksX4_runScript_1 24 rfl rfl
theorem dksX4_runScript_3 : cX4_runScript.data.toList.drop 70 = dktX4_runScript_3 := dk_seg dksX4_runScript_2 22 rfl rfl
theorem dksX4_runScript_4 : cX4_runScript.data.toList.drop 93 = dktX4_runScript_4 := dk_seg dksX4_runScript_3 23 rfl rfl
theorem dX4_runScript_0 : decode cX4_runScript 0 = .ok (.aload_n 0, 1) := dk_42 (dk_at dksX4_runScript_0 0 rfl rfl)
theorem dX4_runScript_1 : decode cX4_runScript 1 = .ok (.invokevirtual 450, 3) := dk_182 1 194 (dk_at dksX4_runScript_0 1 rfl rfl)
theorem dX4_runScript_4 : decode cX4_runScript 4 = .ok (.aload_n 0, 1) := dk_42 (dk_at dksX4_runScript_0 4 rfl rfl)
theorem dX4_runScript_5 : decode cX4_runScript 5 = .ok (.iconst 0, 1) := dk_3 (dk_at dksX4_runScript_0 5 rfl rfl)
theorem dX4_runScript_6 : decode cX4_runScript 6 = .ok (.putfield 562, 3) := dk_181 2 50 (dk_at dksX4_runScript_0 6 rfl rfl)
theorem dX4_runScript_9 : decode cX4_runScript 9 = .ok (.aload_n 0, 1) := dk_42 (dk_at dksX4_runScript_0 9 rfl rfl)
theorem dX4_runScript_10 : decode cX4_runScript 10 = .ok (.iconst 0, 1) := dk_3 (dk_at dksX4_runScript_0 10 rfl rfl)
theorem dX4_runScript_11 : decode cX4_runScript 11 = .ok (.putfield 559, 3) := dk_181 2 47 (dk_at dksX4_runScript_0 11 rfl rfl)
theorem dX4_runScript_14 : decode cX4_runScript 14 = .ok (.aload_n 0, 1) := dk_42 (dk_at dksX4_runScript_0 14 rfl rfl)
theorem dX4_runScript_15 : decode cX4_runScript 15 = .ok (.iconst 0, 1) := dk_3 (dk_at dksX4_runScript_0 15 rfl rfl)
theorem dX4_runScript_16 : decode cX4_runScript 16 = .ok (.putfield 556, 3) := dk_181 2 44 (dk_at dksX4_runScript_0 16 rfl rfl)
theorem dX4_runScript_19 : decode cX4_runScript 19 = .ok (.aload_n 0, 1) := dk_42 (dk_at dksX4_runScript_0 19 rfl rfl)
theorem dX4_runScript_20 : decode cX4_runScript 20 = .ok (.iconst 0, 1) := dk_3 (dk_at dksX4_runScript_0 20 rfl rfl)
theorem dX4_runScript_21 : decode cX4_runScript 21 = .ok (.putfield 244, 3) := dk_181 0 244 (dk_at dksX4_runScript_0 21 rfl rfl)
theorem dX4_runScript_24 : decode cX4_runScript 24 = .ok (.aload_n 0, 1) := dk_42 (dk_at dksX4_runScript_1 0 rfl rfl)
theorem dX4_runScript_25 : decode cX4_runScript 25 = .ok (.iconst 1, 1) := dk_4 (dk_at dksX4_runScript_1 1 rfl rfl)
theorem dX4_runScript_26 : decode cX4_runScript 26 = .ok (.putfield 269, 3) := dk_181 1 13 (dk_at dksX4_runScript_1 2 rfl rfl)
theorem dX4_runScript_29 : decode cX4_runScript 29 = .ok (.aload_n 0, 1) := dk_42 (dk_at dksX4_runScript_1 5 rfl rfl)
theorem dX4_runScript_30 : decode cX4_runScript 30 = .ok (.invokevirtual 132, 3) := dk_182 0 132 (dk_at dksX4_runScript_1 6 rfl rfl)
theorem dX4_runScript_33 : decode cX4_runScript 33 = .ok (.ifCond .eq 40, 3) := dk_153 0 40 (dk_at dksX4_runScript_1 9 rfl rfl)
theorem dX4_runScript_36 : decode cX4_runScript 36 = .ok (.aload_n 0, 1) := dk_42 (dk_at dksX4_runScript_1 12 rfl rfl)
theorem dX4_runScript_37 : decode cX4_runScript 37 = .ok (.getfield 119, 3) := dk_180 0 119 (dk_at dksX4_runScript_1 13 rfl rfl)
theorem dX4_runScript_40 : decode cX4_runScript 40 = .ok (.ifCond .eq 33, 3) := dk_153 0 33 (dk_at dksX4_runScript_1 16 rfl rfl)
theorem dX4_runScript_43 : decode cX4_runScript 43 = .ok (.aload_n 0, 1) := dk_42 (dk_at dksX4_runScript_1 19 rfl rfl)
theorem dX4_runScript_44 : decode cX4_runScript 44 = .ok (.getfield 556, 3) := dk_180 2 44 (dk_at dksX4_runScript_1 20 rfl rfl)
theorem dX4_runScript_47 : decode cX4_runScript 47 = .ok (.istore_n 1, 1) := dk_60 (dk_at dksX4_runScript_1 23 rfl rfl)
theorem dX4_runScript_48 : decode cX4_runScript 48 = .ok (.aload_n 0, 1) := dk_42 (dk_at dksX4_runScript_2 0 rfl rfl)
theorem dX4_runScript_49 : decode cX4_runScript 49 = .ok (.invokevirtual 574, 3) := dk_182 2 62 (dk_at dksX4_runScript_2 1 rfl rfl)
theorem dX4_runScript_52 : decode cX4_runScript 52 = .ok (.aload_n 0, 1) := dk_42 (dk_at dksX4_runScript_2 4 rfl rfl)
theorem dX4_runScript_53 : decode cX4_runScript 53 = .ok (.getfield 556, 3) := dk_180 2 44 (dk_at dksX4_runScript_2 5 rfl rfl)
theorem dX4_runScript_56 : decode cX4_runScript 56 = .ok (.iload_n 1, 1) := dk_27 (dk_at dksX4_runScript_2 8 rfl rfl)
theorem dX4_runScript_57 : decode cX4_runScript 57 = .ok (.if_icmp .ne 9, 3) := dk_160 0 9 (dk_at dksX4_runScript_2 9 rfl rfl)
theorem dX4_runScript_60 : decode cX4_runScript 60 = .ok (.aload_n 0, 1) := dk_42 (dk_at dksX4_runScript_2 12 rfl rfl)
theorem dX4_runScript_61 : decode cX4_runScript 61 = .ok (.bipush 59, 2) := dk_16 59 (dk_at dksX4_runScript_2 13 rfl rfl)
theorem dX4_runScript_63 : decode cX4_runScript 63 = .ok (.invokevirtual 459, 3) := dk_182 1 203 (dk_at dksX4_runScript_2 15 rfl rfl)
theorem dX4_runScript_66 : decode cX4_runScript 66 = .ok (.aload_n 0, 1) := dk_42 (dk_at dksX4_runScript_2 18 rfl rfl)
theorem dX4_runScript_67 : decode cX4_runScript 67 = .ok (.invokevirtual 577, 3) := dk_182 2 65 (dk_at dksX4_runScript_2 19 rfl rfl)
theorem dX4_runScript_70 : decode cX4_runScript 70 = .ok (.goto (-41), 3) := dk_167 255 215 (dk_at dksX4_runScript_3 0 rfl rfl)
theorem dX4_runScript_73 : decode cX4_runScript 73 = .ok (.aload_n 0, 1) := dk_42 (dk_at dksX4_runScript_3 3 rfl rfl)
theorem dX4_runScript_74 : decode cX4_runScript 74 = .ok (.invokevirtual 132, 3) := dk_182 0 132 (dk_at dksX4_runScript_3 4 rfl rfl)
theorem dX4_runScript_77 : decode cX4_runScript 77 = .ok (.ifCond .eq 15, 3) := dk_153 0 15 (dk_at dksX4_runScript_3 7 rfl rfl)
theorem dX4_runScript_80 : decode cX4_runScript 80 = .ok (.aload_n 0, 1) := dk_42 (dk_at dksX4_runScript_3 10 rfl rfl)
theorem dX4_runScript_81 : decode cX4_runScript 81 = .ok (.getfield 556, 3) := dk_180 2 44 (dk_at dksX4_runScript_3 11 rfl rfl)
theorem dX4_runScript_84 : decode cX4_runScript 84 = .ok (.ifCond .le 8, 3) := dk_158 0 8 (dk_at dksX4_runScript_3 14 rfl rfl)
theorem dX4_runScript_87 : decode cX4_runScript 87 = .ok (.aload_n 0, 1) := dk_42 (dk_at dksX4_runScript_3 17 rfl rfl)
theorem dX4_runScript_88 : decode cX4_runScript 88 = .ok (.iconst 1, 1) := dk_4 (dk_at dksX4_runScript_3 18 rfl rfl)
theorem dX4_runScript_89 : decode cX4_runScript 89 = .ok (.invokevirtual 139, 3) := dk_182 0 139 (dk_at dksX4_runScript_3 19 rfl rfl)
theorem dX4_runScript_92 : decode cX4_runScript 92 = .ok (.aload_n 0, 1) := dk_42 (dk_at dksX4_runScript_3 22 rfl rfl)
theorem dX4_runScript_93 : decode cX4_runScript 93 = .ok (.invokevirtual 465, 3) := dk_182 1 209 (dk_at dksX4_runScript_4 0 rfl rfl)
theorem dX4_runScript_96 : decode cX4_runScript 96 = .ok (.ifCond .ne 5, 3) := dk_154 0 5 (dk_at dksX4_runScript_4 3 rfl rfl)
theorem dX4_runScript_99 : decode cX4_runScript 99 = .ok (.iconst 0, 1) := dk_3 (dk_at dksX4_runScript_4 6 rfl rfl)
theorem dX4_runScript_100 : decode cX4_runScript 100 = .ok (.ireturn, 1) := dk_172 (dk_at dksX4_runScript_4 7 rfl rfl)
theorem dX4_runScript_101 : decode cX4_runScript 101 = .ok (.aload_n 0, 1) := dk_42 (dk_at dksX4_runScript_4 8 rfl rfl)
theorem dX4_runScript_102 : decode cX4_runScript 102 = .ok (.invokevirtual 358, 3) := dk_182 1 102 (dk_at dksX4_runScript_4 9 rfl rfl)
theorem dX4_runScript_105 : decode cX4_runScript 105 = .ok (.aload_n 0, 1) := dk_42 (dk_at dksX4_runScript_4 12 rfl rfl)
theorem dX4_runScript_106 : decode cX4_runScript 106 = .ok (.invokevirtual 580, 3) := dk_182 2 68 (dk_at dksX4_runScript_4 13 rfl rfl)
theorem dX4_runScript_109 : decode cX4_runScript 109 = .ok (.istore_n 1, 1) := dk_60 (dk_at dksX4_runScript_4 16 rfl rfl)
theorem dX4_runScript_110 : decode cX4_runScript 110 = .ok (.aload_n 0, 1) := dk_42 (dk_at dksX4_runScript_4 17 rfl rfl)
theorem dX4_runScript_111 : decode cX4_runScript 111 = .ok (.invokevirtual 167, 3) := dk_182 0 167 (dk_at dksX4_runScript_4 18 rfl rfl)
theorem dX4_runScript_114 : decode cX4_runScript 114 = .ok (.iload_n 1, 1) := dk_27 (dk_at dksX4_runScript_4 21 rfl rfl)
theorem dX4_runScript_115 : decode cX4_runScript 115 = .ok (.ireturn, 1) := dk_172 (dk_at dksX4_runScript_4 22 rfl rfl)
abbrev cX4_command : ByteArray := prog_23_method_169_code
def yX4_command : MethodName := ⟨RX4, "command", "()V"⟩
def dkwX4_command_5 : List UInt8 := [16, 6, 160, 0, 7, 4, 167, 0, 4, 3, 184, 0, 80, 96, 181, 2, 44, 177]
abbrev dktX4_command_5 : List UInt8 := dkwX4_command_5 ++ []
def dkwX4_command_4 : List UInt8 := [182, 0, 132, 154, 0, 4, 177, 42, 89, 180, 2, 50, 4, 96, 181, 2, 50, 42, 89, 180, 2, 44, 27]
abbrev dktX4_command_4 : List UInt8 := dkwX4_command_4 ++ dktX4_command_5
def dkwX4_command_3 : List UInt8 := [182, 0, 142, 42, 180, 2, 50, 61, 42, 180, 0, 50, 28, 27, 79, 42, 28, 27, 182, 2, 53, 42]
abbrev dktX4_command_3 : List UInt8 := dkwX4_command_3 ++ dktX4_command_4
def dkwX4_command_2 : List UInt8 := [182, 0, 139, 42, 182, 0, 132, 154, 0, 4, 177, 42, 89, 180, 2, 47, 4, 96, 181, 2, 47, 42]
abbrev dktX4_command_2 : List UInt8 := dkwX4_command_2 ++ dktX4_command_3
def dkwX4_command_1 : List UInt8 := [180, 2, 44, 5, 160, 0, 8, 42, 6, 182, 0, 139, 42, 180, 2, 47, 16, 30, 160, 0, 8, 42, 7]
abbrev dktX4_command_1 : List UInt8 := dkwX4_command_1 ++ dktX4_command_2
def dkwX4_command_0 : List UInt8 := [42, 182, 2, 41, 60, 27, 2, 160, 0, 8, 42, 4, 182, 0, 139, 27, 16, 6, 160, 0, 16, 42]
abbrev dktX4_command_0 : List UInt8 := dkwX4_command_0 ++ dktX4_command_1
theorem dksX4_command_0 : cX4_command.data.toList.drop 0 = dktX4_command_0 := by decide +kernel
theorem dksX4_command_1 : cX4_command.data.toList.drop 22 = dktX4_command_1 := dk_seg dksX4_command_0 22 rfl rfl
theorem dksX4_command_2 : cX4_command.data.toList.drop 45 = dktX4_command_2 := dk_seg dksX4_command_1 23 rfl rfl
theorem dksX4_command_3 : cX4_command.data.toList.drop 67 = dktX4_command_3 := dk_seg dksX4_command_2 22 rfl rfl
theorem dksX4_command_4 : cX4_command.data.toList.drop 89 = dktX4_command_4 := dk_seg dksX4_command_3 22 rfl rfl
theorem dksX4_command_5 : cX4_command.data.toList.drop 112 = dktX4_command_5 := dk_seg dksX4_command_4 23 rfl rfl
theorem dX4_command_0 : decode cX4_command 0 = .ok (.aload_n 0, 1) := dk_42 (dk_at dksX4_command_0 0 rfl rfl)
theorem dX4_command_1 : decode cX4_command 1 = .ok (.invokevirtual 553, 3) := dk_182 2 41 (dk_at dksX4_command_0 1 rfl rfl)
theorem dX4_command_4 : decode cX4_command 4 = .ok (.istore_n 1, 1) := dk_60 (dk_at dksX4_command_0 4 rfl rfl)
theorem dX4_command_5 : decode cX4_command 5 = .ok (.iload_n 1, 1) := dk_27 (dk_at dksX4_command_0 5 rfl rfl)
theorem dX4_command_6 : decode cX4_command 6 = .ok (.iconst (-1), 1) := dk_2 (dk_at dksX4_command_0 6 rfl rfl)
theorem dX4_command_7 : decode cX4_command 7 = .ok (.if_icmp .ne 8, 3) := dk_160 0 8 (dk_at dksX4_command_0 7 rfl rfl)
theorem dX4_command_10 : decode cX4_command 10 = .ok (.aload_n 0, 1) := dk_42 (dk_at dksX4_command_0 10 rfl rfl)
theorem dX4_command_11 : decode cX4_command 11 = .ok (.iconst 1, 1) := dk_4 (dk_at dksX4_command_0 11 rfl rfl)
theorem dX4_command_12 : decode cX4_command 12 = .ok (.invokevirtual 139, 3) := dk_182 0 139 (dk_at dksX4_command_0 12 rfl rfl)
theorem dX4_command_15 : decode cX4_command 15 = .ok (.iload_n 1, 1) := dk_27 (dk_at dksX4_command_0 15 rfl rfl)
theorem dX4_command_16 : decode cX4_command 16 = .ok (.bipush 6, 2) := dk_16 6 (dk_at dksX4_command_0 16 rfl rfl)
theorem dX4_command_18 : decode cX4_command 18 = .ok (.if_icmp .ne 16, 3) := dk_160 0 16 (dk_at dksX4_command_0 18 rfl rfl)
theorem dX4_command_21 : decode cX4_command 21 = .ok (.aload_n 0, 1) := dk_42 (dk_at dksX4_command_0 21 rfl rfl)
theorem dX4_command_22 : decode cX4_command 22 = .ok (.getfield 556, 3) := dk_180 2 44 (dk_at dksX4_command_1 0 rfl rfl)
theorem dX4_command_25 : decode cX4_command 25 = .ok (.iconst 2, 1) := dk_5 (dk_at dksX4_command_1 3 rfl rfl)
theorem dX4_command_26 : decode cX4_command 26 = .ok (.if_icmp .ne 8, 3) := dk_160 0 8 (dk_at dksX4_command_1 4 rfl rfl)
theorem dX4_command_29 : decode cX4_command 29 = .ok (.aload_n 0, 1) := dk_42 (dk_at dksX4_command_1 7 rfl rfl)
theorem dX4_command_30 : decode cX4_command 30 = .ok (.iconst 3, 1) := dk_6 (dk_at dksX4_command_1 8 rfl rfl)
theorem dX4_command_31 : decode cX4_command 31 = .ok (.invokevirtual 139, 3) := dk_182 0 139 (dk_at dksX4_command_1 9 rfl rfl)
theorem dX4_command_34 : decode cX4_command 34 = .ok (.aload_n 0, 1) := dk_42 (dk_at dksX4_command_1 12 rfl rfl)
theorem dX4_command_35 : decode cX4_command 35 = .ok (.getfield 559, 3) := dk_180 2 47 (dk_at dksX4_command_1 13 rfl rfl)
theorem dX4_command_38 : decode cX4_command 38 = .ok (.bipush 30, 2) := dk_16 30 (dk_at dksX4_command_1 16 rfl rfl)
theorem dX4_command_40 : decode cX4_command 40 = .ok (.if_icmp .ne 8, 3) := dk_160 0 8 (dk_at dksX4_command_1 18 rfl rfl)
theorem dX4_command_43 : decode cX4_command 43 = .ok (.aload_n 0, 1) := dk_42 (dk_at dksX4_command_1 21 rfl rfl)
theorem dX4_command_44 : decode cX4_command 44 = .ok (.iconst 4, 1) := dk_7 (dk_at dksX4_command_1 22 rfl rfl)
theorem dX4_command_45 : decode cX4_command 45 = .ok (.invokevirtual 139, 3) := dk_182 0 139 (dk_at dksX4_command_2 0 rfl rfl)
theorem dX4_command_48 : decode cX4_command 48 = .ok (.aload_n 0, 1) := dk_42 (dk_at dksX4_command_2 3 rfl rfl)
theorem dX4_command_49 : decode cX4_command 49 = .ok (.invokevirtual 132, 3) := dk_182 0 132 (dk_at dksX4_command_2 4 rfl rfl)
theorem dX4_command_52 : decode cX4_command 52 = .ok (.ifCond .ne 4, 3) := dk_154 0 4 (dk_at dksX4_command_2 7 rfl rfl)
theorem dX4_command_55 : decode cX4_command 55 = .ok (.return_, 1) := dk_177 (dk_at dksX4_command_2 10 rfl rfl)
theorem dX4_command_56 : decode cX4_command 56 = .ok (.aload_n 0, 1) := dk_42 (dk_at dksX4_command_2 11 rfl rfl)
theorem dX4_command_57 : decode cX4_command 57 = .ok (.dup, 1) := dk_89 (dk_at dksX4_command_2 12 rfl rfl)
theorem dX4_command_58 : decode cX4_command 58 = .ok (.getfield 559, 3) := dk_180 2 47 (dk_at dksX4_command_2 13 rfl rfl)
theorem dX4_command_61 : decode cX4_command 61 = .ok (.iconst 1, 1) := dk_4 (dk_at dksX4_command_2 16 rfl rfl)
theorem dX4_command_62 : decode cX4_command 62 = .ok (.iadd, 1) := dk_96 (dk_at dksX4_command_2 17 rfl rfl)
theorem dX4_command_63 : decode cX4_command 63 = .ok (.putfield 559, 3) := dk_181 2 47 (dk_at dksX4_command_2 18 rfl rfl)
theorem dX4_command_66 : decode cX4_command 66 = .ok (.aload_n 0, 1) := dk_42 (dk_at dksX4_command_2 21 rfl rfl)
theorem dX4_command_67 : decode cX4_command 67 = .ok (.invokevirtual 142, 3) := dk_182 0 142 (dk_at dksX4_command_3 0 rfl rfl)
theorem dX4_command_70 : decode cX4_command 70 = .ok (.aload_n 0, 1) := dk_42 (dk_at dksX4_command_3 3 rfl rfl)
theorem dX4_command_71 : decode cX4_command 71 = .ok (.getfield 562, 3) := dk_180 2 50 (dk_at dksX4_command_3 4 rfl rfl)
theorem dX4_command_74 : decode cX4_command 74 = .ok (.istore_n 2, 1) := dk_61 (dk_at dksX4_command_3 7 rfl rfl)
theorem dX4_command_75 : decode cX4_command 75 = .ok (.aload_n 0, 1) := dk_42 (dk_at dksX4_command_3 8 rfl rfl)
theorem dX4_command_76 : decode cX4_command 76 = .ok (.getfield 50, 3) := dk_180 0 50 (dk_at dksX4_command_3 9 rfl rfl)
theorem dX4_command_79 : decode cX4_command 79 = .ok (.iload_n 2, 1) := dk_28 (dk_at dksX4_command_3 12 rfl rfl)
theorem dX4_command_80 : decode cX4_command 80 = .ok (.iload_n 1, 1) := dk_27 (dk_at dksX4_command_3 13 rfl rfl)
theorem dX4_command_81 : decode cX4_command 81 = .ok (.iastore, 1) := dk_79 (dk_at dksX4_command_3 14 rfl rfl)
theorem dX4_command_82 : decode cX4_command 82 = .ok (.aload_n 0, 1) := dk_42 (dk_at dksX4_command_3 15 rfl rfl)
theorem dX4_command_83 : decode cX4_command 83 = .ok (.iload_n 2, 1) := dk_28 (dk_at dksX4_command_3 16 rfl rfl)
theorem dX4_command_84 : decode cX4_command 84 = .ok (.iload_n 1, 1) := dk_27 (dk_at dksX4_command_3 17 rfl rfl)
theorem dX4_command_85 : decode cX4_command 85 = .ok (.invokevirtual 565, 3) := dk_182 2 53 (dk_at dksX4_command_3 18 rfl rfl)
theorem dX4_command_88 : decode cX4_command 88 = .ok (.aload_n 0, 1) := dk_42 (dk_at dksX4_command_3 21 rfl rfl)
theorem dX4_command_89 : decode cX4_command 89 = .ok (.invokevirtual 132, 3) := dk_182 0 132 (dk_at dksX4_command_4 0 rfl rfl)
theorem dX4_command_92 : decode cX4_command 92 = .ok (.ifCond .ne 4, 3) := dk_154 0 4 (dk_at dksX4_command_4 3 rfl rfl)
theorem dX4_command_95 : decode cX4_command 95 = .ok (.return_, 1) := dk_177 (dk_at dksX4_command_4 6 rfl rfl)
theorem dX4_command_96 : decode cX4_command 96 = .ok (.aload_n 0, 1) := dk_42 (dk_at dksX4_command_4 7 rfl rfl)
theorem dX4_command_97 : decode cX4_command 97 = .ok (.dup, 1) := dk_89 (dk_at dksX4_command_4 8 rfl rfl)
theorem dX4_command_98 : decode cX4_command 98 = .ok (.getfield 562, 3) := dk_180 2 50 (dk_at dksX4_command_4 9 rfl rfl)
theorem dX4_command_101 : decode cX4_command 101 = .ok (.iconst 1, 1) := dk_4 (dk_at dksX4_command_4 12 rfl rfl)
theorem dX4_command_102 : decode cX4_command 102 = .ok (.iadd, 1) := dk_96 (dk_at dksX4_command_4 13 rfl rfl)
theorem dX4_command_103 : decode cX4_command 103 = .ok (.putfield 562, 3) := dk_181 2 50 (dk_at dksX4_command_4 14 rfl rfl)
theorem dX4_command_106 : decode cX4_command 106 = .ok (.aload_n 0, 1) := dk_42 (dk_at dksX4_command_4 17 rfl rfl)
theorem dX4_command_107 : decode cX4_command 107 = .ok (.dup, 1) := dk_89 (dk_at dksX4_command_4 18 rfl rfl)
theorem dX4_command_108 : decode cX4_command 108 = .ok (.getfield 556, 3) := dk_180 2 44 (dk_at dksX4_command_4 19 rfl rfl)
theorem dX4_command_111 : decode cX4_command 111 = .ok (.iload_n 1, 1) := dk_27 (dk_at dksX4_command_4 22 rfl rfl)
theorem dX4_command_112 : decode cX4_command 112 = .ok (.bipush 6, 2) := dk_16 6 (dk_at dksX4_command_5 0 rfl rfl)
theorem dX4_command_114 : decode cX4_command 114 = .ok (.if_icmp .ne 7, 3) := dk_160 0 7 (dk_at dksX4_command_5 2 rfl rfl)
theorem dX4_command_117 : decode cX4_command 117 = .ok (.iconst 1, 1) := dk_4 (dk_at dksX4_command_5 5 rfl rfl)
theorem dX4_command_118 : decode cX4_command 118 = .ok (.goto 4, 3) := dk_167 0 4 (dk_at dksX4_command_5 6 rfl rfl)
theorem dX4_command_121 : decode cX4_command 121 = .ok (.iconst 0, 1) := dk_3 (dk_at dksX4_command_5 9 rfl rfl)
theorem dX4_command_122 : decode cX4_command 122 = .ok (.invokestatic 80, 3) := dk_184 0 80 (dk_at dksX4_command_5 10 rfl rfl)
theorem dX4_command_125 : decode cX4_command 125 = .ok (.iadd, 1) := dk_96 (dk_at dksX4_command_5 13 rfl rfl)
theorem dX4_command_126 : decode cX4_command 126 = .ok (.putfield 556, 3) := dk_181 2 44 (dk_at dksX4_command_5 14 rfl rfl)
theorem dX4_command_129 : decode cX4_command 129 = .ok (.return_, 1) := dk_177 (dk_at dksX4_command_5 17 rfl rfl)
abbrev cX4_commandHere : ByteArray := prog_23_method_165_code
def yX4_commandHere : MethodName := ⟨RX4, "commandHere", "()I"⟩
def dkwX4_commandHere_3 : List UInt8 := [42, 20, 2, 33, 182, 0, 145, 153, 0, 8, 16, 6, 167, 0, 4, 2, 172]
abbrev dktX4_commandHere_3 : List UInt8 := dkwX4_commandHere_3 ++ []
def dkwX4_commandHere_2 : List UInt8 := [42, 20, 2, 29, 182, 0, 145, 153, 0, 5, 7, 172, 42, 20, 2, 31, 182, 0, 145, 153, 0, 5, 8, 172]
abbrev dktX4_commandHere_2 : List UInt8 := dkwX4_commandHere_2 ++ dktX4_commandHere_3
def dkwX4_commandHere_1 : List UInt8 := [42, 20, 1, 184, 182, 0, 145, 153, 0, 5, 5, 172, 42, 20, 1, 189, 182, 0, 145, 153, 0, 5, 6, 172]
abbrev dktX4_commandHere_1 : List UInt8 := dkwX4_commandHere_1 ++ dktX4_commandHere_2
def dkwX4_commandHere_0 : List UInt8 := [42, 20, 1, 174, 182, 0, 145, 153, 0, 5, 3, 172, 42, 20, 1, 179, 182, 0, 145, 153, 0, 5, 4, 172]
abbrev dktX4_commandHere_0 : List UInt8 := dkwX4_commandHere_0 ++ dktX4_commandHere_1
theorem dksX4_commandHere_0 : cX4_commandHere.data.toList.drop 0 = dktX4_commandHere_0 := by decide +kernel
theorem dksX4_commandHere_1 : cX4_commandHere.data.toList.drop 24 = dktX4_commandHere_1 := dk_seg dksX4_commandHere_0 24 rfl rfl
theorem dksX4_commandHere_2 : cX4_commandHere.data.toList.drop 48 = dktX4_commandHere_2 := dk_seg dksX4_commandHere_1 24 rfl rfl
theorem dksX4_commandHere_3 : cX4_commandHere.data.toList.drop 72 = dktX4_commandHere_3 := dk_seg dksX4_commandHere_2 24 rfl rfl
theorem dX4_commandHere_0 : decode cX4_commandHere 0 = .ok (.aload_n 0, 1) := dk_42 (dk_at dksX4_commandHere_0 0 rfl rfl)
theorem dX4_commandHere_1 : decode cX4_commandHere 1 = .ok (.ldc2_w 430, 3) := dk_20 1 174 (dk_at dksX4_commandHere_0 1 rfl rfl)
theorem dX4_commandHere_4 : decode cX4_commandHere 4 = .ok (.invokevirtual 145, 3) := dk_182 0 145 (dk_at dksX4_commandHere_0 4 rfl rfl)
theorem dX4_commandHere_7 : decode cX4_commandHere 7 = .ok (.ifCond .eq 5, 3) := dk_153 0 5 (dk_at dksX4_commandHere_0 7 rfl rfl)
theorem dX4_commandHere_10 : decode cX4_commandHere 10 = .ok (.iconst 0, 1) := dk_3 (dk_at dksX4_commandHere_0 10 rfl rfl)
theorem dX4_commandHere_11 : decode cX4_commandHere 11 = .ok (.ireturn, 1) := dk_172 (dk_at dksX4_commandHere_0 11 rfl rfl)
theorem dX4_commandHere_12 : decode cX4_commandHere 12 = .ok (.aload_n 0, 1) := dk_42 (dk_at dksX4_commandHere_0 12 rfl rfl)
theorem dX4_commandHere_13 : decode cX4_commandHere 13 = .ok (.ldc2_w 435, 3) := dk_20 1 179 (dk_at dksX4_commandHere_0 13 rfl rfl)
theorem dX4_commandHere_16 : decode cX4_commandHere 16 = .ok (.invokevirtual 145, 3) := dk_182 0 145 (dk_at dksX4_commandHere_0 16 rfl rfl)
theorem dX4_commandHere_19 : decode cX4_commandHere 19 = .ok (.ifCond .eq 5, 3) := dk_153 0 5 (dk_at dksX4_commandHere_0 19 rfl rfl)
theorem dX4_commandHere_22 : decode cX4_commandHere 22 = .ok (.iconst 1, 1) := dk_4 (dk_at dksX4_commandHere_0 22 rfl rfl)
theorem dX4_commandHere_23 : decode cX4_commandHere 23 = .ok (.ireturn, 1) := dk_172 (dk_at dksX4_commandHere_0 23 rfl rfl)
theorem dX4_commandHere_24 : decode cX4_commandHere 24 = .ok (.aload_n 0, 1) := dk_42 (dk_at dksX4_commandHere_1 0 rfl rfl)
theorem dX4_commandHere_25 : decode cX4_commandHere 25 = .ok (.ldc2_w 440, 3) := dk_20 1 184 (dk_at dksX4_commandHere_1 1 rfl rfl)
theorem dX4_commandHere_28 : decode cX4_commandHere 28 = .ok (.invokevirtual 145, 3) := dk_182 0 145 (dk_at dksX4_commandHere_1 4 rfl rfl)
theorem dX4_commandHere_31 : decode cX4_commandHere 31 = .ok (.ifCond .eq 5, 3) := dk_153 0 5 (dk_at dksX4_commandHere_1 7 rfl rfl)
theorem dX4_commandHere_34 : decode cX4_commandHere 34 = .ok (.iconst 2, 1) := dk_5 (dk_at dksX4_commandHere_1 10 rfl rfl)
theorem dX4_commandHere_35 : decode cX4_commandHere 35 = .ok (.ireturn, 1) := dk_172 (dk_at dksX4_commandHere_1 11 rfl rfl)
theorem dX4_commandHere_36 : decode cX4_commandHere 36 = .ok (.aload_n 0, 1) := dk_42 (dk_at dksX4_commandHere_1 12 rfl rfl)
theorem dX4_commandHere_37 : decode cX4_commandHere 37 = .ok (.ldc2_w 445, 3) := dk_20 1 189 (dk_at dksX4_commandHere_1 13 rfl rfl)
theorem dX4_commandHere_40 : decode cX4_commandHere 40 = .ok (.invokevirtual 145, 3) := dk_182 0 145 (dk_at dksX4_commandHere_1 16 rfl rfl)
theorem dX4_commandHere_43 : decode cX4_commandHere 43 = .ok (.ifCond .eq 5, 3) := dk_153 0 5 (dk_at dksX4_commandHere_1 19 rfl rfl)
theorem dX4_commandHere_46 : decode cX4_commandHere 46 = .ok (.iconst 3, 1) := dk_6 (dk_at dksX4_commandHere_1 22 rfl rfl)
theorem dX4_commandHere_47 : decode cX4_commandHere 47 = .ok (.ireturn, 1) := dk_172 (dk_at dksX4_commandHere_1 23 rfl rfl)
theorem dX4_commandHere_48 : decode cX4_commandHere 48 = .ok (.aload_n 0, 1) := dk_42 (dk_at dksX4_commandHere_2 0 rfl rfl)
theorem dX4_commandHere_49 : decode cX4_commandHere 49 = .ok (.ldc2_w 541, 3) := dk_20 2 29 (dk_at dksX4_commandHere_2 1 rfl rfl)
theorem dX4_commandHere_52 : decode cX4_commandHere 52 = .ok (.invokevirtual 145, 3) := dk_182 0 145 (dk_at dksX4_commandHere_2 4 rfl rfl)
theorem dX4_commandHere_55 : decode cX4_commandHere 55 = .ok (.ifCond .eq 5, 3) := dk_153 0 5 (dk_at dksX4_commandHere_2 7 rfl rfl)
theorem dX4_commandHere_58 : decode cX4_commandHere 58 = .ok (.iconst 4, 1) := dk_7 (dk_at dksX4_commandHere_2 10 rfl rfl)
theorem dX4_commandHere_59 : decode cX4_commandHere 59 = .ok (.ireturn, 1) := dk_172 (dk_at dksX4_commandHere_2 11 rfl rfl)
theorem dX4_commandHere_60 : decode cX4_commandHere 60 = .ok (.aload_n 0, 1) := dk_42 (dk_at dksX4_commandHere_2 12 rfl rfl)
theorem dX4_commandHere_61 : decode cX4_commandHere 61 = .ok (.ldc2_w 543, 3) := dk_20 2 31 (dk_at dksX4_commandHere_2 13 rfl rfl)
theorem dX4_commandHere_64 : decode cX4_commandHere 64 = .ok (.invokevirtual 145, 3) := dk_182 0 145 (dk_at dksX4_commandHere_2 16 rfl rfl)
theorem dX4_commandHere_67 : decode cX4_commandHere 67 = .ok (.ifCond .eq 5, 3) := dk_153 0 5 (dk_at dksX4_commandHere_2 19 rfl rfl)
theorem dX4_commandHere_70 : decode cX4_commandHere 70 = .ok (.iconst 5, 1) := dk_8 (dk_at dksX4_commandHere_2 22 rfl rfl)
theorem dX4_commandHere_71 : decode cX4_commandHere 71 = .ok (.ireturn, 1) := dk_172 (dk_at dksX4_commandHere_2 23 rfl rfl)
theorem dX4_commandHere_72 : decode cX4_commandHere 72 = .ok (.aload_n 0, 1) := dk_42 (dk_at dksX4_commandHere_3 0 rfl rfl)
theorem dX4_commandHere_73 : decode cX4_commandHere 73 = .ok (.ldc2_w 545, 3) := dk_20 2 33 (dk_at dksX4_commandHere_3 1 rfl rfl)
theorem dX4_commandHere_76 : decode cX4_commandHere 76 = .ok (.invokevirtual 145, 3) := dk_182 0 145 (dk_at dksX4_commandHere_3 4 rfl rfl)
theorem dX4_commandHere_79 : decode cX4_commandHere 79 = .ok (.ifCond .eq 8, 3) := dk_153 0 8 (dk_at dksX4_commandHere_3 7 rfl rfl)
theorem dX4_commandHere_82 : decode cX4_commandHere 82 = .ok (.bipush 6, 2) := dk_16 6 (dk_at dksX4_commandHere_3 10 rfl rfl)
theorem dX4_commandHere_84 : decode cX4_commandHere 84 = .ok (.goto 4, 3) := dk_167 0 4 (dk_at dksX4_commandHere_3 12 rfl rfl)
theorem dX4_commandHere_87 : decode cX4_commandHere 87 = .ok (.iconst (-1), 1) := dk_2 (dk_at dksX4_commandHere_3 15 rfl rfl)
theorem dX4_commandHere_88 : decode cX4_commandHere 88 = .ok (.ireturn, 1) := dk_172 (dk_at dksX4_commandHere_3 16 rfl rfl)
abbrev cX4_readsRest : ByteArray := prog_23_method_168_code
def yX4_readsRest : MethodName := ⟨RX4, "readsRest", "(II)V"⟩
def dkwX4_readsRest_2 : List UInt8 := [167, 0, 13, 28, 6, 159, 0, 8, 42, 27, 182, 2, 38, 177]
abbrev dktX4_readsRest_2 : List UInt8 := dkwX4_readsRest_2 ++ []
def dkwX4_readsRest_1 : List UInt8 := [182, 1, 203, 177, 42, 180, 0, 53, 27, 42, 182, 1, 157, 79, 28, 5, 160, 0, 11, 42, 27, 182, 2, 35]
abbrev dktX4_readsRest_1 : List UInt8 := dkwX4_readsRest_1 ++ dktX4_readsRest_2
def dkwX4_readsRest_0 : List UInt8 := [28, 16, 6, 160, 0, 23, 42, 180, 0, 53, 27, 42, 4, 16, 20, 182, 1, 154, 79, 42, 16, 40]
abbrev dktX4_readsRest_0 : List UInt8 := dkwX4_readsRest_0 ++ dktX4_readsRest_1
theorem dksX4_readsRest_0 : cX4_readsRest.data.toList.drop 0 = dktX4_readsRest_0 := by decide +kernel
theorem dksX4_readsRest_1 : cX4_readsRest.data.toList.drop 22 = dktX4_readsRest_1 := dk_seg dksX4_readsRest_0 22 rfl rfl
theorem dksX4_readsRest_2 : cX4_readsRest.data.toList.drop 46 = dktX4_readsRest_2 := dk_seg dksX4_readsRest_1 24 rfl rfl
theorem dX4_readsRest_0 : decode cX4_readsRest 0 = .ok (.iload_n 2, 1) := dk_28 (dk_at dksX4_readsRest_0 0 rfl rfl)
theorem dX4_readsRest_1 : decode cX4_readsRest 1 = .ok (.bipush 6, 2) := dk_16 6 (dk_at dksX4_readsRest_0 1 rfl rfl)
theorem dX4_readsRest_3 : decode cX4_readsRest 3 = .ok (.if_icmp .ne 23, 3) := dk_160 0 23 (dk_at dksX4_readsRest_0 3 rfl rfl)
theorem dX4_readsRest_6 : decode cX4_readsRest 6 = .ok (.aload_n 0, 1) := dk_42 (dk_at dksX4_readsRest_0 6 rfl rfl)
theorem dX4_readsRest_7 : decode cX4_readsRest 7 = .ok (.getfield 53, 3) := dk_180 0 53 (dk_at dksX4_readsRest_0 7 rfl rfl)
theorem dX4_readsRest_10 : decode cX4_readsRest 10 = .ok (.iload_n 1, 1) := dk_27 (dk_at dksX4_readsRest_0 10 rfl rfl)
theorem dX4_readsRest_11 : decode cX4_readsRest 11 = .ok (.aload_n 0, 1) := dk_42 (dk_at dksX4_readsRest_0 11 rfl rfl)
theorem dX4_readsRest_12 : decode cX4_readsRest 12 = .ok (.iconst 1, 1) := dk_4 (dk_at dksX4_readsRest_0 12 rfl rfl)
theorem dX4_readsRest_13 : decode cX4_readsRest 13 = .ok (.bipush 20, 2) := dk_16 20 (dk_at dksX4_readsRest_0 13 rfl rfl)
theorem dX4_readsRest_15 : decode cX4_readsRest 15 = .ok (.invokevirtual 410, 3) := dk_182 1 154 (dk_at dksX4_readsRest_0 15 rfl rfl)
theorem dX4_readsRest_18 : decode cX4_readsRest 18 = .ok (.iastore, 1) := dk_79 (dk_at dksX4_readsRest_0 18 rfl rfl)
theorem dX4_readsRest_19 : decode cX4_readsRest 19 = .ok (.aload_n 0, 1) := dk_42 (dk_at dksX4_readsRest_0 19 rfl rfl)
theorem dX4_readsRest_20 : decode cX4_readsRest 20 = .ok (.bipush 40, 2) := dk_16 40 (dk_at dksX4_readsRest_0 20 rfl rfl)
theorem dX4_readsRest_22 : decode cX4_readsRest 22 = .ok (.invokevirtual 459, 3) := dk_182 1 203 (dk_at dksX4_readsRest_1 0 rfl rfl)
theorem dX4_readsRest_25 : decode cX4_readsRest 25 = .ok (.return_, 1) := dk_177 (dk_at dksX4_readsRest_1 3 rfl rfl)
theorem dX4_readsRest_26 : decode cX4_readsRest 26 = .ok (.aload_n 0, 1) := dk_42 (dk_at dksX4_readsRest_1 4 rfl rfl)
theorem dX4_readsRest_27 : decode cX4_readsRest 27 = .ok (.getfield 53, 3) := dk_180 0 53 (dk_at dksX4_readsRest_1 5 rfl rfl)
theorem dX4_readsRest_30 : decode cX4_readsRest 30 = .ok (.iload_n 1, 1) := dk_27 (dk_at dksX4_readsRest_1 8 rfl rfl)
theorem dX4_readsRest_31 : decode cX4_readsRest 31 = .ok (.aload_n 0, 1) := dk_42 (dk_at dksX4_readsRest_1 9 rfl rfl)
theorem dX4_readsRest_32 : decode cX4_readsRest 32 = .ok (.invokevirtual 413, 3) := dk_182 1 157 (dk_at dksX4_readsRest_1 10 rfl rfl)
theorem dX4_readsRest_35 : decode cX4_readsRest 35 = .ok (.iastore, 1) := dk_79 (dk_at dksX4_readsRest_1 13 rfl rfl)
theorem dX4_readsRest_36 : decode cX4_readsRest 36 = .ok (.iload_n 2, 1) := dk_28 (dk_at dksX4_readsRest_1 14 rfl rfl)
theorem dX4_readsRest_37 : decode cX4_readsRest 37 = .ok (.iconst 2, 1) := dk_5 (dk_at dksX4_readsRest_1 15 rfl rfl)
theorem dX4_readsRest_38 : decode cX4_readsRest 38 = .ok (.if_icmp .ne 11, 3) := dk_160 0 11 (dk_at dksX4_readsRest_1 16 rfl rfl)
theorem dX4_readsRest_41 : decode cX4_readsRest 41 = .ok (.aload_n 0, 1) := dk_42 (dk_at dksX4_readsRest_1 19 rfl rfl)
theorem dX4_readsRest_42 : decode cX4_readsRest 42 = .ok (.iload_n 1, 1) := dk_27 (dk_at dksX4_readsRest_1 20 rfl rfl)
theorem dX4_readsRest_43 : decode cX4_readsRest 43 = .ok (.invokevirtual 547, 3) := dk_182 2 35 (dk_at dksX4_readsRest_1 21 rfl rfl)
theorem dX4_readsRest_46 : decode cX4_readsRest 46 = .ok (.goto 13, 3) := dk_167 0 13 (dk_at dksX4_readsRest_2 0 rfl rfl)
theorem dX4_readsRest_49 : decode cX4_readsRest 49 = .ok (.iload_n 2, 1) := dk_28 (dk_at dksX4_readsRest_2 3 rfl rfl)
theorem dX4_readsRest_50 : decode cX4_readsRest 50 = .ok (.iconst 3, 1) := dk_6 (dk_at dksX4_readsRest_2 4 rfl rfl)
theorem dX4_readsRest_51 : decode cX4_readsRest 51 = .ok (.if_icmp .eq 8, 3) := dk_159 0 8 (dk_at dksX4_readsRest_2 5 rfl rfl)
theorem dX4_readsRest_54 : decode cX4_readsRest 54 = .ok (.aload_n 0, 1) := dk_42 (dk_at dksX4_readsRest_2 8 rfl rfl)
theorem dX4_readsRest_55 : decode cX4_readsRest 55 = .ok (.iload_n 1, 1) := dk_27 (dk_at dksX4_readsRest_2 9 rfl rfl)
theorem dX4_readsRest_56 : decode cX4_readsRest 56 = .ok (.invokevirtual 550, 3) := dk_182 2 38 (dk_at dksX4_readsRest_2 10 rfl rfl)
theorem dX4_readsRest_59 : decode cX4_readsRest 59 = .ok (.return_, 1) := dk_177 (dk_at dksX4_readsRest_2 13 rfl rfl)
abbrev cX4_readsLet : ByteArray := prog_23_method_166_code
def yX4_readsLet : MethodName := ⟨RX4, "readsLet", "(I)V"⟩
def dkwX4_readsLet_1 : List UInt8 := [180, 0, 59, 27, 42, 180, 0, 244, 79, 177]
abbrev dktX4_readsLet_1 : List UInt8 := dkwX4_readsLet_1 ++ []
def dkwX4_readsLet_0 : List UInt8 := [42, 180, 0, 56, 27, 42, 180, 0, 244, 79, 42, 182, 0, 132, 153, 0, 7, 42, 182, 1, 168, 42]
abbrev dktX4_readsLet_0 : List UInt8 := dkwX4_readsLet_0 ++ dktX4_readsLet_1
theorem dksX4_readsLet_0 : cX4_readsLet.data.toList.drop 0 = dktX4_readsLet_0 := by decide +kernel
theorem dksX4_readsLet_1 : cX4_readsLet.data.toList.drop 22 = dktX4_readsLet_1 := dk_seg dksX4_readsLet_0 22 rfl rfl
theorem dX4_readsLet_0 : decode cX4_readsLet 0 = .ok (.aload_n 0, 1) := dk_42 (dk_at dksX4_readsLet_0 0 rfl rfl)
theorem dX4_readsLet_1 : decode cX4_readsLet 1 = .ok (.getfield 56, 3) := dk_180 0 56 (dk_at dksX4_readsLet_0 1 rfl rfl)
theorem dX4_readsLet_4 : decode cX4_readsLet 4 = .ok (.iload_n 1, 1) := dk_27 (dk_at dksX4_readsLet_0 4 rfl rfl)
theorem dX4_readsLet_5 : decode cX4_readsLet 5 = .ok (.aload_n 0, 1) := dk_42 (dk_at dksX4_readsLet_0 5 rfl rfl)
theorem dX4_readsLet_6 : decode cX4_readsLet 6 = .ok (.getfield 244, 3) := dk_180 0 244 (dk_at dksX4_readsLet_0 6 rfl rfl)
theorem dX4_readsLet_9 : decode cX4_readsLet 9 = .ok (.iastore, 1) := dk_79 (dk_at dksX4_readsLet_0 9 rfl rfl)
theorem dX4_readsLet_10 : decode cX4_readsLet 10 = .ok (.aload_n 0, 1) := dk_42 (dk_at dksX4_readsLet_0 10 rfl rfl)
theorem dX4_readsLet_11 : decode cX4_readsLet 11 = .ok (.invokevirtual 132, 3) := dk_182 0 132 (dk_at dksX4_readsLet_0 11 rfl rfl)
theorem dX4_readsLet_14 : decode cX4_readsLet 14 = .ok (.ifCond .eq 7, 3) := dk_153 0 7 (dk_at dksX4_readsLet_0 14 rfl rfl)
theorem dX4_readsLet_17 : decode cX4_readsLet 17 = .ok (.aload_n 0, 1) := dk_42 (dk_at dksX4_readsLet_0 17 rfl rfl)
theorem dX4_readsLet_18 : decode cX4_readsLet 18 = .ok (.invokevirtual 424, 3) := dk_182 1 168 (dk_at dksX4_readsLet_0 18 rfl rfl)
theorem dX4_readsLet_21 : decode cX4_readsLet 21 = .ok (.aload_n 0, 1) := dk_42 (dk_at dksX4_readsLet_0 21 rfl rfl)
theorem dX4_readsLet_22 : decode cX4_readsLet 22 = .ok (.getfield 59, 3) := dk_180 0 59 (dk_at dksX4_readsLet_1 0 rfl rfl)
theorem dX4_readsLet_25 : decode cX4_readsLet 25 = .ok (.iload_n 1, 1) := dk_27 (dk_at dksX4_readsLet_1 3 rfl rfl)
theorem dX4_readsLet_26 : decode cX4_readsLet 26 = .ok (.aload_n 0, 1) := dk_42 (dk_at dksX4_readsLet_1 4 rfl rfl)
theorem dX4_readsLet_27 : decode cX4_readsLet 27 = .ok (.getfield 244, 3) := dk_180 0 244 (dk_at dksX4_readsLet_1 5 rfl rfl)
theorem dX4_readsLet_30 : decode cX4_readsLet 30 = .ok (.iastore, 1) := dk_79 (dk_at dksX4_readsLet_1 8 rfl rfl)
theorem dX4_readsLet_31 : decode cX4_readsLet 31 = .ok (.return_, 1) := dk_177 (dk_at dksX4_readsLet_1 9 rfl rfl)
abbrev cX4_readsEntry : ByteArray := prog_23_method_167_code
def yX4_readsEntry : MethodName := ⟨RX4, "readsEntry", "(I)V"⟩
def dkwX4_readsEntry_4 : List UInt8 := [177]
abbrev dktX4_readsEntry_4 : List UInt8 := dkwX4_readsEntry_4 ++ []
def dkwX4_readsEntry_3 : List UInt8 := [42, 180, 0, 62, 27, 42, 3, 17, 39, 15, 182, 1, 160, 28, 153, 0, 7, 2, 167, 0, 4, 4, 104, 79]
abbrev dktX4_readsEntry_3 : List UInt8 := dkwX4_readsEntry_3 ++ dktX4_readsEntry_4
def dkwX4_readsEntry_2 : List UInt8 := [4, 167, 0, 4, 3, 61, 28, 153, 0, 7, 42, 182, 0, 142, 42, 180, 0, 50, 27, 46, 4, 160, 0, 27]
abbrev dktX4_readsEntry_2 : List UInt8 := dkwX4_readsEntry_2 ++ dktX4_readsEntry_3
def dkwX4_readsEntry_1 : List UInt8 := [182, 1, 160, 79, 42, 180, 0, 50, 27, 46, 4, 160, 0, 17, 42, 20, 1, 166, 182, 0, 145, 153, 0, 7]
abbrev dktX4_readsEntry_1 : List UInt8 := dkwX4_readsEntry_1 ++ dktX4_readsEntry_2
def dkwX4_readsEntry_0 : List UInt8 := [42, 180, 0, 56, 27, 42, 3, 17, 39, 15, 182, 1, 160, 79, 42, 180, 0, 59, 27, 42, 3, 17, 39, 15]
abbrev dktX4_readsEntry_0 : List UInt8 := dkwX4_readsEntry_0 ++ dktX4_readsEntry_1
theorem dksX4_readsEntry_0 : cX4_readsEntry.data.toList.drop 0 = dktX4_readsEntry_0 := by decide +kernel
theorem dksX4_readsEntry_1 : cX4_readsEntry.data.toList.drop 24 = dktX4_readsEntry_1 := dk_seg dksX4_readsEntry_0 24 rfl rfl
theorem dksX4_readsEntry_2 : cX4_readsEntry.data.toList.drop 48 = dktX4_readsEntry_2 := dk_seg dksX4_readsEntry_1 24 rfl rfl
theorem dksX4_readsEntry_3 : cX4_readsEntry.data.toList.drop 72 = dktX4_readsEntry_3 := dk_seg dksX4_readsEntry_2 24 rfl rfl
theorem dksX4_readsEntry_4 : cX4_readsEntry.data.toList.drop 96 = dktX4_readsEntry_4 := dk_seg dksX4_readsEntry_3 24 rfl rfl
theorem dX4_readsEntry_0 : decode cX4_readsEntry 0 = .ok (.aload_n 0, 1) := dk_42 (dk_at dksX4_readsEntry_0 0 rfl rfl)
theorem dX4_readsEntry_1 : decode cX4_readsEntry 1 = .ok (.getfield 56, 3) := dk_180 0 56 (dk_at dksX4_readsEntry_0 1 rfl rfl)
theorem dX4_readsEntry_4 : decode cX4_readsEntry 4 = .ok (.iload_n 1, 1) := dk_27 (dk_at dksX4_readsEntry_0 4 rfl rfl)
theorem dX4_readsEntry_5 : decode cX4_readsEntry 5 = .ok (.aload_n 0, 1) := dk_42 (dk_at dksX4_readsEntry_0 5 rfl rfl)
theorem dX4_readsEntry_6 : decode cX4_readsEntry 6 = .ok (.iconst 0, 1) := dk_3 (dk_at dksX4_readsEntry_0 6 rfl rfl)
theorem dX4_readsEntry_7 : decode cX4_readsEntry 7 = .ok (.sipush 9999, 3) := dk_17 39 15 (dk_at dksX4_readsEntry_0 7 rfl rfl)
theorem dX4_readsEntry_10 : decode cX4_readsEntry 10 = .ok (.invokevirtual 416, 3) := dk_182 1 160 (dk_at dksX4_readsEntry_0 10 rfl rfl)
theorem dX4_readsEntry_13 : decode cX4_readsEntry 13 = .ok (.iastore, 1) := dk_79 (dk_at dksX4_readsEntry_0 13 rfl rfl)
theorem dX4_readsEntry_14 : decode cX4_readsEntry 14 = .ok (.aload_n 0, 1) := dk_42 (dk_at dksX4_readsEntry_0 14 rfl rfl)
theorem dX4_readsEntry_15 : decode cX4_readsEntry 15 = .ok (.getfield 59, 3) := dk_180 0 59 (dk_at dksX4_readsEntry_0 15 rfl rfl)
theorem dX4_readsEntry_18 : decode cX4_readsEntry 18 = .ok (.iload_n 1, 1) := dk_27 (dk_at dksX4_readsEntry_0 18 rfl rfl)
theorem dX4_readsEntry_19 : decode cX4_readsEntry 19 = .ok (.aload_n 0, 1) := dk_42 (dk_at dksX4_readsEntry_0 19 rfl rfl)
theorem dX4_readsEntry_20 : decode cX4_readsEntry 20 = .ok (.iconst 0, 1) := dk_3 (dk_at dksX4_readsEntry_0 20 rfl rfl)
theorem dX4_readsEntry_21 : decode cX4_readsEntry 21 = .ok (.sipush 9999, 3) := dk_17 39 15 (dk_at dksX4_readsEntry_0 21 rfl rfl)
theorem dX4_readsEntry_24 : decode cX4_readsEntry 24 = .ok (.invokevirtual 416, 3) := dk_182 1 160 (dk_at dksX4_readsEntry_1 0 rfl rfl)
theorem dX4_readsEntry_27 : decode cX4_readsEntry 27 = .ok (.iastore, 1) := dk_79 (dk_at dksX4_readsEntry_1 3 rfl rfl)
theorem dX4_readsEntry_28 : decode cX4_readsEntry 28 = .ok (.aload_n 0, 1) := dk_42 (dk_at dksX4_readsEntry_1 4 rfl rfl)
theorem dX4_readsEntry_29 : decode cX4_readsEntry 29 = .ok (.getfield 50, 3) := dk_180 0 50 (dk_at dksX4_readsEntry_1 5 rfl rfl)
theorem dX4_readsEntry_32 : decode cX4_readsEntry 32 = .ok (.iload_n 1, 1) := dk_27 (dk_at dksX4_readsEntry_1 8 rfl rfl)
theorem dX4_readsEntry_33 : decode cX4_readsEntry 33 = .ok (.iaload, 1) := dk_46 (dk_at dksX4_readsEntry_1 9 rfl rfl)
theorem dX4_readsEntry_34 : decode cX4_readsEntry 34 = .ok (.iconst 1, 1) := dk_4 (dk_at dksX4_readsEntry_1 10 rfl rfl)
theorem dX4_readsEntry_35 : decode cX4_readsEntry 35 = .ok (.if_icmp .ne 17, 3) := dk_160 0 17 (dk_at dksX4_readsEntry_1 11 rfl rfl)
theorem dX4_readsEntry_38 : decode cX4_readsEntry 38 = .ok (.aload_n 0, 1) := dk_42 (dk_at dksX4_readsEntry_1 14 rfl rfl)
theorem dX4_readsEntry_39 : decode cX4_readsEntry 39 = .ok (.ldc2_w 422, 3) := dk_20 1 166 (dk_at dksX4_readsEntry_1 15 rfl rfl)
theorem dX4_readsEntry_42 : decode cX4_readsEntry 42 = .ok (.invokevirtual 145, 3) := dk_182 0 145 (dk_at dksX4_readsEntry_1 18 rfl rfl)
theorem dX4_readsEntry_45 : decode cX4_readsEntry 45 = .ok (.ifCond .eq 7, 3) := dk_153 0 7 (dk_at dksX4_readsEntry_1 21 rfl rfl)
theorem dX4_readsEntry_48 : decode cX4_readsEntry 48 = .ok (.iconst 1, 1) := dk_4 (dk_at dksX4_readsEntry_2 0 rfl rfl)
theorem dX4_readsEntry_49 : decode cX4_readsEntry 49 = .ok (.goto 4, 3) := dk_167 0 4 (dk_at dksX4_readsEntry_2 1 rfl rfl)
theorem dX4_readsEntry_52 : decode cX4_readsEntry 52 = .ok (.iconst 0, 1) := dk_3 (dk_at dksX4_readsEntry_2 4 rfl rfl)
theorem dX4_readsEntry_53 : decode cX4_readsEntry 53 = .ok (.istore_n 2, 1) := dk_61 (dk_at dksX4_readsEntry_2 5 rfl rfl)
theorem dX4_readsEntry_54 : decode cX4_readsEntry 54 = .ok (.iload_n 2, 1) := dk_28 (dk_at dksX4_readsEntry_2 6 rfl rfl)
theorem dX4_readsEntry_55 : decode cX4_readsEntry 55 = .ok (.ifCond .eq 7, 3) := dk_153 0 7 (dk_at dksX4_readsEntry_2 7 rfl rfl)
theorem dX4_readsEntry_58 : decode cX4_readsEntry 58 = .ok (.aload_n 0, 1) := dk_42 (dk_at dksX4_readsEntry_2 10 rfl rfl)
theorem dX4_readsEntry_59 : decode cX4_readsEntry 59 = .ok (.invokevirtual 142, 3) := dk_182 0 142 (dk_at dksX4_readsEntry_2 11 rfl rfl)
theorem dX4_readsEntry_62 : decode cX4_readsEntry 62 = .ok (.aload_n 0, 1) := dk_42 (dk_at dksX4_readsEntry_2 14 rfl rfl)
theorem dX4_readsEntry_63 : decode cX4_readsEntry 63 = .ok (.getfield 50, 3) := dk_180 0 50 (dk_at dksX4_readsEntry_2 15 rfl rfl)
theorem dX4_readsEntry_66 : decode cX4_readsEntry 66 = .ok (.iload_n 1, 1) := dk_27 (dk_at dksX4_readsEntry_2 18 rfl rfl)
theorem dX4_readsEntry_67 : decode cX4_readsEntry 67 = .ok (.iaload, 1) := dk_46 (dk_at dksX4_readsEntry_2 19 rfl rfl)
theorem dX4_readsEntry_68 : decode cX4_readsEntry 68 = .ok (.iconst 1, 1) := dk_4 (dk_at dksX4_readsEntry_2 20 rfl rfl)
theorem dX4_readsEntry_69 : decode cX4_readsEntry 69 = .ok (.if_icmp .ne 27, 3) := dk_160 0 27 (dk_at dksX4_readsEntry_2 21 rfl rfl)
theorem dX4_readsEntry_72 : decode cX4_readsEntry 72 = .ok (.aload_n 0, 1) := dk_42 (dk_at dksX4_readsEntry_3 0 rfl rfl)
theorem dX4_readsEntry_73 : decode cX4_readsEntry 73 = .ok (.getfield 62, 3) := dk_180 0 62 (dk_at dksX4_readsEntry_3 1 rfl rfl)
theorem dX4_readsEntry_76 : decode cX4_readsEntry 76 = .ok (.iload_n 1, 1) := dk_27 (dk_at dksX4_readsEntry_3 4 rfl rfl)
theorem dX4_readsEntry_77 : decode cX4_readsEntry 77 = .ok (.aload_n 0, 1) := dk_42 (dk_at dksX4_readsEntry_3 5 rfl rfl)
theorem dX4_readsEntry_78 : decode cX4_readsEntry 78 = .ok (.iconst 0, 1) := dk_3 (dk_at dksX4_readsEntry_3 6 rfl rfl)
theorem dX4_readsEntry_79 : decode cX4_readsEntry 79 = .ok (.sipush 9999, 3) := dk_17 39 15 (dk_at dksX4_readsEntry_3 7 rfl rfl)
theorem dX4_readsEntry_82 : decode cX4_readsEntry 82 = .ok (.invokevirtual 416, 3) := dk_182 1 160 (dk_at dksX4_readsEntry_3 10 rfl rfl)
theorem dX4_readsEntry_85 : decode cX4_readsEntry 85 = .ok (.iload_n 2, 1) := dk_28 (dk_at dksX4_readsEntry_3 13 rfl rfl)
theorem dX4_readsEntry_86 : decode cX4_readsEntry 86 = .ok (.ifCond .eq 7, 3) := dk_153 0 7 (dk_at dksX4_readsEntry_3 14 rfl rfl)
theorem dX4_readsEntry_89 : decode cX4_readsEntry 89 = .ok (.iconst (-1), 1) := dk_2 (dk_at dksX4_readsEntry_3 17 rfl rfl)
theorem dX4_readsEntry_90 : decode cX4_readsEntry 90 = .ok (.goto 4, 3) := dk_167 0 4 (dk_at dksX4_readsEntry_3 18 rfl rfl)
theorem dX4_readsEntry_93 : decode cX4_readsEntry 93 = .ok (.iconst 1, 1) := dk_4 (dk_at dksX4_readsEntry_3 21 rfl rfl)
theorem dX4_readsEntry_94 : decode cX4_readsEntry 94 = .ok (.imul, 1) := dk_104 (dk_at dksX4_readsEntry_3 22 rfl rfl)
theorem dX4_readsEntry_95 : decode cX4_readsEntry 95 = .ok (.iastore, 1) := dk_79 (dk_at dksX4_readsEntry_3 23 rfl rfl)
theorem dX4_readsEntry_96 : decode cX4_readsEntry 96 = .ok (.return_, 1) := dk_177 (dk_at dksX4_readsEntry_4 0 rfl rfl)
abbrev cX4_closes : ByteArray := prog_23_method_170_code
def yX4_closes : MethodName := ⟨RX4, "closes", "()V"⟩
def dkwX4_closes_2 : List UInt8 := [42, 182, 0, 142, 42, 16, 59, 182, 1, 203, 167, 255, 199, 177]
abbrev dktX4_closes_2 : List UInt8 := dkwX4_closes_2 ++ []
def dkwX4_closes_1 : List UInt8 := [181, 2, 44, 42, 180, 0, 50, 42, 180, 2, 50, 16, 7, 79, 42, 89, 180, 2, 50, 4, 96, 181, 2, 50]
abbrev dktX4_closes_1 : List UInt8 := dkwX4_closes_1 ++ dktX4_closes_2
def dkwX4_closes_0 : List UInt8 := [42, 180, 2, 44, 158, 0, 56, 42, 16, 41, 182, 0, 136, 153, 0, 47, 42, 89, 180, 2, 44, 4, 100]
abbrev dktX4_closes_0 : List UInt8 := dkwX4_closes_0 ++ dktX4_closes_1
theorem dksX4_closes_0 : cX4_closes.data.toList.drop 0 = dktX4_closes_0 := by decide +kernel
theorem dksX4_closes_1 : cX4_closes.data.toList.drop 23 = dktX4_closes_1 := dk_seg dksX4_closes_0 23 rfl rfl
theorem dksX4_closes_2 : cX4_closes.data.toList.drop 47 = dktX4_closes_2 := dk_seg dksX4_closes_1 24 rfl rfl
theorem dX4_closes_0 : decode cX4_closes 0 = .ok (.aload_n 0, 1) := dk_42 (dk_at dksX4_closes_0 0 rfl rfl)
theorem dX4_closes_1 : decode cX4_closes 1 = .ok (.getfield 556, 3) := dk_180 2 44 (dk_at dksX4_closes_0 1 rfl rfl)
theorem dX4_closes_4 : decode cX4_closes 4 = .ok (.ifCond .le 56, 3) := dk_158 0 56 (dk_at dksX4_closes_0 4 rfl rfl)
theorem dX4_closes_7 : decode cX4_closes 7 = .ok (.aload_n 0, 1) := dk_42 (dk_at dksX4_closes_0 7 rfl rfl)
theorem dX4_closes_8 : decode cX4_closes 8 = .ok (.bipush 41, 2) := dk_16 41 (dk_at dksX4_closes_0 8 rfl rfl)
theorem dX4_closes_10 : decode cX4_closes 10 = .ok (.invokevirtual 136, 3) := dk_182 0 136 (dk_at dksX4_closes_0 10 rfl rfl)
theorem dX4_closes_13 : decode cX4_closes 13 = .ok (.ifCond .eq 47, 3) := dk_153 0 47 (dk_at dksX4_closes_0 13 rfl rfl)
theorem dX4_closes_16 : decode cX4_closes 16 = .ok (.aload_n 0, 1) := dk_42 (dk_at dksX4_closes_0 16 rfl rfl)
theorem dX4_closes_17 : decode cX4_closes 17 = .ok (.dup, 1) := dk_89 (dk_at dksX4_closes_0 17 rfl rfl)
theorem dX4_closes_18 : decode cX4_closes 18 = .ok (.getfield 556, 3) := dk_180 2 44 (dk_at dksX4_closes_0 18 rfl rfl)
theorem dX4_closes_21 : decode cX4_closes 21 = .ok (.iconst 1, 1) := dk_4 (dk_at dksX4_closes_0 21 rfl rfl)
theorem dX4_closes_22 : decode cX4_closes 22 = .ok (.isub, 1) := dk_100 (dk_at dksX4_closes_0 22 rfl rfl)
theorem dX4_closes_23 : decode cX4_closes 23 = .ok (.putfield 556, 3) := dk_181 2 44 (dk_at dksX4_closes_1 0 rfl rfl)
theorem dX4_closes_26 : decode cX4_closes 26 = .ok (.aload_n 0, 1) := dk_42 (dk_at dksX4_closes_1 3 rfl rfl)
theorem dX4_closes_27 : decode cX4_closes 27 = .ok (.getfield 50, 3) := dk_180 0 50 (dk_at dksX4_closes_1 4 rfl rfl)
theorem dX4_closes_30 : decode cX4_closes 30 = .ok (.aload_n 0, 1) := dk_42 (dk_at dksX4_closes_1 7 rfl rfl)
theorem dX4_closes_31 : decode cX4_closes 31 = .ok (.getfield 562, 3) := dk_180 2 50 (dk_at dksX4_closes_1 8 rfl rfl)
theorem dX4_closes_34 : decode cX4_closes 34 = .ok (.bipush 7, 2) := dk_16 7 (dk_at dksX4_closes_1 11 rfl rfl)
theorem dX4_closes_36 : decode cX4_closes 36 = .ok (.iastore, 1) := dk_79 (dk_at dksX4_closes_1 13 rfl rfl)
theorem dX4_closes_37 : decode cX4_closes 37 = .ok (.aload_n 0, 1) := dk_42 (dk_at dksX4_closes_1 14 rfl rfl)
theorem dX4_closes_38 : decode cX4_closes 38 = .ok (.dup, 1) := dk_89 (dk_at dksX4_closes_1 15 rfl rfl)
theorem dX4_closes_39 : decode cX4_closes 39 = .ok (.getfield 562, 3) := dk_180 2 50 (dk_at dksX4_closes_1 16 rfl rfl)
theorem dX4_closes_42 : decode cX4_closes 42 = .ok (.iconst 1, 1) := dk_4 (dk_at dksX4_closes_1 19 rfl rfl)
theorem dX4_closes_43 : decode cX4_closes 43 = .ok (.iadd, 1) := dk_96 (dk_at dksX4_closes_1 20 rfl rfl)
theorem dX4_closes_44 : decode cX4_closes 44 = .ok (.putfield 562, 3) := dk_181 2 50 (dk_at dksX4_closes_1 21 rfl rfl)
theorem dX4_closes_47 : decode cX4_closes 47 = .ok (.aload_n 0, 1) := dk_42 (dk_at dksX4_closes_2 0 rfl rfl)
theorem dX4_closes_48 : decode cX4_closes 48 = .ok (.invokevirtual 142, 3) := dk_182 0 142 (dk_at dksX4_closes_2 1 rfl rfl)
theorem dX4_closes_51 : decode cX4_closes 51 = .ok (.aload_n 0, 1) := dk_42 (dk_at dksX4_closes_2 4 rfl rfl)
theorem dX4_closes_52 : decode cX4_closes 52 = .ok (.bipush 59, 2) := dk_16 59 (dk_at dksX4_closes_2 5 rfl rfl)
theorem dX4_closes_54 : decode cX4_closes 54 = .ok (.invokevirtual 459, 3) := dk_182 1 203 (dk_at dksX4_closes_2 7 rfl rfl)
theorem dX4_closes_57 : decode cX4_closes 57 = .ok (.goto (-57), 3) := dk_167 255 199 (dk_at dksX4_closes_2 10 rfl rfl)
theorem dX4_closes_60 : decode cX4_closes 60 = .ok (.return_, 1) := dk_177 (dk_at dksX4_closes_2 13 rfl rfl)
abbrev cX4_doesAll : ByteArray := prog_23_method_175_code
def yX4_doesAll : MethodName := ⟨RX4, "doesAll", "()I"⟩
def dkwX4_doesAll_7 : List UInt8 := [132, 3, 1, 167, 255, 98, 27, 172]
abbrev dktX4_doesAll_7 : List UInt8 := dkwX4_doesAll_7 ++ []
def dkwX4_doesAll_6 : List UInt8 := [184, 0, 80, 100, 61, 167, 255, 119, 42, 29, 182, 2, 71, 54, 4, 27, 21, 4, 184, 0, 80, 96, 60]
abbrev dktX4_doesAll_6 : List UInt8 := dkwX4_doesAll_6 ++ dktX4_doesAll_7
def dkwX4_doesAll_5 : List UInt8 := [100, 46, 4, 96, 167, 0, 6, 29, 4, 96, 62, 28, 21, 5, 154, 0, 7, 4, 167, 0, 4, 3]
abbrev dktX4_doesAll_5 : List UInt8 := dkwX4_doesAll_5 ++ dktX4_doesAll_6
def dkwX4_doesAll_4 : List UInt8 := [4, 100, 46, 158, 0, 7, 4, 167, 0, 4, 3, 54, 5, 21, 5, 153, 0, 16, 42, 180, 0, 65, 28, 4]
abbrev dktX4_doesAll_4 : List UInt8 := dkwX4_doesAll_4 ++ dktX4_doesAll_5
def dkwX4_doesAll_3 : List UInt8 := [29, 46, 16, 7, 160, 0, 74, 42, 180, 0, 68, 28, 4, 100, 92, 46, 4, 100, 79, 42, 180, 0, 68, 28]
abbrev dktX4_doesAll_3 : List UInt8 := dkwX4_doesAll_3 ++ dktX4_doesAll_4
def dkwX4_doesAll_2 : List UInt8 := [180, 0, 68, 28, 42, 180, 0, 53, 29, 46, 79, 132, 2, 1, 132, 3, 1, 167, 255, 201, 42, 180, 0, 50]
abbrev dktX4_doesAll_2 : List UInt8 := dkwX4_doesAll_2 ++ dktX4_doesAll_3
def dkwX4_doesAll_1 : List UInt8 := [16, 40, 162, 0, 145, 42, 180, 0, 50, 29, 46, 16, 6, 160, 0, 31, 42, 180, 0, 65, 28, 29, 79, 42]
abbrev dktX4_doesAll_1 : List UInt8 := dkwX4_doesAll_1 ++ dktX4_doesAll_2
def dkwX4_doesAll_0 : List UInt8 := [3, 60, 3, 61, 3, 62, 4, 54, 4, 21, 4, 153, 0, 159, 29, 42, 180, 2, 50, 162, 0, 151, 27]
abbrev dktX4_doesAll_0 : List UInt8 := dkwX4_doesAll_0 ++ dktX4_doesAll_1
theorem dksX4_doesAll_0 : cX4_doesAll.data.toList.drop 0 = dktX4_doesAll_0 := by decide +kernel
theorem dksX4_doesAll_1 : cX4_doesAll.data.toList.drop 23 = dktX4_doesAll_1 := dk_seg dksX4_doesAll_0 23 rfl rfl
theorem dksX4_doesAll_2 : cX4_doesAll.data.toList.drop 47 = dktX4_doesAll_2 := dk_seg dksX4_doesAll_1 24 rfl rfl
theorem dksX4_doesAll_3 : cX4_doesAll.data.toList.drop 71 = dktX4_doesAll_3 := dk_seg dksX4_doesAll_2 24 rfl rfl
theorem dksX4_doesAll_4 : cX4_doesAll.data.toList.drop 95 = dktX4_doesAll_4 := dk_seg dksX4_doesAll_3 24 rfl rfl
theorem dksX4_doesAll_5 : cX4_doesAll.data.toList.drop 119 = dktX4_doesAll_5 := dk_seg dksX4_doesAll_4 24 rfl rfl
theorem dksX4_doesAll_6 : cX4_doesAll.data.toList.drop 141 = dktX4_doesAll_6 := dk_seg dksX4_doesAll_5 22 rfl rfl
theorem dksX4_doesAll_7 : cX4_doesAll.data.toList.drop 164 = dktX4_doesAll_7 := dk_seg dksX4_doesAll_6 23 rfl rfl
theorem dX4_doesAll_0 : decode cX4_doesAll 0 = .ok (.iconst 0, 1) := dk_3 (dk_at dksX4_doesAll_0 0 rfl rfl)
theorem dX4_doesAll_1 : decode cX4_doesAll 1 = .ok (.istore_n 1, 1) := dk_60 (dk_at dksX4_doesAll_0 1 rfl rfl)
theorem dX4_doesAll_2 : decode cX4_doesAll 2 = .ok (.iconst 0, 1) := dk_3 (dk_at dksX4_doesAll_0 2 rfl rfl)
theorem dX4_doesAll_3 : decode cX4_doesAll 3 = .ok (.istore_n 2, 1) := dk_61 (dk_at dksX4_doesAll_0 3 rfl rfl)
theorem dX4_doesAll_4 : decode cX4_doesAll 4 = .ok (.iconst 0, 1) := dk_3 (dk_at dksX4_doesAll_0 4 rfl rfl)
theorem dX4_doesAll_5 : decode cX4_doesAll 5 = .ok (.istore_n 3, 1) := dk_62 (dk_at dksX4_doesAll_0 5 rfl rfl)
theorem dX4_doesAll_6 : decode cX4_doesAll 6 = .ok (.iconst 1, 1) := dk_4 (dk_at dksX4_doesAll_0 6 rfl rfl)
theorem dX4_doesAll_7 : decode cX4_doesAll 7 = .ok (.istore 4, 2) := dk_54 4 (dk_at dksX4_doesAll_0 7 rfl rfl)
theorem dX4_doesAll_9 : decode cX4_doesAll 9 = .ok (.iload 4, 2) := dk_21 4 (dk_at dksX4_doesAll_0 9 rfl rfl)
theorem dX4_doesAll_11 : decode cX4_doesAll 11 = .ok (.ifCond .eq 159, 3) := dk_153 0 159 (dk_at dksX4_doesAll_0 11 rfl rfl)
theorem dX4_doesAll_14 : decode cX4_doesAll 14 = .ok (.iload_n 3, 1) := dk_29 (dk_at dksX4_doesAll_0 14 rfl rfl)
theorem dX4_doesAll_15 : decode cX4_doesAll 15 = .ok (.aload_n 0, 1) := dk_42 (dk_at dksX4_doesAll_0 15 rfl rfl)
theorem dX4_doesAll_16 : decode cX4_doesAll 16 = .ok (.getfield 562, 3) := dk_180 2 50 (dk_at dksX4_doesAll_0 16 rfl rfl)
theorem dX4_doesAll_19 : decode cX4_doesAll 19 = .ok (.if_icmp .ge 151, 3) := dk_162 0 151 (dk_at dksX4_doesAll_0 19 rfl rfl)
theorem dX4_doesAll_22 : decode cX4_doesAll 22 = .ok (.iload_n 1, 1) := dk_27 (dk_at dksX4_doesAll_0 22 rfl rfl)
theorem dX4_doesAll_23 : decode cX4_doesAll 23 = .ok (.bipush 40, 2) := dk_16 40 (dk_at dksX4_doesAll_1 0 rfl rfl)
theorem dX4_doesAll_25 : decode cX4_doesAll 25 = .ok (.if_icmp .ge 145, 3) := dk_162 0 145 (dk_at dksX4_doesAll_1 2 rfl rfl)
theorem dX4_doesAll_28 : decode cX4_doesAll 28 = .ok (.aload_n 0, 1) := dk_42 (dk_at dksX4_doesAll_1 5 rfl rfl)
theorem dX4_doesAll_29 : decode cX4_doesAll 29 = .ok (.getfield 50, 3) := dk_180 0 50 (dk_at dksX4_doesAll_1 6 rfl rfl)
theorem dX4_doesAll_32 : decode cX4_doesAll 32 = .ok (.iload_n 3, 1) := dk_29 (dk_at dksX4_doesAll_1 9 rfl rfl)
theorem dX4_doesAll_33 : decode cX4_doesAll 33 = .ok (.iaload, 1) := dk_46 (dk_at dksX4_doesAll_1 10 rfl rfl)
theorem dX4_doesAll_34 : decode cX4_doesAll 34 = .ok (.bipush 6, 2) := dk_16 6 (dk_at dksX4_doesAll_1 11 rfl rfl)
theorem dX4_doesAll_36 : decode cX4_doesAll 36 = .ok (.if_icmp .ne 31, 3) := dk_160 0 31 (dk_at dksX4_doesAll_1 13 rfl rfl)
theorem dX4_doesAll_39 : decode cX4_doesAll 39 = .ok (.aload_n 0, 1) := dk_42 (dk_at dksX4_doesAll_1 16 rfl rfl)
theorem dX4_doesAll_40 : decode cX4_doesAll 40 = .ok (.getfield 65, 3) := dk_180 0 65 (dk_at dksX4_doesAll_1 17 rfl rfl)
theorem dX4_doesAll_43 : decode cX4_doesAll 43 = .ok (.iload_n 2, 1) := dk_28 (dk_at dksX4_doesAll_1 20 rfl rfl)
theorem dX4_doesAll_44 : decode cX4_doesAll 44 = .ok (.iload_n 3, 1) := dk_29 (dk_at dksX4_doesAll_1 21 rfl rfl)
theorem dX4_doesAll_45 : decode cX4_doesAll 45 = .ok (.iastore, 1) := dk_79 (dk_at dksX4_doesAll_1 22 rfl rfl)
theorem dX4_doesAll_46 : decode cX4_doesAll 46 = .ok (.aload_n 0, 1) := dk_42 (dk_at dksX4_doesAll_1 23 rfl rfl)
theorem dX4_doesAll_47 : decode cX4_doesAll 47 = .ok (.getfield 68, 3) := dk_180 0 68 (dk_at dksX4_doesAll_2 0 rfl rfl)
theorem dX4_doesAll_50 : decode cX4_doesAll 50 = .ok (.iload_n 2, 1) := dk_28 (dk_at dksX4_doesAll_2 3 rfl rfl)
theorem dX4_doesAll_51 : decode cX4_doesAll 51 = .ok (.aload_n 0, 1) := dk_42 (dk_at dksX4_doesAll_2 4 rfl rfl)
theorem dX4_doesAll_52 : decode cX4_doesAll 52 = .ok (.getfield 53, 3) := dk_180 0 53 (dk_at dksX4_doesAll_2 5 rfl rfl)
theorem dX4_doesAll_55 : decode cX4_doesAll 55 = .ok (.iload_n 3, 1) := dk_29 (dk_at dksX4_doesAll_2 8 rfl rfl)
theorem dX4_doesAll_56 : decode cX4_doesAll 56 = .ok (.iaload, 1) := dk_46 (dk_at dksX4_doesAll_2 9 rfl rfl)
theorem dX4_doesAll_57 : decode cX4_doesAll 57 = .ok (.iastore, 1) := dk_79 (dk_at dksX4_doesAll_2 10 rfl rfl)
theorem dX4_doesAll_58 : decode cX4_doesAll 58 = .ok (.iinc 2 1, 3) := dk_132 2 1 (dk_at dksX4_doesAll_2 11 rfl rfl)
theorem dX4_doesAll_61 : decode cX4_doesAll 61 = .ok (.iinc 3 1, 3) := dk_132 3 1 (dk_at dksX4_doesAll_2 14 rfl rfl)
theorem dX4_doesAll_64 : decode cX4_doesAll 64 = .ok (.goto (-55), 3) := dk_167 255 201 (dk_at dksX4_doesAll_2 17 rfl rfl)
theorem dX4_doesAll_67 : decode cX4_doesAll 67 = .ok (.aload_n 0, 1) := dk_42 (dk_at dksX4_doesAll_2 20 rfl rfl)
theorem dX4_doesAll_68 : decode cX4_doesAll 68 = .ok (.getfield 50, 3) := dk_180 0 50 (dk_at dksX4_doesAll_2 21 rfl rfl)
theorem dX4_doesAll_71 : decode cX4_doesAll 71 = .ok (.iload_n 3, 1) := dk_29 (dk_at dksX4_doesAll_3 0 rfl rfl)
theorem dX4_doesAll_72 : decode cX4_doesAll 72 = .ok (.iaload, 1) := dk_46 (dk_at dksX4_doesAll_3 1 rfl rfl)
theorem dX4_doesAll_73 : decode cX4_doesAll 73 = .ok (.bipush 7, 2) := dk_16 7 (dk_at dksX4_doesAll_3 2 rfl rfl)
theorem dX4_doesAll_75 : decode cX4_doesAll 75 = .ok (.if_icmp .ne 74, 3) := dk_160 0 74 (dk_at dksX4_doesAll_3 4 rfl rfl)
theorem dX4_doesAll_78 : decode cX4_doesAll 78 = .ok (.aload_n 0, 1) := dk_42 (dk_at dksX4_doesAll_3 7 rfl rfl)
theorem dX4_doesAll_79 : decode cX4_doesAll 79 = .ok (.getfield 68, 3) := dk_180 0 68 (dk_at dksX4_doesAll_3 8 rfl rfl)
theorem dX4_doesAll_82 : decode cX4_doesAll 82 = .ok (.iload_n 2, 1) := dk_28 (dk_at dksX4_doesAll_3 11 rfl rfl)
theorem dX4_doesAll_83 : decode cX4_doesAll 83 = .ok (.iconst 1, 1) := dk_4 (dk_at dksX4_doesAll_3 12 rfl rfl)
theorem dX4_doesAll_84 : decode cX4_doesAll 84 = .ok (.isub, 1) := dk_100 (dk_at dksX4_doesAll_3 13 rfl rfl)
theorem dX4_doesAll_85 : decode cX4_doesAll 85 = .ok (.dup2, 1) := dk_92 (dk_at dksX4_doesAll_3 14 rfl rfl)
theorem dX4_doesAll_86 : decode cX4_doesAll 86 = .ok (.iaload, 1) := dk_46 (dk_at dksX4_doesAll_3 15 rfl rfl)
theorem dX4_doesAll_87 : decode cX4_doesAll 87 = .ok (.iconst 1, 1) := dk_4 (dk_at dksX4_doesAll_3 16 rfl rfl)
theorem dX4_doesAll_88 : decode cX4_doesAll 88 = .ok (.isub, 1) := dk_100 (dk_at dksX4_doesAll_3 17 rfl rfl)
theorem dX4_doesAll_89 : decode cX4_doesAll 89 = .ok (.iastore, 1) := dk_79 (dk_at dksX4_doesAll_3 18 rfl rfl)
theorem dX4_doesAll_90 : decode cX4_doesAll 90 = .ok (.aload_n 0, 1) := dk_42 (dk_at dksX4_doesAll_3 19 rfl rfl)
theorem dX4_doesAll_91 : decode cX4_doesAll 91 = .ok (.getfield 68, 3) := dk_180 0 68 (dk_at dksX4_doesAll_3 20 rfl rfl)
theorem dX4_doesAll_94 : decode cX4_doesAll 94 = .ok (.iload_n 2, 1) := dk_28 (dk_at dksX4_doesAll_3 23 rfl rfl)
theorem dX4_doesAll_95 : decode cX4_doesAll 95 = .ok (.iconst 1, 1) := dk_4 (dk_at dksX4_doesAll_4 0 rfl rfl)
theorem dX4_doesAll_96 : decode cX4_doesAll 96 = .ok (.isub, 1) := dk_100 (dk_at dksX4_doesAll_4 1 rfl rfl)
theorem dX4_doesAll_97 : decode cX4_doesAll 97 = .ok (.iaload, 1) := dk_46 (dk_at dksX4_doesAll_4 2 rfl rfl)
theorem dX4_doesAll_98 : decode cX4_doesAll 98 = .ok (.ifCond .le 7, 3) := dk_158 0 7 (dk_at dksX4_doesAll_4 3 rfl rfl)
theorem dX4_doesAll_101 : decode cX4_doesAll 101 = .ok (.iconst 1, 1) := dk_4 (dk_at dksX4_doesAll_4 6 rfl rfl)
theorem dX4_doesAll_102 : decode cX4_doesAll 102 = .ok (.goto 4, 3) := dk_167 0 4 (dk_at dksX4_doesAll_4 7 rfl rfl)
theorem dX4_doesAll_105 : decode cX4_doesAll 105 = .ok (.iconst 0, 1) := dk_3 (dk_at dksX4_doesAll_4 10 rfl rfl)
theorem dX4_doesAll_106 : decode cX4_doesAll 106 = .ok (.istore 5, 2) := dk_54 5 (dk_at dksX4_doesAll_4 11 rfl rfl)
theorem dX4_doesAll_108 : decode cX4_doesAll 108 = .ok (.iload 5, 2) := dk_21 5 (dk_at dksX4_doesAll_4 13 rfl rfl)
theorem dX4_doesAll_110 : decode cX4_doesAll 110 = .ok (.ifCond .eq 16, 3) := dk_153 0 16 (dk_at dksX4_doesAll_4 15 rfl rfl)
theorem dX4_doesAll_113 : decode cX4_doesAll 113 = .ok (.aload_n 0, 1) := dk_42 (dk_at dksX4_doesAll_4 18 rfl rfl)
theorem dX4_doesAll_114 : decode cX4_doesAll 114 = .ok (.getfield 65, 3) := dk_180 0 65 (dk_at dksX4_doesAll_4 19 rfl rfl)
theorem dX4_doesAll_117 : decode cX4_doesAll 117 = .ok (.iload_n 2, 1) := dk_28 (dk_at dksX4_doesAll_4 22 rfl rfl)
theorem dX4_doesAll_118 : decode cX4_doesAll 118 = .ok (.iconst 1, 1) := dk_4 (dk_at dksX4_doesAll_4 23 rfl rfl)
theorem dX4_doesAll_119 : decode cX4_doesAll 119 = .ok (.isub, 1) := dk_100 (dk_at dksX4_doesAll_5 0 rfl rfl)
theorem dX4_doesAll_120 : decode cX4_doesAll 120 = .ok (.iaload, 1) := dk_46 (dk_at dksX4_doesAll_5 1 rfl rfl)
theorem dX4_doesAll_121 : decode cX4_doesAll 121 = .ok (.iconst 1, 1) := dk_4 (dk_at dksX4_doesAll_5 2 rfl rfl)
theorem dX4_doesAll_122 : decode cX4_doesAll 122 = .ok (.iadd, 1) := dk_96 (dk_at dksX4_doesAll_5 3 rfl rfl)
theorem dX4_doesAll_123 : decode cX4_doesAll 123 = .ok (.goto 6, 3) := dk_167 0 6 (dk_at dksX4_doesAll_5 4 rfl rfl)
theorem dX4_doesAll_126 : decode cX4_doesAll 126 = .ok (.iload_n 3, 1) := dk_29 (dk_at dksX4_doesAll_5 7 rfl rfl)
theorem dX4_doesAll_127 : decode cX4_doesAll 127 = .ok (.iconst 1, 1) := dk_4 (dk_at dksX4_doesAll_5 8 rfl rfl)
theorem dX4_doesAll_128 : decode cX4_doesAll 128 = .ok (.iadd, 1) := dk_96 (dk_at dksX4_doesAll_5 9 rfl rfl)
theorem dX4_doesAll_129 : decode cX4_doesAll 129 = .ok (.istore_n 3, 1) := dk_62 (dk_at dksX4_doesAll_5 10 rfl rfl)
theorem dX4_doesAll_130 : decode cX4_doesAll 130 = .ok (.iload_n 2, 1) := dk_28 (dk_at dksX4_doesAll_5 11 rfl rfl)
theorem dX4_doesAll_131 : decode cX4_doesAll 131 = .ok (.iload 5, 2) := dk_21 5 (dk_at dksX4_doesAll_5 12 rfl rfl)
theorem dX4_doesAll_133 : decode cX4_doesAll 133 = .ok (.ifCond .ne 7, 3) := dk_154 0 7 (dk_at dksX4_doesAll_5 14 rfl rfl)
theorem dX4_doesAll_136 : decode cX4_doesAll 136 = .ok (.iconst 1, 1) := dk_4 (dk_at dksX4_doesAll_5 17 rfl rfl)
theorem dX4_doesAll_137 : decode cX4_doesAll 137 = .ok (.goto 4, 3) := dk_167 0 4 (dk_at dksX4_doesAll_5 18 rfl rfl)
theorem dX4_doesAll_140 : decode cX4_doesAll 140 = .ok (.iconst 0, 1) := dk_3 (dk_at dksX4_doesAll_5 21 rfl rfl)
theorem dX4_doesAll_141 : decode cX4_doesAll 141 = .ok (.invokestatic 80, 3) := dk_184 0 80 (dk_at dksX4_doesAll_6 0 rfl rfl)
theorem dX4_doesAll_144 : decode cX4_doesAll 144 = .ok (.isub, 1) := dk_100 (dk_at dksX4_doesAll_6 3 rfl rfl)
theorem dX4_doesAll_145 : decode cX4_doesAll 145 = .ok (.istore_n 2, 1) := dk_61 (dk_at dksX4_doesAll_6 4 rfl rfl)
theorem dX4_doesAll_146 : decode cX4_doesAll 146 = .ok (.goto (-137), 3) := dk_167 255 119 (dk_at dksX4_doesAll_6 5 rfl rfl)
theorem dX4_doesAll_149 : decode cX4_doesAll 149 = .ok (.aload_n 0, 1) := dk_42 (dk_at dksX4_doesAll_6 8 rfl rfl)
theorem dX4_doesAll_150 : decode cX4_doesAll 150 = .ok (.iload_n 3, 1) := dk_29 (dk_at dksX4_doesAll_6 9 rfl rfl)
theorem dX4_doesAll_151 : decode cX4_doesAll 151 = .ok (.invokevirtual 583, 3) := dk_182 2 71 (dk_at dksX4_doesAll_6 10 rfl rfl)
theorem dX4_doesAll_154 : decode cX4_doesAll 154 = .ok (.istore 4, 2) := dk_54 4 (dk_at dksX4_doesAll_6 13 rfl rfl)
theorem dX4_doesAll_156 : decode cX4_doesAll 156 = .ok (.iload_n 1, 1) := dk_27 (dk_at dksX4_doesAll_6 15 rfl rfl)
theorem dX4_doesAll_157 : decode cX4_doesAll 157 = .ok (.iload 4, 2) := dk_21 4 (dk_at dksX4_doesAll_6 16 rfl rfl)
theorem dX4_doesAll_159 : decode cX4_doesAll 159 = .ok (.invokestatic 80, 3) := dk_184 0 80 (dk_at dksX4_doesAll_6 18 rfl rfl)
theorem dX4_doesAll_162 : decode cX4_doesAll 162 = .ok (.iadd, 1) := dk_96 (dk_at dksX4_doesAll_6 21 rfl rfl)
theorem dX4_doesAll_163 : decode cX4_doesAll 163 = .ok (.istore_n 1, 1) := dk_60 (dk_at dksX4_doesAll_6 22 rfl rfl)
theorem dX4_doesAll_164 : decode cX4_doesAll 164 = .ok (.iinc 3 1, 3) := dk_132 3 1 (dk_at dksX4_doesAll_7 0 rfl rfl)
theorem dX4_doesAll_167 : decode cX4_doesAll 167 = .ok (.goto (-158), 3) := dk_167 255 98 (dk_at dksX4_doesAll_7 3 rfl rfl)
theorem dX4_doesAll_170 : decode cX4_doesAll 170 = .ok (.iload_n 1, 1) := dk_27 (dk_at dksX4_doesAll_7 6 rfl rfl)
theorem dX4_doesAll_171 : decode cX4_doesAll 171 = .ok (.ireturn, 1) := dk_172 (dk_at dksX4_doesAll_7 7 rfl rfl)
abbrev cX4_isDone : ByteArray := prog_23_method_173_code
def yX4_isDone : MethodName := ⟨RX4, "isDone", "(I)Z"⟩
def dkwX4_isDone_0 : List UInt8 := [42, 27, 182, 2, 56, 154, 0, 5, 3, 172, 42, 42, 27, 182, 2, 59, 181, 1, 163, 4, 172]
abbrev dktX4_isDone_0 : List UInt8 := dkwX4_isDone_0 ++ []
theorem dksX4_isDone_0 : cX4_isDone.data.toList.drop 0 = dktX4_isDone_0 := by decide +kernel
theorem dX4_isDone_0 : decode cX4_isDone 0 = .ok (.aload_n 0, 1) := dk_42 (dk_at dksX4_isDone_0 0 rfl rfl)
theorem dX4_isDone_1 : decode cX4_isDone 1 = .ok (.iload_n 1, 1) := dk_27 (dk_at dksX4_isDone_0 1 rfl rfl)
theorem dX4_isDone_2 : decode cX4_isDone 2 = .ok (.invokevirtual 568, 3) := dk_182 2 56 (dk_at dksX4_isDone_0 2 rfl rfl)
theorem dX4_isDone_5 : decode cX4_isDone 5 = .ok (.ifCond .ne 5, 3) := dk_154 0 5 (dk_at dksX4_isDone_0 5 rfl rfl)
theorem dX4_isDone_8 : decode cX4_isDone 8 = .ok (.iconst 0, 1) := dk_3 (dk_at dksX4_isDone_0 8 rfl rfl)
theorem dX4_isDone_9 : decode cX4_isDone 9 = .ok (.ireturn, 1) := dk_172 (dk_at dksX4_isDone_0 9 rfl rfl)
theorem dX4_isDone_10 : decode cX4_isDone 10 = .ok (.aload_n 0, 1) := dk_42 (dk_at dksX4_isDone_0 10 rfl rfl)
theorem dX4_isDone_11 : decode cX4_isDone 11 = .ok (.aload_n 0, 1) := dk_42 (dk_at dksX4_isDone_0 11 rfl rfl)
theorem dX4_isDone_12 : decode cX4_isDone 12 = .ok (.iload_n 1, 1) := dk_27 (dk_at dksX4_isDone_0 12 rfl rfl)
theorem dX4_isDone_13 : decode cX4_isDone 13 = .ok (.invokevirtual 571, 3) := dk_182 2 59 (dk_at dksX4_isDone_0 13 rfl rfl)
theorem dX4_isDone_16 : decode cX4_isDone 16 = .ok (.putfield 419, 3) := dk_181 1 163 (dk_at dksX4_isDone_0 16 rfl rfl)
theorem dX4_isDone_19 : decode cX4_isDone 19 = .ok (.iconst 1, 1) := dk_4 (dk_at dksX4_isDone_0 19 rfl rfl)
theorem dX4_isDone_20 : decode cX4_isDone 20 = .ok (.ireturn, 1) := dk_172 (dk_at dksX4_isDone_0 20 rfl rfl)
abbrev cX4_may : ByteArray := prog_23_method_171_code
def yX4_may : MethodName := ⟨RX4, "may", "(I)Z"⟩
def dkwX4_may_7 : List UInt8 := [172]
abbrev dktX4_may_7 : List UInt8 := dkwX4_may_7 ++ []
def dkwX4_may_6 : List UInt8 := [153, 0, 21, 42, 28, 42, 180, 0, 59, 27, 46, 182, 1, 63, 153, 0, 7, 4, 167, 0, 4, 3, 172, 4]
abbrev dktX4_may_6 : List UInt8 := dkwX4_may_6 ++ dktX4_may_7
def dkwX4_may_5 : List UInt8 := [46, 42, 180, 0, 59, 27, 46, 182, 1, 89, 172, 42, 28, 42, 180, 0, 56, 27, 46, 182, 1, 63]
abbrev dktX4_may_5 : List UInt8 := dkwX4_may_5 ++ dktX4_may_6
def dkwX4_may_4 : List UInt8 := [42, 42, 180, 0, 56, 27, 46, 42, 180, 0, 59, 27, 46, 182, 1, 171, 172, 42, 28, 42, 180, 0, 56, 27]
abbrev dktX4_may_4 : List UInt8 := dkwX4_may_4 ++ dktX4_may_5
def dkwX4_may_3 : List UInt8 := [4, 167, 0, 4, 3, 172, 42, 28, 42, 180, 0, 56, 27, 46, 42, 180, 0, 59, 27, 46, 182, 1, 69, 172]
abbrev dktX4_may_3 : List UInt8 := dkwX4_may_3 ++ dktX4_may_4
def dkwX4_may_2 : List UInt8 := [42, 180, 0, 56, 27, 46, 184, 1, 95, 153, 0, 19, 42, 180, 0, 59, 27, 46, 184, 1, 95, 153, 0, 7]
abbrev dktX4_may_2 : List UInt8 := dkwX4_may_2 ++ dktX4_may_3
def dkwX4_may_1 : List UInt8 := [170, 0, 0, 0, 0, 0, 156, 0, 0, 0, 0, 0, 0, 0, 5, 0, 0, 0, 39, 0, 0, 0, 69, 0, 0, 0, 87, 0, 0, 0, 156, 0, 0, 0, 104, 0, 0, 0, 122]
abbrev dktX4_may_1 : List UInt8 := dkwX4_may_1 ++ dktX4_may_2
def dkwX4_may_0 : List UInt8 := [42, 180, 0, 53, 27, 46, 61, 42, 180, 0, 50, 27, 46]
abbrev dktX4_may_0 : List UInt8 := dkwX4_may_0 ++ dktX4_may_1
theorem dksX4_may_0 : cX4_may.data.toList.drop 0 = dktX4_may_0 := by decide +kernel
theorem dksX4_may_1 : cX4_may.data.toList.drop 13 = dktX4_may_1 := dk_seg dksX4_may_0 13 rfl rfl
theorem dksX4_may_2 : cX4_may.data.toList.drop 52 = dktX4_may_2 := dk_seg dksX4_may_1 39 rfl rfl
theorem dksX4_may_3 : cX4_may.data.toList.drop 76 = dktX4_may_3 := dk_seg dksX4_may_2 24 rfl rfl
theorem dksX4_may_4 : cX4_may.data.toList.drop 100 = dktX4_may_4 := dk_seg dksX4_may_3 24 rfl rfl
theorem dksX4_may_5 : cX4_may.data.toList.drop 124 = dktX4_may_5 := dk_seg dksX4_may_4 24 rfl rfl
theorem dksX4_may_6 : cX4_may.data.toList.drop 146 = dktX4_may_6 := dk_seg dksX4_may_5 22 rfl rfl
theorem dksX4_may_7 : cX4_may.data.toList.drop 170 = dktX4_may_7 := dk_seg dksX4_may_6 24 rfl rfl
theorem dX4_may_0 : decode cX4_may 0 = .ok (.aload_n 0, 1) := dk_42 (dk_at dksX4_may_0 0 rfl rfl)
theorem dX4_may_1 : decode cX4_may 1 = .ok (.getfield 53, 3) := dk_180 0 53 (dk_at dksX4_may_0 1 rfl rfl)
theorem dX4_may_4 : decode cX4_may 4 = .ok (.iload_n 1, 1) := dk_27 (dk_at dksX4_may_0 4 rfl rfl)
theorem dX4_may_5 : decode cX4_may 5 = .ok (.iaload, 1) := dk_46 (dk_at dksX4_may_0 5 rfl rfl)
theorem dX4_may_6 : decode cX4_may 6 = .ok (.istore_n 2, 1) := dk_61 (dk_at dksX4_may_0 6 rfl rfl)
theorem dX4_may_7 : decode cX4_may 7 = .ok (.aload_n 0, 1) := dk_42 (dk_at dksX4_may_0 7 rfl rfl)
theorem dX4_may_8 : decode cX4_may 8 = .ok (.getfield 50, 3) := dk_180 0 50 (dk_at dksX4_may_0 8 rfl rfl)
theorem dX4_may_11 : decode cX4_may 11 = .ok (.iload_n 1, 1) := dk_27 (dk_at dksX4_may_0 11 rfl rfl)
theorem dX4_may_12 : decode cX4_may 12 = .ok (.iaload, 1) := dk_46 (dk_at dksX4_may_0 12 rfl rfl)
theorem dX4_may_13 : decode cX4_may 13 = .ok (.tableswitch 156 0 5 #[39, 69, 87, 156, 104, 122], 39) := by decide +kernel
theorem dX4_may_52 : decode cX4_may 52 = .ok (.aload_n 0, 1) := dk_42 (dk_at dksX4_may_2 0 rfl rfl)
theorem dX4_may_53 : decode cX4_may 53 = .ok (.getfield 56, 3) := dk_180 0 56 (dk_at dksX4_may_2 1 rfl rfl)
theorem dX4_may_56 : decode cX4_may 56 = .ok (.iload_n 1, 1) := dk_27 (dk_at dksX4_may_2 4 rfl rfl)
theorem dX4_may_57 : decode cX4_may 57 = .ok (.iaload, 1) := dk_46 (dk_at dksX4_may_2 5 rfl rfl)
theorem dX4_may_58 : decode cX4_may 58 = .ok (.invokestatic 351, 3) := dk_184 1 95 (dk_at dksX4_may_2 6 rfl rfl)
theorem dX4_may_61 : decode cX4_may 61 = .ok (.ifCond .eq 19, 3) := dk_153 0 19 (dk_at dksX4_may_2 9 rfl rfl)
theorem dX4_may_64 : decode cX4_may 64 = .ok (.aload_n 0, 1) := dk_42 (dk_at dksX4_may_2 12 rfl rfl)
theorem dX4_may_65 : decode cX4_may 65 = .ok (.getfield 59, 3) := dk_180 0 59 (dk_at dksX4_may_2 13 rfl rfl)
theorem dX4_may_68 : decode cX4_may 68 = .ok (.iload_n 1, 1) := dk_27 (dk_at dksX4_may_2 16 rfl rfl)
theorem dX4_may_69 : decode cX4_may 69 = .ok (.iaload, 1) := dk_46 (dk_at dksX4_may_2 17 rfl rfl)
theorem dX4_may_70 : decode cX4_may 70 = .ok (.invokestatic 351, 3) := dk_184 1 95 (dk_at dksX4_may_2 18 rfl rfl)
theorem dX4_may_73 : decode cX4_may 73 = .ok (.ifCond .eq 7, 3) := dk_153 0 7 (dk_at dksX4_may_2 21 rfl rfl)
theorem dX4_may_76 : decode cX4_may 76 = .ok (.iconst 1, 1) := dk_4 (dk_at dksX4_may_3 0 rfl rfl)
theorem dX4_may_77 : decode cX4_may 77 = .ok (.goto 4, 3) := dk_167 0 4 (dk_at dksX4_may_3 1 rfl rfl)
theorem dX4_may_80 : decode cX4_may 80 = .ok (.iconst 0, 1) := dk_3 (dk_at dksX4_may_3 4 rfl rfl)
theorem dX4_may_81 : decode cX4_may 81 = .ok (.ireturn, 1) := dk_172 (dk_at dksX4_may_3 5 rfl rfl)
theorem dX4_may_82 : decode cX4_may 82 = .ok (.aload_n 0, 1) := dk_42 (dk_at dksX4_may_3 6 rfl rfl)
theorem dX4_may_83 : decode cX4_may 83 = .ok (.iload_n 2, 1) := dk_28 (dk_at dksX4_may_3 7 rfl rfl)
theorem dX4_may_84 : decode cX4_may 84 = .ok (.aload_n 0, 1) := dk_42 (dk_at dksX4_may_3 8 rfl rfl)
theorem dX4_may_85 : decode cX4_may 85 = .ok (.getfield 56, 3) := dk_180 0 56 (dk_at dksX4_may_3 9 rfl rfl)
theorem dX4_may_88 : decode cX4_may 88 = .ok (.iload_n 1, 1) := dk_27 (dk_at dksX4_may_3 12 rfl rfl)
theorem dX4_may_89 : decode cX4_may 89 = .ok (.iaload, 1) := dk_46 (dk_at dksX4_may_3 13 rfl rfl)
theorem dX4_may_90 : decode cX4_may 90 = .ok (.aload_n 0, 1) := dk_42 (dk_at dksX4_may_3 14 rfl rfl)
theorem dX4_may_91 : decode cX4_may 91 = .ok (.getfield 59, 3) := dk_180 0 59 (dk_at dksX4_may_3 15 rfl rfl)
theorem dX4_may_94 : decode cX4_may 94 = .ok (.iload_n 1, 1) := dk_27 (dk_at dksX4_may_3 18 rfl rfl)
theorem dX4_may_95 : decode cX4_may 95 = .ok (.iaload, 1) := dk_46 (dk_at dksX4_may_3 19 rfl rfl)
theorem dX4_may_96 : decode cX4_may 96 = .ok (.invokevirtual 325, 3) := dk_182 1 69 (dk_at dksX4_may_3 20 rfl rfl)
theorem dX4_may_99 : decode cX4_may 99 = .ok (.ireturn, 1) := dk_172 (dk_at dksX4_may_3 23 rfl rfl)
theorem dX4_may_100 : decode cX4_may 100 = .ok (.aload_n 0, 1) := dk_42 (dk_at dksX4_may_4 0 rfl rfl)
theorem dX4_may_101 : decode cX4_may 101 = .ok (.aload_n 0, 1) := dk_42 (dk_at dksX4_may_4 1 rfl rfl)
theorem dX4_may_102 : decode cX4_may 102 = .ok (.getfield 56, 3) := dk_180 0 56 (dk_at dksX4_may_4 2 rfl rfl)
theorem dX4_may_105 : decode cX4_may 105 = .ok (.iload_n 1, 1) := dk_27 (dk_at dksX4_may_4 5 rfl rfl)
theorem dX4_may_106 : decode cX4_may 106 = .ok (.iaload, 1) := dk_46 (dk_at dksX4_may_4 6 rfl rfl)
theorem dX4_may_107 : decode cX4_may 107 = .ok (.aload_n 0, 1) := dk_42 (dk_at dksX4_may_4 7 rfl rfl)
theorem dX4_may_108 : decode cX4_may 108 = .ok (.getfield 59, 3) := dk_180 0 59 (dk_at dksX4_may_4 8 rfl rfl)
theorem dX4_may_111 : decode cX4_may 111 = .ok (.iload_n 1, 1) := dk_27 (dk_at dksX4_may_4 11 rfl rfl)
theorem dX4_may_112 : decode cX4_may 112 = .ok (.iaload, 1) := dk_46 (dk_at dksX4_may_4 12 rfl rfl)
theorem dX4_may_113 : decode cX4_may 113 = .ok (.invokevirtual 427, 3) := dk_182 1 171 (dk_at dksX4_may_4 13 rfl rfl)
theorem dX4_may_116 : decode cX4_may 116 = .ok (.ireturn, 1) := dk_172 (dk_at dksX4_may_4 16 rfl rfl)
theorem dX4_may_117 : decode cX4_may 117 = .ok (.aload_n 0, 1) := dk_42 (dk_at dksX4_may_4 17 rfl rfl)
theorem dX4_may_118 : decode cX4_may 118 = .ok (.iload_n 2, 1) := dk_28 (dk_at dksX4_may_4 18 rfl rfl)
theorem dX4_may_119 : decode cX4_may 119 = .ok (.aload_n 0, 1) := dk_42 (dk_at dksX4_may_4 19 rfl rfl)
theorem dX4_may_120 : decode cX4_may 120 = .ok (.getfield 56, 3) := dk_180 0 56 (dk_at dksX4_may_4 20 rfl rfl)
theorem dX4_may_123 : decode cX4_may 123 = .ok (.iload_n 1, 1) := dk_27 (dk_at dksX4_may_4 23 rfl rfl)
theorem dX4_may_124 : decode cX4_may 124 = .ok (.iaload, 1) := dk_46 (dk_at dksX4_may_5 0 rfl rfl)
theorem dX4_may_125 : decode cX4_may 125 = .ok (.aload_n 0, 1) := dk_42 (dk_at dksX4_may_5 1 rfl rfl)
theorem dX4_may_126 : decode cX4_may 126 = .ok (.getfield 59, 3) := dk_180 0 59 (dk_at dksX4_may_5 2 rfl rfl)
theorem dX4_may_129 : decode cX4_may 129 = .ok (.iload_n 1, 1) := dk_27 (dk_at dksX4_may_5 5 rfl rfl)
theorem dX4_may_130 : decode cX4_may 130 = .ok (.iaload, 1) := dk_46 (dk_at dksX4_may_5 6 rfl rfl)
theorem dX4_may_131 : decode cX4_may 131 = .ok (.invokevirtual 345, 3) := dk_182 1 89 (dk_at dksX4_may_5 7 rfl rfl)
theorem dX4_may_134 : decode cX4_may 134 = .ok (.ireturn, 1) := dk_172 (dk_at dksX4_may_5 10 rfl rfl)
theorem dX4_may_135 : decode cX4_may 135 = .ok (.aload_n 0, 1) := dk_42 (dk_at dksX4_may_5 11 rfl rfl)
theorem dX4_may_136 : decode cX4_may 136 = .ok (.iload_n 2, 1) := dk_28 (dk_at dksX4_may_5 12 rfl rfl)
theorem dX4_may_137 : decode cX4_may 137 = .ok (.aload_n 0, 1) := dk_42 (dk_at dksX4_may_5 13 rfl rfl)
theorem dX4_may_138 : decode cX4_may 138 = .ok (.getfield 56, 3) := dk_180 0 56 (dk_at dksX4_may_5 14 rfl rfl)
theorem dX4_may_141 : decode cX4_may 141 = .ok (.iload_n 1, 1) := dk_27 (dk_at dksX4_may_5 17 rfl rfl)
theorem dX4_may_142 : decode cX4_may 142 = .ok (.iaload, 1) := dk_46 (dk_at dksX4_may_5 18 rfl rfl)
theorem dX4_may_143 : decode cX4_may 143 = .ok (.invokevirtual 319, 3) := dk_182 1 63 (dk_at dksX4_may_5 19 rfl rfl)
theorem dX4_may_146 : decode cX4_may 146 = .ok (.ifCond .eq 21, 3) := dk_153 0 21 (dk_at dksX4_may_6 0 rfl rfl)
theorem dX4_may_149 : decode cX4_may 149 = .ok (.aload_n 0, 1) := dk_42 (dk_at dksX4_may_6 3 rfl rfl)
theorem dX4_may_150 : decode cX4_may 150 = .ok (.iload_n 2, 1) := dk_28 (dk_at dksX4_may_6 4 rfl rfl)
theorem dX4_may_151 : decode cX4_may 151 = .ok (.aload_n 0, 1) := dk_42 (dk_at dksX4_may_6 5 rfl rfl)
theorem dX4_may_152 : decode cX4_may 152 = .ok (.getfield 59, 3) := dk_180 0 59 (dk_at dksX4_may_6 6 rfl rfl)
theorem dX4_may_155 : decode cX4_may 155 = .ok (.iload_n 1, 1) := dk_27 (dk_at dksX4_may_6 9 rfl rfl)
theorem dX4_may_156 : decode cX4_may 156 = .ok (.iaload, 1) := dk_46 (dk_at dksX4_may_6 10 rfl rfl)
theorem dX4_may_157 : decode cX4_may 157 = .ok (.invokevirtual 319, 3) := dk_182 1 63 (dk_at dksX4_may_6 11 rfl rfl)
theorem dX4_may_160 : decode cX4_may 160 = .ok (.ifCond .eq 7, 3) := dk_153 0 7 (dk_at dksX4_may_6 14 rfl rfl)
theorem dX4_may_163 : decode cX4_may 163 = .ok (.iconst 1, 1) := dk_4 (dk_at dksX4_may_6 17 rfl rfl)
theorem dX4_may_164 : decode cX4_may 164 = .ok (.goto 4, 3) := dk_167 0 4 (dk_at dksX4_may_6 18 rfl rfl)
theorem dX4_may_167 : decode cX4_may 167 = .ok (.iconst 0, 1) := dk_3 (dk_at dksX4_may_6 21 rfl rfl)
theorem dX4_may_168 : decode cX4_may 168 = .ok (.ireturn, 1) := dk_172 (dk_at dksX4_may_6 22 rfl rfl)
theorem dX4_may_169 : decode cX4_may 169 = .ok (.iconst 1, 1) := dk_4 (dk_at dksX4_may_6 23 rfl rfl)
theorem dX4_may_170 : decode cX4_may 170 = .ok (.ireturn, 1) := dk_172 (dk_at dksX4_may_7 0 rfl rfl)
abbrev cX4_does : ByteArray := prog_23_method_172_code
def yX4_does : MethodName := ⟨RX4, "does", "(I)I"⟩
def dkwX4_does_5 : List UInt8 := [27, 46, 42, 180, 0, 59, 27, 46, 182, 1, 125, 172, 42, 28, 182, 1, 122, 172]
abbrev dktX4_does_5 : List UInt8 := dkwX4_does_5 ++ []
def dkwX4_does_4 : List UInt8 := [42, 28, 42, 180, 0, 56, 27, 46, 42, 180, 0, 59, 27, 46, 182, 1, 119, 172, 42, 28, 42, 180, 0, 56]
abbrev dktX4_does_4 : List UInt8 := dkwX4_does_4 ++ dktX4_does_5
def dkwX4_does_3 : List UInt8 := [27, 46, 42, 180, 0, 59, 27, 46, 42, 180, 0, 62, 27, 46, 182, 1, 115, 172, 42, 28, 182, 1, 139, 172]
abbrev dktX4_does_3 : List UInt8 := dkwX4_does_3 ++ dktX4_does_4
def dkwX4_does_2 : List UInt8 := [42, 28, 42, 180, 0, 56, 27, 46, 42, 180, 0, 59, 27, 46, 182, 1, 105, 172, 42, 28, 42, 180, 0, 56]
abbrev dktX4_does_2 : List UInt8 := dkwX4_does_2 ++ dktX4_does_3
def dkwX4_does_1 : List UInt8 := [170, 0, 0, 0, 0, 0, 123, 0, 0, 0, 0, 0, 0, 0, 5, 0, 0, 0, 39, 0, 0, 0, 57, 0, 0, 0, 81, 0, 0, 0, 123, 0, 0, 0, 87, 0, 0, 0, 105]
abbrev dktX4_does_1 : List UInt8 := dkwX4_does_1 ++ dktX4_does_2
def dkwX4_does_0 : List UInt8 := [42, 180, 0, 53, 27, 46, 61, 42, 180, 0, 50, 27, 46]
abbrev dktX4_does_0 : List UInt8 := dkwX4_does_0 ++ dktX4_does_1
theorem dksX4_does_0 : cX4_does.data.toList.drop 0 = dktX4_does_0 := by decide +kernel
theorem dksX4_does_1 : cX4_does.data.toList.drop 13 = dktX4_does_1 := dk_seg dksX4_does_0 13 rfl rfl
theorem dksX4_does_2 : cX4_does.data.toList.drop 52 = dktX4_does_2 := dk_seg dksX4_does_1 39 rfl rfl
theorem dksX4_does_3 : cX4_does.data.toList.drop 76 = dktX4_does_3 := dk_seg dksX4_does_2 24 rfl rfl
theorem dksX4_does_4 : cX4_does.data.toList.drop 100 = dktX4_does_4 := dk_seg dksX4_does_3 24 rfl rfl
theorem dksX4_does_5 : cX4_does.data.toList.drop 124 = dktX4_does_5 := dk_seg dksX4_does_4 24 rfl rfl
theorem dX4_does_0 : decode cX4_does 0 = .ok (.aload_n 0, 1) := dk_42 (dk_at dksX4_does_0 0 rfl rfl)
theorem dX4_does_1 : decode cX4_does 1 = .ok (.getfield 53, 3) := dk_180 0 53 (dk_at dksX4_does_0 1 rfl rfl)
theorem dX4_does_4 : decode cX4_does 4 = .ok (.iload_n 1, 1) := dk_27 (dk_at dksX4_does_0 4 rfl rfl)
theorem dX4_does_5 : decode cX4_does 5 = .ok (.iaload, 1) := dk_46 (dk_at dksX4_does_0 5 rfl rfl)
theorem dX4_does_6 : decode cX4_does 6 = .ok (.istore_n 2, 1) := dk_61 (dk_at dksX4_does_0 6 rfl rfl)
theorem dX4_does_7 : decode cX4_does 7 = .ok (.aload_n 0, 1) := dk_42 (dk_at dksX4_does_0 7 rfl rfl)
theorem dX4_does_8 : decode cX4_does 8 = .ok (.getfield 50, 3) := dk_180 0 50 (dk_at dksX4_does_0 8 rfl rfl)
theorem dX4_does_11 : decode cX4_does 11 = .ok (.iload_n 1, 1) := dk_27 (dk_at dksX4_does_0 11 rfl rfl)
theorem dX4_does_12 : decode cX4_does 12 = .ok (.iaload, 1) := dk_46 (dk_at dksX4_does_0 12 rfl rfl)
theorem dX4_does_13 : decode cX4_does 13 = .ok (.tableswitch 123 0 5 #[39, 57, 81, 123, 87, 105], 39) := by decide +kernel
theorem dX4_does_52 : decode cX4_does 52 = .ok (.aload_n 0, 1) := dk_42 (dk_at dksX4_does_2 0 rfl rfl)
theorem dX4_does_53 : decode cX4_does 53 = .ok (.iload_n 2, 1) := dk_28 (dk_at dksX4_does_2 1 rfl rfl)
theorem dX4_does_54 : decode cX4_does 54 = .ok (.aload_n 0, 1) := dk_42 (dk_at dksX4_does_2 2 rfl rfl)
theorem dX4_does_55 : decode cX4_does 55 = .ok (.getfield 56, 3) := dk_180 0 56 (dk_at dksX4_does_2 3 rfl rfl)
theorem dX4_does_58 : decode cX4_does 58 = .ok (.iload_n 1, 1) := dk_27 (dk_at dksX4_does_2 6 rfl rfl)
theorem dX4_does_59 : decode cX4_does 59 = .ok (.iaload, 1) := dk_46 (dk_at dksX4_does_2 7 rfl rfl)
theorem dX4_does_60 : decode cX4_does 60 = .ok (.aload_n 0, 1) := dk_42 (dk_at dksX4_does_2 8 rfl rfl)
theorem dX4_does_61 : decode cX4_does 61 = .ok (.getfield 59, 3) := dk_180 0 59 (dk_at dksX4_does_2 9 rfl rfl)
theorem dX4_does_64 : decode cX4_does 64 = .ok (.iload_n 1, 1) := dk_27 (dk_at dksX4_does_2 12 rfl rfl)
theorem dX4_does_65 : decode cX4_does 65 = .ok (.iaload, 1) := dk_46 (dk_at dksX4_does_2 13 rfl rfl)
theorem dX4_does_66 : decode cX4_does 66 = .ok (.invokevirtual 361, 3) := dk_182 1 105 (dk_at dksX4_does_2 14 rfl rfl)
theorem dX4_does_69 : decode cX4_does 69 = .ok (.ireturn, 1) := dk_172 (dk_at dksX4_does_2 17 rfl rfl)
theorem dX4_does_70 : decode cX4_does 70 = .ok (.aload_n 0, 1) := dk_42 (dk_at dksX4_does_2 18 rfl rfl)
theorem dX4_does_71 : decode cX4_does 71 = .ok (.iload_n 2, 1) := dk_28 (dk_at dksX4_does_2 19 rfl rfl)
theorem dX4_does_72 : decode cX4_does 72 = .ok (.aload_n 0, 1) := dk_42 (dk_at dksX4_does_2 20 rfl rfl)
theorem dX4_does_73 : decode cX4_does 73 = .ok (.getfield 56, 3) := dk_180 0 56 (dk_at dksX4_does_2 21 rfl rfl)
theorem dX4_does_76 : decode cX4_does 76 = .ok (.iload_n 1, 1) := dk_27 (dk_at dksX4_does_3 0 rfl rfl)
theorem dX4_does_77 : decode cX4_does 77 = .ok (.iaload, 1) := dk_46 (dk_at dksX4_does_3 1 rfl rfl)
theorem dX4_does_78 : decode cX4_does 78 = .ok (.aload_n 0, 1) := dk_42 (dk_at dksX4_does_3 2 rfl rfl)
theorem dX4_does_79 : decode cX4_does 79 = .ok (.getfield 59, 3) := dk_180 0 59 (dk_at dksX4_does_3 3 rfl rfl)
theorem dX4_does_82 : decode cX4_does 82 = .ok (.iload_n 1, 1) := dk_27 (dk_at dksX4_does_3 6 rfl rfl)
theorem dX4_does_83 : decode cX4_does 83 = .ok (.iaload, 1) := dk_46 (dk_at dksX4_does_3 7 rfl rfl)
theorem dX4_does_84 : decode cX4_does 84 = .ok (.aload_n 0, 1) := dk_42 (dk_at dksX4_does_3 8 rfl rfl)
theorem dX4_does_85 : decode cX4_does 85 = .ok (.getfield 62, 3) := dk_180 0 62 (dk_at dksX4_does_3 9 rfl rfl)
theorem dX4_does_88 : decode cX4_does 88 = .ok (.iload_n 1, 1) := dk_27 (dk_at dksX4_does_3 12 rfl rfl)
theorem dX4_does_89 : decode cX4_does 89 = .ok (.iaload, 1) := dk_46 (dk_at dksX4_does_3 13 rfl rfl)
theorem dX4_does_90 : decode cX4_does 90 = .ok (.invokevirtual 371, 3) := dk_182 1 115 (dk_at dksX4_does_3 14 rfl rfl)
theorem dX4_does_93 : decode cX4_does 93 = .ok (.ireturn, 1) := dk_172 (dk_at dksX4_does_3 17 rfl rfl)
theorem dX4_does_94 : decode cX4_does 94 = .ok (.aload_n 0, 1) := dk_42 (dk_at dksX4_does_3 18 rfl rfl)
theorem dX4_does_95 : decode cX4_does 95 = .ok (.iload_n 2, 1) := dk_28 (dk_at dksX4_does_3 19 rfl rfl)
theorem dX4_does_96 : decode cX4_does 96 = .ok (.invokevirtual 395, 3) := dk_182 1 139 (dk_at dksX4_does_3 20 rfl rfl)
theorem dX4_does_99 : decode cX4_does 99 = .ok (.ireturn, 1) := dk_172 (dk_at dksX4_does_3 23 rfl rfl)
theorem dX4_does_100 : decode cX4_does 100 = .ok (.aload_n 0, 1) := dk_42 (dk_at dksX4_does_4 0 rfl rfl)
theorem dX4_does_101 : decode cX4_does 101 = .ok (.iload_n 2, 1) := dk_28 (dk_at dksX4_does_4 1 rfl rfl)
theorem dX4_does_102 : decode cX4_does 102 = .ok (.aload_n 0, 1) := dk_42 (dk_at dksX4_does_4 2 rfl rfl)
theorem dX4_does_103 : decode cX4_does 103 = .ok (.getfield 56, 3) := dk_180 0 56 (dk_at dksX4_does_4 3 rfl rfl)
theorem dX4_does_106 : decode cX4_does 106 = .ok (.iload_n 1, 1) := dk_27 (dk_at dksX4_does_4 6 rfl rfl)
theorem dX4_does_107 : decode cX4_does 107 = .ok (.iaload, 1) := dk_46 (dk_at dksX4_does_4 7 rfl rfl)
theorem dX4_does_108 : decode cX4_does 108 = .ok (.aload_n 0, 1) := dk_42 (dk_at dksX4_does_4 8 rfl rfl)
theorem dX4_does_109 : decode cX4_does 109 = .ok (.getfield 59, 3) := dk_180 0 59 (dk_at dksX4_does_4 9 rfl rfl)
theorem dX4_does_112 : decode cX4_does 112 = .ok (.iload_n 1, 1) := dk_27 (dk_at dksX4_does_4 12 rfl rfl)
theorem dX4_does_113 : decode cX4_does 113 = .ok (.iaload, 1) := dk_46 (dk_at dksX4_does_4 13 rfl rfl)
theorem dX4_does_114 : decode cX4_does 114 = .ok (.invokevirtual 375, 3) := dk_182 1 119 (dk_at dksX4_does_4 14 rfl rfl)
theorem dX4_does_117 : decode cX4_does 117 = .ok (.ireturn, 1) := dk_172 (dk_at dksX4_does_4 17 rfl rfl)
theorem dX4_does_118 : decode cX4_does 118 = .ok (.aload_n 0, 1) := dk_42 (dk_at dksX4_does_4 18 rfl rfl)
theorem dX4_does_119 : decode cX4_does 119 = .ok (.iload_n 2, 1) := dk_28 (dk_at dksX4_does_4 19 rfl rfl)
theorem dX4_does_120 : decode cX4_does 120 = .ok (.aload_n 0, 1) := dk_42 (dk_at dksX4_does_4 20 rfl rfl)
theorem dX4_does_121 : decode cX4_does 121 = .ok (.getfield 56, 3) := dk_180 0 56 (dk_at dksX4_does_4 21 rfl rfl)
theorem dX4_does_124 : decode cX4_does 124 = .ok (.iload_n 1, 1) := dk_27 (dk_at dksX4_does_5 0 rfl rfl)
theorem dX4_does_125 : decode cX4_does 125 = .ok (.iaload, 1) := dk_46 (dk_at dksX4_does_5 1 rfl rfl)
theorem dX4_does_126 : decode cX4_does 126 = .ok (.aload_n 0, 1) := dk_42 (dk_at dksX4_does_5 2 rfl rfl)
theorem dX4_does_127 : decode cX4_does 127 = .ok (.getfield 59, 3) := dk_180 0 59 (dk_at dksX4_does_5 3 rfl rfl)
theorem dX4_does_130 : decode cX4_does 130 = .ok (.iload_n 1, 1) := dk_27 (dk_at dksX4_does_5 6 rfl rfl)
theorem dX4_does_131 : decode cX4_does 131 = .ok (.iaload, 1) := dk_46 (dk_at dksX4_does_5 7 rfl rfl)
theorem dX4_does_132 : decode cX4_does 132 = .ok (.invokevirtual 381, 3) := dk_182 1 125 (dk_at dksX4_does_5 8 rfl rfl)
theorem dX4_does_135 : decode cX4_does 135 = .ok (.ireturn, 1) := dk_172 (dk_at dksX4_does_5 11 rfl rfl)
theorem dX4_does_136 : decode cX4_does 136 = .ok (.aload_n 0, 1) := dk_42 (dk_at dksX4_does_5 12 rfl rfl)
theorem dX4_does_137 : decode cX4_does 137 = .ok (.iload_n 2, 1) := dk_28 (dk_at dksX4_does_5 13 rfl rfl)
theorem dX4_does_138 : decode cX4_does 138 = .ok (.invokevirtual 378, 3) := dk_182 1 122 (dk_at dksX4_does_5 14 rfl rfl)
theorem dX4_does_141 : decode cX4_does 141 = .ok (.ireturn, 1) := dk_172 (dk_at dksX4_does_5 17 rfl rfl)
abbrev cX4_printMatrix : ByteArray := prog_23_method_179_code
def yX4_printMatrix : MethodName := ⟨RX4, "printMatrix", "(I)I"⟩
def dkwX4_printMatrix_1 : List UInt8 := [182, 1, 60, 162, 0, 15, 42, 27, 28, 182, 2, 84, 132, 2, 1, 167, 255, 238, 42, 180, 2, 74, 172]
abbrev dktX4_printMatrix_1 : List UInt8 := dkwX4_printMatrix_1 ++ []
def dkwX4_printMatrix_0 : List UInt8 := [42, 27, 184, 1, 57, 182, 0, 87, 154, 0, 5, 3, 172, 42, 3, 181, 2, 74, 3, 61, 28, 42, 27]
abbrev dktX4_printMatrix_0 : List UInt8 := dkwX4_printMatrix_0 ++ dktX4_printMatrix_1
theorem dksX4_printMatrix_0 : cX4_printMatrix.data.toList.drop 0 = dktX4_printMatrix_0 := by decide +kernel
theorem dksX4_printMatrix_1 : cX4_printMatrix.data.toList.drop 23 = dktX4_printMatrix_1 := dk_seg dksX4_printMatrix_0 23 rfl rfl
theorem dX4_printMatrix_0 : decode cX4_printMatrix 0 = .ok (.aload_n 0, 1) := dk_42 (dk_at dksX4_printMatrix_0 0 rfl rfl)
theorem dX4_printMatrix_1 : decode cX4_printMatrix 1 = .ok (.iload_n 1, 1) := dk_27 (dk_at dksX4_printMatrix_0 1 rfl rfl)
theorem dX4_printMatrix_2 : decode cX4_printMatrix 2 = .ok (.invokestatic 313, 3) := dk_184 1 57 (dk_at dksX4_printMatrix_0 2 rfl rfl)
theorem dX4_printMatrix_5 : decode cX4_printMatrix 5 = .ok (.invokevirtual 87, 3) := dk_182 0 87 (dk_at dksX4_printMatrix_0 5 rfl rfl)
theorem dX4_printMatrix_8 : decode cX4_printMatrix 8 = .ok (.ifCond .ne 5, 3) := dk_154 0 5 (dk_at dksX4_printMatrix_0 8 rfl rfl)
theorem dX4_printMatrix_11 : decode cX4_printMatrix 11 = .ok (.iconst 0, 1) := dk_3 (dk_at dksX4_printMatrix_0 11 rfl rfl)
theorem dX4_printMatrix_12 : decode cX4_printMatrix 12 = .ok (.ireturn, 1) := dk_172 (dk_at dksX4_printMatrix_0 12 rfl rfl)
theorem dX4_printMatrix_13 : decode cX4_printMatrix 13 = .ok (.aload_n 0, 1) := dk_42 (dk_at dksX4_printMatrix_0 13 rfl rfl)
theorem dX4_printMatrix_14 : decode cX4_printMatrix 14 = .ok (.iconst 0, 1) := dk_3 (dk_at dksX4_printMatrix_0 14 rfl rfl)
theorem dX4_printMatrix_15 : decode cX4_printMatrix 15 = .ok (.putfield 586, 3) := dk_181 2 74 (dk_at dksX4_printMatrix_0 15 rfl rfl)
theorem dX4_printMatrix_18 : decode cX4_printMatrix 18 = .ok (.iconst 0, 1) := dk_3 (dk_at dksX4_printMatrix_0 18 rfl rfl)
theorem dX4_printMatrix_19 : decode cX4_printMatrix 19 = .ok (.istore_n 2, 1) := dk_61 (dk_at dksX4_printMatrix_0 19 rfl rfl)
theorem dX4_printMatrix_20 : decode cX4_printMatrix 20 = .ok (.iload_n 2, 1) := dk_28 (dk_at dksX4_printMatrix_0 20 rfl rfl)
theorem dX4_printMatrix_21 : decode cX4_printMatrix 21 = .ok (.aload_n 0, 1) := dk_42 (dk_at dksX4_printMatrix_0 21 rfl rfl)
theorem dX4_printMatrix_22 : decode cX4_printMatrix 22 = .ok (.iload_n 1, 1) := dk_27 (dk_at dksX4_printMatrix_0 22 rfl rfl)
theorem dX4_printMatrix_23 : decode cX4_printMatrix 23 = .ok (.invokevirtual 316, 3) := dk_182 1 60 (dk_at dksX4_printMatrix_1 0 rfl rfl)
theorem dX4_printMatrix_26 : decode cX4_printMatrix 26 = .ok (.if_icmp .ge 15, 3) := dk_162 0 15 (dk_at dksX4_printMatrix_1 3 rfl rfl)
theorem dX4_printMatrix_29 : decode cX4_printMatrix 29 = .ok (.aload_n 0, 1) := dk_42 (dk_at dksX4_printMatrix_1 6 rfl rfl)
theorem dX4_printMatrix_30 : decode cX4_printMatrix 30 = .ok (.iload_n 1, 1) := dk_27 (dk_at dksX4_printMatrix_1 7 rfl rfl)
theorem dX4_printMatrix_31 : decode cX4_printMatrix 31 = .ok (.iload_n 2, 1) := dk_28 (dk_at dksX4_printMatrix_1 8 rfl rfl)
theorem dX4_printMatrix_32 : decode cX4_printMatrix 32 = .ok (.invokevirtual 596, 3) := dk_182 2 84 (dk_at dksX4_printMatrix_1 9 rfl rfl)
theorem dX4_printMatrix_35 : decode cX4_printMatrix 35 = .ok (.iinc 2 1, 3) := dk_132 2 1 (dk_at dksX4_printMatrix_1 12 rfl rfl)
theorem dX4_printMatrix_38 : decode cX4_printMatrix 38 = .ok (.goto (-18), 3) := dk_167 255 238 (dk_at dksX4_printMatrix_1 15 rfl rfl)
theorem dX4_printMatrix_41 : decode cX4_printMatrix 41 = .ok (.aload_n 0, 1) := dk_42 (dk_at dksX4_printMatrix_1 18 rfl rfl)
theorem dX4_printMatrix_42 : decode cX4_printMatrix 42 = .ok (.getfield 586, 3) := dk_180 2 74 (dk_at dksX4_printMatrix_1 19 rfl rfl)
theorem dX4_printMatrix_45 : decode cX4_printMatrix 45 = .ok (.ireturn, 1) := dk_172 (dk_at dksX4_printMatrix_1 22 rfl rfl)
abbrev cX4_tellRow : ByteArray := prog_23_method_178_code
def yX4_tellRow : MethodName := ⟨RX4, "tellRow", "(II)V"⟩
def dkwX4_tellRow_2 : List UInt8 := [182, 2, 77, 132, 3, 1, 167, 255, 204, 42, 16, 10, 182, 2, 77, 177]
abbrev dktX4_tellRow_2 : List UInt8 := dkwX4_tellRow_2 ++ []
def dkwX4_tellRow_1 : List UInt8 := [29, 182, 1, 89, 153, 0, 17, 42, 42, 27, 28, 29, 182, 1, 83, 182, 2, 81, 167, 0, 9, 42, 16, 46]
abbrev dktX4_tellRow_1 : List UInt8 := dkwX4_tellRow_1 ++ dktX4_tellRow_2
def dkwX4_tellRow_0 : List UInt8 := [3, 62, 29, 42, 27, 182, 1, 66, 162, 0, 49, 29, 158, 0, 9, 42, 16, 32, 182, 2, 77, 42, 27, 28]
abbrev dktX4_tellRow_0 : List UInt8 := dkwX4_tellRow_0 ++ dktX4_tellRow_1
theorem dksX4_tellRow_0 : cX4_tellRow.data.toList.drop 0 = dktX4_tellRow_0 := by decide +kernel
theorem dksX4_tellRow_1 : cX4_tellRow.data.toList.drop 24 = dktX4_tellRow_1 := dk_seg dksX4_tellRow_0 24 rfl rfl
theorem dksX4_tellRow_2 : cX4_tellRow.data.toList.drop 48 = dktX4_tellRow_2 := dk_seg dksX4_tellRow_1 24 rfl rfl
theorem dX4_tellRow_0 : decode cX4_tellRow 0 = .ok (.iconst 0, 1) := dk_3 (dk_at dksX4_tellRow_0 0 rfl rfl)
theorem dX4_tellRow_1 : decode cX4_tellRow 1 = .ok (.istore_n 3, 1) := dk_62 (dk_at dksX4_tellRow_0 1 rfl rfl)
theorem dX4_tellRow_2 : decode cX4_tellRow 2 = .ok (.iload_n 3, 1) := dk_29 (dk_at dksX4_tellRow_0 2 rfl rfl)
theorem dX4_tellRow_3 : decode cX4_tellRow 3 = .ok (.aload_n 0, 1) := dk_42 (dk_at dksX4_tellRow_0 3 rfl rfl)
theorem dX4_tellRow_4 : decode cX4_tellRow 4 = .ok (.iload_n 1, 1) := dk_27 (dk_at dksX4_tellRow_0 4 rfl rfl)
theorem dX4_tellRow_5 : decode cX4_tellRow 5 = .ok (.invokevirtual 322, 3) := dk_182 1 66 (dk_at dksX4_tellRow_0 5 rfl rfl)
theorem dX4_tellRow_8 : decode cX4_tellRow 8 = .ok (.if_icmp .ge 49, 3) := dk_162 0 49 (dk_at dksX4_tellRow_0 8 rfl rfl)
theorem dX4_tellRow_11 : decode cX4_tellRow 11 = .ok (.iload_n 3, 1) := dk_29 (dk_at dksX4_tellRow_0 11 rfl rfl)
theorem dX4_tellRow_12 : decode cX4_tellRow 12 = .ok (.ifCond .le 9, 3) := dk_158 0 9 (dk_at dksX4_tellRow_0 12 rfl rfl)
theorem dX4_tellRow_15 : decode cX4_tellRow 15 = .ok (.aload_n 0, 1) := dk_42 (dk_at dksX4_tellRow_0 15 rfl rfl)
theorem dX4_tellRow_16 : decode cX4_tellRow 16 = .ok (.bipush 32, 2) := dk_16 32 (dk_at dksX4_tellRow_0 16 rfl rfl)
theorem dX4_tellRow_18 : decode cX4_tellRow 18 = .ok (.invokevirtual 589, 3) := dk_182 2 77 (dk_at dksX4_tellRow_0 18 rfl rfl)
theorem dX4_tellRow_21 : decode cX4_tellRow 21 = .ok (.aload_n 0, 1) := dk_42 (dk_at dksX4_tellRow_0 21 rfl rfl)
theorem dX4_tellRow_22 : decode cX4_tellRow 22 = .ok (.iload_n 1, 1) := dk_27 (dk_at dksX4_tellRow_0 22 rfl rfl)
theorem dX4_tellRow_23 : decode cX4_tellRow 23 = .ok (.iload_n 2, 1) := dk_28 (dk_at dksX4_tellRow_0 23 rfl rfl)
theorem dX4_tellRow_24 : decode cX4_tellRow 24 = .ok (.iload_n 3, 1) := dk_29 (dk_at dksX4_tellRow_1 0 rfl rfl)
theorem dX4_tellRow_25 : decode cX4_tellRow 25 = .ok (.invokevirtual 345, 3) := dk_182 1 89 (dk_at dksX4_tellRow_1 1 rfl rfl)
theorem dX4_tellRow_28 : decode cX4_tellRow 28 = .ok (.ifCond .eq 17, 3) := dk_153 0 17 (dk_at dksX4_tellRow_1 4 rfl rfl)
theorem dX4_tellRow_31 : decode cX4_tellRow 31 = .ok (.aload_n 0, 1) := dk_42 (dk_at dksX4_tellRow_1 7 rfl rfl)
theorem dX4_tellRow_32 : decode cX4_tellRow 32 = .ok (.aload_n 0, 1) := dk_42 (dk_at dksX4_tellRow_1 8 rfl rfl)
theorem dX4_tellRow_33 : decode cX4_tellRow 33 = .ok (.iload_n 1, 1) := dk_27 (dk_at dksX4_tellRow_1 9 rfl rfl)
theorem dX4_tellRow_34 : decode cX4_tellRow 34 = .ok (.iload_n 2, 1) := dk_28 (dk_at dksX4_tellRow_1 10 rfl rfl)
theorem dX4_tellRow_35 : decode cX4_tellRow 35 = .ok (.iload_n 3, 1) := dk_29 (dk_at dksX4_tellRow_1 11 rfl rfl)
theorem dX4_tellRow_36 : decode cX4_tellRow 36 = .ok (.invokevirtual 339, 3) := dk_182 1 83 (dk_at dksX4_tellRow_1 12 rfl rfl)
theorem dX4_tellRow_39 : decode cX4_tellRow 39 = .ok (.invokevirtual 593, 3) := dk_182 2 81 (dk_at dksX4_tellRow_1 15 rfl rfl)
theorem dX4_tellRow_42 : decode cX4_tellRow 42 = .ok (.goto 9, 3) := dk_167 0 9 (dk_at dksX4_tellRow_1 18 rfl rfl)
theorem dX4_tellRow_45 : decode cX4_tellRow 45 = .ok (.aload_n 0, 1) := dk_42 (dk_at dksX4_tellRow_1 21 rfl rfl)
theorem dX4_tellRow_46 : decode cX4_tellRow 46 = .ok (.bipush 46, 2) := dk_16 46 (dk_at dksX4_tellRow_1 22 rfl rfl)
theorem dX4_tellRow_48 : decode cX4_tellRow 48 = .ok (.invokevirtual 589, 3) := dk_182 2 77 (dk_at dksX4_tellRow_2 0 rfl rfl)
theorem dX4_tellRow_51 : decode cX4_tellRow 51 = .ok (.iinc 3 1, 3) := dk_132 3 1 (dk_at dksX4_tellRow_2 3 rfl rfl)
theorem dX4_tellRow_54 : decode cX4_tellRow 54 = .ok (.goto (-52), 3) := dk_167 255 204 (dk_at dksX4_tellRow_2 6 rfl rfl)
theorem dX4_tellRow_57 : decode cX4_tellRow 57 = .ok (.aload_n 0, 1) := dk_42 (dk_at dksX4_tellRow_2 9 rfl rfl)
theorem dX4_tellRow_58 : decode cX4_tellRow 58 = .ok (.bipush 10, 2) := dk_16 10 (dk_at dksX4_tellRow_2 10 rfl rfl)
theorem dX4_tellRow_60 : decode cX4_tellRow 60 = .ok (.invokevirtual 589, 3) := dk_182 2 77 (dk_at dksX4_tellRow_2 12 rfl rfl)
theorem dX4_tellRow_63 : decode cX4_tellRow 63 = .ok (.return_, 1) := dk_177 (dk_at dksX4_tellRow_2 15 rfl rfl)
abbrev cX4_tell : ByteArray := prog_23_method_176_code
def yX4_tell : MethodName := ⟨RX4, "tell", "(I)V"⟩
def dkwX4_tell_0 : List UInt8 := [42, 180, 0, 71, 42, 180, 2, 74, 27, 79, 42, 89, 180, 2, 74, 4, 96, 181, 2, 74, 177]
abbrev dktX4_tell_0 : List UInt8 := dkwX4_tell_0 ++ []
theorem dksX4_tell_0 : cX4_tell.data.toList.drop 0 = dktX4_tell_0 := by decide +kernel
theorem dX4_tell_0 : decode cX4_tell 0 = .ok (.aload_n 0, 1) := dk_42 (dk_at dksX4_tell_0 0 rfl rfl)
theorem dX4_tell_1 : decode cX4_tell 1 = .ok (.getfield 71, 3) := dk_180 0 71 (dk_at dksX4_tell_0 1 rfl rfl)
theorem dX4_tell_4 : decode cX4_tell 4 = .ok (.aload_n 0, 1) := dk_42 (dk_at dksX4_tell_0 4 rfl rfl)
theorem dX4_tell_5 : decode cX4_tell 5 = .ok (.getfield 586, 3) := dk_180 2 74 (dk_at dksX4_tell_0 5 rfl rfl)
theorem dX4_tell_8 : decode cX4_tell 8 = .ok (.iload_n 1, 1) := dk_27 (dk_at dksX4_tell_0 8 rfl rfl)
theorem dX4_tell_9 : decode cX4_tell 9 = .ok (.iastore, 1) := dk_79 (dk_at dksX4_tell_0 9 rfl rfl)
theorem dX4_tell_10 : decode cX4_tell 10 = .ok (.aload_n 0, 1) := dk_42 (dk_at dksX4_tell_0 10 rfl rfl)
theorem dX4_tell_11 : decode cX4_tell 11 = .ok (.dup, 1) := dk_89 (dk_at dksX4_tell_0 11 rfl rfl)
theorem dX4_tell_12 : decode cX4_tell 12 = .ok (.getfield 586, 3) := dk_180 2 74 (dk_at dksX4_tell_0 12 rfl rfl)
theorem dX4_tell_15 : decode cX4_tell 15 = .ok (.iconst 1, 1) := dk_4 (dk_at dksX4_tell_0 15 rfl rfl)
theorem dX4_tell_16 : decode cX4_tell 16 = .ok (.iadd, 1) := dk_96 (dk_at dksX4_tell_0 16 rfl rfl)
theorem dX4_tell_17 : decode cX4_tell 17 = .ok (.putfield 586, 3) := dk_181 2 74 (dk_at dksX4_tell_0 17 rfl rfl)
theorem dX4_tell_20 : decode cX4_tell 20 = .ok (.return_, 1) := dk_177 (dk_at dksX4_tell_0 20 rfl rfl)
abbrev cX4_tellNumber : ByteArray := prog_23_method_177_code
def yX4_tellNumber : MethodName := ⟨RX4, "tellNumber", "(I)V"⟩
def dkwX4_tellNumber_2 : List UInt8 := [16, 10, 112, 96, 182, 2, 77, 29, 16, 10, 108, 62, 167, 255, 234, 177]
abbrev dktX4_tellNumber_2 : List UInt8 := dkwX4_tellNumber_2 ++ []
def dkwX4_tellNumber_1 : List UInt8 := [28, 29, 162, 0, 11, 29, 16, 10, 108, 62, 167, 255, 241, 29, 158, 0, 24, 42, 16, 48, 28, 29, 108]
abbrev dktX4_tellNumber_1 : List UInt8 := dkwX4_tellNumber_1 ++ dktX4_tellNumber_2
def dkwX4_tellNumber_0 : List UInt8 := [27, 156, 0, 9, 42, 16, 45, 182, 2, 77, 27, 184, 1, 233, 61, 19, 2, 80, 62, 29, 4, 164, 0, 16]
abbrev dktX4_tellNumber_0 : List UInt8 := dkwX4_tellNumber_0 ++ dktX4_tellNumber_1
theorem dksX4_tellNumber_0 : cX4_tellNumber.data.toList.drop 0 = dktX4_tellNumber_0 := by decide +kernel
theorem dksX4_tellNumber_1 : cX4_tellNumber.data.toList.drop 24 = dktX4_tellNumber_1 := dk_seg dksX4_tellNumber_0 24 rfl rfl
theorem dksX4_tellNumber_2 : cX4_tellNumber.data.toList.drop 47 = dktX4_tellNumber_2 := dk_seg dksX4_tellNumber_1 23 rfl rfl
theorem dX4_tellNumber_0 : decode cX4_tellNumber 0 = .ok (.iload_n 1, 1) := dk_27 (dk_at dksX4_tellNumber_0 0 rfl rfl)
theorem dX4_tellNumber_1 : decode cX4_tellNumber 1 = .ok (.ifCond .ge 9, 3) := dk_156 0 9 (dk_at dksX4_tellNumber_0 1 rfl rfl)
theorem dX4_tellNumber_4 : decode cX4_tellNumber 4 = .ok (.aload_n 0, 1) := dk_42 (dk_at dksX4_tellNumber_0 4 rfl rfl)
theorem dX4_tellNumber_5 : decode cX4_tellNumber 5 = .ok (.bipush 45, 2) := dk_16 45 (dk_at dksX4_tellNumber_0 5 rfl rfl)
theorem dX4_tellNumber_7 : decode cX4_tellNumber 7 = .ok (.invokevirtual 589, 3) := dk_182 2 77 (dk_at dksX4_tellNumber_0 7 rfl rfl)
theorem dX4_tellNumber_10 : decode cX4_tellNumber 10 = .ok (.iload_n 1, 1) := dk_27 (dk_at dksX4_tellNumber_0 10 rfl rfl)
theorem dX4_tellNumber_11 : decode cX4_tellNumber 11 = .ok (.invokestatic 489, 3) := dk_184 1 233 (dk_at dksX4_tellNumber_0 11 rfl rfl)
theorem dX4_tellNumber_14 : decode cX4_tellNumber 14 = .ok (.istore_n 2, 1) := dk_61 (dk_at dksX4_tellNumber_0 14 rfl rfl)
theorem dX4_tellNumber_15 : decode cX4_tellNumber 15 = .ok (.ldc_w 592, 3) := dk_19 2 80 (dk_at dksX4_tellNumber_0 15 rfl rfl)
theorem dX4_tellNumber_18 : decode cX4_tellNumber 18 = .ok (.istore_n 3, 1) := dk_62 (dk_at dksX4_tellNumber_0 18 rfl rfl)
theorem dX4_tellNumber_19 : decode cX4_tellNumber 19 = .ok (.iload_n 3, 1) := dk_29 (dk_at dksX4_tellNumber_0 19 rfl rfl)
theorem dX4_tellNumber_20 : decode cX4_tellNumber 20 = .ok (.iconst 1, 1) := dk_4 (dk_at dksX4_tellNumber_0 20 rfl rfl)
theorem dX4_tellNumber_21 : decode cX4_tellNumber 21 = .ok (.if_icmp .le 16, 3) := dk_164 0 16 (dk_at dksX4_tellNumber_0 21 rfl rfl)
theorem dX4_tellNumber_24 : decode cX4_tellNumber 24 = .ok (.iload_n 2, 1) := dk_28 (dk_at dksX4_tellNumber_1 0 rfl rfl)
theorem dX4_tellNumber_25 : decode cX4_tellNumber 25 = .ok (.iload_n 3, 1) := dk_29 (dk_at dksX4_tellNumber_1 1 rfl rfl)
theorem dX4_tellNumber_26 : decode cX4_tellNumber 26 = .ok (.if_icmp .ge 11, 3) := dk_162 0 11 (dk_at dksX4_tellNumber_1 2 rfl rfl)
theorem dX4_tellNumber_29 : decode cX4_tellNumber 29 = .ok (.iload_n 3, 1) := dk_29 (dk_at dksX4_tellNumber_1 5 rfl rfl)
theorem dX4_tellNumber_30 : decode cX4_tellNumber 30 = .ok (.bipush 10, 2) := dk_16 10 (dk_at dksX4_tellNumber_1 6 rfl rfl)
theorem dX4_tellNumber_32 : decode cX4_tellNumber 32 = .ok (.idiv, 1) := dk_108 (dk_at dksX4_tellNumber_1 8 rfl rfl)
theorem dX4_tellNumber_33 : decode cX4_tellNumber 33 = .ok (.istore_n 3, 1) := dk_62 (dk_at dksX4_tellNumber_1 9 rfl rfl)
theorem dX4_tellNumber_34 : decode cX4_tellNumber 34 = .ok (.goto (-15), 3) := dk_167 255 241 (dk_at dksX4_tellNumber_1 10 rfl rfl)
theorem dX4_tellNumber_37 : decode cX4_tellNumber 37 = .ok (.iload_n 3, 1) := dk_29 (dk_at dksX4_tellNumber_1 13 rfl rfl)
theorem dX4_tellNumber_38 : decode cX4_tellNumber 38 = .ok (.ifCond .le 24, 3) := dk_158 0 24 (dk_at dksX4_tellNumber_1 14 rfl rfl)
theorem dX4_tellNumber_41 : decode cX4_tellNumber 41 = .ok (.aload_n 0, 1) := dk_42 (dk_at dksX4_tellNumber_1 17 rfl rfl)
theorem dX4_tellNumber_42 : decode cX4_tellNumber 42 = .ok (.bipush 48, 2) := dk_16 48 (dk_at dksX4_tellNumber_1 18 rfl rfl)
theorem dX4_tellNumber_44 : decode cX4_tellNumber 44 = .ok (.iload_n 2, 1) := dk_28 (dk_at dksX4_tellNumber_1 20 rfl rfl)
theorem dX4_tellNumber_45 : decode cX4_tellNumber 45 = .ok (.iload_n 3, 1) := dk_29 (dk_at dksX4_tellNumber_1 21 rfl rfl)
theorem dX4_tellNumber_46 : decode cX4_tellNumber 46 = .ok (.idiv, 1) := dk_108 (dk_at dksX4_tellNumber_1 22 rfl rfl)
theorem dX4_tellNumber_47 : decode cX4_tellNumber 47 = .ok (.bipush 10, 2) := dk_16 10 (dk_at dksX4_tellNumber_2 0 rfl rfl)
theorem dX4_tellNumber_49 : decode cX4_tellNumber 49 = .ok (.irem, 1) := dk_112 (dk_at dksX4_tellNumber_2 2 rfl rfl)
theorem dX4_tellNumber_50 : decode cX4_tellNumber 50 = .ok (.iadd, 1) := dk_96 (dk_at dksX4_tellNumber_2 3 rfl rfl)
theorem dX4_tellNumber_51 : decode cX4_tellNumber 51 = .ok (.invokevirtual 589, 3) := dk_182 2 77 (dk_at dksX4_tellNumber_2 4 rfl rfl)
theorem dX4_tellNumber_54 : decode cX4_tellNumber 54 = .ok (.iload_n 3, 1) := dk_29 (dk_at dksX4_tellNumber_2 7 rfl rfl)
theorem dX4_tellNumber_55 : decode cX4_tellNumber 55 = .ok (.bipush 10, 2) := dk_16 10 (dk_at dksX4_tellNumber_2 8 rfl rfl)
theorem dX4_tellNumber_57 : decode cX4_tellNumber 57 = .ok (.idiv, 1) := dk_108 (dk_at dksX4_tellNumber_2 10 rfl rfl)
theorem dX4_tellNumber_58 : decode cX4_tellNumber 58 = .ok (.istore_n 3, 1) := dk_62 (dk_at dksX4_tellNumber_2 11 rfl rfl)
theorem dX4_tellNumber_59 : decode cX4_tellNumber 59 = .ok (.goto (-22), 3) := dk_167 255 234 (dk_at dksX4_tellNumber_2 12 rfl rfl)
theorem dX4_tellNumber_62 : decode cX4_tellNumber 62 = .ok (.return_, 1) := dk_177 (dk_at dksX4_tellNumber_2 15 rfl rfl)
abbrev cX4_outputByte : ByteArray := prog_23_method_180_code
def yX4_outputByte : MethodName := ⟨RX4, "outputByte", "(I)I"⟩
def dkwX4_outputByte_1 : List UInt8 := [27, 46, 167, 0, 4, 3, 172]
abbrev dktX4_outputByte_1 : List UInt8 := dkwX4_outputByte_1 ++ []
def dkwX4_outputByte_0 : List UInt8 := [42, 27, 133, 9, 42, 180, 2, 74, 4, 100, 133, 184, 0, 95, 182, 0, 87, 153, 0, 12, 42, 180, 0, 71]
abbrev dktX4_outputByte_0 : List UInt8 := dkwX4_outputByte_0 ++ dktX4_outputByte_1
theorem dksX4_outputByte_0 : cX4_outputByte.data.toList.drop 0 = dktX4_outputByte_0 := by decide +kernel
theorem dksX4_outputByte_1 : cX4_outputByte.data.toList.drop 24 = dktX4_outputByte_1 := dk_seg dksX4_outputByte_0 24 rfl rfl
theorem dX4_outputByte_0 : decode cX4_outputByte 0 = .ok (.aload_n 0, 1) := dk_42 (dk_at dksX4_outputByte_0 0 rfl rfl)
theorem dX4_outputByte_1 : decode cX4_outputByte 1 = .ok (.iload_n 1, 1) := dk_27 (dk_at dksX4_outputByte_0 1 rfl rfl)
theorem dX4_outputByte_2 : decode cX4_outputByte 2 = .ok (.i2l, 1) := dk_133 (dk_at dksX4_outputByte_0 2 rfl rfl)
theorem dX4_outputByte_3 : decode cX4_outputByte 3 = .ok (.lconst 0, 1) := dk_9 (dk_at dksX4_outputByte_0 3 rfl rfl)
theorem dX4_outputByte_4 : decode cX4_outputByte 4 = .ok (.aload_n 0, 1) := dk_42 (dk_at dksX4_outputByte_0 4 rfl rfl)
theorem dX4_outputByte_5 : decode cX4_outputByte 5 = .ok (.getfield 586, 3) := dk_180 2 74 (dk_at dksX4_outputByte_0 5 rfl rfl)
theorem dX4_outputByte_8 : decode cX4_outputByte 8 = .ok (.iconst 1, 1) := dk_4 (dk_at dksX4_outputByte_0 8 rfl rfl)
theorem dX4_outputByte_9 : decode cX4_outputByte 9 = .ok (.isub, 1) := dk_100 (dk_at dksX4_outputByte_0 9 rfl rfl)
theorem dX4_outputByte_10 : decode cX4_outputByte 10 = .ok (.i2l, 1) := dk_133 (dk_at dksX4_outputByte_0 10 rfl rfl)
theorem dX4_outputByte_11 : decode cX4_outputByte 11 = .ok (.invokestatic 95, 3) := dk_184 0 95 (dk_at dksX4_outputByte_0 11 rfl rfl)
theorem dX4_outputByte_14 : decode cX4_outputByte 14 = .ok (.invokevirtual 87, 3) := dk_182 0 87 (dk_at dksX4_outputByte_0 14 rfl rfl)
theorem dX4_outputByte_17 : decode cX4_outputByte 17 = .ok (.ifCond .eq 12, 3) := dk_153 0 12 (dk_at dksX4_outputByte_0 17 rfl rfl)
theorem dX4_outputByte_20 : decode cX4_outputByte 20 = .ok (.aload_n 0, 1) := dk_42 (dk_at dksX4_outputByte_0 20 rfl rfl)
theorem dX4_outputByte_21 : decode cX4_outputByte 21 = .ok (.getfield 71, 3) := dk_180 0 71 (dk_at dksX4_outputByte_0 21 rfl rfl)
theorem dX4_outputByte_24 : decode cX4_outputByte 24 = .ok (.iload_n 1, 1) := dk_27 (dk_at dksX4_outputByte_1 0 rfl rfl)
theorem dX4_outputByte_25 : decode cX4_outputByte 25 = .ok (.iaload, 1) := dk_46 (dk_at dksX4_outputByte_1 1 rfl rfl)
theorem dX4_outputByte_26 : decode cX4_outputByte 26 = .ok (.goto 4, 3) := dk_167 0 4 (dk_at dksX4_outputByte_1 2 rfl rfl)
theorem dX4_outputByte_29 : decode cX4_outputByte 29 = .ok (.iconst 0, 1) := dk_3 (dk_at dksX4_outputByte_1 5 rfl rfl)
theorem dX4_outputByte_30 : decode cX4_outputByte 30 = .ok (.ireturn, 1) := dk_172 (dk_at dksX4_outputByte_1 6 rfl rfl)
theorem q189 : (Jvm.Cond.initialized "CsrCalculatorModel") ∈ lw_all := lw_g (lw_at lw_m1 10 rfl) rfl
theorem q1282 : (Jvm.Cond.selects "CsrCalculatorModel" ({ cls := "java/lang/Object", name := "getClass", desc := "()Ljava/lang/Class;" } : Jvm.MethodName) ({ cls := "java/lang/Object", name := "getClass", desc := "()Ljava/lang/Class;" } : Jvm.MethodName)) ∈ lw_all := lw_g (lw_at lw_m5 143 rfl) rfl
theorem q2152 : (Jvm.Cond.instantiable "CsrCalculatorModel" (46 : Nat)) ∈ lw_all := lw_g (lw_at lw_m9 53 rfl) rfl
theorem q2154 : (Jvm.Cond.instanceMethod ({ cls := "CsrCalculatorModel", name := "<init>", desc := "()V" } : Jvm.MethodName)) ∈ lw_all := lw_g (lw_at lw_m9 55 rfl) rfl
theorem q2155 : (Jvm.Cond.code ({ cls := "CsrCalculatorModel", name := "<init>", desc := "()V" } : Jvm.MethodName) prog_23_method_1_code (1 : Nat) (Option.none : Option Jvm.ClassFile.FieldType)) ∈ lw_all := lw_g (lw_at lw_m9 56 rfl) rfl
theorem q2156 : (Jvm.Cond.methodLink "CsrCalculatorModel" (1 : Nat) ({ cls := "java/lang/Object", name := "<init>", desc := "()V" } : Jvm.MethodName)) ∈ lw_all := lw_g (lw_at lw_m9 57 rfl) rfl
theorem q2157 : (Jvm.Cond.methodLink "CsrCalculatorModel" (74 : Nat) ({ cls := "CsrCalculatorModel", name := "begins", desc := "()V" } : Jvm.MethodName)) ∈ lw_all := lw_g (lw_at lw_m9 58 rfl) rfl
theorem q2158 : (Jvm.Cond.privateMethod ({ cls := "CsrCalculatorModel", name := "begins", desc := "()V" } : Jvm.MethodName)) ∈ lw_tbl := lw_at lw_m9 59 rfl
theorem q2159 : (Jvm.Cond.instanceMethod ({ cls := "CsrCalculatorModel", name := "begins", desc := "()V" } : Jvm.MethodName)) ∈ lw_all := lw_g (lw_at lw_m9 60 rfl) rfl
theorem q2160 : (Jvm.Cond.code ({ cls := "CsrCalculatorModel", name := "begins", desc := "()V" } : Jvm.MethodName) prog_23_method_29_code (2 : Nat) (Option.none : Option Jvm.ClassFile.FieldType)) ∈ lw_all := lw_g (lw_at lw_m9 61 rfl) rfl
theorem q2161 : (Jvm.Cond.methodLink "CsrCalculatorModel" (156 : Nat) ({ cls := "CsrCalculatorModel", name := "clears", desc := "([IIII)V" } : Jvm.MethodName)) ∈ lw_all := lw_g (lw_at lw_m9 62 rfl) rfl
theorem q2162 : (Jvm.Cond.static ({ cls := "CsrCalculatorModel", name := "clears", desc := "([IIII)V" } : Jvm.MethodName)) ∈ lw_all := lw_g (lw_at lw_m9 63 rfl) rfl
theorem q2163 : (Jvm.Cond.code ({ cls := "CsrCalculatorModel", name := "clears", desc := "([IIII)V" } : Jvm.MethodName) prog_23_method_38_code (5 : Nat) (Option.none : Option Jvm.ClassFile.FieldType)) ∈ lw_all := lw_g (lw_at lw_m9 64 rfl) rfl
theorem q2164 : (Jvm.Cond.fieldLink "CsrCalculatorModel" (77 : Nat) "CsrCalculatorModel" "code" "I") ∈ lw_all := lw_g (lw_at lw_m9 65 rfl) rfl
theorem q2165 : (Jvm.Cond.fieldLink "CsrCalculatorModel" (7 : Nat) "CsrCalculatorModel" "buffer" "[I") ∈ lw_all := lw_g (lw_at lw_m9 66 rfl) rfl
theorem q2166 : (Jvm.Cond.fieldLink "CsrCalculatorModel" (84 : Nat) "CsrCalculatorModel" "filled" "I") ∈ lw_all := lw_g (lw_at lw_m9 67 rfl) rfl
theorem q2167 : (Jvm.Cond.fieldLink "CsrCalculatorModel" (102 : Nat) "CsrCalculatorModel" "bytes" "I") ∈ lw_all := lw_g (lw_at lw_m9 68 rfl) rfl
theorem q2168 : (Jvm.Cond.fieldLink "CsrCalculatorModel" (99 : Nat) "CsrCalculatorModel" "at" "I") ∈ lw_all := lw_g (lw_at lw_m9 69 rfl) rfl
theorem q2169 : (Jvm.Cond.fieldLink "CsrCalculatorModel" (109 : Nat) "CsrCalculatorModel" "place0" "I") ∈ lw_all := lw_g (lw_at lw_m9 70 rfl) rfl
theorem q2170 : (Jvm.Cond.fieldLink "CsrCalculatorModel" (119 : Nat) "CsrCalculatorModel" "sort" "I") ∈ lw_all := lw_g (lw_at lw_m9 71 rfl) rfl
theorem q2171 : (Jvm.Cond.fieldLink "CsrCalculatorModel" (116 : Nat) "CsrCalculatorModel" "value0" "I") ∈ lw_all := lw_g (lw_at lw_m9 72 rfl) rfl
theorem q2172 : (Jvm.Cond.fieldLink "CsrCalculatorModel" (129 : Nat) "CsrCalculatorModel" "error" "I") ∈ lw_all := lw_g (lw_at lw_m9 73 rfl) rfl
theorem q2173 : (Jvm.Cond.fieldLink "CsrCalculatorModel" (13 : Nat) "CsrCalculatorModel" "errorPlace" "I") ∈ lw_all := lw_g (lw_at lw_m9 74 rfl) rfl
theorem q2174 : (Jvm.Cond.fieldLink "CsrCalculatorModel" (153 : Nat) "CsrCalculatorModel" "toldError" "I") ∈ lw_all := lw_g (lw_at lw_m9 75 rfl) rfl
theorem q2175 : (Jvm.Cond.fieldLink "CsrCalculatorModel" (17 : Nat) "CsrCalculatorModel" "toldPlace" "I") ∈ lw_all := lw_g (lw_at lw_m9 76 rfl) rfl
theorem q2176 : (Jvm.Cond.fieldLink "CsrCalculatorModel" (112 : Nat) "CsrCalculatorModel" "word" "J") ∈ lw_all := lw_g (lw_at lw_m9 77 rfl) rfl
theorem q2177 : (Jvm.Cond.fieldLink "CsrCalculatorModel" (20 : Nat) "CsrCalculatorModel" "s" "[I") ∈ lw_all := lw_g (lw_at lw_m9 78 rfl) rfl
theorem q2178 : (Jvm.Cond.fieldLink "CsrCalculatorModel" (23 : Nat) "CsrCalculatorModel" "saved" "[I") ∈ lw_all := lw_g (lw_at lw_m9 79 rfl) rfl
theorem q2179 : (Jvm.Cond.fieldLink "CsrCalculatorModel" (26 : Nat) "CsrCalculatorModel" "aside" "[I") ∈ lw_all := lw_g (lw_at lw_m9 80 rfl) rfl
theorem q2180 : (Jvm.Cond.fieldLink "CsrCalculatorModel" (29 : Nat) "CsrCalculatorModel" "past" "[I") ∈ lw_all := lw_g (lw_at lw_m9 81 rfl) rfl
theorem q2181 : (Jvm.Cond.fieldLink "CsrCalculatorModel" (164 : Nat) "CsrCalculatorModel" "undos" "I") ∈ lw_all := lw_g (lw_at lw_m9 82 rfl) rfl
theorem q2182 : (Jvm.Cond.fieldLink "CsrCalculatorModel" (170 : Nat) "CsrCalculatorModel" "hasSaved" "Z") ∈ lw_all := lw_g (lw_at lw_m9 83 rfl) rfl
theorem q2183 : (Jvm.Cond.fieldLink "CsrCalculatorModel" (32 : Nat) "CsrCalculatorModel" "stack" "[I") ∈ lw_all := lw_g (lw_at lw_m9 84 rfl) rfl
theorem q2184 : (Jvm.Cond.fieldLink "CsrCalculatorModel" (35 : Nat) "CsrCalculatorModel" "result" "[I") ∈ lw_all := lw_g (lw_at lw_m9 85 rfl) rfl
theorem q2185 : (Jvm.Cond.fieldLink "CsrCalculatorModel" (185 : Nat) "CsrCalculatorModel" "high" "I") ∈ lw_all := lw_g (lw_at lw_m9 86 rfl) rfl
theorem q2186 : (Jvm.Cond.fieldLink "CsrCalculatorModel" (210 : Nat) "CsrCalculatorModel" "workNow" "I") ∈ lw_all := lw_g (lw_at lw_m9 87 rfl) rfl
theorem q2187 : (Jvm.Cond.fieldLink "CsrCalculatorModel" (38 : Nat) "CsrCalculatorModel" "step" "[I") ∈ lw_all := lw_g (lw_at lw_m9 88 rfl) rfl
theorem q2188 : (Jvm.Cond.fieldLink "CsrCalculatorModel" (41 : Nat) "CsrCalculatorModel" "amount" "[I") ∈ lw_all := lw_g (lw_at lw_m9 89 rfl) rfl
theorem q2189 : (Jvm.Cond.fieldLink "CsrCalculatorModel" (44 : Nat) "CsrCalculatorModel" "waiting" "[I") ∈ lw_all := lw_g (lw_at lw_m9 90 rfl) rfl
theorem q2190 : (Jvm.Cond.fieldLink "CsrCalculatorModel" (47 : Nat) "CsrCalculatorModel" "waitingAmount" "[I") ∈ lw_all := lw_g (lw_at lw_m9 91 rfl) rfl
theorem q2191 : (Jvm.Cond.fieldLink "CsrCalculatorModel" (244 : Nat) "CsrCalculatorModel" "steps" "I") ∈ lw_all := lw_g (lw_at lw_m9 92 rfl) rfl
theorem q2192 : (Jvm.Cond.fieldLink "CsrCalculatorModel" (247 : Nat) "CsrCalculatorModel" "waits" "I") ∈ lw_all := lw_g (lw_at lw_m9 93 rfl) rfl
theorem q2193 : (Jvm.Cond.fieldLink "CsrCalculatorModel" (254 : Nat) "CsrCalculatorModel" "level" "I") ∈ lw_all := lw_g (lw_at lw_m9 94 rfl) rfl
theorem q2194 : (Jvm.Cond.fieldLink "CsrCalculatorModel" (269 : Nat) "CsrCalculatorModel" "isLoose" "Z") ∈ lw_all := lw_g (lw_at lw_m9 95 rfl) rfl
theorem q2195 : (Jvm.Cond.fieldLink "CsrCalculatorModel" (398 : Nat) "CsrCalculatorModel" "lastGood" "Z") ∈ lw_all := lw_g (lw_at lw_m9 96 rfl) rfl
theorem q2196 : (Jvm.Cond.fieldLink "CsrCalculatorModel" (50 : Nat) "CsrCalculatorModel" "script" "[I") ∈ lw_all := lw_g (lw_at lw_m9 97 rfl) rfl
theorem q2197 : (Jvm.Cond.fieldLink "CsrCalculatorModel" (53 : Nat) "CsrCalculatorModel" "first" "[I") ∈ lw_all := lw_g (lw_at lw_m9 98 rfl) rfl
theorem q2198 : (Jvm.Cond.fieldLink "CsrCalculatorModel" (56 : Nat) "CsrCalculatorModel" "second" "[I") ∈ lw_all := lw_g (lw_at lw_m9 99 rfl) rfl
theorem q2199 : (Jvm.Cond.fieldLink "CsrCalculatorModel" (59 : Nat) "CsrCalculatorModel" "third" "[I") ∈ lw_all := lw_g (lw_at lw_m9 100 rfl) rfl
theorem q2200 : (Jvm.Cond.fieldLink "CsrCalculatorModel" (62 : Nat) "CsrCalculatorModel" "fourth" "[I") ∈ lw_all := lw_g (lw_at lw_m9 101 rfl) rfl
theorem q2201 : (Jvm.Cond.fieldLink "CsrCalculatorModel" (65 : Nat) "CsrCalculatorModel" "begun" "[I") ∈ lw_all := lw_g (lw_at lw_m9 102 rfl) rfl
theorem q2202 : (Jvm.Cond.fieldLink "CsrCalculatorModel" (68 : Nat) "CsrCalculatorModel" "laps" "[I") ∈ lw_all := lw_g (lw_at lw_m9 103 rfl) rfl
theorem q2203 : (Jvm.Cond.fieldLink "CsrCalculatorModel" (562 : Nat) "CsrCalculatorModel" "scripted" "I") ∈ lw_all := lw_g (lw_at lw_m9 104 rfl) rfl
theorem q2204 : (Jvm.Cond.fieldLink "CsrCalculatorModel" (559 : Nat) "CsrCalculatorModel" "wordsHad" "I") ∈ lw_all := lw_g (lw_at lw_m9 105 rfl) rfl
theorem q2205 : (Jvm.Cond.fieldLink "CsrCalculatorModel" (556 : Nat) "CsrCalculatorModel" "opened" "I") ∈ lw_all := lw_g (lw_at lw_m9 106 rfl) rfl
theorem q2206 : (Jvm.Cond.fieldLink "CsrCalculatorModel" (419 : Nat) "CsrCalculatorModel" "lastDone" "I") ∈ lw_all := lw_g (lw_at lw_m9 107 rfl) rfl
theorem q2207 : (Jvm.Cond.fieldLink "CsrCalculatorModel" (71 : Nat) "CsrCalculatorModel" "page" "[I") ∈ lw_all := lw_g (lw_at lw_m9 108 rfl) rfl
theorem q2208 : (Jvm.Cond.fieldLink "CsrCalculatorModel" (586 : Nat) "CsrCalculatorModel" "printed" "I") ∈ lw_all := lw_g (lw_at lw_m9 109 rfl) rfl
theorem q2209 : (Jvm.Cond.lays "CsrCalculatorModel" "CsrCalculatorModel" "code" "I") ∈ lw_all := lw_g (lw_at lw_m9 110 rfl) rfl
theorem q2210 : (Jvm.Cond.soleField "CsrCalculatorModel" "code") ∈ lw_all := lw_g (lw_at lw_m9 111 rfl) rfl
theorem q2211 : (Jvm.Cond.laysFinal "CsrCalculatorModel" "CsrCalculatorModel" "buffer" "[I") ∈ lw_all := lw_g (lw_at lw_m9 112 rfl) rfl
theorem q2212 : (Jvm.Cond.soleField "CsrCalculatorModel" "buffer") ∈ lw_all := lw_g (lw_at lw_m9 113 rfl) rfl
theorem q2213 : (Jvm.Cond.lays "CsrCalculatorModel" "CsrCalculatorModel" "filled" "I") ∈ lw_all := lw_g (lw_at lw_m9 114 rfl) rfl
theorem q2214 : (Jvm.Cond.soleField "CsrCalculatorModel" "filled") ∈ lw_all := lw_g (lw_at lw_m9 115 rfl) rfl
theorem q2215 : (Jvm.Cond.lays "CsrCalculatorModel" "CsrCalculatorModel" "bytes" "I") ∈ lw_all := lw_g (lw_at lw_m9 116 rfl) rfl
theorem q2216 : (Jvm.Cond.soleField "CsrCalculatorModel" "bytes") ∈ lw_all := lw_g (lw_at lw_m9 117 rfl) rfl
theorem q2217 : (Jvm.Cond.lays "CsrCalculatorModel" "CsrCalculatorModel" "at" "I") ∈ lw_all := lw_g (lw_at lw_m9 118 rfl) rfl
theorem q2218 : (Jvm.Cond.soleField "CsrCalculatorModel" "at") ∈ lw_all := lw_g (lw_at lw_m9 119 rfl) rfl
theorem q2219 : (Jvm.Cond.lays "CsrCalculatorModel" "CsrCalculatorModel" "place0" "I") ∈ lw_all := lw_g (lw_at lw_m9 120 rfl) rfl
theorem q2220 : (Jvm.Cond.soleField "CsrCalculatorModel" "place0") ∈ lw_all := lw_g (lw_at lw_m9 121 rfl) rfl
theorem q2221 : (Jvm.Cond.lays "CsrCalculatorModel" "CsrCalculatorModel" "sort" "I") ∈ lw_all := lw_g (lw_at lw_m9 122 rfl) rfl
theorem q2222 : (Jvm.Cond.soleField "CsrCalculatorModel" "sort") ∈ lw_all := lw_g (lw_at lw_m9 123 rfl) rfl
theorem q2223 : (Jvm.Cond.lays "CsrCalculatorModel" "CsrCalculatorModel" "value0" "I") ∈ lw_all := lw_g (lw_at lw_m9 124 rfl) rfl
theorem q2224 : (Jvm.Cond.soleField "CsrCalculatorModel" "value0") ∈ lw_all := lw_g (lw_at lw_m9 125 rfl) rfl
theorem q2225 : (Jvm.Cond.lays "CsrCalculatorModel" "CsrCalculatorModel" "error" "I") ∈ lw_all := lw_g (lw_at lw_m9 126 rfl) rfl
theorem q2226 : (Jvm.Cond.soleField "CsrCalculatorModel" "error") ∈ lw_all := lw_g (lw_at lw_m9 127 rfl) rfl
theorem q2227 : (Jvm.Cond.lays "CsrCalculatorModel" "CsrCalculatorModel" "errorPlace" "I") ∈ lw_all := lw_g (lw_at lw_m9 128 rfl) rfl
theorem q2228 : (Jvm.Cond.soleField "CsrCalculatorModel" "errorPlace") ∈ lw_all := lw_g (lw_at lw_m9 129 rfl) rfl
theorem q2229 : (Jvm.Cond.lays "CsrCalculatorModel" "CsrCalculatorModel" "toldError" "I") ∈ lw_all := lw_g (lw_at lw_m9 130 rfl) rfl
theorem q2230 : (Jvm.Cond.soleField "CsrCalculatorModel" "toldError") ∈ lw_all := lw_g (lw_at lw_m9 131 rfl) rfl
theorem q2231 : (Jvm.Cond.lays "CsrCalculatorModel" "CsrCalculatorModel" "toldPlace" "I") ∈ lw_all := lw_g (lw_at lw_m9 132 rfl) rfl
theorem q2232 : (Jvm.Cond.soleField "CsrCalculatorModel" "toldPlace") ∈ lw_all := lw_g (lw_at lw_m9 133 rfl) rfl
theorem q2233 : (Jvm.Cond.lays "CsrCalculatorModel" "CsrCalculatorModel" "word" "J") ∈ lw_all := lw_g (lw_at lw_m9 134 rfl) rfl
theorem q2234 : (Jvm.Cond.soleField "CsrCalculatorModel" "word") ∈ lw_all := lw_g (lw_at lw_m9 135 rfl) rfl
theorem q2235 : (Jvm.Cond.laysFinal "CsrCalculatorModel" "CsrCalculatorModel" "s" "[I") ∈ lw_all := lw_g (lw_at lw_m9 136 rfl) rfl
theorem q2236 : (Jvm.Cond.soleField "CsrCalculatorModel" "s") ∈ lw_all := lw_g (lw_at lw_m9 137 rfl) rfl
theorem q2237 : (Jvm.Cond.laysFinal "CsrCalculatorModel" "CsrCalculatorModel" "saved" "[I") ∈ lw_all := lw_g (lw_at lw_m9 138 rfl) rfl
theorem q2238 : (Jvm.Cond.soleField "CsrCalculatorModel" "saved") ∈ lw_all := lw_g (lw_at lw_m9 139 rfl) rfl
theorem q2239 : (Jvm.Cond.laysFinal "CsrCalculatorModel" "CsrCalculatorModel" "aside" "[I") ∈ lw_all := lw_g (lw_at lw_m9 140 rfl) rfl
theorem q2240 : (Jvm.Cond.soleField "CsrCalculatorModel" "aside") ∈ lw_all := lw_g (lw_at lw_m9 141 rfl) rfl
theorem q2241 : (Jvm.Cond.laysFinal "CsrCalculatorModel" "CsrCalculatorModel" "past" "[I") ∈ lw_all := lw_g (lw_at lw_m9 142 rfl) rfl
theorem q2242 : (Jvm.Cond.soleField "CsrCalculatorModel" "past") ∈ lw_all := lw_g (lw_at lw_m9 143 rfl) rfl
theorem q2243 : (Jvm.Cond.lays "CsrCalculatorModel" "CsrCalculatorModel" "undos" "I") ∈ lw_all := lw_g (lw_at lw_m9 144 rfl) rfl
theorem q2244 : (Jvm.Cond.soleField "CsrCalculatorModel" "undos") ∈ lw_all := lw_g (lw_at lw_m9 145 rfl) rfl
theorem q2245 : (Jvm.Cond.lays "CsrCalculatorModel" "CsrCalculatorModel" "hasSaved" "Z") ∈ lw_all := lw_g (lw_at lw_m9 146 rfl) rfl
theorem q2246 : (Jvm.Cond.soleField "CsrCalculatorModel" "hasSaved") ∈ lw_all := lw_g (lw_at lw_m9 147 rfl) rfl
theorem q2247 : (Jvm.Cond.laysFinal "CsrCalculatorModel" "CsrCalculatorModel" "stack" "[I") ∈ lw_all := lw_g (lw_at lw_m9 148 rfl) rfl
theorem q2248 : (Jvm.Cond.soleField "CsrCalculatorModel" "stack") ∈ lw_all := lw_g (lw_at lw_m9 149 rfl) rfl
theorem q2249 : (Jvm.Cond.laysFinal "CsrCalculatorModel" "CsrCalculatorModel" "result" "[I") ∈ lw_all := lw_g (lw_at lw_m9 150 rfl) rfl
theorem q2250 : (Jvm.Cond.soleField "CsrCalculatorModel" "result") ∈ lw_all := lw_g (lw_at lw_m9 151 rfl) rfl
theorem q2251 : (Jvm.Cond.lays "CsrCalculatorModel" "CsrCalculatorModel" "high" "I") ∈ lw_all := lw_g (lw_at lw_m9 152 rfl) rfl
theorem q2252 : (Jvm.Cond.soleField "CsrCalculatorModel" "high") ∈ lw_all := lw_g (lw_at lw_m9 153 rfl) rfl
theorem q2253 : (Jvm.Cond.lays "CsrCalculatorModel" "CsrCalculatorModel" "workNow" "I") ∈ lw_all := lw_g (lw_at lw_m9 154 rfl) rfl
theorem q2254 : (Jvm.Cond.soleField "CsrCalculatorModel" "workNow") ∈ lw_all := lw_g (lw_at lw_m9 155 rfl) rfl
theorem q2255 : (Jvm.Cond.laysFinal "CsrCalculatorModel" "CsrCalculatorModel" "step" "[I") ∈ lw_all := lw_g (lw_at lw_m9 156 rfl) rfl
theorem q2256 : (Jvm.Cond.soleField "CsrCalculatorModel" "step") ∈ lw_all := lw_g (lw_at lw_m9 157 rfl) rfl
theorem q2257 : (Jvm.Cond.laysFinal "CsrCalculatorModel" "CsrCalculatorModel" "amount" "[I") ∈ lw_all := lw_g (lw_at lw_m9 158 rfl) rfl
theorem q2258 : (Jvm.Cond.soleField "CsrCalculatorModel" "amount") ∈ lw_all := lw_g (lw_at lw_m9 159 rfl) rfl
theorem q2259 : (Jvm.Cond.laysFinal "CsrCalculatorModel" "CsrCalculatorModel" "waiting" "[I") ∈ lw_all := lw_g (lw_at lw_m9 160 rfl) rfl
theorem q2260 : (Jvm.Cond.soleField "CsrCalculatorModel" "waiting") ∈ lw_all := lw_g (lw_at lw_m9 161 rfl) rfl
theorem q2261 : (Jvm.Cond.laysFinal "CsrCalculatorModel" "CsrCalculatorModel" "waitingAmount" "[I") ∈ lw_all := lw_g (lw_at lw_m9 162 rfl) rfl
theorem q2262 : (Jvm.Cond.soleField "CsrCalculatorModel" "waitingAmount") ∈ lw_all := lw_g (lw_at lw_m9 163 rfl) rfl
theorem q2263 : (Jvm.Cond.lays "CsrCalculatorModel" "CsrCalculatorModel" "steps" "I") ∈ lw_all := lw_g (lw_at lw_m9 164 rfl) rfl
theorem q2264 : (Jvm.Cond.soleField "CsrCalculatorModel" "steps") ∈ lw_all := lw_g (lw_at lw_m9 165 rfl) rfl
theorem q2265 : (Jvm.Cond.lays "CsrCalculatorModel" "CsrCalculatorModel" "waits" "I") ∈ lw_all := lw_g (lw_at lw_m9 166 rfl) rfl
theorem q2266 : (Jvm.Cond.soleField "CsrCalculatorModel" "waits") ∈ lw_all := lw_g (lw_at lw_m9 167 rfl) rfl
theorem q2267 : (Jvm.Cond.lays "CsrCalculatorModel" "CsrCalculatorModel" "level" "I") ∈ lw_all := lw_g (lw_at lw_m9 168 rfl) rfl
theorem q2268 : (Jvm.Cond.soleField "CsrCalculatorModel" "level") ∈ lw_all := lw_g (lw_at lw_m9 169 rfl) rfl
theorem q2269 : (Jvm.Cond.lays "CsrCalculatorModel" "CsrCalculatorModel" "atLevel" "I") ∈ lw_all := lw_g (lw_at lw_m9 170 rfl) rfl
theorem q2270 : (Jvm.Cond.soleField "CsrCalculatorModel" "atLevel") ∈ lw_all := lw_g (lw_at lw_m9 171 rfl) rfl
theorem q2271 : (Jvm.Cond.lays "CsrCalculatorModel" "CsrCalculatorModel" "isLoose" "Z") ∈ lw_all := lw_g (lw_at lw_m9 172 rfl) rfl
theorem q2272 : (Jvm.Cond.soleField "CsrCalculatorModel" "isLoose") ∈ lw_all := lw_g (lw_at lw_m9 173 rfl) rfl
theorem q2273 : (Jvm.Cond.lays "CsrCalculatorModel" "CsrCalculatorModel" "lastGood" "Z") ∈ lw_all := lw_g (lw_at lw_m9 174 rfl) rfl
theorem q2274 : (Jvm.Cond.soleField "CsrCalculatorModel" "lastGood") ∈ lw_all := lw_g (lw_at lw_m9 175 rfl) rfl
theorem q2275 : (Jvm.Cond.laysFinal "CsrCalculatorModel" "CsrCalculatorModel" "script" "[I") ∈ lw_all := lw_g (lw_at lw_m9 176 rfl) rfl
theorem q2276 : (Jvm.Cond.soleField "CsrCalculatorModel" "script") ∈ lw_all := lw_g (lw_at lw_m9 177 rfl) rfl
theorem q2277 : (Jvm.Cond.laysFinal "CsrCalculatorModel" "CsrCalculatorModel" "first" "[I") ∈ lw_all := lw_g (lw_at lw_m9 178 rfl) rfl
theorem q2278 : (Jvm.Cond.soleField "CsrCalculatorModel" "first") ∈ lw_all := lw_g (lw_at lw_m9 179 rfl) rfl
theorem q2279 : (Jvm.Cond.laysFinal "CsrCalculatorModel" "CsrCalculatorModel" "second" "[I") ∈ lw_all := lw_g (lw_at lw_m9 180 rfl) rfl
theorem q2280 : (Jvm.Cond.soleField "CsrCalculatorModel" "second") ∈ lw_all := lw_g (lw_at lw_m9 181 rfl) rfl
theorem q2281 : (Jvm.Cond.laysFinal "CsrCalculatorModel" "CsrCalculatorModel" "third" "[I") ∈ lw_all := lw_g (lw_at lw_m9 182 rfl) rfl
theorem q2282 : (Jvm.Cond.soleField "CsrCalculatorModel" "third") ∈ lw_all := lw_g (lw_at lw_m9 183 rfl) rfl
theorem q2283 : (Jvm.Cond.laysFinal "CsrCalculatorModel" "CsrCalculatorModel" "fourth" "[I") ∈ lw_all := lw_g (lw_at lw_m9 184 rfl) rfl
theorem q2284 : (Jvm.Cond.soleField "CsrCalculatorModel" "fourth") ∈ lw_all := lw_g (lw_at lw_m9 185 rfl) rfl
theorem q2285 : (Jvm.Cond.laysFinal "CsrCalculatorModel" "CsrCalculatorModel" "begun" "[I") ∈ lw_all := lw_g (lw_at lw_m9 186 rfl) rfl
theorem q2286 : (Jvm.Cond.soleField "CsrCalculatorModel" "begun") ∈ lw_all := lw_g (lw_at lw_m9 187 rfl) rfl
theorem q2287 : (Jvm.Cond.laysFinal "CsrCalculatorModel" "CsrCalculatorModel" "laps" "[I") ∈ lw_all := lw_g (lw_at lw_m9 188 rfl) rfl
theorem q2288 : (Jvm.Cond.soleField "CsrCalculatorModel" "laps") ∈ lw_all := lw_g (lw_at lw_m9 189 rfl) rfl
theorem q2289 : (Jvm.Cond.lays "CsrCalculatorModel" "CsrCalculatorModel" "scripted" "I") ∈ lw_all := lw_g (lw_at lw_m9 190 rfl) rfl
theorem q2290 : (Jvm.Cond.soleField "CsrCalculatorModel" "scripted") ∈ lw_all := lw_g (lw_at lw_m9 191 rfl) rfl
theorem q2291 : (Jvm.Cond.lays "CsrCalculatorModel" "CsrCalculatorModel" "wordsHad" "I") ∈ lw_all := lw_g (lw_at lw_m9 192 rfl) rfl
theorem q2292 : (Jvm.Cond.soleField "CsrCalculatorModel" "wordsHad") ∈ lw_all := lw_g (lw_at lw_m9 193 rfl) rfl
theorem q2293 : (Jvm.Cond.lays "CsrCalculatorModel" "CsrCalculatorModel" "opened" "I") ∈ lw_all := lw_g (lw_at lw_m9 194 rfl) rfl
theorem q2294 : (Jvm.Cond.soleField "CsrCalculatorModel" "opened") ∈ lw_all := lw_g (lw_at lw_m9 195 rfl) rfl
theorem q2295 : (Jvm.Cond.lays "CsrCalculatorModel" "CsrCalculatorModel" "lastDone" "I") ∈ lw_all := lw_g (lw_at lw_m9 196 rfl) rfl
theorem q2296 : (Jvm.Cond.soleField "CsrCalculatorModel" "lastDone") ∈ lw_all := lw_g (lw_at lw_m9 197 rfl) rfl
theorem q2297 : (Jvm.Cond.laysFinal "CsrCalculatorModel" "CsrCalculatorModel" "page" "[I") ∈ lw_all := lw_g (lw_at lw_m9 198 rfl) rfl
theorem q2298 : (Jvm.Cond.soleField "CsrCalculatorModel" "page") ∈ lw_all := lw_g (lw_at lw_m9 199 rfl) rfl
theorem q2299 : (Jvm.Cond.lays "CsrCalculatorModel" "CsrCalculatorModel" "printed" "I") ∈ lw_all := lw_g (lw_at lw_m9 200 rfl) rfl
theorem q2300 : (Jvm.Cond.soleField "CsrCalculatorModel" "printed") ∈ lw_all := lw_g (lw_at lw_m9 201 rfl) rfl
theorem q2301 : (Jvm.Cond.superclass "CsrCalculatorModel" "java/lang/Object") ∈ lw_all := lw_g (lw_at lw_m9 202 rfl) rfl
theorem q2303 : (Jvm.Cond.instanceMethod ({ cls := "CsrCalculatorModel", name := "thrown", desc := "()I" } : Jvm.MethodName)) ∈ lw_all := lw_g (lw_at lw_m9 204 rfl) rfl
theorem q2304 : (Jvm.Cond.selects "CsrCalculatorModel" ({ cls := "CsrCalculatorModel", name := "thrown", desc := "()I" } : Jvm.MethodName) ({ cls := "CsrCalculatorModel", name := "thrown", desc := "()I" } : Jvm.MethodName)) ∈ lw_all := lw_g (lw_at lw_m9 205 rfl) rfl
theorem q2305 : (Jvm.Cond.code ({ cls := "CsrCalculatorModel", name := "thrown", desc := "()I" } : Jvm.MethodName) prog_23_method_2_code (1 : Nat) (Option.some Jvm.ClassFile.FieldType.int)) ∈ lw_all := lw_g (lw_at lw_m9 206 rfl) rfl
theorem q2307 : (Jvm.Cond.instanceMethod ({ cls := "CsrCalculatorModel", name := "feed", desc := "(IIIII)I" } : Jvm.MethodName)) ∈ lw_all := lw_g (lw_at lw_m9 208 rfl) rfl
theorem q2308 : (Jvm.Cond.selects "CsrCalculatorModel" ({ cls := "CsrCalculatorModel", name := "feed", desc := "(IIIII)I" } : Jvm.MethodName) ({ cls := "CsrCalculatorModel", name := "feed", desc := "(IIIII)I" } : Jvm.MethodName)) ∈ lw_all := lw_g (lw_at lw_m9 209 rfl) rfl
theorem q2309 : (Jvm.Cond.code ({ cls := "CsrCalculatorModel", name := "feed", desc := "(IIIII)I" } : Jvm.MethodName) prog_23_method_9_code (6 : Nat) (Option.some Jvm.ClassFile.FieldType.int)) ∈ lw_all := lw_g (lw_at lw_m9 210 rfl) rfl
theorem q2310 : (Jvm.Cond.methodLink "CsrCalculatorModel" (87 : Nat) ({ cls := "CsrCalculatorModel", name := "goes", desc := "(Z)Z" } : Jvm.MethodName)) ∈ lw_all := lw_g (lw_at lw_m9 211 rfl) rfl
theorem q2311 : (Jvm.Cond.privateMethod ({ cls := "CsrCalculatorModel", name := "goes", desc := "(Z)Z" } : Jvm.MethodName)) ∈ lw_tbl := lw_at lw_m9 212 rfl
theorem q2312 : (Jvm.Cond.instanceMethod ({ cls := "CsrCalculatorModel", name := "goes", desc := "(Z)Z" } : Jvm.MethodName)) ∈ lw_all := lw_g (lw_at lw_m9 213 rfl) rfl
theorem q2313 : (Jvm.Cond.code ({ cls := "CsrCalculatorModel", name := "goes", desc := "(Z)Z" } : Jvm.MethodName) prog_23_method_6_code (2 : Nat) (Option.some Jvm.ClassFile.FieldType.boolean)) ∈ lw_all := lw_g (lw_at lw_m9 214 rfl) rfl
theorem q2314 : (Jvm.Cond.methodLink "CsrCalculatorModel" (80 : Nat) ({ cls := "CsrCalculatorModel", name := "truth", desc := "(Z)I" } : Jvm.MethodName)) ∈ lw_all := lw_g (lw_at lw_m9 215 rfl) rfl
theorem q2315 : (Jvm.Cond.static ({ cls := "CsrCalculatorModel", name := "truth", desc := "(Z)I" } : Jvm.MethodName)) ∈ lw_all := lw_g (lw_at lw_m9 216 rfl) rfl
theorem q2316 : (Jvm.Cond.code ({ cls := "CsrCalculatorModel", name := "truth", desc := "(Z)I" } : Jvm.MethodName) prog_23_method_4_code (1 : Nat) (Option.some Jvm.ClassFile.FieldType.int)) ∈ lw_all := lw_g (lw_at lw_m9 217 rfl) rfl
theorem q2317 : (Jvm.Cond.methodLink "CsrCalculatorModel" (91 : Nat) ({ cls := "CsrCalculatorModel", name := "four", desc := "(I)V" } : Jvm.MethodName)) ∈ lw_all := lw_g (lw_at lw_m9 218 rfl) rfl
theorem q2318 : (Jvm.Cond.privateMethod ({ cls := "CsrCalculatorModel", name := "four", desc := "(I)V" } : Jvm.MethodName)) ∈ lw_tbl := lw_at lw_m9 219 rfl
theorem q2319 : (Jvm.Cond.instanceMethod ({ cls := "CsrCalculatorModel", name := "four", desc := "(I)V" } : Jvm.MethodName)) ∈ lw_all := lw_g (lw_at lw_m9 220 rfl) rfl
theorem q2320 : (Jvm.Cond.code ({ cls := "CsrCalculatorModel", name := "four", desc := "(I)V" } : Jvm.MethodName) prog_23_method_10_code (3 : Nat) (Option.none : Option Jvm.ClassFile.FieldType)) ∈ lw_all := lw_g (lw_at lw_m9 221 rfl) rfl
theorem q2322 : (Jvm.Cond.instanceMethod ({ cls := "CsrCalculatorModel", name := "truncate", desc := "(I)I" } : Jvm.MethodName)) ∈ lw_all := lw_g (lw_at lw_m9 223 rfl) rfl
theorem q2323 : (Jvm.Cond.selects "CsrCalculatorModel" ({ cls := "CsrCalculatorModel", name := "truncate", desc := "(I)I" } : Jvm.MethodName) ({ cls := "CsrCalculatorModel", name := "truncate", desc := "(I)I" } : Jvm.MethodName)) ∈ lw_all := lw_g (lw_at lw_m9 224 rfl) rfl
theorem q2324 : (Jvm.Cond.code ({ cls := "CsrCalculatorModel", name := "truncate", desc := "(I)I" } : Jvm.MethodName) prog_23_method_11_code (2 : Nat) (Option.some Jvm.ClassFile.FieldType.int)) ∈ lw_all := lw_g (lw_at lw_m9 225 rfl) rfl
theorem q2325 : (Jvm.Cond.methodLink "CsrCalculatorModel" (95 : Nat) ({ cls := "CsrCalculatorModel", name := "isIn", desc := "(JJJ)Z" } : Jvm.MethodName)) ∈ lw_all := lw_g (lw_at lw_m9 226 rfl) rfl
theorem q2326 : (Jvm.Cond.static ({ cls := "CsrCalculatorModel", name := "isIn", desc := "(JJJ)Z" } : Jvm.MethodName)) ∈ lw_all := lw_g (lw_at lw_m9 227 rfl) rfl
theorem q2327 : (Jvm.Cond.code ({ cls := "CsrCalculatorModel", name := "isIn", desc := "(JJJ)Z" } : Jvm.MethodName) prog_23_method_3_code (6 : Nat) (Option.some Jvm.ClassFile.FieldType.boolean)) ∈ lw_all := lw_g (lw_at lw_m9 228 rfl) rfl
theorem q2329 : (Jvm.Cond.instanceMethod ({ cls := "CsrCalculatorModel", name := "errorCode", desc := "()I" } : Jvm.MethodName)) ∈ lw_all := lw_g (lw_at lw_m9 230 rfl) rfl
theorem q2330 : (Jvm.Cond.selects "CsrCalculatorModel" ({ cls := "CsrCalculatorModel", name := "errorCode", desc := "()I" } : Jvm.MethodName) ({ cls := "CsrCalculatorModel", name := "errorCode", desc := "()I" } : Jvm.MethodName)) ∈ lw_all := lw_g (lw_at lw_m9 231 rfl) rfl
theorem q2331 : (Jvm.Cond.code ({ cls := "CsrCalculatorModel", name := "errorCode", desc := "()I" } : Jvm.MethodName) prog_23_method_26_code (1 : Nat) (Option.some Jvm.ClassFile.FieldType.int)) ∈ lw_all := lw_g (lw_at lw_m9 232 rfl) rfl
theorem q2333 : (Jvm.Cond.instanceMethod ({ cls := "CsrCalculatorModel", name := "errorOffset", desc := "()I" } : Jvm.MethodName)) ∈ lw_all := lw_g (lw_at lw_m9 234 rfl) rfl
theorem q2334 : (Jvm.Cond.selects "CsrCalculatorModel" ({ cls := "CsrCalculatorModel", name := "errorOffset", desc := "()I" } : Jvm.MethodName) ({ cls := "CsrCalculatorModel", name := "errorOffset", desc := "()I" } : Jvm.MethodName)) ∈ lw_all := lw_g (lw_at lw_m9 235 rfl) rfl
theorem q2335 : (Jvm.Cond.code ({ cls := "CsrCalculatorModel", name := "errorOffset", desc := "()I" } : Jvm.MethodName) prog_23_method_27_code (1 : Nat) (Option.some Jvm.ClassFile.FieldType.int)) ∈ lw_all := lw_g (lw_at lw_m9 236 rfl) rfl
theorem q2337 : (Jvm.Cond.instanceMethod ({ cls := "CsrCalculatorModel", name := "undo", desc := "()I" } : Jvm.MethodName)) ∈ lw_all := lw_g (lw_at lw_m9 238 rfl) rfl
theorem q2338 : (Jvm.Cond.selects "CsrCalculatorModel" ({ cls := "CsrCalculatorModel", name := "undo", desc := "()I" } : Jvm.MethodName) ({ cls := "CsrCalculatorModel", name := "undo", desc := "()I" } : Jvm.MethodName)) ∈ lw_all := lw_g (lw_at lw_m9 239 rfl) rfl
theorem q2339 : (Jvm.Cond.code ({ cls := "CsrCalculatorModel", name := "undo", desc := "()I" } : Jvm.MethodName) prog_23_method_34_code (1 : Nat) (Option.some Jvm.ClassFile.FieldType.int)) ∈ lw_all := lw_g (lw_at lw_m10 0 rfl) rfl
theorem q2340 : (Jvm.Cond.methodLink "CsrCalculatorModel" (160 : Nat) ({ cls := "CsrCalculatorModel", name := "copiesRow", desc := "([II[III)V" } : Jvm.MethodName)) ∈ lw_all := lw_g (lw_at lw_m10 1 rfl) rfl
theorem q2341 : (Jvm.Cond.static ({ cls := "CsrCalculatorModel", name := "copiesRow", desc := "([II[III)V" } : Jvm.MethodName)) ∈ lw_all := lw_g (lw_at lw_m10 2 rfl) rfl
theorem q2342 : (Jvm.Cond.code ({ cls := "CsrCalculatorModel", name := "copiesRow", desc := "([II[III)V" } : Jvm.MethodName) prog_23_method_28_code (6 : Nat) (Option.none : Option Jvm.ClassFile.FieldType)) ∈ lw_all := lw_g (lw_at lw_m10 3 rfl) rfl
theorem q2344 : (Jvm.Cond.instanceMethod ({ cls := "CsrCalculatorModel", name := "saveState", desc := "()I" } : Jvm.MethodName)) ∈ lw_all := lw_g (lw_at lw_m10 5 rfl) rfl
theorem q2345 : (Jvm.Cond.selects "CsrCalculatorModel" ({ cls := "CsrCalculatorModel", name := "saveState", desc := "()I" } : Jvm.MethodName) ({ cls := "CsrCalculatorModel", name := "saveState", desc := "()I" } : Jvm.MethodName)) ∈ lw_all := lw_g (lw_at lw_m10 6 rfl) rfl
theorem q2346 : (Jvm.Cond.code ({ cls := "CsrCalculatorModel", name := "saveState", desc := "()I" } : Jvm.MethodName) prog_23_method_35_code (1 : Nat) (Option.some Jvm.ClassFile.FieldType.int)) ∈ lw_all := lw_g (lw_at lw_m10 7 rfl) rfl
theorem q2347 : (Jvm.Cond.methodLink "CsrCalculatorModel" (174 : Nat) ({ cls := "CsrCalculatorModel", name := "storedInAll", desc := "()I" } : Jvm.MethodName)) ∈ lw_all := lw_g (lw_at lw_m10 8 rfl) rfl
theorem q2348 : (Jvm.Cond.privateMethod ({ cls := "CsrCalculatorModel", name := "storedInAll", desc := "()I" } : Jvm.MethodName)) ∈ lw_tbl := lw_at lw_m10 9 rfl
theorem q2349 : (Jvm.Cond.instanceMethod ({ cls := "CsrCalculatorModel", name := "storedInAll", desc := "()I" } : Jvm.MethodName)) ∈ lw_all := lw_g (lw_at lw_m10 10 rfl) rfl
theorem q2350 : (Jvm.Cond.code ({ cls := "CsrCalculatorModel", name := "storedInAll", desc := "()I" } : Jvm.MethodName) prog_23_method_81_code (3 : Nat) (Option.some Jvm.ClassFile.FieldType.int)) ∈ lw_all := lw_g (lw_at lw_m10 11 rfl) rfl
theorem q2351 : (Jvm.Cond.methodLink "CsrCalculatorModel" (217 : Nat) ({ cls := "CsrCalculatorModel", name := "stored", desc := "(I)I" } : Jvm.MethodName)) ∈ lw_all := lw_g (lw_at lw_m10 12 rfl) rfl
theorem q2352 : (Jvm.Cond.privateMethod ({ cls := "CsrCalculatorModel", name := "stored", desc := "(I)I" } : Jvm.MethodName)) ∈ lw_tbl := lw_at lw_m10 13 rfl
theorem q2353 : (Jvm.Cond.instanceMethod ({ cls := "CsrCalculatorModel", name := "stored", desc := "(I)I" } : Jvm.MethodName)) ∈ lw_all := lw_g (lw_at lw_m10 14 rfl) rfl
theorem q2354 : (Jvm.Cond.code ({ cls := "CsrCalculatorModel", name := "stored", desc := "(I)I" } : Jvm.MethodName) prog_23_method_80_code (2 : Nat) (Option.some Jvm.ClassFile.FieldType.int)) ∈ lw_all := lw_g (lw_at lw_m10 15 rfl) rfl
theorem q2355 : (Jvm.Cond.methodLink "CsrCalculatorModel" (316 : Nat) ({ cls := "CsrCalculatorModel", name := "rows", desc := "(I)I" } : Jvm.MethodName)) ∈ lw_all := lw_g (lw_at lw_m10 16 rfl) rfl
theorem q2356 : (Jvm.Cond.privateMethod ({ cls := "CsrCalculatorModel", name := "rows", desc := "(I)I" } : Jvm.MethodName)) ∈ lw_tbl := lw_at lw_m10 17 rfl
theorem q2357 : (Jvm.Cond.instanceMethod ({ cls := "CsrCalculatorModel", name := "rows", desc := "(I)I" } : Jvm.MethodName)) ∈ lw_all := lw_g (lw_at lw_m10 18 rfl) rfl
theorem q2358 : (Jvm.Cond.code ({ cls := "CsrCalculatorModel", name := "rows", desc := "(I)I" } : Jvm.MethodName) prog_23_method_72_code (2 : Nat) (Option.some Jvm.ClassFile.FieldType.int)) ∈ lw_all := lw_g (lw_at lw_m10 19 rfl) rfl
theorem q2359 : (Jvm.Cond.methodLink "CsrCalculatorModel" (332 : Nat) ({ cls := "CsrCalculatorModel", name := "pointer", desc := "(II)I" } : Jvm.MethodName)) ∈ lw_all := lw_g (lw_at lw_m10 20 rfl) rfl
theorem q2360 : (Jvm.Cond.privateMethod ({ cls := "CsrCalculatorModel", name := "pointer", desc := "(II)I" } : Jvm.MethodName)) ∈ lw_tbl := lw_at lw_m10 21 rfl
theorem q2361 : (Jvm.Cond.instanceMethod ({ cls := "CsrCalculatorModel", name := "pointer", desc := "(II)I" } : Jvm.MethodName)) ∈ lw_all := lw_g (lw_at lw_m10 22 rfl) rfl
theorem q2362 : (Jvm.Cond.code ({ cls := "CsrCalculatorModel", name := "pointer", desc := "(II)I" } : Jvm.MethodName) prog_23_method_79_code (5 : Nat) (Option.some Jvm.ClassFile.FieldType.int)) ∈ lw_all := lw_g (lw_at lw_m10 23 rfl) rfl
theorem q2363 : (Jvm.Cond.methodLink "CsrCalculatorModel" (329 : Nat) ({ cls := "CsrCalculatorModel", name := "lengthOf", desc := "(II)I" } : Jvm.MethodName)) ∈ lw_all := lw_g (lw_at lw_m10 24 rfl) rfl
theorem q2364 : (Jvm.Cond.privateMethod ({ cls := "CsrCalculatorModel", name := "lengthOf", desc := "(II)I" } : Jvm.MethodName)) ∈ lw_tbl := lw_at lw_m10 25 rfl
theorem q2365 : (Jvm.Cond.instanceMethod ({ cls := "CsrCalculatorModel", name := "lengthOf", desc := "(II)I" } : Jvm.MethodName)) ∈ lw_all := lw_g (lw_at lw_m10 26 rfl) rfl
theorem q2366 : (Jvm.Cond.code ({ cls := "CsrCalculatorModel", name := "lengthOf", desc := "(II)I" } : Jvm.MethodName) prog_23_method_78_code (5 : Nat) (Option.some Jvm.ClassFile.FieldType.int)) ∈ lw_all := lw_g (lw_at lw_m10 27 rfl) rfl
theorem q2367 : (Jvm.Cond.methodLink "CsrCalculatorModel" (322 : Nat) ({ cls := "CsrCalculatorModel", name := "columns", desc := "(I)I" } : Jvm.MethodName)) ∈ lw_all := lw_g (lw_at lw_m10 28 rfl) rfl
theorem q2368 : (Jvm.Cond.privateMethod ({ cls := "CsrCalculatorModel", name := "columns", desc := "(I)I" } : Jvm.MethodName)) ∈ lw_tbl := lw_at lw_m10 29 rfl
theorem q2369 : (Jvm.Cond.instanceMethod ({ cls := "CsrCalculatorModel", name := "columns", desc := "(I)I" } : Jvm.MethodName)) ∈ lw_all := lw_g (lw_at lw_m10 30 rfl) rfl
theorem q2370 : (Jvm.Cond.code ({ cls := "CsrCalculatorModel", name := "columns", desc := "(I)I" } : Jvm.MethodName) prog_23_method_73_code (2 : Nat) (Option.some Jvm.ClassFile.FieldType.int)) ∈ lw_all := lw_g (lw_at lw_m10 31 rfl) rfl
theorem q2371 : (Jvm.Cond.methodLink "CsrCalculatorModel" (197 : Nat) ({ cls := "CsrCalculatorModel", name := "flag", desc := "([IIII)I" } : Jvm.MethodName)) ∈ lw_all := lw_g (lw_at lw_m10 32 rfl) rfl
theorem q2372 : (Jvm.Cond.static ({ cls := "CsrCalculatorModel", name := "flag", desc := "([IIII)I" } : Jvm.MethodName)) ∈ lw_all := lw_g (lw_at lw_m10 33 rfl) rfl
theorem q2373 : (Jvm.Cond.code ({ cls := "CsrCalculatorModel", name := "flag", desc := "([IIII)I" } : Jvm.MethodName) prog_23_method_39_code (4 : Nat) (Option.some Jvm.ClassFile.FieldType.int)) ∈ lw_all := lw_g (lw_at lw_m10 34 rfl) rfl
theorem q2374 : (Jvm.Cond.methodLink "CsrCalculatorModel" (178 : Nat) ({ cls := "CsrCalculatorModel", name := "entry", desc := "(II)I" } : Jvm.MethodName)) ∈ lw_all := lw_g (lw_at lw_m10 35 rfl) rfl
theorem q2375 : (Jvm.Cond.static ({ cls := "CsrCalculatorModel", name := "entry", desc := "(II)I" } : Jvm.MethodName)) ∈ lw_all := lw_g (lw_at lw_m10 36 rfl) rfl
theorem q2376 : (Jvm.Cond.code ({ cls := "CsrCalculatorModel", name := "entry", desc := "(II)I" } : Jvm.MethodName) prog_23_method_37_code (2 : Nat) (Option.some Jvm.ClassFile.FieldType.int)) ∈ lw_all := lw_g (lw_at lw_m10 37 rfl) rfl
theorem q2378 : (Jvm.Cond.instanceMethod ({ cls := "CsrCalculatorModel", name := "restoreState", desc := "()I" } : Jvm.MethodName)) ∈ lw_all := lw_g (lw_at lw_m10 39 rfl) rfl
theorem q2379 : (Jvm.Cond.selects "CsrCalculatorModel" ({ cls := "CsrCalculatorModel", name := "restoreState", desc := "()I" } : Jvm.MethodName) ({ cls := "CsrCalculatorModel", name := "restoreState", desc := "()I" } : Jvm.MethodName)) ∈ lw_all := lw_g (lw_at lw_m10 40 rfl) rfl
theorem q2380 : (Jvm.Cond.code ({ cls := "CsrCalculatorModel", name := "restoreState", desc := "()I" } : Jvm.MethodName) prog_23_method_36_code (1 : Nat) (Option.some Jvm.ClassFile.FieldType.int)) ∈ lw_all := lw_g (lw_at lw_m10 41 rfl) rfl
theorem q2382 : (Jvm.Cond.instanceMethod ({ cls := "CsrCalculatorModel", name := "create", desc := "(III)I" } : Jvm.MethodName)) ∈ lw_all := lw_g (lw_at lw_m10 43 rfl) rfl
theorem q2383 : (Jvm.Cond.selects "CsrCalculatorModel" ({ cls := "CsrCalculatorModel", name := "create", desc := "(III)I" } : Jvm.MethodName) ({ cls := "CsrCalculatorModel", name := "create", desc := "(III)I" } : Jvm.MethodName)) ∈ lw_all := lw_g (lw_at lw_m10 44 rfl) rfl
theorem q2384 : (Jvm.Cond.code ({ cls := "CsrCalculatorModel", name := "create", desc := "(III)I" } : Jvm.MethodName) prog_23_method_90_code (4 : Nat) (Option.some Jvm.ClassFile.FieldType.int)) ∈ lw_all := lw_g (lw_at lw_m10 45 rfl) rfl
theorem q2385 : (Jvm.Cond.methodLink "CsrCalculatorModel" (313 : Nat) ({ cls := "CsrCalculatorModel", name := "isRegister", desc := "(I)Z" } : Jvm.MethodName)) ∈ lw_all := lw_g (lw_at lw_m10 46 rfl) rfl
theorem q2386 : (Jvm.Cond.static ({ cls := "CsrCalculatorModel", name := "isRegister", desc := "(I)Z" } : Jvm.MethodName)) ∈ lw_all := lw_g (lw_at lw_m10 47 rfl) rfl
theorem q2387 : (Jvm.Cond.code ({ cls := "CsrCalculatorModel", name := "isRegister", desc := "(I)Z" } : Jvm.MethodName) prog_23_method_71_code (1 : Nat) (Option.some Jvm.ClassFile.FieldType.boolean)) ∈ lw_all := lw_g (lw_at lw_m10 48 rfl) rfl
theorem q2388 : (Jvm.Cond.constantLong "CsrCalculatorModel" (311 : Nat) (3 : Int64)) ∈ lw_all := lw_g (lw_at lw_m10 49 rfl) rfl
theorem q2389 : (Jvm.Cond.methodLink "CsrCalculatorModel" (351 : Nat) ({ cls := "CsrCalculatorModel", name := "isSide", desc := "(I)Z" } : Jvm.MethodName)) ∈ lw_all := lw_g (lw_at lw_m10 50 rfl) rfl
theorem q2390 : (Jvm.Cond.static ({ cls := "CsrCalculatorModel", name := "isSide", desc := "(I)Z" } : Jvm.MethodName)) ∈ lw_all := lw_g (lw_at lw_m10 51 rfl) rfl
theorem q2391 : (Jvm.Cond.code ({ cls := "CsrCalculatorModel", name := "isSide", desc := "(I)Z" } : Jvm.MethodName) prog_23_method_83_code (1 : Nat) (Option.some Jvm.ClassFile.FieldType.boolean)) ∈ lw_all := lw_g (lw_at lw_m10 52 rfl) rfl
theorem q2392 : (Jvm.Cond.constantLong "CsrCalculatorModel" (191 : Nat) (12 : Int64)) ∈ lw_all := lw_g (lw_at lw_m10 53 rfl) rfl
theorem q2393 : (Jvm.Cond.methodLink "CsrCalculatorModel" (354 : Nat) ({ cls := "CsrCalculatorModel", name := "goesBoth", desc := "(ZZ)Z" } : Jvm.MethodName)) ∈ lw_all := lw_g (lw_at lw_m10 54 rfl) rfl
theorem q2394 : (Jvm.Cond.privateMethod ({ cls := "CsrCalculatorModel", name := "goesBoth", desc := "(ZZ)Z" } : Jvm.MethodName)) ∈ lw_tbl := lw_at lw_m10 55 rfl
theorem q2395 : (Jvm.Cond.instanceMethod ({ cls := "CsrCalculatorModel", name := "goesBoth", desc := "(ZZ)Z" } : Jvm.MethodName)) ∈ lw_all := lw_g (lw_at lw_m10 56 rfl) rfl
theorem q2396 : (Jvm.Cond.code ({ cls := "CsrCalculatorModel", name := "goesBoth", desc := "(ZZ)Z" } : Jvm.MethodName) prog_23_method_7_code (3 : Nat) (Option.some Jvm.ClassFile.FieldType.boolean)) ∈ lw_all := lw_g (lw_at lw_m10 57 rfl) rfl
theorem q2397 : (Jvm.Cond.methodLink "CsrCalculatorModel" (358 : Nat) ({ cls := "CsrCalculatorModel", name := "laysAside", desc := "()V" } : Jvm.MethodName)) ∈ lw_all := lw_g (lw_at lw_m10 58 rfl) rfl
theorem q2398 : (Jvm.Cond.privateMethod ({ cls := "CsrCalculatorModel", name := "laysAside", desc := "()V" } : Jvm.MethodName)) ∈ lw_tbl := lw_at lw_m10 59 rfl
theorem q2399 : (Jvm.Cond.instanceMethod ({ cls := "CsrCalculatorModel", name := "laysAside", desc := "()V" } : Jvm.MethodName)) ∈ lw_all := lw_g (lw_at lw_m10 60 rfl) rfl
theorem q2400 : (Jvm.Cond.code ({ cls := "CsrCalculatorModel", name := "laysAside", desc := "()V" } : Jvm.MethodName) prog_23_method_30_code (1 : Nat) (Option.none : Option Jvm.ClassFile.FieldType)) ∈ lw_all := lw_g (lw_at lw_m10 61 rfl) rfl
theorem q2401 : (Jvm.Cond.methodLink "CsrCalculatorModel" (361 : Nat) ({ cls := "CsrCalculatorModel", name := "creates", desc := "(III)I" } : Jvm.MethodName)) ∈ lw_all := lw_g (lw_at lw_m10 62 rfl) rfl
theorem q2402 : (Jvm.Cond.privateMethod ({ cls := "CsrCalculatorModel", name := "creates", desc := "(III)I" } : Jvm.MethodName)) ∈ lw_tbl := lw_at lw_m10 63 rfl
theorem q2403 : (Jvm.Cond.instanceMethod ({ cls := "CsrCalculatorModel", name := "creates", desc := "(III)I" } : Jvm.MethodName)) ∈ lw_all := lw_g (lw_at lw_m10 64 rfl) rfl
theorem q2404 : (Jvm.Cond.code ({ cls := "CsrCalculatorModel", name := "creates", desc := "(III)I" } : Jvm.MethodName) prog_23_method_84_code (4 : Nat) (Option.some Jvm.ClassFile.FieldType.int)) ∈ lw_all := lw_g (lw_at lw_m10 65 rfl) rfl
theorem q2405 : (Jvm.Cond.methodLink "CsrCalculatorModel" (364 : Nat) ({ cls := "CsrCalculatorModel", name := "kept", desc := "(I)I" } : Jvm.MethodName)) ∈ lw_all := lw_g (lw_at lw_m10 66 rfl) rfl
theorem q2406 : (Jvm.Cond.privateMethod ({ cls := "CsrCalculatorModel", name := "kept", desc := "(I)I" } : Jvm.MethodName)) ∈ lw_tbl := lw_at lw_m10 67 rfl
theorem q2407 : (Jvm.Cond.instanceMethod ({ cls := "CsrCalculatorModel", name := "kept", desc := "(I)I" } : Jvm.MethodName)) ∈ lw_all := lw_g (lw_at lw_m10 68 rfl) rfl
theorem q2408 : (Jvm.Cond.code ({ cls := "CsrCalculatorModel", name := "kept", desc := "(I)I" } : Jvm.MethodName) prog_23_method_33_code (2 : Nat) (Option.some Jvm.ClassFile.FieldType.int)) ∈ lw_all := lw_g (lw_at lw_m10 69 rfl) rfl
theorem q2409 : (Jvm.Cond.methodLink "CsrCalculatorModel" (167 : Nat) ({ cls := "CsrCalculatorModel", name := "keeps", desc := "()V" } : Jvm.MethodName)) ∈ lw_all := lw_g (lw_at lw_m10 70 rfl) rfl
theorem q2410 : (Jvm.Cond.privateMethod ({ cls := "CsrCalculatorModel", name := "keeps", desc := "()V" } : Jvm.MethodName)) ∈ lw_tbl := lw_at lw_m10 71 rfl
theorem q2411 : (Jvm.Cond.instanceMethod ({ cls := "CsrCalculatorModel", name := "keeps", desc := "()V" } : Jvm.MethodName)) ∈ lw_all := lw_g (lw_at lw_m10 72 rfl) rfl
theorem q2412 : (Jvm.Cond.code ({ cls := "CsrCalculatorModel", name := "keeps", desc := "()V" } : Jvm.MethodName) prog_23_method_32_code (2 : Nat) (Option.none : Option Jvm.ClassFile.FieldType)) ∈ lw_all := lw_g (lw_at lw_m10 73 rfl) rfl
theorem q2414 : (Jvm.Cond.instanceMethod ({ cls := "CsrCalculatorModel", name := "set", desc := "(IIII)I" } : Jvm.MethodName)) ∈ lw_all := lw_g (lw_at lw_m10 75 rfl) rfl
theorem q2415 : (Jvm.Cond.selects "CsrCalculatorModel" ({ cls := "CsrCalculatorModel", name := "set", desc := "(IIII)I" } : Jvm.MethodName) ({ cls := "CsrCalculatorModel", name := "set", desc := "(IIII)I" } : Jvm.MethodName)) ∈ lw_all := lw_g (lw_at lw_m10 76 rfl) rfl
theorem q2416 : (Jvm.Cond.code ({ cls := "CsrCalculatorModel", name := "set", desc := "(IIII)I" } : Jvm.MethodName) prog_23_method_91_code (5 : Nat) (Option.some Jvm.ClassFile.FieldType.int)) ∈ lw_all := lw_g (lw_at lw_m10 77 rfl) rfl
theorem q2417 : (Jvm.Cond.methodLink "CsrCalculatorModel" (325 : Nat) ({ cls := "CsrCalculatorModel", name := "isEntry", desc := "(III)Z" } : Jvm.MethodName)) ∈ lw_all := lw_g (lw_at lw_m10 78 rfl) rfl
theorem q2418 : (Jvm.Cond.privateMethod ({ cls := "CsrCalculatorModel", name := "isEntry", desc := "(III)Z" } : Jvm.MethodName)) ∈ lw_tbl := lw_at lw_m10 79 rfl
theorem q2419 : (Jvm.Cond.instanceMethod ({ cls := "CsrCalculatorModel", name := "isEntry", desc := "(III)Z" } : Jvm.MethodName)) ∈ lw_all := lw_g (lw_at lw_m10 80 rfl) rfl
theorem q2420 : (Jvm.Cond.code ({ cls := "CsrCalculatorModel", name := "isEntry", desc := "(III)Z" } : Jvm.MethodName) prog_23_method_75_code (4 : Nat) (Option.some Jvm.ClassFile.FieldType.boolean)) ∈ lw_all := lw_g (lw_at lw_m10 81 rfl) rfl
theorem q2421 : (Jvm.Cond.methodLink "CsrCalculatorModel" (319 : Nat) ({ cls := "CsrCalculatorModel", name := "isRow", desc := "(II)Z" } : Jvm.MethodName)) ∈ lw_all := lw_g (lw_at lw_m10 82 rfl) rfl
theorem q2422 : (Jvm.Cond.privateMethod ({ cls := "CsrCalculatorModel", name := "isRow", desc := "(II)Z" } : Jvm.MethodName)) ∈ lw_tbl := lw_at lw_m10 83 rfl
theorem q2423 : (Jvm.Cond.instanceMethod ({ cls := "CsrCalculatorModel", name := "isRow", desc := "(II)Z" } : Jvm.MethodName)) ∈ lw_all := lw_g (lw_at lw_m10 84 rfl) rfl
theorem q2424 : (Jvm.Cond.code ({ cls := "CsrCalculatorModel", name := "isRow", desc := "(II)Z" } : Jvm.MethodName) prog_23_method_74_code (3 : Nat) (Option.some Jvm.ClassFile.FieldType.boolean)) ∈ lw_all := lw_g (lw_at lw_m10 85 rfl) rfl
theorem q2425 : (Jvm.Cond.constantLong "CsrCalculatorModel" (367 : Nat) (-9999 : Int64)) ∈ lw_all := lw_g (lw_at lw_m10 86 rfl) rfl
theorem q2426 : (Jvm.Cond.constantLong "CsrCalculatorModel" (369 : Nat) (9999 : Int64)) ∈ lw_all := lw_g (lw_at lw_m10 87 rfl) rfl
theorem q2427 : (Jvm.Cond.methodLink "CsrCalculatorModel" (371 : Nat) ({ cls := "CsrCalculatorModel", name := "puts", desc := "(IIII)I" } : Jvm.MethodName)) ∈ lw_all := lw_g (lw_at lw_m10 88 rfl) rfl
theorem q2428 : (Jvm.Cond.privateMethod ({ cls := "CsrCalculatorModel", name := "puts", desc := "(IIII)I" } : Jvm.MethodName)) ∈ lw_tbl := lw_at lw_m10 89 rfl
theorem q2429 : (Jvm.Cond.instanceMethod ({ cls := "CsrCalculatorModel", name := "puts", desc := "(IIII)I" } : Jvm.MethodName)) ∈ lw_all := lw_g (lw_at lw_m10 90 rfl) rfl
theorem q2430 : (Jvm.Cond.code ({ cls := "CsrCalculatorModel", name := "puts", desc := "(IIII)I" } : Jvm.MethodName) prog_23_method_85_code (5 : Nat) (Option.some Jvm.ClassFile.FieldType.int)) ∈ lw_all := lw_g (lw_at lw_m10 91 rfl) rfl
theorem q2431 : (Jvm.Cond.methodLink "CsrCalculatorModel" (193 : Nat) ({ cls := "CsrCalculatorModel", name := "stores", desc := "([IIIII)V" } : Jvm.MethodName)) ∈ lw_all := lw_g (lw_at lw_m10 92 rfl) rfl
theorem q2432 : (Jvm.Cond.static ({ cls := "CsrCalculatorModel", name := "stores", desc := "([IIIII)V" } : Jvm.MethodName)) ∈ lw_all := lw_g (lw_at lw_m10 93 rfl) rfl
theorem q2433 : (Jvm.Cond.code ({ cls := "CsrCalculatorModel", name := "stores", desc := "([IIIII)V" } : Jvm.MethodName) prog_23_method_41_code (5 : Nat) (Option.none : Option Jvm.ClassFile.FieldType)) ∈ lw_all := lw_g (lw_at lw_m10 94 rfl) rfl
theorem q2434 : (Jvm.Cond.methodLink "CsrCalculatorModel" (335 : Nat) ({ cls := "CsrCalculatorModel", name := "storageOf", desc := "(III)I" } : Jvm.MethodName)) ∈ lw_all := lw_g (lw_at lw_m10 95 rfl) rfl
theorem q2435 : (Jvm.Cond.privateMethod ({ cls := "CsrCalculatorModel", name := "storageOf", desc := "(III)I" } : Jvm.MethodName)) ∈ lw_tbl := lw_at lw_m10 96 rfl
theorem q2436 : (Jvm.Cond.instanceMethod ({ cls := "CsrCalculatorModel", name := "storageOf", desc := "(III)I" } : Jvm.MethodName)) ∈ lw_all := lw_g (lw_at lw_m10 97 rfl) rfl
theorem q2437 : (Jvm.Cond.code ({ cls := "CsrCalculatorModel", name := "storageOf", desc := "(III)I" } : Jvm.MethodName) prog_23_method_82_code (6 : Nat) (Option.some Jvm.ClassFile.FieldType.int)) ∈ lw_all := lw_g (lw_at lw_m10 98 rfl) rfl
theorem q2439 : (Jvm.Cond.instanceMethod ({ cls := "CsrCalculatorModel", name := "erase", desc := "(III)I" } : Jvm.MethodName)) ∈ lw_all := lw_g (lw_at lw_m10 100 rfl) rfl
theorem q2440 : (Jvm.Cond.selects "CsrCalculatorModel" ({ cls := "CsrCalculatorModel", name := "erase", desc := "(III)I" } : Jvm.MethodName) ({ cls := "CsrCalculatorModel", name := "erase", desc := "(III)I" } : Jvm.MethodName)) ∈ lw_all := lw_g (lw_at lw_m10 101 rfl) rfl
theorem q2441 : (Jvm.Cond.code ({ cls := "CsrCalculatorModel", name := "erase", desc := "(III)I" } : Jvm.MethodName) prog_23_method_92_code (4 : Nat) (Option.some Jvm.ClassFile.FieldType.int)) ∈ lw_all := lw_g (lw_at lw_m10 102 rfl) rfl
theorem q2442 : (Jvm.Cond.methodLink "CsrCalculatorModel" (345 : Nat) ({ cls := "CsrCalculatorModel", name := "isStored", desc := "(III)Z" } : Jvm.MethodName)) ∈ lw_all := lw_g (lw_at lw_m10 103 rfl) rfl
theorem q2443 : (Jvm.Cond.privateMethod ({ cls := "CsrCalculatorModel", name := "isStored", desc := "(III)Z" } : Jvm.MethodName)) ∈ lw_tbl := lw_at lw_m10 104 rfl
theorem q2444 : (Jvm.Cond.instanceMethod ({ cls := "CsrCalculatorModel", name := "isStored", desc := "(III)Z" } : Jvm.MethodName)) ∈ lw_all := lw_g (lw_at lw_m10 105 rfl) rfl
theorem q2445 : (Jvm.Cond.code ({ cls := "CsrCalculatorModel", name := "isStored", desc := "(III)Z" } : Jvm.MethodName) prog_23_method_76_code (4 : Nat) (Option.some Jvm.ClassFile.FieldType.boolean)) ∈ lw_all := lw_g (lw_at lw_m10 106 rfl) rfl
theorem q2446 : (Jvm.Cond.methodLink "CsrCalculatorModel" (375 : Nat) ({ cls := "CsrCalculatorModel", name := "erases", desc := "(III)I" } : Jvm.MethodName)) ∈ lw_all := lw_g (lw_at lw_m10 107 rfl) rfl
theorem q2447 : (Jvm.Cond.privateMethod ({ cls := "CsrCalculatorModel", name := "erases", desc := "(III)I" } : Jvm.MethodName)) ∈ lw_tbl := lw_at lw_m10 108 rfl
theorem q2448 : (Jvm.Cond.instanceMethod ({ cls := "CsrCalculatorModel", name := "erases", desc := "(III)I" } : Jvm.MethodName)) ∈ lw_all := lw_g (lw_at lw_m10 109 rfl) rfl
theorem q2449 : (Jvm.Cond.code ({ cls := "CsrCalculatorModel", name := "erases", desc := "(III)I" } : Jvm.MethodName) prog_23_method_86_code (5 : Nat) (Option.some Jvm.ClassFile.FieldType.int)) ∈ lw_all := lw_g (lw_at lw_m10 110 rfl) rfl
theorem q2450 : (Jvm.Cond.methodLink "CsrCalculatorModel" (339 : Nat) ({ cls := "CsrCalculatorModel", name := "valueIn", desc := "(III)I" } : Jvm.MethodName)) ∈ lw_all := lw_g (lw_at lw_m10 111 rfl) rfl
theorem q2451 : (Jvm.Cond.privateMethod ({ cls := "CsrCalculatorModel", name := "valueIn", desc := "(III)I" } : Jvm.MethodName)) ∈ lw_tbl := lw_at lw_m10 112 rfl
theorem q2452 : (Jvm.Cond.instanceMethod ({ cls := "CsrCalculatorModel", name := "valueIn", desc := "(III)I" } : Jvm.MethodName)) ∈ lw_all := lw_g (lw_at lw_m10 113 rfl) rfl
theorem q2453 : (Jvm.Cond.code ({ cls := "CsrCalculatorModel", name := "valueIn", desc := "(III)I" } : Jvm.MethodName) prog_23_method_77_code (4 : Nat) (Option.some Jvm.ClassFile.FieldType.int)) ∈ lw_all := lw_g (lw_at lw_m10 114 rfl) rfl
theorem q2454 : (Jvm.Cond.methodLink "CsrCalculatorModel" (201 : Nat) ({ cls := "CsrCalculatorModel", name := "valueAt", desc := "([IIII)I" } : Jvm.MethodName)) ∈ lw_all := lw_g (lw_at lw_m10 115 rfl) rfl
theorem q2455 : (Jvm.Cond.static ({ cls := "CsrCalculatorModel", name := "valueAt", desc := "([IIII)I" } : Jvm.MethodName)) ∈ lw_all := lw_g (lw_at lw_m10 116 rfl) rfl
theorem q2456 : (Jvm.Cond.code ({ cls := "CsrCalculatorModel", name := "valueAt", desc := "([IIII)I" } : Jvm.MethodName) prog_23_method_40_code (4 : Nat) (Option.some Jvm.ClassFile.FieldType.int)) ∈ lw_all := lw_g (lw_at lw_m10 117 rfl) rfl
theorem q2457 : (Jvm.Cond.methodLink "CsrCalculatorModel" (342 : Nat) ({ cls := "CsrCalculatorModel", name := "drops", desc := "([IIII)V" } : Jvm.MethodName)) ∈ lw_all := lw_g (lw_at lw_m10 118 rfl) rfl
theorem q2458 : (Jvm.Cond.static ({ cls := "CsrCalculatorModel", name := "drops", desc := "([IIII)V" } : Jvm.MethodName)) ∈ lw_all := lw_g (lw_at lw_m10 119 rfl) rfl
theorem q2459 : (Jvm.Cond.code ({ cls := "CsrCalculatorModel", name := "drops", desc := "([IIII)V" } : Jvm.MethodName) prog_23_method_42_code (4 : Nat) (Option.none : Option Jvm.ClassFile.FieldType)) ∈ lw_all := lw_g (lw_at lw_m10 120 rfl) rfl
theorem q2461 : (Jvm.Cond.instanceMethod ({ cls := "CsrCalculatorModel", name := "dropZeros", desc := "(I)I" } : Jvm.MethodName)) ∈ lw_all := lw_g (lw_at lw_m10 122 rfl) rfl
theorem q2462 : (Jvm.Cond.selects "CsrCalculatorModel" ({ cls := "CsrCalculatorModel", name := "dropZeros", desc := "(I)I" } : Jvm.MethodName) ({ cls := "CsrCalculatorModel", name := "dropZeros", desc := "(I)I" } : Jvm.MethodName)) ∈ lw_all := lw_g (lw_at lw_m10 123 rfl) rfl
theorem q2463 : (Jvm.Cond.code ({ cls := "CsrCalculatorModel", name := "dropZeros", desc := "(I)I" } : Jvm.MethodName) prog_23_method_93_code (2 : Nat) (Option.some Jvm.ClassFile.FieldType.int)) ∈ lw_all := lw_g (lw_at lw_m10 124 rfl) rfl
theorem q2464 : (Jvm.Cond.methodLink "CsrCalculatorModel" (378 : Nat) ({ cls := "CsrCalculatorModel", name := "dropsZeros", desc := "(I)I" } : Jvm.MethodName)) ∈ lw_all := lw_g (lw_at lw_m10 125 rfl) rfl
theorem q2465 : (Jvm.Cond.privateMethod ({ cls := "CsrCalculatorModel", name := "dropsZeros", desc := "(I)I" } : Jvm.MethodName)) ∈ lw_tbl := lw_at lw_m10 126 rfl
theorem q2466 : (Jvm.Cond.instanceMethod ({ cls := "CsrCalculatorModel", name := "dropsZeros", desc := "(I)I" } : Jvm.MethodName)) ∈ lw_all := lw_g (lw_at lw_m10 127 rfl) rfl
theorem q2467 : (Jvm.Cond.code ({ cls := "CsrCalculatorModel", name := "dropsZeros", desc := "(I)I" } : Jvm.MethodName) prog_23_method_87_code (5 : Nat) (Option.some Jvm.ClassFile.FieldType.int)) ∈ lw_all := lw_g (lw_at lw_m10 128 rfl) rfl
theorem q2469 : (Jvm.Cond.instanceMethod ({ cls := "CsrCalculatorModel", name := "swapRows", desc := "(III)I" } : Jvm.MethodName)) ∈ lw_all := lw_g (lw_at lw_m10 130 rfl) rfl
theorem q2470 : (Jvm.Cond.selects "CsrCalculatorModel" ({ cls := "CsrCalculatorModel", name := "swapRows", desc := "(III)I" } : Jvm.MethodName) ({ cls := "CsrCalculatorModel", name := "swapRows", desc := "(III)I" } : Jvm.MethodName)) ∈ lw_all := lw_g (lw_at lw_m10 131 rfl) rfl
theorem q2471 : (Jvm.Cond.code ({ cls := "CsrCalculatorModel", name := "swapRows", desc := "(III)I" } : Jvm.MethodName) prog_23_method_94_code (4 : Nat) (Option.some Jvm.ClassFile.FieldType.int)) ∈ lw_all := lw_g (lw_at lw_m10 132 rfl) rfl
theorem q2472 : (Jvm.Cond.methodLink "CsrCalculatorModel" (381 : Nat) ({ cls := "CsrCalculatorModel", name := "swaps", desc := "(III)I" } : Jvm.MethodName)) ∈ lw_all := lw_g (lw_at lw_m10 133 rfl) rfl
theorem q2473 : (Jvm.Cond.privateMethod ({ cls := "CsrCalculatorModel", name := "swaps", desc := "(III)I" } : Jvm.MethodName)) ∈ lw_tbl := lw_at lw_m10 134 rfl
theorem q2474 : (Jvm.Cond.instanceMethod ({ cls := "CsrCalculatorModel", name := "swaps", desc := "(III)I" } : Jvm.MethodName)) ∈ lw_all := lw_g (lw_at lw_m10 135 rfl) rfl
theorem q2475 : (Jvm.Cond.code ({ cls := "CsrCalculatorModel", name := "swaps", desc := "(III)I" } : Jvm.MethodName) prog_23_method_89_code (5 : Nat) (Option.some Jvm.ClassFile.FieldType.int)) ∈ lw_all := lw_g (lw_at lw_m10 136 rfl) rfl
theorem q2476 : (Jvm.Cond.methodLink "CsrCalculatorModel" (348 : Nat) ({ cls := "CsrCalculatorModel", name := "swapsInts", desc := "(II)V" } : Jvm.MethodName)) ∈ lw_all := lw_g (lw_at lw_m10 137 rfl) rfl
theorem q2477 : (Jvm.Cond.privateMethod ({ cls := "CsrCalculatorModel", name := "swapsInts", desc := "(II)V" } : Jvm.MethodName)) ∈ lw_tbl := lw_at lw_m10 138 rfl
theorem q2478 : (Jvm.Cond.instanceMethod ({ cls := "CsrCalculatorModel", name := "swapsInts", desc := "(II)V" } : Jvm.MethodName)) ∈ lw_all := lw_g (lw_at lw_m10 139 rfl) rfl
theorem q2479 : (Jvm.Cond.code ({ cls := "CsrCalculatorModel", name := "swapsInts", desc := "(II)V" } : Jvm.MethodName) prog_23_method_88_code (4 : Nat) (Option.none : Option Jvm.ClassFile.FieldType)) ∈ lw_all := lw_g (lw_at lw_m10 140 rfl) rfl
theorem q2481 : (Jvm.Cond.instanceMethod ({ cls := "CsrCalculatorModel", name := "scale", desc := "(II)I" } : Jvm.MethodName)) ∈ lw_all := lw_g (lw_at lw_m10 142 rfl) rfl
theorem q2482 : (Jvm.Cond.selects "CsrCalculatorModel" ({ cls := "CsrCalculatorModel", name := "scale", desc := "(II)I" } : Jvm.MethodName) ({ cls := "CsrCalculatorModel", name := "scale", desc := "(II)I" } : Jvm.MethodName)) ∈ lw_all := lw_g (lw_at lw_m10 143 rfl) rfl
theorem q2483 : (Jvm.Cond.code ({ cls := "CsrCalculatorModel", name := "scale", desc := "(II)I" } : Jvm.MethodName) prog_23_method_98_code (4 : Nat) (Option.some Jvm.ClassFile.FieldType.int)) ∈ lw_all := lw_g (lw_at lw_m10 144 rfl) rfl
theorem q2484 : (Jvm.Cond.constantLong "CsrCalculatorModel" (384 : Nat) (-99 : Int64)) ∈ lw_all := lw_g (lw_at lw_m10 145 rfl) rfl
theorem q2485 : (Jvm.Cond.constantLong "CsrCalculatorModel" (386 : Nat) (99 : Int64)) ∈ lw_all := lw_g (lw_at lw_m10 146 rfl) rfl
theorem q2486 : (Jvm.Cond.methodLink "CsrCalculatorModel" (388 : Nat) ({ cls := "CsrCalculatorModel", name := "scalesRegister", desc := "(II)Z" } : Jvm.MethodName)) ∈ lw_all := lw_g (lw_at lw_m10 147 rfl) rfl
theorem q2487 : (Jvm.Cond.privateMethod ({ cls := "CsrCalculatorModel", name := "scalesRegister", desc := "(II)Z" } : Jvm.MethodName)) ∈ lw_tbl := lw_at lw_m10 148 rfl
theorem q2488 : (Jvm.Cond.instanceMethod ({ cls := "CsrCalculatorModel", name := "scalesRegister", desc := "(II)Z" } : Jvm.MethodName)) ∈ lw_all := lw_g (lw_at lw_m10 149 rfl) rfl
theorem q2489 : (Jvm.Cond.code ({ cls := "CsrCalculatorModel", name := "scalesRegister", desc := "(II)Z" } : Jvm.MethodName) prog_23_method_95_code (3 : Nat) (Option.some Jvm.ClassFile.FieldType.boolean)) ∈ lw_all := lw_g (lw_at lw_m10 150 rfl) rfl
theorem q2490 : (Jvm.Cond.methodLink "CsrCalculatorModel" (238 : Nat) ({ cls := "CsrCalculatorModel", name := "beginsStack", desc := "()V" } : Jvm.MethodName)) ∈ lw_all := lw_g (lw_at lw_m10 151 rfl) rfl
theorem q2491 : (Jvm.Cond.privateMethod ({ cls := "CsrCalculatorModel", name := "beginsStack", desc := "()V" } : Jvm.MethodName)) ∈ lw_tbl := lw_at lw_m10 152 rfl
theorem q2492 : (Jvm.Cond.instanceMethod ({ cls := "CsrCalculatorModel", name := "beginsStack", desc := "()V" } : Jvm.MethodName)) ∈ lw_all := lw_g (lw_at lw_m10 153 rfl) rfl
theorem q2493 : (Jvm.Cond.code ({ cls := "CsrCalculatorModel", name := "beginsStack", desc := "()V" } : Jvm.MethodName) prog_23_method_53_code (1 : Nat) (Option.none : Option Jvm.ClassFile.FieldType)) ∈ lw_all := lw_g (lw_at lw_m10 154 rfl) rfl
theorem q2494 : (Jvm.Cond.methodLink "CsrCalculatorModel" (235 : Nat) ({ cls := "CsrCalculatorModel", name := "pushesRegister", desc := "(I)V" } : Jvm.MethodName)) ∈ lw_all := lw_g (lw_at lw_m10 155 rfl) rfl
theorem q2495 : (Jvm.Cond.privateMethod ({ cls := "CsrCalculatorModel", name := "pushesRegister", desc := "(I)V" } : Jvm.MethodName)) ∈ lw_tbl := lw_at lw_m10 156 rfl
theorem q2496 : (Jvm.Cond.instanceMethod ({ cls := "CsrCalculatorModel", name := "pushesRegister", desc := "(I)V" } : Jvm.MethodName)) ∈ lw_all := lw_g (lw_at lw_m10 157 rfl) rfl
theorem q2497 : (Jvm.Cond.code ({ cls := "CsrCalculatorModel", name := "pushesRegister", desc := "(I)V" } : Jvm.MethodName) prog_23_method_45_code (2 : Nat) (Option.none : Option Jvm.ClassFile.FieldType)) ∈ lw_all := lw_g (lw_at lw_m10 158 rfl) rfl
theorem q2498 : (Jvm.Cond.methodLink "CsrCalculatorModel" (188 : Nat) ({ cls := "CsrCalculatorModel", name := "slot", desc := "(I)I" } : Jvm.MethodName)) ∈ lw_all := lw_g (lw_at lw_m10 159 rfl) rfl
theorem q2499 : (Jvm.Cond.static ({ cls := "CsrCalculatorModel", name := "slot", desc := "(I)I" } : Jvm.MethodName)) ∈ lw_all := lw_g (lw_at lw_m10 160 rfl) rfl
theorem q2500 : (Jvm.Cond.code ({ cls := "CsrCalculatorModel", name := "slot", desc := "(I)I" } : Jvm.MethodName) prog_23_method_44_code (1 : Nat) (Option.some Jvm.ClassFile.FieldType.int)) ∈ lw_all := lw_g (lw_at lw_m10 161 rfl) rfl
theorem q2501 : (Jvm.Cond.methodLink "CsrCalculatorModel" (226 : Nat) ({ cls := "CsrCalculatorModel", name := "scales", desc := "(I)Z" } : Jvm.MethodName)) ∈ lw_all := lw_g (lw_at lw_m10 162 rfl) rfl
theorem q2502 : (Jvm.Cond.privateMethod ({ cls := "CsrCalculatorModel", name := "scales", desc := "(I)Z" } : Jvm.MethodName)) ∈ lw_tbl := lw_at lw_m10 163 rfl
theorem q2503 : (Jvm.Cond.instanceMethod ({ cls := "CsrCalculatorModel", name := "scales", desc := "(I)Z" } : Jvm.MethodName)) ∈ lw_all := lw_g (lw_at lw_m10 164 rfl) rfl
theorem q2504 : (Jvm.Cond.code ({ cls := "CsrCalculatorModel", name := "scales", desc := "(I)Z" } : Jvm.MethodName) prog_23_method_49_code (6 : Nat) (Option.some Jvm.ClassFile.FieldType.boolean)) ∈ lw_all := lw_g (lw_at lw_m10 165 rfl) rfl
theorem q2505 : (Jvm.Cond.methodLink "CsrCalculatorModel" (207 : Nat) ({ cls := "CsrCalculatorModel", name := "isSmall", desc := "(J)Z" } : Jvm.MethodName)) ∈ lw_all := lw_g (lw_at lw_m10 166 rfl) rfl
theorem q2506 : (Jvm.Cond.static ({ cls := "CsrCalculatorModel", name := "isSmall", desc := "(J)Z" } : Jvm.MethodName)) ∈ lw_all := lw_g (lw_at lw_m10 167 rfl) rfl
theorem q2507 : (Jvm.Cond.code ({ cls := "CsrCalculatorModel", name := "isSmall", desc := "(J)Z" } : Jvm.MethodName) prog_23_method_43_code (2 : Nat) (Option.some Jvm.ClassFile.FieldType.boolean)) ∈ lw_all := lw_g (lw_at lw_m10 168 rfl) rfl
theorem q2508 : (Jvm.Cond.constantLong "CsrCalculatorModel" (181 : Nat) (-999999 : Int64)) ∈ lw_all := lw_g (lw_at lw_m10 169 rfl) rfl
theorem q2509 : (Jvm.Cond.constantLong "CsrCalculatorModel" (183 : Nat) (999999 : Int64)) ∈ lw_all := lw_g (lw_at lw_m10 170 rfl) rfl
theorem q2510 : (Jvm.Cond.methodLink "CsrCalculatorModel" (391 : Nat) ({ cls := "CsrCalculatorModel", name := "goesThree", desc := "(ZZZ)Z" } : Jvm.MethodName)) ∈ lw_all := lw_g (lw_at lw_m10 171 rfl) rfl
theorem q2511 : (Jvm.Cond.privateMethod ({ cls := "CsrCalculatorModel", name := "goesThree", desc := "(ZZZ)Z" } : Jvm.MethodName)) ∈ lw_tbl := lw_at lw_m10 172 rfl
theorem q2512 : (Jvm.Cond.instanceMethod ({ cls := "CsrCalculatorModel", name := "goesThree", desc := "(ZZZ)Z" } : Jvm.MethodName)) ∈ lw_all := lw_g (lw_at lw_m10 173 rfl) rfl
theorem q2513 : (Jvm.Cond.code ({ cls := "CsrCalculatorModel", name := "goesThree", desc := "(ZZZ)Z" } : Jvm.MethodName) prog_23_method_8_code (4 : Nat) (Option.some Jvm.ClassFile.FieldType.boolean)) ∈ lw_all := lw_g (lw_at lw_m10 174 rfl) rfl
theorem q2514 : (Jvm.Cond.methodLink "CsrCalculatorModel" (395 : Nat) ({ cls := "CsrCalculatorModel", name := "assigns", desc := "(I)I" } : Jvm.MethodName)) ∈ lw_all := lw_g (lw_at lw_m10 175 rfl) rfl
theorem q2515 : (Jvm.Cond.privateMethod ({ cls := "CsrCalculatorModel", name := "assigns", desc := "(I)I" } : Jvm.MethodName)) ∈ lw_tbl := lw_at lw_m10 176 rfl
theorem q2516 : (Jvm.Cond.instanceMethod ({ cls := "CsrCalculatorModel", name := "assigns", desc := "(I)I" } : Jvm.MethodName)) ∈ lw_all := lw_g (lw_at lw_m10 177 rfl) rfl
theorem q2517 : (Jvm.Cond.code ({ cls := "CsrCalculatorModel", name := "assigns", desc := "(I)I" } : Jvm.MethodName) prog_23_method_54_code (2 : Nat) (Option.some Jvm.ClassFile.FieldType.int)) ∈ lw_all := lw_g (lw_at lw_m10 178 rfl) rfl
theorem q2519 : (Jvm.Cond.instanceMethod ({ cls := "CsrCalculatorModel", name := "transposeInto", desc := "(II)I" } : Jvm.MethodName)) ∈ lw_all := lw_g (lw_at lw_m10 180 rfl) rfl
theorem q2520 : (Jvm.Cond.selects "CsrCalculatorModel" ({ cls := "CsrCalculatorModel", name := "transposeInto", desc := "(II)I" } : Jvm.MethodName) ({ cls := "CsrCalculatorModel", name := "transposeInto", desc := "(II)I" } : Jvm.MethodName)) ∈ lw_all := lw_g (lw_at lw_m10 181 rfl) rfl
theorem q2521 : (Jvm.Cond.code ({ cls := "CsrCalculatorModel", name := "transposeInto", desc := "(II)I" } : Jvm.MethodName) prog_23_method_99_code (3 : Nat) (Option.some Jvm.ClassFile.FieldType.int)) ∈ lw_all := lw_g (lw_at lw_m10 182 rfl) rfl
theorem q2522 : (Jvm.Cond.methodLink "CsrCalculatorModel" (223 : Nat) ({ cls := "CsrCalculatorModel", name := "transposes", desc := "()Z" } : Jvm.MethodName)) ∈ lw_all := lw_g (lw_at lw_m10 183 rfl) rfl
theorem q2523 : (Jvm.Cond.privateMethod ({ cls := "CsrCalculatorModel", name := "transposes", desc := "()Z" } : Jvm.MethodName)) ∈ lw_tbl := lw_at lw_m10 184 rfl
theorem q2524 : (Jvm.Cond.instanceMethod ({ cls := "CsrCalculatorModel", name := "transposes", desc := "()Z" } : Jvm.MethodName)) ∈ lw_all := lw_g (lw_at lw_m10 185 rfl) rfl
theorem q2525 : (Jvm.Cond.code ({ cls := "CsrCalculatorModel", name := "transposes", desc := "()Z" } : Jvm.MethodName) prog_23_method_48_code (4 : Nat) (Option.some Jvm.ClassFile.FieldType.boolean)) ∈ lw_all := lw_g (lw_at lw_m10 186 rfl) rfl
theorem q2526 : (Jvm.Cond.methodLink "CsrCalculatorModel" (204 : Nat) ({ cls := "CsrCalculatorModel", name := "takesResult", desc := "(I)V" } : Jvm.MethodName)) ∈ lw_all := lw_g (lw_at lw_m10 187 rfl) rfl
theorem q2527 : (Jvm.Cond.privateMethod ({ cls := "CsrCalculatorModel", name := "takesResult", desc := "(I)V" } : Jvm.MethodName)) ∈ lw_tbl := lw_at lw_m10 188 rfl
theorem q2528 : (Jvm.Cond.instanceMethod ({ cls := "CsrCalculatorModel", name := "takesResult", desc := "(I)V" } : Jvm.MethodName)) ∈ lw_all := lw_g (lw_at lw_m10 189 rfl) rfl
theorem q2529 : (Jvm.Cond.code ({ cls := "CsrCalculatorModel", name := "takesResult", desc := "(I)V" } : Jvm.MethodName) prog_23_method_47_code (2 : Nat) (Option.none : Option Jvm.ClassFile.FieldType)) ∈ lw_all := lw_g (lw_at lw_m10 190 rfl) rfl
theorem q2531 : (Jvm.Cond.instanceMethod ({ cls := "CsrCalculatorModel", name := "addInto", desc := "(III)I" } : Jvm.MethodName)) ∈ lw_all := lw_g (lw_at lw_m10 192 rfl) rfl
theorem q2532 : (Jvm.Cond.selects "CsrCalculatorModel" ({ cls := "CsrCalculatorModel", name := "addInto", desc := "(III)I" } : Jvm.MethodName) ({ cls := "CsrCalculatorModel", name := "addInto", desc := "(III)I" } : Jvm.MethodName)) ∈ lw_all := lw_g (lw_at lw_m10 193 rfl) rfl
theorem q2533 : (Jvm.Cond.code ({ cls := "CsrCalculatorModel", name := "addInto", desc := "(III)I" } : Jvm.MethodName) prog_23_method_101_code (5 : Nat) (Option.some Jvm.ClassFile.FieldType.int)) ∈ lw_all := lw_g (lw_at lw_m10 194 rfl) rfl
theorem q2534 : (Jvm.Cond.methodLink "CsrCalculatorModel" (401 : Nat) ({ cls := "CsrCalculatorModel", name := "areThree", desc := "(III)Z" } : Jvm.MethodName)) ∈ lw_all := lw_g (lw_at lw_m10 195 rfl) rfl
theorem q2535 : (Jvm.Cond.privateMethod ({ cls := "CsrCalculatorModel", name := "areThree", desc := "(III)Z" } : Jvm.MethodName)) ∈ lw_tbl := lw_at lw_m10 196 rfl
theorem q2536 : (Jvm.Cond.instanceMethod ({ cls := "CsrCalculatorModel", name := "areThree", desc := "(III)Z" } : Jvm.MethodName)) ∈ lw_all := lw_g (lw_at lw_m10 197 rfl) rfl
theorem q2537 : (Jvm.Cond.code ({ cls := "CsrCalculatorModel", name := "areThree", desc := "(III)Z" } : Jvm.MethodName) prog_23_method_100_code (4 : Nat) (Option.some Jvm.ClassFile.FieldType.boolean)) ∈ lw_all := lw_g (lw_at lw_m10 198 rfl) rfl
theorem q2538 : (Jvm.Cond.methodLink "CsrCalculatorModel" (404 : Nat) ({ cls := "CsrCalculatorModel", name := "sumsRegisters", desc := "(II)Z" } : Jvm.MethodName)) ∈ lw_all := lw_g (lw_at lw_m10 199 rfl) rfl
theorem q2539 : (Jvm.Cond.privateMethod ({ cls := "CsrCalculatorModel", name := "sumsRegisters", desc := "(II)Z" } : Jvm.MethodName)) ∈ lw_tbl := lw_at lw_m10 200 rfl
theorem q2540 : (Jvm.Cond.instanceMethod ({ cls := "CsrCalculatorModel", name := "sumsRegisters", desc := "(II)Z" } : Jvm.MethodName)) ∈ lw_all := lw_g (lw_at lw_m10 201 rfl) rfl
theorem q2541 : (Jvm.Cond.code ({ cls := "CsrCalculatorModel", name := "sumsRegisters", desc := "(II)Z" } : Jvm.MethodName) prog_23_method_96_code (3 : Nat) (Option.some Jvm.ClassFile.FieldType.boolean)) ∈ lw_all := lw_g (lw_at lw_m10 202 rfl) rfl
theorem q2542 : (Jvm.Cond.methodLink "CsrCalculatorModel" (229 : Nat) ({ cls := "CsrCalculatorModel", name := "sums", desc := "(I)Z" } : Jvm.MethodName)) ∈ lw_all := lw_g (lw_at lw_m10 203 rfl) rfl
theorem q2543 : (Jvm.Cond.privateMethod ({ cls := "CsrCalculatorModel", name := "sums", desc := "(I)Z" } : Jvm.MethodName)) ∈ lw_tbl := lw_at lw_m10 204 rfl
theorem q2544 : (Jvm.Cond.instanceMethod ({ cls := "CsrCalculatorModel", name := "sums", desc := "(I)Z" } : Jvm.MethodName)) ∈ lw_all := lw_g (lw_at lw_m10 205 rfl) rfl
theorem q2545 : (Jvm.Cond.code ({ cls := "CsrCalculatorModel", name := "sums", desc := "(I)Z" } : Jvm.MethodName) prog_23_method_50_code (7 : Nat) (Option.some Jvm.ClassFile.FieldType.boolean)) ∈ lw_all := lw_g (lw_at lw_m10 206 rfl) rfl
theorem q2547 : (Jvm.Cond.instanceMethod ({ cls := "CsrCalculatorModel", name := "multiplyInto", desc := "(III)I" } : Jvm.MethodName)) ∈ lw_all := lw_g (lw_at lw_m10 208 rfl) rfl
theorem q2548 : (Jvm.Cond.selects "CsrCalculatorModel" ({ cls := "CsrCalculatorModel", name := "multiplyInto", desc := "(III)I" } : Jvm.MethodName) ({ cls := "CsrCalculatorModel", name := "multiplyInto", desc := "(III)I" } : Jvm.MethodName)) ∈ lw_all := lw_g (lw_at lw_m10 209 rfl) rfl
theorem q2549 : (Jvm.Cond.code ({ cls := "CsrCalculatorModel", name := "multiplyInto", desc := "(III)I" } : Jvm.MethodName) prog_23_method_102_code (5 : Nat) (Option.some Jvm.ClassFile.FieldType.int)) ∈ lw_all := lw_g (lw_at lw_m10 210 rfl) rfl
theorem q2550 : (Jvm.Cond.methodLink "CsrCalculatorModel" (407 : Nat) ({ cls := "CsrCalculatorModel", name := "multipliesRegisters", desc := "(II)Z" } : Jvm.MethodName)) ∈ lw_all := lw_g (lw_at lw_m10 211 rfl) rfl
theorem q2551 : (Jvm.Cond.privateMethod ({ cls := "CsrCalculatorModel", name := "multipliesRegisters", desc := "(II)Z" } : Jvm.MethodName)) ∈ lw_tbl := lw_at lw_m10 212 rfl
theorem q2552 : (Jvm.Cond.instanceMethod ({ cls := "CsrCalculatorModel", name := "multipliesRegisters", desc := "(II)Z" } : Jvm.MethodName)) ∈ lw_all := lw_g (lw_at lw_m10 213 rfl) rfl
theorem q2553 : (Jvm.Cond.code ({ cls := "CsrCalculatorModel", name := "multipliesRegisters", desc := "(II)Z" } : Jvm.MethodName) prog_23_method_97_code (3 : Nat) (Option.some Jvm.ClassFile.FieldType.boolean)) ∈ lw_all := lw_g (lw_at lw_m10 214 rfl) rfl
theorem q2554 : (Jvm.Cond.methodLink "CsrCalculatorModel" (232 : Nat) ({ cls := "CsrCalculatorModel", name := "multipliesAll", desc := "()Z" } : Jvm.MethodName)) ∈ lw_all := lw_g (lw_at lw_m10 215 rfl) rfl
theorem q2555 : (Jvm.Cond.privateMethod ({ cls := "CsrCalculatorModel", name := "multipliesAll", desc := "()Z" } : Jvm.MethodName)) ∈ lw_tbl := lw_at lw_m10 216 rfl
theorem q2556 : (Jvm.Cond.instanceMethod ({ cls := "CsrCalculatorModel", name := "multipliesAll", desc := "()Z" } : Jvm.MethodName)) ∈ lw_all := lw_g (lw_at lw_m10 217 rfl) rfl
theorem q2557 : (Jvm.Cond.code ({ cls := "CsrCalculatorModel", name := "multipliesAll", desc := "()Z" } : Jvm.MethodName) prog_23_method_52_code (6 : Nat) (Option.some Jvm.ClassFile.FieldType.boolean)) ∈ lw_all := lw_g (lw_at lw_m10 218 rfl) rfl
theorem q2558 : (Jvm.Cond.methodLink "CsrCalculatorModel" (213 : Nat) ({ cls := "CsrCalculatorModel", name := "multiplies", desc := "(IIII)Z" } : Jvm.MethodName)) ∈ lw_all := lw_g (lw_at lw_m10 219 rfl) rfl
theorem q2559 : (Jvm.Cond.privateMethod ({ cls := "CsrCalculatorModel", name := "multiplies", desc := "(IIII)Z" } : Jvm.MethodName)) ∈ lw_tbl := lw_at lw_m10 220 rfl
theorem q2560 : (Jvm.Cond.instanceMethod ({ cls := "CsrCalculatorModel", name := "multiplies", desc := "(IIII)Z" } : Jvm.MethodName)) ∈ lw_all := lw_g (lw_at lw_m10 221 rfl) rfl
theorem q2561 : (Jvm.Cond.code ({ cls := "CsrCalculatorModel", name := "multiplies", desc := "(IIII)Z" } : Jvm.MethodName) prog_23_method_51_code (9 : Nat) (Option.some Jvm.ClassFile.FieldType.boolean)) ∈ lw_all := lw_g (lw_at lw_m10 222 rfl) rfl
theorem q2563 : (Jvm.Cond.instanceMethod ({ cls := "CsrCalculatorModel", name := "readText", desc := "()I" } : Jvm.MethodName)) ∈ lw_all := lw_g (lw_at lw_m10 224 rfl) rfl
theorem q2564 : (Jvm.Cond.selects "CsrCalculatorModel" ({ cls := "CsrCalculatorModel", name := "readText", desc := "()I" } : Jvm.MethodName) ({ cls := "CsrCalculatorModel", name := "readText", desc := "()I" } : Jvm.MethodName)) ∈ lw_all := lw_g (lw_at lw_m10 225 rfl) rfl
theorem q2565 : (Jvm.Cond.code ({ cls := "CsrCalculatorModel", name := "readText", desc := "()I" } : Jvm.MethodName) prog_23_method_110_code (1 : Nat) (Option.some Jvm.ClassFile.FieldType.int)) ∈ lw_all := lw_g (lw_at lw_m10 226 rfl) rfl
theorem q2566 : (Jvm.Cond.methodLink "CsrCalculatorModel" (450 : Nat) ({ cls := "CsrCalculatorModel", name := "beginsText", desc := "()V" } : Jvm.MethodName)) ∈ lw_all := lw_g (lw_at lw_m10 227 rfl) rfl
theorem q2567 : (Jvm.Cond.privateMethod ({ cls := "CsrCalculatorModel", name := "beginsText", desc := "()V" } : Jvm.MethodName)) ∈ lw_tbl := lw_at lw_m10 228 rfl
theorem q2568 : (Jvm.Cond.instanceMethod ({ cls := "CsrCalculatorModel", name := "beginsText", desc := "()V" } : Jvm.MethodName)) ∈ lw_all := lw_g (lw_at lw_m10 229 rfl) rfl
theorem q2569 : (Jvm.Cond.code ({ cls := "CsrCalculatorModel", name := "beginsText", desc := "()V" } : Jvm.MethodName) prog_23_method_24_code (1 : Nat) (Option.none : Option Jvm.ClassFile.FieldType)) ∈ lw_all := lw_g (lw_at lw_m10 230 rfl) rfl
theorem q2570 : (Jvm.Cond.methodLink "CsrCalculatorModel" (142 : Nat) ({ cls := "CsrCalculatorModel", name := "goOnRead", desc := "()V" } : Jvm.MethodName)) ∈ lw_all := lw_g (lw_at lw_m10 231 rfl) rfl
theorem q2571 : (Jvm.Cond.privateMethod ({ cls := "CsrCalculatorModel", name := "goOnRead", desc := "()V" } : Jvm.MethodName)) ∈ lw_tbl := lw_at lw_m10 232 rfl
theorem q2572 : (Jvm.Cond.instanceMethod ({ cls := "CsrCalculatorModel", name := "goOnRead", desc := "()V" } : Jvm.MethodName)) ∈ lw_all := lw_g (lw_at lw_m10 233 rfl) rfl
theorem q2573 : (Jvm.Cond.code ({ cls := "CsrCalculatorModel", name := "goOnRead", desc := "()V" } : Jvm.MethodName) prog_23_method_15_code (3 : Nat) (Option.none : Option Jvm.ClassFile.FieldType)) ∈ lw_all := lw_g (lw_at lw_m10 234 rfl) rfl
theorem q2574 : (Jvm.Cond.methodLink "CsrCalculatorModel" (105 : Nat) ({ cls := "CsrCalculatorModel", name := "here", desc := "(I)I" } : Jvm.MethodName)) ∈ lw_all := lw_g (lw_at lw_m10 235 rfl) rfl
theorem q2575 : (Jvm.Cond.privateMethod ({ cls := "CsrCalculatorModel", name := "here", desc := "(I)I" } : Jvm.MethodName)) ∈ lw_tbl := lw_at lw_m10 236 rfl
theorem q2576 : (Jvm.Cond.instanceMethod ({ cls := "CsrCalculatorModel", name := "here", desc := "(I)I" } : Jvm.MethodName)) ∈ lw_all := lw_g (lw_at lw_m10 237 rfl) rfl
theorem q2577 : (Jvm.Cond.code ({ cls := "CsrCalculatorModel", name := "here", desc := "(I)I" } : Jvm.MethodName) prog_23_method_12_code (2 : Nat) (Option.some Jvm.ClassFile.FieldType.int)) ∈ lw_all := lw_g (lw_at lw_m10 238 rfl) rfl
theorem q2578 : (Jvm.Cond.methodLink "CsrCalculatorModel" (122 : Nat) ({ cls := "CsrCalculatorModel", name := "isLetter", desc := "(I)Z" } : Jvm.MethodName)) ∈ lw_all := lw_g (lw_at lw_m10 239 rfl) rfl
theorem q2579 : (Jvm.Cond.static ({ cls := "CsrCalculatorModel", name := "isLetter", desc := "(I)Z" } : Jvm.MethodName)) ∈ lw_all := lw_g (lw_at lw_m11 0 rfl) rfl
theorem q2580 : (Jvm.Cond.code ({ cls := "CsrCalculatorModel", name := "isLetter", desc := "(I)Z" } : Jvm.MethodName) prog_23_method_13_code (1 : Nat) (Option.some Jvm.ClassFile.FieldType.boolean)) ∈ lw_all := lw_g (lw_at lw_m11 1 rfl) rfl
theorem q2581 : (Jvm.Cond.methodLink "CsrCalculatorModel" (126 : Nat) ({ cls := "CsrCalculatorModel", name := "isDigit", desc := "(I)Z" } : Jvm.MethodName)) ∈ lw_all := lw_g (lw_at lw_m11 2 rfl) rfl
theorem q2582 : (Jvm.Cond.static ({ cls := "CsrCalculatorModel", name := "isDigit", desc := "(I)Z" } : Jvm.MethodName)) ∈ lw_all := lw_g (lw_at lw_m11 3 rfl) rfl
theorem q2583 : (Jvm.Cond.code ({ cls := "CsrCalculatorModel", name := "isDigit", desc := "(I)Z" } : Jvm.MethodName) prog_23_method_14_code (1 : Nat) (Option.some Jvm.ClassFile.FieldType.boolean)) ∈ lw_all := lw_g (lw_at lw_m11 4 rfl) rfl
theorem q2584 : (Jvm.Cond.constantLong "CsrCalculatorModel" (453 : Nat) (3698 : Int64)) ∈ lw_all := lw_g (lw_at lw_m11 5 rfl) rfl
theorem q2585 : (Jvm.Cond.methodLink "CsrCalculatorModel" (455 : Nat) ({ cls := "CsrCalculatorModel", name := "mustWord", desc := "(J)V" } : Jvm.MethodName)) ∈ lw_all := lw_g (lw_at lw_m11 6 rfl) rfl
theorem q2586 : (Jvm.Cond.privateMethod ({ cls := "CsrCalculatorModel", name := "mustWord", desc := "(J)V" } : Jvm.MethodName)) ∈ lw_tbl := lw_at lw_m11 7 rfl
theorem q2587 : (Jvm.Cond.instanceMethod ({ cls := "CsrCalculatorModel", name := "mustWord", desc := "(J)V" } : Jvm.MethodName)) ∈ lw_all := lw_g (lw_at lw_m11 8 rfl) rfl
theorem q2588 : (Jvm.Cond.code ({ cls := "CsrCalculatorModel", name := "mustWord", desc := "(J)V" } : Jvm.MethodName) prog_23_method_21_code (3 : Nat) (Option.none : Option Jvm.ClassFile.FieldType)) ∈ lw_all := lw_g (lw_at lw_m11 9 rfl) rfl
theorem q2589 : (Jvm.Cond.methodLink "CsrCalculatorModel" (132 : Nat) ({ cls := "CsrCalculatorModel", name := "isGood", desc := "()Z" } : Jvm.MethodName)) ∈ lw_all := lw_g (lw_at lw_m11 10 rfl) rfl
theorem q2590 : (Jvm.Cond.privateMethod ({ cls := "CsrCalculatorModel", name := "isGood", desc := "()Z" } : Jvm.MethodName)) ∈ lw_tbl := lw_at lw_m11 11 rfl
theorem q2591 : (Jvm.Cond.instanceMethod ({ cls := "CsrCalculatorModel", name := "isGood", desc := "()Z" } : Jvm.MethodName)) ∈ lw_all := lw_g (lw_at lw_m11 12 rfl) rfl
theorem q2592 : (Jvm.Cond.code ({ cls := "CsrCalculatorModel", name := "isGood", desc := "()Z" } : Jvm.MethodName) prog_23_method_17_code (1 : Nat) (Option.some Jvm.ClassFile.FieldType.boolean)) ∈ lw_all := lw_g (lw_at lw_m11 13 rfl) rfl
theorem q2593 : (Jvm.Cond.methodLink "CsrCalculatorModel" (145 : Nat) ({ cls := "CsrCalculatorModel", name := "isWord", desc := "(J)Z" } : Jvm.MethodName)) ∈ lw_all := lw_g (lw_at lw_m11 14 rfl) rfl
theorem q2594 : (Jvm.Cond.privateMethod ({ cls := "CsrCalculatorModel", name := "isWord", desc := "(J)Z" } : Jvm.MethodName)) ∈ lw_tbl := lw_at lw_m11 15 rfl
theorem q2595 : (Jvm.Cond.instanceMethod ({ cls := "CsrCalculatorModel", name := "isWord", desc := "(J)Z" } : Jvm.MethodName)) ∈ lw_all := lw_g (lw_at lw_m11 16 rfl) rfl
theorem q2596 : (Jvm.Cond.code ({ cls := "CsrCalculatorModel", name := "isWord", desc := "(J)Z" } : Jvm.MethodName) prog_23_method_18_code (3 : Nat) (Option.some Jvm.ClassFile.FieldType.boolean)) ∈ lw_all := lw_g (lw_at lw_m11 17 rfl) rfl
theorem q2597 : (Jvm.Cond.methodLink "CsrCalculatorModel" (139 : Nat) ({ cls := "CsrCalculatorModel", name := "wrong", desc := "(I)V" } : Jvm.MethodName)) ∈ lw_all := lw_g (lw_at lw_m11 18 rfl) rfl
theorem q2598 : (Jvm.Cond.privateMethod ({ cls := "CsrCalculatorModel", name := "wrong", desc := "(I)V" } : Jvm.MethodName)) ∈ lw_tbl := lw_at lw_m11 19 rfl
theorem q2599 : (Jvm.Cond.instanceMethod ({ cls := "CsrCalculatorModel", name := "wrong", desc := "(I)V" } : Jvm.MethodName)) ∈ lw_all := lw_g (lw_at lw_m11 20 rfl) rfl
theorem q2600 : (Jvm.Cond.code ({ cls := "CsrCalculatorModel", name := "wrong", desc := "(I)V" } : Jvm.MethodName) prog_23_method_16_code (2 : Nat) (Option.none : Option Jvm.ClassFile.FieldType)) ∈ lw_all := lw_g (lw_at lw_m11 21 rfl) rfl
theorem q2601 : (Jvm.Cond.methodLink "CsrCalculatorModel" (459 : Nat) ({ cls := "CsrCalculatorModel", name := "mustSign", desc := "(I)V" } : Jvm.MethodName)) ∈ lw_all := lw_g (lw_at lw_m11 22 rfl) rfl
theorem q2602 : (Jvm.Cond.privateMethod ({ cls := "CsrCalculatorModel", name := "mustSign", desc := "(I)V" } : Jvm.MethodName)) ∈ lw_tbl := lw_at lw_m11 23 rfl
theorem q2603 : (Jvm.Cond.instanceMethod ({ cls := "CsrCalculatorModel", name := "mustSign", desc := "(I)V" } : Jvm.MethodName)) ∈ lw_all := lw_g (lw_at lw_m11 24 rfl) rfl
theorem q2604 : (Jvm.Cond.code ({ cls := "CsrCalculatorModel", name := "mustSign", desc := "(I)V" } : Jvm.MethodName) prog_23_method_20_code (2 : Nat) (Option.none : Option Jvm.ClassFile.FieldType)) ∈ lw_all := lw_g (lw_at lw_m11 25 rfl) rfl
theorem q2605 : (Jvm.Cond.methodLink "CsrCalculatorModel" (136 : Nat) ({ cls := "CsrCalculatorModel", name := "isSign", desc := "(I)Z" } : Jvm.MethodName)) ∈ lw_all := lw_g (lw_at lw_m11 26 rfl) rfl
theorem q2606 : (Jvm.Cond.privateMethod ({ cls := "CsrCalculatorModel", name := "isSign", desc := "(I)Z" } : Jvm.MethodName)) ∈ lw_tbl := lw_at lw_m11 27 rfl
theorem q2607 : (Jvm.Cond.instanceMethod ({ cls := "CsrCalculatorModel", name := "isSign", desc := "(I)Z" } : Jvm.MethodName)) ∈ lw_all := lw_g (lw_at lw_m11 28 rfl) rfl
theorem q2608 : (Jvm.Cond.code ({ cls := "CsrCalculatorModel", name := "isSign", desc := "(I)Z" } : Jvm.MethodName) prog_23_method_19_code (2 : Nat) (Option.some Jvm.ClassFile.FieldType.boolean)) ∈ lw_all := lw_g (lw_at lw_m11 29 rfl) rfl
theorem q2609 : (Jvm.Cond.methodLink "CsrCalculatorModel" (462 : Nat) ({ cls := "CsrCalculatorModel", name := "statement", desc := "()V" } : Jvm.MethodName)) ∈ lw_all := lw_g (lw_at lw_m11 30 rfl) rfl
theorem q2610 : (Jvm.Cond.privateMethod ({ cls := "CsrCalculatorModel", name := "statement", desc := "()V" } : Jvm.MethodName)) ∈ lw_tbl := lw_at lw_m11 31 rfl
theorem q2611 : (Jvm.Cond.instanceMethod ({ cls := "CsrCalculatorModel", name := "statement", desc := "()V" } : Jvm.MethodName)) ∈ lw_all := lw_g (lw_at lw_m11 32 rfl) rfl
theorem q2612 : (Jvm.Cond.code ({ cls := "CsrCalculatorModel", name := "statement", desc := "()V" } : Jvm.MethodName) prog_23_method_109_code (1 : Nat) (Option.none : Option Jvm.ClassFile.FieldType)) ∈ lw_all := lw_g (lw_at lw_m11 33 rfl) rfl
theorem q2613 : (Jvm.Cond.constantLong "CsrCalculatorModel" (430 : Nat) (437930296 : Int64)) ∈ lw_all := lw_g (lw_at lw_m11 34 rfl) rfl
theorem q2614 : (Jvm.Cond.methodLink "CsrCalculatorModel" (432 : Nat) ({ cls := "CsrCalculatorModel", name := "matrixLine", desc := "()V" } : Jvm.MethodName)) ∈ lw_all := lw_g (lw_at lw_m11 35 rfl) rfl
theorem q2615 : (Jvm.Cond.privateMethod ({ cls := "CsrCalculatorModel", name := "matrixLine", desc := "()V" } : Jvm.MethodName)) ∈ lw_tbl := lw_at lw_m11 36 rfl
theorem q2616 : (Jvm.Cond.instanceMethod ({ cls := "CsrCalculatorModel", name := "matrixLine", desc := "()V" } : Jvm.MethodName)) ∈ lw_all := lw_g (lw_at lw_m11 37 rfl) rfl
theorem q2617 : (Jvm.Cond.code ({ cls := "CsrCalculatorModel", name := "matrixLine", desc := "()V" } : Jvm.MethodName) prog_23_method_105_code (4 : Nat) (Option.none : Option Jvm.ClassFile.FieldType)) ∈ lw_all := lw_g (lw_at lw_m11 38 rfl) rfl
theorem q2618 : (Jvm.Cond.methodLink "CsrCalculatorModel" (413 : Nat) ({ cls := "CsrCalculatorModel", name := "registerWord", desc := "()I" } : Jvm.MethodName)) ∈ lw_all := lw_g (lw_at lw_m11 39 rfl) rfl
theorem q2619 : (Jvm.Cond.privateMethod ({ cls := "CsrCalculatorModel", name := "registerWord", desc := "()I" } : Jvm.MethodName)) ∈ lw_tbl := lw_at lw_m11 40 rfl
theorem q2620 : (Jvm.Cond.instanceMethod ({ cls := "CsrCalculatorModel", name := "registerWord", desc := "()I" } : Jvm.MethodName)) ∈ lw_all := lw_g (lw_at lw_m11 41 rfl) rfl
theorem q2621 : (Jvm.Cond.code ({ cls := "CsrCalculatorModel", name := "registerWord", desc := "()I" } : Jvm.MethodName) prog_23_method_103_code (2 : Nat) (Option.some Jvm.ClassFile.FieldType.int)) ∈ lw_all := lw_g (lw_at lw_m11 42 rfl) rfl
theorem q2622 : (Jvm.Cond.methodLink "CsrCalculatorModel" (275 : Nat) ({ cls := "CsrCalculatorModel", name := "registerHere", desc := "()I" } : Jvm.MethodName)) ∈ lw_all := lw_g (lw_at lw_m11 43 rfl) rfl
theorem q2623 : (Jvm.Cond.privateMethod ({ cls := "CsrCalculatorModel", name := "registerHere", desc := "()I" } : Jvm.MethodName)) ∈ lw_tbl := lw_at lw_m11 44 rfl
theorem q2624 : (Jvm.Cond.instanceMethod ({ cls := "CsrCalculatorModel", name := "registerHere", desc := "()I" } : Jvm.MethodName)) ∈ lw_all := lw_g (lw_at lw_m11 45 rfl) rfl
theorem q2625 : (Jvm.Cond.code ({ cls := "CsrCalculatorModel", name := "registerHere", desc := "()I" } : Jvm.MethodName) prog_23_method_63_code (1 : Nat) (Option.some Jvm.ClassFile.FieldType.int)) ∈ lw_all := lw_g (lw_at lw_m11 46 rfl) rfl
theorem q2626 : (Jvm.Cond.constantLong "CsrCalculatorModel" (267 : Nat) (4 : Int64)) ∈ lw_all := lw_g (lw_at lw_m11 47 rfl) rfl
theorem q2627 : (Jvm.Cond.methodLink "CsrCalculatorModel" (416 : Nat) ({ cls := "CsrCalculatorModel", name := "more", desc := "(II)I" } : Jvm.MethodName)) ∈ lw_all := lw_g (lw_at lw_m11 48 rfl) rfl
theorem q2628 : (Jvm.Cond.privateMethod ({ cls := "CsrCalculatorModel", name := "more", desc := "(II)I" } : Jvm.MethodName)) ∈ lw_tbl := lw_at lw_m11 49 rfl
theorem q2629 : (Jvm.Cond.instanceMethod ({ cls := "CsrCalculatorModel", name := "more", desc := "(II)I" } : Jvm.MethodName)) ∈ lw_all := lw_g (lw_at lw_m11 50 rfl) rfl
theorem q2630 : (Jvm.Cond.code ({ cls := "CsrCalculatorModel", name := "more", desc := "(II)I" } : Jvm.MethodName) prog_23_method_104_code (3 : Nat) (Option.some Jvm.ClassFile.FieldType.int)) ∈ lw_all := lw_g (lw_at lw_m11 51 rfl) rfl
theorem q2631 : (Jvm.Cond.methodLink "CsrCalculatorModel" (410 : Nat) ({ cls := "CsrCalculatorModel", name := "number", desc := "(II)I" } : Jvm.MethodName)) ∈ lw_all := lw_g (lw_at lw_m11 52 rfl) rfl
theorem q2632 : (Jvm.Cond.privateMethod ({ cls := "CsrCalculatorModel", name := "number", desc := "(II)I" } : Jvm.MethodName)) ∈ lw_tbl := lw_at lw_m11 53 rfl
theorem q2633 : (Jvm.Cond.instanceMethod ({ cls := "CsrCalculatorModel", name := "number", desc := "(II)I" } : Jvm.MethodName)) ∈ lw_all := lw_g (lw_at lw_m11 54 rfl) rfl
theorem q2634 : (Jvm.Cond.code ({ cls := "CsrCalculatorModel", name := "number", desc := "(II)I" } : Jvm.MethodName) prog_23_method_23_code (4 : Nat) (Option.some Jvm.ClassFile.FieldType.int)) ∈ lw_all := lw_g (lw_at lw_m11 55 rfl) rfl
theorem q2635 : (Jvm.Cond.methodLink "CsrCalculatorModel" (149 : Nat) ({ cls := "CsrCalculatorModel", name := "looks", desc := "(II)I" } : Jvm.MethodName)) ∈ lw_all := lw_g (lw_at lw_m11 56 rfl) rfl
theorem q2636 : (Jvm.Cond.privateMethod ({ cls := "CsrCalculatorModel", name := "looks", desc := "(II)I" } : Jvm.MethodName)) ∈ lw_tbl := lw_at lw_m11 57 rfl
theorem q2637 : (Jvm.Cond.instanceMethod ({ cls := "CsrCalculatorModel", name := "looks", desc := "(II)I" } : Jvm.MethodName)) ∈ lw_all := lw_g (lw_at lw_m11 58 rfl) rfl
theorem q2638 : (Jvm.Cond.code ({ cls := "CsrCalculatorModel", name := "looks", desc := "(II)I" } : Jvm.MethodName) prog_23_method_22_code (3 : Nat) (Option.some Jvm.ClassFile.FieldType.int)) ∈ lw_all := lw_g (lw_at lw_m11 59 rfl) rfl
theorem q2639 : (Jvm.Cond.constantLong "CsrCalculatorModel" (435 : Nat) (5722713 : Int64)) ∈ lw_all := lw_g (lw_at lw_m11 60 rfl) rfl
theorem q2640 : (Jvm.Cond.methodLink "CsrCalculatorModel" (437 : Nat) ({ cls := "CsrCalculatorModel", name := "entryLine", desc := "()V" } : Jvm.MethodName)) ∈ lw_all := lw_g (lw_at lw_m11 61 rfl) rfl
theorem q2641 : (Jvm.Cond.privateMethod ({ cls := "CsrCalculatorModel", name := "entryLine", desc := "()V" } : Jvm.MethodName)) ∈ lw_tbl := lw_at lw_m11 62 rfl
theorem q2642 : (Jvm.Cond.instanceMethod ({ cls := "CsrCalculatorModel", name := "entryLine", desc := "()V" } : Jvm.MethodName)) ∈ lw_all := lw_g (lw_at lw_m11 63 rfl) rfl
theorem q2643 : (Jvm.Cond.code ({ cls := "CsrCalculatorModel", name := "entryLine", desc := "()V" } : Jvm.MethodName) prog_23_method_106_code (6 : Nat) (Option.none : Option Jvm.ClassFile.FieldType)) ∈ lw_all := lw_g (lw_at lw_m11 64 rfl) rfl
theorem q2644 : (Jvm.Cond.constantLong "CsrCalculatorModel" (422 : Nat) (13941427 : Int64)) ∈ lw_all := lw_g (lw_at lw_m11 65 rfl) rfl
theorem q2645 : (Jvm.Cond.constantLong "CsrCalculatorModel" (440 : Nat) (12468 : Int64)) ∈ lw_all := lw_g (lw_at lw_m11 66 rfl) rfl
theorem q2646 : (Jvm.Cond.methodLink "CsrCalculatorModel" (442 : Nat) ({ cls := "CsrCalculatorModel", name := "letLine", desc := "()V" } : Jvm.MethodName)) ∈ lw_all := lw_g (lw_at lw_m11 67 rfl) rfl
theorem q2647 : (Jvm.Cond.privateMethod ({ cls := "CsrCalculatorModel", name := "letLine", desc := "()V" } : Jvm.MethodName)) ∈ lw_tbl := lw_at lw_m11 68 rfl
theorem q2648 : (Jvm.Cond.instanceMethod ({ cls := "CsrCalculatorModel", name := "letLine", desc := "()V" } : Jvm.MethodName)) ∈ lw_all := lw_g (lw_at lw_m11 69 rfl) rfl
theorem q2649 : (Jvm.Cond.code ({ cls := "CsrCalculatorModel", name := "letLine", desc := "()V" } : Jvm.MethodName) prog_23_method_107_code (2 : Nat) (Option.none : Option Jvm.ClassFile.FieldType)) ∈ lw_all := lw_g (lw_at lw_m11 70 rfl) rfl
theorem q2650 : (Jvm.Cond.methodLink "CsrCalculatorModel" (424 : Nat) ({ cls := "CsrCalculatorModel", name := "expression", desc := "()V" } : Jvm.MethodName)) ∈ lw_all := lw_g (lw_at lw_m11 71 rfl) rfl
theorem q2651 : (Jvm.Cond.privateMethod ({ cls := "CsrCalculatorModel", name := "expression", desc := "()V" } : Jvm.MethodName)) ∈ lw_tbl := lw_at lw_m11 72 rfl
theorem q2652 : (Jvm.Cond.instanceMethod ({ cls := "CsrCalculatorModel", name := "expression", desc := "()V" } : Jvm.MethodName)) ∈ lw_all := lw_g (lw_at lw_m11 73 rfl) rfl
theorem q2653 : (Jvm.Cond.code ({ cls := "CsrCalculatorModel", name := "expression", desc := "()V" } : Jvm.MethodName) prog_23_method_70_code (3 : Nat) (Option.none : Option Jvm.ClassFile.FieldType)) ∈ lw_all := lw_g (lw_at lw_m11 74 rfl) rfl
theorem q2654 : (Jvm.Cond.methodLink "CsrCalculatorModel" (299 : Nat) ({ cls := "CsrCalculatorModel", name := "readsFactor", desc := "()Z" } : Jvm.MethodName)) ∈ lw_all := lw_g (lw_at lw_m11 75 rfl) rfl
theorem q2655 : (Jvm.Cond.privateMethod ({ cls := "CsrCalculatorModel", name := "readsFactor", desc := "()Z" } : Jvm.MethodName)) ∈ lw_tbl := lw_at lw_m11 76 rfl
theorem q2656 : (Jvm.Cond.instanceMethod ({ cls := "CsrCalculatorModel", name := "readsFactor", desc := "()Z" } : Jvm.MethodName)) ∈ lw_all := lw_g (lw_at lw_m11 77 rfl) rfl
theorem q2657 : (Jvm.Cond.code ({ cls := "CsrCalculatorModel", name := "readsFactor", desc := "()Z" } : Jvm.MethodName) prog_23_method_66_code (2 : Nat) (Option.some Jvm.ClassFile.FieldType.boolean)) ∈ lw_all := lw_g (lw_at lw_m11 78 rfl) rfl
theorem q2658 : (Jvm.Cond.methodLink "CsrCalculatorModel" (250 : Nat) ({ cls := "CsrCalculatorModel", name := "writes", desc := "(II)V" } : Jvm.MethodName)) ∈ lw_all := lw_g (lw_at lw_m11 79 rfl) rfl
theorem q2659 : (Jvm.Cond.privateMethod ({ cls := "CsrCalculatorModel", name := "writes", desc := "(II)V" } : Jvm.MethodName)) ∈ lw_tbl := lw_at lw_m11 80 rfl
theorem q2660 : (Jvm.Cond.instanceMethod ({ cls := "CsrCalculatorModel", name := "writes", desc := "(II)V" } : Jvm.MethodName)) ∈ lw_all := lw_g (lw_at lw_m11 81 rfl) rfl
theorem q2661 : (Jvm.Cond.code ({ cls := "CsrCalculatorModel", name := "writes", desc := "(II)V" } : Jvm.MethodName) prog_23_method_57_code (3 : Nat) (Option.none : Option Jvm.ClassFile.FieldType)) ∈ lw_all := lw_g (lw_at lw_m11 82 rfl) rfl
theorem q2662 : (Jvm.Cond.constantLong "CsrCalculatorModel" (278 : Nat) (702772 : Int64)) ∈ lw_all := lw_g (lw_at lw_m11 83 rfl) rfl
theorem q2663 : (Jvm.Cond.methodLink "CsrCalculatorModel" (280 : Nat) ({ cls := "CsrCalculatorModel", name := "unitHere", desc := "()V" } : Jvm.MethodName)) ∈ lw_all := lw_g (lw_at lw_m11 84 rfl) rfl
theorem q2664 : (Jvm.Cond.privateMethod ({ cls := "CsrCalculatorModel", name := "unitHere", desc := "()V" } : Jvm.MethodName)) ∈ lw_tbl := lw_at lw_m11 85 rfl
theorem q2665 : (Jvm.Cond.instanceMethod ({ cls := "CsrCalculatorModel", name := "unitHere", desc := "()V" } : Jvm.MethodName)) ∈ lw_all := lw_g (lw_at lw_m11 86 rfl) rfl
theorem q2666 : (Jvm.Cond.code ({ cls := "CsrCalculatorModel", name := "unitHere", desc := "()V" } : Jvm.MethodName) prog_23_method_65_code (2 : Nat) (Option.none : Option Jvm.ClassFile.FieldType)) ∈ lw_all := lw_g (lw_at lw_m11 87 rfl) rfl
theorem q2667 : (Jvm.Cond.methodLink "CsrCalculatorModel" (272 : Nat) ({ cls := "CsrCalculatorModel", name := "bounded", desc := "(II)I" } : Jvm.MethodName)) ∈ lw_all := lw_g (lw_at lw_m11 88 rfl) rfl
theorem q2668 : (Jvm.Cond.privateMethod ({ cls := "CsrCalculatorModel", name := "bounded", desc := "(II)I" } : Jvm.MethodName)) ∈ lw_tbl := lw_at lw_m11 89 rfl
theorem q2669 : (Jvm.Cond.instanceMethod ({ cls := "CsrCalculatorModel", name := "bounded", desc := "(II)I" } : Jvm.MethodName)) ∈ lw_all := lw_g (lw_at lw_m11 90 rfl) rfl
theorem q2670 : (Jvm.Cond.code ({ cls := "CsrCalculatorModel", name := "bounded", desc := "(II)I" } : Jvm.MethodName) prog_23_method_64_code (3 : Nat) (Option.some Jvm.ClassFile.FieldType.int)) ∈ lw_all := lw_g (lw_at lw_m11 91 rfl) rfl
theorem q2671 : (Jvm.Cond.constantLong "CsrCalculatorModel" (283 : Nat) (21562835 : Int64)) ∈ lw_all := lw_g (lw_at lw_m11 92 rfl) rfl
theorem q2672 : (Jvm.Cond.methodLink "CsrCalculatorModel" (285 : Nat) ({ cls := "CsrCalculatorModel", name := "opens", desc := "(II)V" } : Jvm.MethodName)) ∈ lw_all := lw_g (lw_at lw_m11 93 rfl) rfl
theorem q2673 : (Jvm.Cond.privateMethod ({ cls := "CsrCalculatorModel", name := "opens", desc := "(II)V" } : Jvm.MethodName)) ∈ lw_tbl := lw_at lw_m11 94 rfl
theorem q2674 : (Jvm.Cond.instanceMethod ({ cls := "CsrCalculatorModel", name := "opens", desc := "(II)V" } : Jvm.MethodName)) ∈ lw_all := lw_g (lw_at lw_m11 95 rfl) rfl
theorem q2675 : (Jvm.Cond.code ({ cls := "CsrCalculatorModel", name := "opens", desc := "(II)V" } : Jvm.MethodName) prog_23_method_61_code (3 : Nat) (Option.none : Option Jvm.ClassFile.FieldType)) ∈ lw_all := lw_g (lw_at lw_m11 96 rfl) rfl
theorem q2676 : (Jvm.Cond.methodLink "CsrCalculatorModel" (257 : Nat) ({ cls := "CsrCalculatorModel", name := "waitsFor", desc := "(II)V" } : Jvm.MethodName)) ∈ lw_all := lw_g (lw_at lw_m11 97 rfl) rfl
theorem q2677 : (Jvm.Cond.privateMethod ({ cls := "CsrCalculatorModel", name := "waitsFor", desc := "(II)V" } : Jvm.MethodName)) ∈ lw_tbl := lw_at lw_m11 98 rfl
theorem q2678 : (Jvm.Cond.instanceMethod ({ cls := "CsrCalculatorModel", name := "waitsFor", desc := "(II)V" } : Jvm.MethodName)) ∈ lw_all := lw_g (lw_at lw_m11 99 rfl) rfl
theorem q2679 : (Jvm.Cond.code ({ cls := "CsrCalculatorModel", name := "waitsFor", desc := "(II)V" } : Jvm.MethodName) prog_23_method_58_code (3 : Nat) (Option.none : Option Jvm.ClassFile.FieldType)) ∈ lw_all := lw_g (lw_at lw_m11 100 rfl) rfl
theorem q2680 : (Jvm.Cond.constantLong "CsrCalculatorModel" (288 : Nat) (14503 : Int64)) ∈ lw_all := lw_g (lw_at lw_m11 101 rfl) rfl
theorem q2681 : (Jvm.Cond.methodLink "CsrCalculatorModel" (290 : Nat) ({ cls := "CsrCalculatorModel", name := "endsFactor", desc := "()V" } : Jvm.MethodName)) ∈ lw_all := lw_g (lw_at lw_m11 102 rfl) rfl
theorem q2682 : (Jvm.Cond.privateMethod ({ cls := "CsrCalculatorModel", name := "endsFactor", desc := "()V" } : Jvm.MethodName)) ∈ lw_tbl := lw_at lw_m11 103 rfl
theorem q2683 : (Jvm.Cond.instanceMethod ({ cls := "CsrCalculatorModel", name := "endsFactor", desc := "()V" } : Jvm.MethodName)) ∈ lw_all := lw_g (lw_at lw_m11 104 rfl) rfl
theorem q2684 : (Jvm.Cond.code ({ cls := "CsrCalculatorModel", name := "endsFactor", desc := "()V" } : Jvm.MethodName) prog_23_method_62_code (1 : Nat) (Option.none : Option Jvm.ClassFile.FieldType)) ∈ lw_all := lw_g (lw_at lw_m11 105 rfl) rfl
theorem q2685 : (Jvm.Cond.methodLink "CsrCalculatorModel" (260 : Nat) ({ cls := "CsrCalculatorModel", name := "hasTop", desc := "(II)Z" } : Jvm.MethodName)) ∈ lw_all := lw_g (lw_at lw_m11 106 rfl) rfl
theorem q2686 : (Jvm.Cond.privateMethod ({ cls := "CsrCalculatorModel", name := "hasTop", desc := "(II)Z" } : Jvm.MethodName)) ∈ lw_tbl := lw_at lw_m11 107 rfl
theorem q2687 : (Jvm.Cond.instanceMethod ({ cls := "CsrCalculatorModel", name := "hasTop", desc := "(II)Z" } : Jvm.MethodName)) ∈ lw_all := lw_g (lw_at lw_m11 108 rfl) rfl
theorem q2688 : (Jvm.Cond.code ({ cls := "CsrCalculatorModel", name := "hasTop", desc := "(II)Z" } : Jvm.MethodName) prog_23_method_60_code (3 : Nat) (Option.some Jvm.ClassFile.FieldType.boolean)) ∈ lw_all := lw_g (lw_at lw_m11 109 rfl) rfl
theorem q2689 : (Jvm.Cond.methodLink "CsrCalculatorModel" (264 : Nat) ({ cls := "CsrCalculatorModel", name := "writesTop", desc := "()V" } : Jvm.MethodName)) ∈ lw_all := lw_g (lw_at lw_m11 110 rfl) rfl
theorem q2690 : (Jvm.Cond.privateMethod ({ cls := "CsrCalculatorModel", name := "writesTop", desc := "()V" } : Jvm.MethodName)) ∈ lw_tbl := lw_at lw_m11 111 rfl
theorem q2691 : (Jvm.Cond.instanceMethod ({ cls := "CsrCalculatorModel", name := "writesTop", desc := "()V" } : Jvm.MethodName)) ∈ lw_all := lw_g (lw_at lw_m11 112 rfl) rfl
theorem q2692 : (Jvm.Cond.code ({ cls := "CsrCalculatorModel", name := "writesTop", desc := "()V" } : Jvm.MethodName) prog_23_method_59_code (1 : Nat) (Option.none : Option Jvm.ClassFile.FieldType)) ∈ lw_all := lw_g (lw_at lw_m11 113 rfl) rfl
theorem q2693 : (Jvm.Cond.methodLink "CsrCalculatorModel" (302 : Nat) ({ cls := "CsrCalculatorModel", name := "hasOpen", desc := "()Z" } : Jvm.MethodName)) ∈ lw_all := lw_g (lw_at lw_m11 114 rfl) rfl
theorem q2694 : (Jvm.Cond.privateMethod ({ cls := "CsrCalculatorModel", name := "hasOpen", desc := "()Z" } : Jvm.MethodName)) ∈ lw_tbl := lw_at lw_m11 115 rfl
theorem q2695 : (Jvm.Cond.instanceMethod ({ cls := "CsrCalculatorModel", name := "hasOpen", desc := "()Z" } : Jvm.MethodName)) ∈ lw_all := lw_g (lw_at lw_m11 116 rfl) rfl
theorem q2696 : (Jvm.Cond.code ({ cls := "CsrCalculatorModel", name := "hasOpen", desc := "()Z" } : Jvm.MethodName) prog_23_method_67_code (2 : Nat) (Option.some Jvm.ClassFile.FieldType.boolean)) ∈ lw_all := lw_g (lw_at lw_m11 117 rfl) rfl
theorem q2697 : (Jvm.Cond.methodLink "CsrCalculatorModel" (305 : Nat) ({ cls := "CsrCalculatorModel", name := "closesOne", desc := "()V" } : Jvm.MethodName)) ∈ lw_all := lw_g (lw_at lw_m11 118 rfl) rfl
theorem q2698 : (Jvm.Cond.privateMethod ({ cls := "CsrCalculatorModel", name := "closesOne", desc := "()V" } : Jvm.MethodName)) ∈ lw_tbl := lw_at lw_m11 119 rfl
theorem q2699 : (Jvm.Cond.instanceMethod ({ cls := "CsrCalculatorModel", name := "closesOne", desc := "()V" } : Jvm.MethodName)) ∈ lw_all := lw_g (lw_at lw_m11 120 rfl) rfl
theorem q2700 : (Jvm.Cond.code ({ cls := "CsrCalculatorModel", name := "closesOne", desc := "()V" } : Jvm.MethodName) prog_23_method_68_code (1 : Nat) (Option.none : Option Jvm.ClassFile.FieldType)) ∈ lw_all := lw_g (lw_at lw_m11 121 rfl) rfl
theorem q2701 : (Jvm.Cond.methodLink "CsrCalculatorModel" (308 : Nat) ({ cls := "CsrCalculatorModel", name := "readsOperator", desc := "()Z" } : Jvm.MethodName)) ∈ lw_all := lw_g (lw_at lw_m11 122 rfl) rfl
theorem q2702 : (Jvm.Cond.privateMethod ({ cls := "CsrCalculatorModel", name := "readsOperator", desc := "()Z" } : Jvm.MethodName)) ∈ lw_tbl := lw_at lw_m11 123 rfl
theorem q2703 : (Jvm.Cond.instanceMethod ({ cls := "CsrCalculatorModel", name := "readsOperator", desc := "()Z" } : Jvm.MethodName)) ∈ lw_all := lw_g (lw_at lw_m11 124 rfl) rfl
theorem q2704 : (Jvm.Cond.code ({ cls := "CsrCalculatorModel", name := "readsOperator", desc := "()Z" } : Jvm.MethodName) prog_23_method_69_code (2 : Nat) (Option.some Jvm.ClassFile.FieldType.boolean)) ∈ lw_all := lw_g (lw_at lw_m11 125 rfl) rfl
theorem q2705 : (Jvm.Cond.constantLong "CsrCalculatorModel" (293 : Nat) (21279923 : Int64)) ∈ lw_all := lw_g (lw_at lw_m11 126 rfl) rfl
theorem q2706 : (Jvm.Cond.constantLong "CsrCalculatorModel" (295 : Nat) (537267 : Int64)) ∈ lw_all := lw_g (lw_at lw_m11 127 rfl) rfl
theorem q2707 : (Jvm.Cond.constantLong "CsrCalculatorModel" (297 : Nat) (398963 : Int64)) ∈ lw_all := lw_g (lw_at lw_m11 128 rfl) rfl
theorem q2708 : (Jvm.Cond.methodLink "CsrCalculatorModel" (427 : Nat) ({ cls := "CsrCalculatorModel", name := "evaluates", desc := "(II)Z" } : Jvm.MethodName)) ∈ lw_all := lw_g (lw_at lw_m11 129 rfl) rfl
theorem q2709 : (Jvm.Cond.privateMethod ({ cls := "CsrCalculatorModel", name := "evaluates", desc := "(II)Z" } : Jvm.MethodName)) ∈ lw_tbl := lw_at lw_m11 130 rfl
theorem q2710 : (Jvm.Cond.instanceMethod ({ cls := "CsrCalculatorModel", name := "evaluates", desc := "(II)Z" } : Jvm.MethodName)) ∈ lw_all := lw_g (lw_at lw_m11 131 rfl) rfl
theorem q2711 : (Jvm.Cond.code ({ cls := "CsrCalculatorModel", name := "evaluates", desc := "(II)Z" } : Jvm.MethodName) prog_23_method_56_code (4 : Nat) (Option.some Jvm.ClassFile.FieldType.boolean)) ∈ lw_all := lw_g (lw_at lw_m11 132 rfl) rfl
theorem q2712 : (Jvm.Cond.methodLink "CsrCalculatorModel" (241 : Nat) ({ cls := "CsrCalculatorModel", name := "takesStep", desc := "(I)Z" } : Jvm.MethodName)) ∈ lw_all := lw_g (lw_at lw_m11 133 rfl) rfl
theorem q2713 : (Jvm.Cond.privateMethod ({ cls := "CsrCalculatorModel", name := "takesStep", desc := "(I)Z" } : Jvm.MethodName)) ∈ lw_tbl := lw_at lw_m11 134 rfl
theorem q2714 : (Jvm.Cond.instanceMethod ({ cls := "CsrCalculatorModel", name := "takesStep", desc := "(I)Z" } : Jvm.MethodName)) ∈ lw_all := lw_g (lw_at lw_m11 135 rfl) rfl
theorem q2715 : (Jvm.Cond.code ({ cls := "CsrCalculatorModel", name := "takesStep", desc := "(I)Z" } : Jvm.MethodName) prog_23_method_55_code (2 : Nat) (Option.some Jvm.ClassFile.FieldType.boolean)) ∈ lw_all := lw_g (lw_at lw_m11 136 rfl) rfl
theorem q2716 : (Jvm.Cond.methodLink "CsrCalculatorModel" (220 : Nat) ({ cls := "CsrCalculatorModel", name := "pushesUnit", desc := "(I)Z" } : Jvm.MethodName)) ∈ lw_all := lw_g (lw_at lw_m11 137 rfl) rfl
theorem q2717 : (Jvm.Cond.privateMethod ({ cls := "CsrCalculatorModel", name := "pushesUnit", desc := "(I)Z" } : Jvm.MethodName)) ∈ lw_tbl := lw_at lw_m11 138 rfl
theorem q2718 : (Jvm.Cond.instanceMethod ({ cls := "CsrCalculatorModel", name := "pushesUnit", desc := "(I)Z" } : Jvm.MethodName)) ∈ lw_all := lw_g (lw_at lw_m11 139 rfl) rfl
theorem q2719 : (Jvm.Cond.code ({ cls := "CsrCalculatorModel", name := "pushesUnit", desc := "(I)Z" } : Jvm.MethodName) prog_23_method_46_code (3 : Nat) (Option.some Jvm.ClassFile.FieldType.boolean)) ∈ lw_all := lw_g (lw_at lw_m11 140 rfl) rfl
theorem q2720 : (Jvm.Cond.constantLong "CsrCalculatorModel" (445 : Nat) (150000 : Int64)) ∈ lw_all := lw_g (lw_at lw_m11 141 rfl) rfl
theorem q2721 : (Jvm.Cond.methodLink "CsrCalculatorModel" (447 : Nat) ({ cls := "CsrCalculatorModel", name := "dropLine", desc := "()V" } : Jvm.MethodName)) ∈ lw_all := lw_g (lw_at lw_m11 142 rfl) rfl
theorem q2722 : (Jvm.Cond.privateMethod ({ cls := "CsrCalculatorModel", name := "dropLine", desc := "()V" } : Jvm.MethodName)) ∈ lw_tbl := lw_at lw_m11 143 rfl
theorem q2723 : (Jvm.Cond.instanceMethod ({ cls := "CsrCalculatorModel", name := "dropLine", desc := "()V" } : Jvm.MethodName)) ∈ lw_all := lw_g (lw_at lw_m11 144 rfl) rfl
theorem q2724 : (Jvm.Cond.code ({ cls := "CsrCalculatorModel", name := "dropLine", desc := "()V" } : Jvm.MethodName) prog_23_method_108_code (2 : Nat) (Option.none : Option Jvm.ClassFile.FieldType)) ∈ lw_all := lw_g (lw_at lw_m11 145 rfl) rfl
theorem q2725 : (Jvm.Cond.methodLink "CsrCalculatorModel" (465 : Nat) ({ cls := "CsrCalculatorModel", name := "endsText", desc := "()Z" } : Jvm.MethodName)) ∈ lw_all := lw_g (lw_at lw_m11 146 rfl) rfl
theorem q2726 : (Jvm.Cond.privateMethod ({ cls := "CsrCalculatorModel", name := "endsText", desc := "()Z" } : Jvm.MethodName)) ∈ lw_tbl := lw_at lw_m11 147 rfl
theorem q2727 : (Jvm.Cond.instanceMethod ({ cls := "CsrCalculatorModel", name := "endsText", desc := "()Z" } : Jvm.MethodName)) ∈ lw_all := lw_g (lw_at lw_m11 148 rfl) rfl
theorem q2728 : (Jvm.Cond.code ({ cls := "CsrCalculatorModel", name := "endsText", desc := "()Z" } : Jvm.MethodName) prog_23_method_25_code (1 : Nat) (Option.some Jvm.ClassFile.FieldType.boolean)) ∈ lw_all := lw_g (lw_at lw_m11 149 rfl) rfl
theorem q2729 : (Jvm.Cond.methodLink "CsrCalculatorModel" (468 : Nat) ({ cls := "CsrCalculatorModel", name := "goesBack", desc := "()V" } : Jvm.MethodName)) ∈ lw_all := lw_g (lw_at lw_m11 150 rfl) rfl
theorem q2730 : (Jvm.Cond.privateMethod ({ cls := "CsrCalculatorModel", name := "goesBack", desc := "()V" } : Jvm.MethodName)) ∈ lw_tbl := lw_at lw_m11 151 rfl
theorem q2731 : (Jvm.Cond.instanceMethod ({ cls := "CsrCalculatorModel", name := "goesBack", desc := "()V" } : Jvm.MethodName)) ∈ lw_all := lw_g (lw_at lw_m11 152 rfl) rfl
theorem q2732 : (Jvm.Cond.code ({ cls := "CsrCalculatorModel", name := "goesBack", desc := "()V" } : Jvm.MethodName) prog_23_method_31_code (1 : Nat) (Option.none : Option Jvm.ClassFile.FieldType)) ∈ lw_all := lw_g (lw_at lw_m11 153 rfl) rfl
theorem q2734 : (Jvm.Cond.instanceMethod ({ cls := "CsrCalculatorModel", name := "rowCount", desc := "(I)I" } : Jvm.MethodName)) ∈ lw_all := lw_g (lw_at lw_m11 155 rfl) rfl
theorem q2735 : (Jvm.Cond.selects "CsrCalculatorModel" ({ cls := "CsrCalculatorModel", name := "rowCount", desc := "(I)I" } : Jvm.MethodName) ({ cls := "CsrCalculatorModel", name := "rowCount", desc := "(I)I" } : Jvm.MethodName)) ∈ lw_all := lw_g (lw_at lw_m11 156 rfl) rfl
theorem q2736 : (Jvm.Cond.code ({ cls := "CsrCalculatorModel", name := "rowCount", desc := "(I)I" } : Jvm.MethodName) prog_23_method_112_code (2 : Nat) (Option.some Jvm.ClassFile.FieldType.int)) ∈ lw_all := lw_g (lw_at lw_m11 157 rfl) rfl
theorem q2738 : (Jvm.Cond.instanceMethod ({ cls := "CsrCalculatorModel", name := "columnCount", desc := "(I)I" } : Jvm.MethodName)) ∈ lw_all := lw_g (lw_at lw_m11 159 rfl) rfl
theorem q2739 : (Jvm.Cond.selects "CsrCalculatorModel" ({ cls := "CsrCalculatorModel", name := "columnCount", desc := "(I)I" } : Jvm.MethodName) ({ cls := "CsrCalculatorModel", name := "columnCount", desc := "(I)I" } : Jvm.MethodName)) ∈ lw_all := lw_g (lw_at lw_m11 160 rfl) rfl
theorem q2740 : (Jvm.Cond.code ({ cls := "CsrCalculatorModel", name := "columnCount", desc := "(I)I" } : Jvm.MethodName) prog_23_method_113_code (2 : Nat) (Option.some Jvm.ClassFile.FieldType.int)) ∈ lw_all := lw_g (lw_at lw_m11 161 rfl) rfl
theorem q2742 : (Jvm.Cond.instanceMethod ({ cls := "CsrCalculatorModel", name := "storedCount", desc := "(I)I" } : Jvm.MethodName)) ∈ lw_all := lw_g (lw_at lw_m11 163 rfl) rfl
theorem q2743 : (Jvm.Cond.selects "CsrCalculatorModel" ({ cls := "CsrCalculatorModel", name := "storedCount", desc := "(I)I" } : Jvm.MethodName) ({ cls := "CsrCalculatorModel", name := "storedCount", desc := "(I)I" } : Jvm.MethodName)) ∈ lw_all := lw_g (lw_at lw_m11 164 rfl) rfl
theorem q2744 : (Jvm.Cond.code ({ cls := "CsrCalculatorModel", name := "storedCount", desc := "(I)I" } : Jvm.MethodName) prog_23_method_114_code (2 : Nat) (Option.some Jvm.ClassFile.FieldType.int)) ∈ lw_all := lw_g (lw_at lw_m11 165 rfl) rfl
theorem q2746 : (Jvm.Cond.instanceMethod ({ cls := "CsrCalculatorModel", name := "rowPointer", desc := "(II)I" } : Jvm.MethodName)) ∈ lw_all := lw_g (lw_at lw_m11 167 rfl) rfl
theorem q2747 : (Jvm.Cond.selects "CsrCalculatorModel" ({ cls := "CsrCalculatorModel", name := "rowPointer", desc := "(II)I" } : Jvm.MethodName) ({ cls := "CsrCalculatorModel", name := "rowPointer", desc := "(II)I" } : Jvm.MethodName)) ∈ lw_all := lw_g (lw_at lw_m11 168 rfl) rfl
theorem q2748 : (Jvm.Cond.code ({ cls := "CsrCalculatorModel", name := "rowPointer", desc := "(II)I" } : Jvm.MethodName) prog_23_method_115_code (3 : Nat) (Option.some Jvm.ClassFile.FieldType.int)) ∈ lw_all := lw_g (lw_at lw_m11 169 rfl) rfl
theorem q2750 : (Jvm.Cond.instanceMethod ({ cls := "CsrCalculatorModel", name := "columnIndex", desc := "(II)I" } : Jvm.MethodName)) ∈ lw_all := lw_g (lw_at lw_m11 171 rfl) rfl
theorem q2751 : (Jvm.Cond.selects "CsrCalculatorModel" ({ cls := "CsrCalculatorModel", name := "columnIndex", desc := "(II)I" } : Jvm.MethodName) ({ cls := "CsrCalculatorModel", name := "columnIndex", desc := "(II)I" } : Jvm.MethodName)) ∈ lw_all := lw_g (lw_at lw_m11 172 rfl) rfl
theorem q2752 : (Jvm.Cond.code ({ cls := "CsrCalculatorModel", name := "columnIndex", desc := "(II)I" } : Jvm.MethodName) prog_23_method_118_code (3 : Nat) (Option.some Jvm.ClassFile.FieldType.int)) ∈ lw_all := lw_g (lw_at lw_m11 173 rfl) rfl
theorem q2753 : (Jvm.Cond.methodLink "CsrCalculatorModel" (471 : Nat) ({ cls := "CsrCalculatorModel", name := "isStorage", desc := "(II)Z" } : Jvm.MethodName)) ∈ lw_all := lw_g (lw_at lw_m11 174 rfl) rfl
theorem q2754 : (Jvm.Cond.privateMethod ({ cls := "CsrCalculatorModel", name := "isStorage", desc := "(II)Z" } : Jvm.MethodName)) ∈ lw_tbl := lw_at lw_m11 175 rfl
theorem q2755 : (Jvm.Cond.instanceMethod ({ cls := "CsrCalculatorModel", name := "isStorage", desc := "(II)Z" } : Jvm.MethodName)) ∈ lw_all := lw_g (lw_at lw_m11 176 rfl) rfl
theorem q2756 : (Jvm.Cond.code ({ cls := "CsrCalculatorModel", name := "isStorage", desc := "(II)Z" } : Jvm.MethodName) prog_23_method_116_code (3 : Nat) (Option.some Jvm.ClassFile.FieldType.boolean)) ∈ lw_all := lw_g (lw_at lw_m11 177 rfl) rfl
theorem q2757 : (Jvm.Cond.methodLink "CsrCalculatorModel" (474 : Nat) ({ cls := "CsrCalculatorModel", name := "placeOf", desc := "(II)I" } : Jvm.MethodName)) ∈ lw_all := lw_g (lw_at lw_m11 178 rfl) rfl
theorem q2758 : (Jvm.Cond.privateMethod ({ cls := "CsrCalculatorModel", name := "placeOf", desc := "(II)I" } : Jvm.MethodName)) ∈ lw_tbl := lw_at lw_m11 179 rfl
theorem q2759 : (Jvm.Cond.instanceMethod ({ cls := "CsrCalculatorModel", name := "placeOf", desc := "(II)I" } : Jvm.MethodName)) ∈ lw_all := lw_g (lw_at lw_m11 180 rfl) rfl
theorem q2760 : (Jvm.Cond.code ({ cls := "CsrCalculatorModel", name := "placeOf", desc := "(II)I" } : Jvm.MethodName) prog_23_method_117_code (6 : Nat) (Option.some Jvm.ClassFile.FieldType.int)) ∈ lw_all := lw_g (lw_at lw_m11 181 rfl) rfl
theorem q2762 : (Jvm.Cond.instanceMethod ({ cls := "CsrCalculatorModel", name := "storedValue", desc := "(II)I" } : Jvm.MethodName)) ∈ lw_all := lw_g (lw_at lw_m11 183 rfl) rfl
theorem q2763 : (Jvm.Cond.selects "CsrCalculatorModel" ({ cls := "CsrCalculatorModel", name := "storedValue", desc := "(II)I" } : Jvm.MethodName) ({ cls := "CsrCalculatorModel", name := "storedValue", desc := "(II)I" } : Jvm.MethodName)) ∈ lw_all := lw_g (lw_at lw_m11 184 rfl) rfl
theorem q2764 : (Jvm.Cond.code ({ cls := "CsrCalculatorModel", name := "storedValue", desc := "(II)I" } : Jvm.MethodName) prog_23_method_119_code (3 : Nat) (Option.some Jvm.ClassFile.FieldType.int)) ∈ lw_all := lw_g (lw_at lw_m11 185 rfl) rfl
theorem q2766 : (Jvm.Cond.instanceMethod ({ cls := "CsrCalculatorModel", name := "rowOf", desc := "(II)I" } : Jvm.MethodName)) ∈ lw_all := lw_g (lw_at lw_m11 187 rfl) rfl
theorem q2767 : (Jvm.Cond.selects "CsrCalculatorModel" ({ cls := "CsrCalculatorModel", name := "rowOf", desc := "(II)I" } : Jvm.MethodName) ({ cls := "CsrCalculatorModel", name := "rowOf", desc := "(II)I" } : Jvm.MethodName)) ∈ lw_all := lw_g (lw_at lw_m11 188 rfl) rfl
theorem q2768 : (Jvm.Cond.code ({ cls := "CsrCalculatorModel", name := "rowOf", desc := "(II)I" } : Jvm.MethodName) prog_23_method_120_code (3 : Nat) (Option.some Jvm.ClassFile.FieldType.int)) ∈ lw_all := lw_g (lw_at lw_m11 189 rfl) rfl
theorem q2770 : (Jvm.Cond.instanceMethod ({ cls := "CsrCalculatorModel", name := "value", desc := "(III)I" } : Jvm.MethodName)) ∈ lw_all := lw_g (lw_at lw_m11 191 rfl) rfl
theorem q2771 : (Jvm.Cond.selects "CsrCalculatorModel" ({ cls := "CsrCalculatorModel", name := "value", desc := "(III)I" } : Jvm.MethodName) ({ cls := "CsrCalculatorModel", name := "value", desc := "(III)I" } : Jvm.MethodName)) ∈ lw_all := lw_g (lw_at lw_m11 192 rfl) rfl
theorem q2772 : (Jvm.Cond.code ({ cls := "CsrCalculatorModel", name := "value", desc := "(III)I" } : Jvm.MethodName) prog_23_method_121_code (4 : Nat) (Option.some Jvm.ClassFile.FieldType.int)) ∈ lw_all := lw_g (lw_at lw_m11 193 rfl) rfl
theorem q2774 : (Jvm.Cond.instanceMethod ({ cls := "CsrCalculatorModel", name := "storageIndex", desc := "(III)I" } : Jvm.MethodName)) ∈ lw_all := lw_g (lw_at lw_m11 195 rfl) rfl
theorem q2775 : (Jvm.Cond.selects "CsrCalculatorModel" ({ cls := "CsrCalculatorModel", name := "storageIndex", desc := "(III)I" } : Jvm.MethodName) ({ cls := "CsrCalculatorModel", name := "storageIndex", desc := "(III)I" } : Jvm.MethodName)) ∈ lw_all := lw_g (lw_at lw_m11 196 rfl) rfl
theorem q2776 : (Jvm.Cond.code ({ cls := "CsrCalculatorModel", name := "storageIndex", desc := "(III)I" } : Jvm.MethodName) prog_23_method_122_code (4 : Nat) (Option.some Jvm.ClassFile.FieldType.int)) ∈ lw_all := lw_g (lw_at lw_m11 197 rfl) rfl
theorem q2778 : (Jvm.Cond.instanceMethod ({ cls := "CsrCalculatorModel", name := "explicitZeros", desc := "(I)I" } : Jvm.MethodName)) ∈ lw_all := lw_g (lw_at lw_m11 199 rfl) rfl
theorem q2779 : (Jvm.Cond.selects "CsrCalculatorModel" ({ cls := "CsrCalculatorModel", name := "explicitZeros", desc := "(I)I" } : Jvm.MethodName) ({ cls := "CsrCalculatorModel", name := "explicitZeros", desc := "(I)I" } : Jvm.MethodName)) ∈ lw_all := lw_g (lw_at lw_m11 200 rfl) rfl
theorem q2780 : (Jvm.Cond.code ({ cls := "CsrCalculatorModel", name := "explicitZeros", desc := "(I)I" } : Jvm.MethodName) prog_23_method_124_code (2 : Nat) (Option.some Jvm.ClassFile.FieldType.int)) ∈ lw_all := lw_g (lw_at lw_m11 201 rfl) rfl
theorem q2781 : (Jvm.Cond.methodLink "CsrCalculatorModel" (477 : Nat) ({ cls := "CsrCalculatorModel", name := "zerosIn", desc := "(I)I" } : Jvm.MethodName)) ∈ lw_all := lw_g (lw_at lw_m11 202 rfl) rfl
theorem q2782 : (Jvm.Cond.privateMethod ({ cls := "CsrCalculatorModel", name := "zerosIn", desc := "(I)I" } : Jvm.MethodName)) ∈ lw_tbl := lw_at lw_m11 203 rfl
theorem q2783 : (Jvm.Cond.instanceMethod ({ cls := "CsrCalculatorModel", name := "zerosIn", desc := "(I)I" } : Jvm.MethodName)) ∈ lw_all := lw_g (lw_at lw_m11 204 rfl) rfl
theorem q2784 : (Jvm.Cond.code ({ cls := "CsrCalculatorModel", name := "zerosIn", desc := "(I)I" } : Jvm.MethodName) prog_23_method_123_code (4 : Nat) (Option.some Jvm.ClassFile.FieldType.int)) ∈ lw_all := lw_g (lw_at lw_m11 205 rfl) rfl
theorem q2786 : (Jvm.Cond.instanceMethod ({ cls := "CsrCalculatorModel", name := "rowLength", desc := "(II)I" } : Jvm.MethodName)) ∈ lw_all := lw_g (lw_at lw_m11 207 rfl) rfl
theorem q2787 : (Jvm.Cond.selects "CsrCalculatorModel" ({ cls := "CsrCalculatorModel", name := "rowLength", desc := "(II)I" } : Jvm.MethodName) ({ cls := "CsrCalculatorModel", name := "rowLength", desc := "(II)I" } : Jvm.MethodName)) ∈ lw_all := lw_g (lw_at lw_m11 208 rfl) rfl
theorem q2788 : (Jvm.Cond.code ({ cls := "CsrCalculatorModel", name := "rowLength", desc := "(II)I" } : Jvm.MethodName) prog_23_method_125_code (3 : Nat) (Option.some Jvm.ClassFile.FieldType.int)) ∈ lw_all := lw_g (lw_at lw_m11 209 rfl) rfl
theorem q2790 : (Jvm.Cond.instanceMethod ({ cls := "CsrCalculatorModel", name := "columnLength", desc := "(II)I" } : Jvm.MethodName)) ∈ lw_all := lw_g (lw_at lw_m11 211 rfl) rfl
theorem q2791 : (Jvm.Cond.selects "CsrCalculatorModel" ({ cls := "CsrCalculatorModel", name := "columnLength", desc := "(II)I" } : Jvm.MethodName) ({ cls := "CsrCalculatorModel", name := "columnLength", desc := "(II)I" } : Jvm.MethodName)) ∈ lw_all := lw_g (lw_at lw_m11 212 rfl) rfl
theorem q2792 : (Jvm.Cond.code ({ cls := "CsrCalculatorModel", name := "columnLength", desc := "(II)I" } : Jvm.MethodName) prog_23_method_127_code (3 : Nat) (Option.some Jvm.ClassFile.FieldType.int)) ∈ lw_all := lw_g (lw_at lw_m11 213 rfl) rfl
theorem q2793 : (Jvm.Cond.methodLink "CsrCalculatorModel" (480 : Nat) ({ cls := "CsrCalculatorModel", name := "columnLengthOf", desc := "(II)I" } : Jvm.MethodName)) ∈ lw_all := lw_g (lw_at lw_m11 214 rfl) rfl
theorem q2794 : (Jvm.Cond.privateMethod ({ cls := "CsrCalculatorModel", name := "columnLengthOf", desc := "(II)I" } : Jvm.MethodName)) ∈ lw_tbl := lw_at lw_m11 215 rfl
theorem q2795 : (Jvm.Cond.instanceMethod ({ cls := "CsrCalculatorModel", name := "columnLengthOf", desc := "(II)I" } : Jvm.MethodName)) ∈ lw_all := lw_g (lw_at lw_m11 216 rfl) rfl
theorem q2796 : (Jvm.Cond.code ({ cls := "CsrCalculatorModel", name := "columnLengthOf", desc := "(II)I" } : Jvm.MethodName) prog_23_method_126_code (5 : Nat) (Option.some Jvm.ClassFile.FieldType.int)) ∈ lw_all := lw_g (lw_at lw_m11 217 rfl) rfl
theorem q2798 : (Jvm.Cond.instanceMethod ({ cls := "CsrCalculatorModel", name := "longestRow", desc := "(I)I" } : Jvm.MethodName)) ∈ lw_all := lw_g (lw_at lw_m11 219 rfl) rfl
theorem q2799 : (Jvm.Cond.selects "CsrCalculatorModel" ({ cls := "CsrCalculatorModel", name := "longestRow", desc := "(I)I" } : Jvm.MethodName) ({ cls := "CsrCalculatorModel", name := "longestRow", desc := "(I)I" } : Jvm.MethodName)) ∈ lw_all := lw_g (lw_at lw_m11 220 rfl) rfl
theorem q2800 : (Jvm.Cond.code ({ cls := "CsrCalculatorModel", name := "longestRow", desc := "(I)I" } : Jvm.MethodName) prog_23_method_129_code (2 : Nat) (Option.some Jvm.ClassFile.FieldType.int)) ∈ lw_all := lw_g (lw_at lw_m11 221 rfl) rfl
theorem q2801 : (Jvm.Cond.methodLink "CsrCalculatorModel" (483 : Nat) ({ cls := "CsrCalculatorModel", name := "longest", desc := "(I)I" } : Jvm.MethodName)) ∈ lw_all := lw_g (lw_at lw_m11 222 rfl) rfl
theorem q2802 : (Jvm.Cond.privateMethod ({ cls := "CsrCalculatorModel", name := "longest", desc := "(I)I" } : Jvm.MethodName)) ∈ lw_tbl := lw_at lw_m11 223 rfl
theorem q2803 : (Jvm.Cond.instanceMethod ({ cls := "CsrCalculatorModel", name := "longest", desc := "(I)I" } : Jvm.MethodName)) ∈ lw_all := lw_g (lw_at lw_m11 224 rfl) rfl
theorem q2804 : (Jvm.Cond.code ({ cls := "CsrCalculatorModel", name := "longest", desc := "(I)I" } : Jvm.MethodName) prog_23_method_128_code (4 : Nat) (Option.some Jvm.ClassFile.FieldType.int)) ∈ lw_all := lw_g (lw_at lw_m11 225 rfl) rfl
theorem q2806 : (Jvm.Cond.instanceMethod ({ cls := "CsrCalculatorModel", name := "emptyRows", desc := "(I)I" } : Jvm.MethodName)) ∈ lw_all := lw_g (lw_at lw_m11 227 rfl) rfl
theorem q2807 : (Jvm.Cond.selects "CsrCalculatorModel" ({ cls := "CsrCalculatorModel", name := "emptyRows", desc := "(I)I" } : Jvm.MethodName) ({ cls := "CsrCalculatorModel", name := "emptyRows", desc := "(I)I" } : Jvm.MethodName)) ∈ lw_all := lw_g (lw_at lw_m11 228 rfl) rfl
theorem q2808 : (Jvm.Cond.code ({ cls := "CsrCalculatorModel", name := "emptyRows", desc := "(I)I" } : Jvm.MethodName) prog_23_method_131_code (2 : Nat) (Option.some Jvm.ClassFile.FieldType.int)) ∈ lw_all := lw_g (lw_at lw_m11 229 rfl) rfl
theorem q2809 : (Jvm.Cond.methodLink "CsrCalculatorModel" (486 : Nat) ({ cls := "CsrCalculatorModel", name := "empties", desc := "(I)I" } : Jvm.MethodName)) ∈ lw_all := lw_g (lw_at lw_m11 230 rfl) rfl
theorem q2810 : (Jvm.Cond.privateMethod ({ cls := "CsrCalculatorModel", name := "empties", desc := "(I)I" } : Jvm.MethodName)) ∈ lw_tbl := lw_at lw_m11 231 rfl
theorem q2811 : (Jvm.Cond.instanceMethod ({ cls := "CsrCalculatorModel", name := "empties", desc := "(I)I" } : Jvm.MethodName)) ∈ lw_all := lw_g (lw_at lw_m11 232 rfl) rfl
theorem q2812 : (Jvm.Cond.code ({ cls := "CsrCalculatorModel", name := "empties", desc := "(I)I" } : Jvm.MethodName) prog_23_method_130_code (4 : Nat) (Option.some Jvm.ClassFile.FieldType.int)) ∈ lw_all := lw_g (lw_at lw_m11 233 rfl) rfl
theorem q2814 : (Jvm.Cond.instanceMethod ({ cls := "CsrCalculatorModel", name := "bandwidth", desc := "(I)I" } : Jvm.MethodName)) ∈ lw_all := lw_g (lw_at lw_m11 235 rfl) rfl
theorem q2815 : (Jvm.Cond.selects "CsrCalculatorModel" ({ cls := "CsrCalculatorModel", name := "bandwidth", desc := "(I)I" } : Jvm.MethodName) ({ cls := "CsrCalculatorModel", name := "bandwidth", desc := "(I)I" } : Jvm.MethodName)) ∈ lw_all := lw_g (lw_at lw_m11 236 rfl) rfl
theorem q2816 : (Jvm.Cond.code ({ cls := "CsrCalculatorModel", name := "bandwidth", desc := "(I)I" } : Jvm.MethodName) prog_23_method_134_code (2 : Nat) (Option.some Jvm.ClassFile.FieldType.int)) ∈ lw_all := lw_g (lw_at lw_m11 237 rfl) rfl
theorem q2817 : (Jvm.Cond.methodLink "CsrCalculatorModel" (492 : Nat) ({ cls := "CsrCalculatorModel", name := "band", desc := "(I)I" } : Jvm.MethodName)) ∈ lw_all := lw_g (lw_at lw_m11 238 rfl) rfl
theorem q2818 : (Jvm.Cond.privateMethod ({ cls := "CsrCalculatorModel", name := "band", desc := "(I)I" } : Jvm.MethodName)) ∈ lw_tbl := lw_at lw_m11 239 rfl
theorem q2819 : (Jvm.Cond.instanceMethod ({ cls := "CsrCalculatorModel", name := "band", desc := "(I)I" } : Jvm.MethodName)) ∈ lw_all := lw_g (lw_at lw_m12 0 rfl) rfl
theorem q2820 : (Jvm.Cond.code ({ cls := "CsrCalculatorModel", name := "band", desc := "(I)I" } : Jvm.MethodName) prog_23_method_133_code (5 : Nat) (Option.some Jvm.ClassFile.FieldType.int)) ∈ lw_all := lw_g (lw_at lw_m12 1 rfl) rfl
theorem q2821 : (Jvm.Cond.methodLink "CsrCalculatorModel" (489 : Nat) ({ cls := "CsrCalculatorModel", name := "without", desc := "(I)I" } : Jvm.MethodName)) ∈ lw_all := lw_g (lw_at lw_m12 2 rfl) rfl
theorem q2822 : (Jvm.Cond.static ({ cls := "CsrCalculatorModel", name := "without", desc := "(I)I" } : Jvm.MethodName)) ∈ lw_all := lw_g (lw_at lw_m12 3 rfl) rfl
theorem q2823 : (Jvm.Cond.code ({ cls := "CsrCalculatorModel", name := "without", desc := "(I)I" } : Jvm.MethodName) prog_23_method_132_code (1 : Nat) (Option.some Jvm.ClassFile.FieldType.int)) ∈ lw_all := lw_g (lw_at lw_m12 4 rfl) rfl
theorem q2825 : (Jvm.Cond.instanceMethod ({ cls := "CsrCalculatorModel", name := "rowSum", desc := "(II)I" } : Jvm.MethodName)) ∈ lw_all := lw_g (lw_at lw_m12 6 rfl) rfl
theorem q2826 : (Jvm.Cond.selects "CsrCalculatorModel" ({ cls := "CsrCalculatorModel", name := "rowSum", desc := "(II)I" } : Jvm.MethodName) ({ cls := "CsrCalculatorModel", name := "rowSum", desc := "(II)I" } : Jvm.MethodName)) ∈ lw_all := lw_g (lw_at lw_m12 7 rfl) rfl
theorem q2827 : (Jvm.Cond.code ({ cls := "CsrCalculatorModel", name := "rowSum", desc := "(II)I" } : Jvm.MethodName) prog_23_method_136_code (3 : Nat) (Option.some Jvm.ClassFile.FieldType.int)) ∈ lw_all := lw_g (lw_at lw_m12 8 rfl) rfl
theorem q2828 : (Jvm.Cond.methodLink "CsrCalculatorModel" (495 : Nat) ({ cls := "CsrCalculatorModel", name := "sumOf", desc := "(II)I" } : Jvm.MethodName)) ∈ lw_all := lw_g (lw_at lw_m12 9 rfl) rfl
theorem q2829 : (Jvm.Cond.privateMethod ({ cls := "CsrCalculatorModel", name := "sumOf", desc := "(II)I" } : Jvm.MethodName)) ∈ lw_tbl := lw_at lw_m12 10 rfl
theorem q2830 : (Jvm.Cond.instanceMethod ({ cls := "CsrCalculatorModel", name := "sumOf", desc := "(II)I" } : Jvm.MethodName)) ∈ lw_all := lw_g (lw_at lw_m12 11 rfl) rfl
theorem q2831 : (Jvm.Cond.code ({ cls := "CsrCalculatorModel", name := "sumOf", desc := "(II)I" } : Jvm.MethodName) prog_23_method_135_code (5 : Nat) (Option.some Jvm.ClassFile.FieldType.int)) ∈ lw_all := lw_g (lw_at lw_m12 12 rfl) rfl
theorem q2833 : (Jvm.Cond.instanceMethod ({ cls := "CsrCalculatorModel", name := "largestMagnitude", desc := "(I)I" } : Jvm.MethodName)) ∈ lw_all := lw_g (lw_at lw_m12 14 rfl) rfl
theorem q2834 : (Jvm.Cond.selects "CsrCalculatorModel" ({ cls := "CsrCalculatorModel", name := "largestMagnitude", desc := "(I)I" } : Jvm.MethodName) ({ cls := "CsrCalculatorModel", name := "largestMagnitude", desc := "(I)I" } : Jvm.MethodName)) ∈ lw_all := lw_g (lw_at lw_m12 15 rfl) rfl
theorem q2835 : (Jvm.Cond.code ({ cls := "CsrCalculatorModel", name := "largestMagnitude", desc := "(I)I" } : Jvm.MethodName) prog_23_method_138_code (2 : Nat) (Option.some Jvm.ClassFile.FieldType.int)) ∈ lw_all := lw_g (lw_at lw_m12 16 rfl) rfl
theorem q2836 : (Jvm.Cond.methodLink "CsrCalculatorModel" (498 : Nat) ({ cls := "CsrCalculatorModel", name := "largest", desc := "(I)I" } : Jvm.MethodName)) ∈ lw_all := lw_g (lw_at lw_m12 17 rfl) rfl
theorem q2837 : (Jvm.Cond.privateMethod ({ cls := "CsrCalculatorModel", name := "largest", desc := "(I)I" } : Jvm.MethodName)) ∈ lw_tbl := lw_at lw_m12 18 rfl
theorem q2838 : (Jvm.Cond.instanceMethod ({ cls := "CsrCalculatorModel", name := "largest", desc := "(I)I" } : Jvm.MethodName)) ∈ lw_all := lw_g (lw_at lw_m12 19 rfl) rfl
theorem q2839 : (Jvm.Cond.code ({ cls := "CsrCalculatorModel", name := "largest", desc := "(I)I" } : Jvm.MethodName) prog_23_method_137_code (4 : Nat) (Option.some Jvm.ClassFile.FieldType.int)) ∈ lw_all := lw_g (lw_at lw_m12 20 rfl) rfl
theorem q2841 : (Jvm.Cond.instanceMethod ({ cls := "CsrCalculatorModel", name := "trace", desc := "(I)I" } : Jvm.MethodName)) ∈ lw_all := lw_g (lw_at lw_m12 22 rfl) rfl
theorem q2842 : (Jvm.Cond.selects "CsrCalculatorModel" ({ cls := "CsrCalculatorModel", name := "trace", desc := "(I)I" } : Jvm.MethodName) ({ cls := "CsrCalculatorModel", name := "trace", desc := "(I)I" } : Jvm.MethodName)) ∈ lw_all := lw_g (lw_at lw_m12 23 rfl) rfl
theorem q2843 : (Jvm.Cond.code ({ cls := "CsrCalculatorModel", name := "trace", desc := "(I)I" } : Jvm.MethodName) prog_23_method_140_code (4 : Nat) (Option.some Jvm.ClassFile.FieldType.int)) ∈ lw_all := lw_g (lw_at lw_m12 24 rfl) rfl
theorem q2844 : (Jvm.Cond.methodLink "CsrCalculatorModel" (501 : Nat) ({ cls := "CsrCalculatorModel", name := "isSquare", desc := "(I)Z" } : Jvm.MethodName)) ∈ lw_all := lw_g (lw_at lw_m12 25 rfl) rfl
theorem q2845 : (Jvm.Cond.privateMethod ({ cls := "CsrCalculatorModel", name := "isSquare", desc := "(I)Z" } : Jvm.MethodName)) ∈ lw_tbl := lw_at lw_m12 26 rfl
theorem q2846 : (Jvm.Cond.instanceMethod ({ cls := "CsrCalculatorModel", name := "isSquare", desc := "(I)Z" } : Jvm.MethodName)) ∈ lw_all := lw_g (lw_at lw_m12 27 rfl) rfl
theorem q2847 : (Jvm.Cond.code ({ cls := "CsrCalculatorModel", name := "isSquare", desc := "(I)Z" } : Jvm.MethodName) prog_23_method_139_code (2 : Nat) (Option.some Jvm.ClassFile.FieldType.boolean)) ∈ lw_all := lw_g (lw_at lw_m12 28 rfl) rfl
theorem q2849 : (Jvm.Cond.instanceMethod ({ cls := "CsrCalculatorModel", name := "isSymmetric", desc := "(I)Z" } : Jvm.MethodName)) ∈ lw_all := lw_g (lw_at lw_m12 30 rfl) rfl
theorem q2850 : (Jvm.Cond.selects "CsrCalculatorModel" ({ cls := "CsrCalculatorModel", name := "isSymmetric", desc := "(I)Z" } : Jvm.MethodName) ({ cls := "CsrCalculatorModel", name := "isSymmetric", desc := "(I)Z" } : Jvm.MethodName)) ∈ lw_all := lw_g (lw_at lw_m12 31 rfl) rfl
theorem q2851 : (Jvm.Cond.code ({ cls := "CsrCalculatorModel", name := "isSymmetric", desc := "(I)Z" } : Jvm.MethodName) prog_23_method_142_code (2 : Nat) (Option.some Jvm.ClassFile.FieldType.boolean)) ∈ lw_all := lw_g (lw_at lw_m12 32 rfl) rfl
theorem q2852 : (Jvm.Cond.methodLink "CsrCalculatorModel" (504 : Nat) ({ cls := "CsrCalculatorModel", name := "isMirrored", desc := "(I)Z" } : Jvm.MethodName)) ∈ lw_all := lw_g (lw_at lw_m12 33 rfl) rfl
theorem q2853 : (Jvm.Cond.privateMethod ({ cls := "CsrCalculatorModel", name := "isMirrored", desc := "(I)Z" } : Jvm.MethodName)) ∈ lw_tbl := lw_at lw_m12 34 rfl
theorem q2854 : (Jvm.Cond.instanceMethod ({ cls := "CsrCalculatorModel", name := "isMirrored", desc := "(I)Z" } : Jvm.MethodName)) ∈ lw_all := lw_g (lw_at lw_m12 35 rfl) rfl
theorem q2855 : (Jvm.Cond.code ({ cls := "CsrCalculatorModel", name := "isMirrored", desc := "(I)Z" } : Jvm.MethodName) prog_23_method_141_code (4 : Nat) (Option.some Jvm.ClassFile.FieldType.boolean)) ∈ lw_all := lw_g (lw_at lw_m12 36 rfl) rfl
theorem q2857 : (Jvm.Cond.instanceMethod ({ cls := "CsrCalculatorModel", name := "haveSameValues", desc := "(II)Z" } : Jvm.MethodName)) ∈ lw_all := lw_g (lw_at lw_m12 38 rfl) rfl
theorem q2858 : (Jvm.Cond.selects "CsrCalculatorModel" ({ cls := "CsrCalculatorModel", name := "haveSameValues", desc := "(II)Z" } : Jvm.MethodName) ({ cls := "CsrCalculatorModel", name := "haveSameValues", desc := "(II)Z" } : Jvm.MethodName)) ∈ lw_all := lw_g (lw_at lw_m12 39 rfl) rfl
theorem q2859 : (Jvm.Cond.code ({ cls := "CsrCalculatorModel", name := "haveSameValues", desc := "(II)Z" } : Jvm.MethodName) prog_23_method_144_code (3 : Nat) (Option.some Jvm.ClassFile.FieldType.boolean)) ∈ lw_all := lw_g (lw_at lw_m12 40 rfl) rfl
theorem q2860 : (Jvm.Cond.methodLink "CsrCalculatorModel" (507 : Nat) ({ cls := "CsrCalculatorModel", name := "areSame", desc := "(III)Z" } : Jvm.MethodName)) ∈ lw_all := lw_g (lw_at lw_m12 41 rfl) rfl
theorem q2861 : (Jvm.Cond.privateMethod ({ cls := "CsrCalculatorModel", name := "areSame", desc := "(III)Z" } : Jvm.MethodName)) ∈ lw_tbl := lw_at lw_m12 42 rfl
theorem q2862 : (Jvm.Cond.instanceMethod ({ cls := "CsrCalculatorModel", name := "areSame", desc := "(III)Z" } : Jvm.MethodName)) ∈ lw_all := lw_g (lw_at lw_m12 43 rfl) rfl
theorem q2863 : (Jvm.Cond.code ({ cls := "CsrCalculatorModel", name := "areSame", desc := "(III)Z" } : Jvm.MethodName) prog_23_method_143_code (5 : Nat) (Option.some Jvm.ClassFile.FieldType.boolean)) ∈ lw_all := lw_g (lw_at lw_m12 44 rfl) rfl
theorem q2865 : (Jvm.Cond.instanceMethod ({ cls := "CsrCalculatorModel", name := "haveSameStructure", desc := "(II)Z" } : Jvm.MethodName)) ∈ lw_all := lw_g (lw_at lw_m12 46 rfl) rfl
theorem q2866 : (Jvm.Cond.selects "CsrCalculatorModel" ({ cls := "CsrCalculatorModel", name := "haveSameStructure", desc := "(II)Z" } : Jvm.MethodName) ({ cls := "CsrCalculatorModel", name := "haveSameStructure", desc := "(II)Z" } : Jvm.MethodName)) ∈ lw_all := lw_g (lw_at lw_m12 47 rfl) rfl
theorem q2867 : (Jvm.Cond.code ({ cls := "CsrCalculatorModel", name := "haveSameStructure", desc := "(II)Z" } : Jvm.MethodName) prog_23_method_145_code (3 : Nat) (Option.some Jvm.ClassFile.FieldType.boolean)) ∈ lw_all := lw_g (lw_at lw_m12 48 rfl) rfl
theorem q2869 : (Jvm.Cond.instanceMethod ({ cls := "CsrCalculatorModel", name := "sumObstacle", desc := "(II)I" } : Jvm.MethodName)) ∈ lw_all := lw_g (lw_at lw_m12 50 rfl) rfl
theorem q2870 : (Jvm.Cond.selects "CsrCalculatorModel" ({ cls := "CsrCalculatorModel", name := "sumObstacle", desc := "(II)I" } : Jvm.MethodName) ({ cls := "CsrCalculatorModel", name := "sumObstacle", desc := "(II)I" } : Jvm.MethodName)) ∈ lw_all := lw_g (lw_at lw_m12 51 rfl) rfl
theorem q2871 : (Jvm.Cond.code ({ cls := "CsrCalculatorModel", name := "sumObstacle", desc := "(II)I" } : Jvm.MethodName) prog_23_method_147_code (3 : Nat) (Option.some Jvm.ClassFile.FieldType.int)) ∈ lw_all := lw_g (lw_at lw_m12 52 rfl) rfl
theorem q2872 : (Jvm.Cond.methodLink "CsrCalculatorModel" (510 : Nat) ({ cls := "CsrCalculatorModel", name := "areTwo", desc := "(II)Z" } : Jvm.MethodName)) ∈ lw_all := lw_g (lw_at lw_m12 53 rfl) rfl
theorem q2873 : (Jvm.Cond.privateMethod ({ cls := "CsrCalculatorModel", name := "areTwo", desc := "(II)Z" } : Jvm.MethodName)) ∈ lw_tbl := lw_at lw_m12 54 rfl
theorem q2874 : (Jvm.Cond.instanceMethod ({ cls := "CsrCalculatorModel", name := "areTwo", desc := "(II)Z" } : Jvm.MethodName)) ∈ lw_all := lw_g (lw_at lw_m12 55 rfl) rfl
theorem q2875 : (Jvm.Cond.code ({ cls := "CsrCalculatorModel", name := "areTwo", desc := "(II)Z" } : Jvm.MethodName) prog_23_method_146_code (3 : Nat) (Option.some Jvm.ClassFile.FieldType.boolean)) ∈ lw_all := lw_g (lw_at lw_m12 56 rfl) rfl
theorem q2877 : (Jvm.Cond.instanceMethod ({ cls := "CsrCalculatorModel", name := "productObstacle", desc := "(II)I" } : Jvm.MethodName)) ∈ lw_all := lw_g (lw_at lw_m12 58 rfl) rfl
theorem q2878 : (Jvm.Cond.selects "CsrCalculatorModel" ({ cls := "CsrCalculatorModel", name := "productObstacle", desc := "(II)I" } : Jvm.MethodName) ({ cls := "CsrCalculatorModel", name := "productObstacle", desc := "(II)I" } : Jvm.MethodName)) ∈ lw_all := lw_g (lw_at lw_m12 59 rfl) rfl
theorem q2879 : (Jvm.Cond.code ({ cls := "CsrCalculatorModel", name := "productObstacle", desc := "(II)I" } : Jvm.MethodName) prog_23_method_149_code (3 : Nat) (Option.some Jvm.ClassFile.FieldType.int)) ∈ lw_all := lw_g (lw_at lw_m12 60 rfl) rfl
theorem q2880 : (Jvm.Cond.methodLink "CsrCalculatorModel" (513 : Nat) ({ cls := "CsrCalculatorModel", name := "hasProduct", desc := "(II)Z" } : Jvm.MethodName)) ∈ lw_all := lw_g (lw_at lw_m12 61 rfl) rfl
theorem q2881 : (Jvm.Cond.privateMethod ({ cls := "CsrCalculatorModel", name := "hasProduct", desc := "(II)Z" } : Jvm.MethodName)) ∈ lw_tbl := lw_at lw_m12 62 rfl
theorem q2882 : (Jvm.Cond.instanceMethod ({ cls := "CsrCalculatorModel", name := "hasProduct", desc := "(II)Z" } : Jvm.MethodName)) ∈ lw_all := lw_g (lw_at lw_m12 63 rfl) rfl
theorem q2883 : (Jvm.Cond.code ({ cls := "CsrCalculatorModel", name := "hasProduct", desc := "(II)Z" } : Jvm.MethodName) prog_23_method_148_code (3 : Nat) (Option.some Jvm.ClassFile.FieldType.boolean)) ∈ lw_all := lw_g (lw_at lw_m12 64 rfl) rfl
theorem q2885 : (Jvm.Cond.instanceMethod ({ cls := "CsrCalculatorModel", name := "productStoredCount", desc := "(II)I" } : Jvm.MethodName)) ∈ lw_all := lw_g (lw_at lw_m12 66 rfl) rfl
theorem q2886 : (Jvm.Cond.selects "CsrCalculatorModel" ({ cls := "CsrCalculatorModel", name := "productStoredCount", desc := "(II)I" } : Jvm.MethodName) ({ cls := "CsrCalculatorModel", name := "productStoredCount", desc := "(II)I" } : Jvm.MethodName)) ∈ lw_all := lw_g (lw_at lw_m12 67 rfl) rfl
theorem q2887 : (Jvm.Cond.code ({ cls := "CsrCalculatorModel", name := "productStoredCount", desc := "(II)I" } : Jvm.MethodName) prog_23_method_151_code (6 : Nat) (Option.some Jvm.ClassFile.FieldType.int)) ∈ lw_all := lw_g (lw_at lw_m12 68 rfl) rfl
theorem q2888 : (Jvm.Cond.methodLink "CsrCalculatorModel" (516 : Nat) ({ cls := "CsrCalculatorModel", name := "triples", desc := "(IIII)I" } : Jvm.MethodName)) ∈ lw_all := lw_g (lw_at lw_m12 69 rfl) rfl
theorem q2889 : (Jvm.Cond.privateMethod ({ cls := "CsrCalculatorModel", name := "triples", desc := "(IIII)I" } : Jvm.MethodName)) ∈ lw_tbl := lw_at lw_m12 70 rfl
theorem q2890 : (Jvm.Cond.instanceMethod ({ cls := "CsrCalculatorModel", name := "triples", desc := "(IIII)I" } : Jvm.MethodName)) ∈ lw_all := lw_g (lw_at lw_m12 71 rfl) rfl
theorem q2891 : (Jvm.Cond.code ({ cls := "CsrCalculatorModel", name := "triples", desc := "(IIII)I" } : Jvm.MethodName) prog_23_method_150_code (7 : Nat) (Option.some Jvm.ClassFile.FieldType.int)) ∈ lw_all := lw_g (lw_at lw_m12 72 rfl) rfl
theorem q2893 : (Jvm.Cond.instanceMethod ({ cls := "CsrCalculatorModel", name := "productWork", desc := "(II)I" } : Jvm.MethodName)) ∈ lw_all := lw_g (lw_at lw_m12 74 rfl) rfl
theorem q2894 : (Jvm.Cond.selects "CsrCalculatorModel" ({ cls := "CsrCalculatorModel", name := "productWork", desc := "(II)I" } : Jvm.MethodName) ({ cls := "CsrCalculatorModel", name := "productWork", desc := "(II)I" } : Jvm.MethodName)) ∈ lw_all := lw_g (lw_at lw_m12 75 rfl) rfl
theorem q2895 : (Jvm.Cond.code ({ cls := "CsrCalculatorModel", name := "productWork", desc := "(II)I" } : Jvm.MethodName) prog_23_method_152_code (6 : Nat) (Option.some Jvm.ClassFile.FieldType.int)) ∈ lw_all := lw_g (lw_at lw_m12 76 rfl) rfl
theorem q2897 : (Jvm.Cond.instanceMethod ({ cls := "CsrCalculatorModel", name := "sumStoredCount", desc := "(II)I" } : Jvm.MethodName)) ∈ lw_all := lw_g (lw_at lw_m12 78 rfl) rfl
theorem q2898 : (Jvm.Cond.selects "CsrCalculatorModel" ({ cls := "CsrCalculatorModel", name := "sumStoredCount", desc := "(II)I" } : Jvm.MethodName) ({ cls := "CsrCalculatorModel", name := "sumStoredCount", desc := "(II)I" } : Jvm.MethodName)) ∈ lw_all := lw_g (lw_at lw_m12 79 rfl) rfl
theorem q2899 : (Jvm.Cond.code ({ cls := "CsrCalculatorModel", name := "sumStoredCount", desc := "(II)I" } : Jvm.MethodName) prog_23_method_153_code (5 : Nat) (Option.some Jvm.ClassFile.FieldType.int)) ∈ lw_all := lw_g (lw_at lw_m12 80 rfl) rfl
theorem q2901 : (Jvm.Cond.instanceMethod ({ cls := "CsrCalculatorModel", name := "costliestEntry", desc := "(II)I" } : Jvm.MethodName)) ∈ lw_all := lw_g (lw_at lw_m12 82 rfl) rfl
theorem q2902 : (Jvm.Cond.selects "CsrCalculatorModel" ({ cls := "CsrCalculatorModel", name := "costliestEntry", desc := "(II)I" } : Jvm.MethodName) ({ cls := "CsrCalculatorModel", name := "costliestEntry", desc := "(II)I" } : Jvm.MethodName)) ∈ lw_all := lw_g (lw_at lw_m12 83 rfl) rfl
theorem q2903 : (Jvm.Cond.code ({ cls := "CsrCalculatorModel", name := "costliestEntry", desc := "(II)I" } : Jvm.MethodName) prog_23_method_155_code (3 : Nat) (Option.some Jvm.ClassFile.FieldType.int)) ∈ lw_all := lw_g (lw_at lw_m12 84 rfl) rfl
theorem q2904 : (Jvm.Cond.methodLink "CsrCalculatorModel" (519 : Nat) ({ cls := "CsrCalculatorModel", name := "costliest", desc := "(II)I" } : Jvm.MethodName)) ∈ lw_all := lw_g (lw_at lw_m12 85 rfl) rfl
theorem q2905 : (Jvm.Cond.privateMethod ({ cls := "CsrCalculatorModel", name := "costliest", desc := "(II)I" } : Jvm.MethodName)) ∈ lw_tbl := lw_at lw_m12 86 rfl
theorem q2906 : (Jvm.Cond.instanceMethod ({ cls := "CsrCalculatorModel", name := "costliest", desc := "(II)I" } : Jvm.MethodName)) ∈ lw_all := lw_g (lw_at lw_m12 87 rfl) rfl
theorem q2907 : (Jvm.Cond.code ({ cls := "CsrCalculatorModel", name := "costliest", desc := "(II)I" } : Jvm.MethodName) prog_23_method_154_code (8 : Nat) (Option.some Jvm.ClassFile.FieldType.int)) ∈ lw_all := lw_g (lw_at lw_m12 88 rfl) rfl
theorem q2909 : (Jvm.Cond.instanceMethod ({ cls := "CsrCalculatorModel", name := "totalWork", desc := "()I" } : Jvm.MethodName)) ∈ lw_all := lw_g (lw_at lw_m12 90 rfl) rfl
theorem q2910 : (Jvm.Cond.selects "CsrCalculatorModel" ({ cls := "CsrCalculatorModel", name := "totalWork", desc := "()I" } : Jvm.MethodName) ({ cls := "CsrCalculatorModel", name := "totalWork", desc := "()I" } : Jvm.MethodName)) ∈ lw_all := lw_g (lw_at lw_m12 91 rfl) rfl
theorem q2911 : (Jvm.Cond.code ({ cls := "CsrCalculatorModel", name := "totalWork", desc := "()I" } : Jvm.MethodName) prog_23_method_156_code (1 : Nat) (Option.some Jvm.ClassFile.FieldType.int)) ∈ lw_all := lw_g (lw_at lw_m12 92 rfl) rfl
theorem q2912 : (Jvm.Cond.methodLink "CsrCalculatorModel" (522 : Nat) ({ cls := "CsrCalculatorModel", name := "told", desc := "(I)I" } : Jvm.MethodName)) ∈ lw_all := lw_g (lw_at lw_m12 93 rfl) rfl
theorem q2913 : (Jvm.Cond.privateMethod ({ cls := "CsrCalculatorModel", name := "told", desc := "(I)I" } : Jvm.MethodName)) ∈ lw_tbl := lw_at lw_m12 94 rfl
theorem q2914 : (Jvm.Cond.instanceMethod ({ cls := "CsrCalculatorModel", name := "told", desc := "(I)I" } : Jvm.MethodName)) ∈ lw_all := lw_g (lw_at lw_m12 95 rfl) rfl
theorem q2915 : (Jvm.Cond.code ({ cls := "CsrCalculatorModel", name := "told", desc := "(I)I" } : Jvm.MethodName) prog_23_method_111_code (2 : Nat) (Option.some Jvm.ClassFile.FieldType.int)) ∈ lw_all := lw_g (lw_at lw_m12 96 rfl) rfl
theorem q2917 : (Jvm.Cond.instanceMethod ({ cls := "CsrCalculatorModel", name := "violations", desc := "()I" } : Jvm.MethodName)) ∈ lw_all := lw_g (lw_at lw_m12 98 rfl) rfl
theorem q2918 : (Jvm.Cond.selects "CsrCalculatorModel" ({ cls := "CsrCalculatorModel", name := "violations", desc := "()I" } : Jvm.MethodName) ({ cls := "CsrCalculatorModel", name := "violations", desc := "()I" } : Jvm.MethodName)) ∈ lw_all := lw_g (lw_at lw_m12 99 rfl) rfl
theorem q2919 : (Jvm.Cond.code ({ cls := "CsrCalculatorModel", name := "violations", desc := "()I" } : Jvm.MethodName) prog_23_method_162_code (4 : Nat) (Option.some Jvm.ClassFile.FieldType.int)) ∈ lw_all := lw_g (lw_at lw_m12 100 rfl) rfl
theorem q2920 : (Jvm.Cond.methodLink "CsrCalculatorModel" (532 : Nat) ({ cls := "CsrCalculatorModel", name := "pointerFaults", desc := "(I)I" } : Jvm.MethodName)) ∈ lw_all := lw_g (lw_at lw_m12 101 rfl) rfl
theorem q2921 : (Jvm.Cond.privateMethod ({ cls := "CsrCalculatorModel", name := "pointerFaults", desc := "(I)I" } : Jvm.MethodName)) ∈ lw_tbl := lw_at lw_m12 102 rfl
theorem q2922 : (Jvm.Cond.instanceMethod ({ cls := "CsrCalculatorModel", name := "pointerFaults", desc := "(I)I" } : Jvm.MethodName)) ∈ lw_all := lw_g (lw_at lw_m12 103 rfl) rfl
theorem q2923 : (Jvm.Cond.code ({ cls := "CsrCalculatorModel", name := "pointerFaults", desc := "(I)I" } : Jvm.MethodName) prog_23_method_157_code (4 : Nat) (Option.some Jvm.ClassFile.FieldType.int)) ∈ lw_all := lw_g (lw_at lw_m12 104 rfl) rfl
theorem q2924 : (Jvm.Cond.methodLink "CsrCalculatorModel" (535 : Nat) ({ cls := "CsrCalculatorModel", name := "turnFault", desc := "(I)I" } : Jvm.MethodName)) ∈ lw_all := lw_g (lw_at lw_m12 105 rfl) rfl
theorem q2925 : (Jvm.Cond.privateMethod ({ cls := "CsrCalculatorModel", name := "turnFault", desc := "(I)I" } : Jvm.MethodName)) ∈ lw_tbl := lw_at lw_m12 106 rfl
theorem q2926 : (Jvm.Cond.instanceMethod ({ cls := "CsrCalculatorModel", name := "turnFault", desc := "(I)I" } : Jvm.MethodName)) ∈ lw_all := lw_g (lw_at lw_m12 107 rfl) rfl
theorem q2927 : (Jvm.Cond.code ({ cls := "CsrCalculatorModel", name := "turnFault", desc := "(I)I" } : Jvm.MethodName) prog_23_method_158_code (3 : Nat) (Option.some Jvm.ClassFile.FieldType.int)) ∈ lw_all := lw_g (lw_at lw_m12 108 rfl) rfl
theorem q2928 : (Jvm.Cond.methodLink "CsrCalculatorModel" (538 : Nat) ({ cls := "CsrCalculatorModel", name := "isProductWrong", desc := "(II)Z" } : Jvm.MethodName)) ∈ lw_all := lw_g (lw_at lw_m12 109 rfl) rfl
theorem q2929 : (Jvm.Cond.privateMethod ({ cls := "CsrCalculatorModel", name := "isProductWrong", desc := "(II)Z" } : Jvm.MethodName)) ∈ lw_tbl := lw_at lw_m12 110 rfl
theorem q2930 : (Jvm.Cond.instanceMethod ({ cls := "CsrCalculatorModel", name := "isProductWrong", desc := "(II)Z" } : Jvm.MethodName)) ∈ lw_all := lw_g (lw_at lw_m12 111 rfl) rfl
theorem q2931 : (Jvm.Cond.code ({ cls := "CsrCalculatorModel", name := "isProductWrong", desc := "(II)Z" } : Jvm.MethodName) prog_23_method_161_code (5 : Nat) (Option.some Jvm.ClassFile.FieldType.boolean)) ∈ lw_all := lw_g (lw_at lw_m12 112 rfl) rfl
theorem q2932 : (Jvm.Cond.methodLink "CsrCalculatorModel" (525 : Nat) ({ cls := "CsrCalculatorModel", name := "sparse", desc := "(IIII)J" } : Jvm.MethodName)) ∈ lw_all := lw_g (lw_at lw_m12 113 rfl) rfl
theorem q2933 : (Jvm.Cond.privateMethod ({ cls := "CsrCalculatorModel", name := "sparse", desc := "(IIII)J" } : Jvm.MethodName)) ∈ lw_tbl := lw_at lw_m12 114 rfl
theorem q2934 : (Jvm.Cond.instanceMethod ({ cls := "CsrCalculatorModel", name := "sparse", desc := "(IIII)J" } : Jvm.MethodName)) ∈ lw_all := lw_g (lw_at lw_m12 115 rfl) rfl
theorem q2935 : (Jvm.Cond.code ({ cls := "CsrCalculatorModel", name := "sparse", desc := "(IIII)J" } : Jvm.MethodName) prog_23_method_159_code (8 : Nat) (Option.some Jvm.ClassFile.FieldType.long)) ∈ lw_all := lw_g (lw_at lw_m12 116 rfl) rfl
theorem q2936 : (Jvm.Cond.methodLink "CsrCalculatorModel" (529 : Nat) ({ cls := "CsrCalculatorModel", name := "dense", desc := "(IIII)J" } : Jvm.MethodName)) ∈ lw_all := lw_g (lw_at lw_m12 117 rfl) rfl
theorem q2937 : (Jvm.Cond.privateMethod ({ cls := "CsrCalculatorModel", name := "dense", desc := "(IIII)J" } : Jvm.MethodName)) ∈ lw_tbl := lw_at lw_m12 118 rfl
theorem q2938 : (Jvm.Cond.instanceMethod ({ cls := "CsrCalculatorModel", name := "dense", desc := "(IIII)J" } : Jvm.MethodName)) ∈ lw_all := lw_g (lw_at lw_m12 119 rfl) rfl
theorem q2939 : (Jvm.Cond.code ({ cls := "CsrCalculatorModel", name := "dense", desc := "(IIII)J" } : Jvm.MethodName) prog_23_method_160_code (8 : Nat) (Option.some Jvm.ClassFile.FieldType.long)) ∈ lw_all := lw_g (lw_at lw_m12 120 rfl) rfl
theorem q2941 : (Jvm.Cond.instanceMethod ({ cls := "CsrCalculatorModel", name := "density", desc := "(I)F" } : Jvm.MethodName)) ∈ lw_all := lw_g (lw_at lw_m12 122 rfl) rfl
theorem q2942 : (Jvm.Cond.selects "CsrCalculatorModel" ({ cls := "CsrCalculatorModel", name := "density", desc := "(I)F" } : Jvm.MethodName) ({ cls := "CsrCalculatorModel", name := "density", desc := "(I)F" } : Jvm.MethodName)) ∈ lw_all := lw_g (lw_at lw_m12 123 rfl) rfl
theorem q2943 : (Jvm.Cond.code ({ cls := "CsrCalculatorModel", name := "density", desc := "(I)F" } : Jvm.MethodName) prog_23_method_163_code (2 : Nat) (Option.some Jvm.ClassFile.FieldType.float)) ∈ lw_all := lw_g (lw_at lw_m12 124 rfl) rfl
theorem q2945 : (Jvm.Cond.instanceMethod ({ cls := "CsrCalculatorModel", name := "meanStoredValue", desc := "(I)D" } : Jvm.MethodName)) ∈ lw_all := lw_g (lw_at lw_m12 126 rfl) rfl
theorem q2946 : (Jvm.Cond.selects "CsrCalculatorModel" ({ cls := "CsrCalculatorModel", name := "meanStoredValue", desc := "(I)D" } : Jvm.MethodName) ({ cls := "CsrCalculatorModel", name := "meanStoredValue", desc := "(I)D" } : Jvm.MethodName)) ∈ lw_all := lw_g (lw_at lw_m12 127 rfl) rfl
theorem q2947 : (Jvm.Cond.code ({ cls := "CsrCalculatorModel", name := "meanStoredValue", desc := "(I)D" } : Jvm.MethodName) prog_23_method_164_code (5 : Nat) (Option.some Jvm.ClassFile.FieldType.double)) ∈ lw_all := lw_g (lw_at lw_m12 128 rfl) rfl
theorem q2949 : (Jvm.Cond.instanceMethod ({ cls := "CsrCalculatorModel", name := "runScript", desc := "()I" } : Jvm.MethodName)) ∈ lw_all := lw_g (lw_at lw_m12 130 rfl) rfl
theorem q2950 : (Jvm.Cond.selects "CsrCalculatorModel" ({ cls := "CsrCalculatorModel", name := "runScript", desc := "()I" } : Jvm.MethodName) ({ cls := "CsrCalculatorModel", name := "runScript", desc := "()I" } : Jvm.MethodName)) ∈ lw_all := lw_g (lw_at lw_m12 131 rfl) rfl
theorem q2951 : (Jvm.Cond.code ({ cls := "CsrCalculatorModel", name := "runScript", desc := "()I" } : Jvm.MethodName) prog_23_method_174_code (2 : Nat) (Option.some Jvm.ClassFile.FieldType.int)) ∈ lw_all := lw_g (lw_at lw_m12 132 rfl) rfl
theorem q2952 : (Jvm.Cond.methodLink "CsrCalculatorModel" (574 : Nat) ({ cls := "CsrCalculatorModel", name := "command", desc := "()V" } : Jvm.MethodName)) ∈ lw_all := lw_g (lw_at lw_m12 133 rfl) rfl
theorem q2953 : (Jvm.Cond.privateMethod ({ cls := "CsrCalculatorModel", name := "command", desc := "()V" } : Jvm.MethodName)) ∈ lw_tbl := lw_at lw_m12 134 rfl
theorem q2954 : (Jvm.Cond.instanceMethod ({ cls := "CsrCalculatorModel", name := "command", desc := "()V" } : Jvm.MethodName)) ∈ lw_all := lw_g (lw_at lw_m12 135 rfl) rfl
theorem q2955 : (Jvm.Cond.code ({ cls := "CsrCalculatorModel", name := "command", desc := "()V" } : Jvm.MethodName) prog_23_method_169_code (3 : Nat) (Option.none : Option Jvm.ClassFile.FieldType)) ∈ lw_all := lw_g (lw_at lw_m12 136 rfl) rfl
theorem q2956 : (Jvm.Cond.methodLink "CsrCalculatorModel" (553 : Nat) ({ cls := "CsrCalculatorModel", name := "commandHere", desc := "()I" } : Jvm.MethodName)) ∈ lw_all := lw_g (lw_at lw_m12 137 rfl) rfl
theorem q2957 : (Jvm.Cond.privateMethod ({ cls := "CsrCalculatorModel", name := "commandHere", desc := "()I" } : Jvm.MethodName)) ∈ lw_tbl := lw_at lw_m12 138 rfl
theorem q2958 : (Jvm.Cond.instanceMethod ({ cls := "CsrCalculatorModel", name := "commandHere", desc := "()I" } : Jvm.MethodName)) ∈ lw_all := lw_g (lw_at lw_m12 139 rfl) rfl
theorem q2959 : (Jvm.Cond.code ({ cls := "CsrCalculatorModel", name := "commandHere", desc := "()I" } : Jvm.MethodName) prog_23_method_165_code (1 : Nat) (Option.some Jvm.ClassFile.FieldType.int)) ∈ lw_all := lw_g (lw_at lw_m12 140 rfl) rfl
theorem q2960 : (Jvm.Cond.constantLong "CsrCalculatorModel" (541 : Nat) (5834341 : Int64)) ∈ lw_all := lw_g (lw_at lw_m12 141 rfl) rfl
theorem q2961 : (Jvm.Cond.constantLong "CsrCalculatorModel" (543 : Nat) (646192 : Int64)) ∈ lw_all := lw_g (lw_at lw_m12 142 rfl) rfl
theorem q2962 : (Jvm.Cond.constantLong "CsrCalculatorModel" (545 : Nat) (609752116 : Int64)) ∈ lw_all := lw_g (lw_at lw_m12 143 rfl) rfl
theorem q2963 : (Jvm.Cond.methodLink "CsrCalculatorModel" (565 : Nat) ({ cls := "CsrCalculatorModel", name := "readsRest", desc := "(II)V" } : Jvm.MethodName)) ∈ lw_all := lw_g (lw_at lw_m12 144 rfl) rfl
theorem q2964 : (Jvm.Cond.privateMethod ({ cls := "CsrCalculatorModel", name := "readsRest", desc := "(II)V" } : Jvm.MethodName)) ∈ lw_tbl := lw_at lw_m12 145 rfl
theorem q2965 : (Jvm.Cond.instanceMethod ({ cls := "CsrCalculatorModel", name := "readsRest", desc := "(II)V" } : Jvm.MethodName)) ∈ lw_all := lw_g (lw_at lw_m12 146 rfl) rfl
theorem q2966 : (Jvm.Cond.code ({ cls := "CsrCalculatorModel", name := "readsRest", desc := "(II)V" } : Jvm.MethodName) prog_23_method_168_code (3 : Nat) (Option.none : Option Jvm.ClassFile.FieldType)) ∈ lw_all := lw_g (lw_at lw_m12 147 rfl) rfl
theorem q2967 : (Jvm.Cond.methodLink "CsrCalculatorModel" (547 : Nat) ({ cls := "CsrCalculatorModel", name := "readsLet", desc := "(I)V" } : Jvm.MethodName)) ∈ lw_all := lw_g (lw_at lw_m12 148 rfl) rfl
theorem q2968 : (Jvm.Cond.privateMethod ({ cls := "CsrCalculatorModel", name := "readsLet", desc := "(I)V" } : Jvm.MethodName)) ∈ lw_tbl := lw_at lw_m12 149 rfl
theorem q2969 : (Jvm.Cond.instanceMethod ({ cls := "CsrCalculatorModel", name := "readsLet", desc := "(I)V" } : Jvm.MethodName)) ∈ lw_all := lw_g (lw_at lw_m12 150 rfl) rfl
theorem q2970 : (Jvm.Cond.code ({ cls := "CsrCalculatorModel", name := "readsLet", desc := "(I)V" } : Jvm.MethodName) prog_23_method_166_code (2 : Nat) (Option.none : Option Jvm.ClassFile.FieldType)) ∈ lw_all := lw_g (lw_at lw_m12 151 rfl) rfl
theorem q2971 : (Jvm.Cond.methodLink "CsrCalculatorModel" (550 : Nat) ({ cls := "CsrCalculatorModel", name := "readsEntry", desc := "(I)V" } : Jvm.MethodName)) ∈ lw_all := lw_g (lw_at lw_m12 152 rfl) rfl
theorem q2972 : (Jvm.Cond.privateMethod ({ cls := "CsrCalculatorModel", name := "readsEntry", desc := "(I)V" } : Jvm.MethodName)) ∈ lw_tbl := lw_at lw_m12 153 rfl
theorem q2973 : (Jvm.Cond.instanceMethod ({ cls := "CsrCalculatorModel", name := "readsEntry", desc := "(I)V" } : Jvm.MethodName)) ∈ lw_all := lw_g (lw_at lw_m12 154 rfl) rfl
theorem q2974 : (Jvm.Cond.code ({ cls := "CsrCalculatorModel", name := "readsEntry", desc := "(I)V" } : Jvm.MethodName) prog_23_method_167_code (3 : Nat) (Option.none : Option Jvm.ClassFile.FieldType)) ∈ lw_all := lw_g (lw_at lw_m12 155 rfl) rfl
theorem q2975 : (Jvm.Cond.methodLink "CsrCalculatorModel" (577 : Nat) ({ cls := "CsrCalculatorModel", name := "closes", desc := "()V" } : Jvm.MethodName)) ∈ lw_all := lw_g (lw_at lw_m12 156 rfl) rfl
theorem q2976 : (Jvm.Cond.privateMethod ({ cls := "CsrCalculatorModel", name := "closes", desc := "()V" } : Jvm.MethodName)) ∈ lw_tbl := lw_at lw_m12 157 rfl
theorem q2977 : (Jvm.Cond.instanceMethod ({ cls := "CsrCalculatorModel", name := "closes", desc := "()V" } : Jvm.MethodName)) ∈ lw_all := lw_g (lw_at lw_m12 158 rfl) rfl
theorem q2978 : (Jvm.Cond.code ({ cls := "CsrCalculatorModel", name := "closes", desc := "()V" } : Jvm.MethodName) prog_23_method_170_code (1 : Nat) (Option.none : Option Jvm.ClassFile.FieldType)) ∈ lw_all := lw_g (lw_at lw_m12 159 rfl) rfl
theorem q2979 : (Jvm.Cond.methodLink "CsrCalculatorModel" (580 : Nat) ({ cls := "CsrCalculatorModel", name := "doesAll", desc := "()I" } : Jvm.MethodName)) ∈ lw_all := lw_g (lw_at lw_m12 160 rfl) rfl
theorem q2980 : (Jvm.Cond.privateMethod ({ cls := "CsrCalculatorModel", name := "doesAll", desc := "()I" } : Jvm.MethodName)) ∈ lw_tbl := lw_at lw_m12 161 rfl
theorem q2981 : (Jvm.Cond.instanceMethod ({ cls := "CsrCalculatorModel", name := "doesAll", desc := "()I" } : Jvm.MethodName)) ∈ lw_all := lw_g (lw_at lw_m12 162 rfl) rfl
theorem q2982 : (Jvm.Cond.code ({ cls := "CsrCalculatorModel", name := "doesAll", desc := "()I" } : Jvm.MethodName) prog_23_method_175_code (6 : Nat) (Option.some Jvm.ClassFile.FieldType.int)) ∈ lw_all := lw_g (lw_at lw_m12 163 rfl) rfl
theorem q2983 : (Jvm.Cond.methodLink "CsrCalculatorModel" (583 : Nat) ({ cls := "CsrCalculatorModel", name := "isDone", desc := "(I)Z" } : Jvm.MethodName)) ∈ lw_all := lw_g (lw_at lw_m12 164 rfl) rfl
theorem q2984 : (Jvm.Cond.privateMethod ({ cls := "CsrCalculatorModel", name := "isDone", desc := "(I)Z" } : Jvm.MethodName)) ∈ lw_tbl := lw_at lw_m12 165 rfl
theorem q2985 : (Jvm.Cond.instanceMethod ({ cls := "CsrCalculatorModel", name := "isDone", desc := "(I)Z" } : Jvm.MethodName)) ∈ lw_all := lw_g (lw_at lw_m12 166 rfl) rfl
theorem q2986 : (Jvm.Cond.code ({ cls := "CsrCalculatorModel", name := "isDone", desc := "(I)Z" } : Jvm.MethodName) prog_23_method_173_code (2 : Nat) (Option.some Jvm.ClassFile.FieldType.boolean)) ∈ lw_all := lw_g (lw_at lw_m12 167 rfl) rfl
theorem q2987 : (Jvm.Cond.methodLink "CsrCalculatorModel" (568 : Nat) ({ cls := "CsrCalculatorModel", name := "may", desc := "(I)Z" } : Jvm.MethodName)) ∈ lw_all := lw_g (lw_at lw_m12 168 rfl) rfl
theorem q2988 : (Jvm.Cond.privateMethod ({ cls := "CsrCalculatorModel", name := "may", desc := "(I)Z" } : Jvm.MethodName)) ∈ lw_tbl := lw_at lw_m12 169 rfl
theorem q2989 : (Jvm.Cond.instanceMethod ({ cls := "CsrCalculatorModel", name := "may", desc := "(I)Z" } : Jvm.MethodName)) ∈ lw_all := lw_g (lw_at lw_m12 170 rfl) rfl
theorem q2990 : (Jvm.Cond.code ({ cls := "CsrCalculatorModel", name := "may", desc := "(I)Z" } : Jvm.MethodName) prog_23_method_171_code (3 : Nat) (Option.some Jvm.ClassFile.FieldType.boolean)) ∈ lw_all := lw_g (lw_at lw_m12 171 rfl) rfl
theorem q2991 : (Jvm.Cond.methodLink "CsrCalculatorModel" (571 : Nat) ({ cls := "CsrCalculatorModel", name := "does", desc := "(I)I" } : Jvm.MethodName)) ∈ lw_all := lw_g (lw_at lw_m12 172 rfl) rfl
theorem q2992 : (Jvm.Cond.privateMethod ({ cls := "CsrCalculatorModel", name := "does", desc := "(I)I" } : Jvm.MethodName)) ∈ lw_tbl := lw_at lw_m12 173 rfl
theorem q2993 : (Jvm.Cond.instanceMethod ({ cls := "CsrCalculatorModel", name := "does", desc := "(I)I" } : Jvm.MethodName)) ∈ lw_all := lw_g (lw_at lw_m12 174 rfl) rfl
theorem q2994 : (Jvm.Cond.code ({ cls := "CsrCalculatorModel", name := "does", desc := "(I)I" } : Jvm.MethodName) prog_23_method_172_code (3 : Nat) (Option.some Jvm.ClassFile.FieldType.int)) ∈ lw_all := lw_g (lw_at lw_m12 175 rfl) rfl
theorem q2996 : (Jvm.Cond.instanceMethod ({ cls := "CsrCalculatorModel", name := "printMatrix", desc := "(I)I" } : Jvm.MethodName)) ∈ lw_all := lw_g (lw_at lw_m12 177 rfl) rfl
theorem q2997 : (Jvm.Cond.selects "CsrCalculatorModel" ({ cls := "CsrCalculatorModel", name := "printMatrix", desc := "(I)I" } : Jvm.MethodName) ({ cls := "CsrCalculatorModel", name := "printMatrix", desc := "(I)I" } : Jvm.MethodName)) ∈ lw_all := lw_g (lw_at lw_m12 178 rfl) rfl
theorem q2998 : (Jvm.Cond.code ({ cls := "CsrCalculatorModel", name := "printMatrix", desc := "(I)I" } : Jvm.MethodName) prog_23_method_179_code (3 : Nat) (Option.some Jvm.ClassFile.FieldType.int)) ∈ lw_all := lw_g (lw_at lw_m12 179 rfl) rfl
theorem q2999 : (Jvm.Cond.methodLink "CsrCalculatorModel" (596 : Nat) ({ cls := "CsrCalculatorModel", name := "tellRow", desc := "(II)V" } : Jvm.MethodName)) ∈ lw_all := lw_g (lw_at lw_m12 180 rfl) rfl
theorem q3000 : (Jvm.Cond.privateMethod ({ cls := "CsrCalculatorModel", name := "tellRow", desc := "(II)V" } : Jvm.MethodName)) ∈ lw_tbl := lw_at lw_m12 181 rfl
theorem q3001 : (Jvm.Cond.instanceMethod ({ cls := "CsrCalculatorModel", name := "tellRow", desc := "(II)V" } : Jvm.MethodName)) ∈ lw_all := lw_g (lw_at lw_m12 182 rfl) rfl
theorem q3002 : (Jvm.Cond.code ({ cls := "CsrCalculatorModel", name := "tellRow", desc := "(II)V" } : Jvm.MethodName) prog_23_method_178_code (4 : Nat) (Option.none : Option Jvm.ClassFile.FieldType)) ∈ lw_all := lw_g (lw_at lw_m12 183 rfl) rfl
theorem q3003 : (Jvm.Cond.methodLink "CsrCalculatorModel" (589 : Nat) ({ cls := "CsrCalculatorModel", name := "tell", desc := "(I)V" } : Jvm.MethodName)) ∈ lw_all := lw_g (lw_at lw_m12 184 rfl) rfl
theorem q3004 : (Jvm.Cond.privateMethod ({ cls := "CsrCalculatorModel", name := "tell", desc := "(I)V" } : Jvm.MethodName)) ∈ lw_tbl := lw_at lw_m12 185 rfl
theorem q3005 : (Jvm.Cond.instanceMethod ({ cls := "CsrCalculatorModel", name := "tell", desc := "(I)V" } : Jvm.MethodName)) ∈ lw_all := lw_g (lw_at lw_m12 186 rfl) rfl
theorem q3006 : (Jvm.Cond.code ({ cls := "CsrCalculatorModel", name := "tell", desc := "(I)V" } : Jvm.MethodName) prog_23_method_176_code (2 : Nat) (Option.none : Option Jvm.ClassFile.FieldType)) ∈ lw_all := lw_g (lw_at lw_m12 187 rfl) rfl
theorem q3007 : (Jvm.Cond.methodLink "CsrCalculatorModel" (593 : Nat) ({ cls := "CsrCalculatorModel", name := "tellNumber", desc := "(I)V" } : Jvm.MethodName)) ∈ lw_all := lw_g (lw_at lw_m12 188 rfl) rfl
theorem q3008 : (Jvm.Cond.privateMethod ({ cls := "CsrCalculatorModel", name := "tellNumber", desc := "(I)V" } : Jvm.MethodName)) ∈ lw_tbl := lw_at lw_m12 189 rfl
theorem q3009 : (Jvm.Cond.instanceMethod ({ cls := "CsrCalculatorModel", name := "tellNumber", desc := "(I)V" } : Jvm.MethodName)) ∈ lw_all := lw_g (lw_at lw_m12 190 rfl) rfl
theorem q3010 : (Jvm.Cond.code ({ cls := "CsrCalculatorModel", name := "tellNumber", desc := "(I)V" } : Jvm.MethodName) prog_23_method_177_code (4 : Nat) (Option.none : Option Jvm.ClassFile.FieldType)) ∈ lw_all := lw_g (lw_at lw_m12 191 rfl) rfl
theorem q3011 : (Jvm.Cond.constant "CsrCalculatorModel" (592 : Nat) (100000 : Int32)) ∈ lw_all := lw_g (lw_at lw_m12 192 rfl) rfl
theorem q3013 : (Jvm.Cond.instanceMethod ({ cls := "CsrCalculatorModel", name := "outputByte", desc := "(I)I" } : Jvm.MethodName)) ∈ lw_all := lw_g (lw_at lw_m12 194 rfl) rfl
theorem q3014 : (Jvm.Cond.selects "CsrCalculatorModel" ({ cls := "CsrCalculatorModel", name := "outputByte", desc := "(I)I" } : Jvm.MethodName) ({ cls := "CsrCalculatorModel", name := "outputByte", desc := "(I)I" } : Jvm.MethodName)) ∈ lw_all := lw_g (lw_at lw_m12 195 rfl) rfl
theorem q3015 : (Jvm.Cond.code ({ cls := "CsrCalculatorModel", name := "outputByte", desc := "(I)I" } : Jvm.MethodName) prog_23_method_180_code (2 : Nat) (Option.some Jvm.ClassFile.FieldType.int)) ∈ lw_all := lw_g (lw_at lw_m12 196 rfl) rfl
theorem q3049 : (Jvm.Cond.castable "CsrCalculatorModel" "java/lang/Object") ∈ lw_tbl := lw_at lw_m12 230 rfl
theorem in_X4 : ∀ w ∈ wsX40, w ∈ lw_all := lw_in wsX40 [2209, 2211, 2213, 2215, 2217, 2219, 2221, 2223, 2225, 2227, 2229, 2231, 2233, 2235, 2237, 2239, 2241, 2243, 2245, 2247, 2249, 2251, 2253, 2255, 2257, 2259, 2261, 2263, 2265, 2267, 2269, 2271, 2273, 2275, 2277, 2279, 2281, 2283, 2285, 2287, 2289, 2291, 2293, 2295, 2297, 2299] (by decide +kernel) (by decide +kernel)
