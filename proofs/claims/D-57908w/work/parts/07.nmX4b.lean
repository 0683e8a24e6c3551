set_option maxRecDepth 100000
abbrev cX4_readText : ByteArray := prog_23_method_110_code
def yX4_readText : MethodName := ⟨RX4, "readText", "()I"⟩
def dkwX4_readText_3 : List UInt8 := [42, 182, 0, 174, 172]
abbrev dktX4_readText_3 : List UInt8 := dkwX4_readText_3 ++ []
def dkwX4_readText_2 : List UInt8 := [182, 1, 203, 167, 255, 232, 42, 182, 1, 209, 154, 0, 9, 42, 182, 1, 212, 3, 172, 42, 3, 181, 0, 164]
abbrev dktX4_readText_2 : List UInt8 := dkwX4_readText_2 ++ dktX4_readText_3
def dkwX4_readText_1 : List UInt8 := [182, 1, 203, 42, 182, 0, 132, 153, 0, 23, 42, 180, 0, 119, 153, 0, 16, 42, 182, 1, 206, 42, 16, 59]
abbrev dktX4_readText_1 : List UInt8 := dkwX4_readText_1 ++ dktX4_readText_2
def dkwX4_readText_0 : List UInt8 := [42, 182, 1, 102, 42, 182, 1, 194, 42, 182, 0, 74, 42, 20, 1, 197, 182, 1, 199, 42, 16, 59]
abbrev dktX4_readText_0 : List UInt8 := dkwX4_readText_0 ++ dktX4_readText_1
theorem dksX4_readText_0 : cX4_readText.data.toList.drop 0 = dktX4_readText_0 := by decide +kernel
theorem dksX4_readText_1 : cX4_readText.data.toList.drop 22 = dktX4_readText_1 := dk_seg dksX4_readText_0 22 rfl rfl
theorem dksX4_readText_2 : cX4_readText.data.toList.drop 46 = dktX4_readText_2 := dk_seg dksX4_readText_1 24 rfl rfl
theorem dksX4_readText_3 : cX4_readText.data.toList.drop 70 = dktX4_readText_3 := dk_seg dksX4_readText_2 24 rfl rfl
theorem dX4_readText_0 : decode cX4_readText 0 = .ok (.aload_n 0, 1) := dk_42 (dk_at dksX4_readText_0 0 rfl rfl)
theorem dX4_readText_1 : decode cX4_readText 1 = .ok (.invokevirtual 358, 3) := dk_182 1 102 (dk_at dksX4_readText_0 1 rfl rfl)
theorem dX4_readText_4 : decode cX4_readText 4 = .ok (.aload_n 0, 1) := dk_42 (dk_at dksX4_readText_0 4 rfl rfl)
theorem dX4_readText_5 : decode cX4_readText 5 = .ok (.invokevirtual 450, 3) := dk_182 1 194 (dk_at dksX4_readText_0 5 rfl rfl)
theorem dX4_readText_8 : decode cX4_readText 8 = .ok (.aload_n 0, 1) := dk_42 (dk_at dksX4_readText_0 8 rfl rfl)
theorem dX4_readText_9 : decode cX4_readText 9 = .ok (.invokevirtual 74, 3) := dk_182 0 74 (dk_at dksX4_readText_0 9 rfl rfl)
theorem dX4_readText_12 : decode cX4_readText 12 = .ok (.aload_n 0, 1) := dk_42 (dk_at dksX4_readText_0 12 rfl rfl)
theorem dX4_readText_13 : decode cX4_readText 13 = .ok (.ldc2_w 453, 3) := dk_20 1 197 (dk_at dksX4_readText_0 13 rfl rfl)
theorem dX4_readText_16 : decode cX4_readText 16 = .ok (.invokevirtual 455, 3) := dk_182 1 199 (dk_at dksX4_readText_0 16 rfl rfl)
theorem dX4_readText_19 : decode cX4_readText 19 = .ok (.aload_n 0, 1) := dk_42 (dk_at dksX4_readText_0 19 rfl rfl)
theorem dX4_readText_20 : decode cX4_readText 20 = .ok (.bipush 59, 2) := dk_16 59 (dk_at dksX4_readText_0 20 rfl rfl)
theorem dX4_readText_22 : decode cX4_readText 22 = .ok (.invokevirtual 459, 3) := dk_182 1 203 (dk_at dksX4_readText_1 0 rfl rfl)
theorem dX4_readText_25 : decode cX4_readText 25 = .ok (.aload_n 0, 1) := dk_42 (dk_at dksX4_readText_1 3 rfl rfl)
theorem dX4_readText_26 : decode cX4_readText 26 = .ok (.invokevirtual 132, 3) := dk_182 0 132 (dk_at dksX4_readText_1 4 rfl rfl)
theorem dX4_readText_29 : decode cX4_readText 29 = .ok (.ifCond .eq 23, 3) := dk_153 0 23 (dk_at dksX4_readText_1 7 rfl rfl)
theorem dX4_readText_32 : decode cX4_readText 32 = .ok (.aload_n 0, 1) := dk_42 (dk_at dksX4_readText_1 10 rfl rfl)
theorem dX4_readText_33 : decode cX4_readText 33 = .ok (.getfield 119, 3) := dk_180 0 119 (dk_at dksX4_readText_1 11 rfl rfl)
theorem dX4_readText_36 : decode cX4_readText 36 = .ok (.ifCond .eq 16, 3) := dk_153 0 16 (dk_at dksX4_readText_1 14 rfl rfl)
theorem dX4_readText_39 : decode cX4_readText 39 = .ok (.aload_n 0, 1) := dk_42 (dk_at dksX4_readText_1 17 rfl rfl)
theorem dX4_readText_40 : decode cX4_readText 40 = .ok (.invokevirtual 462, 3) := dk_182 1 206 (dk_at dksX4_readText_1 18 rfl rfl)
theorem dX4_readText_43 : decode cX4_readText 43 = .ok (.aload_n 0, 1) := dk_42 (dk_at dksX4_readText_1 21 rfl rfl)
theorem dX4_readText_44 : decode cX4_readText 44 = .ok (.bipush 59, 2) := dk_16 59 (dk_at dksX4_readText_1 22 rfl rfl)
theorem dX4_readText_46 : decode cX4_readText 46 = .ok (.invokevirtual 459, 3) := dk_182 1 203 (dk_at dksX4_readText_2 0 rfl rfl)
theorem dX4_readText_49 : decode cX4_readText 49 = .ok (.goto (-24), 3) := dk_167 255 232 (dk_at dksX4_readText_2 3 rfl rfl)
theorem dX4_readText_52 : decode cX4_readText 52 = .ok (.aload_n 0, 1) := dk_42 (dk_at dksX4_readText_2 6 rfl rfl)
theorem dX4_readText_53 : decode cX4_readText 53 = .ok (.invokevirtual 465, 3) := dk_182 1 209 (dk_at dksX4_readText_2 7 rfl rfl)
theorem dX4_readText_56 : decode cX4_readText 56 = .ok (.ifCond .ne 9, 3) := dk_154 0 9 (dk_at dksX4_readText_2 10 rfl rfl)
theorem dX4_readText_59 : decode cX4_readText 59 = .ok (.aload_n 0, 1) := dk_42 (dk_at dksX4_readText_2 13 rfl rfl)
theorem dX4_readText_60 : decode cX4_readText 60 = .ok (.invokevirtual 468, 3) := dk_182 1 212 (dk_at dksX4_readText_2 14 rfl rfl)
theorem dX4_readText_63 : decode cX4_readText 63 = .ok (.iconst 0, 1) := dk_3 (dk_at dksX4_readText_2 17 rfl rfl)
theorem dX4_readText_64 : decode cX4_readText 64 = .ok (.ireturn, 1) := dk_172 (dk_at dksX4_readText_2 18 rfl rfl)
theorem dX4_readText_65 : decode cX4_readText 65 = .ok (.aload_n 0, 1) := dk_42 (dk_at dksX4_readText_2 19 rfl rfl)
theorem dX4_readText_66 : decode cX4_readText 66 = .ok (.iconst 0, 1) := dk_3 (dk_at dksX4_readText_2 20 rfl rfl)
theorem dX4_readText_67 : decode cX4_readText 67 = .ok (.putfield 164, 3) := dk_181 0 164 (dk_at dksX4_readText_2 21 rfl rfl)
theorem dX4_readText_70 : decode cX4_readText 70 = .ok (.aload_n 0, 1) := dk_42 (dk_at dksX4_readText_3 0 rfl rfl)
theorem dX4_readText_71 : decode cX4_readText 71 = .ok (.invokevirtual 174, 3) := dk_182 0 174 (dk_at dksX4_readText_3 1 rfl rfl)
theorem dX4_readText_74 : decode cX4_readText 74 = .ok (.ireturn, 1) := dk_172 (dk_at dksX4_readText_3 4 rfl rfl)
abbrev cX4_beginsText : ByteArray := prog_23_method_24_code
def yX4_beginsText : MethodName := ⟨RX4, "beginsText", "()V"⟩
def dkwX4_beginsText_1 : List UInt8 := [2, 181, 0, 13, 42, 182, 0, 142, 177]
abbrev dktX4_beginsText_1 : List UInt8 := dkwX4_beginsText_1 ++ []
def dkwX4_beginsText_0 : List UInt8 := [42, 42, 180, 0, 84, 181, 0, 102, 42, 3, 181, 0, 84, 42, 3, 181, 0, 99, 42, 3, 181, 0, 129, 42]
abbrev dktX4_beginsText_0 : List UInt8 := dkwX4_beginsText_0 ++ dktX4_beginsText_1
theorem dksX4_beginsText_0 : cX4_beginsText.data.toList.drop 0 = dktX4_beginsText_0 := by decide +kernel
theorem dksX4_beginsText_1 : cX4_beginsText.data.toList.drop 24 = dktX4_beginsText_1 := dk_seg dksX4_beginsText_0 24 rfl rfl
theorem dX4_beginsText_0 : decode cX4_beginsText 0 = .ok (.aload_n 0, 1) := dk_42 (dk_at dksX4_beginsText_0 0 rfl rfl)
theorem dX4_beginsText_1 : decode cX4_beginsText 1 = .ok (.aload_n 0, 1) := dk_42 (dk_at dksX4_beginsText_0 1 rfl rfl)
theorem dX4_beginsText_2 : decode cX4_beginsText 2 = .ok (.getfield 84, 3) := dk_180 0 84 (dk_at dksX4_beginsText_0 2 rfl rfl)
theorem dX4_beginsText_5 : decode cX4_beginsText 5 = .ok (.putfield 102, 3) := dk_181 0 102 (dk_at dksX4_beginsText_0 5 rfl rfl)
theorem dX4_beginsText_8 : decode cX4_beginsText 8 = .ok (.aload_n 0, 1) := dk_42 (dk_at dksX4_beginsText_0 8 rfl rfl)
theorem dX4_beginsText_9 : decode cX4_beginsText 9 = .ok (.iconst 0, 1) := dk_3 (dk_at dksX4_beginsText_0 9 rfl rfl)
theorem dX4_beginsText_10 : decode cX4_beginsText 10 = .ok (.putfield 84, 3) := dk_181 0 84 (dk_at dksX4_beginsText_0 10 rfl rfl)
theorem dX4_beginsText_13 : decode cX4_beginsText 13 = .ok (.aload_n 0, 1) := dk_42 (dk_at dksX4_beginsText_0 13 rfl rfl)
theorem dX4_beginsText_14 : decode cX4_beginsText 14 = .ok (.iconst 0, 1) := dk_3 (dk_at dksX4_beginsText_0 14 rfl rfl)
theorem dX4_beginsText_15 : decode cX4_beginsText 15 = .ok (.putfield 99, 3) := dk_181 0 99 (dk_at dksX4_beginsText_0 15 rfl rfl)
theorem dX4_beginsText_18 : decode cX4_beginsText 18 = .ok (.aload_n 0, 1) := dk_42 (dk_at dksX4_beginsText_0 18 rfl rfl)
theorem dX4_beginsText_19 : decode cX4_beginsText 19 = .ok (.iconst 0, 1) := dk_3 (dk_at dksX4_beginsText_0 19 rfl rfl)
theorem dX4_beginsText_20 : decode cX4_beginsText 20 = .ok (.putfield 129, 3) := dk_181 0 129 (dk_at dksX4_beginsText_0 20 rfl rfl)
theorem dX4_beginsText_23 : decode cX4_beginsText 23 = .ok (.aload_n 0, 1) := dk_42 (dk_at dksX4_beginsText_0 23 rfl rfl)
theorem dX4_beginsText_24 : decode cX4_beginsText 24 = .ok (.iconst (-1), 1) := dk_2 (dk_at dksX4_beginsText_1 0 rfl rfl)
theorem dX4_beginsText_25 : decode cX4_beginsText 25 = .ok (.putfield 13, 3) := dk_181 0 13 (dk_at dksX4_beginsText_1 1 rfl rfl)
theorem dX4_beginsText_28 : decode cX4_beginsText 28 = .ok (.aload_n 0, 1) := dk_42 (dk_at dksX4_beginsText_1 4 rfl rfl)
theorem dX4_beginsText_29 : decode cX4_beginsText 29 = .ok (.invokevirtual 142, 3) := dk_182 0 142 (dk_at dksX4_beginsText_1 5 rfl rfl)
theorem dX4_beginsText_32 : decode cX4_beginsText 32 = .ok (.return_, 1) := dk_177 (dk_at dksX4_beginsText_1 8 rfl rfl)
abbrev cX4_goOnRead : ByteArray := prog_23_method_15_code
def yX4_goOnRead : MethodName := ⟨RX4, "goOnRead", "()V"⟩
def dkwX4_goOnRead_10 : List UInt8 := [27, 181, 0, 116, 4, 61, 42, 89, 180, 0, 99, 28, 96, 181, 0, 99, 177]
abbrev dktX4_goOnRead_10 : List UInt8 := dkwX4_goOnRead_10 ++ []
def dkwX4_goOnRead_9 : List UInt8 := [159, 0, 15, 27, 16, 40, 159, 0, 9, 27, 16, 41, 160, 0, 7, 6, 167, 0, 4, 7, 181, 0, 119, 42]
abbrev dktX4_goOnRead_9 : List UInt8 := dkwX4_goOnRead_9 ++ dktX4_goOnRead_10
def dkwX4_goOnRead_8 : List UInt8 := [167, 255, 217, 42, 28, 7, 164, 0, 7, 7, 167, 0, 4, 5, 181, 0, 119, 167, 0, 37, 42, 27, 16, 59]
abbrev dktX4_goOnRead_8 : List UInt8 := dkwX4_goOnRead_8 ++ dktX4_goOnRead_9
def dkwX4_goOnRead_7 : List UInt8 := [16, 10, 42, 180, 0, 116, 104, 42, 28, 182, 0, 105, 96, 16, 48, 100, 181, 0, 116, 132, 2, 1]
abbrev dktX4_goOnRead_7 : List UInt8 := dkwX4_goOnRead_7 ++ dktX4_goOnRead_8
def dkwX4_goOnRead_6 : List UInt8 := [184, 0, 126, 153, 0, 62, 42, 28, 182, 0, 105, 184, 0, 126, 153, 0, 34, 28, 7, 162, 0, 23, 42]
abbrev dktX4_goOnRead_6 : List UInt8 := dkwX4_goOnRead_6 ++ dktX4_goOnRead_7
def dkwX4_goOnRead_5 : List UInt8 := [167, 255, 214, 42, 28, 16, 8, 164, 0, 7, 7, 167, 0, 4, 4, 181, 0, 119, 167, 0, 103, 27]
abbrev dktX4_goOnRead_5 : List UInt8 := dkwX4_goOnRead_5 ++ dktX4_goOnRead_6
def dkwX4_goOnRead_4 : List UInt8 := [42, 180, 0, 112, 8, 121, 42, 28, 182, 0, 105, 16, 97, 100, 4, 96, 133, 129, 181, 0, 112, 132, 2, 1]
abbrev dktX4_goOnRead_4 : List UInt8 := dkwX4_goOnRead_4 ++ dktX4_goOnRead_5
def dkwX4_goOnRead_3 : List UInt8 := [184, 0, 122, 153, 0, 66, 42, 28, 182, 0, 105, 184, 0, 122, 153, 0, 37, 28, 16, 8, 162, 0, 25, 42]
abbrev dktX4_goOnRead_3 : List UInt8 := dkwX4_goOnRead_3 ++ dktX4_goOnRead_4
def dkwX4_goOnRead_2 : List UInt8 := [42, 3, 181, 0, 116, 42, 3, 182, 0, 105, 60, 3, 61, 27, 156, 0, 9, 42, 3, 181, 0, 119, 177, 27]
abbrev dktX4_goOnRead_2 : List UInt8 := dkwX4_goOnRead_2 ++ dktX4_goOnRead_3
def dkwX4_goOnRead_1 : List UInt8 := [180, 0, 99, 4, 96, 181, 0, 99, 167, 255, 226, 42, 42, 180, 0, 99, 181, 0, 109, 42, 9, 181, 0, 112]
abbrev dktX4_goOnRead_1 : List UInt8 := dkwX4_goOnRead_1 ++ dktX4_goOnRead_2
def dkwX4_goOnRead_0 : List UInt8 := [42, 3, 182, 0, 105, 16, 32, 159, 0, 13, 42, 3, 182, 0, 105, 16, 10, 160, 0, 16, 42, 89]
abbrev dktX4_goOnRead_0 : List UInt8 := dkwX4_goOnRead_0 ++ dktX4_goOnRead_1
theorem dksX4_goOnRead_0 : cX4_goOnRead.data.toList.drop 0 = dktX4_goOnRead_0 := by decide +kernel
theorem dksX4_goOnRead_1 : cX4_goOnRead.data.toList.drop 22 = dktX4_goOnRead_1 := dk_seg dksX4_goOnRead_0 22 rfl rfl
theorem dksX4_goOnRead_2 : cX4_goOnRead.data.toList.drop 46 = dktX4_goOnRead_2 := dk_seg dksX4_goOnRead_1 24 rfl rfl
theorem dksX4_goOnRead_3 : cX4_goOnRead.data.toList.drop 70 = dktX4_goOnRead_3 := dk_seg dksX4_goOnRead_2 24 rfl rfl
theorem dksX4_goOnRead_4 : cX4_goOnRead.data.toList.drop 94 = dktX4_goOnRead_4 := dk_seg dksX4_goOnRead_3 24 rfl rfl
theorem dksX4_goOnRead_5 : cX4_goOnRead.data.toList.drop 118 = dktX4_goOnRead_5 := dk_seg dksX4_goOnRead_4 24 rfl rfl
theorem dksX4_goOnRead_6 : cX4_goOnRead.data.toList.drop 140 = dktX4_goOnRead_6 := dk_seg dksX4_goOnRead_5 22 rfl rfl
theorem dksX4_goOnRead_7 : cX4_goOnRead.data.toList.drop 163 = dktX4_goOnRead_7 := dk_seg dksX4_goOnRead_6 23 rfl rfl
theorem dksX4_goOnRead_8 : cX4_goOnRead.data.toList.drop 185 = dktX4_goOnRead_8 := dk_seg dksX4_goOnRead_7 22 rfl rfl
theorem dksX4_goOnRead_9 : cX4_goOnRead.data.toList.drop 209 = dktX4_goOnRead_9 := dk_seg dksX4_goOnRead_8 24 rfl rfl
theorem dksX4_goOnRead_10 : cX4_goOnRead.data.toList.drop 233 = dktX4_goOnRead_10 := dk_seg dksX4_goOnRead_9 24 rfl rfl
theorem dX4_goOnRead_0 : decode cX4_goOnRead 0 = .ok (.aload_n 0, 1) := dk_42 (dk_at dksX4_goOnRead_0 0 rfl rfl)
theorem dX4_goOnRead_1 : decode cX4_goOnRead 1 = .ok (.iconst 0, 1) := dk_3 (dk_at dksX4_goOnRead_0 1 rfl rfl)
theorem dX4_goOnRead_2 : decode cX4_goOnRead 2 = .ok (.invokevirtual 105, 3) := dk_182 0 105 (dk_at dksX4_goOnRead_0 2 rfl rfl)
theorem dX4_goOnRead_5 : decode cX4_goOnRead 5 = .ok (.bipush 32, 2) := dk_16 32 (dk_at dksX4_goOnRead_0 5 rfl rfl)
theorem dX4_goOnRead_7 : decode cX4_goOnRead 7 = .ok (.if_icmp .eq 13, 3) := dk_159 0 13 (dk_at dksX4_goOnRead_0 7 rfl rfl)
theorem dX4_goOnRead_10 : decode cX4_goOnRead 10 = .ok (.aload_n 0, 1) := dk_42 (dk_at dksX4_goOnRead_0 10 rfl rfl)
theorem dX4_goOnRead_11 : decode cX4_goOnRead 11 = .ok (.iconst 0, 1) := dk_3 (dk_at dksX4_goOnRead_0 11 rfl rfl)
theorem dX4_goOnRead_12 : decode cX4_goOnRead 12 = .ok (.invokevirtual 105, 3) := dk_182 0 105 (dk_at dksX4_goOnRead_0 12 rfl rfl)
theorem dX4_goOnRead_15 : decode cX4_goOnRead 15 = .ok (.bipush 10, 2) := dk_16 10 (dk_at dksX4_goOnRead_0 15 rfl rfl)
theorem dX4_goOnRead_17 : decode cX4_goOnRead 17 = .ok (.if_icmp .ne 16, 3) := dk_160 0 16 (dk_at dksX4_goOnRead_0 17 rfl rfl)
theorem dX4_goOnRead_20 : decode cX4_goOnRead 20 = .ok (.aload_n 0, 1) := dk_42 (dk_at dksX4_goOnRead_0 20 rfl rfl)
theorem dX4_goOnRead_21 : decode cX4_goOnRead 21 = .ok (.dup, 1) := dk_89 (dk_at dksX4_goOnRead_0 21 rfl rfl)
theorem dX4_goOnRead_22 : decode cX4_goOnRead 22 = .ok (.getfield 99, 3) := dk_180 0 99 (dk_at dksX4_goOnRead_1 0 rfl rfl)
theorem dX4_goOnRead_25 : decode cX4_goOnRead 25 = .ok (.iconst 1, 1) := dk_4 (dk_at dksX4_goOnRead_1 3 rfl rfl)
theorem dX4_goOnRead_26 : decode cX4_goOnRead 26 = .ok (.iadd, 1) := dk_96 (dk_at dksX4_goOnRead_1 4 rfl rfl)
theorem dX4_goOnRead_27 : decode cX4_goOnRead 27 = .ok (.putfield 99, 3) := dk_181 0 99 (dk_at dksX4_goOnRead_1 5 rfl rfl)
theorem dX4_goOnRead_30 : decode cX4_goOnRead 30 = .ok (.goto (-30), 3) := dk_167 255 226 (dk_at dksX4_goOnRead_1 8 rfl rfl)
theorem dX4_goOnRead_33 : decode cX4_goOnRead 33 = .ok (.aload_n 0, 1) := dk_42 (dk_at dksX4_goOnRead_1 11 rfl rfl)
theorem dX4_goOnRead_34 : decode cX4_goOnRead 34 = .ok (.aload_n 0, 1) := dk_42 (dk_at dksX4_goOnRead_1 12 rfl rfl)
theorem dX4_goOnRead_35 : decode cX4_goOnRead 35 = .ok (.getfield 99, 3) := dk_180 0 99 (dk_at dksX4_goOnRead_1 13 rfl rfl)
theorem dX4_goOnRead_38 : decode cX4_goOnRead 38 = .ok (.putfield 109, 3) := dk_181 0 109 (dk_at dksX4_goOnRead_1 16 rfl rfl)
theorem dX4_goOnRead_41 : decode cX4_goOnRead 41 = .ok (.aload_n 0, 1) := dk_42 (dk_at dksX4_goOnRead_1 19 rfl rfl)
theorem dX4_goOnRead_42 : decode cX4_goOnRead 42 = .ok (.lconst 0, 1) := dk_9 (dk_at dksX4_goOnRead_1 20 rfl rfl)
theorem dX4_goOnRead_43 : decode cX4_goOnRead 43 = .ok (.putfield 112, 3) := dk_181 0 112 (dk_at dksX4_goOnRead_1 21 rfl rfl)
theorem dX4_goOnRead_46 : decode cX4_goOnRead 46 = .ok (.aload_n 0, 1) := dk_42 (dk_at dksX4_goOnRead_2 0 rfl rfl)
theorem dX4_goOnRead_47 : decode cX4_goOnRead 47 = .ok (.iconst 0, 1) := dk_3 (dk_at dksX4_goOnRead_2 1 rfl rfl)
theorem dX4_goOnRead_48 : decode cX4_goOnRead 48 = .ok (.putfield 116, 3) := dk_181 0 116 (dk_at dksX4_goOnRead_2 2 rfl rfl)
theorem dX4_goOnRead_51 : decode cX4_goOnRead 51 = .ok (.aload_n 0, 1) := dk_42 (dk_at dksX4_goOnRead_2 5 rfl rfl)
theorem dX4_goOnRead_52 : decode cX4_goOnRead 52 = .ok (.iconst 0, 1) := dk_3 (dk_at dksX4_goOnRead_2 6 rfl rfl)
theorem dX4_goOnRead_53 : decode cX4_goOnRead 53 = .ok (.invokevirtual 105, 3) := dk_182 0 105 (dk_at dksX4_goOnRead_2 7 rfl rfl)
theorem dX4_goOnRead_56 : decode cX4_goOnRead 56 = .ok (.istore_n 1, 1) := dk_60 (dk_at dksX4_goOnRead_2 10 rfl rfl)
theorem dX4_goOnRead_57 : decode cX4_goOnRead 57 = .ok (.iconst 0, 1) := dk_3 (dk_at dksX4_goOnRead_2 11 rfl rfl)
theorem dX4_goOnRead_58 : decode cX4_goOnRead 58 = .ok (.istore_n 2, 1) := dk_61 (dk_at dksX4_goOnRead_2 12 rfl rfl)
theorem dX4_goOnRead_59 : decode cX4_goOnRead 59 = .ok (.iload_n 1, 1) := dk_27 (dk_at dksX4_goOnRead_2 13 rfl rfl)
theorem dX4_goOnRead_60 : decode cX4_goOnRead 60 = .ok (.ifCond .ge 9, 3) := dk_156 0 9 (dk_at dksX4_goOnRead_2 14 rfl rfl)
theorem dX4_goOnRead_63 : decode cX4_goOnRead 63 = .ok (.aload_n 0, 1) := dk_42 (dk_at dksX4_goOnRead_2 17 rfl rfl)
theorem dX4_goOnRead_64 : decode cX4_goOnRead 64 = .ok (.iconst 0, 1) := dk_3 (dk_at dksX4_goOnRead_2 18 rfl rfl)
theorem dX4_goOnRead_65 : decode cX4_goOnRead 65 = .ok (.putfield 119, 3) := dk_181 0 119 (dk_at dksX4_goOnRead_2 19 rfl rfl)
theorem dX4_goOnRead_68 : decode cX4_goOnRead 68 = .ok (.return_, 1) := dk_177 (dk_at dksX4_goOnRead_2 22 rfl rfl)
theorem dX4_goOnRead_69 : decode cX4_goOnRead 69 = .ok (.iload_n 1, 1) := dk_27 (dk_at dksX4_goOnRead_2 23 rfl rfl)
theorem dX4_goOnRead_70 : decode cX4_goOnRead 70 = .ok (.invokestatic 122, 3) := dk_184 0 122 (dk_at dksX4_goOnRead_3 0 rfl rfl)
theorem dX4_goOnRead_73 : decode cX4_goOnRead 73 = .ok (.ifCond .eq 66, 3) := dk_153 0 66 (dk_at dksX4_goOnRead_3 3 rfl rfl)
theorem dX4_goOnRead_76 : decode cX4_goOnRead 76 = .ok (.aload_n 0, 1) := dk_42 (dk_at dksX4_goOnRead_3 6 rfl rfl)
theorem dX4_goOnRead_77 : decode cX4_goOnRead 77 = .ok (.iload_n 2, 1) := dk_28 (dk_at dksX4_goOnRead_3 7 rfl rfl)
theorem dX4_goOnRead_78 : decode cX4_goOnRead 78 = .ok (.invokevirtual 105, 3) := dk_182 0 105 (dk_at dksX4_goOnRead_3 8 rfl rfl)
theorem dX4_goOnRead_81 : decode cX4_goOnRead 81 = .ok (.invokestatic 122, 3) := dk_184 0 122 (dk_at dksX4_goOnRead_3 11 rfl rfl)
theorem dX4_goOnRead_84 : decode cX4_goOnRead 84 = .ok (.ifCond .eq 37, 3) := dk_153 0 37 (dk_at dksX4_goOnRead_3 14 rfl rfl)
theorem dX4_goOnRead_87 : decode cX4_goOnRead 87 = .ok (.iload_n 2, 1) := dk_28 (dk_at dksX4_goOnRead_3 17 rfl rfl)
theorem dX4_goOnRead_88 : decode cX4_goOnRead 88 = .ok (.bipush 8, 2) := dk_16 8 (dk_at dksX4_goOnRead_3 18 rfl rfl)
theorem dX4_goOnRead_90 : decode cX4_goOnRead 90 = .ok (.if_icmp .ge 25, 3) := dk_162 0 25 (dk_at dksX4_goOnRead_3 20 rfl rfl)
theorem dX4_goOnRead_93 : decode cX4_goOnRead 93 = .ok (.aload_n 0, 1) := dk_42 (dk_at dksX4_goOnRead_3 23 rfl rfl)
theorem dX4_goOnRead_94 : decode cX4_goOnRead 94 = .ok (.aload_n 0, 1) := dk_42 (dk_at dksX4_goOnRead_4 0 rfl rfl)
theorem dX4_goOnRead_95 : decode cX4_goOnRead 95 = .ok (.getfield 112, 3) := dk_180 0 112 (dk_at dksX4_goOnRead_4 1 rfl rfl)
theorem dX4_goOnRead_98 : decode cX4_goOnRead 98 = .ok (.iconst 5, 1) := dk_8 (dk_at dksX4_goOnRead_4 4 rfl rfl)
theorem dX4_goOnRead_99 : decode cX4_goOnRead 99 = .ok (.lshl, 1) := dk_121 (dk_at dksX4_goOnRead_4 5 rfl rfl)
theorem dX4_goOnRead_100 : decode cX4_goOnRead 100 = .ok (.aload_n 0, 1) := dk_42 (dk_at dksX4_goOnRead_4 6 rfl rfl)
theorem dX4_goOnRead_101 : decode cX4_goOnRead 101 = .ok (.iload_n 2, 1) := dk_28 (dk_at dksX4_goOnRead_4 7 rfl rfl)
theorem dX4_goOnRead_102 : decode cX4_goOnRead 102 = .ok (.invokevirtual 105, 3) := dk_182 0 105 (dk_at dksX4_goOnRead_4 8 rfl rfl)
theorem dX4_goOnRead_105 : decode cX4_goOnRead 105 = .ok (.bipush 97, 2) := dk_16 97 (dk_at dksX4_goOnRead_4 11 rfl rfl)
theorem dX4_goOnRead_107 : decode cX4_goOnRead 107 = .ok (.isub, 1) := dk_100 (dk_at dksX4_goOnRead_4 13 rfl rfl)
theorem dX4_goOnRead_108 : decode cX4_goOnRead 108 = .ok (.iconst 1, 1) := dk_4 (dk_at dksX4_goOnRead_4 14 rfl rfl)
theorem dX4_goOnRead_109 : decode cX4_goOnRead 109 = .ok (.iadd, 1) := dk_96 (dk_at dksX4_goOnRead_4 15 rfl rfl)
theorem dX4_goOnRead_110 : decode cX4_goOnRead 110 = .ok (.i2l, 1) := dk_133 (dk_at dksX4_goOnRead_4 16 rfl rfl)
theorem dX4_goOnRead_111 : decode cX4_goOnRead 111 = .ok (.lor, 1) := dk_129 (dk_at dksX4_goOnRead_4 17 rfl rfl)
theorem dX4_goOnRead_112 : decode cX4_goOnRead 112 = .ok (.putfield 112, 3) := dk_181 0 112 (dk_at dksX4_goOnRead_4 18 rfl rfl)
theorem dX4_goOnRead_115 : decode cX4_goOnRead 115 = .ok (.iinc 2 1, 3) := dk_132 2 1 (dk_at dksX4_goOnRead_4 21 rfl rfl)
theorem dX4_goOnRead_118 : decode cX4_goOnRead 118 = .ok (.goto (-42), 3) := dk_167 255 214 (dk_at dksX4_goOnRead_5 0 rfl rfl)
theorem dX4_goOnRead_121 : decode cX4_goOnRead 121 = .ok (.aload_n 0, 1) := dk_42 (dk_at dksX4_goOnRead_5 3 rfl rfl)
theorem dX4_goOnRead_122 : decode cX4_goOnRead 122 = .ok (.iload_n 2, 1) := dk_28 (dk_at dksX4_goOnRead_5 4 rfl rfl)
theorem dX4_goOnRead_123 : decode cX4_goOnRead 123 = .ok (.bipush 8, 2) := dk_16 8 (dk_at dksX4_goOnRead_5 5 rfl rfl)
theorem dX4_goOnRead_125 : decode cX4_goOnRead 125 = .ok (.if_icmp .le 7, 3) := dk_164 0 7 (dk_at dksX4_goOnRead_5 7 rfl rfl)
theorem dX4_goOnRead_128 : decode cX4_goOnRead 128 = .ok (.iconst 4, 1) := dk_7 (dk_at dksX4_goOnRead_5 10 rfl rfl)
theorem dX4_goOnRead_129 : decode cX4_goOnRead 129 = .ok (.goto 4, 3) := dk_167 0 4 (dk_at dksX4_goOnRead_5 11 rfl rfl)
theorem dX4_goOnRead_132 : decode cX4_goOnRead 132 = .ok (.iconst 1, 1) := dk_4 (dk_at dksX4_goOnRead_5 14 rfl rfl)
theorem dX4_goOnRead_133 : decode cX4_goOnRead 133 = .ok (.putfield 119, 3) := dk_181 0 119 (dk_at dksX4_goOnRead_5 15 rfl rfl)
theorem dX4_goOnRead_136 : decode cX4_goOnRead 136 = .ok (.goto 103, 3) := dk_167 0 103 (dk_at dksX4_goOnRead_5 18 rfl rfl)
theorem dX4_goOnRead_139 : decode cX4_goOnRead 139 = .ok (.iload_n 1, 1) := dk_27 (dk_at dksX4_goOnRead_5 21 rfl rfl)
theorem dX4_goOnRead_140 : decode cX4_goOnRead 140 = .ok (.invokestatic 126, 3) := dk_184 0 126 (dk_at dksX4_goOnRead_6 0 rfl rfl)
theorem dX4_goOnRead_143 : decode cX4_goOnRead 143 = .ok (.ifCond .eq 62, 3) := dk_153 0 62 (dk_at dksX4_goOnRead_6 3 rfl rfl)
theorem dX4_goOnRead_146 : decode cX4_goOnRead 146 = .ok (.aload_n 0, 1) := dk_42 (dk_at dksX4_goOnRead_6 6 rfl rfl)
theorem dX4_goOnRead_147 : decode cX4_goOnRead 147 = .ok (.iload_n 2, 1) := dk_28 (dk_at dksX4_goOnRead_6 7 rfl rfl)
theorem dX4_goOnRead_148 : decode cX4_goOnRead 148 = .ok (.invokevirtual 105, 3) := dk_182 0 105 (dk_at dksX4_goOnRead_6 8 rfl rfl)
theorem dX4_goOnRead_151 : decode cX4_goOnRead 151 = .ok (.invokestatic 126, 3) := dk_184 0 126 (dk_at dksX4_goOnRead_6 11 rfl rfl)
theorem dX4_goOnRead_154 : decode cX4_goOnRead 154 = .ok (.ifCond .eq 34, 3) := dk_153 0 34 (dk_at dksX4_goOnRead_6 14 rfl rfl)
theorem dX4_goOnRead_157 : decode cX4_goOnRead 157 = .ok (.iload_n 2, 1) := dk_28 (dk_at dksX4_goOnRead_6 17 rfl rfl)
theorem dX4_goOnRead_158 : decode cX4_goOnRead 158 = .ok (.iconst 4, 1) := dk_7 (dk_at dksX4_goOnRead_6 18 rfl rfl)
theorem dX4_goOnRead_159 : decode cX4_goOnRead 159 = .ok (.if_icmp .ge 23, 3) := dk_162 0 23 (dk_at dksX4_goOnRead_6 19 rfl rfl)
theorem dX4_goOnRead_162 : decode cX4_goOnRead 162 = .ok (.aload_n 0, 1) := dk_42 (dk_at dksX4_goOnRead_6 22 rfl rfl)
theorem dX4_goOnRead_163 : decode cX4_goOnRead 163 = .ok (.bipush 10, 2) := dk_16 10 (dk_at dksX4_goOnRead_7 0 rfl rfl)
theorem dX4_goOnRead_165 : decode cX4_goOnRead 165 = .ok (.aload_n 0, 1) := dk_42 (dk_at dksX4_goOnRead_7 2 rfl rfl)
theorem dX4_goOnRead_166 : decode cX4_goOnRead 166 = .ok (.getfield 116, 3) := dk_180 0 116 (dk_at dksX4_goOnRead_7 3 rfl rfl)
theorem dX4_goOnRead_169 : decode cX4_goOnRead 169 = .ok (.imul, 1) := dk_104 (dk_at dksX4_goOnRead_7 6 rfl rfl)
theorem dX4_goOnRead_170 : decode cX4_goOnRead 170 = .ok (.aload_n 0, 1) := dk_42 (dk_at dksX4_goOnRead_7 7 rfl rfl)
theorem dX4_goOnRead_171 : decode cX4_goOnRead 171 = .ok (.iload_n 2, 1) := dk_28 (dk_at dksX4_goOnRead_7 8 rfl rfl)
theorem dX4_goOnRead_172 : decode cX4_goOnRead 172 = .ok (.invokevirtual 105, 3) := dk_182 0 105 (dk_at dksX4_goOnRead_7 9 rfl rfl)
theorem dX4_goOnRead_175 : decode cX4_goOnRead 175 = .ok (.iadd, 1) := dk_96 (dk_at dksX4_goOnRead_7 12 rfl rfl)
theorem dX4_goOnRead_176 : decode cX4_goOnRead 176 = .ok (.bipush 48, 2) := dk_16 48 (dk_at dksX4_goOnRead_7 13 rfl rfl)
theorem dX4_goOnRead_178 : decode cX4_goOnRead 178 = .ok (.isub, 1) := dk_100 (dk_at dksX4_goOnRead_7 15 rfl rfl)
theorem dX4_goOnRead_179 : decode cX4_goOnRead 179 = .ok (.putfield 116, 3) := dk_181 0 116 (dk_at dksX4_goOnRead_7 16 rfl rfl)
theorem dX4_goOnRead_182 : decode cX4_goOnRead 182 = .ok (.iinc 2 1, 3) := dk_132 2 1 (dk_at dksX4_goOnRead_7 19 rfl rfl)
theorem dX4_goOnRead_185 : decode cX4_goOnRead 185 = .ok (.goto (-39), 3) := dk_167 255 217 (dk_at dksX4_goOnRead_8 0 rfl rfl)
theorem dX4_goOnRead_188 : decode cX4_goOnRead 188 = .ok (.aload_n 0, 1) := dk_42 (dk_at dksX4_goOnRead_8 3 rfl rfl)
theorem dX4_goOnRead_189 : decode cX4_goOnRead 189 = .ok (.iload_n 2, 1) := dk_28 (dk_at dksX4_goOnRead_8 4 rfl rfl)
theorem dX4_goOnRead_190 : decode cX4_goOnRead 190 = .ok (.iconst 4, 1) := dk_7 (dk_at dksX4_goOnRead_8 5 rfl rfl)
theorem dX4_goOnRead_191 : decode cX4_goOnRead 191 = .ok (.if_icmp .le 7, 3) := dk_164 0 7 (dk_at dksX4_goOnRead_8 6 rfl rfl)
theorem dX4_goOnRead_194 : decode cX4_goOnRead 194 = .ok (.iconst 4, 1) := dk_7 (dk_at dksX4_goOnRead_8 9 rfl rfl)
theorem dX4_goOnRead_195 : decode cX4_goOnRead 195 = .ok (.goto 4, 3) := dk_167 0 4 (dk_at dksX4_goOnRead_8 10 rfl rfl)
theorem dX4_goOnRead_198 : decode cX4_goOnRead 198 = .ok (.iconst 2, 1) := dk_5 (dk_at dksX4_goOnRead_8 13 rfl rfl)
theorem dX4_goOnRead_199 : decode cX4_goOnRead 199 = .ok (.putfield 119, 3) := dk_181 0 119 (dk_at dksX4_goOnRead_8 14 rfl rfl)
theorem dX4_goOnRead_202 : decode cX4_goOnRead 202 = .ok (.goto 37, 3) := dk_167 0 37 (dk_at dksX4_goOnRead_8 17 rfl rfl)
theorem dX4_goOnRead_205 : decode cX4_goOnRead 205 = .ok (.aload_n 0, 1) := dk_42 (dk_at dksX4_goOnRead_8 20 rfl rfl)
theorem dX4_goOnRead_206 : decode cX4_goOnRead 206 = .ok (.iload_n 1, 1) := dk_27 (dk_at dksX4_goOnRead_8 21 rfl rfl)
theorem dX4_goOnRead_207 : decode cX4_goOnRead 207 = .ok (.bipush 59, 2) := dk_16 59 (dk_at dksX4_goOnRead_8 22 rfl rfl)
theorem dX4_goOnRead_209 : decode cX4_goOnRead 209 = .ok (.if_icmp .eq 15, 3) := dk_159 0 15 (dk_at dksX4_goOnRead_9 0 rfl rfl)
theorem dX4_goOnRead_212 : decode cX4_goOnRead 212 = .ok (.iload_n 1, 1) := dk_27 (dk_at dksX4_goOnRead_9 3 rfl rfl)
theorem dX4_goOnRead_213 : decode cX4_goOnRead 213 = .ok (.bipush 40, 2) := dk_16 40 (dk_at dksX4_goOnRead_9 4 rfl rfl)
theorem dX4_goOnRead_215 : decode cX4_goOnRead 215 = .ok (.if_icmp .eq 9, 3) := dk_159 0 9 (dk_at dksX4_goOnRead_9 6 rfl rfl)
theorem dX4_goOnRead_218 : decode cX4_goOnRead 218 = .ok (.iload_n 1, 1) := dk_27 (dk_at dksX4_goOnRead_9 9 rfl rfl)
theorem dX4_goOnRead_219 : decode cX4_goOnRead 219 = .ok (.bipush 41, 2) := dk_16 41 (dk_at dksX4_goOnRead_9 10 rfl rfl)
theorem dX4_goOnRead_221 : decode cX4_goOnRead 221 = .ok (.if_icmp .ne 7, 3) := dk_160 0 7 (dk_at dksX4_goOnRead_9 12 rfl rfl)
theorem dX4_goOnRead_224 : decode cX4_goOnRead 224 = .ok (.iconst 3, 1) := dk_6 (dk_at dksX4_goOnRead_9 15 rfl rfl)
theorem dX4_goOnRead_225 : decode cX4_goOnRead 225 = .ok (.goto 4, 3) := dk_167 0 4 (dk_at dksX4_goOnRead_9 16 rfl rfl)
theorem dX4_goOnRead_228 : decode cX4_goOnRead 228 = .ok (.iconst 4, 1) := dk_7 (dk_at dksX4_goOnRead_9 19 rfl rfl)
theorem dX4_goOnRead_229 : decode cX4_goOnRead 229 = .ok (.putfield 119, 3) := dk_181 0 119 (dk_at dksX4_goOnRead_9 20 rfl rfl)
theorem dX4_goOnRead_232 : decode cX4_goOnRead 232 = .ok (.aload_n 0, 1) := dk_42 (dk_at dksX4_goOnRead_9 23 rfl rfl)
theorem dX4_goOnRead_233 : decode cX4_goOnRead 233 = .ok (.iload_n 1, 1) := dk_27 (dk_at dksX4_goOnRead_10 0 rfl rfl)
theorem dX4_goOnRead_234 : decode cX4_goOnRead 234 = .ok (.putfield 116, 3) := dk_181 0 116 (dk_at dksX4_goOnRead_10 1 rfl rfl)
theorem dX4_goOnRead_237 : decode cX4_goOnRead 237 = .ok (.iconst 1, 1) := dk_4 (dk_at dksX4_goOnRead_10 4 rfl rfl)
theorem dX4_goOnRead_238 : decode cX4_goOnRead 238 = .ok (.istore_n 2, 1) := dk_61 (dk_at dksX4_goOnRead_10 5 rfl rfl)
theorem dX4_goOnRead_239 : decode cX4_goOnRead 239 = .ok (.aload_n 0, 1) := dk_42 (dk_at dksX4_goOnRead_10 6 rfl rfl)
theorem dX4_goOnRead_240 : decode cX4_goOnRead 240 = .ok (.dup, 1) := dk_89 (dk_at dksX4_goOnRead_10 7 rfl rfl)
theorem dX4_goOnRead_241 : decode cX4_goOnRead 241 = .ok (.getfield 99, 3) := dk_180 0 99 (dk_at dksX4_goOnRead_10 8 rfl rfl)
theorem dX4_goOnRead_244 : decode cX4_goOnRead 244 = .ok (.iload_n 2, 1) := dk_28 (dk_at dksX4_goOnRead_10 11 rfl rfl)
theorem dX4_goOnRead_245 : decode cX4_goOnRead 245 = .ok (.iadd, 1) := dk_96 (dk_at dksX4_goOnRead_10 12 rfl rfl)
theorem dX4_goOnRead_246 : decode cX4_goOnRead 246 = .ok (.putfield 99, 3) := dk_181 0 99 (dk_at dksX4_goOnRead_10 13 rfl rfl)
theorem dX4_goOnRead_249 : decode cX4_goOnRead 249 = .ok (.return_, 1) := dk_177 (dk_at dksX4_goOnRead_10 16 rfl rfl)
abbrev cX4_here : ByteArray := prog_23_method_12_code
def yX4_here : MethodName := ⟨RX4, "here", "(I)I"⟩
def dkwX4_here_1 : List UInt8 := [167, 0, 4, 2, 172]
abbrev dktX4_here_1 : List UInt8 := dkwX4_here_1 ++ []
def dkwX4_here_0 : List UInt8 := [42, 180, 0, 99, 27, 96, 42, 180, 0, 102, 162, 0, 17, 42, 180, 0, 7, 42, 180, 0, 99, 27, 96, 46]
abbrev dktX4_here_0 : List UInt8 := dkwX4_here_0 ++ dktX4_here_1
theorem dksX4_here_0 : cX4_here.data.toList.drop 0 = dktX4_here_0 := by decide +kernel
theorem dksX4_here_1 : cX4_here.data.toList.drop 24 = dktX4_here_1 := dk_seg dksX4_here_0 24 rfl rfl
theorem dX4_here_0 : decode cX4_here 0 = .ok (.aload_n 0, 1) := dk_42 (dk_at dksX4_here_0 0 rfl rfl)
theorem dX4_here_1 : decode cX4_here 1 = .ok (.getfield 99, 3) := dk_180 0 99 (dk_at dksX4_here_0 1 rfl rfl)
theorem dX4_here_4 : decode cX4_here 4 = .ok (.iload_n 1, 1) := dk_27 (dk_at dksX4_here_0 4 rfl rfl)
theorem dX4_here_5 : decode cX4_here 5 = .ok (.iadd, 1) := dk_96 (dk_at dksX4_here_0 5 rfl rfl)
theorem dX4_here_6 : decode cX4_here 6 = .ok (.aload_n 0, 1) := dk_42 (dk_at dksX4_here_0 6 rfl rfl)
theorem dX4_here_7 : decode cX4_here 7 = .ok (.getfield 102, 3) := dk_180 0 102 (dk_at dksX4_here_0 7 rfl rfl)
theorem dX4_here_10 : decode cX4_here 10 = .ok (.if_icmp .ge 17, 3) := dk_162 0 17 (dk_at dksX4_here_0 10 rfl rfl)
theorem dX4_here_13 : decode cX4_here 13 = .ok (.aload_n 0, 1) := dk_42 (dk_at dksX4_here_0 13 rfl rfl)
theorem dX4_here_14 : decode cX4_here 14 = .ok (.getfield 7, 3) := dk_180 0 7 (dk_at dksX4_here_0 14 rfl rfl)
theorem dX4_here_17 : decode cX4_here 17 = .ok (.aload_n 0, 1) := dk_42 (dk_at dksX4_here_0 17 rfl rfl)
theorem dX4_here_18 : decode cX4_here 18 = .ok (.getfield 99, 3) := dk_180 0 99 (dk_at dksX4_here_0 18 rfl rfl)
theorem dX4_here_21 : decode cX4_here 21 = .ok (.iload_n 1, 1) := dk_27 (dk_at dksX4_here_0 21 rfl rfl)
theorem dX4_here_22 : decode cX4_here 22 = .ok (.iadd, 1) := dk_96 (dk_at dksX4_here_0 22 rfl rfl)
theorem dX4_here_23 : decode cX4_here 23 = .ok (.iaload, 1) := dk_46 (dk_at dksX4_here_0 23 rfl rfl)
theorem dX4_here_24 : decode cX4_here 24 = .ok (.goto 4, 3) := dk_167 0 4 (dk_at dksX4_here_1 0 rfl rfl)
theorem dX4_here_27 : decode cX4_here 27 = .ok (.iconst (-1), 1) := dk_2 (dk_at dksX4_here_1 3 rfl rfl)
theorem dX4_here_28 : decode cX4_here 28 = .ok (.ireturn, 1) := dk_172 (dk_at dksX4_here_1 4 rfl rfl)
abbrev cX4_isLetter : ByteArray := prog_23_method_13_code
def yX4_isLetter : MethodName := ⟨RX4, "isLetter", "(I)Z"⟩
def dkwX4_isLetter_0 : List UInt8 := [26, 16, 97, 161, 0, 13, 26, 16, 122, 163, 0, 7, 4, 167, 0, 4, 3, 172]
abbrev dktX4_isLetter_0 : List UInt8 := dkwX4_isLetter_0 ++ []
theorem dksX4_isLetter_0 : cX4_isLetter.data.toList.drop 0 = dktX4_isLetter_0 := by decide +kernel
theorem dX4_isLetter_0 : decode cX4_isLetter 0 = .ok (.iload_n 0, 1) := dk_26 (dk_at dksX4_isLetter_0 0 rfl rfl)
theorem dX4_isLetter_1 : decode cX4_isLetter 1 = .ok (.bipush 97, 2) := dk_16 97 (dk_at dksX4_isLetter_0 1 rfl rfl)
theorem dX4_isLetter_3 : decode cX4_isLetter 3 = .ok (.if_icmp .lt 13, 3) := dk_161 0 13 (dk_at dksX4_isLetter_0 3 rfl rfl)
theorem dX4_isLetter_6 : decode cX4_isLetter 6 = .ok (.iload_n 0, 1) := dk_26 (dk_at dksX4_isLetter_0 6 rfl rfl)
theorem dX4_isLetter_7 : decode cX4_isLetter 7 = .ok (.bipush 122, 2) := dk_16 122 (dk_at dksX4_isLetter_0 7 rfl rfl)
theorem dX4_isLetter_9 : decode cX4_isLetter 9 = .ok (.if_icmp .gt 7, 3) := dk_163 0 7 (dk_at dksX4_isLetter_0 9 rfl rfl)
theorem dX4_isLetter_12 : decode cX4_isLetter 12 = .ok (.iconst 1, 1) := dk_4 (dk_at dksX4_isLetter_0 12 rfl rfl)
theorem dX4_isLetter_13 : decode cX4_isLetter 13 = .ok (.goto 4, 3) := dk_167 0 4 (dk_at dksX4_isLetter_0 13 rfl rfl)
theorem dX4_isLetter_16 : decode cX4_isLetter 16 = .ok (.iconst 0, 1) := dk_3 (dk_at dksX4_isLetter_0 16 rfl rfl)
theorem dX4_isLetter_17 : decode cX4_isLetter 17 = .ok (.ireturn, 1) := dk_172 (dk_at dksX4_isLetter_0 17 rfl rfl)
abbrev cX4_isDigit : ByteArray := prog_23_method_14_code
def yX4_isDigit : MethodName := ⟨RX4, "isDigit", "(I)Z"⟩
def dkwX4_isDigit_0 : List UInt8 := [26, 16, 48, 161, 0, 13, 26, 16, 57, 163, 0, 7, 4, 167, 0, 4, 3, 172]
abbrev dktX4_isDigit_0 : List UInt8 := dkwX4_isDigit_0 ++ []
theorem dksX4_isDigit_0 : cX4_isDigit.data.toList.drop 0 = dktX4_isDigit_0 := by decide +kernel
theorem dX4_isDigit_0 : decode cX4_isDigit 0 = .ok (.iload_n 0, 1) := dk_26 (dk_at dksX4_isDigit_0 0 rfl rfl)
theorem dX4_isDigit_1 : decode cX4_isDigit 1 = .ok (.bipush 48, 2) := dk_16 48 (dk_at dksX4_isDigit_0 1 rfl rfl)
theorem dX4_isDigit_3 : decode cX4_isDigit 3 = .ok (.if_icmp .lt 13, 3) := dk_161 0 13 (dk_at dksX4_isDigit_0 3 rfl rfl)
theorem dX4_isDigit_6 : decode cX4_isDigit 6 = .ok (.iload_n 0, 1) := dk_26 (dk_at dksX4_isDigit_0 6 rfl rfl)
theorem dX4_isDigit_7 : decode cX4_isDigit 7 = .ok (.bipush 57, 2) := dk_16 57 (dk_at dksX4_isDigit_0 7 rfl rfl)
theorem dX4_isDigit_9 : decode cX4_isDigit 9 = .ok (.if_icmp .gt 7, 3) := dk_163 0 7 (dk_at dksX4_isDigit_0 9 rfl rfl)
theorem dX4_isDigit_12 : decode cX4_isDigit 12 = .ok (.iconst 1, 1) := dk_4 (dk_at dksX4_isDigit_0 12 rfl rfl)
theorem dX4_isDigit_13 : decode cX4_isDigit 13 = .ok (.goto 4, 3) := dk_167 0 4 (dk_at dksX4_isDigit_0 13 rfl rfl)
theorem dX4_isDigit_16 : decode cX4_isDigit 16 = .ok (.iconst 0, 1) := dk_3 (dk_at dksX4_isDigit_0 16 rfl rfl)
theorem dX4_isDigit_17 : decode cX4_isDigit 17 = .ok (.ireturn, 1) := dk_172 (dk_at dksX4_isDigit_0 17 rfl rfl)
abbrev cX4_mustWord : ByteArray := prog_23_method_21_code
def yX4_mustWord : MethodName := ⟨RX4, "mustWord", "(J)V"⟩
def dkwX4_mustWord_1 : List UInt8 := [153, 0, 7, 42, 182, 0, 142, 177]
abbrev dktX4_mustWord_1 : List UInt8 := dkwX4_mustWord_1 ++ []
def dkwX4_mustWord_0 : List UInt8 := [42, 182, 0, 132, 153, 0, 16, 42, 31, 182, 0, 145, 154, 0, 8, 42, 4, 182, 0, 139, 42, 182, 0, 132]
abbrev dktX4_mustWord_0 : List UInt8 := dkwX4_mustWord_0 ++ dktX4_mustWord_1
theorem dksX4_mustWord_0 : cX4_mustWord.data.toList.drop 0 = dktX4_mustWord_0 := by decide +kernel
theorem dksX4_mustWord_1 : cX4_mustWord.data.toList.drop 24 = dktX4_mustWord_1 := dk_seg dksX4_mustWord_0 24 rfl rfl
theorem dX4_mustWord_0 : decode cX4_mustWord 0 = .ok (.aload_n 0, 1) := dk_42 (dk_at dksX4_mustWord_0 0 rfl rfl)
theorem dX4_mustWord_1 : decode cX4_mustWord 1 = .ok (.invokevirtual 132, 3) := dk_182 0 132 (dk_at dksX4_mustWord_0 1 rfl rfl)
theorem dX4_mustWord_4 : decode cX4_mustWord 4 = .ok (.ifCond .eq 16, 3) := dk_153 0 16 (dk_at dksX4_mustWord_0 4 rfl rfl)
theorem dX4_mustWord_7 : decode cX4_mustWord 7 = .ok (.aload_n 0, 1) := dk_42 (dk_at dksX4_mustWord_0 7 rfl rfl)
theorem dX4_mustWord_8 : decode cX4_mustWord 8 = .ok (.lload_n 1, 1) := dk_31 (dk_at dksX4_mustWord_0 8 rfl rfl)
theorem dX4_mustWord_9 : decode cX4_mustWord 9 = .ok (.invokevirtual 145, 3) := dk_182 0 145 (dk_at dksX4_mustWord_0 9 rfl rfl)
theorem dX4_mustWord_12 : decode cX4_mustWord 12 = .ok (.ifCond .ne 8, 3) := dk_154 0 8 (dk_at dksX4_mustWord_0 12 rfl rfl)
theorem dX4_mustWord_15 : decode cX4_mustWord 15 = .ok (.aload_n 0, 1) := dk_42 (dk_at dksX4_mustWord_0 15 rfl rfl)
theorem dX4_mustWord_16 : decode cX4_mustWord 16 = .ok (.iconst 1, 1) := dk_4 (dk_at dksX4_mustWord_0 16 rfl rfl)
theorem dX4_mustWord_17 : decode cX4_mustWord 17 = .ok (.invokevirtual 139, 3) := dk_182 0 139 (dk_at dksX4_mustWord_0 17 rfl rfl)
theorem dX4_mustWord_20 : decode cX4_mustWord 20 = .ok (.aload_n 0, 1) := dk_42 (dk_at dksX4_mustWord_0 20 rfl rfl)
theorem dX4_mustWord_21 : decode cX4_mustWord 21 = .ok (.invokevirtual 132, 3) := dk_182 0 132 (dk_at dksX4_mustWord_0 21 rfl rfl)
theorem dX4_mustWord_24 : decode cX4_mustWord 24 = .ok (.ifCond .eq 7, 3) := dk_153 0 7 (dk_at dksX4_mustWord_1 0 rfl rfl)
theorem dX4_mustWord_27 : decode cX4_mustWord 27 = .ok (.aload_n 0, 1) := dk_42 (dk_at dksX4_mustWord_1 3 rfl rfl)
theorem dX4_mustWord_28 : decode cX4_mustWord 28 = .ok (.invokevirtual 142, 3) := dk_182 0 142 (dk_at dksX4_mustWord_1 4 rfl rfl)
theorem dX4_mustWord_31 : decode cX4_mustWord 31 = .ok (.return_, 1) := dk_177 (dk_at dksX4_mustWord_1 7 rfl rfl)
abbrev cX4_isGood : ByteArray := prog_23_method_17_code
def yX4_isGood : MethodName := ⟨RX4, "isGood", "()Z"⟩
def dkwX4_isGood_0 : List UInt8 := [42, 180, 0, 129, 154, 0, 7, 4, 167, 0, 4, 3, 172]
abbrev dktX4_isGood_0 : List UInt8 := dkwX4_isGood_0 ++ []
theorem dksX4_isGood_0 : cX4_isGood.data.toList.drop 0 = dktX4_isGood_0 := by decide +kernel
theorem dX4_isGood_0 : decode cX4_isGood 0 = .ok (.aload_n 0, 1) := dk_42 (dk_at dksX4_isGood_0 0 rfl rfl)
theorem dX4_isGood_1 : decode cX4_isGood 1 = .ok (.getfield 129, 3) := dk_180 0 129 (dk_at dksX4_isGood_0 1 rfl rfl)
theorem dX4_isGood_4 : decode cX4_isGood 4 = .ok (.ifCond .ne 7, 3) := dk_154 0 7 (dk_at dksX4_isGood_0 4 rfl rfl)
theorem dX4_isGood_7 : decode cX4_isGood 7 = .ok (.iconst 1, 1) := dk_4 (dk_at dksX4_isGood_0 7 rfl rfl)
theorem dX4_isGood_8 : decode cX4_isGood 8 = .ok (.goto 4, 3) := dk_167 0 4 (dk_at dksX4_isGood_0 8 rfl rfl)
theorem dX4_isGood_11 : decode cX4_isGood 11 = .ok (.iconst 0, 1) := dk_3 (dk_at dksX4_isGood_0 11 rfl rfl)
theorem dX4_isGood_12 : decode cX4_isGood 12 = .ok (.ireturn, 1) := dk_172 (dk_at dksX4_isGood_0 12 rfl rfl)
abbrev cX4_isWord : ByteArray := prog_23_method_18_code
def yX4_isWord : MethodName := ⟨RX4, "isWord", "(J)Z"⟩
def dkwX4_isWord_1 : List UInt8 := [4, 167, 0, 4, 3, 172]
abbrev dktX4_isWord_1 : List UInt8 := dkwX4_isWord_1 ++ []
def dkwX4_isWord_0 : List UInt8 := [42, 180, 0, 129, 154, 0, 24, 42, 180, 0, 119, 4, 160, 0, 16, 42, 180, 0, 112, 31, 148, 154, 0, 7]
abbrev dktX4_isWord_0 : List UInt8 := dkwX4_isWord_0 ++ dktX4_isWord_1
theorem dksX4_isWord_0 : cX4_isWord.data.toList.drop 0 = dktX4_isWord_0 := by decide +kernel
theorem dksX4_isWord_1 : cX4_isWord.data.toList.drop 24 = dktX4_isWord_1 := dk_seg dksX4_isWord_0 24 rfl rfl
theorem dX4_isWord_0 : decode cX4_isWord 0 = .ok (.aload_n 0, 1) := dk_42 (dk_at dksX4_isWord_0 0 rfl rfl)
theorem dX4_isWord_1 : decode cX4_isWord 1 = .ok (.getfield 129, 3) := dk_180 0 129 (dk_at dksX4_isWord_0 1 rfl rfl)
theorem dX4_isWord_4 : decode cX4_isWord 4 = .ok (.ifCond .ne 24, 3) := dk_154 0 24 (dk_at dksX4_isWord_0 4 rfl rfl)
theorem dX4_isWord_7 : decode cX4_isWord 7 = .ok (.aload_n 0, 1) := dk_42 (dk_at dksX4_isWord_0 7 rfl rfl)
theorem dX4_isWord_8 : decode cX4_isWord 8 = .ok (.getfield 119, 3) := dk_180 0 119 (dk_at dksX4_isWord_0 8 rfl rfl)
theorem dX4_isWord_11 : decode cX4_isWord 11 = .ok (.iconst 1, 1) := dk_4 (dk_at dksX4_isWord_0 11 rfl rfl)
theorem dX4_isWord_12 : decode cX4_isWord 12 = .ok (.if_icmp .ne 16, 3) := dk_160 0 16 (dk_at dksX4_isWord_0 12 rfl rfl)
theorem dX4_isWord_15 : decode cX4_isWord 15 = .ok (.aload_n 0, 1) := dk_42 (dk_at dksX4_isWord_0 15 rfl rfl)
theorem dX4_isWord_16 : decode cX4_isWord 16 = .ok (.getfield 112, 3) := dk_180 0 112 (dk_at dksX4_isWord_0 16 rfl rfl)
theorem dX4_isWord_19 : decode cX4_isWord 19 = .ok (.lload_n 1, 1) := dk_31 (dk_at dksX4_isWord_0 19 rfl rfl)
theorem dX4_isWord_20 : decode cX4_isWord 20 = .ok (.lcmp, 1) := dk_148 (dk_at dksX4_isWord_0 20 rfl rfl)
theorem dX4_isWord_21 : decode cX4_isWord 21 = .ok (.ifCond .ne 7, 3) := dk_154 0 7 (dk_at dksX4_isWord_0 21 rfl rfl)
theorem dX4_isWord_24 : decode cX4_isWord 24 = .ok (.iconst 1, 1) := dk_4 (dk_at dksX4_isWord_1 0 rfl rfl)
theorem dX4_isWord_25 : decode cX4_isWord 25 = .ok (.goto 4, 3) := dk_167 0 4 (dk_at dksX4_isWord_1 1 rfl rfl)
theorem dX4_isWord_28 : decode cX4_isWord 28 = .ok (.iconst 0, 1) := dk_3 (dk_at dksX4_isWord_1 4 rfl rfl)
theorem dX4_isWord_29 : decode cX4_isWord 29 = .ok (.ireturn, 1) := dk_172 (dk_at dksX4_isWord_1 5 rfl rfl)
abbrev cX4_wrong : ByteArray := prog_23_method_16_code
def yX4_wrong : MethodName := ⟨RX4, "wrong", "(I)V"⟩
def dkwX4_wrong_1 : List UInt8 := [181, 0, 129, 42, 42, 180, 0, 109, 181, 0, 13, 177]
abbrev dktX4_wrong_1 : List UInt8 := dkwX4_wrong_1 ++ []
def dkwX4_wrong_0 : List UInt8 := [42, 180, 0, 129, 158, 0, 4, 177, 42, 42, 180, 0, 119, 7, 160, 0, 7, 4, 167, 0, 4, 27]
abbrev dktX4_wrong_0 : List UInt8 := dkwX4_wrong_0 ++ dktX4_wrong_1
theorem dksX4_wrong_0 : cX4_wrong.data.toList.drop 0 = dktX4_wrong_0 := by decide +kernel
theorem dksX4_wrong_1 : cX4_wrong.data.toList.drop 22 = dktX4_wrong_1 := dk_seg dksX4_wrong_0 22 rfl rfl
theorem dX4_wrong_0 : decode cX4_wrong 0 = .ok (.aload_n 0, 1) := dk_42 (dk_at dksX4_wrong_0 0 rfl rfl)
theorem dX4_wrong_1 : decode cX4_wrong 1 = .ok (.getfield 129, 3) := dk_180 0 129 (dk_at dksX4_wrong_0 1 rfl rfl)
theorem dX4_wrong_4 : decode cX4_wrong 4 = .ok (.ifCond .le 4, 3) := dk_158 0 4 (dk_at dksX4_wrong_0 4 rfl rfl)
theorem dX4_wrong_7 : decode cX4_wrong 7 = .ok (.return_, 1) := dk_177 (dk_at dksX4_wrong_0 7 rfl rfl)
theorem dX4_wrong_8 : decode cX4_wrong 8 = .ok (.aload_n 0, 1) := dk_42 (dk_at dksX4_wrong_0 8 rfl rfl)
theorem dX4_wrong_9 : decode cX4_wrong 9 = .ok (.aload_n 0, 1) := dk_42 (dk_at dksX4_wrong_0 9 rfl rfl)
theorem dX4_wrong_10 : decode cX4_wrong 10 = .ok (.getfield 119, 3) := dk_180 0 119 (dk_at dksX4_wrong_0 10 rfl rfl)
theorem dX4_wrong_13 : decode cX4_wrong 13 = .ok (.iconst 4, 1) := dk_7 (dk_at dksX4_wrong_0 13 rfl rfl)
theorem dX4_wrong_14 : decode cX4_wrong 14 = .ok (.if_icmp .ne 7, 3) := dk_160 0 7 (dk_at dksX4_wrong_0 14 rfl rfl)
theorem dX4_wrong_17 : decode cX4_wrong 17 = .ok (.iconst 1, 1) := dk_4 (dk_at dksX4_wrong_0 17 rfl rfl)
theorem dX4_wrong_18 : decode cX4_wrong 18 = .ok (.goto 4, 3) := dk_167 0 4 (dk_at dksX4_wrong_0 18 rfl rfl)
theorem dX4_wrong_21 : decode cX4_wrong 21 = .ok (.iload_n 1, 1) := dk_27 (dk_at dksX4_wrong_0 21 rfl rfl)
theorem dX4_wrong_22 : decode cX4_wrong 22 = .ok (.putfield 129, 3) := dk_181 0 129 (dk_at dksX4_wrong_1 0 rfl rfl)
theorem dX4_wrong_25 : decode cX4_wrong 25 = .ok (.aload_n 0, 1) := dk_42 (dk_at dksX4_wrong_1 3 rfl rfl)
theorem dX4_wrong_26 : decode cX4_wrong 26 = .ok (.aload_n 0, 1) := dk_42 (dk_at dksX4_wrong_1 4 rfl rfl)
theorem dX4_wrong_27 : decode cX4_wrong 27 = .ok (.getfield 109, 3) := dk_180 0 109 (dk_at dksX4_wrong_1 5 rfl rfl)
theorem dX4_wrong_30 : decode cX4_wrong 30 = .ok (.putfield 13, 3) := dk_181 0 13 (dk_at dksX4_wrong_1 8 rfl rfl)
theorem dX4_wrong_33 : decode cX4_wrong 33 = .ok (.return_, 1) := dk_177 (dk_at dksX4_wrong_1 11 rfl rfl)
abbrev cX4_mustSign : ByteArray := prog_23_method_20_code
def yX4_mustSign : MethodName := ⟨RX4, "mustSign", "(I)V"⟩
def dkwX4_mustSign_1 : List UInt8 := [153, 0, 7, 42, 182, 0, 142, 177]
abbrev dktX4_mustSign_1 : List UInt8 := dkwX4_mustSign_1 ++ []
def dkwX4_mustSign_0 : List UInt8 := [42, 182, 0, 132, 153, 0, 16, 42, 27, 182, 0, 136, 154, 0, 8, 42, 4, 182, 0, 139, 42, 182, 0, 132]
abbrev dktX4_mustSign_0 : List UInt8 := dkwX4_mustSign_0 ++ dktX4_mustSign_1
theorem dksX4_mustSign_0 : cX4_mustSign.data.toList.drop 0 = dktX4_mustSign_0 := by decide +kernel
theorem dksX4_mustSign_1 : cX4_mustSign.data.toList.drop 24 = dktX4_mustSign_1 := dk_seg dksX4_mustSign_0 24 rfl rfl
theorem dX4_mustSign_0 : decode cX4_mustSign 0 = .ok (.aload_n 0, 1) := dk_42 (dk_at dksX4_mustSign_0 0 rfl rfl)
theorem dX4_mustSign_1 : decode cX4_mustSign 1 = .ok (.invokevirtual 132, 3) := dk_182 0 132 (dk_at dksX4_mustSign_0 1 rfl rfl)
theorem dX4_mustSign_4 : decode cX4_mustSign 4 = .ok (.ifCond .eq 16, 3) := dk_153 0 16 (dk_at dksX4_mustSign_0 4 rfl rfl)
theorem dX4_mustSign_7 : decode cX4_mustSign 7 = .ok (.aload_n 0, 1) := dk_42 (dk_at dksX4_mustSign_0 7 rfl rfl)
theorem dX4_mustSign_8 : decode cX4_mustSign 8 = .ok (.iload_n 1, 1) := dk_27 (dk_at dksX4_mustSign_0 8 rfl rfl)
theorem dX4_mustSign_9 : decode cX4_mustSign 9 = .ok (.invokevirtual 136, 3) := dk_182 0 136 (dk_at dksX4_mustSign_0 9 rfl rfl)
theorem dX4_mustSign_12 : decode cX4_mustSign 12 = .ok (.ifCond .ne 8, 3) := dk_154 0 8 (dk_at dksX4_mustSign_0 12 rfl rfl)
theorem dX4_mustSign_15 : decode cX4_mustSign 15 = .ok (.aload_n 0, 1) := dk_42 (dk_at dksX4_mustSign_0 15 rfl rfl)
theorem dX4_mustSign_16 : decode cX4_mustSign 16 = .ok (.iconst 1, 1) := dk_4 (dk_at dksX4_mustSign_0 16 rfl rfl)
theorem dX4_mustSign_17 : decode cX4_mustSign 17 = .ok (.invokevirtual 139, 3) := dk_182 0 139 (dk_at dksX4_mustSign_0 17 rfl rfl)
theorem dX4_mustSign_20 : decode cX4_mustSign 20 = .ok (.aload_n 0, 1) := dk_42 (dk_at dksX4_mustSign_0 20 rfl rfl)
theorem dX4_mustSign_21 : decode cX4_mustSign 21 = .ok (.invokevirtual 132, 3) := dk_182 0 132 (dk_at dksX4_mustSign_0 21 rfl rfl)
theorem dX4_mustSign_24 : decode cX4_mustSign 24 = .ok (.ifCond .eq 7, 3) := dk_153 0 7 (dk_at dksX4_mustSign_1 0 rfl rfl)
theorem dX4_mustSign_27 : decode cX4_mustSign 27 = .ok (.aload_n 0, 1) := dk_42 (dk_at dksX4_mustSign_1 3 rfl rfl)
theorem dX4_mustSign_28 : decode cX4_mustSign 28 = .ok (.invokevirtual 142, 3) := dk_182 0 142 (dk_at dksX4_mustSign_1 4 rfl rfl)
theorem dX4_mustSign_31 : decode cX4_mustSign 31 = .ok (.return_, 1) := dk_177 (dk_at dksX4_mustSign_1 7 rfl rfl)
abbrev cX4_isSign : ByteArray := prog_23_method_19_code
def yX4_isSign : MethodName := ⟨RX4, "isSign", "(I)Z"⟩
def dkwX4_isSign_1 : List UInt8 := [167, 0, 4, 3, 172]
abbrev dktX4_isSign_1 : List UInt8 := dkwX4_isSign_1 ++ []
def dkwX4_isSign_0 : List UInt8 := [42, 180, 0, 129, 154, 0, 23, 42, 180, 0, 119, 6, 160, 0, 15, 42, 180, 0, 116, 27, 160, 0, 7, 4]
abbrev dktX4_isSign_0 : List UInt8 := dkwX4_isSign_0 ++ dktX4_isSign_1
theorem dksX4_isSign_0 : cX4_isSign.data.toList.drop 0 = dktX4_isSign_0 := by decide +kernel
theorem dksX4_isSign_1 : cX4_isSign.data.toList.drop 24 = dktX4_isSign_1 := dk_seg dksX4_isSign_0 24 rfl rfl
theorem dX4_isSign_0 : decode cX4_isSign 0 = .ok (.aload_n 0, 1) := dk_42 (dk_at dksX4_isSign_0 0 rfl rfl)
theorem dX4_isSign_1 : decode cX4_isSign 1 = .ok (.getfield 129, 3) := dk_180 0 129 (dk_at dksX4_isSign_0 1 rfl rfl)
theorem dX4_isSign_4 : decode cX4_isSign 4 = .ok (.ifCond .ne 23, 3) := dk_154 0 23 (dk_at dksX4_isSign_0 4 rfl rfl)
theorem dX4_isSign_7 : decode cX4_isSign 7 = .ok (.aload_n 0, 1) := dk_42 (dk_at dksX4_isSign_0 7 rfl rfl)
theorem dX4_isSign_8 : decode cX4_isSign 8 = .ok (.getfield 119, 3) := dk_180 0 119 (dk_at dksX4_isSign_0 8 rfl rfl)
theorem dX4_isSign_11 : decode cX4_isSign 11 = .ok (.iconst 3, 1) := dk_6 (dk_at dksX4_isSign_0 11 rfl rfl)
theorem dX4_isSign_12 : decode cX4_isSign 12 = .ok (.if_icmp .ne 15, 3) := dk_160 0 15 (dk_at dksX4_isSign_0 12 rfl rfl)
theorem dX4_isSign_15 : decode cX4_isSign 15 = .ok (.aload_n 0, 1) := dk_42 (dk_at dksX4_isSign_0 15 rfl rfl)
theorem dX4_isSign_16 : decode cX4_isSign 16 = .ok (.getfield 116, 3) := dk_180 0 116 (dk_at dksX4_isSign_0 16 rfl rfl)
theorem dX4_isSign_19 : decode cX4_isSign 19 = .ok (.iload_n 1, 1) := dk_27 (dk_at dksX4_isSign_0 19 rfl rfl)
theorem dX4_isSign_20 : decode cX4_isSign 20 = .ok (.if_icmp .ne 7, 3) := dk_160 0 7 (dk_at dksX4_isSign_0 20 rfl rfl)
theorem dX4_isSign_23 : decode cX4_isSign 23 = .ok (.iconst 1, 1) := dk_4 (dk_at dksX4_isSign_0 23 rfl rfl)
theorem dX4_isSign_24 : decode cX4_isSign 24 = .ok (.goto 4, 3) := dk_167 0 4 (dk_at dksX4_isSign_1 0 rfl rfl)
theorem dX4_isSign_27 : decode cX4_isSign 27 = .ok (.iconst 0, 1) := dk_3 (dk_at dksX4_isSign_1 3 rfl rfl)
theorem dX4_isSign_28 : decode cX4_isSign 28 = .ok (.ireturn, 1) := dk_172 (dk_at dksX4_isSign_1 4 rfl rfl)
abbrev cX4_statement : ByteArray := prog_23_method_109_code
def yX4_statement : MethodName := ⟨RX4, "statement", "()V"⟩
def dkwX4_statement_3 : List UInt8 := [182, 0, 139, 177]
abbrev dktX4_statement_3 : List UInt8 := dkwX4_statement_3 ++ []
def dkwX4_statement_2 : List UInt8 := [167, 0, 25, 42, 20, 1, 189, 182, 0, 145, 153, 0, 10, 42, 182, 1, 191, 167, 0, 8, 42, 4]
abbrev dktX4_statement_2 : List UInt8 := dkwX4_statement_2 ++ dktX4_statement_3
def dkwX4_statement_1 : List UInt8 := [153, 0, 10, 42, 182, 1, 181, 167, 0, 42, 42, 20, 1, 184, 182, 0, 145, 153, 0, 10, 42, 182, 1, 186]
abbrev dktX4_statement_1 : List UInt8 := dkwX4_statement_1 ++ dktX4_statement_2
def dkwX4_statement_0 : List UInt8 := [42, 20, 1, 174, 182, 0, 145, 153, 0, 10, 42, 182, 1, 176, 167, 0, 59, 42, 20, 1, 179, 182, 0, 145]
abbrev dktX4_statement_0 : List UInt8 := dkwX4_statement_0 ++ dktX4_statement_1
theorem dksX4_statement_0 : cX4_statement.data.toList.drop 0 = dktX4_statement_0 := by decide +kernel
theorem dksX4_statement_1 : cX4_statement.data.toList.drop 24 = dktX4_statement_1 := dk_seg dksX4_statement_0 24 rfl rfl
theorem dksX4_statement_2 : cX4_statement.data.toList.drop 48 = dktX4_statement_2 := dk_seg dksX4_statement_1 24 rfl rfl
theorem dksX4_statement_3 : cX4_statement.data.toList.drop 70 = dktX4_statement_3 := dk_seg dksX4_statement_2 22 rfl rfl
theorem dX4_statement_0 : decode cX4_statement 0 = .ok (.aload_n 0, 1) := dk_42 (dk_at dksX4_statement_0 0 rfl rfl)
theorem dX4_statement_1 : decode cX4_statement 1 = .ok (.ldc2_w 430, 3) := dk_20 1 174 (dk_at dksX4_statement_0 1 rfl rfl)
theorem dX4_statement_4 : decode cX4_statement 4 = .ok (.invokevirtual 145, 3) := dk_182 0 145 (dk_at dksX4_statement_0 4 rfl rfl)
theorem dX4_statement_7 : decode cX4_statement 7 = .ok (.ifCond .eq 10, 3) := dk_153 0 10 (dk_at dksX4_statement_0 7 rfl rfl)
theorem dX4_statement_10 : decode cX4_statement 10 = .ok (.aload_n 0, 1) := dk_42 (dk_at dksX4_statement_0 10 rfl rfl)
theorem dX4_statement_11 : decode cX4_statement 11 = .ok (.invokevirtual 432, 3) := dk_182 1 176 (dk_at dksX4_statement_0 11 rfl rfl)
theorem dX4_statement_14 : decode cX4_statement 14 = .ok (.goto 59, 3) := dk_167 0 59 (dk_at dksX4_statement_0 14 rfl rfl)
theorem dX4_statement_17 : decode cX4_statement 17 = .ok (.aload_n 0, 1) := dk_42 (dk_at dksX4_statement_0 17 rfl rfl)
theorem dX4_statement_18 : decode cX4_statement 18 = .ok (.ldc2_w 435, 3) := dk_20 1 179 (dk_at dksX4_statement_0 18 rfl rfl)
theorem dX4_statement_21 : decode cX4_statement 21 = .ok (.invokevirtual 145, 3) := dk_182 0 145 (dk_at dksX4_statement_0 21 rfl rfl)
theorem dX4_statement_24 : decode cX4_statement 24 = .ok (.ifCond .eq 10, 3) := dk_153 0 10 (dk_at dksX4_statement_1 0 rfl rfl)
theorem dX4_statement_27 : decode cX4_statement 27 = .ok (.aload_n 0, 1) := dk_42 (dk_at dksX4_statement_1 3 rfl rfl)
theorem dX4_statement_28 : decode cX4_statement 28 = .ok (.invokevirtual 437, 3) := dk_182 1 181 (dk_at dksX4_statement_1 4 rfl rfl)
theorem dX4_statement_31 : decode cX4_statement 31 = .ok (.goto 42, 3) := dk_167 0 42 (dk_at dksX4_statement_1 7 rfl rfl)
theorem dX4_statement_34 : decode cX4_statement 34 = .ok (.aload_n 0, 1) := dk_42 (dk_at dksX4_statement_1 10 rfl rfl)
theorem dX4_statement_35 : decode cX4_statement 35 = .ok (.ldc2_w 440, 3) := dk_20 1 184 (dk_at dksX4_statement_1 11 rfl rfl)
theorem dX4_statement_38 : decode cX4_statement 38 = .ok (.invokevirtual 145, 3) := dk_182 0 145 (dk_at dksX4_statement_1 14 rfl rfl)
theorem dX4_statement_41 : decode cX4_statement 41 = .ok (.ifCond .eq 10, 3) := dk_153 0 10 (dk_at dksX4_statement_1 17 rfl rfl)
theorem dX4_statement_44 : decode cX4_statement 44 = .ok (.aload_n 0, 1) := dk_42 (dk_at dksX4_statement_1 20 rfl rfl)
theorem dX4_statement_45 : decode cX4_statement 45 = .ok (.invokevirtual 442, 3) := dk_182 1 186 (dk_at dksX4_statement_1 21 rfl rfl)
theorem dX4_statement_48 : decode cX4_statement 48 = .ok (.goto 25, 3) := dk_167 0 25 (dk_at dksX4_statement_2 0 rfl rfl)
theorem dX4_statement_51 : decode cX4_statement 51 = .ok (.aload_n 0, 1) := dk_42 (dk_at dksX4_statement_2 3 rfl rfl)
theorem dX4_statement_52 : decode cX4_statement 52 = .ok (.ldc2_w 445, 3) := dk_20 1 189 (dk_at dksX4_statement_2 4 rfl rfl)
theorem dX4_statement_55 : decode cX4_statement 55 = .ok (.invokevirtual 145, 3) := dk_182 0 145 (dk_at dksX4_statement_2 7 rfl rfl)
theorem dX4_statement_58 : decode cX4_statement 58 = .ok (.ifCond .eq 10, 3) := dk_153 0 10 (dk_at dksX4_statement_2 10 rfl rfl)
theorem dX4_statement_61 : decode cX4_statement 61 = .ok (.aload_n 0, 1) := dk_42 (dk_at dksX4_statement_2 13 rfl rfl)
theorem dX4_statement_62 : decode cX4_statement 62 = .ok (.invokevirtual 447, 3) := dk_182 1 191 (dk_at dksX4_statement_2 14 rfl rfl)
theorem dX4_statement_65 : decode cX4_statement 65 = .ok (.goto 8, 3) := dk_167 0 8 (dk_at dksX4_statement_2 17 rfl rfl)
theorem dX4_statement_68 : decode cX4_statement 68 = .ok (.aload_n 0, 1) := dk_42 (dk_at dksX4_statement_2 20 rfl rfl)
theorem dX4_statement_69 : decode cX4_statement 69 = .ok (.iconst 1, 1) := dk_4 (dk_at dksX4_statement_2 21 rfl rfl)
theorem dX4_statement_70 : decode cX4_statement 70 = .ok (.invokevirtual 139, 3) := dk_182 0 139 (dk_at dksX4_statement_3 0 rfl rfl)
theorem dX4_statement_73 : decode cX4_statement 73 = .ok (.return_, 1) := dk_177 (dk_at dksX4_statement_3 3 rfl rfl)
abbrev cX4_matrixLine : ByteArray := prog_23_method_105_code
def yX4_matrixLine : MethodName := ⟨RX4, "matrixLine", "()V"⟩
def dkwX4_matrixLine_1 : List UInt8 := [62, 42, 182, 0, 132, 153, 0, 14, 42, 42, 27, 28, 29, 182, 1, 105, 181, 1, 163, 177]
abbrev dktX4_matrixLine_1 : List UInt8 := dkwX4_matrixLine_1 ++ []
def dkwX4_matrixLine_0 : List UInt8 := [42, 182, 0, 142, 42, 182, 1, 157, 60, 42, 4, 16, 12, 182, 1, 160, 61, 42, 4, 16, 12, 182, 1, 160]
abbrev dktX4_matrixLine_0 : List UInt8 := dkwX4_matrixLine_0 ++ dktX4_matrixLine_1
theorem dksX4_matrixLine_0 : cX4_matrixLine.data.toList.drop 0 = dktX4_matrixLine_0 := by decide +kernel
theorem dksX4_matrixLine_1 : cX4_matrixLine.data.toList.drop 24 = dktX4_matrixLine_1 := dk_seg dksX4_matrixLine_0 24 rfl rfl
theorem dX4_matrixLine_0 : decode cX4_matrixLine 0 = .ok (.aload_n 0, 1) := dk_42 (dk_at dksX4_matrixLine_0 0 rfl rfl)
theorem dX4_matrixLine_1 : decode cX4_matrixLine 1 = .ok (.invokevirtual 142, 3) := dk_182 0 142 (dk_at dksX4_matrixLine_0 1 rfl rfl)
theorem dX4_matrixLine_4 : decode cX4_matrixLine 4 = .ok (.aload_n 0, 1) := dk_42 (dk_at dksX4_matrixLine_0 4 rfl rfl)
theorem dX4_matrixLine_5 : decode cX4_matrixLine 5 = .ok (.invokevirtual 413, 3) := dk_182 1 157 (dk_at dksX4_matrixLine_0 5 rfl rfl)
theorem dX4_matrixLine_8 : decode cX4_matrixLine 8 = .ok (.istore_n 1, 1) := dk_60 (dk_at dksX4_matrixLine_0 8 rfl rfl)
theorem dX4_matrixLine_9 : decode cX4_matrixLine 9 = .ok (.aload_n 0, 1) := dk_42 (dk_at dksX4_matrixLine_0 9 rfl rfl)
theorem dX4_matrixLine_10 : decode cX4_matrixLine 10 = .ok (.iconst 1, 1) := dk_4 (dk_at dksX4_matrixLine_0 10 rfl rfl)
theorem dX4_matrixLine_11 : decode cX4_matrixLine 11 = .ok (.bipush 12, 2) := dk_16 12 (dk_at dksX4_matrixLine_0 11 rfl rfl)
theorem dX4_matrixLine_13 : decode cX4_matrixLine 13 = .ok (.invokevirtual 416, 3) := dk_182 1 160 (dk_at dksX4_matrixLine_0 13 rfl rfl)
theorem dX4_matrixLine_16 : decode cX4_matrixLine 16 = .ok (.istore_n 2, 1) := dk_61 (dk_at dksX4_matrixLine_0 16 rfl rfl)
theorem dX4_matrixLine_17 : decode cX4_matrixLine 17 = .ok (.aload_n 0, 1) := dk_42 (dk_at dksX4_matrixLine_0 17 rfl rfl)
theorem dX4_matrixLine_18 : decode cX4_matrixLine 18 = .ok (.iconst 1, 1) := dk_4 (dk_at dksX4_matrixLine_0 18 rfl rfl)
theorem dX4_matrixLine_19 : decode cX4_matrixLine 19 = .ok (.bipush 12, 2) := dk_16 12 (dk_at dksX4_matrixLine_0 19 rfl rfl)
theorem dX4_matrixLine_21 : decode cX4_matrixLine 21 = .ok (.invokevirtual 416, 3) := dk_182 1 160 (dk_at dksX4_matrixLine_0 21 rfl rfl)
theorem dX4_matrixLine_24 : decode cX4_matrixLine 24 = .ok (.istore_n 3, 1) := dk_62 (dk_at dksX4_matrixLine_1 0 rfl rfl)
theorem dX4_matrixLine_25 : decode cX4_matrixLine 25 = .ok (.aload_n 0, 1) := dk_42 (dk_at dksX4_matrixLine_1 1 rfl rfl)
theorem dX4_matrixLine_26 : decode cX4_matrixLine 26 = .ok (.invokevirtual 132, 3) := dk_182 0 132 (dk_at dksX4_matrixLine_1 2 rfl rfl)
theorem dX4_matrixLine_29 : decode cX4_matrixLine 29 = .ok (.ifCond .eq 14, 3) := dk_153 0 14 (dk_at dksX4_matrixLine_1 5 rfl rfl)
theorem dX4_matrixLine_32 : decode cX4_matrixLine 32 = .ok (.aload_n 0, 1) := dk_42 (dk_at dksX4_matrixLine_1 8 rfl rfl)
theorem dX4_matrixLine_33 : decode cX4_matrixLine 33 = .ok (.aload_n 0, 1) := dk_42 (dk_at dksX4_matrixLine_1 9 rfl rfl)
theorem dX4_matrixLine_34 : decode cX4_matrixLine 34 = .ok (.iload_n 1, 1) := dk_27 (dk_at dksX4_matrixLine_1 10 rfl rfl)
theorem dX4_matrixLine_35 : decode cX4_matrixLine 35 = .ok (.iload_n 2, 1) := dk_28 (dk_at dksX4_matrixLine_1 11 rfl rfl)
theorem dX4_matrixLine_36 : decode cX4_matrixLine 36 = .ok (.iload_n 3, 1) := dk_29 (dk_at dksX4_matrixLine_1 12 rfl rfl)
theorem dX4_matrixLine_37 : decode cX4_matrixLine 37 = .ok (.invokevirtual 361, 3) := dk_182 1 105 (dk_at dksX4_matrixLine_1 13 rfl rfl)
theorem dX4_matrixLine_40 : decode cX4_matrixLine 40 = .ok (.putfield 419, 3) := dk_181 1 163 (dk_at dksX4_matrixLine_1 16 rfl rfl)
theorem dX4_matrixLine_43 : decode cX4_matrixLine 43 = .ok (.return_, 1) := dk_177 (dk_at dksX4_matrixLine_1 19 rfl rfl)
abbrev cX4_registerWord : ByteArray := prog_23_method_103_code
def yX4_registerWord : MethodName := ⟨RX4, "registerWord", "()I"⟩
def dkwX4_registerWord_1 : List UInt8 := [182, 0, 142, 27, 172]
abbrev dktX4_registerWord_1 : List UInt8 := dkwX4_registerWord_1 ++ []
def dkwX4_registerWord_0 : List UInt8 := [42, 182, 1, 19, 60, 27, 2, 160, 0, 8, 42, 4, 182, 0, 139, 42, 182, 0, 132, 153, 0, 7, 42]
abbrev dktX4_registerWord_0 : List UInt8 := dkwX4_registerWord_0 ++ dktX4_registerWord_1
theorem dksX4_registerWord_0 : cX4_registerWord.data.toList.drop 0 = dktX4_registerWord_0 := by decide +kernel
theorem dksX4_registerWord_1 : cX4_registerWord.data.toList.drop 23 = dktX4_registerWord_1 := dk_seg dksX4_registerWord_0 23 rfl rfl
theorem dX4_registerWord_0 : decode cX4_registerWord 0 = .ok (.aload_n 0, 1) := dk_42 (dk_at dksX4_registerWord_0 0 rfl rfl)
theorem dX4_registerWord_1 : decode cX4_registerWord 1 = .ok (.invokevirtual 275, 3) := dk_182 1 19 (dk_at dksX4_registerWord_0 1 rfl rfl)
theorem dX4_registerWord_4 : decode cX4_registerWord 4 = .ok (.istore_n 1, 1) := dk_60 (dk_at dksX4_registerWord_0 4 rfl rfl)
theorem dX4_registerWord_5 : decode cX4_registerWord 5 = .ok (.iload_n 1, 1) := dk_27 (dk_at dksX4_registerWord_0 5 rfl rfl)
theorem dX4_registerWord_6 : decode cX4_registerWord 6 = .ok (.iconst (-1), 1) := dk_2 (dk_at dksX4_registerWord_0 6 rfl rfl)
theorem dX4_registerWord_7 : decode cX4_registerWord 7 = .ok (.if_icmp .ne 8, 3) := dk_160 0 8 (dk_at dksX4_registerWord_0 7 rfl rfl)
theorem dX4_registerWord_10 : decode cX4_registerWord 10 = .ok (.aload_n 0, 1) := dk_42 (dk_at dksX4_registerWord_0 10 rfl rfl)
theorem dX4_registerWord_11 : decode cX4_registerWord 11 = .ok (.iconst 1, 1) := dk_4 (dk_at dksX4_registerWord_0 11 rfl rfl)
theorem dX4_registerWord_12 : decode cX4_registerWord 12 = .ok (.invokevirtual 139, 3) := dk_182 0 139 (dk_at dksX4_registerWord_0 12 rfl rfl)
theorem dX4_registerWord_15 : decode cX4_registerWord 15 = .ok (.aload_n 0, 1) := dk_42 (dk_at dksX4_registerWord_0 15 rfl rfl)
theorem dX4_registerWord_16 : decode cX4_registerWord 16 = .ok (.invokevirtual 132, 3) := dk_182 0 132 (dk_at dksX4_registerWord_0 16 rfl rfl)
theorem dX4_registerWord_19 : decode cX4_registerWord 19 = .ok (.ifCond .eq 7, 3) := dk_153 0 7 (dk_at dksX4_registerWord_0 19 rfl rfl)
theorem dX4_registerWord_22 : decode cX4_registerWord 22 = .ok (.aload_n 0, 1) := dk_42 (dk_at dksX4_registerWord_0 22 rfl rfl)
theorem dX4_registerWord_23 : decode cX4_registerWord 23 = .ok (.invokevirtual 142, 3) := dk_182 0 142 (dk_at dksX4_registerWord_1 0 rfl rfl)
theorem dX4_registerWord_26 : decode cX4_registerWord 26 = .ok (.iload_n 1, 1) := dk_27 (dk_at dksX4_registerWord_1 3 rfl rfl)
theorem dX4_registerWord_27 : decode cX4_registerWord 27 = .ok (.ireturn, 1) := dk_172 (dk_at dksX4_registerWord_1 4 rfl rfl)
abbrev cX4_registerHere : ByteArray := prog_23_method_63_code
def yX4_registerHere : MethodName := ⟨RX4, "registerHere", "()I"⟩
def dkwX4_registerHere_1 : List UInt8 := [42, 180, 0, 112, 20, 1, 11, 148, 157, 0, 13, 42, 180, 0, 112, 136, 4, 100, 167, 0, 4, 2, 172]
abbrev dktX4_registerHere_1 : List UInt8 := dkwX4_registerHere_1 ++ []
def dkwX4_registerHere_0 : List UInt8 := [42, 182, 0, 132, 153, 0, 41, 42, 180, 0, 119, 4, 160, 0, 33, 42, 180, 0, 112, 10, 148, 155, 0, 24]
abbrev dktX4_registerHere_0 : List UInt8 := dkwX4_registerHere_0 ++ dktX4_registerHere_1
theorem dksX4_registerHere_0 : cX4_registerHere.data.toList.drop 0 = dktX4_registerHere_0 := by decide +kernel
theorem dksX4_registerHere_1 : cX4_registerHere.data.toList.drop 24 = dktX4_registerHere_1 := dk_seg dksX4_registerHere_0 24 rfl rfl
theorem dX4_registerHere_0 : decode cX4_registerHere 0 = .ok (.aload_n 0, 1) := dk_42 (dk_at dksX4_registerHere_0 0 rfl rfl)
theorem dX4_registerHere_1 : decode cX4_registerHere 1 = .ok (.invokevirtual 132, 3) := dk_182 0 132 (dk_at dksX4_registerHere_0 1 rfl rfl)
theorem dX4_registerHere_4 : decode cX4_registerHere 4 = .ok (.ifCond .eq 41, 3) := dk_153 0 41 (dk_at dksX4_registerHere_0 4 rfl rfl)
theorem dX4_registerHere_7 : decode cX4_registerHere 7 = .ok (.aload_n 0, 1) := dk_42 (dk_at dksX4_registerHere_0 7 rfl rfl)
theorem dX4_registerHere_8 : decode cX4_registerHere 8 = .ok (.getfield 119, 3) := dk_180 0 119 (dk_at dksX4_registerHere_0 8 rfl rfl)
theorem dX4_registerHere_11 : decode cX4_registerHere 11 = .ok (.iconst 1, 1) := dk_4 (dk_at dksX4_registerHere_0 11 rfl rfl)
theorem dX4_registerHere_12 : decode cX4_registerHere 12 = .ok (.if_icmp .ne 33, 3) := dk_160 0 33 (dk_at dksX4_registerHere_0 12 rfl rfl)
theorem dX4_registerHere_15 : decode cX4_registerHere 15 = .ok (.aload_n 0, 1) := dk_42 (dk_at dksX4_registerHere_0 15 rfl rfl)
theorem dX4_registerHere_16 : decode cX4_registerHere 16 = .ok (.getfield 112, 3) := dk_180 0 112 (dk_at dksX4_registerHere_0 16 rfl rfl)
theorem dX4_registerHere_19 : decode cX4_registerHere 19 = .ok (.lconst 1, 1) := dk_10 (dk_at dksX4_registerHere_0 19 rfl rfl)
theorem dX4_registerHere_20 : decode cX4_registerHere 20 = .ok (.lcmp, 1) := dk_148 (dk_at dksX4_registerHere_0 20 rfl rfl)
theorem dX4_registerHere_21 : decode cX4_registerHere 21 = .ok (.ifCond .lt 24, 3) := dk_155 0 24 (dk_at dksX4_registerHere_0 21 rfl rfl)
theorem dX4_registerHere_24 : decode cX4_registerHere 24 = .ok (.aload_n 0, 1) := dk_42 (dk_at dksX4_registerHere_1 0 rfl rfl)
theorem dX4_registerHere_25 : decode cX4_registerHere 25 = .ok (.getfield 112, 3) := dk_180 0 112 (dk_at dksX4_registerHere_1 1 rfl rfl)
theorem dX4_registerHere_28 : decode cX4_registerHere 28 = .ok (.ldc2_w 267, 3) := dk_20 1 11 (dk_at dksX4_registerHere_1 4 rfl rfl)
theorem dX4_registerHere_31 : decode cX4_registerHere 31 = .ok (.lcmp, 1) := dk_148 (dk_at dksX4_registerHere_1 7 rfl rfl)
theorem dX4_registerHere_32 : decode cX4_registerHere 32 = .ok (.ifCond .gt 13, 3) := dk_157 0 13 (dk_at dksX4_registerHere_1 8 rfl rfl)
theorem dX4_registerHere_35 : decode cX4_registerHere 35 = .ok (.aload_n 0, 1) := dk_42 (dk_at dksX4_registerHere_1 11 rfl rfl)
theorem dX4_registerHere_36 : decode cX4_registerHere 36 = .ok (.getfield 112, 3) := dk_180 0 112 (dk_at dksX4_registerHere_1 12 rfl rfl)
theorem dX4_registerHere_39 : decode cX4_registerHere 39 = .ok (.l2i, 1) := dk_136 (dk_at dksX4_registerHere_1 15 rfl rfl)
theorem dX4_registerHere_40 : decode cX4_registerHere 40 = .ok (.iconst 1, 1) := dk_4 (dk_at dksX4_registerHere_1 16 rfl rfl)
theorem dX4_registerHere_41 : decode cX4_registerHere 41 = .ok (.isub, 1) := dk_100 (dk_at dksX4_registerHere_1 17 rfl rfl)
theorem dX4_registerHere_42 : decode cX4_registerHere 42 = .ok (.goto 4, 3) := dk_167 0 4 (dk_at dksX4_registerHere_1 18 rfl rfl)
theorem dX4_registerHere_45 : decode cX4_registerHere 45 = .ok (.iconst (-1), 1) := dk_2 (dk_at dksX4_registerHere_1 21 rfl rfl)
theorem dX4_registerHere_46 : decode cX4_registerHere 46 = .ok (.ireturn, 1) := dk_172 (dk_at dksX4_registerHere_1 22 rfl rfl)
abbrev cX4_more : ByteArray := prog_23_method_104_code
def yX4_more : MethodName := ⟨RX4, "more", "(II)I"⟩
def dkwX4_more_0 : List UInt8 := [42, 182, 0, 132, 153, 0, 12, 42, 27, 28, 182, 1, 154, 167, 0, 4, 27, 172]
abbrev dktX4_more_0 : List UInt8 := dkwX4_more_0 ++ []
theorem dksX4_more_0 : cX4_more.data.toList.drop 0 = dktX4_more_0 := by decide +kernel
theorem dX4_more_0 : decode cX4_more 0 = .ok (.aload_n 0, 1) := dk_42 (dk_at dksX4_more_0 0 rfl rfl)
theorem dX4_more_1 : decode cX4_more 1 = .ok (.invokevirtual 132, 3) := dk_182 0 132 (dk_at dksX4_more_0 1 rfl rfl)
theorem dX4_more_4 : decode cX4_more 4 = .ok (.ifCond .eq 12, 3) := dk_153 0 12 (dk_at dksX4_more_0 4 rfl rfl)
theorem dX4_more_7 : decode cX4_more 7 = .ok (.aload_n 0, 1) := dk_42 (dk_at dksX4_more_0 7 rfl rfl)
theorem dX4_more_8 : decode cX4_more 8 = .ok (.iload_n 1, 1) := dk_27 (dk_at dksX4_more_0 8 rfl rfl)
theorem dX4_more_9 : decode cX4_more 9 = .ok (.iload_n 2, 1) := dk_28 (dk_at dksX4_more_0 9 rfl rfl)
theorem dX4_more_10 : decode cX4_more 10 = .ok (.invokevirtual 410, 3) := dk_182 1 154 (dk_at dksX4_more_0 10 rfl rfl)
theorem dX4_more_13 : decode cX4_more 13 = .ok (.goto 4, 3) := dk_167 0 4 (dk_at dksX4_more_0 13 rfl rfl)
theorem dX4_more_16 : decode cX4_more 16 = .ok (.iload_n 1, 1) := dk_27 (dk_at dksX4_more_0 16 rfl rfl)
theorem dX4_more_17 : decode cX4_more 17 = .ok (.ireturn, 1) := dk_172 (dk_at dksX4_more_0 17 rfl rfl)
abbrev cX4_number : ByteArray := prog_23_method_23_code
def yX4_number : MethodName := ⟨RX4, "number", "(II)I"⟩
def dkwX4_number_0 : List UInt8 := [42, 27, 28, 182, 0, 149, 62, 42, 182, 0, 132, 153, 0, 7, 42, 182, 0, 142, 29, 172]
abbrev dktX4_number_0 : List UInt8 := dkwX4_number_0 ++ []
theorem dksX4_number_0 : cX4_number.data.toList.drop 0 = dktX4_number_0 := by decide +kernel
theorem dX4_number_0 : decode cX4_number 0 = .ok (.aload_n 0, 1) := dk_42 (dk_at dksX4_number_0 0 rfl rfl)
theorem dX4_number_1 : decode cX4_number 1 = .ok (.iload_n 1, 1) := dk_27 (dk_at dksX4_number_0 1 rfl rfl)
theorem dX4_number_2 : decode cX4_number 2 = .ok (.iload_n 2, 1) := dk_28 (dk_at dksX4_number_0 2 rfl rfl)
theorem dX4_number_3 : decode cX4_number 3 = .ok (.invokevirtual 149, 3) := dk_182 0 149 (dk_at dksX4_number_0 3 rfl rfl)
theorem dX4_number_6 : decode cX4_number 6 = .ok (.istore_n 3, 1) := dk_62 (dk_at dksX4_number_0 6 rfl rfl)
theorem dX4_number_7 : decode cX4_number 7 = .ok (.aload_n 0, 1) := dk_42 (dk_at dksX4_number_0 7 rfl rfl)
theorem dX4_number_8 : decode cX4_number 8 = .ok (.invokevirtual 132, 3) := dk_182 0 132 (dk_at dksX4_number_0 8 rfl rfl)
theorem dX4_number_11 : decode cX4_number 11 = .ok (.ifCond .eq 7, 3) := dk_153 0 7 (dk_at dksX4_number_0 11 rfl rfl)
theorem dX4_number_14 : decode cX4_number 14 = .ok (.aload_n 0, 1) := dk_42 (dk_at dksX4_number_0 14 rfl rfl)
theorem dX4_number_15 : decode cX4_number 15 = .ok (.invokevirtual 142, 3) := dk_182 0 142 (dk_at dksX4_number_0 15 rfl rfl)
theorem dX4_number_18 : decode cX4_number 18 = .ok (.iload_n 3, 1) := dk_29 (dk_at dksX4_number_0 18 rfl rfl)
theorem dX4_number_19 : decode cX4_number 19 = .ok (.ireturn, 1) := dk_172 (dk_at dksX4_number_0 19 rfl rfl)
abbrev cX4_looks : ByteArray := prog_23_method_22_code
def yX4_looks : MethodName := ⟨RX4, "looks", "(II)I"⟩
def dkwX4_looks_2 : List UInt8 := [180, 0, 116, 172]
abbrev dktX4_looks_2 : List UInt8 := dkwX4_looks_2 ++ []
def dkwX4_looks_1 : List UInt8 := [153, 0, 23, 42, 180, 0, 116, 133, 27, 133, 28, 133, 184, 0, 95, 154, 0, 8, 42, 5, 182, 0, 139, 42]
abbrev dktX4_looks_1 : List UInt8 := dkwX4_looks_1 ++ dktX4_looks_2
def dkwX4_looks_0 : List UInt8 := [42, 182, 0, 132, 153, 0, 16, 42, 180, 0, 119, 5, 159, 0, 8, 42, 4, 182, 0, 139, 42, 182, 0, 132]
abbrev dktX4_looks_0 : List UInt8 := dkwX4_looks_0 ++ dktX4_looks_1
theorem dksX4_looks_0 : cX4_looks.data.toList.drop 0 = dktX4_looks_0 := by decide +kernel
theorem dksX4_looks_1 : cX4_looks.data.toList.drop 24 = dktX4_looks_1 := dk_seg dksX4_looks_0 24 rfl rfl
theorem dksX4_looks_2 : cX4_looks.data.toList.drop 48 = dktX4_looks_2 := dk_seg dksX4_looks_1 24 rfl rfl
theorem dX4_looks_0 : decode cX4_looks 0 = .ok (.aload_n 0, 1) := dk_42 (dk_at dksX4_looks_0 0 rfl rfl)
theorem dX4_looks_1 : decode cX4_looks 1 = .ok (.invokevirtual 132, 3) := dk_182 0 132 (dk_at dksX4_looks_0 1 rfl rfl)
theorem dX4_looks_4 : decode cX4_looks 4 = .ok (.ifCond .eq 16, 3) := dk_153 0 16 (dk_at dksX4_looks_0 4 rfl rfl)
theorem dX4_looks_7 : decode cX4_looks 7 = .ok (.aload_n 0, 1) := dk_42 (dk_at dksX4_looks_0 7 rfl rfl)
theorem dX4_looks_8 : decode cX4_looks 8 = .ok (.getfield 119, 3) := dk_180 0 119 (dk_at dksX4_looks_0 8 rfl rfl)
theorem dX4_looks_11 : decode cX4_looks 11 = .ok (.iconst 2, 1) := dk_5 (dk_at dksX4_looks_0 11 rfl rfl)
theorem dX4_looks_12 : decode cX4_looks 12 = .ok (.if_icmp .eq 8, 3) := dk_159 0 8 (dk_at dksX4_looks_0 12 rfl rfl)
theorem dX4_looks_15 : decode cX4_looks 15 = .ok (.aload_n 0, 1) := dk_42 (dk_at dksX4_looks_0 15 rfl rfl)
theorem dX4_looks_16 : decode cX4_looks 16 = .ok (.iconst 1, 1) := dk_4 (dk_at dksX4_looks_0 16 rfl rfl)
theorem dX4_looks_17 : decode cX4_looks 17 = .ok (.invokevirtual 139, 3) := dk_182 0 139 (dk_at dksX4_looks_0 17 rfl rfl)
theorem dX4_looks_20 : decode cX4_looks 20 = .ok (.aload_n 0, 1) := dk_42 (dk_at dksX4_looks_0 20 rfl rfl)
theorem dX4_looks_21 : decode cX4_looks 21 = .ok (.invokevirtual 132, 3) := dk_182 0 132 (dk_at dksX4_looks_0 21 rfl rfl)
theorem dX4_looks_24 : decode cX4_looks 24 = .ok (.ifCond .eq 23, 3) := dk_153 0 23 (dk_at dksX4_looks_1 0 rfl rfl)
theorem dX4_looks_27 : decode cX4_looks 27 = .ok (.aload_n 0, 1) := dk_42 (dk_at dksX4_looks_1 3 rfl rfl)
theorem dX4_looks_28 : decode cX4_looks 28 = .ok (.getfield 116, 3) := dk_180 0 116 (dk_at dksX4_looks_1 4 rfl rfl)
theorem dX4_looks_31 : decode cX4_looks 31 = .ok (.i2l, 1) := dk_133 (dk_at dksX4_looks_1 7 rfl rfl)
theorem dX4_looks_32 : decode cX4_looks 32 = .ok (.iload_n 1, 1) := dk_27 (dk_at dksX4_looks_1 8 rfl rfl)
theorem dX4_looks_33 : decode cX4_looks 33 = .ok (.i2l, 1) := dk_133 (dk_at dksX4_looks_1 9 rfl rfl)
theorem dX4_looks_34 : decode cX4_looks 34 = .ok (.iload_n 2, 1) := dk_28 (dk_at dksX4_looks_1 10 rfl rfl)
theorem dX4_looks_35 : decode cX4_looks 35 = .ok (.i2l, 1) := dk_133 (dk_at dksX4_looks_1 11 rfl rfl)
theorem dX4_looks_36 : decode cX4_looks 36 = .ok (.invokestatic 95, 3) := dk_184 0 95 (dk_at dksX4_looks_1 12 rfl rfl)
theorem dX4_looks_39 : decode cX4_looks 39 = .ok (.ifCond .ne 8, 3) := dk_154 0 8 (dk_at dksX4_looks_1 15 rfl rfl)
theorem dX4_looks_42 : decode cX4_looks 42 = .ok (.aload_n 0, 1) := dk_42 (dk_at dksX4_looks_1 18 rfl rfl)
theorem dX4_looks_43 : decode cX4_looks 43 = .ok (.iconst 2, 1) := dk_5 (dk_at dksX4_looks_1 19 rfl rfl)
theorem dX4_looks_44 : decode cX4_looks 44 = .ok (.invokevirtual 139, 3) := dk_182 0 139 (dk_at dksX4_looks_1 20 rfl rfl)
theorem dX4_looks_47 : decode cX4_looks 47 = .ok (.aload_n 0, 1) := dk_42 (dk_at dksX4_looks_1 23 rfl rfl)
theorem dX4_looks_48 : decode cX4_looks 48 = .ok (.getfield 116, 3) := dk_180 0 116 (dk_at dksX4_looks_2 0 rfl rfl)
theorem dX4_looks_51 : decode cX4_looks 51 = .ok (.ireturn, 1) := dk_172 (dk_at dksX4_looks_2 3 rfl rfl)
abbrev cX4_entryLine : ByteArray := prog_23_method_106_code
def yX4_entryLine : MethodName := ⟨RX4, "entryLine", "()V"⟩
def dkwX4_entryLine_4 : List UInt8 := [29, 21, 4, 153, 0, 9, 21, 5, 116, 167, 0, 5, 21, 5, 182, 1, 115, 181, 1, 163, 177]
abbrev dktX4_entryLine_4 : List UInt8 := dkwX4_entryLine_4 ++ []
def dkwX4_entryLine_3 : List UInt8 := [182, 0, 142, 42, 3, 17, 39, 15, 182, 1, 160, 54, 5, 42, 182, 0, 132, 153, 0, 27, 42, 42, 27, 28]
abbrev dktX4_entryLine_3 : List UInt8 := dkwX4_entryLine_3 ++ dktX4_entryLine_4
def dkwX4_entryLine_2 : List UInt8 := [100, 182, 1, 160, 167, 0, 4, 3, 62, 42, 20, 1, 166, 182, 0, 145, 54, 4, 21, 4, 153, 0, 7, 42]
abbrev dktX4_entryLine_2 : List UInt8 := dkwX4_entryLine_2 ++ dktX4_entryLine_3
def dkwX4_entryLine_1 : List UInt8 := [100, 182, 1, 160, 167, 0, 4, 3, 61, 42, 182, 0, 132, 153, 0, 18, 42, 3, 42, 27, 182, 1, 66, 4]
abbrev dktX4_entryLine_1 : List UInt8 := dkwX4_entryLine_1 ++ dktX4_entryLine_2
def dkwX4_entryLine_0 : List UInt8 := [42, 182, 0, 142, 42, 182, 1, 157, 60, 42, 182, 0, 132, 153, 0, 18, 42, 3, 42, 27, 182, 1, 60, 4]
abbrev dktX4_entryLine_0 : List UInt8 := dkwX4_entryLine_0 ++ dktX4_entryLine_1
theorem dksX4_entryLine_0 : cX4_entryLine.data.toList.drop 0 = dktX4_entryLine_0 := by decide +kernel
theorem dksX4_entryLine_1 : cX4_entryLine.data.toList.drop 24 = dktX4_entryLine_1 := dk_seg dksX4_entryLine_0 24 rfl rfl
theorem dksX4_entryLine_2 : cX4_entryLine.data.toList.drop 48 = dktX4_entryLine_2 := dk_seg dksX4_entryLine_1 24 rfl rfl
theorem dksX4_entryLine_3 : cX4_entryLine.data.toList.drop 72 = dktX4_entryLine_3 := dk_seg dksX4_entryLine_2 24 rfl rfl
theorem dksX4_entryLine_4 : cX4_entryLine.data.toList.drop 96 = dktX4_entryLine_4 := dk_seg dksX4_entryLine_3 24 rfl rfl
theorem dX4_entryLine_0 : decode cX4_entryLine 0 = .ok (.aload_n 0, 1) := dk_42 (dk_at dksX4_entryLine_0 0 rfl rfl)
theorem dX4_entryLine_1 : decode cX4_entryLine 1 = .ok (.invokevirtual 142, 3) := dk_182 0 142 (dk_at dksX4_entryLine_0 1 rfl rfl)
theorem dX4_entryLine_4 : decode cX4_entryLine 4 = .ok (.aload_n 0, 1) := dk_42 (dk_at dksX4_entryLine_0 4 rfl rfl)
theorem dX4_entryLine_5 : decode cX4_entryLine 5 = .ok (.invokevirtual 413, 3) := dk_182 1 157 (dk_at dksX4_entryLine_0 5 rfl rfl)
theorem dX4_entryLine_8 : decode cX4_entryLine 8 = .ok (.istore_n 1, 1) := dk_60 (dk_at dksX4_entryLine_0 8 rfl rfl)
theorem dX4_entryLine_9 : decode cX4_entryLine 9 = .ok (.aload_n 0, 1) := dk_42 (dk_at dksX4_entryLine_0 9 rfl rfl)
theorem dX4_entryLine_10 : decode cX4_entryLine 10 = .ok (.invokevirtual 132, 3) := dk_182 0 132 (dk_at dksX4_entryLine_0 10 rfl rfl)
theorem dX4_entryLine_13 : decode cX4_entryLine 13 = .ok (.ifCond .eq 18, 3) := dk_153 0 18 (dk_at dksX4_entryLine_0 13 rfl rfl)
theorem dX4_entryLine_16 : decode cX4_entryLine 16 = .ok (.aload_n 0, 1) := dk_42 (dk_at dksX4_entryLine_0 16 rfl rfl)
theorem dX4_entryLine_17 : decode cX4_entryLine 17 = .ok (.iconst 0, 1) := dk_3 (dk_at dksX4_entryLine_0 17 rfl rfl)
theorem dX4_entryLine_18 : decode cX4_entryLine 18 = .ok (.aload_n 0, 1) := dk_42 (dk_at dksX4_entryLine_0 18 rfl rfl)
theorem dX4_entryLine_19 : decode cX4_entryLine 19 = .ok (.iload_n 1, 1) := dk_27 (dk_at dksX4_entryLine_0 19 rfl rfl)
theorem dX4_entryLine_20 : decode cX4_entryLine 20 = .ok (.invokevirtual 316, 3) := dk_182 1 60 (dk_at dksX4_entryLine_0 20 rfl rfl)
theorem dX4_entryLine_23 : decode cX4_entryLine 23 = .ok (.iconst 1, 1) := dk_4 (dk_at dksX4_entryLine_0 23 rfl rfl)
theorem dX4_entryLine_24 : decode cX4_entryLine 24 = .ok (.isub, 1) := dk_100 (dk_at dksX4_entryLine_1 0 rfl rfl)
theorem dX4_entryLine_25 : decode cX4_entryLine 25 = .ok (.invokevirtual 416, 3) := dk_182 1 160 (dk_at dksX4_entryLine_1 1 rfl rfl)
theorem dX4_entryLine_28 : decode cX4_entryLine 28 = .ok (.goto 4, 3) := dk_167 0 4 (dk_at dksX4_entryLine_1 4 rfl rfl)
theorem dX4_entryLine_31 : decode cX4_entryLine 31 = .ok (.iconst 0, 1) := dk_3 (dk_at dksX4_entryLine_1 7 rfl rfl)
theorem dX4_entryLine_32 : decode cX4_entryLine 32 = .ok (.istore_n 2, 1) := dk_61 (dk_at dksX4_entryLine_1 8 rfl rfl)
theorem dX4_entryLine_33 : decode cX4_entryLine 33 = .ok (.aload_n 0, 1) := dk_42 (dk_at dksX4_entryLine_1 9 rfl rfl)
theorem dX4_entryLine_34 : decode cX4_entryLine 34 = .ok (.invokevirtual 132, 3) := dk_182 0 132 (dk_at dksX4_entryLine_1 10 rfl rfl)
theorem dX4_entryLine_37 : decode cX4_entryLine 37 = .ok (.ifCond .eq 18, 3) := dk_153 0 18 (dk_at dksX4_entryLine_1 13 rfl rfl)
theorem dX4_entryLine_40 : decode cX4_entryLine 40 = .ok (.aload_n 0, 1) := dk_42 (dk_at dksX4_entryLine_1 16 rfl rfl)
theorem dX4_entryLine_41 : decode cX4_entryLine 41 = .ok (.iconst 0, 1) := dk_3 (dk_at dksX4_entryLine_1 17 rfl rfl)
theorem dX4_entryLine_42 : decode cX4_entryLine 42 = .ok (.aload_n 0, 1) := dk_42 (dk_at dksX4_entryLine_1 18 rfl rfl)
theorem dX4_entryLine_43 : decode cX4_entryLine 43 = .ok (.iload_n 1, 1) := dk_27 (dk_at dksX4_entryLine_1 19 rfl rfl)
theorem dX4_entryLine_44 : decode cX4_entryLine 44 = .ok (.invokevirtual 322, 3) := dk_182 1 66 (dk_at dksX4_entryLine_1 20 rfl rfl)
theorem dX4_entryLine_47 : decode cX4_entryLine 47 = .ok (.iconst 1, 1) := dk_4 (dk_at dksX4_entryLine_1 23 rfl rfl)
theorem dX4_entryLine_48 : decode cX4_entryLine 48 = .ok (.isub, 1) := dk_100 (dk_at dksX4_entryLine_2 0 rfl rfl)
theorem dX4_entryLine_49 : decode cX4_entryLine 49 = .ok (.invokevirtual 416, 3) := dk_182 1 160 (dk_at dksX4_entryLine_2 1 rfl rfl)
theorem dX4_entryLine_52 : decode cX4_entryLine 52 = .ok (.goto 4, 3) := dk_167 0 4 (dk_at dksX4_entryLine_2 4 rfl rfl)
theorem dX4_entryLine_55 : decode cX4_entryLine 55 = .ok (.iconst 0, 1) := dk_3 (dk_at dksX4_entryLine_2 7 rfl rfl)
theorem dX4_entryLine_56 : decode cX4_entryLine 56 = .ok (.istore_n 3, 1) := dk_62 (dk_at dksX4_entryLine_2 8 rfl rfl)
theorem dX4_entryLine_57 : decode cX4_entryLine 57 = .ok (.aload_n 0, 1) := dk_42 (dk_at dksX4_entryLine_2 9 rfl rfl)
theorem dX4_entryLine_58 : decode cX4_entryLine 58 = .ok (.ldc2_w 422, 3) := dk_20 1 166 (dk_at dksX4_entryLine_2 10 rfl rfl)
theorem dX4_entryLine_61 : decode cX4_entryLine 61 = .ok (.invokevirtual 145, 3) := dk_182 0 145 (dk_at dksX4_entryLine_2 13 rfl rfl)
theorem dX4_entryLine_64 : decode cX4_entryLine 64 = .ok (.istore 4, 2) := dk_54 4 (dk_at dksX4_entryLine_2 16 rfl rfl)
theorem dX4_entryLine_66 : decode cX4_entryLine 66 = .ok (.iload 4, 2) := dk_21 4 (dk_at dksX4_entryLine_2 18 rfl rfl)
theorem dX4_entryLine_68 : decode cX4_entryLine 68 = .ok (.ifCond .eq 7, 3) := dk_153 0 7 (dk_at dksX4_entryLine_2 20 rfl rfl)
theorem dX4_entryLine_71 : decode cX4_entryLine 71 = .ok (.aload_n 0, 1) := dk_42 (dk_at dksX4_entryLine_2 23 rfl rfl)
theorem dX4_entryLine_72 : decode cX4_entryLine 72 = .ok (.invokevirtual 142, 3) := dk_182 0 142 (dk_at dksX4_entryLine_3 0 rfl rfl)
theorem dX4_entryLine_75 : decode cX4_entryLine 75 = .ok (.aload_n 0, 1) := dk_42 (dk_at dksX4_entryLine_3 3 rfl rfl)
theorem dX4_entryLine_76 : decode cX4_entryLine 76 = .ok (.iconst 0, 1) := dk_3 (dk_at dksX4_entryLine_3 4 rfl rfl)
theorem dX4_entryLine_77 : decode cX4_entryLine 77 = .ok (.sipush 9999, 3) := dk_17 39 15 (dk_at dksX4_entryLine_3 5 rfl rfl)
theorem dX4_entryLine_80 : decode cX4_entryLine 80 = .ok (.invokevirtual 416, 3) := dk_182 1 160 (dk_at dksX4_entryLine_3 8 rfl rfl)
theorem dX4_entryLine_83 : decode cX4_entryLine 83 = .ok (.istore 5, 2) := dk_54 5 (dk_at dksX4_entryLine_3 11 rfl rfl)
theorem dX4_entryLine_85 : decode cX4_entryLine 85 = .ok (.aload_n 0, 1) := dk_42 (dk_at dksX4_entryLine_3 13 rfl rfl)
theorem dX4_entryLine_86 : decode cX4_entryLine 86 = .ok (.invokevirtual 132, 3) := dk_182 0 132 (dk_at dksX4_entryLine_3 14 rfl rfl)
theorem dX4_entryLine_89 : decode cX4_entryLine 89 = .ok (.ifCond .eq 27, 3) := dk_153 0 27 (dk_at dksX4_entryLine_3 17 rfl rfl)
theorem dX4_entryLine_92 : decode cX4_entryLine 92 = .ok (.aload_n 0, 1) := dk_42 (dk_at dksX4_entryLine_3 20 rfl rfl)
theorem dX4_entryLine_93 : decode cX4_entryLine 93 = .ok (.aload_n 0, 1) := dk_42 (dk_at dksX4_entryLine_3 21 rfl rfl)
theorem dX4_entryLine_94 : decode cX4_entryLine 94 = .ok (.iload_n 1, 1) := dk_27 (dk_at dksX4_entryLine_3 22 rfl rfl)
theorem dX4_entryLine_95 : decode cX4_entryLine 95 = .ok (.iload_n 2, 1) := dk_28 (dk_at dksX4_entryLine_3 23 rfl rfl)
theorem dX4_entryLine_96 : decode cX4_entryLine 96 = .ok (.iload_n 3, 1) := dk_29 (dk_at dksX4_entryLine_4 0 rfl rfl)
theorem dX4_entryLine_97 : decode cX4_entryLine 97 = .ok (.iload 4, 2) := dk_21 4 (dk_at dksX4_entryLine_4 1 rfl rfl)
theorem dX4_entryLine_99 : decode cX4_entryLine 99 = .ok (.ifCond .eq 9, 3) := dk_153 0 9 (dk_at dksX4_entryLine_4 3 rfl rfl)
theorem dX4_entryLine_102 : decode cX4_entryLine 102 = .ok (.iload 5, 2) := dk_21 5 (dk_at dksX4_entryLine_4 6 rfl rfl)
theorem dX4_entryLine_104 : decode cX4_entryLine 104 = .ok (.ineg, 1) := dk_116 (dk_at dksX4_entryLine_4 8 rfl rfl)
theorem dX4_entryLine_105 : decode cX4_entryLine 105 = .ok (.goto 5, 3) := dk_167 0 5 (dk_at dksX4_entryLine_4 9 rfl rfl)
theorem dX4_entryLine_108 : decode cX4_entryLine 108 = .ok (.iload 5, 2) := dk_21 5 (dk_at dksX4_entryLine_4 12 rfl rfl)
theorem dX4_entryLine_110 : decode cX4_entryLine 110 = .ok (.invokevirtual 371, 3) := dk_182 1 115 (dk_at dksX4_entryLine_4 14 rfl rfl)
theorem dX4_entryLine_113 : decode cX4_entryLine 113 = .ok (.putfield 419, 3) := dk_181 1 163 (dk_at dksX4_entryLine_4 17 rfl rfl)
theorem dX4_entryLine_116 : decode cX4_entryLine 116 = .ok (.return_, 1) := dk_177 (dk_at dksX4_entryLine_4 20 rfl rfl)
abbrev cX4_letLine : ByteArray := prog_23_method_107_code
def yX4_letLine : MethodName := ⟨RX4, "letLine", "()V"⟩
def dkwX4_letLine_2 : List UInt8 := [182, 1, 171, 153, 0, 15, 42, 42, 27, 182, 1, 139, 181, 1, 163, 167, 0, 8, 42, 8, 182, 0, 139, 177]
abbrev dktX4_letLine_2 : List UInt8 := dkwX4_letLine_2 ++ []
def dkwX4_letLine_1 : List UInt8 := [153, 0, 7, 42, 182, 1, 168, 42, 16, 59, 182, 0, 136, 154, 0, 4, 177, 42, 3, 42, 180, 0, 244]
abbrev dktX4_letLine_1 : List UInt8 := dkwX4_letLine_1 ++ dktX4_letLine_2
def dkwX4_letLine_0 : List UInt8 := [42, 182, 0, 142, 42, 182, 1, 157, 60, 42, 3, 181, 0, 244, 42, 3, 181, 1, 13, 42, 182, 0, 132]
abbrev dktX4_letLine_0 : List UInt8 := dkwX4_letLine_0 ++ dktX4_letLine_1
theorem dksX4_letLine_0 : cX4_letLine.data.toList.drop 0 = dktX4_letLine_0 := by decide +kernel
theorem dksX4_letLine_1 : cX4_letLine.data.toList.drop 23 = dktX4_letLine_1 := dk_seg dksX4_letLine_0 23 rfl rfl
theorem dksX4_letLine_2 : cX4_letLine.data.toList.drop 46 = dktX4_letLine_2 := dk_seg dksX4_letLine_1 23 rfl rfl
theorem dX4_letLine_0 : decode cX4_letLine 0 = .ok (.aload_n 0, 1) := dk_42 (dk_at dksX4_letLine_0 0 rfl rfl)
theorem dX4_letLine_1 : decode cX4_letLine 1 = .ok (.invokevirtual 142, 3) := dk_182 0 142 (dk_at dksX4_letLine_0 1 rfl rfl)
theorem dX4_letLine_4 : decode cX4_letLine 4 = .ok (.aload_n 0, 1) := dk_42 (dk_at dksX4_letLine_0 4 rfl rfl)
theorem dX4_letLine_5 : decode cX4_letLine 5 = .ok (.invokevirtual 413, 3) := dk_182 1 157 (dk_at dksX4_letLine_0 5 rfl rfl)
theorem dX4_letLine_8 : decode cX4_letLine 8 = .ok (.istore_n 1, 1) := dk_60 (dk_at dksX4_letLine_0 8 rfl rfl)
theorem dX4_letLine_9 : decode cX4_letLine 9 = .ok (.aload_n 0, 1) := dk_42 (dk_at dksX4_letLine_0 9 rfl rfl)
theorem dX4_letLine_10 : decode cX4_letLine 10 = .ok (.iconst 0, 1) := dk_3 (dk_at dksX4_letLine_0 10 rfl rfl)
theorem dX4_letLine_11 : decode cX4_letLine 11 = .ok (.putfield 244, 3) := dk_181 0 244 (dk_at dksX4_letLine_0 11 rfl rfl)
theorem dX4_letLine_14 : decode cX4_letLine 14 = .ok (.aload_n 0, 1) := dk_42 (dk_at dksX4_letLine_0 14 rfl rfl)
theorem dX4_letLine_15 : decode cX4_letLine 15 = .ok (.iconst 0, 1) := dk_3 (dk_at dksX4_letLine_0 15 rfl rfl)
theorem dX4_letLine_16 : decode cX4_letLine 16 = .ok (.putfield 269, 3) := dk_181 1 13 (dk_at dksX4_letLine_0 16 rfl rfl)
theorem dX4_letLine_19 : decode cX4_letLine 19 = .ok (.aload_n 0, 1) := dk_42 (dk_at dksX4_letLine_0 19 rfl rfl)
theorem dX4_letLine_20 : decode cX4_letLine 20 = .ok (.invokevirtual 132, 3) := dk_182 0 132 (dk_at dksX4_letLine_0 20 rfl rfl)
theorem dX4_letLine_23 : decode cX4_letLine 23 = .ok (.ifCond .eq 7, 3) := dk_153 0 7 (dk_at dksX4_letLine_1 0 rfl rfl)
theorem dX4_letLine_26 : decode cX4_letLine 26 = .ok (.aload_n 0, 1) := dk_42 (dk_at dksX4_letLine_1 3 rfl rfl)
theorem dX4_letLine_27 : decode cX4_letLine 27 = .ok (.invokevirtual 424, 3) := dk_182 1 168 (dk_at dksX4_letLine_1 4 rfl rfl)
theorem dX4_letLine_30 : decode cX4_letLine 30 = .ok (.aload_n 0, 1) := dk_42 (dk_at dksX4_letLine_1 7 rfl rfl)
theorem dX4_letLine_31 : decode cX4_letLine 31 = .ok (.bipush 59, 2) := dk_16 59 (dk_at dksX4_letLine_1 8 rfl rfl)
theorem dX4_letLine_33 : decode cX4_letLine 33 = .ok (.invokevirtual 136, 3) := dk_182 0 136 (dk_at dksX4_letLine_1 10 rfl rfl)
theorem dX4_letLine_36 : decode cX4_letLine 36 = .ok (.ifCond .ne 4, 3) := dk_154 0 4 (dk_at dksX4_letLine_1 13 rfl rfl)
theorem dX4_letLine_39 : decode cX4_letLine 39 = .ok (.return_, 1) := dk_177 (dk_at dksX4_letLine_1 16 rfl rfl)
theorem dX4_letLine_40 : decode cX4_letLine 40 = .ok (.aload_n 0, 1) := dk_42 (dk_at dksX4_letLine_1 17 rfl rfl)
theorem dX4_letLine_41 : decode cX4_letLine 41 = .ok (.iconst 0, 1) := dk_3 (dk_at dksX4_letLine_1 18 rfl rfl)
theorem dX4_letLine_42 : decode cX4_letLine 42 = .ok (.aload_n 0, 1) := dk_42 (dk_at dksX4_letLine_1 19 rfl rfl)
theorem dX4_letLine_43 : decode cX4_letLine 43 = .ok (.getfield 244, 3) := dk_180 0 244 (dk_at dksX4_letLine_1 20 rfl rfl)
theorem dX4_letLine_46 : decode cX4_letLine 46 = .ok (.invokevirtual 427, 3) := dk_182 1 171 (dk_at dksX4_letLine_2 0 rfl rfl)
theorem dX4_letLine_49 : decode cX4_letLine 49 = .ok (.ifCond .eq 15, 3) := dk_153 0 15 (dk_at dksX4_letLine_2 3 rfl rfl)
theorem dX4_letLine_52 : decode cX4_letLine 52 = .ok (.aload_n 0, 1) := dk_42 (dk_at dksX4_letLine_2 6 rfl rfl)
theorem dX4_letLine_53 : decode cX4_letLine 53 = .ok (.aload_n 0, 1) := dk_42 (dk_at dksX4_letLine_2 7 rfl rfl)
theorem dX4_letLine_54 : decode cX4_letLine 54 = .ok (.iload_n 1, 1) := dk_27 (dk_at dksX4_letLine_2 8 rfl rfl)
theorem dX4_letLine_55 : decode cX4_letLine 55 = .ok (.invokevirtual 395, 3) := dk_182 1 139 (dk_at dksX4_letLine_2 9 rfl rfl)
theorem dX4_letLine_58 : decode cX4_letLine 58 = .ok (.putfield 419, 3) := dk_181 1 163 (dk_at dksX4_letLine_2 12 rfl rfl)
theorem dX4_letLine_61 : decode cX4_letLine 61 = .ok (.goto 8, 3) := dk_167 0 8 (dk_at dksX4_letLine_2 15 rfl rfl)
theorem dX4_letLine_64 : decode cX4_letLine 64 = .ok (.aload_n 0, 1) := dk_42 (dk_at dksX4_letLine_2 18 rfl rfl)
theorem dX4_letLine_65 : decode cX4_letLine 65 = .ok (.iconst 5, 1) := dk_8 (dk_at dksX4_letLine_2 19 rfl rfl)
theorem dX4_letLine_66 : decode cX4_letLine 66 = .ok (.invokevirtual 139, 3) := dk_182 0 139 (dk_at dksX4_letLine_2 20 rfl rfl)
theorem dX4_letLine_69 : decode cX4_letLine 69 = .ok (.return_, 1) := dk_177 (dk_at dksX4_letLine_2 23 rfl rfl)
abbrev cX4_expression : ByteArray := prog_23_method_70_code
def yX4_expression : MethodName := ⟨RX4, "expression", "()V"⟩
def dkwX4_expression_4 : List UInt8 := [182, 0, 132, 153, 0, 17, 42, 180, 0, 247, 158, 0, 10, 42, 182, 1, 8, 167, 255, 238, 177]
abbrev dktX4_expression_4 : List UInt8 := dkwX4_expression_4 ++ []
def dkwX4_expression_3 : List UInt8 := [182, 1, 52, 60, 27, 154, 0, 15, 42, 182, 1, 46, 153, 0, 8, 42, 4, 182, 0, 139, 167, 255, 178, 42]
abbrev dktX4_expression_3 : List UInt8 := dkwX4_expression_3 ++ dktX4_expression_4
def dkwX4_expression_2 : List UInt8 := [16, 41, 182, 0, 136, 153, 0, 17, 42, 182, 1, 46, 153, 0, 10, 42, 182, 1, 49, 167, 255, 236, 42]
abbrev dktX4_expression_2 : List UInt8 := dkwX4_expression_2 ++ dktX4_expression_3
def dkwX4_expression_1 : List UInt8 := [182, 1, 43, 61, 28, 153, 255, 239, 42, 182, 0, 132, 154, 0, 6, 167, 255, 229, 42, 182, 1, 34, 42]
abbrev dktX4_expression_1 : List UInt8 := dkwX4_expression_1 ++ dktX4_expression_2
def dkwX4_expression_0 : List UInt8 := [42, 3, 181, 0, 247, 42, 3, 181, 0, 254, 4, 60, 42, 182, 0, 132, 153, 0, 77, 27, 153, 0, 73, 42]
abbrev dktX4_expression_0 : List UInt8 := dkwX4_expression_0 ++ dktX4_expression_1
theorem dksX4_expression_0 : cX4_expression.data.toList.drop 0 = dktX4_expression_0 := by decide +kernel
theorem dksX4_expression_1 : cX4_expression.data.toList.drop 24 = dktX4_expression_1 := dk_seg dksX4_expression_0 24 rfl rfl
theorem dksX4_expression_2 : cX4_expression.data.toList.drop 47 = dktX4_expression_2 := dk_seg dksX4_expression_1 23 rfl rfl
theorem dksX4_expression_3 : cX4_expression.data.toList.drop 70 = dktX4_expression_3 := dk_seg dksX4_expression_2 23 rfl rfl
theorem dksX4_expression_4 : cX4_expression.data.toList.drop 94 = dktX4_expression_4 := dk_seg dksX4_expression_3 24 rfl rfl
theorem dX4_expression_0 : decode cX4_expression 0 = .ok (.aload_n 0, 1) := dk_42 (dk_at dksX4_expression_0 0 rfl rfl)
theorem dX4_expression_1 : decode cX4_expression 1 = .ok (.iconst 0, 1) := dk_3 (dk_at dksX4_expression_0 1 rfl rfl)
theorem dX4_expression_2 : decode cX4_expression 2 = .ok (.putfield 247, 3) := dk_181 0 247 (dk_at dksX4_expression_0 2 rfl rfl)
theorem dX4_expression_5 : decode cX4_expression 5 = .ok (.aload_n 0, 1) := dk_42 (dk_at dksX4_expression_0 5 rfl rfl)
theorem dX4_expression_6 : decode cX4_expression 6 = .ok (.iconst 0, 1) := dk_3 (dk_at dksX4_expression_0 6 rfl rfl)
theorem dX4_expression_7 : decode cX4_expression 7 = .ok (.putfield 254, 3) := dk_181 0 254 (dk_at dksX4_expression_0 7 rfl rfl)
theorem dX4_expression_10 : decode cX4_expression 10 = .ok (.iconst 1, 1) := dk_4 (dk_at dksX4_expression_0 10 rfl rfl)
theorem dX4_expression_11 : decode cX4_expression 11 = .ok (.istore_n 1, 1) := dk_60 (dk_at dksX4_expression_0 11 rfl rfl)
theorem dX4_expression_12 : decode cX4_expression 12 = .ok (.aload_n 0, 1) := dk_42 (dk_at dksX4_expression_0 12 rfl rfl)
theorem dX4_expression_13 : decode cX4_expression 13 = .ok (.invokevirtual 132, 3) := dk_182 0 132 (dk_at dksX4_expression_0 13 rfl rfl)
theorem dX4_expression_16 : decode cX4_expression 16 = .ok (.ifCond .eq 77, 3) := dk_153 0 77 (dk_at dksX4_expression_0 16 rfl rfl)
theorem dX4_expression_19 : decode cX4_expression 19 = .ok (.iload_n 1, 1) := dk_27 (dk_at dksX4_expression_0 19 rfl rfl)
theorem dX4_expression_20 : decode cX4_expression 20 = .ok (.ifCond .eq 73, 3) := dk_153 0 73 (dk_at dksX4_expression_0 20 rfl rfl)
theorem dX4_expression_23 : decode cX4_expression 23 = .ok (.aload_n 0, 1) := dk_42 (dk_at dksX4_expression_0 23 rfl rfl)
theorem dX4_expression_24 : decode cX4_expression 24 = .ok (.invokevirtual 299, 3) := dk_182 1 43 (dk_at dksX4_expression_1 0 rfl rfl)
theorem dX4_expression_27 : decode cX4_expression 27 = .ok (.istore_n 2, 1) := dk_61 (dk_at dksX4_expression_1 3 rfl rfl)
theorem dX4_expression_28 : decode cX4_expression 28 = .ok (.iload_n 2, 1) := dk_28 (dk_at dksX4_expression_1 4 rfl rfl)
theorem dX4_expression_29 : decode cX4_expression 29 = .ok (.ifCond .eq (-17), 3) := dk_153 255 239 (dk_at dksX4_expression_1 5 rfl rfl)
theorem dX4_expression_32 : decode cX4_expression 32 = .ok (.aload_n 0, 1) := dk_42 (dk_at dksX4_expression_1 8 rfl rfl)
theorem dX4_expression_33 : decode cX4_expression 33 = .ok (.invokevirtual 132, 3) := dk_182 0 132 (dk_at dksX4_expression_1 9 rfl rfl)
theorem dX4_expression_36 : decode cX4_expression 36 = .ok (.ifCond .ne 6, 3) := dk_154 0 6 (dk_at dksX4_expression_1 12 rfl rfl)
theorem dX4_expression_39 : decode cX4_expression 39 = .ok (.goto (-27), 3) := dk_167 255 229 (dk_at dksX4_expression_1 15 rfl rfl)
theorem dX4_expression_42 : decode cX4_expression 42 = .ok (.aload_n 0, 1) := dk_42 (dk_at dksX4_expression_1 18 rfl rfl)
theorem dX4_expression_43 : decode cX4_expression 43 = .ok (.invokevirtual 290, 3) := dk_182 1 34 (dk_at dksX4_expression_1 19 rfl rfl)
theorem dX4_expression_46 : decode cX4_expression 46 = .ok (.aload_n 0, 1) := dk_42 (dk_at dksX4_expression_1 22 rfl rfl)
theorem dX4_expression_47 : decode cX4_expression 47 = .ok (.bipush 41, 2) := dk_16 41 (dk_at dksX4_expression_2 0 rfl rfl)
theorem dX4_expression_49 : decode cX4_expression 49 = .ok (.invokevirtual 136, 3) := dk_182 0 136 (dk_at dksX4_expression_2 2 rfl rfl)
theorem dX4_expression_52 : decode cX4_expression 52 = .ok (.ifCond .eq 17, 3) := dk_153 0 17 (dk_at dksX4_expression_2 5 rfl rfl)
theorem dX4_expression_55 : decode cX4_expression 55 = .ok (.aload_n 0, 1) := dk_42 (dk_at dksX4_expression_2 8 rfl rfl)
theorem dX4_expression_56 : decode cX4_expression 56 = .ok (.invokevirtual 302, 3) := dk_182 1 46 (dk_at dksX4_expression_2 9 rfl rfl)
theorem dX4_expression_59 : decode cX4_expression 59 = .ok (.ifCond .eq 10, 3) := dk_153 0 10 (dk_at dksX4_expression_2 12 rfl rfl)
theorem dX4_expression_62 : decode cX4_expression 62 = .ok (.aload_n 0, 1) := dk_42 (dk_at dksX4_expression_2 15 rfl rfl)
theorem dX4_expression_63 : decode cX4_expression 63 = .ok (.invokevirtual 305, 3) := dk_182 1 49 (dk_at dksX4_expression_2 16 rfl rfl)
theorem dX4_expression_66 : decode cX4_expression 66 = .ok (.goto (-20), 3) := dk_167 255 236 (dk_at dksX4_expression_2 19 rfl rfl)
theorem dX4_expression_69 : decode cX4_expression 69 = .ok (.aload_n 0, 1) := dk_42 (dk_at dksX4_expression_2 22 rfl rfl)
theorem dX4_expression_70 : decode cX4_expression 70 = .ok (.invokevirtual 308, 3) := dk_182 1 52 (dk_at dksX4_expression_3 0 rfl rfl)
theorem dX4_expression_73 : decode cX4_expression 73 = .ok (.istore_n 1, 1) := dk_60 (dk_at dksX4_expression_3 3 rfl rfl)
theorem dX4_expression_74 : decode cX4_expression 74 = .ok (.iload_n 1, 1) := dk_27 (dk_at dksX4_expression_3 4 rfl rfl)
theorem dX4_expression_75 : decode cX4_expression 75 = .ok (.ifCond .ne 15, 3) := dk_154 0 15 (dk_at dksX4_expression_3 5 rfl rfl)
theorem dX4_expression_78 : decode cX4_expression 78 = .ok (.aload_n 0, 1) := dk_42 (dk_at dksX4_expression_3 8 rfl rfl)
theorem dX4_expression_79 : decode cX4_expression 79 = .ok (.invokevirtual 302, 3) := dk_182 1 46 (dk_at dksX4_expression_3 9 rfl rfl)
theorem dX4_expression_82 : decode cX4_expression 82 = .ok (.ifCond .eq 8, 3) := dk_153 0 8 (dk_at dksX4_expression_3 12 rfl rfl)
theorem dX4_expression_85 : decode cX4_expression 85 = .ok (.aload_n 0, 1) := dk_42 (dk_at dksX4_expression_3 15 rfl rfl)
theorem dX4_expression_86 : decode cX4_expression 86 = .ok (.iconst 1, 1) := dk_4 (dk_at dksX4_expression_3 16 rfl rfl)
theorem dX4_expression_87 : decode cX4_expression 87 = .ok (.invokevirtual 139, 3) := dk_182 0 139 (dk_at dksX4_expression_3 17 rfl rfl)
theorem dX4_expression_90 : decode cX4_expression 90 = .ok (.goto (-78), 3) := dk_167 255 178 (dk_at dksX4_expression_3 20 rfl rfl)
theorem dX4_expression_93 : decode cX4_expression 93 = .ok (.aload_n 0, 1) := dk_42 (dk_at dksX4_expression_3 23 rfl rfl)
theorem dX4_expression_94 : decode cX4_expression 94 = .ok (.invokevirtual 132, 3) := dk_182 0 132 (dk_at dksX4_expression_4 0 rfl rfl)
theorem dX4_expression_97 : decode cX4_expression 97 = .ok (.ifCond .eq 17, 3) := dk_153 0 17 (dk_at dksX4_expression_4 3 rfl rfl)
theorem dX4_expression_100 : decode cX4_expression 100 = .ok (.aload_n 0, 1) := dk_42 (dk_at dksX4_expression_4 6 rfl rfl)
theorem dX4_expression_101 : decode cX4_expression 101 = .ok (.getfield 247, 3) := dk_180 0 247 (dk_at dksX4_expression_4 7 rfl rfl)
theorem dX4_expression_104 : decode cX4_expression 104 = .ok (.ifCond .le 10, 3) := dk_158 0 10 (dk_at dksX4_expression_4 10 rfl rfl)
theorem dX4_expression_107 : decode cX4_expression 107 = .ok (.aload_n 0, 1) := dk_42 (dk_at dksX4_expression_4 13 rfl rfl)
theorem dX4_expression_108 : decode cX4_expression 108 = .ok (.invokevirtual 264, 3) := dk_182 1 8 (dk_at dksX4_expression_4 14 rfl rfl)
theorem dX4_expression_111 : decode cX4_expression 111 = .ok (.goto (-18), 3) := dk_167 255 238 (dk_at dksX4_expression_4 17 rfl rfl)
theorem dX4_expression_114 : decode cX4_expression 114 = .ok (.return_, 1) := dk_177 (dk_at dksX4_expression_4 20 rfl rfl)
abbrev cX4_readsFactor : ByteArray := prog_23_method_66_code
def yX4_readsFactor : MethodName := ⟨RX4, "readsFactor", "()Z"⟩
def dkwX4_readsFactor_5 : List UInt8 := [42, 3, 16, 99, 182, 1, 16, 182, 1, 29, 167, 0, 8, 42, 4, 182, 0, 139, 3, 172]
abbrev dktX4_readsFactor_5 : List UInt8 := dkwX4_readsFactor_5 ++ []
def dkwX4_readsFactor_4 : List UInt8 := [182, 1, 29, 167, 0, 39, 42, 182, 0, 132, 153, 0, 27, 42, 180, 0, 119, 5, 160, 0, 19, 42, 16, 7]
abbrev dktX4_readsFactor_4 : List UInt8 := dkwX4_readsFactor_4 ++ dktX4_readsFactor_5
def dkwX4_readsFactor_3 : List UInt8 := [16, 6, 3, 182, 1, 29, 167, 0, 58, 42, 16, 40, 182, 0, 136, 153, 0, 13, 42, 16, 11, 3]
abbrev dktX4_readsFactor_3 : List UInt8 := dkwX4_readsFactor_3 ++ dktX4_readsFactor_4
def dkwX4_readsFactor_2 : List UInt8 := [153, 0, 12, 42, 8, 3, 182, 1, 29, 167, 0, 78, 42, 20, 1, 32, 182, 0, 145, 153, 0, 13, 42]
abbrev dktX4_readsFactor_2 : List UInt8 := dkwX4_readsFactor_2 ++ dktX4_readsFactor_3
def dkwX4_readsFactor_1 : List UInt8 := [20, 1, 22, 182, 0, 145, 153, 0, 9, 42, 182, 1, 24, 4, 172, 42, 20, 1, 27, 182, 0, 145]
abbrev dktX4_readsFactor_1 : List UInt8 := dkwX4_readsFactor_1 ++ dktX4_readsFactor_2
def dkwX4_readsFactor_0 : List UInt8 := [42, 182, 1, 19, 60, 27, 2, 159, 0, 15, 42, 27, 3, 182, 0, 250, 42, 182, 0, 142, 4, 172, 42]
abbrev dktX4_readsFactor_0 : List UInt8 := dkwX4_readsFactor_0 ++ dktX4_readsFactor_1
theorem dksX4_readsFactor_0 : cX4_readsFactor.data.toList.drop 0 = dktX4_readsFactor_0 := by decide +kernel
theorem dksX4_readsFactor_1 : cX4_readsFactor.data.toList.drop 23 = dktX4_readsFactor_1 := dk_seg dksX4_readsFactor_0 23 rfl rfl
theorem dksX4_readsFactor_2 : cX4_readsFactor.data.toList.drop 45 = dktX4_readsFactor_2 := dk_seg dksX4_readsFactor_1 22 rfl rfl
theorem dksX4_readsFactor_3 : cX4_readsFactor.data.toList.drop 68 = dktX4_readsFactor_3 := dk_seg dksX4_readsFactor_2 23 rfl rfl
theorem dksX4_readsFactor_4 : cX4_readsFactor.data.toList.drop 90 = dktX4_readsFactor_4 := dk_seg dksX4_readsFactor_3 22 rfl rfl
theorem dksX4_readsFactor_5 : cX4_readsFactor.data.toList.drop 114 = dktX4_readsFactor_5 := dk_seg dksX4_readsFactor_4 24 rfl rfl
theorem dX4_readsFactor_0 : decode cX4_readsFactor 0 = .ok (.aload_n 0, 1) := dk_42 (dk_at dksX4_readsFactor_0 0 rfl rfl)
theorem dX4_readsFactor_1 : decode cX4_readsFactor 1 = .ok (.invokevirtual 275, 3) := dk_182 1 19 (dk_at dksX4_readsFactor_0 1 rfl rfl)
theorem dX4_readsFactor_4 : decode cX4_readsFactor 4 = .ok (.istore_n 1, 1) := dk_60 (dk_at dksX4_readsFactor_0 4 rfl rfl)
theorem dX4_readsFactor_5 : decode cX4_readsFactor 5 = .ok (.iload_n 1, 1) := dk_27 (dk_at dksX4_readsFactor_0 5 rfl rfl)
theorem dX4_readsFactor_6 : decode cX4_readsFactor 6 = .ok (.iconst (-1), 1) := dk_2 (dk_at dksX4_readsFactor_0 6 rfl rfl)
theorem dX4_readsFactor_7 : decode cX4_readsFactor 7 = .ok (.if_icmp .eq 15, 3) := dk_159 0 15 (dk_at dksX4_readsFactor_0 7 rfl rfl)
theorem dX4_readsFactor_10 : decode cX4_readsFactor 10 = .ok (.aload_n 0, 1) := dk_42 (dk_at dksX4_readsFactor_0 10 rfl rfl)
theorem dX4_readsFactor_11 : decode cX4_readsFactor 11 = .ok (.iload_n 1, 1) := dk_27 (dk_at dksX4_readsFactor_0 11 rfl rfl)
theorem dX4_readsFactor_12 : decode cX4_readsFactor 12 = .ok (.iconst 0, 1) := dk_3 (dk_at dksX4_readsFactor_0 12 rfl rfl)
theorem dX4_readsFactor_13 : decode cX4_readsFactor 13 = .ok (.invokevirtual 250, 3) := dk_182 0 250 (dk_at dksX4_readsFactor_0 13 rfl rfl)
theorem dX4_readsFactor_16 : decode cX4_readsFactor 16 = .ok (.aload_n 0, 1) := dk_42 (dk_at dksX4_readsFactor_0 16 rfl rfl)
theorem dX4_readsFactor_17 : decode cX4_readsFactor 17 = .ok (.invokevirtual 142, 3) := dk_182 0 142 (dk_at dksX4_readsFactor_0 17 rfl rfl)
theorem dX4_readsFactor_20 : decode cX4_readsFactor 20 = .ok (.iconst 1, 1) := dk_4 (dk_at dksX4_readsFactor_0 20 rfl rfl)
theorem dX4_readsFactor_21 : decode cX4_readsFactor 21 = .ok (.ireturn, 1) := dk_172 (dk_at dksX4_readsFactor_0 21 rfl rfl)
theorem dX4_readsFactor_22 : decode cX4_readsFactor 22 = .ok (.aload_n 0, 1) := dk_42 (dk_at dksX4_readsFactor_0 22 rfl rfl)
theorem dX4_readsFactor_23 : decode cX4_readsFactor 23 = .ok (.ldc2_w 278, 3) := dk_20 1 22 (dk_at dksX4_readsFactor_1 0 rfl rfl)
theorem dX4_readsFactor_26 : decode cX4_readsFactor 26 = .ok (.invokevirtual 145, 3) := dk_182 0 145 (dk_at dksX4_readsFactor_1 3 rfl rfl)
theorem dX4_readsFactor_29 : decode cX4_readsFactor 29 = .ok (.ifCond .eq 9, 3) := dk_153 0 9 (dk_at dksX4_readsFactor_1 6 rfl rfl)
theorem dX4_readsFactor_32 : decode cX4_readsFactor 32 = .ok (.aload_n 0, 1) := dk_42 (dk_at dksX4_readsFactor_1 9 rfl rfl)
theorem dX4_readsFactor_33 : decode cX4_readsFactor 33 = .ok (.invokevirtual 280, 3) := dk_182 1 24 (dk_at dksX4_readsFactor_1 10 rfl rfl)
theorem dX4_readsFactor_36 : decode cX4_readsFactor 36 = .ok (.iconst 1, 1) := dk_4 (dk_at dksX4_readsFactor_1 13 rfl rfl)
theorem dX4_readsFactor_37 : decode cX4_readsFactor 37 = .ok (.ireturn, 1) := dk_172 (dk_at dksX4_readsFactor_1 14 rfl rfl)
theorem dX4_readsFactor_38 : decode cX4_readsFactor 38 = .ok (.aload_n 0, 1) := dk_42 (dk_at dksX4_readsFactor_1 15 rfl rfl)
theorem dX4_readsFactor_39 : decode cX4_readsFactor 39 = .ok (.ldc2_w 283, 3) := dk_20 1 27 (dk_at dksX4_readsFactor_1 16 rfl rfl)
theorem dX4_readsFactor_42 : decode cX4_readsFactor 42 = .ok (.invokevirtual 145, 3) := dk_182 0 145 (dk_at dksX4_readsFactor_1 19 rfl rfl)
theorem dX4_readsFactor_45 : decode cX4_readsFactor 45 = .ok (.ifCond .eq 12, 3) := dk_153 0 12 (dk_at dksX4_readsFactor_2 0 rfl rfl)
theorem dX4_readsFactor_48 : decode cX4_readsFactor 48 = .ok (.aload_n 0, 1) := dk_42 (dk_at dksX4_readsFactor_2 3 rfl rfl)
theorem dX4_readsFactor_49 : decode cX4_readsFactor 49 = .ok (.iconst 5, 1) := dk_8 (dk_at dksX4_readsFactor_2 4 rfl rfl)
theorem dX4_readsFactor_50 : decode cX4_readsFactor 50 = .ok (.iconst 0, 1) := dk_3 (dk_at dksX4_readsFactor_2 5 rfl rfl)
theorem dX4_readsFactor_51 : decode cX4_readsFactor 51 = .ok (.invokevirtual 285, 3) := dk_182 1 29 (dk_at dksX4_readsFactor_2 6 rfl rfl)
theorem dX4_readsFactor_54 : decode cX4_readsFactor 54 = .ok (.goto 78, 3) := dk_167 0 78 (dk_at dksX4_readsFactor_2 9 rfl rfl)
theorem dX4_readsFactor_57 : decode cX4_readsFactor 57 = .ok (.aload_n 0, 1) := dk_42 (dk_at dksX4_readsFactor_2 12 rfl rfl)
theorem dX4_readsFactor_58 : decode cX4_readsFactor 58 = .ok (.ldc2_w 288, 3) := dk_20 1 32 (dk_at dksX4_readsFactor_2 13 rfl rfl)
theorem dX4_readsFactor_61 : decode cX4_readsFactor 61 = .ok (.invokevirtual 145, 3) := dk_182 0 145 (dk_at dksX4_readsFactor_2 16 rfl rfl)
theorem dX4_readsFactor_64 : decode cX4_readsFactor 64 = .ok (.ifCond .eq 13, 3) := dk_153 0 13 (dk_at dksX4_readsFactor_2 19 rfl rfl)
theorem dX4_readsFactor_67 : decode cX4_readsFactor 67 = .ok (.aload_n 0, 1) := dk_42 (dk_at dksX4_readsFactor_2 22 rfl rfl)
theorem dX4_readsFactor_68 : decode cX4_readsFactor 68 = .ok (.bipush 6, 2) := dk_16 6 (dk_at dksX4_readsFactor_3 0 rfl rfl)
theorem dX4_readsFactor_70 : decode cX4_readsFactor 70 = .ok (.iconst 0, 1) := dk_3 (dk_at dksX4_readsFactor_3 2 rfl rfl)
theorem dX4_readsFactor_71 : decode cX4_readsFactor 71 = .ok (.invokevirtual 285, 3) := dk_182 1 29 (dk_at dksX4_readsFactor_3 3 rfl rfl)
theorem dX4_readsFactor_74 : decode cX4_readsFactor 74 = .ok (.goto 58, 3) := dk_167 0 58 (dk_at dksX4_readsFactor_3 6 rfl rfl)
theorem dX4_readsFactor_77 : decode cX4_readsFactor 77 = .ok (.aload_n 0, 1) := dk_42 (dk_at dksX4_readsFactor_3 9 rfl rfl)
theorem dX4_readsFactor_78 : decode cX4_readsFactor 78 = .ok (.bipush 40, 2) := dk_16 40 (dk_at dksX4_readsFactor_3 10 rfl rfl)
theorem dX4_readsFactor_80 : decode cX4_readsFactor 80 = .ok (.invokevirtual 136, 3) := dk_182 0 136 (dk_at dksX4_readsFactor_3 12 rfl rfl)
theorem dX4_readsFactor_83 : decode cX4_readsFactor 83 = .ok (.ifCond .eq 13, 3) := dk_153 0 13 (dk_at dksX4_readsFactor_3 15 rfl rfl)
theorem dX4_readsFactor_86 : decode cX4_readsFactor 86 = .ok (.aload_n 0, 1) := dk_42 (dk_at dksX4_readsFactor_3 18 rfl rfl)
theorem dX4_readsFactor_87 : decode cX4_readsFactor 87 = .ok (.bipush 11, 2) := dk_16 11 (dk_at dksX4_readsFactor_3 19 rfl rfl)
theorem dX4_readsFactor_89 : decode cX4_readsFactor 89 = .ok (.iconst 0, 1) := dk_3 (dk_at dksX4_readsFactor_3 21 rfl rfl)
theorem dX4_readsFactor_90 : decode cX4_readsFactor 90 = .ok (.invokevirtual 285, 3) := dk_182 1 29 (dk_at dksX4_readsFactor_4 0 rfl rfl)
theorem dX4_readsFactor_93 : decode cX4_readsFactor 93 = .ok (.goto 39, 3) := dk_167 0 39 (dk_at dksX4_readsFactor_4 3 rfl rfl)
theorem dX4_readsFactor_96 : decode cX4_readsFactor 96 = .ok (.aload_n 0, 1) := dk_42 (dk_at dksX4_readsFactor_4 6 rfl rfl)
theorem dX4_readsFactor_97 : decode cX4_readsFactor 97 = .ok (.invokevirtual 132, 3) := dk_182 0 132 (dk_at dksX4_readsFactor_4 7 rfl rfl)
theorem dX4_readsFactor_100 : decode cX4_readsFactor 100 = .ok (.ifCond .eq 27, 3) := dk_153 0 27 (dk_at dksX4_readsFactor_4 10 rfl rfl)
theorem dX4_readsFactor_103 : decode cX4_readsFactor 103 = .ok (.aload_n 0, 1) := dk_42 (dk_at dksX4_readsFactor_4 13 rfl rfl)
theorem dX4_readsFactor_104 : decode cX4_readsFactor 104 = .ok (.getfield 119, 3) := dk_180 0 119 (dk_at dksX4_readsFactor_4 14 rfl rfl)
theorem dX4_readsFactor_107 : decode cX4_readsFactor 107 = .ok (.iconst 2, 1) := dk_5 (dk_at dksX4_readsFactor_4 17 rfl rfl)
theorem dX4_readsFactor_108 : decode cX4_readsFactor 108 = .ok (.if_icmp .ne 19, 3) := dk_160 0 19 (dk_at dksX4_readsFactor_4 18 rfl rfl)
theorem dX4_readsFactor_111 : decode cX4_readsFactor 111 = .ok (.aload_n 0, 1) := dk_42 (dk_at dksX4_readsFactor_4 21 rfl rfl)
theorem dX4_readsFactor_112 : decode cX4_readsFactor 112 = .ok (.bipush 7, 2) := dk_16 7 (dk_at dksX4_readsFactor_4 22 rfl rfl)
theorem dX4_readsFactor_114 : decode cX4_readsFactor 114 = .ok (.aload_n 0, 1) := dk_42 (dk_at dksX4_readsFactor_5 0 rfl rfl)
theorem dX4_readsFactor_115 : decode cX4_readsFactor 115 = .ok (.iconst 0, 1) := dk_3 (dk_at dksX4_readsFactor_5 1 rfl rfl)
theorem dX4_readsFactor_116 : decode cX4_readsFactor 116 = .ok (.bipush 99, 2) := dk_16 99 (dk_at dksX4_readsFactor_5 2 rfl rfl)
theorem dX4_readsFactor_118 : decode cX4_readsFactor 118 = .ok (.invokevirtual 272, 3) := dk_182 1 16 (dk_at dksX4_readsFactor_5 4 rfl rfl)
theorem dX4_readsFactor_121 : decode cX4_readsFactor 121 = .ok (.invokevirtual 285, 3) := dk_182 1 29 (dk_at dksX4_readsFactor_5 7 rfl rfl)
theorem dX4_readsFactor_124 : decode cX4_readsFactor 124 = .ok (.goto 8, 3) := dk_167 0 8 (dk_at dksX4_readsFactor_5 10 rfl rfl)
theorem dX4_readsFactor_127 : decode cX4_readsFactor 127 = .ok (.aload_n 0, 1) := dk_42 (dk_at dksX4_readsFactor_5 13 rfl rfl)
theorem dX4_readsFactor_128 : decode cX4_readsFactor 128 = .ok (.iconst 1, 1) := dk_4 (dk_at dksX4_readsFactor_5 14 rfl rfl)
theorem dX4_readsFactor_129 : decode cX4_readsFactor 129 = .ok (.invokevirtual 139, 3) := dk_182 0 139 (dk_at dksX4_readsFactor_5 15 rfl rfl)
theorem dX4_readsFactor_132 : decode cX4_readsFactor 132 = .ok (.iconst 0, 1) := dk_3 (dk_at dksX4_readsFactor_5 18 rfl rfl)
theorem dX4_readsFactor_133 : decode cX4_readsFactor 133 = .ok (.ireturn, 1) := dk_172 (dk_at dksX4_readsFactor_5 19 rfl rfl)
abbrev cX4_writes : ByteArray := prog_23_method_57_code
def yX4_writes : MethodName := ⟨RX4, "writes", "(II)V"⟩
def dkwX4_writes_1 : List UInt8 := [180, 0, 244, 4, 96, 181, 0, 244, 177]
abbrev dktX4_writes_1 : List UInt8 := dkwX4_writes_1 ++ []
def dkwX4_writes_0 : List UInt8 := [42, 180, 0, 38, 42, 180, 0, 244, 27, 79, 42, 180, 0, 41, 42, 180, 0, 244, 28, 79, 42, 89]
abbrev dktX4_writes_0 : List UInt8 := dkwX4_writes_0 ++ dktX4_writes_1
theorem dksX4_writes_0 : cX4_writes.data.toList.drop 0 = dktX4_writes_0 := by decide +kernel
theorem dksX4_writes_1 : cX4_writes.data.toList.drop 22 = dktX4_writes_1 := dk_seg dksX4_writes_0 22 rfl rfl
theorem dX4_writes_0 : decode cX4_writes 0 = .ok (.aload_n 0, 1) := dk_42 (dk_at dksX4_writes_0 0 rfl rfl)
theorem dX4_writes_1 : decode cX4_writes 1 = .ok (.getfield 38, 3) := dk_180 0 38 (dk_at dksX4_writes_0 1 rfl rfl)
theorem dX4_writes_4 : decode cX4_writes 4 = .ok (.aload_n 0, 1) := dk_42 (dk_at dksX4_writes_0 4 rfl rfl)
theorem dX4_writes_5 : decode cX4_writes 5 = .ok (.getfield 244, 3) := dk_180 0 244 (dk_at dksX4_writes_0 5 rfl rfl)
theorem dX4_writes_8 : decode cX4_writes 8 = .ok (.iload_n 1, 1) := dk_27 (dk_at dksX4_writes_0 8 rfl rfl)
theorem dX4_writes_9 : decode cX4_writes 9 = .ok (.iastore, 1) := dk_79 (dk_at dksX4_writes_0 9 rfl rfl)
theorem dX4_writes_10 : decode cX4_writes 10 = .ok (.aload_n 0, 1) := dk_42 (dk_at dksX4_writes_0 10 rfl rfl)
theorem dX4_writes_11 : decode cX4_writes 11 = .ok (.getfield 41, 3) := dk_180 0 41 (dk_at dksX4_writes_0 11 rfl rfl)
theorem dX4_writes_14 : decode cX4_writes 14 = .ok (.aload_n 0, 1) := dk_42 (dk_at dksX4_writes_0 14 rfl rfl)
theorem dX4_writes_15 : decode cX4_writes 15 = .ok (.getfield 244, 3) := dk_180 0 244 (dk_at dksX4_writes_0 15 rfl rfl)
theorem dX4_writes_18 : decode cX4_writes 18 = .ok (.iload_n 2, 1) := dk_28 (dk_at dksX4_writes_0 18 rfl rfl)
theorem dX4_writes_19 : decode cX4_writes 19 = .ok (.iastore, 1) := dk_79 (dk_at dksX4_writes_0 19 rfl rfl)
theorem dX4_writes_20 : decode cX4_writes 20 = .ok (.aload_n 0, 1) := dk_42 (dk_at dksX4_writes_0 20 rfl rfl)
theorem dX4_writes_21 : decode cX4_writes 21 = .ok (.dup, 1) := dk_89 (dk_at dksX4_writes_0 21 rfl rfl)
theorem dX4_writes_22 : decode cX4_writes 22 = .ok (.getfield 244, 3) := dk_180 0 244 (dk_at dksX4_writes_1 0 rfl rfl)
theorem dX4_writes_25 : decode cX4_writes 25 = .ok (.iconst 1, 1) := dk_4 (dk_at dksX4_writes_1 3 rfl rfl)
theorem dX4_writes_26 : decode cX4_writes 26 = .ok (.iadd, 1) := dk_96 (dk_at dksX4_writes_1 4 rfl rfl)
theorem dX4_writes_27 : decode cX4_writes 27 = .ok (.putfield 244, 3) := dk_181 0 244 (dk_at dksX4_writes_1 5 rfl rfl)
theorem dX4_writes_30 : decode cX4_writes 30 = .ok (.return_, 1) := dk_177 (dk_at dksX4_writes_1 8 rfl rfl)
abbrev cX4_unitHere : ByteArray := prog_23_method_65_code
def yX4_unitHere : MethodName := ⟨RX4, "unitHere", "()V"⟩
def dkwX4_unitHere_1 : List UInt8 := [182, 0, 132, 154, 0, 4, 177, 42, 7, 27, 182, 0, 250, 42, 182, 0, 142, 177]
abbrev dktX4_unitHere_1 : List UInt8 := dkwX4_unitHere_1 ++ []
def dkwX4_unitHere_0 : List UInt8 := [42, 182, 0, 142, 42, 182, 0, 132, 153, 0, 13, 42, 4, 16, 12, 182, 1, 16, 167, 0, 4, 3, 60, 42]
abbrev dktX4_unitHere_0 : List UInt8 := dkwX4_unitHere_0 ++ dktX4_unitHere_1
theorem dksX4_unitHere_0 : cX4_unitHere.data.toList.drop 0 = dktX4_unitHere_0 := by decide +kernel
theorem dksX4_unitHere_1 : cX4_unitHere.data.toList.drop 24 = dktX4_unitHere_1 := dk_seg dksX4_unitHere_0 24 rfl rfl
theorem dX4_unitHere_0 : decode cX4_unitHere 0 = .ok (.aload_n 0, 1) := dk_42 (dk_at dksX4_unitHere_0 0 rfl rfl)
theorem dX4_unitHere_1 : decode cX4_unitHere 1 = .ok (.invokevirtual 142, 3) := dk_182 0 142 (dk_at dksX4_unitHere_0 1 rfl rfl)
theorem dX4_unitHere_4 : decode cX4_unitHere 4 = .ok (.aload_n 0, 1) := dk_42 (dk_at dksX4_unitHere_0 4 rfl rfl)
theorem dX4_unitHere_5 : decode cX4_unitHere 5 = .ok (.invokevirtual 132, 3) := dk_182 0 132 (dk_at dksX4_unitHere_0 5 rfl rfl)
theorem dX4_unitHere_8 : decode cX4_unitHere 8 = .ok (.ifCond .eq 13, 3) := dk_153 0 13 (dk_at dksX4_unitHere_0 8 rfl rfl)
theorem dX4_unitHere_11 : decode cX4_unitHere 11 = .ok (.aload_n 0, 1) := dk_42 (dk_at dksX4_unitHere_0 11 rfl rfl)
theorem dX4_unitHere_12 : decode cX4_unitHere 12 = .ok (.iconst 1, 1) := dk_4 (dk_at dksX4_unitHere_0 12 rfl rfl)
theorem dX4_unitHere_13 : decode cX4_unitHere 13 = .ok (.bipush 12, 2) := dk_16 12 (dk_at dksX4_unitHere_0 13 rfl rfl)
theorem dX4_unitHere_15 : decode cX4_unitHere 15 = .ok (.invokevirtual 272, 3) := dk_182 1 16 (dk_at dksX4_unitHere_0 15 rfl rfl)
theorem dX4_unitHere_18 : decode cX4_unitHere 18 = .ok (.goto 4, 3) := dk_167 0 4 (dk_at dksX4_unitHere_0 18 rfl rfl)
theorem dX4_unitHere_21 : decode cX4_unitHere 21 = .ok (.iconst 0, 1) := dk_3 (dk_at dksX4_unitHere_0 21 rfl rfl)
theorem dX4_unitHere_22 : decode cX4_unitHere 22 = .ok (.istore_n 1, 1) := dk_60 (dk_at dksX4_unitHere_0 22 rfl rfl)
theorem dX4_unitHere_23 : decode cX4_unitHere 23 = .ok (.aload_n 0, 1) := dk_42 (dk_at dksX4_unitHere_0 23 rfl rfl)
theorem dX4_unitHere_24 : decode cX4_unitHere 24 = .ok (.invokevirtual 132, 3) := dk_182 0 132 (dk_at dksX4_unitHere_1 0 rfl rfl)
theorem dX4_unitHere_27 : decode cX4_unitHere 27 = .ok (.ifCond .ne 4, 3) := dk_154 0 4 (dk_at dksX4_unitHere_1 3 rfl rfl)
theorem dX4_unitHere_30 : decode cX4_unitHere 30 = .ok (.return_, 1) := dk_177 (dk_at dksX4_unitHere_1 6 rfl rfl)
theorem dX4_unitHere_31 : decode cX4_unitHere 31 = .ok (.aload_n 0, 1) := dk_42 (dk_at dksX4_unitHere_1 7 rfl rfl)
theorem dX4_unitHere_32 : decode cX4_unitHere 32 = .ok (.iconst 4, 1) := dk_7 (dk_at dksX4_unitHere_1 8 rfl rfl)
theorem dX4_unitHere_33 : decode cX4_unitHere 33 = .ok (.iload_n 1, 1) := dk_27 (dk_at dksX4_unitHere_1 9 rfl rfl)
theorem dX4_unitHere_34 : decode cX4_unitHere 34 = .ok (.invokevirtual 250, 3) := dk_182 0 250 (dk_at dksX4_unitHere_1 10 rfl rfl)
theorem dX4_unitHere_37 : decode cX4_unitHere 37 = .ok (.aload_n 0, 1) := dk_42 (dk_at dksX4_unitHere_1 13 rfl rfl)
theorem dX4_unitHere_38 : decode cX4_unitHere 38 = .ok (.invokevirtual 142, 3) := dk_182 0 142 (dk_at dksX4_unitHere_1 14 rfl rfl)
theorem dX4_unitHere_41 : decode cX4_unitHere 41 = .ok (.return_, 1) := dk_177 (dk_at dksX4_unitHere_1 17 rfl rfl)
abbrev cX4_bounded : ByteArray := prog_23_method_64_code
def yX4_bounded : MethodName := ⟨RX4, "bounded", "(II)I"⟩
def dkwX4_bounded_1 : List UInt8 := [172]
abbrev dktX4_bounded_1 : List UInt8 := dkwX4_bounded_1 ++ []
def dkwX4_bounded_0 : List UInt8 := [42, 180, 1, 13, 153, 0, 14, 42, 3, 17, 39, 15, 182, 0, 149, 167, 0, 9, 42, 27, 28, 182, 0, 149]
abbrev dktX4_bounded_0 : List UInt8 := dkwX4_bounded_0 ++ dktX4_bounded_1
theorem dksX4_bounded_0 : cX4_bounded.data.toList.drop 0 = dktX4_bounded_0 := by decide +kernel
theorem dksX4_bounded_1 : cX4_bounded.data.toList.drop 24 = dktX4_bounded_1 := dk_seg dksX4_bounded_0 24 rfl rfl
theorem dX4_bounded_0 : decode cX4_bounded 0 = .ok (.aload_n 0, 1) := dk_42 (dk_at dksX4_bounded_0 0 rfl rfl)
theorem dX4_bounded_1 : decode cX4_bounded 1 = .ok (.getfield 269, 3) := dk_180 1 13 (dk_at dksX4_bounded_0 1 rfl rfl)
theorem dX4_bounded_4 : decode cX4_bounded 4 = .ok (.ifCond .eq 14, 3) := dk_153 0 14 (dk_at dksX4_bounded_0 4 rfl rfl)
theorem dX4_bounded_7 : decode cX4_bounded 7 = .ok (.aload_n 0, 1) := dk_42 (dk_at dksX4_bounded_0 7 rfl rfl)
theorem dX4_bounded_8 : decode cX4_bounded 8 = .ok (.iconst 0, 1) := dk_3 (dk_at dksX4_bounded_0 8 rfl rfl)
theorem dX4_bounded_9 : decode cX4_bounded 9 = .ok (.sipush 9999, 3) := dk_17 39 15 (dk_at dksX4_bounded_0 9 rfl rfl)
theorem dX4_bounded_12 : decode cX4_bounded 12 = .ok (.invokevirtual 149, 3) := dk_182 0 149 (dk_at dksX4_bounded_0 12 rfl rfl)
theorem dX4_bounded_15 : decode cX4_bounded 15 = .ok (.goto 9, 3) := dk_167 0 9 (dk_at dksX4_bounded_0 15 rfl rfl)
theorem dX4_bounded_18 : decode cX4_bounded 18 = .ok (.aload_n 0, 1) := dk_42 (dk_at dksX4_bounded_0 18 rfl rfl)
theorem dX4_bounded_19 : decode cX4_bounded 19 = .ok (.iload_n 1, 1) := dk_27 (dk_at dksX4_bounded_0 19 rfl rfl)
theorem dX4_bounded_20 : decode cX4_bounded 20 = .ok (.iload_n 2, 1) := dk_28 (dk_at dksX4_bounded_0 20 rfl rfl)
theorem dX4_bounded_21 : decode cX4_bounded 21 = .ok (.invokevirtual 149, 3) := dk_182 0 149 (dk_at dksX4_bounded_0 21 rfl rfl)
theorem dX4_bounded_24 : decode cX4_bounded 24 = .ok (.ireturn, 1) := dk_172 (dk_at dksX4_bounded_1 0 rfl rfl)
abbrev cX4_opens : ByteArray := prog_23_method_61_code
def yX4_opens : MethodName := ⟨RX4, "opens", "(II)V"⟩
def dkwX4_opens_1 : List UInt8 := [180, 0, 254, 4, 96, 181, 0, 254, 42, 27, 28, 182, 1, 1, 42, 182, 0, 142, 177]
abbrev dktX4_opens_1 : List UInt8 := dkwX4_opens_1 ++ []
def dkwX4_opens_0 : List UInt8 := [42, 180, 0, 254, 16, 8, 160, 0, 8, 42, 6, 182, 0, 139, 42, 182, 0, 132, 154, 0, 4, 177, 42, 89]
abbrev dktX4_opens_0 : List UInt8 := dkwX4_opens_0 ++ dktX4_opens_1
theorem dksX4_opens_0 : cX4_opens.data.toList.drop 0 = dktX4_opens_0 := by decide +kernel
theorem dksX4_opens_1 : cX4_opens.data.toList.drop 24 = dktX4_opens_1 := dk_seg dksX4_opens_0 24 rfl rfl
theorem dX4_opens_0 : decode cX4_opens 0 = .ok (.aload_n 0, 1) := dk_42 (dk_at dksX4_opens_0 0 rfl rfl)
theorem dX4_opens_1 : decode cX4_opens 1 = .ok (.getfield 254, 3) := dk_180 0 254 (dk_at dksX4_opens_0 1 rfl rfl)
theorem dX4_opens_4 : decode cX4_opens 4 = .ok (.bipush 8, 2) := dk_16 8 (dk_at dksX4_opens_0 4 rfl rfl)
theorem dX4_opens_6 : decode cX4_opens 6 = .ok (.if_icmp .ne 8, 3) := dk_160 0 8 (dk_at dksX4_opens_0 6 rfl rfl)
theorem dX4_opens_9 : decode cX4_opens 9 = .ok (.aload_n 0, 1) := dk_42 (dk_at dksX4_opens_0 9 rfl rfl)
theorem dX4_opens_10 : decode cX4_opens 10 = .ok (.iconst 3, 1) := dk_6 (dk_at dksX4_opens_0 10 rfl rfl)
theorem dX4_opens_11 : decode cX4_opens 11 = .ok (.invokevirtual 139, 3) := dk_182 0 139 (dk_at dksX4_opens_0 11 rfl rfl)
theorem dX4_opens_14 : decode cX4_opens 14 = .ok (.aload_n 0, 1) := dk_42 (dk_at dksX4_opens_0 14 rfl rfl)
theorem dX4_opens_15 : decode cX4_opens 15 = .ok (.invokevirtual 132, 3) := dk_182 0 132 (dk_at dksX4_opens_0 15 rfl rfl)
theorem dX4_opens_18 : decode cX4_opens 18 = .ok (.ifCond .ne 4, 3) := dk_154 0 4 (dk_at dksX4_opens_0 18 rfl rfl)
theorem dX4_opens_21 : decode cX4_opens 21 = .ok (.return_, 1) := dk_177 (dk_at dksX4_opens_0 21 rfl rfl)
theorem dX4_opens_22 : decode cX4_opens 22 = .ok (.aload_n 0, 1) := dk_42 (dk_at dksX4_opens_0 22 rfl rfl)
theorem dX4_opens_23 : decode cX4_opens 23 = .ok (.dup, 1) := dk_89 (dk_at dksX4_opens_0 23 rfl rfl)
theorem dX4_opens_24 : decode cX4_opens 24 = .ok (.getfield 254, 3) := dk_180 0 254 (dk_at dksX4_opens_1 0 rfl rfl)
theorem dX4_opens_27 : decode cX4_opens 27 = .ok (.iconst 1, 1) := dk_4 (dk_at dksX4_opens_1 3 rfl rfl)
theorem dX4_opens_28 : decode cX4_opens 28 = .ok (.iadd, 1) := dk_96 (dk_at dksX4_opens_1 4 rfl rfl)
theorem dX4_opens_29 : decode cX4_opens 29 = .ok (.putfield 254, 3) := dk_181 0 254 (dk_at dksX4_opens_1 5 rfl rfl)
theorem dX4_opens_32 : decode cX4_opens 32 = .ok (.aload_n 0, 1) := dk_42 (dk_at dksX4_opens_1 8 rfl rfl)
theorem dX4_opens_33 : decode cX4_opens 33 = .ok (.iload_n 1, 1) := dk_27 (dk_at dksX4_opens_1 9 rfl rfl)
theorem dX4_opens_34 : decode cX4_opens 34 = .ok (.iload_n 2, 1) := dk_28 (dk_at dksX4_opens_1 10 rfl rfl)
theorem dX4_opens_35 : decode cX4_opens 35 = .ok (.invokevirtual 257, 3) := dk_182 1 1 (dk_at dksX4_opens_1 11 rfl rfl)
theorem dX4_opens_38 : decode cX4_opens 38 = .ok (.aload_n 0, 1) := dk_42 (dk_at dksX4_opens_1 14 rfl rfl)
theorem dX4_opens_39 : decode cX4_opens 39 = .ok (.invokevirtual 142, 3) := dk_182 0 142 (dk_at dksX4_opens_1 15 rfl rfl)
theorem dX4_opens_42 : decode cX4_opens 42 = .ok (.return_, 1) := dk_177 (dk_at dksX4_opens_1 18 rfl rfl)
abbrev cX4_waitsFor : ByteArray := prog_23_method_58_code
def yX4_waitsFor : MethodName := ⟨RX4, "waitsFor", "(II)V"⟩
def dkwX4_waitsFor_1 : List UInt8 := [180, 0, 247, 4, 96, 181, 0, 247, 177]
abbrev dktX4_waitsFor_1 : List UInt8 := dkwX4_waitsFor_1 ++ []
def dkwX4_waitsFor_0 : List UInt8 := [42, 180, 0, 44, 42, 180, 0, 247, 27, 79, 42, 180, 0, 47, 42, 180, 0, 247, 28, 79, 42, 89]
abbrev dktX4_waitsFor_0 : List UInt8 := dkwX4_waitsFor_0 ++ dktX4_waitsFor_1
theorem dksX4_waitsFor_0 : cX4_waitsFor.data.toList.drop 0 = dktX4_waitsFor_0 := by decide +kernel
theorem dksX4_waitsFor_1 : cX4_waitsFor.data.toList.drop 22 = dktX4_waitsFor_1 := dk_seg dksX4_waitsFor_0 22 rfl rfl
theorem dX4_waitsFor_0 : decode cX4_waitsFor 0 = .ok (.aload_n 0, 1) := dk_42 (dk_at dksX4_waitsFor_0 0 rfl rfl)
theorem dX4_waitsFor_1 : decode cX4_waitsFor 1 = .ok (.getfield 44, 3) := dk_180 0 44 (dk_at dksX4_waitsFor_0 1 rfl rfl)
theorem dX4_waitsFor_4 : decode cX4_waitsFor 4 = .ok (.aload_n 0, 1) := dk_42 (dk_at dksX4_waitsFor_0 4 rfl rfl)
theorem dX4_waitsFor_5 : decode cX4_waitsFor 5 = .ok (.getfield 247, 3) := dk_180 0 247 (dk_at dksX4_waitsFor_0 5 rfl rfl)
theorem dX4_waitsFor_8 : decode cX4_waitsFor 8 = .ok (.iload_n 1, 1) := dk_27 (dk_at dksX4_waitsFor_0 8 rfl rfl)
theorem dX4_waitsFor_9 : decode cX4_waitsFor 9 = .ok (.iastore, 1) := dk_79 (dk_at dksX4_waitsFor_0 9 rfl rfl)
theorem dX4_waitsFor_10 : decode cX4_waitsFor 10 = .ok (.aload_n 0, 1) := dk_42 (dk_at dksX4_waitsFor_0 10 rfl rfl)
theorem dX4_waitsFor_11 : decode cX4_waitsFor 11 = .ok (.getfield 47, 3) := dk_180 0 47 (dk_at dksX4_waitsFor_0 11 rfl rfl)
theorem dX4_waitsFor_14 : decode cX4_waitsFor 14 = .ok (.aload_n 0, 1) := dk_42 (dk_at dksX4_waitsFor_0 14 rfl rfl)
theorem dX4_waitsFor_15 : decode cX4_waitsFor 15 = .ok (.getfield 247, 3) := dk_180 0 247 (dk_at dksX4_waitsFor_0 15 rfl rfl)
theorem dX4_waitsFor_18 : decode cX4_waitsFor 18 = .ok (.iload_n 2, 1) := dk_28 (dk_at dksX4_waitsFor_0 18 rfl rfl)
theorem dX4_waitsFor_19 : decode cX4_waitsFor 19 = .ok (.iastore, 1) := dk_79 (dk_at dksX4_waitsFor_0 19 rfl rfl)
theorem dX4_waitsFor_20 : decode cX4_waitsFor 20 = .ok (.aload_n 0, 1) := dk_42 (dk_at dksX4_waitsFor_0 20 rfl rfl)
theorem dX4_waitsFor_21 : decode cX4_waitsFor 21 = .ok (.dup, 1) := dk_89 (dk_at dksX4_waitsFor_0 21 rfl rfl)
theorem dX4_waitsFor_22 : decode cX4_waitsFor 22 = .ok (.getfield 247, 3) := dk_180 0 247 (dk_at dksX4_waitsFor_1 0 rfl rfl)
theorem dX4_waitsFor_25 : decode cX4_waitsFor 25 = .ok (.iconst 1, 1) := dk_4 (dk_at dksX4_waitsFor_1 3 rfl rfl)
theorem dX4_waitsFor_26 : decode cX4_waitsFor 26 = .ok (.iadd, 1) := dk_96 (dk_at dksX4_waitsFor_1 4 rfl rfl)
theorem dX4_waitsFor_27 : decode cX4_waitsFor 27 = .ok (.putfield 247, 3) := dk_181 0 247 (dk_at dksX4_waitsFor_1 5 rfl rfl)
theorem dX4_waitsFor_30 : decode cX4_waitsFor 30 = .ok (.return_, 1) := dk_177 (dk_at dksX4_waitsFor_1 8 rfl rfl)
abbrev cX4_endsFactor : ByteArray := prog_23_method_62_code
def yX4_endsFactor : MethodName := ⟨RX4, "endsFactor", "()V"⟩
def dkwX4_endsFactor_1 : List UInt8 := [167, 255, 232, 177]
abbrev dktX4_endsFactor_1 : List UInt8 := dkwX4_endsFactor_1 ++ []
def dkwX4_endsFactor_0 : List UInt8 := [42, 8, 16, 7, 182, 1, 4, 153, 0, 20, 42, 182, 1, 8, 42, 89, 180, 0, 254, 4, 100, 181, 0, 254]
abbrev dktX4_endsFactor_0 : List UInt8 := dkwX4_endsFactor_0 ++ dktX4_endsFactor_1
theorem dksX4_endsFactor_0 : cX4_endsFactor.data.toList.drop 0 = dktX4_endsFactor_0 := by decide +kernel
theorem dksX4_endsFactor_1 : cX4_endsFactor.data.toList.drop 24 = dktX4_endsFactor_1 := dk_seg dksX4_endsFactor_0 24 rfl rfl
theorem dX4_endsFactor_0 : decode cX4_endsFactor 0 = .ok (.aload_n 0, 1) := dk_42 (dk_at dksX4_endsFactor_0 0 rfl rfl)
theorem dX4_endsFactor_1 : decode cX4_endsFactor 1 = .ok (.iconst 5, 1) := dk_8 (dk_at dksX4_endsFactor_0 1 rfl rfl)
theorem dX4_endsFactor_2 : decode cX4_endsFactor 2 = .ok (.bipush 7, 2) := dk_16 7 (dk_at dksX4_endsFactor_0 2 rfl rfl)
theorem dX4_endsFactor_4 : decode cX4_endsFactor 4 = .ok (.invokevirtual 260, 3) := dk_182 1 4 (dk_at dksX4_endsFactor_0 4 rfl rfl)
theorem dX4_endsFactor_7 : decode cX4_endsFactor 7 = .ok (.ifCond .eq 20, 3) := dk_153 0 20 (dk_at dksX4_endsFactor_0 7 rfl rfl)
theorem dX4_endsFactor_10 : decode cX4_endsFactor 10 = .ok (.aload_n 0, 1) := dk_42 (dk_at dksX4_endsFactor_0 10 rfl rfl)
theorem dX4_endsFactor_11 : decode cX4_endsFactor 11 = .ok (.invokevirtual 264, 3) := dk_182 1 8 (dk_at dksX4_endsFactor_0 11 rfl rfl)
theorem dX4_endsFactor_14 : decode cX4_endsFactor 14 = .ok (.aload_n 0, 1) := dk_42 (dk_at dksX4_endsFactor_0 14 rfl rfl)
theorem dX4_endsFactor_15 : decode cX4_endsFactor 15 = .ok (.dup, 1) := dk_89 (dk_at dksX4_endsFactor_0 15 rfl rfl)
theorem dX4_endsFactor_16 : decode cX4_endsFactor 16 = .ok (.getfield 254, 3) := dk_180 0 254 (dk_at dksX4_endsFactor_0 16 rfl rfl)
theorem dX4_endsFactor_19 : decode cX4_endsFactor 19 = .ok (.iconst 1, 1) := dk_4 (dk_at dksX4_endsFactor_0 19 rfl rfl)
theorem dX4_endsFactor_20 : decode cX4_endsFactor 20 = .ok (.isub, 1) := dk_100 (dk_at dksX4_endsFactor_0 20 rfl rfl)
theorem dX4_endsFactor_21 : decode cX4_endsFactor 21 = .ok (.putfield 254, 3) := dk_181 0 254 (dk_at dksX4_endsFactor_0 21 rfl rfl)
theorem dX4_endsFactor_24 : decode cX4_endsFactor 24 = .ok (.goto (-24), 3) := dk_167 255 232 (dk_at dksX4_endsFactor_1 0 rfl rfl)
theorem dX4_endsFactor_27 : decode cX4_endsFactor 27 = .ok (.return_, 1) := dk_177 (dk_at dksX4_endsFactor_1 3 rfl rfl)
abbrev cX4_hasTop : ByteArray := prog_23_method_60_code
def yX4_hasTop : MethodName := ⟨RX4, "hasTop", "(II)Z"⟩
def dkwX4_hasTop_1 : List UInt8 := [184, 0, 95, 153, 0, 7, 4, 167, 0, 4, 3, 172]
abbrev dktX4_hasTop_1 : List UInt8 := dkwX4_hasTop_1 ++ []
def dkwX4_hasTop_0 : List UInt8 := [42, 180, 0, 247, 158, 0, 29, 42, 180, 0, 44, 42, 180, 0, 247, 4, 100, 46, 133, 27, 133, 28, 133]
abbrev dktX4_hasTop_0 : List UInt8 := dkwX4_hasTop_0 ++ dktX4_hasTop_1
theorem dksX4_hasTop_0 : cX4_hasTop.data.toList.drop 0 = dktX4_hasTop_0 := by decide +kernel
theorem dksX4_hasTop_1 : cX4_hasTop.data.toList.drop 23 = dktX4_hasTop_1 := dk_seg dksX4_hasTop_0 23 rfl rfl
theorem dX4_hasTop_0 : decode cX4_hasTop 0 = .ok (.aload_n 0, 1) := dk_42 (dk_at dksX4_hasTop_0 0 rfl rfl)
theorem dX4_hasTop_1 : decode cX4_hasTop 1 = .ok (.getfield 247, 3) := dk_180 0 247 (dk_at dksX4_hasTop_0 1 rfl rfl)
theorem dX4_hasTop_4 : decode cX4_hasTop 4 = .ok (.ifCond .le 29, 3) := dk_158 0 29 (dk_at dksX4_hasTop_0 4 rfl rfl)
theorem dX4_hasTop_7 : decode cX4_hasTop 7 = .ok (.aload_n 0, 1) := dk_42 (dk_at dksX4_hasTop_0 7 rfl rfl)
theorem dX4_hasTop_8 : decode cX4_hasTop 8 = .ok (.getfield 44, 3) := dk_180 0 44 (dk_at dksX4_hasTop_0 8 rfl rfl)
theorem dX4_hasTop_11 : decode cX4_hasTop 11 = .ok (.aload_n 0, 1) := dk_42 (dk_at dksX4_hasTop_0 11 rfl rfl)
theorem dX4_hasTop_12 : decode cX4_hasTop 12 = .ok (.getfield 247, 3) := dk_180 0 247 (dk_at dksX4_hasTop_0 12 rfl rfl)
theorem dX4_hasTop_15 : decode cX4_hasTop 15 = .ok (.iconst 1, 1) := dk_4 (dk_at dksX4_hasTop_0 15 rfl rfl)
theorem dX4_hasTop_16 : decode cX4_hasTop 16 = .ok (.isub, 1) := dk_100 (dk_at dksX4_hasTop_0 16 rfl rfl)
theorem dX4_hasTop_17 : decode cX4_hasTop 17 = .ok (.iaload, 1) := dk_46 (dk_at dksX4_hasTop_0 17 rfl rfl)
theorem dX4_hasTop_18 : decode cX4_hasTop 18 = .ok (.i2l, 1) := dk_133 (dk_at dksX4_hasTop_0 18 rfl rfl)
theorem dX4_hasTop_19 : decode cX4_hasTop 19 = .ok (.iload_n 1, 1) := dk_27 (dk_at dksX4_hasTop_0 19 rfl rfl)
theorem dX4_hasTop_20 : decode cX4_hasTop 20 = .ok (.i2l, 1) := dk_133 (dk_at dksX4_hasTop_0 20 rfl rfl)
theorem dX4_hasTop_21 : decode cX4_hasTop 21 = .ok (.iload_n 2, 1) := dk_28 (dk_at dksX4_hasTop_0 21 rfl rfl)
theorem dX4_hasTop_22 : decode cX4_hasTop 22 = .ok (.i2l, 1) := dk_133 (dk_at dksX4_hasTop_0 22 rfl rfl)
theorem dX4_hasTop_23 : decode cX4_hasTop 23 = .ok (.invokestatic 95, 3) := dk_184 0 95 (dk_at dksX4_hasTop_1 0 rfl rfl)
theorem dX4_hasTop_26 : decode cX4_hasTop 26 = .ok (.ifCond .eq 7, 3) := dk_153 0 7 (dk_at dksX4_hasTop_1 3 rfl rfl)
theorem dX4_hasTop_29 : decode cX4_hasTop 29 = .ok (.iconst 1, 1) := dk_4 (dk_at dksX4_hasTop_1 6 rfl rfl)
theorem dX4_hasTop_30 : decode cX4_hasTop 30 = .ok (.goto 4, 3) := dk_167 0 4 (dk_at dksX4_hasTop_1 7 rfl rfl)
theorem dX4_hasTop_33 : decode cX4_hasTop 33 = .ok (.iconst 0, 1) := dk_3 (dk_at dksX4_hasTop_1 10 rfl rfl)
theorem dX4_hasTop_34 : decode cX4_hasTop 34 = .ok (.ireturn, 1) := dk_172 (dk_at dksX4_hasTop_1 11 rfl rfl)
abbrev cX4_writesTop : ByteArray := prog_23_method_59_code
def yX4_writesTop : MethodName := ⟨RX4, "writesTop", "()V"⟩
def dkwX4_writesTop_1 : List UInt8 := [42, 180, 0, 247, 46, 182, 0, 250, 177]
abbrev dktX4_writesTop_1 : List UInt8 := dkwX4_writesTop_1 ++ []
def dkwX4_writesTop_0 : List UInt8 := [42, 89, 180, 0, 247, 4, 100, 181, 0, 247, 42, 42, 180, 0, 44, 42, 180, 0, 247, 46, 42, 180, 0, 47]
abbrev dktX4_writesTop_0 : List UInt8 := dkwX4_writesTop_0 ++ dktX4_writesTop_1
theorem dksX4_writesTop_0 : cX4_writesTop.data.toList.drop 0 = dktX4_writesTop_0 := by decide +kernel
theorem dksX4_writesTop_1 : cX4_writesTop.data.toList.drop 24 = dktX4_writesTop_1 := dk_seg dksX4_writesTop_0 24 rfl rfl
theorem dX4_writesTop_0 : decode cX4_writesTop 0 = .ok (.aload_n 0, 1) := dk_42 (dk_at dksX4_writesTop_0 0 rfl rfl)
theorem dX4_writesTop_1 : decode cX4_writesTop 1 = .ok (.dup, 1) := dk_89 (dk_at dksX4_writesTop_0 1 rfl rfl)
theorem dX4_writesTop_2 : decode cX4_writesTop 2 = .ok (.getfield 247, 3) := dk_180 0 247 (dk_at dksX4_writesTop_0 2 rfl rfl)
theorem dX4_writesTop_5 : decode cX4_writesTop 5 = .ok (.iconst 1, 1) := dk_4 (dk_at dksX4_writesTop_0 5 rfl rfl)
theorem dX4_writesTop_6 : decode cX4_writesTop 6 = .ok (.isub, 1) := dk_100 (dk_at dksX4_writesTop_0 6 rfl rfl)
theorem dX4_writesTop_7 : decode cX4_writesTop 7 = .ok (.putfield 247, 3) := dk_181 0 247 (dk_at dksX4_writesTop_0 7 rfl rfl)
theorem dX4_writesTop_10 : decode cX4_writesTop 10 = .ok (.aload_n 0, 1) := dk_42 (dk_at dksX4_writesTop_0 10 rfl rfl)
theorem dX4_writesTop_11 : decode cX4_writesTop 11 = .ok (.aload_n 0, 1) := dk_42 (dk_at dksX4_writesTop_0 11 rfl rfl)
theorem dX4_writesTop_12 : decode cX4_writesTop 12 = .ok (.getfield 44, 3) := dk_180 0 44 (dk_at dksX4_writesTop_0 12 rfl rfl)
theorem dX4_writesTop_15 : decode cX4_writesTop 15 = .ok (.aload_n 0, 1) := dk_42 (dk_at dksX4_writesTop_0 15 rfl rfl)
theorem dX4_writesTop_16 : decode cX4_writesTop 16 = .ok (.getfield 247, 3) := dk_180 0 247 (dk_at dksX4_writesTop_0 16 rfl rfl)
theorem dX4_writesTop_19 : decode cX4_writesTop 19 = .ok (.iaload, 1) := dk_46 (dk_at dksX4_writesTop_0 19 rfl rfl)
theorem dX4_writesTop_20 : decode cX4_writesTop 20 = .ok (.aload_n 0, 1) := dk_42 (dk_at dksX4_writesTop_0 20 rfl rfl)
theorem dX4_writesTop_21 : decode cX4_writesTop 21 = .ok (.getfield 47, 3) := dk_180 0 47 (dk_at dksX4_writesTop_0 21 rfl rfl)
theorem dX4_writesTop_24 : decode cX4_writesTop 24 = .ok (.aload_n 0, 1) := dk_42 (dk_at dksX4_writesTop_1 0 rfl rfl)
theorem dX4_writesTop_25 : decode cX4_writesTop 25 = .ok (.getfield 247, 3) := dk_180 0 247 (dk_at dksX4_writesTop_1 1 rfl rfl)
theorem dX4_writesTop_28 : decode cX4_writesTop 28 = .ok (.iaload, 1) := dk_46 (dk_at dksX4_writesTop_1 4 rfl rfl)
theorem dX4_writesTop_29 : decode cX4_writesTop 29 = .ok (.invokevirtual 250, 3) := dk_182 0 250 (dk_at dksX4_writesTop_1 5 rfl rfl)
theorem dX4_writesTop_32 : decode cX4_writesTop 32 = .ok (.return_, 1) := dk_177 (dk_at dksX4_writesTop_1 8 rfl rfl)
abbrev cX4_hasOpen : ByteArray := prog_23_method_67_code
def yX4_hasOpen : MethodName := ⟨RX4, "hasOpen", "()Z"⟩
def dkwX4_hasOpen_1 : List UInt8 := [132, 1, 1, 167, 255, 232, 3, 172]
abbrev dktX4_hasOpen_1 : List UInt8 := dkwX4_hasOpen_1 ++ []
def dkwX4_hasOpen_0 : List UInt8 := [3, 60, 27, 42, 180, 0, 247, 162, 0, 22, 42, 180, 0, 44, 27, 46, 16, 11, 160, 0, 5, 4, 172]
abbrev dktX4_hasOpen_0 : List UInt8 := dkwX4_hasOpen_0 ++ dktX4_hasOpen_1
theorem dksX4_hasOpen_0 : cX4_hasOpen.data.toList.drop 0 = dktX4_hasOpen_0 := by decide +kernel
theorem dksX4_hasOpen_1 : cX4_hasOpen.data.toList.drop 23 = dktX4_hasOpen_1 := dk_seg dksX4_hasOpen_0 23 rfl rfl
theorem dX4_hasOpen_0 : decode cX4_hasOpen 0 = .ok (.iconst 0, 1) := dk_3 (dk_at dksX4_hasOpen_0 0 rfl rfl)
theorem dX4_hasOpen_1 : decode cX4_hasOpen 1 = .ok (.istore_n 1, 1) := dk_60 (dk_at dksX4_hasOpen_0 1 rfl rfl)
theorem dX4_hasOpen_2 : decode cX4_hasOpen 2 = .ok (.iload_n 1, 1) := dk_27 (dk_at dksX4_hasOpen_0 2 rfl rfl)
theorem dX4_hasOpen_3 : decode cX4_hasOpen 3 = .ok (.aload_n 0, 1) := dk_42 (dk_at dksX4_hasOpen_0 3 rfl rfl)
theorem dX4_hasOpen_4 : decode cX4_hasOpen 4 = .ok (.getfield 247, 3) := dk_180 0 247 (dk_at dksX4_hasOpen_0 4 rfl rfl)
theorem dX4_hasOpen_7 : decode cX4_hasOpen 7 = .ok (.if_icmp .ge 22, 3) := dk_162 0 22 (dk_at dksX4_hasOpen_0 7 rfl rfl)
theorem dX4_hasOpen_10 : decode cX4_hasOpen 10 = .ok (.aload_n 0, 1) := dk_42 (dk_at dksX4_hasOpen_0 10 rfl rfl)
theorem dX4_hasOpen_11 : decode cX4_hasOpen 11 = .ok (.getfield 44, 3) := dk_180 0 44 (dk_at dksX4_hasOpen_0 11 rfl rfl)
theorem dX4_hasOpen_14 : decode cX4_hasOpen 14 = .ok (.iload_n 1, 1) := dk_27 (dk_at dksX4_hasOpen_0 14 rfl rfl)
theorem dX4_hasOpen_15 : decode cX4_hasOpen 15 = .ok (.iaload, 1) := dk_46 (dk_at dksX4_hasOpen_0 15 rfl rfl)
theorem dX4_hasOpen_16 : decode cX4_hasOpen 16 = .ok (.bipush 11, 2) := dk_16 11 (dk_at dksX4_hasOpen_0 16 rfl rfl)
theorem dX4_hasOpen_18 : decode cX4_hasOpen 18 = .ok (.if_icmp .ne 5, 3) := dk_160 0 5 (dk_at dksX4_hasOpen_0 18 rfl rfl)
theorem dX4_hasOpen_21 : decode cX4_hasOpen 21 = .ok (.iconst 1, 1) := dk_4 (dk_at dksX4_hasOpen_0 21 rfl rfl)
theorem dX4_hasOpen_22 : decode cX4_hasOpen 22 = .ok (.ireturn, 1) := dk_172 (dk_at dksX4_hasOpen_0 22 rfl rfl)
theorem dX4_hasOpen_23 : decode cX4_hasOpen 23 = .ok (.iinc 1 1, 3) := dk_132 1 1 (dk_at dksX4_hasOpen_1 0 rfl rfl)
theorem dX4_hasOpen_26 : decode cX4_hasOpen 26 = .ok (.goto (-24), 3) := dk_167 255 232 (dk_at dksX4_hasOpen_1 3 rfl rfl)
theorem dX4_hasOpen_29 : decode cX4_hasOpen 29 = .ok (.iconst 0, 1) := dk_3 (dk_at dksX4_hasOpen_1 6 rfl rfl)
theorem dX4_hasOpen_30 : decode cX4_hasOpen 30 = .ok (.ireturn, 1) := dk_172 (dk_at dksX4_hasOpen_1 7 rfl rfl)
abbrev cX4_closesOne : ByteArray := prog_23_method_68_code
def yX4_closesOne : MethodName := ⟨RX4, "closesOne", "()V"⟩
def dkwX4_closesOne_1 : List UInt8 := [100, 181, 0, 247, 42, 89, 180, 0, 254, 4, 100, 181, 0, 254, 42, 182, 0, 142, 42, 182, 1, 34, 177]
abbrev dktX4_closesOne_1 : List UInt8 := dkwX4_closesOne_1 ++ []
def dkwX4_closesOne_0 : List UInt8 := [42, 16, 8, 16, 10, 182, 1, 4, 153, 0, 10, 42, 182, 1, 8, 167, 255, 241, 42, 89, 180, 0, 247, 4]
abbrev dktX4_closesOne_0 : List UInt8 := dkwX4_closesOne_0 ++ dktX4_closesOne_1
theorem dksX4_closesOne_0 : cX4_closesOne.data.toList.drop 0 = dktX4_closesOne_0 := by decide +kernel
theorem dksX4_closesOne_1 : cX4_closesOne.data.toList.drop 24 = dktX4_closesOne_1 := dk_seg dksX4_closesOne_0 24 rfl rfl
theorem dX4_closesOne_0 : decode cX4_closesOne 0 = .ok (.aload_n 0, 1) := dk_42 (dk_at dksX4_closesOne_0 0 rfl rfl)
theorem dX4_closesOne_1 : decode cX4_closesOne 1 = .ok (.bipush 8, 2) := dk_16 8 (dk_at dksX4_closesOne_0 1 rfl rfl)
theorem dX4_closesOne_3 : decode cX4_closesOne 3 = .ok (.bipush 10, 2) := dk_16 10 (dk_at dksX4_closesOne_0 3 rfl rfl)
theorem dX4_closesOne_5 : decode cX4_closesOne 5 = .ok (.invokevirtual 260, 3) := dk_182 1 4 (dk_at dksX4_closesOne_0 5 rfl rfl)
theorem dX4_closesOne_8 : decode cX4_closesOne 8 = .ok (.ifCond .eq 10, 3) := dk_153 0 10 (dk_at dksX4_closesOne_0 8 rfl rfl)
theorem dX4_closesOne_11 : decode cX4_closesOne 11 = .ok (.aload_n 0, 1) := dk_42 (dk_at dksX4_closesOne_0 11 rfl rfl)
theorem dX4_closesOne_12 : decode cX4_closesOne 12 = .ok (.invokevirtual 264, 3) := dk_182 1 8 (dk_at dksX4_closesOne_0 12 rfl rfl)
theorem dX4_closesOne_15 : decode cX4_closesOne 15 = .ok (.goto (-15), 3) := dk_167 255 241 (dk_at dksX4_closesOne_0 15 rfl rfl)
theorem dX4_closesOne_18 : decode cX4_closesOne 18 = .ok (.aload_n 0, 1) := dk_42 (dk_at dksX4_closesOne_0 18 rfl rfl)
theorem dX4_closesOne_19 : decode cX4_closesOne 19 = .ok (.dup, 1) := dk_89 (dk_at dksX4_closesOne_0 19 rfl rfl)
theorem dX4_closesOne_20 : decode cX4_closesOne 20 = .ok (.getfield 247, 3) := dk_180 0 247 (dk_at dksX4_closesOne_0 20 rfl rfl)
theorem dX4_closesOne_23 : decode cX4_closesOne 23 = .ok (.iconst 1, 1) := dk_4 (dk_at dksX4_closesOne_0 23 rfl rfl)
theorem dX4_closesOne_24 : decode cX4_closesOne 24 = .ok (.isub, 1) := dk_100 (dk_at dksX4_closesOne_1 0 rfl rfl)
theorem dX4_closesOne_25 : decode cX4_closesOne 25 = .ok (.putfield 247, 3) := dk_181 0 247 (dk_at dksX4_closesOne_1 1 rfl rfl)
theorem dX4_closesOne_28 : decode cX4_closesOne 28 = .ok (.aload_n 0, 1) := dk_42 (dk_at dksX4_closesOne_1 4 rfl rfl)
theorem dX4_closesOne_29 : decode cX4_closesOne 29 = .ok (.dup, 1) := dk_89 (dk_at dksX4_closesOne_1 5 rfl rfl)
theorem dX4_closesOne_30 : decode cX4_closesOne 30 = .ok (.getfield 254, 3) := dk_180 0 254 (dk_at dksX4_closesOne_1 6 rfl rfl)
theorem dX4_closesOne_33 : decode cX4_closesOne 33 = .ok (.iconst 1, 1) := dk_4 (dk_at dksX4_closesOne_1 9 rfl rfl)
theorem dX4_closesOne_34 : decode cX4_closesOne 34 = .ok (.isub, 1) := dk_100 (dk_at dksX4_closesOne_1 10 rfl rfl)
theorem dX4_closesOne_35 : decode cX4_closesOne 35 = .ok (.putfield 254, 3) := dk_181 0 254 (dk_at dksX4_closesOne_1 11 rfl rfl)
theorem dX4_closesOne_38 : decode cX4_closesOne 38 = .ok (.aload_n 0, 1) := dk_42 (dk_at dksX4_closesOne_1 14 rfl rfl)
theorem dX4_closesOne_39 : decode cX4_closesOne 39 = .ok (.invokevirtual 142, 3) := dk_182 0 142 (dk_at dksX4_closesOne_1 15 rfl rfl)
theorem dX4_closesOne_42 : decode cX4_closesOne 42 = .ok (.aload_n 0, 1) := dk_42 (dk_at dksX4_closesOne_1 18 rfl rfl)
theorem dX4_closesOne_43 : decode cX4_closesOne 43 = .ok (.invokevirtual 290, 3) := dk_182 1 34 (dk_at dksX4_closesOne_1 19 rfl rfl)
theorem dX4_closesOne_46 : decode cX4_closesOne 46 = .ok (.return_, 1) := dk_177 (dk_at dksX4_closesOne_1 22 rfl rfl)
abbrev cX4_readsOperator : ByteArray := prog_23_method_69_code
def yX4_readsOperator : MethodName := ⟨RX4, "readsOperator", "()Z"⟩
def dkwX4_readsOperator_4 : List UInt8 := [172]
abbrev dktX4_readsOperator_4 : List UInt8 := dkwX4_readsOperator_4 ++ []
def dkwX4_readsOperator_3 : List UInt8 := [182, 1, 4, 153, 0, 10, 42, 182, 1, 8, 167, 255, 230, 42, 27, 3, 182, 1, 1, 42, 182, 0, 142, 4]
abbrev dktX4_readsOperator_3 : List UInt8 := dkwX4_readsOperator_3 ++ dktX4_readsOperator_4
def dkwX4_readsOperator_2 : List UInt8 := [60, 27, 2, 160, 0, 5, 3, 172, 42, 27, 16, 10, 160, 0, 8, 16, 10, 167, 0, 5, 16, 8, 16, 10]
abbrev dktX4_readsOperator_2 : List UInt8 := dkwX4_readsOperator_2 ++ dktX4_readsOperator_3
def dkwX4_readsOperator_1 : List UInt8 := [153, 0, 8, 16, 8, 167, 0, 19, 42, 20, 1, 41, 182, 0, 145, 153, 0, 8, 16, 9, 167, 0, 4, 2]
abbrev dktX4_readsOperator_1 : List UInt8 := dkwX4_readsOperator_1 ++ dktX4_readsOperator_2
def dkwX4_readsOperator_0 : List UInt8 := [42, 20, 1, 37, 182, 0, 145, 153, 0, 8, 16, 10, 167, 0, 34, 42, 20, 1, 39, 182, 0, 145]
abbrev dktX4_readsOperator_0 : List UInt8 := dkwX4_readsOperator_0 ++ dktX4_readsOperator_1
theorem dksX4_readsOperator_0 : cX4_readsOperator.data.toList.drop 0 = dktX4_readsOperator_0 := by decide +kernel
theorem dksX4_readsOperator_1 : cX4_readsOperator.data.toList.drop 22 = dktX4_readsOperator_1 := dk_seg dksX4_readsOperator_0 22 rfl rfl
theorem dksX4_readsOperator_2 : cX4_readsOperator.data.toList.drop 46 = dktX4_readsOperator_2 := dk_seg dksX4_readsOperator_1 24 rfl rfl
theorem dksX4_readsOperator_3 : cX4_readsOperator.data.toList.drop 70 = dktX4_readsOperator_3 := dk_seg dksX4_readsOperator_2 24 rfl rfl
theorem dksX4_readsOperator_4 : cX4_readsOperator.data.toList.drop 94 = dktX4_readsOperator_4 := dk_seg dksX4_readsOperator_3 24 rfl rfl
theorem dX4_readsOperator_0 : decode cX4_readsOperator 0 = .ok (.aload_n 0, 1) := dk_42 (dk_at dksX4_readsOperator_0 0 rfl rfl)
theorem dX4_readsOperator_1 : decode cX4_readsOperator 1 = .ok (.ldc2_w 293, 3) := dk_20 1 37 (dk_at dksX4_readsOperator_0 1 rfl rfl)
theorem dX4_readsOperator_4 : decode cX4_readsOperator 4 = .ok (.invokevirtual 145, 3) := dk_182 0 145 (dk_at dksX4_readsOperator_0 4 rfl rfl)
theorem dX4_readsOperator_7 : decode cX4_readsOperator 7 = .ok (.ifCond .eq 8, 3) := dk_153 0 8 (dk_at dksX4_readsOperator_0 7 rfl rfl)
theorem dX4_readsOperator_10 : decode cX4_readsOperator 10 = .ok (.bipush 10, 2) := dk_16 10 (dk_at dksX4_readsOperator_0 10 rfl rfl)
theorem dX4_readsOperator_12 : decode cX4_readsOperator 12 = .ok (.goto 34, 3) := dk_167 0 34 (dk_at dksX4_readsOperator_0 12 rfl rfl)
theorem dX4_readsOperator_15 : decode cX4_readsOperator 15 = .ok (.aload_n 0, 1) := dk_42 (dk_at dksX4_readsOperator_0 15 rfl rfl)
theorem dX4_readsOperator_16 : decode cX4_readsOperator 16 = .ok (.ldc2_w 295, 3) := dk_20 1 39 (dk_at dksX4_readsOperator_0 16 rfl rfl)
theorem dX4_readsOperator_19 : decode cX4_readsOperator 19 = .ok (.invokevirtual 145, 3) := dk_182 0 145 (dk_at dksX4_readsOperator_0 19 rfl rfl)
theorem dX4_readsOperator_22 : decode cX4_readsOperator 22 = .ok (.ifCond .eq 8, 3) := dk_153 0 8 (dk_at dksX4_readsOperator_1 0 rfl rfl)
theorem dX4_readsOperator_25 : decode cX4_readsOperator 25 = .ok (.bipush 8, 2) := dk_16 8 (dk_at dksX4_readsOperator_1 3 rfl rfl)
theorem dX4_readsOperator_27 : decode cX4_readsOperator 27 = .ok (.goto 19, 3) := dk_167 0 19 (dk_at dksX4_readsOperator_1 5 rfl rfl)
theorem dX4_readsOperator_30 : decode cX4_readsOperator 30 = .ok (.aload_n 0, 1) := dk_42 (dk_at dksX4_readsOperator_1 8 rfl rfl)
theorem dX4_readsOperator_31 : decode cX4_readsOperator 31 = .ok (.ldc2_w 297, 3) := dk_20 1 41 (dk_at dksX4_readsOperator_1 9 rfl rfl)
theorem dX4_readsOperator_34 : decode cX4_readsOperator 34 = .ok (.invokevirtual 145, 3) := dk_182 0 145 (dk_at dksX4_readsOperator_1 12 rfl rfl)
theorem dX4_readsOperator_37 : decode cX4_readsOperator 37 = .ok (.ifCond .eq 8, 3) := dk_153 0 8 (dk_at dksX4_readsOperator_1 15 rfl rfl)
theorem dX4_readsOperator_40 : decode cX4_readsOperator 40 = .ok (.bipush 9, 2) := dk_16 9 (dk_at dksX4_readsOperator_1 18 rfl rfl)
theorem dX4_readsOperator_42 : decode cX4_readsOperator 42 = .ok (.goto 4, 3) := dk_167 0 4 (dk_at dksX4_readsOperator_1 20 rfl rfl)
theorem dX4_readsOperator_45 : decode cX4_readsOperator 45 = .ok (.iconst (-1), 1) := dk_2 (dk_at dksX4_readsOperator_1 23 rfl rfl)
theorem dX4_readsOperator_46 : decode cX4_readsOperator 46 = .ok (.istore_n 1, 1) := dk_60 (dk_at dksX4_readsOperator_2 0 rfl rfl)
theorem dX4_readsOperator_47 : decode cX4_readsOperator 47 = .ok (.iload_n 1, 1) := dk_27 (dk_at dksX4_readsOperator_2 1 rfl rfl)
theorem dX4_readsOperator_48 : decode cX4_readsOperator 48 = .ok (.iconst (-1), 1) := dk_2 (dk_at dksX4_readsOperator_2 2 rfl rfl)
theorem dX4_readsOperator_49 : decode cX4_readsOperator 49 = .ok (.if_icmp .ne 5, 3) := dk_160 0 5 (dk_at dksX4_readsOperator_2 3 rfl rfl)
theorem dX4_readsOperator_52 : decode cX4_readsOperator 52 = .ok (.iconst 0, 1) := dk_3 (dk_at dksX4_readsOperator_2 6 rfl rfl)
theorem dX4_readsOperator_53 : decode cX4_readsOperator 53 = .ok (.ireturn, 1) := dk_172 (dk_at dksX4_readsOperator_2 7 rfl rfl)
theorem dX4_readsOperator_54 : decode cX4_readsOperator 54 = .ok (.aload_n 0, 1) := dk_42 (dk_at dksX4_readsOperator_2 8 rfl rfl)
theorem dX4_readsOperator_55 : decode cX4_readsOperator 55 = .ok (.iload_n 1, 1) := dk_27 (dk_at dksX4_readsOperator_2 9 rfl rfl)
theorem dX4_readsOperator_56 : decode cX4_readsOperator 56 = .ok (.bipush 10, 2) := dk_16 10 (dk_at dksX4_readsOperator_2 10 rfl rfl)
theorem dX4_readsOperator_58 : decode cX4_readsOperator 58 = .ok (.if_icmp .ne 8, 3) := dk_160 0 8 (dk_at dksX4_readsOperator_2 12 rfl rfl)
theorem dX4_readsOperator_61 : decode cX4_readsOperator 61 = .ok (.bipush 10, 2) := dk_16 10 (dk_at dksX4_readsOperator_2 15 rfl rfl)
theorem dX4_readsOperator_63 : decode cX4_readsOperator 63 = .ok (.goto 5, 3) := dk_167 0 5 (dk_at dksX4_readsOperator_2 17 rfl rfl)
theorem dX4_readsOperator_66 : decode cX4_readsOperator 66 = .ok (.bipush 8, 2) := dk_16 8 (dk_at dksX4_readsOperator_2 20 rfl rfl)
theorem dX4_readsOperator_68 : decode cX4_readsOperator 68 = .ok (.bipush 10, 2) := dk_16 10 (dk_at dksX4_readsOperator_2 22 rfl rfl)
theorem dX4_readsOperator_70 : decode cX4_readsOperator 70 = .ok (.invokevirtual 260, 3) := dk_182 1 4 (dk_at dksX4_readsOperator_3 0 rfl rfl)
theorem dX4_readsOperator_73 : decode cX4_readsOperator 73 = .ok (.ifCond .eq 10, 3) := dk_153 0 10 (dk_at dksX4_readsOperator_3 3 rfl rfl)
theorem dX4_readsOperator_76 : decode cX4_readsOperator 76 = .ok (.aload_n 0, 1) := dk_42 (dk_at dksX4_readsOperator_3 6 rfl rfl)
theorem dX4_readsOperator_77 : decode cX4_readsOperator 77 = .ok (.invokevirtual 264, 3) := dk_182 1 8 (dk_at dksX4_readsOperator_3 7 rfl rfl)
theorem dX4_readsOperator_80 : decode cX4_readsOperator 80 = .ok (.goto (-26), 3) := dk_167 255 230 (dk_at dksX4_readsOperator_3 10 rfl rfl)
theorem dX4_readsOperator_83 : decode cX4_readsOperator 83 = .ok (.aload_n 0, 1) := dk_42 (dk_at dksX4_readsOperator_3 13 rfl rfl)
theorem dX4_readsOperator_84 : decode cX4_readsOperator 84 = .ok (.iload_n 1, 1) := dk_27 (dk_at dksX4_readsOperator_3 14 rfl rfl)
theorem dX4_readsOperator_85 : decode cX4_readsOperator 85 = .ok (.iconst 0, 1) := dk_3 (dk_at dksX4_readsOperator_3 15 rfl rfl)
theorem dX4_readsOperator_86 : decode cX4_readsOperator 86 = .ok (.invokevirtual 257, 3) := dk_182 1 1 (dk_at dksX4_readsOperator_3 16 rfl rfl)
theorem dX4_readsOperator_89 : decode cX4_readsOperator 89 = .ok (.aload_n 0, 1) := dk_42 (dk_at dksX4_readsOperator_3 19 rfl rfl)
theorem dX4_readsOperator_90 : decode cX4_readsOperator 90 = .ok (.invokevirtual 142, 3) := dk_182 0 142 (dk_at dksX4_readsOperator_3 20 rfl rfl)
theorem dX4_readsOperator_93 : decode cX4_readsOperator 93 = .ok (.iconst 1, 1) := dk_4 (dk_at dksX4_readsOperator_3 23 rfl rfl)
theorem dX4_readsOperator_94 : decode cX4_readsOperator 94 = .ok (.ireturn, 1) := dk_172 (dk_at dksX4_readsOperator_4 0 rfl rfl)
abbrev cX4_evaluates : ByteArray := prog_23_method_56_code
def yX4_evaluates : MethodName := ⟨RX4, "evaluates", "(II)Z"⟩
def dkwX4_evaluates_1 : List UInt8 := [167, 255, 238, 4, 172]
abbrev dktX4_evaluates_1 : List UInt8 := dkwX4_evaluates_1 ++ []
def dkwX4_evaluates_0 : List UInt8 := [42, 182, 0, 238, 27, 62, 29, 28, 162, 0, 19, 42, 29, 182, 0, 241, 154, 0, 5, 3, 172, 132, 3, 1]
abbrev dktX4_evaluates_0 : List UInt8 := dkwX4_evaluates_0 ++ dktX4_evaluates_1
theorem dksX4_evaluates_0 : cX4_evaluates.data.toList.drop 0 = dktX4_evaluates_0 := by decide +kernel
theorem dksX4_evaluates_1 : cX4_evaluates.data.toList.drop 24 = dktX4_evaluates_1 := dk_seg dksX4_evaluates_0 24 rfl rfl
theorem dX4_evaluates_0 : decode cX4_evaluates 0 = .ok (.aload_n 0, 1) := dk_42 (dk_at dksX4_evaluates_0 0 rfl rfl)
theorem dX4_evaluates_1 : decode cX4_evaluates 1 = .ok (.invokevirtual 238, 3) := dk_182 0 238 (dk_at dksX4_evaluates_0 1 rfl rfl)
theorem dX4_evaluates_4 : decode cX4_evaluates 4 = .ok (.iload_n 1, 1) := dk_27 (dk_at dksX4_evaluates_0 4 rfl rfl)
theorem dX4_evaluates_5 : decode cX4_evaluates 5 = .ok (.istore_n 3, 1) := dk_62 (dk_at dksX4_evaluates_0 5 rfl rfl)
theorem dX4_evaluates_6 : decode cX4_evaluates 6 = .ok (.iload_n 3, 1) := dk_29 (dk_at dksX4_evaluates_0 6 rfl rfl)
theorem dX4_evaluates_7 : decode cX4_evaluates 7 = .ok (.iload_n 2, 1) := dk_28 (dk_at dksX4_evaluates_0 7 rfl rfl)
theorem dX4_evaluates_8 : decode cX4_evaluates 8 = .ok (.if_icmp .ge 19, 3) := dk_162 0 19 (dk_at dksX4_evaluates_0 8 rfl rfl)
theorem dX4_evaluates_11 : decode cX4_evaluates 11 = .ok (.aload_n 0, 1) := dk_42 (dk_at dksX4_evaluates_0 11 rfl rfl)
theorem dX4_evaluates_12 : decode cX4_evaluates 12 = .ok (.iload_n 3, 1) := dk_29 (dk_at dksX4_evaluates_0 12 rfl rfl)
theorem dX4_evaluates_13 : decode cX4_evaluates 13 = .ok (.invokevirtual 241, 3) := dk_182 0 241 (dk_at dksX4_evaluates_0 13 rfl rfl)
theorem dX4_evaluates_16 : decode cX4_evaluates 16 = .ok (.ifCond .ne 5, 3) := dk_154 0 5 (dk_at dksX4_evaluates_0 16 rfl rfl)
theorem dX4_evaluates_19 : decode cX4_evaluates 19 = .ok (.iconst 0, 1) := dk_3 (dk_at dksX4_evaluates_0 19 rfl rfl)
theorem dX4_evaluates_20 : decode cX4_evaluates 20 = .ok (.ireturn, 1) := dk_172 (dk_at dksX4_evaluates_0 20 rfl rfl)
theorem dX4_evaluates_21 : decode cX4_evaluates 21 = .ok (.iinc 3 1, 3) := dk_132 3 1 (dk_at dksX4_evaluates_0 21 rfl rfl)
theorem dX4_evaluates_24 : decode cX4_evaluates 24 = .ok (.goto (-18), 3) := dk_167 255 238 (dk_at dksX4_evaluates_1 0 rfl rfl)
theorem dX4_evaluates_27 : decode cX4_evaluates 27 = .ok (.iconst 1, 1) := dk_4 (dk_at dksX4_evaluates_1 3 rfl rfl)
theorem dX4_evaluates_28 : decode cX4_evaluates 28 = .ok (.ireturn, 1) := dk_172 (dk_at dksX4_evaluates_1 4 rfl rfl)
abbrev cX4_takesStep : ByteArray := prog_23_method_55_code
def yX4_takesStep : MethodName := ⟨RX4, "takesStep", "(I)Z"⟩
def dkwX4_takesStep_5 : List UInt8 := [180, 0, 38, 27, 46, 182, 0, 235, 4, 172]
abbrev dktX4_takesStep_5 : List UInt8 := dkwX4_takesStep_5 ++ []
def dkwX4_takesStep_4 : List UInt8 := [167, 0, 4, 3, 172, 42, 4, 182, 0, 229, 172, 42, 2, 182, 0, 229, 172, 42, 182, 0, 232, 172, 42, 42]
abbrev dktX4_takesStep_4 : List UInt8 := dkwX4_takesStep_4 ++ dktX4_takesStep_5
def dkwX4_takesStep_3 : List UInt8 := [180, 0, 41, 27, 46, 16, 99, 163, 0, 20, 42, 42, 180, 0, 41, 27, 46, 182, 0, 226, 153, 0, 7, 4]
abbrev dktX4_takesStep_3 : List UInt8 := dkwX4_takesStep_3 ++ dktX4_takesStep_4
def dkwX4_takesStep_2 : List UInt8 := [42, 42, 180, 0, 41, 27, 46, 182, 0, 220, 172, 42, 182, 0, 223, 172, 42, 2, 182, 0, 226, 172, 42]
abbrev dktX4_takesStep_2 : List UInt8 := dkwX4_takesStep_2 ++ dktX4_takesStep_3
def dkwX4_takesStep_1 : List UInt8 := [170, 0, 0, 0, 0, 111, 0, 0, 0, 4, 0, 0, 0, 10, 0, 0, 0, 42, 0, 0, 0, 53, 0, 0, 0, 58, 0, 0, 0, 64, 0, 0, 0, 94, 0, 0, 0, 100, 0, 0, 0, 106]
abbrev dktX4_takesStep_1 : List UInt8 := dkwX4_takesStep_1 ++ dktX4_takesStep_2
def dkwX4_takesStep_0 : List UInt8 := [42, 180, 0, 38, 27, 46]
abbrev dktX4_takesStep_0 : List UInt8 := dkwX4_takesStep_0 ++ dktX4_takesStep_1
theorem dksX4_takesStep_0 : cX4_takesStep.data.toList.drop 0 = dktX4_takesStep_0 := by decide +kernel
theorem dksX4_takesStep_1 : cX4_takesStep.data.toList.drop 6 = dktX4_takesStep_1 := dk_seg dksX4_takesStep_0 6 rfl rfl
theorem dksX4_takesStep_2 : cX4_takesStep.data.toList.drop 48 = dktX4_takesStep_2 := dk_seg dksX4_takesStep_1 42 rfl rfl
theorem dksX4_takesStep_3 : cX4_takesStep.data.toList.drop 71 = dktX4_takesStep_3 := dk_seg dksX4_takesStep_2 23 rfl rfl
theorem dksX4_takesStep_4 : cX4_takesStep.data.toList.drop 95 = dktX4_takesStep_4 := dk_seg dksX4_takesStep_3 24 rfl rfl
theorem dksX4_takesStep_5 : cX4_takesStep.data.toList.drop 119 = dktX4_takesStep_5 := dk_seg dksX4_takesStep_4 24 rfl rfl
theorem dX4_takesStep_0 : decode cX4_takesStep 0 = .ok (.aload_n 0, 1) := dk_42 (dk_at dksX4_takesStep_0 0 rfl rfl)
theorem dX4_takesStep_1 : decode cX4_takesStep 1 = .ok (.getfield 38, 3) := dk_180 0 38 (dk_at dksX4_takesStep_0 1 rfl rfl)
theorem dX4_takesStep_4 : decode cX4_takesStep 4 = .ok (.iload_n 1, 1) := dk_27 (dk_at dksX4_takesStep_0 4 rfl rfl)
theorem dX4_takesStep_5 : decode cX4_takesStep 5 = .ok (.iaload, 1) := dk_46 (dk_at dksX4_takesStep_0 5 rfl rfl)
theorem dX4_takesStep_6 : decode cX4_takesStep 6 = .ok (.tableswitch 111 4 10 #[42, 53, 58, 64, 94, 100, 106], 42) := by decide +kernel
theorem dX4_takesStep_48 : decode cX4_takesStep 48 = .ok (.aload_n 0, 1) := dk_42 (dk_at dksX4_takesStep_2 0 rfl rfl)
theorem dX4_takesStep_49 : decode cX4_takesStep 49 = .ok (.aload_n 0, 1) := dk_42 (dk_at dksX4_takesStep_2 1 rfl rfl)
theorem dX4_takesStep_50 : decode cX4_takesStep 50 = .ok (.getfield 41, 3) := dk_180 0 41 (dk_at dksX4_takesStep_2 2 rfl rfl)
theorem dX4_takesStep_53 : decode cX4_takesStep 53 = .ok (.iload_n 1, 1) := dk_27 (dk_at dksX4_takesStep_2 5 rfl rfl)
theorem dX4_takesStep_54 : decode cX4_takesStep 54 = .ok (.iaload, 1) := dk_46 (dk_at dksX4_takesStep_2 6 rfl rfl)
theorem dX4_takesStep_55 : decode cX4_takesStep 55 = .ok (.invokevirtual 220, 3) := dk_182 0 220 (dk_at dksX4_takesStep_2 7 rfl rfl)
theorem dX4_takesStep_58 : decode cX4_takesStep 58 = .ok (.ireturn, 1) := dk_172 (dk_at dksX4_takesStep_2 10 rfl rfl)
theorem dX4_takesStep_59 : decode cX4_takesStep 59 = .ok (.aload_n 0, 1) := dk_42 (dk_at dksX4_takesStep_2 11 rfl rfl)
theorem dX4_takesStep_60 : decode cX4_takesStep 60 = .ok (.invokevirtual 223, 3) := dk_182 0 223 (dk_at dksX4_takesStep_2 12 rfl rfl)
theorem dX4_takesStep_63 : decode cX4_takesStep 63 = .ok (.ireturn, 1) := dk_172 (dk_at dksX4_takesStep_2 15 rfl rfl)
theorem dX4_takesStep_64 : decode cX4_takesStep 64 = .ok (.aload_n 0, 1) := dk_42 (dk_at dksX4_takesStep_2 16 rfl rfl)
theorem dX4_takesStep_65 : decode cX4_takesStep 65 = .ok (.iconst (-1), 1) := dk_2 (dk_at dksX4_takesStep_2 17 rfl rfl)
theorem dX4_takesStep_66 : decode cX4_takesStep 66 = .ok (.invokevirtual 226, 3) := dk_182 0 226 (dk_at dksX4_takesStep_2 18 rfl rfl)
theorem dX4_takesStep_69 : decode cX4_takesStep 69 = .ok (.ireturn, 1) := dk_172 (dk_at dksX4_takesStep_2 21 rfl rfl)
theorem dX4_takesStep_70 : decode cX4_takesStep 70 = .ok (.aload_n 0, 1) := dk_42 (dk_at dksX4_takesStep_2 22 rfl rfl)
theorem dX4_takesStep_71 : decode cX4_takesStep 71 = .ok (.getfield 41, 3) := dk_180 0 41 (dk_at dksX4_takesStep_3 0 rfl rfl)
theorem dX4_takesStep_74 : decode cX4_takesStep 74 = .ok (.iload_n 1, 1) := dk_27 (dk_at dksX4_takesStep_3 3 rfl rfl)
theorem dX4_takesStep_75 : decode cX4_takesStep 75 = .ok (.iaload, 1) := dk_46 (dk_at dksX4_takesStep_3 4 rfl rfl)
theorem dX4_takesStep_76 : decode cX4_takesStep 76 = .ok (.bipush 99, 2) := dk_16 99 (dk_at dksX4_takesStep_3 5 rfl rfl)
theorem dX4_takesStep_78 : decode cX4_takesStep 78 = .ok (.if_icmp .gt 20, 3) := dk_163 0 20 (dk_at dksX4_takesStep_3 7 rfl rfl)
theorem dX4_takesStep_81 : decode cX4_takesStep 81 = .ok (.aload_n 0, 1) := dk_42 (dk_at dksX4_takesStep_3 10 rfl rfl)
theorem dX4_takesStep_82 : decode cX4_takesStep 82 = .ok (.aload_n 0, 1) := dk_42 (dk_at dksX4_takesStep_3 11 rfl rfl)
theorem dX4_takesStep_83 : decode cX4_takesStep 83 = .ok (.getfield 41, 3) := dk_180 0 41 (dk_at dksX4_takesStep_3 12 rfl rfl)
theorem dX4_takesStep_86 : decode cX4_takesStep 86 = .ok (.iload_n 1, 1) := dk_27 (dk_at dksX4_takesStep_3 15 rfl rfl)
theorem dX4_takesStep_87 : decode cX4_takesStep 87 = .ok (.iaload, 1) := dk_46 (dk_at dksX4_takesStep_3 16 rfl rfl)
theorem dX4_takesStep_88 : decode cX4_takesStep 88 = .ok (.invokevirtual 226, 3) := dk_182 0 226 (dk_at dksX4_takesStep_3 17 rfl rfl)
theorem dX4_takesStep_91 : decode cX4_takesStep 91 = .ok (.ifCond .eq 7, 3) := dk_153 0 7 (dk_at dksX4_takesStep_3 20 rfl rfl)
theorem dX4_takesStep_94 : decode cX4_takesStep 94 = .ok (.iconst 1, 1) := dk_4 (dk_at dksX4_takesStep_3 23 rfl rfl)
theorem dX4_takesStep_95 : decode cX4_takesStep 95 = .ok (.goto 4, 3) := dk_167 0 4 (dk_at dksX4_takesStep_4 0 rfl rfl)
theorem dX4_takesStep_98 : decode cX4_takesStep 98 = .ok (.iconst 0, 1) := dk_3 (dk_at dksX4_takesStep_4 3 rfl rfl)
theorem dX4_takesStep_99 : decode cX4_takesStep 99 = .ok (.ireturn, 1) := dk_172 (dk_at dksX4_takesStep_4 4 rfl rfl)
theorem dX4_takesStep_100 : decode cX4_takesStep 100 = .ok (.aload_n 0, 1) := dk_42 (dk_at dksX4_takesStep_4 5 rfl rfl)
theorem dX4_takesStep_101 : decode cX4_takesStep 101 = .ok (.iconst 1, 1) := dk_4 (dk_at dksX4_takesStep_4 6 rfl rfl)
theorem dX4_takesStep_102 : decode cX4_takesStep 102 = .ok (.invokevirtual 229, 3) := dk_182 0 229 (dk_at dksX4_takesStep_4 7 rfl rfl)
theorem dX4_takesStep_105 : decode cX4_takesStep 105 = .ok (.ireturn, 1) := dk_172 (dk_at dksX4_takesStep_4 10 rfl rfl)
theorem dX4_takesStep_106 : decode cX4_takesStep 106 = .ok (.aload_n 0, 1) := dk_42 (dk_at dksX4_takesStep_4 11 rfl rfl)
theorem dX4_takesStep_107 : decode cX4_takesStep 107 = .ok (.iconst (-1), 1) := dk_2 (dk_at dksX4_takesStep_4 12 rfl rfl)
theorem dX4_takesStep_108 : decode cX4_takesStep 108 = .ok (.invokevirtual 229, 3) := dk_182 0 229 (dk_at dksX4_takesStep_4 13 rfl rfl)
theorem dX4_takesStep_111 : decode cX4_takesStep 111 = .ok (.ireturn, 1) := dk_172 (dk_at dksX4_takesStep_4 16 rfl rfl)
theorem dX4_takesStep_112 : decode cX4_takesStep 112 = .ok (.aload_n 0, 1) := dk_42 (dk_at dksX4_takesStep_4 17 rfl rfl)
theorem dX4_takesStep_113 : decode cX4_takesStep 113 = .ok (.invokevirtual 232, 3) := dk_182 0 232 (dk_at dksX4_takesStep_4 18 rfl rfl)
theorem dX4_takesStep_116 : decode cX4_takesStep 116 = .ok (.ireturn, 1) := dk_172 (dk_at dksX4_takesStep_4 21 rfl rfl)
theorem dX4_takesStep_117 : decode cX4_takesStep 117 = .ok (.aload_n 0, 1) := dk_42 (dk_at dksX4_takesStep_4 22 rfl rfl)
theorem dX4_takesStep_118 : decode cX4_takesStep 118 = .ok (.aload_n 0, 1) := dk_42 (dk_at dksX4_takesStep_4 23 rfl rfl)
theorem dX4_takesStep_119 : decode cX4_takesStep 119 = .ok (.getfield 38, 3) := dk_180 0 38 (dk_at dksX4_takesStep_5 0 rfl rfl)
theorem dX4_takesStep_122 : decode cX4_takesStep 122 = .ok (.iload_n 1, 1) := dk_27 (dk_at dksX4_takesStep_5 3 rfl rfl)
theorem dX4_takesStep_123 : decode cX4_takesStep 123 = .ok (.iaload, 1) := dk_46 (dk_at dksX4_takesStep_5 4 rfl rfl)
theorem dX4_takesStep_124 : decode cX4_takesStep 124 = .ok (.invokevirtual 235, 3) := dk_182 0 235 (dk_at dksX4_takesStep_5 5 rfl rfl)
theorem dX4_takesStep_127 : decode cX4_takesStep 127 = .ok (.iconst 1, 1) := dk_4 (dk_at dksX4_takesStep_5 8 rfl rfl)
theorem dX4_takesStep_128 : decode cX4_takesStep 128 = .ok (.ireturn, 1) := dk_172 (dk_at dksX4_takesStep_5 9 rfl rfl)
abbrev cX4_pushesUnit : ByteArray := prog_23_method_46_code
def yX4_pushesUnit : MethodName := ⟨RX4, "pushesUnit", "(I)Z"⟩
def dkwX4_pushesUnit_3 : List UInt8 := [181, 0, 185, 4, 172]
abbrev dktX4_pushesUnit_3 : List UInt8 := dkwX4_pushesUnit_3 ++ []
def dkwX4_pushesUnit_2 : List UInt8 := [184, 0, 188, 28, 28, 4, 184, 0, 193, 132, 2, 1, 167, 255, 231, 42, 89, 180, 0, 185, 4, 96]
abbrev dktX4_pushesUnit_2 : List UInt8 := dkwX4_pushesUnit_2 ++ dktX4_pushesUnit_3
def dkwX4_pushesUnit_1 : List UInt8 := [184, 0, 188, 27, 27, 184, 0, 156, 3, 61, 28, 27, 162, 0, 26, 42, 180, 0, 32, 42, 180, 0, 185]
abbrev dktX4_pushesUnit_1 : List UInt8 := dkwX4_pushesUnit_1 ++ dktX4_pushesUnit_2
def dkwX4_pushesUnit_0 : List UInt8 := [27, 133, 10, 20, 0, 191, 184, 0, 95, 154, 0, 5, 3, 172, 42, 180, 0, 32, 42, 180, 0, 185]
abbrev dktX4_pushesUnit_0 : List UInt8 := dkwX4_pushesUnit_0 ++ dktX4_pushesUnit_1
theorem dksX4_pushesUnit_0 : cX4_pushesUnit.data.toList.drop 0 = dktX4_pushesUnit_0 := by decide +kernel
theorem dksX4_pushesUnit_1 : cX4_pushesUnit.data.toList.drop 22 = dktX4_pushesUnit_1 := dk_seg dksX4_pushesUnit_0 22 rfl rfl
theorem dksX4_pushesUnit_2 : cX4_pushesUnit.data.toList.drop 45 = dktX4_pushesUnit_2 := dk_seg dksX4_pushesUnit_1 23 rfl rfl
theorem dksX4_pushesUnit_3 : cX4_pushesUnit.data.toList.drop 67 = dktX4_pushesUnit_3 := dk_seg dksX4_pushesUnit_2 22 rfl rfl
theorem dX4_pushesUnit_0 : decode cX4_pushesUnit 0 = .ok (.iload_n 1, 1) := dk_27 (dk_at dksX4_pushesUnit_0 0 rfl rfl)
theorem dX4_pushesUnit_1 : decode cX4_pushesUnit 1 = .ok (.i2l, 1) := dk_133 (dk_at dksX4_pushesUnit_0 1 rfl rfl)
theorem dX4_pushesUnit_2 : decode cX4_pushesUnit 2 = .ok (.lconst 1, 1) := dk_10 (dk_at dksX4_pushesUnit_0 2 rfl rfl)
theorem dX4_pushesUnit_3 : decode cX4_pushesUnit 3 = .ok (.ldc2_w 191, 3) := dk_20 0 191 (dk_at dksX4_pushesUnit_0 3 rfl rfl)
theorem dX4_pushesUnit_6 : decode cX4_pushesUnit 6 = .ok (.invokestatic 95, 3) := dk_184 0 95 (dk_at dksX4_pushesUnit_0 6 rfl rfl)
theorem dX4_pushesUnit_9 : decode cX4_pushesUnit 9 = .ok (.ifCond .ne 5, 3) := dk_154 0 5 (dk_at dksX4_pushesUnit_0 9 rfl rfl)
theorem dX4_pushesUnit_12 : decode cX4_pushesUnit 12 = .ok (.iconst 0, 1) := dk_3 (dk_at dksX4_pushesUnit_0 12 rfl rfl)
theorem dX4_pushesUnit_13 : decode cX4_pushesUnit 13 = .ok (.ireturn, 1) := dk_172 (dk_at dksX4_pushesUnit_0 13 rfl rfl)
theorem dX4_pushesUnit_14 : decode cX4_pushesUnit 14 = .ok (.aload_n 0, 1) := dk_42 (dk_at dksX4_pushesUnit_0 14 rfl rfl)
theorem dX4_pushesUnit_15 : decode cX4_pushesUnit 15 = .ok (.getfield 32, 3) := dk_180 0 32 (dk_at dksX4_pushesUnit_0 15 rfl rfl)
theorem dX4_pushesUnit_18 : decode cX4_pushesUnit 18 = .ok (.aload_n 0, 1) := dk_42 (dk_at dksX4_pushesUnit_0 18 rfl rfl)
theorem dX4_pushesUnit_19 : decode cX4_pushesUnit 19 = .ok (.getfield 185, 3) := dk_180 0 185 (dk_at dksX4_pushesUnit_0 19 rfl rfl)
theorem dX4_pushesUnit_22 : decode cX4_pushesUnit 22 = .ok (.invokestatic 188, 3) := dk_184 0 188 (dk_at dksX4_pushesUnit_1 0 rfl rfl)
theorem dX4_pushesUnit_25 : decode cX4_pushesUnit 25 = .ok (.iload_n 1, 1) := dk_27 (dk_at dksX4_pushesUnit_1 3 rfl rfl)
theorem dX4_pushesUnit_26 : decode cX4_pushesUnit 26 = .ok (.iload_n 1, 1) := dk_27 (dk_at dksX4_pushesUnit_1 4 rfl rfl)
theorem dX4_pushesUnit_27 : decode cX4_pushesUnit 27 = .ok (.invokestatic 156, 3) := dk_184 0 156 (dk_at dksX4_pushesUnit_1 5 rfl rfl)
theorem dX4_pushesUnit_30 : decode cX4_pushesUnit 30 = .ok (.iconst 0, 1) := dk_3 (dk_at dksX4_pushesUnit_1 8 rfl rfl)
theorem dX4_pushesUnit_31 : decode cX4_pushesUnit 31 = .ok (.istore_n 2, 1) := dk_61 (dk_at dksX4_pushesUnit_1 9 rfl rfl)
theorem dX4_pushesUnit_32 : decode cX4_pushesUnit 32 = .ok (.iload_n 2, 1) := dk_28 (dk_at dksX4_pushesUnit_1 10 rfl rfl)
theorem dX4_pushesUnit_33 : decode cX4_pushesUnit 33 = .ok (.iload_n 1, 1) := dk_27 (dk_at dksX4_pushesUnit_1 11 rfl rfl)
theorem dX4_pushesUnit_34 : decode cX4_pushesUnit 34 = .ok (.if_icmp .ge 26, 3) := dk_162 0 26 (dk_at dksX4_pushesUnit_1 12 rfl rfl)
theorem dX4_pushesUnit_37 : decode cX4_pushesUnit 37 = .ok (.aload_n 0, 1) := dk_42 (dk_at dksX4_pushesUnit_1 15 rfl rfl)
theorem dX4_pushesUnit_38 : decode cX4_pushesUnit 38 = .ok (.getfield 32, 3) := dk_180 0 32 (dk_at dksX4_pushesUnit_1 16 rfl rfl)
theorem dX4_pushesUnit_41 : decode cX4_pushesUnit 41 = .ok (.aload_n 0, 1) := dk_42 (dk_at dksX4_pushesUnit_1 19 rfl rfl)
theorem dX4_pushesUnit_42 : decode cX4_pushesUnit 42 = .ok (.getfield 185, 3) := dk_180 0 185 (dk_at dksX4_pushesUnit_1 20 rfl rfl)
theorem dX4_pushesUnit_45 : decode cX4_pushesUnit 45 = .ok (.invokestatic 188, 3) := dk_184 0 188 (dk_at dksX4_pushesUnit_2 0 rfl rfl)
theorem dX4_pushesUnit_48 : decode cX4_pushesUnit 48 = .ok (.iload_n 2, 1) := dk_28 (dk_at dksX4_pushesUnit_2 3 rfl rfl)
theorem dX4_pushesUnit_49 : decode cX4_pushesUnit 49 = .ok (.iload_n 2, 1) := dk_28 (dk_at dksX4_pushesUnit_2 4 rfl rfl)
theorem dX4_pushesUnit_50 : decode cX4_pushesUnit 50 = .ok (.iconst 1, 1) := dk_4 (dk_at dksX4_pushesUnit_2 5 rfl rfl)
theorem dX4_pushesUnit_51 : decode cX4_pushesUnit 51 = .ok (.invokestatic 193, 3) := dk_184 0 193 (dk_at dksX4_pushesUnit_2 6 rfl rfl)
theorem dX4_pushesUnit_54 : decode cX4_pushesUnit 54 = .ok (.iinc 2 1, 3) := dk_132 2 1 (dk_at dksX4_pushesUnit_2 9 rfl rfl)
theorem dX4_pushesUnit_57 : decode cX4_pushesUnit 57 = .ok (.goto (-25), 3) := dk_167 255 231 (dk_at dksX4_pushesUnit_2 12 rfl rfl)
theorem dX4_pushesUnit_60 : decode cX4_pushesUnit 60 = .ok (.aload_n 0, 1) := dk_42 (dk_at dksX4_pushesUnit_2 15 rfl rfl)
theorem dX4_pushesUnit_61 : decode cX4_pushesUnit 61 = .ok (.dup, 1) := dk_89 (dk_at dksX4_pushesUnit_2 16 rfl rfl)
theorem dX4_pushesUnit_62 : decode cX4_pushesUnit 62 = .ok (.getfield 185, 3) := dk_180 0 185 (dk_at dksX4_pushesUnit_2 17 rfl rfl)
theorem dX4_pushesUnit_65 : decode cX4_pushesUnit 65 = .ok (.iconst 1, 1) := dk_4 (dk_at dksX4_pushesUnit_2 20 rfl rfl)
theorem dX4_pushesUnit_66 : decode cX4_pushesUnit 66 = .ok (.iadd, 1) := dk_96 (dk_at dksX4_pushesUnit_2 21 rfl rfl)
theorem dX4_pushesUnit_67 : decode cX4_pushesUnit 67 = .ok (.putfield 185, 3) := dk_181 0 185 (dk_at dksX4_pushesUnit_3 0 rfl rfl)
theorem dX4_pushesUnit_70 : decode cX4_pushesUnit 70 = .ok (.iconst 1, 1) := dk_4 (dk_at dksX4_pushesUnit_3 3 rfl rfl)
theorem dX4_pushesUnit_71 : decode cX4_pushesUnit 71 = .ok (.ireturn, 1) := dk_172 (dk_at dksX4_pushesUnit_3 4 rfl rfl)
abbrev cX4_dropLine : ByteArray := prog_23_method_108_code
def yX4_dropLine : MethodName := ⟨RX4, "dropLine", "()V"⟩
def dkwX4_dropLine_1 : List UInt8 := [181, 1, 163, 177]
abbrev dktX4_dropLine_1 : List UInt8 := dkwX4_dropLine_1 ++ []
def dkwX4_dropLine_0 : List UInt8 := [42, 182, 0, 142, 42, 182, 1, 157, 60, 42, 182, 0, 132, 153, 0, 12, 42, 42, 27, 182, 1, 122]
abbrev dktX4_dropLine_0 : List UInt8 := dkwX4_dropLine_0 ++ dktX4_dropLine_1
theorem dksX4_dropLine_0 : cX4_dropLine.data.toList.drop 0 = dktX4_dropLine_0 := by decide +kernel
theorem dksX4_dropLine_1 : cX4_dropLine.data.toList.drop 22 = dktX4_dropLine_1 := dk_seg dksX4_dropLine_0 22 rfl rfl
theorem dX4_dropLine_0 : decode cX4_dropLine 0 = .ok (.aload_n 0, 1) := dk_42 (dk_at dksX4_dropLine_0 0 rfl rfl)
theorem dX4_dropLine_1 : decode cX4_dropLine 1 = .ok (.invokevirtual 142, 3) := dk_182 0 142 (dk_at dksX4_dropLine_0 1 rfl rfl)
theorem dX4_dropLine_4 : decode cX4_dropLine 4 = .ok (.aload_n 0, 1) := dk_42 (dk_at dksX4_dropLine_0 4 rfl rfl)
theorem dX4_dropLine_5 : decode cX4_dropLine 5 = .ok (.invokevirtual 413, 3) := dk_182 1 157 (dk_at dksX4_dropLine_0 5 rfl rfl)
theorem dX4_dropLine_8 : decode cX4_dropLine 8 = .ok (.istore_n 1, 1) := dk_60 (dk_at dksX4_dropLine_0 8 rfl rfl)
theorem dX4_dropLine_9 : decode cX4_dropLine 9 = .ok (.aload_n 0, 1) := dk_42 (dk_at dksX4_dropLine_0 9 rfl rfl)
theorem dX4_dropLine_10 : decode cX4_dropLine 10 = .ok (.invokevirtual 132, 3) := dk_182 0 132 (dk_at dksX4_dropLine_0 10 rfl rfl)
theorem dX4_dropLine_13 : decode cX4_dropLine 13 = .ok (.ifCond .eq 12, 3) := dk_153 0 12 (dk_at dksX4_dropLine_0 13 rfl rfl)
theorem dX4_dropLine_16 : decode cX4_dropLine 16 = .ok (.aload_n 0, 1) := dk_42 (dk_at dksX4_dropLine_0 16 rfl rfl)
theorem dX4_dropLine_17 : decode cX4_dropLine 17 = .ok (.aload_n 0, 1) := dk_42 (dk_at dksX4_dropLine_0 17 rfl rfl)
theorem dX4_dropLine_18 : decode cX4_dropLine 18 = .ok (.iload_n 1, 1) := dk_27 (dk_at dksX4_dropLine_0 18 rfl rfl)
theorem dX4_dropLine_19 : decode cX4_dropLine 19 = .ok (.invokevirtual 378, 3) := dk_182 1 122 (dk_at dksX4_dropLine_0 19 rfl rfl)
theorem dX4_dropLine_22 : decode cX4_dropLine 22 = .ok (.putfield 419, 3) := dk_181 1 163 (dk_at dksX4_dropLine_1 0 rfl rfl)
theorem dX4_dropLine_25 : decode cX4_dropLine 25 = .ok (.return_, 1) := dk_177 (dk_at dksX4_dropLine_1 3 rfl rfl)
abbrev cX4_endsText : ByteArray := prog_23_method_25_code
def yX4_endsText : MethodName := ⟨RX4, "endsText", "()Z"⟩
def dkwX4_endsText_1 : List UInt8 := [4, 167, 0, 4, 3, 182, 0, 87, 172]
abbrev dktX4_endsText_1 : List UInt8 := dkwX4_endsText_1 ++ []
def dkwX4_endsText_0 : List UInt8 := [42, 42, 180, 0, 129, 181, 0, 153, 42, 42, 180, 0, 13, 181, 0, 17, 42, 42, 180, 0, 129, 154, 0, 7]
abbrev dktX4_endsText_0 : List UInt8 := dkwX4_endsText_0 ++ dktX4_endsText_1
theorem dksX4_endsText_0 : cX4_endsText.data.toList.drop 0 = dktX4_endsText_0 := by decide +kernel
theorem dksX4_endsText_1 : cX4_endsText.data.toList.drop 24 = dktX4_endsText_1 := dk_seg dksX4_endsText_0 24 rfl rfl
theorem dX4_endsText_0 : decode cX4_endsText 0 = .ok (.aload_n 0, 1) := dk_42 (dk_at dksX4_endsText_0 0 rfl rfl)
theorem dX4_endsText_1 : decode cX4_endsText 1 = .ok (.aload_n 0, 1) := dk_42 (dk_at dksX4_endsText_0 1 rfl rfl)
theorem dX4_endsText_2 : decode cX4_endsText 2 = .ok (.getfield 129, 3) := dk_180 0 129 (dk_at dksX4_endsText_0 2 rfl rfl)
theorem dX4_endsText_5 : decode cX4_endsText 5 = .ok (.putfield 153, 3) := dk_181 0 153 (dk_at dksX4_endsText_0 5 rfl rfl)
theorem dX4_endsText_8 : decode cX4_endsText 8 = .ok (.aload_n 0, 1) := dk_42 (dk_at dksX4_endsText_0 8 rfl rfl)
theorem dX4_endsText_9 : decode cX4_endsText 9 = .ok (.aload_n 0, 1) := dk_42 (dk_at dksX4_endsText_0 9 rfl rfl)
theorem dX4_endsText_10 : decode cX4_endsText 10 = .ok (.getfield 13, 3) := dk_180 0 13 (dk_at dksX4_endsText_0 10 rfl rfl)
theorem dX4_endsText_13 : decode cX4_endsText 13 = .ok (.putfield 17, 3) := dk_181 0 17 (dk_at dksX4_endsText_0 13 rfl rfl)
theorem dX4_endsText_16 : decode cX4_endsText 16 = .ok (.aload_n 0, 1) := dk_42 (dk_at dksX4_endsText_0 16 rfl rfl)
theorem dX4_endsText_17 : decode cX4_endsText 17 = .ok (.aload_n 0, 1) := dk_42 (dk_at dksX4_endsText_0 17 rfl rfl)
theorem dX4_endsText_18 : decode cX4_endsText 18 = .ok (.getfield 129, 3) := dk_180 0 129 (dk_at dksX4_endsText_0 18 rfl rfl)
theorem dX4_endsText_21 : decode cX4_endsText 21 = .ok (.ifCond .ne 7, 3) := dk_154 0 7 (dk_at dksX4_endsText_0 21 rfl rfl)
theorem dX4_endsText_24 : decode cX4_endsText 24 = .ok (.iconst 1, 1) := dk_4 (dk_at dksX4_endsText_1 0 rfl rfl)
theorem dX4_endsText_25 : decode cX4_endsText 25 = .ok (.goto 4, 3) := dk_167 0 4 (dk_at dksX4_endsText_1 1 rfl rfl)
theorem dX4_endsText_28 : decode cX4_endsText 28 = .ok (.iconst 0, 1) := dk_3 (dk_at dksX4_endsText_1 4 rfl rfl)
theorem dX4_endsText_29 : decode cX4_endsText 29 = .ok (.invokevirtual 87, 3) := dk_182 0 87 (dk_at dksX4_endsText_1 5 rfl rfl)
theorem dX4_endsText_32 : decode cX4_endsText 32 = .ok (.ireturn, 1) := dk_172 (dk_at dksX4_endsText_1 8 rfl rfl)
abbrev cX4_goesBack : ByteArray := prog_23_method_31_code
def yX4_goesBack : MethodName := ⟨RX4, "goesBack", "()V"⟩
def dkwX4_goesBack_0 : List UInt8 := [42, 180, 0, 26, 3, 42, 180, 0, 20, 3, 17, 4, 137, 184, 0, 160, 177]
abbrev dktX4_goesBack_0 : List UInt8 := dkwX4_goesBack_0 ++ []
theorem dksX4_goesBack_0 : cX4_goesBack.data.toList.drop 0 = dktX4_goesBack_0 := by decide +kernel
theorem dX4_goesBack_0 : decode cX4_goesBack 0 = .ok (.aload_n 0, 1) := dk_42 (dk_at dksX4_goesBack_0 0 rfl rfl)
theorem dX4_goesBack_1 : decode cX4_goesBack 1 = .ok (.getfield 26, 3) := dk_180 0 26 (dk_at dksX4_goesBack_0 1 rfl rfl)
theorem dX4_goesBack_4 : decode cX4_goesBack 4 = .ok (.iconst 0, 1) := dk_3 (dk_at dksX4_goesBack_0 4 rfl rfl)
theorem dX4_goesBack_5 : decode cX4_goesBack 5 = .ok (.aload_n 0, 1) := dk_42 (dk_at dksX4_goesBack_0 5 rfl rfl)
theorem dX4_goesBack_6 : decode cX4_goesBack 6 = .ok (.getfield 20, 3) := dk_180 0 20 (dk_at dksX4_goesBack_0 6 rfl rfl)
theorem dX4_goesBack_9 : decode cX4_goesBack 9 = .ok (.iconst 0, 1) := dk_3 (dk_at dksX4_goesBack_0 9 rfl rfl)
theorem dX4_goesBack_10 : decode cX4_goesBack 10 = .ok (.sipush 1161, 3) := dk_17 4 137 (dk_at dksX4_goesBack_0 10 rfl rfl)
theorem dX4_goesBack_13 : decode cX4_goesBack 13 = .ok (.invokestatic 160, 3) := dk_184 0 160 (dk_at dksX4_goesBack_0 13 rfl rfl)
theorem dX4_goesBack_16 : decode cX4_goesBack 16 = .ok (.return_, 1) := dk_177 (dk_at dksX4_goesBack_0 16 rfl rfl)
abbrev cX4_rowCount : ByteArray := prog_23_method_112_code
def yX4_rowCount : MethodName := ⟨RX4, "rowCount", "(I)I"⟩
def dkwX4_rowCount_0 : List UInt8 := [42, 27, 184, 1, 57, 182, 0, 87, 153, 0, 11, 42, 27, 182, 1, 60, 167, 0, 4, 3, 172]
abbrev dktX4_rowCount_0 : List UInt8 := dkwX4_rowCount_0 ++ []
theorem dksX4_rowCount_0 : cX4_rowCount.data.toList.drop 0 = dktX4_rowCount_0 := by decide +kernel
theorem dX4_rowCount_0 : decode cX4_rowCount 0 = .ok (.aload_n 0, 1) := dk_42 (dk_at dksX4_rowCount_0 0 rfl rfl)
theorem dX4_rowCount_1 : decode cX4_rowCount 1 = .ok (.iload_n 1, 1) := dk_27 (dk_at dksX4_rowCount_0 1 rfl rfl)
theorem dX4_rowCount_2 : decode cX4_rowCount 2 = .ok (.invokestatic 313, 3) := dk_184 1 57 (dk_at dksX4_rowCount_0 2 rfl rfl)
theorem dX4_rowCount_5 : decode cX4_rowCount 5 = .ok (.invokevirtual 87, 3) := dk_182 0 87 (dk_at dksX4_rowCount_0 5 rfl rfl)
theorem dX4_rowCount_8 : decode cX4_rowCount 8 = .ok (.ifCond .eq 11, 3) := dk_153 0 11 (dk_at dksX4_rowCount_0 8 rfl rfl)
theorem dX4_rowCount_11 : decode cX4_rowCount 11 = .ok (.aload_n 0, 1) := dk_42 (dk_at dksX4_rowCount_0 11 rfl rfl)
theorem dX4_rowCount_12 : decode cX4_rowCount 12 = .ok (.iload_n 1, 1) := dk_27 (dk_at dksX4_rowCount_0 12 rfl rfl)
theorem dX4_rowCount_13 : decode cX4_rowCount 13 = .ok (.invokevirtual 316, 3) := dk_182 1 60 (dk_at dksX4_rowCount_0 13 rfl rfl)
theorem dX4_rowCount_16 : decode cX4_rowCount 16 = .ok (.goto 4, 3) := dk_167 0 4 (dk_at dksX4_rowCount_0 16 rfl rfl)
theorem dX4_rowCount_19 : decode cX4_rowCount 19 = .ok (.iconst 0, 1) := dk_3 (dk_at dksX4_rowCount_0 19 rfl rfl)
theorem dX4_rowCount_20 : decode cX4_rowCount 20 = .ok (.ireturn, 1) := dk_172 (dk_at dksX4_rowCount_0 20 rfl rfl)
abbrev cX4_columnCount : ByteArray := prog_23_method_113_code
def yX4_columnCount : MethodName := ⟨RX4, "columnCount", "(I)I"⟩
def dkwX4_columnCount_0 : List UInt8 := [42, 27, 184, 1, 57, 182, 0, 87, 153, 0, 11, 42, 27, 182, 1, 66, 167, 0, 4, 3, 172]
abbrev dktX4_columnCount_0 : List UInt8 := dkwX4_columnCount_0 ++ []
theorem dksX4_columnCount_0 : cX4_columnCount.data.toList.drop 0 = dktX4_columnCount_0 := by decide +kernel
theorem dX4_columnCount_0 : decode cX4_columnCount 0 = .ok (.aload_n 0, 1) := dk_42 (dk_at dksX4_columnCount_0 0 rfl rfl)
theorem dX4_columnCount_1 : decode cX4_columnCount 1 = .ok (.iload_n 1, 1) := dk_27 (dk_at dksX4_columnCount_0 1 rfl rfl)
theorem dX4_columnCount_2 : decode cX4_columnCount 2 = .ok (.invokestatic 313, 3) := dk_184 1 57 (dk_at dksX4_columnCount_0 2 rfl rfl)
theorem dX4_columnCount_5 : decode cX4_columnCount 5 = .ok (.invokevirtual 87, 3) := dk_182 0 87 (dk_at dksX4_columnCount_0 5 rfl rfl)
theorem dX4_columnCount_8 : decode cX4_columnCount 8 = .ok (.ifCond .eq 11, 3) := dk_153 0 11 (dk_at dksX4_columnCount_0 8 rfl rfl)
theorem dX4_columnCount_11 : decode cX4_columnCount 11 = .ok (.aload_n 0, 1) := dk_42 (dk_at dksX4_columnCount_0 11 rfl rfl)
theorem dX4_columnCount_12 : decode cX4_columnCount 12 = .ok (.iload_n 1, 1) := dk_27 (dk_at dksX4_columnCount_0 12 rfl rfl)
theorem dX4_columnCount_13 : decode cX4_columnCount 13 = .ok (.invokevirtual 322, 3) := dk_182 1 66 (dk_at dksX4_columnCount_0 13 rfl rfl)
theorem dX4_columnCount_16 : decode cX4_columnCount 16 = .ok (.goto 4, 3) := dk_167 0 4 (dk_at dksX4_columnCount_0 16 rfl rfl)
theorem dX4_columnCount_19 : decode cX4_columnCount 19 = .ok (.iconst 0, 1) := dk_3 (dk_at dksX4_columnCount_0 19 rfl rfl)
theorem dX4_columnCount_20 : decode cX4_columnCount 20 = .ok (.ireturn, 1) := dk_172 (dk_at dksX4_columnCount_0 20 rfl rfl)
abbrev cX4_storedCount : ByteArray := prog_23_method_114_code
def yX4_storedCount : MethodName := ⟨RX4, "storedCount", "(I)I"⟩
def dkwX4_storedCount_0 : List UInt8 := [42, 27, 184, 1, 57, 182, 0, 87, 153, 0, 11, 42, 27, 182, 0, 217, 167, 0, 4, 3, 172]
abbrev dktX4_storedCount_0 : List UInt8 := dkwX4_storedCount_0 ++ []
theorem dksX4_storedCount_0 : cX4_storedCount.data.toList.drop 0 = dktX4_storedCount_0 := by decide +kernel
theorem dX4_storedCount_0 : decode cX4_storedCount 0 = .ok (.aload_n 0, 1) := dk_42 (dk_at dksX4_storedCount_0 0 rfl rfl)
theorem dX4_storedCount_1 : decode cX4_storedCount 1 = .ok (.iload_n 1, 1) := dk_27 (dk_at dksX4_storedCount_0 1 rfl rfl)
theorem dX4_storedCount_2 : decode cX4_storedCount 2 = .ok (.invokestatic 313, 3) := dk_184 1 57 (dk_at dksX4_storedCount_0 2 rfl rfl)
theorem dX4_storedCount_5 : decode cX4_storedCount 5 = .ok (.invokevirtual 87, 3) := dk_182 0 87 (dk_at dksX4_storedCount_0 5 rfl rfl)
theorem dX4_storedCount_8 : decode cX4_storedCount 8 = .ok (.ifCond .eq 11, 3) := dk_153 0 11 (dk_at dksX4_storedCount_0 8 rfl rfl)
theorem dX4_storedCount_11 : decode cX4_storedCount 11 = .ok (.aload_n 0, 1) := dk_42 (dk_at dksX4_storedCount_0 11 rfl rfl)
theorem dX4_storedCount_12 : decode cX4_storedCount 12 = .ok (.iload_n 1, 1) := dk_27 (dk_at dksX4_storedCount_0 12 rfl rfl)
theorem dX4_storedCount_13 : decode cX4_storedCount 13 = .ok (.invokevirtual 217, 3) := dk_182 0 217 (dk_at dksX4_storedCount_0 13 rfl rfl)
theorem dX4_storedCount_16 : decode cX4_storedCount 16 = .ok (.goto 4, 3) := dk_167 0 4 (dk_at dksX4_storedCount_0 16 rfl rfl)
theorem dX4_storedCount_19 : decode cX4_storedCount 19 = .ok (.iconst 0, 1) := dk_3 (dk_at dksX4_storedCount_0 19 rfl rfl)
theorem dX4_storedCount_20 : decode cX4_storedCount 20 = .ok (.ireturn, 1) := dk_172 (dk_at dksX4_storedCount_0 20 rfl rfl)
abbrev cX4_rowPointer : ByteArray := prog_23_method_115_code
def yX4_rowPointer : MethodName := ⟨RX4, "rowPointer", "(II)I"⟩
def dkwX4_rowPointer_1 : List UInt8 := [167, 0, 4, 3, 182, 0, 87, 153, 0, 12, 42, 27, 28, 182, 1, 76, 167, 0, 4, 3, 172]
abbrev dktX4_rowPointer_1 : List UInt8 := dkwX4_rowPointer_1 ++ []
def dkwX4_rowPointer_0 : List UInt8 := [42, 27, 184, 1, 57, 153, 0, 22, 28, 133, 9, 42, 27, 182, 1, 60, 133, 184, 0, 95, 153, 0, 7, 4]
abbrev dktX4_rowPointer_0 : List UInt8 := dkwX4_rowPointer_0 ++ dktX4_rowPointer_1
theorem dksX4_rowPointer_0 : cX4_rowPointer.data.toList.drop 0 = dktX4_rowPointer_0 := by decide +kernel
theorem dksX4_rowPointer_1 : cX4_rowPointer.data.toList.drop 24 = dktX4_rowPointer_1 := dk_seg dksX4_rowPointer_0 24 rfl rfl
theorem dX4_rowPointer_0 : decode cX4_rowPointer 0 = .ok (.aload_n 0, 1) := dk_42 (dk_at dksX4_rowPointer_0 0 rfl rfl)
theorem dX4_rowPointer_1 : decode cX4_rowPointer 1 = .ok (.iload_n 1, 1) := dk_27 (dk_at dksX4_rowPointer_0 1 rfl rfl)
theorem dX4_rowPointer_2 : decode cX4_rowPointer 2 = .ok (.invokestatic 313, 3) := dk_184 1 57 (dk_at dksX4_rowPointer_0 2 rfl rfl)
theorem dX4_rowPointer_5 : decode cX4_rowPointer 5 = .ok (.ifCond .eq 22, 3) := dk_153 0 22 (dk_at dksX4_rowPointer_0 5 rfl rfl)
theorem dX4_rowPointer_8 : decode cX4_rowPointer 8 = .ok (.iload_n 2, 1) := dk_28 (dk_at dksX4_rowPointer_0 8 rfl rfl)
theorem dX4_rowPointer_9 : decode cX4_rowPointer 9 = .ok (.i2l, 1) := dk_133 (dk_at dksX4_rowPointer_0 9 rfl rfl)
theorem dX4_rowPointer_10 : decode cX4_rowPointer 10 = .ok (.lconst 0, 1) := dk_9 (dk_at dksX4_rowPointer_0 10 rfl rfl)
theorem dX4_rowPointer_11 : decode cX4_rowPointer 11 = .ok (.aload_n 0, 1) := dk_42 (dk_at dksX4_rowPointer_0 11 rfl rfl)
theorem dX4_rowPointer_12 : decode cX4_rowPointer 12 = .ok (.iload_n 1, 1) := dk_27 (dk_at dksX4_rowPointer_0 12 rfl rfl)
theorem dX4_rowPointer_13 : decode cX4_rowPointer 13 = .ok (.invokevirtual 316, 3) := dk_182 1 60 (dk_at dksX4_rowPointer_0 13 rfl rfl)
theorem dX4_rowPointer_16 : decode cX4_rowPointer 16 = .ok (.i2l, 1) := dk_133 (dk_at dksX4_rowPointer_0 16 rfl rfl)
theorem dX4_rowPointer_17 : decode cX4_rowPointer 17 = .ok (.invokestatic 95, 3) := dk_184 0 95 (dk_at dksX4_rowPointer_0 17 rfl rfl)
theorem dX4_rowPointer_20 : decode cX4_rowPointer 20 = .ok (.ifCond .eq 7, 3) := dk_153 0 7 (dk_at dksX4_rowPointer_0 20 rfl rfl)
theorem dX4_rowPointer_23 : decode cX4_rowPointer 23 = .ok (.iconst 1, 1) := dk_4 (dk_at dksX4_rowPointer_0 23 rfl rfl)
theorem dX4_rowPointer_24 : decode cX4_rowPointer 24 = .ok (.goto 4, 3) := dk_167 0 4 (dk_at dksX4_rowPointer_1 0 rfl rfl)
theorem dX4_rowPointer_27 : decode cX4_rowPointer 27 = .ok (.iconst 0, 1) := dk_3 (dk_at dksX4_rowPointer_1 3 rfl rfl)
theorem dX4_rowPointer_28 : decode cX4_rowPointer 28 = .ok (.invokevirtual 87, 3) := dk_182 0 87 (dk_at dksX4_rowPointer_1 4 rfl rfl)
theorem dX4_rowPointer_31 : decode cX4_rowPointer 31 = .ok (.ifCond .eq 12, 3) := dk_153 0 12 (dk_at dksX4_rowPointer_1 7 rfl rfl)
theorem dX4_rowPointer_34 : decode cX4_rowPointer 34 = .ok (.aload_n 0, 1) := dk_42 (dk_at dksX4_rowPointer_1 10 rfl rfl)
theorem dX4_rowPointer_35 : decode cX4_rowPointer 35 = .ok (.iload_n 1, 1) := dk_27 (dk_at dksX4_rowPointer_1 11 rfl rfl)
theorem dX4_rowPointer_36 : decode cX4_rowPointer 36 = .ok (.iload_n 2, 1) := dk_28 (dk_at dksX4_rowPointer_1 12 rfl rfl)
theorem dX4_rowPointer_37 : decode cX4_rowPointer 37 = .ok (.invokevirtual 332, 3) := dk_182 1 76 (dk_at dksX4_rowPointer_1 13 rfl rfl)
theorem dX4_rowPointer_40 : decode cX4_rowPointer 40 = .ok (.goto 4, 3) := dk_167 0 4 (dk_at dksX4_rowPointer_1 16 rfl rfl)
theorem dX4_rowPointer_43 : decode cX4_rowPointer 43 = .ok (.iconst 0, 1) := dk_3 (dk_at dksX4_rowPointer_1 19 rfl rfl)
theorem dX4_rowPointer_44 : decode cX4_rowPointer 44 = .ok (.ireturn, 1) := dk_172 (dk_at dksX4_rowPointer_1 20 rfl rfl)
abbrev cX4_columnIndex : ByteArray := prog_23_method_118_code
def yX4_columnIndex : MethodName := ⟨RX4, "columnIndex", "(II)I"⟩
def dkwX4_columnIndex_1 : List UInt8 := [167, 0, 4, 3, 172]
abbrev dktX4_columnIndex_1 : List UInt8 := dkwX4_columnIndex_1 ++ []
def dkwX4_columnIndex_0 : List UInt8 := [42, 42, 27, 28, 182, 1, 215, 182, 0, 87, 153, 0, 15, 42, 27, 28, 182, 1, 218, 16, 12, 112]
abbrev dktX4_columnIndex_0 : List UInt8 := dkwX4_columnIndex_0 ++ dktX4_columnIndex_1
theorem dksX4_columnIndex_0 : cX4_columnIndex.data.toList.drop 0 = dktX4_columnIndex_0 := by decide +kernel
theorem dksX4_columnIndex_1 : cX4_columnIndex.data.toList.drop 22 = dktX4_columnIndex_1 := dk_seg dksX4_columnIndex_0 22 rfl rfl
theorem dX4_columnIndex_0 : decode cX4_columnIndex 0 = .ok (.aload_n 0, 1) := dk_42 (dk_at dksX4_columnIndex_0 0 rfl rfl)
theorem dX4_columnIndex_1 : decode cX4_columnIndex 1 = .ok (.aload_n 0, 1) := dk_42 (dk_at dksX4_columnIndex_0 1 rfl rfl)
theorem dX4_columnIndex_2 : decode cX4_columnIndex 2 = .ok (.iload_n 1, 1) := dk_27 (dk_at dksX4_columnIndex_0 2 rfl rfl)
theorem dX4_columnIndex_3 : decode cX4_columnIndex 3 = .ok (.iload_n 2, 1) := dk_28 (dk_at dksX4_columnIndex_0 3 rfl rfl)
theorem dX4_columnIndex_4 : decode cX4_columnIndex 4 = .ok (.invokevirtual 471, 3) := dk_182 1 215 (dk_at dksX4_columnIndex_0 4 rfl rfl)
theorem dX4_columnIndex_7 : decode cX4_columnIndex 7 = .ok (.invokevirtual 87, 3) := dk_182 0 87 (dk_at dksX4_columnIndex_0 7 rfl rfl)
theorem dX4_columnIndex_10 : decode cX4_columnIndex 10 = .ok (.ifCond .eq 15, 3) := dk_153 0 15 (dk_at dksX4_columnIndex_0 10 rfl rfl)
theorem dX4_columnIndex_13 : decode cX4_columnIndex 13 = .ok (.aload_n 0, 1) := dk_42 (dk_at dksX4_columnIndex_0 13 rfl rfl)
theorem dX4_columnIndex_14 : decode cX4_columnIndex 14 = .ok (.iload_n 1, 1) := dk_27 (dk_at dksX4_columnIndex_0 14 rfl rfl)
theorem dX4_columnIndex_15 : decode cX4_columnIndex 15 = .ok (.iload_n 2, 1) := dk_28 (dk_at dksX4_columnIndex_0 15 rfl rfl)
theorem dX4_columnIndex_16 : decode cX4_columnIndex 16 = .ok (.invokevirtual 474, 3) := dk_182 1 218 (dk_at dksX4_columnIndex_0 16 rfl rfl)
theorem dX4_columnIndex_19 : decode cX4_columnIndex 19 = .ok (.bipush 12, 2) := dk_16 12 (dk_at dksX4_columnIndex_0 19 rfl rfl)
theorem dX4_columnIndex_21 : decode cX4_columnIndex 21 = .ok (.irem, 1) := dk_112 (dk_at dksX4_columnIndex_0 21 rfl rfl)
theorem dX4_columnIndex_22 : decode cX4_columnIndex 22 = .ok (.goto 4, 3) := dk_167 0 4 (dk_at dksX4_columnIndex_1 0 rfl rfl)
theorem dX4_columnIndex_25 : decode cX4_columnIndex 25 = .ok (.iconst 0, 1) := dk_3 (dk_at dksX4_columnIndex_1 3 rfl rfl)
theorem dX4_columnIndex_26 : decode cX4_columnIndex 26 = .ok (.ireturn, 1) := dk_172 (dk_at dksX4_columnIndex_1 4 rfl rfl)
abbrev cX4_isStorage : ByteArray := prog_23_method_116_code
def yX4_isStorage : MethodName := ⟨RX4, "isStorage", "(II)Z"⟩
def dkwX4_isStorage_1 : List UInt8 := [4, 167, 0, 4, 3, 172]
abbrev dktX4_isStorage_1 : List UInt8 := dkwX4_isStorage_1 ++ []
def dkwX4_isStorage_0 : List UInt8 := [27, 184, 1, 57, 153, 0, 24, 28, 133, 9, 42, 27, 182, 0, 217, 4, 100, 133, 184, 0, 95, 153, 0, 7]
abbrev dktX4_isStorage_0 : List UInt8 := dkwX4_isStorage_0 ++ dktX4_isStorage_1
theorem dksX4_isStorage_0 : cX4_isStorage.data.toList.drop 0 = dktX4_isStorage_0 := by decide +kernel
theorem dksX4_isStorage_1 : cX4_isStorage.data.toList.drop 24 = dktX4_isStorage_1 := dk_seg dksX4_isStorage_0 24 rfl rfl
theorem dX4_isStorage_0 : decode cX4_isStorage 0 = .ok (.iload_n 1, 1) := dk_27 (dk_at dksX4_isStorage_0 0 rfl rfl)
theorem dX4_isStorage_1 : decode cX4_isStorage 1 = .ok (.invokestatic 313, 3) := dk_184 1 57 (dk_at dksX4_isStorage_0 1 rfl rfl)
theorem dX4_isStorage_4 : decode cX4_isStorage 4 = .ok (.ifCond .eq 24, 3) := dk_153 0 24 (dk_at dksX4_isStorage_0 4 rfl rfl)
theorem dX4_isStorage_7 : decode cX4_isStorage 7 = .ok (.iload_n 2, 1) := dk_28 (dk_at dksX4_isStorage_0 7 rfl rfl)
theorem dX4_isStorage_8 : decode cX4_isStorage 8 = .ok (.i2l, 1) := dk_133 (dk_at dksX4_isStorage_0 8 rfl rfl)
theorem dX4_isStorage_9 : decode cX4_isStorage 9 = .ok (.lconst 0, 1) := dk_9 (dk_at dksX4_isStorage_0 9 rfl rfl)
theorem dX4_isStorage_10 : decode cX4_isStorage 10 = .ok (.aload_n 0, 1) := dk_42 (dk_at dksX4_isStorage_0 10 rfl rfl)
theorem dX4_isStorage_11 : decode cX4_isStorage 11 = .ok (.iload_n 1, 1) := dk_27 (dk_at dksX4_isStorage_0 11 rfl rfl)
theorem dX4_isStorage_12 : decode cX4_isStorage 12 = .ok (.invokevirtual 217, 3) := dk_182 0 217 (dk_at dksX4_isStorage_0 12 rfl rfl)
theorem dX4_isStorage_15 : decode cX4_isStorage 15 = .ok (.iconst 1, 1) := dk_4 (dk_at dksX4_isStorage_0 15 rfl rfl)
theorem dX4_isStorage_16 : decode cX4_isStorage 16 = .ok (.isub, 1) := dk_100 (dk_at dksX4_isStorage_0 16 rfl rfl)
theorem dX4_isStorage_17 : decode cX4_isStorage 17 = .ok (.i2l, 1) := dk_133 (dk_at dksX4_isStorage_0 17 rfl rfl)
theorem dX4_isStorage_18 : decode cX4_isStorage 18 = .ok (.invokestatic 95, 3) := dk_184 0 95 (dk_at dksX4_isStorage_0 18 rfl rfl)
theorem dX4_isStorage_21 : decode cX4_isStorage 21 = .ok (.ifCond .eq 7, 3) := dk_153 0 7 (dk_at dksX4_isStorage_0 21 rfl rfl)
theorem dX4_isStorage_24 : decode cX4_isStorage 24 = .ok (.iconst 1, 1) := dk_4 (dk_at dksX4_isStorage_1 0 rfl rfl)
theorem dX4_isStorage_25 : decode cX4_isStorage 25 = .ok (.goto 4, 3) := dk_167 0 4 (dk_at dksX4_isStorage_1 1 rfl rfl)
theorem dX4_isStorage_28 : decode cX4_isStorage 28 = .ok (.iconst 0, 1) := dk_3 (dk_at dksX4_isStorage_1 4 rfl rfl)
theorem dX4_isStorage_29 : decode cX4_isStorage 29 = .ok (.ireturn, 1) := dk_172 (dk_at dksX4_isStorage_1 5 rfl rfl)
abbrev cX4_placeOf : ByteArray := prog_23_method_117_code
def yX4_placeOf : MethodName := ⟨RX4, "placeOf", "(II)I"⟩
def dkwX4_placeOf_3 : List UInt8 := [167, 255, 206, 132, 4, 1, 167, 255, 187, 2, 172]
abbrev dktX4_placeOf_3 : List UInt8 := dkwX4_placeOf_3 ++ []
def dkwX4_placeOf_2 : List UInt8 := [154, 0, 6, 167, 0, 18, 29, 154, 0, 11, 21, 4, 21, 5, 184, 0, 178, 172, 132, 3, 255, 132, 5, 1]
abbrev dktX4_placeOf_2 : List UInt8 := dkwX4_placeOf_2 ++ dktX4_placeOf_3
def dkwX4_placeOf_1 : List UInt8 := [182, 1, 66, 162, 0, 46, 42, 180, 0, 20, 17, 1, 34, 27, 104, 21, 4, 21, 5, 184, 0, 197]
abbrev dktX4_placeOf_1 : List UInt8 := dkwX4_placeOf_1 ++ dktX4_placeOf_2
def dkwX4_placeOf_0 : List UInt8 := [28, 62, 3, 54, 4, 21, 4, 42, 27, 182, 1, 60, 162, 0, 65, 3, 54, 5, 21, 5, 42, 27]
abbrev dktX4_placeOf_0 : List UInt8 := dkwX4_placeOf_0 ++ dktX4_placeOf_1
theorem dksX4_placeOf_0 : cX4_placeOf.data.toList.drop 0 = dktX4_placeOf_0 := by decide +kernel
theorem dksX4_placeOf_1 : cX4_placeOf.data.toList.drop 22 = dktX4_placeOf_1 := dk_seg dksX4_placeOf_0 22 rfl rfl
theorem dksX4_placeOf_2 : cX4_placeOf.data.toList.drop 44 = dktX4_placeOf_2 := dk_seg dksX4_placeOf_1 22 rfl rfl
theorem dksX4_placeOf_3 : cX4_placeOf.data.toList.drop 68 = dktX4_placeOf_3 := dk_seg dksX4_placeOf_2 24 rfl rfl
theorem dX4_placeOf_0 : decode cX4_placeOf 0 = .ok (.iload_n 2, 1) := dk_28 (dk_at dksX4_placeOf_0 0 rfl rfl)
theorem dX4_placeOf_1 : decode cX4_placeOf 1 = .ok (.istore_n 3, 1) := dk_62 (dk_at dksX4_placeOf_0 1 rfl rfl)
theorem dX4_placeOf_2 : decode cX4_placeOf 2 = .ok (.iconst 0, 1) := dk_3 (dk_at dksX4_placeOf_0 2 rfl rfl)
theorem dX4_placeOf_3 : decode cX4_placeOf 3 = .ok (.istore 4, 2) := dk_54 4 (dk_at dksX4_placeOf_0 3 rfl rfl)
theorem dX4_placeOf_5 : decode cX4_placeOf 5 = .ok (.iload 4, 2) := dk_21 4 (dk_at dksX4_placeOf_0 5 rfl rfl)
theorem dX4_placeOf_7 : decode cX4_placeOf 7 = .ok (.aload_n 0, 1) := dk_42 (dk_at dksX4_placeOf_0 7 rfl rfl)
theorem dX4_placeOf_8 : decode cX4_placeOf 8 = .ok (.iload_n 1, 1) := dk_27 (dk_at dksX4_placeOf_0 8 rfl rfl)
theorem dX4_placeOf_9 : decode cX4_placeOf 9 = .ok (.invokevirtual 316, 3) := dk_182 1 60 (dk_at dksX4_placeOf_0 9 rfl rfl)
theorem dX4_placeOf_12 : decode cX4_placeOf 12 = .ok (.if_icmp .ge 65, 3) := dk_162 0 65 (dk_at dksX4_placeOf_0 12 rfl rfl)
theorem dX4_placeOf_15 : decode cX4_placeOf 15 = .ok (.iconst 0, 1) := dk_3 (dk_at dksX4_placeOf_0 15 rfl rfl)
theorem dX4_placeOf_16 : decode cX4_placeOf 16 = .ok (.istore 5, 2) := dk_54 5 (dk_at dksX4_placeOf_0 16 rfl rfl)
theorem dX4_placeOf_18 : decode cX4_placeOf 18 = .ok (.iload 5, 2) := dk_21 5 (dk_at dksX4_placeOf_0 18 rfl rfl)
theorem dX4_placeOf_20 : decode cX4_placeOf 20 = .ok (.aload_n 0, 1) := dk_42 (dk_at dksX4_placeOf_0 20 rfl rfl)
theorem dX4_placeOf_21 : decode cX4_placeOf 21 = .ok (.iload_n 1, 1) := dk_27 (dk_at dksX4_placeOf_0 21 rfl rfl)
theorem dX4_placeOf_22 : decode cX4_placeOf 22 = .ok (.invokevirtual 322, 3) := dk_182 1 66 (dk_at dksX4_placeOf_1 0 rfl rfl)
theorem dX4_placeOf_25 : decode cX4_placeOf 25 = .ok (.if_icmp .ge 46, 3) := dk_162 0 46 (dk_at dksX4_placeOf_1 3 rfl rfl)
theorem dX4_placeOf_28 : decode cX4_placeOf 28 = .ok (.aload_n 0, 1) := dk_42 (dk_at dksX4_placeOf_1 6 rfl rfl)
theorem dX4_placeOf_29 : decode cX4_placeOf 29 = .ok (.getfield 20, 3) := dk_180 0 20 (dk_at dksX4_placeOf_1 7 rfl rfl)
theorem dX4_placeOf_32 : decode cX4_placeOf 32 = .ok (.sipush 290, 3) := dk_17 1 34 (dk_at dksX4_placeOf_1 10 rfl rfl)
theorem dX4_placeOf_35 : decode cX4_placeOf 35 = .ok (.iload_n 1, 1) := dk_27 (dk_at dksX4_placeOf_1 13 rfl rfl)
theorem dX4_placeOf_36 : decode cX4_placeOf 36 = .ok (.imul, 1) := dk_104 (dk_at dksX4_placeOf_1 14 rfl rfl)
theorem dX4_placeOf_37 : decode cX4_placeOf 37 = .ok (.iload 4, 2) := dk_21 4 (dk_at dksX4_placeOf_1 15 rfl rfl)
theorem dX4_placeOf_39 : decode cX4_placeOf 39 = .ok (.iload 5, 2) := dk_21 5 (dk_at dksX4_placeOf_1 17 rfl rfl)
theorem dX4_placeOf_41 : decode cX4_placeOf 41 = .ok (.invokestatic 197, 3) := dk_184 0 197 (dk_at dksX4_placeOf_1 19 rfl rfl)
theorem dX4_placeOf_44 : decode cX4_placeOf 44 = .ok (.ifCond .ne 6, 3) := dk_154 0 6 (dk_at dksX4_placeOf_2 0 rfl rfl)
theorem dX4_placeOf_47 : decode cX4_placeOf 47 = .ok (.goto 18, 3) := dk_167 0 18 (dk_at dksX4_placeOf_2 3 rfl rfl)
theorem dX4_placeOf_50 : decode cX4_placeOf 50 = .ok (.iload_n 3, 1) := dk_29 (dk_at dksX4_placeOf_2 6 rfl rfl)
theorem dX4_placeOf_51 : decode cX4_placeOf 51 = .ok (.ifCond .ne 11, 3) := dk_154 0 11 (dk_at dksX4_placeOf_2 7 rfl rfl)
theorem dX4_placeOf_54 : decode cX4_placeOf 54 = .ok (.iload 4, 2) := dk_21 4 (dk_at dksX4_placeOf_2 10 rfl rfl)
theorem dX4_placeOf_56 : decode cX4_placeOf 56 = .ok (.iload 5, 2) := dk_21 5 (dk_at dksX4_placeOf_2 12 rfl rfl)
theorem dX4_placeOf_58 : decode cX4_placeOf 58 = .ok (.invokestatic 178, 3) := dk_184 0 178 (dk_at dksX4_placeOf_2 14 rfl rfl)
theorem dX4_placeOf_61 : decode cX4_placeOf 61 = .ok (.ireturn, 1) := dk_172 (dk_at dksX4_placeOf_2 17 rfl rfl)
theorem dX4_placeOf_62 : decode cX4_placeOf 62 = .ok (.iinc 3 (-1), 3) := dk_132 3 255 (dk_at dksX4_placeOf_2 18 rfl rfl)
theorem dX4_placeOf_65 : decode cX4_placeOf 65 = .ok (.iinc 5 1, 3) := dk_132 5 1 (dk_at dksX4_placeOf_2 21 rfl rfl)
theorem dX4_placeOf_68 : decode cX4_placeOf 68 = .ok (.goto (-50), 3) := dk_167 255 206 (dk_at dksX4_placeOf_3 0 rfl rfl)
theorem dX4_placeOf_71 : decode cX4_placeOf 71 = .ok (.iinc 4 1, 3) := dk_132 4 1 (dk_at dksX4_placeOf_3 3 rfl rfl)
theorem dX4_placeOf_74 : decode cX4_placeOf 74 = .ok (.goto (-69), 3) := dk_167 255 187 (dk_at dksX4_placeOf_3 6 rfl rfl)
theorem dX4_placeOf_77 : decode cX4_placeOf 77 = .ok (.iconst (-1), 1) := dk_2 (dk_at dksX4_placeOf_3 9 rfl rfl)
theorem dX4_placeOf_78 : decode cX4_placeOf 78 = .ok (.ireturn, 1) := dk_172 (dk_at dksX4_placeOf_3 10 rfl rfl)
abbrev cX4_storedValue : ByteArray := prog_23_method_119_code
def yX4_storedValue : MethodName := ⟨RX4, "storedValue", "(II)I"⟩
def dkwX4_storedValue_1 : List UInt8 := [17, 0, 146, 96, 42, 27, 28, 182, 1, 218, 96, 46, 167, 0, 4, 3, 172]
abbrev dktX4_storedValue_1 : List UInt8 := dkwX4_storedValue_1 ++ []
def dkwX4_storedValue_0 : List UInt8 := [42, 42, 27, 28, 182, 1, 215, 182, 0, 87, 153, 0, 27, 42, 180, 0, 20, 17, 1, 34, 27, 104]
abbrev dktX4_storedValue_0 : List UInt8 := dkwX4_storedValue_0 ++ dktX4_storedValue_1
theorem dksX4_storedValue_0 : cX4_storedValue.data.toList.drop 0 = dktX4_storedValue_0 := by decide +kernel
theorem dksX4_storedValue_1 : cX4_storedValue.data.toList.drop 22 = dktX4_storedValue_1 := dk_seg dksX4_storedValue_0 22 rfl rfl
theorem dX4_storedValue_0 : decode cX4_storedValue 0 = .ok (.aload_n 0, 1) := dk_42 (dk_at dksX4_storedValue_0 0 rfl rfl)
theorem dX4_storedValue_1 : decode cX4_storedValue 1 = .ok (.aload_n 0, 1) := dk_42 (dk_at dksX4_storedValue_0 1 rfl rfl)
theorem dX4_storedValue_2 : decode cX4_storedValue 2 = .ok (.iload_n 1, 1) := dk_27 (dk_at dksX4_storedValue_0 2 rfl rfl)
theorem dX4_storedValue_3 : decode cX4_storedValue 3 = .ok (.iload_n 2, 1) := dk_28 (dk_at dksX4_storedValue_0 3 rfl rfl)
theorem dX4_storedValue_4 : decode cX4_storedValue 4 = .ok (.invokevirtual 471, 3) := dk_182 1 215 (dk_at dksX4_storedValue_0 4 rfl rfl)
theorem dX4_storedValue_7 : decode cX4_storedValue 7 = .ok (.invokevirtual 87, 3) := dk_182 0 87 (dk_at dksX4_storedValue_0 7 rfl rfl)
theorem dX4_storedValue_10 : decode cX4_storedValue 10 = .ok (.ifCond .eq 27, 3) := dk_153 0 27 (dk_at dksX4_storedValue_0 10 rfl rfl)
theorem dX4_storedValue_13 : decode cX4_storedValue 13 = .ok (.aload_n 0, 1) := dk_42 (dk_at dksX4_storedValue_0 13 rfl rfl)
theorem dX4_storedValue_14 : decode cX4_storedValue 14 = .ok (.getfield 20, 3) := dk_180 0 20 (dk_at dksX4_storedValue_0 14 rfl rfl)
theorem dX4_storedValue_17 : decode cX4_storedValue 17 = .ok (.sipush 290, 3) := dk_17 1 34 (dk_at dksX4_storedValue_0 17 rfl rfl)
theorem dX4_storedValue_20 : decode cX4_storedValue 20 = .ok (.iload_n 1, 1) := dk_27 (dk_at dksX4_storedValue_0 20 rfl rfl)
theorem dX4_storedValue_21 : decode cX4_storedValue 21 = .ok (.imul, 1) := dk_104 (dk_at dksX4_storedValue_0 21 rfl rfl)
theorem dX4_storedValue_22 : decode cX4_storedValue 22 = .ok (.sipush 146, 3) := dk_17 0 146 (dk_at dksX4_storedValue_1 0 rfl rfl)
theorem dX4_storedValue_25 : decode cX4_storedValue 25 = .ok (.iadd, 1) := dk_96 (dk_at dksX4_storedValue_1 3 rfl rfl)
theorem dX4_storedValue_26 : decode cX4_storedValue 26 = .ok (.aload_n 0, 1) := dk_42 (dk_at dksX4_storedValue_1 4 rfl rfl)
theorem dX4_storedValue_27 : decode cX4_storedValue 27 = .ok (.iload_n 1, 1) := dk_27 (dk_at dksX4_storedValue_1 5 rfl rfl)
theorem dX4_storedValue_28 : decode cX4_storedValue 28 = .ok (.iload_n 2, 1) := dk_28 (dk_at dksX4_storedValue_1 6 rfl rfl)
theorem dX4_storedValue_29 : decode cX4_storedValue 29 = .ok (.invokevirtual 474, 3) := dk_182 1 218 (dk_at dksX4_storedValue_1 7 rfl rfl)
theorem dX4_storedValue_32 : decode cX4_storedValue 32 = .ok (.iadd, 1) := dk_96 (dk_at dksX4_storedValue_1 10 rfl rfl)
theorem dX4_storedValue_33 : decode cX4_storedValue 33 = .ok (.iaload, 1) := dk_46 (dk_at dksX4_storedValue_1 11 rfl rfl)
theorem dX4_storedValue_34 : decode cX4_storedValue 34 = .ok (.goto 4, 3) := dk_167 0 4 (dk_at dksX4_storedValue_1 12 rfl rfl)
theorem dX4_storedValue_37 : decode cX4_storedValue 37 = .ok (.iconst 0, 1) := dk_3 (dk_at dksX4_storedValue_1 15 rfl rfl)
theorem dX4_storedValue_38 : decode cX4_storedValue 38 = .ok (.ireturn, 1) := dk_172 (dk_at dksX4_storedValue_1 16 rfl rfl)
abbrev cX4_rowOf : ByteArray := prog_23_method_120_code
def yX4_rowOf : MethodName := ⟨RX4, "rowOf", "(II)I"⟩
def dkwX4_rowOf_1 : List UInt8 := [167, 0, 4, 3, 172]
abbrev dktX4_rowOf_1 : List UInt8 := dkwX4_rowOf_1 ++ []
def dkwX4_rowOf_0 : List UInt8 := [42, 42, 27, 28, 182, 1, 215, 182, 0, 87, 153, 0, 15, 42, 27, 28, 182, 1, 218, 16, 12, 108]
abbrev dktX4_rowOf_0 : List UInt8 := dkwX4_rowOf_0 ++ dktX4_rowOf_1
theorem dksX4_rowOf_0 : cX4_rowOf.data.toList.drop 0 = dktX4_rowOf_0 := by decide +kernel
theorem dksX4_rowOf_1 : cX4_rowOf.data.toList.drop 22 = dktX4_rowOf_1 := dk_seg dksX4_rowOf_0 22 rfl rfl
theorem dX4_rowOf_0 : decode cX4_rowOf 0 = .ok (.aload_n 0, 1) := dk_42 (dk_at dksX4_rowOf_0 0 rfl rfl)
theorem dX4_rowOf_1 : decode cX4_rowOf 1 = .ok (.aload_n 0, 1) := dk_42 (dk_at dksX4_rowOf_0 1 rfl rfl)
theorem dX4_rowOf_2 : decode cX4_rowOf 2 = .ok (.iload_n 1, 1) := dk_27 (dk_at dksX4_rowOf_0 2 rfl rfl)
theorem dX4_rowOf_3 : decode cX4_rowOf 3 = .ok (.iload_n 2, 1) := dk_28 (dk_at dksX4_rowOf_0 3 rfl rfl)
theorem dX4_rowOf_4 : decode cX4_rowOf 4 = .ok (.invokevirtual 471, 3) := dk_182 1 215 (dk_at dksX4_rowOf_0 4 rfl rfl)
theorem dX4_rowOf_7 : decode cX4_rowOf 7 = .ok (.invokevirtual 87, 3) := dk_182 0 87 (dk_at dksX4_rowOf_0 7 rfl rfl)
theorem dX4_rowOf_10 : decode cX4_rowOf 10 = .ok (.ifCond .eq 15, 3) := dk_153 0 15 (dk_at dksX4_rowOf_0 10 rfl rfl)
theorem dX4_rowOf_13 : decode cX4_rowOf 13 = .ok (.aload_n 0, 1) := dk_42 (dk_at dksX4_rowOf_0 13 rfl rfl)
theorem dX4_rowOf_14 : decode cX4_rowOf 14 = .ok (.iload_n 1, 1) := dk_27 (dk_at dksX4_rowOf_0 14 rfl rfl)
theorem dX4_rowOf_15 : decode cX4_rowOf 15 = .ok (.iload_n 2, 1) := dk_28 (dk_at dksX4_rowOf_0 15 rfl rfl)
theorem dX4_rowOf_16 : decode cX4_rowOf 16 = .ok (.invokevirtual 474, 3) := dk_182 1 218 (dk_at dksX4_rowOf_0 16 rfl rfl)
theorem dX4_rowOf_19 : decode cX4_rowOf 19 = .ok (.bipush 12, 2) := dk_16 12 (dk_at dksX4_rowOf_0 19 rfl rfl)
theorem dX4_rowOf_21 : decode cX4_rowOf 21 = .ok (.idiv, 1) := dk_108 (dk_at dksX4_rowOf_0 21 rfl rfl)
theorem dX4_rowOf_22 : decode cX4_rowOf 22 = .ok (.goto 4, 3) := dk_167 0 4 (dk_at dksX4_rowOf_1 0 rfl rfl)
theorem dX4_rowOf_25 : decode cX4_rowOf 25 = .ok (.iconst 0, 1) := dk_3 (dk_at dksX4_rowOf_1 3 rfl rfl)
theorem dX4_rowOf_26 : decode cX4_rowOf 26 = .ok (.ireturn, 1) := dk_172 (dk_at dksX4_rowOf_1 4 rfl rfl)
abbrev cX4_value : ByteArray := prog_23_method_121_code
def yX4_value : MethodName := ⟨RX4, "value", "(III)I"⟩
def dkwX4_value_1 : List UInt8 := [3, 172]
abbrev dktX4_value_1 : List UInt8 := dkwX4_value_1 ++ []
def dkwX4_value_0 : List UInt8 := [42, 42, 27, 28, 29, 182, 1, 69, 182, 0, 87, 153, 0, 13, 42, 27, 28, 29, 182, 1, 83, 167, 0, 4]
abbrev dktX4_value_0 : List UInt8 := dkwX4_value_0 ++ dktX4_value_1
theorem dksX4_value_0 : cX4_value.data.toList.drop 0 = dktX4_value_0 := by decide +kernel
theorem dksX4_value_1 : cX4_value.data.toList.drop 24 = dktX4_value_1 := dk_seg dksX4_value_0 24 rfl rfl
theorem dX4_value_0 : decode cX4_value 0 = .ok (.aload_n 0, 1) := dk_42 (dk_at dksX4_value_0 0 rfl rfl)
theorem dX4_value_1 : decode cX4_value 1 = .ok (.aload_n 0, 1) := dk_42 (dk_at dksX4_value_0 1 rfl rfl)
theorem dX4_value_2 : decode cX4_value 2 = .ok (.iload_n 1, 1) := dk_27 (dk_at dksX4_value_0 2 rfl rfl)
theorem dX4_value_3 : decode cX4_value 3 = .ok (.iload_n 2, 1) := dk_28 (dk_at dksX4_value_0 3 rfl rfl)
theorem dX4_value_4 : decode cX4_value 4 = .ok (.iload_n 3, 1) := dk_29 (dk_at dksX4_value_0 4 rfl rfl)
theorem dX4_value_5 : decode cX4_value 5 = .ok (.invokevirtual 325, 3) := dk_182 1 69 (dk_at dksX4_value_0 5 rfl rfl)
theorem dX4_value_8 : decode cX4_value 8 = .ok (.invokevirtual 87, 3) := dk_182 0 87 (dk_at dksX4_value_0 8 rfl rfl)
theorem dX4_value_11 : decode cX4_value 11 = .ok (.ifCond .eq 13, 3) := dk_153 0 13 (dk_at dksX4_value_0 11 rfl rfl)
theorem dX4_value_14 : decode cX4_value 14 = .ok (.aload_n 0, 1) := dk_42 (dk_at dksX4_value_0 14 rfl rfl)
theorem dX4_value_15 : decode cX4_value 15 = .ok (.iload_n 1, 1) := dk_27 (dk_at dksX4_value_0 15 rfl rfl)
theorem dX4_value_16 : decode cX4_value 16 = .ok (.iload_n 2, 1) := dk_28 (dk_at dksX4_value_0 16 rfl rfl)
theorem dX4_value_17 : decode cX4_value 17 = .ok (.iload_n 3, 1) := dk_29 (dk_at dksX4_value_0 17 rfl rfl)
theorem dX4_value_18 : decode cX4_value 18 = .ok (.invokevirtual 339, 3) := dk_182 1 83 (dk_at dksX4_value_0 18 rfl rfl)
theorem dX4_value_21 : decode cX4_value 21 = .ok (.goto 4, 3) := dk_167 0 4 (dk_at dksX4_value_0 21 rfl rfl)
theorem dX4_value_24 : decode cX4_value 24 = .ok (.iconst 0, 1) := dk_3 (dk_at dksX4_value_1 0 rfl rfl)
theorem dX4_value_25 : decode cX4_value 25 = .ok (.ireturn, 1) := dk_172 (dk_at dksX4_value_1 1 rfl rfl)
abbrev cX4_storageIndex : ByteArray := prog_23_method_122_code
def yX4_storageIndex : MethodName := ⟨RX4, "storageIndex", "(III)I"⟩
def dkwX4_storageIndex_1 : List UInt8 := [153, 0, 13, 42, 27, 28, 29, 182, 1, 79, 167, 0, 4, 2, 172]
abbrev dktX4_storageIndex_1 : List UInt8 := dkwX4_storageIndex_1 ++ []
def dkwX4_storageIndex_0 : List UInt8 := [42, 42, 27, 28, 29, 182, 1, 69, 182, 0, 87, 154, 0, 5, 3, 172, 42, 27, 28, 29, 182, 1, 89]
abbrev dktX4_storageIndex_0 : List UInt8 := dkwX4_storageIndex_0 ++ dktX4_storageIndex_1
theorem dksX4_storageIndex_0 : cX4_storageIndex.data.toList.drop 0 = dktX4_storageIndex_0 := by decide +kernel
theorem dksX4_storageIndex_1 : cX4_storageIndex.data.toList.drop 23 = dktX4_storageIndex_1 := dk_seg dksX4_storageIndex_0 23 rfl rfl
theorem dX4_storageIndex_0 : decode cX4_storageIndex 0 = .ok (.aload_n 0, 1) := dk_42 (dk_at dksX4_storageIndex_0 0 rfl rfl)
theorem dX4_storageIndex_1 : decode cX4_storageIndex 1 = .ok (.aload_n 0, 1) := dk_42 (dk_at dksX4_storageIndex_0 1 rfl rfl)
theorem dX4_storageIndex_2 : decode cX4_storageIndex 2 = .ok (.iload_n 1, 1) := dk_27 (dk_at dksX4_storageIndex_0 2 rfl rfl)
theorem dX4_storageIndex_3 : decode cX4_storageIndex 3 = .ok (.iload_n 2, 1) := dk_28 (dk_at dksX4_storageIndex_0 3 rfl rfl)
theorem dX4_storageIndex_4 : decode cX4_storageIndex 4 = .ok (.iload_n 3, 1) := dk_29 (dk_at dksX4_storageIndex_0 4 rfl rfl)
theorem dX4_storageIndex_5 : decode cX4_storageIndex 5 = .ok (.invokevirtual 325, 3) := dk_182 1 69 (dk_at dksX4_storageIndex_0 5 rfl rfl)
theorem dX4_storageIndex_8 : decode cX4_storageIndex 8 = .ok (.invokevirtual 87, 3) := dk_182 0 87 (dk_at dksX4_storageIndex_0 8 rfl rfl)
theorem dX4_storageIndex_11 : decode cX4_storageIndex 11 = .ok (.ifCond .ne 5, 3) := dk_154 0 5 (dk_at dksX4_storageIndex_0 11 rfl rfl)
theorem dX4_storageIndex_14 : decode cX4_storageIndex 14 = .ok (.iconst 0, 1) := dk_3 (dk_at dksX4_storageIndex_0 14 rfl rfl)
theorem dX4_storageIndex_15 : decode cX4_storageIndex 15 = .ok (.ireturn, 1) := dk_172 (dk_at dksX4_storageIndex_0 15 rfl rfl)
theorem dX4_storageIndex_16 : decode cX4_storageIndex 16 = .ok (.aload_n 0, 1) := dk_42 (dk_at dksX4_storageIndex_0 16 rfl rfl)
theorem dX4_storageIndex_17 : decode cX4_storageIndex 17 = .ok (.iload_n 1, 1) := dk_27 (dk_at dksX4_storageIndex_0 17 rfl rfl)
theorem dX4_storageIndex_18 : decode cX4_storageIndex 18 = .ok (.iload_n 2, 1) := dk_28 (dk_at dksX4_storageIndex_0 18 rfl rfl)
theorem dX4_storageIndex_19 : decode cX4_storageIndex 19 = .ok (.iload_n 3, 1) := dk_29 (dk_at dksX4_storageIndex_0 19 rfl rfl)
theorem dX4_storageIndex_20 : decode cX4_storageIndex 20 = .ok (.invokevirtual 345, 3) := dk_182 1 89 (dk_at dksX4_storageIndex_0 20 rfl rfl)
theorem dX4_storageIndex_23 : decode cX4_storageIndex 23 = .ok (.ifCond .eq 13, 3) := dk_153 0 13 (dk_at dksX4_storageIndex_1 0 rfl rfl)
theorem dX4_storageIndex_26 : decode cX4_storageIndex 26 = .ok (.aload_n 0, 1) := dk_42 (dk_at dksX4_storageIndex_1 3 rfl rfl)
theorem dX4_storageIndex_27 : decode cX4_storageIndex 27 = .ok (.iload_n 1, 1) := dk_27 (dk_at dksX4_storageIndex_1 4 rfl rfl)
theorem dX4_storageIndex_28 : decode cX4_storageIndex 28 = .ok (.iload_n 2, 1) := dk_28 (dk_at dksX4_storageIndex_1 5 rfl rfl)
theorem dX4_storageIndex_29 : decode cX4_storageIndex 29 = .ok (.iload_n 3, 1) := dk_29 (dk_at dksX4_storageIndex_1 6 rfl rfl)
theorem dX4_storageIndex_30 : decode cX4_storageIndex 30 = .ok (.invokevirtual 335, 3) := dk_182 1 79 (dk_at dksX4_storageIndex_1 7 rfl rfl)
theorem dX4_storageIndex_33 : decode cX4_storageIndex 33 = .ok (.goto 4, 3) := dk_167 0 4 (dk_at dksX4_storageIndex_1 10 rfl rfl)
theorem dX4_storageIndex_36 : decode cX4_storageIndex 36 = .ok (.iconst (-1), 1) := dk_2 (dk_at dksX4_storageIndex_1 13 rfl rfl)
theorem dX4_storageIndex_37 : decode cX4_storageIndex 37 = .ok (.ireturn, 1) := dk_172 (dk_at dksX4_storageIndex_1 14 rfl rfl)
abbrev cX4_explicitZeros : ByteArray := prog_23_method_124_code
def yX4_explicitZeros : MethodName := ⟨RX4, "explicitZeros", "(I)I"⟩
def dkwX4_explicitZeros_0 : List UInt8 := [42, 27, 184, 1, 57, 182, 0, 87, 153, 0, 11, 42, 27, 182, 1, 221, 167, 0, 4, 3, 172]
abbrev dktX4_explicitZeros_0 : List UInt8 := dkwX4_explicitZeros_0 ++ []
theorem dksX4_explicitZeros_0 : cX4_explicitZeros.data.toList.drop 0 = dktX4_explicitZeros_0 := by decide +kernel
theorem dX4_explicitZeros_0 : decode cX4_explicitZeros 0 = .ok (.aload_n 0, 1) := dk_42 (dk_at dksX4_explicitZeros_0 0 rfl rfl)
theorem dX4_explicitZeros_1 : decode cX4_explicitZeros 1 = .ok (.iload_n 1, 1) := dk_27 (dk_at dksX4_explicitZeros_0 1 rfl rfl)
theorem dX4_explicitZeros_2 : decode cX4_explicitZeros 2 = .ok (.invokestatic 313, 3) := dk_184 1 57 (dk_at dksX4_explicitZeros_0 2 rfl rfl)
theorem dX4_explicitZeros_5 : decode cX4_explicitZeros 5 = .ok (.invokevirtual 87, 3) := dk_182 0 87 (dk_at dksX4_explicitZeros_0 5 rfl rfl)
theorem dX4_explicitZeros_8 : decode cX4_explicitZeros 8 = .ok (.ifCond .eq 11, 3) := dk_153 0 11 (dk_at dksX4_explicitZeros_0 8 rfl rfl)
theorem dX4_explicitZeros_11 : decode cX4_explicitZeros 11 = .ok (.aload_n 0, 1) := dk_42 (dk_at dksX4_explicitZeros_0 11 rfl rfl)
theorem dX4_explicitZeros_12 : decode cX4_explicitZeros 12 = .ok (.iload_n 1, 1) := dk_27 (dk_at dksX4_explicitZeros_0 12 rfl rfl)
theorem dX4_explicitZeros_13 : decode cX4_explicitZeros 13 = .ok (.invokevirtual 477, 3) := dk_182 1 221 (dk_at dksX4_explicitZeros_0 13 rfl rfl)
theorem dX4_explicitZeros_16 : decode cX4_explicitZeros 16 = .ok (.goto 4, 3) := dk_167 0 4 (dk_at dksX4_explicitZeros_0 16 rfl rfl)
theorem dX4_explicitZeros_19 : decode cX4_explicitZeros 19 = .ok (.iconst 0, 1) := dk_3 (dk_at dksX4_explicitZeros_0 19 rfl rfl)
theorem dX4_explicitZeros_20 : decode cX4_explicitZeros 20 = .ok (.ireturn, 1) := dk_172 (dk_at dksX4_explicitZeros_0 20 rfl rfl)
abbrev cX4_zerosIn : ByteArray := prog_23_method_123_code
def yX4_zerosIn : MethodName := ⟨RX4, "zerosIn", "(I)I"⟩
def dkwX4_zerosIn_2 : List UInt8 := [154, 0, 7, 4, 167, 0, 4, 3, 184, 0, 80, 96, 61, 132, 3, 1, 167, 255, 198, 28, 172]
abbrev dktX4_zerosIn_2 : List UInt8 := dkwX4_zerosIn_2 ++ []
def dkwX4_zerosIn_1 : List UInt8 := [96, 46, 4, 160, 0, 26, 42, 180, 0, 20, 17, 1, 34, 27, 104, 17, 0, 146, 96, 29, 96, 46]
abbrev dktX4_zerosIn_1 : List UInt8 := dkwX4_zerosIn_1 ++ dktX4_zerosIn_2
def dkwX4_zerosIn_0 : List UInt8 := [3, 61, 3, 62, 29, 17, 0, 144, 162, 0, 57, 28, 42, 180, 0, 20, 17, 1, 34, 27, 104, 5, 96, 29]
abbrev dktX4_zerosIn_0 : List UInt8 := dkwX4_zerosIn_0 ++ dktX4_zerosIn_1
theorem dksX4_zerosIn_0 : cX4_zerosIn.data.toList.drop 0 = dktX4_zerosIn_0 := by decide +kernel
theorem dksX4_zerosIn_1 : cX4_zerosIn.data.toList.drop 24 = dktX4_zerosIn_1 := dk_seg dksX4_zerosIn_0 24 rfl rfl
theorem dksX4_zerosIn_2 : cX4_zerosIn.data.toList.drop 46 = dktX4_zerosIn_2 := dk_seg dksX4_zerosIn_1 22 rfl rfl
theorem dX4_zerosIn_0 : decode cX4_zerosIn 0 = .ok (.iconst 0, 1) := dk_3 (dk_at dksX4_zerosIn_0 0 rfl rfl)
theorem dX4_zerosIn_1 : decode cX4_zerosIn 1 = .ok (.istore_n 2, 1) := dk_61 (dk_at dksX4_zerosIn_0 1 rfl rfl)
theorem dX4_zerosIn_2 : decode cX4_zerosIn 2 = .ok (.iconst 0, 1) := dk_3 (dk_at dksX4_zerosIn_0 2 rfl rfl)
theorem dX4_zerosIn_3 : decode cX4_zerosIn 3 = .ok (.istore_n 3, 1) := dk_62 (dk_at dksX4_zerosIn_0 3 rfl rfl)
theorem dX4_zerosIn_4 : decode cX4_zerosIn 4 = .ok (.iload_n 3, 1) := dk_29 (dk_at dksX4_zerosIn_0 4 rfl rfl)
theorem dX4_zerosIn_5 : decode cX4_zerosIn 5 = .ok (.sipush 144, 3) := dk_17 0 144 (dk_at dksX4_zerosIn_0 5 rfl rfl)
theorem dX4_zerosIn_8 : decode cX4_zerosIn 8 = .ok (.if_icmp .ge 57, 3) := dk_162 0 57 (dk_at dksX4_zerosIn_0 8 rfl rfl)
theorem dX4_zerosIn_11 : decode cX4_zerosIn 11 = .ok (.iload_n 2, 1) := dk_28 (dk_at dksX4_zerosIn_0 11 rfl rfl)
theorem dX4_zerosIn_12 : decode cX4_zerosIn 12 = .ok (.aload_n 0, 1) := dk_42 (dk_at dksX4_zerosIn_0 12 rfl rfl)
theorem dX4_zerosIn_13 : decode cX4_zerosIn 13 = .ok (.getfield 20, 3) := dk_180 0 20 (dk_at dksX4_zerosIn_0 13 rfl rfl)
theorem dX4_zerosIn_16 : decode cX4_zerosIn 16 = .ok (.sipush 290, 3) := dk_17 1 34 (dk_at dksX4_zerosIn_0 16 rfl rfl)
theorem dX4_zerosIn_19 : decode cX4_zerosIn 19 = .ok (.iload_n 1, 1) := dk_27 (dk_at dksX4_zerosIn_0 19 rfl rfl)
theorem dX4_zerosIn_20 : decode cX4_zerosIn 20 = .ok (.imul, 1) := dk_104 (dk_at dksX4_zerosIn_0 20 rfl rfl)
theorem dX4_zerosIn_21 : decode cX4_zerosIn 21 = .ok (.iconst 2, 1) := dk_5 (dk_at dksX4_zerosIn_0 21 rfl rfl)
theorem dX4_zerosIn_22 : decode cX4_zerosIn 22 = .ok (.iadd, 1) := dk_96 (dk_at dksX4_zerosIn_0 22 rfl rfl)
theorem dX4_zerosIn_23 : decode cX4_zerosIn 23 = .ok (.iload_n 3, 1) := dk_29 (dk_at dksX4_zerosIn_0 23 rfl rfl)
theorem dX4_zerosIn_24 : decode cX4_zerosIn 24 = .ok (.iadd, 1) := dk_96 (dk_at dksX4_zerosIn_1 0 rfl rfl)
theorem dX4_zerosIn_25 : decode cX4_zerosIn 25 = .ok (.iaload, 1) := dk_46 (dk_at dksX4_zerosIn_1 1 rfl rfl)
theorem dX4_zerosIn_26 : decode cX4_zerosIn 26 = .ok (.iconst 1, 1) := dk_4 (dk_at dksX4_zerosIn_1 2 rfl rfl)
theorem dX4_zerosIn_27 : decode cX4_zerosIn 27 = .ok (.if_icmp .ne 26, 3) := dk_160 0 26 (dk_at dksX4_zerosIn_1 3 rfl rfl)
theorem dX4_zerosIn_30 : decode cX4_zerosIn 30 = .ok (.aload_n 0, 1) := dk_42 (dk_at dksX4_zerosIn_1 6 rfl rfl)
theorem dX4_zerosIn_31 : decode cX4_zerosIn 31 = .ok (.getfield 20, 3) := dk_180 0 20 (dk_at dksX4_zerosIn_1 7 rfl rfl)
theorem dX4_zerosIn_34 : decode cX4_zerosIn 34 = .ok (.sipush 290, 3) := dk_17 1 34 (dk_at dksX4_zerosIn_1 10 rfl rfl)
theorem dX4_zerosIn_37 : decode cX4_zerosIn 37 = .ok (.iload_n 1, 1) := dk_27 (dk_at dksX4_zerosIn_1 13 rfl rfl)
theorem dX4_zerosIn_38 : decode cX4_zerosIn 38 = .ok (.imul, 1) := dk_104 (dk_at dksX4_zerosIn_1 14 rfl rfl)
theorem dX4_zerosIn_39 : decode cX4_zerosIn 39 = .ok (.sipush 146, 3) := dk_17 0 146 (dk_at dksX4_zerosIn_1 15 rfl rfl)
theorem dX4_zerosIn_42 : decode cX4_zerosIn 42 = .ok (.iadd, 1) := dk_96 (dk_at dksX4_zerosIn_1 18 rfl rfl)
theorem dX4_zerosIn_43 : decode cX4_zerosIn 43 = .ok (.iload_n 3, 1) := dk_29 (dk_at dksX4_zerosIn_1 19 rfl rfl)
theorem dX4_zerosIn_44 : decode cX4_zerosIn 44 = .ok (.iadd, 1) := dk_96 (dk_at dksX4_zerosIn_1 20 rfl rfl)
theorem dX4_zerosIn_45 : decode cX4_zerosIn 45 = .ok (.iaload, 1) := dk_46 (dk_at dksX4_zerosIn_1 21 rfl rfl)
theorem dX4_zerosIn_46 : decode cX4_zerosIn 46 = .ok (.ifCond .ne 7, 3) := dk_154 0 7 (dk_at dksX4_zerosIn_2 0 rfl rfl)
theorem dX4_zerosIn_49 : decode cX4_zerosIn 49 = .ok (.iconst 1, 1) := dk_4 (dk_at dksX4_zerosIn_2 3 rfl rfl)
theorem dX4_zerosIn_50 : decode cX4_zerosIn 50 = .ok (.goto 4, 3) := dk_167 0 4 (dk_at dksX4_zerosIn_2 4 rfl rfl)
theorem dX4_zerosIn_53 : decode cX4_zerosIn 53 = .ok (.iconst 0, 1) := dk_3 (dk_at dksX4_zerosIn_2 7 rfl rfl)
theorem dX4_zerosIn_54 : decode cX4_zerosIn 54 = .ok (.invokestatic 80, 3) := dk_184 0 80 (dk_at dksX4_zerosIn_2 8 rfl rfl)
theorem dX4_zerosIn_57 : decode cX4_zerosIn 57 = .ok (.iadd, 1) := dk_96 (dk_at dksX4_zerosIn_2 11 rfl rfl)
theorem dX4_zerosIn_58 : decode cX4_zerosIn 58 = .ok (.istore_n 2, 1) := dk_61 (dk_at dksX4_zerosIn_2 12 rfl rfl)
theorem dX4_zerosIn_59 : decode cX4_zerosIn 59 = .ok (.iinc 3 1, 3) := dk_132 3 1 (dk_at dksX4_zerosIn_2 13 rfl rfl)
theorem dX4_zerosIn_62 : decode cX4_zerosIn 62 = .ok (.goto (-58), 3) := dk_167 255 198 (dk_at dksX4_zerosIn_2 16 rfl rfl)
theorem dX4_zerosIn_65 : decode cX4_zerosIn 65 = .ok (.iload_n 2, 1) := dk_28 (dk_at dksX4_zerosIn_2 19 rfl rfl)
theorem dX4_zerosIn_66 : decode cX4_zerosIn 66 = .ok (.ireturn, 1) := dk_172 (dk_at dksX4_zerosIn_2 20 rfl rfl)
abbrev cX4_rowLength : ByteArray := prog_23_method_125_code
def yX4_rowLength : MethodName := ⟨RX4, "rowLength", "(II)I"⟩
def dkwX4_rowLength_0 : List UInt8 := [42, 42, 27, 28, 182, 1, 63, 182, 0, 87, 153, 0, 12, 42, 27, 28, 182, 1, 73, 167, 0, 4, 3, 172]
abbrev dktX4_rowLength_0 : List UInt8 := dkwX4_rowLength_0 ++ []
theorem dksX4_rowLength_0 : cX4_rowLength.data.toList.drop 0 = dktX4_rowLength_0 := by decide +kernel
theorem dX4_rowLength_0 : decode cX4_rowLength 0 = .ok (.aload_n 0, 1) := dk_42 (dk_at dksX4_rowLength_0 0 rfl rfl)
theorem dX4_rowLength_1 : decode cX4_rowLength 1 = .ok (.aload_n 0, 1) := dk_42 (dk_at dksX4_rowLength_0 1 rfl rfl)
theorem dX4_rowLength_2 : decode cX4_rowLength 2 = .ok (.iload_n 1, 1) := dk_27 (dk_at dksX4_rowLength_0 2 rfl rfl)
theorem dX4_rowLength_3 : decode cX4_rowLength 3 = .ok (.iload_n 2, 1) := dk_28 (dk_at dksX4_rowLength_0 3 rfl rfl)
theorem dX4_rowLength_4 : decode cX4_rowLength 4 = .ok (.invokevirtual 319, 3) := dk_182 1 63 (dk_at dksX4_rowLength_0 4 rfl rfl)
theorem dX4_rowLength_7 : decode cX4_rowLength 7 = .ok (.invokevirtual 87, 3) := dk_182 0 87 (dk_at dksX4_rowLength_0 7 rfl rfl)
theorem dX4_rowLength_10 : decode cX4_rowLength 10 = .ok (.ifCond .eq 12, 3) := dk_153 0 12 (dk_at dksX4_rowLength_0 10 rfl rfl)
theorem dX4_rowLength_13 : decode cX4_rowLength 13 = .ok (.aload_n 0, 1) := dk_42 (dk_at dksX4_rowLength_0 13 rfl rfl)
theorem dX4_rowLength_14 : decode cX4_rowLength 14 = .ok (.iload_n 1, 1) := dk_27 (dk_at dksX4_rowLength_0 14 rfl rfl)
theorem dX4_rowLength_15 : decode cX4_rowLength 15 = .ok (.iload_n 2, 1) := dk_28 (dk_at dksX4_rowLength_0 15 rfl rfl)
theorem dX4_rowLength_16 : decode cX4_rowLength 16 = .ok (.invokevirtual 329, 3) := dk_182 1 73 (dk_at dksX4_rowLength_0 16 rfl rfl)
theorem dX4_rowLength_19 : decode cX4_rowLength 19 = .ok (.goto 4, 3) := dk_167 0 4 (dk_at dksX4_rowLength_0 19 rfl rfl)
theorem dX4_rowLength_22 : decode cX4_rowLength 22 = .ok (.iconst 0, 1) := dk_3 (dk_at dksX4_rowLength_0 22 rfl rfl)
theorem dX4_rowLength_23 : decode cX4_rowLength 23 = .ok (.ireturn, 1) := dk_172 (dk_at dksX4_rowLength_0 23 rfl rfl)
abbrev cX4_columnLength : ByteArray := prog_23_method_127_code
def yX4_columnLength : MethodName := ⟨RX4, "columnLength", "(II)I"⟩
def dkwX4_columnLength_2 : List UInt8 := [172]
abbrev dktX4_columnLength_2 : List UInt8 := dkwX4_columnLength_2 ++ []
def dkwX4_columnLength_1 : List UInt8 := [153, 0, 7, 4, 167, 0, 4, 3, 182, 0, 87, 153, 0, 12, 42, 27, 28, 182, 1, 224, 167, 0, 4, 3]
abbrev dktX4_columnLength_1 : List UInt8 := dkwX4_columnLength_1 ++ dktX4_columnLength_2
def dkwX4_columnLength_0 : List UInt8 := [42, 27, 184, 1, 57, 153, 0, 24, 28, 133, 9, 42, 27, 182, 1, 66, 4, 100, 133, 184, 0, 95]
abbrev dktX4_columnLength_0 : List UInt8 := dkwX4_columnLength_0 ++ dktX4_columnLength_1
theorem dksX4_columnLength_0 : cX4_columnLength.data.toList.drop 0 = dktX4_columnLength_0 := by decide +kernel
theorem dksX4_columnLength_1 : cX4_columnLength.data.toList.drop 22 = dktX4_columnLength_1 := dk_seg dksX4_columnLength_0 22 rfl rfl
theorem dksX4_columnLength_2 : cX4_columnLength.data.toList.drop 46 = dktX4_columnLength_2 := dk_seg dksX4_columnLength_1 24 rfl rfl
theorem dX4_columnLength_0 : decode cX4_columnLength 0 = .ok (.aload_n 0, 1) := dk_42 (dk_at dksX4_columnLength_0 0 rfl rfl)
theorem dX4_columnLength_1 : decode cX4_columnLength 1 = .ok (.iload_n 1, 1) := dk_27 (dk_at dksX4_columnLength_0 1 rfl rfl)
theorem dX4_columnLength_2 : decode cX4_columnLength 2 = .ok (.invokestatic 313, 3) := dk_184 1 57 (dk_at dksX4_columnLength_0 2 rfl rfl)
theorem dX4_columnLength_5 : decode cX4_columnLength 5 = .ok (.ifCond .eq 24, 3) := dk_153 0 24 (dk_at dksX4_columnLength_0 5 rfl rfl)
theorem dX4_columnLength_8 : decode cX4_columnLength 8 = .ok (.iload_n 2, 1) := dk_28 (dk_at dksX4_columnLength_0 8 rfl rfl)
theorem dX4_columnLength_9 : decode cX4_columnLength 9 = .ok (.i2l, 1) := dk_133 (dk_at dksX4_columnLength_0 9 rfl rfl)
theorem dX4_columnLength_10 : decode cX4_columnLength 10 = .ok (.lconst 0, 1) := dk_9 (dk_at dksX4_columnLength_0 10 rfl rfl)
theorem dX4_columnLength_11 : decode cX4_columnLength 11 = .ok (.aload_n 0, 1) := dk_42 (dk_at dksX4_columnLength_0 11 rfl rfl)
theorem dX4_columnLength_12 : decode cX4_columnLength 12 = .ok (.iload_n 1, 1) := dk_27 (dk_at dksX4_columnLength_0 12 rfl rfl)
theorem dX4_columnLength_13 : decode cX4_columnLength 13 = .ok (.invokevirtual 322, 3) := dk_182 1 66 (dk_at dksX4_columnLength_0 13 rfl rfl)
theorem dX4_columnLength_16 : decode cX4_columnLength 16 = .ok (.iconst 1, 1) := dk_4 (dk_at dksX4_columnLength_0 16 rfl rfl)
theorem dX4_columnLength_17 : decode cX4_columnLength 17 = .ok (.isub, 1) := dk_100 (dk_at dksX4_columnLength_0 17 rfl rfl)
theorem dX4_columnLength_18 : decode cX4_columnLength 18 = .ok (.i2l, 1) := dk_133 (dk_at dksX4_columnLength_0 18 rfl rfl)
theorem dX4_columnLength_19 : decode cX4_columnLength 19 = .ok (.invokestatic 95, 3) := dk_184 0 95 (dk_at dksX4_columnLength_0 19 rfl rfl)
theorem dX4_columnLength_22 : decode cX4_columnLength 22 = .ok (.ifCond .eq 7, 3) := dk_153 0 7 (dk_at dksX4_columnLength_1 0 rfl rfl)
theorem dX4_columnLength_25 : decode cX4_columnLength 25 = .ok (.iconst 1, 1) := dk_4 (dk_at dksX4_columnLength_1 3 rfl rfl)
theorem dX4_columnLength_26 : decode cX4_columnLength 26 = .ok (.goto 4, 3) := dk_167 0 4 (dk_at dksX4_columnLength_1 4 rfl rfl)
theorem dX4_columnLength_29 : decode cX4_columnLength 29 = .ok (.iconst 0, 1) := dk_3 (dk_at dksX4_columnLength_1 7 rfl rfl)
theorem dX4_columnLength_30 : decode cX4_columnLength 30 = .ok (.invokevirtual 87, 3) := dk_182 0 87 (dk_at dksX4_columnLength_1 8 rfl rfl)
theorem dX4_columnLength_33 : decode cX4_columnLength 33 = .ok (.ifCond .eq 12, 3) := dk_153 0 12 (dk_at dksX4_columnLength_1 11 rfl rfl)
theorem dX4_columnLength_36 : decode cX4_columnLength 36 = .ok (.aload_n 0, 1) := dk_42 (dk_at dksX4_columnLength_1 14 rfl rfl)
theorem dX4_columnLength_37 : decode cX4_columnLength 37 = .ok (.iload_n 1, 1) := dk_27 (dk_at dksX4_columnLength_1 15 rfl rfl)
theorem dX4_columnLength_38 : decode cX4_columnLength 38 = .ok (.iload_n 2, 1) := dk_28 (dk_at dksX4_columnLength_1 16 rfl rfl)
theorem dX4_columnLength_39 : decode cX4_columnLength 39 = .ok (.invokevirtual 480, 3) := dk_182 1 224 (dk_at dksX4_columnLength_1 17 rfl rfl)
theorem dX4_columnLength_42 : decode cX4_columnLength 42 = .ok (.goto 4, 3) := dk_167 0 4 (dk_at dksX4_columnLength_1 20 rfl rfl)
theorem dX4_columnLength_45 : decode cX4_columnLength 45 = .ok (.iconst 0, 1) := dk_3 (dk_at dksX4_columnLength_1 23 rfl rfl)
theorem dX4_columnLength_46 : decode cX4_columnLength 46 = .ok (.ireturn, 1) := dk_172 (dk_at dksX4_columnLength_2 0 rfl rfl)
abbrev cX4_columnLengthOf : ByteArray := prog_23_method_126_code
def yX4_columnLengthOf : MethodName := ⟨RX4, "columnLengthOf", "(II)I"⟩
def dkwX4_columnLengthOf_1 : List UInt8 := [104, 21, 4, 28, 184, 0, 197, 96, 62, 132, 4, 1, 167, 255, 225, 29, 172]
abbrev dktX4_columnLengthOf_1 : List UInt8 := dkwX4_columnLengthOf_1 ++ []
def dkwX4_columnLengthOf_0 : List UInt8 := [3, 62, 3, 54, 4, 21, 4, 42, 27, 182, 1, 60, 162, 0, 27, 29, 42, 180, 0, 20, 17, 1, 34, 27]
abbrev dktX4_columnLengthOf_0 : List UInt8 := dkwX4_columnLengthOf_0 ++ dktX4_columnLengthOf_1
theorem dksX4_columnLengthOf_0 : cX4_columnLengthOf.data.toList.drop 0 = dktX4_columnLengthOf_0 := by decide +kernel
theorem dksX4_columnLengthOf_1 : cX4_columnLengthOf.data.toList.drop 24 = dktX4_columnLengthOf_1 := dk_seg dksX4_columnLengthOf_0 24 rfl rfl
theorem dX4_columnLengthOf_0 : decode cX4_columnLengthOf 0 = .ok (.iconst 0, 1) := dk_3 (dk_at dksX4_columnLengthOf_0 0 rfl rfl)
theorem dX4_columnLengthOf_1 : decode cX4_columnLengthOf 1 = .ok (.istore_n 3, 1) := dk_62 (dk_at dksX4_columnLengthOf_0 1 rfl rfl)
theorem dX4_columnLengthOf_2 : decode cX4_columnLengthOf 2 = .ok (.iconst 0, 1) := dk_3 (dk_at dksX4_columnLengthOf_0 2 rfl rfl)
theorem dX4_columnLengthOf_3 : decode cX4_columnLengthOf 3 = .ok (.istore 4, 2) := dk_54 4 (dk_at dksX4_columnLengthOf_0 3 rfl rfl)
theorem dX4_columnLengthOf_5 : decode cX4_columnLengthOf 5 = .ok (.iload 4, 2) := dk_21 4 (dk_at dksX4_columnLengthOf_0 5 rfl rfl)
theorem dX4_columnLengthOf_7 : decode cX4_columnLengthOf 7 = .ok (.aload_n 0, 1) := dk_42 (dk_at dksX4_columnLengthOf_0 7 rfl rfl)
theorem dX4_columnLengthOf_8 : decode cX4_columnLengthOf 8 = .ok (.iload_n 1, 1) := dk_27 (dk_at dksX4_columnLengthOf_0 8 rfl rfl)
theorem dX4_columnLengthOf_9 : decode cX4_columnLengthOf 9 = .ok (.invokevirtual 316, 3) := dk_182 1 60 (dk_at dksX4_columnLengthOf_0 9 rfl rfl)
theorem dX4_columnLengthOf_12 : decode cX4_columnLengthOf 12 = .ok (.if_icmp .ge 27, 3) := dk_162 0 27 (dk_at dksX4_columnLengthOf_0 12 rfl rfl)
theorem dX4_columnLengthOf_15 : decode cX4_columnLengthOf 15 = .ok (.iload_n 3, 1) := dk_29 (dk_at dksX4_columnLengthOf_0 15 rfl rfl)
theorem dX4_columnLengthOf_16 : decode cX4_columnLengthOf 16 = .ok (.aload_n 0, 1) := dk_42 (dk_at dksX4_columnLengthOf_0 16 rfl rfl)
theorem dX4_columnLengthOf_17 : decode cX4_columnLengthOf 17 = .ok (.getfield 20, 3) := dk_180 0 20 (dk_at dksX4_columnLengthOf_0 17 rfl rfl)
theorem dX4_columnLengthOf_20 : decode cX4_columnLengthOf 20 = .ok (.sipush 290, 3) := dk_17 1 34 (dk_at dksX4_columnLengthOf_0 20 rfl rfl)
theorem dX4_columnLengthOf_23 : decode cX4_columnLengthOf 23 = .ok (.iload_n 1, 1) := dk_27 (dk_at dksX4_columnLengthOf_0 23 rfl rfl)
theorem dX4_columnLengthOf_24 : decode cX4_columnLengthOf 24 = .ok (.imul, 1) := dk_104 (dk_at dksX4_columnLengthOf_1 0 rfl rfl)
theorem dX4_columnLengthOf_25 : decode cX4_columnLengthOf 25 = .ok (.iload 4, 2) := dk_21 4 (dk_at dksX4_columnLengthOf_1 1 rfl rfl)
theorem dX4_columnLengthOf_27 : decode cX4_columnLengthOf 27 = .ok (.iload_n 2, 1) := dk_28 (dk_at dksX4_columnLengthOf_1 3 rfl rfl)
theorem dX4_columnLengthOf_28 : decode cX4_columnLengthOf 28 = .ok (.invokestatic 197, 3) := dk_184 0 197 (dk_at dksX4_columnLengthOf_1 4 rfl rfl)
theorem dX4_columnLengthOf_31 : decode cX4_columnLengthOf 31 = .ok (.iadd, 1) := dk_96 (dk_at dksX4_columnLengthOf_1 7 rfl rfl)
theorem dX4_columnLengthOf_32 : decode cX4_columnLengthOf 32 = .ok (.istore_n 3, 1) := dk_62 (dk_at dksX4_columnLengthOf_1 8 rfl rfl)
theorem dX4_columnLengthOf_33 : decode cX4_columnLengthOf 33 = .ok (.iinc 4 1, 3) := dk_132 4 1 (dk_at dksX4_columnLengthOf_1 9 rfl rfl)
theorem dX4_columnLengthOf_36 : decode cX4_columnLengthOf 36 = .ok (.goto (-31), 3) := dk_167 255 225 (dk_at dksX4_columnLengthOf_1 12 rfl rfl)
theorem dX4_columnLengthOf_39 : decode cX4_columnLengthOf 39 = .ok (.iload_n 3, 1) := dk_29 (dk_at dksX4_columnLengthOf_1 15 rfl rfl)
theorem dX4_columnLengthOf_40 : decode cX4_columnLengthOf 40 = .ok (.ireturn, 1) := dk_172 (dk_at dksX4_columnLengthOf_1 16 rfl rfl)
abbrev cX4_longestRow : ByteArray := prog_23_method_129_code
def yX4_longestRow : MethodName := ⟨RX4, "longestRow", "(I)I"⟩
def dkwX4_longestRow_0 : List UInt8 := [42, 27, 184, 1, 57, 182, 0, 87, 153, 0, 11, 42, 27, 182, 1, 227, 167, 0, 4, 3, 172]
abbrev dktX4_longestRow_0 : List UInt8 := dkwX4_longestRow_0 ++ []
theorem dksX4_longestRow_0 : cX4_longestRow.data.toList.drop 0 = dktX4_longestRow_0 := by decide +kernel
theorem dX4_longestRow_0 : decode cX4_longestRow 0 = .ok (.aload_n 0, 1) := dk_42 (dk_at dksX4_longestRow_0 0 rfl rfl)
theorem dX4_longestRow_1 : decode cX4_longestRow 1 = .ok (.iload_n 1, 1) := dk_27 (dk_at dksX4_longestRow_0 1 rfl rfl)
theorem dX4_longestRow_2 : decode cX4_longestRow 2 = .ok (.invokestatic 313, 3) := dk_184 1 57 (dk_at dksX4_longestRow_0 2 rfl rfl)
theorem dX4_longestRow_5 : decode cX4_longestRow 5 = .ok (.invokevirtual 87, 3) := dk_182 0 87 (dk_at dksX4_longestRow_0 5 rfl rfl)
theorem dX4_longestRow_8 : decode cX4_longestRow 8 = .ok (.ifCond .eq 11, 3) := dk_153 0 11 (dk_at dksX4_longestRow_0 8 rfl rfl)
theorem dX4_longestRow_11 : decode cX4_longestRow 11 = .ok (.aload_n 0, 1) := dk_42 (dk_at dksX4_longestRow_0 11 rfl rfl)
theorem dX4_longestRow_12 : decode cX4_longestRow 12 = .ok (.iload_n 1, 1) := dk_27 (dk_at dksX4_longestRow_0 12 rfl rfl)
theorem dX4_longestRow_13 : decode cX4_longestRow 13 = .ok (.invokevirtual 483, 3) := dk_182 1 227 (dk_at dksX4_longestRow_0 13 rfl rfl)
theorem dX4_longestRow_16 : decode cX4_longestRow 16 = .ok (.goto 4, 3) := dk_167 0 4 (dk_at dksX4_longestRow_0 16 rfl rfl)
theorem dX4_longestRow_19 : decode cX4_longestRow 19 = .ok (.iconst 0, 1) := dk_3 (dk_at dksX4_longestRow_0 19 rfl rfl)
theorem dX4_longestRow_20 : decode cX4_longestRow 20 = .ok (.ireturn, 1) := dk_172 (dk_at dksX4_longestRow_0 20 rfl rfl)
abbrev cX4_longest : ByteArray := prog_23_method_128_code
def yX4_longest : MethodName := ⟨RX4, "longest", "(I)I"⟩
def dkwX4_longest_1 : List UInt8 := [182, 1, 73, 164, 0, 5, 29, 61, 132, 3, 1, 167, 255, 227, 28, 172]
abbrev dktX4_longest_1 : List UInt8 := dkwX4_longest_1 ++ []
def dkwX4_longest_0 : List UInt8 := [3, 61, 4, 62, 29, 42, 27, 182, 1, 60, 162, 0, 26, 42, 27, 29, 182, 1, 73, 42, 27, 28]
abbrev dktX4_longest_0 : List UInt8 := dkwX4_longest_0 ++ dktX4_longest_1
theorem dksX4_longest_0 : cX4_longest.data.toList.drop 0 = dktX4_longest_0 := by decide +kernel
theorem dksX4_longest_1 : cX4_longest.data.toList.drop 22 = dktX4_longest_1 := dk_seg dksX4_longest_0 22 rfl rfl
theorem dX4_longest_0 : decode cX4_longest 0 = .ok (.iconst 0, 1) := dk_3 (dk_at dksX4_longest_0 0 rfl rfl)
theorem dX4_longest_1 : decode cX4_longest 1 = .ok (.istore_n 2, 1) := dk_61 (dk_at dksX4_longest_0 1 rfl rfl)
theorem dX4_longest_2 : decode cX4_longest 2 = .ok (.iconst 1, 1) := dk_4 (dk_at dksX4_longest_0 2 rfl rfl)
theorem dX4_longest_3 : decode cX4_longest 3 = .ok (.istore_n 3, 1) := dk_62 (dk_at dksX4_longest_0 3 rfl rfl)
theorem dX4_longest_4 : decode cX4_longest 4 = .ok (.iload_n 3, 1) := dk_29 (dk_at dksX4_longest_0 4 rfl rfl)
theorem dX4_longest_5 : decode cX4_longest 5 = .ok (.aload_n 0, 1) := dk_42 (dk_at dksX4_longest_0 5 rfl rfl)
theorem dX4_longest_6 : decode cX4_longest 6 = .ok (.iload_n 1, 1) := dk_27 (dk_at dksX4_longest_0 6 rfl rfl)
theorem dX4_longest_7 : decode cX4_longest 7 = .ok (.invokevirtual 316, 3) := dk_182 1 60 (dk_at dksX4_longest_0 7 rfl rfl)
theorem dX4_longest_10 : decode cX4_longest 10 = .ok (.if_icmp .ge 26, 3) := dk_162 0 26 (dk_at dksX4_longest_0 10 rfl rfl)
theorem dX4_longest_13 : decode cX4_longest 13 = .ok (.aload_n 0, 1) := dk_42 (dk_at dksX4_longest_0 13 rfl rfl)
theorem dX4_longest_14 : decode cX4_longest 14 = .ok (.iload_n 1, 1) := dk_27 (dk_at dksX4_longest_0 14 rfl rfl)
theorem dX4_longest_15 : decode cX4_longest 15 = .ok (.iload_n 3, 1) := dk_29 (dk_at dksX4_longest_0 15 rfl rfl)
theorem dX4_longest_16 : decode cX4_longest 16 = .ok (.invokevirtual 329, 3) := dk_182 1 73 (dk_at dksX4_longest_0 16 rfl rfl)
theorem dX4_longest_19 : decode cX4_longest 19 = .ok (.aload_n 0, 1) := dk_42 (dk_at dksX4_longest_0 19 rfl rfl)
theorem dX4_longest_20 : decode cX4_longest 20 = .ok (.iload_n 1, 1) := dk_27 (dk_at dksX4_longest_0 20 rfl rfl)
theorem dX4_longest_21 : decode cX4_longest 21 = .ok (.iload_n 2, 1) := dk_28 (dk_at dksX4_longest_0 21 rfl rfl)
theorem dX4_longest_22 : decode cX4_longest 22 = .ok (.invokevirtual 329, 3) := dk_182 1 73 (dk_at dksX4_longest_1 0 rfl rfl)
theorem dX4_longest_25 : decode cX4_longest 25 = .ok (.if_icmp .le 5, 3) := dk_164 0 5 (dk_at dksX4_longest_1 3 rfl rfl)
theorem dX4_longest_28 : decode cX4_longest 28 = .ok (.iload_n 3, 1) := dk_29 (dk_at dksX4_longest_1 6 rfl rfl)
theorem dX4_longest_29 : decode cX4_longest 29 = .ok (.istore_n 2, 1) := dk_61 (dk_at dksX4_longest_1 7 rfl rfl)
theorem dX4_longest_30 : decode cX4_longest 30 = .ok (.iinc 3 1, 3) := dk_132 3 1 (dk_at dksX4_longest_1 8 rfl rfl)
theorem dX4_longest_33 : decode cX4_longest 33 = .ok (.goto (-29), 3) := dk_167 255 227 (dk_at dksX4_longest_1 11 rfl rfl)
theorem dX4_longest_36 : decode cX4_longest 36 = .ok (.iload_n 2, 1) := dk_28 (dk_at dksX4_longest_1 14 rfl rfl)
theorem dX4_longest_37 : decode cX4_longest 37 = .ok (.ireturn, 1) := dk_172 (dk_at dksX4_longest_1 15 rfl rfl)
abbrev cX4_emptyRows : ByteArray := prog_23_method_131_code
def yX4_emptyRows : MethodName := ⟨RX4, "emptyRows", "(I)I"⟩
def dkwX4_emptyRows_0 : List UInt8 := [42, 27, 184, 1, 57, 182, 0, 87, 153, 0, 11, 42, 27, 182, 1, 230, 167, 0, 4, 3, 172]
abbrev dktX4_emptyRows_0 : List UInt8 := dkwX4_emptyRows_0 ++ []
theorem dksX4_emptyRows_0 : cX4_emptyRows.data.toList.drop 0 = dktX4_emptyRows_0 := by decide +kernel
theorem dX4_emptyRows_0 : decode cX4_emptyRows 0 = .ok (.aload_n 0, 1) := dk_42 (dk_at dksX4_emptyRows_0 0 rfl rfl)
theorem dX4_emptyRows_1 : decode cX4_emptyRows 1 = .ok (.iload_n 1, 1) := dk_27 (dk_at dksX4_emptyRows_0 1 rfl rfl)
theorem dX4_emptyRows_2 : decode cX4_emptyRows 2 = .ok (.invokestatic 313, 3) := dk_184 1 57 (dk_at dksX4_emptyRows_0 2 rfl rfl)
theorem dX4_emptyRows_5 : decode cX4_emptyRows 5 = .ok (.invokevirtual 87, 3) := dk_182 0 87 (dk_at dksX4_emptyRows_0 5 rfl rfl)
theorem dX4_emptyRows_8 : decode cX4_emptyRows 8 = .ok (.ifCond .eq 11, 3) := dk_153 0 11 (dk_at dksX4_emptyRows_0 8 rfl rfl)
theorem dX4_emptyRows_11 : decode cX4_emptyRows 11 = .ok (.aload_n 0, 1) := dk_42 (dk_at dksX4_emptyRows_0 11 rfl rfl)
theorem dX4_emptyRows_12 : decode cX4_emptyRows 12 = .ok (.iload_n 1, 1) := dk_27 (dk_at dksX4_emptyRows_0 12 rfl rfl)
theorem dX4_emptyRows_13 : decode cX4_emptyRows 13 = .ok (.invokevirtual 486, 3) := dk_182 1 230 (dk_at dksX4_emptyRows_0 13 rfl rfl)
theorem dX4_emptyRows_16 : decode cX4_emptyRows 16 = .ok (.goto 4, 3) := dk_167 0 4 (dk_at dksX4_emptyRows_0 16 rfl rfl)
theorem dX4_emptyRows_19 : decode cX4_emptyRows 19 = .ok (.iconst 0, 1) := dk_3 (dk_at dksX4_emptyRows_0 19 rfl rfl)
theorem dX4_emptyRows_20 : decode cX4_emptyRows 20 = .ok (.ireturn, 1) := dk_172 (dk_at dksX4_emptyRows_0 20 rfl rfl)
abbrev cX4_empties : ByteArray := prog_23_method_130_code
def yX4_empties : MethodName := ⟨RX4, "empties", "(I)I"⟩
def dkwX4_empties_1 : List UInt8 := [167, 0, 4, 3, 184, 0, 80, 96, 61, 132, 3, 1, 167, 255, 224, 28, 172]
abbrev dktX4_empties_1 : List UInt8 := dkwX4_empties_1 ++ []
def dkwX4_empties_0 : List UInt8 := [3, 61, 3, 62, 29, 42, 27, 182, 1, 60, 162, 0, 29, 28, 42, 27, 29, 182, 1, 73, 154, 0, 7, 4]
abbrev dktX4_empties_0 : List UInt8 := dkwX4_empties_0 ++ dktX4_empties_1
theorem dksX4_empties_0 : cX4_empties.data.toList.drop 0 = dktX4_empties_0 := by decide +kernel
theorem dksX4_empties_1 : cX4_empties.data.toList.drop 24 = dktX4_empties_1 := dk_seg dksX4_empties_0 24 rfl rfl
theorem dX4_empties_0 : decode cX4_empties 0 = .ok (.iconst 0, 1) := dk_3 (dk_at dksX4_empties_0 0 rfl rfl)
theorem dX4_empties_1 : decode cX4_empties 1 = .ok (.istore_n 2, 1) := dk_61 (dk_at dksX4_empties_0 1 rfl rfl)
theorem dX4_empties_2 : decode cX4_empties 2 = .ok (.iconst 0, 1) := dk_3 (dk_at dksX4_empties_0 2 rfl rfl)
theorem dX4_empties_3 : decode cX4_empties 3 = .ok (.istore_n 3, 1) := dk_62 (dk_at dksX4_empties_0 3 rfl rfl)
theorem dX4_empties_4 : decode cX4_empties 4 = .ok (.iload_n 3, 1) := dk_29 (dk_at dksX4_empties_0 4 rfl rfl)
theorem dX4_empties_5 : decode cX4_empties 5 = .ok (.aload_n 0, 1) := dk_42 (dk_at dksX4_empties_0 5 rfl rfl)
theorem dX4_empties_6 : decode cX4_empties 6 = .ok (.iload_n 1, 1) := dk_27 (dk_at dksX4_empties_0 6 rfl rfl)
theorem dX4_empties_7 : decode cX4_empties 7 = .ok (.invokevirtual 316, 3) := dk_182 1 60 (dk_at dksX4_empties_0 7 rfl rfl)
theorem dX4_empties_10 : decode cX4_empties 10 = .ok (.if_icmp .ge 29, 3) := dk_162 0 29 (dk_at dksX4_empties_0 10 rfl rfl)
theorem dX4_empties_13 : decode cX4_empties 13 = .ok (.iload_n 2, 1) := dk_28 (dk_at dksX4_empties_0 13 rfl rfl)
theorem dX4_empties_14 : decode cX4_empties 14 = .ok (.aload_n 0, 1) := dk_42 (dk_at dksX4_empties_0 14 rfl rfl)
theorem dX4_empties_15 : decode cX4_empties 15 = .ok (.iload_n 1, 1) := dk_27 (dk_at dksX4_empties_0 15 rfl rfl)
theorem dX4_empties_16 : decode cX4_empties 16 = .ok (.iload_n 3, 1) := dk_29 (dk_at dksX4_empties_0 16 rfl rfl)
theorem dX4_empties_17 : decode cX4_empties 17 = .ok (.invokevirtual 329, 3) := dk_182 1 73 (dk_at dksX4_empties_0 17 rfl rfl)
theorem dX4_empties_20 : decode cX4_empties 20 = .ok (.ifCond .ne 7, 3) := dk_154 0 7 (dk_at dksX4_empties_0 20 rfl rfl)
theorem dX4_empties_23 : decode cX4_empties 23 = .ok (.iconst 1, 1) := dk_4 (dk_at dksX4_empties_0 23 rfl rfl)
theorem dX4_empties_24 : decode cX4_empties 24 = .ok (.goto 4, 3) := dk_167 0 4 (dk_at dksX4_empties_1 0 rfl rfl)
theorem dX4_empties_27 : decode cX4_empties 27 = .ok (.iconst 0, 1) := dk_3 (dk_at dksX4_empties_1 3 rfl rfl)
theorem dX4_empties_28 : decode cX4_empties 28 = .ok (.invokestatic 80, 3) := dk_184 0 80 (dk_at dksX4_empties_1 4 rfl rfl)
theorem dX4_empties_31 : decode cX4_empties 31 = .ok (.iadd, 1) := dk_96 (dk_at dksX4_empties_1 7 rfl rfl)
theorem dX4_empties_32 : decode cX4_empties 32 = .ok (.istore_n 2, 1) := dk_61 (dk_at dksX4_empties_1 8 rfl rfl)
theorem dX4_empties_33 : decode cX4_empties 33 = .ok (.iinc 3 1, 3) := dk_132 3 1 (dk_at dksX4_empties_1 9 rfl rfl)
theorem dX4_empties_36 : decode cX4_empties 36 = .ok (.goto (-32), 3) := dk_167 255 224 (dk_at dksX4_empties_1 12 rfl rfl)
theorem dX4_empties_39 : decode cX4_empties 39 = .ok (.iload_n 2, 1) := dk_28 (dk_at dksX4_empties_1 15 rfl rfl)
theorem dX4_empties_40 : decode cX4_empties 40 = .ok (.ireturn, 1) := dk_172 (dk_at dksX4_empties_1 16 rfl rfl)
abbrev cX4_bandwidth : ByteArray := prog_23_method_134_code
def yX4_bandwidth : MethodName := ⟨RX4, "bandwidth", "(I)I"⟩
def dkwX4_bandwidth_0 : List UInt8 := [42, 27, 184, 1, 57, 182, 0, 87, 153, 0, 11, 42, 27, 182, 1, 236, 167, 0, 4, 3, 172]
abbrev dktX4_bandwidth_0 : List UInt8 := dkwX4_bandwidth_0 ++ []
theorem dksX4_bandwidth_0 : cX4_bandwidth.data.toList.drop 0 = dktX4_bandwidth_0 := by decide +kernel
theorem dX4_bandwidth_0 : decode cX4_bandwidth 0 = .ok (.aload_n 0, 1) := dk_42 (dk_at dksX4_bandwidth_0 0 rfl rfl)
theorem dX4_bandwidth_1 : decode cX4_bandwidth 1 = .ok (.iload_n 1, 1) := dk_27 (dk_at dksX4_bandwidth_0 1 rfl rfl)
theorem dX4_bandwidth_2 : decode cX4_bandwidth 2 = .ok (.invokestatic 313, 3) := dk_184 1 57 (dk_at dksX4_bandwidth_0 2 rfl rfl)
theorem dX4_bandwidth_5 : decode cX4_bandwidth 5 = .ok (.invokevirtual 87, 3) := dk_182 0 87 (dk_at dksX4_bandwidth_0 5 rfl rfl)
theorem dX4_bandwidth_8 : decode cX4_bandwidth 8 = .ok (.ifCond .eq 11, 3) := dk_153 0 11 (dk_at dksX4_bandwidth_0 8 rfl rfl)
theorem dX4_bandwidth_11 : decode cX4_bandwidth 11 = .ok (.aload_n 0, 1) := dk_42 (dk_at dksX4_bandwidth_0 11 rfl rfl)
theorem dX4_bandwidth_12 : decode cX4_bandwidth 12 = .ok (.iload_n 1, 1) := dk_27 (dk_at dksX4_bandwidth_0 12 rfl rfl)
theorem dX4_bandwidth_13 : decode cX4_bandwidth 13 = .ok (.invokevirtual 492, 3) := dk_182 1 236 (dk_at dksX4_bandwidth_0 13 rfl rfl)
theorem dX4_bandwidth_16 : decode cX4_bandwidth 16 = .ok (.goto 4, 3) := dk_167 0 4 (dk_at dksX4_bandwidth_0 16 rfl rfl)
theorem dX4_bandwidth_19 : decode cX4_bandwidth 19 = .ok (.iconst 0, 1) := dk_3 (dk_at dksX4_bandwidth_0 19 rfl rfl)
theorem dX4_bandwidth_20 : decode cX4_bandwidth 20 = .ok (.ireturn, 1) := dk_172 (dk_at dksX4_bandwidth_0 20 rfl rfl)
abbrev cX4_band : ByteArray := prog_23_method_133_code
def yX4_band : MethodName := ⟨RX4, "band", "(I)I"⟩
def dkwX4_band_3 : List UInt8 := [172]
abbrev dktX4_band_3 : List UInt8 := dkwX4_band_3 ++ []
def dkwX4_band_2 : List UInt8 := [164, 0, 11, 29, 21, 4, 100, 184, 1, 233, 61, 132, 4, 1, 167, 255, 213, 132, 3, 1, 167, 255, 195, 28]
abbrev dktX4_band_2 : List UInt8 := dkwX4_band_2 ++ dktX4_band_3
def dkwX4_band_1 : List UInt8 := [162, 0, 39, 42, 27, 29, 21, 4, 182, 1, 89, 153, 0, 22, 29, 21, 4, 100, 184, 1, 233, 28]
abbrev dktX4_band_1 : List UInt8 := dkwX4_band_1 ++ dktX4_band_2
def dkwX4_band_0 : List UInt8 := [2, 61, 3, 62, 29, 42, 27, 182, 1, 60, 162, 0, 58, 3, 54, 4, 21, 4, 42, 27, 182, 1, 66]
abbrev dktX4_band_0 : List UInt8 := dkwX4_band_0 ++ dktX4_band_1
theorem dksX4_band_0 : cX4_band.data.toList.drop 0 = dktX4_band_0 := by decide +kernel
theorem dksX4_band_1 : cX4_band.data.toList.drop 23 = dktX4_band_1 := dk_seg dksX4_band_0 23 rfl rfl
theorem dksX4_band_2 : cX4_band.data.toList.drop 45 = dktX4_band_2 := dk_seg dksX4_band_1 22 rfl rfl
theorem dksX4_band_3 : cX4_band.data.toList.drop 69 = dktX4_band_3 := dk_seg dksX4_band_2 24 rfl rfl
theorem dX4_band_0 : decode cX4_band 0 = .ok (.iconst (-1), 1) := dk_2 (dk_at dksX4_band_0 0 rfl rfl)
theorem dX4_band_1 : decode cX4_band 1 = .ok (.istore_n 2, 1) := dk_61 (dk_at dksX4_band_0 1 rfl rfl)
theorem dX4_band_2 : decode cX4_band 2 = .ok (.iconst 0, 1) := dk_3 (dk_at dksX4_band_0 2 rfl rfl)
theorem dX4_band_3 : decode cX4_band 3 = .ok (.istore_n 3, 1) := dk_62 (dk_at dksX4_band_0 3 rfl rfl)
theorem dX4_band_4 : decode cX4_band 4 = .ok (.iload_n 3, 1) := dk_29 (dk_at dksX4_band_0 4 rfl rfl)
theorem dX4_band_5 : decode cX4_band 5 = .ok (.aload_n 0, 1) := dk_42 (dk_at dksX4_band_0 5 rfl rfl)
theorem dX4_band_6 : decode cX4_band 6 = .ok (.iload_n 1, 1) := dk_27 (dk_at dksX4_band_0 6 rfl rfl)
theorem dX4_band_7 : decode cX4_band 7 = .ok (.invokevirtual 316, 3) := dk_182 1 60 (dk_at dksX4_band_0 7 rfl rfl)
theorem dX4_band_10 : decode cX4_band 10 = .ok (.if_icmp .ge 58, 3) := dk_162 0 58 (dk_at dksX4_band_0 10 rfl rfl)
theorem dX4_band_13 : decode cX4_band 13 = .ok (.iconst 0, 1) := dk_3 (dk_at dksX4_band_0 13 rfl rfl)
theorem dX4_band_14 : decode cX4_band 14 = .ok (.istore 4, 2) := dk_54 4 (dk_at dksX4_band_0 14 rfl rfl)
theorem dX4_band_16 : decode cX4_band 16 = .ok (.iload 4, 2) := dk_21 4 (dk_at dksX4_band_0 16 rfl rfl)
theorem dX4_band_18 : decode cX4_band 18 = .ok (.aload_n 0, 1) := dk_42 (dk_at dksX4_band_0 18 rfl rfl)
theorem dX4_band_19 : decode cX4_band 19 = .ok (.iload_n 1, 1) := dk_27 (dk_at dksX4_band_0 19 rfl rfl)
theorem dX4_band_20 : decode cX4_band 20 = .ok (.invokevirtual 322, 3) := dk_182 1 66 (dk_at dksX4_band_0 20 rfl rfl)
theorem dX4_band_23 : decode cX4_band 23 = .ok (.if_icmp .ge 39, 3) := dk_162 0 39 (dk_at dksX4_band_1 0 rfl rfl)
theorem dX4_band_26 : decode cX4_band 26 = .ok (.aload_n 0, 1) := dk_42 (dk_at dksX4_band_1 3 rfl rfl)
theorem dX4_band_27 : decode cX4_band 27 = .ok (.iload_n 1, 1) := dk_27 (dk_at dksX4_band_1 4 rfl rfl)
theorem dX4_band_28 : decode cX4_band 28 = .ok (.iload_n 3, 1) := dk_29 (dk_at dksX4_band_1 5 rfl rfl)
theorem dX4_band_29 : decode cX4_band 29 = .ok (.iload 4, 2) := dk_21 4 (dk_at dksX4_band_1 6 rfl rfl)
theorem dX4_band_31 : decode cX4_band 31 = .ok (.invokevirtual 345, 3) := dk_182 1 89 (dk_at dksX4_band_1 8 rfl rfl)
theorem dX4_band_34 : decode cX4_band 34 = .ok (.ifCond .eq 22, 3) := dk_153 0 22 (dk_at dksX4_band_1 11 rfl rfl)
theorem dX4_band_37 : decode cX4_band 37 = .ok (.iload_n 3, 1) := dk_29 (dk_at dksX4_band_1 14 rfl rfl)
theorem dX4_band_38 : decode cX4_band 38 = .ok (.iload 4, 2) := dk_21 4 (dk_at dksX4_band_1 15 rfl rfl)
theorem dX4_band_40 : decode cX4_band 40 = .ok (.isub, 1) := dk_100 (dk_at dksX4_band_1 17 rfl rfl)
theorem dX4_band_41 : decode cX4_band 41 = .ok (.invokestatic 489, 3) := dk_184 1 233 (dk_at dksX4_band_1 18 rfl rfl)
theorem dX4_band_44 : decode cX4_band 44 = .ok (.iload_n 2, 1) := dk_28 (dk_at dksX4_band_1 21 rfl rfl)
theorem dX4_band_45 : decode cX4_band 45 = .ok (.if_icmp .le 11, 3) := dk_164 0 11 (dk_at dksX4_band_2 0 rfl rfl)
theorem dX4_band_48 : decode cX4_band 48 = .ok (.iload_n 3, 1) := dk_29 (dk_at dksX4_band_2 3 rfl rfl)
theorem dX4_band_49 : decode cX4_band 49 = .ok (.iload 4, 2) := dk_21 4 (dk_at dksX4_band_2 4 rfl rfl)
theorem dX4_band_51 : decode cX4_band 51 = .ok (.isub, 1) := dk_100 (dk_at dksX4_band_2 6 rfl rfl)
theorem dX4_band_52 : decode cX4_band 52 = .ok (.invokestatic 489, 3) := dk_184 1 233 (dk_at dksX4_band_2 7 rfl rfl)
theorem dX4_band_55 : decode cX4_band 55 = .ok (.istore_n 2, 1) := dk_61 (dk_at dksX4_band_2 10 rfl rfl)
theorem dX4_band_56 : decode cX4_band 56 = .ok (.iinc 4 1, 3) := dk_132 4 1 (dk_at dksX4_band_2 11 rfl rfl)
theorem dX4_band_59 : decode cX4_band 59 = .ok (.goto (-43), 3) := dk_167 255 213 (dk_at dksX4_band_2 14 rfl rfl)
theorem dX4_band_62 : decode cX4_band 62 = .ok (.iinc 3 1, 3) := dk_132 3 1 (dk_at dksX4_band_2 17 rfl rfl)
theorem dX4_band_65 : decode cX4_band 65 = .ok (.goto (-61), 3) := dk_167 255 195 (dk_at dksX4_band_2 20 rfl rfl)
theorem dX4_band_68 : decode cX4_band 68 = .ok (.iload_n 2, 1) := dk_28 (dk_at dksX4_band_2 23 rfl rfl)
theorem dX4_band_69 : decode cX4_band 69 = .ok (.ireturn, 1) := dk_172 (dk_at dksX4_band_3 0 rfl rfl)
abbrev cX4_without : ByteArray := prog_23_method_132_code
def yX4_without : MethodName := ⟨RX4, "without", "(I)I"⟩
def dkwX4_without_0 : List UInt8 := [26, 156, 0, 8, 26, 116, 167, 0, 4, 26, 172]
abbrev dktX4_without_0 : List UInt8 := dkwX4_without_0 ++ []
theorem dksX4_without_0 : cX4_without.data.toList.drop 0 = dktX4_without_0 := by decide +kernel
theorem dX4_without_0 : decode cX4_without 0 = .ok (.iload_n 0, 1) := dk_26 (dk_at dksX4_without_0 0 rfl rfl)
theorem dX4_without_1 : decode cX4_without 1 = .ok (.ifCond .ge 8, 3) := dk_156 0 8 (dk_at dksX4_without_0 1 rfl rfl)
theorem dX4_without_4 : decode cX4_without 4 = .ok (.iload_n 0, 1) := dk_26 (dk_at dksX4_without_0 4 rfl rfl)
theorem dX4_without_5 : decode cX4_without 5 = .ok (.ineg, 1) := dk_116 (dk_at dksX4_without_0 5 rfl rfl)
theorem dX4_without_6 : decode cX4_without 6 = .ok (.goto 4, 3) := dk_167 0 4 (dk_at dksX4_without_0 6 rfl rfl)
theorem dX4_without_9 : decode cX4_without 9 = .ok (.iload_n 0, 1) := dk_26 (dk_at dksX4_without_0 9 rfl rfl)
theorem dX4_without_10 : decode cX4_without 10 = .ok (.ireturn, 1) := dk_172 (dk_at dksX4_without_0 10 rfl rfl)
abbrev cX4_rowSum : ByteArray := prog_23_method_136_code
def yX4_rowSum : MethodName := ⟨RX4, "rowSum", "(II)I"⟩
def dkwX4_rowSum_0 : List UInt8 := [42, 42, 27, 28, 182, 1, 63, 182, 0, 87, 153, 0, 12, 42, 27, 28, 182, 1, 239, 167, 0, 4, 3, 172]
abbrev dktX4_rowSum_0 : List UInt8 := dkwX4_rowSum_0 ++ []
theorem dksX4_rowSum_0 : cX4_rowSum.data.toList.drop 0 = dktX4_rowSum_0 := by decide +kernel
theorem dX4_rowSum_0 : decode cX4_rowSum 0 = .ok (.aload_n 0, 1) := dk_42 (dk_at dksX4_rowSum_0 0 rfl rfl)
theorem dX4_rowSum_1 : decode cX4_rowSum 1 = .ok (.aload_n 0, 1) := dk_42 (dk_at dksX4_rowSum_0 1 rfl rfl)
theorem dX4_rowSum_2 : decode cX4_rowSum 2 = .ok (.iload_n 1, 1) := dk_27 (dk_at dksX4_rowSum_0 2 rfl rfl)
theorem dX4_rowSum_3 : decode cX4_rowSum 3 = .ok (.iload_n 2, 1) := dk_28 (dk_at dksX4_rowSum_0 3 rfl rfl)
theorem dX4_rowSum_4 : decode cX4_rowSum 4 = .ok (.invokevirtual 319, 3) := dk_182 1 63 (dk_at dksX4_rowSum_0 4 rfl rfl)
theorem dX4_rowSum_7 : decode cX4_rowSum 7 = .ok (.invokevirtual 87, 3) := dk_182 0 87 (dk_at dksX4_rowSum_0 7 rfl rfl)
theorem dX4_rowSum_10 : decode cX4_rowSum 10 = .ok (.ifCond .eq 12, 3) := dk_153 0 12 (dk_at dksX4_rowSum_0 10 rfl rfl)
theorem dX4_rowSum_13 : decode cX4_rowSum 13 = .ok (.aload_n 0, 1) := dk_42 (dk_at dksX4_rowSum_0 13 rfl rfl)
theorem dX4_rowSum_14 : decode cX4_rowSum 14 = .ok (.iload_n 1, 1) := dk_27 (dk_at dksX4_rowSum_0 14 rfl rfl)
theorem dX4_rowSum_15 : decode cX4_rowSum 15 = .ok (.iload_n 2, 1) := dk_28 (dk_at dksX4_rowSum_0 15 rfl rfl)
theorem dX4_rowSum_16 : decode cX4_rowSum 16 = .ok (.invokevirtual 495, 3) := dk_182 1 239 (dk_at dksX4_rowSum_0 16 rfl rfl)
theorem dX4_rowSum_19 : decode cX4_rowSum 19 = .ok (.goto 4, 3) := dk_167 0 4 (dk_at dksX4_rowSum_0 19 rfl rfl)
theorem dX4_rowSum_22 : decode cX4_rowSum 22 = .ok (.iconst 0, 1) := dk_3 (dk_at dksX4_rowSum_0 22 rfl rfl)
theorem dX4_rowSum_23 : decode cX4_rowSum 23 = .ok (.ireturn, 1) := dk_172 (dk_at dksX4_rowSum_0 23 rfl rfl)
abbrev cX4_sumOf : ByteArray := prog_23_method_135_code
def yX4_sumOf : MethodName := ⟨RX4, "sumOf", "(II)I"⟩
def dkwX4_sumOf_1 : List UInt8 := [96, 62, 132, 4, 1, 167, 255, 232, 29, 172]
abbrev dktX4_sumOf_1 : List UInt8 := dkwX4_sumOf_1 ++ []
def dkwX4_sumOf_0 : List UInt8 := [3, 62, 3, 54, 4, 21, 4, 42, 27, 182, 1, 66, 162, 0, 20, 29, 42, 27, 28, 21, 4, 182, 1, 83]
abbrev dktX4_sumOf_0 : List UInt8 := dkwX4_sumOf_0 ++ dktX4_sumOf_1
theorem dksX4_sumOf_0 : cX4_sumOf.data.toList.drop 0 = dktX4_sumOf_0 := by decide +kernel
theorem dksX4_sumOf_1 : cX4_sumOf.data.toList.drop 24 = dktX4_sumOf_1 := dk_seg dksX4_sumOf_0 24 rfl rfl
theorem dX4_sumOf_0 : decode cX4_sumOf 0 = .ok (.iconst 0, 1) := dk_3 (dk_at dksX4_sumOf_0 0 rfl rfl)
theorem dX4_sumOf_1 : decode cX4_sumOf 1 = .ok (.istore_n 3, 1) := dk_62 (dk_at dksX4_sumOf_0 1 rfl rfl)
theorem dX4_sumOf_2 : decode cX4_sumOf 2 = .ok (.iconst 0, 1) := dk_3 (dk_at dksX4_sumOf_0 2 rfl rfl)
theorem dX4_sumOf_3 : decode cX4_sumOf 3 = .ok (.istore 4, 2) := dk_54 4 (dk_at dksX4_sumOf_0 3 rfl rfl)
theorem dX4_sumOf_5 : decode cX4_sumOf 5 = .ok (.iload 4, 2) := dk_21 4 (dk_at dksX4_sumOf_0 5 rfl rfl)
theorem dX4_sumOf_7 : decode cX4_sumOf 7 = .ok (.aload_n 0, 1) := dk_42 (dk_at dksX4_sumOf_0 7 rfl rfl)
theorem dX4_sumOf_8 : decode cX4_sumOf 8 = .ok (.iload_n 1, 1) := dk_27 (dk_at dksX4_sumOf_0 8 rfl rfl)
theorem dX4_sumOf_9 : decode cX4_sumOf 9 = .ok (.invokevirtual 322, 3) := dk_182 1 66 (dk_at dksX4_sumOf_0 9 rfl rfl)
theorem dX4_sumOf_12 : decode cX4_sumOf 12 = .ok (.if_icmp .ge 20, 3) := dk_162 0 20 (dk_at dksX4_sumOf_0 12 rfl rfl)
theorem dX4_sumOf_15 : decode cX4_sumOf 15 = .ok (.iload_n 3, 1) := dk_29 (dk_at dksX4_sumOf_0 15 rfl rfl)
theorem dX4_sumOf_16 : decode cX4_sumOf 16 = .ok (.aload_n 0, 1) := dk_42 (dk_at dksX4_sumOf_0 16 rfl rfl)
theorem dX4_sumOf_17 : decode cX4_sumOf 17 = .ok (.iload_n 1, 1) := dk_27 (dk_at dksX4_sumOf_0 17 rfl rfl)
theorem dX4_sumOf_18 : decode cX4_sumOf 18 = .ok (.iload_n 2, 1) := dk_28 (dk_at dksX4_sumOf_0 18 rfl rfl)
theorem dX4_sumOf_19 : decode cX4_sumOf 19 = .ok (.iload 4, 2) := dk_21 4 (dk_at dksX4_sumOf_0 19 rfl rfl)
theorem dX4_sumOf_21 : decode cX4_sumOf 21 = .ok (.invokevirtual 339, 3) := dk_182 1 83 (dk_at dksX4_sumOf_0 21 rfl rfl)
theorem dX4_sumOf_24 : decode cX4_sumOf 24 = .ok (.iadd, 1) := dk_96 (dk_at dksX4_sumOf_1 0 rfl rfl)
theorem dX4_sumOf_25 : decode cX4_sumOf 25 = .ok (.istore_n 3, 1) := dk_62 (dk_at dksX4_sumOf_1 1 rfl rfl)
theorem dX4_sumOf_26 : decode cX4_sumOf 26 = .ok (.iinc 4 1, 3) := dk_132 4 1 (dk_at dksX4_sumOf_1 2 rfl rfl)
theorem dX4_sumOf_29 : decode cX4_sumOf 29 = .ok (.goto (-24), 3) := dk_167 255 232 (dk_at dksX4_sumOf_1 5 rfl rfl)
theorem dX4_sumOf_32 : decode cX4_sumOf 32 = .ok (.iload_n 3, 1) := dk_29 (dk_at dksX4_sumOf_1 8 rfl rfl)
theorem dX4_sumOf_33 : decode cX4_sumOf 33 = .ok (.ireturn, 1) := dk_172 (dk_at dksX4_sumOf_1 9 rfl rfl)
abbrev cX4_largestMagnitude : ByteArray := prog_23_method_138_code
def yX4_largestMagnitude : MethodName := ⟨RX4, "largestMagnitude", "(I)I"⟩
def dkwX4_largestMagnitude_0 : List UInt8 := [42, 27, 184, 1, 57, 182, 0, 87, 153, 0, 11, 42, 27, 182, 1, 242, 167, 0, 4, 3, 172]
abbrev dktX4_largestMagnitude_0 : List UInt8 := dkwX4_largestMagnitude_0 ++ []
theorem dksX4_largestMagnitude_0 : cX4_largestMagnitude.data.toList.drop 0 = dktX4_largestMagnitude_0 := by decide +kernel
theorem dX4_largestMagnitude_0 : decode cX4_largestMagnitude 0 = .ok (.aload_n 0, 1) := dk_42 (dk_at dksX4_largestMagnitude_0 0 rfl rfl)
theorem dX4_largestMagnitude_1 : decode cX4_largestMagnitude 1 = .ok (.iload_n 1, 1) := dk_27 (dk_at dksX4_largestMagnitude_0 1 rfl rfl)
theorem dX4_largestMagnitude_2 : decode cX4_largestMagnitude 2 = .ok (.invokestatic 313, 3) := dk_184 1 57 (dk_at dksX4_largestMagnitude_0 2 rfl rfl)
theorem dX4_largestMagnitude_5 : decode cX4_largestMagnitude 5 = .ok (.invokevirtual 87, 3) := dk_182 0 87 (dk_at dksX4_largestMagnitude_0 5 rfl rfl)
theorem dX4_largestMagnitude_8 : decode cX4_largestMagnitude 8 = .ok (.ifCond .eq 11, 3) := dk_153 0 11 (dk_at dksX4_largestMagnitude_0 8 rfl rfl)
theorem dX4_largestMagnitude_11 : decode cX4_largestMagnitude 11 = .ok (.aload_n 0, 1) := dk_42 (dk_at dksX4_largestMagnitude_0 11 rfl rfl)
theorem dX4_largestMagnitude_12 : decode cX4_largestMagnitude 12 = .ok (.iload_n 1, 1) := dk_27 (dk_at dksX4_largestMagnitude_0 12 rfl rfl)
theorem dX4_largestMagnitude_13 : decode cX4_largestMagnitude 13 = .ok (.invokevirtual 498, 3) := dk_182 1 242 (dk_at dksX4_largestMagnitude_0 13 rfl rfl)
theorem dX4_largestMagnitude_16 : decode cX4_largestMagnitude 16 = .ok (.goto 4, 3) := dk_167 0 4 (dk_at dksX4_largestMagnitude_0 16 rfl rfl)
theorem dX4_largestMagnitude_19 : decode cX4_largestMagnitude 19 = .ok (.iconst 0, 1) := dk_3 (dk_at dksX4_largestMagnitude_0 19 rfl rfl)
theorem dX4_largestMagnitude_20 : decode cX4_largestMagnitude 20 = .ok (.ireturn, 1) := dk_172 (dk_at dksX4_largestMagnitude_0 20 rfl rfl)
abbrev cX4_largest : ByteArray := prog_23_method_137_code
def yX4_largest : MethodName := ⟨RX4, "largest", "(I)I"⟩
def dkwX4_largest_2 : List UInt8 := [96, 46, 184, 1, 233, 61, 132, 3, 1, 167, 255, 203, 28, 172]
abbrev dktX4_largest_2 : List UInt8 := dkwX4_largest_2 ++ []
def dkwX4_largest_1 : List UInt8 := [29, 96, 46, 184, 1, 233, 28, 164, 0, 23, 42, 180, 0, 20, 17, 1, 34, 27, 104, 17, 0, 146, 96, 29]
abbrev dktX4_largest_1 : List UInt8 := dkwX4_largest_1 ++ dktX4_largest_2
def dkwX4_largest_0 : List UInt8 := [3, 61, 3, 62, 29, 17, 0, 144, 162, 0, 52, 42, 180, 0, 20, 17, 1, 34, 27, 104, 17, 0, 146, 96]
abbrev dktX4_largest_0 : List UInt8 := dkwX4_largest_0 ++ dktX4_largest_1
theorem dksX4_largest_0 : cX4_largest.data.toList.drop 0 = dktX4_largest_0 := by decide +kernel
theorem dksX4_largest_1 : cX4_largest.data.toList.drop 24 = dktX4_largest_1 := dk_seg dksX4_largest_0 24 rfl rfl
theorem dksX4_largest_2 : cX4_largest.data.toList.drop 48 = dktX4_largest_2 := dk_seg dksX4_largest_1 24 rfl rfl
theorem dX4_largest_0 : decode cX4_largest 0 = .ok (.iconst 0, 1) := dk_3 (dk_at dksX4_largest_0 0 rfl rfl)
theorem dX4_largest_1 : decode cX4_largest 1 = .ok (.istore_n 2, 1) := dk_61 (dk_at dksX4_largest_0 1 rfl rfl)
theorem dX4_largest_2 : decode cX4_largest 2 = .ok (.iconst 0, 1) := dk_3 (dk_at dksX4_largest_0 2 rfl rfl)
theorem dX4_largest_3 : decode cX4_largest 3 = .ok (.istore_n 3, 1) := dk_62 (dk_at dksX4_largest_0 3 rfl rfl)
theorem dX4_largest_4 : decode cX4_largest 4 = .ok (.iload_n 3, 1) := dk_29 (dk_at dksX4_largest_0 4 rfl rfl)
theorem dX4_largest_5 : decode cX4_largest 5 = .ok (.sipush 144, 3) := dk_17 0 144 (dk_at dksX4_largest_0 5 rfl rfl)
theorem dX4_largest_8 : decode cX4_largest 8 = .ok (.if_icmp .ge 52, 3) := dk_162 0 52 (dk_at dksX4_largest_0 8 rfl rfl)
theorem dX4_largest_11 : decode cX4_largest 11 = .ok (.aload_n 0, 1) := dk_42 (dk_at dksX4_largest_0 11 rfl rfl)
theorem dX4_largest_12 : decode cX4_largest 12 = .ok (.getfield 20, 3) := dk_180 0 20 (dk_at dksX4_largest_0 12 rfl rfl)
theorem dX4_largest_15 : decode cX4_largest 15 = .ok (.sipush 290, 3) := dk_17 1 34 (dk_at dksX4_largest_0 15 rfl rfl)
theorem dX4_largest_18 : decode cX4_largest 18 = .ok (.iload_n 1, 1) := dk_27 (dk_at dksX4_largest_0 18 rfl rfl)
theorem dX4_largest_19 : decode cX4_largest 19 = .ok (.imul, 1) := dk_104 (dk_at dksX4_largest_0 19 rfl rfl)
theorem dX4_largest_20 : decode cX4_largest 20 = .ok (.sipush 146, 3) := dk_17 0 146 (dk_at dksX4_largest_0 20 rfl rfl)
theorem dX4_largest_23 : decode cX4_largest 23 = .ok (.iadd, 1) := dk_96 (dk_at dksX4_largest_0 23 rfl rfl)
theorem dX4_largest_24 : decode cX4_largest 24 = .ok (.iload_n 3, 1) := dk_29 (dk_at dksX4_largest_1 0 rfl rfl)
theorem dX4_largest_25 : decode cX4_largest 25 = .ok (.iadd, 1) := dk_96 (dk_at dksX4_largest_1 1 rfl rfl)
theorem dX4_largest_26 : decode cX4_largest 26 = .ok (.iaload, 1) := dk_46 (dk_at dksX4_largest_1 2 rfl rfl)
theorem dX4_largest_27 : decode cX4_largest 27 = .ok (.invokestatic 489, 3) := dk_184 1 233 (dk_at dksX4_largest_1 3 rfl rfl)
theorem dX4_largest_30 : decode cX4_largest 30 = .ok (.iload_n 2, 1) := dk_28 (dk_at dksX4_largest_1 6 rfl rfl)
theorem dX4_largest_31 : decode cX4_largest 31 = .ok (.if_icmp .le 23, 3) := dk_164 0 23 (dk_at dksX4_largest_1 7 rfl rfl)
theorem dX4_largest_34 : decode cX4_largest 34 = .ok (.aload_n 0, 1) := dk_42 (dk_at dksX4_largest_1 10 rfl rfl)
theorem dX4_largest_35 : decode cX4_largest 35 = .ok (.getfield 20, 3) := dk_180 0 20 (dk_at dksX4_largest_1 11 rfl rfl)
theorem dX4_largest_38 : decode cX4_largest 38 = .ok (.sipush 290, 3) := dk_17 1 34 (dk_at dksX4_largest_1 14 rfl rfl)
theorem dX4_largest_41 : decode cX4_largest 41 = .ok (.iload_n 1, 1) := dk_27 (dk_at dksX4_largest_1 17 rfl rfl)
theorem dX4_largest_42 : decode cX4_largest 42 = .ok (.imul, 1) := dk_104 (dk_at dksX4_largest_1 18 rfl rfl)
theorem dX4_largest_43 : decode cX4_largest 43 = .ok (.sipush 146, 3) := dk_17 0 146 (dk_at dksX4_largest_1 19 rfl rfl)
theorem dX4_largest_46 : decode cX4_largest 46 = .ok (.iadd, 1) := dk_96 (dk_at dksX4_largest_1 22 rfl rfl)
theorem dX4_largest_47 : decode cX4_largest 47 = .ok (.iload_n 3, 1) := dk_29 (dk_at dksX4_largest_1 23 rfl rfl)
theorem dX4_largest_48 : decode cX4_largest 48 = .ok (.iadd, 1) := dk_96 (dk_at dksX4_largest_2 0 rfl rfl)
theorem dX4_largest_49 : decode cX4_largest 49 = .ok (.iaload, 1) := dk_46 (dk_at dksX4_largest_2 1 rfl rfl)
theorem dX4_largest_50 : decode cX4_largest 50 = .ok (.invokestatic 489, 3) := dk_184 1 233 (dk_at dksX4_largest_2 2 rfl rfl)
theorem dX4_largest_53 : decode cX4_largest 53 = .ok (.istore_n 2, 1) := dk_61 (dk_at dksX4_largest_2 5 rfl rfl)
theorem dX4_largest_54 : decode cX4_largest 54 = .ok (.iinc 3 1, 3) := dk_132 3 1 (dk_at dksX4_largest_2 6 rfl rfl)
theorem dX4_largest_57 : decode cX4_largest 57 = .ok (.goto (-53), 3) := dk_167 255 203 (dk_at dksX4_largest_2 9 rfl rfl)
theorem dX4_largest_60 : decode cX4_largest 60 = .ok (.iload_n 2, 1) := dk_28 (dk_at dksX4_largest_2 12 rfl rfl)
theorem dX4_largest_61 : decode cX4_largest 61 = .ok (.ireturn, 1) := dk_172 (dk_at dksX4_largest_2 13 rfl rfl)