/-! CsrCalculator$World -/
set_option maxRecDepth 100000
def RX2 : String := "CsrCalculator$World"
def TX2 : u_T := fun k => match k with
  | 0 => ("CsrCalculator$World", "registers", "[LCsrCalculator$Csr;", false)
  | _ => ("CsrCalculator$World", "work", "I", false)
def tyX2 : Nat → FieldType := fun k => match k with
  | 0 => .array (.object "CsrCalculator$Csr")
  | _ => .int
abbrev wsX20 : List Cond := u_ws RX2 TX2 2
theorem nmX2 : ∀ a, a < 2 → ∀ b, b < 2 → a ≠ b → (TX2 a).2.1 ≠ (TX2 b).2.1 := by decide +kernel
theorem tyX2_ok : ∀ k, k < 2 → parseFieldDescriptor (TX2 k).2.2.1 = some (tyX2 k) := by decide +kernel
abbrev cX2_init : ByteArray := prog_20_method_1_code
def yX2_init : MethodName := ⟨RX2, "<init>", "()V"⟩
def dkwX2_init_2 : List UInt8 := [187, 0, 9, 89, 6, 6, 183, 0, 11, 83, 181, 0, 14, 177]
abbrev dktX2_init_2 : List UInt8 := dkwX2_init_2 ++ []
def dkwX2_init_1 : List UInt8 := [187, 0, 9, 89, 6, 6, 183, 0, 11, 83, 89, 5, 187, 0, 9, 89, 6, 6, 183, 0, 11, 83, 89, 6]
abbrev dktX2_init_1 : List UInt8 := dkwX2_init_1 ++ dktX2_init_2
def dkwX2_init_0 : List UInt8 := [42, 183, 0, 3, 42, 7, 189, 0, 9, 89, 3, 187, 0, 9, 89, 6, 6, 183, 0, 11, 83, 89, 4]
abbrev dktX2_init_0 : List UInt8 := dkwX2_init_0 ++ dktX2_init_1
theorem dksX2_init_0 : cX2_init.data.toList.drop 0 = dktX2_init_0 := by decide +kernel
theorem dksX2_init_1 : cX2_init.data.toList.drop 23 = dktX2_init_1 := dk_seg dksX2_init_0 23 rfl rfl
theorem dksX2_init_2 : cX2_init.data.toList.drop 47 = dktX2_init_2 := dk_seg dksX2_init_1 24 rfl rfl
theorem dX2_init_0 : decode cX2_init 0 = .ok (.aload_n 0, 1) := dk_42 (dk_at dksX2_init_0 0 rfl rfl)
theorem dX2_init_1 : decode cX2_init 1 = .ok (.invokespecial 3, 3) := dk_183 0 3 (dk_at dksX2_init_0 1 rfl rfl)
theorem dX2_init_4 : decode cX2_init 4 = .ok (.aload_n 0, 1) := dk_42 (dk_at dksX2_init_0 4 rfl rfl)
theorem dX2_init_5 : decode cX2_init 5 = .ok (.iconst 4, 1) := dk_7 (dk_at dksX2_init_0 5 rfl rfl)
theorem dX2_init_6 : decode cX2_init 6 = .ok (.anewarray 9, 3) := dk_189 0 9 (dk_at dksX2_init_0 6 rfl rfl)
theorem dX2_init_9 : decode cX2_init 9 = .ok (.dup, 1) := dk_89 (dk_at dksX2_init_0 9 rfl rfl)
theorem dX2_init_10 : decode cX2_init 10 = .ok (.iconst 0, 1) := dk_3 (dk_at dksX2_init_0 10 rfl rfl)
theorem dX2_init_11 : decode cX2_init 11 = .ok (.new 9, 3) := dk_187 0 9 (dk_at dksX2_init_0 11 rfl rfl)
theorem dX2_init_14 : decode cX2_init 14 = .ok (.dup, 1) := dk_89 (dk_at dksX2_init_0 14 rfl rfl)
theorem dX2_init_15 : decode cX2_init 15 = .ok (.iconst 3, 1) := dk_6 (dk_at dksX2_init_0 15 rfl rfl)
theorem dX2_init_16 : decode cX2_init 16 = .ok (.iconst 3, 1) := dk_6 (dk_at dksX2_init_0 16 rfl rfl)
theorem dX2_init_17 : decode cX2_init 17 = .ok (.invokespecial 11, 3) := dk_183 0 11 (dk_at dksX2_init_0 17 rfl rfl)
theorem dX2_init_20 : decode cX2_init 20 = .ok (.aastore, 1) := dk_83 (dk_at dksX2_init_0 20 rfl rfl)
theorem dX2_init_21 : decode cX2_init 21 = .ok (.dup, 1) := dk_89 (dk_at dksX2_init_0 21 rfl rfl)
theorem dX2_init_22 : decode cX2_init 22 = .ok (.iconst 1, 1) := dk_4 (dk_at dksX2_init_0 22 rfl rfl)
theorem dX2_init_23 : decode cX2_init 23 = .ok (.new 9, 3) := dk_187 0 9 (dk_at dksX2_init_1 0 rfl rfl)
theorem dX2_init_26 : decode cX2_init 26 = .ok (.dup, 1) := dk_89 (dk_at dksX2_init_1 3 rfl rfl)
theorem dX2_init_27 : decode cX2_init 27 = .ok (.iconst 3, 1) := dk_6 (dk_at dksX2_init_1 4 rfl rfl)
theorem dX2_init_28 : decode cX2_init 28 = .ok (.iconst 3, 1) := dk_6 (dk_at dksX2_init_1 5 rfl rfl)
theorem dX2_init_29 : decode cX2_init 29 = .ok (.invokespecial 11, 3) := dk_183 0 11 (dk_at dksX2_init_1 6 rfl rfl)
theorem dX2_init_32 : decode cX2_init 32 = .ok (.aastore, 1) := dk_83 (dk_at dksX2_init_1 9 rfl rfl)
theorem dX2_init_33 : decode cX2_init 33 = .ok (.dup, 1) := dk_89 (dk_at dksX2_init_1 10 rfl rfl)
theorem dX2_init_34 : decode cX2_init 34 = .ok (.iconst 2, 1) := dk_5 (dk_at dksX2_init_1 11 rfl rfl)
theorem dX2_init_35 : decode cX2_init 35 = .ok (.new 9, 3) := dk_187 0 9 (dk_at dksX2_init_1 12 rfl rfl)
theorem dX2_init_38 : decode cX2_init 38 = .ok (.dup, 1) := dk_89 (dk_at dksX2_init_1 15 rfl rfl)
theorem dX2_init_39 : decode cX2_init 39 = .ok (.iconst 3, 1) := dk_6 (dk_at dksX2_init_1 16 rfl rfl)
theorem dX2_init_40 : decode cX2_init 40 = .ok (.iconst 3, 1) := dk_6 (dk_at dksX2_init_1 17 rfl rfl)
theorem dX2_init_41 : decode cX2_init 41 = .ok (.invokespecial 11, 3) := dk_183 0 11 (dk_at dksX2_init_1 18 rfl rfl)
theorem dX2_init_44 : decode cX2_init 44 = .ok (.aastore, 1) := dk_83 (dk_at dksX2_init_1 21 rfl rfl)
theorem dX2_init_45 : decode cX2_init 45 = .ok (.dup, 1) := dk_89 (dk_at dksX2_init_1 22 rfl rfl)
theorem dX2_init_46 : decode cX2_init 46 = .ok (.iconst 3, 1) := dk_6 (dk_at dksX2_init_1 23 rfl rfl)
theorem dX2_init_47 : decode cX2_init 47 = .ok (.new 9, 3) := dk_187 0 9 (dk_at dksX2_init_2 0 rfl rfl)
theorem dX2_init_50 : decode cX2_init 50 = .ok (.dup, 1) := dk_89 (dk_at dksX2_init_2 3 rfl rfl)
theorem dX2_init_51 : decode cX2_init 51 = .ok (.iconst 3, 1) := dk_6 (dk_at dksX2_init_2 4 rfl rfl)
theorem dX2_init_52 : decode cX2_init 52 = .ok (.iconst 3, 1) := dk_6 (dk_at dksX2_init_2 5 rfl rfl)
theorem dX2_init_53 : decode cX2_init 53 = .ok (.invokespecial 11, 3) := dk_183 0 11 (dk_at dksX2_init_2 6 rfl rfl)
theorem dX2_init_56 : decode cX2_init 56 = .ok (.aastore, 1) := dk_83 (dk_at dksX2_init_2 9 rfl rfl)
theorem dX2_init_57 : decode cX2_init 57 = .ok (.putfield 14, 3) := dk_181 0 14 (dk_at dksX2_init_2 10 rfl rfl)
theorem dX2_init_60 : decode cX2_init 60 = .ok (.return_, 1) := dk_177 (dk_at dksX2_init_2 13 rfl rfl)
abbrev cX2_copy : ByteArray := prog_20_method_2_code
def yX2_copy : MethodName := ⟨RX2, "copy", "()LCsrCalculator$World;"⟩
def dkwX2_copy_1 : List UInt8 := [28, 50, 83, 132, 2, 1, 167, 255, 236, 43, 42, 180, 0, 21, 181, 0, 21, 43, 176]
abbrev dktX2_copy_1 : List UInt8 := dkwX2_copy_1 ++ []
def dkwX2_copy_0 : List UInt8 := [187, 0, 15, 89, 183, 0, 20, 76, 3, 61, 28, 7, 162, 0, 21, 43, 180, 0, 14, 28, 42, 180, 0, 14]
abbrev dktX2_copy_0 : List UInt8 := dkwX2_copy_0 ++ dktX2_copy_1
theorem dksX2_copy_0 : cX2_copy.data.toList.drop 0 = dktX2_copy_0 := by decide +kernel
theorem dksX2_copy_1 : cX2_copy.data.toList.drop 24 = dktX2_copy_1 := dk_seg dksX2_copy_0 24 rfl rfl
theorem dX2_copy_0 : decode cX2_copy 0 = .ok (.new 15, 3) := dk_187 0 15 (dk_at dksX2_copy_0 0 rfl rfl)
theorem dX2_copy_3 : decode cX2_copy 3 = .ok (.dup, 1) := dk_89 (dk_at dksX2_copy_0 3 rfl rfl)
theorem dX2_copy_4 : decode cX2_copy 4 = .ok (.invokespecial 20, 3) := dk_183 0 20 (dk_at dksX2_copy_0 4 rfl rfl)
theorem dX2_copy_7 : decode cX2_copy 7 = .ok (.astore_n 1, 1) := dk_76 (dk_at dksX2_copy_0 7 rfl rfl)
theorem dX2_copy_8 : decode cX2_copy 8 = .ok (.iconst 0, 1) := dk_3 (dk_at dksX2_copy_0 8 rfl rfl)
theorem dX2_copy_9 : decode cX2_copy 9 = .ok (.istore_n 2, 1) := dk_61 (dk_at dksX2_copy_0 9 rfl rfl)
theorem dX2_copy_10 : decode cX2_copy 10 = .ok (.iload_n 2, 1) := dk_28 (dk_at dksX2_copy_0 10 rfl rfl)
theorem dX2_copy_11 : decode cX2_copy 11 = .ok (.iconst 4, 1) := dk_7 (dk_at dksX2_copy_0 11 rfl rfl)
theorem dX2_copy_12 : decode cX2_copy 12 = .ok (.if_icmp .ge 21, 3) := dk_162 0 21 (dk_at dksX2_copy_0 12 rfl rfl)
theorem dX2_copy_15 : decode cX2_copy 15 = .ok (.aload_n 1, 1) := dk_43 (dk_at dksX2_copy_0 15 rfl rfl)
theorem dX2_copy_16 : decode cX2_copy 16 = .ok (.getfield 14, 3) := dk_180 0 14 (dk_at dksX2_copy_0 16 rfl rfl)
theorem dX2_copy_19 : decode cX2_copy 19 = .ok (.iload_n 2, 1) := dk_28 (dk_at dksX2_copy_0 19 rfl rfl)
theorem dX2_copy_20 : decode cX2_copy 20 = .ok (.aload_n 0, 1) := dk_42 (dk_at dksX2_copy_0 20 rfl rfl)
theorem dX2_copy_21 : decode cX2_copy 21 = .ok (.getfield 14, 3) := dk_180 0 14 (dk_at dksX2_copy_0 21 rfl rfl)
theorem dX2_copy_24 : decode cX2_copy 24 = .ok (.iload_n 2, 1) := dk_28 (dk_at dksX2_copy_1 0 rfl rfl)
theorem dX2_copy_25 : decode cX2_copy 25 = .ok (.aaload, 1) := dk_50 (dk_at dksX2_copy_1 1 rfl rfl)
theorem dX2_copy_26 : decode cX2_copy 26 = .ok (.aastore, 1) := dk_83 (dk_at dksX2_copy_1 2 rfl rfl)
theorem dX2_copy_27 : decode cX2_copy 27 = .ok (.iinc 2 1, 3) := dk_132 2 1 (dk_at dksX2_copy_1 3 rfl rfl)
theorem dX2_copy_30 : decode cX2_copy 30 = .ok (.goto (-20), 3) := dk_167 255 236 (dk_at dksX2_copy_1 6 rfl rfl)
theorem dX2_copy_33 : decode cX2_copy 33 = .ok (.aload_n 1, 1) := dk_43 (dk_at dksX2_copy_1 9 rfl rfl)
theorem dX2_copy_34 : decode cX2_copy 34 = .ok (.aload_n 0, 1) := dk_42 (dk_at dksX2_copy_1 10 rfl rfl)
theorem dX2_copy_35 : decode cX2_copy 35 = .ok (.getfield 21, 3) := dk_180 0 21 (dk_at dksX2_copy_1 11 rfl rfl)
theorem dX2_copy_38 : decode cX2_copy 38 = .ok (.putfield 21, 3) := dk_181 0 21 (dk_at dksX2_copy_1 14 rfl rfl)
theorem dX2_copy_41 : decode cX2_copy 41 = .ok (.aload_n 1, 1) := dk_43 (dk_at dksX2_copy_1 17 rfl rfl)
theorem dX2_copy_42 : decode cX2_copy 42 = .ok (.areturn, 1) := dk_176 (dk_at dksX2_copy_1 18 rfl rfl)
abbrev cX2_stored : ByteArray := prog_20_method_3_code
def yX2_stored : MethodName := ⟨RX2, "stored", "()I"⟩
def dkwX2_stored_1 : List UInt8 := [58, 5, 27, 25, 5, 182, 0, 25, 96, 60, 132, 4, 1, 167, 255, 233, 27, 172]
abbrev dktX2_stored_1 : List UInt8 := dkwX2_stored_1 ++ []
def dkwX2_stored_0 : List UInt8 := [3, 60, 42, 180, 0, 14, 77, 44, 190, 62, 3, 54, 4, 21, 4, 29, 162, 0, 23, 44, 21, 4, 50]
abbrev dktX2_stored_0 : List UInt8 := dkwX2_stored_0 ++ dktX2_stored_1
theorem dksX2_stored_0 : cX2_stored.data.toList.drop 0 = dktX2_stored_0 := by decide +kernel
theorem dksX2_stored_1 : cX2_stored.data.toList.drop 23 = dktX2_stored_1 := dk_seg dksX2_stored_0 23 rfl rfl
theorem dX2_stored_0 : decode cX2_stored 0 = .ok (.iconst 0, 1) := dk_3 (dk_at dksX2_stored_0 0 rfl rfl)
theorem dX2_stored_1 : decode cX2_stored 1 = .ok (.istore_n 1, 1) := dk_60 (dk_at dksX2_stored_0 1 rfl rfl)
theorem dX2_stored_2 : decode cX2_stored 2 = .ok (.aload_n 0, 1) := dk_42 (dk_at dksX2_stored_0 2 rfl rfl)
theorem dX2_stored_3 : decode cX2_stored 3 = .ok (.getfield 14, 3) := dk_180 0 14 (dk_at dksX2_stored_0 3 rfl rfl)
theorem dX2_stored_6 : decode cX2_stored 6 = .ok (.astore_n 2, 1) := dk_77 (dk_at dksX2_stored_0 6 rfl rfl)
theorem dX2_stored_7 : decode cX2_stored 7 = .ok (.aload_n 2, 1) := dk_44 (dk_at dksX2_stored_0 7 rfl rfl)
theorem dX2_stored_8 : decode cX2_stored 8 = .ok (.arraylength, 1) := dk_190 (dk_at dksX2_stored_0 8 rfl rfl)
theorem dX2_stored_9 : decode cX2_stored 9 = .ok (.istore_n 3, 1) := dk_62 (dk_at dksX2_stored_0 9 rfl rfl)
theorem dX2_stored_10 : decode cX2_stored 10 = .ok (.iconst 0, 1) := dk_3 (dk_at dksX2_stored_0 10 rfl rfl)
theorem dX2_stored_11 : decode cX2_stored 11 = .ok (.istore 4, 2) := dk_54 4 (dk_at dksX2_stored_0 11 rfl rfl)
theorem dX2_stored_13 : decode cX2_stored 13 = .ok (.iload 4, 2) := dk_21 4 (dk_at dksX2_stored_0 13 rfl rfl)
theorem dX2_stored_15 : decode cX2_stored 15 = .ok (.iload_n 3, 1) := dk_29 (dk_at dksX2_stored_0 15 rfl rfl)
theorem dX2_stored_16 : decode cX2_stored 16 = .ok (.if_icmp .ge 23, 3) := dk_162 0 23 (dk_at dksX2_stored_0 16 rfl rfl)
theorem dX2_stored_19 : decode cX2_stored 19 = .ok (.aload_n 2, 1) := dk_44 (dk_at dksX2_stored_0 19 rfl rfl)
theorem dX2_stored_20 : decode cX2_stored 20 = .ok (.iload 4, 2) := dk_21 4 (dk_at dksX2_stored_0 20 rfl rfl)
theorem dX2_stored_22 : decode cX2_stored 22 = .ok (.aaload, 1) := dk_50 (dk_at dksX2_stored_0 22 rfl rfl)
theorem dX2_stored_23 : decode cX2_stored 23 = .ok (.astore 5, 2) := dk_58 5 (dk_at dksX2_stored_1 0 rfl rfl)
theorem dX2_stored_25 : decode cX2_stored 25 = .ok (.iload_n 1, 1) := dk_27 (dk_at dksX2_stored_1 2 rfl rfl)
theorem dX2_stored_26 : decode cX2_stored 26 = .ok (.aload 5, 2) := dk_25 5 (dk_at dksX2_stored_1 3 rfl rfl)
theorem dX2_stored_28 : decode cX2_stored 28 = .ok (.invokevirtual 25, 3) := dk_182 0 25 (dk_at dksX2_stored_1 5 rfl rfl)
theorem dX2_stored_31 : decode cX2_stored 31 = .ok (.iadd, 1) := dk_96 (dk_at dksX2_stored_1 8 rfl rfl)
theorem dX2_stored_32 : decode cX2_stored 32 = .ok (.istore_n 1, 1) := dk_60 (dk_at dksX2_stored_1 9 rfl rfl)
theorem dX2_stored_33 : decode cX2_stored 33 = .ok (.iinc 4 1, 3) := dk_132 4 1 (dk_at dksX2_stored_1 10 rfl rfl)
theorem dX2_stored_36 : decode cX2_stored 36 = .ok (.goto (-23), 3) := dk_167 255 233 (dk_at dksX2_stored_1 13 rfl rfl)
theorem dX2_stored_39 : decode cX2_stored 39 = .ok (.iload_n 1, 1) := dk_27 (dk_at dksX2_stored_1 16 rfl rfl)
theorem dX2_stored_40 : decode cX2_stored 40 = .ok (.ireturn, 1) := dk_172 (dk_at dksX2_stored_1 17 rfl rfl)
abbrev cX2_put : ByteArray := prog_20_method_4_code
def yX2_put : MethodName := ⟨RX2, "put", "(ILCsrCalculator$Csr;)I"⟩
def dkwX2_put_0 : List UInt8 := [42, 180, 0, 14, 27, 44, 83, 44, 182, 0, 25, 172]
abbrev dktX2_put_0 : List UInt8 := dkwX2_put_0 ++ []
theorem dksX2_put_0 : cX2_put.data.toList.drop 0 = dktX2_put_0 := by decide +kernel
theorem dX2_put_0 : decode cX2_put 0 = .ok (.aload_n 0, 1) := dk_42 (dk_at dksX2_put_0 0 rfl rfl)
theorem dX2_put_1 : decode cX2_put 1 = .ok (.getfield 14, 3) := dk_180 0 14 (dk_at dksX2_put_0 1 rfl rfl)
theorem dX2_put_4 : decode cX2_put 4 = .ok (.iload_n 1, 1) := dk_27 (dk_at dksX2_put_0 4 rfl rfl)
theorem dX2_put_5 : decode cX2_put 5 = .ok (.aload_n 2, 1) := dk_44 (dk_at dksX2_put_0 5 rfl rfl)
theorem dX2_put_6 : decode cX2_put 6 = .ok (.aastore, 1) := dk_83 (dk_at dksX2_put_0 6 rfl rfl)
theorem dX2_put_7 : decode cX2_put 7 = .ok (.aload_n 2, 1) := dk_44 (dk_at dksX2_put_0 7 rfl rfl)
theorem dX2_put_8 : decode cX2_put 8 = .ok (.invokevirtual 25, 3) := dk_182 0 25 (dk_at dksX2_put_0 8 rfl rfl)
theorem dX2_put_11 : decode cX2_put 11 = .ok (.ireturn, 1) := dk_172 (dk_at dksX2_put_0 11 rfl rfl)
abbrev cX2_let : ByteArray := prog_20_method_5_code
def yX2_let : MethodName := ⟨RX2, "let", "(ILCsrCalculator$Expr;)V"⟩
def dkwX2_let_1 : List UInt8 := [182, 0, 38, 54, 5, 42, 89, 180, 0, 21, 45, 180, 0, 42, 96, 181, 0, 21, 177]
abbrev dktX2_let_1 : List UInt8 := dkwX2_let_1 ++ []
def dkwX2_let_0 : List UInt8 := [187, 0, 29, 89, 42, 180, 0, 14, 183, 0, 31, 78, 45, 44, 182, 0, 34, 58, 4, 42, 27, 25, 4]
abbrev dktX2_let_0 : List UInt8 := dkwX2_let_0 ++ dktX2_let_1
theorem dksX2_let_0 : cX2_let.data.toList.drop 0 = dktX2_let_0 := by decide +kernel
theorem dksX2_let_1 : cX2_let.data.toList.drop 23 = dktX2_let_1 := dk_seg dksX2_let_0 23 rfl rfl
theorem dX2_let_0 : decode cX2_let 0 = .ok (.new 29, 3) := dk_187 0 29 (dk_at dksX2_let_0 0 rfl rfl)
theorem dX2_let_3 : decode cX2_let 3 = .ok (.dup, 1) := dk_89 (dk_at dksX2_let_0 3 rfl rfl)
theorem dX2_let_4 : decode cX2_let 4 = .ok (.aload_n 0, 1) := dk_42 (dk_at dksX2_let_0 4 rfl rfl)
theorem dX2_let_5 : decode cX2_let 5 = .ok (.getfield 14, 3) := dk_180 0 14 (dk_at dksX2_let_0 5 rfl rfl)
theorem dX2_let_8 : decode cX2_let 8 = .ok (.invokespecial 31, 3) := dk_183 0 31 (dk_at dksX2_let_0 8 rfl rfl)
theorem dX2_let_11 : decode cX2_let 11 = .ok (.astore_n 3, 1) := dk_78 (dk_at dksX2_let_0 11 rfl rfl)
theorem dX2_let_12 : decode cX2_let 12 = .ok (.aload_n 3, 1) := dk_45 (dk_at dksX2_let_0 12 rfl rfl)
theorem dX2_let_13 : decode cX2_let 13 = .ok (.aload_n 2, 1) := dk_44 (dk_at dksX2_let_0 13 rfl rfl)
theorem dX2_let_14 : decode cX2_let 14 = .ok (.invokevirtual 34, 3) := dk_182 0 34 (dk_at dksX2_let_0 14 rfl rfl)
theorem dX2_let_17 : decode cX2_let 17 = .ok (.astore 4, 2) := dk_58 4 (dk_at dksX2_let_0 17 rfl rfl)
theorem dX2_let_19 : decode cX2_let 19 = .ok (.aload_n 0, 1) := dk_42 (dk_at dksX2_let_0 19 rfl rfl)
theorem dX2_let_20 : decode cX2_let 20 = .ok (.iload_n 1, 1) := dk_27 (dk_at dksX2_let_0 20 rfl rfl)
theorem dX2_let_21 : decode cX2_let 21 = .ok (.aload 4, 2) := dk_25 4 (dk_at dksX2_let_0 21 rfl rfl)
theorem dX2_let_23 : decode cX2_let 23 = .ok (.invokevirtual 38, 3) := dk_182 0 38 (dk_at dksX2_let_1 0 rfl rfl)
theorem dX2_let_26 : decode cX2_let 26 = .ok (.istore 5, 2) := dk_54 5 (dk_at dksX2_let_1 3 rfl rfl)
theorem dX2_let_28 : decode cX2_let 28 = .ok (.aload_n 0, 1) := dk_42 (dk_at dksX2_let_1 5 rfl rfl)
theorem dX2_let_29 : decode cX2_let 29 = .ok (.dup, 1) := dk_89 (dk_at dksX2_let_1 6 rfl rfl)
theorem dX2_let_30 : decode cX2_let 30 = .ok (.getfield 21, 3) := dk_180 0 21 (dk_at dksX2_let_1 7 rfl rfl)
theorem dX2_let_33 : decode cX2_let 33 = .ok (.aload_n 3, 1) := dk_45 (dk_at dksX2_let_1 10 rfl rfl)
theorem dX2_let_34 : decode cX2_let 34 = .ok (.getfield 42, 3) := dk_180 0 42 (dk_at dksX2_let_1 11 rfl rfl)
theorem dX2_let_37 : decode cX2_let 37 = .ok (.iadd, 1) := dk_96 (dk_at dksX2_let_1 14 rfl rfl)
theorem dX2_let_38 : decode cX2_let 38 = .ok (.putfield 21, 3) := dk_181 0 21 (dk_at dksX2_let_1 15 rfl rfl)
theorem dX2_let_41 : decode cX2_let 41 = .ok (.return_, 1) := dk_177 (dk_at dksX2_let_1 18 rfl rfl)
theorem q181 : (Jvm.Cond.initialized "CsrCalculator$World") ∈ lw_all := lw_g (lw_at lw_m1 2 rfl) rfl
theorem q231 : (Jvm.Cond.instantiable "CsrCalculator$World" (2 : Nat)) ∈ lw_all := lw_g (lw_at lw_m1 52 rfl) rfl
theorem q233 : (Jvm.Cond.instanceMethod ({ cls := "CsrCalculator$World", name := "<init>", desc := "()V" } : Jvm.MethodName)) ∈ lw_all := lw_g (lw_at lw_m1 54 rfl) rfl
theorem q234 : (Jvm.Cond.code ({ cls := "CsrCalculator$World", name := "<init>", desc := "()V" } : Jvm.MethodName) prog_20_method_1_code (1 : Nat) (Option.none : Option Jvm.ClassFile.FieldType)) ∈ lw_all := lw_g (lw_at lw_m1 55 rfl) rfl
theorem q235 : (Jvm.Cond.methodLink "CsrCalculator$World" (3 : Nat) ({ cls := "java/lang/Object", name := "<init>", desc := "()V" } : Jvm.MethodName)) ∈ lw_all := lw_g (lw_at lw_m1 56 rfl) rfl
theorem q236 : (Jvm.Cond.classLink "CsrCalculator$World" (9 : Nat) "CsrCalculator$Csr") ∈ lw_all := lw_g (lw_at lw_m1 57 rfl) rfl
theorem q239 : (Jvm.Cond.methodLink "CsrCalculator$World" (11 : Nat) ({ cls := "CsrCalculator$Csr", name := "<init>", desc := "(II)V" } : Jvm.MethodName)) ∈ lw_all := lw_g (lw_at lw_m1 60 rfl) rfl
theorem q271 : (Jvm.Cond.fieldLink "CsrCalculator$World" (14 : Nat) "CsrCalculator$World" "registers" "[LCsrCalculator$Csr;") ∈ lw_all := lw_g (lw_at lw_m1 92 rfl) rfl
theorem q274 : (Jvm.Cond.fieldLink "CsrCalculator$World" (21 : Nat) "CsrCalculator$World" "work" "I") ∈ lw_all := lw_g (lw_at lw_m1 95 rfl) rfl
theorem q276 : (Jvm.Cond.lays "CsrCalculator$World" "CsrCalculator$World" "registers" "[LCsrCalculator$Csr;") ∈ lw_all := lw_g (lw_at lw_m1 97 rfl) rfl
theorem q277 : (Jvm.Cond.soleField "CsrCalculator$World" "registers") ∈ lw_all := lw_g (lw_at lw_m1 98 rfl) rfl
theorem q278 : (Jvm.Cond.lays "CsrCalculator$World" "CsrCalculator$World" "work" "I") ∈ lw_all := lw_g (lw_at lw_m1 99 rfl) rfl
theorem q279 : (Jvm.Cond.soleField "CsrCalculator$World" "work") ∈ lw_all := lw_g (lw_at lw_m1 100 rfl) rfl
theorem q280 : (Jvm.Cond.superclass "CsrCalculator$World" "java/lang/Object") ∈ lw_all := lw_g (lw_at lw_m1 101 rfl) rfl
theorem q547 : (Jvm.Cond.instanceMethod ({ cls := "CsrCalculator$World", name := "copy", desc := "()LCsrCalculator$World;" } : Jvm.MethodName)) ∈ lw_all := lw_g (lw_at lw_m2 128 rfl) rfl
theorem q548 : (Jvm.Cond.selects "CsrCalculator$World" ({ cls := "CsrCalculator$World", name := "copy", desc := "()LCsrCalculator$World;" } : Jvm.MethodName) ({ cls := "CsrCalculator$World", name := "copy", desc := "()LCsrCalculator$World;" } : Jvm.MethodName)) ∈ lw_all := lw_g (lw_at lw_m2 129 rfl) rfl
theorem q549 : (Jvm.Cond.code ({ cls := "CsrCalculator$World", name := "copy", desc := "()LCsrCalculator$World;" } : Jvm.MethodName) prog_20_method_2_code (3 : Nat) (Option.some (Jvm.ClassFile.FieldType.object "CsrCalculator$World"))) ∈ lw_all := lw_g (lw_at lw_m2 130 rfl) rfl
theorem q550 : (Jvm.Cond.classLink "CsrCalculator$World" (15 : Nat) "CsrCalculator$World") ∈ lw_all := lw_g (lw_at lw_m2 131 rfl) rfl
theorem q551 : (Jvm.Cond.methodLink "CsrCalculator$World" (20 : Nat) ({ cls := "CsrCalculator$World", name := "<init>", desc := "()V" } : Jvm.MethodName)) ∈ lw_all := lw_g (lw_at lw_m2 132 rfl) rfl
theorem q553 : (Jvm.Cond.instanceMethod ({ cls := "CsrCalculator$World", name := "stored", desc := "()I" } : Jvm.MethodName)) ∈ lw_all := lw_g (lw_at lw_m2 134 rfl) rfl
theorem q554 : (Jvm.Cond.selects "CsrCalculator$World" ({ cls := "CsrCalculator$World", name := "stored", desc := "()I" } : Jvm.MethodName) ({ cls := "CsrCalculator$World", name := "stored", desc := "()I" } : Jvm.MethodName)) ∈ lw_all := lw_g (lw_at lw_m2 135 rfl) rfl
theorem q555 : (Jvm.Cond.code ({ cls := "CsrCalculator$World", name := "stored", desc := "()I" } : Jvm.MethodName) prog_20_method_3_code (6 : Nat) (Option.some Jvm.ClassFile.FieldType.int)) ∈ lw_all := lw_g (lw_at lw_m2 136 rfl) rfl
theorem q556 : (Jvm.Cond.methodLink "CsrCalculator$World" (25 : Nat) ({ cls := "CsrCalculator$Csr", name := "stored", desc := "()I" } : Jvm.MethodName)) ∈ lw_all := lw_g (lw_at lw_m2 137 rfl) rfl
theorem q1094 : (Jvm.Cond.instanceMethod ({ cls := "CsrCalculator$World", name := "put", desc := "(ILCsrCalculator$Csr;)I" } : Jvm.MethodName)) ∈ lw_all := lw_g (lw_at lw_m4 195 rfl) rfl
theorem q1095 : (Jvm.Cond.selects "CsrCalculator$World" ({ cls := "CsrCalculator$World", name := "put", desc := "(ILCsrCalculator$Csr;)I" } : Jvm.MethodName) ({ cls := "CsrCalculator$World", name := "put", desc := "(ILCsrCalculator$Csr;)I" } : Jvm.MethodName)) ∈ lw_all := lw_g (lw_at lw_m4 196 rfl) rfl
theorem q1096 : (Jvm.Cond.code ({ cls := "CsrCalculator$World", name := "put", desc := "(ILCsrCalculator$Csr;)I" } : Jvm.MethodName) prog_20_method_4_code (3 : Nat) (Option.some Jvm.ClassFile.FieldType.int)) ∈ lw_all := lw_g (lw_at lw_m4 197 rfl) rfl
theorem q1280 : (Jvm.Cond.selects "CsrCalculator$World" ({ cls := "java/lang/Object", name := "getClass", desc := "()Ljava/lang/Class;" } : Jvm.MethodName) ({ cls := "java/lang/Object", name := "getClass", desc := "()Ljava/lang/Class;" } : Jvm.MethodName)) ∈ lw_all := lw_g (lw_at lw_m5 141 rfl) rfl
theorem q1318 : (Jvm.Cond.instanceMethod ({ cls := "CsrCalculator$World", name := "let", desc := "(ILCsrCalculator$Expr;)V" } : Jvm.MethodName)) ∈ lw_all := lw_g (lw_at lw_m5 179 rfl) rfl
theorem q1319 : (Jvm.Cond.selects "CsrCalculator$World" ({ cls := "CsrCalculator$World", name := "let", desc := "(ILCsrCalculator$Expr;)V" } : Jvm.MethodName) ({ cls := "CsrCalculator$World", name := "let", desc := "(ILCsrCalculator$Expr;)V" } : Jvm.MethodName)) ∈ lw_all := lw_g (lw_at lw_m5 180 rfl) rfl
theorem q1320 : (Jvm.Cond.code ({ cls := "CsrCalculator$World", name := "let", desc := "(ILCsrCalculator$Expr;)V" } : Jvm.MethodName) prog_20_method_5_code (6 : Nat) (Option.none : Option Jvm.ClassFile.FieldType)) ∈ lw_all := lw_g (lw_at lw_m5 181 rfl) rfl
theorem q1321 : (Jvm.Cond.classLink "CsrCalculator$World" (29 : Nat) "CsrCalculator$Evaluator") ∈ lw_all := lw_g (lw_at lw_m5 182 rfl) rfl
theorem q1323 : (Jvm.Cond.methodLink "CsrCalculator$World" (31 : Nat) ({ cls := "CsrCalculator$Evaluator", name := "<init>", desc := "([LCsrCalculator$Csr;)V" } : Jvm.MethodName)) ∈ lw_all := lw_g (lw_at lw_m5 184 rfl) rfl
theorem q1328 : (Jvm.Cond.fieldLinkNest "CsrCalculator$World" (42 : Nat) "CsrCalculator$Evaluator" "work" "I" "CsrCalculator") ∈ lw_tbl := lw_at lw_m5 189 rfl
theorem q1335 : (Jvm.Cond.methodLink "CsrCalculator$World" (34 : Nat) ({ cls := "CsrCalculator$Evaluator", name := "valueOf", desc := "(LCsrCalculator$Expr;)LCsrCalculator$Csr;" } : Jvm.MethodName)) ∈ lw_all := lw_g (lw_at lw_m5 196 rfl) rfl
theorem q1440 : (Jvm.Cond.methodLink "CsrCalculator$World" (38 : Nat) ({ cls := "CsrCalculator$World", name := "put", desc := "(ILCsrCalculator$Csr;)I" } : Jvm.MethodName)) ∈ lw_all := lw_g (lw_at lw_m6 61 rfl) rfl
theorem q3046 : (Jvm.Cond.castable "CsrCalculator$World" "java/lang/Object") ∈ lw_tbl := lw_at lw_m12 227 rfl
theorem in_X2 : ∀ w ∈ wsX20, w ∈ lw_all := lw_in wsX20 [276, 278] (by decide +kernel) (by decide +kernel)

/-! CsrCalculator$Csr -/
set_option maxRecDepth 100000
def RX3 : String := "CsrCalculator$Csr"
def TX3 : u_T := fun k => match k with
  | 0 => ("CsrCalculator$Csr", "rows", "I", true)
  | 1 => ("CsrCalculator$Csr", "columns", "I", true)
  | 2 => ("CsrCalculator$Csr", "pointers", "[I", true)
  | 3 => ("CsrCalculator$Csr", "indexes", "[I", true)
  | _ => ("CsrCalculator$Csr", "values", "[I", true)
def tyX3 : Nat → FieldType := fun k => match k with
  | 0 => .int
  | 1 => .int
  | 2 => .array .int
  | 3 => .array .int
  | _ => .array .int
abbrev wsX30 : List Cond := u_ws RX3 TX3 5
theorem nmX3 : ∀ a, a < 5 → ∀ b, b < 5 → a ≠ b → (TX3 a).2.1 ≠ (TX3 b).2.1 := by decide +kernel
theorem tyX3_ok : ∀ k, k < 5 → parseFieldDescriptor (TX3 k).2.2.1 = some (tyX3 k) := by decide +kernel
abbrev cX3_init : ByteArray := prog_4_method_1_code
def yX3_init : MethodName := ⟨RX3, "<init>", "(II)V"⟩
def dkwX3_init_0 : List UInt8 := [42, 27, 28, 27, 4, 96, 188, 10, 3, 188, 10, 3, 188, 10, 183, 0, 3, 177]
abbrev dktX3_init_0 : List UInt8 := dkwX3_init_0 ++ []
theorem dksX3_init_0 : cX3_init.data.toList.drop 0 = dktX3_init_0 := by decide +kernel
theorem dX3_init_0 : decode cX3_init 0 = .ok (.aload_n 0, 1) := dk_42 (dk_at dksX3_init_0 0 rfl rfl)
theorem dX3_init_1 : decode cX3_init 1 = .ok (.iload_n 1, 1) := dk_27 (dk_at dksX3_init_0 1 rfl rfl)
theorem dX3_init_2 : decode cX3_init 2 = .ok (.iload_n 2, 1) := dk_28 (dk_at dksX3_init_0 2 rfl rfl)
theorem dX3_init_3 : decode cX3_init 3 = .ok (.iload_n 1, 1) := dk_27 (dk_at dksX3_init_0 3 rfl rfl)
theorem dX3_init_4 : decode cX3_init 4 = .ok (.iconst 1, 1) := dk_4 (dk_at dksX3_init_0 4 rfl rfl)
theorem dX3_init_5 : decode cX3_init 5 = .ok (.iadd, 1) := dk_96 (dk_at dksX3_init_0 5 rfl rfl)
theorem dX3_init_6 : decode cX3_init 6 = .ok (.newarray .int, 2) := dk_188_10 (dk_at dksX3_init_0 6 rfl rfl)
theorem dX3_init_8 : decode cX3_init 8 = .ok (.iconst 0, 1) := dk_3 (dk_at dksX3_init_0 8 rfl rfl)
theorem dX3_init_9 : decode cX3_init 9 = .ok (.newarray .int, 2) := dk_188_10 (dk_at dksX3_init_0 9 rfl rfl)
theorem dX3_init_11 : decode cX3_init 11 = .ok (.iconst 0, 1) := dk_3 (dk_at dksX3_init_0 11 rfl rfl)
theorem dX3_init_12 : decode cX3_init 12 = .ok (.newarray .int, 2) := dk_188_10 (dk_at dksX3_init_0 12 rfl rfl)
theorem dX3_init_14 : decode cX3_init 14 = .ok (.invokespecial 3, 3) := dk_183 0 3 (dk_at dksX3_init_0 14 rfl rfl)
theorem dX3_init_17 : decode cX3_init 17 = .ok (.return_, 1) := dk_177 (dk_at dksX3_init_0 17 rfl rfl)
abbrev cX3_init_2 : ByteArray := prog_4_method_2_code
def yX3_init_2 : MethodName := ⟨RX3, "<init>", "(II[I[I[I)V"⟩
def dkwX3_init_2_1 : List UInt8 := [181, 0, 25, 42, 25, 5, 181, 0, 28, 177]
abbrev dktX3_init_2_1 : List UInt8 := dkwX3_init_2_1 ++ []
def dkwX3_init_2_0 : List UInt8 := [42, 183, 0, 9, 42, 27, 181, 0, 14, 42, 28, 181, 0, 18, 42, 45, 181, 0, 21, 42, 25, 4]
abbrev dktX3_init_2_0 : List UInt8 := dkwX3_init_2_0 ++ dktX3_init_2_1
theorem dksX3_init_2_0 : cX3_init_2.data.toList.drop 0 = dktX3_init_2_0 := by decide +kernel
theorem dksX3_init_2_1 : cX3_init_2.data.toList.drop 22 = dktX3_init_2_1 := dk_seg dksX3_init_2_0 22 rfl rfl
theorem dX3_init_2_0 : decode cX3_init_2 0 = .ok (.aload_n 0, 1) := dk_42 (dk_at dksX3_init_2_0 0 rfl rfl)
theorem dX3_init_2_1 : decode cX3_init_2 1 = .ok (.invokespecial 9, 3) := dk_183 0 9 (dk_at dksX3_init_2_0 1 rfl rfl)
theorem dX3_init_2_4 : decode cX3_init_2 4 = .ok (.aload_n 0, 1) := dk_42 (dk_at dksX3_init_2_0 4 rfl rfl)
theorem dX3_init_2_5 : decode cX3_init_2 5 = .ok (.iload_n 1, 1) := dk_27 (dk_at dksX3_init_2_0 5 rfl rfl)
theorem dX3_init_2_6 : decode cX3_init_2 6 = .ok (.putfield 14, 3) := dk_181 0 14 (dk_at dksX3_init_2_0 6 rfl rfl)
theorem dX3_init_2_9 : decode cX3_init_2 9 = .ok (.aload_n 0, 1) := dk_42 (dk_at dksX3_init_2_0 9 rfl rfl)
theorem dX3_init_2_10 : decode cX3_init_2 10 = .ok (.iload_n 2, 1) := dk_28 (dk_at dksX3_init_2_0 10 rfl rfl)
theorem dX3_init_2_11 : decode cX3_init_2 11 = .ok (.putfield 18, 3) := dk_181 0 18 (dk_at dksX3_init_2_0 11 rfl rfl)
theorem dX3_init_2_14 : decode cX3_init_2 14 = .ok (.aload_n 0, 1) := dk_42 (dk_at dksX3_init_2_0 14 rfl rfl)
theorem dX3_init_2_15 : decode cX3_init_2 15 = .ok (.aload_n 3, 1) := dk_45 (dk_at dksX3_init_2_0 15 rfl rfl)
theorem dX3_init_2_16 : decode cX3_init_2 16 = .ok (.putfield 21, 3) := dk_181 0 21 (dk_at dksX3_init_2_0 16 rfl rfl)
theorem dX3_init_2_19 : decode cX3_init_2 19 = .ok (.aload_n 0, 1) := dk_42 (dk_at dksX3_init_2_0 19 rfl rfl)
theorem dX3_init_2_20 : decode cX3_init_2 20 = .ok (.aload 4, 2) := dk_25 4 (dk_at dksX3_init_2_0 20 rfl rfl)
theorem dX3_init_2_22 : decode cX3_init_2 22 = .ok (.putfield 25, 3) := dk_181 0 25 (dk_at dksX3_init_2_1 0 rfl rfl)
theorem dX3_init_2_25 : decode cX3_init_2 25 = .ok (.aload_n 0, 1) := dk_42 (dk_at dksX3_init_2_1 3 rfl rfl)
theorem dX3_init_2_26 : decode cX3_init_2 26 = .ok (.aload 5, 2) := dk_25 5 (dk_at dksX3_init_2_1 4 rfl rfl)
theorem dX3_init_2_28 : decode cX3_init_2 28 = .ok (.putfield 28, 3) := dk_181 0 28 (dk_at dksX3_init_2_1 6 rfl rfl)
theorem dX3_init_2_31 : decode cX3_init_2 31 = .ok (.return_, 1) := dk_177 (dk_at dksX3_init_2_1 9 rfl rfl)
abbrev cX3_wrongOrder : ByteArray := prog_4_method_30_code
def yX3_wrongOrder : MethodName := ⟨RX3, "wrongOrder", "()I"⟩
def dkwX3_wrongOrder_3 : List UInt8 := [132, 1, 1, 132, 3, 1, 167, 255, 221, 132, 2, 1, 167, 255, 178, 27, 172]
abbrev dktX3_wrongOrder_3 : List UInt8 := dkwX3_wrongOrder_3 ++ []
def dkwX3_wrongOrder_2 : List UInt8 := [96, 46, 162, 0, 29, 42, 180, 0, 25, 29, 46, 42, 180, 0, 25, 29, 4, 100, 46, 163, 0, 6]
abbrev dktX3_wrongOrder_2 : List UInt8 := dkwX3_wrongOrder_2 ++ dktX3_wrongOrder_3
def dkwX3_wrongOrder_1 : List UInt8 := [28, 46, 162, 0, 6, 132, 1, 1, 42, 180, 0, 21, 28, 46, 4, 96, 62, 29, 42, 180, 0, 21, 28, 4]
abbrev dktX3_wrongOrder_1 : List UInt8 := dkwX3_wrongOrder_1 ++ dktX3_wrongOrder_2
def dkwX3_wrongOrder_0 : List UInt8 := [3, 60, 3, 61, 28, 42, 180, 0, 14, 162, 0, 76, 42, 180, 0, 21, 28, 4, 96, 46, 42, 180, 0, 21]
abbrev dktX3_wrongOrder_0 : List UInt8 := dkwX3_wrongOrder_0 ++ dktX3_wrongOrder_1
theorem dksX3_wrongOrder_0 : cX3_wrongOrder.data.toList.drop 0 = dktX3_wrongOrder_0 := by decide +kernel
theorem dksX3_wrongOrder_1 : cX3_wrongOrder.data.toList.drop 24 = dktX3_wrongOrder_1 := dk_seg dksX3_wrongOrder_0 24 rfl rfl
theorem dksX3_wrongOrder_2 : cX3_wrongOrder.data.toList.drop 48 = dktX3_wrongOrder_2 := dk_seg dksX3_wrongOrder_1 24 rfl rfl
theorem dksX3_wrongOrder_3 : cX3_wrongOrder.data.toList.drop 70 = dktX3_wrongOrder_3 := dk_seg dksX3_wrongOrder_2 22 rfl rfl
theorem dX3_wrongOrder_0 : decode cX3_wrongOrder 0 = .ok (.iconst 0, 1) := dk_3 (dk_at dksX3_wrongOrder_0 0 rfl rfl)
theorem dX3_wrongOrder_1 : decode cX3_wrongOrder 1 = .ok (.istore_n 1, 1) := dk_60 (dk_at dksX3_wrongOrder_0 1 rfl rfl)
theorem dX3_wrongOrder_2 : decode cX3_wrongOrder 2 = .ok (.iconst 0, 1) := dk_3 (dk_at dksX3_wrongOrder_0 2 rfl rfl)
theorem dX3_wrongOrder_3 : decode cX3_wrongOrder 3 = .ok (.istore_n 2, 1) := dk_61 (dk_at dksX3_wrongOrder_0 3 rfl rfl)
theorem dX3_wrongOrder_4 : decode cX3_wrongOrder 4 = .ok (.iload_n 2, 1) := dk_28 (dk_at dksX3_wrongOrder_0 4 rfl rfl)
theorem dX3_wrongOrder_5 : decode cX3_wrongOrder 5 = .ok (.aload_n 0, 1) := dk_42 (dk_at dksX3_wrongOrder_0 5 rfl rfl)
theorem dX3_wrongOrder_6 : decode cX3_wrongOrder 6 = .ok (.getfield 14, 3) := dk_180 0 14 (dk_at dksX3_wrongOrder_0 6 rfl rfl)
theorem dX3_wrongOrder_9 : decode cX3_wrongOrder 9 = .ok (.if_icmp .ge 76, 3) := dk_162 0 76 (dk_at dksX3_wrongOrder_0 9 rfl rfl)
theorem dX3_wrongOrder_12 : decode cX3_wrongOrder 12 = .ok (.aload_n 0, 1) := dk_42 (dk_at dksX3_wrongOrder_0 12 rfl rfl)
theorem dX3_wrongOrder_13 : decode cX3_wrongOrder 13 = .ok (.getfield 21, 3) := dk_180 0 21 (dk_at dksX3_wrongOrder_0 13 rfl rfl)
theorem dX3_wrongOrder_16 : decode cX3_wrongOrder 16 = .ok (.iload_n 2, 1) := dk_28 (dk_at dksX3_wrongOrder_0 16 rfl rfl)
theorem dX3_wrongOrder_17 : decode cX3_wrongOrder 17 = .ok (.iconst 1, 1) := dk_4 (dk_at dksX3_wrongOrder_0 17 rfl rfl)
theorem dX3_wrongOrder_18 : decode cX3_wrongOrder 18 = .ok (.iadd, 1) := dk_96 (dk_at dksX3_wrongOrder_0 18 rfl rfl)
theorem dX3_wrongOrder_19 : decode cX3_wrongOrder 19 = .ok (.iaload, 1) := dk_46 (dk_at dksX3_wrongOrder_0 19 rfl rfl)
theorem dX3_wrongOrder_20 : decode cX3_wrongOrder 20 = .ok (.aload_n 0, 1) := dk_42 (dk_at dksX3_wrongOrder_0 20 rfl rfl)
theorem dX3_wrongOrder_21 : decode cX3_wrongOrder 21 = .ok (.getfield 21, 3) := dk_180 0 21 (dk_at dksX3_wrongOrder_0 21 rfl rfl)
theorem dX3_wrongOrder_24 : decode cX3_wrongOrder 24 = .ok (.iload_n 2, 1) := dk_28 (dk_at dksX3_wrongOrder_1 0 rfl rfl)
theorem dX3_wrongOrder_25 : decode cX3_wrongOrder 25 = .ok (.iaload, 1) := dk_46 (dk_at dksX3_wrongOrder_1 1 rfl rfl)
theorem dX3_wrongOrder_26 : decode cX3_wrongOrder 26 = .ok (.if_icmp .ge 6, 3) := dk_162 0 6 (dk_at dksX3_wrongOrder_1 2 rfl rfl)
theorem dX3_wrongOrder_29 : decode cX3_wrongOrder 29 = .ok (.iinc 1 1, 3) := dk_132 1 1 (dk_at dksX3_wrongOrder_1 5 rfl rfl)
theorem dX3_wrongOrder_32 : decode cX3_wrongOrder 32 = .ok (.aload_n 0, 1) := dk_42 (dk_at dksX3_wrongOrder_1 8 rfl rfl)
theorem dX3_wrongOrder_33 : decode cX3_wrongOrder 33 = .ok (.getfield 21, 3) := dk_180 0 21 (dk_at dksX3_wrongOrder_1 9 rfl rfl)
theorem dX3_wrongOrder_36 : decode cX3_wrongOrder 36 = .ok (.iload_n 2, 1) := dk_28 (dk_at dksX3_wrongOrder_1 12 rfl rfl)
theorem dX3_wrongOrder_37 : decode cX3_wrongOrder 37 = .ok (.iaload, 1) := dk_46 (dk_at dksX3_wrongOrder_1 13 rfl rfl)
theorem dX3_wrongOrder_38 : decode cX3_wrongOrder 38 = .ok (.iconst 1, 1) := dk_4 (dk_at dksX3_wrongOrder_1 14 rfl rfl)
theorem dX3_wrongOrder_39 : decode cX3_wrongOrder 39 = .ok (.iadd, 1) := dk_96 (dk_at dksX3_wrongOrder_1 15 rfl rfl)
theorem dX3_wrongOrder_40 : decode cX3_wrongOrder 40 = .ok (.istore_n 3, 1) := dk_62 (dk_at dksX3_wrongOrder_1 16 rfl rfl)
theorem dX3_wrongOrder_41 : decode cX3_wrongOrder 41 = .ok (.iload_n 3, 1) := dk_29 (dk_at dksX3_wrongOrder_1 17 rfl rfl)
theorem dX3_wrongOrder_42 : decode cX3_wrongOrder 42 = .ok (.aload_n 0, 1) := dk_42 (dk_at dksX3_wrongOrder_1 18 rfl rfl)
theorem dX3_wrongOrder_43 : decode cX3_wrongOrder 43 = .ok (.getfield 21, 3) := dk_180 0 21 (dk_at dksX3_wrongOrder_1 19 rfl rfl)
theorem dX3_wrongOrder_46 : decode cX3_wrongOrder 46 = .ok (.iload_n 2, 1) := dk_28 (dk_at dksX3_wrongOrder_1 22 rfl rfl)
theorem dX3_wrongOrder_47 : decode cX3_wrongOrder 47 = .ok (.iconst 1, 1) := dk_4 (dk_at dksX3_wrongOrder_1 23 rfl rfl)
theorem dX3_wrongOrder_48 : decode cX3_wrongOrder 48 = .ok (.iadd, 1) := dk_96 (dk_at dksX3_wrongOrder_2 0 rfl rfl)
theorem dX3_wrongOrder_49 : decode cX3_wrongOrder 49 = .ok (.iaload, 1) := dk_46 (dk_at dksX3_wrongOrder_2 1 rfl rfl)
theorem dX3_wrongOrder_50 : decode cX3_wrongOrder 50 = .ok (.if_icmp .ge 29, 3) := dk_162 0 29 (dk_at dksX3_wrongOrder_2 2 rfl rfl)
theorem dX3_wrongOrder_53 : decode cX3_wrongOrder 53 = .ok (.aload_n 0, 1) := dk_42 (dk_at dksX3_wrongOrder_2 5 rfl rfl)
theorem dX3_wrongOrder_54 : decode cX3_wrongOrder 54 = .ok (.getfield 25, 3) := dk_180 0 25 (dk_at dksX3_wrongOrder_2 6 rfl rfl)
theorem dX3_wrongOrder_57 : decode cX3_wrongOrder 57 = .ok (.iload_n 3, 1) := dk_29 (dk_at dksX3_wrongOrder_2 9 rfl rfl)
theorem dX3_wrongOrder_58 : decode cX3_wrongOrder 58 = .ok (.iaload, 1) := dk_46 (dk_at dksX3_wrongOrder_2 10 rfl rfl)
theorem dX3_wrongOrder_59 : decode cX3_wrongOrder 59 = .ok (.aload_n 0, 1) := dk_42 (dk_at dksX3_wrongOrder_2 11 rfl rfl)
theorem dX3_wrongOrder_60 : decode cX3_wrongOrder 60 = .ok (.getfield 25, 3) := dk_180 0 25 (dk_at dksX3_wrongOrder_2 12 rfl rfl)
theorem dX3_wrongOrder_63 : decode cX3_wrongOrder 63 = .ok (.iload_n 3, 1) := dk_29 (dk_at dksX3_wrongOrder_2 15 rfl rfl)
theorem dX3_wrongOrder_64 : decode cX3_wrongOrder 64 = .ok (.iconst 1, 1) := dk_4 (dk_at dksX3_wrongOrder_2 16 rfl rfl)
theorem dX3_wrongOrder_65 : decode cX3_wrongOrder 65 = .ok (.isub, 1) := dk_100 (dk_at dksX3_wrongOrder_2 17 rfl rfl)
theorem dX3_wrongOrder_66 : decode cX3_wrongOrder 66 = .ok (.iaload, 1) := dk_46 (dk_at dksX3_wrongOrder_2 18 rfl rfl)
theorem dX3_wrongOrder_67 : decode cX3_wrongOrder 67 = .ok (.if_icmp .gt 6, 3) := dk_163 0 6 (dk_at dksX3_wrongOrder_2 19 rfl rfl)
theorem dX3_wrongOrder_70 : decode cX3_wrongOrder 70 = .ok (.iinc 1 1, 3) := dk_132 1 1 (dk_at dksX3_wrongOrder_3 0 rfl rfl)
theorem dX3_wrongOrder_73 : decode cX3_wrongOrder 73 = .ok (.iinc 3 1, 3) := dk_132 3 1 (dk_at dksX3_wrongOrder_3 3 rfl rfl)
theorem dX3_wrongOrder_76 : decode cX3_wrongOrder 76 = .ok (.goto (-35), 3) := dk_167 255 221 (dk_at dksX3_wrongOrder_3 6 rfl rfl)
theorem dX3_wrongOrder_79 : decode cX3_wrongOrder 79 = .ok (.iinc 2 1, 3) := dk_132 2 1 (dk_at dksX3_wrongOrder_3 9 rfl rfl)
theorem dX3_wrongOrder_82 : decode cX3_wrongOrder 82 = .ok (.goto (-78), 3) := dk_167 255 178 (dk_at dksX3_wrongOrder_3 12 rfl rfl)
theorem dX3_wrongOrder_85 : decode cX3_wrongOrder 85 = .ok (.iload_n 1, 1) := dk_27 (dk_at dksX3_wrongOrder_3 15 rfl rfl)
theorem dX3_wrongOrder_86 : decode cX3_wrongOrder 86 = .ok (.ireturn, 1) := dk_172 (dk_at dksX3_wrongOrder_3 16 rfl rfl)
abbrev cX3_transposed : ByteArray := prog_4_method_20_code
def yX3_transposed : MethodName := ⟨RX3, "transposed", "()LCsrCalculator$Csr;"⟩
def dkwX3_transposed_0 : List UInt8 := [42, 180, 0, 18, 42, 180, 0, 14, 42, 186, 0, 100, 0, 0, 42, 186, 0, 101, 0, 0, 184, 0, 84, 176]
abbrev dktX3_transposed_0 : List UInt8 := dkwX3_transposed_0 ++ []
theorem dksX3_transposed_0 : cX3_transposed.data.toList.drop 0 = dktX3_transposed_0 := by decide +kernel
theorem dX3_transposed_0 : decode cX3_transposed 0 = .ok (.aload_n 0, 1) := dk_42 (dk_at dksX3_transposed_0 0 rfl rfl)
theorem dX3_transposed_1 : decode cX3_transposed 1 = .ok (.getfield 18, 3) := dk_180 0 18 (dk_at dksX3_transposed_0 1 rfl rfl)
theorem dX3_transposed_4 : decode cX3_transposed 4 = .ok (.aload_n 0, 1) := dk_42 (dk_at dksX3_transposed_0 4 rfl rfl)
theorem dX3_transposed_5 : decode cX3_transposed 5 = .ok (.getfield 14, 3) := dk_180 0 14 (dk_at dksX3_transposed_0 5 rfl rfl)
theorem dX3_transposed_8 : decode cX3_transposed 8 = .ok (.aload_n 0, 1) := dk_42 (dk_at dksX3_transposed_0 8 rfl rfl)
theorem dX3_transposed_9 : decode cX3_transposed 9 = .ok (.invokedynamic 100, 5) := by decide +kernel
theorem dX3_transposed_14 : decode cX3_transposed 14 = .ok (.aload_n 0, 1) := dk_42 (dk_at dksX3_transposed_0 14 rfl rfl)
theorem dX3_transposed_15 : decode cX3_transposed 15 = .ok (.invokedynamic 101, 5) := by decide +kernel
theorem dX3_transposed_20 : decode cX3_transposed 20 = .ok (.invokestatic 84, 3) := dk_184 0 84 (dk_at dksX3_transposed_0 20 rfl rfl)
theorem dX3_transposed_23 : decode cX3_transposed 23 = .ok (.areturn, 1) := dk_176 (dk_at dksX3_transposed_0 23 rfl rfl)
abbrev cX3_lambda_transposed_8 : ByteArray := prog_4_method_41_code
def yX3_lambda_transposed_8 : MethodName := ⟨RX3, "lambda$transposed$8", "(II)Z"⟩
def dkwX3_lambda_transposed_8_0 : List UInt8 := [42, 28, 27, 182, 0, 118, 172]
abbrev dktX3_lambda_transposed_8_0 : List UInt8 := dkwX3_lambda_transposed_8_0 ++ []
theorem dksX3_lambda_transposed_8_0 : cX3_lambda_transposed_8.data.toList.drop 0 = dktX3_lambda_transposed_8_0 := by decide +kernel
theorem dX3_lambda_transposed_8_0 : decode cX3_lambda_transposed_8 0 = .ok (.aload_n 0, 1) := dk_42 (dk_at dksX3_lambda_transposed_8_0 0 rfl rfl)
theorem dX3_lambda_transposed_8_1 : decode cX3_lambda_transposed_8 1 = .ok (.iload_n 2, 1) := dk_28 (dk_at dksX3_lambda_transposed_8_0 1 rfl rfl)
theorem dX3_lambda_transposed_8_2 : decode cX3_lambda_transposed_8 2 = .ok (.iload_n 1, 1) := dk_27 (dk_at dksX3_lambda_transposed_8_0 2 rfl rfl)
theorem dX3_lambda_transposed_8_3 : decode cX3_lambda_transposed_8 3 = .ok (.invokevirtual 118, 3) := dk_182 0 118 (dk_at dksX3_lambda_transposed_8_0 3 rfl rfl)
theorem dX3_lambda_transposed_8_6 : decode cX3_lambda_transposed_8 6 = .ok (.ireturn, 1) := dk_172 (dk_at dksX3_lambda_transposed_8_0 6 rfl rfl)
abbrev cX3_stores : ByteArray := prog_4_method_7_code
def yX3_stores : MethodName := ⟨RX3, "stores", "(II)Z"⟩
def dkwX3_stores_0 : List UInt8 := [42, 27, 28, 182, 0, 64, 2, 159, 0, 7, 4, 167, 0, 4, 3, 172]
abbrev dktX3_stores_0 : List UInt8 := dkwX3_stores_0 ++ []
theorem dksX3_stores_0 : cX3_stores.data.toList.drop 0 = dktX3_stores_0 := by decide +kernel
theorem dX3_stores_0 : decode cX3_stores 0 = .ok (.aload_n 0, 1) := dk_42 (dk_at dksX3_stores_0 0 rfl rfl)
theorem dX3_stores_1 : decode cX3_stores 1 = .ok (.iload_n 1, 1) := dk_27 (dk_at dksX3_stores_0 1 rfl rfl)
theorem dX3_stores_2 : decode cX3_stores 2 = .ok (.iload_n 2, 1) := dk_28 (dk_at dksX3_stores_0 2 rfl rfl)
theorem dX3_stores_3 : decode cX3_stores 3 = .ok (.invokevirtual 64, 3) := dk_182 0 64 (dk_at dksX3_stores_0 3 rfl rfl)
theorem dX3_stores_6 : decode cX3_stores 6 = .ok (.iconst (-1), 1) := dk_2 (dk_at dksX3_stores_0 6 rfl rfl)
theorem dX3_stores_7 : decode cX3_stores 7 = .ok (.if_icmp .eq 7, 3) := dk_159 0 7 (dk_at dksX3_stores_0 7 rfl rfl)
theorem dX3_stores_10 : decode cX3_stores 10 = .ok (.iconst 1, 1) := dk_4 (dk_at dksX3_stores_0 10 rfl rfl)
theorem dX3_stores_11 : decode cX3_stores 11 = .ok (.goto 4, 3) := dk_167 0 4 (dk_at dksX3_stores_0 11 rfl rfl)
theorem dX3_stores_14 : decode cX3_stores 14 = .ok (.iconst 0, 1) := dk_3 (dk_at dksX3_stores_0 14 rfl rfl)
theorem dX3_stores_15 : decode cX3_stores 15 = .ok (.ireturn, 1) := dk_172 (dk_at dksX3_stores_0 15 rfl rfl)
abbrev cX3_find : ByteArray := prog_4_method_6_code
def yX3_find : MethodName := ⟨RX3, "find", "(II)I"⟩
def dkwX3_find_3 : List UInt8 := [54, 4, 167, 255, 203, 2, 172]
abbrev dktX3_find_3 : List UInt8 := dkwX3_find_3 ++ []
def dkwX3_find_2 : List UInt8 := [172, 42, 180, 0, 25, 21, 5, 46, 28, 162, 0, 11, 21, 5, 4, 96, 62, 167, 0, 9, 21, 5, 4, 100]
abbrev dktX3_find_2 : List UInt8 := dkwX3_find_2 ++ dktX3_find_3
def dkwX3_find_1 : List UInt8 := [163, 0, 53, 29, 21, 4, 96, 4, 124, 54, 5, 42, 180, 0, 25, 21, 5, 46, 28, 160, 0, 6, 21, 5]
abbrev dktX3_find_1 : List UInt8 := dkwX3_find_1 ++ dktX3_find_2
def dkwX3_find_0 : List UInt8 := [42, 180, 0, 21, 27, 46, 62, 42, 180, 0, 21, 27, 4, 96, 46, 4, 100, 54, 4, 29, 21, 4]
abbrev dktX3_find_0 : List UInt8 := dkwX3_find_0 ++ dktX3_find_1
theorem dksX3_find_0 : cX3_find.data.toList.drop 0 = dktX3_find_0 := by decide +kernel
theorem dksX3_find_1 : cX3_find.data.toList.drop 22 = dktX3_find_1 := dk_seg dksX3_find_0 22 rfl rfl
theorem dksX3_find_2 : cX3_find.data.toList.drop 46 = dktX3_find_2 := dk_seg dksX3_find_1 24 rfl rfl
theorem dksX3_find_3 : cX3_find.data.toList.drop 70 = dktX3_find_3 := dk_seg dksX3_find_2 24 rfl rfl
theorem dX3_find_0 : decode cX3_find 0 = .ok (.aload_n 0, 1) := dk_42 (dk_at dksX3_find_0 0 rfl rfl)
theorem dX3_find_1 : decode cX3_find 1 = .ok (.getfield 21, 3) := dk_180 0 21 (dk_at dksX3_find_0 1 rfl rfl)
theorem dX3_find_4 : decode cX3_find 4 = .ok (.iload_n 1, 1) := dk_27 (dk_at dksX3_find_0 4 rfl rfl)
theorem dX3_find_5 : decode cX3_find 5 = .ok (.iaload, 1) := dk_46 (dk_at dksX3_find_0 5 rfl rfl)
theorem dX3_find_6 : decode cX3_find 6 = .ok (.istore_n 3, 1) := dk_62 (dk_at dksX3_find_0 6 rfl rfl)
theorem dX3_find_7 : decode cX3_find 7 = .ok (.aload_n 0, 1) := dk_42 (dk_at dksX3_find_0 7 rfl rfl)
theorem dX3_find_8 : decode cX3_find 8 = .ok (.getfield 21, 3) := dk_180 0 21 (dk_at dksX3_find_0 8 rfl rfl)
theorem dX3_find_11 : decode cX3_find 11 = .ok (.iload_n 1, 1) := dk_27 (dk_at dksX3_find_0 11 rfl rfl)
theorem dX3_find_12 : decode cX3_find 12 = .ok (.iconst 1, 1) := dk_4 (dk_at dksX3_find_0 12 rfl rfl)
theorem dX3_find_13 : decode cX3_find 13 = .ok (.iadd, 1) := dk_96 (dk_at dksX3_find_0 13 rfl rfl)
theorem dX3_find_14 : decode cX3_find 14 = .ok (.iaload, 1) := dk_46 (dk_at dksX3_find_0 14 rfl rfl)
theorem dX3_find_15 : decode cX3_find 15 = .ok (.iconst 1, 1) := dk_4 (dk_at dksX3_find_0 15 rfl rfl)
theorem dX3_find_16 : decode cX3_find 16 = .ok (.isub, 1) := dk_100 (dk_at dksX3_find_0 16 rfl rfl)
theorem dX3_find_17 : decode cX3_find 17 = .ok (.istore 4, 2) := dk_54 4 (dk_at dksX3_find_0 17 rfl rfl)
theorem dX3_find_19 : decode cX3_find 19 = .ok (.iload_n 3, 1) := dk_29 (dk_at dksX3_find_0 19 rfl rfl)
theorem dX3_find_20 : decode cX3_find 20 = .ok (.iload 4, 2) := dk_21 4 (dk_at dksX3_find_0 20 rfl rfl)
theorem dX3_find_22 : decode cX3_find 22 = .ok (.if_icmp .gt 53, 3) := dk_163 0 53 (dk_at dksX3_find_1 0 rfl rfl)
theorem dX3_find_25 : decode cX3_find 25 = .ok (.iload_n 3, 1) := dk_29 (dk_at dksX3_find_1 3 rfl rfl)
theorem dX3_find_26 : decode cX3_find 26 = .ok (.iload 4, 2) := dk_21 4 (dk_at dksX3_find_1 4 rfl rfl)
theorem dX3_find_28 : decode cX3_find 28 = .ok (.iadd, 1) := dk_96 (dk_at dksX3_find_1 6 rfl rfl)
theorem dX3_find_29 : decode cX3_find 29 = .ok (.iconst 1, 1) := dk_4 (dk_at dksX3_find_1 7 rfl rfl)
theorem dX3_find_30 : decode cX3_find 30 = .ok (.iushr, 1) := dk_124 (dk_at dksX3_find_1 8 rfl rfl)
theorem dX3_find_31 : decode cX3_find 31 = .ok (.istore 5, 2) := dk_54 5 (dk_at dksX3_find_1 9 rfl rfl)
theorem dX3_find_33 : decode cX3_find 33 = .ok (.aload_n 0, 1) := dk_42 (dk_at dksX3_find_1 11 rfl rfl)
theorem dX3_find_34 : decode cX3_find 34 = .ok (.getfield 25, 3) := dk_180 0 25 (dk_at dksX3_find_1 12 rfl rfl)
theorem dX3_find_37 : decode cX3_find 37 = .ok (.iload 5, 2) := dk_21 5 (dk_at dksX3_find_1 15 rfl rfl)
theorem dX3_find_39 : decode cX3_find 39 = .ok (.iaload, 1) := dk_46 (dk_at dksX3_find_1 17 rfl rfl)
theorem dX3_find_40 : decode cX3_find 40 = .ok (.iload_n 2, 1) := dk_28 (dk_at dksX3_find_1 18 rfl rfl)
theorem dX3_find_41 : decode cX3_find 41 = .ok (.if_icmp .ne 6, 3) := dk_160 0 6 (dk_at dksX3_find_1 19 rfl rfl)
theorem dX3_find_44 : decode cX3_find 44 = .ok (.iload 5, 2) := dk_21 5 (dk_at dksX3_find_1 22 rfl rfl)
theorem dX3_find_46 : decode cX3_find 46 = .ok (.ireturn, 1) := dk_172 (dk_at dksX3_find_2 0 rfl rfl)
theorem dX3_find_47 : decode cX3_find 47 = .ok (.aload_n 0, 1) := dk_42 (dk_at dksX3_find_2 1 rfl rfl)
theorem dX3_find_48 : decode cX3_find 48 = .ok (.getfield 25, 3) := dk_180 0 25 (dk_at dksX3_find_2 2 rfl rfl)
theorem dX3_find_51 : decode cX3_find 51 = .ok (.iload 5, 2) := dk_21 5 (dk_at dksX3_find_2 5 rfl rfl)
theorem dX3_find_53 : decode cX3_find 53 = .ok (.iaload, 1) := dk_46 (dk_at dksX3_find_2 7 rfl rfl)
theorem dX3_find_54 : decode cX3_find 54 = .ok (.iload_n 2, 1) := dk_28 (dk_at dksX3_find_2 8 rfl rfl)
theorem dX3_find_55 : decode cX3_find 55 = .ok (.if_icmp .ge 11, 3) := dk_162 0 11 (dk_at dksX3_find_2 9 rfl rfl)
theorem dX3_find_58 : decode cX3_find 58 = .ok (.iload 5, 2) := dk_21 5 (dk_at dksX3_find_2 12 rfl rfl)
theorem dX3_find_60 : decode cX3_find 60 = .ok (.iconst 1, 1) := dk_4 (dk_at dksX3_find_2 14 rfl rfl)
theorem dX3_find_61 : decode cX3_find 61 = .ok (.iadd, 1) := dk_96 (dk_at dksX3_find_2 15 rfl rfl)
theorem dX3_find_62 : decode cX3_find 62 = .ok (.istore_n 3, 1) := dk_62 (dk_at dksX3_find_2 16 rfl rfl)
theorem dX3_find_63 : decode cX3_find 63 = .ok (.goto 9, 3) := dk_167 0 9 (dk_at dksX3_find_2 17 rfl rfl)
theorem dX3_find_66 : decode cX3_find 66 = .ok (.iload 5, 2) := dk_21 5 (dk_at dksX3_find_2 20 rfl rfl)
theorem dX3_find_68 : decode cX3_find 68 = .ok (.iconst 1, 1) := dk_4 (dk_at dksX3_find_2 22 rfl rfl)
theorem dX3_find_69 : decode cX3_find 69 = .ok (.isub, 1) := dk_100 (dk_at dksX3_find_2 23 rfl rfl)
theorem dX3_find_70 : decode cX3_find 70 = .ok (.istore 4, 2) := dk_54 4 (dk_at dksX3_find_3 0 rfl rfl)
theorem dX3_find_72 : decode cX3_find 72 = .ok (.goto (-53), 3) := dk_167 255 203 (dk_at dksX3_find_3 2 rfl rfl)
theorem dX3_find_75 : decode cX3_find 75 = .ok (.iconst (-1), 1) := dk_2 (dk_at dksX3_find_3 5 rfl rfl)
theorem dX3_find_76 : decode cX3_find 76 = .ok (.ireturn, 1) := dk_172 (dk_at dksX3_find_3 6 rfl rfl)
abbrev cX3_lambda_transposed_9 : ByteArray := prog_4_method_40_code
def yX3_lambda_transposed_9 : MethodName := ⟨RX3, "lambda$transposed$9", "(II)J"⟩
def dkwX3_lambda_transposed_9_0 : List UInt8 := [42, 28, 27, 182, 0, 76, 133, 173]
abbrev dktX3_lambda_transposed_9_0 : List UInt8 := dkwX3_lambda_transposed_9_0 ++ []
theorem dksX3_lambda_transposed_9_0 : cX3_lambda_transposed_9.data.toList.drop 0 = dktX3_lambda_transposed_9_0 := by decide +kernel
theorem dX3_lambda_transposed_9_0 : decode cX3_lambda_transposed_9 0 = .ok (.aload_n 0, 1) := dk_42 (dk_at dksX3_lambda_transposed_9_0 0 rfl rfl)
theorem dX3_lambda_transposed_9_1 : decode cX3_lambda_transposed_9 1 = .ok (.iload_n 2, 1) := dk_28 (dk_at dksX3_lambda_transposed_9_0 1 rfl rfl)
theorem dX3_lambda_transposed_9_2 : decode cX3_lambda_transposed_9 2 = .ok (.iload_n 1, 1) := dk_27 (dk_at dksX3_lambda_transposed_9_0 2 rfl rfl)
theorem dX3_lambda_transposed_9_3 : decode cX3_lambda_transposed_9 3 = .ok (.invokevirtual 76, 3) := dk_182 0 76 (dk_at dksX3_lambda_transposed_9_0 3 rfl rfl)
theorem dX3_lambda_transposed_9_6 : decode cX3_lambda_transposed_9 6 = .ok (.i2l, 1) := dk_133 (dk_at dksX3_lambda_transposed_9_0 6 rfl rfl)
theorem dX3_lambda_transposed_9_7 : decode cX3_lambda_transposed_9 7 = .ok (.lreturn, 1) := dk_173 (dk_at dksX3_lambda_transposed_9_0 7 rfl rfl)
abbrev cX3_value : ByteArray := prog_4_method_8_code
def yX3_value : MethodName := ⟨RX3, "value", "(II)I"⟩
def dkwX3_value_0 : List UInt8 := [42, 27, 28, 182, 0, 64, 62, 29, 2, 160, 0, 7, 3, 167, 0, 9, 42, 180, 0, 28, 29, 46, 172]
abbrev dktX3_value_0 : List UInt8 := dkwX3_value_0 ++ []
theorem dksX3_value_0 : cX3_value.data.toList.drop 0 = dktX3_value_0 := by decide +kernel
theorem dX3_value_0 : decode cX3_value 0 = .ok (.aload_n 0, 1) := dk_42 (dk_at dksX3_value_0 0 rfl rfl)
theorem dX3_value_1 : decode cX3_value 1 = .ok (.iload_n 1, 1) := dk_27 (dk_at dksX3_value_0 1 rfl rfl)
theorem dX3_value_2 : decode cX3_value 2 = .ok (.iload_n 2, 1) := dk_28 (dk_at dksX3_value_0 2 rfl rfl)
theorem dX3_value_3 : decode cX3_value 3 = .ok (.invokevirtual 64, 3) := dk_182 0 64 (dk_at dksX3_value_0 3 rfl rfl)
theorem dX3_value_6 : decode cX3_value 6 = .ok (.istore_n 3, 1) := dk_62 (dk_at dksX3_value_0 6 rfl rfl)
theorem dX3_value_7 : decode cX3_value 7 = .ok (.iload_n 3, 1) := dk_29 (dk_at dksX3_value_0 7 rfl rfl)
theorem dX3_value_8 : decode cX3_value 8 = .ok (.iconst (-1), 1) := dk_2 (dk_at dksX3_value_0 8 rfl rfl)
theorem dX3_value_9 : decode cX3_value 9 = .ok (.if_icmp .ne 7, 3) := dk_160 0 7 (dk_at dksX3_value_0 9 rfl rfl)
theorem dX3_value_12 : decode cX3_value 12 = .ok (.iconst 0, 1) := dk_3 (dk_at dksX3_value_0 12 rfl rfl)
theorem dX3_value_13 : decode cX3_value 13 = .ok (.goto 9, 3) := dk_167 0 9 (dk_at dksX3_value_0 13 rfl rfl)
theorem dX3_value_16 : decode cX3_value 16 = .ok (.aload_n 0, 1) := dk_42 (dk_at dksX3_value_0 16 rfl rfl)
theorem dX3_value_17 : decode cX3_value 17 = .ok (.getfield 28, 3) := dk_180 0 28 (dk_at dksX3_value_0 17 rfl rfl)
theorem dX3_value_20 : decode cX3_value 20 = .ok (.iload_n 3, 1) := dk_29 (dk_at dksX3_value_0 20 rfl rfl)
theorem dX3_value_21 : decode cX3_value 21 = .ok (.iaload, 1) := dk_46 (dk_at dksX3_value_0 21 rfl rfl)
theorem dX3_value_22 : decode cX3_value 22 = .ok (.ireturn, 1) := dk_172 (dk_at dksX3_value_0 22 rfl rfl)
abbrev cX3_build : ByteArray := prog_4_method_3_code
def yX3_build : MethodName := ⟨RX3, "build", "(IILCsrCalculator$Mask;LCsrCalculator$Cell;)LCsrCalculator$Csr;"⟩
def dkwX3_build_6 : List UInt8 := [21, 7, 184, 0, 54, 25, 6, 21, 7, 184, 0, 54, 183, 0, 3, 176]
abbrev dktX3_build_6 : List UInt8 := dkwX3_build_6 ++ []
def dkwX3_build_5 : List UInt8 := [21, 8, 4, 96, 21, 7, 79, 132, 8, 1, 167, 255, 155, 187, 0, 4, 89, 26, 27, 25, 4, 25, 5]
abbrev dktX3_build_5 : List UInt8 := dkwX3_build_5 ++ dktX3_build_6
def dkwX3_build_4 : List UInt8 := [21, 7, 21, 9, 79, 25, 6, 21, 7, 22, 10, 136, 79, 132, 7, 1, 132, 9, 1, 167, 255, 179, 25, 4]
abbrev dktX3_build_4 : List UInt8 := dkwX3_build_4 ++ dktX3_build_5
def dkwX3_build_3 : List UInt8 := [22, 10, 20, 0, 43, 20, 0, 45, 184, 0, 47, 154, 0, 11, 187, 0, 51, 89, 183, 0, 53, 191, 25, 5]
abbrev dktX3_build_3 : List UInt8 := dkwX3_build_3 ++ dktX3_build_4
def dkwX3_build_2 : List UInt8 := [185, 0, 31, 3, 0, 154, 0, 6, 167, 0, 55, 45, 21, 8, 21, 9, 185, 0, 37, 3, 0, 55, 10]
abbrev dktX3_build_2 : List UInt8 := dkwX3_build_2 ++ dktX3_build_3
def dkwX3_build_1 : List UInt8 := [3, 54, 8, 21, 8, 26, 162, 0, 101, 3, 54, 9, 21, 9, 27, 162, 0, 77, 44, 21, 8, 21, 9]
abbrev dktX3_build_1 : List UInt8 := dkwX3_build_1 ++ dktX3_build_2
def dkwX3_build_0 : List UInt8 := [26, 4, 96, 188, 10, 58, 4, 26, 27, 104, 188, 10, 58, 5, 26, 27, 104, 188, 10, 58, 6, 3, 54, 7]
abbrev dktX3_build_0 : List UInt8 := dkwX3_build_0 ++ dktX3_build_1
theorem dksX3_build_0 : cX3_build.data.toList.drop 0 = dktX3_build_0 := by decide +kernel
theorem dksX3_build_1 : cX3_build.data.toList.drop 24 = dktX3_build_1 := dk_seg dksX3_build_0 24 rfl rfl
theorem dksX3_build_2 : cX3_build.data.toList.drop 47 = dktX3_build_2 := dk_seg dksX3_build_1 23 rfl rfl
theorem dksX3_build_3 : cX3_build.data.toList.drop 70 = dktX3_build_3 := dk_seg dksX3_build_2 23 rfl rfl
theorem dksX3_build_4 : cX3_build.data.toList.drop 94 = dktX3_build_4 := dk_seg dksX3_build_3 24 rfl rfl
theorem dksX3_build_5 : cX3_build.data.toList.drop 118 = dktX3_build_5 := dk_seg dksX3_build_4 24 rfl rfl
theorem dksX3_build_6 : cX3_build.data.toList.drop 141 = dktX3_build_6 := dk_seg dksX3_build_5 23 rfl rfl
theorem dX3_build_0 : decode cX3_build 0 = .ok (.iload_n 0, 1) := dk_26 (dk_at dksX3_build_0 0 rfl rfl)
theorem dX3_build_1 : decode cX3_build 1 = .ok (.iconst 1, 1) := dk_4 (dk_at dksX3_build_0 1 rfl rfl)
theorem dX3_build_2 : decode cX3_build 2 = .ok (.iadd, 1) := dk_96 (dk_at dksX3_build_0 2 rfl rfl)
theorem dX3_build_3 : decode cX3_build 3 = .ok (.newarray .int, 2) := dk_188_10 (dk_at dksX3_build_0 3 rfl rfl)
theorem dX3_build_5 : decode cX3_build 5 = .ok (.astore 4, 2) := dk_58 4 (dk_at dksX3_build_0 5 rfl rfl)
theorem dX3_build_7 : decode cX3_build 7 = .ok (.iload_n 0, 1) := dk_26 (dk_at dksX3_build_0 7 rfl rfl)
theorem dX3_build_8 : decode cX3_build 8 = .ok (.iload_n 1, 1) := dk_27 (dk_at dksX3_build_0 8 rfl rfl)
theorem dX3_build_9 : decode cX3_build 9 = .ok (.imul, 1) := dk_104 (dk_at dksX3_build_0 9 rfl rfl)
theorem dX3_build_10 : decode cX3_build 10 = .ok (.newarray .int, 2) := dk_188_10 (dk_at dksX3_build_0 10 rfl rfl)
theorem dX3_build_12 : decode cX3_build 12 = .ok (.astore 5, 2) := dk_58 5 (dk_at dksX3_build_0 12 rfl rfl)
theorem dX3_build_14 : decode cX3_build 14 = .ok (.iload_n 0, 1) := dk_26 (dk_at dksX3_build_0 14 rfl rfl)
theorem dX3_build_15 : decode cX3_build 15 = .ok (.iload_n 1, 1) := dk_27 (dk_at dksX3_build_0 15 rfl rfl)
theorem dX3_build_16 : decode cX3_build 16 = .ok (.imul, 1) := dk_104 (dk_at dksX3_build_0 16 rfl rfl)
theorem dX3_build_17 : decode cX3_build 17 = .ok (.newarray .int, 2) := dk_188_10 (dk_at dksX3_build_0 17 rfl rfl)
theorem dX3_build_19 : decode cX3_build 19 = .ok (.astore 6, 2) := dk_58 6 (dk_at dksX3_build_0 19 rfl rfl)
theorem dX3_build_21 : decode cX3_build 21 = .ok (.iconst 0, 1) := dk_3 (dk_at dksX3_build_0 21 rfl rfl)
theorem dX3_build_22 : decode cX3_build 22 = .ok (.istore 7, 2) := dk_54 7 (dk_at dksX3_build_0 22 rfl rfl)
theorem dX3_build_24 : decode cX3_build 24 = .ok (.iconst 0, 1) := dk_3 (dk_at dksX3_build_1 0 rfl rfl)
theorem dX3_build_25 : decode cX3_build 25 = .ok (.istore 8, 2) := dk_54 8 (dk_at dksX3_build_1 1 rfl rfl)
theorem dX3_build_27 : decode cX3_build 27 = .ok (.iload 8, 2) := dk_21 8 (dk_at dksX3_build_1 3 rfl rfl)
theorem dX3_build_29 : decode cX3_build 29 = .ok (.iload_n 0, 1) := dk_26 (dk_at dksX3_build_1 5 rfl rfl)
theorem dX3_build_30 : decode cX3_build 30 = .ok (.if_icmp .ge 101, 3) := dk_162 0 101 (dk_at dksX3_build_1 6 rfl rfl)
theorem dX3_build_33 : decode cX3_build 33 = .ok (.iconst 0, 1) := dk_3 (dk_at dksX3_build_1 9 rfl rfl)
theorem dX3_build_34 : decode cX3_build 34 = .ok (.istore 9, 2) := dk_54 9 (dk_at dksX3_build_1 10 rfl rfl)
theorem dX3_build_36 : decode cX3_build 36 = .ok (.iload 9, 2) := dk_21 9 (dk_at dksX3_build_1 12 rfl rfl)
theorem dX3_build_38 : decode cX3_build 38 = .ok (.iload_n 1, 1) := dk_27 (dk_at dksX3_build_1 14 rfl rfl)
theorem dX3_build_39 : decode cX3_build 39 = .ok (.if_icmp .ge 77, 3) := dk_162 0 77 (dk_at dksX3_build_1 15 rfl rfl)
theorem dX3_build_42 : decode cX3_build 42 = .ok (.aload_n 2, 1) := dk_44 (dk_at dksX3_build_1 18 rfl rfl)
theorem dX3_build_43 : decode cX3_build 43 = .ok (.iload 8, 2) := dk_21 8 (dk_at dksX3_build_1 19 rfl rfl)
theorem dX3_build_45 : decode cX3_build 45 = .ok (.iload 9, 2) := dk_21 9 (dk_at dksX3_build_1 21 rfl rfl)
theorem dX3_build_47 : decode cX3_build 47 = .ok (.invokeinterface 31 3, 5) := by decide +kernel
theorem dX3_build_52 : decode cX3_build 52 = .ok (.ifCond .ne 6, 3) := dk_154 0 6 (dk_at dksX3_build_2 5 rfl rfl)
theorem dX3_build_55 : decode cX3_build 55 = .ok (.goto 55, 3) := dk_167 0 55 (dk_at dksX3_build_2 8 rfl rfl)
theorem dX3_build_58 : decode cX3_build 58 = .ok (.aload_n 3, 1) := dk_45 (dk_at dksX3_build_2 11 rfl rfl)
theorem dX3_build_59 : decode cX3_build 59 = .ok (.iload 8, 2) := dk_21 8 (dk_at dksX3_build_2 12 rfl rfl)
theorem dX3_build_61 : decode cX3_build 61 = .ok (.iload 9, 2) := dk_21 9 (dk_at dksX3_build_2 14 rfl rfl)
theorem dX3_build_63 : decode cX3_build 63 = .ok (.invokeinterface 37 3, 5) := by decide +kernel
theorem dX3_build_68 : decode cX3_build 68 = .ok (.lstore 10, 2) := dk_55 10 (dk_at dksX3_build_2 21 rfl rfl)
theorem dX3_build_70 : decode cX3_build 70 = .ok (.lload 10, 2) := dk_22 10 (dk_at dksX3_build_3 0 rfl rfl)
theorem dX3_build_72 : decode cX3_build 72 = .ok (.ldc2_w 43, 3) := dk_20 0 43 (dk_at dksX3_build_3 2 rfl rfl)
theorem dX3_build_75 : decode cX3_build 75 = .ok (.ldc2_w 45, 3) := dk_20 0 45 (dk_at dksX3_build_3 5 rfl rfl)
theorem dX3_build_78 : decode cX3_build 78 = .ok (.invokestatic 47, 3) := dk_184 0 47 (dk_at dksX3_build_3 8 rfl rfl)
theorem dX3_build_81 : decode cX3_build 81 = .ok (.ifCond .ne 11, 3) := dk_154 0 11 (dk_at dksX3_build_3 11 rfl rfl)
theorem dX3_build_84 : decode cX3_build 84 = .ok (.new 51, 3) := dk_187 0 51 (dk_at dksX3_build_3 14 rfl rfl)
theorem dX3_build_87 : decode cX3_build 87 = .ok (.dup, 1) := dk_89 (dk_at dksX3_build_3 17 rfl rfl)
theorem dX3_build_88 : decode cX3_build 88 = .ok (.invokespecial 53, 3) := dk_183 0 53 (dk_at dksX3_build_3 18 rfl rfl)
theorem dX3_build_91 : decode cX3_build 91 = .ok (.athrow, 1) := dk_191 (dk_at dksX3_build_3 21 rfl rfl)
theorem dX3_build_92 : decode cX3_build 92 = .ok (.aload 5, 2) := dk_25 5 (dk_at dksX3_build_3 22 rfl rfl)
theorem dX3_build_94 : decode cX3_build 94 = .ok (.iload 7, 2) := dk_21 7 (dk_at dksX3_build_4 0 rfl rfl)
theorem dX3_build_96 : decode cX3_build 96 = .ok (.iload 9, 2) := dk_21 9 (dk_at dksX3_build_4 2 rfl rfl)
theorem dX3_build_98 : decode cX3_build 98 = .ok (.iastore, 1) := dk_79 (dk_at dksX3_build_4 4 rfl rfl)
theorem dX3_build_99 : decode cX3_build 99 = .ok (.aload 6, 2) := dk_25 6 (dk_at dksX3_build_4 5 rfl rfl)
theorem dX3_build_101 : decode cX3_build 101 = .ok (.iload 7, 2) := dk_21 7 (dk_at dksX3_build_4 7 rfl rfl)
theorem dX3_build_103 : decode cX3_build 103 = .ok (.lload 10, 2) := dk_22 10 (dk_at dksX3_build_4 9 rfl rfl)
theorem dX3_build_105 : decode cX3_build 105 = .ok (.l2i, 1) := dk_136 (dk_at dksX3_build_4 11 rfl rfl)
theorem dX3_build_106 : decode cX3_build 106 = .ok (.iastore, 1) := dk_79 (dk_at dksX3_build_4 12 rfl rfl)
theorem dX3_build_107 : decode cX3_build 107 = .ok (.iinc 7 1, 3) := dk_132 7 1 (dk_at dksX3_build_4 13 rfl rfl)
theorem dX3_build_110 : decode cX3_build 110 = .ok (.iinc 9 1, 3) := dk_132 9 1 (dk_at dksX3_build_4 16 rfl rfl)
theorem dX3_build_113 : decode cX3_build 113 = .ok (.goto (-77), 3) := dk_167 255 179 (dk_at dksX3_build_4 19 rfl rfl)
theorem dX3_build_116 : decode cX3_build 116 = .ok (.aload 4, 2) := dk_25 4 (dk_at dksX3_build_4 22 rfl rfl)
theorem dX3_build_118 : decode cX3_build 118 = .ok (.iload 8, 2) := dk_21 8 (dk_at dksX3_build_5 0 rfl rfl)
theorem dX3_build_120 : decode cX3_build 120 = .ok (.iconst 1, 1) := dk_4 (dk_at dksX3_build_5 2 rfl rfl)
theorem dX3_build_121 : decode cX3_build 121 = .ok (.iadd, 1) := dk_96 (dk_at dksX3_build_5 3 rfl rfl)
theorem dX3_build_122 : decode cX3_build 122 = .ok (.iload 7, 2) := dk_21 7 (dk_at dksX3_build_5 4 rfl rfl)
theorem dX3_build_124 : decode cX3_build 124 = .ok (.iastore, 1) := dk_79 (dk_at dksX3_build_5 6 rfl rfl)
theorem dX3_build_125 : decode cX3_build 125 = .ok (.iinc 8 1, 3) := dk_132 8 1 (dk_at dksX3_build_5 7 rfl rfl)
theorem dX3_build_128 : decode cX3_build 128 = .ok (.goto (-101), 3) := dk_167 255 155 (dk_at dksX3_build_5 10 rfl rfl)
theorem dX3_build_131 : decode cX3_build 131 = .ok (.new 4, 3) := dk_187 0 4 (dk_at dksX3_build_5 13 rfl rfl)
theorem dX3_build_134 : decode cX3_build 134 = .ok (.dup, 1) := dk_89 (dk_at dksX3_build_5 16 rfl rfl)
theorem dX3_build_135 : decode cX3_build 135 = .ok (.iload_n 0, 1) := dk_26 (dk_at dksX3_build_5 17 rfl rfl)
theorem dX3_build_136 : decode cX3_build 136 = .ok (.iload_n 1, 1) := dk_27 (dk_at dksX3_build_5 18 rfl rfl)
theorem dX3_build_137 : decode cX3_build 137 = .ok (.aload 4, 2) := dk_25 4 (dk_at dksX3_build_5 19 rfl rfl)
theorem dX3_build_139 : decode cX3_build 139 = .ok (.aload 5, 2) := dk_25 5 (dk_at dksX3_build_5 21 rfl rfl)
theorem dX3_build_141 : decode cX3_build 141 = .ok (.iload 7, 2) := dk_21 7 (dk_at dksX3_build_6 0 rfl rfl)
theorem dX3_build_143 : decode cX3_build 143 = .ok (.invokestatic 54, 3) := dk_184 0 54 (dk_at dksX3_build_6 2 rfl rfl)
theorem dX3_build_146 : decode cX3_build 146 = .ok (.aload 6, 2) := dk_25 6 (dk_at dksX3_build_6 5 rfl rfl)
theorem dX3_build_148 : decode cX3_build 148 = .ok (.iload 7, 2) := dk_21 7 (dk_at dksX3_build_6 7 rfl rfl)
theorem dX3_build_150 : decode cX3_build 150 = .ok (.invokestatic 54, 3) := dk_184 0 54 (dk_at dksX3_build_6 9 rfl rfl)
theorem dX3_build_153 : decode cX3_build 153 = .ok (.invokespecial 3, 3) := dk_183 0 3 (dk_at dksX3_build_6 12 rfl rfl)
theorem dX3_build_156 : decode cX3_build 156 = .ok (.areturn, 1) := dk_176 (dk_at dksX3_build_6 15 rfl rfl)
abbrev cX3_cut : ByteArray := prog_4_method_4_code
def yX3_cut : MethodName := ⟨RX3, "cut", "([II)[I"⟩
def dkwX3_cut_0 : List UInt8 := [27, 188, 10, 77, 42, 3, 44, 3, 27, 184, 0, 58, 44, 176]
abbrev dktX3_cut_0 : List UInt8 := dkwX3_cut_0 ++ []
theorem dksX3_cut_0 : cX3_cut.data.toList.drop 0 = dktX3_cut_0 := by decide +kernel
theorem dX3_cut_0 : decode cX3_cut 0 = .ok (.iload_n 1, 1) := dk_27 (dk_at dksX3_cut_0 0 rfl rfl)
theorem dX3_cut_1 : decode cX3_cut 1 = .ok (.newarray .int, 2) := dk_188_10 (dk_at dksX3_cut_0 1 rfl rfl)
theorem dX3_cut_3 : decode cX3_cut 3 = .ok (.astore_n 2, 1) := dk_77 (dk_at dksX3_cut_0 3 rfl rfl)
theorem dX3_cut_4 : decode cX3_cut 4 = .ok (.aload_n 0, 1) := dk_42 (dk_at dksX3_cut_0 4 rfl rfl)
theorem dX3_cut_5 : decode cX3_cut 5 = .ok (.iconst 0, 1) := dk_3 (dk_at dksX3_cut_0 5 rfl rfl)
theorem dX3_cut_6 : decode cX3_cut 6 = .ok (.aload_n 2, 1) := dk_44 (dk_at dksX3_cut_0 6 rfl rfl)
theorem dX3_cut_7 : decode cX3_cut 7 = .ok (.iconst 0, 1) := dk_3 (dk_at dksX3_cut_0 7 rfl rfl)
theorem dX3_cut_8 : decode cX3_cut 8 = .ok (.iload_n 1, 1) := dk_27 (dk_at dksX3_cut_0 8 rfl rfl)
theorem dX3_cut_9 : decode cX3_cut 9 = .ok (.invokestatic 58, 3) := dk_184 0 58 (dk_at dksX3_cut_0 9 rfl rfl)
theorem dX3_cut_12 : decode cX3_cut 12 = .ok (.aload_n 2, 1) := dk_44 (dk_at dksX3_cut_0 12 rfl rfl)
theorem dX3_cut_13 : decode cX3_cut 13 = .ok (.areturn, 1) := dk_176 (dk_at dksX3_cut_0 13 rfl rfl)
abbrev cX3_hasSameStructure : ByteArray := prog_4_method_13_code
def yX3_hasSameStructure : MethodName := ⟨RX3, "hasSameStructure", "(LCsrCalculator$Csr;)Z"⟩
def dkwX3_hasSameStructure_4 : List UInt8 := [160, 0, 7, 4, 167, 0, 4, 3, 61, 132, 3, 1, 167, 255, 219, 28, 172]
abbrev dktX3_hasSameStructure_4 : List UInt8 := dkwX3_hasSameStructure_4 ++ []
def dkwX3_hasSameStructure_3 : List UInt8 := [180, 0, 25, 190, 162, 0, 34, 28, 153, 0, 30, 42, 180, 0, 25, 29, 46, 43, 180, 0, 25, 29, 46]
abbrev dktX3_hasSameStructure_3 : List UInt8 := dkwX3_hasSameStructure_3 ++ dktX3_hasSameStructure_4
def dkwX3_hasSameStructure_2 : List UInt8 := [180, 0, 21, 29, 46, 160, 0, 7, 4, 167, 0, 4, 3, 61, 132, 3, 1, 167, 255, 220, 3, 62, 29, 42]
abbrev dktX3_hasSameStructure_2 : List UInt8 := dkwX3_hasSameStructure_2 ++ dktX3_hasSameStructure_3
def dkwX3_hasSameStructure_1 : List UInt8 := [61, 3, 62, 29, 42, 180, 0, 14, 162, 0, 34, 28, 153, 0, 30, 42, 180, 0, 21, 29, 46, 43]
abbrev dktX3_hasSameStructure_1 : List UInt8 := dkwX3_hasSameStructure_1 ++ dktX3_hasSameStructure_2
def dkwX3_hasSameStructure_0 : List UInt8 := [42, 43, 182, 0, 68, 153, 0, 18, 42, 182, 0, 72, 43, 182, 0, 72, 160, 0, 7, 4, 167, 0, 4, 3]
abbrev dktX3_hasSameStructure_0 : List UInt8 := dkwX3_hasSameStructure_0 ++ dktX3_hasSameStructure_1
theorem dksX3_hasSameStructure_0 : cX3_hasSameStructure.data.toList.drop 0 = dktX3_hasSameStructure_0 := by decide +kernel
theorem dksX3_hasSameStructure_1 : cX3_hasSameStructure.data.toList.drop 24 = dktX3_hasSameStructure_1 := dk_seg dksX3_hasSameStructure_0 24 rfl rfl
theorem dksX3_hasSameStructure_2 : cX3_hasSameStructure.data.toList.drop 46 = dktX3_hasSameStructure_2 := dk_seg dksX3_hasSameStructure_1 22 rfl rfl
theorem dksX3_hasSameStructure_3 : cX3_hasSameStructure.data.toList.drop 70 = dktX3_hasSameStructure_3 := dk_seg dksX3_hasSameStructure_2 24 rfl rfl
theorem dksX3_hasSameStructure_4 : cX3_hasSameStructure.data.toList.drop 93 = dktX3_hasSameStructure_4 := dk_seg dksX3_hasSameStructure_3 23 rfl rfl
theorem dX3_hasSameStructure_0 : decode cX3_hasSameStructure 0 = .ok (.aload_n 0, 1) := dk_42 (dk_at dksX3_hasSameStructure_0 0 rfl rfl)
theorem dX3_hasSameStructure_1 : decode cX3_hasSameStructure 1 = .ok (.aload_n 1, 1) := dk_43 (dk_at dksX3_hasSameStructure_0 1 rfl rfl)
theorem dX3_hasSameStructure_2 : decode cX3_hasSameStructure 2 = .ok (.invokevirtual 68, 3) := dk_182 0 68 (dk_at dksX3_hasSameStructure_0 2 rfl rfl)
theorem dX3_hasSameStructure_5 : decode cX3_hasSameStructure 5 = .ok (.ifCond .eq 18, 3) := dk_153 0 18 (dk_at dksX3_hasSameStructure_0 5 rfl rfl)
theorem dX3_hasSameStructure_8 : decode cX3_hasSameStructure 8 = .ok (.aload_n 0, 1) := dk_42 (dk_at dksX3_hasSameStructure_0 8 rfl rfl)
theorem dX3_hasSameStructure_9 : decode cX3_hasSameStructure 9 = .ok (.invokevirtual 72, 3) := dk_182 0 72 (dk_at dksX3_hasSameStructure_0 9 rfl rfl)
theorem dX3_hasSameStructure_12 : decode cX3_hasSameStructure 12 = .ok (.aload_n 1, 1) := dk_43 (dk_at dksX3_hasSameStructure_0 12 rfl rfl)
theorem dX3_hasSameStructure_13 : decode cX3_hasSameStructure 13 = .ok (.invokevirtual 72, 3) := dk_182 0 72 (dk_at dksX3_hasSameStructure_0 13 rfl rfl)
theorem dX3_hasSameStructure_16 : decode cX3_hasSameStructure 16 = .ok (.if_icmp .ne 7, 3) := dk_160 0 7 (dk_at dksX3_hasSameStructure_0 16 rfl rfl)
theorem dX3_hasSameStructure_19 : decode cX3_hasSameStructure 19 = .ok (.iconst 1, 1) := dk_4 (dk_at dksX3_hasSameStructure_0 19 rfl rfl)
theorem dX3_hasSameStructure_20 : decode cX3_hasSameStructure 20 = .ok (.goto 4, 3) := dk_167 0 4 (dk_at dksX3_hasSameStructure_0 20 rfl rfl)
theorem dX3_hasSameStructure_23 : decode cX3_hasSameStructure 23 = .ok (.iconst 0, 1) := dk_3 (dk_at dksX3_hasSameStructure_0 23 rfl rfl)
theorem dX3_hasSameStructure_24 : decode cX3_hasSameStructure 24 = .ok (.istore_n 2, 1) := dk_61 (dk_at dksX3_hasSameStructure_1 0 rfl rfl)
theorem dX3_hasSameStructure_25 : decode cX3_hasSameStructure 25 = .ok (.iconst 0, 1) := dk_3 (dk_at dksX3_hasSameStructure_1 1 rfl rfl)
theorem dX3_hasSameStructure_26 : decode cX3_hasSameStructure 26 = .ok (.istore_n 3, 1) := dk_62 (dk_at dksX3_hasSameStructure_1 2 rfl rfl)
theorem dX3_hasSameStructure_27 : decode cX3_hasSameStructure 27 = .ok (.iload_n 3, 1) := dk_29 (dk_at dksX3_hasSameStructure_1 3 rfl rfl)
theorem dX3_hasSameStructure_28 : decode cX3_hasSameStructure 28 = .ok (.aload_n 0, 1) := dk_42 (dk_at dksX3_hasSameStructure_1 4 rfl rfl)
theorem dX3_hasSameStructure_29 : decode cX3_hasSameStructure 29 = .ok (.getfield 14, 3) := dk_180 0 14 (dk_at dksX3_hasSameStructure_1 5 rfl rfl)
theorem dX3_hasSameStructure_32 : decode cX3_hasSameStructure 32 = .ok (.if_icmp .ge 34, 3) := dk_162 0 34 (dk_at dksX3_hasSameStructure_1 8 rfl rfl)
theorem dX3_hasSameStructure_35 : decode cX3_hasSameStructure 35 = .ok (.iload_n 2, 1) := dk_28 (dk_at dksX3_hasSameStructure_1 11 rfl rfl)
theorem dX3_hasSameStructure_36 : decode cX3_hasSameStructure 36 = .ok (.ifCond .eq 30, 3) := dk_153 0 30 (dk_at dksX3_hasSameStructure_1 12 rfl rfl)
theorem dX3_hasSameStructure_39 : decode cX3_hasSameStructure 39 = .ok (.aload_n 0, 1) := dk_42 (dk_at dksX3_hasSameStructure_1 15 rfl rfl)
theorem dX3_hasSameStructure_40 : decode cX3_hasSameStructure 40 = .ok (.getfield 21, 3) := dk_180 0 21 (dk_at dksX3_hasSameStructure_1 16 rfl rfl)
theorem dX3_hasSameStructure_43 : decode cX3_hasSameStructure 43 = .ok (.iload_n 3, 1) := dk_29 (dk_at dksX3_hasSameStructure_1 19 rfl rfl)
theorem dX3_hasSameStructure_44 : decode cX3_hasSameStructure 44 = .ok (.iaload, 1) := dk_46 (dk_at dksX3_hasSameStructure_1 20 rfl rfl)
theorem dX3_hasSameStructure_45 : decode cX3_hasSameStructure 45 = .ok (.aload_n 1, 1) := dk_43 (dk_at dksX3_hasSameStructure_1 21 rfl rfl)
theorem dX3_hasSameStructure_46 : decode cX3_hasSameStructure 46 = .ok (.getfield 21, 3) := dk_180 0 21 (dk_at dksX3_hasSameStructure_2 0 rfl rfl)
theorem dX3_hasSameStructure_49 : decode cX3_hasSameStructure 49 = .ok (.iload_n 3, 1) := dk_29 (dk_at dksX3_hasSameStructure_2 3 rfl rfl)
theorem dX3_hasSameStructure_50 : decode cX3_hasSameStructure 50 = .ok (.iaload, 1) := dk_46 (dk_at dksX3_hasSameStructure_2 4 rfl rfl)
theorem dX3_hasSameStructure_51 : decode cX3_hasSameStructure 51 = .ok (.if_icmp .ne 7, 3) := dk_160 0 7 (dk_at dksX3_hasSameStructure_2 5 rfl rfl)
theorem dX3_hasSameStructure_54 : decode cX3_hasSameStructure 54 = .ok (.iconst 1, 1) := dk_4 (dk_at dksX3_hasSameStructure_2 8 rfl rfl)
theorem dX3_hasSameStructure_55 : decode cX3_hasSameStructure 55 = .ok (.goto 4, 3) := dk_167 0 4 (dk_at dksX3_hasSameStructure_2 9 rfl rfl)
theorem dX3_hasSameStructure_58 : decode cX3_hasSameStructure 58 = .ok (.iconst 0, 1) := dk_3 (dk_at dksX3_hasSameStructure_2 12 rfl rfl)
theorem dX3_hasSameStructure_59 : decode cX3_hasSameStructure 59 = .ok (.istore_n 2, 1) := dk_61 (dk_at dksX3_hasSameStructure_2 13 rfl rfl)
theorem dX3_hasSameStructure_60 : decode cX3_hasSameStructure 60 = .ok (.iinc 3 1, 3) := dk_132 3 1 (dk_at dksX3_hasSameStructure_2 14 rfl rfl)
theorem dX3_hasSameStructure_63 : decode cX3_hasSameStructure 63 = .ok (.goto (-36), 3) := dk_167 255 220 (dk_at dksX3_hasSameStructure_2 17 rfl rfl)
theorem dX3_hasSameStructure_66 : decode cX3_hasSameStructure 66 = .ok (.iconst 0, 1) := dk_3 (dk_at dksX3_hasSameStructure_2 20 rfl rfl)
theorem dX3_hasSameStructure_67 : decode cX3_hasSameStructure 67 = .ok (.istore_n 3, 1) := dk_62 (dk_at dksX3_hasSameStructure_2 21 rfl rfl)
theorem dX3_hasSameStructure_68 : decode cX3_hasSameStructure 68 = .ok (.iload_n 3, 1) := dk_29 (dk_at dksX3_hasSameStructure_2 22 rfl rfl)
theorem dX3_hasSameStructure_69 : decode cX3_hasSameStructure 69 = .ok (.aload_n 0, 1) := dk_42 (dk_at dksX3_hasSameStructure_2 23 rfl rfl)
theorem dX3_hasSameStructure_70 : decode cX3_hasSameStructure 70 = .ok (.getfield 25, 3) := dk_180 0 25 (dk_at dksX3_hasSameStructure_3 0 rfl rfl)
theorem dX3_hasSameStructure_73 : decode cX3_hasSameStructure 73 = .ok (.arraylength, 1) := dk_190 (dk_at dksX3_hasSameStructure_3 3 rfl rfl)
theorem dX3_hasSameStructure_74 : decode cX3_hasSameStructure 74 = .ok (.if_icmp .ge 34, 3) := dk_162 0 34 (dk_at dksX3_hasSameStructure_3 4 rfl rfl)
theorem dX3_hasSameStructure_77 : decode cX3_hasSameStructure 77 = .ok (.iload_n 2, 1) := dk_28 (dk_at dksX3_hasSameStructure_3 7 rfl rfl)
theorem dX3_hasSameStructure_78 : decode cX3_hasSameStructure 78 = .ok (.ifCond .eq 30, 3) := dk_153 0 30 (dk_at dksX3_hasSameStructure_3 8 rfl rfl)
theorem dX3_hasSameStructure_81 : decode cX3_hasSameStructure 81 = .ok (.aload_n 0, 1) := dk_42 (dk_at dksX3_hasSameStructure_3 11 rfl rfl)
theorem dX3_hasSameStructure_82 : decode cX3_hasSameStructure 82 = .ok (.getfield 25, 3) := dk_180 0 25 (dk_at dksX3_hasSameStructure_3 12 rfl rfl)
theorem dX3_hasSameStructure_85 : decode cX3_hasSameStructure 85 = .ok (.iload_n 3, 1) := dk_29 (dk_at dksX3_hasSameStructure_3 15 rfl rfl)
theorem dX3_hasSameStructure_86 : decode cX3_hasSameStructure 86 = .ok (.iaload, 1) := dk_46 (dk_at dksX3_hasSameStructure_3 16 rfl rfl)
theorem dX3_hasSameStructure_87 : decode cX3_hasSameStructure 87 = .ok (.aload_n 1, 1) := dk_43 (dk_at dksX3_hasSameStructure_3 17 rfl rfl)
theorem dX3_hasSameStructure_88 : decode cX3_hasSameStructure 88 = .ok (.getfield 25, 3) := dk_180 0 25 (dk_at dksX3_hasSameStructure_3 18 rfl rfl)
theorem dX3_hasSameStructure_91 : decode cX3_hasSameStructure 91 = .ok (.iload_n 3, 1) := dk_29 (dk_at dksX3_hasSameStructure_3 21 rfl rfl)
theorem dX3_hasSameStructure_92 : decode cX3_hasSameStructure 92 = .ok (.iaload, 1) := dk_46 (dk_at dksX3_hasSameStructure_3 22 rfl rfl)
theorem dX3_hasSameStructure_93 : decode cX3_hasSameStructure 93 = .ok (.if_icmp .ne 7, 3) := dk_160 0 7 (dk_at dksX3_hasSameStructure_4 0 rfl rfl)
theorem dX3_hasSameStructure_96 : decode cX3_hasSameStructure 96 = .ok (.iconst 1, 1) := dk_4 (dk_at dksX3_hasSameStructure_4 3 rfl rfl)
theorem dX3_hasSameStructure_97 : decode cX3_hasSameStructure 97 = .ok (.goto 4, 3) := dk_167 0 4 (dk_at dksX3_hasSameStructure_4 4 rfl rfl)
theorem dX3_hasSameStructure_100 : decode cX3_hasSameStructure 100 = .ok (.iconst 0, 1) := dk_3 (dk_at dksX3_hasSameStructure_4 7 rfl rfl)
theorem dX3_hasSameStructure_101 : decode cX3_hasSameStructure 101 = .ok (.istore_n 2, 1) := dk_61 (dk_at dksX3_hasSameStructure_4 8 rfl rfl)
theorem dX3_hasSameStructure_102 : decode cX3_hasSameStructure 102 = .ok (.iinc 3 1, 3) := dk_132 3 1 (dk_at dksX3_hasSameStructure_4 9 rfl rfl)
theorem dX3_hasSameStructure_105 : decode cX3_hasSameStructure 105 = .ok (.goto (-37), 3) := dk_167 255 219 (dk_at dksX3_hasSameStructure_4 12 rfl rfl)
theorem dX3_hasSameStructure_108 : decode cX3_hasSameStructure 108 = .ok (.iload_n 2, 1) := dk_28 (dk_at dksX3_hasSameStructure_4 15 rfl rfl)
theorem dX3_hasSameStructure_109 : decode cX3_hasSameStructure 109 = .ok (.ireturn, 1) := dk_172 (dk_at dksX3_hasSameStructure_4 16 rfl rfl)
abbrev cX3_hasSameShape : ByteArray := prog_4_method_12_code
def yX3_hasSameShape : MethodName := ⟨RX3, "hasSameShape", "(LCsrCalculator$Csr;)Z"⟩
def dkwX3_hasSameShape_1 : List UInt8 := [167, 0, 4, 3, 172]
abbrev dktX3_hasSameShape_1 : List UInt8 := dkwX3_hasSameShape_1 ++ []
def dkwX3_hasSameShape_0 : List UInt8 := [42, 180, 0, 14, 43, 180, 0, 14, 160, 0, 18, 42, 180, 0, 18, 43, 180, 0, 18, 160, 0, 7, 4]
abbrev dktX3_hasSameShape_0 : List UInt8 := dkwX3_hasSameShape_0 ++ dktX3_hasSameShape_1
theorem dksX3_hasSameShape_0 : cX3_hasSameShape.data.toList.drop 0 = dktX3_hasSameShape_0 := by decide +kernel
theorem dksX3_hasSameShape_1 : cX3_hasSameShape.data.toList.drop 23 = dktX3_hasSameShape_1 := dk_seg dksX3_hasSameShape_0 23 rfl rfl
theorem dX3_hasSameShape_0 : decode cX3_hasSameShape 0 = .ok (.aload_n 0, 1) := dk_42 (dk_at dksX3_hasSameShape_0 0 rfl rfl)
theorem dX3_hasSameShape_1 : decode cX3_hasSameShape 1 = .ok (.getfield 14, 3) := dk_180 0 14 (dk_at dksX3_hasSameShape_0 1 rfl rfl)
theorem dX3_hasSameShape_4 : decode cX3_hasSameShape 4 = .ok (.aload_n 1, 1) := dk_43 (dk_at dksX3_hasSameShape_0 4 rfl rfl)
theorem dX3_hasSameShape_5 : decode cX3_hasSameShape 5 = .ok (.getfield 14, 3) := dk_180 0 14 (dk_at dksX3_hasSameShape_0 5 rfl rfl)
theorem dX3_hasSameShape_8 : decode cX3_hasSameShape 8 = .ok (.if_icmp .ne 18, 3) := dk_160 0 18 (dk_at dksX3_hasSameShape_0 8 rfl rfl)
theorem dX3_hasSameShape_11 : decode cX3_hasSameShape 11 = .ok (.aload_n 0, 1) := dk_42 (dk_at dksX3_hasSameShape_0 11 rfl rfl)
theorem dX3_hasSameShape_12 : decode cX3_hasSameShape 12 = .ok (.getfield 18, 3) := dk_180 0 18 (dk_at dksX3_hasSameShape_0 12 rfl rfl)
theorem dX3_hasSameShape_15 : decode cX3_hasSameShape 15 = .ok (.aload_n 1, 1) := dk_43 (dk_at dksX3_hasSameShape_0 15 rfl rfl)
theorem dX3_hasSameShape_16 : decode cX3_hasSameShape 16 = .ok (.getfield 18, 3) := dk_180 0 18 (dk_at dksX3_hasSameShape_0 16 rfl rfl)
theorem dX3_hasSameShape_19 : decode cX3_hasSameShape 19 = .ok (.if_icmp .ne 7, 3) := dk_160 0 7 (dk_at dksX3_hasSameShape_0 19 rfl rfl)
theorem dX3_hasSameShape_22 : decode cX3_hasSameShape 22 = .ok (.iconst 1, 1) := dk_4 (dk_at dksX3_hasSameShape_0 22 rfl rfl)
theorem dX3_hasSameShape_23 : decode cX3_hasSameShape 23 = .ok (.goto 4, 3) := dk_167 0 4 (dk_at dksX3_hasSameShape_1 0 rfl rfl)
theorem dX3_hasSameShape_26 : decode cX3_hasSameShape 26 = .ok (.iconst 0, 1) := dk_3 (dk_at dksX3_hasSameShape_1 3 rfl rfl)
theorem dX3_hasSameShape_27 : decode cX3_hasSameShape 27 = .ok (.ireturn, 1) := dk_172 (dk_at dksX3_hasSameShape_1 4 rfl rfl)
abbrev cX3_stored : ByteArray := prog_4_method_5_code
def yX3_stored : MethodName := ⟨RX3, "stored", "()I"⟩
def dkwX3_stored_0 : List UInt8 := [42, 180, 0, 25, 190, 172]
abbrev dktX3_stored_0 : List UInt8 := dkwX3_stored_0 ++ []
theorem dksX3_stored_0 : cX3_stored.data.toList.drop 0 = dktX3_stored_0 := by decide +kernel
theorem dX3_stored_0 : decode cX3_stored 0 = .ok (.aload_n 0, 1) := dk_42 (dk_at dksX3_stored_0 0 rfl rfl)
theorem dX3_stored_1 : decode cX3_stored 1 = .ok (.getfield 25, 3) := dk_180 0 25 (dk_at dksX3_stored_0 1 rfl rfl)
theorem dX3_stored_4 : decode cX3_stored 4 = .ok (.arraylength, 1) := dk_190 (dk_at dksX3_stored_0 4 rfl rfl)
theorem dX3_stored_5 : decode cX3_stored 5 = .ok (.ireturn, 1) := dk_172 (dk_at dksX3_stored_0 5 rfl rfl)
abbrev cX3_hasSameValues : ByteArray := prog_4_method_14_code
def yX3_hasSameValues : MethodName := ⟨RX3, "hasSameValues", "(LCsrCalculator$Csr;)Z"⟩
def dkwX3_hasSameValues_3 : List UInt8 := [28, 172]
abbrev dktX3_hasSameValues_3 : List UInt8 := dkwX3_hasSameValues_3 ++ []
def dkwX3_hasSameValues_2 : List UInt8 := [182, 0, 76, 160, 0, 7, 4, 167, 0, 4, 3, 61, 132, 4, 1, 167, 255, 217, 132, 3, 1, 167, 255, 196]
abbrev dktX3_hasSameValues_2 : List UInt8 := dkwX3_hasSameValues_2 ++ dktX3_hasSameValues_3
def dkwX3_hasSameValues_1 : List UInt8 := [21, 4, 42, 180, 0, 18, 162, 0, 36, 28, 153, 0, 32, 42, 29, 21, 4, 182, 0, 76, 43, 29, 21, 4]
abbrev dktX3_hasSameValues_1 : List UInt8 := dkwX3_hasSameValues_1 ++ dktX3_hasSameValues_2
def dkwX3_hasSameValues_0 : List UInt8 := [42, 43, 182, 0, 68, 61, 3, 62, 29, 42, 180, 0, 14, 162, 0, 58, 28, 153, 0, 54, 3, 54, 4]
abbrev dktX3_hasSameValues_0 : List UInt8 := dkwX3_hasSameValues_0 ++ dktX3_hasSameValues_1
theorem dksX3_hasSameValues_0 : cX3_hasSameValues.data.toList.drop 0 = dktX3_hasSameValues_0 := by decide +kernel
theorem dksX3_hasSameValues_1 : cX3_hasSameValues.data.toList.drop 23 = dktX3_hasSameValues_1 := dk_seg dksX3_hasSameValues_0 23 rfl rfl
theorem dksX3_hasSameValues_2 : cX3_hasSameValues.data.toList.drop 47 = dktX3_hasSameValues_2 := dk_seg dksX3_hasSameValues_1 24 rfl rfl
theorem dksX3_hasSameValues_3 : cX3_hasSameValues.data.toList.drop 71 = dktX3_hasSameValues_3 := dk_seg dksX3_hasSameValues_2 24 rfl rfl
theorem dX3_hasSameValues_0 : decode cX3_hasSameValues 0 = .ok (.aload_n 0, 1) := dk_42 (dk_at dksX3_hasSameValues_0 0 rfl rfl)
theorem dX3_hasSameValues_1 : decode cX3_hasSameValues 1 = .ok (.aload_n 1, 1) := dk_43 (dk_at dksX3_hasSameValues_0 1 rfl rfl)
theorem dX3_hasSameValues_2 : decode cX3_hasSameValues 2 = .ok (.invokevirtual 68, 3) := dk_182 0 68 (dk_at dksX3_hasSameValues_0 2 rfl rfl)
theorem dX3_hasSameValues_5 : decode cX3_hasSameValues 5 = .ok (.istore_n 2, 1) := dk_61 (dk_at dksX3_hasSameValues_0 5 rfl rfl)
theorem dX3_hasSameValues_6 : decode cX3_hasSameValues 6 = .ok (.iconst 0, 1) := dk_3 (dk_at dksX3_hasSameValues_0 6 rfl rfl)
theorem dX3_hasSameValues_7 : decode cX3_hasSameValues 7 = .ok (.istore_n 3, 1) := dk_62 (dk_at dksX3_hasSameValues_0 7 rfl rfl)
theorem dX3_hasSameValues_8 : decode cX3_hasSameValues 8 = .ok (.iload_n 3, 1) := dk_29 (dk_at dksX3_hasSameValues_0 8 rfl rfl)
theorem dX3_hasSameValues_9 : decode cX3_hasSameValues 9 = .ok (.aload_n 0, 1) := dk_42 (dk_at dksX3_hasSameValues_0 9 rfl rfl)
theorem dX3_hasSameValues_10 : decode cX3_hasSameValues 10 = .ok (.getfield 14, 3) := dk_180 0 14 (dk_at dksX3_hasSameValues_0 10 rfl rfl)
theorem dX3_hasSameValues_13 : decode cX3_hasSameValues 13 = .ok (.if_icmp .ge 58, 3) := dk_162 0 58 (dk_at dksX3_hasSameValues_0 13 rfl rfl)
theorem dX3_hasSameValues_16 : decode cX3_hasSameValues 16 = .ok (.iload_n 2, 1) := dk_28 (dk_at dksX3_hasSameValues_0 16 rfl rfl)
theorem dX3_hasSameValues_17 : decode cX3_hasSameValues 17 = .ok (.ifCond .eq 54, 3) := dk_153 0 54 (dk_at dksX3_hasSameValues_0 17 rfl rfl)
theorem dX3_hasSameValues_20 : decode cX3_hasSameValues 20 = .ok (.iconst 0, 1) := dk_3 (dk_at dksX3_hasSameValues_0 20 rfl rfl)
theorem dX3_hasSameValues_21 : decode cX3_hasSameValues 21 = .ok (.istore 4, 2) := dk_54 4 (dk_at dksX3_hasSameValues_0 21 rfl rfl)
theorem dX3_hasSameValues_23 : decode cX3_hasSameValues 23 = .ok (.iload 4, 2) := dk_21 4 (dk_at dksX3_hasSameValues_1 0 rfl rfl)
theorem dX3_hasSameValues_25 : decode cX3_hasSameValues 25 = .ok (.aload_n 0, 1) := dk_42 (dk_at dksX3_hasSameValues_1 2 rfl rfl)
theorem dX3_hasSameValues_26 : decode cX3_hasSameValues 26 = .ok (.getfield 18, 3) := dk_180 0 18 (dk_at dksX3_hasSameValues_1 3 rfl rfl)
theorem dX3_hasSameValues_29 : decode cX3_hasSameValues 29 = .ok (.if_icmp .ge 36, 3) := dk_162 0 36 (dk_at dksX3_hasSameValues_1 6 rfl rfl)
theorem dX3_hasSameValues_32 : decode cX3_hasSameValues 32 = .ok (.iload_n 2, 1) := dk_28 (dk_at dksX3_hasSameValues_1 9 rfl rfl)
theorem dX3_hasSameValues_33 : decode cX3_hasSameValues 33 = .ok (.ifCond .eq 32, 3) := dk_153 0 32 (dk_at dksX3_hasSameValues_1 10 rfl rfl)
theorem dX3_hasSameValues_36 : decode cX3_hasSameValues 36 = .ok (.aload_n 0, 1) := dk_42 (dk_at dksX3_hasSameValues_1 13 rfl rfl)
theorem dX3_hasSameValues_37 : decode cX3_hasSameValues 37 = .ok (.iload_n 3, 1) := dk_29 (dk_at dksX3_hasSameValues_1 14 rfl rfl)
theorem dX3_hasSameValues_38 : decode cX3_hasSameValues 38 = .ok (.iload 4, 2) := dk_21 4 (dk_at dksX3_hasSameValues_1 15 rfl rfl)
theorem dX3_hasSameValues_40 : decode cX3_hasSameValues 40 = .ok (.invokevirtual 76, 3) := dk_182 0 76 (dk_at dksX3_hasSameValues_1 17 rfl rfl)
theorem dX3_hasSameValues_43 : decode cX3_hasSameValues 43 = .ok (.aload_n 1, 1) := dk_43 (dk_at dksX3_hasSameValues_1 20 rfl rfl)
theorem dX3_hasSameValues_44 : decode cX3_hasSameValues 44 = .ok (.iload_n 3, 1) := dk_29 (dk_at dksX3_hasSameValues_1 21 rfl rfl)
theorem dX3_hasSameValues_45 : decode cX3_hasSameValues 45 = .ok (.iload 4, 2) := dk_21 4 (dk_at dksX3_hasSameValues_1 22 rfl rfl)
theorem dX3_hasSameValues_47 : decode cX3_hasSameValues 47 = .ok (.invokevirtual 76, 3) := dk_182 0 76 (dk_at dksX3_hasSameValues_2 0 rfl rfl)
theorem dX3_hasSameValues_50 : decode cX3_hasSameValues 50 = .ok (.if_icmp .ne 7, 3) := dk_160 0 7 (dk_at dksX3_hasSameValues_2 3 rfl rfl)
theorem dX3_hasSameValues_53 : decode cX3_hasSameValues 53 = .ok (.iconst 1, 1) := dk_4 (dk_at dksX3_hasSameValues_2 6 rfl rfl)
theorem dX3_hasSameValues_54 : decode cX3_hasSameValues 54 = .ok (.goto 4, 3) := dk_167 0 4 (dk_at dksX3_hasSameValues_2 7 rfl rfl)
theorem dX3_hasSameValues_57 : decode cX3_hasSameValues 57 = .ok (.iconst 0, 1) := dk_3 (dk_at dksX3_hasSameValues_2 10 rfl rfl)
theorem dX3_hasSameValues_58 : decode cX3_hasSameValues 58 = .ok (.istore_n 2, 1) := dk_61 (dk_at dksX3_hasSameValues_2 11 rfl rfl)
theorem dX3_hasSameValues_59 : decode cX3_hasSameValues 59 = .ok (.iinc 4 1, 3) := dk_132 4 1 (dk_at dksX3_hasSameValues_2 12 rfl rfl)
theorem dX3_hasSameValues_62 : decode cX3_hasSameValues 62 = .ok (.goto (-39), 3) := dk_167 255 217 (dk_at dksX3_hasSameValues_2 15 rfl rfl)
theorem dX3_hasSameValues_65 : decode cX3_hasSameValues 65 = .ok (.iinc 3 1, 3) := dk_132 3 1 (dk_at dksX3_hasSameValues_2 18 rfl rfl)
theorem dX3_hasSameValues_68 : decode cX3_hasSameValues 68 = .ok (.goto (-60), 3) := dk_167 255 196 (dk_at dksX3_hasSameValues_2 21 rfl rfl)
theorem dX3_hasSameValues_71 : decode cX3_hasSameValues 71 = .ok (.iload_n 2, 1) := dk_28 (dk_at dksX3_hasSameValues_3 0 rfl rfl)
theorem dX3_hasSameValues_72 : decode cX3_hasSameValues 72 = .ok (.ireturn, 1) := dk_172 (dk_at dksX3_hasSameValues_3 1 rfl rfl)
abbrev cX3_times : ByteArray := prog_4_method_26_code
def yX3_times : MethodName := ⟨RX3, "times", "(LCsrCalculator$Csr;)LCsrCalculator$Csr;"⟩
def dkwX3_times_1 : List UInt8 := [180, 0, 18, 42, 43, 186, 0, 119, 0, 0, 42, 43, 186, 0, 120, 0, 0, 184, 0, 84, 176]
abbrev dktX3_times_1 : List UInt8 := dkwX3_times_1 ++ []
def dkwX3_times_0 : List UInt8 := [42, 180, 0, 18, 43, 180, 0, 14, 159, 0, 11, 187, 0, 51, 89, 183, 0, 53, 191, 42, 180, 0, 14, 43]
abbrev dktX3_times_0 : List UInt8 := dkwX3_times_0 ++ dktX3_times_1
theorem dksX3_times_0 : cX3_times.data.toList.drop 0 = dktX3_times_0 := by decide +kernel
theorem dksX3_times_1 : cX3_times.data.toList.drop 24 = dktX3_times_1 := dk_seg dksX3_times_0 24 rfl rfl
theorem dX3_times_0 : decode cX3_times 0 = .ok (.aload_n 0, 1) := dk_42 (dk_at dksX3_times_0 0 rfl rfl)
theorem dX3_times_1 : decode cX3_times 1 = .ok (.getfield 18, 3) := dk_180 0 18 (dk_at dksX3_times_0 1 rfl rfl)
theorem dX3_times_4 : decode cX3_times 4 = .ok (.aload_n 1, 1) := dk_43 (dk_at dksX3_times_0 4 rfl rfl)
theorem dX3_times_5 : decode cX3_times 5 = .ok (.getfield 14, 3) := dk_180 0 14 (dk_at dksX3_times_0 5 rfl rfl)
theorem dX3_times_8 : decode cX3_times 8 = .ok (.if_icmp .eq 11, 3) := dk_159 0 11 (dk_at dksX3_times_0 8 rfl rfl)
theorem dX3_times_11 : decode cX3_times 11 = .ok (.new 51, 3) := dk_187 0 51 (dk_at dksX3_times_0 11 rfl rfl)
theorem dX3_times_14 : decode cX3_times 14 = .ok (.dup, 1) := dk_89 (dk_at dksX3_times_0 14 rfl rfl)
theorem dX3_times_15 : decode cX3_times 15 = .ok (.invokespecial 53, 3) := dk_183 0 53 (dk_at dksX3_times_0 15 rfl rfl)
theorem dX3_times_18 : decode cX3_times 18 = .ok (.athrow, 1) := dk_191 (dk_at dksX3_times_0 18 rfl rfl)
theorem dX3_times_19 : decode cX3_times 19 = .ok (.aload_n 0, 1) := dk_42 (dk_at dksX3_times_0 19 rfl rfl)
theorem dX3_times_20 : decode cX3_times 20 = .ok (.getfield 14, 3) := dk_180 0 14 (dk_at dksX3_times_0 20 rfl rfl)
theorem dX3_times_23 : decode cX3_times 23 = .ok (.aload_n 1, 1) := dk_43 (dk_at dksX3_times_0 23 rfl rfl)
theorem dX3_times_24 : decode cX3_times 24 = .ok (.getfield 18, 3) := dk_180 0 18 (dk_at dksX3_times_1 0 rfl rfl)
theorem dX3_times_27 : decode cX3_times 27 = .ok (.aload_n 0, 1) := dk_42 (dk_at dksX3_times_1 3 rfl rfl)
theorem dX3_times_28 : decode cX3_times 28 = .ok (.aload_n 1, 1) := dk_43 (dk_at dksX3_times_1 4 rfl rfl)
theorem dX3_times_29 : decode cX3_times 29 = .ok (.invokedynamic 119, 5) := by decide +kernel
theorem dX3_times_34 : decode cX3_times 34 = .ok (.aload_n 0, 1) := dk_42 (dk_at dksX3_times_1 10 rfl rfl)
theorem dX3_times_35 : decode cX3_times 35 = .ok (.aload_n 1, 1) := dk_43 (dk_at dksX3_times_1 11 rfl rfl)
theorem dX3_times_36 : decode cX3_times 36 = .ok (.invokedynamic 120, 5) := by decide +kernel
theorem dX3_times_41 : decode cX3_times 41 = .ok (.invokestatic 84, 3) := dk_184 0 84 (dk_at dksX3_times_1 17 rfl rfl)
theorem dX3_times_44 : decode cX3_times 44 = .ok (.areturn, 1) := dk_176 (dk_at dksX3_times_1 20 rfl rfl)
abbrev cX3_lambda_times_16 : ByteArray := prog_4_method_33_code
def yX3_lambda_times_16 : MethodName := ⟨RX3, "lambda$times$16", "(LCsrCalculator$Csr;II)Z"⟩
def dkwX3_lambda_times_16_0 : List UInt8 := [42, 43, 28, 29, 182, 0, 142, 172]
abbrev dktX3_lambda_times_16_0 : List UInt8 := dkwX3_lambda_times_16_0 ++ []
theorem dksX3_lambda_times_16_0 : cX3_lambda_times_16.data.toList.drop 0 = dktX3_lambda_times_16_0 := by decide +kernel
theorem dX3_lambda_times_16_0 : decode cX3_lambda_times_16 0 = .ok (.aload_n 0, 1) := dk_42 (dk_at dksX3_lambda_times_16_0 0 rfl rfl)
theorem dX3_lambda_times_16_1 : decode cX3_lambda_times_16 1 = .ok (.aload_n 1, 1) := dk_43 (dk_at dksX3_lambda_times_16_0 1 rfl rfl)
theorem dX3_lambda_times_16_2 : decode cX3_lambda_times_16 2 = .ok (.iload_n 2, 1) := dk_28 (dk_at dksX3_lambda_times_16_0 2 rfl rfl)
theorem dX3_lambda_times_16_3 : decode cX3_lambda_times_16 3 = .ok (.iload_n 3, 1) := dk_29 (dk_at dksX3_lambda_times_16_0 3 rfl rfl)
theorem dX3_lambda_times_16_4 : decode cX3_lambda_times_16 4 = .ok (.invokevirtual 142, 3) := dk_182 0 142 (dk_at dksX3_lambda_times_16_0 4 rfl rfl)
theorem dX3_lambda_times_16_7 : decode cX3_lambda_times_16 7 = .ok (.ireturn, 1) := dk_172 (dk_at dksX3_lambda_times_16_0 7 rfl rfl)
abbrev cX3_meets : ByteArray := prog_4_method_24_code
def yX3_meets : MethodName := ⟨RX3, "meets", "(LCsrCalculator$Csr;II)Z"⟩
def dkwX3_meets_1 : List UInt8 := [180, 0, 25, 21, 4, 46, 29, 182, 0, 118, 153, 0, 5, 4, 172, 132, 4, 1, 167, 255, 223, 3, 172]
abbrev dktX3_meets_1 : List UInt8 := dkwX3_meets_1 ++ []
def dkwX3_meets_0 : List UInt8 := [42, 180, 0, 21, 28, 46, 54, 4, 21, 4, 42, 180, 0, 21, 28, 4, 96, 46, 162, 0, 26, 43, 42]
abbrev dktX3_meets_0 : List UInt8 := dkwX3_meets_0 ++ dktX3_meets_1
theorem dksX3_meets_0 : cX3_meets.data.toList.drop 0 = dktX3_meets_0 := by decide +kernel
theorem dksX3_meets_1 : cX3_meets.data.toList.drop 23 = dktX3_meets_1 := dk_seg dksX3_meets_0 23 rfl rfl
theorem dX3_meets_0 : decode cX3_meets 0 = .ok (.aload_n 0, 1) := dk_42 (dk_at dksX3_meets_0 0 rfl rfl)
theorem dX3_meets_1 : decode cX3_meets 1 = .ok (.getfield 21, 3) := dk_180 0 21 (dk_at dksX3_meets_0 1 rfl rfl)
theorem dX3_meets_4 : decode cX3_meets 4 = .ok (.iload_n 2, 1) := dk_28 (dk_at dksX3_meets_0 4 rfl rfl)
theorem dX3_meets_5 : decode cX3_meets 5 = .ok (.iaload, 1) := dk_46 (dk_at dksX3_meets_0 5 rfl rfl)
theorem dX3_meets_6 : decode cX3_meets 6 = .ok (.istore 4, 2) := dk_54 4 (dk_at dksX3_meets_0 6 rfl rfl)
theorem dX3_meets_8 : decode cX3_meets 8 = .ok (.iload 4, 2) := dk_21 4 (dk_at dksX3_meets_0 8 rfl rfl)
theorem dX3_meets_10 : decode cX3_meets 10 = .ok (.aload_n 0, 1) := dk_42 (dk_at dksX3_meets_0 10 rfl rfl)
theorem dX3_meets_11 : decode cX3_meets 11 = .ok (.getfield 21, 3) := dk_180 0 21 (dk_at dksX3_meets_0 11 rfl rfl)
theorem dX3_meets_14 : decode cX3_meets 14 = .ok (.iload_n 2, 1) := dk_28 (dk_at dksX3_meets_0 14 rfl rfl)
theorem dX3_meets_15 : decode cX3_meets 15 = .ok (.iconst 1, 1) := dk_4 (dk_at dksX3_meets_0 15 rfl rfl)
theorem dX3_meets_16 : decode cX3_meets 16 = .ok (.iadd, 1) := dk_96 (dk_at dksX3_meets_0 16 rfl rfl)
theorem dX3_meets_17 : decode cX3_meets 17 = .ok (.iaload, 1) := dk_46 (dk_at dksX3_meets_0 17 rfl rfl)
theorem dX3_meets_18 : decode cX3_meets 18 = .ok (.if_icmp .ge 26, 3) := dk_162 0 26 (dk_at dksX3_meets_0 18 rfl rfl)
theorem dX3_meets_21 : decode cX3_meets 21 = .ok (.aload_n 1, 1) := dk_43 (dk_at dksX3_meets_0 21 rfl rfl)
theorem dX3_meets_22 : decode cX3_meets 22 = .ok (.aload_n 0, 1) := dk_42 (dk_at dksX3_meets_0 22 rfl rfl)
theorem dX3_meets_23 : decode cX3_meets 23 = .ok (.getfield 25, 3) := dk_180 0 25 (dk_at dksX3_meets_1 0 rfl rfl)
theorem dX3_meets_26 : decode cX3_meets 26 = .ok (.iload 4, 2) := dk_21 4 (dk_at dksX3_meets_1 3 rfl rfl)
theorem dX3_meets_28 : decode cX3_meets 28 = .ok (.iaload, 1) := dk_46 (dk_at dksX3_meets_1 5 rfl rfl)
theorem dX3_meets_29 : decode cX3_meets 29 = .ok (.iload_n 3, 1) := dk_29 (dk_at dksX3_meets_1 6 rfl rfl)
theorem dX3_meets_30 : decode cX3_meets 30 = .ok (.invokevirtual 118, 3) := dk_182 0 118 (dk_at dksX3_meets_1 7 rfl rfl)
theorem dX3_meets_33 : decode cX3_meets 33 = .ok (.ifCond .eq 5, 3) := dk_153 0 5 (dk_at dksX3_meets_1 10 rfl rfl)
theorem dX3_meets_36 : decode cX3_meets 36 = .ok (.iconst 1, 1) := dk_4 (dk_at dksX3_meets_1 13 rfl rfl)
theorem dX3_meets_37 : decode cX3_meets 37 = .ok (.ireturn, 1) := dk_172 (dk_at dksX3_meets_1 14 rfl rfl)
theorem dX3_meets_38 : decode cX3_meets 38 = .ok (.iinc 4 1, 3) := dk_132 4 1 (dk_at dksX3_meets_1 15 rfl rfl)
theorem dX3_meets_41 : decode cX3_meets 41 = .ok (.goto (-33), 3) := dk_167 255 223 (dk_at dksX3_meets_1 18 rfl rfl)
theorem dX3_meets_44 : decode cX3_meets 44 = .ok (.iconst 0, 1) := dk_3 (dk_at dksX3_meets_1 21 rfl rfl)
theorem dX3_meets_45 : decode cX3_meets 45 = .ok (.ireturn, 1) := dk_172 (dk_at dksX3_meets_1 22 rfl rfl)
abbrev cX3_lambda_times_17 : ByteArray := prog_4_method_32_code
def yX3_lambda_times_17 : MethodName := ⟨RX3, "lambda$times$17", "(LCsrCalculator$Csr;II)J"⟩
def dkwX3_lambda_times_17_0 : List UInt8 := [42, 43, 28, 29, 182, 0, 138, 173]
abbrev dktX3_lambda_times_17_0 : List UInt8 := dkwX3_lambda_times_17_0 ++ []
theorem dksX3_lambda_times_17_0 : cX3_lambda_times_17.data.toList.drop 0 = dktX3_lambda_times_17_0 := by decide +kernel
theorem dX3_lambda_times_17_0 : decode cX3_lambda_times_17 0 = .ok (.aload_n 0, 1) := dk_42 (dk_at dksX3_lambda_times_17_0 0 rfl rfl)
theorem dX3_lambda_times_17_1 : decode cX3_lambda_times_17 1 = .ok (.aload_n 1, 1) := dk_43 (dk_at dksX3_lambda_times_17_0 1 rfl rfl)
theorem dX3_lambda_times_17_2 : decode cX3_lambda_times_17 2 = .ok (.iload_n 2, 1) := dk_28 (dk_at dksX3_lambda_times_17_0 2 rfl rfl)
theorem dX3_lambda_times_17_3 : decode cX3_lambda_times_17 3 = .ok (.iload_n 3, 1) := dk_29 (dk_at dksX3_lambda_times_17_0 3 rfl rfl)
theorem dX3_lambda_times_17_4 : decode cX3_lambda_times_17 4 = .ok (.invokevirtual 138, 3) := dk_182 0 138 (dk_at dksX3_lambda_times_17_0 4 rfl rfl)
theorem dX3_lambda_times_17_7 : decode cX3_lambda_times_17 7 = .ok (.lreturn, 1) := dk_173 (dk_at dksX3_lambda_times_17_0 7 rfl rfl)
abbrev cX3_dot : ByteArray := prog_4_method_25_code
def yX3_dot : MethodName := ⟨RX3, "dot", "(LCsrCalculator$Csr;II)J"⟩
def dkwX3_dot_2 : List UInt8 := [97, 55, 4, 132, 6, 1, 167, 255, 213, 22, 4, 173]
abbrev dktX3_dot_2 : List UInt8 := dkwX3_dot_2 ++ []
def dkwX3_dot_1 : List UInt8 := [22, 4, 42, 180, 0, 28, 21, 6, 46, 133, 43, 42, 180, 0, 25, 21, 6, 46, 29, 182, 0, 76, 133, 105]
abbrev dktX3_dot_1 : List UInt8 := dkwX3_dot_1 ++ dktX3_dot_2
def dkwX3_dot_0 : List UInt8 := [9, 55, 4, 42, 180, 0, 21, 28, 46, 54, 6, 21, 6, 42, 180, 0, 21, 28, 4, 96, 46, 162, 0, 36]
abbrev dktX3_dot_0 : List UInt8 := dkwX3_dot_0 ++ dktX3_dot_1
theorem dksX3_dot_0 : cX3_dot.data.toList.drop 0 = dktX3_dot_0 := by decide +kernel
theorem dksX3_dot_1 : cX3_dot.data.toList.drop 24 = dktX3_dot_1 := dk_seg dksX3_dot_0 24 rfl rfl
theorem dksX3_dot_2 : cX3_dot.data.toList.drop 48 = dktX3_dot_2 := dk_seg dksX3_dot_1 24 rfl rfl
theorem dX3_dot_0 : decode cX3_dot 0 = .ok (.lconst 0, 1) := dk_9 (dk_at dksX3_dot_0 0 rfl rfl)
theorem dX3_dot_1 : decode cX3_dot 1 = .ok (.lstore 4, 2) := dk_55 4 (dk_at dksX3_dot_0 1 rfl rfl)
theorem dX3_dot_3 : decode cX3_dot 3 = .ok (.aload_n 0, 1) := dk_42 (dk_at dksX3_dot_0 3 rfl rfl)
theorem dX3_dot_4 : decode cX3_dot 4 = .ok (.getfield 21, 3) := dk_180 0 21 (dk_at dksX3_dot_0 4 rfl rfl)
theorem dX3_dot_7 : decode cX3_dot 7 = .ok (.iload_n 2, 1) := dk_28 (dk_at dksX3_dot_0 7 rfl rfl)
theorem dX3_dot_8 : decode cX3_dot 8 = .ok (.iaload, 1) := dk_46 (dk_at dksX3_dot_0 8 rfl rfl)
theorem dX3_dot_9 : decode cX3_dot 9 = .ok (.istore 6, 2) := dk_54 6 (dk_at dksX3_dot_0 9 rfl rfl)
theorem dX3_dot_11 : decode cX3_dot 11 = .ok (.iload 6, 2) := dk_21 6 (dk_at dksX3_dot_0 11 rfl rfl)
theorem dX3_dot_13 : decode cX3_dot 13 = .ok (.aload_n 0, 1) := dk_42 (dk_at dksX3_dot_0 13 rfl rfl)
theorem dX3_dot_14 : decode cX3_dot 14 = .ok (.getfield 21, 3) := dk_180 0 21 (dk_at dksX3_dot_0 14 rfl rfl)
theorem dX3_dot_17 : decode cX3_dot 17 = .ok (.iload_n 2, 1) := dk_28 (dk_at dksX3_dot_0 17 rfl rfl)
theorem dX3_dot_18 : decode cX3_dot 18 = .ok (.iconst 1, 1) := dk_4 (dk_at dksX3_dot_0 18 rfl rfl)
theorem dX3_dot_19 : decode cX3_dot 19 = .ok (.iadd, 1) := dk_96 (dk_at dksX3_dot_0 19 rfl rfl)
theorem dX3_dot_20 : decode cX3_dot 20 = .ok (.iaload, 1) := dk_46 (dk_at dksX3_dot_0 20 rfl rfl)
theorem dX3_dot_21 : decode cX3_dot 21 = .ok (.if_icmp .ge 36, 3) := dk_162 0 36 (dk_at dksX3_dot_0 21 rfl rfl)
theorem dX3_dot_24 : decode cX3_dot 24 = .ok (.lload 4, 2) := dk_22 4 (dk_at dksX3_dot_1 0 rfl rfl)
theorem dX3_dot_26 : decode cX3_dot 26 = .ok (.aload_n 0, 1) := dk_42 (dk_at dksX3_dot_1 2 rfl rfl)
theorem dX3_dot_27 : decode cX3_dot 27 = .ok (.getfield 28, 3) := dk_180 0 28 (dk_at dksX3_dot_1 3 rfl rfl)
theorem dX3_dot_30 : decode cX3_dot 30 = .ok (.iload 6, 2) := dk_21 6 (dk_at dksX3_dot_1 6 rfl rfl)
theorem dX3_dot_32 : decode cX3_dot 32 = .ok (.iaload, 1) := dk_46 (dk_at dksX3_dot_1 8 rfl rfl)
theorem dX3_dot_33 : decode cX3_dot 33 = .ok (.i2l, 1) := dk_133 (dk_at dksX3_dot_1 9 rfl rfl)
theorem dX3_dot_34 : decode cX3_dot 34 = .ok (.aload_n 1, 1) := dk_43 (dk_at dksX3_dot_1 10 rfl rfl)
theorem dX3_dot_35 : decode cX3_dot 35 = .ok (.aload_n 0, 1) := dk_42 (dk_at dksX3_dot_1 11 rfl rfl)
theorem dX3_dot_36 : decode cX3_dot 36 = .ok (.getfield 25, 3) := dk_180 0 25 (dk_at dksX3_dot_1 12 rfl rfl)
theorem dX3_dot_39 : decode cX3_dot 39 = .ok (.iload 6, 2) := dk_21 6 (dk_at dksX3_dot_1 15 rfl rfl)
theorem dX3_dot_41 : decode cX3_dot 41 = .ok (.iaload, 1) := dk_46 (dk_at dksX3_dot_1 17 rfl rfl)
theorem dX3_dot_42 : decode cX3_dot 42 = .ok (.iload_n 3, 1) := dk_29 (dk_at dksX3_dot_1 18 rfl rfl)
theorem dX3_dot_43 : decode cX3_dot 43 = .ok (.invokevirtual 76, 3) := dk_182 0 76 (dk_at dksX3_dot_1 19 rfl rfl)
theorem dX3_dot_46 : decode cX3_dot 46 = .ok (.i2l, 1) := dk_133 (dk_at dksX3_dot_1 22 rfl rfl)
theorem dX3_dot_47 : decode cX3_dot 47 = .ok (.lmul, 1) := dk_105 (dk_at dksX3_dot_1 23 rfl rfl)
theorem dX3_dot_48 : decode cX3_dot 48 = .ok (.ladd, 1) := dk_97 (dk_at dksX3_dot_2 0 rfl rfl)
theorem dX3_dot_49 : decode cX3_dot 49 = .ok (.lstore 4, 2) := dk_55 4 (dk_at dksX3_dot_2 1 rfl rfl)
theorem dX3_dot_51 : decode cX3_dot 51 = .ok (.iinc 6 1, 3) := dk_132 6 1 (dk_at dksX3_dot_2 3 rfl rfl)
theorem dX3_dot_54 : decode cX3_dot 54 = .ok (.goto (-43), 3) := dk_167 255 213 (dk_at dksX3_dot_2 6 rfl rfl)
theorem dX3_dot_57 : decode cX3_dot 57 = .ok (.lload 4, 2) := dk_22 4 (dk_at dksX3_dot_2 9 rfl rfl)
theorem dX3_dot_59 : decode cX3_dot 59 = .ok (.lreturn, 1) := dk_173 (dk_at dksX3_dot_2 11 rfl rfl)
abbrev cX3_equalsDense : ByteArray := prog_4_method_31_code
def yX3_equalsDense : MethodName := ⟨RX3, "equalsDense", "(LCsrCalculator$Csr;LCsrCalculator$Csr;)Z"⟩
def dkwX3_equalsDense_4 : List UInt8 := [4, 172]
abbrev dktX3_equalsDense_4 : List UInt8 := dkwX3_equalsDense_4 ++ []
def dkwX3_equalsDense_3 : List UInt8 := [21, 4, 182, 0, 76, 133, 148, 153, 0, 5, 3, 172, 132, 4, 1, 167, 255, 184, 132, 3, 1, 167, 255, 167]
abbrev dktX3_equalsDense_3 : List UInt8 := dkwX3_equalsDense_3 ++ dktX3_equalsDense_4
def dkwX3_equalsDense_2 : List UInt8 := [44, 21, 7, 21, 4, 182, 0, 76, 133, 105, 97, 55, 5, 132, 7, 1, 167, 255, 221, 22, 5, 42, 29]
abbrev dktX3_equalsDense_2 : List UInt8 := dkwX3_equalsDense_2 ++ dktX3_equalsDense_3
def dkwX3_equalsDense_1 : List UInt8 := [55, 5, 3, 54, 7, 21, 7, 43, 180, 0, 18, 162, 0, 32, 22, 5, 43, 29, 21, 7, 182, 0, 76, 133]
abbrev dktX3_equalsDense_1 : List UInt8 := dkwX3_equalsDense_1 ++ dktX3_equalsDense_2
def dkwX3_equalsDense_0 : List UInt8 := [3, 62, 29, 42, 180, 0, 14, 162, 0, 87, 3, 54, 4, 21, 4, 42, 180, 0, 18, 162, 0, 69, 9]
abbrev dktX3_equalsDense_0 : List UInt8 := dkwX3_equalsDense_0 ++ dktX3_equalsDense_1
theorem dksX3_equalsDense_0 : cX3_equalsDense.data.toList.drop 0 = dktX3_equalsDense_0 := by decide +kernel
theorem dksX3_equalsDense_1 : cX3_equalsDense.data.toList.drop 23 = dktX3_equalsDense_1 := dk_seg dksX3_equalsDense_0 23 rfl rfl
theorem dksX3_equalsDense_2 : cX3_equalsDense.data.toList.drop 47 = dktX3_equalsDense_2 := dk_seg dksX3_equalsDense_1 24 rfl rfl
theorem dksX3_equalsDense_3 : cX3_equalsDense.data.toList.drop 70 = dktX3_equalsDense_3 := dk_seg dksX3_equalsDense_2 23 rfl rfl
theorem dksX3_equalsDense_4 : cX3_equalsDense.data.toList.drop 94 = dktX3_equalsDense_4 := dk_seg dksX3_equalsDense_3 24 rfl rfl
theorem dX3_equalsDense_0 : decode cX3_equalsDense 0 = .ok (.iconst 0, 1) := dk_3 (dk_at dksX3_equalsDense_0 0 rfl rfl)
theorem dX3_equalsDense_1 : decode cX3_equalsDense 1 = .ok (.istore_n 3, 1) := dk_62 (dk_at dksX3_equalsDense_0 1 rfl rfl)
theorem dX3_equalsDense_2 : decode cX3_equalsDense 2 = .ok (.iload_n 3, 1) := dk_29 (dk_at dksX3_equalsDense_0 2 rfl rfl)
theorem dX3_equalsDense_3 : decode cX3_equalsDense 3 = .ok (.aload_n 0, 1) := dk_42 (dk_at dksX3_equalsDense_0 3 rfl rfl)
theorem dX3_equalsDense_4 : decode cX3_equalsDense 4 = .ok (.getfield 14, 3) := dk_180 0 14 (dk_at dksX3_equalsDense_0 4 rfl rfl)
theorem dX3_equalsDense_7 : decode cX3_equalsDense 7 = .ok (.if_icmp .ge 87, 3) := dk_162 0 87 (dk_at dksX3_equalsDense_0 7 rfl rfl)
theorem dX3_equalsDense_10 : decode cX3_equalsDense 10 = .ok (.iconst 0, 1) := dk_3 (dk_at dksX3_equalsDense_0 10 rfl rfl)
theorem dX3_equalsDense_11 : decode cX3_equalsDense 11 = .ok (.istore 4, 2) := dk_54 4 (dk_at dksX3_equalsDense_0 11 rfl rfl)
theorem dX3_equalsDense_13 : decode cX3_equalsDense 13 = .ok (.iload 4, 2) := dk_21 4 (dk_at dksX3_equalsDense_0 13 rfl rfl)
theorem dX3_equalsDense_15 : decode cX3_equalsDense 15 = .ok (.aload_n 0, 1) := dk_42 (dk_at dksX3_equalsDense_0 15 rfl rfl)
theorem dX3_equalsDense_16 : decode cX3_equalsDense 16 = .ok (.getfield 18, 3) := dk_180 0 18 (dk_at dksX3_equalsDense_0 16 rfl rfl)
theorem dX3_equalsDense_19 : decode cX3_equalsDense 19 = .ok (.if_icmp .ge 69, 3) := dk_162 0 69 (dk_at dksX3_equalsDense_0 19 rfl rfl)
theorem dX3_equalsDense_22 : decode cX3_equalsDense 22 = .ok (.lconst 0, 1) := dk_9 (dk_at dksX3_equalsDense_0 22 rfl rfl)
theorem dX3_equalsDense_23 : decode cX3_equalsDense 23 = .ok (.lstore 5, 2) := dk_55 5 (dk_at dksX3_equalsDense_1 0 rfl rfl)
theorem dX3_equalsDense_25 : decode cX3_equalsDense 25 = .ok (.iconst 0, 1) := dk_3 (dk_at dksX3_equalsDense_1 2 rfl rfl)
theorem dX3_equalsDense_26 : decode cX3_equalsDense 26 = .ok (.istore 7, 2) := dk_54 7 (dk_at dksX3_equalsDense_1 3 rfl rfl)
theorem dX3_equalsDense_28 : decode cX3_equalsDense 28 = .ok (.iload 7, 2) := dk_21 7 (dk_at dksX3_equalsDense_1 5 rfl rfl)
theorem dX3_equalsDense_30 : decode cX3_equalsDense 30 = .ok (.aload_n 1, 1) := dk_43 (dk_at dksX3_equalsDense_1 7 rfl rfl)
theorem dX3_equalsDense_31 : decode cX3_equalsDense 31 = .ok (.getfield 18, 3) := dk_180 0 18 (dk_at dksX3_equalsDense_1 8 rfl rfl)
theorem dX3_equalsDense_34 : decode cX3_equalsDense 34 = .ok (.if_icmp .ge 32, 3) := dk_162 0 32 (dk_at dksX3_equalsDense_1 11 rfl rfl)
theorem dX3_equalsDense_37 : decode cX3_equalsDense 37 = .ok (.lload 5, 2) := dk_22 5 (dk_at dksX3_equalsDense_1 14 rfl rfl)
theorem dX3_equalsDense_39 : decode cX3_equalsDense 39 = .ok (.aload_n 1, 1) := dk_43 (dk_at dksX3_equalsDense_1 16 rfl rfl)
theorem dX3_equalsDense_40 : decode cX3_equalsDense 40 = .ok (.iload_n 3, 1) := dk_29 (dk_at dksX3_equalsDense_1 17 rfl rfl)
theorem dX3_equalsDense_41 : decode cX3_equalsDense 41 = .ok (.iload 7, 2) := dk_21 7 (dk_at dksX3_equalsDense_1 18 rfl rfl)
theorem dX3_equalsDense_43 : decode cX3_equalsDense 43 = .ok (.invokevirtual 76, 3) := dk_182 0 76 (dk_at dksX3_equalsDense_1 20 rfl rfl)
theorem dX3_equalsDense_46 : decode cX3_equalsDense 46 = .ok (.i2l, 1) := dk_133 (dk_at dksX3_equalsDense_1 23 rfl rfl)
theorem dX3_equalsDense_47 : decode cX3_equalsDense 47 = .ok (.aload_n 2, 1) := dk_44 (dk_at dksX3_equalsDense_2 0 rfl rfl)
theorem dX3_equalsDense_48 : decode cX3_equalsDense 48 = .ok (.iload 7, 2) := dk_21 7 (dk_at dksX3_equalsDense_2 1 rfl rfl)
theorem dX3_equalsDense_50 : decode cX3_equalsDense 50 = .ok (.iload 4, 2) := dk_21 4 (dk_at dksX3_equalsDense_2 3 rfl rfl)
theorem dX3_equalsDense_52 : decode cX3_equalsDense 52 = .ok (.invokevirtual 76, 3) := dk_182 0 76 (dk_at dksX3_equalsDense_2 5 rfl rfl)
theorem dX3_equalsDense_55 : decode cX3_equalsDense 55 = .ok (.i2l, 1) := dk_133 (dk_at dksX3_equalsDense_2 8 rfl rfl)
theorem dX3_equalsDense_56 : decode cX3_equalsDense 56 = .ok (.lmul, 1) := dk_105 (dk_at dksX3_equalsDense_2 9 rfl rfl)
theorem dX3_equalsDense_57 : decode cX3_equalsDense 57 = .ok (.ladd, 1) := dk_97 (dk_at dksX3_equalsDense_2 10 rfl rfl)
theorem dX3_equalsDense_58 : decode cX3_equalsDense 58 = .ok (.lstore 5, 2) := dk_55 5 (dk_at dksX3_equalsDense_2 11 rfl rfl)
theorem dX3_equalsDense_60 : decode cX3_equalsDense 60 = .ok (.iinc 7 1, 3) := dk_132 7 1 (dk_at dksX3_equalsDense_2 13 rfl rfl)
theorem dX3_equalsDense_63 : decode cX3_equalsDense 63 = .ok (.goto (-35), 3) := dk_167 255 221 (dk_at dksX3_equalsDense_2 16 rfl rfl)
theorem dX3_equalsDense_66 : decode cX3_equalsDense 66 = .ok (.lload 5, 2) := dk_22 5 (dk_at dksX3_equalsDense_2 19 rfl rfl)
theorem dX3_equalsDense_68 : decode cX3_equalsDense 68 = .ok (.aload_n 0, 1) := dk_42 (dk_at dksX3_equalsDense_2 21 rfl rfl)
theorem dX3_equalsDense_69 : decode cX3_equalsDense 69 = .ok (.iload_n 3, 1) := dk_29 (dk_at dksX3_equalsDense_2 22 rfl rfl)
theorem dX3_equalsDense_70 : decode cX3_equalsDense 70 = .ok (.iload 4, 2) := dk_21 4 (dk_at dksX3_equalsDense_3 0 rfl rfl)
theorem dX3_equalsDense_72 : decode cX3_equalsDense 72 = .ok (.invokevirtual 76, 3) := dk_182 0 76 (dk_at dksX3_equalsDense_3 2 rfl rfl)
theorem dX3_equalsDense_75 : decode cX3_equalsDense 75 = .ok (.i2l, 1) := dk_133 (dk_at dksX3_equalsDense_3 5 rfl rfl)
theorem dX3_equalsDense_76 : decode cX3_equalsDense 76 = .ok (.lcmp, 1) := dk_148 (dk_at dksX3_equalsDense_3 6 rfl rfl)
theorem dX3_equalsDense_77 : decode cX3_equalsDense 77 = .ok (.ifCond .eq 5, 3) := dk_153 0 5 (dk_at dksX3_equalsDense_3 7 rfl rfl)
theorem dX3_equalsDense_80 : decode cX3_equalsDense 80 = .ok (.iconst 0, 1) := dk_3 (dk_at dksX3_equalsDense_3 10 rfl rfl)
theorem dX3_equalsDense_81 : decode cX3_equalsDense 81 = .ok (.ireturn, 1) := dk_172 (dk_at dksX3_equalsDense_3 11 rfl rfl)
theorem dX3_equalsDense_82 : decode cX3_equalsDense 82 = .ok (.iinc 4 1, 3) := dk_132 4 1 (dk_at dksX3_equalsDense_3 12 rfl rfl)
theorem dX3_equalsDense_85 : decode cX3_equalsDense 85 = .ok (.goto (-72), 3) := dk_167 255 184 (dk_at dksX3_equalsDense_3 15 rfl rfl)
theorem dX3_equalsDense_88 : decode cX3_equalsDense 88 = .ok (.iinc 3 1, 3) := dk_132 3 1 (dk_at dksX3_equalsDense_3 18 rfl rfl)
theorem dX3_equalsDense_91 : decode cX3_equalsDense 91 = .ok (.goto (-89), 3) := dk_167 255 167 (dk_at dksX3_equalsDense_3 21 rfl rfl)
theorem dX3_equalsDense_94 : decode cX3_equalsDense 94 = .ok (.iconst 1, 1) := dk_4 (dk_at dksX3_equalsDense_4 0 rfl rfl)
theorem dX3_equalsDense_95 : decode cX3_equalsDense 95 = .ok (.ireturn, 1) := dk_172 (dk_at dksX3_equalsDense_4 1 rfl rfl)
abbrev cX3_with : ByteArray := prog_4_method_15_code
def yX3_with : MethodName := ⟨RX3, "with", "(III)LCsrCalculator$Csr;"⟩
def dkwX3_with_1 : List UInt8 := [186, 0, 81, 0, 0, 184, 0, 84, 176]
abbrev dktX3_with_1 : List UInt8 := dkwX3_with_1 ++ []
def dkwX3_with_0 : List UInt8 := [42, 180, 0, 14, 42, 180, 0, 18, 42, 27, 28, 186, 0, 78, 0, 0, 42, 27, 28, 29]
abbrev dktX3_with_0 : List UInt8 := dkwX3_with_0 ++ dktX3_with_1
theorem dksX3_with_0 : cX3_with.data.toList.drop 0 = dktX3_with_0 := by decide +kernel
theorem dksX3_with_1 : cX3_with.data.toList.drop 20 = dktX3_with_1 := dk_seg dksX3_with_0 20 rfl rfl
theorem dX3_with_0 : decode cX3_with 0 = .ok (.aload_n 0, 1) := dk_42 (dk_at dksX3_with_0 0 rfl rfl)
theorem dX3_with_1 : decode cX3_with 1 = .ok (.getfield 14, 3) := dk_180 0 14 (dk_at dksX3_with_0 1 rfl rfl)
theorem dX3_with_4 : decode cX3_with 4 = .ok (.aload_n 0, 1) := dk_42 (dk_at dksX3_with_0 4 rfl rfl)
theorem dX3_with_5 : decode cX3_with 5 = .ok (.getfield 18, 3) := dk_180 0 18 (dk_at dksX3_with_0 5 rfl rfl)
theorem dX3_with_8 : decode cX3_with 8 = .ok (.aload_n 0, 1) := dk_42 (dk_at dksX3_with_0 8 rfl rfl)
theorem dX3_with_9 : decode cX3_with 9 = .ok (.iload_n 1, 1) := dk_27 (dk_at dksX3_with_0 9 rfl rfl)
theorem dX3_with_10 : decode cX3_with 10 = .ok (.iload_n 2, 1) := dk_28 (dk_at dksX3_with_0 10 rfl rfl)
theorem dX3_with_11 : decode cX3_with 11 = .ok (.invokedynamic 78, 5) := by decide +kernel
theorem dX3_with_16 : decode cX3_with 16 = .ok (.aload_n 0, 1) := dk_42 (dk_at dksX3_with_0 16 rfl rfl)
theorem dX3_with_17 : decode cX3_with 17 = .ok (.iload_n 1, 1) := dk_27 (dk_at dksX3_with_0 17 rfl rfl)
theorem dX3_with_18 : decode cX3_with 18 = .ok (.iload_n 2, 1) := dk_28 (dk_at dksX3_with_0 18 rfl rfl)
theorem dX3_with_19 : decode cX3_with 19 = .ok (.iload_n 3, 1) := dk_29 (dk_at dksX3_with_0 19 rfl rfl)
theorem dX3_with_20 : decode cX3_with 20 = .ok (.invokedynamic 81, 5) := by decide +kernel
theorem dX3_with_25 : decode cX3_with 25 = .ok (.invokestatic 84, 3) := dk_184 0 84 (dk_at dksX3_with_1 5 rfl rfl)
theorem dX3_with_28 : decode cX3_with 28 = .ok (.areturn, 1) := dk_176 (dk_at dksX3_with_1 8 rfl rfl)
abbrev cX3_lambda_with_0 : ByteArray := prog_4_method_49_code
def yX3_lambda_with_0 : MethodName := ⟨RX3, "lambda$with$0", "(IIII)Z"⟩
def dkwX3_lambda_with_0_1 : List UInt8 := [167, 0, 4, 3, 172]
abbrev dktX3_lambda_with_0_1 : List UInt8 := dkwX3_lambda_with_0_1 ++ []
def dkwX3_lambda_with_0_0 : List UInt8 := [29, 27, 160, 0, 9, 21, 4, 28, 159, 0, 13, 42, 29, 21, 4, 182, 0, 118, 153, 0, 7, 4]
abbrev dktX3_lambda_with_0_0 : List UInt8 := dkwX3_lambda_with_0_0 ++ dktX3_lambda_with_0_1
theorem dksX3_lambda_with_0_0 : cX3_lambda_with_0.data.toList.drop 0 = dktX3_lambda_with_0_0 := by decide +kernel
theorem dksX3_lambda_with_0_1 : cX3_lambda_with_0.data.toList.drop 22 = dktX3_lambda_with_0_1 := dk_seg dksX3_lambda_with_0_0 22 rfl rfl
theorem dX3_lambda_with_0_0 : decode cX3_lambda_with_0 0 = .ok (.iload_n 3, 1) := dk_29 (dk_at dksX3_lambda_with_0_0 0 rfl rfl)
theorem dX3_lambda_with_0_1 : decode cX3_lambda_with_0 1 = .ok (.iload_n 1, 1) := dk_27 (dk_at dksX3_lambda_with_0_0 1 rfl rfl)
theorem dX3_lambda_with_0_2 : decode cX3_lambda_with_0 2 = .ok (.if_icmp .ne 9, 3) := dk_160 0 9 (dk_at dksX3_lambda_with_0_0 2 rfl rfl)
theorem dX3_lambda_with_0_5 : decode cX3_lambda_with_0 5 = .ok (.iload 4, 2) := dk_21 4 (dk_at dksX3_lambda_with_0_0 5 rfl rfl)
theorem dX3_lambda_with_0_7 : decode cX3_lambda_with_0 7 = .ok (.iload_n 2, 1) := dk_28 (dk_at dksX3_lambda_with_0_0 7 rfl rfl)
theorem dX3_lambda_with_0_8 : decode cX3_lambda_with_0 8 = .ok (.if_icmp .eq 13, 3) := dk_159 0 13 (dk_at dksX3_lambda_with_0_0 8 rfl rfl)
theorem dX3_lambda_with_0_11 : decode cX3_lambda_with_0 11 = .ok (.aload_n 0, 1) := dk_42 (dk_at dksX3_lambda_with_0_0 11 rfl rfl)
theorem dX3_lambda_with_0_12 : decode cX3_lambda_with_0 12 = .ok (.iload_n 3, 1) := dk_29 (dk_at dksX3_lambda_with_0_0 12 rfl rfl)
theorem dX3_lambda_with_0_13 : decode cX3_lambda_with_0 13 = .ok (.iload 4, 2) := dk_21 4 (dk_at dksX3_lambda_with_0_0 13 rfl rfl)
theorem dX3_lambda_with_0_15 : decode cX3_lambda_with_0 15 = .ok (.invokevirtual 118, 3) := dk_182 0 118 (dk_at dksX3_lambda_with_0_0 15 rfl rfl)
theorem dX3_lambda_with_0_18 : decode cX3_lambda_with_0 18 = .ok (.ifCond .eq 7, 3) := dk_153 0 7 (dk_at dksX3_lambda_with_0_0 18 rfl rfl)
theorem dX3_lambda_with_0_21 : decode cX3_lambda_with_0 21 = .ok (.iconst 1, 1) := dk_4 (dk_at dksX3_lambda_with_0_0 21 rfl rfl)
theorem dX3_lambda_with_0_22 : decode cX3_lambda_with_0 22 = .ok (.goto 4, 3) := dk_167 0 4 (dk_at dksX3_lambda_with_0_1 0 rfl rfl)
theorem dX3_lambda_with_0_25 : decode cX3_lambda_with_0 25 = .ok (.iconst 0, 1) := dk_3 (dk_at dksX3_lambda_with_0_1 3 rfl rfl)
theorem dX3_lambda_with_0_26 : decode cX3_lambda_with_0 26 = .ok (.ireturn, 1) := dk_172 (dk_at dksX3_lambda_with_0_1 4 rfl rfl)
abbrev cX3_lambda_with_1 : ByteArray := prog_4_method_48_code
def yX3_lambda_with_1 : MethodName := ⟨RX3, "lambda$with$1", "(IIIII)J"⟩
def dkwX3_lambda_with_1_1 : List UInt8 := [182, 0, 76, 133, 173]
abbrev dktX3_lambda_with_1_1 : List UInt8 := dkwX3_lambda_with_1_1 ++ []
def dkwX3_lambda_with_1_0 : List UInt8 := [21, 4, 27, 160, 0, 14, 21, 5, 28, 160, 0, 8, 29, 133, 167, 0, 12, 42, 21, 4, 21, 5]
abbrev dktX3_lambda_with_1_0 : List UInt8 := dkwX3_lambda_with_1_0 ++ dktX3_lambda_with_1_1
theorem dksX3_lambda_with_1_0 : cX3_lambda_with_1.data.toList.drop 0 = dktX3_lambda_with_1_0 := by decide +kernel
theorem dksX3_lambda_with_1_1 : cX3_lambda_with_1.data.toList.drop 22 = dktX3_lambda_with_1_1 := dk_seg dksX3_lambda_with_1_0 22 rfl rfl
theorem dX3_lambda_with_1_0 : decode cX3_lambda_with_1 0 = .ok (.iload 4, 2) := dk_21 4 (dk_at dksX3_lambda_with_1_0 0 rfl rfl)
theorem dX3_lambda_with_1_2 : decode cX3_lambda_with_1 2 = .ok (.iload_n 1, 1) := dk_27 (dk_at dksX3_lambda_with_1_0 2 rfl rfl)
theorem dX3_lambda_with_1_3 : decode cX3_lambda_with_1 3 = .ok (.if_icmp .ne 14, 3) := dk_160 0 14 (dk_at dksX3_lambda_with_1_0 3 rfl rfl)
theorem dX3_lambda_with_1_6 : decode cX3_lambda_with_1 6 = .ok (.iload 5, 2) := dk_21 5 (dk_at dksX3_lambda_with_1_0 6 rfl rfl)
theorem dX3_lambda_with_1_8 : decode cX3_lambda_with_1 8 = .ok (.iload_n 2, 1) := dk_28 (dk_at dksX3_lambda_with_1_0 8 rfl rfl)
theorem dX3_lambda_with_1_9 : decode cX3_lambda_with_1 9 = .ok (.if_icmp .ne 8, 3) := dk_160 0 8 (dk_at dksX3_lambda_with_1_0 9 rfl rfl)
theorem dX3_lambda_with_1_12 : decode cX3_lambda_with_1 12 = .ok (.iload_n 3, 1) := dk_29 (dk_at dksX3_lambda_with_1_0 12 rfl rfl)
theorem dX3_lambda_with_1_13 : decode cX3_lambda_with_1 13 = .ok (.i2l, 1) := dk_133 (dk_at dksX3_lambda_with_1_0 13 rfl rfl)
theorem dX3_lambda_with_1_14 : decode cX3_lambda_with_1 14 = .ok (.goto 12, 3) := dk_167 0 12 (dk_at dksX3_lambda_with_1_0 14 rfl rfl)
theorem dX3_lambda_with_1_17 : decode cX3_lambda_with_1 17 = .ok (.aload_n 0, 1) := dk_42 (dk_at dksX3_lambda_with_1_0 17 rfl rfl)
theorem dX3_lambda_with_1_18 : decode cX3_lambda_with_1 18 = .ok (.iload 4, 2) := dk_21 4 (dk_at dksX3_lambda_with_1_0 18 rfl rfl)
theorem dX3_lambda_with_1_20 : decode cX3_lambda_with_1 20 = .ok (.iload 5, 2) := dk_21 5 (dk_at dksX3_lambda_with_1_0 20 rfl rfl)
theorem dX3_lambda_with_1_22 : decode cX3_lambda_with_1 22 = .ok (.invokevirtual 76, 3) := dk_182 0 76 (dk_at dksX3_lambda_with_1_1 0 rfl rfl)
theorem dX3_lambda_with_1_25 : decode cX3_lambda_with_1 25 = .ok (.i2l, 1) := dk_133 (dk_at dksX3_lambda_with_1_1 3 rfl rfl)
theorem dX3_lambda_with_1_26 : decode cX3_lambda_with_1 26 = .ok (.lreturn, 1) := dk_173 (dk_at dksX3_lambda_with_1_1 4 rfl rfl)
abbrev cX3_unit : ByteArray := prog_4_method_22_code
def yX3_unit : MethodName := ⟨RX3, "unit", "(I)LCsrCalculator$Csr;"⟩
def dkwX3_unit_0 : List UInt8 := [26, 26, 186, 0, 106, 0, 0, 186, 0, 109, 0, 0, 184, 0, 84, 176]
abbrev dktX3_unit_0 : List UInt8 := dkwX3_unit_0 ++ []
theorem dksX3_unit_0 : cX3_unit.data.toList.drop 0 = dktX3_unit_0 := by decide +kernel
theorem dX3_unit_0 : decode cX3_unit 0 = .ok (.iload_n 0, 1) := dk_26 (dk_at dksX3_unit_0 0 rfl rfl)
theorem dX3_unit_1 : decode cX3_unit 1 = .ok (.iload_n 0, 1) := dk_26 (dk_at dksX3_unit_0 1 rfl rfl)
theorem dX3_unit_2 : decode cX3_unit 2 = .ok (.invokedynamic 106, 5) := by decide +kernel
theorem dX3_unit_7 : decode cX3_unit 7 = .ok (.invokedynamic 109, 5) := by decide +kernel
theorem dX3_unit_12 : decode cX3_unit 12 = .ok (.invokestatic 84, 3) := dk_184 0 84 (dk_at dksX3_unit_0 12 rfl rfl)
theorem dX3_unit_15 : decode cX3_unit 15 = .ok (.areturn, 1) := dk_176 (dk_at dksX3_unit_0 15 rfl rfl)
abbrev cX3_lambda_unit_12 : ByteArray := prog_4_method_37_code
def yX3_lambda_unit_12 : MethodName := ⟨RX3, "lambda$unit$12", "(II)Z"⟩
def dkwX3_lambda_unit_12_0 : List UInt8 := [26, 27, 160, 0, 7, 4, 167, 0, 4, 3, 172]
abbrev dktX3_lambda_unit_12_0 : List UInt8 := dkwX3_lambda_unit_12_0 ++ []
theorem dksX3_lambda_unit_12_0 : cX3_lambda_unit_12.data.toList.drop 0 = dktX3_lambda_unit_12_0 := by decide +kernel
theorem dX3_lambda_unit_12_0 : decode cX3_lambda_unit_12 0 = .ok (.iload_n 0, 1) := dk_26 (dk_at dksX3_lambda_unit_12_0 0 rfl rfl)
theorem dX3_lambda_unit_12_1 : decode cX3_lambda_unit_12 1 = .ok (.iload_n 1, 1) := dk_27 (dk_at dksX3_lambda_unit_12_0 1 rfl rfl)
theorem dX3_lambda_unit_12_2 : decode cX3_lambda_unit_12 2 = .ok (.if_icmp .ne 7, 3) := dk_160 0 7 (dk_at dksX3_lambda_unit_12_0 2 rfl rfl)
theorem dX3_lambda_unit_12_5 : decode cX3_lambda_unit_12 5 = .ok (.iconst 1, 1) := dk_4 (dk_at dksX3_lambda_unit_12_0 5 rfl rfl)
theorem dX3_lambda_unit_12_6 : decode cX3_lambda_unit_12 6 = .ok (.goto 4, 3) := dk_167 0 4 (dk_at dksX3_lambda_unit_12_0 6 rfl rfl)
theorem dX3_lambda_unit_12_9 : decode cX3_lambda_unit_12 9 = .ok (.iconst 0, 1) := dk_3 (dk_at dksX3_lambda_unit_12_0 9 rfl rfl)
theorem dX3_lambda_unit_12_10 : decode cX3_lambda_unit_12 10 = .ok (.ireturn, 1) := dk_172 (dk_at dksX3_lambda_unit_12_0 10 rfl rfl)
abbrev cX3_lambda_unit_13 : ByteArray := prog_4_method_36_code
def yX3_lambda_unit_13 : MethodName := ⟨RX3, "lambda$unit$13", "(II)J"⟩
theorem dX3_lambda_unit_13_0 : decode cX3_lambda_unit_13 0 = .ok (.lconst 1, 1) := by decide +kernel
theorem dX3_lambda_unit_13_1 : decode cX3_lambda_unit_13 1 = .ok (.lreturn, 1) := by decide +kernel
abbrev cX3_scaled : ByteArray := prog_4_method_21_code
def yX3_scaled : MethodName := ⟨RX3, "scaled", "(I)LCsrCalculator$Csr;"⟩
def dkwX3_scaled_1 : List UInt8 := [176]
abbrev dktX3_scaled_1 : List UInt8 := dkwX3_scaled_1 ++ []
def dkwX3_scaled_0 : List UInt8 := [42, 180, 0, 14, 42, 180, 0, 18, 42, 186, 0, 102, 0, 0, 42, 27, 186, 0, 103, 0, 0, 184, 0, 84]
abbrev dktX3_scaled_0 : List UInt8 := dkwX3_scaled_0 ++ dktX3_scaled_1
theorem dksX3_scaled_0 : cX3_scaled.data.toList.drop 0 = dktX3_scaled_0 := by decide +kernel
theorem dksX3_scaled_1 : cX3_scaled.data.toList.drop 24 = dktX3_scaled_1 := dk_seg dksX3_scaled_0 24 rfl rfl
theorem dX3_scaled_0 : decode cX3_scaled 0 = .ok (.aload_n 0, 1) := dk_42 (dk_at dksX3_scaled_0 0 rfl rfl)
theorem dX3_scaled_1 : decode cX3_scaled 1 = .ok (.getfield 14, 3) := dk_180 0 14 (dk_at dksX3_scaled_0 1 rfl rfl)
theorem dX3_scaled_4 : decode cX3_scaled 4 = .ok (.aload_n 0, 1) := dk_42 (dk_at dksX3_scaled_0 4 rfl rfl)
theorem dX3_scaled_5 : decode cX3_scaled 5 = .ok (.getfield 18, 3) := dk_180 0 18 (dk_at dksX3_scaled_0 5 rfl rfl)
theorem dX3_scaled_8 : decode cX3_scaled 8 = .ok (.aload_n 0, 1) := dk_42 (dk_at dksX3_scaled_0 8 rfl rfl)
theorem dX3_scaled_9 : decode cX3_scaled 9 = .ok (.invokedynamic 102, 5) := by decide +kernel
theorem dX3_scaled_14 : decode cX3_scaled 14 = .ok (.aload_n 0, 1) := dk_42 (dk_at dksX3_scaled_0 14 rfl rfl)
theorem dX3_scaled_15 : decode cX3_scaled 15 = .ok (.iload_n 1, 1) := dk_27 (dk_at dksX3_scaled_0 15 rfl rfl)
theorem dX3_scaled_16 : decode cX3_scaled 16 = .ok (.invokedynamic 103, 5) := by decide +kernel
theorem dX3_scaled_21 : decode cX3_scaled 21 = .ok (.invokestatic 84, 3) := dk_184 0 84 (dk_at dksX3_scaled_0 21 rfl rfl)
theorem dX3_scaled_24 : decode cX3_scaled 24 = .ok (.areturn, 1) := dk_176 (dk_at dksX3_scaled_1 0 rfl rfl)
abbrev cX3_lambda_scaled_10 : ByteArray := prog_4_method_39_code
def yX3_lambda_scaled_10 : MethodName := ⟨RX3, "lambda$scaled$10", "(II)Z"⟩
def dkwX3_lambda_scaled_10_0 : List UInt8 := [42, 27, 28, 182, 0, 118, 172]
abbrev dktX3_lambda_scaled_10_0 : List UInt8 := dkwX3_lambda_scaled_10_0 ++ []
theorem dksX3_lambda_scaled_10_0 : cX3_lambda_scaled_10.data.toList.drop 0 = dktX3_lambda_scaled_10_0 := by decide +kernel
theorem dX3_lambda_scaled_10_0 : decode cX3_lambda_scaled_10 0 = .ok (.aload_n 0, 1) := dk_42 (dk_at dksX3_lambda_scaled_10_0 0 rfl rfl)
theorem dX3_lambda_scaled_10_1 : decode cX3_lambda_scaled_10 1 = .ok (.iload_n 1, 1) := dk_27 (dk_at dksX3_lambda_scaled_10_0 1 rfl rfl)
theorem dX3_lambda_scaled_10_2 : decode cX3_lambda_scaled_10 2 = .ok (.iload_n 2, 1) := dk_28 (dk_at dksX3_lambda_scaled_10_0 2 rfl rfl)
theorem dX3_lambda_scaled_10_3 : decode cX3_lambda_scaled_10 3 = .ok (.invokevirtual 118, 3) := dk_182 0 118 (dk_at dksX3_lambda_scaled_10_0 3 rfl rfl)
theorem dX3_lambda_scaled_10_6 : decode cX3_lambda_scaled_10 6 = .ok (.ireturn, 1) := dk_172 (dk_at dksX3_lambda_scaled_10_0 6 rfl rfl)
abbrev cX3_lambda_scaled_11 : ByteArray := prog_4_method_38_code
def yX3_lambda_scaled_11 : MethodName := ⟨RX3, "lambda$scaled$11", "(III)J"⟩
def dkwX3_lambda_scaled_11_0 : List UInt8 := [27, 133, 42, 28, 29, 182, 0, 76, 133, 105, 173]
abbrev dktX3_lambda_scaled_11_0 : List UInt8 := dkwX3_lambda_scaled_11_0 ++ []
theorem dksX3_lambda_scaled_11_0 : cX3_lambda_scaled_11.data.toList.drop 0 = dktX3_lambda_scaled_11_0 := by decide +kernel
theorem dX3_lambda_scaled_11_0 : decode cX3_lambda_scaled_11 0 = .ok (.iload_n 1, 1) := dk_27 (dk_at dksX3_lambda_scaled_11_0 0 rfl rfl)
theorem dX3_lambda_scaled_11_1 : decode cX3_lambda_scaled_11 1 = .ok (.i2l, 1) := dk_133 (dk_at dksX3_lambda_scaled_11_0 1 rfl rfl)
theorem dX3_lambda_scaled_11_2 : decode cX3_lambda_scaled_11 2 = .ok (.aload_n 0, 1) := dk_42 (dk_at dksX3_lambda_scaled_11_0 2 rfl rfl)
theorem dX3_lambda_scaled_11_3 : decode cX3_lambda_scaled_11 3 = .ok (.iload_n 2, 1) := dk_28 (dk_at dksX3_lambda_scaled_11_0 3 rfl rfl)
theorem dX3_lambda_scaled_11_4 : decode cX3_lambda_scaled_11 4 = .ok (.iload_n 3, 1) := dk_29 (dk_at dksX3_lambda_scaled_11_0 4 rfl rfl)
theorem dX3_lambda_scaled_11_5 : decode cX3_lambda_scaled_11 5 = .ok (.invokevirtual 76, 3) := dk_182 0 76 (dk_at dksX3_lambda_scaled_11_0 5 rfl rfl)
theorem dX3_lambda_scaled_11_8 : decode cX3_lambda_scaled_11 8 = .ok (.i2l, 1) := dk_133 (dk_at dksX3_lambda_scaled_11_0 8 rfl rfl)
theorem dX3_lambda_scaled_11_9 : decode cX3_lambda_scaled_11 9 = .ok (.lmul, 1) := dk_105 (dk_at dksX3_lambda_scaled_11_0 9 rfl rfl)
theorem dX3_lambda_scaled_11_10 : decode cX3_lambda_scaled_11 10 = .ok (.lreturn, 1) := dk_173 (dk_at dksX3_lambda_scaled_11_0 10 rfl rfl)
abbrev cX3_joined : ByteArray := prog_4_method_23_code
def yX3_joined : MethodName := ⟨RX3, "joined", "(LCsrCalculator$Join;LCsrCalculator$Csr;)LCsrCalculator$Csr;"⟩
def dkwX3_joined_1 : List UInt8 := [42, 44, 186, 0, 112, 0, 0, 42, 43, 44, 186, 0, 115, 0, 0, 184, 0, 84, 176]
abbrev dktX3_joined_1 : List UInt8 := dkwX3_joined_1 ++ []
def dkwX3_joined_0 : List UInt8 := [42, 44, 182, 0, 68, 154, 0, 11, 187, 0, 51, 89, 183, 0, 53, 191, 42, 180, 0, 14, 42, 180, 0, 18]
abbrev dktX3_joined_0 : List UInt8 := dkwX3_joined_0 ++ dktX3_joined_1
theorem dksX3_joined_0 : cX3_joined.data.toList.drop 0 = dktX3_joined_0 := by decide +kernel
theorem dksX3_joined_1 : cX3_joined.data.toList.drop 24 = dktX3_joined_1 := dk_seg dksX3_joined_0 24 rfl rfl
theorem dX3_joined_0 : decode cX3_joined 0 = .ok (.aload_n 0, 1) := dk_42 (dk_at dksX3_joined_0 0 rfl rfl)
theorem dX3_joined_1 : decode cX3_joined 1 = .ok (.aload_n 2, 1) := dk_44 (dk_at dksX3_joined_0 1 rfl rfl)
theorem dX3_joined_2 : decode cX3_joined 2 = .ok (.invokevirtual 68, 3) := dk_182 0 68 (dk_at dksX3_joined_0 2 rfl rfl)
theorem dX3_joined_5 : decode cX3_joined 5 = .ok (.ifCond .ne 11, 3) := dk_154 0 11 (dk_at dksX3_joined_0 5 rfl rfl)
theorem dX3_joined_8 : decode cX3_joined 8 = .ok (.new 51, 3) := dk_187 0 51 (dk_at dksX3_joined_0 8 rfl rfl)
theorem dX3_joined_11 : decode cX3_joined 11 = .ok (.dup, 1) := dk_89 (dk_at dksX3_joined_0 11 rfl rfl)
theorem dX3_joined_12 : decode cX3_joined 12 = .ok (.invokespecial 53, 3) := dk_183 0 53 (dk_at dksX3_joined_0 12 rfl rfl)
theorem dX3_joined_15 : decode cX3_joined 15 = .ok (.athrow, 1) := dk_191 (dk_at dksX3_joined_0 15 rfl rfl)
theorem dX3_joined_16 : decode cX3_joined 16 = .ok (.aload_n 0, 1) := dk_42 (dk_at dksX3_joined_0 16 rfl rfl)
theorem dX3_joined_17 : decode cX3_joined 17 = .ok (.getfield 14, 3) := dk_180 0 14 (dk_at dksX3_joined_0 17 rfl rfl)
theorem dX3_joined_20 : decode cX3_joined 20 = .ok (.aload_n 0, 1) := dk_42 (dk_at dksX3_joined_0 20 rfl rfl)
theorem dX3_joined_21 : decode cX3_joined 21 = .ok (.getfield 18, 3) := dk_180 0 18 (dk_at dksX3_joined_0 21 rfl rfl)
theorem dX3_joined_24 : decode cX3_joined 24 = .ok (.aload_n 0, 1) := dk_42 (dk_at dksX3_joined_1 0 rfl rfl)
theorem dX3_joined_25 : decode cX3_joined 25 = .ok (.aload_n 2, 1) := dk_44 (dk_at dksX3_joined_1 1 rfl rfl)
theorem dX3_joined_26 : decode cX3_joined 26 = .ok (.invokedynamic 112, 5) := by decide +kernel
theorem dX3_joined_31 : decode cX3_joined 31 = .ok (.aload_n 0, 1) := dk_42 (dk_at dksX3_joined_1 7 rfl rfl)
theorem dX3_joined_32 : decode cX3_joined 32 = .ok (.aload_n 1, 1) := dk_43 (dk_at dksX3_joined_1 8 rfl rfl)
theorem dX3_joined_33 : decode cX3_joined 33 = .ok (.aload_n 2, 1) := dk_44 (dk_at dksX3_joined_1 9 rfl rfl)
theorem dX3_joined_34 : decode cX3_joined 34 = .ok (.invokedynamic 115, 5) := by decide +kernel
theorem dX3_joined_39 : decode cX3_joined 39 = .ok (.invokestatic 84, 3) := dk_184 0 84 (dk_at dksX3_joined_1 15 rfl rfl)
theorem dX3_joined_42 : decode cX3_joined 42 = .ok (.areturn, 1) := dk_176 (dk_at dksX3_joined_1 18 rfl rfl)
abbrev cX3_lambda_joined_14 : ByteArray := prog_4_method_35_code
def yX3_lambda_joined_14 : MethodName := ⟨RX3, "lambda$joined$14", "(LCsrCalculator$Csr;II)Z"⟩
def dkwX3_lambda_joined_14_0 : List UInt8 := [42, 28, 29, 182, 0, 118, 154, 0, 12, 43, 28, 29, 182, 0, 118, 153, 0, 7, 4, 167, 0, 4, 3, 172]
abbrev dktX3_lambda_joined_14_0 : List UInt8 := dkwX3_lambda_joined_14_0 ++ []
theorem dksX3_lambda_joined_14_0 : cX3_lambda_joined_14.data.toList.drop 0 = dktX3_lambda_joined_14_0 := by decide +kernel
theorem dX3_lambda_joined_14_0 : decode cX3_lambda_joined_14 0 = .ok (.aload_n 0, 1) := dk_42 (dk_at dksX3_lambda_joined_14_0 0 rfl rfl)
theorem dX3_lambda_joined_14_1 : decode cX3_lambda_joined_14 1 = .ok (.iload_n 2, 1) := dk_28 (dk_at dksX3_lambda_joined_14_0 1 rfl rfl)
theorem dX3_lambda_joined_14_2 : decode cX3_lambda_joined_14 2 = .ok (.iload_n 3, 1) := dk_29 (dk_at dksX3_lambda_joined_14_0 2 rfl rfl)
theorem dX3_lambda_joined_14_3 : decode cX3_lambda_joined_14 3 = .ok (.invokevirtual 118, 3) := dk_182 0 118 (dk_at dksX3_lambda_joined_14_0 3 rfl rfl)
theorem dX3_lambda_joined_14_6 : decode cX3_lambda_joined_14 6 = .ok (.ifCond .ne 12, 3) := dk_154 0 12 (dk_at dksX3_lambda_joined_14_0 6 rfl rfl)
theorem dX3_lambda_joined_14_9 : decode cX3_lambda_joined_14 9 = .ok (.aload_n 1, 1) := dk_43 (dk_at dksX3_lambda_joined_14_0 9 rfl rfl)
theorem dX3_lambda_joined_14_10 : decode cX3_lambda_joined_14 10 = .ok (.iload_n 2, 1) := dk_28 (dk_at dksX3_lambda_joined_14_0 10 rfl rfl)
theorem dX3_lambda_joined_14_11 : decode cX3_lambda_joined_14 11 = .ok (.iload_n 3, 1) := dk_29 (dk_at dksX3_lambda_joined_14_0 11 rfl rfl)
theorem dX3_lambda_joined_14_12 : decode cX3_lambda_joined_14 12 = .ok (.invokevirtual 118, 3) := dk_182 0 118 (dk_at dksX3_lambda_joined_14_0 12 rfl rfl)
theorem dX3_lambda_joined_14_15 : decode cX3_lambda_joined_14 15 = .ok (.ifCond .eq 7, 3) := dk_153 0 7 (dk_at dksX3_lambda_joined_14_0 15 rfl rfl)
theorem dX3_lambda_joined_14_18 : decode cX3_lambda_joined_14 18 = .ok (.iconst 1, 1) := dk_4 (dk_at dksX3_lambda_joined_14_0 18 rfl rfl)
theorem dX3_lambda_joined_14_19 : decode cX3_lambda_joined_14 19 = .ok (.goto 4, 3) := dk_167 0 4 (dk_at dksX3_lambda_joined_14_0 19 rfl rfl)
theorem dX3_lambda_joined_14_22 : decode cX3_lambda_joined_14 22 = .ok (.iconst 0, 1) := dk_3 (dk_at dksX3_lambda_joined_14_0 22 rfl rfl)
theorem dX3_lambda_joined_14_23 : decode cX3_lambda_joined_14 23 = .ok (.ireturn, 1) := dk_172 (dk_at dksX3_lambda_joined_14_0 23 rfl rfl)
abbrev cX3_lambda_joined_15 : ByteArray := prog_4_method_34_code
def yX3_lambda_joined_15 : MethodName := ⟨RX3, "lambda$joined$15", "(LCsrCalculator$Join;LCsrCalculator$Csr;II)J"⟩
def dkwX3_lambda_joined_15_0 : List UInt8 := [43, 42, 29, 21, 4, 182, 0, 76, 133, 44, 29, 21, 4, 182, 0, 76, 133, 182, 0, 146, 173]
abbrev dktX3_lambda_joined_15_0 : List UInt8 := dkwX3_lambda_joined_15_0 ++ []
theorem dksX3_lambda_joined_15_0 : cX3_lambda_joined_15.data.toList.drop 0 = dktX3_lambda_joined_15_0 := by decide +kernel
theorem dX3_lambda_joined_15_0 : decode cX3_lambda_joined_15 0 = .ok (.aload_n 1, 1) := dk_43 (dk_at dksX3_lambda_joined_15_0 0 rfl rfl)
theorem dX3_lambda_joined_15_1 : decode cX3_lambda_joined_15 1 = .ok (.aload_n 0, 1) := dk_42 (dk_at dksX3_lambda_joined_15_0 1 rfl rfl)
theorem dX3_lambda_joined_15_2 : decode cX3_lambda_joined_15 2 = .ok (.iload_n 3, 1) := dk_29 (dk_at dksX3_lambda_joined_15_0 2 rfl rfl)
theorem dX3_lambda_joined_15_3 : decode cX3_lambda_joined_15 3 = .ok (.iload 4, 2) := dk_21 4 (dk_at dksX3_lambda_joined_15_0 3 rfl rfl)
theorem dX3_lambda_joined_15_5 : decode cX3_lambda_joined_15 5 = .ok (.invokevirtual 76, 3) := dk_182 0 76 (dk_at dksX3_lambda_joined_15_0 5 rfl rfl)
theorem dX3_lambda_joined_15_8 : decode cX3_lambda_joined_15 8 = .ok (.i2l, 1) := dk_133 (dk_at dksX3_lambda_joined_15_0 8 rfl rfl)
theorem dX3_lambda_joined_15_9 : decode cX3_lambda_joined_15 9 = .ok (.aload_n 2, 1) := dk_44 (dk_at dksX3_lambda_joined_15_0 9 rfl rfl)
theorem dX3_lambda_joined_15_10 : decode cX3_lambda_joined_15 10 = .ok (.iload_n 3, 1) := dk_29 (dk_at dksX3_lambda_joined_15_0 10 rfl rfl)
theorem dX3_lambda_joined_15_11 : decode cX3_lambda_joined_15 11 = .ok (.iload 4, 2) := dk_21 4 (dk_at dksX3_lambda_joined_15_0 11 rfl rfl)
theorem dX3_lambda_joined_15_13 : decode cX3_lambda_joined_15 13 = .ok (.invokevirtual 76, 3) := dk_182 0 76 (dk_at dksX3_lambda_joined_15_0 13 rfl rfl)
theorem dX3_lambda_joined_15_16 : decode cX3_lambda_joined_15 16 = .ok (.i2l, 1) := dk_133 (dk_at dksX3_lambda_joined_15_0 16 rfl rfl)
theorem dX3_lambda_joined_15_17 : decode cX3_lambda_joined_15 17 = .ok (.invokevirtual 146, 3) := dk_182 0 146 (dk_at dksX3_lambda_joined_15_0 17 rfl rfl)
theorem dX3_lambda_joined_15_20 : decode cX3_lambda_joined_15 20 = .ok (.lreturn, 1) := dk_173 (dk_at dksX3_lambda_joined_15_0 20 rfl rfl)
abbrev cX3_workWith : ByteArray := prog_4_method_27_code
def yX3_workWith : MethodName := ⟨RX3, "workWith", "(LCsrCalculator$Csr;)I"⟩
def dkwX3_workWith_1 : List UInt8 := [46, 54, 6, 28, 43, 21, 6, 182, 0, 123, 96, 61, 132, 5, 1, 167, 255, 231, 28, 172]
abbrev dktX3_workWith_1 : List UInt8 := dkwX3_workWith_1 ++ []
def dkwX3_workWith_0 : List UInt8 := [3, 61, 42, 180, 0, 25, 78, 45, 190, 54, 4, 3, 54, 5, 21, 5, 21, 4, 162, 0, 24, 45, 21, 5]
abbrev dktX3_workWith_0 : List UInt8 := dkwX3_workWith_0 ++ dktX3_workWith_1
theorem dksX3_workWith_0 : cX3_workWith.data.toList.drop 0 = dktX3_workWith_0 := by decide +kernel
theorem dksX3_workWith_1 : cX3_workWith.data.toList.drop 24 = dktX3_workWith_1 := dk_seg dksX3_workWith_0 24 rfl rfl
theorem dX3_workWith_0 : decode cX3_workWith 0 = .ok (.iconst 0, 1) := dk_3 (dk_at dksX3_workWith_0 0 rfl rfl)
theorem dX3_workWith_1 : decode cX3_workWith 1 = .ok (.istore_n 2, 1) := dk_61 (dk_at dksX3_workWith_0 1 rfl rfl)
theorem dX3_workWith_2 : decode cX3_workWith 2 = .ok (.aload_n 0, 1) := dk_42 (dk_at dksX3_workWith_0 2 rfl rfl)
theorem dX3_workWith_3 : decode cX3_workWith 3 = .ok (.getfield 25, 3) := dk_180 0 25 (dk_at dksX3_workWith_0 3 rfl rfl)
theorem dX3_workWith_6 : decode cX3_workWith 6 = .ok (.astore_n 3, 1) := dk_78 (dk_at dksX3_workWith_0 6 rfl rfl)
theorem dX3_workWith_7 : decode cX3_workWith 7 = .ok (.aload_n 3, 1) := dk_45 (dk_at dksX3_workWith_0 7 rfl rfl)
theorem dX3_workWith_8 : decode cX3_workWith 8 = .ok (.arraylength, 1) := dk_190 (dk_at dksX3_workWith_0 8 rfl rfl)
theorem dX3_workWith_9 : decode cX3_workWith 9 = .ok (.istore 4, 2) := dk_54 4 (dk_at dksX3_workWith_0 9 rfl rfl)
theorem dX3_workWith_11 : decode cX3_workWith 11 = .ok (.iconst 0, 1) := dk_3 (dk_at dksX3_workWith_0 11 rfl rfl)
theorem dX3_workWith_12 : decode cX3_workWith 12 = .ok (.istore 5, 2) := dk_54 5 (dk_at dksX3_workWith_0 12 rfl rfl)
theorem dX3_workWith_14 : decode cX3_workWith 14 = .ok (.iload 5, 2) := dk_21 5 (dk_at dksX3_workWith_0 14 rfl rfl)
theorem dX3_workWith_16 : decode cX3_workWith 16 = .ok (.iload 4, 2) := dk_21 4 (dk_at dksX3_workWith_0 16 rfl rfl)
theorem dX3_workWith_18 : decode cX3_workWith 18 = .ok (.if_icmp .ge 24, 3) := dk_162 0 24 (dk_at dksX3_workWith_0 18 rfl rfl)
theorem dX3_workWith_21 : decode cX3_workWith 21 = .ok (.aload_n 3, 1) := dk_45 (dk_at dksX3_workWith_0 21 rfl rfl)
theorem dX3_workWith_22 : decode cX3_workWith 22 = .ok (.iload 5, 2) := dk_21 5 (dk_at dksX3_workWith_0 22 rfl rfl)
theorem dX3_workWith_24 : decode cX3_workWith 24 = .ok (.iaload, 1) := dk_46 (dk_at dksX3_workWith_1 0 rfl rfl)
theorem dX3_workWith_25 : decode cX3_workWith 25 = .ok (.istore 6, 2) := dk_54 6 (dk_at dksX3_workWith_1 1 rfl rfl)
theorem dX3_workWith_27 : decode cX3_workWith 27 = .ok (.iload_n 2, 1) := dk_28 (dk_at dksX3_workWith_1 3 rfl rfl)
theorem dX3_workWith_28 : decode cX3_workWith 28 = .ok (.aload_n 1, 1) := dk_43 (dk_at dksX3_workWith_1 4 rfl rfl)
theorem dX3_workWith_29 : decode cX3_workWith 29 = .ok (.iload 6, 2) := dk_21 6 (dk_at dksX3_workWith_1 5 rfl rfl)
theorem dX3_workWith_31 : decode cX3_workWith 31 = .ok (.invokevirtual 123, 3) := dk_182 0 123 (dk_at dksX3_workWith_1 7 rfl rfl)
theorem dX3_workWith_34 : decode cX3_workWith 34 = .ok (.iadd, 1) := dk_96 (dk_at dksX3_workWith_1 10 rfl rfl)
theorem dX3_workWith_35 : decode cX3_workWith 35 = .ok (.istore_n 2, 1) := dk_61 (dk_at dksX3_workWith_1 11 rfl rfl)
theorem dX3_workWith_36 : decode cX3_workWith 36 = .ok (.iinc 5 1, 3) := dk_132 5 1 (dk_at dksX3_workWith_1 12 rfl rfl)
theorem dX3_workWith_39 : decode cX3_workWith 39 = .ok (.goto (-25), 3) := dk_167 255 231 (dk_at dksX3_workWith_1 15 rfl rfl)
theorem dX3_workWith_42 : decode cX3_workWith 42 = .ok (.iload_n 2, 1) := dk_28 (dk_at dksX3_workWith_1 18 rfl rfl)
theorem dX3_workWith_43 : decode cX3_workWith 43 = .ok (.ireturn, 1) := dk_172 (dk_at dksX3_workWith_1 19 rfl rfl)
abbrev cX3_rowLength : ByteArray := prog_4_method_10_code
def yX3_rowLength : MethodName := ⟨RX3, "rowLength", "(I)I"⟩
def dkwX3_rowLength_0 : List UInt8 := [42, 180, 0, 21, 27, 4, 96, 46, 42, 180, 0, 21, 27, 46, 100, 172]
abbrev dktX3_rowLength_0 : List UInt8 := dkwX3_rowLength_0 ++ []
theorem dksX3_rowLength_0 : cX3_rowLength.data.toList.drop 0 = dktX3_rowLength_0 := by decide +kernel
theorem dX3_rowLength_0 : decode cX3_rowLength 0 = .ok (.aload_n 0, 1) := dk_42 (dk_at dksX3_rowLength_0 0 rfl rfl)
theorem dX3_rowLength_1 : decode cX3_rowLength 1 = .ok (.getfield 21, 3) := dk_180 0 21 (dk_at dksX3_rowLength_0 1 rfl rfl)
theorem dX3_rowLength_4 : decode cX3_rowLength 4 = .ok (.iload_n 1, 1) := dk_27 (dk_at dksX3_rowLength_0 4 rfl rfl)
theorem dX3_rowLength_5 : decode cX3_rowLength 5 = .ok (.iconst 1, 1) := dk_4 (dk_at dksX3_rowLength_0 5 rfl rfl)
theorem dX3_rowLength_6 : decode cX3_rowLength 6 = .ok (.iadd, 1) := dk_96 (dk_at dksX3_rowLength_0 6 rfl rfl)
theorem dX3_rowLength_7 : decode cX3_rowLength 7 = .ok (.iaload, 1) := dk_46 (dk_at dksX3_rowLength_0 7 rfl rfl)
theorem dX3_rowLength_8 : decode cX3_rowLength 8 = .ok (.aload_n 0, 1) := dk_42 (dk_at dksX3_rowLength_0 8 rfl rfl)
theorem dX3_rowLength_9 : decode cX3_rowLength 9 = .ok (.getfield 21, 3) := dk_180 0 21 (dk_at dksX3_rowLength_0 9 rfl rfl)
theorem dX3_rowLength_12 : decode cX3_rowLength 12 = .ok (.iload_n 1, 1) := dk_27 (dk_at dksX3_rowLength_0 12 rfl rfl)
theorem dX3_rowLength_13 : decode cX3_rowLength 13 = .ok (.iaload, 1) := dk_46 (dk_at dksX3_rowLength_0 13 rfl rfl)
theorem dX3_rowLength_14 : decode cX3_rowLength 14 = .ok (.isub, 1) := dk_100 (dk_at dksX3_rowLength_0 14 rfl rfl)
theorem dX3_rowLength_15 : decode cX3_rowLength 15 = .ok (.ireturn, 1) := dk_172 (dk_at dksX3_rowLength_0 15 rfl rfl)
abbrev cX3_withoutZeros : ByteArray := prog_4_method_17_code
def yX3_withoutZeros : MethodName := ⟨RX3, "withoutZeros", "()LCsrCalculator$Csr;"⟩
def dkwX3_withoutZeros_0 : List UInt8 := [42, 180, 0, 14, 42, 180, 0, 18, 42, 186, 0, 92, 0, 0, 42, 186, 0, 95, 0, 0, 184, 0, 84, 176]
abbrev dktX3_withoutZeros_0 : List UInt8 := dkwX3_withoutZeros_0 ++ []
theorem dksX3_withoutZeros_0 : cX3_withoutZeros.data.toList.drop 0 = dktX3_withoutZeros_0 := by decide +kernel
theorem dX3_withoutZeros_0 : decode cX3_withoutZeros 0 = .ok (.aload_n 0, 1) := dk_42 (dk_at dksX3_withoutZeros_0 0 rfl rfl)
theorem dX3_withoutZeros_1 : decode cX3_withoutZeros 1 = .ok (.getfield 14, 3) := dk_180 0 14 (dk_at dksX3_withoutZeros_0 1 rfl rfl)
theorem dX3_withoutZeros_4 : decode cX3_withoutZeros 4 = .ok (.aload_n 0, 1) := dk_42 (dk_at dksX3_withoutZeros_0 4 rfl rfl)
theorem dX3_withoutZeros_5 : decode cX3_withoutZeros 5 = .ok (.getfield 18, 3) := dk_180 0 18 (dk_at dksX3_withoutZeros_0 5 rfl rfl)
theorem dX3_withoutZeros_8 : decode cX3_withoutZeros 8 = .ok (.aload_n 0, 1) := dk_42 (dk_at dksX3_withoutZeros_0 8 rfl rfl)
theorem dX3_withoutZeros_9 : decode cX3_withoutZeros 9 = .ok (.invokedynamic 92, 5) := by decide +kernel
theorem dX3_withoutZeros_14 : decode cX3_withoutZeros 14 = .ok (.aload_n 0, 1) := dk_42 (dk_at dksX3_withoutZeros_0 14 rfl rfl)
theorem dX3_withoutZeros_15 : decode cX3_withoutZeros 15 = .ok (.invokedynamic 95, 5) := by decide +kernel
theorem dX3_withoutZeros_20 : decode cX3_withoutZeros 20 = .ok (.invokestatic 84, 3) := dk_184 0 84 (dk_at dksX3_withoutZeros_0 20 rfl rfl)
theorem dX3_withoutZeros_23 : decode cX3_withoutZeros 23 = .ok (.areturn, 1) := dk_176 (dk_at dksX3_withoutZeros_0 23 rfl rfl)
abbrev cX3_lambda_withoutZeros_4 : ByteArray := prog_4_method_45_code
def yX3_lambda_withoutZeros_4 : MethodName := ⟨RX3, "lambda$withoutZeros$4", "(II)Z"⟩
def dkwX3_lambda_withoutZeros_4_0 : List UInt8 := [42, 27, 28, 182, 0, 76, 153, 0, 7, 4, 167, 0, 4, 3, 172]
abbrev dktX3_lambda_withoutZeros_4_0 : List UInt8 := dkwX3_lambda_withoutZeros_4_0 ++ []
theorem dksX3_lambda_withoutZeros_4_0 : cX3_lambda_withoutZeros_4.data.toList.drop 0 = dktX3_lambda_withoutZeros_4_0 := by decide +kernel
theorem dX3_lambda_withoutZeros_4_0 : decode cX3_lambda_withoutZeros_4 0 = .ok (.aload_n 0, 1) := dk_42 (dk_at dksX3_lambda_withoutZeros_4_0 0 rfl rfl)
theorem dX3_lambda_withoutZeros_4_1 : decode cX3_lambda_withoutZeros_4 1 = .ok (.iload_n 1, 1) := dk_27 (dk_at dksX3_lambda_withoutZeros_4_0 1 rfl rfl)
theorem dX3_lambda_withoutZeros_4_2 : decode cX3_lambda_withoutZeros_4 2 = .ok (.iload_n 2, 1) := dk_28 (dk_at dksX3_lambda_withoutZeros_4_0 2 rfl rfl)
theorem dX3_lambda_withoutZeros_4_3 : decode cX3_lambda_withoutZeros_4 3 = .ok (.invokevirtual 76, 3) := dk_182 0 76 (dk_at dksX3_lambda_withoutZeros_4_0 3 rfl rfl)
theorem dX3_lambda_withoutZeros_4_6 : decode cX3_lambda_withoutZeros_4 6 = .ok (.ifCond .eq 7, 3) := dk_153 0 7 (dk_at dksX3_lambda_withoutZeros_4_0 6 rfl rfl)
theorem dX3_lambda_withoutZeros_4_9 : decode cX3_lambda_withoutZeros_4 9 = .ok (.iconst 1, 1) := dk_4 (dk_at dksX3_lambda_withoutZeros_4_0 9 rfl rfl)
theorem dX3_lambda_withoutZeros_4_10 : decode cX3_lambda_withoutZeros_4 10 = .ok (.goto 4, 3) := dk_167 0 4 (dk_at dksX3_lambda_withoutZeros_4_0 10 rfl rfl)
theorem dX3_lambda_withoutZeros_4_13 : decode cX3_lambda_withoutZeros_4 13 = .ok (.iconst 0, 1) := dk_3 (dk_at dksX3_lambda_withoutZeros_4_0 13 rfl rfl)
theorem dX3_lambda_withoutZeros_4_14 : decode cX3_lambda_withoutZeros_4 14 = .ok (.ireturn, 1) := dk_172 (dk_at dksX3_lambda_withoutZeros_4_0 14 rfl rfl)
abbrev cX3_lambda_withoutZeros_5 : ByteArray := prog_4_method_44_code
def yX3_lambda_withoutZeros_5 : MethodName := ⟨RX3, "lambda$withoutZeros$5", "(II)J"⟩
def dkwX3_lambda_withoutZeros_5_0 : List UInt8 := [42, 27, 28, 182, 0, 76, 133, 173]
abbrev dktX3_lambda_withoutZeros_5_0 : List UInt8 := dkwX3_lambda_withoutZeros_5_0 ++ []
theorem dksX3_lambda_withoutZeros_5_0 : cX3_lambda_withoutZeros_5.data.toList.drop 0 = dktX3_lambda_withoutZeros_5_0 := by decide +kernel
theorem dX3_lambda_withoutZeros_5_0 : decode cX3_lambda_withoutZeros_5 0 = .ok (.aload_n 0, 1) := dk_42 (dk_at dksX3_lambda_withoutZeros_5_0 0 rfl rfl)
theorem dX3_lambda_withoutZeros_5_1 : decode cX3_lambda_withoutZeros_5 1 = .ok (.iload_n 1, 1) := dk_27 (dk_at dksX3_lambda_withoutZeros_5_0 1 rfl rfl)
theorem dX3_lambda_withoutZeros_5_2 : decode cX3_lambda_withoutZeros_5 2 = .ok (.iload_n 2, 1) := dk_28 (dk_at dksX3_lambda_withoutZeros_5_0 2 rfl rfl)
theorem dX3_lambda_withoutZeros_5_3 : decode cX3_lambda_withoutZeros_5 3 = .ok (.invokevirtual 76, 3) := dk_182 0 76 (dk_at dksX3_lambda_withoutZeros_5_0 3 rfl rfl)
theorem dX3_lambda_withoutZeros_5_6 : decode cX3_lambda_withoutZeros_5 6 = .ok (.i2l, 1) := dk_133 (dk_at dksX3_lambda_withoutZeros_5_0 6 rfl rfl)
theorem dX3_lambda_withoutZeros_5_7 : decode cX3_lambda_withoutZeros_5 7 = .ok (.lreturn, 1) := dk_173 (dk_at dksX3_lambda_withoutZeros_5_0 7 rfl rfl)
abbrev cX3_without : ByteArray := prog_4_method_16_code
def yX3_without : MethodName := ⟨RX3, "without", "(II)LCsrCalculator$Csr;"⟩
def dkwX3_without_1 : List UInt8 := [184, 0, 84, 176]
abbrev dktX3_without_1 : List UInt8 := dkwX3_without_1 ++ []
def dkwX3_without_0 : List UInt8 := [42, 180, 0, 14, 42, 180, 0, 18, 42, 27, 28, 186, 0, 88, 0, 0, 42, 186, 0, 89, 0, 0]
abbrev dktX3_without_0 : List UInt8 := dkwX3_without_0 ++ dktX3_without_1
theorem dksX3_without_0 : cX3_without.data.toList.drop 0 = dktX3_without_0 := by decide +kernel
theorem dksX3_without_1 : cX3_without.data.toList.drop 22 = dktX3_without_1 := dk_seg dksX3_without_0 22 rfl rfl
theorem dX3_without_0 : decode cX3_without 0 = .ok (.aload_n 0, 1) := dk_42 (dk_at dksX3_without_0 0 rfl rfl)
theorem dX3_without_1 : decode cX3_without 1 = .ok (.getfield 14, 3) := dk_180 0 14 (dk_at dksX3_without_0 1 rfl rfl)
theorem dX3_without_4 : decode cX3_without 4 = .ok (.aload_n 0, 1) := dk_42 (dk_at dksX3_without_0 4 rfl rfl)
theorem dX3_without_5 : decode cX3_without 5 = .ok (.getfield 18, 3) := dk_180 0 18 (dk_at dksX3_without_0 5 rfl rfl)
theorem dX3_without_8 : decode cX3_without 8 = .ok (.aload_n 0, 1) := dk_42 (dk_at dksX3_without_0 8 rfl rfl)
theorem dX3_without_9 : decode cX3_without 9 = .ok (.iload_n 1, 1) := dk_27 (dk_at dksX3_without_0 9 rfl rfl)
theorem dX3_without_10 : decode cX3_without 10 = .ok (.iload_n 2, 1) := dk_28 (dk_at dksX3_without_0 10 rfl rfl)
theorem dX3_without_11 : decode cX3_without 11 = .ok (.invokedynamic 88, 5) := by decide +kernel
theorem dX3_without_16 : decode cX3_without 16 = .ok (.aload_n 0, 1) := dk_42 (dk_at dksX3_without_0 16 rfl rfl)
theorem dX3_without_17 : decode cX3_without 17 = .ok (.invokedynamic 89, 5) := by decide +kernel
theorem dX3_without_22 : decode cX3_without 22 = .ok (.invokestatic 84, 3) := dk_184 0 84 (dk_at dksX3_without_1 0 rfl rfl)
theorem dX3_without_25 : decode cX3_without 25 = .ok (.areturn, 1) := dk_176 (dk_at dksX3_without_1 3 rfl rfl)
abbrev cX3_lambda_without_2 : ByteArray := prog_4_method_47_code
def yX3_lambda_without_2 : MethodName := ⟨RX3, "lambda$without$2", "(IIII)Z"⟩
def dkwX3_lambda_without_2_1 : List UInt8 := [167, 0, 4, 3, 172]
abbrev dktX3_lambda_without_2_1 : List UInt8 := dkwX3_lambda_without_2_1 ++ []
def dkwX3_lambda_without_2_0 : List UInt8 := [29, 27, 160, 0, 9, 21, 4, 28, 159, 0, 17, 42, 29, 21, 4, 182, 0, 118, 153, 0, 7, 4]
abbrev dktX3_lambda_without_2_0 : List UInt8 := dkwX3_lambda_without_2_0 ++ dktX3_lambda_without_2_1
theorem dksX3_lambda_without_2_0 : cX3_lambda_without_2.data.toList.drop 0 = dktX3_lambda_without_2_0 := by decide +kernel
theorem dksX3_lambda_without_2_1 : cX3_lambda_without_2.data.toList.drop 22 = dktX3_lambda_without_2_1 := dk_seg dksX3_lambda_without_2_0 22 rfl rfl
theorem dX3_lambda_without_2_0 : decode cX3_lambda_without_2 0 = .ok (.iload_n 3, 1) := dk_29 (dk_at dksX3_lambda_without_2_0 0 rfl rfl)
theorem dX3_lambda_without_2_1 : decode cX3_lambda_without_2 1 = .ok (.iload_n 1, 1) := dk_27 (dk_at dksX3_lambda_without_2_0 1 rfl rfl)
theorem dX3_lambda_without_2_2 : decode cX3_lambda_without_2 2 = .ok (.if_icmp .ne 9, 3) := dk_160 0 9 (dk_at dksX3_lambda_without_2_0 2 rfl rfl)
theorem dX3_lambda_without_2_5 : decode cX3_lambda_without_2 5 = .ok (.iload 4, 2) := dk_21 4 (dk_at dksX3_lambda_without_2_0 5 rfl rfl)
theorem dX3_lambda_without_2_7 : decode cX3_lambda_without_2 7 = .ok (.iload_n 2, 1) := dk_28 (dk_at dksX3_lambda_without_2_0 7 rfl rfl)
theorem dX3_lambda_without_2_8 : decode cX3_lambda_without_2 8 = .ok (.if_icmp .eq 17, 3) := dk_159 0 17 (dk_at dksX3_lambda_without_2_0 8 rfl rfl)
theorem dX3_lambda_without_2_11 : decode cX3_lambda_without_2 11 = .ok (.aload_n 0, 1) := dk_42 (dk_at dksX3_lambda_without_2_0 11 rfl rfl)
theorem dX3_lambda_without_2_12 : decode cX3_lambda_without_2 12 = .ok (.iload_n 3, 1) := dk_29 (dk_at dksX3_lambda_without_2_0 12 rfl rfl)
theorem dX3_lambda_without_2_13 : decode cX3_lambda_without_2 13 = .ok (.iload 4, 2) := dk_21 4 (dk_at dksX3_lambda_without_2_0 13 rfl rfl)
theorem dX3_lambda_without_2_15 : decode cX3_lambda_without_2 15 = .ok (.invokevirtual 118, 3) := dk_182 0 118 (dk_at dksX3_lambda_without_2_0 15 rfl rfl)
theorem dX3_lambda_without_2_18 : decode cX3_lambda_without_2 18 = .ok (.ifCond .eq 7, 3) := dk_153 0 7 (dk_at dksX3_lambda_without_2_0 18 rfl rfl)
theorem dX3_lambda_without_2_21 : decode cX3_lambda_without_2 21 = .ok (.iconst 1, 1) := dk_4 (dk_at dksX3_lambda_without_2_0 21 rfl rfl)
theorem dX3_lambda_without_2_22 : decode cX3_lambda_without_2 22 = .ok (.goto 4, 3) := dk_167 0 4 (dk_at dksX3_lambda_without_2_1 0 rfl rfl)
theorem dX3_lambda_without_2_25 : decode cX3_lambda_without_2 25 = .ok (.iconst 0, 1) := dk_3 (dk_at dksX3_lambda_without_2_1 3 rfl rfl)
theorem dX3_lambda_without_2_26 : decode cX3_lambda_without_2 26 = .ok (.ireturn, 1) := dk_172 (dk_at dksX3_lambda_without_2_1 4 rfl rfl)
abbrev cX3_lambda_without_3 : ByteArray := prog_4_method_46_code
def yX3_lambda_without_3 : MethodName := ⟨RX3, "lambda$without$3", "(II)J"⟩
def dkwX3_lambda_without_3_0 : List UInt8 := [42, 27, 28, 182, 0, 76, 133, 173]
abbrev dktX3_lambda_without_3_0 : List UInt8 := dkwX3_lambda_without_3_0 ++ []
theorem dksX3_lambda_without_3_0 : cX3_lambda_without_3.data.toList.drop 0 = dktX3_lambda_without_3_0 := by decide +kernel
theorem dX3_lambda_without_3_0 : decode cX3_lambda_without_3 0 = .ok (.aload_n 0, 1) := dk_42 (dk_at dksX3_lambda_without_3_0 0 rfl rfl)
theorem dX3_lambda_without_3_1 : decode cX3_lambda_without_3 1 = .ok (.iload_n 1, 1) := dk_27 (dk_at dksX3_lambda_without_3_0 1 rfl rfl)
theorem dX3_lambda_without_3_2 : decode cX3_lambda_without_3 2 = .ok (.iload_n 2, 1) := dk_28 (dk_at dksX3_lambda_without_3_0 2 rfl rfl)
theorem dX3_lambda_without_3_3 : decode cX3_lambda_without_3 3 = .ok (.invokevirtual 76, 3) := dk_182 0 76 (dk_at dksX3_lambda_without_3_0 3 rfl rfl)
theorem dX3_lambda_without_3_6 : decode cX3_lambda_without_3 6 = .ok (.i2l, 1) := dk_133 (dk_at dksX3_lambda_without_3_0 6 rfl rfl)
theorem dX3_lambda_without_3_7 : decode cX3_lambda_without_3 7 = .ok (.lreturn, 1) := dk_173 (dk_at dksX3_lambda_without_3_0 7 rfl rfl)
abbrev cX3_withSwapped : ByteArray := prog_4_method_18_code
def yX3_withSwapped : MethodName := ⟨RX3, "withSwapped", "(II)LCsrCalculator$Csr;"⟩
def dkwX3_withSwapped_1 : List UInt8 := [184, 0, 84, 176]
abbrev dktX3_withSwapped_1 : List UInt8 := dkwX3_withSwapped_1 ++ []
def dkwX3_withSwapped_0 : List UInt8 := [42, 180, 0, 14, 42, 180, 0, 18, 42, 27, 28, 186, 0, 96, 0, 0, 42, 27, 28, 186, 0, 97, 0, 0]
abbrev dktX3_withSwapped_0 : List UInt8 := dkwX3_withSwapped_0 ++ dktX3_withSwapped_1
theorem dksX3_withSwapped_0 : cX3_withSwapped.data.toList.drop 0 = dktX3_withSwapped_0 := by decide +kernel
theorem dksX3_withSwapped_1 : cX3_withSwapped.data.toList.drop 24 = dktX3_withSwapped_1 := dk_seg dksX3_withSwapped_0 24 rfl rfl
theorem dX3_withSwapped_0 : decode cX3_withSwapped 0 = .ok (.aload_n 0, 1) := dk_42 (dk_at dksX3_withSwapped_0 0 rfl rfl)
theorem dX3_withSwapped_1 : decode cX3_withSwapped 1 = .ok (.getfield 14, 3) := dk_180 0 14 (dk_at dksX3_withSwapped_0 1 rfl rfl)
theorem dX3_withSwapped_4 : decode cX3_withSwapped 4 = .ok (.aload_n 0, 1) := dk_42 (dk_at dksX3_withSwapped_0 4 rfl rfl)
theorem dX3_withSwapped_5 : decode cX3_withSwapped 5 = .ok (.getfield 18, 3) := dk_180 0 18 (dk_at dksX3_withSwapped_0 5 rfl rfl)
theorem dX3_withSwapped_8 : decode cX3_withSwapped 8 = .ok (.aload_n 0, 1) := dk_42 (dk_at dksX3_withSwapped_0 8 rfl rfl)
theorem dX3_withSwapped_9 : decode cX3_withSwapped 9 = .ok (.iload_n 1, 1) := dk_27 (dk_at dksX3_withSwapped_0 9 rfl rfl)
theorem dX3_withSwapped_10 : decode cX3_withSwapped 10 = .ok (.iload_n 2, 1) := dk_28 (dk_at dksX3_withSwapped_0 10 rfl rfl)
theorem dX3_withSwapped_11 : decode cX3_withSwapped 11 = .ok (.invokedynamic 96, 5) := by decide +kernel
theorem dX3_withSwapped_16 : decode cX3_withSwapped 16 = .ok (.aload_n 0, 1) := dk_42 (dk_at dksX3_withSwapped_0 16 rfl rfl)
theorem dX3_withSwapped_17 : decode cX3_withSwapped 17 = .ok (.iload_n 1, 1) := dk_27 (dk_at dksX3_withSwapped_0 17 rfl rfl)
theorem dX3_withSwapped_18 : decode cX3_withSwapped 18 = .ok (.iload_n 2, 1) := dk_28 (dk_at dksX3_withSwapped_0 18 rfl rfl)
theorem dX3_withSwapped_19 : decode cX3_withSwapped 19 = .ok (.invokedynamic 97, 5) := by decide +kernel
theorem dX3_withSwapped_24 : decode cX3_withSwapped 24 = .ok (.invokestatic 84, 3) := dk_184 0 84 (dk_at dksX3_withSwapped_1 0 rfl rfl)
theorem dX3_withSwapped_27 : decode cX3_withSwapped 27 = .ok (.areturn, 1) := dk_176 (dk_at dksX3_withSwapped_1 3 rfl rfl)
abbrev cX3_lambda_withSwapped_6 : ByteArray := prog_4_method_43_code
def yX3_lambda_withSwapped_6 : MethodName := ⟨RX3, "lambda$withSwapped$6", "(IIII)Z"⟩
def dkwX3_lambda_withSwapped_6_0 : List UInt8 := [42, 29, 27, 28, 184, 0, 152, 21, 4, 182, 0, 118, 172]
abbrev dktX3_lambda_withSwapped_6_0 : List UInt8 := dkwX3_lambda_withSwapped_6_0 ++ []
theorem dksX3_lambda_withSwapped_6_0 : cX3_lambda_withSwapped_6.data.toList.drop 0 = dktX3_lambda_withSwapped_6_0 := by decide +kernel
theorem dX3_lambda_withSwapped_6_0 : decode cX3_lambda_withSwapped_6 0 = .ok (.aload_n 0, 1) := dk_42 (dk_at dksX3_lambda_withSwapped_6_0 0 rfl rfl)
theorem dX3_lambda_withSwapped_6_1 : decode cX3_lambda_withSwapped_6 1 = .ok (.iload_n 3, 1) := dk_29 (dk_at dksX3_lambda_withSwapped_6_0 1 rfl rfl)
theorem dX3_lambda_withSwapped_6_2 : decode cX3_lambda_withSwapped_6 2 = .ok (.iload_n 1, 1) := dk_27 (dk_at dksX3_lambda_withSwapped_6_0 2 rfl rfl)
theorem dX3_lambda_withSwapped_6_3 : decode cX3_lambda_withSwapped_6 3 = .ok (.iload_n 2, 1) := dk_28 (dk_at dksX3_lambda_withSwapped_6_0 3 rfl rfl)
theorem dX3_lambda_withSwapped_6_4 : decode cX3_lambda_withSwapped_6 4 = .ok (.invokestatic 152, 3) := dk_184 0 152 (dk_at dksX3_lambda_withSwapped_6_0 4 rfl rfl)
theorem dX3_lambda_withSwapped_6_7 : decode cX3_lambda_withSwapped_6 7 = .ok (.iload 4, 2) := dk_21 4 (dk_at dksX3_lambda_withSwapped_6_0 7 rfl rfl)
theorem dX3_lambda_withSwapped_6_9 : decode cX3_lambda_withSwapped_6 9 = .ok (.invokevirtual 118, 3) := dk_182 0 118 (dk_at dksX3_lambda_withSwapped_6_0 9 rfl rfl)
theorem dX3_lambda_withSwapped_6_12 : decode cX3_lambda_withSwapped_6 12 = .ok (.ireturn, 1) := dk_172 (dk_at dksX3_lambda_withSwapped_6_0 12 rfl rfl)
abbrev cX3_swapped : ByteArray := prog_4_method_19_code
def yX3_swapped : MethodName := ⟨RX3, "swapped", "(III)I"⟩
def dkwX3_swapped_0 : List UInt8 := [26, 27, 160, 0, 7, 28, 167, 0, 13, 26, 28, 160, 0, 7, 27, 167, 0, 4, 26, 172]
abbrev dktX3_swapped_0 : List UInt8 := dkwX3_swapped_0 ++ []
theorem dksX3_swapped_0 : cX3_swapped.data.toList.drop 0 = dktX3_swapped_0 := by decide +kernel
theorem dX3_swapped_0 : decode cX3_swapped 0 = .ok (.iload_n 0, 1) := dk_26 (dk_at dksX3_swapped_0 0 rfl rfl)
theorem dX3_swapped_1 : decode cX3_swapped 1 = .ok (.iload_n 1, 1) := dk_27 (dk_at dksX3_swapped_0 1 rfl rfl)
theorem dX3_swapped_2 : decode cX3_swapped 2 = .ok (.if_icmp .ne 7, 3) := dk_160 0 7 (dk_at dksX3_swapped_0 2 rfl rfl)
theorem dX3_swapped_5 : decode cX3_swapped 5 = .ok (.iload_n 2, 1) := dk_28 (dk_at dksX3_swapped_0 5 rfl rfl)
theorem dX3_swapped_6 : decode cX3_swapped 6 = .ok (.goto 13, 3) := dk_167 0 13 (dk_at dksX3_swapped_0 6 rfl rfl)
theorem dX3_swapped_9 : decode cX3_swapped 9 = .ok (.iload_n 0, 1) := dk_26 (dk_at dksX3_swapped_0 9 rfl rfl)
theorem dX3_swapped_10 : decode cX3_swapped 10 = .ok (.iload_n 2, 1) := dk_28 (dk_at dksX3_swapped_0 10 rfl rfl)
theorem dX3_swapped_11 : decode cX3_swapped 11 = .ok (.if_icmp .ne 7, 3) := dk_160 0 7 (dk_at dksX3_swapped_0 11 rfl rfl)
theorem dX3_swapped_14 : decode cX3_swapped 14 = .ok (.iload_n 1, 1) := dk_27 (dk_at dksX3_swapped_0 14 rfl rfl)
theorem dX3_swapped_15 : decode cX3_swapped 15 = .ok (.goto 4, 3) := dk_167 0 4 (dk_at dksX3_swapped_0 15 rfl rfl)
theorem dX3_swapped_18 : decode cX3_swapped 18 = .ok (.iload_n 0, 1) := dk_26 (dk_at dksX3_swapped_0 18 rfl rfl)
theorem dX3_swapped_19 : decode cX3_swapped 19 = .ok (.ireturn, 1) := dk_172 (dk_at dksX3_swapped_0 19 rfl rfl)
abbrev cX3_lambda_withSwapped_7 : ByteArray := prog_4_method_42_code
def yX3_lambda_withSwapped_7 : MethodName := ⟨RX3, "lambda$withSwapped$7", "(IIII)J"⟩
def dkwX3_lambda_withSwapped_7_0 : List UInt8 := [42, 29, 27, 28, 184, 0, 152, 21, 4, 182, 0, 76, 133, 173]
abbrev dktX3_lambda_withSwapped_7_0 : List UInt8 := dkwX3_lambda_withSwapped_7_0 ++ []
theorem dksX3_lambda_withSwapped_7_0 : cX3_lambda_withSwapped_7.data.toList.drop 0 = dktX3_lambda_withSwapped_7_0 := by decide +kernel
theorem dX3_lambda_withSwapped_7_0 : decode cX3_lambda_withSwapped_7 0 = .ok (.aload_n 0, 1) := dk_42 (dk_at dksX3_lambda_withSwapped_7_0 0 rfl rfl)
theorem dX3_lambda_withSwapped_7_1 : decode cX3_lambda_withSwapped_7 1 = .ok (.iload_n 3, 1) := dk_29 (dk_at dksX3_lambda_withSwapped_7_0 1 rfl rfl)
theorem dX3_lambda_withSwapped_7_2 : decode cX3_lambda_withSwapped_7 2 = .ok (.iload_n 1, 1) := dk_27 (dk_at dksX3_lambda_withSwapped_7_0 2 rfl rfl)
theorem dX3_lambda_withSwapped_7_3 : decode cX3_lambda_withSwapped_7 3 = .ok (.iload_n 2, 1) := dk_28 (dk_at dksX3_lambda_withSwapped_7_0 3 rfl rfl)
theorem dX3_lambda_withSwapped_7_4 : decode cX3_lambda_withSwapped_7 4 = .ok (.invokestatic 152, 3) := dk_184 0 152 (dk_at dksX3_lambda_withSwapped_7_0 4 rfl rfl)
theorem dX3_lambda_withSwapped_7_7 : decode cX3_lambda_withSwapped_7 7 = .ok (.iload 4, 2) := dk_21 4 (dk_at dksX3_lambda_withSwapped_7_0 7 rfl rfl)
theorem dX3_lambda_withSwapped_7_9 : decode cX3_lambda_withSwapped_7 9 = .ok (.invokevirtual 76, 3) := dk_182 0 76 (dk_at dksX3_lambda_withSwapped_7_0 9 rfl rfl)
theorem dX3_lambda_withSwapped_7_12 : decode cX3_lambda_withSwapped_7 12 = .ok (.i2l, 1) := dk_133 (dk_at dksX3_lambda_withSwapped_7_0 12 rfl rfl)
theorem dX3_lambda_withSwapped_7_13 : decode cX3_lambda_withSwapped_7 13 = .ok (.lreturn, 1) := dk_173 (dk_at dksX3_lambda_withSwapped_7_0 13 rfl rfl)
abbrev cX3_rowOf : ByteArray := prog_4_method_9_code
def yX3_rowOf : MethodName := ⟨RX3, "rowOf", "(I)I"⟩
def dkwX3_rowOf_0 : List UInt8 := [3, 61, 42, 180, 0, 21, 28, 4, 96, 46, 27, 163, 0, 9, 132, 2, 1, 167, 255, 241, 28, 172]
abbrev dktX3_rowOf_0 : List UInt8 := dkwX3_rowOf_0 ++ []
theorem dksX3_rowOf_0 : cX3_rowOf.data.toList.drop 0 = dktX3_rowOf_0 := by decide +kernel
theorem dX3_rowOf_0 : decode cX3_rowOf 0 = .ok (.iconst 0, 1) := dk_3 (dk_at dksX3_rowOf_0 0 rfl rfl)
theorem dX3_rowOf_1 : decode cX3_rowOf 1 = .ok (.istore_n 2, 1) := dk_61 (dk_at dksX3_rowOf_0 1 rfl rfl)
theorem dX3_rowOf_2 : decode cX3_rowOf 2 = .ok (.aload_n 0, 1) := dk_42 (dk_at dksX3_rowOf_0 2 rfl rfl)
theorem dX3_rowOf_3 : decode cX3_rowOf 3 = .ok (.getfield 21, 3) := dk_180 0 21 (dk_at dksX3_rowOf_0 3 rfl rfl)
theorem dX3_rowOf_6 : decode cX3_rowOf 6 = .ok (.iload_n 2, 1) := dk_28 (dk_at dksX3_rowOf_0 6 rfl rfl)
theorem dX3_rowOf_7 : decode cX3_rowOf 7 = .ok (.iconst 1, 1) := dk_4 (dk_at dksX3_rowOf_0 7 rfl rfl)
theorem dX3_rowOf_8 : decode cX3_rowOf 8 = .ok (.iadd, 1) := dk_96 (dk_at dksX3_rowOf_0 8 rfl rfl)
theorem dX3_rowOf_9 : decode cX3_rowOf 9 = .ok (.iaload, 1) := dk_46 (dk_at dksX3_rowOf_0 9 rfl rfl)
theorem dX3_rowOf_10 : decode cX3_rowOf 10 = .ok (.iload_n 1, 1) := dk_27 (dk_at dksX3_rowOf_0 10 rfl rfl)
theorem dX3_rowOf_11 : decode cX3_rowOf 11 = .ok (.if_icmp .gt 9, 3) := dk_163 0 9 (dk_at dksX3_rowOf_0 11 rfl rfl)
theorem dX3_rowOf_14 : decode cX3_rowOf 14 = .ok (.iinc 2 1, 3) := dk_132 2 1 (dk_at dksX3_rowOf_0 14 rfl rfl)
theorem dX3_rowOf_17 : decode cX3_rowOf 17 = .ok (.goto (-15), 3) := dk_167 255 241 (dk_at dksX3_rowOf_0 17 rfl rfl)
theorem dX3_rowOf_20 : decode cX3_rowOf 20 = .ok (.iload_n 2, 1) := dk_28 (dk_at dksX3_rowOf_0 20 rfl rfl)
theorem dX3_rowOf_21 : decode cX3_rowOf 21 = .ok (.ireturn, 1) := dk_172 (dk_at dksX3_rowOf_0 21 rfl rfl)
abbrev cX3_zeros : ByteArray := prog_4_method_29_code
def yX3_zeros : MethodName := ⟨RX3, "zeros", "()I"⟩
def dkwX3_zeros_1 : List UInt8 := [54, 5, 21, 5, 154, 0, 6, 132, 1, 1, 132, 4, 1, 167, 255, 233, 27, 172]
abbrev dktX3_zeros_1 : List UInt8 := dkwX3_zeros_1 ++ []
def dkwX3_zeros_0 : List UInt8 := [3, 60, 42, 180, 0, 28, 77, 44, 190, 62, 3, 54, 4, 21, 4, 29, 162, 0, 23, 44, 21, 4, 46]
abbrev dktX3_zeros_0 : List UInt8 := dkwX3_zeros_0 ++ dktX3_zeros_1
theorem dksX3_zeros_0 : cX3_zeros.data.toList.drop 0 = dktX3_zeros_0 := by decide +kernel
theorem dksX3_zeros_1 : cX3_zeros.data.toList.drop 23 = dktX3_zeros_1 := dk_seg dksX3_zeros_0 23 rfl rfl
theorem dX3_zeros_0 : decode cX3_zeros 0 = .ok (.iconst 0, 1) := dk_3 (dk_at dksX3_zeros_0 0 rfl rfl)
theorem dX3_zeros_1 : decode cX3_zeros 1 = .ok (.istore_n 1, 1) := dk_60 (dk_at dksX3_zeros_0 1 rfl rfl)
theorem dX3_zeros_2 : decode cX3_zeros 2 = .ok (.aload_n 0, 1) := dk_42 (dk_at dksX3_zeros_0 2 rfl rfl)
theorem dX3_zeros_3 : decode cX3_zeros 3 = .ok (.getfield 28, 3) := dk_180 0 28 (dk_at dksX3_zeros_0 3 rfl rfl)
theorem dX3_zeros_6 : decode cX3_zeros 6 = .ok (.astore_n 2, 1) := dk_77 (dk_at dksX3_zeros_0 6 rfl rfl)
theorem dX3_zeros_7 : decode cX3_zeros 7 = .ok (.aload_n 2, 1) := dk_44 (dk_at dksX3_zeros_0 7 rfl rfl)
theorem dX3_zeros_8 : decode cX3_zeros 8 = .ok (.arraylength, 1) := dk_190 (dk_at dksX3_zeros_0 8 rfl rfl)
theorem dX3_zeros_9 : decode cX3_zeros 9 = .ok (.istore_n 3, 1) := dk_62 (dk_at dksX3_zeros_0 9 rfl rfl)
theorem dX3_zeros_10 : decode cX3_zeros 10 = .ok (.iconst 0, 1) := dk_3 (dk_at dksX3_zeros_0 10 rfl rfl)
theorem dX3_zeros_11 : decode cX3_zeros 11 = .ok (.istore 4, 2) := dk_54 4 (dk_at dksX3_zeros_0 11 rfl rfl)
theorem dX3_zeros_13 : decode cX3_zeros 13 = .ok (.iload 4, 2) := dk_21 4 (dk_at dksX3_zeros_0 13 rfl rfl)
theorem dX3_zeros_15 : decode cX3_zeros 15 = .ok (.iload_n 3, 1) := dk_29 (dk_at dksX3_zeros_0 15 rfl rfl)
theorem dX3_zeros_16 : decode cX3_zeros 16 = .ok (.if_icmp .ge 23, 3) := dk_162 0 23 (dk_at dksX3_zeros_0 16 rfl rfl)
theorem dX3_zeros_19 : decode cX3_zeros 19 = .ok (.aload_n 2, 1) := dk_44 (dk_at dksX3_zeros_0 19 rfl rfl)
theorem dX3_zeros_20 : decode cX3_zeros 20 = .ok (.iload 4, 2) := dk_21 4 (dk_at dksX3_zeros_0 20 rfl rfl)
theorem dX3_zeros_22 : decode cX3_zeros 22 = .ok (.iaload, 1) := dk_46 (dk_at dksX3_zeros_0 22 rfl rfl)
theorem dX3_zeros_23 : decode cX3_zeros 23 = .ok (.istore 5, 2) := dk_54 5 (dk_at dksX3_zeros_1 0 rfl rfl)
theorem dX3_zeros_25 : decode cX3_zeros 25 = .ok (.iload 5, 2) := dk_21 5 (dk_at dksX3_zeros_1 2 rfl rfl)
theorem dX3_zeros_27 : decode cX3_zeros 27 = .ok (.ifCond .ne 6, 3) := dk_154 0 6 (dk_at dksX3_zeros_1 4 rfl rfl)
theorem dX3_zeros_30 : decode cX3_zeros 30 = .ok (.iinc 1 1, 3) := dk_132 1 1 (dk_at dksX3_zeros_1 7 rfl rfl)
theorem dX3_zeros_33 : decode cX3_zeros 33 = .ok (.iinc 4 1, 3) := dk_132 4 1 (dk_at dksX3_zeros_1 10 rfl rfl)
theorem dX3_zeros_36 : decode cX3_zeros 36 = .ok (.goto (-23), 3) := dk_167 255 233 (dk_at dksX3_zeros_1 13 rfl rfl)
theorem dX3_zeros_39 : decode cX3_zeros 39 = .ok (.iload_n 1, 1) := dk_27 (dk_at dksX3_zeros_1 16 rfl rfl)
theorem dX3_zeros_40 : decode cX3_zeros 40 = .ok (.ireturn, 1) := dk_172 (dk_at dksX3_zeros_1 17 rfl rfl)
abbrev cX3_columnLength : ByteArray := prog_4_method_11_code
def yX3_columnLength : MethodName := ⟨RX3, "columnLength", "(I)I"⟩
def dkwX3_columnLength_1 : List UInt8 := [46, 54, 6, 21, 6, 27, 160, 0, 6, 132, 2, 1, 132, 5, 1, 167, 255, 231, 28, 172]
abbrev dktX3_columnLength_1 : List UInt8 := dkwX3_columnLength_1 ++ []
def dkwX3_columnLength_0 : List UInt8 := [3, 61, 42, 180, 0, 25, 78, 45, 190, 54, 4, 3, 54, 5, 21, 5, 21, 4, 162, 0, 24, 45, 21, 5]
abbrev dktX3_columnLength_0 : List UInt8 := dkwX3_columnLength_0 ++ dktX3_columnLength_1
theorem dksX3_columnLength_0 : cX3_columnLength.data.toList.drop 0 = dktX3_columnLength_0 := by decide +kernel
theorem dksX3_columnLength_1 : cX3_columnLength.data.toList.drop 24 = dktX3_columnLength_1 := dk_seg dksX3_columnLength_0 24 rfl rfl
theorem dX3_columnLength_0 : decode cX3_columnLength 0 = .ok (.iconst 0, 1) := dk_3 (dk_at dksX3_columnLength_0 0 rfl rfl)
theorem dX3_columnLength_1 : decode cX3_columnLength 1 = .ok (.istore_n 2, 1) := dk_61 (dk_at dksX3_columnLength_0 1 rfl rfl)
theorem dX3_columnLength_2 : decode cX3_columnLength 2 = .ok (.aload_n 0, 1) := dk_42 (dk_at dksX3_columnLength_0 2 rfl rfl)
theorem dX3_columnLength_3 : decode cX3_columnLength 3 = .ok (.getfield 25, 3) := dk_180 0 25 (dk_at dksX3_columnLength_0 3 rfl rfl)
theorem dX3_columnLength_6 : decode cX3_columnLength 6 = .ok (.astore_n 3, 1) := dk_78 (dk_at dksX3_columnLength_0 6 rfl rfl)
theorem dX3_columnLength_7 : decode cX3_columnLength 7 = .ok (.aload_n 3, 1) := dk_45 (dk_at dksX3_columnLength_0 7 rfl rfl)
theorem dX3_columnLength_8 : decode cX3_columnLength 8 = .ok (.arraylength, 1) := dk_190 (dk_at dksX3_columnLength_0 8 rfl rfl)
theorem dX3_columnLength_9 : decode cX3_columnLength 9 = .ok (.istore 4, 2) := dk_54 4 (dk_at dksX3_columnLength_0 9 rfl rfl)
theorem dX3_columnLength_11 : decode cX3_columnLength 11 = .ok (.iconst 0, 1) := dk_3 (dk_at dksX3_columnLength_0 11 rfl rfl)
theorem dX3_columnLength_12 : decode cX3_columnLength 12 = .ok (.istore 5, 2) := dk_54 5 (dk_at dksX3_columnLength_0 12 rfl rfl)
theorem dX3_columnLength_14 : decode cX3_columnLength 14 = .ok (.iload 5, 2) := dk_21 5 (dk_at dksX3_columnLength_0 14 rfl rfl)
theorem dX3_columnLength_16 : decode cX3_columnLength 16 = .ok (.iload 4, 2) := dk_21 4 (dk_at dksX3_columnLength_0 16 rfl rfl)
theorem dX3_columnLength_18 : decode cX3_columnLength 18 = .ok (.if_icmp .ge 24, 3) := dk_162 0 24 (dk_at dksX3_columnLength_0 18 rfl rfl)
theorem dX3_columnLength_21 : decode cX3_columnLength 21 = .ok (.aload_n 3, 1) := dk_45 (dk_at dksX3_columnLength_0 21 rfl rfl)
theorem dX3_columnLength_22 : decode cX3_columnLength 22 = .ok (.iload 5, 2) := dk_21 5 (dk_at dksX3_columnLength_0 22 rfl rfl)
theorem dX3_columnLength_24 : decode cX3_columnLength 24 = .ok (.iaload, 1) := dk_46 (dk_at dksX3_columnLength_1 0 rfl rfl)
theorem dX3_columnLength_25 : decode cX3_columnLength 25 = .ok (.istore 6, 2) := dk_54 6 (dk_at dksX3_columnLength_1 1 rfl rfl)
theorem dX3_columnLength_27 : decode cX3_columnLength 27 = .ok (.iload 6, 2) := dk_21 6 (dk_at dksX3_columnLength_1 3 rfl rfl)
theorem dX3_columnLength_29 : decode cX3_columnLength 29 = .ok (.iload_n 1, 1) := dk_27 (dk_at dksX3_columnLength_1 5 rfl rfl)
theorem dX3_columnLength_30 : decode cX3_columnLength 30 = .ok (.if_icmp .ne 6, 3) := dk_160 0 6 (dk_at dksX3_columnLength_1 6 rfl rfl)
theorem dX3_columnLength_33 : decode cX3_columnLength 33 = .ok (.iinc 2 1, 3) := dk_132 2 1 (dk_at dksX3_columnLength_1 9 rfl rfl)
theorem dX3_columnLength_36 : decode cX3_columnLength 36 = .ok (.iinc 5 1, 3) := dk_132 5 1 (dk_at dksX3_columnLength_1 12 rfl rfl)
theorem dX3_columnLength_39 : decode cX3_columnLength 39 = .ok (.goto (-25), 3) := dk_167 255 231 (dk_at dksX3_columnLength_1 15 rfl rfl)
theorem dX3_columnLength_42 : decode cX3_columnLength 42 = .ok (.iload_n 2, 1) := dk_28 (dk_at dksX3_columnLength_1 18 rfl rfl)
theorem dX3_columnLength_43 : decode cX3_columnLength 43 = .ok (.ireturn, 1) := dk_172 (dk_at dksX3_columnLength_1 19 rfl rfl)
abbrev cX3_bandwidth : ByteArray := prog_4_method_28_code
def yX3_bandwidth : MethodName := ⟨RX3, "bandwidth", "()I"⟩
def dkwX3_bandwidth_1 : List UInt8 := [46, 100, 184, 0, 130, 184, 0, 135, 60, 132, 2, 1, 167, 255, 224, 27, 172]
abbrev dktX3_bandwidth_1 : List UInt8 := dkwX3_bandwidth_1 ++ []
def dkwX3_bandwidth_0 : List UInt8 := [2, 60, 3, 61, 28, 42, 180, 0, 25, 190, 162, 0, 29, 27, 42, 28, 182, 0, 127, 42, 180, 0, 25, 28]
abbrev dktX3_bandwidth_0 : List UInt8 := dkwX3_bandwidth_0 ++ dktX3_bandwidth_1
theorem dksX3_bandwidth_0 : cX3_bandwidth.data.toList.drop 0 = dktX3_bandwidth_0 := by decide +kernel
theorem dksX3_bandwidth_1 : cX3_bandwidth.data.toList.drop 24 = dktX3_bandwidth_1 := dk_seg dksX3_bandwidth_0 24 rfl rfl
theorem dX3_bandwidth_0 : decode cX3_bandwidth 0 = .ok (.iconst (-1), 1) := dk_2 (dk_at dksX3_bandwidth_0 0 rfl rfl)
theorem dX3_bandwidth_1 : decode cX3_bandwidth 1 = .ok (.istore_n 1, 1) := dk_60 (dk_at dksX3_bandwidth_0 1 rfl rfl)
theorem dX3_bandwidth_2 : decode cX3_bandwidth 2 = .ok (.iconst 0, 1) := dk_3 (dk_at dksX3_bandwidth_0 2 rfl rfl)
theorem dX3_bandwidth_3 : decode cX3_bandwidth 3 = .ok (.istore_n 2, 1) := dk_61 (dk_at dksX3_bandwidth_0 3 rfl rfl)
theorem dX3_bandwidth_4 : decode cX3_bandwidth 4 = .ok (.iload_n 2, 1) := dk_28 (dk_at dksX3_bandwidth_0 4 rfl rfl)
theorem dX3_bandwidth_5 : decode cX3_bandwidth 5 = .ok (.aload_n 0, 1) := dk_42 (dk_at dksX3_bandwidth_0 5 rfl rfl)
theorem dX3_bandwidth_6 : decode cX3_bandwidth 6 = .ok (.getfield 25, 3) := dk_180 0 25 (dk_at dksX3_bandwidth_0 6 rfl rfl)
theorem dX3_bandwidth_9 : decode cX3_bandwidth 9 = .ok (.arraylength, 1) := dk_190 (dk_at dksX3_bandwidth_0 9 rfl rfl)
theorem dX3_bandwidth_10 : decode cX3_bandwidth 10 = .ok (.if_icmp .ge 29, 3) := dk_162 0 29 (dk_at dksX3_bandwidth_0 10 rfl rfl)
theorem dX3_bandwidth_13 : decode cX3_bandwidth 13 = .ok (.iload_n 1, 1) := dk_27 (dk_at dksX3_bandwidth_0 13 rfl rfl)
theorem dX3_bandwidth_14 : decode cX3_bandwidth 14 = .ok (.aload_n 0, 1) := dk_42 (dk_at dksX3_bandwidth_0 14 rfl rfl)
theorem dX3_bandwidth_15 : decode cX3_bandwidth 15 = .ok (.iload_n 2, 1) := dk_28 (dk_at dksX3_bandwidth_0 15 rfl rfl)
theorem dX3_bandwidth_16 : decode cX3_bandwidth 16 = .ok (.invokevirtual 127, 3) := dk_182 0 127 (dk_at dksX3_bandwidth_0 16 rfl rfl)
theorem dX3_bandwidth_19 : decode cX3_bandwidth 19 = .ok (.aload_n 0, 1) := dk_42 (dk_at dksX3_bandwidth_0 19 rfl rfl)
theorem dX3_bandwidth_20 : decode cX3_bandwidth 20 = .ok (.getfield 25, 3) := dk_180 0 25 (dk_at dksX3_bandwidth_0 20 rfl rfl)
theorem dX3_bandwidth_23 : decode cX3_bandwidth 23 = .ok (.iload_n 2, 1) := dk_28 (dk_at dksX3_bandwidth_0 23 rfl rfl)
theorem dX3_bandwidth_24 : decode cX3_bandwidth 24 = .ok (.iaload, 1) := dk_46 (dk_at dksX3_bandwidth_1 0 rfl rfl)
theorem dX3_bandwidth_25 : decode cX3_bandwidth 25 = .ok (.isub, 1) := dk_100 (dk_at dksX3_bandwidth_1 1 rfl rfl)
theorem dX3_bandwidth_26 : decode cX3_bandwidth 26 = .ok (.invokestatic 130, 3) := dk_184 0 130 (dk_at dksX3_bandwidth_1 2 rfl rfl)
theorem dX3_bandwidth_29 : decode cX3_bandwidth 29 = .ok (.invokestatic 135, 3) := dk_184 0 135 (dk_at dksX3_bandwidth_1 5 rfl rfl)
theorem dX3_bandwidth_32 : decode cX3_bandwidth 32 = .ok (.istore_n 1, 1) := dk_60 (dk_at dksX3_bandwidth_1 8 rfl rfl)
theorem dX3_bandwidth_33 : decode cX3_bandwidth 33 = .ok (.iinc 2 1, 3) := dk_132 2 1 (dk_at dksX3_bandwidth_1 9 rfl rfl)
theorem dX3_bandwidth_36 : decode cX3_bandwidth 36 = .ok (.goto (-32), 3) := dk_167 255 224 (dk_at dksX3_bandwidth_1 12 rfl rfl)
theorem dX3_bandwidth_39 : decode cX3_bandwidth 39 = .ok (.iload_n 1, 1) := dk_27 (dk_at dksX3_bandwidth_1 15 rfl rfl)
theorem dX3_bandwidth_40 : decode cX3_bandwidth 40 = .ok (.ireturn, 1) := dk_172 (dk_at dksX3_bandwidth_1 16 rfl rfl)
theorem q182 : (Jvm.Cond.initialized "CsrCalculator$Csr") ∈ lw_all := lw_g (lw_at lw_m1 3 rfl) rfl
theorem q238 : (Jvm.Cond.instantiable "CsrCalculator$Csr" (5 : Nat)) ∈ lw_all := lw_g (lw_at lw_m1 59 rfl) rfl
theorem q240 : (Jvm.Cond.instanceMethod ({ cls := "CsrCalculator$Csr", name := "<init>", desc := "(II)V" } : Jvm.MethodName)) ∈ lw_all := lw_g (lw_at lw_m1 61 rfl) rfl
theorem q241 : (Jvm.Cond.code ({ cls := "CsrCalculator$Csr", name := "<init>", desc := "(II)V" } : Jvm.MethodName) prog_4_method_1_code (3 : Nat) (Option.none : Option Jvm.ClassFile.FieldType)) ∈ lw_all := lw_g (lw_at lw_m1 62 rfl) rfl
theorem q242 : (Jvm.Cond.methodLink "CsrCalculator$Csr" (3 : Nat) ({ cls := "CsrCalculator$Csr", name := "<init>", desc := "(II[I[I[I)V" } : Jvm.MethodName)) ∈ lw_all := lw_g (lw_at lw_m1 63 rfl) rfl
theorem q243 : (Jvm.Cond.instanceMethod ({ cls := "CsrCalculator$Csr", name := "<init>", desc := "(II[I[I[I)V" } : Jvm.MethodName)) ∈ lw_all := lw_g (lw_at lw_m1 64 rfl) rfl
theorem q244 : (Jvm.Cond.code ({ cls := "CsrCalculator$Csr", name := "<init>", desc := "(II[I[I[I)V" } : Jvm.MethodName) prog_4_method_2_code (6 : Nat) (Option.none : Option Jvm.ClassFile.FieldType)) ∈ lw_all := lw_g (lw_at lw_m1 65 rfl) rfl
theorem q245 : (Jvm.Cond.methodLink "CsrCalculator$Csr" (9 : Nat) ({ cls := "java/lang/Object", name := "<init>", desc := "()V" } : Jvm.MethodName)) ∈ lw_all := lw_g (lw_at lw_m1 66 rfl) rfl
theorem q246 : (Jvm.Cond.fieldLink "CsrCalculator$Csr" (14 : Nat) "CsrCalculator$Csr" "rows" "I") ∈ lw_all := lw_g (lw_at lw_m1 67 rfl) rfl
theorem q249 : (Jvm.Cond.fieldLink "CsrCalculator$Csr" (18 : Nat) "CsrCalculator$Csr" "columns" "I") ∈ lw_all := lw_g (lw_at lw_m1 70 rfl) rfl
theorem q252 : (Jvm.Cond.fieldLink "CsrCalculator$Csr" (21 : Nat) "CsrCalculator$Csr" "pointers" "[I") ∈ lw_all := lw_g (lw_at lw_m1 73 rfl) rfl
theorem q254 : (Jvm.Cond.fieldLink "CsrCalculator$Csr" (25 : Nat) "CsrCalculator$Csr" "indexes" "[I") ∈ lw_all := lw_g (lw_at lw_m1 75 rfl) rfl
theorem q256 : (Jvm.Cond.fieldLink "CsrCalculator$Csr" (28 : Nat) "CsrCalculator$Csr" "values" "[I") ∈ lw_all := lw_g (lw_at lw_m1 77 rfl) rfl
theorem q258 : (Jvm.Cond.laysFinal "CsrCalculator$Csr" "CsrCalculator$Csr" "rows" "I") ∈ lw_all := lw_g (lw_at lw_m1 79 rfl) rfl
theorem q259 : (Jvm.Cond.soleField "CsrCalculator$Csr" "rows") ∈ lw_all := lw_g (lw_at lw_m1 80 rfl) rfl
theorem q260 : (Jvm.Cond.laysFinal "CsrCalculator$Csr" "CsrCalculator$Csr" "columns" "I") ∈ lw_all := lw_g (lw_at lw_m1 81 rfl) rfl
theorem q261 : (Jvm.Cond.soleField "CsrCalculator$Csr" "columns") ∈ lw_all := lw_g (lw_at lw_m1 82 rfl) rfl
theorem q262 : (Jvm.Cond.laysFinal "CsrCalculator$Csr" "CsrCalculator$Csr" "pointers" "[I") ∈ lw_all := lw_g (lw_at lw_m1 83 rfl) rfl
theorem q263 : (Jvm.Cond.soleField "CsrCalculator$Csr" "pointers") ∈ lw_all := lw_g (lw_at lw_m1 84 rfl) rfl
theorem q264 : (Jvm.Cond.laysFinal "CsrCalculator$Csr" "CsrCalculator$Csr" "indexes" "[I") ∈ lw_all := lw_g (lw_at lw_m1 85 rfl) rfl
theorem q265 : (Jvm.Cond.soleField "CsrCalculator$Csr" "indexes") ∈ lw_all := lw_g (lw_at lw_m1 86 rfl) rfl
theorem q266 : (Jvm.Cond.laysFinal "CsrCalculator$Csr" "CsrCalculator$Csr" "values" "[I") ∈ lw_all := lw_g (lw_at lw_m1 87 rfl) rfl
theorem q267 : (Jvm.Cond.soleField "CsrCalculator$Csr" "values") ∈ lw_all := lw_g (lw_at lw_m1 88 rfl) rfl
theorem q268 : (Jvm.Cond.superclass "CsrCalculator$Csr" "java/lang/Object") ∈ lw_all := lw_g (lw_at lw_m1 89 rfl) rfl
theorem q382 : (Jvm.Cond.instanceMethod ({ cls := "CsrCalculator$Csr", name := "wrongOrder", desc := "()I" } : Jvm.MethodName)) ∈ lw_all := lw_g (lw_at lw_m1 203 rfl) rfl
theorem q383 : (Jvm.Cond.selects "CsrCalculator$Csr" ({ cls := "CsrCalculator$Csr", name := "wrongOrder", desc := "()I" } : Jvm.MethodName) ({ cls := "CsrCalculator$Csr", name := "wrongOrder", desc := "()I" } : Jvm.MethodName)) ∈ lw_all := lw_g (lw_at lw_m1 204 rfl) rfl
theorem q384 : (Jvm.Cond.code ({ cls := "CsrCalculator$Csr", name := "wrongOrder", desc := "()I" } : Jvm.MethodName) prog_4_method_30_code (4 : Nat) (Option.some Jvm.ClassFile.FieldType.int)) ∈ lw_all := lw_g (lw_at lw_m1 205 rfl) rfl
theorem q391 : (Jvm.Cond.instanceMethod ({ cls := "CsrCalculator$Csr", name := "transposed", desc := "()LCsrCalculator$Csr;" } : Jvm.MethodName)) ∈ lw_all := lw_g (lw_at lw_m1 212 rfl) rfl
theorem q392 : (Jvm.Cond.selects "CsrCalculator$Csr" ({ cls := "CsrCalculator$Csr", name := "transposed", desc := "()LCsrCalculator$Csr;" } : Jvm.MethodName) ({ cls := "CsrCalculator$Csr", name := "transposed", desc := "()LCsrCalculator$Csr;" } : Jvm.MethodName)) ∈ lw_all := lw_g (lw_at lw_m1 213 rfl) rfl
theorem q393 : (Jvm.Cond.code ({ cls := "CsrCalculator$Csr", name := "transposed", desc := "()LCsrCalculator$Csr;" } : Jvm.MethodName) prog_4_method_20_code (1 : Nat) (Option.some (Jvm.ClassFile.FieldType.object "CsrCalculator$Csr"))) ∈ lw_all := lw_g (lw_at lw_m1 214 rfl) rfl
theorem q394 : (Jvm.Cond.privateMethod ({ cls := "CsrCalculator$Csr", name := "lambda$transposed$8", desc := "(II)Z" } : Jvm.MethodName)) ∈ lw_tbl := lw_at lw_m1 215 rfl
theorem q395 : (Jvm.Cond.instanceMethod ({ cls := "CsrCalculator$Csr", name := "lambda$transposed$8", desc := "(II)Z" } : Jvm.MethodName)) ∈ lw_all := lw_g (lw_at lw_m1 216 rfl) rfl
theorem q396 : (Jvm.Cond.code ({ cls := "CsrCalculator$Csr", name := "lambda$transposed$8", desc := "(II)Z" } : Jvm.MethodName) prog_4_method_41_code (3 : Nat) (Option.some Jvm.ClassFile.FieldType.boolean)) ∈ lw_all := lw_g (lw_at lw_m1 217 rfl) rfl
theorem q397 : (Jvm.Cond.methodLink "CsrCalculator$Csr" (118 : Nat) ({ cls := "CsrCalculator$Csr", name := "stores", desc := "(II)Z" } : Jvm.MethodName)) ∈ lw_all := lw_g (lw_at lw_m1 218 rfl) rfl
theorem q398 : (Jvm.Cond.instanceMethod ({ cls := "CsrCalculator$Csr", name := "stores", desc := "(II)Z" } : Jvm.MethodName)) ∈ lw_all := lw_g (lw_at lw_m1 219 rfl) rfl
theorem q399 : (Jvm.Cond.selects "CsrCalculator$Csr" ({ cls := "CsrCalculator$Csr", name := "stores", desc := "(II)Z" } : Jvm.MethodName) ({ cls := "CsrCalculator$Csr", name := "stores", desc := "(II)Z" } : Jvm.MethodName)) ∈ lw_all := lw_g (lw_at lw_m1 220 rfl) rfl
theorem q400 : (Jvm.Cond.code ({ cls := "CsrCalculator$Csr", name := "stores", desc := "(II)Z" } : Jvm.MethodName) prog_4_method_7_code (3 : Nat) (Option.some Jvm.ClassFile.FieldType.boolean)) ∈ lw_all := lw_g (lw_at lw_m1 221 rfl) rfl
theorem q401 : (Jvm.Cond.methodLink "CsrCalculator$Csr" (64 : Nat) ({ cls := "CsrCalculator$Csr", name := "find", desc := "(II)I" } : Jvm.MethodName)) ∈ lw_all := lw_g (lw_at lw_m1 222 rfl) rfl
theorem q402 : (Jvm.Cond.instanceMethod ({ cls := "CsrCalculator$Csr", name := "find", desc := "(II)I" } : Jvm.MethodName)) ∈ lw_all := lw_g (lw_at lw_m1 223 rfl) rfl
theorem q403 : (Jvm.Cond.selects "CsrCalculator$Csr" ({ cls := "CsrCalculator$Csr", name := "find", desc := "(II)I" } : Jvm.MethodName) ({ cls := "CsrCalculator$Csr", name := "find", desc := "(II)I" } : Jvm.MethodName)) ∈ lw_all := lw_g (lw_at lw_m1 224 rfl) rfl
theorem q404 : (Jvm.Cond.code ({ cls := "CsrCalculator$Csr", name := "find", desc := "(II)I" } : Jvm.MethodName) prog_4_method_6_code (6 : Nat) (Option.some Jvm.ClassFile.FieldType.int)) ∈ lw_all := lw_g (lw_at lw_m1 225 rfl) rfl
theorem q405 : (Jvm.Cond.privateMethod ({ cls := "CsrCalculator$Csr", name := "lambda$transposed$9", desc := "(II)J" } : Jvm.MethodName)) ∈ lw_tbl := lw_at lw_m1 226 rfl
theorem q406 : (Jvm.Cond.instanceMethod ({ cls := "CsrCalculator$Csr", name := "lambda$transposed$9", desc := "(II)J" } : Jvm.MethodName)) ∈ lw_all := lw_g (lw_at lw_m1 227 rfl) rfl
theorem q407 : (Jvm.Cond.code ({ cls := "CsrCalculator$Csr", name := "lambda$transposed$9", desc := "(II)J" } : Jvm.MethodName) prog_4_method_40_code (3 : Nat) (Option.some Jvm.ClassFile.FieldType.long)) ∈ lw_all := lw_g (lw_at lw_m1 228 rfl) rfl
theorem q408 : (Jvm.Cond.methodLink "CsrCalculator$Csr" (76 : Nat) ({ cls := "CsrCalculator$Csr", name := "value", desc := "(II)I" } : Jvm.MethodName)) ∈ lw_all := lw_g (lw_at lw_m1 229 rfl) rfl
theorem q409 : (Jvm.Cond.instanceMethod ({ cls := "CsrCalculator$Csr", name := "value", desc := "(II)I" } : Jvm.MethodName)) ∈ lw_all := lw_g (lw_at lw_m1 230 rfl) rfl
theorem q410 : (Jvm.Cond.selects "CsrCalculator$Csr" ({ cls := "CsrCalculator$Csr", name := "value", desc := "(II)I" } : Jvm.MethodName) ({ cls := "CsrCalculator$Csr", name := "value", desc := "(II)I" } : Jvm.MethodName)) ∈ lw_all := lw_g (lw_at lw_m1 231 rfl) rfl
theorem q411 : (Jvm.Cond.code ({ cls := "CsrCalculator$Csr", name := "value", desc := "(II)I" } : Jvm.MethodName) prog_4_method_8_code (4 : Nat) (Option.some Jvm.ClassFile.FieldType.int)) ∈ lw_all := lw_g (lw_at lw_m1 232 rfl) rfl
theorem q412 : (Jvm.Cond.methodLink "CsrCalculator$Csr" (84 : Nat) ({ cls := "CsrCalculator$Csr", name := "build", desc := "(IILCsrCalculator$Mask;LCsrCalculator$Cell;)LCsrCalculator$Csr;" } : Jvm.MethodName)) ∈ lw_all := lw_g (lw_at lw_m1 233 rfl) rfl
theorem q413 : (Jvm.Cond.static ({ cls := "CsrCalculator$Csr", name := "build", desc := "(IILCsrCalculator$Mask;LCsrCalculator$Cell;)LCsrCalculator$Csr;" } : Jvm.MethodName)) ∈ lw_all := lw_g (lw_at lw_m1 234 rfl) rfl
theorem q414 : (Jvm.Cond.code ({ cls := "CsrCalculator$Csr", name := "build", desc := "(IILCsrCalculator$Mask;LCsrCalculator$Cell;)LCsrCalculator$Csr;" } : Jvm.MethodName) prog_4_method_3_code (12 : Nat) (Option.some (Jvm.ClassFile.FieldType.object "CsrCalculator$Csr"))) ∈ lw_all := lw_g (lw_at lw_m1 235 rfl) rfl
theorem q415 : (Jvm.Cond.interfaceEntry "CsrCalculator$Csr" (31 : Nat)) ∈ lw_tbl := lw_at lw_m1 236 rfl
theorem q416 : (Jvm.Cond.methodLink "CsrCalculator$Csr" (31 : Nat) ({ cls := "CsrCalculator$Mask", name := "stores", desc := "(II)Z" } : Jvm.MethodName)) ∈ lw_all := lw_g (lw_at lw_m1 237 rfl) rfl
theorem q419 : (Jvm.Cond.interfaceEntry "CsrCalculator$Csr" (37 : Nat)) ∈ lw_tbl := lw_at lw_m2 0 rfl
theorem q420 : (Jvm.Cond.methodLink "CsrCalculator$Csr" (37 : Nat) ({ cls := "CsrCalculator$Cell", name := "value", desc := "(II)J" } : Jvm.MethodName)) ∈ lw_all := lw_g (lw_at lw_m2 1 rfl) rfl
theorem q423 : (Jvm.Cond.constantLong "CsrCalculator$Csr" (43 : Nat) (-999999 : Int64)) ∈ lw_all := lw_g (lw_at lw_m2 4 rfl) rfl
theorem q424 : (Jvm.Cond.constantLong "CsrCalculator$Csr" (45 : Nat) (999999 : Int64)) ∈ lw_all := lw_g (lw_at lw_m2 5 rfl) rfl
theorem q425 : (Jvm.Cond.methodLinkNest "CsrCalculator$Csr" (47 : Nat) ({ cls := "CsrCalculator", name := "isIn", desc := "(JJJ)Z" } : Jvm.MethodName) "CsrCalculator") ∈ lw_tbl := lw_at lw_m2 6 rfl
theorem q428 : (Jvm.Cond.classLink "CsrCalculator$Csr" (51 : Nat) "CsrCalculator$Failure") ∈ lw_all := lw_g (lw_at lw_m2 9 rfl) rfl
theorem q471 : (Jvm.Cond.methodLink "CsrCalculator$Csr" (53 : Nat) ({ cls := "CsrCalculator$Failure", name := "<init>", desc := "()V" } : Jvm.MethodName)) ∈ lw_all := lw_g (lw_at lw_m2 52 rfl) rfl
theorem q493 : (Jvm.Cond.classLink "CsrCalculator$Csr" (4 : Nat) "CsrCalculator$Csr") ∈ lw_all := lw_g (lw_at lw_m2 74 rfl) rfl
theorem q494 : (Jvm.Cond.methodLink "CsrCalculator$Csr" (54 : Nat) ({ cls := "CsrCalculator$Csr", name := "cut", desc := "([II)[I" } : Jvm.MethodName)) ∈ lw_all := lw_g (lw_at lw_m2 75 rfl) rfl
theorem q495 : (Jvm.Cond.static ({ cls := "CsrCalculator$Csr", name := "cut", desc := "([II)[I" } : Jvm.MethodName)) ∈ lw_all := lw_g (lw_at lw_m2 76 rfl) rfl
theorem q496 : (Jvm.Cond.code ({ cls := "CsrCalculator$Csr", name := "cut", desc := "([II)[I" } : Jvm.MethodName) prog_4_method_4_code (3 : Nat) (Option.some (Jvm.ClassFile.FieldType.array Jvm.ClassFile.FieldType.int))) ∈ lw_all := lw_g (lw_at lw_m2 77 rfl) rfl
theorem q497 : (Jvm.Cond.methodLink "CsrCalculator$Csr" (58 : Nat) ({ cls := "java/lang/System", name := "arraycopy", desc := "(Ljava/lang/Object;ILjava/lang/Object;II)V" } : Jvm.MethodName)) ∈ lw_all := lw_g (lw_at lw_m2 78 rfl) rfl
theorem q501 : (Jvm.Cond.instanceMethod ({ cls := "CsrCalculator$Csr", name := "hasSameStructure", desc := "(LCsrCalculator$Csr;)Z" } : Jvm.MethodName)) ∈ lw_all := lw_g (lw_at lw_m2 82 rfl) rfl
theorem q502 : (Jvm.Cond.selects "CsrCalculator$Csr" ({ cls := "CsrCalculator$Csr", name := "hasSameStructure", desc := "(LCsrCalculator$Csr;)Z" } : Jvm.MethodName) ({ cls := "CsrCalculator$Csr", name := "hasSameStructure", desc := "(LCsrCalculator$Csr;)Z" } : Jvm.MethodName)) ∈ lw_all := lw_g (lw_at lw_m2 83 rfl) rfl
theorem q503 : (Jvm.Cond.code ({ cls := "CsrCalculator$Csr", name := "hasSameStructure", desc := "(LCsrCalculator$Csr;)Z" } : Jvm.MethodName) prog_4_method_13_code (4 : Nat) (Option.some Jvm.ClassFile.FieldType.boolean)) ∈ lw_all := lw_g (lw_at lw_m2 84 rfl) rfl
theorem q504 : (Jvm.Cond.methodLink "CsrCalculator$Csr" (68 : Nat) ({ cls := "CsrCalculator$Csr", name := "hasSameShape", desc := "(LCsrCalculator$Csr;)Z" } : Jvm.MethodName)) ∈ lw_all := lw_g (lw_at lw_m2 85 rfl) rfl
theorem q505 : (Jvm.Cond.instanceMethod ({ cls := "CsrCalculator$Csr", name := "hasSameShape", desc := "(LCsrCalculator$Csr;)Z" } : Jvm.MethodName)) ∈ lw_all := lw_g (lw_at lw_m2 86 rfl) rfl
theorem q506 : (Jvm.Cond.selects "CsrCalculator$Csr" ({ cls := "CsrCalculator$Csr", name := "hasSameShape", desc := "(LCsrCalculator$Csr;)Z" } : Jvm.MethodName) ({ cls := "CsrCalculator$Csr", name := "hasSameShape", desc := "(LCsrCalculator$Csr;)Z" } : Jvm.MethodName)) ∈ lw_all := lw_g (lw_at lw_m2 87 rfl) rfl
theorem q507 : (Jvm.Cond.code ({ cls := "CsrCalculator$Csr", name := "hasSameShape", desc := "(LCsrCalculator$Csr;)Z" } : Jvm.MethodName) prog_4_method_12_code (2 : Nat) (Option.some Jvm.ClassFile.FieldType.boolean)) ∈ lw_all := lw_g (lw_at lw_m2 88 rfl) rfl
theorem q508 : (Jvm.Cond.methodLink "CsrCalculator$Csr" (72 : Nat) ({ cls := "CsrCalculator$Csr", name := "stored", desc := "()I" } : Jvm.MethodName)) ∈ lw_all := lw_g (lw_at lw_m2 89 rfl) rfl
theorem q509 : (Jvm.Cond.instanceMethod ({ cls := "CsrCalculator$Csr", name := "stored", desc := "()I" } : Jvm.MethodName)) ∈ lw_all := lw_g (lw_at lw_m2 90 rfl) rfl
theorem q510 : (Jvm.Cond.selects "CsrCalculator$Csr" ({ cls := "CsrCalculator$Csr", name := "stored", desc := "()I" } : Jvm.MethodName) ({ cls := "CsrCalculator$Csr", name := "stored", desc := "()I" } : Jvm.MethodName)) ∈ lw_all := lw_g (lw_at lw_m2 91 rfl) rfl
theorem q511 : (Jvm.Cond.code ({ cls := "CsrCalculator$Csr", name := "stored", desc := "()I" } : Jvm.MethodName) prog_4_method_5_code (1 : Nat) (Option.some Jvm.ClassFile.FieldType.int)) ∈ lw_all := lw_g (lw_at lw_m2 92 rfl) rfl
theorem q513 : (Jvm.Cond.instanceMethod ({ cls := "CsrCalculator$Csr", name := "hasSameValues", desc := "(LCsrCalculator$Csr;)Z" } : Jvm.MethodName)) ∈ lw_all := lw_g (lw_at lw_m2 94 rfl) rfl
theorem q514 : (Jvm.Cond.selects "CsrCalculator$Csr" ({ cls := "CsrCalculator$Csr", name := "hasSameValues", desc := "(LCsrCalculator$Csr;)Z" } : Jvm.MethodName) ({ cls := "CsrCalculator$Csr", name := "hasSameValues", desc := "(LCsrCalculator$Csr;)Z" } : Jvm.MethodName)) ∈ lw_all := lw_g (lw_at lw_m2 95 rfl) rfl
theorem q515 : (Jvm.Cond.code ({ cls := "CsrCalculator$Csr", name := "hasSameValues", desc := "(LCsrCalculator$Csr;)Z" } : Jvm.MethodName) prog_4_method_14_code (5 : Nat) (Option.some Jvm.ClassFile.FieldType.boolean)) ∈ lw_all := lw_g (lw_at lw_m2 96 rfl) rfl
theorem q521 : (Jvm.Cond.instanceMethod ({ cls := "CsrCalculator$Csr", name := "times", desc := "(LCsrCalculator$Csr;)LCsrCalculator$Csr;" } : Jvm.MethodName)) ∈ lw_all := lw_g (lw_at lw_m2 102 rfl) rfl
theorem q522 : (Jvm.Cond.selects "CsrCalculator$Csr" ({ cls := "CsrCalculator$Csr", name := "times", desc := "(LCsrCalculator$Csr;)LCsrCalculator$Csr;" } : Jvm.MethodName) ({ cls := "CsrCalculator$Csr", name := "times", desc := "(LCsrCalculator$Csr;)LCsrCalculator$Csr;" } : Jvm.MethodName)) ∈ lw_all := lw_g (lw_at lw_m2 103 rfl) rfl
theorem q523 : (Jvm.Cond.code ({ cls := "CsrCalculator$Csr", name := "times", desc := "(LCsrCalculator$Csr;)LCsrCalculator$Csr;" } : Jvm.MethodName) prog_4_method_26_code (2 : Nat) (Option.some (Jvm.ClassFile.FieldType.object "CsrCalculator$Csr"))) ∈ lw_all := lw_g (lw_at lw_m2 104 rfl) rfl
theorem q524 : (Jvm.Cond.privateMethod ({ cls := "CsrCalculator$Csr", name := "lambda$times$16", desc := "(LCsrCalculator$Csr;II)Z" } : Jvm.MethodName)) ∈ lw_tbl := lw_at lw_m2 105 rfl
theorem q525 : (Jvm.Cond.instanceMethod ({ cls := "CsrCalculator$Csr", name := "lambda$times$16", desc := "(LCsrCalculator$Csr;II)Z" } : Jvm.MethodName)) ∈ lw_all := lw_g (lw_at lw_m2 106 rfl) rfl
theorem q526 : (Jvm.Cond.code ({ cls := "CsrCalculator$Csr", name := "lambda$times$16", desc := "(LCsrCalculator$Csr;II)Z" } : Jvm.MethodName) prog_4_method_33_code (4 : Nat) (Option.some Jvm.ClassFile.FieldType.boolean)) ∈ lw_all := lw_g (lw_at lw_m2 107 rfl) rfl
theorem q527 : (Jvm.Cond.methodLink "CsrCalculator$Csr" (142 : Nat) ({ cls := "CsrCalculator$Csr", name := "meets", desc := "(LCsrCalculator$Csr;II)Z" } : Jvm.MethodName)) ∈ lw_all := lw_g (lw_at lw_m2 108 rfl) rfl
theorem q528 : (Jvm.Cond.instanceMethod ({ cls := "CsrCalculator$Csr", name := "meets", desc := "(LCsrCalculator$Csr;II)Z" } : Jvm.MethodName)) ∈ lw_all := lw_g (lw_at lw_m2 109 rfl) rfl
theorem q529 : (Jvm.Cond.selects "CsrCalculator$Csr" ({ cls := "CsrCalculator$Csr", name := "meets", desc := "(LCsrCalculator$Csr;II)Z" } : Jvm.MethodName) ({ cls := "CsrCalculator$Csr", name := "meets", desc := "(LCsrCalculator$Csr;II)Z" } : Jvm.MethodName)) ∈ lw_all := lw_g (lw_at lw_m2 110 rfl) rfl
theorem q530 : (Jvm.Cond.code ({ cls := "CsrCalculator$Csr", name := "meets", desc := "(LCsrCalculator$Csr;II)Z" } : Jvm.MethodName) prog_4_method_24_code (5 : Nat) (Option.some Jvm.ClassFile.FieldType.boolean)) ∈ lw_all := lw_g (lw_at lw_m2 111 rfl) rfl
theorem q531 : (Jvm.Cond.privateMethod ({ cls := "CsrCalculator$Csr", name := "lambda$times$17", desc := "(LCsrCalculator$Csr;II)J" } : Jvm.MethodName)) ∈ lw_tbl := lw_at lw_m2 112 rfl
theorem q532 : (Jvm.Cond.instanceMethod ({ cls := "CsrCalculator$Csr", name := "lambda$times$17", desc := "(LCsrCalculator$Csr;II)J" } : Jvm.MethodName)) ∈ lw_all := lw_g (lw_at lw_m2 113 rfl) rfl
theorem q533 : (Jvm.Cond.code ({ cls := "CsrCalculator$Csr", name := "lambda$times$17", desc := "(LCsrCalculator$Csr;II)J" } : Jvm.MethodName) prog_4_method_32_code (4 : Nat) (Option.some Jvm.ClassFile.FieldType.long)) ∈ lw_all := lw_g (lw_at lw_m2 114 rfl) rfl
theorem q534 : (Jvm.Cond.methodLink "CsrCalculator$Csr" (138 : Nat) ({ cls := "CsrCalculator$Csr", name := "dot", desc := "(LCsrCalculator$Csr;II)J" } : Jvm.MethodName)) ∈ lw_all := lw_g (lw_at lw_m2 115 rfl) rfl
theorem q535 : (Jvm.Cond.privateMethod ({ cls := "CsrCalculator$Csr", name := "dot", desc := "(LCsrCalculator$Csr;II)J" } : Jvm.MethodName)) ∈ lw_tbl := lw_at lw_m2 116 rfl
theorem q536 : (Jvm.Cond.instanceMethod ({ cls := "CsrCalculator$Csr", name := "dot", desc := "(LCsrCalculator$Csr;II)J" } : Jvm.MethodName)) ∈ lw_all := lw_g (lw_at lw_m2 117 rfl) rfl
theorem q537 : (Jvm.Cond.code ({ cls := "CsrCalculator$Csr", name := "dot", desc := "(LCsrCalculator$Csr;II)J" } : Jvm.MethodName) prog_4_method_25_code (7 : Nat) (Option.some Jvm.ClassFile.FieldType.long)) ∈ lw_all := lw_g (lw_at lw_m2 118 rfl) rfl
theorem q539 : (Jvm.Cond.instanceMethod ({ cls := "CsrCalculator$Csr", name := "equalsDense", desc := "(LCsrCalculator$Csr;LCsrCalculator$Csr;)Z" } : Jvm.MethodName)) ∈ lw_all := lw_g (lw_at lw_m2 120 rfl) rfl
theorem q540 : (Jvm.Cond.selects "CsrCalculator$Csr" ({ cls := "CsrCalculator$Csr", name := "equalsDense", desc := "(LCsrCalculator$Csr;LCsrCalculator$Csr;)Z" } : Jvm.MethodName) ({ cls := "CsrCalculator$Csr", name := "equalsDense", desc := "(LCsrCalculator$Csr;LCsrCalculator$Csr;)Z" } : Jvm.MethodName)) ∈ lw_all := lw_g (lw_at lw_m2 121 rfl) rfl
theorem q541 : (Jvm.Cond.code ({ cls := "CsrCalculator$Csr", name := "equalsDense", desc := "(LCsrCalculator$Csr;LCsrCalculator$Csr;)Z" } : Jvm.MethodName) prog_4_method_31_code (8 : Nat) (Option.some Jvm.ClassFile.FieldType.boolean)) ∈ lw_all := lw_g (lw_at lw_m2 122 rfl) rfl
theorem q1103 : (Jvm.Cond.instanceMethod ({ cls := "CsrCalculator$Csr", name := "with", desc := "(III)LCsrCalculator$Csr;" } : Jvm.MethodName)) ∈ lw_all := lw_g (lw_at lw_m4 204 rfl) rfl
theorem q1104 : (Jvm.Cond.selects "CsrCalculator$Csr" ({ cls := "CsrCalculator$Csr", name := "with", desc := "(III)LCsrCalculator$Csr;" } : Jvm.MethodName) ({ cls := "CsrCalculator$Csr", name := "with", desc := "(III)LCsrCalculator$Csr;" } : Jvm.MethodName)) ∈ lw_all := lw_g (lw_at lw_m4 205 rfl) rfl
theorem q1105 : (Jvm.Cond.code ({ cls := "CsrCalculator$Csr", name := "with", desc := "(III)LCsrCalculator$Csr;" } : Jvm.MethodName) prog_4_method_15_code (4 : Nat) (Option.some (Jvm.ClassFile.FieldType.object "CsrCalculator$Csr"))) ∈ lw_all := lw_g (lw_at lw_m4 206 rfl) rfl
theorem q1106 : (Jvm.Cond.privateMethod ({ cls := "CsrCalculator$Csr", name := "lambda$with$0", desc := "(IIII)Z" } : Jvm.MethodName)) ∈ lw_tbl := lw_at lw_m4 207 rfl
theorem q1107 : (Jvm.Cond.instanceMethod ({ cls := "CsrCalculator$Csr", name := "lambda$with$0", desc := "(IIII)Z" } : Jvm.MethodName)) ∈ lw_all := lw_g (lw_at lw_m4 208 rfl) rfl
theorem q1108 : (Jvm.Cond.code ({ cls := "CsrCalculator$Csr", name := "lambda$with$0", desc := "(IIII)Z" } : Jvm.MethodName) prog_4_method_49_code (5 : Nat) (Option.some Jvm.ClassFile.FieldType.boolean)) ∈ lw_all := lw_g (lw_at lw_m4 209 rfl) rfl
theorem q1109 : (Jvm.Cond.privateMethod ({ cls := "CsrCalculator$Csr", name := "lambda$with$1", desc := "(IIIII)J" } : Jvm.MethodName)) ∈ lw_tbl := lw_at lw_m4 210 rfl
theorem q1110 : (Jvm.Cond.instanceMethod ({ cls := "CsrCalculator$Csr", name := "lambda$with$1", desc := "(IIIII)J" } : Jvm.MethodName)) ∈ lw_all := lw_g (lw_at lw_m4 211 rfl) rfl
theorem q1111 : (Jvm.Cond.code ({ cls := "CsrCalculator$Csr", name := "lambda$with$1", desc := "(IIIII)J" } : Jvm.MethodName) prog_4_method_48_code (6 : Nat) (Option.some Jvm.ClassFile.FieldType.long)) ∈ lw_all := lw_g (lw_at lw_m4 212 rfl) rfl
theorem q1268 : (Jvm.Cond.selects "CsrCalculator$Csr" ({ cls := "java/lang/Object", name := "getClass", desc := "()Ljava/lang/Class;" } : Jvm.MethodName) ({ cls := "java/lang/Object", name := "getClass", desc := "()Ljava/lang/Class;" } : Jvm.MethodName)) ∈ lw_all := lw_g (lw_at lw_m5 129 rfl) rfl
theorem q1350 : (Jvm.Cond.static ({ cls := "CsrCalculator$Csr", name := "unit", desc := "(I)LCsrCalculator$Csr;" } : Jvm.MethodName)) ∈ lw_all := lw_g (lw_at lw_m5 211 rfl) rfl
theorem q1351 : (Jvm.Cond.code ({ cls := "CsrCalculator$Csr", name := "unit", desc := "(I)LCsrCalculator$Csr;" } : Jvm.MethodName) prog_4_method_22_code (1 : Nat) (Option.some (Jvm.ClassFile.FieldType.object "CsrCalculator$Csr"))) ∈ lw_all := lw_g (lw_at lw_m5 212 rfl) rfl
theorem q1352 : (Jvm.Cond.static ({ cls := "CsrCalculator$Csr", name := "lambda$unit$12", desc := "(II)Z" } : Jvm.MethodName)) ∈ lw_all := lw_g (lw_at lw_m5 213 rfl) rfl
theorem q1353 : (Jvm.Cond.code ({ cls := "CsrCalculator$Csr", name := "lambda$unit$12", desc := "(II)Z" } : Jvm.MethodName) prog_4_method_37_code (2 : Nat) (Option.some Jvm.ClassFile.FieldType.boolean)) ∈ lw_all := lw_g (lw_at lw_m5 214 rfl) rfl
theorem q1354 : (Jvm.Cond.static ({ cls := "CsrCalculator$Csr", name := "lambda$unit$13", desc := "(II)J" } : Jvm.MethodName)) ∈ lw_all := lw_g (lw_at lw_m5 215 rfl) rfl
theorem q1355 : (Jvm.Cond.code ({ cls := "CsrCalculator$Csr", name := "lambda$unit$13", desc := "(II)J" } : Jvm.MethodName) prog_4_method_36_code (2 : Nat) (Option.some Jvm.ClassFile.FieldType.long)) ∈ lw_all := lw_g (lw_at lw_m5 216 rfl) rfl
theorem q1365 : (Jvm.Cond.instanceMethod ({ cls := "CsrCalculator$Csr", name := "scaled", desc := "(I)LCsrCalculator$Csr;" } : Jvm.MethodName)) ∈ lw_all := lw_g (lw_at lw_m5 226 rfl) rfl
theorem q1366 : (Jvm.Cond.selects "CsrCalculator$Csr" ({ cls := "CsrCalculator$Csr", name := "scaled", desc := "(I)LCsrCalculator$Csr;" } : Jvm.MethodName) ({ cls := "CsrCalculator$Csr", name := "scaled", desc := "(I)LCsrCalculator$Csr;" } : Jvm.MethodName)) ∈ lw_all := lw_g (lw_at lw_m5 227 rfl) rfl
theorem q1367 : (Jvm.Cond.code ({ cls := "CsrCalculator$Csr", name := "scaled", desc := "(I)LCsrCalculator$Csr;" } : Jvm.MethodName) prog_4_method_21_code (2 : Nat) (Option.some (Jvm.ClassFile.FieldType.object "CsrCalculator$Csr"))) ∈ lw_all := lw_g (lw_at lw_m5 228 rfl) rfl
theorem q1368 : (Jvm.Cond.privateMethod ({ cls := "CsrCalculator$Csr", name := "lambda$scaled$10", desc := "(II)Z" } : Jvm.MethodName)) ∈ lw_tbl := lw_at lw_m5 229 rfl
theorem q1369 : (Jvm.Cond.instanceMethod ({ cls := "CsrCalculator$Csr", name := "lambda$scaled$10", desc := "(II)Z" } : Jvm.MethodName)) ∈ lw_all := lw_g (lw_at lw_m5 230 rfl) rfl
theorem q1370 : (Jvm.Cond.code ({ cls := "CsrCalculator$Csr", name := "lambda$scaled$10", desc := "(II)Z" } : Jvm.MethodName) prog_4_method_39_code (3 : Nat) (Option.some Jvm.ClassFile.FieldType.boolean)) ∈ lw_all := lw_g (lw_at lw_m5 231 rfl) rfl
theorem q1371 : (Jvm.Cond.privateMethod ({ cls := "CsrCalculator$Csr", name := "lambda$scaled$11", desc := "(III)J" } : Jvm.MethodName)) ∈ lw_tbl := lw_at lw_m5 232 rfl
theorem q1372 : (Jvm.Cond.instanceMethod ({ cls := "CsrCalculator$Csr", name := "lambda$scaled$11", desc := "(III)J" } : Jvm.MethodName)) ∈ lw_all := lw_g (lw_at lw_m5 233 rfl) rfl
theorem q1373 : (Jvm.Cond.code ({ cls := "CsrCalculator$Csr", name := "lambda$scaled$11", desc := "(III)J" } : Jvm.MethodName) prog_4_method_38_code (4 : Nat) (Option.some Jvm.ClassFile.FieldType.long)) ∈ lw_all := lw_g (lw_at lw_m5 234 rfl) rfl
theorem q1408 : (Jvm.Cond.instanceMethod ({ cls := "CsrCalculator$Csr", name := "joined", desc := "(LCsrCalculator$Join;LCsrCalculator$Csr;)LCsrCalculator$Csr;" } : Jvm.MethodName)) ∈ lw_all := lw_g (lw_at lw_m6 29 rfl) rfl
theorem q1409 : (Jvm.Cond.selects "CsrCalculator$Csr" ({ cls := "CsrCalculator$Csr", name := "joined", desc := "(LCsrCalculator$Join;LCsrCalculator$Csr;)LCsrCalculator$Csr;" } : Jvm.MethodName) ({ cls := "CsrCalculator$Csr", name := "joined", desc := "(LCsrCalculator$Join;LCsrCalculator$Csr;)LCsrCalculator$Csr;" } : Jvm.MethodName)) ∈ lw_all := lw_g (lw_at lw_m6 30 rfl) rfl
theorem q1410 : (Jvm.Cond.code ({ cls := "CsrCalculator$Csr", name := "joined", desc := "(LCsrCalculator$Join;LCsrCalculator$Csr;)LCsrCalculator$Csr;" } : Jvm.MethodName) prog_4_method_23_code (3 : Nat) (Option.some (Jvm.ClassFile.FieldType.object "CsrCalculator$Csr"))) ∈ lw_all := lw_g (lw_at lw_m6 31 rfl) rfl
theorem q1411 : (Jvm.Cond.privateMethod ({ cls := "CsrCalculator$Csr", name := "lambda$joined$14", desc := "(LCsrCalculator$Csr;II)Z" } : Jvm.MethodName)) ∈ lw_tbl := lw_at lw_m6 32 rfl
theorem q1412 : (Jvm.Cond.instanceMethod ({ cls := "CsrCalculator$Csr", name := "lambda$joined$14", desc := "(LCsrCalculator$Csr;II)Z" } : Jvm.MethodName)) ∈ lw_all := lw_g (lw_at lw_m6 33 rfl) rfl
theorem q1413 : (Jvm.Cond.code ({ cls := "CsrCalculator$Csr", name := "lambda$joined$14", desc := "(LCsrCalculator$Csr;II)Z" } : Jvm.MethodName) prog_4_method_35_code (4 : Nat) (Option.some Jvm.ClassFile.FieldType.boolean)) ∈ lw_all := lw_g (lw_at lw_m6 34 rfl) rfl
theorem q1414 : (Jvm.Cond.privateMethod ({ cls := "CsrCalculator$Csr", name := "lambda$joined$15", desc := "(LCsrCalculator$Join;LCsrCalculator$Csr;II)J" } : Jvm.MethodName)) ∈ lw_tbl := lw_at lw_m6 35 rfl
theorem q1415 : (Jvm.Cond.instanceMethod ({ cls := "CsrCalculator$Csr", name := "lambda$joined$15", desc := "(LCsrCalculator$Join;LCsrCalculator$Csr;II)J" } : Jvm.MethodName)) ∈ lw_all := lw_g (lw_at lw_m6 36 rfl) rfl
theorem q1416 : (Jvm.Cond.code ({ cls := "CsrCalculator$Csr", name := "lambda$joined$15", desc := "(LCsrCalculator$Join;LCsrCalculator$Csr;II)J" } : Jvm.MethodName) prog_4_method_34_code (5 : Nat) (Option.some Jvm.ClassFile.FieldType.long)) ∈ lw_all := lw_g (lw_at lw_m6 37 rfl) rfl
theorem q1417 : (Jvm.Cond.methodLink "CsrCalculator$Csr" (146 : Nat) ({ cls := "CsrCalculator$Join", name := "of", desc := "(JJ)J" } : Jvm.MethodName)) ∈ lw_all := lw_g (lw_at lw_m6 38 rfl) rfl
theorem q1433 : (Jvm.Cond.instanceMethod ({ cls := "CsrCalculator$Csr", name := "workWith", desc := "(LCsrCalculator$Csr;)I" } : Jvm.MethodName)) ∈ lw_all := lw_g (lw_at lw_m6 54 rfl) rfl
theorem q1434 : (Jvm.Cond.selects "CsrCalculator$Csr" ({ cls := "CsrCalculator$Csr", name := "workWith", desc := "(LCsrCalculator$Csr;)I" } : Jvm.MethodName) ({ cls := "CsrCalculator$Csr", name := "workWith", desc := "(LCsrCalculator$Csr;)I" } : Jvm.MethodName)) ∈ lw_all := lw_g (lw_at lw_m6 55 rfl) rfl
theorem q1435 : (Jvm.Cond.code ({ cls := "CsrCalculator$Csr", name := "workWith", desc := "(LCsrCalculator$Csr;)I" } : Jvm.MethodName) prog_4_method_27_code (7 : Nat) (Option.some Jvm.ClassFile.FieldType.int)) ∈ lw_all := lw_g (lw_at lw_m6 56 rfl) rfl
theorem q1436 : (Jvm.Cond.methodLink "CsrCalculator$Csr" (123 : Nat) ({ cls := "CsrCalculator$Csr", name := "rowLength", desc := "(I)I" } : Jvm.MethodName)) ∈ lw_all := lw_g (lw_at lw_m6 57 rfl) rfl
theorem q1437 : (Jvm.Cond.instanceMethod ({ cls := "CsrCalculator$Csr", name := "rowLength", desc := "(I)I" } : Jvm.MethodName)) ∈ lw_all := lw_g (lw_at lw_m6 58 rfl) rfl
theorem q1438 : (Jvm.Cond.selects "CsrCalculator$Csr" ({ cls := "CsrCalculator$Csr", name := "rowLength", desc := "(I)I" } : Jvm.MethodName) ({ cls := "CsrCalculator$Csr", name := "rowLength", desc := "(I)I" } : Jvm.MethodName)) ∈ lw_all := lw_g (lw_at lw_m6 59 rfl) rfl
theorem q1439 : (Jvm.Cond.code ({ cls := "CsrCalculator$Csr", name := "rowLength", desc := "(I)I" } : Jvm.MethodName) prog_4_method_10_code (2 : Nat) (Option.some Jvm.ClassFile.FieldType.int)) ∈ lw_all := lw_g (lw_at lw_m6 60 rfl) rfl
theorem q1442 : (Jvm.Cond.instanceMethod ({ cls := "CsrCalculator$Csr", name := "withoutZeros", desc := "()LCsrCalculator$Csr;" } : Jvm.MethodName)) ∈ lw_all := lw_g (lw_at lw_m6 63 rfl) rfl
theorem q1443 : (Jvm.Cond.selects "CsrCalculator$Csr" ({ cls := "CsrCalculator$Csr", name := "withoutZeros", desc := "()LCsrCalculator$Csr;" } : Jvm.MethodName) ({ cls := "CsrCalculator$Csr", name := "withoutZeros", desc := "()LCsrCalculator$Csr;" } : Jvm.MethodName)) ∈ lw_all := lw_g (lw_at lw_m6 64 rfl) rfl
theorem q1444 : (Jvm.Cond.code ({ cls := "CsrCalculator$Csr", name := "withoutZeros", desc := "()LCsrCalculator$Csr;" } : Jvm.MethodName) prog_4_method_17_code (1 : Nat) (Option.some (Jvm.ClassFile.FieldType.object "CsrCalculator$Csr"))) ∈ lw_all := lw_g (lw_at lw_m6 65 rfl) rfl
theorem q1445 : (Jvm.Cond.privateMethod ({ cls := "CsrCalculator$Csr", name := "lambda$withoutZeros$4", desc := "(II)Z" } : Jvm.MethodName)) ∈ lw_tbl := lw_at lw_m6 66 rfl
theorem q1446 : (Jvm.Cond.instanceMethod ({ cls := "CsrCalculator$Csr", name := "lambda$withoutZeros$4", desc := "(II)Z" } : Jvm.MethodName)) ∈ lw_all := lw_g (lw_at lw_m6 67 rfl) rfl
theorem q1447 : (Jvm.Cond.code ({ cls := "CsrCalculator$Csr", name := "lambda$withoutZeros$4", desc := "(II)Z" } : Jvm.MethodName) prog_4_method_45_code (3 : Nat) (Option.some Jvm.ClassFile.FieldType.boolean)) ∈ lw_all := lw_g (lw_at lw_m6 68 rfl) rfl
theorem q1448 : (Jvm.Cond.privateMethod ({ cls := "CsrCalculator$Csr", name := "lambda$withoutZeros$5", desc := "(II)J" } : Jvm.MethodName)) ∈ lw_tbl := lw_at lw_m6 69 rfl
theorem q1449 : (Jvm.Cond.instanceMethod ({ cls := "CsrCalculator$Csr", name := "lambda$withoutZeros$5", desc := "(II)J" } : Jvm.MethodName)) ∈ lw_all := lw_g (lw_at lw_m6 70 rfl) rfl
theorem q1450 : (Jvm.Cond.code ({ cls := "CsrCalculator$Csr", name := "lambda$withoutZeros$5", desc := "(II)J" } : Jvm.MethodName) prog_4_method_44_code (3 : Nat) (Option.some Jvm.ClassFile.FieldType.long)) ∈ lw_all := lw_g (lw_at lw_m6 71 rfl) rfl
theorem q1639 : (Jvm.Cond.instanceMethod ({ cls := "CsrCalculator$Csr", name := "without", desc := "(II)LCsrCalculator$Csr;" } : Jvm.MethodName)) ∈ lw_all := lw_g (lw_at lw_m7 20 rfl) rfl
theorem q1640 : (Jvm.Cond.selects "CsrCalculator$Csr" ({ cls := "CsrCalculator$Csr", name := "without", desc := "(II)LCsrCalculator$Csr;" } : Jvm.MethodName) ({ cls := "CsrCalculator$Csr", name := "without", desc := "(II)LCsrCalculator$Csr;" } : Jvm.MethodName)) ∈ lw_all := lw_g (lw_at lw_m7 21 rfl) rfl
theorem q1641 : (Jvm.Cond.code ({ cls := "CsrCalculator$Csr", name := "without", desc := "(II)LCsrCalculator$Csr;" } : Jvm.MethodName) prog_4_method_16_code (3 : Nat) (Option.some (Jvm.ClassFile.FieldType.object "CsrCalculator$Csr"))) ∈ lw_all := lw_g (lw_at lw_m7 22 rfl) rfl
theorem q1642 : (Jvm.Cond.privateMethod ({ cls := "CsrCalculator$Csr", name := "lambda$without$2", desc := "(IIII)Z" } : Jvm.MethodName)) ∈ lw_tbl := lw_at lw_m7 23 rfl
theorem q1643 : (Jvm.Cond.instanceMethod ({ cls := "CsrCalculator$Csr", name := "lambda$without$2", desc := "(IIII)Z" } : Jvm.MethodName)) ∈ lw_all := lw_g (lw_at lw_m7 24 rfl) rfl
theorem q1644 : (Jvm.Cond.code ({ cls := "CsrCalculator$Csr", name := "lambda$without$2", desc := "(IIII)Z" } : Jvm.MethodName) prog_4_method_47_code (5 : Nat) (Option.some Jvm.ClassFile.FieldType.boolean)) ∈ lw_all := lw_g (lw_at lw_m7 25 rfl) rfl
theorem q1645 : (Jvm.Cond.privateMethod ({ cls := "CsrCalculator$Csr", name := "lambda$without$3", desc := "(II)J" } : Jvm.MethodName)) ∈ lw_tbl := lw_at lw_m7 26 rfl
theorem q1646 : (Jvm.Cond.instanceMethod ({ cls := "CsrCalculator$Csr", name := "lambda$without$3", desc := "(II)J" } : Jvm.MethodName)) ∈ lw_all := lw_g (lw_at lw_m7 27 rfl) rfl
theorem q1647 : (Jvm.Cond.code ({ cls := "CsrCalculator$Csr", name := "lambda$without$3", desc := "(II)J" } : Jvm.MethodName) prog_4_method_46_code (3 : Nat) (Option.some Jvm.ClassFile.FieldType.long)) ∈ lw_all := lw_g (lw_at lw_m7 28 rfl) rfl
theorem q1656 : (Jvm.Cond.instanceMethod ({ cls := "CsrCalculator$Csr", name := "withSwapped", desc := "(II)LCsrCalculator$Csr;" } : Jvm.MethodName)) ∈ lw_all := lw_g (lw_at lw_m7 37 rfl) rfl
theorem q1657 : (Jvm.Cond.selects "CsrCalculator$Csr" ({ cls := "CsrCalculator$Csr", name := "withSwapped", desc := "(II)LCsrCalculator$Csr;" } : Jvm.MethodName) ({ cls := "CsrCalculator$Csr", name := "withSwapped", desc := "(II)LCsrCalculator$Csr;" } : Jvm.MethodName)) ∈ lw_all := lw_g (lw_at lw_m7 38 rfl) rfl
theorem q1658 : (Jvm.Cond.code ({ cls := "CsrCalculator$Csr", name := "withSwapped", desc := "(II)LCsrCalculator$Csr;" } : Jvm.MethodName) prog_4_method_18_code (3 : Nat) (Option.some (Jvm.ClassFile.FieldType.object "CsrCalculator$Csr"))) ∈ lw_all := lw_g (lw_at lw_m7 39 rfl) rfl
theorem q1659 : (Jvm.Cond.privateMethod ({ cls := "CsrCalculator$Csr", name := "lambda$withSwapped$6", desc := "(IIII)Z" } : Jvm.MethodName)) ∈ lw_tbl := lw_at lw_m7 40 rfl
theorem q1660 : (Jvm.Cond.instanceMethod ({ cls := "CsrCalculator$Csr", name := "lambda$withSwapped$6", desc := "(IIII)Z" } : Jvm.MethodName)) ∈ lw_all := lw_g (lw_at lw_m7 41 rfl) rfl
theorem q1661 : (Jvm.Cond.code ({ cls := "CsrCalculator$Csr", name := "lambda$withSwapped$6", desc := "(IIII)Z" } : Jvm.MethodName) prog_4_method_43_code (5 : Nat) (Option.some Jvm.ClassFile.FieldType.boolean)) ∈ lw_all := lw_g (lw_at lw_m7 42 rfl) rfl
theorem q1662 : (Jvm.Cond.methodLink "CsrCalculator$Csr" (152 : Nat) ({ cls := "CsrCalculator$Csr", name := "swapped", desc := "(III)I" } : Jvm.MethodName)) ∈ lw_all := lw_g (lw_at lw_m7 43 rfl) rfl
theorem q1663 : (Jvm.Cond.static ({ cls := "CsrCalculator$Csr", name := "swapped", desc := "(III)I" } : Jvm.MethodName)) ∈ lw_all := lw_g (lw_at lw_m7 44 rfl) rfl
theorem q1664 : (Jvm.Cond.code ({ cls := "CsrCalculator$Csr", name := "swapped", desc := "(III)I" } : Jvm.MethodName) prog_4_method_19_code (3 : Nat) (Option.some Jvm.ClassFile.FieldType.int)) ∈ lw_all := lw_g (lw_at lw_m7 45 rfl) rfl
theorem q1665 : (Jvm.Cond.privateMethod ({ cls := "CsrCalculator$Csr", name := "lambda$withSwapped$7", desc := "(IIII)J" } : Jvm.MethodName)) ∈ lw_tbl := lw_at lw_m7 46 rfl
theorem q1666 : (Jvm.Cond.instanceMethod ({ cls := "CsrCalculator$Csr", name := "lambda$withSwapped$7", desc := "(IIII)J" } : Jvm.MethodName)) ∈ lw_all := lw_g (lw_at lw_m7 47 rfl) rfl
theorem q1667 : (Jvm.Cond.code ({ cls := "CsrCalculator$Csr", name := "lambda$withSwapped$7", desc := "(IIII)J" } : Jvm.MethodName) prog_4_method_42_code (5 : Nat) (Option.some Jvm.ClassFile.FieldType.long)) ∈ lw_all := lw_g (lw_at lw_m7 48 rfl) rfl
theorem q1771 : (Jvm.Cond.instanceMethod ({ cls := "CsrCalculator$Csr", name := "rowOf", desc := "(I)I" } : Jvm.MethodName)) ∈ lw_all := lw_g (lw_at lw_m7 152 rfl) rfl
theorem q1772 : (Jvm.Cond.selects "CsrCalculator$Csr" ({ cls := "CsrCalculator$Csr", name := "rowOf", desc := "(I)I" } : Jvm.MethodName) ({ cls := "CsrCalculator$Csr", name := "rowOf", desc := "(I)I" } : Jvm.MethodName)) ∈ lw_all := lw_g (lw_at lw_m7 153 rfl) rfl
theorem q1773 : (Jvm.Cond.code ({ cls := "CsrCalculator$Csr", name := "rowOf", desc := "(I)I" } : Jvm.MethodName) prog_4_method_9_code (3 : Nat) (Option.some Jvm.ClassFile.FieldType.int)) ∈ lw_all := lw_g (lw_at lw_m7 154 rfl) rfl
theorem q1796 : (Jvm.Cond.instanceMethod ({ cls := "CsrCalculator$Csr", name := "zeros", desc := "()I" } : Jvm.MethodName)) ∈ lw_all := lw_g (lw_at lw_m7 177 rfl) rfl
theorem q1797 : (Jvm.Cond.selects "CsrCalculator$Csr" ({ cls := "CsrCalculator$Csr", name := "zeros", desc := "()I" } : Jvm.MethodName) ({ cls := "CsrCalculator$Csr", name := "zeros", desc := "()I" } : Jvm.MethodName)) ∈ lw_all := lw_g (lw_at lw_m7 178 rfl) rfl
theorem q1798 : (Jvm.Cond.code ({ cls := "CsrCalculator$Csr", name := "zeros", desc := "()I" } : Jvm.MethodName) prog_4_method_29_code (6 : Nat) (Option.some Jvm.ClassFile.FieldType.int)) ∈ lw_all := lw_g (lw_at lw_m7 179 rfl) rfl
theorem q1814 : (Jvm.Cond.instanceMethod ({ cls := "CsrCalculator$Csr", name := "columnLength", desc := "(I)I" } : Jvm.MethodName)) ∈ lw_all := lw_g (lw_at lw_m7 195 rfl) rfl
theorem q1815 : (Jvm.Cond.selects "CsrCalculator$Csr" ({ cls := "CsrCalculator$Csr", name := "columnLength", desc := "(I)I" } : Jvm.MethodName) ({ cls := "CsrCalculator$Csr", name := "columnLength", desc := "(I)I" } : Jvm.MethodName)) ∈ lw_all := lw_g (lw_at lw_m7 196 rfl) rfl
theorem q1816 : (Jvm.Cond.code ({ cls := "CsrCalculator$Csr", name := "columnLength", desc := "(I)I" } : Jvm.MethodName) prog_4_method_11_code (7 : Nat) (Option.some Jvm.ClassFile.FieldType.int)) ∈ lw_all := lw_g (lw_at lw_m7 197 rfl) rfl
theorem q1839 : (Jvm.Cond.instanceMethod ({ cls := "CsrCalculator$Csr", name := "bandwidth", desc := "()I" } : Jvm.MethodName)) ∈ lw_all := lw_g (lw_at lw_m7 220 rfl) rfl
theorem q1840 : (Jvm.Cond.selects "CsrCalculator$Csr" ({ cls := "CsrCalculator$Csr", name := "bandwidth", desc := "()I" } : Jvm.MethodName) ({ cls := "CsrCalculator$Csr", name := "bandwidth", desc := "()I" } : Jvm.MethodName)) ∈ lw_all := lw_g (lw_at lw_m7 221 rfl) rfl
theorem q1841 : (Jvm.Cond.code ({ cls := "CsrCalculator$Csr", name := "bandwidth", desc := "()I" } : Jvm.MethodName) prog_4_method_28_code (3 : Nat) (Option.some Jvm.ClassFile.FieldType.int)) ∈ lw_all := lw_g (lw_at lw_m7 222 rfl) rfl
theorem q1842 : (Jvm.Cond.methodLink "CsrCalculator$Csr" (127 : Nat) ({ cls := "CsrCalculator$Csr", name := "rowOf", desc := "(I)I" } : Jvm.MethodName)) ∈ lw_all := lw_g (lw_at lw_m7 223 rfl) rfl
theorem q1843 : (Jvm.Cond.methodLink "CsrCalculator$Csr" (130 : Nat) ({ cls := "java/lang/Math", name := "abs", desc := "(I)I" } : Jvm.MethodName)) ∈ lw_all := lw_g (lw_at lw_m7 224 rfl) rfl
theorem q1846 : (Jvm.Cond.methodLink "CsrCalculator$Csr" (135 : Nat) ({ cls := "java/lang/Math", name := "max", desc := "(II)I" } : Jvm.MethodName)) ∈ lw_all := lw_g (lw_at lw_m7 227 rfl) rfl
theorem q3043 : (Jvm.Cond.castable "CsrCalculator$Csr" "java/lang/Object") ∈ lw_tbl := lw_at lw_m12 224 rfl
theorem in_X3 : ∀ w ∈ wsX30, w ∈ lw_all := lw_in wsX30 [258, 260, 262, 264, 266] (by decide +kernel) (by decide +kernel)

/-! CsrCalculator$Reader -/
set_option maxRecDepth 100000
def RX5 : String := "CsrCalculator$Reader"
def TX5 : u_T := fun k => match k with
  | 0 => ("CsrCalculator$Reader", "size", "I", true)
  | 1 => ("CsrCalculator$Reader", "made", "LCsrCalculator$World;", false)
  | 2 => ("CsrCalculator$Reader", "at", "I", false)
  | 3 => ("CsrCalculator$Reader", "next", "I", false)
  | 4 => ("CsrCalculator$Reader", "token", "I", false)
  | 5 => ("CsrCalculator$Reader", "number", "I", false)
  | 6 => ("CsrCalculator$Reader", "commands", "I", false)
  | 7 => ("CsrCalculator$Reader", "depth", "I", false)
  | 8 => ("CsrCalculator$Reader", "levels", "I", false)
  | 9 => ("CsrCalculator$Reader", "word", "Ljava/lang/String;", false)
  | 10 => ("CsrCalculator$Reader", "isScript", "Z", false)
  | _ => ("CsrCalculator$Reader", "this$0", "LCsrCalculator;", true)
def tyX5 : Nat → FieldType := fun k => match k with
  | 0 => .int
  | 1 => .object "CsrCalculator$World"
  | 2 => .int
  | 3 => .int
  | 4 => .int
  | 5 => .int
  | 6 => .int
  | 7 => .int
  | 8 => .int
  | 9 => .object "java/lang/String"
  | 10 => .boolean
  | _ => .object "CsrCalculator"
abbrev wsX50 : List Cond := u_ws RX5 TX5 12
theorem nmX5 : ∀ a, a < 12 → ∀ b, b < 12 → a ≠ b → (TX5 a).2.1 ≠ (TX5 b).2.1 := by decide +kernel
theorem tyX5_ok : ∀ k, k < 12 → parseFieldDescriptor (TX5 k).2.2.1 = some (tyX5 k) := by decide +kernel
abbrev cX5_init : ByteArray := prog_15_method_1_code
def yX5_init : MethodName := ⟨RX5, "<init>", "(LCsrCalculator;)V"⟩
def dkwX5_init_1 : List UInt8 := [180, 0, 3, 180, 0, 22, 181, 0, 26, 42, 18, 29, 181, 0, 31, 177]
abbrev dktX5_init_1 : List UInt8 := dkwX5_init_1 ++ []
def dkwX5_init_0 : List UInt8 := [42, 43, 181, 0, 3, 42, 183, 0, 9, 42, 42, 180, 0, 3, 180, 0, 15, 181, 0, 19, 42, 42]
abbrev dktX5_init_0 : List UInt8 := dkwX5_init_0 ++ dktX5_init_1
theorem dksX5_init_0 : cX5_init.data.toList.drop 0 = dktX5_init_0 := by decide +kernel
theorem dksX5_init_1 : cX5_init.data.toList.drop 22 = dktX5_init_1 := dk_seg dksX5_init_0 22 rfl rfl
theorem dX5_init_0 : decode cX5_init 0 = .ok (.aload_n 0, 1) := dk_42 (dk_at dksX5_init_0 0 rfl rfl)
theorem dX5_init_1 : decode cX5_init 1 = .ok (.aload_n 1, 1) := dk_43 (dk_at dksX5_init_0 1 rfl rfl)
theorem dX5_init_2 : decode cX5_init 2 = .ok (.putfield 3, 3) := dk_181 0 3 (dk_at dksX5_init_0 2 rfl rfl)
theorem dX5_init_5 : decode cX5_init 5 = .ok (.aload_n 0, 1) := dk_42 (dk_at dksX5_init_0 5 rfl rfl)
theorem dX5_init_6 : decode cX5_init 6 = .ok (.invokespecial 9, 3) := dk_183 0 9 (dk_at dksX5_init_0 6 rfl rfl)
theorem dX5_init_9 : decode cX5_init 9 = .ok (.aload_n 0, 1) := dk_42 (dk_at dksX5_init_0 9 rfl rfl)
theorem dX5_init_10 : decode cX5_init 10 = .ok (.aload_n 0, 1) := dk_42 (dk_at dksX5_init_0 10 rfl rfl)
theorem dX5_init_11 : decode cX5_init 11 = .ok (.getfield 3, 3) := dk_180 0 3 (dk_at dksX5_init_0 11 rfl rfl)
theorem dX5_init_14 : decode cX5_init 14 = .ok (.getfield 15, 3) := dk_180 0 15 (dk_at dksX5_init_0 14 rfl rfl)
theorem dX5_init_17 : decode cX5_init 17 = .ok (.putfield 19, 3) := dk_181 0 19 (dk_at dksX5_init_0 17 rfl rfl)
theorem dX5_init_20 : decode cX5_init 20 = .ok (.aload_n 0, 1) := dk_42 (dk_at dksX5_init_0 20 rfl rfl)
theorem dX5_init_21 : decode cX5_init 21 = .ok (.aload_n 0, 1) := dk_42 (dk_at dksX5_init_0 21 rfl rfl)
theorem dX5_init_22 : decode cX5_init 22 = .ok (.getfield 3, 3) := dk_180 0 3 (dk_at dksX5_init_1 0 rfl rfl)
theorem dX5_init_25 : decode cX5_init 25 = .ok (.getfield 22, 3) := dk_180 0 22 (dk_at dksX5_init_1 3 rfl rfl)
theorem dX5_init_28 : decode cX5_init 28 = .ok (.putfield 26, 3) := dk_181 0 26 (dk_at dksX5_init_1 6 rfl rfl)
theorem dX5_init_31 : decode cX5_init 31 = .ok (.aload_n 0, 1) := dk_42 (dk_at dksX5_init_1 9 rfl rfl)
theorem dX5_init_32 : decode cX5_init 32 = .ok (.ldc 29, 2) := dk_18 29 (dk_at dksX5_init_1 10 rfl rfl)
theorem dX5_init_34 : decode cX5_init 34 = .ok (.putfield 31, 3) := dk_181 0 31 (dk_at dksX5_init_1 12 rfl rfl)
theorem dX5_init_37 : decode cX5_init 37 = .ok (.return_, 1) := dk_177 (dk_at dksX5_init_1 15 rfl rfl)
abbrev cX5_description : ByteArray := prog_15_method_17_code
def yX5_description : MethodName := ⟨RX5, "description", "()LCsrCalculator$World;"⟩
def dkwX5_description_3 : List UInt8 := [182, 0, 196, 167, 255, 223, 42, 180, 0, 26, 176]
abbrev dktX5_description_3 : List UInt8 := dkwX5_description_3 ++ []
def dkwX5_description_2 : List UInt8 := [42, 42, 180, 0, 31, 184, 0, 214, 4, 182, 0, 100, 42, 42, 180, 0, 31, 182, 0, 217, 42, 16, 59]
abbrev dktX5_description_2 : List UInt8 := dkwX5_description_2 ++ dktX5_description_3
def dkwX5_description_1 : List UInt8 := [182, 0, 107, 4, 182, 0, 100, 42, 182, 0, 104, 42, 16, 59, 182, 0, 196, 42, 180, 0, 49, 153, 0, 32]
abbrev dktX5_description_1 : List UInt8 := dkwX5_description_1 ++ dktX5_description_2
def dkwX5_description_0 : List UInt8 := [42, 187, 0, 209, 89, 183, 0, 211, 181, 0, 26, 42, 182, 0, 104, 42, 42, 180, 0, 31, 18, 212]
abbrev dktX5_description_0 : List UInt8 := dkwX5_description_0 ++ dktX5_description_1
theorem dksX5_description_0 : cX5_description.data.toList.drop 0 = dktX5_description_0 := by decide +kernel
theorem dksX5_description_1 : cX5_description.data.toList.drop 22 = dktX5_description_1 := dk_seg dksX5_description_0 22 rfl rfl
theorem dksX5_description_2 : cX5_description.data.toList.drop 46 = dktX5_description_2 := dk_seg dksX5_description_1 24 rfl rfl
theorem dksX5_description_3 : cX5_description.data.toList.drop 69 = dktX5_description_3 := dk_seg dksX5_description_2 23 rfl rfl
theorem dX5_description_0 : decode cX5_description 0 = .ok (.aload_n 0, 1) := dk_42 (dk_at dksX5_description_0 0 rfl rfl)
theorem dX5_description_1 : decode cX5_description 1 = .ok (.new 209, 3) := dk_187 0 209 (dk_at dksX5_description_0 1 rfl rfl)
theorem dX5_description_4 : decode cX5_description 4 = .ok (.dup, 1) := dk_89 (dk_at dksX5_description_0 4 rfl rfl)
theorem dX5_description_5 : decode cX5_description 5 = .ok (.invokespecial 211, 3) := dk_183 0 211 (dk_at dksX5_description_0 5 rfl rfl)
theorem dX5_description_8 : decode cX5_description 8 = .ok (.putfield 26, 3) := dk_181 0 26 (dk_at dksX5_description_0 8 rfl rfl)
theorem dX5_description_11 : decode cX5_description 11 = .ok (.aload_n 0, 1) := dk_42 (dk_at dksX5_description_0 11 rfl rfl)
theorem dX5_description_12 : decode cX5_description 12 = .ok (.invokevirtual 104, 3) := dk_182 0 104 (dk_at dksX5_description_0 12 rfl rfl)
theorem dX5_description_15 : decode cX5_description 15 = .ok (.aload_n 0, 1) := dk_42 (dk_at dksX5_description_0 15 rfl rfl)
theorem dX5_description_16 : decode cX5_description 16 = .ok (.aload_n 0, 1) := dk_42 (dk_at dksX5_description_0 16 rfl rfl)
theorem dX5_description_17 : decode cX5_description 17 = .ok (.getfield 31, 3) := dk_180 0 31 (dk_at dksX5_description_0 17 rfl rfl)
theorem dX5_description_20 : decode cX5_description 20 = .ok (.ldc 212, 2) := dk_18 212 (dk_at dksX5_description_0 20 rfl rfl)
theorem dX5_description_22 : decode cX5_description 22 = .ok (.invokevirtual 107, 3) := dk_182 0 107 (dk_at dksX5_description_1 0 rfl rfl)
theorem dX5_description_25 : decode cX5_description 25 = .ok (.iconst 1, 1) := dk_4 (dk_at dksX5_description_1 3 rfl rfl)
theorem dX5_description_26 : decode cX5_description 26 = .ok (.invokevirtual 100, 3) := dk_182 0 100 (dk_at dksX5_description_1 4 rfl rfl)
theorem dX5_description_29 : decode cX5_description 29 = .ok (.aload_n 0, 1) := dk_42 (dk_at dksX5_description_1 7 rfl rfl)
theorem dX5_description_30 : decode cX5_description 30 = .ok (.invokevirtual 104, 3) := dk_182 0 104 (dk_at dksX5_description_1 8 rfl rfl)
theorem dX5_description_33 : decode cX5_description 33 = .ok (.aload_n 0, 1) := dk_42 (dk_at dksX5_description_1 11 rfl rfl)
theorem dX5_description_34 : decode cX5_description 34 = .ok (.bipush 59, 2) := dk_16 59 (dk_at dksX5_description_1 12 rfl rfl)
theorem dX5_description_36 : decode cX5_description 36 = .ok (.invokevirtual 196, 3) := dk_182 0 196 (dk_at dksX5_description_1 14 rfl rfl)
theorem dX5_description_39 : decode cX5_description 39 = .ok (.aload_n 0, 1) := dk_42 (dk_at dksX5_description_1 17 rfl rfl)
theorem dX5_description_40 : decode cX5_description 40 = .ok (.getfield 49, 3) := dk_180 0 49 (dk_at dksX5_description_1 18 rfl rfl)
theorem dX5_description_43 : decode cX5_description 43 = .ok (.ifCond .eq 32, 3) := dk_153 0 32 (dk_at dksX5_description_1 21 rfl rfl)
theorem dX5_description_46 : decode cX5_description 46 = .ok (.aload_n 0, 1) := dk_42 (dk_at dksX5_description_2 0 rfl rfl)
theorem dX5_description_47 : decode cX5_description 47 = .ok (.aload_n 0, 1) := dk_42 (dk_at dksX5_description_2 1 rfl rfl)
theorem dX5_description_48 : decode cX5_description 48 = .ok (.getfield 31, 3) := dk_180 0 31 (dk_at dksX5_description_2 2 rfl rfl)
theorem dX5_description_51 : decode cX5_description 51 = .ok (.invokestatic 214, 3) := dk_184 0 214 (dk_at dksX5_description_2 5 rfl rfl)
theorem dX5_description_54 : decode cX5_description 54 = .ok (.iconst 1, 1) := dk_4 (dk_at dksX5_description_2 8 rfl rfl)
theorem dX5_description_55 : decode cX5_description 55 = .ok (.invokevirtual 100, 3) := dk_182 0 100 (dk_at dksX5_description_2 9 rfl rfl)
theorem dX5_description_58 : decode cX5_description 58 = .ok (.aload_n 0, 1) := dk_42 (dk_at dksX5_description_2 12 rfl rfl)
theorem dX5_description_59 : decode cX5_description 59 = .ok (.aload_n 0, 1) := dk_42 (dk_at dksX5_description_2 13 rfl rfl)
theorem dX5_description_60 : decode cX5_description 60 = .ok (.getfield 31, 3) := dk_180 0 31 (dk_at dksX5_description_2 14 rfl rfl)
theorem dX5_description_63 : decode cX5_description 63 = .ok (.invokevirtual 217, 3) := dk_182 0 217 (dk_at dksX5_description_2 17 rfl rfl)
theorem dX5_description_66 : decode cX5_description 66 = .ok (.aload_n 0, 1) := dk_42 (dk_at dksX5_description_2 20 rfl rfl)
theorem dX5_description_67 : decode cX5_description 67 = .ok (.bipush 59, 2) := dk_16 59 (dk_at dksX5_description_2 21 rfl rfl)
theorem dX5_description_69 : decode cX5_description 69 = .ok (.invokevirtual 196, 3) := dk_182 0 196 (dk_at dksX5_description_3 0 rfl rfl)
theorem dX5_description_72 : decode cX5_description 72 = .ok (.goto (-33), 3) := dk_167 255 223 (dk_at dksX5_description_3 3 rfl rfl)
theorem dX5_description_75 : decode cX5_description 75 = .ok (.aload_n 0, 1) := dk_42 (dk_at dksX5_description_3 6 rfl rfl)
theorem dX5_description_76 : decode cX5_description 76 = .ok (.getfield 26, 3) := dk_180 0 26 (dk_at dksX5_description_3 7 rfl rfl)
theorem dX5_description_79 : decode cX5_description 79 = .ok (.areturn, 1) := dk_176 (dk_at dksX5_description_3 10 rfl rfl)
abbrev cX5_advance : ByteArray := prog_15_method_3_code
def yX5_advance : MethodName := ⟨RX5, "advance", "()V"⟩
def dkwX5_advance_10 : List UInt8 := [181, 0, 49, 177]
abbrev dktX5_advance_10 : List UInt8 := dkwX5_advance_10 ++ []
def dkwX5_advance_9 : List UInt8 := [42, 27, 16, 59, 159, 0, 15, 27, 16, 40, 159, 0, 9, 27, 16, 41, 160, 0, 7, 6, 167, 0, 4, 7]
abbrev dktX5_advance_9 : List UInt8 := dkwX5_advance_9 ++ dktX5_advance_10
def dkwX5_advance_8 : List UInt8 := [164, 0, 7, 7, 167, 0, 4, 5, 181, 0, 49, 167, 0, 40, 42, 89, 180, 0, 39, 4, 96, 181, 0, 39]
abbrev dktX5_advance_8 : List UInt8 := dkwX5_advance_8 ++ dktX5_advance_9
def dkwX5_advance_7 : List UInt8 := [89, 180, 0, 39, 4, 96, 181, 0, 39, 167, 255, 197, 42, 42, 180, 0, 39, 42, 180, 0, 46, 100, 7]
abbrev dktX5_advance_7 : List UInt8 := dkwX5_advance_7 ++ dktX5_advance_8
def dkwX5_advance_6 : List UInt8 := [42, 180, 0, 67, 104, 42, 42, 180, 0, 39, 182, 0, 42, 96, 16, 48, 100, 184, 0, 71, 181, 0, 67, 42]
abbrev dktX5_advance_6 : List UInt8 := dkwX5_advance_6 ++ dktX5_advance_7
def dkwX5_advance_5 : List UInt8 := [180, 0, 39, 182, 0, 42, 133, 20, 0, 63, 20, 0, 65, 184, 0, 56, 153, 0, 44, 42, 18, 70, 16, 10]
abbrev dktX5_advance_5 : List UInt8 := dkwX5_advance_5 ++ dktX5_advance_6
def dkwX5_advance_4 : List UInt8 := [167, 0, 146, 27, 133, 20, 0, 63, 20, 0, 65, 184, 0, 56, 153, 0, 95, 42, 3, 181, 0, 67, 42, 42]
abbrev dktX5_advance_4 : List UInt8 := dkwX5_advance_4 ++ dktX5_advance_5
def dkwX5_advance_3 : List UInt8 := [181, 0, 49, 167, 0, 167, 27, 133, 20, 0, 52, 20, 0, 54, 184, 0, 56, 153, 0, 10, 42, 182, 0, 60]
abbrev dktX5_advance_3 : List UInt8 := dkwX5_advance_3 ++ dktX5_advance_4
def dkwX5_advance_2 : List UInt8 := [42, 18, 29, 181, 0, 31, 42, 42, 180, 0, 46, 182, 0, 42, 60, 27, 2, 160, 0, 11, 42, 3]
abbrev dktX5_advance_2 : List UInt8 := dkwX5_advance_2 ++ dktX5_advance_3
def dkwX5_advance_1 : List UInt8 := [160, 0, 16, 42, 89, 180, 0, 39, 4, 96, 181, 0, 39, 167, 255, 220, 42, 42, 180, 0, 39, 181, 0, 46]
abbrev dktX5_advance_1 : List UInt8 := dkwX5_advance_1 ++ dktX5_advance_2
def dkwX5_advance_0 : List UInt8 := [42, 42, 180, 0, 39, 182, 0, 42, 16, 32, 159, 0, 16, 42, 42, 180, 0, 39, 182, 0, 42, 16, 10]
abbrev dktX5_advance_0 : List UInt8 := dkwX5_advance_0 ++ dktX5_advance_1
theorem dksX5_advance_0 : cX5_advance.data.toList.drop 0 = dktX5_advance_0 := by decide +kernel
theorem dksX5_advance_1 : cX5_advance.data.toList.drop 23 = dktX5_advance_1 := dk_seg dksX5_advance_0 23 rfl rfl
theorem dksX5_advance_2 : cX5_advance.data.toList.drop 47 = dktX5_advance_2 := dk_seg dksX5_advance_1 24 rfl rfl
theorem dksX5_advance_3 : cX5_advance.data.toList.drop 69 = dktX5_advance_3 := dk_seg dksX5_advance_2 22 rfl rfl
theorem dksX5_advance_4 : cX5_advance.data.toList.drop 93 = dktX5_advance_4 := dk_seg dksX5_advance_3 24 rfl rfl
theorem dksX5_advance_5 : cX5_advance.data.toList.drop 117 = dktX5_advance_5 := dk_seg dksX5_advance_4 24 rfl rfl
theorem dksX5_advance_6 : cX5_advance.data.toList.drop 141 = dktX5_advance_6 := dk_seg dksX5_advance_5 24 rfl rfl
theorem dksX5_advance_7 : cX5_advance.data.toList.drop 165 = dktX5_advance_7 := dk_seg dksX5_advance_6 24 rfl rfl
theorem dksX5_advance_8 : cX5_advance.data.toList.drop 188 = dktX5_advance_8 := dk_seg dksX5_advance_7 23 rfl rfl
theorem dksX5_advance_9 : cX5_advance.data.toList.drop 212 = dktX5_advance_9 := dk_seg dksX5_advance_8 24 rfl rfl
theorem dksX5_advance_10 : cX5_advance.data.toList.drop 236 = dktX5_advance_10 := dk_seg dksX5_advance_9 24 rfl rfl
theorem dX5_advance_0 : decode cX5_advance 0 = .ok (.aload_n 0, 1) := dk_42 (dk_at dksX5_advance_0 0 rfl rfl)
theorem dX5_advance_1 : decode cX5_advance 1 = .ok (.aload_n 0, 1) := dk_42 (dk_at dksX5_advance_0 1 rfl rfl)
theorem dX5_advance_2 : decode cX5_advance 2 = .ok (.getfield 39, 3) := dk_180 0 39 (dk_at dksX5_advance_0 2 rfl rfl)
theorem dX5_advance_5 : decode cX5_advance 5 = .ok (.invokevirtual 42, 3) := dk_182 0 42 (dk_at dksX5_advance_0 5 rfl rfl)
theorem dX5_advance_8 : decode cX5_advance 8 = .ok (.bipush 32, 2) := dk_16 32 (dk_at dksX5_advance_0 8 rfl rfl)
theorem dX5_advance_10 : decode cX5_advance 10 = .ok (.if_icmp .eq 16, 3) := dk_159 0 16 (dk_at dksX5_advance_0 10 rfl rfl)
theorem dX5_advance_13 : decode cX5_advance 13 = .ok (.aload_n 0, 1) := dk_42 (dk_at dksX5_advance_0 13 rfl rfl)
theorem dX5_advance_14 : decode cX5_advance 14 = .ok (.aload_n 0, 1) := dk_42 (dk_at dksX5_advance_0 14 rfl rfl)
theorem dX5_advance_15 : decode cX5_advance 15 = .ok (.getfield 39, 3) := dk_180 0 39 (dk_at dksX5_advance_0 15 rfl rfl)
theorem dX5_advance_18 : decode cX5_advance 18 = .ok (.invokevirtual 42, 3) := dk_182 0 42 (dk_at dksX5_advance_0 18 rfl rfl)
theorem dX5_advance_21 : decode cX5_advance 21 = .ok (.bipush 10, 2) := dk_16 10 (dk_at dksX5_advance_0 21 rfl rfl)
theorem dX5_advance_23 : decode cX5_advance 23 = .ok (.if_icmp .ne 16, 3) := dk_160 0 16 (dk_at dksX5_advance_1 0 rfl rfl)
theorem dX5_advance_26 : decode cX5_advance 26 = .ok (.aload_n 0, 1) := dk_42 (dk_at dksX5_advance_1 3 rfl rfl)
theorem dX5_advance_27 : decode cX5_advance 27 = .ok (.dup, 1) := dk_89 (dk_at dksX5_advance_1 4 rfl rfl)
theorem dX5_advance_28 : decode cX5_advance 28 = .ok (.getfield 39, 3) := dk_180 0 39 (dk_at dksX5_advance_1 5 rfl rfl)
theorem dX5_advance_31 : decode cX5_advance 31 = .ok (.iconst 1, 1) := dk_4 (dk_at dksX5_advance_1 8 rfl rfl)
theorem dX5_advance_32 : decode cX5_advance 32 = .ok (.iadd, 1) := dk_96 (dk_at dksX5_advance_1 9 rfl rfl)
theorem dX5_advance_33 : decode cX5_advance 33 = .ok (.putfield 39, 3) := dk_181 0 39 (dk_at dksX5_advance_1 10 rfl rfl)
theorem dX5_advance_36 : decode cX5_advance 36 = .ok (.goto (-36), 3) := dk_167 255 220 (dk_at dksX5_advance_1 13 rfl rfl)
theorem dX5_advance_39 : decode cX5_advance 39 = .ok (.aload_n 0, 1) := dk_42 (dk_at dksX5_advance_1 16 rfl rfl)
theorem dX5_advance_40 : decode cX5_advance 40 = .ok (.aload_n 0, 1) := dk_42 (dk_at dksX5_advance_1 17 rfl rfl)
theorem dX5_advance_41 : decode cX5_advance 41 = .ok (.getfield 39, 3) := dk_180 0 39 (dk_at dksX5_advance_1 18 rfl rfl)
theorem dX5_advance_44 : decode cX5_advance 44 = .ok (.putfield 46, 3) := dk_181 0 46 (dk_at dksX5_advance_1 21 rfl rfl)
theorem dX5_advance_47 : decode cX5_advance 47 = .ok (.aload_n 0, 1) := dk_42 (dk_at dksX5_advance_2 0 rfl rfl)
theorem dX5_advance_48 : decode cX5_advance 48 = .ok (.ldc 29, 2) := dk_18 29 (dk_at dksX5_advance_2 1 rfl rfl)
theorem dX5_advance_50 : decode cX5_advance 50 = .ok (.putfield 31, 3) := dk_181 0 31 (dk_at dksX5_advance_2 3 rfl rfl)
theorem dX5_advance_53 : decode cX5_advance 53 = .ok (.aload_n 0, 1) := dk_42 (dk_at dksX5_advance_2 6 rfl rfl)
theorem dX5_advance_54 : decode cX5_advance 54 = .ok (.aload_n 0, 1) := dk_42 (dk_at dksX5_advance_2 7 rfl rfl)
theorem dX5_advance_55 : decode cX5_advance 55 = .ok (.getfield 46, 3) := dk_180 0 46 (dk_at dksX5_advance_2 8 rfl rfl)
theorem dX5_advance_58 : decode cX5_advance 58 = .ok (.invokevirtual 42, 3) := dk_182 0 42 (dk_at dksX5_advance_2 11 rfl rfl)
theorem dX5_advance_61 : decode cX5_advance 61 = .ok (.istore_n 1, 1) := dk_60 (dk_at dksX5_advance_2 14 rfl rfl)
theorem dX5_advance_62 : decode cX5_advance 62 = .ok (.iload_n 1, 1) := dk_27 (dk_at dksX5_advance_2 15 rfl rfl)
theorem dX5_advance_63 : decode cX5_advance 63 = .ok (.iconst (-1), 1) := dk_2 (dk_at dksX5_advance_2 16 rfl rfl)
theorem dX5_advance_64 : decode cX5_advance 64 = .ok (.if_icmp .ne 11, 3) := dk_160 0 11 (dk_at dksX5_advance_2 17 rfl rfl)
theorem dX5_advance_67 : decode cX5_advance 67 = .ok (.aload_n 0, 1) := dk_42 (dk_at dksX5_advance_2 20 rfl rfl)
theorem dX5_advance_68 : decode cX5_advance 68 = .ok (.iconst 0, 1) := dk_3 (dk_at dksX5_advance_2 21 rfl rfl)
theorem dX5_advance_69 : decode cX5_advance 69 = .ok (.putfield 49, 3) := dk_181 0 49 (dk_at dksX5_advance_3 0 rfl rfl)
theorem dX5_advance_72 : decode cX5_advance 72 = .ok (.goto 167, 3) := dk_167 0 167 (dk_at dksX5_advance_3 3 rfl rfl)
theorem dX5_advance_75 : decode cX5_advance 75 = .ok (.iload_n 1, 1) := dk_27 (dk_at dksX5_advance_3 6 rfl rfl)
theorem dX5_advance_76 : decode cX5_advance 76 = .ok (.i2l, 1) := dk_133 (dk_at dksX5_advance_3 7 rfl rfl)
theorem dX5_advance_77 : decode cX5_advance 77 = .ok (.ldc2_w 52, 3) := dk_20 0 52 (dk_at dksX5_advance_3 8 rfl rfl)
theorem dX5_advance_80 : decode cX5_advance 80 = .ok (.ldc2_w 54, 3) := dk_20 0 54 (dk_at dksX5_advance_3 11 rfl rfl)
theorem dX5_advance_83 : decode cX5_advance 83 = .ok (.invokestatic 56, 3) := dk_184 0 56 (dk_at dksX5_advance_3 14 rfl rfl)
theorem dX5_advance_86 : decode cX5_advance 86 = .ok (.ifCond .eq 10, 3) := dk_153 0 10 (dk_at dksX5_advance_3 17 rfl rfl)
theorem dX5_advance_89 : decode cX5_advance 89 = .ok (.aload_n 0, 1) := dk_42 (dk_at dksX5_advance_3 20 rfl rfl)
theorem dX5_advance_90 : decode cX5_advance 90 = .ok (.invokevirtual 60, 3) := dk_182 0 60 (dk_at dksX5_advance_3 21 rfl rfl)
theorem dX5_advance_93 : decode cX5_advance 93 = .ok (.goto 146, 3) := dk_167 0 146 (dk_at dksX5_advance_4 0 rfl rfl)
theorem dX5_advance_96 : decode cX5_advance 96 = .ok (.iload_n 1, 1) := dk_27 (dk_at dksX5_advance_4 3 rfl rfl)
theorem dX5_advance_97 : decode cX5_advance 97 = .ok (.i2l, 1) := dk_133 (dk_at dksX5_advance_4 4 rfl rfl)
theorem dX5_advance_98 : decode cX5_advance 98 = .ok (.ldc2_w 63, 3) := dk_20 0 63 (dk_at dksX5_advance_4 5 rfl rfl)
theorem dX5_advance_101 : decode cX5_advance 101 = .ok (.ldc2_w 65, 3) := dk_20 0 65 (dk_at dksX5_advance_4 8 rfl rfl)
theorem dX5_advance_104 : decode cX5_advance 104 = .ok (.invokestatic 56, 3) := dk_184 0 56 (dk_at dksX5_advance_4 11 rfl rfl)
theorem dX5_advance_107 : decode cX5_advance 107 = .ok (.ifCond .eq 95, 3) := dk_153 0 95 (dk_at dksX5_advance_4 14 rfl rfl)
theorem dX5_advance_110 : decode cX5_advance 110 = .ok (.aload_n 0, 1) := dk_42 (dk_at dksX5_advance_4 17 rfl rfl)
theorem dX5_advance_111 : decode cX5_advance 111 = .ok (.iconst 0, 1) := dk_3 (dk_at dksX5_advance_4 18 rfl rfl)
theorem dX5_advance_112 : decode cX5_advance 112 = .ok (.putfield 67, 3) := dk_181 0 67 (dk_at dksX5_advance_4 19 rfl rfl)
theorem dX5_advance_115 : decode cX5_advance 115 = .ok (.aload_n 0, 1) := dk_42 (dk_at dksX5_advance_4 22 rfl rfl)
theorem dX5_advance_116 : decode cX5_advance 116 = .ok (.aload_n 0, 1) := dk_42 (dk_at dksX5_advance_4 23 rfl rfl)
theorem dX5_advance_117 : decode cX5_advance 117 = .ok (.getfield 39, 3) := dk_180 0 39 (dk_at dksX5_advance_5 0 rfl rfl)
theorem dX5_advance_120 : decode cX5_advance 120 = .ok (.invokevirtual 42, 3) := dk_182 0 42 (dk_at dksX5_advance_5 3 rfl rfl)
theorem dX5_advance_123 : decode cX5_advance 123 = .ok (.i2l, 1) := dk_133 (dk_at dksX5_advance_5 6 rfl rfl)
theorem dX5_advance_124 : decode cX5_advance 124 = .ok (.ldc2_w 63, 3) := dk_20 0 63 (dk_at dksX5_advance_5 7 rfl rfl)
theorem dX5_advance_127 : decode cX5_advance 127 = .ok (.ldc2_w 65, 3) := dk_20 0 65 (dk_at dksX5_advance_5 10 rfl rfl)
theorem dX5_advance_130 : decode cX5_advance 130 = .ok (.invokestatic 56, 3) := dk_184 0 56 (dk_at dksX5_advance_5 13 rfl rfl)
theorem dX5_advance_133 : decode cX5_advance 133 = .ok (.ifCond .eq 44, 3) := dk_153 0 44 (dk_at dksX5_advance_5 16 rfl rfl)
theorem dX5_advance_136 : decode cX5_advance 136 = .ok (.aload_n 0, 1) := dk_42 (dk_at dksX5_advance_5 19 rfl rfl)
theorem dX5_advance_137 : decode cX5_advance 137 = .ok (.ldc 70, 2) := dk_18 70 (dk_at dksX5_advance_5 20 rfl rfl)
theorem dX5_advance_139 : decode cX5_advance 139 = .ok (.bipush 10, 2) := dk_16 10 (dk_at dksX5_advance_5 22 rfl rfl)
theorem dX5_advance_141 : decode cX5_advance 141 = .ok (.aload_n 0, 1) := dk_42 (dk_at dksX5_advance_6 0 rfl rfl)
theorem dX5_advance_142 : decode cX5_advance 142 = .ok (.getfield 67, 3) := dk_180 0 67 (dk_at dksX5_advance_6 1 rfl rfl)
theorem dX5_advance_145 : decode cX5_advance 145 = .ok (.imul, 1) := dk_104 (dk_at dksX5_advance_6 4 rfl rfl)
theorem dX5_advance_146 : decode cX5_advance 146 = .ok (.aload_n 0, 1) := dk_42 (dk_at dksX5_advance_6 5 rfl rfl)
theorem dX5_advance_147 : decode cX5_advance 147 = .ok (.aload_n 0, 1) := dk_42 (dk_at dksX5_advance_6 6 rfl rfl)
theorem dX5_advance_148 : decode cX5_advance 148 = .ok (.getfield 39, 3) := dk_180 0 39 (dk_at dksX5_advance_6 7 rfl rfl)
theorem dX5_advance_151 : decode cX5_advance 151 = .ok (.invokevirtual 42, 3) := dk_182 0 42 (dk_at dksX5_advance_6 10 rfl rfl)
theorem dX5_advance_154 : decode cX5_advance 154 = .ok (.iadd, 1) := dk_96 (dk_at dksX5_advance_6 13 rfl rfl)
theorem dX5_advance_155 : decode cX5_advance 155 = .ok (.bipush 48, 2) := dk_16 48 (dk_at dksX5_advance_6 14 rfl rfl)
theorem dX5_advance_157 : decode cX5_advance 157 = .ok (.isub, 1) := dk_100 (dk_at dksX5_advance_6 16 rfl rfl)
theorem dX5_advance_158 : decode cX5_advance 158 = .ok (.invokestatic 71, 3) := dk_184 0 71 (dk_at dksX5_advance_6 17 rfl rfl)
theorem dX5_advance_161 : decode cX5_advance 161 = .ok (.putfield 67, 3) := dk_181 0 67 (dk_at dksX5_advance_6 20 rfl rfl)
theorem dX5_advance_164 : decode cX5_advance 164 = .ok (.aload_n 0, 1) := dk_42 (dk_at dksX5_advance_6 23 rfl rfl)
theorem dX5_advance_165 : decode cX5_advance 165 = .ok (.dup, 1) := dk_89 (dk_at dksX5_advance_7 0 rfl rfl)
theorem dX5_advance_166 : decode cX5_advance 166 = .ok (.getfield 39, 3) := dk_180 0 39 (dk_at dksX5_advance_7 1 rfl rfl)
theorem dX5_advance_169 : decode cX5_advance 169 = .ok (.iconst 1, 1) := dk_4 (dk_at dksX5_advance_7 4 rfl rfl)
theorem dX5_advance_170 : decode cX5_advance 170 = .ok (.iadd, 1) := dk_96 (dk_at dksX5_advance_7 5 rfl rfl)
theorem dX5_advance_171 : decode cX5_advance 171 = .ok (.putfield 39, 3) := dk_181 0 39 (dk_at dksX5_advance_7 6 rfl rfl)
theorem dX5_advance_174 : decode cX5_advance 174 = .ok (.goto (-59), 3) := dk_167 255 197 (dk_at dksX5_advance_7 9 rfl rfl)
theorem dX5_advance_177 : decode cX5_advance 177 = .ok (.aload_n 0, 1) := dk_42 (dk_at dksX5_advance_7 12 rfl rfl)
theorem dX5_advance_178 : decode cX5_advance 178 = .ok (.aload_n 0, 1) := dk_42 (dk_at dksX5_advance_7 13 rfl rfl)
theorem dX5_advance_179 : decode cX5_advance 179 = .ok (.getfield 39, 3) := dk_180 0 39 (dk_at dksX5_advance_7 14 rfl rfl)
theorem dX5_advance_182 : decode cX5_advance 182 = .ok (.aload_n 0, 1) := dk_42 (dk_at dksX5_advance_7 17 rfl rfl)
theorem dX5_advance_183 : decode cX5_advance 183 = .ok (.getfield 46, 3) := dk_180 0 46 (dk_at dksX5_advance_7 18 rfl rfl)
theorem dX5_advance_186 : decode cX5_advance 186 = .ok (.isub, 1) := dk_100 (dk_at dksX5_advance_7 21 rfl rfl)
theorem dX5_advance_187 : decode cX5_advance 187 = .ok (.iconst 4, 1) := dk_7 (dk_at dksX5_advance_7 22 rfl rfl)
theorem dX5_advance_188 : decode cX5_advance 188 = .ok (.if_icmp .le 7, 3) := dk_164 0 7 (dk_at dksX5_advance_8 0 rfl rfl)
theorem dX5_advance_191 : decode cX5_advance 191 = .ok (.iconst 4, 1) := dk_7 (dk_at dksX5_advance_8 3 rfl rfl)
theorem dX5_advance_192 : decode cX5_advance 192 = .ok (.goto 4, 3) := dk_167 0 4 (dk_at dksX5_advance_8 4 rfl rfl)
theorem dX5_advance_195 : decode cX5_advance 195 = .ok (.iconst 2, 1) := dk_5 (dk_at dksX5_advance_8 7 rfl rfl)
theorem dX5_advance_196 : decode cX5_advance 196 = .ok (.putfield 49, 3) := dk_181 0 49 (dk_at dksX5_advance_8 8 rfl rfl)
theorem dX5_advance_199 : decode cX5_advance 199 = .ok (.goto 40, 3) := dk_167 0 40 (dk_at dksX5_advance_8 11 rfl rfl)
theorem dX5_advance_202 : decode cX5_advance 202 = .ok (.aload_n 0, 1) := dk_42 (dk_at dksX5_advance_8 14 rfl rfl)
theorem dX5_advance_203 : decode cX5_advance 203 = .ok (.dup, 1) := dk_89 (dk_at dksX5_advance_8 15 rfl rfl)
theorem dX5_advance_204 : decode cX5_advance 204 = .ok (.getfield 39, 3) := dk_180 0 39 (dk_at dksX5_advance_8 16 rfl rfl)
theorem dX5_advance_207 : decode cX5_advance 207 = .ok (.iconst 1, 1) := dk_4 (dk_at dksX5_advance_8 19 rfl rfl)
theorem dX5_advance_208 : decode cX5_advance 208 = .ok (.iadd, 1) := dk_96 (dk_at dksX5_advance_8 20 rfl rfl)
theorem dX5_advance_209 : decode cX5_advance 209 = .ok (.putfield 39, 3) := dk_181 0 39 (dk_at dksX5_advance_8 21 rfl rfl)
theorem dX5_advance_212 : decode cX5_advance 212 = .ok (.aload_n 0, 1) := dk_42 (dk_at dksX5_advance_9 0 rfl rfl)
theorem dX5_advance_213 : decode cX5_advance 213 = .ok (.iload_n 1, 1) := dk_27 (dk_at dksX5_advance_9 1 rfl rfl)
theorem dX5_advance_214 : decode cX5_advance 214 = .ok (.bipush 59, 2) := dk_16 59 (dk_at dksX5_advance_9 2 rfl rfl)
theorem dX5_advance_216 : decode cX5_advance 216 = .ok (.if_icmp .eq 15, 3) := dk_159 0 15 (dk_at dksX5_advance_9 4 rfl rfl)
theorem dX5_advance_219 : decode cX5_advance 219 = .ok (.iload_n 1, 1) := dk_27 (dk_at dksX5_advance_9 7 rfl rfl)
theorem dX5_advance_220 : decode cX5_advance 220 = .ok (.bipush 40, 2) := dk_16 40 (dk_at dksX5_advance_9 8 rfl rfl)
theorem dX5_advance_222 : decode cX5_advance 222 = .ok (.if_icmp .eq 9, 3) := dk_159 0 9 (dk_at dksX5_advance_9 10 rfl rfl)
theorem dX5_advance_225 : decode cX5_advance 225 = .ok (.iload_n 1, 1) := dk_27 (dk_at dksX5_advance_9 13 rfl rfl)
theorem dX5_advance_226 : decode cX5_advance 226 = .ok (.bipush 41, 2) := dk_16 41 (dk_at dksX5_advance_9 14 rfl rfl)
theorem dX5_advance_228 : decode cX5_advance 228 = .ok (.if_icmp .ne 7, 3) := dk_160 0 7 (dk_at dksX5_advance_9 16 rfl rfl)
theorem dX5_advance_231 : decode cX5_advance 231 = .ok (.iconst 3, 1) := dk_6 (dk_at dksX5_advance_9 19 rfl rfl)
theorem dX5_advance_232 : decode cX5_advance 232 = .ok (.goto 4, 3) := dk_167 0 4 (dk_at dksX5_advance_9 20 rfl rfl)
theorem dX5_advance_235 : decode cX5_advance 235 = .ok (.iconst 4, 1) := dk_7 (dk_at dksX5_advance_9 23 rfl rfl)
theorem dX5_advance_236 : decode cX5_advance 236 = .ok (.putfield 49, 3) := dk_181 0 49 (dk_at dksX5_advance_10 0 rfl rfl)
theorem dX5_advance_239 : decode cX5_advance 239 = .ok (.return_, 1) := dk_177 (dk_at dksX5_advance_10 3 rfl rfl)
abbrev cX5_byteAt : ByteArray := prog_15_method_2_code
def yX5_byteAt : MethodName := ⟨RX5, "byteAt", "(I)I"⟩
def dkwX5_byteAt_1 : List UInt8 := [2, 172]
abbrev dktX5_byteAt_1 : List UInt8 := dkwX5_byteAt_1 ++ []
def dkwX5_byteAt_0 : List UInt8 := [27, 42, 180, 0, 19, 162, 0, 19, 42, 180, 0, 3, 180, 0, 35, 27, 51, 17, 0, 255, 126, 167, 0, 4]
abbrev dktX5_byteAt_0 : List UInt8 := dkwX5_byteAt_0 ++ dktX5_byteAt_1
theorem dksX5_byteAt_0 : cX5_byteAt.data.toList.drop 0 = dktX5_byteAt_0 := by decide +kernel
theorem dksX5_byteAt_1 : cX5_byteAt.data.toList.drop 24 = dktX5_byteAt_1 := dk_seg dksX5_byteAt_0 24 rfl rfl
theorem dX5_byteAt_0 : decode cX5_byteAt 0 = .ok (.iload_n 1, 1) := dk_27 (dk_at dksX5_byteAt_0 0 rfl rfl)
theorem dX5_byteAt_1 : decode cX5_byteAt 1 = .ok (.aload_n 0, 1) := dk_42 (dk_at dksX5_byteAt_0 1 rfl rfl)
theorem dX5_byteAt_2 : decode cX5_byteAt 2 = .ok (.getfield 19, 3) := dk_180 0 19 (dk_at dksX5_byteAt_0 2 rfl rfl)
theorem dX5_byteAt_5 : decode cX5_byteAt 5 = .ok (.if_icmp .ge 19, 3) := dk_162 0 19 (dk_at dksX5_byteAt_0 5 rfl rfl)
theorem dX5_byteAt_8 : decode cX5_byteAt 8 = .ok (.aload_n 0, 1) := dk_42 (dk_at dksX5_byteAt_0 8 rfl rfl)
theorem dX5_byteAt_9 : decode cX5_byteAt 9 = .ok (.getfield 3, 3) := dk_180 0 3 (dk_at dksX5_byteAt_0 9 rfl rfl)
theorem dX5_byteAt_12 : decode cX5_byteAt 12 = .ok (.getfield 35, 3) := dk_180 0 35 (dk_at dksX5_byteAt_0 12 rfl rfl)
theorem dX5_byteAt_15 : decode cX5_byteAt 15 = .ok (.iload_n 1, 1) := dk_27 (dk_at dksX5_byteAt_0 15 rfl rfl)
theorem dX5_byteAt_16 : decode cX5_byteAt 16 = .ok (.baload, 1) := dk_51 (dk_at dksX5_byteAt_0 16 rfl rfl)
theorem dX5_byteAt_17 : decode cX5_byteAt 17 = .ok (.sipush 255, 3) := dk_17 0 255 (dk_at dksX5_byteAt_0 17 rfl rfl)
theorem dX5_byteAt_20 : decode cX5_byteAt 20 = .ok (.iand, 1) := dk_126 (dk_at dksX5_byteAt_0 20 rfl rfl)
theorem dX5_byteAt_21 : decode cX5_byteAt 21 = .ok (.goto 4, 3) := dk_167 0 4 (dk_at dksX5_byteAt_0 21 rfl rfl)
theorem dX5_byteAt_24 : decode cX5_byteAt 24 = .ok (.iconst (-1), 1) := dk_2 (dk_at dksX5_byteAt_1 0 rfl rfl)
theorem dX5_byteAt_25 : decode cX5_byteAt 25 = .ok (.ireturn, 1) := dk_172 (dk_at dksX5_byteAt_1 1 rfl rfl)
abbrev cX5_readWord : ByteArray := prog_15_method_4_code
def yX5_readWord : MethodName := ⟨RX5, "readWord", "()V"⟩
def dkwX5_readWord_4 : List UInt8 := [180, 0, 49, 4, 160, 0, 10, 43, 182, 0, 87, 167, 0, 5, 18, 29, 181, 0, 31, 177]
abbrev dktX5_readWord_4 : List UInt8 := dkwX5_readWord_4 ++ []
def dkwX5_readWord_3 : List UInt8 := [180, 0, 39, 42, 180, 0, 46, 100, 16, 8, 164, 0, 7, 7, 167, 0, 4, 4, 181, 0, 49, 42, 42]
abbrev dktX5_readWord_3 : List UInt8 := dkwX5_readWord_3 ++ dktX5_readWord_4
def dkwX5_readWord_2 : List UInt8 := [180, 0, 39, 51, 146, 182, 0, 83, 87, 42, 89, 180, 0, 39, 4, 96, 181, 0, 39, 167, 255, 198, 42, 42]
abbrev dktX5_readWord_2 : List UInt8 := dkwX5_readWord_2 ++ dktX5_readWord_3
def dkwX5_readWord_1 : List UInt8 := [184, 0, 56, 153, 0, 43, 43, 182, 0, 80, 16, 8, 162, 0, 21, 43, 42, 180, 0, 3, 180, 0, 35, 42]
abbrev dktX5_readWord_1 : List UInt8 := dkwX5_readWord_1 ++ dktX5_readWord_2
def dkwX5_readWord_0 : List UInt8 := [187, 0, 77, 89, 183, 0, 79, 76, 42, 42, 180, 0, 39, 182, 0, 42, 133, 20, 0, 52, 20, 0, 54]
abbrev dktX5_readWord_0 : List UInt8 := dkwX5_readWord_0 ++ dktX5_readWord_1
theorem dksX5_readWord_0 : cX5_readWord.data.toList.drop 0 = dktX5_readWord_0 := by decide +kernel
theorem dksX5_readWord_1 : cX5_readWord.data.toList.drop 23 = dktX5_readWord_1 := dk_seg dksX5_readWord_0 23 rfl rfl
theorem dksX5_readWord_2 : cX5_readWord.data.toList.drop 47 = dktX5_readWord_2 := dk_seg dksX5_readWord_1 24 rfl rfl
theorem dksX5_readWord_3 : cX5_readWord.data.toList.drop 71 = dktX5_readWord_3 := dk_seg dksX5_readWord_2 24 rfl rfl
theorem dksX5_readWord_4 : cX5_readWord.data.toList.drop 94 = dktX5_readWord_4 := dk_seg dksX5_readWord_3 23 rfl rfl
theorem dX5_readWord_0 : decode cX5_readWord 0 = .ok (.new 77, 3) := dk_187 0 77 (dk_at dksX5_readWord_0 0 rfl rfl)
theorem dX5_readWord_3 : decode cX5_readWord 3 = .ok (.dup, 1) := dk_89 (dk_at dksX5_readWord_0 3 rfl rfl)
theorem dX5_readWord_4 : decode cX5_readWord 4 = .ok (.invokespecial 79, 3) := dk_183 0 79 (dk_at dksX5_readWord_0 4 rfl rfl)
theorem dX5_readWord_7 : decode cX5_readWord 7 = .ok (.astore_n 1, 1) := dk_76 (dk_at dksX5_readWord_0 7 rfl rfl)
theorem dX5_readWord_8 : decode cX5_readWord 8 = .ok (.aload_n 0, 1) := dk_42 (dk_at dksX5_readWord_0 8 rfl rfl)
theorem dX5_readWord_9 : decode cX5_readWord 9 = .ok (.aload_n 0, 1) := dk_42 (dk_at dksX5_readWord_0 9 rfl rfl)
theorem dX5_readWord_10 : decode cX5_readWord 10 = .ok (.getfield 39, 3) := dk_180 0 39 (dk_at dksX5_readWord_0 10 rfl rfl)
theorem dX5_readWord_13 : decode cX5_readWord 13 = .ok (.invokevirtual 42, 3) := dk_182 0 42 (dk_at dksX5_readWord_0 13 rfl rfl)
theorem dX5_readWord_16 : decode cX5_readWord 16 = .ok (.i2l, 1) := dk_133 (dk_at dksX5_readWord_0 16 rfl rfl)
theorem dX5_readWord_17 : decode cX5_readWord 17 = .ok (.ldc2_w 52, 3) := dk_20 0 52 (dk_at dksX5_readWord_0 17 rfl rfl)
theorem dX5_readWord_20 : decode cX5_readWord 20 = .ok (.ldc2_w 54, 3) := dk_20 0 54 (dk_at dksX5_readWord_0 20 rfl rfl)
theorem dX5_readWord_23 : decode cX5_readWord 23 = .ok (.invokestatic 56, 3) := dk_184 0 56 (dk_at dksX5_readWord_1 0 rfl rfl)
theorem dX5_readWord_26 : decode cX5_readWord 26 = .ok (.ifCond .eq 43, 3) := dk_153 0 43 (dk_at dksX5_readWord_1 3 rfl rfl)
theorem dX5_readWord_29 : decode cX5_readWord 29 = .ok (.aload_n 1, 1) := dk_43 (dk_at dksX5_readWord_1 6 rfl rfl)
theorem dX5_readWord_30 : decode cX5_readWord 30 = .ok (.invokevirtual 80, 3) := dk_182 0 80 (dk_at dksX5_readWord_1 7 rfl rfl)
theorem dX5_readWord_33 : decode cX5_readWord 33 = .ok (.bipush 8, 2) := dk_16 8 (dk_at dksX5_readWord_1 10 rfl rfl)
theorem dX5_readWord_35 : decode cX5_readWord 35 = .ok (.if_icmp .ge 21, 3) := dk_162 0 21 (dk_at dksX5_readWord_1 12 rfl rfl)
theorem dX5_readWord_38 : decode cX5_readWord 38 = .ok (.aload_n 1, 1) := dk_43 (dk_at dksX5_readWord_1 15 rfl rfl)
theorem dX5_readWord_39 : decode cX5_readWord 39 = .ok (.aload_n 0, 1) := dk_42 (dk_at dksX5_readWord_1 16 rfl rfl)
theorem dX5_readWord_40 : decode cX5_readWord 40 = .ok (.getfield 3, 3) := dk_180 0 3 (dk_at dksX5_readWord_1 17 rfl rfl)
theorem dX5_readWord_43 : decode cX5_readWord 43 = .ok (.getfield 35, 3) := dk_180 0 35 (dk_at dksX5_readWord_1 20 rfl rfl)
theorem dX5_readWord_46 : decode cX5_readWord 46 = .ok (.aload_n 0, 1) := dk_42 (dk_at dksX5_readWord_1 23 rfl rfl)
theorem dX5_readWord_47 : decode cX5_readWord 47 = .ok (.getfield 39, 3) := dk_180 0 39 (dk_at dksX5_readWord_2 0 rfl rfl)
theorem dX5_readWord_50 : decode cX5_readWord 50 = .ok (.baload, 1) := dk_51 (dk_at dksX5_readWord_2 3 rfl rfl)
theorem dX5_readWord_51 : decode cX5_readWord 51 = .ok (.i2c, 1) := dk_146 (dk_at dksX5_readWord_2 4 rfl rfl)
theorem dX5_readWord_52 : decode cX5_readWord 52 = .ok (.invokevirtual 83, 3) := dk_182 0 83 (dk_at dksX5_readWord_2 5 rfl rfl)
theorem dX5_readWord_55 : decode cX5_readWord 55 = .ok (.pop, 1) := dk_87 (dk_at dksX5_readWord_2 8 rfl rfl)
theorem dX5_readWord_56 : decode cX5_readWord 56 = .ok (.aload_n 0, 1) := dk_42 (dk_at dksX5_readWord_2 9 rfl rfl)
theorem dX5_readWord_57 : decode cX5_readWord 57 = .ok (.dup, 1) := dk_89 (dk_at dksX5_readWord_2 10 rfl rfl)
theorem dX5_readWord_58 : decode cX5_readWord 58 = .ok (.getfield 39, 3) := dk_180 0 39 (dk_at dksX5_readWord_2 11 rfl rfl)
theorem dX5_readWord_61 : decode cX5_readWord 61 = .ok (.iconst 1, 1) := dk_4 (dk_at dksX5_readWord_2 14 rfl rfl)
theorem dX5_readWord_62 : decode cX5_readWord 62 = .ok (.iadd, 1) := dk_96 (dk_at dksX5_readWord_2 15 rfl rfl)
theorem dX5_readWord_63 : decode cX5_readWord 63 = .ok (.putfield 39, 3) := dk_181 0 39 (dk_at dksX5_readWord_2 16 rfl rfl)
theorem dX5_readWord_66 : decode cX5_readWord 66 = .ok (.goto (-58), 3) := dk_167 255 198 (dk_at dksX5_readWord_2 19 rfl rfl)
theorem dX5_readWord_69 : decode cX5_readWord 69 = .ok (.aload_n 0, 1) := dk_42 (dk_at dksX5_readWord_2 22 rfl rfl)
theorem dX5_readWord_70 : decode cX5_readWord 70 = .ok (.aload_n 0, 1) := dk_42 (dk_at dksX5_readWord_2 23 rfl rfl)
theorem dX5_readWord_71 : decode cX5_readWord 71 = .ok (.getfield 39, 3) := dk_180 0 39 (dk_at dksX5_readWord_3 0 rfl rfl)
theorem dX5_readWord_74 : decode cX5_readWord 74 = .ok (.aload_n 0, 1) := dk_42 (dk_at dksX5_readWord_3 3 rfl rfl)
theorem dX5_readWord_75 : decode cX5_readWord 75 = .ok (.getfield 46, 3) := dk_180 0 46 (dk_at dksX5_readWord_3 4 rfl rfl)
theorem dX5_readWord_78 : decode cX5_readWord 78 = .ok (.isub, 1) := dk_100 (dk_at dksX5_readWord_3 7 rfl rfl)
theorem dX5_readWord_79 : decode cX5_readWord 79 = .ok (.bipush 8, 2) := dk_16 8 (dk_at dksX5_readWord_3 8 rfl rfl)
theorem dX5_readWord_81 : decode cX5_readWord 81 = .ok (.if_icmp .le 7, 3) := dk_164 0 7 (dk_at dksX5_readWord_3 10 rfl rfl)
theorem dX5_readWord_84 : decode cX5_readWord 84 = .ok (.iconst 4, 1) := dk_7 (dk_at dksX5_readWord_3 13 rfl rfl)
theorem dX5_readWord_85 : decode cX5_readWord 85 = .ok (.goto 4, 3) := dk_167 0 4 (dk_at dksX5_readWord_3 14 rfl rfl)
theorem dX5_readWord_88 : decode cX5_readWord 88 = .ok (.iconst 1, 1) := dk_4 (dk_at dksX5_readWord_3 17 rfl rfl)
theorem dX5_readWord_89 : decode cX5_readWord 89 = .ok (.putfield 49, 3) := dk_181 0 49 (dk_at dksX5_readWord_3 18 rfl rfl)
theorem dX5_readWord_92 : decode cX5_readWord 92 = .ok (.aload_n 0, 1) := dk_42 (dk_at dksX5_readWord_3 21 rfl rfl)
theorem dX5_readWord_93 : decode cX5_readWord 93 = .ok (.aload_n 0, 1) := dk_42 (dk_at dksX5_readWord_3 22 rfl rfl)
theorem dX5_readWord_94 : decode cX5_readWord 94 = .ok (.getfield 49, 3) := dk_180 0 49 (dk_at dksX5_readWord_4 0 rfl rfl)
theorem dX5_readWord_97 : decode cX5_readWord 97 = .ok (.iconst 1, 1) := dk_4 (dk_at dksX5_readWord_4 3 rfl rfl)
theorem dX5_readWord_98 : decode cX5_readWord 98 = .ok (.if_icmp .ne 10, 3) := dk_160 0 10 (dk_at dksX5_readWord_4 4 rfl rfl)
theorem dX5_readWord_101 : decode cX5_readWord 101 = .ok (.aload_n 1, 1) := dk_43 (dk_at dksX5_readWord_4 7 rfl rfl)
theorem dX5_readWord_102 : decode cX5_readWord 102 = .ok (.invokevirtual 87, 3) := dk_182 0 87 (dk_at dksX5_readWord_4 8 rfl rfl)
theorem dX5_readWord_105 : decode cX5_readWord 105 = .ok (.goto 5, 3) := dk_167 0 5 (dk_at dksX5_readWord_4 11 rfl rfl)
theorem dX5_readWord_108 : decode cX5_readWord 108 = .ok (.ldc 29, 2) := dk_18 29 (dk_at dksX5_readWord_4 14 rfl rfl)
theorem dX5_readWord_110 : decode cX5_readWord 110 = .ok (.putfield 31, 3) := dk_181 0 31 (dk_at dksX5_readWord_4 16 rfl rfl)
theorem dX5_readWord_113 : decode cX5_readWord 113 = .ok (.return_, 1) := dk_177 (dk_at dksX5_readWord_4 19 rfl rfl)
abbrev cX5_check : ByteArray := prog_15_method_5_code
def yX5_check : MethodName := ⟨RX5, "check", "(ZI)V"⟩
def dkwX5_check_0 : List UInt8 := [27, 154, 0, 16, 187, 0, 91, 89, 28, 42, 180, 0, 46, 183, 0, 93, 191, 177]
abbrev dktX5_check_0 : List UInt8 := dkwX5_check_0 ++ []
theorem dksX5_check_0 : cX5_check.data.toList.drop 0 = dktX5_check_0 := by decide +kernel
theorem dX5_check_0 : decode cX5_check 0 = .ok (.iload_n 1, 1) := dk_27 (dk_at dksX5_check_0 0 rfl rfl)
theorem dX5_check_1 : decode cX5_check 1 = .ok (.ifCond .ne 16, 3) := dk_154 0 16 (dk_at dksX5_check_0 1 rfl rfl)
theorem dX5_check_4 : decode cX5_check 4 = .ok (.new 91, 3) := dk_187 0 91 (dk_at dksX5_check_0 4 rfl rfl)
theorem dX5_check_7 : decode cX5_check 7 = .ok (.dup, 1) := dk_89 (dk_at dksX5_check_0 7 rfl rfl)
theorem dX5_check_8 : decode cX5_check 8 = .ok (.iload_n 2, 1) := dk_28 (dk_at dksX5_check_0 8 rfl rfl)
theorem dX5_check_9 : decode cX5_check 9 = .ok (.aload_n 0, 1) := dk_42 (dk_at dksX5_check_0 9 rfl rfl)
theorem dX5_check_10 : decode cX5_check 10 = .ok (.getfield 46, 3) := dk_180 0 46 (dk_at dksX5_check_0 10 rfl rfl)
theorem dX5_check_13 : decode cX5_check 13 = .ok (.invokespecial 93, 3) := dk_183 0 93 (dk_at dksX5_check_0 13 rfl rfl)
theorem dX5_check_16 : decode cX5_check 16 = .ok (.athrow, 1) := dk_191 (dk_at dksX5_check_0 16 rfl rfl)
theorem dX5_check_17 : decode cX5_check 17 = .ok (.return_, 1) := dk_177 (dk_at dksX5_check_0 17 rfl rfl)
abbrev cX5_sign : ByteArray := prog_15_method_7_code
def yX5_sign : MethodName := ⟨RX5, "sign", "(I)V"⟩
def dkwX5_sign_0 : List UInt8 := [42, 42, 27, 182, 0, 96, 4, 182, 0, 100, 42, 182, 0, 104, 177]
abbrev dktX5_sign_0 : List UInt8 := dkwX5_sign_0 ++ []
theorem dksX5_sign_0 : cX5_sign.data.toList.drop 0 = dktX5_sign_0 := by decide +kernel
theorem dX5_sign_0 : decode cX5_sign 0 = .ok (.aload_n 0, 1) := dk_42 (dk_at dksX5_sign_0 0 rfl rfl)
theorem dX5_sign_1 : decode cX5_sign 1 = .ok (.aload_n 0, 1) := dk_42 (dk_at dksX5_sign_0 1 rfl rfl)
theorem dX5_sign_2 : decode cX5_sign 2 = .ok (.iload_n 1, 1) := dk_27 (dk_at dksX5_sign_0 2 rfl rfl)
theorem dX5_sign_3 : decode cX5_sign 3 = .ok (.invokevirtual 96, 3) := dk_182 0 96 (dk_at dksX5_sign_0 3 rfl rfl)
theorem dX5_sign_6 : decode cX5_sign 6 = .ok (.iconst 1, 1) := dk_4 (dk_at dksX5_sign_0 6 rfl rfl)
theorem dX5_sign_7 : decode cX5_sign 7 = .ok (.invokevirtual 100, 3) := dk_182 0 100 (dk_at dksX5_sign_0 7 rfl rfl)
theorem dX5_sign_10 : decode cX5_sign 10 = .ok (.aload_n 0, 1) := dk_42 (dk_at dksX5_sign_0 10 rfl rfl)
theorem dX5_sign_11 : decode cX5_sign 11 = .ok (.invokevirtual 104, 3) := dk_182 0 104 (dk_at dksX5_sign_0 11 rfl rfl)
theorem dX5_sign_14 : decode cX5_sign 14 = .ok (.return_, 1) := dk_177 (dk_at dksX5_sign_0 14 rfl rfl)
abbrev cX5_isSign : ByteArray := prog_15_method_6_code
def yX5_isSign : MethodName := ⟨RX5, "isSign", "(I)Z"⟩
def dkwX5_isSign_1 : List UInt8 := [4, 167, 0, 4, 3, 172]
abbrev dktX5_isSign_1 : List UInt8 := dkwX5_isSign_1 ++ []
def dkwX5_isSign_0 : List UInt8 := [42, 180, 0, 49, 6, 160, 0, 23, 42, 180, 0, 3, 180, 0, 35, 42, 180, 0, 46, 51, 27, 160, 0, 7]
abbrev dktX5_isSign_0 : List UInt8 := dkwX5_isSign_0 ++ dktX5_isSign_1
theorem dksX5_isSign_0 : cX5_isSign.data.toList.drop 0 = dktX5_isSign_0 := by decide +kernel
theorem dksX5_isSign_1 : cX5_isSign.data.toList.drop 24 = dktX5_isSign_1 := dk_seg dksX5_isSign_0 24 rfl rfl
theorem dX5_isSign_0 : decode cX5_isSign 0 = .ok (.aload_n 0, 1) := dk_42 (dk_at dksX5_isSign_0 0 rfl rfl)
theorem dX5_isSign_1 : decode cX5_isSign 1 = .ok (.getfield 49, 3) := dk_180 0 49 (dk_at dksX5_isSign_0 1 rfl rfl)
theorem dX5_isSign_4 : decode cX5_isSign 4 = .ok (.iconst 3, 1) := dk_6 (dk_at dksX5_isSign_0 4 rfl rfl)
theorem dX5_isSign_5 : decode cX5_isSign 5 = .ok (.if_icmp .ne 23, 3) := dk_160 0 23 (dk_at dksX5_isSign_0 5 rfl rfl)
theorem dX5_isSign_8 : decode cX5_isSign 8 = .ok (.aload_n 0, 1) := dk_42 (dk_at dksX5_isSign_0 8 rfl rfl)
theorem dX5_isSign_9 : decode cX5_isSign 9 = .ok (.getfield 3, 3) := dk_180 0 3 (dk_at dksX5_isSign_0 9 rfl rfl)
theorem dX5_isSign_12 : decode cX5_isSign 12 = .ok (.getfield 35, 3) := dk_180 0 35 (dk_at dksX5_isSign_0 12 rfl rfl)
theorem dX5_isSign_15 : decode cX5_isSign 15 = .ok (.aload_n 0, 1) := dk_42 (dk_at dksX5_isSign_0 15 rfl rfl)
theorem dX5_isSign_16 : decode cX5_isSign 16 = .ok (.getfield 46, 3) := dk_180 0 46 (dk_at dksX5_isSign_0 16 rfl rfl)
theorem dX5_isSign_19 : decode cX5_isSign 19 = .ok (.baload, 1) := dk_51 (dk_at dksX5_isSign_0 19 rfl rfl)
theorem dX5_isSign_20 : decode cX5_isSign 20 = .ok (.iload_n 1, 1) := dk_27 (dk_at dksX5_isSign_0 20 rfl rfl)
theorem dX5_isSign_21 : decode cX5_isSign 21 = .ok (.if_icmp .ne 7, 3) := dk_160 0 7 (dk_at dksX5_isSign_0 21 rfl rfl)
theorem dX5_isSign_24 : decode cX5_isSign 24 = .ok (.iconst 1, 1) := dk_4 (dk_at dksX5_isSign_1 0 rfl rfl)
theorem dX5_isSign_25 : decode cX5_isSign 25 = .ok (.goto 4, 3) := dk_167 0 4 (dk_at dksX5_isSign_1 1 rfl rfl)
theorem dX5_isSign_28 : decode cX5_isSign 28 = .ok (.iconst 0, 1) := dk_3 (dk_at dksX5_isSign_1 4 rfl rfl)
theorem dX5_isSign_29 : decode cX5_isSign 29 = .ok (.ireturn, 1) := dk_172 (dk_at dksX5_isSign_1 5 rfl rfl)
abbrev cX5_statement : ByteArray := prog_15_method_18_code
def yX5_statement : MethodName := ⟨RX5, "statement", "(Ljava/lang/String;)V"⟩
def dkwX5_statement_13 : List UInt8 := [58, 4, 187, 0, 91, 89, 8, 42, 180, 0, 46, 183, 0, 93, 191, 177]
abbrev dktX5_statement_13 : List UInt8 := dkwX5_statement_13 ++ []
def dkwX5_statement_12 : List UInt8 := [182, 0, 253, 167, 0, 17, 42, 180, 0, 26, 28, 45, 182, 0, 255, 182, 0, 237, 54, 6, 167, 0, 18]
abbrev dktX5_statement_12 : List UInt8 := dkwX5_statement_12 ++ dktX5_statement_13
def dkwX5_statement_11 : List UInt8 := [182, 0, 193, 58, 6, 42, 42, 16, 59, 182, 0, 96, 4, 182, 0, 100, 42, 180, 0, 26, 28, 25, 6]
abbrev dktX5_statement_11 : List UInt8 := dkwX5_statement_11 ++ dktX5_statement_12
def dkwX5_statement_10 : List UInt8 := [153, 0, 9, 21, 9, 116, 167, 0, 5, 21, 9, 182, 0, 249, 182, 0, 237, 54, 10, 167, 0, 47, 42]
abbrev dktX5_statement_10 : List UInt8 := dkwX5_statement_10 ++ dktX5_statement_11
def dkwX5_statement_9 : List UInt8 := [54, 8, 42, 3, 17, 39, 15, 182, 0, 117, 54, 9, 42, 180, 0, 26, 28, 45, 21, 6, 21, 7, 21, 8]
abbrev dktX5_statement_9 : List UInt8 := dkwX5_statement_9 ++ dktX5_statement_10
def dkwX5_statement_8 : List UInt8 := [182, 0, 117, 54, 6, 42, 3, 45, 180, 0, 244, 4, 100, 182, 0, 117, 54, 7, 42, 18, 247, 182, 0, 163]
abbrev dktX5_statement_8 : List UInt8 := dkwX5_statement_8 ++ dktX5_statement_9
def dkwX5_statement_7 : List UInt8 := [182, 0, 117, 183, 0, 236, 182, 0, 237, 54, 7, 167, 0, 125, 42, 3, 45, 180, 0, 241, 4, 100]
abbrev dktX5_statement_7 : List UInt8 := dkwX5_statement_7 ++ dktX5_statement_8
def dkwX5_statement_6 : List UInt8 := [42, 4, 16, 12, 182, 0, 117, 54, 6, 42, 180, 0, 26, 28, 187, 0, 234, 89, 21, 6, 42, 4, 16, 12]
abbrev dktX5_statement_6 : List UInt8 := dkwX5_statement_6 ++ dktX5_statement_7
def dkwX5_statement_5 : List UInt8 := [170, 0, 0, 0, 171, 0, 0, 0, 0, 0, 0, 0, 2, 0, 0, 0, 25, 0, 0, 0, 63, 0, 0, 0, 141]
abbrev dktX5_statement_5 : List UInt8 := dkwX5_statement_5 ++ dktX5_statement_6
def dkwX5_statement_4 : List UInt8 := [153, 0, 22, 4, 54, 5, 167, 0, 16, 25, 4, 18, 232, 182, 0, 107, 153, 0, 6, 5, 54, 5, 21, 5]
abbrev dktX5_statement_4 : List UInt8 := dkwX5_statement_4 ++ dktX5_statement_5
def dkwX5_statement_3 : List UInt8 := [25, 4, 18, 228, 182, 0, 107, 153, 0, 38, 3, 54, 5, 167, 0, 32, 25, 4, 18, 230, 182, 0, 107]
abbrev dktX5_statement_3 : List UInt8 := dkwX5_statement_3 ++ dktX5_statement_4
def dkwX5_statement_2 : List UInt8 := [171, 0, 0, 0, 0, 79, 0, 0, 0, 3, 191, 141, 151, 193, 0, 0, 0, 34, 0, 1, 162, 27, 0, 0, 0, 66, 5, 195, 8, 114, 0, 0, 0, 50]
abbrev dktX5_statement_2 : List UInt8 := dkwX5_statement_2 ++ dktX5_statement_3
def dkwX5_statement_1 : List UInt8 := [54, 5, 25, 4, 182, 0, 225]
abbrev dktX5_statement_1 : List UInt8 := dkwX5_statement_1 ++ dktX5_statement_2
def dkwX5_statement_0 : List UInt8 := [42, 182, 0, 104, 42, 182, 0, 172, 61, 42, 180, 0, 26, 180, 0, 221, 28, 50, 78, 43, 58, 4, 2]
abbrev dktX5_statement_0 : List UInt8 := dkwX5_statement_0 ++ dktX5_statement_1
theorem dksX5_statement_0 : cX5_statement.data.toList.drop 0 = dktX5_statement_0 := by decide +kernel
theorem dksX5_statement_1 : cX5_statement.data.toList.drop 23 = dktX5_statement_1 := dk_seg dksX5_statement_0 23 rfl rfl
theorem dksX5_statement_2 : cX5_statement.data.toList.drop 30 = dktX5_statement_2 := dk_seg dksX5_statement_1 7 rfl rfl
theorem dksX5_statement_3 : cX5_statement.data.toList.drop 64 = dktX5_statement_3 := dk_seg dksX5_statement_2 34 rfl rfl
theorem dksX5_statement_4 : cX5_statement.data.toList.drop 87 = dktX5_statement_4 := dk_seg dksX5_statement_3 23 rfl rfl
theorem dksX5_statement_5 : cX5_statement.data.toList.drop 111 = dktX5_statement_5 := dk_seg dksX5_statement_4 24 rfl rfl
theorem dksX5_statement_6 : cX5_statement.data.toList.drop 136 = dktX5_statement_6 := dk_seg dksX5_statement_5 25 rfl rfl
theorem dksX5_statement_7 : cX5_statement.data.toList.drop 160 = dktX5_statement_7 := dk_seg dksX5_statement_6 24 rfl rfl
theorem dksX5_statement_8 : cX5_statement.data.toList.drop 182 = dktX5_statement_8 := dk_seg dksX5_statement_7 22 rfl rfl
theorem dksX5_statement_9 : cX5_statement.data.toList.drop 206 = dktX5_statement_9 := dk_seg dksX5_statement_8 24 rfl rfl
theorem dksX5_statement_10 : cX5_statement.data.toList.drop 230 = dktX5_statement_10 := dk_seg dksX5_statement_9 24 rfl rfl
theorem dksX5_statement_11 : cX5_statement.data.toList.drop 253 = dktX5_statement_11 := dk_seg dksX5_statement_10 23 rfl rfl
theorem dksX5_statement_12 : cX5_statement.data.toList.drop 276 = dktX5_statement_12 := dk_seg dksX5_statement_11 23 rfl rfl
theorem dksX5_statement_13 : cX5_statement.data.toList.drop 299 = dktX5_statement_13 := dk_seg dksX5_statement_12 23 rfl rfl
theorem dX5_statement_0 : decode cX5_statement 0 = .ok (.aload_n 0, 1) := dk_42 (dk_at dksX5_statement_0 0 rfl rfl)
theorem dX5_statement_1 : decode cX5_statement 1 = .ok (.invokevirtual 104, 3) := dk_182 0 104 (dk_at dksX5_statement_0 1 rfl rfl)
theorem dX5_statement_4 : decode cX5_statement 4 = .ok (.aload_n 0, 1) := dk_42 (dk_at dksX5_statement_0 4 rfl rfl)
theorem dX5_statement_5 : decode cX5_statement 5 = .ok (.invokevirtual 172, 3) := dk_182 0 172 (dk_at dksX5_statement_0 5 rfl rfl)
theorem dX5_statement_8 : decode cX5_statement 8 = .ok (.istore_n 2, 1) := dk_61 (dk_at dksX5_statement_0 8 rfl rfl)
theorem dX5_statement_9 : decode cX5_statement 9 = .ok (.aload_n 0, 1) := dk_42 (dk_at dksX5_statement_0 9 rfl rfl)
theorem dX5_statement_10 : decode cX5_statement 10 = .ok (.getfield 26, 3) := dk_180 0 26 (dk_at dksX5_statement_0 10 rfl rfl)
theorem dX5_statement_13 : decode cX5_statement 13 = .ok (.getfield 221, 3) := dk_180 0 221 (dk_at dksX5_statement_0 13 rfl rfl)
theorem dX5_statement_16 : decode cX5_statement 16 = .ok (.iload_n 2, 1) := dk_28 (dk_at dksX5_statement_0 16 rfl rfl)
theorem dX5_statement_17 : decode cX5_statement 17 = .ok (.aaload, 1) := dk_50 (dk_at dksX5_statement_0 17 rfl rfl)
theorem dX5_statement_18 : decode cX5_statement 18 = .ok (.astore_n 3, 1) := dk_78 (dk_at dksX5_statement_0 18 rfl rfl)
theorem dX5_statement_19 : decode cX5_statement 19 = .ok (.aload_n 1, 1) := dk_43 (dk_at dksX5_statement_0 19 rfl rfl)
theorem dX5_statement_20 : decode cX5_statement 20 = .ok (.astore 4, 2) := dk_58 4 (dk_at dksX5_statement_0 20 rfl rfl)
theorem dX5_statement_22 : decode cX5_statement 22 = .ok (.iconst (-1), 1) := dk_2 (dk_at dksX5_statement_0 22 rfl rfl)
theorem dX5_statement_23 : decode cX5_statement 23 = .ok (.istore 5, 2) := dk_54 5 (dk_at dksX5_statement_1 0 rfl rfl)
theorem dX5_statement_25 : decode cX5_statement 25 = .ok (.aload 4, 2) := dk_25 4 (dk_at dksX5_statement_1 2 rfl rfl)
theorem dX5_statement_27 : decode cX5_statement 27 = .ok (.invokevirtual 225, 3) := dk_182 0 225 (dk_at dksX5_statement_1 4 rfl rfl)
theorem dX5_statement_30 : decode cX5_statement 30 = .ok (.lookupswitch 79 #[(-1081239615, 34), (107035, 66), (96667762, 50)], 34) := by decide +kernel
theorem dX5_statement_64 : decode cX5_statement 64 = .ok (.aload 4, 2) := dk_25 4 (dk_at dksX5_statement_3 0 rfl rfl)
theorem dX5_statement_66 : decode cX5_statement 66 = .ok (.ldc 228, 2) := dk_18 228 (dk_at dksX5_statement_3 2 rfl rfl)
theorem dX5_statement_68 : decode cX5_statement 68 = .ok (.invokevirtual 107, 3) := dk_182 0 107 (dk_at dksX5_statement_3 4 rfl rfl)
theorem dX5_statement_71 : decode cX5_statement 71 = .ok (.ifCond .eq 38, 3) := dk_153 0 38 (dk_at dksX5_statement_3 7 rfl rfl)
theorem dX5_statement_74 : decode cX5_statement 74 = .ok (.iconst 0, 1) := dk_3 (dk_at dksX5_statement_3 10 rfl rfl)
theorem dX5_statement_75 : decode cX5_statement 75 = .ok (.istore 5, 2) := dk_54 5 (dk_at dksX5_statement_3 11 rfl rfl)
theorem dX5_statement_77 : decode cX5_statement 77 = .ok (.goto 32, 3) := dk_167 0 32 (dk_at dksX5_statement_3 13 rfl rfl)
theorem dX5_statement_80 : decode cX5_statement 80 = .ok (.aload 4, 2) := dk_25 4 (dk_at dksX5_statement_3 16 rfl rfl)
theorem dX5_statement_82 : decode cX5_statement 82 = .ok (.ldc 230, 2) := dk_18 230 (dk_at dksX5_statement_3 18 rfl rfl)
theorem dX5_statement_84 : decode cX5_statement 84 = .ok (.invokevirtual 107, 3) := dk_182 0 107 (dk_at dksX5_statement_3 20 rfl rfl)
theorem dX5_statement_87 : decode cX5_statement 87 = .ok (.ifCond .eq 22, 3) := dk_153 0 22 (dk_at dksX5_statement_4 0 rfl rfl)
theorem dX5_statement_90 : decode cX5_statement 90 = .ok (.iconst 1, 1) := dk_4 (dk_at dksX5_statement_4 3 rfl rfl)
theorem dX5_statement_91 : decode cX5_statement 91 = .ok (.istore 5, 2) := dk_54 5 (dk_at dksX5_statement_4 4 rfl rfl)
theorem dX5_statement_93 : decode cX5_statement 93 = .ok (.goto 16, 3) := dk_167 0 16 (dk_at dksX5_statement_4 6 rfl rfl)
theorem dX5_statement_96 : decode cX5_statement 96 = .ok (.aload 4, 2) := dk_25 4 (dk_at dksX5_statement_4 9 rfl rfl)
theorem dX5_statement_98 : decode cX5_statement 98 = .ok (.ldc 232, 2) := dk_18 232 (dk_at dksX5_statement_4 11 rfl rfl)
theorem dX5_statement_100 : decode cX5_statement 100 = .ok (.invokevirtual 107, 3) := dk_182 0 107 (dk_at dksX5_statement_4 13 rfl rfl)
theorem dX5_statement_103 : decode cX5_statement 103 = .ok (.ifCond .eq 6, 3) := dk_153 0 6 (dk_at dksX5_statement_4 16 rfl rfl)
theorem dX5_statement_106 : decode cX5_statement 106 = .ok (.iconst 2, 1) := dk_5 (dk_at dksX5_statement_4 19 rfl rfl)
theorem dX5_statement_107 : decode cX5_statement 107 = .ok (.istore 5, 2) := dk_54 5 (dk_at dksX5_statement_4 20 rfl rfl)
theorem dX5_statement_109 : decode cX5_statement 109 = .ok (.iload 5, 2) := dk_21 5 (dk_at dksX5_statement_4 22 rfl rfl)
theorem dX5_statement_111 : decode cX5_statement 111 = .ok (.tableswitch 171 0 2 #[25, 63, 141], 25) := by decide +kernel
theorem dX5_statement_136 : decode cX5_statement 136 = .ok (.aload_n 0, 1) := dk_42 (dk_at dksX5_statement_6 0 rfl rfl)
theorem dX5_statement_137 : decode cX5_statement 137 = .ok (.iconst 1, 1) := dk_4 (dk_at dksX5_statement_6 1 rfl rfl)
theorem dX5_statement_138 : decode cX5_statement 138 = .ok (.bipush 12, 2) := dk_16 12 (dk_at dksX5_statement_6 2 rfl rfl)
theorem dX5_statement_140 : decode cX5_statement 140 = .ok (.invokevirtual 117, 3) := dk_182 0 117 (dk_at dksX5_statement_6 4 rfl rfl)
theorem dX5_statement_143 : decode cX5_statement 143 = .ok (.istore 6, 2) := dk_54 6 (dk_at dksX5_statement_6 7 rfl rfl)
theorem dX5_statement_145 : decode cX5_statement 145 = .ok (.aload_n 0, 1) := dk_42 (dk_at dksX5_statement_6 9 rfl rfl)
theorem dX5_statement_146 : decode cX5_statement 146 = .ok (.getfield 26, 3) := dk_180 0 26 (dk_at dksX5_statement_6 10 rfl rfl)
theorem dX5_statement_149 : decode cX5_statement 149 = .ok (.iload_n 2, 1) := dk_28 (dk_at dksX5_statement_6 13 rfl rfl)
theorem dX5_statement_150 : decode cX5_statement 150 = .ok (.new 234, 3) := dk_187 0 234 (dk_at dksX5_statement_6 14 rfl rfl)
theorem dX5_statement_153 : decode cX5_statement 153 = .ok (.dup, 1) := dk_89 (dk_at dksX5_statement_6 17 rfl rfl)
theorem dX5_statement_154 : decode cX5_statement 154 = .ok (.iload 6, 2) := dk_21 6 (dk_at dksX5_statement_6 18 rfl rfl)
theorem dX5_statement_156 : decode cX5_statement 156 = .ok (.aload_n 0, 1) := dk_42 (dk_at dksX5_statement_6 20 rfl rfl)
theorem dX5_statement_157 : decode cX5_statement 157 = .ok (.iconst 1, 1) := dk_4 (dk_at dksX5_statement_6 21 rfl rfl)
theorem dX5_statement_158 : decode cX5_statement 158 = .ok (.bipush 12, 2) := dk_16 12 (dk_at dksX5_statement_6 22 rfl rfl)
theorem dX5_statement_160 : decode cX5_statement 160 = .ok (.invokevirtual 117, 3) := dk_182 0 117 (dk_at dksX5_statement_7 0 rfl rfl)
theorem dX5_statement_163 : decode cX5_statement 163 = .ok (.invokespecial 236, 3) := dk_183 0 236 (dk_at dksX5_statement_7 3 rfl rfl)
theorem dX5_statement_166 : decode cX5_statement 166 = .ok (.invokevirtual 237, 3) := dk_182 0 237 (dk_at dksX5_statement_7 6 rfl rfl)
theorem dX5_statement_169 : decode cX5_statement 169 = .ok (.istore 7, 2) := dk_54 7 (dk_at dksX5_statement_7 9 rfl rfl)
theorem dX5_statement_171 : decode cX5_statement 171 = .ok (.goto 125, 3) := dk_167 0 125 (dk_at dksX5_statement_7 11 rfl rfl)
theorem dX5_statement_174 : decode cX5_statement 174 = .ok (.aload_n 0, 1) := dk_42 (dk_at dksX5_statement_7 14 rfl rfl)
theorem dX5_statement_175 : decode cX5_statement 175 = .ok (.iconst 0, 1) := dk_3 (dk_at dksX5_statement_7 15 rfl rfl)
theorem dX5_statement_176 : decode cX5_statement 176 = .ok (.aload_n 3, 1) := dk_45 (dk_at dksX5_statement_7 16 rfl rfl)
theorem dX5_statement_177 : decode cX5_statement 177 = .ok (.getfield 241, 3) := dk_180 0 241 (dk_at dksX5_statement_7 17 rfl rfl)
theorem dX5_statement_180 : decode cX5_statement 180 = .ok (.iconst 1, 1) := dk_4 (dk_at dksX5_statement_7 20 rfl rfl)
theorem dX5_statement_181 : decode cX5_statement 181 = .ok (.isub, 1) := dk_100 (dk_at dksX5_statement_7 21 rfl rfl)
theorem dX5_statement_182 : decode cX5_statement 182 = .ok (.invokevirtual 117, 3) := dk_182 0 117 (dk_at dksX5_statement_8 0 rfl rfl)
theorem dX5_statement_185 : decode cX5_statement 185 = .ok (.istore 6, 2) := dk_54 6 (dk_at dksX5_statement_8 3 rfl rfl)
theorem dX5_statement_187 : decode cX5_statement 187 = .ok (.aload_n 0, 1) := dk_42 (dk_at dksX5_statement_8 5 rfl rfl)
theorem dX5_statement_188 : decode cX5_statement 188 = .ok (.iconst 0, 1) := dk_3 (dk_at dksX5_statement_8 6 rfl rfl)
theorem dX5_statement_189 : decode cX5_statement 189 = .ok (.aload_n 3, 1) := dk_45 (dk_at dksX5_statement_8 7 rfl rfl)
theorem dX5_statement_190 : decode cX5_statement 190 = .ok (.getfield 244, 3) := dk_180 0 244 (dk_at dksX5_statement_8 8 rfl rfl)
theorem dX5_statement_193 : decode cX5_statement 193 = .ok (.iconst 1, 1) := dk_4 (dk_at dksX5_statement_8 11 rfl rfl)
theorem dX5_statement_194 : decode cX5_statement 194 = .ok (.isub, 1) := dk_100 (dk_at dksX5_statement_8 12 rfl rfl)
theorem dX5_statement_195 : decode cX5_statement 195 = .ok (.invokevirtual 117, 3) := dk_182 0 117 (dk_at dksX5_statement_8 13 rfl rfl)
theorem dX5_statement_198 : decode cX5_statement 198 = .ok (.istore 7, 2) := dk_54 7 (dk_at dksX5_statement_8 16 rfl rfl)
theorem dX5_statement_200 : decode cX5_statement 200 = .ok (.aload_n 0, 1) := dk_42 (dk_at dksX5_statement_8 18 rfl rfl)
theorem dX5_statement_201 : decode cX5_statement 201 = .ok (.ldc 247, 2) := dk_18 247 (dk_at dksX5_statement_8 19 rfl rfl)
theorem dX5_statement_203 : decode cX5_statement 203 = .ok (.invokevirtual 163, 3) := dk_182 0 163 (dk_at dksX5_statement_8 21 rfl rfl)
theorem dX5_statement_206 : decode cX5_statement 206 = .ok (.istore 8, 2) := dk_54 8 (dk_at dksX5_statement_9 0 rfl rfl)
theorem dX5_statement_208 : decode cX5_statement 208 = .ok (.aload_n 0, 1) := dk_42 (dk_at dksX5_statement_9 2 rfl rfl)
theorem dX5_statement_209 : decode cX5_statement 209 = .ok (.iconst 0, 1) := dk_3 (dk_at dksX5_statement_9 3 rfl rfl)
theorem dX5_statement_210 : decode cX5_statement 210 = .ok (.sipush 9999, 3) := dk_17 39 15 (dk_at dksX5_statement_9 4 rfl rfl)
theorem dX5_statement_213 : decode cX5_statement 213 = .ok (.invokevirtual 117, 3) := dk_182 0 117 (dk_at dksX5_statement_9 7 rfl rfl)
theorem dX5_statement_216 : decode cX5_statement 216 = .ok (.istore 9, 2) := dk_54 9 (dk_at dksX5_statement_9 10 rfl rfl)
theorem dX5_statement_218 : decode cX5_statement 218 = .ok (.aload_n 0, 1) := dk_42 (dk_at dksX5_statement_9 12 rfl rfl)
theorem dX5_statement_219 : decode cX5_statement 219 = .ok (.getfield 26, 3) := dk_180 0 26 (dk_at dksX5_statement_9 13 rfl rfl)
theorem dX5_statement_222 : decode cX5_statement 222 = .ok (.iload_n 2, 1) := dk_28 (dk_at dksX5_statement_9 16 rfl rfl)
theorem dX5_statement_223 : decode cX5_statement 223 = .ok (.aload_n 3, 1) := dk_45 (dk_at dksX5_statement_9 17 rfl rfl)
theorem dX5_statement_224 : decode cX5_statement 224 = .ok (.iload 6, 2) := dk_21 6 (dk_at dksX5_statement_9 18 rfl rfl)
theorem dX5_statement_226 : decode cX5_statement 226 = .ok (.iload 7, 2) := dk_21 7 (dk_at dksX5_statement_9 20 rfl rfl)
theorem dX5_statement_228 : decode cX5_statement 228 = .ok (.iload 8, 2) := dk_21 8 (dk_at dksX5_statement_9 22 rfl rfl)
theorem dX5_statement_230 : decode cX5_statement 230 = .ok (.ifCond .eq 9, 3) := dk_153 0 9 (dk_at dksX5_statement_10 0 rfl rfl)
theorem dX5_statement_233 : decode cX5_statement 233 = .ok (.iload 9, 2) := dk_21 9 (dk_at dksX5_statement_10 3 rfl rfl)
theorem dX5_statement_235 : decode cX5_statement 235 = .ok (.ineg, 1) := dk_116 (dk_at dksX5_statement_10 5 rfl rfl)
theorem dX5_statement_236 : decode cX5_statement 236 = .ok (.goto 5, 3) := dk_167 0 5 (dk_at dksX5_statement_10 6 rfl rfl)
theorem dX5_statement_239 : decode cX5_statement 239 = .ok (.iload 9, 2) := dk_21 9 (dk_at dksX5_statement_10 9 rfl rfl)
theorem dX5_statement_241 : decode cX5_statement 241 = .ok (.invokevirtual 249, 3) := dk_182 0 249 (dk_at dksX5_statement_10 11 rfl rfl)
theorem dX5_statement_244 : decode cX5_statement 244 = .ok (.invokevirtual 237, 3) := dk_182 0 237 (dk_at dksX5_statement_10 14 rfl rfl)
theorem dX5_statement_247 : decode cX5_statement 247 = .ok (.istore 10, 2) := dk_54 10 (dk_at dksX5_statement_10 17 rfl rfl)
theorem dX5_statement_249 : decode cX5_statement 249 = .ok (.goto 47, 3) := dk_167 0 47 (dk_at dksX5_statement_10 19 rfl rfl)
theorem dX5_statement_252 : decode cX5_statement 252 = .ok (.aload_n 0, 1) := dk_42 (dk_at dksX5_statement_10 22 rfl rfl)
theorem dX5_statement_253 : decode cX5_statement 253 = .ok (.invokevirtual 193, 3) := dk_182 0 193 (dk_at dksX5_statement_11 0 rfl rfl)
theorem dX5_statement_256 : decode cX5_statement 256 = .ok (.astore 6, 2) := dk_58 6 (dk_at dksX5_statement_11 3 rfl rfl)
theorem dX5_statement_258 : decode cX5_statement 258 = .ok (.aload_n 0, 1) := dk_42 (dk_at dksX5_statement_11 5 rfl rfl)
theorem dX5_statement_259 : decode cX5_statement 259 = .ok (.aload_n 0, 1) := dk_42 (dk_at dksX5_statement_11 6 rfl rfl)
theorem dX5_statement_260 : decode cX5_statement 260 = .ok (.bipush 59, 2) := dk_16 59 (dk_at dksX5_statement_11 7 rfl rfl)
theorem dX5_statement_262 : decode cX5_statement 262 = .ok (.invokevirtual 96, 3) := dk_182 0 96 (dk_at dksX5_statement_11 9 rfl rfl)
theorem dX5_statement_265 : decode cX5_statement 265 = .ok (.iconst 1, 1) := dk_4 (dk_at dksX5_statement_11 12 rfl rfl)
theorem dX5_statement_266 : decode cX5_statement 266 = .ok (.invokevirtual 100, 3) := dk_182 0 100 (dk_at dksX5_statement_11 13 rfl rfl)
theorem dX5_statement_269 : decode cX5_statement 269 = .ok (.aload_n 0, 1) := dk_42 (dk_at dksX5_statement_11 16 rfl rfl)
theorem dX5_statement_270 : decode cX5_statement 270 = .ok (.getfield 26, 3) := dk_180 0 26 (dk_at dksX5_statement_11 17 rfl rfl)
theorem dX5_statement_273 : decode cX5_statement 273 = .ok (.iload_n 2, 1) := dk_28 (dk_at dksX5_statement_11 20 rfl rfl)
theorem dX5_statement_274 : decode cX5_statement 274 = .ok (.aload 6, 2) := dk_25 6 (dk_at dksX5_statement_11 21 rfl rfl)
theorem dX5_statement_276 : decode cX5_statement 276 = .ok (.invokevirtual 253, 3) := dk_182 0 253 (dk_at dksX5_statement_12 0 rfl rfl)
theorem dX5_statement_279 : decode cX5_statement 279 = .ok (.goto 17, 3) := dk_167 0 17 (dk_at dksX5_statement_12 3 rfl rfl)
theorem dX5_statement_282 : decode cX5_statement 282 = .ok (.aload_n 0, 1) := dk_42 (dk_at dksX5_statement_12 6 rfl rfl)
theorem dX5_statement_283 : decode cX5_statement 283 = .ok (.getfield 26, 3) := dk_180 0 26 (dk_at dksX5_statement_12 7 rfl rfl)
theorem dX5_statement_286 : decode cX5_statement 286 = .ok (.iload_n 2, 1) := dk_28 (dk_at dksX5_statement_12 10 rfl rfl)
theorem dX5_statement_287 : decode cX5_statement 287 = .ok (.aload_n 3, 1) := dk_45 (dk_at dksX5_statement_12 11 rfl rfl)
theorem dX5_statement_288 : decode cX5_statement 288 = .ok (.invokevirtual 255, 3) := dk_182 0 255 (dk_at dksX5_statement_12 12 rfl rfl)
theorem dX5_statement_291 : decode cX5_statement 291 = .ok (.invokevirtual 237, 3) := dk_182 0 237 (dk_at dksX5_statement_12 15 rfl rfl)
theorem dX5_statement_294 : decode cX5_statement 294 = .ok (.istore 6, 2) := dk_54 6 (dk_at dksX5_statement_12 18 rfl rfl)
theorem dX5_statement_296 : decode cX5_statement 296 = .ok (.goto 18, 3) := dk_167 0 18 (dk_at dksX5_statement_12 20 rfl rfl)
theorem dX5_statement_299 : decode cX5_statement 299 = .ok (.astore 4, 2) := dk_58 4 (dk_at dksX5_statement_13 0 rfl rfl)
theorem dX5_statement_301 : decode cX5_statement 301 = .ok (.new 91, 3) := dk_187 0 91 (dk_at dksX5_statement_13 2 rfl rfl)
theorem dX5_statement_304 : decode cX5_statement 304 = .ok (.dup, 1) := dk_89 (dk_at dksX5_statement_13 5 rfl rfl)
theorem dX5_statement_305 : decode cX5_statement 305 = .ok (.iconst 5, 1) := dk_8 (dk_at dksX5_statement_13 6 rfl rfl)
theorem dX5_statement_306 : decode cX5_statement 306 = .ok (.aload_n 0, 1) := dk_42 (dk_at dksX5_statement_13 7 rfl rfl)
theorem dX5_statement_307 : decode cX5_statement 307 = .ok (.getfield 46, 3) := dk_180 0 46 (dk_at dksX5_statement_13 8 rfl rfl)
theorem dX5_statement_310 : decode cX5_statement 310 = .ok (.invokespecial 93, 3) := dk_183 0 93 (dk_at dksX5_statement_13 11 rfl rfl)
theorem dX5_statement_313 : decode cX5_statement 313 = .ok (.athrow, 1) := dk_191 (dk_at dksX5_statement_13 14 rfl rfl)
theorem dX5_statement_314 : decode cX5_statement 314 = .ok (.return_, 1) := dk_177 (dk_at dksX5_statement_13 15 rfl rfl)
abbrev cX5_register : ByteArray := prog_15_method_12_code
def yX5_register : MethodName := ⟨RX5, "register", "()I"⟩
def dkwX5_register_1 : List UInt8 := [27, 172]
abbrev dktX5_register_1 : List UInt8 := dkwX5_register_1 ++ []
def dkwX5_register_0 : List UInt8 := [42, 182, 0, 124, 60, 42, 27, 2, 159, 0, 7, 4, 167, 0, 4, 3, 4, 182, 0, 100, 42, 182, 0, 104]
abbrev dktX5_register_0 : List UInt8 := dkwX5_register_0 ++ dktX5_register_1
theorem dksX5_register_0 : cX5_register.data.toList.drop 0 = dktX5_register_0 := by decide +kernel
theorem dksX5_register_1 : cX5_register.data.toList.drop 24 = dktX5_register_1 := dk_seg dksX5_register_0 24 rfl rfl
theorem dX5_register_0 : decode cX5_register 0 = .ok (.aload_n 0, 1) := dk_42 (dk_at dksX5_register_0 0 rfl rfl)
theorem dX5_register_1 : decode cX5_register 1 = .ok (.invokevirtual 124, 3) := dk_182 0 124 (dk_at dksX5_register_0 1 rfl rfl)
theorem dX5_register_4 : decode cX5_register 4 = .ok (.istore_n 1, 1) := dk_60 (dk_at dksX5_register_0 4 rfl rfl)
theorem dX5_register_5 : decode cX5_register 5 = .ok (.aload_n 0, 1) := dk_42 (dk_at dksX5_register_0 5 rfl rfl)
theorem dX5_register_6 : decode cX5_register 6 = .ok (.iload_n 1, 1) := dk_27 (dk_at dksX5_register_0 6 rfl rfl)
theorem dX5_register_7 : decode cX5_register 7 = .ok (.iconst (-1), 1) := dk_2 (dk_at dksX5_register_0 7 rfl rfl)
theorem dX5_register_8 : decode cX5_register 8 = .ok (.if_icmp .eq 7, 3) := dk_159 0 7 (dk_at dksX5_register_0 8 rfl rfl)
theorem dX5_register_11 : decode cX5_register 11 = .ok (.iconst 1, 1) := dk_4 (dk_at dksX5_register_0 11 rfl rfl)
theorem dX5_register_12 : decode cX5_register 12 = .ok (.goto 4, 3) := dk_167 0 4 (dk_at dksX5_register_0 12 rfl rfl)
theorem dX5_register_15 : decode cX5_register 15 = .ok (.iconst 0, 1) := dk_3 (dk_at dksX5_register_0 15 rfl rfl)
theorem dX5_register_16 : decode cX5_register 16 = .ok (.iconst 1, 1) := dk_4 (dk_at dksX5_register_0 16 rfl rfl)
theorem dX5_register_17 : decode cX5_register 17 = .ok (.invokevirtual 100, 3) := dk_182 0 100 (dk_at dksX5_register_0 17 rfl rfl)
theorem dX5_register_20 : decode cX5_register 20 = .ok (.aload_n 0, 1) := dk_42 (dk_at dksX5_register_0 20 rfl rfl)
theorem dX5_register_21 : decode cX5_register 21 = .ok (.invokevirtual 104, 3) := dk_182 0 104 (dk_at dksX5_register_0 21 rfl rfl)
theorem dX5_register_24 : decode cX5_register 24 = .ok (.iload_n 1, 1) := dk_27 (dk_at dksX5_register_1 0 rfl rfl)
theorem dX5_register_25 : decode cX5_register 25 = .ok (.ireturn, 1) := dk_172 (dk_at dksX5_register_1 1 rfl rfl)
abbrev cX5_registerHere : ByteArray := prog_15_method_11_code
def yX5_registerHere : MethodName := ⟨RX5, "registerHere", "()I"⟩
def dkwX5_registerHere_1 : List UInt8 := [182, 0, 120, 16, 100, 163, 0, 17, 42, 180, 0, 31, 3, 182, 0, 120, 16, 97, 100, 167, 0, 4, 2, 172]
abbrev dktX5_registerHere_1 : List UInt8 := dkwX5_registerHere_1 ++ []
def dkwX5_registerHere_0 : List UInt8 := [42, 180, 0, 49, 4, 160, 0, 41, 42, 180, 0, 31, 182, 0, 119, 4, 160, 0, 30, 42, 180, 0, 31, 3]
abbrev dktX5_registerHere_0 : List UInt8 := dkwX5_registerHere_0 ++ dktX5_registerHere_1
theorem dksX5_registerHere_0 : cX5_registerHere.data.toList.drop 0 = dktX5_registerHere_0 := by decide +kernel
theorem dksX5_registerHere_1 : cX5_registerHere.data.toList.drop 24 = dktX5_registerHere_1 := dk_seg dksX5_registerHere_0 24 rfl rfl
theorem dX5_registerHere_0 : decode cX5_registerHere 0 = .ok (.aload_n 0, 1) := dk_42 (dk_at dksX5_registerHere_0 0 rfl rfl)
theorem dX5_registerHere_1 : decode cX5_registerHere 1 = .ok (.getfield 49, 3) := dk_180 0 49 (dk_at dksX5_registerHere_0 1 rfl rfl)
theorem dX5_registerHere_4 : decode cX5_registerHere 4 = .ok (.iconst 1, 1) := dk_4 (dk_at dksX5_registerHere_0 4 rfl rfl)
theorem dX5_registerHere_5 : decode cX5_registerHere 5 = .ok (.if_icmp .ne 41, 3) := dk_160 0 41 (dk_at dksX5_registerHere_0 5 rfl rfl)
theorem dX5_registerHere_8 : decode cX5_registerHere 8 = .ok (.aload_n 0, 1) := dk_42 (dk_at dksX5_registerHere_0 8 rfl rfl)
theorem dX5_registerHere_9 : decode cX5_registerHere 9 = .ok (.getfield 31, 3) := dk_180 0 31 (dk_at dksX5_registerHere_0 9 rfl rfl)
theorem dX5_registerHere_12 : decode cX5_registerHere 12 = .ok (.invokevirtual 119, 3) := dk_182 0 119 (dk_at dksX5_registerHere_0 12 rfl rfl)
theorem dX5_registerHere_15 : decode cX5_registerHere 15 = .ok (.iconst 1, 1) := dk_4 (dk_at dksX5_registerHere_0 15 rfl rfl)
theorem dX5_registerHere_16 : decode cX5_registerHere 16 = .ok (.if_icmp .ne 30, 3) := dk_160 0 30 (dk_at dksX5_registerHere_0 16 rfl rfl)
theorem dX5_registerHere_19 : decode cX5_registerHere 19 = .ok (.aload_n 0, 1) := dk_42 (dk_at dksX5_registerHere_0 19 rfl rfl)
theorem dX5_registerHere_20 : decode cX5_registerHere 20 = .ok (.getfield 31, 3) := dk_180 0 31 (dk_at dksX5_registerHere_0 20 rfl rfl)
theorem dX5_registerHere_23 : decode cX5_registerHere 23 = .ok (.iconst 0, 1) := dk_3 (dk_at dksX5_registerHere_0 23 rfl rfl)
theorem dX5_registerHere_24 : decode cX5_registerHere 24 = .ok (.invokevirtual 120, 3) := dk_182 0 120 (dk_at dksX5_registerHere_1 0 rfl rfl)
theorem dX5_registerHere_27 : decode cX5_registerHere 27 = .ok (.bipush 100, 2) := dk_16 100 (dk_at dksX5_registerHere_1 3 rfl rfl)
theorem dX5_registerHere_29 : decode cX5_registerHere 29 = .ok (.if_icmp .gt 17, 3) := dk_163 0 17 (dk_at dksX5_registerHere_1 5 rfl rfl)
theorem dX5_registerHere_32 : decode cX5_registerHere 32 = .ok (.aload_n 0, 1) := dk_42 (dk_at dksX5_registerHere_1 8 rfl rfl)
theorem dX5_registerHere_33 : decode cX5_registerHere 33 = .ok (.getfield 31, 3) := dk_180 0 31 (dk_at dksX5_registerHere_1 9 rfl rfl)
theorem dX5_registerHere_36 : decode cX5_registerHere 36 = .ok (.iconst 0, 1) := dk_3 (dk_at dksX5_registerHere_1 12 rfl rfl)
theorem dX5_registerHere_37 : decode cX5_registerHere 37 = .ok (.invokevirtual 120, 3) := dk_182 0 120 (dk_at dksX5_registerHere_1 13 rfl rfl)
theorem dX5_registerHere_40 : decode cX5_registerHere 40 = .ok (.bipush 97, 2) := dk_16 97 (dk_at dksX5_registerHere_1 16 rfl rfl)
theorem dX5_registerHere_42 : decode cX5_registerHere 42 = .ok (.isub, 1) := dk_100 (dk_at dksX5_registerHere_1 18 rfl rfl)
theorem dX5_registerHere_43 : decode cX5_registerHere 43 = .ok (.goto 4, 3) := dk_167 0 4 (dk_at dksX5_registerHere_1 19 rfl rfl)
theorem dX5_registerHere_46 : decode cX5_registerHere 46 = .ok (.iconst (-1), 1) := dk_2 (dk_at dksX5_registerHere_1 22 rfl rfl)
theorem dX5_registerHere_47 : decode cX5_registerHere 47 = .ok (.ireturn, 1) := dk_172 (dk_at dksX5_registerHere_1 23 rfl rfl)
abbrev cX5_number : ByteArray := prog_15_method_8_code
def yX5_number : MethodName := ⟨RX5, "number", "(II)I"⟩
def dkwX5_number_1 : List UInt8 := [27, 133, 28, 133, 184, 0, 56, 5, 182, 0, 100, 42, 180, 0, 67, 62, 42, 182, 0, 104, 29, 172]
abbrev dktX5_number_1 : List UInt8 := dkwX5_number_1 ++ []
def dkwX5_number_0 : List UInt8 := [42, 42, 180, 0, 49, 5, 160, 0, 7, 4, 167, 0, 4, 3, 4, 182, 0, 100, 42, 42, 180, 0, 67, 133]
abbrev dktX5_number_0 : List UInt8 := dkwX5_number_0 ++ dktX5_number_1
theorem dksX5_number_0 : cX5_number.data.toList.drop 0 = dktX5_number_0 := by decide +kernel
theorem dksX5_number_1 : cX5_number.data.toList.drop 24 = dktX5_number_1 := dk_seg dksX5_number_0 24 rfl rfl
theorem dX5_number_0 : decode cX5_number 0 = .ok (.aload_n 0, 1) := dk_42 (dk_at dksX5_number_0 0 rfl rfl)
theorem dX5_number_1 : decode cX5_number 1 = .ok (.aload_n 0, 1) := dk_42 (dk_at dksX5_number_0 1 rfl rfl)
theorem dX5_number_2 : decode cX5_number 2 = .ok (.getfield 49, 3) := dk_180 0 49 (dk_at dksX5_number_0 2 rfl rfl)
theorem dX5_number_5 : decode cX5_number 5 = .ok (.iconst 2, 1) := dk_5 (dk_at dksX5_number_0 5 rfl rfl)
theorem dX5_number_6 : decode cX5_number 6 = .ok (.if_icmp .ne 7, 3) := dk_160 0 7 (dk_at dksX5_number_0 6 rfl rfl)
theorem dX5_number_9 : decode cX5_number 9 = .ok (.iconst 1, 1) := dk_4 (dk_at dksX5_number_0 9 rfl rfl)
theorem dX5_number_10 : decode cX5_number 10 = .ok (.goto 4, 3) := dk_167 0 4 (dk_at dksX5_number_0 10 rfl rfl)
theorem dX5_number_13 : decode cX5_number 13 = .ok (.iconst 0, 1) := dk_3 (dk_at dksX5_number_0 13 rfl rfl)
theorem dX5_number_14 : decode cX5_number 14 = .ok (.iconst 1, 1) := dk_4 (dk_at dksX5_number_0 14 rfl rfl)
theorem dX5_number_15 : decode cX5_number 15 = .ok (.invokevirtual 100, 3) := dk_182 0 100 (dk_at dksX5_number_0 15 rfl rfl)
theorem dX5_number_18 : decode cX5_number 18 = .ok (.aload_n 0, 1) := dk_42 (dk_at dksX5_number_0 18 rfl rfl)
theorem dX5_number_19 : decode cX5_number 19 = .ok (.aload_n 0, 1) := dk_42 (dk_at dksX5_number_0 19 rfl rfl)
theorem dX5_number_20 : decode cX5_number 20 = .ok (.getfield 67, 3) := dk_180 0 67 (dk_at dksX5_number_0 20 rfl rfl)
theorem dX5_number_23 : decode cX5_number 23 = .ok (.i2l, 1) := dk_133 (dk_at dksX5_number_0 23 rfl rfl)
theorem dX5_number_24 : decode cX5_number 24 = .ok (.iload_n 1, 1) := dk_27 (dk_at dksX5_number_1 0 rfl rfl)
theorem dX5_number_25 : decode cX5_number 25 = .ok (.i2l, 1) := dk_133 (dk_at dksX5_number_1 1 rfl rfl)
theorem dX5_number_26 : decode cX5_number 26 = .ok (.iload_n 2, 1) := dk_28 (dk_at dksX5_number_1 2 rfl rfl)
theorem dX5_number_27 : decode cX5_number 27 = .ok (.i2l, 1) := dk_133 (dk_at dksX5_number_1 3 rfl rfl)
theorem dX5_number_28 : decode cX5_number 28 = .ok (.invokestatic 56, 3) := dk_184 0 56 (dk_at dksX5_number_1 4 rfl rfl)
theorem dX5_number_31 : decode cX5_number 31 = .ok (.iconst 2, 1) := dk_5 (dk_at dksX5_number_1 7 rfl rfl)
theorem dX5_number_32 : decode cX5_number 32 = .ok (.invokevirtual 100, 3) := dk_182 0 100 (dk_at dksX5_number_1 8 rfl rfl)
theorem dX5_number_35 : decode cX5_number 35 = .ok (.aload_n 0, 1) := dk_42 (dk_at dksX5_number_1 11 rfl rfl)
theorem dX5_number_36 : decode cX5_number 36 = .ok (.getfield 67, 3) := dk_180 0 67 (dk_at dksX5_number_1 12 rfl rfl)
theorem dX5_number_39 : decode cX5_number 39 = .ok (.istore_n 3, 1) := dk_62 (dk_at dksX5_number_1 15 rfl rfl)
theorem dX5_number_40 : decode cX5_number 40 = .ok (.aload_n 0, 1) := dk_42 (dk_at dksX5_number_1 16 rfl rfl)
theorem dX5_number_41 : decode cX5_number 41 = .ok (.invokevirtual 104, 3) := dk_182 0 104 (dk_at dksX5_number_1 17 rfl rfl)
theorem dX5_number_44 : decode cX5_number 44 = .ok (.iload_n 3, 1) := dk_29 (dk_at dksX5_number_1 20 rfl rfl)
theorem dX5_number_45 : decode cX5_number 45 = .ok (.ireturn, 1) := dk_172 (dk_at dksX5_number_1 21 rfl rfl)
abbrev cX5_skips : ByteArray := prog_15_method_9_code
def yX5_skips : MethodName := ⟨RX5, "skips", "(Ljava/lang/String;)Z"⟩
def dkwX5_skips_0 : List UInt8 := [42, 180, 0, 31, 43, 182, 0, 107, 61, 28, 153, 0, 7, 42, 182, 0, 104, 28, 172]
abbrev dktX5_skips_0 : List UInt8 := dkwX5_skips_0 ++ []
theorem dksX5_skips_0 : cX5_skips.data.toList.drop 0 = dktX5_skips_0 := by decide +kernel
theorem dX5_skips_0 : decode cX5_skips 0 = .ok (.aload_n 0, 1) := dk_42 (dk_at dksX5_skips_0 0 rfl rfl)
theorem dX5_skips_1 : decode cX5_skips 1 = .ok (.getfield 31, 3) := dk_180 0 31 (dk_at dksX5_skips_0 1 rfl rfl)
theorem dX5_skips_4 : decode cX5_skips 4 = .ok (.aload_n 1, 1) := dk_43 (dk_at dksX5_skips_0 4 rfl rfl)
theorem dX5_skips_5 : decode cX5_skips 5 = .ok (.invokevirtual 107, 3) := dk_182 0 107 (dk_at dksX5_skips_0 5 rfl rfl)
theorem dX5_skips_8 : decode cX5_skips 8 = .ok (.istore_n 2, 1) := dk_61 (dk_at dksX5_skips_0 8 rfl rfl)
theorem dX5_skips_9 : decode cX5_skips 9 = .ok (.iload_n 2, 1) := dk_28 (dk_at dksX5_skips_0 9 rfl rfl)
theorem dX5_skips_10 : decode cX5_skips 10 = .ok (.ifCond .eq 7, 3) := dk_153 0 7 (dk_at dksX5_skips_0 10 rfl rfl)
theorem dX5_skips_13 : decode cX5_skips 13 = .ok (.aload_n 0, 1) := dk_42 (dk_at dksX5_skips_0 13 rfl rfl)
theorem dX5_skips_14 : decode cX5_skips 14 = .ok (.invokevirtual 104, 3) := dk_182 0 104 (dk_at dksX5_skips_0 14 rfl rfl)
theorem dX5_skips_17 : decode cX5_skips 17 = .ok (.iload_n 2, 1) := dk_28 (dk_at dksX5_skips_0 17 rfl rfl)
theorem dX5_skips_18 : decode cX5_skips 18 = .ok (.ireturn, 1) := dk_172 (dk_at dksX5_skips_0 18 rfl rfl)
abbrev cX5_expression : ByteArray := prog_15_method_13_code
def yX5_expression : MethodName := ⟨RX5, "expression", "()LCsrCalculator$Expr;"⟩
def dkwX5_expression_3 : List UInt8 := [184, 0, 143, 77, 167, 255, 215, 43, 176]
abbrev dktX5_expression_3 : List UInt8 := dkwX5_expression_3 ++ []
def dkwX5_expression_2 : List UInt8 := [185, 0, 138, 2, 0, 87, 43, 180, 0, 130, 42, 182, 0, 134, 185, 0, 138, 2, 0, 87, 42, 180, 0, 31]
abbrev dktX5_expression_2 : List UInt8 := dkwX5_expression_2 ++ dktX5_expression_3
def dkwX5_expression_1 : List UInt8 := [180, 0, 31, 184, 0, 143, 77, 44, 198, 0, 43, 42, 182, 0, 104, 43, 180, 0, 149, 44]
abbrev dktX5_expression_1 : List UInt8 := dkwX5_expression_1 ++ dktX5_expression_2
def dkwX5_expression_0 : List UInt8 := [187, 0, 127, 89, 183, 0, 129, 76, 43, 180, 0, 130, 42, 182, 0, 134, 185, 0, 138, 2, 0, 87, 42]
abbrev dktX5_expression_0 : List UInt8 := dkwX5_expression_0 ++ dktX5_expression_1
theorem dksX5_expression_0 : cX5_expression.data.toList.drop 0 = dktX5_expression_0 := by decide +kernel
theorem dksX5_expression_1 : cX5_expression.data.toList.drop 23 = dktX5_expression_1 := dk_seg dksX5_expression_0 23 rfl rfl
theorem dksX5_expression_2 : cX5_expression.data.toList.drop 43 = dktX5_expression_2 := dk_seg dksX5_expression_1 20 rfl rfl
theorem dksX5_expression_3 : cX5_expression.data.toList.drop 67 = dktX5_expression_3 := dk_seg dksX5_expression_2 24 rfl rfl
theorem dX5_expression_0 : decode cX5_expression 0 = .ok (.new 127, 3) := dk_187 0 127 (dk_at dksX5_expression_0 0 rfl rfl)
theorem dX5_expression_3 : decode cX5_expression 3 = .ok (.dup, 1) := dk_89 (dk_at dksX5_expression_0 3 rfl rfl)
theorem dX5_expression_4 : decode cX5_expression 4 = .ok (.invokespecial 129, 3) := dk_183 0 129 (dk_at dksX5_expression_0 4 rfl rfl)
theorem dX5_expression_7 : decode cX5_expression 7 = .ok (.astore_n 1, 1) := dk_76 (dk_at dksX5_expression_0 7 rfl rfl)
theorem dX5_expression_8 : decode cX5_expression 8 = .ok (.aload_n 1, 1) := dk_43 (dk_at dksX5_expression_0 8 rfl rfl)
theorem dX5_expression_9 : decode cX5_expression 9 = .ok (.getfield 130, 3) := dk_180 0 130 (dk_at dksX5_expression_0 9 rfl rfl)
theorem dX5_expression_12 : decode cX5_expression 12 = .ok (.aload_n 0, 1) := dk_42 (dk_at dksX5_expression_0 12 rfl rfl)
theorem dX5_expression_13 : decode cX5_expression 13 = .ok (.invokevirtual 134, 3) := dk_182 0 134 (dk_at dksX5_expression_0 13 rfl rfl)
theorem dX5_expression_16 : decode cX5_expression 16 = .ok (.invokeinterface 138 2, 5) := by decide +kernel
theorem dX5_expression_21 : decode cX5_expression 21 = .ok (.pop, 1) := dk_87 (dk_at dksX5_expression_0 21 rfl rfl)
theorem dX5_expression_22 : decode cX5_expression 22 = .ok (.aload_n 0, 1) := dk_42 (dk_at dksX5_expression_0 22 rfl rfl)
theorem dX5_expression_23 : decode cX5_expression 23 = .ok (.getfield 31, 3) := dk_180 0 31 (dk_at dksX5_expression_1 0 rfl rfl)
theorem dX5_expression_26 : decode cX5_expression 26 = .ok (.invokestatic 143, 3) := dk_184 0 143 (dk_at dksX5_expression_1 3 rfl rfl)
theorem dX5_expression_29 : decode cX5_expression 29 = .ok (.astore_n 2, 1) := dk_77 (dk_at dksX5_expression_1 6 rfl rfl)
theorem dX5_expression_30 : decode cX5_expression 30 = .ok (.aload_n 2, 1) := dk_44 (dk_at dksX5_expression_1 7 rfl rfl)
theorem dX5_expression_31 : decode cX5_expression 31 = .ok (.ifnull 43, 3) := dk_198 0 43 (dk_at dksX5_expression_1 8 rfl rfl)
theorem dX5_expression_34 : decode cX5_expression 34 = .ok (.aload_n 0, 1) := dk_42 (dk_at dksX5_expression_1 11 rfl rfl)
theorem dX5_expression_35 : decode cX5_expression 35 = .ok (.invokevirtual 104, 3) := dk_182 0 104 (dk_at dksX5_expression_1 12 rfl rfl)
theorem dX5_expression_38 : decode cX5_expression 38 = .ok (.aload_n 1, 1) := dk_43 (dk_at dksX5_expression_1 15 rfl rfl)
theorem dX5_expression_39 : decode cX5_expression 39 = .ok (.getfield 149, 3) := dk_180 0 149 (dk_at dksX5_expression_1 16 rfl rfl)
theorem dX5_expression_42 : decode cX5_expression 42 = .ok (.aload_n 2, 1) := dk_44 (dk_at dksX5_expression_1 19 rfl rfl)
theorem dX5_expression_43 : decode cX5_expression 43 = .ok (.invokeinterface 138 2, 5) := by decide +kernel
theorem dX5_expression_48 : decode cX5_expression 48 = .ok (.pop, 1) := dk_87 (dk_at dksX5_expression_2 5 rfl rfl)
theorem dX5_expression_49 : decode cX5_expression 49 = .ok (.aload_n 1, 1) := dk_43 (dk_at dksX5_expression_2 6 rfl rfl)
theorem dX5_expression_50 : decode cX5_expression 50 = .ok (.getfield 130, 3) := dk_180 0 130 (dk_at dksX5_expression_2 7 rfl rfl)
theorem dX5_expression_53 : decode cX5_expression 53 = .ok (.aload_n 0, 1) := dk_42 (dk_at dksX5_expression_2 10 rfl rfl)
theorem dX5_expression_54 : decode cX5_expression 54 = .ok (.invokevirtual 134, 3) := dk_182 0 134 (dk_at dksX5_expression_2 11 rfl rfl)
theorem dX5_expression_57 : decode cX5_expression 57 = .ok (.invokeinterface 138 2, 5) := by decide +kernel
theorem dX5_expression_62 : decode cX5_expression 62 = .ok (.pop, 1) := dk_87 (dk_at dksX5_expression_2 19 rfl rfl)
theorem dX5_expression_63 : decode cX5_expression 63 = .ok (.aload_n 0, 1) := dk_42 (dk_at dksX5_expression_2 20 rfl rfl)
theorem dX5_expression_64 : decode cX5_expression 64 = .ok (.getfield 31, 3) := dk_180 0 31 (dk_at dksX5_expression_2 21 rfl rfl)
theorem dX5_expression_67 : decode cX5_expression 67 = .ok (.invokestatic 143, 3) := dk_184 0 143 (dk_at dksX5_expression_3 0 rfl rfl)
theorem dX5_expression_70 : decode cX5_expression 70 = .ok (.astore_n 2, 1) := dk_77 (dk_at dksX5_expression_3 3 rfl rfl)
theorem dX5_expression_71 : decode cX5_expression 71 = .ok (.goto (-41), 3) := dk_167 255 215 (dk_at dksX5_expression_3 4 rfl rfl)
theorem dX5_expression_74 : decode cX5_expression 74 = .ok (.aload_n 1, 1) := dk_43 (dk_at dksX5_expression_3 7 rfl rfl)
theorem dX5_expression_75 : decode cX5_expression 75 = .ok (.areturn, 1) := dk_176 (dk_at dksX5_expression_3 8 rfl rfl)
abbrev cX5_term : ByteArray := prog_15_method_14_code
def yX5_term : MethodName := ⟨RX5, "term", "()LCsrCalculator$Expr;"⟩
def dkwX5_term_2 : List UInt8 := [167, 255, 233, 43, 176]
abbrev dktX5_term_2 : List UInt8 := dkwX5_term_2 ++ []
def dkwX5_term_1 : List UInt8 := [18, 161, 182, 0, 163, 153, 0, 20, 43, 180, 0, 155, 42, 182, 0, 158, 185, 0, 138, 2, 0, 87]
abbrev dktX5_term_1 : List UInt8 := dkwX5_term_1 ++ dktX5_term_2
def dkwX5_term_0 : List UInt8 := [187, 0, 152, 89, 183, 0, 154, 76, 43, 180, 0, 155, 42, 182, 0, 158, 185, 0, 138, 2, 0, 87, 42]
abbrev dktX5_term_0 : List UInt8 := dkwX5_term_0 ++ dktX5_term_1
theorem dksX5_term_0 : cX5_term.data.toList.drop 0 = dktX5_term_0 := by decide +kernel
theorem dksX5_term_1 : cX5_term.data.toList.drop 23 = dktX5_term_1 := dk_seg dksX5_term_0 23 rfl rfl
theorem dksX5_term_2 : cX5_term.data.toList.drop 45 = dktX5_term_2 := dk_seg dksX5_term_1 22 rfl rfl
theorem dX5_term_0 : decode cX5_term 0 = .ok (.new 152, 3) := dk_187 0 152 (dk_at dksX5_term_0 0 rfl rfl)
theorem dX5_term_3 : decode cX5_term 3 = .ok (.dup, 1) := dk_89 (dk_at dksX5_term_0 3 rfl rfl)
theorem dX5_term_4 : decode cX5_term 4 = .ok (.invokespecial 154, 3) := dk_183 0 154 (dk_at dksX5_term_0 4 rfl rfl)
theorem dX5_term_7 : decode cX5_term 7 = .ok (.astore_n 1, 1) := dk_76 (dk_at dksX5_term_0 7 rfl rfl)
theorem dX5_term_8 : decode cX5_term 8 = .ok (.aload_n 1, 1) := dk_43 (dk_at dksX5_term_0 8 rfl rfl)
theorem dX5_term_9 : decode cX5_term 9 = .ok (.getfield 155, 3) := dk_180 0 155 (dk_at dksX5_term_0 9 rfl rfl)
theorem dX5_term_12 : decode cX5_term 12 = .ok (.aload_n 0, 1) := dk_42 (dk_at dksX5_term_0 12 rfl rfl)
theorem dX5_term_13 : decode cX5_term 13 = .ok (.invokevirtual 158, 3) := dk_182 0 158 (dk_at dksX5_term_0 13 rfl rfl)
theorem dX5_term_16 : decode cX5_term 16 = .ok (.invokeinterface 138 2, 5) := by decide +kernel
theorem dX5_term_21 : decode cX5_term 21 = .ok (.pop, 1) := dk_87 (dk_at dksX5_term_0 21 rfl rfl)
theorem dX5_term_22 : decode cX5_term 22 = .ok (.aload_n 0, 1) := dk_42 (dk_at dksX5_term_0 22 rfl rfl)
theorem dX5_term_23 : decode cX5_term 23 = .ok (.ldc 161, 2) := dk_18 161 (dk_at dksX5_term_1 0 rfl rfl)
theorem dX5_term_25 : decode cX5_term 25 = .ok (.invokevirtual 163, 3) := dk_182 0 163 (dk_at dksX5_term_1 2 rfl rfl)
theorem dX5_term_28 : decode cX5_term 28 = .ok (.ifCond .eq 20, 3) := dk_153 0 20 (dk_at dksX5_term_1 5 rfl rfl)
theorem dX5_term_31 : decode cX5_term 31 = .ok (.aload_n 1, 1) := dk_43 (dk_at dksX5_term_1 8 rfl rfl)
theorem dX5_term_32 : decode cX5_term 32 = .ok (.getfield 155, 3) := dk_180 0 155 (dk_at dksX5_term_1 9 rfl rfl)
theorem dX5_term_35 : decode cX5_term 35 = .ok (.aload_n 0, 1) := dk_42 (dk_at dksX5_term_1 12 rfl rfl)
theorem dX5_term_36 : decode cX5_term 36 = .ok (.invokevirtual 158, 3) := dk_182 0 158 (dk_at dksX5_term_1 13 rfl rfl)
theorem dX5_term_39 : decode cX5_term 39 = .ok (.invokeinterface 138 2, 5) := by decide +kernel
theorem dX5_term_44 : decode cX5_term 44 = .ok (.pop, 1) := dk_87 (dk_at dksX5_term_1 21 rfl rfl)
theorem dX5_term_45 : decode cX5_term 45 = .ok (.goto (-23), 3) := dk_167 255 233 (dk_at dksX5_term_2 0 rfl rfl)
theorem dX5_term_48 : decode cX5_term 48 = .ok (.aload_n 1, 1) := dk_43 (dk_at dksX5_term_2 3 rfl rfl)
theorem dX5_term_49 : decode cX5_term 49 = .ok (.areturn, 1) := dk_176 (dk_at dksX5_term_2 4 rfl rfl)
abbrev cX5_factor : ByteArray := prog_15_method_16_code
def yX5_factor : MethodName := ⟨RX5, "factor", "()LCsrCalculator$Expr;"⟩
def dkwX5_factor_10 : List UInt8 := [183, 0, 201, 167, 0, 13, 187, 0, 204, 89, 29, 25, 4, 183, 0, 206, 176]
abbrev dktX5_factor_10 : List UInt8 := dkwX5_factor_10 ++ []
def dkwX5_factor_9 : List UInt8 := [182, 0, 196, 27, 154, 0, 8, 25, 4, 167, 0, 29, 28, 153, 0, 15, 187, 0, 199, 89, 25, 4]
abbrev dktX5_factor_9 : List UInt8 := dkwX5_factor_9 ++ dktX5_factor_10
def dkwX5_factor_8 : List UInt8 := [182, 0, 193, 58, 4, 42, 89, 180, 0, 167, 4, 100, 181, 0, 167, 27, 154, 0, 9, 42, 16, 41]
abbrev dktX5_factor_8 : List UInt8 := dkwX5_factor_8 ++ dktX5_factor_9
def dkwX5_factor_7 : List UInt8 := [180, 0, 67, 167, 0, 4, 2, 62, 42, 182, 0, 190, 27, 153, 0, 10, 42, 182, 0, 158, 167, 0, 7, 42]
abbrev dktX5_factor_7 : List UInt8 := dkwX5_factor_7 ++ dktX5_factor_8
def dkwX5_factor_6 : List UInt8 := [182, 0, 100, 42, 180, 0, 31, 18, 186, 182, 0, 107, 61, 42, 180, 0, 49, 5, 160, 0, 10, 42]
abbrev dktX5_factor_6 : List UInt8 := dkwX5_factor_6 ++ dktX5_factor_7
def dkwX5_factor_5 : List UInt8 := [42, 180, 0, 113, 154, 0, 12, 42, 180, 0, 67, 16, 99, 163, 0, 7, 4, 167, 0, 4, 3, 5]
abbrev dktX5_factor_5 : List UInt8 := dkwX5_factor_5 ++ dktX5_factor_6
def dkwX5_factor_4 : List UInt8 := [182, 0, 96, 153, 0, 7, 4, 167, 0, 4, 3, 4, 182, 0, 100, 42, 42, 180, 0, 49, 5, 160, 0, 19]
abbrev dktX5_factor_4 : List UInt8 := dkwX5_factor_4 ++ dktX5_factor_5
def dkwX5_factor_3 : List UInt8 := [18, 188, 182, 0, 107, 153, 0, 7, 4, 167, 0, 4, 3, 60, 42, 27, 154, 0, 12, 42, 16, 40]
abbrev dktX5_factor_3 : List UInt8 := dkwX5_factor_3 ++ dktX5_factor_4
def dkwX5_factor_2 : List UInt8 := [180, 0, 49, 5, 159, 0, 27, 42, 180, 0, 31, 18, 186, 182, 0, 107, 154, 0, 15, 42, 180, 0, 31]
abbrev dktX5_factor_2 : List UInt8 := dkwX5_factor_2 ++ dktX5_factor_3
def dkwX5_factor_1 : List UInt8 := [182, 0, 163, 153, 0, 18, 187, 0, 180, 89, 42, 4, 16, 12, 182, 0, 182, 183, 0, 185, 176, 42]
abbrev dktX5_factor_1 : List UInt8 := dkwX5_factor_1 ++ dktX5_factor_2
def dkwX5_factor_0 : List UInt8 := [42, 182, 0, 124, 2, 159, 0, 15, 187, 0, 170, 89, 42, 182, 0, 172, 183, 0, 175, 176, 42, 18, 178]
abbrev dktX5_factor_0 : List UInt8 := dkwX5_factor_0 ++ dktX5_factor_1
theorem dksX5_factor_0 : cX5_factor.data.toList.drop 0 = dktX5_factor_0 := by decide +kernel
theorem dksX5_factor_1 : cX5_factor.data.toList.drop 23 = dktX5_factor_1 := dk_seg dksX5_factor_0 23 rfl rfl
theorem dksX5_factor_2 : cX5_factor.data.toList.drop 45 = dktX5_factor_2 := dk_seg dksX5_factor_1 22 rfl rfl
theorem dksX5_factor_3 : cX5_factor.data.toList.drop 68 = dktX5_factor_3 := dk_seg dksX5_factor_2 23 rfl rfl
theorem dksX5_factor_4 : cX5_factor.data.toList.drop 90 = dktX5_factor_4 := dk_seg dksX5_factor_3 22 rfl rfl
theorem dksX5_factor_5 : cX5_factor.data.toList.drop 114 = dktX5_factor_5 := dk_seg dksX5_factor_4 24 rfl rfl
theorem dksX5_factor_6 : cX5_factor.data.toList.drop 136 = dktX5_factor_6 := dk_seg dksX5_factor_5 22 rfl rfl
theorem dksX5_factor_7 : cX5_factor.data.toList.drop 158 = dktX5_factor_7 := dk_seg dksX5_factor_6 22 rfl rfl
theorem dksX5_factor_8 : cX5_factor.data.toList.drop 182 = dktX5_factor_8 := dk_seg dksX5_factor_7 24 rfl rfl
theorem dksX5_factor_9 : cX5_factor.data.toList.drop 204 = dktX5_factor_9 := dk_seg dksX5_factor_8 22 rfl rfl
theorem dksX5_factor_10 : cX5_factor.data.toList.drop 226 = dktX5_factor_10 := dk_seg dksX5_factor_9 22 rfl rfl
theorem dX5_factor_0 : decode cX5_factor 0 = .ok (.aload_n 0, 1) := dk_42 (dk_at dksX5_factor_0 0 rfl rfl)
theorem dX5_factor_1 : decode cX5_factor 1 = .ok (.invokevirtual 124, 3) := dk_182 0 124 (dk_at dksX5_factor_0 1 rfl rfl)
theorem dX5_factor_4 : decode cX5_factor 4 = .ok (.iconst (-1), 1) := dk_2 (dk_at dksX5_factor_0 4 rfl rfl)
theorem dX5_factor_5 : decode cX5_factor 5 = .ok (.if_icmp .eq 15, 3) := dk_159 0 15 (dk_at dksX5_factor_0 5 rfl rfl)
theorem dX5_factor_8 : decode cX5_factor 8 = .ok (.new 170, 3) := dk_187 0 170 (dk_at dksX5_factor_0 8 rfl rfl)
theorem dX5_factor_11 : decode cX5_factor 11 = .ok (.dup, 1) := dk_89 (dk_at dksX5_factor_0 11 rfl rfl)
theorem dX5_factor_12 : decode cX5_factor 12 = .ok (.aload_n 0, 1) := dk_42 (dk_at dksX5_factor_0 12 rfl rfl)
theorem dX5_factor_13 : decode cX5_factor 13 = .ok (.invokevirtual 172, 3) := dk_182 0 172 (dk_at dksX5_factor_0 13 rfl rfl)
theorem dX5_factor_16 : decode cX5_factor 16 = .ok (.invokespecial 175, 3) := dk_183 0 175 (dk_at dksX5_factor_0 16 rfl rfl)
theorem dX5_factor_19 : decode cX5_factor 19 = .ok (.areturn, 1) := dk_176 (dk_at dksX5_factor_0 19 rfl rfl)
theorem dX5_factor_20 : decode cX5_factor 20 = .ok (.aload_n 0, 1) := dk_42 (dk_at dksX5_factor_0 20 rfl rfl)
theorem dX5_factor_21 : decode cX5_factor 21 = .ok (.ldc 178, 2) := dk_18 178 (dk_at dksX5_factor_0 21 rfl rfl)
theorem dX5_factor_23 : decode cX5_factor 23 = .ok (.invokevirtual 163, 3) := dk_182 0 163 (dk_at dksX5_factor_1 0 rfl rfl)
theorem dX5_factor_26 : decode cX5_factor 26 = .ok (.ifCond .eq 18, 3) := dk_153 0 18 (dk_at dksX5_factor_1 3 rfl rfl)
theorem dX5_factor_29 : decode cX5_factor 29 = .ok (.new 180, 3) := dk_187 0 180 (dk_at dksX5_factor_1 6 rfl rfl)
theorem dX5_factor_32 : decode cX5_factor 32 = .ok (.dup, 1) := dk_89 (dk_at dksX5_factor_1 9 rfl rfl)
theorem dX5_factor_33 : decode cX5_factor 33 = .ok (.aload_n 0, 1) := dk_42 (dk_at dksX5_factor_1 10 rfl rfl)
theorem dX5_factor_34 : decode cX5_factor 34 = .ok (.iconst 1, 1) := dk_4 (dk_at dksX5_factor_1 11 rfl rfl)
theorem dX5_factor_35 : decode cX5_factor 35 = .ok (.bipush 12, 2) := dk_16 12 (dk_at dksX5_factor_1 12 rfl rfl)
theorem dX5_factor_37 : decode cX5_factor 37 = .ok (.invokevirtual 182, 3) := dk_182 0 182 (dk_at dksX5_factor_1 14 rfl rfl)
theorem dX5_factor_40 : decode cX5_factor 40 = .ok (.invokespecial 185, 3) := dk_183 0 185 (dk_at dksX5_factor_1 17 rfl rfl)
theorem dX5_factor_43 : decode cX5_factor 43 = .ok (.areturn, 1) := dk_176 (dk_at dksX5_factor_1 20 rfl rfl)
theorem dX5_factor_44 : decode cX5_factor 44 = .ok (.aload_n 0, 1) := dk_42 (dk_at dksX5_factor_1 21 rfl rfl)
theorem dX5_factor_45 : decode cX5_factor 45 = .ok (.getfield 49, 3) := dk_180 0 49 (dk_at dksX5_factor_2 0 rfl rfl)
theorem dX5_factor_48 : decode cX5_factor 48 = .ok (.iconst 2, 1) := dk_5 (dk_at dksX5_factor_2 3 rfl rfl)
theorem dX5_factor_49 : decode cX5_factor 49 = .ok (.if_icmp .eq 27, 3) := dk_159 0 27 (dk_at dksX5_factor_2 4 rfl rfl)
theorem dX5_factor_52 : decode cX5_factor 52 = .ok (.aload_n 0, 1) := dk_42 (dk_at dksX5_factor_2 7 rfl rfl)
theorem dX5_factor_53 : decode cX5_factor 53 = .ok (.getfield 31, 3) := dk_180 0 31 (dk_at dksX5_factor_2 8 rfl rfl)
theorem dX5_factor_56 : decode cX5_factor 56 = .ok (.ldc 186, 2) := dk_18 186 (dk_at dksX5_factor_2 11 rfl rfl)
theorem dX5_factor_58 : decode cX5_factor 58 = .ok (.invokevirtual 107, 3) := dk_182 0 107 (dk_at dksX5_factor_2 13 rfl rfl)
theorem dX5_factor_61 : decode cX5_factor 61 = .ok (.ifCond .ne 15, 3) := dk_154 0 15 (dk_at dksX5_factor_2 16 rfl rfl)
theorem dX5_factor_64 : decode cX5_factor 64 = .ok (.aload_n 0, 1) := dk_42 (dk_at dksX5_factor_2 19 rfl rfl)
theorem dX5_factor_65 : decode cX5_factor 65 = .ok (.getfield 31, 3) := dk_180 0 31 (dk_at dksX5_factor_2 20 rfl rfl)
theorem dX5_factor_68 : decode cX5_factor 68 = .ok (.ldc 188, 2) := dk_18 188 (dk_at dksX5_factor_3 0 rfl rfl)
theorem dX5_factor_70 : decode cX5_factor 70 = .ok (.invokevirtual 107, 3) := dk_182 0 107 (dk_at dksX5_factor_3 2 rfl rfl)
theorem dX5_factor_73 : decode cX5_factor 73 = .ok (.ifCond .eq 7, 3) := dk_153 0 7 (dk_at dksX5_factor_3 5 rfl rfl)
theorem dX5_factor_76 : decode cX5_factor 76 = .ok (.iconst 1, 1) := dk_4 (dk_at dksX5_factor_3 8 rfl rfl)
theorem dX5_factor_77 : decode cX5_factor 77 = .ok (.goto 4, 3) := dk_167 0 4 (dk_at dksX5_factor_3 9 rfl rfl)
theorem dX5_factor_80 : decode cX5_factor 80 = .ok (.iconst 0, 1) := dk_3 (dk_at dksX5_factor_3 12 rfl rfl)
theorem dX5_factor_81 : decode cX5_factor 81 = .ok (.istore_n 1, 1) := dk_60 (dk_at dksX5_factor_3 13 rfl rfl)
theorem dX5_factor_82 : decode cX5_factor 82 = .ok (.aload_n 0, 1) := dk_42 (dk_at dksX5_factor_3 14 rfl rfl)
theorem dX5_factor_83 : decode cX5_factor 83 = .ok (.iload_n 1, 1) := dk_27 (dk_at dksX5_factor_3 15 rfl rfl)
theorem dX5_factor_84 : decode cX5_factor 84 = .ok (.ifCond .ne 12, 3) := dk_154 0 12 (dk_at dksX5_factor_3 16 rfl rfl)
theorem dX5_factor_87 : decode cX5_factor 87 = .ok (.aload_n 0, 1) := dk_42 (dk_at dksX5_factor_3 19 rfl rfl)
theorem dX5_factor_88 : decode cX5_factor 88 = .ok (.bipush 40, 2) := dk_16 40 (dk_at dksX5_factor_3 20 rfl rfl)
theorem dX5_factor_90 : decode cX5_factor 90 = .ok (.invokevirtual 96, 3) := dk_182 0 96 (dk_at dksX5_factor_4 0 rfl rfl)
theorem dX5_factor_93 : decode cX5_factor 93 = .ok (.ifCond .eq 7, 3) := dk_153 0 7 (dk_at dksX5_factor_4 3 rfl rfl)
theorem dX5_factor_96 : decode cX5_factor 96 = .ok (.iconst 1, 1) := dk_4 (dk_at dksX5_factor_4 6 rfl rfl)
theorem dX5_factor_97 : decode cX5_factor 97 = .ok (.goto 4, 3) := dk_167 0 4 (dk_at dksX5_factor_4 7 rfl rfl)
theorem dX5_factor_100 : decode cX5_factor 100 = .ok (.iconst 0, 1) := dk_3 (dk_at dksX5_factor_4 10 rfl rfl)
theorem dX5_factor_101 : decode cX5_factor 101 = .ok (.iconst 1, 1) := dk_4 (dk_at dksX5_factor_4 11 rfl rfl)
theorem dX5_factor_102 : decode cX5_factor 102 = .ok (.invokevirtual 100, 3) := dk_182 0 100 (dk_at dksX5_factor_4 12 rfl rfl)
theorem dX5_factor_105 : decode cX5_factor 105 = .ok (.aload_n 0, 1) := dk_42 (dk_at dksX5_factor_4 15 rfl rfl)
theorem dX5_factor_106 : decode cX5_factor 106 = .ok (.aload_n 0, 1) := dk_42 (dk_at dksX5_factor_4 16 rfl rfl)
theorem dX5_factor_107 : decode cX5_factor 107 = .ok (.getfield 49, 3) := dk_180 0 49 (dk_at dksX5_factor_4 17 rfl rfl)
theorem dX5_factor_110 : decode cX5_factor 110 = .ok (.iconst 2, 1) := dk_5 (dk_at dksX5_factor_4 20 rfl rfl)
theorem dX5_factor_111 : decode cX5_factor 111 = .ok (.if_icmp .ne 19, 3) := dk_160 0 19 (dk_at dksX5_factor_4 21 rfl rfl)
theorem dX5_factor_114 : decode cX5_factor 114 = .ok (.aload_n 0, 1) := dk_42 (dk_at dksX5_factor_5 0 rfl rfl)
theorem dX5_factor_115 : decode cX5_factor 115 = .ok (.getfield 113, 3) := dk_180 0 113 (dk_at dksX5_factor_5 1 rfl rfl)
theorem dX5_factor_118 : decode cX5_factor 118 = .ok (.ifCond .ne 12, 3) := dk_154 0 12 (dk_at dksX5_factor_5 4 rfl rfl)
theorem dX5_factor_121 : decode cX5_factor 121 = .ok (.aload_n 0, 1) := dk_42 (dk_at dksX5_factor_5 7 rfl rfl)
theorem dX5_factor_122 : decode cX5_factor 122 = .ok (.getfield 67, 3) := dk_180 0 67 (dk_at dksX5_factor_5 8 rfl rfl)
theorem dX5_factor_125 : decode cX5_factor 125 = .ok (.bipush 99, 2) := dk_16 99 (dk_at dksX5_factor_5 11 rfl rfl)
theorem dX5_factor_127 : decode cX5_factor 127 = .ok (.if_icmp .gt 7, 3) := dk_163 0 7 (dk_at dksX5_factor_5 13 rfl rfl)
theorem dX5_factor_130 : decode cX5_factor 130 = .ok (.iconst 1, 1) := dk_4 (dk_at dksX5_factor_5 16 rfl rfl)
theorem dX5_factor_131 : decode cX5_factor 131 = .ok (.goto 4, 3) := dk_167 0 4 (dk_at dksX5_factor_5 17 rfl rfl)
theorem dX5_factor_134 : decode cX5_factor 134 = .ok (.iconst 0, 1) := dk_3 (dk_at dksX5_factor_5 20 rfl rfl)
theorem dX5_factor_135 : decode cX5_factor 135 = .ok (.iconst 2, 1) := dk_5 (dk_at dksX5_factor_5 21 rfl rfl)
theorem dX5_factor_136 : decode cX5_factor 136 = .ok (.invokevirtual 100, 3) := dk_182 0 100 (dk_at dksX5_factor_6 0 rfl rfl)
theorem dX5_factor_139 : decode cX5_factor 139 = .ok (.aload_n 0, 1) := dk_42 (dk_at dksX5_factor_6 3 rfl rfl)
theorem dX5_factor_140 : decode cX5_factor 140 = .ok (.getfield 31, 3) := dk_180 0 31 (dk_at dksX5_factor_6 4 rfl rfl)
theorem dX5_factor_143 : decode cX5_factor 143 = .ok (.ldc 186, 2) := dk_18 186 (dk_at dksX5_factor_6 7 rfl rfl)
theorem dX5_factor_145 : decode cX5_factor 145 = .ok (.invokevirtual 107, 3) := dk_182 0 107 (dk_at dksX5_factor_6 9 rfl rfl)
theorem dX5_factor_148 : decode cX5_factor 148 = .ok (.istore_n 2, 1) := dk_61 (dk_at dksX5_factor_6 12 rfl rfl)
theorem dX5_factor_149 : decode cX5_factor 149 = .ok (.aload_n 0, 1) := dk_42 (dk_at dksX5_factor_6 13 rfl rfl)
theorem dX5_factor_150 : decode cX5_factor 150 = .ok (.getfield 49, 3) := dk_180 0 49 (dk_at dksX5_factor_6 14 rfl rfl)
theorem dX5_factor_153 : decode cX5_factor 153 = .ok (.iconst 2, 1) := dk_5 (dk_at dksX5_factor_6 17 rfl rfl)
theorem dX5_factor_154 : decode cX5_factor 154 = .ok (.if_icmp .ne 10, 3) := dk_160 0 10 (dk_at dksX5_factor_6 18 rfl rfl)
theorem dX5_factor_157 : decode cX5_factor 157 = .ok (.aload_n 0, 1) := dk_42 (dk_at dksX5_factor_6 21 rfl rfl)
theorem dX5_factor_158 : decode cX5_factor 158 = .ok (.getfield 67, 3) := dk_180 0 67 (dk_at dksX5_factor_7 0 rfl rfl)
theorem dX5_factor_161 : decode cX5_factor 161 = .ok (.goto 4, 3) := dk_167 0 4 (dk_at dksX5_factor_7 3 rfl rfl)
theorem dX5_factor_164 : decode cX5_factor 164 = .ok (.iconst (-1), 1) := dk_2 (dk_at dksX5_factor_7 6 rfl rfl)
theorem dX5_factor_165 : decode cX5_factor 165 = .ok (.istore_n 3, 1) := dk_62 (dk_at dksX5_factor_7 7 rfl rfl)
theorem dX5_factor_166 : decode cX5_factor 166 = .ok (.aload_n 0, 1) := dk_42 (dk_at dksX5_factor_7 8 rfl rfl)
theorem dX5_factor_167 : decode cX5_factor 167 = .ok (.invokevirtual 190, 3) := dk_182 0 190 (dk_at dksX5_factor_7 9 rfl rfl)
theorem dX5_factor_170 : decode cX5_factor 170 = .ok (.iload_n 1, 1) := dk_27 (dk_at dksX5_factor_7 12 rfl rfl)
theorem dX5_factor_171 : decode cX5_factor 171 = .ok (.ifCond .eq 10, 3) := dk_153 0 10 (dk_at dksX5_factor_7 13 rfl rfl)
theorem dX5_factor_174 : decode cX5_factor 174 = .ok (.aload_n 0, 1) := dk_42 (dk_at dksX5_factor_7 16 rfl rfl)
theorem dX5_factor_175 : decode cX5_factor 175 = .ok (.invokevirtual 158, 3) := dk_182 0 158 (dk_at dksX5_factor_7 17 rfl rfl)
theorem dX5_factor_178 : decode cX5_factor 178 = .ok (.goto 7, 3) := dk_167 0 7 (dk_at dksX5_factor_7 20 rfl rfl)
theorem dX5_factor_181 : decode cX5_factor 181 = .ok (.aload_n 0, 1) := dk_42 (dk_at dksX5_factor_7 23 rfl rfl)
theorem dX5_factor_182 : decode cX5_factor 182 = .ok (.invokevirtual 193, 3) := dk_182 0 193 (dk_at dksX5_factor_8 0 rfl rfl)
theorem dX5_factor_185 : decode cX5_factor 185 = .ok (.astore 4, 2) := dk_58 4 (dk_at dksX5_factor_8 3 rfl rfl)
theorem dX5_factor_187 : decode cX5_factor 187 = .ok (.aload_n 0, 1) := dk_42 (dk_at dksX5_factor_8 5 rfl rfl)
theorem dX5_factor_188 : decode cX5_factor 188 = .ok (.dup, 1) := dk_89 (dk_at dksX5_factor_8 6 rfl rfl)
theorem dX5_factor_189 : decode cX5_factor 189 = .ok (.getfield 167, 3) := dk_180 0 167 (dk_at dksX5_factor_8 7 rfl rfl)
theorem dX5_factor_192 : decode cX5_factor 192 = .ok (.iconst 1, 1) := dk_4 (dk_at dksX5_factor_8 10 rfl rfl)
theorem dX5_factor_193 : decode cX5_factor 193 = .ok (.isub, 1) := dk_100 (dk_at dksX5_factor_8 11 rfl rfl)
theorem dX5_factor_194 : decode cX5_factor 194 = .ok (.putfield 167, 3) := dk_181 0 167 (dk_at dksX5_factor_8 12 rfl rfl)
theorem dX5_factor_197 : decode cX5_factor 197 = .ok (.iload_n 1, 1) := dk_27 (dk_at dksX5_factor_8 15 rfl rfl)
theorem dX5_factor_198 : decode cX5_factor 198 = .ok (.ifCond .ne 9, 3) := dk_154 0 9 (dk_at dksX5_factor_8 16 rfl rfl)
theorem dX5_factor_201 : decode cX5_factor 201 = .ok (.aload_n 0, 1) := dk_42 (dk_at dksX5_factor_8 19 rfl rfl)
theorem dX5_factor_202 : decode cX5_factor 202 = .ok (.bipush 41, 2) := dk_16 41 (dk_at dksX5_factor_8 20 rfl rfl)
theorem dX5_factor_204 : decode cX5_factor 204 = .ok (.invokevirtual 196, 3) := dk_182 0 196 (dk_at dksX5_factor_9 0 rfl rfl)
theorem dX5_factor_207 : decode cX5_factor 207 = .ok (.iload_n 1, 1) := dk_27 (dk_at dksX5_factor_9 3 rfl rfl)
theorem dX5_factor_208 : decode cX5_factor 208 = .ok (.ifCond .ne 8, 3) := dk_154 0 8 (dk_at dksX5_factor_9 4 rfl rfl)
theorem dX5_factor_211 : decode cX5_factor 211 = .ok (.aload 4, 2) := dk_25 4 (dk_at dksX5_factor_9 7 rfl rfl)
theorem dX5_factor_213 : decode cX5_factor 213 = .ok (.goto 29, 3) := dk_167 0 29 (dk_at dksX5_factor_9 9 rfl rfl)
theorem dX5_factor_216 : decode cX5_factor 216 = .ok (.iload_n 2, 1) := dk_28 (dk_at dksX5_factor_9 12 rfl rfl)
theorem dX5_factor_217 : decode cX5_factor 217 = .ok (.ifCond .eq 15, 3) := dk_153 0 15 (dk_at dksX5_factor_9 13 rfl rfl)
theorem dX5_factor_220 : decode cX5_factor 220 = .ok (.new 199, 3) := dk_187 0 199 (dk_at dksX5_factor_9 16 rfl rfl)
theorem dX5_factor_223 : decode cX5_factor 223 = .ok (.dup, 1) := dk_89 (dk_at dksX5_factor_9 19 rfl rfl)
theorem dX5_factor_224 : decode cX5_factor 224 = .ok (.aload 4, 2) := dk_25 4 (dk_at dksX5_factor_9 20 rfl rfl)
theorem dX5_factor_226 : decode cX5_factor 226 = .ok (.invokespecial 201, 3) := dk_183 0 201 (dk_at dksX5_factor_10 0 rfl rfl)
theorem dX5_factor_229 : decode cX5_factor 229 = .ok (.goto 13, 3) := dk_167 0 13 (dk_at dksX5_factor_10 3 rfl rfl)
theorem dX5_factor_232 : decode cX5_factor 232 = .ok (.new 204, 3) := dk_187 0 204 (dk_at dksX5_factor_10 6 rfl rfl)
theorem dX5_factor_235 : decode cX5_factor 235 = .ok (.dup, 1) := dk_89 (dk_at dksX5_factor_10 9 rfl rfl)
theorem dX5_factor_236 : decode cX5_factor 236 = .ok (.iload_n 3, 1) := dk_29 (dk_at dksX5_factor_10 10 rfl rfl)
theorem dX5_factor_237 : decode cX5_factor 237 = .ok (.aload 4, 2) := dk_25 4 (dk_at dksX5_factor_10 11 rfl rfl)
theorem dX5_factor_239 : decode cX5_factor 239 = .ok (.invokespecial 206, 3) := dk_183 0 206 (dk_at dksX5_factor_10 13 rfl rfl)
theorem dX5_factor_242 : decode cX5_factor 242 = .ok (.areturn, 1) := dk_176 (dk_at dksX5_factor_10 16 rfl rfl)
abbrev cX5_ranged : ByteArray := prog_15_method_10_code
def yX5_ranged : MethodName := ⟨RX5, "ranged", "(II)I"⟩
def dkwX5_ranged_1 : List UInt8 := [172]
abbrev dktX5_ranged_1 : List UInt8 := dkwX5_ranged_1 ++ []
def dkwX5_ranged_0 : List UInt8 := [42, 180, 0, 113, 153, 0, 14, 42, 3, 17, 39, 15, 182, 0, 117, 167, 0, 9, 42, 27, 28, 182, 0, 117]
abbrev dktX5_ranged_0 : List UInt8 := dkwX5_ranged_0 ++ dktX5_ranged_1
theorem dksX5_ranged_0 : cX5_ranged.data.toList.drop 0 = dktX5_ranged_0 := by decide +kernel
theorem dksX5_ranged_1 : cX5_ranged.data.toList.drop 24 = dktX5_ranged_1 := dk_seg dksX5_ranged_0 24 rfl rfl
theorem dX5_ranged_0 : decode cX5_ranged 0 = .ok (.aload_n 0, 1) := dk_42 (dk_at dksX5_ranged_0 0 rfl rfl)
theorem dX5_ranged_1 : decode cX5_ranged 1 = .ok (.getfield 113, 3) := dk_180 0 113 (dk_at dksX5_ranged_0 1 rfl rfl)
theorem dX5_ranged_4 : decode cX5_ranged 4 = .ok (.ifCond .eq 14, 3) := dk_153 0 14 (dk_at dksX5_ranged_0 4 rfl rfl)
theorem dX5_ranged_7 : decode cX5_ranged 7 = .ok (.aload_n 0, 1) := dk_42 (dk_at dksX5_ranged_0 7 rfl rfl)
theorem dX5_ranged_8 : decode cX5_ranged 8 = .ok (.iconst 0, 1) := dk_3 (dk_at dksX5_ranged_0 8 rfl rfl)
theorem dX5_ranged_9 : decode cX5_ranged 9 = .ok (.sipush 9999, 3) := dk_17 39 15 (dk_at dksX5_ranged_0 9 rfl rfl)
theorem dX5_ranged_12 : decode cX5_ranged 12 = .ok (.invokevirtual 117, 3) := dk_182 0 117 (dk_at dksX5_ranged_0 12 rfl rfl)
theorem dX5_ranged_15 : decode cX5_ranged 15 = .ok (.goto 9, 3) := dk_167 0 9 (dk_at dksX5_ranged_0 15 rfl rfl)
theorem dX5_ranged_18 : decode cX5_ranged 18 = .ok (.aload_n 0, 1) := dk_42 (dk_at dksX5_ranged_0 18 rfl rfl)
theorem dX5_ranged_19 : decode cX5_ranged 19 = .ok (.iload_n 1, 1) := dk_27 (dk_at dksX5_ranged_0 19 rfl rfl)
theorem dX5_ranged_20 : decode cX5_ranged 20 = .ok (.iload_n 2, 1) := dk_28 (dk_at dksX5_ranged_0 20 rfl rfl)
theorem dX5_ranged_21 : decode cX5_ranged 21 = .ok (.invokevirtual 117, 3) := dk_182 0 117 (dk_at dksX5_ranged_0 21 rfl rfl)
theorem dX5_ranged_24 : decode cX5_ranged 24 = .ok (.ireturn, 1) := dk_172 (dk_at dksX5_ranged_1 0 rfl rfl)
abbrev cX5_open : ByteArray := prog_15_method_15_code
def yX5_open : MethodName := ⟨RX5, "open", "()V"⟩
def dkwX5_open_1 : List UInt8 := [4, 96, 181, 0, 167, 42, 182, 0, 104, 177]
abbrev dktX5_open_1 : List UInt8 := dkwX5_open_1 ++ []
def dkwX5_open_0 : List UInt8 := [42, 42, 180, 0, 167, 16, 8, 162, 0, 7, 4, 167, 0, 4, 3, 6, 182, 0, 100, 42, 89, 180, 0, 167]
abbrev dktX5_open_0 : List UInt8 := dkwX5_open_0 ++ dktX5_open_1
theorem dksX5_open_0 : cX5_open.data.toList.drop 0 = dktX5_open_0 := by decide +kernel
theorem dksX5_open_1 : cX5_open.data.toList.drop 24 = dktX5_open_1 := dk_seg dksX5_open_0 24 rfl rfl
theorem dX5_open_0 : decode cX5_open 0 = .ok (.aload_n 0, 1) := dk_42 (dk_at dksX5_open_0 0 rfl rfl)
theorem dX5_open_1 : decode cX5_open 1 = .ok (.aload_n 0, 1) := dk_42 (dk_at dksX5_open_0 1 rfl rfl)
theorem dX5_open_2 : decode cX5_open 2 = .ok (.getfield 167, 3) := dk_180 0 167 (dk_at dksX5_open_0 2 rfl rfl)
theorem dX5_open_5 : decode cX5_open 5 = .ok (.bipush 8, 2) := dk_16 8 (dk_at dksX5_open_0 5 rfl rfl)
theorem dX5_open_7 : decode cX5_open 7 = .ok (.if_icmp .ge 7, 3) := dk_162 0 7 (dk_at dksX5_open_0 7 rfl rfl)
theorem dX5_open_10 : decode cX5_open 10 = .ok (.iconst 1, 1) := dk_4 (dk_at dksX5_open_0 10 rfl rfl)
theorem dX5_open_11 : decode cX5_open 11 = .ok (.goto 4, 3) := dk_167 0 4 (dk_at dksX5_open_0 11 rfl rfl)
theorem dX5_open_14 : decode cX5_open 14 = .ok (.iconst 0, 1) := dk_3 (dk_at dksX5_open_0 14 rfl rfl)
theorem dX5_open_15 : decode cX5_open 15 = .ok (.iconst 3, 1) := dk_6 (dk_at dksX5_open_0 15 rfl rfl)
theorem dX5_open_16 : decode cX5_open 16 = .ok (.invokevirtual 100, 3) := dk_182 0 100 (dk_at dksX5_open_0 16 rfl rfl)
theorem dX5_open_19 : decode cX5_open 19 = .ok (.aload_n 0, 1) := dk_42 (dk_at dksX5_open_0 19 rfl rfl)
theorem dX5_open_20 : decode cX5_open 20 = .ok (.dup, 1) := dk_89 (dk_at dksX5_open_0 20 rfl rfl)
theorem dX5_open_21 : decode cX5_open 21 = .ok (.getfield 167, 3) := dk_180 0 167 (dk_at dksX5_open_0 21 rfl rfl)
theorem dX5_open_24 : decode cX5_open 24 = .ok (.iconst 1, 1) := dk_4 (dk_at dksX5_open_1 0 rfl rfl)
theorem dX5_open_25 : decode cX5_open 25 = .ok (.iadd, 1) := dk_96 (dk_at dksX5_open_1 1 rfl rfl)
theorem dX5_open_26 : decode cX5_open 26 = .ok (.putfield 167, 3) := dk_181 0 167 (dk_at dksX5_open_1 2 rfl rfl)
theorem dX5_open_29 : decode cX5_open 29 = .ok (.aload_n 0, 1) := dk_42 (dk_at dksX5_open_1 5 rfl rfl)
theorem dX5_open_30 : decode cX5_open 30 = .ok (.invokevirtual 104, 3) := dk_182 0 104 (dk_at dksX5_open_1 6 rfl rfl)
theorem dX5_open_33 : decode cX5_open 33 = .ok (.return_, 1) := dk_177 (dk_at dksX5_open_1 9 rfl rfl)
abbrev cX5_script : ByteArray := prog_15_method_19_code
def yX5_script : MethodName := ⟨RX5, "script", "()LCsrCalculator$Command;"⟩
def dkwX5_script_2 : List UInt8 := [87, 167, 255, 235, 43, 176]
abbrev dktX5_script_2 : List UInt8 := dkwX5_script_2 ++ []
def dkwX5_script_1 : List UInt8 := [183, 1, 9, 76, 42, 180, 0, 49, 153, 0, 20, 43, 180, 1, 12, 42, 182, 1, 15, 185, 0, 138, 2, 0]
abbrev dktX5_script_1 : List UInt8 := dkwX5_script_1 ++ dktX5_script_2
def dkwX5_script_0 : List UInt8 := [42, 4, 181, 0, 113, 42, 182, 0, 104, 187, 1, 5, 89, 19, 1, 7, 4, 188, 10, 89, 3, 4, 79]
abbrev dktX5_script_0 : List UInt8 := dkwX5_script_0 ++ dktX5_script_1
theorem dksX5_script_0 : cX5_script.data.toList.drop 0 = dktX5_script_0 := by decide +kernel
theorem dksX5_script_1 : cX5_script.data.toList.drop 23 = dktX5_script_1 := dk_seg dksX5_script_0 23 rfl rfl
theorem dksX5_script_2 : cX5_script.data.toList.drop 47 = dktX5_script_2 := dk_seg dksX5_script_1 24 rfl rfl
theorem dX5_script_0 : decode cX5_script 0 = .ok (.aload_n 0, 1) := dk_42 (dk_at dksX5_script_0 0 rfl rfl)
theorem dX5_script_1 : decode cX5_script 1 = .ok (.iconst 1, 1) := dk_4 (dk_at dksX5_script_0 1 rfl rfl)
theorem dX5_script_2 : decode cX5_script 2 = .ok (.putfield 113, 3) := dk_181 0 113 (dk_at dksX5_script_0 2 rfl rfl)
theorem dX5_script_5 : decode cX5_script 5 = .ok (.aload_n 0, 1) := dk_42 (dk_at dksX5_script_0 5 rfl rfl)
theorem dX5_script_6 : decode cX5_script 6 = .ok (.invokevirtual 104, 3) := dk_182 0 104 (dk_at dksX5_script_0 6 rfl rfl)
theorem dX5_script_9 : decode cX5_script 9 = .ok (.new 261, 3) := dk_187 1 5 (dk_at dksX5_script_0 9 rfl rfl)
theorem dX5_script_12 : decode cX5_script 12 = .ok (.dup, 1) := dk_89 (dk_at dksX5_script_0 12 rfl rfl)
theorem dX5_script_13 : decode cX5_script 13 = .ok (.ldc_w 263, 3) := dk_19 1 7 (dk_at dksX5_script_0 13 rfl rfl)
theorem dX5_script_16 : decode cX5_script 16 = .ok (.iconst 1, 1) := dk_4 (dk_at dksX5_script_0 16 rfl rfl)
theorem dX5_script_17 : decode cX5_script 17 = .ok (.newarray .int, 2) := dk_188_10 (dk_at dksX5_script_0 17 rfl rfl)
theorem dX5_script_19 : decode cX5_script 19 = .ok (.dup, 1) := dk_89 (dk_at dksX5_script_0 19 rfl rfl)
theorem dX5_script_20 : decode cX5_script 20 = .ok (.iconst 0, 1) := dk_3 (dk_at dksX5_script_0 20 rfl rfl)
theorem dX5_script_21 : decode cX5_script 21 = .ok (.iconst 1, 1) := dk_4 (dk_at dksX5_script_0 21 rfl rfl)
theorem dX5_script_22 : decode cX5_script 22 = .ok (.iastore, 1) := dk_79 (dk_at dksX5_script_0 22 rfl rfl)
theorem dX5_script_23 : decode cX5_script 23 = .ok (.invokespecial 265, 3) := dk_183 1 9 (dk_at dksX5_script_1 0 rfl rfl)
theorem dX5_script_26 : decode cX5_script 26 = .ok (.astore_n 1, 1) := dk_76 (dk_at dksX5_script_1 3 rfl rfl)
theorem dX5_script_27 : decode cX5_script 27 = .ok (.aload_n 0, 1) := dk_42 (dk_at dksX5_script_1 4 rfl rfl)
theorem dX5_script_28 : decode cX5_script 28 = .ok (.getfield 49, 3) := dk_180 0 49 (dk_at dksX5_script_1 5 rfl rfl)
theorem dX5_script_31 : decode cX5_script 31 = .ok (.ifCond .eq 20, 3) := dk_153 0 20 (dk_at dksX5_script_1 8 rfl rfl)
theorem dX5_script_34 : decode cX5_script 34 = .ok (.aload_n 1, 1) := dk_43 (dk_at dksX5_script_1 11 rfl rfl)
theorem dX5_script_35 : decode cX5_script 35 = .ok (.getfield 268, 3) := dk_180 1 12 (dk_at dksX5_script_1 12 rfl rfl)
theorem dX5_script_38 : decode cX5_script 38 = .ok (.aload_n 0, 1) := dk_42 (dk_at dksX5_script_1 15 rfl rfl)
theorem dX5_script_39 : decode cX5_script 39 = .ok (.invokevirtual 271, 3) := dk_182 1 15 (dk_at dksX5_script_1 16 rfl rfl)
theorem dX5_script_42 : decode cX5_script 42 = .ok (.invokeinterface 138 2, 5) := by decide +kernel
theorem dX5_script_47 : decode cX5_script 47 = .ok (.pop, 1) := dk_87 (dk_at dksX5_script_2 0 rfl rfl)
theorem dX5_script_48 : decode cX5_script 48 = .ok (.goto (-21), 3) := dk_167 255 235 (dk_at dksX5_script_2 1 rfl rfl)
theorem dX5_script_51 : decode cX5_script 51 = .ok (.aload_n 1, 1) := dk_43 (dk_at dksX5_script_2 4 rfl rfl)
theorem dX5_script_52 : decode cX5_script 52 = .ok (.areturn, 1) := dk_176 (dk_at dksX5_script_2 5 rfl rfl)
abbrev cX5_command : ByteArray := prog_15_method_20_code
def yX5_command : MethodName := ⟨RX5, "command", "()LCsrCalculator$Command;"⟩
def dkwX5_command_5 : List UInt8 := [43, 19, 1, 7, 182, 0, 107, 153, 0, 8, 42, 44, 182, 1, 32, 42, 16, 59, 182, 0, 196, 44, 176]
abbrev dktX5_command_5 : List UInt8 := dkwX5_command_5 ++ []
def dkwX5_command_4 : List UInt8 := [188, 10, 89, 3, 42, 4, 16, 20, 182, 0, 117, 79, 183, 1, 9, 167, 0, 8, 42, 43, 182, 1, 28, 77]
abbrev dktX5_command_4 : List UInt8 := dkwX5_command_4 ++ dktX5_command_5
def dkwX5_command_3 : List UInt8 := [181, 1, 25, 42, 182, 0, 104, 43, 19, 1, 7, 182, 0, 107, 153, 0, 27, 187, 1, 5, 89, 43, 4]
abbrev dktX5_command_3 : List UInt8 := dkwX5_command_3 ++ dktX5_command_4
def dkwX5_command_2 : List UInt8 := [180, 1, 25, 16, 30, 162, 0, 7, 4, 167, 0, 4, 3, 7, 182, 0, 100, 42, 89, 180, 1, 25, 4, 96]
abbrev dktX5_command_2 : List UInt8 := dkwX5_command_2 ++ dktX5_command_3
def dkwX5_command_1 : List UInt8 := [153, 0, 11, 42, 180, 1, 22, 5, 162, 0, 7, 4, 167, 0, 4, 3, 6, 182, 0, 100, 42, 42]
abbrev dktX5_command_1 : List UInt8 := dkwX5_command_1 ++ dktX5_command_2
def dkwX5_command_0 : List UInt8 := [42, 180, 0, 31, 76, 42, 43, 184, 1, 19, 4, 182, 0, 100, 42, 43, 19, 1, 7, 182, 0, 107]
abbrev dktX5_command_0 : List UInt8 := dkwX5_command_0 ++ dktX5_command_1
theorem dksX5_command_0 : cX5_command.data.toList.drop 0 = dktX5_command_0 := by decide +kernel
theorem dksX5_command_1 : cX5_command.data.toList.drop 22 = dktX5_command_1 := dk_seg dksX5_command_0 22 rfl rfl
theorem dksX5_command_2 : cX5_command.data.toList.drop 44 = dktX5_command_2 := dk_seg dksX5_command_1 22 rfl rfl
theorem dksX5_command_3 : cX5_command.data.toList.drop 68 = dktX5_command_3 := dk_seg dksX5_command_2 24 rfl rfl
theorem dksX5_command_4 : cX5_command.data.toList.drop 91 = dktX5_command_4 := dk_seg dksX5_command_3 23 rfl rfl
theorem dksX5_command_5 : cX5_command.data.toList.drop 115 = dktX5_command_5 := dk_seg dksX5_command_4 24 rfl rfl
theorem dX5_command_0 : decode cX5_command 0 = .ok (.aload_n 0, 1) := dk_42 (dk_at dksX5_command_0 0 rfl rfl)
theorem dX5_command_1 : decode cX5_command 1 = .ok (.getfield 31, 3) := dk_180 0 31 (dk_at dksX5_command_0 1 rfl rfl)
theorem dX5_command_4 : decode cX5_command 4 = .ok (.astore_n 1, 1) := dk_76 (dk_at dksX5_command_0 4 rfl rfl)
theorem dX5_command_5 : decode cX5_command 5 = .ok (.aload_n 0, 1) := dk_42 (dk_at dksX5_command_0 5 rfl rfl)
theorem dX5_command_6 : decode cX5_command 6 = .ok (.aload_n 1, 1) := dk_43 (dk_at dksX5_command_0 6 rfl rfl)
theorem dX5_command_7 : decode cX5_command 7 = .ok (.invokestatic 275, 3) := dk_184 1 19 (dk_at dksX5_command_0 7 rfl rfl)
theorem dX5_command_10 : decode cX5_command 10 = .ok (.iconst 1, 1) := dk_4 (dk_at dksX5_command_0 10 rfl rfl)
theorem dX5_command_11 : decode cX5_command 11 = .ok (.invokevirtual 100, 3) := dk_182 0 100 (dk_at dksX5_command_0 11 rfl rfl)
theorem dX5_command_14 : decode cX5_command 14 = .ok (.aload_n 0, 1) := dk_42 (dk_at dksX5_command_0 14 rfl rfl)
theorem dX5_command_15 : decode cX5_command 15 = .ok (.aload_n 1, 1) := dk_43 (dk_at dksX5_command_0 15 rfl rfl)
theorem dX5_command_16 : decode cX5_command 16 = .ok (.ldc_w 263, 3) := dk_19 1 7 (dk_at dksX5_command_0 16 rfl rfl)
theorem dX5_command_19 : decode cX5_command 19 = .ok (.invokevirtual 107, 3) := dk_182 0 107 (dk_at dksX5_command_0 19 rfl rfl)
theorem dX5_command_22 : decode cX5_command 22 = .ok (.ifCond .eq 11, 3) := dk_153 0 11 (dk_at dksX5_command_1 0 rfl rfl)
theorem dX5_command_25 : decode cX5_command 25 = .ok (.aload_n 0, 1) := dk_42 (dk_at dksX5_command_1 3 rfl rfl)
theorem dX5_command_26 : decode cX5_command 26 = .ok (.getfield 278, 3) := dk_180 1 22 (dk_at dksX5_command_1 4 rfl rfl)
theorem dX5_command_29 : decode cX5_command 29 = .ok (.iconst 2, 1) := dk_5 (dk_at dksX5_command_1 7 rfl rfl)
theorem dX5_command_30 : decode cX5_command 30 = .ok (.if_icmp .ge 7, 3) := dk_162 0 7 (dk_at dksX5_command_1 8 rfl rfl)
theorem dX5_command_33 : decode cX5_command 33 = .ok (.iconst 1, 1) := dk_4 (dk_at dksX5_command_1 11 rfl rfl)
theorem dX5_command_34 : decode cX5_command 34 = .ok (.goto 4, 3) := dk_167 0 4 (dk_at dksX5_command_1 12 rfl rfl)
theorem dX5_command_37 : decode cX5_command 37 = .ok (.iconst 0, 1) := dk_3 (dk_at dksX5_command_1 15 rfl rfl)
theorem dX5_command_38 : decode cX5_command 38 = .ok (.iconst 3, 1) := dk_6 (dk_at dksX5_command_1 16 rfl rfl)
theorem dX5_command_39 : decode cX5_command 39 = .ok (.invokevirtual 100, 3) := dk_182 0 100 (dk_at dksX5_command_1 17 rfl rfl)
theorem dX5_command_42 : decode cX5_command 42 = .ok (.aload_n 0, 1) := dk_42 (dk_at dksX5_command_1 20 rfl rfl)
theorem dX5_command_43 : decode cX5_command 43 = .ok (.aload_n 0, 1) := dk_42 (dk_at dksX5_command_1 21 rfl rfl)
theorem dX5_command_44 : decode cX5_command 44 = .ok (.getfield 281, 3) := dk_180 1 25 (dk_at dksX5_command_2 0 rfl rfl)
theorem dX5_command_47 : decode cX5_command 47 = .ok (.bipush 30, 2) := dk_16 30 (dk_at dksX5_command_2 3 rfl rfl)
theorem dX5_command_49 : decode cX5_command 49 = .ok (.if_icmp .ge 7, 3) := dk_162 0 7 (dk_at dksX5_command_2 5 rfl rfl)
theorem dX5_command_52 : decode cX5_command 52 = .ok (.iconst 1, 1) := dk_4 (dk_at dksX5_command_2 8 rfl rfl)
theorem dX5_command_53 : decode cX5_command 53 = .ok (.goto 4, 3) := dk_167 0 4 (dk_at dksX5_command_2 9 rfl rfl)
theorem dX5_command_56 : decode cX5_command 56 = .ok (.iconst 0, 1) := dk_3 (dk_at dksX5_command_2 12 rfl rfl)
theorem dX5_command_57 : decode cX5_command 57 = .ok (.iconst 4, 1) := dk_7 (dk_at dksX5_command_2 13 rfl rfl)
theorem dX5_command_58 : decode cX5_command 58 = .ok (.invokevirtual 100, 3) := dk_182 0 100 (dk_at dksX5_command_2 14 rfl rfl)
theorem dX5_command_61 : decode cX5_command 61 = .ok (.aload_n 0, 1) := dk_42 (dk_at dksX5_command_2 17 rfl rfl)
theorem dX5_command_62 : decode cX5_command 62 = .ok (.dup, 1) := dk_89 (dk_at dksX5_command_2 18 rfl rfl)
theorem dX5_command_63 : decode cX5_command 63 = .ok (.getfield 281, 3) := dk_180 1 25 (dk_at dksX5_command_2 19 rfl rfl)
theorem dX5_command_66 : decode cX5_command 66 = .ok (.iconst 1, 1) := dk_4 (dk_at dksX5_command_2 22 rfl rfl)
theorem dX5_command_67 : decode cX5_command 67 = .ok (.iadd, 1) := dk_96 (dk_at dksX5_command_2 23 rfl rfl)
theorem dX5_command_68 : decode cX5_command 68 = .ok (.putfield 281, 3) := dk_181 1 25 (dk_at dksX5_command_3 0 rfl rfl)
theorem dX5_command_71 : decode cX5_command 71 = .ok (.aload_n 0, 1) := dk_42 (dk_at dksX5_command_3 3 rfl rfl)
theorem dX5_command_72 : decode cX5_command 72 = .ok (.invokevirtual 104, 3) := dk_182 0 104 (dk_at dksX5_command_3 4 rfl rfl)
theorem dX5_command_75 : decode cX5_command 75 = .ok (.aload_n 1, 1) := dk_43 (dk_at dksX5_command_3 7 rfl rfl)
theorem dX5_command_76 : decode cX5_command 76 = .ok (.ldc_w 263, 3) := dk_19 1 7 (dk_at dksX5_command_3 8 rfl rfl)
theorem dX5_command_79 : decode cX5_command 79 = .ok (.invokevirtual 107, 3) := dk_182 0 107 (dk_at dksX5_command_3 11 rfl rfl)
theorem dX5_command_82 : decode cX5_command 82 = .ok (.ifCond .eq 27, 3) := dk_153 0 27 (dk_at dksX5_command_3 14 rfl rfl)
theorem dX5_command_85 : decode cX5_command 85 = .ok (.new 261, 3) := dk_187 1 5 (dk_at dksX5_command_3 17 rfl rfl)
theorem dX5_command_88 : decode cX5_command 88 = .ok (.dup, 1) := dk_89 (dk_at dksX5_command_3 20 rfl rfl)
theorem dX5_command_89 : decode cX5_command 89 = .ok (.aload_n 1, 1) := dk_43 (dk_at dksX5_command_3 21 rfl rfl)
theorem dX5_command_90 : decode cX5_command 90 = .ok (.iconst 1, 1) := dk_4 (dk_at dksX5_command_3 22 rfl rfl)
theorem dX5_command_91 : decode cX5_command 91 = .ok (.newarray .int, 2) := dk_188_10 (dk_at dksX5_command_4 0 rfl rfl)
theorem dX5_command_93 : decode cX5_command 93 = .ok (.dup, 1) := dk_89 (dk_at dksX5_command_4 2 rfl rfl)
theorem dX5_command_94 : decode cX5_command 94 = .ok (.iconst 0, 1) := dk_3 (dk_at dksX5_command_4 3 rfl rfl)
theorem dX5_command_95 : decode cX5_command 95 = .ok (.aload_n 0, 1) := dk_42 (dk_at dksX5_command_4 4 rfl rfl)
theorem dX5_command_96 : decode cX5_command 96 = .ok (.iconst 1, 1) := dk_4 (dk_at dksX5_command_4 5 rfl rfl)
theorem dX5_command_97 : decode cX5_command 97 = .ok (.bipush 20, 2) := dk_16 20 (dk_at dksX5_command_4 6 rfl rfl)
theorem dX5_command_99 : decode cX5_command 99 = .ok (.invokevirtual 117, 3) := dk_182 0 117 (dk_at dksX5_command_4 8 rfl rfl)
theorem dX5_command_102 : decode cX5_command 102 = .ok (.iastore, 1) := dk_79 (dk_at dksX5_command_4 11 rfl rfl)
theorem dX5_command_103 : decode cX5_command 103 = .ok (.invokespecial 265, 3) := dk_183 1 9 (dk_at dksX5_command_4 12 rfl rfl)
theorem dX5_command_106 : decode cX5_command 106 = .ok (.goto 8, 3) := dk_167 0 8 (dk_at dksX5_command_4 15 rfl rfl)
theorem dX5_command_109 : decode cX5_command 109 = .ok (.aload_n 0, 1) := dk_42 (dk_at dksX5_command_4 18 rfl rfl)
theorem dX5_command_110 : decode cX5_command 110 = .ok (.aload_n 1, 1) := dk_43 (dk_at dksX5_command_4 19 rfl rfl)
theorem dX5_command_111 : decode cX5_command 111 = .ok (.invokevirtual 284, 3) := dk_182 1 28 (dk_at dksX5_command_4 20 rfl rfl)
theorem dX5_command_114 : decode cX5_command 114 = .ok (.astore_n 2, 1) := dk_77 (dk_at dksX5_command_4 23 rfl rfl)
theorem dX5_command_115 : decode cX5_command 115 = .ok (.aload_n 1, 1) := dk_43 (dk_at dksX5_command_5 0 rfl rfl)
theorem dX5_command_116 : decode cX5_command 116 = .ok (.ldc_w 263, 3) := dk_19 1 7 (dk_at dksX5_command_5 1 rfl rfl)
theorem dX5_command_119 : decode cX5_command 119 = .ok (.invokevirtual 107, 3) := dk_182 0 107 (dk_at dksX5_command_5 4 rfl rfl)
theorem dX5_command_122 : decode cX5_command 122 = .ok (.ifCond .eq 8, 3) := dk_153 0 8 (dk_at dksX5_command_5 7 rfl rfl)
theorem dX5_command_125 : decode cX5_command 125 = .ok (.aload_n 0, 1) := dk_42 (dk_at dksX5_command_5 10 rfl rfl)
theorem dX5_command_126 : decode cX5_command 126 = .ok (.aload_n 2, 1) := dk_44 (dk_at dksX5_command_5 11 rfl rfl)
theorem dX5_command_127 : decode cX5_command 127 = .ok (.invokevirtual 288, 3) := dk_182 1 32 (dk_at dksX5_command_5 12 rfl rfl)
theorem dX5_command_130 : decode cX5_command 130 = .ok (.aload_n 0, 1) := dk_42 (dk_at dksX5_command_5 15 rfl rfl)
theorem dX5_command_131 : decode cX5_command 131 = .ok (.bipush 59, 2) := dk_16 59 (dk_at dksX5_command_5 16 rfl rfl)
theorem dX5_command_133 : decode cX5_command 133 = .ok (.invokevirtual 196, 3) := dk_182 0 196 (dk_at dksX5_command_5 18 rfl rfl)
theorem dX5_command_136 : decode cX5_command 136 = .ok (.aload_n 2, 1) := dk_44 (dk_at dksX5_command_5 21 rfl rfl)
theorem dX5_command_137 : decode cX5_command 137 = .ok (.areturn, 1) := dk_176 (dk_at dksX5_command_5 22 rfl rfl)
abbrev cX5_registerCommand : ByteArray := prog_15_method_21_code
def yX5_registerCommand : MethodName := ⟨RX5, "registerCommand", "(Ljava/lang/String;)LCsrCalculator$Command;"⟩
def dkwX5_registerCommand_7 : List UInt8 := [167, 0, 9, 42, 43, 28, 182, 1, 41, 176]
abbrev dktX5_registerCommand_7 : List UInt8 := dkwX5_registerCommand_7 ++ []
def dkwX5_registerCommand_6 : List UInt8 := [181, 1, 38, 25, 5, 167, 0, 27, 187, 1, 5, 89, 43, 4, 188, 10, 89, 3, 28, 79, 183, 1, 9]
abbrev dktX5_registerCommand_6 : List UInt8 := dkwX5_registerCommand_6 ++ dktX5_registerCommand_7
def dkwX5_registerCommand_5 : List UInt8 := [187, 1, 5, 89, 43, 4, 188, 10, 89, 3, 28, 79, 183, 1, 9, 58, 5, 25, 5, 42, 182, 0, 193]
abbrev dktX5_registerCommand_5 : List UInt8 := dkwX5_registerCommand_5 ++ dktX5_registerCommand_6
def dkwX5_registerCommand_4 : List UInt8 := [171, 0, 0, 0, 0, 75, 0, 0, 0, 2, 0, 0, 0, 0, 0, 0, 0, 26, 0, 0, 0, 1, 0, 0, 0, 57]
abbrev dktX5_registerCommand_4 : List UInt8 := dkwX5_registerCommand_4 ++ dktX5_registerCommand_5
def dkwX5_registerCommand_3 : List UInt8 := [153, 0, 6, 4, 54, 4, 21, 4]
abbrev dktX5_registerCommand_3 : List UInt8 := dkwX5_registerCommand_3 ++ dktX5_registerCommand_4
def dkwX5_registerCommand_2 : List UInt8 := [45, 18, 232, 182, 0, 107, 153, 0, 22, 3, 54, 4, 167, 0, 16, 45, 19, 1, 36, 182, 0, 107]
abbrev dktX5_registerCommand_2 : List UInt8 := dkwX5_registerCommand_2 ++ dktX5_registerCommand_3
def dkwX5_registerCommand_1 : List UInt8 := [171, 0, 0, 0, 0, 54, 0, 0, 0, 2, 0, 1, 162, 27, 0, 0, 0, 26, 0, 47, 46, 239, 0, 0, 0, 41]
abbrev dktX5_registerCommand_1 : List UInt8 := dkwX5_registerCommand_1 ++ dktX5_registerCommand_2
def dkwX5_registerCommand_0 : List UInt8 := [42, 182, 0, 172, 61, 43, 78, 2, 54, 4, 45, 182, 0, 225]
abbrev dktX5_registerCommand_0 : List UInt8 := dkwX5_registerCommand_0 ++ dktX5_registerCommand_1
theorem dksX5_registerCommand_0 : cX5_registerCommand.data.toList.drop 0 = dktX5_registerCommand_0 := by decide +kernel
theorem dksX5_registerCommand_1 : cX5_registerCommand.data.toList.drop 14 = dktX5_registerCommand_1 := dk_seg dksX5_registerCommand_0 14 rfl rfl
theorem dksX5_registerCommand_2 : cX5_registerCommand.data.toList.drop 40 = dktX5_registerCommand_2 := dk_seg dksX5_registerCommand_1 26 rfl rfl
theorem dksX5_registerCommand_3 : cX5_registerCommand.data.toList.drop 62 = dktX5_registerCommand_3 := dk_seg dksX5_registerCommand_2 22 rfl rfl
theorem dksX5_registerCommand_4 : cX5_registerCommand.data.toList.drop 70 = dktX5_registerCommand_4 := dk_seg dksX5_registerCommand_3 8 rfl rfl
theorem dksX5_registerCommand_5 : cX5_registerCommand.data.toList.drop 96 = dktX5_registerCommand_5 := dk_seg dksX5_registerCommand_4 26 rfl rfl
theorem dksX5_registerCommand_6 : cX5_registerCommand.data.toList.drop 119 = dktX5_registerCommand_6 := dk_seg dksX5_registerCommand_5 23 rfl rfl
theorem dksX5_registerCommand_7 : cX5_registerCommand.data.toList.drop 142 = dktX5_registerCommand_7 := dk_seg dksX5_registerCommand_6 23 rfl rfl
theorem dX5_registerCommand_0 : decode cX5_registerCommand 0 = .ok (.aload_n 0, 1) := dk_42 (dk_at dksX5_registerCommand_0 0 rfl rfl)
theorem dX5_registerCommand_1 : decode cX5_registerCommand 1 = .ok (.invokevirtual 172, 3) := dk_182 0 172 (dk_at dksX5_registerCommand_0 1 rfl rfl)
theorem dX5_registerCommand_4 : decode cX5_registerCommand 4 = .ok (.istore_n 2, 1) := dk_61 (dk_at dksX5_registerCommand_0 4 rfl rfl)
theorem dX5_registerCommand_5 : decode cX5_registerCommand 5 = .ok (.aload_n 1, 1) := dk_43 (dk_at dksX5_registerCommand_0 5 rfl rfl)
theorem dX5_registerCommand_6 : decode cX5_registerCommand 6 = .ok (.astore_n 3, 1) := dk_78 (dk_at dksX5_registerCommand_0 6 rfl rfl)
theorem dX5_registerCommand_7 : decode cX5_registerCommand 7 = .ok (.iconst (-1), 1) := dk_2 (dk_at dksX5_registerCommand_0 7 rfl rfl)
theorem dX5_registerCommand_8 : decode cX5_registerCommand 8 = .ok (.istore 4, 2) := dk_54 4 (dk_at dksX5_registerCommand_0 8 rfl rfl)
theorem dX5_registerCommand_10 : decode cX5_registerCommand 10 = .ok (.aload_n 3, 1) := dk_45 (dk_at dksX5_registerCommand_0 10 rfl rfl)
theorem dX5_registerCommand_11 : decode cX5_registerCommand 11 = .ok (.invokevirtual 225, 3) := dk_182 0 225 (dk_at dksX5_registerCommand_0 11 rfl rfl)
theorem dX5_registerCommand_14 : decode cX5_registerCommand 14 = .ok (.lookupswitch 54 #[(107035, 26), (3092207, 41)], 26) := by decide +kernel
theorem dX5_registerCommand_40 : decode cX5_registerCommand 40 = .ok (.aload_n 3, 1) := dk_45 (dk_at dksX5_registerCommand_2 0 rfl rfl)
theorem dX5_registerCommand_41 : decode cX5_registerCommand 41 = .ok (.ldc 232, 2) := dk_18 232 (dk_at dksX5_registerCommand_2 1 rfl rfl)
theorem dX5_registerCommand_43 : decode cX5_registerCommand 43 = .ok (.invokevirtual 107, 3) := dk_182 0 107 (dk_at dksX5_registerCommand_2 3 rfl rfl)
theorem dX5_registerCommand_46 : decode cX5_registerCommand 46 = .ok (.ifCond .eq 22, 3) := dk_153 0 22 (dk_at dksX5_registerCommand_2 6 rfl rfl)
theorem dX5_registerCommand_49 : decode cX5_registerCommand 49 = .ok (.iconst 0, 1) := dk_3 (dk_at dksX5_registerCommand_2 9 rfl rfl)
theorem dX5_registerCommand_50 : decode cX5_registerCommand 50 = .ok (.istore 4, 2) := dk_54 4 (dk_at dksX5_registerCommand_2 10 rfl rfl)
theorem dX5_registerCommand_52 : decode cX5_registerCommand 52 = .ok (.goto 16, 3) := dk_167 0 16 (dk_at dksX5_registerCommand_2 12 rfl rfl)
theorem dX5_registerCommand_55 : decode cX5_registerCommand 55 = .ok (.aload_n 3, 1) := dk_45 (dk_at dksX5_registerCommand_2 15 rfl rfl)
theorem dX5_registerCommand_56 : decode cX5_registerCommand 56 = .ok (.ldc_w 292, 3) := dk_19 1 36 (dk_at dksX5_registerCommand_2 16 rfl rfl)
theorem dX5_registerCommand_59 : decode cX5_registerCommand 59 = .ok (.invokevirtual 107, 3) := dk_182 0 107 (dk_at dksX5_registerCommand_2 19 rfl rfl)
theorem dX5_registerCommand_62 : decode cX5_registerCommand 62 = .ok (.ifCond .eq 6, 3) := dk_153 0 6 (dk_at dksX5_registerCommand_3 0 rfl rfl)
theorem dX5_registerCommand_65 : decode cX5_registerCommand 65 = .ok (.iconst 1, 1) := dk_4 (dk_at dksX5_registerCommand_3 3 rfl rfl)
theorem dX5_registerCommand_66 : decode cX5_registerCommand 66 = .ok (.istore 4, 2) := dk_54 4 (dk_at dksX5_registerCommand_3 4 rfl rfl)
theorem dX5_registerCommand_68 : decode cX5_registerCommand 68 = .ok (.iload 4, 2) := dk_21 4 (dk_at dksX5_registerCommand_3 6 rfl rfl)
theorem dX5_registerCommand_70 : decode cX5_registerCommand 70 = .ok (.lookupswitch 75 #[(0, 26), (1, 57)], 26) := by decide +kernel
theorem dX5_registerCommand_96 : decode cX5_registerCommand 96 = .ok (.new 261, 3) := dk_187 1 5 (dk_at dksX5_registerCommand_5 0 rfl rfl)
theorem dX5_registerCommand_99 : decode cX5_registerCommand 99 = .ok (.dup, 1) := dk_89 (dk_at dksX5_registerCommand_5 3 rfl rfl)
theorem dX5_registerCommand_100 : decode cX5_registerCommand 100 = .ok (.aload_n 1, 1) := dk_43 (dk_at dksX5_registerCommand_5 4 rfl rfl)
theorem dX5_registerCommand_101 : decode cX5_registerCommand 101 = .ok (.iconst 1, 1) := dk_4 (dk_at dksX5_registerCommand_5 5 rfl rfl)
theorem dX5_registerCommand_102 : decode cX5_registerCommand 102 = .ok (.newarray .int, 2) := dk_188_10 (dk_at dksX5_registerCommand_5 6 rfl rfl)
theorem dX5_registerCommand_104 : decode cX5_registerCommand 104 = .ok (.dup, 1) := dk_89 (dk_at dksX5_registerCommand_5 8 rfl rfl)
theorem dX5_registerCommand_105 : decode cX5_registerCommand 105 = .ok (.iconst 0, 1) := dk_3 (dk_at dksX5_registerCommand_5 9 rfl rfl)
theorem dX5_registerCommand_106 : decode cX5_registerCommand 106 = .ok (.iload_n 2, 1) := dk_28 (dk_at dksX5_registerCommand_5 10 rfl rfl)
theorem dX5_registerCommand_107 : decode cX5_registerCommand 107 = .ok (.iastore, 1) := dk_79 (dk_at dksX5_registerCommand_5 11 rfl rfl)
theorem dX5_registerCommand_108 : decode cX5_registerCommand 108 = .ok (.invokespecial 265, 3) := dk_183 1 9 (dk_at dksX5_registerCommand_5 12 rfl rfl)
theorem dX5_registerCommand_111 : decode cX5_registerCommand 111 = .ok (.astore 5, 2) := dk_58 5 (dk_at dksX5_registerCommand_5 15 rfl rfl)
theorem dX5_registerCommand_113 : decode cX5_registerCommand 113 = .ok (.aload 5, 2) := dk_25 5 (dk_at dksX5_registerCommand_5 17 rfl rfl)
theorem dX5_registerCommand_115 : decode cX5_registerCommand 115 = .ok (.aload_n 0, 1) := dk_42 (dk_at dksX5_registerCommand_5 19 rfl rfl)
theorem dX5_registerCommand_116 : decode cX5_registerCommand 116 = .ok (.invokevirtual 193, 3) := dk_182 0 193 (dk_at dksX5_registerCommand_5 20 rfl rfl)
theorem dX5_registerCommand_119 : decode cX5_registerCommand 119 = .ok (.putfield 294, 3) := dk_181 1 38 (dk_at dksX5_registerCommand_6 0 rfl rfl)
theorem dX5_registerCommand_122 : decode cX5_registerCommand 122 = .ok (.aload 5, 2) := dk_25 5 (dk_at dksX5_registerCommand_6 3 rfl rfl)
theorem dX5_registerCommand_124 : decode cX5_registerCommand 124 = .ok (.goto 27, 3) := dk_167 0 27 (dk_at dksX5_registerCommand_6 5 rfl rfl)
theorem dX5_registerCommand_127 : decode cX5_registerCommand 127 = .ok (.new 261, 3) := dk_187 1 5 (dk_at dksX5_registerCommand_6 8 rfl rfl)
theorem dX5_registerCommand_130 : decode cX5_registerCommand 130 = .ok (.dup, 1) := dk_89 (dk_at dksX5_registerCommand_6 11 rfl rfl)
theorem dX5_registerCommand_131 : decode cX5_registerCommand 131 = .ok (.aload_n 1, 1) := dk_43 (dk_at dksX5_registerCommand_6 12 rfl rfl)
theorem dX5_registerCommand_132 : decode cX5_registerCommand 132 = .ok (.iconst 1, 1) := dk_4 (dk_at dksX5_registerCommand_6 13 rfl rfl)
theorem dX5_registerCommand_133 : decode cX5_registerCommand 133 = .ok (.newarray .int, 2) := dk_188_10 (dk_at dksX5_registerCommand_6 14 rfl rfl)
theorem dX5_registerCommand_135 : decode cX5_registerCommand 135 = .ok (.dup, 1) := dk_89 (dk_at dksX5_registerCommand_6 16 rfl rfl)
theorem dX5_registerCommand_136 : decode cX5_registerCommand 136 = .ok (.iconst 0, 1) := dk_3 (dk_at dksX5_registerCommand_6 17 rfl rfl)
theorem dX5_registerCommand_137 : decode cX5_registerCommand 137 = .ok (.iload_n 2, 1) := dk_28 (dk_at dksX5_registerCommand_6 18 rfl rfl)
theorem dX5_registerCommand_138 : decode cX5_registerCommand 138 = .ok (.iastore, 1) := dk_79 (dk_at dksX5_registerCommand_6 19 rfl rfl)
theorem dX5_registerCommand_139 : decode cX5_registerCommand 139 = .ok (.invokespecial 265, 3) := dk_183 1 9 (dk_at dksX5_registerCommand_6 20 rfl rfl)
theorem dX5_registerCommand_142 : decode cX5_registerCommand 142 = .ok (.goto 9, 3) := dk_167 0 9 (dk_at dksX5_registerCommand_7 0 rfl rfl)
theorem dX5_registerCommand_145 : decode cX5_registerCommand 145 = .ok (.aload_n 0, 1) := dk_42 (dk_at dksX5_registerCommand_7 3 rfl rfl)
theorem dX5_registerCommand_146 : decode cX5_registerCommand 146 = .ok (.aload_n 1, 1) := dk_43 (dk_at dksX5_registerCommand_7 4 rfl rfl)
theorem dX5_registerCommand_147 : decode cX5_registerCommand 147 = .ok (.iload_n 2, 1) := dk_28 (dk_at dksX5_registerCommand_7 5 rfl rfl)
theorem dX5_registerCommand_148 : decode cX5_registerCommand 148 = .ok (.invokevirtual 297, 3) := dk_182 1 41 (dk_at dksX5_registerCommand_7 6 rfl rfl)
theorem dX5_registerCommand_151 : decode cX5_registerCommand 151 = .ok (.areturn, 1) := dk_176 (dk_at dksX5_registerCommand_7 9 rfl rfl)
abbrev cX5_numbered : ByteArray := prog_15_method_22_code
def yX5_numbered : MethodName := ⟨RX5, "numbered", "(Ljava/lang/String;I)LCsrCalculator$Command;"⟩
def dkwX5_numbered_4 : List UInt8 := [6, 21, 5, 153, 0, 9, 21, 6, 116, 167, 0, 5, 21, 6, 79, 183, 1, 9, 176]
abbrev dktX5_numbered_4 : List UInt8 := dkwX5_numbered_4 ++ []
def dkwX5_numbered_3 : List UInt8 := [54, 6, 187, 1, 5, 89, 43, 7, 188, 10, 89, 3, 28, 79, 89, 4, 29, 79, 89, 5, 21, 4, 79, 89]
abbrev dktX5_numbered_3 : List UInt8 := dkwX5_numbered_3 ++ dktX5_numbered_4
def dkwX5_numbered_2 : List UInt8 := [21, 4, 79, 183, 1, 9, 176, 42, 18, 247, 182, 0, 163, 54, 5, 42, 3, 17, 39, 15, 182, 0, 117]
abbrev dktX5_numbered_2 : List UInt8 := dkwX5_numbered_2 ++ dktX5_numbered_3
def dkwX5_numbered_1 : List UInt8 := [182, 0, 107, 154, 0, 28, 187, 1, 5, 89, 43, 6, 188, 10, 89, 3, 28, 79, 89, 4, 29, 79, 89, 5]
abbrev dktX5_numbered_1 : List UInt8 := dkwX5_numbered_1 ++ dktX5_numbered_2
def dkwX5_numbered_0 : List UInt8 := [42, 3, 17, 39, 15, 182, 0, 117, 62, 42, 3, 17, 39, 15, 182, 0, 117, 54, 4, 43, 18, 230]
abbrev dktX5_numbered_0 : List UInt8 := dkwX5_numbered_0 ++ dktX5_numbered_1
theorem dksX5_numbered_0 : cX5_numbered.data.toList.drop 0 = dktX5_numbered_0 := by decide +kernel
theorem dksX5_numbered_1 : cX5_numbered.data.toList.drop 22 = dktX5_numbered_1 := dk_seg dksX5_numbered_0 22 rfl rfl
theorem dksX5_numbered_2 : cX5_numbered.data.toList.drop 46 = dktX5_numbered_2 := dk_seg dksX5_numbered_1 24 rfl rfl
theorem dksX5_numbered_3 : cX5_numbered.data.toList.drop 69 = dktX5_numbered_3 := dk_seg dksX5_numbered_2 23 rfl rfl
theorem dksX5_numbered_4 : cX5_numbered.data.toList.drop 93 = dktX5_numbered_4 := dk_seg dksX5_numbered_3 24 rfl rfl
theorem dX5_numbered_0 : decode cX5_numbered 0 = .ok (.aload_n 0, 1) := dk_42 (dk_at dksX5_numbered_0 0 rfl rfl)
theorem dX5_numbered_1 : decode cX5_numbered 1 = .ok (.iconst 0, 1) := dk_3 (dk_at dksX5_numbered_0 1 rfl rfl)
theorem dX5_numbered_2 : decode cX5_numbered 2 = .ok (.sipush 9999, 3) := dk_17 39 15 (dk_at dksX5_numbered_0 2 rfl rfl)
theorem dX5_numbered_5 : decode cX5_numbered 5 = .ok (.invokevirtual 117, 3) := dk_182 0 117 (dk_at dksX5_numbered_0 5 rfl rfl)
theorem dX5_numbered_8 : decode cX5_numbered 8 = .ok (.istore_n 3, 1) := dk_62 (dk_at dksX5_numbered_0 8 rfl rfl)
theorem dX5_numbered_9 : decode cX5_numbered 9 = .ok (.aload_n 0, 1) := dk_42 (dk_at dksX5_numbered_0 9 rfl rfl)
theorem dX5_numbered_10 : decode cX5_numbered 10 = .ok (.iconst 0, 1) := dk_3 (dk_at dksX5_numbered_0 10 rfl rfl)
theorem dX5_numbered_11 : decode cX5_numbered 11 = .ok (.sipush 9999, 3) := dk_17 39 15 (dk_at dksX5_numbered_0 11 rfl rfl)
theorem dX5_numbered_14 : decode cX5_numbered 14 = .ok (.invokevirtual 117, 3) := dk_182 0 117 (dk_at dksX5_numbered_0 14 rfl rfl)
theorem dX5_numbered_17 : decode cX5_numbered 17 = .ok (.istore 4, 2) := dk_54 4 (dk_at dksX5_numbered_0 17 rfl rfl)
theorem dX5_numbered_19 : decode cX5_numbered 19 = .ok (.aload_n 1, 1) := dk_43 (dk_at dksX5_numbered_0 19 rfl rfl)
theorem dX5_numbered_20 : decode cX5_numbered 20 = .ok (.ldc 230, 2) := dk_18 230 (dk_at dksX5_numbered_0 20 rfl rfl)
theorem dX5_numbered_22 : decode cX5_numbered 22 = .ok (.invokevirtual 107, 3) := dk_182 0 107 (dk_at dksX5_numbered_1 0 rfl rfl)
theorem dX5_numbered_25 : decode cX5_numbered 25 = .ok (.ifCond .ne 28, 3) := dk_154 0 28 (dk_at dksX5_numbered_1 3 rfl rfl)
theorem dX5_numbered_28 : decode cX5_numbered 28 = .ok (.new 261, 3) := dk_187 1 5 (dk_at dksX5_numbered_1 6 rfl rfl)
theorem dX5_numbered_31 : decode cX5_numbered 31 = .ok (.dup, 1) := dk_89 (dk_at dksX5_numbered_1 9 rfl rfl)
theorem dX5_numbered_32 : decode cX5_numbered 32 = .ok (.aload_n 1, 1) := dk_43 (dk_at dksX5_numbered_1 10 rfl rfl)
theorem dX5_numbered_33 : decode cX5_numbered 33 = .ok (.iconst 3, 1) := dk_6 (dk_at dksX5_numbered_1 11 rfl rfl)
theorem dX5_numbered_34 : decode cX5_numbered 34 = .ok (.newarray .int, 2) := dk_188_10 (dk_at dksX5_numbered_1 12 rfl rfl)
theorem dX5_numbered_36 : decode cX5_numbered 36 = .ok (.dup, 1) := dk_89 (dk_at dksX5_numbered_1 14 rfl rfl)
theorem dX5_numbered_37 : decode cX5_numbered 37 = .ok (.iconst 0, 1) := dk_3 (dk_at dksX5_numbered_1 15 rfl rfl)
theorem dX5_numbered_38 : decode cX5_numbered 38 = .ok (.iload_n 2, 1) := dk_28 (dk_at dksX5_numbered_1 16 rfl rfl)
theorem dX5_numbered_39 : decode cX5_numbered 39 = .ok (.iastore, 1) := dk_79 (dk_at dksX5_numbered_1 17 rfl rfl)
theorem dX5_numbered_40 : decode cX5_numbered 40 = .ok (.dup, 1) := dk_89 (dk_at dksX5_numbered_1 18 rfl rfl)
theorem dX5_numbered_41 : decode cX5_numbered 41 = .ok (.iconst 1, 1) := dk_4 (dk_at dksX5_numbered_1 19 rfl rfl)
theorem dX5_numbered_42 : decode cX5_numbered 42 = .ok (.iload_n 3, 1) := dk_29 (dk_at dksX5_numbered_1 20 rfl rfl)
theorem dX5_numbered_43 : decode cX5_numbered 43 = .ok (.iastore, 1) := dk_79 (dk_at dksX5_numbered_1 21 rfl rfl)
theorem dX5_numbered_44 : decode cX5_numbered 44 = .ok (.dup, 1) := dk_89 (dk_at dksX5_numbered_1 22 rfl rfl)
theorem dX5_numbered_45 : decode cX5_numbered 45 = .ok (.iconst 2, 1) := dk_5 (dk_at dksX5_numbered_1 23 rfl rfl)
theorem dX5_numbered_46 : decode cX5_numbered 46 = .ok (.iload 4, 2) := dk_21 4 (dk_at dksX5_numbered_2 0 rfl rfl)
theorem dX5_numbered_48 : decode cX5_numbered 48 = .ok (.iastore, 1) := dk_79 (dk_at dksX5_numbered_2 2 rfl rfl)
theorem dX5_numbered_49 : decode cX5_numbered 49 = .ok (.invokespecial 265, 3) := dk_183 1 9 (dk_at dksX5_numbered_2 3 rfl rfl)
theorem dX5_numbered_52 : decode cX5_numbered 52 = .ok (.areturn, 1) := dk_176 (dk_at dksX5_numbered_2 6 rfl rfl)
theorem dX5_numbered_53 : decode cX5_numbered 53 = .ok (.aload_n 0, 1) := dk_42 (dk_at dksX5_numbered_2 7 rfl rfl)
theorem dX5_numbered_54 : decode cX5_numbered 54 = .ok (.ldc 247, 2) := dk_18 247 (dk_at dksX5_numbered_2 8 rfl rfl)
theorem dX5_numbered_56 : decode cX5_numbered 56 = .ok (.invokevirtual 163, 3) := dk_182 0 163 (dk_at dksX5_numbered_2 10 rfl rfl)
theorem dX5_numbered_59 : decode cX5_numbered 59 = .ok (.istore 5, 2) := dk_54 5 (dk_at dksX5_numbered_2 13 rfl rfl)
theorem dX5_numbered_61 : decode cX5_numbered 61 = .ok (.aload_n 0, 1) := dk_42 (dk_at dksX5_numbered_2 15 rfl rfl)
theorem dX5_numbered_62 : decode cX5_numbered 62 = .ok (.iconst 0, 1) := dk_3 (dk_at dksX5_numbered_2 16 rfl rfl)
theorem dX5_numbered_63 : decode cX5_numbered 63 = .ok (.sipush 9999, 3) := dk_17 39 15 (dk_at dksX5_numbered_2 17 rfl rfl)
theorem dX5_numbered_66 : decode cX5_numbered 66 = .ok (.invokevirtual 117, 3) := dk_182 0 117 (dk_at dksX5_numbered_2 20 rfl rfl)
theorem dX5_numbered_69 : decode cX5_numbered 69 = .ok (.istore 6, 2) := dk_54 6 (dk_at dksX5_numbered_3 0 rfl rfl)
theorem dX5_numbered_71 : decode cX5_numbered 71 = .ok (.new 261, 3) := dk_187 1 5 (dk_at dksX5_numbered_3 2 rfl rfl)
theorem dX5_numbered_74 : decode cX5_numbered 74 = .ok (.dup, 1) := dk_89 (dk_at dksX5_numbered_3 5 rfl rfl)
theorem dX5_numbered_75 : decode cX5_numbered 75 = .ok (.aload_n 1, 1) := dk_43 (dk_at dksX5_numbered_3 6 rfl rfl)
theorem dX5_numbered_76 : decode cX5_numbered 76 = .ok (.iconst 4, 1) := dk_7 (dk_at dksX5_numbered_3 7 rfl rfl)
theorem dX5_numbered_77 : decode cX5_numbered 77 = .ok (.newarray .int, 2) := dk_188_10 (dk_at dksX5_numbered_3 8 rfl rfl)
theorem dX5_numbered_79 : decode cX5_numbered 79 = .ok (.dup, 1) := dk_89 (dk_at dksX5_numbered_3 10 rfl rfl)
theorem dX5_numbered_80 : decode cX5_numbered 80 = .ok (.iconst 0, 1) := dk_3 (dk_at dksX5_numbered_3 11 rfl rfl)
theorem dX5_numbered_81 : decode cX5_numbered 81 = .ok (.iload_n 2, 1) := dk_28 (dk_at dksX5_numbered_3 12 rfl rfl)
theorem dX5_numbered_82 : decode cX5_numbered 82 = .ok (.iastore, 1) := dk_79 (dk_at dksX5_numbered_3 13 rfl rfl)
theorem dX5_numbered_83 : decode cX5_numbered 83 = .ok (.dup, 1) := dk_89 (dk_at dksX5_numbered_3 14 rfl rfl)
theorem dX5_numbered_84 : decode cX5_numbered 84 = .ok (.iconst 1, 1) := dk_4 (dk_at dksX5_numbered_3 15 rfl rfl)
theorem dX5_numbered_85 : decode cX5_numbered 85 = .ok (.iload_n 3, 1) := dk_29 (dk_at dksX5_numbered_3 16 rfl rfl)
theorem dX5_numbered_86 : decode cX5_numbered 86 = .ok (.iastore, 1) := dk_79 (dk_at dksX5_numbered_3 17 rfl rfl)
theorem dX5_numbered_87 : decode cX5_numbered 87 = .ok (.dup, 1) := dk_89 (dk_at dksX5_numbered_3 18 rfl rfl)
theorem dX5_numbered_88 : decode cX5_numbered 88 = .ok (.iconst 2, 1) := dk_5 (dk_at dksX5_numbered_3 19 rfl rfl)
theorem dX5_numbered_89 : decode cX5_numbered 89 = .ok (.iload 4, 2) := dk_21 4 (dk_at dksX5_numbered_3 20 rfl rfl)
theorem dX5_numbered_91 : decode cX5_numbered 91 = .ok (.iastore, 1) := dk_79 (dk_at dksX5_numbered_3 22 rfl rfl)
theorem dX5_numbered_92 : decode cX5_numbered 92 = .ok (.dup, 1) := dk_89 (dk_at dksX5_numbered_3 23 rfl rfl)
theorem dX5_numbered_93 : decode cX5_numbered 93 = .ok (.iconst 3, 1) := dk_6 (dk_at dksX5_numbered_4 0 rfl rfl)
theorem dX5_numbered_94 : decode cX5_numbered 94 = .ok (.iload 5, 2) := dk_21 5 (dk_at dksX5_numbered_4 1 rfl rfl)
theorem dX5_numbered_96 : decode cX5_numbered 96 = .ok (.ifCond .eq 9, 3) := dk_153 0 9 (dk_at dksX5_numbered_4 3 rfl rfl)
theorem dX5_numbered_99 : decode cX5_numbered 99 = .ok (.iload 6, 2) := dk_21 6 (dk_at dksX5_numbered_4 6 rfl rfl)
theorem dX5_numbered_101 : decode cX5_numbered 101 = .ok (.ineg, 1) := dk_116 (dk_at dksX5_numbered_4 8 rfl rfl)
theorem dX5_numbered_102 : decode cX5_numbered 102 = .ok (.goto 5, 3) := dk_167 0 5 (dk_at dksX5_numbered_4 9 rfl rfl)
theorem dX5_numbered_105 : decode cX5_numbered 105 = .ok (.iload 6, 2) := dk_21 6 (dk_at dksX5_numbered_4 12 rfl rfl)
theorem dX5_numbered_107 : decode cX5_numbered 107 = .ok (.iastore, 1) := dk_79 (dk_at dksX5_numbered_4 14 rfl rfl)
theorem dX5_numbered_108 : decode cX5_numbered 108 = .ok (.invokespecial 265, 3) := dk_183 1 9 (dk_at dksX5_numbered_4 15 rfl rfl)
theorem dX5_numbered_111 : decode cX5_numbered 111 = .ok (.areturn, 1) := dk_176 (dk_at dksX5_numbered_4 18 rfl rfl)
abbrev cX5_enclosed : ByteArray := prog_15_method_23_code
def yX5_enclosed : MethodName := ⟨RX5, "enclosed", "(LCsrCalculator$Command;)V"⟩
def dkwX5_enclosed_2 : List UInt8 := [180, 1, 22, 4, 100, 181, 1, 22, 42, 182, 0, 104, 177]
abbrev dktX5_enclosed_2 : List UInt8 := dkwX5_enclosed_2 ++ []
def dkwX5_enclosed_1 : List UInt8 := [154, 0, 20, 43, 180, 1, 12, 42, 182, 1, 15, 185, 0, 138, 2, 0, 87, 167, 255, 233, 42, 89]
abbrev dktX5_enclosed_1 : List UInt8 := dkwX5_enclosed_1 ++ dktX5_enclosed_2
def dkwX5_enclosed_0 : List UInt8 := [42, 16, 40, 182, 0, 196, 42, 89, 180, 1, 22, 4, 96, 181, 1, 22, 42, 16, 41, 182, 0, 96]
abbrev dktX5_enclosed_0 : List UInt8 := dkwX5_enclosed_0 ++ dktX5_enclosed_1
theorem dksX5_enclosed_0 : cX5_enclosed.data.toList.drop 0 = dktX5_enclosed_0 := by decide +kernel
theorem dksX5_enclosed_1 : cX5_enclosed.data.toList.drop 22 = dktX5_enclosed_1 := dk_seg dksX5_enclosed_0 22 rfl rfl
theorem dksX5_enclosed_2 : cX5_enclosed.data.toList.drop 44 = dktX5_enclosed_2 := dk_seg dksX5_enclosed_1 22 rfl rfl
theorem dX5_enclosed_0 : decode cX5_enclosed 0 = .ok (.aload_n 0, 1) := dk_42 (dk_at dksX5_enclosed_0 0 rfl rfl)
theorem dX5_enclosed_1 : decode cX5_enclosed 1 = .ok (.bipush 40, 2) := dk_16 40 (dk_at dksX5_enclosed_0 1 rfl rfl)
theorem dX5_enclosed_3 : decode cX5_enclosed 3 = .ok (.invokevirtual 196, 3) := dk_182 0 196 (dk_at dksX5_enclosed_0 3 rfl rfl)
theorem dX5_enclosed_6 : decode cX5_enclosed 6 = .ok (.aload_n 0, 1) := dk_42 (dk_at dksX5_enclosed_0 6 rfl rfl)
theorem dX5_enclosed_7 : decode cX5_enclosed 7 = .ok (.dup, 1) := dk_89 (dk_at dksX5_enclosed_0 7 rfl rfl)
theorem dX5_enclosed_8 : decode cX5_enclosed 8 = .ok (.getfield 278, 3) := dk_180 1 22 (dk_at dksX5_enclosed_0 8 rfl rfl)
theorem dX5_enclosed_11 : decode cX5_enclosed 11 = .ok (.iconst 1, 1) := dk_4 (dk_at dksX5_enclosed_0 11 rfl rfl)
theorem dX5_enclosed_12 : decode cX5_enclosed 12 = .ok (.iadd, 1) := dk_96 (dk_at dksX5_enclosed_0 12 rfl rfl)
theorem dX5_enclosed_13 : decode cX5_enclosed 13 = .ok (.putfield 278, 3) := dk_181 1 22 (dk_at dksX5_enclosed_0 13 rfl rfl)
theorem dX5_enclosed_16 : decode cX5_enclosed 16 = .ok (.aload_n 0, 1) := dk_42 (dk_at dksX5_enclosed_0 16 rfl rfl)
theorem dX5_enclosed_17 : decode cX5_enclosed 17 = .ok (.bipush 41, 2) := dk_16 41 (dk_at dksX5_enclosed_0 17 rfl rfl)
theorem dX5_enclosed_19 : decode cX5_enclosed 19 = .ok (.invokevirtual 96, 3) := dk_182 0 96 (dk_at dksX5_enclosed_0 19 rfl rfl)
theorem dX5_enclosed_22 : decode cX5_enclosed 22 = .ok (.ifCond .ne 20, 3) := dk_154 0 20 (dk_at dksX5_enclosed_1 0 rfl rfl)
theorem dX5_enclosed_25 : decode cX5_enclosed 25 = .ok (.aload_n 1, 1) := dk_43 (dk_at dksX5_enclosed_1 3 rfl rfl)
theorem dX5_enclosed_26 : decode cX5_enclosed 26 = .ok (.getfield 268, 3) := dk_180 1 12 (dk_at dksX5_enclosed_1 4 rfl rfl)
theorem dX5_enclosed_29 : decode cX5_enclosed 29 = .ok (.aload_n 0, 1) := dk_42 (dk_at dksX5_enclosed_1 7 rfl rfl)
theorem dX5_enclosed_30 : decode cX5_enclosed 30 = .ok (.invokevirtual 271, 3) := dk_182 1 15 (dk_at dksX5_enclosed_1 8 rfl rfl)
theorem dX5_enclosed_33 : decode cX5_enclosed 33 = .ok (.invokeinterface 138 2, 5) := by decide +kernel
theorem dX5_enclosed_38 : decode cX5_enclosed 38 = .ok (.pop, 1) := dk_87 (dk_at dksX5_enclosed_1 16 rfl rfl)
theorem dX5_enclosed_39 : decode cX5_enclosed 39 = .ok (.goto (-23), 3) := dk_167 255 233 (dk_at dksX5_enclosed_1 17 rfl rfl)
theorem dX5_enclosed_42 : decode cX5_enclosed 42 = .ok (.aload_n 0, 1) := dk_42 (dk_at dksX5_enclosed_1 20 rfl rfl)
theorem dX5_enclosed_43 : decode cX5_enclosed 43 = .ok (.dup, 1) := dk_89 (dk_at dksX5_enclosed_1 21 rfl rfl)
theorem dX5_enclosed_44 : decode cX5_enclosed 44 = .ok (.getfield 278, 3) := dk_180 1 22 (dk_at dksX5_enclosed_2 0 rfl rfl)
theorem dX5_enclosed_47 : decode cX5_enclosed 47 = .ok (.iconst 1, 1) := dk_4 (dk_at dksX5_enclosed_2 3 rfl rfl)
theorem dX5_enclosed_48 : decode cX5_enclosed 48 = .ok (.isub, 1) := dk_100 (dk_at dksX5_enclosed_2 4 rfl rfl)
theorem dX5_enclosed_49 : decode cX5_enclosed 49 = .ok (.putfield 278, 3) := dk_181 1 22 (dk_at dksX5_enclosed_2 5 rfl rfl)
theorem dX5_enclosed_52 : decode cX5_enclosed 52 = .ok (.aload_n 0, 1) := dk_42 (dk_at dksX5_enclosed_2 8 rfl rfl)
theorem dX5_enclosed_53 : decode cX5_enclosed 53 = .ok (.invokevirtual 104, 3) := dk_182 0 104 (dk_at dksX5_enclosed_2 9 rfl rfl)
theorem dX5_enclosed_56 : decode cX5_enclosed 56 = .ok (.return_, 1) := dk_177 (dk_at dksX5_enclosed_2 12 rfl rfl)
theorem q195 : (Jvm.Cond.initialized "CsrCalculator$Reader") ∈ lw_all := lw_g (lw_at lw_m1 16 rfl) rfl
theorem q248 : (Jvm.Cond.fieldLinkNest "CsrCalculator$Reader" (241 : Nat) "CsrCalculator$Csr" "rows" "I" "CsrCalculator") ∈ lw_tbl := lw_at lw_m1 69 rfl
theorem q251 : (Jvm.Cond.fieldLinkNest "CsrCalculator$Reader" (244 : Nat) "CsrCalculator$Csr" "columns" "I" "CsrCalculator") ∈ lw_tbl := lw_at lw_m1 72 rfl
theorem q273 : (Jvm.Cond.fieldLinkNest "CsrCalculator$Reader" (221 : Nat) "CsrCalculator$World" "registers" "[LCsrCalculator$Csr;" "CsrCalculator") ∈ lw_tbl := lw_at lw_m1 94 rfl
theorem q335 : (Jvm.Cond.fieldLinkNest "CsrCalculator$Reader" (35 : Nat) "CsrCalculator" "buffer" "[B" "CsrCalculator") ∈ lw_tbl := lw_at lw_m1 156 rfl
theorem q337 : (Jvm.Cond.fieldLinkNest "CsrCalculator$Reader" (15 : Nat) "CsrCalculator" "length" "I" "CsrCalculator") ∈ lw_tbl := lw_at lw_m1 158 rfl
theorem q341 : (Jvm.Cond.fieldLinkNest "CsrCalculator$Reader" (22 : Nat) "CsrCalculator" "now" "LCsrCalculator$World;" "CsrCalculator") ∈ lw_tbl := lw_at lw_m1 162 rfl
theorem q631 : (Jvm.Cond.instantiable "CsrCalculator$Reader" (12 : Nat)) ∈ lw_all := lw_g (lw_at lw_m2 212 rfl) rfl
theorem q633 : (Jvm.Cond.instanceMethod ({ cls := "CsrCalculator$Reader", name := "<init>", desc := "(LCsrCalculator;)V" } : Jvm.MethodName)) ∈ lw_all := lw_g (lw_at lw_m2 214 rfl) rfl
theorem q634 : (Jvm.Cond.code ({ cls := "CsrCalculator$Reader", name := "<init>", desc := "(LCsrCalculator;)V" } : Jvm.MethodName) prog_15_method_1_code (2 : Nat) (Option.none : Option Jvm.ClassFile.FieldType)) ∈ lw_all := lw_g (lw_at lw_m2 215 rfl) rfl
theorem q635 : (Jvm.Cond.methodLink "CsrCalculator$Reader" (9 : Nat) ({ cls := "java/lang/Object", name := "<init>", desc := "()V" } : Jvm.MethodName)) ∈ lw_all := lw_g (lw_at lw_m2 216 rfl) rfl
theorem q636 : (Jvm.Cond.stringRef "CsrCalculator$Reader" (29 : Nat) "") ∈ lw_tbl := lw_at lw_m2 217 rfl
theorem q637 : (Jvm.Cond.fieldLink "CsrCalculator$Reader" (19 : Nat) "CsrCalculator$Reader" "size" "I") ∈ lw_all := lw_g (lw_at lw_m2 218 rfl) rfl
theorem q638 : (Jvm.Cond.fieldLink "CsrCalculator$Reader" (26 : Nat) "CsrCalculator$Reader" "made" "LCsrCalculator$World;") ∈ lw_all := lw_g (lw_at lw_m2 219 rfl) rfl
theorem q639 : (Jvm.Cond.fieldLink "CsrCalculator$Reader" (46 : Nat) "CsrCalculator$Reader" "at" "I") ∈ lw_all := lw_g (lw_at lw_m2 220 rfl) rfl
theorem q640 : (Jvm.Cond.fieldLink "CsrCalculator$Reader" (39 : Nat) "CsrCalculator$Reader" "next" "I") ∈ lw_all := lw_g (lw_at lw_m2 221 rfl) rfl
theorem q641 : (Jvm.Cond.fieldLink "CsrCalculator$Reader" (49 : Nat) "CsrCalculator$Reader" "token" "I") ∈ lw_all := lw_g (lw_at lw_m2 222 rfl) rfl
theorem q642 : (Jvm.Cond.fieldLink "CsrCalculator$Reader" (67 : Nat) "CsrCalculator$Reader" "number" "I") ∈ lw_all := lw_g (lw_at lw_m2 223 rfl) rfl
theorem q643 : (Jvm.Cond.fieldLink "CsrCalculator$Reader" (281 : Nat) "CsrCalculator$Reader" "commands" "I") ∈ lw_all := lw_g (lw_at lw_m2 224 rfl) rfl
theorem q644 : (Jvm.Cond.fieldLink "CsrCalculator$Reader" (278 : Nat) "CsrCalculator$Reader" "depth" "I") ∈ lw_all := lw_g (lw_at lw_m2 225 rfl) rfl
theorem q645 : (Jvm.Cond.fieldLink "CsrCalculator$Reader" (167 : Nat) "CsrCalculator$Reader" "levels" "I") ∈ lw_all := lw_g (lw_at lw_m2 226 rfl) rfl
theorem q646 : (Jvm.Cond.fieldLink "CsrCalculator$Reader" (31 : Nat) "CsrCalculator$Reader" "word" "Ljava/lang/String;") ∈ lw_all := lw_g (lw_at lw_m2 227 rfl) rfl
theorem q647 : (Jvm.Cond.fieldLink "CsrCalculator$Reader" (113 : Nat) "CsrCalculator$Reader" "isScript" "Z") ∈ lw_all := lw_g (lw_at lw_m2 228 rfl) rfl
theorem q648 : (Jvm.Cond.fieldLink "CsrCalculator$Reader" (3 : Nat) "CsrCalculator$Reader" "this$0" "LCsrCalculator;") ∈ lw_all := lw_g (lw_at lw_m2 229 rfl) rfl
theorem q649 : (Jvm.Cond.laysFinal "CsrCalculator$Reader" "CsrCalculator$Reader" "size" "I") ∈ lw_all := lw_g (lw_at lw_m2 230 rfl) rfl
theorem q650 : (Jvm.Cond.soleField "CsrCalculator$Reader" "size") ∈ lw_all := lw_g (lw_at lw_m2 231 rfl) rfl
theorem q651 : (Jvm.Cond.lays "CsrCalculator$Reader" "CsrCalculator$Reader" "made" "LCsrCalculator$World;") ∈ lw_all := lw_g (lw_at lw_m2 232 rfl) rfl
theorem q652 : (Jvm.Cond.soleField "CsrCalculator$Reader" "made") ∈ lw_all := lw_g (lw_at lw_m2 233 rfl) rfl
theorem q653 : (Jvm.Cond.lays "CsrCalculator$Reader" "CsrCalculator$Reader" "at" "I") ∈ lw_all := lw_g (lw_at lw_m2 234 rfl) rfl
theorem q654 : (Jvm.Cond.soleField "CsrCalculator$Reader" "at") ∈ lw_all := lw_g (lw_at lw_m2 235 rfl) rfl
theorem q655 : (Jvm.Cond.lays "CsrCalculator$Reader" "CsrCalculator$Reader" "next" "I") ∈ lw_all := lw_g (lw_at lw_m2 236 rfl) rfl
theorem q656 : (Jvm.Cond.soleField "CsrCalculator$Reader" "next") ∈ lw_all := lw_g (lw_at lw_m2 237 rfl) rfl
theorem q657 : (Jvm.Cond.lays "CsrCalculator$Reader" "CsrCalculator$Reader" "token" "I") ∈ lw_all := lw_g (lw_at lw_m2 238 rfl) rfl
theorem q658 : (Jvm.Cond.soleField "CsrCalculator$Reader" "token") ∈ lw_all := lw_g (lw_at lw_m2 239 rfl) rfl
theorem q659 : (Jvm.Cond.lays "CsrCalculator$Reader" "CsrCalculator$Reader" "number" "I") ∈ lw_all := lw_g (lw_at lw_m3 0 rfl) rfl
theorem q660 : (Jvm.Cond.soleField "CsrCalculator$Reader" "number") ∈ lw_all := lw_g (lw_at lw_m3 1 rfl) rfl
theorem q661 : (Jvm.Cond.lays "CsrCalculator$Reader" "CsrCalculator$Reader" "commands" "I") ∈ lw_all := lw_g (lw_at lw_m3 2 rfl) rfl
theorem q662 : (Jvm.Cond.soleField "CsrCalculator$Reader" "commands") ∈ lw_all := lw_g (lw_at lw_m3 3 rfl) rfl
theorem q663 : (Jvm.Cond.lays "CsrCalculator$Reader" "CsrCalculator$Reader" "depth" "I") ∈ lw_all := lw_g (lw_at lw_m3 4 rfl) rfl
theorem q664 : (Jvm.Cond.soleField "CsrCalculator$Reader" "depth") ∈ lw_all := lw_g (lw_at lw_m3 5 rfl) rfl
theorem q665 : (Jvm.Cond.lays "CsrCalculator$Reader" "CsrCalculator$Reader" "levels" "I") ∈ lw_all := lw_g (lw_at lw_m3 6 rfl) rfl
theorem q666 : (Jvm.Cond.soleField "CsrCalculator$Reader" "levels") ∈ lw_all := lw_g (lw_at lw_m3 7 rfl) rfl
theorem q667 : (Jvm.Cond.lays "CsrCalculator$Reader" "CsrCalculator$Reader" "word" "Ljava/lang/String;") ∈ lw_all := lw_g (lw_at lw_m3 8 rfl) rfl
theorem q668 : (Jvm.Cond.soleField "CsrCalculator$Reader" "word") ∈ lw_all := lw_g (lw_at lw_m3 9 rfl) rfl
theorem q669 : (Jvm.Cond.lays "CsrCalculator$Reader" "CsrCalculator$Reader" "isScript" "Z") ∈ lw_all := lw_g (lw_at lw_m3 10 rfl) rfl
theorem q670 : (Jvm.Cond.soleField "CsrCalculator$Reader" "isScript") ∈ lw_all := lw_g (lw_at lw_m3 11 rfl) rfl
theorem q671 : (Jvm.Cond.laysFinal "CsrCalculator$Reader" "CsrCalculator$Reader" "this$0" "LCsrCalculator;") ∈ lw_all := lw_g (lw_at lw_m3 12 rfl) rfl
theorem q672 : (Jvm.Cond.soleField "CsrCalculator$Reader" "this$0") ∈ lw_all := lw_g (lw_at lw_m3 13 rfl) rfl
theorem q673 : (Jvm.Cond.superclass "CsrCalculator$Reader" "java/lang/Object") ∈ lw_all := lw_g (lw_at lw_m3 14 rfl) rfl
theorem q675 : (Jvm.Cond.instanceMethod ({ cls := "CsrCalculator$Reader", name := "description", desc := "()LCsrCalculator$World;" } : Jvm.MethodName)) ∈ lw_all := lw_g (lw_at lw_m3 16 rfl) rfl
theorem q676 : (Jvm.Cond.selects "CsrCalculator$Reader" ({ cls := "CsrCalculator$Reader", name := "description", desc := "()LCsrCalculator$World;" } : Jvm.MethodName) ({ cls := "CsrCalculator$Reader", name := "description", desc := "()LCsrCalculator$World;" } : Jvm.MethodName)) ∈ lw_all := lw_g (lw_at lw_m3 17 rfl) rfl
theorem q677 : (Jvm.Cond.code ({ cls := "CsrCalculator$Reader", name := "description", desc := "()LCsrCalculator$World;" } : Jvm.MethodName) prog_15_method_17_code (1 : Nat) (Option.some (Jvm.ClassFile.FieldType.object "CsrCalculator$World"))) ∈ lw_all := lw_g (lw_at lw_m3 18 rfl) rfl
theorem q678 : (Jvm.Cond.classLink "CsrCalculator$Reader" (209 : Nat) "CsrCalculator$World") ∈ lw_all := lw_g (lw_at lw_m3 19 rfl) rfl
theorem q679 : (Jvm.Cond.methodLinkNest "CsrCalculator$Reader" (211 : Nat) ({ cls := "CsrCalculator$World", name := "<init>", desc := "()V" } : Jvm.MethodName) "CsrCalculator") ∈ lw_tbl := lw_at lw_m3 20 rfl
theorem q680 : (Jvm.Cond.methodLink "CsrCalculator$Reader" (104 : Nat) ({ cls := "CsrCalculator$Reader", name := "advance", desc := "()V" } : Jvm.MethodName)) ∈ lw_all := lw_g (lw_at lw_m3 21 rfl) rfl
theorem q681 : (Jvm.Cond.privateMethod ({ cls := "CsrCalculator$Reader", name := "advance", desc := "()V" } : Jvm.MethodName)) ∈ lw_tbl := lw_at lw_m3 22 rfl
theorem q682 : (Jvm.Cond.instanceMethod ({ cls := "CsrCalculator$Reader", name := "advance", desc := "()V" } : Jvm.MethodName)) ∈ lw_all := lw_g (lw_at lw_m3 23 rfl) rfl
theorem q683 : (Jvm.Cond.code ({ cls := "CsrCalculator$Reader", name := "advance", desc := "()V" } : Jvm.MethodName) prog_15_method_3_code (2 : Nat) (Option.none : Option Jvm.ClassFile.FieldType)) ∈ lw_all := lw_g (lw_at lw_m3 24 rfl) rfl
theorem q684 : (Jvm.Cond.methodLink "CsrCalculator$Reader" (42 : Nat) ({ cls := "CsrCalculator$Reader", name := "byteAt", desc := "(I)I" } : Jvm.MethodName)) ∈ lw_all := lw_g (lw_at lw_m3 25 rfl) rfl
theorem q685 : (Jvm.Cond.privateMethod ({ cls := "CsrCalculator$Reader", name := "byteAt", desc := "(I)I" } : Jvm.MethodName)) ∈ lw_tbl := lw_at lw_m3 26 rfl
theorem q686 : (Jvm.Cond.instanceMethod ({ cls := "CsrCalculator$Reader", name := "byteAt", desc := "(I)I" } : Jvm.MethodName)) ∈ lw_all := lw_g (lw_at lw_m3 27 rfl) rfl
theorem q687 : (Jvm.Cond.code ({ cls := "CsrCalculator$Reader", name := "byteAt", desc := "(I)I" } : Jvm.MethodName) prog_15_method_2_code (2 : Nat) (Option.some Jvm.ClassFile.FieldType.int)) ∈ lw_all := lw_g (lw_at lw_m3 28 rfl) rfl
theorem q688 : (Jvm.Cond.constantLong "CsrCalculator$Reader" (52 : Nat) (97 : Int64)) ∈ lw_all := lw_g (lw_at lw_m3 29 rfl) rfl
theorem q689 : (Jvm.Cond.constantLong "CsrCalculator$Reader" (54 : Nat) (122 : Int64)) ∈ lw_all := lw_g (lw_at lw_m3 30 rfl) rfl
theorem q690 : (Jvm.Cond.methodLinkNest "CsrCalculator$Reader" (56 : Nat) ({ cls := "CsrCalculator", name := "isIn", desc := "(JJJ)Z" } : Jvm.MethodName) "CsrCalculator") ∈ lw_tbl := lw_at lw_m3 31 rfl
theorem q691 : (Jvm.Cond.methodLink "CsrCalculator$Reader" (60 : Nat) ({ cls := "CsrCalculator$Reader", name := "readWord", desc := "()V" } : Jvm.MethodName)) ∈ lw_all := lw_g (lw_at lw_m3 32 rfl) rfl
theorem q692 : (Jvm.Cond.privateMethod ({ cls := "CsrCalculator$Reader", name := "readWord", desc := "()V" } : Jvm.MethodName)) ∈ lw_tbl := lw_at lw_m3 33 rfl
theorem q693 : (Jvm.Cond.instanceMethod ({ cls := "CsrCalculator$Reader", name := "readWord", desc := "()V" } : Jvm.MethodName)) ∈ lw_all := lw_g (lw_at lw_m3 34 rfl) rfl
theorem q694 : (Jvm.Cond.code ({ cls := "CsrCalculator$Reader", name := "readWord", desc := "()V" } : Jvm.MethodName) prog_15_method_4_code (2 : Nat) (Option.none : Option Jvm.ClassFile.FieldType)) ∈ lw_all := lw_g (lw_at lw_m3 35 rfl) rfl
theorem q695 : (Jvm.Cond.classLink "CsrCalculator$Reader" (77 : Nat) "java/lang/StringBuilder") ∈ lw_all := lw_g (lw_at lw_m3 36 rfl) rfl
theorem q696 : (Jvm.Cond.methodLink "CsrCalculator$Reader" (79 : Nat) ({ cls := "java/lang/StringBuilder", name := "<init>", desc := "()V" } : Jvm.MethodName)) ∈ lw_all := lw_g (lw_at lw_m3 37 rfl) rfl
theorem q697 : (Jvm.Cond.methodLink "CsrCalculator$Reader" (80 : Nat) ({ cls := "java/lang/StringBuilder", name := "length", desc := "()I" } : Jvm.MethodName)) ∈ lw_all := lw_g (lw_at lw_m3 38 rfl) rfl
theorem q704 : (Jvm.Cond.methodLink "CsrCalculator$Reader" (83 : Nat) ({ cls := "java/lang/StringBuilder", name := "append", desc := "(C)Ljava/lang/StringBuilder;" } : Jvm.MethodName)) ∈ lw_all := lw_g (lw_at lw_m3 45 rfl) rfl
theorem q797 : (Jvm.Cond.methodLink "CsrCalculator$Reader" (87 : Nat) ({ cls := "java/lang/StringBuilder", name := "toString", desc := "()Ljava/lang/String;" } : Jvm.MethodName)) ∈ lw_all := lw_g (lw_at lw_m3 138 rfl) rfl
theorem q941 : (Jvm.Cond.constantLong "CsrCalculator$Reader" (63 : Nat) (48 : Int64)) ∈ lw_all := lw_g (lw_at lw_m4 42 rfl) rfl
theorem q942 : (Jvm.Cond.constantLong "CsrCalculator$Reader" (65 : Nat) (57 : Int64)) ∈ lw_all := lw_g (lw_at lw_m4 43 rfl) rfl
theorem q943 : (Jvm.Cond.constant "CsrCalculator$Reader" (70 : Nat) (99999 : Int32)) ∈ lw_all := lw_g (lw_at lw_m4 44 rfl) rfl
theorem q944 : (Jvm.Cond.methodLink "CsrCalculator$Reader" (71 : Nat) ({ cls := "java/lang/Math", name := "min", desc := "(II)I" } : Jvm.MethodName)) ∈ lw_all := lw_g (lw_at lw_m4 45 rfl) rfl
theorem q945 : (Jvm.Cond.stringRef "CsrCalculator$Reader" (212 : Nat) "csr") ∈ lw_tbl := lw_at lw_m4 46 rfl
theorem q946 : (Jvm.Cond.methodLink "CsrCalculator$Reader" (107 : Nat) ({ cls := "java/lang/String", name := "equals", desc := "(Ljava/lang/Object;)Z" } : Jvm.MethodName)) ∈ lw_all := lw_g (lw_at lw_m4 47 rfl) rfl
theorem q954 : (Jvm.Cond.methodLink "CsrCalculator$Reader" (100 : Nat) ({ cls := "CsrCalculator$Reader", name := "check", desc := "(ZI)V" } : Jvm.MethodName)) ∈ lw_all := lw_g (lw_at lw_m4 55 rfl) rfl
theorem q955 : (Jvm.Cond.privateMethod ({ cls := "CsrCalculator$Reader", name := "check", desc := "(ZI)V" } : Jvm.MethodName)) ∈ lw_tbl := lw_at lw_m4 56 rfl
theorem q956 : (Jvm.Cond.instanceMethod ({ cls := "CsrCalculator$Reader", name := "check", desc := "(ZI)V" } : Jvm.MethodName)) ∈ lw_all := lw_g (lw_at lw_m4 57 rfl) rfl
theorem q957 : (Jvm.Cond.code ({ cls := "CsrCalculator$Reader", name := "check", desc := "(ZI)V" } : Jvm.MethodName) prog_15_method_5_code (3 : Nat) (Option.none : Option Jvm.ClassFile.FieldType)) ∈ lw_all := lw_g (lw_at lw_m4 58 rfl) rfl
theorem q958 : (Jvm.Cond.classLink "CsrCalculator$Reader" (91 : Nat) "CsrCalculator$Wrong") ∈ lw_all := lw_g (lw_at lw_m4 59 rfl) rfl
theorem q967 : (Jvm.Cond.methodLink "CsrCalculator$Reader" (93 : Nat) ({ cls := "CsrCalculator$Wrong", name := "<init>", desc := "(II)V" } : Jvm.MethodName)) ∈ lw_all := lw_g (lw_at lw_m4 68 rfl) rfl
theorem q981 : (Jvm.Cond.methodLink "CsrCalculator$Reader" (196 : Nat) ({ cls := "CsrCalculator$Reader", name := "sign", desc := "(I)V" } : Jvm.MethodName)) ∈ lw_all := lw_g (lw_at lw_m4 82 rfl) rfl
theorem q982 : (Jvm.Cond.privateMethod ({ cls := "CsrCalculator$Reader", name := "sign", desc := "(I)V" } : Jvm.MethodName)) ∈ lw_tbl := lw_at lw_m4 83 rfl
theorem q983 : (Jvm.Cond.instanceMethod ({ cls := "CsrCalculator$Reader", name := "sign", desc := "(I)V" } : Jvm.MethodName)) ∈ lw_all := lw_g (lw_at lw_m4 84 rfl) rfl
theorem q984 : (Jvm.Cond.code ({ cls := "CsrCalculator$Reader", name := "sign", desc := "(I)V" } : Jvm.MethodName) prog_15_method_7_code (2 : Nat) (Option.none : Option Jvm.ClassFile.FieldType)) ∈ lw_all := lw_g (lw_at lw_m4 85 rfl) rfl
theorem q985 : (Jvm.Cond.methodLink "CsrCalculator$Reader" (96 : Nat) ({ cls := "CsrCalculator$Reader", name := "isSign", desc := "(I)Z" } : Jvm.MethodName)) ∈ lw_all := lw_g (lw_at lw_m4 86 rfl) rfl
theorem q986 : (Jvm.Cond.privateMethod ({ cls := "CsrCalculator$Reader", name := "isSign", desc := "(I)Z" } : Jvm.MethodName)) ∈ lw_tbl := lw_at lw_m4 87 rfl
theorem q987 : (Jvm.Cond.instanceMethod ({ cls := "CsrCalculator$Reader", name := "isSign", desc := "(I)Z" } : Jvm.MethodName)) ∈ lw_all := lw_g (lw_at lw_m4 88 rfl) rfl
theorem q988 : (Jvm.Cond.code ({ cls := "CsrCalculator$Reader", name := "isSign", desc := "(I)Z" } : Jvm.MethodName) prog_15_method_6_code (2 : Nat) (Option.some Jvm.ClassFile.FieldType.boolean)) ∈ lw_all := lw_g (lw_at lw_m4 89 rfl) rfl
theorem q989 : (Jvm.Cond.methodLinkNest "CsrCalculator$Reader" (214 : Nat) ({ cls := "CsrCalculator", name := "isStatement", desc := "(Ljava/lang/String;)Z" } : Jvm.MethodName) "CsrCalculator") ∈ lw_tbl := lw_at lw_m4 90 rfl
theorem q1058 : (Jvm.Cond.methodLink "CsrCalculator$Reader" (217 : Nat) ({ cls := "CsrCalculator$Reader", name := "statement", desc := "(Ljava/lang/String;)V" } : Jvm.MethodName)) ∈ lw_all := lw_g (lw_at lw_m4 159 rfl) rfl
theorem q1059 : (Jvm.Cond.privateMethod ({ cls := "CsrCalculator$Reader", name := "statement", desc := "(Ljava/lang/String;)V" } : Jvm.MethodName)) ∈ lw_tbl := lw_at lw_m4 160 rfl
theorem q1060 : (Jvm.Cond.instanceMethod ({ cls := "CsrCalculator$Reader", name := "statement", desc := "(Ljava/lang/String;)V" } : Jvm.MethodName)) ∈ lw_all := lw_g (lw_at lw_m4 161 rfl) rfl
theorem q1061 : (Jvm.Cond.codeWith ({ cls := "CsrCalculator$Reader", name := "statement", desc := "(Ljava/lang/String;)V" } : Jvm.MethodName) prog_15_method_18_code (11 : Nat) (Option.none : Option Jvm.ClassFile.FieldType) [((19 : Nat), (296 : Nat), (299 : Nat), (259 : Nat))]) ∈ lw_all := lw_g (lw_at lw_m4 162 rfl) rfl
theorem q1062 : (Jvm.Cond.classLink "CsrCalculator$Reader" (259 : Nat) "CsrCalculator$Failure") ∈ lw_all := lw_g (lw_at lw_m4 163 rfl) rfl
theorem q1063 : (Jvm.Cond.methodLink "CsrCalculator$Reader" (172 : Nat) ({ cls := "CsrCalculator$Reader", name := "register", desc := "()I" } : Jvm.MethodName)) ∈ lw_all := lw_g (lw_at lw_m4 164 rfl) rfl
theorem q1064 : (Jvm.Cond.privateMethod ({ cls := "CsrCalculator$Reader", name := "register", desc := "()I" } : Jvm.MethodName)) ∈ lw_tbl := lw_at lw_m4 165 rfl
theorem q1065 : (Jvm.Cond.instanceMethod ({ cls := "CsrCalculator$Reader", name := "register", desc := "()I" } : Jvm.MethodName)) ∈ lw_all := lw_g (lw_at lw_m4 166 rfl) rfl
theorem q1066 : (Jvm.Cond.code ({ cls := "CsrCalculator$Reader", name := "register", desc := "()I" } : Jvm.MethodName) prog_15_method_12_code (2 : Nat) (Option.some Jvm.ClassFile.FieldType.int)) ∈ lw_all := lw_g (lw_at lw_m4 167 rfl) rfl
theorem q1067 : (Jvm.Cond.methodLink "CsrCalculator$Reader" (124 : Nat) ({ cls := "CsrCalculator$Reader", name := "registerHere", desc := "()I" } : Jvm.MethodName)) ∈ lw_all := lw_g (lw_at lw_m4 168 rfl) rfl
theorem q1068 : (Jvm.Cond.privateMethod ({ cls := "CsrCalculator$Reader", name := "registerHere", desc := "()I" } : Jvm.MethodName)) ∈ lw_tbl := lw_at lw_m4 169 rfl
theorem q1069 : (Jvm.Cond.instanceMethod ({ cls := "CsrCalculator$Reader", name := "registerHere", desc := "()I" } : Jvm.MethodName)) ∈ lw_all := lw_g (lw_at lw_m4 170 rfl) rfl
theorem q1070 : (Jvm.Cond.code ({ cls := "CsrCalculator$Reader", name := "registerHere", desc := "()I" } : Jvm.MethodName) prog_15_method_11_code (1 : Nat) (Option.some Jvm.ClassFile.FieldType.int)) ∈ lw_all := lw_g (lw_at lw_m4 171 rfl) rfl
theorem q1071 : (Jvm.Cond.methodLink "CsrCalculator$Reader" (119 : Nat) ({ cls := "java/lang/String", name := "length", desc := "()I" } : Jvm.MethodName)) ∈ lw_all := lw_g (lw_at lw_m4 172 rfl) rfl
theorem q1072 : (Jvm.Cond.methodLink "CsrCalculator$Reader" (120 : Nat) ({ cls := "java/lang/String", name := "charAt", desc := "(I)C" } : Jvm.MethodName)) ∈ lw_all := lw_g (lw_at lw_m4 173 rfl) rfl
theorem q1083 : (Jvm.Cond.methodLink "CsrCalculator$Reader" (225 : Nat) ({ cls := "java/lang/String", name := "hashCode", desc := "()I" } : Jvm.MethodName)) ∈ lw_all := lw_g (lw_at lw_m4 184 rfl) rfl
theorem q1084 : (Jvm.Cond.stringRef "CsrCalculator$Reader" (228 : Nat) "matrix") ∈ lw_tbl := lw_at lw_m4 185 rfl
theorem q1085 : (Jvm.Cond.stringRef "CsrCalculator$Reader" (230 : Nat) "entry") ∈ lw_tbl := lw_at lw_m4 186 rfl
theorem q1086 : (Jvm.Cond.stringRef "CsrCalculator$Reader" (232 : Nat) "let") ∈ lw_tbl := lw_at lw_m4 187 rfl
theorem q1087 : (Jvm.Cond.methodLink "CsrCalculator$Reader" (117 : Nat) ({ cls := "CsrCalculator$Reader", name := "number", desc := "(II)I" } : Jvm.MethodName)) ∈ lw_all := lw_g (lw_at lw_m4 188 rfl) rfl
theorem q1088 : (Jvm.Cond.privateMethod ({ cls := "CsrCalculator$Reader", name := "number", desc := "(II)I" } : Jvm.MethodName)) ∈ lw_tbl := lw_at lw_m4 189 rfl
theorem q1089 : (Jvm.Cond.instanceMethod ({ cls := "CsrCalculator$Reader", name := "number", desc := "(II)I" } : Jvm.MethodName)) ∈ lw_all := lw_g (lw_at lw_m4 190 rfl) rfl
theorem q1090 : (Jvm.Cond.code ({ cls := "CsrCalculator$Reader", name := "number", desc := "(II)I" } : Jvm.MethodName) prog_15_method_8_code (4 : Nat) (Option.some Jvm.ClassFile.FieldType.int)) ∈ lw_all := lw_g (lw_at lw_m4 191 rfl) rfl
theorem q1091 : (Jvm.Cond.classLink "CsrCalculator$Reader" (234 : Nat) "CsrCalculator$Csr") ∈ lw_all := lw_g (lw_at lw_m4 192 rfl) rfl
theorem q1092 : (Jvm.Cond.methodLink "CsrCalculator$Reader" (236 : Nat) ({ cls := "CsrCalculator$Csr", name := "<init>", desc := "(II)V" } : Jvm.MethodName)) ∈ lw_all := lw_g (lw_at lw_m4 193 rfl) rfl
theorem q1093 : (Jvm.Cond.methodLink "CsrCalculator$Reader" (237 : Nat) ({ cls := "CsrCalculator$World", name := "put", desc := "(ILCsrCalculator$Csr;)I" } : Jvm.MethodName)) ∈ lw_all := lw_g (lw_at lw_m4 194 rfl) rfl
theorem q1097 : (Jvm.Cond.stringRef "CsrCalculator$Reader" (247 : Nat) "minus") ∈ lw_tbl := lw_at lw_m4 198 rfl
theorem q1098 : (Jvm.Cond.methodLink "CsrCalculator$Reader" (163 : Nat) ({ cls := "CsrCalculator$Reader", name := "skips", desc := "(Ljava/lang/String;)Z" } : Jvm.MethodName)) ∈ lw_all := lw_g (lw_at lw_m4 199 rfl) rfl
theorem q1099 : (Jvm.Cond.privateMethod ({ cls := "CsrCalculator$Reader", name := "skips", desc := "(Ljava/lang/String;)Z" } : Jvm.MethodName)) ∈ lw_tbl := lw_at lw_m4 200 rfl
theorem q1100 : (Jvm.Cond.instanceMethod ({ cls := "CsrCalculator$Reader", name := "skips", desc := "(Ljava/lang/String;)Z" } : Jvm.MethodName)) ∈ lw_all := lw_g (lw_at lw_m4 201 rfl) rfl
theorem q1101 : (Jvm.Cond.code ({ cls := "CsrCalculator$Reader", name := "skips", desc := "(Ljava/lang/String;)Z" } : Jvm.MethodName) prog_15_method_9_code (3 : Nat) (Option.some Jvm.ClassFile.FieldType.boolean)) ∈ lw_all := lw_g (lw_at lw_m4 202 rfl) rfl
theorem q1102 : (Jvm.Cond.methodLink "CsrCalculator$Reader" (249 : Nat) ({ cls := "CsrCalculator$Csr", name := "with", desc := "(III)LCsrCalculator$Csr;" } : Jvm.MethodName)) ∈ lw_all := lw_g (lw_at lw_m4 203 rfl) rfl
theorem q1112 : (Jvm.Cond.methodLink "CsrCalculator$Reader" (193 : Nat) ({ cls := "CsrCalculator$Reader", name := "expression", desc := "()LCsrCalculator$Expr;" } : Jvm.MethodName)) ∈ lw_all := lw_g (lw_at lw_m4 213 rfl) rfl
theorem q1113 : (Jvm.Cond.privateMethod ({ cls := "CsrCalculator$Reader", name := "expression", desc := "()LCsrCalculator$Expr;" } : Jvm.MethodName)) ∈ lw_tbl := lw_at lw_m4 214 rfl
theorem q1114 : (Jvm.Cond.instanceMethod ({ cls := "CsrCalculator$Reader", name := "expression", desc := "()LCsrCalculator$Expr;" } : Jvm.MethodName)) ∈ lw_all := lw_g (lw_at lw_m4 215 rfl) rfl
theorem q1115 : (Jvm.Cond.code ({ cls := "CsrCalculator$Reader", name := "expression", desc := "()LCsrCalculator$Expr;" } : Jvm.MethodName) prog_15_method_13_code (3 : Nat) (Option.some (Jvm.ClassFile.FieldType.object "CsrCalculator$Expr"))) ∈ lw_all := lw_g (lw_at lw_m4 216 rfl) rfl
theorem q1116 : (Jvm.Cond.classLink "CsrCalculator$Reader" (127 : Nat) "CsrCalculator$Sum") ∈ lw_all := lw_g (lw_at lw_m4 217 rfl) rfl
theorem q1118 : (Jvm.Cond.methodLinkNest "CsrCalculator$Reader" (129 : Nat) ({ cls := "CsrCalculator$Sum", name := "<init>", desc := "()V" } : Jvm.MethodName) "CsrCalculator") ∈ lw_tbl := lw_at lw_m4 219 rfl
theorem q1147 : (Jvm.Cond.fieldLinkNest "CsrCalculator$Reader" (130 : Nat) "CsrCalculator$Sum" "terms" "Ljava/util/List;" "CsrCalculator") ∈ lw_tbl := lw_at lw_m5 8 rfl
theorem q1150 : (Jvm.Cond.fieldLinkNest "CsrCalculator$Reader" (149 : Nat) "CsrCalculator$Sum" "joins" "Ljava/util/List;" "CsrCalculator") ∈ lw_tbl := lw_at lw_m5 11 rfl
theorem q1156 : (Jvm.Cond.methodLink "CsrCalculator$Reader" (134 : Nat) ({ cls := "CsrCalculator$Reader", name := "term", desc := "()LCsrCalculator$Expr;" } : Jvm.MethodName)) ∈ lw_all := lw_g (lw_at lw_m5 17 rfl) rfl
theorem q1157 : (Jvm.Cond.privateMethod ({ cls := "CsrCalculator$Reader", name := "term", desc := "()LCsrCalculator$Expr;" } : Jvm.MethodName)) ∈ lw_tbl := lw_at lw_m5 18 rfl
theorem q1158 : (Jvm.Cond.instanceMethod ({ cls := "CsrCalculator$Reader", name := "term", desc := "()LCsrCalculator$Expr;" } : Jvm.MethodName)) ∈ lw_all := lw_g (lw_at lw_m5 19 rfl) rfl
theorem q1159 : (Jvm.Cond.code ({ cls := "CsrCalculator$Reader", name := "term", desc := "()LCsrCalculator$Expr;" } : Jvm.MethodName) prog_15_method_14_code (2 : Nat) (Option.some (Jvm.ClassFile.FieldType.object "CsrCalculator$Expr"))) ∈ lw_all := lw_g (lw_at lw_m5 20 rfl) rfl
theorem q1160 : (Jvm.Cond.classLink "CsrCalculator$Reader" (152 : Nat) "CsrCalculator$Product") ∈ lw_all := lw_g (lw_at lw_m5 21 rfl) rfl
theorem q1162 : (Jvm.Cond.methodLinkNest "CsrCalculator$Reader" (154 : Nat) ({ cls := "CsrCalculator$Product", name := "<init>", desc := "()V" } : Jvm.MethodName) "CsrCalculator") ∈ lw_tbl := lw_at lw_m5 23 rfl
theorem q1170 : (Jvm.Cond.fieldLinkNest "CsrCalculator$Reader" (155 : Nat) "CsrCalculator$Product" "factors" "Ljava/util/List;" "CsrCalculator") ∈ lw_tbl := lw_at lw_m5 31 rfl
theorem q1174 : (Jvm.Cond.methodLink "CsrCalculator$Reader" (158 : Nat) ({ cls := "CsrCalculator$Reader", name := "factor", desc := "()LCsrCalculator$Expr;" } : Jvm.MethodName)) ∈ lw_all := lw_g (lw_at lw_m5 35 rfl) rfl
theorem q1175 : (Jvm.Cond.privateMethod ({ cls := "CsrCalculator$Reader", name := "factor", desc := "()LCsrCalculator$Expr;" } : Jvm.MethodName)) ∈ lw_tbl := lw_at lw_m5 36 rfl
theorem q1176 : (Jvm.Cond.instanceMethod ({ cls := "CsrCalculator$Reader", name := "factor", desc := "()LCsrCalculator$Expr;" } : Jvm.MethodName)) ∈ lw_all := lw_g (lw_at lw_m5 37 rfl) rfl
theorem q1177 : (Jvm.Cond.code ({ cls := "CsrCalculator$Reader", name := "factor", desc := "()LCsrCalculator$Expr;" } : Jvm.MethodName) prog_15_method_16_code (5 : Nat) (Option.some (Jvm.ClassFile.FieldType.object "CsrCalculator$Expr"))) ∈ lw_all := lw_g (lw_at lw_m5 38 rfl) rfl
theorem q1178 : (Jvm.Cond.classLink "CsrCalculator$Reader" (170 : Nat) "CsrCalculator$Register") ∈ lw_all := lw_g (lw_at lw_m5 39 rfl) rfl
theorem q1180 : (Jvm.Cond.methodLink "CsrCalculator$Reader" (175 : Nat) ({ cls := "CsrCalculator$Register", name := "<init>", desc := "(I)V" } : Jvm.MethodName)) ∈ lw_all := lw_g (lw_at lw_m5 41 rfl) rfl
theorem q1189 : (Jvm.Cond.stringRef "CsrCalculator$Reader" (178 : Nat) "unit") ∈ lw_tbl := lw_at lw_m5 50 rfl
theorem q1190 : (Jvm.Cond.classLink "CsrCalculator$Reader" (180 : Nat) "CsrCalculator$Unit") ∈ lw_all := lw_g (lw_at lw_m5 51 rfl) rfl
theorem q1192 : (Jvm.Cond.methodLink "CsrCalculator$Reader" (182 : Nat) ({ cls := "CsrCalculator$Reader", name := "ranged", desc := "(II)I" } : Jvm.MethodName)) ∈ lw_all := lw_g (lw_at lw_m5 53 rfl) rfl
theorem q1193 : (Jvm.Cond.privateMethod ({ cls := "CsrCalculator$Reader", name := "ranged", desc := "(II)I" } : Jvm.MethodName)) ∈ lw_tbl := lw_at lw_m5 54 rfl
theorem q1194 : (Jvm.Cond.instanceMethod ({ cls := "CsrCalculator$Reader", name := "ranged", desc := "(II)I" } : Jvm.MethodName)) ∈ lw_all := lw_g (lw_at lw_m5 55 rfl) rfl
theorem q1195 : (Jvm.Cond.code ({ cls := "CsrCalculator$Reader", name := "ranged", desc := "(II)I" } : Jvm.MethodName) prog_15_method_10_code (3 : Nat) (Option.some Jvm.ClassFile.FieldType.int)) ∈ lw_all := lw_g (lw_at lw_m5 56 rfl) rfl
theorem q1196 : (Jvm.Cond.methodLink "CsrCalculator$Reader" (185 : Nat) ({ cls := "CsrCalculator$Unit", name := "<init>", desc := "(I)V" } : Jvm.MethodName)) ∈ lw_all := lw_g (lw_at lw_m5 57 rfl) rfl
theorem q1205 : (Jvm.Cond.stringRef "CsrCalculator$Reader" (186 : Nat) "trans") ∈ lw_tbl := lw_at lw_m5 66 rfl
theorem q1206 : (Jvm.Cond.stringRef "CsrCalculator$Reader" (188 : Nat) "neg") ∈ lw_tbl := lw_at lw_m5 67 rfl
theorem q1207 : (Jvm.Cond.methodLink "CsrCalculator$Reader" (190 : Nat) ({ cls := "CsrCalculator$Reader", name := "open", desc := "()V" } : Jvm.MethodName)) ∈ lw_all := lw_g (lw_at lw_m5 68 rfl) rfl
theorem q1208 : (Jvm.Cond.privateMethod ({ cls := "CsrCalculator$Reader", name := "open", desc := "()V" } : Jvm.MethodName)) ∈ lw_tbl := lw_at lw_m5 69 rfl
theorem q1209 : (Jvm.Cond.instanceMethod ({ cls := "CsrCalculator$Reader", name := "open", desc := "()V" } : Jvm.MethodName)) ∈ lw_all := lw_g (lw_at lw_m5 70 rfl) rfl
theorem q1210 : (Jvm.Cond.code ({ cls := "CsrCalculator$Reader", name := "open", desc := "()V" } : Jvm.MethodName) prog_15_method_15_code (1 : Nat) (Option.none : Option Jvm.ClassFile.FieldType)) ∈ lw_all := lw_g (lw_at lw_m5 71 rfl) rfl
theorem q1211 : (Jvm.Cond.classLink "CsrCalculator$Reader" (199 : Nat) "CsrCalculator$Transpose") ∈ lw_all := lw_g (lw_at lw_m5 72 rfl) rfl
theorem q1213 : (Jvm.Cond.methodLink "CsrCalculator$Reader" (201 : Nat) ({ cls := "CsrCalculator$Transpose", name := "<init>", desc := "(LCsrCalculator$Expr;)V" } : Jvm.MethodName)) ∈ lw_all := lw_g (lw_at lw_m5 74 rfl) rfl
theorem q1222 : (Jvm.Cond.classLink "CsrCalculator$Reader" (204 : Nat) "CsrCalculator$Multiple") ∈ lw_all := lw_g (lw_at lw_m5 83 rfl) rfl
theorem q1224 : (Jvm.Cond.methodLink "CsrCalculator$Reader" (206 : Nat) ({ cls := "CsrCalculator$Multiple", name := "<init>", desc := "(ILCsrCalculator$Expr;)V" } : Jvm.MethodName)) ∈ lw_all := lw_g (lw_at lw_m5 85 rfl) rfl
theorem q1237 : (Jvm.Cond.interfaceEntry "CsrCalculator$Reader" (138 : Nat)) ∈ lw_tbl := lw_at lw_m5 98 rfl
theorem q1238 : (Jvm.Cond.methodLink "CsrCalculator$Reader" (138 : Nat) ({ cls := "java/util/List", name := "add", desc := "(Ljava/lang/Object;)Z" } : Jvm.MethodName)) ∈ lw_all := lw_g (lw_at lw_m5 99 rfl) rfl
theorem q1275 : (Jvm.Cond.selects "CsrCalculator$Reader" ({ cls := "java/lang/Object", name := "getClass", desc := "()Ljava/lang/Class;" } : Jvm.MethodName) ({ cls := "java/lang/Object", name := "getClass", desc := "()Ljava/lang/Class;" } : Jvm.MethodName)) ∈ lw_all := lw_g (lw_at lw_m5 136 rfl) rfl
theorem q1301 : (Jvm.Cond.stringRef "CsrCalculator$Reader" (161 : Nat) "times") ∈ lw_tbl := lw_at lw_m5 162 rfl
theorem q1302 : (Jvm.Cond.methodLink "CsrCalculator$Reader" (143 : Nat) ({ cls := "CsrCalculator$Join", name := "named", desc := "(Ljava/lang/String;)LCsrCalculator$Join;" } : Jvm.MethodName)) ∈ lw_all := lw_g (lw_at lw_m5 163 rfl) rfl
theorem q1317 : (Jvm.Cond.methodLink "CsrCalculator$Reader" (253 : Nat) ({ cls := "CsrCalculator$World", name := "let", desc := "(ILCsrCalculator$Expr;)V" } : Jvm.MethodName)) ∈ lw_all := lw_g (lw_at lw_m5 178 rfl) rfl
theorem q1441 : (Jvm.Cond.methodLink "CsrCalculator$Reader" (255 : Nat) ({ cls := "CsrCalculator$Csr", name := "withoutZeros", desc := "()LCsrCalculator$Csr;" } : Jvm.MethodName)) ∈ lw_all := lw_g (lw_at lw_m6 62 rfl) rfl
theorem q1470 : (Jvm.Cond.instanceMethod ({ cls := "CsrCalculator$Reader", name := "script", desc := "()LCsrCalculator$Command;" } : Jvm.MethodName)) ∈ lw_all := lw_g (lw_at lw_m6 91 rfl) rfl
theorem q1471 : (Jvm.Cond.selects "CsrCalculator$Reader" ({ cls := "CsrCalculator$Reader", name := "script", desc := "()LCsrCalculator$Command;" } : Jvm.MethodName) ({ cls := "CsrCalculator$Reader", name := "script", desc := "()LCsrCalculator$Command;" } : Jvm.MethodName)) ∈ lw_all := lw_g (lw_at lw_m6 92 rfl) rfl
theorem q1472 : (Jvm.Cond.code ({ cls := "CsrCalculator$Reader", name := "script", desc := "()LCsrCalculator$Command;" } : Jvm.MethodName) prog_15_method_19_code (2 : Nat) (Option.some (Jvm.ClassFile.FieldType.object "CsrCalculator$Command"))) ∈ lw_all := lw_g (lw_at lw_m6 93 rfl) rfl
theorem q1473 : (Jvm.Cond.classLink "CsrCalculator$Reader" (261 : Nat) "CsrCalculator$Command") ∈ lw_all := lw_g (lw_at lw_m6 94 rfl) rfl
theorem q1475 : (Jvm.Cond.stringRef "CsrCalculator$Reader" (263 : Nat) "repeat") ∈ lw_tbl := lw_at lw_m6 96 rfl
theorem q1476 : (Jvm.Cond.methodLink "CsrCalculator$Reader" (265 : Nat) ({ cls := "CsrCalculator$Command", name := "<init>", desc := "(Ljava/lang/String;[I)V" } : Jvm.MethodName)) ∈ lw_all := lw_g (lw_at lw_m6 97 rfl) rfl
theorem q1488 : (Jvm.Cond.fieldLinkNest "CsrCalculator$Reader" (268 : Nat) "CsrCalculator$Command" "inner" "Ljava/util/List;" "CsrCalculator") ∈ lw_tbl := lw_at lw_m6 109 rfl
theorem q1490 : (Jvm.Cond.fieldLinkNest "CsrCalculator$Reader" (294 : Nat) "CsrCalculator$Command" "expression" "LCsrCalculator$Expr;" "CsrCalculator") ∈ lw_tbl := lw_at lw_m6 111 rfl
theorem q1500 : (Jvm.Cond.methodLink "CsrCalculator$Reader" (271 : Nat) ({ cls := "CsrCalculator$Reader", name := "command", desc := "()LCsrCalculator$Command;" } : Jvm.MethodName)) ∈ lw_all := lw_g (lw_at lw_m6 121 rfl) rfl
theorem q1501 : (Jvm.Cond.privateMethod ({ cls := "CsrCalculator$Reader", name := "command", desc := "()LCsrCalculator$Command;" } : Jvm.MethodName)) ∈ lw_tbl := lw_at lw_m6 122 rfl
theorem q1502 : (Jvm.Cond.instanceMethod ({ cls := "CsrCalculator$Reader", name := "command", desc := "()LCsrCalculator$Command;" } : Jvm.MethodName)) ∈ lw_all := lw_g (lw_at lw_m6 123 rfl) rfl
theorem q1503 : (Jvm.Cond.code ({ cls := "CsrCalculator$Reader", name := "command", desc := "()LCsrCalculator$Command;" } : Jvm.MethodName) prog_15_method_20_code (3 : Nat) (Option.some (Jvm.ClassFile.FieldType.object "CsrCalculator$Command"))) ∈ lw_all := lw_g (lw_at lw_m6 124 rfl) rfl
theorem q1504 : (Jvm.Cond.methodLinkNest "CsrCalculator$Reader" (275 : Nat) ({ cls := "CsrCalculator", name := "isCommand", desc := "(Ljava/lang/String;)Z" } : Jvm.MethodName) "CsrCalculator") ∈ lw_tbl := lw_at lw_m6 125 rfl
theorem q1511 : (Jvm.Cond.methodLink "CsrCalculator$Reader" (284 : Nat) ({ cls := "CsrCalculator$Reader", name := "registerCommand", desc := "(Ljava/lang/String;)LCsrCalculator$Command;" } : Jvm.MethodName)) ∈ lw_all := lw_g (lw_at lw_m6 132 rfl) rfl
theorem q1512 : (Jvm.Cond.privateMethod ({ cls := "CsrCalculator$Reader", name := "registerCommand", desc := "(Ljava/lang/String;)LCsrCalculator$Command;" } : Jvm.MethodName)) ∈ lw_tbl := lw_at lw_m6 133 rfl
theorem q1513 : (Jvm.Cond.instanceMethod ({ cls := "CsrCalculator$Reader", name := "registerCommand", desc := "(Ljava/lang/String;)LCsrCalculator$Command;" } : Jvm.MethodName)) ∈ lw_all := lw_g (lw_at lw_m6 134 rfl) rfl
theorem q1514 : (Jvm.Cond.code ({ cls := "CsrCalculator$Reader", name := "registerCommand", desc := "(Ljava/lang/String;)LCsrCalculator$Command;" } : Jvm.MethodName) prog_15_method_21_code (6 : Nat) (Option.some (Jvm.ClassFile.FieldType.object "CsrCalculator$Command"))) ∈ lw_all := lw_g (lw_at lw_m6 135 rfl) rfl
theorem q1515 : (Jvm.Cond.stringRef "CsrCalculator$Reader" (292 : Nat) "drop") ∈ lw_tbl := lw_at lw_m6 136 rfl
theorem q1516 : (Jvm.Cond.methodLink "CsrCalculator$Reader" (297 : Nat) ({ cls := "CsrCalculator$Reader", name := "numbered", desc := "(Ljava/lang/String;I)LCsrCalculator$Command;" } : Jvm.MethodName)) ∈ lw_all := lw_g (lw_at lw_m6 137 rfl) rfl
theorem q1517 : (Jvm.Cond.privateMethod ({ cls := "CsrCalculator$Reader", name := "numbered", desc := "(Ljava/lang/String;I)LCsrCalculator$Command;" } : Jvm.MethodName)) ∈ lw_tbl := lw_at lw_m6 138 rfl
theorem q1518 : (Jvm.Cond.instanceMethod ({ cls := "CsrCalculator$Reader", name := "numbered", desc := "(Ljava/lang/String;I)LCsrCalculator$Command;" } : Jvm.MethodName)) ∈ lw_all := lw_g (lw_at lw_m6 139 rfl) rfl
theorem q1519 : (Jvm.Cond.code ({ cls := "CsrCalculator$Reader", name := "numbered", desc := "(Ljava/lang/String;I)LCsrCalculator$Command;" } : Jvm.MethodName) prog_15_method_22_code (7 : Nat) (Option.some (Jvm.ClassFile.FieldType.object "CsrCalculator$Command"))) ∈ lw_all := lw_g (lw_at lw_m6 140 rfl) rfl
theorem q1520 : (Jvm.Cond.methodLink "CsrCalculator$Reader" (288 : Nat) ({ cls := "CsrCalculator$Reader", name := "enclosed", desc := "(LCsrCalculator$Command;)V" } : Jvm.MethodName)) ∈ lw_all := lw_g (lw_at lw_m6 141 rfl) rfl
theorem q1521 : (Jvm.Cond.privateMethod ({ cls := "CsrCalculator$Reader", name := "enclosed", desc := "(LCsrCalculator$Command;)V" } : Jvm.MethodName)) ∈ lw_tbl := lw_at lw_m6 142 rfl
theorem q1522 : (Jvm.Cond.instanceMethod ({ cls := "CsrCalculator$Reader", name := "enclosed", desc := "(LCsrCalculator$Command;)V" } : Jvm.MethodName)) ∈ lw_all := lw_g (lw_at lw_m6 143 rfl) rfl
theorem q1523 : (Jvm.Cond.code ({ cls := "CsrCalculator$Reader", name := "enclosed", desc := "(LCsrCalculator$Command;)V" } : Jvm.MethodName) prog_15_method_23_code (2 : Nat) (Option.none : Option Jvm.ClassFile.FieldType)) ∈ lw_all := lw_g (lw_at lw_m6 144 rfl) rfl
theorem q3052 : (Jvm.Cond.castable "CsrCalculator$Reader" "java/lang/Object") ∈ lw_tbl := lw_at lw_m12 233 rfl
theorem in_X5 : ∀ w ∈ wsX50, w ∈ lw_all := lw_in wsX50 [649, 651, 653, 655, 657, 659, 661, 663, 665, 667, 669, 671] (by decide +kernel) (by decide +kernel)

/-! CsrCalculator$Wrong -/
set_option maxRecDepth 100000
def RX6 : String := "CsrCalculator$Wrong"
def TX6 : u_T := fun k => match k with
  | 0 => ("java/lang/Throwable", "cause", "Ljava/lang/Throwable;", false)
  | 1 => ("java/lang/Throwable", "stackTrace", "[Ljava/lang/StackTraceElement;", false)
  | 2 => ("java/lang/Throwable", "suppressedExceptions", "Ljava/util/List;", false)
  | 3 => ("java/lang/Throwable", "detailMessage", "Ljava/lang/String;", false)
  | 4 => ("java/lang/Throwable", "backtrace", "Ljava/lang/Object;", false)
  | 5 => ("java/lang/Throwable", "depth", "I", false)
  | 6 => ("CsrCalculator$Wrong", "code", "I", true)
  | _ => ("CsrCalculator$Wrong", "offset", "I", true)
def tyX6 : Nat → FieldType := fun k => match k with
  | 0 => .object "java/lang/Throwable"
  | 1 => .array (.object "java/lang/StackTraceElement")
  | 2 => .object "java/util/List"
  | 3 => .object "java/lang/String"
  | 4 => .object "java/lang/Object"
  | 5 => .int
  | 6 => .int
  | _ => .int
abbrev wsX60 : List Cond := u_ws RX6 TX6 8
theorem nmX6 : ∀ a, a < 8 → ∀ b, b < 8 → a ≠ b → (TX6 a).2.1 ≠ (TX6 b).2.1 := by decide +kernel
theorem tyX6_ok : ∀ k, k < 8 → parseFieldDescriptor (TX6 k).2.2.1 = some (tyX6 k) := by decide +kernel
abbrev cX6_init : ByteArray := prog_21_method_1_code
def yX6_init : MethodName := ⟨RX6, "<init>", "(II)V"⟩
def dkwX6_init_0 : List UInt8 := [42, 1, 1, 3, 3, 183, 0, 1, 42, 27, 181, 0, 7, 42, 28, 181, 0, 13, 177]
abbrev dktX6_init_0 : List UInt8 := dkwX6_init_0 ++ []
theorem dksX6_init_0 : cX6_init.data.toList.drop 0 = dktX6_init_0 := by decide +kernel
theorem dX6_init_0 : decode cX6_init 0 = .ok (.aload_n 0, 1) := dk_42 (dk_at dksX6_init_0 0 rfl rfl)
theorem dX6_init_1 : decode cX6_init 1 = .ok (.aconst_null, 1) := dk_1 (dk_at dksX6_init_0 1 rfl rfl)
theorem dX6_init_2 : decode cX6_init 2 = .ok (.aconst_null, 1) := dk_1 (dk_at dksX6_init_0 2 rfl rfl)
theorem dX6_init_3 : decode cX6_init 3 = .ok (.iconst 0, 1) := dk_3 (dk_at dksX6_init_0 3 rfl rfl)
theorem dX6_init_4 : decode cX6_init 4 = .ok (.iconst 0, 1) := dk_3 (dk_at dksX6_init_0 4 rfl rfl)
theorem dX6_init_5 : decode cX6_init 5 = .ok (.invokespecial 1, 3) := dk_183 0 1 (dk_at dksX6_init_0 5 rfl rfl)
theorem dX6_init_8 : decode cX6_init 8 = .ok (.aload_n 0, 1) := dk_42 (dk_at dksX6_init_0 8 rfl rfl)
theorem dX6_init_9 : decode cX6_init 9 = .ok (.iload_n 1, 1) := dk_27 (dk_at dksX6_init_0 9 rfl rfl)
theorem dX6_init_10 : decode cX6_init 10 = .ok (.putfield 7, 3) := dk_181 0 7 (dk_at dksX6_init_0 10 rfl rfl)
theorem dX6_init_13 : decode cX6_init 13 = .ok (.aload_n 0, 1) := dk_42 (dk_at dksX6_init_0 13 rfl rfl)
theorem dX6_init_14 : decode cX6_init 14 = .ok (.iload_n 2, 1) := dk_28 (dk_at dksX6_init_0 14 rfl rfl)
theorem dX6_init_15 : decode cX6_init 15 = .ok (.putfield 13, 3) := dk_181 0 13 (dk_at dksX6_init_0 15 rfl rfl)
theorem dX6_init_18 : decode cX6_init 18 = .ok (.return_, 1) := dk_177 (dk_at dksX6_init_0 18 rfl rfl)
theorem q204 : (Jvm.Cond.initialized "CsrCalculator$Wrong") ∈ lw_all := lw_g (lw_at lw_m1 25 rfl) rfl
theorem q459 : (Jvm.Cond.selects "CsrCalculator$Wrong" ({ cls := "java/lang/Throwable", name := "fillInStackTrace", desc := "()Ljava/lang/Throwable;" } : Jvm.MethodName) ({ cls := "java/lang/Throwable", name := "fillInStackTrace", desc := "()Ljava/lang/Throwable;" } : Jvm.MethodName)) ∈ lw_all := lw_g (lw_at lw_m2 40 rfl) rfl
theorem q959 : (Jvm.Cond.instantiable "CsrCalculator$Wrong" (8 : Nat)) ∈ lw_all := lw_g (lw_at lw_m4 60 rfl) rfl
theorem q960 : (Jvm.Cond.castable "CsrCalculator$Wrong" "CsrCalculator$Wrong") ∈ lw_tbl := lw_at lw_m4 61 rfl
theorem q961 : (Jvm.Cond.selects "CsrCalculator$Wrong" ({ cls := "java/lang/Throwable", name := "fillInStackTrace", desc := "(I)Ljava/lang/Throwable;" } : Jvm.MethodName) ({ cls := "java/lang/Throwable", name := "fillInStackTrace", desc := "(I)Ljava/lang/Throwable;" } : Jvm.MethodName)) ∈ lw_all := lw_g (lw_at lw_m4 62 rfl) rfl
theorem q962 : (Jvm.Cond.lays "CsrCalculator$Wrong" "java/lang/Throwable" "cause" "Ljava/lang/Throwable;") ∈ lw_all := lw_g (lw_at lw_m4 63 rfl) rfl
theorem q963 : (Jvm.Cond.lays "CsrCalculator$Wrong" "java/lang/Throwable" "stackTrace" "[Ljava/lang/StackTraceElement;") ∈ lw_all := lw_g (lw_at lw_m4 64 rfl) rfl
theorem q964 : (Jvm.Cond.lays "CsrCalculator$Wrong" "java/lang/Throwable" "suppressedExceptions" "Ljava/util/List;") ∈ lw_all := lw_g (lw_at lw_m4 65 rfl) rfl
theorem q965 : (Jvm.Cond.lays "CsrCalculator$Wrong" "java/lang/Throwable" "detailMessage" "Ljava/lang/String;") ∈ lw_all := lw_g (lw_at lw_m4 66 rfl) rfl
theorem q966 : (Jvm.Cond.lays "CsrCalculator$Wrong" "java/lang/Throwable" "backtrace" "Ljava/lang/Object;") ∈ lw_all := lw_g (lw_at lw_m4 67 rfl) rfl
theorem q968 : (Jvm.Cond.instanceMethod ({ cls := "CsrCalculator$Wrong", name := "<init>", desc := "(II)V" } : Jvm.MethodName)) ∈ lw_all := lw_g (lw_at lw_m4 69 rfl) rfl
theorem q969 : (Jvm.Cond.code ({ cls := "CsrCalculator$Wrong", name := "<init>", desc := "(II)V" } : Jvm.MethodName) prog_21_method_1_code (3 : Nat) (Option.none : Option Jvm.ClassFile.FieldType)) ∈ lw_all := lw_g (lw_at lw_m4 70 rfl) rfl
theorem q970 : (Jvm.Cond.methodLink "CsrCalculator$Wrong" (1 : Nat) ({ cls := "java/lang/Exception", name := "<init>", desc := "(Ljava/lang/String;Ljava/lang/Throwable;ZZ)V" } : Jvm.MethodName)) ∈ lw_all := lw_g (lw_at lw_m4 71 rfl) rfl
theorem q971 : (Jvm.Cond.fieldLink "CsrCalculator$Wrong" (7 : Nat) "CsrCalculator$Wrong" "code" "I") ∈ lw_all := lw_g (lw_at lw_m4 72 rfl) rfl
theorem q973 : (Jvm.Cond.fieldLink "CsrCalculator$Wrong" (13 : Nat) "CsrCalculator$Wrong" "offset" "I") ∈ lw_all := lw_g (lw_at lw_m4 74 rfl) rfl
theorem q975 : (Jvm.Cond.laysFinal "CsrCalculator$Wrong" "CsrCalculator$Wrong" "code" "I") ∈ lw_all := lw_g (lw_at lw_m4 76 rfl) rfl
theorem q976 : (Jvm.Cond.soleField "CsrCalculator$Wrong" "code") ∈ lw_all := lw_g (lw_at lw_m4 77 rfl) rfl
theorem q977 : (Jvm.Cond.laysFinal "CsrCalculator$Wrong" "CsrCalculator$Wrong" "offset" "I") ∈ lw_all := lw_g (lw_at lw_m4 78 rfl) rfl
theorem q978 : (Jvm.Cond.soleField "CsrCalculator$Wrong" "offset") ∈ lw_all := lw_g (lw_at lw_m4 79 rfl) rfl
theorem q979 : (Jvm.Cond.lays "CsrCalculator$Wrong" "java/lang/Throwable" "depth" "I") ∈ lw_all := lw_g (lw_at lw_m4 80 rfl) rfl
theorem q980 : (Jvm.Cond.superclass "CsrCalculator$Wrong" "java/lang/Exception") ∈ lw_all := lw_g (lw_at lw_m4 81 rfl) rfl
theorem q1281 : (Jvm.Cond.selects "CsrCalculator$Wrong" ({ cls := "java/lang/Object", name := "getClass", desc := "()Ljava/lang/Class;" } : Jvm.MethodName) ({ cls := "java/lang/Object", name := "getClass", desc := "()Ljava/lang/Class;" } : Jvm.MethodName)) ∈ lw_all := lw_g (lw_at lw_m5 142 rfl) rfl
theorem q3054 : (Jvm.Cond.castable "CsrCalculator$Wrong" "java/lang/Object") ∈ lw_tbl := lw_at lw_m12 235 rfl
theorem in_X6 : ∀ w ∈ wsX60, w ∈ lw_all := lw_in wsX60 [962, 963, 964, 965, 966, 979, 975, 977] (by decide +kernel) (by decide +kernel)

/-! CsrCalculator$Failure -/
set_option maxRecDepth 100000
def RX7 : String := "CsrCalculator$Failure"
def TX7 : u_T := fun k => match k with
  | 0 => ("java/lang/Throwable", "cause", "Ljava/lang/Throwable;", false)
  | 1 => ("java/lang/Throwable", "stackTrace", "[Ljava/lang/StackTraceElement;", false)
  | 2 => ("java/lang/Throwable", "suppressedExceptions", "Ljava/util/List;", false)
  | 3 => ("java/lang/Throwable", "detailMessage", "Ljava/lang/String;", false)
  | 4 => ("java/lang/Throwable", "backtrace", "Ljava/lang/Object;", false)
  | _ => ("java/lang/Throwable", "depth", "I", false)
def tyX7 : Nat → FieldType := fun k => match k with
  | 0 => .object "java/lang/Throwable"
  | 1 => .array (.object "java/lang/StackTraceElement")
  | 2 => .object "java/util/List"
  | 3 => .object "java/lang/String"
  | 4 => .object "java/lang/Object"
  | _ => .int
abbrev wsX70 : List Cond := u_ws RX7 TX7 6
theorem nmX7 : ∀ a, a < 6 → ∀ b, b < 6 → a ≠ b → (TX7 a).2.1 ≠ (TX7 b).2.1 := by decide +kernel
theorem tyX7_ok : ∀ k, k < 6 → parseFieldDescriptor (TX7 k).2.2.1 = some (tyX7 k) := by decide +kernel
abbrev cX7_init : ByteArray := prog_7_method_1_code
def yX7_init : MethodName := ⟨RX7, "<init>", "()V"⟩
def dkwX7_init_0 : List UInt8 := [42, 1, 1, 3, 3, 183, 0, 1, 177]
abbrev dktX7_init_0 : List UInt8 := dkwX7_init_0 ++ []
theorem dksX7_init_0 : cX7_init.data.toList.drop 0 = dktX7_init_0 := by decide +kernel
theorem dX7_init_0 : decode cX7_init 0 = .ok (.aload_n 0, 1) := dk_42 (dk_at dksX7_init_0 0 rfl rfl)
theorem dX7_init_1 : decode cX7_init 1 = .ok (.aconst_null, 1) := dk_1 (dk_at dksX7_init_0 1 rfl rfl)
theorem dX7_init_2 : decode cX7_init 2 = .ok (.aconst_null, 1) := dk_1 (dk_at dksX7_init_0 2 rfl rfl)
theorem dX7_init_3 : decode cX7_init 3 = .ok (.iconst 0, 1) := dk_3 (dk_at dksX7_init_0 3 rfl rfl)
theorem dX7_init_4 : decode cX7_init 4 = .ok (.iconst 0, 1) := dk_3 (dk_at dksX7_init_0 4 rfl rfl)
theorem dX7_init_5 : decode cX7_init 5 = .ok (.invokespecial 1, 3) := dk_183 0 1 (dk_at dksX7_init_0 5 rfl rfl)
theorem dX7_init_8 : decode cX7_init 8 = .ok (.return_, 1) := dk_177 (dk_at dksX7_init_0 8 rfl rfl)
theorem q205 : (Jvm.Cond.initialized "CsrCalculator$Failure") ∈ lw_all := lw_g (lw_at lw_m1 26 rfl) rfl
theorem q429 : (Jvm.Cond.instantiable "CsrCalculator$Failure" (6 : Nat)) ∈ lw_all := lw_g (lw_at lw_m2 10 rfl) rfl
theorem q430 : (Jvm.Cond.castable "CsrCalculator$Failure" "CsrCalculator$Failure") ∈ lw_tbl := lw_at lw_m2 11 rfl
theorem q435 : (Jvm.Cond.selects "CsrCalculator$Failure" ({ cls := "java/lang/Throwable", name := "fillInStackTrace", desc := "(I)Ljava/lang/Throwable;" } : Jvm.MethodName) ({ cls := "java/lang/Throwable", name := "fillInStackTrace", desc := "(I)Ljava/lang/Throwable;" } : Jvm.MethodName)) ∈ lw_all := lw_g (lw_at lw_m2 16 rfl) rfl
theorem q436 : (Jvm.Cond.selects "CsrCalculator$Failure" ({ cls := "java/lang/Throwable", name := "fillInStackTrace", desc := "()Ljava/lang/Throwable;" } : Jvm.MethodName) ({ cls := "java/lang/Throwable", name := "fillInStackTrace", desc := "()Ljava/lang/Throwable;" } : Jvm.MethodName)) ∈ lw_all := lw_g (lw_at lw_m2 17 rfl) rfl
theorem q437 : (Jvm.Cond.lays "CsrCalculator$Failure" "java/lang/Throwable" "cause" "Ljava/lang/Throwable;") ∈ lw_all := lw_g (lw_at lw_m2 18 rfl) rfl
theorem q439 : (Jvm.Cond.lays "CsrCalculator$Failure" "java/lang/Throwable" "stackTrace" "[Ljava/lang/StackTraceElement;") ∈ lw_all := lw_g (lw_at lw_m2 20 rfl) rfl
theorem q441 : (Jvm.Cond.lays "CsrCalculator$Failure" "java/lang/Throwable" "suppressedExceptions" "Ljava/util/List;") ∈ lw_all := lw_g (lw_at lw_m2 22 rfl) rfl
theorem q443 : (Jvm.Cond.lays "CsrCalculator$Failure" "java/lang/Throwable" "detailMessage" "Ljava/lang/String;") ∈ lw_all := lw_g (lw_at lw_m2 24 rfl) rfl
theorem q445 : (Jvm.Cond.lays "CsrCalculator$Failure" "java/lang/Throwable" "backtrace" "Ljava/lang/Object;") ∈ lw_all := lw_g (lw_at lw_m2 26 rfl) rfl
theorem q472 : (Jvm.Cond.instanceMethod ({ cls := "CsrCalculator$Failure", name := "<init>", desc := "()V" } : Jvm.MethodName)) ∈ lw_all := lw_g (lw_at lw_m2 53 rfl) rfl
theorem q473 : (Jvm.Cond.code ({ cls := "CsrCalculator$Failure", name := "<init>", desc := "()V" } : Jvm.MethodName) prog_7_method_1_code (1 : Nat) (Option.none : Option Jvm.ClassFile.FieldType)) ∈ lw_all := lw_g (lw_at lw_m2 54 rfl) rfl
theorem q474 : (Jvm.Cond.methodLink "CsrCalculator$Failure" (1 : Nat) ({ cls := "java/lang/Exception", name := "<init>", desc := "(Ljava/lang/String;Ljava/lang/Throwable;ZZ)V" } : Jvm.MethodName)) ∈ lw_all := lw_g (lw_at lw_m2 55 rfl) rfl
theorem q489 : (Jvm.Cond.lays "CsrCalculator$Failure" "java/lang/Throwable" "depth" "I") ∈ lw_all := lw_g (lw_at lw_m2 70 rfl) rfl
theorem q492 : (Jvm.Cond.superclass "CsrCalculator$Failure" "java/lang/Exception") ∈ lw_all := lw_g (lw_at lw_m2 73 rfl) rfl
theorem q1270 : (Jvm.Cond.selects "CsrCalculator$Failure" ({ cls := "java/lang/Object", name := "getClass", desc := "()Ljava/lang/Class;" } : Jvm.MethodName) ({ cls := "java/lang/Object", name := "getClass", desc := "()Ljava/lang/Class;" } : Jvm.MethodName)) ∈ lw_all := lw_g (lw_at lw_m5 131 rfl) rfl
theorem q3056 : (Jvm.Cond.castable "CsrCalculator$Failure" "java/lang/Object") ∈ lw_tbl := lw_at lw_m12 237 rfl
theorem in_X7 : ∀ w ∈ wsX70, w ∈ lw_all := lw_in wsX70 [437, 439, 441, 443, 445, 489] (by decide +kernel) (by decide +kernel)

/-! CsrCalculator$Sum -/
set_option maxRecDepth 100000
def RX8 : String := "CsrCalculator$Sum"
def TX8 : u_T := fun k => match k with
  | 0 => ("CsrCalculator$Sum", "terms", "Ljava/util/List;", true)
  | _ => ("CsrCalculator$Sum", "joins", "Ljava/util/List;", true)
def tyX8 : Nat → FieldType := fun k => match k with
  | 0 => .object "java/util/List"
  | _ => .object "java/util/List"
abbrev wsX80 : List Cond := u_ws RX8 TX8 2
theorem nmX8 : ∀ a, a < 2 → ∀ b, b < 2 → a ≠ b → (TX8 a).2.1 ≠ (TX8 b).2.1 := by decide +kernel
theorem tyX8_ok : ∀ k, k < 2 → parseFieldDescriptor (TX8 k).2.2.1 = some (tyX8 k) := by decide +kernel
abbrev cX8_init : ByteArray := prog_17_method_1_code
def yX8_init : MethodName := ⟨RX8, "<init>", "()V"⟩
def dkwX8_init_1 : List UInt8 := [181, 0, 16, 177]
abbrev dktX8_init_1 : List UInt8 := dkwX8_init_1 ++ []
def dkwX8_init_0 : List UInt8 := [42, 183, 0, 1, 42, 187, 0, 7, 89, 183, 0, 9, 181, 0, 10, 42, 187, 0, 7, 89, 183, 0, 9]
abbrev dktX8_init_0 : List UInt8 := dkwX8_init_0 ++ dktX8_init_1
theorem dksX8_init_0 : cX8_init.data.toList.drop 0 = dktX8_init_0 := by decide +kernel
theorem dksX8_init_1 : cX8_init.data.toList.drop 23 = dktX8_init_1 := dk_seg dksX8_init_0 23 rfl rfl
theorem dX8_init_0 : decode cX8_init 0 = .ok (.aload_n 0, 1) := dk_42 (dk_at dksX8_init_0 0 rfl rfl)
theorem dX8_init_1 : decode cX8_init 1 = .ok (.invokespecial 1, 3) := dk_183 0 1 (dk_at dksX8_init_0 1 rfl rfl)
theorem dX8_init_4 : decode cX8_init 4 = .ok (.aload_n 0, 1) := dk_42 (dk_at dksX8_init_0 4 rfl rfl)
theorem dX8_init_5 : decode cX8_init 5 = .ok (.new 7, 3) := dk_187 0 7 (dk_at dksX8_init_0 5 rfl rfl)
theorem dX8_init_8 : decode cX8_init 8 = .ok (.dup, 1) := dk_89 (dk_at dksX8_init_0 8 rfl rfl)
theorem dX8_init_9 : decode cX8_init 9 = .ok (.invokespecial 9, 3) := dk_183 0 9 (dk_at dksX8_init_0 9 rfl rfl)
theorem dX8_init_12 : decode cX8_init 12 = .ok (.putfield 10, 3) := dk_181 0 10 (dk_at dksX8_init_0 12 rfl rfl)
theorem dX8_init_15 : decode cX8_init 15 = .ok (.aload_n 0, 1) := dk_42 (dk_at dksX8_init_0 15 rfl rfl)
theorem dX8_init_16 : decode cX8_init 16 = .ok (.new 7, 3) := dk_187 0 7 (dk_at dksX8_init_0 16 rfl rfl)
theorem dX8_init_19 : decode cX8_init 19 = .ok (.dup, 1) := dk_89 (dk_at dksX8_init_0 19 rfl rfl)
theorem dX8_init_20 : decode cX8_init 20 = .ok (.invokespecial 9, 3) := dk_183 0 9 (dk_at dksX8_init_0 20 rfl rfl)
theorem dX8_init_23 : decode cX8_init 23 = .ok (.putfield 16, 3) := dk_181 0 16 (dk_at dksX8_init_1 0 rfl rfl)
theorem dX8_init_26 : decode cX8_init 26 = .ok (.return_, 1) := dk_177 (dk_at dksX8_init_1 3 rfl rfl)
theorem q206 : (Jvm.Cond.initialized "CsrCalculator$Sum") ∈ lw_all := lw_g (lw_at lw_m1 27 rfl) rfl
theorem q1117 : (Jvm.Cond.instantiable "CsrCalculator$Sum" (2 : Nat)) ∈ lw_all := lw_g (lw_at lw_m4 218 rfl) rfl
theorem q1119 : (Jvm.Cond.instanceMethod ({ cls := "CsrCalculator$Sum", name := "<init>", desc := "()V" } : Jvm.MethodName)) ∈ lw_all := lw_g (lw_at lw_m4 220 rfl) rfl
theorem q1120 : (Jvm.Cond.code ({ cls := "CsrCalculator$Sum", name := "<init>", desc := "()V" } : Jvm.MethodName) prog_17_method_1_code (1 : Nat) (Option.none : Option Jvm.ClassFile.FieldType)) ∈ lw_all := lw_g (lw_at lw_m4 221 rfl) rfl
theorem q1121 : (Jvm.Cond.methodLink "CsrCalculator$Sum" (1 : Nat) ({ cls := "java/lang/Object", name := "<init>", desc := "()V" } : Jvm.MethodName)) ∈ lw_all := lw_g (lw_at lw_m4 222 rfl) rfl
theorem q1122 : (Jvm.Cond.classLink "CsrCalculator$Sum" (7 : Nat) "java/util/ArrayList") ∈ lw_all := lw_g (lw_at lw_m4 223 rfl) rfl
theorem q1124 : (Jvm.Cond.methodLink "CsrCalculator$Sum" (9 : Nat) ({ cls := "java/util/ArrayList", name := "<init>", desc := "()V" } : Jvm.MethodName)) ∈ lw_all := lw_g (lw_at lw_m4 225 rfl) rfl
theorem q1145 : (Jvm.Cond.fieldLink "CsrCalculator$Sum" (10 : Nat) "CsrCalculator$Sum" "terms" "Ljava/util/List;") ∈ lw_all := lw_g (lw_at lw_m5 6 rfl) rfl
theorem q1148 : (Jvm.Cond.fieldLink "CsrCalculator$Sum" (16 : Nat) "CsrCalculator$Sum" "joins" "Ljava/util/List;") ∈ lw_all := lw_g (lw_at lw_m5 9 rfl) rfl
theorem q1151 : (Jvm.Cond.laysFinal "CsrCalculator$Sum" "CsrCalculator$Sum" "terms" "Ljava/util/List;") ∈ lw_all := lw_g (lw_at lw_m5 12 rfl) rfl
theorem q1152 : (Jvm.Cond.soleField "CsrCalculator$Sum" "terms") ∈ lw_all := lw_g (lw_at lw_m5 13 rfl) rfl
theorem q1153 : (Jvm.Cond.laysFinal "CsrCalculator$Sum" "CsrCalculator$Sum" "joins" "Ljava/util/List;") ∈ lw_all := lw_g (lw_at lw_m5 14 rfl) rfl
theorem q1154 : (Jvm.Cond.soleField "CsrCalculator$Sum" "joins") ∈ lw_all := lw_g (lw_at lw_m5 15 rfl) rfl
theorem q1155 : (Jvm.Cond.superclass "CsrCalculator$Sum" "java/lang/Object") ∈ lw_all := lw_g (lw_at lw_m5 16 rfl) rfl
theorem q1277 : (Jvm.Cond.selects "CsrCalculator$Sum" ({ cls := "java/lang/Object", name := "getClass", desc := "()Ljava/lang/Class;" } : Jvm.MethodName) ({ cls := "java/lang/Object", name := "getClass", desc := "()Ljava/lang/Class;" } : Jvm.MethodName)) ∈ lw_all := lw_g (lw_at lw_m5 138 rfl) rfl
theorem q3038 : (Jvm.Cond.castable "CsrCalculator$Sum" "CsrCalculator$Expr") ∈ lw_tbl := lw_at lw_m12 219 rfl
theorem q3057 : (Jvm.Cond.castable "CsrCalculator$Sum" "java/lang/Object") ∈ lw_tbl := lw_at lw_m12 238 rfl
theorem in_X8 : ∀ w ∈ wsX80, w ∈ lw_all := lw_in wsX80 [1151, 1153] (by decide +kernel) (by decide +kernel)

/-! CsrCalculator$Product -/
set_option maxRecDepth 100000
def RX9 : String := "CsrCalculator$Product"
def TX9 : u_T := fun k => match k with
  | _ => ("CsrCalculator$Product", "factors", "Ljava/util/List;", true)
def tyX9 : Nat → FieldType := fun k => match k with
  | _ => .object "java/util/List"
abbrev wsX90 : List Cond := u_ws RX9 TX9 1
theorem nmX9 : ∀ a, a < 1 → ∀ b, b < 1 → a ≠ b → (TX9 a).2.1 ≠ (TX9 b).2.1 := by decide +kernel
theorem tyX9_ok : ∀ k, k < 1 → parseFieldDescriptor (TX9 k).2.2.1 = some (tyX9 k) := by decide +kernel
abbrev cX9_init : ByteArray := prog_14_method_1_code
def yX9_init : MethodName := ⟨RX9, "<init>", "()V"⟩
def dkwX9_init_0 : List UInt8 := [42, 183, 0, 1, 42, 187, 0, 7, 89, 183, 0, 9, 181, 0, 10, 177]
abbrev dktX9_init_0 : List UInt8 := dkwX9_init_0 ++ []
theorem dksX9_init_0 : cX9_init.data.toList.drop 0 = dktX9_init_0 := by decide +kernel
theorem dX9_init_0 : decode cX9_init 0 = .ok (.aload_n 0, 1) := dk_42 (dk_at dksX9_init_0 0 rfl rfl)
theorem dX9_init_1 : decode cX9_init 1 = .ok (.invokespecial 1, 3) := dk_183 0 1 (dk_at dksX9_init_0 1 rfl rfl)
theorem dX9_init_4 : decode cX9_init 4 = .ok (.aload_n 0, 1) := dk_42 (dk_at dksX9_init_0 4 rfl rfl)
theorem dX9_init_5 : decode cX9_init 5 = .ok (.new 7, 3) := dk_187 0 7 (dk_at dksX9_init_0 5 rfl rfl)
theorem dX9_init_8 : decode cX9_init 8 = .ok (.dup, 1) := dk_89 (dk_at dksX9_init_0 8 rfl rfl)
theorem dX9_init_9 : decode cX9_init 9 = .ok (.invokespecial 9, 3) := dk_183 0 9 (dk_at dksX9_init_0 9 rfl rfl)
theorem dX9_init_12 : decode cX9_init 12 = .ok (.putfield 10, 3) := dk_181 0 10 (dk_at dksX9_init_0 12 rfl rfl)
theorem dX9_init_15 : decode cX9_init 15 = .ok (.return_, 1) := dk_177 (dk_at dksX9_init_0 15 rfl rfl)
theorem q209 : (Jvm.Cond.initialized "CsrCalculator$Product") ∈ lw_all := lw_g (lw_at lw_m1 30 rfl) rfl
theorem q1161 : (Jvm.Cond.instantiable "CsrCalculator$Product" (1 : Nat)) ∈ lw_all := lw_g (lw_at lw_m5 22 rfl) rfl
theorem q1163 : (Jvm.Cond.instanceMethod ({ cls := "CsrCalculator$Product", name := "<init>", desc := "()V" } : Jvm.MethodName)) ∈ lw_all := lw_g (lw_at lw_m5 24 rfl) rfl
theorem q1164 : (Jvm.Cond.code ({ cls := "CsrCalculator$Product", name := "<init>", desc := "()V" } : Jvm.MethodName) prog_14_method_1_code (1 : Nat) (Option.none : Option Jvm.ClassFile.FieldType)) ∈ lw_all := lw_g (lw_at lw_m5 25 rfl) rfl
theorem q1165 : (Jvm.Cond.methodLink "CsrCalculator$Product" (1 : Nat) ({ cls := "java/lang/Object", name := "<init>", desc := "()V" } : Jvm.MethodName)) ∈ lw_all := lw_g (lw_at lw_m5 26 rfl) rfl
theorem q1166 : (Jvm.Cond.classLink "CsrCalculator$Product" (7 : Nat) "java/util/ArrayList") ∈ lw_all := lw_g (lw_at lw_m5 27 rfl) rfl
theorem q1167 : (Jvm.Cond.methodLink "CsrCalculator$Product" (9 : Nat) ({ cls := "java/util/ArrayList", name := "<init>", desc := "()V" } : Jvm.MethodName)) ∈ lw_all := lw_g (lw_at lw_m5 28 rfl) rfl
theorem q1168 : (Jvm.Cond.fieldLink "CsrCalculator$Product" (10 : Nat) "CsrCalculator$Product" "factors" "Ljava/util/List;") ∈ lw_all := lw_g (lw_at lw_m5 29 rfl) rfl
theorem q1171 : (Jvm.Cond.laysFinal "CsrCalculator$Product" "CsrCalculator$Product" "factors" "Ljava/util/List;") ∈ lw_all := lw_g (lw_at lw_m5 32 rfl) rfl
theorem q1172 : (Jvm.Cond.soleField "CsrCalculator$Product" "factors") ∈ lw_all := lw_g (lw_at lw_m5 33 rfl) rfl
theorem q1173 : (Jvm.Cond.superclass "CsrCalculator$Product" "java/lang/Object") ∈ lw_all := lw_g (lw_at lw_m5 34 rfl) rfl
theorem q1274 : (Jvm.Cond.selects "CsrCalculator$Product" ({ cls := "java/lang/Object", name := "getClass", desc := "()Ljava/lang/Class;" } : Jvm.MethodName) ({ cls := "java/lang/Object", name := "getClass", desc := "()Ljava/lang/Class;" } : Jvm.MethodName)) ∈ lw_all := lw_g (lw_at lw_m5 135 rfl) rfl
theorem q3036 : (Jvm.Cond.castable "CsrCalculator$Product" "CsrCalculator$Expr") ∈ lw_tbl := lw_at lw_m12 217 rfl
theorem q3059 : (Jvm.Cond.castable "CsrCalculator$Product" "java/lang/Object") ∈ lw_tbl := lw_at lw_m13 0 rfl
theorem in_X9 : ∀ w ∈ wsX90, w ∈ lw_all := lw_in wsX90 [1171] (by decide +kernel) (by decide +kernel)

/-! CsrCalculator$Register -/
set_option maxRecDepth 100000
def RX10 : String := "CsrCalculator$Register"
def TX10 : u_T := fun k => match k with
  | _ => ("CsrCalculator$Register", "index", "I", true)
def tyX10 : Nat → FieldType := fun k => match k with
  | _ => .int
abbrev wsX100 : List Cond := u_ws RX10 TX10 1
theorem nmX10 : ∀ a, a < 1 → ∀ b, b < 1 → a ≠ b → (TX10 a).2.1 ≠ (TX10 b).2.1 := by decide +kernel
theorem tyX10_ok : ∀ k, k < 1 → parseFieldDescriptor (TX10 k).2.2.1 = some (tyX10 k) := by decide +kernel
abbrev cX10_init : ByteArray := prog_16_method_1_code
def yX10_init : MethodName := ⟨RX10, "<init>", "(I)V"⟩
def dkwX10_init_0 : List UInt8 := [42, 183, 0, 1, 42, 27, 181, 0, 7, 177]
abbrev dktX10_init_0 : List UInt8 := dkwX10_init_0 ++ []
theorem dksX10_init_0 : cX10_init.data.toList.drop 0 = dktX10_init_0 := by decide +kernel
theorem dX10_init_0 : decode cX10_init 0 = .ok (.aload_n 0, 1) := dk_42 (dk_at dksX10_init_0 0 rfl rfl)
theorem dX10_init_1 : decode cX10_init 1 = .ok (.invokespecial 1, 3) := dk_183 0 1 (dk_at dksX10_init_0 1 rfl rfl)
theorem dX10_init_4 : decode cX10_init 4 = .ok (.aload_n 0, 1) := dk_42 (dk_at dksX10_init_0 4 rfl rfl)
theorem dX10_init_5 : decode cX10_init 5 = .ok (.iload_n 1, 1) := dk_27 (dk_at dksX10_init_0 5 rfl rfl)
theorem dX10_init_6 : decode cX10_init 6 = .ok (.putfield 7, 3) := dk_181 0 7 (dk_at dksX10_init_0 6 rfl rfl)
theorem dX10_init_9 : decode cX10_init 9 = .ok (.return_, 1) := dk_177 (dk_at dksX10_init_0 9 rfl rfl)
theorem q210 : (Jvm.Cond.initialized "CsrCalculator$Register") ∈ lw_all := lw_g (lw_at lw_m1 31 rfl) rfl
theorem q1179 : (Jvm.Cond.instantiable "CsrCalculator$Register" (1 : Nat)) ∈ lw_all := lw_g (lw_at lw_m5 40 rfl) rfl
theorem q1181 : (Jvm.Cond.instanceMethod ({ cls := "CsrCalculator$Register", name := "<init>", desc := "(I)V" } : Jvm.MethodName)) ∈ lw_all := lw_g (lw_at lw_m5 42 rfl) rfl
theorem q1182 : (Jvm.Cond.code ({ cls := "CsrCalculator$Register", name := "<init>", desc := "(I)V" } : Jvm.MethodName) prog_16_method_1_code (2 : Nat) (Option.none : Option Jvm.ClassFile.FieldType)) ∈ lw_all := lw_g (lw_at lw_m5 43 rfl) rfl
theorem q1183 : (Jvm.Cond.methodLink "CsrCalculator$Register" (1 : Nat) ({ cls := "java/lang/Object", name := "<init>", desc := "()V" } : Jvm.MethodName)) ∈ lw_all := lw_g (lw_at lw_m5 44 rfl) rfl
theorem q1184 : (Jvm.Cond.fieldLink "CsrCalculator$Register" (7 : Nat) "CsrCalculator$Register" "index" "I") ∈ lw_all := lw_g (lw_at lw_m5 45 rfl) rfl
theorem q1186 : (Jvm.Cond.laysFinal "CsrCalculator$Register" "CsrCalculator$Register" "index" "I") ∈ lw_all := lw_g (lw_at lw_m5 47 rfl) rfl
theorem q1187 : (Jvm.Cond.soleField "CsrCalculator$Register" "index") ∈ lw_all := lw_g (lw_at lw_m5 48 rfl) rfl
theorem q1188 : (Jvm.Cond.superclass "CsrCalculator$Register" "java/lang/Object") ∈ lw_all := lw_g (lw_at lw_m5 49 rfl) rfl
theorem q1276 : (Jvm.Cond.selects "CsrCalculator$Register" ({ cls := "java/lang/Object", name := "getClass", desc := "()Ljava/lang/Class;" } : Jvm.MethodName) ({ cls := "java/lang/Object", name := "getClass", desc := "()Ljava/lang/Class;" } : Jvm.MethodName)) ∈ lw_all := lw_g (lw_at lw_m5 137 rfl) rfl
theorem q3037 : (Jvm.Cond.castable "CsrCalculator$Register" "CsrCalculator$Expr") ∈ lw_tbl := lw_at lw_m12 218 rfl
theorem q3060 : (Jvm.Cond.castable "CsrCalculator$Register" "java/lang/Object") ∈ lw_tbl := lw_at lw_m13 1 rfl
theorem in_X10 : ∀ w ∈ wsX100, w ∈ lw_all := lw_in wsX100 [1186] (by decide +kernel) (by decide +kernel)

/-! CsrCalculator$Unit -/
set_option maxRecDepth 100000
def RX11 : String := "CsrCalculator$Unit"
def TX11 : u_T := fun k => match k with
  | _ => ("CsrCalculator$Unit", "size", "I", true)
def tyX11 : Nat → FieldType := fun k => match k with
  | _ => .int
abbrev wsX110 : List Cond := u_ws RX11 TX11 1
theorem nmX11 : ∀ a, a < 1 → ∀ b, b < 1 → a ≠ b → (TX11 a).2.1 ≠ (TX11 b).2.1 := by decide +kernel
theorem tyX11_ok : ∀ k, k < 1 → parseFieldDescriptor (TX11 k).2.2.1 = some (tyX11 k) := by decide +kernel
abbrev cX11_init : ByteArray := prog_19_method_1_code
def yX11_init : MethodName := ⟨RX11, "<init>", "(I)V"⟩
def dkwX11_init_0 : List UInt8 := [42, 183, 0, 1, 42, 27, 181, 0, 7, 177]
abbrev dktX11_init_0 : List UInt8 := dkwX11_init_0 ++ []
theorem dksX11_init_0 : cX11_init.data.toList.drop 0 = dktX11_init_0 := by decide +kernel
theorem dX11_init_0 : decode cX11_init 0 = .ok (.aload_n 0, 1) := dk_42 (dk_at dksX11_init_0 0 rfl rfl)
theorem dX11_init_1 : decode cX11_init 1 = .ok (.invokespecial 1, 3) := dk_183 0 1 (dk_at dksX11_init_0 1 rfl rfl)
theorem dX11_init_4 : decode cX11_init 4 = .ok (.aload_n 0, 1) := dk_42 (dk_at dksX11_init_0 4 rfl rfl)
theorem dX11_init_5 : decode cX11_init 5 = .ok (.iload_n 1, 1) := dk_27 (dk_at dksX11_init_0 5 rfl rfl)
theorem dX11_init_6 : decode cX11_init 6 = .ok (.putfield 7, 3) := dk_181 0 7 (dk_at dksX11_init_0 6 rfl rfl)
theorem dX11_init_9 : decode cX11_init 9 = .ok (.return_, 1) := dk_177 (dk_at dksX11_init_0 9 rfl rfl)
theorem q211 : (Jvm.Cond.initialized "CsrCalculator$Unit") ∈ lw_all := lw_g (lw_at lw_m1 32 rfl) rfl
theorem q1191 : (Jvm.Cond.instantiable "CsrCalculator$Unit" (1 : Nat)) ∈ lw_all := lw_g (lw_at lw_m5 52 rfl) rfl
theorem q1197 : (Jvm.Cond.instanceMethod ({ cls := "CsrCalculator$Unit", name := "<init>", desc := "(I)V" } : Jvm.MethodName)) ∈ lw_all := lw_g (lw_at lw_m5 58 rfl) rfl
theorem q1198 : (Jvm.Cond.code ({ cls := "CsrCalculator$Unit", name := "<init>", desc := "(I)V" } : Jvm.MethodName) prog_19_method_1_code (2 : Nat) (Option.none : Option Jvm.ClassFile.FieldType)) ∈ lw_all := lw_g (lw_at lw_m5 59 rfl) rfl
theorem q1199 : (Jvm.Cond.methodLink "CsrCalculator$Unit" (1 : Nat) ({ cls := "java/lang/Object", name := "<init>", desc := "()V" } : Jvm.MethodName)) ∈ lw_all := lw_g (lw_at lw_m5 60 rfl) rfl
theorem q1200 : (Jvm.Cond.fieldLink "CsrCalculator$Unit" (7 : Nat) "CsrCalculator$Unit" "size" "I") ∈ lw_all := lw_g (lw_at lw_m5 61 rfl) rfl
theorem q1202 : (Jvm.Cond.laysFinal "CsrCalculator$Unit" "CsrCalculator$Unit" "size" "I") ∈ lw_all := lw_g (lw_at lw_m5 63 rfl) rfl
theorem q1203 : (Jvm.Cond.soleField "CsrCalculator$Unit" "size") ∈ lw_all := lw_g (lw_at lw_m5 64 rfl) rfl
theorem q1204 : (Jvm.Cond.superclass "CsrCalculator$Unit" "java/lang/Object") ∈ lw_all := lw_g (lw_at lw_m5 65 rfl) rfl
theorem q1279 : (Jvm.Cond.selects "CsrCalculator$Unit" ({ cls := "java/lang/Object", name := "getClass", desc := "()Ljava/lang/Class;" } : Jvm.MethodName) ({ cls := "java/lang/Object", name := "getClass", desc := "()Ljava/lang/Class;" } : Jvm.MethodName)) ∈ lw_all := lw_g (lw_at lw_m5 140 rfl) rfl
theorem q3040 : (Jvm.Cond.castable "CsrCalculator$Unit" "CsrCalculator$Expr") ∈ lw_tbl := lw_at lw_m12 221 rfl
theorem q3061 : (Jvm.Cond.castable "CsrCalculator$Unit" "java/lang/Object") ∈ lw_tbl := lw_at lw_m13 2 rfl
theorem in_X11 : ∀ w ∈ wsX110, w ∈ lw_all := lw_in wsX110 [1202] (by decide +kernel) (by decide +kernel)

/-! CsrCalculator$Transpose -/
set_option maxRecDepth 100000
def RX12 : String := "CsrCalculator$Transpose"
def TX12 : u_T := fun k => match k with
  | _ => ("CsrCalculator$Transpose", "inner", "LCsrCalculator$Expr;", true)
def tyX12 : Nat → FieldType := fun k => match k with
  | _ => .object "CsrCalculator$Expr"
abbrev wsX120 : List Cond := u_ws RX12 TX12 1
theorem nmX12 : ∀ a, a < 1 → ∀ b, b < 1 → a ≠ b → (TX12 a).2.1 ≠ (TX12 b).2.1 := by decide +kernel
theorem tyX12_ok : ∀ k, k < 1 → parseFieldDescriptor (TX12 k).2.2.1 = some (tyX12 k) := by decide +kernel
abbrev cX12_init : ByteArray := prog_18_method_1_code
def yX12_init : MethodName := ⟨RX12, "<init>", "(LCsrCalculator$Expr;)V"⟩
def dkwX12_init_0 : List UInt8 := [42, 183, 0, 1, 42, 43, 181, 0, 7, 177]
abbrev dktX12_init_0 : List UInt8 := dkwX12_init_0 ++ []
theorem dksX12_init_0 : cX12_init.data.toList.drop 0 = dktX12_init_0 := by decide +kernel
theorem dX12_init_0 : decode cX12_init 0 = .ok (.aload_n 0, 1) := dk_42 (dk_at dksX12_init_0 0 rfl rfl)
theorem dX12_init_1 : decode cX12_init 1 = .ok (.invokespecial 1, 3) := dk_183 0 1 (dk_at dksX12_init_0 1 rfl rfl)
theorem dX12_init_4 : decode cX12_init 4 = .ok (.aload_n 0, 1) := dk_42 (dk_at dksX12_init_0 4 rfl rfl)
theorem dX12_init_5 : decode cX12_init 5 = .ok (.aload_n 1, 1) := dk_43 (dk_at dksX12_init_0 5 rfl rfl)
theorem dX12_init_6 : decode cX12_init 6 = .ok (.putfield 7, 3) := dk_181 0 7 (dk_at dksX12_init_0 6 rfl rfl)
theorem dX12_init_9 : decode cX12_init 9 = .ok (.return_, 1) := dk_177 (dk_at dksX12_init_0 9 rfl rfl)
theorem q212 : (Jvm.Cond.initialized "CsrCalculator$Transpose") ∈ lw_all := lw_g (lw_at lw_m1 33 rfl) rfl
theorem q1212 : (Jvm.Cond.instantiable "CsrCalculator$Transpose" (1 : Nat)) ∈ lw_all := lw_g (lw_at lw_m5 73 rfl) rfl
theorem q1214 : (Jvm.Cond.instanceMethod ({ cls := "CsrCalculator$Transpose", name := "<init>", desc := "(LCsrCalculator$Expr;)V" } : Jvm.MethodName)) ∈ lw_all := lw_g (lw_at lw_m5 75 rfl) rfl
theorem q1215 : (Jvm.Cond.code ({ cls := "CsrCalculator$Transpose", name := "<init>", desc := "(LCsrCalculator$Expr;)V" } : Jvm.MethodName) prog_18_method_1_code (2 : Nat) (Option.none : Option Jvm.ClassFile.FieldType)) ∈ lw_all := lw_g (lw_at lw_m5 76 rfl) rfl
theorem q1216 : (Jvm.Cond.methodLink "CsrCalculator$Transpose" (1 : Nat) ({ cls := "java/lang/Object", name := "<init>", desc := "()V" } : Jvm.MethodName)) ∈ lw_all := lw_g (lw_at lw_m5 77 rfl) rfl
theorem q1217 : (Jvm.Cond.fieldLink "CsrCalculator$Transpose" (7 : Nat) "CsrCalculator$Transpose" "inner" "LCsrCalculator$Expr;") ∈ lw_all := lw_g (lw_at lw_m5 78 rfl) rfl
theorem q1219 : (Jvm.Cond.laysFinal "CsrCalculator$Transpose" "CsrCalculator$Transpose" "inner" "LCsrCalculator$Expr;") ∈ lw_all := lw_g (lw_at lw_m5 80 rfl) rfl
theorem q1220 : (Jvm.Cond.soleField "CsrCalculator$Transpose" "inner") ∈ lw_all := lw_g (lw_at lw_m5 81 rfl) rfl
theorem q1221 : (Jvm.Cond.superclass "CsrCalculator$Transpose" "java/lang/Object") ∈ lw_all := lw_g (lw_at lw_m5 82 rfl) rfl
theorem q1278 : (Jvm.Cond.selects "CsrCalculator$Transpose" ({ cls := "java/lang/Object", name := "getClass", desc := "()Ljava/lang/Class;" } : Jvm.MethodName) ({ cls := "java/lang/Object", name := "getClass", desc := "()Ljava/lang/Class;" } : Jvm.MethodName)) ∈ lw_all := lw_g (lw_at lw_m5 139 rfl) rfl
theorem q3039 : (Jvm.Cond.castable "CsrCalculator$Transpose" "CsrCalculator$Expr") ∈ lw_tbl := lw_at lw_m12 220 rfl
theorem q3062 : (Jvm.Cond.castable "CsrCalculator$Transpose" "java/lang/Object") ∈ lw_tbl := lw_at lw_m13 3 rfl
theorem in_X12 : ∀ w ∈ wsX120, w ∈ lw_all := lw_in wsX120 [1219] (by decide +kernel) (by decide +kernel)

/-! CsrCalculator$Multiple -/
set_option maxRecDepth 100000
def RX13 : String := "CsrCalculator$Multiple"
def TX13 : u_T := fun k => match k with
  | 0 => ("CsrCalculator$Multiple", "factor", "I", true)
  | _ => ("CsrCalculator$Multiple", "inner", "LCsrCalculator$Expr;", true)
def tyX13 : Nat → FieldType := fun k => match k with
  | 0 => .int
  | _ => .object "CsrCalculator$Expr"
abbrev wsX130 : List Cond := u_ws RX13 TX13 2
theorem nmX13 : ∀ a, a < 2 → ∀ b, b < 2 → a ≠ b → (TX13 a).2.1 ≠ (TX13 b).2.1 := by decide +kernel
theorem tyX13_ok : ∀ k, k < 2 → parseFieldDescriptor (TX13 k).2.2.1 = some (tyX13 k) := by decide +kernel
abbrev cX13_init : ByteArray := prog_12_method_1_code
def yX13_init : MethodName := ⟨RX13, "<init>", "(ILCsrCalculator$Expr;)V"⟩
def dkwX13_init_0 : List UInt8 := [42, 183, 0, 1, 42, 27, 181, 0, 7, 42, 44, 181, 0, 13, 177]
abbrev dktX13_init_0 : List UInt8 := dkwX13_init_0 ++ []
theorem dksX13_init_0 : cX13_init.data.toList.drop 0 = dktX13_init_0 := by decide +kernel
theorem dX13_init_0 : decode cX13_init 0 = .ok (.aload_n 0, 1) := dk_42 (dk_at dksX13_init_0 0 rfl rfl)
theorem dX13_init_1 : decode cX13_init 1 = .ok (.invokespecial 1, 3) := dk_183 0 1 (dk_at dksX13_init_0 1 rfl rfl)
theorem dX13_init_4 : decode cX13_init 4 = .ok (.aload_n 0, 1) := dk_42 (dk_at dksX13_init_0 4 rfl rfl)
theorem dX13_init_5 : decode cX13_init 5 = .ok (.iload_n 1, 1) := dk_27 (dk_at dksX13_init_0 5 rfl rfl)
theorem dX13_init_6 : decode cX13_init 6 = .ok (.putfield 7, 3) := dk_181 0 7 (dk_at dksX13_init_0 6 rfl rfl)
theorem dX13_init_9 : decode cX13_init 9 = .ok (.aload_n 0, 1) := dk_42 (dk_at dksX13_init_0 9 rfl rfl)
theorem dX13_init_10 : decode cX13_init 10 = .ok (.aload_n 2, 1) := dk_44 (dk_at dksX13_init_0 10 rfl rfl)
theorem dX13_init_11 : decode cX13_init 11 = .ok (.putfield 13, 3) := dk_181 0 13 (dk_at dksX13_init_0 11 rfl rfl)
theorem dX13_init_14 : decode cX13_init 14 = .ok (.return_, 1) := dk_177 (dk_at dksX13_init_0 14 rfl rfl)
theorem q213 : (Jvm.Cond.initialized "CsrCalculator$Multiple") ∈ lw_all := lw_g (lw_at lw_m1 34 rfl) rfl
theorem q1223 : (Jvm.Cond.instantiable "CsrCalculator$Multiple" (2 : Nat)) ∈ lw_all := lw_g (lw_at lw_m5 84 rfl) rfl
theorem q1225 : (Jvm.Cond.instanceMethod ({ cls := "CsrCalculator$Multiple", name := "<init>", desc := "(ILCsrCalculator$Expr;)V" } : Jvm.MethodName)) ∈ lw_all := lw_g (lw_at lw_m5 86 rfl) rfl
theorem q1226 : (Jvm.Cond.code ({ cls := "CsrCalculator$Multiple", name := "<init>", desc := "(ILCsrCalculator$Expr;)V" } : Jvm.MethodName) prog_12_method_1_code (3 : Nat) (Option.none : Option Jvm.ClassFile.FieldType)) ∈ lw_all := lw_g (lw_at lw_m5 87 rfl) rfl
theorem q1227 : (Jvm.Cond.methodLink "CsrCalculator$Multiple" (1 : Nat) ({ cls := "java/lang/Object", name := "<init>", desc := "()V" } : Jvm.MethodName)) ∈ lw_all := lw_g (lw_at lw_m5 88 rfl) rfl
theorem q1228 : (Jvm.Cond.fieldLink "CsrCalculator$Multiple" (7 : Nat) "CsrCalculator$Multiple" "factor" "I") ∈ lw_all := lw_g (lw_at lw_m5 89 rfl) rfl
theorem q1230 : (Jvm.Cond.fieldLink "CsrCalculator$Multiple" (13 : Nat) "CsrCalculator$Multiple" "inner" "LCsrCalculator$Expr;") ∈ lw_all := lw_g (lw_at lw_m5 91 rfl) rfl
theorem q1232 : (Jvm.Cond.laysFinal "CsrCalculator$Multiple" "CsrCalculator$Multiple" "factor" "I") ∈ lw_all := lw_g (lw_at lw_m5 93 rfl) rfl
theorem q1233 : (Jvm.Cond.soleField "CsrCalculator$Multiple" "factor") ∈ lw_all := lw_g (lw_at lw_m5 94 rfl) rfl
theorem q1234 : (Jvm.Cond.laysFinal "CsrCalculator$Multiple" "CsrCalculator$Multiple" "inner" "LCsrCalculator$Expr;") ∈ lw_all := lw_g (lw_at lw_m5 95 rfl) rfl
theorem q1235 : (Jvm.Cond.soleField "CsrCalculator$Multiple" "inner") ∈ lw_all := lw_g (lw_at lw_m5 96 rfl) rfl
theorem q1236 : (Jvm.Cond.superclass "CsrCalculator$Multiple" "java/lang/Object") ∈ lw_all := lw_g (lw_at lw_m5 97 rfl) rfl
theorem q1273 : (Jvm.Cond.selects "CsrCalculator$Multiple" ({ cls := "java/lang/Object", name := "getClass", desc := "()Ljava/lang/Class;" } : Jvm.MethodName) ({ cls := "java/lang/Object", name := "getClass", desc := "()Ljava/lang/Class;" } : Jvm.MethodName)) ∈ lw_all := lw_g (lw_at lw_m5 134 rfl) rfl
theorem q3035 : (Jvm.Cond.castable "CsrCalculator$Multiple" "CsrCalculator$Expr") ∈ lw_tbl := lw_at lw_m12 216 rfl
theorem q3063 : (Jvm.Cond.castable "CsrCalculator$Multiple" "java/lang/Object") ∈ lw_tbl := lw_at lw_m13 4 rfl
theorem in_X13 : ∀ w ∈ wsX130, w ∈ lw_all := lw_in wsX130 [1232, 1234] (by decide +kernel) (by decide +kernel)

/-! CsrCalculator$Join -/
set_option maxRecDepth 100000
def RX14 : String := "CsrCalculator$Join"
abbrev cX14_named : ByteArray := prog_8_method_5_code
def yX14_named : MethodName := ⟨RX14, "named", "(Ljava/lang/String;)LCsrCalculator$Join;"⟩
def dkwX14_named_1 : List UInt8 := [42, 182, 0, 37, 153, 0, 6, 25, 4, 176, 132, 3, 1, 167, 255, 228, 1, 176]
abbrev dktX14_named_1 : List UInt8 := dkwX14_named_1 ++ []
def dkwX14_named_0 : List UInt8 := [184, 0, 33, 76, 43, 190, 61, 3, 62, 29, 28, 162, 0, 29, 43, 29, 50, 58, 4, 25, 4, 180, 0, 29]
abbrev dktX14_named_0 : List UInt8 := dkwX14_named_0 ++ dktX14_named_1
theorem dksX14_named_0 : cX14_named.data.toList.drop 0 = dktX14_named_0 := by decide +kernel
theorem dksX14_named_1 : cX14_named.data.toList.drop 24 = dktX14_named_1 := dk_seg dksX14_named_0 24 rfl rfl
theorem dX14_named_0 : decode cX14_named 0 = .ok (.invokestatic 33, 3) := dk_184 0 33 (dk_at dksX14_named_0 0 rfl rfl)
theorem dX14_named_3 : decode cX14_named 3 = .ok (.astore_n 1, 1) := dk_76 (dk_at dksX14_named_0 3 rfl rfl)
theorem dX14_named_4 : decode cX14_named 4 = .ok (.aload_n 1, 1) := dk_43 (dk_at dksX14_named_0 4 rfl rfl)
theorem dX14_named_5 : decode cX14_named 5 = .ok (.arraylength, 1) := dk_190 (dk_at dksX14_named_0 5 rfl rfl)
theorem dX14_named_6 : decode cX14_named 6 = .ok (.istore_n 2, 1) := dk_61 (dk_at dksX14_named_0 6 rfl rfl)
theorem dX14_named_7 : decode cX14_named 7 = .ok (.iconst 0, 1) := dk_3 (dk_at dksX14_named_0 7 rfl rfl)
theorem dX14_named_8 : decode cX14_named 8 = .ok (.istore_n 3, 1) := dk_62 (dk_at dksX14_named_0 8 rfl rfl)
theorem dX14_named_9 : decode cX14_named 9 = .ok (.iload_n 3, 1) := dk_29 (dk_at dksX14_named_0 9 rfl rfl)
theorem dX14_named_10 : decode cX14_named 10 = .ok (.iload_n 2, 1) := dk_28 (dk_at dksX14_named_0 10 rfl rfl)
theorem dX14_named_11 : decode cX14_named 11 = .ok (.if_icmp .ge 29, 3) := dk_162 0 29 (dk_at dksX14_named_0 11 rfl rfl)
theorem dX14_named_14 : decode cX14_named 14 = .ok (.aload_n 1, 1) := dk_43 (dk_at dksX14_named_0 14 rfl rfl)
theorem dX14_named_15 : decode cX14_named 15 = .ok (.iload_n 3, 1) := dk_29 (dk_at dksX14_named_0 15 rfl rfl)
theorem dX14_named_16 : decode cX14_named 16 = .ok (.aaload, 1) := dk_50 (dk_at dksX14_named_0 16 rfl rfl)
theorem dX14_named_17 : decode cX14_named 17 = .ok (.astore 4, 2) := dk_58 4 (dk_at dksX14_named_0 17 rfl rfl)
theorem dX14_named_19 : decode cX14_named 19 = .ok (.aload 4, 2) := dk_25 4 (dk_at dksX14_named_0 19 rfl rfl)
theorem dX14_named_21 : decode cX14_named 21 = .ok (.getfield 29, 3) := dk_180 0 29 (dk_at dksX14_named_0 21 rfl rfl)
theorem dX14_named_24 : decode cX14_named 24 = .ok (.aload_n 0, 1) := dk_42 (dk_at dksX14_named_1 0 rfl rfl)
theorem dX14_named_25 : decode cX14_named 25 = .ok (.invokevirtual 37, 3) := dk_182 0 37 (dk_at dksX14_named_1 1 rfl rfl)
theorem dX14_named_28 : decode cX14_named 28 = .ok (.ifCond .eq 6, 3) := dk_153 0 6 (dk_at dksX14_named_1 4 rfl rfl)
theorem dX14_named_31 : decode cX14_named 31 = .ok (.aload 4, 2) := dk_25 4 (dk_at dksX14_named_1 7 rfl rfl)
theorem dX14_named_33 : decode cX14_named 33 = .ok (.areturn, 1) := dk_176 (dk_at dksX14_named_1 9 rfl rfl)
theorem dX14_named_34 : decode cX14_named 34 = .ok (.iinc 3 1, 3) := dk_132 3 1 (dk_at dksX14_named_1 10 rfl rfl)
theorem dX14_named_37 : decode cX14_named 37 = .ok (.goto (-28), 3) := dk_167 255 228 (dk_at dksX14_named_1 13 rfl rfl)
theorem dX14_named_40 : decode cX14_named 40 = .ok (.aconst_null, 1) := dk_1 (dk_at dksX14_named_1 16 rfl rfl)
theorem dX14_named_41 : decode cX14_named 41 = .ok (.areturn, 1) := dk_176 (dk_at dksX14_named_1 17 rfl rfl)
abbrev cX14_values : ByteArray := prog_8_method_1_code
def yX14_values : MethodName := ⟨RX14, "values", "()[LCsrCalculator$Join;"⟩
def dkwX14_values_0 : List UInt8 := [178, 0, 10, 182, 0, 14, 192, 0, 15, 176]
abbrev dktX14_values_0 : List UInt8 := dkwX14_values_0 ++ []
theorem dksX14_values_0 : cX14_values.data.toList.drop 0 = dktX14_values_0 := by decide +kernel
theorem dX14_values_0 : decode cX14_values 0 = .ok (.getstatic 10, 3) := dk_178 0 10 (dk_at dksX14_values_0 0 rfl rfl)
theorem dX14_values_3 : decode cX14_values 3 = .ok (.invokevirtual 14, 3) := dk_182 0 14 (dk_at dksX14_values_0 3 rfl rfl)
theorem dX14_values_6 : decode cX14_values 6 = .ok (.checkcast 15, 3) := dk_192 0 15 (dk_at dksX14_values_0 6 rfl rfl)
theorem dX14_values_9 : decode cX14_values 9 = .ok (.areturn, 1) := dk_176 (dk_at dksX14_values_0 9 rfl rfl)
theorem q215 : (Jvm.Cond.initialized "CsrCalculator$Join") ∈ lw_all := lw_g (lw_at lw_m1 36 rfl) rfl
theorem q1303 : (Jvm.Cond.static ({ cls := "CsrCalculator$Join", name := "named", desc := "(Ljava/lang/String;)LCsrCalculator$Join;" } : Jvm.MethodName)) ∈ lw_all := lw_g (lw_at lw_m5 164 rfl) rfl
theorem q1304 : (Jvm.Cond.code ({ cls := "CsrCalculator$Join", name := "named", desc := "(Ljava/lang/String;)LCsrCalculator$Join;" } : Jvm.MethodName) prog_8_method_5_code (5 : Nat) (Option.some (Jvm.ClassFile.FieldType.object "CsrCalculator$Join"))) ∈ lw_all := lw_g (lw_at lw_m5 165 rfl) rfl
theorem q1305 : (Jvm.Cond.methodLink "CsrCalculator$Join" (33 : Nat) ({ cls := "CsrCalculator$Join", name := "values", desc := "()[LCsrCalculator$Join;" } : Jvm.MethodName)) ∈ lw_all := lw_g (lw_at lw_m5 166 rfl) rfl
theorem q1306 : (Jvm.Cond.static ({ cls := "CsrCalculator$Join", name := "values", desc := "()[LCsrCalculator$Join;" } : Jvm.MethodName)) ∈ lw_all := lw_g (lw_at lw_m5 167 rfl) rfl
theorem q1307 : (Jvm.Cond.code ({ cls := "CsrCalculator$Join", name := "values", desc := "()[LCsrCalculator$Join;" } : Jvm.MethodName) prog_8_method_1_code (0 : Nat) (Option.some (Jvm.ClassFile.FieldType.array (Jvm.ClassFile.FieldType.object "CsrCalculator$Join")))) ∈ lw_all := lw_g (lw_at lw_m5 168 rfl) rfl
theorem q1308 : (Jvm.Cond.fieldLink "CsrCalculator$Join" (10 : Nat) "CsrCalculator$Join" "$VALUES" "[LCsrCalculator$Join;") ∈ lw_all := lw_g (lw_at lw_m5 169 rfl) rfl
theorem q1309 : (Jvm.Cond.laysStatic "CsrCalculator$Join" "$VALUES" "[LCsrCalculator$Join;") ∈ lw_tbl := lw_at lw_m5 170 rfl
theorem q1310 : (Jvm.Cond.methodLink "CsrCalculator$Join" (14 : Nat) ({ cls := "[LCsrCalculator$Join;", name := "clone", desc := "()Ljava/lang/Object;" } : Jvm.MethodName)) ∈ lw_all := lw_g (lw_at lw_m5 171 rfl) rfl
theorem q1315 : (Jvm.Cond.classLink "CsrCalculator$Join" (15 : Nat) "[LCsrCalculator$Join;") ∈ lw_all := lw_g (lw_at lw_m5 176 rfl) rfl
theorem q1316 : (Jvm.Cond.methodLink "CsrCalculator$Join" (37 : Nat) ({ cls := "java/lang/String", name := "equals", desc := "(Ljava/lang/Object;)Z" } : Jvm.MethodName)) ∈ lw_all := lw_g (lw_at lw_m5 177 rfl) rfl
theorem q1418 : (Jvm.Cond.declares ({ cls := "CsrCalculator$Join", name := "of", desc := "(JJ)J" } : Jvm.MethodName)) ∈ lw_tbl := lw_at lw_m6 39 rfl
theorem q1419 : (Jvm.Cond.sameMethod "CsrCalculator$Join" "CsrCalculator$Join" "of" "(JJ)J") ∈ lw_all := lw_g (lw_at lw_m6 40 rfl) rfl
theorem q1899 : (Jvm.Cond.laysStatic "CsrCalculator$Join" "PLUS" "LCsrCalculator$Join;") ∈ lw_tbl := lw_at lw_m8 40 rfl
theorem q3044 : (Jvm.Cond.castable "CsrCalculator$Join" "java/lang/Object") ∈ lw_tbl := lw_at lw_m12 225 rfl
theorem q3084 : (Jvm.Cond.fieldLink "CsrCalculator$Join" (29 : Nat) "CsrCalculator$Join" "word" "Ljava/lang/String;") ∈ lw_all := lw_g (lw_at lw_m13 25 rfl) rfl
theorem q3085 : (Jvm.Cond.laysStatic "CsrCalculator$Join" "LESS" "LCsrCalculator$Join;") ∈ lw_tbl := lw_at lw_m13 26 rfl
theorem q3086 : (Jvm.Cond.stringRef "CsrCalculator$Join" (46 : Nat) "plus") ∈ lw_tbl := lw_at lw_m13 27 rfl
theorem q3087 : (Jvm.Cond.stringRef "CsrCalculator$Join" (54 : Nat) "less") ∈ lw_tbl := lw_at lw_m13 28 rfl

/-! CsrCalculator$Evaluator -/
set_option maxRecDepth 100000
def RX15 : String := "CsrCalculator$Evaluator"
def TX15 : u_T := fun k => match k with
  | 0 => ("CsrCalculator$Evaluator", "registers", "[LCsrCalculator$Csr;", true)
  | _ => ("CsrCalculator$Evaluator", "work", "I", false)
def tyX15 : Nat → FieldType := fun k => match k with
  | 0 => .array (.object "CsrCalculator$Csr")
  | _ => .int
abbrev wsX150 : List Cond := u_ws RX15 TX15 2
theorem nmX15 : ∀ a, a < 2 → ∀ b, b < 2 → a ≠ b → (TX15 a).2.1 ≠ (TX15 b).2.1 := by decide +kernel
theorem tyX15_ok : ∀ k, k < 2 → parseFieldDescriptor (TX15 k).2.2.1 = some (tyX15 k) := by decide +kernel
abbrev cX15_init : ByteArray := prog_5_method_1_code
def yX15_init : MethodName := ⟨RX15, "<init>", "([LCsrCalculator$Csr;)V"⟩
def dkwX15_init_0 : List UInt8 := [42, 183, 0, 3, 42, 43, 181, 0, 9, 177]
abbrev dktX15_init_0 : List UInt8 := dkwX15_init_0 ++ []
theorem dksX15_init_0 : cX15_init.data.toList.drop 0 = dktX15_init_0 := by decide +kernel
theorem dX15_init_0 : decode cX15_init 0 = .ok (.aload_n 0, 1) := dk_42 (dk_at dksX15_init_0 0 rfl rfl)
theorem dX15_init_1 : decode cX15_init 1 = .ok (.invokespecial 3, 3) := dk_183 0 3 (dk_at dksX15_init_0 1 rfl rfl)
theorem dX15_init_4 : decode cX15_init 4 = .ok (.aload_n 0, 1) := dk_42 (dk_at dksX15_init_0 4 rfl rfl)
theorem dX15_init_5 : decode cX15_init 5 = .ok (.aload_n 1, 1) := dk_43 (dk_at dksX15_init_0 5 rfl rfl)
theorem dX15_init_6 : decode cX15_init 6 = .ok (.putfield 9, 3) := dk_181 0 9 (dk_at dksX15_init_0 6 rfl rfl)
theorem dX15_init_9 : decode cX15_init 9 = .ok (.return_, 1) := dk_177 (dk_at dksX15_init_0 9 rfl rfl)
abbrev cX15_valueOf : ByteArray := prog_5_method_2_code
def yX15_valueOf : MethodName := ⟨RX15, "valueOf", "(LCsrCalculator$Expr;)LCsrCalculator$Csr;"⟩
def dkwX15_valueOf_5 : List UInt8 := [182, 0, 60, 176, 187, 0, 64, 89, 183, 0, 66, 191]
abbrev dktX15_valueOf_5 : List UInt8 := dkwX15_valueOf_5 ++ []
def dkwX15_valueOf_4 : List UInt8 := [192, 0, 52, 77, 42, 44, 182, 0, 54, 176, 43, 193, 0, 58, 153, 0, 14, 43, 192, 0, 58, 77, 42, 44]
abbrev dktX15_valueOf_4 : List UInt8 := dkwX15_valueOf_4 ++ dktX15_valueOf_5
def dkwX15_valueOf_3 : List UInt8 := [153, 0, 14, 43, 192, 0, 46, 77, 42, 44, 182, 0, 48, 176, 43, 193, 0, 52, 153, 0, 14, 43]
abbrev dktX15_valueOf_3 : List UInt8 := dkwX15_valueOf_3 ++ dktX15_valueOf_4
def dkwX15_valueOf_2 : List UInt8 := [153, 0, 20, 43, 192, 0, 30, 77, 42, 44, 180, 0, 32, 182, 0, 36, 182, 0, 40, 176, 43, 193, 0, 46]
abbrev dktX15_valueOf_2 : List UInt8 := dkwX15_valueOf_2 ++ dktX15_valueOf_3
def dkwX15_valueOf_1 : List UInt8 := [193, 0, 21, 153, 0, 17, 43, 192, 0, 21, 77, 42, 44, 180, 0, 23, 182, 0, 26, 176, 43, 193, 0, 30]
abbrev dktX15_valueOf_1 : List UInt8 := dkwX15_valueOf_1 ++ dktX15_valueOf_2
def dkwX15_valueOf_0 : List UInt8 := [43, 193, 0, 15, 153, 0, 18, 43, 192, 0, 15, 77, 42, 180, 0, 9, 44, 180, 0, 17, 50, 176, 43]
abbrev dktX15_valueOf_0 : List UInt8 := dkwX15_valueOf_0 ++ dktX15_valueOf_1
theorem dksX15_valueOf_0 : cX15_valueOf.data.toList.drop 0 = dktX15_valueOf_0 := by decide +kernel
theorem dksX15_valueOf_1 : cX15_valueOf.data.toList.drop 23 = dktX15_valueOf_1 := dk_seg dksX15_valueOf_0 23 rfl rfl
theorem dksX15_valueOf_2 : cX15_valueOf.data.toList.drop 47 = dktX15_valueOf_2 := dk_seg dksX15_valueOf_1 24 rfl rfl
theorem dksX15_valueOf_3 : cX15_valueOf.data.toList.drop 71 = dktX15_valueOf_3 := dk_seg dksX15_valueOf_2 24 rfl rfl
theorem dksX15_valueOf_4 : cX15_valueOf.data.toList.drop 93 = dktX15_valueOf_4 := dk_seg dksX15_valueOf_3 22 rfl rfl
theorem dksX15_valueOf_5 : cX15_valueOf.data.toList.drop 117 = dktX15_valueOf_5 := dk_seg dksX15_valueOf_4 24 rfl rfl
theorem dX15_valueOf_0 : decode cX15_valueOf 0 = .ok (.aload_n 1, 1) := dk_43 (dk_at dksX15_valueOf_0 0 rfl rfl)
theorem dX15_valueOf_1 : decode cX15_valueOf 1 = .ok (.instanceof 15, 3) := dk_193 0 15 (dk_at dksX15_valueOf_0 1 rfl rfl)
theorem dX15_valueOf_4 : decode cX15_valueOf 4 = .ok (.ifCond .eq 18, 3) := dk_153 0 18 (dk_at dksX15_valueOf_0 4 rfl rfl)
theorem dX15_valueOf_7 : decode cX15_valueOf 7 = .ok (.aload_n 1, 1) := dk_43 (dk_at dksX15_valueOf_0 7 rfl rfl)
theorem dX15_valueOf_8 : decode cX15_valueOf 8 = .ok (.checkcast 15, 3) := dk_192 0 15 (dk_at dksX15_valueOf_0 8 rfl rfl)
theorem dX15_valueOf_11 : decode cX15_valueOf 11 = .ok (.astore_n 2, 1) := dk_77 (dk_at dksX15_valueOf_0 11 rfl rfl)
theorem dX15_valueOf_12 : decode cX15_valueOf 12 = .ok (.aload_n 0, 1) := dk_42 (dk_at dksX15_valueOf_0 12 rfl rfl)
theorem dX15_valueOf_13 : decode cX15_valueOf 13 = .ok (.getfield 9, 3) := dk_180 0 9 (dk_at dksX15_valueOf_0 13 rfl rfl)
theorem dX15_valueOf_16 : decode cX15_valueOf 16 = .ok (.aload_n 2, 1) := dk_44 (dk_at dksX15_valueOf_0 16 rfl rfl)
theorem dX15_valueOf_17 : decode cX15_valueOf 17 = .ok (.getfield 17, 3) := dk_180 0 17 (dk_at dksX15_valueOf_0 17 rfl rfl)
theorem dX15_valueOf_20 : decode cX15_valueOf 20 = .ok (.aaload, 1) := dk_50 (dk_at dksX15_valueOf_0 20 rfl rfl)
theorem dX15_valueOf_21 : decode cX15_valueOf 21 = .ok (.areturn, 1) := dk_176 (dk_at dksX15_valueOf_0 21 rfl rfl)
theorem dX15_valueOf_22 : decode cX15_valueOf 22 = .ok (.aload_n 1, 1) := dk_43 (dk_at dksX15_valueOf_0 22 rfl rfl)
theorem dX15_valueOf_23 : decode cX15_valueOf 23 = .ok (.instanceof 21, 3) := dk_193 0 21 (dk_at dksX15_valueOf_1 0 rfl rfl)
theorem dX15_valueOf_26 : decode cX15_valueOf 26 = .ok (.ifCond .eq 17, 3) := dk_153 0 17 (dk_at dksX15_valueOf_1 3 rfl rfl)
theorem dX15_valueOf_29 : decode cX15_valueOf 29 = .ok (.aload_n 1, 1) := dk_43 (dk_at dksX15_valueOf_1 6 rfl rfl)
theorem dX15_valueOf_30 : decode cX15_valueOf 30 = .ok (.checkcast 21, 3) := dk_192 0 21 (dk_at dksX15_valueOf_1 7 rfl rfl)
theorem dX15_valueOf_33 : decode cX15_valueOf 33 = .ok (.astore_n 2, 1) := dk_77 (dk_at dksX15_valueOf_1 10 rfl rfl)
theorem dX15_valueOf_34 : decode cX15_valueOf 34 = .ok (.aload_n 0, 1) := dk_42 (dk_at dksX15_valueOf_1 11 rfl rfl)
theorem dX15_valueOf_35 : decode cX15_valueOf 35 = .ok (.aload_n 2, 1) := dk_44 (dk_at dksX15_valueOf_1 12 rfl rfl)
theorem dX15_valueOf_36 : decode cX15_valueOf 36 = .ok (.getfield 23, 3) := dk_180 0 23 (dk_at dksX15_valueOf_1 13 rfl rfl)
theorem dX15_valueOf_39 : decode cX15_valueOf 39 = .ok (.invokevirtual 26, 3) := dk_182 0 26 (dk_at dksX15_valueOf_1 16 rfl rfl)
theorem dX15_valueOf_42 : decode cX15_valueOf 42 = .ok (.areturn, 1) := dk_176 (dk_at dksX15_valueOf_1 19 rfl rfl)
theorem dX15_valueOf_43 : decode cX15_valueOf 43 = .ok (.aload_n 1, 1) := dk_43 (dk_at dksX15_valueOf_1 20 rfl rfl)
theorem dX15_valueOf_44 : decode cX15_valueOf 44 = .ok (.instanceof 30, 3) := dk_193 0 30 (dk_at dksX15_valueOf_1 21 rfl rfl)
theorem dX15_valueOf_47 : decode cX15_valueOf 47 = .ok (.ifCond .eq 20, 3) := dk_153 0 20 (dk_at dksX15_valueOf_2 0 rfl rfl)
theorem dX15_valueOf_50 : decode cX15_valueOf 50 = .ok (.aload_n 1, 1) := dk_43 (dk_at dksX15_valueOf_2 3 rfl rfl)
theorem dX15_valueOf_51 : decode cX15_valueOf 51 = .ok (.checkcast 30, 3) := dk_192 0 30 (dk_at dksX15_valueOf_2 4 rfl rfl)
theorem dX15_valueOf_54 : decode cX15_valueOf 54 = .ok (.astore_n 2, 1) := dk_77 (dk_at dksX15_valueOf_2 7 rfl rfl)
theorem dX15_valueOf_55 : decode cX15_valueOf 55 = .ok (.aload_n 0, 1) := dk_42 (dk_at dksX15_valueOf_2 8 rfl rfl)
theorem dX15_valueOf_56 : decode cX15_valueOf 56 = .ok (.aload_n 2, 1) := dk_44 (dk_at dksX15_valueOf_2 9 rfl rfl)
theorem dX15_valueOf_57 : decode cX15_valueOf 57 = .ok (.getfield 32, 3) := dk_180 0 32 (dk_at dksX15_valueOf_2 10 rfl rfl)
theorem dX15_valueOf_60 : decode cX15_valueOf 60 = .ok (.invokevirtual 36, 3) := dk_182 0 36 (dk_at dksX15_valueOf_2 13 rfl rfl)
theorem dX15_valueOf_63 : decode cX15_valueOf 63 = .ok (.invokevirtual 40, 3) := dk_182 0 40 (dk_at dksX15_valueOf_2 16 rfl rfl)
theorem dX15_valueOf_66 : decode cX15_valueOf 66 = .ok (.areturn, 1) := dk_176 (dk_at dksX15_valueOf_2 19 rfl rfl)
theorem dX15_valueOf_67 : decode cX15_valueOf 67 = .ok (.aload_n 1, 1) := dk_43 (dk_at dksX15_valueOf_2 20 rfl rfl)
theorem dX15_valueOf_68 : decode cX15_valueOf 68 = .ok (.instanceof 46, 3) := dk_193 0 46 (dk_at dksX15_valueOf_2 21 rfl rfl)
theorem dX15_valueOf_71 : decode cX15_valueOf 71 = .ok (.ifCond .eq 14, 3) := dk_153 0 14 (dk_at dksX15_valueOf_3 0 rfl rfl)
theorem dX15_valueOf_74 : decode cX15_valueOf 74 = .ok (.aload_n 1, 1) := dk_43 (dk_at dksX15_valueOf_3 3 rfl rfl)
theorem dX15_valueOf_75 : decode cX15_valueOf 75 = .ok (.checkcast 46, 3) := dk_192 0 46 (dk_at dksX15_valueOf_3 4 rfl rfl)
theorem dX15_valueOf_78 : decode cX15_valueOf 78 = .ok (.astore_n 2, 1) := dk_77 (dk_at dksX15_valueOf_3 7 rfl rfl)
theorem dX15_valueOf_79 : decode cX15_valueOf 79 = .ok (.aload_n 0, 1) := dk_42 (dk_at dksX15_valueOf_3 8 rfl rfl)
theorem dX15_valueOf_80 : decode cX15_valueOf 80 = .ok (.aload_n 2, 1) := dk_44 (dk_at dksX15_valueOf_3 9 rfl rfl)
theorem dX15_valueOf_81 : decode cX15_valueOf 81 = .ok (.invokevirtual 48, 3) := dk_182 0 48 (dk_at dksX15_valueOf_3 10 rfl rfl)
theorem dX15_valueOf_84 : decode cX15_valueOf 84 = .ok (.areturn, 1) := dk_176 (dk_at dksX15_valueOf_3 13 rfl rfl)
theorem dX15_valueOf_85 : decode cX15_valueOf 85 = .ok (.aload_n 1, 1) := dk_43 (dk_at dksX15_valueOf_3 14 rfl rfl)
theorem dX15_valueOf_86 : decode cX15_valueOf 86 = .ok (.instanceof 52, 3) := dk_193 0 52 (dk_at dksX15_valueOf_3 15 rfl rfl)
theorem dX15_valueOf_89 : decode cX15_valueOf 89 = .ok (.ifCond .eq 14, 3) := dk_153 0 14 (dk_at dksX15_valueOf_3 18 rfl rfl)
theorem dX15_valueOf_92 : decode cX15_valueOf 92 = .ok (.aload_n 1, 1) := dk_43 (dk_at dksX15_valueOf_3 21 rfl rfl)
theorem dX15_valueOf_93 : decode cX15_valueOf 93 = .ok (.checkcast 52, 3) := dk_192 0 52 (dk_at dksX15_valueOf_4 0 rfl rfl)
theorem dX15_valueOf_96 : decode cX15_valueOf 96 = .ok (.astore_n 2, 1) := dk_77 (dk_at dksX15_valueOf_4 3 rfl rfl)
theorem dX15_valueOf_97 : decode cX15_valueOf 97 = .ok (.aload_n 0, 1) := dk_42 (dk_at dksX15_valueOf_4 4 rfl rfl)
theorem dX15_valueOf_98 : decode cX15_valueOf 98 = .ok (.aload_n 2, 1) := dk_44 (dk_at dksX15_valueOf_4 5 rfl rfl)
theorem dX15_valueOf_99 : decode cX15_valueOf 99 = .ok (.invokevirtual 54, 3) := dk_182 0 54 (dk_at dksX15_valueOf_4 6 rfl rfl)
theorem dX15_valueOf_102 : decode cX15_valueOf 102 = .ok (.areturn, 1) := dk_176 (dk_at dksX15_valueOf_4 9 rfl rfl)
theorem dX15_valueOf_103 : decode cX15_valueOf 103 = .ok (.aload_n 1, 1) := dk_43 (dk_at dksX15_valueOf_4 10 rfl rfl)
theorem dX15_valueOf_104 : decode cX15_valueOf 104 = .ok (.instanceof 58, 3) := dk_193 0 58 (dk_at dksX15_valueOf_4 11 rfl rfl)
theorem dX15_valueOf_107 : decode cX15_valueOf 107 = .ok (.ifCond .eq 14, 3) := dk_153 0 14 (dk_at dksX15_valueOf_4 14 rfl rfl)
theorem dX15_valueOf_110 : decode cX15_valueOf 110 = .ok (.aload_n 1, 1) := dk_43 (dk_at dksX15_valueOf_4 17 rfl rfl)
theorem dX15_valueOf_111 : decode cX15_valueOf 111 = .ok (.checkcast 58, 3) := dk_192 0 58 (dk_at dksX15_valueOf_4 18 rfl rfl)
theorem dX15_valueOf_114 : decode cX15_valueOf 114 = .ok (.astore_n 2, 1) := dk_77 (dk_at dksX15_valueOf_4 21 rfl rfl)
theorem dX15_valueOf_115 : decode cX15_valueOf 115 = .ok (.aload_n 0, 1) := dk_42 (dk_at dksX15_valueOf_4 22 rfl rfl)
theorem dX15_valueOf_116 : decode cX15_valueOf 116 = .ok (.aload_n 2, 1) := dk_44 (dk_at dksX15_valueOf_4 23 rfl rfl)
theorem dX15_valueOf_117 : decode cX15_valueOf 117 = .ok (.invokevirtual 60, 3) := dk_182 0 60 (dk_at dksX15_valueOf_5 0 rfl rfl)
theorem dX15_valueOf_120 : decode cX15_valueOf 120 = .ok (.areturn, 1) := dk_176 (dk_at dksX15_valueOf_5 3 rfl rfl)
theorem dX15_valueOf_121 : decode cX15_valueOf 121 = .ok (.new 64, 3) := dk_187 0 64 (dk_at dksX15_valueOf_5 4 rfl rfl)
theorem dX15_valueOf_124 : decode cX15_valueOf 124 = .ok (.dup, 1) := dk_89 (dk_at dksX15_valueOf_5 7 rfl rfl)
theorem dX15_valueOf_125 : decode cX15_valueOf 125 = .ok (.invokespecial 66, 3) := dk_183 0 66 (dk_at dksX15_valueOf_5 8 rfl rfl)
theorem dX15_valueOf_128 : decode cX15_valueOf 128 = .ok (.athrow, 1) := dk_191 (dk_at dksX15_valueOf_5 11 rfl rfl)
abbrev cX15_unit : ByteArray := prog_5_method_3_code
def yX15_unit : MethodName := ⟨RX15, "unit", "(I)LCsrCalculator$Csr;"⟩
def dkwX15_unit_1 : List UInt8 := [176]
abbrev dktX15_unit_1 : List UInt8 := dkwX15_unit_1 ++ []
def dkwX15_unit_0 : List UInt8 := [27, 133, 10, 20, 0, 67, 184, 0, 69, 154, 0, 11, 187, 0, 64, 89, 183, 0, 66, 191, 27, 184, 0, 73]
abbrev dktX15_unit_0 : List UInt8 := dkwX15_unit_0 ++ dktX15_unit_1
theorem dksX15_unit_0 : cX15_unit.data.toList.drop 0 = dktX15_unit_0 := by decide +kernel
theorem dksX15_unit_1 : cX15_unit.data.toList.drop 24 = dktX15_unit_1 := dk_seg dksX15_unit_0 24 rfl rfl
theorem dX15_unit_0 : decode cX15_unit 0 = .ok (.iload_n 1, 1) := dk_27 (dk_at dksX15_unit_0 0 rfl rfl)
theorem dX15_unit_1 : decode cX15_unit 1 = .ok (.i2l, 1) := dk_133 (dk_at dksX15_unit_0 1 rfl rfl)
theorem dX15_unit_2 : decode cX15_unit 2 = .ok (.lconst 1, 1) := dk_10 (dk_at dksX15_unit_0 2 rfl rfl)
theorem dX15_unit_3 : decode cX15_unit 3 = .ok (.ldc2_w 67, 3) := dk_20 0 67 (dk_at dksX15_unit_0 3 rfl rfl)
theorem dX15_unit_6 : decode cX15_unit 6 = .ok (.invokestatic 69, 3) := dk_184 0 69 (dk_at dksX15_unit_0 6 rfl rfl)
theorem dX15_unit_9 : decode cX15_unit 9 = .ok (.ifCond .ne 11, 3) := dk_154 0 11 (dk_at dksX15_unit_0 9 rfl rfl)
theorem dX15_unit_12 : decode cX15_unit 12 = .ok (.new 64, 3) := dk_187 0 64 (dk_at dksX15_unit_0 12 rfl rfl)
theorem dX15_unit_15 : decode cX15_unit 15 = .ok (.dup, 1) := dk_89 (dk_at dksX15_unit_0 15 rfl rfl)
theorem dX15_unit_16 : decode cX15_unit 16 = .ok (.invokespecial 66, 3) := dk_183 0 66 (dk_at dksX15_unit_0 16 rfl rfl)
theorem dX15_unit_19 : decode cX15_unit 19 = .ok (.athrow, 1) := dk_191 (dk_at dksX15_unit_0 19 rfl rfl)
theorem dX15_unit_20 : decode cX15_unit 20 = .ok (.iload_n 1, 1) := dk_27 (dk_at dksX15_unit_0 20 rfl rfl)
theorem dX15_unit_21 : decode cX15_unit 21 = .ok (.invokestatic 73, 3) := dk_184 0 73 (dk_at dksX15_unit_0 21 rfl rfl)
theorem dX15_unit_24 : decode cX15_unit 24 = .ok (.areturn, 1) := dk_176 (dk_at dksX15_unit_1 0 rfl rfl)
abbrev cX15_multiple : ByteArray := prog_5_method_4_code
def yX15_multiple : MethodName := ⟨RX15, "multiple", "(LCsrCalculator$Multiple;)LCsrCalculator$Csr;"⟩
def dkwX15_multiple_1 : List UInt8 := [182, 0, 36, 43, 180, 0, 74, 182, 0, 78, 176]
abbrev dktX15_multiple_1 : List UInt8 := dkwX15_multiple_1 ++ []
def dkwX15_multiple_0 : List UInt8 := [43, 180, 0, 74, 16, 99, 164, 0, 11, 187, 0, 64, 89, 183, 0, 66, 191, 42, 43, 180, 0, 77]
abbrev dktX15_multiple_0 : List UInt8 := dkwX15_multiple_0 ++ dktX15_multiple_1
theorem dksX15_multiple_0 : cX15_multiple.data.toList.drop 0 = dktX15_multiple_0 := by decide +kernel
theorem dksX15_multiple_1 : cX15_multiple.data.toList.drop 22 = dktX15_multiple_1 := dk_seg dksX15_multiple_0 22 rfl rfl
theorem dX15_multiple_0 : decode cX15_multiple 0 = .ok (.aload_n 1, 1) := dk_43 (dk_at dksX15_multiple_0 0 rfl rfl)
theorem dX15_multiple_1 : decode cX15_multiple 1 = .ok (.getfield 74, 3) := dk_180 0 74 (dk_at dksX15_multiple_0 1 rfl rfl)
theorem dX15_multiple_4 : decode cX15_multiple 4 = .ok (.bipush 99, 2) := dk_16 99 (dk_at dksX15_multiple_0 4 rfl rfl)
theorem dX15_multiple_6 : decode cX15_multiple 6 = .ok (.if_icmp .le 11, 3) := dk_164 0 11 (dk_at dksX15_multiple_0 6 rfl rfl)
theorem dX15_multiple_9 : decode cX15_multiple 9 = .ok (.new 64, 3) := dk_187 0 64 (dk_at dksX15_multiple_0 9 rfl rfl)
theorem dX15_multiple_12 : decode cX15_multiple 12 = .ok (.dup, 1) := dk_89 (dk_at dksX15_multiple_0 12 rfl rfl)
theorem dX15_multiple_13 : decode cX15_multiple 13 = .ok (.invokespecial 66, 3) := dk_183 0 66 (dk_at dksX15_multiple_0 13 rfl rfl)
theorem dX15_multiple_16 : decode cX15_multiple 16 = .ok (.athrow, 1) := dk_191 (dk_at dksX15_multiple_0 16 rfl rfl)
theorem dX15_multiple_17 : decode cX15_multiple 17 = .ok (.aload_n 0, 1) := dk_42 (dk_at dksX15_multiple_0 17 rfl rfl)
theorem dX15_multiple_18 : decode cX15_multiple 18 = .ok (.aload_n 1, 1) := dk_43 (dk_at dksX15_multiple_0 18 rfl rfl)
theorem dX15_multiple_19 : decode cX15_multiple 19 = .ok (.getfield 77, 3) := dk_180 0 77 (dk_at dksX15_multiple_0 19 rfl rfl)
theorem dX15_multiple_22 : decode cX15_multiple 22 = .ok (.invokevirtual 36, 3) := dk_182 0 36 (dk_at dksX15_multiple_1 0 rfl rfl)
theorem dX15_multiple_25 : decode cX15_multiple 25 = .ok (.aload_n 1, 1) := dk_43 (dk_at dksX15_multiple_1 3 rfl rfl)
theorem dX15_multiple_26 : decode cX15_multiple 26 = .ok (.getfield 74, 3) := dk_180 0 74 (dk_at dksX15_multiple_1 4 rfl rfl)
theorem dX15_multiple_29 : decode cX15_multiple 29 = .ok (.invokevirtual 78, 3) := dk_182 0 78 (dk_at dksX15_multiple_1 7 rfl rfl)
theorem dX15_multiple_32 : decode cX15_multiple 32 = .ok (.areturn, 1) := dk_176 (dk_at dksX15_multiple_1 10 rfl rfl)
abbrev cX15_sum : ByteArray := prog_5_method_5_code
def yX15_sum : MethodName := ⟨RX15, "sum", "(LCsrCalculator$Sum;)LCsrCalculator$Csr;"⟩
def dkwX15_sum_3 : List UInt8 := [132, 3, 1, 167, 255, 203, 44, 176]
abbrev dktX15_sum_3 : List UInt8 := dkwX15_sum_3 ++ []
def dkwX15_sum_2 : List UInt8 := [192, 0, 99, 42, 43, 180, 0, 81, 29, 185, 0, 85, 2, 0, 192, 0, 91, 182, 0, 36, 182, 0, 101, 77]
abbrev dktX15_sum_2 : List UInt8 := dkwX15_sum_2 ++ dktX15_sum_3
def dkwX15_sum_1 : List UInt8 := [180, 0, 81, 185, 0, 93, 1, 0, 162, 0, 46, 44, 43, 180, 0, 96, 29, 4, 100, 185, 0, 85, 2, 0]
abbrev dktX15_sum_1 : List UInt8 := dkwX15_sum_1 ++ dktX15_sum_2
def dkwX15_sum_0 : List UInt8 := [42, 43, 180, 0, 81, 3, 185, 0, 85, 2, 0, 192, 0, 91, 182, 0, 36, 77, 4, 62, 29, 43]
abbrev dktX15_sum_0 : List UInt8 := dkwX15_sum_0 ++ dktX15_sum_1
theorem dksX15_sum_0 : cX15_sum.data.toList.drop 0 = dktX15_sum_0 := by decide +kernel
theorem dksX15_sum_1 : cX15_sum.data.toList.drop 22 = dktX15_sum_1 := dk_seg dksX15_sum_0 22 rfl rfl
theorem dksX15_sum_2 : cX15_sum.data.toList.drop 46 = dktX15_sum_2 := dk_seg dksX15_sum_1 24 rfl rfl
theorem dksX15_sum_3 : cX15_sum.data.toList.drop 70 = dktX15_sum_3 := dk_seg dksX15_sum_2 24 rfl rfl
theorem dX15_sum_0 : decode cX15_sum 0 = .ok (.aload_n 0, 1) := dk_42 (dk_at dksX15_sum_0 0 rfl rfl)
theorem dX15_sum_1 : decode cX15_sum 1 = .ok (.aload_n 1, 1) := dk_43 (dk_at dksX15_sum_0 1 rfl rfl)
theorem dX15_sum_2 : decode cX15_sum 2 = .ok (.getfield 81, 3) := dk_180 0 81 (dk_at dksX15_sum_0 2 rfl rfl)
theorem dX15_sum_5 : decode cX15_sum 5 = .ok (.iconst 0, 1) := dk_3 (dk_at dksX15_sum_0 5 rfl rfl)
theorem dX15_sum_6 : decode cX15_sum 6 = .ok (.invokeinterface 85 2, 5) := by decide +kernel
theorem dX15_sum_11 : decode cX15_sum 11 = .ok (.checkcast 91, 3) := dk_192 0 91 (dk_at dksX15_sum_0 11 rfl rfl)
theorem dX15_sum_14 : decode cX15_sum 14 = .ok (.invokevirtual 36, 3) := dk_182 0 36 (dk_at dksX15_sum_0 14 rfl rfl)
theorem dX15_sum_17 : decode cX15_sum 17 = .ok (.astore_n 2, 1) := dk_77 (dk_at dksX15_sum_0 17 rfl rfl)
theorem dX15_sum_18 : decode cX15_sum 18 = .ok (.iconst 1, 1) := dk_4 (dk_at dksX15_sum_0 18 rfl rfl)
theorem dX15_sum_19 : decode cX15_sum 19 = .ok (.istore_n 3, 1) := dk_62 (dk_at dksX15_sum_0 19 rfl rfl)
theorem dX15_sum_20 : decode cX15_sum 20 = .ok (.iload_n 3, 1) := dk_29 (dk_at dksX15_sum_0 20 rfl rfl)
theorem dX15_sum_21 : decode cX15_sum 21 = .ok (.aload_n 1, 1) := dk_43 (dk_at dksX15_sum_0 21 rfl rfl)
theorem dX15_sum_22 : decode cX15_sum 22 = .ok (.getfield 81, 3) := dk_180 0 81 (dk_at dksX15_sum_1 0 rfl rfl)
theorem dX15_sum_25 : decode cX15_sum 25 = .ok (.invokeinterface 93 1, 5) := by decide +kernel
theorem dX15_sum_30 : decode cX15_sum 30 = .ok (.if_icmp .ge 46, 3) := dk_162 0 46 (dk_at dksX15_sum_1 8 rfl rfl)
theorem dX15_sum_33 : decode cX15_sum 33 = .ok (.aload_n 2, 1) := dk_44 (dk_at dksX15_sum_1 11 rfl rfl)
theorem dX15_sum_34 : decode cX15_sum 34 = .ok (.aload_n 1, 1) := dk_43 (dk_at dksX15_sum_1 12 rfl rfl)
theorem dX15_sum_35 : decode cX15_sum 35 = .ok (.getfield 96, 3) := dk_180 0 96 (dk_at dksX15_sum_1 13 rfl rfl)
theorem dX15_sum_38 : decode cX15_sum 38 = .ok (.iload_n 3, 1) := dk_29 (dk_at dksX15_sum_1 16 rfl rfl)
theorem dX15_sum_39 : decode cX15_sum 39 = .ok (.iconst 1, 1) := dk_4 (dk_at dksX15_sum_1 17 rfl rfl)
theorem dX15_sum_40 : decode cX15_sum 40 = .ok (.isub, 1) := dk_100 (dk_at dksX15_sum_1 18 rfl rfl)
theorem dX15_sum_41 : decode cX15_sum 41 = .ok (.invokeinterface 85 2, 5) := by decide +kernel
theorem dX15_sum_46 : decode cX15_sum 46 = .ok (.checkcast 99, 3) := dk_192 0 99 (dk_at dksX15_sum_2 0 rfl rfl)
theorem dX15_sum_49 : decode cX15_sum 49 = .ok (.aload_n 0, 1) := dk_42 (dk_at dksX15_sum_2 3 rfl rfl)
theorem dX15_sum_50 : decode cX15_sum 50 = .ok (.aload_n 1, 1) := dk_43 (dk_at dksX15_sum_2 4 rfl rfl)
theorem dX15_sum_51 : decode cX15_sum 51 = .ok (.getfield 81, 3) := dk_180 0 81 (dk_at dksX15_sum_2 5 rfl rfl)
theorem dX15_sum_54 : decode cX15_sum 54 = .ok (.iload_n 3, 1) := dk_29 (dk_at dksX15_sum_2 8 rfl rfl)
theorem dX15_sum_55 : decode cX15_sum 55 = .ok (.invokeinterface 85 2, 5) := by decide +kernel
theorem dX15_sum_60 : decode cX15_sum 60 = .ok (.checkcast 91, 3) := dk_192 0 91 (dk_at dksX15_sum_2 14 rfl rfl)
theorem dX15_sum_63 : decode cX15_sum 63 = .ok (.invokevirtual 36, 3) := dk_182 0 36 (dk_at dksX15_sum_2 17 rfl rfl)
theorem dX15_sum_66 : decode cX15_sum 66 = .ok (.invokevirtual 101, 3) := dk_182 0 101 (dk_at dksX15_sum_2 20 rfl rfl)
theorem dX15_sum_69 : decode cX15_sum 69 = .ok (.astore_n 2, 1) := dk_77 (dk_at dksX15_sum_2 23 rfl rfl)
theorem dX15_sum_70 : decode cX15_sum 70 = .ok (.iinc 3 1, 3) := dk_132 3 1 (dk_at dksX15_sum_3 0 rfl rfl)
theorem dX15_sum_73 : decode cX15_sum 73 = .ok (.goto (-53), 3) := dk_167 255 203 (dk_at dksX15_sum_3 3 rfl rfl)
theorem dX15_sum_76 : decode cX15_sum 76 = .ok (.aload_n 2, 1) := dk_44 (dk_at dksX15_sum_3 6 rfl rfl)
theorem dX15_sum_77 : decode cX15_sum 77 = .ok (.areturn, 1) := dk_176 (dk_at dksX15_sum_3 7 rfl rfl)
abbrev cX15_product : ByteArray := prog_5_method_6_code
def yX15_product : MethodName := ⟨RX15, "product", "(LCsrCalculator$Product;)LCsrCalculator$Csr;"⟩
def dkwX15_product_3 : List UInt8 := [182, 0, 115, 96, 181, 0, 112, 25, 5, 77, 132, 3, 1, 167, 255, 195, 44, 176]
abbrev dktX15_product_3 : List UInt8 := dkwX15_product_3 ++ []
def dkwX15_product_2 : List UInt8 := [192, 0, 91, 182, 0, 36, 58, 4, 44, 25, 4, 182, 0, 108, 58, 5, 42, 89, 180, 0, 112, 44, 25, 4]
abbrev dktX15_product_2 : List UInt8 := dkwX15_product_2 ++ dktX15_product_3
def dkwX15_product_1 : List UInt8 := [180, 0, 105, 185, 0, 93, 1, 0, 162, 0, 54, 42, 43, 180, 0, 105, 29, 185, 0, 85, 2, 0]
abbrev dktX15_product_1 : List UInt8 := dkwX15_product_1 ++ dktX15_product_2
def dkwX15_product_0 : List UInt8 := [42, 43, 180, 0, 105, 3, 185, 0, 85, 2, 0, 192, 0, 91, 182, 0, 36, 77, 4, 62, 29, 43]
abbrev dktX15_product_0 : List UInt8 := dkwX15_product_0 ++ dktX15_product_1
theorem dksX15_product_0 : cX15_product.data.toList.drop 0 = dktX15_product_0 := by decide +kernel
theorem dksX15_product_1 : cX15_product.data.toList.drop 22 = dktX15_product_1 := dk_seg dksX15_product_0 22 rfl rfl
theorem dksX15_product_2 : cX15_product.data.toList.drop 44 = dktX15_product_2 := dk_seg dksX15_product_1 22 rfl rfl
theorem dksX15_product_3 : cX15_product.data.toList.drop 68 = dktX15_product_3 := dk_seg dksX15_product_2 24 rfl rfl
theorem dX15_product_0 : decode cX15_product 0 = .ok (.aload_n 0, 1) := dk_42 (dk_at dksX15_product_0 0 rfl rfl)
theorem dX15_product_1 : decode cX15_product 1 = .ok (.aload_n 1, 1) := dk_43 (dk_at dksX15_product_0 1 rfl rfl)
theorem dX15_product_2 : decode cX15_product 2 = .ok (.getfield 105, 3) := dk_180 0 105 (dk_at dksX15_product_0 2 rfl rfl)
theorem dX15_product_5 : decode cX15_product 5 = .ok (.iconst 0, 1) := dk_3 (dk_at dksX15_product_0 5 rfl rfl)
theorem dX15_product_6 : decode cX15_product 6 = .ok (.invokeinterface 85 2, 5) := by decide +kernel
theorem dX15_product_11 : decode cX15_product 11 = .ok (.checkcast 91, 3) := dk_192 0 91 (dk_at dksX15_product_0 11 rfl rfl)
theorem dX15_product_14 : decode cX15_product 14 = .ok (.invokevirtual 36, 3) := dk_182 0 36 (dk_at dksX15_product_0 14 rfl rfl)
theorem dX15_product_17 : decode cX15_product 17 = .ok (.astore_n 2, 1) := dk_77 (dk_at dksX15_product_0 17 rfl rfl)
theorem dX15_product_18 : decode cX15_product 18 = .ok (.iconst 1, 1) := dk_4 (dk_at dksX15_product_0 18 rfl rfl)
theorem dX15_product_19 : decode cX15_product 19 = .ok (.istore_n 3, 1) := dk_62 (dk_at dksX15_product_0 19 rfl rfl)
theorem dX15_product_20 : decode cX15_product 20 = .ok (.iload_n 3, 1) := dk_29 (dk_at dksX15_product_0 20 rfl rfl)
theorem dX15_product_21 : decode cX15_product 21 = .ok (.aload_n 1, 1) := dk_43 (dk_at dksX15_product_0 21 rfl rfl)
theorem dX15_product_22 : decode cX15_product 22 = .ok (.getfield 105, 3) := dk_180 0 105 (dk_at dksX15_product_1 0 rfl rfl)
theorem dX15_product_25 : decode cX15_product 25 = .ok (.invokeinterface 93 1, 5) := by decide +kernel
theorem dX15_product_30 : decode cX15_product 30 = .ok (.if_icmp .ge 54, 3) := dk_162 0 54 (dk_at dksX15_product_1 8 rfl rfl)
theorem dX15_product_33 : decode cX15_product 33 = .ok (.aload_n 0, 1) := dk_42 (dk_at dksX15_product_1 11 rfl rfl)
theorem dX15_product_34 : decode cX15_product 34 = .ok (.aload_n 1, 1) := dk_43 (dk_at dksX15_product_1 12 rfl rfl)
theorem dX15_product_35 : decode cX15_product 35 = .ok (.getfield 105, 3) := dk_180 0 105 (dk_at dksX15_product_1 13 rfl rfl)
theorem dX15_product_38 : decode cX15_product 38 = .ok (.iload_n 3, 1) := dk_29 (dk_at dksX15_product_1 16 rfl rfl)
theorem dX15_product_39 : decode cX15_product 39 = .ok (.invokeinterface 85 2, 5) := by decide +kernel
theorem dX15_product_44 : decode cX15_product 44 = .ok (.checkcast 91, 3) := dk_192 0 91 (dk_at dksX15_product_2 0 rfl rfl)
theorem dX15_product_47 : decode cX15_product 47 = .ok (.invokevirtual 36, 3) := dk_182 0 36 (dk_at dksX15_product_2 3 rfl rfl)
theorem dX15_product_50 : decode cX15_product 50 = .ok (.astore 4, 2) := dk_58 4 (dk_at dksX15_product_2 6 rfl rfl)
theorem dX15_product_52 : decode cX15_product 52 = .ok (.aload_n 2, 1) := dk_44 (dk_at dksX15_product_2 8 rfl rfl)
theorem dX15_product_53 : decode cX15_product 53 = .ok (.aload 4, 2) := dk_25 4 (dk_at dksX15_product_2 9 rfl rfl)
theorem dX15_product_55 : decode cX15_product 55 = .ok (.invokevirtual 108, 3) := dk_182 0 108 (dk_at dksX15_product_2 11 rfl rfl)
theorem dX15_product_58 : decode cX15_product 58 = .ok (.astore 5, 2) := dk_58 5 (dk_at dksX15_product_2 14 rfl rfl)
theorem dX15_product_60 : decode cX15_product 60 = .ok (.aload_n 0, 1) := dk_42 (dk_at dksX15_product_2 16 rfl rfl)
theorem dX15_product_61 : decode cX15_product 61 = .ok (.dup, 1) := dk_89 (dk_at dksX15_product_2 17 rfl rfl)
theorem dX15_product_62 : decode cX15_product 62 = .ok (.getfield 112, 3) := dk_180 0 112 (dk_at dksX15_product_2 18 rfl rfl)
theorem dX15_product_65 : decode cX15_product 65 = .ok (.aload_n 2, 1) := dk_44 (dk_at dksX15_product_2 21 rfl rfl)
theorem dX15_product_66 : decode cX15_product 66 = .ok (.aload 4, 2) := dk_25 4 (dk_at dksX15_product_2 22 rfl rfl)
theorem dX15_product_68 : decode cX15_product 68 = .ok (.invokevirtual 115, 3) := dk_182 0 115 (dk_at dksX15_product_3 0 rfl rfl)
theorem dX15_product_71 : decode cX15_product 71 = .ok (.iadd, 1) := dk_96 (dk_at dksX15_product_3 3 rfl rfl)
theorem dX15_product_72 : decode cX15_product 72 = .ok (.putfield 112, 3) := dk_181 0 112 (dk_at dksX15_product_3 4 rfl rfl)
theorem dX15_product_75 : decode cX15_product 75 = .ok (.aload 5, 2) := dk_25 5 (dk_at dksX15_product_3 7 rfl rfl)
theorem dX15_product_77 : decode cX15_product 77 = .ok (.astore_n 2, 1) := dk_77 (dk_at dksX15_product_3 9 rfl rfl)
theorem dX15_product_78 : decode cX15_product 78 = .ok (.iinc 3 1, 3) := dk_132 3 1 (dk_at dksX15_product_3 10 rfl rfl)
theorem dX15_product_81 : decode cX15_product 81 = .ok (.goto (-61), 3) := dk_167 255 195 (dk_at dksX15_product_3 13 rfl rfl)
theorem dX15_product_84 : decode cX15_product 84 = .ok (.aload_n 2, 1) := dk_44 (dk_at dksX15_product_3 16 rfl rfl)
theorem dX15_product_85 : decode cX15_product 85 = .ok (.areturn, 1) := dk_176 (dk_at dksX15_product_3 17 rfl rfl)
theorem q216 : (Jvm.Cond.initialized "CsrCalculator$Evaluator") ∈ lw_all := lw_g (lw_at lw_m1 37 rfl) rfl
theorem q1146 : (Jvm.Cond.fieldLinkNest "CsrCalculator$Evaluator" (81 : Nat) "CsrCalculator$Sum" "terms" "Ljava/util/List;" "CsrCalculator") ∈ lw_tbl := lw_at lw_m5 7 rfl
theorem q1149 : (Jvm.Cond.fieldLinkNest "CsrCalculator$Evaluator" (96 : Nat) "CsrCalculator$Sum" "joins" "Ljava/util/List;" "CsrCalculator") ∈ lw_tbl := lw_at lw_m5 10 rfl
theorem q1169 : (Jvm.Cond.fieldLinkNest "CsrCalculator$Evaluator" (105 : Nat) "CsrCalculator$Product" "factors" "Ljava/util/List;" "CsrCalculator") ∈ lw_tbl := lw_at lw_m5 30 rfl
theorem q1185 : (Jvm.Cond.fieldLinkNest "CsrCalculator$Evaluator" (17 : Nat) "CsrCalculator$Register" "index" "I" "CsrCalculator") ∈ lw_tbl := lw_at lw_m5 46 rfl
theorem q1201 : (Jvm.Cond.fieldLinkNest "CsrCalculator$Evaluator" (23 : Nat) "CsrCalculator$Unit" "size" "I" "CsrCalculator") ∈ lw_tbl := lw_at lw_m5 62 rfl
theorem q1218 : (Jvm.Cond.fieldLinkNest "CsrCalculator$Evaluator" (32 : Nat) "CsrCalculator$Transpose" "inner" "LCsrCalculator$Expr;" "CsrCalculator") ∈ lw_tbl := lw_at lw_m5 79 rfl
theorem q1229 : (Jvm.Cond.fieldLinkNest "CsrCalculator$Evaluator" (74 : Nat) "CsrCalculator$Multiple" "factor" "I" "CsrCalculator") ∈ lw_tbl := lw_at lw_m5 90 rfl
theorem q1231 : (Jvm.Cond.fieldLinkNest "CsrCalculator$Evaluator" (77 : Nat) "CsrCalculator$Multiple" "inner" "LCsrCalculator$Expr;" "CsrCalculator") ∈ lw_tbl := lw_at lw_m5 92 rfl
theorem q1269 : (Jvm.Cond.selects "CsrCalculator$Evaluator" ({ cls := "java/lang/Object", name := "getClass", desc := "()Ljava/lang/Class;" } : Jvm.MethodName) ({ cls := "java/lang/Object", name := "getClass", desc := "()Ljava/lang/Class;" } : Jvm.MethodName)) ∈ lw_all := lw_g (lw_at lw_m5 130 rfl) rfl
theorem q1322 : (Jvm.Cond.instantiable "CsrCalculator$Evaluator" (2 : Nat)) ∈ lw_all := lw_g (lw_at lw_m5 183 rfl) rfl
theorem q1324 : (Jvm.Cond.instanceMethod ({ cls := "CsrCalculator$Evaluator", name := "<init>", desc := "([LCsrCalculator$Csr;)V" } : Jvm.MethodName)) ∈ lw_all := lw_g (lw_at lw_m5 185 rfl) rfl
theorem q1325 : (Jvm.Cond.code ({ cls := "CsrCalculator$Evaluator", name := "<init>", desc := "([LCsrCalculator$Csr;)V" } : Jvm.MethodName) prog_5_method_1_code (2 : Nat) (Option.none : Option Jvm.ClassFile.FieldType)) ∈ lw_all := lw_g (lw_at lw_m5 186 rfl) rfl
theorem q1326 : (Jvm.Cond.methodLink "CsrCalculator$Evaluator" (3 : Nat) ({ cls := "java/lang/Object", name := "<init>", desc := "()V" } : Jvm.MethodName)) ∈ lw_all := lw_g (lw_at lw_m5 187 rfl) rfl
theorem q1327 : (Jvm.Cond.fieldLink "CsrCalculator$Evaluator" (9 : Nat) "CsrCalculator$Evaluator" "registers" "[LCsrCalculator$Csr;") ∈ lw_all := lw_g (lw_at lw_m5 188 rfl) rfl
theorem q1329 : (Jvm.Cond.fieldLink "CsrCalculator$Evaluator" (112 : Nat) "CsrCalculator$Evaluator" "work" "I") ∈ lw_all := lw_g (lw_at lw_m5 190 rfl) rfl
theorem q1330 : (Jvm.Cond.laysFinal "CsrCalculator$Evaluator" "CsrCalculator$Evaluator" "registers" "[LCsrCalculator$Csr;") ∈ lw_all := lw_g (lw_at lw_m5 191 rfl) rfl
theorem q1331 : (Jvm.Cond.soleField "CsrCalculator$Evaluator" "registers") ∈ lw_all := lw_g (lw_at lw_m5 192 rfl) rfl
theorem q1332 : (Jvm.Cond.lays "CsrCalculator$Evaluator" "CsrCalculator$Evaluator" "work" "I") ∈ lw_all := lw_g (lw_at lw_m5 193 rfl) rfl
theorem q1333 : (Jvm.Cond.soleField "CsrCalculator$Evaluator" "work") ∈ lw_all := lw_g (lw_at lw_m5 194 rfl) rfl
theorem q1334 : (Jvm.Cond.superclass "CsrCalculator$Evaluator" "java/lang/Object") ∈ lw_all := lw_g (lw_at lw_m5 195 rfl) rfl
theorem q1336 : (Jvm.Cond.instanceMethod ({ cls := "CsrCalculator$Evaluator", name := "valueOf", desc := "(LCsrCalculator$Expr;)LCsrCalculator$Csr;" } : Jvm.MethodName)) ∈ lw_all := lw_g (lw_at lw_m5 197 rfl) rfl
theorem q1337 : (Jvm.Cond.selects "CsrCalculator$Evaluator" ({ cls := "CsrCalculator$Evaluator", name := "valueOf", desc := "(LCsrCalculator$Expr;)LCsrCalculator$Csr;" } : Jvm.MethodName) ({ cls := "CsrCalculator$Evaluator", name := "valueOf", desc := "(LCsrCalculator$Expr;)LCsrCalculator$Csr;" } : Jvm.MethodName)) ∈ lw_all := lw_g (lw_at lw_m5 198 rfl) rfl
theorem q1338 : (Jvm.Cond.code ({ cls := "CsrCalculator$Evaluator", name := "valueOf", desc := "(LCsrCalculator$Expr;)LCsrCalculator$Csr;" } : Jvm.MethodName) prog_5_method_2_code (3 : Nat) (Option.some (Jvm.ClassFile.FieldType.object "CsrCalculator$Csr"))) ∈ lw_all := lw_g (lw_at lw_m5 199 rfl) rfl
theorem q1339 : (Jvm.Cond.classLink "CsrCalculator$Evaluator" (15 : Nat) "CsrCalculator$Register") ∈ lw_all := lw_g (lw_at lw_m5 200 rfl) rfl
theorem q1340 : (Jvm.Cond.classLink "CsrCalculator$Evaluator" (21 : Nat) "CsrCalculator$Unit") ∈ lw_all := lw_g (lw_at lw_m5 201 rfl) rfl
theorem q1341 : (Jvm.Cond.methodLink "CsrCalculator$Evaluator" (26 : Nat) ({ cls := "CsrCalculator$Evaluator", name := "unit", desc := "(I)LCsrCalculator$Csr;" } : Jvm.MethodName)) ∈ lw_all := lw_g (lw_at lw_m5 202 rfl) rfl
theorem q1342 : (Jvm.Cond.privateMethod ({ cls := "CsrCalculator$Evaluator", name := "unit", desc := "(I)LCsrCalculator$Csr;" } : Jvm.MethodName)) ∈ lw_tbl := lw_at lw_m5 203 rfl
theorem q1343 : (Jvm.Cond.instanceMethod ({ cls := "CsrCalculator$Evaluator", name := "unit", desc := "(I)LCsrCalculator$Csr;" } : Jvm.MethodName)) ∈ lw_all := lw_g (lw_at lw_m5 204 rfl) rfl
theorem q1344 : (Jvm.Cond.code ({ cls := "CsrCalculator$Evaluator", name := "unit", desc := "(I)LCsrCalculator$Csr;" } : Jvm.MethodName) prog_5_method_3_code (2 : Nat) (Option.some (Jvm.ClassFile.FieldType.object "CsrCalculator$Csr"))) ∈ lw_all := lw_g (lw_at lw_m5 205 rfl) rfl
theorem q1345 : (Jvm.Cond.constantLong "CsrCalculator$Evaluator" (67 : Nat) (12 : Int64)) ∈ lw_all := lw_g (lw_at lw_m5 206 rfl) rfl
theorem q1346 : (Jvm.Cond.methodLinkNest "CsrCalculator$Evaluator" (69 : Nat) ({ cls := "CsrCalculator", name := "isIn", desc := "(JJJ)Z" } : Jvm.MethodName) "CsrCalculator") ∈ lw_tbl := lw_at lw_m5 207 rfl
theorem q1347 : (Jvm.Cond.classLink "CsrCalculator$Evaluator" (64 : Nat) "CsrCalculator$Failure") ∈ lw_all := lw_g (lw_at lw_m5 208 rfl) rfl
theorem q1348 : (Jvm.Cond.methodLink "CsrCalculator$Evaluator" (66 : Nat) ({ cls := "CsrCalculator$Failure", name := "<init>", desc := "()V" } : Jvm.MethodName)) ∈ lw_all := lw_g (lw_at lw_m5 209 rfl) rfl
theorem q1349 : (Jvm.Cond.methodLink "CsrCalculator$Evaluator" (73 : Nat) ({ cls := "CsrCalculator$Csr", name := "unit", desc := "(I)LCsrCalculator$Csr;" } : Jvm.MethodName)) ∈ lw_all := lw_g (lw_at lw_m5 210 rfl) rfl
theorem q1356 : (Jvm.Cond.classLink "CsrCalculator$Evaluator" (30 : Nat) "CsrCalculator$Transpose") ∈ lw_all := lw_g (lw_at lw_m5 217 rfl) rfl
theorem q1357 : (Jvm.Cond.methodLink "CsrCalculator$Evaluator" (36 : Nat) ({ cls := "CsrCalculator$Evaluator", name := "valueOf", desc := "(LCsrCalculator$Expr;)LCsrCalculator$Csr;" } : Jvm.MethodName)) ∈ lw_all := lw_g (lw_at lw_m5 218 rfl) rfl
theorem q1358 : (Jvm.Cond.methodLink "CsrCalculator$Evaluator" (40 : Nat) ({ cls := "CsrCalculator$Csr", name := "transposed", desc := "()LCsrCalculator$Csr;" } : Jvm.MethodName)) ∈ lw_all := lw_g (lw_at lw_m5 219 rfl) rfl
theorem q1359 : (Jvm.Cond.classLink "CsrCalculator$Evaluator" (46 : Nat) "CsrCalculator$Multiple") ∈ lw_all := lw_g (lw_at lw_m5 220 rfl) rfl
theorem q1360 : (Jvm.Cond.methodLink "CsrCalculator$Evaluator" (48 : Nat) ({ cls := "CsrCalculator$Evaluator", name := "multiple", desc := "(LCsrCalculator$Multiple;)LCsrCalculator$Csr;" } : Jvm.MethodName)) ∈ lw_all := lw_g (lw_at lw_m5 221 rfl) rfl
theorem q1361 : (Jvm.Cond.privateMethod ({ cls := "CsrCalculator$Evaluator", name := "multiple", desc := "(LCsrCalculator$Multiple;)LCsrCalculator$Csr;" } : Jvm.MethodName)) ∈ lw_tbl := lw_at lw_m5 222 rfl
theorem q1362 : (Jvm.Cond.instanceMethod ({ cls := "CsrCalculator$Evaluator", name := "multiple", desc := "(LCsrCalculator$Multiple;)LCsrCalculator$Csr;" } : Jvm.MethodName)) ∈ lw_all := lw_g (lw_at lw_m5 223 rfl) rfl
theorem q1363 : (Jvm.Cond.code ({ cls := "CsrCalculator$Evaluator", name := "multiple", desc := "(LCsrCalculator$Multiple;)LCsrCalculator$Csr;" } : Jvm.MethodName) prog_5_method_4_code (2 : Nat) (Option.some (Jvm.ClassFile.FieldType.object "CsrCalculator$Csr"))) ∈ lw_all := lw_g (lw_at lw_m5 224 rfl) rfl
theorem q1364 : (Jvm.Cond.methodLink "CsrCalculator$Evaluator" (78 : Nat) ({ cls := "CsrCalculator$Csr", name := "scaled", desc := "(I)LCsrCalculator$Csr;" } : Jvm.MethodName)) ∈ lw_all := lw_g (lw_at lw_m5 225 rfl) rfl
theorem q1374 : (Jvm.Cond.classLink "CsrCalculator$Evaluator" (52 : Nat) "CsrCalculator$Sum") ∈ lw_all := lw_g (lw_at lw_m5 235 rfl) rfl
theorem q1375 : (Jvm.Cond.methodLink "CsrCalculator$Evaluator" (54 : Nat) ({ cls := "CsrCalculator$Evaluator", name := "sum", desc := "(LCsrCalculator$Sum;)LCsrCalculator$Csr;" } : Jvm.MethodName)) ∈ lw_all := lw_g (lw_at lw_m5 236 rfl) rfl
theorem q1376 : (Jvm.Cond.privateMethod ({ cls := "CsrCalculator$Evaluator", name := "sum", desc := "(LCsrCalculator$Sum;)LCsrCalculator$Csr;" } : Jvm.MethodName)) ∈ lw_tbl := lw_at lw_m5 237 rfl
theorem q1377 : (Jvm.Cond.instanceMethod ({ cls := "CsrCalculator$Evaluator", name := "sum", desc := "(LCsrCalculator$Sum;)LCsrCalculator$Csr;" } : Jvm.MethodName)) ∈ lw_all := lw_g (lw_at lw_m5 238 rfl) rfl
theorem q1378 : (Jvm.Cond.code ({ cls := "CsrCalculator$Evaluator", name := "sum", desc := "(LCsrCalculator$Sum;)LCsrCalculator$Csr;" } : Jvm.MethodName) prog_5_method_5_code (4 : Nat) (Option.some (Jvm.ClassFile.FieldType.object "CsrCalculator$Csr"))) ∈ lw_all := lw_g (lw_at lw_m5 239 rfl) rfl
theorem q1379 : (Jvm.Cond.interfaceEntry "CsrCalculator$Evaluator" (85 : Nat)) ∈ lw_tbl := lw_at lw_m6 0 rfl
theorem q1380 : (Jvm.Cond.methodLink "CsrCalculator$Evaluator" (85 : Nat) ({ cls := "java/util/List", name := "get", desc := "(I)Ljava/lang/Object;" } : Jvm.MethodName)) ∈ lw_all := lw_g (lw_at lw_m6 1 rfl) rfl
theorem q1396 : (Jvm.Cond.classLink "CsrCalculator$Evaluator" (91 : Nat) "CsrCalculator$Expr") ∈ lw_all := lw_g (lw_at lw_m6 17 rfl) rfl
theorem q1397 : (Jvm.Cond.interfaceEntry "CsrCalculator$Evaluator" (93 : Nat)) ∈ lw_tbl := lw_at lw_m6 18 rfl
theorem q1398 : (Jvm.Cond.methodLink "CsrCalculator$Evaluator" (93 : Nat) ({ cls := "java/util/List", name := "size", desc := "()I" } : Jvm.MethodName)) ∈ lw_all := lw_g (lw_at lw_m6 19 rfl) rfl
theorem q1406 : (Jvm.Cond.classLink "CsrCalculator$Evaluator" (99 : Nat) "CsrCalculator$Join") ∈ lw_all := lw_g (lw_at lw_m6 27 rfl) rfl
theorem q1407 : (Jvm.Cond.methodLink "CsrCalculator$Evaluator" (101 : Nat) ({ cls := "CsrCalculator$Csr", name := "joined", desc := "(LCsrCalculator$Join;LCsrCalculator$Csr;)LCsrCalculator$Csr;" } : Jvm.MethodName)) ∈ lw_all := lw_g (lw_at lw_m6 28 rfl) rfl
theorem q1426 : (Jvm.Cond.classLink "CsrCalculator$Evaluator" (58 : Nat) "CsrCalculator$Product") ∈ lw_all := lw_g (lw_at lw_m6 47 rfl) rfl
theorem q1427 : (Jvm.Cond.methodLink "CsrCalculator$Evaluator" (60 : Nat) ({ cls := "CsrCalculator$Evaluator", name := "product", desc := "(LCsrCalculator$Product;)LCsrCalculator$Csr;" } : Jvm.MethodName)) ∈ lw_all := lw_g (lw_at lw_m6 48 rfl) rfl
theorem q1428 : (Jvm.Cond.privateMethod ({ cls := "CsrCalculator$Evaluator", name := "product", desc := "(LCsrCalculator$Product;)LCsrCalculator$Csr;" } : Jvm.MethodName)) ∈ lw_tbl := lw_at lw_m6 49 rfl
theorem q1429 : (Jvm.Cond.instanceMethod ({ cls := "CsrCalculator$Evaluator", name := "product", desc := "(LCsrCalculator$Product;)LCsrCalculator$Csr;" } : Jvm.MethodName)) ∈ lw_all := lw_g (lw_at lw_m6 50 rfl) rfl
theorem q1430 : (Jvm.Cond.code ({ cls := "CsrCalculator$Evaluator", name := "product", desc := "(LCsrCalculator$Product;)LCsrCalculator$Csr;" } : Jvm.MethodName) prog_5_method_6_code (6 : Nat) (Option.some (Jvm.ClassFile.FieldType.object "CsrCalculator$Csr"))) ∈ lw_all := lw_g (lw_at lw_m6 51 rfl) rfl
theorem q1431 : (Jvm.Cond.methodLink "CsrCalculator$Evaluator" (108 : Nat) ({ cls := "CsrCalculator$Csr", name := "times", desc := "(LCsrCalculator$Csr;)LCsrCalculator$Csr;" } : Jvm.MethodName)) ∈ lw_all := lw_g (lw_at lw_m6 52 rfl) rfl
theorem q1432 : (Jvm.Cond.methodLink "CsrCalculator$Evaluator" (115 : Nat) ({ cls := "CsrCalculator$Csr", name := "workWith", desc := "(LCsrCalculator$Csr;)I" } : Jvm.MethodName)) ∈ lw_all := lw_g (lw_at lw_m6 53 rfl) rfl
theorem q3066 : (Jvm.Cond.castable "CsrCalculator$Evaluator" "java/lang/Object") ∈ lw_tbl := lw_at lw_m13 7 rfl
theorem in_X15 : ∀ w ∈ wsX150, w ∈ lw_all := lw_in wsX150 [1330, 1332] (by decide +kernel) (by decide +kernel)

/-! CsrCalculator$Command -/
set_option maxRecDepth 100000
def RX16 : String := "CsrCalculator$Command"
def TX16 : u_T := fun k => match k with
  | 0 => ("CsrCalculator$Command", "what", "Ljava/lang/String;", true)
  | 1 => ("CsrCalculator$Command", "numbers", "[I", true)
  | 2 => ("CsrCalculator$Command", "inner", "Ljava/util/List;", true)
  | _ => ("CsrCalculator$Command", "expression", "LCsrCalculator$Expr;", false)
def tyX16 : Nat → FieldType := fun k => match k with
  | 0 => .object "java/lang/String"
  | 1 => .array .int
  | 2 => .object "java/util/List"
  | _ => .object "CsrCalculator$Expr"
abbrev wsX160 : List Cond := u_ws RX16 TX16 4
theorem nmX16 : ∀ a, a < 4 → ∀ b, b < 4 → a ≠ b → (TX16 a).2.1 ≠ (TX16 b).2.1 := by decide +kernel
theorem tyX16_ok : ∀ k, k < 4 → parseFieldDescriptor (TX16 k).2.2.1 = some (tyX16 k) := by decide +kernel
abbrev cX16_init : ByteArray := prog_3_method_1_code
def yX16_init : MethodName := ⟨RX16, "<init>", "(Ljava/lang/String;[I)V"⟩
def dkwX16_init_1 : List UInt8 := [181, 0, 20, 177]
abbrev dktX16_init_1 : List UInt8 := dkwX16_init_1 ++ []
def dkwX16_init_0 : List UInt8 := [42, 183, 0, 1, 42, 187, 0, 7, 89, 183, 0, 9, 181, 0, 10, 42, 43, 181, 0, 16, 42, 44]
abbrev dktX16_init_0 : List UInt8 := dkwX16_init_0 ++ dktX16_init_1
theorem dksX16_init_0 : cX16_init.data.toList.drop 0 = dktX16_init_0 := by decide +kernel
theorem dksX16_init_1 : cX16_init.data.toList.drop 22 = dktX16_init_1 := dk_seg dksX16_init_0 22 rfl rfl
theorem dX16_init_0 : decode cX16_init 0 = .ok (.aload_n 0, 1) := dk_42 (dk_at dksX16_init_0 0 rfl rfl)
theorem dX16_init_1 : decode cX16_init 1 = .ok (.invokespecial 1, 3) := dk_183 0 1 (dk_at dksX16_init_0 1 rfl rfl)
theorem dX16_init_4 : decode cX16_init 4 = .ok (.aload_n 0, 1) := dk_42 (dk_at dksX16_init_0 4 rfl rfl)
theorem dX16_init_5 : decode cX16_init 5 = .ok (.new 7, 3) := dk_187 0 7 (dk_at dksX16_init_0 5 rfl rfl)
theorem dX16_init_8 : decode cX16_init 8 = .ok (.dup, 1) := dk_89 (dk_at dksX16_init_0 8 rfl rfl)
theorem dX16_init_9 : decode cX16_init 9 = .ok (.invokespecial 9, 3) := dk_183 0 9 (dk_at dksX16_init_0 9 rfl rfl)
theorem dX16_init_12 : decode cX16_init 12 = .ok (.putfield 10, 3) := dk_181 0 10 (dk_at dksX16_init_0 12 rfl rfl)
theorem dX16_init_15 : decode cX16_init 15 = .ok (.aload_n 0, 1) := dk_42 (dk_at dksX16_init_0 15 rfl rfl)
theorem dX16_init_16 : decode cX16_init 16 = .ok (.aload_n 1, 1) := dk_43 (dk_at dksX16_init_0 16 rfl rfl)
theorem dX16_init_17 : decode cX16_init 17 = .ok (.putfield 16, 3) := dk_181 0 16 (dk_at dksX16_init_0 17 rfl rfl)
theorem dX16_init_20 : decode cX16_init 20 = .ok (.aload_n 0, 1) := dk_42 (dk_at dksX16_init_0 20 rfl rfl)
theorem dX16_init_21 : decode cX16_init 21 = .ok (.aload_n 2, 1) := dk_44 (dk_at dksX16_init_0 21 rfl rfl)
theorem dX16_init_22 : decode cX16_init 22 = .ok (.putfield 20, 3) := dk_181 0 20 (dk_at dksX16_init_1 0 rfl rfl)
theorem dX16_init_25 : decode cX16_init 25 = .ok (.return_, 1) := dk_177 (dk_at dksX16_init_1 3 rfl rfl)
theorem q218 : (Jvm.Cond.initialized "CsrCalculator$Command") ∈ lw_all := lw_g (lw_at lw_m1 39 rfl) rfl
theorem q1267 : (Jvm.Cond.selects "CsrCalculator$Command" ({ cls := "java/lang/Object", name := "getClass", desc := "()Ljava/lang/Class;" } : Jvm.MethodName) ({ cls := "java/lang/Object", name := "getClass", desc := "()Ljava/lang/Class;" } : Jvm.MethodName)) ∈ lw_all := lw_g (lw_at lw_m5 128 rfl) rfl
theorem q1474 : (Jvm.Cond.instantiable "CsrCalculator$Command" (4 : Nat)) ∈ lw_all := lw_g (lw_at lw_m6 95 rfl) rfl
theorem q1477 : (Jvm.Cond.instanceMethod ({ cls := "CsrCalculator$Command", name := "<init>", desc := "(Ljava/lang/String;[I)V" } : Jvm.MethodName)) ∈ lw_all := lw_g (lw_at lw_m6 98 rfl) rfl
theorem q1478 : (Jvm.Cond.code ({ cls := "CsrCalculator$Command", name := "<init>", desc := "(Ljava/lang/String;[I)V" } : Jvm.MethodName) prog_3_method_1_code (3 : Nat) (Option.none : Option Jvm.ClassFile.FieldType)) ∈ lw_all := lw_g (lw_at lw_m6 99 rfl) rfl
theorem q1479 : (Jvm.Cond.methodLink "CsrCalculator$Command" (1 : Nat) ({ cls := "java/lang/Object", name := "<init>", desc := "()V" } : Jvm.MethodName)) ∈ lw_all := lw_g (lw_at lw_m6 100 rfl) rfl
theorem q1480 : (Jvm.Cond.classLink "CsrCalculator$Command" (7 : Nat) "java/util/ArrayList") ∈ lw_all := lw_g (lw_at lw_m6 101 rfl) rfl
theorem q1481 : (Jvm.Cond.methodLink "CsrCalculator$Command" (9 : Nat) ({ cls := "java/util/ArrayList", name := "<init>", desc := "()V" } : Jvm.MethodName)) ∈ lw_all := lw_g (lw_at lw_m6 102 rfl) rfl
theorem q1482 : (Jvm.Cond.fieldLink "CsrCalculator$Command" (16 : Nat) "CsrCalculator$Command" "what" "Ljava/lang/String;") ∈ lw_all := lw_g (lw_at lw_m6 103 rfl) rfl
theorem q1484 : (Jvm.Cond.fieldLink "CsrCalculator$Command" (20 : Nat) "CsrCalculator$Command" "numbers" "[I") ∈ lw_all := lw_g (lw_at lw_m6 105 rfl) rfl
theorem q1486 : (Jvm.Cond.fieldLink "CsrCalculator$Command" (10 : Nat) "CsrCalculator$Command" "inner" "Ljava/util/List;") ∈ lw_all := lw_g (lw_at lw_m6 107 rfl) rfl
theorem q1491 : (Jvm.Cond.laysFinal "CsrCalculator$Command" "CsrCalculator$Command" "what" "Ljava/lang/String;") ∈ lw_all := lw_g (lw_at lw_m6 112 rfl) rfl
theorem q1492 : (Jvm.Cond.soleField "CsrCalculator$Command" "what") ∈ lw_all := lw_g (lw_at lw_m6 113 rfl) rfl
theorem q1493 : (Jvm.Cond.laysFinal "CsrCalculator$Command" "CsrCalculator$Command" "numbers" "[I") ∈ lw_all := lw_g (lw_at lw_m6 114 rfl) rfl
theorem q1494 : (Jvm.Cond.soleField "CsrCalculator$Command" "numbers") ∈ lw_all := lw_g (lw_at lw_m6 115 rfl) rfl
theorem q1495 : (Jvm.Cond.laysFinal "CsrCalculator$Command" "CsrCalculator$Command" "inner" "Ljava/util/List;") ∈ lw_all := lw_g (lw_at lw_m6 116 rfl) rfl
theorem q1496 : (Jvm.Cond.soleField "CsrCalculator$Command" "inner") ∈ lw_all := lw_g (lw_at lw_m6 117 rfl) rfl
theorem q1497 : (Jvm.Cond.lays "CsrCalculator$Command" "CsrCalculator$Command" "expression" "LCsrCalculator$Expr;") ∈ lw_all := lw_g (lw_at lw_m6 118 rfl) rfl
theorem q1498 : (Jvm.Cond.soleField "CsrCalculator$Command" "expression") ∈ lw_all := lw_g (lw_at lw_m6 119 rfl) rfl
theorem q1499 : (Jvm.Cond.superclass "CsrCalculator$Command" "java/lang/Object") ∈ lw_all := lw_g (lw_at lw_m6 120 rfl) rfl
theorem q3067 : (Jvm.Cond.castable "CsrCalculator$Command" "java/lang/Object") ∈ lw_tbl := lw_at lw_m13 8 rfl
theorem in_X16 : ∀ w ∈ wsX160, w ∈ lw_all := lw_in wsX160 [1491, 1493, 1495, 1497] (by decide +kernel) (by decide +kernel)

/-! CsrCalculator$Join$1 -/
set_option maxRecDepth 100000
def RX17 : String := "CsrCalculator$Join$1"
abbrev cX17_of : ByteArray := prog_9_method_2_code
def yX17_of : MethodName := ⟨RX17, "of", "(JJ)J"⟩
def dkwX17_of_0 : List UInt8 := [31, 33, 97, 173]
abbrev dktX17_of_0 : List UInt8 := dkwX17_of_0 ++ []
theorem dksX17_of_0 : cX17_of.data.toList.drop 0 = dktX17_of_0 := by decide +kernel
theorem dX17_of_0 : decode cX17_of 0 = .ok (.lload_n 1, 1) := dk_31 (dk_at dksX17_of_0 0 rfl rfl)
theorem dX17_of_1 : decode cX17_of 1 = .ok (.lload_n 3, 1) := dk_33 (dk_at dksX17_of_0 1 rfl rfl)
theorem dX17_of_2 : decode cX17_of 2 = .ok (.ladd, 1) := dk_97 (dk_at dksX17_of_0 2 rfl rfl)
theorem dX17_of_3 : decode cX17_of 3 = .ok (.lreturn, 1) := dk_173 (dk_at dksX17_of_0 3 rfl rfl)
theorem q1271 : (Jvm.Cond.selects "CsrCalculator$Join$1" ({ cls := "java/lang/Object", name := "getClass", desc := "()Ljava/lang/Class;" } : Jvm.MethodName) ({ cls := "java/lang/Object", name := "getClass", desc := "()Ljava/lang/Class;" } : Jvm.MethodName)) ∈ lw_all := lw_g (lw_at lw_m5 132 rfl) rfl
theorem q1420 : (Jvm.Cond.selects "CsrCalculator$Join$1" ({ cls := "CsrCalculator$Join", name := "of", desc := "(JJ)J" } : Jvm.MethodName) ({ cls := "CsrCalculator$Join$1", name := "of", desc := "(JJ)J" } : Jvm.MethodName)) ∈ lw_all := lw_g (lw_at lw_m6 41 rfl) rfl
theorem q1421 : (Jvm.Cond.instanceMethod ({ cls := "CsrCalculator$Join$1", name := "of", desc := "(JJ)J" } : Jvm.MethodName)) ∈ lw_all := lw_g (lw_at lw_m6 42 rfl) rfl
theorem q1422 : (Jvm.Cond.code ({ cls := "CsrCalculator$Join$1", name := "of", desc := "(JJ)J" } : Jvm.MethodName) prog_9_method_2_code (5 : Nat) (Option.some Jvm.ClassFile.FieldType.long)) ∈ lw_all := lw_g (lw_at lw_m6 43 rfl) rfl
theorem q3041 : (Jvm.Cond.castable "CsrCalculator$Join$1" "CsrCalculator$Join") ∈ lw_tbl := lw_at lw_m12 222 rfl
theorem q3064 : (Jvm.Cond.castable "CsrCalculator$Join$1" "java/lang/Object") ∈ lw_tbl := lw_at lw_m13 5 rfl

/-! CsrCalculator$Join$2 -/
set_option maxRecDepth 100000
def RX18 : String := "CsrCalculator$Join$2"
abbrev cX18_of : ByteArray := prog_10_method_2_code
def yX18_of : MethodName := ⟨RX18, "of", "(JJ)J"⟩
def dkwX18_of_0 : List UInt8 := [31, 33, 101, 173]
abbrev dktX18_of_0 : List UInt8 := dkwX18_of_0 ++ []
theorem dksX18_of_0 : cX18_of.data.toList.drop 0 = dktX18_of_0 := by decide +kernel
theorem dX18_of_0 : decode cX18_of 0 = .ok (.lload_n 1, 1) := dk_31 (dk_at dksX18_of_0 0 rfl rfl)
theorem dX18_of_1 : decode cX18_of 1 = .ok (.lload_n 3, 1) := dk_33 (dk_at dksX18_of_0 1 rfl rfl)
theorem dX18_of_2 : decode cX18_of 2 = .ok (.lsub, 1) := dk_101 (dk_at dksX18_of_0 2 rfl rfl)
theorem dX18_of_3 : decode cX18_of 3 = .ok (.lreturn, 1) := dk_173 (dk_at dksX18_of_0 3 rfl rfl)
theorem q1272 : (Jvm.Cond.selects "CsrCalculator$Join$2" ({ cls := "java/lang/Object", name := "getClass", desc := "()Ljava/lang/Class;" } : Jvm.MethodName) ({ cls := "java/lang/Object", name := "getClass", desc := "()Ljava/lang/Class;" } : Jvm.MethodName)) ∈ lw_all := lw_g (lw_at lw_m5 133 rfl) rfl
theorem q1423 : (Jvm.Cond.selects "CsrCalculator$Join$2" ({ cls := "CsrCalculator$Join", name := "of", desc := "(JJ)J" } : Jvm.MethodName) ({ cls := "CsrCalculator$Join$2", name := "of", desc := "(JJ)J" } : Jvm.MethodName)) ∈ lw_all := lw_g (lw_at lw_m6 44 rfl) rfl
theorem q1424 : (Jvm.Cond.instanceMethod ({ cls := "CsrCalculator$Join$2", name := "of", desc := "(JJ)J" } : Jvm.MethodName)) ∈ lw_all := lw_g (lw_at lw_m6 45 rfl) rfl
theorem q1425 : (Jvm.Cond.code ({ cls := "CsrCalculator$Join$2", name := "of", desc := "(JJ)J" } : Jvm.MethodName) prog_10_method_2_code (5 : Nat) (Option.some Jvm.ClassFile.FieldType.long)) ∈ lw_all := lw_g (lw_at lw_m6 46 rfl) rfl
theorem q3042 : (Jvm.Cond.castable "CsrCalculator$Join$2" "CsrCalculator$Join") ∈ lw_tbl := lw_at lw_m12 223 rfl
theorem q3065 : (Jvm.Cond.castable "CsrCalculator$Join$2" "java/lang/Object") ∈ lw_tbl := lw_at lw_m13 6 rfl

theorem q421 : (Jvm.Cond.interfaceMethod "CsrCalculator$Cell" "CsrCalculator$Cell" "value" "(II)J") ∈ lw_tbl := lw_at lw_m2 2 rfl
set_option maxRecDepth 100000
theorem q422 : (Jvm.Cond.declares ({ cls := "CsrCalculator$Cell", name := "value", desc := "(II)J" } : Jvm.MethodName)) ∈ lw_tbl := lw_at lw_m2 3 rfl

theorem q417 : (Jvm.Cond.interfaceMethod "CsrCalculator$Mask" "CsrCalculator$Mask" "stores" "(II)Z") ∈ lw_tbl := lw_at lw_m1 238 rfl
set_option maxRecDepth 100000
theorem q418 : (Jvm.Cond.declares ({ cls := "CsrCalculator$Mask", name := "stores", desc := "(II)Z" } : Jvm.MethodName)) ∈ lw_tbl := lw_at lw_m1 239 rfl

theorem q1615 : (Jvm.Cond.interfaceMethod "CsrCalculator$Operation" "CsrCalculator$Operation" "result" "()LCsrCalculator$Csr;") ∈ lw_tbl := lw_at lw_m6 236 rfl
set_option maxRecDepth 100000
theorem q1616 : (Jvm.Cond.declares ({ cls := "CsrCalculator$Operation", name := "result", desc := "()LCsrCalculator$Csr;" } : Jvm.MethodName)) ∈ lw_tbl := lw_at lw_m6 237 rfl

theorem q734 : (Jvm.Cond.sameMethod "[B" "java/lang/Object" "clone" "()Ljava/lang/Object;") ∈ lw_all := lw_g (lw_at lw_m3 75 rfl) rfl
set_option maxRecDepth 100000
theorem q737 : (Jvm.Cond.selects "[B" ({ cls := "[B", name := "clone", desc := "()Ljava/lang/Object;" } : Jvm.MethodName) ({ cls := "java/lang/Object", name := "clone", desc := "()Ljava/lang/Object;" } : Jvm.MethodName)) ∈ lw_all := lw_g (lw_at lw_m3 78 rfl) rfl
theorem q738 : (Jvm.Cond.castable "[B" "java/lang/Cloneable") ∈ lw_tbl := lw_at lw_m3 79 rfl
theorem q3076 : (Jvm.Cond.castable "[B" "java/lang/Object") ∈ lw_tbl := lw_at lw_m13 17 rfl

theorem q3081 : (Jvm.Cond.castable "[D" "java/lang/Object") ∈ lw_tbl := lw_at lw_m13 22 rfl
set_option maxRecDepth 100000

theorem q3077 : (Jvm.Cond.castable "[I" "java/lang/Object") ∈ lw_tbl := lw_at lw_m13 18 rfl
set_option maxRecDepth 100000

theorem q3080 : (Jvm.Cond.castable "[J" "java/lang/Object") ∈ lw_tbl := lw_at lw_m13 21 rfl
set_option maxRecDepth 100000

theorem q3075 : (Jvm.Cond.castable "[LCsrCalculator$Csr;" "java/lang/Object") ∈ lw_tbl := lw_at lw_m13 16 rfl
set_option maxRecDepth 100000

theorem q1311 : (Jvm.Cond.sameMethod "[LCsrCalculator$Join;" "java/lang/Object" "clone" "()Ljava/lang/Object;") ∈ lw_all := lw_g (lw_at lw_m5 172 rfl) rfl
set_option maxRecDepth 100000
theorem q1312 : (Jvm.Cond.selects "[LCsrCalculator$Join;" ({ cls := "[LCsrCalculator$Join;", name := "clone", desc := "()Ljava/lang/Object;" } : Jvm.MethodName) ({ cls := "java/lang/Object", name := "clone", desc := "()Ljava/lang/Object;" } : Jvm.MethodName)) ∈ lw_all := lw_g (lw_at lw_m5 173 rfl) rfl
theorem q1313 : (Jvm.Cond.castable "[LCsrCalculator$Join;" "java/lang/Cloneable") ∈ lw_tbl := lw_at lw_m5 174 rfl
theorem q3079 : (Jvm.Cond.castable "[LCsrCalculator$Join;" "java/lang/Object") ∈ lw_tbl := lw_at lw_m13 20 rfl

theorem q3072 : (Jvm.Cond.sameMethod "[Ljava/lang/Object;" "java/lang/Object" "getClass" "()Ljava/lang/Class;") ∈ lw_all := lw_g (lw_at lw_m13 13 rfl) rfl
set_option maxRecDepth 100000
theorem q3073 : (Jvm.Cond.selects "[Ljava/lang/Object;" ({ cls := "java/lang/Object", name := "getClass", desc := "()Ljava/lang/Class;" } : Jvm.MethodName) ({ cls := "java/lang/Object", name := "getClass", desc := "()Ljava/lang/Class;" } : Jvm.MethodName)) ∈ lw_all := lw_g (lw_at lw_m13 14 rfl) rfl
theorem q3078 : (Jvm.Cond.castable "[Ljava/lang/Object;" "java/lang/Object") ∈ lw_tbl := lw_at lw_m13 19 rfl

theorem q214 : (Jvm.Cond.initialized "java/lang/Enum") ∈ lw_all := lw_g (lw_at lw_m1 35 rfl) rfl
set_option maxRecDepth 100000

theorem q202 : (Jvm.Cond.initialized "java/lang/Number") ∈ lw_all := lw_g (lw_at lw_m1 23 rfl) rfl
set_option maxRecDepth 100000

theorem q199 : (Jvm.Cond.initialized "java/lang/System") ∈ lw_all := lw_g (lw_at lw_m1 20 rfl) rfl
set_option maxRecDepth 100000
theorem q498 : (Jvm.Cond.static ({ cls := "java/lang/System", name := "arraycopy", desc := "(Ljava/lang/Object;ILjava/lang/Object;II)V" } : Jvm.MethodName)) ∈ lw_all := lw_g (lw_at lw_m2 79 rfl) rfl
theorem q499 : (Jvm.Cond.native ({ cls := "java/lang/System", name := "arraycopy", desc := "(Ljava/lang/Object;ILjava/lang/Object;II)V" } : Jvm.MethodName)) ∈ lw_all := lw_g (lw_at lw_m2 80 rfl) rfl

theorem q1239 : (Jvm.Cond.interfaceMethod "java/util/List" "java/util/List" "add" "(Ljava/lang/Object;)Z") ∈ lw_tbl := lw_at lw_m5 100 rfl
set_option maxRecDepth 100000
theorem q1240 : (Jvm.Cond.declares ({ cls := "java/util/List", name := "add", desc := "(Ljava/lang/Object;)Z" } : Jvm.MethodName)) ∈ lw_tbl := lw_at lw_m5 101 rfl
theorem q1381 : (Jvm.Cond.interfaceMethod "java/util/List" "java/util/List" "get" "(I)Ljava/lang/Object;") ∈ lw_tbl := lw_at lw_m6 2 rfl
theorem q1382 : (Jvm.Cond.declares ({ cls := "java/util/List", name := "get", desc := "(I)Ljava/lang/Object;" } : Jvm.MethodName)) ∈ lw_tbl := lw_at lw_m6 3 rfl
theorem q1399 : (Jvm.Cond.interfaceMethod "java/util/List" "java/util/List" "size" "()I") ∈ lw_tbl := lw_at lw_m6 20 rfl
theorem q1400 : (Jvm.Cond.declares ({ cls := "java/util/List", name := "size", desc := "()I" } : Jvm.MethodName)) ∈ lw_tbl := lw_at lw_m6 21 rfl

theorem q1017 : (Jvm.Cond.interfaceMethod "jdk/internal/access/JavaLangAccess" "jdk/internal/access/JavaLangAccess" "getUTF16Char" "([BI)C") ∈ lw_tbl := lw_at lw_m4 118 rfl
set_option maxRecDepth 100000
theorem q1018 : (Jvm.Cond.declares ({ cls := "jdk/internal/access/JavaLangAccess", name := "getUTF16Char", desc := "([BI)C" } : Jvm.MethodName)) ∈ lw_tbl := lw_at lw_m4 119 rfl

theorem q237 : (Jvm.Cond.arrayOver (Jvm.ClassFile.FieldType.object "CsrCalculator$Csr")) ∈ lw_tbl := lw_at lw_m1 58 rfl
set_option maxRecDepth 100000
theorem q269 : (Jvm.Cond.arrayClass Jvm.ClassFile.FieldType.byte) ∈ lw_all := lw_g (lw_at lw_m1 90 rfl) rfl
theorem q270 : (Jvm.Cond.arrayClass Jvm.ClassFile.FieldType.int) ∈ lw_all := lw_g (lw_at lw_m1 91 rfl) rfl
theorem q291 : (Jvm.Cond.arrayOver (Jvm.ClassFile.FieldType.object "java/lang/Object")) ∈ lw_tbl := lw_at lw_m1 112 rfl
theorem q1314 : (Jvm.Cond.arrayOver (Jvm.ClassFile.FieldType.object "CsrCalculator$Join")) ∈ lw_tbl := lw_at lw_m5 175 rfl
theorem q3016 : (Jvm.Cond.arrayClass Jvm.ClassFile.FieldType.long) ∈ lw_all := lw_g (lw_at lw_m12 197 rfl) rfl
theorem q3017 : (Jvm.Cond.arrayClass Jvm.ClassFile.FieldType.double) ∈ lw_all := lw_g (lw_at lw_m12 198 rfl) rfl
theorem q3082 : (Jvm.Cond.arrayClass Jvm.ClassFile.FieldType.char) ∈ lw_all := lw_g (lw_at lw_m13 23 rfl) rfl
theorem q3083 : (Jvm.Cond.arrayClass Jvm.ClassFile.FieldType.short) ∈ lw_all := lw_g (lw_at lw_m13 24 rfl) rfl
