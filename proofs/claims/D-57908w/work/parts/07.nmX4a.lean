/-! CsrCalculatorModel -/
set_option maxRecDepth 100000
def RX4 : String := "CsrCalculatorModel"
def TX4 : u_T := fun k => match k with
  | 0 => ("CsrCalculatorModel", "code", "I", false)
  | 1 => ("CsrCalculatorModel", "buffer", "[I", true)
  | 2 => ("CsrCalculatorModel", "filled", "I", false)
  | 3 => ("CsrCalculatorModel", "bytes", "I", false)
  | 4 => ("CsrCalculatorModel", "at", "I", false)
  | 5 => ("CsrCalculatorModel", "place0", "I", false)
  | 6 => ("CsrCalculatorModel", "sort", "I", false)
  | 7 => ("CsrCalculatorModel", "value0", "I", false)
  | 8 => ("CsrCalculatorModel", "error", "I", false)
  | 9 => ("CsrCalculatorModel", "errorPlace", "I", false)
  | 10 => ("CsrCalculatorModel", "toldError", "I", false)
  | 11 => ("CsrCalculatorModel", "toldPlace", "I", false)
  | 12 => ("CsrCalculatorModel", "word", "J", false)
  | 13 => ("CsrCalculatorModel", "s", "[I", true)
  | 14 => ("CsrCalculatorModel", "saved", "[I", true)
  | 15 => ("CsrCalculatorModel", "aside", "[I", true)
  | 16 => ("CsrCalculatorModel", "past", "[I", true)
  | 17 => ("CsrCalculatorModel", "undos", "I", false)
  | 18 => ("CsrCalculatorModel", "hasSaved", "Z", false)
  | 19 => ("CsrCalculatorModel", "stack", "[I", true)
  | 20 => ("CsrCalculatorModel", "result", "[I", true)
  | 21 => ("CsrCalculatorModel", "high", "I", false)
  | 22 => ("CsrCalculatorModel", "workNow", "I", false)
  | 23 => ("CsrCalculatorModel", "step", "[I", true)
  | 24 => ("CsrCalculatorModel", "amount", "[I", true)
  | 25 => ("CsrCalculatorModel", "waiting", "[I", true)
  | 26 => ("CsrCalculatorModel", "waitingAmount", "[I", true)
  | 27 => ("CsrCalculatorModel", "steps", "I", false)
  | 28 => ("CsrCalculatorModel", "waits", "I", false)
  | 29 => ("CsrCalculatorModel", "level", "I", false)
  | 30 => ("CsrCalculatorModel", "atLevel", "I", false)
  | 31 => ("CsrCalculatorModel", "isLoose", "Z", false)
  | 32 => ("CsrCalculatorModel", "lastGood", "Z", false)
  | 33 => ("CsrCalculatorModel", "script", "[I", true)
  | 34 => ("CsrCalculatorModel", "first", "[I", true)
  | 35 => ("CsrCalculatorModel", "second", "[I", true)
  | 36 => ("CsrCalculatorModel", "third", "[I", true)
  | 37 => ("CsrCalculatorModel", "fourth", "[I", true)
  | 38 => ("CsrCalculatorModel", "begun", "[I", true)
  | 39 => ("CsrCalculatorModel", "laps", "[I", true)
  | 40 => ("CsrCalculatorModel", "scripted", "I", false)
  | 41 => ("CsrCalculatorModel", "wordsHad", "I", false)
  | 42 => ("CsrCalculatorModel", "opened", "I", false)
  | 43 => ("CsrCalculatorModel", "lastDone", "I", false)
  | 44 => ("CsrCalculatorModel", "page", "[I", true)
  | _ => ("CsrCalculatorModel", "printed", "I", false)
def tyX4 : Nat → FieldType := fun k => match k with
  | 0 => .int
  | 1 => .array .int
  | 2 => .int
  | 3 => .int
  | 4 => .int
  | 5 => .int
  | 6 => .int
  | 7 => .int
  | 8 => .int
  | 9 => .int
  | 10 => .int
  | 11 => .int
  | 12 => .long
  | 13 => .array .int
  | 14 => .array .int
  | 15 => .array .int
  | 16 => .array .int
  | 17 => .int
  | 18 => .boolean
  | 19 => .array .int
  | 20 => .array .int
  | 21 => .int
  | 22 => .int
  | 23 => .array .int
  | 24 => .array .int
  | 25 => .array .int
  | 26 => .array .int
  | 27 => .int
  | 28 => .int
  | 29 => .int
  | 30 => .int
  | 31 => .boolean
  | 32 => .boolean
  | 33 => .array .int
  | 34 => .array .int
  | 35 => .array .int
  | 36 => .array .int
  | 37 => .array .int
  | 38 => .array .int
  | 39 => .array .int
  | 40 => .int
  | 41 => .int
  | 42 => .int
  | 43 => .int
  | 44 => .array .int
  | _ => .int
abbrev wsX40 : List Cond := u_ws RX4 TX4 46
set_option maxRecDepth 100000 in
theorem nmX4 : ∀ a, a < 46 → ∀ b, b < 46 → a ≠ b → (TX4 a).2.1 ≠ (TX4 b).2.1 := by decide +kernel
set_option maxRecDepth 100000 in
theorem tyX4_ok : ∀ k, k < 46 → parseFieldDescriptor (TX4 k).2.2.1 = some (tyX4 k) := by decide +kernel
abbrev cX4_init : ByteArray := prog_23_method_1_code
def yX4_init : MethodName := ⟨RX4, "<init>", "()V"⟩
def dkwX4_init_7 : List UInt8 := [181, 0, 68, 42, 17, 5, 20, 188, 10, 181, 0, 71, 42, 182, 0, 74, 177]
abbrev dktX4_init_7 : List UInt8 := dkwX4_init_7 ++ []
def dkwX4_init_6 : List UInt8 := [181, 0, 59, 42, 16, 60, 188, 10, 181, 0, 62, 42, 5, 188, 10, 181, 0, 65, 42, 5, 188, 10]
abbrev dktX4_init_6 : List UInt8 := dkwX4_init_6 ++ dktX4_init_7
def dkwX4_init_5 : List UInt8 := [181, 0, 50, 42, 16, 60, 188, 10, 181, 0, 53, 42, 16, 60, 188, 10, 181, 0, 56, 42, 16, 60, 188, 10]
abbrev dktX4_init_5 : List UInt8 := dkwX4_init_5 ++ dktX4_init_6
def dkwX4_init_4 : List UInt8 := [181, 0, 41, 42, 16, 40, 188, 10, 181, 0, 44, 42, 16, 40, 188, 10, 181, 0, 47, 42, 16, 60, 188, 10]
abbrev dktX4_init_4 : List UInt8 := dkwX4_init_4 ++ dktX4_init_5
def dkwX4_init_3 : List UInt8 := [17, 1, 34, 188, 10, 181, 0, 35, 42, 17, 1, 144, 188, 10, 181, 0, 38, 42, 17, 1, 144, 188, 10]
abbrev dktX4_init_3 : List UInt8 := dkwX4_init_3 ++ dktX4_init_4
def dkwX4_init_2 : List UInt8 := [181, 0, 26, 42, 17, 27, 54, 188, 10, 181, 0, 29, 42, 17, 27, 48, 188, 10, 181, 0, 32, 42]
abbrev dktX4_init_2 : List UInt8 := dkwX4_init_2 ++ dktX4_init_3
def dkwX4_init_1 : List UInt8 := [17, 4, 137, 188, 10, 181, 0, 20, 42, 17, 4, 137, 188, 10, 181, 0, 23, 42, 17, 4, 137, 188, 10]
abbrev dktX4_init_1 : List UInt8 := dkwX4_init_1 ++ dktX4_init_2
def dkwX4_init_0 : List UInt8 := [42, 183, 0, 1, 42, 17, 2, 88, 188, 10, 181, 0, 7, 42, 2, 181, 0, 13, 42, 2, 181, 0, 17, 42]
abbrev dktX4_init_0 : List UInt8 := dkwX4_init_0 ++ dktX4_init_1
theorem dksX4_init_0 : cX4_init.data.toList.drop 0 = dktX4_init_0 := by decide +kernel
theorem dksX4_init_1 : cX4_init.data.toList.drop 24 = dktX4_init_1 := dk_seg dksX4_init_0 24 rfl rfl
theorem dksX4_init_2 : cX4_init.data.toList.drop 47 = dktX4_init_2 := dk_seg dksX4_init_1 23 rfl rfl
theorem dksX4_init_3 : cX4_init.data.toList.drop 69 = dktX4_init_3 := dk_seg dksX4_init_2 22 rfl rfl
theorem dksX4_init_4 : cX4_init.data.toList.drop 92 = dktX4_init_4 := dk_seg dksX4_init_3 23 rfl rfl
theorem dksX4_init_5 : cX4_init.data.toList.drop 116 = dktX4_init_5 := dk_seg dksX4_init_4 24 rfl rfl
theorem dksX4_init_6 : cX4_init.data.toList.drop 140 = dktX4_init_6 := dk_seg dksX4_init_5 24 rfl rfl
theorem dksX4_init_7 : cX4_init.data.toList.drop 162 = dktX4_init_7 := dk_seg dksX4_init_6 22 rfl rfl
theorem dX4_init_0 : decode cX4_init 0 = .ok (.aload_n 0, 1) := dk_42 (dk_at dksX4_init_0 0 rfl rfl)
theorem dX4_init_1 : decode cX4_init 1 = .ok (.invokespecial 1, 3) := dk_183 0 1 (dk_at dksX4_init_0 1 rfl rfl)
theorem dX4_init_4 : decode cX4_init 4 = .ok (.aload_n 0, 1) := dk_42 (dk_at dksX4_init_0 4 rfl rfl)
theorem dX4_init_5 : decode cX4_init 5 = .ok (.sipush 600, 3) := dk_17 2 88 (dk_at dksX4_init_0 5 rfl rfl)
theorem dX4_init_8 : decode cX4_init 8 = .ok (.newarray .int, 2) := dk_188_10 (dk_at dksX4_init_0 8 rfl rfl)
theorem dX4_init_10 : decode cX4_init 10 = .ok (.putfield 7, 3) := dk_181 0 7 (dk_at dksX4_init_0 10 rfl rfl)
theorem dX4_init_13 : decode cX4_init 13 = .ok (.aload_n 0, 1) := dk_42 (dk_at dksX4_init_0 13 rfl rfl)
theorem dX4_init_14 : decode cX4_init 14 = .ok (.iconst (-1), 1) := dk_2 (dk_at dksX4_init_0 14 rfl rfl)
theorem dX4_init_15 : decode cX4_init 15 = .ok (.putfield 13, 3) := dk_181 0 13 (dk_at dksX4_init_0 15 rfl rfl)
theorem dX4_init_18 : decode cX4_init 18 = .ok (.aload_n 0, 1) := dk_42 (dk_at dksX4_init_0 18 rfl rfl)
theorem dX4_init_19 : decode cX4_init 19 = .ok (.iconst (-1), 1) := dk_2 (dk_at dksX4_init_0 19 rfl rfl)
theorem dX4_init_20 : decode cX4_init 20 = .ok (.putfield 17, 3) := dk_181 0 17 (dk_at dksX4_init_0 20 rfl rfl)
theorem dX4_init_23 : decode cX4_init 23 = .ok (.aload_n 0, 1) := dk_42 (dk_at dksX4_init_0 23 rfl rfl)
theorem dX4_init_24 : decode cX4_init 24 = .ok (.sipush 1161, 3) := dk_17 4 137 (dk_at dksX4_init_1 0 rfl rfl)
theorem dX4_init_27 : decode cX4_init 27 = .ok (.newarray .int, 2) := dk_188_10 (dk_at dksX4_init_1 3 rfl rfl)
theorem dX4_init_29 : decode cX4_init 29 = .ok (.putfield 20, 3) := dk_181 0 20 (dk_at dksX4_init_1 5 rfl rfl)
theorem dX4_init_32 : decode cX4_init 32 = .ok (.aload_n 0, 1) := dk_42 (dk_at dksX4_init_1 8 rfl rfl)
theorem dX4_init_33 : decode cX4_init 33 = .ok (.sipush 1161, 3) := dk_17 4 137 (dk_at dksX4_init_1 9 rfl rfl)
theorem dX4_init_36 : decode cX4_init 36 = .ok (.newarray .int, 2) := dk_188_10 (dk_at dksX4_init_1 12 rfl rfl)
theorem dX4_init_38 : decode cX4_init 38 = .ok (.putfield 23, 3) := dk_181 0 23 (dk_at dksX4_init_1 14 rfl rfl)
theorem dX4_init_41 : decode cX4_init 41 = .ok (.aload_n 0, 1) := dk_42 (dk_at dksX4_init_1 17 rfl rfl)
theorem dX4_init_42 : decode cX4_init 42 = .ok (.sipush 1161, 3) := dk_17 4 137 (dk_at dksX4_init_1 18 rfl rfl)
theorem dX4_init_45 : decode cX4_init 45 = .ok (.newarray .int, 2) := dk_188_10 (dk_at dksX4_init_1 21 rfl rfl)
theorem dX4_init_47 : decode cX4_init 47 = .ok (.putfield 26, 3) := dk_181 0 26 (dk_at dksX4_init_2 0 rfl rfl)
theorem dX4_init_50 : decode cX4_init 50 = .ok (.aload_n 0, 1) := dk_42 (dk_at dksX4_init_2 3 rfl rfl)
theorem dX4_init_51 : decode cX4_init 51 = .ok (.sipush 6966, 3) := dk_17 27 54 (dk_at dksX4_init_2 4 rfl rfl)
theorem dX4_init_54 : decode cX4_init 54 = .ok (.newarray .int, 2) := dk_188_10 (dk_at dksX4_init_2 7 rfl rfl)
theorem dX4_init_56 : decode cX4_init 56 = .ok (.putfield 29, 3) := dk_181 0 29 (dk_at dksX4_init_2 9 rfl rfl)
theorem dX4_init_59 : decode cX4_init 59 = .ok (.aload_n 0, 1) := dk_42 (dk_at dksX4_init_2 12 rfl rfl)
theorem dX4_init_60 : decode cX4_init 60 = .ok (.sipush 6960, 3) := dk_17 27 48 (dk_at dksX4_init_2 13 rfl rfl)
theorem dX4_init_63 : decode cX4_init 63 = .ok (.newarray .int, 2) := dk_188_10 (dk_at dksX4_init_2 16 rfl rfl)
theorem dX4_init_65 : decode cX4_init 65 = .ok (.putfield 32, 3) := dk_181 0 32 (dk_at dksX4_init_2 18 rfl rfl)
theorem dX4_init_68 : decode cX4_init 68 = .ok (.aload_n 0, 1) := dk_42 (dk_at dksX4_init_2 21 rfl rfl)
theorem dX4_init_69 : decode cX4_init 69 = .ok (.sipush 290, 3) := dk_17 1 34 (dk_at dksX4_init_3 0 rfl rfl)
theorem dX4_init_72 : decode cX4_init 72 = .ok (.newarray .int, 2) := dk_188_10 (dk_at dksX4_init_3 3 rfl rfl)
theorem dX4_init_74 : decode cX4_init 74 = .ok (.putfield 35, 3) := dk_181 0 35 (dk_at dksX4_init_3 5 rfl rfl)
theorem dX4_init_77 : decode cX4_init 77 = .ok (.aload_n 0, 1) := dk_42 (dk_at dksX4_init_3 8 rfl rfl)
theorem dX4_init_78 : decode cX4_init 78 = .ok (.sipush 400, 3) := dk_17 1 144 (dk_at dksX4_init_3 9 rfl rfl)
theorem dX4_init_81 : decode cX4_init 81 = .ok (.newarray .int, 2) := dk_188_10 (dk_at dksX4_init_3 12 rfl rfl)
theorem dX4_init_83 : decode cX4_init 83 = .ok (.putfield 38, 3) := dk_181 0 38 (dk_at dksX4_init_3 14 rfl rfl)
theorem dX4_init_86 : decode cX4_init 86 = .ok (.aload_n 0, 1) := dk_42 (dk_at dksX4_init_3 17 rfl rfl)
theorem dX4_init_87 : decode cX4_init 87 = .ok (.sipush 400, 3) := dk_17 1 144 (dk_at dksX4_init_3 18 rfl rfl)
theorem dX4_init_90 : decode cX4_init 90 = .ok (.newarray .int, 2) := dk_188_10 (dk_at dksX4_init_3 21 rfl rfl)
theorem dX4_init_92 : decode cX4_init 92 = .ok (.putfield 41, 3) := dk_181 0 41 (dk_at dksX4_init_4 0 rfl rfl)
theorem dX4_init_95 : decode cX4_init 95 = .ok (.aload_n 0, 1) := dk_42 (dk_at dksX4_init_4 3 rfl rfl)
theorem dX4_init_96 : decode cX4_init 96 = .ok (.bipush 40, 2) := dk_16 40 (dk_at dksX4_init_4 4 rfl rfl)
theorem dX4_init_98 : decode cX4_init 98 = .ok (.newarray .int, 2) := dk_188_10 (dk_at dksX4_init_4 6 rfl rfl)
theorem dX4_init_100 : decode cX4_init 100 = .ok (.putfield 44, 3) := dk_181 0 44 (dk_at dksX4_init_4 8 rfl rfl)
theorem dX4_init_103 : decode cX4_init 103 = .ok (.aload_n 0, 1) := dk_42 (dk_at dksX4_init_4 11 rfl rfl)
theorem dX4_init_104 : decode cX4_init 104 = .ok (.bipush 40, 2) := dk_16 40 (dk_at dksX4_init_4 12 rfl rfl)
theorem dX4_init_106 : decode cX4_init 106 = .ok (.newarray .int, 2) := dk_188_10 (dk_at dksX4_init_4 14 rfl rfl)
theorem dX4_init_108 : decode cX4_init 108 = .ok (.putfield 47, 3) := dk_181 0 47 (dk_at dksX4_init_4 16 rfl rfl)
theorem dX4_init_111 : decode cX4_init 111 = .ok (.aload_n 0, 1) := dk_42 (dk_at dksX4_init_4 19 rfl rfl)
theorem dX4_init_112 : decode cX4_init 112 = .ok (.bipush 60, 2) := dk_16 60 (dk_at dksX4_init_4 20 rfl rfl)
theorem dX4_init_114 : decode cX4_init 114 = .ok (.newarray .int, 2) := dk_188_10 (dk_at dksX4_init_4 22 rfl rfl)
theorem dX4_init_116 : decode cX4_init 116 = .ok (.putfield 50, 3) := dk_181 0 50 (dk_at dksX4_init_5 0 rfl rfl)
theorem dX4_init_119 : decode cX4_init 119 = .ok (.aload_n 0, 1) := dk_42 (dk_at dksX4_init_5 3 rfl rfl)
theorem dX4_init_120 : decode cX4_init 120 = .ok (.bipush 60, 2) := dk_16 60 (dk_at dksX4_init_5 4 rfl rfl)
theorem dX4_init_122 : decode cX4_init 122 = .ok (.newarray .int, 2) := dk_188_10 (dk_at dksX4_init_5 6 rfl rfl)
theorem dX4_init_124 : decode cX4_init 124 = .ok (.putfield 53, 3) := dk_181 0 53 (dk_at dksX4_init_5 8 rfl rfl)
theorem dX4_init_127 : decode cX4_init 127 = .ok (.aload_n 0, 1) := dk_42 (dk_at dksX4_init_5 11 rfl rfl)
theorem dX4_init_128 : decode cX4_init 128 = .ok (.bipush 60, 2) := dk_16 60 (dk_at dksX4_init_5 12 rfl rfl)
theorem dX4_init_130 : decode cX4_init 130 = .ok (.newarray .int, 2) := dk_188_10 (dk_at dksX4_init_5 14 rfl rfl)
theorem dX4_init_132 : decode cX4_init 132 = .ok (.putfield 56, 3) := dk_181 0 56 (dk_at dksX4_init_5 16 rfl rfl)
theorem dX4_init_135 : decode cX4_init 135 = .ok (.aload_n 0, 1) := dk_42 (dk_at dksX4_init_5 19 rfl rfl)
theorem dX4_init_136 : decode cX4_init 136 = .ok (.bipush 60, 2) := dk_16 60 (dk_at dksX4_init_5 20 rfl rfl)
theorem dX4_init_138 : decode cX4_init 138 = .ok (.newarray .int, 2) := dk_188_10 (dk_at dksX4_init_5 22 rfl rfl)
theorem dX4_init_140 : decode cX4_init 140 = .ok (.putfield 59, 3) := dk_181 0 59 (dk_at dksX4_init_6 0 rfl rfl)
theorem dX4_init_143 : decode cX4_init 143 = .ok (.aload_n 0, 1) := dk_42 (dk_at dksX4_init_6 3 rfl rfl)
theorem dX4_init_144 : decode cX4_init 144 = .ok (.bipush 60, 2) := dk_16 60 (dk_at dksX4_init_6 4 rfl rfl)
theorem dX4_init_146 : decode cX4_init 146 = .ok (.newarray .int, 2) := dk_188_10 (dk_at dksX4_init_6 6 rfl rfl)
theorem dX4_init_148 : decode cX4_init 148 = .ok (.putfield 62, 3) := dk_181 0 62 (dk_at dksX4_init_6 8 rfl rfl)
theorem dX4_init_151 : decode cX4_init 151 = .ok (.aload_n 0, 1) := dk_42 (dk_at dksX4_init_6 11 rfl rfl)
theorem dX4_init_152 : decode cX4_init 152 = .ok (.iconst 2, 1) := dk_5 (dk_at dksX4_init_6 12 rfl rfl)
theorem dX4_init_153 : decode cX4_init 153 = .ok (.newarray .int, 2) := dk_188_10 (dk_at dksX4_init_6 13 rfl rfl)
theorem dX4_init_155 : decode cX4_init 155 = .ok (.putfield 65, 3) := dk_181 0 65 (dk_at dksX4_init_6 15 rfl rfl)
theorem dX4_init_158 : decode cX4_init 158 = .ok (.aload_n 0, 1) := dk_42 (dk_at dksX4_init_6 18 rfl rfl)
theorem dX4_init_159 : decode cX4_init 159 = .ok (.iconst 2, 1) := dk_5 (dk_at dksX4_init_6 19 rfl rfl)
theorem dX4_init_160 : decode cX4_init 160 = .ok (.newarray .int, 2) := dk_188_10 (dk_at dksX4_init_6 20 rfl rfl)
theorem dX4_init_162 : decode cX4_init 162 = .ok (.putfield 68, 3) := dk_181 0 68 (dk_at dksX4_init_7 0 rfl rfl)
theorem dX4_init_165 : decode cX4_init 165 = .ok (.aload_n 0, 1) := dk_42 (dk_at dksX4_init_7 3 rfl rfl)
theorem dX4_init_166 : decode cX4_init 166 = .ok (.sipush 1300, 3) := dk_17 5 20 (dk_at dksX4_init_7 4 rfl rfl)
theorem dX4_init_169 : decode cX4_init 169 = .ok (.newarray .int, 2) := dk_188_10 (dk_at dksX4_init_7 7 rfl rfl)
theorem dX4_init_171 : decode cX4_init 171 = .ok (.putfield 71, 3) := dk_181 0 71 (dk_at dksX4_init_7 9 rfl rfl)
theorem dX4_init_174 : decode cX4_init 174 = .ok (.aload_n 0, 1) := dk_42 (dk_at dksX4_init_7 12 rfl rfl)
theorem dX4_init_175 : decode cX4_init 175 = .ok (.invokevirtual 74, 3) := dk_182 0 74 (dk_at dksX4_init_7 13 rfl rfl)
theorem dX4_init_178 : decode cX4_init 178 = .ok (.return_, 1) := dk_177 (dk_at dksX4_init_7 16 rfl rfl)
abbrev cX4_begins : ByteArray := prog_23_method_29_code
def yX4_begins : MethodName := ⟨RX4, "begins", "()V"⟩
def dkwX4_begins_1 : List UInt8 := [167, 255, 234, 42, 180, 0, 20, 17, 4, 136, 3, 79, 177]
abbrev dktX4_begins_1 : List UInt8 := dkwX4_begins_1 ++ []
def dkwX4_begins_0 : List UInt8 := [3, 60, 27, 7, 162, 0, 23, 42, 180, 0, 20, 17, 1, 34, 27, 104, 6, 6, 184, 0, 156, 132, 1, 1]
abbrev dktX4_begins_0 : List UInt8 := dkwX4_begins_0 ++ dktX4_begins_1
theorem dksX4_begins_0 : cX4_begins.data.toList.drop 0 = dktX4_begins_0 := by decide +kernel
theorem dksX4_begins_1 : cX4_begins.data.toList.drop 24 = dktX4_begins_1 := dk_seg dksX4_begins_0 24 rfl rfl
theorem dX4_begins_0 : decode cX4_begins 0 = .ok (.iconst 0, 1) := dk_3 (dk_at dksX4_begins_0 0 rfl rfl)
theorem dX4_begins_1 : decode cX4_begins 1 = .ok (.istore_n 1, 1) := dk_60 (dk_at dksX4_begins_0 1 rfl rfl)
theorem dX4_begins_2 : decode cX4_begins 2 = .ok (.iload_n 1, 1) := dk_27 (dk_at dksX4_begins_0 2 rfl rfl)
theorem dX4_begins_3 : decode cX4_begins 3 = .ok (.iconst 4, 1) := dk_7 (dk_at dksX4_begins_0 3 rfl rfl)
theorem dX4_begins_4 : decode cX4_begins 4 = .ok (.if_icmp .ge 23, 3) := dk_162 0 23 (dk_at dksX4_begins_0 4 rfl rfl)
theorem dX4_begins_7 : decode cX4_begins 7 = .ok (.aload_n 0, 1) := dk_42 (dk_at dksX4_begins_0 7 rfl rfl)
theorem dX4_begins_8 : decode cX4_begins 8 = .ok (.getfield 20, 3) := dk_180 0 20 (dk_at dksX4_begins_0 8 rfl rfl)
theorem dX4_begins_11 : decode cX4_begins 11 = .ok (.sipush 290, 3) := dk_17 1 34 (dk_at dksX4_begins_0 11 rfl rfl)
theorem dX4_begins_14 : decode cX4_begins 14 = .ok (.iload_n 1, 1) := dk_27 (dk_at dksX4_begins_0 14 rfl rfl)
theorem dX4_begins_15 : decode cX4_begins 15 = .ok (.imul, 1) := dk_104 (dk_at dksX4_begins_0 15 rfl rfl)
theorem dX4_begins_16 : decode cX4_begins 16 = .ok (.iconst 3, 1) := dk_6 (dk_at dksX4_begins_0 16 rfl rfl)
theorem dX4_begins_17 : decode cX4_begins 17 = .ok (.iconst 3, 1) := dk_6 (dk_at dksX4_begins_0 17 rfl rfl)
theorem dX4_begins_18 : decode cX4_begins 18 = .ok (.invokestatic 156, 3) := dk_184 0 156 (dk_at dksX4_begins_0 18 rfl rfl)
theorem dX4_begins_21 : decode cX4_begins 21 = .ok (.iinc 1 1, 3) := dk_132 1 1 (dk_at dksX4_begins_0 21 rfl rfl)
theorem dX4_begins_24 : decode cX4_begins 24 = .ok (.goto (-22), 3) := dk_167 255 234 (dk_at dksX4_begins_1 0 rfl rfl)
theorem dX4_begins_27 : decode cX4_begins 27 = .ok (.aload_n 0, 1) := dk_42 (dk_at dksX4_begins_1 3 rfl rfl)
theorem dX4_begins_28 : decode cX4_begins 28 = .ok (.getfield 20, 3) := dk_180 0 20 (dk_at dksX4_begins_1 4 rfl rfl)
theorem dX4_begins_31 : decode cX4_begins 31 = .ok (.sipush 1160, 3) := dk_17 4 136 (dk_at dksX4_begins_1 7 rfl rfl)
theorem dX4_begins_34 : decode cX4_begins 34 = .ok (.iconst 0, 1) := dk_3 (dk_at dksX4_begins_1 10 rfl rfl)
theorem dX4_begins_35 : decode cX4_begins 35 = .ok (.iastore, 1) := dk_79 (dk_at dksX4_begins_1 11 rfl rfl)
theorem dX4_begins_36 : decode cX4_begins 36 = .ok (.return_, 1) := dk_177 (dk_at dksX4_begins_1 12 rfl rfl)
abbrev cX4_clears : ByteArray := prog_23_method_38_code
def yX4_clears : MethodName := ⟨RX4, "clears", "([IIII)V"⟩
def dkwX4_clears_1 : List UInt8 := [42, 27, 3, 96, 28, 79, 42, 27, 4, 96, 29, 79, 177]
abbrev dktX4_clears_1 : List UInt8 := dkwX4_clears_1 ++ []
def dkwX4_clears_0 : List UInt8 := [3, 54, 4, 21, 4, 17, 1, 34, 162, 0, 16, 42, 27, 21, 4, 96, 3, 79, 132, 4, 1, 167, 255, 238]
abbrev dktX4_clears_0 : List UInt8 := dkwX4_clears_0 ++ dktX4_clears_1
theorem dksX4_clears_0 : cX4_clears.data.toList.drop 0 = dktX4_clears_0 := by decide +kernel
theorem dksX4_clears_1 : cX4_clears.data.toList.drop 24 = dktX4_clears_1 := dk_seg dksX4_clears_0 24 rfl rfl
theorem dX4_clears_0 : decode cX4_clears 0 = .ok (.iconst 0, 1) := dk_3 (dk_at dksX4_clears_0 0 rfl rfl)
theorem dX4_clears_1 : decode cX4_clears 1 = .ok (.istore 4, 2) := dk_54 4 (dk_at dksX4_clears_0 1 rfl rfl)
theorem dX4_clears_3 : decode cX4_clears 3 = .ok (.iload 4, 2) := dk_21 4 (dk_at dksX4_clears_0 3 rfl rfl)
theorem dX4_clears_5 : decode cX4_clears 5 = .ok (.sipush 290, 3) := dk_17 1 34 (dk_at dksX4_clears_0 5 rfl rfl)
theorem dX4_clears_8 : decode cX4_clears 8 = .ok (.if_icmp .ge 16, 3) := dk_162 0 16 (dk_at dksX4_clears_0 8 rfl rfl)
theorem dX4_clears_11 : decode cX4_clears 11 = .ok (.aload_n 0, 1) := dk_42 (dk_at dksX4_clears_0 11 rfl rfl)
theorem dX4_clears_12 : decode cX4_clears 12 = .ok (.iload_n 1, 1) := dk_27 (dk_at dksX4_clears_0 12 rfl rfl)
theorem dX4_clears_13 : decode cX4_clears 13 = .ok (.iload 4, 2) := dk_21 4 (dk_at dksX4_clears_0 13 rfl rfl)
theorem dX4_clears_15 : decode cX4_clears 15 = .ok (.iadd, 1) := dk_96 (dk_at dksX4_clears_0 15 rfl rfl)
theorem dX4_clears_16 : decode cX4_clears 16 = .ok (.iconst 0, 1) := dk_3 (dk_at dksX4_clears_0 16 rfl rfl)
theorem dX4_clears_17 : decode cX4_clears 17 = .ok (.iastore, 1) := dk_79 (dk_at dksX4_clears_0 17 rfl rfl)
theorem dX4_clears_18 : decode cX4_clears 18 = .ok (.iinc 4 1, 3) := dk_132 4 1 (dk_at dksX4_clears_0 18 rfl rfl)
theorem dX4_clears_21 : decode cX4_clears 21 = .ok (.goto (-18), 3) := dk_167 255 238 (dk_at dksX4_clears_0 21 rfl rfl)
theorem dX4_clears_24 : decode cX4_clears 24 = .ok (.aload_n 0, 1) := dk_42 (dk_at dksX4_clears_1 0 rfl rfl)
theorem dX4_clears_25 : decode cX4_clears 25 = .ok (.iload_n 1, 1) := dk_27 (dk_at dksX4_clears_1 1 rfl rfl)
theorem dX4_clears_26 : decode cX4_clears 26 = .ok (.iconst 0, 1) := dk_3 (dk_at dksX4_clears_1 2 rfl rfl)
theorem dX4_clears_27 : decode cX4_clears 27 = .ok (.iadd, 1) := dk_96 (dk_at dksX4_clears_1 3 rfl rfl)
theorem dX4_clears_28 : decode cX4_clears 28 = .ok (.iload_n 2, 1) := dk_28 (dk_at dksX4_clears_1 4 rfl rfl)
theorem dX4_clears_29 : decode cX4_clears 29 = .ok (.iastore, 1) := dk_79 (dk_at dksX4_clears_1 5 rfl rfl)
theorem dX4_clears_30 : decode cX4_clears 30 = .ok (.aload_n 0, 1) := dk_42 (dk_at dksX4_clears_1 6 rfl rfl)
theorem dX4_clears_31 : decode cX4_clears 31 = .ok (.iload_n 1, 1) := dk_27 (dk_at dksX4_clears_1 7 rfl rfl)
theorem dX4_clears_32 : decode cX4_clears 32 = .ok (.iconst 1, 1) := dk_4 (dk_at dksX4_clears_1 8 rfl rfl)
theorem dX4_clears_33 : decode cX4_clears 33 = .ok (.iadd, 1) := dk_96 (dk_at dksX4_clears_1 9 rfl rfl)
theorem dX4_clears_34 : decode cX4_clears 34 = .ok (.iload_n 3, 1) := dk_29 (dk_at dksX4_clears_1 10 rfl rfl)
theorem dX4_clears_35 : decode cX4_clears 35 = .ok (.iastore, 1) := dk_79 (dk_at dksX4_clears_1 11 rfl rfl)
theorem dX4_clears_36 : decode cX4_clears 36 = .ok (.return_, 1) := dk_177 (dk_at dksX4_clears_1 12 rfl rfl)
abbrev cX4_thrown : ByteArray := prog_23_method_2_code
def yX4_thrown : MethodName := ⟨RX4, "thrown", "()I"⟩
theorem dX4_thrown_0 : decode cX4_thrown 0 = .ok (.aload_n 0, 1) := by decide +kernel
theorem dX4_thrown_1 : decode cX4_thrown 1 = .ok (.getfield 77, 3) := by decide +kernel
theorem dX4_thrown_4 : decode cX4_thrown 4 = .ok (.ireturn, 1) := by decide +kernel
abbrev cX4_feed : ByteArray := prog_23_method_9_code
def yX4_feed : MethodName := ⟨RX4, "feed", "(IIIII)I"⟩
def dkwX4_feed_2 : List UInt8 := [182, 0, 91, 42, 21, 5, 182, 0, 91, 42, 180, 0, 84, 172]
abbrev dktX4_feed_2 : List UInt8 := dkwX4_feed_2 ++ []
def dkwX4_feed_1 : List UInt8 := [154, 0, 5, 3, 172, 42, 27, 182, 0, 91, 42, 28, 182, 0, 91, 42, 29, 182, 0, 91, 42, 21, 4]
abbrev dktX4_feed_1 : List UInt8 := dkwX4_feed_1 ++ dktX4_feed_2
def dkwX4_feed_0 : List UInt8 := [42, 42, 180, 0, 84, 16, 20, 96, 17, 2, 88, 163, 0, 7, 4, 167, 0, 4, 3, 182, 0, 87]
abbrev dktX4_feed_0 : List UInt8 := dkwX4_feed_0 ++ dktX4_feed_1
theorem dksX4_feed_0 : cX4_feed.data.toList.drop 0 = dktX4_feed_0 := by decide +kernel
theorem dksX4_feed_1 : cX4_feed.data.toList.drop 22 = dktX4_feed_1 := dk_seg dksX4_feed_0 22 rfl rfl
theorem dksX4_feed_2 : cX4_feed.data.toList.drop 45 = dktX4_feed_2 := dk_seg dksX4_feed_1 23 rfl rfl
theorem dX4_feed_0 : decode cX4_feed 0 = .ok (.aload_n 0, 1) := dk_42 (dk_at dksX4_feed_0 0 rfl rfl)
theorem dX4_feed_1 : decode cX4_feed 1 = .ok (.aload_n 0, 1) := dk_42 (dk_at dksX4_feed_0 1 rfl rfl)
theorem dX4_feed_2 : decode cX4_feed 2 = .ok (.getfield 84, 3) := dk_180 0 84 (dk_at dksX4_feed_0 2 rfl rfl)
theorem dX4_feed_5 : decode cX4_feed 5 = .ok (.bipush 20, 2) := dk_16 20 (dk_at dksX4_feed_0 5 rfl rfl)
theorem dX4_feed_7 : decode cX4_feed 7 = .ok (.iadd, 1) := dk_96 (dk_at dksX4_feed_0 7 rfl rfl)
theorem dX4_feed_8 : decode cX4_feed 8 = .ok (.sipush 600, 3) := dk_17 2 88 (dk_at dksX4_feed_0 8 rfl rfl)
theorem dX4_feed_11 : decode cX4_feed 11 = .ok (.if_icmp .gt 7, 3) := dk_163 0 7 (dk_at dksX4_feed_0 11 rfl rfl)
theorem dX4_feed_14 : decode cX4_feed 14 = .ok (.iconst 1, 1) := dk_4 (dk_at dksX4_feed_0 14 rfl rfl)
theorem dX4_feed_15 : decode cX4_feed 15 = .ok (.goto 4, 3) := dk_167 0 4 (dk_at dksX4_feed_0 15 rfl rfl)
theorem dX4_feed_18 : decode cX4_feed 18 = .ok (.iconst 0, 1) := dk_3 (dk_at dksX4_feed_0 18 rfl rfl)
theorem dX4_feed_19 : decode cX4_feed 19 = .ok (.invokevirtual 87, 3) := dk_182 0 87 (dk_at dksX4_feed_0 19 rfl rfl)
theorem dX4_feed_22 : decode cX4_feed 22 = .ok (.ifCond .ne 5, 3) := dk_154 0 5 (dk_at dksX4_feed_1 0 rfl rfl)
theorem dX4_feed_25 : decode cX4_feed 25 = .ok (.iconst 0, 1) := dk_3 (dk_at dksX4_feed_1 3 rfl rfl)
theorem dX4_feed_26 : decode cX4_feed 26 = .ok (.ireturn, 1) := dk_172 (dk_at dksX4_feed_1 4 rfl rfl)
theorem dX4_feed_27 : decode cX4_feed 27 = .ok (.aload_n 0, 1) := dk_42 (dk_at dksX4_feed_1 5 rfl rfl)
theorem dX4_feed_28 : decode cX4_feed 28 = .ok (.iload_n 1, 1) := dk_27 (dk_at dksX4_feed_1 6 rfl rfl)
theorem dX4_feed_29 : decode cX4_feed 29 = .ok (.invokevirtual 91, 3) := dk_182 0 91 (dk_at dksX4_feed_1 7 rfl rfl)
theorem dX4_feed_32 : decode cX4_feed 32 = .ok (.aload_n 0, 1) := dk_42 (dk_at dksX4_feed_1 10 rfl rfl)
theorem dX4_feed_33 : decode cX4_feed 33 = .ok (.iload_n 2, 1) := dk_28 (dk_at dksX4_feed_1 11 rfl rfl)
theorem dX4_feed_34 : decode cX4_feed 34 = .ok (.invokevirtual 91, 3) := dk_182 0 91 (dk_at dksX4_feed_1 12 rfl rfl)
theorem dX4_feed_37 : decode cX4_feed 37 = .ok (.aload_n 0, 1) := dk_42 (dk_at dksX4_feed_1 15 rfl rfl)
theorem dX4_feed_38 : decode cX4_feed 38 = .ok (.iload_n 3, 1) := dk_29 (dk_at dksX4_feed_1 16 rfl rfl)
theorem dX4_feed_39 : decode cX4_feed 39 = .ok (.invokevirtual 91, 3) := dk_182 0 91 (dk_at dksX4_feed_1 17 rfl rfl)
theorem dX4_feed_42 : decode cX4_feed 42 = .ok (.aload_n 0, 1) := dk_42 (dk_at dksX4_feed_1 20 rfl rfl)
theorem dX4_feed_43 : decode cX4_feed 43 = .ok (.iload 4, 2) := dk_21 4 (dk_at dksX4_feed_1 21 rfl rfl)
theorem dX4_feed_45 : decode cX4_feed 45 = .ok (.invokevirtual 91, 3) := dk_182 0 91 (dk_at dksX4_feed_2 0 rfl rfl)
theorem dX4_feed_48 : decode cX4_feed 48 = .ok (.aload_n 0, 1) := dk_42 (dk_at dksX4_feed_2 3 rfl rfl)
theorem dX4_feed_49 : decode cX4_feed 49 = .ok (.iload 5, 2) := dk_21 5 (dk_at dksX4_feed_2 4 rfl rfl)
theorem dX4_feed_51 : decode cX4_feed 51 = .ok (.invokevirtual 91, 3) := dk_182 0 91 (dk_at dksX4_feed_2 6 rfl rfl)
theorem dX4_feed_54 : decode cX4_feed 54 = .ok (.aload_n 0, 1) := dk_42 (dk_at dksX4_feed_2 9 rfl rfl)
theorem dX4_feed_55 : decode cX4_feed 55 = .ok (.getfield 84, 3) := dk_180 0 84 (dk_at dksX4_feed_2 10 rfl rfl)
theorem dX4_feed_58 : decode cX4_feed 58 = .ok (.ireturn, 1) := dk_172 (dk_at dksX4_feed_2 13 rfl rfl)
abbrev cX4_goes : ByteArray := prog_23_method_6_code
def yX4_goes : MethodName := ⟨RX4, "goes", "(Z)Z"⟩
def dkwX4_goes_0 : List UInt8 := [42, 27, 154, 0, 7, 4, 167, 0, 4, 3, 184, 0, 80, 181, 0, 77, 27, 172]
abbrev dktX4_goes_0 : List UInt8 := dkwX4_goes_0 ++ []
theorem dksX4_goes_0 : cX4_goes.data.toList.drop 0 = dktX4_goes_0 := by decide +kernel
theorem dX4_goes_0 : decode cX4_goes 0 = .ok (.aload_n 0, 1) := dk_42 (dk_at dksX4_goes_0 0 rfl rfl)
theorem dX4_goes_1 : decode cX4_goes 1 = .ok (.iload_n 1, 1) := dk_27 (dk_at dksX4_goes_0 1 rfl rfl)
theorem dX4_goes_2 : decode cX4_goes 2 = .ok (.ifCond .ne 7, 3) := dk_154 0 7 (dk_at dksX4_goes_0 2 rfl rfl)
theorem dX4_goes_5 : decode cX4_goes 5 = .ok (.iconst 1, 1) := dk_4 (dk_at dksX4_goes_0 5 rfl rfl)
theorem dX4_goes_6 : decode cX4_goes 6 = .ok (.goto 4, 3) := dk_167 0 4 (dk_at dksX4_goes_0 6 rfl rfl)
theorem dX4_goes_9 : decode cX4_goes 9 = .ok (.iconst 0, 1) := dk_3 (dk_at dksX4_goes_0 9 rfl rfl)
theorem dX4_goes_10 : decode cX4_goes 10 = .ok (.invokestatic 80, 3) := dk_184 0 80 (dk_at dksX4_goes_0 10 rfl rfl)
theorem dX4_goes_13 : decode cX4_goes 13 = .ok (.putfield 77, 3) := dk_181 0 77 (dk_at dksX4_goes_0 13 rfl rfl)
theorem dX4_goes_16 : decode cX4_goes 16 = .ok (.iload_n 1, 1) := dk_27 (dk_at dksX4_goes_0 16 rfl rfl)
theorem dX4_goes_17 : decode cX4_goes 17 = .ok (.ireturn, 1) := dk_172 (dk_at dksX4_goes_0 17 rfl rfl)
abbrev cX4_truth : ByteArray := prog_23_method_4_code
def yX4_truth : MethodName := ⟨RX4, "truth", "(Z)I"⟩
def dkwX4_truth_0 : List UInt8 := [26, 153, 0, 7, 4, 167, 0, 4, 3, 172]
abbrev dktX4_truth_0 : List UInt8 := dkwX4_truth_0 ++ []
theorem dksX4_truth_0 : cX4_truth.data.toList.drop 0 = dktX4_truth_0 := by decide +kernel
theorem dX4_truth_0 : decode cX4_truth 0 = .ok (.iload_n 0, 1) := dk_26 (dk_at dksX4_truth_0 0 rfl rfl)
theorem dX4_truth_1 : decode cX4_truth 1 = .ok (.ifCond .eq 7, 3) := dk_153 0 7 (dk_at dksX4_truth_0 1 rfl rfl)
theorem dX4_truth_4 : decode cX4_truth 4 = .ok (.iconst 1, 1) := dk_4 (dk_at dksX4_truth_0 4 rfl rfl)
theorem dX4_truth_5 : decode cX4_truth 5 = .ok (.goto 4, 3) := dk_167 0 4 (dk_at dksX4_truth_0 5 rfl rfl)
theorem dX4_truth_8 : decode cX4_truth 8 = .ok (.iconst 0, 1) := dk_3 (dk_at dksX4_truth_0 8 rfl rfl)
theorem dX4_truth_9 : decode cX4_truth 9 = .ok (.ireturn, 1) := dk_172 (dk_at dksX4_truth_0 9 rfl rfl)
abbrev cX4_four : ByteArray := prog_23_method_10_code
def yX4_four : MethodName := ⟨RX4, "four", "(I)V"⟩
def dkwX4_four_1 : List UInt8 := [89, 180, 0, 84, 4, 96, 181, 0, 84, 132, 2, 248, 167, 255, 223, 177]
abbrev dktX4_four_1 : List UInt8 := dkwX4_four_1 ++ []
def dkwX4_four_0 : List UInt8 := [16, 24, 61, 28, 155, 0, 35, 42, 180, 0, 7, 42, 180, 0, 84, 27, 28, 122, 17, 0, 255, 126, 79, 42]
abbrev dktX4_four_0 : List UInt8 := dkwX4_four_0 ++ dktX4_four_1
theorem dksX4_four_0 : cX4_four.data.toList.drop 0 = dktX4_four_0 := by decide +kernel
theorem dksX4_four_1 : cX4_four.data.toList.drop 24 = dktX4_four_1 := dk_seg dksX4_four_0 24 rfl rfl
theorem dX4_four_0 : decode cX4_four 0 = .ok (.bipush 24, 2) := dk_16 24 (dk_at dksX4_four_0 0 rfl rfl)
theorem dX4_four_2 : decode cX4_four 2 = .ok (.istore_n 2, 1) := dk_61 (dk_at dksX4_four_0 2 rfl rfl)
theorem dX4_four_3 : decode cX4_four 3 = .ok (.iload_n 2, 1) := dk_28 (dk_at dksX4_four_0 3 rfl rfl)
theorem dX4_four_4 : decode cX4_four 4 = .ok (.ifCond .lt 35, 3) := dk_155 0 35 (dk_at dksX4_four_0 4 rfl rfl)
theorem dX4_four_7 : decode cX4_four 7 = .ok (.aload_n 0, 1) := dk_42 (dk_at dksX4_four_0 7 rfl rfl)
theorem dX4_four_8 : decode cX4_four 8 = .ok (.getfield 7, 3) := dk_180 0 7 (dk_at dksX4_four_0 8 rfl rfl)
theorem dX4_four_11 : decode cX4_four 11 = .ok (.aload_n 0, 1) := dk_42 (dk_at dksX4_four_0 11 rfl rfl)
theorem dX4_four_12 : decode cX4_four 12 = .ok (.getfield 84, 3) := dk_180 0 84 (dk_at dksX4_four_0 12 rfl rfl)
theorem dX4_four_15 : decode cX4_four 15 = .ok (.iload_n 1, 1) := dk_27 (dk_at dksX4_four_0 15 rfl rfl)
theorem dX4_four_16 : decode cX4_four 16 = .ok (.iload_n 2, 1) := dk_28 (dk_at dksX4_four_0 16 rfl rfl)
theorem dX4_four_17 : decode cX4_four 17 = .ok (.ishr, 1) := dk_122 (dk_at dksX4_four_0 17 rfl rfl)
theorem dX4_four_18 : decode cX4_four 18 = .ok (.sipush 255, 3) := dk_17 0 255 (dk_at dksX4_four_0 18 rfl rfl)
theorem dX4_four_21 : decode cX4_four 21 = .ok (.iand, 1) := dk_126 (dk_at dksX4_four_0 21 rfl rfl)
theorem dX4_four_22 : decode cX4_four 22 = .ok (.iastore, 1) := dk_79 (dk_at dksX4_four_0 22 rfl rfl)
theorem dX4_four_23 : decode cX4_four 23 = .ok (.aload_n 0, 1) := dk_42 (dk_at dksX4_four_0 23 rfl rfl)
theorem dX4_four_24 : decode cX4_four 24 = .ok (.dup, 1) := dk_89 (dk_at dksX4_four_1 0 rfl rfl)
theorem dX4_four_25 : decode cX4_four 25 = .ok (.getfield 84, 3) := dk_180 0 84 (dk_at dksX4_four_1 1 rfl rfl)
theorem dX4_four_28 : decode cX4_four 28 = .ok (.iconst 1, 1) := dk_4 (dk_at dksX4_four_1 4 rfl rfl)
theorem dX4_four_29 : decode cX4_four 29 = .ok (.iadd, 1) := dk_96 (dk_at dksX4_four_1 5 rfl rfl)
theorem dX4_four_30 : decode cX4_four 30 = .ok (.putfield 84, 3) := dk_181 0 84 (dk_at dksX4_four_1 6 rfl rfl)
theorem dX4_four_33 : decode cX4_four 33 = .ok (.iinc 2 (-8), 3) := dk_132 2 248 (dk_at dksX4_four_1 9 rfl rfl)
theorem dX4_four_36 : decode cX4_four 36 = .ok (.goto (-33), 3) := dk_167 255 223 (dk_at dksX4_four_1 12 rfl rfl)
theorem dX4_four_39 : decode cX4_four 39 = .ok (.return_, 1) := dk_177 (dk_at dksX4_four_1 15 rfl rfl)
abbrev cX4_truncate : ByteArray := prog_23_method_11_code
def yX4_truncate : MethodName := ⟨RX4, "truncate", "(I)I"⟩
def dkwX4_truncate_1 : List UInt8 := [181, 0, 84, 27, 172]
abbrev dktX4_truncate_1 : List UInt8 := dkwX4_truncate_1 ++ []
def dkwX4_truncate_0 : List UInt8 := [42, 27, 133, 9, 42, 180, 0, 84, 133, 184, 0, 95, 182, 0, 87, 154, 0, 5, 3, 172, 42, 27]
abbrev dktX4_truncate_0 : List UInt8 := dkwX4_truncate_0 ++ dktX4_truncate_1
theorem dksX4_truncate_0 : cX4_truncate.data.toList.drop 0 = dktX4_truncate_0 := by decide +kernel
theorem dksX4_truncate_1 : cX4_truncate.data.toList.drop 22 = dktX4_truncate_1 := dk_seg dksX4_truncate_0 22 rfl rfl
theorem dX4_truncate_0 : decode cX4_truncate 0 = .ok (.aload_n 0, 1) := dk_42 (dk_at dksX4_truncate_0 0 rfl rfl)
theorem dX4_truncate_1 : decode cX4_truncate 1 = .ok (.iload_n 1, 1) := dk_27 (dk_at dksX4_truncate_0 1 rfl rfl)
theorem dX4_truncate_2 : decode cX4_truncate 2 = .ok (.i2l, 1) := dk_133 (dk_at dksX4_truncate_0 2 rfl rfl)
theorem dX4_truncate_3 : decode cX4_truncate 3 = .ok (.lconst 0, 1) := dk_9 (dk_at dksX4_truncate_0 3 rfl rfl)
theorem dX4_truncate_4 : decode cX4_truncate 4 = .ok (.aload_n 0, 1) := dk_42 (dk_at dksX4_truncate_0 4 rfl rfl)
theorem dX4_truncate_5 : decode cX4_truncate 5 = .ok (.getfield 84, 3) := dk_180 0 84 (dk_at dksX4_truncate_0 5 rfl rfl)
theorem dX4_truncate_8 : decode cX4_truncate 8 = .ok (.i2l, 1) := dk_133 (dk_at dksX4_truncate_0 8 rfl rfl)
theorem dX4_truncate_9 : decode cX4_truncate 9 = .ok (.invokestatic 95, 3) := dk_184 0 95 (dk_at dksX4_truncate_0 9 rfl rfl)
theorem dX4_truncate_12 : decode cX4_truncate 12 = .ok (.invokevirtual 87, 3) := dk_182 0 87 (dk_at dksX4_truncate_0 12 rfl rfl)
theorem dX4_truncate_15 : decode cX4_truncate 15 = .ok (.ifCond .ne 5, 3) := dk_154 0 5 (dk_at dksX4_truncate_0 15 rfl rfl)
theorem dX4_truncate_18 : decode cX4_truncate 18 = .ok (.iconst 0, 1) := dk_3 (dk_at dksX4_truncate_0 18 rfl rfl)
theorem dX4_truncate_19 : decode cX4_truncate 19 = .ok (.ireturn, 1) := dk_172 (dk_at dksX4_truncate_0 19 rfl rfl)
theorem dX4_truncate_20 : decode cX4_truncate 20 = .ok (.aload_n 0, 1) := dk_42 (dk_at dksX4_truncate_0 20 rfl rfl)
theorem dX4_truncate_21 : decode cX4_truncate 21 = .ok (.iload_n 1, 1) := dk_27 (dk_at dksX4_truncate_0 21 rfl rfl)
theorem dX4_truncate_22 : decode cX4_truncate 22 = .ok (.putfield 84, 3) := dk_181 0 84 (dk_at dksX4_truncate_1 0 rfl rfl)
theorem dX4_truncate_25 : decode cX4_truncate 25 = .ok (.iload_n 1, 1) := dk_27 (dk_at dksX4_truncate_1 3 rfl rfl)
theorem dX4_truncate_26 : decode cX4_truncate 26 = .ok (.ireturn, 1) := dk_172 (dk_at dksX4_truncate_1 4 rfl rfl)
abbrev cX4_isIn : ByteArray := prog_23_method_3_code
def yX4_isIn : MethodName := ⟨RX4, "isIn", "(JJJ)Z"⟩
def dkwX4_isIn_0 : List UInt8 := [30, 32, 148, 155, 0, 14, 30, 22, 4, 148, 157, 0, 7, 4, 167, 0, 4, 3, 172]
abbrev dktX4_isIn_0 : List UInt8 := dkwX4_isIn_0 ++ []
theorem dksX4_isIn_0 : cX4_isIn.data.toList.drop 0 = dktX4_isIn_0 := by decide +kernel
theorem dX4_isIn_0 : decode cX4_isIn 0 = .ok (.lload_n 0, 1) := dk_30 (dk_at dksX4_isIn_0 0 rfl rfl)
theorem dX4_isIn_1 : decode cX4_isIn 1 = .ok (.lload_n 2, 1) := dk_32 (dk_at dksX4_isIn_0 1 rfl rfl)
theorem dX4_isIn_2 : decode cX4_isIn 2 = .ok (.lcmp, 1) := dk_148 (dk_at dksX4_isIn_0 2 rfl rfl)
theorem dX4_isIn_3 : decode cX4_isIn 3 = .ok (.ifCond .lt 14, 3) := dk_155 0 14 (dk_at dksX4_isIn_0 3 rfl rfl)
theorem dX4_isIn_6 : decode cX4_isIn 6 = .ok (.lload_n 0, 1) := dk_30 (dk_at dksX4_isIn_0 6 rfl rfl)
theorem dX4_isIn_7 : decode cX4_isIn 7 = .ok (.lload 4, 2) := dk_22 4 (dk_at dksX4_isIn_0 7 rfl rfl)
theorem dX4_isIn_9 : decode cX4_isIn 9 = .ok (.lcmp, 1) := dk_148 (dk_at dksX4_isIn_0 9 rfl rfl)
theorem dX4_isIn_10 : decode cX4_isIn 10 = .ok (.ifCond .gt 7, 3) := dk_157 0 7 (dk_at dksX4_isIn_0 10 rfl rfl)
theorem dX4_isIn_13 : decode cX4_isIn 13 = .ok (.iconst 1, 1) := dk_4 (dk_at dksX4_isIn_0 13 rfl rfl)
theorem dX4_isIn_14 : decode cX4_isIn 14 = .ok (.goto 4, 3) := dk_167 0 4 (dk_at dksX4_isIn_0 14 rfl rfl)
theorem dX4_isIn_17 : decode cX4_isIn 17 = .ok (.iconst 0, 1) := dk_3 (dk_at dksX4_isIn_0 17 rfl rfl)
theorem dX4_isIn_18 : decode cX4_isIn 18 = .ok (.ireturn, 1) := dk_172 (dk_at dksX4_isIn_0 18 rfl rfl)
abbrev cX4_errorCode : ByteArray := prog_23_method_26_code
def yX4_errorCode : MethodName := ⟨RX4, "errorCode", "()I"⟩
def dkwX4_errorCode_0 : List UInt8 := [42, 3, 181, 0, 77, 42, 180, 0, 153, 172]
abbrev dktX4_errorCode_0 : List UInt8 := dkwX4_errorCode_0 ++ []
theorem dksX4_errorCode_0 : cX4_errorCode.data.toList.drop 0 = dktX4_errorCode_0 := by decide +kernel
theorem dX4_errorCode_0 : decode cX4_errorCode 0 = .ok (.aload_n 0, 1) := dk_42 (dk_at dksX4_errorCode_0 0 rfl rfl)
theorem dX4_errorCode_1 : decode cX4_errorCode 1 = .ok (.iconst 0, 1) := dk_3 (dk_at dksX4_errorCode_0 1 rfl rfl)
theorem dX4_errorCode_2 : decode cX4_errorCode 2 = .ok (.putfield 77, 3) := dk_181 0 77 (dk_at dksX4_errorCode_0 2 rfl rfl)
theorem dX4_errorCode_5 : decode cX4_errorCode 5 = .ok (.aload_n 0, 1) := dk_42 (dk_at dksX4_errorCode_0 5 rfl rfl)
theorem dX4_errorCode_6 : decode cX4_errorCode 6 = .ok (.getfield 153, 3) := dk_180 0 153 (dk_at dksX4_errorCode_0 6 rfl rfl)
theorem dX4_errorCode_9 : decode cX4_errorCode 9 = .ok (.ireturn, 1) := dk_172 (dk_at dksX4_errorCode_0 9 rfl rfl)
abbrev cX4_errorOffset : ByteArray := prog_23_method_27_code
def yX4_errorOffset : MethodName := ⟨RX4, "errorOffset", "()I"⟩
def dkwX4_errorOffset_0 : List UInt8 := [42, 3, 181, 0, 77, 42, 180, 0, 17, 172]
abbrev dktX4_errorOffset_0 : List UInt8 := dkwX4_errorOffset_0 ++ []
theorem dksX4_errorOffset_0 : cX4_errorOffset.data.toList.drop 0 = dktX4_errorOffset_0 := by decide +kernel
theorem dX4_errorOffset_0 : decode cX4_errorOffset 0 = .ok (.aload_n 0, 1) := dk_42 (dk_at dksX4_errorOffset_0 0 rfl rfl)
theorem dX4_errorOffset_1 : decode cX4_errorOffset 1 = .ok (.iconst 0, 1) := dk_3 (dk_at dksX4_errorOffset_0 1 rfl rfl)
theorem dX4_errorOffset_2 : decode cX4_errorOffset 2 = .ok (.putfield 77, 3) := dk_181 0 77 (dk_at dksX4_errorOffset_0 2 rfl rfl)
theorem dX4_errorOffset_5 : decode cX4_errorOffset 5 = .ok (.aload_n 0, 1) := dk_42 (dk_at dksX4_errorOffset_0 5 rfl rfl)
theorem dX4_errorOffset_6 : decode cX4_errorOffset 6 = .ok (.getfield 17, 3) := dk_180 0 17 (dk_at dksX4_errorOffset_0 6 rfl rfl)
theorem dX4_errorOffset_9 : decode cX4_errorOffset 9 = .ok (.ireturn, 1) := dk_172 (dk_at dksX4_errorOffset_0 9 rfl rfl)
abbrev cX4_undo : ByteArray := prog_23_method_34_code
def yX4_undo : MethodName := ⟨RX4, "undo", "()I"⟩
def dkwX4_undo_2 : List UInt8 := [3, 17, 4, 137, 184, 0, 160, 42, 180, 0, 164, 172]
abbrev dktX4_undo_2 : List UInt8 := dkwX4_undo_2 ++ []
def dkwX4_undo_1 : List UInt8 := [180, 0, 164, 4, 100, 181, 0, 164, 42, 180, 0, 29, 17, 4, 137, 42, 180, 0, 164, 104, 42, 180, 0, 20]
abbrev dktX4_undo_1 : List UInt8 := dkwX4_undo_1 ++ dktX4_undo_2
def dkwX4_undo_0 : List UInt8 := [42, 42, 180, 0, 164, 158, 0, 7, 4, 167, 0, 4, 3, 182, 0, 87, 154, 0, 5, 3, 172, 42, 89]
abbrev dktX4_undo_0 : List UInt8 := dkwX4_undo_0 ++ dktX4_undo_1
theorem dksX4_undo_0 : cX4_undo.data.toList.drop 0 = dktX4_undo_0 := by decide +kernel
theorem dksX4_undo_1 : cX4_undo.data.toList.drop 23 = dktX4_undo_1 := dk_seg dksX4_undo_0 23 rfl rfl
theorem dksX4_undo_2 : cX4_undo.data.toList.drop 47 = dktX4_undo_2 := dk_seg dksX4_undo_1 24 rfl rfl
theorem dX4_undo_0 : decode cX4_undo 0 = .ok (.aload_n 0, 1) := dk_42 (dk_at dksX4_undo_0 0 rfl rfl)
theorem dX4_undo_1 : decode cX4_undo 1 = .ok (.aload_n 0, 1) := dk_42 (dk_at dksX4_undo_0 1 rfl rfl)
theorem dX4_undo_2 : decode cX4_undo 2 = .ok (.getfield 164, 3) := dk_180 0 164 (dk_at dksX4_undo_0 2 rfl rfl)
theorem dX4_undo_5 : decode cX4_undo 5 = .ok (.ifCond .le 7, 3) := dk_158 0 7 (dk_at dksX4_undo_0 5 rfl rfl)
theorem dX4_undo_8 : decode cX4_undo 8 = .ok (.iconst 1, 1) := dk_4 (dk_at dksX4_undo_0 8 rfl rfl)
theorem dX4_undo_9 : decode cX4_undo 9 = .ok (.goto 4, 3) := dk_167 0 4 (dk_at dksX4_undo_0 9 rfl rfl)
theorem dX4_undo_12 : decode cX4_undo 12 = .ok (.iconst 0, 1) := dk_3 (dk_at dksX4_undo_0 12 rfl rfl)
theorem dX4_undo_13 : decode cX4_undo 13 = .ok (.invokevirtual 87, 3) := dk_182 0 87 (dk_at dksX4_undo_0 13 rfl rfl)
theorem dX4_undo_16 : decode cX4_undo 16 = .ok (.ifCond .ne 5, 3) := dk_154 0 5 (dk_at dksX4_undo_0 16 rfl rfl)
theorem dX4_undo_19 : decode cX4_undo 19 = .ok (.iconst 0, 1) := dk_3 (dk_at dksX4_undo_0 19 rfl rfl)
theorem dX4_undo_20 : decode cX4_undo 20 = .ok (.ireturn, 1) := dk_172 (dk_at dksX4_undo_0 20 rfl rfl)
theorem dX4_undo_21 : decode cX4_undo 21 = .ok (.aload_n 0, 1) := dk_42 (dk_at dksX4_undo_0 21 rfl rfl)
theorem dX4_undo_22 : decode cX4_undo 22 = .ok (.dup, 1) := dk_89 (dk_at dksX4_undo_0 22 rfl rfl)
theorem dX4_undo_23 : decode cX4_undo 23 = .ok (.getfield 164, 3) := dk_180 0 164 (dk_at dksX4_undo_1 0 rfl rfl)
theorem dX4_undo_26 : decode cX4_undo 26 = .ok (.iconst 1, 1) := dk_4 (dk_at dksX4_undo_1 3 rfl rfl)
theorem dX4_undo_27 : decode cX4_undo 27 = .ok (.isub, 1) := dk_100 (dk_at dksX4_undo_1 4 rfl rfl)
theorem dX4_undo_28 : decode cX4_undo 28 = .ok (.putfield 164, 3) := dk_181 0 164 (dk_at dksX4_undo_1 5 rfl rfl)
theorem dX4_undo_31 : decode cX4_undo 31 = .ok (.aload_n 0, 1) := dk_42 (dk_at dksX4_undo_1 8 rfl rfl)
theorem dX4_undo_32 : decode cX4_undo 32 = .ok (.getfield 29, 3) := dk_180 0 29 (dk_at dksX4_undo_1 9 rfl rfl)
theorem dX4_undo_35 : decode cX4_undo 35 = .ok (.sipush 1161, 3) := dk_17 4 137 (dk_at dksX4_undo_1 12 rfl rfl)
theorem dX4_undo_38 : decode cX4_undo 38 = .ok (.aload_n 0, 1) := dk_42 (dk_at dksX4_undo_1 15 rfl rfl)
theorem dX4_undo_39 : decode cX4_undo 39 = .ok (.getfield 164, 3) := dk_180 0 164 (dk_at dksX4_undo_1 16 rfl rfl)
theorem dX4_undo_42 : decode cX4_undo 42 = .ok (.imul, 1) := dk_104 (dk_at dksX4_undo_1 19 rfl rfl)
theorem dX4_undo_43 : decode cX4_undo 43 = .ok (.aload_n 0, 1) := dk_42 (dk_at dksX4_undo_1 20 rfl rfl)
theorem dX4_undo_44 : decode cX4_undo 44 = .ok (.getfield 20, 3) := dk_180 0 20 (dk_at dksX4_undo_1 21 rfl rfl)
theorem dX4_undo_47 : decode cX4_undo 47 = .ok (.iconst 0, 1) := dk_3 (dk_at dksX4_undo_2 0 rfl rfl)
theorem dX4_undo_48 : decode cX4_undo 48 = .ok (.sipush 1161, 3) := dk_17 4 137 (dk_at dksX4_undo_2 1 rfl rfl)
theorem dX4_undo_51 : decode cX4_undo 51 = .ok (.invokestatic 160, 3) := dk_184 0 160 (dk_at dksX4_undo_2 4 rfl rfl)
theorem dX4_undo_54 : decode cX4_undo 54 = .ok (.aload_n 0, 1) := dk_42 (dk_at dksX4_undo_2 7 rfl rfl)
theorem dX4_undo_55 : decode cX4_undo 55 = .ok (.getfield 164, 3) := dk_180 0 164 (dk_at dksX4_undo_2 8 rfl rfl)
theorem dX4_undo_58 : decode cX4_undo 58 = .ok (.ireturn, 1) := dk_172 (dk_at dksX4_undo_2 11 rfl rfl)
abbrev cX4_copiesRow : ByteArray := prog_23_method_28_code
def yX4_copiesRow : MethodName := ⟨RX4, "copiesRow", "([II[III)V"⟩
def dkwX4_copiesRow_1 : List UInt8 := [132, 5, 1, 167, 255, 234, 177]
abbrev dktX4_copiesRow_1 : List UInt8 := dkwX4_copiesRow_1 ++ []
def dkwX4_copiesRow_0 : List UInt8 := [3, 54, 5, 21, 5, 21, 4, 162, 0, 21, 44, 29, 21, 5, 96, 42, 27, 21, 5, 96, 46, 79]
abbrev dktX4_copiesRow_0 : List UInt8 := dkwX4_copiesRow_0 ++ dktX4_copiesRow_1
theorem dksX4_copiesRow_0 : cX4_copiesRow.data.toList.drop 0 = dktX4_copiesRow_0 := by decide +kernel
theorem dksX4_copiesRow_1 : cX4_copiesRow.data.toList.drop 22 = dktX4_copiesRow_1 := dk_seg dksX4_copiesRow_0 22 rfl rfl
theorem dX4_copiesRow_0 : decode cX4_copiesRow 0 = .ok (.iconst 0, 1) := dk_3 (dk_at dksX4_copiesRow_0 0 rfl rfl)
theorem dX4_copiesRow_1 : decode cX4_copiesRow 1 = .ok (.istore 5, 2) := dk_54 5 (dk_at dksX4_copiesRow_0 1 rfl rfl)
theorem dX4_copiesRow_3 : decode cX4_copiesRow 3 = .ok (.iload 5, 2) := dk_21 5 (dk_at dksX4_copiesRow_0 3 rfl rfl)
theorem dX4_copiesRow_5 : decode cX4_copiesRow 5 = .ok (.iload 4, 2) := dk_21 4 (dk_at dksX4_copiesRow_0 5 rfl rfl)
theorem dX4_copiesRow_7 : decode cX4_copiesRow 7 = .ok (.if_icmp .ge 21, 3) := dk_162 0 21 (dk_at dksX4_copiesRow_0 7 rfl rfl)
theorem dX4_copiesRow_10 : decode cX4_copiesRow 10 = .ok (.aload_n 2, 1) := dk_44 (dk_at dksX4_copiesRow_0 10 rfl rfl)
theorem dX4_copiesRow_11 : decode cX4_copiesRow 11 = .ok (.iload_n 3, 1) := dk_29 (dk_at dksX4_copiesRow_0 11 rfl rfl)
theorem dX4_copiesRow_12 : decode cX4_copiesRow 12 = .ok (.iload 5, 2) := dk_21 5 (dk_at dksX4_copiesRow_0 12 rfl rfl)
theorem dX4_copiesRow_14 : decode cX4_copiesRow 14 = .ok (.iadd, 1) := dk_96 (dk_at dksX4_copiesRow_0 14 rfl rfl)
theorem dX4_copiesRow_15 : decode cX4_copiesRow 15 = .ok (.aload_n 0, 1) := dk_42 (dk_at dksX4_copiesRow_0 15 rfl rfl)
theorem dX4_copiesRow_16 : decode cX4_copiesRow 16 = .ok (.iload_n 1, 1) := dk_27 (dk_at dksX4_copiesRow_0 16 rfl rfl)
theorem dX4_copiesRow_17 : decode cX4_copiesRow 17 = .ok (.iload 5, 2) := dk_21 5 (dk_at dksX4_copiesRow_0 17 rfl rfl)
theorem dX4_copiesRow_19 : decode cX4_copiesRow 19 = .ok (.iadd, 1) := dk_96 (dk_at dksX4_copiesRow_0 19 rfl rfl)
theorem dX4_copiesRow_20 : decode cX4_copiesRow 20 = .ok (.iaload, 1) := dk_46 (dk_at dksX4_copiesRow_0 20 rfl rfl)
theorem dX4_copiesRow_21 : decode cX4_copiesRow 21 = .ok (.iastore, 1) := dk_79 (dk_at dksX4_copiesRow_0 21 rfl rfl)
theorem dX4_copiesRow_22 : decode cX4_copiesRow 22 = .ok (.iinc 5 1, 3) := dk_132 5 1 (dk_at dksX4_copiesRow_1 0 rfl rfl)
theorem dX4_copiesRow_25 : decode cX4_copiesRow 25 = .ok (.goto (-22), 3) := dk_167 255 234 (dk_at dksX4_copiesRow_1 3 rfl rfl)
theorem dX4_copiesRow_28 : decode cX4_copiesRow 28 = .ok (.return_, 1) := dk_177 (dk_at dksX4_copiesRow_1 6 rfl rfl)
abbrev cX4_saveState : ByteArray := prog_23_method_35_code
def yX4_saveState : MethodName := ⟨RX4, "saveState", "()I"⟩
def dkwX4_saveState_1 : List UInt8 := [181, 0, 170, 42, 182, 0, 174, 172]
abbrev dktX4_saveState_1 : List UInt8 := dkwX4_saveState_1 ++ []
def dkwX4_saveState_0 : List UInt8 := [42, 3, 181, 0, 77, 42, 180, 0, 20, 3, 42, 180, 0, 23, 3, 17, 4, 137, 184, 0, 160, 42, 4]
abbrev dktX4_saveState_0 : List UInt8 := dkwX4_saveState_0 ++ dktX4_saveState_1
theorem dksX4_saveState_0 : cX4_saveState.data.toList.drop 0 = dktX4_saveState_0 := by decide +kernel
theorem dksX4_saveState_1 : cX4_saveState.data.toList.drop 23 = dktX4_saveState_1 := dk_seg dksX4_saveState_0 23 rfl rfl
theorem dX4_saveState_0 : decode cX4_saveState 0 = .ok (.aload_n 0, 1) := dk_42 (dk_at dksX4_saveState_0 0 rfl rfl)
theorem dX4_saveState_1 : decode cX4_saveState 1 = .ok (.iconst 0, 1) := dk_3 (dk_at dksX4_saveState_0 1 rfl rfl)
theorem dX4_saveState_2 : decode cX4_saveState 2 = .ok (.putfield 77, 3) := dk_181 0 77 (dk_at dksX4_saveState_0 2 rfl rfl)
theorem dX4_saveState_5 : decode cX4_saveState 5 = .ok (.aload_n 0, 1) := dk_42 (dk_at dksX4_saveState_0 5 rfl rfl)
theorem dX4_saveState_6 : decode cX4_saveState 6 = .ok (.getfield 20, 3) := dk_180 0 20 (dk_at dksX4_saveState_0 6 rfl rfl)
theorem dX4_saveState_9 : decode cX4_saveState 9 = .ok (.iconst 0, 1) := dk_3 (dk_at dksX4_saveState_0 9 rfl rfl)
theorem dX4_saveState_10 : decode cX4_saveState 10 = .ok (.aload_n 0, 1) := dk_42 (dk_at dksX4_saveState_0 10 rfl rfl)
theorem dX4_saveState_11 : decode cX4_saveState 11 = .ok (.getfield 23, 3) := dk_180 0 23 (dk_at dksX4_saveState_0 11 rfl rfl)
theorem dX4_saveState_14 : decode cX4_saveState 14 = .ok (.iconst 0, 1) := dk_3 (dk_at dksX4_saveState_0 14 rfl rfl)
theorem dX4_saveState_15 : decode cX4_saveState 15 = .ok (.sipush 1161, 3) := dk_17 4 137 (dk_at dksX4_saveState_0 15 rfl rfl)
theorem dX4_saveState_18 : decode cX4_saveState 18 = .ok (.invokestatic 160, 3) := dk_184 0 160 (dk_at dksX4_saveState_0 18 rfl rfl)
theorem dX4_saveState_21 : decode cX4_saveState 21 = .ok (.aload_n 0, 1) := dk_42 (dk_at dksX4_saveState_0 21 rfl rfl)
theorem dX4_saveState_22 : decode cX4_saveState 22 = .ok (.iconst 1, 1) := dk_4 (dk_at dksX4_saveState_0 22 rfl rfl)
theorem dX4_saveState_23 : decode cX4_saveState 23 = .ok (.putfield 170, 3) := dk_181 0 170 (dk_at dksX4_saveState_1 0 rfl rfl)
theorem dX4_saveState_26 : decode cX4_saveState 26 = .ok (.aload_n 0, 1) := dk_42 (dk_at dksX4_saveState_1 3 rfl rfl)
theorem dX4_saveState_27 : decode cX4_saveState 27 = .ok (.invokevirtual 174, 3) := dk_182 0 174 (dk_at dksX4_saveState_1 4 rfl rfl)
theorem dX4_saveState_30 : decode cX4_saveState 30 = .ok (.ireturn, 1) := dk_172 (dk_at dksX4_saveState_1 7 rfl rfl)
abbrev cX4_storedInAll : ByteArray := prog_23_method_81_code
def yX4_storedInAll : MethodName := ⟨RX4, "storedInAll", "()I"⟩
def dkwX4_storedInAll_1 : List UInt8 := [172]
abbrev dktX4_storedInAll_1 : List UInt8 := dkwX4_storedInAll_1 ++ []
def dkwX4_storedInAll_0 : List UInt8 := [3, 60, 3, 61, 28, 7, 162, 0, 17, 27, 42, 28, 182, 0, 217, 96, 60, 132, 2, 1, 167, 255, 240, 27]
abbrev dktX4_storedInAll_0 : List UInt8 := dkwX4_storedInAll_0 ++ dktX4_storedInAll_1
theorem dksX4_storedInAll_0 : cX4_storedInAll.data.toList.drop 0 = dktX4_storedInAll_0 := by decide +kernel
theorem dksX4_storedInAll_1 : cX4_storedInAll.data.toList.drop 24 = dktX4_storedInAll_1 := dk_seg dksX4_storedInAll_0 24 rfl rfl
theorem dX4_storedInAll_0 : decode cX4_storedInAll 0 = .ok (.iconst 0, 1) := dk_3 (dk_at dksX4_storedInAll_0 0 rfl rfl)
theorem dX4_storedInAll_1 : decode cX4_storedInAll 1 = .ok (.istore_n 1, 1) := dk_60 (dk_at dksX4_storedInAll_0 1 rfl rfl)
theorem dX4_storedInAll_2 : decode cX4_storedInAll 2 = .ok (.iconst 0, 1) := dk_3 (dk_at dksX4_storedInAll_0 2 rfl rfl)
theorem dX4_storedInAll_3 : decode cX4_storedInAll 3 = .ok (.istore_n 2, 1) := dk_61 (dk_at dksX4_storedInAll_0 3 rfl rfl)
theorem dX4_storedInAll_4 : decode cX4_storedInAll 4 = .ok (.iload_n 2, 1) := dk_28 (dk_at dksX4_storedInAll_0 4 rfl rfl)
theorem dX4_storedInAll_5 : decode cX4_storedInAll 5 = .ok (.iconst 4, 1) := dk_7 (dk_at dksX4_storedInAll_0 5 rfl rfl)
theorem dX4_storedInAll_6 : decode cX4_storedInAll 6 = .ok (.if_icmp .ge 17, 3) := dk_162 0 17 (dk_at dksX4_storedInAll_0 6 rfl rfl)
theorem dX4_storedInAll_9 : decode cX4_storedInAll 9 = .ok (.iload_n 1, 1) := dk_27 (dk_at dksX4_storedInAll_0 9 rfl rfl)
theorem dX4_storedInAll_10 : decode cX4_storedInAll 10 = .ok (.aload_n 0, 1) := dk_42 (dk_at dksX4_storedInAll_0 10 rfl rfl)
theorem dX4_storedInAll_11 : decode cX4_storedInAll 11 = .ok (.iload_n 2, 1) := dk_28 (dk_at dksX4_storedInAll_0 11 rfl rfl)
theorem dX4_storedInAll_12 : decode cX4_storedInAll 12 = .ok (.invokevirtual 217, 3) := dk_182 0 217 (dk_at dksX4_storedInAll_0 12 rfl rfl)
theorem dX4_storedInAll_15 : decode cX4_storedInAll 15 = .ok (.iadd, 1) := dk_96 (dk_at dksX4_storedInAll_0 15 rfl rfl)
theorem dX4_storedInAll_16 : decode cX4_storedInAll 16 = .ok (.istore_n 1, 1) := dk_60 (dk_at dksX4_storedInAll_0 16 rfl rfl)
theorem dX4_storedInAll_17 : decode cX4_storedInAll 17 = .ok (.iinc 2 1, 3) := dk_132 2 1 (dk_at dksX4_storedInAll_0 17 rfl rfl)
theorem dX4_storedInAll_20 : decode cX4_storedInAll 20 = .ok (.goto (-16), 3) := dk_167 255 240 (dk_at dksX4_storedInAll_0 20 rfl rfl)
theorem dX4_storedInAll_23 : decode cX4_storedInAll 23 = .ok (.iload_n 1, 1) := dk_27 (dk_at dksX4_storedInAll_0 23 rfl rfl)
theorem dX4_storedInAll_24 : decode cX4_storedInAll 24 = .ok (.ireturn, 1) := dk_172 (dk_at dksX4_storedInAll_1 0 rfl rfl)
abbrev cX4_stored : ByteArray := prog_23_method_80_code
def yX4_stored : MethodName := ⟨RX4, "stored", "(I)I"⟩
def dkwX4_stored_0 : List UInt8 := [42, 27, 42, 27, 182, 1, 60, 182, 1, 76, 172]
abbrev dktX4_stored_0 : List UInt8 := dkwX4_stored_0 ++ []
theorem dksX4_stored_0 : cX4_stored.data.toList.drop 0 = dktX4_stored_0 := by decide +kernel
theorem dX4_stored_0 : decode cX4_stored 0 = .ok (.aload_n 0, 1) := dk_42 (dk_at dksX4_stored_0 0 rfl rfl)
theorem dX4_stored_1 : decode cX4_stored 1 = .ok (.iload_n 1, 1) := dk_27 (dk_at dksX4_stored_0 1 rfl rfl)
theorem dX4_stored_2 : decode cX4_stored 2 = .ok (.aload_n 0, 1) := dk_42 (dk_at dksX4_stored_0 2 rfl rfl)
theorem dX4_stored_3 : decode cX4_stored 3 = .ok (.iload_n 1, 1) := dk_27 (dk_at dksX4_stored_0 3 rfl rfl)
theorem dX4_stored_4 : decode cX4_stored 4 = .ok (.invokevirtual 316, 3) := dk_182 1 60 (dk_at dksX4_stored_0 4 rfl rfl)
theorem dX4_stored_7 : decode cX4_stored 7 = .ok (.invokevirtual 332, 3) := dk_182 1 76 (dk_at dksX4_stored_0 7 rfl rfl)
theorem dX4_stored_10 : decode cX4_stored 10 = .ok (.ireturn, 1) := dk_172 (dk_at dksX4_stored_0 10 rfl rfl)
abbrev cX4_rows : ByteArray := prog_23_method_72_code
def yX4_rows : MethodName := ⟨RX4, "rows", "(I)I"⟩
def dkwX4_rows_0 : List UInt8 := [42, 180, 0, 20, 17, 1, 34, 27, 104, 3, 96, 46, 172]
abbrev dktX4_rows_0 : List UInt8 := dkwX4_rows_0 ++ []
theorem dksX4_rows_0 : cX4_rows.data.toList.drop 0 = dktX4_rows_0 := by decide +kernel
theorem dX4_rows_0 : decode cX4_rows 0 = .ok (.aload_n 0, 1) := dk_42 (dk_at dksX4_rows_0 0 rfl rfl)
theorem dX4_rows_1 : decode cX4_rows 1 = .ok (.getfield 20, 3) := dk_180 0 20 (dk_at dksX4_rows_0 1 rfl rfl)
theorem dX4_rows_4 : decode cX4_rows 4 = .ok (.sipush 290, 3) := dk_17 1 34 (dk_at dksX4_rows_0 4 rfl rfl)
theorem dX4_rows_7 : decode cX4_rows 7 = .ok (.iload_n 1, 1) := dk_27 (dk_at dksX4_rows_0 7 rfl rfl)
theorem dX4_rows_8 : decode cX4_rows 8 = .ok (.imul, 1) := dk_104 (dk_at dksX4_rows_0 8 rfl rfl)
theorem dX4_rows_9 : decode cX4_rows 9 = .ok (.iconst 0, 1) := dk_3 (dk_at dksX4_rows_0 9 rfl rfl)
theorem dX4_rows_10 : decode cX4_rows 10 = .ok (.iadd, 1) := dk_96 (dk_at dksX4_rows_0 10 rfl rfl)
theorem dX4_rows_11 : decode cX4_rows 11 = .ok (.iaload, 1) := dk_46 (dk_at dksX4_rows_0 11 rfl rfl)
theorem dX4_rows_12 : decode cX4_rows 12 = .ok (.ireturn, 1) := dk_172 (dk_at dksX4_rows_0 12 rfl rfl)
abbrev cX4_pointer : ByteArray := prog_23_method_79_code
def yX4_pointer : MethodName := ⟨RX4, "pointer", "(II)I"⟩
def dkwX4_pointer_1 : List UInt8 := [167, 255, 237, 29, 172]
abbrev dktX4_pointer_1 : List UInt8 := dkwX4_pointer_1 ++ []
def dkwX4_pointer_0 : List UInt8 := [3, 62, 3, 54, 4, 21, 4, 28, 162, 0, 19, 29, 42, 27, 21, 4, 182, 1, 73, 96, 62, 132, 4, 1]
abbrev dktX4_pointer_0 : List UInt8 := dkwX4_pointer_0 ++ dktX4_pointer_1
theorem dksX4_pointer_0 : cX4_pointer.data.toList.drop 0 = dktX4_pointer_0 := by decide +kernel
theorem dksX4_pointer_1 : cX4_pointer.data.toList.drop 24 = dktX4_pointer_1 := dk_seg dksX4_pointer_0 24 rfl rfl
theorem dX4_pointer_0 : decode cX4_pointer 0 = .ok (.iconst 0, 1) := dk_3 (dk_at dksX4_pointer_0 0 rfl rfl)
theorem dX4_pointer_1 : decode cX4_pointer 1 = .ok (.istore_n 3, 1) := dk_62 (dk_at dksX4_pointer_0 1 rfl rfl)
theorem dX4_pointer_2 : decode cX4_pointer 2 = .ok (.iconst 0, 1) := dk_3 (dk_at dksX4_pointer_0 2 rfl rfl)
theorem dX4_pointer_3 : decode cX4_pointer 3 = .ok (.istore 4, 2) := dk_54 4 (dk_at dksX4_pointer_0 3 rfl rfl)
theorem dX4_pointer_5 : decode cX4_pointer 5 = .ok (.iload 4, 2) := dk_21 4 (dk_at dksX4_pointer_0 5 rfl rfl)
theorem dX4_pointer_7 : decode cX4_pointer 7 = .ok (.iload_n 2, 1) := dk_28 (dk_at dksX4_pointer_0 7 rfl rfl)
theorem dX4_pointer_8 : decode cX4_pointer 8 = .ok (.if_icmp .ge 19, 3) := dk_162 0 19 (dk_at dksX4_pointer_0 8 rfl rfl)
theorem dX4_pointer_11 : decode cX4_pointer 11 = .ok (.iload_n 3, 1) := dk_29 (dk_at dksX4_pointer_0 11 rfl rfl)
theorem dX4_pointer_12 : decode cX4_pointer 12 = .ok (.aload_n 0, 1) := dk_42 (dk_at dksX4_pointer_0 12 rfl rfl)
theorem dX4_pointer_13 : decode cX4_pointer 13 = .ok (.iload_n 1, 1) := dk_27 (dk_at dksX4_pointer_0 13 rfl rfl)
theorem dX4_pointer_14 : decode cX4_pointer 14 = .ok (.iload 4, 2) := dk_21 4 (dk_at dksX4_pointer_0 14 rfl rfl)
theorem dX4_pointer_16 : decode cX4_pointer 16 = .ok (.invokevirtual 329, 3) := dk_182 1 73 (dk_at dksX4_pointer_0 16 rfl rfl)
theorem dX4_pointer_19 : decode cX4_pointer 19 = .ok (.iadd, 1) := dk_96 (dk_at dksX4_pointer_0 19 rfl rfl)
theorem dX4_pointer_20 : decode cX4_pointer 20 = .ok (.istore_n 3, 1) := dk_62 (dk_at dksX4_pointer_0 20 rfl rfl)
theorem dX4_pointer_21 : decode cX4_pointer 21 = .ok (.iinc 4 1, 3) := dk_132 4 1 (dk_at dksX4_pointer_0 21 rfl rfl)
theorem dX4_pointer_24 : decode cX4_pointer 24 = .ok (.goto (-19), 3) := dk_167 255 237 (dk_at dksX4_pointer_1 0 rfl rfl)
theorem dX4_pointer_27 : decode cX4_pointer 27 = .ok (.iload_n 3, 1) := dk_29 (dk_at dksX4_pointer_1 3 rfl rfl)
theorem dX4_pointer_28 : decode cX4_pointer 28 = .ok (.ireturn, 1) := dk_172 (dk_at dksX4_pointer_1 4 rfl rfl)
abbrev cX4_lengthOf : ByteArray := prog_23_method_78_code
def yX4_lengthOf : MethodName := ⟨RX4, "lengthOf", "(II)I"⟩
def dkwX4_lengthOf_1 : List UInt8 := [104, 28, 21, 4, 184, 0, 197, 96, 62, 132, 4, 1, 167, 255, 225, 29, 172]
abbrev dktX4_lengthOf_1 : List UInt8 := dkwX4_lengthOf_1 ++ []
def dkwX4_lengthOf_0 : List UInt8 := [3, 62, 3, 54, 4, 21, 4, 42, 27, 182, 1, 66, 162, 0, 27, 29, 42, 180, 0, 20, 17, 1, 34, 27]
abbrev dktX4_lengthOf_0 : List UInt8 := dkwX4_lengthOf_0 ++ dktX4_lengthOf_1
theorem dksX4_lengthOf_0 : cX4_lengthOf.data.toList.drop 0 = dktX4_lengthOf_0 := by decide +kernel
theorem dksX4_lengthOf_1 : cX4_lengthOf.data.toList.drop 24 = dktX4_lengthOf_1 := dk_seg dksX4_lengthOf_0 24 rfl rfl
theorem dX4_lengthOf_0 : decode cX4_lengthOf 0 = .ok (.iconst 0, 1) := dk_3 (dk_at dksX4_lengthOf_0 0 rfl rfl)
theorem dX4_lengthOf_1 : decode cX4_lengthOf 1 = .ok (.istore_n 3, 1) := dk_62 (dk_at dksX4_lengthOf_0 1 rfl rfl)
theorem dX4_lengthOf_2 : decode cX4_lengthOf 2 = .ok (.iconst 0, 1) := dk_3 (dk_at dksX4_lengthOf_0 2 rfl rfl)
theorem dX4_lengthOf_3 : decode cX4_lengthOf 3 = .ok (.istore 4, 2) := dk_54 4 (dk_at dksX4_lengthOf_0 3 rfl rfl)
theorem dX4_lengthOf_5 : decode cX4_lengthOf 5 = .ok (.iload 4, 2) := dk_21 4 (dk_at dksX4_lengthOf_0 5 rfl rfl)
theorem dX4_lengthOf_7 : decode cX4_lengthOf 7 = .ok (.aload_n 0, 1) := dk_42 (dk_at dksX4_lengthOf_0 7 rfl rfl)
theorem dX4_lengthOf_8 : decode cX4_lengthOf 8 = .ok (.iload_n 1, 1) := dk_27 (dk_at dksX4_lengthOf_0 8 rfl rfl)
theorem dX4_lengthOf_9 : decode cX4_lengthOf 9 = .ok (.invokevirtual 322, 3) := dk_182 1 66 (dk_at dksX4_lengthOf_0 9 rfl rfl)
theorem dX4_lengthOf_12 : decode cX4_lengthOf 12 = .ok (.if_icmp .ge 27, 3) := dk_162 0 27 (dk_at dksX4_lengthOf_0 12 rfl rfl)
theorem dX4_lengthOf_15 : decode cX4_lengthOf 15 = .ok (.iload_n 3, 1) := dk_29 (dk_at dksX4_lengthOf_0 15 rfl rfl)
theorem dX4_lengthOf_16 : decode cX4_lengthOf 16 = .ok (.aload_n 0, 1) := dk_42 (dk_at dksX4_lengthOf_0 16 rfl rfl)
theorem dX4_lengthOf_17 : decode cX4_lengthOf 17 = .ok (.getfield 20, 3) := dk_180 0 20 (dk_at dksX4_lengthOf_0 17 rfl rfl)
theorem dX4_lengthOf_20 : decode cX4_lengthOf 20 = .ok (.sipush 290, 3) := dk_17 1 34 (dk_at dksX4_lengthOf_0 20 rfl rfl)
theorem dX4_lengthOf_23 : decode cX4_lengthOf 23 = .ok (.iload_n 1, 1) := dk_27 (dk_at dksX4_lengthOf_0 23 rfl rfl)
theorem dX4_lengthOf_24 : decode cX4_lengthOf 24 = .ok (.imul, 1) := dk_104 (dk_at dksX4_lengthOf_1 0 rfl rfl)
theorem dX4_lengthOf_25 : decode cX4_lengthOf 25 = .ok (.iload_n 2, 1) := dk_28 (dk_at dksX4_lengthOf_1 1 rfl rfl)
theorem dX4_lengthOf_26 : decode cX4_lengthOf 26 = .ok (.iload 4, 2) := dk_21 4 (dk_at dksX4_lengthOf_1 2 rfl rfl)
theorem dX4_lengthOf_28 : decode cX4_lengthOf 28 = .ok (.invokestatic 197, 3) := dk_184 0 197 (dk_at dksX4_lengthOf_1 4 rfl rfl)
theorem dX4_lengthOf_31 : decode cX4_lengthOf 31 = .ok (.iadd, 1) := dk_96 (dk_at dksX4_lengthOf_1 7 rfl rfl)
theorem dX4_lengthOf_32 : decode cX4_lengthOf 32 = .ok (.istore_n 3, 1) := dk_62 (dk_at dksX4_lengthOf_1 8 rfl rfl)
theorem dX4_lengthOf_33 : decode cX4_lengthOf 33 = .ok (.iinc 4 1, 3) := dk_132 4 1 (dk_at dksX4_lengthOf_1 9 rfl rfl)
theorem dX4_lengthOf_36 : decode cX4_lengthOf 36 = .ok (.goto (-31), 3) := dk_167 255 225 (dk_at dksX4_lengthOf_1 12 rfl rfl)
theorem dX4_lengthOf_39 : decode cX4_lengthOf 39 = .ok (.iload_n 3, 1) := dk_29 (dk_at dksX4_lengthOf_1 15 rfl rfl)
theorem dX4_lengthOf_40 : decode cX4_lengthOf 40 = .ok (.ireturn, 1) := dk_172 (dk_at dksX4_lengthOf_1 16 rfl rfl)
abbrev cX4_columns : ByteArray := prog_23_method_73_code
def yX4_columns : MethodName := ⟨RX4, "columns", "(I)I"⟩
def dkwX4_columns_0 : List UInt8 := [42, 180, 0, 20, 17, 1, 34, 27, 104, 4, 96, 46, 172]
abbrev dktX4_columns_0 : List UInt8 := dkwX4_columns_0 ++ []
theorem dksX4_columns_0 : cX4_columns.data.toList.drop 0 = dktX4_columns_0 := by decide +kernel
theorem dX4_columns_0 : decode cX4_columns 0 = .ok (.aload_n 0, 1) := dk_42 (dk_at dksX4_columns_0 0 rfl rfl)
theorem dX4_columns_1 : decode cX4_columns 1 = .ok (.getfield 20, 3) := dk_180 0 20 (dk_at dksX4_columns_0 1 rfl rfl)
theorem dX4_columns_4 : decode cX4_columns 4 = .ok (.sipush 290, 3) := dk_17 1 34 (dk_at dksX4_columns_0 4 rfl rfl)
theorem dX4_columns_7 : decode cX4_columns 7 = .ok (.iload_n 1, 1) := dk_27 (dk_at dksX4_columns_0 7 rfl rfl)
theorem dX4_columns_8 : decode cX4_columns 8 = .ok (.imul, 1) := dk_104 (dk_at dksX4_columns_0 8 rfl rfl)
theorem dX4_columns_9 : decode cX4_columns 9 = .ok (.iconst 1, 1) := dk_4 (dk_at dksX4_columns_0 9 rfl rfl)
theorem dX4_columns_10 : decode cX4_columns 10 = .ok (.iadd, 1) := dk_96 (dk_at dksX4_columns_0 10 rfl rfl)
theorem dX4_columns_11 : decode cX4_columns 11 = .ok (.iaload, 1) := dk_46 (dk_at dksX4_columns_0 11 rfl rfl)
theorem dX4_columns_12 : decode cX4_columns 12 = .ok (.ireturn, 1) := dk_172 (dk_at dksX4_columns_0 12 rfl rfl)
abbrev cX4_flag : ByteArray := prog_23_method_39_code
def yX4_flag : MethodName := ⟨RX4, "flag", "([IIII)I"⟩
def dkwX4_flag_0 : List UInt8 := [42, 27, 5, 96, 28, 29, 184, 0, 178, 96, 46, 172]
abbrev dktX4_flag_0 : List UInt8 := dkwX4_flag_0 ++ []
theorem dksX4_flag_0 : cX4_flag.data.toList.drop 0 = dktX4_flag_0 := by decide +kernel
theorem dX4_flag_0 : decode cX4_flag 0 = .ok (.aload_n 0, 1) := dk_42 (dk_at dksX4_flag_0 0 rfl rfl)
theorem dX4_flag_1 : decode cX4_flag 1 = .ok (.iload_n 1, 1) := dk_27 (dk_at dksX4_flag_0 1 rfl rfl)
theorem dX4_flag_2 : decode cX4_flag 2 = .ok (.iconst 2, 1) := dk_5 (dk_at dksX4_flag_0 2 rfl rfl)
theorem dX4_flag_3 : decode cX4_flag 3 = .ok (.iadd, 1) := dk_96 (dk_at dksX4_flag_0 3 rfl rfl)
theorem dX4_flag_4 : decode cX4_flag 4 = .ok (.iload_n 2, 1) := dk_28 (dk_at dksX4_flag_0 4 rfl rfl)
theorem dX4_flag_5 : decode cX4_flag 5 = .ok (.iload_n 3, 1) := dk_29 (dk_at dksX4_flag_0 5 rfl rfl)
theorem dX4_flag_6 : decode cX4_flag 6 = .ok (.invokestatic 178, 3) := dk_184 0 178 (dk_at dksX4_flag_0 6 rfl rfl)
theorem dX4_flag_9 : decode cX4_flag 9 = .ok (.iadd, 1) := dk_96 (dk_at dksX4_flag_0 9 rfl rfl)
theorem dX4_flag_10 : decode cX4_flag 10 = .ok (.iaload, 1) := dk_46 (dk_at dksX4_flag_0 10 rfl rfl)
theorem dX4_flag_11 : decode cX4_flag 11 = .ok (.ireturn, 1) := dk_172 (dk_at dksX4_flag_0 11 rfl rfl)
abbrev cX4_entry : ByteArray := prog_23_method_37_code
def yX4_entry : MethodName := ⟨RX4, "entry", "(II)I"⟩
def dkwX4_entry_0 : List UInt8 := [16, 12, 26, 104, 27, 96, 172]
abbrev dktX4_entry_0 : List UInt8 := dkwX4_entry_0 ++ []
theorem dksX4_entry_0 : cX4_entry.data.toList.drop 0 = dktX4_entry_0 := by decide +kernel
theorem dX4_entry_0 : decode cX4_entry 0 = .ok (.bipush 12, 2) := dk_16 12 (dk_at dksX4_entry_0 0 rfl rfl)
theorem dX4_entry_2 : decode cX4_entry 2 = .ok (.iload_n 0, 1) := dk_26 (dk_at dksX4_entry_0 2 rfl rfl)
theorem dX4_entry_3 : decode cX4_entry 3 = .ok (.imul, 1) := dk_104 (dk_at dksX4_entry_0 3 rfl rfl)
theorem dX4_entry_4 : decode cX4_entry 4 = .ok (.iload_n 1, 1) := dk_27 (dk_at dksX4_entry_0 4 rfl rfl)
theorem dX4_entry_5 : decode cX4_entry 5 = .ok (.iadd, 1) := dk_96 (dk_at dksX4_entry_0 5 rfl rfl)
theorem dX4_entry_6 : decode cX4_entry 6 = .ok (.ireturn, 1) := dk_172 (dk_at dksX4_entry_0 6 rfl rfl)
abbrev cX4_restoreState : ByteArray := prog_23_method_36_code
def yX4_restoreState : MethodName := ⟨RX4, "restoreState", "()I"⟩
def dkwX4_restoreState_1 : List UInt8 := [17, 4, 137, 184, 0, 160, 42, 3, 181, 0, 164, 42, 182, 0, 174, 172]
abbrev dktX4_restoreState_1 : List UInt8 := dkwX4_restoreState_1 ++ []
def dkwX4_restoreState_0 : List UInt8 := [42, 42, 180, 0, 170, 182, 0, 87, 154, 0, 5, 3, 172, 42, 180, 0, 23, 3, 42, 180, 0, 20, 3]
abbrev dktX4_restoreState_0 : List UInt8 := dkwX4_restoreState_0 ++ dktX4_restoreState_1
theorem dksX4_restoreState_0 : cX4_restoreState.data.toList.drop 0 = dktX4_restoreState_0 := by decide +kernel
theorem dksX4_restoreState_1 : cX4_restoreState.data.toList.drop 23 = dktX4_restoreState_1 := dk_seg dksX4_restoreState_0 23 rfl rfl
theorem dX4_restoreState_0 : decode cX4_restoreState 0 = .ok (.aload_n 0, 1) := dk_42 (dk_at dksX4_restoreState_0 0 rfl rfl)
theorem dX4_restoreState_1 : decode cX4_restoreState 1 = .ok (.aload_n 0, 1) := dk_42 (dk_at dksX4_restoreState_0 1 rfl rfl)
theorem dX4_restoreState_2 : decode cX4_restoreState 2 = .ok (.getfield 170, 3) := dk_180 0 170 (dk_at dksX4_restoreState_0 2 rfl rfl)
theorem dX4_restoreState_5 : decode cX4_restoreState 5 = .ok (.invokevirtual 87, 3) := dk_182 0 87 (dk_at dksX4_restoreState_0 5 rfl rfl)
theorem dX4_restoreState_8 : decode cX4_restoreState 8 = .ok (.ifCond .ne 5, 3) := dk_154 0 5 (dk_at dksX4_restoreState_0 8 rfl rfl)
theorem dX4_restoreState_11 : decode cX4_restoreState 11 = .ok (.iconst 0, 1) := dk_3 (dk_at dksX4_restoreState_0 11 rfl rfl)
theorem dX4_restoreState_12 : decode cX4_restoreState 12 = .ok (.ireturn, 1) := dk_172 (dk_at dksX4_restoreState_0 12 rfl rfl)
theorem dX4_restoreState_13 : decode cX4_restoreState 13 = .ok (.aload_n 0, 1) := dk_42 (dk_at dksX4_restoreState_0 13 rfl rfl)
theorem dX4_restoreState_14 : decode cX4_restoreState 14 = .ok (.getfield 23, 3) := dk_180 0 23 (dk_at dksX4_restoreState_0 14 rfl rfl)
theorem dX4_restoreState_17 : decode cX4_restoreState 17 = .ok (.iconst 0, 1) := dk_3 (dk_at dksX4_restoreState_0 17 rfl rfl)
theorem dX4_restoreState_18 : decode cX4_restoreState 18 = .ok (.aload_n 0, 1) := dk_42 (dk_at dksX4_restoreState_0 18 rfl rfl)
theorem dX4_restoreState_19 : decode cX4_restoreState 19 = .ok (.getfield 20, 3) := dk_180 0 20 (dk_at dksX4_restoreState_0 19 rfl rfl)
theorem dX4_restoreState_22 : decode cX4_restoreState 22 = .ok (.iconst 0, 1) := dk_3 (dk_at dksX4_restoreState_0 22 rfl rfl)
theorem dX4_restoreState_23 : decode cX4_restoreState 23 = .ok (.sipush 1161, 3) := dk_17 4 137 (dk_at dksX4_restoreState_1 0 rfl rfl)
theorem dX4_restoreState_26 : decode cX4_restoreState 26 = .ok (.invokestatic 160, 3) := dk_184 0 160 (dk_at dksX4_restoreState_1 3 rfl rfl)
theorem dX4_restoreState_29 : decode cX4_restoreState 29 = .ok (.aload_n 0, 1) := dk_42 (dk_at dksX4_restoreState_1 6 rfl rfl)
theorem dX4_restoreState_30 : decode cX4_restoreState 30 = .ok (.iconst 0, 1) := dk_3 (dk_at dksX4_restoreState_1 7 rfl rfl)
theorem dX4_restoreState_31 : decode cX4_restoreState 31 = .ok (.putfield 164, 3) := dk_181 0 164 (dk_at dksX4_restoreState_1 8 rfl rfl)
theorem dX4_restoreState_34 : decode cX4_restoreState 34 = .ok (.aload_n 0, 1) := dk_42 (dk_at dksX4_restoreState_1 11 rfl rfl)
theorem dX4_restoreState_35 : decode cX4_restoreState 35 = .ok (.invokevirtual 174, 3) := dk_182 0 174 (dk_at dksX4_restoreState_1 12 rfl rfl)
theorem dX4_restoreState_38 : decode cX4_restoreState 38 = .ok (.ireturn, 1) := dk_172 (dk_at dksX4_restoreState_1 15 rfl rfl)
abbrev cX4_create : ByteArray := prog_23_method_90_code
def yX4_create : MethodName := ⟨RX4, "create", "(III)I"⟩
def dkwX4_create_1 : List UInt8 := [182, 1, 98, 154, 0, 5, 3, 172, 42, 182, 1, 102, 42, 42, 27, 28, 29, 182, 1, 105, 182, 1, 108, 172]
abbrev dktX4_create_1 : List UInt8 := dkwX4_create_1 ++ []
def dkwX4_create_0 : List UInt8 := [42, 27, 184, 1, 57, 28, 184, 1, 95, 153, 0, 14, 29, 184, 1, 95, 153, 0, 7, 4, 167, 0, 4, 3]
abbrev dktX4_create_0 : List UInt8 := dkwX4_create_0 ++ dktX4_create_1
theorem dksX4_create_0 : cX4_create.data.toList.drop 0 = dktX4_create_0 := by decide +kernel
theorem dksX4_create_1 : cX4_create.data.toList.drop 24 = dktX4_create_1 := dk_seg dksX4_create_0 24 rfl rfl
theorem dX4_create_0 : decode cX4_create 0 = .ok (.aload_n 0, 1) := dk_42 (dk_at dksX4_create_0 0 rfl rfl)
theorem dX4_create_1 : decode cX4_create 1 = .ok (.iload_n 1, 1) := dk_27 (dk_at dksX4_create_0 1 rfl rfl)
theorem dX4_create_2 : decode cX4_create 2 = .ok (.invokestatic 313, 3) := dk_184 1 57 (dk_at dksX4_create_0 2 rfl rfl)
theorem dX4_create_5 : decode cX4_create 5 = .ok (.iload_n 2, 1) := dk_28 (dk_at dksX4_create_0 5 rfl rfl)
theorem dX4_create_6 : decode cX4_create 6 = .ok (.invokestatic 351, 3) := dk_184 1 95 (dk_at dksX4_create_0 6 rfl rfl)
theorem dX4_create_9 : decode cX4_create 9 = .ok (.ifCond .eq 14, 3) := dk_153 0 14 (dk_at dksX4_create_0 9 rfl rfl)
theorem dX4_create_12 : decode cX4_create 12 = .ok (.iload_n 3, 1) := dk_29 (dk_at dksX4_create_0 12 rfl rfl)
theorem dX4_create_13 : decode cX4_create 13 = .ok (.invokestatic 351, 3) := dk_184 1 95 (dk_at dksX4_create_0 13 rfl rfl)
theorem dX4_create_16 : decode cX4_create 16 = .ok (.ifCond .eq 7, 3) := dk_153 0 7 (dk_at dksX4_create_0 16 rfl rfl)
theorem dX4_create_19 : decode cX4_create 19 = .ok (.iconst 1, 1) := dk_4 (dk_at dksX4_create_0 19 rfl rfl)
theorem dX4_create_20 : decode cX4_create 20 = .ok (.goto 4, 3) := dk_167 0 4 (dk_at dksX4_create_0 20 rfl rfl)
theorem dX4_create_23 : decode cX4_create 23 = .ok (.iconst 0, 1) := dk_3 (dk_at dksX4_create_0 23 rfl rfl)
theorem dX4_create_24 : decode cX4_create 24 = .ok (.invokevirtual 354, 3) := dk_182 1 98 (dk_at dksX4_create_1 0 rfl rfl)
theorem dX4_create_27 : decode cX4_create 27 = .ok (.ifCond .ne 5, 3) := dk_154 0 5 (dk_at dksX4_create_1 3 rfl rfl)
theorem dX4_create_30 : decode cX4_create 30 = .ok (.iconst 0, 1) := dk_3 (dk_at dksX4_create_1 6 rfl rfl)
theorem dX4_create_31 : decode cX4_create 31 = .ok (.ireturn, 1) := dk_172 (dk_at dksX4_create_1 7 rfl rfl)
theorem dX4_create_32 : decode cX4_create 32 = .ok (.aload_n 0, 1) := dk_42 (dk_at dksX4_create_1 8 rfl rfl)
theorem dX4_create_33 : decode cX4_create 33 = .ok (.invokevirtual 358, 3) := dk_182 1 102 (dk_at dksX4_create_1 9 rfl rfl)
theorem dX4_create_36 : decode cX4_create 36 = .ok (.aload_n 0, 1) := dk_42 (dk_at dksX4_create_1 12 rfl rfl)
theorem dX4_create_37 : decode cX4_create 37 = .ok (.aload_n 0, 1) := dk_42 (dk_at dksX4_create_1 13 rfl rfl)
theorem dX4_create_38 : decode cX4_create 38 = .ok (.iload_n 1, 1) := dk_27 (dk_at dksX4_create_1 14 rfl rfl)
theorem dX4_create_39 : decode cX4_create 39 = .ok (.iload_n 2, 1) := dk_28 (dk_at dksX4_create_1 15 rfl rfl)
theorem dX4_create_40 : decode cX4_create 40 = .ok (.iload_n 3, 1) := dk_29 (dk_at dksX4_create_1 16 rfl rfl)
theorem dX4_create_41 : decode cX4_create 41 = .ok (.invokevirtual 361, 3) := dk_182 1 105 (dk_at dksX4_create_1 17 rfl rfl)
theorem dX4_create_44 : decode cX4_create 44 = .ok (.invokevirtual 364, 3) := dk_182 1 108 (dk_at dksX4_create_1 20 rfl rfl)
theorem dX4_create_47 : decode cX4_create 47 = .ok (.ireturn, 1) := dk_172 (dk_at dksX4_create_1 23 rfl rfl)
abbrev cX4_isRegister : ByteArray := prog_23_method_71_code
def yX4_isRegister : MethodName := ⟨RX4, "isRegister", "(I)Z"⟩
def dkwX4_isRegister_0 : List UInt8 := [26, 133, 9, 20, 1, 55, 184, 0, 95, 172]
abbrev dktX4_isRegister_0 : List UInt8 := dkwX4_isRegister_0 ++ []
theorem dksX4_isRegister_0 : cX4_isRegister.data.toList.drop 0 = dktX4_isRegister_0 := by decide +kernel
theorem dX4_isRegister_0 : decode cX4_isRegister 0 = .ok (.iload_n 0, 1) := dk_26 (dk_at dksX4_isRegister_0 0 rfl rfl)
theorem dX4_isRegister_1 : decode cX4_isRegister 1 = .ok (.i2l, 1) := dk_133 (dk_at dksX4_isRegister_0 1 rfl rfl)
theorem dX4_isRegister_2 : decode cX4_isRegister 2 = .ok (.lconst 0, 1) := dk_9 (dk_at dksX4_isRegister_0 2 rfl rfl)
theorem dX4_isRegister_3 : decode cX4_isRegister 3 = .ok (.ldc2_w 311, 3) := dk_20 1 55 (dk_at dksX4_isRegister_0 3 rfl rfl)
theorem dX4_isRegister_6 : decode cX4_isRegister 6 = .ok (.invokestatic 95, 3) := dk_184 0 95 (dk_at dksX4_isRegister_0 6 rfl rfl)
theorem dX4_isRegister_9 : decode cX4_isRegister 9 = .ok (.ireturn, 1) := dk_172 (dk_at dksX4_isRegister_0 9 rfl rfl)
abbrev cX4_isSide : ByteArray := prog_23_method_83_code
def yX4_isSide : MethodName := ⟨RX4, "isSide", "(I)Z"⟩
def dkwX4_isSide_0 : List UInt8 := [26, 133, 10, 20, 0, 191, 184, 0, 95, 172]
abbrev dktX4_isSide_0 : List UInt8 := dkwX4_isSide_0 ++ []
theorem dksX4_isSide_0 : cX4_isSide.data.toList.drop 0 = dktX4_isSide_0 := by decide +kernel
theorem dX4_isSide_0 : decode cX4_isSide 0 = .ok (.iload_n 0, 1) := dk_26 (dk_at dksX4_isSide_0 0 rfl rfl)
theorem dX4_isSide_1 : decode cX4_isSide 1 = .ok (.i2l, 1) := dk_133 (dk_at dksX4_isSide_0 1 rfl rfl)
theorem dX4_isSide_2 : decode cX4_isSide 2 = .ok (.lconst 1, 1) := dk_10 (dk_at dksX4_isSide_0 2 rfl rfl)
theorem dX4_isSide_3 : decode cX4_isSide 3 = .ok (.ldc2_w 191, 3) := dk_20 0 191 (dk_at dksX4_isSide_0 3 rfl rfl)
theorem dX4_isSide_6 : decode cX4_isSide 6 = .ok (.invokestatic 95, 3) := dk_184 0 95 (dk_at dksX4_isSide_0 6 rfl rfl)
theorem dX4_isSide_9 : decode cX4_isSide 9 = .ok (.ireturn, 1) := dk_172 (dk_at dksX4_isSide_0 9 rfl rfl)
abbrev cX4_goesBoth : ByteArray := prog_23_method_7_code
def yX4_goesBoth : MethodName := ⟨RX4, "goesBoth", "(ZZ)Z"⟩
def dkwX4_goesBoth_1 : List UInt8 := [180, 0, 77, 154, 0, 7, 4, 167, 0, 4, 3, 172]
abbrev dktX4_goesBoth_1 : List UInt8 := dkwX4_goesBoth_1 ++ []
def dkwX4_goesBoth_0 : List UInt8 := [42, 27, 154, 0, 7, 4, 167, 0, 12, 28, 154, 0, 7, 5, 167, 0, 4, 3, 181, 0, 77, 42]
abbrev dktX4_goesBoth_0 : List UInt8 := dkwX4_goesBoth_0 ++ dktX4_goesBoth_1
theorem dksX4_goesBoth_0 : cX4_goesBoth.data.toList.drop 0 = dktX4_goesBoth_0 := by decide +kernel
theorem dksX4_goesBoth_1 : cX4_goesBoth.data.toList.drop 22 = dktX4_goesBoth_1 := dk_seg dksX4_goesBoth_0 22 rfl rfl
theorem dX4_goesBoth_0 : decode cX4_goesBoth 0 = .ok (.aload_n 0, 1) := dk_42 (dk_at dksX4_goesBoth_0 0 rfl rfl)
theorem dX4_goesBoth_1 : decode cX4_goesBoth 1 = .ok (.iload_n 1, 1) := dk_27 (dk_at dksX4_goesBoth_0 1 rfl rfl)
theorem dX4_goesBoth_2 : decode cX4_goesBoth 2 = .ok (.ifCond .ne 7, 3) := dk_154 0 7 (dk_at dksX4_goesBoth_0 2 rfl rfl)
theorem dX4_goesBoth_5 : decode cX4_goesBoth 5 = .ok (.iconst 1, 1) := dk_4 (dk_at dksX4_goesBoth_0 5 rfl rfl)
theorem dX4_goesBoth_6 : decode cX4_goesBoth 6 = .ok (.goto 12, 3) := dk_167 0 12 (dk_at dksX4_goesBoth_0 6 rfl rfl)
theorem dX4_goesBoth_9 : decode cX4_goesBoth 9 = .ok (.iload_n 2, 1) := dk_28 (dk_at dksX4_goesBoth_0 9 rfl rfl)
theorem dX4_goesBoth_10 : decode cX4_goesBoth 10 = .ok (.ifCond .ne 7, 3) := dk_154 0 7 (dk_at dksX4_goesBoth_0 10 rfl rfl)
theorem dX4_goesBoth_13 : decode cX4_goesBoth 13 = .ok (.iconst 2, 1) := dk_5 (dk_at dksX4_goesBoth_0 13 rfl rfl)
theorem dX4_goesBoth_14 : decode cX4_goesBoth 14 = .ok (.goto 4, 3) := dk_167 0 4 (dk_at dksX4_goesBoth_0 14 rfl rfl)
theorem dX4_goesBoth_17 : decode cX4_goesBoth 17 = .ok (.iconst 0, 1) := dk_3 (dk_at dksX4_goesBoth_0 17 rfl rfl)
theorem dX4_goesBoth_18 : decode cX4_goesBoth 18 = .ok (.putfield 77, 3) := dk_181 0 77 (dk_at dksX4_goesBoth_0 18 rfl rfl)
theorem dX4_goesBoth_21 : decode cX4_goesBoth 21 = .ok (.aload_n 0, 1) := dk_42 (dk_at dksX4_goesBoth_0 21 rfl rfl)
theorem dX4_goesBoth_22 : decode cX4_goesBoth 22 = .ok (.getfield 77, 3) := dk_180 0 77 (dk_at dksX4_goesBoth_1 0 rfl rfl)
theorem dX4_goesBoth_25 : decode cX4_goesBoth 25 = .ok (.ifCond .ne 7, 3) := dk_154 0 7 (dk_at dksX4_goesBoth_1 3 rfl rfl)
theorem dX4_goesBoth_28 : decode cX4_goesBoth 28 = .ok (.iconst 1, 1) := dk_4 (dk_at dksX4_goesBoth_1 6 rfl rfl)
theorem dX4_goesBoth_29 : decode cX4_goesBoth 29 = .ok (.goto 4, 3) := dk_167 0 4 (dk_at dksX4_goesBoth_1 7 rfl rfl)
theorem dX4_goesBoth_32 : decode cX4_goesBoth 32 = .ok (.iconst 0, 1) := dk_3 (dk_at dksX4_goesBoth_1 10 rfl rfl)
theorem dX4_goesBoth_33 : decode cX4_goesBoth 33 = .ok (.ireturn, 1) := dk_172 (dk_at dksX4_goesBoth_1 11 rfl rfl)
abbrev cX4_laysAside : ByteArray := prog_23_method_30_code
def yX4_laysAside : MethodName := ⟨RX4, "laysAside", "()V"⟩
def dkwX4_laysAside_0 : List UInt8 := [42, 180, 0, 20, 3, 42, 180, 0, 26, 3, 17, 4, 137, 184, 0, 160, 177]
abbrev dktX4_laysAside_0 : List UInt8 := dkwX4_laysAside_0 ++ []
theorem dksX4_laysAside_0 : cX4_laysAside.data.toList.drop 0 = dktX4_laysAside_0 := by decide +kernel
theorem dX4_laysAside_0 : decode cX4_laysAside 0 = .ok (.aload_n 0, 1) := dk_42 (dk_at dksX4_laysAside_0 0 rfl rfl)
theorem dX4_laysAside_1 : decode cX4_laysAside 1 = .ok (.getfield 20, 3) := dk_180 0 20 (dk_at dksX4_laysAside_0 1 rfl rfl)
theorem dX4_laysAside_4 : decode cX4_laysAside 4 = .ok (.iconst 0, 1) := dk_3 (dk_at dksX4_laysAside_0 4 rfl rfl)
theorem dX4_laysAside_5 : decode cX4_laysAside 5 = .ok (.aload_n 0, 1) := dk_42 (dk_at dksX4_laysAside_0 5 rfl rfl)
theorem dX4_laysAside_6 : decode cX4_laysAside 6 = .ok (.getfield 26, 3) := dk_180 0 26 (dk_at dksX4_laysAside_0 6 rfl rfl)
theorem dX4_laysAside_9 : decode cX4_laysAside 9 = .ok (.iconst 0, 1) := dk_3 (dk_at dksX4_laysAside_0 9 rfl rfl)
theorem dX4_laysAside_10 : decode cX4_laysAside 10 = .ok (.sipush 1161, 3) := dk_17 4 137 (dk_at dksX4_laysAside_0 10 rfl rfl)
theorem dX4_laysAside_13 : decode cX4_laysAside 13 = .ok (.invokestatic 160, 3) := dk_184 0 160 (dk_at dksX4_laysAside_0 13 rfl rfl)
theorem dX4_laysAside_16 : decode cX4_laysAside 16 = .ok (.return_, 1) := dk_177 (dk_at dksX4_laysAside_0 16 rfl rfl)
abbrev cX4_creates : ByteArray := prog_23_method_84_code
def yX4_creates : MethodName := ⟨RX4, "creates", "(III)I"⟩
def dkwX4_creates_0 : List UInt8 := [42, 180, 0, 20, 17, 1, 34, 27, 104, 28, 29, 184, 0, 156, 28, 29, 104, 172]
abbrev dktX4_creates_0 : List UInt8 := dkwX4_creates_0 ++ []
theorem dksX4_creates_0 : cX4_creates.data.toList.drop 0 = dktX4_creates_0 := by decide +kernel
theorem dX4_creates_0 : decode cX4_creates 0 = .ok (.aload_n 0, 1) := dk_42 (dk_at dksX4_creates_0 0 rfl rfl)
theorem dX4_creates_1 : decode cX4_creates 1 = .ok (.getfield 20, 3) := dk_180 0 20 (dk_at dksX4_creates_0 1 rfl rfl)
theorem dX4_creates_4 : decode cX4_creates 4 = .ok (.sipush 290, 3) := dk_17 1 34 (dk_at dksX4_creates_0 4 rfl rfl)
theorem dX4_creates_7 : decode cX4_creates 7 = .ok (.iload_n 1, 1) := dk_27 (dk_at dksX4_creates_0 7 rfl rfl)
theorem dX4_creates_8 : decode cX4_creates 8 = .ok (.imul, 1) := dk_104 (dk_at dksX4_creates_0 8 rfl rfl)
theorem dX4_creates_9 : decode cX4_creates 9 = .ok (.iload_n 2, 1) := dk_28 (dk_at dksX4_creates_0 9 rfl rfl)
theorem dX4_creates_10 : decode cX4_creates 10 = .ok (.iload_n 3, 1) := dk_29 (dk_at dksX4_creates_0 10 rfl rfl)
theorem dX4_creates_11 : decode cX4_creates 11 = .ok (.invokestatic 156, 3) := dk_184 0 156 (dk_at dksX4_creates_0 11 rfl rfl)
theorem dX4_creates_14 : decode cX4_creates 14 = .ok (.iload_n 2, 1) := dk_28 (dk_at dksX4_creates_0 14 rfl rfl)
theorem dX4_creates_15 : decode cX4_creates 15 = .ok (.iload_n 3, 1) := dk_29 (dk_at dksX4_creates_0 15 rfl rfl)
theorem dX4_creates_16 : decode cX4_creates 16 = .ok (.imul, 1) := dk_104 (dk_at dksX4_creates_0 16 rfl rfl)
theorem dX4_creates_17 : decode cX4_creates 17 = .ok (.ireturn, 1) := dk_172 (dk_at dksX4_creates_0 17 rfl rfl)
abbrev cX4_kept : ByteArray := prog_23_method_33_code
def yX4_kept : MethodName := ⟨RX4, "kept", "(I)I"⟩
def dkwX4_kept_0 : List UInt8 := [42, 182, 0, 167, 27, 172]
abbrev dktX4_kept_0 : List UInt8 := dkwX4_kept_0 ++ []
theorem dksX4_kept_0 : cX4_kept.data.toList.drop 0 = dktX4_kept_0 := by decide +kernel
theorem dX4_kept_0 : decode cX4_kept 0 = .ok (.aload_n 0, 1) := dk_42 (dk_at dksX4_kept_0 0 rfl rfl)
theorem dX4_kept_1 : decode cX4_kept 1 = .ok (.invokevirtual 167, 3) := dk_182 0 167 (dk_at dksX4_kept_0 1 rfl rfl)
theorem dX4_kept_4 : decode cX4_kept 4 = .ok (.iload_n 1, 1) := dk_27 (dk_at dksX4_kept_0 4 rfl rfl)
theorem dX4_kept_5 : decode cX4_kept 5 = .ok (.ireturn, 1) := dk_172 (dk_at dksX4_kept_0 5 rfl rfl)
abbrev cX4_keeps : ByteArray := prog_23_method_32_code
def yX4_keeps : MethodName := ⟨RX4, "keeps", "()V"⟩
def dkwX4_keeps_3 : List UInt8 := [180, 0, 164, 104, 17, 4, 137, 184, 0, 160, 42, 89, 180, 0, 164, 4, 96, 181, 0, 164, 177]
abbrev dktX4_keeps_3 : List UInt8 := dkwX4_keeps_3 ++ []
def dkwX4_keeps_2 : List UInt8 := [96, 46, 79, 132, 1, 1, 167, 255, 225, 42, 180, 0, 26, 3, 42, 180, 0, 29, 17, 4, 137, 42]
abbrev dktX4_keeps_2 : List UInt8 := dkwX4_keeps_2 ++ dktX4_keeps_3
def dkwX4_keeps_1 : List UInt8 := [17, 4, 137, 42, 180, 0, 164, 104, 162, 0, 25, 42, 180, 0, 29, 27, 42, 180, 0, 29, 27, 17, 4, 137]
abbrev dktX4_keeps_1 : List UInt8 := dkwX4_keeps_1 ++ dktX4_keeps_2
def dkwX4_keeps_0 : List UInt8 := [42, 180, 0, 164, 16, 6, 160, 0, 49, 42, 89, 180, 0, 164, 4, 100, 181, 0, 164, 3, 60, 27]
abbrev dktX4_keeps_0 : List UInt8 := dkwX4_keeps_0 ++ dktX4_keeps_1
theorem dksX4_keeps_0 : cX4_keeps.data.toList.drop 0 = dktX4_keeps_0 := by decide +kernel
theorem dksX4_keeps_1 : cX4_keeps.data.toList.drop 22 = dktX4_keeps_1 := dk_seg dksX4_keeps_0 22 rfl rfl
theorem dksX4_keeps_2 : cX4_keeps.data.toList.drop 46 = dktX4_keeps_2 := dk_seg dksX4_keeps_1 24 rfl rfl
theorem dksX4_keeps_3 : cX4_keeps.data.toList.drop 68 = dktX4_keeps_3 := dk_seg dksX4_keeps_2 22 rfl rfl
theorem dX4_keeps_0 : decode cX4_keeps 0 = .ok (.aload_n 0, 1) := dk_42 (dk_at dksX4_keeps_0 0 rfl rfl)
theorem dX4_keeps_1 : decode cX4_keeps 1 = .ok (.getfield 164, 3) := dk_180 0 164 (dk_at dksX4_keeps_0 1 rfl rfl)
theorem dX4_keeps_4 : decode cX4_keeps 4 = .ok (.bipush 6, 2) := dk_16 6 (dk_at dksX4_keeps_0 4 rfl rfl)
theorem dX4_keeps_6 : decode cX4_keeps 6 = .ok (.if_icmp .ne 49, 3) := dk_160 0 49 (dk_at dksX4_keeps_0 6 rfl rfl)
theorem dX4_keeps_9 : decode cX4_keeps 9 = .ok (.aload_n 0, 1) := dk_42 (dk_at dksX4_keeps_0 9 rfl rfl)
theorem dX4_keeps_10 : decode cX4_keeps 10 = .ok (.dup, 1) := dk_89 (dk_at dksX4_keeps_0 10 rfl rfl)
theorem dX4_keeps_11 : decode cX4_keeps 11 = .ok (.getfield 164, 3) := dk_180 0 164 (dk_at dksX4_keeps_0 11 rfl rfl)
theorem dX4_keeps_14 : decode cX4_keeps 14 = .ok (.iconst 1, 1) := dk_4 (dk_at dksX4_keeps_0 14 rfl rfl)
theorem dX4_keeps_15 : decode cX4_keeps 15 = .ok (.isub, 1) := dk_100 (dk_at dksX4_keeps_0 15 rfl rfl)
theorem dX4_keeps_16 : decode cX4_keeps 16 = .ok (.putfield 164, 3) := dk_181 0 164 (dk_at dksX4_keeps_0 16 rfl rfl)
theorem dX4_keeps_19 : decode cX4_keeps 19 = .ok (.iconst 0, 1) := dk_3 (dk_at dksX4_keeps_0 19 rfl rfl)
theorem dX4_keeps_20 : decode cX4_keeps 20 = .ok (.istore_n 1, 1) := dk_60 (dk_at dksX4_keeps_0 20 rfl rfl)
theorem dX4_keeps_21 : decode cX4_keeps 21 = .ok (.iload_n 1, 1) := dk_27 (dk_at dksX4_keeps_0 21 rfl rfl)
theorem dX4_keeps_22 : decode cX4_keeps 22 = .ok (.sipush 1161, 3) := dk_17 4 137 (dk_at dksX4_keeps_1 0 rfl rfl)
theorem dX4_keeps_25 : decode cX4_keeps 25 = .ok (.aload_n 0, 1) := dk_42 (dk_at dksX4_keeps_1 3 rfl rfl)
theorem dX4_keeps_26 : decode cX4_keeps 26 = .ok (.getfield 164, 3) := dk_180 0 164 (dk_at dksX4_keeps_1 4 rfl rfl)
theorem dX4_keeps_29 : decode cX4_keeps 29 = .ok (.imul, 1) := dk_104 (dk_at dksX4_keeps_1 7 rfl rfl)
theorem dX4_keeps_30 : decode cX4_keeps 30 = .ok (.if_icmp .ge 25, 3) := dk_162 0 25 (dk_at dksX4_keeps_1 8 rfl rfl)
theorem dX4_keeps_33 : decode cX4_keeps 33 = .ok (.aload_n 0, 1) := dk_42 (dk_at dksX4_keeps_1 11 rfl rfl)
theorem dX4_keeps_34 : decode cX4_keeps 34 = .ok (.getfield 29, 3) := dk_180 0 29 (dk_at dksX4_keeps_1 12 rfl rfl)
theorem dX4_keeps_37 : decode cX4_keeps 37 = .ok (.iload_n 1, 1) := dk_27 (dk_at dksX4_keeps_1 15 rfl rfl)
theorem dX4_keeps_38 : decode cX4_keeps 38 = .ok (.aload_n 0, 1) := dk_42 (dk_at dksX4_keeps_1 16 rfl rfl)
theorem dX4_keeps_39 : decode cX4_keeps 39 = .ok (.getfield 29, 3) := dk_180 0 29 (dk_at dksX4_keeps_1 17 rfl rfl)
theorem dX4_keeps_42 : decode cX4_keeps 42 = .ok (.iload_n 1, 1) := dk_27 (dk_at dksX4_keeps_1 20 rfl rfl)
theorem dX4_keeps_43 : decode cX4_keeps 43 = .ok (.sipush 1161, 3) := dk_17 4 137 (dk_at dksX4_keeps_1 21 rfl rfl)
theorem dX4_keeps_46 : decode cX4_keeps 46 = .ok (.iadd, 1) := dk_96 (dk_at dksX4_keeps_2 0 rfl rfl)
theorem dX4_keeps_47 : decode cX4_keeps 47 = .ok (.iaload, 1) := dk_46 (dk_at dksX4_keeps_2 1 rfl rfl)
theorem dX4_keeps_48 : decode cX4_keeps 48 = .ok (.iastore, 1) := dk_79 (dk_at dksX4_keeps_2 2 rfl rfl)
theorem dX4_keeps_49 : decode cX4_keeps 49 = .ok (.iinc 1 1, 3) := dk_132 1 1 (dk_at dksX4_keeps_2 3 rfl rfl)
theorem dX4_keeps_52 : decode cX4_keeps 52 = .ok (.goto (-31), 3) := dk_167 255 225 (dk_at dksX4_keeps_2 6 rfl rfl)
theorem dX4_keeps_55 : decode cX4_keeps 55 = .ok (.aload_n 0, 1) := dk_42 (dk_at dksX4_keeps_2 9 rfl rfl)
theorem dX4_keeps_56 : decode cX4_keeps 56 = .ok (.getfield 26, 3) := dk_180 0 26 (dk_at dksX4_keeps_2 10 rfl rfl)
theorem dX4_keeps_59 : decode cX4_keeps 59 = .ok (.iconst 0, 1) := dk_3 (dk_at dksX4_keeps_2 13 rfl rfl)
theorem dX4_keeps_60 : decode cX4_keeps 60 = .ok (.aload_n 0, 1) := dk_42 (dk_at dksX4_keeps_2 14 rfl rfl)
theorem dX4_keeps_61 : decode cX4_keeps 61 = .ok (.getfield 29, 3) := dk_180 0 29 (dk_at dksX4_keeps_2 15 rfl rfl)
theorem dX4_keeps_64 : decode cX4_keeps 64 = .ok (.sipush 1161, 3) := dk_17 4 137 (dk_at dksX4_keeps_2 18 rfl rfl)
theorem dX4_keeps_67 : decode cX4_keeps 67 = .ok (.aload_n 0, 1) := dk_42 (dk_at dksX4_keeps_2 21 rfl rfl)
theorem dX4_keeps_68 : decode cX4_keeps 68 = .ok (.getfield 164, 3) := dk_180 0 164 (dk_at dksX4_keeps_3 0 rfl rfl)
theorem dX4_keeps_71 : decode cX4_keeps 71 = .ok (.imul, 1) := dk_104 (dk_at dksX4_keeps_3 3 rfl rfl)
theorem dX4_keeps_72 : decode cX4_keeps 72 = .ok (.sipush 1161, 3) := dk_17 4 137 (dk_at dksX4_keeps_3 4 rfl rfl)
theorem dX4_keeps_75 : decode cX4_keeps 75 = .ok (.invokestatic 160, 3) := dk_184 0 160 (dk_at dksX4_keeps_3 7 rfl rfl)
theorem dX4_keeps_78 : decode cX4_keeps 78 = .ok (.aload_n 0, 1) := dk_42 (dk_at dksX4_keeps_3 10 rfl rfl)
theorem dX4_keeps_79 : decode cX4_keeps 79 = .ok (.dup, 1) := dk_89 (dk_at dksX4_keeps_3 11 rfl rfl)
theorem dX4_keeps_80 : decode cX4_keeps 80 = .ok (.getfield 164, 3) := dk_180 0 164 (dk_at dksX4_keeps_3 12 rfl rfl)
theorem dX4_keeps_83 : decode cX4_keeps 83 = .ok (.iconst 1, 1) := dk_4 (dk_at dksX4_keeps_3 15 rfl rfl)
theorem dX4_keeps_84 : decode cX4_keeps 84 = .ok (.iadd, 1) := dk_96 (dk_at dksX4_keeps_3 16 rfl rfl)
theorem dX4_keeps_85 : decode cX4_keeps 85 = .ok (.putfield 164, 3) := dk_181 0 164 (dk_at dksX4_keeps_3 17 rfl rfl)
theorem dX4_keeps_88 : decode cX4_keeps 88 = .ok (.return_, 1) := dk_177 (dk_at dksX4_keeps_3 20 rfl rfl)
abbrev cX4_set : ByteArray := prog_23_method_91_code
def yX4_set : MethodName := ⟨RX4, "set", "(IIII)I"⟩
def dkwX4_set_1 : List UInt8 := [154, 0, 5, 3, 172, 42, 182, 1, 102, 42, 42, 27, 28, 29, 21, 4, 182, 1, 115, 182, 1, 108, 172]
abbrev dktX4_set_1 : List UInt8 := dkwX4_set_1 ++ []
def dkwX4_set_0 : List UInt8 := [42, 42, 27, 28, 29, 182, 1, 69, 21, 4, 133, 20, 1, 111, 20, 1, 113, 184, 0, 95, 182, 1, 98]
abbrev dktX4_set_0 : List UInt8 := dkwX4_set_0 ++ dktX4_set_1
theorem dksX4_set_0 : cX4_set.data.toList.drop 0 = dktX4_set_0 := by decide +kernel
theorem dksX4_set_1 : cX4_set.data.toList.drop 23 = dktX4_set_1 := dk_seg dksX4_set_0 23 rfl rfl
theorem dX4_set_0 : decode cX4_set 0 = .ok (.aload_n 0, 1) := dk_42 (dk_at dksX4_set_0 0 rfl rfl)
theorem dX4_set_1 : decode cX4_set 1 = .ok (.aload_n 0, 1) := dk_42 (dk_at dksX4_set_0 1 rfl rfl)
theorem dX4_set_2 : decode cX4_set 2 = .ok (.iload_n 1, 1) := dk_27 (dk_at dksX4_set_0 2 rfl rfl)
theorem dX4_set_3 : decode cX4_set 3 = .ok (.iload_n 2, 1) := dk_28 (dk_at dksX4_set_0 3 rfl rfl)
theorem dX4_set_4 : decode cX4_set 4 = .ok (.iload_n 3, 1) := dk_29 (dk_at dksX4_set_0 4 rfl rfl)
theorem dX4_set_5 : decode cX4_set 5 = .ok (.invokevirtual 325, 3) := dk_182 1 69 (dk_at dksX4_set_0 5 rfl rfl)
theorem dX4_set_8 : decode cX4_set 8 = .ok (.iload 4, 2) := dk_21 4 (dk_at dksX4_set_0 8 rfl rfl)
theorem dX4_set_10 : decode cX4_set 10 = .ok (.i2l, 1) := dk_133 (dk_at dksX4_set_0 10 rfl rfl)
theorem dX4_set_11 : decode cX4_set 11 = .ok (.ldc2_w 367, 3) := dk_20 1 111 (dk_at dksX4_set_0 11 rfl rfl)
theorem dX4_set_14 : decode cX4_set 14 = .ok (.ldc2_w 369, 3) := dk_20 1 113 (dk_at dksX4_set_0 14 rfl rfl)
theorem dX4_set_17 : decode cX4_set 17 = .ok (.invokestatic 95, 3) := dk_184 0 95 (dk_at dksX4_set_0 17 rfl rfl)
theorem dX4_set_20 : decode cX4_set 20 = .ok (.invokevirtual 354, 3) := dk_182 1 98 (dk_at dksX4_set_0 20 rfl rfl)
theorem dX4_set_23 : decode cX4_set 23 = .ok (.ifCond .ne 5, 3) := dk_154 0 5 (dk_at dksX4_set_1 0 rfl rfl)
theorem dX4_set_26 : decode cX4_set 26 = .ok (.iconst 0, 1) := dk_3 (dk_at dksX4_set_1 3 rfl rfl)
theorem dX4_set_27 : decode cX4_set 27 = .ok (.ireturn, 1) := dk_172 (dk_at dksX4_set_1 4 rfl rfl)
theorem dX4_set_28 : decode cX4_set 28 = .ok (.aload_n 0, 1) := dk_42 (dk_at dksX4_set_1 5 rfl rfl)
theorem dX4_set_29 : decode cX4_set 29 = .ok (.invokevirtual 358, 3) := dk_182 1 102 (dk_at dksX4_set_1 6 rfl rfl)
theorem dX4_set_32 : decode cX4_set 32 = .ok (.aload_n 0, 1) := dk_42 (dk_at dksX4_set_1 9 rfl rfl)
theorem dX4_set_33 : decode cX4_set 33 = .ok (.aload_n 0, 1) := dk_42 (dk_at dksX4_set_1 10 rfl rfl)
theorem dX4_set_34 : decode cX4_set 34 = .ok (.iload_n 1, 1) := dk_27 (dk_at dksX4_set_1 11 rfl rfl)
theorem dX4_set_35 : decode cX4_set 35 = .ok (.iload_n 2, 1) := dk_28 (dk_at dksX4_set_1 12 rfl rfl)
theorem dX4_set_36 : decode cX4_set 36 = .ok (.iload_n 3, 1) := dk_29 (dk_at dksX4_set_1 13 rfl rfl)
theorem dX4_set_37 : decode cX4_set 37 = .ok (.iload 4, 2) := dk_21 4 (dk_at dksX4_set_1 14 rfl rfl)
theorem dX4_set_39 : decode cX4_set 39 = .ok (.invokevirtual 371, 3) := dk_182 1 115 (dk_at dksX4_set_1 16 rfl rfl)
theorem dX4_set_42 : decode cX4_set 42 = .ok (.invokevirtual 364, 3) := dk_182 1 108 (dk_at dksX4_set_1 19 rfl rfl)
theorem dX4_set_45 : decode cX4_set 45 = .ok (.ireturn, 1) := dk_172 (dk_at dksX4_set_1 22 rfl rfl)
abbrev cX4_isEntry : ByteArray := prog_23_method_75_code
def yX4_isEntry : MethodName := ⟨RX4, "isEntry", "(III)Z"⟩
def dkwX4_isEntry_1 : List UInt8 := [153, 0, 7, 4, 167, 0, 4, 3, 172]
abbrev dktX4_isEntry_1 : List UInt8 := dkwX4_isEntry_1 ++ []
def dkwX4_isEntry_0 : List UInt8 := [42, 27, 28, 182, 1, 63, 153, 0, 24, 29, 133, 9, 42, 27, 182, 1, 66, 4, 100, 133, 184, 0, 95]
abbrev dktX4_isEntry_0 : List UInt8 := dkwX4_isEntry_0 ++ dktX4_isEntry_1
theorem dksX4_isEntry_0 : cX4_isEntry.data.toList.drop 0 = dktX4_isEntry_0 := by decide +kernel
theorem dksX4_isEntry_1 : cX4_isEntry.data.toList.drop 23 = dktX4_isEntry_1 := dk_seg dksX4_isEntry_0 23 rfl rfl
theorem dX4_isEntry_0 : decode cX4_isEntry 0 = .ok (.aload_n 0, 1) := dk_42 (dk_at dksX4_isEntry_0 0 rfl rfl)
theorem dX4_isEntry_1 : decode cX4_isEntry 1 = .ok (.iload_n 1, 1) := dk_27 (dk_at dksX4_isEntry_0 1 rfl rfl)
theorem dX4_isEntry_2 : decode cX4_isEntry 2 = .ok (.iload_n 2, 1) := dk_28 (dk_at dksX4_isEntry_0 2 rfl rfl)
theorem dX4_isEntry_3 : decode cX4_isEntry 3 = .ok (.invokevirtual 319, 3) := dk_182 1 63 (dk_at dksX4_isEntry_0 3 rfl rfl)
theorem dX4_isEntry_6 : decode cX4_isEntry 6 = .ok (.ifCond .eq 24, 3) := dk_153 0 24 (dk_at dksX4_isEntry_0 6 rfl rfl)
theorem dX4_isEntry_9 : decode cX4_isEntry 9 = .ok (.iload_n 3, 1) := dk_29 (dk_at dksX4_isEntry_0 9 rfl rfl)
theorem dX4_isEntry_10 : decode cX4_isEntry 10 = .ok (.i2l, 1) := dk_133 (dk_at dksX4_isEntry_0 10 rfl rfl)
theorem dX4_isEntry_11 : decode cX4_isEntry 11 = .ok (.lconst 0, 1) := dk_9 (dk_at dksX4_isEntry_0 11 rfl rfl)
theorem dX4_isEntry_12 : decode cX4_isEntry 12 = .ok (.aload_n 0, 1) := dk_42 (dk_at dksX4_isEntry_0 12 rfl rfl)
theorem dX4_isEntry_13 : decode cX4_isEntry 13 = .ok (.iload_n 1, 1) := dk_27 (dk_at dksX4_isEntry_0 13 rfl rfl)
theorem dX4_isEntry_14 : decode cX4_isEntry 14 = .ok (.invokevirtual 322, 3) := dk_182 1 66 (dk_at dksX4_isEntry_0 14 rfl rfl)
theorem dX4_isEntry_17 : decode cX4_isEntry 17 = .ok (.iconst 1, 1) := dk_4 (dk_at dksX4_isEntry_0 17 rfl rfl)
theorem dX4_isEntry_18 : decode cX4_isEntry 18 = .ok (.isub, 1) := dk_100 (dk_at dksX4_isEntry_0 18 rfl rfl)
theorem dX4_isEntry_19 : decode cX4_isEntry 19 = .ok (.i2l, 1) := dk_133 (dk_at dksX4_isEntry_0 19 rfl rfl)
theorem dX4_isEntry_20 : decode cX4_isEntry 20 = .ok (.invokestatic 95, 3) := dk_184 0 95 (dk_at dksX4_isEntry_0 20 rfl rfl)
theorem dX4_isEntry_23 : decode cX4_isEntry 23 = .ok (.ifCond .eq 7, 3) := dk_153 0 7 (dk_at dksX4_isEntry_1 0 rfl rfl)
theorem dX4_isEntry_26 : decode cX4_isEntry 26 = .ok (.iconst 1, 1) := dk_4 (dk_at dksX4_isEntry_1 3 rfl rfl)
theorem dX4_isEntry_27 : decode cX4_isEntry 27 = .ok (.goto 4, 3) := dk_167 0 4 (dk_at dksX4_isEntry_1 4 rfl rfl)
theorem dX4_isEntry_30 : decode cX4_isEntry 30 = .ok (.iconst 0, 1) := dk_3 (dk_at dksX4_isEntry_1 7 rfl rfl)
theorem dX4_isEntry_31 : decode cX4_isEntry 31 = .ok (.ireturn, 1) := dk_172 (dk_at dksX4_isEntry_1 8 rfl rfl)
abbrev cX4_isRow : ByteArray := prog_23_method_74_code
def yX4_isRow : MethodName := ⟨RX4, "isRow", "(II)Z"⟩
def dkwX4_isRow_1 : List UInt8 := [4, 167, 0, 4, 3, 172]
abbrev dktX4_isRow_1 : List UInt8 := dkwX4_isRow_1 ++ []
def dkwX4_isRow_0 : List UInt8 := [27, 184, 1, 57, 153, 0, 24, 28, 133, 9, 42, 27, 182, 1, 60, 4, 100, 133, 184, 0, 95, 153, 0, 7]
abbrev dktX4_isRow_0 : List UInt8 := dkwX4_isRow_0 ++ dktX4_isRow_1
theorem dksX4_isRow_0 : cX4_isRow.data.toList.drop 0 = dktX4_isRow_0 := by decide +kernel
theorem dksX4_isRow_1 : cX4_isRow.data.toList.drop 24 = dktX4_isRow_1 := dk_seg dksX4_isRow_0 24 rfl rfl
theorem dX4_isRow_0 : decode cX4_isRow 0 = .ok (.iload_n 1, 1) := dk_27 (dk_at dksX4_isRow_0 0 rfl rfl)
theorem dX4_isRow_1 : decode cX4_isRow 1 = .ok (.invokestatic 313, 3) := dk_184 1 57 (dk_at dksX4_isRow_0 1 rfl rfl)
theorem dX4_isRow_4 : decode cX4_isRow 4 = .ok (.ifCond .eq 24, 3) := dk_153 0 24 (dk_at dksX4_isRow_0 4 rfl rfl)
theorem dX4_isRow_7 : decode cX4_isRow 7 = .ok (.iload_n 2, 1) := dk_28 (dk_at dksX4_isRow_0 7 rfl rfl)
theorem dX4_isRow_8 : decode cX4_isRow 8 = .ok (.i2l, 1) := dk_133 (dk_at dksX4_isRow_0 8 rfl rfl)
theorem dX4_isRow_9 : decode cX4_isRow 9 = .ok (.lconst 0, 1) := dk_9 (dk_at dksX4_isRow_0 9 rfl rfl)
theorem dX4_isRow_10 : decode cX4_isRow 10 = .ok (.aload_n 0, 1) := dk_42 (dk_at dksX4_isRow_0 10 rfl rfl)
theorem dX4_isRow_11 : decode cX4_isRow 11 = .ok (.iload_n 1, 1) := dk_27 (dk_at dksX4_isRow_0 11 rfl rfl)
theorem dX4_isRow_12 : decode cX4_isRow 12 = .ok (.invokevirtual 316, 3) := dk_182 1 60 (dk_at dksX4_isRow_0 12 rfl rfl)
theorem dX4_isRow_15 : decode cX4_isRow 15 = .ok (.iconst 1, 1) := dk_4 (dk_at dksX4_isRow_0 15 rfl rfl)
theorem dX4_isRow_16 : decode cX4_isRow 16 = .ok (.isub, 1) := dk_100 (dk_at dksX4_isRow_0 16 rfl rfl)
theorem dX4_isRow_17 : decode cX4_isRow 17 = .ok (.i2l, 1) := dk_133 (dk_at dksX4_isRow_0 17 rfl rfl)
theorem dX4_isRow_18 : decode cX4_isRow 18 = .ok (.invokestatic 95, 3) := dk_184 0 95 (dk_at dksX4_isRow_0 18 rfl rfl)
theorem dX4_isRow_21 : decode cX4_isRow 21 = .ok (.ifCond .eq 7, 3) := dk_153 0 7 (dk_at dksX4_isRow_0 21 rfl rfl)
theorem dX4_isRow_24 : decode cX4_isRow 24 = .ok (.iconst 1, 1) := dk_4 (dk_at dksX4_isRow_1 0 rfl rfl)
theorem dX4_isRow_25 : decode cX4_isRow 25 = .ok (.goto 4, 3) := dk_167 0 4 (dk_at dksX4_isRow_1 1 rfl rfl)
theorem dX4_isRow_28 : decode cX4_isRow 28 = .ok (.iconst 0, 1) := dk_3 (dk_at dksX4_isRow_1 4 rfl rfl)
theorem dX4_isRow_29 : decode cX4_isRow 29 = .ok (.ireturn, 1) := dk_172 (dk_at dksX4_isRow_1 5 rfl rfl)
abbrev cX4_puts : ByteArray := prog_23_method_85_code
def yX4_puts : MethodName := ⟨RX4, "puts", "(IIII)I"⟩
def dkwX4_puts_0 : List UInt8 := [42, 180, 0, 20, 17, 1, 34, 27, 104, 28, 29, 21, 4, 184, 0, 193, 42, 27, 28, 29, 182, 1, 79, 172]
abbrev dktX4_puts_0 : List UInt8 := dkwX4_puts_0 ++ []
theorem dksX4_puts_0 : cX4_puts.data.toList.drop 0 = dktX4_puts_0 := by decide +kernel
theorem dX4_puts_0 : decode cX4_puts 0 = .ok (.aload_n 0, 1) := dk_42 (dk_at dksX4_puts_0 0 rfl rfl)
theorem dX4_puts_1 : decode cX4_puts 1 = .ok (.getfield 20, 3) := dk_180 0 20 (dk_at dksX4_puts_0 1 rfl rfl)
theorem dX4_puts_4 : decode cX4_puts 4 = .ok (.sipush 290, 3) := dk_17 1 34 (dk_at dksX4_puts_0 4 rfl rfl)
theorem dX4_puts_7 : decode cX4_puts 7 = .ok (.iload_n 1, 1) := dk_27 (dk_at dksX4_puts_0 7 rfl rfl)
theorem dX4_puts_8 : decode cX4_puts 8 = .ok (.imul, 1) := dk_104 (dk_at dksX4_puts_0 8 rfl rfl)
theorem dX4_puts_9 : decode cX4_puts 9 = .ok (.iload_n 2, 1) := dk_28 (dk_at dksX4_puts_0 9 rfl rfl)
theorem dX4_puts_10 : decode cX4_puts 10 = .ok (.iload_n 3, 1) := dk_29 (dk_at dksX4_puts_0 10 rfl rfl)
theorem dX4_puts_11 : decode cX4_puts 11 = .ok (.iload 4, 2) := dk_21 4 (dk_at dksX4_puts_0 11 rfl rfl)
theorem dX4_puts_13 : decode cX4_puts 13 = .ok (.invokestatic 193, 3) := dk_184 0 193 (dk_at dksX4_puts_0 13 rfl rfl)
theorem dX4_puts_16 : decode cX4_puts 16 = .ok (.aload_n 0, 1) := dk_42 (dk_at dksX4_puts_0 16 rfl rfl)
theorem dX4_puts_17 : decode cX4_puts 17 = .ok (.iload_n 1, 1) := dk_27 (dk_at dksX4_puts_0 17 rfl rfl)
theorem dX4_puts_18 : decode cX4_puts 18 = .ok (.iload_n 2, 1) := dk_28 (dk_at dksX4_puts_0 18 rfl rfl)
theorem dX4_puts_19 : decode cX4_puts 19 = .ok (.iload_n 3, 1) := dk_29 (dk_at dksX4_puts_0 19 rfl rfl)
theorem dX4_puts_20 : decode cX4_puts 20 = .ok (.invokevirtual 335, 3) := dk_182 1 79 (dk_at dksX4_puts_0 20 rfl rfl)
theorem dX4_puts_23 : decode cX4_puts 23 = .ok (.ireturn, 1) := dk_172 (dk_at dksX4_puts_0 23 rfl rfl)
abbrev cX4_stores : ByteArray := prog_23_method_41_code
def yX4_stores : MethodName := ⟨RX4, "stores", "([IIIII)V"⟩
def dkwX4_stores_1 : List UInt8 := [21, 4, 79, 177]
abbrev dktX4_stores_1 : List UInt8 := dkwX4_stores_1 ++ []
def dkwX4_stores_0 : List UInt8 := [42, 27, 5, 96, 28, 29, 184, 0, 178, 96, 4, 79, 42, 27, 17, 0, 146, 96, 28, 29, 184, 0, 178, 96]
abbrev dktX4_stores_0 : List UInt8 := dkwX4_stores_0 ++ dktX4_stores_1
theorem dksX4_stores_0 : cX4_stores.data.toList.drop 0 = dktX4_stores_0 := by decide +kernel
theorem dksX4_stores_1 : cX4_stores.data.toList.drop 24 = dktX4_stores_1 := dk_seg dksX4_stores_0 24 rfl rfl
theorem dX4_stores_0 : decode cX4_stores 0 = .ok (.aload_n 0, 1) := dk_42 (dk_at dksX4_stores_0 0 rfl rfl)
theorem dX4_stores_1 : decode cX4_stores 1 = .ok (.iload_n 1, 1) := dk_27 (dk_at dksX4_stores_0 1 rfl rfl)
theorem dX4_stores_2 : decode cX4_stores 2 = .ok (.iconst 2, 1) := dk_5 (dk_at dksX4_stores_0 2 rfl rfl)
theorem dX4_stores_3 : decode cX4_stores 3 = .ok (.iadd, 1) := dk_96 (dk_at dksX4_stores_0 3 rfl rfl)
theorem dX4_stores_4 : decode cX4_stores 4 = .ok (.iload_n 2, 1) := dk_28 (dk_at dksX4_stores_0 4 rfl rfl)
theorem dX4_stores_5 : decode cX4_stores 5 = .ok (.iload_n 3, 1) := dk_29 (dk_at dksX4_stores_0 5 rfl rfl)
theorem dX4_stores_6 : decode cX4_stores 6 = .ok (.invokestatic 178, 3) := dk_184 0 178 (dk_at dksX4_stores_0 6 rfl rfl)
theorem dX4_stores_9 : decode cX4_stores 9 = .ok (.iadd, 1) := dk_96 (dk_at dksX4_stores_0 9 rfl rfl)
theorem dX4_stores_10 : decode cX4_stores 10 = .ok (.iconst 1, 1) := dk_4 (dk_at dksX4_stores_0 10 rfl rfl)
theorem dX4_stores_11 : decode cX4_stores 11 = .ok (.iastore, 1) := dk_79 (dk_at dksX4_stores_0 11 rfl rfl)
theorem dX4_stores_12 : decode cX4_stores 12 = .ok (.aload_n 0, 1) := dk_42 (dk_at dksX4_stores_0 12 rfl rfl)
theorem dX4_stores_13 : decode cX4_stores 13 = .ok (.iload_n 1, 1) := dk_27 (dk_at dksX4_stores_0 13 rfl rfl)
theorem dX4_stores_14 : decode cX4_stores 14 = .ok (.sipush 146, 3) := dk_17 0 146 (dk_at dksX4_stores_0 14 rfl rfl)
theorem dX4_stores_17 : decode cX4_stores 17 = .ok (.iadd, 1) := dk_96 (dk_at dksX4_stores_0 17 rfl rfl)
theorem dX4_stores_18 : decode cX4_stores 18 = .ok (.iload_n 2, 1) := dk_28 (dk_at dksX4_stores_0 18 rfl rfl)
theorem dX4_stores_19 : decode cX4_stores 19 = .ok (.iload_n 3, 1) := dk_29 (dk_at dksX4_stores_0 19 rfl rfl)
theorem dX4_stores_20 : decode cX4_stores 20 = .ok (.invokestatic 178, 3) := dk_184 0 178 (dk_at dksX4_stores_0 20 rfl rfl)
theorem dX4_stores_23 : decode cX4_stores 23 = .ok (.iadd, 1) := dk_96 (dk_at dksX4_stores_0 23 rfl rfl)
theorem dX4_stores_24 : decode cX4_stores 24 = .ok (.iload 4, 2) := dk_21 4 (dk_at dksX4_stores_1 0 rfl rfl)
theorem dX4_stores_26 : decode cX4_stores 26 = .ok (.iastore, 1) := dk_79 (dk_at dksX4_stores_1 2 rfl rfl)
theorem dX4_stores_27 : decode cX4_stores 27 = .ok (.return_, 1) := dk_177 (dk_at dksX4_stores_1 3 rfl rfl)
abbrev cX4_storageOf : ByteArray := prog_23_method_82_code
def yX4_storageOf : MethodName := ⟨RX4, "storageOf", "(III)I"⟩
def dkwX4_storageOf_1 : List UInt8 := [17, 1, 34, 27, 104, 28, 21, 5, 184, 0, 197, 96, 54, 4, 132, 5, 1, 167, 255, 227, 21, 4, 172]
abbrev dktX4_storageOf_1 : List UInt8 := dkwX4_storageOf_1 ++ []
def dkwX4_storageOf_0 : List UInt8 := [42, 27, 28, 182, 1, 76, 54, 4, 3, 54, 5, 21, 5, 29, 162, 0, 29, 21, 4, 42, 180, 0, 20]
abbrev dktX4_storageOf_0 : List UInt8 := dkwX4_storageOf_0 ++ dktX4_storageOf_1
theorem dksX4_storageOf_0 : cX4_storageOf.data.toList.drop 0 = dktX4_storageOf_0 := by decide +kernel
theorem dksX4_storageOf_1 : cX4_storageOf.data.toList.drop 23 = dktX4_storageOf_1 := dk_seg dksX4_storageOf_0 23 rfl rfl
theorem dX4_storageOf_0 : decode cX4_storageOf 0 = .ok (.aload_n 0, 1) := dk_42 (dk_at dksX4_storageOf_0 0 rfl rfl)
theorem dX4_storageOf_1 : decode cX4_storageOf 1 = .ok (.iload_n 1, 1) := dk_27 (dk_at dksX4_storageOf_0 1 rfl rfl)
theorem dX4_storageOf_2 : decode cX4_storageOf 2 = .ok (.iload_n 2, 1) := dk_28 (dk_at dksX4_storageOf_0 2 rfl rfl)
theorem dX4_storageOf_3 : decode cX4_storageOf 3 = .ok (.invokevirtual 332, 3) := dk_182 1 76 (dk_at dksX4_storageOf_0 3 rfl rfl)
theorem dX4_storageOf_6 : decode cX4_storageOf 6 = .ok (.istore 4, 2) := dk_54 4 (dk_at dksX4_storageOf_0 6 rfl rfl)
theorem dX4_storageOf_8 : decode cX4_storageOf 8 = .ok (.iconst 0, 1) := dk_3 (dk_at dksX4_storageOf_0 8 rfl rfl)
theorem dX4_storageOf_9 : decode cX4_storageOf 9 = .ok (.istore 5, 2) := dk_54 5 (dk_at dksX4_storageOf_0 9 rfl rfl)
theorem dX4_storageOf_11 : decode cX4_storageOf 11 = .ok (.iload 5, 2) := dk_21 5 (dk_at dksX4_storageOf_0 11 rfl rfl)
theorem dX4_storageOf_13 : decode cX4_storageOf 13 = .ok (.iload_n 3, 1) := dk_29 (dk_at dksX4_storageOf_0 13 rfl rfl)
theorem dX4_storageOf_14 : decode cX4_storageOf 14 = .ok (.if_icmp .ge 29, 3) := dk_162 0 29 (dk_at dksX4_storageOf_0 14 rfl rfl)
theorem dX4_storageOf_17 : decode cX4_storageOf 17 = .ok (.iload 4, 2) := dk_21 4 (dk_at dksX4_storageOf_0 17 rfl rfl)
theorem dX4_storageOf_19 : decode cX4_storageOf 19 = .ok (.aload_n 0, 1) := dk_42 (dk_at dksX4_storageOf_0 19 rfl rfl)
theorem dX4_storageOf_20 : decode cX4_storageOf 20 = .ok (.getfield 20, 3) := dk_180 0 20 (dk_at dksX4_storageOf_0 20 rfl rfl)
theorem dX4_storageOf_23 : decode cX4_storageOf 23 = .ok (.sipush 290, 3) := dk_17 1 34 (dk_at dksX4_storageOf_1 0 rfl rfl)
theorem dX4_storageOf_26 : decode cX4_storageOf 26 = .ok (.iload_n 1, 1) := dk_27 (dk_at dksX4_storageOf_1 3 rfl rfl)
theorem dX4_storageOf_27 : decode cX4_storageOf 27 = .ok (.imul, 1) := dk_104 (dk_at dksX4_storageOf_1 4 rfl rfl)
theorem dX4_storageOf_28 : decode cX4_storageOf 28 = .ok (.iload_n 2, 1) := dk_28 (dk_at dksX4_storageOf_1 5 rfl rfl)
theorem dX4_storageOf_29 : decode cX4_storageOf 29 = .ok (.iload 5, 2) := dk_21 5 (dk_at dksX4_storageOf_1 6 rfl rfl)
theorem dX4_storageOf_31 : decode cX4_storageOf 31 = .ok (.invokestatic 197, 3) := dk_184 0 197 (dk_at dksX4_storageOf_1 8 rfl rfl)
theorem dX4_storageOf_34 : decode cX4_storageOf 34 = .ok (.iadd, 1) := dk_96 (dk_at dksX4_storageOf_1 11 rfl rfl)
theorem dX4_storageOf_35 : decode cX4_storageOf 35 = .ok (.istore 4, 2) := dk_54 4 (dk_at dksX4_storageOf_1 12 rfl rfl)
theorem dX4_storageOf_37 : decode cX4_storageOf 37 = .ok (.iinc 5 1, 3) := dk_132 5 1 (dk_at dksX4_storageOf_1 14 rfl rfl)
theorem dX4_storageOf_40 : decode cX4_storageOf 40 = .ok (.goto (-29), 3) := dk_167 255 227 (dk_at dksX4_storageOf_1 17 rfl rfl)
theorem dX4_storageOf_43 : decode cX4_storageOf 43 = .ok (.iload 4, 2) := dk_21 4 (dk_at dksX4_storageOf_1 20 rfl rfl)
theorem dX4_storageOf_45 : decode cX4_storageOf 45 = .ok (.ireturn, 1) := dk_172 (dk_at dksX4_storageOf_1 22 rfl rfl)
abbrev cX4_erase : ByteArray := prog_23_method_92_code
def yX4_erase : MethodName := ⟨RX4, "erase", "(III)I"⟩
def dkwX4_erase_1 : List UInt8 := [182, 1, 102, 42, 42, 27, 28, 29, 182, 1, 119, 182, 1, 108, 172]
abbrev dktX4_erase_1 : List UInt8 := dkwX4_erase_1 ++ []
def dkwX4_erase_0 : List UInt8 := [42, 42, 27, 28, 29, 182, 1, 69, 42, 27, 28, 29, 182, 1, 89, 182, 1, 98, 154, 0, 5, 3, 172, 42]
abbrev dktX4_erase_0 : List UInt8 := dkwX4_erase_0 ++ dktX4_erase_1
theorem dksX4_erase_0 : cX4_erase.data.toList.drop 0 = dktX4_erase_0 := by decide +kernel
theorem dksX4_erase_1 : cX4_erase.data.toList.drop 24 = dktX4_erase_1 := dk_seg dksX4_erase_0 24 rfl rfl
theorem dX4_erase_0 : decode cX4_erase 0 = .ok (.aload_n 0, 1) := dk_42 (dk_at dksX4_erase_0 0 rfl rfl)
theorem dX4_erase_1 : decode cX4_erase 1 = .ok (.aload_n 0, 1) := dk_42 (dk_at dksX4_erase_0 1 rfl rfl)
theorem dX4_erase_2 : decode cX4_erase 2 = .ok (.iload_n 1, 1) := dk_27 (dk_at dksX4_erase_0 2 rfl rfl)
theorem dX4_erase_3 : decode cX4_erase 3 = .ok (.iload_n 2, 1) := dk_28 (dk_at dksX4_erase_0 3 rfl rfl)
theorem dX4_erase_4 : decode cX4_erase 4 = .ok (.iload_n 3, 1) := dk_29 (dk_at dksX4_erase_0 4 rfl rfl)
theorem dX4_erase_5 : decode cX4_erase 5 = .ok (.invokevirtual 325, 3) := dk_182 1 69 (dk_at dksX4_erase_0 5 rfl rfl)
theorem dX4_erase_8 : decode cX4_erase 8 = .ok (.aload_n 0, 1) := dk_42 (dk_at dksX4_erase_0 8 rfl rfl)
theorem dX4_erase_9 : decode cX4_erase 9 = .ok (.iload_n 1, 1) := dk_27 (dk_at dksX4_erase_0 9 rfl rfl)
theorem dX4_erase_10 : decode cX4_erase 10 = .ok (.iload_n 2, 1) := dk_28 (dk_at dksX4_erase_0 10 rfl rfl)
theorem dX4_erase_11 : decode cX4_erase 11 = .ok (.iload_n 3, 1) := dk_29 (dk_at dksX4_erase_0 11 rfl rfl)
theorem dX4_erase_12 : decode cX4_erase 12 = .ok (.invokevirtual 345, 3) := dk_182 1 89 (dk_at dksX4_erase_0 12 rfl rfl)
theorem dX4_erase_15 : decode cX4_erase 15 = .ok (.invokevirtual 354, 3) := dk_182 1 98 (dk_at dksX4_erase_0 15 rfl rfl)
theorem dX4_erase_18 : decode cX4_erase 18 = .ok (.ifCond .ne 5, 3) := dk_154 0 5 (dk_at dksX4_erase_0 18 rfl rfl)
theorem dX4_erase_21 : decode cX4_erase 21 = .ok (.iconst 0, 1) := dk_3 (dk_at dksX4_erase_0 21 rfl rfl)
theorem dX4_erase_22 : decode cX4_erase 22 = .ok (.ireturn, 1) := dk_172 (dk_at dksX4_erase_0 22 rfl rfl)
theorem dX4_erase_23 : decode cX4_erase 23 = .ok (.aload_n 0, 1) := dk_42 (dk_at dksX4_erase_0 23 rfl rfl)
theorem dX4_erase_24 : decode cX4_erase 24 = .ok (.invokevirtual 358, 3) := dk_182 1 102 (dk_at dksX4_erase_1 0 rfl rfl)
theorem dX4_erase_27 : decode cX4_erase 27 = .ok (.aload_n 0, 1) := dk_42 (dk_at dksX4_erase_1 3 rfl rfl)
theorem dX4_erase_28 : decode cX4_erase 28 = .ok (.aload_n 0, 1) := dk_42 (dk_at dksX4_erase_1 4 rfl rfl)
theorem dX4_erase_29 : decode cX4_erase 29 = .ok (.iload_n 1, 1) := dk_27 (dk_at dksX4_erase_1 5 rfl rfl)
theorem dX4_erase_30 : decode cX4_erase 30 = .ok (.iload_n 2, 1) := dk_28 (dk_at dksX4_erase_1 6 rfl rfl)
theorem dX4_erase_31 : decode cX4_erase 31 = .ok (.iload_n 3, 1) := dk_29 (dk_at dksX4_erase_1 7 rfl rfl)
theorem dX4_erase_32 : decode cX4_erase 32 = .ok (.invokevirtual 375, 3) := dk_182 1 119 (dk_at dksX4_erase_1 8 rfl rfl)
theorem dX4_erase_35 : decode cX4_erase 35 = .ok (.invokevirtual 364, 3) := dk_182 1 108 (dk_at dksX4_erase_1 11 rfl rfl)
theorem dX4_erase_38 : decode cX4_erase 38 = .ok (.ireturn, 1) := dk_172 (dk_at dksX4_erase_1 14 rfl rfl)
abbrev cX4_isStored : ByteArray := prog_23_method_76_code
def yX4_isStored : MethodName := ⟨RX4, "isStored", "(III)Z"⟩
def dkwX4_isStored_1 : List UInt8 := [4, 160, 0, 7, 4, 167, 0, 4, 3, 172]
abbrev dktX4_isStored_1 : List UInt8 := dkwX4_isStored_1 ++ []
def dkwX4_isStored_0 : List UInt8 := [42, 27, 28, 29, 182, 1, 69, 153, 0, 25, 42, 180, 0, 20, 17, 1, 34, 27, 104, 28, 29, 184, 0, 197]
abbrev dktX4_isStored_0 : List UInt8 := dkwX4_isStored_0 ++ dktX4_isStored_1
theorem dksX4_isStored_0 : cX4_isStored.data.toList.drop 0 = dktX4_isStored_0 := by decide +kernel
theorem dksX4_isStored_1 : cX4_isStored.data.toList.drop 24 = dktX4_isStored_1 := dk_seg dksX4_isStored_0 24 rfl rfl
theorem dX4_isStored_0 : decode cX4_isStored 0 = .ok (.aload_n 0, 1) := dk_42 (dk_at dksX4_isStored_0 0 rfl rfl)
theorem dX4_isStored_1 : decode cX4_isStored 1 = .ok (.iload_n 1, 1) := dk_27 (dk_at dksX4_isStored_0 1 rfl rfl)
theorem dX4_isStored_2 : decode cX4_isStored 2 = .ok (.iload_n 2, 1) := dk_28 (dk_at dksX4_isStored_0 2 rfl rfl)
theorem dX4_isStored_3 : decode cX4_isStored 3 = .ok (.iload_n 3, 1) := dk_29 (dk_at dksX4_isStored_0 3 rfl rfl)
theorem dX4_isStored_4 : decode cX4_isStored 4 = .ok (.invokevirtual 325, 3) := dk_182 1 69 (dk_at dksX4_isStored_0 4 rfl rfl)
theorem dX4_isStored_7 : decode cX4_isStored 7 = .ok (.ifCond .eq 25, 3) := dk_153 0 25 (dk_at dksX4_isStored_0 7 rfl rfl)
theorem dX4_isStored_10 : decode cX4_isStored 10 = .ok (.aload_n 0, 1) := dk_42 (dk_at dksX4_isStored_0 10 rfl rfl)
theorem dX4_isStored_11 : decode cX4_isStored 11 = .ok (.getfield 20, 3) := dk_180 0 20 (dk_at dksX4_isStored_0 11 rfl rfl)
theorem dX4_isStored_14 : decode cX4_isStored 14 = .ok (.sipush 290, 3) := dk_17 1 34 (dk_at dksX4_isStored_0 14 rfl rfl)
theorem dX4_isStored_17 : decode cX4_isStored 17 = .ok (.iload_n 1, 1) := dk_27 (dk_at dksX4_isStored_0 17 rfl rfl)
theorem dX4_isStored_18 : decode cX4_isStored 18 = .ok (.imul, 1) := dk_104 (dk_at dksX4_isStored_0 18 rfl rfl)
theorem dX4_isStored_19 : decode cX4_isStored 19 = .ok (.iload_n 2, 1) := dk_28 (dk_at dksX4_isStored_0 19 rfl rfl)
theorem dX4_isStored_20 : decode cX4_isStored 20 = .ok (.iload_n 3, 1) := dk_29 (dk_at dksX4_isStored_0 20 rfl rfl)
theorem dX4_isStored_21 : decode cX4_isStored 21 = .ok (.invokestatic 197, 3) := dk_184 0 197 (dk_at dksX4_isStored_0 21 rfl rfl)
theorem dX4_isStored_24 : decode cX4_isStored 24 = .ok (.iconst 1, 1) := dk_4 (dk_at dksX4_isStored_1 0 rfl rfl)
theorem dX4_isStored_25 : decode cX4_isStored 25 = .ok (.if_icmp .ne 7, 3) := dk_160 0 7 (dk_at dksX4_isStored_1 1 rfl rfl)
theorem dX4_isStored_28 : decode cX4_isStored 28 = .ok (.iconst 1, 1) := dk_4 (dk_at dksX4_isStored_1 4 rfl rfl)
theorem dX4_isStored_29 : decode cX4_isStored 29 = .ok (.goto 4, 3) := dk_167 0 4 (dk_at dksX4_isStored_1 5 rfl rfl)
theorem dX4_isStored_32 : decode cX4_isStored 32 = .ok (.iconst 0, 1) := dk_3 (dk_at dksX4_isStored_1 8 rfl rfl)
theorem dX4_isStored_33 : decode cX4_isStored 33 = .ok (.ireturn, 1) := dk_172 (dk_at dksX4_isStored_1 9 rfl rfl)
abbrev cX4_erases : ByteArray := prog_23_method_86_code
def yX4_erases : MethodName := ⟨RX4, "erases", "(III)I"⟩
def dkwX4_erases_1 : List UInt8 := [21, 4, 172]
abbrev dktX4_erases_1 : List UInt8 := dkwX4_erases_1 ++ []
def dkwX4_erases_0 : List UInt8 := [42, 27, 28, 29, 182, 1, 83, 54, 4, 42, 180, 0, 20, 17, 1, 34, 27, 104, 28, 29, 184, 1, 86]
abbrev dktX4_erases_0 : List UInt8 := dkwX4_erases_0 ++ dktX4_erases_1
theorem dksX4_erases_0 : cX4_erases.data.toList.drop 0 = dktX4_erases_0 := by decide +kernel
theorem dksX4_erases_1 : cX4_erases.data.toList.drop 23 = dktX4_erases_1 := dk_seg dksX4_erases_0 23 rfl rfl
theorem dX4_erases_0 : decode cX4_erases 0 = .ok (.aload_n 0, 1) := dk_42 (dk_at dksX4_erases_0 0 rfl rfl)
theorem dX4_erases_1 : decode cX4_erases 1 = .ok (.iload_n 1, 1) := dk_27 (dk_at dksX4_erases_0 1 rfl rfl)
theorem dX4_erases_2 : decode cX4_erases 2 = .ok (.iload_n 2, 1) := dk_28 (dk_at dksX4_erases_0 2 rfl rfl)
theorem dX4_erases_3 : decode cX4_erases 3 = .ok (.iload_n 3, 1) := dk_29 (dk_at dksX4_erases_0 3 rfl rfl)
theorem dX4_erases_4 : decode cX4_erases 4 = .ok (.invokevirtual 339, 3) := dk_182 1 83 (dk_at dksX4_erases_0 4 rfl rfl)
theorem dX4_erases_7 : decode cX4_erases 7 = .ok (.istore 4, 2) := dk_54 4 (dk_at dksX4_erases_0 7 rfl rfl)
theorem dX4_erases_9 : decode cX4_erases 9 = .ok (.aload_n 0, 1) := dk_42 (dk_at dksX4_erases_0 9 rfl rfl)
theorem dX4_erases_10 : decode cX4_erases 10 = .ok (.getfield 20, 3) := dk_180 0 20 (dk_at dksX4_erases_0 10 rfl rfl)
theorem dX4_erases_13 : decode cX4_erases 13 = .ok (.sipush 290, 3) := dk_17 1 34 (dk_at dksX4_erases_0 13 rfl rfl)
theorem dX4_erases_16 : decode cX4_erases 16 = .ok (.iload_n 1, 1) := dk_27 (dk_at dksX4_erases_0 16 rfl rfl)
theorem dX4_erases_17 : decode cX4_erases 17 = .ok (.imul, 1) := dk_104 (dk_at dksX4_erases_0 17 rfl rfl)
theorem dX4_erases_18 : decode cX4_erases 18 = .ok (.iload_n 2, 1) := dk_28 (dk_at dksX4_erases_0 18 rfl rfl)
theorem dX4_erases_19 : decode cX4_erases 19 = .ok (.iload_n 3, 1) := dk_29 (dk_at dksX4_erases_0 19 rfl rfl)
theorem dX4_erases_20 : decode cX4_erases 20 = .ok (.invokestatic 342, 3) := dk_184 1 86 (dk_at dksX4_erases_0 20 rfl rfl)
theorem dX4_erases_23 : decode cX4_erases 23 = .ok (.iload 4, 2) := dk_21 4 (dk_at dksX4_erases_1 0 rfl rfl)
theorem dX4_erases_25 : decode cX4_erases 25 = .ok (.ireturn, 1) := dk_172 (dk_at dksX4_erases_1 2 rfl rfl)
abbrev cX4_valueIn : ByteArray := prog_23_method_77_code
def yX4_valueIn : MethodName := ⟨RX4, "valueIn", "(III)I"⟩
def dkwX4_valueIn_0 : List UInt8 := [42, 180, 0, 20, 17, 1, 34, 27, 104, 28, 29, 184, 0, 201, 172]
abbrev dktX4_valueIn_0 : List UInt8 := dkwX4_valueIn_0 ++ []
theorem dksX4_valueIn_0 : cX4_valueIn.data.toList.drop 0 = dktX4_valueIn_0 := by decide +kernel
theorem dX4_valueIn_0 : decode cX4_valueIn 0 = .ok (.aload_n 0, 1) := dk_42 (dk_at dksX4_valueIn_0 0 rfl rfl)
theorem dX4_valueIn_1 : decode cX4_valueIn 1 = .ok (.getfield 20, 3) := dk_180 0 20 (dk_at dksX4_valueIn_0 1 rfl rfl)
theorem dX4_valueIn_4 : decode cX4_valueIn 4 = .ok (.sipush 290, 3) := dk_17 1 34 (dk_at dksX4_valueIn_0 4 rfl rfl)
theorem dX4_valueIn_7 : decode cX4_valueIn 7 = .ok (.iload_n 1, 1) := dk_27 (dk_at dksX4_valueIn_0 7 rfl rfl)
theorem dX4_valueIn_8 : decode cX4_valueIn 8 = .ok (.imul, 1) := dk_104 (dk_at dksX4_valueIn_0 8 rfl rfl)
theorem dX4_valueIn_9 : decode cX4_valueIn 9 = .ok (.iload_n 2, 1) := dk_28 (dk_at dksX4_valueIn_0 9 rfl rfl)
theorem dX4_valueIn_10 : decode cX4_valueIn 10 = .ok (.iload_n 3, 1) := dk_29 (dk_at dksX4_valueIn_0 10 rfl rfl)
theorem dX4_valueIn_11 : decode cX4_valueIn 11 = .ok (.invokestatic 201, 3) := dk_184 0 201 (dk_at dksX4_valueIn_0 11 rfl rfl)
theorem dX4_valueIn_14 : decode cX4_valueIn 14 = .ok (.ireturn, 1) := dk_172 (dk_at dksX4_valueIn_0 14 rfl rfl)
abbrev cX4_valueAt : ByteArray := prog_23_method_40_code
def yX4_valueAt : MethodName := ⟨RX4, "valueAt", "([IIII)I"⟩
def dkwX4_valueAt_0 : List UInt8 := [42, 27, 17, 0, 146, 96, 28, 29, 184, 0, 178, 96, 46, 172]
abbrev dktX4_valueAt_0 : List UInt8 := dkwX4_valueAt_0 ++ []
theorem dksX4_valueAt_0 : cX4_valueAt.data.toList.drop 0 = dktX4_valueAt_0 := by decide +kernel
theorem dX4_valueAt_0 : decode cX4_valueAt 0 = .ok (.aload_n 0, 1) := dk_42 (dk_at dksX4_valueAt_0 0 rfl rfl)
theorem dX4_valueAt_1 : decode cX4_valueAt 1 = .ok (.iload_n 1, 1) := dk_27 (dk_at dksX4_valueAt_0 1 rfl rfl)
theorem dX4_valueAt_2 : decode cX4_valueAt 2 = .ok (.sipush 146, 3) := dk_17 0 146 (dk_at dksX4_valueAt_0 2 rfl rfl)
theorem dX4_valueAt_5 : decode cX4_valueAt 5 = .ok (.iadd, 1) := dk_96 (dk_at dksX4_valueAt_0 5 rfl rfl)
theorem dX4_valueAt_6 : decode cX4_valueAt 6 = .ok (.iload_n 2, 1) := dk_28 (dk_at dksX4_valueAt_0 6 rfl rfl)
theorem dX4_valueAt_7 : decode cX4_valueAt 7 = .ok (.iload_n 3, 1) := dk_29 (dk_at dksX4_valueAt_0 7 rfl rfl)
theorem dX4_valueAt_8 : decode cX4_valueAt 8 = .ok (.invokestatic 178, 3) := dk_184 0 178 (dk_at dksX4_valueAt_0 8 rfl rfl)
theorem dX4_valueAt_11 : decode cX4_valueAt 11 = .ok (.iadd, 1) := dk_96 (dk_at dksX4_valueAt_0 11 rfl rfl)
theorem dX4_valueAt_12 : decode cX4_valueAt 12 = .ok (.iaload, 1) := dk_46 (dk_at dksX4_valueAt_0 12 rfl rfl)
theorem dX4_valueAt_13 : decode cX4_valueAt 13 = .ok (.ireturn, 1) := dk_172 (dk_at dksX4_valueAt_0 13 rfl rfl)
abbrev cX4_drops : ByteArray := prog_23_method_42_code
def yX4_drops : MethodName := ⟨RX4, "drops", "([IIII)V"⟩
def dkwX4_drops_1 : List UInt8 := [3, 79, 177]
abbrev dktX4_drops_1 : List UInt8 := dkwX4_drops_1 ++ []
def dkwX4_drops_0 : List UInt8 := [42, 27, 5, 96, 28, 29, 184, 0, 178, 96, 3, 79, 42, 27, 17, 0, 146, 96, 28, 29, 184, 0, 178, 96]
abbrev dktX4_drops_0 : List UInt8 := dkwX4_drops_0 ++ dktX4_drops_1
theorem dksX4_drops_0 : cX4_drops.data.toList.drop 0 = dktX4_drops_0 := by decide +kernel
theorem dksX4_drops_1 : cX4_drops.data.toList.drop 24 = dktX4_drops_1 := dk_seg dksX4_drops_0 24 rfl rfl
theorem dX4_drops_0 : decode cX4_drops 0 = .ok (.aload_n 0, 1) := dk_42 (dk_at dksX4_drops_0 0 rfl rfl)
theorem dX4_drops_1 : decode cX4_drops 1 = .ok (.iload_n 1, 1) := dk_27 (dk_at dksX4_drops_0 1 rfl rfl)
theorem dX4_drops_2 : decode cX4_drops 2 = .ok (.iconst 2, 1) := dk_5 (dk_at dksX4_drops_0 2 rfl rfl)
theorem dX4_drops_3 : decode cX4_drops 3 = .ok (.iadd, 1) := dk_96 (dk_at dksX4_drops_0 3 rfl rfl)
theorem dX4_drops_4 : decode cX4_drops 4 = .ok (.iload_n 2, 1) := dk_28 (dk_at dksX4_drops_0 4 rfl rfl)
theorem dX4_drops_5 : decode cX4_drops 5 = .ok (.iload_n 3, 1) := dk_29 (dk_at dksX4_drops_0 5 rfl rfl)
theorem dX4_drops_6 : decode cX4_drops 6 = .ok (.invokestatic 178, 3) := dk_184 0 178 (dk_at dksX4_drops_0 6 rfl rfl)
theorem dX4_drops_9 : decode cX4_drops 9 = .ok (.iadd, 1) := dk_96 (dk_at dksX4_drops_0 9 rfl rfl)
theorem dX4_drops_10 : decode cX4_drops 10 = .ok (.iconst 0, 1) := dk_3 (dk_at dksX4_drops_0 10 rfl rfl)
theorem dX4_drops_11 : decode cX4_drops 11 = .ok (.iastore, 1) := dk_79 (dk_at dksX4_drops_0 11 rfl rfl)
theorem dX4_drops_12 : decode cX4_drops 12 = .ok (.aload_n 0, 1) := dk_42 (dk_at dksX4_drops_0 12 rfl rfl)
theorem dX4_drops_13 : decode cX4_drops 13 = .ok (.iload_n 1, 1) := dk_27 (dk_at dksX4_drops_0 13 rfl rfl)
theorem dX4_drops_14 : decode cX4_drops 14 = .ok (.sipush 146, 3) := dk_17 0 146 (dk_at dksX4_drops_0 14 rfl rfl)
theorem dX4_drops_17 : decode cX4_drops 17 = .ok (.iadd, 1) := dk_96 (dk_at dksX4_drops_0 17 rfl rfl)
theorem dX4_drops_18 : decode cX4_drops 18 = .ok (.iload_n 2, 1) := dk_28 (dk_at dksX4_drops_0 18 rfl rfl)
theorem dX4_drops_19 : decode cX4_drops 19 = .ok (.iload_n 3, 1) := dk_29 (dk_at dksX4_drops_0 19 rfl rfl)
theorem dX4_drops_20 : decode cX4_drops 20 = .ok (.invokestatic 178, 3) := dk_184 0 178 (dk_at dksX4_drops_0 20 rfl rfl)
theorem dX4_drops_23 : decode cX4_drops 23 = .ok (.iadd, 1) := dk_96 (dk_at dksX4_drops_0 23 rfl rfl)
theorem dX4_drops_24 : decode cX4_drops 24 = .ok (.iconst 0, 1) := dk_3 (dk_at dksX4_drops_1 0 rfl rfl)
theorem dX4_drops_25 : decode cX4_drops 25 = .ok (.iastore, 1) := dk_79 (dk_at dksX4_drops_1 1 rfl rfl)
theorem dX4_drops_26 : decode cX4_drops 26 = .ok (.return_, 1) := dk_177 (dk_at dksX4_drops_1 2 rfl rfl)
abbrev cX4_dropZeros : ByteArray := prog_23_method_93_code
def yX4_dropZeros : MethodName := ⟨RX4, "dropZeros", "(I)I"⟩
def dkwX4_dropZeros_1 : List UInt8 := [182, 1, 108, 172]
abbrev dktX4_dropZeros_1 : List UInt8 := dkwX4_dropZeros_1 ++ []
def dkwX4_dropZeros_0 : List UInt8 := [42, 27, 184, 1, 57, 182, 0, 87, 154, 0, 5, 3, 172, 42, 182, 1, 102, 42, 42, 27, 182, 1, 122]
abbrev dktX4_dropZeros_0 : List UInt8 := dkwX4_dropZeros_0 ++ dktX4_dropZeros_1
theorem dksX4_dropZeros_0 : cX4_dropZeros.data.toList.drop 0 = dktX4_dropZeros_0 := by decide +kernel
theorem dksX4_dropZeros_1 : cX4_dropZeros.data.toList.drop 23 = dktX4_dropZeros_1 := dk_seg dksX4_dropZeros_0 23 rfl rfl
theorem dX4_dropZeros_0 : decode cX4_dropZeros 0 = .ok (.aload_n 0, 1) := dk_42 (dk_at dksX4_dropZeros_0 0 rfl rfl)
theorem dX4_dropZeros_1 : decode cX4_dropZeros 1 = .ok (.iload_n 1, 1) := dk_27 (dk_at dksX4_dropZeros_0 1 rfl rfl)
theorem dX4_dropZeros_2 : decode cX4_dropZeros 2 = .ok (.invokestatic 313, 3) := dk_184 1 57 (dk_at dksX4_dropZeros_0 2 rfl rfl)
theorem dX4_dropZeros_5 : decode cX4_dropZeros 5 = .ok (.invokevirtual 87, 3) := dk_182 0 87 (dk_at dksX4_dropZeros_0 5 rfl rfl)
theorem dX4_dropZeros_8 : decode cX4_dropZeros 8 = .ok (.ifCond .ne 5, 3) := dk_154 0 5 (dk_at dksX4_dropZeros_0 8 rfl rfl)
theorem dX4_dropZeros_11 : decode cX4_dropZeros 11 = .ok (.iconst 0, 1) := dk_3 (dk_at dksX4_dropZeros_0 11 rfl rfl)
theorem dX4_dropZeros_12 : decode cX4_dropZeros 12 = .ok (.ireturn, 1) := dk_172 (dk_at dksX4_dropZeros_0 12 rfl rfl)
theorem dX4_dropZeros_13 : decode cX4_dropZeros 13 = .ok (.aload_n 0, 1) := dk_42 (dk_at dksX4_dropZeros_0 13 rfl rfl)
theorem dX4_dropZeros_14 : decode cX4_dropZeros 14 = .ok (.invokevirtual 358, 3) := dk_182 1 102 (dk_at dksX4_dropZeros_0 14 rfl rfl)
theorem dX4_dropZeros_17 : decode cX4_dropZeros 17 = .ok (.aload_n 0, 1) := dk_42 (dk_at dksX4_dropZeros_0 17 rfl rfl)
theorem dX4_dropZeros_18 : decode cX4_dropZeros 18 = .ok (.aload_n 0, 1) := dk_42 (dk_at dksX4_dropZeros_0 18 rfl rfl)
theorem dX4_dropZeros_19 : decode cX4_dropZeros 19 = .ok (.iload_n 1, 1) := dk_27 (dk_at dksX4_dropZeros_0 19 rfl rfl)
theorem dX4_dropZeros_20 : decode cX4_dropZeros 20 = .ok (.invokevirtual 378, 3) := dk_182 1 122 (dk_at dksX4_dropZeros_0 20 rfl rfl)
theorem dX4_dropZeros_23 : decode cX4_dropZeros 23 = .ok (.invokevirtual 364, 3) := dk_182 1 108 (dk_at dksX4_dropZeros_1 0 rfl rfl)
theorem dX4_dropZeros_26 : decode cX4_dropZeros 26 = .ok (.ireturn, 1) := dk_172 (dk_at dksX4_dropZeros_1 3 rfl rfl)
abbrev cX4_dropsZeros : ByteArray := prog_23_method_87_code
def yX4_dropsZeros : MethodName := ⟨RX4, "dropsZeros", "(I)I"⟩
def dkwX4_dropsZeros_3 : List UInt8 := [132, 4, 1, 167, 255, 200, 132, 3, 1, 167, 255, 182, 28, 172]
abbrev dktX4_dropsZeros_3 : List UInt8 := dkwX4_dropsZeros_3 ++ []
def dkwX4_dropsZeros_2 : List UInt8 := [153, 0, 6, 167, 0, 21, 42, 180, 0, 20, 17, 1, 34, 27, 104, 29, 21, 4, 184, 1, 86, 132, 2, 1]
abbrev dktX4_dropsZeros_2 : List UInt8 := dkwX4_dropsZeros_2 ++ dktX4_dropsZeros_3
def dkwX4_dropsZeros_1 : List UInt8 := [162, 0, 52, 42, 27, 29, 21, 4, 182, 1, 89, 153, 0, 35, 42, 27, 29, 21, 4, 182, 1, 83]
abbrev dktX4_dropsZeros_1 : List UInt8 := dkwX4_dropsZeros_1 ++ dktX4_dropsZeros_2
def dkwX4_dropsZeros_0 : List UInt8 := [3, 61, 3, 62, 29, 42, 27, 182, 1, 60, 162, 0, 71, 3, 54, 4, 21, 4, 42, 27, 182, 1, 66]
abbrev dktX4_dropsZeros_0 : List UInt8 := dkwX4_dropsZeros_0 ++ dktX4_dropsZeros_1
theorem dksX4_dropsZeros_0 : cX4_dropsZeros.data.toList.drop 0 = dktX4_dropsZeros_0 := by decide +kernel
theorem dksX4_dropsZeros_1 : cX4_dropsZeros.data.toList.drop 23 = dktX4_dropsZeros_1 := dk_seg dksX4_dropsZeros_0 23 rfl rfl
theorem dksX4_dropsZeros_2 : cX4_dropsZeros.data.toList.drop 45 = dktX4_dropsZeros_2 := dk_seg dksX4_dropsZeros_1 22 rfl rfl
theorem dksX4_dropsZeros_3 : cX4_dropsZeros.data.toList.drop 69 = dktX4_dropsZeros_3 := dk_seg dksX4_dropsZeros_2 24 rfl rfl
theorem dX4_dropsZeros_0 : decode cX4_dropsZeros 0 = .ok (.iconst 0, 1) := dk_3 (dk_at dksX4_dropsZeros_0 0 rfl rfl)
theorem dX4_dropsZeros_1 : decode cX4_dropsZeros 1 = .ok (.istore_n 2, 1) := dk_61 (dk_at dksX4_dropsZeros_0 1 rfl rfl)
theorem dX4_dropsZeros_2 : decode cX4_dropsZeros 2 = .ok (.iconst 0, 1) := dk_3 (dk_at dksX4_dropsZeros_0 2 rfl rfl)
theorem dX4_dropsZeros_3 : decode cX4_dropsZeros 3 = .ok (.istore_n 3, 1) := dk_62 (dk_at dksX4_dropsZeros_0 3 rfl rfl)
theorem dX4_dropsZeros_4 : decode cX4_dropsZeros 4 = .ok (.iload_n 3, 1) := dk_29 (dk_at dksX4_dropsZeros_0 4 rfl rfl)
theorem dX4_dropsZeros_5 : decode cX4_dropsZeros 5 = .ok (.aload_n 0, 1) := dk_42 (dk_at dksX4_dropsZeros_0 5 rfl rfl)
theorem dX4_dropsZeros_6 : decode cX4_dropsZeros 6 = .ok (.iload_n 1, 1) := dk_27 (dk_at dksX4_dropsZeros_0 6 rfl rfl)
theorem dX4_dropsZeros_7 : decode cX4_dropsZeros 7 = .ok (.invokevirtual 316, 3) := dk_182 1 60 (dk_at dksX4_dropsZeros_0 7 rfl rfl)
theorem dX4_dropsZeros_10 : decode cX4_dropsZeros 10 = .ok (.if_icmp .ge 71, 3) := dk_162 0 71 (dk_at dksX4_dropsZeros_0 10 rfl rfl)
theorem dX4_dropsZeros_13 : decode cX4_dropsZeros 13 = .ok (.iconst 0, 1) := dk_3 (dk_at dksX4_dropsZeros_0 13 rfl rfl)
theorem dX4_dropsZeros_14 : decode cX4_dropsZeros 14 = .ok (.istore 4, 2) := dk_54 4 (dk_at dksX4_dropsZeros_0 14 rfl rfl)
theorem dX4_dropsZeros_16 : decode cX4_dropsZeros 16 = .ok (.iload 4, 2) := dk_21 4 (dk_at dksX4_dropsZeros_0 16 rfl rfl)
theorem dX4_dropsZeros_18 : decode cX4_dropsZeros 18 = .ok (.aload_n 0, 1) := dk_42 (dk_at dksX4_dropsZeros_0 18 rfl rfl)
theorem dX4_dropsZeros_19 : decode cX4_dropsZeros 19 = .ok (.iload_n 1, 1) := dk_27 (dk_at dksX4_dropsZeros_0 19 rfl rfl)
theorem dX4_dropsZeros_20 : decode cX4_dropsZeros 20 = .ok (.invokevirtual 322, 3) := dk_182 1 66 (dk_at dksX4_dropsZeros_0 20 rfl rfl)
theorem dX4_dropsZeros_23 : decode cX4_dropsZeros 23 = .ok (.if_icmp .ge 52, 3) := dk_162 0 52 (dk_at dksX4_dropsZeros_1 0 rfl rfl)
theorem dX4_dropsZeros_26 : decode cX4_dropsZeros 26 = .ok (.aload_n 0, 1) := dk_42 (dk_at dksX4_dropsZeros_1 3 rfl rfl)
theorem dX4_dropsZeros_27 : decode cX4_dropsZeros 27 = .ok (.iload_n 1, 1) := dk_27 (dk_at dksX4_dropsZeros_1 4 rfl rfl)
theorem dX4_dropsZeros_28 : decode cX4_dropsZeros 28 = .ok (.iload_n 3, 1) := dk_29 (dk_at dksX4_dropsZeros_1 5 rfl rfl)
theorem dX4_dropsZeros_29 : decode cX4_dropsZeros 29 = .ok (.iload 4, 2) := dk_21 4 (dk_at dksX4_dropsZeros_1 6 rfl rfl)
theorem dX4_dropsZeros_31 : decode cX4_dropsZeros 31 = .ok (.invokevirtual 345, 3) := dk_182 1 89 (dk_at dksX4_dropsZeros_1 8 rfl rfl)
theorem dX4_dropsZeros_34 : decode cX4_dropsZeros 34 = .ok (.ifCond .eq 35, 3) := dk_153 0 35 (dk_at dksX4_dropsZeros_1 11 rfl rfl)
theorem dX4_dropsZeros_37 : decode cX4_dropsZeros 37 = .ok (.aload_n 0, 1) := dk_42 (dk_at dksX4_dropsZeros_1 14 rfl rfl)
theorem dX4_dropsZeros_38 : decode cX4_dropsZeros 38 = .ok (.iload_n 1, 1) := dk_27 (dk_at dksX4_dropsZeros_1 15 rfl rfl)
theorem dX4_dropsZeros_39 : decode cX4_dropsZeros 39 = .ok (.iload_n 3, 1) := dk_29 (dk_at dksX4_dropsZeros_1 16 rfl rfl)
theorem dX4_dropsZeros_40 : decode cX4_dropsZeros 40 = .ok (.iload 4, 2) := dk_21 4 (dk_at dksX4_dropsZeros_1 17 rfl rfl)
theorem dX4_dropsZeros_42 : decode cX4_dropsZeros 42 = .ok (.invokevirtual 339, 3) := dk_182 1 83 (dk_at dksX4_dropsZeros_1 19 rfl rfl)
theorem dX4_dropsZeros_45 : decode cX4_dropsZeros 45 = .ok (.ifCond .eq 6, 3) := dk_153 0 6 (dk_at dksX4_dropsZeros_2 0 rfl rfl)
theorem dX4_dropsZeros_48 : decode cX4_dropsZeros 48 = .ok (.goto 21, 3) := dk_167 0 21 (dk_at dksX4_dropsZeros_2 3 rfl rfl)
theorem dX4_dropsZeros_51 : decode cX4_dropsZeros 51 = .ok (.aload_n 0, 1) := dk_42 (dk_at dksX4_dropsZeros_2 6 rfl rfl)
theorem dX4_dropsZeros_52 : decode cX4_dropsZeros 52 = .ok (.getfield 20, 3) := dk_180 0 20 (dk_at dksX4_dropsZeros_2 7 rfl rfl)
theorem dX4_dropsZeros_55 : decode cX4_dropsZeros 55 = .ok (.sipush 290, 3) := dk_17 1 34 (dk_at dksX4_dropsZeros_2 10 rfl rfl)
theorem dX4_dropsZeros_58 : decode cX4_dropsZeros 58 = .ok (.iload_n 1, 1) := dk_27 (dk_at dksX4_dropsZeros_2 13 rfl rfl)
theorem dX4_dropsZeros_59 : decode cX4_dropsZeros 59 = .ok (.imul, 1) := dk_104 (dk_at dksX4_dropsZeros_2 14 rfl rfl)
theorem dX4_dropsZeros_60 : decode cX4_dropsZeros 60 = .ok (.iload_n 3, 1) := dk_29 (dk_at dksX4_dropsZeros_2 15 rfl rfl)
theorem dX4_dropsZeros_61 : decode cX4_dropsZeros 61 = .ok (.iload 4, 2) := dk_21 4 (dk_at dksX4_dropsZeros_2 16 rfl rfl)
theorem dX4_dropsZeros_63 : decode cX4_dropsZeros 63 = .ok (.invokestatic 342, 3) := dk_184 1 86 (dk_at dksX4_dropsZeros_2 18 rfl rfl)
theorem dX4_dropsZeros_66 : decode cX4_dropsZeros 66 = .ok (.iinc 2 1, 3) := dk_132 2 1 (dk_at dksX4_dropsZeros_2 21 rfl rfl)
theorem dX4_dropsZeros_69 : decode cX4_dropsZeros 69 = .ok (.iinc 4 1, 3) := dk_132 4 1 (dk_at dksX4_dropsZeros_3 0 rfl rfl)
theorem dX4_dropsZeros_72 : decode cX4_dropsZeros 72 = .ok (.goto (-56), 3) := dk_167 255 200 (dk_at dksX4_dropsZeros_3 3 rfl rfl)
theorem dX4_dropsZeros_75 : decode cX4_dropsZeros 75 = .ok (.iinc 3 1, 3) := dk_132 3 1 (dk_at dksX4_dropsZeros_3 6 rfl rfl)
theorem dX4_dropsZeros_78 : decode cX4_dropsZeros 78 = .ok (.goto (-74), 3) := dk_167 255 182 (dk_at dksX4_dropsZeros_3 9 rfl rfl)
theorem dX4_dropsZeros_81 : decode cX4_dropsZeros 81 = .ok (.iload_n 2, 1) := dk_28 (dk_at dksX4_dropsZeros_3 12 rfl rfl)
theorem dX4_dropsZeros_82 : decode cX4_dropsZeros 82 = .ok (.ireturn, 1) := dk_172 (dk_at dksX4_dropsZeros_3 13 rfl rfl)
abbrev cX4_swapRows : ByteArray := prog_23_method_94_code
def yX4_swapRows : MethodName := ⟨RX4, "swapRows", "(III)I"⟩
def dkwX4_swapRows_1 : List UInt8 := [182, 0, 87, 154, 0, 5, 3, 172, 42, 182, 1, 102, 42, 42, 27, 28, 29, 182, 1, 125, 182, 1, 108, 172]
abbrev dktX4_swapRows_1 : List UInt8 := dkwX4_swapRows_1 ++ []
def dkwX4_swapRows_0 : List UInt8 := [42, 42, 27, 28, 182, 1, 63, 153, 0, 16, 42, 27, 29, 182, 1, 63, 153, 0, 7, 4, 167, 0, 4, 3]
abbrev dktX4_swapRows_0 : List UInt8 := dkwX4_swapRows_0 ++ dktX4_swapRows_1
theorem dksX4_swapRows_0 : cX4_swapRows.data.toList.drop 0 = dktX4_swapRows_0 := by decide +kernel
theorem dksX4_swapRows_1 : cX4_swapRows.data.toList.drop 24 = dktX4_swapRows_1 := dk_seg dksX4_swapRows_0 24 rfl rfl
theorem dX4_swapRows_0 : decode cX4_swapRows 0 = .ok (.aload_n 0, 1) := dk_42 (dk_at dksX4_swapRows_0 0 rfl rfl)
theorem dX4_swapRows_1 : decode cX4_swapRows 1 = .ok (.aload_n 0, 1) := dk_42 (dk_at dksX4_swapRows_0 1 rfl rfl)
theorem dX4_swapRows_2 : decode cX4_swapRows 2 = .ok (.iload_n 1, 1) := dk_27 (dk_at dksX4_swapRows_0 2 rfl rfl)
theorem dX4_swapRows_3 : decode cX4_swapRows 3 = .ok (.iload_n 2, 1) := dk_28 (dk_at dksX4_swapRows_0 3 rfl rfl)
theorem dX4_swapRows_4 : decode cX4_swapRows 4 = .ok (.invokevirtual 319, 3) := dk_182 1 63 (dk_at dksX4_swapRows_0 4 rfl rfl)
theorem dX4_swapRows_7 : decode cX4_swapRows 7 = .ok (.ifCond .eq 16, 3) := dk_153 0 16 (dk_at dksX4_swapRows_0 7 rfl rfl)
theorem dX4_swapRows_10 : decode cX4_swapRows 10 = .ok (.aload_n 0, 1) := dk_42 (dk_at dksX4_swapRows_0 10 rfl rfl)
theorem dX4_swapRows_11 : decode cX4_swapRows 11 = .ok (.iload_n 1, 1) := dk_27 (dk_at dksX4_swapRows_0 11 rfl rfl)
theorem dX4_swapRows_12 : decode cX4_swapRows 12 = .ok (.iload_n 3, 1) := dk_29 (dk_at dksX4_swapRows_0 12 rfl rfl)
theorem dX4_swapRows_13 : decode cX4_swapRows 13 = .ok (.invokevirtual 319, 3) := dk_182 1 63 (dk_at dksX4_swapRows_0 13 rfl rfl)
theorem dX4_swapRows_16 : decode cX4_swapRows 16 = .ok (.ifCond .eq 7, 3) := dk_153 0 7 (dk_at dksX4_swapRows_0 16 rfl rfl)
theorem dX4_swapRows_19 : decode cX4_swapRows 19 = .ok (.iconst 1, 1) := dk_4 (dk_at dksX4_swapRows_0 19 rfl rfl)
theorem dX4_swapRows_20 : decode cX4_swapRows 20 = .ok (.goto 4, 3) := dk_167 0 4 (dk_at dksX4_swapRows_0 20 rfl rfl)
theorem dX4_swapRows_23 : decode cX4_swapRows 23 = .ok (.iconst 0, 1) := dk_3 (dk_at dksX4_swapRows_0 23 rfl rfl)
theorem dX4_swapRows_24 : decode cX4_swapRows 24 = .ok (.invokevirtual 87, 3) := dk_182 0 87 (dk_at dksX4_swapRows_1 0 rfl rfl)
theorem dX4_swapRows_27 : decode cX4_swapRows 27 = .ok (.ifCond .ne 5, 3) := dk_154 0 5 (dk_at dksX4_swapRows_1 3 rfl rfl)
theorem dX4_swapRows_30 : decode cX4_swapRows 30 = .ok (.iconst 0, 1) := dk_3 (dk_at dksX4_swapRows_1 6 rfl rfl)
theorem dX4_swapRows_31 : decode cX4_swapRows 31 = .ok (.ireturn, 1) := dk_172 (dk_at dksX4_swapRows_1 7 rfl rfl)
theorem dX4_swapRows_32 : decode cX4_swapRows 32 = .ok (.aload_n 0, 1) := dk_42 (dk_at dksX4_swapRows_1 8 rfl rfl)
theorem dX4_swapRows_33 : decode cX4_swapRows 33 = .ok (.invokevirtual 358, 3) := dk_182 1 102 (dk_at dksX4_swapRows_1 9 rfl rfl)
theorem dX4_swapRows_36 : decode cX4_swapRows 36 = .ok (.aload_n 0, 1) := dk_42 (dk_at dksX4_swapRows_1 12 rfl rfl)
theorem dX4_swapRows_37 : decode cX4_swapRows 37 = .ok (.aload_n 0, 1) := dk_42 (dk_at dksX4_swapRows_1 13 rfl rfl)
theorem dX4_swapRows_38 : decode cX4_swapRows 38 = .ok (.iload_n 1, 1) := dk_27 (dk_at dksX4_swapRows_1 14 rfl rfl)
theorem dX4_swapRows_39 : decode cX4_swapRows 39 = .ok (.iload_n 2, 1) := dk_28 (dk_at dksX4_swapRows_1 15 rfl rfl)
theorem dX4_swapRows_40 : decode cX4_swapRows 40 = .ok (.iload_n 3, 1) := dk_29 (dk_at dksX4_swapRows_1 16 rfl rfl)
theorem dX4_swapRows_41 : decode cX4_swapRows 41 = .ok (.invokevirtual 381, 3) := dk_182 1 125 (dk_at dksX4_swapRows_1 17 rfl rfl)
theorem dX4_swapRows_44 : decode cX4_swapRows 44 = .ok (.invokevirtual 364, 3) := dk_182 1 108 (dk_at dksX4_swapRows_1 20 rfl rfl)
theorem dX4_swapRows_47 : decode cX4_swapRows 47 = .ok (.ireturn, 1) := dk_172 (dk_at dksX4_swapRows_1 23 rfl rfl)
abbrev cX4_swaps : ByteArray := prog_23_method_89_code
def yX4_swaps : MethodName := ⟨RX4, "swaps", "(III)I"⟩
def dkwX4_swaps_4 : List UInt8 := [3, 167, 0, 9, 42, 27, 29, 182, 1, 73, 96, 172]
abbrev dktX4_swaps_4 : List UInt8 := dkwX4_swaps_4 ++ []
def dkwX4_swaps_3 : List UInt8 := [184, 0, 178, 96, 182, 1, 92, 132, 4, 1, 167, 255, 178, 42, 27, 28, 182, 1, 73, 28, 29, 160, 0, 7]
abbrev dktX4_swaps_3 : List UInt8 := dkwX4_swaps_3 ++ dktX4_swaps_4
def dkwX4_swaps_2 : List UInt8 := [17, 0, 146, 96, 28, 21, 4, 184, 0, 178, 96, 17, 1, 34, 27, 104, 17, 0, 146, 96, 29, 21, 4]
abbrev dktX4_swaps_2 : List UInt8 := dkwX4_swaps_2 ++ dktX4_swaps_3
def dkwX4_swaps_1 : List UInt8 := [96, 17, 1, 34, 27, 104, 5, 96, 29, 21, 4, 184, 0, 178, 96, 182, 1, 92, 42, 17, 1, 34, 27, 104]
abbrev dktX4_swaps_1 : List UInt8 := dkwX4_swaps_1 ++ dktX4_swaps_2
def dkwX4_swaps_0 : List UInt8 := [3, 54, 4, 21, 4, 16, 12, 162, 0, 77, 42, 17, 1, 34, 27, 104, 5, 96, 28, 21, 4, 184, 0, 178]
abbrev dktX4_swaps_0 : List UInt8 := dkwX4_swaps_0 ++ dktX4_swaps_1
theorem dksX4_swaps_0 : cX4_swaps.data.toList.drop 0 = dktX4_swaps_0 := by decide +kernel
theorem dksX4_swaps_1 : cX4_swaps.data.toList.drop 24 = dktX4_swaps_1 := dk_seg dksX4_swaps_0 24 rfl rfl
theorem dksX4_swaps_2 : cX4_swaps.data.toList.drop 48 = dktX4_swaps_2 := dk_seg dksX4_swaps_1 24 rfl rfl
theorem dksX4_swaps_3 : cX4_swaps.data.toList.drop 71 = dktX4_swaps_3 := dk_seg dksX4_swaps_2 23 rfl rfl
theorem dksX4_swaps_4 : cX4_swaps.data.toList.drop 95 = dktX4_swaps_4 := dk_seg dksX4_swaps_3 24 rfl rfl
theorem dX4_swaps_0 : decode cX4_swaps 0 = .ok (.iconst 0, 1) := dk_3 (dk_at dksX4_swaps_0 0 rfl rfl)
theorem dX4_swaps_1 : decode cX4_swaps 1 = .ok (.istore 4, 2) := dk_54 4 (dk_at dksX4_swaps_0 1 rfl rfl)
theorem dX4_swaps_3 : decode cX4_swaps 3 = .ok (.iload 4, 2) := dk_21 4 (dk_at dksX4_swaps_0 3 rfl rfl)
theorem dX4_swaps_5 : decode cX4_swaps 5 = .ok (.bipush 12, 2) := dk_16 12 (dk_at dksX4_swaps_0 5 rfl rfl)
theorem dX4_swaps_7 : decode cX4_swaps 7 = .ok (.if_icmp .ge 77, 3) := dk_162 0 77 (dk_at dksX4_swaps_0 7 rfl rfl)
theorem dX4_swaps_10 : decode cX4_swaps 10 = .ok (.aload_n 0, 1) := dk_42 (dk_at dksX4_swaps_0 10 rfl rfl)
theorem dX4_swaps_11 : decode cX4_swaps 11 = .ok (.sipush 290, 3) := dk_17 1 34 (dk_at dksX4_swaps_0 11 rfl rfl)
theorem dX4_swaps_14 : decode cX4_swaps 14 = .ok (.iload_n 1, 1) := dk_27 (dk_at dksX4_swaps_0 14 rfl rfl)
theorem dX4_swaps_15 : decode cX4_swaps 15 = .ok (.imul, 1) := dk_104 (dk_at dksX4_swaps_0 15 rfl rfl)
theorem dX4_swaps_16 : decode cX4_swaps 16 = .ok (.iconst 2, 1) := dk_5 (dk_at dksX4_swaps_0 16 rfl rfl)
theorem dX4_swaps_17 : decode cX4_swaps 17 = .ok (.iadd, 1) := dk_96 (dk_at dksX4_swaps_0 17 rfl rfl)
theorem dX4_swaps_18 : decode cX4_swaps 18 = .ok (.iload_n 2, 1) := dk_28 (dk_at dksX4_swaps_0 18 rfl rfl)
theorem dX4_swaps_19 : decode cX4_swaps 19 = .ok (.iload 4, 2) := dk_21 4 (dk_at dksX4_swaps_0 19 rfl rfl)
theorem dX4_swaps_21 : decode cX4_swaps 21 = .ok (.invokestatic 178, 3) := dk_184 0 178 (dk_at dksX4_swaps_0 21 rfl rfl)
theorem dX4_swaps_24 : decode cX4_swaps 24 = .ok (.iadd, 1) := dk_96 (dk_at dksX4_swaps_1 0 rfl rfl)
theorem dX4_swaps_25 : decode cX4_swaps 25 = .ok (.sipush 290, 3) := dk_17 1 34 (dk_at dksX4_swaps_1 1 rfl rfl)
theorem dX4_swaps_28 : decode cX4_swaps 28 = .ok (.iload_n 1, 1) := dk_27 (dk_at dksX4_swaps_1 4 rfl rfl)
theorem dX4_swaps_29 : decode cX4_swaps 29 = .ok (.imul, 1) := dk_104 (dk_at dksX4_swaps_1 5 rfl rfl)
theorem dX4_swaps_30 : decode cX4_swaps 30 = .ok (.iconst 2, 1) := dk_5 (dk_at dksX4_swaps_1 6 rfl rfl)
theorem dX4_swaps_31 : decode cX4_swaps 31 = .ok (.iadd, 1) := dk_96 (dk_at dksX4_swaps_1 7 rfl rfl)
theorem dX4_swaps_32 : decode cX4_swaps 32 = .ok (.iload_n 3, 1) := dk_29 (dk_at dksX4_swaps_1 8 rfl rfl)
theorem dX4_swaps_33 : decode cX4_swaps 33 = .ok (.iload 4, 2) := dk_21 4 (dk_at dksX4_swaps_1 9 rfl rfl)
theorem dX4_swaps_35 : decode cX4_swaps 35 = .ok (.invokestatic 178, 3) := dk_184 0 178 (dk_at dksX4_swaps_1 11 rfl rfl)
theorem dX4_swaps_38 : decode cX4_swaps 38 = .ok (.iadd, 1) := dk_96 (dk_at dksX4_swaps_1 14 rfl rfl)
theorem dX4_swaps_39 : decode cX4_swaps 39 = .ok (.invokevirtual 348, 3) := dk_182 1 92 (dk_at dksX4_swaps_1 15 rfl rfl)
theorem dX4_swaps_42 : decode cX4_swaps 42 = .ok (.aload_n 0, 1) := dk_42 (dk_at dksX4_swaps_1 18 rfl rfl)
theorem dX4_swaps_43 : decode cX4_swaps 43 = .ok (.sipush 290, 3) := dk_17 1 34 (dk_at dksX4_swaps_1 19 rfl rfl)
theorem dX4_swaps_46 : decode cX4_swaps 46 = .ok (.iload_n 1, 1) := dk_27 (dk_at dksX4_swaps_1 22 rfl rfl)
theorem dX4_swaps_47 : decode cX4_swaps 47 = .ok (.imul, 1) := dk_104 (dk_at dksX4_swaps_1 23 rfl rfl)
theorem dX4_swaps_48 : decode cX4_swaps 48 = .ok (.sipush 146, 3) := dk_17 0 146 (dk_at dksX4_swaps_2 0 rfl rfl)
theorem dX4_swaps_51 : decode cX4_swaps 51 = .ok (.iadd, 1) := dk_96 (dk_at dksX4_swaps_2 3 rfl rfl)
theorem dX4_swaps_52 : decode cX4_swaps 52 = .ok (.iload_n 2, 1) := dk_28 (dk_at dksX4_swaps_2 4 rfl rfl)
theorem dX4_swaps_53 : decode cX4_swaps 53 = .ok (.iload 4, 2) := dk_21 4 (dk_at dksX4_swaps_2 5 rfl rfl)
theorem dX4_swaps_55 : decode cX4_swaps 55 = .ok (.invokestatic 178, 3) := dk_184 0 178 (dk_at dksX4_swaps_2 7 rfl rfl)
theorem dX4_swaps_58 : decode cX4_swaps 58 = .ok (.iadd, 1) := dk_96 (dk_at dksX4_swaps_2 10 rfl rfl)
theorem dX4_swaps_59 : decode cX4_swaps 59 = .ok (.sipush 290, 3) := dk_17 1 34 (dk_at dksX4_swaps_2 11 rfl rfl)
theorem dX4_swaps_62 : decode cX4_swaps 62 = .ok (.iload_n 1, 1) := dk_27 (dk_at dksX4_swaps_2 14 rfl rfl)
theorem dX4_swaps_63 : decode cX4_swaps 63 = .ok (.imul, 1) := dk_104 (dk_at dksX4_swaps_2 15 rfl rfl)
theorem dX4_swaps_64 : decode cX4_swaps 64 = .ok (.sipush 146, 3) := dk_17 0 146 (dk_at dksX4_swaps_2 16 rfl rfl)
theorem dX4_swaps_67 : decode cX4_swaps 67 = .ok (.iadd, 1) := dk_96 (dk_at dksX4_swaps_2 19 rfl rfl)
theorem dX4_swaps_68 : decode cX4_swaps 68 = .ok (.iload_n 3, 1) := dk_29 (dk_at dksX4_swaps_2 20 rfl rfl)
theorem dX4_swaps_69 : decode cX4_swaps 69 = .ok (.iload 4, 2) := dk_21 4 (dk_at dksX4_swaps_2 21 rfl rfl)
theorem dX4_swaps_71 : decode cX4_swaps 71 = .ok (.invokestatic 178, 3) := dk_184 0 178 (dk_at dksX4_swaps_3 0 rfl rfl)
theorem dX4_swaps_74 : decode cX4_swaps 74 = .ok (.iadd, 1) := dk_96 (dk_at dksX4_swaps_3 3 rfl rfl)
theorem dX4_swaps_75 : decode cX4_swaps 75 = .ok (.invokevirtual 348, 3) := dk_182 1 92 (dk_at dksX4_swaps_3 4 rfl rfl)
theorem dX4_swaps_78 : decode cX4_swaps 78 = .ok (.iinc 4 1, 3) := dk_132 4 1 (dk_at dksX4_swaps_3 7 rfl rfl)
theorem dX4_swaps_81 : decode cX4_swaps 81 = .ok (.goto (-78), 3) := dk_167 255 178 (dk_at dksX4_swaps_3 10 rfl rfl)
theorem dX4_swaps_84 : decode cX4_swaps 84 = .ok (.aload_n 0, 1) := dk_42 (dk_at dksX4_swaps_3 13 rfl rfl)
theorem dX4_swaps_85 : decode cX4_swaps 85 = .ok (.iload_n 1, 1) := dk_27 (dk_at dksX4_swaps_3 14 rfl rfl)
theorem dX4_swaps_86 : decode cX4_swaps 86 = .ok (.iload_n 2, 1) := dk_28 (dk_at dksX4_swaps_3 15 rfl rfl)
theorem dX4_swaps_87 : decode cX4_swaps 87 = .ok (.invokevirtual 329, 3) := dk_182 1 73 (dk_at dksX4_swaps_3 16 rfl rfl)
theorem dX4_swaps_90 : decode cX4_swaps 90 = .ok (.iload_n 2, 1) := dk_28 (dk_at dksX4_swaps_3 19 rfl rfl)
theorem dX4_swaps_91 : decode cX4_swaps 91 = .ok (.iload_n 3, 1) := dk_29 (dk_at dksX4_swaps_3 20 rfl rfl)
theorem dX4_swaps_92 : decode cX4_swaps 92 = .ok (.if_icmp .ne 7, 3) := dk_160 0 7 (dk_at dksX4_swaps_3 21 rfl rfl)
theorem dX4_swaps_95 : decode cX4_swaps 95 = .ok (.iconst 0, 1) := dk_3 (dk_at dksX4_swaps_4 0 rfl rfl)
theorem dX4_swaps_96 : decode cX4_swaps 96 = .ok (.goto 9, 3) := dk_167 0 9 (dk_at dksX4_swaps_4 1 rfl rfl)
theorem dX4_swaps_99 : decode cX4_swaps 99 = .ok (.aload_n 0, 1) := dk_42 (dk_at dksX4_swaps_4 4 rfl rfl)
theorem dX4_swaps_100 : decode cX4_swaps 100 = .ok (.iload_n 1, 1) := dk_27 (dk_at dksX4_swaps_4 5 rfl rfl)
theorem dX4_swaps_101 : decode cX4_swaps 101 = .ok (.iload_n 3, 1) := dk_29 (dk_at dksX4_swaps_4 6 rfl rfl)
theorem dX4_swaps_102 : decode cX4_swaps 102 = .ok (.invokevirtual 329, 3) := dk_182 1 73 (dk_at dksX4_swaps_4 7 rfl rfl)
theorem dX4_swaps_105 : decode cX4_swaps 105 = .ok (.iadd, 1) := dk_96 (dk_at dksX4_swaps_4 10 rfl rfl)
theorem dX4_swaps_106 : decode cX4_swaps 106 = .ok (.ireturn, 1) := dk_172 (dk_at dksX4_swaps_4 11 rfl rfl)
abbrev cX4_swapsInts : ByteArray := prog_23_method_88_code
def yX4_swapsInts : MethodName := ⟨RX4, "swapsInts", "(II)V"⟩
def dkwX4_swapsInts_1 : List UInt8 := [29, 79, 177]
abbrev dktX4_swapsInts_1 : List UInt8 := dkwX4_swapsInts_1 ++ []
def dkwX4_swapsInts_0 : List UInt8 := [42, 180, 0, 20, 27, 46, 62, 42, 180, 0, 20, 27, 42, 180, 0, 20, 28, 46, 79, 42, 180, 0, 20, 28]
abbrev dktX4_swapsInts_0 : List UInt8 := dkwX4_swapsInts_0 ++ dktX4_swapsInts_1
theorem dksX4_swapsInts_0 : cX4_swapsInts.data.toList.drop 0 = dktX4_swapsInts_0 := by decide +kernel
theorem dksX4_swapsInts_1 : cX4_swapsInts.data.toList.drop 24 = dktX4_swapsInts_1 := dk_seg dksX4_swapsInts_0 24 rfl rfl
theorem dX4_swapsInts_0 : decode cX4_swapsInts 0 = .ok (.aload_n 0, 1) := dk_42 (dk_at dksX4_swapsInts_0 0 rfl rfl)
theorem dX4_swapsInts_1 : decode cX4_swapsInts 1 = .ok (.getfield 20, 3) := dk_180 0 20 (dk_at dksX4_swapsInts_0 1 rfl rfl)
theorem dX4_swapsInts_4 : decode cX4_swapsInts 4 = .ok (.iload_n 1, 1) := dk_27 (dk_at dksX4_swapsInts_0 4 rfl rfl)
theorem dX4_swapsInts_5 : decode cX4_swapsInts 5 = .ok (.iaload, 1) := dk_46 (dk_at dksX4_swapsInts_0 5 rfl rfl)
theorem dX4_swapsInts_6 : decode cX4_swapsInts 6 = .ok (.istore_n 3, 1) := dk_62 (dk_at dksX4_swapsInts_0 6 rfl rfl)
theorem dX4_swapsInts_7 : decode cX4_swapsInts 7 = .ok (.aload_n 0, 1) := dk_42 (dk_at dksX4_swapsInts_0 7 rfl rfl)
theorem dX4_swapsInts_8 : decode cX4_swapsInts 8 = .ok (.getfield 20, 3) := dk_180 0 20 (dk_at dksX4_swapsInts_0 8 rfl rfl)
theorem dX4_swapsInts_11 : decode cX4_swapsInts 11 = .ok (.iload_n 1, 1) := dk_27 (dk_at dksX4_swapsInts_0 11 rfl rfl)
theorem dX4_swapsInts_12 : decode cX4_swapsInts 12 = .ok (.aload_n 0, 1) := dk_42 (dk_at dksX4_swapsInts_0 12 rfl rfl)
theorem dX4_swapsInts_13 : decode cX4_swapsInts 13 = .ok (.getfield 20, 3) := dk_180 0 20 (dk_at dksX4_swapsInts_0 13 rfl rfl)
theorem dX4_swapsInts_16 : decode cX4_swapsInts 16 = .ok (.iload_n 2, 1) := dk_28 (dk_at dksX4_swapsInts_0 16 rfl rfl)
theorem dX4_swapsInts_17 : decode cX4_swapsInts 17 = .ok (.iaload, 1) := dk_46 (dk_at dksX4_swapsInts_0 17 rfl rfl)
theorem dX4_swapsInts_18 : decode cX4_swapsInts 18 = .ok (.iastore, 1) := dk_79 (dk_at dksX4_swapsInts_0 18 rfl rfl)
theorem dX4_swapsInts_19 : decode cX4_swapsInts 19 = .ok (.aload_n 0, 1) := dk_42 (dk_at dksX4_swapsInts_0 19 rfl rfl)
theorem dX4_swapsInts_20 : decode cX4_swapsInts 20 = .ok (.getfield 20, 3) := dk_180 0 20 (dk_at dksX4_swapsInts_0 20 rfl rfl)
theorem dX4_swapsInts_23 : decode cX4_swapsInts 23 = .ok (.iload_n 2, 1) := dk_28 (dk_at dksX4_swapsInts_0 23 rfl rfl)
theorem dX4_swapsInts_24 : decode cX4_swapsInts 24 = .ok (.iload_n 3, 1) := dk_29 (dk_at dksX4_swapsInts_1 0 rfl rfl)
theorem dX4_swapsInts_25 : decode cX4_swapsInts 25 = .ok (.iastore, 1) := dk_79 (dk_at dksX4_swapsInts_1 1 rfl rfl)
theorem dX4_swapsInts_26 : decode cX4_swapsInts 26 = .ok (.return_, 1) := dk_177 (dk_at dksX4_swapsInts_1 2 rfl rfl)
abbrev cX4_scale : ByteArray := prog_23_method_98_code
def yX4_scale : MethodName := ⟨RX4, "scale", "(II)I"⟩
def dkwX4_scale_2 : List UInt8 := [154, 0, 5, 3, 172, 42, 182, 1, 102, 42, 42, 27, 182, 1, 139, 182, 1, 108, 172]
abbrev dktX4_scale_2 : List UInt8 := dkwX4_scale_2 ++ []
def dkwX4_scale_1 : List UInt8 := [153, 0, 20, 29, 153, 0, 16, 42, 27, 28, 182, 1, 132, 153, 0, 7, 4, 167, 0, 4, 3, 182, 1, 135]
abbrev dktX4_scale_1 : List UInt8 := dkwX4_scale_1 ++ dktX4_scale_2
def dkwX4_scale_0 : List UInt8 := [28, 133, 20, 1, 128, 20, 1, 130, 184, 0, 95, 62, 42, 27, 184, 1, 57, 29, 27, 184, 1, 57]
abbrev dktX4_scale_0 : List UInt8 := dkwX4_scale_0 ++ dktX4_scale_1
theorem dksX4_scale_0 : cX4_scale.data.toList.drop 0 = dktX4_scale_0 := by decide +kernel
theorem dksX4_scale_1 : cX4_scale.data.toList.drop 22 = dktX4_scale_1 := dk_seg dksX4_scale_0 22 rfl rfl
theorem dksX4_scale_2 : cX4_scale.data.toList.drop 46 = dktX4_scale_2 := dk_seg dksX4_scale_1 24 rfl rfl
theorem dX4_scale_0 : decode cX4_scale 0 = .ok (.iload_n 2, 1) := dk_28 (dk_at dksX4_scale_0 0 rfl rfl)
theorem dX4_scale_1 : decode cX4_scale 1 = .ok (.i2l, 1) := dk_133 (dk_at dksX4_scale_0 1 rfl rfl)
theorem dX4_scale_2 : decode cX4_scale 2 = .ok (.ldc2_w 384, 3) := dk_20 1 128 (dk_at dksX4_scale_0 2 rfl rfl)
theorem dX4_scale_5 : decode cX4_scale 5 = .ok (.ldc2_w 386, 3) := dk_20 1 130 (dk_at dksX4_scale_0 5 rfl rfl)
theorem dX4_scale_8 : decode cX4_scale 8 = .ok (.invokestatic 95, 3) := dk_184 0 95 (dk_at dksX4_scale_0 8 rfl rfl)
theorem dX4_scale_11 : decode cX4_scale 11 = .ok (.istore_n 3, 1) := dk_62 (dk_at dksX4_scale_0 11 rfl rfl)
theorem dX4_scale_12 : decode cX4_scale 12 = .ok (.aload_n 0, 1) := dk_42 (dk_at dksX4_scale_0 12 rfl rfl)
theorem dX4_scale_13 : decode cX4_scale 13 = .ok (.iload_n 1, 1) := dk_27 (dk_at dksX4_scale_0 13 rfl rfl)
theorem dX4_scale_14 : decode cX4_scale 14 = .ok (.invokestatic 313, 3) := dk_184 1 57 (dk_at dksX4_scale_0 14 rfl rfl)
theorem dX4_scale_17 : decode cX4_scale 17 = .ok (.iload_n 3, 1) := dk_29 (dk_at dksX4_scale_0 17 rfl rfl)
theorem dX4_scale_18 : decode cX4_scale 18 = .ok (.iload_n 1, 1) := dk_27 (dk_at dksX4_scale_0 18 rfl rfl)
theorem dX4_scale_19 : decode cX4_scale 19 = .ok (.invokestatic 313, 3) := dk_184 1 57 (dk_at dksX4_scale_0 19 rfl rfl)
theorem dX4_scale_22 : decode cX4_scale 22 = .ok (.ifCond .eq 20, 3) := dk_153 0 20 (dk_at dksX4_scale_1 0 rfl rfl)
theorem dX4_scale_25 : decode cX4_scale 25 = .ok (.iload_n 3, 1) := dk_29 (dk_at dksX4_scale_1 3 rfl rfl)
theorem dX4_scale_26 : decode cX4_scale 26 = .ok (.ifCond .eq 16, 3) := dk_153 0 16 (dk_at dksX4_scale_1 4 rfl rfl)
theorem dX4_scale_29 : decode cX4_scale 29 = .ok (.aload_n 0, 1) := dk_42 (dk_at dksX4_scale_1 7 rfl rfl)
theorem dX4_scale_30 : decode cX4_scale 30 = .ok (.iload_n 1, 1) := dk_27 (dk_at dksX4_scale_1 8 rfl rfl)
theorem dX4_scale_31 : decode cX4_scale 31 = .ok (.iload_n 2, 1) := dk_28 (dk_at dksX4_scale_1 9 rfl rfl)
theorem dX4_scale_32 : decode cX4_scale 32 = .ok (.invokevirtual 388, 3) := dk_182 1 132 (dk_at dksX4_scale_1 10 rfl rfl)
theorem dX4_scale_35 : decode cX4_scale 35 = .ok (.ifCond .eq 7, 3) := dk_153 0 7 (dk_at dksX4_scale_1 13 rfl rfl)
theorem dX4_scale_38 : decode cX4_scale 38 = .ok (.iconst 1, 1) := dk_4 (dk_at dksX4_scale_1 16 rfl rfl)
theorem dX4_scale_39 : decode cX4_scale 39 = .ok (.goto 4, 3) := dk_167 0 4 (dk_at dksX4_scale_1 17 rfl rfl)
theorem dX4_scale_42 : decode cX4_scale 42 = .ok (.iconst 0, 1) := dk_3 (dk_at dksX4_scale_1 20 rfl rfl)
theorem dX4_scale_43 : decode cX4_scale 43 = .ok (.invokevirtual 391, 3) := dk_182 1 135 (dk_at dksX4_scale_1 21 rfl rfl)
theorem dX4_scale_46 : decode cX4_scale 46 = .ok (.ifCond .ne 5, 3) := dk_154 0 5 (dk_at dksX4_scale_2 0 rfl rfl)
theorem dX4_scale_49 : decode cX4_scale 49 = .ok (.iconst 0, 1) := dk_3 (dk_at dksX4_scale_2 3 rfl rfl)
theorem dX4_scale_50 : decode cX4_scale 50 = .ok (.ireturn, 1) := dk_172 (dk_at dksX4_scale_2 4 rfl rfl)
theorem dX4_scale_51 : decode cX4_scale 51 = .ok (.aload_n 0, 1) := dk_42 (dk_at dksX4_scale_2 5 rfl rfl)
theorem dX4_scale_52 : decode cX4_scale 52 = .ok (.invokevirtual 358, 3) := dk_182 1 102 (dk_at dksX4_scale_2 6 rfl rfl)
theorem dX4_scale_55 : decode cX4_scale 55 = .ok (.aload_n 0, 1) := dk_42 (dk_at dksX4_scale_2 9 rfl rfl)
theorem dX4_scale_56 : decode cX4_scale 56 = .ok (.aload_n 0, 1) := dk_42 (dk_at dksX4_scale_2 10 rfl rfl)
theorem dX4_scale_57 : decode cX4_scale 57 = .ok (.iload_n 1, 1) := dk_27 (dk_at dksX4_scale_2 11 rfl rfl)
theorem dX4_scale_58 : decode cX4_scale 58 = .ok (.invokevirtual 395, 3) := dk_182 1 139 (dk_at dksX4_scale_2 12 rfl rfl)
theorem dX4_scale_61 : decode cX4_scale 61 = .ok (.invokevirtual 364, 3) := dk_182 1 108 (dk_at dksX4_scale_2 15 rfl rfl)
theorem dX4_scale_64 : decode cX4_scale 64 = .ok (.ireturn, 1) := dk_172 (dk_at dksX4_scale_2 18 rfl rfl)
abbrev cX4_scalesRegister : ByteArray := prog_23_method_95_code
def yX4_scalesRegister : MethodName := ⟨RX4, "scalesRegister", "(II)Z"⟩
def dkwX4_scalesRegister_0 : List UInt8 := [42, 182, 0, 238, 42, 27, 182, 0, 235, 42, 28, 182, 0, 226, 172]
abbrev dktX4_scalesRegister_0 : List UInt8 := dkwX4_scalesRegister_0 ++ []
theorem dksX4_scalesRegister_0 : cX4_scalesRegister.data.toList.drop 0 = dktX4_scalesRegister_0 := by decide +kernel
theorem dX4_scalesRegister_0 : decode cX4_scalesRegister 0 = .ok (.aload_n 0, 1) := dk_42 (dk_at dksX4_scalesRegister_0 0 rfl rfl)
theorem dX4_scalesRegister_1 : decode cX4_scalesRegister 1 = .ok (.invokevirtual 238, 3) := dk_182 0 238 (dk_at dksX4_scalesRegister_0 1 rfl rfl)
theorem dX4_scalesRegister_4 : decode cX4_scalesRegister 4 = .ok (.aload_n 0, 1) := dk_42 (dk_at dksX4_scalesRegister_0 4 rfl rfl)
theorem dX4_scalesRegister_5 : decode cX4_scalesRegister 5 = .ok (.iload_n 1, 1) := dk_27 (dk_at dksX4_scalesRegister_0 5 rfl rfl)
theorem dX4_scalesRegister_6 : decode cX4_scalesRegister 6 = .ok (.invokevirtual 235, 3) := dk_182 0 235 (dk_at dksX4_scalesRegister_0 6 rfl rfl)
theorem dX4_scalesRegister_9 : decode cX4_scalesRegister 9 = .ok (.aload_n 0, 1) := dk_42 (dk_at dksX4_scalesRegister_0 9 rfl rfl)
theorem dX4_scalesRegister_10 : decode cX4_scalesRegister 10 = .ok (.iload_n 2, 1) := dk_28 (dk_at dksX4_scalesRegister_0 10 rfl rfl)
theorem dX4_scalesRegister_11 : decode cX4_scalesRegister 11 = .ok (.invokevirtual 226, 3) := dk_182 0 226 (dk_at dksX4_scalesRegister_0 11 rfl rfl)
theorem dX4_scalesRegister_14 : decode cX4_scalesRegister 14 = .ok (.ireturn, 1) := dk_172 (dk_at dksX4_scalesRegister_0 14 rfl rfl)
abbrev cX4_beginsStack : ByteArray := prog_23_method_53_code
def yX4_beginsStack : MethodName := ⟨RX4, "beginsStack", "()V"⟩
def dkwX4_beginsStack_0 : List UInt8 := [42, 3, 181, 0, 185, 42, 3, 181, 0, 210, 177]
abbrev dktX4_beginsStack_0 : List UInt8 := dkwX4_beginsStack_0 ++ []
theorem dksX4_beginsStack_0 : cX4_beginsStack.data.toList.drop 0 = dktX4_beginsStack_0 := by decide +kernel
theorem dX4_beginsStack_0 : decode cX4_beginsStack 0 = .ok (.aload_n 0, 1) := dk_42 (dk_at dksX4_beginsStack_0 0 rfl rfl)
theorem dX4_beginsStack_1 : decode cX4_beginsStack 1 = .ok (.iconst 0, 1) := dk_3 (dk_at dksX4_beginsStack_0 1 rfl rfl)
theorem dX4_beginsStack_2 : decode cX4_beginsStack 2 = .ok (.putfield 185, 3) := dk_181 0 185 (dk_at dksX4_beginsStack_0 2 rfl rfl)
theorem dX4_beginsStack_5 : decode cX4_beginsStack 5 = .ok (.aload_n 0, 1) := dk_42 (dk_at dksX4_beginsStack_0 5 rfl rfl)
theorem dX4_beginsStack_6 : decode cX4_beginsStack 6 = .ok (.iconst 0, 1) := dk_3 (dk_at dksX4_beginsStack_0 6 rfl rfl)
theorem dX4_beginsStack_7 : decode cX4_beginsStack 7 = .ok (.putfield 210, 3) := dk_181 0 210 (dk_at dksX4_beginsStack_0 7 rfl rfl)
theorem dX4_beginsStack_10 : decode cX4_beginsStack 10 = .ok (.return_, 1) := dk_177 (dk_at dksX4_beginsStack_0 10 rfl rfl)
abbrev cX4_pushesRegister : ByteArray := prog_23_method_45_code
def yX4_pushesRegister : MethodName := ⟨RX4, "pushesRegister", "(I)V"⟩
def dkwX4_pushesRegister_1 : List UInt8 := [184, 0, 160, 42, 89, 180, 0, 185, 4, 96, 181, 0, 185, 177]
abbrev dktX4_pushesRegister_1 : List UInt8 := dkwX4_pushesRegister_1 ++ []
def dkwX4_pushesRegister_0 : List UInt8 := [42, 180, 0, 20, 17, 1, 34, 27, 104, 42, 180, 0, 32, 42, 180, 0, 185, 184, 0, 188, 17, 1, 34]
abbrev dktX4_pushesRegister_0 : List UInt8 := dkwX4_pushesRegister_0 ++ dktX4_pushesRegister_1
theorem dksX4_pushesRegister_0 : cX4_pushesRegister.data.toList.drop 0 = dktX4_pushesRegister_0 := by decide +kernel
theorem dksX4_pushesRegister_1 : cX4_pushesRegister.data.toList.drop 23 = dktX4_pushesRegister_1 := dk_seg dksX4_pushesRegister_0 23 rfl rfl
theorem dX4_pushesRegister_0 : decode cX4_pushesRegister 0 = .ok (.aload_n 0, 1) := dk_42 (dk_at dksX4_pushesRegister_0 0 rfl rfl)
theorem dX4_pushesRegister_1 : decode cX4_pushesRegister 1 = .ok (.getfield 20, 3) := dk_180 0 20 (dk_at dksX4_pushesRegister_0 1 rfl rfl)
theorem dX4_pushesRegister_4 : decode cX4_pushesRegister 4 = .ok (.sipush 290, 3) := dk_17 1 34 (dk_at dksX4_pushesRegister_0 4 rfl rfl)
theorem dX4_pushesRegister_7 : decode cX4_pushesRegister 7 = .ok (.iload_n 1, 1) := dk_27 (dk_at dksX4_pushesRegister_0 7 rfl rfl)
theorem dX4_pushesRegister_8 : decode cX4_pushesRegister 8 = .ok (.imul, 1) := dk_104 (dk_at dksX4_pushesRegister_0 8 rfl rfl)
theorem dX4_pushesRegister_9 : decode cX4_pushesRegister 9 = .ok (.aload_n 0, 1) := dk_42 (dk_at dksX4_pushesRegister_0 9 rfl rfl)
theorem dX4_pushesRegister_10 : decode cX4_pushesRegister 10 = .ok (.getfield 32, 3) := dk_180 0 32 (dk_at dksX4_pushesRegister_0 10 rfl rfl)
theorem dX4_pushesRegister_13 : decode cX4_pushesRegister 13 = .ok (.aload_n 0, 1) := dk_42 (dk_at dksX4_pushesRegister_0 13 rfl rfl)
theorem dX4_pushesRegister_14 : decode cX4_pushesRegister 14 = .ok (.getfield 185, 3) := dk_180 0 185 (dk_at dksX4_pushesRegister_0 14 rfl rfl)
theorem dX4_pushesRegister_17 : decode cX4_pushesRegister 17 = .ok (.invokestatic 188, 3) := dk_184 0 188 (dk_at dksX4_pushesRegister_0 17 rfl rfl)
theorem dX4_pushesRegister_20 : decode cX4_pushesRegister 20 = .ok (.sipush 290, 3) := dk_17 1 34 (dk_at dksX4_pushesRegister_0 20 rfl rfl)
theorem dX4_pushesRegister_23 : decode cX4_pushesRegister 23 = .ok (.invokestatic 160, 3) := dk_184 0 160 (dk_at dksX4_pushesRegister_1 0 rfl rfl)
theorem dX4_pushesRegister_26 : decode cX4_pushesRegister 26 = .ok (.aload_n 0, 1) := dk_42 (dk_at dksX4_pushesRegister_1 3 rfl rfl)
theorem dX4_pushesRegister_27 : decode cX4_pushesRegister 27 = .ok (.dup, 1) := dk_89 (dk_at dksX4_pushesRegister_1 4 rfl rfl)
theorem dX4_pushesRegister_28 : decode cX4_pushesRegister 28 = .ok (.getfield 185, 3) := dk_180 0 185 (dk_at dksX4_pushesRegister_1 5 rfl rfl)
theorem dX4_pushesRegister_31 : decode cX4_pushesRegister 31 = .ok (.iconst 1, 1) := dk_4 (dk_at dksX4_pushesRegister_1 8 rfl rfl)
theorem dX4_pushesRegister_32 : decode cX4_pushesRegister 32 = .ok (.iadd, 1) := dk_96 (dk_at dksX4_pushesRegister_1 9 rfl rfl)
theorem dX4_pushesRegister_33 : decode cX4_pushesRegister 33 = .ok (.putfield 185, 3) := dk_181 0 185 (dk_at dksX4_pushesRegister_1 10 rfl rfl)
theorem dX4_pushesRegister_36 : decode cX4_pushesRegister 36 = .ok (.return_, 1) := dk_177 (dk_at dksX4_pushesRegister_1 13 rfl rfl)
abbrev cX4_slot : ByteArray := prog_23_method_44_code
def yX4_slot : MethodName := ⟨RX4, "slot", "(I)I"⟩
def dkwX4_slot_0 : List UInt8 := [17, 1, 34, 26, 104, 172]
abbrev dktX4_slot_0 : List UInt8 := dkwX4_slot_0 ++ []
theorem dksX4_slot_0 : cX4_slot.data.toList.drop 0 = dktX4_slot_0 := by decide +kernel
theorem dX4_slot_0 : decode cX4_slot 0 = .ok (.sipush 290, 3) := dk_17 1 34 (dk_at dksX4_slot_0 0 rfl rfl)
theorem dX4_slot_3 : decode cX4_slot 3 = .ok (.iload_n 0, 1) := dk_26 (dk_at dksX4_slot_0 3 rfl rfl)
theorem dX4_slot_4 : decode cX4_slot 4 = .ok (.imul, 1) := dk_104 (dk_at dksX4_slot_0 4 rfl rfl)
theorem dX4_slot_5 : decode cX4_slot 5 = .ok (.ireturn, 1) := dk_172 (dk_at dksX4_slot_0 5 rfl rfl)
abbrev cX4_scales : ByteArray := prog_23_method_49_code
def yX4_scales : MethodName := ⟨RX4, "scales", "(I)Z"⟩
def dkwX4_scales_2 : List UInt8 := [180, 0, 32, 28, 17, 0, 146, 96, 29, 96, 22, 4, 136, 79, 132, 3, 1, 167, 255, 203, 4, 172]
abbrev dktX4_scales_2 : List UInt8 := dkwX4_scales_2 ++ []
def dkwX4_scales_1 : List UInt8 := [17, 0, 146, 96, 29, 96, 46, 133, 27, 133, 105, 55, 4, 22, 4, 184, 0, 207, 154, 0, 5, 3, 172, 42]
abbrev dktX4_scales_1 : List UInt8 := dkwX4_scales_1 ++ dktX4_scales_2
def dkwX4_scales_0 : List UInt8 := [42, 180, 0, 185, 4, 100, 184, 0, 188, 61, 3, 62, 29, 17, 0, 144, 162, 0, 52, 42, 180, 0, 32, 28]
abbrev dktX4_scales_0 : List UInt8 := dkwX4_scales_0 ++ dktX4_scales_1
theorem dksX4_scales_0 : cX4_scales.data.toList.drop 0 = dktX4_scales_0 := by decide +kernel
theorem dksX4_scales_1 : cX4_scales.data.toList.drop 24 = dktX4_scales_1 := dk_seg dksX4_scales_0 24 rfl rfl
theorem dksX4_scales_2 : cX4_scales.data.toList.drop 48 = dktX4_scales_2 := dk_seg dksX4_scales_1 24 rfl rfl
theorem dX4_scales_0 : decode cX4_scales 0 = .ok (.aload_n 0, 1) := dk_42 (dk_at dksX4_scales_0 0 rfl rfl)
theorem dX4_scales_1 : decode cX4_scales 1 = .ok (.getfield 185, 3) := dk_180 0 185 (dk_at dksX4_scales_0 1 rfl rfl)
theorem dX4_scales_4 : decode cX4_scales 4 = .ok (.iconst 1, 1) := dk_4 (dk_at dksX4_scales_0 4 rfl rfl)
theorem dX4_scales_5 : decode cX4_scales 5 = .ok (.isub, 1) := dk_100 (dk_at dksX4_scales_0 5 rfl rfl)
theorem dX4_scales_6 : decode cX4_scales 6 = .ok (.invokestatic 188, 3) := dk_184 0 188 (dk_at dksX4_scales_0 6 rfl rfl)
theorem dX4_scales_9 : decode cX4_scales 9 = .ok (.istore_n 2, 1) := dk_61 (dk_at dksX4_scales_0 9 rfl rfl)
theorem dX4_scales_10 : decode cX4_scales 10 = .ok (.iconst 0, 1) := dk_3 (dk_at dksX4_scales_0 10 rfl rfl)
theorem dX4_scales_11 : decode cX4_scales 11 = .ok (.istore_n 3, 1) := dk_62 (dk_at dksX4_scales_0 11 rfl rfl)
theorem dX4_scales_12 : decode cX4_scales 12 = .ok (.iload_n 3, 1) := dk_29 (dk_at dksX4_scales_0 12 rfl rfl)
theorem dX4_scales_13 : decode cX4_scales 13 = .ok (.sipush 144, 3) := dk_17 0 144 (dk_at dksX4_scales_0 13 rfl rfl)
theorem dX4_scales_16 : decode cX4_scales 16 = .ok (.if_icmp .ge 52, 3) := dk_162 0 52 (dk_at dksX4_scales_0 16 rfl rfl)
theorem dX4_scales_19 : decode cX4_scales 19 = .ok (.aload_n 0, 1) := dk_42 (dk_at dksX4_scales_0 19 rfl rfl)
theorem dX4_scales_20 : decode cX4_scales 20 = .ok (.getfield 32, 3) := dk_180 0 32 (dk_at dksX4_scales_0 20 rfl rfl)
theorem dX4_scales_23 : decode cX4_scales 23 = .ok (.iload_n 2, 1) := dk_28 (dk_at dksX4_scales_0 23 rfl rfl)
theorem dX4_scales_24 : decode cX4_scales 24 = .ok (.sipush 146, 3) := dk_17 0 146 (dk_at dksX4_scales_1 0 rfl rfl)
theorem dX4_scales_27 : decode cX4_scales 27 = .ok (.iadd, 1) := dk_96 (dk_at dksX4_scales_1 3 rfl rfl)
theorem dX4_scales_28 : decode cX4_scales 28 = .ok (.iload_n 3, 1) := dk_29 (dk_at dksX4_scales_1 4 rfl rfl)
theorem dX4_scales_29 : decode cX4_scales 29 = .ok (.iadd, 1) := dk_96 (dk_at dksX4_scales_1 5 rfl rfl)
theorem dX4_scales_30 : decode cX4_scales 30 = .ok (.iaload, 1) := dk_46 (dk_at dksX4_scales_1 6 rfl rfl)
theorem dX4_scales_31 : decode cX4_scales 31 = .ok (.i2l, 1) := dk_133 (dk_at dksX4_scales_1 7 rfl rfl)
theorem dX4_scales_32 : decode cX4_scales 32 = .ok (.iload_n 1, 1) := dk_27 (dk_at dksX4_scales_1 8 rfl rfl)
theorem dX4_scales_33 : decode cX4_scales 33 = .ok (.i2l, 1) := dk_133 (dk_at dksX4_scales_1 9 rfl rfl)
theorem dX4_scales_34 : decode cX4_scales 34 = .ok (.lmul, 1) := dk_105 (dk_at dksX4_scales_1 10 rfl rfl)
theorem dX4_scales_35 : decode cX4_scales 35 = .ok (.lstore 4, 2) := dk_55 4 (dk_at dksX4_scales_1 11 rfl rfl)
theorem dX4_scales_37 : decode cX4_scales 37 = .ok (.lload 4, 2) := dk_22 4 (dk_at dksX4_scales_1 13 rfl rfl)
theorem dX4_scales_39 : decode cX4_scales 39 = .ok (.invokestatic 207, 3) := dk_184 0 207 (dk_at dksX4_scales_1 15 rfl rfl)
theorem dX4_scales_42 : decode cX4_scales 42 = .ok (.ifCond .ne 5, 3) := dk_154 0 5 (dk_at dksX4_scales_1 18 rfl rfl)
theorem dX4_scales_45 : decode cX4_scales 45 = .ok (.iconst 0, 1) := dk_3 (dk_at dksX4_scales_1 21 rfl rfl)
theorem dX4_scales_46 : decode cX4_scales 46 = .ok (.ireturn, 1) := dk_172 (dk_at dksX4_scales_1 22 rfl rfl)
theorem dX4_scales_47 : decode cX4_scales 47 = .ok (.aload_n 0, 1) := dk_42 (dk_at dksX4_scales_1 23 rfl rfl)
theorem dX4_scales_48 : decode cX4_scales 48 = .ok (.getfield 32, 3) := dk_180 0 32 (dk_at dksX4_scales_2 0 rfl rfl)
theorem dX4_scales_51 : decode cX4_scales 51 = .ok (.iload_n 2, 1) := dk_28 (dk_at dksX4_scales_2 3 rfl rfl)
theorem dX4_scales_52 : decode cX4_scales 52 = .ok (.sipush 146, 3) := dk_17 0 146 (dk_at dksX4_scales_2 4 rfl rfl)
theorem dX4_scales_55 : decode cX4_scales 55 = .ok (.iadd, 1) := dk_96 (dk_at dksX4_scales_2 7 rfl rfl)
theorem dX4_scales_56 : decode cX4_scales 56 = .ok (.iload_n 3, 1) := dk_29 (dk_at dksX4_scales_2 8 rfl rfl)
theorem dX4_scales_57 : decode cX4_scales 57 = .ok (.iadd, 1) := dk_96 (dk_at dksX4_scales_2 9 rfl rfl)
theorem dX4_scales_58 : decode cX4_scales 58 = .ok (.lload 4, 2) := dk_22 4 (dk_at dksX4_scales_2 10 rfl rfl)
theorem dX4_scales_60 : decode cX4_scales 60 = .ok (.l2i, 1) := dk_136 (dk_at dksX4_scales_2 12 rfl rfl)
theorem dX4_scales_61 : decode cX4_scales 61 = .ok (.iastore, 1) := dk_79 (dk_at dksX4_scales_2 13 rfl rfl)
theorem dX4_scales_62 : decode cX4_scales 62 = .ok (.iinc 3 1, 3) := dk_132 3 1 (dk_at dksX4_scales_2 14 rfl rfl)
theorem dX4_scales_65 : decode cX4_scales 65 = .ok (.goto (-53), 3) := dk_167 255 203 (dk_at dksX4_scales_2 17 rfl rfl)
theorem dX4_scales_68 : decode cX4_scales 68 = .ok (.iconst 1, 1) := dk_4 (dk_at dksX4_scales_2 20 rfl rfl)
theorem dX4_scales_69 : decode cX4_scales 69 = .ok (.ireturn, 1) := dk_172 (dk_at dksX4_scales_2 21 rfl rfl)
abbrev cX4_isSmall : ByteArray := prog_23_method_43_code
def yX4_isSmall : MethodName := ⟨RX4, "isSmall", "(J)Z"⟩
def dkwX4_isSmall_0 : List UInt8 := [30, 20, 0, 181, 20, 0, 183, 184, 0, 95, 172]
abbrev dktX4_isSmall_0 : List UInt8 := dkwX4_isSmall_0 ++ []
theorem dksX4_isSmall_0 : cX4_isSmall.data.toList.drop 0 = dktX4_isSmall_0 := by decide +kernel
theorem dX4_isSmall_0 : decode cX4_isSmall 0 = .ok (.lload_n 0, 1) := dk_30 (dk_at dksX4_isSmall_0 0 rfl rfl)
theorem dX4_isSmall_1 : decode cX4_isSmall 1 = .ok (.ldc2_w 181, 3) := dk_20 0 181 (dk_at dksX4_isSmall_0 1 rfl rfl)
theorem dX4_isSmall_4 : decode cX4_isSmall 4 = .ok (.ldc2_w 183, 3) := dk_20 0 183 (dk_at dksX4_isSmall_0 4 rfl rfl)
theorem dX4_isSmall_7 : decode cX4_isSmall 7 = .ok (.invokestatic 95, 3) := dk_184 0 95 (dk_at dksX4_isSmall_0 7 rfl rfl)
theorem dX4_isSmall_10 : decode cX4_isSmall 10 = .ok (.ireturn, 1) := dk_172 (dk_at dksX4_isSmall_0 10 rfl rfl)
abbrev cX4_goesThree : ByteArray := prog_23_method_8_code
def yX4_goesThree : MethodName := ⟨RX4, "goesThree", "(ZZZ)Z"⟩
def dkwX4_goesThree_1 : List UInt8 := [167, 0, 4, 3, 181, 0, 77, 42, 180, 0, 77, 154, 0, 7, 4, 167, 0, 4, 3, 172]
abbrev dktX4_goesThree_1 : List UInt8 := dkwX4_goesThree_1 ++ []
def dkwX4_goesThree_0 : List UInt8 := [42, 27, 154, 0, 7, 4, 167, 0, 20, 28, 154, 0, 7, 5, 167, 0, 12, 29, 154, 0, 7, 6]
abbrev dktX4_goesThree_0 : List UInt8 := dkwX4_goesThree_0 ++ dktX4_goesThree_1
theorem dksX4_goesThree_0 : cX4_goesThree.data.toList.drop 0 = dktX4_goesThree_0 := by decide +kernel
theorem dksX4_goesThree_1 : cX4_goesThree.data.toList.drop 22 = dktX4_goesThree_1 := dk_seg dksX4_goesThree_0 22 rfl rfl
theorem dX4_goesThree_0 : decode cX4_goesThree 0 = .ok (.aload_n 0, 1) := dk_42 (dk_at dksX4_goesThree_0 0 rfl rfl)
theorem dX4_goesThree_1 : decode cX4_goesThree 1 = .ok (.iload_n 1, 1) := dk_27 (dk_at dksX4_goesThree_0 1 rfl rfl)
theorem dX4_goesThree_2 : decode cX4_goesThree 2 = .ok (.ifCond .ne 7, 3) := dk_154 0 7 (dk_at dksX4_goesThree_0 2 rfl rfl)
theorem dX4_goesThree_5 : decode cX4_goesThree 5 = .ok (.iconst 1, 1) := dk_4 (dk_at dksX4_goesThree_0 5 rfl rfl)
theorem dX4_goesThree_6 : decode cX4_goesThree 6 = .ok (.goto 20, 3) := dk_167 0 20 (dk_at dksX4_goesThree_0 6 rfl rfl)
theorem dX4_goesThree_9 : decode cX4_goesThree 9 = .ok (.iload_n 2, 1) := dk_28 (dk_at dksX4_goesThree_0 9 rfl rfl)
theorem dX4_goesThree_10 : decode cX4_goesThree 10 = .ok (.ifCond .ne 7, 3) := dk_154 0 7 (dk_at dksX4_goesThree_0 10 rfl rfl)
theorem dX4_goesThree_13 : decode cX4_goesThree 13 = .ok (.iconst 2, 1) := dk_5 (dk_at dksX4_goesThree_0 13 rfl rfl)
theorem dX4_goesThree_14 : decode cX4_goesThree 14 = .ok (.goto 12, 3) := dk_167 0 12 (dk_at dksX4_goesThree_0 14 rfl rfl)
theorem dX4_goesThree_17 : decode cX4_goesThree 17 = .ok (.iload_n 3, 1) := dk_29 (dk_at dksX4_goesThree_0 17 rfl rfl)
theorem dX4_goesThree_18 : decode cX4_goesThree 18 = .ok (.ifCond .ne 7, 3) := dk_154 0 7 (dk_at dksX4_goesThree_0 18 rfl rfl)
theorem dX4_goesThree_21 : decode cX4_goesThree 21 = .ok (.iconst 3, 1) := dk_6 (dk_at dksX4_goesThree_0 21 rfl rfl)
theorem dX4_goesThree_22 : decode cX4_goesThree 22 = .ok (.goto 4, 3) := dk_167 0 4 (dk_at dksX4_goesThree_1 0 rfl rfl)
theorem dX4_goesThree_25 : decode cX4_goesThree 25 = .ok (.iconst 0, 1) := dk_3 (dk_at dksX4_goesThree_1 3 rfl rfl)
theorem dX4_goesThree_26 : decode cX4_goesThree 26 = .ok (.putfield 77, 3) := dk_181 0 77 (dk_at dksX4_goesThree_1 4 rfl rfl)
theorem dX4_goesThree_29 : decode cX4_goesThree 29 = .ok (.aload_n 0, 1) := dk_42 (dk_at dksX4_goesThree_1 7 rfl rfl)
theorem dX4_goesThree_30 : decode cX4_goesThree 30 = .ok (.getfield 77, 3) := dk_180 0 77 (dk_at dksX4_goesThree_1 8 rfl rfl)
theorem dX4_goesThree_33 : decode cX4_goesThree 33 = .ok (.ifCond .ne 7, 3) := dk_154 0 7 (dk_at dksX4_goesThree_1 11 rfl rfl)
theorem dX4_goesThree_36 : decode cX4_goesThree 36 = .ok (.iconst 1, 1) := dk_4 (dk_at dksX4_goesThree_1 14 rfl rfl)
theorem dX4_goesThree_37 : decode cX4_goesThree 37 = .ok (.goto 4, 3) := dk_167 0 4 (dk_at dksX4_goesThree_1 15 rfl rfl)
theorem dX4_goesThree_40 : decode cX4_goesThree 40 = .ok (.iconst 0, 1) := dk_3 (dk_at dksX4_goesThree_1 18 rfl rfl)
theorem dX4_goesThree_41 : decode cX4_goesThree 41 = .ok (.ireturn, 1) := dk_172 (dk_at dksX4_goesThree_1 19 rfl rfl)
abbrev cX4_assigns : ByteArray := prog_23_method_54_code
def yX4_assigns : MethodName := ⟨RX4, "assigns", "(I)I"⟩
def dkwX4_assigns_1 : List UInt8 := [17, 4, 136, 92, 46, 42, 180, 0, 210, 96, 79, 42, 27, 182, 0, 217, 172]
abbrev dktX4_assigns_1 : List UInt8 := dkwX4_assigns_1 ++ []
def dkwX4_assigns_0 : List UInt8 := [42, 180, 0, 32, 3, 42, 180, 0, 20, 17, 1, 34, 27, 104, 17, 1, 34, 184, 0, 160, 42, 180, 0, 20]
abbrev dktX4_assigns_0 : List UInt8 := dkwX4_assigns_0 ++ dktX4_assigns_1
theorem dksX4_assigns_0 : cX4_assigns.data.toList.drop 0 = dktX4_assigns_0 := by decide +kernel
theorem dksX4_assigns_1 : cX4_assigns.data.toList.drop 24 = dktX4_assigns_1 := dk_seg dksX4_assigns_0 24 rfl rfl
theorem dX4_assigns_0 : decode cX4_assigns 0 = .ok (.aload_n 0, 1) := dk_42 (dk_at dksX4_assigns_0 0 rfl rfl)
theorem dX4_assigns_1 : decode cX4_assigns 1 = .ok (.getfield 32, 3) := dk_180 0 32 (dk_at dksX4_assigns_0 1 rfl rfl)
theorem dX4_assigns_4 : decode cX4_assigns 4 = .ok (.iconst 0, 1) := dk_3 (dk_at dksX4_assigns_0 4 rfl rfl)
theorem dX4_assigns_5 : decode cX4_assigns 5 = .ok (.aload_n 0, 1) := dk_42 (dk_at dksX4_assigns_0 5 rfl rfl)
theorem dX4_assigns_6 : decode cX4_assigns 6 = .ok (.getfield 20, 3) := dk_180 0 20 (dk_at dksX4_assigns_0 6 rfl rfl)
theorem dX4_assigns_9 : decode cX4_assigns 9 = .ok (.sipush 290, 3) := dk_17 1 34 (dk_at dksX4_assigns_0 9 rfl rfl)
theorem dX4_assigns_12 : decode cX4_assigns 12 = .ok (.iload_n 1, 1) := dk_27 (dk_at dksX4_assigns_0 12 rfl rfl)
theorem dX4_assigns_13 : decode cX4_assigns 13 = .ok (.imul, 1) := dk_104 (dk_at dksX4_assigns_0 13 rfl rfl)
theorem dX4_assigns_14 : decode cX4_assigns 14 = .ok (.sipush 290, 3) := dk_17 1 34 (dk_at dksX4_assigns_0 14 rfl rfl)
theorem dX4_assigns_17 : decode cX4_assigns 17 = .ok (.invokestatic 160, 3) := dk_184 0 160 (dk_at dksX4_assigns_0 17 rfl rfl)
theorem dX4_assigns_20 : decode cX4_assigns 20 = .ok (.aload_n 0, 1) := dk_42 (dk_at dksX4_assigns_0 20 rfl rfl)
theorem dX4_assigns_21 : decode cX4_assigns 21 = .ok (.getfield 20, 3) := dk_180 0 20 (dk_at dksX4_assigns_0 21 rfl rfl)
theorem dX4_assigns_24 : decode cX4_assigns 24 = .ok (.sipush 1160, 3) := dk_17 4 136 (dk_at dksX4_assigns_1 0 rfl rfl)
theorem dX4_assigns_27 : decode cX4_assigns 27 = .ok (.dup2, 1) := dk_92 (dk_at dksX4_assigns_1 3 rfl rfl)
theorem dX4_assigns_28 : decode cX4_assigns 28 = .ok (.iaload, 1) := dk_46 (dk_at dksX4_assigns_1 4 rfl rfl)
theorem dX4_assigns_29 : decode cX4_assigns 29 = .ok (.aload_n 0, 1) := dk_42 (dk_at dksX4_assigns_1 5 rfl rfl)
theorem dX4_assigns_30 : decode cX4_assigns 30 = .ok (.getfield 210, 3) := dk_180 0 210 (dk_at dksX4_assigns_1 6 rfl rfl)
theorem dX4_assigns_33 : decode cX4_assigns 33 = .ok (.iadd, 1) := dk_96 (dk_at dksX4_assigns_1 9 rfl rfl)
theorem dX4_assigns_34 : decode cX4_assigns 34 = .ok (.iastore, 1) := dk_79 (dk_at dksX4_assigns_1 10 rfl rfl)
theorem dX4_assigns_35 : decode cX4_assigns 35 = .ok (.aload_n 0, 1) := dk_42 (dk_at dksX4_assigns_1 11 rfl rfl)
theorem dX4_assigns_36 : decode cX4_assigns 36 = .ok (.iload_n 1, 1) := dk_27 (dk_at dksX4_assigns_1 12 rfl rfl)
theorem dX4_assigns_37 : decode cX4_assigns 37 = .ok (.invokevirtual 217, 3) := dk_182 0 217 (dk_at dksX4_assigns_1 13 rfl rfl)
theorem dX4_assigns_40 : decode cX4_assigns 40 = .ok (.ireturn, 1) := dk_172 (dk_at dksX4_assigns_1 16 rfl rfl)
abbrev cX4_transposeInto : ByteArray := prog_23_method_99_code
def yX4_transposeInto : MethodName := ⟨RX4, "transposeInto", "(II)I"⟩
def dkwX4_transposeInto_2 : List UInt8 := [181, 1, 142, 42, 42, 28, 182, 1, 139, 182, 1, 108, 172]
abbrev dktX4_transposeInto_2 : List UInt8 := dkwX4_transposeInto_2 ++ []
def dkwX4_transposeInto_1 : List UInt8 := [154, 0, 5, 3, 172, 42, 182, 1, 102, 42, 182, 0, 238, 42, 27, 182, 0, 235, 42, 42, 182, 0, 223]
abbrev dktX4_transposeInto_1 : List UInt8 := dkwX4_transposeInto_1 ++ dktX4_transposeInto_2
def dkwX4_transposeInto_0 : List UInt8 := [42, 27, 184, 1, 57, 153, 0, 14, 28, 184, 1, 57, 153, 0, 7, 4, 167, 0, 4, 3, 182, 0, 87]
abbrev dktX4_transposeInto_0 : List UInt8 := dkwX4_transposeInto_0 ++ dktX4_transposeInto_1
theorem dksX4_transposeInto_0 : cX4_transposeInto.data.toList.drop 0 = dktX4_transposeInto_0 := by decide +kernel
theorem dksX4_transposeInto_1 : cX4_transposeInto.data.toList.drop 23 = dktX4_transposeInto_1 := dk_seg dksX4_transposeInto_0 23 rfl rfl
theorem dksX4_transposeInto_2 : cX4_transposeInto.data.toList.drop 46 = dktX4_transposeInto_2 := dk_seg dksX4_transposeInto_1 23 rfl rfl
theorem dX4_transposeInto_0 : decode cX4_transposeInto 0 = .ok (.aload_n 0, 1) := dk_42 (dk_at dksX4_transposeInto_0 0 rfl rfl)
theorem dX4_transposeInto_1 : decode cX4_transposeInto 1 = .ok (.iload_n 1, 1) := dk_27 (dk_at dksX4_transposeInto_0 1 rfl rfl)
theorem dX4_transposeInto_2 : decode cX4_transposeInto 2 = .ok (.invokestatic 313, 3) := dk_184 1 57 (dk_at dksX4_transposeInto_0 2 rfl rfl)
theorem dX4_transposeInto_5 : decode cX4_transposeInto 5 = .ok (.ifCond .eq 14, 3) := dk_153 0 14 (dk_at dksX4_transposeInto_0 5 rfl rfl)
theorem dX4_transposeInto_8 : decode cX4_transposeInto 8 = .ok (.iload_n 2, 1) := dk_28 (dk_at dksX4_transposeInto_0 8 rfl rfl)
theorem dX4_transposeInto_9 : decode cX4_transposeInto 9 = .ok (.invokestatic 313, 3) := dk_184 1 57 (dk_at dksX4_transposeInto_0 9 rfl rfl)
theorem dX4_transposeInto_12 : decode cX4_transposeInto 12 = .ok (.ifCond .eq 7, 3) := dk_153 0 7 (dk_at dksX4_transposeInto_0 12 rfl rfl)
theorem dX4_transposeInto_15 : decode cX4_transposeInto 15 = .ok (.iconst 1, 1) := dk_4 (dk_at dksX4_transposeInto_0 15 rfl rfl)
theorem dX4_transposeInto_16 : decode cX4_transposeInto 16 = .ok (.goto 4, 3) := dk_167 0 4 (dk_at dksX4_transposeInto_0 16 rfl rfl)
theorem dX4_transposeInto_19 : decode cX4_transposeInto 19 = .ok (.iconst 0, 1) := dk_3 (dk_at dksX4_transposeInto_0 19 rfl rfl)
theorem dX4_transposeInto_20 : decode cX4_transposeInto 20 = .ok (.invokevirtual 87, 3) := dk_182 0 87 (dk_at dksX4_transposeInto_0 20 rfl rfl)
theorem dX4_transposeInto_23 : decode cX4_transposeInto 23 = .ok (.ifCond .ne 5, 3) := dk_154 0 5 (dk_at dksX4_transposeInto_1 0 rfl rfl)
theorem dX4_transposeInto_26 : decode cX4_transposeInto 26 = .ok (.iconst 0, 1) := dk_3 (dk_at dksX4_transposeInto_1 3 rfl rfl)
theorem dX4_transposeInto_27 : decode cX4_transposeInto 27 = .ok (.ireturn, 1) := dk_172 (dk_at dksX4_transposeInto_1 4 rfl rfl)
theorem dX4_transposeInto_28 : decode cX4_transposeInto 28 = .ok (.aload_n 0, 1) := dk_42 (dk_at dksX4_transposeInto_1 5 rfl rfl)
theorem dX4_transposeInto_29 : decode cX4_transposeInto 29 = .ok (.invokevirtual 358, 3) := dk_182 1 102 (dk_at dksX4_transposeInto_1 6 rfl rfl)
theorem dX4_transposeInto_32 : decode cX4_transposeInto 32 = .ok (.aload_n 0, 1) := dk_42 (dk_at dksX4_transposeInto_1 9 rfl rfl)
theorem dX4_transposeInto_33 : decode cX4_transposeInto 33 = .ok (.invokevirtual 238, 3) := dk_182 0 238 (dk_at dksX4_transposeInto_1 10 rfl rfl)
theorem dX4_transposeInto_36 : decode cX4_transposeInto 36 = .ok (.aload_n 0, 1) := dk_42 (dk_at dksX4_transposeInto_1 13 rfl rfl)
theorem dX4_transposeInto_37 : decode cX4_transposeInto 37 = .ok (.iload_n 1, 1) := dk_27 (dk_at dksX4_transposeInto_1 14 rfl rfl)
theorem dX4_transposeInto_38 : decode cX4_transposeInto 38 = .ok (.invokevirtual 235, 3) := dk_182 0 235 (dk_at dksX4_transposeInto_1 15 rfl rfl)
theorem dX4_transposeInto_41 : decode cX4_transposeInto 41 = .ok (.aload_n 0, 1) := dk_42 (dk_at dksX4_transposeInto_1 18 rfl rfl)
theorem dX4_transposeInto_42 : decode cX4_transposeInto 42 = .ok (.aload_n 0, 1) := dk_42 (dk_at dksX4_transposeInto_1 19 rfl rfl)
theorem dX4_transposeInto_43 : decode cX4_transposeInto 43 = .ok (.invokevirtual 223, 3) := dk_182 0 223 (dk_at dksX4_transposeInto_1 20 rfl rfl)
theorem dX4_transposeInto_46 : decode cX4_transposeInto 46 = .ok (.putfield 398, 3) := dk_181 1 142 (dk_at dksX4_transposeInto_2 0 rfl rfl)
theorem dX4_transposeInto_49 : decode cX4_transposeInto 49 = .ok (.aload_n 0, 1) := dk_42 (dk_at dksX4_transposeInto_2 3 rfl rfl)
theorem dX4_transposeInto_50 : decode cX4_transposeInto 50 = .ok (.aload_n 0, 1) := dk_42 (dk_at dksX4_transposeInto_2 4 rfl rfl)
theorem dX4_transposeInto_51 : decode cX4_transposeInto 51 = .ok (.iload_n 2, 1) := dk_28 (dk_at dksX4_transposeInto_2 5 rfl rfl)
theorem dX4_transposeInto_52 : decode cX4_transposeInto 52 = .ok (.invokevirtual 395, 3) := dk_182 1 139 (dk_at dksX4_transposeInto_2 6 rfl rfl)
theorem dX4_transposeInto_55 : decode cX4_transposeInto 55 = .ok (.invokevirtual 364, 3) := dk_182 1 108 (dk_at dksX4_transposeInto_2 9 rfl rfl)
theorem dX4_transposeInto_58 : decode cX4_transposeInto 58 = .ok (.ireturn, 1) := dk_172 (dk_at dksX4_transposeInto_2 12 rfl rfl)
abbrev cX4_transposes : ByteArray := prog_23_method_48_code
def yX4_transposes : MethodName := ⟨RX4, "transposes", "()Z"⟩
def dkwX4_transposes_4 : List UInt8 := [132, 3, 1, 167, 255, 207, 132, 2, 1, 167, 255, 187, 42, 27, 182, 0, 204, 4, 172]
abbrev dktX4_transposes_4 : List UInt8 := dkwX4_transposes_4 ++ []
def dkwX4_transposes_3 : List UInt8 := [4, 160, 0, 23, 42, 180, 0, 35, 3, 29, 28, 42, 180, 0, 32, 27, 28, 29, 184, 0, 201, 184, 0, 193]
abbrev dktX4_transposes_3 : List UInt8 := dkwX4_transposes_3 ++ dktX4_transposes_4
def dkwX4_transposes_2 : List UInt8 := [3, 62, 29, 42, 180, 0, 32, 27, 4, 96, 46, 162, 0, 43, 42, 180, 0, 32, 27, 28, 29, 184, 0, 197]
abbrev dktX4_transposes_2 : List UInt8 := dkwX4_transposes_2 ++ dktX4_transposes_3
def dkwX4_transposes_1 : List UInt8 := [180, 0, 32, 27, 3, 96, 46, 184, 0, 156, 3, 61, 28, 42, 180, 0, 32, 27, 3, 96, 46, 162, 0, 63]
abbrev dktX4_transposes_1 : List UInt8 := dkwX4_transposes_1 ++ dktX4_transposes_2
def dkwX4_transposes_0 : List UInt8 := [42, 180, 0, 185, 4, 100, 184, 0, 188, 60, 42, 180, 0, 35, 3, 42, 180, 0, 32, 27, 4, 96, 46, 42]
abbrev dktX4_transposes_0 : List UInt8 := dkwX4_transposes_0 ++ dktX4_transposes_1
theorem dksX4_transposes_0 : cX4_transposes.data.toList.drop 0 = dktX4_transposes_0 := by decide +kernel
theorem dksX4_transposes_1 : cX4_transposes.data.toList.drop 24 = dktX4_transposes_1 := dk_seg dksX4_transposes_0 24 rfl rfl
theorem dksX4_transposes_2 : cX4_transposes.data.toList.drop 48 = dktX4_transposes_2 := dk_seg dksX4_transposes_1 24 rfl rfl
theorem dksX4_transposes_3 : cX4_transposes.data.toList.drop 72 = dktX4_transposes_3 := dk_seg dksX4_transposes_2 24 rfl rfl
theorem dksX4_transposes_4 : cX4_transposes.data.toList.drop 96 = dktX4_transposes_4 := dk_seg dksX4_transposes_3 24 rfl rfl
theorem dX4_transposes_0 : decode cX4_transposes 0 = .ok (.aload_n 0, 1) := dk_42 (dk_at dksX4_transposes_0 0 rfl rfl)
theorem dX4_transposes_1 : decode cX4_transposes 1 = .ok (.getfield 185, 3) := dk_180 0 185 (dk_at dksX4_transposes_0 1 rfl rfl)
theorem dX4_transposes_4 : decode cX4_transposes 4 = .ok (.iconst 1, 1) := dk_4 (dk_at dksX4_transposes_0 4 rfl rfl)
theorem dX4_transposes_5 : decode cX4_transposes 5 = .ok (.isub, 1) := dk_100 (dk_at dksX4_transposes_0 5 rfl rfl)
theorem dX4_transposes_6 : decode cX4_transposes 6 = .ok (.invokestatic 188, 3) := dk_184 0 188 (dk_at dksX4_transposes_0 6 rfl rfl)
theorem dX4_transposes_9 : decode cX4_transposes 9 = .ok (.istore_n 1, 1) := dk_60 (dk_at dksX4_transposes_0 9 rfl rfl)
theorem dX4_transposes_10 : decode cX4_transposes 10 = .ok (.aload_n 0, 1) := dk_42 (dk_at dksX4_transposes_0 10 rfl rfl)
theorem dX4_transposes_11 : decode cX4_transposes 11 = .ok (.getfield 35, 3) := dk_180 0 35 (dk_at dksX4_transposes_0 11 rfl rfl)
theorem dX4_transposes_14 : decode cX4_transposes 14 = .ok (.iconst 0, 1) := dk_3 (dk_at dksX4_transposes_0 14 rfl rfl)
theorem dX4_transposes_15 : decode cX4_transposes 15 = .ok (.aload_n 0, 1) := dk_42 (dk_at dksX4_transposes_0 15 rfl rfl)
theorem dX4_transposes_16 : decode cX4_transposes 16 = .ok (.getfield 32, 3) := dk_180 0 32 (dk_at dksX4_transposes_0 16 rfl rfl)
theorem dX4_transposes_19 : decode cX4_transposes 19 = .ok (.iload_n 1, 1) := dk_27 (dk_at dksX4_transposes_0 19 rfl rfl)
theorem dX4_transposes_20 : decode cX4_transposes 20 = .ok (.iconst 1, 1) := dk_4 (dk_at dksX4_transposes_0 20 rfl rfl)
theorem dX4_transposes_21 : decode cX4_transposes 21 = .ok (.iadd, 1) := dk_96 (dk_at dksX4_transposes_0 21 rfl rfl)
theorem dX4_transposes_22 : decode cX4_transposes 22 = .ok (.iaload, 1) := dk_46 (dk_at dksX4_transposes_0 22 rfl rfl)
theorem dX4_transposes_23 : decode cX4_transposes 23 = .ok (.aload_n 0, 1) := dk_42 (dk_at dksX4_transposes_0 23 rfl rfl)
theorem dX4_transposes_24 : decode cX4_transposes 24 = .ok (.getfield 32, 3) := dk_180 0 32 (dk_at dksX4_transposes_1 0 rfl rfl)
theorem dX4_transposes_27 : decode cX4_transposes 27 = .ok (.iload_n 1, 1) := dk_27 (dk_at dksX4_transposes_1 3 rfl rfl)
theorem dX4_transposes_28 : decode cX4_transposes 28 = .ok (.iconst 0, 1) := dk_3 (dk_at dksX4_transposes_1 4 rfl rfl)
theorem dX4_transposes_29 : decode cX4_transposes 29 = .ok (.iadd, 1) := dk_96 (dk_at dksX4_transposes_1 5 rfl rfl)
theorem dX4_transposes_30 : decode cX4_transposes 30 = .ok (.iaload, 1) := dk_46 (dk_at dksX4_transposes_1 6 rfl rfl)
theorem dX4_transposes_31 : decode cX4_transposes 31 = .ok (.invokestatic 156, 3) := dk_184 0 156 (dk_at dksX4_transposes_1 7 rfl rfl)
theorem dX4_transposes_34 : decode cX4_transposes 34 = .ok (.iconst 0, 1) := dk_3 (dk_at dksX4_transposes_1 10 rfl rfl)
theorem dX4_transposes_35 : decode cX4_transposes 35 = .ok (.istore_n 2, 1) := dk_61 (dk_at dksX4_transposes_1 11 rfl rfl)
theorem dX4_transposes_36 : decode cX4_transposes 36 = .ok (.iload_n 2, 1) := dk_28 (dk_at dksX4_transposes_1 12 rfl rfl)
theorem dX4_transposes_37 : decode cX4_transposes 37 = .ok (.aload_n 0, 1) := dk_42 (dk_at dksX4_transposes_1 13 rfl rfl)
theorem dX4_transposes_38 : decode cX4_transposes 38 = .ok (.getfield 32, 3) := dk_180 0 32 (dk_at dksX4_transposes_1 14 rfl rfl)
theorem dX4_transposes_41 : decode cX4_transposes 41 = .ok (.iload_n 1, 1) := dk_27 (dk_at dksX4_transposes_1 17 rfl rfl)
theorem dX4_transposes_42 : decode cX4_transposes 42 = .ok (.iconst 0, 1) := dk_3 (dk_at dksX4_transposes_1 18 rfl rfl)
theorem dX4_transposes_43 : decode cX4_transposes 43 = .ok (.iadd, 1) := dk_96 (dk_at dksX4_transposes_1 19 rfl rfl)
theorem dX4_transposes_44 : decode cX4_transposes 44 = .ok (.iaload, 1) := dk_46 (dk_at dksX4_transposes_1 20 rfl rfl)
theorem dX4_transposes_45 : decode cX4_transposes 45 = .ok (.if_icmp .ge 63, 3) := dk_162 0 63 (dk_at dksX4_transposes_1 21 rfl rfl)
theorem dX4_transposes_48 : decode cX4_transposes 48 = .ok (.iconst 0, 1) := dk_3 (dk_at dksX4_transposes_2 0 rfl rfl)
theorem dX4_transposes_49 : decode cX4_transposes 49 = .ok (.istore_n 3, 1) := dk_62 (dk_at dksX4_transposes_2 1 rfl rfl)
theorem dX4_transposes_50 : decode cX4_transposes 50 = .ok (.iload_n 3, 1) := dk_29 (dk_at dksX4_transposes_2 2 rfl rfl)
theorem dX4_transposes_51 : decode cX4_transposes 51 = .ok (.aload_n 0, 1) := dk_42 (dk_at dksX4_transposes_2 3 rfl rfl)
theorem dX4_transposes_52 : decode cX4_transposes 52 = .ok (.getfield 32, 3) := dk_180 0 32 (dk_at dksX4_transposes_2 4 rfl rfl)
theorem dX4_transposes_55 : decode cX4_transposes 55 = .ok (.iload_n 1, 1) := dk_27 (dk_at dksX4_transposes_2 7 rfl rfl)
theorem dX4_transposes_56 : decode cX4_transposes 56 = .ok (.iconst 1, 1) := dk_4 (dk_at dksX4_transposes_2 8 rfl rfl)
theorem dX4_transposes_57 : decode cX4_transposes 57 = .ok (.iadd, 1) := dk_96 (dk_at dksX4_transposes_2 9 rfl rfl)
theorem dX4_transposes_58 : decode cX4_transposes 58 = .ok (.iaload, 1) := dk_46 (dk_at dksX4_transposes_2 10 rfl rfl)
theorem dX4_transposes_59 : decode cX4_transposes 59 = .ok (.if_icmp .ge 43, 3) := dk_162 0 43 (dk_at dksX4_transposes_2 11 rfl rfl)
theorem dX4_transposes_62 : decode cX4_transposes 62 = .ok (.aload_n 0, 1) := dk_42 (dk_at dksX4_transposes_2 14 rfl rfl)
theorem dX4_transposes_63 : decode cX4_transposes 63 = .ok (.getfield 32, 3) := dk_180 0 32 (dk_at dksX4_transposes_2 15 rfl rfl)
theorem dX4_transposes_66 : decode cX4_transposes 66 = .ok (.iload_n 1, 1) := dk_27 (dk_at dksX4_transposes_2 18 rfl rfl)
theorem dX4_transposes_67 : decode cX4_transposes 67 = .ok (.iload_n 2, 1) := dk_28 (dk_at dksX4_transposes_2 19 rfl rfl)
theorem dX4_transposes_68 : decode cX4_transposes 68 = .ok (.iload_n 3, 1) := dk_29 (dk_at dksX4_transposes_2 20 rfl rfl)
theorem dX4_transposes_69 : decode cX4_transposes 69 = .ok (.invokestatic 197, 3) := dk_184 0 197 (dk_at dksX4_transposes_2 21 rfl rfl)
theorem dX4_transposes_72 : decode cX4_transposes 72 = .ok (.iconst 1, 1) := dk_4 (dk_at dksX4_transposes_3 0 rfl rfl)
theorem dX4_transposes_73 : decode cX4_transposes 73 = .ok (.if_icmp .ne 23, 3) := dk_160 0 23 (dk_at dksX4_transposes_3 1 rfl rfl)
theorem dX4_transposes_76 : decode cX4_transposes 76 = .ok (.aload_n 0, 1) := dk_42 (dk_at dksX4_transposes_3 4 rfl rfl)
theorem dX4_transposes_77 : decode cX4_transposes 77 = .ok (.getfield 35, 3) := dk_180 0 35 (dk_at dksX4_transposes_3 5 rfl rfl)
theorem dX4_transposes_80 : decode cX4_transposes 80 = .ok (.iconst 0, 1) := dk_3 (dk_at dksX4_transposes_3 8 rfl rfl)
theorem dX4_transposes_81 : decode cX4_transposes 81 = .ok (.iload_n 3, 1) := dk_29 (dk_at dksX4_transposes_3 9 rfl rfl)
theorem dX4_transposes_82 : decode cX4_transposes 82 = .ok (.iload_n 2, 1) := dk_28 (dk_at dksX4_transposes_3 10 rfl rfl)
theorem dX4_transposes_83 : decode cX4_transposes 83 = .ok (.aload_n 0, 1) := dk_42 (dk_at dksX4_transposes_3 11 rfl rfl)
theorem dX4_transposes_84 : decode cX4_transposes 84 = .ok (.getfield 32, 3) := dk_180 0 32 (dk_at dksX4_transposes_3 12 rfl rfl)
theorem dX4_transposes_87 : decode cX4_transposes 87 = .ok (.iload_n 1, 1) := dk_27 (dk_at dksX4_transposes_3 15 rfl rfl)
theorem dX4_transposes_88 : decode cX4_transposes 88 = .ok (.iload_n 2, 1) := dk_28 (dk_at dksX4_transposes_3 16 rfl rfl)
theorem dX4_transposes_89 : decode cX4_transposes 89 = .ok (.iload_n 3, 1) := dk_29 (dk_at dksX4_transposes_3 17 rfl rfl)
theorem dX4_transposes_90 : decode cX4_transposes 90 = .ok (.invokestatic 201, 3) := dk_184 0 201 (dk_at dksX4_transposes_3 18 rfl rfl)
theorem dX4_transposes_93 : decode cX4_transposes 93 = .ok (.invokestatic 193, 3) := dk_184 0 193 (dk_at dksX4_transposes_3 21 rfl rfl)
theorem dX4_transposes_96 : decode cX4_transposes 96 = .ok (.iinc 3 1, 3) := dk_132 3 1 (dk_at dksX4_transposes_4 0 rfl rfl)
theorem dX4_transposes_99 : decode cX4_transposes 99 = .ok (.goto (-49), 3) := dk_167 255 207 (dk_at dksX4_transposes_4 3 rfl rfl)
theorem dX4_transposes_102 : decode cX4_transposes 102 = .ok (.iinc 2 1, 3) := dk_132 2 1 (dk_at dksX4_transposes_4 6 rfl rfl)
theorem dX4_transposes_105 : decode cX4_transposes 105 = .ok (.goto (-69), 3) := dk_167 255 187 (dk_at dksX4_transposes_4 9 rfl rfl)
theorem dX4_transposes_108 : decode cX4_transposes 108 = .ok (.aload_n 0, 1) := dk_42 (dk_at dksX4_transposes_4 12 rfl rfl)
theorem dX4_transposes_109 : decode cX4_transposes 109 = .ok (.iload_n 1, 1) := dk_27 (dk_at dksX4_transposes_4 13 rfl rfl)
theorem dX4_transposes_110 : decode cX4_transposes 110 = .ok (.invokevirtual 204, 3) := dk_182 0 204 (dk_at dksX4_transposes_4 14 rfl rfl)
theorem dX4_transposes_113 : decode cX4_transposes 113 = .ok (.iconst 1, 1) := dk_4 (dk_at dksX4_transposes_4 17 rfl rfl)
theorem dX4_transposes_114 : decode cX4_transposes 114 = .ok (.ireturn, 1) := dk_172 (dk_at dksX4_transposes_4 18 rfl rfl)
abbrev cX4_takesResult : ByteArray := prog_23_method_47_code
def yX4_takesResult : MethodName := ⟨RX4, "takesResult", "(I)V"⟩
def dkwX4_takesResult_0 : List UInt8 := [42, 180, 0, 35, 3, 42, 180, 0, 32, 27, 17, 1, 34, 184, 0, 160, 177]
abbrev dktX4_takesResult_0 : List UInt8 := dkwX4_takesResult_0 ++ []
theorem dksX4_takesResult_0 : cX4_takesResult.data.toList.drop 0 = dktX4_takesResult_0 := by decide +kernel
theorem dX4_takesResult_0 : decode cX4_takesResult 0 = .ok (.aload_n 0, 1) := dk_42 (dk_at dksX4_takesResult_0 0 rfl rfl)
theorem dX4_takesResult_1 : decode cX4_takesResult 1 = .ok (.getfield 35, 3) := dk_180 0 35 (dk_at dksX4_takesResult_0 1 rfl rfl)
theorem dX4_takesResult_4 : decode cX4_takesResult 4 = .ok (.iconst 0, 1) := dk_3 (dk_at dksX4_takesResult_0 4 rfl rfl)
theorem dX4_takesResult_5 : decode cX4_takesResult 5 = .ok (.aload_n 0, 1) := dk_42 (dk_at dksX4_takesResult_0 5 rfl rfl)
theorem dX4_takesResult_6 : decode cX4_takesResult 6 = .ok (.getfield 32, 3) := dk_180 0 32 (dk_at dksX4_takesResult_0 6 rfl rfl)
theorem dX4_takesResult_9 : decode cX4_takesResult 9 = .ok (.iload_n 1, 1) := dk_27 (dk_at dksX4_takesResult_0 9 rfl rfl)
theorem dX4_takesResult_10 : decode cX4_takesResult 10 = .ok (.sipush 290, 3) := dk_17 1 34 (dk_at dksX4_takesResult_0 10 rfl rfl)
theorem dX4_takesResult_13 : decode cX4_takesResult 13 = .ok (.invokestatic 160, 3) := dk_184 0 160 (dk_at dksX4_takesResult_0 13 rfl rfl)
theorem dX4_takesResult_16 : decode cX4_takesResult 16 = .ok (.return_, 1) := dk_177 (dk_at dksX4_takesResult_0 16 rfl rfl)
abbrev cX4_addInto : ByteArray := prog_23_method_101_code
def yX4_addInto : MethodName := ⟨RX4, "addInto", "(III)I"⟩
def dkwX4_addInto_2 : List UInt8 := [182, 1, 139, 182, 1, 108, 172]
abbrev dktX4_addInto_2 : List UInt8 := dkwX4_addInto_2 ++ []
def dkwX4_addInto_1 : List UInt8 := [153, 0, 7, 4, 167, 0, 4, 3, 182, 1, 98, 154, 0, 5, 3, 172, 42, 182, 1, 102, 42, 42, 29]
abbrev dktX4_addInto_1 : List UInt8 := dkwX4_addInto_1 ++ dktX4_addInto_2
def dkwX4_addInto_0 : List UInt8 := [42, 27, 28, 29, 182, 1, 145, 54, 4, 42, 21, 4, 21, 4, 153, 0, 16, 42, 27, 28, 182, 1, 148]
abbrev dktX4_addInto_0 : List UInt8 := dkwX4_addInto_0 ++ dktX4_addInto_1
theorem dksX4_addInto_0 : cX4_addInto.data.toList.drop 0 = dktX4_addInto_0 := by decide +kernel
theorem dksX4_addInto_1 : cX4_addInto.data.toList.drop 23 = dktX4_addInto_1 := dk_seg dksX4_addInto_0 23 rfl rfl
theorem dksX4_addInto_2 : cX4_addInto.data.toList.drop 46 = dktX4_addInto_2 := dk_seg dksX4_addInto_1 23 rfl rfl
theorem dX4_addInto_0 : decode cX4_addInto 0 = .ok (.aload_n 0, 1) := dk_42 (dk_at dksX4_addInto_0 0 rfl rfl)
theorem dX4_addInto_1 : decode cX4_addInto 1 = .ok (.iload_n 1, 1) := dk_27 (dk_at dksX4_addInto_0 1 rfl rfl)
theorem dX4_addInto_2 : decode cX4_addInto 2 = .ok (.iload_n 2, 1) := dk_28 (dk_at dksX4_addInto_0 2 rfl rfl)
theorem dX4_addInto_3 : decode cX4_addInto 3 = .ok (.iload_n 3, 1) := dk_29 (dk_at dksX4_addInto_0 3 rfl rfl)
theorem dX4_addInto_4 : decode cX4_addInto 4 = .ok (.invokevirtual 401, 3) := dk_182 1 145 (dk_at dksX4_addInto_0 4 rfl rfl)
theorem dX4_addInto_7 : decode cX4_addInto 7 = .ok (.istore 4, 2) := dk_54 4 (dk_at dksX4_addInto_0 7 rfl rfl)
theorem dX4_addInto_9 : decode cX4_addInto 9 = .ok (.aload_n 0, 1) := dk_42 (dk_at dksX4_addInto_0 9 rfl rfl)
theorem dX4_addInto_10 : decode cX4_addInto 10 = .ok (.iload 4, 2) := dk_21 4 (dk_at dksX4_addInto_0 10 rfl rfl)
theorem dX4_addInto_12 : decode cX4_addInto 12 = .ok (.iload 4, 2) := dk_21 4 (dk_at dksX4_addInto_0 12 rfl rfl)
theorem dX4_addInto_14 : decode cX4_addInto 14 = .ok (.ifCond .eq 16, 3) := dk_153 0 16 (dk_at dksX4_addInto_0 14 rfl rfl)
theorem dX4_addInto_17 : decode cX4_addInto 17 = .ok (.aload_n 0, 1) := dk_42 (dk_at dksX4_addInto_0 17 rfl rfl)
theorem dX4_addInto_18 : decode cX4_addInto 18 = .ok (.iload_n 1, 1) := dk_27 (dk_at dksX4_addInto_0 18 rfl rfl)
theorem dX4_addInto_19 : decode cX4_addInto 19 = .ok (.iload_n 2, 1) := dk_28 (dk_at dksX4_addInto_0 19 rfl rfl)
theorem dX4_addInto_20 : decode cX4_addInto 20 = .ok (.invokevirtual 404, 3) := dk_182 1 148 (dk_at dksX4_addInto_0 20 rfl rfl)
theorem dX4_addInto_23 : decode cX4_addInto 23 = .ok (.ifCond .eq 7, 3) := dk_153 0 7 (dk_at dksX4_addInto_1 0 rfl rfl)
theorem dX4_addInto_26 : decode cX4_addInto 26 = .ok (.iconst 1, 1) := dk_4 (dk_at dksX4_addInto_1 3 rfl rfl)
theorem dX4_addInto_27 : decode cX4_addInto 27 = .ok (.goto 4, 3) := dk_167 0 4 (dk_at dksX4_addInto_1 4 rfl rfl)
theorem dX4_addInto_30 : decode cX4_addInto 30 = .ok (.iconst 0, 1) := dk_3 (dk_at dksX4_addInto_1 7 rfl rfl)
theorem dX4_addInto_31 : decode cX4_addInto 31 = .ok (.invokevirtual 354, 3) := dk_182 1 98 (dk_at dksX4_addInto_1 8 rfl rfl)
theorem dX4_addInto_34 : decode cX4_addInto 34 = .ok (.ifCond .ne 5, 3) := dk_154 0 5 (dk_at dksX4_addInto_1 11 rfl rfl)
theorem dX4_addInto_37 : decode cX4_addInto 37 = .ok (.iconst 0, 1) := dk_3 (dk_at dksX4_addInto_1 14 rfl rfl)
theorem dX4_addInto_38 : decode cX4_addInto 38 = .ok (.ireturn, 1) := dk_172 (dk_at dksX4_addInto_1 15 rfl rfl)
theorem dX4_addInto_39 : decode cX4_addInto 39 = .ok (.aload_n 0, 1) := dk_42 (dk_at dksX4_addInto_1 16 rfl rfl)
theorem dX4_addInto_40 : decode cX4_addInto 40 = .ok (.invokevirtual 358, 3) := dk_182 1 102 (dk_at dksX4_addInto_1 17 rfl rfl)
theorem dX4_addInto_43 : decode cX4_addInto 43 = .ok (.aload_n 0, 1) := dk_42 (dk_at dksX4_addInto_1 20 rfl rfl)
theorem dX4_addInto_44 : decode cX4_addInto 44 = .ok (.aload_n 0, 1) := dk_42 (dk_at dksX4_addInto_1 21 rfl rfl)
theorem dX4_addInto_45 : decode cX4_addInto 45 = .ok (.iload_n 3, 1) := dk_29 (dk_at dksX4_addInto_1 22 rfl rfl)
theorem dX4_addInto_46 : decode cX4_addInto 46 = .ok (.invokevirtual 395, 3) := dk_182 1 139 (dk_at dksX4_addInto_2 0 rfl rfl)
theorem dX4_addInto_49 : decode cX4_addInto 49 = .ok (.invokevirtual 364, 3) := dk_182 1 108 (dk_at dksX4_addInto_2 3 rfl rfl)
theorem dX4_addInto_52 : decode cX4_addInto 52 = .ok (.ireturn, 1) := dk_172 (dk_at dksX4_addInto_2 6 rfl rfl)
abbrev cX4_areThree : ByteArray := prog_23_method_100_code
def yX4_areThree : MethodName := ⟨RX4, "areThree", "(III)Z"⟩
def dkwX4_areThree_1 : List UInt8 := [167, 0, 4, 3, 172]
abbrev dktX4_areThree_1 : List UInt8 := dkwX4_areThree_1 ++ []
def dkwX4_areThree_0 : List UInt8 := [27, 184, 1, 57, 153, 0, 21, 28, 184, 1, 57, 153, 0, 14, 29, 184, 1, 57, 153, 0, 7, 4]
abbrev dktX4_areThree_0 : List UInt8 := dkwX4_areThree_0 ++ dktX4_areThree_1
theorem dksX4_areThree_0 : cX4_areThree.data.toList.drop 0 = dktX4_areThree_0 := by decide +kernel
theorem dksX4_areThree_1 : cX4_areThree.data.toList.drop 22 = dktX4_areThree_1 := dk_seg dksX4_areThree_0 22 rfl rfl
theorem dX4_areThree_0 : decode cX4_areThree 0 = .ok (.iload_n 1, 1) := dk_27 (dk_at dksX4_areThree_0 0 rfl rfl)
theorem dX4_areThree_1 : decode cX4_areThree 1 = .ok (.invokestatic 313, 3) := dk_184 1 57 (dk_at dksX4_areThree_0 1 rfl rfl)
theorem dX4_areThree_4 : decode cX4_areThree 4 = .ok (.ifCond .eq 21, 3) := dk_153 0 21 (dk_at dksX4_areThree_0 4 rfl rfl)
theorem dX4_areThree_7 : decode cX4_areThree 7 = .ok (.iload_n 2, 1) := dk_28 (dk_at dksX4_areThree_0 7 rfl rfl)
theorem dX4_areThree_8 : decode cX4_areThree 8 = .ok (.invokestatic 313, 3) := dk_184 1 57 (dk_at dksX4_areThree_0 8 rfl rfl)
theorem dX4_areThree_11 : decode cX4_areThree 11 = .ok (.ifCond .eq 14, 3) := dk_153 0 14 (dk_at dksX4_areThree_0 11 rfl rfl)
theorem dX4_areThree_14 : decode cX4_areThree 14 = .ok (.iload_n 3, 1) := dk_29 (dk_at dksX4_areThree_0 14 rfl rfl)
theorem dX4_areThree_15 : decode cX4_areThree 15 = .ok (.invokestatic 313, 3) := dk_184 1 57 (dk_at dksX4_areThree_0 15 rfl rfl)
theorem dX4_areThree_18 : decode cX4_areThree 18 = .ok (.ifCond .eq 7, 3) := dk_153 0 7 (dk_at dksX4_areThree_0 18 rfl rfl)
theorem dX4_areThree_21 : decode cX4_areThree 21 = .ok (.iconst 1, 1) := dk_4 (dk_at dksX4_areThree_0 21 rfl rfl)
theorem dX4_areThree_22 : decode cX4_areThree 22 = .ok (.goto 4, 3) := dk_167 0 4 (dk_at dksX4_areThree_1 0 rfl rfl)
theorem dX4_areThree_25 : decode cX4_areThree 25 = .ok (.iconst 0, 1) := dk_3 (dk_at dksX4_areThree_1 3 rfl rfl)
theorem dX4_areThree_26 : decode cX4_areThree 26 = .ok (.ireturn, 1) := dk_172 (dk_at dksX4_areThree_1 4 rfl rfl)
abbrev cX4_sumsRegisters : ByteArray := prog_23_method_96_code
def yX4_sumsRegisters : MethodName := ⟨RX4, "sumsRegisters", "(II)Z"⟩
def dkwX4_sumsRegisters_0 : List UInt8 := [42, 182, 0, 238, 42, 27, 182, 0, 235, 42, 28, 182, 0, 235, 42, 4, 182, 0, 229, 172]
abbrev dktX4_sumsRegisters_0 : List UInt8 := dkwX4_sumsRegisters_0 ++ []
theorem dksX4_sumsRegisters_0 : cX4_sumsRegisters.data.toList.drop 0 = dktX4_sumsRegisters_0 := by decide +kernel
theorem dX4_sumsRegisters_0 : decode cX4_sumsRegisters 0 = .ok (.aload_n 0, 1) := dk_42 (dk_at dksX4_sumsRegisters_0 0 rfl rfl)
theorem dX4_sumsRegisters_1 : decode cX4_sumsRegisters 1 = .ok (.invokevirtual 238, 3) := dk_182 0 238 (dk_at dksX4_sumsRegisters_0 1 rfl rfl)
theorem dX4_sumsRegisters_4 : decode cX4_sumsRegisters 4 = .ok (.aload_n 0, 1) := dk_42 (dk_at dksX4_sumsRegisters_0 4 rfl rfl)
theorem dX4_sumsRegisters_5 : decode cX4_sumsRegisters 5 = .ok (.iload_n 1, 1) := dk_27 (dk_at dksX4_sumsRegisters_0 5 rfl rfl)
theorem dX4_sumsRegisters_6 : decode cX4_sumsRegisters 6 = .ok (.invokevirtual 235, 3) := dk_182 0 235 (dk_at dksX4_sumsRegisters_0 6 rfl rfl)
theorem dX4_sumsRegisters_9 : decode cX4_sumsRegisters 9 = .ok (.aload_n 0, 1) := dk_42 (dk_at dksX4_sumsRegisters_0 9 rfl rfl)
theorem dX4_sumsRegisters_10 : decode cX4_sumsRegisters 10 = .ok (.iload_n 2, 1) := dk_28 (dk_at dksX4_sumsRegisters_0 10 rfl rfl)
theorem dX4_sumsRegisters_11 : decode cX4_sumsRegisters 11 = .ok (.invokevirtual 235, 3) := dk_182 0 235 (dk_at dksX4_sumsRegisters_0 11 rfl rfl)
theorem dX4_sumsRegisters_14 : decode cX4_sumsRegisters 14 = .ok (.aload_n 0, 1) := dk_42 (dk_at dksX4_sumsRegisters_0 14 rfl rfl)
theorem dX4_sumsRegisters_15 : decode cX4_sumsRegisters 15 = .ok (.iconst 1, 1) := dk_4 (dk_at dksX4_sumsRegisters_0 15 rfl rfl)
theorem dX4_sumsRegisters_16 : decode cX4_sumsRegisters 16 = .ok (.invokevirtual 229, 3) := dk_182 0 229 (dk_at dksX4_sumsRegisters_0 16 rfl rfl)
theorem dX4_sumsRegisters_19 : decode cX4_sumsRegisters 19 = .ok (.ireturn, 1) := dk_172 (dk_at dksX4_sumsRegisters_0 19 rfl rfl)
abbrev cX4_sums : ByteArray := prog_23_method_50_code
def yX4_sums : MethodName := ⟨RX4, "sums", "(I)Z"⟩
def dkwX4_sums_7 : List UInt8 := [100, 181, 0, 185, 4, 172]
abbrev dktX4_sums_7 : List UInt8 := dkwX4_sums_7 ++ []
def dkwX4_sums_6 : List UInt8 := [28, 17, 0, 146, 96, 21, 4, 96, 22, 5, 136, 79, 132, 4, 1, 167, 255, 160, 42, 89, 180, 0, 185, 4]
abbrev dktX4_sums_6 : List UInt8 := dkwX4_sums_6 ++ dktX4_sums_7
def dkwX4_sums_5 : List UInt8 := [5, 96, 21, 4, 96, 92, 46, 42, 180, 0, 32, 29, 5, 96, 21, 4, 96, 46, 128, 79, 42, 180, 0, 32]
abbrev dktX4_sums_5 : List UInt8 := dkwX4_sums_5 ++ dktX4_sums_6
def dkwX4_sums_4 : List UInt8 := [21, 4, 96, 46, 133, 105, 97, 55, 5, 22, 5, 184, 0, 207, 154, 0, 5, 3, 172, 42, 180, 0, 32, 28]
abbrev dktX4_sums_4 : List UInt8 := dkwX4_sums_4 ++ dktX4_sums_5
def dkwX4_sums_3 : List UInt8 := [180, 0, 32, 28, 17, 0, 146, 96, 21, 4, 96, 46, 133, 27, 133, 42, 180, 0, 32, 29, 17, 0, 146, 96]
abbrev dktX4_sums_3 : List UInt8 := dkwX4_sums_3 ++ dktX4_sums_4
def dkwX4_sums_2 : List UInt8 := [180, 0, 32, 29, 4, 96, 46, 159, 0, 5, 3, 172, 3, 54, 4, 21, 4, 17, 0, 144, 162, 0, 94, 42]
abbrev dktX4_sums_2 : List UInt8 := dkwX4_sums_2 ++ dktX4_sums_3
def dkwX4_sums_1 : List UInt8 := [28, 3, 96, 46, 42, 180, 0, 32, 29, 3, 96, 46, 160, 0, 22, 42, 180, 0, 32, 28, 4, 96, 46, 42]
abbrev dktX4_sums_1 : List UInt8 := dkwX4_sums_1 ++ dktX4_sums_2
def dkwX4_sums_0 : List UInt8 := [42, 180, 0, 185, 5, 100, 184, 0, 188, 61, 42, 180, 0, 185, 4, 100, 184, 0, 188, 62, 42, 180, 0, 32]
abbrev dktX4_sums_0 : List UInt8 := dkwX4_sums_0 ++ dktX4_sums_1
theorem dksX4_sums_0 : cX4_sums.data.toList.drop 0 = dktX4_sums_0 := by decide +kernel
theorem dksX4_sums_1 : cX4_sums.data.toList.drop 24 = dktX4_sums_1 := dk_seg dksX4_sums_0 24 rfl rfl
theorem dksX4_sums_2 : cX4_sums.data.toList.drop 48 = dktX4_sums_2 := dk_seg dksX4_sums_1 24 rfl rfl
theorem dksX4_sums_3 : cX4_sums.data.toList.drop 72 = dktX4_sums_3 := dk_seg dksX4_sums_2 24 rfl rfl
theorem dksX4_sums_4 : cX4_sums.data.toList.drop 96 = dktX4_sums_4 := dk_seg dksX4_sums_3 24 rfl rfl
theorem dksX4_sums_5 : cX4_sums.data.toList.drop 120 = dktX4_sums_5 := dk_seg dksX4_sums_4 24 rfl rfl
theorem dksX4_sums_6 : cX4_sums.data.toList.drop 144 = dktX4_sums_6 := dk_seg dksX4_sums_5 24 rfl rfl
theorem dksX4_sums_7 : cX4_sums.data.toList.drop 168 = dktX4_sums_7 := dk_seg dksX4_sums_6 24 rfl rfl
theorem dX4_sums_0 : decode cX4_sums 0 = .ok (.aload_n 0, 1) := dk_42 (dk_at dksX4_sums_0 0 rfl rfl)
theorem dX4_sums_1 : decode cX4_sums 1 = .ok (.getfield 185, 3) := dk_180 0 185 (dk_at dksX4_sums_0 1 rfl rfl)
theorem dX4_sums_4 : decode cX4_sums 4 = .ok (.iconst 2, 1) := dk_5 (dk_at dksX4_sums_0 4 rfl rfl)
theorem dX4_sums_5 : decode cX4_sums 5 = .ok (.isub, 1) := dk_100 (dk_at dksX4_sums_0 5 rfl rfl)
theorem dX4_sums_6 : decode cX4_sums 6 = .ok (.invokestatic 188, 3) := dk_184 0 188 (dk_at dksX4_sums_0 6 rfl rfl)
theorem dX4_sums_9 : decode cX4_sums 9 = .ok (.istore_n 2, 1) := dk_61 (dk_at dksX4_sums_0 9 rfl rfl)
theorem dX4_sums_10 : decode cX4_sums 10 = .ok (.aload_n 0, 1) := dk_42 (dk_at dksX4_sums_0 10 rfl rfl)
theorem dX4_sums_11 : decode cX4_sums 11 = .ok (.getfield 185, 3) := dk_180 0 185 (dk_at dksX4_sums_0 11 rfl rfl)
theorem dX4_sums_14 : decode cX4_sums 14 = .ok (.iconst 1, 1) := dk_4 (dk_at dksX4_sums_0 14 rfl rfl)
theorem dX4_sums_15 : decode cX4_sums 15 = .ok (.isub, 1) := dk_100 (dk_at dksX4_sums_0 15 rfl rfl)
theorem dX4_sums_16 : decode cX4_sums 16 = .ok (.invokestatic 188, 3) := dk_184 0 188 (dk_at dksX4_sums_0 16 rfl rfl)
theorem dX4_sums_19 : decode cX4_sums 19 = .ok (.istore_n 3, 1) := dk_62 (dk_at dksX4_sums_0 19 rfl rfl)
theorem dX4_sums_20 : decode cX4_sums 20 = .ok (.aload_n 0, 1) := dk_42 (dk_at dksX4_sums_0 20 rfl rfl)
theorem dX4_sums_21 : decode cX4_sums 21 = .ok (.getfield 32, 3) := dk_180 0 32 (dk_at dksX4_sums_0 21 rfl rfl)
theorem dX4_sums_24 : decode cX4_sums 24 = .ok (.iload_n 2, 1) := dk_28 (dk_at dksX4_sums_1 0 rfl rfl)
theorem dX4_sums_25 : decode cX4_sums 25 = .ok (.iconst 0, 1) := dk_3 (dk_at dksX4_sums_1 1 rfl rfl)
theorem dX4_sums_26 : decode cX4_sums 26 = .ok (.iadd, 1) := dk_96 (dk_at dksX4_sums_1 2 rfl rfl)
theorem dX4_sums_27 : decode cX4_sums 27 = .ok (.iaload, 1) := dk_46 (dk_at dksX4_sums_1 3 rfl rfl)
theorem dX4_sums_28 : decode cX4_sums 28 = .ok (.aload_n 0, 1) := dk_42 (dk_at dksX4_sums_1 4 rfl rfl)
theorem dX4_sums_29 : decode cX4_sums 29 = .ok (.getfield 32, 3) := dk_180 0 32 (dk_at dksX4_sums_1 5 rfl rfl)
theorem dX4_sums_32 : decode cX4_sums 32 = .ok (.iload_n 3, 1) := dk_29 (dk_at dksX4_sums_1 8 rfl rfl)
theorem dX4_sums_33 : decode cX4_sums 33 = .ok (.iconst 0, 1) := dk_3 (dk_at dksX4_sums_1 9 rfl rfl)
theorem dX4_sums_34 : decode cX4_sums 34 = .ok (.iadd, 1) := dk_96 (dk_at dksX4_sums_1 10 rfl rfl)
theorem dX4_sums_35 : decode cX4_sums 35 = .ok (.iaload, 1) := dk_46 (dk_at dksX4_sums_1 11 rfl rfl)
theorem dX4_sums_36 : decode cX4_sums 36 = .ok (.if_icmp .ne 22, 3) := dk_160 0 22 (dk_at dksX4_sums_1 12 rfl rfl)
theorem dX4_sums_39 : decode cX4_sums 39 = .ok (.aload_n 0, 1) := dk_42 (dk_at dksX4_sums_1 15 rfl rfl)
theorem dX4_sums_40 : decode cX4_sums 40 = .ok (.getfield 32, 3) := dk_180 0 32 (dk_at dksX4_sums_1 16 rfl rfl)
theorem dX4_sums_43 : decode cX4_sums 43 = .ok (.iload_n 2, 1) := dk_28 (dk_at dksX4_sums_1 19 rfl rfl)
theorem dX4_sums_44 : decode cX4_sums 44 = .ok (.iconst 1, 1) := dk_4 (dk_at dksX4_sums_1 20 rfl rfl)
theorem dX4_sums_45 : decode cX4_sums 45 = .ok (.iadd, 1) := dk_96 (dk_at dksX4_sums_1 21 rfl rfl)
theorem dX4_sums_46 : decode cX4_sums 46 = .ok (.iaload, 1) := dk_46 (dk_at dksX4_sums_1 22 rfl rfl)
theorem dX4_sums_47 : decode cX4_sums 47 = .ok (.aload_n 0, 1) := dk_42 (dk_at dksX4_sums_1 23 rfl rfl)
theorem dX4_sums_48 : decode cX4_sums 48 = .ok (.getfield 32, 3) := dk_180 0 32 (dk_at dksX4_sums_2 0 rfl rfl)
theorem dX4_sums_51 : decode cX4_sums 51 = .ok (.iload_n 3, 1) := dk_29 (dk_at dksX4_sums_2 3 rfl rfl)
theorem dX4_sums_52 : decode cX4_sums 52 = .ok (.iconst 1, 1) := dk_4 (dk_at dksX4_sums_2 4 rfl rfl)
theorem dX4_sums_53 : decode cX4_sums 53 = .ok (.iadd, 1) := dk_96 (dk_at dksX4_sums_2 5 rfl rfl)
theorem dX4_sums_54 : decode cX4_sums 54 = .ok (.iaload, 1) := dk_46 (dk_at dksX4_sums_2 6 rfl rfl)
theorem dX4_sums_55 : decode cX4_sums 55 = .ok (.if_icmp .eq 5, 3) := dk_159 0 5 (dk_at dksX4_sums_2 7 rfl rfl)
theorem dX4_sums_58 : decode cX4_sums 58 = .ok (.iconst 0, 1) := dk_3 (dk_at dksX4_sums_2 10 rfl rfl)
theorem dX4_sums_59 : decode cX4_sums 59 = .ok (.ireturn, 1) := dk_172 (dk_at dksX4_sums_2 11 rfl rfl)
theorem dX4_sums_60 : decode cX4_sums 60 = .ok (.iconst 0, 1) := dk_3 (dk_at dksX4_sums_2 12 rfl rfl)
theorem dX4_sums_61 : decode cX4_sums 61 = .ok (.istore 4, 2) := dk_54 4 (dk_at dksX4_sums_2 13 rfl rfl)
theorem dX4_sums_63 : decode cX4_sums 63 = .ok (.iload 4, 2) := dk_21 4 (dk_at dksX4_sums_2 15 rfl rfl)
theorem dX4_sums_65 : decode cX4_sums 65 = .ok (.sipush 144, 3) := dk_17 0 144 (dk_at dksX4_sums_2 17 rfl rfl)
theorem dX4_sums_68 : decode cX4_sums 68 = .ok (.if_icmp .ge 94, 3) := dk_162 0 94 (dk_at dksX4_sums_2 20 rfl rfl)
theorem dX4_sums_71 : decode cX4_sums 71 = .ok (.aload_n 0, 1) := dk_42 (dk_at dksX4_sums_2 23 rfl rfl)
theorem dX4_sums_72 : decode cX4_sums 72 = .ok (.getfield 32, 3) := dk_180 0 32 (dk_at dksX4_sums_3 0 rfl rfl)
theorem dX4_sums_75 : decode cX4_sums 75 = .ok (.iload_n 2, 1) := dk_28 (dk_at dksX4_sums_3 3 rfl rfl)
theorem dX4_sums_76 : decode cX4_sums 76 = .ok (.sipush 146, 3) := dk_17 0 146 (dk_at dksX4_sums_3 4 rfl rfl)
theorem dX4_sums_79 : decode cX4_sums 79 = .ok (.iadd, 1) := dk_96 (dk_at dksX4_sums_3 7 rfl rfl)
theorem dX4_sums_80 : decode cX4_sums 80 = .ok (.iload 4, 2) := dk_21 4 (dk_at dksX4_sums_3 8 rfl rfl)
theorem dX4_sums_82 : decode cX4_sums 82 = .ok (.iadd, 1) := dk_96 (dk_at dksX4_sums_3 10 rfl rfl)
theorem dX4_sums_83 : decode cX4_sums 83 = .ok (.iaload, 1) := dk_46 (dk_at dksX4_sums_3 11 rfl rfl)
theorem dX4_sums_84 : decode cX4_sums 84 = .ok (.i2l, 1) := dk_133 (dk_at dksX4_sums_3 12 rfl rfl)
theorem dX4_sums_85 : decode cX4_sums 85 = .ok (.iload_n 1, 1) := dk_27 (dk_at dksX4_sums_3 13 rfl rfl)
theorem dX4_sums_86 : decode cX4_sums 86 = .ok (.i2l, 1) := dk_133 (dk_at dksX4_sums_3 14 rfl rfl)
theorem dX4_sums_87 : decode cX4_sums 87 = .ok (.aload_n 0, 1) := dk_42 (dk_at dksX4_sums_3 15 rfl rfl)
theorem dX4_sums_88 : decode cX4_sums 88 = .ok (.getfield 32, 3) := dk_180 0 32 (dk_at dksX4_sums_3 16 rfl rfl)
theorem dX4_sums_91 : decode cX4_sums 91 = .ok (.iload_n 3, 1) := dk_29 (dk_at dksX4_sums_3 19 rfl rfl)
theorem dX4_sums_92 : decode cX4_sums 92 = .ok (.sipush 146, 3) := dk_17 0 146 (dk_at dksX4_sums_3 20 rfl rfl)
theorem dX4_sums_95 : decode cX4_sums 95 = .ok (.iadd, 1) := dk_96 (dk_at dksX4_sums_3 23 rfl rfl)
theorem dX4_sums_96 : decode cX4_sums 96 = .ok (.iload 4, 2) := dk_21 4 (dk_at dksX4_sums_4 0 rfl rfl)
theorem dX4_sums_98 : decode cX4_sums 98 = .ok (.iadd, 1) := dk_96 (dk_at dksX4_sums_4 2 rfl rfl)
theorem dX4_sums_99 : decode cX4_sums 99 = .ok (.iaload, 1) := dk_46 (dk_at dksX4_sums_4 3 rfl rfl)
theorem dX4_sums_100 : decode cX4_sums 100 = .ok (.i2l, 1) := dk_133 (dk_at dksX4_sums_4 4 rfl rfl)
theorem dX4_sums_101 : decode cX4_sums 101 = .ok (.lmul, 1) := dk_105 (dk_at dksX4_sums_4 5 rfl rfl)
theorem dX4_sums_102 : decode cX4_sums 102 = .ok (.ladd, 1) := dk_97 (dk_at dksX4_sums_4 6 rfl rfl)
theorem dX4_sums_103 : decode cX4_sums 103 = .ok (.lstore 5, 2) := dk_55 5 (dk_at dksX4_sums_4 7 rfl rfl)
theorem dX4_sums_105 : decode cX4_sums 105 = .ok (.lload 5, 2) := dk_22 5 (dk_at dksX4_sums_4 9 rfl rfl)
theorem dX4_sums_107 : decode cX4_sums 107 = .ok (.invokestatic 207, 3) := dk_184 0 207 (dk_at dksX4_sums_4 11 rfl rfl)
theorem dX4_sums_110 : decode cX4_sums 110 = .ok (.ifCond .ne 5, 3) := dk_154 0 5 (dk_at dksX4_sums_4 14 rfl rfl)
theorem dX4_sums_113 : decode cX4_sums 113 = .ok (.iconst 0, 1) := dk_3 (dk_at dksX4_sums_4 17 rfl rfl)
theorem dX4_sums_114 : decode cX4_sums 114 = .ok (.ireturn, 1) := dk_172 (dk_at dksX4_sums_4 18 rfl rfl)
theorem dX4_sums_115 : decode cX4_sums 115 = .ok (.aload_n 0, 1) := dk_42 (dk_at dksX4_sums_4 19 rfl rfl)
theorem dX4_sums_116 : decode cX4_sums 116 = .ok (.getfield 32, 3) := dk_180 0 32 (dk_at dksX4_sums_4 20 rfl rfl)
theorem dX4_sums_119 : decode cX4_sums 119 = .ok (.iload_n 2, 1) := dk_28 (dk_at dksX4_sums_4 23 rfl rfl)
theorem dX4_sums_120 : decode cX4_sums 120 = .ok (.iconst 2, 1) := dk_5 (dk_at dksX4_sums_5 0 rfl rfl)
theorem dX4_sums_121 : decode cX4_sums 121 = .ok (.iadd, 1) := dk_96 (dk_at dksX4_sums_5 1 rfl rfl)
theorem dX4_sums_122 : decode cX4_sums 122 = .ok (.iload 4, 2) := dk_21 4 (dk_at dksX4_sums_5 2 rfl rfl)
theorem dX4_sums_124 : decode cX4_sums 124 = .ok (.iadd, 1) := dk_96 (dk_at dksX4_sums_5 4 rfl rfl)
theorem dX4_sums_125 : decode cX4_sums 125 = .ok (.dup2, 1) := dk_92 (dk_at dksX4_sums_5 5 rfl rfl)
theorem dX4_sums_126 : decode cX4_sums 126 = .ok (.iaload, 1) := dk_46 (dk_at dksX4_sums_5 6 rfl rfl)
theorem dX4_sums_127 : decode cX4_sums 127 = .ok (.aload_n 0, 1) := dk_42 (dk_at dksX4_sums_5 7 rfl rfl)
theorem dX4_sums_128 : decode cX4_sums 128 = .ok (.getfield 32, 3) := dk_180 0 32 (dk_at dksX4_sums_5 8 rfl rfl)
theorem dX4_sums_131 : decode cX4_sums 131 = .ok (.iload_n 3, 1) := dk_29 (dk_at dksX4_sums_5 11 rfl rfl)
theorem dX4_sums_132 : decode cX4_sums 132 = .ok (.iconst 2, 1) := dk_5 (dk_at dksX4_sums_5 12 rfl rfl)
theorem dX4_sums_133 : decode cX4_sums 133 = .ok (.iadd, 1) := dk_96 (dk_at dksX4_sums_5 13 rfl rfl)
theorem dX4_sums_134 : decode cX4_sums 134 = .ok (.iload 4, 2) := dk_21 4 (dk_at dksX4_sums_5 14 rfl rfl)
theorem dX4_sums_136 : decode cX4_sums 136 = .ok (.iadd, 1) := dk_96 (dk_at dksX4_sums_5 16 rfl rfl)
theorem dX4_sums_137 : decode cX4_sums 137 = .ok (.iaload, 1) := dk_46 (dk_at dksX4_sums_5 17 rfl rfl)
theorem dX4_sums_138 : decode cX4_sums 138 = .ok (.ior, 1) := dk_128 (dk_at dksX4_sums_5 18 rfl rfl)
theorem dX4_sums_139 : decode cX4_sums 139 = .ok (.iastore, 1) := dk_79 (dk_at dksX4_sums_5 19 rfl rfl)
theorem dX4_sums_140 : decode cX4_sums 140 = .ok (.aload_n 0, 1) := dk_42 (dk_at dksX4_sums_5 20 rfl rfl)
theorem dX4_sums_141 : decode cX4_sums 141 = .ok (.getfield 32, 3) := dk_180 0 32 (dk_at dksX4_sums_5 21 rfl rfl)
theorem dX4_sums_144 : decode cX4_sums 144 = .ok (.iload_n 2, 1) := dk_28 (dk_at dksX4_sums_6 0 rfl rfl)
theorem dX4_sums_145 : decode cX4_sums 145 = .ok (.sipush 146, 3) := dk_17 0 146 (dk_at dksX4_sums_6 1 rfl rfl)
theorem dX4_sums_148 : decode cX4_sums 148 = .ok (.iadd, 1) := dk_96 (dk_at dksX4_sums_6 4 rfl rfl)
theorem dX4_sums_149 : decode cX4_sums 149 = .ok (.iload 4, 2) := dk_21 4 (dk_at dksX4_sums_6 5 rfl rfl)
theorem dX4_sums_151 : decode cX4_sums 151 = .ok (.iadd, 1) := dk_96 (dk_at dksX4_sums_6 7 rfl rfl)
theorem dX4_sums_152 : decode cX4_sums 152 = .ok (.lload 5, 2) := dk_22 5 (dk_at dksX4_sums_6 8 rfl rfl)
theorem dX4_sums_154 : decode cX4_sums 154 = .ok (.l2i, 1) := dk_136 (dk_at dksX4_sums_6 10 rfl rfl)
theorem dX4_sums_155 : decode cX4_sums 155 = .ok (.iastore, 1) := dk_79 (dk_at dksX4_sums_6 11 rfl rfl)
theorem dX4_sums_156 : decode cX4_sums 156 = .ok (.iinc 4 1, 3) := dk_132 4 1 (dk_at dksX4_sums_6 12 rfl rfl)
theorem dX4_sums_159 : decode cX4_sums 159 = .ok (.goto (-96), 3) := dk_167 255 160 (dk_at dksX4_sums_6 15 rfl rfl)
theorem dX4_sums_162 : decode cX4_sums 162 = .ok (.aload_n 0, 1) := dk_42 (dk_at dksX4_sums_6 18 rfl rfl)
theorem dX4_sums_163 : decode cX4_sums 163 = .ok (.dup, 1) := dk_89 (dk_at dksX4_sums_6 19 rfl rfl)
theorem dX4_sums_164 : decode cX4_sums 164 = .ok (.getfield 185, 3) := dk_180 0 185 (dk_at dksX4_sums_6 20 rfl rfl)
theorem dX4_sums_167 : decode cX4_sums 167 = .ok (.iconst 1, 1) := dk_4 (dk_at dksX4_sums_6 23 rfl rfl)
theorem dX4_sums_168 : decode cX4_sums 168 = .ok (.isub, 1) := dk_100 (dk_at dksX4_sums_7 0 rfl rfl)
theorem dX4_sums_169 : decode cX4_sums 169 = .ok (.putfield 185, 3) := dk_181 0 185 (dk_at dksX4_sums_7 1 rfl rfl)
theorem dX4_sums_172 : decode cX4_sums 172 = .ok (.iconst 1, 1) := dk_4 (dk_at dksX4_sums_7 4 rfl rfl)
theorem dX4_sums_173 : decode cX4_sums 173 = .ok (.ireturn, 1) := dk_172 (dk_at dksX4_sums_7 5 rfl rfl)
abbrev cX4_multiplyInto : ByteArray := prog_23_method_102_code
def yX4_multiplyInto : MethodName := ⟨RX4, "multiplyInto", "(III)I"⟩
def dkwX4_multiplyInto_2 : List UInt8 := [182, 1, 139, 182, 1, 108, 172]
abbrev dktX4_multiplyInto_2 : List UInt8 := dkwX4_multiplyInto_2 ++ []
def dkwX4_multiplyInto_1 : List UInt8 := [153, 0, 7, 4, 167, 0, 4, 3, 182, 1, 98, 154, 0, 5, 3, 172, 42, 182, 1, 102, 42, 42, 29]
abbrev dktX4_multiplyInto_1 : List UInt8 := dkwX4_multiplyInto_1 ++ dktX4_multiplyInto_2
def dkwX4_multiplyInto_0 : List UInt8 := [42, 27, 28, 29, 182, 1, 145, 54, 4, 42, 21, 4, 21, 4, 153, 0, 16, 42, 27, 28, 182, 1, 151]
abbrev dktX4_multiplyInto_0 : List UInt8 := dkwX4_multiplyInto_0 ++ dktX4_multiplyInto_1
theorem dksX4_multiplyInto_0 : cX4_multiplyInto.data.toList.drop 0 = dktX4_multiplyInto_0 := by decide +kernel
theorem dksX4_multiplyInto_1 : cX4_multiplyInto.data.toList.drop 23 = dktX4_multiplyInto_1 := dk_seg dksX4_multiplyInto_0 23 rfl rfl
theorem dksX4_multiplyInto_2 : cX4_multiplyInto.data.toList.drop 46 = dktX4_multiplyInto_2 := dk_seg dksX4_multiplyInto_1 23 rfl rfl
theorem dX4_multiplyInto_0 : decode cX4_multiplyInto 0 = .ok (.aload_n 0, 1) := dk_42 (dk_at dksX4_multiplyInto_0 0 rfl rfl)
theorem dX4_multiplyInto_1 : decode cX4_multiplyInto 1 = .ok (.iload_n 1, 1) := dk_27 (dk_at dksX4_multiplyInto_0 1 rfl rfl)
theorem dX4_multiplyInto_2 : decode cX4_multiplyInto 2 = .ok (.iload_n 2, 1) := dk_28 (dk_at dksX4_multiplyInto_0 2 rfl rfl)
theorem dX4_multiplyInto_3 : decode cX4_multiplyInto 3 = .ok (.iload_n 3, 1) := dk_29 (dk_at dksX4_multiplyInto_0 3 rfl rfl)
theorem dX4_multiplyInto_4 : decode cX4_multiplyInto 4 = .ok (.invokevirtual 401, 3) := dk_182 1 145 (dk_at dksX4_multiplyInto_0 4 rfl rfl)
theorem dX4_multiplyInto_7 : decode cX4_multiplyInto 7 = .ok (.istore 4, 2) := dk_54 4 (dk_at dksX4_multiplyInto_0 7 rfl rfl)
theorem dX4_multiplyInto_9 : decode cX4_multiplyInto 9 = .ok (.aload_n 0, 1) := dk_42 (dk_at dksX4_multiplyInto_0 9 rfl rfl)
theorem dX4_multiplyInto_10 : decode cX4_multiplyInto 10 = .ok (.iload 4, 2) := dk_21 4 (dk_at dksX4_multiplyInto_0 10 rfl rfl)
theorem dX4_multiplyInto_12 : decode cX4_multiplyInto 12 = .ok (.iload 4, 2) := dk_21 4 (dk_at dksX4_multiplyInto_0 12 rfl rfl)
theorem dX4_multiplyInto_14 : decode cX4_multiplyInto 14 = .ok (.ifCond .eq 16, 3) := dk_153 0 16 (dk_at dksX4_multiplyInto_0 14 rfl rfl)
theorem dX4_multiplyInto_17 : decode cX4_multiplyInto 17 = .ok (.aload_n 0, 1) := dk_42 (dk_at dksX4_multiplyInto_0 17 rfl rfl)
theorem dX4_multiplyInto_18 : decode cX4_multiplyInto 18 = .ok (.iload_n 1, 1) := dk_27 (dk_at dksX4_multiplyInto_0 18 rfl rfl)
theorem dX4_multiplyInto_19 : decode cX4_multiplyInto 19 = .ok (.iload_n 2, 1) := dk_28 (dk_at dksX4_multiplyInto_0 19 rfl rfl)
theorem dX4_multiplyInto_20 : decode cX4_multiplyInto 20 = .ok (.invokevirtual 407, 3) := dk_182 1 151 (dk_at dksX4_multiplyInto_0 20 rfl rfl)
theorem dX4_multiplyInto_23 : decode cX4_multiplyInto 23 = .ok (.ifCond .eq 7, 3) := dk_153 0 7 (dk_at dksX4_multiplyInto_1 0 rfl rfl)
theorem dX4_multiplyInto_26 : decode cX4_multiplyInto 26 = .ok (.iconst 1, 1) := dk_4 (dk_at dksX4_multiplyInto_1 3 rfl rfl)
theorem dX4_multiplyInto_27 : decode cX4_multiplyInto 27 = .ok (.goto 4, 3) := dk_167 0 4 (dk_at dksX4_multiplyInto_1 4 rfl rfl)
theorem dX4_multiplyInto_30 : decode cX4_multiplyInto 30 = .ok (.iconst 0, 1) := dk_3 (dk_at dksX4_multiplyInto_1 7 rfl rfl)
theorem dX4_multiplyInto_31 : decode cX4_multiplyInto 31 = .ok (.invokevirtual 354, 3) := dk_182 1 98 (dk_at dksX4_multiplyInto_1 8 rfl rfl)
theorem dX4_multiplyInto_34 : decode cX4_multiplyInto 34 = .ok (.ifCond .ne 5, 3) := dk_154 0 5 (dk_at dksX4_multiplyInto_1 11 rfl rfl)
theorem dX4_multiplyInto_37 : decode cX4_multiplyInto 37 = .ok (.iconst 0, 1) := dk_3 (dk_at dksX4_multiplyInto_1 14 rfl rfl)
theorem dX4_multiplyInto_38 : decode cX4_multiplyInto 38 = .ok (.ireturn, 1) := dk_172 (dk_at dksX4_multiplyInto_1 15 rfl rfl)
theorem dX4_multiplyInto_39 : decode cX4_multiplyInto 39 = .ok (.aload_n 0, 1) := dk_42 (dk_at dksX4_multiplyInto_1 16 rfl rfl)
theorem dX4_multiplyInto_40 : decode cX4_multiplyInto 40 = .ok (.invokevirtual 358, 3) := dk_182 1 102 (dk_at dksX4_multiplyInto_1 17 rfl rfl)
theorem dX4_multiplyInto_43 : decode cX4_multiplyInto 43 = .ok (.aload_n 0, 1) := dk_42 (dk_at dksX4_multiplyInto_1 20 rfl rfl)
theorem dX4_multiplyInto_44 : decode cX4_multiplyInto 44 = .ok (.aload_n 0, 1) := dk_42 (dk_at dksX4_multiplyInto_1 21 rfl rfl)
theorem dX4_multiplyInto_45 : decode cX4_multiplyInto 45 = .ok (.iload_n 3, 1) := dk_29 (dk_at dksX4_multiplyInto_1 22 rfl rfl)
theorem dX4_multiplyInto_46 : decode cX4_multiplyInto 46 = .ok (.invokevirtual 395, 3) := dk_182 1 139 (dk_at dksX4_multiplyInto_2 0 rfl rfl)
theorem dX4_multiplyInto_49 : decode cX4_multiplyInto 49 = .ok (.invokevirtual 364, 3) := dk_182 1 108 (dk_at dksX4_multiplyInto_2 3 rfl rfl)
theorem dX4_multiplyInto_52 : decode cX4_multiplyInto 52 = .ok (.ireturn, 1) := dk_172 (dk_at dksX4_multiplyInto_2 6 rfl rfl)
abbrev cX4_multipliesRegisters : ByteArray := prog_23_method_97_code
def yX4_multipliesRegisters : MethodName := ⟨RX4, "multipliesRegisters", "(II)Z"⟩
def dkwX4_multipliesRegisters_0 : List UInt8 := [42, 182, 0, 238, 42, 27, 182, 0, 235, 42, 28, 182, 0, 235, 42, 182, 0, 232, 172]
abbrev dktX4_multipliesRegisters_0 : List UInt8 := dkwX4_multipliesRegisters_0 ++ []
theorem dksX4_multipliesRegisters_0 : cX4_multipliesRegisters.data.toList.drop 0 = dktX4_multipliesRegisters_0 := by decide +kernel
theorem dX4_multipliesRegisters_0 : decode cX4_multipliesRegisters 0 = .ok (.aload_n 0, 1) := dk_42 (dk_at dksX4_multipliesRegisters_0 0 rfl rfl)
theorem dX4_multipliesRegisters_1 : decode cX4_multipliesRegisters 1 = .ok (.invokevirtual 238, 3) := dk_182 0 238 (dk_at dksX4_multipliesRegisters_0 1 rfl rfl)
theorem dX4_multipliesRegisters_4 : decode cX4_multipliesRegisters 4 = .ok (.aload_n 0, 1) := dk_42 (dk_at dksX4_multipliesRegisters_0 4 rfl rfl)
theorem dX4_multipliesRegisters_5 : decode cX4_multipliesRegisters 5 = .ok (.iload_n 1, 1) := dk_27 (dk_at dksX4_multipliesRegisters_0 5 rfl rfl)
theorem dX4_multipliesRegisters_6 : decode cX4_multipliesRegisters 6 = .ok (.invokevirtual 235, 3) := dk_182 0 235 (dk_at dksX4_multipliesRegisters_0 6 rfl rfl)
theorem dX4_multipliesRegisters_9 : decode cX4_multipliesRegisters 9 = .ok (.aload_n 0, 1) := dk_42 (dk_at dksX4_multipliesRegisters_0 9 rfl rfl)
theorem dX4_multipliesRegisters_10 : decode cX4_multipliesRegisters 10 = .ok (.iload_n 2, 1) := dk_28 (dk_at dksX4_multipliesRegisters_0 10 rfl rfl)
theorem dX4_multipliesRegisters_11 : decode cX4_multipliesRegisters 11 = .ok (.invokevirtual 235, 3) := dk_182 0 235 (dk_at dksX4_multipliesRegisters_0 11 rfl rfl)
theorem dX4_multipliesRegisters_14 : decode cX4_multipliesRegisters 14 = .ok (.aload_n 0, 1) := dk_42 (dk_at dksX4_multipliesRegisters_0 14 rfl rfl)
theorem dX4_multipliesRegisters_15 : decode cX4_multipliesRegisters 15 = .ok (.invokevirtual 232, 3) := dk_182 0 232 (dk_at dksX4_multipliesRegisters_0 15 rfl rfl)
theorem dX4_multipliesRegisters_18 : decode cX4_multipliesRegisters 18 = .ok (.ireturn, 1) := dk_172 (dk_at dksX4_multipliesRegisters_0 18 rfl rfl)
abbrev cX4_multipliesAll : ByteArray := prog_23_method_52_code
def yX4_multipliesAll : MethodName := ⟨RX4, "multipliesAll", "()Z"⟩
def dkwX4_multipliesAll_5 : List UInt8 := [132, 4, 1, 167, 255, 205, 42, 27, 182, 0, 204, 42, 89, 180, 0, 185, 4, 100, 181, 0, 185, 29, 172]
abbrev dktX4_multipliesAll_5 : List UInt8 := dkwX4_multipliesAll_5 ++ []
def dkwX4_multipliesAll_4 : List UInt8 := [96, 46, 162, 0, 22, 29, 42, 27, 28, 21, 4, 21, 5, 182, 0, 213, 126, 62, 132, 5, 1, 167, 255, 227]
abbrev dktX4_multipliesAll_4 : List UInt8 := dkwX4_multipliesAll_4 ++ dktX4_multipliesAll_5
def dkwX4_multipliesAll_3 : List UInt8 := [21, 4, 42, 180, 0, 32, 27, 3, 96, 46, 162, 0, 44, 3, 54, 5, 21, 5, 42, 180, 0, 32, 28, 4]
abbrev dktX4_multipliesAll_3 : List UInt8 := dkwX4_multipliesAll_3 ++ dktX4_multipliesAll_4
def dkwX4_multipliesAll_2 : List UInt8 := [180, 0, 32, 27, 3, 96, 46, 42, 180, 0, 32, 28, 4, 96, 46, 184, 0, 156, 4, 62, 3, 54, 4]
abbrev dktX4_multipliesAll_2 : List UInt8 := dkwX4_multipliesAll_2 ++ dktX4_multipliesAll_3
def dkwX4_multipliesAll_1 : List UInt8 := [27, 4, 96, 46, 42, 180, 0, 32, 28, 3, 96, 46, 159, 0, 5, 3, 172, 42, 180, 0, 35, 3, 42]
abbrev dktX4_multipliesAll_1 : List UInt8 := dkwX4_multipliesAll_1 ++ dktX4_multipliesAll_2
def dkwX4_multipliesAll_0 : List UInt8 := [42, 180, 0, 185, 5, 100, 184, 0, 188, 60, 42, 180, 0, 185, 4, 100, 184, 0, 188, 61, 42, 180, 0, 32]
abbrev dktX4_multipliesAll_0 : List UInt8 := dkwX4_multipliesAll_0 ++ dktX4_multipliesAll_1
theorem dksX4_multipliesAll_0 : cX4_multipliesAll.data.toList.drop 0 = dktX4_multipliesAll_0 := by decide +kernel
theorem dksX4_multipliesAll_1 : cX4_multipliesAll.data.toList.drop 24 = dktX4_multipliesAll_1 := dk_seg dksX4_multipliesAll_0 24 rfl rfl
theorem dksX4_multipliesAll_2 : cX4_multipliesAll.data.toList.drop 47 = dktX4_multipliesAll_2 := dk_seg dksX4_multipliesAll_1 23 rfl rfl
theorem dksX4_multipliesAll_3 : cX4_multipliesAll.data.toList.drop 70 = dktX4_multipliesAll_3 := dk_seg dksX4_multipliesAll_2 23 rfl rfl
theorem dksX4_multipliesAll_4 : cX4_multipliesAll.data.toList.drop 94 = dktX4_multipliesAll_4 := dk_seg dksX4_multipliesAll_3 24 rfl rfl
theorem dksX4_multipliesAll_5 : cX4_multipliesAll.data.toList.drop 118 = dktX4_multipliesAll_5 := dk_seg dksX4_multipliesAll_4 24 rfl rfl
theorem dX4_multipliesAll_0 : decode cX4_multipliesAll 0 = .ok (.aload_n 0, 1) := dk_42 (dk_at dksX4_multipliesAll_0 0 rfl rfl)
theorem dX4_multipliesAll_1 : decode cX4_multipliesAll 1 = .ok (.getfield 185, 3) := dk_180 0 185 (dk_at dksX4_multipliesAll_0 1 rfl rfl)
theorem dX4_multipliesAll_4 : decode cX4_multipliesAll 4 = .ok (.iconst 2, 1) := dk_5 (dk_at dksX4_multipliesAll_0 4 rfl rfl)
theorem dX4_multipliesAll_5 : decode cX4_multipliesAll 5 = .ok (.isub, 1) := dk_100 (dk_at dksX4_multipliesAll_0 5 rfl rfl)
theorem dX4_multipliesAll_6 : decode cX4_multipliesAll 6 = .ok (.invokestatic 188, 3) := dk_184 0 188 (dk_at dksX4_multipliesAll_0 6 rfl rfl)
theorem dX4_multipliesAll_9 : decode cX4_multipliesAll 9 = .ok (.istore_n 1, 1) := dk_60 (dk_at dksX4_multipliesAll_0 9 rfl rfl)
theorem dX4_multipliesAll_10 : decode cX4_multipliesAll 10 = .ok (.aload_n 0, 1) := dk_42 (dk_at dksX4_multipliesAll_0 10 rfl rfl)
theorem dX4_multipliesAll_11 : decode cX4_multipliesAll 11 = .ok (.getfield 185, 3) := dk_180 0 185 (dk_at dksX4_multipliesAll_0 11 rfl rfl)
theorem dX4_multipliesAll_14 : decode cX4_multipliesAll 14 = .ok (.iconst 1, 1) := dk_4 (dk_at dksX4_multipliesAll_0 14 rfl rfl)
theorem dX4_multipliesAll_15 : decode cX4_multipliesAll 15 = .ok (.isub, 1) := dk_100 (dk_at dksX4_multipliesAll_0 15 rfl rfl)
theorem dX4_multipliesAll_16 : decode cX4_multipliesAll 16 = .ok (.invokestatic 188, 3) := dk_184 0 188 (dk_at dksX4_multipliesAll_0 16 rfl rfl)
theorem dX4_multipliesAll_19 : decode cX4_multipliesAll 19 = .ok (.istore_n 2, 1) := dk_61 (dk_at dksX4_multipliesAll_0 19 rfl rfl)
theorem dX4_multipliesAll_20 : decode cX4_multipliesAll 20 = .ok (.aload_n 0, 1) := dk_42 (dk_at dksX4_multipliesAll_0 20 rfl rfl)
theorem dX4_multipliesAll_21 : decode cX4_multipliesAll 21 = .ok (.getfield 32, 3) := dk_180 0 32 (dk_at dksX4_multipliesAll_0 21 rfl rfl)
theorem dX4_multipliesAll_24 : decode cX4_multipliesAll 24 = .ok (.iload_n 1, 1) := dk_27 (dk_at dksX4_multipliesAll_1 0 rfl rfl)
theorem dX4_multipliesAll_25 : decode cX4_multipliesAll 25 = .ok (.iconst 1, 1) := dk_4 (dk_at dksX4_multipliesAll_1 1 rfl rfl)
theorem dX4_multipliesAll_26 : decode cX4_multipliesAll 26 = .ok (.iadd, 1) := dk_96 (dk_at dksX4_multipliesAll_1 2 rfl rfl)
theorem dX4_multipliesAll_27 : decode cX4_multipliesAll 27 = .ok (.iaload, 1) := dk_46 (dk_at dksX4_multipliesAll_1 3 rfl rfl)
theorem dX4_multipliesAll_28 : decode cX4_multipliesAll 28 = .ok (.aload_n 0, 1) := dk_42 (dk_at dksX4_multipliesAll_1 4 rfl rfl)
theorem dX4_multipliesAll_29 : decode cX4_multipliesAll 29 = .ok (.getfield 32, 3) := dk_180 0 32 (dk_at dksX4_multipliesAll_1 5 rfl rfl)
theorem dX4_multipliesAll_32 : decode cX4_multipliesAll 32 = .ok (.iload_n 2, 1) := dk_28 (dk_at dksX4_multipliesAll_1 8 rfl rfl)
theorem dX4_multipliesAll_33 : decode cX4_multipliesAll 33 = .ok (.iconst 0, 1) := dk_3 (dk_at dksX4_multipliesAll_1 9 rfl rfl)
theorem dX4_multipliesAll_34 : decode cX4_multipliesAll 34 = .ok (.iadd, 1) := dk_96 (dk_at dksX4_multipliesAll_1 10 rfl rfl)
theorem dX4_multipliesAll_35 : decode cX4_multipliesAll 35 = .ok (.iaload, 1) := dk_46 (dk_at dksX4_multipliesAll_1 11 rfl rfl)
theorem dX4_multipliesAll_36 : decode cX4_multipliesAll 36 = .ok (.if_icmp .eq 5, 3) := dk_159 0 5 (dk_at dksX4_multipliesAll_1 12 rfl rfl)
theorem dX4_multipliesAll_39 : decode cX4_multipliesAll 39 = .ok (.iconst 0, 1) := dk_3 (dk_at dksX4_multipliesAll_1 15 rfl rfl)
theorem dX4_multipliesAll_40 : decode cX4_multipliesAll 40 = .ok (.ireturn, 1) := dk_172 (dk_at dksX4_multipliesAll_1 16 rfl rfl)
theorem dX4_multipliesAll_41 : decode cX4_multipliesAll 41 = .ok (.aload_n 0, 1) := dk_42 (dk_at dksX4_multipliesAll_1 17 rfl rfl)
theorem dX4_multipliesAll_42 : decode cX4_multipliesAll 42 = .ok (.getfield 35, 3) := dk_180 0 35 (dk_at dksX4_multipliesAll_1 18 rfl rfl)
theorem dX4_multipliesAll_45 : decode cX4_multipliesAll 45 = .ok (.iconst 0, 1) := dk_3 (dk_at dksX4_multipliesAll_1 21 rfl rfl)
theorem dX4_multipliesAll_46 : decode cX4_multipliesAll 46 = .ok (.aload_n 0, 1) := dk_42 (dk_at dksX4_multipliesAll_1 22 rfl rfl)
theorem dX4_multipliesAll_47 : decode cX4_multipliesAll 47 = .ok (.getfield 32, 3) := dk_180 0 32 (dk_at dksX4_multipliesAll_2 0 rfl rfl)
theorem dX4_multipliesAll_50 : decode cX4_multipliesAll 50 = .ok (.iload_n 1, 1) := dk_27 (dk_at dksX4_multipliesAll_2 3 rfl rfl)
theorem dX4_multipliesAll_51 : decode cX4_multipliesAll 51 = .ok (.iconst 0, 1) := dk_3 (dk_at dksX4_multipliesAll_2 4 rfl rfl)
theorem dX4_multipliesAll_52 : decode cX4_multipliesAll 52 = .ok (.iadd, 1) := dk_96 (dk_at dksX4_multipliesAll_2 5 rfl rfl)
theorem dX4_multipliesAll_53 : decode cX4_multipliesAll 53 = .ok (.iaload, 1) := dk_46 (dk_at dksX4_multipliesAll_2 6 rfl rfl)
theorem dX4_multipliesAll_54 : decode cX4_multipliesAll 54 = .ok (.aload_n 0, 1) := dk_42 (dk_at dksX4_multipliesAll_2 7 rfl rfl)
theorem dX4_multipliesAll_55 : decode cX4_multipliesAll 55 = .ok (.getfield 32, 3) := dk_180 0 32 (dk_at dksX4_multipliesAll_2 8 rfl rfl)
theorem dX4_multipliesAll_58 : decode cX4_multipliesAll 58 = .ok (.iload_n 2, 1) := dk_28 (dk_at dksX4_multipliesAll_2 11 rfl rfl)
theorem dX4_multipliesAll_59 : decode cX4_multipliesAll 59 = .ok (.iconst 1, 1) := dk_4 (dk_at dksX4_multipliesAll_2 12 rfl rfl)
theorem dX4_multipliesAll_60 : decode cX4_multipliesAll 60 = .ok (.iadd, 1) := dk_96 (dk_at dksX4_multipliesAll_2 13 rfl rfl)
theorem dX4_multipliesAll_61 : decode cX4_multipliesAll 61 = .ok (.iaload, 1) := dk_46 (dk_at dksX4_multipliesAll_2 14 rfl rfl)
theorem dX4_multipliesAll_62 : decode cX4_multipliesAll 62 = .ok (.invokestatic 156, 3) := dk_184 0 156 (dk_at dksX4_multipliesAll_2 15 rfl rfl)
theorem dX4_multipliesAll_65 : decode cX4_multipliesAll 65 = .ok (.iconst 1, 1) := dk_4 (dk_at dksX4_multipliesAll_2 18 rfl rfl)
theorem dX4_multipliesAll_66 : decode cX4_multipliesAll 66 = .ok (.istore_n 3, 1) := dk_62 (dk_at dksX4_multipliesAll_2 19 rfl rfl)
theorem dX4_multipliesAll_67 : decode cX4_multipliesAll 67 = .ok (.iconst 0, 1) := dk_3 (dk_at dksX4_multipliesAll_2 20 rfl rfl)
theorem dX4_multipliesAll_68 : decode cX4_multipliesAll 68 = .ok (.istore 4, 2) := dk_54 4 (dk_at dksX4_multipliesAll_2 21 rfl rfl)
theorem dX4_multipliesAll_70 : decode cX4_multipliesAll 70 = .ok (.iload 4, 2) := dk_21 4 (dk_at dksX4_multipliesAll_3 0 rfl rfl)
theorem dX4_multipliesAll_72 : decode cX4_multipliesAll 72 = .ok (.aload_n 0, 1) := dk_42 (dk_at dksX4_multipliesAll_3 2 rfl rfl)
theorem dX4_multipliesAll_73 : decode cX4_multipliesAll 73 = .ok (.getfield 32, 3) := dk_180 0 32 (dk_at dksX4_multipliesAll_3 3 rfl rfl)
theorem dX4_multipliesAll_76 : decode cX4_multipliesAll 76 = .ok (.iload_n 1, 1) := dk_27 (dk_at dksX4_multipliesAll_3 6 rfl rfl)
theorem dX4_multipliesAll_77 : decode cX4_multipliesAll 77 = .ok (.iconst 0, 1) := dk_3 (dk_at dksX4_multipliesAll_3 7 rfl rfl)
theorem dX4_multipliesAll_78 : decode cX4_multipliesAll 78 = .ok (.iadd, 1) := dk_96 (dk_at dksX4_multipliesAll_3 8 rfl rfl)
theorem dX4_multipliesAll_79 : decode cX4_multipliesAll 79 = .ok (.iaload, 1) := dk_46 (dk_at dksX4_multipliesAll_3 9 rfl rfl)
theorem dX4_multipliesAll_80 : decode cX4_multipliesAll 80 = .ok (.if_icmp .ge 44, 3) := dk_162 0 44 (dk_at dksX4_multipliesAll_3 10 rfl rfl)
theorem dX4_multipliesAll_83 : decode cX4_multipliesAll 83 = .ok (.iconst 0, 1) := dk_3 (dk_at dksX4_multipliesAll_3 13 rfl rfl)
theorem dX4_multipliesAll_84 : decode cX4_multipliesAll 84 = .ok (.istore 5, 2) := dk_54 5 (dk_at dksX4_multipliesAll_3 14 rfl rfl)
theorem dX4_multipliesAll_86 : decode cX4_multipliesAll 86 = .ok (.iload 5, 2) := dk_21 5 (dk_at dksX4_multipliesAll_3 16 rfl rfl)
theorem dX4_multipliesAll_88 : decode cX4_multipliesAll 88 = .ok (.aload_n 0, 1) := dk_42 (dk_at dksX4_multipliesAll_3 18 rfl rfl)
theorem dX4_multipliesAll_89 : decode cX4_multipliesAll 89 = .ok (.getfield 32, 3) := dk_180 0 32 (dk_at dksX4_multipliesAll_3 19 rfl rfl)
theorem dX4_multipliesAll_92 : decode cX4_multipliesAll 92 = .ok (.iload_n 2, 1) := dk_28 (dk_at dksX4_multipliesAll_3 22 rfl rfl)
theorem dX4_multipliesAll_93 : decode cX4_multipliesAll 93 = .ok (.iconst 1, 1) := dk_4 (dk_at dksX4_multipliesAll_3 23 rfl rfl)
theorem dX4_multipliesAll_94 : decode cX4_multipliesAll 94 = .ok (.iadd, 1) := dk_96 (dk_at dksX4_multipliesAll_4 0 rfl rfl)
theorem dX4_multipliesAll_95 : decode cX4_multipliesAll 95 = .ok (.iaload, 1) := dk_46 (dk_at dksX4_multipliesAll_4 1 rfl rfl)
theorem dX4_multipliesAll_96 : decode cX4_multipliesAll 96 = .ok (.if_icmp .ge 22, 3) := dk_162 0 22 (dk_at dksX4_multipliesAll_4 2 rfl rfl)
theorem dX4_multipliesAll_99 : decode cX4_multipliesAll 99 = .ok (.iload_n 3, 1) := dk_29 (dk_at dksX4_multipliesAll_4 5 rfl rfl)
theorem dX4_multipliesAll_100 : decode cX4_multipliesAll 100 = .ok (.aload_n 0, 1) := dk_42 (dk_at dksX4_multipliesAll_4 6 rfl rfl)
theorem dX4_multipliesAll_101 : decode cX4_multipliesAll 101 = .ok (.iload_n 1, 1) := dk_27 (dk_at dksX4_multipliesAll_4 7 rfl rfl)
theorem dX4_multipliesAll_102 : decode cX4_multipliesAll 102 = .ok (.iload_n 2, 1) := dk_28 (dk_at dksX4_multipliesAll_4 8 rfl rfl)
theorem dX4_multipliesAll_103 : decode cX4_multipliesAll 103 = .ok (.iload 4, 2) := dk_21 4 (dk_at dksX4_multipliesAll_4 9 rfl rfl)
theorem dX4_multipliesAll_105 : decode cX4_multipliesAll 105 = .ok (.iload 5, 2) := dk_21 5 (dk_at dksX4_multipliesAll_4 11 rfl rfl)
theorem dX4_multipliesAll_107 : decode cX4_multipliesAll 107 = .ok (.invokevirtual 213, 3) := dk_182 0 213 (dk_at dksX4_multipliesAll_4 13 rfl rfl)
theorem dX4_multipliesAll_110 : decode cX4_multipliesAll 110 = .ok (.iand, 1) := dk_126 (dk_at dksX4_multipliesAll_4 16 rfl rfl)
theorem dX4_multipliesAll_111 : decode cX4_multipliesAll 111 = .ok (.istore_n 3, 1) := dk_62 (dk_at dksX4_multipliesAll_4 17 rfl rfl)
theorem dX4_multipliesAll_112 : decode cX4_multipliesAll 112 = .ok (.iinc 5 1, 3) := dk_132 5 1 (dk_at dksX4_multipliesAll_4 18 rfl rfl)
theorem dX4_multipliesAll_115 : decode cX4_multipliesAll 115 = .ok (.goto (-29), 3) := dk_167 255 227 (dk_at dksX4_multipliesAll_4 21 rfl rfl)
theorem dX4_multipliesAll_118 : decode cX4_multipliesAll 118 = .ok (.iinc 4 1, 3) := dk_132 4 1 (dk_at dksX4_multipliesAll_5 0 rfl rfl)
theorem dX4_multipliesAll_121 : decode cX4_multipliesAll 121 = .ok (.goto (-51), 3) := dk_167 255 205 (dk_at dksX4_multipliesAll_5 3 rfl rfl)
theorem dX4_multipliesAll_124 : decode cX4_multipliesAll 124 = .ok (.aload_n 0, 1) := dk_42 (dk_at dksX4_multipliesAll_5 6 rfl rfl)
theorem dX4_multipliesAll_125 : decode cX4_multipliesAll 125 = .ok (.iload_n 1, 1) := dk_27 (dk_at dksX4_multipliesAll_5 7 rfl rfl)
theorem dX4_multipliesAll_126 : decode cX4_multipliesAll 126 = .ok (.invokevirtual 204, 3) := dk_182 0 204 (dk_at dksX4_multipliesAll_5 8 rfl rfl)
theorem dX4_multipliesAll_129 : decode cX4_multipliesAll 129 = .ok (.aload_n 0, 1) := dk_42 (dk_at dksX4_multipliesAll_5 11 rfl rfl)
theorem dX4_multipliesAll_130 : decode cX4_multipliesAll 130 = .ok (.dup, 1) := dk_89 (dk_at dksX4_multipliesAll_5 12 rfl rfl)
theorem dX4_multipliesAll_131 : decode cX4_multipliesAll 131 = .ok (.getfield 185, 3) := dk_180 0 185 (dk_at dksX4_multipliesAll_5 13 rfl rfl)
theorem dX4_multipliesAll_134 : decode cX4_multipliesAll 134 = .ok (.iconst 1, 1) := dk_4 (dk_at dksX4_multipliesAll_5 16 rfl rfl)
theorem dX4_multipliesAll_135 : decode cX4_multipliesAll 135 = .ok (.isub, 1) := dk_100 (dk_at dksX4_multipliesAll_5 17 rfl rfl)
theorem dX4_multipliesAll_136 : decode cX4_multipliesAll 136 = .ok (.putfield 185, 3) := dk_181 0 185 (dk_at dksX4_multipliesAll_5 18 rfl rfl)
theorem dX4_multipliesAll_139 : decode cX4_multipliesAll 139 = .ok (.iload_n 3, 1) := dk_29 (dk_at dksX4_multipliesAll_5 21 rfl rfl)
theorem dX4_multipliesAll_140 : decode cX4_multipliesAll 140 = .ok (.ireturn, 1) := dk_172 (dk_at dksX4_multipliesAll_5 22 rfl rfl)
abbrev cX4_multiplies : ByteArray := prog_23_method_51_code
def yX4_multiplies : MethodName := ⟨RX4, "multiplies", "(IIII)Z"⟩
def dkwX4_multiplies_5 : List UInt8 := [42, 180, 0, 35, 3, 29, 21, 4, 22, 5, 136, 184, 0, 193, 4, 172]
abbrev dktX4_multiplies_5 : List UInt8 := dkwX4_multiplies_5 ++ []
def dkwX4_multiplies_4 : List UInt8 := [180, 0, 210, 21, 7, 96, 181, 0, 210, 22, 5, 184, 0, 207, 154, 0, 5, 3, 172, 21, 7, 158, 0, 17]
abbrev dktX4_multiplies_4 : List UInt8 := dkwX4_multiplies_4 ++ dktX4_multiplies_5
def dkwX4_multiplies_3 : List UInt8 := [28, 21, 8, 21, 4, 184, 0, 201, 133, 105, 97, 55, 5, 132, 7, 1, 132, 8, 1, 167, 255, 175, 42, 89]
abbrev dktX4_multiplies_3 : List UInt8 := dkwX4_multiplies_3 ++ dktX4_multiplies_4
def dkwX4_multiplies_2 : List UInt8 := [162, 0, 6, 167, 0, 37, 22, 5, 42, 180, 0, 32, 27, 29, 21, 8, 184, 0, 201, 133, 42, 180, 0, 32]
abbrev dktX4_multiplies_2 : List UInt8 := dkwX4_multiplies_2 ++ dktX4_multiplies_3
def dkwX4_multiplies_1 : List UInt8 := [180, 0, 32, 27, 29, 21, 8, 184, 0, 197, 42, 180, 0, 32, 28, 21, 8, 21, 4, 184, 0, 197, 96, 5]
abbrev dktX4_multiplies_1 : List UInt8 := dkwX4_multiplies_1 ++ dktX4_multiplies_2
def dkwX4_multiplies_0 : List UInt8 := [9, 55, 5, 3, 54, 7, 3, 54, 8, 21, 8, 42, 180, 0, 32, 27, 4, 96, 46, 162, 0, 74, 42]
abbrev dktX4_multiplies_0 : List UInt8 := dkwX4_multiplies_0 ++ dktX4_multiplies_1
theorem dksX4_multiplies_0 : cX4_multiplies.data.toList.drop 0 = dktX4_multiplies_0 := by decide +kernel
theorem dksX4_multiplies_1 : cX4_multiplies.data.toList.drop 23 = dktX4_multiplies_1 := dk_seg dksX4_multiplies_0 23 rfl rfl
theorem dksX4_multiplies_2 : cX4_multiplies.data.toList.drop 47 = dktX4_multiplies_2 := dk_seg dksX4_multiplies_1 24 rfl rfl
theorem dksX4_multiplies_3 : cX4_multiplies.data.toList.drop 71 = dktX4_multiplies_3 := dk_seg dksX4_multiplies_2 24 rfl rfl
theorem dksX4_multiplies_4 : cX4_multiplies.data.toList.drop 95 = dktX4_multiplies_4 := dk_seg dksX4_multiplies_3 24 rfl rfl
theorem dksX4_multiplies_5 : cX4_multiplies.data.toList.drop 119 = dktX4_multiplies_5 := dk_seg dksX4_multiplies_4 24 rfl rfl
theorem dX4_multiplies_0 : decode cX4_multiplies 0 = .ok (.lconst 0, 1) := dk_9 (dk_at dksX4_multiplies_0 0 rfl rfl)
theorem dX4_multiplies_1 : decode cX4_multiplies 1 = .ok (.lstore 5, 2) := dk_55 5 (dk_at dksX4_multiplies_0 1 rfl rfl)
theorem dX4_multiplies_3 : decode cX4_multiplies 3 = .ok (.iconst 0, 1) := dk_3 (dk_at dksX4_multiplies_0 3 rfl rfl)
theorem dX4_multiplies_4 : decode cX4_multiplies 4 = .ok (.istore 7, 2) := dk_54 7 (dk_at dksX4_multiplies_0 4 rfl rfl)
theorem dX4_multiplies_6 : decode cX4_multiplies 6 = .ok (.iconst 0, 1) := dk_3 (dk_at dksX4_multiplies_0 6 rfl rfl)
theorem dX4_multiplies_7 : decode cX4_multiplies 7 = .ok (.istore 8, 2) := dk_54 8 (dk_at dksX4_multiplies_0 7 rfl rfl)
theorem dX4_multiplies_9 : decode cX4_multiplies 9 = .ok (.iload 8, 2) := dk_21 8 (dk_at dksX4_multiplies_0 9 rfl rfl)
theorem dX4_multiplies_11 : decode cX4_multiplies 11 = .ok (.aload_n 0, 1) := dk_42 (dk_at dksX4_multiplies_0 11 rfl rfl)
theorem dX4_multiplies_12 : decode cX4_multiplies 12 = .ok (.getfield 32, 3) := dk_180 0 32 (dk_at dksX4_multiplies_0 12 rfl rfl)
theorem dX4_multiplies_15 : decode cX4_multiplies 15 = .ok (.iload_n 1, 1) := dk_27 (dk_at dksX4_multiplies_0 15 rfl rfl)
theorem dX4_multiplies_16 : decode cX4_multiplies 16 = .ok (.iconst 1, 1) := dk_4 (dk_at dksX4_multiplies_0 16 rfl rfl)
theorem dX4_multiplies_17 : decode cX4_multiplies 17 = .ok (.iadd, 1) := dk_96 (dk_at dksX4_multiplies_0 17 rfl rfl)
theorem dX4_multiplies_18 : decode cX4_multiplies 18 = .ok (.iaload, 1) := dk_46 (dk_at dksX4_multiplies_0 18 rfl rfl)
theorem dX4_multiplies_19 : decode cX4_multiplies 19 = .ok (.if_icmp .ge 74, 3) := dk_162 0 74 (dk_at dksX4_multiplies_0 19 rfl rfl)
theorem dX4_multiplies_22 : decode cX4_multiplies 22 = .ok (.aload_n 0, 1) := dk_42 (dk_at dksX4_multiplies_0 22 rfl rfl)
theorem dX4_multiplies_23 : decode cX4_multiplies 23 = .ok (.getfield 32, 3) := dk_180 0 32 (dk_at dksX4_multiplies_1 0 rfl rfl)
theorem dX4_multiplies_26 : decode cX4_multiplies 26 = .ok (.iload_n 1, 1) := dk_27 (dk_at dksX4_multiplies_1 3 rfl rfl)
theorem dX4_multiplies_27 : decode cX4_multiplies 27 = .ok (.iload_n 3, 1) := dk_29 (dk_at dksX4_multiplies_1 4 rfl rfl)
theorem dX4_multiplies_28 : decode cX4_multiplies 28 = .ok (.iload 8, 2) := dk_21 8 (dk_at dksX4_multiplies_1 5 rfl rfl)
theorem dX4_multiplies_30 : decode cX4_multiplies 30 = .ok (.invokestatic 197, 3) := dk_184 0 197 (dk_at dksX4_multiplies_1 7 rfl rfl)
theorem dX4_multiplies_33 : decode cX4_multiplies 33 = .ok (.aload_n 0, 1) := dk_42 (dk_at dksX4_multiplies_1 10 rfl rfl)
theorem dX4_multiplies_34 : decode cX4_multiplies 34 = .ok (.getfield 32, 3) := dk_180 0 32 (dk_at dksX4_multiplies_1 11 rfl rfl)
theorem dX4_multiplies_37 : decode cX4_multiplies 37 = .ok (.iload_n 2, 1) := dk_28 (dk_at dksX4_multiplies_1 14 rfl rfl)
theorem dX4_multiplies_38 : decode cX4_multiplies 38 = .ok (.iload 8, 2) := dk_21 8 (dk_at dksX4_multiplies_1 15 rfl rfl)
theorem dX4_multiplies_40 : decode cX4_multiplies 40 = .ok (.iload 4, 2) := dk_21 4 (dk_at dksX4_multiplies_1 17 rfl rfl)
theorem dX4_multiplies_42 : decode cX4_multiplies 42 = .ok (.invokestatic 197, 3) := dk_184 0 197 (dk_at dksX4_multiplies_1 19 rfl rfl)
theorem dX4_multiplies_45 : decode cX4_multiplies 45 = .ok (.iadd, 1) := dk_96 (dk_at dksX4_multiplies_1 22 rfl rfl)
theorem dX4_multiplies_46 : decode cX4_multiplies 46 = .ok (.iconst 2, 1) := dk_5 (dk_at dksX4_multiplies_1 23 rfl rfl)
theorem dX4_multiplies_47 : decode cX4_multiplies 47 = .ok (.if_icmp .ge 6, 3) := dk_162 0 6 (dk_at dksX4_multiplies_2 0 rfl rfl)
theorem dX4_multiplies_50 : decode cX4_multiplies 50 = .ok (.goto 37, 3) := dk_167 0 37 (dk_at dksX4_multiplies_2 3 rfl rfl)
theorem dX4_multiplies_53 : decode cX4_multiplies 53 = .ok (.lload 5, 2) := dk_22 5 (dk_at dksX4_multiplies_2 6 rfl rfl)
theorem dX4_multiplies_55 : decode cX4_multiplies 55 = .ok (.aload_n 0, 1) := dk_42 (dk_at dksX4_multiplies_2 8 rfl rfl)
theorem dX4_multiplies_56 : decode cX4_multiplies 56 = .ok (.getfield 32, 3) := dk_180 0 32 (dk_at dksX4_multiplies_2 9 rfl rfl)
theorem dX4_multiplies_59 : decode cX4_multiplies 59 = .ok (.iload_n 1, 1) := dk_27 (dk_at dksX4_multiplies_2 12 rfl rfl)
theorem dX4_multiplies_60 : decode cX4_multiplies 60 = .ok (.iload_n 3, 1) := dk_29 (dk_at dksX4_multiplies_2 13 rfl rfl)
theorem dX4_multiplies_61 : decode cX4_multiplies 61 = .ok (.iload 8, 2) := dk_21 8 (dk_at dksX4_multiplies_2 14 rfl rfl)
theorem dX4_multiplies_63 : decode cX4_multiplies 63 = .ok (.invokestatic 201, 3) := dk_184 0 201 (dk_at dksX4_multiplies_2 16 rfl rfl)
theorem dX4_multiplies_66 : decode cX4_multiplies 66 = .ok (.i2l, 1) := dk_133 (dk_at dksX4_multiplies_2 19 rfl rfl)
theorem dX4_multiplies_67 : decode cX4_multiplies 67 = .ok (.aload_n 0, 1) := dk_42 (dk_at dksX4_multiplies_2 20 rfl rfl)
theorem dX4_multiplies_68 : decode cX4_multiplies 68 = .ok (.getfield 32, 3) := dk_180 0 32 (dk_at dksX4_multiplies_2 21 rfl rfl)
theorem dX4_multiplies_71 : decode cX4_multiplies 71 = .ok (.iload_n 2, 1) := dk_28 (dk_at dksX4_multiplies_3 0 rfl rfl)
theorem dX4_multiplies_72 : decode cX4_multiplies 72 = .ok (.iload 8, 2) := dk_21 8 (dk_at dksX4_multiplies_3 1 rfl rfl)
theorem dX4_multiplies_74 : decode cX4_multiplies 74 = .ok (.iload 4, 2) := dk_21 4 (dk_at dksX4_multiplies_3 3 rfl rfl)
theorem dX4_multiplies_76 : decode cX4_multiplies 76 = .ok (.invokestatic 201, 3) := dk_184 0 201 (dk_at dksX4_multiplies_3 5 rfl rfl)
theorem dX4_multiplies_79 : decode cX4_multiplies 79 = .ok (.i2l, 1) := dk_133 (dk_at dksX4_multiplies_3 8 rfl rfl)
theorem dX4_multiplies_80 : decode cX4_multiplies 80 = .ok (.lmul, 1) := dk_105 (dk_at dksX4_multiplies_3 9 rfl rfl)
theorem dX4_multiplies_81 : decode cX4_multiplies 81 = .ok (.ladd, 1) := dk_97 (dk_at dksX4_multiplies_3 10 rfl rfl)
theorem dX4_multiplies_82 : decode cX4_multiplies 82 = .ok (.lstore 5, 2) := dk_55 5 (dk_at dksX4_multiplies_3 11 rfl rfl)
theorem dX4_multiplies_84 : decode cX4_multiplies 84 = .ok (.iinc 7 1, 3) := dk_132 7 1 (dk_at dksX4_multiplies_3 13 rfl rfl)
theorem dX4_multiplies_87 : decode cX4_multiplies 87 = .ok (.iinc 8 1, 3) := dk_132 8 1 (dk_at dksX4_multiplies_3 16 rfl rfl)
theorem dX4_multiplies_90 : decode cX4_multiplies 90 = .ok (.goto (-81), 3) := dk_167 255 175 (dk_at dksX4_multiplies_3 19 rfl rfl)
theorem dX4_multiplies_93 : decode cX4_multiplies 93 = .ok (.aload_n 0, 1) := dk_42 (dk_at dksX4_multiplies_3 22 rfl rfl)
theorem dX4_multiplies_94 : decode cX4_multiplies 94 = .ok (.dup, 1) := dk_89 (dk_at dksX4_multiplies_3 23 rfl rfl)
theorem dX4_multiplies_95 : decode cX4_multiplies 95 = .ok (.getfield 210, 3) := dk_180 0 210 (dk_at dksX4_multiplies_4 0 rfl rfl)
theorem dX4_multiplies_98 : decode cX4_multiplies 98 = .ok (.iload 7, 2) := dk_21 7 (dk_at dksX4_multiplies_4 3 rfl rfl)
theorem dX4_multiplies_100 : decode cX4_multiplies 100 = .ok (.iadd, 1) := dk_96 (dk_at dksX4_multiplies_4 5 rfl rfl)
theorem dX4_multiplies_101 : decode cX4_multiplies 101 = .ok (.putfield 210, 3) := dk_181 0 210 (dk_at dksX4_multiplies_4 6 rfl rfl)
theorem dX4_multiplies_104 : decode cX4_multiplies 104 = .ok (.lload 5, 2) := dk_22 5 (dk_at dksX4_multiplies_4 9 rfl rfl)
theorem dX4_multiplies_106 : decode cX4_multiplies 106 = .ok (.invokestatic 207, 3) := dk_184 0 207 (dk_at dksX4_multiplies_4 11 rfl rfl)
theorem dX4_multiplies_109 : decode cX4_multiplies 109 = .ok (.ifCond .ne 5, 3) := dk_154 0 5 (dk_at dksX4_multiplies_4 14 rfl rfl)
theorem dX4_multiplies_112 : decode cX4_multiplies 112 = .ok (.iconst 0, 1) := dk_3 (dk_at dksX4_multiplies_4 17 rfl rfl)
theorem dX4_multiplies_113 : decode cX4_multiplies 113 = .ok (.ireturn, 1) := dk_172 (dk_at dksX4_multiplies_4 18 rfl rfl)
theorem dX4_multiplies_114 : decode cX4_multiplies 114 = .ok (.iload 7, 2) := dk_21 7 (dk_at dksX4_multiplies_4 19 rfl rfl)
theorem dX4_multiplies_116 : decode cX4_multiplies 116 = .ok (.ifCond .le 17, 3) := dk_158 0 17 (dk_at dksX4_multiplies_4 21 rfl rfl)
theorem dX4_multiplies_119 : decode cX4_multiplies 119 = .ok (.aload_n 0, 1) := dk_42 (dk_at dksX4_multiplies_5 0 rfl rfl)
theorem dX4_multiplies_120 : decode cX4_multiplies 120 = .ok (.getfield 35, 3) := dk_180 0 35 (dk_at dksX4_multiplies_5 1 rfl rfl)
theorem dX4_multiplies_123 : decode cX4_multiplies 123 = .ok (.iconst 0, 1) := dk_3 (dk_at dksX4_multiplies_5 4 rfl rfl)
theorem dX4_multiplies_124 : decode cX4_multiplies 124 = .ok (.iload_n 3, 1) := dk_29 (dk_at dksX4_multiplies_5 5 rfl rfl)
theorem dX4_multiplies_125 : decode cX4_multiplies 125 = .ok (.iload 4, 2) := dk_21 4 (dk_at dksX4_multiplies_5 6 rfl rfl)
theorem dX4_multiplies_127 : decode cX4_multiplies 127 = .ok (.lload 5, 2) := dk_22 5 (dk_at dksX4_multiplies_5 8 rfl rfl)
theorem dX4_multiplies_129 : decode cX4_multiplies 129 = .ok (.l2i, 1) := dk_136 (dk_at dksX4_multiplies_5 10 rfl rfl)
theorem dX4_multiplies_130 : decode cX4_multiplies 130 = .ok (.invokestatic 193, 3) := dk_184 0 193 (dk_at dksX4_multiplies_5 11 rfl rfl)
theorem dX4_multiplies_133 : decode cX4_multiplies 133 = .ok (.iconst 1, 1) := dk_4 (dk_at dksX4_multiplies_5 14 rfl rfl)
theorem dX4_multiplies_134 : decode cX4_multiplies 134 = .ok (.ireturn, 1) := dk_172 (dk_at dksX4_multiplies_5 15 rfl rfl)