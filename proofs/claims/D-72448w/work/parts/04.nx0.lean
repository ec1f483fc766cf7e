/-! EightBlocks -/
set_option maxRecDepth 100000
def RX0 : String := "EightBlocks"
def TX0 : u_T := fun k => match k with
  | 0 => ("EightBlocks", "code", "LEightBlocks$Code;", true)
  | 1 => ("EightBlocks", "six", "[I", true)
  | 2 => ("EightBlocks", "otherSix", "[I", true)
  | 3 => ("EightBlocks", "now", "LEightBlocks$Hall;", true)
  | 4 => ("EightBlocks", "tape", "LEightBlocks$Tape;", true)
  | 5 => ("EightBlocks", "fault", "LEightBlocks$Fault;", true)
  | 6 => ("EightBlocks", "chain", "LEightBlocks$Chain;", true)
  | 7 => ("EightBlocks", "flood", "LEightBlocks$Flood;", true)
  | 8 => ("EightBlocks", "first", "[I", true)
  | 9 => ("EightBlocks", "past", "[LEightBlocks$Hall;", true)
  | 10 => ("EightBlocks", "undoMany", "I", false)
  | 11 => ("EightBlocks", "kept", "LEightBlocks$Hall;", true)
  | 12 => ("EightBlocks", "keptPast", "[LEightBlocks$Hall;", true)
  | 13 => ("EightBlocks", "keptMany", "I", false)
  | 14 => ("EightBlocks", "isKept", "Z", false)
  | _ => ("EightBlocks", "sheets", "[LEightBlocks$Sheet;", true)
def tyX0 : Nat → FieldType := fun k => match k with
  | 0 => .object "EightBlocks$Code"
  | 1 => .array .int
  | 2 => .array .int
  | 3 => .object "EightBlocks$Hall"
  | 4 => .object "EightBlocks$Tape"
  | 5 => .object "EightBlocks$Fault"
  | 6 => .object "EightBlocks$Chain"
  | 7 => .object "EightBlocks$Flood"
  | 8 => .array .int
  | 9 => .array (.object "EightBlocks$Hall")
  | 10 => .int
  | 11 => .object "EightBlocks$Hall"
  | 12 => .array (.object "EightBlocks$Hall")
  | 13 => .int
  | 14 => .boolean
  | _ => .array (.object "EightBlocks$Sheet")
abbrev wsX00 : List Cond := u_ws RX0 TX0 16
set_option maxRecDepth 100000 in
theorem nmX0 : ∀ a, a < 16 → ∀ b, b < 16 → a ≠ b → (TX0 a).2.1 ≠ (TX0 b).2.1 := by decide +kernel
set_option maxRecDepth 100000 in
theorem tyX0_ok : ∀ k, k < 16 → parseFieldDescriptor (TX0 k).2.2.1 = some (tyX0 k) := by decide +kernel
abbrev cX0_init : ByteArray := prog_1_method_6_code
def yX0_init : MethodName := ⟨RX0, "<init>", "()V"⟩
def dkwX0_init_12 : List UInt8 := [181, 0, 127, 177]
abbrev dktX0_init_12 : List UInt8 := dkwX0_init_12 ++ []
def dkwX0_init_11 : List UInt8 := [167, 255, 229, 42, 180, 0, 40, 42, 180, 0, 26, 180, 0, 120, 3, 46, 181, 0, 123, 42, 180, 0, 40, 4]
abbrev dktX0_init_11 : List UInt8 := dkwX0_init_11 ++ dktX0_init_12
def dkwX0_init_10 : List UInt8 := [42, 180, 0, 40, 180, 0, 104, 28, 50, 43, 28, 50, 184, 0, 108, 182, 0, 114, 87, 132, 2, 1]
abbrev dktX0_init_10 : List UInt8 := dkwX0_init_10 ++ dktX0_init_11
def dkwX0_init_9 : List UInt8 := [83, 89, 5, 18, 98, 83, 89, 6, 18, 100, 83, 89, 7, 18, 102, 83, 76, 3, 61, 28, 8, 162, 0, 28]
abbrev dktX0_init_9 : List UInt8 := dkwX0_init_9 ++ dktX0_init_10
def dkwX0_init_8 : List UInt8 := [89, 183, 0, 39, 83, 132, 1, 1, 167, 255, 221, 8, 189, 0, 92, 89, 3, 18, 94, 83, 89, 4, 18, 96]
abbrev dktX0_init_8 : List UInt8 := dkwX0_init_8 ++ dktX0_init_9
def dkwX0_init_7 : List UInt8 := [162, 0, 35, 42, 180, 0, 75, 27, 187, 0, 37, 89, 183, 0, 39, 83, 42, 180, 0, 82, 27, 187, 0, 37]
abbrev dktX0_init_7 : List UInt8 := dkwX0_init_7 ++ dktX0_init_8
def dkwX0_init_6 : List UInt8 := [180, 0, 87, 27, 187, 0, 85, 89, 183, 0, 91, 83, 132, 1, 1, 167, 255, 235, 3, 60, 27, 16, 6]
abbrev dktX0_init_6 : List UInt8 := dkwX0_init_6 ++ dktX0_init_7
def dkwX0_init_5 : List UInt8 := [16, 6, 189, 0, 37, 181, 0, 82, 42, 7, 189, 0, 85, 181, 0, 87, 3, 60, 27, 7, 162, 0, 22, 42]
abbrev dktX0_init_5 : List UInt8 := dkwX0_init_5 ++ dktX0_init_6
def dkwX0_init_4 : List UInt8 := [181, 0, 72, 42, 16, 6, 189, 0, 37, 181, 0, 75, 42, 187, 0, 37, 89, 183, 0, 39, 181, 0, 79, 42]
abbrev dktX0_init_4 : List UInt8 := dkwX0_init_4 ++ dktX0_init_5
def dkwX0_init_3 : List UInt8 := [183, 0, 60, 181, 0, 61, 42, 187, 0, 65, 89, 183, 0, 67, 181, 0, 68, 42, 16, 24, 188, 10]
abbrev dktX0_init_3 : List UInt8 := dkwX0_init_3 ++ dktX0_init_4
def dkwX0_init_2 : List UInt8 := [183, 0, 46, 181, 0, 47, 42, 187, 0, 51, 89, 183, 0, 53, 181, 0, 54, 42, 187, 0, 58, 89]
abbrev dktX0_init_2 : List UInt8 := dkwX0_init_2 ++ dktX0_init_3
def dkwX0_init_1 : List UInt8 := [16, 6, 188, 10, 181, 0, 34, 42, 187, 0, 37, 89, 183, 0, 39, 181, 0, 40, 42, 187, 0, 44, 89]
abbrev dktX0_init_1 : List UInt8 := dkwX0_init_1 ++ dktX0_init_2
def dkwX0_init_0 : List UInt8 := [42, 183, 0, 17, 42, 187, 0, 23, 89, 183, 0, 25, 181, 0, 26, 42, 16, 6, 188, 10, 181, 0, 30, 42]
abbrev dktX0_init_0 : List UInt8 := dkwX0_init_0 ++ dktX0_init_1
theorem dksX0_init_0 : cX0_init.data.toList.drop 0 = dktX0_init_0 := by decide +kernel
theorem dksX0_init_1 : cX0_init.data.toList.drop 24 = dktX0_init_1 := dk_seg dksX0_init_0 24 rfl rfl
theorem dksX0_init_2 : cX0_init.data.toList.drop 47 = dktX0_init_2 := dk_seg dksX0_init_1 23 rfl rfl
theorem dksX0_init_3 : cX0_init.data.toList.drop 69 = dktX0_init_3 := dk_seg dksX0_init_2 22 rfl rfl
theorem dksX0_init_4 : cX0_init.data.toList.drop 91 = dktX0_init_4 := dk_seg dksX0_init_3 22 rfl rfl
theorem dksX0_init_5 : cX0_init.data.toList.drop 115 = dktX0_init_5 := dk_seg dksX0_init_4 24 rfl rfl
theorem dksX0_init_6 : cX0_init.data.toList.drop 139 = dktX0_init_6 := dk_seg dksX0_init_5 24 rfl rfl
theorem dksX0_init_7 : cX0_init.data.toList.drop 162 = dktX0_init_7 := dk_seg dksX0_init_6 23 rfl rfl
theorem dksX0_init_8 : cX0_init.data.toList.drop 186 = dktX0_init_8 := dk_seg dksX0_init_7 24 rfl rfl
theorem dksX0_init_9 : cX0_init.data.toList.drop 210 = dktX0_init_9 := dk_seg dksX0_init_8 24 rfl rfl
theorem dksX0_init_10 : cX0_init.data.toList.drop 234 = dktX0_init_10 := dk_seg dksX0_init_9 24 rfl rfl
theorem dksX0_init_11 : cX0_init.data.toList.drop 256 = dktX0_init_11 := dk_seg dksX0_init_10 22 rfl rfl
theorem dksX0_init_12 : cX0_init.data.toList.drop 280 = dktX0_init_12 := dk_seg dksX0_init_11 24 rfl rfl
theorem dX0_init_0 : decode cX0_init 0 = .ok (.aload_n 0, 1) := dk_42 (dk_at dksX0_init_0 0 rfl rfl)
theorem dX0_init_1 : decode cX0_init 1 = .ok (.invokespecial 17, 3) := dk_183 0 17 (dk_at dksX0_init_0 1 rfl rfl)
theorem dX0_init_4 : decode cX0_init 4 = .ok (.aload_n 0, 1) := dk_42 (dk_at dksX0_init_0 4 rfl rfl)
theorem dX0_init_5 : decode cX0_init 5 = .ok (.new 23, 3) := dk_187 0 23 (dk_at dksX0_init_0 5 rfl rfl)
theorem dX0_init_8 : decode cX0_init 8 = .ok (.dup, 1) := dk_89 (dk_at dksX0_init_0 8 rfl rfl)
theorem dX0_init_9 : decode cX0_init 9 = .ok (.invokespecial 25, 3) := dk_183 0 25 (dk_at dksX0_init_0 9 rfl rfl)
theorem dX0_init_12 : decode cX0_init 12 = .ok (.putfield 26, 3) := dk_181 0 26 (dk_at dksX0_init_0 12 rfl rfl)
theorem dX0_init_15 : decode cX0_init 15 = .ok (.aload_n 0, 1) := dk_42 (dk_at dksX0_init_0 15 rfl rfl)
theorem dX0_init_16 : decode cX0_init 16 = .ok (.bipush 6, 2) := dk_16 6 (dk_at dksX0_init_0 16 rfl rfl)
theorem dX0_init_18 : decode cX0_init 18 = .ok (.newarray .int, 2) := dk_188_10 (dk_at dksX0_init_0 18 rfl rfl)
theorem dX0_init_20 : decode cX0_init 20 = .ok (.putfield 30, 3) := dk_181 0 30 (dk_at dksX0_init_0 20 rfl rfl)
theorem dX0_init_23 : decode cX0_init 23 = .ok (.aload_n 0, 1) := dk_42 (dk_at dksX0_init_0 23 rfl rfl)
theorem dX0_init_24 : decode cX0_init 24 = .ok (.bipush 6, 2) := dk_16 6 (dk_at dksX0_init_1 0 rfl rfl)
theorem dX0_init_26 : decode cX0_init 26 = .ok (.newarray .int, 2) := dk_188_10 (dk_at dksX0_init_1 2 rfl rfl)
theorem dX0_init_28 : decode cX0_init 28 = .ok (.putfield 34, 3) := dk_181 0 34 (dk_at dksX0_init_1 4 rfl rfl)
theorem dX0_init_31 : decode cX0_init 31 = .ok (.aload_n 0, 1) := dk_42 (dk_at dksX0_init_1 7 rfl rfl)
theorem dX0_init_32 : decode cX0_init 32 = .ok (.new 37, 3) := dk_187 0 37 (dk_at dksX0_init_1 8 rfl rfl)
theorem dX0_init_35 : decode cX0_init 35 = .ok (.dup, 1) := dk_89 (dk_at dksX0_init_1 11 rfl rfl)
theorem dX0_init_36 : decode cX0_init 36 = .ok (.invokespecial 39, 3) := dk_183 0 39 (dk_at dksX0_init_1 12 rfl rfl)
theorem dX0_init_39 : decode cX0_init 39 = .ok (.putfield 40, 3) := dk_181 0 40 (dk_at dksX0_init_1 15 rfl rfl)
theorem dX0_init_42 : decode cX0_init 42 = .ok (.aload_n 0, 1) := dk_42 (dk_at dksX0_init_1 18 rfl rfl)
theorem dX0_init_43 : decode cX0_init 43 = .ok (.new 44, 3) := dk_187 0 44 (dk_at dksX0_init_1 19 rfl rfl)
theorem dX0_init_46 : decode cX0_init 46 = .ok (.dup, 1) := dk_89 (dk_at dksX0_init_1 22 rfl rfl)
theorem dX0_init_47 : decode cX0_init 47 = .ok (.invokespecial 46, 3) := dk_183 0 46 (dk_at dksX0_init_2 0 rfl rfl)
theorem dX0_init_50 : decode cX0_init 50 = .ok (.putfield 47, 3) := dk_181 0 47 (dk_at dksX0_init_2 3 rfl rfl)
theorem dX0_init_53 : decode cX0_init 53 = .ok (.aload_n 0, 1) := dk_42 (dk_at dksX0_init_2 6 rfl rfl)
theorem dX0_init_54 : decode cX0_init 54 = .ok (.new 51, 3) := dk_187 0 51 (dk_at dksX0_init_2 7 rfl rfl)
theorem dX0_init_57 : decode cX0_init 57 = .ok (.dup, 1) := dk_89 (dk_at dksX0_init_2 10 rfl rfl)
theorem dX0_init_58 : decode cX0_init 58 = .ok (.invokespecial 53, 3) := dk_183 0 53 (dk_at dksX0_init_2 11 rfl rfl)
theorem dX0_init_61 : decode cX0_init 61 = .ok (.putfield 54, 3) := dk_181 0 54 (dk_at dksX0_init_2 14 rfl rfl)
theorem dX0_init_64 : decode cX0_init 64 = .ok (.aload_n 0, 1) := dk_42 (dk_at dksX0_init_2 17 rfl rfl)
theorem dX0_init_65 : decode cX0_init 65 = .ok (.new 58, 3) := dk_187 0 58 (dk_at dksX0_init_2 18 rfl rfl)
theorem dX0_init_68 : decode cX0_init 68 = .ok (.dup, 1) := dk_89 (dk_at dksX0_init_2 21 rfl rfl)
theorem dX0_init_69 : decode cX0_init 69 = .ok (.invokespecial 60, 3) := dk_183 0 60 (dk_at dksX0_init_3 0 rfl rfl)
theorem dX0_init_72 : decode cX0_init 72 = .ok (.putfield 61, 3) := dk_181 0 61 (dk_at dksX0_init_3 3 rfl rfl)
theorem dX0_init_75 : decode cX0_init 75 = .ok (.aload_n 0, 1) := dk_42 (dk_at dksX0_init_3 6 rfl rfl)
theorem dX0_init_76 : decode cX0_init 76 = .ok (.new 65, 3) := dk_187 0 65 (dk_at dksX0_init_3 7 rfl rfl)
theorem dX0_init_79 : decode cX0_init 79 = .ok (.dup, 1) := dk_89 (dk_at dksX0_init_3 10 rfl rfl)
theorem dX0_init_80 : decode cX0_init 80 = .ok (.invokespecial 67, 3) := dk_183 0 67 (dk_at dksX0_init_3 11 rfl rfl)
theorem dX0_init_83 : decode cX0_init 83 = .ok (.putfield 68, 3) := dk_181 0 68 (dk_at dksX0_init_3 14 rfl rfl)
theorem dX0_init_86 : decode cX0_init 86 = .ok (.aload_n 0, 1) := dk_42 (dk_at dksX0_init_3 17 rfl rfl)
theorem dX0_init_87 : decode cX0_init 87 = .ok (.bipush 24, 2) := dk_16 24 (dk_at dksX0_init_3 18 rfl rfl)
theorem dX0_init_89 : decode cX0_init 89 = .ok (.newarray .int, 2) := dk_188_10 (dk_at dksX0_init_3 20 rfl rfl)
theorem dX0_init_91 : decode cX0_init 91 = .ok (.putfield 72, 3) := dk_181 0 72 (dk_at dksX0_init_4 0 rfl rfl)
theorem dX0_init_94 : decode cX0_init 94 = .ok (.aload_n 0, 1) := dk_42 (dk_at dksX0_init_4 3 rfl rfl)
theorem dX0_init_95 : decode cX0_init 95 = .ok (.bipush 6, 2) := dk_16 6 (dk_at dksX0_init_4 4 rfl rfl)
theorem dX0_init_97 : decode cX0_init 97 = .ok (.anewarray 37, 3) := dk_189 0 37 (dk_at dksX0_init_4 6 rfl rfl)
theorem dX0_init_100 : decode cX0_init 100 = .ok (.putfield 75, 3) := dk_181 0 75 (dk_at dksX0_init_4 9 rfl rfl)
theorem dX0_init_103 : decode cX0_init 103 = .ok (.aload_n 0, 1) := dk_42 (dk_at dksX0_init_4 12 rfl rfl)
theorem dX0_init_104 : decode cX0_init 104 = .ok (.new 37, 3) := dk_187 0 37 (dk_at dksX0_init_4 13 rfl rfl)
theorem dX0_init_107 : decode cX0_init 107 = .ok (.dup, 1) := dk_89 (dk_at dksX0_init_4 16 rfl rfl)
theorem dX0_init_108 : decode cX0_init 108 = .ok (.invokespecial 39, 3) := dk_183 0 39 (dk_at dksX0_init_4 17 rfl rfl)
theorem dX0_init_111 : decode cX0_init 111 = .ok (.putfield 79, 3) := dk_181 0 79 (dk_at dksX0_init_4 20 rfl rfl)
theorem dX0_init_114 : decode cX0_init 114 = .ok (.aload_n 0, 1) := dk_42 (dk_at dksX0_init_4 23 rfl rfl)
theorem dX0_init_115 : decode cX0_init 115 = .ok (.bipush 6, 2) := dk_16 6 (dk_at dksX0_init_5 0 rfl rfl)
theorem dX0_init_117 : decode cX0_init 117 = .ok (.anewarray 37, 3) := dk_189 0 37 (dk_at dksX0_init_5 2 rfl rfl)
theorem dX0_init_120 : decode cX0_init 120 = .ok (.putfield 82, 3) := dk_181 0 82 (dk_at dksX0_init_5 5 rfl rfl)
theorem dX0_init_123 : decode cX0_init 123 = .ok (.aload_n 0, 1) := dk_42 (dk_at dksX0_init_5 8 rfl rfl)
theorem dX0_init_124 : decode cX0_init 124 = .ok (.iconst 4, 1) := dk_7 (dk_at dksX0_init_5 9 rfl rfl)
theorem dX0_init_125 : decode cX0_init 125 = .ok (.anewarray 85, 3) := dk_189 0 85 (dk_at dksX0_init_5 10 rfl rfl)
theorem dX0_init_128 : decode cX0_init 128 = .ok (.putfield 87, 3) := dk_181 0 87 (dk_at dksX0_init_5 13 rfl rfl)
theorem dX0_init_131 : decode cX0_init 131 = .ok (.iconst 0, 1) := dk_3 (dk_at dksX0_init_5 16 rfl rfl)
theorem dX0_init_132 : decode cX0_init 132 = .ok (.istore_n 1, 1) := dk_60 (dk_at dksX0_init_5 17 rfl rfl)
theorem dX0_init_133 : decode cX0_init 133 = .ok (.iload_n 1, 1) := dk_27 (dk_at dksX0_init_5 18 rfl rfl)
theorem dX0_init_134 : decode cX0_init 134 = .ok (.iconst 4, 1) := dk_7 (dk_at dksX0_init_5 19 rfl rfl)
theorem dX0_init_135 : decode cX0_init 135 = .ok (.if_icmp .ge 22, 3) := dk_162 0 22 (dk_at dksX0_init_5 20 rfl rfl)
theorem dX0_init_138 : decode cX0_init 138 = .ok (.aload_n 0, 1) := dk_42 (dk_at dksX0_init_5 23 rfl rfl)
theorem dX0_init_139 : decode cX0_init 139 = .ok (.getfield 87, 3) := dk_180 0 87 (dk_at dksX0_init_6 0 rfl rfl)
theorem dX0_init_142 : decode cX0_init 142 = .ok (.iload_n 1, 1) := dk_27 (dk_at dksX0_init_6 3 rfl rfl)
theorem dX0_init_143 : decode cX0_init 143 = .ok (.new 85, 3) := dk_187 0 85 (dk_at dksX0_init_6 4 rfl rfl)
theorem dX0_init_146 : decode cX0_init 146 = .ok (.dup, 1) := dk_89 (dk_at dksX0_init_6 7 rfl rfl)
theorem dX0_init_147 : decode cX0_init 147 = .ok (.invokespecial 91, 3) := dk_183 0 91 (dk_at dksX0_init_6 8 rfl rfl)
theorem dX0_init_150 : decode cX0_init 150 = .ok (.aastore, 1) := dk_83 (dk_at dksX0_init_6 11 rfl rfl)
theorem dX0_init_151 : decode cX0_init 151 = .ok (.iinc 1 1, 3) := dk_132 1 1 (dk_at dksX0_init_6 12 rfl rfl)
theorem dX0_init_154 : decode cX0_init 154 = .ok (.goto (-21), 3) := dk_167 255 235 (dk_at dksX0_init_6 15 rfl rfl)
theorem dX0_init_157 : decode cX0_init 157 = .ok (.iconst 0, 1) := dk_3 (dk_at dksX0_init_6 18 rfl rfl)
theorem dX0_init_158 : decode cX0_init 158 = .ok (.istore_n 1, 1) := dk_60 (dk_at dksX0_init_6 19 rfl rfl)
theorem dX0_init_159 : decode cX0_init 159 = .ok (.iload_n 1, 1) := dk_27 (dk_at dksX0_init_6 20 rfl rfl)
theorem dX0_init_160 : decode cX0_init 160 = .ok (.bipush 6, 2) := dk_16 6 (dk_at dksX0_init_6 21 rfl rfl)
theorem dX0_init_162 : decode cX0_init 162 = .ok (.if_icmp .ge 35, 3) := dk_162 0 35 (dk_at dksX0_init_7 0 rfl rfl)
theorem dX0_init_165 : decode cX0_init 165 = .ok (.aload_n 0, 1) := dk_42 (dk_at dksX0_init_7 3 rfl rfl)
theorem dX0_init_166 : decode cX0_init 166 = .ok (.getfield 75, 3) := dk_180 0 75 (dk_at dksX0_init_7 4 rfl rfl)
theorem dX0_init_169 : decode cX0_init 169 = .ok (.iload_n 1, 1) := dk_27 (dk_at dksX0_init_7 7 rfl rfl)
theorem dX0_init_170 : decode cX0_init 170 = .ok (.new 37, 3) := dk_187 0 37 (dk_at dksX0_init_7 8 rfl rfl)
theorem dX0_init_173 : decode cX0_init 173 = .ok (.dup, 1) := dk_89 (dk_at dksX0_init_7 11 rfl rfl)
theorem dX0_init_174 : decode cX0_init 174 = .ok (.invokespecial 39, 3) := dk_183 0 39 (dk_at dksX0_init_7 12 rfl rfl)
theorem dX0_init_177 : decode cX0_init 177 = .ok (.aastore, 1) := dk_83 (dk_at dksX0_init_7 15 rfl rfl)
theorem dX0_init_178 : decode cX0_init 178 = .ok (.aload_n 0, 1) := dk_42 (dk_at dksX0_init_7 16 rfl rfl)
theorem dX0_init_179 : decode cX0_init 179 = .ok (.getfield 82, 3) := dk_180 0 82 (dk_at dksX0_init_7 17 rfl rfl)
theorem dX0_init_182 : decode cX0_init 182 = .ok (.iload_n 1, 1) := dk_27 (dk_at dksX0_init_7 20 rfl rfl)
theorem dX0_init_183 : decode cX0_init 183 = .ok (.new 37, 3) := dk_187 0 37 (dk_at dksX0_init_7 21 rfl rfl)
theorem dX0_init_186 : decode cX0_init 186 = .ok (.dup, 1) := dk_89 (dk_at dksX0_init_8 0 rfl rfl)
theorem dX0_init_187 : decode cX0_init 187 = .ok (.invokespecial 39, 3) := dk_183 0 39 (dk_at dksX0_init_8 1 rfl rfl)
theorem dX0_init_190 : decode cX0_init 190 = .ok (.aastore, 1) := dk_83 (dk_at dksX0_init_8 4 rfl rfl)
theorem dX0_init_191 : decode cX0_init 191 = .ok (.iinc 1 1, 3) := dk_132 1 1 (dk_at dksX0_init_8 5 rfl rfl)
theorem dX0_init_194 : decode cX0_init 194 = .ok (.goto (-35), 3) := dk_167 255 221 (dk_at dksX0_init_8 8 rfl rfl)
theorem dX0_init_197 : decode cX0_init 197 = .ok (.iconst 5, 1) := dk_8 (dk_at dksX0_init_8 11 rfl rfl)
theorem dX0_init_198 : decode cX0_init 198 = .ok (.anewarray 92, 3) := dk_189 0 92 (dk_at dksX0_init_8 12 rfl rfl)
theorem dX0_init_201 : decode cX0_init 201 = .ok (.dup, 1) := dk_89 (dk_at dksX0_init_8 15 rfl rfl)
theorem dX0_init_202 : decode cX0_init 202 = .ok (.iconst 0, 1) := dk_3 (dk_at dksX0_init_8 16 rfl rfl)
theorem dX0_init_203 : decode cX0_init 203 = .ok (.ldc 94, 2) := dk_18 94 (dk_at dksX0_init_8 17 rfl rfl)
theorem dX0_init_205 : decode cX0_init 205 = .ok (.aastore, 1) := dk_83 (dk_at dksX0_init_8 19 rfl rfl)
theorem dX0_init_206 : decode cX0_init 206 = .ok (.dup, 1) := dk_89 (dk_at dksX0_init_8 20 rfl rfl)
theorem dX0_init_207 : decode cX0_init 207 = .ok (.iconst 1, 1) := dk_4 (dk_at dksX0_init_8 21 rfl rfl)
theorem dX0_init_208 : decode cX0_init 208 = .ok (.ldc 96, 2) := dk_18 96 (dk_at dksX0_init_8 22 rfl rfl)
theorem dX0_init_210 : decode cX0_init 210 = .ok (.aastore, 1) := dk_83 (dk_at dksX0_init_9 0 rfl rfl)
theorem dX0_init_211 : decode cX0_init 211 = .ok (.dup, 1) := dk_89 (dk_at dksX0_init_9 1 rfl rfl)
theorem dX0_init_212 : decode cX0_init 212 = .ok (.iconst 2, 1) := dk_5 (dk_at dksX0_init_9 2 rfl rfl)
theorem dX0_init_213 : decode cX0_init 213 = .ok (.ldc 98, 2) := dk_18 98 (dk_at dksX0_init_9 3 rfl rfl)
theorem dX0_init_215 : decode cX0_init 215 = .ok (.aastore, 1) := dk_83 (dk_at dksX0_init_9 5 rfl rfl)
theorem dX0_init_216 : decode cX0_init 216 = .ok (.dup, 1) := dk_89 (dk_at dksX0_init_9 6 rfl rfl)
theorem dX0_init_217 : decode cX0_init 217 = .ok (.iconst 3, 1) := dk_6 (dk_at dksX0_init_9 7 rfl rfl)
theorem dX0_init_218 : decode cX0_init 218 = .ok (.ldc 100, 2) := dk_18 100 (dk_at dksX0_init_9 8 rfl rfl)
theorem dX0_init_220 : decode cX0_init 220 = .ok (.aastore, 1) := dk_83 (dk_at dksX0_init_9 10 rfl rfl)
theorem dX0_init_221 : decode cX0_init 221 = .ok (.dup, 1) := dk_89 (dk_at dksX0_init_9 11 rfl rfl)
theorem dX0_init_222 : decode cX0_init 222 = .ok (.iconst 4, 1) := dk_7 (dk_at dksX0_init_9 12 rfl rfl)
theorem dX0_init_223 : decode cX0_init 223 = .ok (.ldc 102, 2) := dk_18 102 (dk_at dksX0_init_9 13 rfl rfl)
theorem dX0_init_225 : decode cX0_init 225 = .ok (.aastore, 1) := dk_83 (dk_at dksX0_init_9 15 rfl rfl)
theorem dX0_init_226 : decode cX0_init 226 = .ok (.astore_n 1, 1) := dk_76 (dk_at dksX0_init_9 16 rfl rfl)
theorem dX0_init_227 : decode cX0_init 227 = .ok (.iconst 0, 1) := dk_3 (dk_at dksX0_init_9 17 rfl rfl)
theorem dX0_init_228 : decode cX0_init 228 = .ok (.istore_n 2, 1) := dk_61 (dk_at dksX0_init_9 18 rfl rfl)
theorem dX0_init_229 : decode cX0_init 229 = .ok (.iload_n 2, 1) := dk_28 (dk_at dksX0_init_9 19 rfl rfl)
theorem dX0_init_230 : decode cX0_init 230 = .ok (.iconst 5, 1) := dk_8 (dk_at dksX0_init_9 20 rfl rfl)
theorem dX0_init_231 : decode cX0_init 231 = .ok (.if_icmp .ge 28, 3) := dk_162 0 28 (dk_at dksX0_init_9 21 rfl rfl)
theorem dX0_init_234 : decode cX0_init 234 = .ok (.aload_n 0, 1) := dk_42 (dk_at dksX0_init_10 0 rfl rfl)
theorem dX0_init_235 : decode cX0_init 235 = .ok (.getfield 40, 3) := dk_180 0 40 (dk_at dksX0_init_10 1 rfl rfl)
theorem dX0_init_238 : decode cX0_init 238 = .ok (.getfield 104, 3) := dk_180 0 104 (dk_at dksX0_init_10 4 rfl rfl)
theorem dX0_init_241 : decode cX0_init 241 = .ok (.iload_n 2, 1) := dk_28 (dk_at dksX0_init_10 7 rfl rfl)
theorem dX0_init_242 : decode cX0_init 242 = .ok (.aaload, 1) := dk_50 (dk_at dksX0_init_10 8 rfl rfl)
theorem dX0_init_243 : decode cX0_init 243 = .ok (.aload_n 1, 1) := dk_43 (dk_at dksX0_init_10 9 rfl rfl)
theorem dX0_init_244 : decode cX0_init 244 = .ok (.iload_n 2, 1) := dk_28 (dk_at dksX0_init_10 10 rfl rfl)
theorem dX0_init_245 : decode cX0_init 245 = .ok (.aaload, 1) := dk_50 (dk_at dksX0_init_10 11 rfl rfl)
theorem dX0_init_246 : decode cX0_init 246 = .ok (.invokestatic 108, 3) := dk_184 0 108 (dk_at dksX0_init_10 12 rfl rfl)
theorem dX0_init_249 : decode cX0_init 249 = .ok (.invokevirtual 114, 3) := dk_182 0 114 (dk_at dksX0_init_10 15 rfl rfl)
theorem dX0_init_252 : decode cX0_init 252 = .ok (.pop, 1) := dk_87 (dk_at dksX0_init_10 18 rfl rfl)
theorem dX0_init_253 : decode cX0_init 253 = .ok (.iinc 2 1, 3) := dk_132 2 1 (dk_at dksX0_init_10 19 rfl rfl)
theorem dX0_init_256 : decode cX0_init 256 = .ok (.goto (-27), 3) := dk_167 255 229 (dk_at dksX0_init_11 0 rfl rfl)
theorem dX0_init_259 : decode cX0_init 259 = .ok (.aload_n 0, 1) := dk_42 (dk_at dksX0_init_11 3 rfl rfl)
theorem dX0_init_260 : decode cX0_init 260 = .ok (.getfield 40, 3) := dk_180 0 40 (dk_at dksX0_init_11 4 rfl rfl)
theorem dX0_init_263 : decode cX0_init 263 = .ok (.aload_n 0, 1) := dk_42 (dk_at dksX0_init_11 7 rfl rfl)
theorem dX0_init_264 : decode cX0_init 264 = .ok (.getfield 26, 3) := dk_180 0 26 (dk_at dksX0_init_11 8 rfl rfl)
theorem dX0_init_267 : decode cX0_init 267 = .ok (.getfield 120, 3) := dk_180 0 120 (dk_at dksX0_init_11 11 rfl rfl)
theorem dX0_init_270 : decode cX0_init 270 = .ok (.iconst 0, 1) := dk_3 (dk_at dksX0_init_11 14 rfl rfl)
theorem dX0_init_271 : decode cX0_init 271 = .ok (.iaload, 1) := dk_46 (dk_at dksX0_init_11 15 rfl rfl)
theorem dX0_init_272 : decode cX0_init 272 = .ok (.putfield 123, 3) := dk_181 0 123 (dk_at dksX0_init_11 16 rfl rfl)
theorem dX0_init_275 : decode cX0_init 275 = .ok (.aload_n 0, 1) := dk_42 (dk_at dksX0_init_11 19 rfl rfl)
theorem dX0_init_276 : decode cX0_init 276 = .ok (.getfield 40, 3) := dk_180 0 40 (dk_at dksX0_init_11 20 rfl rfl)
theorem dX0_init_279 : decode cX0_init 279 = .ok (.iconst 1, 1) := dk_4 (dk_at dksX0_init_11 23 rfl rfl)
theorem dX0_init_280 : decode cX0_init 280 = .ok (.putfield 127, 3) := dk_181 0 127 (dk_at dksX0_init_12 0 rfl rfl)
theorem dX0_init_283 : decode cX0_init 283 = .ok (.return_, 1) := dk_177 (dk_at dksX0_init_12 3 rfl rfl)
abbrev cX0_has : ByteArray := prog_1_method_2_code
def yX0_has : MethodName := ⟨RX0, "has", "(II)Z"⟩
def dkwX0_has_0 : List UInt8 := [26, 27, 122, 4, 126, 4, 160, 0, 7, 4, 167, 0, 4, 3, 172]
abbrev dktX0_has_0 : List UInt8 := dkwX0_has_0 ++ []
theorem dksX0_has_0 : cX0_has.data.toList.drop 0 = dktX0_has_0 := by decide +kernel
theorem dX0_has_0 : decode cX0_has 0 = .ok (.iload_n 0, 1) := dk_26 (dk_at dksX0_has_0 0 rfl rfl)
theorem dX0_has_1 : decode cX0_has 1 = .ok (.iload_n 1, 1) := dk_27 (dk_at dksX0_has_0 1 rfl rfl)
theorem dX0_has_2 : decode cX0_has 2 = .ok (.ishr, 1) := dk_122 (dk_at dksX0_has_0 2 rfl rfl)
theorem dX0_has_3 : decode cX0_has 3 = .ok (.iconst 1, 1) := dk_4 (dk_at dksX0_has_0 3 rfl rfl)
theorem dX0_has_4 : decode cX0_has 4 = .ok (.iand, 1) := dk_126 (dk_at dksX0_has_0 4 rfl rfl)
theorem dX0_has_5 : decode cX0_has 5 = .ok (.iconst 1, 1) := dk_4 (dk_at dksX0_has_0 5 rfl rfl)
theorem dX0_has_6 : decode cX0_has 6 = .ok (.if_icmp .ne 7, 3) := dk_160 0 7 (dk_at dksX0_has_0 6 rfl rfl)
theorem dX0_has_9 : decode cX0_has 9 = .ok (.iconst 1, 1) := dk_4 (dk_at dksX0_has_0 9 rfl rfl)
theorem dX0_has_10 : decode cX0_has 10 = .ok (.goto 4, 3) := dk_167 0 4 (dk_at dksX0_has_0 10 rfl rfl)
theorem dX0_has_13 : decode cX0_has 13 = .ok (.iconst 0, 1) := dk_3 (dk_at dksX0_has_0 13 rfl rfl)
theorem dX0_has_14 : decode cX0_has 14 = .ok (.ireturn, 1) := dk_172 (dk_at dksX0_has_0 14 rfl rfl)
abbrev cX0_size : ByteArray := prog_1_method_3_code
def yX0_size : MethodName := ⟨RX0, "size", "(I)I"⟩
theorem dX0_size_0 : decode cX0_size 0 = .ok (.iload_n 0, 1) := by decide +kernel
theorem dX0_size_1 : decode cX0_size 1 = .ok (.invokestatic 1, 3) := by decide +kernel
theorem dX0_size_4 : decode cX0_size 4 = .ok (.ireturn, 1) := by decide +kernel
abbrev cX0_word : ByteArray := prog_1_method_9_code
def yX0_word : MethodName := ⟨RX0, "word", "(II)I"⟩
def dkwX0_word_5 : List UInt8 := [27, 182, 0, 160, 167, 0, 13, 42, 27, 28, 182, 0, 163, 167, 0, 4, 2, 172]
abbrev dktX0_word_5 : List UInt8 := dkwX0_word_5 ++ []
def dkwX0_word_4 : List UInt8 := [184, 0, 154, 167, 0, 38, 7, 167, 0, 34, 29, 155, 0, 7, 4, 167, 0, 26, 16, 6, 167, 0, 21, 42]
abbrev dktX0_word_4 : List UInt8 := dkwX0_word_4 ++ dktX0_word_5
def dkwX0_word_3 : List UInt8 := [27, 184, 0, 154, 167, 0, 60, 42, 180, 0, 26, 27, 182, 0, 157, 167, 0, 49, 29, 155, 0, 10, 29]
abbrev dktX0_word_3 : List UInt8 := dkwX0_word_3 ++ dktX0_word_4
def dkwX0_word_2 : List UInt8 := [170, 0, 0, 0, 104, 0, 0, 0, 0, 0, 0, 0, 6, 0, 0, 0, 41, 0, 0, 0, 48, 0, 0, 0, 59, 0, 0, 0, 74, 0, 0, 0, 87, 0, 0, 0, 95, 0, 0, 0, 95]
abbrev dktX0_word_2 : List UInt8 := dkwX0_word_2 ++ dktX0_word_3
def dkwX0_word_1 : List UInt8 := [46, 62, 28]
abbrev dktX0_word_1 : List UInt8 := dkwX0_word_1 ++ dktX0_word_2
def dkwX0_word_0 : List UInt8 := [27, 184, 0, 150, 154, 0, 5, 2, 172, 42, 180, 0, 26, 180, 0, 133, 42, 180, 0, 26, 27, 182, 0, 130]
abbrev dktX0_word_0 : List UInt8 := dkwX0_word_0 ++ dktX0_word_1
theorem dksX0_word_0 : cX0_word.data.toList.drop 0 = dktX0_word_0 := by decide +kernel
theorem dksX0_word_1 : cX0_word.data.toList.drop 24 = dktX0_word_1 := dk_seg dksX0_word_0 24 rfl rfl
theorem dksX0_word_2 : cX0_word.data.toList.drop 27 = dktX0_word_2 := dk_seg dksX0_word_1 3 rfl rfl
theorem dksX0_word_3 : cX0_word.data.toList.drop 68 = dktX0_word_3 := dk_seg dksX0_word_2 41 rfl rfl
theorem dksX0_word_4 : cX0_word.data.toList.drop 91 = dktX0_word_4 := dk_seg dksX0_word_3 23 rfl rfl
theorem dksX0_word_5 : cX0_word.data.toList.drop 115 = dktX0_word_5 := dk_seg dksX0_word_4 24 rfl rfl
theorem dX0_word_0 : decode cX0_word 0 = .ok (.iload_n 1, 1) := dk_27 (dk_at dksX0_word_0 0 rfl rfl)
theorem dX0_word_1 : decode cX0_word 1 = .ok (.invokestatic 150, 3) := dk_184 0 150 (dk_at dksX0_word_0 1 rfl rfl)
theorem dX0_word_4 : decode cX0_word 4 = .ok (.ifCond .ne 5, 3) := dk_154 0 5 (dk_at dksX0_word_0 4 rfl rfl)
theorem dX0_word_7 : decode cX0_word 7 = .ok (.iconst (-1), 1) := dk_2 (dk_at dksX0_word_0 7 rfl rfl)
theorem dX0_word_8 : decode cX0_word 8 = .ok (.ireturn, 1) := dk_172 (dk_at dksX0_word_0 8 rfl rfl)
theorem dX0_word_9 : decode cX0_word 9 = .ok (.aload_n 0, 1) := dk_42 (dk_at dksX0_word_0 9 rfl rfl)
theorem dX0_word_10 : decode cX0_word 10 = .ok (.getfield 26, 3) := dk_180 0 26 (dk_at dksX0_word_0 10 rfl rfl)
theorem dX0_word_13 : decode cX0_word 13 = .ok (.getfield 133, 3) := dk_180 0 133 (dk_at dksX0_word_0 13 rfl rfl)
theorem dX0_word_16 : decode cX0_word 16 = .ok (.aload_n 0, 1) := dk_42 (dk_at dksX0_word_0 16 rfl rfl)
theorem dX0_word_17 : decode cX0_word 17 = .ok (.getfield 26, 3) := dk_180 0 26 (dk_at dksX0_word_0 17 rfl rfl)
theorem dX0_word_20 : decode cX0_word 20 = .ok (.iload_n 1, 1) := dk_27 (dk_at dksX0_word_0 20 rfl rfl)
theorem dX0_word_21 : decode cX0_word 21 = .ok (.invokevirtual 130, 3) := dk_182 0 130 (dk_at dksX0_word_0 21 rfl rfl)
theorem dX0_word_24 : decode cX0_word 24 = .ok (.iaload, 1) := dk_46 (dk_at dksX0_word_1 0 rfl rfl)
theorem dX0_word_25 : decode cX0_word 25 = .ok (.istore_n 3, 1) := dk_62 (dk_at dksX0_word_1 1 rfl rfl)
theorem dX0_word_26 : decode cX0_word 26 = .ok (.iload_n 2, 1) := dk_28 (dk_at dksX0_word_1 2 rfl rfl)
theorem dX0_word_27 : decode cX0_word 27 = .ok (.tableswitch 104 0 6 #[41, 48, 59, 74, 87, 95, 95], 41) := by decide +kernel
theorem dX0_word_68 : decode cX0_word 68 = .ok (.iload_n 1, 1) := dk_27 (dk_at dksX0_word_3 0 rfl rfl)
theorem dX0_word_69 : decode cX0_word 69 = .ok (.invokestatic 154, 3) := dk_184 0 154 (dk_at dksX0_word_3 1 rfl rfl)
theorem dX0_word_72 : decode cX0_word 72 = .ok (.goto 60, 3) := dk_167 0 60 (dk_at dksX0_word_3 4 rfl rfl)
theorem dX0_word_75 : decode cX0_word 75 = .ok (.aload_n 0, 1) := dk_42 (dk_at dksX0_word_3 7 rfl rfl)
theorem dX0_word_76 : decode cX0_word 76 = .ok (.getfield 26, 3) := dk_180 0 26 (dk_at dksX0_word_3 8 rfl rfl)
theorem dX0_word_79 : decode cX0_word 79 = .ok (.iload_n 1, 1) := dk_27 (dk_at dksX0_word_3 11 rfl rfl)
theorem dX0_word_80 : decode cX0_word 80 = .ok (.invokevirtual 157, 3) := dk_182 0 157 (dk_at dksX0_word_3 12 rfl rfl)
theorem dX0_word_83 : decode cX0_word 83 = .ok (.goto 49, 3) := dk_167 0 49 (dk_at dksX0_word_3 15 rfl rfl)
theorem dX0_word_86 : decode cX0_word 86 = .ok (.iload_n 3, 1) := dk_29 (dk_at dksX0_word_3 18 rfl rfl)
theorem dX0_word_87 : decode cX0_word 87 = .ok (.ifCond .lt 10, 3) := dk_155 0 10 (dk_at dksX0_word_3 19 rfl rfl)
theorem dX0_word_90 : decode cX0_word 90 = .ok (.iload_n 3, 1) := dk_29 (dk_at dksX0_word_3 22 rfl rfl)
theorem dX0_word_91 : decode cX0_word 91 = .ok (.invokestatic 154, 3) := dk_184 0 154 (dk_at dksX0_word_4 0 rfl rfl)
theorem dX0_word_94 : decode cX0_word 94 = .ok (.goto 38, 3) := dk_167 0 38 (dk_at dksX0_word_4 3 rfl rfl)
theorem dX0_word_97 : decode cX0_word 97 = .ok (.iconst 4, 1) := dk_7 (dk_at dksX0_word_4 6 rfl rfl)
theorem dX0_word_98 : decode cX0_word 98 = .ok (.goto 34, 3) := dk_167 0 34 (dk_at dksX0_word_4 7 rfl rfl)
theorem dX0_word_101 : decode cX0_word 101 = .ok (.iload_n 3, 1) := dk_29 (dk_at dksX0_word_4 10 rfl rfl)
theorem dX0_word_102 : decode cX0_word 102 = .ok (.ifCond .lt 7, 3) := dk_155 0 7 (dk_at dksX0_word_4 11 rfl rfl)
theorem dX0_word_105 : decode cX0_word 105 = .ok (.iconst 1, 1) := dk_4 (dk_at dksX0_word_4 14 rfl rfl)
theorem dX0_word_106 : decode cX0_word 106 = .ok (.goto 26, 3) := dk_167 0 26 (dk_at dksX0_word_4 15 rfl rfl)
theorem dX0_word_109 : decode cX0_word 109 = .ok (.bipush 6, 2) := dk_16 6 (dk_at dksX0_word_4 18 rfl rfl)
theorem dX0_word_111 : decode cX0_word 111 = .ok (.goto 21, 3) := dk_167 0 21 (dk_at dksX0_word_4 20 rfl rfl)
theorem dX0_word_114 : decode cX0_word 114 = .ok (.aload_n 0, 1) := dk_42 (dk_at dksX0_word_4 23 rfl rfl)
theorem dX0_word_115 : decode cX0_word 115 = .ok (.iload_n 1, 1) := dk_27 (dk_at dksX0_word_5 0 rfl rfl)
theorem dX0_word_116 : decode cX0_word 116 = .ok (.invokevirtual 160, 3) := dk_182 0 160 (dk_at dksX0_word_5 1 rfl rfl)
theorem dX0_word_119 : decode cX0_word 119 = .ok (.goto 13, 3) := dk_167 0 13 (dk_at dksX0_word_5 4 rfl rfl)
theorem dX0_word_122 : decode cX0_word 122 = .ok (.aload_n 0, 1) := dk_42 (dk_at dksX0_word_5 7 rfl rfl)
theorem dX0_word_123 : decode cX0_word 123 = .ok (.iload_n 1, 1) := dk_27 (dk_at dksX0_word_5 8 rfl rfl)
theorem dX0_word_124 : decode cX0_word 124 = .ok (.iload_n 2, 1) := dk_28 (dk_at dksX0_word_5 9 rfl rfl)
theorem dX0_word_125 : decode cX0_word 125 = .ok (.invokevirtual 163, 3) := dk_182 0 163 (dk_at dksX0_word_5 10 rfl rfl)
theorem dX0_word_128 : decode cX0_word 128 = .ok (.goto 4, 3) := dk_167 0 4 (dk_at dksX0_word_5 13 rfl rfl)
theorem dX0_word_131 : decode cX0_word 131 = .ok (.iconst (-1), 1) := dk_2 (dk_at dksX0_word_5 16 rfl rfl)
theorem dX0_word_132 : decode cX0_word 132 = .ok (.ireturn, 1) := dk_172 (dk_at dksX0_word_5 17 rfl rfl)
abbrev cX0_isSet : ByteArray := prog_1_method_5_code
def yX0_isSet : MethodName := ⟨RX0, "isSet", "(I)Z"⟩
def dkwX0_isSet_0 : List UInt8 := [26, 133, 9, 20, 0, 15, 184, 0, 11, 172]
abbrev dktX0_isSet_0 : List UInt8 := dkwX0_isSet_0 ++ []
theorem dksX0_isSet_0 : cX0_isSet.data.toList.drop 0 = dktX0_isSet_0 := by decide +kernel
theorem dX0_isSet_0 : decode cX0_isSet 0 = .ok (.iload_n 0, 1) := dk_26 (dk_at dksX0_isSet_0 0 rfl rfl)
theorem dX0_isSet_1 : decode cX0_isSet 1 = .ok (.i2l, 1) := dk_133 (dk_at dksX0_isSet_0 1 rfl rfl)
theorem dX0_isSet_2 : decode cX0_isSet 2 = .ok (.lconst 0, 1) := dk_9 (dk_at dksX0_isSet_0 2 rfl rfl)
theorem dX0_isSet_3 : decode cX0_isSet 3 = .ok (.ldc2_w 15, 3) := dk_20 0 15 (dk_at dksX0_isSet_0 3 rfl rfl)
theorem dX0_isSet_6 : decode cX0_isSet 6 = .ok (.invokestatic 11, 3) := dk_184 0 11 (dk_at dksX0_isSet_0 6 rfl rfl)
theorem dX0_isSet_9 : decode cX0_isSet 9 = .ok (.ireturn, 1) := dk_172 (dk_at dksX0_isSet_0 9 rfl rfl)
abbrev cX0_isIn : ByteArray := prog_1_method_1_code
def yX0_isIn : MethodName := ⟨RX0, "isIn", "(JJJ)Z"⟩
def dkwX0_isIn_0 : List UInt8 := [30, 32, 148, 155, 0, 14, 30, 22, 4, 148, 157, 0, 7, 4, 167, 0, 4, 3, 172]
abbrev dktX0_isIn_0 : List UInt8 := dkwX0_isIn_0 ++ []
theorem dksX0_isIn_0 : cX0_isIn.data.toList.drop 0 = dktX0_isIn_0 := by decide +kernel
theorem dX0_isIn_0 : decode cX0_isIn 0 = .ok (.lload_n 0, 1) := dk_30 (dk_at dksX0_isIn_0 0 rfl rfl)
theorem dX0_isIn_1 : decode cX0_isIn 1 = .ok (.lload_n 2, 1) := dk_32 (dk_at dksX0_isIn_0 1 rfl rfl)
theorem dX0_isIn_2 : decode cX0_isIn 2 = .ok (.lcmp, 1) := dk_148 (dk_at dksX0_isIn_0 2 rfl rfl)
theorem dX0_isIn_3 : decode cX0_isIn 3 = .ok (.ifCond .lt 14, 3) := dk_155 0 14 (dk_at dksX0_isIn_0 3 rfl rfl)
theorem dX0_isIn_6 : decode cX0_isIn 6 = .ok (.lload_n 0, 1) := dk_30 (dk_at dksX0_isIn_0 6 rfl rfl)
theorem dX0_isIn_7 : decode cX0_isIn 7 = .ok (.lload 4, 2) := dk_22 4 (dk_at dksX0_isIn_0 7 rfl rfl)
theorem dX0_isIn_9 : decode cX0_isIn 9 = .ok (.lcmp, 1) := dk_148 (dk_at dksX0_isIn_0 9 rfl rfl)
theorem dX0_isIn_10 : decode cX0_isIn 10 = .ok (.ifCond .gt 7, 3) := dk_157 0 7 (dk_at dksX0_isIn_0 10 rfl rfl)
theorem dX0_isIn_13 : decode cX0_isIn 13 = .ok (.iconst 1, 1) := dk_4 (dk_at dksX0_isIn_0 13 rfl rfl)
theorem dX0_isIn_14 : decode cX0_isIn 14 = .ok (.goto 4, 3) := dk_167 0 4 (dk_at dksX0_isIn_0 14 rfl rfl)
theorem dX0_isIn_17 : decode cX0_isIn 17 = .ok (.iconst 0, 1) := dk_3 (dk_at dksX0_isIn_0 17 rfl rfl)
theorem dX0_isIn_18 : decode cX0_isIn 18 = .ok (.ireturn, 1) := dk_172 (dk_at dksX0_isIn_0 18 rfl rfl)
abbrev cX0_closest : ByteArray := prog_1_method_7_code
def yX0_closest : MethodName := ⟨RX0, "closest", "(I)I"⟩
def dkwX0_closest_3 : List UInt8 := [62, 132, 4, 1, 167, 255, 232, 29, 172]
abbrev dktX0_closest_3 : List UInt8 := dkwX0_closest_3 ++ []
def dkwX0_closest_2 : List UInt8 := [62, 3, 54, 4, 21, 4, 16, 6, 162, 0, 23, 29, 27, 42, 180, 0, 30, 21, 4, 46, 130, 184, 0, 141]
abbrev dktX0_closest_2 : List UInt8 := dkwX0_closest_2 ++ dktX0_closest_3
def dkwX0_closest_1 : List UInt8 := [180, 0, 26, 180, 0, 133, 28, 46, 130, 172, 42, 180, 0, 26, 28, 42, 180, 0, 30, 182, 0, 136, 18, 140]
abbrev dktX0_closest_1 : List UInt8 := dkwX0_closest_1 ++ dktX0_closest_2
def dkwX0_closest_0 : List UInt8 := [42, 180, 0, 26, 27, 182, 0, 130, 61, 42, 180, 0, 26, 180, 0, 133, 28, 46, 155, 0, 15, 27, 42]
abbrev dktX0_closest_0 : List UInt8 := dkwX0_closest_0 ++ dktX0_closest_1
theorem dksX0_closest_0 : cX0_closest.data.toList.drop 0 = dktX0_closest_0 := by decide +kernel
theorem dksX0_closest_1 : cX0_closest.data.toList.drop 23 = dktX0_closest_1 := dk_seg dksX0_closest_0 23 rfl rfl
theorem dksX0_closest_2 : cX0_closest.data.toList.drop 47 = dktX0_closest_2 := dk_seg dksX0_closest_1 24 rfl rfl
theorem dksX0_closest_3 : cX0_closest.data.toList.drop 71 = dktX0_closest_3 := dk_seg dksX0_closest_2 24 rfl rfl
theorem dX0_closest_0 : decode cX0_closest 0 = .ok (.aload_n 0, 1) := dk_42 (dk_at dksX0_closest_0 0 rfl rfl)
theorem dX0_closest_1 : decode cX0_closest 1 = .ok (.getfield 26, 3) := dk_180 0 26 (dk_at dksX0_closest_0 1 rfl rfl)
theorem dX0_closest_4 : decode cX0_closest 4 = .ok (.iload_n 1, 1) := dk_27 (dk_at dksX0_closest_0 4 rfl rfl)
theorem dX0_closest_5 : decode cX0_closest 5 = .ok (.invokevirtual 130, 3) := dk_182 0 130 (dk_at dksX0_closest_0 5 rfl rfl)
theorem dX0_closest_8 : decode cX0_closest 8 = .ok (.istore_n 2, 1) := dk_61 (dk_at dksX0_closest_0 8 rfl rfl)
theorem dX0_closest_9 : decode cX0_closest 9 = .ok (.aload_n 0, 1) := dk_42 (dk_at dksX0_closest_0 9 rfl rfl)
theorem dX0_closest_10 : decode cX0_closest 10 = .ok (.getfield 26, 3) := dk_180 0 26 (dk_at dksX0_closest_0 10 rfl rfl)
theorem dX0_closest_13 : decode cX0_closest 13 = .ok (.getfield 133, 3) := dk_180 0 133 (dk_at dksX0_closest_0 13 rfl rfl)
theorem dX0_closest_16 : decode cX0_closest 16 = .ok (.iload_n 2, 1) := dk_28 (dk_at dksX0_closest_0 16 rfl rfl)
theorem dX0_closest_17 : decode cX0_closest 17 = .ok (.iaload, 1) := dk_46 (dk_at dksX0_closest_0 17 rfl rfl)
theorem dX0_closest_18 : decode cX0_closest 18 = .ok (.ifCond .lt 15, 3) := dk_155 0 15 (dk_at dksX0_closest_0 18 rfl rfl)
theorem dX0_closest_21 : decode cX0_closest 21 = .ok (.iload_n 1, 1) := dk_27 (dk_at dksX0_closest_0 21 rfl rfl)
theorem dX0_closest_22 : decode cX0_closest 22 = .ok (.aload_n 0, 1) := dk_42 (dk_at dksX0_closest_0 22 rfl rfl)
theorem dX0_closest_23 : decode cX0_closest 23 = .ok (.getfield 26, 3) := dk_180 0 26 (dk_at dksX0_closest_1 0 rfl rfl)
theorem dX0_closest_26 : decode cX0_closest 26 = .ok (.getfield 133, 3) := dk_180 0 133 (dk_at dksX0_closest_1 3 rfl rfl)
theorem dX0_closest_29 : decode cX0_closest 29 = .ok (.iload_n 2, 1) := dk_28 (dk_at dksX0_closest_1 6 rfl rfl)
theorem dX0_closest_30 : decode cX0_closest 30 = .ok (.iaload, 1) := dk_46 (dk_at dksX0_closest_1 7 rfl rfl)
theorem dX0_closest_31 : decode cX0_closest 31 = .ok (.ixor, 1) := dk_130 (dk_at dksX0_closest_1 8 rfl rfl)
theorem dX0_closest_32 : decode cX0_closest 32 = .ok (.ireturn, 1) := dk_172 (dk_at dksX0_closest_1 9 rfl rfl)
theorem dX0_closest_33 : decode cX0_closest 33 = .ok (.aload_n 0, 1) := dk_42 (dk_at dksX0_closest_1 10 rfl rfl)
theorem dX0_closest_34 : decode cX0_closest 34 = .ok (.getfield 26, 3) := dk_180 0 26 (dk_at dksX0_closest_1 11 rfl rfl)
theorem dX0_closest_37 : decode cX0_closest 37 = .ok (.iload_n 2, 1) := dk_28 (dk_at dksX0_closest_1 14 rfl rfl)
theorem dX0_closest_38 : decode cX0_closest 38 = .ok (.aload_n 0, 1) := dk_42 (dk_at dksX0_closest_1 15 rfl rfl)
theorem dX0_closest_39 : decode cX0_closest 39 = .ok (.getfield 30, 3) := dk_180 0 30 (dk_at dksX0_closest_1 16 rfl rfl)
theorem dX0_closest_42 : decode cX0_closest 42 = .ok (.invokevirtual 136, 3) := dk_182 0 136 (dk_at dksX0_closest_1 19 rfl rfl)
theorem dX0_closest_45 : decode cX0_closest 45 = .ok (.ldc 140, 2) := dk_18 140 (dk_at dksX0_closest_1 22 rfl rfl)
theorem dX0_closest_47 : decode cX0_closest 47 = .ok (.istore_n 3, 1) := dk_62 (dk_at dksX0_closest_2 0 rfl rfl)
theorem dX0_closest_48 : decode cX0_closest 48 = .ok (.iconst 0, 1) := dk_3 (dk_at dksX0_closest_2 1 rfl rfl)
theorem dX0_closest_49 : decode cX0_closest 49 = .ok (.istore 4, 2) := dk_54 4 (dk_at dksX0_closest_2 2 rfl rfl)
theorem dX0_closest_51 : decode cX0_closest 51 = .ok (.iload 4, 2) := dk_21 4 (dk_at dksX0_closest_2 4 rfl rfl)
theorem dX0_closest_53 : decode cX0_closest 53 = .ok (.bipush 6, 2) := dk_16 6 (dk_at dksX0_closest_2 6 rfl rfl)
theorem dX0_closest_55 : decode cX0_closest 55 = .ok (.if_icmp .ge 23, 3) := dk_162 0 23 (dk_at dksX0_closest_2 8 rfl rfl)
theorem dX0_closest_58 : decode cX0_closest 58 = .ok (.iload_n 3, 1) := dk_29 (dk_at dksX0_closest_2 11 rfl rfl)
theorem dX0_closest_59 : decode cX0_closest 59 = .ok (.iload_n 1, 1) := dk_27 (dk_at dksX0_closest_2 12 rfl rfl)
theorem dX0_closest_60 : decode cX0_closest 60 = .ok (.aload_n 0, 1) := dk_42 (dk_at dksX0_closest_2 13 rfl rfl)
theorem dX0_closest_61 : decode cX0_closest 61 = .ok (.getfield 30, 3) := dk_180 0 30 (dk_at dksX0_closest_2 14 rfl rfl)
theorem dX0_closest_64 : decode cX0_closest 64 = .ok (.iload 4, 2) := dk_21 4 (dk_at dksX0_closest_2 17 rfl rfl)
theorem dX0_closest_66 : decode cX0_closest 66 = .ok (.iaload, 1) := dk_46 (dk_at dksX0_closest_2 19 rfl rfl)
theorem dX0_closest_67 : decode cX0_closest 67 = .ok (.ixor, 1) := dk_130 (dk_at dksX0_closest_2 20 rfl rfl)
theorem dX0_closest_68 : decode cX0_closest 68 = .ok (.invokestatic 141, 3) := dk_184 0 141 (dk_at dksX0_closest_2 21 rfl rfl)
theorem dX0_closest_71 : decode cX0_closest 71 = .ok (.istore_n 3, 1) := dk_62 (dk_at dksX0_closest_3 0 rfl rfl)
theorem dX0_closest_72 : decode cX0_closest 72 = .ok (.iinc 4 1, 3) := dk_132 4 1 (dk_at dksX0_closest_3 1 rfl rfl)
theorem dX0_closest_75 : decode cX0_closest 75 = .ok (.goto (-24), 3) := dk_167 255 232 (dk_at dksX0_closest_3 4 rfl rfl)
theorem dX0_closest_78 : decode cX0_closest 78 = .ok (.iload_n 3, 1) := dk_29 (dk_at dksX0_closest_3 7 rfl rfl)
theorem dX0_closest_79 : decode cX0_closest 79 = .ok (.ireturn, 1) := dk_172 (dk_at dksX0_closest_3 8 rfl rfl)
abbrev cX0_octadsBy : ByteArray := prog_1_method_8_code
def yX0_octadsBy : MethodName := ⟨RX0, "octadsBy", "(II)I"⟩
def dkwX0_octadsBy_3 : List UInt8 := [167, 255, 204, 29, 172]
abbrev dktX0_octadsBy_3 : List UInt8 := dkwX0_octadsBy_3 ++ []
def dkwX0_octadsBy_2 : List UInt8 := [27, 21, 7, 2, 130, 126, 54, 8, 29, 21, 8, 154, 0, 7, 4, 167, 0, 4, 3, 96, 62, 132, 6, 1]
abbrev dktX0_octadsBy_2 : List UInt8 := dkwX0_octadsBy_2 ++ dktX0_octadsBy_3
def dkwX0_octadsBy_1 : List UInt8 := [162, 0, 51, 25, 4, 21, 6, 46, 54, 7, 28, 8, 160, 0, 12, 21, 7, 27, 2, 130, 126, 167, 0, 9]
abbrev dktX0_octadsBy_1 : List UInt8 := dkwX0_octadsBy_1 ++ dktX0_octadsBy_2
def dkwX0_octadsBy_0 : List UInt8 := [3, 62, 42, 180, 0, 26, 180, 0, 147, 58, 4, 25, 4, 190, 54, 5, 3, 54, 6, 21, 6, 21, 5]
abbrev dktX0_octadsBy_0 : List UInt8 := dkwX0_octadsBy_0 ++ dktX0_octadsBy_1
theorem dksX0_octadsBy_0 : cX0_octadsBy.data.toList.drop 0 = dktX0_octadsBy_0 := by decide +kernel
theorem dksX0_octadsBy_1 : cX0_octadsBy.data.toList.drop 23 = dktX0_octadsBy_1 := dk_seg dksX0_octadsBy_0 23 rfl rfl
theorem dksX0_octadsBy_2 : cX0_octadsBy.data.toList.drop 47 = dktX0_octadsBy_2 := dk_seg dksX0_octadsBy_1 24 rfl rfl
theorem dksX0_octadsBy_3 : cX0_octadsBy.data.toList.drop 71 = dktX0_octadsBy_3 := dk_seg dksX0_octadsBy_2 24 rfl rfl
theorem dX0_octadsBy_0 : decode cX0_octadsBy 0 = .ok (.iconst 0, 1) := dk_3 (dk_at dksX0_octadsBy_0 0 rfl rfl)
theorem dX0_octadsBy_1 : decode cX0_octadsBy 1 = .ok (.istore_n 3, 1) := dk_62 (dk_at dksX0_octadsBy_0 1 rfl rfl)
theorem dX0_octadsBy_2 : decode cX0_octadsBy 2 = .ok (.aload_n 0, 1) := dk_42 (dk_at dksX0_octadsBy_0 2 rfl rfl)
theorem dX0_octadsBy_3 : decode cX0_octadsBy 3 = .ok (.getfield 26, 3) := dk_180 0 26 (dk_at dksX0_octadsBy_0 3 rfl rfl)
theorem dX0_octadsBy_6 : decode cX0_octadsBy 6 = .ok (.getfield 147, 3) := dk_180 0 147 (dk_at dksX0_octadsBy_0 6 rfl rfl)
theorem dX0_octadsBy_9 : decode cX0_octadsBy 9 = .ok (.astore 4, 2) := dk_58 4 (dk_at dksX0_octadsBy_0 9 rfl rfl)
theorem dX0_octadsBy_11 : decode cX0_octadsBy 11 = .ok (.aload 4, 2) := dk_25 4 (dk_at dksX0_octadsBy_0 11 rfl rfl)
theorem dX0_octadsBy_13 : decode cX0_octadsBy 13 = .ok (.arraylength, 1) := dk_190 (dk_at dksX0_octadsBy_0 13 rfl rfl)
theorem dX0_octadsBy_14 : decode cX0_octadsBy 14 = .ok (.istore 5, 2) := dk_54 5 (dk_at dksX0_octadsBy_0 14 rfl rfl)
theorem dX0_octadsBy_16 : decode cX0_octadsBy 16 = .ok (.iconst 0, 1) := dk_3 (dk_at dksX0_octadsBy_0 16 rfl rfl)
theorem dX0_octadsBy_17 : decode cX0_octadsBy 17 = .ok (.istore 6, 2) := dk_54 6 (dk_at dksX0_octadsBy_0 17 rfl rfl)
theorem dX0_octadsBy_19 : decode cX0_octadsBy 19 = .ok (.iload 6, 2) := dk_21 6 (dk_at dksX0_octadsBy_0 19 rfl rfl)
theorem dX0_octadsBy_21 : decode cX0_octadsBy 21 = .ok (.iload 5, 2) := dk_21 5 (dk_at dksX0_octadsBy_0 21 rfl rfl)
theorem dX0_octadsBy_23 : decode cX0_octadsBy 23 = .ok (.if_icmp .ge 51, 3) := dk_162 0 51 (dk_at dksX0_octadsBy_1 0 rfl rfl)
theorem dX0_octadsBy_26 : decode cX0_octadsBy 26 = .ok (.aload 4, 2) := dk_25 4 (dk_at dksX0_octadsBy_1 3 rfl rfl)
theorem dX0_octadsBy_28 : decode cX0_octadsBy 28 = .ok (.iload 6, 2) := dk_21 6 (dk_at dksX0_octadsBy_1 5 rfl rfl)
theorem dX0_octadsBy_30 : decode cX0_octadsBy 30 = .ok (.iaload, 1) := dk_46 (dk_at dksX0_octadsBy_1 7 rfl rfl)
theorem dX0_octadsBy_31 : decode cX0_octadsBy 31 = .ok (.istore 7, 2) := dk_54 7 (dk_at dksX0_octadsBy_1 8 rfl rfl)
theorem dX0_octadsBy_33 : decode cX0_octadsBy 33 = .ok (.iload_n 2, 1) := dk_28 (dk_at dksX0_octadsBy_1 10 rfl rfl)
theorem dX0_octadsBy_34 : decode cX0_octadsBy 34 = .ok (.iconst 5, 1) := dk_8 (dk_at dksX0_octadsBy_1 11 rfl rfl)
theorem dX0_octadsBy_35 : decode cX0_octadsBy 35 = .ok (.if_icmp .ne 12, 3) := dk_160 0 12 (dk_at dksX0_octadsBy_1 12 rfl rfl)
theorem dX0_octadsBy_38 : decode cX0_octadsBy 38 = .ok (.iload 7, 2) := dk_21 7 (dk_at dksX0_octadsBy_1 15 rfl rfl)
theorem dX0_octadsBy_40 : decode cX0_octadsBy 40 = .ok (.iload_n 1, 1) := dk_27 (dk_at dksX0_octadsBy_1 17 rfl rfl)
theorem dX0_octadsBy_41 : decode cX0_octadsBy 41 = .ok (.iconst (-1), 1) := dk_2 (dk_at dksX0_octadsBy_1 18 rfl rfl)
theorem dX0_octadsBy_42 : decode cX0_octadsBy 42 = .ok (.ixor, 1) := dk_130 (dk_at dksX0_octadsBy_1 19 rfl rfl)
theorem dX0_octadsBy_43 : decode cX0_octadsBy 43 = .ok (.iand, 1) := dk_126 (dk_at dksX0_octadsBy_1 20 rfl rfl)
theorem dX0_octadsBy_44 : decode cX0_octadsBy 44 = .ok (.goto 9, 3) := dk_167 0 9 (dk_at dksX0_octadsBy_1 21 rfl rfl)
theorem dX0_octadsBy_47 : decode cX0_octadsBy 47 = .ok (.iload_n 1, 1) := dk_27 (dk_at dksX0_octadsBy_2 0 rfl rfl)
theorem dX0_octadsBy_48 : decode cX0_octadsBy 48 = .ok (.iload 7, 2) := dk_21 7 (dk_at dksX0_octadsBy_2 1 rfl rfl)
theorem dX0_octadsBy_50 : decode cX0_octadsBy 50 = .ok (.iconst (-1), 1) := dk_2 (dk_at dksX0_octadsBy_2 3 rfl rfl)
theorem dX0_octadsBy_51 : decode cX0_octadsBy 51 = .ok (.ixor, 1) := dk_130 (dk_at dksX0_octadsBy_2 4 rfl rfl)
theorem dX0_octadsBy_52 : decode cX0_octadsBy 52 = .ok (.iand, 1) := dk_126 (dk_at dksX0_octadsBy_2 5 rfl rfl)
theorem dX0_octadsBy_53 : decode cX0_octadsBy 53 = .ok (.istore 8, 2) := dk_54 8 (dk_at dksX0_octadsBy_2 6 rfl rfl)
theorem dX0_octadsBy_55 : decode cX0_octadsBy 55 = .ok (.iload_n 3, 1) := dk_29 (dk_at dksX0_octadsBy_2 8 rfl rfl)
theorem dX0_octadsBy_56 : decode cX0_octadsBy 56 = .ok (.iload 8, 2) := dk_21 8 (dk_at dksX0_octadsBy_2 9 rfl rfl)
theorem dX0_octadsBy_58 : decode cX0_octadsBy 58 = .ok (.ifCond .ne 7, 3) := dk_154 0 7 (dk_at dksX0_octadsBy_2 11 rfl rfl)
theorem dX0_octadsBy_61 : decode cX0_octadsBy 61 = .ok (.iconst 1, 1) := dk_4 (dk_at dksX0_octadsBy_2 14 rfl rfl)
theorem dX0_octadsBy_62 : decode cX0_octadsBy 62 = .ok (.goto 4, 3) := dk_167 0 4 (dk_at dksX0_octadsBy_2 15 rfl rfl)
theorem dX0_octadsBy_65 : decode cX0_octadsBy 65 = .ok (.iconst 0, 1) := dk_3 (dk_at dksX0_octadsBy_2 18 rfl rfl)
theorem dX0_octadsBy_66 : decode cX0_octadsBy 66 = .ok (.iadd, 1) := dk_96 (dk_at dksX0_octadsBy_2 19 rfl rfl)
theorem dX0_octadsBy_67 : decode cX0_octadsBy 67 = .ok (.istore_n 3, 1) := dk_62 (dk_at dksX0_octadsBy_2 20 rfl rfl)
theorem dX0_octadsBy_68 : decode cX0_octadsBy 68 = .ok (.iinc 6 1, 3) := dk_132 6 1 (dk_at dksX0_octadsBy_2 21 rfl rfl)
theorem dX0_octadsBy_71 : decode cX0_octadsBy 71 = .ok (.goto (-52), 3) := dk_167 255 204 (dk_at dksX0_octadsBy_3 0 rfl rfl)
theorem dX0_octadsBy_74 : decode cX0_octadsBy 74 = .ok (.iload_n 3, 1) := dk_29 (dk_at dksX0_octadsBy_3 3 rfl rfl)
theorem dX0_octadsBy_75 : decode cX0_octadsBy 75 = .ok (.ireturn, 1) := dk_172 (dk_at dksX0_octadsBy_3 4 rfl rfl)
abbrev cX0_block : ByteArray := prog_1_method_10_code
def yX0_block : MethodName := ⟨RX0, "block", "(II)I"⟩
def dkwX0_block_3 : List UInt8 := [167, 0, 4, 2, 172]
abbrev dktX0_block_3 : List UInt8 := dkwX0_block_3 ++ []
def dkwX0_block_2 : List UInt8 := [180, 0, 26, 180, 0, 171, 78, 28, 133, 9, 45, 190, 4, 100, 133, 184, 0, 11, 153, 0, 9, 45, 28, 46]
abbrev dktX0_block_2 : List UInt8 := dkwX0_block_2 ++ dktX0_block_3
def dkwX0_block_1 : List UInt8 := [180, 0, 168, 167, 0, 25, 27, 4, 160, 0, 13, 42, 180, 0, 26, 180, 0, 147, 167, 0, 10, 42]
abbrev dktX0_block_1 : List UInt8 := dkwX0_block_1 ++ dktX0_block_2
def dkwX0_block_0 : List UInt8 := [27, 133, 9, 20, 0, 166, 184, 0, 11, 154, 0, 5, 2, 172, 27, 154, 0, 13, 42, 180, 0, 26]
abbrev dktX0_block_0 : List UInt8 := dkwX0_block_0 ++ dktX0_block_1
theorem dksX0_block_0 : cX0_block.data.toList.drop 0 = dktX0_block_0 := by decide +kernel
theorem dksX0_block_1 : cX0_block.data.toList.drop 22 = dktX0_block_1 := dk_seg dksX0_block_0 22 rfl rfl
theorem dksX0_block_2 : cX0_block.data.toList.drop 44 = dktX0_block_2 := dk_seg dksX0_block_1 22 rfl rfl
theorem dksX0_block_3 : cX0_block.data.toList.drop 68 = dktX0_block_3 := dk_seg dksX0_block_2 24 rfl rfl
theorem dX0_block_0 : decode cX0_block 0 = .ok (.iload_n 1, 1) := dk_27 (dk_at dksX0_block_0 0 rfl rfl)
theorem dX0_block_1 : decode cX0_block 1 = .ok (.i2l, 1) := dk_133 (dk_at dksX0_block_0 1 rfl rfl)
theorem dX0_block_2 : decode cX0_block 2 = .ok (.lconst 0, 1) := dk_9 (dk_at dksX0_block_0 2 rfl rfl)
theorem dX0_block_3 : decode cX0_block 3 = .ok (.ldc2_w 166, 3) := dk_20 0 166 (dk_at dksX0_block_0 3 rfl rfl)
theorem dX0_block_6 : decode cX0_block 6 = .ok (.invokestatic 11, 3) := dk_184 0 11 (dk_at dksX0_block_0 6 rfl rfl)
theorem dX0_block_9 : decode cX0_block 9 = .ok (.ifCond .ne 5, 3) := dk_154 0 5 (dk_at dksX0_block_0 9 rfl rfl)
theorem dX0_block_12 : decode cX0_block 12 = .ok (.iconst (-1), 1) := dk_2 (dk_at dksX0_block_0 12 rfl rfl)
theorem dX0_block_13 : decode cX0_block 13 = .ok (.ireturn, 1) := dk_172 (dk_at dksX0_block_0 13 rfl rfl)
theorem dX0_block_14 : decode cX0_block 14 = .ok (.iload_n 1, 1) := dk_27 (dk_at dksX0_block_0 14 rfl rfl)
theorem dX0_block_15 : decode cX0_block 15 = .ok (.ifCond .ne 13, 3) := dk_154 0 13 (dk_at dksX0_block_0 15 rfl rfl)
theorem dX0_block_18 : decode cX0_block 18 = .ok (.aload_n 0, 1) := dk_42 (dk_at dksX0_block_0 18 rfl rfl)
theorem dX0_block_19 : decode cX0_block 19 = .ok (.getfield 26, 3) := dk_180 0 26 (dk_at dksX0_block_0 19 rfl rfl)
theorem dX0_block_22 : decode cX0_block 22 = .ok (.getfield 168, 3) := dk_180 0 168 (dk_at dksX0_block_1 0 rfl rfl)
theorem dX0_block_25 : decode cX0_block 25 = .ok (.goto 25, 3) := dk_167 0 25 (dk_at dksX0_block_1 3 rfl rfl)
theorem dX0_block_28 : decode cX0_block 28 = .ok (.iload_n 1, 1) := dk_27 (dk_at dksX0_block_1 6 rfl rfl)
theorem dX0_block_29 : decode cX0_block 29 = .ok (.iconst 1, 1) := dk_4 (dk_at dksX0_block_1 7 rfl rfl)
theorem dX0_block_30 : decode cX0_block 30 = .ok (.if_icmp .ne 13, 3) := dk_160 0 13 (dk_at dksX0_block_1 8 rfl rfl)
theorem dX0_block_33 : decode cX0_block 33 = .ok (.aload_n 0, 1) := dk_42 (dk_at dksX0_block_1 11 rfl rfl)
theorem dX0_block_34 : decode cX0_block 34 = .ok (.getfield 26, 3) := dk_180 0 26 (dk_at dksX0_block_1 12 rfl rfl)
theorem dX0_block_37 : decode cX0_block 37 = .ok (.getfield 147, 3) := dk_180 0 147 (dk_at dksX0_block_1 15 rfl rfl)
theorem dX0_block_40 : decode cX0_block 40 = .ok (.goto 10, 3) := dk_167 0 10 (dk_at dksX0_block_1 18 rfl rfl)
theorem dX0_block_43 : decode cX0_block 43 = .ok (.aload_n 0, 1) := dk_42 (dk_at dksX0_block_1 21 rfl rfl)
theorem dX0_block_44 : decode cX0_block 44 = .ok (.getfield 26, 3) := dk_180 0 26 (dk_at dksX0_block_2 0 rfl rfl)
theorem dX0_block_47 : decode cX0_block 47 = .ok (.getfield 171, 3) := dk_180 0 171 (dk_at dksX0_block_2 3 rfl rfl)
theorem dX0_block_50 : decode cX0_block 50 = .ok (.astore_n 3, 1) := dk_78 (dk_at dksX0_block_2 6 rfl rfl)
theorem dX0_block_51 : decode cX0_block 51 = .ok (.iload_n 2, 1) := dk_28 (dk_at dksX0_block_2 7 rfl rfl)
theorem dX0_block_52 : decode cX0_block 52 = .ok (.i2l, 1) := dk_133 (dk_at dksX0_block_2 8 rfl rfl)
theorem dX0_block_53 : decode cX0_block 53 = .ok (.lconst 0, 1) := dk_9 (dk_at dksX0_block_2 9 rfl rfl)
theorem dX0_block_54 : decode cX0_block 54 = .ok (.aload_n 3, 1) := dk_45 (dk_at dksX0_block_2 10 rfl rfl)
theorem dX0_block_55 : decode cX0_block 55 = .ok (.arraylength, 1) := dk_190 (dk_at dksX0_block_2 11 rfl rfl)
theorem dX0_block_56 : decode cX0_block 56 = .ok (.iconst 1, 1) := dk_4 (dk_at dksX0_block_2 12 rfl rfl)
theorem dX0_block_57 : decode cX0_block 57 = .ok (.isub, 1) := dk_100 (dk_at dksX0_block_2 13 rfl rfl)
theorem dX0_block_58 : decode cX0_block 58 = .ok (.i2l, 1) := dk_133 (dk_at dksX0_block_2 14 rfl rfl)
theorem dX0_block_59 : decode cX0_block 59 = .ok (.invokestatic 11, 3) := dk_184 0 11 (dk_at dksX0_block_2 15 rfl rfl)
theorem dX0_block_62 : decode cX0_block 62 = .ok (.ifCond .eq 9, 3) := dk_153 0 9 (dk_at dksX0_block_2 18 rfl rfl)
theorem dX0_block_65 : decode cX0_block 65 = .ok (.aload_n 3, 1) := dk_45 (dk_at dksX0_block_2 21 rfl rfl)
theorem dX0_block_66 : decode cX0_block 66 = .ok (.iload_n 2, 1) := dk_28 (dk_at dksX0_block_2 22 rfl rfl)
theorem dX0_block_67 : decode cX0_block 67 = .ok (.iaload, 1) := dk_46 (dk_at dksX0_block_2 23 rfl rfl)
theorem dX0_block_68 : decode cX0_block 68 = .ok (.goto 4, 3) := dk_167 0 4 (dk_at dksX0_block_3 0 rfl rfl)
theorem dX0_block_71 : decode cX0_block 71 = .ok (.iconst (-1), 1) := dk_2 (dk_at dksX0_block_3 3 rfl rfl)
theorem dX0_block_72 : decode cX0_block 72 = .ok (.ireturn, 1) := dk_172 (dk_at dksX0_block_3 4 rfl rfl)
abbrev cX0_complete : ByteArray := prog_1_method_11_code
def yX0_complete : MethodName := ⟨RX0, "complete", "(I)I"⟩
def dkwX0_complete_1 : List UInt8 := [182, 0, 174, 167, 0, 5, 16, 254, 172]
abbrev dktX0_complete_1 : List UInt8 := dkwX0_complete_1 ++ []
def dkwX0_complete_0 : List UInt8 := [27, 184, 0, 150, 154, 0, 5, 2, 172, 27, 184, 0, 154, 8, 160, 0, 14, 42, 180, 0, 26, 27]
abbrev dktX0_complete_0 : List UInt8 := dkwX0_complete_0 ++ dktX0_complete_1
theorem dksX0_complete_0 : cX0_complete.data.toList.drop 0 = dktX0_complete_0 := by decide +kernel
theorem dksX0_complete_1 : cX0_complete.data.toList.drop 22 = dktX0_complete_1 := dk_seg dksX0_complete_0 22 rfl rfl
theorem dX0_complete_0 : decode cX0_complete 0 = .ok (.iload_n 1, 1) := dk_27 (dk_at dksX0_complete_0 0 rfl rfl)
theorem dX0_complete_1 : decode cX0_complete 1 = .ok (.invokestatic 150, 3) := dk_184 0 150 (dk_at dksX0_complete_0 1 rfl rfl)
theorem dX0_complete_4 : decode cX0_complete 4 = .ok (.ifCond .ne 5, 3) := dk_154 0 5 (dk_at dksX0_complete_0 4 rfl rfl)
theorem dX0_complete_7 : decode cX0_complete 7 = .ok (.iconst (-1), 1) := dk_2 (dk_at dksX0_complete_0 7 rfl rfl)
theorem dX0_complete_8 : decode cX0_complete 8 = .ok (.ireturn, 1) := dk_172 (dk_at dksX0_complete_0 8 rfl rfl)
theorem dX0_complete_9 : decode cX0_complete 9 = .ok (.iload_n 1, 1) := dk_27 (dk_at dksX0_complete_0 9 rfl rfl)
theorem dX0_complete_10 : decode cX0_complete 10 = .ok (.invokestatic 154, 3) := dk_184 0 154 (dk_at dksX0_complete_0 10 rfl rfl)
theorem dX0_complete_13 : decode cX0_complete 13 = .ok (.iconst 5, 1) := dk_8 (dk_at dksX0_complete_0 13 rfl rfl)
theorem dX0_complete_14 : decode cX0_complete 14 = .ok (.if_icmp .ne 14, 3) := dk_160 0 14 (dk_at dksX0_complete_0 14 rfl rfl)
theorem dX0_complete_17 : decode cX0_complete 17 = .ok (.aload_n 0, 1) := dk_42 (dk_at dksX0_complete_0 17 rfl rfl)
theorem dX0_complete_18 : decode cX0_complete 18 = .ok (.getfield 26, 3) := dk_180 0 26 (dk_at dksX0_complete_0 18 rfl rfl)
theorem dX0_complete_21 : decode cX0_complete 21 = .ok (.iload_n 1, 1) := dk_27 (dk_at dksX0_complete_0 21 rfl rfl)
theorem dX0_complete_22 : decode cX0_complete 22 = .ok (.invokevirtual 174, 3) := dk_182 0 174 (dk_at dksX0_complete_1 0 rfl rfl)
theorem dX0_complete_25 : decode cX0_complete 25 = .ok (.goto 5, 3) := dk_167 0 5 (dk_at dksX0_complete_1 3 rfl rfl)
theorem dX0_complete_28 : decode cX0_complete 28 = .ok (.bipush (-2), 2) := dk_16 254 (dk_at dksX0_complete_1 6 rfl rfl)
theorem dX0_complete_30 : decode cX0_complete 30 = .ok (.ireturn, 1) := dk_172 (dk_at dksX0_complete_1 8 rfl rfl)
abbrev cX0_sextet : ByteArray := prog_1_method_12_code
def yX0_sextet : MethodName := ⟨RX0, "sextet", "(II)I"⟩
def dkwX0_sextet_2 : List UInt8 := [180, 0, 30, 182, 0, 136, 42, 180, 0, 30, 28, 46, 172]
abbrev dktX0_sextet_2 : List UInt8 := dkwX0_sextet_2 ++ []
def dkwX0_sextet_1 : List UInt8 := [184, 0, 154, 7, 159, 0, 6, 16, 254, 172, 42, 180, 0, 26, 42, 180, 0, 26, 27, 182, 0, 130, 42]
abbrev dktX0_sextet_1 : List UInt8 := dkwX0_sextet_1 ++ dktX0_sextet_2
def dkwX0_sextet_0 : List UInt8 := [27, 184, 0, 150, 153, 0, 15, 28, 133, 9, 20, 0, 177, 184, 0, 11, 154, 0, 5, 2, 172, 27]
abbrev dktX0_sextet_0 : List UInt8 := dkwX0_sextet_0 ++ dktX0_sextet_1
theorem dksX0_sextet_0 : cX0_sextet.data.toList.drop 0 = dktX0_sextet_0 := by decide +kernel
theorem dksX0_sextet_1 : cX0_sextet.data.toList.drop 22 = dktX0_sextet_1 := dk_seg dksX0_sextet_0 22 rfl rfl
theorem dksX0_sextet_2 : cX0_sextet.data.toList.drop 45 = dktX0_sextet_2 := dk_seg dksX0_sextet_1 23 rfl rfl
theorem dX0_sextet_0 : decode cX0_sextet 0 = .ok (.iload_n 1, 1) := dk_27 (dk_at dksX0_sextet_0 0 rfl rfl)
theorem dX0_sextet_1 : decode cX0_sextet 1 = .ok (.invokestatic 150, 3) := dk_184 0 150 (dk_at dksX0_sextet_0 1 rfl rfl)
theorem dX0_sextet_4 : decode cX0_sextet 4 = .ok (.ifCond .eq 15, 3) := dk_153 0 15 (dk_at dksX0_sextet_0 4 rfl rfl)
theorem dX0_sextet_7 : decode cX0_sextet 7 = .ok (.iload_n 2, 1) := dk_28 (dk_at dksX0_sextet_0 7 rfl rfl)
theorem dX0_sextet_8 : decode cX0_sextet 8 = .ok (.i2l, 1) := dk_133 (dk_at dksX0_sextet_0 8 rfl rfl)
theorem dX0_sextet_9 : decode cX0_sextet 9 = .ok (.lconst 0, 1) := dk_9 (dk_at dksX0_sextet_0 9 rfl rfl)
theorem dX0_sextet_10 : decode cX0_sextet 10 = .ok (.ldc2_w 177, 3) := dk_20 0 177 (dk_at dksX0_sextet_0 10 rfl rfl)
theorem dX0_sextet_13 : decode cX0_sextet 13 = .ok (.invokestatic 11, 3) := dk_184 0 11 (dk_at dksX0_sextet_0 13 rfl rfl)
theorem dX0_sextet_16 : decode cX0_sextet 16 = .ok (.ifCond .ne 5, 3) := dk_154 0 5 (dk_at dksX0_sextet_0 16 rfl rfl)
theorem dX0_sextet_19 : decode cX0_sextet 19 = .ok (.iconst (-1), 1) := dk_2 (dk_at dksX0_sextet_0 19 rfl rfl)
theorem dX0_sextet_20 : decode cX0_sextet 20 = .ok (.ireturn, 1) := dk_172 (dk_at dksX0_sextet_0 20 rfl rfl)
theorem dX0_sextet_21 : decode cX0_sextet 21 = .ok (.iload_n 1, 1) := dk_27 (dk_at dksX0_sextet_0 21 rfl rfl)
theorem dX0_sextet_22 : decode cX0_sextet 22 = .ok (.invokestatic 154, 3) := dk_184 0 154 (dk_at dksX0_sextet_1 0 rfl rfl)
theorem dX0_sextet_25 : decode cX0_sextet 25 = .ok (.iconst 4, 1) := dk_7 (dk_at dksX0_sextet_1 3 rfl rfl)
theorem dX0_sextet_26 : decode cX0_sextet 26 = .ok (.if_icmp .eq 6, 3) := dk_159 0 6 (dk_at dksX0_sextet_1 4 rfl rfl)
theorem dX0_sextet_29 : decode cX0_sextet 29 = .ok (.bipush (-2), 2) := dk_16 254 (dk_at dksX0_sextet_1 7 rfl rfl)
theorem dX0_sextet_31 : decode cX0_sextet 31 = .ok (.ireturn, 1) := dk_172 (dk_at dksX0_sextet_1 9 rfl rfl)
theorem dX0_sextet_32 : decode cX0_sextet 32 = .ok (.aload_n 0, 1) := dk_42 (dk_at dksX0_sextet_1 10 rfl rfl)
theorem dX0_sextet_33 : decode cX0_sextet 33 = .ok (.getfield 26, 3) := dk_180 0 26 (dk_at dksX0_sextet_1 11 rfl rfl)
theorem dX0_sextet_36 : decode cX0_sextet 36 = .ok (.aload_n 0, 1) := dk_42 (dk_at dksX0_sextet_1 14 rfl rfl)
theorem dX0_sextet_37 : decode cX0_sextet 37 = .ok (.getfield 26, 3) := dk_180 0 26 (dk_at dksX0_sextet_1 15 rfl rfl)
theorem dX0_sextet_40 : decode cX0_sextet 40 = .ok (.iload_n 1, 1) := dk_27 (dk_at dksX0_sextet_1 18 rfl rfl)
theorem dX0_sextet_41 : decode cX0_sextet 41 = .ok (.invokevirtual 130, 3) := dk_182 0 130 (dk_at dksX0_sextet_1 19 rfl rfl)
theorem dX0_sextet_44 : decode cX0_sextet 44 = .ok (.aload_n 0, 1) := dk_42 (dk_at dksX0_sextet_1 22 rfl rfl)
theorem dX0_sextet_45 : decode cX0_sextet 45 = .ok (.getfield 30, 3) := dk_180 0 30 (dk_at dksX0_sextet_2 0 rfl rfl)
theorem dX0_sextet_48 : decode cX0_sextet 48 = .ok (.invokevirtual 136, 3) := dk_182 0 136 (dk_at dksX0_sextet_2 3 rfl rfl)
theorem dX0_sextet_51 : decode cX0_sextet 51 = .ok (.aload_n 0, 1) := dk_42 (dk_at dksX0_sextet_2 6 rfl rfl)
theorem dX0_sextet_52 : decode cX0_sextet 52 = .ok (.getfield 30, 3) := dk_180 0 30 (dk_at dksX0_sextet_2 7 rfl rfl)
theorem dX0_sextet_55 : decode cX0_sextet 55 = .ok (.iload_n 2, 1) := dk_28 (dk_at dksX0_sextet_2 10 rfl rfl)
theorem dX0_sextet_56 : decode cX0_sextet 56 = .ok (.iaload, 1) := dk_46 (dk_at dksX0_sextet_2 11 rfl rfl)
theorem dX0_sextet_57 : decode cX0_sextet 57 = .ok (.ireturn, 1) := dk_172 (dk_at dksX0_sextet_2 12 rfl rfl)
abbrev cX0_both : ByteArray := prog_1_method_14_code
def yX0_both : MethodName := ⟨RX0, "both", "(II)I"⟩
def dkwX0_both_6 : List UInt8 := [132, 4, 1, 167, 255, 194, 29, 172]
abbrev dktX0_both_6 : List UInt8 := dkwX0_both_6 ++ []
def dkwX0_both_5 : List UInt8 := [180, 0, 34, 184, 0, 179, 153, 0, 7, 4, 167, 0, 4, 3, 96, 62, 132, 5, 1, 167, 255, 213]
abbrev dktX0_both_5 : List UInt8 := dkwX0_both_5 ++ dktX0_both_6
def dkwX0_both_4 : List UInt8 := [16, 6, 162, 0, 42, 29, 42, 180, 0, 30, 21, 4, 46, 42, 180, 0, 30, 21, 5, 46, 128, 42]
abbrev dktX0_both_4 : List UInt8 := dkwX0_both_4 ++ dktX0_both_5
def dkwX0_both_3 : List UInt8 := [182, 0, 136, 3, 62, 3, 54, 4, 21, 4, 16, 6, 162, 0, 61, 21, 4, 4, 96, 54, 5, 21, 5]
abbrev dktX0_both_3 : List UInt8 := dkwX0_both_3 ++ dktX0_both_4
def dkwX0_both_2 : List UInt8 := [180, 0, 30, 182, 0, 136, 42, 180, 0, 26, 42, 180, 0, 26, 28, 182, 0, 130, 42, 180, 0, 34]
abbrev dktX0_both_2 : List UInt8 := dkwX0_both_2 ++ dktX0_both_3
def dkwX0_both_1 : List UInt8 := [28, 184, 0, 154, 7, 159, 0, 6, 16, 254, 172, 42, 180, 0, 26, 42, 180, 0, 26, 27, 182, 0, 130, 42]
abbrev dktX0_both_1 : List UInt8 := dkwX0_both_1 ++ dktX0_both_2
def dkwX0_both_0 : List UInt8 := [27, 184, 0, 150, 153, 0, 10, 28, 184, 0, 150, 154, 0, 5, 2, 172, 27, 184, 0, 154, 7, 160, 0, 11]
abbrev dktX0_both_0 : List UInt8 := dkwX0_both_0 ++ dktX0_both_1
theorem dksX0_both_0 : cX0_both.data.toList.drop 0 = dktX0_both_0 := by decide +kernel
theorem dksX0_both_1 : cX0_both.data.toList.drop 24 = dktX0_both_1 := dk_seg dksX0_both_0 24 rfl rfl
theorem dksX0_both_2 : cX0_both.data.toList.drop 48 = dktX0_both_2 := dk_seg dksX0_both_1 24 rfl rfl
theorem dksX0_both_3 : cX0_both.data.toList.drop 70 = dktX0_both_3 := dk_seg dksX0_both_2 22 rfl rfl
theorem dksX0_both_4 : cX0_both.data.toList.drop 93 = dktX0_both_4 := dk_seg dksX0_both_3 23 rfl rfl
theorem dksX0_both_5 : cX0_both.data.toList.drop 115 = dktX0_both_5 := dk_seg dksX0_both_4 22 rfl rfl
theorem dksX0_both_6 : cX0_both.data.toList.drop 137 = dktX0_both_6 := dk_seg dksX0_both_5 22 rfl rfl
theorem dX0_both_0 : decode cX0_both 0 = .ok (.iload_n 1, 1) := dk_27 (dk_at dksX0_both_0 0 rfl rfl)
theorem dX0_both_1 : decode cX0_both 1 = .ok (.invokestatic 150, 3) := dk_184 0 150 (dk_at dksX0_both_0 1 rfl rfl)
theorem dX0_both_4 : decode cX0_both 4 = .ok (.ifCond .eq 10, 3) := dk_153 0 10 (dk_at dksX0_both_0 4 rfl rfl)
theorem dX0_both_7 : decode cX0_both 7 = .ok (.iload_n 2, 1) := dk_28 (dk_at dksX0_both_0 7 rfl rfl)
theorem dX0_both_8 : decode cX0_both 8 = .ok (.invokestatic 150, 3) := dk_184 0 150 (dk_at dksX0_both_0 8 rfl rfl)
theorem dX0_both_11 : decode cX0_both 11 = .ok (.ifCond .ne 5, 3) := dk_154 0 5 (dk_at dksX0_both_0 11 rfl rfl)
theorem dX0_both_14 : decode cX0_both 14 = .ok (.iconst (-1), 1) := dk_2 (dk_at dksX0_both_0 14 rfl rfl)
theorem dX0_both_15 : decode cX0_both 15 = .ok (.ireturn, 1) := dk_172 (dk_at dksX0_both_0 15 rfl rfl)
theorem dX0_both_16 : decode cX0_both 16 = .ok (.iload_n 1, 1) := dk_27 (dk_at dksX0_both_0 16 rfl rfl)
theorem dX0_both_17 : decode cX0_both 17 = .ok (.invokestatic 154, 3) := dk_184 0 154 (dk_at dksX0_both_0 17 rfl rfl)
theorem dX0_both_20 : decode cX0_both 20 = .ok (.iconst 4, 1) := dk_7 (dk_at dksX0_both_0 20 rfl rfl)
theorem dX0_both_21 : decode cX0_both 21 = .ok (.if_icmp .ne 11, 3) := dk_160 0 11 (dk_at dksX0_both_0 21 rfl rfl)
theorem dX0_both_24 : decode cX0_both 24 = .ok (.iload_n 2, 1) := dk_28 (dk_at dksX0_both_1 0 rfl rfl)
theorem dX0_both_25 : decode cX0_both 25 = .ok (.invokestatic 154, 3) := dk_184 0 154 (dk_at dksX0_both_1 1 rfl rfl)
theorem dX0_both_28 : decode cX0_both 28 = .ok (.iconst 4, 1) := dk_7 (dk_at dksX0_both_1 4 rfl rfl)
theorem dX0_both_29 : decode cX0_both 29 = .ok (.if_icmp .eq 6, 3) := dk_159 0 6 (dk_at dksX0_both_1 5 rfl rfl)
theorem dX0_both_32 : decode cX0_both 32 = .ok (.bipush (-2), 2) := dk_16 254 (dk_at dksX0_both_1 8 rfl rfl)
theorem dX0_both_34 : decode cX0_both 34 = .ok (.ireturn, 1) := dk_172 (dk_at dksX0_both_1 10 rfl rfl)
theorem dX0_both_35 : decode cX0_both 35 = .ok (.aload_n 0, 1) := dk_42 (dk_at dksX0_both_1 11 rfl rfl)
theorem dX0_both_36 : decode cX0_both 36 = .ok (.getfield 26, 3) := dk_180 0 26 (dk_at dksX0_both_1 12 rfl rfl)
theorem dX0_both_39 : decode cX0_both 39 = .ok (.aload_n 0, 1) := dk_42 (dk_at dksX0_both_1 15 rfl rfl)
theorem dX0_both_40 : decode cX0_both 40 = .ok (.getfield 26, 3) := dk_180 0 26 (dk_at dksX0_both_1 16 rfl rfl)
theorem dX0_both_43 : decode cX0_both 43 = .ok (.iload_n 1, 1) := dk_27 (dk_at dksX0_both_1 19 rfl rfl)
theorem dX0_both_44 : decode cX0_both 44 = .ok (.invokevirtual 130, 3) := dk_182 0 130 (dk_at dksX0_both_1 20 rfl rfl)
theorem dX0_both_47 : decode cX0_both 47 = .ok (.aload_n 0, 1) := dk_42 (dk_at dksX0_both_1 23 rfl rfl)
theorem dX0_both_48 : decode cX0_both 48 = .ok (.getfield 30, 3) := dk_180 0 30 (dk_at dksX0_both_2 0 rfl rfl)
theorem dX0_both_51 : decode cX0_both 51 = .ok (.invokevirtual 136, 3) := dk_182 0 136 (dk_at dksX0_both_2 3 rfl rfl)
theorem dX0_both_54 : decode cX0_both 54 = .ok (.aload_n 0, 1) := dk_42 (dk_at dksX0_both_2 6 rfl rfl)
theorem dX0_both_55 : decode cX0_both 55 = .ok (.getfield 26, 3) := dk_180 0 26 (dk_at dksX0_both_2 7 rfl rfl)
theorem dX0_both_58 : decode cX0_both 58 = .ok (.aload_n 0, 1) := dk_42 (dk_at dksX0_both_2 10 rfl rfl)
theorem dX0_both_59 : decode cX0_both 59 = .ok (.getfield 26, 3) := dk_180 0 26 (dk_at dksX0_both_2 11 rfl rfl)
theorem dX0_both_62 : decode cX0_both 62 = .ok (.iload_n 2, 1) := dk_28 (dk_at dksX0_both_2 14 rfl rfl)
theorem dX0_both_63 : decode cX0_both 63 = .ok (.invokevirtual 130, 3) := dk_182 0 130 (dk_at dksX0_both_2 15 rfl rfl)
theorem dX0_both_66 : decode cX0_both 66 = .ok (.aload_n 0, 1) := dk_42 (dk_at dksX0_both_2 18 rfl rfl)
theorem dX0_both_67 : decode cX0_both 67 = .ok (.getfield 34, 3) := dk_180 0 34 (dk_at dksX0_both_2 19 rfl rfl)
theorem dX0_both_70 : decode cX0_both 70 = .ok (.invokevirtual 136, 3) := dk_182 0 136 (dk_at dksX0_both_3 0 rfl rfl)
theorem dX0_both_73 : decode cX0_both 73 = .ok (.iconst 0, 1) := dk_3 (dk_at dksX0_both_3 3 rfl rfl)
theorem dX0_both_74 : decode cX0_both 74 = .ok (.istore_n 3, 1) := dk_62 (dk_at dksX0_both_3 4 rfl rfl)
theorem dX0_both_75 : decode cX0_both 75 = .ok (.iconst 0, 1) := dk_3 (dk_at dksX0_both_3 5 rfl rfl)
theorem dX0_both_76 : decode cX0_both 76 = .ok (.istore 4, 2) := dk_54 4 (dk_at dksX0_both_3 6 rfl rfl)
theorem dX0_both_78 : decode cX0_both 78 = .ok (.iload 4, 2) := dk_21 4 (dk_at dksX0_both_3 8 rfl rfl)
theorem dX0_both_80 : decode cX0_both 80 = .ok (.bipush 6, 2) := dk_16 6 (dk_at dksX0_both_3 10 rfl rfl)
theorem dX0_both_82 : decode cX0_both 82 = .ok (.if_icmp .ge 61, 3) := dk_162 0 61 (dk_at dksX0_both_3 12 rfl rfl)
theorem dX0_both_85 : decode cX0_both 85 = .ok (.iload 4, 2) := dk_21 4 (dk_at dksX0_both_3 15 rfl rfl)
theorem dX0_both_87 : decode cX0_both 87 = .ok (.iconst 1, 1) := dk_4 (dk_at dksX0_both_3 17 rfl rfl)
theorem dX0_both_88 : decode cX0_both 88 = .ok (.iadd, 1) := dk_96 (dk_at dksX0_both_3 18 rfl rfl)
theorem dX0_both_89 : decode cX0_both 89 = .ok (.istore 5, 2) := dk_54 5 (dk_at dksX0_both_3 19 rfl rfl)
theorem dX0_both_91 : decode cX0_both 91 = .ok (.iload 5, 2) := dk_21 5 (dk_at dksX0_both_3 21 rfl rfl)
theorem dX0_both_93 : decode cX0_both 93 = .ok (.bipush 6, 2) := dk_16 6 (dk_at dksX0_both_4 0 rfl rfl)
theorem dX0_both_95 : decode cX0_both 95 = .ok (.if_icmp .ge 42, 3) := dk_162 0 42 (dk_at dksX0_both_4 2 rfl rfl)
theorem dX0_both_98 : decode cX0_both 98 = .ok (.iload_n 3, 1) := dk_29 (dk_at dksX0_both_4 5 rfl rfl)
theorem dX0_both_99 : decode cX0_both 99 = .ok (.aload_n 0, 1) := dk_42 (dk_at dksX0_both_4 6 rfl rfl)
theorem dX0_both_100 : decode cX0_both 100 = .ok (.getfield 30, 3) := dk_180 0 30 (dk_at dksX0_both_4 7 rfl rfl)
theorem dX0_both_103 : decode cX0_both 103 = .ok (.iload 4, 2) := dk_21 4 (dk_at dksX0_both_4 10 rfl rfl)
theorem dX0_both_105 : decode cX0_both 105 = .ok (.iaload, 1) := dk_46 (dk_at dksX0_both_4 12 rfl rfl)
theorem dX0_both_106 : decode cX0_both 106 = .ok (.aload_n 0, 1) := dk_42 (dk_at dksX0_both_4 13 rfl rfl)
theorem dX0_both_107 : decode cX0_both 107 = .ok (.getfield 30, 3) := dk_180 0 30 (dk_at dksX0_both_4 14 rfl rfl)
theorem dX0_both_110 : decode cX0_both 110 = .ok (.iload 5, 2) := dk_21 5 (dk_at dksX0_both_4 17 rfl rfl)
theorem dX0_both_112 : decode cX0_both 112 = .ok (.iaload, 1) := dk_46 (dk_at dksX0_both_4 19 rfl rfl)
theorem dX0_both_113 : decode cX0_both 113 = .ok (.ior, 1) := dk_128 (dk_at dksX0_both_4 20 rfl rfl)
theorem dX0_both_114 : decode cX0_both 114 = .ok (.aload_n 0, 1) := dk_42 (dk_at dksX0_both_4 21 rfl rfl)
theorem dX0_both_115 : decode cX0_both 115 = .ok (.getfield 34, 3) := dk_180 0 34 (dk_at dksX0_both_5 0 rfl rfl)
theorem dX0_both_118 : decode cX0_both 118 = .ok (.invokestatic 179, 3) := dk_184 0 179 (dk_at dksX0_both_5 3 rfl rfl)
theorem dX0_both_121 : decode cX0_both 121 = .ok (.ifCond .eq 7, 3) := dk_153 0 7 (dk_at dksX0_both_5 6 rfl rfl)
theorem dX0_both_124 : decode cX0_both 124 = .ok (.iconst 1, 1) := dk_4 (dk_at dksX0_both_5 9 rfl rfl)
theorem dX0_both_125 : decode cX0_both 125 = .ok (.goto 4, 3) := dk_167 0 4 (dk_at dksX0_both_5 10 rfl rfl)
theorem dX0_both_128 : decode cX0_both 128 = .ok (.iconst 0, 1) := dk_3 (dk_at dksX0_both_5 13 rfl rfl)
theorem dX0_both_129 : decode cX0_both 129 = .ok (.iadd, 1) := dk_96 (dk_at dksX0_both_5 14 rfl rfl)
theorem dX0_both_130 : decode cX0_both 130 = .ok (.istore_n 3, 1) := dk_62 (dk_at dksX0_both_5 15 rfl rfl)
theorem dX0_both_131 : decode cX0_both 131 = .ok (.iinc 5 1, 3) := dk_132 5 1 (dk_at dksX0_both_5 16 rfl rfl)
theorem dX0_both_134 : decode cX0_both 134 = .ok (.goto (-43), 3) := dk_167 255 213 (dk_at dksX0_both_5 19 rfl rfl)
theorem dX0_both_137 : decode cX0_both 137 = .ok (.iinc 4 1, 3) := dk_132 4 1 (dk_at dksX0_both_6 0 rfl rfl)
theorem dX0_both_140 : decode cX0_both 140 = .ok (.goto (-62), 3) := dk_167 255 194 (dk_at dksX0_both_6 3 rfl rfl)
theorem dX0_both_143 : decode cX0_both 143 = .ok (.iload_n 3, 1) := dk_29 (dk_at dksX0_both_6 6 rfl rfl)
theorem dX0_both_144 : decode cX0_both 144 = .ok (.ireturn, 1) := dk_172 (dk_at dksX0_both_6 7 rfl rfl)
abbrev cX0_isWhole : ByteArray := prog_1_method_13_code
def yX0_isWhole : MethodName := ⟨RX0, "isWhole", "(I[I)Z"⟩
def dkwX0_isWhole_2 : List UInt8 := [167, 255, 219, 28, 26, 184, 0, 154, 160, 0, 7, 4, 167, 0, 4, 3, 172]
abbrev dktX0_isWhole_2 : List UInt8 := dkwX0_isWhole_2 ++ []
def dkwX0_isWhole_1 : List UInt8 := [28, 21, 6, 26, 2, 130, 126, 154, 0, 11, 21, 6, 184, 0, 154, 167, 0, 4, 3, 96, 61, 132, 5, 1]
abbrev dktX0_isWhole_1 : List UInt8 := dkwX0_isWhole_1 ++ dktX0_isWhole_2
def dkwX0_isWhole_0 : List UInt8 := [3, 61, 43, 78, 45, 190, 54, 4, 3, 54, 5, 21, 5, 21, 4, 162, 0, 36, 45, 21, 5, 46, 54, 6]
abbrev dktX0_isWhole_0 : List UInt8 := dkwX0_isWhole_0 ++ dktX0_isWhole_1
theorem dksX0_isWhole_0 : cX0_isWhole.data.toList.drop 0 = dktX0_isWhole_0 := by decide +kernel
theorem dksX0_isWhole_1 : cX0_isWhole.data.toList.drop 24 = dktX0_isWhole_1 := dk_seg dksX0_isWhole_0 24 rfl rfl
theorem dksX0_isWhole_2 : cX0_isWhole.data.toList.drop 48 = dktX0_isWhole_2 := dk_seg dksX0_isWhole_1 24 rfl rfl
theorem dX0_isWhole_0 : decode cX0_isWhole 0 = .ok (.iconst 0, 1) := dk_3 (dk_at dksX0_isWhole_0 0 rfl rfl)
theorem dX0_isWhole_1 : decode cX0_isWhole 1 = .ok (.istore_n 2, 1) := dk_61 (dk_at dksX0_isWhole_0 1 rfl rfl)
theorem dX0_isWhole_2 : decode cX0_isWhole 2 = .ok (.aload_n 1, 1) := dk_43 (dk_at dksX0_isWhole_0 2 rfl rfl)
theorem dX0_isWhole_3 : decode cX0_isWhole 3 = .ok (.astore_n 3, 1) := dk_78 (dk_at dksX0_isWhole_0 3 rfl rfl)
theorem dX0_isWhole_4 : decode cX0_isWhole 4 = .ok (.aload_n 3, 1) := dk_45 (dk_at dksX0_isWhole_0 4 rfl rfl)
theorem dX0_isWhole_5 : decode cX0_isWhole 5 = .ok (.arraylength, 1) := dk_190 (dk_at dksX0_isWhole_0 5 rfl rfl)
theorem dX0_isWhole_6 : decode cX0_isWhole 6 = .ok (.istore 4, 2) := dk_54 4 (dk_at dksX0_isWhole_0 6 rfl rfl)
theorem dX0_isWhole_8 : decode cX0_isWhole 8 = .ok (.iconst 0, 1) := dk_3 (dk_at dksX0_isWhole_0 8 rfl rfl)
theorem dX0_isWhole_9 : decode cX0_isWhole 9 = .ok (.istore 5, 2) := dk_54 5 (dk_at dksX0_isWhole_0 9 rfl rfl)
theorem dX0_isWhole_11 : decode cX0_isWhole 11 = .ok (.iload 5, 2) := dk_21 5 (dk_at dksX0_isWhole_0 11 rfl rfl)
theorem dX0_isWhole_13 : decode cX0_isWhole 13 = .ok (.iload 4, 2) := dk_21 4 (dk_at dksX0_isWhole_0 13 rfl rfl)
theorem dX0_isWhole_15 : decode cX0_isWhole 15 = .ok (.if_icmp .ge 36, 3) := dk_162 0 36 (dk_at dksX0_isWhole_0 15 rfl rfl)
theorem dX0_isWhole_18 : decode cX0_isWhole 18 = .ok (.aload_n 3, 1) := dk_45 (dk_at dksX0_isWhole_0 18 rfl rfl)
theorem dX0_isWhole_19 : decode cX0_isWhole 19 = .ok (.iload 5, 2) := dk_21 5 (dk_at dksX0_isWhole_0 19 rfl rfl)
theorem dX0_isWhole_21 : decode cX0_isWhole 21 = .ok (.iaload, 1) := dk_46 (dk_at dksX0_isWhole_0 21 rfl rfl)
theorem dX0_isWhole_22 : decode cX0_isWhole 22 = .ok (.istore 6, 2) := dk_54 6 (dk_at dksX0_isWhole_0 22 rfl rfl)
theorem dX0_isWhole_24 : decode cX0_isWhole 24 = .ok (.iload_n 2, 1) := dk_28 (dk_at dksX0_isWhole_1 0 rfl rfl)
theorem dX0_isWhole_25 : decode cX0_isWhole 25 = .ok (.iload 6, 2) := dk_21 6 (dk_at dksX0_isWhole_1 1 rfl rfl)
theorem dX0_isWhole_27 : decode cX0_isWhole 27 = .ok (.iload_n 0, 1) := dk_26 (dk_at dksX0_isWhole_1 3 rfl rfl)
theorem dX0_isWhole_28 : decode cX0_isWhole 28 = .ok (.iconst (-1), 1) := dk_2 (dk_at dksX0_isWhole_1 4 rfl rfl)
theorem dX0_isWhole_29 : decode cX0_isWhole 29 = .ok (.ixor, 1) := dk_130 (dk_at dksX0_isWhole_1 5 rfl rfl)
theorem dX0_isWhole_30 : decode cX0_isWhole 30 = .ok (.iand, 1) := dk_126 (dk_at dksX0_isWhole_1 6 rfl rfl)
theorem dX0_isWhole_31 : decode cX0_isWhole 31 = .ok (.ifCond .ne 11, 3) := dk_154 0 11 (dk_at dksX0_isWhole_1 7 rfl rfl)
theorem dX0_isWhole_34 : decode cX0_isWhole 34 = .ok (.iload 6, 2) := dk_21 6 (dk_at dksX0_isWhole_1 10 rfl rfl)
theorem dX0_isWhole_36 : decode cX0_isWhole 36 = .ok (.invokestatic 154, 3) := dk_184 0 154 (dk_at dksX0_isWhole_1 12 rfl rfl)
theorem dX0_isWhole_39 : decode cX0_isWhole 39 = .ok (.goto 4, 3) := dk_167 0 4 (dk_at dksX0_isWhole_1 15 rfl rfl)
theorem dX0_isWhole_42 : decode cX0_isWhole 42 = .ok (.iconst 0, 1) := dk_3 (dk_at dksX0_isWhole_1 18 rfl rfl)
theorem dX0_isWhole_43 : decode cX0_isWhole 43 = .ok (.iadd, 1) := dk_96 (dk_at dksX0_isWhole_1 19 rfl rfl)
theorem dX0_isWhole_44 : decode cX0_isWhole 44 = .ok (.istore_n 2, 1) := dk_61 (dk_at dksX0_isWhole_1 20 rfl rfl)
theorem dX0_isWhole_45 : decode cX0_isWhole 45 = .ok (.iinc 5 1, 3) := dk_132 5 1 (dk_at dksX0_isWhole_1 21 rfl rfl)
theorem dX0_isWhole_48 : decode cX0_isWhole 48 = .ok (.goto (-37), 3) := dk_167 255 219 (dk_at dksX0_isWhole_2 0 rfl rfl)
theorem dX0_isWhole_51 : decode cX0_isWhole 51 = .ok (.iload_n 2, 1) := dk_28 (dk_at dksX0_isWhole_2 3 rfl rfl)
theorem dX0_isWhole_52 : decode cX0_isWhole 52 = .ok (.iload_n 0, 1) := dk_26 (dk_at dksX0_isWhole_2 4 rfl rfl)
theorem dX0_isWhole_53 : decode cX0_isWhole 53 = .ok (.invokestatic 154, 3) := dk_184 0 154 (dk_at dksX0_isWhole_2 5 rfl rfl)
theorem dX0_isWhole_56 : decode cX0_isWhole 56 = .ok (.if_icmp .ne 7, 3) := dk_160 0 7 (dk_at dksX0_isWhole_2 8 rfl rfl)
theorem dX0_isWhole_59 : decode cX0_isWhole 59 = .ok (.iconst 1, 1) := dk_4 (dk_at dksX0_isWhole_2 11 rfl rfl)
theorem dX0_isWhole_60 : decode cX0_isWhole 60 = .ok (.goto 4, 3) := dk_167 0 4 (dk_at dksX0_isWhole_2 12 rfl rfl)
theorem dX0_isWhole_63 : decode cX0_isWhole 63 = .ok (.iconst 0, 1) := dk_3 (dk_at dksX0_isWhole_2 15 rfl rfl)
theorem dX0_isWhole_64 : decode cX0_isWhole 64 = .ok (.ireturn, 1) := dk_172 (dk_at dksX0_isWhole_2 16 rfl rfl)
abbrev cX0_met : ByteArray := prog_1_method_15_code
def yX0_met : MethodName := ⟨RX0, "met", "(II)I"⟩
def dkwX0_met_3 : List UInt8 := [96, 62, 132, 6, 1, 167, 255, 220, 29, 172]
abbrev dktX0_met_3 : List UInt8 := dkwX0_met_3 ++ []
def dkwX0_met_2 : List UInt8 := [25, 4, 21, 6, 46, 54, 7, 29, 21, 7, 27, 126, 184, 0, 154, 28, 160, 0, 7, 4, 167, 0, 4, 3]
abbrev dktX0_met_2 : List UInt8 := dkwX0_met_2 ++ dktX0_met_3
def dkwX0_met_1 : List UInt8 := [180, 0, 26, 180, 0, 147, 58, 4, 25, 4, 190, 54, 5, 3, 54, 6, 21, 6, 21, 5, 162, 0, 35]
abbrev dktX0_met_1 : List UInt8 := dkwX0_met_1 ++ dktX0_met_2
def dkwX0_met_0 : List UInt8 := [27, 184, 0, 150, 153, 0, 15, 28, 133, 9, 20, 0, 183, 184, 0, 11, 154, 0, 5, 2, 172, 3, 62, 42]
abbrev dktX0_met_0 : List UInt8 := dkwX0_met_0 ++ dktX0_met_1
theorem dksX0_met_0 : cX0_met.data.toList.drop 0 = dktX0_met_0 := by decide +kernel
theorem dksX0_met_1 : cX0_met.data.toList.drop 24 = dktX0_met_1 := dk_seg dksX0_met_0 24 rfl rfl
theorem dksX0_met_2 : cX0_met.data.toList.drop 47 = dktX0_met_2 := dk_seg dksX0_met_1 23 rfl rfl
theorem dksX0_met_3 : cX0_met.data.toList.drop 71 = dktX0_met_3 := dk_seg dksX0_met_2 24 rfl rfl
theorem dX0_met_0 : decode cX0_met 0 = .ok (.iload_n 1, 1) := dk_27 (dk_at dksX0_met_0 0 rfl rfl)
theorem dX0_met_1 : decode cX0_met 1 = .ok (.invokestatic 150, 3) := dk_184 0 150 (dk_at dksX0_met_0 1 rfl rfl)
theorem dX0_met_4 : decode cX0_met 4 = .ok (.ifCond .eq 15, 3) := dk_153 0 15 (dk_at dksX0_met_0 4 rfl rfl)
theorem dX0_met_7 : decode cX0_met 7 = .ok (.iload_n 2, 1) := dk_28 (dk_at dksX0_met_0 7 rfl rfl)
theorem dX0_met_8 : decode cX0_met 8 = .ok (.i2l, 1) := dk_133 (dk_at dksX0_met_0 8 rfl rfl)
theorem dX0_met_9 : decode cX0_met 9 = .ok (.lconst 0, 1) := dk_9 (dk_at dksX0_met_0 9 rfl rfl)
theorem dX0_met_10 : decode cX0_met 10 = .ok (.ldc2_w 183, 3) := dk_20 0 183 (dk_at dksX0_met_0 10 rfl rfl)
theorem dX0_met_13 : decode cX0_met 13 = .ok (.invokestatic 11, 3) := dk_184 0 11 (dk_at dksX0_met_0 13 rfl rfl)
theorem dX0_met_16 : decode cX0_met 16 = .ok (.ifCond .ne 5, 3) := dk_154 0 5 (dk_at dksX0_met_0 16 rfl rfl)
theorem dX0_met_19 : decode cX0_met 19 = .ok (.iconst (-1), 1) := dk_2 (dk_at dksX0_met_0 19 rfl rfl)
theorem dX0_met_20 : decode cX0_met 20 = .ok (.ireturn, 1) := dk_172 (dk_at dksX0_met_0 20 rfl rfl)
theorem dX0_met_21 : decode cX0_met 21 = .ok (.iconst 0, 1) := dk_3 (dk_at dksX0_met_0 21 rfl rfl)
theorem dX0_met_22 : decode cX0_met 22 = .ok (.istore_n 3, 1) := dk_62 (dk_at dksX0_met_0 22 rfl rfl)
theorem dX0_met_23 : decode cX0_met 23 = .ok (.aload_n 0, 1) := dk_42 (dk_at dksX0_met_0 23 rfl rfl)
theorem dX0_met_24 : decode cX0_met 24 = .ok (.getfield 26, 3) := dk_180 0 26 (dk_at dksX0_met_1 0 rfl rfl)
theorem dX0_met_27 : decode cX0_met 27 = .ok (.getfield 147, 3) := dk_180 0 147 (dk_at dksX0_met_1 3 rfl rfl)
theorem dX0_met_30 : decode cX0_met 30 = .ok (.astore 4, 2) := dk_58 4 (dk_at dksX0_met_1 6 rfl rfl)
theorem dX0_met_32 : decode cX0_met 32 = .ok (.aload 4, 2) := dk_25 4 (dk_at dksX0_met_1 8 rfl rfl)
theorem dX0_met_34 : decode cX0_met 34 = .ok (.arraylength, 1) := dk_190 (dk_at dksX0_met_1 10 rfl rfl)
theorem dX0_met_35 : decode cX0_met 35 = .ok (.istore 5, 2) := dk_54 5 (dk_at dksX0_met_1 11 rfl rfl)
theorem dX0_met_37 : decode cX0_met 37 = .ok (.iconst 0, 1) := dk_3 (dk_at dksX0_met_1 13 rfl rfl)
theorem dX0_met_38 : decode cX0_met 38 = .ok (.istore 6, 2) := dk_54 6 (dk_at dksX0_met_1 14 rfl rfl)
theorem dX0_met_40 : decode cX0_met 40 = .ok (.iload 6, 2) := dk_21 6 (dk_at dksX0_met_1 16 rfl rfl)
theorem dX0_met_42 : decode cX0_met 42 = .ok (.iload 5, 2) := dk_21 5 (dk_at dksX0_met_1 18 rfl rfl)
theorem dX0_met_44 : decode cX0_met 44 = .ok (.if_icmp .ge 35, 3) := dk_162 0 35 (dk_at dksX0_met_1 20 rfl rfl)
theorem dX0_met_47 : decode cX0_met 47 = .ok (.aload 4, 2) := dk_25 4 (dk_at dksX0_met_2 0 rfl rfl)
theorem dX0_met_49 : decode cX0_met 49 = .ok (.iload 6, 2) := dk_21 6 (dk_at dksX0_met_2 2 rfl rfl)
theorem dX0_met_51 : decode cX0_met 51 = .ok (.iaload, 1) := dk_46 (dk_at dksX0_met_2 4 rfl rfl)
theorem dX0_met_52 : decode cX0_met 52 = .ok (.istore 7, 2) := dk_54 7 (dk_at dksX0_met_2 5 rfl rfl)
theorem dX0_met_54 : decode cX0_met 54 = .ok (.iload_n 3, 1) := dk_29 (dk_at dksX0_met_2 7 rfl rfl)
theorem dX0_met_55 : decode cX0_met 55 = .ok (.iload 7, 2) := dk_21 7 (dk_at dksX0_met_2 8 rfl rfl)
theorem dX0_met_57 : decode cX0_met 57 = .ok (.iload_n 1, 1) := dk_27 (dk_at dksX0_met_2 10 rfl rfl)
theorem dX0_met_58 : decode cX0_met 58 = .ok (.iand, 1) := dk_126 (dk_at dksX0_met_2 11 rfl rfl)
theorem dX0_met_59 : decode cX0_met 59 = .ok (.invokestatic 154, 3) := dk_184 0 154 (dk_at dksX0_met_2 12 rfl rfl)
theorem dX0_met_62 : decode cX0_met 62 = .ok (.iload_n 2, 1) := dk_28 (dk_at dksX0_met_2 15 rfl rfl)
theorem dX0_met_63 : decode cX0_met 63 = .ok (.if_icmp .ne 7, 3) := dk_160 0 7 (dk_at dksX0_met_2 16 rfl rfl)
theorem dX0_met_66 : decode cX0_met 66 = .ok (.iconst 1, 1) := dk_4 (dk_at dksX0_met_2 19 rfl rfl)
theorem dX0_met_67 : decode cX0_met 67 = .ok (.goto 4, 3) := dk_167 0 4 (dk_at dksX0_met_2 20 rfl rfl)
theorem dX0_met_70 : decode cX0_met 70 = .ok (.iconst 0, 1) := dk_3 (dk_at dksX0_met_2 23 rfl rfl)
theorem dX0_met_71 : decode cX0_met 71 = .ok (.iadd, 1) := dk_96 (dk_at dksX0_met_3 0 rfl rfl)
theorem dX0_met_72 : decode cX0_met 72 = .ok (.istore_n 3, 1) := dk_62 (dk_at dksX0_met_3 1 rfl rfl)
theorem dX0_met_73 : decode cX0_met 73 = .ok (.iinc 6 1, 3) := dk_132 6 1 (dk_at dksX0_met_3 2 rfl rfl)
theorem dX0_met_76 : decode cX0_met 76 = .ok (.goto (-36), 3) := dk_167 255 220 (dk_at dksX0_met_3 5 rfl rfl)
theorem dX0_met_79 : decode cX0_met 79 = .ok (.iload_n 3, 1) := dk_29 (dk_at dksX0_met_3 8 rfl rfl)
theorem dX0_met_80 : decode cX0_met 80 = .ok (.ireturn, 1) := dk_172 (dk_at dksX0_met_3 9 rfl rfl)
abbrev cX0_move : ByteArray := prog_1_method_18_code
def yX0_move : MethodName := ⟨RX0, "move", "(II)I"⟩
def dkwX0_move_1 : List UInt8 := [28, 182, 0, 196, 167, 0, 4, 2, 172]
abbrev dktX0_move_1 : List UInt8 := dkwX0_move_1 ++ []
def dkwX0_move_0 : List UInt8 := [27, 184, 0, 189, 153, 0, 27, 28, 133, 184, 0, 192, 153, 0, 19, 42, 180, 0, 40, 180, 0, 104, 27, 50]
abbrev dktX0_move_0 : List UInt8 := dkwX0_move_0 ++ dktX0_move_1
theorem dksX0_move_0 : cX0_move.data.toList.drop 0 = dktX0_move_0 := by decide +kernel
theorem dksX0_move_1 : cX0_move.data.toList.drop 24 = dktX0_move_1 := dk_seg dksX0_move_0 24 rfl rfl
theorem dX0_move_0 : decode cX0_move 0 = .ok (.iload_n 1, 1) := dk_27 (dk_at dksX0_move_0 0 rfl rfl)
theorem dX0_move_1 : decode cX0_move 1 = .ok (.invokestatic 189, 3) := dk_184 0 189 (dk_at dksX0_move_0 1 rfl rfl)
theorem dX0_move_4 : decode cX0_move 4 = .ok (.ifCond .eq 27, 3) := dk_153 0 27 (dk_at dksX0_move_0 4 rfl rfl)
theorem dX0_move_7 : decode cX0_move 7 = .ok (.iload_n 2, 1) := dk_28 (dk_at dksX0_move_0 7 rfl rfl)
theorem dX0_move_8 : decode cX0_move 8 = .ok (.i2l, 1) := dk_133 (dk_at dksX0_move_0 8 rfl rfl)
theorem dX0_move_9 : decode cX0_move 9 = .ok (.invokestatic 192, 3) := dk_184 0 192 (dk_at dksX0_move_0 9 rfl rfl)
theorem dX0_move_12 : decode cX0_move 12 = .ok (.ifCond .eq 19, 3) := dk_153 0 19 (dk_at dksX0_move_0 12 rfl rfl)
theorem dX0_move_15 : decode cX0_move 15 = .ok (.aload_n 0, 1) := dk_42 (dk_at dksX0_move_0 15 rfl rfl)
theorem dX0_move_16 : decode cX0_move 16 = .ok (.getfield 40, 3) := dk_180 0 40 (dk_at dksX0_move_0 16 rfl rfl)
theorem dX0_move_19 : decode cX0_move 19 = .ok (.getfield 104, 3) := dk_180 0 104 (dk_at dksX0_move_0 19 rfl rfl)
theorem dX0_move_22 : decode cX0_move 22 = .ok (.iload_n 1, 1) := dk_27 (dk_at dksX0_move_0 22 rfl rfl)
theorem dX0_move_23 : decode cX0_move 23 = .ok (.aaload, 1) := dk_50 (dk_at dksX0_move_0 23 rfl rfl)
theorem dX0_move_24 : decode cX0_move 24 = .ok (.iload_n 2, 1) := dk_28 (dk_at dksX0_move_1 0 rfl rfl)
theorem dX0_move_25 : decode cX0_move 25 = .ok (.invokevirtual 196, 3) := dk_182 0 196 (dk_at dksX0_move_1 1 rfl rfl)
theorem dX0_move_28 : decode cX0_move 28 = .ok (.goto 4, 3) := dk_167 0 4 (dk_at dksX0_move_1 4 rfl rfl)
theorem dX0_move_31 : decode cX0_move 31 = .ok (.iconst (-1), 1) := dk_2 (dk_at dksX0_move_1 7 rfl rfl)
theorem dX0_move_32 : decode cX0_move 32 = .ok (.ireturn, 1) := dk_172 (dk_at dksX0_move_1 8 rfl rfl)
abbrev cX0_isMove : ByteArray := prog_1_method_17_code
def yX0_isMove : MethodName := ⟨RX0, "isMove", "(I)Z"⟩
def dkwX0_isMove_0 : List UInt8 := [26, 133, 9, 20, 0, 187, 184, 0, 11, 172]
abbrev dktX0_isMove_0 : List UInt8 := dkwX0_isMove_0 ++ []
theorem dksX0_isMove_0 : cX0_isMove.data.toList.drop 0 = dktX0_isMove_0 := by decide +kernel
theorem dX0_isMove_0 : decode cX0_isMove 0 = .ok (.iload_n 0, 1) := dk_26 (dk_at dksX0_isMove_0 0 rfl rfl)
theorem dX0_isMove_1 : decode cX0_isMove 1 = .ok (.i2l, 1) := dk_133 (dk_at dksX0_isMove_0 1 rfl rfl)
theorem dX0_isMove_2 : decode cX0_isMove 2 = .ok (.lconst 0, 1) := dk_9 (dk_at dksX0_isMove_0 2 rfl rfl)
theorem dX0_isMove_3 : decode cX0_isMove 3 = .ok (.ldc2_w 187, 3) := dk_20 0 187 (dk_at dksX0_isMove_0 3 rfl rfl)
theorem dX0_isMove_6 : decode cX0_isMove 6 = .ok (.invokestatic 11, 3) := dk_184 0 11 (dk_at dksX0_isMove_0 6 rfl rfl)
theorem dX0_isMove_9 : decode cX0_isMove 9 = .ok (.ireturn, 1) := dk_172 (dk_at dksX0_isMove_0 9 rfl rfl)
abbrev cX0_isPlace : ByteArray := prog_1_method_4_code
def yX0_isPlace : MethodName := ⟨RX0, "isPlace", "(J)Z"⟩
def dkwX0_isPlace_0 : List UInt8 := [30, 9, 20, 0, 9, 184, 0, 11, 172]
abbrev dktX0_isPlace_0 : List UInt8 := dkwX0_isPlace_0 ++ []
theorem dksX0_isPlace_0 : cX0_isPlace.data.toList.drop 0 = dktX0_isPlace_0 := by decide +kernel
theorem dX0_isPlace_0 : decode cX0_isPlace 0 = .ok (.lload_n 0, 1) := dk_30 (dk_at dksX0_isPlace_0 0 rfl rfl)
theorem dX0_isPlace_1 : decode cX0_isPlace 1 = .ok (.lconst 0, 1) := dk_9 (dk_at dksX0_isPlace_0 1 rfl rfl)
theorem dX0_isPlace_2 : decode cX0_isPlace 2 = .ok (.ldc2_w 9, 3) := dk_20 0 9 (dk_at dksX0_isPlace_0 2 rfl rfl)
theorem dX0_isPlace_5 : decode cX0_isPlace 5 = .ok (.invokestatic 11, 3) := dk_184 0 11 (dk_at dksX0_isPlace_0 5 rfl rfl)
theorem dX0_isPlace_8 : decode cX0_isPlace 8 = .ok (.ireturn, 1) := dk_172 (dk_at dksX0_isPlace_0 8 rfl rfl)
abbrev cX0_told : ByteArray := prog_1_method_21_code
def yX0_told : MethodName := ⟨RX0, "told", "(II)I"⟩
def dkwX0_told_5 : List UInt8 := [182, 0, 218, 182, 0, 222, 167, 0, 4, 2, 172]
abbrev dktX0_told_5 : List UInt8 := dkwX0_told_5 ++ []
def dkwX0_told_4 : List UInt8 := [182, 0, 210, 167, 0, 29, 42, 42, 180, 0, 40, 180, 0, 123, 45, 182, 0, 214, 167, 0, 14, 45]
abbrev dktX0_told_4 : List UInt8 := dkwX0_told_4 ++ dktX0_told_5
def dkwX0_told_3 : List UInt8 := [28, 182, 0, 207, 167, 0, 50, 16, 24, 45, 5, 182, 0, 207, 100, 5, 112, 167, 0, 37, 42, 45]
abbrev dktX0_told_3 : List UInt8 := dkwX0_told_3 ++ dktX0_told_4
def dkwX0_told_2 : List UInt8 := [42, 27, 182, 0, 200, 153, 0, 7, 4, 167, 0, 69, 3, 167, 0, 65, 45, 182, 0, 203, 167, 0, 58, 45]
abbrev dktX0_told_2 : List UInt8 := dkwX0_told_2 ++ dktX0_told_3
def dkwX0_told_1 : List UInt8 := [170, 0, 0, 0, 0, 0, 0, 125, 0, 0, 0, 0, 0, 0, 0, 7, 0, 0, 0, 48, 0, 0, 0, 64, 0, 0, 0, 71, 0, 0, 0, 71, 0, 0, 0, 79, 0, 0, 0, 92, 0, 0, 0, 100, 0, 0, 0, 115]
abbrev dktX0_told_1 : List UInt8 := dkwX0_told_1 ++ dktX0_told_2
def dkwX0_told_0 : List UInt8 := [27, 184, 0, 189, 154, 0, 5, 2, 172, 42, 180, 0, 40, 180, 0, 104, 27, 50, 78, 28]
abbrev dktX0_told_0 : List UInt8 := dkwX0_told_0 ++ dktX0_told_1
theorem dksX0_told_0 : cX0_told.data.toList.drop 0 = dktX0_told_0 := by decide +kernel
theorem dksX0_told_1 : cX0_told.data.toList.drop 20 = dktX0_told_1 := dk_seg dksX0_told_0 20 rfl rfl
theorem dksX0_told_2 : cX0_told.data.toList.drop 68 = dktX0_told_2 := dk_seg dksX0_told_1 48 rfl rfl
theorem dksX0_told_3 : cX0_told.data.toList.drop 92 = dktX0_told_3 := dk_seg dksX0_told_2 24 rfl rfl
theorem dksX0_told_4 : cX0_told.data.toList.drop 114 = dktX0_told_4 := dk_seg dksX0_told_3 22 rfl rfl
theorem dksX0_told_5 : cX0_told.data.toList.drop 136 = dktX0_told_5 := dk_seg dksX0_told_4 22 rfl rfl
theorem dX0_told_0 : decode cX0_told 0 = .ok (.iload_n 1, 1) := dk_27 (dk_at dksX0_told_0 0 rfl rfl)
theorem dX0_told_1 : decode cX0_told 1 = .ok (.invokestatic 189, 3) := dk_184 0 189 (dk_at dksX0_told_0 1 rfl rfl)
theorem dX0_told_4 : decode cX0_told 4 = .ok (.ifCond .ne 5, 3) := dk_154 0 5 (dk_at dksX0_told_0 4 rfl rfl)
theorem dX0_told_7 : decode cX0_told 7 = .ok (.iconst (-1), 1) := dk_2 (dk_at dksX0_told_0 7 rfl rfl)
theorem dX0_told_8 : decode cX0_told 8 = .ok (.ireturn, 1) := dk_172 (dk_at dksX0_told_0 8 rfl rfl)
theorem dX0_told_9 : decode cX0_told 9 = .ok (.aload_n 0, 1) := dk_42 (dk_at dksX0_told_0 9 rfl rfl)
theorem dX0_told_10 : decode cX0_told 10 = .ok (.getfield 40, 3) := dk_180 0 40 (dk_at dksX0_told_0 10 rfl rfl)
theorem dX0_told_13 : decode cX0_told 13 = .ok (.getfield 104, 3) := dk_180 0 104 (dk_at dksX0_told_0 13 rfl rfl)
theorem dX0_told_16 : decode cX0_told 16 = .ok (.iload_n 1, 1) := dk_27 (dk_at dksX0_told_0 16 rfl rfl)
theorem dX0_told_17 : decode cX0_told 17 = .ok (.aaload, 1) := dk_50 (dk_at dksX0_told_0 17 rfl rfl)
theorem dX0_told_18 : decode cX0_told 18 = .ok (.astore_n 3, 1) := dk_78 (dk_at dksX0_told_0 18 rfl rfl)
theorem dX0_told_19 : decode cX0_told 19 = .ok (.iload_n 2, 1) := dk_28 (dk_at dksX0_told_0 19 rfl rfl)
theorem dX0_told_20 : decode cX0_told 20 = .ok (.tableswitch 125 0 7 #[48, 64, 71, 71, 79, 92, 100, 115], 48) := by decide +kernel
theorem dX0_told_68 : decode cX0_told 68 = .ok (.aload_n 0, 1) := dk_42 (dk_at dksX0_told_2 0 rfl rfl)
theorem dX0_told_69 : decode cX0_told 69 = .ok (.iload_n 1, 1) := dk_27 (dk_at dksX0_told_2 1 rfl rfl)
theorem dX0_told_70 : decode cX0_told 70 = .ok (.invokevirtual 200, 3) := dk_182 0 200 (dk_at dksX0_told_2 2 rfl rfl)
theorem dX0_told_73 : decode cX0_told 73 = .ok (.ifCond .eq 7, 3) := dk_153 0 7 (dk_at dksX0_told_2 5 rfl rfl)
theorem dX0_told_76 : decode cX0_told 76 = .ok (.iconst 1, 1) := dk_4 (dk_at dksX0_told_2 8 rfl rfl)
theorem dX0_told_77 : decode cX0_told 77 = .ok (.goto 69, 3) := dk_167 0 69 (dk_at dksX0_told_2 9 rfl rfl)
theorem dX0_told_80 : decode cX0_told 80 = .ok (.iconst 0, 1) := dk_3 (dk_at dksX0_told_2 12 rfl rfl)
theorem dX0_told_81 : decode cX0_told 81 = .ok (.goto 65, 3) := dk_167 0 65 (dk_at dksX0_told_2 13 rfl rfl)
theorem dX0_told_84 : decode cX0_told 84 = .ok (.aload_n 3, 1) := dk_45 (dk_at dksX0_told_2 16 rfl rfl)
theorem dX0_told_85 : decode cX0_told 85 = .ok (.invokevirtual 203, 3) := dk_182 0 203 (dk_at dksX0_told_2 17 rfl rfl)
theorem dX0_told_88 : decode cX0_told 88 = .ok (.goto 58, 3) := dk_167 0 58 (dk_at dksX0_told_2 20 rfl rfl)
theorem dX0_told_91 : decode cX0_told 91 = .ok (.aload_n 3, 1) := dk_45 (dk_at dksX0_told_2 23 rfl rfl)
theorem dX0_told_92 : decode cX0_told 92 = .ok (.iload_n 2, 1) := dk_28 (dk_at dksX0_told_3 0 rfl rfl)
theorem dX0_told_93 : decode cX0_told 93 = .ok (.invokevirtual 207, 3) := dk_182 0 207 (dk_at dksX0_told_3 1 rfl rfl)
theorem dX0_told_96 : decode cX0_told 96 = .ok (.goto 50, 3) := dk_167 0 50 (dk_at dksX0_told_3 4 rfl rfl)
theorem dX0_told_99 : decode cX0_told 99 = .ok (.bipush 24, 2) := dk_16 24 (dk_at dksX0_told_3 7 rfl rfl)
theorem dX0_told_101 : decode cX0_told 101 = .ok (.aload_n 3, 1) := dk_45 (dk_at dksX0_told_3 9 rfl rfl)
theorem dX0_told_102 : decode cX0_told 102 = .ok (.iconst 2, 1) := dk_5 (dk_at dksX0_told_3 10 rfl rfl)
theorem dX0_told_103 : decode cX0_told 103 = .ok (.invokevirtual 207, 3) := dk_182 0 207 (dk_at dksX0_told_3 11 rfl rfl)
theorem dX0_told_106 : decode cX0_told 106 = .ok (.isub, 1) := dk_100 (dk_at dksX0_told_3 14 rfl rfl)
theorem dX0_told_107 : decode cX0_told 107 = .ok (.iconst 2, 1) := dk_5 (dk_at dksX0_told_3 15 rfl rfl)
theorem dX0_told_108 : decode cX0_told 108 = .ok (.irem, 1) := dk_112 (dk_at dksX0_told_3 16 rfl rfl)
theorem dX0_told_109 : decode cX0_told 109 = .ok (.goto 37, 3) := dk_167 0 37 (dk_at dksX0_told_3 17 rfl rfl)
theorem dX0_told_112 : decode cX0_told 112 = .ok (.aload_n 0, 1) := dk_42 (dk_at dksX0_told_3 20 rfl rfl)
theorem dX0_told_113 : decode cX0_told 113 = .ok (.aload_n 3, 1) := dk_45 (dk_at dksX0_told_3 21 rfl rfl)
theorem dX0_told_114 : decode cX0_told 114 = .ok (.invokevirtual 210, 3) := dk_182 0 210 (dk_at dksX0_told_4 0 rfl rfl)
theorem dX0_told_117 : decode cX0_told 117 = .ok (.goto 29, 3) := dk_167 0 29 (dk_at dksX0_told_4 3 rfl rfl)
theorem dX0_told_120 : decode cX0_told 120 = .ok (.aload_n 0, 1) := dk_42 (dk_at dksX0_told_4 6 rfl rfl)
theorem dX0_told_121 : decode cX0_told 121 = .ok (.aload_n 0, 1) := dk_42 (dk_at dksX0_told_4 7 rfl rfl)
theorem dX0_told_122 : decode cX0_told 122 = .ok (.getfield 40, 3) := dk_180 0 40 (dk_at dksX0_told_4 8 rfl rfl)
theorem dX0_told_125 : decode cX0_told 125 = .ok (.getfield 123, 3) := dk_180 0 123 (dk_at dksX0_told_4 11 rfl rfl)
theorem dX0_told_128 : decode cX0_told 128 = .ok (.aload_n 3, 1) := dk_45 (dk_at dksX0_told_4 14 rfl rfl)
theorem dX0_told_129 : decode cX0_told 129 = .ok (.invokevirtual 214, 3) := dk_182 0 214 (dk_at dksX0_told_4 15 rfl rfl)
theorem dX0_told_132 : decode cX0_told 132 = .ok (.goto 14, 3) := dk_167 0 14 (dk_at dksX0_told_4 18 rfl rfl)
theorem dX0_told_135 : decode cX0_told 135 = .ok (.aload_n 3, 1) := dk_45 (dk_at dksX0_told_4 21 rfl rfl)
theorem dX0_told_136 : decode cX0_told 136 = .ok (.invokevirtual 218, 3) := dk_182 0 218 (dk_at dksX0_told_5 0 rfl rfl)
theorem dX0_told_139 : decode cX0_told 139 = .ok (.invokevirtual 222, 3) := dk_182 0 222 (dk_at dksX0_told_5 3 rfl rfl)
theorem dX0_told_142 : decode cX0_told 142 = .ok (.goto 4, 3) := dk_167 0 4 (dk_at dksX0_told_5 6 rfl rfl)
theorem dX0_told_145 : decode cX0_told 145 = .ok (.iconst (-1), 1) := dk_2 (dk_at dksX0_told_5 9 rfl rfl)
theorem dX0_told_146 : decode cX0_told 146 = .ok (.ireturn, 1) := dk_172 (dk_at dksX0_told_5 10 rfl rfl)
abbrev cX0_keeps : ByteArray := prog_1_method_16_code
def yX0_keeps : MethodName := ⟨RX0, "keeps", "(I)Z"⟩
def dkwX0_keeps_2 : List UInt8 := [167, 0, 4, 3, 61, 132, 3, 1, 167, 255, 206, 28, 172]
abbrev dktX0_keeps_2 : List UInt8 := dkwX0_keeps_2 ++ []
def dkwX0_keeps_1 : List UInt8 := [180, 0, 104, 27, 50, 42, 180, 0, 26, 180, 0, 120, 29, 46, 182, 0, 185, 182, 0, 130, 154, 0, 7, 4]
abbrev dktX0_keeps_1 : List UInt8 := dkwX0_keeps_1 ++ dktX0_keeps_2
def dkwX0_keeps_0 : List UInt8 := [4, 61, 3, 62, 29, 16, 12, 162, 0, 50, 28, 153, 0, 46, 42, 180, 0, 26, 42, 180, 0, 40]
abbrev dktX0_keeps_0 : List UInt8 := dkwX0_keeps_0 ++ dktX0_keeps_1
theorem dksX0_keeps_0 : cX0_keeps.data.toList.drop 0 = dktX0_keeps_0 := by decide +kernel
theorem dksX0_keeps_1 : cX0_keeps.data.toList.drop 22 = dktX0_keeps_1 := dk_seg dksX0_keeps_0 22 rfl rfl
theorem dksX0_keeps_2 : cX0_keeps.data.toList.drop 46 = dktX0_keeps_2 := dk_seg dksX0_keeps_1 24 rfl rfl
theorem dX0_keeps_0 : decode cX0_keeps 0 = .ok (.iconst 1, 1) := dk_4 (dk_at dksX0_keeps_0 0 rfl rfl)
theorem dX0_keeps_1 : decode cX0_keeps 1 = .ok (.istore_n 2, 1) := dk_61 (dk_at dksX0_keeps_0 1 rfl rfl)
theorem dX0_keeps_2 : decode cX0_keeps 2 = .ok (.iconst 0, 1) := dk_3 (dk_at dksX0_keeps_0 2 rfl rfl)
theorem dX0_keeps_3 : decode cX0_keeps 3 = .ok (.istore_n 3, 1) := dk_62 (dk_at dksX0_keeps_0 3 rfl rfl)
theorem dX0_keeps_4 : decode cX0_keeps 4 = .ok (.iload_n 3, 1) := dk_29 (dk_at dksX0_keeps_0 4 rfl rfl)
theorem dX0_keeps_5 : decode cX0_keeps 5 = .ok (.bipush 12, 2) := dk_16 12 (dk_at dksX0_keeps_0 5 rfl rfl)
theorem dX0_keeps_7 : decode cX0_keeps 7 = .ok (.if_icmp .ge 50, 3) := dk_162 0 50 (dk_at dksX0_keeps_0 7 rfl rfl)
theorem dX0_keeps_10 : decode cX0_keeps 10 = .ok (.iload_n 2, 1) := dk_28 (dk_at dksX0_keeps_0 10 rfl rfl)
theorem dX0_keeps_11 : decode cX0_keeps 11 = .ok (.ifCond .eq 46, 3) := dk_153 0 46 (dk_at dksX0_keeps_0 11 rfl rfl)
theorem dX0_keeps_14 : decode cX0_keeps 14 = .ok (.aload_n 0, 1) := dk_42 (dk_at dksX0_keeps_0 14 rfl rfl)
theorem dX0_keeps_15 : decode cX0_keeps 15 = .ok (.getfield 26, 3) := dk_180 0 26 (dk_at dksX0_keeps_0 15 rfl rfl)
theorem dX0_keeps_18 : decode cX0_keeps 18 = .ok (.aload_n 0, 1) := dk_42 (dk_at dksX0_keeps_0 18 rfl rfl)
theorem dX0_keeps_19 : decode cX0_keeps 19 = .ok (.getfield 40, 3) := dk_180 0 40 (dk_at dksX0_keeps_0 19 rfl rfl)
theorem dX0_keeps_22 : decode cX0_keeps 22 = .ok (.getfield 104, 3) := dk_180 0 104 (dk_at dksX0_keeps_1 0 rfl rfl)
theorem dX0_keeps_25 : decode cX0_keeps 25 = .ok (.iload_n 1, 1) := dk_27 (dk_at dksX0_keeps_1 3 rfl rfl)
theorem dX0_keeps_26 : decode cX0_keeps 26 = .ok (.aaload, 1) := dk_50 (dk_at dksX0_keeps_1 4 rfl rfl)
theorem dX0_keeps_27 : decode cX0_keeps 27 = .ok (.aload_n 0, 1) := dk_42 (dk_at dksX0_keeps_1 5 rfl rfl)
theorem dX0_keeps_28 : decode cX0_keeps 28 = .ok (.getfield 26, 3) := dk_180 0 26 (dk_at dksX0_keeps_1 6 rfl rfl)
theorem dX0_keeps_31 : decode cX0_keeps 31 = .ok (.getfield 120, 3) := dk_180 0 120 (dk_at dksX0_keeps_1 9 rfl rfl)
theorem dX0_keeps_34 : decode cX0_keeps 34 = .ok (.iload_n 3, 1) := dk_29 (dk_at dksX0_keeps_1 12 rfl rfl)
theorem dX0_keeps_35 : decode cX0_keeps 35 = .ok (.iaload, 1) := dk_46 (dk_at dksX0_keeps_1 13 rfl rfl)
theorem dX0_keeps_36 : decode cX0_keeps 36 = .ok (.invokevirtual 185, 3) := dk_182 0 185 (dk_at dksX0_keeps_1 14 rfl rfl)
theorem dX0_keeps_39 : decode cX0_keeps 39 = .ok (.invokevirtual 130, 3) := dk_182 0 130 (dk_at dksX0_keeps_1 17 rfl rfl)
theorem dX0_keeps_42 : decode cX0_keeps 42 = .ok (.ifCond .ne 7, 3) := dk_154 0 7 (dk_at dksX0_keeps_1 20 rfl rfl)
theorem dX0_keeps_45 : decode cX0_keeps 45 = .ok (.iconst 1, 1) := dk_4 (dk_at dksX0_keeps_1 23 rfl rfl)
theorem dX0_keeps_46 : decode cX0_keeps 46 = .ok (.goto 4, 3) := dk_167 0 4 (dk_at dksX0_keeps_2 0 rfl rfl)
theorem dX0_keeps_49 : decode cX0_keeps 49 = .ok (.iconst 0, 1) := dk_3 (dk_at dksX0_keeps_2 3 rfl rfl)
theorem dX0_keeps_50 : decode cX0_keeps 50 = .ok (.istore_n 2, 1) := dk_61 (dk_at dksX0_keeps_2 4 rfl rfl)
theorem dX0_keeps_51 : decode cX0_keeps 51 = .ok (.iinc 3 1, 3) := dk_132 3 1 (dk_at dksX0_keeps_2 5 rfl rfl)
theorem dX0_keeps_54 : decode cX0_keeps 54 = .ok (.goto (-50), 3) := dk_167 255 206 (dk_at dksX0_keeps_2 8 rfl rfl)
theorem dX0_keeps_57 : decode cX0_keeps 57 = .ok (.iload_n 2, 1) := dk_28 (dk_at dksX0_keeps_2 11 rfl rfl)
theorem dX0_keeps_58 : decode cX0_keeps 58 = .ok (.ireturn, 1) := dk_172 (dk_at dksX0_keeps_2 12 rfl rfl)
abbrev cX0_octadsStaying : ByteArray := prog_1_method_19_code
def yX0_octadsStaying : MethodName := ⟨RX0, "octadsStaying", "(LEightBlocks$Move;)I"⟩
def dkwX0_octadsStaying_2 : List UInt8 := [61, 132, 5, 1, 167, 255, 221, 28, 172]
abbrev dktX0_octadsStaying_2 : List UInt8 := dkwX0_octadsStaying_2 ++ []
def dkwX0_octadsStaying_1 : List UInt8 := [45, 21, 5, 46, 54, 6, 28, 43, 21, 6, 182, 0, 185, 21, 6, 160, 0, 7, 4, 167, 0, 4, 3, 96]
abbrev dktX0_octadsStaying_1 : List UInt8 := dkwX0_octadsStaying_1 ++ dktX0_octadsStaying_2
def dkwX0_octadsStaying_0 : List UInt8 := [3, 61, 42, 180, 0, 26, 180, 0, 147, 78, 45, 190, 54, 4, 3, 54, 5, 21, 5, 21, 4, 162, 0, 34]
abbrev dktX0_octadsStaying_0 : List UInt8 := dkwX0_octadsStaying_0 ++ dktX0_octadsStaying_1
theorem dksX0_octadsStaying_0 : cX0_octadsStaying.data.toList.drop 0 = dktX0_octadsStaying_0 := by decide +kernel
theorem dksX0_octadsStaying_1 : cX0_octadsStaying.data.toList.drop 24 = dktX0_octadsStaying_1 := dk_seg dksX0_octadsStaying_0 24 rfl rfl
theorem dksX0_octadsStaying_2 : cX0_octadsStaying.data.toList.drop 48 = dktX0_octadsStaying_2 := dk_seg dksX0_octadsStaying_1 24 rfl rfl
theorem dX0_octadsStaying_0 : decode cX0_octadsStaying 0 = .ok (.iconst 0, 1) := dk_3 (dk_at dksX0_octadsStaying_0 0 rfl rfl)
theorem dX0_octadsStaying_1 : decode cX0_octadsStaying 1 = .ok (.istore_n 2, 1) := dk_61 (dk_at dksX0_octadsStaying_0 1 rfl rfl)
theorem dX0_octadsStaying_2 : decode cX0_octadsStaying 2 = .ok (.aload_n 0, 1) := dk_42 (dk_at dksX0_octadsStaying_0 2 rfl rfl)
theorem dX0_octadsStaying_3 : decode cX0_octadsStaying 3 = .ok (.getfield 26, 3) := dk_180 0 26 (dk_at dksX0_octadsStaying_0 3 rfl rfl)
theorem dX0_octadsStaying_6 : decode cX0_octadsStaying 6 = .ok (.getfield 147, 3) := dk_180 0 147 (dk_at dksX0_octadsStaying_0 6 rfl rfl)
theorem dX0_octadsStaying_9 : decode cX0_octadsStaying 9 = .ok (.astore_n 3, 1) := dk_78 (dk_at dksX0_octadsStaying_0 9 rfl rfl)
theorem dX0_octadsStaying_10 : decode cX0_octadsStaying 10 = .ok (.aload_n 3, 1) := dk_45 (dk_at dksX0_octadsStaying_0 10 rfl rfl)
theorem dX0_octadsStaying_11 : decode cX0_octadsStaying 11 = .ok (.arraylength, 1) := dk_190 (dk_at dksX0_octadsStaying_0 11 rfl rfl)
theorem dX0_octadsStaying_12 : decode cX0_octadsStaying 12 = .ok (.istore 4, 2) := dk_54 4 (dk_at dksX0_octadsStaying_0 12 rfl rfl)
theorem dX0_octadsStaying_14 : decode cX0_octadsStaying 14 = .ok (.iconst 0, 1) := dk_3 (dk_at dksX0_octadsStaying_0 14 rfl rfl)
theorem dX0_octadsStaying_15 : decode cX0_octadsStaying 15 = .ok (.istore 5, 2) := dk_54 5 (dk_at dksX0_octadsStaying_0 15 rfl rfl)
theorem dX0_octadsStaying_17 : decode cX0_octadsStaying 17 = .ok (.iload 5, 2) := dk_21 5 (dk_at dksX0_octadsStaying_0 17 rfl rfl)
theorem dX0_octadsStaying_19 : decode cX0_octadsStaying 19 = .ok (.iload 4, 2) := dk_21 4 (dk_at dksX0_octadsStaying_0 19 rfl rfl)
theorem dX0_octadsStaying_21 : decode cX0_octadsStaying 21 = .ok (.if_icmp .ge 34, 3) := dk_162 0 34 (dk_at dksX0_octadsStaying_0 21 rfl rfl)
theorem dX0_octadsStaying_24 : decode cX0_octadsStaying 24 = .ok (.aload_n 3, 1) := dk_45 (dk_at dksX0_octadsStaying_1 0 rfl rfl)
theorem dX0_octadsStaying_25 : decode cX0_octadsStaying 25 = .ok (.iload 5, 2) := dk_21 5 (dk_at dksX0_octadsStaying_1 1 rfl rfl)
theorem dX0_octadsStaying_27 : decode cX0_octadsStaying 27 = .ok (.iaload, 1) := dk_46 (dk_at dksX0_octadsStaying_1 3 rfl rfl)
theorem dX0_octadsStaying_28 : decode cX0_octadsStaying 28 = .ok (.istore 6, 2) := dk_54 6 (dk_at dksX0_octadsStaying_1 4 rfl rfl)
theorem dX0_octadsStaying_30 : decode cX0_octadsStaying 30 = .ok (.iload_n 2, 1) := dk_28 (dk_at dksX0_octadsStaying_1 6 rfl rfl)
theorem dX0_octadsStaying_31 : decode cX0_octadsStaying 31 = .ok (.aload_n 1, 1) := dk_43 (dk_at dksX0_octadsStaying_1 7 rfl rfl)
theorem dX0_octadsStaying_32 : decode cX0_octadsStaying 32 = .ok (.iload 6, 2) := dk_21 6 (dk_at dksX0_octadsStaying_1 8 rfl rfl)
theorem dX0_octadsStaying_34 : decode cX0_octadsStaying 34 = .ok (.invokevirtual 185, 3) := dk_182 0 185 (dk_at dksX0_octadsStaying_1 10 rfl rfl)
theorem dX0_octadsStaying_37 : decode cX0_octadsStaying 37 = .ok (.iload 6, 2) := dk_21 6 (dk_at dksX0_octadsStaying_1 13 rfl rfl)
theorem dX0_octadsStaying_39 : decode cX0_octadsStaying 39 = .ok (.if_icmp .ne 7, 3) := dk_160 0 7 (dk_at dksX0_octadsStaying_1 15 rfl rfl)
theorem dX0_octadsStaying_42 : decode cX0_octadsStaying 42 = .ok (.iconst 1, 1) := dk_4 (dk_at dksX0_octadsStaying_1 18 rfl rfl)
theorem dX0_octadsStaying_43 : decode cX0_octadsStaying 43 = .ok (.goto 4, 3) := dk_167 0 4 (dk_at dksX0_octadsStaying_1 19 rfl rfl)
theorem dX0_octadsStaying_46 : decode cX0_octadsStaying 46 = .ok (.iconst 0, 1) := dk_3 (dk_at dksX0_octadsStaying_1 22 rfl rfl)
theorem dX0_octadsStaying_47 : decode cX0_octadsStaying 47 = .ok (.iadd, 1) := dk_96 (dk_at dksX0_octadsStaying_1 23 rfl rfl)
theorem dX0_octadsStaying_48 : decode cX0_octadsStaying 48 = .ok (.istore_n 2, 1) := dk_61 (dk_at dksX0_octadsStaying_2 0 rfl rfl)
theorem dX0_octadsStaying_49 : decode cX0_octadsStaying 49 = .ok (.iinc 5 1, 3) := dk_132 5 1 (dk_at dksX0_octadsStaying_2 1 rfl rfl)
theorem dX0_octadsStaying_52 : decode cX0_octadsStaying 52 = .ok (.goto (-35), 3) := dk_167 255 221 (dk_at dksX0_octadsStaying_2 4 rfl rfl)
theorem dX0_octadsStaying_55 : decode cX0_octadsStaying 55 = .ok (.iload_n 2, 1) := dk_28 (dk_at dksX0_octadsStaying_2 7 rfl rfl)
theorem dX0_octadsStaying_56 : decode cX0_octadsStaying 56 = .ok (.ireturn, 1) := dk_172 (dk_at dksX0_octadsStaying_2 8 rfl rfl)
abbrev cX0_whereGoes : ByteArray := prog_1_method_20_code
def yX0_whereGoes : MethodName := ⟨RX0, "whereGoes", "(ILEightBlocks$Move;)I"⟩
def dkwX0_whereGoes_1 : List UInt8 := [167, 0, 4, 3, 172]
abbrev dktX0_whereGoes_1 : List UInt8 := dkwX0_whereGoes_1 ++ []
def dkwX0_whereGoes_0 : List UInt8 := [44, 27, 182, 0, 185, 62, 29, 27, 160, 0, 7, 4, 167, 0, 16, 29, 18, 199, 27, 100, 160, 0, 7, 5]
abbrev dktX0_whereGoes_0 : List UInt8 := dkwX0_whereGoes_0 ++ dktX0_whereGoes_1
theorem dksX0_whereGoes_0 : cX0_whereGoes.data.toList.drop 0 = dktX0_whereGoes_0 := by decide +kernel
theorem dksX0_whereGoes_1 : cX0_whereGoes.data.toList.drop 24 = dktX0_whereGoes_1 := dk_seg dksX0_whereGoes_0 24 rfl rfl
theorem dX0_whereGoes_0 : decode cX0_whereGoes 0 = .ok (.aload_n 2, 1) := dk_44 (dk_at dksX0_whereGoes_0 0 rfl rfl)
theorem dX0_whereGoes_1 : decode cX0_whereGoes 1 = .ok (.iload_n 1, 1) := dk_27 (dk_at dksX0_whereGoes_0 1 rfl rfl)
theorem dX0_whereGoes_2 : decode cX0_whereGoes 2 = .ok (.invokevirtual 185, 3) := dk_182 0 185 (dk_at dksX0_whereGoes_0 2 rfl rfl)
theorem dX0_whereGoes_5 : decode cX0_whereGoes 5 = .ok (.istore_n 3, 1) := dk_62 (dk_at dksX0_whereGoes_0 5 rfl rfl)
theorem dX0_whereGoes_6 : decode cX0_whereGoes 6 = .ok (.iload_n 3, 1) := dk_29 (dk_at dksX0_whereGoes_0 6 rfl rfl)
theorem dX0_whereGoes_7 : decode cX0_whereGoes 7 = .ok (.iload_n 1, 1) := dk_27 (dk_at dksX0_whereGoes_0 7 rfl rfl)
theorem dX0_whereGoes_8 : decode cX0_whereGoes 8 = .ok (.if_icmp .ne 7, 3) := dk_160 0 7 (dk_at dksX0_whereGoes_0 8 rfl rfl)
theorem dX0_whereGoes_11 : decode cX0_whereGoes 11 = .ok (.iconst 1, 1) := dk_4 (dk_at dksX0_whereGoes_0 11 rfl rfl)
theorem dX0_whereGoes_12 : decode cX0_whereGoes 12 = .ok (.goto 16, 3) := dk_167 0 16 (dk_at dksX0_whereGoes_0 12 rfl rfl)
theorem dX0_whereGoes_15 : decode cX0_whereGoes 15 = .ok (.iload_n 3, 1) := dk_29 (dk_at dksX0_whereGoes_0 15 rfl rfl)
theorem dX0_whereGoes_16 : decode cX0_whereGoes 16 = .ok (.ldc 199, 2) := dk_18 199 (dk_at dksX0_whereGoes_0 16 rfl rfl)
theorem dX0_whereGoes_18 : decode cX0_whereGoes 18 = .ok (.iload_n 1, 1) := dk_27 (dk_at dksX0_whereGoes_0 18 rfl rfl)
theorem dX0_whereGoes_19 : decode cX0_whereGoes 19 = .ok (.isub, 1) := dk_100 (dk_at dksX0_whereGoes_0 19 rfl rfl)
theorem dX0_whereGoes_20 : decode cX0_whereGoes 20 = .ok (.if_icmp .ne 7, 3) := dk_160 0 7 (dk_at dksX0_whereGoes_0 20 rfl rfl)
theorem dX0_whereGoes_23 : decode cX0_whereGoes 23 = .ok (.iconst 2, 1) := dk_5 (dk_at dksX0_whereGoes_0 23 rfl rfl)
theorem dX0_whereGoes_24 : decode cX0_whereGoes 24 = .ok (.goto 4, 3) := dk_167 0 4 (dk_at dksX0_whereGoes_1 0 rfl rfl)
theorem dX0_whereGoes_27 : decode cX0_whereGoes 27 = .ok (.iconst 0, 1) := dk_3 (dk_at dksX0_whereGoes_1 3 rfl rfl)
theorem dX0_whereGoes_28 : decode cX0_whereGoes 28 = .ok (.ireturn, 1) := dk_172 (dk_at dksX0_whereGoes_1 4 rfl rfl)
abbrev cX0_letter : ByteArray := prog_1_method_22_code
def yX0_letter : MethodName := ⟨RX0, "letter", "(II)I"⟩
def dkwX0_letter_2 : List UInt8 := [16, 252, 172]
abbrev dktX0_letter_2 : List UInt8 := dkwX0_letter_2 ++ []
def dkwX0_letter_1 : List UInt8 := [182, 0, 218, 78, 28, 45, 185, 0, 225, 1, 0, 162, 0, 13, 45, 28, 185, 0, 228, 2, 0, 167, 0, 5]
abbrev dktX0_letter_1 : List UInt8 := dkwX0_letter_1 ++ dktX0_letter_2
def dkwX0_letter_0 : List UInt8 := [27, 184, 0, 189, 153, 0, 7, 28, 156, 0, 5, 2, 172, 42, 180, 0, 40, 180, 0, 104, 27, 50]
abbrev dktX0_letter_0 : List UInt8 := dkwX0_letter_0 ++ dktX0_letter_1
theorem dksX0_letter_0 : cX0_letter.data.toList.drop 0 = dktX0_letter_0 := by decide +kernel
theorem dksX0_letter_1 : cX0_letter.data.toList.drop 22 = dktX0_letter_1 := dk_seg dksX0_letter_0 22 rfl rfl
theorem dksX0_letter_2 : cX0_letter.data.toList.drop 46 = dktX0_letter_2 := dk_seg dksX0_letter_1 24 rfl rfl
theorem dX0_letter_0 : decode cX0_letter 0 = .ok (.iload_n 1, 1) := dk_27 (dk_at dksX0_letter_0 0 rfl rfl)
theorem dX0_letter_1 : decode cX0_letter 1 = .ok (.invokestatic 189, 3) := dk_184 0 189 (dk_at dksX0_letter_0 1 rfl rfl)
theorem dX0_letter_4 : decode cX0_letter 4 = .ok (.ifCond .eq 7, 3) := dk_153 0 7 (dk_at dksX0_letter_0 4 rfl rfl)
theorem dX0_letter_7 : decode cX0_letter 7 = .ok (.iload_n 2, 1) := dk_28 (dk_at dksX0_letter_0 7 rfl rfl)
theorem dX0_letter_8 : decode cX0_letter 8 = .ok (.ifCond .ge 5, 3) := dk_156 0 5 (dk_at dksX0_letter_0 8 rfl rfl)
theorem dX0_letter_11 : decode cX0_letter 11 = .ok (.iconst (-1), 1) := dk_2 (dk_at dksX0_letter_0 11 rfl rfl)
theorem dX0_letter_12 : decode cX0_letter 12 = .ok (.ireturn, 1) := dk_172 (dk_at dksX0_letter_0 12 rfl rfl)
theorem dX0_letter_13 : decode cX0_letter 13 = .ok (.aload_n 0, 1) := dk_42 (dk_at dksX0_letter_0 13 rfl rfl)
theorem dX0_letter_14 : decode cX0_letter 14 = .ok (.getfield 40, 3) := dk_180 0 40 (dk_at dksX0_letter_0 14 rfl rfl)
theorem dX0_letter_17 : decode cX0_letter 17 = .ok (.getfield 104, 3) := dk_180 0 104 (dk_at dksX0_letter_0 17 rfl rfl)
theorem dX0_letter_20 : decode cX0_letter 20 = .ok (.iload_n 1, 1) := dk_27 (dk_at dksX0_letter_0 20 rfl rfl)
theorem dX0_letter_21 : decode cX0_letter 21 = .ok (.aaload, 1) := dk_50 (dk_at dksX0_letter_0 21 rfl rfl)
theorem dX0_letter_22 : decode cX0_letter 22 = .ok (.invokevirtual 218, 3) := dk_182 0 218 (dk_at dksX0_letter_1 0 rfl rfl)
theorem dX0_letter_25 : decode cX0_letter 25 = .ok (.astore_n 3, 1) := dk_78 (dk_at dksX0_letter_1 3 rfl rfl)
theorem dX0_letter_26 : decode cX0_letter 26 = .ok (.iload_n 2, 1) := dk_28 (dk_at dksX0_letter_1 4 rfl rfl)
theorem dX0_letter_27 : decode cX0_letter 27 = .ok (.aload_n 3, 1) := dk_45 (dk_at dksX0_letter_1 5 rfl rfl)
theorem dX0_letter_28 : decode cX0_letter 28 = .ok (.invokeinterface 225 1, 5) := by decide +kernel
theorem dX0_letter_33 : decode cX0_letter 33 = .ok (.if_icmp .ge 13, 3) := dk_162 0 13 (dk_at dksX0_letter_1 11 rfl rfl)
theorem dX0_letter_36 : decode cX0_letter 36 = .ok (.aload_n 3, 1) := dk_45 (dk_at dksX0_letter_1 14 rfl rfl)
theorem dX0_letter_37 : decode cX0_letter 37 = .ok (.iload_n 2, 1) := dk_28 (dk_at dksX0_letter_1 15 rfl rfl)
theorem dX0_letter_38 : decode cX0_letter 38 = .ok (.invokeinterface 228 2, 5) := by decide +kernel
theorem dX0_letter_43 : decode cX0_letter 43 = .ok (.goto 5, 3) := dk_167 0 5 (dk_at dksX0_letter_1 21 rfl rfl)
theorem dX0_letter_46 : decode cX0_letter 46 = .ok (.bipush (-4), 2) := dk_16 252 (dk_at dksX0_letter_2 0 rfl rfl)
theorem dX0_letter_48 : decode cX0_letter 48 = .ok (.ireturn, 1) := dk_172 (dk_at dksX0_letter_2 2 rfl rfl)
abbrev cX0_sent : ByteArray := prog_1_method_23_code
def yX0_sent : MethodName := ⟨RX0, "sent", "(II)I"⟩
def dkwX0_sent_1 : List UInt8 := [182, 0, 185, 167, 0, 4, 2, 172]
abbrev dktX0_sent_1 : List UInt8 := dkwX0_sent_1 ++ []
def dkwX0_sent_0 : List UInt8 := [27, 184, 0, 189, 153, 0, 26, 28, 184, 0, 150, 153, 0, 19, 42, 180, 0, 40, 180, 0, 104, 27, 50, 28]
abbrev dktX0_sent_0 : List UInt8 := dkwX0_sent_0 ++ dktX0_sent_1
theorem dksX0_sent_0 : cX0_sent.data.toList.drop 0 = dktX0_sent_0 := by decide +kernel
theorem dksX0_sent_1 : cX0_sent.data.toList.drop 24 = dktX0_sent_1 := dk_seg dksX0_sent_0 24 rfl rfl
theorem dX0_sent_0 : decode cX0_sent 0 = .ok (.iload_n 1, 1) := dk_27 (dk_at dksX0_sent_0 0 rfl rfl)
theorem dX0_sent_1 : decode cX0_sent 1 = .ok (.invokestatic 189, 3) := dk_184 0 189 (dk_at dksX0_sent_0 1 rfl rfl)
theorem dX0_sent_4 : decode cX0_sent 4 = .ok (.ifCond .eq 26, 3) := dk_153 0 26 (dk_at dksX0_sent_0 4 rfl rfl)
theorem dX0_sent_7 : decode cX0_sent 7 = .ok (.iload_n 2, 1) := dk_28 (dk_at dksX0_sent_0 7 rfl rfl)
theorem dX0_sent_8 : decode cX0_sent 8 = .ok (.invokestatic 150, 3) := dk_184 0 150 (dk_at dksX0_sent_0 8 rfl rfl)
theorem dX0_sent_11 : decode cX0_sent 11 = .ok (.ifCond .eq 19, 3) := dk_153 0 19 (dk_at dksX0_sent_0 11 rfl rfl)
theorem dX0_sent_14 : decode cX0_sent 14 = .ok (.aload_n 0, 1) := dk_42 (dk_at dksX0_sent_0 14 rfl rfl)
theorem dX0_sent_15 : decode cX0_sent 15 = .ok (.getfield 40, 3) := dk_180 0 40 (dk_at dksX0_sent_0 15 rfl rfl)
theorem dX0_sent_18 : decode cX0_sent 18 = .ok (.getfield 104, 3) := dk_180 0 104 (dk_at dksX0_sent_0 18 rfl rfl)
theorem dX0_sent_21 : decode cX0_sent 21 = .ok (.iload_n 1, 1) := dk_27 (dk_at dksX0_sent_0 21 rfl rfl)
theorem dX0_sent_22 : decode cX0_sent 22 = .ok (.aaload, 1) := dk_50 (dk_at dksX0_sent_0 22 rfl rfl)
theorem dX0_sent_23 : decode cX0_sent 23 = .ok (.iload_n 2, 1) := dk_28 (dk_at dksX0_sent_0 23 rfl rfl)
theorem dX0_sent_24 : decode cX0_sent 24 = .ok (.invokevirtual 185, 3) := dk_182 0 185 (dk_at dksX0_sent_1 0 rfl rfl)
theorem dX0_sent_27 : decode cX0_sent 27 = .ok (.goto 4, 3) := dk_167 0 4 (dk_at dksX0_sent_1 3 rfl rfl)
theorem dX0_sent_30 : decode cX0_sent 30 = .ok (.iconst (-1), 1) := dk_2 (dk_at dksX0_sent_1 6 rfl rfl)
theorem dX0_sent_31 : decode cX0_sent 31 = .ok (.ireturn, 1) := dk_172 (dk_at dksX0_sent_1 7 rfl rfl)
abbrev cX0_type : ByteArray := prog_1_method_24_code
def yX0_type : MethodName := ⟨RX0, "type", "(I)I"⟩
def dkwX0_type_2 : List UInt8 := [42, 180, 0, 47, 180, 0, 236, 182, 0, 239, 172]
abbrev dktX0_type_2 : List UInt8 := dkwX0_type_2 ++ []
def dkwX0_type_1 : List UInt8 := [182, 0, 239, 16, 100, 160, 0, 6, 16, 253, 172, 42, 180, 0, 47, 180, 0, 236, 27, 146, 182, 0, 242, 87]
abbrev dktX0_type_1 : List UInt8 := dkwX0_type_1 ++ dktX0_type_2
def dkwX0_type_0 : List UInt8 := [27, 133, 20, 0, 232, 20, 0, 234, 184, 0, 11, 154, 0, 5, 2, 172, 42, 180, 0, 47, 180, 0, 236]
abbrev dktX0_type_0 : List UInt8 := dkwX0_type_0 ++ dktX0_type_1
theorem dksX0_type_0 : cX0_type.data.toList.drop 0 = dktX0_type_0 := by decide +kernel
theorem dksX0_type_1 : cX0_type.data.toList.drop 23 = dktX0_type_1 := dk_seg dksX0_type_0 23 rfl rfl
theorem dksX0_type_2 : cX0_type.data.toList.drop 47 = dktX0_type_2 := dk_seg dksX0_type_1 24 rfl rfl
theorem dX0_type_0 : decode cX0_type 0 = .ok (.iload_n 1, 1) := dk_27 (dk_at dksX0_type_0 0 rfl rfl)
theorem dX0_type_1 : decode cX0_type 1 = .ok (.i2l, 1) := dk_133 (dk_at dksX0_type_0 1 rfl rfl)
theorem dX0_type_2 : decode cX0_type 2 = .ok (.ldc2_w 232, 3) := dk_20 0 232 (dk_at dksX0_type_0 2 rfl rfl)
theorem dX0_type_5 : decode cX0_type 5 = .ok (.ldc2_w 234, 3) := dk_20 0 234 (dk_at dksX0_type_0 5 rfl rfl)
theorem dX0_type_8 : decode cX0_type 8 = .ok (.invokestatic 11, 3) := dk_184 0 11 (dk_at dksX0_type_0 8 rfl rfl)
theorem dX0_type_11 : decode cX0_type 11 = .ok (.ifCond .ne 5, 3) := dk_154 0 5 (dk_at dksX0_type_0 11 rfl rfl)
theorem dX0_type_14 : decode cX0_type 14 = .ok (.iconst (-1), 1) := dk_2 (dk_at dksX0_type_0 14 rfl rfl)
theorem dX0_type_15 : decode cX0_type 15 = .ok (.ireturn, 1) := dk_172 (dk_at dksX0_type_0 15 rfl rfl)
theorem dX0_type_16 : decode cX0_type 16 = .ok (.aload_n 0, 1) := dk_42 (dk_at dksX0_type_0 16 rfl rfl)
theorem dX0_type_17 : decode cX0_type 17 = .ok (.getfield 47, 3) := dk_180 0 47 (dk_at dksX0_type_0 17 rfl rfl)
theorem dX0_type_20 : decode cX0_type 20 = .ok (.getfield 236, 3) := dk_180 0 236 (dk_at dksX0_type_0 20 rfl rfl)
theorem dX0_type_23 : decode cX0_type 23 = .ok (.invokevirtual 239, 3) := dk_182 0 239 (dk_at dksX0_type_1 0 rfl rfl)
theorem dX0_type_26 : decode cX0_type 26 = .ok (.bipush 100, 2) := dk_16 100 (dk_at dksX0_type_1 3 rfl rfl)
theorem dX0_type_28 : decode cX0_type 28 = .ok (.if_icmp .ne 6, 3) := dk_160 0 6 (dk_at dksX0_type_1 5 rfl rfl)
theorem dX0_type_31 : decode cX0_type 31 = .ok (.bipush (-3), 2) := dk_16 253 (dk_at dksX0_type_1 8 rfl rfl)
theorem dX0_type_33 : decode cX0_type 33 = .ok (.ireturn, 1) := dk_172 (dk_at dksX0_type_1 10 rfl rfl)
theorem dX0_type_34 : decode cX0_type 34 = .ok (.aload_n 0, 1) := dk_42 (dk_at dksX0_type_1 11 rfl rfl)
theorem dX0_type_35 : decode cX0_type 35 = .ok (.getfield 47, 3) := dk_180 0 47 (dk_at dksX0_type_1 12 rfl rfl)
theorem dX0_type_38 : decode cX0_type 38 = .ok (.getfield 236, 3) := dk_180 0 236 (dk_at dksX0_type_1 15 rfl rfl)
theorem dX0_type_41 : decode cX0_type 41 = .ok (.iload_n 1, 1) := dk_27 (dk_at dksX0_type_1 18 rfl rfl)
theorem dX0_type_42 : decode cX0_type 42 = .ok (.i2c, 1) := dk_146 (dk_at dksX0_type_1 19 rfl rfl)
theorem dX0_type_43 : decode cX0_type 43 = .ok (.invokevirtual 242, 3) := dk_182 0 242 (dk_at dksX0_type_1 20 rfl rfl)
theorem dX0_type_46 : decode cX0_type 46 = .ok (.pop, 1) := dk_87 (dk_at dksX0_type_1 23 rfl rfl)
theorem dX0_type_47 : decode cX0_type 47 = .ok (.aload_n 0, 1) := dk_42 (dk_at dksX0_type_2 0 rfl rfl)
theorem dX0_type_48 : decode cX0_type 48 = .ok (.getfield 47, 3) := dk_180 0 47 (dk_at dksX0_type_2 1 rfl rfl)
theorem dX0_type_51 : decode cX0_type 51 = .ok (.getfield 236, 3) := dk_180 0 236 (dk_at dksX0_type_2 4 rfl rfl)
theorem dX0_type_54 : decode cX0_type 54 = .ok (.invokevirtual 239, 3) := dk_182 0 239 (dk_at dksX0_type_2 7 rfl rfl)
theorem dX0_type_57 : decode cX0_type 57 = .ok (.ireturn, 1) := dk_172 (dk_at dksX0_type_2 10 rfl rfl)
abbrev cX0_read : ByteArray := prog_1_method_34_code
def yX0_read : MethodName := ⟨RX0, "read", "(I)I"⟩
def dkwX0_read_4 : List UInt8 := [42, 180, 0, 40, 180, 0, 104, 27, 50, 44, 182, 0, 114, 87, 29, 172]
abbrev dktX0_read_4 : List UInt8 := dkwX0_read_4 ++ []
def dkwX0_read_3 : List UInt8 := [182, 1, 78, 25, 5, 191, 42, 180, 0, 40, 180, 0, 104, 27, 50, 44, 182, 1, 81, 62, 42, 182, 1, 84]
abbrev dktX0_read_3 : List UInt8 := dkwX0_read_3 ++ dktX0_read_4
def dkwX0_read_2 : List UInt8 := [180, 0, 47, 180, 0, 236, 3, 182, 1, 78, 21, 4, 172, 58, 5, 42, 180, 0, 47, 180, 0, 236, 3]
abbrev dktX0_read_2 : List UInt8 := dkwX0_read_2 ++ dktX0_read_3
def dkwX0_read_1 : List UInt8 := [180, 0, 47, 180, 0, 236, 3, 182, 1, 78, 167, 0, 43, 78, 16, 236, 45, 180, 0, 246, 100, 54, 4, 42]
abbrev dktX0_read_1 : List UInt8 := dkwX0_read_1 ++ dktX0_read_2
def dkwX0_read_0 : List UInt8 := [27, 133, 9, 20, 1, 73, 184, 0, 11, 154, 0, 5, 2, 172, 1, 77, 42, 182, 1, 75, 77, 42]
abbrev dktX0_read_0 : List UInt8 := dkwX0_read_0 ++ dktX0_read_1
theorem dksX0_read_0 : cX0_read.data.toList.drop 0 = dktX0_read_0 := by decide +kernel
theorem dksX0_read_1 : cX0_read.data.toList.drop 22 = dktX0_read_1 := dk_seg dksX0_read_0 22 rfl rfl
theorem dksX0_read_2 : cX0_read.data.toList.drop 46 = dktX0_read_2 := dk_seg dksX0_read_1 24 rfl rfl
theorem dksX0_read_3 : cX0_read.data.toList.drop 69 = dktX0_read_3 := dk_seg dksX0_read_2 23 rfl rfl
theorem dksX0_read_4 : cX0_read.data.toList.drop 93 = dktX0_read_4 := dk_seg dksX0_read_3 24 rfl rfl
theorem dX0_read_0 : decode cX0_read 0 = .ok (.iload_n 1, 1) := dk_27 (dk_at dksX0_read_0 0 rfl rfl)
theorem dX0_read_1 : decode cX0_read 1 = .ok (.i2l, 1) := dk_133 (dk_at dksX0_read_0 1 rfl rfl)
theorem dX0_read_2 : decode cX0_read 2 = .ok (.lconst 0, 1) := dk_9 (dk_at dksX0_read_0 2 rfl rfl)
theorem dX0_read_3 : decode cX0_read 3 = .ok (.ldc2_w 329, 3) := dk_20 1 73 (dk_at dksX0_read_0 3 rfl rfl)
theorem dX0_read_6 : decode cX0_read 6 = .ok (.invokestatic 11, 3) := dk_184 0 11 (dk_at dksX0_read_0 6 rfl rfl)
theorem dX0_read_9 : decode cX0_read 9 = .ok (.ifCond .ne 5, 3) := dk_154 0 5 (dk_at dksX0_read_0 9 rfl rfl)
theorem dX0_read_12 : decode cX0_read 12 = .ok (.iconst (-1), 1) := dk_2 (dk_at dksX0_read_0 12 rfl rfl)
theorem dX0_read_13 : decode cX0_read 13 = .ok (.ireturn, 1) := dk_172 (dk_at dksX0_read_0 13 rfl rfl)
theorem dX0_read_14 : decode cX0_read 14 = .ok (.aconst_null, 1) := dk_1 (dk_at dksX0_read_0 14 rfl rfl)
theorem dX0_read_15 : decode cX0_read 15 = .ok (.astore_n 2, 1) := dk_77 (dk_at dksX0_read_0 15 rfl rfl)
theorem dX0_read_16 : decode cX0_read 16 = .ok (.aload_n 0, 1) := dk_42 (dk_at dksX0_read_0 16 rfl rfl)
theorem dX0_read_17 : decode cX0_read 17 = .ok (.invokevirtual 331, 3) := dk_182 1 75 (dk_at dksX0_read_0 17 rfl rfl)
theorem dX0_read_20 : decode cX0_read 20 = .ok (.astore_n 2, 1) := dk_77 (dk_at dksX0_read_0 20 rfl rfl)
theorem dX0_read_21 : decode cX0_read 21 = .ok (.aload_n 0, 1) := dk_42 (dk_at dksX0_read_0 21 rfl rfl)
theorem dX0_read_22 : decode cX0_read 22 = .ok (.getfield 47, 3) := dk_180 0 47 (dk_at dksX0_read_1 0 rfl rfl)
theorem dX0_read_25 : decode cX0_read 25 = .ok (.getfield 236, 3) := dk_180 0 236 (dk_at dksX0_read_1 3 rfl rfl)
theorem dX0_read_28 : decode cX0_read 28 = .ok (.iconst 0, 1) := dk_3 (dk_at dksX0_read_1 6 rfl rfl)
theorem dX0_read_29 : decode cX0_read 29 = .ok (.invokevirtual 334, 3) := dk_182 1 78 (dk_at dksX0_read_1 7 rfl rfl)
theorem dX0_read_32 : decode cX0_read 32 = .ok (.goto 43, 3) := dk_167 0 43 (dk_at dksX0_read_1 10 rfl rfl)
theorem dX0_read_35 : decode cX0_read 35 = .ok (.astore_n 3, 1) := dk_78 (dk_at dksX0_read_1 13 rfl rfl)
theorem dX0_read_36 : decode cX0_read 36 = .ok (.bipush (-20), 2) := dk_16 236 (dk_at dksX0_read_1 14 rfl rfl)
theorem dX0_read_38 : decode cX0_read 38 = .ok (.aload_n 3, 1) := dk_45 (dk_at dksX0_read_1 16 rfl rfl)
theorem dX0_read_39 : decode cX0_read 39 = .ok (.getfield 246, 3) := dk_180 0 246 (dk_at dksX0_read_1 17 rfl rfl)
theorem dX0_read_42 : decode cX0_read 42 = .ok (.isub, 1) := dk_100 (dk_at dksX0_read_1 20 rfl rfl)
theorem dX0_read_43 : decode cX0_read 43 = .ok (.istore 4, 2) := dk_54 4 (dk_at dksX0_read_1 21 rfl rfl)
theorem dX0_read_45 : decode cX0_read 45 = .ok (.aload_n 0, 1) := dk_42 (dk_at dksX0_read_1 23 rfl rfl)
theorem dX0_read_46 : decode cX0_read 46 = .ok (.getfield 47, 3) := dk_180 0 47 (dk_at dksX0_read_2 0 rfl rfl)
theorem dX0_read_49 : decode cX0_read 49 = .ok (.getfield 236, 3) := dk_180 0 236 (dk_at dksX0_read_2 3 rfl rfl)
theorem dX0_read_52 : decode cX0_read 52 = .ok (.iconst 0, 1) := dk_3 (dk_at dksX0_read_2 6 rfl rfl)
theorem dX0_read_53 : decode cX0_read 53 = .ok (.invokevirtual 334, 3) := dk_182 1 78 (dk_at dksX0_read_2 7 rfl rfl)
theorem dX0_read_56 : decode cX0_read 56 = .ok (.iload 4, 2) := dk_21 4 (dk_at dksX0_read_2 10 rfl rfl)
theorem dX0_read_58 : decode cX0_read 58 = .ok (.ireturn, 1) := dk_172 (dk_at dksX0_read_2 12 rfl rfl)
theorem dX0_read_59 : decode cX0_read 59 = .ok (.astore 5, 2) := dk_58 5 (dk_at dksX0_read_2 13 rfl rfl)
theorem dX0_read_61 : decode cX0_read 61 = .ok (.aload_n 0, 1) := dk_42 (dk_at dksX0_read_2 15 rfl rfl)
theorem dX0_read_62 : decode cX0_read 62 = .ok (.getfield 47, 3) := dk_180 0 47 (dk_at dksX0_read_2 16 rfl rfl)
theorem dX0_read_65 : decode cX0_read 65 = .ok (.getfield 236, 3) := dk_180 0 236 (dk_at dksX0_read_2 19 rfl rfl)
theorem dX0_read_68 : decode cX0_read 68 = .ok (.iconst 0, 1) := dk_3 (dk_at dksX0_read_2 22 rfl rfl)
theorem dX0_read_69 : decode cX0_read 69 = .ok (.invokevirtual 334, 3) := dk_182 1 78 (dk_at dksX0_read_3 0 rfl rfl)
theorem dX0_read_72 : decode cX0_read 72 = .ok (.aload 5, 2) := dk_25 5 (dk_at dksX0_read_3 3 rfl rfl)
theorem dX0_read_74 : decode cX0_read 74 = .ok (.athrow, 1) := dk_191 (dk_at dksX0_read_3 5 rfl rfl)
theorem dX0_read_75 : decode cX0_read 75 = .ok (.aload_n 0, 1) := dk_42 (dk_at dksX0_read_3 6 rfl rfl)
theorem dX0_read_76 : decode cX0_read 76 = .ok (.getfield 40, 3) := dk_180 0 40 (dk_at dksX0_read_3 7 rfl rfl)
theorem dX0_read_79 : decode cX0_read 79 = .ok (.getfield 104, 3) := dk_180 0 104 (dk_at dksX0_read_3 10 rfl rfl)
theorem dX0_read_82 : decode cX0_read 82 = .ok (.iload_n 1, 1) := dk_27 (dk_at dksX0_read_3 13 rfl rfl)
theorem dX0_read_83 : decode cX0_read 83 = .ok (.aaload, 1) := dk_50 (dk_at dksX0_read_3 14 rfl rfl)
theorem dX0_read_84 : decode cX0_read 84 = .ok (.aload_n 2, 1) := dk_44 (dk_at dksX0_read_3 15 rfl rfl)
theorem dX0_read_85 : decode cX0_read 85 = .ok (.invokevirtual 337, 3) := dk_182 1 81 (dk_at dksX0_read_3 16 rfl rfl)
theorem dX0_read_88 : decode cX0_read 88 = .ok (.istore_n 3, 1) := dk_62 (dk_at dksX0_read_3 19 rfl rfl)
theorem dX0_read_89 : decode cX0_read 89 = .ok (.aload_n 0, 1) := dk_42 (dk_at dksX0_read_3 20 rfl rfl)
theorem dX0_read_90 : decode cX0_read 90 = .ok (.invokevirtual 340, 3) := dk_182 1 84 (dk_at dksX0_read_3 21 rfl rfl)
theorem dX0_read_93 : decode cX0_read 93 = .ok (.aload_n 0, 1) := dk_42 (dk_at dksX0_read_4 0 rfl rfl)
theorem dX0_read_94 : decode cX0_read 94 = .ok (.getfield 40, 3) := dk_180 0 40 (dk_at dksX0_read_4 1 rfl rfl)
theorem dX0_read_97 : decode cX0_read 97 = .ok (.getfield 104, 3) := dk_180 0 104 (dk_at dksX0_read_4 4 rfl rfl)
theorem dX0_read_100 : decode cX0_read 100 = .ok (.iload_n 1, 1) := dk_27 (dk_at dksX0_read_4 7 rfl rfl)
theorem dX0_read_101 : decode cX0_read 101 = .ok (.aaload, 1) := dk_50 (dk_at dksX0_read_4 8 rfl rfl)
theorem dX0_read_102 : decode cX0_read 102 = .ok (.aload_n 2, 1) := dk_44 (dk_at dksX0_read_4 9 rfl rfl)
theorem dX0_read_103 : decode cX0_read 103 = .ok (.invokevirtual 114, 3) := dk_182 0 114 (dk_at dksX0_read_4 10 rfl rfl)
theorem dX0_read_106 : decode cX0_read 106 = .ok (.pop, 1) := dk_87 (dk_at dksX0_read_4 13 rfl rfl)
theorem dX0_read_107 : decode cX0_read 107 = .ok (.iload_n 3, 1) := dk_29 (dk_at dksX0_read_4 14 rfl rfl)
theorem dX0_read_108 : decode cX0_read 108 = .ok (.ireturn, 1) := dk_172 (dk_at dksX0_read_4 15 rfl rfl)
abbrev cX0_readAll : ByteArray := prog_1_method_33_code
def yX0_readAll : MethodName := ⟨RX0, "readAll", "()LEightBlocks$Move;"⟩
def dkwX0_readAll_1 : List UInt8 := [42, 42, 180, 0, 47, 182, 0, 252, 182, 0, 255, 191, 43, 176]
abbrev dktX0_readAll_1 : List UInt8 := dkwX0_readAll_1 ++ []
def dkwX0_readAll_0 : List UInt8 := [42, 180, 0, 47, 3, 181, 1, 71, 42, 3, 182, 1, 57, 76, 42, 180, 0, 47, 182, 0, 249, 155, 0, 15]
abbrev dktX0_readAll_0 : List UInt8 := dkwX0_readAll_0 ++ dktX0_readAll_1
theorem dksX0_readAll_0 : cX0_readAll.data.toList.drop 0 = dktX0_readAll_0 := by decide +kernel
theorem dksX0_readAll_1 : cX0_readAll.data.toList.drop 24 = dktX0_readAll_1 := dk_seg dksX0_readAll_0 24 rfl rfl
theorem dX0_readAll_0 : decode cX0_readAll 0 = .ok (.aload_n 0, 1) := dk_42 (dk_at dksX0_readAll_0 0 rfl rfl)
theorem dX0_readAll_1 : decode cX0_readAll 1 = .ok (.getfield 47, 3) := dk_180 0 47 (dk_at dksX0_readAll_0 1 rfl rfl)
theorem dX0_readAll_4 : decode cX0_readAll 4 = .ok (.iconst 0, 1) := dk_3 (dk_at dksX0_readAll_0 4 rfl rfl)
theorem dX0_readAll_5 : decode cX0_readAll 5 = .ok (.putfield 327, 3) := dk_181 1 71 (dk_at dksX0_readAll_0 5 rfl rfl)
theorem dX0_readAll_8 : decode cX0_readAll 8 = .ok (.aload_n 0, 1) := dk_42 (dk_at dksX0_readAll_0 8 rfl rfl)
theorem dX0_readAll_9 : decode cX0_readAll 9 = .ok (.iconst 0, 1) := dk_3 (dk_at dksX0_readAll_0 9 rfl rfl)
theorem dX0_readAll_10 : decode cX0_readAll 10 = .ok (.invokevirtual 313, 3) := dk_182 1 57 (dk_at dksX0_readAll_0 10 rfl rfl)
theorem dX0_readAll_13 : decode cX0_readAll 13 = .ok (.astore_n 1, 1) := dk_76 (dk_at dksX0_readAll_0 13 rfl rfl)
theorem dX0_readAll_14 : decode cX0_readAll 14 = .ok (.aload_n 0, 1) := dk_42 (dk_at dksX0_readAll_0 14 rfl rfl)
theorem dX0_readAll_15 : decode cX0_readAll 15 = .ok (.getfield 47, 3) := dk_180 0 47 (dk_at dksX0_readAll_0 15 rfl rfl)
theorem dX0_readAll_18 : decode cX0_readAll 18 = .ok (.invokevirtual 249, 3) := dk_182 0 249 (dk_at dksX0_readAll_0 18 rfl rfl)
theorem dX0_readAll_21 : decode cX0_readAll 21 = .ok (.ifCond .lt 15, 3) := dk_155 0 15 (dk_at dksX0_readAll_0 21 rfl rfl)
theorem dX0_readAll_24 : decode cX0_readAll 24 = .ok (.aload_n 0, 1) := dk_42 (dk_at dksX0_readAll_1 0 rfl rfl)
theorem dX0_readAll_25 : decode cX0_readAll 25 = .ok (.aload_n 0, 1) := dk_42 (dk_at dksX0_readAll_1 1 rfl rfl)
theorem dX0_readAll_26 : decode cX0_readAll 26 = .ok (.getfield 47, 3) := dk_180 0 47 (dk_at dksX0_readAll_1 2 rfl rfl)
theorem dX0_readAll_29 : decode cX0_readAll 29 = .ok (.invokevirtual 252, 3) := dk_182 0 252 (dk_at dksX0_readAll_1 5 rfl rfl)
theorem dX0_readAll_32 : decode cX0_readAll 32 = .ok (.invokevirtual 255, 3) := dk_182 0 255 (dk_at dksX0_readAll_1 8 rfl rfl)
theorem dX0_readAll_35 : decode cX0_readAll 35 = .ok (.athrow, 1) := dk_191 (dk_at dksX0_readAll_1 11 rfl rfl)
theorem dX0_readAll_36 : decode cX0_readAll 36 = .ok (.aload_n 1, 1) := dk_43 (dk_at dksX0_readAll_1 12 rfl rfl)
theorem dX0_readAll_37 : decode cX0_readAll 37 = .ok (.areturn, 1) := dk_176 (dk_at dksX0_readAll_1 13 rfl rfl)
abbrev cX0_readMove : ByteArray := prog_1_method_32_code
def yX0_readMove : MethodName := ⟨RX0, "readMove", "(I)LEightBlocks$Move;"⟩
def dkwX0_readMove_1 : List UInt8 := [182, 1, 68, 87, 167, 255, 234, 44, 176]
abbrev dktX0_readMove_1 : List UInt8 := dkwX0_readMove_1 ++ []
def dkwX0_readMove_0 : List UInt8 := [42, 27, 182, 1, 65, 77, 42, 180, 0, 47, 16, 42, 182, 1, 3, 153, 0, 16, 44, 42, 27, 182, 1, 65]
abbrev dktX0_readMove_0 : List UInt8 := dkwX0_readMove_0 ++ dktX0_readMove_1
theorem dksX0_readMove_0 : cX0_readMove.data.toList.drop 0 = dktX0_readMove_0 := by decide +kernel
theorem dksX0_readMove_1 : cX0_readMove.data.toList.drop 24 = dktX0_readMove_1 := dk_seg dksX0_readMove_0 24 rfl rfl
theorem dX0_readMove_0 : decode cX0_readMove 0 = .ok (.aload_n 0, 1) := dk_42 (dk_at dksX0_readMove_0 0 rfl rfl)
theorem dX0_readMove_1 : decode cX0_readMove 1 = .ok (.iload_n 1, 1) := dk_27 (dk_at dksX0_readMove_0 1 rfl rfl)
theorem dX0_readMove_2 : decode cX0_readMove 2 = .ok (.invokevirtual 321, 3) := dk_182 1 65 (dk_at dksX0_readMove_0 2 rfl rfl)
theorem dX0_readMove_5 : decode cX0_readMove 5 = .ok (.astore_n 2, 1) := dk_77 (dk_at dksX0_readMove_0 5 rfl rfl)
theorem dX0_readMove_6 : decode cX0_readMove 6 = .ok (.aload_n 0, 1) := dk_42 (dk_at dksX0_readMove_0 6 rfl rfl)
theorem dX0_readMove_7 : decode cX0_readMove 7 = .ok (.getfield 47, 3) := dk_180 0 47 (dk_at dksX0_readMove_0 7 rfl rfl)
theorem dX0_readMove_10 : decode cX0_readMove 10 = .ok (.bipush 42, 2) := dk_16 42 (dk_at dksX0_readMove_0 10 rfl rfl)
theorem dX0_readMove_12 : decode cX0_readMove 12 = .ok (.invokevirtual 259, 3) := dk_182 1 3 (dk_at dksX0_readMove_0 12 rfl rfl)
theorem dX0_readMove_15 : decode cX0_readMove 15 = .ok (.ifCond .eq 16, 3) := dk_153 0 16 (dk_at dksX0_readMove_0 15 rfl rfl)
theorem dX0_readMove_18 : decode cX0_readMove 18 = .ok (.aload_n 2, 1) := dk_44 (dk_at dksX0_readMove_0 18 rfl rfl)
theorem dX0_readMove_19 : decode cX0_readMove 19 = .ok (.aload_n 0, 1) := dk_42 (dk_at dksX0_readMove_0 19 rfl rfl)
theorem dX0_readMove_20 : decode cX0_readMove 20 = .ok (.iload_n 1, 1) := dk_27 (dk_at dksX0_readMove_0 20 rfl rfl)
theorem dX0_readMove_21 : decode cX0_readMove 21 = .ok (.invokevirtual 321, 3) := dk_182 1 65 (dk_at dksX0_readMove_0 21 rfl rfl)
theorem dX0_readMove_24 : decode cX0_readMove 24 = .ok (.invokevirtual 324, 3) := dk_182 1 68 (dk_at dksX0_readMove_1 0 rfl rfl)
theorem dX0_readMove_27 : decode cX0_readMove 27 = .ok (.pop, 1) := dk_87 (dk_at dksX0_readMove_1 3 rfl rfl)
theorem dX0_readMove_28 : decode cX0_readMove 28 = .ok (.goto (-22), 3) := dk_167 255 234 (dk_at dksX0_readMove_1 4 rfl rfl)
theorem dX0_readMove_31 : decode cX0_readMove 31 = .ok (.aload_n 2, 1) := dk_44 (dk_at dksX0_readMove_1 7 rfl rfl)
theorem dX0_readMove_32 : decode cX0_readMove 32 = .ok (.areturn, 1) := dk_176 (dk_at dksX0_readMove_1 8 rfl rfl)
abbrev cX0_readFactor : ByteArray := prog_1_method_31_code
def yX0_readFactor : MethodName := ⟨RX0, "readFactor", "(I)LEightBlocks$Move;"⟩
def dkwX0_readFactor_5 : List UInt8 := [182, 1, 61, 77, 44, 176]
abbrev dktX0_readFactor_5 : List UInt8 := dkwX0_readFactor_5 ++ []
def dkwX0_readFactor_4 : List UInt8 := [153, 0, 26, 42, 180, 0, 47, 16, 45, 182, 1, 3, 62, 44, 42, 16, 99, 3, 182, 1, 37, 29]
abbrev dktX0_readFactor_4 : List UInt8 := dkwX0_readFactor_4 ++ dktX0_readFactor_5
def dkwX0_readFactor_3 : List UInt8 := [77, 42, 16, 93, 182, 1, 47, 167, 0, 8, 42, 182, 1, 6, 191, 42, 180, 0, 47, 16, 94, 182, 1, 3]
abbrev dktX0_readFactor_3 : List UInt8 := dkwX0_readFactor_3 ++ dktX0_readFactor_4
def dkwX0_readFactor_2 : List UInt8 := [16, 6, 162, 0, 32, 42, 180, 0, 47, 16, 91, 182, 1, 3, 153, 0, 20, 42, 27, 4, 96, 182, 1, 57]
abbrev dktX0_readFactor_2 : List UInt8 := dkwX0_readFactor_2 ++ dktX0_readFactor_3
def dkwX0_readFactor_1 : List UInt8 := [167, 0, 63, 42, 180, 0, 47, 16, 40, 182, 1, 3, 153, 0, 11, 42, 182, 1, 54, 77, 167, 0, 43, 27]
abbrev dktX0_readFactor_1 : List UInt8 := dkwX0_readFactor_1 ++ dktX0_readFactor_2
def dkwX0_readFactor_0 : List UInt8 := [42, 180, 0, 47, 182, 0, 249, 87, 42, 180, 0, 47, 182, 1, 26, 153, 0, 11, 42, 182, 1, 50, 77]
abbrev dktX0_readFactor_0 : List UInt8 := dkwX0_readFactor_0 ++ dktX0_readFactor_1
theorem dksX0_readFactor_0 : cX0_readFactor.data.toList.drop 0 = dktX0_readFactor_0 := by decide +kernel
theorem dksX0_readFactor_1 : cX0_readFactor.data.toList.drop 23 = dktX0_readFactor_1 := dk_seg dksX0_readFactor_0 23 rfl rfl
theorem dksX0_readFactor_2 : cX0_readFactor.data.toList.drop 47 = dktX0_readFactor_2 := dk_seg dksX0_readFactor_1 24 rfl rfl
theorem dksX0_readFactor_3 : cX0_readFactor.data.toList.drop 71 = dktX0_readFactor_3 := dk_seg dksX0_readFactor_2 24 rfl rfl
theorem dksX0_readFactor_4 : cX0_readFactor.data.toList.drop 95 = dktX0_readFactor_4 := dk_seg dksX0_readFactor_3 24 rfl rfl
theorem dksX0_readFactor_5 : cX0_readFactor.data.toList.drop 117 = dktX0_readFactor_5 := dk_seg dksX0_readFactor_4 22 rfl rfl
theorem dX0_readFactor_0 : decode cX0_readFactor 0 = .ok (.aload_n 0, 1) := dk_42 (dk_at dksX0_readFactor_0 0 rfl rfl)
theorem dX0_readFactor_1 : decode cX0_readFactor 1 = .ok (.getfield 47, 3) := dk_180 0 47 (dk_at dksX0_readFactor_0 1 rfl rfl)
theorem dX0_readFactor_4 : decode cX0_readFactor 4 = .ok (.invokevirtual 249, 3) := dk_182 0 249 (dk_at dksX0_readFactor_0 4 rfl rfl)
theorem dX0_readFactor_7 : decode cX0_readFactor 7 = .ok (.pop, 1) := dk_87 (dk_at dksX0_readFactor_0 7 rfl rfl)
theorem dX0_readFactor_8 : decode cX0_readFactor 8 = .ok (.aload_n 0, 1) := dk_42 (dk_at dksX0_readFactor_0 8 rfl rfl)
theorem dX0_readFactor_9 : decode cX0_readFactor 9 = .ok (.getfield 47, 3) := dk_180 0 47 (dk_at dksX0_readFactor_0 9 rfl rfl)
theorem dX0_readFactor_12 : decode cX0_readFactor 12 = .ok (.invokevirtual 282, 3) := dk_182 1 26 (dk_at dksX0_readFactor_0 12 rfl rfl)
theorem dX0_readFactor_15 : decode cX0_readFactor 15 = .ok (.ifCond .eq 11, 3) := dk_153 0 11 (dk_at dksX0_readFactor_0 15 rfl rfl)
theorem dX0_readFactor_18 : decode cX0_readFactor 18 = .ok (.aload_n 0, 1) := dk_42 (dk_at dksX0_readFactor_0 18 rfl rfl)
theorem dX0_readFactor_19 : decode cX0_readFactor 19 = .ok (.invokevirtual 306, 3) := dk_182 1 50 (dk_at dksX0_readFactor_0 19 rfl rfl)
theorem dX0_readFactor_22 : decode cX0_readFactor 22 = .ok (.astore_n 2, 1) := dk_77 (dk_at dksX0_readFactor_0 22 rfl rfl)
theorem dX0_readFactor_23 : decode cX0_readFactor 23 = .ok (.goto 63, 3) := dk_167 0 63 (dk_at dksX0_readFactor_1 0 rfl rfl)
theorem dX0_readFactor_26 : decode cX0_readFactor 26 = .ok (.aload_n 0, 1) := dk_42 (dk_at dksX0_readFactor_1 3 rfl rfl)
theorem dX0_readFactor_27 : decode cX0_readFactor 27 = .ok (.getfield 47, 3) := dk_180 0 47 (dk_at dksX0_readFactor_1 4 rfl rfl)
theorem dX0_readFactor_30 : decode cX0_readFactor 30 = .ok (.bipush 40, 2) := dk_16 40 (dk_at dksX0_readFactor_1 7 rfl rfl)
theorem dX0_readFactor_32 : decode cX0_readFactor 32 = .ok (.invokevirtual 259, 3) := dk_182 1 3 (dk_at dksX0_readFactor_1 9 rfl rfl)
theorem dX0_readFactor_35 : decode cX0_readFactor 35 = .ok (.ifCond .eq 11, 3) := dk_153 0 11 (dk_at dksX0_readFactor_1 12 rfl rfl)
theorem dX0_readFactor_38 : decode cX0_readFactor 38 = .ok (.aload_n 0, 1) := dk_42 (dk_at dksX0_readFactor_1 15 rfl rfl)
theorem dX0_readFactor_39 : decode cX0_readFactor 39 = .ok (.invokevirtual 310, 3) := dk_182 1 54 (dk_at dksX0_readFactor_1 16 rfl rfl)
theorem dX0_readFactor_42 : decode cX0_readFactor 42 = .ok (.astore_n 2, 1) := dk_77 (dk_at dksX0_readFactor_1 19 rfl rfl)
theorem dX0_readFactor_43 : decode cX0_readFactor 43 = .ok (.goto 43, 3) := dk_167 0 43 (dk_at dksX0_readFactor_1 20 rfl rfl)
theorem dX0_readFactor_46 : decode cX0_readFactor 46 = .ok (.iload_n 1, 1) := dk_27 (dk_at dksX0_readFactor_1 23 rfl rfl)
theorem dX0_readFactor_47 : decode cX0_readFactor 47 = .ok (.bipush 6, 2) := dk_16 6 (dk_at dksX0_readFactor_2 0 rfl rfl)
theorem dX0_readFactor_49 : decode cX0_readFactor 49 = .ok (.if_icmp .ge 32, 3) := dk_162 0 32 (dk_at dksX0_readFactor_2 2 rfl rfl)
theorem dX0_readFactor_52 : decode cX0_readFactor 52 = .ok (.aload_n 0, 1) := dk_42 (dk_at dksX0_readFactor_2 5 rfl rfl)
theorem dX0_readFactor_53 : decode cX0_readFactor 53 = .ok (.getfield 47, 3) := dk_180 0 47 (dk_at dksX0_readFactor_2 6 rfl rfl)
theorem dX0_readFactor_56 : decode cX0_readFactor 56 = .ok (.bipush 91, 2) := dk_16 91 (dk_at dksX0_readFactor_2 9 rfl rfl)
theorem dX0_readFactor_58 : decode cX0_readFactor 58 = .ok (.invokevirtual 259, 3) := dk_182 1 3 (dk_at dksX0_readFactor_2 11 rfl rfl)
theorem dX0_readFactor_61 : decode cX0_readFactor 61 = .ok (.ifCond .eq 20, 3) := dk_153 0 20 (dk_at dksX0_readFactor_2 14 rfl rfl)
theorem dX0_readFactor_64 : decode cX0_readFactor 64 = .ok (.aload_n 0, 1) := dk_42 (dk_at dksX0_readFactor_2 17 rfl rfl)
theorem dX0_readFactor_65 : decode cX0_readFactor 65 = .ok (.iload_n 1, 1) := dk_27 (dk_at dksX0_readFactor_2 18 rfl rfl)
theorem dX0_readFactor_66 : decode cX0_readFactor 66 = .ok (.iconst 1, 1) := dk_4 (dk_at dksX0_readFactor_2 19 rfl rfl)
theorem dX0_readFactor_67 : decode cX0_readFactor 67 = .ok (.iadd, 1) := dk_96 (dk_at dksX0_readFactor_2 20 rfl rfl)
theorem dX0_readFactor_68 : decode cX0_readFactor 68 = .ok (.invokevirtual 313, 3) := dk_182 1 57 (dk_at dksX0_readFactor_2 21 rfl rfl)
theorem dX0_readFactor_71 : decode cX0_readFactor 71 = .ok (.astore_n 2, 1) := dk_77 (dk_at dksX0_readFactor_3 0 rfl rfl)
theorem dX0_readFactor_72 : decode cX0_readFactor 72 = .ok (.aload_n 0, 1) := dk_42 (dk_at dksX0_readFactor_3 1 rfl rfl)
theorem dX0_readFactor_73 : decode cX0_readFactor 73 = .ok (.bipush 93, 2) := dk_16 93 (dk_at dksX0_readFactor_3 2 rfl rfl)
theorem dX0_readFactor_75 : decode cX0_readFactor 75 = .ok (.invokevirtual 303, 3) := dk_182 1 47 (dk_at dksX0_readFactor_3 4 rfl rfl)
theorem dX0_readFactor_78 : decode cX0_readFactor 78 = .ok (.goto 8, 3) := dk_167 0 8 (dk_at dksX0_readFactor_3 7 rfl rfl)
theorem dX0_readFactor_81 : decode cX0_readFactor 81 = .ok (.aload_n 0, 1) := dk_42 (dk_at dksX0_readFactor_3 10 rfl rfl)
theorem dX0_readFactor_82 : decode cX0_readFactor 82 = .ok (.invokevirtual 262, 3) := dk_182 1 6 (dk_at dksX0_readFactor_3 11 rfl rfl)
theorem dX0_readFactor_85 : decode cX0_readFactor 85 = .ok (.athrow, 1) := dk_191 (dk_at dksX0_readFactor_3 14 rfl rfl)
theorem dX0_readFactor_86 : decode cX0_readFactor 86 = .ok (.aload_n 0, 1) := dk_42 (dk_at dksX0_readFactor_3 15 rfl rfl)
theorem dX0_readFactor_87 : decode cX0_readFactor 87 = .ok (.getfield 47, 3) := dk_180 0 47 (dk_at dksX0_readFactor_3 16 rfl rfl)
theorem dX0_readFactor_90 : decode cX0_readFactor 90 = .ok (.bipush 94, 2) := dk_16 94 (dk_at dksX0_readFactor_3 19 rfl rfl)
theorem dX0_readFactor_92 : decode cX0_readFactor 92 = .ok (.invokevirtual 259, 3) := dk_182 1 3 (dk_at dksX0_readFactor_3 21 rfl rfl)
theorem dX0_readFactor_95 : decode cX0_readFactor 95 = .ok (.ifCond .eq 26, 3) := dk_153 0 26 (dk_at dksX0_readFactor_4 0 rfl rfl)
theorem dX0_readFactor_98 : decode cX0_readFactor 98 = .ok (.aload_n 0, 1) := dk_42 (dk_at dksX0_readFactor_4 3 rfl rfl)
theorem dX0_readFactor_99 : decode cX0_readFactor 99 = .ok (.getfield 47, 3) := dk_180 0 47 (dk_at dksX0_readFactor_4 4 rfl rfl)
theorem dX0_readFactor_102 : decode cX0_readFactor 102 = .ok (.bipush 45, 2) := dk_16 45 (dk_at dksX0_readFactor_4 7 rfl rfl)
theorem dX0_readFactor_104 : decode cX0_readFactor 104 = .ok (.invokevirtual 259, 3) := dk_182 1 3 (dk_at dksX0_readFactor_4 9 rfl rfl)
theorem dX0_readFactor_107 : decode cX0_readFactor 107 = .ok (.istore_n 3, 1) := dk_62 (dk_at dksX0_readFactor_4 12 rfl rfl)
theorem dX0_readFactor_108 : decode cX0_readFactor 108 = .ok (.aload_n 2, 1) := dk_44 (dk_at dksX0_readFactor_4 13 rfl rfl)
theorem dX0_readFactor_109 : decode cX0_readFactor 109 = .ok (.aload_n 0, 1) := dk_42 (dk_at dksX0_readFactor_4 14 rfl rfl)
theorem dX0_readFactor_110 : decode cX0_readFactor 110 = .ok (.bipush 99, 2) := dk_16 99 (dk_at dksX0_readFactor_4 15 rfl rfl)
theorem dX0_readFactor_112 : decode cX0_readFactor 112 = .ok (.iconst 0, 1) := dk_3 (dk_at dksX0_readFactor_4 17 rfl rfl)
theorem dX0_readFactor_113 : decode cX0_readFactor 113 = .ok (.invokevirtual 293, 3) := dk_182 1 37 (dk_at dksX0_readFactor_4 18 rfl rfl)
theorem dX0_readFactor_116 : decode cX0_readFactor 116 = .ok (.iload_n 3, 1) := dk_29 (dk_at dksX0_readFactor_4 21 rfl rfl)
theorem dX0_readFactor_117 : decode cX0_readFactor 117 = .ok (.invokevirtual 317, 3) := dk_182 1 61 (dk_at dksX0_readFactor_5 0 rfl rfl)
theorem dX0_readFactor_120 : decode cX0_readFactor 120 = .ok (.astore_n 2, 1) := dk_77 (dk_at dksX0_readFactor_5 3 rfl rfl)
theorem dX0_readFactor_121 : decode cX0_readFactor 121 = .ok (.aload_n 2, 1) := dk_44 (dk_at dksX0_readFactor_5 4 rfl rfl)
theorem dX0_readFactor_122 : decode cX0_readFactor 122 = .ok (.areturn, 1) := dk_176 (dk_at dksX0_readFactor_5 5 rfl rfl)
abbrev cX0_readName : ByteArray := prog_1_method_29_code
def yX0_readName : MethodName := ⟨RX0, "readName", "()LEightBlocks$Move;"⟩
def dkwX0_readName_5 : List UInt8 := [182, 0, 255, 191, 187, 0, 115, 89, 183, 1, 33, 25, 4, 182, 0, 114, 176]
abbrev dktX0_readName_5 : List UInt8 := dkwX0_readName_5 ++ []
def dkwX0_readName_4 : List UInt8 := [182, 1, 32, 16, 97, 100, 50, 167, 0, 7, 45, 184, 0, 108, 58, 4, 25, 4, 199, 0, 9, 42, 27]
abbrev dktX0_readName_4 : List UInt8 := dkwX0_readName_4 ++ dktX0_readName_5
def dkwX0_readName_3 : List UInt8 := [45, 3, 182, 1, 32, 16, 97, 100, 184, 0, 189, 153, 0, 22, 42, 180, 0, 40, 180, 0, 104, 45, 3]
abbrev dktX0_readName_3 : List UInt8 := dkwX0_readName_3 ++ dktX0_readName_4
def dkwX0_readName_2 : List UInt8 := [182, 0, 252, 4, 96, 182, 1, 17, 167, 255, 217, 44, 182, 1, 29, 78, 45, 182, 0, 222, 4, 160, 0, 36]
abbrev dktX0_readName_2 : List UInt8 := dkwX0_readName_2 ++ dktX0_readName_3
def dkwX0_readName_1 : List UInt8 := [153, 0, 35, 44, 42, 180, 0, 47, 182, 1, 14, 146, 182, 0, 242, 87, 42, 180, 0, 47, 42, 180, 0, 47]
abbrev dktX0_readName_1 : List UInt8 := dkwX0_readName_1 ++ dktX0_readName_2
def dkwX0_readName_0 : List UInt8 := [42, 180, 0, 47, 182, 0, 252, 60, 187, 0, 240, 89, 183, 1, 25, 77, 42, 180, 0, 47, 182, 1, 26]
abbrev dktX0_readName_0 : List UInt8 := dkwX0_readName_0 ++ dktX0_readName_1
theorem dksX0_readName_0 : cX0_readName.data.toList.drop 0 = dktX0_readName_0 := by decide +kernel
theorem dksX0_readName_1 : cX0_readName.data.toList.drop 23 = dktX0_readName_1 := dk_seg dksX0_readName_0 23 rfl rfl
theorem dksX0_readName_2 : cX0_readName.data.toList.drop 47 = dktX0_readName_2 := dk_seg dksX0_readName_1 24 rfl rfl
theorem dksX0_readName_3 : cX0_readName.data.toList.drop 71 = dktX0_readName_3 := dk_seg dksX0_readName_2 24 rfl rfl
theorem dksX0_readName_4 : cX0_readName.data.toList.drop 94 = dktX0_readName_4 := dk_seg dksX0_readName_3 23 rfl rfl
theorem dksX0_readName_5 : cX0_readName.data.toList.drop 117 = dktX0_readName_5 := dk_seg dksX0_readName_4 23 rfl rfl
theorem dX0_readName_0 : decode cX0_readName 0 = .ok (.aload_n 0, 1) := dk_42 (dk_at dksX0_readName_0 0 rfl rfl)
theorem dX0_readName_1 : decode cX0_readName 1 = .ok (.getfield 47, 3) := dk_180 0 47 (dk_at dksX0_readName_0 1 rfl rfl)
theorem dX0_readName_4 : decode cX0_readName 4 = .ok (.invokevirtual 252, 3) := dk_182 0 252 (dk_at dksX0_readName_0 4 rfl rfl)
theorem dX0_readName_7 : decode cX0_readName 7 = .ok (.istore_n 1, 1) := dk_60 (dk_at dksX0_readName_0 7 rfl rfl)
theorem dX0_readName_8 : decode cX0_readName 8 = .ok (.new 240, 3) := dk_187 0 240 (dk_at dksX0_readName_0 8 rfl rfl)
theorem dX0_readName_11 : decode cX0_readName 11 = .ok (.dup, 1) := dk_89 (dk_at dksX0_readName_0 11 rfl rfl)
theorem dX0_readName_12 : decode cX0_readName 12 = .ok (.invokespecial 281, 3) := dk_183 1 25 (dk_at dksX0_readName_0 12 rfl rfl)
theorem dX0_readName_15 : decode cX0_readName 15 = .ok (.astore_n 2, 1) := dk_77 (dk_at dksX0_readName_0 15 rfl rfl)
theorem dX0_readName_16 : decode cX0_readName 16 = .ok (.aload_n 0, 1) := dk_42 (dk_at dksX0_readName_0 16 rfl rfl)
theorem dX0_readName_17 : decode cX0_readName 17 = .ok (.getfield 47, 3) := dk_180 0 47 (dk_at dksX0_readName_0 17 rfl rfl)
theorem dX0_readName_20 : decode cX0_readName 20 = .ok (.invokevirtual 282, 3) := dk_182 1 26 (dk_at dksX0_readName_0 20 rfl rfl)
theorem dX0_readName_23 : decode cX0_readName 23 = .ok (.ifCond .eq 35, 3) := dk_153 0 35 (dk_at dksX0_readName_1 0 rfl rfl)
theorem dX0_readName_26 : decode cX0_readName 26 = .ok (.aload_n 2, 1) := dk_44 (dk_at dksX0_readName_1 3 rfl rfl)
theorem dX0_readName_27 : decode cX0_readName 27 = .ok (.aload_n 0, 1) := dk_42 (dk_at dksX0_readName_1 4 rfl rfl)
theorem dX0_readName_28 : decode cX0_readName 28 = .ok (.getfield 47, 3) := dk_180 0 47 (dk_at dksX0_readName_1 5 rfl rfl)
theorem dX0_readName_31 : decode cX0_readName 31 = .ok (.invokevirtual 270, 3) := dk_182 1 14 (dk_at dksX0_readName_1 8 rfl rfl)
theorem dX0_readName_34 : decode cX0_readName 34 = .ok (.i2c, 1) := dk_146 (dk_at dksX0_readName_1 11 rfl rfl)
theorem dX0_readName_35 : decode cX0_readName 35 = .ok (.invokevirtual 242, 3) := dk_182 0 242 (dk_at dksX0_readName_1 12 rfl rfl)
theorem dX0_readName_38 : decode cX0_readName 38 = .ok (.pop, 1) := dk_87 (dk_at dksX0_readName_1 15 rfl rfl)
theorem dX0_readName_39 : decode cX0_readName 39 = .ok (.aload_n 0, 1) := dk_42 (dk_at dksX0_readName_1 16 rfl rfl)
theorem dX0_readName_40 : decode cX0_readName 40 = .ok (.getfield 47, 3) := dk_180 0 47 (dk_at dksX0_readName_1 17 rfl rfl)
theorem dX0_readName_43 : decode cX0_readName 43 = .ok (.aload_n 0, 1) := dk_42 (dk_at dksX0_readName_1 20 rfl rfl)
theorem dX0_readName_44 : decode cX0_readName 44 = .ok (.getfield 47, 3) := dk_180 0 47 (dk_at dksX0_readName_1 21 rfl rfl)
theorem dX0_readName_47 : decode cX0_readName 47 = .ok (.invokevirtual 252, 3) := dk_182 0 252 (dk_at dksX0_readName_2 0 rfl rfl)
theorem dX0_readName_50 : decode cX0_readName 50 = .ok (.iconst 1, 1) := dk_4 (dk_at dksX0_readName_2 3 rfl rfl)
theorem dX0_readName_51 : decode cX0_readName 51 = .ok (.iadd, 1) := dk_96 (dk_at dksX0_readName_2 4 rfl rfl)
theorem dX0_readName_52 : decode cX0_readName 52 = .ok (.invokevirtual 273, 3) := dk_182 1 17 (dk_at dksX0_readName_2 5 rfl rfl)
theorem dX0_readName_55 : decode cX0_readName 55 = .ok (.goto (-39), 3) := dk_167 255 217 (dk_at dksX0_readName_2 8 rfl rfl)
theorem dX0_readName_58 : decode cX0_readName 58 = .ok (.aload_n 2, 1) := dk_44 (dk_at dksX0_readName_2 11 rfl rfl)
theorem dX0_readName_59 : decode cX0_readName 59 = .ok (.invokevirtual 285, 3) := dk_182 1 29 (dk_at dksX0_readName_2 12 rfl rfl)
theorem dX0_readName_62 : decode cX0_readName 62 = .ok (.astore_n 3, 1) := dk_78 (dk_at dksX0_readName_2 15 rfl rfl)
theorem dX0_readName_63 : decode cX0_readName 63 = .ok (.aload_n 3, 1) := dk_45 (dk_at dksX0_readName_2 16 rfl rfl)
theorem dX0_readName_64 : decode cX0_readName 64 = .ok (.invokevirtual 222, 3) := dk_182 0 222 (dk_at dksX0_readName_2 17 rfl rfl)
theorem dX0_readName_67 : decode cX0_readName 67 = .ok (.iconst 1, 1) := dk_4 (dk_at dksX0_readName_2 20 rfl rfl)
theorem dX0_readName_68 : decode cX0_readName 68 = .ok (.if_icmp .ne 36, 3) := dk_160 0 36 (dk_at dksX0_readName_2 21 rfl rfl)
theorem dX0_readName_71 : decode cX0_readName 71 = .ok (.aload_n 3, 1) := dk_45 (dk_at dksX0_readName_3 0 rfl rfl)
theorem dX0_readName_72 : decode cX0_readName 72 = .ok (.iconst 0, 1) := dk_3 (dk_at dksX0_readName_3 1 rfl rfl)
theorem dX0_readName_73 : decode cX0_readName 73 = .ok (.invokevirtual 288, 3) := dk_182 1 32 (dk_at dksX0_readName_3 2 rfl rfl)
theorem dX0_readName_76 : decode cX0_readName 76 = .ok (.bipush 97, 2) := dk_16 97 (dk_at dksX0_readName_3 5 rfl rfl)
theorem dX0_readName_78 : decode cX0_readName 78 = .ok (.isub, 1) := dk_100 (dk_at dksX0_readName_3 7 rfl rfl)
theorem dX0_readName_79 : decode cX0_readName 79 = .ok (.invokestatic 189, 3) := dk_184 0 189 (dk_at dksX0_readName_3 8 rfl rfl)
theorem dX0_readName_82 : decode cX0_readName 82 = .ok (.ifCond .eq 22, 3) := dk_153 0 22 (dk_at dksX0_readName_3 11 rfl rfl)
theorem dX0_readName_85 : decode cX0_readName 85 = .ok (.aload_n 0, 1) := dk_42 (dk_at dksX0_readName_3 14 rfl rfl)
theorem dX0_readName_86 : decode cX0_readName 86 = .ok (.getfield 40, 3) := dk_180 0 40 (dk_at dksX0_readName_3 15 rfl rfl)
theorem dX0_readName_89 : decode cX0_readName 89 = .ok (.getfield 104, 3) := dk_180 0 104 (dk_at dksX0_readName_3 18 rfl rfl)
theorem dX0_readName_92 : decode cX0_readName 92 = .ok (.aload_n 3, 1) := dk_45 (dk_at dksX0_readName_3 21 rfl rfl)
theorem dX0_readName_93 : decode cX0_readName 93 = .ok (.iconst 0, 1) := dk_3 (dk_at dksX0_readName_3 22 rfl rfl)
theorem dX0_readName_94 : decode cX0_readName 94 = .ok (.invokevirtual 288, 3) := dk_182 1 32 (dk_at dksX0_readName_4 0 rfl rfl)
theorem dX0_readName_97 : decode cX0_readName 97 = .ok (.bipush 97, 2) := dk_16 97 (dk_at dksX0_readName_4 3 rfl rfl)
theorem dX0_readName_99 : decode cX0_readName 99 = .ok (.isub, 1) := dk_100 (dk_at dksX0_readName_4 5 rfl rfl)
theorem dX0_readName_100 : decode cX0_readName 100 = .ok (.aaload, 1) := dk_50 (dk_at dksX0_readName_4 6 rfl rfl)
theorem dX0_readName_101 : decode cX0_readName 101 = .ok (.goto 7, 3) := dk_167 0 7 (dk_at dksX0_readName_4 7 rfl rfl)
theorem dX0_readName_104 : decode cX0_readName 104 = .ok (.aload_n 3, 1) := dk_45 (dk_at dksX0_readName_4 10 rfl rfl)
theorem dX0_readName_105 : decode cX0_readName 105 = .ok (.invokestatic 108, 3) := dk_184 0 108 (dk_at dksX0_readName_4 11 rfl rfl)
theorem dX0_readName_108 : decode cX0_readName 108 = .ok (.astore 4, 2) := dk_58 4 (dk_at dksX0_readName_4 14 rfl rfl)
theorem dX0_readName_110 : decode cX0_readName 110 = .ok (.aload 4, 2) := dk_25 4 (dk_at dksX0_readName_4 16 rfl rfl)
theorem dX0_readName_112 : decode cX0_readName 112 = .ok (.ifnonnull 9, 3) := dk_199 0 9 (dk_at dksX0_readName_4 18 rfl rfl)
theorem dX0_readName_115 : decode cX0_readName 115 = .ok (.aload_n 0, 1) := dk_42 (dk_at dksX0_readName_4 21 rfl rfl)
theorem dX0_readName_116 : decode cX0_readName 116 = .ok (.iload_n 1, 1) := dk_27 (dk_at dksX0_readName_4 22 rfl rfl)
theorem dX0_readName_117 : decode cX0_readName 117 = .ok (.invokevirtual 255, 3) := dk_182 0 255 (dk_at dksX0_readName_5 0 rfl rfl)
theorem dX0_readName_120 : decode cX0_readName 120 = .ok (.athrow, 1) := dk_191 (dk_at dksX0_readName_5 3 rfl rfl)
theorem dX0_readName_121 : decode cX0_readName 121 = .ok (.new 115, 3) := dk_187 0 115 (dk_at dksX0_readName_5 4 rfl rfl)
theorem dX0_readName_124 : decode cX0_readName 124 = .ok (.dup, 1) := dk_89 (dk_at dksX0_readName_5 7 rfl rfl)
theorem dX0_readName_125 : decode cX0_readName 125 = .ok (.invokespecial 289, 3) := dk_183 1 33 (dk_at dksX0_readName_5 8 rfl rfl)
theorem dX0_readName_128 : decode cX0_readName 128 = .ok (.aload 4, 2) := dk_25 4 (dk_at dksX0_readName_5 11 rfl rfl)
theorem dX0_readName_130 : decode cX0_readName 130 = .ok (.invokevirtual 114, 3) := dk_182 0 114 (dk_at dksX0_readName_5 13 rfl rfl)
theorem dX0_readName_133 : decode cX0_readName 133 = .ok (.areturn, 1) := dk_176 (dk_at dksX0_readName_5 16 rfl rfl)
abbrev cX0_faultAt : ByteArray := prog_1_method_25_code
def yX0_faultAt : MethodName := ⟨RX0, "faultAt", "(I)LEightBlocks$Fault;"⟩
def dkwX0_faultAt_0 : List UInt8 := [42, 180, 0, 54, 27, 181, 0, 246, 42, 180, 0, 54, 176]
abbrev dktX0_faultAt_0 : List UInt8 := dkwX0_faultAt_0 ++ []
theorem dksX0_faultAt_0 : cX0_faultAt.data.toList.drop 0 = dktX0_faultAt_0 := by decide +kernel
theorem dX0_faultAt_0 : decode cX0_faultAt 0 = .ok (.aload_n 0, 1) := dk_42 (dk_at dksX0_faultAt_0 0 rfl rfl)
theorem dX0_faultAt_1 : decode cX0_faultAt 1 = .ok (.getfield 54, 3) := dk_180 0 54 (dk_at dksX0_faultAt_0 1 rfl rfl)
theorem dX0_faultAt_4 : decode cX0_faultAt 4 = .ok (.iload_n 1, 1) := dk_27 (dk_at dksX0_faultAt_0 4 rfl rfl)
theorem dX0_faultAt_5 : decode cX0_faultAt 5 = .ok (.putfield 246, 3) := dk_181 0 246 (dk_at dksX0_faultAt_0 5 rfl rfl)
theorem dX0_faultAt_8 : decode cX0_faultAt 8 = .ok (.aload_n 0, 1) := dk_42 (dk_at dksX0_faultAt_0 8 rfl rfl)
theorem dX0_faultAt_9 : decode cX0_faultAt 9 = .ok (.getfield 54, 3) := dk_180 0 54 (dk_at dksX0_faultAt_0 9 rfl rfl)
theorem dX0_faultAt_12 : decode cX0_faultAt 12 = .ok (.areturn, 1) := dk_176 (dk_at dksX0_faultAt_0 12 rfl rfl)
abbrev cX0_readRing : ByteArray := prog_1_method_30_code
def yX0_readRing : MethodName := ⟨RX0, "readRing", "()LEightBlocks$Move;"⟩
def dkwX0_readRing_4 : List UInt8 := [16, 41, 182, 1, 47, 43, 176]
abbrev dktX0_readRing_4 : List UInt8 := dkwX0_readRing_4 ++ []
def dkwX0_readRing_3 : List UInt8 := [21, 5, 145, 84, 21, 5, 62, 167, 255, 213, 43, 180, 1, 40, 29, 28, 145, 84, 43, 182, 1, 44, 42]
abbrev dktX0_readRing_3 : List UInt8 := dkwX0_readRing_3 ++ dktX0_readRing_4
def dkwX0_readRing_2 : List UInt8 := [16, 23, 21, 4, 182, 1, 37, 54, 5, 21, 4, 4, 21, 5, 120, 128, 54, 4, 43, 180, 1, 40, 29]
abbrev dktX0_readRing_2 : List UInt8 := dkwX0_readRing_2 ++ dktX0_readRing_3
def dkwX0_readRing_1 : List UInt8 := [182, 1, 37, 61, 28, 62, 4, 28, 120, 54, 4, 42, 180, 0, 47, 16, 44, 182, 1, 3, 153, 0, 37, 42]
abbrev dktX0_readRing_1 : List UInt8 := dkwX0_readRing_1 ++ dktX0_readRing_2
def dkwX0_readRing_0 : List UInt8 := [187, 0, 115, 89, 183, 1, 33, 76, 43, 187, 1, 34, 89, 183, 1, 36, 182, 0, 114, 87, 42, 16, 23, 3]
abbrev dktX0_readRing_0 : List UInt8 := dkwX0_readRing_0 ++ dktX0_readRing_1
theorem dksX0_readRing_0 : cX0_readRing.data.toList.drop 0 = dktX0_readRing_0 := by decide +kernel
theorem dksX0_readRing_1 : cX0_readRing.data.toList.drop 24 = dktX0_readRing_1 := dk_seg dksX0_readRing_0 24 rfl rfl
theorem dksX0_readRing_2 : cX0_readRing.data.toList.drop 48 = dktX0_readRing_2 := dk_seg dksX0_readRing_1 24 rfl rfl
theorem dksX0_readRing_3 : cX0_readRing.data.toList.drop 71 = dktX0_readRing_3 := dk_seg dksX0_readRing_2 23 rfl rfl
theorem dksX0_readRing_4 : cX0_readRing.data.toList.drop 94 = dktX0_readRing_4 := dk_seg dksX0_readRing_3 23 rfl rfl
theorem dX0_readRing_0 : decode cX0_readRing 0 = .ok (.new 115, 3) := dk_187 0 115 (dk_at dksX0_readRing_0 0 rfl rfl)
theorem dX0_readRing_3 : decode cX0_readRing 3 = .ok (.dup, 1) := dk_89 (dk_at dksX0_readRing_0 3 rfl rfl)
theorem dX0_readRing_4 : decode cX0_readRing 4 = .ok (.invokespecial 289, 3) := dk_183 1 33 (dk_at dksX0_readRing_0 4 rfl rfl)
theorem dX0_readRing_7 : decode cX0_readRing 7 = .ok (.astore_n 1, 1) := dk_76 (dk_at dksX0_readRing_0 7 rfl rfl)
theorem dX0_readRing_8 : decode cX0_readRing 8 = .ok (.aload_n 1, 1) := dk_43 (dk_at dksX0_readRing_0 8 rfl rfl)
theorem dX0_readRing_9 : decode cX0_readRing 9 = .ok (.new 290, 3) := dk_187 1 34 (dk_at dksX0_readRing_0 9 rfl rfl)
theorem dX0_readRing_12 : decode cX0_readRing 12 = .ok (.dup, 1) := dk_89 (dk_at dksX0_readRing_0 12 rfl rfl)
theorem dX0_readRing_13 : decode cX0_readRing 13 = .ok (.invokespecial 292, 3) := dk_183 1 36 (dk_at dksX0_readRing_0 13 rfl rfl)
theorem dX0_readRing_16 : decode cX0_readRing 16 = .ok (.invokevirtual 114, 3) := dk_182 0 114 (dk_at dksX0_readRing_0 16 rfl rfl)
theorem dX0_readRing_19 : decode cX0_readRing 19 = .ok (.pop, 1) := dk_87 (dk_at dksX0_readRing_0 19 rfl rfl)
theorem dX0_readRing_20 : decode cX0_readRing 20 = .ok (.aload_n 0, 1) := dk_42 (dk_at dksX0_readRing_0 20 rfl rfl)
theorem dX0_readRing_21 : decode cX0_readRing 21 = .ok (.bipush 23, 2) := dk_16 23 (dk_at dksX0_readRing_0 21 rfl rfl)
theorem dX0_readRing_23 : decode cX0_readRing 23 = .ok (.iconst 0, 1) := dk_3 (dk_at dksX0_readRing_0 23 rfl rfl)
theorem dX0_readRing_24 : decode cX0_readRing 24 = .ok (.invokevirtual 293, 3) := dk_182 1 37 (dk_at dksX0_readRing_1 0 rfl rfl)
theorem dX0_readRing_27 : decode cX0_readRing 27 = .ok (.istore_n 2, 1) := dk_61 (dk_at dksX0_readRing_1 3 rfl rfl)
theorem dX0_readRing_28 : decode cX0_readRing 28 = .ok (.iload_n 2, 1) := dk_28 (dk_at dksX0_readRing_1 4 rfl rfl)
theorem dX0_readRing_29 : decode cX0_readRing 29 = .ok (.istore_n 3, 1) := dk_62 (dk_at dksX0_readRing_1 5 rfl rfl)
theorem dX0_readRing_30 : decode cX0_readRing 30 = .ok (.iconst 1, 1) := dk_4 (dk_at dksX0_readRing_1 6 rfl rfl)
theorem dX0_readRing_31 : decode cX0_readRing 31 = .ok (.iload_n 2, 1) := dk_28 (dk_at dksX0_readRing_1 7 rfl rfl)
theorem dX0_readRing_32 : decode cX0_readRing 32 = .ok (.ishl, 1) := dk_120 (dk_at dksX0_readRing_1 8 rfl rfl)
theorem dX0_readRing_33 : decode cX0_readRing 33 = .ok (.istore 4, 2) := dk_54 4 (dk_at dksX0_readRing_1 9 rfl rfl)
theorem dX0_readRing_35 : decode cX0_readRing 35 = .ok (.aload_n 0, 1) := dk_42 (dk_at dksX0_readRing_1 11 rfl rfl)
theorem dX0_readRing_36 : decode cX0_readRing 36 = .ok (.getfield 47, 3) := dk_180 0 47 (dk_at dksX0_readRing_1 12 rfl rfl)
theorem dX0_readRing_39 : decode cX0_readRing 39 = .ok (.bipush 44, 2) := dk_16 44 (dk_at dksX0_readRing_1 15 rfl rfl)
theorem dX0_readRing_41 : decode cX0_readRing 41 = .ok (.invokevirtual 259, 3) := dk_182 1 3 (dk_at dksX0_readRing_1 17 rfl rfl)
theorem dX0_readRing_44 : decode cX0_readRing 44 = .ok (.ifCond .eq 37, 3) := dk_153 0 37 (dk_at dksX0_readRing_1 20 rfl rfl)
theorem dX0_readRing_47 : decode cX0_readRing 47 = .ok (.aload_n 0, 1) := dk_42 (dk_at dksX0_readRing_1 23 rfl rfl)
theorem dX0_readRing_48 : decode cX0_readRing 48 = .ok (.bipush 23, 2) := dk_16 23 (dk_at dksX0_readRing_2 0 rfl rfl)
theorem dX0_readRing_50 : decode cX0_readRing 50 = .ok (.iload 4, 2) := dk_21 4 (dk_at dksX0_readRing_2 2 rfl rfl)
theorem dX0_readRing_52 : decode cX0_readRing 52 = .ok (.invokevirtual 293, 3) := dk_182 1 37 (dk_at dksX0_readRing_2 4 rfl rfl)
theorem dX0_readRing_55 : decode cX0_readRing 55 = .ok (.istore 5, 2) := dk_54 5 (dk_at dksX0_readRing_2 7 rfl rfl)
theorem dX0_readRing_57 : decode cX0_readRing 57 = .ok (.iload 4, 2) := dk_21 4 (dk_at dksX0_readRing_2 9 rfl rfl)
theorem dX0_readRing_59 : decode cX0_readRing 59 = .ok (.iconst 1, 1) := dk_4 (dk_at dksX0_readRing_2 11 rfl rfl)
theorem dX0_readRing_60 : decode cX0_readRing 60 = .ok (.iload 5, 2) := dk_21 5 (dk_at dksX0_readRing_2 12 rfl rfl)
theorem dX0_readRing_62 : decode cX0_readRing 62 = .ok (.ishl, 1) := dk_120 (dk_at dksX0_readRing_2 14 rfl rfl)
theorem dX0_readRing_63 : decode cX0_readRing 63 = .ok (.ior, 1) := dk_128 (dk_at dksX0_readRing_2 15 rfl rfl)
theorem dX0_readRing_64 : decode cX0_readRing 64 = .ok (.istore 4, 2) := dk_54 4 (dk_at dksX0_readRing_2 16 rfl rfl)
theorem dX0_readRing_66 : decode cX0_readRing 66 = .ok (.aload_n 1, 1) := dk_43 (dk_at dksX0_readRing_2 18 rfl rfl)
theorem dX0_readRing_67 : decode cX0_readRing 67 = .ok (.getfield 296, 3) := dk_180 1 40 (dk_at dksX0_readRing_2 19 rfl rfl)
theorem dX0_readRing_70 : decode cX0_readRing 70 = .ok (.iload_n 3, 1) := dk_29 (dk_at dksX0_readRing_2 22 rfl rfl)
theorem dX0_readRing_71 : decode cX0_readRing 71 = .ok (.iload 5, 2) := dk_21 5 (dk_at dksX0_readRing_3 0 rfl rfl)
theorem dX0_readRing_73 : decode cX0_readRing 73 = .ok (.i2b, 1) := dk_145 (dk_at dksX0_readRing_3 2 rfl rfl)
theorem dX0_readRing_74 : decode cX0_readRing 74 = .ok (.bastore, 1) := dk_84 (dk_at dksX0_readRing_3 3 rfl rfl)
theorem dX0_readRing_75 : decode cX0_readRing 75 = .ok (.iload 5, 2) := dk_21 5 (dk_at dksX0_readRing_3 4 rfl rfl)
theorem dX0_readRing_77 : decode cX0_readRing 77 = .ok (.istore_n 3, 1) := dk_62 (dk_at dksX0_readRing_3 6 rfl rfl)
theorem dX0_readRing_78 : decode cX0_readRing 78 = .ok (.goto (-43), 3) := dk_167 255 213 (dk_at dksX0_readRing_3 7 rfl rfl)
theorem dX0_readRing_81 : decode cX0_readRing 81 = .ok (.aload_n 1, 1) := dk_43 (dk_at dksX0_readRing_3 10 rfl rfl)
theorem dX0_readRing_82 : decode cX0_readRing 82 = .ok (.getfield 296, 3) := dk_180 1 40 (dk_at dksX0_readRing_3 11 rfl rfl)
theorem dX0_readRing_85 : decode cX0_readRing 85 = .ok (.iload_n 3, 1) := dk_29 (dk_at dksX0_readRing_3 14 rfl rfl)
theorem dX0_readRing_86 : decode cX0_readRing 86 = .ok (.iload_n 2, 1) := dk_28 (dk_at dksX0_readRing_3 15 rfl rfl)
theorem dX0_readRing_87 : decode cX0_readRing 87 = .ok (.i2b, 1) := dk_145 (dk_at dksX0_readRing_3 16 rfl rfl)
theorem dX0_readRing_88 : decode cX0_readRing 88 = .ok (.bastore, 1) := dk_84 (dk_at dksX0_readRing_3 17 rfl rfl)
theorem dX0_readRing_89 : decode cX0_readRing 89 = .ok (.aload_n 1, 1) := dk_43 (dk_at dksX0_readRing_3 18 rfl rfl)
theorem dX0_readRing_90 : decode cX0_readRing 90 = .ok (.invokevirtual 300, 3) := dk_182 1 44 (dk_at dksX0_readRing_3 19 rfl rfl)
theorem dX0_readRing_93 : decode cX0_readRing 93 = .ok (.aload_n 0, 1) := dk_42 (dk_at dksX0_readRing_3 22 rfl rfl)
theorem dX0_readRing_94 : decode cX0_readRing 94 = .ok (.bipush 41, 2) := dk_16 41 (dk_at dksX0_readRing_4 0 rfl rfl)
theorem dX0_readRing_96 : decode cX0_readRing 96 = .ok (.invokevirtual 303, 3) := dk_182 1 47 (dk_at dksX0_readRing_4 2 rfl rfl)
theorem dX0_readRing_99 : decode cX0_readRing 99 = .ok (.aload_n 1, 1) := dk_43 (dk_at dksX0_readRing_4 5 rfl rfl)
theorem dX0_readRing_100 : decode cX0_readRing 100 = .ok (.areturn, 1) := dk_176 (dk_at dksX0_readRing_4 6 rfl rfl)
abbrev cX0_readNumber : ByteArray := prog_1_method_28_code
def yX0_readNumber : MethodName := ⟨RX0, "readNumber", "(II)I"⟩
def dkwX0_readNumber_5 : List UInt8 := [153, 0, 9, 42, 29, 182, 0, 255, 191, 21, 4, 172]
abbrev dktX0_readNumber_5 : List UInt8 := dkwX0_readNumber_5 ++ []
def dkwX0_readNumber_4 : List UInt8 := [153, 0, 25, 21, 4, 27, 163, 0, 19, 21, 4, 16, 24, 162, 0, 18, 28, 21, 4, 184, 1, 21]
abbrev dktX0_readNumber_4 : List UInt8 := dkwX0_readNumber_4 ++ dktX0_readNumber_5
def dkwX0_readNumber_3 : List UInt8 := [180, 0, 47, 182, 0, 252, 4, 96, 182, 1, 17, 167, 255, 198, 21, 5, 133, 10, 20, 0, 166, 184, 0, 11]
abbrev dktX0_readNumber_3 : List UInt8 := dkwX0_readNumber_3 ++ dktX0_readNumber_4
def dkwX0_readNumber_2 : List UInt8 := [182, 1, 14, 96, 16, 48, 100, 167, 0, 5, 21, 4, 54, 4, 132, 5, 1, 42, 180, 0, 47, 42]
abbrev dktX0_readNumber_2 : List UInt8 := dkwX0_readNumber_2 ++ dktX0_readNumber_3
def dkwX0_readNumber_1 : List UInt8 := [180, 0, 47, 182, 1, 10, 153, 0, 54, 21, 5, 5, 162, 0, 22, 16, 10, 21, 4, 104, 42, 180, 0, 47]
abbrev dktX0_readNumber_1 : List UInt8 := dkwX0_readNumber_1 ++ dktX0_readNumber_2
def dkwX0_readNumber_0 : List UInt8 := [42, 180, 0, 47, 182, 0, 249, 87, 42, 180, 0, 47, 182, 0, 252, 62, 3, 54, 4, 3, 54, 5, 42]
abbrev dktX0_readNumber_0 : List UInt8 := dkwX0_readNumber_0 ++ dktX0_readNumber_1
theorem dksX0_readNumber_0 : cX0_readNumber.data.toList.drop 0 = dktX0_readNumber_0 := by decide +kernel
theorem dksX0_readNumber_1 : cX0_readNumber.data.toList.drop 23 = dktX0_readNumber_1 := dk_seg dksX0_readNumber_0 23 rfl rfl
theorem dksX0_readNumber_2 : cX0_readNumber.data.toList.drop 47 = dktX0_readNumber_2 := dk_seg dksX0_readNumber_1 24 rfl rfl
theorem dksX0_readNumber_3 : cX0_readNumber.data.toList.drop 69 = dktX0_readNumber_3 := dk_seg dksX0_readNumber_2 22 rfl rfl
theorem dksX0_readNumber_4 : cX0_readNumber.data.toList.drop 93 = dktX0_readNumber_4 := dk_seg dksX0_readNumber_3 24 rfl rfl
theorem dksX0_readNumber_5 : cX0_readNumber.data.toList.drop 115 = dktX0_readNumber_5 := dk_seg dksX0_readNumber_4 22 rfl rfl
theorem dX0_readNumber_0 : decode cX0_readNumber 0 = .ok (.aload_n 0, 1) := dk_42 (dk_at dksX0_readNumber_0 0 rfl rfl)
theorem dX0_readNumber_1 : decode cX0_readNumber 1 = .ok (.getfield 47, 3) := dk_180 0 47 (dk_at dksX0_readNumber_0 1 rfl rfl)
theorem dX0_readNumber_4 : decode cX0_readNumber 4 = .ok (.invokevirtual 249, 3) := dk_182 0 249 (dk_at dksX0_readNumber_0 4 rfl rfl)
theorem dX0_readNumber_7 : decode cX0_readNumber 7 = .ok (.pop, 1) := dk_87 (dk_at dksX0_readNumber_0 7 rfl rfl)
theorem dX0_readNumber_8 : decode cX0_readNumber 8 = .ok (.aload_n 0, 1) := dk_42 (dk_at dksX0_readNumber_0 8 rfl rfl)
theorem dX0_readNumber_9 : decode cX0_readNumber 9 = .ok (.getfield 47, 3) := dk_180 0 47 (dk_at dksX0_readNumber_0 9 rfl rfl)
theorem dX0_readNumber_12 : decode cX0_readNumber 12 = .ok (.invokevirtual 252, 3) := dk_182 0 252 (dk_at dksX0_readNumber_0 12 rfl rfl)
theorem dX0_readNumber_15 : decode cX0_readNumber 15 = .ok (.istore_n 3, 1) := dk_62 (dk_at dksX0_readNumber_0 15 rfl rfl)
theorem dX0_readNumber_16 : decode cX0_readNumber 16 = .ok (.iconst 0, 1) := dk_3 (dk_at dksX0_readNumber_0 16 rfl rfl)
theorem dX0_readNumber_17 : decode cX0_readNumber 17 = .ok (.istore 4, 2) := dk_54 4 (dk_at dksX0_readNumber_0 17 rfl rfl)
theorem dX0_readNumber_19 : decode cX0_readNumber 19 = .ok (.iconst 0, 1) := dk_3 (dk_at dksX0_readNumber_0 19 rfl rfl)
theorem dX0_readNumber_20 : decode cX0_readNumber 20 = .ok (.istore 5, 2) := dk_54 5 (dk_at dksX0_readNumber_0 20 rfl rfl)
theorem dX0_readNumber_22 : decode cX0_readNumber 22 = .ok (.aload_n 0, 1) := dk_42 (dk_at dksX0_readNumber_0 22 rfl rfl)
theorem dX0_readNumber_23 : decode cX0_readNumber 23 = .ok (.getfield 47, 3) := dk_180 0 47 (dk_at dksX0_readNumber_1 0 rfl rfl)
theorem dX0_readNumber_26 : decode cX0_readNumber 26 = .ok (.invokevirtual 266, 3) := dk_182 1 10 (dk_at dksX0_readNumber_1 3 rfl rfl)
theorem dX0_readNumber_29 : decode cX0_readNumber 29 = .ok (.ifCond .eq 54, 3) := dk_153 0 54 (dk_at dksX0_readNumber_1 6 rfl rfl)
theorem dX0_readNumber_32 : decode cX0_readNumber 32 = .ok (.iload 5, 2) := dk_21 5 (dk_at dksX0_readNumber_1 9 rfl rfl)
theorem dX0_readNumber_34 : decode cX0_readNumber 34 = .ok (.iconst 2, 1) := dk_5 (dk_at dksX0_readNumber_1 11 rfl rfl)
theorem dX0_readNumber_35 : decode cX0_readNumber 35 = .ok (.if_icmp .ge 22, 3) := dk_162 0 22 (dk_at dksX0_readNumber_1 12 rfl rfl)
theorem dX0_readNumber_38 : decode cX0_readNumber 38 = .ok (.bipush 10, 2) := dk_16 10 (dk_at dksX0_readNumber_1 15 rfl rfl)
theorem dX0_readNumber_40 : decode cX0_readNumber 40 = .ok (.iload 4, 2) := dk_21 4 (dk_at dksX0_readNumber_1 17 rfl rfl)
theorem dX0_readNumber_42 : decode cX0_readNumber 42 = .ok (.imul, 1) := dk_104 (dk_at dksX0_readNumber_1 19 rfl rfl)
theorem dX0_readNumber_43 : decode cX0_readNumber 43 = .ok (.aload_n 0, 1) := dk_42 (dk_at dksX0_readNumber_1 20 rfl rfl)
theorem dX0_readNumber_44 : decode cX0_readNumber 44 = .ok (.getfield 47, 3) := dk_180 0 47 (dk_at dksX0_readNumber_1 21 rfl rfl)
theorem dX0_readNumber_47 : decode cX0_readNumber 47 = .ok (.invokevirtual 270, 3) := dk_182 1 14 (dk_at dksX0_readNumber_2 0 rfl rfl)
theorem dX0_readNumber_50 : decode cX0_readNumber 50 = .ok (.iadd, 1) := dk_96 (dk_at dksX0_readNumber_2 3 rfl rfl)
theorem dX0_readNumber_51 : decode cX0_readNumber 51 = .ok (.bipush 48, 2) := dk_16 48 (dk_at dksX0_readNumber_2 4 rfl rfl)
theorem dX0_readNumber_53 : decode cX0_readNumber 53 = .ok (.isub, 1) := dk_100 (dk_at dksX0_readNumber_2 6 rfl rfl)
theorem dX0_readNumber_54 : decode cX0_readNumber 54 = .ok (.goto 5, 3) := dk_167 0 5 (dk_at dksX0_readNumber_2 7 rfl rfl)
theorem dX0_readNumber_57 : decode cX0_readNumber 57 = .ok (.iload 4, 2) := dk_21 4 (dk_at dksX0_readNumber_2 10 rfl rfl)
theorem dX0_readNumber_59 : decode cX0_readNumber 59 = .ok (.istore 4, 2) := dk_54 4 (dk_at dksX0_readNumber_2 12 rfl rfl)
theorem dX0_readNumber_61 : decode cX0_readNumber 61 = .ok (.iinc 5 1, 3) := dk_132 5 1 (dk_at dksX0_readNumber_2 14 rfl rfl)
theorem dX0_readNumber_64 : decode cX0_readNumber 64 = .ok (.aload_n 0, 1) := dk_42 (dk_at dksX0_readNumber_2 17 rfl rfl)
theorem dX0_readNumber_65 : decode cX0_readNumber 65 = .ok (.getfield 47, 3) := dk_180 0 47 (dk_at dksX0_readNumber_2 18 rfl rfl)
theorem dX0_readNumber_68 : decode cX0_readNumber 68 = .ok (.aload_n 0, 1) := dk_42 (dk_at dksX0_readNumber_2 21 rfl rfl)
theorem dX0_readNumber_69 : decode cX0_readNumber 69 = .ok (.getfield 47, 3) := dk_180 0 47 (dk_at dksX0_readNumber_3 0 rfl rfl)
theorem dX0_readNumber_72 : decode cX0_readNumber 72 = .ok (.invokevirtual 252, 3) := dk_182 0 252 (dk_at dksX0_readNumber_3 3 rfl rfl)
theorem dX0_readNumber_75 : decode cX0_readNumber 75 = .ok (.iconst 1, 1) := dk_4 (dk_at dksX0_readNumber_3 6 rfl rfl)
theorem dX0_readNumber_76 : decode cX0_readNumber 76 = .ok (.iadd, 1) := dk_96 (dk_at dksX0_readNumber_3 7 rfl rfl)
theorem dX0_readNumber_77 : decode cX0_readNumber 77 = .ok (.invokevirtual 273, 3) := dk_182 1 17 (dk_at dksX0_readNumber_3 8 rfl rfl)
theorem dX0_readNumber_80 : decode cX0_readNumber 80 = .ok (.goto (-58), 3) := dk_167 255 198 (dk_at dksX0_readNumber_3 11 rfl rfl)
theorem dX0_readNumber_83 : decode cX0_readNumber 83 = .ok (.iload 5, 2) := dk_21 5 (dk_at dksX0_readNumber_3 14 rfl rfl)
theorem dX0_readNumber_85 : decode cX0_readNumber 85 = .ok (.i2l, 1) := dk_133 (dk_at dksX0_readNumber_3 16 rfl rfl)
theorem dX0_readNumber_86 : decode cX0_readNumber 86 = .ok (.lconst 1, 1) := dk_10 (dk_at dksX0_readNumber_3 17 rfl rfl)
theorem dX0_readNumber_87 : decode cX0_readNumber 87 = .ok (.ldc2_w 166, 3) := dk_20 0 166 (dk_at dksX0_readNumber_3 18 rfl rfl)
theorem dX0_readNumber_90 : decode cX0_readNumber 90 = .ok (.invokestatic 11, 3) := dk_184 0 11 (dk_at dksX0_readNumber_3 21 rfl rfl)
theorem dX0_readNumber_93 : decode cX0_readNumber 93 = .ok (.ifCond .eq 25, 3) := dk_153 0 25 (dk_at dksX0_readNumber_4 0 rfl rfl)
theorem dX0_readNumber_96 : decode cX0_readNumber 96 = .ok (.iload 4, 2) := dk_21 4 (dk_at dksX0_readNumber_4 3 rfl rfl)
theorem dX0_readNumber_98 : decode cX0_readNumber 98 = .ok (.iload_n 1, 1) := dk_27 (dk_at dksX0_readNumber_4 5 rfl rfl)
theorem dX0_readNumber_99 : decode cX0_readNumber 99 = .ok (.if_icmp .gt 19, 3) := dk_163 0 19 (dk_at dksX0_readNumber_4 6 rfl rfl)
theorem dX0_readNumber_102 : decode cX0_readNumber 102 = .ok (.iload 4, 2) := dk_21 4 (dk_at dksX0_readNumber_4 9 rfl rfl)
theorem dX0_readNumber_104 : decode cX0_readNumber 104 = .ok (.bipush 24, 2) := dk_16 24 (dk_at dksX0_readNumber_4 11 rfl rfl)
theorem dX0_readNumber_106 : decode cX0_readNumber 106 = .ok (.if_icmp .ge 18, 3) := dk_162 0 18 (dk_at dksX0_readNumber_4 13 rfl rfl)
theorem dX0_readNumber_109 : decode cX0_readNumber 109 = .ok (.iload_n 2, 1) := dk_28 (dk_at dksX0_readNumber_4 16 rfl rfl)
theorem dX0_readNumber_110 : decode cX0_readNumber 110 = .ok (.iload 4, 2) := dk_21 4 (dk_at dksX0_readNumber_4 17 rfl rfl)
theorem dX0_readNumber_112 : decode cX0_readNumber 112 = .ok (.invokestatic 277, 3) := dk_184 1 21 (dk_at dksX0_readNumber_4 19 rfl rfl)
theorem dX0_readNumber_115 : decode cX0_readNumber 115 = .ok (.ifCond .eq 9, 3) := dk_153 0 9 (dk_at dksX0_readNumber_5 0 rfl rfl)
theorem dX0_readNumber_118 : decode cX0_readNumber 118 = .ok (.aload_n 0, 1) := dk_42 (dk_at dksX0_readNumber_5 3 rfl rfl)
theorem dX0_readNumber_119 : decode cX0_readNumber 119 = .ok (.iload_n 3, 1) := dk_29 (dk_at dksX0_readNumber_5 4 rfl rfl)
theorem dX0_readNumber_120 : decode cX0_readNumber 120 = .ok (.invokevirtual 255, 3) := dk_182 0 255 (dk_at dksX0_readNumber_5 5 rfl rfl)
theorem dX0_readNumber_123 : decode cX0_readNumber 123 = .ok (.athrow, 1) := dk_191 (dk_at dksX0_readNumber_5 8 rfl rfl)
theorem dX0_readNumber_124 : decode cX0_readNumber 124 = .ok (.iload 4, 2) := dk_21 4 (dk_at dksX0_readNumber_5 9 rfl rfl)
theorem dX0_readNumber_126 : decode cX0_readNumber 126 = .ok (.ireturn, 1) := dk_172 (dk_at dksX0_readNumber_5 11 rfl rfl)
abbrev cX0_need : ByteArray := prog_1_method_27_code
def yX0_need : MethodName := ⟨RX0, "need", "(I)V"⟩
def dkwX0_need_0 : List UInt8 := [42, 180, 0, 47, 27, 182, 1, 3, 154, 0, 8, 42, 182, 1, 6, 191, 177]
abbrev dktX0_need_0 : List UInt8 := dkwX0_need_0 ++ []
theorem dksX0_need_0 : cX0_need.data.toList.drop 0 = dktX0_need_0 := by decide +kernel
theorem dX0_need_0 : decode cX0_need 0 = .ok (.aload_n 0, 1) := dk_42 (dk_at dksX0_need_0 0 rfl rfl)
theorem dX0_need_1 : decode cX0_need 1 = .ok (.getfield 47, 3) := dk_180 0 47 (dk_at dksX0_need_0 1 rfl rfl)
theorem dX0_need_4 : decode cX0_need 4 = .ok (.iload_n 1, 1) := dk_27 (dk_at dksX0_need_0 4 rfl rfl)
theorem dX0_need_5 : decode cX0_need 5 = .ok (.invokevirtual 259, 3) := dk_182 1 3 (dk_at dksX0_need_0 5 rfl rfl)
theorem dX0_need_8 : decode cX0_need 8 = .ok (.ifCond .ne 8, 3) := dk_154 0 8 (dk_at dksX0_need_0 8 rfl rfl)
theorem dX0_need_11 : decode cX0_need 11 = .ok (.aload_n 0, 1) := dk_42 (dk_at dksX0_need_0 11 rfl rfl)
theorem dX0_need_12 : decode cX0_need 12 = .ok (.invokevirtual 262, 3) := dk_182 1 6 (dk_at dksX0_need_0 12 rfl rfl)
theorem dX0_need_15 : decode cX0_need 15 = .ok (.athrow, 1) := dk_191 (dk_at dksX0_need_0 15 rfl rfl)
theorem dX0_need_16 : decode cX0_need 16 = .ok (.return_, 1) := dk_177 (dk_at dksX0_need_0 16 rfl rfl)
abbrev cX0_faultyNext : ByteArray := prog_1_method_26_code
def yX0_faultyNext : MethodName := ⟨RX0, "faultyNext", "()LEightBlocks$Fault;"⟩
def dkwX0_faultyNext_0 : List UInt8 := [42, 180, 0, 47, 182, 0, 249, 87, 42, 42, 180, 0, 47, 182, 0, 252, 182, 0, 255, 176]
abbrev dktX0_faultyNext_0 : List UInt8 := dkwX0_faultyNext_0 ++ []
theorem dksX0_faultyNext_0 : cX0_faultyNext.data.toList.drop 0 = dktX0_faultyNext_0 := by decide +kernel
theorem dX0_faultyNext_0 : decode cX0_faultyNext 0 = .ok (.aload_n 0, 1) := dk_42 (dk_at dksX0_faultyNext_0 0 rfl rfl)
theorem dX0_faultyNext_1 : decode cX0_faultyNext 1 = .ok (.getfield 47, 3) := dk_180 0 47 (dk_at dksX0_faultyNext_0 1 rfl rfl)
theorem dX0_faultyNext_4 : decode cX0_faultyNext 4 = .ok (.invokevirtual 249, 3) := dk_182 0 249 (dk_at dksX0_faultyNext_0 4 rfl rfl)
theorem dX0_faultyNext_7 : decode cX0_faultyNext 7 = .ok (.pop, 1) := dk_87 (dk_at dksX0_faultyNext_0 7 rfl rfl)
theorem dX0_faultyNext_8 : decode cX0_faultyNext 8 = .ok (.aload_n 0, 1) := dk_42 (dk_at dksX0_faultyNext_0 8 rfl rfl)
theorem dX0_faultyNext_9 : decode cX0_faultyNext 9 = .ok (.aload_n 0, 1) := dk_42 (dk_at dksX0_faultyNext_0 9 rfl rfl)
theorem dX0_faultyNext_10 : decode cX0_faultyNext 10 = .ok (.getfield 47, 3) := dk_180 0 47 (dk_at dksX0_faultyNext_0 10 rfl rfl)
theorem dX0_faultyNext_13 : decode cX0_faultyNext 13 = .ok (.invokevirtual 252, 3) := dk_182 0 252 (dk_at dksX0_faultyNext_0 13 rfl rfl)
theorem dX0_faultyNext_16 : decode cX0_faultyNext 16 = .ok (.invokevirtual 255, 3) := dk_182 0 255 (dk_at dksX0_faultyNext_0 16 rfl rfl)
theorem dX0_faultyNext_19 : decode cX0_faultyNext 19 = .ok (.areturn, 1) := dk_176 (dk_at dksX0_faultyNext_0 19 rfl rfl)
abbrev cX0_note : ByteArray := prog_1_method_49_code
def yX0_note : MethodName := ⟨RX0, "note", "()V"⟩
def dkwX0_note_3 : List UInt8 := [4, 96, 181, 1, 157, 177]
abbrev dktX0_note_3 : List UInt8 := dkwX0_note_3 ++ []
def dkwX0_note_2 : List UInt8 := [181, 1, 157, 42, 180, 0, 75, 42, 180, 1, 157, 50, 42, 180, 0, 40, 182, 1, 166, 42, 89, 180, 1, 157]
abbrev dktX0_note_2 : List UInt8 := dkwX0_note_2 ++ dktX0_note_3
def dkwX0_note_1 : List UInt8 := [180, 0, 75, 3, 8, 184, 1, 160, 42, 180, 0, 75, 8, 43, 83, 42, 89, 180, 1, 157, 4, 100]
abbrev dktX0_note_1 : List UInt8 := dkwX0_note_1 ++ dktX0_note_2
def dkwX0_note_0 : List UInt8 := [42, 180, 1, 157, 16, 6, 160, 0, 41, 42, 180, 0, 75, 3, 50, 76, 42, 180, 0, 75, 4, 42]
abbrev dktX0_note_0 : List UInt8 := dkwX0_note_0 ++ dktX0_note_1
theorem dksX0_note_0 : cX0_note.data.toList.drop 0 = dktX0_note_0 := by decide +kernel
theorem dksX0_note_1 : cX0_note.data.toList.drop 22 = dktX0_note_1 := dk_seg dksX0_note_0 22 rfl rfl
theorem dksX0_note_2 : cX0_note.data.toList.drop 44 = dktX0_note_2 := dk_seg dksX0_note_1 22 rfl rfl
theorem dksX0_note_3 : cX0_note.data.toList.drop 68 = dktX0_note_3 := dk_seg dksX0_note_2 24 rfl rfl
theorem dX0_note_0 : decode cX0_note 0 = .ok (.aload_n 0, 1) := dk_42 (dk_at dksX0_note_0 0 rfl rfl)
theorem dX0_note_1 : decode cX0_note 1 = .ok (.getfield 413, 3) := dk_180 1 157 (dk_at dksX0_note_0 1 rfl rfl)
theorem dX0_note_4 : decode cX0_note 4 = .ok (.bipush 6, 2) := dk_16 6 (dk_at dksX0_note_0 4 rfl rfl)
theorem dX0_note_6 : decode cX0_note 6 = .ok (.if_icmp .ne 41, 3) := dk_160 0 41 (dk_at dksX0_note_0 6 rfl rfl)
theorem dX0_note_9 : decode cX0_note 9 = .ok (.aload_n 0, 1) := dk_42 (dk_at dksX0_note_0 9 rfl rfl)
theorem dX0_note_10 : decode cX0_note 10 = .ok (.getfield 75, 3) := dk_180 0 75 (dk_at dksX0_note_0 10 rfl rfl)
theorem dX0_note_13 : decode cX0_note 13 = .ok (.iconst 0, 1) := dk_3 (dk_at dksX0_note_0 13 rfl rfl)
theorem dX0_note_14 : decode cX0_note 14 = .ok (.aaload, 1) := dk_50 (dk_at dksX0_note_0 14 rfl rfl)
theorem dX0_note_15 : decode cX0_note 15 = .ok (.astore_n 1, 1) := dk_76 (dk_at dksX0_note_0 15 rfl rfl)
theorem dX0_note_16 : decode cX0_note 16 = .ok (.aload_n 0, 1) := dk_42 (dk_at dksX0_note_0 16 rfl rfl)
theorem dX0_note_17 : decode cX0_note 17 = .ok (.getfield 75, 3) := dk_180 0 75 (dk_at dksX0_note_0 17 rfl rfl)
theorem dX0_note_20 : decode cX0_note 20 = .ok (.iconst 1, 1) := dk_4 (dk_at dksX0_note_0 20 rfl rfl)
theorem dX0_note_21 : decode cX0_note 21 = .ok (.aload_n 0, 1) := dk_42 (dk_at dksX0_note_0 21 rfl rfl)
theorem dX0_note_22 : decode cX0_note 22 = .ok (.getfield 75, 3) := dk_180 0 75 (dk_at dksX0_note_1 0 rfl rfl)
theorem dX0_note_25 : decode cX0_note 25 = .ok (.iconst 0, 1) := dk_3 (dk_at dksX0_note_1 3 rfl rfl)
theorem dX0_note_26 : decode cX0_note 26 = .ok (.iconst 5, 1) := dk_8 (dk_at dksX0_note_1 4 rfl rfl)
theorem dX0_note_27 : decode cX0_note 27 = .ok (.invokestatic 416, 3) := dk_184 1 160 (dk_at dksX0_note_1 5 rfl rfl)
theorem dX0_note_30 : decode cX0_note 30 = .ok (.aload_n 0, 1) := dk_42 (dk_at dksX0_note_1 8 rfl rfl)
theorem dX0_note_31 : decode cX0_note 31 = .ok (.getfield 75, 3) := dk_180 0 75 (dk_at dksX0_note_1 9 rfl rfl)
theorem dX0_note_34 : decode cX0_note 34 = .ok (.iconst 5, 1) := dk_8 (dk_at dksX0_note_1 12 rfl rfl)
theorem dX0_note_35 : decode cX0_note 35 = .ok (.aload_n 1, 1) := dk_43 (dk_at dksX0_note_1 13 rfl rfl)
theorem dX0_note_36 : decode cX0_note 36 = .ok (.aastore, 1) := dk_83 (dk_at dksX0_note_1 14 rfl rfl)
theorem dX0_note_37 : decode cX0_note 37 = .ok (.aload_n 0, 1) := dk_42 (dk_at dksX0_note_1 15 rfl rfl)
theorem dX0_note_38 : decode cX0_note 38 = .ok (.dup, 1) := dk_89 (dk_at dksX0_note_1 16 rfl rfl)
theorem dX0_note_39 : decode cX0_note 39 = .ok (.getfield 413, 3) := dk_180 1 157 (dk_at dksX0_note_1 17 rfl rfl)
theorem dX0_note_42 : decode cX0_note 42 = .ok (.iconst 1, 1) := dk_4 (dk_at dksX0_note_1 20 rfl rfl)
theorem dX0_note_43 : decode cX0_note 43 = .ok (.isub, 1) := dk_100 (dk_at dksX0_note_1 21 rfl rfl)
theorem dX0_note_44 : decode cX0_note 44 = .ok (.putfield 413, 3) := dk_181 1 157 (dk_at dksX0_note_2 0 rfl rfl)
theorem dX0_note_47 : decode cX0_note 47 = .ok (.aload_n 0, 1) := dk_42 (dk_at dksX0_note_2 3 rfl rfl)
theorem dX0_note_48 : decode cX0_note 48 = .ok (.getfield 75, 3) := dk_180 0 75 (dk_at dksX0_note_2 4 rfl rfl)
theorem dX0_note_51 : decode cX0_note 51 = .ok (.aload_n 0, 1) := dk_42 (dk_at dksX0_note_2 7 rfl rfl)
theorem dX0_note_52 : decode cX0_note 52 = .ok (.getfield 413, 3) := dk_180 1 157 (dk_at dksX0_note_2 8 rfl rfl)
theorem dX0_note_55 : decode cX0_note 55 = .ok (.aaload, 1) := dk_50 (dk_at dksX0_note_2 11 rfl rfl)
theorem dX0_note_56 : decode cX0_note 56 = .ok (.aload_n 0, 1) := dk_42 (dk_at dksX0_note_2 12 rfl rfl)
theorem dX0_note_57 : decode cX0_note 57 = .ok (.getfield 40, 3) := dk_180 0 40 (dk_at dksX0_note_2 13 rfl rfl)
theorem dX0_note_60 : decode cX0_note 60 = .ok (.invokevirtual 422, 3) := dk_182 1 166 (dk_at dksX0_note_2 16 rfl rfl)
theorem dX0_note_63 : decode cX0_note 63 = .ok (.aload_n 0, 1) := dk_42 (dk_at dksX0_note_2 19 rfl rfl)
theorem dX0_note_64 : decode cX0_note 64 = .ok (.dup, 1) := dk_89 (dk_at dksX0_note_2 20 rfl rfl)
theorem dX0_note_65 : decode cX0_note 65 = .ok (.getfield 413, 3) := dk_180 1 157 (dk_at dksX0_note_2 21 rfl rfl)
theorem dX0_note_68 : decode cX0_note 68 = .ok (.iconst 1, 1) := dk_4 (dk_at dksX0_note_3 0 rfl rfl)
theorem dX0_note_69 : decode cX0_note 69 = .ok (.iadd, 1) := dk_96 (dk_at dksX0_note_3 1 rfl rfl)
theorem dX0_note_70 : decode cX0_note 70 = .ok (.putfield 413, 3) := dk_181 1 157 (dk_at dksX0_note_3 2 rfl rfl)
theorem dX0_note_73 : decode cX0_note 73 = .ok (.return_, 1) := dk_177 (dk_at dksX0_note_3 5 rfl rfl)
abbrev cX0_group : ByteArray := prog_1_method_39_code
def yX0_group : MethodName := ⟨RX0, "group", "(II)I"⟩
def dkwX0_group_2 : List UInt8 := [180, 0, 26, 184, 1, 114, 42, 180, 0, 68, 42, 180, 0, 40, 27, 185, 1, 120, 4, 0, 172]
abbrev dktX0_group_2 : List UInt8 := dkwX0_group_2 ++ []
def dkwX0_group_1 : List UInt8 := [182, 1, 110, 154, 0, 6, 16, 254, 172, 28, 154, 0, 11, 42, 27, 182, 1, 113, 167, 0, 25, 28, 42]
abbrev dktX0_group_1 : List UInt8 := dkwX0_group_1 ++ dktX0_group_2
def dkwX0_group_0 : List UInt8 := [27, 184, 1, 107, 153, 0, 15, 28, 133, 9, 20, 0, 187, 184, 0, 11, 154, 0, 5, 2, 172, 42, 27]
abbrev dktX0_group_0 : List UInt8 := dkwX0_group_0 ++ dktX0_group_1
theorem dksX0_group_0 : cX0_group.data.toList.drop 0 = dktX0_group_0 := by decide +kernel
theorem dksX0_group_1 : cX0_group.data.toList.drop 23 = dktX0_group_1 := dk_seg dksX0_group_0 23 rfl rfl
theorem dksX0_group_2 : cX0_group.data.toList.drop 46 = dktX0_group_2 := dk_seg dksX0_group_1 23 rfl rfl
theorem dX0_group_0 : decode cX0_group 0 = .ok (.iload_n 1, 1) := dk_27 (dk_at dksX0_group_0 0 rfl rfl)
theorem dX0_group_1 : decode cX0_group 1 = .ok (.invokestatic 363, 3) := dk_184 1 107 (dk_at dksX0_group_0 1 rfl rfl)
theorem dX0_group_4 : decode cX0_group 4 = .ok (.ifCond .eq 15, 3) := dk_153 0 15 (dk_at dksX0_group_0 4 rfl rfl)
theorem dX0_group_7 : decode cX0_group 7 = .ok (.iload_n 2, 1) := dk_28 (dk_at dksX0_group_0 7 rfl rfl)
theorem dX0_group_8 : decode cX0_group 8 = .ok (.i2l, 1) := dk_133 (dk_at dksX0_group_0 8 rfl rfl)
theorem dX0_group_9 : decode cX0_group 9 = .ok (.lconst 0, 1) := dk_9 (dk_at dksX0_group_0 9 rfl rfl)
theorem dX0_group_10 : decode cX0_group 10 = .ok (.ldc2_w 187, 3) := dk_20 0 187 (dk_at dksX0_group_0 10 rfl rfl)
theorem dX0_group_13 : decode cX0_group 13 = .ok (.invokestatic 11, 3) := dk_184 0 11 (dk_at dksX0_group_0 13 rfl rfl)
theorem dX0_group_16 : decode cX0_group 16 = .ok (.ifCond .ne 5, 3) := dk_154 0 5 (dk_at dksX0_group_0 16 rfl rfl)
theorem dX0_group_19 : decode cX0_group 19 = .ok (.iconst (-1), 1) := dk_2 (dk_at dksX0_group_0 19 rfl rfl)
theorem dX0_group_20 : decode cX0_group 20 = .ok (.ireturn, 1) := dk_172 (dk_at dksX0_group_0 20 rfl rfl)
theorem dX0_group_21 : decode cX0_group 21 = .ok (.aload_n 0, 1) := dk_42 (dk_at dksX0_group_0 21 rfl rfl)
theorem dX0_group_22 : decode cX0_group 22 = .ok (.iload_n 1, 1) := dk_27 (dk_at dksX0_group_0 22 rfl rfl)
theorem dX0_group_23 : decode cX0_group 23 = .ok (.invokevirtual 366, 3) := dk_182 1 110 (dk_at dksX0_group_1 0 rfl rfl)
theorem dX0_group_26 : decode cX0_group 26 = .ok (.ifCond .ne 6, 3) := dk_154 0 6 (dk_at dksX0_group_1 3 rfl rfl)
theorem dX0_group_29 : decode cX0_group 29 = .ok (.bipush (-2), 2) := dk_16 254 (dk_at dksX0_group_1 6 rfl rfl)
theorem dX0_group_31 : decode cX0_group 31 = .ok (.ireturn, 1) := dk_172 (dk_at dksX0_group_1 8 rfl rfl)
theorem dX0_group_32 : decode cX0_group 32 = .ok (.iload_n 2, 1) := dk_28 (dk_at dksX0_group_1 9 rfl rfl)
theorem dX0_group_33 : decode cX0_group 33 = .ok (.ifCond .ne 11, 3) := dk_154 0 11 (dk_at dksX0_group_1 10 rfl rfl)
theorem dX0_group_36 : decode cX0_group 36 = .ok (.aload_n 0, 1) := dk_42 (dk_at dksX0_group_1 13 rfl rfl)
theorem dX0_group_37 : decode cX0_group 37 = .ok (.iload_n 1, 1) := dk_27 (dk_at dksX0_group_1 14 rfl rfl)
theorem dX0_group_38 : decode cX0_group 38 = .ok (.invokevirtual 369, 3) := dk_182 1 113 (dk_at dksX0_group_1 15 rfl rfl)
theorem dX0_group_41 : decode cX0_group 41 = .ok (.goto 25, 3) := dk_167 0 25 (dk_at dksX0_group_1 18 rfl rfl)
theorem dX0_group_44 : decode cX0_group 44 = .ok (.iload_n 2, 1) := dk_28 (dk_at dksX0_group_1 21 rfl rfl)
theorem dX0_group_45 : decode cX0_group 45 = .ok (.aload_n 0, 1) := dk_42 (dk_at dksX0_group_1 22 rfl rfl)
theorem dX0_group_46 : decode cX0_group 46 = .ok (.getfield 26, 3) := dk_180 0 26 (dk_at dksX0_group_2 0 rfl rfl)
theorem dX0_group_49 : decode cX0_group 49 = .ok (.invokestatic 370, 3) := dk_184 1 114 (dk_at dksX0_group_2 3 rfl rfl)
theorem dX0_group_52 : decode cX0_group 52 = .ok (.aload_n 0, 1) := dk_42 (dk_at dksX0_group_2 6 rfl rfl)
theorem dX0_group_53 : decode cX0_group 53 = .ok (.getfield 68, 3) := dk_180 0 68 (dk_at dksX0_group_2 7 rfl rfl)
theorem dX0_group_56 : decode cX0_group 56 = .ok (.aload_n 0, 1) := dk_42 (dk_at dksX0_group_2 10 rfl rfl)
theorem dX0_group_57 : decode cX0_group 57 = .ok (.getfield 40, 3) := dk_180 0 40 (dk_at dksX0_group_2 11 rfl rfl)
theorem dX0_group_60 : decode cX0_group 60 = .ok (.iload_n 1, 1) := dk_27 (dk_at dksX0_group_2 14 rfl rfl)
theorem dX0_group_61 : decode cX0_group 61 = .ok (.invokeinterface 376 4, 5) := by decide +kernel
theorem dX0_group_66 : decode cX0_group 66 = .ok (.ireturn, 1) := dk_172 (dk_at dksX0_group_2 20 rfl rfl)
abbrev cX0_isMoves : ByteArray := prog_1_method_35_code
def yX0_isMoves : MethodName := ⟨RX0, "isMoves", "(I)Z"⟩
def dkwX0_isMoves_0 : List UInt8 := [26, 133, 9, 20, 1, 87, 184, 0, 11, 172]
abbrev dktX0_isMoves_0 : List UInt8 := dkwX0_isMoves_0 ++ []
theorem dksX0_isMoves_0 : cX0_isMoves.data.toList.drop 0 = dktX0_isMoves_0 := by decide +kernel
theorem dX0_isMoves_0 : decode cX0_isMoves 0 = .ok (.iload_n 0, 1) := dk_26 (dk_at dksX0_isMoves_0 0 rfl rfl)
theorem dX0_isMoves_1 : decode cX0_isMoves 1 = .ok (.i2l, 1) := dk_133 (dk_at dksX0_isMoves_0 1 rfl rfl)
theorem dX0_isMoves_2 : decode cX0_isMoves 2 = .ok (.lconst 0, 1) := dk_9 (dk_at dksX0_isMoves_0 2 rfl rfl)
theorem dX0_isMoves_3 : decode cX0_isMoves 3 = .ok (.ldc2_w 343, 3) := dk_20 1 87 (dk_at dksX0_isMoves_0 3 rfl rfl)
theorem dX0_isMoves_6 : decode cX0_isMoves 6 = .ok (.invokestatic 11, 3) := dk_184 0 11 (dk_at dksX0_isMoves_0 6 rfl rfl)
theorem dX0_isMoves_9 : decode cX0_isMoves 9 = .ok (.ireturn, 1) := dk_172 (dk_at dksX0_isMoves_0 9 rfl rfl)
abbrev cX0_keepAll : ByteArray := prog_1_method_36_code
def yX0_keepAll : MethodName := ⟨RX0, "keepAll", "(I)Z"⟩
def dkwX0_keepAll_1 : List UInt8 := [182, 0, 200, 153, 0, 7, 4, 167, 0, 4, 3, 61, 132, 3, 1, 167, 255, 222, 28, 172]
abbrev dktX0_keepAll_1 : List UInt8 := dkwX0_keepAll_1 ++ []
def dkwX0_keepAll_0 : List UInt8 := [4, 61, 3, 62, 29, 7, 162, 0, 35, 28, 153, 0, 23, 27, 29, 184, 1, 21, 153, 0, 11, 42, 29]
abbrev dktX0_keepAll_0 : List UInt8 := dkwX0_keepAll_0 ++ dktX0_keepAll_1
theorem dksX0_keepAll_0 : cX0_keepAll.data.toList.drop 0 = dktX0_keepAll_0 := by decide +kernel
theorem dksX0_keepAll_1 : cX0_keepAll.data.toList.drop 23 = dktX0_keepAll_1 := dk_seg dksX0_keepAll_0 23 rfl rfl
theorem dX0_keepAll_0 : decode cX0_keepAll 0 = .ok (.iconst 1, 1) := dk_4 (dk_at dksX0_keepAll_0 0 rfl rfl)
theorem dX0_keepAll_1 : decode cX0_keepAll 1 = .ok (.istore_n 2, 1) := dk_61 (dk_at dksX0_keepAll_0 1 rfl rfl)
theorem dX0_keepAll_2 : decode cX0_keepAll 2 = .ok (.iconst 0, 1) := dk_3 (dk_at dksX0_keepAll_0 2 rfl rfl)
theorem dX0_keepAll_3 : decode cX0_keepAll 3 = .ok (.istore_n 3, 1) := dk_62 (dk_at dksX0_keepAll_0 3 rfl rfl)
theorem dX0_keepAll_4 : decode cX0_keepAll 4 = .ok (.iload_n 3, 1) := dk_29 (dk_at dksX0_keepAll_0 4 rfl rfl)
theorem dX0_keepAll_5 : decode cX0_keepAll 5 = .ok (.iconst 4, 1) := dk_7 (dk_at dksX0_keepAll_0 5 rfl rfl)
theorem dX0_keepAll_6 : decode cX0_keepAll 6 = .ok (.if_icmp .ge 35, 3) := dk_162 0 35 (dk_at dksX0_keepAll_0 6 rfl rfl)
theorem dX0_keepAll_9 : decode cX0_keepAll 9 = .ok (.iload_n 2, 1) := dk_28 (dk_at dksX0_keepAll_0 9 rfl rfl)
theorem dX0_keepAll_10 : decode cX0_keepAll 10 = .ok (.ifCond .eq 23, 3) := dk_153 0 23 (dk_at dksX0_keepAll_0 10 rfl rfl)
theorem dX0_keepAll_13 : decode cX0_keepAll 13 = .ok (.iload_n 1, 1) := dk_27 (dk_at dksX0_keepAll_0 13 rfl rfl)
theorem dX0_keepAll_14 : decode cX0_keepAll 14 = .ok (.iload_n 3, 1) := dk_29 (dk_at dksX0_keepAll_0 14 rfl rfl)
theorem dX0_keepAll_15 : decode cX0_keepAll 15 = .ok (.invokestatic 277, 3) := dk_184 1 21 (dk_at dksX0_keepAll_0 15 rfl rfl)
theorem dX0_keepAll_18 : decode cX0_keepAll 18 = .ok (.ifCond .eq 11, 3) := dk_153 0 11 (dk_at dksX0_keepAll_0 18 rfl rfl)
theorem dX0_keepAll_21 : decode cX0_keepAll 21 = .ok (.aload_n 0, 1) := dk_42 (dk_at dksX0_keepAll_0 21 rfl rfl)
theorem dX0_keepAll_22 : decode cX0_keepAll 22 = .ok (.iload_n 3, 1) := dk_29 (dk_at dksX0_keepAll_0 22 rfl rfl)
theorem dX0_keepAll_23 : decode cX0_keepAll 23 = .ok (.invokevirtual 200, 3) := dk_182 0 200 (dk_at dksX0_keepAll_1 0 rfl rfl)
theorem dX0_keepAll_26 : decode cX0_keepAll 26 = .ok (.ifCond .eq 7, 3) := dk_153 0 7 (dk_at dksX0_keepAll_1 3 rfl rfl)
theorem dX0_keepAll_29 : decode cX0_keepAll 29 = .ok (.iconst 1, 1) := dk_4 (dk_at dksX0_keepAll_1 6 rfl rfl)
theorem dX0_keepAll_30 : decode cX0_keepAll 30 = .ok (.goto 4, 3) := dk_167 0 4 (dk_at dksX0_keepAll_1 7 rfl rfl)
theorem dX0_keepAll_33 : decode cX0_keepAll 33 = .ok (.iconst 0, 1) := dk_3 (dk_at dksX0_keepAll_1 10 rfl rfl)
theorem dX0_keepAll_34 : decode cX0_keepAll 34 = .ok (.istore_n 2, 1) := dk_61 (dk_at dksX0_keepAll_1 11 rfl rfl)
theorem dX0_keepAll_35 : decode cX0_keepAll 35 = .ok (.iinc 3 1, 3) := dk_132 3 1 (dk_at dksX0_keepAll_1 12 rfl rfl)
theorem dX0_keepAll_38 : decode cX0_keepAll 38 = .ok (.goto (-34), 3) := dk_167 255 222 (dk_at dksX0_keepAll_1 15 rfl rfl)
theorem dX0_keepAll_41 : decode cX0_keepAll 41 = .ok (.iload_n 2, 1) := dk_28 (dk_at dksX0_keepAll_1 18 rfl rfl)
theorem dX0_keepAll_42 : decode cX0_keepAll 42 = .ok (.ireturn, 1) := dk_172 (dk_at dksX0_keepAll_1 19 rfl rfl)
abbrev cX0_order : ByteArray := prog_1_method_38_code
def yX0_order : MethodName := ⟨RX0, "order", "(I)I"⟩
def dkwX0_order_0 : List UInt8 := [42, 27, 3, 182, 1, 100, 42, 180, 0, 61, 3, 182, 1, 104, 172]
abbrev dktX0_order_0 : List UInt8 := dkwX0_order_0 ++ []
theorem dksX0_order_0 : cX0_order.data.toList.drop 0 = dktX0_order_0 := by decide +kernel
theorem dX0_order_0 : decode cX0_order 0 = .ok (.aload_n 0, 1) := dk_42 (dk_at dksX0_order_0 0 rfl rfl)
theorem dX0_order_1 : decode cX0_order 1 = .ok (.iload_n 1, 1) := dk_27 (dk_at dksX0_order_0 1 rfl rfl)
theorem dX0_order_2 : decode cX0_order 2 = .ok (.iconst 0, 1) := dk_3 (dk_at dksX0_order_0 2 rfl rfl)
theorem dX0_order_3 : decode cX0_order 3 = .ok (.invokevirtual 356, 3) := dk_182 1 100 (dk_at dksX0_order_0 3 rfl rfl)
theorem dX0_order_6 : decode cX0_order 6 = .ok (.aload_n 0, 1) := dk_42 (dk_at dksX0_order_0 6 rfl rfl)
theorem dX0_order_7 : decode cX0_order 7 = .ok (.getfield 61, 3) := dk_180 0 61 (dk_at dksX0_order_0 7 rfl rfl)
theorem dX0_order_10 : decode cX0_order 10 = .ok (.iconst 0, 1) := dk_3 (dk_at dksX0_order_0 10 rfl rfl)
theorem dX0_order_11 : decode cX0_order 11 = .ok (.invokevirtual 360, 3) := dk_182 1 104 (dk_at dksX0_order_0 11 rfl rfl)
theorem dX0_order_14 : decode cX0_order 14 = .ok (.ireturn, 1) := dk_172 (dk_at dksX0_order_0 14 rfl rfl)
abbrev cX0_layChain : ByteArray := prog_1_method_37_code
def yX0_layChain : MethodName := ⟨RX0, "layChain", "(II)V"⟩
def dkwX0_layChain_2 : List UInt8 := [167, 255, 224, 42, 180, 0, 61, 182, 1, 97, 177]
abbrev dktX0_layChain_2 : List UInt8 := dkwX0_layChain_2 ++ []
def dkwX0_layChain_1 : List UInt8 := [153, 0, 19, 42, 180, 0, 61, 42, 180, 0, 40, 180, 0, 104, 29, 50, 182, 1, 93, 132, 3, 1]
abbrev dktX0_layChain_1 : List UInt8 := dkwX0_layChain_1 ++ dktX0_layChain_2
def dkwX0_layChain_0 : List UInt8 := [42, 180, 0, 61, 42, 180, 0, 72, 28, 182, 1, 89, 3, 62, 29, 7, 162, 0, 33, 27, 29, 184, 1, 21]
abbrev dktX0_layChain_0 : List UInt8 := dkwX0_layChain_0 ++ dktX0_layChain_1
theorem dksX0_layChain_0 : cX0_layChain.data.toList.drop 0 = dktX0_layChain_0 := by decide +kernel
theorem dksX0_layChain_1 : cX0_layChain.data.toList.drop 24 = dktX0_layChain_1 := dk_seg dksX0_layChain_0 24 rfl rfl
theorem dksX0_layChain_2 : cX0_layChain.data.toList.drop 46 = dktX0_layChain_2 := dk_seg dksX0_layChain_1 22 rfl rfl
theorem dX0_layChain_0 : decode cX0_layChain 0 = .ok (.aload_n 0, 1) := dk_42 (dk_at dksX0_layChain_0 0 rfl rfl)
theorem dX0_layChain_1 : decode cX0_layChain 1 = .ok (.getfield 61, 3) := dk_180 0 61 (dk_at dksX0_layChain_0 1 rfl rfl)
theorem dX0_layChain_4 : decode cX0_layChain 4 = .ok (.aload_n 0, 1) := dk_42 (dk_at dksX0_layChain_0 4 rfl rfl)
theorem dX0_layChain_5 : decode cX0_layChain 5 = .ok (.getfield 72, 3) := dk_180 0 72 (dk_at dksX0_layChain_0 5 rfl rfl)
theorem dX0_layChain_8 : decode cX0_layChain 8 = .ok (.iload_n 2, 1) := dk_28 (dk_at dksX0_layChain_0 8 rfl rfl)
theorem dX0_layChain_9 : decode cX0_layChain 9 = .ok (.invokevirtual 345, 3) := dk_182 1 89 (dk_at dksX0_layChain_0 9 rfl rfl)
theorem dX0_layChain_12 : decode cX0_layChain 12 = .ok (.iconst 0, 1) := dk_3 (dk_at dksX0_layChain_0 12 rfl rfl)
theorem dX0_layChain_13 : decode cX0_layChain 13 = .ok (.istore_n 3, 1) := dk_62 (dk_at dksX0_layChain_0 13 rfl rfl)
theorem dX0_layChain_14 : decode cX0_layChain 14 = .ok (.iload_n 3, 1) := dk_29 (dk_at dksX0_layChain_0 14 rfl rfl)
theorem dX0_layChain_15 : decode cX0_layChain 15 = .ok (.iconst 4, 1) := dk_7 (dk_at dksX0_layChain_0 15 rfl rfl)
theorem dX0_layChain_16 : decode cX0_layChain 16 = .ok (.if_icmp .ge 33, 3) := dk_162 0 33 (dk_at dksX0_layChain_0 16 rfl rfl)
theorem dX0_layChain_19 : decode cX0_layChain 19 = .ok (.iload_n 1, 1) := dk_27 (dk_at dksX0_layChain_0 19 rfl rfl)
theorem dX0_layChain_20 : decode cX0_layChain 20 = .ok (.iload_n 3, 1) := dk_29 (dk_at dksX0_layChain_0 20 rfl rfl)
theorem dX0_layChain_21 : decode cX0_layChain 21 = .ok (.invokestatic 277, 3) := dk_184 1 21 (dk_at dksX0_layChain_0 21 rfl rfl)
theorem dX0_layChain_24 : decode cX0_layChain 24 = .ok (.ifCond .eq 19, 3) := dk_153 0 19 (dk_at dksX0_layChain_1 0 rfl rfl)
theorem dX0_layChain_27 : decode cX0_layChain 27 = .ok (.aload_n 0, 1) := dk_42 (dk_at dksX0_layChain_1 3 rfl rfl)
theorem dX0_layChain_28 : decode cX0_layChain 28 = .ok (.getfield 61, 3) := dk_180 0 61 (dk_at dksX0_layChain_1 4 rfl rfl)
theorem dX0_layChain_31 : decode cX0_layChain 31 = .ok (.aload_n 0, 1) := dk_42 (dk_at dksX0_layChain_1 7 rfl rfl)
theorem dX0_layChain_32 : decode cX0_layChain 32 = .ok (.getfield 40, 3) := dk_180 0 40 (dk_at dksX0_layChain_1 8 rfl rfl)
theorem dX0_layChain_35 : decode cX0_layChain 35 = .ok (.getfield 104, 3) := dk_180 0 104 (dk_at dksX0_layChain_1 11 rfl rfl)
theorem dX0_layChain_38 : decode cX0_layChain 38 = .ok (.iload_n 3, 1) := dk_29 (dk_at dksX0_layChain_1 14 rfl rfl)
theorem dX0_layChain_39 : decode cX0_layChain 39 = .ok (.aaload, 1) := dk_50 (dk_at dksX0_layChain_1 15 rfl rfl)
theorem dX0_layChain_40 : decode cX0_layChain 40 = .ok (.invokevirtual 349, 3) := dk_182 1 93 (dk_at dksX0_layChain_1 16 rfl rfl)
theorem dX0_layChain_43 : decode cX0_layChain 43 = .ok (.iinc 3 1, 3) := dk_132 3 1 (dk_at dksX0_layChain_1 19 rfl rfl)
theorem dX0_layChain_46 : decode cX0_layChain 46 = .ok (.goto (-32), 3) := dk_167 255 224 (dk_at dksX0_layChain_2 0 rfl rfl)
theorem dX0_layChain_49 : decode cX0_layChain 49 = .ok (.aload_n 0, 1) := dk_42 (dk_at dksX0_layChain_2 3 rfl rfl)
theorem dX0_layChain_50 : decode cX0_layChain 50 = .ok (.getfield 61, 3) := dk_180 0 61 (dk_at dksX0_layChain_2 4 rfl rfl)
theorem dX0_layChain_53 : decode cX0_layChain 53 = .ok (.invokevirtual 353, 3) := dk_182 1 97 (dk_at dksX0_layChain_2 7 rfl rfl)
theorem dX0_layChain_56 : decode cX0_layChain 56 = .ok (.return_, 1) := dk_177 (dk_at dksX0_layChain_2 10 rfl rfl)
abbrev cX0_held : ByteArray := prog_1_method_43_code
def yX0_held : MethodName := ⟨RX0, "held", "(III)I"⟩
def dkwX0_held_3 : List UInt8 := [160, 0, 12, 42, 27, 28, 182, 1, 144, 167, 0, 9, 42, 27, 28, 182, 1, 147, 172]
abbrev dktX0_held_3 : List UInt8 := dkwX0_held_3 ++ []
def dkwX0_held_2 : List UInt8 := [182, 0, 130, 153, 0, 6, 16, 254, 172, 29, 154, 0, 12, 42, 27, 28, 182, 1, 141, 167, 0, 23, 29, 4]
abbrev dktX0_held_2 : List UInt8 := dkwX0_held_2 ++ dktX0_held_3
def dkwX0_held_1 : List UInt8 := [154, 0, 5, 2, 172, 42, 27, 182, 1, 110, 153, 0, 19, 29, 5, 160, 0, 17, 42, 180, 0, 26, 28]
abbrev dktX0_held_1 : List UInt8 := dkwX0_held_1 ++ dktX0_held_2
def dkwX0_held_0 : List UInt8 := [27, 184, 1, 107, 153, 0, 22, 28, 184, 0, 150, 153, 0, 15, 29, 133, 9, 20, 0, 166, 184, 0, 11]
abbrev dktX0_held_0 : List UInt8 := dkwX0_held_0 ++ dktX0_held_1
theorem dksX0_held_0 : cX0_held.data.toList.drop 0 = dktX0_held_0 := by decide +kernel
theorem dksX0_held_1 : cX0_held.data.toList.drop 23 = dktX0_held_1 := dk_seg dksX0_held_0 23 rfl rfl
theorem dksX0_held_2 : cX0_held.data.toList.drop 46 = dktX0_held_2 := dk_seg dksX0_held_1 23 rfl rfl
theorem dksX0_held_3 : cX0_held.data.toList.drop 70 = dktX0_held_3 := dk_seg dksX0_held_2 24 rfl rfl
theorem dX0_held_0 : decode cX0_held 0 = .ok (.iload_n 1, 1) := dk_27 (dk_at dksX0_held_0 0 rfl rfl)
theorem dX0_held_1 : decode cX0_held 1 = .ok (.invokestatic 363, 3) := dk_184 1 107 (dk_at dksX0_held_0 1 rfl rfl)
theorem dX0_held_4 : decode cX0_held 4 = .ok (.ifCond .eq 22, 3) := dk_153 0 22 (dk_at dksX0_held_0 4 rfl rfl)
theorem dX0_held_7 : decode cX0_held 7 = .ok (.iload_n 2, 1) := dk_28 (dk_at dksX0_held_0 7 rfl rfl)
theorem dX0_held_8 : decode cX0_held 8 = .ok (.invokestatic 150, 3) := dk_184 0 150 (dk_at dksX0_held_0 8 rfl rfl)
theorem dX0_held_11 : decode cX0_held 11 = .ok (.ifCond .eq 15, 3) := dk_153 0 15 (dk_at dksX0_held_0 11 rfl rfl)
theorem dX0_held_14 : decode cX0_held 14 = .ok (.iload_n 3, 1) := dk_29 (dk_at dksX0_held_0 14 rfl rfl)
theorem dX0_held_15 : decode cX0_held 15 = .ok (.i2l, 1) := dk_133 (dk_at dksX0_held_0 15 rfl rfl)
theorem dX0_held_16 : decode cX0_held 16 = .ok (.lconst 0, 1) := dk_9 (dk_at dksX0_held_0 16 rfl rfl)
theorem dX0_held_17 : decode cX0_held 17 = .ok (.ldc2_w 166, 3) := dk_20 0 166 (dk_at dksX0_held_0 17 rfl rfl)
theorem dX0_held_20 : decode cX0_held 20 = .ok (.invokestatic 11, 3) := dk_184 0 11 (dk_at dksX0_held_0 20 rfl rfl)
theorem dX0_held_23 : decode cX0_held 23 = .ok (.ifCond .ne 5, 3) := dk_154 0 5 (dk_at dksX0_held_1 0 rfl rfl)
theorem dX0_held_26 : decode cX0_held 26 = .ok (.iconst (-1), 1) := dk_2 (dk_at dksX0_held_1 3 rfl rfl)
theorem dX0_held_27 : decode cX0_held 27 = .ok (.ireturn, 1) := dk_172 (dk_at dksX0_held_1 4 rfl rfl)
theorem dX0_held_28 : decode cX0_held 28 = .ok (.aload_n 0, 1) := dk_42 (dk_at dksX0_held_1 5 rfl rfl)
theorem dX0_held_29 : decode cX0_held 29 = .ok (.iload_n 1, 1) := dk_27 (dk_at dksX0_held_1 6 rfl rfl)
theorem dX0_held_30 : decode cX0_held 30 = .ok (.invokevirtual 366, 3) := dk_182 1 110 (dk_at dksX0_held_1 7 rfl rfl)
theorem dX0_held_33 : decode cX0_held 33 = .ok (.ifCond .eq 19, 3) := dk_153 0 19 (dk_at dksX0_held_1 10 rfl rfl)
theorem dX0_held_36 : decode cX0_held 36 = .ok (.iload_n 3, 1) := dk_29 (dk_at dksX0_held_1 13 rfl rfl)
theorem dX0_held_37 : decode cX0_held 37 = .ok (.iconst 2, 1) := dk_5 (dk_at dksX0_held_1 14 rfl rfl)
theorem dX0_held_38 : decode cX0_held 38 = .ok (.if_icmp .ne 17, 3) := dk_160 0 17 (dk_at dksX0_held_1 15 rfl rfl)
theorem dX0_held_41 : decode cX0_held 41 = .ok (.aload_n 0, 1) := dk_42 (dk_at dksX0_held_1 18 rfl rfl)
theorem dX0_held_42 : decode cX0_held 42 = .ok (.getfield 26, 3) := dk_180 0 26 (dk_at dksX0_held_1 19 rfl rfl)
theorem dX0_held_45 : decode cX0_held 45 = .ok (.iload_n 2, 1) := dk_28 (dk_at dksX0_held_1 22 rfl rfl)
theorem dX0_held_46 : decode cX0_held 46 = .ok (.invokevirtual 130, 3) := dk_182 0 130 (dk_at dksX0_held_2 0 rfl rfl)
theorem dX0_held_49 : decode cX0_held 49 = .ok (.ifCond .eq 6, 3) := dk_153 0 6 (dk_at dksX0_held_2 3 rfl rfl)
theorem dX0_held_52 : decode cX0_held 52 = .ok (.bipush (-2), 2) := dk_16 254 (dk_at dksX0_held_2 6 rfl rfl)
theorem dX0_held_54 : decode cX0_held 54 = .ok (.ireturn, 1) := dk_172 (dk_at dksX0_held_2 8 rfl rfl)
theorem dX0_held_55 : decode cX0_held 55 = .ok (.iload_n 3, 1) := dk_29 (dk_at dksX0_held_2 9 rfl rfl)
theorem dX0_held_56 : decode cX0_held 56 = .ok (.ifCond .ne 12, 3) := dk_154 0 12 (dk_at dksX0_held_2 10 rfl rfl)
theorem dX0_held_59 : decode cX0_held 59 = .ok (.aload_n 0, 1) := dk_42 (dk_at dksX0_held_2 13 rfl rfl)
theorem dX0_held_60 : decode cX0_held 60 = .ok (.iload_n 1, 1) := dk_27 (dk_at dksX0_held_2 14 rfl rfl)
theorem dX0_held_61 : decode cX0_held 61 = .ok (.iload_n 2, 1) := dk_28 (dk_at dksX0_held_2 15 rfl rfl)
theorem dX0_held_62 : decode cX0_held 62 = .ok (.invokevirtual 397, 3) := dk_182 1 141 (dk_at dksX0_held_2 16 rfl rfl)
theorem dX0_held_65 : decode cX0_held 65 = .ok (.goto 23, 3) := dk_167 0 23 (dk_at dksX0_held_2 19 rfl rfl)
theorem dX0_held_68 : decode cX0_held 68 = .ok (.iload_n 3, 1) := dk_29 (dk_at dksX0_held_2 22 rfl rfl)
theorem dX0_held_69 : decode cX0_held 69 = .ok (.iconst 1, 1) := dk_4 (dk_at dksX0_held_2 23 rfl rfl)
theorem dX0_held_70 : decode cX0_held 70 = .ok (.if_icmp .ne 12, 3) := dk_160 0 12 (dk_at dksX0_held_3 0 rfl rfl)
theorem dX0_held_73 : decode cX0_held 73 = .ok (.aload_n 0, 1) := dk_42 (dk_at dksX0_held_3 3 rfl rfl)
theorem dX0_held_74 : decode cX0_held 74 = .ok (.iload_n 1, 1) := dk_27 (dk_at dksX0_held_3 4 rfl rfl)
theorem dX0_held_75 : decode cX0_held 75 = .ok (.iload_n 2, 1) := dk_28 (dk_at dksX0_held_3 5 rfl rfl)
theorem dX0_held_76 : decode cX0_held 76 = .ok (.invokevirtual 400, 3) := dk_182 1 144 (dk_at dksX0_held_3 6 rfl rfl)
theorem dX0_held_79 : decode cX0_held 79 = .ok (.goto 9, 3) := dk_167 0 9 (dk_at dksX0_held_3 9 rfl rfl)
theorem dX0_held_82 : decode cX0_held 82 = .ok (.aload_n 0, 1) := dk_42 (dk_at dksX0_held_3 12 rfl rfl)
theorem dX0_held_83 : decode cX0_held 83 = .ok (.iload_n 1, 1) := dk_27 (dk_at dksX0_held_3 13 rfl rfl)
theorem dX0_held_84 : decode cX0_held 84 = .ok (.iload_n 2, 1) := dk_28 (dk_at dksX0_held_3 14 rfl rfl)
theorem dX0_held_85 : decode cX0_held 85 = .ok (.invokevirtual 403, 3) := dk_182 1 147 (dk_at dksX0_held_3 15 rfl rfl)
theorem dX0_held_88 : decode cX0_held 88 = .ok (.ireturn, 1) := dk_172 (dk_at dksX0_held_3 18 rfl rfl)
abbrev cX0_reached : ByteArray := prog_1_method_40_code
def yX0_reached : MethodName := ⟨RX0, "reached", "(II)I"⟩
def dkwX0_reached_2 : List UInt8 := [167, 0, 4, 3, 128, 62, 132, 5, 1, 167, 255, 217, 167, 255, 202, 29, 172]
abbrev dktX0_reached_2 : List UInt8 := dkwX0_reached_2 ++ []
def dkwX0_reached_1 : List UInt8 := [27, 21, 5, 184, 1, 21, 153, 0, 20, 42, 180, 0, 40, 180, 0, 104, 21, 5, 50, 29, 182, 0, 185]
abbrev dktX0_reached_1 : List UInt8 := dkwX0_reached_1 ++ dktX0_reached_2
def dkwX0_reached_0 : List UInt8 := [28, 62, 2, 54, 4, 21, 4, 29, 159, 0, 54, 29, 54, 4, 3, 54, 5, 21, 5, 7, 162, 0, 39, 29]
abbrev dktX0_reached_0 : List UInt8 := dkwX0_reached_0 ++ dktX0_reached_1
theorem dksX0_reached_0 : cX0_reached.data.toList.drop 0 = dktX0_reached_0 := by decide +kernel
theorem dksX0_reached_1 : cX0_reached.data.toList.drop 24 = dktX0_reached_1 := dk_seg dksX0_reached_0 24 rfl rfl
theorem dksX0_reached_2 : cX0_reached.data.toList.drop 47 = dktX0_reached_2 := dk_seg dksX0_reached_1 23 rfl rfl
theorem dX0_reached_0 : decode cX0_reached 0 = .ok (.iload_n 2, 1) := dk_28 (dk_at dksX0_reached_0 0 rfl rfl)
theorem dX0_reached_1 : decode cX0_reached 1 = .ok (.istore_n 3, 1) := dk_62 (dk_at dksX0_reached_0 1 rfl rfl)
theorem dX0_reached_2 : decode cX0_reached 2 = .ok (.iconst (-1), 1) := dk_2 (dk_at dksX0_reached_0 2 rfl rfl)
theorem dX0_reached_3 : decode cX0_reached 3 = .ok (.istore 4, 2) := dk_54 4 (dk_at dksX0_reached_0 3 rfl rfl)
theorem dX0_reached_5 : decode cX0_reached 5 = .ok (.iload 4, 2) := dk_21 4 (dk_at dksX0_reached_0 5 rfl rfl)
theorem dX0_reached_7 : decode cX0_reached 7 = .ok (.iload_n 3, 1) := dk_29 (dk_at dksX0_reached_0 7 rfl rfl)
theorem dX0_reached_8 : decode cX0_reached 8 = .ok (.if_icmp .eq 54, 3) := dk_159 0 54 (dk_at dksX0_reached_0 8 rfl rfl)
theorem dX0_reached_11 : decode cX0_reached 11 = .ok (.iload_n 3, 1) := dk_29 (dk_at dksX0_reached_0 11 rfl rfl)
theorem dX0_reached_12 : decode cX0_reached 12 = .ok (.istore 4, 2) := dk_54 4 (dk_at dksX0_reached_0 12 rfl rfl)
theorem dX0_reached_14 : decode cX0_reached 14 = .ok (.iconst 0, 1) := dk_3 (dk_at dksX0_reached_0 14 rfl rfl)
theorem dX0_reached_15 : decode cX0_reached 15 = .ok (.istore 5, 2) := dk_54 5 (dk_at dksX0_reached_0 15 rfl rfl)
theorem dX0_reached_17 : decode cX0_reached 17 = .ok (.iload 5, 2) := dk_21 5 (dk_at dksX0_reached_0 17 rfl rfl)
theorem dX0_reached_19 : decode cX0_reached 19 = .ok (.iconst 4, 1) := dk_7 (dk_at dksX0_reached_0 19 rfl rfl)
theorem dX0_reached_20 : decode cX0_reached 20 = .ok (.if_icmp .ge 39, 3) := dk_162 0 39 (dk_at dksX0_reached_0 20 rfl rfl)
theorem dX0_reached_23 : decode cX0_reached 23 = .ok (.iload_n 3, 1) := dk_29 (dk_at dksX0_reached_0 23 rfl rfl)
theorem dX0_reached_24 : decode cX0_reached 24 = .ok (.iload_n 1, 1) := dk_27 (dk_at dksX0_reached_1 0 rfl rfl)
theorem dX0_reached_25 : decode cX0_reached 25 = .ok (.iload 5, 2) := dk_21 5 (dk_at dksX0_reached_1 1 rfl rfl)
theorem dX0_reached_27 : decode cX0_reached 27 = .ok (.invokestatic 277, 3) := dk_184 1 21 (dk_at dksX0_reached_1 3 rfl rfl)
theorem dX0_reached_30 : decode cX0_reached 30 = .ok (.ifCond .eq 20, 3) := dk_153 0 20 (dk_at dksX0_reached_1 6 rfl rfl)
theorem dX0_reached_33 : decode cX0_reached 33 = .ok (.aload_n 0, 1) := dk_42 (dk_at dksX0_reached_1 9 rfl rfl)
theorem dX0_reached_34 : decode cX0_reached 34 = .ok (.getfield 40, 3) := dk_180 0 40 (dk_at dksX0_reached_1 10 rfl rfl)
theorem dX0_reached_37 : decode cX0_reached 37 = .ok (.getfield 104, 3) := dk_180 0 104 (dk_at dksX0_reached_1 13 rfl rfl)
theorem dX0_reached_40 : decode cX0_reached 40 = .ok (.iload 5, 2) := dk_21 5 (dk_at dksX0_reached_1 16 rfl rfl)
theorem dX0_reached_42 : decode cX0_reached 42 = .ok (.aaload, 1) := dk_50 (dk_at dksX0_reached_1 18 rfl rfl)
theorem dX0_reached_43 : decode cX0_reached 43 = .ok (.iload_n 3, 1) := dk_29 (dk_at dksX0_reached_1 19 rfl rfl)
theorem dX0_reached_44 : decode cX0_reached 44 = .ok (.invokevirtual 185, 3) := dk_182 0 185 (dk_at dksX0_reached_1 20 rfl rfl)
theorem dX0_reached_47 : decode cX0_reached 47 = .ok (.goto 4, 3) := dk_167 0 4 (dk_at dksX0_reached_2 0 rfl rfl)
theorem dX0_reached_50 : decode cX0_reached 50 = .ok (.iconst 0, 1) := dk_3 (dk_at dksX0_reached_2 3 rfl rfl)
theorem dX0_reached_51 : decode cX0_reached 51 = .ok (.ior, 1) := dk_128 (dk_at dksX0_reached_2 4 rfl rfl)
theorem dX0_reached_52 : decode cX0_reached 52 = .ok (.istore_n 3, 1) := dk_62 (dk_at dksX0_reached_2 5 rfl rfl)
theorem dX0_reached_53 : decode cX0_reached 53 = .ok (.iinc 5 1, 3) := dk_132 5 1 (dk_at dksX0_reached_2 6 rfl rfl)
theorem dX0_reached_56 : decode cX0_reached 56 = .ok (.goto (-39), 3) := dk_167 255 217 (dk_at dksX0_reached_2 9 rfl rfl)
theorem dX0_reached_59 : decode cX0_reached 59 = .ok (.goto (-54), 3) := dk_167 255 202 (dk_at dksX0_reached_2 12 rfl rfl)
theorem dX0_reached_62 : decode cX0_reached 62 = .ok (.iload_n 3, 1) := dk_29 (dk_at dksX0_reached_2 15 rfl rfl)
theorem dX0_reached_63 : decode cX0_reached 63 = .ok (.ireturn, 1) := dk_172 (dk_at dksX0_reached_2 16 rfl rfl)
abbrev cX0_leaving : ByteArray := prog_1_method_41_code
def yX0_leaving : MethodName := ⟨RX0, "leaving", "(II)I"⟩
def dkwX0_leaving_2 : List UInt8 := [180, 0, 61, 29, 182, 1, 104, 172]
abbrev dktX0_leaving_2 : List UInt8 := dkwX0_leaving_2 ++ []
def dkwX0_leaving_1 : List UInt8 := [180, 0, 72, 29, 21, 4, 79, 132, 3, 1, 132, 4, 1, 167, 255, 226, 42, 27, 29, 182, 1, 100, 42]
abbrev dktX0_leaving_1 : List UInt8 := dkwX0_leaving_1 ++ dktX0_leaving_2
def dkwX0_leaving_0 : List UInt8 := [3, 62, 3, 54, 4, 21, 4, 16, 24, 162, 0, 29, 28, 21, 4, 184, 1, 21, 153, 0, 14, 42]
abbrev dktX0_leaving_0 : List UInt8 := dkwX0_leaving_0 ++ dktX0_leaving_1
theorem dksX0_leaving_0 : cX0_leaving.data.toList.drop 0 = dktX0_leaving_0 := by decide +kernel
theorem dksX0_leaving_1 : cX0_leaving.data.toList.drop 22 = dktX0_leaving_1 := dk_seg dksX0_leaving_0 22 rfl rfl
theorem dksX0_leaving_2 : cX0_leaving.data.toList.drop 45 = dktX0_leaving_2 := dk_seg dksX0_leaving_1 23 rfl rfl
theorem dX0_leaving_0 : decode cX0_leaving 0 = .ok (.iconst 0, 1) := dk_3 (dk_at dksX0_leaving_0 0 rfl rfl)
theorem dX0_leaving_1 : decode cX0_leaving 1 = .ok (.istore_n 3, 1) := dk_62 (dk_at dksX0_leaving_0 1 rfl rfl)
theorem dX0_leaving_2 : decode cX0_leaving 2 = .ok (.iconst 0, 1) := dk_3 (dk_at dksX0_leaving_0 2 rfl rfl)
theorem dX0_leaving_3 : decode cX0_leaving 3 = .ok (.istore 4, 2) := dk_54 4 (dk_at dksX0_leaving_0 3 rfl rfl)
theorem dX0_leaving_5 : decode cX0_leaving 5 = .ok (.iload 4, 2) := dk_21 4 (dk_at dksX0_leaving_0 5 rfl rfl)
theorem dX0_leaving_7 : decode cX0_leaving 7 = .ok (.bipush 24, 2) := dk_16 24 (dk_at dksX0_leaving_0 7 rfl rfl)
theorem dX0_leaving_9 : decode cX0_leaving 9 = .ok (.if_icmp .ge 29, 3) := dk_162 0 29 (dk_at dksX0_leaving_0 9 rfl rfl)
theorem dX0_leaving_12 : decode cX0_leaving 12 = .ok (.iload_n 2, 1) := dk_28 (dk_at dksX0_leaving_0 12 rfl rfl)
theorem dX0_leaving_13 : decode cX0_leaving 13 = .ok (.iload 4, 2) := dk_21 4 (dk_at dksX0_leaving_0 13 rfl rfl)
theorem dX0_leaving_15 : decode cX0_leaving 15 = .ok (.invokestatic 277, 3) := dk_184 1 21 (dk_at dksX0_leaving_0 15 rfl rfl)
theorem dX0_leaving_18 : decode cX0_leaving 18 = .ok (.ifCond .eq 14, 3) := dk_153 0 14 (dk_at dksX0_leaving_0 18 rfl rfl)
theorem dX0_leaving_21 : decode cX0_leaving 21 = .ok (.aload_n 0, 1) := dk_42 (dk_at dksX0_leaving_0 21 rfl rfl)
theorem dX0_leaving_22 : decode cX0_leaving 22 = .ok (.getfield 72, 3) := dk_180 0 72 (dk_at dksX0_leaving_1 0 rfl rfl)
theorem dX0_leaving_25 : decode cX0_leaving 25 = .ok (.iload_n 3, 1) := dk_29 (dk_at dksX0_leaving_1 3 rfl rfl)
theorem dX0_leaving_26 : decode cX0_leaving 26 = .ok (.iload 4, 2) := dk_21 4 (dk_at dksX0_leaving_1 4 rfl rfl)
theorem dX0_leaving_28 : decode cX0_leaving 28 = .ok (.iastore, 1) := dk_79 (dk_at dksX0_leaving_1 6 rfl rfl)
theorem dX0_leaving_29 : decode cX0_leaving 29 = .ok (.iinc 3 1, 3) := dk_132 3 1 (dk_at dksX0_leaving_1 7 rfl rfl)
theorem dX0_leaving_32 : decode cX0_leaving 32 = .ok (.iinc 4 1, 3) := dk_132 4 1 (dk_at dksX0_leaving_1 10 rfl rfl)
theorem dX0_leaving_35 : decode cX0_leaving 35 = .ok (.goto (-30), 3) := dk_167 255 226 (dk_at dksX0_leaving_1 13 rfl rfl)
theorem dX0_leaving_38 : decode cX0_leaving 38 = .ok (.aload_n 0, 1) := dk_42 (dk_at dksX0_leaving_1 16 rfl rfl)
theorem dX0_leaving_39 : decode cX0_leaving 39 = .ok (.iload_n 1, 1) := dk_27 (dk_at dksX0_leaving_1 17 rfl rfl)
theorem dX0_leaving_40 : decode cX0_leaving 40 = .ok (.iload_n 3, 1) := dk_29 (dk_at dksX0_leaving_1 18 rfl rfl)
theorem dX0_leaving_41 : decode cX0_leaving 41 = .ok (.invokevirtual 356, 3) := dk_182 1 100 (dk_at dksX0_leaving_1 19 rfl rfl)
theorem dX0_leaving_44 : decode cX0_leaving 44 = .ok (.aload_n 0, 1) := dk_42 (dk_at dksX0_leaving_1 22 rfl rfl)
theorem dX0_leaving_45 : decode cX0_leaving 45 = .ok (.getfield 61, 3) := dk_180 0 61 (dk_at dksX0_leaving_2 0 rfl rfl)
theorem dX0_leaving_48 : decode cX0_leaving 48 = .ok (.iload_n 3, 1) := dk_29 (dk_at dksX0_leaving_2 3 rfl rfl)
theorem dX0_leaving_49 : decode cX0_leaving 49 = .ok (.invokevirtual 360, 3) := dk_182 1 104 (dk_at dksX0_leaving_2 4 rfl rfl)
theorem dX0_leaving_52 : decode cX0_leaving 52 = .ok (.ireturn, 1) := dk_172 (dk_at dksX0_leaving_2 7 rfl rfl)
abbrev cX0_turning : ByteArray := prog_1_method_42_code
def yX0_turning : MethodName := ⟨RX0, "turning", "(II)I"⟩
def dkwX0_turning_2 : List UInt8 := [21, 4, 108, 172]
abbrev dktX0_turning_2 : List UInt8 := dkwX0_turning_2 ++ []
def dkwX0_turning_1 : List UInt8 := [180, 0, 68, 45, 45, 28, 182, 1, 135, 42, 180, 0, 40, 27, 182, 1, 137, 54, 4, 42, 27, 182, 1, 113]
abbrev dktX0_turning_1 : List UInt8 := dkwX0_turning_1 ++ dktX0_turning_2
def dkwX0_turning_0 : List UInt8 := [187, 1, 124, 89, 42, 180, 0, 26, 180, 1, 126, 183, 1, 129, 78, 42, 180, 0, 68, 182, 1, 132, 42]
abbrev dktX0_turning_0 : List UInt8 := dkwX0_turning_0 ++ dktX0_turning_1
theorem dksX0_turning_0 : cX0_turning.data.toList.drop 0 = dktX0_turning_0 := by decide +kernel
theorem dksX0_turning_1 : cX0_turning.data.toList.drop 23 = dktX0_turning_1 := dk_seg dksX0_turning_0 23 rfl rfl
theorem dksX0_turning_2 : cX0_turning.data.toList.drop 47 = dktX0_turning_2 := dk_seg dksX0_turning_1 24 rfl rfl
theorem dX0_turning_0 : decode cX0_turning 0 = .ok (.new 380, 3) := dk_187 1 124 (dk_at dksX0_turning_0 0 rfl rfl)
theorem dX0_turning_3 : decode cX0_turning 3 = .ok (.dup, 1) := dk_89 (dk_at dksX0_turning_0 3 rfl rfl)
theorem dX0_turning_4 : decode cX0_turning 4 = .ok (.aload_n 0, 1) := dk_42 (dk_at dksX0_turning_0 4 rfl rfl)
theorem dX0_turning_5 : decode cX0_turning 5 = .ok (.getfield 26, 3) := dk_180 0 26 (dk_at dksX0_turning_0 5 rfl rfl)
theorem dX0_turning_8 : decode cX0_turning 8 = .ok (.getfield 382, 3) := dk_180 1 126 (dk_at dksX0_turning_0 8 rfl rfl)
theorem dX0_turning_11 : decode cX0_turning 11 = .ok (.invokespecial 385, 3) := dk_183 1 129 (dk_at dksX0_turning_0 11 rfl rfl)
theorem dX0_turning_14 : decode cX0_turning 14 = .ok (.astore_n 3, 1) := dk_78 (dk_at dksX0_turning_0 14 rfl rfl)
theorem dX0_turning_15 : decode cX0_turning 15 = .ok (.aload_n 0, 1) := dk_42 (dk_at dksX0_turning_0 15 rfl rfl)
theorem dX0_turning_16 : decode cX0_turning 16 = .ok (.getfield 68, 3) := dk_180 0 68 (dk_at dksX0_turning_0 16 rfl rfl)
theorem dX0_turning_19 : decode cX0_turning 19 = .ok (.invokevirtual 388, 3) := dk_182 1 132 (dk_at dksX0_turning_0 19 rfl rfl)
theorem dX0_turning_22 : decode cX0_turning 22 = .ok (.aload_n 0, 1) := dk_42 (dk_at dksX0_turning_0 22 rfl rfl)
theorem dX0_turning_23 : decode cX0_turning 23 = .ok (.getfield 68, 3) := dk_180 0 68 (dk_at dksX0_turning_1 0 rfl rfl)
theorem dX0_turning_26 : decode cX0_turning 26 = .ok (.aload_n 3, 1) := dk_45 (dk_at dksX0_turning_1 3 rfl rfl)
theorem dX0_turning_27 : decode cX0_turning 27 = .ok (.aload_n 3, 1) := dk_45 (dk_at dksX0_turning_1 4 rfl rfl)
theorem dX0_turning_28 : decode cX0_turning 28 = .ok (.iload_n 2, 1) := dk_28 (dk_at dksX0_turning_1 5 rfl rfl)
theorem dX0_turning_29 : decode cX0_turning 29 = .ok (.invokevirtual 391, 3) := dk_182 1 135 (dk_at dksX0_turning_1 6 rfl rfl)
theorem dX0_turning_32 : decode cX0_turning 32 = .ok (.aload_n 0, 1) := dk_42 (dk_at dksX0_turning_1 9 rfl rfl)
theorem dX0_turning_33 : decode cX0_turning 33 = .ok (.getfield 40, 3) := dk_180 0 40 (dk_at dksX0_turning_1 10 rfl rfl)
theorem dX0_turning_36 : decode cX0_turning 36 = .ok (.iload_n 1, 1) := dk_27 (dk_at dksX0_turning_1 13 rfl rfl)
theorem dX0_turning_37 : decode cX0_turning 37 = .ok (.invokevirtual 393, 3) := dk_182 1 137 (dk_at dksX0_turning_1 14 rfl rfl)
theorem dX0_turning_40 : decode cX0_turning 40 = .ok (.istore 4, 2) := dk_54 4 (dk_at dksX0_turning_1 17 rfl rfl)
theorem dX0_turning_42 : decode cX0_turning 42 = .ok (.aload_n 0, 1) := dk_42 (dk_at dksX0_turning_1 19 rfl rfl)
theorem dX0_turning_43 : decode cX0_turning 43 = .ok (.iload_n 1, 1) := dk_27 (dk_at dksX0_turning_1 20 rfl rfl)
theorem dX0_turning_44 : decode cX0_turning 44 = .ok (.invokevirtual 369, 3) := dk_182 1 113 (dk_at dksX0_turning_1 21 rfl rfl)
theorem dX0_turning_47 : decode cX0_turning 47 = .ok (.iload 4, 2) := dk_21 4 (dk_at dksX0_turning_2 0 rfl rfl)
theorem dX0_turning_49 : decode cX0_turning 49 = .ok (.idiv, 1) := dk_108 (dk_at dksX0_turning_2 2 rfl rfl)
theorem dX0_turning_50 : decode cX0_turning 50 = .ok (.ireturn, 1) := dk_172 (dk_at dksX0_turning_2 3 rfl rfl)
abbrev cX0_holds : ByteArray := prog_1_method_44_code
def yX0_holds : MethodName := ⟨RX0, "holds", "(II)I"⟩
def dkwX0_holds_2 : List UInt8 := [182, 1, 150, 153, 0, 7, 4, 167, 0, 4, 3, 172]
abbrev dktX0_holds_2 : List UInt8 := dkwX0_holds_2 ++ []
def dkwX0_holds_1 : List UInt8 := [16, 254, 172, 42, 27, 3, 182, 1, 100, 42, 180, 0, 61, 42, 180, 0, 40, 180, 0, 104, 28, 50]
abbrev dktX0_holds_1 : List UInt8 := dkwX0_holds_1 ++ dktX0_holds_2
def dkwX0_holds_0 : List UInt8 := [27, 184, 1, 107, 153, 0, 10, 28, 184, 0, 189, 154, 0, 5, 2, 172, 42, 27, 182, 1, 110, 154, 0, 6]
abbrev dktX0_holds_0 : List UInt8 := dkwX0_holds_0 ++ dktX0_holds_1
theorem dksX0_holds_0 : cX0_holds.data.toList.drop 0 = dktX0_holds_0 := by decide +kernel
theorem dksX0_holds_1 : cX0_holds.data.toList.drop 24 = dktX0_holds_1 := dk_seg dksX0_holds_0 24 rfl rfl
theorem dksX0_holds_2 : cX0_holds.data.toList.drop 46 = dktX0_holds_2 := dk_seg dksX0_holds_1 22 rfl rfl
theorem dX0_holds_0 : decode cX0_holds 0 = .ok (.iload_n 1, 1) := dk_27 (dk_at dksX0_holds_0 0 rfl rfl)
theorem dX0_holds_1 : decode cX0_holds 1 = .ok (.invokestatic 363, 3) := dk_184 1 107 (dk_at dksX0_holds_0 1 rfl rfl)
theorem dX0_holds_4 : decode cX0_holds 4 = .ok (.ifCond .eq 10, 3) := dk_153 0 10 (dk_at dksX0_holds_0 4 rfl rfl)
theorem dX0_holds_7 : decode cX0_holds 7 = .ok (.iload_n 2, 1) := dk_28 (dk_at dksX0_holds_0 7 rfl rfl)
theorem dX0_holds_8 : decode cX0_holds 8 = .ok (.invokestatic 189, 3) := dk_184 0 189 (dk_at dksX0_holds_0 8 rfl rfl)
theorem dX0_holds_11 : decode cX0_holds 11 = .ok (.ifCond .ne 5, 3) := dk_154 0 5 (dk_at dksX0_holds_0 11 rfl rfl)
theorem dX0_holds_14 : decode cX0_holds 14 = .ok (.iconst (-1), 1) := dk_2 (dk_at dksX0_holds_0 14 rfl rfl)
theorem dX0_holds_15 : decode cX0_holds 15 = .ok (.ireturn, 1) := dk_172 (dk_at dksX0_holds_0 15 rfl rfl)
theorem dX0_holds_16 : decode cX0_holds 16 = .ok (.aload_n 0, 1) := dk_42 (dk_at dksX0_holds_0 16 rfl rfl)
theorem dX0_holds_17 : decode cX0_holds 17 = .ok (.iload_n 1, 1) := dk_27 (dk_at dksX0_holds_0 17 rfl rfl)
theorem dX0_holds_18 : decode cX0_holds 18 = .ok (.invokevirtual 366, 3) := dk_182 1 110 (dk_at dksX0_holds_0 18 rfl rfl)
theorem dX0_holds_21 : decode cX0_holds 21 = .ok (.ifCond .ne 6, 3) := dk_154 0 6 (dk_at dksX0_holds_0 21 rfl rfl)
theorem dX0_holds_24 : decode cX0_holds 24 = .ok (.bipush (-2), 2) := dk_16 254 (dk_at dksX0_holds_1 0 rfl rfl)
theorem dX0_holds_26 : decode cX0_holds 26 = .ok (.ireturn, 1) := dk_172 (dk_at dksX0_holds_1 2 rfl rfl)
theorem dX0_holds_27 : decode cX0_holds 27 = .ok (.aload_n 0, 1) := dk_42 (dk_at dksX0_holds_1 3 rfl rfl)
theorem dX0_holds_28 : decode cX0_holds 28 = .ok (.iload_n 1, 1) := dk_27 (dk_at dksX0_holds_1 4 rfl rfl)
theorem dX0_holds_29 : decode cX0_holds 29 = .ok (.iconst 0, 1) := dk_3 (dk_at dksX0_holds_1 5 rfl rfl)
theorem dX0_holds_30 : decode cX0_holds 30 = .ok (.invokevirtual 356, 3) := dk_182 1 100 (dk_at dksX0_holds_1 6 rfl rfl)
theorem dX0_holds_33 : decode cX0_holds 33 = .ok (.aload_n 0, 1) := dk_42 (dk_at dksX0_holds_1 9 rfl rfl)
theorem dX0_holds_34 : decode cX0_holds 34 = .ok (.getfield 61, 3) := dk_180 0 61 (dk_at dksX0_holds_1 10 rfl rfl)
theorem dX0_holds_37 : decode cX0_holds 37 = .ok (.aload_n 0, 1) := dk_42 (dk_at dksX0_holds_1 13 rfl rfl)
theorem dX0_holds_38 : decode cX0_holds 38 = .ok (.getfield 40, 3) := dk_180 0 40 (dk_at dksX0_holds_1 14 rfl rfl)
theorem dX0_holds_41 : decode cX0_holds 41 = .ok (.getfield 104, 3) := dk_180 0 104 (dk_at dksX0_holds_1 17 rfl rfl)
theorem dX0_holds_44 : decode cX0_holds 44 = .ok (.iload_n 2, 1) := dk_28 (dk_at dksX0_holds_1 20 rfl rfl)
theorem dX0_holds_45 : decode cX0_holds 45 = .ok (.aaload, 1) := dk_50 (dk_at dksX0_holds_1 21 rfl rfl)
theorem dX0_holds_46 : decode cX0_holds 46 = .ok (.invokevirtual 406, 3) := dk_182 1 150 (dk_at dksX0_holds_2 0 rfl rfl)
theorem dX0_holds_49 : decode cX0_holds 49 = .ok (.ifCond .eq 7, 3) := dk_153 0 7 (dk_at dksX0_holds_2 3 rfl rfl)
theorem dX0_holds_52 : decode cX0_holds 52 = .ok (.iconst 1, 1) := dk_4 (dk_at dksX0_holds_2 6 rfl rfl)
theorem dX0_holds_53 : decode cX0_holds 53 = .ok (.goto 4, 3) := dk_167 0 4 (dk_at dksX0_holds_2 7 rfl rfl)
theorem dX0_holds_56 : decode cX0_holds 56 = .ok (.iconst 0, 1) := dk_3 (dk_at dksX0_holds_2 10 rfl rfl)
theorem dX0_holds_57 : decode cX0_holds 57 = .ok (.ireturn, 1) := dk_172 (dk_at dksX0_holds_2 11 rfl rfl)
abbrev cX0_choose : ByteArray := prog_1_method_45_code
def yX0_choose : MethodName := ⟨RX0, "choose", "(I)I"⟩
def dkwX0_choose_2 : List UInt8 := [42, 180, 0, 40, 27, 181, 0, 123, 28, 172]
abbrev dktX0_choose_2 : List UInt8 := dkwX0_choose_2 ++ []
def dkwX0_choose_1 : List UInt8 := [180, 0, 40, 180, 0, 123, 160, 0, 6, 16, 254, 172, 42, 180, 0, 40, 180, 0, 123, 61, 42, 182, 1, 84]
abbrev dktX0_choose_1 : List UInt8 := dkwX0_choose_1 ++ dktX0_choose_2
def dkwX0_choose_0 : List UInt8 := [27, 184, 0, 150, 154, 0, 5, 2, 172, 42, 180, 0, 26, 27, 16, 12, 182, 1, 154, 153, 0, 14, 27, 42]
abbrev dktX0_choose_0 : List UInt8 := dkwX0_choose_0 ++ dktX0_choose_1
theorem dksX0_choose_0 : cX0_choose.data.toList.drop 0 = dktX0_choose_0 := by decide +kernel
theorem dksX0_choose_1 : cX0_choose.data.toList.drop 24 = dktX0_choose_1 := dk_seg dksX0_choose_0 24 rfl rfl
theorem dksX0_choose_2 : cX0_choose.data.toList.drop 48 = dktX0_choose_2 := dk_seg dksX0_choose_1 24 rfl rfl
theorem dX0_choose_0 : decode cX0_choose 0 = .ok (.iload_n 1, 1) := dk_27 (dk_at dksX0_choose_0 0 rfl rfl)
theorem dX0_choose_1 : decode cX0_choose 1 = .ok (.invokestatic 150, 3) := dk_184 0 150 (dk_at dksX0_choose_0 1 rfl rfl)
theorem dX0_choose_4 : decode cX0_choose 4 = .ok (.ifCond .ne 5, 3) := dk_154 0 5 (dk_at dksX0_choose_0 4 rfl rfl)
theorem dX0_choose_7 : decode cX0_choose 7 = .ok (.iconst (-1), 1) := dk_2 (dk_at dksX0_choose_0 7 rfl rfl)
theorem dX0_choose_8 : decode cX0_choose 8 = .ok (.ireturn, 1) := dk_172 (dk_at dksX0_choose_0 8 rfl rfl)
theorem dX0_choose_9 : decode cX0_choose 9 = .ok (.aload_n 0, 1) := dk_42 (dk_at dksX0_choose_0 9 rfl rfl)
theorem dX0_choose_10 : decode cX0_choose 10 = .ok (.getfield 26, 3) := dk_180 0 26 (dk_at dksX0_choose_0 10 rfl rfl)
theorem dX0_choose_13 : decode cX0_choose 13 = .ok (.iload_n 1, 1) := dk_27 (dk_at dksX0_choose_0 13 rfl rfl)
theorem dX0_choose_14 : decode cX0_choose 14 = .ok (.bipush 12, 2) := dk_16 12 (dk_at dksX0_choose_0 14 rfl rfl)
theorem dX0_choose_16 : decode cX0_choose 16 = .ok (.invokevirtual 410, 3) := dk_182 1 154 (dk_at dksX0_choose_0 16 rfl rfl)
theorem dX0_choose_19 : decode cX0_choose 19 = .ok (.ifCond .eq 14, 3) := dk_153 0 14 (dk_at dksX0_choose_0 19 rfl rfl)
theorem dX0_choose_22 : decode cX0_choose 22 = .ok (.iload_n 1, 1) := dk_27 (dk_at dksX0_choose_0 22 rfl rfl)
theorem dX0_choose_23 : decode cX0_choose 23 = .ok (.aload_n 0, 1) := dk_42 (dk_at dksX0_choose_0 23 rfl rfl)
theorem dX0_choose_24 : decode cX0_choose 24 = .ok (.getfield 40, 3) := dk_180 0 40 (dk_at dksX0_choose_1 0 rfl rfl)
theorem dX0_choose_27 : decode cX0_choose 27 = .ok (.getfield 123, 3) := dk_180 0 123 (dk_at dksX0_choose_1 3 rfl rfl)
theorem dX0_choose_30 : decode cX0_choose 30 = .ok (.if_icmp .ne 6, 3) := dk_160 0 6 (dk_at dksX0_choose_1 6 rfl rfl)
theorem dX0_choose_33 : decode cX0_choose 33 = .ok (.bipush (-2), 2) := dk_16 254 (dk_at dksX0_choose_1 9 rfl rfl)
theorem dX0_choose_35 : decode cX0_choose 35 = .ok (.ireturn, 1) := dk_172 (dk_at dksX0_choose_1 11 rfl rfl)
theorem dX0_choose_36 : decode cX0_choose 36 = .ok (.aload_n 0, 1) := dk_42 (dk_at dksX0_choose_1 12 rfl rfl)
theorem dX0_choose_37 : decode cX0_choose 37 = .ok (.getfield 40, 3) := dk_180 0 40 (dk_at dksX0_choose_1 13 rfl rfl)
theorem dX0_choose_40 : decode cX0_choose 40 = .ok (.getfield 123, 3) := dk_180 0 123 (dk_at dksX0_choose_1 16 rfl rfl)
theorem dX0_choose_43 : decode cX0_choose 43 = .ok (.istore_n 2, 1) := dk_61 (dk_at dksX0_choose_1 19 rfl rfl)
theorem dX0_choose_44 : decode cX0_choose 44 = .ok (.aload_n 0, 1) := dk_42 (dk_at dksX0_choose_1 20 rfl rfl)
theorem dX0_choose_45 : decode cX0_choose 45 = .ok (.invokevirtual 340, 3) := dk_182 1 84 (dk_at dksX0_choose_1 21 rfl rfl)
theorem dX0_choose_48 : decode cX0_choose 48 = .ok (.aload_n 0, 1) := dk_42 (dk_at dksX0_choose_2 0 rfl rfl)
theorem dX0_choose_49 : decode cX0_choose 49 = .ok (.getfield 40, 3) := dk_180 0 40 (dk_at dksX0_choose_2 1 rfl rfl)
theorem dX0_choose_52 : decode cX0_choose 52 = .ok (.iload_n 1, 1) := dk_27 (dk_at dksX0_choose_2 4 rfl rfl)
theorem dX0_choose_53 : decode cX0_choose 53 = .ok (.putfield 123, 3) := dk_181 0 123 (dk_at dksX0_choose_2 5 rfl rfl)
theorem dX0_choose_56 : decode cX0_choose 56 = .ok (.iload_n 2, 1) := dk_28 (dk_at dksX0_choose_2 8 rfl rfl)
theorem dX0_choose_57 : decode cX0_choose 57 = .ok (.ireturn, 1) := dk_172 (dk_at dksX0_choose_2 9 rfl rfl)
abbrev cX0_hexad : ByteArray := prog_1_method_46_code
def yX0_hexad : MethodName := ⟨RX0, "hexad", "(I)I"⟩
def dkwX0_hexad_2 : List UInt8 := [180, 0, 123, 126, 172]
abbrev dktX0_hexad_2 : List UInt8 := dkwX0_hexad_2 ++ []
def dkwX0_hexad_1 : List UInt8 := [180, 0, 123, 2, 130, 126, 153, 0, 6, 16, 254, 172, 42, 180, 0, 26, 27, 182, 0, 174, 42, 180, 0, 40]
abbrev dktX0_hexad_1 : List UInt8 := dkwX0_hexad_1 ++ dktX0_hexad_2
def dkwX0_hexad_0 : List UInt8 := [27, 184, 0, 150, 154, 0, 5, 2, 172, 27, 184, 0, 154, 8, 160, 0, 17, 27, 42, 180, 0, 40]
abbrev dktX0_hexad_0 : List UInt8 := dkwX0_hexad_0 ++ dktX0_hexad_1
theorem dksX0_hexad_0 : cX0_hexad.data.toList.drop 0 = dktX0_hexad_0 := by decide +kernel
theorem dksX0_hexad_1 : cX0_hexad.data.toList.drop 22 = dktX0_hexad_1 := dk_seg dksX0_hexad_0 22 rfl rfl
theorem dksX0_hexad_2 : cX0_hexad.data.toList.drop 46 = dktX0_hexad_2 := dk_seg dksX0_hexad_1 24 rfl rfl
theorem dX0_hexad_0 : decode cX0_hexad 0 = .ok (.iload_n 1, 1) := dk_27 (dk_at dksX0_hexad_0 0 rfl rfl)
theorem dX0_hexad_1 : decode cX0_hexad 1 = .ok (.invokestatic 150, 3) := dk_184 0 150 (dk_at dksX0_hexad_0 1 rfl rfl)
theorem dX0_hexad_4 : decode cX0_hexad 4 = .ok (.ifCond .ne 5, 3) := dk_154 0 5 (dk_at dksX0_hexad_0 4 rfl rfl)
theorem dX0_hexad_7 : decode cX0_hexad 7 = .ok (.iconst (-1), 1) := dk_2 (dk_at dksX0_hexad_0 7 rfl rfl)
theorem dX0_hexad_8 : decode cX0_hexad 8 = .ok (.ireturn, 1) := dk_172 (dk_at dksX0_hexad_0 8 rfl rfl)
theorem dX0_hexad_9 : decode cX0_hexad 9 = .ok (.iload_n 1, 1) := dk_27 (dk_at dksX0_hexad_0 9 rfl rfl)
theorem dX0_hexad_10 : decode cX0_hexad 10 = .ok (.invokestatic 154, 3) := dk_184 0 154 (dk_at dksX0_hexad_0 10 rfl rfl)
theorem dX0_hexad_13 : decode cX0_hexad 13 = .ok (.iconst 5, 1) := dk_8 (dk_at dksX0_hexad_0 13 rfl rfl)
theorem dX0_hexad_14 : decode cX0_hexad 14 = .ok (.if_icmp .ne 17, 3) := dk_160 0 17 (dk_at dksX0_hexad_0 14 rfl rfl)
theorem dX0_hexad_17 : decode cX0_hexad 17 = .ok (.iload_n 1, 1) := dk_27 (dk_at dksX0_hexad_0 17 rfl rfl)
theorem dX0_hexad_18 : decode cX0_hexad 18 = .ok (.aload_n 0, 1) := dk_42 (dk_at dksX0_hexad_0 18 rfl rfl)
theorem dX0_hexad_19 : decode cX0_hexad 19 = .ok (.getfield 40, 3) := dk_180 0 40 (dk_at dksX0_hexad_0 19 rfl rfl)
theorem dX0_hexad_22 : decode cX0_hexad 22 = .ok (.getfield 123, 3) := dk_180 0 123 (dk_at dksX0_hexad_1 0 rfl rfl)
theorem dX0_hexad_25 : decode cX0_hexad 25 = .ok (.iconst (-1), 1) := dk_2 (dk_at dksX0_hexad_1 3 rfl rfl)
theorem dX0_hexad_26 : decode cX0_hexad 26 = .ok (.ixor, 1) := dk_130 (dk_at dksX0_hexad_1 4 rfl rfl)
theorem dX0_hexad_27 : decode cX0_hexad 27 = .ok (.iand, 1) := dk_126 (dk_at dksX0_hexad_1 5 rfl rfl)
theorem dX0_hexad_28 : decode cX0_hexad 28 = .ok (.ifCond .eq 6, 3) := dk_153 0 6 (dk_at dksX0_hexad_1 6 rfl rfl)
theorem dX0_hexad_31 : decode cX0_hexad 31 = .ok (.bipush (-2), 2) := dk_16 254 (dk_at dksX0_hexad_1 9 rfl rfl)
theorem dX0_hexad_33 : decode cX0_hexad 33 = .ok (.ireturn, 1) := dk_172 (dk_at dksX0_hexad_1 11 rfl rfl)
theorem dX0_hexad_34 : decode cX0_hexad 34 = .ok (.aload_n 0, 1) := dk_42 (dk_at dksX0_hexad_1 12 rfl rfl)
theorem dX0_hexad_35 : decode cX0_hexad 35 = .ok (.getfield 26, 3) := dk_180 0 26 (dk_at dksX0_hexad_1 13 rfl rfl)
theorem dX0_hexad_38 : decode cX0_hexad 38 = .ok (.iload_n 1, 1) := dk_27 (dk_at dksX0_hexad_1 16 rfl rfl)
theorem dX0_hexad_39 : decode cX0_hexad 39 = .ok (.invokevirtual 174, 3) := dk_182 0 174 (dk_at dksX0_hexad_1 17 rfl rfl)
theorem dX0_hexad_42 : decode cX0_hexad 42 = .ok (.aload_n 0, 1) := dk_42 (dk_at dksX0_hexad_1 20 rfl rfl)
theorem dX0_hexad_43 : decode cX0_hexad 43 = .ok (.getfield 40, 3) := dk_180 0 40 (dk_at dksX0_hexad_1 21 rfl rfl)
theorem dX0_hexad_46 : decode cX0_hexad 46 = .ok (.getfield 123, 3) := dk_180 0 123 (dk_at dksX0_hexad_2 0 rfl rfl)
theorem dX0_hexad_49 : decode cX0_hexad 49 = .ok (.iand, 1) := dk_126 (dk_at dksX0_hexad_2 3 rfl rfl)
theorem dX0_hexad_50 : decode cX0_hexad 50 = .ok (.ireturn, 1) := dk_172 (dk_at dksX0_hexad_2 4 rfl rfl)
abbrev cX0_turn : ByteArray := prog_1_method_47_code
def yX0_turn : MethodName := ⟨RX0, "turn", "(II)I"⟩
def dkwX0_turn_6 : List UInt8 := [42, 180, 0, 40, 180, 0, 123, 126, 167, 0, 5, 21, 5, 54, 5, 132, 8, 1, 167, 255, 198, 21, 5, 172]
abbrev dktX0_turn_6 : List UInt8 := dkwX0_turn_6 ++ []
def dkwX0_turn_5 : List UInt8 := [42, 180, 0, 40, 180, 0, 123, 2, 130, 126, 29, 160, 0, 24, 21, 9, 21, 4, 126, 153, 0, 16, 21, 9]
abbrev dktX0_turn_5 : List UInt8 := dkwX0_turn_5 ++ dktX0_turn_6
def dkwX0_turn_4 : List UInt8 := [25, 6, 190, 54, 7, 3, 54, 8, 21, 8, 21, 7, 162, 0, 57, 25, 6, 21, 8, 46, 54, 9, 21, 9]
abbrev dktX0_turn_4 : List UInt8 := dkwX0_turn_4 ++ dktX0_turn_5
def dkwX0_turn_3 : List UInt8 := [180, 0, 40, 180, 0, 123, 116, 126, 54, 4, 16, 252, 54, 5, 42, 180, 0, 26, 180, 0, 147, 58, 6]
abbrev dktX0_turn_3 : List UInt8 := dkwX0_turn_3 ++ dktX0_turn_4
def dkwX0_turn_2 : List UInt8 := [153, 0, 6, 16, 254, 172, 4, 27, 120, 4, 28, 120, 128, 62, 42, 180, 0, 40, 180, 0, 123, 42]
abbrev dktX0_turn_2 : List UInt8 := dkwX0_turn_2 ++ dktX0_turn_3
def dkwX0_turn_1 : List UInt8 := [180, 0, 40, 180, 0, 123, 27, 184, 1, 21, 154, 0, 17, 42, 180, 0, 40, 180, 0, 123, 28, 184, 1, 21]
abbrev dktX0_turn_1 : List UInt8 := dkwX0_turn_1 ++ dktX0_turn_2
def dkwX0_turn_0 : List UInt8 := [27, 133, 184, 0, 192, 153, 0, 11, 28, 133, 184, 0, 192, 154, 0, 5, 2, 172, 27, 28, 159, 0, 31, 42]
abbrev dktX0_turn_0 : List UInt8 := dkwX0_turn_0 ++ dktX0_turn_1
theorem dksX0_turn_0 : cX0_turn.data.toList.drop 0 = dktX0_turn_0 := by decide +kernel
theorem dksX0_turn_1 : cX0_turn.data.toList.drop 24 = dktX0_turn_1 := dk_seg dksX0_turn_0 24 rfl rfl
theorem dksX0_turn_2 : cX0_turn.data.toList.drop 48 = dktX0_turn_2 := dk_seg dksX0_turn_1 24 rfl rfl
theorem dksX0_turn_3 : cX0_turn.data.toList.drop 70 = dktX0_turn_3 := dk_seg dksX0_turn_2 22 rfl rfl
theorem dksX0_turn_4 : cX0_turn.data.toList.drop 93 = dktX0_turn_4 := dk_seg dksX0_turn_3 23 rfl rfl
theorem dksX0_turn_5 : cX0_turn.data.toList.drop 117 = dktX0_turn_5 := dk_seg dksX0_turn_4 24 rfl rfl
theorem dksX0_turn_6 : cX0_turn.data.toList.drop 141 = dktX0_turn_6 := dk_seg dksX0_turn_5 24 rfl rfl
theorem dX0_turn_0 : decode cX0_turn 0 = .ok (.iload_n 1, 1) := dk_27 (dk_at dksX0_turn_0 0 rfl rfl)
theorem dX0_turn_1 : decode cX0_turn 1 = .ok (.i2l, 1) := dk_133 (dk_at dksX0_turn_0 1 rfl rfl)
theorem dX0_turn_2 : decode cX0_turn 2 = .ok (.invokestatic 192, 3) := dk_184 0 192 (dk_at dksX0_turn_0 2 rfl rfl)
theorem dX0_turn_5 : decode cX0_turn 5 = .ok (.ifCond .eq 11, 3) := dk_153 0 11 (dk_at dksX0_turn_0 5 rfl rfl)
theorem dX0_turn_8 : decode cX0_turn 8 = .ok (.iload_n 2, 1) := dk_28 (dk_at dksX0_turn_0 8 rfl rfl)
theorem dX0_turn_9 : decode cX0_turn 9 = .ok (.i2l, 1) := dk_133 (dk_at dksX0_turn_0 9 rfl rfl)
theorem dX0_turn_10 : decode cX0_turn 10 = .ok (.invokestatic 192, 3) := dk_184 0 192 (dk_at dksX0_turn_0 10 rfl rfl)
theorem dX0_turn_13 : decode cX0_turn 13 = .ok (.ifCond .ne 5, 3) := dk_154 0 5 (dk_at dksX0_turn_0 13 rfl rfl)
theorem dX0_turn_16 : decode cX0_turn 16 = .ok (.iconst (-1), 1) := dk_2 (dk_at dksX0_turn_0 16 rfl rfl)
theorem dX0_turn_17 : decode cX0_turn 17 = .ok (.ireturn, 1) := dk_172 (dk_at dksX0_turn_0 17 rfl rfl)
theorem dX0_turn_18 : decode cX0_turn 18 = .ok (.iload_n 1, 1) := dk_27 (dk_at dksX0_turn_0 18 rfl rfl)
theorem dX0_turn_19 : decode cX0_turn 19 = .ok (.iload_n 2, 1) := dk_28 (dk_at dksX0_turn_0 19 rfl rfl)
theorem dX0_turn_20 : decode cX0_turn 20 = .ok (.if_icmp .eq 31, 3) := dk_159 0 31 (dk_at dksX0_turn_0 20 rfl rfl)
theorem dX0_turn_23 : decode cX0_turn 23 = .ok (.aload_n 0, 1) := dk_42 (dk_at dksX0_turn_0 23 rfl rfl)
theorem dX0_turn_24 : decode cX0_turn 24 = .ok (.getfield 40, 3) := dk_180 0 40 (dk_at dksX0_turn_1 0 rfl rfl)
theorem dX0_turn_27 : decode cX0_turn 27 = .ok (.getfield 123, 3) := dk_180 0 123 (dk_at dksX0_turn_1 3 rfl rfl)
theorem dX0_turn_30 : decode cX0_turn 30 = .ok (.iload_n 1, 1) := dk_27 (dk_at dksX0_turn_1 6 rfl rfl)
theorem dX0_turn_31 : decode cX0_turn 31 = .ok (.invokestatic 277, 3) := dk_184 1 21 (dk_at dksX0_turn_1 7 rfl rfl)
theorem dX0_turn_34 : decode cX0_turn 34 = .ok (.ifCond .ne 17, 3) := dk_154 0 17 (dk_at dksX0_turn_1 10 rfl rfl)
theorem dX0_turn_37 : decode cX0_turn 37 = .ok (.aload_n 0, 1) := dk_42 (dk_at dksX0_turn_1 13 rfl rfl)
theorem dX0_turn_38 : decode cX0_turn 38 = .ok (.getfield 40, 3) := dk_180 0 40 (dk_at dksX0_turn_1 14 rfl rfl)
theorem dX0_turn_41 : decode cX0_turn 41 = .ok (.getfield 123, 3) := dk_180 0 123 (dk_at dksX0_turn_1 17 rfl rfl)
theorem dX0_turn_44 : decode cX0_turn 44 = .ok (.iload_n 2, 1) := dk_28 (dk_at dksX0_turn_1 20 rfl rfl)
theorem dX0_turn_45 : decode cX0_turn 45 = .ok (.invokestatic 277, 3) := dk_184 1 21 (dk_at dksX0_turn_1 21 rfl rfl)
theorem dX0_turn_48 : decode cX0_turn 48 = .ok (.ifCond .eq 6, 3) := dk_153 0 6 (dk_at dksX0_turn_2 0 rfl rfl)
theorem dX0_turn_51 : decode cX0_turn 51 = .ok (.bipush (-2), 2) := dk_16 254 (dk_at dksX0_turn_2 3 rfl rfl)
theorem dX0_turn_53 : decode cX0_turn 53 = .ok (.ireturn, 1) := dk_172 (dk_at dksX0_turn_2 5 rfl rfl)
theorem dX0_turn_54 : decode cX0_turn 54 = .ok (.iconst 1, 1) := dk_4 (dk_at dksX0_turn_2 6 rfl rfl)
theorem dX0_turn_55 : decode cX0_turn 55 = .ok (.iload_n 1, 1) := dk_27 (dk_at dksX0_turn_2 7 rfl rfl)
theorem dX0_turn_56 : decode cX0_turn 56 = .ok (.ishl, 1) := dk_120 (dk_at dksX0_turn_2 8 rfl rfl)
theorem dX0_turn_57 : decode cX0_turn 57 = .ok (.iconst 1, 1) := dk_4 (dk_at dksX0_turn_2 9 rfl rfl)
theorem dX0_turn_58 : decode cX0_turn 58 = .ok (.iload_n 2, 1) := dk_28 (dk_at dksX0_turn_2 10 rfl rfl)
theorem dX0_turn_59 : decode cX0_turn 59 = .ok (.ishl, 1) := dk_120 (dk_at dksX0_turn_2 11 rfl rfl)
theorem dX0_turn_60 : decode cX0_turn 60 = .ok (.ior, 1) := dk_128 (dk_at dksX0_turn_2 12 rfl rfl)
theorem dX0_turn_61 : decode cX0_turn 61 = .ok (.istore_n 3, 1) := dk_62 (dk_at dksX0_turn_2 13 rfl rfl)
theorem dX0_turn_62 : decode cX0_turn 62 = .ok (.aload_n 0, 1) := dk_42 (dk_at dksX0_turn_2 14 rfl rfl)
theorem dX0_turn_63 : decode cX0_turn 63 = .ok (.getfield 40, 3) := dk_180 0 40 (dk_at dksX0_turn_2 15 rfl rfl)
theorem dX0_turn_66 : decode cX0_turn 66 = .ok (.getfield 123, 3) := dk_180 0 123 (dk_at dksX0_turn_2 18 rfl rfl)
theorem dX0_turn_69 : decode cX0_turn 69 = .ok (.aload_n 0, 1) := dk_42 (dk_at dksX0_turn_2 21 rfl rfl)
theorem dX0_turn_70 : decode cX0_turn 70 = .ok (.getfield 40, 3) := dk_180 0 40 (dk_at dksX0_turn_3 0 rfl rfl)
theorem dX0_turn_73 : decode cX0_turn 73 = .ok (.getfield 123, 3) := dk_180 0 123 (dk_at dksX0_turn_3 3 rfl rfl)
theorem dX0_turn_76 : decode cX0_turn 76 = .ok (.ineg, 1) := dk_116 (dk_at dksX0_turn_3 6 rfl rfl)
theorem dX0_turn_77 : decode cX0_turn 77 = .ok (.iand, 1) := dk_126 (dk_at dksX0_turn_3 7 rfl rfl)
theorem dX0_turn_78 : decode cX0_turn 78 = .ok (.istore 4, 2) := dk_54 4 (dk_at dksX0_turn_3 8 rfl rfl)
theorem dX0_turn_80 : decode cX0_turn 80 = .ok (.bipush (-4), 2) := dk_16 252 (dk_at dksX0_turn_3 10 rfl rfl)
theorem dX0_turn_82 : decode cX0_turn 82 = .ok (.istore 5, 2) := dk_54 5 (dk_at dksX0_turn_3 12 rfl rfl)
theorem dX0_turn_84 : decode cX0_turn 84 = .ok (.aload_n 0, 1) := dk_42 (dk_at dksX0_turn_3 14 rfl rfl)
theorem dX0_turn_85 : decode cX0_turn 85 = .ok (.getfield 26, 3) := dk_180 0 26 (dk_at dksX0_turn_3 15 rfl rfl)
theorem dX0_turn_88 : decode cX0_turn 88 = .ok (.getfield 147, 3) := dk_180 0 147 (dk_at dksX0_turn_3 18 rfl rfl)
theorem dX0_turn_91 : decode cX0_turn 91 = .ok (.astore 6, 2) := dk_58 6 (dk_at dksX0_turn_3 21 rfl rfl)
theorem dX0_turn_93 : decode cX0_turn 93 = .ok (.aload 6, 2) := dk_25 6 (dk_at dksX0_turn_4 0 rfl rfl)
theorem dX0_turn_95 : decode cX0_turn 95 = .ok (.arraylength, 1) := dk_190 (dk_at dksX0_turn_4 2 rfl rfl)
theorem dX0_turn_96 : decode cX0_turn 96 = .ok (.istore 7, 2) := dk_54 7 (dk_at dksX0_turn_4 3 rfl rfl)
theorem dX0_turn_98 : decode cX0_turn 98 = .ok (.iconst 0, 1) := dk_3 (dk_at dksX0_turn_4 5 rfl rfl)
theorem dX0_turn_99 : decode cX0_turn 99 = .ok (.istore 8, 2) := dk_54 8 (dk_at dksX0_turn_4 6 rfl rfl)
theorem dX0_turn_101 : decode cX0_turn 101 = .ok (.iload 8, 2) := dk_21 8 (dk_at dksX0_turn_4 8 rfl rfl)
theorem dX0_turn_103 : decode cX0_turn 103 = .ok (.iload 7, 2) := dk_21 7 (dk_at dksX0_turn_4 10 rfl rfl)
theorem dX0_turn_105 : decode cX0_turn 105 = .ok (.if_icmp .ge 57, 3) := dk_162 0 57 (dk_at dksX0_turn_4 12 rfl rfl)
theorem dX0_turn_108 : decode cX0_turn 108 = .ok (.aload 6, 2) := dk_25 6 (dk_at dksX0_turn_4 15 rfl rfl)
theorem dX0_turn_110 : decode cX0_turn 110 = .ok (.iload 8, 2) := dk_21 8 (dk_at dksX0_turn_4 17 rfl rfl)
theorem dX0_turn_112 : decode cX0_turn 112 = .ok (.iaload, 1) := dk_46 (dk_at dksX0_turn_4 19 rfl rfl)
theorem dX0_turn_113 : decode cX0_turn 113 = .ok (.istore 9, 2) := dk_54 9 (dk_at dksX0_turn_4 20 rfl rfl)
theorem dX0_turn_115 : decode cX0_turn 115 = .ok (.iload 9, 2) := dk_21 9 (dk_at dksX0_turn_4 22 rfl rfl)
theorem dX0_turn_117 : decode cX0_turn 117 = .ok (.aload_n 0, 1) := dk_42 (dk_at dksX0_turn_5 0 rfl rfl)
theorem dX0_turn_118 : decode cX0_turn 118 = .ok (.getfield 40, 3) := dk_180 0 40 (dk_at dksX0_turn_5 1 rfl rfl)
theorem dX0_turn_121 : decode cX0_turn 121 = .ok (.getfield 123, 3) := dk_180 0 123 (dk_at dksX0_turn_5 4 rfl rfl)
theorem dX0_turn_124 : decode cX0_turn 124 = .ok (.iconst (-1), 1) := dk_2 (dk_at dksX0_turn_5 7 rfl rfl)
theorem dX0_turn_125 : decode cX0_turn 125 = .ok (.ixor, 1) := dk_130 (dk_at dksX0_turn_5 8 rfl rfl)
theorem dX0_turn_126 : decode cX0_turn 126 = .ok (.iand, 1) := dk_126 (dk_at dksX0_turn_5 9 rfl rfl)
theorem dX0_turn_127 : decode cX0_turn 127 = .ok (.iload_n 3, 1) := dk_29 (dk_at dksX0_turn_5 10 rfl rfl)
theorem dX0_turn_128 : decode cX0_turn 128 = .ok (.if_icmp .ne 24, 3) := dk_160 0 24 (dk_at dksX0_turn_5 11 rfl rfl)
theorem dX0_turn_131 : decode cX0_turn 131 = .ok (.iload 9, 2) := dk_21 9 (dk_at dksX0_turn_5 14 rfl rfl)
theorem dX0_turn_133 : decode cX0_turn 133 = .ok (.iload 4, 2) := dk_21 4 (dk_at dksX0_turn_5 16 rfl rfl)
theorem dX0_turn_135 : decode cX0_turn 135 = .ok (.iand, 1) := dk_126 (dk_at dksX0_turn_5 18 rfl rfl)
theorem dX0_turn_136 : decode cX0_turn 136 = .ok (.ifCond .eq 16, 3) := dk_153 0 16 (dk_at dksX0_turn_5 19 rfl rfl)
theorem dX0_turn_139 : decode cX0_turn 139 = .ok (.iload 9, 2) := dk_21 9 (dk_at dksX0_turn_5 22 rfl rfl)
theorem dX0_turn_141 : decode cX0_turn 141 = .ok (.aload_n 0, 1) := dk_42 (dk_at dksX0_turn_6 0 rfl rfl)
theorem dX0_turn_142 : decode cX0_turn 142 = .ok (.getfield 40, 3) := dk_180 0 40 (dk_at dksX0_turn_6 1 rfl rfl)
theorem dX0_turn_145 : decode cX0_turn 145 = .ok (.getfield 123, 3) := dk_180 0 123 (dk_at dksX0_turn_6 4 rfl rfl)
theorem dX0_turn_148 : decode cX0_turn 148 = .ok (.iand, 1) := dk_126 (dk_at dksX0_turn_6 7 rfl rfl)
theorem dX0_turn_149 : decode cX0_turn 149 = .ok (.goto 5, 3) := dk_167 0 5 (dk_at dksX0_turn_6 8 rfl rfl)
theorem dX0_turn_152 : decode cX0_turn 152 = .ok (.iload 5, 2) := dk_21 5 (dk_at dksX0_turn_6 11 rfl rfl)
theorem dX0_turn_154 : decode cX0_turn 154 = .ok (.istore 5, 2) := dk_54 5 (dk_at dksX0_turn_6 13 rfl rfl)
theorem dX0_turn_156 : decode cX0_turn 156 = .ok (.iinc 8 1, 3) := dk_132 8 1 (dk_at dksX0_turn_6 15 rfl rfl)
theorem dX0_turn_159 : decode cX0_turn 159 = .ok (.goto (-58), 3) := dk_167 255 198 (dk_at dksX0_turn_6 18 rfl rfl)
theorem dX0_turn_162 : decode cX0_turn 162 = .ok (.iload 5, 2) := dk_21 5 (dk_at dksX0_turn_6 21 rfl rfl)
theorem dX0_turn_164 : decode cX0_turn 164 = .ok (.ireturn, 1) := dk_172 (dk_at dksX0_turn_6 23 rfl rfl)
abbrev cX0_pair : ByteArray := prog_1_method_48_code
def yX0_pair : MethodName := ⟨RX0, "pair", "(I)I"⟩
def dkwX0_pair_3 : List UInt8 := [126, 167, 0, 5, 16, 254, 172]
abbrev dktX0_pair_3 : List UInt8 := dkwX0_pair_3 ++ []
def dkwX0_pair_2 : List UInt8 := [61, 28, 42, 180, 0, 40, 180, 0, 123, 126, 27, 160, 0, 17, 28, 42, 180, 0, 40, 180, 0, 123, 2, 130]
abbrev dktX0_pair_2 : List UInt8 := dkwX0_pair_2 ++ dktX0_pair_3
def dkwX0_pair_1 : List UInt8 := [180, 0, 123, 2, 130, 126, 153, 0, 6, 16, 254, 172, 42, 180, 0, 26, 27, 27, 4, 100, 126, 182, 0, 174]
abbrev dktX0_pair_1 : List UInt8 := dkwX0_pair_1 ++ dktX0_pair_2
def dkwX0_pair_0 : List UInt8 := [27, 184, 0, 150, 154, 0, 5, 2, 172, 27, 184, 0, 154, 16, 6, 160, 0, 17, 27, 42, 180, 0, 40]
abbrev dktX0_pair_0 : List UInt8 := dkwX0_pair_0 ++ dktX0_pair_1
theorem dksX0_pair_0 : cX0_pair.data.toList.drop 0 = dktX0_pair_0 := by decide +kernel
theorem dksX0_pair_1 : cX0_pair.data.toList.drop 23 = dktX0_pair_1 := dk_seg dksX0_pair_0 23 rfl rfl
theorem dksX0_pair_2 : cX0_pair.data.toList.drop 47 = dktX0_pair_2 := dk_seg dksX0_pair_1 24 rfl rfl
theorem dksX0_pair_3 : cX0_pair.data.toList.drop 71 = dktX0_pair_3 := dk_seg dksX0_pair_2 24 rfl rfl
theorem dX0_pair_0 : decode cX0_pair 0 = .ok (.iload_n 1, 1) := dk_27 (dk_at dksX0_pair_0 0 rfl rfl)
theorem dX0_pair_1 : decode cX0_pair 1 = .ok (.invokestatic 150, 3) := dk_184 0 150 (dk_at dksX0_pair_0 1 rfl rfl)
theorem dX0_pair_4 : decode cX0_pair 4 = .ok (.ifCond .ne 5, 3) := dk_154 0 5 (dk_at dksX0_pair_0 4 rfl rfl)
theorem dX0_pair_7 : decode cX0_pair 7 = .ok (.iconst (-1), 1) := dk_2 (dk_at dksX0_pair_0 7 rfl rfl)
theorem dX0_pair_8 : decode cX0_pair 8 = .ok (.ireturn, 1) := dk_172 (dk_at dksX0_pair_0 8 rfl rfl)
theorem dX0_pair_9 : decode cX0_pair 9 = .ok (.iload_n 1, 1) := dk_27 (dk_at dksX0_pair_0 9 rfl rfl)
theorem dX0_pair_10 : decode cX0_pair 10 = .ok (.invokestatic 154, 3) := dk_184 0 154 (dk_at dksX0_pair_0 10 rfl rfl)
theorem dX0_pair_13 : decode cX0_pair 13 = .ok (.bipush 6, 2) := dk_16 6 (dk_at dksX0_pair_0 13 rfl rfl)
theorem dX0_pair_15 : decode cX0_pair 15 = .ok (.if_icmp .ne 17, 3) := dk_160 0 17 (dk_at dksX0_pair_0 15 rfl rfl)
theorem dX0_pair_18 : decode cX0_pair 18 = .ok (.iload_n 1, 1) := dk_27 (dk_at dksX0_pair_0 18 rfl rfl)
theorem dX0_pair_19 : decode cX0_pair 19 = .ok (.aload_n 0, 1) := dk_42 (dk_at dksX0_pair_0 19 rfl rfl)
theorem dX0_pair_20 : decode cX0_pair 20 = .ok (.getfield 40, 3) := dk_180 0 40 (dk_at dksX0_pair_0 20 rfl rfl)
theorem dX0_pair_23 : decode cX0_pair 23 = .ok (.getfield 123, 3) := dk_180 0 123 (dk_at dksX0_pair_1 0 rfl rfl)
theorem dX0_pair_26 : decode cX0_pair 26 = .ok (.iconst (-1), 1) := dk_2 (dk_at dksX0_pair_1 3 rfl rfl)
theorem dX0_pair_27 : decode cX0_pair 27 = .ok (.ixor, 1) := dk_130 (dk_at dksX0_pair_1 4 rfl rfl)
theorem dX0_pair_28 : decode cX0_pair 28 = .ok (.iand, 1) := dk_126 (dk_at dksX0_pair_1 5 rfl rfl)
theorem dX0_pair_29 : decode cX0_pair 29 = .ok (.ifCond .eq 6, 3) := dk_153 0 6 (dk_at dksX0_pair_1 6 rfl rfl)
theorem dX0_pair_32 : decode cX0_pair 32 = .ok (.bipush (-2), 2) := dk_16 254 (dk_at dksX0_pair_1 9 rfl rfl)
theorem dX0_pair_34 : decode cX0_pair 34 = .ok (.ireturn, 1) := dk_172 (dk_at dksX0_pair_1 11 rfl rfl)
theorem dX0_pair_35 : decode cX0_pair 35 = .ok (.aload_n 0, 1) := dk_42 (dk_at dksX0_pair_1 12 rfl rfl)
theorem dX0_pair_36 : decode cX0_pair 36 = .ok (.getfield 26, 3) := dk_180 0 26 (dk_at dksX0_pair_1 13 rfl rfl)
theorem dX0_pair_39 : decode cX0_pair 39 = .ok (.iload_n 1, 1) := dk_27 (dk_at dksX0_pair_1 16 rfl rfl)
theorem dX0_pair_40 : decode cX0_pair 40 = .ok (.iload_n 1, 1) := dk_27 (dk_at dksX0_pair_1 17 rfl rfl)
theorem dX0_pair_41 : decode cX0_pair 41 = .ok (.iconst 1, 1) := dk_4 (dk_at dksX0_pair_1 18 rfl rfl)
theorem dX0_pair_42 : decode cX0_pair 42 = .ok (.isub, 1) := dk_100 (dk_at dksX0_pair_1 19 rfl rfl)
theorem dX0_pair_43 : decode cX0_pair 43 = .ok (.iand, 1) := dk_126 (dk_at dksX0_pair_1 20 rfl rfl)
theorem dX0_pair_44 : decode cX0_pair 44 = .ok (.invokevirtual 174, 3) := dk_182 0 174 (dk_at dksX0_pair_1 21 rfl rfl)
theorem dX0_pair_47 : decode cX0_pair 47 = .ok (.istore_n 2, 1) := dk_61 (dk_at dksX0_pair_2 0 rfl rfl)
theorem dX0_pair_48 : decode cX0_pair 48 = .ok (.iload_n 2, 1) := dk_28 (dk_at dksX0_pair_2 1 rfl rfl)
theorem dX0_pair_49 : decode cX0_pair 49 = .ok (.aload_n 0, 1) := dk_42 (dk_at dksX0_pair_2 2 rfl rfl)
theorem dX0_pair_50 : decode cX0_pair 50 = .ok (.getfield 40, 3) := dk_180 0 40 (dk_at dksX0_pair_2 3 rfl rfl)
theorem dX0_pair_53 : decode cX0_pair 53 = .ok (.getfield 123, 3) := dk_180 0 123 (dk_at dksX0_pair_2 6 rfl rfl)
theorem dX0_pair_56 : decode cX0_pair 56 = .ok (.iand, 1) := dk_126 (dk_at dksX0_pair_2 9 rfl rfl)
theorem dX0_pair_57 : decode cX0_pair 57 = .ok (.iload_n 1, 1) := dk_27 (dk_at dksX0_pair_2 10 rfl rfl)
theorem dX0_pair_58 : decode cX0_pair 58 = .ok (.if_icmp .ne 17, 3) := dk_160 0 17 (dk_at dksX0_pair_2 11 rfl rfl)
theorem dX0_pair_61 : decode cX0_pair 61 = .ok (.iload_n 2, 1) := dk_28 (dk_at dksX0_pair_2 14 rfl rfl)
theorem dX0_pair_62 : decode cX0_pair 62 = .ok (.aload_n 0, 1) := dk_42 (dk_at dksX0_pair_2 15 rfl rfl)
theorem dX0_pair_63 : decode cX0_pair 63 = .ok (.getfield 40, 3) := dk_180 0 40 (dk_at dksX0_pair_2 16 rfl rfl)
theorem dX0_pair_66 : decode cX0_pair 66 = .ok (.getfield 123, 3) := dk_180 0 123 (dk_at dksX0_pair_2 19 rfl rfl)
theorem dX0_pair_69 : decode cX0_pair 69 = .ok (.iconst (-1), 1) := dk_2 (dk_at dksX0_pair_2 22 rfl rfl)
theorem dX0_pair_70 : decode cX0_pair 70 = .ok (.ixor, 1) := dk_130 (dk_at dksX0_pair_2 23 rfl rfl)
theorem dX0_pair_71 : decode cX0_pair 71 = .ok (.iand, 1) := dk_126 (dk_at dksX0_pair_3 0 rfl rfl)
theorem dX0_pair_72 : decode cX0_pair 72 = .ok (.goto 5, 3) := dk_167 0 5 (dk_at dksX0_pair_3 1 rfl rfl)
theorem dX0_pair_75 : decode cX0_pair 75 = .ok (.bipush (-2), 2) := dk_16 254 (dk_at dksX0_pair_3 4 rfl rfl)
theorem dX0_pair_77 : decode cX0_pair 77 = .ok (.ireturn, 1) := dk_172 (dk_at dksX0_pair_3 6 rfl rfl)
abbrev cX0_drift : ByteArray := prog_1_method_50_code
def yX0_drift : MethodName := ⟨RX0, "drift", "(I)I"⟩
def dkwX0_drift_6 : List UInt8 := [182, 1, 68, 87, 132, 2, 1, 167, 255, 130, 42, 180, 0, 40, 180, 0, 123, 172]
abbrev dktX0_drift_6 : List UInt8 := dkwX0_drift_6 ++ []
def dkwX0_drift_5 : List UInt8 := [187, 0, 115, 89, 183, 1, 33, 42, 180, 0, 40, 180, 0, 104, 21, 4, 8, 112, 50, 182, 0, 114]
abbrev dktX0_drift_5 : List UInt8 := dkwX0_drift_5 ++ dktX0_drift_6
def dkwX0_drift_4 : List UInt8 := [17, 10, 16, 112, 46, 181, 0, 123, 167, 0, 40, 42, 180, 0, 40, 180, 0, 104, 29, 7, 112, 50]
abbrev dktX0_drift_4 : List UInt8 := dkwX0_drift_4 ++ dktX0_drift_5
def dkwX0_drift_3 : List UInt8 := [54, 4, 29, 16, 8, 112, 154, 0, 27, 42, 180, 0, 40, 42, 180, 0, 26, 180, 0, 171, 21, 4]
abbrev dktX0_drift_3 : List UInt8 := dkwX0_drift_3 ++ dktX0_drift_4
def dkwX0_drift_2 : List UInt8 := [20, 1, 176, 127, 136, 181, 0, 127, 42, 180, 0, 40, 180, 0, 127, 19, 1, 178, 108, 62, 29, 16, 8, 108]
abbrev dktX0_drift_2 : List UInt8 := dkwX0_drift_2 ++ dktX0_drift_3
def dkwX0_drift_1 : List UInt8 := [182, 1, 84, 42, 180, 0, 40, 42, 180, 0, 40, 180, 0, 127, 133, 20, 1, 172, 105, 20, 1, 174, 97]
abbrev dktX0_drift_1 : List UInt8 := dkwX0_drift_1 ++ dktX0_drift_2
def dkwX0_drift_0 : List UInt8 := [27, 133, 10, 20, 1, 170, 184, 0, 11, 154, 0, 5, 2, 172, 3, 61, 28, 27, 162, 0, 127, 42]
abbrev dktX0_drift_0 : List UInt8 := dkwX0_drift_0 ++ dktX0_drift_1
theorem dksX0_drift_0 : cX0_drift.data.toList.drop 0 = dktX0_drift_0 := by decide +kernel
theorem dksX0_drift_1 : cX0_drift.data.toList.drop 22 = dktX0_drift_1 := dk_seg dksX0_drift_0 22 rfl rfl
theorem dksX0_drift_2 : cX0_drift.data.toList.drop 45 = dktX0_drift_2 := dk_seg dksX0_drift_1 23 rfl rfl
theorem dksX0_drift_3 : cX0_drift.data.toList.drop 69 = dktX0_drift_3 := dk_seg dksX0_drift_2 24 rfl rfl
theorem dksX0_drift_4 : cX0_drift.data.toList.drop 91 = dktX0_drift_4 := dk_seg dksX0_drift_3 22 rfl rfl
theorem dksX0_drift_5 : cX0_drift.data.toList.drop 113 = dktX0_drift_5 := dk_seg dksX0_drift_4 22 rfl rfl
theorem dksX0_drift_6 : cX0_drift.data.toList.drop 135 = dktX0_drift_6 := dk_seg dksX0_drift_5 22 rfl rfl
theorem dX0_drift_0 : decode cX0_drift 0 = .ok (.iload_n 1, 1) := dk_27 (dk_at dksX0_drift_0 0 rfl rfl)
theorem dX0_drift_1 : decode cX0_drift 1 = .ok (.i2l, 1) := dk_133 (dk_at dksX0_drift_0 1 rfl rfl)
theorem dX0_drift_2 : decode cX0_drift 2 = .ok (.lconst 1, 1) := dk_10 (dk_at dksX0_drift_0 2 rfl rfl)
theorem dX0_drift_3 : decode cX0_drift 3 = .ok (.ldc2_w 426, 3) := dk_20 1 170 (dk_at dksX0_drift_0 3 rfl rfl)
theorem dX0_drift_6 : decode cX0_drift 6 = .ok (.invokestatic 11, 3) := dk_184 0 11 (dk_at dksX0_drift_0 6 rfl rfl)
theorem dX0_drift_9 : decode cX0_drift 9 = .ok (.ifCond .ne 5, 3) := dk_154 0 5 (dk_at dksX0_drift_0 9 rfl rfl)
theorem dX0_drift_12 : decode cX0_drift 12 = .ok (.iconst (-1), 1) := dk_2 (dk_at dksX0_drift_0 12 rfl rfl)
theorem dX0_drift_13 : decode cX0_drift 13 = .ok (.ireturn, 1) := dk_172 (dk_at dksX0_drift_0 13 rfl rfl)
theorem dX0_drift_14 : decode cX0_drift 14 = .ok (.iconst 0, 1) := dk_3 (dk_at dksX0_drift_0 14 rfl rfl)
theorem dX0_drift_15 : decode cX0_drift 15 = .ok (.istore_n 2, 1) := dk_61 (dk_at dksX0_drift_0 15 rfl rfl)
theorem dX0_drift_16 : decode cX0_drift 16 = .ok (.iload_n 2, 1) := dk_28 (dk_at dksX0_drift_0 16 rfl rfl)
theorem dX0_drift_17 : decode cX0_drift 17 = .ok (.iload_n 1, 1) := dk_27 (dk_at dksX0_drift_0 17 rfl rfl)
theorem dX0_drift_18 : decode cX0_drift 18 = .ok (.if_icmp .ge 127, 3) := dk_162 0 127 (dk_at dksX0_drift_0 18 rfl rfl)
theorem dX0_drift_21 : decode cX0_drift 21 = .ok (.aload_n 0, 1) := dk_42 (dk_at dksX0_drift_0 21 rfl rfl)
theorem dX0_drift_22 : decode cX0_drift 22 = .ok (.invokevirtual 340, 3) := dk_182 1 84 (dk_at dksX0_drift_1 0 rfl rfl)
theorem dX0_drift_25 : decode cX0_drift 25 = .ok (.aload_n 0, 1) := dk_42 (dk_at dksX0_drift_1 3 rfl rfl)
theorem dX0_drift_26 : decode cX0_drift 26 = .ok (.getfield 40, 3) := dk_180 0 40 (dk_at dksX0_drift_1 4 rfl rfl)
theorem dX0_drift_29 : decode cX0_drift 29 = .ok (.aload_n 0, 1) := dk_42 (dk_at dksX0_drift_1 7 rfl rfl)
theorem dX0_drift_30 : decode cX0_drift 30 = .ok (.getfield 40, 3) := dk_180 0 40 (dk_at dksX0_drift_1 8 rfl rfl)
theorem dX0_drift_33 : decode cX0_drift 33 = .ok (.getfield 127, 3) := dk_180 0 127 (dk_at dksX0_drift_1 11 rfl rfl)
theorem dX0_drift_36 : decode cX0_drift 36 = .ok (.i2l, 1) := dk_133 (dk_at dksX0_drift_1 14 rfl rfl)
theorem dX0_drift_37 : decode cX0_drift 37 = .ok (.ldc2_w 428, 3) := dk_20 1 172 (dk_at dksX0_drift_1 15 rfl rfl)
theorem dX0_drift_40 : decode cX0_drift 40 = .ok (.lmul, 1) := dk_105 (dk_at dksX0_drift_1 18 rfl rfl)
theorem dX0_drift_41 : decode cX0_drift 41 = .ok (.ldc2_w 430, 3) := dk_20 1 174 (dk_at dksX0_drift_1 19 rfl rfl)
theorem dX0_drift_44 : decode cX0_drift 44 = .ok (.ladd, 1) := dk_97 (dk_at dksX0_drift_1 22 rfl rfl)
theorem dX0_drift_45 : decode cX0_drift 45 = .ok (.ldc2_w 432, 3) := dk_20 1 176 (dk_at dksX0_drift_2 0 rfl rfl)
theorem dX0_drift_48 : decode cX0_drift 48 = .ok (.land, 1) := dk_127 (dk_at dksX0_drift_2 3 rfl rfl)
theorem dX0_drift_49 : decode cX0_drift 49 = .ok (.l2i, 1) := dk_136 (dk_at dksX0_drift_2 4 rfl rfl)
theorem dX0_drift_50 : decode cX0_drift 50 = .ok (.putfield 127, 3) := dk_181 0 127 (dk_at dksX0_drift_2 5 rfl rfl)
theorem dX0_drift_53 : decode cX0_drift 53 = .ok (.aload_n 0, 1) := dk_42 (dk_at dksX0_drift_2 8 rfl rfl)
theorem dX0_drift_54 : decode cX0_drift 54 = .ok (.getfield 40, 3) := dk_180 0 40 (dk_at dksX0_drift_2 9 rfl rfl)
theorem dX0_drift_57 : decode cX0_drift 57 = .ok (.getfield 127, 3) := dk_180 0 127 (dk_at dksX0_drift_2 12 rfl rfl)
theorem dX0_drift_60 : decode cX0_drift 60 = .ok (.ldc_w 434, 3) := dk_19 1 178 (dk_at dksX0_drift_2 15 rfl rfl)
theorem dX0_drift_63 : decode cX0_drift 63 = .ok (.idiv, 1) := dk_108 (dk_at dksX0_drift_2 18 rfl rfl)
theorem dX0_drift_64 : decode cX0_drift 64 = .ok (.istore_n 3, 1) := dk_62 (dk_at dksX0_drift_2 19 rfl rfl)
theorem dX0_drift_65 : decode cX0_drift 65 = .ok (.iload_n 3, 1) := dk_29 (dk_at dksX0_drift_2 20 rfl rfl)
theorem dX0_drift_66 : decode cX0_drift 66 = .ok (.bipush 8, 2) := dk_16 8 (dk_at dksX0_drift_2 21 rfl rfl)
theorem dX0_drift_68 : decode cX0_drift 68 = .ok (.idiv, 1) := dk_108 (dk_at dksX0_drift_2 23 rfl rfl)
theorem dX0_drift_69 : decode cX0_drift 69 = .ok (.istore 4, 2) := dk_54 4 (dk_at dksX0_drift_3 0 rfl rfl)
theorem dX0_drift_71 : decode cX0_drift 71 = .ok (.iload_n 3, 1) := dk_29 (dk_at dksX0_drift_3 2 rfl rfl)
theorem dX0_drift_72 : decode cX0_drift 72 = .ok (.bipush 8, 2) := dk_16 8 (dk_at dksX0_drift_3 3 rfl rfl)
theorem dX0_drift_74 : decode cX0_drift 74 = .ok (.irem, 1) := dk_112 (dk_at dksX0_drift_3 5 rfl rfl)
theorem dX0_drift_75 : decode cX0_drift 75 = .ok (.ifCond .ne 27, 3) := dk_154 0 27 (dk_at dksX0_drift_3 6 rfl rfl)
theorem dX0_drift_78 : decode cX0_drift 78 = .ok (.aload_n 0, 1) := dk_42 (dk_at dksX0_drift_3 9 rfl rfl)
theorem dX0_drift_79 : decode cX0_drift 79 = .ok (.getfield 40, 3) := dk_180 0 40 (dk_at dksX0_drift_3 10 rfl rfl)
theorem dX0_drift_82 : decode cX0_drift 82 = .ok (.aload_n 0, 1) := dk_42 (dk_at dksX0_drift_3 13 rfl rfl)
theorem dX0_drift_83 : decode cX0_drift 83 = .ok (.getfield 26, 3) := dk_180 0 26 (dk_at dksX0_drift_3 14 rfl rfl)
theorem dX0_drift_86 : decode cX0_drift 86 = .ok (.getfield 171, 3) := dk_180 0 171 (dk_at dksX0_drift_3 17 rfl rfl)
theorem dX0_drift_89 : decode cX0_drift 89 = .ok (.iload 4, 2) := dk_21 4 (dk_at dksX0_drift_3 20 rfl rfl)
theorem dX0_drift_91 : decode cX0_drift 91 = .ok (.sipush 2576, 3) := dk_17 10 16 (dk_at dksX0_drift_4 0 rfl rfl)
theorem dX0_drift_94 : decode cX0_drift 94 = .ok (.irem, 1) := dk_112 (dk_at dksX0_drift_4 3 rfl rfl)
theorem dX0_drift_95 : decode cX0_drift 95 = .ok (.iaload, 1) := dk_46 (dk_at dksX0_drift_4 4 rfl rfl)
theorem dX0_drift_96 : decode cX0_drift 96 = .ok (.putfield 123, 3) := dk_181 0 123 (dk_at dksX0_drift_4 5 rfl rfl)
theorem dX0_drift_99 : decode cX0_drift 99 = .ok (.goto 40, 3) := dk_167 0 40 (dk_at dksX0_drift_4 8 rfl rfl)
theorem dX0_drift_102 : decode cX0_drift 102 = .ok (.aload_n 0, 1) := dk_42 (dk_at dksX0_drift_4 11 rfl rfl)
theorem dX0_drift_103 : decode cX0_drift 103 = .ok (.getfield 40, 3) := dk_180 0 40 (dk_at dksX0_drift_4 12 rfl rfl)
theorem dX0_drift_106 : decode cX0_drift 106 = .ok (.getfield 104, 3) := dk_180 0 104 (dk_at dksX0_drift_4 15 rfl rfl)
theorem dX0_drift_109 : decode cX0_drift 109 = .ok (.iload_n 3, 1) := dk_29 (dk_at dksX0_drift_4 18 rfl rfl)
theorem dX0_drift_110 : decode cX0_drift 110 = .ok (.iconst 4, 1) := dk_7 (dk_at dksX0_drift_4 19 rfl rfl)
theorem dX0_drift_111 : decode cX0_drift 111 = .ok (.irem, 1) := dk_112 (dk_at dksX0_drift_4 20 rfl rfl)
theorem dX0_drift_112 : decode cX0_drift 112 = .ok (.aaload, 1) := dk_50 (dk_at dksX0_drift_4 21 rfl rfl)
theorem dX0_drift_113 : decode cX0_drift 113 = .ok (.new 115, 3) := dk_187 0 115 (dk_at dksX0_drift_5 0 rfl rfl)
theorem dX0_drift_116 : decode cX0_drift 116 = .ok (.dup, 1) := dk_89 (dk_at dksX0_drift_5 3 rfl rfl)
theorem dX0_drift_117 : decode cX0_drift 117 = .ok (.invokespecial 289, 3) := dk_183 1 33 (dk_at dksX0_drift_5 4 rfl rfl)
theorem dX0_drift_120 : decode cX0_drift 120 = .ok (.aload_n 0, 1) := dk_42 (dk_at dksX0_drift_5 7 rfl rfl)
theorem dX0_drift_121 : decode cX0_drift 121 = .ok (.getfield 40, 3) := dk_180 0 40 (dk_at dksX0_drift_5 8 rfl rfl)
theorem dX0_drift_124 : decode cX0_drift 124 = .ok (.getfield 104, 3) := dk_180 0 104 (dk_at dksX0_drift_5 11 rfl rfl)
theorem dX0_drift_127 : decode cX0_drift 127 = .ok (.iload 4, 2) := dk_21 4 (dk_at dksX0_drift_5 14 rfl rfl)
theorem dX0_drift_129 : decode cX0_drift 129 = .ok (.iconst 5, 1) := dk_8 (dk_at dksX0_drift_5 16 rfl rfl)
theorem dX0_drift_130 : decode cX0_drift 130 = .ok (.irem, 1) := dk_112 (dk_at dksX0_drift_5 17 rfl rfl)
theorem dX0_drift_131 : decode cX0_drift 131 = .ok (.aaload, 1) := dk_50 (dk_at dksX0_drift_5 18 rfl rfl)
theorem dX0_drift_132 : decode cX0_drift 132 = .ok (.invokevirtual 114, 3) := dk_182 0 114 (dk_at dksX0_drift_5 19 rfl rfl)
theorem dX0_drift_135 : decode cX0_drift 135 = .ok (.invokevirtual 324, 3) := dk_182 1 68 (dk_at dksX0_drift_6 0 rfl rfl)
theorem dX0_drift_138 : decode cX0_drift 138 = .ok (.pop, 1) := dk_87 (dk_at dksX0_drift_6 3 rfl rfl)
theorem dX0_drift_139 : decode cX0_drift 139 = .ok (.iinc 2 1, 3) := dk_132 2 1 (dk_at dksX0_drift_6 4 rfl rfl)
theorem dX0_drift_142 : decode cX0_drift 142 = .ok (.goto (-126), 3) := dk_167 255 130 (dk_at dksX0_drift_6 7 rfl rfl)
theorem dX0_drift_145 : decode cX0_drift 145 = .ok (.aload_n 0, 1) := dk_42 (dk_at dksX0_drift_6 10 rfl rfl)
theorem dX0_drift_146 : decode cX0_drift 146 = .ok (.getfield 40, 3) := dk_180 0 40 (dk_at dksX0_drift_6 11 rfl rfl)
theorem dX0_drift_149 : decode cX0_drift 149 = .ok (.getfield 123, 3) := dk_180 0 123 (dk_at dksX0_drift_6 14 rfl rfl)
theorem dX0_drift_152 : decode cX0_drift 152 = .ok (.ireturn, 1) := dk_172 (dk_at dksX0_drift_6 17 rfl rfl)
abbrev cX0_undo : ByteArray := prog_1_method_51_code
def yX0_undo : MethodName := ⟨RX0, "undo", "()I"⟩
def dkwX0_undo_1 : List UInt8 := [42, 180, 0, 75, 42, 180, 1, 157, 50, 182, 1, 166, 42, 180, 1, 157, 172]
abbrev dktX0_undo_1 : List UInt8 := dkwX0_undo_1 ++ []
def dkwX0_undo_0 : List UInt8 := [42, 180, 1, 157, 154, 0, 6, 16, 252, 172, 42, 89, 180, 1, 157, 4, 100, 181, 1, 157, 42, 180, 0, 40]
abbrev dktX0_undo_0 : List UInt8 := dkwX0_undo_0 ++ dktX0_undo_1
theorem dksX0_undo_0 : cX0_undo.data.toList.drop 0 = dktX0_undo_0 := by decide +kernel
theorem dksX0_undo_1 : cX0_undo.data.toList.drop 24 = dktX0_undo_1 := dk_seg dksX0_undo_0 24 rfl rfl
theorem dX0_undo_0 : decode cX0_undo 0 = .ok (.aload_n 0, 1) := dk_42 (dk_at dksX0_undo_0 0 rfl rfl)
theorem dX0_undo_1 : decode cX0_undo 1 = .ok (.getfield 413, 3) := dk_180 1 157 (dk_at dksX0_undo_0 1 rfl rfl)
theorem dX0_undo_4 : decode cX0_undo 4 = .ok (.ifCond .ne 6, 3) := dk_154 0 6 (dk_at dksX0_undo_0 4 rfl rfl)
theorem dX0_undo_7 : decode cX0_undo 7 = .ok (.bipush (-4), 2) := dk_16 252 (dk_at dksX0_undo_0 7 rfl rfl)
theorem dX0_undo_9 : decode cX0_undo 9 = .ok (.ireturn, 1) := dk_172 (dk_at dksX0_undo_0 9 rfl rfl)
theorem dX0_undo_10 : decode cX0_undo 10 = .ok (.aload_n 0, 1) := dk_42 (dk_at dksX0_undo_0 10 rfl rfl)
theorem dX0_undo_11 : decode cX0_undo 11 = .ok (.dup, 1) := dk_89 (dk_at dksX0_undo_0 11 rfl rfl)
theorem dX0_undo_12 : decode cX0_undo 12 = .ok (.getfield 413, 3) := dk_180 1 157 (dk_at dksX0_undo_0 12 rfl rfl)
theorem dX0_undo_15 : decode cX0_undo 15 = .ok (.iconst 1, 1) := dk_4 (dk_at dksX0_undo_0 15 rfl rfl)
theorem dX0_undo_16 : decode cX0_undo 16 = .ok (.isub, 1) := dk_100 (dk_at dksX0_undo_0 16 rfl rfl)
theorem dX0_undo_17 : decode cX0_undo 17 = .ok (.putfield 413, 3) := dk_181 1 157 (dk_at dksX0_undo_0 17 rfl rfl)
theorem dX0_undo_20 : decode cX0_undo 20 = .ok (.aload_n 0, 1) := dk_42 (dk_at dksX0_undo_0 20 rfl rfl)
theorem dX0_undo_21 : decode cX0_undo 21 = .ok (.getfield 40, 3) := dk_180 0 40 (dk_at dksX0_undo_0 21 rfl rfl)
theorem dX0_undo_24 : decode cX0_undo 24 = .ok (.aload_n 0, 1) := dk_42 (dk_at dksX0_undo_1 0 rfl rfl)
theorem dX0_undo_25 : decode cX0_undo 25 = .ok (.getfield 75, 3) := dk_180 0 75 (dk_at dksX0_undo_1 1 rfl rfl)
theorem dX0_undo_28 : decode cX0_undo 28 = .ok (.aload_n 0, 1) := dk_42 (dk_at dksX0_undo_1 4 rfl rfl)
theorem dX0_undo_29 : decode cX0_undo 29 = .ok (.getfield 413, 3) := dk_180 1 157 (dk_at dksX0_undo_1 5 rfl rfl)
theorem dX0_undo_32 : decode cX0_undo 32 = .ok (.aaload, 1) := dk_50 (dk_at dksX0_undo_1 8 rfl rfl)
theorem dX0_undo_33 : decode cX0_undo 33 = .ok (.invokevirtual 422, 3) := dk_182 1 166 (dk_at dksX0_undo_1 9 rfl rfl)
theorem dX0_undo_36 : decode cX0_undo 36 = .ok (.aload_n 0, 1) := dk_42 (dk_at dksX0_undo_1 12 rfl rfl)
theorem dX0_undo_37 : decode cX0_undo 37 = .ok (.getfield 413, 3) := dk_180 1 157 (dk_at dksX0_undo_1 13 rfl rfl)
theorem dX0_undo_40 : decode cX0_undo 40 = .ok (.ireturn, 1) := dk_172 (dk_at dksX0_undo_1 16 rfl rfl)
abbrev cX0_seed : ByteArray := prog_1_method_52_code
def yX0_seed : MethodName := ⟨RX0, "seed", "(I)I"⟩
def dkwX0_seed_0 : List UInt8 := [27, 156, 0, 5, 2, 172, 42, 180, 0, 40, 180, 0, 127, 61, 42, 180, 0, 40, 27, 181, 0, 127, 28, 172]
abbrev dktX0_seed_0 : List UInt8 := dkwX0_seed_0 ++ []
theorem dksX0_seed_0 : cX0_seed.data.toList.drop 0 = dktX0_seed_0 := by decide +kernel
theorem dX0_seed_0 : decode cX0_seed 0 = .ok (.iload_n 1, 1) := dk_27 (dk_at dksX0_seed_0 0 rfl rfl)
theorem dX0_seed_1 : decode cX0_seed 1 = .ok (.ifCond .ge 5, 3) := dk_156 0 5 (dk_at dksX0_seed_0 1 rfl rfl)
theorem dX0_seed_4 : decode cX0_seed 4 = .ok (.iconst (-1), 1) := dk_2 (dk_at dksX0_seed_0 4 rfl rfl)
theorem dX0_seed_5 : decode cX0_seed 5 = .ok (.ireturn, 1) := dk_172 (dk_at dksX0_seed_0 5 rfl rfl)
theorem dX0_seed_6 : decode cX0_seed 6 = .ok (.aload_n 0, 1) := dk_42 (dk_at dksX0_seed_0 6 rfl rfl)
theorem dX0_seed_7 : decode cX0_seed 7 = .ok (.getfield 40, 3) := dk_180 0 40 (dk_at dksX0_seed_0 7 rfl rfl)
theorem dX0_seed_10 : decode cX0_seed 10 = .ok (.getfield 127, 3) := dk_180 0 127 (dk_at dksX0_seed_0 10 rfl rfl)
theorem dX0_seed_13 : decode cX0_seed 13 = .ok (.istore_n 2, 1) := dk_61 (dk_at dksX0_seed_0 13 rfl rfl)
theorem dX0_seed_14 : decode cX0_seed 14 = .ok (.aload_n 0, 1) := dk_42 (dk_at dksX0_seed_0 14 rfl rfl)
theorem dX0_seed_15 : decode cX0_seed 15 = .ok (.getfield 40, 3) := dk_180 0 40 (dk_at dksX0_seed_0 15 rfl rfl)
theorem dX0_seed_18 : decode cX0_seed 18 = .ok (.iload_n 1, 1) := dk_27 (dk_at dksX0_seed_0 18 rfl rfl)
theorem dX0_seed_19 : decode cX0_seed 19 = .ok (.putfield 127, 3) := dk_181 0 127 (dk_at dksX0_seed_0 19 rfl rfl)
theorem dX0_seed_22 : decode cX0_seed 22 = .ok (.iload_n 2, 1) := dk_28 (dk_at dksX0_seed_0 22 rfl rfl)
theorem dX0_seed_23 : decode cX0_seed 23 = .ok (.ireturn, 1) := dk_172 (dk_at dksX0_seed_0 23 rfl rfl)
abbrev cX0_count : ByteArray := prog_1_method_54_code
def yX0_count : MethodName := ⟨RX0, "count", "(I)I"⟩
def dkwX0_count_3 : List UInt8 := [42, 180, 1, 182, 153, 0, 7, 4, 167, 0, 8, 3, 167, 0, 4, 2, 172]
abbrev dktX0_count_3 : List UInt8 := dkwX0_count_3 ++ []
def dkwX0_count_2 : List UInt8 := [42, 180, 0, 40, 180, 0, 123, 167, 0, 33, 42, 180, 1, 157, 167, 0, 26, 42, 182, 1, 179, 167, 0, 19]
abbrev dktX0_count_2 : List UInt8 := dkwX0_count_2 ++ dktX0_count_3
def dkwX0_count_1 : List UInt8 := [170, 0, 0, 0, 0, 0, 70, 0, 0, 0, 0, 0, 0, 0, 3, 0, 0, 0, 31, 0, 0, 0, 41, 0, 0, 0, 48, 0, 0, 0, 55]
abbrev dktX0_count_1 : List UInt8 := dkwX0_count_1 ++ dktX0_count_2
def dkwX0_count_0 : List UInt8 := [27]
abbrev dktX0_count_0 : List UInt8 := dkwX0_count_0 ++ dktX0_count_1
theorem dksX0_count_0 : cX0_count.data.toList.drop 0 = dktX0_count_0 := by decide +kernel
theorem dksX0_count_1 : cX0_count.data.toList.drop 1 = dktX0_count_1 := dk_seg dksX0_count_0 1 rfl rfl
theorem dksX0_count_2 : cX0_count.data.toList.drop 32 = dktX0_count_2 := dk_seg dksX0_count_1 31 rfl rfl
theorem dksX0_count_3 : cX0_count.data.toList.drop 56 = dktX0_count_3 := dk_seg dksX0_count_2 24 rfl rfl
theorem dX0_count_0 : decode cX0_count 0 = .ok (.iload_n 1, 1) := dk_27 (dk_at dksX0_count_0 0 rfl rfl)
theorem dX0_count_1 : decode cX0_count 1 = .ok (.tableswitch 70 0 3 #[31, 41, 48, 55], 31) := by decide +kernel
theorem dX0_count_32 : decode cX0_count 32 = .ok (.aload_n 0, 1) := dk_42 (dk_at dksX0_count_2 0 rfl rfl)
theorem dX0_count_33 : decode cX0_count 33 = .ok (.getfield 40, 3) := dk_180 0 40 (dk_at dksX0_count_2 1 rfl rfl)
theorem dX0_count_36 : decode cX0_count 36 = .ok (.getfield 123, 3) := dk_180 0 123 (dk_at dksX0_count_2 4 rfl rfl)
theorem dX0_count_39 : decode cX0_count 39 = .ok (.goto 33, 3) := dk_167 0 33 (dk_at dksX0_count_2 7 rfl rfl)
theorem dX0_count_42 : decode cX0_count 42 = .ok (.aload_n 0, 1) := dk_42 (dk_at dksX0_count_2 10 rfl rfl)
theorem dX0_count_43 : decode cX0_count 43 = .ok (.getfield 413, 3) := dk_180 1 157 (dk_at dksX0_count_2 11 rfl rfl)
theorem dX0_count_46 : decode cX0_count 46 = .ok (.goto 26, 3) := dk_167 0 26 (dk_at dksX0_count_2 14 rfl rfl)
theorem dX0_count_49 : decode cX0_count 49 = .ok (.aload_n 0, 1) := dk_42 (dk_at dksX0_count_2 17 rfl rfl)
theorem dX0_count_50 : decode cX0_count 50 = .ok (.invokevirtual 435, 3) := dk_182 1 179 (dk_at dksX0_count_2 18 rfl rfl)
theorem dX0_count_53 : decode cX0_count 53 = .ok (.goto 19, 3) := dk_167 0 19 (dk_at dksX0_count_2 21 rfl rfl)
theorem dX0_count_56 : decode cX0_count 56 = .ok (.aload_n 0, 1) := dk_42 (dk_at dksX0_count_3 0 rfl rfl)
theorem dX0_count_57 : decode cX0_count 57 = .ok (.getfield 438, 3) := dk_180 1 182 (dk_at dksX0_count_3 1 rfl rfl)
theorem dX0_count_60 : decode cX0_count 60 = .ok (.ifCond .eq 7, 3) := dk_153 0 7 (dk_at dksX0_count_3 4 rfl rfl)
theorem dX0_count_63 : decode cX0_count 63 = .ok (.iconst 1, 1) := dk_4 (dk_at dksX0_count_3 7 rfl rfl)
theorem dX0_count_64 : decode cX0_count 64 = .ok (.goto 8, 3) := dk_167 0 8 (dk_at dksX0_count_3 8 rfl rfl)
theorem dX0_count_67 : decode cX0_count 67 = .ok (.iconst 0, 1) := dk_3 (dk_at dksX0_count_3 11 rfl rfl)
theorem dX0_count_68 : decode cX0_count 68 = .ok (.goto 4, 3) := dk_167 0 4 (dk_at dksX0_count_3 12 rfl rfl)
theorem dX0_count_71 : decode cX0_count 71 = .ok (.iconst (-1), 1) := dk_2 (dk_at dksX0_count_3 15 rfl rfl)
theorem dX0_count_72 : decode cX0_count 72 = .ok (.ireturn, 1) := dk_172 (dk_at dksX0_count_3 16 rfl rfl)
abbrev cX0_keeping : ByteArray := prog_1_method_53_code
def yX0_keeping : MethodName := ⟨RX0, "keeping", "()I"⟩
def dkwX0_keeping_1 : List UInt8 := [3, 128, 60, 132, 2, 1, 167, 255, 230, 27, 172]
abbrev dktX0_keeping_1 : List UInt8 := dkwX0_keeping_1 ++ []
def dkwX0_keeping_0 : List UInt8 := [3, 60, 3, 61, 28, 8, 162, 0, 27, 27, 42, 28, 182, 0, 200, 153, 0, 9, 4, 28, 120, 167, 0, 4]
abbrev dktX0_keeping_0 : List UInt8 := dkwX0_keeping_0 ++ dktX0_keeping_1
theorem dksX0_keeping_0 : cX0_keeping.data.toList.drop 0 = dktX0_keeping_0 := by decide +kernel
theorem dksX0_keeping_1 : cX0_keeping.data.toList.drop 24 = dktX0_keeping_1 := dk_seg dksX0_keeping_0 24 rfl rfl
theorem dX0_keeping_0 : decode cX0_keeping 0 = .ok (.iconst 0, 1) := dk_3 (dk_at dksX0_keeping_0 0 rfl rfl)
theorem dX0_keeping_1 : decode cX0_keeping 1 = .ok (.istore_n 1, 1) := dk_60 (dk_at dksX0_keeping_0 1 rfl rfl)
theorem dX0_keeping_2 : decode cX0_keeping 2 = .ok (.iconst 0, 1) := dk_3 (dk_at dksX0_keeping_0 2 rfl rfl)
theorem dX0_keeping_3 : decode cX0_keeping 3 = .ok (.istore_n 2, 1) := dk_61 (dk_at dksX0_keeping_0 3 rfl rfl)
theorem dX0_keeping_4 : decode cX0_keeping 4 = .ok (.iload_n 2, 1) := dk_28 (dk_at dksX0_keeping_0 4 rfl rfl)
theorem dX0_keeping_5 : decode cX0_keeping 5 = .ok (.iconst 5, 1) := dk_8 (dk_at dksX0_keeping_0 5 rfl rfl)
theorem dX0_keeping_6 : decode cX0_keeping 6 = .ok (.if_icmp .ge 27, 3) := dk_162 0 27 (dk_at dksX0_keeping_0 6 rfl rfl)
theorem dX0_keeping_9 : decode cX0_keeping 9 = .ok (.iload_n 1, 1) := dk_27 (dk_at dksX0_keeping_0 9 rfl rfl)
theorem dX0_keeping_10 : decode cX0_keeping 10 = .ok (.aload_n 0, 1) := dk_42 (dk_at dksX0_keeping_0 10 rfl rfl)
theorem dX0_keeping_11 : decode cX0_keeping 11 = .ok (.iload_n 2, 1) := dk_28 (dk_at dksX0_keeping_0 11 rfl rfl)
theorem dX0_keeping_12 : decode cX0_keeping 12 = .ok (.invokevirtual 200, 3) := dk_182 0 200 (dk_at dksX0_keeping_0 12 rfl rfl)
theorem dX0_keeping_15 : decode cX0_keeping 15 = .ok (.ifCond .eq 9, 3) := dk_153 0 9 (dk_at dksX0_keeping_0 15 rfl rfl)
theorem dX0_keeping_18 : decode cX0_keeping 18 = .ok (.iconst 1, 1) := dk_4 (dk_at dksX0_keeping_0 18 rfl rfl)
theorem dX0_keeping_19 : decode cX0_keeping 19 = .ok (.iload_n 2, 1) := dk_28 (dk_at dksX0_keeping_0 19 rfl rfl)
theorem dX0_keeping_20 : decode cX0_keeping 20 = .ok (.ishl, 1) := dk_120 (dk_at dksX0_keeping_0 20 rfl rfl)
theorem dX0_keeping_21 : decode cX0_keeping 21 = .ok (.goto 4, 3) := dk_167 0 4 (dk_at dksX0_keeping_0 21 rfl rfl)
theorem dX0_keeping_24 : decode cX0_keeping 24 = .ok (.iconst 0, 1) := dk_3 (dk_at dksX0_keeping_1 0 rfl rfl)
theorem dX0_keeping_25 : decode cX0_keeping 25 = .ok (.ior, 1) := dk_128 (dk_at dksX0_keeping_1 1 rfl rfl)
theorem dX0_keeping_26 : decode cX0_keeping 26 = .ok (.istore_n 1, 1) := dk_60 (dk_at dksX0_keeping_1 2 rfl rfl)
theorem dX0_keeping_27 : decode cX0_keeping 27 = .ok (.iinc 2 1, 3) := dk_132 2 1 (dk_at dksX0_keeping_1 3 rfl rfl)
theorem dX0_keeping_30 : decode cX0_keeping 30 = .ok (.goto (-26), 3) := dk_167 255 230 (dk_at dksX0_keeping_1 6 rfl rfl)
theorem dX0_keeping_33 : decode cX0_keeping 33 = .ok (.iload_n 1, 1) := dk_27 (dk_at dksX0_keeping_1 9 rfl rfl)
theorem dX0_keeping_34 : decode cX0_keeping 34 = .ok (.ireturn, 1) := dk_172 (dk_at dksX0_keeping_1 10 rfl rfl)
abbrev cX0_image : ByteArray := prog_1_method_55_code
def yX0_image : MethodName := ⟨RX0, "image", "()I"⟩
def dkwX0_image_2 : List UInt8 := [180, 1, 157, 181, 1, 186, 42, 4, 181, 1, 182, 4, 172]
abbrev dktX0_image_2 : List UInt8 := dkwX0_image_2 ++ []
def dkwX0_image_1 : List UInt8 := [180, 0, 82, 27, 50, 42, 180, 0, 75, 27, 50, 182, 1, 166, 132, 1, 1, 167, 255, 230, 42, 42]
abbrev dktX0_image_1 : List UInt8 := dkwX0_image_1 ++ dktX0_image_2
def dkwX0_image_0 : List UInt8 := [42, 180, 0, 79, 42, 180, 0, 40, 182, 1, 166, 3, 60, 27, 42, 180, 1, 157, 162, 0, 24, 42]
abbrev dktX0_image_0 : List UInt8 := dkwX0_image_0 ++ dktX0_image_1
theorem dksX0_image_0 : cX0_image.data.toList.drop 0 = dktX0_image_0 := by decide +kernel
theorem dksX0_image_1 : cX0_image.data.toList.drop 22 = dktX0_image_1 := dk_seg dksX0_image_0 22 rfl rfl
theorem dksX0_image_2 : cX0_image.data.toList.drop 44 = dktX0_image_2 := dk_seg dksX0_image_1 22 rfl rfl
theorem dX0_image_0 : decode cX0_image 0 = .ok (.aload_n 0, 1) := dk_42 (dk_at dksX0_image_0 0 rfl rfl)
theorem dX0_image_1 : decode cX0_image 1 = .ok (.getfield 79, 3) := dk_180 0 79 (dk_at dksX0_image_0 1 rfl rfl)
theorem dX0_image_4 : decode cX0_image 4 = .ok (.aload_n 0, 1) := dk_42 (dk_at dksX0_image_0 4 rfl rfl)
theorem dX0_image_5 : decode cX0_image 5 = .ok (.getfield 40, 3) := dk_180 0 40 (dk_at dksX0_image_0 5 rfl rfl)
theorem dX0_image_8 : decode cX0_image 8 = .ok (.invokevirtual 422, 3) := dk_182 1 166 (dk_at dksX0_image_0 8 rfl rfl)
theorem dX0_image_11 : decode cX0_image 11 = .ok (.iconst 0, 1) := dk_3 (dk_at dksX0_image_0 11 rfl rfl)
theorem dX0_image_12 : decode cX0_image 12 = .ok (.istore_n 1, 1) := dk_60 (dk_at dksX0_image_0 12 rfl rfl)
theorem dX0_image_13 : decode cX0_image 13 = .ok (.iload_n 1, 1) := dk_27 (dk_at dksX0_image_0 13 rfl rfl)
theorem dX0_image_14 : decode cX0_image 14 = .ok (.aload_n 0, 1) := dk_42 (dk_at dksX0_image_0 14 rfl rfl)
theorem dX0_image_15 : decode cX0_image 15 = .ok (.getfield 413, 3) := dk_180 1 157 (dk_at dksX0_image_0 15 rfl rfl)
theorem dX0_image_18 : decode cX0_image 18 = .ok (.if_icmp .ge 24, 3) := dk_162 0 24 (dk_at dksX0_image_0 18 rfl rfl)
theorem dX0_image_21 : decode cX0_image 21 = .ok (.aload_n 0, 1) := dk_42 (dk_at dksX0_image_0 21 rfl rfl)
theorem dX0_image_22 : decode cX0_image 22 = .ok (.getfield 82, 3) := dk_180 0 82 (dk_at dksX0_image_1 0 rfl rfl)
theorem dX0_image_25 : decode cX0_image 25 = .ok (.iload_n 1, 1) := dk_27 (dk_at dksX0_image_1 3 rfl rfl)
theorem dX0_image_26 : decode cX0_image 26 = .ok (.aaload, 1) := dk_50 (dk_at dksX0_image_1 4 rfl rfl)
theorem dX0_image_27 : decode cX0_image 27 = .ok (.aload_n 0, 1) := dk_42 (dk_at dksX0_image_1 5 rfl rfl)
theorem dX0_image_28 : decode cX0_image 28 = .ok (.getfield 75, 3) := dk_180 0 75 (dk_at dksX0_image_1 6 rfl rfl)
theorem dX0_image_31 : decode cX0_image 31 = .ok (.iload_n 1, 1) := dk_27 (dk_at dksX0_image_1 9 rfl rfl)
theorem dX0_image_32 : decode cX0_image 32 = .ok (.aaload, 1) := dk_50 (dk_at dksX0_image_1 10 rfl rfl)
theorem dX0_image_33 : decode cX0_image 33 = .ok (.invokevirtual 422, 3) := dk_182 1 166 (dk_at dksX0_image_1 11 rfl rfl)
theorem dX0_image_36 : decode cX0_image 36 = .ok (.iinc 1 1, 3) := dk_132 1 1 (dk_at dksX0_image_1 14 rfl rfl)
theorem dX0_image_39 : decode cX0_image 39 = .ok (.goto (-26), 3) := dk_167 255 230 (dk_at dksX0_image_1 17 rfl rfl)
theorem dX0_image_42 : decode cX0_image 42 = .ok (.aload_n 0, 1) := dk_42 (dk_at dksX0_image_1 20 rfl rfl)
theorem dX0_image_43 : decode cX0_image 43 = .ok (.aload_n 0, 1) := dk_42 (dk_at dksX0_image_1 21 rfl rfl)
theorem dX0_image_44 : decode cX0_image 44 = .ok (.getfield 413, 3) := dk_180 1 157 (dk_at dksX0_image_2 0 rfl rfl)
theorem dX0_image_47 : decode cX0_image 47 = .ok (.putfield 442, 3) := dk_181 1 186 (dk_at dksX0_image_2 3 rfl rfl)
theorem dX0_image_50 : decode cX0_image 50 = .ok (.aload_n 0, 1) := dk_42 (dk_at dksX0_image_2 6 rfl rfl)
theorem dX0_image_51 : decode cX0_image 51 = .ok (.iconst 1, 1) := dk_4 (dk_at dksX0_image_2 7 rfl rfl)
theorem dX0_image_52 : decode cX0_image 52 = .ok (.putfield 438, 3) := dk_181 1 182 (dk_at dksX0_image_2 8 rfl rfl)
theorem dX0_image_55 : decode cX0_image 55 = .ok (.iconst 1, 1) := dk_4 (dk_at dksX0_image_2 11 rfl rfl)
theorem dX0_image_56 : decode cX0_image 56 = .ok (.ireturn, 1) := dk_172 (dk_at dksX0_image_2 12 rfl rfl)
abbrev cX0_restore : ByteArray := prog_1_method_56_code
def yX0_restore : MethodName := ⟨RX0, "restore", "()I"⟩
def dkwX0_restore_2 : List UInt8 := [132, 1, 1, 167, 255, 230, 42, 42, 180, 1, 186, 181, 1, 157, 4, 172]
abbrev dktX0_restore_2 : List UInt8 := dkwX0_restore_2 ++ []
def dkwX0_restore_1 : List UInt8 := [42, 180, 1, 186, 162, 0, 24, 42, 180, 0, 75, 27, 50, 42, 180, 0, 82, 27, 50, 182, 1, 166]
abbrev dktX0_restore_1 : List UInt8 := dkwX0_restore_1 ++ dktX0_restore_2
def dkwX0_restore_0 : List UInt8 := [42, 180, 1, 182, 154, 0, 6, 16, 252, 172, 42, 180, 0, 40, 42, 180, 0, 79, 182, 1, 166, 3, 60, 27]
abbrev dktX0_restore_0 : List UInt8 := dkwX0_restore_0 ++ dktX0_restore_1
theorem dksX0_restore_0 : cX0_restore.data.toList.drop 0 = dktX0_restore_0 := by decide +kernel
theorem dksX0_restore_1 : cX0_restore.data.toList.drop 24 = dktX0_restore_1 := dk_seg dksX0_restore_0 24 rfl rfl
theorem dksX0_restore_2 : cX0_restore.data.toList.drop 46 = dktX0_restore_2 := dk_seg dksX0_restore_1 22 rfl rfl
theorem dX0_restore_0 : decode cX0_restore 0 = .ok (.aload_n 0, 1) := dk_42 (dk_at dksX0_restore_0 0 rfl rfl)
theorem dX0_restore_1 : decode cX0_restore 1 = .ok (.getfield 438, 3) := dk_180 1 182 (dk_at dksX0_restore_0 1 rfl rfl)
theorem dX0_restore_4 : decode cX0_restore 4 = .ok (.ifCond .ne 6, 3) := dk_154 0 6 (dk_at dksX0_restore_0 4 rfl rfl)
theorem dX0_restore_7 : decode cX0_restore 7 = .ok (.bipush (-4), 2) := dk_16 252 (dk_at dksX0_restore_0 7 rfl rfl)
theorem dX0_restore_9 : decode cX0_restore 9 = .ok (.ireturn, 1) := dk_172 (dk_at dksX0_restore_0 9 rfl rfl)
theorem dX0_restore_10 : decode cX0_restore 10 = .ok (.aload_n 0, 1) := dk_42 (dk_at dksX0_restore_0 10 rfl rfl)
theorem dX0_restore_11 : decode cX0_restore 11 = .ok (.getfield 40, 3) := dk_180 0 40 (dk_at dksX0_restore_0 11 rfl rfl)
theorem dX0_restore_14 : decode cX0_restore 14 = .ok (.aload_n 0, 1) := dk_42 (dk_at dksX0_restore_0 14 rfl rfl)
theorem dX0_restore_15 : decode cX0_restore 15 = .ok (.getfield 79, 3) := dk_180 0 79 (dk_at dksX0_restore_0 15 rfl rfl)
theorem dX0_restore_18 : decode cX0_restore 18 = .ok (.invokevirtual 422, 3) := dk_182 1 166 (dk_at dksX0_restore_0 18 rfl rfl)
theorem dX0_restore_21 : decode cX0_restore 21 = .ok (.iconst 0, 1) := dk_3 (dk_at dksX0_restore_0 21 rfl rfl)
theorem dX0_restore_22 : decode cX0_restore 22 = .ok (.istore_n 1, 1) := dk_60 (dk_at dksX0_restore_0 22 rfl rfl)
theorem dX0_restore_23 : decode cX0_restore 23 = .ok (.iload_n 1, 1) := dk_27 (dk_at dksX0_restore_0 23 rfl rfl)
theorem dX0_restore_24 : decode cX0_restore 24 = .ok (.aload_n 0, 1) := dk_42 (dk_at dksX0_restore_1 0 rfl rfl)
theorem dX0_restore_25 : decode cX0_restore 25 = .ok (.getfield 442, 3) := dk_180 1 186 (dk_at dksX0_restore_1 1 rfl rfl)
theorem dX0_restore_28 : decode cX0_restore 28 = .ok (.if_icmp .ge 24, 3) := dk_162 0 24 (dk_at dksX0_restore_1 4 rfl rfl)
theorem dX0_restore_31 : decode cX0_restore 31 = .ok (.aload_n 0, 1) := dk_42 (dk_at dksX0_restore_1 7 rfl rfl)
theorem dX0_restore_32 : decode cX0_restore 32 = .ok (.getfield 75, 3) := dk_180 0 75 (dk_at dksX0_restore_1 8 rfl rfl)
theorem dX0_restore_35 : decode cX0_restore 35 = .ok (.iload_n 1, 1) := dk_27 (dk_at dksX0_restore_1 11 rfl rfl)
theorem dX0_restore_36 : decode cX0_restore 36 = .ok (.aaload, 1) := dk_50 (dk_at dksX0_restore_1 12 rfl rfl)
theorem dX0_restore_37 : decode cX0_restore 37 = .ok (.aload_n 0, 1) := dk_42 (dk_at dksX0_restore_1 13 rfl rfl)
theorem dX0_restore_38 : decode cX0_restore 38 = .ok (.getfield 82, 3) := dk_180 0 82 (dk_at dksX0_restore_1 14 rfl rfl)
theorem dX0_restore_41 : decode cX0_restore 41 = .ok (.iload_n 1, 1) := dk_27 (dk_at dksX0_restore_1 17 rfl rfl)
theorem dX0_restore_42 : decode cX0_restore 42 = .ok (.aaload, 1) := dk_50 (dk_at dksX0_restore_1 18 rfl rfl)
theorem dX0_restore_43 : decode cX0_restore 43 = .ok (.invokevirtual 422, 3) := dk_182 1 166 (dk_at dksX0_restore_1 19 rfl rfl)
theorem dX0_restore_46 : decode cX0_restore 46 = .ok (.iinc 1 1, 3) := dk_132 1 1 (dk_at dksX0_restore_2 0 rfl rfl)
theorem dX0_restore_49 : decode cX0_restore 49 = .ok (.goto (-26), 3) := dk_167 255 230 (dk_at dksX0_restore_2 3 rfl rfl)
theorem dX0_restore_52 : decode cX0_restore 52 = .ok (.aload_n 0, 1) := dk_42 (dk_at dksX0_restore_2 6 rfl rfl)
theorem dX0_restore_53 : decode cX0_restore 53 = .ok (.aload_n 0, 1) := dk_42 (dk_at dksX0_restore_2 7 rfl rfl)
theorem dX0_restore_54 : decode cX0_restore 54 = .ok (.getfield 442, 3) := dk_180 1 186 (dk_at dksX0_restore_2 8 rfl rfl)
theorem dX0_restore_57 : decode cX0_restore 57 = .ok (.putfield 413, 3) := dk_181 1 157 (dk_at dksX0_restore_2 11 rfl rfl)
theorem dX0_restore_60 : decode cX0_restore 60 = .ok (.iconst 1, 1) := dk_4 (dk_at dksX0_restore_2 14 rfl rfl)
theorem dX0_restore_61 : decode cX0_restore 61 = .ok (.ireturn, 1) := dk_172 (dk_at dksX0_restore_2 15 rfl rfl)
abbrev cX0_retrace : ByteArray := prog_1_method_61_code
def yX0_retrace : MethodName := ⟨RX0, "retrace", "(IIIII)I"⟩
def dkwX0_retrace_4 : List UInt8 := [167, 0, 5, 16, 254, 172]
abbrev dktX0_retrace_4 : List UInt8 := dkwX0_retrace_4 ++ []
def dkwX0_retrace_3 : List UInt8 := [21, 5, 104, 182, 1, 212, 153, 0, 21, 42, 27, 42, 180, 0, 87, 28, 50, 21, 4, 21, 5, 182, 1, 216]
abbrev dktX0_retrace_3 : List UInt8 := dkwX0_retrace_3 ++ dktX0_retrace_4
def dkwX0_retrace_2 : List UInt8 := [156, 0, 6, 21, 6, 172, 42, 27, 182, 1, 110, 153, 0, 40, 42, 42, 180, 0, 87, 28, 50, 21, 4, 5]
abbrev dktX0_retrace_2 : List UInt8 := dkwX0_retrace_2 ++ dktX0_retrace_3
def dkwX0_retrace_1 : List UInt8 := [184, 0, 11, 154, 0, 5, 2, 172, 42, 28, 29, 21, 4, 5, 21, 5, 104, 182, 1, 208, 54, 6, 21, 6]
abbrev dktX0_retrace_1 : List UInt8 := dkwX0_retrace_1 ++ dktX0_retrace_2
def dkwX0_retrace_0 : List UInt8 := [27, 184, 1, 107, 153, 0, 24, 28, 29, 184, 1, 205, 153, 0, 16, 21, 5, 133, 10, 20, 0, 183]
abbrev dktX0_retrace_0 : List UInt8 := dkwX0_retrace_0 ++ dktX0_retrace_1
theorem dksX0_retrace_0 : cX0_retrace.data.toList.drop 0 = dktX0_retrace_0 := by decide +kernel
theorem dksX0_retrace_1 : cX0_retrace.data.toList.drop 22 = dktX0_retrace_1 := dk_seg dksX0_retrace_0 22 rfl rfl
theorem dksX0_retrace_2 : cX0_retrace.data.toList.drop 46 = dktX0_retrace_2 := dk_seg dksX0_retrace_1 24 rfl rfl
theorem dksX0_retrace_3 : cX0_retrace.data.toList.drop 70 = dktX0_retrace_3 := dk_seg dksX0_retrace_2 24 rfl rfl
theorem dksX0_retrace_4 : cX0_retrace.data.toList.drop 94 = dktX0_retrace_4 := dk_seg dksX0_retrace_3 24 rfl rfl
theorem dX0_retrace_0 : decode cX0_retrace 0 = .ok (.iload_n 1, 1) := dk_27 (dk_at dksX0_retrace_0 0 rfl rfl)
theorem dX0_retrace_1 : decode cX0_retrace 1 = .ok (.invokestatic 363, 3) := dk_184 1 107 (dk_at dksX0_retrace_0 1 rfl rfl)
theorem dX0_retrace_4 : decode cX0_retrace 4 = .ok (.ifCond .eq 24, 3) := dk_153 0 24 (dk_at dksX0_retrace_0 4 rfl rfl)
theorem dX0_retrace_7 : decode cX0_retrace 7 = .ok (.iload_n 2, 1) := dk_28 (dk_at dksX0_retrace_0 7 rfl rfl)
theorem dX0_retrace_8 : decode cX0_retrace 8 = .ok (.iload_n 3, 1) := dk_29 (dk_at dksX0_retrace_0 8 rfl rfl)
theorem dX0_retrace_9 : decode cX0_retrace 9 = .ok (.invokestatic 461, 3) := dk_184 1 205 (dk_at dksX0_retrace_0 9 rfl rfl)
theorem dX0_retrace_12 : decode cX0_retrace 12 = .ok (.ifCond .eq 16, 3) := dk_153 0 16 (dk_at dksX0_retrace_0 12 rfl rfl)
theorem dX0_retrace_15 : decode cX0_retrace 15 = .ok (.iload 5, 2) := dk_21 5 (dk_at dksX0_retrace_0 15 rfl rfl)
theorem dX0_retrace_17 : decode cX0_retrace 17 = .ok (.i2l, 1) := dk_133 (dk_at dksX0_retrace_0 17 rfl rfl)
theorem dX0_retrace_18 : decode cX0_retrace 18 = .ok (.lconst 1, 1) := dk_10 (dk_at dksX0_retrace_0 18 rfl rfl)
theorem dX0_retrace_19 : decode cX0_retrace 19 = .ok (.ldc2_w 183, 3) := dk_20 0 183 (dk_at dksX0_retrace_0 19 rfl rfl)
theorem dX0_retrace_22 : decode cX0_retrace 22 = .ok (.invokestatic 11, 3) := dk_184 0 11 (dk_at dksX0_retrace_1 0 rfl rfl)
theorem dX0_retrace_25 : decode cX0_retrace 25 = .ok (.ifCond .ne 5, 3) := dk_154 0 5 (dk_at dksX0_retrace_1 3 rfl rfl)
theorem dX0_retrace_28 : decode cX0_retrace 28 = .ok (.iconst (-1), 1) := dk_2 (dk_at dksX0_retrace_1 6 rfl rfl)
theorem dX0_retrace_29 : decode cX0_retrace 29 = .ok (.ireturn, 1) := dk_172 (dk_at dksX0_retrace_1 7 rfl rfl)
theorem dX0_retrace_30 : decode cX0_retrace 30 = .ok (.aload_n 0, 1) := dk_42 (dk_at dksX0_retrace_1 8 rfl rfl)
theorem dX0_retrace_31 : decode cX0_retrace 31 = .ok (.iload_n 2, 1) := dk_28 (dk_at dksX0_retrace_1 9 rfl rfl)
theorem dX0_retrace_32 : decode cX0_retrace 32 = .ok (.iload_n 3, 1) := dk_29 (dk_at dksX0_retrace_1 10 rfl rfl)
theorem dX0_retrace_33 : decode cX0_retrace 33 = .ok (.iload 4, 2) := dk_21 4 (dk_at dksX0_retrace_1 11 rfl rfl)
theorem dX0_retrace_35 : decode cX0_retrace 35 = .ok (.iconst 2, 1) := dk_5 (dk_at dksX0_retrace_1 13 rfl rfl)
theorem dX0_retrace_36 : decode cX0_retrace 36 = .ok (.iload 5, 2) := dk_21 5 (dk_at dksX0_retrace_1 14 rfl rfl)
theorem dX0_retrace_38 : decode cX0_retrace 38 = .ok (.imul, 1) := dk_104 (dk_at dksX0_retrace_1 16 rfl rfl)
theorem dX0_retrace_39 : decode cX0_retrace 39 = .ok (.invokevirtual 464, 3) := dk_182 1 208 (dk_at dksX0_retrace_1 17 rfl rfl)
theorem dX0_retrace_42 : decode cX0_retrace 42 = .ok (.istore 6, 2) := dk_54 6 (dk_at dksX0_retrace_1 20 rfl rfl)
theorem dX0_retrace_44 : decode cX0_retrace 44 = .ok (.iload 6, 2) := dk_21 6 (dk_at dksX0_retrace_1 22 rfl rfl)
theorem dX0_retrace_46 : decode cX0_retrace 46 = .ok (.ifCond .ge 6, 3) := dk_156 0 6 (dk_at dksX0_retrace_2 0 rfl rfl)
theorem dX0_retrace_49 : decode cX0_retrace 49 = .ok (.iload 6, 2) := dk_21 6 (dk_at dksX0_retrace_2 3 rfl rfl)
theorem dX0_retrace_51 : decode cX0_retrace 51 = .ok (.ireturn, 1) := dk_172 (dk_at dksX0_retrace_2 5 rfl rfl)
theorem dX0_retrace_52 : decode cX0_retrace 52 = .ok (.aload_n 0, 1) := dk_42 (dk_at dksX0_retrace_2 6 rfl rfl)
theorem dX0_retrace_53 : decode cX0_retrace 53 = .ok (.iload_n 1, 1) := dk_27 (dk_at dksX0_retrace_2 7 rfl rfl)
theorem dX0_retrace_54 : decode cX0_retrace 54 = .ok (.invokevirtual 366, 3) := dk_182 1 110 (dk_at dksX0_retrace_2 8 rfl rfl)
theorem dX0_retrace_57 : decode cX0_retrace 57 = .ok (.ifCond .eq 40, 3) := dk_153 0 40 (dk_at dksX0_retrace_2 11 rfl rfl)
theorem dX0_retrace_60 : decode cX0_retrace 60 = .ok (.aload_n 0, 1) := dk_42 (dk_at dksX0_retrace_2 14 rfl rfl)
theorem dX0_retrace_61 : decode cX0_retrace 61 = .ok (.aload_n 0, 1) := dk_42 (dk_at dksX0_retrace_2 15 rfl rfl)
theorem dX0_retrace_62 : decode cX0_retrace 62 = .ok (.getfield 87, 3) := dk_180 0 87 (dk_at dksX0_retrace_2 16 rfl rfl)
theorem dX0_retrace_65 : decode cX0_retrace 65 = .ok (.iload_n 2, 1) := dk_28 (dk_at dksX0_retrace_2 19 rfl rfl)
theorem dX0_retrace_66 : decode cX0_retrace 66 = .ok (.aaload, 1) := dk_50 (dk_at dksX0_retrace_2 20 rfl rfl)
theorem dX0_retrace_67 : decode cX0_retrace 67 = .ok (.iload 4, 2) := dk_21 4 (dk_at dksX0_retrace_2 21 rfl rfl)
theorem dX0_retrace_69 : decode cX0_retrace 69 = .ok (.iconst 2, 1) := dk_5 (dk_at dksX0_retrace_2 23 rfl rfl)
theorem dX0_retrace_70 : decode cX0_retrace 70 = .ok (.iload 5, 2) := dk_21 5 (dk_at dksX0_retrace_3 0 rfl rfl)
theorem dX0_retrace_72 : decode cX0_retrace 72 = .ok (.imul, 1) := dk_104 (dk_at dksX0_retrace_3 2 rfl rfl)
theorem dX0_retrace_73 : decode cX0_retrace 73 = .ok (.invokevirtual 468, 3) := dk_182 1 212 (dk_at dksX0_retrace_3 3 rfl rfl)
theorem dX0_retrace_76 : decode cX0_retrace 76 = .ok (.ifCond .eq 21, 3) := dk_153 0 21 (dk_at dksX0_retrace_3 6 rfl rfl)
theorem dX0_retrace_79 : decode cX0_retrace 79 = .ok (.aload_n 0, 1) := dk_42 (dk_at dksX0_retrace_3 9 rfl rfl)
theorem dX0_retrace_80 : decode cX0_retrace 80 = .ok (.iload_n 1, 1) := dk_27 (dk_at dksX0_retrace_3 10 rfl rfl)
theorem dX0_retrace_81 : decode cX0_retrace 81 = .ok (.aload_n 0, 1) := dk_42 (dk_at dksX0_retrace_3 11 rfl rfl)
theorem dX0_retrace_82 : decode cX0_retrace 82 = .ok (.getfield 87, 3) := dk_180 0 87 (dk_at dksX0_retrace_3 12 rfl rfl)
theorem dX0_retrace_85 : decode cX0_retrace 85 = .ok (.iload_n 2, 1) := dk_28 (dk_at dksX0_retrace_3 15 rfl rfl)
theorem dX0_retrace_86 : decode cX0_retrace 86 = .ok (.aaload, 1) := dk_50 (dk_at dksX0_retrace_3 16 rfl rfl)
theorem dX0_retrace_87 : decode cX0_retrace 87 = .ok (.iload 4, 2) := dk_21 4 (dk_at dksX0_retrace_3 17 rfl rfl)
theorem dX0_retrace_89 : decode cX0_retrace 89 = .ok (.iload 5, 2) := dk_21 5 (dk_at dksX0_retrace_3 19 rfl rfl)
theorem dX0_retrace_91 : decode cX0_retrace 91 = .ok (.invokevirtual 472, 3) := dk_182 1 216 (dk_at dksX0_retrace_3 21 rfl rfl)
theorem dX0_retrace_94 : decode cX0_retrace 94 = .ok (.goto 5, 3) := dk_167 0 5 (dk_at dksX0_retrace_4 0 rfl rfl)
theorem dX0_retrace_97 : decode cX0_retrace 97 = .ok (.bipush (-2), 2) := dk_16 254 (dk_at dksX0_retrace_4 3 rfl rfl)
theorem dX0_retrace_99 : decode cX0_retrace 99 = .ok (.ireturn, 1) := dk_172 (dk_at dksX0_retrace_4 5 rfl rfl)
abbrev cX0_isSheet : ByteArray := prog_1_method_57_code
def yX0_isSheet : MethodName := ⟨RX0, "isSheet", "(II)Z"⟩
def dkwX0_isSheet_1 : List UInt8 := [4, 167, 0, 4, 3, 172]
abbrev dktX0_isSheet_1 : List UInt8 := dkwX0_isSheet_1 ++ []
def dkwX0_isSheet_0 : List UInt8 := [26, 133, 9, 20, 1, 73, 184, 0, 11, 153, 0, 19, 27, 133, 9, 20, 1, 73, 184, 0, 11, 153, 0, 7]
abbrev dktX0_isSheet_0 : List UInt8 := dkwX0_isSheet_0 ++ dktX0_isSheet_1
theorem dksX0_isSheet_0 : cX0_isSheet.data.toList.drop 0 = dktX0_isSheet_0 := by decide +kernel
theorem dksX0_isSheet_1 : cX0_isSheet.data.toList.drop 24 = dktX0_isSheet_1 := dk_seg dksX0_isSheet_0 24 rfl rfl
theorem dX0_isSheet_0 : decode cX0_isSheet 0 = .ok (.iload_n 0, 1) := dk_26 (dk_at dksX0_isSheet_0 0 rfl rfl)
theorem dX0_isSheet_1 : decode cX0_isSheet 1 = .ok (.i2l, 1) := dk_133 (dk_at dksX0_isSheet_0 1 rfl rfl)
theorem dX0_isSheet_2 : decode cX0_isSheet 2 = .ok (.lconst 0, 1) := dk_9 (dk_at dksX0_isSheet_0 2 rfl rfl)
theorem dX0_isSheet_3 : decode cX0_isSheet 3 = .ok (.ldc2_w 329, 3) := dk_20 1 73 (dk_at dksX0_isSheet_0 3 rfl rfl)
theorem dX0_isSheet_6 : decode cX0_isSheet 6 = .ok (.invokestatic 11, 3) := dk_184 0 11 (dk_at dksX0_isSheet_0 6 rfl rfl)
theorem dX0_isSheet_9 : decode cX0_isSheet 9 = .ok (.ifCond .eq 19, 3) := dk_153 0 19 (dk_at dksX0_isSheet_0 9 rfl rfl)
theorem dX0_isSheet_12 : decode cX0_isSheet 12 = .ok (.iload_n 1, 1) := dk_27 (dk_at dksX0_isSheet_0 12 rfl rfl)
theorem dX0_isSheet_13 : decode cX0_isSheet 13 = .ok (.i2l, 1) := dk_133 (dk_at dksX0_isSheet_0 13 rfl rfl)
theorem dX0_isSheet_14 : decode cX0_isSheet 14 = .ok (.lconst 0, 1) := dk_9 (dk_at dksX0_isSheet_0 14 rfl rfl)
theorem dX0_isSheet_15 : decode cX0_isSheet 15 = .ok (.ldc2_w 329, 3) := dk_20 1 73 (dk_at dksX0_isSheet_0 15 rfl rfl)
theorem dX0_isSheet_18 : decode cX0_isSheet 18 = .ok (.invokestatic 11, 3) := dk_184 0 11 (dk_at dksX0_isSheet_0 18 rfl rfl)
theorem dX0_isSheet_21 : decode cX0_isSheet 21 = .ok (.ifCond .eq 7, 3) := dk_153 0 7 (dk_at dksX0_isSheet_0 21 rfl rfl)
theorem dX0_isSheet_24 : decode cX0_isSheet 24 = .ok (.iconst 1, 1) := dk_4 (dk_at dksX0_isSheet_1 0 rfl rfl)
theorem dX0_isSheet_25 : decode cX0_isSheet 25 = .ok (.goto 4, 3) := dk_167 0 4 (dk_at dksX0_isSheet_1 1 rfl rfl)
theorem dX0_isSheet_28 : decode cX0_isSheet 28 = .ok (.iconst 0, 1) := dk_3 (dk_at dksX0_isSheet_1 4 rfl rfl)
theorem dX0_isSheet_29 : decode cX0_isSheet 29 = .ok (.ireturn, 1) := dk_172 (dk_at dksX0_isSheet_1 5 rfl rfl)
abbrev cX0_lacks : ByteArray := prog_1_method_58_code
def yX0_lacks : MethodName := ⟨RX0, "lacks", "(IIII)I"⟩
def dkwX0_lacks_2 : List UInt8 := [16, 243, 167, 0, 4, 3, 172]
abbrev dktX0_lacks_2 : List UInt8 := dkwX0_lacks_2 ++ []
def dkwX0_lacks_1 : List UInt8 := [28, 159, 0, 6, 16, 244, 172, 29, 155, 0, 15, 29, 25, 5, 182, 1, 196, 21, 4, 100, 164, 0, 8]
abbrev dktX0_lacks_1 : List UInt8 := dkwX0_lacks_1 ++ dktX0_lacks_2
def dkwX0_lacks_0 : List UInt8 := [42, 180, 0, 87, 27, 50, 58, 5, 25, 5, 180, 1, 189, 199, 0, 6, 16, 245, 172, 25, 5, 182, 1, 193]
abbrev dktX0_lacks_0 : List UInt8 := dkwX0_lacks_0 ++ dktX0_lacks_1
theorem dksX0_lacks_0 : cX0_lacks.data.toList.drop 0 = dktX0_lacks_0 := by decide +kernel
theorem dksX0_lacks_1 : cX0_lacks.data.toList.drop 24 = dktX0_lacks_1 := dk_seg dksX0_lacks_0 24 rfl rfl
theorem dksX0_lacks_2 : cX0_lacks.data.toList.drop 47 = dktX0_lacks_2 := dk_seg dksX0_lacks_1 23 rfl rfl
theorem dX0_lacks_0 : decode cX0_lacks 0 = .ok (.aload_n 0, 1) := dk_42 (dk_at dksX0_lacks_0 0 rfl rfl)
theorem dX0_lacks_1 : decode cX0_lacks 1 = .ok (.getfield 87, 3) := dk_180 0 87 (dk_at dksX0_lacks_0 1 rfl rfl)
theorem dX0_lacks_4 : decode cX0_lacks 4 = .ok (.iload_n 1, 1) := dk_27 (dk_at dksX0_lacks_0 4 rfl rfl)
theorem dX0_lacks_5 : decode cX0_lacks 5 = .ok (.aaload, 1) := dk_50 (dk_at dksX0_lacks_0 5 rfl rfl)
theorem dX0_lacks_6 : decode cX0_lacks 6 = .ok (.astore 5, 2) := dk_58 5 (dk_at dksX0_lacks_0 6 rfl rfl)
theorem dX0_lacks_8 : decode cX0_lacks 8 = .ok (.aload 5, 2) := dk_25 5 (dk_at dksX0_lacks_0 8 rfl rfl)
theorem dX0_lacks_10 : decode cX0_lacks 10 = .ok (.getfield 445, 3) := dk_180 1 189 (dk_at dksX0_lacks_0 10 rfl rfl)
theorem dX0_lacks_13 : decode cX0_lacks 13 = .ok (.ifnonnull 6, 3) := dk_199 0 6 (dk_at dksX0_lacks_0 13 rfl rfl)
theorem dX0_lacks_16 : decode cX0_lacks 16 = .ok (.bipush (-11), 2) := dk_16 245 (dk_at dksX0_lacks_0 16 rfl rfl)
theorem dX0_lacks_18 : decode cX0_lacks 18 = .ok (.ireturn, 1) := dk_172 (dk_at dksX0_lacks_0 18 rfl rfl)
theorem dX0_lacks_19 : decode cX0_lacks 19 = .ok (.aload 5, 2) := dk_25 5 (dk_at dksX0_lacks_0 19 rfl rfl)
theorem dX0_lacks_21 : decode cX0_lacks 21 = .ok (.invokevirtual 449, 3) := dk_182 1 193 (dk_at dksX0_lacks_0 21 rfl rfl)
theorem dX0_lacks_24 : decode cX0_lacks 24 = .ok (.iload_n 2, 1) := dk_28 (dk_at dksX0_lacks_1 0 rfl rfl)
theorem dX0_lacks_25 : decode cX0_lacks 25 = .ok (.if_icmp .eq 6, 3) := dk_159 0 6 (dk_at dksX0_lacks_1 1 rfl rfl)
theorem dX0_lacks_28 : decode cX0_lacks 28 = .ok (.bipush (-12), 2) := dk_16 244 (dk_at dksX0_lacks_1 4 rfl rfl)
theorem dX0_lacks_30 : decode cX0_lacks 30 = .ok (.ireturn, 1) := dk_172 (dk_at dksX0_lacks_1 6 rfl rfl)
theorem dX0_lacks_31 : decode cX0_lacks 31 = .ok (.iload_n 3, 1) := dk_29 (dk_at dksX0_lacks_1 7 rfl rfl)
theorem dX0_lacks_32 : decode cX0_lacks 32 = .ok (.ifCond .lt 15, 3) := dk_155 0 15 (dk_at dksX0_lacks_1 8 rfl rfl)
theorem dX0_lacks_35 : decode cX0_lacks 35 = .ok (.iload_n 3, 1) := dk_29 (dk_at dksX0_lacks_1 11 rfl rfl)
theorem dX0_lacks_36 : decode cX0_lacks 36 = .ok (.aload 5, 2) := dk_25 5 (dk_at dksX0_lacks_1 12 rfl rfl)
theorem dX0_lacks_38 : decode cX0_lacks 38 = .ok (.invokevirtual 452, 3) := dk_182 1 196 (dk_at dksX0_lacks_1 14 rfl rfl)
theorem dX0_lacks_41 : decode cX0_lacks 41 = .ok (.iload 4, 2) := dk_21 4 (dk_at dksX0_lacks_1 17 rfl rfl)
theorem dX0_lacks_43 : decode cX0_lacks 43 = .ok (.isub, 1) := dk_100 (dk_at dksX0_lacks_1 19 rfl rfl)
theorem dX0_lacks_44 : decode cX0_lacks 44 = .ok (.if_icmp .le 8, 3) := dk_164 0 8 (dk_at dksX0_lacks_1 20 rfl rfl)
theorem dX0_lacks_47 : decode cX0_lacks 47 = .ok (.bipush (-13), 2) := dk_16 243 (dk_at dksX0_lacks_2 0 rfl rfl)
theorem dX0_lacks_49 : decode cX0_lacks 49 = .ok (.goto 4, 3) := dk_167 0 4 (dk_at dksX0_lacks_2 2 rfl rfl)
theorem dX0_lacks_52 : decode cX0_lacks 52 = .ok (.iconst 0, 1) := dk_3 (dk_at dksX0_lacks_2 5 rfl rfl)
theorem dX0_lacks_53 : decode cX0_lacks 53 = .ok (.ireturn, 1) := dk_172 (dk_at dksX0_lacks_2 6 rfl rfl)
abbrev cX0_isGood : ByteArray := prog_1_method_59_code
def yX0_isGood : MethodName := ⟨RX0, "isGood", "(LEightBlocks$Sheet;II)Z"⟩
def dkwX0_isGood_2 : List UInt8 := [172]
abbrev dktX0_isGood_2 : List UInt8 := dkwX0_isGood_2 ++ []
def dkwX0_isGood_1 : List UInt8 := [182, 1, 198, 184, 0, 192, 153, 0, 7, 4, 167, 0, 4, 3, 54, 4, 132, 5, 1, 167, 255, 221, 21, 4]
abbrev dktX0_isGood_1 : List UInt8 := dkwX0_isGood_1 ++ dktX0_isGood_2
def dkwX0_isGood_0 : List UInt8 := [4, 54, 4, 3, 54, 5, 21, 5, 29, 162, 0, 35, 21, 4, 153, 0, 21, 43, 28, 21, 5, 96]
abbrev dktX0_isGood_0 : List UInt8 := dkwX0_isGood_0 ++ dktX0_isGood_1
theorem dksX0_isGood_0 : cX0_isGood.data.toList.drop 0 = dktX0_isGood_0 := by decide +kernel
theorem dksX0_isGood_1 : cX0_isGood.data.toList.drop 22 = dktX0_isGood_1 := dk_seg dksX0_isGood_0 22 rfl rfl
theorem dksX0_isGood_2 : cX0_isGood.data.toList.drop 46 = dktX0_isGood_2 := dk_seg dksX0_isGood_1 24 rfl rfl
theorem dX0_isGood_0 : decode cX0_isGood 0 = .ok (.iconst 1, 1) := dk_4 (dk_at dksX0_isGood_0 0 rfl rfl)
theorem dX0_isGood_1 : decode cX0_isGood 1 = .ok (.istore 4, 2) := dk_54 4 (dk_at dksX0_isGood_0 1 rfl rfl)
theorem dX0_isGood_3 : decode cX0_isGood 3 = .ok (.iconst 0, 1) := dk_3 (dk_at dksX0_isGood_0 3 rfl rfl)
theorem dX0_isGood_4 : decode cX0_isGood 4 = .ok (.istore 5, 2) := dk_54 5 (dk_at dksX0_isGood_0 4 rfl rfl)
theorem dX0_isGood_6 : decode cX0_isGood 6 = .ok (.iload 5, 2) := dk_21 5 (dk_at dksX0_isGood_0 6 rfl rfl)
theorem dX0_isGood_8 : decode cX0_isGood 8 = .ok (.iload_n 3, 1) := dk_29 (dk_at dksX0_isGood_0 8 rfl rfl)
theorem dX0_isGood_9 : decode cX0_isGood 9 = .ok (.if_icmp .ge 35, 3) := dk_162 0 35 (dk_at dksX0_isGood_0 9 rfl rfl)
theorem dX0_isGood_12 : decode cX0_isGood 12 = .ok (.iload 4, 2) := dk_21 4 (dk_at dksX0_isGood_0 12 rfl rfl)
theorem dX0_isGood_14 : decode cX0_isGood 14 = .ok (.ifCond .eq 21, 3) := dk_153 0 21 (dk_at dksX0_isGood_0 14 rfl rfl)
theorem dX0_isGood_17 : decode cX0_isGood 17 = .ok (.aload_n 1, 1) := dk_43 (dk_at dksX0_isGood_0 17 rfl rfl)
theorem dX0_isGood_18 : decode cX0_isGood 18 = .ok (.iload_n 2, 1) := dk_28 (dk_at dksX0_isGood_0 18 rfl rfl)
theorem dX0_isGood_19 : decode cX0_isGood 19 = .ok (.iload 5, 2) := dk_21 5 (dk_at dksX0_isGood_0 19 rfl rfl)
theorem dX0_isGood_21 : decode cX0_isGood 21 = .ok (.iadd, 1) := dk_96 (dk_at dksX0_isGood_0 21 rfl rfl)
theorem dX0_isGood_22 : decode cX0_isGood 22 = .ok (.invokevirtual 454, 3) := dk_182 1 198 (dk_at dksX0_isGood_1 0 rfl rfl)
theorem dX0_isGood_25 : decode cX0_isGood 25 = .ok (.invokestatic 192, 3) := dk_184 0 192 (dk_at dksX0_isGood_1 3 rfl rfl)
theorem dX0_isGood_28 : decode cX0_isGood 28 = .ok (.ifCond .eq 7, 3) := dk_153 0 7 (dk_at dksX0_isGood_1 6 rfl rfl)
theorem dX0_isGood_31 : decode cX0_isGood 31 = .ok (.iconst 1, 1) := dk_4 (dk_at dksX0_isGood_1 9 rfl rfl)
theorem dX0_isGood_32 : decode cX0_isGood 32 = .ok (.goto 4, 3) := dk_167 0 4 (dk_at dksX0_isGood_1 10 rfl rfl)
theorem dX0_isGood_35 : decode cX0_isGood 35 = .ok (.iconst 0, 1) := dk_3 (dk_at dksX0_isGood_1 13 rfl rfl)
theorem dX0_isGood_36 : decode cX0_isGood 36 = .ok (.istore 4, 2) := dk_54 4 (dk_at dksX0_isGood_1 14 rfl rfl)
theorem dX0_isGood_38 : decode cX0_isGood 38 = .ok (.iinc 5 1, 3) := dk_132 5 1 (dk_at dksX0_isGood_1 16 rfl rfl)
theorem dX0_isGood_41 : decode cX0_isGood 41 = .ok (.goto (-35), 3) := dk_167 255 221 (dk_at dksX0_isGood_1 19 rfl rfl)
theorem dX0_isGood_44 : decode cX0_isGood 44 = .ok (.iload 4, 2) := dk_21 4 (dk_at dksX0_isGood_1 22 rfl rfl)
theorem dX0_isGood_46 : decode cX0_isGood 46 = .ok (.ireturn, 1) := dk_172 (dk_at dksX0_isGood_2 0 rfl rfl)
abbrev cX0_found : ByteArray := prog_1_method_60_code
def yX0_found : MethodName := ⟨RX0, "found", "(ILEightBlocks$Sheet;II)I"⟩
def dkwX0_found_8 : List UInt8 := [182, 0, 114, 87, 42, 180, 0, 61, 21, 7, 182, 1, 104, 172]
abbrev dktX0_found_8 : List UInt8 := dkwX0_found_8 ++ []
def dkwX0_found_7 : List UInt8 := [132, 9, 1, 167, 255, 206, 25, 8, 199, 0, 5, 3, 172, 42, 180, 0, 40, 180, 0, 104, 7, 50, 25, 8]
abbrev dktX0_found_7 : List UInt8 := dkwX0_found_7 ++ dktX0_found_8
def dkwX0_found_6 : List UInt8 := [182, 0, 196, 133, 44, 29, 5, 21, 9, 104, 96, 4, 96, 182, 1, 198, 148, 153, 0, 5, 3, 172]
abbrev dktX0_found_6 : List UInt8 := dkwX0_found_6 ++ dktX0_found_7
def dkwX0_found_5 : List UInt8 := [21, 4, 162, 0, 49, 25, 8, 198, 0, 44, 25, 8, 44, 29, 5, 21, 9, 104, 96, 182, 1, 198, 136]
abbrev dktX0_found_5 : List UInt8 := dkwX0_found_5 ++ dktX0_found_6
def dkwX0_found_4 : List UInt8 := [27, 21, 7, 182, 1, 100, 42, 180, 0, 61, 25, 5, 21, 7, 182, 1, 202, 58, 8, 3, 54, 9, 21, 9]
abbrev dktX0_found_4 : List UInt8 := dkwX0_found_4 ++ dktX0_found_5
def dkwX0_found_3 : List UInt8 := [21, 7, 21, 10, 79, 132, 7, 1, 21, 6, 4, 21, 9, 120, 128, 54, 6, 132, 8, 1, 167, 255, 180, 42]
abbrev dktX0_found_3 : List UInt8 := dkwX0_found_3 ++ dktX0_found_4
def dkwX0_found_2 : List UInt8 := [54, 10, 21, 6, 21, 9, 184, 1, 21, 154, 0, 31, 42, 180, 0, 72, 21, 7, 21, 9, 79, 25, 5]
abbrev dktX0_found_2 : List UInt8 := dkwX0_found_2 ++ dktX0_found_3
def dkwX0_found_1 : List UInt8 := [5, 21, 8, 104, 96, 182, 1, 198, 136, 54, 9, 44, 29, 5, 21, 8, 104, 96, 4, 96, 182, 1, 198, 136]
abbrev dktX0_found_1 : List UInt8 := dkwX0_found_1 ++ dktX0_found_2
def dkwX0_found_0 : List UInt8 := [16, 8, 188, 10, 58, 5, 3, 54, 6, 3, 54, 7, 3, 54, 8, 21, 8, 21, 4, 162, 0, 75, 44, 29]
abbrev dktX0_found_0 : List UInt8 := dkwX0_found_0 ++ dktX0_found_1
theorem dksX0_found_0 : cX0_found.data.toList.drop 0 = dktX0_found_0 := by decide +kernel
theorem dksX0_found_1 : cX0_found.data.toList.drop 24 = dktX0_found_1 := dk_seg dksX0_found_0 24 rfl rfl
theorem dksX0_found_2 : cX0_found.data.toList.drop 48 = dktX0_found_2 := dk_seg dksX0_found_1 24 rfl rfl
theorem dksX0_found_3 : cX0_found.data.toList.drop 71 = dktX0_found_3 := dk_seg dksX0_found_2 23 rfl rfl
theorem dksX0_found_4 : cX0_found.data.toList.drop 95 = dktX0_found_4 := dk_seg dksX0_found_3 24 rfl rfl
theorem dksX0_found_5 : cX0_found.data.toList.drop 119 = dktX0_found_5 := dk_seg dksX0_found_4 24 rfl rfl
theorem dksX0_found_6 : cX0_found.data.toList.drop 142 = dktX0_found_6 := dk_seg dksX0_found_5 23 rfl rfl
theorem dksX0_found_7 : cX0_found.data.toList.drop 164 = dktX0_found_7 := dk_seg dksX0_found_6 22 rfl rfl
theorem dksX0_found_8 : cX0_found.data.toList.drop 188 = dktX0_found_8 := dk_seg dksX0_found_7 24 rfl rfl
theorem dX0_found_0 : decode cX0_found 0 = .ok (.bipush 8, 2) := dk_16 8 (dk_at dksX0_found_0 0 rfl rfl)
theorem dX0_found_2 : decode cX0_found 2 = .ok (.newarray .int, 2) := dk_188_10 (dk_at dksX0_found_0 2 rfl rfl)
theorem dX0_found_4 : decode cX0_found 4 = .ok (.astore 5, 2) := dk_58 5 (dk_at dksX0_found_0 4 rfl rfl)
theorem dX0_found_6 : decode cX0_found 6 = .ok (.iconst 0, 1) := dk_3 (dk_at dksX0_found_0 6 rfl rfl)
theorem dX0_found_7 : decode cX0_found 7 = .ok (.istore 6, 2) := dk_54 6 (dk_at dksX0_found_0 7 rfl rfl)
theorem dX0_found_9 : decode cX0_found 9 = .ok (.iconst 0, 1) := dk_3 (dk_at dksX0_found_0 9 rfl rfl)
theorem dX0_found_10 : decode cX0_found 10 = .ok (.istore 7, 2) := dk_54 7 (dk_at dksX0_found_0 10 rfl rfl)
theorem dX0_found_12 : decode cX0_found 12 = .ok (.iconst 0, 1) := dk_3 (dk_at dksX0_found_0 12 rfl rfl)
theorem dX0_found_13 : decode cX0_found 13 = .ok (.istore 8, 2) := dk_54 8 (dk_at dksX0_found_0 13 rfl rfl)
theorem dX0_found_15 : decode cX0_found 15 = .ok (.iload 8, 2) := dk_21 8 (dk_at dksX0_found_0 15 rfl rfl)
theorem dX0_found_17 : decode cX0_found 17 = .ok (.iload 4, 2) := dk_21 4 (dk_at dksX0_found_0 17 rfl rfl)
theorem dX0_found_19 : decode cX0_found 19 = .ok (.if_icmp .ge 75, 3) := dk_162 0 75 (dk_at dksX0_found_0 19 rfl rfl)
theorem dX0_found_22 : decode cX0_found 22 = .ok (.aload_n 2, 1) := dk_44 (dk_at dksX0_found_0 22 rfl rfl)
theorem dX0_found_23 : decode cX0_found 23 = .ok (.iload_n 3, 1) := dk_29 (dk_at dksX0_found_0 23 rfl rfl)
theorem dX0_found_24 : decode cX0_found 24 = .ok (.iconst 2, 1) := dk_5 (dk_at dksX0_found_1 0 rfl rfl)
theorem dX0_found_25 : decode cX0_found 25 = .ok (.iload 8, 2) := dk_21 8 (dk_at dksX0_found_1 1 rfl rfl)
theorem dX0_found_27 : decode cX0_found 27 = .ok (.imul, 1) := dk_104 (dk_at dksX0_found_1 3 rfl rfl)
theorem dX0_found_28 : decode cX0_found 28 = .ok (.iadd, 1) := dk_96 (dk_at dksX0_found_1 4 rfl rfl)
theorem dX0_found_29 : decode cX0_found 29 = .ok (.invokevirtual 454, 3) := dk_182 1 198 (dk_at dksX0_found_1 5 rfl rfl)
theorem dX0_found_32 : decode cX0_found 32 = .ok (.l2i, 1) := dk_136 (dk_at dksX0_found_1 8 rfl rfl)
theorem dX0_found_33 : decode cX0_found 33 = .ok (.istore 9, 2) := dk_54 9 (dk_at dksX0_found_1 9 rfl rfl)
theorem dX0_found_35 : decode cX0_found 35 = .ok (.aload_n 2, 1) := dk_44 (dk_at dksX0_found_1 11 rfl rfl)
theorem dX0_found_36 : decode cX0_found 36 = .ok (.iload_n 3, 1) := dk_29 (dk_at dksX0_found_1 12 rfl rfl)
theorem dX0_found_37 : decode cX0_found 37 = .ok (.iconst 2, 1) := dk_5 (dk_at dksX0_found_1 13 rfl rfl)
theorem dX0_found_38 : decode cX0_found 38 = .ok (.iload 8, 2) := dk_21 8 (dk_at dksX0_found_1 14 rfl rfl)
theorem dX0_found_40 : decode cX0_found 40 = .ok (.imul, 1) := dk_104 (dk_at dksX0_found_1 16 rfl rfl)
theorem dX0_found_41 : decode cX0_found 41 = .ok (.iadd, 1) := dk_96 (dk_at dksX0_found_1 17 rfl rfl)
theorem dX0_found_42 : decode cX0_found 42 = .ok (.iconst 1, 1) := dk_4 (dk_at dksX0_found_1 18 rfl rfl)
theorem dX0_found_43 : decode cX0_found 43 = .ok (.iadd, 1) := dk_96 (dk_at dksX0_found_1 19 rfl rfl)
theorem dX0_found_44 : decode cX0_found 44 = .ok (.invokevirtual 454, 3) := dk_182 1 198 (dk_at dksX0_found_1 20 rfl rfl)
theorem dX0_found_47 : decode cX0_found 47 = .ok (.l2i, 1) := dk_136 (dk_at dksX0_found_1 23 rfl rfl)
theorem dX0_found_48 : decode cX0_found 48 = .ok (.istore 10, 2) := dk_54 10 (dk_at dksX0_found_2 0 rfl rfl)
theorem dX0_found_50 : decode cX0_found 50 = .ok (.iload 6, 2) := dk_21 6 (dk_at dksX0_found_2 2 rfl rfl)
theorem dX0_found_52 : decode cX0_found 52 = .ok (.iload 9, 2) := dk_21 9 (dk_at dksX0_found_2 4 rfl rfl)
theorem dX0_found_54 : decode cX0_found 54 = .ok (.invokestatic 277, 3) := dk_184 1 21 (dk_at dksX0_found_2 6 rfl rfl)
theorem dX0_found_57 : decode cX0_found 57 = .ok (.ifCond .ne 31, 3) := dk_154 0 31 (dk_at dksX0_found_2 9 rfl rfl)
theorem dX0_found_60 : decode cX0_found 60 = .ok (.aload_n 0, 1) := dk_42 (dk_at dksX0_found_2 12 rfl rfl)
theorem dX0_found_61 : decode cX0_found 61 = .ok (.getfield 72, 3) := dk_180 0 72 (dk_at dksX0_found_2 13 rfl rfl)
theorem dX0_found_64 : decode cX0_found 64 = .ok (.iload 7, 2) := dk_21 7 (dk_at dksX0_found_2 16 rfl rfl)
theorem dX0_found_66 : decode cX0_found 66 = .ok (.iload 9, 2) := dk_21 9 (dk_at dksX0_found_2 18 rfl rfl)
theorem dX0_found_68 : decode cX0_found 68 = .ok (.iastore, 1) := dk_79 (dk_at dksX0_found_2 20 rfl rfl)
theorem dX0_found_69 : decode cX0_found 69 = .ok (.aload 5, 2) := dk_25 5 (dk_at dksX0_found_2 21 rfl rfl)
theorem dX0_found_71 : decode cX0_found 71 = .ok (.iload 7, 2) := dk_21 7 (dk_at dksX0_found_3 0 rfl rfl)
theorem dX0_found_73 : decode cX0_found 73 = .ok (.iload 10, 2) := dk_21 10 (dk_at dksX0_found_3 2 rfl rfl)
theorem dX0_found_75 : decode cX0_found 75 = .ok (.iastore, 1) := dk_79 (dk_at dksX0_found_3 4 rfl rfl)
theorem dX0_found_76 : decode cX0_found 76 = .ok (.iinc 7 1, 3) := dk_132 7 1 (dk_at dksX0_found_3 5 rfl rfl)
theorem dX0_found_79 : decode cX0_found 79 = .ok (.iload 6, 2) := dk_21 6 (dk_at dksX0_found_3 8 rfl rfl)
theorem dX0_found_81 : decode cX0_found 81 = .ok (.iconst 1, 1) := dk_4 (dk_at dksX0_found_3 10 rfl rfl)
theorem dX0_found_82 : decode cX0_found 82 = .ok (.iload 9, 2) := dk_21 9 (dk_at dksX0_found_3 11 rfl rfl)
theorem dX0_found_84 : decode cX0_found 84 = .ok (.ishl, 1) := dk_120 (dk_at dksX0_found_3 13 rfl rfl)
theorem dX0_found_85 : decode cX0_found 85 = .ok (.ior, 1) := dk_128 (dk_at dksX0_found_3 14 rfl rfl)
theorem dX0_found_86 : decode cX0_found 86 = .ok (.istore 6, 2) := dk_54 6 (dk_at dksX0_found_3 15 rfl rfl)
theorem dX0_found_88 : decode cX0_found 88 = .ok (.iinc 8 1, 3) := dk_132 8 1 (dk_at dksX0_found_3 17 rfl rfl)
theorem dX0_found_91 : decode cX0_found 91 = .ok (.goto (-76), 3) := dk_167 255 180 (dk_at dksX0_found_3 20 rfl rfl)
theorem dX0_found_94 : decode cX0_found 94 = .ok (.aload_n 0, 1) := dk_42 (dk_at dksX0_found_3 23 rfl rfl)
theorem dX0_found_95 : decode cX0_found 95 = .ok (.iload_n 1, 1) := dk_27 (dk_at dksX0_found_4 0 rfl rfl)
theorem dX0_found_96 : decode cX0_found 96 = .ok (.iload 7, 2) := dk_21 7 (dk_at dksX0_found_4 1 rfl rfl)
theorem dX0_found_98 : decode cX0_found 98 = .ok (.invokevirtual 356, 3) := dk_182 1 100 (dk_at dksX0_found_4 3 rfl rfl)
theorem dX0_found_101 : decode cX0_found 101 = .ok (.aload_n 0, 1) := dk_42 (dk_at dksX0_found_4 6 rfl rfl)
theorem dX0_found_102 : decode cX0_found 102 = .ok (.getfield 61, 3) := dk_180 0 61 (dk_at dksX0_found_4 7 rfl rfl)
theorem dX0_found_105 : decode cX0_found 105 = .ok (.aload 5, 2) := dk_25 5 (dk_at dksX0_found_4 10 rfl rfl)
theorem dX0_found_107 : decode cX0_found 107 = .ok (.iload 7, 2) := dk_21 7 (dk_at dksX0_found_4 12 rfl rfl)
theorem dX0_found_109 : decode cX0_found 109 = .ok (.invokevirtual 458, 3) := dk_182 1 202 (dk_at dksX0_found_4 14 rfl rfl)
theorem dX0_found_112 : decode cX0_found 112 = .ok (.astore 8, 2) := dk_58 8 (dk_at dksX0_found_4 17 rfl rfl)
theorem dX0_found_114 : decode cX0_found 114 = .ok (.iconst 0, 1) := dk_3 (dk_at dksX0_found_4 19 rfl rfl)
theorem dX0_found_115 : decode cX0_found 115 = .ok (.istore 9, 2) := dk_54 9 (dk_at dksX0_found_4 20 rfl rfl)
theorem dX0_found_117 : decode cX0_found 117 = .ok (.iload 9, 2) := dk_21 9 (dk_at dksX0_found_4 22 rfl rfl)
theorem dX0_found_119 : decode cX0_found 119 = .ok (.iload 4, 2) := dk_21 4 (dk_at dksX0_found_5 0 rfl rfl)
theorem dX0_found_121 : decode cX0_found 121 = .ok (.if_icmp .ge 49, 3) := dk_162 0 49 (dk_at dksX0_found_5 2 rfl rfl)
theorem dX0_found_124 : decode cX0_found 124 = .ok (.aload 8, 2) := dk_25 8 (dk_at dksX0_found_5 5 rfl rfl)
theorem dX0_found_126 : decode cX0_found 126 = .ok (.ifnull 44, 3) := dk_198 0 44 (dk_at dksX0_found_5 7 rfl rfl)
theorem dX0_found_129 : decode cX0_found 129 = .ok (.aload 8, 2) := dk_25 8 (dk_at dksX0_found_5 10 rfl rfl)
theorem dX0_found_131 : decode cX0_found 131 = .ok (.aload_n 2, 1) := dk_44 (dk_at dksX0_found_5 12 rfl rfl)
theorem dX0_found_132 : decode cX0_found 132 = .ok (.iload_n 3, 1) := dk_29 (dk_at dksX0_found_5 13 rfl rfl)
theorem dX0_found_133 : decode cX0_found 133 = .ok (.iconst 2, 1) := dk_5 (dk_at dksX0_found_5 14 rfl rfl)
theorem dX0_found_134 : decode cX0_found 134 = .ok (.iload 9, 2) := dk_21 9 (dk_at dksX0_found_5 15 rfl rfl)
theorem dX0_found_136 : decode cX0_found 136 = .ok (.imul, 1) := dk_104 (dk_at dksX0_found_5 17 rfl rfl)
theorem dX0_found_137 : decode cX0_found 137 = .ok (.iadd, 1) := dk_96 (dk_at dksX0_found_5 18 rfl rfl)
theorem dX0_found_138 : decode cX0_found 138 = .ok (.invokevirtual 454, 3) := dk_182 1 198 (dk_at dksX0_found_5 19 rfl rfl)
theorem dX0_found_141 : decode cX0_found 141 = .ok (.l2i, 1) := dk_136 (dk_at dksX0_found_5 22 rfl rfl)
theorem dX0_found_142 : decode cX0_found 142 = .ok (.invokevirtual 196, 3) := dk_182 0 196 (dk_at dksX0_found_6 0 rfl rfl)
theorem dX0_found_145 : decode cX0_found 145 = .ok (.i2l, 1) := dk_133 (dk_at dksX0_found_6 3 rfl rfl)
theorem dX0_found_146 : decode cX0_found 146 = .ok (.aload_n 2, 1) := dk_44 (dk_at dksX0_found_6 4 rfl rfl)
theorem dX0_found_147 : decode cX0_found 147 = .ok (.iload_n 3, 1) := dk_29 (dk_at dksX0_found_6 5 rfl rfl)
theorem dX0_found_148 : decode cX0_found 148 = .ok (.iconst 2, 1) := dk_5 (dk_at dksX0_found_6 6 rfl rfl)
theorem dX0_found_149 : decode cX0_found 149 = .ok (.iload 9, 2) := dk_21 9 (dk_at dksX0_found_6 7 rfl rfl)
theorem dX0_found_151 : decode cX0_found 151 = .ok (.imul, 1) := dk_104 (dk_at dksX0_found_6 9 rfl rfl)
theorem dX0_found_152 : decode cX0_found 152 = .ok (.iadd, 1) := dk_96 (dk_at dksX0_found_6 10 rfl rfl)
theorem dX0_found_153 : decode cX0_found 153 = .ok (.iconst 1, 1) := dk_4 (dk_at dksX0_found_6 11 rfl rfl)
theorem dX0_found_154 : decode cX0_found 154 = .ok (.iadd, 1) := dk_96 (dk_at dksX0_found_6 12 rfl rfl)
theorem dX0_found_155 : decode cX0_found 155 = .ok (.invokevirtual 454, 3) := dk_182 1 198 (dk_at dksX0_found_6 13 rfl rfl)
theorem dX0_found_158 : decode cX0_found 158 = .ok (.lcmp, 1) := dk_148 (dk_at dksX0_found_6 16 rfl rfl)
theorem dX0_found_159 : decode cX0_found 159 = .ok (.ifCond .eq 5, 3) := dk_153 0 5 (dk_at dksX0_found_6 17 rfl rfl)
theorem dX0_found_162 : decode cX0_found 162 = .ok (.iconst 0, 1) := dk_3 (dk_at dksX0_found_6 20 rfl rfl)
theorem dX0_found_163 : decode cX0_found 163 = .ok (.ireturn, 1) := dk_172 (dk_at dksX0_found_6 21 rfl rfl)
theorem dX0_found_164 : decode cX0_found 164 = .ok (.iinc 9 1, 3) := dk_132 9 1 (dk_at dksX0_found_7 0 rfl rfl)
theorem dX0_found_167 : decode cX0_found 167 = .ok (.goto (-50), 3) := dk_167 255 206 (dk_at dksX0_found_7 3 rfl rfl)
theorem dX0_found_170 : decode cX0_found 170 = .ok (.aload 8, 2) := dk_25 8 (dk_at dksX0_found_7 6 rfl rfl)
theorem dX0_found_172 : decode cX0_found 172 = .ok (.ifnonnull 5, 3) := dk_199 0 5 (dk_at dksX0_found_7 8 rfl rfl)
theorem dX0_found_175 : decode cX0_found 175 = .ok (.iconst 0, 1) := dk_3 (dk_at dksX0_found_7 11 rfl rfl)
theorem dX0_found_176 : decode cX0_found 176 = .ok (.ireturn, 1) := dk_172 (dk_at dksX0_found_7 12 rfl rfl)
theorem dX0_found_177 : decode cX0_found 177 = .ok (.aload_n 0, 1) := dk_42 (dk_at dksX0_found_7 13 rfl rfl)
theorem dX0_found_178 : decode cX0_found 178 = .ok (.getfield 40, 3) := dk_180 0 40 (dk_at dksX0_found_7 14 rfl rfl)
theorem dX0_found_181 : decode cX0_found 181 = .ok (.getfield 104, 3) := dk_180 0 104 (dk_at dksX0_found_7 17 rfl rfl)
theorem dX0_found_184 : decode cX0_found 184 = .ok (.iconst 4, 1) := dk_7 (dk_at dksX0_found_7 20 rfl rfl)
theorem dX0_found_185 : decode cX0_found 185 = .ok (.aaload, 1) := dk_50 (dk_at dksX0_found_7 21 rfl rfl)
theorem dX0_found_186 : decode cX0_found 186 = .ok (.aload 8, 2) := dk_25 8 (dk_at dksX0_found_7 22 rfl rfl)
theorem dX0_found_188 : decode cX0_found 188 = .ok (.invokevirtual 114, 3) := dk_182 0 114 (dk_at dksX0_found_8 0 rfl rfl)
theorem dX0_found_191 : decode cX0_found 191 = .ok (.pop, 1) := dk_87 (dk_at dksX0_found_8 3 rfl rfl)
theorem dX0_found_192 : decode cX0_found 192 = .ok (.aload_n 0, 1) := dk_42 (dk_at dksX0_found_8 4 rfl rfl)
theorem dX0_found_193 : decode cX0_found 193 = .ok (.getfield 61, 3) := dk_180 0 61 (dk_at dksX0_found_8 5 rfl rfl)
theorem dX0_found_196 : decode cX0_found 196 = .ok (.iload 7, 2) := dk_21 7 (dk_at dksX0_found_8 8 rfl rfl)
theorem dX0_found_198 : decode cX0_found 198 = .ok (.invokevirtual 360, 3) := dk_182 1 104 (dk_at dksX0_found_8 10 rfl rfl)
theorem dX0_found_201 : decode cX0_found 201 = .ok (.ireturn, 1) := dk_172 (dk_at dksX0_found_8 13 rfl rfl)
abbrev cX0_film : ByteArray := prog_1_method_62_code
def yX0_film : MethodName := ⟨RX0, "film", "(IIII)I"⟩
def dkwX0_film_3 : List UInt8 := [182, 0, 196, 133, 182, 1, 220, 132, 6, 1, 167, 255, 216, 16, 24, 172]
abbrev dktX0_film_3 : List UInt8 := dkwX0_film_3 ++ []
def dkwX0_film_2 : List UInt8 := [180, 0, 87, 28, 50, 29, 21, 4, 21, 6, 96, 42, 180, 0, 40, 180, 0, 104, 27, 50, 21, 6]
abbrev dktX0_film_2 : List UInt8 := dkwX0_film_2 ++ dktX0_film_3
def dkwX0_film_1 : List UInt8 := [182, 1, 208, 54, 5, 21, 5, 156, 0, 6, 21, 5, 172, 3, 54, 6, 21, 6, 16, 24, 162, 0, 39, 42]
abbrev dktX0_film_1 : List UInt8 := dkwX0_film_1 ++ dktX0_film_2
def dkwX0_film_0 : List UInt8 := [27, 184, 0, 189, 153, 0, 11, 28, 29, 184, 1, 205, 154, 0, 5, 2, 172, 42, 28, 29, 21, 4, 16, 24]
abbrev dktX0_film_0 : List UInt8 := dkwX0_film_0 ++ dktX0_film_1
theorem dksX0_film_0 : cX0_film.data.toList.drop 0 = dktX0_film_0 := by decide +kernel
theorem dksX0_film_1 : cX0_film.data.toList.drop 24 = dktX0_film_1 := dk_seg dksX0_film_0 24 rfl rfl
theorem dksX0_film_2 : cX0_film.data.toList.drop 48 = dktX0_film_2 := dk_seg dksX0_film_1 24 rfl rfl
theorem dksX0_film_3 : cX0_film.data.toList.drop 70 = dktX0_film_3 := dk_seg dksX0_film_2 22 rfl rfl
theorem dX0_film_0 : decode cX0_film 0 = .ok (.iload_n 1, 1) := dk_27 (dk_at dksX0_film_0 0 rfl rfl)
theorem dX0_film_1 : decode cX0_film 1 = .ok (.invokestatic 189, 3) := dk_184 0 189 (dk_at dksX0_film_0 1 rfl rfl)
theorem dX0_film_4 : decode cX0_film 4 = .ok (.ifCond .eq 11, 3) := dk_153 0 11 (dk_at dksX0_film_0 4 rfl rfl)
theorem dX0_film_7 : decode cX0_film 7 = .ok (.iload_n 2, 1) := dk_28 (dk_at dksX0_film_0 7 rfl rfl)
theorem dX0_film_8 : decode cX0_film 8 = .ok (.iload_n 3, 1) := dk_29 (dk_at dksX0_film_0 8 rfl rfl)
theorem dX0_film_9 : decode cX0_film 9 = .ok (.invokestatic 461, 3) := dk_184 1 205 (dk_at dksX0_film_0 9 rfl rfl)
theorem dX0_film_12 : decode cX0_film 12 = .ok (.ifCond .ne 5, 3) := dk_154 0 5 (dk_at dksX0_film_0 12 rfl rfl)
theorem dX0_film_15 : decode cX0_film 15 = .ok (.iconst (-1), 1) := dk_2 (dk_at dksX0_film_0 15 rfl rfl)
theorem dX0_film_16 : decode cX0_film 16 = .ok (.ireturn, 1) := dk_172 (dk_at dksX0_film_0 16 rfl rfl)
theorem dX0_film_17 : decode cX0_film 17 = .ok (.aload_n 0, 1) := dk_42 (dk_at dksX0_film_0 17 rfl rfl)
theorem dX0_film_18 : decode cX0_film 18 = .ok (.iload_n 2, 1) := dk_28 (dk_at dksX0_film_0 18 rfl rfl)
theorem dX0_film_19 : decode cX0_film 19 = .ok (.iload_n 3, 1) := dk_29 (dk_at dksX0_film_0 19 rfl rfl)
theorem dX0_film_20 : decode cX0_film 20 = .ok (.iload 4, 2) := dk_21 4 (dk_at dksX0_film_0 20 rfl rfl)
theorem dX0_film_22 : decode cX0_film 22 = .ok (.bipush 24, 2) := dk_16 24 (dk_at dksX0_film_0 22 rfl rfl)
theorem dX0_film_24 : decode cX0_film 24 = .ok (.invokevirtual 464, 3) := dk_182 1 208 (dk_at dksX0_film_1 0 rfl rfl)
theorem dX0_film_27 : decode cX0_film 27 = .ok (.istore 5, 2) := dk_54 5 (dk_at dksX0_film_1 3 rfl rfl)
theorem dX0_film_29 : decode cX0_film 29 = .ok (.iload 5, 2) := dk_21 5 (dk_at dksX0_film_1 5 rfl rfl)
theorem dX0_film_31 : decode cX0_film 31 = .ok (.ifCond .ge 6, 3) := dk_156 0 6 (dk_at dksX0_film_1 7 rfl rfl)
theorem dX0_film_34 : decode cX0_film 34 = .ok (.iload 5, 2) := dk_21 5 (dk_at dksX0_film_1 10 rfl rfl)
theorem dX0_film_36 : decode cX0_film 36 = .ok (.ireturn, 1) := dk_172 (dk_at dksX0_film_1 12 rfl rfl)
theorem dX0_film_37 : decode cX0_film 37 = .ok (.iconst 0, 1) := dk_3 (dk_at dksX0_film_1 13 rfl rfl)
theorem dX0_film_38 : decode cX0_film 38 = .ok (.istore 6, 2) := dk_54 6 (dk_at dksX0_film_1 14 rfl rfl)
theorem dX0_film_40 : decode cX0_film 40 = .ok (.iload 6, 2) := dk_21 6 (dk_at dksX0_film_1 16 rfl rfl)
theorem dX0_film_42 : decode cX0_film 42 = .ok (.bipush 24, 2) := dk_16 24 (dk_at dksX0_film_1 18 rfl rfl)
theorem dX0_film_44 : decode cX0_film 44 = .ok (.if_icmp .ge 39, 3) := dk_162 0 39 (dk_at dksX0_film_1 20 rfl rfl)
theorem dX0_film_47 : decode cX0_film 47 = .ok (.aload_n 0, 1) := dk_42 (dk_at dksX0_film_1 23 rfl rfl)
theorem dX0_film_48 : decode cX0_film 48 = .ok (.getfield 87, 3) := dk_180 0 87 (dk_at dksX0_film_2 0 rfl rfl)
theorem dX0_film_51 : decode cX0_film 51 = .ok (.iload_n 2, 1) := dk_28 (dk_at dksX0_film_2 3 rfl rfl)
theorem dX0_film_52 : decode cX0_film 52 = .ok (.aaload, 1) := dk_50 (dk_at dksX0_film_2 4 rfl rfl)
theorem dX0_film_53 : decode cX0_film 53 = .ok (.iload_n 3, 1) := dk_29 (dk_at dksX0_film_2 5 rfl rfl)
theorem dX0_film_54 : decode cX0_film 54 = .ok (.iload 4, 2) := dk_21 4 (dk_at dksX0_film_2 6 rfl rfl)
theorem dX0_film_56 : decode cX0_film 56 = .ok (.iload 6, 2) := dk_21 6 (dk_at dksX0_film_2 8 rfl rfl)
theorem dX0_film_58 : decode cX0_film 58 = .ok (.iadd, 1) := dk_96 (dk_at dksX0_film_2 10 rfl rfl)
theorem dX0_film_59 : decode cX0_film 59 = .ok (.aload_n 0, 1) := dk_42 (dk_at dksX0_film_2 11 rfl rfl)
theorem dX0_film_60 : decode cX0_film 60 = .ok (.getfield 40, 3) := dk_180 0 40 (dk_at dksX0_film_2 12 rfl rfl)
theorem dX0_film_63 : decode cX0_film 63 = .ok (.getfield 104, 3) := dk_180 0 104 (dk_at dksX0_film_2 15 rfl rfl)
theorem dX0_film_66 : decode cX0_film 66 = .ok (.iload_n 1, 1) := dk_27 (dk_at dksX0_film_2 18 rfl rfl)
theorem dX0_film_67 : decode cX0_film 67 = .ok (.aaload, 1) := dk_50 (dk_at dksX0_film_2 19 rfl rfl)
theorem dX0_film_68 : decode cX0_film 68 = .ok (.iload 6, 2) := dk_21 6 (dk_at dksX0_film_2 20 rfl rfl)
theorem dX0_film_70 : decode cX0_film 70 = .ok (.invokevirtual 196, 3) := dk_182 0 196 (dk_at dksX0_film_3 0 rfl rfl)
theorem dX0_film_73 : decode cX0_film 73 = .ok (.i2l, 1) := dk_133 (dk_at dksX0_film_3 3 rfl rfl)
theorem dX0_film_74 : decode cX0_film 74 = .ok (.invokevirtual 476, 3) := dk_182 1 220 (dk_at dksX0_film_3 4 rfl rfl)
theorem dX0_film_77 : decode cX0_film 77 = .ok (.iinc 6 1, 3) := dk_132 6 1 (dk_at dksX0_film_3 7 rfl rfl)
theorem dX0_film_80 : decode cX0_film 80 = .ok (.goto (-40), 3) := dk_167 255 216 (dk_at dksX0_film_3 10 rfl rfl)
theorem dX0_film_83 : decode cX0_film 83 = .ok (.bipush 24, 2) := dk_16 24 (dk_at dksX0_film_3 13 rfl rfl)
theorem dX0_film_85 : decode cX0_film 85 = .ok (.ireturn, 1) := dk_172 (dk_at dksX0_film_3 15 rfl rfl)
abbrev cX0_sheet : ByteArray := prog_1_method_63_code
def yX0_sheet : MethodName := ⟨RX0, "sheet", "(III)I"⟩
def dkwX0_sheet_3 : List UInt8 := [172]
abbrev dktX0_sheet_3 : List UInt8 := dkwX0_sheet_3 ++ []
def dkwX0_sheet_2 : List UInt8 := [160, 0, 9, 29, 188, 10, 167, 0, 6, 29, 188, 11, 181, 1, 189, 167, 0, 8, 58, 4, 16, 242, 172, 29]
abbrev dktX0_sheet_2 : List UInt8 := dkwX0_sheet_2 ++ dktX0_sheet_3
def dkwX0_sheet_1 : List UInt8 := [154, 0, 9, 29, 188, 8, 167, 0, 28, 28, 4, 160, 0, 9, 29, 188, 9, 167, 0, 17, 28, 5]
abbrev dktX0_sheet_1 : List UInt8 := dkwX0_sheet_1 ++ dktX0_sheet_2
def dkwX0_sheet_0 : List UInt8 := [27, 28, 184, 1, 205, 153, 0, 9, 29, 16, 32, 164, 0, 5, 2, 172, 42, 180, 0, 87, 27, 50, 28]
abbrev dktX0_sheet_0 : List UInt8 := dkwX0_sheet_0 ++ dktX0_sheet_1
theorem dksX0_sheet_0 : cX0_sheet.data.toList.drop 0 = dktX0_sheet_0 := by decide +kernel
theorem dksX0_sheet_1 : cX0_sheet.data.toList.drop 23 = dktX0_sheet_1 := dk_seg dksX0_sheet_0 23 rfl rfl
theorem dksX0_sheet_2 : cX0_sheet.data.toList.drop 45 = dktX0_sheet_2 := dk_seg dksX0_sheet_1 22 rfl rfl
theorem dksX0_sheet_3 : cX0_sheet.data.toList.drop 69 = dktX0_sheet_3 := dk_seg dksX0_sheet_2 24 rfl rfl
theorem dX0_sheet_0 : decode cX0_sheet 0 = .ok (.iload_n 1, 1) := dk_27 (dk_at dksX0_sheet_0 0 rfl rfl)
theorem dX0_sheet_1 : decode cX0_sheet 1 = .ok (.iload_n 2, 1) := dk_28 (dk_at dksX0_sheet_0 1 rfl rfl)
theorem dX0_sheet_2 : decode cX0_sheet 2 = .ok (.invokestatic 461, 3) := dk_184 1 205 (dk_at dksX0_sheet_0 2 rfl rfl)
theorem dX0_sheet_5 : decode cX0_sheet 5 = .ok (.ifCond .eq 9, 3) := dk_153 0 9 (dk_at dksX0_sheet_0 5 rfl rfl)
theorem dX0_sheet_8 : decode cX0_sheet 8 = .ok (.iload_n 3, 1) := dk_29 (dk_at dksX0_sheet_0 8 rfl rfl)
theorem dX0_sheet_9 : decode cX0_sheet 9 = .ok (.bipush 32, 2) := dk_16 32 (dk_at dksX0_sheet_0 9 rfl rfl)
theorem dX0_sheet_11 : decode cX0_sheet 11 = .ok (.if_icmp .le 5, 3) := dk_164 0 5 (dk_at dksX0_sheet_0 11 rfl rfl)
theorem dX0_sheet_14 : decode cX0_sheet 14 = .ok (.iconst (-1), 1) := dk_2 (dk_at dksX0_sheet_0 14 rfl rfl)
theorem dX0_sheet_15 : decode cX0_sheet 15 = .ok (.ireturn, 1) := dk_172 (dk_at dksX0_sheet_0 15 rfl rfl)
theorem dX0_sheet_16 : decode cX0_sheet 16 = .ok (.aload_n 0, 1) := dk_42 (dk_at dksX0_sheet_0 16 rfl rfl)
theorem dX0_sheet_17 : decode cX0_sheet 17 = .ok (.getfield 87, 3) := dk_180 0 87 (dk_at dksX0_sheet_0 17 rfl rfl)
theorem dX0_sheet_20 : decode cX0_sheet 20 = .ok (.iload_n 1, 1) := dk_27 (dk_at dksX0_sheet_0 20 rfl rfl)
theorem dX0_sheet_21 : decode cX0_sheet 21 = .ok (.aaload, 1) := dk_50 (dk_at dksX0_sheet_0 21 rfl rfl)
theorem dX0_sheet_22 : decode cX0_sheet 22 = .ok (.iload_n 2, 1) := dk_28 (dk_at dksX0_sheet_0 22 rfl rfl)
theorem dX0_sheet_23 : decode cX0_sheet 23 = .ok (.ifCond .ne 9, 3) := dk_154 0 9 (dk_at dksX0_sheet_1 0 rfl rfl)
theorem dX0_sheet_26 : decode cX0_sheet 26 = .ok (.iload_n 3, 1) := dk_29 (dk_at dksX0_sheet_1 3 rfl rfl)
theorem dX0_sheet_27 : decode cX0_sheet 27 = .ok (.newarray .byte, 2) := dk_188_8 (dk_at dksX0_sheet_1 4 rfl rfl)
theorem dX0_sheet_29 : decode cX0_sheet 29 = .ok (.goto 28, 3) := dk_167 0 28 (dk_at dksX0_sheet_1 6 rfl rfl)
theorem dX0_sheet_32 : decode cX0_sheet 32 = .ok (.iload_n 2, 1) := dk_28 (dk_at dksX0_sheet_1 9 rfl rfl)
theorem dX0_sheet_33 : decode cX0_sheet 33 = .ok (.iconst 1, 1) := dk_4 (dk_at dksX0_sheet_1 10 rfl rfl)
theorem dX0_sheet_34 : decode cX0_sheet 34 = .ok (.if_icmp .ne 9, 3) := dk_160 0 9 (dk_at dksX0_sheet_1 11 rfl rfl)
theorem dX0_sheet_37 : decode cX0_sheet 37 = .ok (.iload_n 3, 1) := dk_29 (dk_at dksX0_sheet_1 14 rfl rfl)
theorem dX0_sheet_38 : decode cX0_sheet 38 = .ok (.newarray .short, 2) := dk_188_9 (dk_at dksX0_sheet_1 15 rfl rfl)
theorem dX0_sheet_40 : decode cX0_sheet 40 = .ok (.goto 17, 3) := dk_167 0 17 (dk_at dksX0_sheet_1 17 rfl rfl)
theorem dX0_sheet_43 : decode cX0_sheet 43 = .ok (.iload_n 2, 1) := dk_28 (dk_at dksX0_sheet_1 20 rfl rfl)
theorem dX0_sheet_44 : decode cX0_sheet 44 = .ok (.iconst 2, 1) := dk_5 (dk_at dksX0_sheet_1 21 rfl rfl)
theorem dX0_sheet_45 : decode cX0_sheet 45 = .ok (.if_icmp .ne 9, 3) := dk_160 0 9 (dk_at dksX0_sheet_2 0 rfl rfl)
theorem dX0_sheet_48 : decode cX0_sheet 48 = .ok (.iload_n 3, 1) := dk_29 (dk_at dksX0_sheet_2 3 rfl rfl)
theorem dX0_sheet_49 : decode cX0_sheet 49 = .ok (.newarray .int, 2) := dk_188_10 (dk_at dksX0_sheet_2 4 rfl rfl)
theorem dX0_sheet_51 : decode cX0_sheet 51 = .ok (.goto 6, 3) := dk_167 0 6 (dk_at dksX0_sheet_2 6 rfl rfl)
theorem dX0_sheet_54 : decode cX0_sheet 54 = .ok (.iload_n 3, 1) := dk_29 (dk_at dksX0_sheet_2 9 rfl rfl)
theorem dX0_sheet_55 : decode cX0_sheet 55 = .ok (.newarray .long, 2) := dk_188_11 (dk_at dksX0_sheet_2 10 rfl rfl)
theorem dX0_sheet_57 : decode cX0_sheet 57 = .ok (.putfield 445, 3) := dk_181 1 189 (dk_at dksX0_sheet_2 12 rfl rfl)
theorem dX0_sheet_60 : decode cX0_sheet 60 = .ok (.goto 8, 3) := dk_167 0 8 (dk_at dksX0_sheet_2 15 rfl rfl)
theorem dX0_sheet_63 : decode cX0_sheet 63 = .ok (.astore 4, 2) := dk_58 4 (dk_at dksX0_sheet_2 18 rfl rfl)
theorem dX0_sheet_65 : decode cX0_sheet 65 = .ok (.bipush (-14), 2) := dk_16 242 (dk_at dksX0_sheet_2 20 rfl rfl)
theorem dX0_sheet_67 : decode cX0_sheet 67 = .ok (.ireturn, 1) := dk_172 (dk_at dksX0_sheet_2 22 rfl rfl)
theorem dX0_sheet_68 : decode cX0_sheet 68 = .ok (.iload_n 3, 1) := dk_29 (dk_at dksX0_sheet_2 23 rfl rfl)
theorem dX0_sheet_69 : decode cX0_sheet 69 = .ok (.ireturn, 1) := dk_172 (dk_at dksX0_sheet_3 0 rfl rfl)
abbrev cX0_drop : ByteArray := prog_1_method_64_code
def yX0_drop : MethodName := ⟨RX0, "drop", "(I)I"⟩
def dkwX0_drop_1 : List UInt8 := [172, 42, 180, 0, 87, 27, 50, 182, 1, 196, 61, 42, 180, 0, 87, 27, 50, 1, 181, 1, 189, 28, 172]
abbrev dktX0_drop_1 : List UInt8 := dkwX0_drop_1 ++ []
def dkwX0_drop_0 : List UInt8 := [27, 3, 184, 1, 205, 154, 0, 5, 2, 172, 42, 180, 0, 87, 27, 50, 180, 1, 189, 199, 0, 6, 16, 245]
abbrev dktX0_drop_0 : List UInt8 := dkwX0_drop_0 ++ dktX0_drop_1
theorem dksX0_drop_0 : cX0_drop.data.toList.drop 0 = dktX0_drop_0 := by decide +kernel
theorem dksX0_drop_1 : cX0_drop.data.toList.drop 24 = dktX0_drop_1 := dk_seg dksX0_drop_0 24 rfl rfl
theorem dX0_drop_0 : decode cX0_drop 0 = .ok (.iload_n 1, 1) := dk_27 (dk_at dksX0_drop_0 0 rfl rfl)
theorem dX0_drop_1 : decode cX0_drop 1 = .ok (.iconst 0, 1) := dk_3 (dk_at dksX0_drop_0 1 rfl rfl)
theorem dX0_drop_2 : decode cX0_drop 2 = .ok (.invokestatic 461, 3) := dk_184 1 205 (dk_at dksX0_drop_0 2 rfl rfl)
theorem dX0_drop_5 : decode cX0_drop 5 = .ok (.ifCond .ne 5, 3) := dk_154 0 5 (dk_at dksX0_drop_0 5 rfl rfl)
theorem dX0_drop_8 : decode cX0_drop 8 = .ok (.iconst (-1), 1) := dk_2 (dk_at dksX0_drop_0 8 rfl rfl)
theorem dX0_drop_9 : decode cX0_drop 9 = .ok (.ireturn, 1) := dk_172 (dk_at dksX0_drop_0 9 rfl rfl)
theorem dX0_drop_10 : decode cX0_drop 10 = .ok (.aload_n 0, 1) := dk_42 (dk_at dksX0_drop_0 10 rfl rfl)
theorem dX0_drop_11 : decode cX0_drop 11 = .ok (.getfield 87, 3) := dk_180 0 87 (dk_at dksX0_drop_0 11 rfl rfl)
theorem dX0_drop_14 : decode cX0_drop 14 = .ok (.iload_n 1, 1) := dk_27 (dk_at dksX0_drop_0 14 rfl rfl)
theorem dX0_drop_15 : decode cX0_drop 15 = .ok (.aaload, 1) := dk_50 (dk_at dksX0_drop_0 15 rfl rfl)
theorem dX0_drop_16 : decode cX0_drop 16 = .ok (.getfield 445, 3) := dk_180 1 189 (dk_at dksX0_drop_0 16 rfl rfl)
theorem dX0_drop_19 : decode cX0_drop 19 = .ok (.ifnonnull 6, 3) := dk_199 0 6 (dk_at dksX0_drop_0 19 rfl rfl)
theorem dX0_drop_22 : decode cX0_drop 22 = .ok (.bipush (-11), 2) := dk_16 245 (dk_at dksX0_drop_0 22 rfl rfl)
theorem dX0_drop_24 : decode cX0_drop 24 = .ok (.ireturn, 1) := dk_172 (dk_at dksX0_drop_1 0 rfl rfl)
theorem dX0_drop_25 : decode cX0_drop 25 = .ok (.aload_n 0, 1) := dk_42 (dk_at dksX0_drop_1 1 rfl rfl)
theorem dX0_drop_26 : decode cX0_drop 26 = .ok (.getfield 87, 3) := dk_180 0 87 (dk_at dksX0_drop_1 2 rfl rfl)
theorem dX0_drop_29 : decode cX0_drop 29 = .ok (.iload_n 1, 1) := dk_27 (dk_at dksX0_drop_1 5 rfl rfl)
theorem dX0_drop_30 : decode cX0_drop 30 = .ok (.aaload, 1) := dk_50 (dk_at dksX0_drop_1 6 rfl rfl)
theorem dX0_drop_31 : decode cX0_drop 31 = .ok (.invokevirtual 452, 3) := dk_182 1 196 (dk_at dksX0_drop_1 7 rfl rfl)
theorem dX0_drop_34 : decode cX0_drop 34 = .ok (.istore_n 2, 1) := dk_61 (dk_at dksX0_drop_1 10 rfl rfl)
theorem dX0_drop_35 : decode cX0_drop 35 = .ok (.aload_n 0, 1) := dk_42 (dk_at dksX0_drop_1 11 rfl rfl)
theorem dX0_drop_36 : decode cX0_drop 36 = .ok (.getfield 87, 3) := dk_180 0 87 (dk_at dksX0_drop_1 12 rfl rfl)
theorem dX0_drop_39 : decode cX0_drop 39 = .ok (.iload_n 1, 1) := dk_27 (dk_at dksX0_drop_1 15 rfl rfl)
theorem dX0_drop_40 : decode cX0_drop 40 = .ok (.aaload, 1) := dk_50 (dk_at dksX0_drop_1 16 rfl rfl)
theorem dX0_drop_41 : decode cX0_drop 41 = .ok (.aconst_null, 1) := dk_1 (dk_at dksX0_drop_1 17 rfl rfl)
theorem dX0_drop_42 : decode cX0_drop 42 = .ok (.putfield 445, 3) := dk_181 1 189 (dk_at dksX0_drop_1 18 rfl rfl)
theorem dX0_drop_45 : decode cX0_drop 45 = .ok (.iload_n 2, 1) := dk_28 (dk_at dksX0_drop_1 21 rfl rfl)
theorem dX0_drop_46 : decode cX0_drop 46 = .ok (.ireturn, 1) := dk_172 (dk_at dksX0_drop_1 22 rfl rfl)
abbrev cX0_item : ByteArray := prog_1_method_65_code
def yX0_item : MethodName := ⟨RX0, "item", "(IIIJ)I"⟩
def dkwX0_item_1 : List UInt8 := [167, 0, 18, 58, 6, 16, 245, 172, 58, 6, 16, 244, 172, 58, 6, 16, 243, 172, 4, 172]
abbrev dktX0_item_1 : List UInt8 := dkwX0_item_1 ++ []
def dkwX0_item_0 : List UInt8 := [27, 28, 184, 1, 205, 154, 0, 5, 2, 172, 42, 180, 0, 87, 27, 50, 28, 29, 22, 4, 182, 1, 220]
abbrev dktX0_item_0 : List UInt8 := dkwX0_item_0 ++ dktX0_item_1
theorem dksX0_item_0 : cX0_item.data.toList.drop 0 = dktX0_item_0 := by decide +kernel
theorem dksX0_item_1 : cX0_item.data.toList.drop 23 = dktX0_item_1 := dk_seg dksX0_item_0 23 rfl rfl
theorem dX0_item_0 : decode cX0_item 0 = .ok (.iload_n 1, 1) := dk_27 (dk_at dksX0_item_0 0 rfl rfl)
theorem dX0_item_1 : decode cX0_item 1 = .ok (.iload_n 2, 1) := dk_28 (dk_at dksX0_item_0 1 rfl rfl)
theorem dX0_item_2 : decode cX0_item 2 = .ok (.invokestatic 461, 3) := dk_184 1 205 (dk_at dksX0_item_0 2 rfl rfl)
theorem dX0_item_5 : decode cX0_item 5 = .ok (.ifCond .ne 5, 3) := dk_154 0 5 (dk_at dksX0_item_0 5 rfl rfl)
theorem dX0_item_8 : decode cX0_item 8 = .ok (.iconst (-1), 1) := dk_2 (dk_at dksX0_item_0 8 rfl rfl)
theorem dX0_item_9 : decode cX0_item 9 = .ok (.ireturn, 1) := dk_172 (dk_at dksX0_item_0 9 rfl rfl)
theorem dX0_item_10 : decode cX0_item 10 = .ok (.aload_n 0, 1) := dk_42 (dk_at dksX0_item_0 10 rfl rfl)
theorem dX0_item_11 : decode cX0_item 11 = .ok (.getfield 87, 3) := dk_180 0 87 (dk_at dksX0_item_0 11 rfl rfl)
theorem dX0_item_14 : decode cX0_item 14 = .ok (.iload_n 1, 1) := dk_27 (dk_at dksX0_item_0 14 rfl rfl)
theorem dX0_item_15 : decode cX0_item 15 = .ok (.aaload, 1) := dk_50 (dk_at dksX0_item_0 15 rfl rfl)
theorem dX0_item_16 : decode cX0_item 16 = .ok (.iload_n 2, 1) := dk_28 (dk_at dksX0_item_0 16 rfl rfl)
theorem dX0_item_17 : decode cX0_item 17 = .ok (.iload_n 3, 1) := dk_29 (dk_at dksX0_item_0 17 rfl rfl)
theorem dX0_item_18 : decode cX0_item 18 = .ok (.lload 4, 2) := dk_22 4 (dk_at dksX0_item_0 18 rfl rfl)
theorem dX0_item_20 : decode cX0_item 20 = .ok (.invokevirtual 476, 3) := dk_182 1 220 (dk_at dksX0_item_0 20 rfl rfl)
theorem dX0_item_23 : decode cX0_item 23 = .ok (.goto 18, 3) := dk_167 0 18 (dk_at dksX0_item_1 0 rfl rfl)
theorem dX0_item_26 : decode cX0_item 26 = .ok (.astore 6, 2) := dk_58 6 (dk_at dksX0_item_1 3 rfl rfl)
theorem dX0_item_28 : decode cX0_item 28 = .ok (.bipush (-11), 2) := dk_16 245 (dk_at dksX0_item_1 5 rfl rfl)
theorem dX0_item_30 : decode cX0_item 30 = .ok (.ireturn, 1) := dk_172 (dk_at dksX0_item_1 7 rfl rfl)
theorem dX0_item_31 : decode cX0_item 31 = .ok (.astore 6, 2) := dk_58 6 (dk_at dksX0_item_1 8 rfl rfl)
theorem dX0_item_33 : decode cX0_item 33 = .ok (.bipush (-12), 2) := dk_16 244 (dk_at dksX0_item_1 10 rfl rfl)
theorem dX0_item_35 : decode cX0_item 35 = .ok (.ireturn, 1) := dk_172 (dk_at dksX0_item_1 12 rfl rfl)
theorem dX0_item_36 : decode cX0_item 36 = .ok (.astore 6, 2) := dk_58 6 (dk_at dksX0_item_1 13 rfl rfl)
theorem dX0_item_38 : decode cX0_item 38 = .ok (.bipush (-13), 2) := dk_16 243 (dk_at dksX0_item_1 15 rfl rfl)
theorem dX0_item_40 : decode cX0_item 40 = .ok (.ireturn, 1) := dk_172 (dk_at dksX0_item_1 17 rfl rfl)
theorem dX0_item_41 : decode cX0_item 41 = .ok (.iconst 1, 1) := dk_4 (dk_at dksX0_item_1 18 rfl rfl)
theorem dX0_item_42 : decode cX0_item 42 = .ok (.ireturn, 1) := dk_172 (dk_at dksX0_item_1 19 rfl rfl)
abbrev cX0_copy : ByteArray := prog_1_method_66_code
def yX0_copy : MethodName := ⟨RX0, "copy", "(IIIII)I"⟩
def dkwX0_copy_2 : List UInt8 := [58, 6, 16, 245, 172, 58, 6, 16, 244, 172, 58, 6, 16, 243, 172, 21, 5, 172]
abbrev dktX0_copy_2 : List UInt8 := dkwX0_copy_2 ++ []
def dkwX0_copy_1 : List UInt8 := [180, 1, 189, 28, 42, 180, 0, 87, 29, 50, 180, 1, 189, 21, 4, 21, 5, 184, 1, 160, 167, 0, 18]
abbrev dktX0_copy_1 : List UInt8 := dkwX0_copy_1 ++ dktX0_copy_2
def dkwX0_copy_0 : List UInt8 := [27, 3, 184, 1, 205, 153, 0, 11, 29, 3, 184, 1, 205, 154, 0, 5, 2, 172, 42, 180, 0, 87, 27, 50]
abbrev dktX0_copy_0 : List UInt8 := dkwX0_copy_0 ++ dktX0_copy_1
theorem dksX0_copy_0 : cX0_copy.data.toList.drop 0 = dktX0_copy_0 := by decide +kernel
theorem dksX0_copy_1 : cX0_copy.data.toList.drop 24 = dktX0_copy_1 := dk_seg dksX0_copy_0 24 rfl rfl
theorem dksX0_copy_2 : cX0_copy.data.toList.drop 47 = dktX0_copy_2 := dk_seg dksX0_copy_1 23 rfl rfl
theorem dX0_copy_0 : decode cX0_copy 0 = .ok (.iload_n 1, 1) := dk_27 (dk_at dksX0_copy_0 0 rfl rfl)
theorem dX0_copy_1 : decode cX0_copy 1 = .ok (.iconst 0, 1) := dk_3 (dk_at dksX0_copy_0 1 rfl rfl)
theorem dX0_copy_2 : decode cX0_copy 2 = .ok (.invokestatic 461, 3) := dk_184 1 205 (dk_at dksX0_copy_0 2 rfl rfl)
theorem dX0_copy_5 : decode cX0_copy 5 = .ok (.ifCond .eq 11, 3) := dk_153 0 11 (dk_at dksX0_copy_0 5 rfl rfl)
theorem dX0_copy_8 : decode cX0_copy 8 = .ok (.iload_n 3, 1) := dk_29 (dk_at dksX0_copy_0 8 rfl rfl)
theorem dX0_copy_9 : decode cX0_copy 9 = .ok (.iconst 0, 1) := dk_3 (dk_at dksX0_copy_0 9 rfl rfl)
theorem dX0_copy_10 : decode cX0_copy 10 = .ok (.invokestatic 461, 3) := dk_184 1 205 (dk_at dksX0_copy_0 10 rfl rfl)
theorem dX0_copy_13 : decode cX0_copy 13 = .ok (.ifCond .ne 5, 3) := dk_154 0 5 (dk_at dksX0_copy_0 13 rfl rfl)
theorem dX0_copy_16 : decode cX0_copy 16 = .ok (.iconst (-1), 1) := dk_2 (dk_at dksX0_copy_0 16 rfl rfl)
theorem dX0_copy_17 : decode cX0_copy 17 = .ok (.ireturn, 1) := dk_172 (dk_at dksX0_copy_0 17 rfl rfl)
theorem dX0_copy_18 : decode cX0_copy 18 = .ok (.aload_n 0, 1) := dk_42 (dk_at dksX0_copy_0 18 rfl rfl)
theorem dX0_copy_19 : decode cX0_copy 19 = .ok (.getfield 87, 3) := dk_180 0 87 (dk_at dksX0_copy_0 19 rfl rfl)
theorem dX0_copy_22 : decode cX0_copy 22 = .ok (.iload_n 1, 1) := dk_27 (dk_at dksX0_copy_0 22 rfl rfl)
theorem dX0_copy_23 : decode cX0_copy 23 = .ok (.aaload, 1) := dk_50 (dk_at dksX0_copy_0 23 rfl rfl)
theorem dX0_copy_24 : decode cX0_copy 24 = .ok (.getfield 445, 3) := dk_180 1 189 (dk_at dksX0_copy_1 0 rfl rfl)
theorem dX0_copy_27 : decode cX0_copy 27 = .ok (.iload_n 2, 1) := dk_28 (dk_at dksX0_copy_1 3 rfl rfl)
theorem dX0_copy_28 : decode cX0_copy 28 = .ok (.aload_n 0, 1) := dk_42 (dk_at dksX0_copy_1 4 rfl rfl)
theorem dX0_copy_29 : decode cX0_copy 29 = .ok (.getfield 87, 3) := dk_180 0 87 (dk_at dksX0_copy_1 5 rfl rfl)
theorem dX0_copy_32 : decode cX0_copy 32 = .ok (.iload_n 3, 1) := dk_29 (dk_at dksX0_copy_1 8 rfl rfl)
theorem dX0_copy_33 : decode cX0_copy 33 = .ok (.aaload, 1) := dk_50 (dk_at dksX0_copy_1 9 rfl rfl)
theorem dX0_copy_34 : decode cX0_copy 34 = .ok (.getfield 445, 3) := dk_180 1 189 (dk_at dksX0_copy_1 10 rfl rfl)
theorem dX0_copy_37 : decode cX0_copy 37 = .ok (.iload 4, 2) := dk_21 4 (dk_at dksX0_copy_1 13 rfl rfl)
theorem dX0_copy_39 : decode cX0_copy 39 = .ok (.iload 5, 2) := dk_21 5 (dk_at dksX0_copy_1 15 rfl rfl)
theorem dX0_copy_41 : decode cX0_copy 41 = .ok (.invokestatic 416, 3) := dk_184 1 160 (dk_at dksX0_copy_1 17 rfl rfl)
theorem dX0_copy_44 : decode cX0_copy 44 = .ok (.goto 18, 3) := dk_167 0 18 (dk_at dksX0_copy_1 20 rfl rfl)
theorem dX0_copy_47 : decode cX0_copy 47 = .ok (.astore 6, 2) := dk_58 6 (dk_at dksX0_copy_2 0 rfl rfl)
theorem dX0_copy_49 : decode cX0_copy 49 = .ok (.bipush (-11), 2) := dk_16 245 (dk_at dksX0_copy_2 2 rfl rfl)
theorem dX0_copy_51 : decode cX0_copy 51 = .ok (.ireturn, 1) := dk_172 (dk_at dksX0_copy_2 4 rfl rfl)
theorem dX0_copy_52 : decode cX0_copy 52 = .ok (.astore 6, 2) := dk_58 6 (dk_at dksX0_copy_2 5 rfl rfl)
theorem dX0_copy_54 : decode cX0_copy 54 = .ok (.bipush (-12), 2) := dk_16 244 (dk_at dksX0_copy_2 7 rfl rfl)
theorem dX0_copy_56 : decode cX0_copy 56 = .ok (.ireturn, 1) := dk_172 (dk_at dksX0_copy_2 9 rfl rfl)
theorem dX0_copy_57 : decode cX0_copy 57 = .ok (.astore 6, 2) := dk_58 6 (dk_at dksX0_copy_2 10 rfl rfl)
theorem dX0_copy_59 : decode cX0_copy 59 = .ok (.bipush (-13), 2) := dk_16 243 (dk_at dksX0_copy_2 12 rfl rfl)
theorem dX0_copy_61 : decode cX0_copy 61 = .ok (.ireturn, 1) := dk_172 (dk_at dksX0_copy_2 14 rfl rfl)
theorem dX0_copy_62 : decode cX0_copy 62 = .ok (.iload 5, 2) := dk_21 5 (dk_at dksX0_copy_2 15 rfl rfl)
theorem dX0_copy_64 : decode cX0_copy 64 = .ok (.ireturn, 1) := dk_172 (dk_at dksX0_copy_2 17 rfl rfl)
theorem q96 : (Jvm.Cond.initialized "EightBlocks") ∈ lw_all := lw_g (lw_at lw_m1 1 rfl) rfl
theorem q142 : (Jvm.Cond.instantiable "EightBlocks" (16 : Nat)) ∈ lw_all := lw_g (lw_at lw_m1 47 rfl) rfl
theorem q144 : (Jvm.Cond.instanceMethod ({ cls := "EightBlocks", name := "<init>", desc := "()V" } : Jvm.MethodName)) ∈ lw_all := lw_g (lw_at lw_m1 49 rfl) rfl
theorem q145 : (Jvm.Cond.code ({ cls := "EightBlocks", name := "<init>", desc := "()V" } : Jvm.MethodName) prog_1_method_6_code (3 : Nat) (Option.none : Option Jvm.ClassFile.FieldType)) ∈ lw_all := lw_g (lw_at lw_m1 50 rfl) rfl
theorem q146 : (Jvm.Cond.methodLink "EightBlocks" (17 : Nat) ({ cls := "java/lang/Object", name := "<init>", desc := "()V" } : Jvm.MethodName)) ∈ lw_all := lw_g (lw_at lw_m1 51 rfl) rfl
theorem q149 : (Jvm.Cond.classLink "EightBlocks" (23 : Nat) "EightBlocks$Code") ∈ lw_all := lw_g (lw_at lw_m1 54 rfl) rfl
theorem q151 : (Jvm.Cond.methodLink "EightBlocks" (25 : Nat) ({ cls := "EightBlocks$Code", name := "<init>", desc := "()V" } : Jvm.MethodName)) ∈ lw_all := lw_g (lw_at lw_m1 56 rfl) rfl
theorem q164 : (Jvm.Cond.static ({ cls := "EightBlocks", name := "has", desc := "(II)Z" } : Jvm.MethodName)) ∈ lw_all := lw_g (lw_at lw_m1 69 rfl) rfl
theorem q165 : (Jvm.Cond.code ({ cls := "EightBlocks", name := "has", desc := "(II)Z" } : Jvm.MethodName) prog_1_method_2_code (2 : Nat) (Option.some Jvm.ClassFile.FieldType.boolean)) ∈ lw_all := lw_g (lw_at lw_m1 70 rfl) rfl
theorem q179 : (Jvm.Cond.static ({ cls := "EightBlocks", name := "size", desc := "(I)I" } : Jvm.MethodName)) ∈ lw_all := lw_g (lw_at lw_m1 84 rfl) rfl
theorem q180 : (Jvm.Cond.code ({ cls := "EightBlocks", name := "size", desc := "(I)I" } : Jvm.MethodName) prog_1_method_3_code (1 : Nat) (Option.some Jvm.ClassFile.FieldType.int)) ∈ lw_all := lw_g (lw_at lw_m1 85 rfl) rfl
theorem q181 : (Jvm.Cond.methodLink "EightBlocks" (1 : Nat) ({ cls := "java/lang/Integer", name := "bitCount", desc := "(I)I" } : Jvm.MethodName)) ∈ lw_all := lw_g (lw_at lw_m1 86 rfl) rfl
theorem q195 : (Jvm.Cond.fieldLinkNest "EightBlocks" (120 : Nat) "EightBlocks$Code" "basics" "[I" "EightBlocks") ∈ lw_tbl := lw_at lw_m1 100 rfl
theorem q197 : (Jvm.Cond.fieldLinkNest "EightBlocks" (168 : Nat) "EightBlocks$Code" "words" "[I" "EightBlocks") ∈ lw_tbl := lw_at lw_m1 102 rfl
theorem q199 : (Jvm.Cond.fieldLinkNest "EightBlocks" (382 : Nat) "EightBlocks$Code" "sorted" "[I" "EightBlocks") ∈ lw_tbl := lw_at lw_m1 104 rfl
theorem q202 : (Jvm.Cond.fieldLinkNest "EightBlocks" (147 : Nat) "EightBlocks$Code" "octads" "[I" "EightBlocks") ∈ lw_tbl := lw_at lw_m1 107 rfl
theorem q205 : (Jvm.Cond.fieldLinkNest "EightBlocks" (171 : Nat) "EightBlocks$Code" "dodecads" "[I" "EightBlocks") ∈ lw_tbl := lw_at lw_m1 110 rfl
theorem q209 : (Jvm.Cond.fieldLinkNest "EightBlocks" (133 : Nat) "EightBlocks$Code" "leaders" "[I" "EightBlocks") ∈ lw_tbl := lw_at lw_m1 114 rfl
theorem q235 : (Jvm.Cond.classLink "EightBlocks" (37 : Nat) "EightBlocks$Hall") ∈ lw_all := lw_g (lw_at lw_m1 140 rfl) rfl
theorem q237 : (Jvm.Cond.methodLink "EightBlocks" (39 : Nat) ({ cls := "EightBlocks$Hall", name := "<init>", desc := "()V" } : Jvm.MethodName)) ∈ lw_all := lw_g (lw_at lw_m1 142 rfl) rfl
theorem q249 : (Jvm.Cond.fieldLinkNest "EightBlocks" (296 : Nat) "EightBlocks$Move" "ahead" "[B" "EightBlocks") ∈ lw_tbl := lw_at lw_m1 154 rfl
theorem q259 : (Jvm.Cond.fieldLinkNest "EightBlocks" (104 : Nat) "EightBlocks$Hall" "moves" "[LEightBlocks$Move;" "EightBlocks") ∈ lw_tbl := lw_at lw_m1 164 rfl
theorem q261 : (Jvm.Cond.fieldLinkNest "EightBlocks" (123 : Nat) "EightBlocks$Hall" "dodecad" "I" "EightBlocks") ∈ lw_tbl := lw_at lw_m1 166 rfl
theorem q263 : (Jvm.Cond.fieldLinkNest "EightBlocks" (127 : Nat) "EightBlocks$Hall" "draw" "I" "EightBlocks") ∈ lw_tbl := lw_at lw_m1 168 rfl
theorem q271 : (Jvm.Cond.classLink "EightBlocks" (44 : Nat) "EightBlocks$Tape") ∈ lw_all := lw_g (lw_at lw_m1 176 rfl) rfl
theorem q273 : (Jvm.Cond.methodLinkNest "EightBlocks" (46 : Nat) ({ cls := "EightBlocks$Tape", name := "<init>", desc := "()V" } : Jvm.MethodName) "EightBlocks") ∈ lw_tbl := lw_at lw_m1 178 rfl
theorem q391 : (Jvm.Cond.fieldLinkNest "EightBlocks" (236 : Nat) "EightBlocks$Tape" "text" "Ljava/lang/StringBuilder;" "EightBlocks") ∈ lw_tbl := lw_at lw_m2 56 rfl
theorem q393 : (Jvm.Cond.fieldLinkNest "EightBlocks" (327 : Nat) "EightBlocks$Tape" "at" "I" "EightBlocks") ∈ lw_tbl := lw_at lw_m2 58 rfl
theorem q399 : (Jvm.Cond.classLink "EightBlocks" (51 : Nat) "EightBlocks$Fault") ∈ lw_all := lw_g (lw_at lw_m2 64 rfl) rfl
theorem q408 : (Jvm.Cond.methodLink "EightBlocks" (53 : Nat) ({ cls := "EightBlocks$Fault", name := "<init>", desc := "()V" } : Jvm.MethodName)) ∈ lw_all := lw_g (lw_at lw_m2 73 rfl) rfl
theorem q417 : (Jvm.Cond.fieldLinkNest "EightBlocks" (246 : Nat) "EightBlocks$Fault" "place" "I" "EightBlocks") ∈ lw_tbl := lw_at lw_m2 82 rfl
theorem q422 : (Jvm.Cond.classLink "EightBlocks" (58 : Nat) "EightBlocks$Chain") ∈ lw_all := lw_g (lw_at lw_m2 87 rfl) rfl
theorem q424 : (Jvm.Cond.methodLink "EightBlocks" (60 : Nat) ({ cls := "EightBlocks$Chain", name := "<init>", desc := "()V" } : Jvm.MethodName)) ∈ lw_all := lw_g (lw_at lw_m2 89 rfl) rfl
theorem q485 : (Jvm.Cond.classLink "EightBlocks" (65 : Nat) "EightBlocks$Flood") ∈ lw_all := lw_g (lw_at lw_m2 150 rfl) rfl
theorem q487 : (Jvm.Cond.methodLinkNest "EightBlocks" (67 : Nat) ({ cls := "EightBlocks$Flood", name := "<init>", desc := "()V" } : Jvm.MethodName) "EightBlocks") ∈ lw_tbl := lw_at lw_m2 152 rfl
theorem q501 : (Jvm.Cond.classLink "EightBlocks" (85 : Nat) "EightBlocks$Sheet") ∈ lw_all := lw_g (lw_at lw_m2 166 rfl) rfl
theorem q504 : (Jvm.Cond.methodLinkNest "EightBlocks" (91 : Nat) ({ cls := "EightBlocks$Sheet", name := "<init>", desc := "()V" } : Jvm.MethodName) "EightBlocks") ∈ lw_tbl := lw_at lw_m2 169 rfl
theorem q509 : (Jvm.Cond.fieldLinkNest "EightBlocks" (445 : Nat) "EightBlocks$Sheet" "row" "Ljava/lang/Object;" "EightBlocks") ∈ lw_tbl := lw_at lw_m2 174 rfl
theorem q513 : (Jvm.Cond.classLink "EightBlocks" (92 : Nat) "java/lang/String") ∈ lw_all := lw_g (lw_at lw_m2 178 rfl) rfl
theorem q515 : (Jvm.Cond.stringRef "EightBlocks" (94 : Nat) "step") ∈ lw_tbl := lw_at lw_m2 180 rfl
theorem q516 : (Jvm.Cond.stringRef "EightBlocks" (96 : Nat) "twice") ∈ lw_tbl := lw_at lw_m2 181 rfl
theorem q517 : (Jvm.Cond.stringRef "EightBlocks" (98 : Nat) "over") ∈ lw_tbl := lw_at lw_m2 182 rfl
theorem q518 : (Jvm.Cond.stringRef "EightBlocks" (100 : Nat) "wild") ∈ lw_tbl := lw_at lw_m2 183 rfl
theorem q519 : (Jvm.Cond.stringRef "EightBlocks" (102 : Nat) "same") ∈ lw_tbl := lw_at lw_m2 184 rfl
theorem q520 : (Jvm.Cond.methodLink "EightBlocks" (108 : Nat) ({ cls := "EightBlocks$Way", name := "named", desc := "(Ljava/lang/String;)LEightBlocks$Way;" } : Jvm.MethodName)) ∈ lw_all := lw_g (lw_at lw_m2 185 rfl) rfl
theorem q635 : (Jvm.Cond.methodLink "EightBlocks" (114 : Nat) ({ cls := "EightBlocks$Move", name := "take", desc := "(LEightBlocks$Way;)LEightBlocks$Move;" } : Jvm.MethodName)) ∈ lw_all := lw_g (lw_at lw_m3 60 rfl) rfl
theorem q692 : (Jvm.Cond.fieldLink "EightBlocks" (26 : Nat) "EightBlocks" "code" "LEightBlocks$Code;") ∈ lw_all := lw_g (lw_at lw_m3 117 rfl) rfl
theorem q693 : (Jvm.Cond.fieldLink "EightBlocks" (30 : Nat) "EightBlocks" "six" "[I") ∈ lw_all := lw_g (lw_at lw_m3 118 rfl) rfl
theorem q694 : (Jvm.Cond.fieldLink "EightBlocks" (34 : Nat) "EightBlocks" "otherSix" "[I") ∈ lw_all := lw_g (lw_at lw_m3 119 rfl) rfl
theorem q695 : (Jvm.Cond.fieldLink "EightBlocks" (40 : Nat) "EightBlocks" "now" "LEightBlocks$Hall;") ∈ lw_all := lw_g (lw_at lw_m3 120 rfl) rfl
theorem q696 : (Jvm.Cond.fieldLink "EightBlocks" (47 : Nat) "EightBlocks" "tape" "LEightBlocks$Tape;") ∈ lw_all := lw_g (lw_at lw_m3 121 rfl) rfl
theorem q697 : (Jvm.Cond.fieldLink "EightBlocks" (54 : Nat) "EightBlocks" "fault" "LEightBlocks$Fault;") ∈ lw_all := lw_g (lw_at lw_m3 122 rfl) rfl
theorem q698 : (Jvm.Cond.fieldLink "EightBlocks" (61 : Nat) "EightBlocks" "chain" "LEightBlocks$Chain;") ∈ lw_all := lw_g (lw_at lw_m3 123 rfl) rfl
theorem q699 : (Jvm.Cond.fieldLink "EightBlocks" (68 : Nat) "EightBlocks" "flood" "LEightBlocks$Flood;") ∈ lw_all := lw_g (lw_at lw_m3 124 rfl) rfl
theorem q700 : (Jvm.Cond.fieldLink "EightBlocks" (72 : Nat) "EightBlocks" "first" "[I") ∈ lw_all := lw_g (lw_at lw_m3 125 rfl) rfl
theorem q701 : (Jvm.Cond.fieldLink "EightBlocks" (75 : Nat) "EightBlocks" "past" "[LEightBlocks$Hall;") ∈ lw_all := lw_g (lw_at lw_m3 126 rfl) rfl
theorem q702 : (Jvm.Cond.fieldLink "EightBlocks" (413 : Nat) "EightBlocks" "undoMany" "I") ∈ lw_all := lw_g (lw_at lw_m3 127 rfl) rfl
theorem q703 : (Jvm.Cond.fieldLink "EightBlocks" (79 : Nat) "EightBlocks" "kept" "LEightBlocks$Hall;") ∈ lw_all := lw_g (lw_at lw_m3 128 rfl) rfl
theorem q704 : (Jvm.Cond.fieldLink "EightBlocks" (82 : Nat) "EightBlocks" "keptPast" "[LEightBlocks$Hall;") ∈ lw_all := lw_g (lw_at lw_m3 129 rfl) rfl
theorem q705 : (Jvm.Cond.fieldLink "EightBlocks" (442 : Nat) "EightBlocks" "keptMany" "I") ∈ lw_all := lw_g (lw_at lw_m3 130 rfl) rfl
theorem q706 : (Jvm.Cond.fieldLink "EightBlocks" (438 : Nat) "EightBlocks" "isKept" "Z") ∈ lw_all := lw_g (lw_at lw_m3 131 rfl) rfl
theorem q707 : (Jvm.Cond.fieldLink "EightBlocks" (87 : Nat) "EightBlocks" "sheets" "[LEightBlocks$Sheet;") ∈ lw_all := lw_g (lw_at lw_m3 132 rfl) rfl
theorem q708 : (Jvm.Cond.laysFinal "EightBlocks" "EightBlocks" "code" "LEightBlocks$Code;") ∈ lw_all := lw_g (lw_at lw_m3 133 rfl) rfl
theorem q709 : (Jvm.Cond.soleField "EightBlocks" "code") ∈ lw_all := lw_g (lw_at lw_m3 134 rfl) rfl
theorem q710 : (Jvm.Cond.laysFinal "EightBlocks" "EightBlocks" "six" "[I") ∈ lw_all := lw_g (lw_at lw_m3 135 rfl) rfl
theorem q711 : (Jvm.Cond.soleField "EightBlocks" "six") ∈ lw_all := lw_g (lw_at lw_m3 136 rfl) rfl
theorem q712 : (Jvm.Cond.laysFinal "EightBlocks" "EightBlocks" "otherSix" "[I") ∈ lw_all := lw_g (lw_at lw_m3 137 rfl) rfl
theorem q713 : (Jvm.Cond.soleField "EightBlocks" "otherSix") ∈ lw_all := lw_g (lw_at lw_m3 138 rfl) rfl
theorem q714 : (Jvm.Cond.laysFinal "EightBlocks" "EightBlocks" "now" "LEightBlocks$Hall;") ∈ lw_all := lw_g (lw_at lw_m3 139 rfl) rfl
theorem q715 : (Jvm.Cond.soleField "EightBlocks" "now") ∈ lw_all := lw_g (lw_at lw_m3 140 rfl) rfl
theorem q716 : (Jvm.Cond.laysFinal "EightBlocks" "EightBlocks" "tape" "LEightBlocks$Tape;") ∈ lw_all := lw_g (lw_at lw_m3 141 rfl) rfl
theorem q717 : (Jvm.Cond.soleField "EightBlocks" "tape") ∈ lw_all := lw_g (lw_at lw_m3 142 rfl) rfl
theorem q718 : (Jvm.Cond.laysFinal "EightBlocks" "EightBlocks" "fault" "LEightBlocks$Fault;") ∈ lw_all := lw_g (lw_at lw_m3 143 rfl) rfl
theorem q719 : (Jvm.Cond.soleField "EightBlocks" "fault") ∈ lw_all := lw_g (lw_at lw_m3 144 rfl) rfl
theorem q720 : (Jvm.Cond.laysFinal "EightBlocks" "EightBlocks" "chain" "LEightBlocks$Chain;") ∈ lw_all := lw_g (lw_at lw_m3 145 rfl) rfl
theorem q721 : (Jvm.Cond.soleField "EightBlocks" "chain") ∈ lw_all := lw_g (lw_at lw_m3 146 rfl) rfl
theorem q722 : (Jvm.Cond.laysFinal "EightBlocks" "EightBlocks" "flood" "LEightBlocks$Flood;") ∈ lw_all := lw_g (lw_at lw_m3 147 rfl) rfl
theorem q723 : (Jvm.Cond.soleField "EightBlocks" "flood") ∈ lw_all := lw_g (lw_at lw_m3 148 rfl) rfl
theorem q724 : (Jvm.Cond.laysFinal "EightBlocks" "EightBlocks" "first" "[I") ∈ lw_all := lw_g (lw_at lw_m3 149 rfl) rfl
theorem q725 : (Jvm.Cond.soleField "EightBlocks" "first") ∈ lw_all := lw_g (lw_at lw_m3 150 rfl) rfl
theorem q726 : (Jvm.Cond.laysFinal "EightBlocks" "EightBlocks" "past" "[LEightBlocks$Hall;") ∈ lw_all := lw_g (lw_at lw_m3 151 rfl) rfl
theorem q727 : (Jvm.Cond.soleField "EightBlocks" "past") ∈ lw_all := lw_g (lw_at lw_m3 152 rfl) rfl
theorem q728 : (Jvm.Cond.lays "EightBlocks" "EightBlocks" "undoMany" "I") ∈ lw_all := lw_g (lw_at lw_m3 153 rfl) rfl
theorem q729 : (Jvm.Cond.soleField "EightBlocks" "undoMany") ∈ lw_all := lw_g (lw_at lw_m3 154 rfl) rfl
theorem q730 : (Jvm.Cond.laysFinal "EightBlocks" "EightBlocks" "kept" "LEightBlocks$Hall;") ∈ lw_all := lw_g (lw_at lw_m3 155 rfl) rfl
theorem q731 : (Jvm.Cond.soleField "EightBlocks" "kept") ∈ lw_all := lw_g (lw_at lw_m3 156 rfl) rfl
theorem q732 : (Jvm.Cond.laysFinal "EightBlocks" "EightBlocks" "keptPast" "[LEightBlocks$Hall;") ∈ lw_all := lw_g (lw_at lw_m3 157 rfl) rfl
theorem q733 : (Jvm.Cond.soleField "EightBlocks" "keptPast") ∈ lw_all := lw_g (lw_at lw_m3 158 rfl) rfl
theorem q734 : (Jvm.Cond.lays "EightBlocks" "EightBlocks" "keptMany" "I") ∈ lw_all := lw_g (lw_at lw_m3 159 rfl) rfl
theorem q735 : (Jvm.Cond.soleField "EightBlocks" "keptMany") ∈ lw_all := lw_g (lw_at lw_m3 160 rfl) rfl
theorem q736 : (Jvm.Cond.lays "EightBlocks" "EightBlocks" "isKept" "Z") ∈ lw_all := lw_g (lw_at lw_m3 161 rfl) rfl
theorem q737 : (Jvm.Cond.soleField "EightBlocks" "isKept") ∈ lw_all := lw_g (lw_at lw_m3 162 rfl) rfl
theorem q738 : (Jvm.Cond.laysFinal "EightBlocks" "EightBlocks" "sheets" "[LEightBlocks$Sheet;") ∈ lw_all := lw_g (lw_at lw_m3 163 rfl) rfl
theorem q739 : (Jvm.Cond.soleField "EightBlocks" "sheets") ∈ lw_all := lw_g (lw_at lw_m3 164 rfl) rfl
theorem q740 : (Jvm.Cond.superclass "EightBlocks" "java/lang/Object") ∈ lw_all := lw_g (lw_at lw_m3 165 rfl) rfl
theorem q742 : (Jvm.Cond.instanceMethod ({ cls := "EightBlocks", name := "word", desc := "(II)I" } : Jvm.MethodName)) ∈ lw_all := lw_g (lw_at lw_m3 167 rfl) rfl
theorem q743 : (Jvm.Cond.selects "EightBlocks" ({ cls := "EightBlocks", name := "word", desc := "(II)I" } : Jvm.MethodName) ({ cls := "EightBlocks", name := "word", desc := "(II)I" } : Jvm.MethodName)) ∈ lw_all := lw_g (lw_at lw_m3 168 rfl) rfl
theorem q744 : (Jvm.Cond.code ({ cls := "EightBlocks", name := "word", desc := "(II)I" } : Jvm.MethodName) prog_1_method_9_code (4 : Nat) (Option.some Jvm.ClassFile.FieldType.int)) ∈ lw_all := lw_g (lw_at lw_m3 169 rfl) rfl
theorem q745 : (Jvm.Cond.methodLink "EightBlocks" (150 : Nat) ({ cls := "EightBlocks", name := "isSet", desc := "(I)Z" } : Jvm.MethodName)) ∈ lw_all := lw_g (lw_at lw_m3 170 rfl) rfl
theorem q746 : (Jvm.Cond.static ({ cls := "EightBlocks", name := "isSet", desc := "(I)Z" } : Jvm.MethodName)) ∈ lw_all := lw_g (lw_at lw_m3 171 rfl) rfl
theorem q747 : (Jvm.Cond.code ({ cls := "EightBlocks", name := "isSet", desc := "(I)Z" } : Jvm.MethodName) prog_1_method_5_code (1 : Nat) (Option.some Jvm.ClassFile.FieldType.boolean)) ∈ lw_all := lw_g (lw_at lw_m3 172 rfl) rfl
theorem q748 : (Jvm.Cond.constantLong "EightBlocks" (15 : Nat) (16777215 : Int64)) ∈ lw_all := lw_g (lw_at lw_m3 173 rfl) rfl
theorem q749 : (Jvm.Cond.methodLink "EightBlocks" (11 : Nat) ({ cls := "EightBlocks", name := "isIn", desc := "(JJJ)Z" } : Jvm.MethodName)) ∈ lw_all := lw_g (lw_at lw_m3 174 rfl) rfl
theorem q750 : (Jvm.Cond.static ({ cls := "EightBlocks", name := "isIn", desc := "(JJJ)Z" } : Jvm.MethodName)) ∈ lw_all := lw_g (lw_at lw_m3 175 rfl) rfl
theorem q751 : (Jvm.Cond.code ({ cls := "EightBlocks", name := "isIn", desc := "(JJJ)Z" } : Jvm.MethodName) prog_1_method_1_code (6 : Nat) (Option.some Jvm.ClassFile.FieldType.boolean)) ∈ lw_all := lw_g (lw_at lw_m3 176 rfl) rfl
theorem q752 : (Jvm.Cond.methodLink "EightBlocks" (130 : Nat) ({ cls := "EightBlocks$Code", name := "remainder", desc := "(I)I" } : Jvm.MethodName)) ∈ lw_all := lw_g (lw_at lw_m3 177 rfl) rfl
theorem q756 : (Jvm.Cond.methodLink "EightBlocks" (154 : Nat) ({ cls := "EightBlocks", name := "size", desc := "(I)I" } : Jvm.MethodName)) ∈ lw_all := lw_g (lw_at lw_m3 181 rfl) rfl
theorem q757 : (Jvm.Cond.methodLink "EightBlocks" (157 : Nat) ({ cls := "EightBlocks$Code", name := "number", desc := "(I)I" } : Jvm.MethodName)) ∈ lw_all := lw_g (lw_at lw_m3 182 rfl) rfl
theorem q761 : (Jvm.Cond.methodLink "EightBlocks" (160 : Nat) ({ cls := "EightBlocks", name := "closest", desc := "(I)I" } : Jvm.MethodName)) ∈ lw_all := lw_g (lw_at lw_m3 186 rfl) rfl
theorem q762 : (Jvm.Cond.privateMethod ({ cls := "EightBlocks", name := "closest", desc := "(I)I" } : Jvm.MethodName)) ∈ lw_tbl := lw_at lw_m3 187 rfl
theorem q763 : (Jvm.Cond.instanceMethod ({ cls := "EightBlocks", name := "closest", desc := "(I)I" } : Jvm.MethodName)) ∈ lw_all := lw_g (lw_at lw_m3 188 rfl) rfl
theorem q764 : (Jvm.Cond.code ({ cls := "EightBlocks", name := "closest", desc := "(I)I" } : Jvm.MethodName) prog_1_method_7_code (5 : Nat) (Option.some Jvm.ClassFile.FieldType.int)) ∈ lw_all := lw_g (lw_at lw_m3 189 rfl) rfl
theorem q765 : (Jvm.Cond.methodLink "EightBlocks" (136 : Nat) ({ cls := "EightBlocks$Code", name := "tetrads", desc := "(I[I)V" } : Jvm.MethodName)) ∈ lw_all := lw_g (lw_at lw_m3 190 rfl) rfl
theorem q769 : (Jvm.Cond.constant "EightBlocks" (140 : Nat) (16777216 : Int32)) ∈ lw_all := lw_g (lw_at lw_m3 194 rfl) rfl
theorem q770 : (Jvm.Cond.methodLink "EightBlocks" (141 : Nat) ({ cls := "java/lang/Math", name := "min", desc := "(II)I" } : Jvm.MethodName)) ∈ lw_all := lw_g (lw_at lw_m3 195 rfl) rfl
theorem q773 : (Jvm.Cond.methodLink "EightBlocks" (163 : Nat) ({ cls := "EightBlocks", name := "octadsBy", desc := "(II)I" } : Jvm.MethodName)) ∈ lw_all := lw_g (lw_at lw_m3 198 rfl) rfl
theorem q774 : (Jvm.Cond.privateMethod ({ cls := "EightBlocks", name := "octadsBy", desc := "(II)I" } : Jvm.MethodName)) ∈ lw_tbl := lw_at lw_m3 199 rfl
theorem q775 : (Jvm.Cond.instanceMethod ({ cls := "EightBlocks", name := "octadsBy", desc := "(II)I" } : Jvm.MethodName)) ∈ lw_all := lw_g (lw_at lw_m3 200 rfl) rfl
theorem q776 : (Jvm.Cond.code ({ cls := "EightBlocks", name := "octadsBy", desc := "(II)I" } : Jvm.MethodName) prog_1_method_8_code (9 : Nat) (Option.some Jvm.ClassFile.FieldType.int)) ∈ lw_all := lw_g (lw_at lw_m3 201 rfl) rfl
theorem q778 : (Jvm.Cond.instanceMethod ({ cls := "EightBlocks", name := "block", desc := "(II)I" } : Jvm.MethodName)) ∈ lw_all := lw_g (lw_at lw_m3 203 rfl) rfl
theorem q779 : (Jvm.Cond.selects "EightBlocks" ({ cls := "EightBlocks", name := "block", desc := "(II)I" } : Jvm.MethodName) ({ cls := "EightBlocks", name := "block", desc := "(II)I" } : Jvm.MethodName)) ∈ lw_all := lw_g (lw_at lw_m3 204 rfl) rfl
theorem q780 : (Jvm.Cond.code ({ cls := "EightBlocks", name := "block", desc := "(II)I" } : Jvm.MethodName) prog_1_method_10_code (4 : Nat) (Option.some Jvm.ClassFile.FieldType.int)) ∈ lw_all := lw_g (lw_at lw_m3 205 rfl) rfl
theorem q781 : (Jvm.Cond.constantLong "EightBlocks" (166 : Nat) (2 : Int64)) ∈ lw_all := lw_g (lw_at lw_m3 206 rfl) rfl
theorem q783 : (Jvm.Cond.instanceMethod ({ cls := "EightBlocks", name := "complete", desc := "(I)I" } : Jvm.MethodName)) ∈ lw_all := lw_g (lw_at lw_m3 208 rfl) rfl
theorem q784 : (Jvm.Cond.selects "EightBlocks" ({ cls := "EightBlocks", name := "complete", desc := "(I)I" } : Jvm.MethodName) ({ cls := "EightBlocks", name := "complete", desc := "(I)I" } : Jvm.MethodName)) ∈ lw_all := lw_g (lw_at lw_m3 209 rfl) rfl
theorem q785 : (Jvm.Cond.code ({ cls := "EightBlocks", name := "complete", desc := "(I)I" } : Jvm.MethodName) prog_1_method_11_code (2 : Nat) (Option.some Jvm.ClassFile.FieldType.int)) ∈ lw_all := lw_g (lw_at lw_m3 210 rfl) rfl
theorem q786 : (Jvm.Cond.methodLink "EightBlocks" (174 : Nat) ({ cls := "EightBlocks$Code", name := "complete", desc := "(I)I" } : Jvm.MethodName)) ∈ lw_all := lw_g (lw_at lw_m3 211 rfl) rfl
theorem q792 : (Jvm.Cond.instanceMethod ({ cls := "EightBlocks", name := "sextet", desc := "(II)I" } : Jvm.MethodName)) ∈ lw_all := lw_g (lw_at lw_m3 217 rfl) rfl
theorem q793 : (Jvm.Cond.selects "EightBlocks" ({ cls := "EightBlocks", name := "sextet", desc := "(II)I" } : Jvm.MethodName) ({ cls := "EightBlocks", name := "sextet", desc := "(II)I" } : Jvm.MethodName)) ∈ lw_all := lw_g (lw_at lw_m3 218 rfl) rfl
theorem q794 : (Jvm.Cond.code ({ cls := "EightBlocks", name := "sextet", desc := "(II)I" } : Jvm.MethodName) prog_1_method_12_code (3 : Nat) (Option.some Jvm.ClassFile.FieldType.int)) ∈ lw_all := lw_g (lw_at lw_m3 219 rfl) rfl
theorem q795 : (Jvm.Cond.constantLong "EightBlocks" (177 : Nat) (5 : Int64)) ∈ lw_all := lw_g (lw_at lw_m3 220 rfl) rfl
theorem q797 : (Jvm.Cond.instanceMethod ({ cls := "EightBlocks", name := "both", desc := "(II)I" } : Jvm.MethodName)) ∈ lw_all := lw_g (lw_at lw_m3 222 rfl) rfl
theorem q798 : (Jvm.Cond.selects "EightBlocks" ({ cls := "EightBlocks", name := "both", desc := "(II)I" } : Jvm.MethodName) ({ cls := "EightBlocks", name := "both", desc := "(II)I" } : Jvm.MethodName)) ∈ lw_all := lw_g (lw_at lw_m3 223 rfl) rfl
theorem q799 : (Jvm.Cond.code ({ cls := "EightBlocks", name := "both", desc := "(II)I" } : Jvm.MethodName) prog_1_method_14_code (6 : Nat) (Option.some Jvm.ClassFile.FieldType.int)) ∈ lw_all := lw_g (lw_at lw_m3 224 rfl) rfl
theorem q800 : (Jvm.Cond.methodLink "EightBlocks" (179 : Nat) ({ cls := "EightBlocks", name := "isWhole", desc := "(I[I)Z" } : Jvm.MethodName)) ∈ lw_all := lw_g (lw_at lw_m3 225 rfl) rfl
theorem q801 : (Jvm.Cond.static ({ cls := "EightBlocks", name := "isWhole", desc := "(I[I)Z" } : Jvm.MethodName)) ∈ lw_all := lw_g (lw_at lw_m3 226 rfl) rfl
theorem q802 : (Jvm.Cond.code ({ cls := "EightBlocks", name := "isWhole", desc := "(I[I)Z" } : Jvm.MethodName) prog_1_method_13_code (7 : Nat) (Option.some Jvm.ClassFile.FieldType.boolean)) ∈ lw_all := lw_g (lw_at lw_m3 227 rfl) rfl
theorem q804 : (Jvm.Cond.instanceMethod ({ cls := "EightBlocks", name := "met", desc := "(II)I" } : Jvm.MethodName)) ∈ lw_all := lw_g (lw_at lw_m3 229 rfl) rfl
theorem q805 : (Jvm.Cond.selects "EightBlocks" ({ cls := "EightBlocks", name := "met", desc := "(II)I" } : Jvm.MethodName) ({ cls := "EightBlocks", name := "met", desc := "(II)I" } : Jvm.MethodName)) ∈ lw_all := lw_g (lw_at lw_m3 230 rfl) rfl
theorem q806 : (Jvm.Cond.code ({ cls := "EightBlocks", name := "met", desc := "(II)I" } : Jvm.MethodName) prog_1_method_15_code (8 : Nat) (Option.some Jvm.ClassFile.FieldType.int)) ∈ lw_all := lw_g (lw_at lw_m3 231 rfl) rfl
theorem q807 : (Jvm.Cond.constantLong "EightBlocks" (183 : Nat) (8 : Int64)) ∈ lw_all := lw_g (lw_at lw_m3 232 rfl) rfl
theorem q809 : (Jvm.Cond.instanceMethod ({ cls := "EightBlocks", name := "move", desc := "(II)I" } : Jvm.MethodName)) ∈ lw_all := lw_g (lw_at lw_m3 234 rfl) rfl
theorem q810 : (Jvm.Cond.selects "EightBlocks" ({ cls := "EightBlocks", name := "move", desc := "(II)I" } : Jvm.MethodName) ({ cls := "EightBlocks", name := "move", desc := "(II)I" } : Jvm.MethodName)) ∈ lw_all := lw_g (lw_at lw_m3 235 rfl) rfl
theorem q811 : (Jvm.Cond.code ({ cls := "EightBlocks", name := "move", desc := "(II)I" } : Jvm.MethodName) prog_1_method_18_code (3 : Nat) (Option.some Jvm.ClassFile.FieldType.int)) ∈ lw_all := lw_g (lw_at lw_m3 236 rfl) rfl
theorem q812 : (Jvm.Cond.methodLink "EightBlocks" (189 : Nat) ({ cls := "EightBlocks", name := "isMove", desc := "(I)Z" } : Jvm.MethodName)) ∈ lw_all := lw_g (lw_at lw_m3 237 rfl) rfl
theorem q813 : (Jvm.Cond.static ({ cls := "EightBlocks", name := "isMove", desc := "(I)Z" } : Jvm.MethodName)) ∈ lw_all := lw_g (lw_at lw_m3 238 rfl) rfl
theorem q814 : (Jvm.Cond.code ({ cls := "EightBlocks", name := "isMove", desc := "(I)Z" } : Jvm.MethodName) prog_1_method_17_code (1 : Nat) (Option.some Jvm.ClassFile.FieldType.boolean)) ∈ lw_all := lw_g (lw_at lw_m3 239 rfl) rfl
theorem q815 : (Jvm.Cond.constantLong "EightBlocks" (187 : Nat) (4 : Int64)) ∈ lw_all := lw_g (lw_at lw_m4 0 rfl) rfl
theorem q816 : (Jvm.Cond.methodLink "EightBlocks" (192 : Nat) ({ cls := "EightBlocks", name := "isPlace", desc := "(J)Z" } : Jvm.MethodName)) ∈ lw_all := lw_g (lw_at lw_m4 1 rfl) rfl
theorem q817 : (Jvm.Cond.static ({ cls := "EightBlocks", name := "isPlace", desc := "(J)Z" } : Jvm.MethodName)) ∈ lw_all := lw_g (lw_at lw_m4 2 rfl) rfl
theorem q818 : (Jvm.Cond.code ({ cls := "EightBlocks", name := "isPlace", desc := "(J)Z" } : Jvm.MethodName) prog_1_method_4_code (2 : Nat) (Option.some Jvm.ClassFile.FieldType.boolean)) ∈ lw_all := lw_g (lw_at lw_m4 3 rfl) rfl
theorem q819 : (Jvm.Cond.constantLong "EightBlocks" (9 : Nat) (23 : Int64)) ∈ lw_all := lw_g (lw_at lw_m4 4 rfl) rfl
theorem q820 : (Jvm.Cond.methodLink "EightBlocks" (196 : Nat) ({ cls := "EightBlocks$Move", name := "to", desc := "(I)I" } : Jvm.MethodName)) ∈ lw_all := lw_g (lw_at lw_m4 5 rfl) rfl
theorem q822 : (Jvm.Cond.instanceMethod ({ cls := "EightBlocks", name := "told", desc := "(II)I" } : Jvm.MethodName)) ∈ lw_all := lw_g (lw_at lw_m4 7 rfl) rfl
theorem q823 : (Jvm.Cond.selects "EightBlocks" ({ cls := "EightBlocks", name := "told", desc := "(II)I" } : Jvm.MethodName) ({ cls := "EightBlocks", name := "told", desc := "(II)I" } : Jvm.MethodName)) ∈ lw_all := lw_g (lw_at lw_m4 8 rfl) rfl
theorem q824 : (Jvm.Cond.code ({ cls := "EightBlocks", name := "told", desc := "(II)I" } : Jvm.MethodName) prog_1_method_21_code (4 : Nat) (Option.some Jvm.ClassFile.FieldType.int)) ∈ lw_all := lw_g (lw_at lw_m4 9 rfl) rfl
theorem q825 : (Jvm.Cond.methodLink "EightBlocks" (200 : Nat) ({ cls := "EightBlocks", name := "keeps", desc := "(I)Z" } : Jvm.MethodName)) ∈ lw_all := lw_g (lw_at lw_m4 10 rfl) rfl
theorem q826 : (Jvm.Cond.privateMethod ({ cls := "EightBlocks", name := "keeps", desc := "(I)Z" } : Jvm.MethodName)) ∈ lw_tbl := lw_at lw_m4 11 rfl
theorem q827 : (Jvm.Cond.instanceMethod ({ cls := "EightBlocks", name := "keeps", desc := "(I)Z" } : Jvm.MethodName)) ∈ lw_all := lw_g (lw_at lw_m4 12 rfl) rfl
theorem q828 : (Jvm.Cond.code ({ cls := "EightBlocks", name := "keeps", desc := "(I)Z" } : Jvm.MethodName) prog_1_method_16_code (4 : Nat) (Option.some Jvm.ClassFile.FieldType.boolean)) ∈ lw_all := lw_g (lw_at lw_m4 13 rfl) rfl
theorem q837 : (Jvm.Cond.methodLink "EightBlocks" (203 : Nat) ({ cls := "EightBlocks$Move", name := "staying", desc := "()I" } : Jvm.MethodName)) ∈ lw_all := lw_g (lw_at lw_m4 22 rfl) rfl
theorem q841 : (Jvm.Cond.methodLink "EightBlocks" (207 : Nat) ({ cls := "EightBlocks$Move", name := "rings", desc := "(I)I" } : Jvm.MethodName)) ∈ lw_all := lw_g (lw_at lw_m4 26 rfl) rfl
theorem q854 : (Jvm.Cond.methodLink "EightBlocks" (210 : Nat) ({ cls := "EightBlocks", name := "octadsStaying", desc := "(LEightBlocks$Move;)I" } : Jvm.MethodName)) ∈ lw_all := lw_g (lw_at lw_m4 39 rfl) rfl
theorem q855 : (Jvm.Cond.privateMethod ({ cls := "EightBlocks", name := "octadsStaying", desc := "(LEightBlocks$Move;)I" } : Jvm.MethodName)) ∈ lw_tbl := lw_at lw_m4 40 rfl
theorem q856 : (Jvm.Cond.instanceMethod ({ cls := "EightBlocks", name := "octadsStaying", desc := "(LEightBlocks$Move;)I" } : Jvm.MethodName)) ∈ lw_all := lw_g (lw_at lw_m4 41 rfl) rfl
theorem q857 : (Jvm.Cond.code ({ cls := "EightBlocks", name := "octadsStaying", desc := "(LEightBlocks$Move;)I" } : Jvm.MethodName) prog_1_method_19_code (7 : Nat) (Option.some Jvm.ClassFile.FieldType.int)) ∈ lw_all := lw_g (lw_at lw_m4 42 rfl) rfl
theorem q858 : (Jvm.Cond.methodLink "EightBlocks" (214 : Nat) ({ cls := "EightBlocks", name := "whereGoes", desc := "(ILEightBlocks$Move;)I" } : Jvm.MethodName)) ∈ lw_all := lw_g (lw_at lw_m4 43 rfl) rfl
theorem q859 : (Jvm.Cond.privateMethod ({ cls := "EightBlocks", name := "whereGoes", desc := "(ILEightBlocks$Move;)I" } : Jvm.MethodName)) ∈ lw_tbl := lw_at lw_m4 44 rfl
theorem q860 : (Jvm.Cond.instanceMethod ({ cls := "EightBlocks", name := "whereGoes", desc := "(ILEightBlocks$Move;)I" } : Jvm.MethodName)) ∈ lw_all := lw_g (lw_at lw_m4 45 rfl) rfl
theorem q861 : (Jvm.Cond.code ({ cls := "EightBlocks", name := "whereGoes", desc := "(ILEightBlocks$Move;)I" } : Jvm.MethodName) prog_1_method_20_code (4 : Nat) (Option.some Jvm.ClassFile.FieldType.int)) ∈ lw_all := lw_g (lw_at lw_m4 46 rfl) rfl
theorem q862 : (Jvm.Cond.constant "EightBlocks" (199 : Nat) (16777215 : Int32)) ∈ lw_all := lw_g (lw_at lw_m4 47 rfl) rfl
theorem q863 : (Jvm.Cond.methodLink "EightBlocks" (218 : Nat) ({ cls := "EightBlocks$Move", name := "text", desc := "()Ljava/lang/String;" } : Jvm.MethodName)) ∈ lw_all := lw_g (lw_at lw_m4 48 rfl) rfl
theorem q1068 : (Jvm.Cond.methodLink "EightBlocks" (222 : Nat) ({ cls := "java/lang/String", name := "length", desc := "()I" } : Jvm.MethodName)) ∈ lw_all := lw_g (lw_at lw_m5 13 rfl) rfl
theorem q1070 : (Jvm.Cond.instanceMethod ({ cls := "EightBlocks", name := "letter", desc := "(II)I" } : Jvm.MethodName)) ∈ lw_all := lw_g (lw_at lw_m5 15 rfl) rfl
theorem q1071 : (Jvm.Cond.selects "EightBlocks" ({ cls := "EightBlocks", name := "letter", desc := "(II)I" } : Jvm.MethodName) ({ cls := "EightBlocks", name := "letter", desc := "(II)I" } : Jvm.MethodName)) ∈ lw_all := lw_g (lw_at lw_m5 16 rfl) rfl
theorem q1072 : (Jvm.Cond.code ({ cls := "EightBlocks", name := "letter", desc := "(II)I" } : Jvm.MethodName) prog_1_method_22_code (4 : Nat) (Option.some Jvm.ClassFile.FieldType.int)) ∈ lw_all := lw_g (lw_at lw_m5 17 rfl) rfl
theorem q1073 : (Jvm.Cond.interfaceEntry "EightBlocks" (225 : Nat)) ∈ lw_tbl := lw_at lw_m5 18 rfl
theorem q1074 : (Jvm.Cond.methodLink "EightBlocks" (225 : Nat) ({ cls := "java/lang/CharSequence", name := "length", desc := "()I" } : Jvm.MethodName)) ∈ lw_all := lw_g (lw_at lw_m5 19 rfl) rfl
theorem q1085 : (Jvm.Cond.interfaceEntry "EightBlocks" (228 : Nat)) ∈ lw_tbl := lw_at lw_m5 30 rfl
theorem q1086 : (Jvm.Cond.methodLink "EightBlocks" (228 : Nat) ({ cls := "java/lang/CharSequence", name := "charAt", desc := "(I)C" } : Jvm.MethodName)) ∈ lw_all := lw_g (lw_at lw_m5 31 rfl) rfl
theorem q1122 : (Jvm.Cond.instanceMethod ({ cls := "EightBlocks", name := "sent", desc := "(II)I" } : Jvm.MethodName)) ∈ lw_all := lw_g (lw_at lw_m5 67 rfl) rfl
theorem q1123 : (Jvm.Cond.selects "EightBlocks" ({ cls := "EightBlocks", name := "sent", desc := "(II)I" } : Jvm.MethodName) ({ cls := "EightBlocks", name := "sent", desc := "(II)I" } : Jvm.MethodName)) ∈ lw_all := lw_g (lw_at lw_m5 68 rfl) rfl
theorem q1124 : (Jvm.Cond.code ({ cls := "EightBlocks", name := "sent", desc := "(II)I" } : Jvm.MethodName) prog_1_method_23_code (3 : Nat) (Option.some Jvm.ClassFile.FieldType.int)) ∈ lw_all := lw_g (lw_at lw_m5 69 rfl) rfl
theorem q1126 : (Jvm.Cond.instanceMethod ({ cls := "EightBlocks", name := "type", desc := "(I)I" } : Jvm.MethodName)) ∈ lw_all := lw_g (lw_at lw_m5 71 rfl) rfl
theorem q1127 : (Jvm.Cond.selects "EightBlocks" ({ cls := "EightBlocks", name := "type", desc := "(I)I" } : Jvm.MethodName) ({ cls := "EightBlocks", name := "type", desc := "(I)I" } : Jvm.MethodName)) ∈ lw_all := lw_g (lw_at lw_m5 72 rfl) rfl
theorem q1128 : (Jvm.Cond.code ({ cls := "EightBlocks", name := "type", desc := "(I)I" } : Jvm.MethodName) prog_1_method_24_code (2 : Nat) (Option.some Jvm.ClassFile.FieldType.int)) ∈ lw_all := lw_g (lw_at lw_m5 73 rfl) rfl
theorem q1129 : (Jvm.Cond.constantLong "EightBlocks" (232 : Nat) (32 : Int64)) ∈ lw_all := lw_g (lw_at lw_m5 74 rfl) rfl
theorem q1130 : (Jvm.Cond.constantLong "EightBlocks" (234 : Nat) (126 : Int64)) ∈ lw_all := lw_g (lw_at lw_m5 75 rfl) rfl
theorem q1131 : (Jvm.Cond.methodLink "EightBlocks" (239 : Nat) ({ cls := "java/lang/StringBuilder", name := "length", desc := "()I" } : Jvm.MethodName)) ∈ lw_all := lw_g (lw_at lw_m5 76 rfl) rfl
theorem q1132 : (Jvm.Cond.methodLink "EightBlocks" (242 : Nat) ({ cls := "java/lang/StringBuilder", name := "append", desc := "(C)Ljava/lang/StringBuilder;" } : Jvm.MethodName)) ∈ lw_all := lw_g (lw_at lw_m5 77 rfl) rfl
theorem q1146 : (Jvm.Cond.instanceMethod ({ cls := "EightBlocks", name := "read", desc := "(I)I" } : Jvm.MethodName)) ∈ lw_all := lw_g (lw_at lw_m5 91 rfl) rfl
theorem q1147 : (Jvm.Cond.selects "EightBlocks" ({ cls := "EightBlocks", name := "read", desc := "(I)I" } : Jvm.MethodName) ({ cls := "EightBlocks", name := "read", desc := "(I)I" } : Jvm.MethodName)) ∈ lw_all := lw_g (lw_at lw_m5 92 rfl) rfl
theorem q1148 : (Jvm.Cond.codeWith ({ cls := "EightBlocks", name := "read", desc := "(I)I" } : Jvm.MethodName) prog_1_method_34_code (6 : Nat) (Option.some Jvm.ClassFile.FieldType.int) [((16 : Nat), (21 : Nat), (35 : Nat), (51 : Nat)), ((16 : Nat), (21 : Nat), (59 : Nat), (0 : Nat)), ((35 : Nat), (45 : Nat), (59 : Nat), (0 : Nat)), ((59 : Nat), (61 : Nat), (59 : Nat), (0 : Nat))]) ∈ lw_all := lw_g (lw_at lw_m5 93 rfl) rfl
theorem q1149 : (Jvm.Cond.constantLong "EightBlocks" (329 : Nat) (3 : Int64)) ∈ lw_all := lw_g (lw_at lw_m5 94 rfl) rfl
theorem q1150 : (Jvm.Cond.methodLink "EightBlocks" (331 : Nat) ({ cls := "EightBlocks", name := "readAll", desc := "()LEightBlocks$Move;" } : Jvm.MethodName)) ∈ lw_all := lw_g (lw_at lw_m5 95 rfl) rfl
theorem q1151 : (Jvm.Cond.privateMethod ({ cls := "EightBlocks", name := "readAll", desc := "()LEightBlocks$Move;" } : Jvm.MethodName)) ∈ lw_tbl := lw_at lw_m5 96 rfl
theorem q1152 : (Jvm.Cond.instanceMethod ({ cls := "EightBlocks", name := "readAll", desc := "()LEightBlocks$Move;" } : Jvm.MethodName)) ∈ lw_all := lw_g (lw_at lw_m5 97 rfl) rfl
theorem q1153 : (Jvm.Cond.code ({ cls := "EightBlocks", name := "readAll", desc := "()LEightBlocks$Move;" } : Jvm.MethodName) prog_1_method_33_code (2 : Nat) (Option.some (Jvm.ClassFile.FieldType.object "EightBlocks$Move"))) ∈ lw_all := lw_g (lw_at lw_m5 98 rfl) rfl
theorem q1154 : (Jvm.Cond.methodLink "EightBlocks" (313 : Nat) ({ cls := "EightBlocks", name := "readMove", desc := "(I)LEightBlocks$Move;" } : Jvm.MethodName)) ∈ lw_all := lw_g (lw_at lw_m5 99 rfl) rfl
theorem q1155 : (Jvm.Cond.privateMethod ({ cls := "EightBlocks", name := "readMove", desc := "(I)LEightBlocks$Move;" } : Jvm.MethodName)) ∈ lw_tbl := lw_at lw_m5 100 rfl
theorem q1156 : (Jvm.Cond.instanceMethod ({ cls := "EightBlocks", name := "readMove", desc := "(I)LEightBlocks$Move;" } : Jvm.MethodName)) ∈ lw_all := lw_g (lw_at lw_m5 101 rfl) rfl
theorem q1157 : (Jvm.Cond.code ({ cls := "EightBlocks", name := "readMove", desc := "(I)LEightBlocks$Move;" } : Jvm.MethodName) prog_1_method_32_code (3 : Nat) (Option.some (Jvm.ClassFile.FieldType.object "EightBlocks$Move"))) ∈ lw_all := lw_g (lw_at lw_m5 102 rfl) rfl
theorem q1158 : (Jvm.Cond.methodLink "EightBlocks" (321 : Nat) ({ cls := "EightBlocks", name := "readFactor", desc := "(I)LEightBlocks$Move;" } : Jvm.MethodName)) ∈ lw_all := lw_g (lw_at lw_m5 103 rfl) rfl
theorem q1159 : (Jvm.Cond.privateMethod ({ cls := "EightBlocks", name := "readFactor", desc := "(I)LEightBlocks$Move;" } : Jvm.MethodName)) ∈ lw_tbl := lw_at lw_m5 104 rfl
theorem q1160 : (Jvm.Cond.instanceMethod ({ cls := "EightBlocks", name := "readFactor", desc := "(I)LEightBlocks$Move;" } : Jvm.MethodName)) ∈ lw_all := lw_g (lw_at lw_m5 105 rfl) rfl
theorem q1161 : (Jvm.Cond.code ({ cls := "EightBlocks", name := "readFactor", desc := "(I)LEightBlocks$Move;" } : Jvm.MethodName) prog_1_method_31_code (4 : Nat) (Option.some (Jvm.ClassFile.FieldType.object "EightBlocks$Move"))) ∈ lw_all := lw_g (lw_at lw_m5 106 rfl) rfl
theorem q1218 : (Jvm.Cond.methodLink "EightBlocks" (306 : Nat) ({ cls := "EightBlocks", name := "readName", desc := "()LEightBlocks$Move;" } : Jvm.MethodName)) ∈ lw_all := lw_g (lw_at lw_m5 163 rfl) rfl
theorem q1219 : (Jvm.Cond.privateMethod ({ cls := "EightBlocks", name := "readName", desc := "()LEightBlocks$Move;" } : Jvm.MethodName)) ∈ lw_tbl := lw_at lw_m5 164 rfl
theorem q1220 : (Jvm.Cond.instanceMethod ({ cls := "EightBlocks", name := "readName", desc := "()LEightBlocks$Move;" } : Jvm.MethodName)) ∈ lw_all := lw_g (lw_at lw_m5 165 rfl) rfl
theorem q1221 : (Jvm.Cond.code ({ cls := "EightBlocks", name := "readName", desc := "()LEightBlocks$Move;" } : Jvm.MethodName) prog_1_method_29_code (5 : Nat) (Option.some (Jvm.ClassFile.FieldType.object "EightBlocks$Move"))) ∈ lw_all := lw_g (lw_at lw_m5 166 rfl) rfl
theorem q1222 : (Jvm.Cond.methodLink "EightBlocks" (252 : Nat) ({ cls := "EightBlocks$Tape", name := "at", desc := "()I" } : Jvm.MethodName)) ∈ lw_all := lw_g (lw_at lw_m5 167 rfl) rfl
theorem q1223 : (Jvm.Cond.classLink "EightBlocks" (240 : Nat) "java/lang/StringBuilder") ∈ lw_all := lw_g (lw_at lw_m5 168 rfl) rfl
theorem q1224 : (Jvm.Cond.methodLink "EightBlocks" (281 : Nat) ({ cls := "java/lang/StringBuilder", name := "<init>", desc := "()V" } : Jvm.MethodName)) ∈ lw_all := lw_g (lw_at lw_m5 169 rfl) rfl
theorem q1225 : (Jvm.Cond.methodLink "EightBlocks" (273 : Nat) ({ cls := "EightBlocks$Tape", name := "goOn", desc := "(I)V" } : Jvm.MethodName)) ∈ lw_all := lw_g (lw_at lw_m5 170 rfl) rfl
theorem q1226 : (Jvm.Cond.methodLink "EightBlocks" (285 : Nat) ({ cls := "java/lang/StringBuilder", name := "toString", desc := "()Ljava/lang/String;" } : Jvm.MethodName)) ∈ lw_all := lw_g (lw_at lw_m5 171 rfl) rfl
theorem q1227 : (Jvm.Cond.methodLink "EightBlocks" (288 : Nat) ({ cls := "java/lang/String", name := "charAt", desc := "(I)C" } : Jvm.MethodName)) ∈ lw_all := lw_g (lw_at lw_m5 172 rfl) rfl
theorem q1228 : (Jvm.Cond.methodLink "EightBlocks" (255 : Nat) ({ cls := "EightBlocks", name := "faultAt", desc := "(I)LEightBlocks$Fault;" } : Jvm.MethodName)) ∈ lw_all := lw_g (lw_at lw_m5 173 rfl) rfl
theorem q1229 : (Jvm.Cond.privateMethod ({ cls := "EightBlocks", name := "faultAt", desc := "(I)LEightBlocks$Fault;" } : Jvm.MethodName)) ∈ lw_tbl := lw_at lw_m5 174 rfl
theorem q1230 : (Jvm.Cond.instanceMethod ({ cls := "EightBlocks", name := "faultAt", desc := "(I)LEightBlocks$Fault;" } : Jvm.MethodName)) ∈ lw_all := lw_g (lw_at lw_m5 175 rfl) rfl
theorem q1231 : (Jvm.Cond.code ({ cls := "EightBlocks", name := "faultAt", desc := "(I)LEightBlocks$Fault;" } : Jvm.MethodName) prog_1_method_25_code (2 : Nat) (Option.some (Jvm.ClassFile.FieldType.object "EightBlocks$Fault"))) ∈ lw_all := lw_g (lw_at lw_m5 176 rfl) rfl
theorem q1232 : (Jvm.Cond.classLink "EightBlocks" (115 : Nat) "EightBlocks$Move") ∈ lw_all := lw_g (lw_at lw_m5 177 rfl) rfl
theorem q1233 : (Jvm.Cond.methodLinkNest "EightBlocks" (289 : Nat) ({ cls := "EightBlocks$Move", name := "<init>", desc := "()V" } : Jvm.MethodName) "EightBlocks") ∈ lw_tbl := lw_at lw_m5 178 rfl
theorem q1242 : (Jvm.Cond.methodLink "EightBlocks" (310 : Nat) ({ cls := "EightBlocks", name := "readRing", desc := "()LEightBlocks$Move;" } : Jvm.MethodName)) ∈ lw_all := lw_g (lw_at lw_m5 187 rfl) rfl
theorem q1243 : (Jvm.Cond.privateMethod ({ cls := "EightBlocks", name := "readRing", desc := "()LEightBlocks$Move;" } : Jvm.MethodName)) ∈ lw_tbl := lw_at lw_m5 188 rfl
theorem q1244 : (Jvm.Cond.instanceMethod ({ cls := "EightBlocks", name := "readRing", desc := "()LEightBlocks$Move;" } : Jvm.MethodName)) ∈ lw_all := lw_g (lw_at lw_m5 189 rfl) rfl
theorem q1245 : (Jvm.Cond.code ({ cls := "EightBlocks", name := "readRing", desc := "()LEightBlocks$Move;" } : Jvm.MethodName) prog_1_method_30_code (6 : Nat) (Option.some (Jvm.ClassFile.FieldType.object "EightBlocks$Move"))) ∈ lw_all := lw_g (lw_at lw_m5 190 rfl) rfl
theorem q1246 : (Jvm.Cond.classLink "EightBlocks" (290 : Nat) "EightBlocks$Same") ∈ lw_all := lw_g (lw_at lw_m5 191 rfl) rfl
theorem q1247 : (Jvm.Cond.methodLinkNest "EightBlocks" (292 : Nat) ({ cls := "EightBlocks$Same", name := "<init>", desc := "()V" } : Jvm.MethodName) "EightBlocks") ∈ lw_tbl := lw_at lw_m5 192 rfl
theorem q1248 : (Jvm.Cond.methodLink "EightBlocks" (293 : Nat) ({ cls := "EightBlocks", name := "readNumber", desc := "(II)I" } : Jvm.MethodName)) ∈ lw_all := lw_g (lw_at lw_m5 193 rfl) rfl
theorem q1249 : (Jvm.Cond.privateMethod ({ cls := "EightBlocks", name := "readNumber", desc := "(II)I" } : Jvm.MethodName)) ∈ lw_tbl := lw_at lw_m5 194 rfl
theorem q1250 : (Jvm.Cond.instanceMethod ({ cls := "EightBlocks", name := "readNumber", desc := "(II)I" } : Jvm.MethodName)) ∈ lw_all := lw_g (lw_at lw_m5 195 rfl) rfl
theorem q1251 : (Jvm.Cond.code ({ cls := "EightBlocks", name := "readNumber", desc := "(II)I" } : Jvm.MethodName) prog_1_method_28_code (6 : Nat) (Option.some Jvm.ClassFile.FieldType.int)) ∈ lw_all := lw_g (lw_at lw_m5 196 rfl) rfl
theorem q1259 : (Jvm.Cond.methodLink "EightBlocks" (277 : Nat) ({ cls := "EightBlocks", name := "has", desc := "(II)Z" } : Jvm.MethodName)) ∈ lw_all := lw_g (lw_at lw_m5 204 rfl) rfl
theorem q1260 : (Jvm.Cond.methodLinkNest "EightBlocks" (300 : Nat) ({ cls := "EightBlocks$Move", name := "turnBack", desc := "()V" } : Jvm.MethodName) "EightBlocks") ∈ lw_tbl := lw_at lw_m5 205 rfl
theorem q1261 : (Jvm.Cond.methodLink "EightBlocks" (303 : Nat) ({ cls := "EightBlocks", name := "need", desc := "(I)V" } : Jvm.MethodName)) ∈ lw_all := lw_g (lw_at lw_m5 206 rfl) rfl
theorem q1262 : (Jvm.Cond.privateMethod ({ cls := "EightBlocks", name := "need", desc := "(I)V" } : Jvm.MethodName)) ∈ lw_tbl := lw_at lw_m5 207 rfl
theorem q1263 : (Jvm.Cond.instanceMethod ({ cls := "EightBlocks", name := "need", desc := "(I)V" } : Jvm.MethodName)) ∈ lw_all := lw_g (lw_at lw_m5 208 rfl) rfl
theorem q1264 : (Jvm.Cond.code ({ cls := "EightBlocks", name := "need", desc := "(I)V" } : Jvm.MethodName) prog_1_method_27_code (2 : Nat) (Option.none : Option Jvm.ClassFile.FieldType)) ∈ lw_all := lw_g (lw_at lw_m5 209 rfl) rfl
theorem q1265 : (Jvm.Cond.methodLink "EightBlocks" (262 : Nat) ({ cls := "EightBlocks", name := "faultyNext", desc := "()LEightBlocks$Fault;" } : Jvm.MethodName)) ∈ lw_all := lw_g (lw_at lw_m5 210 rfl) rfl
theorem q1266 : (Jvm.Cond.privateMethod ({ cls := "EightBlocks", name := "faultyNext", desc := "()LEightBlocks$Fault;" } : Jvm.MethodName)) ∈ lw_tbl := lw_at lw_m5 211 rfl
theorem q1267 : (Jvm.Cond.instanceMethod ({ cls := "EightBlocks", name := "faultyNext", desc := "()LEightBlocks$Fault;" } : Jvm.MethodName)) ∈ lw_all := lw_g (lw_at lw_m5 212 rfl) rfl
theorem q1268 : (Jvm.Cond.code ({ cls := "EightBlocks", name := "faultyNext", desc := "()LEightBlocks$Fault;" } : Jvm.MethodName) prog_1_method_26_code (1 : Nat) (Option.some (Jvm.ClassFile.FieldType.object "EightBlocks$Fault"))) ∈ lw_all := lw_g (lw_at lw_m5 213 rfl) rfl
theorem q1269 : (Jvm.Cond.methodLink "EightBlocks" (317 : Nat) ({ cls := "EightBlocks$Move", name := "power", desc := "(IZ)LEightBlocks$Move;" } : Jvm.MethodName)) ∈ lw_all := lw_g (lw_at lw_m5 214 rfl) rfl
theorem q1275 : (Jvm.Cond.methodLink "EightBlocks" (324 : Nat) ({ cls := "EightBlocks$Move", name := "then", desc := "(LEightBlocks$Way;)LEightBlocks$Move;" } : Jvm.MethodName)) ∈ lw_all := lw_g (lw_at lw_m5 220 rfl) rfl
theorem q1279 : (Jvm.Cond.methodLink "EightBlocks" (334 : Nat) ({ cls := "java/lang/StringBuilder", name := "setLength", desc := "(I)V" } : Jvm.MethodName)) ∈ lw_all := lw_g (lw_at lw_m5 224 rfl) rfl
theorem q1352 : (Jvm.Cond.methodLink "EightBlocks" (337 : Nat) ({ cls := "EightBlocks$Move", name := "unlike", desc := "(LEightBlocks$Move;)I" } : Jvm.MethodName)) ∈ lw_all := lw_g (lw_at lw_m6 57 rfl) rfl
theorem q1356 : (Jvm.Cond.methodLink "EightBlocks" (340 : Nat) ({ cls := "EightBlocks", name := "note", desc := "()V" } : Jvm.MethodName)) ∈ lw_all := lw_g (lw_at lw_m6 61 rfl) rfl
theorem q1357 : (Jvm.Cond.privateMethod ({ cls := "EightBlocks", name := "note", desc := "()V" } : Jvm.MethodName)) ∈ lw_tbl := lw_at lw_m6 62 rfl
theorem q1358 : (Jvm.Cond.instanceMethod ({ cls := "EightBlocks", name := "note", desc := "()V" } : Jvm.MethodName)) ∈ lw_all := lw_g (lw_at lw_m6 63 rfl) rfl
theorem q1359 : (Jvm.Cond.code ({ cls := "EightBlocks", name := "note", desc := "()V" } : Jvm.MethodName) prog_1_method_49_code (2 : Nat) (Option.none : Option Jvm.ClassFile.FieldType)) ∈ lw_all := lw_g (lw_at lw_m6 64 rfl) rfl
theorem q1360 : (Jvm.Cond.methodLink "EightBlocks" (416 : Nat) ({ cls := "java/lang/System", name := "arraycopy", desc := "(Ljava/lang/Object;ILjava/lang/Object;II)V" } : Jvm.MethodName)) ∈ lw_all := lw_g (lw_at lw_m6 65 rfl) rfl
theorem q1361 : (Jvm.Cond.methodLink "EightBlocks" (422 : Nat) ({ cls := "EightBlocks$Hall", name := "takeFrom", desc := "(LEightBlocks$Hall;)V" } : Jvm.MethodName)) ∈ lw_all := lw_g (lw_at lw_m6 66 rfl) rfl
theorem q1367 : (Jvm.Cond.instanceMethod ({ cls := "EightBlocks", name := "group", desc := "(II)I" } : Jvm.MethodName)) ∈ lw_all := lw_g (lw_at lw_m6 72 rfl) rfl
theorem q1368 : (Jvm.Cond.selects "EightBlocks" ({ cls := "EightBlocks", name := "group", desc := "(II)I" } : Jvm.MethodName) ({ cls := "EightBlocks", name := "group", desc := "(II)I" } : Jvm.MethodName)) ∈ lw_all := lw_g (lw_at lw_m6 73 rfl) rfl
theorem q1369 : (Jvm.Cond.code ({ cls := "EightBlocks", name := "group", desc := "(II)I" } : Jvm.MethodName) prog_1_method_39_code (3 : Nat) (Option.some Jvm.ClassFile.FieldType.int)) ∈ lw_all := lw_g (lw_at lw_m6 74 rfl) rfl
theorem q1370 : (Jvm.Cond.methodLink "EightBlocks" (363 : Nat) ({ cls := "EightBlocks", name := "isMoves", desc := "(I)Z" } : Jvm.MethodName)) ∈ lw_all := lw_g (lw_at lw_m6 75 rfl) rfl
theorem q1371 : (Jvm.Cond.static ({ cls := "EightBlocks", name := "isMoves", desc := "(I)Z" } : Jvm.MethodName)) ∈ lw_all := lw_g (lw_at lw_m6 76 rfl) rfl
theorem q1372 : (Jvm.Cond.code ({ cls := "EightBlocks", name := "isMoves", desc := "(I)Z" } : Jvm.MethodName) prog_1_method_35_code (1 : Nat) (Option.some Jvm.ClassFile.FieldType.boolean)) ∈ lw_all := lw_g (lw_at lw_m6 77 rfl) rfl
theorem q1373 : (Jvm.Cond.constantLong "EightBlocks" (343 : Nat) (15 : Int64)) ∈ lw_all := lw_g (lw_at lw_m6 78 rfl) rfl
theorem q1374 : (Jvm.Cond.methodLink "EightBlocks" (366 : Nat) ({ cls := "EightBlocks", name := "keepAll", desc := "(I)Z" } : Jvm.MethodName)) ∈ lw_all := lw_g (lw_at lw_m6 79 rfl) rfl
theorem q1375 : (Jvm.Cond.privateMethod ({ cls := "EightBlocks", name := "keepAll", desc := "(I)Z" } : Jvm.MethodName)) ∈ lw_tbl := lw_at lw_m6 80 rfl
theorem q1376 : (Jvm.Cond.instanceMethod ({ cls := "EightBlocks", name := "keepAll", desc := "(I)Z" } : Jvm.MethodName)) ∈ lw_all := lw_g (lw_at lw_m6 81 rfl) rfl
theorem q1377 : (Jvm.Cond.code ({ cls := "EightBlocks", name := "keepAll", desc := "(I)Z" } : Jvm.MethodName) prog_1_method_36_code (4 : Nat) (Option.some Jvm.ClassFile.FieldType.boolean)) ∈ lw_all := lw_g (lw_at lw_m6 82 rfl) rfl
theorem q1378 : (Jvm.Cond.methodLink "EightBlocks" (369 : Nat) ({ cls := "EightBlocks", name := "order", desc := "(I)I" } : Jvm.MethodName)) ∈ lw_all := lw_g (lw_at lw_m6 83 rfl) rfl
theorem q1379 : (Jvm.Cond.privateMethod ({ cls := "EightBlocks", name := "order", desc := "(I)I" } : Jvm.MethodName)) ∈ lw_tbl := lw_at lw_m6 84 rfl
theorem q1380 : (Jvm.Cond.instanceMethod ({ cls := "EightBlocks", name := "order", desc := "(I)I" } : Jvm.MethodName)) ∈ lw_all := lw_g (lw_at lw_m6 85 rfl) rfl
theorem q1381 : (Jvm.Cond.code ({ cls := "EightBlocks", name := "order", desc := "(I)I" } : Jvm.MethodName) prog_1_method_38_code (2 : Nat) (Option.some Jvm.ClassFile.FieldType.int)) ∈ lw_all := lw_g (lw_at lw_m6 86 rfl) rfl
theorem q1382 : (Jvm.Cond.methodLink "EightBlocks" (356 : Nat) ({ cls := "EightBlocks", name := "layChain", desc := "(II)V" } : Jvm.MethodName)) ∈ lw_all := lw_g (lw_at lw_m6 87 rfl) rfl
theorem q1383 : (Jvm.Cond.privateMethod ({ cls := "EightBlocks", name := "layChain", desc := "(II)V" } : Jvm.MethodName)) ∈ lw_tbl := lw_at lw_m6 88 rfl
theorem q1384 : (Jvm.Cond.instanceMethod ({ cls := "EightBlocks", name := "layChain", desc := "(II)V" } : Jvm.MethodName)) ∈ lw_all := lw_g (lw_at lw_m6 89 rfl) rfl
theorem q1385 : (Jvm.Cond.code ({ cls := "EightBlocks", name := "layChain", desc := "(II)V" } : Jvm.MethodName) prog_1_method_37_code (4 : Nat) (Option.none : Option Jvm.ClassFile.FieldType)) ∈ lw_all := lw_g (lw_at lw_m6 90 rfl) rfl
theorem q1386 : (Jvm.Cond.methodLink "EightBlocks" (345 : Nat) ({ cls := "EightBlocks$Chain", name := "begin", desc := "([II)V" } : Jvm.MethodName)) ∈ lw_all := lw_g (lw_at lw_m6 91 rfl) rfl
theorem q1391 : (Jvm.Cond.methodLink "EightBlocks" (349 : Nat) ({ cls := "EightBlocks$Chain", name := "add", desc := "(LEightBlocks$Move;)V" } : Jvm.MethodName)) ∈ lw_all := lw_g (lw_at lw_m6 96 rfl) rfl
theorem q1401 : (Jvm.Cond.methodLink "EightBlocks" (353 : Nat) ({ cls := "EightBlocks$Chain", name := "close", desc := "()V" } : Jvm.MethodName)) ∈ lw_all := lw_g (lw_at lw_m6 106 rfl) rfl
theorem q1434 : (Jvm.Cond.methodLink "EightBlocks" (360 : Nat) ({ cls := "EightBlocks$Chain", name := "order", desc := "(I)I" } : Jvm.MethodName)) ∈ lw_all := lw_g (lw_at lw_m6 139 rfl) rfl
theorem q1438 : (Jvm.Cond.methodLink "EightBlocks" (370 : Nat) ({ cls := "EightBlocks$Things", name := "of", desc := "(ILEightBlocks$Code;)LEightBlocks$Things;" } : Jvm.MethodName)) ∈ lw_all := lw_g (lw_at lw_m6 143 rfl) rfl
theorem q1471 : (Jvm.Cond.interfaceEntry "EightBlocks" (376 : Nat)) ∈ lw_tbl := lw_at lw_m6 176 rfl
theorem q1472 : (Jvm.Cond.methodLink "EightBlocks" (376 : Nat) ({ cls := "EightBlocks$Things", name := "parts", desc := "(LEightBlocks$Flood;LEightBlocks$Hall;I)I" } : Jvm.MethodName)) ∈ lw_all := lw_g (lw_at lw_m6 177 rfl) rfl
theorem q1556 : (Jvm.Cond.instanceMethod ({ cls := "EightBlocks", name := "held", desc := "(III)I" } : Jvm.MethodName)) ∈ lw_all := lw_g (lw_at lw_m7 21 rfl) rfl
theorem q1557 : (Jvm.Cond.selects "EightBlocks" ({ cls := "EightBlocks", name := "held", desc := "(III)I" } : Jvm.MethodName) ({ cls := "EightBlocks", name := "held", desc := "(III)I" } : Jvm.MethodName)) ∈ lw_all := lw_g (lw_at lw_m7 22 rfl) rfl
theorem q1558 : (Jvm.Cond.code ({ cls := "EightBlocks", name := "held", desc := "(III)I" } : Jvm.MethodName) prog_1_method_43_code (4 : Nat) (Option.some Jvm.ClassFile.FieldType.int)) ∈ lw_all := lw_g (lw_at lw_m7 23 rfl) rfl
theorem q1559 : (Jvm.Cond.methodLink "EightBlocks" (397 : Nat) ({ cls := "EightBlocks", name := "reached", desc := "(II)I" } : Jvm.MethodName)) ∈ lw_all := lw_g (lw_at lw_m7 24 rfl) rfl
theorem q1560 : (Jvm.Cond.privateMethod ({ cls := "EightBlocks", name := "reached", desc := "(II)I" } : Jvm.MethodName)) ∈ lw_tbl := lw_at lw_m7 25 rfl
theorem q1561 : (Jvm.Cond.instanceMethod ({ cls := "EightBlocks", name := "reached", desc := "(II)I" } : Jvm.MethodName)) ∈ lw_all := lw_g (lw_at lw_m7 26 rfl) rfl
theorem q1562 : (Jvm.Cond.code ({ cls := "EightBlocks", name := "reached", desc := "(II)I" } : Jvm.MethodName) prog_1_method_40_code (6 : Nat) (Option.some Jvm.ClassFile.FieldType.int)) ∈ lw_all := lw_g (lw_at lw_m7 27 rfl) rfl
theorem q1563 : (Jvm.Cond.methodLink "EightBlocks" (400 : Nat) ({ cls := "EightBlocks", name := "leaving", desc := "(II)I" } : Jvm.MethodName)) ∈ lw_all := lw_g (lw_at lw_m7 28 rfl) rfl
theorem q1564 : (Jvm.Cond.privateMethod ({ cls := "EightBlocks", name := "leaving", desc := "(II)I" } : Jvm.MethodName)) ∈ lw_tbl := lw_at lw_m7 29 rfl
theorem q1565 : (Jvm.Cond.instanceMethod ({ cls := "EightBlocks", name := "leaving", desc := "(II)I" } : Jvm.MethodName)) ∈ lw_all := lw_g (lw_at lw_m7 30 rfl) rfl
theorem q1566 : (Jvm.Cond.code ({ cls := "EightBlocks", name := "leaving", desc := "(II)I" } : Jvm.MethodName) prog_1_method_41_code (5 : Nat) (Option.some Jvm.ClassFile.FieldType.int)) ∈ lw_all := lw_g (lw_at lw_m7 31 rfl) rfl
theorem q1567 : (Jvm.Cond.methodLink "EightBlocks" (403 : Nat) ({ cls := "EightBlocks", name := "turning", desc := "(II)I" } : Jvm.MethodName)) ∈ lw_all := lw_g (lw_at lw_m7 32 rfl) rfl
theorem q1568 : (Jvm.Cond.privateMethod ({ cls := "EightBlocks", name := "turning", desc := "(II)I" } : Jvm.MethodName)) ∈ lw_tbl := lw_at lw_m7 33 rfl
theorem q1569 : (Jvm.Cond.instanceMethod ({ cls := "EightBlocks", name := "turning", desc := "(II)I" } : Jvm.MethodName)) ∈ lw_all := lw_g (lw_at lw_m7 34 rfl) rfl
theorem q1570 : (Jvm.Cond.code ({ cls := "EightBlocks", name := "turning", desc := "(II)I" } : Jvm.MethodName) prog_1_method_42_code (5 : Nat) (Option.some Jvm.ClassFile.FieldType.int)) ∈ lw_all := lw_g (lw_at lw_m7 35 rfl) rfl
theorem q1571 : (Jvm.Cond.classLink "EightBlocks" (380 : Nat) "EightBlocks$Rows") ∈ lw_all := lw_g (lw_at lw_m7 36 rfl) rfl
theorem q1572 : (Jvm.Cond.methodLink "EightBlocks" (385 : Nat) ({ cls := "EightBlocks$Rows", name := "<init>", desc := "([I)V" } : Jvm.MethodName)) ∈ lw_all := lw_g (lw_at lw_m7 37 rfl) rfl
theorem q1573 : (Jvm.Cond.methodLink "EightBlocks" (388 : Nat) ({ cls := "EightBlocks$Flood", name := "clear", desc := "()V" } : Jvm.MethodName)) ∈ lw_all := lw_g (lw_at lw_m7 38 rfl) rfl
theorem q1574 : (Jvm.Cond.methodLink "EightBlocks" (391 : Nat) ({ cls := "EightBlocks$Rows", name := "at", desc := "(I)I" } : Jvm.MethodName)) ∈ lw_all := lw_g (lw_at lw_m7 39 rfl) rfl
theorem q1575 : (Jvm.Cond.methodLink "EightBlocks" (393 : Nat) ({ cls := "EightBlocks$Flood", name := "spread", desc := "(LEightBlocks$Things;ILEightBlocks$Hall;I)I" } : Jvm.MethodName)) ∈ lw_all := lw_g (lw_at lw_m7 40 rfl) rfl
theorem q1577 : (Jvm.Cond.instanceMethod ({ cls := "EightBlocks", name := "holds", desc := "(II)I" } : Jvm.MethodName)) ∈ lw_all := lw_g (lw_at lw_m7 42 rfl) rfl
theorem q1578 : (Jvm.Cond.selects "EightBlocks" ({ cls := "EightBlocks", name := "holds", desc := "(II)I" } : Jvm.MethodName) ({ cls := "EightBlocks", name := "holds", desc := "(II)I" } : Jvm.MethodName)) ∈ lw_all := lw_g (lw_at lw_m7 43 rfl) rfl
theorem q1579 : (Jvm.Cond.code ({ cls := "EightBlocks", name := "holds", desc := "(II)I" } : Jvm.MethodName) prog_1_method_44_code (3 : Nat) (Option.some Jvm.ClassFile.FieldType.int)) ∈ lw_all := lw_g (lw_at lw_m7 44 rfl) rfl
theorem q1580 : (Jvm.Cond.methodLink "EightBlocks" (406 : Nat) ({ cls := "EightBlocks$Chain", name := "isMade", desc := "(LEightBlocks$Move;)Z" } : Jvm.MethodName)) ∈ lw_all := lw_g (lw_at lw_m7 45 rfl) rfl
theorem q1585 : (Jvm.Cond.instanceMethod ({ cls := "EightBlocks", name := "choose", desc := "(I)I" } : Jvm.MethodName)) ∈ lw_all := lw_g (lw_at lw_m7 50 rfl) rfl
theorem q1586 : (Jvm.Cond.selects "EightBlocks" ({ cls := "EightBlocks", name := "choose", desc := "(I)I" } : Jvm.MethodName) ({ cls := "EightBlocks", name := "choose", desc := "(I)I" } : Jvm.MethodName)) ∈ lw_all := lw_g (lw_at lw_m7 51 rfl) rfl
theorem q1587 : (Jvm.Cond.code ({ cls := "EightBlocks", name := "choose", desc := "(I)I" } : Jvm.MethodName) prog_1_method_45_code (3 : Nat) (Option.some Jvm.ClassFile.FieldType.int)) ∈ lw_all := lw_g (lw_at lw_m7 52 rfl) rfl
theorem q1588 : (Jvm.Cond.methodLink "EightBlocks" (410 : Nat) ({ cls := "EightBlocks$Code", name := "isWord", desc := "(II)Z" } : Jvm.MethodName)) ∈ lw_all := lw_g (lw_at lw_m7 53 rfl) rfl
theorem q1593 : (Jvm.Cond.instanceMethod ({ cls := "EightBlocks", name := "hexad", desc := "(I)I" } : Jvm.MethodName)) ∈ lw_all := lw_g (lw_at lw_m7 58 rfl) rfl
theorem q1594 : (Jvm.Cond.selects "EightBlocks" ({ cls := "EightBlocks", name := "hexad", desc := "(I)I" } : Jvm.MethodName) ({ cls := "EightBlocks", name := "hexad", desc := "(I)I" } : Jvm.MethodName)) ∈ lw_all := lw_g (lw_at lw_m7 59 rfl) rfl
theorem q1595 : (Jvm.Cond.code ({ cls := "EightBlocks", name := "hexad", desc := "(I)I" } : Jvm.MethodName) prog_1_method_46_code (2 : Nat) (Option.some Jvm.ClassFile.FieldType.int)) ∈ lw_all := lw_g (lw_at lw_m7 60 rfl) rfl
theorem q1597 : (Jvm.Cond.instanceMethod ({ cls := "EightBlocks", name := "turn", desc := "(II)I" } : Jvm.MethodName)) ∈ lw_all := lw_g (lw_at lw_m7 62 rfl) rfl
theorem q1598 : (Jvm.Cond.selects "EightBlocks" ({ cls := "EightBlocks", name := "turn", desc := "(II)I" } : Jvm.MethodName) ({ cls := "EightBlocks", name := "turn", desc := "(II)I" } : Jvm.MethodName)) ∈ lw_all := lw_g (lw_at lw_m7 63 rfl) rfl
theorem q1599 : (Jvm.Cond.code ({ cls := "EightBlocks", name := "turn", desc := "(II)I" } : Jvm.MethodName) prog_1_method_47_code (10 : Nat) (Option.some Jvm.ClassFile.FieldType.int)) ∈ lw_all := lw_g (lw_at lw_m7 64 rfl) rfl
theorem q1601 : (Jvm.Cond.instanceMethod ({ cls := "EightBlocks", name := "pair", desc := "(I)I" } : Jvm.MethodName)) ∈ lw_all := lw_g (lw_at lw_m7 66 rfl) rfl
theorem q1602 : (Jvm.Cond.selects "EightBlocks" ({ cls := "EightBlocks", name := "pair", desc := "(I)I" } : Jvm.MethodName) ({ cls := "EightBlocks", name := "pair", desc := "(I)I" } : Jvm.MethodName)) ∈ lw_all := lw_g (lw_at lw_m7 67 rfl) rfl
theorem q1603 : (Jvm.Cond.code ({ cls := "EightBlocks", name := "pair", desc := "(I)I" } : Jvm.MethodName) prog_1_method_48_code (3 : Nat) (Option.some Jvm.ClassFile.FieldType.int)) ∈ lw_all := lw_g (lw_at lw_m7 68 rfl) rfl
theorem q1605 : (Jvm.Cond.instanceMethod ({ cls := "EightBlocks", name := "drift", desc := "(I)I" } : Jvm.MethodName)) ∈ lw_all := lw_g (lw_at lw_m7 70 rfl) rfl
theorem q1606 : (Jvm.Cond.selects "EightBlocks" ({ cls := "EightBlocks", name := "drift", desc := "(I)I" } : Jvm.MethodName) ({ cls := "EightBlocks", name := "drift", desc := "(I)I" } : Jvm.MethodName)) ∈ lw_all := lw_g (lw_at lw_m7 71 rfl) rfl
theorem q1607 : (Jvm.Cond.code ({ cls := "EightBlocks", name := "drift", desc := "(I)I" } : Jvm.MethodName) prog_1_method_50_code (5 : Nat) (Option.some Jvm.ClassFile.FieldType.int)) ∈ lw_all := lw_g (lw_at lw_m7 72 rfl) rfl
theorem q1608 : (Jvm.Cond.constantLong "EightBlocks" (426 : Nat) (40 : Int64)) ∈ lw_all := lw_g (lw_at lw_m7 73 rfl) rfl
theorem q1609 : (Jvm.Cond.constantLong "EightBlocks" (428 : Nat) (1103515245 : Int64)) ∈ lw_all := lw_g (lw_at lw_m7 74 rfl) rfl
theorem q1610 : (Jvm.Cond.constantLong "EightBlocks" (430 : Nat) (12345 : Int64)) ∈ lw_all := lw_g (lw_at lw_m7 75 rfl) rfl
theorem q1611 : (Jvm.Cond.constantLong "EightBlocks" (432 : Nat) (2147483647 : Int64)) ∈ lw_all := lw_g (lw_at lw_m7 76 rfl) rfl
theorem q1612 : (Jvm.Cond.constant "EightBlocks" (434 : Nat) (65536 : Int32)) ∈ lw_all := lw_g (lw_at lw_m7 77 rfl) rfl
theorem q1614 : (Jvm.Cond.instanceMethod ({ cls := "EightBlocks", name := "undo", desc := "()I" } : Jvm.MethodName)) ∈ lw_all := lw_g (lw_at lw_m7 79 rfl) rfl
theorem q1615 : (Jvm.Cond.selects "EightBlocks" ({ cls := "EightBlocks", name := "undo", desc := "()I" } : Jvm.MethodName) ({ cls := "EightBlocks", name := "undo", desc := "()I" } : Jvm.MethodName)) ∈ lw_all := lw_g (lw_at lw_m7 80 rfl) rfl
theorem q1616 : (Jvm.Cond.code ({ cls := "EightBlocks", name := "undo", desc := "()I" } : Jvm.MethodName) prog_1_method_51_code (1 : Nat) (Option.some Jvm.ClassFile.FieldType.int)) ∈ lw_all := lw_g (lw_at lw_m7 81 rfl) rfl
theorem q1618 : (Jvm.Cond.instanceMethod ({ cls := "EightBlocks", name := "seed", desc := "(I)I" } : Jvm.MethodName)) ∈ lw_all := lw_g (lw_at lw_m7 83 rfl) rfl
theorem q1619 : (Jvm.Cond.selects "EightBlocks" ({ cls := "EightBlocks", name := "seed", desc := "(I)I" } : Jvm.MethodName) ({ cls := "EightBlocks", name := "seed", desc := "(I)I" } : Jvm.MethodName)) ∈ lw_all := lw_g (lw_at lw_m7 84 rfl) rfl
theorem q1620 : (Jvm.Cond.code ({ cls := "EightBlocks", name := "seed", desc := "(I)I" } : Jvm.MethodName) prog_1_method_52_code (3 : Nat) (Option.some Jvm.ClassFile.FieldType.int)) ∈ lw_all := lw_g (lw_at lw_m7 85 rfl) rfl
theorem q1622 : (Jvm.Cond.instanceMethod ({ cls := "EightBlocks", name := "count", desc := "(I)I" } : Jvm.MethodName)) ∈ lw_all := lw_g (lw_at lw_m7 87 rfl) rfl
theorem q1623 : (Jvm.Cond.selects "EightBlocks" ({ cls := "EightBlocks", name := "count", desc := "(I)I" } : Jvm.MethodName) ({ cls := "EightBlocks", name := "count", desc := "(I)I" } : Jvm.MethodName)) ∈ lw_all := lw_g (lw_at lw_m7 88 rfl) rfl
theorem q1624 : (Jvm.Cond.code ({ cls := "EightBlocks", name := "count", desc := "(I)I" } : Jvm.MethodName) prog_1_method_54_code (2 : Nat) (Option.some Jvm.ClassFile.FieldType.int)) ∈ lw_all := lw_g (lw_at lw_m7 89 rfl) rfl
theorem q1625 : (Jvm.Cond.methodLink "EightBlocks" (435 : Nat) ({ cls := "EightBlocks", name := "keeping", desc := "()I" } : Jvm.MethodName)) ∈ lw_all := lw_g (lw_at lw_m7 90 rfl) rfl
theorem q1626 : (Jvm.Cond.privateMethod ({ cls := "EightBlocks", name := "keeping", desc := "()I" } : Jvm.MethodName)) ∈ lw_tbl := lw_at lw_m7 91 rfl
theorem q1627 : (Jvm.Cond.instanceMethod ({ cls := "EightBlocks", name := "keeping", desc := "()I" } : Jvm.MethodName)) ∈ lw_all := lw_g (lw_at lw_m7 92 rfl) rfl
theorem q1628 : (Jvm.Cond.code ({ cls := "EightBlocks", name := "keeping", desc := "()I" } : Jvm.MethodName) prog_1_method_53_code (3 : Nat) (Option.some Jvm.ClassFile.FieldType.int)) ∈ lw_all := lw_g (lw_at lw_m7 93 rfl) rfl
theorem q1630 : (Jvm.Cond.instanceMethod ({ cls := "EightBlocks", name := "image", desc := "()I" } : Jvm.MethodName)) ∈ lw_all := lw_g (lw_at lw_m7 95 rfl) rfl
theorem q1631 : (Jvm.Cond.selects "EightBlocks" ({ cls := "EightBlocks", name := "image", desc := "()I" } : Jvm.MethodName) ({ cls := "EightBlocks", name := "image", desc := "()I" } : Jvm.MethodName)) ∈ lw_all := lw_g (lw_at lw_m7 96 rfl) rfl
theorem q1632 : (Jvm.Cond.code ({ cls := "EightBlocks", name := "image", desc := "()I" } : Jvm.MethodName) prog_1_method_55_code (2 : Nat) (Option.some Jvm.ClassFile.FieldType.int)) ∈ lw_all := lw_g (lw_at lw_m7 97 rfl) rfl
theorem q1634 : (Jvm.Cond.instanceMethod ({ cls := "EightBlocks", name := "restore", desc := "()I" } : Jvm.MethodName)) ∈ lw_all := lw_g (lw_at lw_m7 99 rfl) rfl
theorem q1635 : (Jvm.Cond.selects "EightBlocks" ({ cls := "EightBlocks", name := "restore", desc := "()I" } : Jvm.MethodName) ({ cls := "EightBlocks", name := "restore", desc := "()I" } : Jvm.MethodName)) ∈ lw_all := lw_g (lw_at lw_m7 100 rfl) rfl
theorem q1636 : (Jvm.Cond.code ({ cls := "EightBlocks", name := "restore", desc := "()I" } : Jvm.MethodName) prog_1_method_56_code (2 : Nat) (Option.some Jvm.ClassFile.FieldType.int)) ∈ lw_all := lw_g (lw_at lw_m7 101 rfl) rfl
theorem q1638 : (Jvm.Cond.instanceMethod ({ cls := "EightBlocks", name := "retrace", desc := "(IIIII)I" } : Jvm.MethodName)) ∈ lw_all := lw_g (lw_at lw_m7 103 rfl) rfl
theorem q1639 : (Jvm.Cond.selects "EightBlocks" ({ cls := "EightBlocks", name := "retrace", desc := "(IIIII)I" } : Jvm.MethodName) ({ cls := "EightBlocks", name := "retrace", desc := "(IIIII)I" } : Jvm.MethodName)) ∈ lw_all := lw_g (lw_at lw_m7 104 rfl) rfl
theorem q1640 : (Jvm.Cond.code ({ cls := "EightBlocks", name := "retrace", desc := "(IIIII)I" } : Jvm.MethodName) prog_1_method_61_code (7 : Nat) (Option.some Jvm.ClassFile.FieldType.int)) ∈ lw_all := lw_g (lw_at lw_m7 105 rfl) rfl
theorem q1641 : (Jvm.Cond.methodLink "EightBlocks" (461 : Nat) ({ cls := "EightBlocks", name := "isSheet", desc := "(II)Z" } : Jvm.MethodName)) ∈ lw_all := lw_g (lw_at lw_m7 106 rfl) rfl
theorem q1642 : (Jvm.Cond.static ({ cls := "EightBlocks", name := "isSheet", desc := "(II)Z" } : Jvm.MethodName)) ∈ lw_all := lw_g (lw_at lw_m7 107 rfl) rfl
theorem q1643 : (Jvm.Cond.code ({ cls := "EightBlocks", name := "isSheet", desc := "(II)Z" } : Jvm.MethodName) prog_1_method_57_code (2 : Nat) (Option.some Jvm.ClassFile.FieldType.boolean)) ∈ lw_all := lw_g (lw_at lw_m7 108 rfl) rfl
theorem q1644 : (Jvm.Cond.methodLink "EightBlocks" (464 : Nat) ({ cls := "EightBlocks", name := "lacks", desc := "(IIII)I" } : Jvm.MethodName)) ∈ lw_all := lw_g (lw_at lw_m7 109 rfl) rfl
theorem q1645 : (Jvm.Cond.privateMethod ({ cls := "EightBlocks", name := "lacks", desc := "(IIII)I" } : Jvm.MethodName)) ∈ lw_tbl := lw_at lw_m7 110 rfl
theorem q1646 : (Jvm.Cond.instanceMethod ({ cls := "EightBlocks", name := "lacks", desc := "(IIII)I" } : Jvm.MethodName)) ∈ lw_all := lw_g (lw_at lw_m7 111 rfl) rfl
theorem q1647 : (Jvm.Cond.code ({ cls := "EightBlocks", name := "lacks", desc := "(IIII)I" } : Jvm.MethodName) prog_1_method_58_code (6 : Nat) (Option.some Jvm.ClassFile.FieldType.int)) ∈ lw_all := lw_g (lw_at lw_m7 112 rfl) rfl
theorem q1648 : (Jvm.Cond.methodLink "EightBlocks" (449 : Nat) ({ cls := "EightBlocks$Sheet", name := "lane", desc := "()I" } : Jvm.MethodName)) ∈ lw_all := lw_g (lw_at lw_m7 113 rfl) rfl
theorem q1655 : (Jvm.Cond.methodLink "EightBlocks" (452 : Nat) ({ cls := "EightBlocks$Sheet", name := "size", desc := "()I" } : Jvm.MethodName)) ∈ lw_all := lw_g (lw_at lw_m7 120 rfl) rfl
theorem q1660 : (Jvm.Cond.methodLink "EightBlocks" (468 : Nat) ({ cls := "EightBlocks", name := "isGood", desc := "(LEightBlocks$Sheet;II)Z" } : Jvm.MethodName)) ∈ lw_all := lw_g (lw_at lw_m7 125 rfl) rfl
theorem q1661 : (Jvm.Cond.privateMethod ({ cls := "EightBlocks", name := "isGood", desc := "(LEightBlocks$Sheet;II)Z" } : Jvm.MethodName)) ∈ lw_tbl := lw_at lw_m7 126 rfl
theorem q1662 : (Jvm.Cond.instanceMethod ({ cls := "EightBlocks", name := "isGood", desc := "(LEightBlocks$Sheet;II)Z" } : Jvm.MethodName)) ∈ lw_all := lw_g (lw_at lw_m7 127 rfl) rfl
theorem q1663 : (Jvm.Cond.code ({ cls := "EightBlocks", name := "isGood", desc := "(LEightBlocks$Sheet;II)Z" } : Jvm.MethodName) prog_1_method_59_code (6 : Nat) (Option.some Jvm.ClassFile.FieldType.boolean)) ∈ lw_all := lw_g (lw_at lw_m7 128 rfl) rfl
theorem q1664 : (Jvm.Cond.methodLink "EightBlocks" (454 : Nat) ({ cls := "EightBlocks$Sheet", name := "get", desc := "(I)J" } : Jvm.MethodName)) ∈ lw_all := lw_g (lw_at lw_m7 129 rfl) rfl
theorem q1668 : (Jvm.Cond.methodLink "EightBlocks" (472 : Nat) ({ cls := "EightBlocks", name := "found", desc := "(ILEightBlocks$Sheet;II)I" } : Jvm.MethodName)) ∈ lw_all := lw_g (lw_at lw_m7 133 rfl) rfl
theorem q1669 : (Jvm.Cond.privateMethod ({ cls := "EightBlocks", name := "found", desc := "(ILEightBlocks$Sheet;II)I" } : Jvm.MethodName)) ∈ lw_tbl := lw_at lw_m7 134 rfl
theorem q1670 : (Jvm.Cond.instanceMethod ({ cls := "EightBlocks", name := "found", desc := "(ILEightBlocks$Sheet;II)I" } : Jvm.MethodName)) ∈ lw_all := lw_g (lw_at lw_m7 135 rfl) rfl
theorem q1671 : (Jvm.Cond.code ({ cls := "EightBlocks", name := "found", desc := "(ILEightBlocks$Sheet;II)I" } : Jvm.MethodName) prog_1_method_60_code (11 : Nat) (Option.some Jvm.ClassFile.FieldType.int)) ∈ lw_all := lw_g (lw_at lw_m7 136 rfl) rfl
theorem q1672 : (Jvm.Cond.methodLink "EightBlocks" (458 : Nat) ({ cls := "EightBlocks$Chain", name := "first", desc := "([II)LEightBlocks$Move;" } : Jvm.MethodName)) ∈ lw_all := lw_g (lw_at lw_m7 137 rfl) rfl
theorem q1686 : (Jvm.Cond.instanceMethod ({ cls := "EightBlocks", name := "film", desc := "(IIII)I" } : Jvm.MethodName)) ∈ lw_all := lw_g (lw_at lw_m7 151 rfl) rfl
theorem q1687 : (Jvm.Cond.selects "EightBlocks" ({ cls := "EightBlocks", name := "film", desc := "(IIII)I" } : Jvm.MethodName) ({ cls := "EightBlocks", name := "film", desc := "(IIII)I" } : Jvm.MethodName)) ∈ lw_all := lw_g (lw_at lw_m7 152 rfl) rfl
theorem q1688 : (Jvm.Cond.code ({ cls := "EightBlocks", name := "film", desc := "(IIII)I" } : Jvm.MethodName) prog_1_method_62_code (7 : Nat) (Option.some Jvm.ClassFile.FieldType.int)) ∈ lw_all := lw_g (lw_at lw_m7 153 rfl) rfl
theorem q1689 : (Jvm.Cond.methodLink "EightBlocks" (476 : Nat) ({ cls := "EightBlocks$Sheet", name := "lay", desc := "(IIJ)V" } : Jvm.MethodName)) ∈ lw_all := lw_g (lw_at lw_m7 154 rfl) rfl
theorem q1694 : (Jvm.Cond.instanceMethod ({ cls := "EightBlocks", name := "sheet", desc := "(III)I" } : Jvm.MethodName)) ∈ lw_all := lw_g (lw_at lw_m7 159 rfl) rfl
theorem q1695 : (Jvm.Cond.selects "EightBlocks" ({ cls := "EightBlocks", name := "sheet", desc := "(III)I" } : Jvm.MethodName) ({ cls := "EightBlocks", name := "sheet", desc := "(III)I" } : Jvm.MethodName)) ∈ lw_all := lw_g (lw_at lw_m7 160 rfl) rfl
theorem q1696 : (Jvm.Cond.codeWith ({ cls := "EightBlocks", name := "sheet", desc := "(III)I" } : Jvm.MethodName) prog_1_method_63_code (5 : Nat) (Option.some Jvm.ClassFile.FieldType.int) [((16 : Nat), (60 : Nat), (63 : Nat), (480 : Nat))]) ∈ lw_all := lw_g (lw_at lw_m7 161 rfl) rfl
theorem q1697 : (Jvm.Cond.classLink "EightBlocks" (480 : Nat) "java/lang/NegativeArraySizeException") ∈ lw_all := lw_g (lw_at lw_m7 162 rfl) rfl
theorem q1704 : (Jvm.Cond.instanceMethod ({ cls := "EightBlocks", name := "drop", desc := "(I)I" } : Jvm.MethodName)) ∈ lw_all := lw_g (lw_at lw_m7 169 rfl) rfl
theorem q1705 : (Jvm.Cond.selects "EightBlocks" ({ cls := "EightBlocks", name := "drop", desc := "(I)I" } : Jvm.MethodName) ({ cls := "EightBlocks", name := "drop", desc := "(I)I" } : Jvm.MethodName)) ∈ lw_all := lw_g (lw_at lw_m7 170 rfl) rfl
theorem q1706 : (Jvm.Cond.code ({ cls := "EightBlocks", name := "drop", desc := "(I)I" } : Jvm.MethodName) prog_1_method_64_code (3 : Nat) (Option.some Jvm.ClassFile.FieldType.int)) ∈ lw_all := lw_g (lw_at lw_m7 171 rfl) rfl
theorem q1708 : (Jvm.Cond.instanceMethod ({ cls := "EightBlocks", name := "item", desc := "(IIIJ)I" } : Jvm.MethodName)) ∈ lw_all := lw_g (lw_at lw_m7 173 rfl) rfl
theorem q1709 : (Jvm.Cond.selects "EightBlocks" ({ cls := "EightBlocks", name := "item", desc := "(IIIJ)I" } : Jvm.MethodName) ({ cls := "EightBlocks", name := "item", desc := "(IIIJ)I" } : Jvm.MethodName)) ∈ lw_all := lw_g (lw_at lw_m7 174 rfl) rfl
theorem q1710 : (Jvm.Cond.codeWith ({ cls := "EightBlocks", name := "item", desc := "(IIIJ)I" } : Jvm.MethodName) prog_1_method_65_code (7 : Nat) (Option.some Jvm.ClassFile.FieldType.int) [((10 : Nat), (23 : Nat), (26 : Nat), (482 : Nat)), ((10 : Nat), (23 : Nat), (31 : Nat), (484 : Nat)), ((10 : Nat), (23 : Nat), (36 : Nat), (486 : Nat))]) ∈ lw_all := lw_g (lw_at lw_m7 175 rfl) rfl
theorem q1711 : (Jvm.Cond.classLink "EightBlocks" (482 : Nat) "java/lang/NullPointerException") ∈ lw_all := lw_g (lw_at lw_m7 176 rfl) rfl
theorem q1730 : (Jvm.Cond.classLink "EightBlocks" (484 : Nat) "java/lang/ClassCastException") ∈ lw_all := lw_g (lw_at lw_m7 195 rfl) rfl
theorem q1744 : (Jvm.Cond.classLink "EightBlocks" (486 : Nat) "java/lang/ArrayIndexOutOfBoundsException") ∈ lw_all := lw_g (lw_at lw_m7 209 rfl) rfl
theorem q1748 : (Jvm.Cond.instanceMethod ({ cls := "EightBlocks", name := "copy", desc := "(IIIII)I" } : Jvm.MethodName)) ∈ lw_all := lw_g (lw_at lw_m7 213 rfl) rfl
theorem q1749 : (Jvm.Cond.selects "EightBlocks" ({ cls := "EightBlocks", name := "copy", desc := "(IIIII)I" } : Jvm.MethodName) ({ cls := "EightBlocks", name := "copy", desc := "(IIIII)I" } : Jvm.MethodName)) ∈ lw_all := lw_g (lw_at lw_m7 214 rfl) rfl
theorem q1750 : (Jvm.Cond.codeWith ({ cls := "EightBlocks", name := "copy", desc := "(IIIII)I" } : Jvm.MethodName) prog_1_method_66_code (7 : Nat) (Option.some Jvm.ClassFile.FieldType.int) [((18 : Nat), (44 : Nat), (47 : Nat), (482 : Nat)), ((18 : Nat), (44 : Nat), (52 : Nat), (488 : Nat)), ((18 : Nat), (44 : Nat), (57 : Nat), (490 : Nat))]) ∈ lw_all := lw_g (lw_at lw_m7 215 rfl) rfl
theorem q1751 : (Jvm.Cond.classLink "EightBlocks" (488 : Nat) "java/lang/ArrayStoreException") ∈ lw_all := lw_g (lw_at lw_m7 216 rfl) rfl
theorem q1765 : (Jvm.Cond.classLink "EightBlocks" (490 : Nat) "java/lang/IndexOutOfBoundsException") ∈ lw_all := lw_g (lw_at lw_m7 230 rfl) rfl
theorem in_X0 : ∀ w ∈ wsX00, w ∈ lw_all := lw_in wsX00 [708, 710, 712, 714, 716, 718, 720, 722, 724, 726, 728, 730, 732, 734, 736, 738] (by decide +kernel) (by decide +kernel)
