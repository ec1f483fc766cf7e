/-! EightBlocks$Code -/
set_option maxRecDepth 100000
def RX1 : String := "EightBlocks$Code"
def TX1 : u_T := fun k => match k with
  | 0 => ("EightBlocks$Code", "basics", "[I", true)
  | 1 => ("EightBlocks$Code", "words", "[I", true)
  | 2 => ("EightBlocks$Code", "sorted", "[I", true)
  | 3 => ("EightBlocks$Code", "octads", "[I", true)
  | 4 => ("EightBlocks$Code", "dodecads", "[I", true)
  | 5 => ("EightBlocks$Code", "columns", "[I", true)
  | 6 => ("EightBlocks$Code", "leaders", "[I", true)
  | 7 => ("EightBlocks$Code", "rows", "[I", true)
  | 8 => ("EightBlocks$Code", "leads", "[I", true)
  | _ => ("EightBlocks$Code", "tags", "[I", true)
def tyX1 : Nat → FieldType := fun k => match k with
  | 0 => .array .int
  | 1 => .array .int
  | 2 => .array .int
  | 3 => .array .int
  | 4 => .array .int
  | 5 => .array .int
  | 6 => .array .int
  | 7 => .array .int
  | 8 => .array .int
  | _ => .array .int
abbrev wsX10 : List Cond := u_ws RX1 TX1 10
theorem nmX1 : ∀ a, a < 10 → ∀ b, b < 10 → a ≠ b → (TX1 a).2.1 ≠ (TX1 b).2.1 := by decide +kernel
theorem tyX1_ok : ∀ k, k < 10 → parseFieldDescriptor (TX1 k).2.2.1 = some (tyX1 k) := by decide +kernel
abbrev cX1_init : ByteArray := prog_3_method_1_code
def yX1_init : MethodName := ⟨RX1, "<init>", "()V"⟩
def dkwX1_init_10 : List UInt8 := [180, 0, 18, 29, 46, 79, 132, 2, 1, 132, 3, 1, 167, 255, 185, 42, 182, 0, 57, 177]
abbrev dktX1_init_10 : List UInt8 := dkwX1_init_10 ++ []
def dkwX1_init_9 : List UInt8 := [167, 0, 32, 42, 180, 0, 18, 29, 46, 184, 0, 54, 16, 12, 160, 0, 18, 42, 180, 0, 24, 28, 42]
abbrev dktX1_init_9 : List UInt8 := dkwX1_init_9 ++ dktX1_init_10
def dkwX1_init_8 : List UInt8 := [46, 184, 0, 54, 16, 8, 160, 0, 21, 42, 180, 0, 21, 27, 42, 180, 0, 18, 29, 46, 79, 132, 1, 1]
abbrev dktX1_init_8 : List UInt8 := dkwX1_init_8 ++ dktX1_init_9
def dkwX1_init_7 : List UInt8 := [132, 1, 1, 167, 255, 195, 3, 60, 3, 61, 3, 62, 29, 17, 16, 0, 162, 0, 70, 42, 180, 0, 18, 29]
abbrev dktX1_init_7 : List UInt8 := dkwX1_init_7 ++ dktX1_init_8
def dkwX1_init_6 : List UInt8 := [180, 0, 18, 27, 42, 180, 0, 18, 27, 27, 4, 100, 126, 46, 42, 180, 0, 33, 28, 46, 130, 79]
abbrev dktX1_init_6 : List UInt8 := dkwX1_init_6 ++ dktX1_init_7
def dkwX1_init_5 : List UInt8 := [180, 0, 15, 27, 42, 180, 0, 15, 27, 27, 4, 100, 126, 46, 42, 180, 0, 9, 28, 46, 130, 79, 42]
abbrev dktX1_init_5 : List UInt8 := dkwX1_init_5 ++ dktX1_init_6
def dkwX1_init_4 : List UInt8 := [182, 0, 42, 42, 182, 0, 45, 4, 60, 27, 17, 16, 0, 162, 0, 60, 27, 184, 0, 48, 61, 42]
abbrev dktX1_init_4 : List UInt8 := dkwX1_init_4 ++ dktX1_init_5
def dkwX1_init_3 : List UInt8 := [188, 10, 181, 0, 33, 42, 16, 12, 188, 10, 181, 0, 36, 42, 16, 12, 188, 10, 181, 0, 39, 42]
abbrev dktX1_init_3 : List UInt8 := dkwX1_init_3 ++ dktX1_init_4
def dkwX1_init_2 : List UInt8 := [181, 0, 24, 42, 16, 24, 188, 10, 181, 0, 27, 42, 17, 16, 0, 188, 10, 181, 0, 30, 42, 16, 12]
abbrev dktX1_init_2 : List UInt8 := dkwX1_init_2 ++ dktX1_init_3
def dkwX1_init_1 : List UInt8 := [17, 16, 0, 188, 10, 181, 0, 18, 42, 17, 2, 247, 188, 10, 181, 0, 21, 42, 17, 10, 16, 188, 10]
abbrev dktX1_init_1 : List UInt8 := dkwX1_init_1 ++ dktX1_init_2
def dkwX1_init_0 : List UInt8 := [42, 183, 0, 3, 42, 16, 12, 188, 10, 181, 0, 9, 42, 17, 16, 0, 188, 10, 181, 0, 15, 42]
abbrev dktX1_init_0 : List UInt8 := dkwX1_init_0 ++ dktX1_init_1
theorem dksX1_init_0 : cX1_init.data.toList.drop 0 = dktX1_init_0 := by decide +kernel
theorem dksX1_init_1 : cX1_init.data.toList.drop 22 = dktX1_init_1 := dk_seg dksX1_init_0 22 rfl rfl
theorem dksX1_init_2 : cX1_init.data.toList.drop 45 = dktX1_init_2 := dk_seg dksX1_init_1 23 rfl rfl
theorem dksX1_init_3 : cX1_init.data.toList.drop 68 = dktX1_init_3 := dk_seg dksX1_init_2 23 rfl rfl
theorem dksX1_init_4 : cX1_init.data.toList.drop 90 = dktX1_init_4 := dk_seg dksX1_init_3 22 rfl rfl
theorem dksX1_init_5 : cX1_init.data.toList.drop 112 = dktX1_init_5 := dk_seg dksX1_init_4 22 rfl rfl
theorem dksX1_init_6 : cX1_init.data.toList.drop 135 = dktX1_init_6 := dk_seg dksX1_init_5 23 rfl rfl
theorem dksX1_init_7 : cX1_init.data.toList.drop 157 = dktX1_init_7 := dk_seg dksX1_init_6 22 rfl rfl
theorem dksX1_init_8 : cX1_init.data.toList.drop 181 = dktX1_init_8 := dk_seg dksX1_init_7 24 rfl rfl
theorem dksX1_init_9 : cX1_init.data.toList.drop 205 = dktX1_init_9 := dk_seg dksX1_init_8 24 rfl rfl
theorem dksX1_init_10 : cX1_init.data.toList.drop 228 = dktX1_init_10 := dk_seg dksX1_init_9 23 rfl rfl
theorem dX1_init_0 : decode cX1_init 0 = .ok (.aload_n 0, 1) := dk_42 (dk_at dksX1_init_0 0 rfl rfl)
theorem dX1_init_1 : decode cX1_init 1 = .ok (.invokespecial 3, 3) := dk_183 0 3 (dk_at dksX1_init_0 1 rfl rfl)
theorem dX1_init_4 : decode cX1_init 4 = .ok (.aload_n 0, 1) := dk_42 (dk_at dksX1_init_0 4 rfl rfl)
theorem dX1_init_5 : decode cX1_init 5 = .ok (.bipush 12, 2) := dk_16 12 (dk_at dksX1_init_0 5 rfl rfl)
theorem dX1_init_7 : decode cX1_init 7 = .ok (.newarray .int, 2) := dk_188_10 (dk_at dksX1_init_0 7 rfl rfl)
theorem dX1_init_9 : decode cX1_init 9 = .ok (.putfield 9, 3) := dk_181 0 9 (dk_at dksX1_init_0 9 rfl rfl)
theorem dX1_init_12 : decode cX1_init 12 = .ok (.aload_n 0, 1) := dk_42 (dk_at dksX1_init_0 12 rfl rfl)
theorem dX1_init_13 : decode cX1_init 13 = .ok (.sipush 4096, 3) := dk_17 16 0 (dk_at dksX1_init_0 13 rfl rfl)
theorem dX1_init_16 : decode cX1_init 16 = .ok (.newarray .int, 2) := dk_188_10 (dk_at dksX1_init_0 16 rfl rfl)
theorem dX1_init_18 : decode cX1_init 18 = .ok (.putfield 15, 3) := dk_181 0 15 (dk_at dksX1_init_0 18 rfl rfl)
theorem dX1_init_21 : decode cX1_init 21 = .ok (.aload_n 0, 1) := dk_42 (dk_at dksX1_init_0 21 rfl rfl)
theorem dX1_init_22 : decode cX1_init 22 = .ok (.sipush 4096, 3) := dk_17 16 0 (dk_at dksX1_init_1 0 rfl rfl)
theorem dX1_init_25 : decode cX1_init 25 = .ok (.newarray .int, 2) := dk_188_10 (dk_at dksX1_init_1 3 rfl rfl)
theorem dX1_init_27 : decode cX1_init 27 = .ok (.putfield 18, 3) := dk_181 0 18 (dk_at dksX1_init_1 5 rfl rfl)
theorem dX1_init_30 : decode cX1_init 30 = .ok (.aload_n 0, 1) := dk_42 (dk_at dksX1_init_1 8 rfl rfl)
theorem dX1_init_31 : decode cX1_init 31 = .ok (.sipush 759, 3) := dk_17 2 247 (dk_at dksX1_init_1 9 rfl rfl)
theorem dX1_init_34 : decode cX1_init 34 = .ok (.newarray .int, 2) := dk_188_10 (dk_at dksX1_init_1 12 rfl rfl)
theorem dX1_init_36 : decode cX1_init 36 = .ok (.putfield 21, 3) := dk_181 0 21 (dk_at dksX1_init_1 14 rfl rfl)
theorem dX1_init_39 : decode cX1_init 39 = .ok (.aload_n 0, 1) := dk_42 (dk_at dksX1_init_1 17 rfl rfl)
theorem dX1_init_40 : decode cX1_init 40 = .ok (.sipush 2576, 3) := dk_17 10 16 (dk_at dksX1_init_1 18 rfl rfl)
theorem dX1_init_43 : decode cX1_init 43 = .ok (.newarray .int, 2) := dk_188_10 (dk_at dksX1_init_1 21 rfl rfl)
theorem dX1_init_45 : decode cX1_init 45 = .ok (.putfield 24, 3) := dk_181 0 24 (dk_at dksX1_init_2 0 rfl rfl)
theorem dX1_init_48 : decode cX1_init 48 = .ok (.aload_n 0, 1) := dk_42 (dk_at dksX1_init_2 3 rfl rfl)
theorem dX1_init_49 : decode cX1_init 49 = .ok (.bipush 24, 2) := dk_16 24 (dk_at dksX1_init_2 4 rfl rfl)
theorem dX1_init_51 : decode cX1_init 51 = .ok (.newarray .int, 2) := dk_188_10 (dk_at dksX1_init_2 6 rfl rfl)
theorem dX1_init_53 : decode cX1_init 53 = .ok (.putfield 27, 3) := dk_181 0 27 (dk_at dksX1_init_2 8 rfl rfl)
theorem dX1_init_56 : decode cX1_init 56 = .ok (.aload_n 0, 1) := dk_42 (dk_at dksX1_init_2 11 rfl rfl)
theorem dX1_init_57 : decode cX1_init 57 = .ok (.sipush 4096, 3) := dk_17 16 0 (dk_at dksX1_init_2 12 rfl rfl)
theorem dX1_init_60 : decode cX1_init 60 = .ok (.newarray .int, 2) := dk_188_10 (dk_at dksX1_init_2 15 rfl rfl)
theorem dX1_init_62 : decode cX1_init 62 = .ok (.putfield 30, 3) := dk_181 0 30 (dk_at dksX1_init_2 17 rfl rfl)
theorem dX1_init_65 : decode cX1_init 65 = .ok (.aload_n 0, 1) := dk_42 (dk_at dksX1_init_2 20 rfl rfl)
theorem dX1_init_66 : decode cX1_init 66 = .ok (.bipush 12, 2) := dk_16 12 (dk_at dksX1_init_2 21 rfl rfl)
theorem dX1_init_68 : decode cX1_init 68 = .ok (.newarray .int, 2) := dk_188_10 (dk_at dksX1_init_3 0 rfl rfl)
theorem dX1_init_70 : decode cX1_init 70 = .ok (.putfield 33, 3) := dk_181 0 33 (dk_at dksX1_init_3 2 rfl rfl)
theorem dX1_init_73 : decode cX1_init 73 = .ok (.aload_n 0, 1) := dk_42 (dk_at dksX1_init_3 5 rfl rfl)
theorem dX1_init_74 : decode cX1_init 74 = .ok (.bipush 12, 2) := dk_16 12 (dk_at dksX1_init_3 6 rfl rfl)
theorem dX1_init_76 : decode cX1_init 76 = .ok (.newarray .int, 2) := dk_188_10 (dk_at dksX1_init_3 8 rfl rfl)
theorem dX1_init_78 : decode cX1_init 78 = .ok (.putfield 36, 3) := dk_181 0 36 (dk_at dksX1_init_3 10 rfl rfl)
theorem dX1_init_81 : decode cX1_init 81 = .ok (.aload_n 0, 1) := dk_42 (dk_at dksX1_init_3 13 rfl rfl)
theorem dX1_init_82 : decode cX1_init 82 = .ok (.bipush 12, 2) := dk_16 12 (dk_at dksX1_init_3 14 rfl rfl)
theorem dX1_init_84 : decode cX1_init 84 = .ok (.newarray .int, 2) := dk_188_10 (dk_at dksX1_init_3 16 rfl rfl)
theorem dX1_init_86 : decode cX1_init 86 = .ok (.putfield 39, 3) := dk_181 0 39 (dk_at dksX1_init_3 18 rfl rfl)
theorem dX1_init_89 : decode cX1_init 89 = .ok (.aload_n 0, 1) := dk_42 (dk_at dksX1_init_3 21 rfl rfl)
theorem dX1_init_90 : decode cX1_init 90 = .ok (.invokevirtual 42, 3) := dk_182 0 42 (dk_at dksX1_init_4 0 rfl rfl)
theorem dX1_init_93 : decode cX1_init 93 = .ok (.aload_n 0, 1) := dk_42 (dk_at dksX1_init_4 3 rfl rfl)
theorem dX1_init_94 : decode cX1_init 94 = .ok (.invokevirtual 45, 3) := dk_182 0 45 (dk_at dksX1_init_4 4 rfl rfl)
theorem dX1_init_97 : decode cX1_init 97 = .ok (.iconst 1, 1) := dk_4 (dk_at dksX1_init_4 7 rfl rfl)
theorem dX1_init_98 : decode cX1_init 98 = .ok (.istore_n 1, 1) := dk_60 (dk_at dksX1_init_4 8 rfl rfl)
theorem dX1_init_99 : decode cX1_init 99 = .ok (.iload_n 1, 1) := dk_27 (dk_at dksX1_init_4 9 rfl rfl)
theorem dX1_init_100 : decode cX1_init 100 = .ok (.sipush 4096, 3) := dk_17 16 0 (dk_at dksX1_init_4 10 rfl rfl)
theorem dX1_init_103 : decode cX1_init 103 = .ok (.if_icmp .ge 60, 3) := dk_162 0 60 (dk_at dksX1_init_4 13 rfl rfl)
theorem dX1_init_106 : decode cX1_init 106 = .ok (.iload_n 1, 1) := dk_27 (dk_at dksX1_init_4 16 rfl rfl)
theorem dX1_init_107 : decode cX1_init 107 = .ok (.invokestatic 48, 3) := dk_184 0 48 (dk_at dksX1_init_4 17 rfl rfl)
theorem dX1_init_110 : decode cX1_init 110 = .ok (.istore_n 2, 1) := dk_61 (dk_at dksX1_init_4 20 rfl rfl)
theorem dX1_init_111 : decode cX1_init 111 = .ok (.aload_n 0, 1) := dk_42 (dk_at dksX1_init_4 21 rfl rfl)
theorem dX1_init_112 : decode cX1_init 112 = .ok (.getfield 15, 3) := dk_180 0 15 (dk_at dksX1_init_5 0 rfl rfl)
theorem dX1_init_115 : decode cX1_init 115 = .ok (.iload_n 1, 1) := dk_27 (dk_at dksX1_init_5 3 rfl rfl)
theorem dX1_init_116 : decode cX1_init 116 = .ok (.aload_n 0, 1) := dk_42 (dk_at dksX1_init_5 4 rfl rfl)
theorem dX1_init_117 : decode cX1_init 117 = .ok (.getfield 15, 3) := dk_180 0 15 (dk_at dksX1_init_5 5 rfl rfl)
theorem dX1_init_120 : decode cX1_init 120 = .ok (.iload_n 1, 1) := dk_27 (dk_at dksX1_init_5 8 rfl rfl)
theorem dX1_init_121 : decode cX1_init 121 = .ok (.iload_n 1, 1) := dk_27 (dk_at dksX1_init_5 9 rfl rfl)
theorem dX1_init_122 : decode cX1_init 122 = .ok (.iconst 1, 1) := dk_4 (dk_at dksX1_init_5 10 rfl rfl)
theorem dX1_init_123 : decode cX1_init 123 = .ok (.isub, 1) := dk_100 (dk_at dksX1_init_5 11 rfl rfl)
theorem dX1_init_124 : decode cX1_init 124 = .ok (.iand, 1) := dk_126 (dk_at dksX1_init_5 12 rfl rfl)
theorem dX1_init_125 : decode cX1_init 125 = .ok (.iaload, 1) := dk_46 (dk_at dksX1_init_5 13 rfl rfl)
theorem dX1_init_126 : decode cX1_init 126 = .ok (.aload_n 0, 1) := dk_42 (dk_at dksX1_init_5 14 rfl rfl)
theorem dX1_init_127 : decode cX1_init 127 = .ok (.getfield 9, 3) := dk_180 0 9 (dk_at dksX1_init_5 15 rfl rfl)
theorem dX1_init_130 : decode cX1_init 130 = .ok (.iload_n 2, 1) := dk_28 (dk_at dksX1_init_5 18 rfl rfl)
theorem dX1_init_131 : decode cX1_init 131 = .ok (.iaload, 1) := dk_46 (dk_at dksX1_init_5 19 rfl rfl)
theorem dX1_init_132 : decode cX1_init 132 = .ok (.ixor, 1) := dk_130 (dk_at dksX1_init_5 20 rfl rfl)
theorem dX1_init_133 : decode cX1_init 133 = .ok (.iastore, 1) := dk_79 (dk_at dksX1_init_5 21 rfl rfl)
theorem dX1_init_134 : decode cX1_init 134 = .ok (.aload_n 0, 1) := dk_42 (dk_at dksX1_init_5 22 rfl rfl)
theorem dX1_init_135 : decode cX1_init 135 = .ok (.getfield 18, 3) := dk_180 0 18 (dk_at dksX1_init_6 0 rfl rfl)
theorem dX1_init_138 : decode cX1_init 138 = .ok (.iload_n 1, 1) := dk_27 (dk_at dksX1_init_6 3 rfl rfl)
theorem dX1_init_139 : decode cX1_init 139 = .ok (.aload_n 0, 1) := dk_42 (dk_at dksX1_init_6 4 rfl rfl)
theorem dX1_init_140 : decode cX1_init 140 = .ok (.getfield 18, 3) := dk_180 0 18 (dk_at dksX1_init_6 5 rfl rfl)
theorem dX1_init_143 : decode cX1_init 143 = .ok (.iload_n 1, 1) := dk_27 (dk_at dksX1_init_6 8 rfl rfl)
theorem dX1_init_144 : decode cX1_init 144 = .ok (.iload_n 1, 1) := dk_27 (dk_at dksX1_init_6 9 rfl rfl)
theorem dX1_init_145 : decode cX1_init 145 = .ok (.iconst 1, 1) := dk_4 (dk_at dksX1_init_6 10 rfl rfl)
theorem dX1_init_146 : decode cX1_init 146 = .ok (.isub, 1) := dk_100 (dk_at dksX1_init_6 11 rfl rfl)
theorem dX1_init_147 : decode cX1_init 147 = .ok (.iand, 1) := dk_126 (dk_at dksX1_init_6 12 rfl rfl)
theorem dX1_init_148 : decode cX1_init 148 = .ok (.iaload, 1) := dk_46 (dk_at dksX1_init_6 13 rfl rfl)
theorem dX1_init_149 : decode cX1_init 149 = .ok (.aload_n 0, 1) := dk_42 (dk_at dksX1_init_6 14 rfl rfl)
theorem dX1_init_150 : decode cX1_init 150 = .ok (.getfield 33, 3) := dk_180 0 33 (dk_at dksX1_init_6 15 rfl rfl)
theorem dX1_init_153 : decode cX1_init 153 = .ok (.iload_n 2, 1) := dk_28 (dk_at dksX1_init_6 18 rfl rfl)
theorem dX1_init_154 : decode cX1_init 154 = .ok (.iaload, 1) := dk_46 (dk_at dksX1_init_6 19 rfl rfl)
theorem dX1_init_155 : decode cX1_init 155 = .ok (.ixor, 1) := dk_130 (dk_at dksX1_init_6 20 rfl rfl)
theorem dX1_init_156 : decode cX1_init 156 = .ok (.iastore, 1) := dk_79 (dk_at dksX1_init_6 21 rfl rfl)
theorem dX1_init_157 : decode cX1_init 157 = .ok (.iinc 1 1, 3) := dk_132 1 1 (dk_at dksX1_init_7 0 rfl rfl)
theorem dX1_init_160 : decode cX1_init 160 = .ok (.goto (-61), 3) := dk_167 255 195 (dk_at dksX1_init_7 3 rfl rfl)
theorem dX1_init_163 : decode cX1_init 163 = .ok (.iconst 0, 1) := dk_3 (dk_at dksX1_init_7 6 rfl rfl)
theorem dX1_init_164 : decode cX1_init 164 = .ok (.istore_n 1, 1) := dk_60 (dk_at dksX1_init_7 7 rfl rfl)
theorem dX1_init_165 : decode cX1_init 165 = .ok (.iconst 0, 1) := dk_3 (dk_at dksX1_init_7 8 rfl rfl)
theorem dX1_init_166 : decode cX1_init 166 = .ok (.istore_n 2, 1) := dk_61 (dk_at dksX1_init_7 9 rfl rfl)
theorem dX1_init_167 : decode cX1_init 167 = .ok (.iconst 0, 1) := dk_3 (dk_at dksX1_init_7 10 rfl rfl)
theorem dX1_init_168 : decode cX1_init 168 = .ok (.istore_n 3, 1) := dk_62 (dk_at dksX1_init_7 11 rfl rfl)
theorem dX1_init_169 : decode cX1_init 169 = .ok (.iload_n 3, 1) := dk_29 (dk_at dksX1_init_7 12 rfl rfl)
theorem dX1_init_170 : decode cX1_init 170 = .ok (.sipush 4096, 3) := dk_17 16 0 (dk_at dksX1_init_7 13 rfl rfl)
theorem dX1_init_173 : decode cX1_init 173 = .ok (.if_icmp .ge 70, 3) := dk_162 0 70 (dk_at dksX1_init_7 16 rfl rfl)
theorem dX1_init_176 : decode cX1_init 176 = .ok (.aload_n 0, 1) := dk_42 (dk_at dksX1_init_7 19 rfl rfl)
theorem dX1_init_177 : decode cX1_init 177 = .ok (.getfield 18, 3) := dk_180 0 18 (dk_at dksX1_init_7 20 rfl rfl)
theorem dX1_init_180 : decode cX1_init 180 = .ok (.iload_n 3, 1) := dk_29 (dk_at dksX1_init_7 23 rfl rfl)
theorem dX1_init_181 : decode cX1_init 181 = .ok (.iaload, 1) := dk_46 (dk_at dksX1_init_8 0 rfl rfl)
theorem dX1_init_182 : decode cX1_init 182 = .ok (.invokestatic 54, 3) := dk_184 0 54 (dk_at dksX1_init_8 1 rfl rfl)
theorem dX1_init_185 : decode cX1_init 185 = .ok (.bipush 8, 2) := dk_16 8 (dk_at dksX1_init_8 4 rfl rfl)
theorem dX1_init_187 : decode cX1_init 187 = .ok (.if_icmp .ne 21, 3) := dk_160 0 21 (dk_at dksX1_init_8 6 rfl rfl)
theorem dX1_init_190 : decode cX1_init 190 = .ok (.aload_n 0, 1) := dk_42 (dk_at dksX1_init_8 9 rfl rfl)
theorem dX1_init_191 : decode cX1_init 191 = .ok (.getfield 21, 3) := dk_180 0 21 (dk_at dksX1_init_8 10 rfl rfl)
theorem dX1_init_194 : decode cX1_init 194 = .ok (.iload_n 1, 1) := dk_27 (dk_at dksX1_init_8 13 rfl rfl)
theorem dX1_init_195 : decode cX1_init 195 = .ok (.aload_n 0, 1) := dk_42 (dk_at dksX1_init_8 14 rfl rfl)
theorem dX1_init_196 : decode cX1_init 196 = .ok (.getfield 18, 3) := dk_180 0 18 (dk_at dksX1_init_8 15 rfl rfl)
theorem dX1_init_199 : decode cX1_init 199 = .ok (.iload_n 3, 1) := dk_29 (dk_at dksX1_init_8 18 rfl rfl)
theorem dX1_init_200 : decode cX1_init 200 = .ok (.iaload, 1) := dk_46 (dk_at dksX1_init_8 19 rfl rfl)
theorem dX1_init_201 : decode cX1_init 201 = .ok (.iastore, 1) := dk_79 (dk_at dksX1_init_8 20 rfl rfl)
theorem dX1_init_202 : decode cX1_init 202 = .ok (.iinc 1 1, 3) := dk_132 1 1 (dk_at dksX1_init_8 21 rfl rfl)
theorem dX1_init_205 : decode cX1_init 205 = .ok (.goto 32, 3) := dk_167 0 32 (dk_at dksX1_init_9 0 rfl rfl)
theorem dX1_init_208 : decode cX1_init 208 = .ok (.aload_n 0, 1) := dk_42 (dk_at dksX1_init_9 3 rfl rfl)
theorem dX1_init_209 : decode cX1_init 209 = .ok (.getfield 18, 3) := dk_180 0 18 (dk_at dksX1_init_9 4 rfl rfl)
theorem dX1_init_212 : decode cX1_init 212 = .ok (.iload_n 3, 1) := dk_29 (dk_at dksX1_init_9 7 rfl rfl)
theorem dX1_init_213 : decode cX1_init 213 = .ok (.iaload, 1) := dk_46 (dk_at dksX1_init_9 8 rfl rfl)
theorem dX1_init_214 : decode cX1_init 214 = .ok (.invokestatic 54, 3) := dk_184 0 54 (dk_at dksX1_init_9 9 rfl rfl)
theorem dX1_init_217 : decode cX1_init 217 = .ok (.bipush 12, 2) := dk_16 12 (dk_at dksX1_init_9 12 rfl rfl)
theorem dX1_init_219 : decode cX1_init 219 = .ok (.if_icmp .ne 18, 3) := dk_160 0 18 (dk_at dksX1_init_9 14 rfl rfl)
theorem dX1_init_222 : decode cX1_init 222 = .ok (.aload_n 0, 1) := dk_42 (dk_at dksX1_init_9 17 rfl rfl)
theorem dX1_init_223 : decode cX1_init 223 = .ok (.getfield 24, 3) := dk_180 0 24 (dk_at dksX1_init_9 18 rfl rfl)
theorem dX1_init_226 : decode cX1_init 226 = .ok (.iload_n 2, 1) := dk_28 (dk_at dksX1_init_9 21 rfl rfl)
theorem dX1_init_227 : decode cX1_init 227 = .ok (.aload_n 0, 1) := dk_42 (dk_at dksX1_init_9 22 rfl rfl)
theorem dX1_init_228 : decode cX1_init 228 = .ok (.getfield 18, 3) := dk_180 0 18 (dk_at dksX1_init_10 0 rfl rfl)
theorem dX1_init_231 : decode cX1_init 231 = .ok (.iload_n 3, 1) := dk_29 (dk_at dksX1_init_10 3 rfl rfl)
theorem dX1_init_232 : decode cX1_init 232 = .ok (.iaload, 1) := dk_46 (dk_at dksX1_init_10 4 rfl rfl)
theorem dX1_init_233 : decode cX1_init 233 = .ok (.iastore, 1) := dk_79 (dk_at dksX1_init_10 5 rfl rfl)
theorem dX1_init_234 : decode cX1_init 234 = .ok (.iinc 2 1, 3) := dk_132 2 1 (dk_at dksX1_init_10 6 rfl rfl)
theorem dX1_init_237 : decode cX1_init 237 = .ok (.iinc 3 1, 3) := dk_132 3 1 (dk_at dksX1_init_10 9 rfl rfl)
theorem dX1_init_240 : decode cX1_init 240 = .ok (.goto (-71), 3) := dk_167 255 185 (dk_at dksX1_init_10 12 rfl rfl)
theorem dX1_init_243 : decode cX1_init 243 = .ok (.aload_n 0, 1) := dk_42 (dk_at dksX1_init_10 15 rfl rfl)
theorem dX1_init_244 : decode cX1_init 244 = .ok (.invokevirtual 57, 3) := dk_182 0 57 (dk_at dksX1_init_10 16 rfl rfl)
theorem dX1_init_247 : decode cX1_init 247 = .ok (.return_, 1) := dk_177 (dk_at dksX1_init_10 19 rfl rfl)
abbrev cX1_layBasics : ByteArray := prog_3_method_2_code
def yX1_layBasics : MethodName := ⟨RX1, "layBasics", "()V"⟩
def dkwX1_layBasics_8 : List UInt8 := [29, 79, 132, 2, 1, 167, 255, 197, 177]
abbrev dktX1_layBasics_8 : List UInt8 := dkwX1_layBasics_8 ++ []
def dkwX1_layBasics_7 : List UInt8 := [153, 0, 10, 4, 21, 4, 120, 167, 0, 4, 3, 128, 62, 132, 4, 1, 167, 255, 221, 42, 180, 0, 27, 28]
abbrev dktX1_layBasics_7 : List UInt8 := dkwX1_layBasics_7 ++ dktX1_layBasics_8
def dkwX1_layBasics_6 : List UInt8 := [3, 62, 3, 54, 4, 21, 4, 16, 12, 162, 0, 34, 29, 42, 180, 0, 9, 21, 4, 46, 28, 184, 0, 67]
abbrev dktX1_layBasics_6 : List UInt8 := dkwX1_layBasics_6 ++ dktX1_layBasics_7
def dkwX1_layBasics_5 : List UInt8 := [167, 255, 225, 42, 180, 0, 9, 28, 29, 79, 132, 2, 1, 167, 255, 192, 3, 61, 28, 16, 24, 162, 0, 59]
abbrev dktX1_layBasics_5 : List UInt8 := dkwX1_layBasics_5 ++ dktX1_layBasics_6
def dkwX1_layBasics_4 : List UInt8 := [21, 6, 46, 54, 7, 29, 4, 21, 7, 28, 100, 16, 23, 184, 0, 61, 120, 128, 62, 132, 6, 1]
abbrev dktX1_layBasics_4 : List UInt8 := dkwX1_layBasics_4 ++ dktX1_layBasics_5
def dkwX1_layBasics_3 : List UInt8 := [18, 60, 62, 43, 58, 4, 25, 4, 190, 54, 5, 3, 54, 6, 21, 6, 21, 5, 162, 0, 30, 25, 4]
abbrev dktX1_layBasics_3 : List UInt8 := dkwX1_layBasics_3 ++ dktX1_layBasics_4
def dkwX1_layBasics_2 : List UInt8 := [16, 20, 79, 89, 16, 9, 16, 21, 79, 89, 16, 10, 16, 22, 79, 76, 3, 61, 28, 16, 12, 162, 0, 64]
abbrev dktX1_layBasics_2 : List UInt8 := dkwX1_layBasics_2 ++ dktX1_layBasics_3
def dkwX1_layBasics_1 : List UInt8 := [7, 16, 14, 79, 89, 8, 16, 15, 79, 89, 16, 6, 16, 17, 79, 89, 16, 7, 16, 19, 79, 89, 16, 8]
abbrev dktX1_layBasics_1 : List UInt8 := dkwX1_layBasics_1 ++ dktX1_layBasics_2
def dkwX1_layBasics_0 : List UInt8 := [16, 11, 188, 10, 89, 3, 8, 79, 89, 4, 16, 7, 79, 89, 5, 16, 10, 79, 89, 6, 16, 11, 79, 89]
abbrev dktX1_layBasics_0 : List UInt8 := dkwX1_layBasics_0 ++ dktX1_layBasics_1
theorem dksX1_layBasics_0 : cX1_layBasics.data.toList.drop 0 = dktX1_layBasics_0 := by decide +kernel
theorem dksX1_layBasics_1 : cX1_layBasics.data.toList.drop 24 = dktX1_layBasics_1 := dk_seg dksX1_layBasics_0 24 rfl rfl
theorem dksX1_layBasics_2 : cX1_layBasics.data.toList.drop 48 = dktX1_layBasics_2 := dk_seg dksX1_layBasics_1 24 rfl rfl
theorem dksX1_layBasics_3 : cX1_layBasics.data.toList.drop 72 = dktX1_layBasics_3 := dk_seg dksX1_layBasics_2 24 rfl rfl
theorem dksX1_layBasics_4 : cX1_layBasics.data.toList.drop 95 = dktX1_layBasics_4 := dk_seg dksX1_layBasics_3 23 rfl rfl
theorem dksX1_layBasics_5 : cX1_layBasics.data.toList.drop 117 = dktX1_layBasics_5 := dk_seg dksX1_layBasics_4 22 rfl rfl
theorem dksX1_layBasics_6 : cX1_layBasics.data.toList.drop 141 = dktX1_layBasics_6 := dk_seg dksX1_layBasics_5 24 rfl rfl
theorem dksX1_layBasics_7 : cX1_layBasics.data.toList.drop 165 = dktX1_layBasics_7 := dk_seg dksX1_layBasics_6 24 rfl rfl
theorem dksX1_layBasics_8 : cX1_layBasics.data.toList.drop 189 = dktX1_layBasics_8 := dk_seg dksX1_layBasics_7 24 rfl rfl
theorem dX1_layBasics_0 : decode cX1_layBasics 0 = .ok (.bipush 11, 2) := dk_16 11 (dk_at dksX1_layBasics_0 0 rfl rfl)
theorem dX1_layBasics_2 : decode cX1_layBasics 2 = .ok (.newarray .int, 2) := dk_188_10 (dk_at dksX1_layBasics_0 2 rfl rfl)
theorem dX1_layBasics_4 : decode cX1_layBasics 4 = .ok (.dup, 1) := dk_89 (dk_at dksX1_layBasics_0 4 rfl rfl)
theorem dX1_layBasics_5 : decode cX1_layBasics 5 = .ok (.iconst 0, 1) := dk_3 (dk_at dksX1_layBasics_0 5 rfl rfl)
theorem dX1_layBasics_6 : decode cX1_layBasics 6 = .ok (.iconst 5, 1) := dk_8 (dk_at dksX1_layBasics_0 6 rfl rfl)
theorem dX1_layBasics_7 : decode cX1_layBasics 7 = .ok (.iastore, 1) := dk_79 (dk_at dksX1_layBasics_0 7 rfl rfl)
theorem dX1_layBasics_8 : decode cX1_layBasics 8 = .ok (.dup, 1) := dk_89 (dk_at dksX1_layBasics_0 8 rfl rfl)
theorem dX1_layBasics_9 : decode cX1_layBasics 9 = .ok (.iconst 1, 1) := dk_4 (dk_at dksX1_layBasics_0 9 rfl rfl)
theorem dX1_layBasics_10 : decode cX1_layBasics 10 = .ok (.bipush 7, 2) := dk_16 7 (dk_at dksX1_layBasics_0 10 rfl rfl)
theorem dX1_layBasics_12 : decode cX1_layBasics 12 = .ok (.iastore, 1) := dk_79 (dk_at dksX1_layBasics_0 12 rfl rfl)
theorem dX1_layBasics_13 : decode cX1_layBasics 13 = .ok (.dup, 1) := dk_89 (dk_at dksX1_layBasics_0 13 rfl rfl)
theorem dX1_layBasics_14 : decode cX1_layBasics 14 = .ok (.iconst 2, 1) := dk_5 (dk_at dksX1_layBasics_0 14 rfl rfl)
theorem dX1_layBasics_15 : decode cX1_layBasics 15 = .ok (.bipush 10, 2) := dk_16 10 (dk_at dksX1_layBasics_0 15 rfl rfl)
theorem dX1_layBasics_17 : decode cX1_layBasics 17 = .ok (.iastore, 1) := dk_79 (dk_at dksX1_layBasics_0 17 rfl rfl)
theorem dX1_layBasics_18 : decode cX1_layBasics 18 = .ok (.dup, 1) := dk_89 (dk_at dksX1_layBasics_0 18 rfl rfl)
theorem dX1_layBasics_19 : decode cX1_layBasics 19 = .ok (.iconst 3, 1) := dk_6 (dk_at dksX1_layBasics_0 19 rfl rfl)
theorem dX1_layBasics_20 : decode cX1_layBasics 20 = .ok (.bipush 11, 2) := dk_16 11 (dk_at dksX1_layBasics_0 20 rfl rfl)
theorem dX1_layBasics_22 : decode cX1_layBasics 22 = .ok (.iastore, 1) := dk_79 (dk_at dksX1_layBasics_0 22 rfl rfl)
theorem dX1_layBasics_23 : decode cX1_layBasics 23 = .ok (.dup, 1) := dk_89 (dk_at dksX1_layBasics_0 23 rfl rfl)
theorem dX1_layBasics_24 : decode cX1_layBasics 24 = .ok (.iconst 4, 1) := dk_7 (dk_at dksX1_layBasics_1 0 rfl rfl)
theorem dX1_layBasics_25 : decode cX1_layBasics 25 = .ok (.bipush 14, 2) := dk_16 14 (dk_at dksX1_layBasics_1 1 rfl rfl)
theorem dX1_layBasics_27 : decode cX1_layBasics 27 = .ok (.iastore, 1) := dk_79 (dk_at dksX1_layBasics_1 3 rfl rfl)
theorem dX1_layBasics_28 : decode cX1_layBasics 28 = .ok (.dup, 1) := dk_89 (dk_at dksX1_layBasics_1 4 rfl rfl)
theorem dX1_layBasics_29 : decode cX1_layBasics 29 = .ok (.iconst 5, 1) := dk_8 (dk_at dksX1_layBasics_1 5 rfl rfl)
theorem dX1_layBasics_30 : decode cX1_layBasics 30 = .ok (.bipush 15, 2) := dk_16 15 (dk_at dksX1_layBasics_1 6 rfl rfl)
theorem dX1_layBasics_32 : decode cX1_layBasics 32 = .ok (.iastore, 1) := dk_79 (dk_at dksX1_layBasics_1 8 rfl rfl)
theorem dX1_layBasics_33 : decode cX1_layBasics 33 = .ok (.dup, 1) := dk_89 (dk_at dksX1_layBasics_1 9 rfl rfl)
theorem dX1_layBasics_34 : decode cX1_layBasics 34 = .ok (.bipush 6, 2) := dk_16 6 (dk_at dksX1_layBasics_1 10 rfl rfl)
theorem dX1_layBasics_36 : decode cX1_layBasics 36 = .ok (.bipush 17, 2) := dk_16 17 (dk_at dksX1_layBasics_1 12 rfl rfl)
theorem dX1_layBasics_38 : decode cX1_layBasics 38 = .ok (.iastore, 1) := dk_79 (dk_at dksX1_layBasics_1 14 rfl rfl)
theorem dX1_layBasics_39 : decode cX1_layBasics 39 = .ok (.dup, 1) := dk_89 (dk_at dksX1_layBasics_1 15 rfl rfl)
theorem dX1_layBasics_40 : decode cX1_layBasics 40 = .ok (.bipush 7, 2) := dk_16 7 (dk_at dksX1_layBasics_1 16 rfl rfl)
theorem dX1_layBasics_42 : decode cX1_layBasics 42 = .ok (.bipush 19, 2) := dk_16 19 (dk_at dksX1_layBasics_1 18 rfl rfl)
theorem dX1_layBasics_44 : decode cX1_layBasics 44 = .ok (.iastore, 1) := dk_79 (dk_at dksX1_layBasics_1 20 rfl rfl)
theorem dX1_layBasics_45 : decode cX1_layBasics 45 = .ok (.dup, 1) := dk_89 (dk_at dksX1_layBasics_1 21 rfl rfl)
theorem dX1_layBasics_46 : decode cX1_layBasics 46 = .ok (.bipush 8, 2) := dk_16 8 (dk_at dksX1_layBasics_1 22 rfl rfl)
theorem dX1_layBasics_48 : decode cX1_layBasics 48 = .ok (.bipush 20, 2) := dk_16 20 (dk_at dksX1_layBasics_2 0 rfl rfl)
theorem dX1_layBasics_50 : decode cX1_layBasics 50 = .ok (.iastore, 1) := dk_79 (dk_at dksX1_layBasics_2 2 rfl rfl)
theorem dX1_layBasics_51 : decode cX1_layBasics 51 = .ok (.dup, 1) := dk_89 (dk_at dksX1_layBasics_2 3 rfl rfl)
theorem dX1_layBasics_52 : decode cX1_layBasics 52 = .ok (.bipush 9, 2) := dk_16 9 (dk_at dksX1_layBasics_2 4 rfl rfl)
theorem dX1_layBasics_54 : decode cX1_layBasics 54 = .ok (.bipush 21, 2) := dk_16 21 (dk_at dksX1_layBasics_2 6 rfl rfl)
theorem dX1_layBasics_56 : decode cX1_layBasics 56 = .ok (.iastore, 1) := dk_79 (dk_at dksX1_layBasics_2 8 rfl rfl)
theorem dX1_layBasics_57 : decode cX1_layBasics 57 = .ok (.dup, 1) := dk_89 (dk_at dksX1_layBasics_2 9 rfl rfl)
theorem dX1_layBasics_58 : decode cX1_layBasics 58 = .ok (.bipush 10, 2) := dk_16 10 (dk_at dksX1_layBasics_2 10 rfl rfl)
theorem dX1_layBasics_60 : decode cX1_layBasics 60 = .ok (.bipush 22, 2) := dk_16 22 (dk_at dksX1_layBasics_2 12 rfl rfl)
theorem dX1_layBasics_62 : decode cX1_layBasics 62 = .ok (.iastore, 1) := dk_79 (dk_at dksX1_layBasics_2 14 rfl rfl)
theorem dX1_layBasics_63 : decode cX1_layBasics 63 = .ok (.astore_n 1, 1) := dk_76 (dk_at dksX1_layBasics_2 15 rfl rfl)
theorem dX1_layBasics_64 : decode cX1_layBasics 64 = .ok (.iconst 0, 1) := dk_3 (dk_at dksX1_layBasics_2 16 rfl rfl)
theorem dX1_layBasics_65 : decode cX1_layBasics 65 = .ok (.istore_n 2, 1) := dk_61 (dk_at dksX1_layBasics_2 17 rfl rfl)
theorem dX1_layBasics_66 : decode cX1_layBasics 66 = .ok (.iload_n 2, 1) := dk_28 (dk_at dksX1_layBasics_2 18 rfl rfl)
theorem dX1_layBasics_67 : decode cX1_layBasics 67 = .ok (.bipush 12, 2) := dk_16 12 (dk_at dksX1_layBasics_2 19 rfl rfl)
theorem dX1_layBasics_69 : decode cX1_layBasics 69 = .ok (.if_icmp .ge 64, 3) := dk_162 0 64 (dk_at dksX1_layBasics_2 21 rfl rfl)
theorem dX1_layBasics_72 : decode cX1_layBasics 72 = .ok (.ldc 60, 2) := dk_18 60 (dk_at dksX1_layBasics_3 0 rfl rfl)
theorem dX1_layBasics_74 : decode cX1_layBasics 74 = .ok (.istore_n 3, 1) := dk_62 (dk_at dksX1_layBasics_3 2 rfl rfl)
theorem dX1_layBasics_75 : decode cX1_layBasics 75 = .ok (.aload_n 1, 1) := dk_43 (dk_at dksX1_layBasics_3 3 rfl rfl)
theorem dX1_layBasics_76 : decode cX1_layBasics 76 = .ok (.astore 4, 2) := dk_58 4 (dk_at dksX1_layBasics_3 4 rfl rfl)
theorem dX1_layBasics_78 : decode cX1_layBasics 78 = .ok (.aload 4, 2) := dk_25 4 (dk_at dksX1_layBasics_3 6 rfl rfl)
theorem dX1_layBasics_80 : decode cX1_layBasics 80 = .ok (.arraylength, 1) := dk_190 (dk_at dksX1_layBasics_3 8 rfl rfl)
theorem dX1_layBasics_81 : decode cX1_layBasics 81 = .ok (.istore 5, 2) := dk_54 5 (dk_at dksX1_layBasics_3 9 rfl rfl)
theorem dX1_layBasics_83 : decode cX1_layBasics 83 = .ok (.iconst 0, 1) := dk_3 (dk_at dksX1_layBasics_3 11 rfl rfl)
theorem dX1_layBasics_84 : decode cX1_layBasics 84 = .ok (.istore 6, 2) := dk_54 6 (dk_at dksX1_layBasics_3 12 rfl rfl)
theorem dX1_layBasics_86 : decode cX1_layBasics 86 = .ok (.iload 6, 2) := dk_21 6 (dk_at dksX1_layBasics_3 14 rfl rfl)
theorem dX1_layBasics_88 : decode cX1_layBasics 88 = .ok (.iload 5, 2) := dk_21 5 (dk_at dksX1_layBasics_3 16 rfl rfl)
theorem dX1_layBasics_90 : decode cX1_layBasics 90 = .ok (.if_icmp .ge 30, 3) := dk_162 0 30 (dk_at dksX1_layBasics_3 18 rfl rfl)
theorem dX1_layBasics_93 : decode cX1_layBasics 93 = .ok (.aload 4, 2) := dk_25 4 (dk_at dksX1_layBasics_3 21 rfl rfl)
theorem dX1_layBasics_95 : decode cX1_layBasics 95 = .ok (.iload 6, 2) := dk_21 6 (dk_at dksX1_layBasics_4 0 rfl rfl)
theorem dX1_layBasics_97 : decode cX1_layBasics 97 = .ok (.iaload, 1) := dk_46 (dk_at dksX1_layBasics_4 2 rfl rfl)
theorem dX1_layBasics_98 : decode cX1_layBasics 98 = .ok (.istore 7, 2) := dk_54 7 (dk_at dksX1_layBasics_4 3 rfl rfl)
theorem dX1_layBasics_100 : decode cX1_layBasics 100 = .ok (.iload_n 3, 1) := dk_29 (dk_at dksX1_layBasics_4 5 rfl rfl)
theorem dX1_layBasics_101 : decode cX1_layBasics 101 = .ok (.iconst 1, 1) := dk_4 (dk_at dksX1_layBasics_4 6 rfl rfl)
theorem dX1_layBasics_102 : decode cX1_layBasics 102 = .ok (.iload 7, 2) := dk_21 7 (dk_at dksX1_layBasics_4 7 rfl rfl)
theorem dX1_layBasics_104 : decode cX1_layBasics 104 = .ok (.iload_n 2, 1) := dk_28 (dk_at dksX1_layBasics_4 9 rfl rfl)
theorem dX1_layBasics_105 : decode cX1_layBasics 105 = .ok (.isub, 1) := dk_100 (dk_at dksX1_layBasics_4 10 rfl rfl)
theorem dX1_layBasics_106 : decode cX1_layBasics 106 = .ok (.bipush 23, 2) := dk_16 23 (dk_at dksX1_layBasics_4 11 rfl rfl)
theorem dX1_layBasics_108 : decode cX1_layBasics 108 = .ok (.invokestatic 61, 3) := dk_184 0 61 (dk_at dksX1_layBasics_4 13 rfl rfl)
theorem dX1_layBasics_111 : decode cX1_layBasics 111 = .ok (.ishl, 1) := dk_120 (dk_at dksX1_layBasics_4 16 rfl rfl)
theorem dX1_layBasics_112 : decode cX1_layBasics 112 = .ok (.ior, 1) := dk_128 (dk_at dksX1_layBasics_4 17 rfl rfl)
theorem dX1_layBasics_113 : decode cX1_layBasics 113 = .ok (.istore_n 3, 1) := dk_62 (dk_at dksX1_layBasics_4 18 rfl rfl)
theorem dX1_layBasics_114 : decode cX1_layBasics 114 = .ok (.iinc 6 1, 3) := dk_132 6 1 (dk_at dksX1_layBasics_4 19 rfl rfl)
theorem dX1_layBasics_117 : decode cX1_layBasics 117 = .ok (.goto (-31), 3) := dk_167 255 225 (dk_at dksX1_layBasics_5 0 rfl rfl)
theorem dX1_layBasics_120 : decode cX1_layBasics 120 = .ok (.aload_n 0, 1) := dk_42 (dk_at dksX1_layBasics_5 3 rfl rfl)
theorem dX1_layBasics_121 : decode cX1_layBasics 121 = .ok (.getfield 9, 3) := dk_180 0 9 (dk_at dksX1_layBasics_5 4 rfl rfl)
theorem dX1_layBasics_124 : decode cX1_layBasics 124 = .ok (.iload_n 2, 1) := dk_28 (dk_at dksX1_layBasics_5 7 rfl rfl)
theorem dX1_layBasics_125 : decode cX1_layBasics 125 = .ok (.iload_n 3, 1) := dk_29 (dk_at dksX1_layBasics_5 8 rfl rfl)
theorem dX1_layBasics_126 : decode cX1_layBasics 126 = .ok (.iastore, 1) := dk_79 (dk_at dksX1_layBasics_5 9 rfl rfl)
theorem dX1_layBasics_127 : decode cX1_layBasics 127 = .ok (.iinc 2 1, 3) := dk_132 2 1 (dk_at dksX1_layBasics_5 10 rfl rfl)
theorem dX1_layBasics_130 : decode cX1_layBasics 130 = .ok (.goto (-64), 3) := dk_167 255 192 (dk_at dksX1_layBasics_5 13 rfl rfl)
theorem dX1_layBasics_133 : decode cX1_layBasics 133 = .ok (.iconst 0, 1) := dk_3 (dk_at dksX1_layBasics_5 16 rfl rfl)
theorem dX1_layBasics_134 : decode cX1_layBasics 134 = .ok (.istore_n 2, 1) := dk_61 (dk_at dksX1_layBasics_5 17 rfl rfl)
theorem dX1_layBasics_135 : decode cX1_layBasics 135 = .ok (.iload_n 2, 1) := dk_28 (dk_at dksX1_layBasics_5 18 rfl rfl)
theorem dX1_layBasics_136 : decode cX1_layBasics 136 = .ok (.bipush 24, 2) := dk_16 24 (dk_at dksX1_layBasics_5 19 rfl rfl)
theorem dX1_layBasics_138 : decode cX1_layBasics 138 = .ok (.if_icmp .ge 59, 3) := dk_162 0 59 (dk_at dksX1_layBasics_5 21 rfl rfl)
theorem dX1_layBasics_141 : decode cX1_layBasics 141 = .ok (.iconst 0, 1) := dk_3 (dk_at dksX1_layBasics_6 0 rfl rfl)
theorem dX1_layBasics_142 : decode cX1_layBasics 142 = .ok (.istore_n 3, 1) := dk_62 (dk_at dksX1_layBasics_6 1 rfl rfl)
theorem dX1_layBasics_143 : decode cX1_layBasics 143 = .ok (.iconst 0, 1) := dk_3 (dk_at dksX1_layBasics_6 2 rfl rfl)
theorem dX1_layBasics_144 : decode cX1_layBasics 144 = .ok (.istore 4, 2) := dk_54 4 (dk_at dksX1_layBasics_6 3 rfl rfl)
theorem dX1_layBasics_146 : decode cX1_layBasics 146 = .ok (.iload 4, 2) := dk_21 4 (dk_at dksX1_layBasics_6 5 rfl rfl)
theorem dX1_layBasics_148 : decode cX1_layBasics 148 = .ok (.bipush 12, 2) := dk_16 12 (dk_at dksX1_layBasics_6 7 rfl rfl)
theorem dX1_layBasics_150 : decode cX1_layBasics 150 = .ok (.if_icmp .ge 34, 3) := dk_162 0 34 (dk_at dksX1_layBasics_6 9 rfl rfl)
theorem dX1_layBasics_153 : decode cX1_layBasics 153 = .ok (.iload_n 3, 1) := dk_29 (dk_at dksX1_layBasics_6 12 rfl rfl)
theorem dX1_layBasics_154 : decode cX1_layBasics 154 = .ok (.aload_n 0, 1) := dk_42 (dk_at dksX1_layBasics_6 13 rfl rfl)
theorem dX1_layBasics_155 : decode cX1_layBasics 155 = .ok (.getfield 9, 3) := dk_180 0 9 (dk_at dksX1_layBasics_6 14 rfl rfl)
theorem dX1_layBasics_158 : decode cX1_layBasics 158 = .ok (.iload 4, 2) := dk_21 4 (dk_at dksX1_layBasics_6 17 rfl rfl)
theorem dX1_layBasics_160 : decode cX1_layBasics 160 = .ok (.iaload, 1) := dk_46 (dk_at dksX1_layBasics_6 19 rfl rfl)
theorem dX1_layBasics_161 : decode cX1_layBasics 161 = .ok (.iload_n 2, 1) := dk_28 (dk_at dksX1_layBasics_6 20 rfl rfl)
theorem dX1_layBasics_162 : decode cX1_layBasics 162 = .ok (.invokestatic 67, 3) := dk_184 0 67 (dk_at dksX1_layBasics_6 21 rfl rfl)
theorem dX1_layBasics_165 : decode cX1_layBasics 165 = .ok (.ifCond .eq 10, 3) := dk_153 0 10 (dk_at dksX1_layBasics_7 0 rfl rfl)
theorem dX1_layBasics_168 : decode cX1_layBasics 168 = .ok (.iconst 1, 1) := dk_4 (dk_at dksX1_layBasics_7 3 rfl rfl)
theorem dX1_layBasics_169 : decode cX1_layBasics 169 = .ok (.iload 4, 2) := dk_21 4 (dk_at dksX1_layBasics_7 4 rfl rfl)
theorem dX1_layBasics_171 : decode cX1_layBasics 171 = .ok (.ishl, 1) := dk_120 (dk_at dksX1_layBasics_7 6 rfl rfl)
theorem dX1_layBasics_172 : decode cX1_layBasics 172 = .ok (.goto 4, 3) := dk_167 0 4 (dk_at dksX1_layBasics_7 7 rfl rfl)
theorem dX1_layBasics_175 : decode cX1_layBasics 175 = .ok (.iconst 0, 1) := dk_3 (dk_at dksX1_layBasics_7 10 rfl rfl)
theorem dX1_layBasics_176 : decode cX1_layBasics 176 = .ok (.ior, 1) := dk_128 (dk_at dksX1_layBasics_7 11 rfl rfl)
theorem dX1_layBasics_177 : decode cX1_layBasics 177 = .ok (.istore_n 3, 1) := dk_62 (dk_at dksX1_layBasics_7 12 rfl rfl)
theorem dX1_layBasics_178 : decode cX1_layBasics 178 = .ok (.iinc 4 1, 3) := dk_132 4 1 (dk_at dksX1_layBasics_7 13 rfl rfl)
theorem dX1_layBasics_181 : decode cX1_layBasics 181 = .ok (.goto (-35), 3) := dk_167 255 221 (dk_at dksX1_layBasics_7 16 rfl rfl)
theorem dX1_layBasics_184 : decode cX1_layBasics 184 = .ok (.aload_n 0, 1) := dk_42 (dk_at dksX1_layBasics_7 19 rfl rfl)
theorem dX1_layBasics_185 : decode cX1_layBasics 185 = .ok (.getfield 27, 3) := dk_180 0 27 (dk_at dksX1_layBasics_7 20 rfl rfl)
theorem dX1_layBasics_188 : decode cX1_layBasics 188 = .ok (.iload_n 2, 1) := dk_28 (dk_at dksX1_layBasics_7 23 rfl rfl)
theorem dX1_layBasics_189 : decode cX1_layBasics 189 = .ok (.iload_n 3, 1) := dk_29 (dk_at dksX1_layBasics_8 0 rfl rfl)
theorem dX1_layBasics_190 : decode cX1_layBasics 190 = .ok (.iastore, 1) := dk_79 (dk_at dksX1_layBasics_8 1 rfl rfl)
theorem dX1_layBasics_191 : decode cX1_layBasics 191 = .ok (.iinc 2 1, 3) := dk_132 2 1 (dk_at dksX1_layBasics_8 2 rfl rfl)
theorem dX1_layBasics_194 : decode cX1_layBasics 194 = .ok (.goto (-59), 3) := dk_167 255 197 (dk_at dksX1_layBasics_8 5 rfl rfl)
theorem dX1_layBasics_197 : decode cX1_layBasics 197 = .ok (.return_, 1) := dk_177 (dk_at dksX1_layBasics_8 8 rfl rfl)
abbrev cX1_layRows : ByteArray := prog_3_method_3_code
def yX1_layRows : MethodName := ⟨RX1, "layRows", "()V"⟩
def dkwX1_layRows_4 : List UInt8 := [167, 255, 206, 177]
abbrev dktX1_layRows_4 : List UInt8 := dkwX1_layRows_4 ++ []
def dkwX1_layRows_3 : List UInt8 := [132, 3, 255, 167, 255, 236, 29, 155, 0, 13, 42, 29, 27, 28, 182, 0, 71, 132, 1, 255, 132, 2, 255]
abbrev dktX1_layRows_3 : List UInt8 := dkwX1_layRows_3 ++ dktX1_layRows_4
def dkwX1_layRows_2 : List UInt8 := [155, 0, 48, 27, 62, 29, 155, 0, 22, 42, 180, 0, 33, 29, 46, 28, 184, 0, 67, 154, 0, 9]
abbrev dktX1_layRows_2 : List UInt8 := dkwX1_layRows_2 ++ dktX1_layRows_3
def dkwX1_layRows_1 : List UInt8 := [27, 4, 27, 120, 79, 132, 1, 1, 167, 255, 226, 16, 11, 60, 16, 23, 61, 28, 155, 0, 52, 27]
abbrev dktX1_layRows_1 : List UInt8 := dkwX1_layRows_1 ++ dktX1_layRows_2
def dkwX1_layRows_0 : List UInt8 := [3, 60, 27, 16, 12, 162, 0, 30, 42, 180, 0, 33, 27, 42, 180, 0, 9, 27, 46, 79, 42, 180, 0, 39]
abbrev dktX1_layRows_0 : List UInt8 := dkwX1_layRows_0 ++ dktX1_layRows_1
theorem dksX1_layRows_0 : cX1_layRows.data.toList.drop 0 = dktX1_layRows_0 := by decide +kernel
theorem dksX1_layRows_1 : cX1_layRows.data.toList.drop 24 = dktX1_layRows_1 := dk_seg dksX1_layRows_0 24 rfl rfl
theorem dksX1_layRows_2 : cX1_layRows.data.toList.drop 46 = dktX1_layRows_2 := dk_seg dksX1_layRows_1 22 rfl rfl
theorem dksX1_layRows_3 : cX1_layRows.data.toList.drop 68 = dktX1_layRows_3 := dk_seg dksX1_layRows_2 22 rfl rfl
theorem dksX1_layRows_4 : cX1_layRows.data.toList.drop 91 = dktX1_layRows_4 := dk_seg dksX1_layRows_3 23 rfl rfl
theorem dX1_layRows_0 : decode cX1_layRows 0 = .ok (.iconst 0, 1) := dk_3 (dk_at dksX1_layRows_0 0 rfl rfl)
theorem dX1_layRows_1 : decode cX1_layRows 1 = .ok (.istore_n 1, 1) := dk_60 (dk_at dksX1_layRows_0 1 rfl rfl)
theorem dX1_layRows_2 : decode cX1_layRows 2 = .ok (.iload_n 1, 1) := dk_27 (dk_at dksX1_layRows_0 2 rfl rfl)
theorem dX1_layRows_3 : decode cX1_layRows 3 = .ok (.bipush 12, 2) := dk_16 12 (dk_at dksX1_layRows_0 3 rfl rfl)
theorem dX1_layRows_5 : decode cX1_layRows 5 = .ok (.if_icmp .ge 30, 3) := dk_162 0 30 (dk_at dksX1_layRows_0 5 rfl rfl)
theorem dX1_layRows_8 : decode cX1_layRows 8 = .ok (.aload_n 0, 1) := dk_42 (dk_at dksX1_layRows_0 8 rfl rfl)
theorem dX1_layRows_9 : decode cX1_layRows 9 = .ok (.getfield 33, 3) := dk_180 0 33 (dk_at dksX1_layRows_0 9 rfl rfl)
theorem dX1_layRows_12 : decode cX1_layRows 12 = .ok (.iload_n 1, 1) := dk_27 (dk_at dksX1_layRows_0 12 rfl rfl)
theorem dX1_layRows_13 : decode cX1_layRows 13 = .ok (.aload_n 0, 1) := dk_42 (dk_at dksX1_layRows_0 13 rfl rfl)
theorem dX1_layRows_14 : decode cX1_layRows 14 = .ok (.getfield 9, 3) := dk_180 0 9 (dk_at dksX1_layRows_0 14 rfl rfl)
theorem dX1_layRows_17 : decode cX1_layRows 17 = .ok (.iload_n 1, 1) := dk_27 (dk_at dksX1_layRows_0 17 rfl rfl)
theorem dX1_layRows_18 : decode cX1_layRows 18 = .ok (.iaload, 1) := dk_46 (dk_at dksX1_layRows_0 18 rfl rfl)
theorem dX1_layRows_19 : decode cX1_layRows 19 = .ok (.iastore, 1) := dk_79 (dk_at dksX1_layRows_0 19 rfl rfl)
theorem dX1_layRows_20 : decode cX1_layRows 20 = .ok (.aload_n 0, 1) := dk_42 (dk_at dksX1_layRows_0 20 rfl rfl)
theorem dX1_layRows_21 : decode cX1_layRows 21 = .ok (.getfield 39, 3) := dk_180 0 39 (dk_at dksX1_layRows_0 21 rfl rfl)
theorem dX1_layRows_24 : decode cX1_layRows 24 = .ok (.iload_n 1, 1) := dk_27 (dk_at dksX1_layRows_1 0 rfl rfl)
theorem dX1_layRows_25 : decode cX1_layRows 25 = .ok (.iconst 1, 1) := dk_4 (dk_at dksX1_layRows_1 1 rfl rfl)
theorem dX1_layRows_26 : decode cX1_layRows 26 = .ok (.iload_n 1, 1) := dk_27 (dk_at dksX1_layRows_1 2 rfl rfl)
theorem dX1_layRows_27 : decode cX1_layRows 27 = .ok (.ishl, 1) := dk_120 (dk_at dksX1_layRows_1 3 rfl rfl)
theorem dX1_layRows_28 : decode cX1_layRows 28 = .ok (.iastore, 1) := dk_79 (dk_at dksX1_layRows_1 4 rfl rfl)
theorem dX1_layRows_29 : decode cX1_layRows 29 = .ok (.iinc 1 1, 3) := dk_132 1 1 (dk_at dksX1_layRows_1 5 rfl rfl)
theorem dX1_layRows_32 : decode cX1_layRows 32 = .ok (.goto (-30), 3) := dk_167 255 226 (dk_at dksX1_layRows_1 8 rfl rfl)
theorem dX1_layRows_35 : decode cX1_layRows 35 = .ok (.bipush 11, 2) := dk_16 11 (dk_at dksX1_layRows_1 11 rfl rfl)
theorem dX1_layRows_37 : decode cX1_layRows 37 = .ok (.istore_n 1, 1) := dk_60 (dk_at dksX1_layRows_1 13 rfl rfl)
theorem dX1_layRows_38 : decode cX1_layRows 38 = .ok (.bipush 23, 2) := dk_16 23 (dk_at dksX1_layRows_1 14 rfl rfl)
theorem dX1_layRows_40 : decode cX1_layRows 40 = .ok (.istore_n 2, 1) := dk_61 (dk_at dksX1_layRows_1 16 rfl rfl)
theorem dX1_layRows_41 : decode cX1_layRows 41 = .ok (.iload_n 2, 1) := dk_28 (dk_at dksX1_layRows_1 17 rfl rfl)
theorem dX1_layRows_42 : decode cX1_layRows 42 = .ok (.ifCond .lt 52, 3) := dk_155 0 52 (dk_at dksX1_layRows_1 18 rfl rfl)
theorem dX1_layRows_45 : decode cX1_layRows 45 = .ok (.iload_n 1, 1) := dk_27 (dk_at dksX1_layRows_1 21 rfl rfl)
theorem dX1_layRows_46 : decode cX1_layRows 46 = .ok (.ifCond .lt 48, 3) := dk_155 0 48 (dk_at dksX1_layRows_2 0 rfl rfl)
theorem dX1_layRows_49 : decode cX1_layRows 49 = .ok (.iload_n 1, 1) := dk_27 (dk_at dksX1_layRows_2 3 rfl rfl)
theorem dX1_layRows_50 : decode cX1_layRows 50 = .ok (.istore_n 3, 1) := dk_62 (dk_at dksX1_layRows_2 4 rfl rfl)
theorem dX1_layRows_51 : decode cX1_layRows 51 = .ok (.iload_n 3, 1) := dk_29 (dk_at dksX1_layRows_2 5 rfl rfl)
theorem dX1_layRows_52 : decode cX1_layRows 52 = .ok (.ifCond .lt 22, 3) := dk_155 0 22 (dk_at dksX1_layRows_2 6 rfl rfl)
theorem dX1_layRows_55 : decode cX1_layRows 55 = .ok (.aload_n 0, 1) := dk_42 (dk_at dksX1_layRows_2 9 rfl rfl)
theorem dX1_layRows_56 : decode cX1_layRows 56 = .ok (.getfield 33, 3) := dk_180 0 33 (dk_at dksX1_layRows_2 10 rfl rfl)
theorem dX1_layRows_59 : decode cX1_layRows 59 = .ok (.iload_n 3, 1) := dk_29 (dk_at dksX1_layRows_2 13 rfl rfl)
theorem dX1_layRows_60 : decode cX1_layRows 60 = .ok (.iaload, 1) := dk_46 (dk_at dksX1_layRows_2 14 rfl rfl)
theorem dX1_layRows_61 : decode cX1_layRows 61 = .ok (.iload_n 2, 1) := dk_28 (dk_at dksX1_layRows_2 15 rfl rfl)
theorem dX1_layRows_62 : decode cX1_layRows 62 = .ok (.invokestatic 67, 3) := dk_184 0 67 (dk_at dksX1_layRows_2 16 rfl rfl)
theorem dX1_layRows_65 : decode cX1_layRows 65 = .ok (.ifCond .ne 9, 3) := dk_154 0 9 (dk_at dksX1_layRows_2 19 rfl rfl)
theorem dX1_layRows_68 : decode cX1_layRows 68 = .ok (.iinc 3 (-1), 3) := dk_132 3 255 (dk_at dksX1_layRows_3 0 rfl rfl)
theorem dX1_layRows_71 : decode cX1_layRows 71 = .ok (.goto (-20), 3) := dk_167 255 236 (dk_at dksX1_layRows_3 3 rfl rfl)
theorem dX1_layRows_74 : decode cX1_layRows 74 = .ok (.iload_n 3, 1) := dk_29 (dk_at dksX1_layRows_3 6 rfl rfl)
theorem dX1_layRows_75 : decode cX1_layRows 75 = .ok (.ifCond .lt 13, 3) := dk_155 0 13 (dk_at dksX1_layRows_3 7 rfl rfl)
theorem dX1_layRows_78 : decode cX1_layRows 78 = .ok (.aload_n 0, 1) := dk_42 (dk_at dksX1_layRows_3 10 rfl rfl)
theorem dX1_layRows_79 : decode cX1_layRows 79 = .ok (.iload_n 3, 1) := dk_29 (dk_at dksX1_layRows_3 11 rfl rfl)
theorem dX1_layRows_80 : decode cX1_layRows 80 = .ok (.iload_n 1, 1) := dk_27 (dk_at dksX1_layRows_3 12 rfl rfl)
theorem dX1_layRows_81 : decode cX1_layRows 81 = .ok (.iload_n 2, 1) := dk_28 (dk_at dksX1_layRows_3 13 rfl rfl)
theorem dX1_layRows_82 : decode cX1_layRows 82 = .ok (.invokevirtual 71, 3) := dk_182 0 71 (dk_at dksX1_layRows_3 14 rfl rfl)
theorem dX1_layRows_85 : decode cX1_layRows 85 = .ok (.iinc 1 (-1), 3) := dk_132 1 255 (dk_at dksX1_layRows_3 17 rfl rfl)
theorem dX1_layRows_88 : decode cX1_layRows 88 = .ok (.iinc 2 (-1), 3) := dk_132 2 255 (dk_at dksX1_layRows_3 20 rfl rfl)
theorem dX1_layRows_91 : decode cX1_layRows 91 = .ok (.goto (-50), 3) := dk_167 255 206 (dk_at dksX1_layRows_4 0 rfl rfl)
theorem dX1_layRows_94 : decode cX1_layRows 94 = .ok (.return_, 1) := dk_177 (dk_at dksX1_layRows_4 3 rfl rfl)
abbrev cX1_lead : ByteArray := prog_3_method_4_code
def yX1_lead : MethodName := ⟨RX1, "lead", "(III)V"⟩
def dkwX1_lead_5 : List UInt8 := [29, 79, 177]
abbrev dktX1_lead_5 : List UInt8 := dkwX1_lead_5 ++ []
def dkwX1_lead_4 : List UInt8 := [167, 255, 208, 42, 180, 0, 33, 28, 21, 4, 79, 42, 180, 0, 39, 28, 21, 5, 79, 42, 180, 0, 36, 28]
abbrev dktX1_lead_4 : List UInt8 := dkwX1_lead_4 ++ dktX1_lead_5
def dkwX1_lead_3 : List UInt8 := [21, 6, 92, 46, 21, 4, 130, 79, 42, 180, 0, 39, 21, 6, 92, 46, 21, 5, 130, 79, 132, 6, 1]
abbrev dktX1_lead_3 : List UInt8 := dkwX1_lead_3 ++ dktX1_lead_4
def dkwX1_lead_2 : List UInt8 := [16, 12, 162, 0, 47, 42, 180, 0, 33, 21, 6, 46, 29, 184, 0, 67, 153, 0, 27, 42, 180, 0, 33]
abbrev dktX1_lead_2 : List UInt8 := dkwX1_lead_2 ++ dktX1_lead_3
def dkwX1_lead_1 : List UInt8 := [180, 0, 33, 28, 46, 79, 42, 180, 0, 39, 27, 42, 180, 0, 39, 28, 46, 79, 3, 54, 6, 21, 6]
abbrev dktX1_lead_1 : List UInt8 := dkwX1_lead_1 ++ dktX1_lead_2
def dkwX1_lead_0 : List UInt8 := [42, 180, 0, 33, 27, 46, 54, 4, 42, 180, 0, 39, 27, 46, 54, 5, 42, 180, 0, 33, 27, 42]
abbrev dktX1_lead_0 : List UInt8 := dkwX1_lead_0 ++ dktX1_lead_1
theorem dksX1_lead_0 : cX1_lead.data.toList.drop 0 = dktX1_lead_0 := by decide +kernel
theorem dksX1_lead_1 : cX1_lead.data.toList.drop 22 = dktX1_lead_1 := dk_seg dksX1_lead_0 22 rfl rfl
theorem dksX1_lead_2 : cX1_lead.data.toList.drop 45 = dktX1_lead_2 := dk_seg dksX1_lead_1 23 rfl rfl
theorem dksX1_lead_3 : cX1_lead.data.toList.drop 68 = dktX1_lead_3 := dk_seg dksX1_lead_2 23 rfl rfl
theorem dksX1_lead_4 : cX1_lead.data.toList.drop 91 = dktX1_lead_4 := dk_seg dksX1_lead_3 23 rfl rfl
theorem dksX1_lead_5 : cX1_lead.data.toList.drop 115 = dktX1_lead_5 := dk_seg dksX1_lead_4 24 rfl rfl
theorem dX1_lead_0 : decode cX1_lead 0 = .ok (.aload_n 0, 1) := dk_42 (dk_at dksX1_lead_0 0 rfl rfl)
theorem dX1_lead_1 : decode cX1_lead 1 = .ok (.getfield 33, 3) := dk_180 0 33 (dk_at dksX1_lead_0 1 rfl rfl)
theorem dX1_lead_4 : decode cX1_lead 4 = .ok (.iload_n 1, 1) := dk_27 (dk_at dksX1_lead_0 4 rfl rfl)
theorem dX1_lead_5 : decode cX1_lead 5 = .ok (.iaload, 1) := dk_46 (dk_at dksX1_lead_0 5 rfl rfl)
theorem dX1_lead_6 : decode cX1_lead 6 = .ok (.istore 4, 2) := dk_54 4 (dk_at dksX1_lead_0 6 rfl rfl)
theorem dX1_lead_8 : decode cX1_lead 8 = .ok (.aload_n 0, 1) := dk_42 (dk_at dksX1_lead_0 8 rfl rfl)
theorem dX1_lead_9 : decode cX1_lead 9 = .ok (.getfield 39, 3) := dk_180 0 39 (dk_at dksX1_lead_0 9 rfl rfl)
theorem dX1_lead_12 : decode cX1_lead 12 = .ok (.iload_n 1, 1) := dk_27 (dk_at dksX1_lead_0 12 rfl rfl)
theorem dX1_lead_13 : decode cX1_lead 13 = .ok (.iaload, 1) := dk_46 (dk_at dksX1_lead_0 13 rfl rfl)
theorem dX1_lead_14 : decode cX1_lead 14 = .ok (.istore 5, 2) := dk_54 5 (dk_at dksX1_lead_0 14 rfl rfl)
theorem dX1_lead_16 : decode cX1_lead 16 = .ok (.aload_n 0, 1) := dk_42 (dk_at dksX1_lead_0 16 rfl rfl)
theorem dX1_lead_17 : decode cX1_lead 17 = .ok (.getfield 33, 3) := dk_180 0 33 (dk_at dksX1_lead_0 17 rfl rfl)
theorem dX1_lead_20 : decode cX1_lead 20 = .ok (.iload_n 1, 1) := dk_27 (dk_at dksX1_lead_0 20 rfl rfl)
theorem dX1_lead_21 : decode cX1_lead 21 = .ok (.aload_n 0, 1) := dk_42 (dk_at dksX1_lead_0 21 rfl rfl)
theorem dX1_lead_22 : decode cX1_lead 22 = .ok (.getfield 33, 3) := dk_180 0 33 (dk_at dksX1_lead_1 0 rfl rfl)
theorem dX1_lead_25 : decode cX1_lead 25 = .ok (.iload_n 2, 1) := dk_28 (dk_at dksX1_lead_1 3 rfl rfl)
theorem dX1_lead_26 : decode cX1_lead 26 = .ok (.iaload, 1) := dk_46 (dk_at dksX1_lead_1 4 rfl rfl)
theorem dX1_lead_27 : decode cX1_lead 27 = .ok (.iastore, 1) := dk_79 (dk_at dksX1_lead_1 5 rfl rfl)
theorem dX1_lead_28 : decode cX1_lead 28 = .ok (.aload_n 0, 1) := dk_42 (dk_at dksX1_lead_1 6 rfl rfl)
theorem dX1_lead_29 : decode cX1_lead 29 = .ok (.getfield 39, 3) := dk_180 0 39 (dk_at dksX1_lead_1 7 rfl rfl)
theorem dX1_lead_32 : decode cX1_lead 32 = .ok (.iload_n 1, 1) := dk_27 (dk_at dksX1_lead_1 10 rfl rfl)
theorem dX1_lead_33 : decode cX1_lead 33 = .ok (.aload_n 0, 1) := dk_42 (dk_at dksX1_lead_1 11 rfl rfl)
theorem dX1_lead_34 : decode cX1_lead 34 = .ok (.getfield 39, 3) := dk_180 0 39 (dk_at dksX1_lead_1 12 rfl rfl)
theorem dX1_lead_37 : decode cX1_lead 37 = .ok (.iload_n 2, 1) := dk_28 (dk_at dksX1_lead_1 15 rfl rfl)
theorem dX1_lead_38 : decode cX1_lead 38 = .ok (.iaload, 1) := dk_46 (dk_at dksX1_lead_1 16 rfl rfl)
theorem dX1_lead_39 : decode cX1_lead 39 = .ok (.iastore, 1) := dk_79 (dk_at dksX1_lead_1 17 rfl rfl)
theorem dX1_lead_40 : decode cX1_lead 40 = .ok (.iconst 0, 1) := dk_3 (dk_at dksX1_lead_1 18 rfl rfl)
theorem dX1_lead_41 : decode cX1_lead 41 = .ok (.istore 6, 2) := dk_54 6 (dk_at dksX1_lead_1 19 rfl rfl)
theorem dX1_lead_43 : decode cX1_lead 43 = .ok (.iload 6, 2) := dk_21 6 (dk_at dksX1_lead_1 21 rfl rfl)
theorem dX1_lead_45 : decode cX1_lead 45 = .ok (.bipush 12, 2) := dk_16 12 (dk_at dksX1_lead_2 0 rfl rfl)
theorem dX1_lead_47 : decode cX1_lead 47 = .ok (.if_icmp .ge 47, 3) := dk_162 0 47 (dk_at dksX1_lead_2 2 rfl rfl)
theorem dX1_lead_50 : decode cX1_lead 50 = .ok (.aload_n 0, 1) := dk_42 (dk_at dksX1_lead_2 5 rfl rfl)
theorem dX1_lead_51 : decode cX1_lead 51 = .ok (.getfield 33, 3) := dk_180 0 33 (dk_at dksX1_lead_2 6 rfl rfl)
theorem dX1_lead_54 : decode cX1_lead 54 = .ok (.iload 6, 2) := dk_21 6 (dk_at dksX1_lead_2 9 rfl rfl)
theorem dX1_lead_56 : decode cX1_lead 56 = .ok (.iaload, 1) := dk_46 (dk_at dksX1_lead_2 11 rfl rfl)
theorem dX1_lead_57 : decode cX1_lead 57 = .ok (.iload_n 3, 1) := dk_29 (dk_at dksX1_lead_2 12 rfl rfl)
theorem dX1_lead_58 : decode cX1_lead 58 = .ok (.invokestatic 67, 3) := dk_184 0 67 (dk_at dksX1_lead_2 13 rfl rfl)
theorem dX1_lead_61 : decode cX1_lead 61 = .ok (.ifCond .eq 27, 3) := dk_153 0 27 (dk_at dksX1_lead_2 16 rfl rfl)
theorem dX1_lead_64 : decode cX1_lead 64 = .ok (.aload_n 0, 1) := dk_42 (dk_at dksX1_lead_2 19 rfl rfl)
theorem dX1_lead_65 : decode cX1_lead 65 = .ok (.getfield 33, 3) := dk_180 0 33 (dk_at dksX1_lead_2 20 rfl rfl)
theorem dX1_lead_68 : decode cX1_lead 68 = .ok (.iload 6, 2) := dk_21 6 (dk_at dksX1_lead_3 0 rfl rfl)
theorem dX1_lead_70 : decode cX1_lead 70 = .ok (.dup2, 1) := dk_92 (dk_at dksX1_lead_3 2 rfl rfl)
theorem dX1_lead_71 : decode cX1_lead 71 = .ok (.iaload, 1) := dk_46 (dk_at dksX1_lead_3 3 rfl rfl)
theorem dX1_lead_72 : decode cX1_lead 72 = .ok (.iload 4, 2) := dk_21 4 (dk_at dksX1_lead_3 4 rfl rfl)
theorem dX1_lead_74 : decode cX1_lead 74 = .ok (.ixor, 1) := dk_130 (dk_at dksX1_lead_3 6 rfl rfl)
theorem dX1_lead_75 : decode cX1_lead 75 = .ok (.iastore, 1) := dk_79 (dk_at dksX1_lead_3 7 rfl rfl)
theorem dX1_lead_76 : decode cX1_lead 76 = .ok (.aload_n 0, 1) := dk_42 (dk_at dksX1_lead_3 8 rfl rfl)
theorem dX1_lead_77 : decode cX1_lead 77 = .ok (.getfield 39, 3) := dk_180 0 39 (dk_at dksX1_lead_3 9 rfl rfl)
theorem dX1_lead_80 : decode cX1_lead 80 = .ok (.iload 6, 2) := dk_21 6 (dk_at dksX1_lead_3 12 rfl rfl)
theorem dX1_lead_82 : decode cX1_lead 82 = .ok (.dup2, 1) := dk_92 (dk_at dksX1_lead_3 14 rfl rfl)
theorem dX1_lead_83 : decode cX1_lead 83 = .ok (.iaload, 1) := dk_46 (dk_at dksX1_lead_3 15 rfl rfl)
theorem dX1_lead_84 : decode cX1_lead 84 = .ok (.iload 5, 2) := dk_21 5 (dk_at dksX1_lead_3 16 rfl rfl)
theorem dX1_lead_86 : decode cX1_lead 86 = .ok (.ixor, 1) := dk_130 (dk_at dksX1_lead_3 18 rfl rfl)
theorem dX1_lead_87 : decode cX1_lead 87 = .ok (.iastore, 1) := dk_79 (dk_at dksX1_lead_3 19 rfl rfl)
theorem dX1_lead_88 : decode cX1_lead 88 = .ok (.iinc 6 1, 3) := dk_132 6 1 (dk_at dksX1_lead_3 20 rfl rfl)
theorem dX1_lead_91 : decode cX1_lead 91 = .ok (.goto (-48), 3) := dk_167 255 208 (dk_at dksX1_lead_4 0 rfl rfl)
theorem dX1_lead_94 : decode cX1_lead 94 = .ok (.aload_n 0, 1) := dk_42 (dk_at dksX1_lead_4 3 rfl rfl)
theorem dX1_lead_95 : decode cX1_lead 95 = .ok (.getfield 33, 3) := dk_180 0 33 (dk_at dksX1_lead_4 4 rfl rfl)
theorem dX1_lead_98 : decode cX1_lead 98 = .ok (.iload_n 2, 1) := dk_28 (dk_at dksX1_lead_4 7 rfl rfl)
theorem dX1_lead_99 : decode cX1_lead 99 = .ok (.iload 4, 2) := dk_21 4 (dk_at dksX1_lead_4 8 rfl rfl)
theorem dX1_lead_101 : decode cX1_lead 101 = .ok (.iastore, 1) := dk_79 (dk_at dksX1_lead_4 10 rfl rfl)
theorem dX1_lead_102 : decode cX1_lead 102 = .ok (.aload_n 0, 1) := dk_42 (dk_at dksX1_lead_4 11 rfl rfl)
theorem dX1_lead_103 : decode cX1_lead 103 = .ok (.getfield 39, 3) := dk_180 0 39 (dk_at dksX1_lead_4 12 rfl rfl)
theorem dX1_lead_106 : decode cX1_lead 106 = .ok (.iload_n 2, 1) := dk_28 (dk_at dksX1_lead_4 15 rfl rfl)
theorem dX1_lead_107 : decode cX1_lead 107 = .ok (.iload 5, 2) := dk_21 5 (dk_at dksX1_lead_4 16 rfl rfl)
theorem dX1_lead_109 : decode cX1_lead 109 = .ok (.iastore, 1) := dk_79 (dk_at dksX1_lead_4 18 rfl rfl)
theorem dX1_lead_110 : decode cX1_lead 110 = .ok (.aload_n 0, 1) := dk_42 (dk_at dksX1_lead_4 19 rfl rfl)
theorem dX1_lead_111 : decode cX1_lead 111 = .ok (.getfield 36, 3) := dk_180 0 36 (dk_at dksX1_lead_4 20 rfl rfl)
theorem dX1_lead_114 : decode cX1_lead 114 = .ok (.iload_n 2, 1) := dk_28 (dk_at dksX1_lead_4 23 rfl rfl)
theorem dX1_lead_115 : decode cX1_lead 115 = .ok (.iload_n 3, 1) := dk_29 (dk_at dksX1_lead_5 0 rfl rfl)
theorem dX1_lead_116 : decode cX1_lead 116 = .ok (.iastore, 1) := dk_79 (dk_at dksX1_lead_5 1 rfl rfl)
theorem dX1_lead_117 : decode cX1_lead 117 = .ok (.return_, 1) := dk_177 (dk_at dksX1_lead_5 2 rfl rfl)
abbrev cX1_layLeaders : ByteArray := prog_3_method_5_code
def yX1_layLeaders : MethodName := ⟨RX1, "layLeaders", "()V"⟩
def dkwX1_layLeaders_5 : List UInt8 := [79, 132, 3, 1, 167, 255, 211, 132, 2, 1, 167, 255, 170, 132, 1, 1, 167, 255, 140, 177]
abbrev dktX1_layLeaders_5 : List UInt8 := dkwX1_layLeaders_5 ++ []
def dkwX1_layLeaders_4 : List UInt8 := [180, 0, 27, 28, 46, 130, 42, 180, 0, 27, 29, 46, 130, 4, 27, 120, 4, 28, 120, 128, 4, 29, 120, 128]
abbrev dktX1_layLeaders_4 : List UInt8 := dkwX1_layLeaders_4 ++ dktX1_layLeaders_5
def dkwX1_layLeaders_3 : List UInt8 := [79, 28, 4, 96, 62, 29, 16, 24, 162, 0, 45, 42, 180, 0, 30, 42, 180, 0, 27, 27, 46, 42]
abbrev dktX1_layLeaders_3 : List UInt8 := dkwX1_layLeaders_3 ++ dktX1_layLeaders_4
def dkwX1_layLeaders_2 : List UInt8 := [42, 180, 0, 30, 42, 180, 0, 27, 27, 46, 42, 180, 0, 27, 28, 46, 130, 4, 27, 120, 4, 28, 120, 128]
abbrev dktX1_layLeaders_2 : List UInt8 := dkwX1_layLeaders_2 ++ dktX1_layLeaders_3
def dkwX1_layLeaders_1 : List UInt8 := [42, 180, 0, 30, 42, 180, 0, 27, 27, 46, 4, 27, 120, 79, 27, 4, 96, 61, 28, 16, 24, 162, 0, 86]
abbrev dktX1_layLeaders_1 : List UInt8 := dkwX1_layLeaders_1 ++ dktX1_layLeaders_2
def dkwX1_layLeaders_0 : List UInt8 := [42, 180, 0, 30, 16, 252, 184, 0, 75, 42, 180, 0, 30, 3, 3, 79, 3, 60, 27, 16, 24, 162, 0, 116]
abbrev dktX1_layLeaders_0 : List UInt8 := dkwX1_layLeaders_0 ++ dktX1_layLeaders_1
theorem dksX1_layLeaders_0 : cX1_layLeaders.data.toList.drop 0 = dktX1_layLeaders_0 := by decide +kernel
theorem dksX1_layLeaders_1 : cX1_layLeaders.data.toList.drop 24 = dktX1_layLeaders_1 := dk_seg dksX1_layLeaders_0 24 rfl rfl
theorem dksX1_layLeaders_2 : cX1_layLeaders.data.toList.drop 48 = dktX1_layLeaders_2 := dk_seg dksX1_layLeaders_1 24 rfl rfl
theorem dksX1_layLeaders_3 : cX1_layLeaders.data.toList.drop 72 = dktX1_layLeaders_3 := dk_seg dksX1_layLeaders_2 24 rfl rfl
theorem dksX1_layLeaders_4 : cX1_layLeaders.data.toList.drop 94 = dktX1_layLeaders_4 := dk_seg dksX1_layLeaders_3 22 rfl rfl
theorem dksX1_layLeaders_5 : cX1_layLeaders.data.toList.drop 118 = dktX1_layLeaders_5 := dk_seg dksX1_layLeaders_4 24 rfl rfl
theorem dX1_layLeaders_0 : decode cX1_layLeaders 0 = .ok (.aload_n 0, 1) := dk_42 (dk_at dksX1_layLeaders_0 0 rfl rfl)
theorem dX1_layLeaders_1 : decode cX1_layLeaders 1 = .ok (.getfield 30, 3) := dk_180 0 30 (dk_at dksX1_layLeaders_0 1 rfl rfl)
theorem dX1_layLeaders_4 : decode cX1_layLeaders 4 = .ok (.bipush (-4), 2) := dk_16 252 (dk_at dksX1_layLeaders_0 4 rfl rfl)
theorem dX1_layLeaders_6 : decode cX1_layLeaders 6 = .ok (.invokestatic 75, 3) := dk_184 0 75 (dk_at dksX1_layLeaders_0 6 rfl rfl)
theorem dX1_layLeaders_9 : decode cX1_layLeaders 9 = .ok (.aload_n 0, 1) := dk_42 (dk_at dksX1_layLeaders_0 9 rfl rfl)
theorem dX1_layLeaders_10 : decode cX1_layLeaders 10 = .ok (.getfield 30, 3) := dk_180 0 30 (dk_at dksX1_layLeaders_0 10 rfl rfl)
theorem dX1_layLeaders_13 : decode cX1_layLeaders 13 = .ok (.iconst 0, 1) := dk_3 (dk_at dksX1_layLeaders_0 13 rfl rfl)
theorem dX1_layLeaders_14 : decode cX1_layLeaders 14 = .ok (.iconst 0, 1) := dk_3 (dk_at dksX1_layLeaders_0 14 rfl rfl)
theorem dX1_layLeaders_15 : decode cX1_layLeaders 15 = .ok (.iastore, 1) := dk_79 (dk_at dksX1_layLeaders_0 15 rfl rfl)
theorem dX1_layLeaders_16 : decode cX1_layLeaders 16 = .ok (.iconst 0, 1) := dk_3 (dk_at dksX1_layLeaders_0 16 rfl rfl)
theorem dX1_layLeaders_17 : decode cX1_layLeaders 17 = .ok (.istore_n 1, 1) := dk_60 (dk_at dksX1_layLeaders_0 17 rfl rfl)
theorem dX1_layLeaders_18 : decode cX1_layLeaders 18 = .ok (.iload_n 1, 1) := dk_27 (dk_at dksX1_layLeaders_0 18 rfl rfl)
theorem dX1_layLeaders_19 : decode cX1_layLeaders 19 = .ok (.bipush 24, 2) := dk_16 24 (dk_at dksX1_layLeaders_0 19 rfl rfl)
theorem dX1_layLeaders_21 : decode cX1_layLeaders 21 = .ok (.if_icmp .ge 116, 3) := dk_162 0 116 (dk_at dksX1_layLeaders_0 21 rfl rfl)
theorem dX1_layLeaders_24 : decode cX1_layLeaders 24 = .ok (.aload_n 0, 1) := dk_42 (dk_at dksX1_layLeaders_1 0 rfl rfl)
theorem dX1_layLeaders_25 : decode cX1_layLeaders 25 = .ok (.getfield 30, 3) := dk_180 0 30 (dk_at dksX1_layLeaders_1 1 rfl rfl)
theorem dX1_layLeaders_28 : decode cX1_layLeaders 28 = .ok (.aload_n 0, 1) := dk_42 (dk_at dksX1_layLeaders_1 4 rfl rfl)
theorem dX1_layLeaders_29 : decode cX1_layLeaders 29 = .ok (.getfield 27, 3) := dk_180 0 27 (dk_at dksX1_layLeaders_1 5 rfl rfl)
theorem dX1_layLeaders_32 : decode cX1_layLeaders 32 = .ok (.iload_n 1, 1) := dk_27 (dk_at dksX1_layLeaders_1 8 rfl rfl)
theorem dX1_layLeaders_33 : decode cX1_layLeaders 33 = .ok (.iaload, 1) := dk_46 (dk_at dksX1_layLeaders_1 9 rfl rfl)
theorem dX1_layLeaders_34 : decode cX1_layLeaders 34 = .ok (.iconst 1, 1) := dk_4 (dk_at dksX1_layLeaders_1 10 rfl rfl)
theorem dX1_layLeaders_35 : decode cX1_layLeaders 35 = .ok (.iload_n 1, 1) := dk_27 (dk_at dksX1_layLeaders_1 11 rfl rfl)
theorem dX1_layLeaders_36 : decode cX1_layLeaders 36 = .ok (.ishl, 1) := dk_120 (dk_at dksX1_layLeaders_1 12 rfl rfl)
theorem dX1_layLeaders_37 : decode cX1_layLeaders 37 = .ok (.iastore, 1) := dk_79 (dk_at dksX1_layLeaders_1 13 rfl rfl)
theorem dX1_layLeaders_38 : decode cX1_layLeaders 38 = .ok (.iload_n 1, 1) := dk_27 (dk_at dksX1_layLeaders_1 14 rfl rfl)
theorem dX1_layLeaders_39 : decode cX1_layLeaders 39 = .ok (.iconst 1, 1) := dk_4 (dk_at dksX1_layLeaders_1 15 rfl rfl)
theorem dX1_layLeaders_40 : decode cX1_layLeaders 40 = .ok (.iadd, 1) := dk_96 (dk_at dksX1_layLeaders_1 16 rfl rfl)
theorem dX1_layLeaders_41 : decode cX1_layLeaders 41 = .ok (.istore_n 2, 1) := dk_61 (dk_at dksX1_layLeaders_1 17 rfl rfl)
theorem dX1_layLeaders_42 : decode cX1_layLeaders 42 = .ok (.iload_n 2, 1) := dk_28 (dk_at dksX1_layLeaders_1 18 rfl rfl)
theorem dX1_layLeaders_43 : decode cX1_layLeaders 43 = .ok (.bipush 24, 2) := dk_16 24 (dk_at dksX1_layLeaders_1 19 rfl rfl)
theorem dX1_layLeaders_45 : decode cX1_layLeaders 45 = .ok (.if_icmp .ge 86, 3) := dk_162 0 86 (dk_at dksX1_layLeaders_1 21 rfl rfl)
theorem dX1_layLeaders_48 : decode cX1_layLeaders 48 = .ok (.aload_n 0, 1) := dk_42 (dk_at dksX1_layLeaders_2 0 rfl rfl)
theorem dX1_layLeaders_49 : decode cX1_layLeaders 49 = .ok (.getfield 30, 3) := dk_180 0 30 (dk_at dksX1_layLeaders_2 1 rfl rfl)
theorem dX1_layLeaders_52 : decode cX1_layLeaders 52 = .ok (.aload_n 0, 1) := dk_42 (dk_at dksX1_layLeaders_2 4 rfl rfl)
theorem dX1_layLeaders_53 : decode cX1_layLeaders 53 = .ok (.getfield 27, 3) := dk_180 0 27 (dk_at dksX1_layLeaders_2 5 rfl rfl)
theorem dX1_layLeaders_56 : decode cX1_layLeaders 56 = .ok (.iload_n 1, 1) := dk_27 (dk_at dksX1_layLeaders_2 8 rfl rfl)
theorem dX1_layLeaders_57 : decode cX1_layLeaders 57 = .ok (.iaload, 1) := dk_46 (dk_at dksX1_layLeaders_2 9 rfl rfl)
theorem dX1_layLeaders_58 : decode cX1_layLeaders 58 = .ok (.aload_n 0, 1) := dk_42 (dk_at dksX1_layLeaders_2 10 rfl rfl)
theorem dX1_layLeaders_59 : decode cX1_layLeaders 59 = .ok (.getfield 27, 3) := dk_180 0 27 (dk_at dksX1_layLeaders_2 11 rfl rfl)
theorem dX1_layLeaders_62 : decode cX1_layLeaders 62 = .ok (.iload_n 2, 1) := dk_28 (dk_at dksX1_layLeaders_2 14 rfl rfl)
theorem dX1_layLeaders_63 : decode cX1_layLeaders 63 = .ok (.iaload, 1) := dk_46 (dk_at dksX1_layLeaders_2 15 rfl rfl)
theorem dX1_layLeaders_64 : decode cX1_layLeaders 64 = .ok (.ixor, 1) := dk_130 (dk_at dksX1_layLeaders_2 16 rfl rfl)
theorem dX1_layLeaders_65 : decode cX1_layLeaders 65 = .ok (.iconst 1, 1) := dk_4 (dk_at dksX1_layLeaders_2 17 rfl rfl)
theorem dX1_layLeaders_66 : decode cX1_layLeaders 66 = .ok (.iload_n 1, 1) := dk_27 (dk_at dksX1_layLeaders_2 18 rfl rfl)
theorem dX1_layLeaders_67 : decode cX1_layLeaders 67 = .ok (.ishl, 1) := dk_120 (dk_at dksX1_layLeaders_2 19 rfl rfl)
theorem dX1_layLeaders_68 : decode cX1_layLeaders 68 = .ok (.iconst 1, 1) := dk_4 (dk_at dksX1_layLeaders_2 20 rfl rfl)
theorem dX1_layLeaders_69 : decode cX1_layLeaders 69 = .ok (.iload_n 2, 1) := dk_28 (dk_at dksX1_layLeaders_2 21 rfl rfl)
theorem dX1_layLeaders_70 : decode cX1_layLeaders 70 = .ok (.ishl, 1) := dk_120 (dk_at dksX1_layLeaders_2 22 rfl rfl)
theorem dX1_layLeaders_71 : decode cX1_layLeaders 71 = .ok (.ior, 1) := dk_128 (dk_at dksX1_layLeaders_2 23 rfl rfl)
theorem dX1_layLeaders_72 : decode cX1_layLeaders 72 = .ok (.iastore, 1) := dk_79 (dk_at dksX1_layLeaders_3 0 rfl rfl)
theorem dX1_layLeaders_73 : decode cX1_layLeaders 73 = .ok (.iload_n 2, 1) := dk_28 (dk_at dksX1_layLeaders_3 1 rfl rfl)
theorem dX1_layLeaders_74 : decode cX1_layLeaders 74 = .ok (.iconst 1, 1) := dk_4 (dk_at dksX1_layLeaders_3 2 rfl rfl)
theorem dX1_layLeaders_75 : decode cX1_layLeaders 75 = .ok (.iadd, 1) := dk_96 (dk_at dksX1_layLeaders_3 3 rfl rfl)
theorem dX1_layLeaders_76 : decode cX1_layLeaders 76 = .ok (.istore_n 3, 1) := dk_62 (dk_at dksX1_layLeaders_3 4 rfl rfl)
theorem dX1_layLeaders_77 : decode cX1_layLeaders 77 = .ok (.iload_n 3, 1) := dk_29 (dk_at dksX1_layLeaders_3 5 rfl rfl)
theorem dX1_layLeaders_78 : decode cX1_layLeaders 78 = .ok (.bipush 24, 2) := dk_16 24 (dk_at dksX1_layLeaders_3 6 rfl rfl)
theorem dX1_layLeaders_80 : decode cX1_layLeaders 80 = .ok (.if_icmp .ge 45, 3) := dk_162 0 45 (dk_at dksX1_layLeaders_3 8 rfl rfl)
theorem dX1_layLeaders_83 : decode cX1_layLeaders 83 = .ok (.aload_n 0, 1) := dk_42 (dk_at dksX1_layLeaders_3 11 rfl rfl)
theorem dX1_layLeaders_84 : decode cX1_layLeaders 84 = .ok (.getfield 30, 3) := dk_180 0 30 (dk_at dksX1_layLeaders_3 12 rfl rfl)
theorem dX1_layLeaders_87 : decode cX1_layLeaders 87 = .ok (.aload_n 0, 1) := dk_42 (dk_at dksX1_layLeaders_3 15 rfl rfl)
theorem dX1_layLeaders_88 : decode cX1_layLeaders 88 = .ok (.getfield 27, 3) := dk_180 0 27 (dk_at dksX1_layLeaders_3 16 rfl rfl)
theorem dX1_layLeaders_91 : decode cX1_layLeaders 91 = .ok (.iload_n 1, 1) := dk_27 (dk_at dksX1_layLeaders_3 19 rfl rfl)
theorem dX1_layLeaders_92 : decode cX1_layLeaders 92 = .ok (.iaload, 1) := dk_46 (dk_at dksX1_layLeaders_3 20 rfl rfl)
theorem dX1_layLeaders_93 : decode cX1_layLeaders 93 = .ok (.aload_n 0, 1) := dk_42 (dk_at dksX1_layLeaders_3 21 rfl rfl)
theorem dX1_layLeaders_94 : decode cX1_layLeaders 94 = .ok (.getfield 27, 3) := dk_180 0 27 (dk_at dksX1_layLeaders_4 0 rfl rfl)
theorem dX1_layLeaders_97 : decode cX1_layLeaders 97 = .ok (.iload_n 2, 1) := dk_28 (dk_at dksX1_layLeaders_4 3 rfl rfl)
theorem dX1_layLeaders_98 : decode cX1_layLeaders 98 = .ok (.iaload, 1) := dk_46 (dk_at dksX1_layLeaders_4 4 rfl rfl)
theorem dX1_layLeaders_99 : decode cX1_layLeaders 99 = .ok (.ixor, 1) := dk_130 (dk_at dksX1_layLeaders_4 5 rfl rfl)
theorem dX1_layLeaders_100 : decode cX1_layLeaders 100 = .ok (.aload_n 0, 1) := dk_42 (dk_at dksX1_layLeaders_4 6 rfl rfl)
theorem dX1_layLeaders_101 : decode cX1_layLeaders 101 = .ok (.getfield 27, 3) := dk_180 0 27 (dk_at dksX1_layLeaders_4 7 rfl rfl)
theorem dX1_layLeaders_104 : decode cX1_layLeaders 104 = .ok (.iload_n 3, 1) := dk_29 (dk_at dksX1_layLeaders_4 10 rfl rfl)
theorem dX1_layLeaders_105 : decode cX1_layLeaders 105 = .ok (.iaload, 1) := dk_46 (dk_at dksX1_layLeaders_4 11 rfl rfl)
theorem dX1_layLeaders_106 : decode cX1_layLeaders 106 = .ok (.ixor, 1) := dk_130 (dk_at dksX1_layLeaders_4 12 rfl rfl)
theorem dX1_layLeaders_107 : decode cX1_layLeaders 107 = .ok (.iconst 1, 1) := dk_4 (dk_at dksX1_layLeaders_4 13 rfl rfl)
theorem dX1_layLeaders_108 : decode cX1_layLeaders 108 = .ok (.iload_n 1, 1) := dk_27 (dk_at dksX1_layLeaders_4 14 rfl rfl)
theorem dX1_layLeaders_109 : decode cX1_layLeaders 109 = .ok (.ishl, 1) := dk_120 (dk_at dksX1_layLeaders_4 15 rfl rfl)
theorem dX1_layLeaders_110 : decode cX1_layLeaders 110 = .ok (.iconst 1, 1) := dk_4 (dk_at dksX1_layLeaders_4 16 rfl rfl)
theorem dX1_layLeaders_111 : decode cX1_layLeaders 111 = .ok (.iload_n 2, 1) := dk_28 (dk_at dksX1_layLeaders_4 17 rfl rfl)
theorem dX1_layLeaders_112 : decode cX1_layLeaders 112 = .ok (.ishl, 1) := dk_120 (dk_at dksX1_layLeaders_4 18 rfl rfl)
theorem dX1_layLeaders_113 : decode cX1_layLeaders 113 = .ok (.ior, 1) := dk_128 (dk_at dksX1_layLeaders_4 19 rfl rfl)
theorem dX1_layLeaders_114 : decode cX1_layLeaders 114 = .ok (.iconst 1, 1) := dk_4 (dk_at dksX1_layLeaders_4 20 rfl rfl)
theorem dX1_layLeaders_115 : decode cX1_layLeaders 115 = .ok (.iload_n 3, 1) := dk_29 (dk_at dksX1_layLeaders_4 21 rfl rfl)
theorem dX1_layLeaders_116 : decode cX1_layLeaders 116 = .ok (.ishl, 1) := dk_120 (dk_at dksX1_layLeaders_4 22 rfl rfl)
theorem dX1_layLeaders_117 : decode cX1_layLeaders 117 = .ok (.ior, 1) := dk_128 (dk_at dksX1_layLeaders_4 23 rfl rfl)
theorem dX1_layLeaders_118 : decode cX1_layLeaders 118 = .ok (.iastore, 1) := dk_79 (dk_at dksX1_layLeaders_5 0 rfl rfl)
theorem dX1_layLeaders_119 : decode cX1_layLeaders 119 = .ok (.iinc 3 1, 3) := dk_132 3 1 (dk_at dksX1_layLeaders_5 1 rfl rfl)
theorem dX1_layLeaders_122 : decode cX1_layLeaders 122 = .ok (.goto (-45), 3) := dk_167 255 211 (dk_at dksX1_layLeaders_5 4 rfl rfl)
theorem dX1_layLeaders_125 : decode cX1_layLeaders 125 = .ok (.iinc 2 1, 3) := dk_132 2 1 (dk_at dksX1_layLeaders_5 7 rfl rfl)
theorem dX1_layLeaders_128 : decode cX1_layLeaders 128 = .ok (.goto (-86), 3) := dk_167 255 170 (dk_at dksX1_layLeaders_5 10 rfl rfl)
theorem dX1_layLeaders_131 : decode cX1_layLeaders 131 = .ok (.iinc 1 1, 3) := dk_132 1 1 (dk_at dksX1_layLeaders_5 13 rfl rfl)
theorem dX1_layLeaders_134 : decode cX1_layLeaders 134 = .ok (.goto (-116), 3) := dk_167 255 140 (dk_at dksX1_layLeaders_5 16 rfl rfl)
theorem dX1_layLeaders_137 : decode cX1_layLeaders 137 = .ok (.return_, 1) := dk_177 (dk_at dksX1_layLeaders_5 19 rfl rfl)
abbrev cX1_remainder : ByteArray := prog_3_method_6_code
def yX1_remainder : MethodName := ⟨RX1, "remainder", "(I)I"⟩
def dkwX1_remainder_1 : List UInt8 := [46, 167, 0, 4, 3, 130, 61, 132, 3, 1, 167, 255, 226, 28, 172]
abbrev dktX1_remainder_1 : List UInt8 := dkwX1_remainder_1 ++ []
def dkwX1_remainder_0 : List UInt8 := [3, 61, 3, 62, 29, 16, 24, 162, 0, 30, 28, 27, 29, 184, 0, 67, 153, 0, 12, 42, 180, 0, 27, 29]
abbrev dktX1_remainder_0 : List UInt8 := dkwX1_remainder_0 ++ dktX1_remainder_1
theorem dksX1_remainder_0 : cX1_remainder.data.toList.drop 0 = dktX1_remainder_0 := by decide +kernel
theorem dksX1_remainder_1 : cX1_remainder.data.toList.drop 24 = dktX1_remainder_1 := dk_seg dksX1_remainder_0 24 rfl rfl
theorem dX1_remainder_0 : decode cX1_remainder 0 = .ok (.iconst 0, 1) := dk_3 (dk_at dksX1_remainder_0 0 rfl rfl)
theorem dX1_remainder_1 : decode cX1_remainder 1 = .ok (.istore_n 2, 1) := dk_61 (dk_at dksX1_remainder_0 1 rfl rfl)
theorem dX1_remainder_2 : decode cX1_remainder 2 = .ok (.iconst 0, 1) := dk_3 (dk_at dksX1_remainder_0 2 rfl rfl)
theorem dX1_remainder_3 : decode cX1_remainder 3 = .ok (.istore_n 3, 1) := dk_62 (dk_at dksX1_remainder_0 3 rfl rfl)
theorem dX1_remainder_4 : decode cX1_remainder 4 = .ok (.iload_n 3, 1) := dk_29 (dk_at dksX1_remainder_0 4 rfl rfl)
theorem dX1_remainder_5 : decode cX1_remainder 5 = .ok (.bipush 24, 2) := dk_16 24 (dk_at dksX1_remainder_0 5 rfl rfl)
theorem dX1_remainder_7 : decode cX1_remainder 7 = .ok (.if_icmp .ge 30, 3) := dk_162 0 30 (dk_at dksX1_remainder_0 7 rfl rfl)
theorem dX1_remainder_10 : decode cX1_remainder 10 = .ok (.iload_n 2, 1) := dk_28 (dk_at dksX1_remainder_0 10 rfl rfl)
theorem dX1_remainder_11 : decode cX1_remainder 11 = .ok (.iload_n 1, 1) := dk_27 (dk_at dksX1_remainder_0 11 rfl rfl)
theorem dX1_remainder_12 : decode cX1_remainder 12 = .ok (.iload_n 3, 1) := dk_29 (dk_at dksX1_remainder_0 12 rfl rfl)
theorem dX1_remainder_13 : decode cX1_remainder 13 = .ok (.invokestatic 67, 3) := dk_184 0 67 (dk_at dksX1_remainder_0 13 rfl rfl)
theorem dX1_remainder_16 : decode cX1_remainder 16 = .ok (.ifCond .eq 12, 3) := dk_153 0 12 (dk_at dksX1_remainder_0 16 rfl rfl)
theorem dX1_remainder_19 : decode cX1_remainder 19 = .ok (.aload_n 0, 1) := dk_42 (dk_at dksX1_remainder_0 19 rfl rfl)
theorem dX1_remainder_20 : decode cX1_remainder 20 = .ok (.getfield 27, 3) := dk_180 0 27 (dk_at dksX1_remainder_0 20 rfl rfl)
theorem dX1_remainder_23 : decode cX1_remainder 23 = .ok (.iload_n 3, 1) := dk_29 (dk_at dksX1_remainder_0 23 rfl rfl)
theorem dX1_remainder_24 : decode cX1_remainder 24 = .ok (.iaload, 1) := dk_46 (dk_at dksX1_remainder_1 0 rfl rfl)
theorem dX1_remainder_25 : decode cX1_remainder 25 = .ok (.goto 4, 3) := dk_167 0 4 (dk_at dksX1_remainder_1 1 rfl rfl)
theorem dX1_remainder_28 : decode cX1_remainder 28 = .ok (.iconst 0, 1) := dk_3 (dk_at dksX1_remainder_1 4 rfl rfl)
theorem dX1_remainder_29 : decode cX1_remainder 29 = .ok (.ixor, 1) := dk_130 (dk_at dksX1_remainder_1 5 rfl rfl)
theorem dX1_remainder_30 : decode cX1_remainder 30 = .ok (.istore_n 2, 1) := dk_61 (dk_at dksX1_remainder_1 6 rfl rfl)
theorem dX1_remainder_31 : decode cX1_remainder 31 = .ok (.iinc 3 1, 3) := dk_132 3 1 (dk_at dksX1_remainder_1 7 rfl rfl)
theorem dX1_remainder_34 : decode cX1_remainder 34 = .ok (.goto (-30), 3) := dk_167 255 226 (dk_at dksX1_remainder_1 10 rfl rfl)
theorem dX1_remainder_37 : decode cX1_remainder 37 = .ok (.iload_n 2, 1) := dk_28 (dk_at dksX1_remainder_1 13 rfl rfl)
theorem dX1_remainder_38 : decode cX1_remainder 38 = .ok (.ireturn, 1) := dk_172 (dk_at dksX1_remainder_1 14 rfl rfl)
abbrev cX1_number : ByteArray := prog_3_method_8_code
def yX1_number : MethodName := ⟨RX1, "number", "(I)I"⟩
def dkwX1_number_2 : List UInt8 := [130, 62, 132, 4, 1, 167, 255, 212, 28, 154, 0, 7, 29, 167, 0, 5, 16, 252, 172]
abbrev dktX1_number_2 : List UInt8 := dkwX1_number_2 ++ []
def dkwX1_number_1 : List UInt8 := [184, 0, 67, 153, 0, 23, 28, 42, 180, 0, 33, 21, 4, 46, 130, 61, 29, 42, 180, 0, 39, 21, 4, 46]
abbrev dktX1_number_1 : List UInt8 := dkwX1_number_1 ++ dktX1_number_2
def dkwX1_number_0 : List UInt8 := [27, 61, 3, 62, 3, 54, 4, 21, 4, 16, 12, 162, 0, 43, 28, 42, 180, 0, 36, 21, 4, 46]
abbrev dktX1_number_0 : List UInt8 := dkwX1_number_0 ++ dktX1_number_1
theorem dksX1_number_0 : cX1_number.data.toList.drop 0 = dktX1_number_0 := by decide +kernel
theorem dksX1_number_1 : cX1_number.data.toList.drop 22 = dktX1_number_1 := dk_seg dksX1_number_0 22 rfl rfl
theorem dksX1_number_2 : cX1_number.data.toList.drop 46 = dktX1_number_2 := dk_seg dksX1_number_1 24 rfl rfl
theorem dX1_number_0 : decode cX1_number 0 = .ok (.iload_n 1, 1) := dk_27 (dk_at dksX1_number_0 0 rfl rfl)
theorem dX1_number_1 : decode cX1_number 1 = .ok (.istore_n 2, 1) := dk_61 (dk_at dksX1_number_0 1 rfl rfl)
theorem dX1_number_2 : decode cX1_number 2 = .ok (.iconst 0, 1) := dk_3 (dk_at dksX1_number_0 2 rfl rfl)
theorem dX1_number_3 : decode cX1_number 3 = .ok (.istore_n 3, 1) := dk_62 (dk_at dksX1_number_0 3 rfl rfl)
theorem dX1_number_4 : decode cX1_number 4 = .ok (.iconst 0, 1) := dk_3 (dk_at dksX1_number_0 4 rfl rfl)
theorem dX1_number_5 : decode cX1_number 5 = .ok (.istore 4, 2) := dk_54 4 (dk_at dksX1_number_0 5 rfl rfl)
theorem dX1_number_7 : decode cX1_number 7 = .ok (.iload 4, 2) := dk_21 4 (dk_at dksX1_number_0 7 rfl rfl)
theorem dX1_number_9 : decode cX1_number 9 = .ok (.bipush 12, 2) := dk_16 12 (dk_at dksX1_number_0 9 rfl rfl)
theorem dX1_number_11 : decode cX1_number 11 = .ok (.if_icmp .ge 43, 3) := dk_162 0 43 (dk_at dksX1_number_0 11 rfl rfl)
theorem dX1_number_14 : decode cX1_number 14 = .ok (.iload_n 2, 1) := dk_28 (dk_at dksX1_number_0 14 rfl rfl)
theorem dX1_number_15 : decode cX1_number 15 = .ok (.aload_n 0, 1) := dk_42 (dk_at dksX1_number_0 15 rfl rfl)
theorem dX1_number_16 : decode cX1_number 16 = .ok (.getfield 36, 3) := dk_180 0 36 (dk_at dksX1_number_0 16 rfl rfl)
theorem dX1_number_19 : decode cX1_number 19 = .ok (.iload 4, 2) := dk_21 4 (dk_at dksX1_number_0 19 rfl rfl)
theorem dX1_number_21 : decode cX1_number 21 = .ok (.iaload, 1) := dk_46 (dk_at dksX1_number_0 21 rfl rfl)
theorem dX1_number_22 : decode cX1_number 22 = .ok (.invokestatic 67, 3) := dk_184 0 67 (dk_at dksX1_number_1 0 rfl rfl)
theorem dX1_number_25 : decode cX1_number 25 = .ok (.ifCond .eq 23, 3) := dk_153 0 23 (dk_at dksX1_number_1 3 rfl rfl)
theorem dX1_number_28 : decode cX1_number 28 = .ok (.iload_n 2, 1) := dk_28 (dk_at dksX1_number_1 6 rfl rfl)
theorem dX1_number_29 : decode cX1_number 29 = .ok (.aload_n 0, 1) := dk_42 (dk_at dksX1_number_1 7 rfl rfl)
theorem dX1_number_30 : decode cX1_number 30 = .ok (.getfield 33, 3) := dk_180 0 33 (dk_at dksX1_number_1 8 rfl rfl)
theorem dX1_number_33 : decode cX1_number 33 = .ok (.iload 4, 2) := dk_21 4 (dk_at dksX1_number_1 11 rfl rfl)
theorem dX1_number_35 : decode cX1_number 35 = .ok (.iaload, 1) := dk_46 (dk_at dksX1_number_1 13 rfl rfl)
theorem dX1_number_36 : decode cX1_number 36 = .ok (.ixor, 1) := dk_130 (dk_at dksX1_number_1 14 rfl rfl)
theorem dX1_number_37 : decode cX1_number 37 = .ok (.istore_n 2, 1) := dk_61 (dk_at dksX1_number_1 15 rfl rfl)
theorem dX1_number_38 : decode cX1_number 38 = .ok (.iload_n 3, 1) := dk_29 (dk_at dksX1_number_1 16 rfl rfl)
theorem dX1_number_39 : decode cX1_number 39 = .ok (.aload_n 0, 1) := dk_42 (dk_at dksX1_number_1 17 rfl rfl)
theorem dX1_number_40 : decode cX1_number 40 = .ok (.getfield 39, 3) := dk_180 0 39 (dk_at dksX1_number_1 18 rfl rfl)
theorem dX1_number_43 : decode cX1_number 43 = .ok (.iload 4, 2) := dk_21 4 (dk_at dksX1_number_1 21 rfl rfl)
theorem dX1_number_45 : decode cX1_number 45 = .ok (.iaload, 1) := dk_46 (dk_at dksX1_number_1 23 rfl rfl)
theorem dX1_number_46 : decode cX1_number 46 = .ok (.ixor, 1) := dk_130 (dk_at dksX1_number_2 0 rfl rfl)
theorem dX1_number_47 : decode cX1_number 47 = .ok (.istore_n 3, 1) := dk_62 (dk_at dksX1_number_2 1 rfl rfl)
theorem dX1_number_48 : decode cX1_number 48 = .ok (.iinc 4 1, 3) := dk_132 4 1 (dk_at dksX1_number_2 2 rfl rfl)
theorem dX1_number_51 : decode cX1_number 51 = .ok (.goto (-44), 3) := dk_167 255 212 (dk_at dksX1_number_2 5 rfl rfl)
theorem dX1_number_54 : decode cX1_number 54 = .ok (.iload_n 2, 1) := dk_28 (dk_at dksX1_number_2 8 rfl rfl)
theorem dX1_number_55 : decode cX1_number 55 = .ok (.ifCond .ne 7, 3) := dk_154 0 7 (dk_at dksX1_number_2 9 rfl rfl)
theorem dX1_number_58 : decode cX1_number 58 = .ok (.iload_n 3, 1) := dk_29 (dk_at dksX1_number_2 12 rfl rfl)
theorem dX1_number_59 : decode cX1_number 59 = .ok (.goto 5, 3) := dk_167 0 5 (dk_at dksX1_number_2 13 rfl rfl)
theorem dX1_number_62 : decode cX1_number 62 = .ok (.bipush (-4), 2) := dk_16 252 (dk_at dksX1_number_2 16 rfl rfl)
theorem dX1_number_64 : decode cX1_number 64 = .ok (.ireturn, 1) := dk_172 (dk_at dksX1_number_2 18 rfl rfl)
abbrev cX1_tetrads : ByteArray := prog_3_method_9_code
def yX1_tetrads : MethodName := ⟨RX1, "tetrads", "(I[I)V"⟩
def dkwX1_tetrads_3 : List UInt8 := [167, 255, 191, 177]
abbrev dktX1_tetrads_3 : List UInt8 := dkwX1_tetrads_3 ++ []
def dkwX1_tetrads_2 : List UInt8 := [184, 0, 48, 21, 4, 160, 0, 16, 44, 29, 21, 5, 4, 21, 4, 120, 128, 79, 132, 3, 1, 132, 4, 1]
abbrev dktX1_tetrads_2 : List UInt8 := dkwX1_tetrads_2 ++ dktX1_tetrads_3
def dkwX1_tetrads_1 : List UInt8 := [180, 0, 27, 21, 4, 46, 130, 46, 54, 5, 21, 5, 155, 0, 31, 21, 5, 4, 21, 4, 120, 128]
abbrev dktX1_tetrads_1 : List UInt8 := dkwX1_tetrads_1 ++ dktX1_tetrads_2
def dkwX1_tetrads_0 : List UInt8 := [3, 62, 3, 54, 4, 21, 4, 16, 24, 162, 0, 64, 29, 16, 6, 162, 0, 58, 42, 180, 0, 30, 27, 42]
abbrev dktX1_tetrads_0 : List UInt8 := dkwX1_tetrads_0 ++ dktX1_tetrads_1
theorem dksX1_tetrads_0 : cX1_tetrads.data.toList.drop 0 = dktX1_tetrads_0 := by decide +kernel
theorem dksX1_tetrads_1 : cX1_tetrads.data.toList.drop 24 = dktX1_tetrads_1 := dk_seg dksX1_tetrads_0 24 rfl rfl
theorem dksX1_tetrads_2 : cX1_tetrads.data.toList.drop 46 = dktX1_tetrads_2 := dk_seg dksX1_tetrads_1 22 rfl rfl
theorem dksX1_tetrads_3 : cX1_tetrads.data.toList.drop 70 = dktX1_tetrads_3 := dk_seg dksX1_tetrads_2 24 rfl rfl
theorem dX1_tetrads_0 : decode cX1_tetrads 0 = .ok (.iconst 0, 1) := dk_3 (dk_at dksX1_tetrads_0 0 rfl rfl)
theorem dX1_tetrads_1 : decode cX1_tetrads 1 = .ok (.istore_n 3, 1) := dk_62 (dk_at dksX1_tetrads_0 1 rfl rfl)
theorem dX1_tetrads_2 : decode cX1_tetrads 2 = .ok (.iconst 0, 1) := dk_3 (dk_at dksX1_tetrads_0 2 rfl rfl)
theorem dX1_tetrads_3 : decode cX1_tetrads 3 = .ok (.istore 4, 2) := dk_54 4 (dk_at dksX1_tetrads_0 3 rfl rfl)
theorem dX1_tetrads_5 : decode cX1_tetrads 5 = .ok (.iload 4, 2) := dk_21 4 (dk_at dksX1_tetrads_0 5 rfl rfl)
theorem dX1_tetrads_7 : decode cX1_tetrads 7 = .ok (.bipush 24, 2) := dk_16 24 (dk_at dksX1_tetrads_0 7 rfl rfl)
theorem dX1_tetrads_9 : decode cX1_tetrads 9 = .ok (.if_icmp .ge 64, 3) := dk_162 0 64 (dk_at dksX1_tetrads_0 9 rfl rfl)
theorem dX1_tetrads_12 : decode cX1_tetrads 12 = .ok (.iload_n 3, 1) := dk_29 (dk_at dksX1_tetrads_0 12 rfl rfl)
theorem dX1_tetrads_13 : decode cX1_tetrads 13 = .ok (.bipush 6, 2) := dk_16 6 (dk_at dksX1_tetrads_0 13 rfl rfl)
theorem dX1_tetrads_15 : decode cX1_tetrads 15 = .ok (.if_icmp .ge 58, 3) := dk_162 0 58 (dk_at dksX1_tetrads_0 15 rfl rfl)
theorem dX1_tetrads_18 : decode cX1_tetrads 18 = .ok (.aload_n 0, 1) := dk_42 (dk_at dksX1_tetrads_0 18 rfl rfl)
theorem dX1_tetrads_19 : decode cX1_tetrads 19 = .ok (.getfield 30, 3) := dk_180 0 30 (dk_at dksX1_tetrads_0 19 rfl rfl)
theorem dX1_tetrads_22 : decode cX1_tetrads 22 = .ok (.iload_n 1, 1) := dk_27 (dk_at dksX1_tetrads_0 22 rfl rfl)
theorem dX1_tetrads_23 : decode cX1_tetrads 23 = .ok (.aload_n 0, 1) := dk_42 (dk_at dksX1_tetrads_0 23 rfl rfl)
theorem dX1_tetrads_24 : decode cX1_tetrads 24 = .ok (.getfield 27, 3) := dk_180 0 27 (dk_at dksX1_tetrads_1 0 rfl rfl)
theorem dX1_tetrads_27 : decode cX1_tetrads 27 = .ok (.iload 4, 2) := dk_21 4 (dk_at dksX1_tetrads_1 3 rfl rfl)
theorem dX1_tetrads_29 : decode cX1_tetrads 29 = .ok (.iaload, 1) := dk_46 (dk_at dksX1_tetrads_1 5 rfl rfl)
theorem dX1_tetrads_30 : decode cX1_tetrads 30 = .ok (.ixor, 1) := dk_130 (dk_at dksX1_tetrads_1 6 rfl rfl)
theorem dX1_tetrads_31 : decode cX1_tetrads 31 = .ok (.iaload, 1) := dk_46 (dk_at dksX1_tetrads_1 7 rfl rfl)
theorem dX1_tetrads_32 : decode cX1_tetrads 32 = .ok (.istore 5, 2) := dk_54 5 (dk_at dksX1_tetrads_1 8 rfl rfl)
theorem dX1_tetrads_34 : decode cX1_tetrads 34 = .ok (.iload 5, 2) := dk_21 5 (dk_at dksX1_tetrads_1 10 rfl rfl)
theorem dX1_tetrads_36 : decode cX1_tetrads 36 = .ok (.ifCond .lt 31, 3) := dk_155 0 31 (dk_at dksX1_tetrads_1 12 rfl rfl)
theorem dX1_tetrads_39 : decode cX1_tetrads 39 = .ok (.iload 5, 2) := dk_21 5 (dk_at dksX1_tetrads_1 15 rfl rfl)
theorem dX1_tetrads_41 : decode cX1_tetrads 41 = .ok (.iconst 1, 1) := dk_4 (dk_at dksX1_tetrads_1 17 rfl rfl)
theorem dX1_tetrads_42 : decode cX1_tetrads 42 = .ok (.iload 4, 2) := dk_21 4 (dk_at dksX1_tetrads_1 18 rfl rfl)
theorem dX1_tetrads_44 : decode cX1_tetrads 44 = .ok (.ishl, 1) := dk_120 (dk_at dksX1_tetrads_1 20 rfl rfl)
theorem dX1_tetrads_45 : decode cX1_tetrads 45 = .ok (.ior, 1) := dk_128 (dk_at dksX1_tetrads_1 21 rfl rfl)
theorem dX1_tetrads_46 : decode cX1_tetrads 46 = .ok (.invokestatic 48, 3) := dk_184 0 48 (dk_at dksX1_tetrads_2 0 rfl rfl)
theorem dX1_tetrads_49 : decode cX1_tetrads 49 = .ok (.iload 4, 2) := dk_21 4 (dk_at dksX1_tetrads_2 3 rfl rfl)
theorem dX1_tetrads_51 : decode cX1_tetrads 51 = .ok (.if_icmp .ne 16, 3) := dk_160 0 16 (dk_at dksX1_tetrads_2 5 rfl rfl)
theorem dX1_tetrads_54 : decode cX1_tetrads 54 = .ok (.aload_n 2, 1) := dk_44 (dk_at dksX1_tetrads_2 8 rfl rfl)
theorem dX1_tetrads_55 : decode cX1_tetrads 55 = .ok (.iload_n 3, 1) := dk_29 (dk_at dksX1_tetrads_2 9 rfl rfl)
theorem dX1_tetrads_56 : decode cX1_tetrads 56 = .ok (.iload 5, 2) := dk_21 5 (dk_at dksX1_tetrads_2 10 rfl rfl)
theorem dX1_tetrads_58 : decode cX1_tetrads 58 = .ok (.iconst 1, 1) := dk_4 (dk_at dksX1_tetrads_2 12 rfl rfl)
theorem dX1_tetrads_59 : decode cX1_tetrads 59 = .ok (.iload 4, 2) := dk_21 4 (dk_at dksX1_tetrads_2 13 rfl rfl)
theorem dX1_tetrads_61 : decode cX1_tetrads 61 = .ok (.ishl, 1) := dk_120 (dk_at dksX1_tetrads_2 15 rfl rfl)
theorem dX1_tetrads_62 : decode cX1_tetrads 62 = .ok (.ior, 1) := dk_128 (dk_at dksX1_tetrads_2 16 rfl rfl)
theorem dX1_tetrads_63 : decode cX1_tetrads 63 = .ok (.iastore, 1) := dk_79 (dk_at dksX1_tetrads_2 17 rfl rfl)
theorem dX1_tetrads_64 : decode cX1_tetrads 64 = .ok (.iinc 3 1, 3) := dk_132 3 1 (dk_at dksX1_tetrads_2 18 rfl rfl)
theorem dX1_tetrads_67 : decode cX1_tetrads 67 = .ok (.iinc 4 1, 3) := dk_132 4 1 (dk_at dksX1_tetrads_2 21 rfl rfl)
theorem dX1_tetrads_70 : decode cX1_tetrads 70 = .ok (.goto (-65), 3) := dk_167 255 191 (dk_at dksX1_tetrads_3 0 rfl rfl)
theorem dX1_tetrads_73 : decode cX1_tetrads 73 = .ok (.return_, 1) := dk_177 (dk_at dksX1_tetrads_3 3 rfl rfl)
abbrev cX1_complete : ByteArray := prog_3_method_10_code
def yX1_complete : MethodName := ⟨RX1, "complete", "(I)I"⟩
def dkwX1_complete_0 : List UInt8 := [27, 42, 180, 0, 30, 42, 27, 182, 0, 81, 46, 128, 172]
abbrev dktX1_complete_0 : List UInt8 := dkwX1_complete_0 ++ []
theorem dksX1_complete_0 : cX1_complete.data.toList.drop 0 = dktX1_complete_0 := by decide +kernel
theorem dX1_complete_0 : decode cX1_complete 0 = .ok (.iload_n 1, 1) := dk_27 (dk_at dksX1_complete_0 0 rfl rfl)
theorem dX1_complete_1 : decode cX1_complete 1 = .ok (.aload_n 0, 1) := dk_42 (dk_at dksX1_complete_0 1 rfl rfl)
theorem dX1_complete_2 : decode cX1_complete 2 = .ok (.getfield 30, 3) := dk_180 0 30 (dk_at dksX1_complete_0 2 rfl rfl)
theorem dX1_complete_5 : decode cX1_complete 5 = .ok (.aload_n 0, 1) := dk_42 (dk_at dksX1_complete_0 5 rfl rfl)
theorem dX1_complete_6 : decode cX1_complete 6 = .ok (.iload_n 1, 1) := dk_27 (dk_at dksX1_complete_0 6 rfl rfl)
theorem dX1_complete_7 : decode cX1_complete 7 = .ok (.invokevirtual 81, 3) := dk_182 0 81 (dk_at dksX1_complete_0 7 rfl rfl)
theorem dX1_complete_10 : decode cX1_complete 10 = .ok (.iaload, 1) := dk_46 (dk_at dksX1_complete_0 10 rfl rfl)
theorem dX1_complete_11 : decode cX1_complete 11 = .ok (.ior, 1) := dk_128 (dk_at dksX1_complete_0 11 rfl rfl)
theorem dX1_complete_12 : decode cX1_complete 12 = .ok (.ireturn, 1) := dk_172 (dk_at dksX1_complete_0 12 rfl rfl)
abbrev cX1_isWord : ByteArray := prog_3_method_7_code
def yX1_isWord : MethodName := ⟨RX1, "isWord", "(II)Z"⟩
def dkwX1_isWord_0 : List UInt8 := [27, 184, 0, 54, 28, 160, 0, 15, 42, 27, 182, 0, 81, 154, 0, 7, 4, 167, 0, 4, 3, 172]
abbrev dktX1_isWord_0 : List UInt8 := dkwX1_isWord_0 ++ []
theorem dksX1_isWord_0 : cX1_isWord.data.toList.drop 0 = dktX1_isWord_0 := by decide +kernel
theorem dX1_isWord_0 : decode cX1_isWord 0 = .ok (.iload_n 1, 1) := dk_27 (dk_at dksX1_isWord_0 0 rfl rfl)
theorem dX1_isWord_1 : decode cX1_isWord 1 = .ok (.invokestatic 54, 3) := dk_184 0 54 (dk_at dksX1_isWord_0 1 rfl rfl)
theorem dX1_isWord_4 : decode cX1_isWord 4 = .ok (.iload_n 2, 1) := dk_28 (dk_at dksX1_isWord_0 4 rfl rfl)
theorem dX1_isWord_5 : decode cX1_isWord 5 = .ok (.if_icmp .ne 15, 3) := dk_160 0 15 (dk_at dksX1_isWord_0 5 rfl rfl)
theorem dX1_isWord_8 : decode cX1_isWord 8 = .ok (.aload_n 0, 1) := dk_42 (dk_at dksX1_isWord_0 8 rfl rfl)
theorem dX1_isWord_9 : decode cX1_isWord 9 = .ok (.iload_n 1, 1) := dk_27 (dk_at dksX1_isWord_0 9 rfl rfl)
theorem dX1_isWord_10 : decode cX1_isWord 10 = .ok (.invokevirtual 81, 3) := dk_182 0 81 (dk_at dksX1_isWord_0 10 rfl rfl)
theorem dX1_isWord_13 : decode cX1_isWord 13 = .ok (.ifCond .ne 7, 3) := dk_154 0 7 (dk_at dksX1_isWord_0 13 rfl rfl)
theorem dX1_isWord_16 : decode cX1_isWord 16 = .ok (.iconst 1, 1) := dk_4 (dk_at dksX1_isWord_0 16 rfl rfl)
theorem dX1_isWord_17 : decode cX1_isWord 17 = .ok (.goto 4, 3) := dk_167 0 4 (dk_at dksX1_isWord_0 17 rfl rfl)
theorem dX1_isWord_20 : decode cX1_isWord 20 = .ok (.iconst 0, 1) := dk_3 (dk_at dksX1_isWord_0 20 rfl rfl)
theorem dX1_isWord_21 : decode cX1_isWord 21 = .ok (.ireturn, 1) := dk_172 (dk_at dksX1_isWord_0 21 rfl rfl)
theorem q97 : (Jvm.Cond.initialized "EightBlocks$Code") ∈ lw_all := lw_g (lw_at lw_m1 2 rfl) rfl
theorem q150 : (Jvm.Cond.instantiable "EightBlocks$Code" (10 : Nat)) ∈ lw_all := lw_g (lw_at lw_m1 55 rfl) rfl
theorem q152 : (Jvm.Cond.instanceMethod ({ cls := "EightBlocks$Code", name := "<init>", desc := "()V" } : Jvm.MethodName)) ∈ lw_all := lw_g (lw_at lw_m1 57 rfl) rfl
theorem q153 : (Jvm.Cond.code ({ cls := "EightBlocks$Code", name := "<init>", desc := "()V" } : Jvm.MethodName) prog_3_method_1_code (4 : Nat) (Option.none : Option Jvm.ClassFile.FieldType)) ∈ lw_all := lw_g (lw_at lw_m1 58 rfl) rfl
theorem q154 : (Jvm.Cond.methodLink "EightBlocks$Code" (3 : Nat) ({ cls := "java/lang/Object", name := "<init>", desc := "()V" } : Jvm.MethodName)) ∈ lw_all := lw_g (lw_at lw_m1 59 rfl) rfl
theorem q155 : (Jvm.Cond.methodLink "EightBlocks$Code" (42 : Nat) ({ cls := "EightBlocks$Code", name := "layBasics", desc := "()V" } : Jvm.MethodName)) ∈ lw_all := lw_g (lw_at lw_m1 60 rfl) rfl
theorem q156 : (Jvm.Cond.privateMethod ({ cls := "EightBlocks$Code", name := "layBasics", desc := "()V" } : Jvm.MethodName)) ∈ lw_tbl := lw_at lw_m1 61 rfl
theorem q157 : (Jvm.Cond.instanceMethod ({ cls := "EightBlocks$Code", name := "layBasics", desc := "()V" } : Jvm.MethodName)) ∈ lw_all := lw_g (lw_at lw_m1 62 rfl) rfl
theorem q158 : (Jvm.Cond.code ({ cls := "EightBlocks$Code", name := "layBasics", desc := "()V" } : Jvm.MethodName) prog_3_method_2_code (8 : Nat) (Option.none : Option Jvm.ClassFile.FieldType)) ∈ lw_all := lw_g (lw_at lw_m1 63 rfl) rfl
theorem q159 : (Jvm.Cond.constant "EightBlocks$Code" (60 : Nat) (8388608 : Int32)) ∈ lw_all := lw_g (lw_at lw_m1 64 rfl) rfl
theorem q160 : (Jvm.Cond.methodLink "EightBlocks$Code" (61 : Nat) ({ cls := "java/lang/Math", name := "floorMod", desc := "(II)I" } : Jvm.MethodName)) ∈ lw_all := lw_g (lw_at lw_m1 65 rfl) rfl
theorem q163 : (Jvm.Cond.methodLinkNest "EightBlocks$Code" (67 : Nat) ({ cls := "EightBlocks", name := "has", desc := "(II)Z" } : Jvm.MethodName) "EightBlocks") ∈ lw_tbl := lw_at lw_m1 68 rfl
theorem q166 : (Jvm.Cond.methodLink "EightBlocks$Code" (45 : Nat) ({ cls := "EightBlocks$Code", name := "layRows", desc := "()V" } : Jvm.MethodName)) ∈ lw_all := lw_g (lw_at lw_m1 71 rfl) rfl
theorem q167 : (Jvm.Cond.privateMethod ({ cls := "EightBlocks$Code", name := "layRows", desc := "()V" } : Jvm.MethodName)) ∈ lw_tbl := lw_at lw_m1 72 rfl
theorem q168 : (Jvm.Cond.instanceMethod ({ cls := "EightBlocks$Code", name := "layRows", desc := "()V" } : Jvm.MethodName)) ∈ lw_all := lw_g (lw_at lw_m1 73 rfl) rfl
theorem q169 : (Jvm.Cond.code ({ cls := "EightBlocks$Code", name := "layRows", desc := "()V" } : Jvm.MethodName) prog_3_method_3_code (4 : Nat) (Option.none : Option Jvm.ClassFile.FieldType)) ∈ lw_all := lw_g (lw_at lw_m1 74 rfl) rfl
theorem q170 : (Jvm.Cond.methodLink "EightBlocks$Code" (71 : Nat) ({ cls := "EightBlocks$Code", name := "lead", desc := "(III)V" } : Jvm.MethodName)) ∈ lw_all := lw_g (lw_at lw_m1 75 rfl) rfl
theorem q171 : (Jvm.Cond.privateMethod ({ cls := "EightBlocks$Code", name := "lead", desc := "(III)V" } : Jvm.MethodName)) ∈ lw_tbl := lw_at lw_m1 76 rfl
theorem q172 : (Jvm.Cond.instanceMethod ({ cls := "EightBlocks$Code", name := "lead", desc := "(III)V" } : Jvm.MethodName)) ∈ lw_all := lw_g (lw_at lw_m1 77 rfl) rfl
theorem q173 : (Jvm.Cond.code ({ cls := "EightBlocks$Code", name := "lead", desc := "(III)V" } : Jvm.MethodName) prog_3_method_4_code (7 : Nat) (Option.none : Option Jvm.ClassFile.FieldType)) ∈ lw_all := lw_g (lw_at lw_m1 78 rfl) rfl
theorem q174 : (Jvm.Cond.methodLink "EightBlocks$Code" (48 : Nat) ({ cls := "java/lang/Integer", name := "numberOfTrailingZeros", desc := "(I)I" } : Jvm.MethodName)) ∈ lw_all := lw_g (lw_at lw_m1 79 rfl) rfl
theorem q178 : (Jvm.Cond.methodLinkNest "EightBlocks$Code" (54 : Nat) ({ cls := "EightBlocks", name := "size", desc := "(I)I" } : Jvm.MethodName) "EightBlocks") ∈ lw_tbl := lw_at lw_m1 83 rfl
theorem q187 : (Jvm.Cond.methodLink "EightBlocks$Code" (57 : Nat) ({ cls := "EightBlocks$Code", name := "layLeaders", desc := "()V" } : Jvm.MethodName)) ∈ lw_all := lw_g (lw_at lw_m1 92 rfl) rfl
theorem q188 : (Jvm.Cond.privateMethod ({ cls := "EightBlocks$Code", name := "layLeaders", desc := "()V" } : Jvm.MethodName)) ∈ lw_tbl := lw_at lw_m1 93 rfl
theorem q189 : (Jvm.Cond.instanceMethod ({ cls := "EightBlocks$Code", name := "layLeaders", desc := "()V" } : Jvm.MethodName)) ∈ lw_all := lw_g (lw_at lw_m1 94 rfl) rfl
theorem q190 : (Jvm.Cond.code ({ cls := "EightBlocks$Code", name := "layLeaders", desc := "()V" } : Jvm.MethodName) prog_3_method_5_code (4 : Nat) (Option.none : Option Jvm.ClassFile.FieldType)) ∈ lw_all := lw_g (lw_at lw_m1 95 rfl) rfl
theorem q191 : (Jvm.Cond.methodLink "EightBlocks$Code" (75 : Nat) ({ cls := "java/util/Arrays", name := "fill", desc := "([II)V" } : Jvm.MethodName)) ∈ lw_all := lw_g (lw_at lw_m1 96 rfl) rfl
theorem q194 : (Jvm.Cond.fieldLink "EightBlocks$Code" (9 : Nat) "EightBlocks$Code" "basics" "[I") ∈ lw_all := lw_g (lw_at lw_m1 99 rfl) rfl
theorem q196 : (Jvm.Cond.fieldLink "EightBlocks$Code" (15 : Nat) "EightBlocks$Code" "words" "[I") ∈ lw_all := lw_g (lw_at lw_m1 101 rfl) rfl
theorem q198 : (Jvm.Cond.fieldLink "EightBlocks$Code" (18 : Nat) "EightBlocks$Code" "sorted" "[I") ∈ lw_all := lw_g (lw_at lw_m1 103 rfl) rfl
theorem q200 : (Jvm.Cond.fieldLink "EightBlocks$Code" (21 : Nat) "EightBlocks$Code" "octads" "[I") ∈ lw_all := lw_g (lw_at lw_m1 105 rfl) rfl
theorem q203 : (Jvm.Cond.fieldLink "EightBlocks$Code" (24 : Nat) "EightBlocks$Code" "dodecads" "[I") ∈ lw_all := lw_g (lw_at lw_m1 108 rfl) rfl
theorem q206 : (Jvm.Cond.fieldLink "EightBlocks$Code" (27 : Nat) "EightBlocks$Code" "columns" "[I") ∈ lw_all := lw_g (lw_at lw_m1 111 rfl) rfl
theorem q207 : (Jvm.Cond.fieldLink "EightBlocks$Code" (30 : Nat) "EightBlocks$Code" "leaders" "[I") ∈ lw_all := lw_g (lw_at lw_m1 112 rfl) rfl
theorem q210 : (Jvm.Cond.fieldLink "EightBlocks$Code" (33 : Nat) "EightBlocks$Code" "rows" "[I") ∈ lw_all := lw_g (lw_at lw_m1 115 rfl) rfl
theorem q211 : (Jvm.Cond.fieldLink "EightBlocks$Code" (36 : Nat) "EightBlocks$Code" "leads" "[I") ∈ lw_all := lw_g (lw_at lw_m1 116 rfl) rfl
theorem q212 : (Jvm.Cond.fieldLink "EightBlocks$Code" (39 : Nat) "EightBlocks$Code" "tags" "[I") ∈ lw_all := lw_g (lw_at lw_m1 117 rfl) rfl
theorem q213 : (Jvm.Cond.laysFinal "EightBlocks$Code" "EightBlocks$Code" "basics" "[I") ∈ lw_all := lw_g (lw_at lw_m1 118 rfl) rfl
theorem q214 : (Jvm.Cond.soleField "EightBlocks$Code" "basics") ∈ lw_all := lw_g (lw_at lw_m1 119 rfl) rfl
theorem q215 : (Jvm.Cond.laysFinal "EightBlocks$Code" "EightBlocks$Code" "words" "[I") ∈ lw_all := lw_g (lw_at lw_m1 120 rfl) rfl
theorem q216 : (Jvm.Cond.soleField "EightBlocks$Code" "words") ∈ lw_all := lw_g (lw_at lw_m1 121 rfl) rfl
theorem q217 : (Jvm.Cond.laysFinal "EightBlocks$Code" "EightBlocks$Code" "sorted" "[I") ∈ lw_all := lw_g (lw_at lw_m1 122 rfl) rfl
theorem q218 : (Jvm.Cond.soleField "EightBlocks$Code" "sorted") ∈ lw_all := lw_g (lw_at lw_m1 123 rfl) rfl
theorem q219 : (Jvm.Cond.laysFinal "EightBlocks$Code" "EightBlocks$Code" "octads" "[I") ∈ lw_all := lw_g (lw_at lw_m1 124 rfl) rfl
theorem q220 : (Jvm.Cond.soleField "EightBlocks$Code" "octads") ∈ lw_all := lw_g (lw_at lw_m1 125 rfl) rfl
theorem q221 : (Jvm.Cond.laysFinal "EightBlocks$Code" "EightBlocks$Code" "dodecads" "[I") ∈ lw_all := lw_g (lw_at lw_m1 126 rfl) rfl
theorem q222 : (Jvm.Cond.soleField "EightBlocks$Code" "dodecads") ∈ lw_all := lw_g (lw_at lw_m1 127 rfl) rfl
theorem q223 : (Jvm.Cond.laysFinal "EightBlocks$Code" "EightBlocks$Code" "columns" "[I") ∈ lw_all := lw_g (lw_at lw_m1 128 rfl) rfl
theorem q224 : (Jvm.Cond.soleField "EightBlocks$Code" "columns") ∈ lw_all := lw_g (lw_at lw_m1 129 rfl) rfl
theorem q225 : (Jvm.Cond.laysFinal "EightBlocks$Code" "EightBlocks$Code" "leaders" "[I") ∈ lw_all := lw_g (lw_at lw_m1 130 rfl) rfl
theorem q226 : (Jvm.Cond.soleField "EightBlocks$Code" "leaders") ∈ lw_all := lw_g (lw_at lw_m1 131 rfl) rfl
theorem q227 : (Jvm.Cond.laysFinal "EightBlocks$Code" "EightBlocks$Code" "rows" "[I") ∈ lw_all := lw_g (lw_at lw_m1 132 rfl) rfl
theorem q228 : (Jvm.Cond.soleField "EightBlocks$Code" "rows") ∈ lw_all := lw_g (lw_at lw_m1 133 rfl) rfl
theorem q229 : (Jvm.Cond.laysFinal "EightBlocks$Code" "EightBlocks$Code" "leads" "[I") ∈ lw_all := lw_g (lw_at lw_m1 134 rfl) rfl
theorem q230 : (Jvm.Cond.soleField "EightBlocks$Code" "leads") ∈ lw_all := lw_g (lw_at lw_m1 135 rfl) rfl
theorem q231 : (Jvm.Cond.laysFinal "EightBlocks$Code" "EightBlocks$Code" "tags" "[I") ∈ lw_all := lw_g (lw_at lw_m1 136 rfl) rfl
theorem q232 : (Jvm.Cond.soleField "EightBlocks$Code" "tags") ∈ lw_all := lw_g (lw_at lw_m1 137 rfl) rfl
theorem q233 : (Jvm.Cond.superclass "EightBlocks$Code" "java/lang/Object") ∈ lw_all := lw_g (lw_at lw_m1 138 rfl) rfl
theorem q753 : (Jvm.Cond.instanceMethod ({ cls := "EightBlocks$Code", name := "remainder", desc := "(I)I" } : Jvm.MethodName)) ∈ lw_all := lw_g (lw_at lw_m3 178 rfl) rfl
theorem q754 : (Jvm.Cond.selects "EightBlocks$Code" ({ cls := "EightBlocks$Code", name := "remainder", desc := "(I)I" } : Jvm.MethodName) ({ cls := "EightBlocks$Code", name := "remainder", desc := "(I)I" } : Jvm.MethodName)) ∈ lw_all := lw_g (lw_at lw_m3 179 rfl) rfl
theorem q755 : (Jvm.Cond.code ({ cls := "EightBlocks$Code", name := "remainder", desc := "(I)I" } : Jvm.MethodName) prog_3_method_6_code (4 : Nat) (Option.some Jvm.ClassFile.FieldType.int)) ∈ lw_all := lw_g (lw_at lw_m3 180 rfl) rfl
theorem q758 : (Jvm.Cond.instanceMethod ({ cls := "EightBlocks$Code", name := "number", desc := "(I)I" } : Jvm.MethodName)) ∈ lw_all := lw_g (lw_at lw_m3 183 rfl) rfl
theorem q759 : (Jvm.Cond.selects "EightBlocks$Code" ({ cls := "EightBlocks$Code", name := "number", desc := "(I)I" } : Jvm.MethodName) ({ cls := "EightBlocks$Code", name := "number", desc := "(I)I" } : Jvm.MethodName)) ∈ lw_all := lw_g (lw_at lw_m3 184 rfl) rfl
theorem q760 : (Jvm.Cond.code ({ cls := "EightBlocks$Code", name := "number", desc := "(I)I" } : Jvm.MethodName) prog_3_method_8_code (5 : Nat) (Option.some Jvm.ClassFile.FieldType.int)) ∈ lw_all := lw_g (lw_at lw_m3 185 rfl) rfl
theorem q766 : (Jvm.Cond.instanceMethod ({ cls := "EightBlocks$Code", name := "tetrads", desc := "(I[I)V" } : Jvm.MethodName)) ∈ lw_all := lw_g (lw_at lw_m3 191 rfl) rfl
theorem q767 : (Jvm.Cond.selects "EightBlocks$Code" ({ cls := "EightBlocks$Code", name := "tetrads", desc := "(I[I)V" } : Jvm.MethodName) ({ cls := "EightBlocks$Code", name := "tetrads", desc := "(I[I)V" } : Jvm.MethodName)) ∈ lw_all := lw_g (lw_at lw_m3 192 rfl) rfl
theorem q768 : (Jvm.Cond.code ({ cls := "EightBlocks$Code", name := "tetrads", desc := "(I[I)V" } : Jvm.MethodName) prog_3_method_9_code (6 : Nat) (Option.none : Option Jvm.ClassFile.FieldType)) ∈ lw_all := lw_g (lw_at lw_m3 193 rfl) rfl
theorem q787 : (Jvm.Cond.instanceMethod ({ cls := "EightBlocks$Code", name := "complete", desc := "(I)I" } : Jvm.MethodName)) ∈ lw_all := lw_g (lw_at lw_m3 212 rfl) rfl
theorem q788 : (Jvm.Cond.selects "EightBlocks$Code" ({ cls := "EightBlocks$Code", name := "complete", desc := "(I)I" } : Jvm.MethodName) ({ cls := "EightBlocks$Code", name := "complete", desc := "(I)I" } : Jvm.MethodName)) ∈ lw_all := lw_g (lw_at lw_m3 213 rfl) rfl
theorem q789 : (Jvm.Cond.code ({ cls := "EightBlocks$Code", name := "complete", desc := "(I)I" } : Jvm.MethodName) prog_3_method_10_code (2 : Nat) (Option.some Jvm.ClassFile.FieldType.int)) ∈ lw_all := lw_g (lw_at lw_m3 214 rfl) rfl
theorem q790 : (Jvm.Cond.methodLink "EightBlocks$Code" (81 : Nat) ({ cls := "EightBlocks$Code", name := "remainder", desc := "(I)I" } : Jvm.MethodName)) ∈ lw_all := lw_g (lw_at lw_m3 215 rfl) rfl
theorem q1589 : (Jvm.Cond.instanceMethod ({ cls := "EightBlocks$Code", name := "isWord", desc := "(II)Z" } : Jvm.MethodName)) ∈ lw_all := lw_g (lw_at lw_m7 54 rfl) rfl
theorem q1590 : (Jvm.Cond.selects "EightBlocks$Code" ({ cls := "EightBlocks$Code", name := "isWord", desc := "(II)Z" } : Jvm.MethodName) ({ cls := "EightBlocks$Code", name := "isWord", desc := "(II)Z" } : Jvm.MethodName)) ∈ lw_all := lw_g (lw_at lw_m7 55 rfl) rfl
theorem q1591 : (Jvm.Cond.code ({ cls := "EightBlocks$Code", name := "isWord", desc := "(II)Z" } : Jvm.MethodName) prog_3_method_7_code (3 : Nat) (Option.some Jvm.ClassFile.FieldType.boolean)) ∈ lw_all := lw_g (lw_at lw_m7 56 rfl) rfl
theorem in_X1 : ∀ w ∈ wsX10, w ∈ lw_all := lw_in wsX10 [213, 215, 217, 219, 221, 223, 225, 227, 229, 231] (by decide +kernel) (by decide +kernel)

/-! EightBlocks$Hall -/
set_option maxRecDepth 100000
def RX2 : String := "EightBlocks$Hall"
def TX2 : u_T := fun k => match k with
  | 0 => ("EightBlocks$Hall", "moves", "[LEightBlocks$Move;", true)
  | 1 => ("EightBlocks$Hall", "dodecad", "I", false)
  | _ => ("EightBlocks$Hall", "draw", "I", false)
def tyX2 : Nat → FieldType := fun k => match k with
  | 0 => .array (.object "EightBlocks$Move")
  | 1 => .int
  | _ => .int
abbrev wsX20 : List Cond := u_ws RX2 TX2 3
theorem nmX2 : ∀ a, a < 3 → ∀ b, b < 3 → a ≠ b → (TX2 a).2.1 ≠ (TX2 b).2.1 := by decide +kernel
theorem tyX2_ok : ∀ k, k < 3 → parseFieldDescriptor (TX2 k).2.2.1 = some (tyX2 k) := by decide +kernel
abbrev cX2_init : ByteArray := prog_6_method_1_code
def yX2_init : MethodName := ⟨RX2, "<init>", "()V"⟩
def dkwX2_init_1 : List UInt8 := [187, 0, 9, 89, 183, 0, 17, 83, 132, 1, 1, 167, 255, 235, 177]
abbrev dktX2_init_1 : List UInt8 := dkwX2_init_1 ++ []
def dkwX2_init_0 : List UInt8 := [42, 183, 0, 3, 42, 8, 189, 0, 9, 181, 0, 11, 3, 60, 27, 8, 162, 0, 22, 42, 180, 0, 11, 27]
abbrev dktX2_init_0 : List UInt8 := dkwX2_init_0 ++ dktX2_init_1
theorem dksX2_init_0 : cX2_init.data.toList.drop 0 = dktX2_init_0 := by decide +kernel
theorem dksX2_init_1 : cX2_init.data.toList.drop 24 = dktX2_init_1 := dk_seg dksX2_init_0 24 rfl rfl
theorem dX2_init_0 : decode cX2_init 0 = .ok (.aload_n 0, 1) := dk_42 (dk_at dksX2_init_0 0 rfl rfl)
theorem dX2_init_1 : decode cX2_init 1 = .ok (.invokespecial 3, 3) := dk_183 0 3 (dk_at dksX2_init_0 1 rfl rfl)
theorem dX2_init_4 : decode cX2_init 4 = .ok (.aload_n 0, 1) := dk_42 (dk_at dksX2_init_0 4 rfl rfl)
theorem dX2_init_5 : decode cX2_init 5 = .ok (.iconst 5, 1) := dk_8 (dk_at dksX2_init_0 5 rfl rfl)
theorem dX2_init_6 : decode cX2_init 6 = .ok (.anewarray 9, 3) := dk_189 0 9 (dk_at dksX2_init_0 6 rfl rfl)
theorem dX2_init_9 : decode cX2_init 9 = .ok (.putfield 11, 3) := dk_181 0 11 (dk_at dksX2_init_0 9 rfl rfl)
theorem dX2_init_12 : decode cX2_init 12 = .ok (.iconst 0, 1) := dk_3 (dk_at dksX2_init_0 12 rfl rfl)
theorem dX2_init_13 : decode cX2_init 13 = .ok (.istore_n 1, 1) := dk_60 (dk_at dksX2_init_0 13 rfl rfl)
theorem dX2_init_14 : decode cX2_init 14 = .ok (.iload_n 1, 1) := dk_27 (dk_at dksX2_init_0 14 rfl rfl)
theorem dX2_init_15 : decode cX2_init 15 = .ok (.iconst 5, 1) := dk_8 (dk_at dksX2_init_0 15 rfl rfl)
theorem dX2_init_16 : decode cX2_init 16 = .ok (.if_icmp .ge 22, 3) := dk_162 0 22 (dk_at dksX2_init_0 16 rfl rfl)
theorem dX2_init_19 : decode cX2_init 19 = .ok (.aload_n 0, 1) := dk_42 (dk_at dksX2_init_0 19 rfl rfl)
theorem dX2_init_20 : decode cX2_init 20 = .ok (.getfield 11, 3) := dk_180 0 11 (dk_at dksX2_init_0 20 rfl rfl)
theorem dX2_init_23 : decode cX2_init 23 = .ok (.iload_n 1, 1) := dk_27 (dk_at dksX2_init_0 23 rfl rfl)
theorem dX2_init_24 : decode cX2_init 24 = .ok (.new 9, 3) := dk_187 0 9 (dk_at dksX2_init_1 0 rfl rfl)
theorem dX2_init_27 : decode cX2_init 27 = .ok (.dup, 1) := dk_89 (dk_at dksX2_init_1 3 rfl rfl)
theorem dX2_init_28 : decode cX2_init 28 = .ok (.invokespecial 17, 3) := dk_183 0 17 (dk_at dksX2_init_1 4 rfl rfl)
theorem dX2_init_31 : decode cX2_init 31 = .ok (.aastore, 1) := dk_83 (dk_at dksX2_init_1 7 rfl rfl)
theorem dX2_init_32 : decode cX2_init 32 = .ok (.iinc 1 1, 3) := dk_132 1 1 (dk_at dksX2_init_1 8 rfl rfl)
theorem dX2_init_35 : decode cX2_init 35 = .ok (.goto (-21), 3) := dk_167 255 235 (dk_at dksX2_init_1 11 rfl rfl)
theorem dX2_init_38 : decode cX2_init 38 = .ok (.return_, 1) := dk_177 (dk_at dksX2_init_1 14 rfl rfl)
abbrev cX2_takeFrom : ByteArray := prog_6_method_2_code
def yX2_takeFrom : MethodName := ⟨RX2, "takeFrom", "(LEightBlocks$Hall;)V"⟩
def dkwX2_takeFrom_1 : List UInt8 := [132, 2, 1, 167, 255, 232, 42, 43, 180, 0, 22, 181, 0, 22, 42, 43, 180, 0, 26, 181, 0, 26, 177]
abbrev dktX2_takeFrom_1 : List UInt8 := dkwX2_takeFrom_1 ++ []
def dkwX2_takeFrom_0 : List UInt8 := [3, 61, 28, 8, 162, 0, 25, 42, 180, 0, 11, 28, 50, 43, 180, 0, 11, 28, 50, 182, 0, 18, 87]
abbrev dktX2_takeFrom_0 : List UInt8 := dkwX2_takeFrom_0 ++ dktX2_takeFrom_1
theorem dksX2_takeFrom_0 : cX2_takeFrom.data.toList.drop 0 = dktX2_takeFrom_0 := by decide +kernel
theorem dksX2_takeFrom_1 : cX2_takeFrom.data.toList.drop 23 = dktX2_takeFrom_1 := dk_seg dksX2_takeFrom_0 23 rfl rfl
theorem dX2_takeFrom_0 : decode cX2_takeFrom 0 = .ok (.iconst 0, 1) := dk_3 (dk_at dksX2_takeFrom_0 0 rfl rfl)
theorem dX2_takeFrom_1 : decode cX2_takeFrom 1 = .ok (.istore_n 2, 1) := dk_61 (dk_at dksX2_takeFrom_0 1 rfl rfl)
theorem dX2_takeFrom_2 : decode cX2_takeFrom 2 = .ok (.iload_n 2, 1) := dk_28 (dk_at dksX2_takeFrom_0 2 rfl rfl)
theorem dX2_takeFrom_3 : decode cX2_takeFrom 3 = .ok (.iconst 5, 1) := dk_8 (dk_at dksX2_takeFrom_0 3 rfl rfl)
theorem dX2_takeFrom_4 : decode cX2_takeFrom 4 = .ok (.if_icmp .ge 25, 3) := dk_162 0 25 (dk_at dksX2_takeFrom_0 4 rfl rfl)
theorem dX2_takeFrom_7 : decode cX2_takeFrom 7 = .ok (.aload_n 0, 1) := dk_42 (dk_at dksX2_takeFrom_0 7 rfl rfl)
theorem dX2_takeFrom_8 : decode cX2_takeFrom 8 = .ok (.getfield 11, 3) := dk_180 0 11 (dk_at dksX2_takeFrom_0 8 rfl rfl)
theorem dX2_takeFrom_11 : decode cX2_takeFrom 11 = .ok (.iload_n 2, 1) := dk_28 (dk_at dksX2_takeFrom_0 11 rfl rfl)
theorem dX2_takeFrom_12 : decode cX2_takeFrom 12 = .ok (.aaload, 1) := dk_50 (dk_at dksX2_takeFrom_0 12 rfl rfl)
theorem dX2_takeFrom_13 : decode cX2_takeFrom 13 = .ok (.aload_n 1, 1) := dk_43 (dk_at dksX2_takeFrom_0 13 rfl rfl)
theorem dX2_takeFrom_14 : decode cX2_takeFrom 14 = .ok (.getfield 11, 3) := dk_180 0 11 (dk_at dksX2_takeFrom_0 14 rfl rfl)
theorem dX2_takeFrom_17 : decode cX2_takeFrom 17 = .ok (.iload_n 2, 1) := dk_28 (dk_at dksX2_takeFrom_0 17 rfl rfl)
theorem dX2_takeFrom_18 : decode cX2_takeFrom 18 = .ok (.aaload, 1) := dk_50 (dk_at dksX2_takeFrom_0 18 rfl rfl)
theorem dX2_takeFrom_19 : decode cX2_takeFrom 19 = .ok (.invokevirtual 18, 3) := dk_182 0 18 (dk_at dksX2_takeFrom_0 19 rfl rfl)
theorem dX2_takeFrom_22 : decode cX2_takeFrom 22 = .ok (.pop, 1) := dk_87 (dk_at dksX2_takeFrom_0 22 rfl rfl)
theorem dX2_takeFrom_23 : decode cX2_takeFrom 23 = .ok (.iinc 2 1, 3) := dk_132 2 1 (dk_at dksX2_takeFrom_1 0 rfl rfl)
theorem dX2_takeFrom_26 : decode cX2_takeFrom 26 = .ok (.goto (-24), 3) := dk_167 255 232 (dk_at dksX2_takeFrom_1 3 rfl rfl)
theorem dX2_takeFrom_29 : decode cX2_takeFrom 29 = .ok (.aload_n 0, 1) := dk_42 (dk_at dksX2_takeFrom_1 6 rfl rfl)
theorem dX2_takeFrom_30 : decode cX2_takeFrom 30 = .ok (.aload_n 1, 1) := dk_43 (dk_at dksX2_takeFrom_1 7 rfl rfl)
theorem dX2_takeFrom_31 : decode cX2_takeFrom 31 = .ok (.getfield 22, 3) := dk_180 0 22 (dk_at dksX2_takeFrom_1 8 rfl rfl)
theorem dX2_takeFrom_34 : decode cX2_takeFrom 34 = .ok (.putfield 22, 3) := dk_181 0 22 (dk_at dksX2_takeFrom_1 11 rfl rfl)
theorem dX2_takeFrom_37 : decode cX2_takeFrom 37 = .ok (.aload_n 0, 1) := dk_42 (dk_at dksX2_takeFrom_1 14 rfl rfl)
theorem dX2_takeFrom_38 : decode cX2_takeFrom 38 = .ok (.aload_n 1, 1) := dk_43 (dk_at dksX2_takeFrom_1 15 rfl rfl)
theorem dX2_takeFrom_39 : decode cX2_takeFrom 39 = .ok (.getfield 26, 3) := dk_180 0 26 (dk_at dksX2_takeFrom_1 16 rfl rfl)
theorem dX2_takeFrom_42 : decode cX2_takeFrom 42 = .ok (.putfield 26, 3) := dk_181 0 26 (dk_at dksX2_takeFrom_1 19 rfl rfl)
theorem dX2_takeFrom_45 : decode cX2_takeFrom 45 = .ok (.return_, 1) := dk_177 (dk_at dksX2_takeFrom_1 22 rfl rfl)
theorem q102 : (Jvm.Cond.initialized "EightBlocks$Hall") ∈ lw_all := lw_g (lw_at lw_m1 7 rfl) rfl
theorem q236 : (Jvm.Cond.instantiable "EightBlocks$Hall" (3 : Nat)) ∈ lw_all := lw_g (lw_at lw_m1 141 rfl) rfl
theorem q238 : (Jvm.Cond.instanceMethod ({ cls := "EightBlocks$Hall", name := "<init>", desc := "()V" } : Jvm.MethodName)) ∈ lw_all := lw_g (lw_at lw_m1 143 rfl) rfl
theorem q239 : (Jvm.Cond.code ({ cls := "EightBlocks$Hall", name := "<init>", desc := "()V" } : Jvm.MethodName) prog_6_method_1_code (2 : Nat) (Option.none : Option Jvm.ClassFile.FieldType)) ∈ lw_all := lw_g (lw_at lw_m1 144 rfl) rfl
theorem q240 : (Jvm.Cond.methodLink "EightBlocks$Hall" (3 : Nat) ({ cls := "java/lang/Object", name := "<init>", desc := "()V" } : Jvm.MethodName)) ∈ lw_all := lw_g (lw_at lw_m1 145 rfl) rfl
theorem q241 : (Jvm.Cond.classLink "EightBlocks$Hall" (9 : Nat) "EightBlocks$Move") ∈ lw_all := lw_g (lw_at lw_m1 146 rfl) rfl
theorem q244 : (Jvm.Cond.methodLinkNest "EightBlocks$Hall" (17 : Nat) ({ cls := "EightBlocks$Move", name := "<init>", desc := "()V" } : Jvm.MethodName) "EightBlocks") ∈ lw_tbl := lw_at lw_m1 149 rfl
theorem q257 : (Jvm.Cond.fieldLink "EightBlocks$Hall" (11 : Nat) "EightBlocks$Hall" "moves" "[LEightBlocks$Move;") ∈ lw_all := lw_g (lw_at lw_m1 162 rfl) rfl
theorem q260 : (Jvm.Cond.fieldLink "EightBlocks$Hall" (22 : Nat) "EightBlocks$Hall" "dodecad" "I") ∈ lw_all := lw_g (lw_at lw_m1 165 rfl) rfl
theorem q262 : (Jvm.Cond.fieldLink "EightBlocks$Hall" (26 : Nat) "EightBlocks$Hall" "draw" "I") ∈ lw_all := lw_g (lw_at lw_m1 167 rfl) rfl
theorem q264 : (Jvm.Cond.laysFinal "EightBlocks$Hall" "EightBlocks$Hall" "moves" "[LEightBlocks$Move;") ∈ lw_all := lw_g (lw_at lw_m1 169 rfl) rfl
theorem q265 : (Jvm.Cond.soleField "EightBlocks$Hall" "moves") ∈ lw_all := lw_g (lw_at lw_m1 170 rfl) rfl
theorem q266 : (Jvm.Cond.lays "EightBlocks$Hall" "EightBlocks$Hall" "dodecad" "I") ∈ lw_all := lw_g (lw_at lw_m1 171 rfl) rfl
theorem q267 : (Jvm.Cond.soleField "EightBlocks$Hall" "dodecad") ∈ lw_all := lw_g (lw_at lw_m1 172 rfl) rfl
theorem q268 : (Jvm.Cond.lays "EightBlocks$Hall" "EightBlocks$Hall" "draw" "I") ∈ lw_all := lw_g (lw_at lw_m1 173 rfl) rfl
theorem q269 : (Jvm.Cond.soleField "EightBlocks$Hall" "draw") ∈ lw_all := lw_g (lw_at lw_m1 174 rfl) rfl
theorem q270 : (Jvm.Cond.superclass "EightBlocks$Hall" "java/lang/Object") ∈ lw_all := lw_g (lw_at lw_m1 175 rfl) rfl
theorem q1362 : (Jvm.Cond.instanceMethod ({ cls := "EightBlocks$Hall", name := "takeFrom", desc := "(LEightBlocks$Hall;)V" } : Jvm.MethodName)) ∈ lw_all := lw_g (lw_at lw_m6 67 rfl) rfl
theorem q1363 : (Jvm.Cond.selects "EightBlocks$Hall" ({ cls := "EightBlocks$Hall", name := "takeFrom", desc := "(LEightBlocks$Hall;)V" } : Jvm.MethodName) ({ cls := "EightBlocks$Hall", name := "takeFrom", desc := "(LEightBlocks$Hall;)V" } : Jvm.MethodName)) ∈ lw_all := lw_g (lw_at lw_m6 68 rfl) rfl
theorem q1364 : (Jvm.Cond.code ({ cls := "EightBlocks$Hall", name := "takeFrom", desc := "(LEightBlocks$Hall;)V" } : Jvm.MethodName) prog_6_method_2_code (3 : Nat) (Option.none : Option Jvm.ClassFile.FieldType)) ∈ lw_all := lw_g (lw_at lw_m6 69 rfl) rfl
theorem q1365 : (Jvm.Cond.methodLink "EightBlocks$Hall" (18 : Nat) ({ cls := "EightBlocks$Move", name := "take", desc := "(LEightBlocks$Way;)LEightBlocks$Move;" } : Jvm.MethodName)) ∈ lw_all := lw_g (lw_at lw_m6 70 rfl) rfl
theorem in_X2 : ∀ w ∈ wsX20, w ∈ lw_all := lw_in wsX20 [264, 266, 268] (by decide +kernel) (by decide +kernel)

/-! EightBlocks$Move -/
set_option maxRecDepth 100000
def RX3 : String := "EightBlocks$Move"
def TX3 : u_T := fun k => match k with
  | 0 => ("EightBlocks$Move", "ahead", "[B", true)
  | _ => ("EightBlocks$Move", "back", "[B", true)
def tyX3 : Nat → FieldType := fun k => match k with
  | 0 => .array .byte
  | _ => .array .byte
abbrev wsX30 : List Cond := u_ws RX3 TX3 2
theorem nmX3 : ∀ a, a < 2 → ∀ b, b < 2 → a ≠ b → (TX3 a).2.1 ≠ (TX3 b).2.1 := by decide +kernel
theorem tyX3_ok : ∀ k, k < 2 → parseFieldDescriptor (TX3 k).2.2.1 = some (tyX3 k) := by decide +kernel
abbrev cX3_init : ByteArray := prog_9_method_1_code
def yX3_init : MethodName := ⟨RX3, "<init>", "()V"⟩
def dkwX3_init_0 : List UInt8 := [42, 183, 0, 3, 42, 16, 24, 188, 8, 181, 0, 9, 42, 16, 24, 188, 8, 181, 0, 15, 177]
abbrev dktX3_init_0 : List UInt8 := dkwX3_init_0 ++ []
theorem dksX3_init_0 : cX3_init.data.toList.drop 0 = dktX3_init_0 := by decide +kernel
theorem dX3_init_0 : decode cX3_init 0 = .ok (.aload_n 0, 1) := dk_42 (dk_at dksX3_init_0 0 rfl rfl)
theorem dX3_init_1 : decode cX3_init 1 = .ok (.invokespecial 3, 3) := dk_183 0 3 (dk_at dksX3_init_0 1 rfl rfl)
theorem dX3_init_4 : decode cX3_init 4 = .ok (.aload_n 0, 1) := dk_42 (dk_at dksX3_init_0 4 rfl rfl)
theorem dX3_init_5 : decode cX3_init 5 = .ok (.bipush 24, 2) := dk_16 24 (dk_at dksX3_init_0 5 rfl rfl)
theorem dX3_init_7 : decode cX3_init 7 = .ok (.newarray .byte, 2) := dk_188_8 (dk_at dksX3_init_0 7 rfl rfl)
theorem dX3_init_9 : decode cX3_init 9 = .ok (.putfield 9, 3) := dk_181 0 9 (dk_at dksX3_init_0 9 rfl rfl)
theorem dX3_init_12 : decode cX3_init 12 = .ok (.aload_n 0, 1) := dk_42 (dk_at dksX3_init_0 12 rfl rfl)
theorem dX3_init_13 : decode cX3_init 13 = .ok (.bipush 24, 2) := dk_16 24 (dk_at dksX3_init_0 13 rfl rfl)
theorem dX3_init_15 : decode cX3_init 15 = .ok (.newarray .byte, 2) := dk_188_8 (dk_at dksX3_init_0 15 rfl rfl)
theorem dX3_init_17 : decode cX3_init 17 = .ok (.putfield 15, 3) := dk_181 0 15 (dk_at dksX3_init_0 17 rfl rfl)
theorem dX3_init_20 : decode cX3_init 20 = .ok (.return_, 1) := dk_177 (dk_at dksX3_init_0 20 rfl rfl)
abbrev cX3_take : ByteArray := prog_9_method_5_code
def yX3_take : MethodName := ⟨RX3, "take", "(LEightBlocks$Way;)LEightBlocks$Move;"⟩
def dkwX3_take_1 : List UInt8 := [132, 2, 1, 167, 255, 233, 42, 182, 0, 24, 42, 176]
abbrev dktX3_take_1 : List UInt8 := dkwX3_take_1 ++ []
def dkwX3_take_0 : List UInt8 := [3, 61, 28, 16, 24, 162, 0, 23, 42, 180, 0, 9, 28, 43, 28, 185, 0, 18, 2, 0, 145, 84]
abbrev dktX3_take_0 : List UInt8 := dkwX3_take_0 ++ dktX3_take_1
theorem dksX3_take_0 : cX3_take.data.toList.drop 0 = dktX3_take_0 := by decide +kernel
theorem dksX3_take_1 : cX3_take.data.toList.drop 22 = dktX3_take_1 := dk_seg dksX3_take_0 22 rfl rfl
theorem dX3_take_0 : decode cX3_take 0 = .ok (.iconst 0, 1) := dk_3 (dk_at dksX3_take_0 0 rfl rfl)
theorem dX3_take_1 : decode cX3_take 1 = .ok (.istore_n 2, 1) := dk_61 (dk_at dksX3_take_0 1 rfl rfl)
theorem dX3_take_2 : decode cX3_take 2 = .ok (.iload_n 2, 1) := dk_28 (dk_at dksX3_take_0 2 rfl rfl)
theorem dX3_take_3 : decode cX3_take 3 = .ok (.bipush 24, 2) := dk_16 24 (dk_at dksX3_take_0 3 rfl rfl)
theorem dX3_take_5 : decode cX3_take 5 = .ok (.if_icmp .ge 23, 3) := dk_162 0 23 (dk_at dksX3_take_0 5 rfl rfl)
theorem dX3_take_8 : decode cX3_take 8 = .ok (.aload_n 0, 1) := dk_42 (dk_at dksX3_take_0 8 rfl rfl)
theorem dX3_take_9 : decode cX3_take 9 = .ok (.getfield 9, 3) := dk_180 0 9 (dk_at dksX3_take_0 9 rfl rfl)
theorem dX3_take_12 : decode cX3_take 12 = .ok (.iload_n 2, 1) := dk_28 (dk_at dksX3_take_0 12 rfl rfl)
theorem dX3_take_13 : decode cX3_take 13 = .ok (.aload_n 1, 1) := dk_43 (dk_at dksX3_take_0 13 rfl rfl)
theorem dX3_take_14 : decode cX3_take 14 = .ok (.iload_n 2, 1) := dk_28 (dk_at dksX3_take_0 14 rfl rfl)
theorem dX3_take_15 : decode cX3_take 15 = .ok (.invokeinterface 18 2, 5) := by decide +kernel
theorem dX3_take_20 : decode cX3_take 20 = .ok (.i2b, 1) := dk_145 (dk_at dksX3_take_0 20 rfl rfl)
theorem dX3_take_21 : decode cX3_take 21 = .ok (.bastore, 1) := dk_84 (dk_at dksX3_take_0 21 rfl rfl)
theorem dX3_take_22 : decode cX3_take 22 = .ok (.iinc 2 1, 3) := dk_132 2 1 (dk_at dksX3_take_1 0 rfl rfl)
theorem dX3_take_25 : decode cX3_take 25 = .ok (.goto (-23), 3) := dk_167 255 233 (dk_at dksX3_take_1 3 rfl rfl)
theorem dX3_take_28 : decode cX3_take 28 = .ok (.aload_n 0, 1) := dk_42 (dk_at dksX3_take_1 6 rfl rfl)
theorem dX3_take_29 : decode cX3_take 29 = .ok (.invokevirtual 24, 3) := dk_182 0 24 (dk_at dksX3_take_1 7 rfl rfl)
theorem dX3_take_32 : decode cX3_take 32 = .ok (.aload_n 0, 1) := dk_42 (dk_at dksX3_take_1 10 rfl rfl)
theorem dX3_take_33 : decode cX3_take 33 = .ok (.areturn, 1) := dk_176 (dk_at dksX3_take_1 11 rfl rfl)
abbrev cX3_to : ByteArray := prog_9_method_2_code
def yX3_to : MethodName := ⟨RX3, "to", "(I)I"⟩
def dkwX3_to_0 : List UInt8 := [42, 180, 0, 9, 27, 51, 172]
abbrev dktX3_to_0 : List UInt8 := dkwX3_to_0 ++ []
theorem dksX3_to_0 : cX3_to.data.toList.drop 0 = dktX3_to_0 := by decide +kernel
theorem dX3_to_0 : decode cX3_to 0 = .ok (.aload_n 0, 1) := dk_42 (dk_at dksX3_to_0 0 rfl rfl)
theorem dX3_to_1 : decode cX3_to 1 = .ok (.getfield 9, 3) := dk_180 0 9 (dk_at dksX3_to_0 1 rfl rfl)
theorem dX3_to_4 : decode cX3_to 4 = .ok (.iload_n 1, 1) := dk_27 (dk_at dksX3_to_0 4 rfl rfl)
theorem dX3_to_5 : decode cX3_to 5 = .ok (.baload, 1) := dk_51 (dk_at dksX3_to_0 5 rfl rfl)
theorem dX3_to_6 : decode cX3_to 6 = .ok (.ireturn, 1) := dk_172 (dk_at dksX3_to_0 6 rfl rfl)
abbrev cX3_turnBack : ByteArray := prog_9_method_4_code
def yX3_turnBack : MethodName := ⟨RX3, "turnBack", "()V"⟩
def dkwX3_turnBack_1 : List UInt8 := [167, 255, 234, 177]
abbrev dktX3_turnBack_1 : List UInt8 := dkwX3_turnBack_1 ++ []
def dkwX3_turnBack_0 : List UInt8 := [3, 60, 27, 16, 24, 162, 0, 22, 42, 180, 0, 15, 42, 180, 0, 9, 27, 51, 27, 145, 84, 132, 1, 1]
abbrev dktX3_turnBack_0 : List UInt8 := dkwX3_turnBack_0 ++ dktX3_turnBack_1
theorem dksX3_turnBack_0 : cX3_turnBack.data.toList.drop 0 = dktX3_turnBack_0 := by decide +kernel
theorem dksX3_turnBack_1 : cX3_turnBack.data.toList.drop 24 = dktX3_turnBack_1 := dk_seg dksX3_turnBack_0 24 rfl rfl
theorem dX3_turnBack_0 : decode cX3_turnBack 0 = .ok (.iconst 0, 1) := dk_3 (dk_at dksX3_turnBack_0 0 rfl rfl)
theorem dX3_turnBack_1 : decode cX3_turnBack 1 = .ok (.istore_n 1, 1) := dk_60 (dk_at dksX3_turnBack_0 1 rfl rfl)
theorem dX3_turnBack_2 : decode cX3_turnBack 2 = .ok (.iload_n 1, 1) := dk_27 (dk_at dksX3_turnBack_0 2 rfl rfl)
theorem dX3_turnBack_3 : decode cX3_turnBack 3 = .ok (.bipush 24, 2) := dk_16 24 (dk_at dksX3_turnBack_0 3 rfl rfl)
theorem dX3_turnBack_5 : decode cX3_turnBack 5 = .ok (.if_icmp .ge 22, 3) := dk_162 0 22 (dk_at dksX3_turnBack_0 5 rfl rfl)
theorem dX3_turnBack_8 : decode cX3_turnBack 8 = .ok (.aload_n 0, 1) := dk_42 (dk_at dksX3_turnBack_0 8 rfl rfl)
theorem dX3_turnBack_9 : decode cX3_turnBack 9 = .ok (.getfield 15, 3) := dk_180 0 15 (dk_at dksX3_turnBack_0 9 rfl rfl)
theorem dX3_turnBack_12 : decode cX3_turnBack 12 = .ok (.aload_n 0, 1) := dk_42 (dk_at dksX3_turnBack_0 12 rfl rfl)
theorem dX3_turnBack_13 : decode cX3_turnBack 13 = .ok (.getfield 9, 3) := dk_180 0 9 (dk_at dksX3_turnBack_0 13 rfl rfl)
theorem dX3_turnBack_16 : decode cX3_turnBack 16 = .ok (.iload_n 1, 1) := dk_27 (dk_at dksX3_turnBack_0 16 rfl rfl)
theorem dX3_turnBack_17 : decode cX3_turnBack 17 = .ok (.baload, 1) := dk_51 (dk_at dksX3_turnBack_0 17 rfl rfl)
theorem dX3_turnBack_18 : decode cX3_turnBack 18 = .ok (.iload_n 1, 1) := dk_27 (dk_at dksX3_turnBack_0 18 rfl rfl)
theorem dX3_turnBack_19 : decode cX3_turnBack 19 = .ok (.i2b, 1) := dk_145 (dk_at dksX3_turnBack_0 19 rfl rfl)
theorem dX3_turnBack_20 : decode cX3_turnBack 20 = .ok (.bastore, 1) := dk_84 (dk_at dksX3_turnBack_0 20 rfl rfl)
theorem dX3_turnBack_21 : decode cX3_turnBack 21 = .ok (.iinc 1 1, 3) := dk_132 1 1 (dk_at dksX3_turnBack_0 21 rfl rfl)
theorem dX3_turnBack_24 : decode cX3_turnBack 24 = .ok (.goto (-22), 3) := dk_167 255 234 (dk_at dksX3_turnBack_1 0 rfl rfl)
theorem dX3_turnBack_27 : decode cX3_turnBack 27 = .ok (.return_, 1) := dk_177 (dk_at dksX3_turnBack_1 3 rfl rfl)
abbrev cX3_staying : ByteArray := prog_9_method_10_code
def yX3_staying : MethodName := ⟨RX3, "staying", "()I"⟩
def dkwX3_staying_1 : List UInt8 := [167, 0, 4, 3, 96, 60, 132, 2, 1, 167, 255, 229, 27, 172]
abbrev dktX3_staying_1 : List UInt8 := dkwX3_staying_1 ++ []
def dkwX3_staying_0 : List UInt8 := [3, 60, 3, 61, 28, 16, 24, 162, 0, 27, 27, 42, 180, 0, 9, 28, 51, 28, 160, 0, 7, 4]
abbrev dktX3_staying_0 : List UInt8 := dkwX3_staying_0 ++ dktX3_staying_1
theorem dksX3_staying_0 : cX3_staying.data.toList.drop 0 = dktX3_staying_0 := by decide +kernel
theorem dksX3_staying_1 : cX3_staying.data.toList.drop 22 = dktX3_staying_1 := dk_seg dksX3_staying_0 22 rfl rfl
theorem dX3_staying_0 : decode cX3_staying 0 = .ok (.iconst 0, 1) := dk_3 (dk_at dksX3_staying_0 0 rfl rfl)
theorem dX3_staying_1 : decode cX3_staying 1 = .ok (.istore_n 1, 1) := dk_60 (dk_at dksX3_staying_0 1 rfl rfl)
theorem dX3_staying_2 : decode cX3_staying 2 = .ok (.iconst 0, 1) := dk_3 (dk_at dksX3_staying_0 2 rfl rfl)
theorem dX3_staying_3 : decode cX3_staying 3 = .ok (.istore_n 2, 1) := dk_61 (dk_at dksX3_staying_0 3 rfl rfl)
theorem dX3_staying_4 : decode cX3_staying 4 = .ok (.iload_n 2, 1) := dk_28 (dk_at dksX3_staying_0 4 rfl rfl)
theorem dX3_staying_5 : decode cX3_staying 5 = .ok (.bipush 24, 2) := dk_16 24 (dk_at dksX3_staying_0 5 rfl rfl)
theorem dX3_staying_7 : decode cX3_staying 7 = .ok (.if_icmp .ge 27, 3) := dk_162 0 27 (dk_at dksX3_staying_0 7 rfl rfl)
theorem dX3_staying_10 : decode cX3_staying 10 = .ok (.iload_n 1, 1) := dk_27 (dk_at dksX3_staying_0 10 rfl rfl)
theorem dX3_staying_11 : decode cX3_staying 11 = .ok (.aload_n 0, 1) := dk_42 (dk_at dksX3_staying_0 11 rfl rfl)
theorem dX3_staying_12 : decode cX3_staying 12 = .ok (.getfield 9, 3) := dk_180 0 9 (dk_at dksX3_staying_0 12 rfl rfl)
theorem dX3_staying_15 : decode cX3_staying 15 = .ok (.iload_n 2, 1) := dk_28 (dk_at dksX3_staying_0 15 rfl rfl)
theorem dX3_staying_16 : decode cX3_staying 16 = .ok (.baload, 1) := dk_51 (dk_at dksX3_staying_0 16 rfl rfl)
theorem dX3_staying_17 : decode cX3_staying 17 = .ok (.iload_n 2, 1) := dk_28 (dk_at dksX3_staying_0 17 rfl rfl)
theorem dX3_staying_18 : decode cX3_staying 18 = .ok (.if_icmp .ne 7, 3) := dk_160 0 7 (dk_at dksX3_staying_0 18 rfl rfl)
theorem dX3_staying_21 : decode cX3_staying 21 = .ok (.iconst 1, 1) := dk_4 (dk_at dksX3_staying_0 21 rfl rfl)
theorem dX3_staying_22 : decode cX3_staying 22 = .ok (.goto 4, 3) := dk_167 0 4 (dk_at dksX3_staying_1 0 rfl rfl)
theorem dX3_staying_25 : decode cX3_staying 25 = .ok (.iconst 0, 1) := dk_3 (dk_at dksX3_staying_1 3 rfl rfl)
theorem dX3_staying_26 : decode cX3_staying 26 = .ok (.iadd, 1) := dk_96 (dk_at dksX3_staying_1 4 rfl rfl)
theorem dX3_staying_27 : decode cX3_staying 27 = .ok (.istore_n 1, 1) := dk_60 (dk_at dksX3_staying_1 5 rfl rfl)
theorem dX3_staying_28 : decode cX3_staying 28 = .ok (.iinc 2 1, 3) := dk_132 2 1 (dk_at dksX3_staying_1 6 rfl rfl)
theorem dX3_staying_31 : decode cX3_staying 31 = .ok (.goto (-27), 3) := dk_167 255 229 (dk_at dksX3_staying_1 9 rfl rfl)
theorem dX3_staying_34 : decode cX3_staying 34 = .ok (.iload_n 1, 1) := dk_27 (dk_at dksX3_staying_1 12 rfl rfl)
theorem dX3_staying_35 : decode cX3_staying 35 = .ok (.ireturn, 1) := dk_172 (dk_at dksX3_staying_1 13 rfl rfl)
abbrev cX3_rings : ByteArray := prog_9_method_12_code
def yX3_rings : MethodName := ⟨RX3, "rings", "(I)I"⟩
def dkwX3_rings_4 : List UInt8 := [5, 160, 0, 7, 29, 167, 0, 5, 21, 4, 172]
abbrev dktX3_rings_4 : List UInt8 := dkwX3_rings_4 ++ []
def dkwX3_rings_3 : List UInt8 := [128, 61, 42, 180, 0, 9, 21, 7, 51, 54, 7, 132, 8, 1, 167, 255, 230, 132, 5, 1, 167, 255, 175, 27]
abbrev dktX3_rings_3 : List UInt8 := dkwX3_rings_3 ++ dktX3_rings_4
def dkwX3_rings_2 : List UInt8 := [21, 6, 104, 54, 4, 21, 5, 54, 7, 3, 54, 8, 21, 8, 21, 6, 162, 0, 25, 28, 4, 21, 7, 120]
abbrev dktX3_rings_2 : List UInt8 := dkwX3_rings_2 ++ dktX3_rings_3
def dkwX3_rings_1 : List UInt8 := [154, 0, 65, 132, 3, 1, 42, 21, 5, 182, 0, 34, 54, 6, 21, 4, 21, 4, 21, 6, 184, 0, 41, 108]
abbrev dktX3_rings_1 : List UInt8 := dkwX3_rings_1 ++ dktX3_rings_2
def dkwX3_rings_0 : List UInt8 := [3, 61, 3, 62, 4, 54, 4, 3, 54, 5, 21, 5, 16, 24, 162, 0, 80, 28, 21, 5, 184, 0, 37]
abbrev dktX3_rings_0 : List UInt8 := dkwX3_rings_0 ++ dktX3_rings_1
theorem dksX3_rings_0 : cX3_rings.data.toList.drop 0 = dktX3_rings_0 := by decide +kernel
theorem dksX3_rings_1 : cX3_rings.data.toList.drop 23 = dktX3_rings_1 := dk_seg dksX3_rings_0 23 rfl rfl
theorem dksX3_rings_2 : cX3_rings.data.toList.drop 47 = dktX3_rings_2 := dk_seg dksX3_rings_1 24 rfl rfl
theorem dksX3_rings_3 : cX3_rings.data.toList.drop 71 = dktX3_rings_3 := dk_seg dksX3_rings_2 24 rfl rfl
theorem dksX3_rings_4 : cX3_rings.data.toList.drop 95 = dktX3_rings_4 := dk_seg dksX3_rings_3 24 rfl rfl
theorem dX3_rings_0 : decode cX3_rings 0 = .ok (.iconst 0, 1) := dk_3 (dk_at dksX3_rings_0 0 rfl rfl)
theorem dX3_rings_1 : decode cX3_rings 1 = .ok (.istore_n 2, 1) := dk_61 (dk_at dksX3_rings_0 1 rfl rfl)
theorem dX3_rings_2 : decode cX3_rings 2 = .ok (.iconst 0, 1) := dk_3 (dk_at dksX3_rings_0 2 rfl rfl)
theorem dX3_rings_3 : decode cX3_rings 3 = .ok (.istore_n 3, 1) := dk_62 (dk_at dksX3_rings_0 3 rfl rfl)
theorem dX3_rings_4 : decode cX3_rings 4 = .ok (.iconst 1, 1) := dk_4 (dk_at dksX3_rings_0 4 rfl rfl)
theorem dX3_rings_5 : decode cX3_rings 5 = .ok (.istore 4, 2) := dk_54 4 (dk_at dksX3_rings_0 5 rfl rfl)
theorem dX3_rings_7 : decode cX3_rings 7 = .ok (.iconst 0, 1) := dk_3 (dk_at dksX3_rings_0 7 rfl rfl)
theorem dX3_rings_8 : decode cX3_rings 8 = .ok (.istore 5, 2) := dk_54 5 (dk_at dksX3_rings_0 8 rfl rfl)
theorem dX3_rings_10 : decode cX3_rings 10 = .ok (.iload 5, 2) := dk_21 5 (dk_at dksX3_rings_0 10 rfl rfl)
theorem dX3_rings_12 : decode cX3_rings 12 = .ok (.bipush 24, 2) := dk_16 24 (dk_at dksX3_rings_0 12 rfl rfl)
theorem dX3_rings_14 : decode cX3_rings 14 = .ok (.if_icmp .ge 80, 3) := dk_162 0 80 (dk_at dksX3_rings_0 14 rfl rfl)
theorem dX3_rings_17 : decode cX3_rings 17 = .ok (.iload_n 2, 1) := dk_28 (dk_at dksX3_rings_0 17 rfl rfl)
theorem dX3_rings_18 : decode cX3_rings 18 = .ok (.iload 5, 2) := dk_21 5 (dk_at dksX3_rings_0 18 rfl rfl)
theorem dX3_rings_20 : decode cX3_rings 20 = .ok (.invokestatic 37, 3) := dk_184 0 37 (dk_at dksX3_rings_0 20 rfl rfl)
theorem dX3_rings_23 : decode cX3_rings 23 = .ok (.ifCond .ne 65, 3) := dk_154 0 65 (dk_at dksX3_rings_1 0 rfl rfl)
theorem dX3_rings_26 : decode cX3_rings 26 = .ok (.iinc 3 1, 3) := dk_132 3 1 (dk_at dksX3_rings_1 3 rfl rfl)
theorem dX3_rings_29 : decode cX3_rings 29 = .ok (.aload_n 0, 1) := dk_42 (dk_at dksX3_rings_1 6 rfl rfl)
theorem dX3_rings_30 : decode cX3_rings 30 = .ok (.iload 5, 2) := dk_21 5 (dk_at dksX3_rings_1 7 rfl rfl)
theorem dX3_rings_32 : decode cX3_rings 32 = .ok (.invokevirtual 34, 3) := dk_182 0 34 (dk_at dksX3_rings_1 9 rfl rfl)
theorem dX3_rings_35 : decode cX3_rings 35 = .ok (.istore 6, 2) := dk_54 6 (dk_at dksX3_rings_1 12 rfl rfl)
theorem dX3_rings_37 : decode cX3_rings 37 = .ok (.iload 4, 2) := dk_21 4 (dk_at dksX3_rings_1 14 rfl rfl)
theorem dX3_rings_39 : decode cX3_rings 39 = .ok (.iload 4, 2) := dk_21 4 (dk_at dksX3_rings_1 16 rfl rfl)
theorem dX3_rings_41 : decode cX3_rings 41 = .ok (.iload 6, 2) := dk_21 6 (dk_at dksX3_rings_1 18 rfl rfl)
theorem dX3_rings_43 : decode cX3_rings 43 = .ok (.invokestatic 41, 3) := dk_184 0 41 (dk_at dksX3_rings_1 20 rfl rfl)
theorem dX3_rings_46 : decode cX3_rings 46 = .ok (.idiv, 1) := dk_108 (dk_at dksX3_rings_1 23 rfl rfl)
theorem dX3_rings_47 : decode cX3_rings 47 = .ok (.iload 6, 2) := dk_21 6 (dk_at dksX3_rings_2 0 rfl rfl)
theorem dX3_rings_49 : decode cX3_rings 49 = .ok (.imul, 1) := dk_104 (dk_at dksX3_rings_2 2 rfl rfl)
theorem dX3_rings_50 : decode cX3_rings 50 = .ok (.istore 4, 2) := dk_54 4 (dk_at dksX3_rings_2 3 rfl rfl)
theorem dX3_rings_52 : decode cX3_rings 52 = .ok (.iload 5, 2) := dk_21 5 (dk_at dksX3_rings_2 5 rfl rfl)
theorem dX3_rings_54 : decode cX3_rings 54 = .ok (.istore 7, 2) := dk_54 7 (dk_at dksX3_rings_2 7 rfl rfl)
theorem dX3_rings_56 : decode cX3_rings 56 = .ok (.iconst 0, 1) := dk_3 (dk_at dksX3_rings_2 9 rfl rfl)
theorem dX3_rings_57 : decode cX3_rings 57 = .ok (.istore 8, 2) := dk_54 8 (dk_at dksX3_rings_2 10 rfl rfl)
theorem dX3_rings_59 : decode cX3_rings 59 = .ok (.iload 8, 2) := dk_21 8 (dk_at dksX3_rings_2 12 rfl rfl)
theorem dX3_rings_61 : decode cX3_rings 61 = .ok (.iload 6, 2) := dk_21 6 (dk_at dksX3_rings_2 14 rfl rfl)
theorem dX3_rings_63 : decode cX3_rings 63 = .ok (.if_icmp .ge 25, 3) := dk_162 0 25 (dk_at dksX3_rings_2 16 rfl rfl)
theorem dX3_rings_66 : decode cX3_rings 66 = .ok (.iload_n 2, 1) := dk_28 (dk_at dksX3_rings_2 19 rfl rfl)
theorem dX3_rings_67 : decode cX3_rings 67 = .ok (.iconst 1, 1) := dk_4 (dk_at dksX3_rings_2 20 rfl rfl)
theorem dX3_rings_68 : decode cX3_rings 68 = .ok (.iload 7, 2) := dk_21 7 (dk_at dksX3_rings_2 21 rfl rfl)
theorem dX3_rings_70 : decode cX3_rings 70 = .ok (.ishl, 1) := dk_120 (dk_at dksX3_rings_2 23 rfl rfl)
theorem dX3_rings_71 : decode cX3_rings 71 = .ok (.ior, 1) := dk_128 (dk_at dksX3_rings_3 0 rfl rfl)
theorem dX3_rings_72 : decode cX3_rings 72 = .ok (.istore_n 2, 1) := dk_61 (dk_at dksX3_rings_3 1 rfl rfl)
theorem dX3_rings_73 : decode cX3_rings 73 = .ok (.aload_n 0, 1) := dk_42 (dk_at dksX3_rings_3 2 rfl rfl)
theorem dX3_rings_74 : decode cX3_rings 74 = .ok (.getfield 9, 3) := dk_180 0 9 (dk_at dksX3_rings_3 3 rfl rfl)
theorem dX3_rings_77 : decode cX3_rings 77 = .ok (.iload 7, 2) := dk_21 7 (dk_at dksX3_rings_3 6 rfl rfl)
theorem dX3_rings_79 : decode cX3_rings 79 = .ok (.baload, 1) := dk_51 (dk_at dksX3_rings_3 8 rfl rfl)
theorem dX3_rings_80 : decode cX3_rings 80 = .ok (.istore 7, 2) := dk_54 7 (dk_at dksX3_rings_3 9 rfl rfl)
theorem dX3_rings_82 : decode cX3_rings 82 = .ok (.iinc 8 1, 3) := dk_132 8 1 (dk_at dksX3_rings_3 11 rfl rfl)
theorem dX3_rings_85 : decode cX3_rings 85 = .ok (.goto (-26), 3) := dk_167 255 230 (dk_at dksX3_rings_3 14 rfl rfl)
theorem dX3_rings_88 : decode cX3_rings 88 = .ok (.iinc 5 1, 3) := dk_132 5 1 (dk_at dksX3_rings_3 17 rfl rfl)
theorem dX3_rings_91 : decode cX3_rings 91 = .ok (.goto (-81), 3) := dk_167 255 175 (dk_at dksX3_rings_3 20 rfl rfl)
theorem dX3_rings_94 : decode cX3_rings 94 = .ok (.iload_n 1, 1) := dk_27 (dk_at dksX3_rings_3 23 rfl rfl)
theorem dX3_rings_95 : decode cX3_rings 95 = .ok (.iconst 2, 1) := dk_5 (dk_at dksX3_rings_4 0 rfl rfl)
theorem dX3_rings_96 : decode cX3_rings 96 = .ok (.if_icmp .ne 7, 3) := dk_160 0 7 (dk_at dksX3_rings_4 1 rfl rfl)
theorem dX3_rings_99 : decode cX3_rings 99 = .ok (.iload_n 3, 1) := dk_29 (dk_at dksX3_rings_4 4 rfl rfl)
theorem dX3_rings_100 : decode cX3_rings 100 = .ok (.goto 5, 3) := dk_167 0 5 (dk_at dksX3_rings_4 5 rfl rfl)
theorem dX3_rings_103 : decode cX3_rings 103 = .ok (.iload 4, 2) := dk_21 4 (dk_at dksX3_rings_4 8 rfl rfl)
theorem dX3_rings_105 : decode cX3_rings 105 = .ok (.ireturn, 1) := dk_172 (dk_at dksX3_rings_4 10 rfl rfl)
abbrev cX3_common : ByteArray := prog_9_method_13_code
def yX3_common : MethodName := ⟨RX3, "common", "(II)I"⟩
def dkwX3_common_0 : List UInt8 := [26, 61, 27, 62, 29, 153, 0, 16, 28, 29, 112, 54, 4, 29, 61, 21, 4, 62, 167, 255, 242, 28, 172]
abbrev dktX3_common_0 : List UInt8 := dkwX3_common_0 ++ []
theorem dksX3_common_0 : cX3_common.data.toList.drop 0 = dktX3_common_0 := by decide +kernel
theorem dX3_common_0 : decode cX3_common 0 = .ok (.iload_n 0, 1) := dk_26 (dk_at dksX3_common_0 0 rfl rfl)
theorem dX3_common_1 : decode cX3_common 1 = .ok (.istore_n 2, 1) := dk_61 (dk_at dksX3_common_0 1 rfl rfl)
theorem dX3_common_2 : decode cX3_common 2 = .ok (.iload_n 1, 1) := dk_27 (dk_at dksX3_common_0 2 rfl rfl)
theorem dX3_common_3 : decode cX3_common 3 = .ok (.istore_n 3, 1) := dk_62 (dk_at dksX3_common_0 3 rfl rfl)
theorem dX3_common_4 : decode cX3_common 4 = .ok (.iload_n 3, 1) := dk_29 (dk_at dksX3_common_0 4 rfl rfl)
theorem dX3_common_5 : decode cX3_common 5 = .ok (.ifCond .eq 16, 3) := dk_153 0 16 (dk_at dksX3_common_0 5 rfl rfl)
theorem dX3_common_8 : decode cX3_common 8 = .ok (.iload_n 2, 1) := dk_28 (dk_at dksX3_common_0 8 rfl rfl)
theorem dX3_common_9 : decode cX3_common 9 = .ok (.iload_n 3, 1) := dk_29 (dk_at dksX3_common_0 9 rfl rfl)
theorem dX3_common_10 : decode cX3_common 10 = .ok (.irem, 1) := dk_112 (dk_at dksX3_common_0 10 rfl rfl)
theorem dX3_common_11 : decode cX3_common 11 = .ok (.istore 4, 2) := dk_54 4 (dk_at dksX3_common_0 11 rfl rfl)
theorem dX3_common_13 : decode cX3_common 13 = .ok (.iload_n 3, 1) := dk_29 (dk_at dksX3_common_0 13 rfl rfl)
theorem dX3_common_14 : decode cX3_common 14 = .ok (.istore_n 2, 1) := dk_61 (dk_at dksX3_common_0 14 rfl rfl)
theorem dX3_common_15 : decode cX3_common 15 = .ok (.iload 4, 2) := dk_21 4 (dk_at dksX3_common_0 15 rfl rfl)
theorem dX3_common_17 : decode cX3_common 17 = .ok (.istore_n 3, 1) := dk_62 (dk_at dksX3_common_0 17 rfl rfl)
theorem dX3_common_18 : decode cX3_common 18 = .ok (.goto (-14), 3) := dk_167 255 242 (dk_at dksX3_common_0 18 rfl rfl)
theorem dX3_common_21 : decode cX3_common 21 = .ok (.iload_n 2, 1) := dk_28 (dk_at dksX3_common_0 21 rfl rfl)
theorem dX3_common_22 : decode cX3_common 22 = .ok (.ireturn, 1) := dk_172 (dk_at dksX3_common_0 22 rfl rfl)
abbrev cX3_text : ByteArray := prog_9_method_14_code
def yX3_text : MethodName := ⟨RX3, "text", "()Ljava/lang/String;"⟩
def dkwX3_text_6 : List UInt8 := [182, 0, 62, 176]
abbrev dktX3_text_6 : List UInt8 := dkwX3_text_6 ++ []
def dkwX3_text_5 : List UInt8 := [21, 4, 4, 164, 0, 8, 18, 66, 167, 0, 5, 18, 68, 182, 0, 55, 87, 132, 3, 1, 167, 255, 134, 43]
abbrev dktX3_text_5 : List UInt8 := dkwX3_text_5 ++ dktX3_text_6
def dkwX3_text_4 : List UInt8 := [87, 28, 4, 21, 5, 120, 128, 61, 42, 180, 0, 9, 21, 5, 51, 54, 5, 132, 6, 1, 167, 255, 189, 43]
abbrev dktX3_text_4 : List UInt8 := dkwX3_text_4 ++ dktX3_text_5
def dkwX3_text_3 : List UInt8 := [154, 0, 8, 18, 51, 167, 0, 5, 18, 53, 182, 0, 55, 21, 5, 182, 0, 59, 182, 0, 62, 182, 0, 55]
abbrev dktX3_text_3 : List UInt8 := dkwX3_text_3 ++ dktX3_text_4
def dkwX3_text_2 : List UInt8 := [21, 6, 21, 4, 162, 0, 66, 21, 4, 4, 164, 0, 60, 43, 187, 0, 45, 89, 183, 0, 50, 21, 6]
abbrev dktX3_text_2 : List UInt8 := dkwX3_text_2 ++ dktX3_text_3
def dkwX3_text_1 : List UInt8 := [184, 0, 37, 153, 0, 7, 4, 167, 0, 8, 42, 29, 182, 0, 34, 54, 4, 29, 54, 5, 3, 54, 6]
abbrev dktX3_text_1 : List UInt8 := dkwX3_text_1 ++ dktX3_text_2
def dkwX3_text_0 : List UInt8 := [187, 0, 45, 89, 16, 100, 183, 0, 47, 76, 3, 61, 3, 62, 29, 16, 24, 162, 0, 122, 28, 29]
abbrev dktX3_text_0 : List UInt8 := dkwX3_text_0 ++ dktX3_text_1
theorem dksX3_text_0 : cX3_text.data.toList.drop 0 = dktX3_text_0 := by decide +kernel
theorem dksX3_text_1 : cX3_text.data.toList.drop 22 = dktX3_text_1 := dk_seg dksX3_text_0 22 rfl rfl
theorem dksX3_text_2 : cX3_text.data.toList.drop 45 = dktX3_text_2 := dk_seg dksX3_text_1 23 rfl rfl
theorem dksX3_text_3 : cX3_text.data.toList.drop 68 = dktX3_text_3 := dk_seg dksX3_text_2 23 rfl rfl
theorem dksX3_text_4 : cX3_text.data.toList.drop 92 = dktX3_text_4 := dk_seg dksX3_text_3 24 rfl rfl
theorem dksX3_text_5 : cX3_text.data.toList.drop 116 = dktX3_text_5 := dk_seg dksX3_text_4 24 rfl rfl
theorem dksX3_text_6 : cX3_text.data.toList.drop 140 = dktX3_text_6 := dk_seg dksX3_text_5 24 rfl rfl
theorem dX3_text_0 : decode cX3_text 0 = .ok (.new 45, 3) := dk_187 0 45 (dk_at dksX3_text_0 0 rfl rfl)
theorem dX3_text_3 : decode cX3_text 3 = .ok (.dup, 1) := dk_89 (dk_at dksX3_text_0 3 rfl rfl)
theorem dX3_text_4 : decode cX3_text 4 = .ok (.bipush 100, 2) := dk_16 100 (dk_at dksX3_text_0 4 rfl rfl)
theorem dX3_text_6 : decode cX3_text 6 = .ok (.invokespecial 47, 3) := dk_183 0 47 (dk_at dksX3_text_0 6 rfl rfl)
theorem dX3_text_9 : decode cX3_text 9 = .ok (.astore_n 1, 1) := dk_76 (dk_at dksX3_text_0 9 rfl rfl)
theorem dX3_text_10 : decode cX3_text 10 = .ok (.iconst 0, 1) := dk_3 (dk_at dksX3_text_0 10 rfl rfl)
theorem dX3_text_11 : decode cX3_text 11 = .ok (.istore_n 2, 1) := dk_61 (dk_at dksX3_text_0 11 rfl rfl)
theorem dX3_text_12 : decode cX3_text 12 = .ok (.iconst 0, 1) := dk_3 (dk_at dksX3_text_0 12 rfl rfl)
theorem dX3_text_13 : decode cX3_text 13 = .ok (.istore_n 3, 1) := dk_62 (dk_at dksX3_text_0 13 rfl rfl)
theorem dX3_text_14 : decode cX3_text 14 = .ok (.iload_n 3, 1) := dk_29 (dk_at dksX3_text_0 14 rfl rfl)
theorem dX3_text_15 : decode cX3_text 15 = .ok (.bipush 24, 2) := dk_16 24 (dk_at dksX3_text_0 15 rfl rfl)
theorem dX3_text_17 : decode cX3_text 17 = .ok (.if_icmp .ge 122, 3) := dk_162 0 122 (dk_at dksX3_text_0 17 rfl rfl)
theorem dX3_text_20 : decode cX3_text 20 = .ok (.iload_n 2, 1) := dk_28 (dk_at dksX3_text_0 20 rfl rfl)
theorem dX3_text_21 : decode cX3_text 21 = .ok (.iload_n 3, 1) := dk_29 (dk_at dksX3_text_0 21 rfl rfl)
theorem dX3_text_22 : decode cX3_text 22 = .ok (.invokestatic 37, 3) := dk_184 0 37 (dk_at dksX3_text_1 0 rfl rfl)
theorem dX3_text_25 : decode cX3_text 25 = .ok (.ifCond .eq 7, 3) := dk_153 0 7 (dk_at dksX3_text_1 3 rfl rfl)
theorem dX3_text_28 : decode cX3_text 28 = .ok (.iconst 1, 1) := dk_4 (dk_at dksX3_text_1 6 rfl rfl)
theorem dX3_text_29 : decode cX3_text 29 = .ok (.goto 8, 3) := dk_167 0 8 (dk_at dksX3_text_1 7 rfl rfl)
theorem dX3_text_32 : decode cX3_text 32 = .ok (.aload_n 0, 1) := dk_42 (dk_at dksX3_text_1 10 rfl rfl)
theorem dX3_text_33 : decode cX3_text 33 = .ok (.iload_n 3, 1) := dk_29 (dk_at dksX3_text_1 11 rfl rfl)
theorem dX3_text_34 : decode cX3_text 34 = .ok (.invokevirtual 34, 3) := dk_182 0 34 (dk_at dksX3_text_1 12 rfl rfl)
theorem dX3_text_37 : decode cX3_text 37 = .ok (.istore 4, 2) := dk_54 4 (dk_at dksX3_text_1 15 rfl rfl)
theorem dX3_text_39 : decode cX3_text 39 = .ok (.iload_n 3, 1) := dk_29 (dk_at dksX3_text_1 17 rfl rfl)
theorem dX3_text_40 : decode cX3_text 40 = .ok (.istore 5, 2) := dk_54 5 (dk_at dksX3_text_1 18 rfl rfl)
theorem dX3_text_42 : decode cX3_text 42 = .ok (.iconst 0, 1) := dk_3 (dk_at dksX3_text_1 20 rfl rfl)
theorem dX3_text_43 : decode cX3_text 43 = .ok (.istore 6, 2) := dk_54 6 (dk_at dksX3_text_1 21 rfl rfl)
theorem dX3_text_45 : decode cX3_text 45 = .ok (.iload 6, 2) := dk_21 6 (dk_at dksX3_text_2 0 rfl rfl)
theorem dX3_text_47 : decode cX3_text 47 = .ok (.iload 4, 2) := dk_21 4 (dk_at dksX3_text_2 2 rfl rfl)
theorem dX3_text_49 : decode cX3_text 49 = .ok (.if_icmp .ge 66, 3) := dk_162 0 66 (dk_at dksX3_text_2 4 rfl rfl)
theorem dX3_text_52 : decode cX3_text 52 = .ok (.iload 4, 2) := dk_21 4 (dk_at dksX3_text_2 7 rfl rfl)
theorem dX3_text_54 : decode cX3_text 54 = .ok (.iconst 1, 1) := dk_4 (dk_at dksX3_text_2 9 rfl rfl)
theorem dX3_text_55 : decode cX3_text 55 = .ok (.if_icmp .le 60, 3) := dk_164 0 60 (dk_at dksX3_text_2 10 rfl rfl)
theorem dX3_text_58 : decode cX3_text 58 = .ok (.aload_n 1, 1) := dk_43 (dk_at dksX3_text_2 13 rfl rfl)
theorem dX3_text_59 : decode cX3_text 59 = .ok (.new 45, 3) := dk_187 0 45 (dk_at dksX3_text_2 14 rfl rfl)
theorem dX3_text_62 : decode cX3_text 62 = .ok (.dup, 1) := dk_89 (dk_at dksX3_text_2 17 rfl rfl)
theorem dX3_text_63 : decode cX3_text 63 = .ok (.invokespecial 50, 3) := dk_183 0 50 (dk_at dksX3_text_2 18 rfl rfl)
theorem dX3_text_66 : decode cX3_text 66 = .ok (.iload 6, 2) := dk_21 6 (dk_at dksX3_text_2 21 rfl rfl)
theorem dX3_text_68 : decode cX3_text 68 = .ok (.ifCond .ne 8, 3) := dk_154 0 8 (dk_at dksX3_text_3 0 rfl rfl)
theorem dX3_text_71 : decode cX3_text 71 = .ok (.ldc 51, 2) := dk_18 51 (dk_at dksX3_text_3 3 rfl rfl)
theorem dX3_text_73 : decode cX3_text 73 = .ok (.goto 5, 3) := dk_167 0 5 (dk_at dksX3_text_3 5 rfl rfl)
theorem dX3_text_76 : decode cX3_text 76 = .ok (.ldc 53, 2) := dk_18 53 (dk_at dksX3_text_3 8 rfl rfl)
theorem dX3_text_78 : decode cX3_text 78 = .ok (.invokevirtual 55, 3) := dk_182 0 55 (dk_at dksX3_text_3 10 rfl rfl)
theorem dX3_text_81 : decode cX3_text 81 = .ok (.iload 5, 2) := dk_21 5 (dk_at dksX3_text_3 13 rfl rfl)
theorem dX3_text_83 : decode cX3_text 83 = .ok (.invokevirtual 59, 3) := dk_182 0 59 (dk_at dksX3_text_3 15 rfl rfl)
theorem dX3_text_86 : decode cX3_text 86 = .ok (.invokevirtual 62, 3) := dk_182 0 62 (dk_at dksX3_text_3 18 rfl rfl)
theorem dX3_text_89 : decode cX3_text 89 = .ok (.invokevirtual 55, 3) := dk_182 0 55 (dk_at dksX3_text_3 21 rfl rfl)
theorem dX3_text_92 : decode cX3_text 92 = .ok (.pop, 1) := dk_87 (dk_at dksX3_text_4 0 rfl rfl)
theorem dX3_text_93 : decode cX3_text 93 = .ok (.iload_n 2, 1) := dk_28 (dk_at dksX3_text_4 1 rfl rfl)
theorem dX3_text_94 : decode cX3_text 94 = .ok (.iconst 1, 1) := dk_4 (dk_at dksX3_text_4 2 rfl rfl)
theorem dX3_text_95 : decode cX3_text 95 = .ok (.iload 5, 2) := dk_21 5 (dk_at dksX3_text_4 3 rfl rfl)
theorem dX3_text_97 : decode cX3_text 97 = .ok (.ishl, 1) := dk_120 (dk_at dksX3_text_4 5 rfl rfl)
theorem dX3_text_98 : decode cX3_text 98 = .ok (.ior, 1) := dk_128 (dk_at dksX3_text_4 6 rfl rfl)
theorem dX3_text_99 : decode cX3_text 99 = .ok (.istore_n 2, 1) := dk_61 (dk_at dksX3_text_4 7 rfl rfl)
theorem dX3_text_100 : decode cX3_text 100 = .ok (.aload_n 0, 1) := dk_42 (dk_at dksX3_text_4 8 rfl rfl)
theorem dX3_text_101 : decode cX3_text 101 = .ok (.getfield 9, 3) := dk_180 0 9 (dk_at dksX3_text_4 9 rfl rfl)
theorem dX3_text_104 : decode cX3_text 104 = .ok (.iload 5, 2) := dk_21 5 (dk_at dksX3_text_4 12 rfl rfl)
theorem dX3_text_106 : decode cX3_text 106 = .ok (.baload, 1) := dk_51 (dk_at dksX3_text_4 14 rfl rfl)
theorem dX3_text_107 : decode cX3_text 107 = .ok (.istore 5, 2) := dk_54 5 (dk_at dksX3_text_4 15 rfl rfl)
theorem dX3_text_109 : decode cX3_text 109 = .ok (.iinc 6 1, 3) := dk_132 6 1 (dk_at dksX3_text_4 17 rfl rfl)
theorem dX3_text_112 : decode cX3_text 112 = .ok (.goto (-67), 3) := dk_167 255 189 (dk_at dksX3_text_4 20 rfl rfl)
theorem dX3_text_115 : decode cX3_text 115 = .ok (.aload_n 1, 1) := dk_43 (dk_at dksX3_text_4 23 rfl rfl)
theorem dX3_text_116 : decode cX3_text 116 = .ok (.iload 4, 2) := dk_21 4 (dk_at dksX3_text_5 0 rfl rfl)
theorem dX3_text_118 : decode cX3_text 118 = .ok (.iconst 1, 1) := dk_4 (dk_at dksX3_text_5 2 rfl rfl)
theorem dX3_text_119 : decode cX3_text 119 = .ok (.if_icmp .le 8, 3) := dk_164 0 8 (dk_at dksX3_text_5 3 rfl rfl)
theorem dX3_text_122 : decode cX3_text 122 = .ok (.ldc 66, 2) := dk_18 66 (dk_at dksX3_text_5 6 rfl rfl)
theorem dX3_text_124 : decode cX3_text 124 = .ok (.goto 5, 3) := dk_167 0 5 (dk_at dksX3_text_5 8 rfl rfl)
theorem dX3_text_127 : decode cX3_text 127 = .ok (.ldc 68, 2) := dk_18 68 (dk_at dksX3_text_5 11 rfl rfl)
theorem dX3_text_129 : decode cX3_text 129 = .ok (.invokevirtual 55, 3) := dk_182 0 55 (dk_at dksX3_text_5 13 rfl rfl)
theorem dX3_text_132 : decode cX3_text 132 = .ok (.pop, 1) := dk_87 (dk_at dksX3_text_5 16 rfl rfl)
theorem dX3_text_133 : decode cX3_text 133 = .ok (.iinc 3 1, 3) := dk_132 3 1 (dk_at dksX3_text_5 17 rfl rfl)
theorem dX3_text_136 : decode cX3_text 136 = .ok (.goto (-122), 3) := dk_167 255 134 (dk_at dksX3_text_5 20 rfl rfl)
theorem dX3_text_139 : decode cX3_text 139 = .ok (.aload_n 1, 1) := dk_43 (dk_at dksX3_text_5 23 rfl rfl)
theorem dX3_text_140 : decode cX3_text 140 = .ok (.invokevirtual 62, 3) := dk_182 0 62 (dk_at dksX3_text_6 0 rfl rfl)
theorem dX3_text_143 : decode cX3_text 143 = .ok (.areturn, 1) := dk_176 (dk_at dksX3_text_6 3 rfl rfl)
abbrev cX3_power : ByteArray := prog_9_method_9_code
def yX3_power : MethodName := ⟨RX3, "power", "(IZ)LEightBlocks$Move;"⟩
def dkwX3_power_3 : List UInt8 := [21, 5, 145, 84, 132, 4, 1, 167, 255, 188, 45, 182, 0, 24, 45, 176]
abbrev dktX3_power_3 : List UInt8 := dkwX3_power_3 ++ []
def dkwX3_power_2 : List UInt8 := [167, 0, 10, 42, 180, 0, 9, 21, 5, 51, 54, 5, 132, 6, 255, 167, 255, 225, 45, 180, 0, 9, 21, 4]
abbrev dktX3_power_2 : List UInt8 := dkwX3_power_2 ++ dktX3_power_3
def dkwX3_power_1 : List UInt8 := [21, 4, 182, 0, 34, 112, 54, 6, 21, 6, 158, 0, 32, 28, 153, 0, 13, 42, 180, 0, 15, 21, 5, 51]
abbrev dktX3_power_1 : List UInt8 := dkwX3_power_1 ++ dktX3_power_2
def dkwX3_power_0 : List UInt8 := [187, 0, 10, 89, 183, 0, 33, 78, 3, 54, 4, 21, 4, 16, 24, 162, 0, 67, 21, 4, 54, 5, 27, 42]
abbrev dktX3_power_0 : List UInt8 := dkwX3_power_0 ++ dktX3_power_1
theorem dksX3_power_0 : cX3_power.data.toList.drop 0 = dktX3_power_0 := by decide +kernel
theorem dksX3_power_1 : cX3_power.data.toList.drop 24 = dktX3_power_1 := dk_seg dksX3_power_0 24 rfl rfl
theorem dksX3_power_2 : cX3_power.data.toList.drop 48 = dktX3_power_2 := dk_seg dksX3_power_1 24 rfl rfl
theorem dksX3_power_3 : cX3_power.data.toList.drop 72 = dktX3_power_3 := dk_seg dksX3_power_2 24 rfl rfl
theorem dX3_power_0 : decode cX3_power 0 = .ok (.new 10, 3) := dk_187 0 10 (dk_at dksX3_power_0 0 rfl rfl)
theorem dX3_power_3 : decode cX3_power 3 = .ok (.dup, 1) := dk_89 (dk_at dksX3_power_0 3 rfl rfl)
theorem dX3_power_4 : decode cX3_power 4 = .ok (.invokespecial 33, 3) := dk_183 0 33 (dk_at dksX3_power_0 4 rfl rfl)
theorem dX3_power_7 : decode cX3_power 7 = .ok (.astore_n 3, 1) := dk_78 (dk_at dksX3_power_0 7 rfl rfl)
theorem dX3_power_8 : decode cX3_power 8 = .ok (.iconst 0, 1) := dk_3 (dk_at dksX3_power_0 8 rfl rfl)
theorem dX3_power_9 : decode cX3_power 9 = .ok (.istore 4, 2) := dk_54 4 (dk_at dksX3_power_0 9 rfl rfl)
theorem dX3_power_11 : decode cX3_power 11 = .ok (.iload 4, 2) := dk_21 4 (dk_at dksX3_power_0 11 rfl rfl)
theorem dX3_power_13 : decode cX3_power 13 = .ok (.bipush 24, 2) := dk_16 24 (dk_at dksX3_power_0 13 rfl rfl)
theorem dX3_power_15 : decode cX3_power 15 = .ok (.if_icmp .ge 67, 3) := dk_162 0 67 (dk_at dksX3_power_0 15 rfl rfl)
theorem dX3_power_18 : decode cX3_power 18 = .ok (.iload 4, 2) := dk_21 4 (dk_at dksX3_power_0 18 rfl rfl)
theorem dX3_power_20 : decode cX3_power 20 = .ok (.istore 5, 2) := dk_54 5 (dk_at dksX3_power_0 20 rfl rfl)
theorem dX3_power_22 : decode cX3_power 22 = .ok (.iload_n 1, 1) := dk_27 (dk_at dksX3_power_0 22 rfl rfl)
theorem dX3_power_23 : decode cX3_power 23 = .ok (.aload_n 0, 1) := dk_42 (dk_at dksX3_power_0 23 rfl rfl)
theorem dX3_power_24 : decode cX3_power 24 = .ok (.iload 4, 2) := dk_21 4 (dk_at dksX3_power_1 0 rfl rfl)
theorem dX3_power_26 : decode cX3_power 26 = .ok (.invokevirtual 34, 3) := dk_182 0 34 (dk_at dksX3_power_1 2 rfl rfl)
theorem dX3_power_29 : decode cX3_power 29 = .ok (.irem, 1) := dk_112 (dk_at dksX3_power_1 5 rfl rfl)
theorem dX3_power_30 : decode cX3_power 30 = .ok (.istore 6, 2) := dk_54 6 (dk_at dksX3_power_1 6 rfl rfl)
theorem dX3_power_32 : decode cX3_power 32 = .ok (.iload 6, 2) := dk_21 6 (dk_at dksX3_power_1 8 rfl rfl)
theorem dX3_power_34 : decode cX3_power 34 = .ok (.ifCond .le 32, 3) := dk_158 0 32 (dk_at dksX3_power_1 10 rfl rfl)
theorem dX3_power_37 : decode cX3_power 37 = .ok (.iload_n 2, 1) := dk_28 (dk_at dksX3_power_1 13 rfl rfl)
theorem dX3_power_38 : decode cX3_power 38 = .ok (.ifCond .eq 13, 3) := dk_153 0 13 (dk_at dksX3_power_1 14 rfl rfl)
theorem dX3_power_41 : decode cX3_power 41 = .ok (.aload_n 0, 1) := dk_42 (dk_at dksX3_power_1 17 rfl rfl)
theorem dX3_power_42 : decode cX3_power 42 = .ok (.getfield 15, 3) := dk_180 0 15 (dk_at dksX3_power_1 18 rfl rfl)
theorem dX3_power_45 : decode cX3_power 45 = .ok (.iload 5, 2) := dk_21 5 (dk_at dksX3_power_1 21 rfl rfl)
theorem dX3_power_47 : decode cX3_power 47 = .ok (.baload, 1) := dk_51 (dk_at dksX3_power_1 23 rfl rfl)
theorem dX3_power_48 : decode cX3_power 48 = .ok (.goto 10, 3) := dk_167 0 10 (dk_at dksX3_power_2 0 rfl rfl)
theorem dX3_power_51 : decode cX3_power 51 = .ok (.aload_n 0, 1) := dk_42 (dk_at dksX3_power_2 3 rfl rfl)
theorem dX3_power_52 : decode cX3_power 52 = .ok (.getfield 9, 3) := dk_180 0 9 (dk_at dksX3_power_2 4 rfl rfl)
theorem dX3_power_55 : decode cX3_power 55 = .ok (.iload 5, 2) := dk_21 5 (dk_at dksX3_power_2 7 rfl rfl)
theorem dX3_power_57 : decode cX3_power 57 = .ok (.baload, 1) := dk_51 (dk_at dksX3_power_2 9 rfl rfl)
theorem dX3_power_58 : decode cX3_power 58 = .ok (.istore 5, 2) := dk_54 5 (dk_at dksX3_power_2 10 rfl rfl)
theorem dX3_power_60 : decode cX3_power 60 = .ok (.iinc 6 (-1), 3) := dk_132 6 255 (dk_at dksX3_power_2 12 rfl rfl)
theorem dX3_power_63 : decode cX3_power 63 = .ok (.goto (-31), 3) := dk_167 255 225 (dk_at dksX3_power_2 15 rfl rfl)
theorem dX3_power_66 : decode cX3_power 66 = .ok (.aload_n 3, 1) := dk_45 (dk_at dksX3_power_2 18 rfl rfl)
theorem dX3_power_67 : decode cX3_power 67 = .ok (.getfield 9, 3) := dk_180 0 9 (dk_at dksX3_power_2 19 rfl rfl)
theorem dX3_power_70 : decode cX3_power 70 = .ok (.iload 4, 2) := dk_21 4 (dk_at dksX3_power_2 22 rfl rfl)
theorem dX3_power_72 : decode cX3_power 72 = .ok (.iload 5, 2) := dk_21 5 (dk_at dksX3_power_3 0 rfl rfl)
theorem dX3_power_74 : decode cX3_power 74 = .ok (.i2b, 1) := dk_145 (dk_at dksX3_power_3 2 rfl rfl)
theorem dX3_power_75 : decode cX3_power 75 = .ok (.bastore, 1) := dk_84 (dk_at dksX3_power_3 3 rfl rfl)
theorem dX3_power_76 : decode cX3_power 76 = .ok (.iinc 4 1, 3) := dk_132 4 1 (dk_at dksX3_power_3 4 rfl rfl)
theorem dX3_power_79 : decode cX3_power 79 = .ok (.goto (-68), 3) := dk_167 255 188 (dk_at dksX3_power_3 7 rfl rfl)
theorem dX3_power_82 : decode cX3_power 82 = .ok (.aload_n 3, 1) := dk_45 (dk_at dksX3_power_3 10 rfl rfl)
theorem dX3_power_83 : decode cX3_power 83 = .ok (.invokevirtual 24, 3) := dk_182 0 24 (dk_at dksX3_power_3 11 rfl rfl)
theorem dX3_power_86 : decode cX3_power 86 = .ok (.aload_n 3, 1) := dk_45 (dk_at dksX3_power_3 14 rfl rfl)
theorem dX3_power_87 : decode cX3_power 87 = .ok (.areturn, 1) := dk_176 (dk_at dksX3_power_3 15 rfl rfl)
abbrev cX3_then : ByteArray := prog_9_method_6_code
def yX3_then : MethodName := ⟨RX3, "then", "(LEightBlocks$Way;)LEightBlocks$Move;"⟩
def dkwX3_then_1 : List UInt8 := [185, 0, 18, 2, 0, 145, 84, 132, 2, 1, 167, 255, 228, 42, 182, 0, 24, 42, 176]
abbrev dktX3_then_1 : List UInt8 := dkwX3_then_1 ++ []
def dkwX3_then_0 : List UInt8 := [3, 61, 28, 16, 24, 162, 0, 28, 42, 180, 0, 9, 28, 43, 42, 180, 0, 9, 28, 51]
abbrev dktX3_then_0 : List UInt8 := dkwX3_then_0 ++ dktX3_then_1
theorem dksX3_then_0 : cX3_then.data.toList.drop 0 = dktX3_then_0 := by decide +kernel
theorem dksX3_then_1 : cX3_then.data.toList.drop 20 = dktX3_then_1 := dk_seg dksX3_then_0 20 rfl rfl
theorem dX3_then_0 : decode cX3_then 0 = .ok (.iconst 0, 1) := dk_3 (dk_at dksX3_then_0 0 rfl rfl)
theorem dX3_then_1 : decode cX3_then 1 = .ok (.istore_n 2, 1) := dk_61 (dk_at dksX3_then_0 1 rfl rfl)
theorem dX3_then_2 : decode cX3_then 2 = .ok (.iload_n 2, 1) := dk_28 (dk_at dksX3_then_0 2 rfl rfl)
theorem dX3_then_3 : decode cX3_then 3 = .ok (.bipush 24, 2) := dk_16 24 (dk_at dksX3_then_0 3 rfl rfl)
theorem dX3_then_5 : decode cX3_then 5 = .ok (.if_icmp .ge 28, 3) := dk_162 0 28 (dk_at dksX3_then_0 5 rfl rfl)
theorem dX3_then_8 : decode cX3_then 8 = .ok (.aload_n 0, 1) := dk_42 (dk_at dksX3_then_0 8 rfl rfl)
theorem dX3_then_9 : decode cX3_then 9 = .ok (.getfield 9, 3) := dk_180 0 9 (dk_at dksX3_then_0 9 rfl rfl)
theorem dX3_then_12 : decode cX3_then 12 = .ok (.iload_n 2, 1) := dk_28 (dk_at dksX3_then_0 12 rfl rfl)
theorem dX3_then_13 : decode cX3_then 13 = .ok (.aload_n 1, 1) := dk_43 (dk_at dksX3_then_0 13 rfl rfl)
theorem dX3_then_14 : decode cX3_then 14 = .ok (.aload_n 0, 1) := dk_42 (dk_at dksX3_then_0 14 rfl rfl)
theorem dX3_then_15 : decode cX3_then 15 = .ok (.getfield 9, 3) := dk_180 0 9 (dk_at dksX3_then_0 15 rfl rfl)
theorem dX3_then_18 : decode cX3_then 18 = .ok (.iload_n 2, 1) := dk_28 (dk_at dksX3_then_0 18 rfl rfl)
theorem dX3_then_19 : decode cX3_then 19 = .ok (.baload, 1) := dk_51 (dk_at dksX3_then_0 19 rfl rfl)
theorem dX3_then_20 : decode cX3_then 20 = .ok (.invokeinterface 18 2, 5) := by decide +kernel
theorem dX3_then_25 : decode cX3_then 25 = .ok (.i2b, 1) := dk_145 (dk_at dksX3_then_1 5 rfl rfl)
theorem dX3_then_26 : decode cX3_then 26 = .ok (.bastore, 1) := dk_84 (dk_at dksX3_then_1 6 rfl rfl)
theorem dX3_then_27 : decode cX3_then 27 = .ok (.iinc 2 1, 3) := dk_132 2 1 (dk_at dksX3_then_1 7 rfl rfl)
theorem dX3_then_30 : decode cX3_then 30 = .ok (.goto (-28), 3) := dk_167 255 228 (dk_at dksX3_then_1 10 rfl rfl)
theorem dX3_then_33 : decode cX3_then 33 = .ok (.aload_n 0, 1) := dk_42 (dk_at dksX3_then_1 13 rfl rfl)
theorem dX3_then_34 : decode cX3_then 34 = .ok (.invokevirtual 24, 3) := dk_182 0 24 (dk_at dksX3_then_1 14 rfl rfl)
theorem dX3_then_37 : decode cX3_then 37 = .ok (.aload_n 0, 1) := dk_42 (dk_at dksX3_then_1 17 rfl rfl)
theorem dX3_then_38 : decode cX3_then 38 = .ok (.areturn, 1) := dk_176 (dk_at dksX3_then_1 18 rfl rfl)
abbrev cX3_unlike : ByteArray := prog_9_method_11_code
def yX3_unlike : MethodName := ⟨RX3, "unlike", "(LEightBlocks$Move;)I"⟩
def dkwX3_unlike_1 : List UInt8 := [160, 0, 7, 3, 167, 0, 4, 4, 96, 61, 132, 3, 1, 167, 255, 224, 28, 172]
abbrev dktX3_unlike_1 : List UInt8 := dkwX3_unlike_1 ++ []
def dkwX3_unlike_0 : List UInt8 := [3, 61, 3, 62, 29, 16, 24, 162, 0, 32, 28, 42, 180, 0, 9, 29, 51, 43, 180, 0, 9, 29, 51]
abbrev dktX3_unlike_0 : List UInt8 := dkwX3_unlike_0 ++ dktX3_unlike_1
theorem dksX3_unlike_0 : cX3_unlike.data.toList.drop 0 = dktX3_unlike_0 := by decide +kernel
theorem dksX3_unlike_1 : cX3_unlike.data.toList.drop 23 = dktX3_unlike_1 := dk_seg dksX3_unlike_0 23 rfl rfl
theorem dX3_unlike_0 : decode cX3_unlike 0 = .ok (.iconst 0, 1) := dk_3 (dk_at dksX3_unlike_0 0 rfl rfl)
theorem dX3_unlike_1 : decode cX3_unlike 1 = .ok (.istore_n 2, 1) := dk_61 (dk_at dksX3_unlike_0 1 rfl rfl)
theorem dX3_unlike_2 : decode cX3_unlike 2 = .ok (.iconst 0, 1) := dk_3 (dk_at dksX3_unlike_0 2 rfl rfl)
theorem dX3_unlike_3 : decode cX3_unlike 3 = .ok (.istore_n 3, 1) := dk_62 (dk_at dksX3_unlike_0 3 rfl rfl)
theorem dX3_unlike_4 : decode cX3_unlike 4 = .ok (.iload_n 3, 1) := dk_29 (dk_at dksX3_unlike_0 4 rfl rfl)
theorem dX3_unlike_5 : decode cX3_unlike 5 = .ok (.bipush 24, 2) := dk_16 24 (dk_at dksX3_unlike_0 5 rfl rfl)
theorem dX3_unlike_7 : decode cX3_unlike 7 = .ok (.if_icmp .ge 32, 3) := dk_162 0 32 (dk_at dksX3_unlike_0 7 rfl rfl)
theorem dX3_unlike_10 : decode cX3_unlike 10 = .ok (.iload_n 2, 1) := dk_28 (dk_at dksX3_unlike_0 10 rfl rfl)
theorem dX3_unlike_11 : decode cX3_unlike 11 = .ok (.aload_n 0, 1) := dk_42 (dk_at dksX3_unlike_0 11 rfl rfl)
theorem dX3_unlike_12 : decode cX3_unlike 12 = .ok (.getfield 9, 3) := dk_180 0 9 (dk_at dksX3_unlike_0 12 rfl rfl)
theorem dX3_unlike_15 : decode cX3_unlike 15 = .ok (.iload_n 3, 1) := dk_29 (dk_at dksX3_unlike_0 15 rfl rfl)
theorem dX3_unlike_16 : decode cX3_unlike 16 = .ok (.baload, 1) := dk_51 (dk_at dksX3_unlike_0 16 rfl rfl)
theorem dX3_unlike_17 : decode cX3_unlike 17 = .ok (.aload_n 1, 1) := dk_43 (dk_at dksX3_unlike_0 17 rfl rfl)
theorem dX3_unlike_18 : decode cX3_unlike 18 = .ok (.getfield 9, 3) := dk_180 0 9 (dk_at dksX3_unlike_0 18 rfl rfl)
theorem dX3_unlike_21 : decode cX3_unlike 21 = .ok (.iload_n 3, 1) := dk_29 (dk_at dksX3_unlike_0 21 rfl rfl)
theorem dX3_unlike_22 : decode cX3_unlike 22 = .ok (.baload, 1) := dk_51 (dk_at dksX3_unlike_0 22 rfl rfl)
theorem dX3_unlike_23 : decode cX3_unlike 23 = .ok (.if_icmp .ne 7, 3) := dk_160 0 7 (dk_at dksX3_unlike_1 0 rfl rfl)
theorem dX3_unlike_26 : decode cX3_unlike 26 = .ok (.iconst 0, 1) := dk_3 (dk_at dksX3_unlike_1 3 rfl rfl)
theorem dX3_unlike_27 : decode cX3_unlike 27 = .ok (.goto 4, 3) := dk_167 0 4 (dk_at dksX3_unlike_1 4 rfl rfl)
theorem dX3_unlike_30 : decode cX3_unlike 30 = .ok (.iconst 1, 1) := dk_4 (dk_at dksX3_unlike_1 7 rfl rfl)
theorem dX3_unlike_31 : decode cX3_unlike 31 = .ok (.iadd, 1) := dk_96 (dk_at dksX3_unlike_1 8 rfl rfl)
theorem dX3_unlike_32 : decode cX3_unlike 32 = .ok (.istore_n 2, 1) := dk_61 (dk_at dksX3_unlike_1 9 rfl rfl)
theorem dX3_unlike_33 : decode cX3_unlike 33 = .ok (.iinc 3 1, 3) := dk_132 3 1 (dk_at dksX3_unlike_1 10 rfl rfl)
theorem dX3_unlike_36 : decode cX3_unlike 36 = .ok (.goto (-32), 3) := dk_167 255 224 (dk_at dksX3_unlike_1 13 rfl rfl)
theorem dX3_unlike_39 : decode cX3_unlike 39 = .ok (.iload_n 2, 1) := dk_28 (dk_at dksX3_unlike_1 16 rfl rfl)
theorem dX3_unlike_40 : decode cX3_unlike 40 = .ok (.ireturn, 1) := dk_172 (dk_at dksX3_unlike_1 17 rfl rfl)
abbrev cX3_thenBack : ByteArray := prog_9_method_7_code
def yX3_thenBack : MethodName := ⟨RX3, "thenBack", "(LEightBlocks$Move;)V"⟩
def dkwX3_thenBack_1 : List UInt8 := [84, 132, 2, 1, 167, 255, 230, 177]
abbrev dktX3_thenBack_1 : List UInt8 := dkwX3_thenBack_1 ++ []
def dkwX3_thenBack_0 : List UInt8 := [3, 61, 28, 16, 24, 162, 0, 26, 42, 180, 0, 9, 28, 43, 180, 0, 15, 42, 180, 0, 9, 28, 51, 51]
abbrev dktX3_thenBack_0 : List UInt8 := dkwX3_thenBack_0 ++ dktX3_thenBack_1
theorem dksX3_thenBack_0 : cX3_thenBack.data.toList.drop 0 = dktX3_thenBack_0 := by decide +kernel
theorem dksX3_thenBack_1 : cX3_thenBack.data.toList.drop 24 = dktX3_thenBack_1 := dk_seg dksX3_thenBack_0 24 rfl rfl
theorem dX3_thenBack_0 : decode cX3_thenBack 0 = .ok (.iconst 0, 1) := dk_3 (dk_at dksX3_thenBack_0 0 rfl rfl)
theorem dX3_thenBack_1 : decode cX3_thenBack 1 = .ok (.istore_n 2, 1) := dk_61 (dk_at dksX3_thenBack_0 1 rfl rfl)
theorem dX3_thenBack_2 : decode cX3_thenBack 2 = .ok (.iload_n 2, 1) := dk_28 (dk_at dksX3_thenBack_0 2 rfl rfl)
theorem dX3_thenBack_3 : decode cX3_thenBack 3 = .ok (.bipush 24, 2) := dk_16 24 (dk_at dksX3_thenBack_0 3 rfl rfl)
theorem dX3_thenBack_5 : decode cX3_thenBack 5 = .ok (.if_icmp .ge 26, 3) := dk_162 0 26 (dk_at dksX3_thenBack_0 5 rfl rfl)
theorem dX3_thenBack_8 : decode cX3_thenBack 8 = .ok (.aload_n 0, 1) := dk_42 (dk_at dksX3_thenBack_0 8 rfl rfl)
theorem dX3_thenBack_9 : decode cX3_thenBack 9 = .ok (.getfield 9, 3) := dk_180 0 9 (dk_at dksX3_thenBack_0 9 rfl rfl)
theorem dX3_thenBack_12 : decode cX3_thenBack 12 = .ok (.iload_n 2, 1) := dk_28 (dk_at dksX3_thenBack_0 12 rfl rfl)
theorem dX3_thenBack_13 : decode cX3_thenBack 13 = .ok (.aload_n 1, 1) := dk_43 (dk_at dksX3_thenBack_0 13 rfl rfl)
theorem dX3_thenBack_14 : decode cX3_thenBack 14 = .ok (.getfield 15, 3) := dk_180 0 15 (dk_at dksX3_thenBack_0 14 rfl rfl)
theorem dX3_thenBack_17 : decode cX3_thenBack 17 = .ok (.aload_n 0, 1) := dk_42 (dk_at dksX3_thenBack_0 17 rfl rfl)
theorem dX3_thenBack_18 : decode cX3_thenBack 18 = .ok (.getfield 9, 3) := dk_180 0 9 (dk_at dksX3_thenBack_0 18 rfl rfl)
theorem dX3_thenBack_21 : decode cX3_thenBack 21 = .ok (.iload_n 2, 1) := dk_28 (dk_at dksX3_thenBack_0 21 rfl rfl)
theorem dX3_thenBack_22 : decode cX3_thenBack 22 = .ok (.baload, 1) := dk_51 (dk_at dksX3_thenBack_0 22 rfl rfl)
theorem dX3_thenBack_23 : decode cX3_thenBack 23 = .ok (.baload, 1) := dk_51 (dk_at dksX3_thenBack_0 23 rfl rfl)
theorem dX3_thenBack_24 : decode cX3_thenBack 24 = .ok (.bastore, 1) := dk_84 (dk_at dksX3_thenBack_1 0 rfl rfl)
theorem dX3_thenBack_25 : decode cX3_thenBack 25 = .ok (.iinc 2 1, 3) := dk_132 2 1 (dk_at dksX3_thenBack_1 1 rfl rfl)
theorem dX3_thenBack_28 : decode cX3_thenBack 28 = .ok (.goto (-26), 3) := dk_167 255 230 (dk_at dksX3_thenBack_1 4 rfl rfl)
theorem dX3_thenBack_31 : decode cX3_thenBack 31 = .ok (.return_, 1) := dk_177 (dk_at dksX3_thenBack_1 7 rfl rfl)
abbrev cX3_from : ByteArray := prog_9_method_3_code
def yX3_from : MethodName := ⟨RX3, "from", "(I)I"⟩
def dkwX3_from_0 : List UInt8 := [42, 180, 0, 15, 27, 51, 172]
abbrev dktX3_from_0 : List UInt8 := dkwX3_from_0 ++ []
theorem dksX3_from_0 : cX3_from.data.toList.drop 0 = dktX3_from_0 := by decide +kernel
theorem dX3_from_0 : decode cX3_from 0 = .ok (.aload_n 0, 1) := dk_42 (dk_at dksX3_from_0 0 rfl rfl)
theorem dX3_from_1 : decode cX3_from 1 = .ok (.getfield 15, 3) := dk_180 0 15 (dk_at dksX3_from_0 1 rfl rfl)
theorem dX3_from_4 : decode cX3_from 4 = .ok (.iload_n 1, 1) := dk_27 (dk_at dksX3_from_0 4 rfl rfl)
theorem dX3_from_5 : decode cX3_from 5 = .ok (.baload, 1) := dk_51 (dk_at dksX3_from_0 5 rfl rfl)
theorem dX3_from_6 : decode cX3_from 6 = .ok (.ireturn, 1) := dk_172 (dk_at dksX3_from_0 6 rfl rfl)
abbrev cX3_behind : ByteArray := prog_9_method_8_code
def yX3_behind : MethodName := ⟨RX3, "behind", "(LEightBlocks$Move;)V"⟩
def dkwX3_behind_2 : List UInt8 := [182, 0, 24, 177]
abbrev dktX3_behind_2 : List UInt8 := dkwX3_behind_2 ++ []
def dkwX3_behind_1 : List UInt8 := [84, 132, 2, 1, 167, 255, 230, 42, 180, 0, 15, 3, 42, 180, 0, 9, 3, 16, 24, 184, 0, 27, 42]
abbrev dktX3_behind_1 : List UInt8 := dkwX3_behind_1 ++ dktX3_behind_2
def dkwX3_behind_0 : List UInt8 := [3, 61, 28, 16, 24, 162, 0, 26, 42, 180, 0, 15, 28, 42, 180, 0, 9, 43, 180, 0, 9, 28, 51, 51]
abbrev dktX3_behind_0 : List UInt8 := dkwX3_behind_0 ++ dktX3_behind_1
theorem dksX3_behind_0 : cX3_behind.data.toList.drop 0 = dktX3_behind_0 := by decide +kernel
theorem dksX3_behind_1 : cX3_behind.data.toList.drop 24 = dktX3_behind_1 := dk_seg dksX3_behind_0 24 rfl rfl
theorem dksX3_behind_2 : cX3_behind.data.toList.drop 47 = dktX3_behind_2 := dk_seg dksX3_behind_1 23 rfl rfl
theorem dX3_behind_0 : decode cX3_behind 0 = .ok (.iconst 0, 1) := dk_3 (dk_at dksX3_behind_0 0 rfl rfl)
theorem dX3_behind_1 : decode cX3_behind 1 = .ok (.istore_n 2, 1) := dk_61 (dk_at dksX3_behind_0 1 rfl rfl)
theorem dX3_behind_2 : decode cX3_behind 2 = .ok (.iload_n 2, 1) := dk_28 (dk_at dksX3_behind_0 2 rfl rfl)
theorem dX3_behind_3 : decode cX3_behind 3 = .ok (.bipush 24, 2) := dk_16 24 (dk_at dksX3_behind_0 3 rfl rfl)
theorem dX3_behind_5 : decode cX3_behind 5 = .ok (.if_icmp .ge 26, 3) := dk_162 0 26 (dk_at dksX3_behind_0 5 rfl rfl)
theorem dX3_behind_8 : decode cX3_behind 8 = .ok (.aload_n 0, 1) := dk_42 (dk_at dksX3_behind_0 8 rfl rfl)
theorem dX3_behind_9 : decode cX3_behind 9 = .ok (.getfield 15, 3) := dk_180 0 15 (dk_at dksX3_behind_0 9 rfl rfl)
theorem dX3_behind_12 : decode cX3_behind 12 = .ok (.iload_n 2, 1) := dk_28 (dk_at dksX3_behind_0 12 rfl rfl)
theorem dX3_behind_13 : decode cX3_behind 13 = .ok (.aload_n 0, 1) := dk_42 (dk_at dksX3_behind_0 13 rfl rfl)
theorem dX3_behind_14 : decode cX3_behind 14 = .ok (.getfield 9, 3) := dk_180 0 9 (dk_at dksX3_behind_0 14 rfl rfl)
theorem dX3_behind_17 : decode cX3_behind 17 = .ok (.aload_n 1, 1) := dk_43 (dk_at dksX3_behind_0 17 rfl rfl)
theorem dX3_behind_18 : decode cX3_behind 18 = .ok (.getfield 9, 3) := dk_180 0 9 (dk_at dksX3_behind_0 18 rfl rfl)
theorem dX3_behind_21 : decode cX3_behind 21 = .ok (.iload_n 2, 1) := dk_28 (dk_at dksX3_behind_0 21 rfl rfl)
theorem dX3_behind_22 : decode cX3_behind 22 = .ok (.baload, 1) := dk_51 (dk_at dksX3_behind_0 22 rfl rfl)
theorem dX3_behind_23 : decode cX3_behind 23 = .ok (.baload, 1) := dk_51 (dk_at dksX3_behind_0 23 rfl rfl)
theorem dX3_behind_24 : decode cX3_behind 24 = .ok (.bastore, 1) := dk_84 (dk_at dksX3_behind_1 0 rfl rfl)
theorem dX3_behind_25 : decode cX3_behind 25 = .ok (.iinc 2 1, 3) := dk_132 2 1 (dk_at dksX3_behind_1 1 rfl rfl)
theorem dX3_behind_28 : decode cX3_behind 28 = .ok (.goto (-26), 3) := dk_167 255 230 (dk_at dksX3_behind_1 4 rfl rfl)
theorem dX3_behind_31 : decode cX3_behind 31 = .ok (.aload_n 0, 1) := dk_42 (dk_at dksX3_behind_1 7 rfl rfl)
theorem dX3_behind_32 : decode cX3_behind 32 = .ok (.getfield 15, 3) := dk_180 0 15 (dk_at dksX3_behind_1 8 rfl rfl)
theorem dX3_behind_35 : decode cX3_behind 35 = .ok (.iconst 0, 1) := dk_3 (dk_at dksX3_behind_1 11 rfl rfl)
theorem dX3_behind_36 : decode cX3_behind 36 = .ok (.aload_n 0, 1) := dk_42 (dk_at dksX3_behind_1 12 rfl rfl)
theorem dX3_behind_37 : decode cX3_behind 37 = .ok (.getfield 9, 3) := dk_180 0 9 (dk_at dksX3_behind_1 13 rfl rfl)
theorem dX3_behind_40 : decode cX3_behind 40 = .ok (.iconst 0, 1) := dk_3 (dk_at dksX3_behind_1 16 rfl rfl)
theorem dX3_behind_41 : decode cX3_behind 41 = .ok (.bipush 24, 2) := dk_16 24 (dk_at dksX3_behind_1 17 rfl rfl)
theorem dX3_behind_43 : decode cX3_behind 43 = .ok (.invokestatic 27, 3) := dk_184 0 27 (dk_at dksX3_behind_1 19 rfl rfl)
theorem dX3_behind_46 : decode cX3_behind 46 = .ok (.aload_n 0, 1) := dk_42 (dk_at dksX3_behind_1 22 rfl rfl)
theorem dX3_behind_47 : decode cX3_behind 47 = .ok (.invokevirtual 24, 3) := dk_182 0 24 (dk_at dksX3_behind_2 0 rfl rfl)
theorem dX3_behind_50 : decode cX3_behind 50 = .ok (.return_, 1) := dk_177 (dk_at dksX3_behind_2 3 rfl rfl)
theorem q103 : (Jvm.Cond.initialized "EightBlocks$Move") ∈ lw_all := lw_g (lw_at lw_m1 8 rfl) rfl
theorem q243 : (Jvm.Cond.instantiable "EightBlocks$Move" (2 : Nat)) ∈ lw_all := lw_g (lw_at lw_m1 148 rfl) rfl
theorem q245 : (Jvm.Cond.instanceMethod ({ cls := "EightBlocks$Move", name := "<init>", desc := "()V" } : Jvm.MethodName)) ∈ lw_all := lw_g (lw_at lw_m1 150 rfl) rfl
theorem q246 : (Jvm.Cond.code ({ cls := "EightBlocks$Move", name := "<init>", desc := "()V" } : Jvm.MethodName) prog_9_method_1_code (1 : Nat) (Option.none : Option Jvm.ClassFile.FieldType)) ∈ lw_all := lw_g (lw_at lw_m1 151 rfl) rfl
theorem q247 : (Jvm.Cond.methodLink "EightBlocks$Move" (3 : Nat) ({ cls := "java/lang/Object", name := "<init>", desc := "()V" } : Jvm.MethodName)) ∈ lw_all := lw_g (lw_at lw_m1 152 rfl) rfl
theorem q248 : (Jvm.Cond.fieldLink "EightBlocks$Move" (9 : Nat) "EightBlocks$Move" "ahead" "[B") ∈ lw_all := lw_g (lw_at lw_m1 153 rfl) rfl
theorem q250 : (Jvm.Cond.fieldLink "EightBlocks$Move" (15 : Nat) "EightBlocks$Move" "back" "[B") ∈ lw_all := lw_g (lw_at lw_m1 155 rfl) rfl
theorem q251 : (Jvm.Cond.laysFinal "EightBlocks$Move" "EightBlocks$Move" "ahead" "[B") ∈ lw_all := lw_g (lw_at lw_m1 156 rfl) rfl
theorem q252 : (Jvm.Cond.soleField "EightBlocks$Move" "ahead") ∈ lw_all := lw_g (lw_at lw_m1 157 rfl) rfl
theorem q253 : (Jvm.Cond.laysFinal "EightBlocks$Move" "EightBlocks$Move" "back" "[B") ∈ lw_all := lw_g (lw_at lw_m1 158 rfl) rfl
theorem q254 : (Jvm.Cond.soleField "EightBlocks$Move" "back") ∈ lw_all := lw_g (lw_at lw_m1 159 rfl) rfl
theorem q255 : (Jvm.Cond.superclass "EightBlocks$Move" "java/lang/Object") ∈ lw_all := lw_g (lw_at lw_m1 160 rfl) rfl
theorem q636 : (Jvm.Cond.instanceMethod ({ cls := "EightBlocks$Move", name := "take", desc := "(LEightBlocks$Way;)LEightBlocks$Move;" } : Jvm.MethodName)) ∈ lw_all := lw_g (lw_at lw_m3 61 rfl) rfl
theorem q637 : (Jvm.Cond.selects "EightBlocks$Move" ({ cls := "EightBlocks$Move", name := "take", desc := "(LEightBlocks$Way;)LEightBlocks$Move;" } : Jvm.MethodName) ({ cls := "EightBlocks$Move", name := "take", desc := "(LEightBlocks$Way;)LEightBlocks$Move;" } : Jvm.MethodName)) ∈ lw_all := lw_g (lw_at lw_m3 62 rfl) rfl
theorem q638 : (Jvm.Cond.code ({ cls := "EightBlocks$Move", name := "take", desc := "(LEightBlocks$Way;)LEightBlocks$Move;" } : Jvm.MethodName) prog_9_method_5_code (3 : Nat) (Option.some (Jvm.ClassFile.FieldType.object "EightBlocks$Move"))) ∈ lw_all := lw_g (lw_at lw_m3 63 rfl) rfl
theorem q639 : (Jvm.Cond.interfaceEntry "EightBlocks$Move" (18 : Nat)) ∈ lw_tbl := lw_at lw_m3 64 rfl
theorem q640 : (Jvm.Cond.methodLink "EightBlocks$Move" (18 : Nat) ({ cls := "EightBlocks$Way", name := "to", desc := "(I)I" } : Jvm.MethodName)) ∈ lw_all := lw_g (lw_at lw_m3 65 rfl) rfl
theorem q643 : (Jvm.Cond.castable "EightBlocks$Move" "EightBlocks$Way") ∈ lw_tbl := lw_at lw_m3 68 rfl
theorem q644 : (Jvm.Cond.selects "EightBlocks$Move" ({ cls := "EightBlocks$Way", name := "to", desc := "(I)I" } : Jvm.MethodName) ({ cls := "EightBlocks$Move", name := "to", desc := "(I)I" } : Jvm.MethodName)) ∈ lw_all := lw_g (lw_at lw_m3 69 rfl) rfl
theorem q645 : (Jvm.Cond.unhidden "EightBlocks$Move" "to" "(I)I") ∈ lw_tbl := lw_at lw_m3 70 rfl
theorem q646 : (Jvm.Cond.instanceMethod ({ cls := "EightBlocks$Move", name := "to", desc := "(I)I" } : Jvm.MethodName)) ∈ lw_all := lw_g (lw_at lw_m3 71 rfl) rfl
theorem q647 : (Jvm.Cond.publicMethod ({ cls := "EightBlocks$Move", name := "to", desc := "(I)I" } : Jvm.MethodName)) ∈ lw_tbl := lw_at lw_m3 72 rfl
theorem q648 : (Jvm.Cond.code ({ cls := "EightBlocks$Move", name := "to", desc := "(I)I" } : Jvm.MethodName) prog_9_method_2_code (2 : Nat) (Option.some Jvm.ClassFile.FieldType.int)) ∈ lw_all := lw_g (lw_at lw_m3 73 rfl) rfl
theorem q688 : (Jvm.Cond.methodLink "EightBlocks$Move" (24 : Nat) ({ cls := "EightBlocks$Move", name := "turnBack", desc := "()V" } : Jvm.MethodName)) ∈ lw_all := lw_g (lw_at lw_m3 113 rfl) rfl
theorem q689 : (Jvm.Cond.privateMethod ({ cls := "EightBlocks$Move", name := "turnBack", desc := "()V" } : Jvm.MethodName)) ∈ lw_tbl := lw_at lw_m3 114 rfl
theorem q690 : (Jvm.Cond.instanceMethod ({ cls := "EightBlocks$Move", name := "turnBack", desc := "()V" } : Jvm.MethodName)) ∈ lw_all := lw_g (lw_at lw_m3 115 rfl) rfl
theorem q691 : (Jvm.Cond.code ({ cls := "EightBlocks$Move", name := "turnBack", desc := "()V" } : Jvm.MethodName) prog_9_method_4_code (2 : Nat) (Option.none : Option Jvm.ClassFile.FieldType)) ∈ lw_all := lw_g (lw_at lw_m3 116 rfl) rfl
theorem q830 : (Jvm.Cond.unhidden "EightBlocks$Move" "over" "(I)I") ∈ lw_tbl := lw_at lw_m4 15 rfl
theorem q838 : (Jvm.Cond.instanceMethod ({ cls := "EightBlocks$Move", name := "staying", desc := "()I" } : Jvm.MethodName)) ∈ lw_all := lw_g (lw_at lw_m4 23 rfl) rfl
theorem q839 : (Jvm.Cond.selects "EightBlocks$Move" ({ cls := "EightBlocks$Move", name := "staying", desc := "()I" } : Jvm.MethodName) ({ cls := "EightBlocks$Move", name := "staying", desc := "()I" } : Jvm.MethodName)) ∈ lw_all := lw_g (lw_at lw_m4 24 rfl) rfl
theorem q840 : (Jvm.Cond.code ({ cls := "EightBlocks$Move", name := "staying", desc := "()I" } : Jvm.MethodName) prog_9_method_10_code (3 : Nat) (Option.some Jvm.ClassFile.FieldType.int)) ∈ lw_all := lw_g (lw_at lw_m4 25 rfl) rfl
theorem q842 : (Jvm.Cond.instanceMethod ({ cls := "EightBlocks$Move", name := "rings", desc := "(I)I" } : Jvm.MethodName)) ∈ lw_all := lw_g (lw_at lw_m4 27 rfl) rfl
theorem q843 : (Jvm.Cond.selects "EightBlocks$Move" ({ cls := "EightBlocks$Move", name := "rings", desc := "(I)I" } : Jvm.MethodName) ({ cls := "EightBlocks$Move", name := "rings", desc := "(I)I" } : Jvm.MethodName)) ∈ lw_all := lw_g (lw_at lw_m4 28 rfl) rfl
theorem q844 : (Jvm.Cond.code ({ cls := "EightBlocks$Move", name := "rings", desc := "(I)I" } : Jvm.MethodName) prog_9_method_12_code (9 : Nat) (Option.some Jvm.ClassFile.FieldType.int)) ∈ lw_all := lw_g (lw_at lw_m4 29 rfl) rfl
theorem q845 : (Jvm.Cond.methodLinkNest "EightBlocks$Move" (37 : Nat) ({ cls := "EightBlocks", name := "has", desc := "(II)Z" } : Jvm.MethodName) "EightBlocks") ∈ lw_tbl := lw_at lw_m4 30 rfl
theorem q847 : (Jvm.Cond.unhidden "EightBlocks$Move" "round" "(I)I") ∈ lw_tbl := lw_at lw_m4 32 rfl
theorem q851 : (Jvm.Cond.methodLink "EightBlocks$Move" (41 : Nat) ({ cls := "EightBlocks$Move", name := "common", desc := "(II)I" } : Jvm.MethodName)) ∈ lw_all := lw_g (lw_at lw_m4 36 rfl) rfl
theorem q852 : (Jvm.Cond.static ({ cls := "EightBlocks$Move", name := "common", desc := "(II)I" } : Jvm.MethodName)) ∈ lw_all := lw_g (lw_at lw_m4 37 rfl) rfl
theorem q853 : (Jvm.Cond.code ({ cls := "EightBlocks$Move", name := "common", desc := "(II)I" } : Jvm.MethodName) prog_9_method_13_code (5 : Nat) (Option.some Jvm.ClassFile.FieldType.int)) ∈ lw_all := lw_g (lw_at lw_m4 38 rfl) rfl
theorem q864 : (Jvm.Cond.instanceMethod ({ cls := "EightBlocks$Move", name := "text", desc := "()Ljava/lang/String;" } : Jvm.MethodName)) ∈ lw_all := lw_g (lw_at lw_m4 49 rfl) rfl
theorem q865 : (Jvm.Cond.selects "EightBlocks$Move" ({ cls := "EightBlocks$Move", name := "text", desc := "()Ljava/lang/String;" } : Jvm.MethodName) ({ cls := "EightBlocks$Move", name := "text", desc := "()Ljava/lang/String;" } : Jvm.MethodName)) ∈ lw_all := lw_g (lw_at lw_m4 50 rfl) rfl
theorem q866 : (Jvm.Cond.code ({ cls := "EightBlocks$Move", name := "text", desc := "()Ljava/lang/String;" } : Jvm.MethodName) prog_9_method_14_code (7 : Nat) (Option.some (Jvm.ClassFile.FieldType.object "java/lang/String"))) ∈ lw_all := lw_g (lw_at lw_m4 51 rfl) rfl
theorem q867 : (Jvm.Cond.classLink "EightBlocks$Move" (45 : Nat) "java/lang/StringBuilder") ∈ lw_all := lw_g (lw_at lw_m4 52 rfl) rfl
theorem q868 : (Jvm.Cond.methodLink "EightBlocks$Move" (47 : Nat) ({ cls := "java/lang/StringBuilder", name := "<init>", desc := "(I)V" } : Jvm.MethodName)) ∈ lw_all := lw_g (lw_at lw_m4 53 rfl) rfl
theorem q869 : (Jvm.Cond.methodLink "EightBlocks$Move" (50 : Nat) ({ cls := "java/lang/StringBuilder", name := "<init>", desc := "()V" } : Jvm.MethodName)) ∈ lw_all := lw_g (lw_at lw_m4 54 rfl) rfl
theorem q872 : (Jvm.Cond.stringRef "EightBlocks$Move" (51 : Nat) "(") ∈ lw_tbl := lw_at lw_m4 57 rfl
theorem q873 : (Jvm.Cond.stringRef "EightBlocks$Move" (53 : Nat) ",") ∈ lw_tbl := lw_at lw_m4 58 rfl
theorem q874 : (Jvm.Cond.methodLink "EightBlocks$Move" (55 : Nat) ({ cls := "java/lang/StringBuilder", name := "append", desc := "(Ljava/lang/String;)Ljava/lang/StringBuilder;" } : Jvm.MethodName)) ∈ lw_all := lw_g (lw_at lw_m4 59 rfl) rfl
theorem q982 : (Jvm.Cond.methodLink "EightBlocks$Move" (59 : Nat) ({ cls := "java/lang/StringBuilder", name := "append", desc := "(I)Ljava/lang/StringBuilder;" } : Jvm.MethodName)) ∈ lw_all := lw_g (lw_at lw_m4 167 rfl) rfl
theorem q1007 : (Jvm.Cond.methodLink "EightBlocks$Move" (62 : Nat) ({ cls := "java/lang/StringBuilder", name := "toString", desc := "()Ljava/lang/String;" } : Jvm.MethodName)) ∈ lw_all := lw_g (lw_at lw_m4 192 rfl) rfl
theorem q1066 : (Jvm.Cond.stringRef "EightBlocks$Move" (66 : Nat) ")") ∈ lw_tbl := lw_at lw_m5 11 rfl
theorem q1067 : (Jvm.Cond.stringRef "EightBlocks$Move" (68 : Nat) "") ∈ lw_tbl := lw_at lw_m5 12 rfl
theorem q1270 : (Jvm.Cond.instanceMethod ({ cls := "EightBlocks$Move", name := "power", desc := "(IZ)LEightBlocks$Move;" } : Jvm.MethodName)) ∈ lw_all := lw_g (lw_at lw_m5 215 rfl) rfl
theorem q1271 : (Jvm.Cond.selects "EightBlocks$Move" ({ cls := "EightBlocks$Move", name := "power", desc := "(IZ)LEightBlocks$Move;" } : Jvm.MethodName) ({ cls := "EightBlocks$Move", name := "power", desc := "(IZ)LEightBlocks$Move;" } : Jvm.MethodName)) ∈ lw_all := lw_g (lw_at lw_m5 216 rfl) rfl
theorem q1272 : (Jvm.Cond.code ({ cls := "EightBlocks$Move", name := "power", desc := "(IZ)LEightBlocks$Move;" } : Jvm.MethodName) prog_9_method_9_code (7 : Nat) (Option.some (Jvm.ClassFile.FieldType.object "EightBlocks$Move"))) ∈ lw_all := lw_g (lw_at lw_m5 217 rfl) rfl
theorem q1273 : (Jvm.Cond.classLink "EightBlocks$Move" (10 : Nat) "EightBlocks$Move") ∈ lw_all := lw_g (lw_at lw_m5 218 rfl) rfl
theorem q1274 : (Jvm.Cond.methodLink "EightBlocks$Move" (33 : Nat) ({ cls := "EightBlocks$Move", name := "<init>", desc := "()V" } : Jvm.MethodName)) ∈ lw_all := lw_g (lw_at lw_m5 219 rfl) rfl
theorem q1276 : (Jvm.Cond.instanceMethod ({ cls := "EightBlocks$Move", name := "then", desc := "(LEightBlocks$Way;)LEightBlocks$Move;" } : Jvm.MethodName)) ∈ lw_all := lw_g (lw_at lw_m5 221 rfl) rfl
theorem q1277 : (Jvm.Cond.selects "EightBlocks$Move" ({ cls := "EightBlocks$Move", name := "then", desc := "(LEightBlocks$Way;)LEightBlocks$Move;" } : Jvm.MethodName) ({ cls := "EightBlocks$Move", name := "then", desc := "(LEightBlocks$Way;)LEightBlocks$Move;" } : Jvm.MethodName)) ∈ lw_all := lw_g (lw_at lw_m5 222 rfl) rfl
theorem q1278 : (Jvm.Cond.code ({ cls := "EightBlocks$Move", name := "then", desc := "(LEightBlocks$Way;)LEightBlocks$Move;" } : Jvm.MethodName) prog_9_method_6_code (3 : Nat) (Option.some (Jvm.ClassFile.FieldType.object "EightBlocks$Move"))) ∈ lw_all := lw_g (lw_at lw_m5 223 rfl) rfl
theorem q1353 : (Jvm.Cond.instanceMethod ({ cls := "EightBlocks$Move", name := "unlike", desc := "(LEightBlocks$Move;)I" } : Jvm.MethodName)) ∈ lw_all := lw_g (lw_at lw_m6 58 rfl) rfl
theorem q1354 : (Jvm.Cond.selects "EightBlocks$Move" ({ cls := "EightBlocks$Move", name := "unlike", desc := "(LEightBlocks$Move;)I" } : Jvm.MethodName) ({ cls := "EightBlocks$Move", name := "unlike", desc := "(LEightBlocks$Move;)I" } : Jvm.MethodName)) ∈ lw_all := lw_g (lw_at lw_m6 59 rfl) rfl
theorem q1355 : (Jvm.Cond.code ({ cls := "EightBlocks$Move", name := "unlike", desc := "(LEightBlocks$Move;)I" } : Jvm.MethodName) prog_9_method_11_code (4 : Nat) (Option.some Jvm.ClassFile.FieldType.int)) ∈ lw_all := lw_g (lw_at lw_m6 60 rfl) rfl
theorem q1426 : (Jvm.Cond.instanceMethod ({ cls := "EightBlocks$Move", name := "thenBack", desc := "(LEightBlocks$Move;)V" } : Jvm.MethodName)) ∈ lw_all := lw_g (lw_at lw_m6 131 rfl) rfl
theorem q1427 : (Jvm.Cond.selects "EightBlocks$Move" ({ cls := "EightBlocks$Move", name := "thenBack", desc := "(LEightBlocks$Move;)V" } : Jvm.MethodName) ({ cls := "EightBlocks$Move", name := "thenBack", desc := "(LEightBlocks$Move;)V" } : Jvm.MethodName)) ∈ lw_all := lw_g (lw_at lw_m6 132 rfl) rfl
theorem q1428 : (Jvm.Cond.code ({ cls := "EightBlocks$Move", name := "thenBack", desc := "(LEightBlocks$Move;)V" } : Jvm.MethodName) prog_9_method_7_code (3 : Nat) (Option.none : Option Jvm.ClassFile.FieldType)) ∈ lw_all := lw_g (lw_at lw_m6 133 rfl) rfl
theorem q1677 : (Jvm.Cond.instanceMethod ({ cls := "EightBlocks$Move", name := "from", desc := "(I)I" } : Jvm.MethodName)) ∈ lw_all := lw_g (lw_at lw_m7 142 rfl) rfl
theorem q1678 : (Jvm.Cond.selects "EightBlocks$Move" ({ cls := "EightBlocks$Move", name := "from", desc := "(I)I" } : Jvm.MethodName) ({ cls := "EightBlocks$Move", name := "from", desc := "(I)I" } : Jvm.MethodName)) ∈ lw_all := lw_g (lw_at lw_m7 143 rfl) rfl
theorem q1679 : (Jvm.Cond.code ({ cls := "EightBlocks$Move", name := "from", desc := "(I)I" } : Jvm.MethodName) prog_9_method_3_code (2 : Nat) (Option.some Jvm.ClassFile.FieldType.int)) ∈ lw_all := lw_g (lw_at lw_m7 144 rfl) rfl
theorem q1681 : (Jvm.Cond.instanceMethod ({ cls := "EightBlocks$Move", name := "behind", desc := "(LEightBlocks$Move;)V" } : Jvm.MethodName)) ∈ lw_all := lw_g (lw_at lw_m7 146 rfl) rfl
theorem q1682 : (Jvm.Cond.selects "EightBlocks$Move" ({ cls := "EightBlocks$Move", name := "behind", desc := "(LEightBlocks$Move;)V" } : Jvm.MethodName) ({ cls := "EightBlocks$Move", name := "behind", desc := "(LEightBlocks$Move;)V" } : Jvm.MethodName)) ∈ lw_all := lw_g (lw_at lw_m7 147 rfl) rfl
theorem q1683 : (Jvm.Cond.code ({ cls := "EightBlocks$Move", name := "behind", desc := "(LEightBlocks$Move;)V" } : Jvm.MethodName) prog_9_method_8_code (3 : Nat) (Option.none : Option Jvm.ClassFile.FieldType)) ∈ lw_all := lw_g (lw_at lw_m7 148 rfl) rfl
theorem q1684 : (Jvm.Cond.methodLink "EightBlocks$Move" (27 : Nat) ({ cls := "java/lang/System", name := "arraycopy", desc := "(Ljava/lang/Object;ILjava/lang/Object;II)V" } : Jvm.MethodName)) ∈ lw_all := lw_g (lw_at lw_m7 149 rfl) rfl
theorem q2328 : (Jvm.Cond.selects "EightBlocks$Move" ({ cls := "EightBlocks$Move", name := "to", desc := "(I)I" } : Jvm.MethodName) ({ cls := "EightBlocks$Move", name := "to", desc := "(I)I" } : Jvm.MethodName)) ∈ lw_all := lw_g (lw_at lw_m10 73 rfl) rfl
theorem in_X3 : ∀ w ∈ wsX30, w ∈ lw_all := lw_in wsX30 [251, 253] (by decide +kernel) (by decide +kernel)

/-! EightBlocks$Tape -/
set_option maxRecDepth 100000
def RX4 : String := "EightBlocks$Tape"
def TX4 : u_T := fun k => match k with
  | 0 => ("EightBlocks$Tape", "text", "Ljava/lang/StringBuilder;", true)
  | _ => ("EightBlocks$Tape", "at", "I", false)
def tyX4 : Nat → FieldType := fun k => match k with
  | 0 => .object "java/lang/StringBuilder"
  | _ => .int
abbrev wsX40 : List Cond := u_ws RX4 TX4 2
theorem nmX4 : ∀ a, a < 2 → ∀ b, b < 2 → a ≠ b → (TX4 a).2.1 ≠ (TX4 b).2.1 := by decide +kernel
theorem tyX4_ok : ∀ k, k < 2 → parseFieldDescriptor (TX4 k).2.2.1 = some (tyX4 k) := by decide +kernel
abbrev cX4_init : ByteArray := prog_18_method_1_code
def yX4_init : MethodName := ⟨RX4, "<init>", "()V"⟩
def dkwX4_init_0 : List UInt8 := [42, 183, 0, 3, 42, 187, 0, 9, 89, 16, 100, 183, 0, 11, 181, 0, 14, 177]
abbrev dktX4_init_0 : List UInt8 := dkwX4_init_0 ++ []
theorem dksX4_init_0 : cX4_init.data.toList.drop 0 = dktX4_init_0 := by decide +kernel
theorem dX4_init_0 : decode cX4_init 0 = .ok (.aload_n 0, 1) := dk_42 (dk_at dksX4_init_0 0 rfl rfl)
theorem dX4_init_1 : decode cX4_init 1 = .ok (.invokespecial 3, 3) := dk_183 0 3 (dk_at dksX4_init_0 1 rfl rfl)
theorem dX4_init_4 : decode cX4_init 4 = .ok (.aload_n 0, 1) := dk_42 (dk_at dksX4_init_0 4 rfl rfl)
theorem dX4_init_5 : decode cX4_init 5 = .ok (.new 9, 3) := dk_187 0 9 (dk_at dksX4_init_0 5 rfl rfl)
theorem dX4_init_8 : decode cX4_init 8 = .ok (.dup, 1) := dk_89 (dk_at dksX4_init_0 8 rfl rfl)
theorem dX4_init_9 : decode cX4_init 9 = .ok (.bipush 100, 2) := dk_16 100 (dk_at dksX4_init_0 9 rfl rfl)
theorem dX4_init_11 : decode cX4_init 11 = .ok (.invokespecial 11, 3) := dk_183 0 11 (dk_at dksX4_init_0 11 rfl rfl)
theorem dX4_init_14 : decode cX4_init 14 = .ok (.putfield 14, 3) := dk_181 0 14 (dk_at dksX4_init_0 14 rfl rfl)
theorem dX4_init_17 : decode cX4_init 17 = .ok (.return_, 1) := dk_177 (dk_at dksX4_init_0 17 rfl rfl)
abbrev cX4_text : ByteArray := prog_18_method_2_code
def yX4_text : MethodName := ⟨RX4, "text", "()Ljava/lang/CharSequence;"⟩
theorem dX4_text_0 : decode cX4_text 0 = .ok (.aload_n 0, 1) := by decide +kernel
theorem dX4_text_1 : decode cX4_text 1 = .ok (.getfield 14, 3) := by decide +kernel
theorem dX4_text_4 : decode cX4_text 4 = .ok (.areturn, 1) := by decide +kernel
abbrev cX4_at : ByteArray := prog_18_method_3_code
def yX4_at : MethodName := ⟨RX4, "at", "()I"⟩
theorem dX4_at_0 : decode cX4_at 0 = .ok (.aload_n 0, 1) := by decide +kernel
theorem dX4_at_1 : decode cX4_at 1 = .ok (.getfield 20, 3) := by decide +kernel
theorem dX4_at_4 : decode cX4_at 4 = .ok (.ireturn, 1) := by decide +kernel
abbrev cX4_goOn : ByteArray := prog_18_method_4_code
def yX4_goOn : MethodName := ⟨RX4, "goOn", "(I)V"⟩
def dkwX4_goOn_0 : List UInt8 := [42, 27, 181, 0, 20, 177]
abbrev dktX4_goOn_0 : List UInt8 := dkwX4_goOn_0 ++ []
theorem dksX4_goOn_0 : cX4_goOn.data.toList.drop 0 = dktX4_goOn_0 := by decide +kernel
theorem dX4_goOn_0 : decode cX4_goOn 0 = .ok (.aload_n 0, 1) := dk_42 (dk_at dksX4_goOn_0 0 rfl rfl)
theorem dX4_goOn_1 : decode cX4_goOn 1 = .ok (.iload_n 1, 1) := dk_27 (dk_at dksX4_goOn_0 1 rfl rfl)
theorem dX4_goOn_2 : decode cX4_goOn 2 = .ok (.putfield 20, 3) := dk_181 0 20 (dk_at dksX4_goOn_0 2 rfl rfl)
theorem dX4_goOn_5 : decode cX4_goOn 5 = .ok (.return_, 1) := dk_177 (dk_at dksX4_goOn_0 5 rfl rfl)
theorem q104 : (Jvm.Cond.initialized "EightBlocks$Tape") ∈ lw_all := lw_g (lw_at lw_m1 9 rfl) rfl
theorem q272 : (Jvm.Cond.instantiable "EightBlocks$Tape" (2 : Nat)) ∈ lw_all := lw_g (lw_at lw_m1 177 rfl) rfl
theorem q274 : (Jvm.Cond.instanceMethod ({ cls := "EightBlocks$Tape", name := "<init>", desc := "()V" } : Jvm.MethodName)) ∈ lw_all := lw_g (lw_at lw_m1 179 rfl) rfl
theorem q275 : (Jvm.Cond.code ({ cls := "EightBlocks$Tape", name := "<init>", desc := "()V" } : Jvm.MethodName) prog_18_method_1_code (1 : Nat) (Option.none : Option Jvm.ClassFile.FieldType)) ∈ lw_all := lw_g (lw_at lw_m1 180 rfl) rfl
theorem q276 : (Jvm.Cond.methodLink "EightBlocks$Tape" (3 : Nat) ({ cls := "java/lang/Object", name := "<init>", desc := "()V" } : Jvm.MethodName)) ∈ lw_all := lw_g (lw_at lw_m1 181 rfl) rfl
theorem q277 : (Jvm.Cond.classLink "EightBlocks$Tape" (9 : Nat) "java/lang/StringBuilder") ∈ lw_all := lw_g (lw_at lw_m1 182 rfl) rfl
theorem q279 : (Jvm.Cond.methodLink "EightBlocks$Tape" (11 : Nat) ({ cls := "java/lang/StringBuilder", name := "<init>", desc := "(I)V" } : Jvm.MethodName)) ∈ lw_all := lw_g (lw_at lw_m1 184 rfl) rfl
theorem q390 : (Jvm.Cond.fieldLink "EightBlocks$Tape" (14 : Nat) "EightBlocks$Tape" "text" "Ljava/lang/StringBuilder;") ∈ lw_all := lw_g (lw_at lw_m2 55 rfl) rfl
theorem q392 : (Jvm.Cond.fieldLink "EightBlocks$Tape" (20 : Nat) "EightBlocks$Tape" "at" "I") ∈ lw_all := lw_g (lw_at lw_m2 57 rfl) rfl
theorem q394 : (Jvm.Cond.laysFinal "EightBlocks$Tape" "EightBlocks$Tape" "text" "Ljava/lang/StringBuilder;") ∈ lw_all := lw_g (lw_at lw_m2 59 rfl) rfl
theorem q395 : (Jvm.Cond.soleField "EightBlocks$Tape" "text") ∈ lw_all := lw_g (lw_at lw_m2 60 rfl) rfl
theorem q396 : (Jvm.Cond.lays "EightBlocks$Tape" "EightBlocks$Tape" "at" "I") ∈ lw_all := lw_g (lw_at lw_m2 61 rfl) rfl
theorem q397 : (Jvm.Cond.soleField "EightBlocks$Tape" "at") ∈ lw_all := lw_g (lw_at lw_m2 62 rfl) rfl
theorem q398 : (Jvm.Cond.superclass "EightBlocks$Tape" "java/lang/Object") ∈ lw_all := lw_g (lw_at lw_m2 63 rfl) rfl
theorem q1163 : (Jvm.Cond.unhidden "EightBlocks$Tape" "next" "()I") ∈ lw_tbl := lw_at lw_m5 108 rfl
theorem q1171 : (Jvm.Cond.castable "EightBlocks$Tape" "EightBlocks$Letters") ∈ lw_tbl := lw_at lw_m5 116 rfl
theorem q1172 : (Jvm.Cond.selects "EightBlocks$Tape" ({ cls := "EightBlocks$Letters", name := "text", desc := "()Ljava/lang/CharSequence;" } : Jvm.MethodName) ({ cls := "EightBlocks$Tape", name := "text", desc := "()Ljava/lang/CharSequence;" } : Jvm.MethodName)) ∈ lw_all := lw_g (lw_at lw_m5 117 rfl) rfl
theorem q1173 : (Jvm.Cond.unhidden "EightBlocks$Tape" "text" "()Ljava/lang/CharSequence;") ∈ lw_tbl := lw_at lw_m5 118 rfl
theorem q1174 : (Jvm.Cond.instanceMethod ({ cls := "EightBlocks$Tape", name := "text", desc := "()Ljava/lang/CharSequence;" } : Jvm.MethodName)) ∈ lw_all := lw_g (lw_at lw_m5 119 rfl) rfl
theorem q1175 : (Jvm.Cond.publicMethod ({ cls := "EightBlocks$Tape", name := "text", desc := "()Ljava/lang/CharSequence;" } : Jvm.MethodName)) ∈ lw_tbl := lw_at lw_m5 120 rfl
theorem q1176 : (Jvm.Cond.code ({ cls := "EightBlocks$Tape", name := "text", desc := "()Ljava/lang/CharSequence;" } : Jvm.MethodName) prog_18_method_2_code (1 : Nat) (Option.some (Jvm.ClassFile.FieldType.object "java/lang/CharSequence"))) ∈ lw_all := lw_g (lw_at lw_m5 121 rfl) rfl
theorem q1181 : (Jvm.Cond.selects "EightBlocks$Tape" ({ cls := "EightBlocks$Letters", name := "at", desc := "()I" } : Jvm.MethodName) ({ cls := "EightBlocks$Tape", name := "at", desc := "()I" } : Jvm.MethodName)) ∈ lw_all := lw_g (lw_at lw_m5 126 rfl) rfl
theorem q1182 : (Jvm.Cond.unhidden "EightBlocks$Tape" "at" "()I") ∈ lw_tbl := lw_at lw_m5 127 rfl
theorem q1183 : (Jvm.Cond.instanceMethod ({ cls := "EightBlocks$Tape", name := "at", desc := "()I" } : Jvm.MethodName)) ∈ lw_all := lw_g (lw_at lw_m5 128 rfl) rfl
theorem q1184 : (Jvm.Cond.publicMethod ({ cls := "EightBlocks$Tape", name := "at", desc := "()I" } : Jvm.MethodName)) ∈ lw_tbl := lw_at lw_m5 129 rfl
theorem q1185 : (Jvm.Cond.code ({ cls := "EightBlocks$Tape", name := "at", desc := "()I" } : Jvm.MethodName) prog_18_method_3_code (1 : Nat) (Option.some Jvm.ClassFile.FieldType.int)) ∈ lw_all := lw_g (lw_at lw_m5 130 rfl) rfl
theorem q1197 : (Jvm.Cond.selects "EightBlocks$Tape" ({ cls := "EightBlocks$Letters", name := "goOn", desc := "(I)V" } : Jvm.MethodName) ({ cls := "EightBlocks$Tape", name := "goOn", desc := "(I)V" } : Jvm.MethodName)) ∈ lw_all := lw_g (lw_at lw_m5 142 rfl) rfl
theorem q1198 : (Jvm.Cond.unhidden "EightBlocks$Tape" "goOn" "(I)V") ∈ lw_tbl := lw_at lw_m5 143 rfl
theorem q1199 : (Jvm.Cond.instanceMethod ({ cls := "EightBlocks$Tape", name := "goOn", desc := "(I)V" } : Jvm.MethodName)) ∈ lw_all := lw_g (lw_at lw_m5 144 rfl) rfl
theorem q1200 : (Jvm.Cond.publicMethod ({ cls := "EightBlocks$Tape", name := "goOn", desc := "(I)V" } : Jvm.MethodName)) ∈ lw_tbl := lw_at lw_m5 145 rfl
theorem q1201 : (Jvm.Cond.code ({ cls := "EightBlocks$Tape", name := "goOn", desc := "(I)V" } : Jvm.MethodName) prog_18_method_4_code (2 : Nat) (Option.none : Option Jvm.ClassFile.FieldType)) ∈ lw_all := lw_g (lw_at lw_m5 146 rfl) rfl
theorem q1206 : (Jvm.Cond.unhidden "EightBlocks$Tape" "here" "()I") ∈ lw_tbl := lw_at lw_m5 151 rfl
theorem q1211 : (Jvm.Cond.unhidden "EightBlocks$Tape" "isName" "()Z") ∈ lw_tbl := lw_at lw_m5 156 rfl
theorem q1235 : (Jvm.Cond.unhidden "EightBlocks$Tape" "isSign" "(I)Z") ∈ lw_tbl := lw_at lw_m5 180 rfl
theorem q1253 : (Jvm.Cond.unhidden "EightBlocks$Tape" "isFigure" "()Z") ∈ lw_tbl := lw_at lw_m5 198 rfl
theorem q2340 : (Jvm.Cond.selects "EightBlocks$Tape" ({ cls := "EightBlocks$Tape", name := "at", desc := "()I" } : Jvm.MethodName) ({ cls := "EightBlocks$Tape", name := "at", desc := "()I" } : Jvm.MethodName)) ∈ lw_all := lw_g (lw_at lw_m10 85 rfl) rfl
theorem q2341 : (Jvm.Cond.selects "EightBlocks$Tape" ({ cls := "EightBlocks$Tape", name := "goOn", desc := "(I)V" } : Jvm.MethodName) ({ cls := "EightBlocks$Tape", name := "goOn", desc := "(I)V" } : Jvm.MethodName)) ∈ lw_all := lw_g (lw_at lw_m10 86 rfl) rfl
theorem in_X4 : ∀ w ∈ wsX40, w ∈ lw_all := lw_in wsX40 [394, 396] (by decide +kernel) (by decide +kernel)

/-! EightBlocks$Fault -/
set_option maxRecDepth 100000
def RX5 : String := "EightBlocks$Fault"
def TX5 : u_T := fun k => match k with
  | 0 => ("java/lang/Throwable", "cause", "Ljava/lang/Throwable;", false)
  | 1 => ("java/lang/Throwable", "stackTrace", "[Ljava/lang/StackTraceElement;", false)
  | 2 => ("java/lang/Throwable", "suppressedExceptions", "Ljava/util/List;", false)
  | 3 => ("java/lang/Throwable", "detailMessage", "Ljava/lang/String;", false)
  | 4 => ("java/lang/Throwable", "backtrace", "Ljava/lang/Object;", false)
  | 5 => ("java/lang/Throwable", "depth", "I", false)
  | _ => ("EightBlocks$Fault", "place", "I", false)
def tyX5 : Nat → FieldType := fun k => match k with
  | 0 => .object "java/lang/Throwable"
  | 1 => .array (.object "java/lang/StackTraceElement")
  | 2 => .object "java/util/List"
  | 3 => .object "java/lang/String"
  | 4 => .object "java/lang/Object"
  | 5 => .int
  | _ => .int
abbrev wsX50 : List Cond := u_ws RX5 TX5 7
theorem nmX5 : ∀ a, a < 7 → ∀ b, b < 7 → a ≠ b → (TX5 a).2.1 ≠ (TX5 b).2.1 := by decide +kernel
theorem tyX5_ok : ∀ k, k < 7 → parseFieldDescriptor (TX5 k).2.2.1 = some (tyX5 k) := by decide +kernel
abbrev cX5_init : ByteArray := prog_4_method_1_code
def yX5_init : MethodName := ⟨RX5, "<init>", "()V"⟩
def dkwX5_init_0 : List UInt8 := [42, 1, 1, 3, 3, 183, 0, 1, 177]
abbrev dktX5_init_0 : List UInt8 := dkwX5_init_0 ++ []
theorem dksX5_init_0 : cX5_init.data.toList.drop 0 = dktX5_init_0 := by decide +kernel
theorem dX5_init_0 : decode cX5_init 0 = .ok (.aload_n 0, 1) := dk_42 (dk_at dksX5_init_0 0 rfl rfl)
theorem dX5_init_1 : decode cX5_init 1 = .ok (.aconst_null, 1) := dk_1 (dk_at dksX5_init_0 1 rfl rfl)
theorem dX5_init_2 : decode cX5_init 2 = .ok (.aconst_null, 1) := dk_1 (dk_at dksX5_init_0 2 rfl rfl)
theorem dX5_init_3 : decode cX5_init 3 = .ok (.iconst 0, 1) := dk_3 (dk_at dksX5_init_0 3 rfl rfl)
theorem dX5_init_4 : decode cX5_init 4 = .ok (.iconst 0, 1) := dk_3 (dk_at dksX5_init_0 4 rfl rfl)
theorem dX5_init_5 : decode cX5_init 5 = .ok (.invokespecial 1, 3) := dk_183 0 1 (dk_at dksX5_init_0 5 rfl rfl)
theorem dX5_init_8 : decode cX5_init 8 = .ok (.return_, 1) := dk_177 (dk_at dksX5_init_0 8 rfl rfl)
theorem q113 : (Jvm.Cond.initialized "EightBlocks$Fault") ∈ lw_all := lw_g (lw_at lw_m1 18 rfl) rfl
theorem q327 : (Jvm.Cond.selects "EightBlocks$Fault" ({ cls := "java/lang/Throwable", name := "fillInStackTrace", desc := "()Ljava/lang/Throwable;" } : Jvm.MethodName) ({ cls := "java/lang/Throwable", name := "fillInStackTrace", desc := "()Ljava/lang/Throwable;" } : Jvm.MethodName)) ∈ lw_all := lw_g (lw_at lw_m1 232 rfl) rfl
theorem q400 : (Jvm.Cond.instantiable "EightBlocks$Fault" (7 : Nat)) ∈ lw_all := lw_g (lw_at lw_m2 65 rfl) rfl
theorem q401 : (Jvm.Cond.castable "EightBlocks$Fault" "EightBlocks$Fault") ∈ lw_tbl := lw_at lw_m2 66 rfl
theorem q402 : (Jvm.Cond.selects "EightBlocks$Fault" ({ cls := "java/lang/Throwable", name := "fillInStackTrace", desc := "(I)Ljava/lang/Throwable;" } : Jvm.MethodName) ({ cls := "java/lang/Throwable", name := "fillInStackTrace", desc := "(I)Ljava/lang/Throwable;" } : Jvm.MethodName)) ∈ lw_all := lw_g (lw_at lw_m2 67 rfl) rfl
theorem q403 : (Jvm.Cond.lays "EightBlocks$Fault" "java/lang/Throwable" "cause" "Ljava/lang/Throwable;") ∈ lw_all := lw_g (lw_at lw_m2 68 rfl) rfl
theorem q404 : (Jvm.Cond.lays "EightBlocks$Fault" "java/lang/Throwable" "stackTrace" "[Ljava/lang/StackTraceElement;") ∈ lw_all := lw_g (lw_at lw_m2 69 rfl) rfl
theorem q405 : (Jvm.Cond.lays "EightBlocks$Fault" "java/lang/Throwable" "suppressedExceptions" "Ljava/util/List;") ∈ lw_all := lw_g (lw_at lw_m2 70 rfl) rfl
theorem q406 : (Jvm.Cond.lays "EightBlocks$Fault" "java/lang/Throwable" "detailMessage" "Ljava/lang/String;") ∈ lw_all := lw_g (lw_at lw_m2 71 rfl) rfl
theorem q407 : (Jvm.Cond.lays "EightBlocks$Fault" "java/lang/Throwable" "backtrace" "Ljava/lang/Object;") ∈ lw_all := lw_g (lw_at lw_m2 72 rfl) rfl
theorem q409 : (Jvm.Cond.instanceMethod ({ cls := "EightBlocks$Fault", name := "<init>", desc := "()V" } : Jvm.MethodName)) ∈ lw_all := lw_g (lw_at lw_m2 74 rfl) rfl
theorem q410 : (Jvm.Cond.code ({ cls := "EightBlocks$Fault", name := "<init>", desc := "()V" } : Jvm.MethodName) prog_4_method_1_code (1 : Nat) (Option.none : Option Jvm.ClassFile.FieldType)) ∈ lw_all := lw_g (lw_at lw_m2 75 rfl) rfl
theorem q411 : (Jvm.Cond.methodLink "EightBlocks$Fault" (1 : Nat) ({ cls := "java/lang/Exception", name := "<init>", desc := "(Ljava/lang/String;Ljava/lang/Throwable;ZZ)V" } : Jvm.MethodName)) ∈ lw_all := lw_g (lw_at lw_m2 76 rfl) rfl
theorem q418 : (Jvm.Cond.lays "EightBlocks$Fault" "EightBlocks$Fault" "place" "I") ∈ lw_all := lw_g (lw_at lw_m2 83 rfl) rfl
theorem q419 : (Jvm.Cond.soleField "EightBlocks$Fault" "place") ∈ lw_all := lw_g (lw_at lw_m2 84 rfl) rfl
theorem q420 : (Jvm.Cond.lays "EightBlocks$Fault" "java/lang/Throwable" "depth" "I") ∈ lw_all := lw_g (lw_at lw_m2 85 rfl) rfl
theorem q421 : (Jvm.Cond.superclass "EightBlocks$Fault" "java/lang/Exception") ∈ lw_all := lw_g (lw_at lw_m2 86 rfl) rfl
theorem in_X5 : ∀ w ∈ wsX50, w ∈ lw_all := lw_in wsX50 [403, 404, 405, 406, 407, 420, 418] (by decide +kernel) (by decide +kernel)

/-! EightBlocks$Chain -/
set_option maxRecDepth 100000
def RX6 : String := "EightBlocks$Chain"
def TX6 : u_T := fun k => match k with
  | 0 => ("EightBlocks$Chain", "levels", "[LEightBlocks$Level;", true)
  | 1 => ("EightBlocks$Chain", "gens", "[LEightBlocks$Move;", true)
  | 2 => ("EightBlocks$Chain", "depths", "[I", true)
  | 3 => ("EightBlocks$Chain", "many", "I", false)
  | 4 => ("EightBlocks$Chain", "got", "LEightBlocks$Move;", true)
  | _ => ("EightBlocks$Chain", "same", "LEightBlocks$Same;", true)
def tyX6 : Nat → FieldType := fun k => match k with
  | 0 => .array (.object "EightBlocks$Level")
  | 1 => .array (.object "EightBlocks$Move")
  | 2 => .array .int
  | 3 => .int
  | 4 => .object "EightBlocks$Move"
  | _ => .object "EightBlocks$Same"
abbrev wsX60 : List Cond := u_ws RX6 TX6 6
theorem nmX6 : ∀ a, a < 6 → ∀ b, b < 6 → a ≠ b → (TX6 a).2.1 ≠ (TX6 b).2.1 := by decide +kernel
theorem tyX6_ok : ∀ k, k < 6 → parseFieldDescriptor (TX6 k).2.2.1 = some (tyX6 k) := by decide +kernel
abbrev cX6_init : ByteArray := prog_2_method_1_code
def yX6_init : MethodName := ⟨RX6, "<init>", "()V"⟩
def dkwX6_init_3 : List UInt8 := [183, 0, 39, 83, 132, 1, 1, 167, 255, 234, 177]
abbrev dktX6_init_3 : List UInt8 := dkwX6_init_3 ++ []
def dkwX6_init_2 : List UInt8 := [183, 0, 34, 181, 0, 35, 3, 60, 27, 16, 24, 162, 0, 22, 42, 180, 0, 11, 27, 187, 0, 9, 89]
abbrev dktX6_init_2 : List UInt8 := dkwX6_init_2 ++ dktX6_init_3
def dkwX6_init_1 : List UInt8 := [17, 1, 44, 188, 10, 181, 0, 23, 42, 187, 0, 17, 89, 183, 0, 27, 181, 0, 28, 42, 187, 0, 32, 89]
abbrev dktX6_init_1 : List UInt8 := dkwX6_init_1 ++ dktX6_init_2
def dkwX6_init_0 : List UInt8 := [42, 183, 0, 3, 42, 16, 24, 189, 0, 9, 181, 0, 11, 42, 17, 1, 44, 189, 0, 17, 181, 0, 19, 42]
abbrev dktX6_init_0 : List UInt8 := dkwX6_init_0 ++ dktX6_init_1
theorem dksX6_init_0 : cX6_init.data.toList.drop 0 = dktX6_init_0 := by decide +kernel
theorem dksX6_init_1 : cX6_init.data.toList.drop 24 = dktX6_init_1 := dk_seg dksX6_init_0 24 rfl rfl
theorem dksX6_init_2 : cX6_init.data.toList.drop 48 = dktX6_init_2 := dk_seg dksX6_init_1 24 rfl rfl
theorem dksX6_init_3 : cX6_init.data.toList.drop 71 = dktX6_init_3 := dk_seg dksX6_init_2 23 rfl rfl
theorem dX6_init_0 : decode cX6_init 0 = .ok (.aload_n 0, 1) := dk_42 (dk_at dksX6_init_0 0 rfl rfl)
theorem dX6_init_1 : decode cX6_init 1 = .ok (.invokespecial 3, 3) := dk_183 0 3 (dk_at dksX6_init_0 1 rfl rfl)
theorem dX6_init_4 : decode cX6_init 4 = .ok (.aload_n 0, 1) := dk_42 (dk_at dksX6_init_0 4 rfl rfl)
theorem dX6_init_5 : decode cX6_init 5 = .ok (.bipush 24, 2) := dk_16 24 (dk_at dksX6_init_0 5 rfl rfl)
theorem dX6_init_7 : decode cX6_init 7 = .ok (.anewarray 9, 3) := dk_189 0 9 (dk_at dksX6_init_0 7 rfl rfl)
theorem dX6_init_10 : decode cX6_init 10 = .ok (.putfield 11, 3) := dk_181 0 11 (dk_at dksX6_init_0 10 rfl rfl)
theorem dX6_init_13 : decode cX6_init 13 = .ok (.aload_n 0, 1) := dk_42 (dk_at dksX6_init_0 13 rfl rfl)
theorem dX6_init_14 : decode cX6_init 14 = .ok (.sipush 300, 3) := dk_17 1 44 (dk_at dksX6_init_0 14 rfl rfl)
theorem dX6_init_17 : decode cX6_init 17 = .ok (.anewarray 17, 3) := dk_189 0 17 (dk_at dksX6_init_0 17 rfl rfl)
theorem dX6_init_20 : decode cX6_init 20 = .ok (.putfield 19, 3) := dk_181 0 19 (dk_at dksX6_init_0 20 rfl rfl)
theorem dX6_init_23 : decode cX6_init 23 = .ok (.aload_n 0, 1) := dk_42 (dk_at dksX6_init_0 23 rfl rfl)
theorem dX6_init_24 : decode cX6_init 24 = .ok (.sipush 300, 3) := dk_17 1 44 (dk_at dksX6_init_1 0 rfl rfl)
theorem dX6_init_27 : decode cX6_init 27 = .ok (.newarray .int, 2) := dk_188_10 (dk_at dksX6_init_1 3 rfl rfl)
theorem dX6_init_29 : decode cX6_init 29 = .ok (.putfield 23, 3) := dk_181 0 23 (dk_at dksX6_init_1 5 rfl rfl)
theorem dX6_init_32 : decode cX6_init 32 = .ok (.aload_n 0, 1) := dk_42 (dk_at dksX6_init_1 8 rfl rfl)
theorem dX6_init_33 : decode cX6_init 33 = .ok (.new 17, 3) := dk_187 0 17 (dk_at dksX6_init_1 9 rfl rfl)
theorem dX6_init_36 : decode cX6_init 36 = .ok (.dup, 1) := dk_89 (dk_at dksX6_init_1 12 rfl rfl)
theorem dX6_init_37 : decode cX6_init 37 = .ok (.invokespecial 27, 3) := dk_183 0 27 (dk_at dksX6_init_1 13 rfl rfl)
theorem dX6_init_40 : decode cX6_init 40 = .ok (.putfield 28, 3) := dk_181 0 28 (dk_at dksX6_init_1 16 rfl rfl)
theorem dX6_init_43 : decode cX6_init 43 = .ok (.aload_n 0, 1) := dk_42 (dk_at dksX6_init_1 19 rfl rfl)
theorem dX6_init_44 : decode cX6_init 44 = .ok (.new 32, 3) := dk_187 0 32 (dk_at dksX6_init_1 20 rfl rfl)
theorem dX6_init_47 : decode cX6_init 47 = .ok (.dup, 1) := dk_89 (dk_at dksX6_init_1 23 rfl rfl)
theorem dX6_init_48 : decode cX6_init 48 = .ok (.invokespecial 34, 3) := dk_183 0 34 (dk_at dksX6_init_2 0 rfl rfl)
theorem dX6_init_51 : decode cX6_init 51 = .ok (.putfield 35, 3) := dk_181 0 35 (dk_at dksX6_init_2 3 rfl rfl)
theorem dX6_init_54 : decode cX6_init 54 = .ok (.iconst 0, 1) := dk_3 (dk_at dksX6_init_2 6 rfl rfl)
theorem dX6_init_55 : decode cX6_init 55 = .ok (.istore_n 1, 1) := dk_60 (dk_at dksX6_init_2 7 rfl rfl)
theorem dX6_init_56 : decode cX6_init 56 = .ok (.iload_n 1, 1) := dk_27 (dk_at dksX6_init_2 8 rfl rfl)
theorem dX6_init_57 : decode cX6_init 57 = .ok (.bipush 24, 2) := dk_16 24 (dk_at dksX6_init_2 9 rfl rfl)
theorem dX6_init_59 : decode cX6_init 59 = .ok (.if_icmp .ge 22, 3) := dk_162 0 22 (dk_at dksX6_init_2 11 rfl rfl)
theorem dX6_init_62 : decode cX6_init 62 = .ok (.aload_n 0, 1) := dk_42 (dk_at dksX6_init_2 14 rfl rfl)
theorem dX6_init_63 : decode cX6_init 63 = .ok (.getfield 11, 3) := dk_180 0 11 (dk_at dksX6_init_2 15 rfl rfl)
theorem dX6_init_66 : decode cX6_init 66 = .ok (.iload_n 1, 1) := dk_27 (dk_at dksX6_init_2 18 rfl rfl)
theorem dX6_init_67 : decode cX6_init 67 = .ok (.new 9, 3) := dk_187 0 9 (dk_at dksX6_init_2 19 rfl rfl)
theorem dX6_init_70 : decode cX6_init 70 = .ok (.dup, 1) := dk_89 (dk_at dksX6_init_2 22 rfl rfl)
theorem dX6_init_71 : decode cX6_init 71 = .ok (.invokespecial 39, 3) := dk_183 0 39 (dk_at dksX6_init_3 0 rfl rfl)
theorem dX6_init_74 : decode cX6_init 74 = .ok (.aastore, 1) := dk_83 (dk_at dksX6_init_3 3 rfl rfl)
theorem dX6_init_75 : decode cX6_init 75 = .ok (.iinc 1 1, 3) := dk_132 1 1 (dk_at dksX6_init_3 4 rfl rfl)
theorem dX6_init_78 : decode cX6_init 78 = .ok (.goto (-22), 3) := dk_167 255 234 (dk_at dksX6_init_3 7 rfl rfl)
theorem dX6_init_81 : decode cX6_init 81 = .ok (.return_, 1) := dk_177 (dk_at dksX6_init_3 10 rfl rfl)
abbrev cX6_begin : ByteArray := prog_2_method_2_code
def yX6_begin : MethodName := ⟨RX6, "begin", "([II)V"⟩
def dkwX6_begin_3 : List UInt8 := [21, 5, 181, 0, 40, 132, 4, 1, 132, 5, 1, 167, 255, 222, 42, 3, 181, 0, 48, 177]
abbrev dktX6_begin_3 : List UInt8 := dkwX6_begin_3 ++ []
def dkwX6_begin_2 : List UInt8 := [21, 5, 16, 24, 162, 0, 33, 29, 21, 5, 184, 0, 44, 154, 0, 18, 42, 180, 0, 11, 21, 4, 50]
abbrev dktX6_begin_2 : List UInt8 := dkwX6_begin_2 ++ dktX6_begin_3
def dkwX6_begin_1 : List UInt8 := [181, 0, 40, 29, 4, 43, 21, 4, 46, 120, 128, 62, 132, 4, 1, 167, 255, 224, 28, 54, 4, 3, 54, 5]
abbrev dktX6_begin_1 : List UInt8 := dkwX6_begin_1 ++ dktX6_begin_2
def dkwX6_begin_0 : List UInt8 := [3, 62, 3, 54, 4, 21, 4, 28, 162, 0, 32, 42, 180, 0, 11, 21, 4, 50, 43, 21, 4, 46]
abbrev dktX6_begin_0 : List UInt8 := dkwX6_begin_0 ++ dktX6_begin_1
theorem dksX6_begin_0 : cX6_begin.data.toList.drop 0 = dktX6_begin_0 := by decide +kernel
theorem dksX6_begin_1 : cX6_begin.data.toList.drop 22 = dktX6_begin_1 := dk_seg dksX6_begin_0 22 rfl rfl
theorem dksX6_begin_2 : cX6_begin.data.toList.drop 46 = dktX6_begin_2 := dk_seg dksX6_begin_1 24 rfl rfl
theorem dksX6_begin_3 : cX6_begin.data.toList.drop 69 = dktX6_begin_3 := dk_seg dksX6_begin_2 23 rfl rfl
theorem dX6_begin_0 : decode cX6_begin 0 = .ok (.iconst 0, 1) := dk_3 (dk_at dksX6_begin_0 0 rfl rfl)
theorem dX6_begin_1 : decode cX6_begin 1 = .ok (.istore_n 3, 1) := dk_62 (dk_at dksX6_begin_0 1 rfl rfl)
theorem dX6_begin_2 : decode cX6_begin 2 = .ok (.iconst 0, 1) := dk_3 (dk_at dksX6_begin_0 2 rfl rfl)
theorem dX6_begin_3 : decode cX6_begin 3 = .ok (.istore 4, 2) := dk_54 4 (dk_at dksX6_begin_0 3 rfl rfl)
theorem dX6_begin_5 : decode cX6_begin 5 = .ok (.iload 4, 2) := dk_21 4 (dk_at dksX6_begin_0 5 rfl rfl)
theorem dX6_begin_7 : decode cX6_begin 7 = .ok (.iload_n 2, 1) := dk_28 (dk_at dksX6_begin_0 7 rfl rfl)
theorem dX6_begin_8 : decode cX6_begin 8 = .ok (.if_icmp .ge 32, 3) := dk_162 0 32 (dk_at dksX6_begin_0 8 rfl rfl)
theorem dX6_begin_11 : decode cX6_begin 11 = .ok (.aload_n 0, 1) := dk_42 (dk_at dksX6_begin_0 11 rfl rfl)
theorem dX6_begin_12 : decode cX6_begin 12 = .ok (.getfield 11, 3) := dk_180 0 11 (dk_at dksX6_begin_0 12 rfl rfl)
theorem dX6_begin_15 : decode cX6_begin 15 = .ok (.iload 4, 2) := dk_21 4 (dk_at dksX6_begin_0 15 rfl rfl)
theorem dX6_begin_17 : decode cX6_begin 17 = .ok (.aaload, 1) := dk_50 (dk_at dksX6_begin_0 17 rfl rfl)
theorem dX6_begin_18 : decode cX6_begin 18 = .ok (.aload_n 1, 1) := dk_43 (dk_at dksX6_begin_0 18 rfl rfl)
theorem dX6_begin_19 : decode cX6_begin 19 = .ok (.iload 4, 2) := dk_21 4 (dk_at dksX6_begin_0 19 rfl rfl)
theorem dX6_begin_21 : decode cX6_begin 21 = .ok (.iaload, 1) := dk_46 (dk_at dksX6_begin_0 21 rfl rfl)
theorem dX6_begin_22 : decode cX6_begin 22 = .ok (.putfield 40, 3) := dk_181 0 40 (dk_at dksX6_begin_1 0 rfl rfl)
theorem dX6_begin_25 : decode cX6_begin 25 = .ok (.iload_n 3, 1) := dk_29 (dk_at dksX6_begin_1 3 rfl rfl)
theorem dX6_begin_26 : decode cX6_begin 26 = .ok (.iconst 1, 1) := dk_4 (dk_at dksX6_begin_1 4 rfl rfl)
theorem dX6_begin_27 : decode cX6_begin 27 = .ok (.aload_n 1, 1) := dk_43 (dk_at dksX6_begin_1 5 rfl rfl)
theorem dX6_begin_28 : decode cX6_begin 28 = .ok (.iload 4, 2) := dk_21 4 (dk_at dksX6_begin_1 6 rfl rfl)
theorem dX6_begin_30 : decode cX6_begin 30 = .ok (.iaload, 1) := dk_46 (dk_at dksX6_begin_1 8 rfl rfl)
theorem dX6_begin_31 : decode cX6_begin 31 = .ok (.ishl, 1) := dk_120 (dk_at dksX6_begin_1 9 rfl rfl)
theorem dX6_begin_32 : decode cX6_begin 32 = .ok (.ior, 1) := dk_128 (dk_at dksX6_begin_1 10 rfl rfl)
theorem dX6_begin_33 : decode cX6_begin 33 = .ok (.istore_n 3, 1) := dk_62 (dk_at dksX6_begin_1 11 rfl rfl)
theorem dX6_begin_34 : decode cX6_begin 34 = .ok (.iinc 4 1, 3) := dk_132 4 1 (dk_at dksX6_begin_1 12 rfl rfl)
theorem dX6_begin_37 : decode cX6_begin 37 = .ok (.goto (-32), 3) := dk_167 255 224 (dk_at dksX6_begin_1 15 rfl rfl)
theorem dX6_begin_40 : decode cX6_begin 40 = .ok (.iload_n 2, 1) := dk_28 (dk_at dksX6_begin_1 18 rfl rfl)
theorem dX6_begin_41 : decode cX6_begin 41 = .ok (.istore 4, 2) := dk_54 4 (dk_at dksX6_begin_1 19 rfl rfl)
theorem dX6_begin_43 : decode cX6_begin 43 = .ok (.iconst 0, 1) := dk_3 (dk_at dksX6_begin_1 21 rfl rfl)
theorem dX6_begin_44 : decode cX6_begin 44 = .ok (.istore 5, 2) := dk_54 5 (dk_at dksX6_begin_1 22 rfl rfl)
theorem dX6_begin_46 : decode cX6_begin 46 = .ok (.iload 5, 2) := dk_21 5 (dk_at dksX6_begin_2 0 rfl rfl)
theorem dX6_begin_48 : decode cX6_begin 48 = .ok (.bipush 24, 2) := dk_16 24 (dk_at dksX6_begin_2 2 rfl rfl)
theorem dX6_begin_50 : decode cX6_begin 50 = .ok (.if_icmp .ge 33, 3) := dk_162 0 33 (dk_at dksX6_begin_2 4 rfl rfl)
theorem dX6_begin_53 : decode cX6_begin 53 = .ok (.iload_n 3, 1) := dk_29 (dk_at dksX6_begin_2 7 rfl rfl)
theorem dX6_begin_54 : decode cX6_begin 54 = .ok (.iload 5, 2) := dk_21 5 (dk_at dksX6_begin_2 8 rfl rfl)
theorem dX6_begin_56 : decode cX6_begin 56 = .ok (.invokestatic 44, 3) := dk_184 0 44 (dk_at dksX6_begin_2 10 rfl rfl)
theorem dX6_begin_59 : decode cX6_begin 59 = .ok (.ifCond .ne 18, 3) := dk_154 0 18 (dk_at dksX6_begin_2 13 rfl rfl)
theorem dX6_begin_62 : decode cX6_begin 62 = .ok (.aload_n 0, 1) := dk_42 (dk_at dksX6_begin_2 16 rfl rfl)
theorem dX6_begin_63 : decode cX6_begin 63 = .ok (.getfield 11, 3) := dk_180 0 11 (dk_at dksX6_begin_2 17 rfl rfl)
theorem dX6_begin_66 : decode cX6_begin 66 = .ok (.iload 4, 2) := dk_21 4 (dk_at dksX6_begin_2 20 rfl rfl)
theorem dX6_begin_68 : decode cX6_begin 68 = .ok (.aaload, 1) := dk_50 (dk_at dksX6_begin_2 22 rfl rfl)
theorem dX6_begin_69 : decode cX6_begin 69 = .ok (.iload 5, 2) := dk_21 5 (dk_at dksX6_begin_3 0 rfl rfl)
theorem dX6_begin_71 : decode cX6_begin 71 = .ok (.putfield 40, 3) := dk_181 0 40 (dk_at dksX6_begin_3 2 rfl rfl)
theorem dX6_begin_74 : decode cX6_begin 74 = .ok (.iinc 4 1, 3) := dk_132 4 1 (dk_at dksX6_begin_3 5 rfl rfl)
theorem dX6_begin_77 : decode cX6_begin 77 = .ok (.iinc 5 1, 3) := dk_132 5 1 (dk_at dksX6_begin_3 8 rfl rfl)
theorem dX6_begin_80 : decode cX6_begin 80 = .ok (.goto (-34), 3) := dk_167 255 222 (dk_at dksX6_begin_3 11 rfl rfl)
theorem dX6_begin_83 : decode cX6_begin 83 = .ok (.aload_n 0, 1) := dk_42 (dk_at dksX6_begin_3 14 rfl rfl)
theorem dX6_begin_84 : decode cX6_begin 84 = .ok (.iconst 0, 1) := dk_3 (dk_at dksX6_begin_3 15 rfl rfl)
theorem dX6_begin_85 : decode cX6_begin 85 = .ok (.putfield 48, 3) := dk_181 0 48 (dk_at dksX6_begin_3 16 rfl rfl)
theorem dX6_begin_88 : decode cX6_begin 88 = .ok (.return_, 1) := dk_177 (dk_at dksX6_begin_3 19 rfl rfl)
abbrev cX6_add : ByteArray := prog_2_method_4_code
def yX6_add : MethodName := ⟨RX6, "add", "(LEightBlocks$Move;)V"⟩
def dkwX6_add_3 : List UInt8 := [180, 0, 48, 28, 79, 42, 89, 180, 0, 48, 4, 96, 181, 0, 48, 177]
abbrev dktX6_add_3 : List UInt8 := dkwX6_add_3 ++ []
def dkwX6_add_2 : List UInt8 := [183, 0, 27, 83, 42, 180, 0, 19, 42, 180, 0, 48, 50, 43, 182, 0, 59, 87, 42, 180, 0, 23, 42]
abbrev dktX6_add_2 : List UInt8 := dkwX6_add_2 ++ dktX6_add_3
def dkwX6_add_1 : List UInt8 := [180, 0, 19, 42, 180, 0, 48, 50, 199, 0, 19, 42, 180, 0, 19, 42, 180, 0, 48, 187, 0, 17, 89]
abbrev dktX6_add_1 : List UInt8 := dkwX6_add_1 ++ dktX6_add_2
def dkwX6_add_0 : List UInt8 := [42, 43, 182, 0, 55, 61, 28, 155, 0, 13, 42, 180, 0, 48, 17, 1, 44, 160, 0, 4, 177, 42]
abbrev dktX6_add_0 : List UInt8 := dkwX6_add_0 ++ dktX6_add_1
theorem dksX6_add_0 : cX6_add.data.toList.drop 0 = dktX6_add_0 := by decide +kernel
theorem dksX6_add_1 : cX6_add.data.toList.drop 22 = dktX6_add_1 := dk_seg dksX6_add_0 22 rfl rfl
theorem dksX6_add_2 : cX6_add.data.toList.drop 45 = dktX6_add_2 := dk_seg dksX6_add_1 23 rfl rfl
theorem dksX6_add_3 : cX6_add.data.toList.drop 68 = dktX6_add_3 := dk_seg dksX6_add_2 23 rfl rfl
theorem dX6_add_0 : decode cX6_add 0 = .ok (.aload_n 0, 1) := dk_42 (dk_at dksX6_add_0 0 rfl rfl)
theorem dX6_add_1 : decode cX6_add 1 = .ok (.aload_n 1, 1) := dk_43 (dk_at dksX6_add_0 1 rfl rfl)
theorem dX6_add_2 : decode cX6_add 2 = .ok (.invokevirtual 55, 3) := dk_182 0 55 (dk_at dksX6_add_0 2 rfl rfl)
theorem dX6_add_5 : decode cX6_add 5 = .ok (.istore_n 2, 1) := dk_61 (dk_at dksX6_add_0 5 rfl rfl)
theorem dX6_add_6 : decode cX6_add 6 = .ok (.iload_n 2, 1) := dk_28 (dk_at dksX6_add_0 6 rfl rfl)
theorem dX6_add_7 : decode cX6_add 7 = .ok (.ifCond .lt 13, 3) := dk_155 0 13 (dk_at dksX6_add_0 7 rfl rfl)
theorem dX6_add_10 : decode cX6_add 10 = .ok (.aload_n 0, 1) := dk_42 (dk_at dksX6_add_0 10 rfl rfl)
theorem dX6_add_11 : decode cX6_add 11 = .ok (.getfield 48, 3) := dk_180 0 48 (dk_at dksX6_add_0 11 rfl rfl)
theorem dX6_add_14 : decode cX6_add 14 = .ok (.sipush 300, 3) := dk_17 1 44 (dk_at dksX6_add_0 14 rfl rfl)
theorem dX6_add_17 : decode cX6_add 17 = .ok (.if_icmp .ne 4, 3) := dk_160 0 4 (dk_at dksX6_add_0 17 rfl rfl)
theorem dX6_add_20 : decode cX6_add 20 = .ok (.return_, 1) := dk_177 (dk_at dksX6_add_0 20 rfl rfl)
theorem dX6_add_21 : decode cX6_add 21 = .ok (.aload_n 0, 1) := dk_42 (dk_at dksX6_add_0 21 rfl rfl)
theorem dX6_add_22 : decode cX6_add 22 = .ok (.getfield 19, 3) := dk_180 0 19 (dk_at dksX6_add_1 0 rfl rfl)
theorem dX6_add_25 : decode cX6_add 25 = .ok (.aload_n 0, 1) := dk_42 (dk_at dksX6_add_1 3 rfl rfl)
theorem dX6_add_26 : decode cX6_add 26 = .ok (.getfield 48, 3) := dk_180 0 48 (dk_at dksX6_add_1 4 rfl rfl)
theorem dX6_add_29 : decode cX6_add 29 = .ok (.aaload, 1) := dk_50 (dk_at dksX6_add_1 7 rfl rfl)
theorem dX6_add_30 : decode cX6_add 30 = .ok (.ifnonnull 19, 3) := dk_199 0 19 (dk_at dksX6_add_1 8 rfl rfl)
theorem dX6_add_33 : decode cX6_add 33 = .ok (.aload_n 0, 1) := dk_42 (dk_at dksX6_add_1 11 rfl rfl)
theorem dX6_add_34 : decode cX6_add 34 = .ok (.getfield 19, 3) := dk_180 0 19 (dk_at dksX6_add_1 12 rfl rfl)
theorem dX6_add_37 : decode cX6_add 37 = .ok (.aload_n 0, 1) := dk_42 (dk_at dksX6_add_1 15 rfl rfl)
theorem dX6_add_38 : decode cX6_add 38 = .ok (.getfield 48, 3) := dk_180 0 48 (dk_at dksX6_add_1 16 rfl rfl)
theorem dX6_add_41 : decode cX6_add 41 = .ok (.new 17, 3) := dk_187 0 17 (dk_at dksX6_add_1 19 rfl rfl)
theorem dX6_add_44 : decode cX6_add 44 = .ok (.dup, 1) := dk_89 (dk_at dksX6_add_1 22 rfl rfl)
theorem dX6_add_45 : decode cX6_add 45 = .ok (.invokespecial 27, 3) := dk_183 0 27 (dk_at dksX6_add_2 0 rfl rfl)
theorem dX6_add_48 : decode cX6_add 48 = .ok (.aastore, 1) := dk_83 (dk_at dksX6_add_2 3 rfl rfl)
theorem dX6_add_49 : decode cX6_add 49 = .ok (.aload_n 0, 1) := dk_42 (dk_at dksX6_add_2 4 rfl rfl)
theorem dX6_add_50 : decode cX6_add 50 = .ok (.getfield 19, 3) := dk_180 0 19 (dk_at dksX6_add_2 5 rfl rfl)
theorem dX6_add_53 : decode cX6_add 53 = .ok (.aload_n 0, 1) := dk_42 (dk_at dksX6_add_2 8 rfl rfl)
theorem dX6_add_54 : decode cX6_add 54 = .ok (.getfield 48, 3) := dk_180 0 48 (dk_at dksX6_add_2 9 rfl rfl)
theorem dX6_add_57 : decode cX6_add 57 = .ok (.aaload, 1) := dk_50 (dk_at dksX6_add_2 12 rfl rfl)
theorem dX6_add_58 : decode cX6_add 58 = .ok (.aload_n 1, 1) := dk_43 (dk_at dksX6_add_2 13 rfl rfl)
theorem dX6_add_59 : decode cX6_add 59 = .ok (.invokevirtual 59, 3) := dk_182 0 59 (dk_at dksX6_add_2 14 rfl rfl)
theorem dX6_add_62 : decode cX6_add 62 = .ok (.pop, 1) := dk_87 (dk_at dksX6_add_2 17 rfl rfl)
theorem dX6_add_63 : decode cX6_add 63 = .ok (.aload_n 0, 1) := dk_42 (dk_at dksX6_add_2 18 rfl rfl)
theorem dX6_add_64 : decode cX6_add 64 = .ok (.getfield 23, 3) := dk_180 0 23 (dk_at dksX6_add_2 19 rfl rfl)
theorem dX6_add_67 : decode cX6_add 67 = .ok (.aload_n 0, 1) := dk_42 (dk_at dksX6_add_2 22 rfl rfl)
theorem dX6_add_68 : decode cX6_add 68 = .ok (.getfield 48, 3) := dk_180 0 48 (dk_at dksX6_add_3 0 rfl rfl)
theorem dX6_add_71 : decode cX6_add 71 = .ok (.iload_n 2, 1) := dk_28 (dk_at dksX6_add_3 3 rfl rfl)
theorem dX6_add_72 : decode cX6_add 72 = .ok (.iastore, 1) := dk_79 (dk_at dksX6_add_3 4 rfl rfl)
theorem dX6_add_73 : decode cX6_add 73 = .ok (.aload_n 0, 1) := dk_42 (dk_at dksX6_add_3 5 rfl rfl)
theorem dX6_add_74 : decode cX6_add 74 = .ok (.dup, 1) := dk_89 (dk_at dksX6_add_3 6 rfl rfl)
theorem dX6_add_75 : decode cX6_add 75 = .ok (.getfield 48, 3) := dk_180 0 48 (dk_at dksX6_add_3 7 rfl rfl)
theorem dX6_add_78 : decode cX6_add 78 = .ok (.iconst 1, 1) := dk_4 (dk_at dksX6_add_3 10 rfl rfl)
theorem dX6_add_79 : decode cX6_add 79 = .ok (.iadd, 1) := dk_96 (dk_at dksX6_add_3 11 rfl rfl)
theorem dX6_add_80 : decode cX6_add 80 = .ok (.putfield 48, 3) := dk_181 0 48 (dk_at dksX6_add_3 12 rfl rfl)
theorem dX6_add_83 : decode cX6_add 83 = .ok (.return_, 1) := dk_177 (dk_at dksX6_add_3 15 rfl rfl)
abbrev cX6_depthOf : ByteArray := prog_2_method_3_code
def yX6_depthOf : MethodName := ⟨RX6, "depthOf", "(LEightBlocks$Move;)I"⟩
def dkwX6_depthOf_2 : List UInt8 := [167, 0, 5, 16, 252, 172]
abbrev dktX6_depthOf_2 : List UInt8 := dkwX6_depthOf_2 ++ []
def dkwX6_depthOf_1 : List UInt8 := [180, 0, 11, 28, 50, 180, 0, 40, 160, 0, 9, 132, 2, 1, 167, 255, 222, 28, 16, 24, 162, 0, 7, 28]
abbrev dktX6_depthOf_1 : List UInt8 := dkwX6_depthOf_1 ++ dktX6_depthOf_2
def dkwX6_depthOf_0 : List UInt8 := [3, 61, 28, 16, 24, 162, 0, 34, 43, 42, 180, 0, 11, 28, 50, 180, 0, 40, 182, 0, 51, 42]
abbrev dktX6_depthOf_0 : List UInt8 := dkwX6_depthOf_0 ++ dktX6_depthOf_1
theorem dksX6_depthOf_0 : cX6_depthOf.data.toList.drop 0 = dktX6_depthOf_0 := by decide +kernel
theorem dksX6_depthOf_1 : cX6_depthOf.data.toList.drop 22 = dktX6_depthOf_1 := dk_seg dksX6_depthOf_0 22 rfl rfl
theorem dksX6_depthOf_2 : cX6_depthOf.data.toList.drop 46 = dktX6_depthOf_2 := dk_seg dksX6_depthOf_1 24 rfl rfl
theorem dX6_depthOf_0 : decode cX6_depthOf 0 = .ok (.iconst 0, 1) := dk_3 (dk_at dksX6_depthOf_0 0 rfl rfl)
theorem dX6_depthOf_1 : decode cX6_depthOf 1 = .ok (.istore_n 2, 1) := dk_61 (dk_at dksX6_depthOf_0 1 rfl rfl)
theorem dX6_depthOf_2 : decode cX6_depthOf 2 = .ok (.iload_n 2, 1) := dk_28 (dk_at dksX6_depthOf_0 2 rfl rfl)
theorem dX6_depthOf_3 : decode cX6_depthOf 3 = .ok (.bipush 24, 2) := dk_16 24 (dk_at dksX6_depthOf_0 3 rfl rfl)
theorem dX6_depthOf_5 : decode cX6_depthOf 5 = .ok (.if_icmp .ge 34, 3) := dk_162 0 34 (dk_at dksX6_depthOf_0 5 rfl rfl)
theorem dX6_depthOf_8 : decode cX6_depthOf 8 = .ok (.aload_n 1, 1) := dk_43 (dk_at dksX6_depthOf_0 8 rfl rfl)
theorem dX6_depthOf_9 : decode cX6_depthOf 9 = .ok (.aload_n 0, 1) := dk_42 (dk_at dksX6_depthOf_0 9 rfl rfl)
theorem dX6_depthOf_10 : decode cX6_depthOf 10 = .ok (.getfield 11, 3) := dk_180 0 11 (dk_at dksX6_depthOf_0 10 rfl rfl)
theorem dX6_depthOf_13 : decode cX6_depthOf 13 = .ok (.iload_n 2, 1) := dk_28 (dk_at dksX6_depthOf_0 13 rfl rfl)
theorem dX6_depthOf_14 : decode cX6_depthOf 14 = .ok (.aaload, 1) := dk_50 (dk_at dksX6_depthOf_0 14 rfl rfl)
theorem dX6_depthOf_15 : decode cX6_depthOf 15 = .ok (.getfield 40, 3) := dk_180 0 40 (dk_at dksX6_depthOf_0 15 rfl rfl)
theorem dX6_depthOf_18 : decode cX6_depthOf 18 = .ok (.invokevirtual 51, 3) := dk_182 0 51 (dk_at dksX6_depthOf_0 18 rfl rfl)
theorem dX6_depthOf_21 : decode cX6_depthOf 21 = .ok (.aload_n 0, 1) := dk_42 (dk_at dksX6_depthOf_0 21 rfl rfl)
theorem dX6_depthOf_22 : decode cX6_depthOf 22 = .ok (.getfield 11, 3) := dk_180 0 11 (dk_at dksX6_depthOf_1 0 rfl rfl)
theorem dX6_depthOf_25 : decode cX6_depthOf 25 = .ok (.iload_n 2, 1) := dk_28 (dk_at dksX6_depthOf_1 3 rfl rfl)
theorem dX6_depthOf_26 : decode cX6_depthOf 26 = .ok (.aaload, 1) := dk_50 (dk_at dksX6_depthOf_1 4 rfl rfl)
theorem dX6_depthOf_27 : decode cX6_depthOf 27 = .ok (.getfield 40, 3) := dk_180 0 40 (dk_at dksX6_depthOf_1 5 rfl rfl)
theorem dX6_depthOf_30 : decode cX6_depthOf 30 = .ok (.if_icmp .ne 9, 3) := dk_160 0 9 (dk_at dksX6_depthOf_1 8 rfl rfl)
theorem dX6_depthOf_33 : decode cX6_depthOf 33 = .ok (.iinc 2 1, 3) := dk_132 2 1 (dk_at dksX6_depthOf_1 11 rfl rfl)
theorem dX6_depthOf_36 : decode cX6_depthOf 36 = .ok (.goto (-34), 3) := dk_167 255 222 (dk_at dksX6_depthOf_1 14 rfl rfl)
theorem dX6_depthOf_39 : decode cX6_depthOf 39 = .ok (.iload_n 2, 1) := dk_28 (dk_at dksX6_depthOf_1 17 rfl rfl)
theorem dX6_depthOf_40 : decode cX6_depthOf 40 = .ok (.bipush 24, 2) := dk_16 24 (dk_at dksX6_depthOf_1 18 rfl rfl)
theorem dX6_depthOf_42 : decode cX6_depthOf 42 = .ok (.if_icmp .ge 7, 3) := dk_162 0 7 (dk_at dksX6_depthOf_1 20 rfl rfl)
theorem dX6_depthOf_45 : decode cX6_depthOf 45 = .ok (.iload_n 2, 1) := dk_28 (dk_at dksX6_depthOf_1 23 rfl rfl)
theorem dX6_depthOf_46 : decode cX6_depthOf 46 = .ok (.goto 5, 3) := dk_167 0 5 (dk_at dksX6_depthOf_2 0 rfl rfl)
theorem dX6_depthOf_49 : decode cX6_depthOf 49 = .ok (.bipush (-4), 2) := dk_16 252 (dk_at dksX6_depthOf_2 3 rfl rfl)
theorem dX6_depthOf_51 : decode cX6_depthOf 51 = .ok (.ireturn, 1) := dk_172 (dk_at dksX6_depthOf_2 5 rfl rfl)
abbrev cX6_close : ByteArray := prog_2_method_8_code
def yX6_close : MethodName := ⟨RX6, "close", "()V"⟩
def dkwX6_close_1 : List UInt8 := [182, 0, 98, 62, 29, 156, 0, 9, 27, 4, 100, 167, 0, 4, 29, 60, 132, 2, 1, 167, 255, 219, 177]
abbrev dktX6_close_1 : List UInt8 := dkwX6_close_1 ++ []
def dkwX6_close_0 : List UInt8 := [16, 23, 60, 3, 61, 28, 17, 39, 15, 162, 0, 36, 27, 155, 0, 32, 42, 27, 182, 0, 94, 42, 27]
abbrev dktX6_close_0 : List UInt8 := dkwX6_close_0 ++ dktX6_close_1
theorem dksX6_close_0 : cX6_close.data.toList.drop 0 = dktX6_close_0 := by decide +kernel
theorem dksX6_close_1 : cX6_close.data.toList.drop 23 = dktX6_close_1 := dk_seg dksX6_close_0 23 rfl rfl
theorem dX6_close_0 : decode cX6_close 0 = .ok (.bipush 23, 2) := dk_16 23 (dk_at dksX6_close_0 0 rfl rfl)
theorem dX6_close_2 : decode cX6_close 2 = .ok (.istore_n 1, 1) := dk_60 (dk_at dksX6_close_0 2 rfl rfl)
theorem dX6_close_3 : decode cX6_close 3 = .ok (.iconst 0, 1) := dk_3 (dk_at dksX6_close_0 3 rfl rfl)
theorem dX6_close_4 : decode cX6_close 4 = .ok (.istore_n 2, 1) := dk_61 (dk_at dksX6_close_0 4 rfl rfl)
theorem dX6_close_5 : decode cX6_close 5 = .ok (.iload_n 2, 1) := dk_28 (dk_at dksX6_close_0 5 rfl rfl)
theorem dX6_close_6 : decode cX6_close 6 = .ok (.sipush 9999, 3) := dk_17 39 15 (dk_at dksX6_close_0 6 rfl rfl)
theorem dX6_close_9 : decode cX6_close 9 = .ok (.if_icmp .ge 36, 3) := dk_162 0 36 (dk_at dksX6_close_0 9 rfl rfl)
theorem dX6_close_12 : decode cX6_close 12 = .ok (.iload_n 1, 1) := dk_27 (dk_at dksX6_close_0 12 rfl rfl)
theorem dX6_close_13 : decode cX6_close 13 = .ok (.ifCond .lt 32, 3) := dk_155 0 32 (dk_at dksX6_close_0 13 rfl rfl)
theorem dX6_close_16 : decode cX6_close 16 = .ok (.aload_n 0, 1) := dk_42 (dk_at dksX6_close_0 16 rfl rfl)
theorem dX6_close_17 : decode cX6_close 17 = .ok (.iload_n 1, 1) := dk_27 (dk_at dksX6_close_0 17 rfl rfl)
theorem dX6_close_18 : decode cX6_close 18 = .ok (.invokevirtual 94, 3) := dk_182 0 94 (dk_at dksX6_close_0 18 rfl rfl)
theorem dX6_close_21 : decode cX6_close 21 = .ok (.aload_n 0, 1) := dk_42 (dk_at dksX6_close_0 21 rfl rfl)
theorem dX6_close_22 : decode cX6_close 22 = .ok (.iload_n 1, 1) := dk_27 (dk_at dksX6_close_0 22 rfl rfl)
theorem dX6_close_23 : decode cX6_close 23 = .ok (.invokevirtual 98, 3) := dk_182 0 98 (dk_at dksX6_close_1 0 rfl rfl)
theorem dX6_close_26 : decode cX6_close 26 = .ok (.istore_n 3, 1) := dk_62 (dk_at dksX6_close_1 3 rfl rfl)
theorem dX6_close_27 : decode cX6_close 27 = .ok (.iload_n 3, 1) := dk_29 (dk_at dksX6_close_1 4 rfl rfl)
theorem dX6_close_28 : decode cX6_close 28 = .ok (.ifCond .ge 9, 3) := dk_156 0 9 (dk_at dksX6_close_1 5 rfl rfl)
theorem dX6_close_31 : decode cX6_close 31 = .ok (.iload_n 1, 1) := dk_27 (dk_at dksX6_close_1 8 rfl rfl)
theorem dX6_close_32 : decode cX6_close 32 = .ok (.iconst 1, 1) := dk_4 (dk_at dksX6_close_1 9 rfl rfl)
theorem dX6_close_33 : decode cX6_close 33 = .ok (.isub, 1) := dk_100 (dk_at dksX6_close_1 10 rfl rfl)
theorem dX6_close_34 : decode cX6_close 34 = .ok (.goto 4, 3) := dk_167 0 4 (dk_at dksX6_close_1 11 rfl rfl)
theorem dX6_close_37 : decode cX6_close 37 = .ok (.iload_n 3, 1) := dk_29 (dk_at dksX6_close_1 14 rfl rfl)
theorem dX6_close_38 : decode cX6_close 38 = .ok (.istore_n 1, 1) := dk_60 (dk_at dksX6_close_1 15 rfl rfl)
theorem dX6_close_39 : decode cX6_close 39 = .ok (.iinc 2 1, 3) := dk_132 2 1 (dk_at dksX6_close_1 16 rfl rfl)
theorem dX6_close_42 : decode cX6_close 42 = .ok (.goto (-37), 3) := dk_167 255 219 (dk_at dksX6_close_1 19 rfl rfl)
theorem dX6_close_45 : decode cX6_close 45 = .ok (.return_, 1) := dk_177 (dk_at dksX6_close_1 22 rfl rfl)
abbrev cX6_lay : ByteArray := prog_2_method_5_code
def yX6_lay : MethodName := ⟨RX6, "lay", "(I)V"⟩
def dkwX6_lay_5 : List UInt8 := [167, 255, 172, 132, 3, 1, 167, 255, 155, 177]
abbrev dktX6_lay_5 : List UInt8 := dkwX6_lay_5 ++ []
def dkwX6_lay_4 : List UInt8 := [180, 0, 68, 29, 46, 50, 182, 0, 59, 42, 180, 0, 19, 21, 4, 50, 182, 0, 81, 87, 132, 4, 1]
abbrev dktX6_lay_4 : List UInt8 := dkwX6_lay_4 ++ dktX6_lay_5
def dkwX6_lay_3 : List UInt8 := [180, 0, 71, 21, 5, 184, 0, 44, 154, 0, 34, 44, 21, 5, 182, 0, 74, 44, 180, 0, 78, 44]
abbrev dktX6_lay_3 : List UInt8 := dkwX6_lay_3 ++ dktX6_lay_4
def dkwX6_lay_2 : List UInt8 := [180, 0, 68, 29, 46, 182, 0, 51, 54, 5, 42, 180, 0, 23, 21, 4, 46, 27, 161, 0, 46, 44]
abbrev dktX6_lay_2 : List UInt8 := dkwX6_lay_2 ++ dktX6_lay_3
def dkwX6_lay_1 : List UInt8 := [162, 0, 99, 3, 54, 4, 21, 4, 42, 180, 0, 48, 162, 0, 81, 42, 180, 0, 19, 21, 4, 50, 44]
abbrev dktX6_lay_1 : List UInt8 := dkwX6_lay_1 ++ dktX6_lay_2
def dkwX6_lay_0 : List UInt8 := [42, 180, 0, 11, 27, 50, 77, 44, 42, 180, 0, 35, 182, 0, 63, 3, 62, 29, 44, 180, 0, 67]
abbrev dktX6_lay_0 : List UInt8 := dkwX6_lay_0 ++ dktX6_lay_1
theorem dksX6_lay_0 : cX6_lay.data.toList.drop 0 = dktX6_lay_0 := by decide +kernel
theorem dksX6_lay_1 : cX6_lay.data.toList.drop 22 = dktX6_lay_1 := dk_seg dksX6_lay_0 22 rfl rfl
theorem dksX6_lay_2 : cX6_lay.data.toList.drop 45 = dktX6_lay_2 := dk_seg dksX6_lay_1 23 rfl rfl
theorem dksX6_lay_3 : cX6_lay.data.toList.drop 67 = dktX6_lay_3 := dk_seg dksX6_lay_2 22 rfl rfl
theorem dksX6_lay_4 : cX6_lay.data.toList.drop 89 = dktX6_lay_4 := dk_seg dksX6_lay_3 22 rfl rfl
theorem dksX6_lay_5 : cX6_lay.data.toList.drop 112 = dktX6_lay_5 := dk_seg dksX6_lay_4 23 rfl rfl
theorem dX6_lay_0 : decode cX6_lay 0 = .ok (.aload_n 0, 1) := dk_42 (dk_at dksX6_lay_0 0 rfl rfl)
theorem dX6_lay_1 : decode cX6_lay 1 = .ok (.getfield 11, 3) := dk_180 0 11 (dk_at dksX6_lay_0 1 rfl rfl)
theorem dX6_lay_4 : decode cX6_lay 4 = .ok (.iload_n 1, 1) := dk_27 (dk_at dksX6_lay_0 4 rfl rfl)
theorem dX6_lay_5 : decode cX6_lay 5 = .ok (.aaload, 1) := dk_50 (dk_at dksX6_lay_0 5 rfl rfl)
theorem dX6_lay_6 : decode cX6_lay 6 = .ok (.astore_n 2, 1) := dk_77 (dk_at dksX6_lay_0 6 rfl rfl)
theorem dX6_lay_7 : decode cX6_lay 7 = .ok (.aload_n 2, 1) := dk_44 (dk_at dksX6_lay_0 7 rfl rfl)
theorem dX6_lay_8 : decode cX6_lay 8 = .ok (.aload_n 0, 1) := dk_42 (dk_at dksX6_lay_0 8 rfl rfl)
theorem dX6_lay_9 : decode cX6_lay 9 = .ok (.getfield 35, 3) := dk_180 0 35 (dk_at dksX6_lay_0 9 rfl rfl)
theorem dX6_lay_12 : decode cX6_lay 12 = .ok (.invokevirtual 63, 3) := dk_182 0 63 (dk_at dksX6_lay_0 12 rfl rfl)
theorem dX6_lay_15 : decode cX6_lay 15 = .ok (.iconst 0, 1) := dk_3 (dk_at dksX6_lay_0 15 rfl rfl)
theorem dX6_lay_16 : decode cX6_lay 16 = .ok (.istore_n 3, 1) := dk_62 (dk_at dksX6_lay_0 16 rfl rfl)
theorem dX6_lay_17 : decode cX6_lay 17 = .ok (.iload_n 3, 1) := dk_29 (dk_at dksX6_lay_0 17 rfl rfl)
theorem dX6_lay_18 : decode cX6_lay 18 = .ok (.aload_n 2, 1) := dk_44 (dk_at dksX6_lay_0 18 rfl rfl)
theorem dX6_lay_19 : decode cX6_lay 19 = .ok (.getfield 67, 3) := dk_180 0 67 (dk_at dksX6_lay_0 19 rfl rfl)
theorem dX6_lay_22 : decode cX6_lay 22 = .ok (.if_icmp .ge 99, 3) := dk_162 0 99 (dk_at dksX6_lay_1 0 rfl rfl)
theorem dX6_lay_25 : decode cX6_lay 25 = .ok (.iconst 0, 1) := dk_3 (dk_at dksX6_lay_1 3 rfl rfl)
theorem dX6_lay_26 : decode cX6_lay 26 = .ok (.istore 4, 2) := dk_54 4 (dk_at dksX6_lay_1 4 rfl rfl)
theorem dX6_lay_28 : decode cX6_lay 28 = .ok (.iload 4, 2) := dk_21 4 (dk_at dksX6_lay_1 6 rfl rfl)
theorem dX6_lay_30 : decode cX6_lay 30 = .ok (.aload_n 0, 1) := dk_42 (dk_at dksX6_lay_1 8 rfl rfl)
theorem dX6_lay_31 : decode cX6_lay 31 = .ok (.getfield 48, 3) := dk_180 0 48 (dk_at dksX6_lay_1 9 rfl rfl)
theorem dX6_lay_34 : decode cX6_lay 34 = .ok (.if_icmp .ge 81, 3) := dk_162 0 81 (dk_at dksX6_lay_1 12 rfl rfl)
theorem dX6_lay_37 : decode cX6_lay 37 = .ok (.aload_n 0, 1) := dk_42 (dk_at dksX6_lay_1 15 rfl rfl)
theorem dX6_lay_38 : decode cX6_lay 38 = .ok (.getfield 19, 3) := dk_180 0 19 (dk_at dksX6_lay_1 16 rfl rfl)
theorem dX6_lay_41 : decode cX6_lay 41 = .ok (.iload 4, 2) := dk_21 4 (dk_at dksX6_lay_1 19 rfl rfl)
theorem dX6_lay_43 : decode cX6_lay 43 = .ok (.aaload, 1) := dk_50 (dk_at dksX6_lay_1 21 rfl rfl)
theorem dX6_lay_44 : decode cX6_lay 44 = .ok (.aload_n 2, 1) := dk_44 (dk_at dksX6_lay_1 22 rfl rfl)
theorem dX6_lay_45 : decode cX6_lay 45 = .ok (.getfield 68, 3) := dk_180 0 68 (dk_at dksX6_lay_2 0 rfl rfl)
theorem dX6_lay_48 : decode cX6_lay 48 = .ok (.iload_n 3, 1) := dk_29 (dk_at dksX6_lay_2 3 rfl rfl)
theorem dX6_lay_49 : decode cX6_lay 49 = .ok (.iaload, 1) := dk_46 (dk_at dksX6_lay_2 4 rfl rfl)
theorem dX6_lay_50 : decode cX6_lay 50 = .ok (.invokevirtual 51, 3) := dk_182 0 51 (dk_at dksX6_lay_2 5 rfl rfl)
theorem dX6_lay_53 : decode cX6_lay 53 = .ok (.istore 5, 2) := dk_54 5 (dk_at dksX6_lay_2 8 rfl rfl)
theorem dX6_lay_55 : decode cX6_lay 55 = .ok (.aload_n 0, 1) := dk_42 (dk_at dksX6_lay_2 10 rfl rfl)
theorem dX6_lay_56 : decode cX6_lay 56 = .ok (.getfield 23, 3) := dk_180 0 23 (dk_at dksX6_lay_2 11 rfl rfl)
theorem dX6_lay_59 : decode cX6_lay 59 = .ok (.iload 4, 2) := dk_21 4 (dk_at dksX6_lay_2 14 rfl rfl)
theorem dX6_lay_61 : decode cX6_lay 61 = .ok (.iaload, 1) := dk_46 (dk_at dksX6_lay_2 16 rfl rfl)
theorem dX6_lay_62 : decode cX6_lay 62 = .ok (.iload_n 1, 1) := dk_27 (dk_at dksX6_lay_2 17 rfl rfl)
theorem dX6_lay_63 : decode cX6_lay 63 = .ok (.if_icmp .lt 46, 3) := dk_161 0 46 (dk_at dksX6_lay_2 18 rfl rfl)
theorem dX6_lay_66 : decode cX6_lay 66 = .ok (.aload_n 2, 1) := dk_44 (dk_at dksX6_lay_2 21 rfl rfl)
theorem dX6_lay_67 : decode cX6_lay 67 = .ok (.getfield 71, 3) := dk_180 0 71 (dk_at dksX6_lay_3 0 rfl rfl)
theorem dX6_lay_70 : decode cX6_lay 70 = .ok (.iload 5, 2) := dk_21 5 (dk_at dksX6_lay_3 3 rfl rfl)
theorem dX6_lay_72 : decode cX6_lay 72 = .ok (.invokestatic 44, 3) := dk_184 0 44 (dk_at dksX6_lay_3 5 rfl rfl)
theorem dX6_lay_75 : decode cX6_lay 75 = .ok (.ifCond .ne 34, 3) := dk_154 0 34 (dk_at dksX6_lay_3 8 rfl rfl)
theorem dX6_lay_78 : decode cX6_lay 78 = .ok (.aload_n 2, 1) := dk_44 (dk_at dksX6_lay_3 11 rfl rfl)
theorem dX6_lay_79 : decode cX6_lay 79 = .ok (.iload 5, 2) := dk_21 5 (dk_at dksX6_lay_3 12 rfl rfl)
theorem dX6_lay_81 : decode cX6_lay 81 = .ok (.invokevirtual 74, 3) := dk_182 0 74 (dk_at dksX6_lay_3 14 rfl rfl)
theorem dX6_lay_84 : decode cX6_lay 84 = .ok (.aload_n 2, 1) := dk_44 (dk_at dksX6_lay_3 17 rfl rfl)
theorem dX6_lay_85 : decode cX6_lay 85 = .ok (.getfield 78, 3) := dk_180 0 78 (dk_at dksX6_lay_3 18 rfl rfl)
theorem dX6_lay_88 : decode cX6_lay 88 = .ok (.aload_n 2, 1) := dk_44 (dk_at dksX6_lay_3 21 rfl rfl)
theorem dX6_lay_89 : decode cX6_lay 89 = .ok (.getfield 68, 3) := dk_180 0 68 (dk_at dksX6_lay_4 0 rfl rfl)
theorem dX6_lay_92 : decode cX6_lay 92 = .ok (.iload_n 3, 1) := dk_29 (dk_at dksX6_lay_4 3 rfl rfl)
theorem dX6_lay_93 : decode cX6_lay 93 = .ok (.iaload, 1) := dk_46 (dk_at dksX6_lay_4 4 rfl rfl)
theorem dX6_lay_94 : decode cX6_lay 94 = .ok (.aaload, 1) := dk_50 (dk_at dksX6_lay_4 5 rfl rfl)
theorem dX6_lay_95 : decode cX6_lay 95 = .ok (.invokevirtual 59, 3) := dk_182 0 59 (dk_at dksX6_lay_4 6 rfl rfl)
theorem dX6_lay_98 : decode cX6_lay 98 = .ok (.aload_n 0, 1) := dk_42 (dk_at dksX6_lay_4 9 rfl rfl)
theorem dX6_lay_99 : decode cX6_lay 99 = .ok (.getfield 19, 3) := dk_180 0 19 (dk_at dksX6_lay_4 10 rfl rfl)
theorem dX6_lay_102 : decode cX6_lay 102 = .ok (.iload 4, 2) := dk_21 4 (dk_at dksX6_lay_4 13 rfl rfl)
theorem dX6_lay_104 : decode cX6_lay 104 = .ok (.aaload, 1) := dk_50 (dk_at dksX6_lay_4 15 rfl rfl)
theorem dX6_lay_105 : decode cX6_lay 105 = .ok (.invokevirtual 81, 3) := dk_182 0 81 (dk_at dksX6_lay_4 16 rfl rfl)
theorem dX6_lay_108 : decode cX6_lay 108 = .ok (.pop, 1) := dk_87 (dk_at dksX6_lay_4 19 rfl rfl)
theorem dX6_lay_109 : decode cX6_lay 109 = .ok (.iinc 4 1, 3) := dk_132 4 1 (dk_at dksX6_lay_4 20 rfl rfl)
theorem dX6_lay_112 : decode cX6_lay 112 = .ok (.goto (-84), 3) := dk_167 255 172 (dk_at dksX6_lay_5 0 rfl rfl)
theorem dX6_lay_115 : decode cX6_lay 115 = .ok (.iinc 3 1, 3) := dk_132 3 1 (dk_at dksX6_lay_5 3 rfl rfl)
theorem dX6_lay_118 : decode cX6_lay 118 = .ok (.goto (-101), 3) := dk_167 255 155 (dk_at dksX6_lay_5 6 rfl rfl)
theorem dX6_lay_121 : decode cX6_lay 121 = .ok (.return_, 1) := dk_177 (dk_at dksX6_lay_5 9 rfl rfl)
abbrev cX6_check : ByteArray := prog_2_method_7_code
def yX6_check : MethodName := ⟨RX6, "check", "(I)I"⟩
def dkwX6_check_5 : List UInt8 := [182, 0, 91, 21, 5, 172, 132, 4, 1, 167, 255, 151, 132, 3, 1, 167, 255, 134, 16, 252, 172]
abbrev dktX6_check_5 : List UInt8 := dkwX6_check_5 ++ []
def dkwX6_check_4 : List UInt8 := [50, 182, 0, 84, 42, 27, 4, 96, 182, 0, 88, 54, 5, 21, 5, 155, 0, 14, 42, 42, 180, 0, 28]
abbrev dktX6_check_4 : List UInt8 := dkwX6_check_4 ++ dktX6_check_5
def dkwX6_check_3 : List UInt8 := [42, 180, 0, 28, 44, 180, 0, 78, 42, 180, 0, 19, 21, 4, 50, 44, 180, 0, 68, 29, 46, 182, 0, 51]
abbrev dktX6_check_3 : List UInt8 := dkwX6_check_3 ++ dktX6_check_4
def dkwX6_check_2 : List UInt8 := [180, 0, 78, 44, 180, 0, 68, 29, 46, 50, 182, 0, 59, 42, 180, 0, 19, 21, 4, 50, 182, 0, 81, 87]
abbrev dktX6_check_2 : List UInt8 := dkwX6_check_2 ++ dktX6_check_3
def dkwX6_check_1 : List UInt8 := [180, 0, 48, 162, 0, 102, 42, 180, 0, 23, 21, 4, 46, 27, 161, 0, 85, 42, 180, 0, 28, 44]
abbrev dktX6_check_1 : List UInt8 := dkwX6_check_1 ++ dktX6_check_2
def dkwX6_check_0 : List UInt8 := [42, 180, 0, 11, 27, 50, 77, 3, 62, 29, 44, 180, 0, 67, 162, 0, 120, 3, 54, 4, 21, 4, 42]
abbrev dktX6_check_0 : List UInt8 := dkwX6_check_0 ++ dktX6_check_1
theorem dksX6_check_0 : cX6_check.data.toList.drop 0 = dktX6_check_0 := by decide +kernel
theorem dksX6_check_1 : cX6_check.data.toList.drop 23 = dktX6_check_1 := dk_seg dksX6_check_0 23 rfl rfl
theorem dksX6_check_2 : cX6_check.data.toList.drop 45 = dktX6_check_2 := dk_seg dksX6_check_1 22 rfl rfl
theorem dksX6_check_3 : cX6_check.data.toList.drop 69 = dktX6_check_3 := dk_seg dksX6_check_2 24 rfl rfl
theorem dksX6_check_4 : cX6_check.data.toList.drop 93 = dktX6_check_4 := dk_seg dksX6_check_3 24 rfl rfl
theorem dksX6_check_5 : cX6_check.data.toList.drop 116 = dktX6_check_5 := dk_seg dksX6_check_4 23 rfl rfl
theorem dX6_check_0 : decode cX6_check 0 = .ok (.aload_n 0, 1) := dk_42 (dk_at dksX6_check_0 0 rfl rfl)
theorem dX6_check_1 : decode cX6_check 1 = .ok (.getfield 11, 3) := dk_180 0 11 (dk_at dksX6_check_0 1 rfl rfl)
theorem dX6_check_4 : decode cX6_check 4 = .ok (.iload_n 1, 1) := dk_27 (dk_at dksX6_check_0 4 rfl rfl)
theorem dX6_check_5 : decode cX6_check 5 = .ok (.aaload, 1) := dk_50 (dk_at dksX6_check_0 5 rfl rfl)
theorem dX6_check_6 : decode cX6_check 6 = .ok (.astore_n 2, 1) := dk_77 (dk_at dksX6_check_0 6 rfl rfl)
theorem dX6_check_7 : decode cX6_check 7 = .ok (.iconst 0, 1) := dk_3 (dk_at dksX6_check_0 7 rfl rfl)
theorem dX6_check_8 : decode cX6_check 8 = .ok (.istore_n 3, 1) := dk_62 (dk_at dksX6_check_0 8 rfl rfl)
theorem dX6_check_9 : decode cX6_check 9 = .ok (.iload_n 3, 1) := dk_29 (dk_at dksX6_check_0 9 rfl rfl)
theorem dX6_check_10 : decode cX6_check 10 = .ok (.aload_n 2, 1) := dk_44 (dk_at dksX6_check_0 10 rfl rfl)
theorem dX6_check_11 : decode cX6_check 11 = .ok (.getfield 67, 3) := dk_180 0 67 (dk_at dksX6_check_0 11 rfl rfl)
theorem dX6_check_14 : decode cX6_check 14 = .ok (.if_icmp .ge 120, 3) := dk_162 0 120 (dk_at dksX6_check_0 14 rfl rfl)
theorem dX6_check_17 : decode cX6_check 17 = .ok (.iconst 0, 1) := dk_3 (dk_at dksX6_check_0 17 rfl rfl)
theorem dX6_check_18 : decode cX6_check 18 = .ok (.istore 4, 2) := dk_54 4 (dk_at dksX6_check_0 18 rfl rfl)
theorem dX6_check_20 : decode cX6_check 20 = .ok (.iload 4, 2) := dk_21 4 (dk_at dksX6_check_0 20 rfl rfl)
theorem dX6_check_22 : decode cX6_check 22 = .ok (.aload_n 0, 1) := dk_42 (dk_at dksX6_check_0 22 rfl rfl)
theorem dX6_check_23 : decode cX6_check 23 = .ok (.getfield 48, 3) := dk_180 0 48 (dk_at dksX6_check_1 0 rfl rfl)
theorem dX6_check_26 : decode cX6_check 26 = .ok (.if_icmp .ge 102, 3) := dk_162 0 102 (dk_at dksX6_check_1 3 rfl rfl)
theorem dX6_check_29 : decode cX6_check 29 = .ok (.aload_n 0, 1) := dk_42 (dk_at dksX6_check_1 6 rfl rfl)
theorem dX6_check_30 : decode cX6_check 30 = .ok (.getfield 23, 3) := dk_180 0 23 (dk_at dksX6_check_1 7 rfl rfl)
theorem dX6_check_33 : decode cX6_check 33 = .ok (.iload 4, 2) := dk_21 4 (dk_at dksX6_check_1 10 rfl rfl)
theorem dX6_check_35 : decode cX6_check 35 = .ok (.iaload, 1) := dk_46 (dk_at dksX6_check_1 12 rfl rfl)
theorem dX6_check_36 : decode cX6_check 36 = .ok (.iload_n 1, 1) := dk_27 (dk_at dksX6_check_1 13 rfl rfl)
theorem dX6_check_37 : decode cX6_check 37 = .ok (.if_icmp .lt 85, 3) := dk_161 0 85 (dk_at dksX6_check_1 14 rfl rfl)
theorem dX6_check_40 : decode cX6_check 40 = .ok (.aload_n 0, 1) := dk_42 (dk_at dksX6_check_1 17 rfl rfl)
theorem dX6_check_41 : decode cX6_check 41 = .ok (.getfield 28, 3) := dk_180 0 28 (dk_at dksX6_check_1 18 rfl rfl)
theorem dX6_check_44 : decode cX6_check 44 = .ok (.aload_n 2, 1) := dk_44 (dk_at dksX6_check_1 21 rfl rfl)
theorem dX6_check_45 : decode cX6_check 45 = .ok (.getfield 78, 3) := dk_180 0 78 (dk_at dksX6_check_2 0 rfl rfl)
theorem dX6_check_48 : decode cX6_check 48 = .ok (.aload_n 2, 1) := dk_44 (dk_at dksX6_check_2 3 rfl rfl)
theorem dX6_check_49 : decode cX6_check 49 = .ok (.getfield 68, 3) := dk_180 0 68 (dk_at dksX6_check_2 4 rfl rfl)
theorem dX6_check_52 : decode cX6_check 52 = .ok (.iload_n 3, 1) := dk_29 (dk_at dksX6_check_2 7 rfl rfl)
theorem dX6_check_53 : decode cX6_check 53 = .ok (.iaload, 1) := dk_46 (dk_at dksX6_check_2 8 rfl rfl)
theorem dX6_check_54 : decode cX6_check 54 = .ok (.aaload, 1) := dk_50 (dk_at dksX6_check_2 9 rfl rfl)
theorem dX6_check_55 : decode cX6_check 55 = .ok (.invokevirtual 59, 3) := dk_182 0 59 (dk_at dksX6_check_2 10 rfl rfl)
theorem dX6_check_58 : decode cX6_check 58 = .ok (.aload_n 0, 1) := dk_42 (dk_at dksX6_check_2 13 rfl rfl)
theorem dX6_check_59 : decode cX6_check 59 = .ok (.getfield 19, 3) := dk_180 0 19 (dk_at dksX6_check_2 14 rfl rfl)
theorem dX6_check_62 : decode cX6_check 62 = .ok (.iload 4, 2) := dk_21 4 (dk_at dksX6_check_2 17 rfl rfl)
theorem dX6_check_64 : decode cX6_check 64 = .ok (.aaload, 1) := dk_50 (dk_at dksX6_check_2 19 rfl rfl)
theorem dX6_check_65 : decode cX6_check 65 = .ok (.invokevirtual 81, 3) := dk_182 0 81 (dk_at dksX6_check_2 20 rfl rfl)
theorem dX6_check_68 : decode cX6_check 68 = .ok (.pop, 1) := dk_87 (dk_at dksX6_check_2 23 rfl rfl)
theorem dX6_check_69 : decode cX6_check 69 = .ok (.aload_n 0, 1) := dk_42 (dk_at dksX6_check_3 0 rfl rfl)
theorem dX6_check_70 : decode cX6_check 70 = .ok (.getfield 28, 3) := dk_180 0 28 (dk_at dksX6_check_3 1 rfl rfl)
theorem dX6_check_73 : decode cX6_check 73 = .ok (.aload_n 2, 1) := dk_44 (dk_at dksX6_check_3 4 rfl rfl)
theorem dX6_check_74 : decode cX6_check 74 = .ok (.getfield 78, 3) := dk_180 0 78 (dk_at dksX6_check_3 5 rfl rfl)
theorem dX6_check_77 : decode cX6_check 77 = .ok (.aload_n 0, 1) := dk_42 (dk_at dksX6_check_3 8 rfl rfl)
theorem dX6_check_78 : decode cX6_check 78 = .ok (.getfield 19, 3) := dk_180 0 19 (dk_at dksX6_check_3 9 rfl rfl)
theorem dX6_check_81 : decode cX6_check 81 = .ok (.iload 4, 2) := dk_21 4 (dk_at dksX6_check_3 12 rfl rfl)
theorem dX6_check_83 : decode cX6_check 83 = .ok (.aaload, 1) := dk_50 (dk_at dksX6_check_3 14 rfl rfl)
theorem dX6_check_84 : decode cX6_check 84 = .ok (.aload_n 2, 1) := dk_44 (dk_at dksX6_check_3 15 rfl rfl)
theorem dX6_check_85 : decode cX6_check 85 = .ok (.getfield 68, 3) := dk_180 0 68 (dk_at dksX6_check_3 16 rfl rfl)
theorem dX6_check_88 : decode cX6_check 88 = .ok (.iload_n 3, 1) := dk_29 (dk_at dksX6_check_3 19 rfl rfl)
theorem dX6_check_89 : decode cX6_check 89 = .ok (.iaload, 1) := dk_46 (dk_at dksX6_check_3 20 rfl rfl)
theorem dX6_check_90 : decode cX6_check 90 = .ok (.invokevirtual 51, 3) := dk_182 0 51 (dk_at dksX6_check_3 21 rfl rfl)
theorem dX6_check_93 : decode cX6_check 93 = .ok (.aaload, 1) := dk_50 (dk_at dksX6_check_4 0 rfl rfl)
theorem dX6_check_94 : decode cX6_check 94 = .ok (.invokevirtual 84, 3) := dk_182 0 84 (dk_at dksX6_check_4 1 rfl rfl)
theorem dX6_check_97 : decode cX6_check 97 = .ok (.aload_n 0, 1) := dk_42 (dk_at dksX6_check_4 4 rfl rfl)
theorem dX6_check_98 : decode cX6_check 98 = .ok (.iload_n 1, 1) := dk_27 (dk_at dksX6_check_4 5 rfl rfl)
theorem dX6_check_99 : decode cX6_check 99 = .ok (.iconst 1, 1) := dk_4 (dk_at dksX6_check_4 6 rfl rfl)
theorem dX6_check_100 : decode cX6_check 100 = .ok (.iadd, 1) := dk_96 (dk_at dksX6_check_4 7 rfl rfl)
theorem dX6_check_101 : decode cX6_check 101 = .ok (.invokevirtual 88, 3) := dk_182 0 88 (dk_at dksX6_check_4 8 rfl rfl)
theorem dX6_check_104 : decode cX6_check 104 = .ok (.istore 5, 2) := dk_54 5 (dk_at dksX6_check_4 11 rfl rfl)
theorem dX6_check_106 : decode cX6_check 106 = .ok (.iload 5, 2) := dk_21 5 (dk_at dksX6_check_4 13 rfl rfl)
theorem dX6_check_108 : decode cX6_check 108 = .ok (.ifCond .lt 14, 3) := dk_155 0 14 (dk_at dksX6_check_4 15 rfl rfl)
theorem dX6_check_111 : decode cX6_check 111 = .ok (.aload_n 0, 1) := dk_42 (dk_at dksX6_check_4 18 rfl rfl)
theorem dX6_check_112 : decode cX6_check 112 = .ok (.aload_n 0, 1) := dk_42 (dk_at dksX6_check_4 19 rfl rfl)
theorem dX6_check_113 : decode cX6_check 113 = .ok (.getfield 28, 3) := dk_180 0 28 (dk_at dksX6_check_4 20 rfl rfl)
theorem dX6_check_116 : decode cX6_check 116 = .ok (.invokevirtual 91, 3) := dk_182 0 91 (dk_at dksX6_check_5 0 rfl rfl)
theorem dX6_check_119 : decode cX6_check 119 = .ok (.iload 5, 2) := dk_21 5 (dk_at dksX6_check_5 3 rfl rfl)
theorem dX6_check_121 : decode cX6_check 121 = .ok (.ireturn, 1) := dk_172 (dk_at dksX6_check_5 5 rfl rfl)
theorem dX6_check_122 : decode cX6_check 122 = .ok (.iinc 4 1, 3) := dk_132 4 1 (dk_at dksX6_check_5 6 rfl rfl)
theorem dX6_check_125 : decode cX6_check 125 = .ok (.goto (-105), 3) := dk_167 255 151 (dk_at dksX6_check_5 9 rfl rfl)
theorem dX6_check_128 : decode cX6_check 128 = .ok (.iinc 3 1, 3) := dk_132 3 1 (dk_at dksX6_check_5 12 rfl rfl)
theorem dX6_check_131 : decode cX6_check 131 = .ok (.goto (-122), 3) := dk_167 255 134 (dk_at dksX6_check_5 15 rfl rfl)
theorem dX6_check_134 : decode cX6_check 134 = .ok (.bipush (-4), 2) := dk_16 252 (dk_at dksX6_check_5 18 rfl rfl)
theorem dX6_check_136 : decode cX6_check 136 = .ok (.ireturn, 1) := dk_172 (dk_at dksX6_check_5 20 rfl rfl)
abbrev cX6_sift : ByteArray := prog_2_method_6_code
def yX6_sift : MethodName := ⟨RX6, "sift", "(I)I"⟩
def dkwX6_sift_3 : List UInt8 := [182, 0, 84, 132, 2, 1, 167, 255, 181, 16, 252, 172]
abbrev dktX6_sift_3 : List UInt8 := dkwX6_sift_3 ++ []
def dkwX6_sift_2 : List UInt8 := [28, 50, 180, 0, 40, 159, 0, 21, 42, 180, 0, 28, 42, 180, 0, 11, 28, 50, 180, 0, 78, 29, 50]
abbrev dktX6_sift_2 : List UInt8 := dkwX6_sift_2 ++ dktX6_sift_3
def dkwX6_sift_1 : List UInt8 := [62, 42, 180, 0, 11, 28, 50, 180, 0, 71, 29, 184, 0, 44, 154, 0, 5, 28, 172, 29, 42, 180, 0, 11]
abbrev dktX6_sift_1 : List UInt8 := dkwX6_sift_1 ++ dktX6_sift_2
def dkwX6_sift_0 : List UInt8 := [27, 61, 28, 16, 24, 162, 0, 75, 42, 180, 0, 28, 42, 180, 0, 11, 28, 50, 180, 0, 40, 182, 0, 51]
abbrev dktX6_sift_0 : List UInt8 := dkwX6_sift_0 ++ dktX6_sift_1
theorem dksX6_sift_0 : cX6_sift.data.toList.drop 0 = dktX6_sift_0 := by decide +kernel
theorem dksX6_sift_1 : cX6_sift.data.toList.drop 24 = dktX6_sift_1 := dk_seg dksX6_sift_0 24 rfl rfl
theorem dksX6_sift_2 : cX6_sift.data.toList.drop 48 = dktX6_sift_2 := dk_seg dksX6_sift_1 24 rfl rfl
theorem dksX6_sift_3 : cX6_sift.data.toList.drop 71 = dktX6_sift_3 := dk_seg dksX6_sift_2 23 rfl rfl
theorem dX6_sift_0 : decode cX6_sift 0 = .ok (.iload_n 1, 1) := dk_27 (dk_at dksX6_sift_0 0 rfl rfl)
theorem dX6_sift_1 : decode cX6_sift 1 = .ok (.istore_n 2, 1) := dk_61 (dk_at dksX6_sift_0 1 rfl rfl)
theorem dX6_sift_2 : decode cX6_sift 2 = .ok (.iload_n 2, 1) := dk_28 (dk_at dksX6_sift_0 2 rfl rfl)
theorem dX6_sift_3 : decode cX6_sift 3 = .ok (.bipush 24, 2) := dk_16 24 (dk_at dksX6_sift_0 3 rfl rfl)
theorem dX6_sift_5 : decode cX6_sift 5 = .ok (.if_icmp .ge 75, 3) := dk_162 0 75 (dk_at dksX6_sift_0 5 rfl rfl)
theorem dX6_sift_8 : decode cX6_sift 8 = .ok (.aload_n 0, 1) := dk_42 (dk_at dksX6_sift_0 8 rfl rfl)
theorem dX6_sift_9 : decode cX6_sift 9 = .ok (.getfield 28, 3) := dk_180 0 28 (dk_at dksX6_sift_0 9 rfl rfl)
theorem dX6_sift_12 : decode cX6_sift 12 = .ok (.aload_n 0, 1) := dk_42 (dk_at dksX6_sift_0 12 rfl rfl)
theorem dX6_sift_13 : decode cX6_sift 13 = .ok (.getfield 11, 3) := dk_180 0 11 (dk_at dksX6_sift_0 13 rfl rfl)
theorem dX6_sift_16 : decode cX6_sift 16 = .ok (.iload_n 2, 1) := dk_28 (dk_at dksX6_sift_0 16 rfl rfl)
theorem dX6_sift_17 : decode cX6_sift 17 = .ok (.aaload, 1) := dk_50 (dk_at dksX6_sift_0 17 rfl rfl)
theorem dX6_sift_18 : decode cX6_sift 18 = .ok (.getfield 40, 3) := dk_180 0 40 (dk_at dksX6_sift_0 18 rfl rfl)
theorem dX6_sift_21 : decode cX6_sift 21 = .ok (.invokevirtual 51, 3) := dk_182 0 51 (dk_at dksX6_sift_0 21 rfl rfl)
theorem dX6_sift_24 : decode cX6_sift 24 = .ok (.istore_n 3, 1) := dk_62 (dk_at dksX6_sift_1 0 rfl rfl)
theorem dX6_sift_25 : decode cX6_sift 25 = .ok (.aload_n 0, 1) := dk_42 (dk_at dksX6_sift_1 1 rfl rfl)
theorem dX6_sift_26 : decode cX6_sift 26 = .ok (.getfield 11, 3) := dk_180 0 11 (dk_at dksX6_sift_1 2 rfl rfl)
theorem dX6_sift_29 : decode cX6_sift 29 = .ok (.iload_n 2, 1) := dk_28 (dk_at dksX6_sift_1 5 rfl rfl)
theorem dX6_sift_30 : decode cX6_sift 30 = .ok (.aaload, 1) := dk_50 (dk_at dksX6_sift_1 6 rfl rfl)
theorem dX6_sift_31 : decode cX6_sift 31 = .ok (.getfield 71, 3) := dk_180 0 71 (dk_at dksX6_sift_1 7 rfl rfl)
theorem dX6_sift_34 : decode cX6_sift 34 = .ok (.iload_n 3, 1) := dk_29 (dk_at dksX6_sift_1 10 rfl rfl)
theorem dX6_sift_35 : decode cX6_sift 35 = .ok (.invokestatic 44, 3) := dk_184 0 44 (dk_at dksX6_sift_1 11 rfl rfl)
theorem dX6_sift_38 : decode cX6_sift 38 = .ok (.ifCond .ne 5, 3) := dk_154 0 5 (dk_at dksX6_sift_1 14 rfl rfl)
theorem dX6_sift_41 : decode cX6_sift 41 = .ok (.iload_n 2, 1) := dk_28 (dk_at dksX6_sift_1 17 rfl rfl)
theorem dX6_sift_42 : decode cX6_sift 42 = .ok (.ireturn, 1) := dk_172 (dk_at dksX6_sift_1 18 rfl rfl)
theorem dX6_sift_43 : decode cX6_sift 43 = .ok (.iload_n 3, 1) := dk_29 (dk_at dksX6_sift_1 19 rfl rfl)
theorem dX6_sift_44 : decode cX6_sift 44 = .ok (.aload_n 0, 1) := dk_42 (dk_at dksX6_sift_1 20 rfl rfl)
theorem dX6_sift_45 : decode cX6_sift 45 = .ok (.getfield 11, 3) := dk_180 0 11 (dk_at dksX6_sift_1 21 rfl rfl)
theorem dX6_sift_48 : decode cX6_sift 48 = .ok (.iload_n 2, 1) := dk_28 (dk_at dksX6_sift_2 0 rfl rfl)
theorem dX6_sift_49 : decode cX6_sift 49 = .ok (.aaload, 1) := dk_50 (dk_at dksX6_sift_2 1 rfl rfl)
theorem dX6_sift_50 : decode cX6_sift 50 = .ok (.getfield 40, 3) := dk_180 0 40 (dk_at dksX6_sift_2 2 rfl rfl)
theorem dX6_sift_53 : decode cX6_sift 53 = .ok (.if_icmp .eq 21, 3) := dk_159 0 21 (dk_at dksX6_sift_2 5 rfl rfl)
theorem dX6_sift_56 : decode cX6_sift 56 = .ok (.aload_n 0, 1) := dk_42 (dk_at dksX6_sift_2 8 rfl rfl)
theorem dX6_sift_57 : decode cX6_sift 57 = .ok (.getfield 28, 3) := dk_180 0 28 (dk_at dksX6_sift_2 9 rfl rfl)
theorem dX6_sift_60 : decode cX6_sift 60 = .ok (.aload_n 0, 1) := dk_42 (dk_at dksX6_sift_2 12 rfl rfl)
theorem dX6_sift_61 : decode cX6_sift 61 = .ok (.getfield 11, 3) := dk_180 0 11 (dk_at dksX6_sift_2 13 rfl rfl)
theorem dX6_sift_64 : decode cX6_sift 64 = .ok (.iload_n 2, 1) := dk_28 (dk_at dksX6_sift_2 16 rfl rfl)
theorem dX6_sift_65 : decode cX6_sift 65 = .ok (.aaload, 1) := dk_50 (dk_at dksX6_sift_2 17 rfl rfl)
theorem dX6_sift_66 : decode cX6_sift 66 = .ok (.getfield 78, 3) := dk_180 0 78 (dk_at dksX6_sift_2 18 rfl rfl)
theorem dX6_sift_69 : decode cX6_sift 69 = .ok (.iload_n 3, 1) := dk_29 (dk_at dksX6_sift_2 21 rfl rfl)
theorem dX6_sift_70 : decode cX6_sift 70 = .ok (.aaload, 1) := dk_50 (dk_at dksX6_sift_2 22 rfl rfl)
theorem dX6_sift_71 : decode cX6_sift 71 = .ok (.invokevirtual 84, 3) := dk_182 0 84 (dk_at dksX6_sift_3 0 rfl rfl)
theorem dX6_sift_74 : decode cX6_sift 74 = .ok (.iinc 2 1, 3) := dk_132 2 1 (dk_at dksX6_sift_3 3 rfl rfl)
theorem dX6_sift_77 : decode cX6_sift 77 = .ok (.goto (-75), 3) := dk_167 255 181 (dk_at dksX6_sift_3 6 rfl rfl)
theorem dX6_sift_80 : decode cX6_sift 80 = .ok (.bipush (-4), 2) := dk_16 252 (dk_at dksX6_sift_3 9 rfl rfl)
theorem dX6_sift_82 : decode cX6_sift 82 = .ok (.ireturn, 1) := dk_172 (dk_at dksX6_sift_3 11 rfl rfl)
abbrev cX6_order : ByteArray := prog_2_method_9_code
def yX6_order : MethodName := ⟨RX6, "order", "(I)I"⟩
def dkwX6_order_1 : List UInt8 := [132, 3, 1, 167, 255, 235, 28, 172]
abbrev dktX6_order_1 : List UInt8 := dkwX6_order_1 ++ []
def dkwX6_order_0 : List UInt8 := [4, 61, 27, 62, 29, 16, 24, 162, 0, 21, 28, 42, 180, 0, 11, 29, 50, 180, 0, 67, 104, 61]
abbrev dktX6_order_0 : List UInt8 := dkwX6_order_0 ++ dktX6_order_1
theorem dksX6_order_0 : cX6_order.data.toList.drop 0 = dktX6_order_0 := by decide +kernel
theorem dksX6_order_1 : cX6_order.data.toList.drop 22 = dktX6_order_1 := dk_seg dksX6_order_0 22 rfl rfl
theorem dX6_order_0 : decode cX6_order 0 = .ok (.iconst 1, 1) := dk_4 (dk_at dksX6_order_0 0 rfl rfl)
theorem dX6_order_1 : decode cX6_order 1 = .ok (.istore_n 2, 1) := dk_61 (dk_at dksX6_order_0 1 rfl rfl)
theorem dX6_order_2 : decode cX6_order 2 = .ok (.iload_n 1, 1) := dk_27 (dk_at dksX6_order_0 2 rfl rfl)
theorem dX6_order_3 : decode cX6_order 3 = .ok (.istore_n 3, 1) := dk_62 (dk_at dksX6_order_0 3 rfl rfl)
theorem dX6_order_4 : decode cX6_order 4 = .ok (.iload_n 3, 1) := dk_29 (dk_at dksX6_order_0 4 rfl rfl)
theorem dX6_order_5 : decode cX6_order 5 = .ok (.bipush 24, 2) := dk_16 24 (dk_at dksX6_order_0 5 rfl rfl)
theorem dX6_order_7 : decode cX6_order 7 = .ok (.if_icmp .ge 21, 3) := dk_162 0 21 (dk_at dksX6_order_0 7 rfl rfl)
theorem dX6_order_10 : decode cX6_order 10 = .ok (.iload_n 2, 1) := dk_28 (dk_at dksX6_order_0 10 rfl rfl)
theorem dX6_order_11 : decode cX6_order 11 = .ok (.aload_n 0, 1) := dk_42 (dk_at dksX6_order_0 11 rfl rfl)
theorem dX6_order_12 : decode cX6_order 12 = .ok (.getfield 11, 3) := dk_180 0 11 (dk_at dksX6_order_0 12 rfl rfl)
theorem dX6_order_15 : decode cX6_order 15 = .ok (.iload_n 3, 1) := dk_29 (dk_at dksX6_order_0 15 rfl rfl)
theorem dX6_order_16 : decode cX6_order 16 = .ok (.aaload, 1) := dk_50 (dk_at dksX6_order_0 16 rfl rfl)
theorem dX6_order_17 : decode cX6_order 17 = .ok (.getfield 67, 3) := dk_180 0 67 (dk_at dksX6_order_0 17 rfl rfl)
theorem dX6_order_20 : decode cX6_order 20 = .ok (.imul, 1) := dk_104 (dk_at dksX6_order_0 20 rfl rfl)
theorem dX6_order_21 : decode cX6_order 21 = .ok (.istore_n 2, 1) := dk_61 (dk_at dksX6_order_0 21 rfl rfl)
theorem dX6_order_22 : decode cX6_order 22 = .ok (.iinc 3 1, 3) := dk_132 3 1 (dk_at dksX6_order_1 0 rfl rfl)
theorem dX6_order_25 : decode cX6_order 25 = .ok (.goto (-21), 3) := dk_167 255 235 (dk_at dksX6_order_1 3 rfl rfl)
theorem dX6_order_28 : decode cX6_order 28 = .ok (.iload_n 2, 1) := dk_28 (dk_at dksX6_order_1 6 rfl rfl)
theorem dX6_order_29 : decode cX6_order 29 = .ok (.ireturn, 1) := dk_172 (dk_at dksX6_order_1 7 rfl rfl)
abbrev cX6_isMade : ByteArray := prog_2_method_10_code
def yX6_isMade : MethodName := ⟨RX6, "isMade", "(LEightBlocks$Move;)Z"⟩
def dkwX6_isMade_0 : List UInt8 := [42, 180, 0, 28, 43, 182, 0, 59, 87, 42, 3, 182, 0, 88, 156, 0, 7, 4, 167, 0, 4, 3, 172]
abbrev dktX6_isMade_0 : List UInt8 := dkwX6_isMade_0 ++ []
theorem dksX6_isMade_0 : cX6_isMade.data.toList.drop 0 = dktX6_isMade_0 := by decide +kernel
theorem dX6_isMade_0 : decode cX6_isMade 0 = .ok (.aload_n 0, 1) := dk_42 (dk_at dksX6_isMade_0 0 rfl rfl)
theorem dX6_isMade_1 : decode cX6_isMade 1 = .ok (.getfield 28, 3) := dk_180 0 28 (dk_at dksX6_isMade_0 1 rfl rfl)
theorem dX6_isMade_4 : decode cX6_isMade 4 = .ok (.aload_n 1, 1) := dk_43 (dk_at dksX6_isMade_0 4 rfl rfl)
theorem dX6_isMade_5 : decode cX6_isMade 5 = .ok (.invokevirtual 59, 3) := dk_182 0 59 (dk_at dksX6_isMade_0 5 rfl rfl)
theorem dX6_isMade_8 : decode cX6_isMade 8 = .ok (.pop, 1) := dk_87 (dk_at dksX6_isMade_0 8 rfl rfl)
theorem dX6_isMade_9 : decode cX6_isMade 9 = .ok (.aload_n 0, 1) := dk_42 (dk_at dksX6_isMade_0 9 rfl rfl)
theorem dX6_isMade_10 : decode cX6_isMade 10 = .ok (.iconst 0, 1) := dk_3 (dk_at dksX6_isMade_0 10 rfl rfl)
theorem dX6_isMade_11 : decode cX6_isMade 11 = .ok (.invokevirtual 88, 3) := dk_182 0 88 (dk_at dksX6_isMade_0 11 rfl rfl)
theorem dX6_isMade_14 : decode cX6_isMade 14 = .ok (.ifCond .ge 7, 3) := dk_156 0 7 (dk_at dksX6_isMade_0 14 rfl rfl)
theorem dX6_isMade_17 : decode cX6_isMade 17 = .ok (.iconst 1, 1) := dk_4 (dk_at dksX6_isMade_0 17 rfl rfl)
theorem dX6_isMade_18 : decode cX6_isMade 18 = .ok (.goto 4, 3) := dk_167 0 4 (dk_at dksX6_isMade_0 18 rfl rfl)
theorem dX6_isMade_21 : decode cX6_isMade 21 = .ok (.iconst 0, 1) := dk_3 (dk_at dksX6_isMade_0 21 rfl rfl)
theorem dX6_isMade_22 : decode cX6_isMade 22 = .ok (.ireturn, 1) := dk_172 (dk_at dksX6_isMade_0 22 rfl rfl)
abbrev cX6_first : ByteArray := prog_2_method_11_code
def yX6_first : MethodName := ⟨RX6, "first", "([II)LEightBlocks$Move;"⟩
def dkwX6_first_6 : List UInt8 := [180, 0, 78, 21, 6, 50, 182, 0, 104, 132, 4, 1, 167, 255, 125, 45, 176]
abbrev dktX6_first_6 : List UInt8 := dkwX6_first_6 ++ []
def dkwX6_first_5 : List UInt8 := [180, 0, 68, 21, 7, 46, 167, 0, 5, 21, 6, 54, 6, 132, 7, 1, 167, 255, 201, 45, 25, 5]
abbrev dktX6_first_5 : List UInt8 := dkwX6_first_5 ++ dktX6_first_6
def dkwX6_first_4 : List UInt8 := [45, 25, 5, 180, 0, 68, 21, 7, 46, 182, 0, 51, 45, 21, 6, 182, 0, 51, 162, 0, 14, 25, 5]
abbrev dktX6_first_4 : List UInt8 := dkwX6_first_4 ++ dktX6_first_5
def dkwX6_first_3 : List UInt8 := [154, 0, 5, 1, 176, 3, 54, 7, 21, 7, 25, 5, 180, 0, 67, 162, 0, 51, 21, 4, 28, 161, 0, 45]
abbrev dktX6_first_3 : List UInt8 := dkwX6_first_3 ++ dktX6_first_4
def dkwX6_first_2 : List UInt8 := [182, 0, 101, 167, 0, 8, 25, 5, 180, 0, 40, 54, 6, 25, 5, 180, 0, 71, 21, 6, 184, 0, 44]
abbrev dktX6_first_2 : List UInt8 := dkwX6_first_2 ++ dktX6_first_3
def dkwX6_first_1 : List UInt8 := [162, 0, 130, 42, 180, 0, 11, 21, 4, 50, 58, 5, 21, 4, 28, 162, 0, 14, 45, 43, 21, 4, 46]
abbrev dktX6_first_1 : List UInt8 := dkwX6_first_1 ++ dktX6_first_2
def dkwX6_first_0 : List UInt8 := [187, 0, 17, 89, 183, 0, 27, 42, 180, 0, 35, 182, 0, 59, 78, 3, 54, 4, 21, 4, 16, 24]
abbrev dktX6_first_0 : List UInt8 := dkwX6_first_0 ++ dktX6_first_1
theorem dksX6_first_0 : cX6_first.data.toList.drop 0 = dktX6_first_0 := by decide +kernel
theorem dksX6_first_1 : cX6_first.data.toList.drop 22 = dktX6_first_1 := dk_seg dksX6_first_0 22 rfl rfl
theorem dksX6_first_2 : cX6_first.data.toList.drop 45 = dktX6_first_2 := dk_seg dksX6_first_1 23 rfl rfl
theorem dksX6_first_3 : cX6_first.data.toList.drop 68 = dktX6_first_3 := dk_seg dksX6_first_2 23 rfl rfl
theorem dksX6_first_4 : cX6_first.data.toList.drop 92 = dktX6_first_4 := dk_seg dksX6_first_3 24 rfl rfl
theorem dksX6_first_5 : cX6_first.data.toList.drop 115 = dktX6_first_5 := dk_seg dksX6_first_4 23 rfl rfl
theorem dksX6_first_6 : cX6_first.data.toList.drop 137 = dktX6_first_6 := dk_seg dksX6_first_5 22 rfl rfl
theorem dX6_first_0 : decode cX6_first 0 = .ok (.new 17, 3) := dk_187 0 17 (dk_at dksX6_first_0 0 rfl rfl)
theorem dX6_first_3 : decode cX6_first 3 = .ok (.dup, 1) := dk_89 (dk_at dksX6_first_0 3 rfl rfl)
theorem dX6_first_4 : decode cX6_first 4 = .ok (.invokespecial 27, 3) := dk_183 0 27 (dk_at dksX6_first_0 4 rfl rfl)
theorem dX6_first_7 : decode cX6_first 7 = .ok (.aload_n 0, 1) := dk_42 (dk_at dksX6_first_0 7 rfl rfl)
theorem dX6_first_8 : decode cX6_first 8 = .ok (.getfield 35, 3) := dk_180 0 35 (dk_at dksX6_first_0 8 rfl rfl)
theorem dX6_first_11 : decode cX6_first 11 = .ok (.invokevirtual 59, 3) := dk_182 0 59 (dk_at dksX6_first_0 11 rfl rfl)
theorem dX6_first_14 : decode cX6_first 14 = .ok (.astore_n 3, 1) := dk_78 (dk_at dksX6_first_0 14 rfl rfl)
theorem dX6_first_15 : decode cX6_first 15 = .ok (.iconst 0, 1) := dk_3 (dk_at dksX6_first_0 15 rfl rfl)
theorem dX6_first_16 : decode cX6_first 16 = .ok (.istore 4, 2) := dk_54 4 (dk_at dksX6_first_0 16 rfl rfl)
theorem dX6_first_18 : decode cX6_first 18 = .ok (.iload 4, 2) := dk_21 4 (dk_at dksX6_first_0 18 rfl rfl)
theorem dX6_first_20 : decode cX6_first 20 = .ok (.bipush 24, 2) := dk_16 24 (dk_at dksX6_first_0 20 rfl rfl)
theorem dX6_first_22 : decode cX6_first 22 = .ok (.if_icmp .ge 130, 3) := dk_162 0 130 (dk_at dksX6_first_1 0 rfl rfl)
theorem dX6_first_25 : decode cX6_first 25 = .ok (.aload_n 0, 1) := dk_42 (dk_at dksX6_first_1 3 rfl rfl)
theorem dX6_first_26 : decode cX6_first 26 = .ok (.getfield 11, 3) := dk_180 0 11 (dk_at dksX6_first_1 4 rfl rfl)
theorem dX6_first_29 : decode cX6_first 29 = .ok (.iload 4, 2) := dk_21 4 (dk_at dksX6_first_1 7 rfl rfl)
theorem dX6_first_31 : decode cX6_first 31 = .ok (.aaload, 1) := dk_50 (dk_at dksX6_first_1 9 rfl rfl)
theorem dX6_first_32 : decode cX6_first 32 = .ok (.astore 5, 2) := dk_58 5 (dk_at dksX6_first_1 10 rfl rfl)
theorem dX6_first_34 : decode cX6_first 34 = .ok (.iload 4, 2) := dk_21 4 (dk_at dksX6_first_1 12 rfl rfl)
theorem dX6_first_36 : decode cX6_first 36 = .ok (.iload_n 2, 1) := dk_28 (dk_at dksX6_first_1 14 rfl rfl)
theorem dX6_first_37 : decode cX6_first 37 = .ok (.if_icmp .ge 14, 3) := dk_162 0 14 (dk_at dksX6_first_1 15 rfl rfl)
theorem dX6_first_40 : decode cX6_first 40 = .ok (.aload_n 3, 1) := dk_45 (dk_at dksX6_first_1 18 rfl rfl)
theorem dX6_first_41 : decode cX6_first 41 = .ok (.aload_n 1, 1) := dk_43 (dk_at dksX6_first_1 19 rfl rfl)
theorem dX6_first_42 : decode cX6_first 42 = .ok (.iload 4, 2) := dk_21 4 (dk_at dksX6_first_1 20 rfl rfl)
theorem dX6_first_44 : decode cX6_first 44 = .ok (.iaload, 1) := dk_46 (dk_at dksX6_first_1 22 rfl rfl)
theorem dX6_first_45 : decode cX6_first 45 = .ok (.invokevirtual 101, 3) := dk_182 0 101 (dk_at dksX6_first_2 0 rfl rfl)
theorem dX6_first_48 : decode cX6_first 48 = .ok (.goto 8, 3) := dk_167 0 8 (dk_at dksX6_first_2 3 rfl rfl)
theorem dX6_first_51 : decode cX6_first 51 = .ok (.aload 5, 2) := dk_25 5 (dk_at dksX6_first_2 6 rfl rfl)
theorem dX6_first_53 : decode cX6_first 53 = .ok (.getfield 40, 3) := dk_180 0 40 (dk_at dksX6_first_2 8 rfl rfl)
theorem dX6_first_56 : decode cX6_first 56 = .ok (.istore 6, 2) := dk_54 6 (dk_at dksX6_first_2 11 rfl rfl)
theorem dX6_first_58 : decode cX6_first 58 = .ok (.aload 5, 2) := dk_25 5 (dk_at dksX6_first_2 13 rfl rfl)
theorem dX6_first_60 : decode cX6_first 60 = .ok (.getfield 71, 3) := dk_180 0 71 (dk_at dksX6_first_2 15 rfl rfl)
theorem dX6_first_63 : decode cX6_first 63 = .ok (.iload 6, 2) := dk_21 6 (dk_at dksX6_first_2 18 rfl rfl)
theorem dX6_first_65 : decode cX6_first 65 = .ok (.invokestatic 44, 3) := dk_184 0 44 (dk_at dksX6_first_2 20 rfl rfl)
theorem dX6_first_68 : decode cX6_first 68 = .ok (.ifCond .ne 5, 3) := dk_154 0 5 (dk_at dksX6_first_3 0 rfl rfl)
theorem dX6_first_71 : decode cX6_first 71 = .ok (.aconst_null, 1) := dk_1 (dk_at dksX6_first_3 3 rfl rfl)
theorem dX6_first_72 : decode cX6_first 72 = .ok (.areturn, 1) := dk_176 (dk_at dksX6_first_3 4 rfl rfl)
theorem dX6_first_73 : decode cX6_first 73 = .ok (.iconst 0, 1) := dk_3 (dk_at dksX6_first_3 5 rfl rfl)
theorem dX6_first_74 : decode cX6_first 74 = .ok (.istore 7, 2) := dk_54 7 (dk_at dksX6_first_3 6 rfl rfl)
theorem dX6_first_76 : decode cX6_first 76 = .ok (.iload 7, 2) := dk_21 7 (dk_at dksX6_first_3 8 rfl rfl)
theorem dX6_first_78 : decode cX6_first 78 = .ok (.aload 5, 2) := dk_25 5 (dk_at dksX6_first_3 10 rfl rfl)
theorem dX6_first_80 : decode cX6_first 80 = .ok (.getfield 67, 3) := dk_180 0 67 (dk_at dksX6_first_3 12 rfl rfl)
theorem dX6_first_83 : decode cX6_first 83 = .ok (.if_icmp .ge 51, 3) := dk_162 0 51 (dk_at dksX6_first_3 15 rfl rfl)
theorem dX6_first_86 : decode cX6_first 86 = .ok (.iload 4, 2) := dk_21 4 (dk_at dksX6_first_3 18 rfl rfl)
theorem dX6_first_88 : decode cX6_first 88 = .ok (.iload_n 2, 1) := dk_28 (dk_at dksX6_first_3 20 rfl rfl)
theorem dX6_first_89 : decode cX6_first 89 = .ok (.if_icmp .lt 45, 3) := dk_161 0 45 (dk_at dksX6_first_3 21 rfl rfl)
theorem dX6_first_92 : decode cX6_first 92 = .ok (.aload_n 3, 1) := dk_45 (dk_at dksX6_first_4 0 rfl rfl)
theorem dX6_first_93 : decode cX6_first 93 = .ok (.aload 5, 2) := dk_25 5 (dk_at dksX6_first_4 1 rfl rfl)
theorem dX6_first_95 : decode cX6_first 95 = .ok (.getfield 68, 3) := dk_180 0 68 (dk_at dksX6_first_4 3 rfl rfl)
theorem dX6_first_98 : decode cX6_first 98 = .ok (.iload 7, 2) := dk_21 7 (dk_at dksX6_first_4 6 rfl rfl)
theorem dX6_first_100 : decode cX6_first 100 = .ok (.iaload, 1) := dk_46 (dk_at dksX6_first_4 8 rfl rfl)
theorem dX6_first_101 : decode cX6_first 101 = .ok (.invokevirtual 51, 3) := dk_182 0 51 (dk_at dksX6_first_4 9 rfl rfl)
theorem dX6_first_104 : decode cX6_first 104 = .ok (.aload_n 3, 1) := dk_45 (dk_at dksX6_first_4 12 rfl rfl)
theorem dX6_first_105 : decode cX6_first 105 = .ok (.iload 6, 2) := dk_21 6 (dk_at dksX6_first_4 13 rfl rfl)
theorem dX6_first_107 : decode cX6_first 107 = .ok (.invokevirtual 51, 3) := dk_182 0 51 (dk_at dksX6_first_4 15 rfl rfl)
theorem dX6_first_110 : decode cX6_first 110 = .ok (.if_icmp .ge 14, 3) := dk_162 0 14 (dk_at dksX6_first_4 18 rfl rfl)
theorem dX6_first_113 : decode cX6_first 113 = .ok (.aload 5, 2) := dk_25 5 (dk_at dksX6_first_4 21 rfl rfl)
theorem dX6_first_115 : decode cX6_first 115 = .ok (.getfield 68, 3) := dk_180 0 68 (dk_at dksX6_first_5 0 rfl rfl)
theorem dX6_first_118 : decode cX6_first 118 = .ok (.iload 7, 2) := dk_21 7 (dk_at dksX6_first_5 3 rfl rfl)
theorem dX6_first_120 : decode cX6_first 120 = .ok (.iaload, 1) := dk_46 (dk_at dksX6_first_5 5 rfl rfl)
theorem dX6_first_121 : decode cX6_first 121 = .ok (.goto 5, 3) := dk_167 0 5 (dk_at dksX6_first_5 6 rfl rfl)
theorem dX6_first_124 : decode cX6_first 124 = .ok (.iload 6, 2) := dk_21 6 (dk_at dksX6_first_5 9 rfl rfl)
theorem dX6_first_126 : decode cX6_first 126 = .ok (.istore 6, 2) := dk_54 6 (dk_at dksX6_first_5 11 rfl rfl)
theorem dX6_first_128 : decode cX6_first 128 = .ok (.iinc 7 1, 3) := dk_132 7 1 (dk_at dksX6_first_5 13 rfl rfl)
theorem dX6_first_131 : decode cX6_first 131 = .ok (.goto (-55), 3) := dk_167 255 201 (dk_at dksX6_first_5 16 rfl rfl)
theorem dX6_first_134 : decode cX6_first 134 = .ok (.aload_n 3, 1) := dk_45 (dk_at dksX6_first_5 19 rfl rfl)
theorem dX6_first_135 : decode cX6_first 135 = .ok (.aload 5, 2) := dk_25 5 (dk_at dksX6_first_5 20 rfl rfl)
theorem dX6_first_137 : decode cX6_first 137 = .ok (.getfield 78, 3) := dk_180 0 78 (dk_at dksX6_first_6 0 rfl rfl)
theorem dX6_first_140 : decode cX6_first 140 = .ok (.iload 6, 2) := dk_21 6 (dk_at dksX6_first_6 3 rfl rfl)
theorem dX6_first_142 : decode cX6_first 142 = .ok (.aaload, 1) := dk_50 (dk_at dksX6_first_6 5 rfl rfl)
theorem dX6_first_143 : decode cX6_first 143 = .ok (.invokevirtual 104, 3) := dk_182 0 104 (dk_at dksX6_first_6 6 rfl rfl)
theorem dX6_first_146 : decode cX6_first 146 = .ok (.iinc 4 1, 3) := dk_132 4 1 (dk_at dksX6_first_6 9 rfl rfl)
theorem dX6_first_149 : decode cX6_first 149 = .ok (.goto (-131), 3) := dk_167 255 125 (dk_at dksX6_first_6 12 rfl rfl)
theorem dX6_first_152 : decode cX6_first 152 = .ok (.aload_n 3, 1) := dk_45 (dk_at dksX6_first_6 15 rfl rfl)
theorem dX6_first_153 : decode cX6_first 153 = .ok (.areturn, 1) := dk_176 (dk_at dksX6_first_6 16 rfl rfl)
theorem q114 : (Jvm.Cond.initialized "EightBlocks$Chain") ∈ lw_all := lw_g (lw_at lw_m1 19 rfl) rfl
theorem q423 : (Jvm.Cond.instantiable "EightBlocks$Chain" (6 : Nat)) ∈ lw_all := lw_g (lw_at lw_m2 88 rfl) rfl
theorem q425 : (Jvm.Cond.instanceMethod ({ cls := "EightBlocks$Chain", name := "<init>", desc := "()V" } : Jvm.MethodName)) ∈ lw_all := lw_g (lw_at lw_m2 90 rfl) rfl
theorem q426 : (Jvm.Cond.code ({ cls := "EightBlocks$Chain", name := "<init>", desc := "()V" } : Jvm.MethodName) prog_2_method_1_code (2 : Nat) (Option.none : Option Jvm.ClassFile.FieldType)) ∈ lw_all := lw_g (lw_at lw_m2 91 rfl) rfl
theorem q427 : (Jvm.Cond.methodLink "EightBlocks$Chain" (3 : Nat) ({ cls := "java/lang/Object", name := "<init>", desc := "()V" } : Jvm.MethodName)) ∈ lw_all := lw_g (lw_at lw_m2 92 rfl) rfl
theorem q428 : (Jvm.Cond.classLink "EightBlocks$Chain" (9 : Nat) "EightBlocks$Level") ∈ lw_all := lw_g (lw_at lw_m2 93 rfl) rfl
theorem q430 : (Jvm.Cond.classLink "EightBlocks$Chain" (17 : Nat) "EightBlocks$Move") ∈ lw_all := lw_g (lw_at lw_m2 95 rfl) rfl
theorem q431 : (Jvm.Cond.methodLinkNest "EightBlocks$Chain" (27 : Nat) ({ cls := "EightBlocks$Move", name := "<init>", desc := "()V" } : Jvm.MethodName) "EightBlocks") ∈ lw_tbl := lw_at lw_m2 96 rfl
theorem q432 : (Jvm.Cond.classLink "EightBlocks$Chain" (32 : Nat) "EightBlocks$Same") ∈ lw_all := lw_g (lw_at lw_m2 97 rfl) rfl
theorem q434 : (Jvm.Cond.methodLinkNest "EightBlocks$Chain" (34 : Nat) ({ cls := "EightBlocks$Same", name := "<init>", desc := "()V" } : Jvm.MethodName) "EightBlocks") ∈ lw_tbl := lw_at lw_m2 99 rfl
theorem q440 : (Jvm.Cond.methodLinkNest "EightBlocks$Chain" (39 : Nat) ({ cls := "EightBlocks$Level", name := "<init>", desc := "()V" } : Jvm.MethodName) "EightBlocks") ∈ lw_tbl := lw_at lw_m2 105 rfl
theorem q446 : (Jvm.Cond.fieldLinkNest "EightBlocks$Chain" (40 : Nat) "EightBlocks$Level" "base" "I" "EightBlocks") ∈ lw_tbl := lw_at lw_m2 111 rfl
theorem q448 : (Jvm.Cond.fieldLinkNest "EightBlocks$Chain" (78 : Nat) "EightBlocks$Level" "ways" "[LEightBlocks$Move;" "EightBlocks") ∈ lw_tbl := lw_at lw_m2 113 rfl
theorem q450 : (Jvm.Cond.fieldLinkNest "EightBlocks$Chain" (68 : Nat) "EightBlocks$Level" "orbit" "[I" "EightBlocks") ∈ lw_tbl := lw_at lw_m2 115 rfl
theorem q452 : (Jvm.Cond.fieldLinkNest "EightBlocks$Chain" (71 : Nat) "EightBlocks$Level" "set" "I" "EightBlocks") ∈ lw_tbl := lw_at lw_m2 117 rfl
theorem q454 : (Jvm.Cond.fieldLinkNest "EightBlocks$Chain" (67 : Nat) "EightBlocks$Level" "many" "I" "EightBlocks") ∈ lw_tbl := lw_at lw_m2 119 rfl
theorem q466 : (Jvm.Cond.fieldLink "EightBlocks$Chain" (11 : Nat) "EightBlocks$Chain" "levels" "[LEightBlocks$Level;") ∈ lw_all := lw_g (lw_at lw_m2 131 rfl) rfl
theorem q467 : (Jvm.Cond.fieldLink "EightBlocks$Chain" (19 : Nat) "EightBlocks$Chain" "gens" "[LEightBlocks$Move;") ∈ lw_all := lw_g (lw_at lw_m2 132 rfl) rfl
theorem q468 : (Jvm.Cond.fieldLink "EightBlocks$Chain" (23 : Nat) "EightBlocks$Chain" "depths" "[I") ∈ lw_all := lw_g (lw_at lw_m2 133 rfl) rfl
theorem q469 : (Jvm.Cond.fieldLink "EightBlocks$Chain" (48 : Nat) "EightBlocks$Chain" "many" "I") ∈ lw_all := lw_g (lw_at lw_m2 134 rfl) rfl
theorem q470 : (Jvm.Cond.fieldLink "EightBlocks$Chain" (28 : Nat) "EightBlocks$Chain" "got" "LEightBlocks$Move;") ∈ lw_all := lw_g (lw_at lw_m2 135 rfl) rfl
theorem q471 : (Jvm.Cond.fieldLink "EightBlocks$Chain" (35 : Nat) "EightBlocks$Chain" "same" "LEightBlocks$Same;") ∈ lw_all := lw_g (lw_at lw_m2 136 rfl) rfl
theorem q472 : (Jvm.Cond.laysFinal "EightBlocks$Chain" "EightBlocks$Chain" "levels" "[LEightBlocks$Level;") ∈ lw_all := lw_g (lw_at lw_m2 137 rfl) rfl
theorem q473 : (Jvm.Cond.soleField "EightBlocks$Chain" "levels") ∈ lw_all := lw_g (lw_at lw_m2 138 rfl) rfl
theorem q474 : (Jvm.Cond.laysFinal "EightBlocks$Chain" "EightBlocks$Chain" "gens" "[LEightBlocks$Move;") ∈ lw_all := lw_g (lw_at lw_m2 139 rfl) rfl
theorem q475 : (Jvm.Cond.soleField "EightBlocks$Chain" "gens") ∈ lw_all := lw_g (lw_at lw_m2 140 rfl) rfl
theorem q476 : (Jvm.Cond.laysFinal "EightBlocks$Chain" "EightBlocks$Chain" "depths" "[I") ∈ lw_all := lw_g (lw_at lw_m2 141 rfl) rfl
theorem q477 : (Jvm.Cond.soleField "EightBlocks$Chain" "depths") ∈ lw_all := lw_g (lw_at lw_m2 142 rfl) rfl
theorem q478 : (Jvm.Cond.lays "EightBlocks$Chain" "EightBlocks$Chain" "many" "I") ∈ lw_all := lw_g (lw_at lw_m2 143 rfl) rfl
theorem q479 : (Jvm.Cond.soleField "EightBlocks$Chain" "many") ∈ lw_all := lw_g (lw_at lw_m2 144 rfl) rfl
theorem q480 : (Jvm.Cond.laysFinal "EightBlocks$Chain" "EightBlocks$Chain" "got" "LEightBlocks$Move;") ∈ lw_all := lw_g (lw_at lw_m2 145 rfl) rfl
theorem q481 : (Jvm.Cond.soleField "EightBlocks$Chain" "got") ∈ lw_all := lw_g (lw_at lw_m2 146 rfl) rfl
theorem q482 : (Jvm.Cond.laysFinal "EightBlocks$Chain" "EightBlocks$Chain" "same" "LEightBlocks$Same;") ∈ lw_all := lw_g (lw_at lw_m2 147 rfl) rfl
theorem q483 : (Jvm.Cond.soleField "EightBlocks$Chain" "same") ∈ lw_all := lw_g (lw_at lw_m2 148 rfl) rfl
theorem q484 : (Jvm.Cond.superclass "EightBlocks$Chain" "java/lang/Object") ∈ lw_all := lw_g (lw_at lw_m2 149 rfl) rfl
theorem q1387 : (Jvm.Cond.instanceMethod ({ cls := "EightBlocks$Chain", name := "begin", desc := "([II)V" } : Jvm.MethodName)) ∈ lw_all := lw_g (lw_at lw_m6 92 rfl) rfl
theorem q1388 : (Jvm.Cond.selects "EightBlocks$Chain" ({ cls := "EightBlocks$Chain", name := "begin", desc := "([II)V" } : Jvm.MethodName) ({ cls := "EightBlocks$Chain", name := "begin", desc := "([II)V" } : Jvm.MethodName)) ∈ lw_all := lw_g (lw_at lw_m6 93 rfl) rfl
theorem q1389 : (Jvm.Cond.code ({ cls := "EightBlocks$Chain", name := "begin", desc := "([II)V" } : Jvm.MethodName) prog_2_method_2_code (6 : Nat) (Option.none : Option Jvm.ClassFile.FieldType)) ∈ lw_all := lw_g (lw_at lw_m6 94 rfl) rfl
theorem q1390 : (Jvm.Cond.methodLinkNest "EightBlocks$Chain" (44 : Nat) ({ cls := "EightBlocks", name := "has", desc := "(II)Z" } : Jvm.MethodName) "EightBlocks") ∈ lw_tbl := lw_at lw_m6 95 rfl
theorem q1392 : (Jvm.Cond.instanceMethod ({ cls := "EightBlocks$Chain", name := "add", desc := "(LEightBlocks$Move;)V" } : Jvm.MethodName)) ∈ lw_all := lw_g (lw_at lw_m6 97 rfl) rfl
theorem q1393 : (Jvm.Cond.selects "EightBlocks$Chain" ({ cls := "EightBlocks$Chain", name := "add", desc := "(LEightBlocks$Move;)V" } : Jvm.MethodName) ({ cls := "EightBlocks$Chain", name := "add", desc := "(LEightBlocks$Move;)V" } : Jvm.MethodName)) ∈ lw_all := lw_g (lw_at lw_m6 98 rfl) rfl
theorem q1394 : (Jvm.Cond.code ({ cls := "EightBlocks$Chain", name := "add", desc := "(LEightBlocks$Move;)V" } : Jvm.MethodName) prog_2_method_4_code (3 : Nat) (Option.none : Option Jvm.ClassFile.FieldType)) ∈ lw_all := lw_g (lw_at lw_m6 99 rfl) rfl
theorem q1395 : (Jvm.Cond.methodLink "EightBlocks$Chain" (55 : Nat) ({ cls := "EightBlocks$Chain", name := "depthOf", desc := "(LEightBlocks$Move;)I" } : Jvm.MethodName)) ∈ lw_all := lw_g (lw_at lw_m6 100 rfl) rfl
theorem q1396 : (Jvm.Cond.privateMethod ({ cls := "EightBlocks$Chain", name := "depthOf", desc := "(LEightBlocks$Move;)I" } : Jvm.MethodName)) ∈ lw_tbl := lw_at lw_m6 101 rfl
theorem q1397 : (Jvm.Cond.instanceMethod ({ cls := "EightBlocks$Chain", name := "depthOf", desc := "(LEightBlocks$Move;)I" } : Jvm.MethodName)) ∈ lw_all := lw_g (lw_at lw_m6 102 rfl) rfl
theorem q1398 : (Jvm.Cond.code ({ cls := "EightBlocks$Chain", name := "depthOf", desc := "(LEightBlocks$Move;)I" } : Jvm.MethodName) prog_2_method_3_code (3 : Nat) (Option.some Jvm.ClassFile.FieldType.int)) ∈ lw_all := lw_g (lw_at lw_m6 103 rfl) rfl
theorem q1399 : (Jvm.Cond.methodLink "EightBlocks$Chain" (51 : Nat) ({ cls := "EightBlocks$Move", name := "to", desc := "(I)I" } : Jvm.MethodName)) ∈ lw_all := lw_g (lw_at lw_m6 104 rfl) rfl
theorem q1400 : (Jvm.Cond.methodLink "EightBlocks$Chain" (59 : Nat) ({ cls := "EightBlocks$Move", name := "take", desc := "(LEightBlocks$Way;)LEightBlocks$Move;" } : Jvm.MethodName)) ∈ lw_all := lw_g (lw_at lw_m6 105 rfl) rfl
theorem q1402 : (Jvm.Cond.instanceMethod ({ cls := "EightBlocks$Chain", name := "close", desc := "()V" } : Jvm.MethodName)) ∈ lw_all := lw_g (lw_at lw_m6 107 rfl) rfl
theorem q1403 : (Jvm.Cond.selects "EightBlocks$Chain" ({ cls := "EightBlocks$Chain", name := "close", desc := "()V" } : Jvm.MethodName) ({ cls := "EightBlocks$Chain", name := "close", desc := "()V" } : Jvm.MethodName)) ∈ lw_all := lw_g (lw_at lw_m6 108 rfl) rfl
theorem q1404 : (Jvm.Cond.code ({ cls := "EightBlocks$Chain", name := "close", desc := "()V" } : Jvm.MethodName) prog_2_method_8_code (4 : Nat) (Option.none : Option Jvm.ClassFile.FieldType)) ∈ lw_all := lw_g (lw_at lw_m6 109 rfl) rfl
theorem q1405 : (Jvm.Cond.methodLink "EightBlocks$Chain" (94 : Nat) ({ cls := "EightBlocks$Chain", name := "lay", desc := "(I)V" } : Jvm.MethodName)) ∈ lw_all := lw_g (lw_at lw_m6 110 rfl) rfl
theorem q1406 : (Jvm.Cond.privateMethod ({ cls := "EightBlocks$Chain", name := "lay", desc := "(I)V" } : Jvm.MethodName)) ∈ lw_tbl := lw_at lw_m6 111 rfl
theorem q1407 : (Jvm.Cond.instanceMethod ({ cls := "EightBlocks$Chain", name := "lay", desc := "(I)V" } : Jvm.MethodName)) ∈ lw_all := lw_g (lw_at lw_m6 112 rfl) rfl
theorem q1408 : (Jvm.Cond.code ({ cls := "EightBlocks$Chain", name := "lay", desc := "(I)V" } : Jvm.MethodName) prog_2_method_5_code (6 : Nat) (Option.none : Option Jvm.ClassFile.FieldType)) ∈ lw_all := lw_g (lw_at lw_m6 113 rfl) rfl
theorem q1409 : (Jvm.Cond.methodLink "EightBlocks$Chain" (63 : Nat) ({ cls := "EightBlocks$Level", name := "begin", desc := "(LEightBlocks$Way;)V" } : Jvm.MethodName)) ∈ lw_all := lw_g (lw_at lw_m6 114 rfl) rfl
theorem q1419 : (Jvm.Cond.methodLink "EightBlocks$Chain" (74 : Nat) ({ cls := "EightBlocks$Level", name := "reach", desc := "(I)LEightBlocks$Move;" } : Jvm.MethodName)) ∈ lw_all := lw_g (lw_at lw_m6 124 rfl) rfl
theorem q1420 : (Jvm.Cond.methodLink "EightBlocks$Chain" (81 : Nat) ({ cls := "EightBlocks$Move", name := "then", desc := "(LEightBlocks$Way;)LEightBlocks$Move;" } : Jvm.MethodName)) ∈ lw_all := lw_g (lw_at lw_m6 125 rfl) rfl
theorem q1421 : (Jvm.Cond.methodLink "EightBlocks$Chain" (98 : Nat) ({ cls := "EightBlocks$Chain", name := "check", desc := "(I)I" } : Jvm.MethodName)) ∈ lw_all := lw_g (lw_at lw_m6 126 rfl) rfl
theorem q1422 : (Jvm.Cond.privateMethod ({ cls := "EightBlocks$Chain", name := "check", desc := "(I)I" } : Jvm.MethodName)) ∈ lw_tbl := lw_at lw_m6 127 rfl
theorem q1423 : (Jvm.Cond.instanceMethod ({ cls := "EightBlocks$Chain", name := "check", desc := "(I)I" } : Jvm.MethodName)) ∈ lw_all := lw_g (lw_at lw_m6 128 rfl) rfl
theorem q1424 : (Jvm.Cond.code ({ cls := "EightBlocks$Chain", name := "check", desc := "(I)I" } : Jvm.MethodName) prog_2_method_7_code (6 : Nat) (Option.some Jvm.ClassFile.FieldType.int)) ∈ lw_all := lw_g (lw_at lw_m6 129 rfl) rfl
theorem q1425 : (Jvm.Cond.methodLink "EightBlocks$Chain" (84 : Nat) ({ cls := "EightBlocks$Move", name := "thenBack", desc := "(LEightBlocks$Move;)V" } : Jvm.MethodName)) ∈ lw_all := lw_g (lw_at lw_m6 130 rfl) rfl
theorem q1429 : (Jvm.Cond.methodLink "EightBlocks$Chain" (88 : Nat) ({ cls := "EightBlocks$Chain", name := "sift", desc := "(I)I" } : Jvm.MethodName)) ∈ lw_all := lw_g (lw_at lw_m6 134 rfl) rfl
theorem q1430 : (Jvm.Cond.privateMethod ({ cls := "EightBlocks$Chain", name := "sift", desc := "(I)I" } : Jvm.MethodName)) ∈ lw_tbl := lw_at lw_m6 135 rfl
theorem q1431 : (Jvm.Cond.instanceMethod ({ cls := "EightBlocks$Chain", name := "sift", desc := "(I)I" } : Jvm.MethodName)) ∈ lw_all := lw_g (lw_at lw_m6 136 rfl) rfl
theorem q1432 : (Jvm.Cond.code ({ cls := "EightBlocks$Chain", name := "sift", desc := "(I)I" } : Jvm.MethodName) prog_2_method_6_code (4 : Nat) (Option.some Jvm.ClassFile.FieldType.int)) ∈ lw_all := lw_g (lw_at lw_m6 137 rfl) rfl
theorem q1433 : (Jvm.Cond.methodLink "EightBlocks$Chain" (91 : Nat) ({ cls := "EightBlocks$Chain", name := "add", desc := "(LEightBlocks$Move;)V" } : Jvm.MethodName)) ∈ lw_all := lw_g (lw_at lw_m6 138 rfl) rfl
theorem q1435 : (Jvm.Cond.instanceMethod ({ cls := "EightBlocks$Chain", name := "order", desc := "(I)I" } : Jvm.MethodName)) ∈ lw_all := lw_g (lw_at lw_m6 140 rfl) rfl
theorem q1436 : (Jvm.Cond.selects "EightBlocks$Chain" ({ cls := "EightBlocks$Chain", name := "order", desc := "(I)I" } : Jvm.MethodName) ({ cls := "EightBlocks$Chain", name := "order", desc := "(I)I" } : Jvm.MethodName)) ∈ lw_all := lw_g (lw_at lw_m6 141 rfl) rfl
theorem q1437 : (Jvm.Cond.code ({ cls := "EightBlocks$Chain", name := "order", desc := "(I)I" } : Jvm.MethodName) prog_2_method_9_code (4 : Nat) (Option.some Jvm.ClassFile.FieldType.int)) ∈ lw_all := lw_g (lw_at lw_m6 142 rfl) rfl
theorem q1581 : (Jvm.Cond.instanceMethod ({ cls := "EightBlocks$Chain", name := "isMade", desc := "(LEightBlocks$Move;)Z" } : Jvm.MethodName)) ∈ lw_all := lw_g (lw_at lw_m7 46 rfl) rfl
theorem q1582 : (Jvm.Cond.selects "EightBlocks$Chain" ({ cls := "EightBlocks$Chain", name := "isMade", desc := "(LEightBlocks$Move;)Z" } : Jvm.MethodName) ({ cls := "EightBlocks$Chain", name := "isMade", desc := "(LEightBlocks$Move;)Z" } : Jvm.MethodName)) ∈ lw_all := lw_g (lw_at lw_m7 47 rfl) rfl
theorem q1583 : (Jvm.Cond.code ({ cls := "EightBlocks$Chain", name := "isMade", desc := "(LEightBlocks$Move;)Z" } : Jvm.MethodName) prog_2_method_10_code (2 : Nat) (Option.some Jvm.ClassFile.FieldType.boolean)) ∈ lw_all := lw_g (lw_at lw_m7 48 rfl) rfl
theorem q1673 : (Jvm.Cond.instanceMethod ({ cls := "EightBlocks$Chain", name := "first", desc := "([II)LEightBlocks$Move;" } : Jvm.MethodName)) ∈ lw_all := lw_g (lw_at lw_m7 138 rfl) rfl
theorem q1674 : (Jvm.Cond.selects "EightBlocks$Chain" ({ cls := "EightBlocks$Chain", name := "first", desc := "([II)LEightBlocks$Move;" } : Jvm.MethodName) ({ cls := "EightBlocks$Chain", name := "first", desc := "([II)LEightBlocks$Move;" } : Jvm.MethodName)) ∈ lw_all := lw_g (lw_at lw_m7 139 rfl) rfl
theorem q1675 : (Jvm.Cond.code ({ cls := "EightBlocks$Chain", name := "first", desc := "([II)LEightBlocks$Move;" } : Jvm.MethodName) prog_2_method_11_code (8 : Nat) (Option.some (Jvm.ClassFile.FieldType.object "EightBlocks$Move"))) ∈ lw_all := lw_g (lw_at lw_m7 140 rfl) rfl
theorem q1676 : (Jvm.Cond.methodLink "EightBlocks$Chain" (101 : Nat) ({ cls := "EightBlocks$Move", name := "from", desc := "(I)I" } : Jvm.MethodName)) ∈ lw_all := lw_g (lw_at lw_m7 141 rfl) rfl
theorem q1680 : (Jvm.Cond.methodLink "EightBlocks$Chain" (104 : Nat) ({ cls := "EightBlocks$Move", name := "behind", desc := "(LEightBlocks$Move;)V" } : Jvm.MethodName)) ∈ lw_all := lw_g (lw_at lw_m7 145 rfl) rfl
theorem in_X6 : ∀ w ∈ wsX60, w ∈ lw_all := lw_in wsX60 [472, 474, 476, 478, 480, 482] (by decide +kernel) (by decide +kernel)

/-! EightBlocks$Same -/
set_option maxRecDepth 100000
def RX7 : String := "EightBlocks$Same"
abbrev cX7_init : ByteArray := prog_14_method_1_code
def yX7_init : MethodName := ⟨RX7, "<init>", "()V"⟩
theorem dX7_init_0 : decode cX7_init 0 = .ok (.aload_n 0, 1) := by decide +kernel
theorem dX7_init_1 : decode cX7_init 1 = .ok (.invokespecial 1, 3) := by decide +kernel
theorem dX7_init_4 : decode cX7_init 4 = .ok (.return_, 1) := by decide +kernel
abbrev cX7_to : ByteArray := prog_14_method_2_code
def yX7_to : MethodName := ⟨RX7, "to", "(I)I"⟩
theorem dX7_to_0 : decode cX7_to 0 = .ok (.iload_n 1, 1) := by decide +kernel
theorem dX7_to_1 : decode cX7_to 1 = .ok (.ireturn, 1) := by decide +kernel
theorem q115 : (Jvm.Cond.initialized "EightBlocks$Same") ∈ lw_all := lw_g (lw_at lw_m1 20 rfl) rfl
theorem q433 : (Jvm.Cond.instantiable "EightBlocks$Same" (0 : Nat)) ∈ lw_all := lw_g (lw_at lw_m2 98 rfl) rfl
theorem q435 : (Jvm.Cond.instanceMethod ({ cls := "EightBlocks$Same", name := "<init>", desc := "()V" } : Jvm.MethodName)) ∈ lw_all := lw_g (lw_at lw_m2 100 rfl) rfl
theorem q436 : (Jvm.Cond.code ({ cls := "EightBlocks$Same", name := "<init>", desc := "()V" } : Jvm.MethodName) prog_14_method_1_code (1 : Nat) (Option.none : Option Jvm.ClassFile.FieldType)) ∈ lw_all := lw_g (lw_at lw_m2 101 rfl) rfl
theorem q437 : (Jvm.Cond.methodLink "EightBlocks$Same" (1 : Nat) ({ cls := "java/lang/Object", name := "<init>", desc := "()V" } : Jvm.MethodName)) ∈ lw_all := lw_g (lw_at lw_m2 102 rfl) rfl
theorem q438 : (Jvm.Cond.superclass "EightBlocks$Same" "java/lang/Object") ∈ lw_all := lw_g (lw_at lw_m2 103 rfl) rfl
theorem q655 : (Jvm.Cond.castable "EightBlocks$Same" "EightBlocks$Way") ∈ lw_tbl := lw_at lw_m3 80 rfl
theorem q656 : (Jvm.Cond.selects "EightBlocks$Same" ({ cls := "EightBlocks$Way", name := "to", desc := "(I)I" } : Jvm.MethodName) ({ cls := "EightBlocks$Same", name := "to", desc := "(I)I" } : Jvm.MethodName)) ∈ lw_all := lw_g (lw_at lw_m3 81 rfl) rfl
theorem q657 : (Jvm.Cond.unhidden "EightBlocks$Same" "to" "(I)I") ∈ lw_tbl := lw_at lw_m3 82 rfl
theorem q658 : (Jvm.Cond.instanceMethod ({ cls := "EightBlocks$Same", name := "to", desc := "(I)I" } : Jvm.MethodName)) ∈ lw_all := lw_g (lw_at lw_m3 83 rfl) rfl
theorem q659 : (Jvm.Cond.publicMethod ({ cls := "EightBlocks$Same", name := "to", desc := "(I)I" } : Jvm.MethodName)) ∈ lw_tbl := lw_at lw_m3 84 rfl
theorem q660 : (Jvm.Cond.code ({ cls := "EightBlocks$Same", name := "to", desc := "(I)I" } : Jvm.MethodName) prog_14_method_2_code (2 : Nat) (Option.some Jvm.ClassFile.FieldType.int)) ∈ lw_all := lw_g (lw_at lw_m3 85 rfl) rfl

/-! EightBlocks$Level -/
set_option maxRecDepth 100000
def RX8 : String := "EightBlocks$Level"
def TX8 : u_T := fun k => match k with
  | 0 => ("EightBlocks$Level", "base", "I", false)
  | 1 => ("EightBlocks$Level", "ways", "[LEightBlocks$Move;", true)
  | 2 => ("EightBlocks$Level", "orbit", "[I", true)
  | 3 => ("EightBlocks$Level", "set", "I", false)
  | _ => ("EightBlocks$Level", "many", "I", false)
def tyX8 : Nat → FieldType := fun k => match k with
  | 0 => .int
  | 1 => .array (.object "EightBlocks$Move")
  | 2 => .array .int
  | 3 => .int
  | _ => .int
abbrev wsX80 : List Cond := u_ws RX8 TX8 5
theorem nmX8 : ∀ a, a < 5 → ∀ b, b < 5 → a ≠ b → (TX8 a).2.1 ≠ (TX8 b).2.1 := by decide +kernel
theorem tyX8_ok : ∀ k, k < 5 → parseFieldDescriptor (TX8 k).2.2.1 = some (tyX8 k) := by decide +kernel
abbrev cX8_init : ByteArray := prog_8_method_1_code
def yX8_init : MethodName := ⟨RX8, "<init>", "()V"⟩
def dkwX8_init_0 : List UInt8 := [42, 183, 0, 3, 42, 16, 24, 189, 0, 9, 181, 0, 11, 42, 16, 24, 188, 10, 181, 0, 17, 177]
abbrev dktX8_init_0 : List UInt8 := dkwX8_init_0 ++ []
theorem dksX8_init_0 : cX8_init.data.toList.drop 0 = dktX8_init_0 := by decide +kernel
theorem dX8_init_0 : decode cX8_init 0 = .ok (.aload_n 0, 1) := dk_42 (dk_at dksX8_init_0 0 rfl rfl)
theorem dX8_init_1 : decode cX8_init 1 = .ok (.invokespecial 3, 3) := dk_183 0 3 (dk_at dksX8_init_0 1 rfl rfl)
theorem dX8_init_4 : decode cX8_init 4 = .ok (.aload_n 0, 1) := dk_42 (dk_at dksX8_init_0 4 rfl rfl)
theorem dX8_init_5 : decode cX8_init 5 = .ok (.bipush 24, 2) := dk_16 24 (dk_at dksX8_init_0 5 rfl rfl)
theorem dX8_init_7 : decode cX8_init 7 = .ok (.anewarray 9, 3) := dk_189 0 9 (dk_at dksX8_init_0 7 rfl rfl)
theorem dX8_init_10 : decode cX8_init 10 = .ok (.putfield 11, 3) := dk_181 0 11 (dk_at dksX8_init_0 10 rfl rfl)
theorem dX8_init_13 : decode cX8_init 13 = .ok (.aload_n 0, 1) := dk_42 (dk_at dksX8_init_0 13 rfl rfl)
theorem dX8_init_14 : decode cX8_init 14 = .ok (.bipush 24, 2) := dk_16 24 (dk_at dksX8_init_0 14 rfl rfl)
theorem dX8_init_16 : decode cX8_init 16 = .ok (.newarray .int, 2) := dk_188_10 (dk_at dksX8_init_0 16 rfl rfl)
theorem dX8_init_18 : decode cX8_init 18 = .ok (.putfield 17, 3) := dk_181 0 17 (dk_at dksX8_init_0 18 rfl rfl)
theorem dX8_init_21 : decode cX8_init 21 = .ok (.return_, 1) := dk_177 (dk_at dksX8_init_0 21 rfl rfl)
abbrev cX8_begin : ByteArray := prog_8_method_2_code
def yX8_begin : MethodName := ⟨RX8, "begin", "(LEightBlocks$Way;)V"⟩
def dkwX8_begin_0 : List UInt8 := [42, 3, 181, 0, 21, 42, 3, 181, 0, 25, 42, 42, 180, 0, 28, 182, 0, 31, 43, 182, 0, 35, 87, 177]
abbrev dktX8_begin_0 : List UInt8 := dkwX8_begin_0 ++ []
theorem dksX8_begin_0 : cX8_begin.data.toList.drop 0 = dktX8_begin_0 := by decide +kernel
theorem dX8_begin_0 : decode cX8_begin 0 = .ok (.aload_n 0, 1) := dk_42 (dk_at dksX8_begin_0 0 rfl rfl)
theorem dX8_begin_1 : decode cX8_begin 1 = .ok (.iconst 0, 1) := dk_3 (dk_at dksX8_begin_0 1 rfl rfl)
theorem dX8_begin_2 : decode cX8_begin 2 = .ok (.putfield 21, 3) := dk_181 0 21 (dk_at dksX8_begin_0 2 rfl rfl)
theorem dX8_begin_5 : decode cX8_begin 5 = .ok (.aload_n 0, 1) := dk_42 (dk_at dksX8_begin_0 5 rfl rfl)
theorem dX8_begin_6 : decode cX8_begin 6 = .ok (.iconst 0, 1) := dk_3 (dk_at dksX8_begin_0 6 rfl rfl)
theorem dX8_begin_7 : decode cX8_begin 7 = .ok (.putfield 25, 3) := dk_181 0 25 (dk_at dksX8_begin_0 7 rfl rfl)
theorem dX8_begin_10 : decode cX8_begin 10 = .ok (.aload_n 0, 1) := dk_42 (dk_at dksX8_begin_0 10 rfl rfl)
theorem dX8_begin_11 : decode cX8_begin 11 = .ok (.aload_n 0, 1) := dk_42 (dk_at dksX8_begin_0 11 rfl rfl)
theorem dX8_begin_12 : decode cX8_begin 12 = .ok (.getfield 28, 3) := dk_180 0 28 (dk_at dksX8_begin_0 12 rfl rfl)
theorem dX8_begin_15 : decode cX8_begin 15 = .ok (.invokevirtual 31, 3) := dk_182 0 31 (dk_at dksX8_begin_0 15 rfl rfl)
theorem dX8_begin_18 : decode cX8_begin 18 = .ok (.aload_n 1, 1) := dk_43 (dk_at dksX8_begin_0 18 rfl rfl)
theorem dX8_begin_19 : decode cX8_begin 19 = .ok (.invokevirtual 35, 3) := dk_182 0 35 (dk_at dksX8_begin_0 19 rfl rfl)
theorem dX8_begin_22 : decode cX8_begin 22 = .ok (.pop, 1) := dk_87 (dk_at dksX8_begin_0 22 rfl rfl)
theorem dX8_begin_23 : decode cX8_begin 23 = .ok (.return_, 1) := dk_177 (dk_at dksX8_begin_0 23 rfl rfl)
abbrev cX8_reach : ByteArray := prog_8_method_3_code
def yX8_reach : MethodName := ⟨RX8, "reach", "(I)LEightBlocks$Move;"⟩
def dkwX8_reach_2 : List UInt8 := [187, 0, 9, 89, 183, 0, 39, 83, 42, 180, 0, 11, 27, 50, 176]
abbrev dktX8_reach_2 : List UInt8 := dkwX8_reach_2 ++ []
def dkwX8_reach_1 : List UInt8 := [180, 0, 25, 4, 96, 181, 0, 25, 42, 180, 0, 11, 27, 50, 199, 0, 16, 42, 180, 0, 11, 27]
abbrev dktX8_reach_1 : List UInt8 := dkwX8_reach_1 ++ dktX8_reach_2
def dkwX8_reach_0 : List UInt8 := [42, 89, 180, 0, 21, 4, 27, 120, 128, 181, 0, 21, 42, 180, 0, 17, 42, 180, 0, 25, 27, 79, 42, 89]
abbrev dktX8_reach_0 : List UInt8 := dkwX8_reach_0 ++ dktX8_reach_1
theorem dksX8_reach_0 : cX8_reach.data.toList.drop 0 = dktX8_reach_0 := by decide +kernel
theorem dksX8_reach_1 : cX8_reach.data.toList.drop 24 = dktX8_reach_1 := dk_seg dksX8_reach_0 24 rfl rfl
theorem dksX8_reach_2 : cX8_reach.data.toList.drop 46 = dktX8_reach_2 := dk_seg dksX8_reach_1 22 rfl rfl
theorem dX8_reach_0 : decode cX8_reach 0 = .ok (.aload_n 0, 1) := dk_42 (dk_at dksX8_reach_0 0 rfl rfl)
theorem dX8_reach_1 : decode cX8_reach 1 = .ok (.dup, 1) := dk_89 (dk_at dksX8_reach_0 1 rfl rfl)
theorem dX8_reach_2 : decode cX8_reach 2 = .ok (.getfield 21, 3) := dk_180 0 21 (dk_at dksX8_reach_0 2 rfl rfl)
theorem dX8_reach_5 : decode cX8_reach 5 = .ok (.iconst 1, 1) := dk_4 (dk_at dksX8_reach_0 5 rfl rfl)
theorem dX8_reach_6 : decode cX8_reach 6 = .ok (.iload_n 1, 1) := dk_27 (dk_at dksX8_reach_0 6 rfl rfl)
theorem dX8_reach_7 : decode cX8_reach 7 = .ok (.ishl, 1) := dk_120 (dk_at dksX8_reach_0 7 rfl rfl)
theorem dX8_reach_8 : decode cX8_reach 8 = .ok (.ior, 1) := dk_128 (dk_at dksX8_reach_0 8 rfl rfl)
theorem dX8_reach_9 : decode cX8_reach 9 = .ok (.putfield 21, 3) := dk_181 0 21 (dk_at dksX8_reach_0 9 rfl rfl)
theorem dX8_reach_12 : decode cX8_reach 12 = .ok (.aload_n 0, 1) := dk_42 (dk_at dksX8_reach_0 12 rfl rfl)
theorem dX8_reach_13 : decode cX8_reach 13 = .ok (.getfield 17, 3) := dk_180 0 17 (dk_at dksX8_reach_0 13 rfl rfl)
theorem dX8_reach_16 : decode cX8_reach 16 = .ok (.aload_n 0, 1) := dk_42 (dk_at dksX8_reach_0 16 rfl rfl)
theorem dX8_reach_17 : decode cX8_reach 17 = .ok (.getfield 25, 3) := dk_180 0 25 (dk_at dksX8_reach_0 17 rfl rfl)
theorem dX8_reach_20 : decode cX8_reach 20 = .ok (.iload_n 1, 1) := dk_27 (dk_at dksX8_reach_0 20 rfl rfl)
theorem dX8_reach_21 : decode cX8_reach 21 = .ok (.iastore, 1) := dk_79 (dk_at dksX8_reach_0 21 rfl rfl)
theorem dX8_reach_22 : decode cX8_reach 22 = .ok (.aload_n 0, 1) := dk_42 (dk_at dksX8_reach_0 22 rfl rfl)
theorem dX8_reach_23 : decode cX8_reach 23 = .ok (.dup, 1) := dk_89 (dk_at dksX8_reach_0 23 rfl rfl)
theorem dX8_reach_24 : decode cX8_reach 24 = .ok (.getfield 25, 3) := dk_180 0 25 (dk_at dksX8_reach_1 0 rfl rfl)
theorem dX8_reach_27 : decode cX8_reach 27 = .ok (.iconst 1, 1) := dk_4 (dk_at dksX8_reach_1 3 rfl rfl)
theorem dX8_reach_28 : decode cX8_reach 28 = .ok (.iadd, 1) := dk_96 (dk_at dksX8_reach_1 4 rfl rfl)
theorem dX8_reach_29 : decode cX8_reach 29 = .ok (.putfield 25, 3) := dk_181 0 25 (dk_at dksX8_reach_1 5 rfl rfl)
theorem dX8_reach_32 : decode cX8_reach 32 = .ok (.aload_n 0, 1) := dk_42 (dk_at dksX8_reach_1 8 rfl rfl)
theorem dX8_reach_33 : decode cX8_reach 33 = .ok (.getfield 11, 3) := dk_180 0 11 (dk_at dksX8_reach_1 9 rfl rfl)
theorem dX8_reach_36 : decode cX8_reach 36 = .ok (.iload_n 1, 1) := dk_27 (dk_at dksX8_reach_1 12 rfl rfl)
theorem dX8_reach_37 : decode cX8_reach 37 = .ok (.aaload, 1) := dk_50 (dk_at dksX8_reach_1 13 rfl rfl)
theorem dX8_reach_38 : decode cX8_reach 38 = .ok (.ifnonnull 16, 3) := dk_199 0 16 (dk_at dksX8_reach_1 14 rfl rfl)
theorem dX8_reach_41 : decode cX8_reach 41 = .ok (.aload_n 0, 1) := dk_42 (dk_at dksX8_reach_1 17 rfl rfl)
theorem dX8_reach_42 : decode cX8_reach 42 = .ok (.getfield 11, 3) := dk_180 0 11 (dk_at dksX8_reach_1 18 rfl rfl)
theorem dX8_reach_45 : decode cX8_reach 45 = .ok (.iload_n 1, 1) := dk_27 (dk_at dksX8_reach_1 21 rfl rfl)
theorem dX8_reach_46 : decode cX8_reach 46 = .ok (.new 9, 3) := dk_187 0 9 (dk_at dksX8_reach_2 0 rfl rfl)
theorem dX8_reach_49 : decode cX8_reach 49 = .ok (.dup, 1) := dk_89 (dk_at dksX8_reach_2 3 rfl rfl)
theorem dX8_reach_50 : decode cX8_reach 50 = .ok (.invokespecial 39, 3) := dk_183 0 39 (dk_at dksX8_reach_2 4 rfl rfl)
theorem dX8_reach_53 : decode cX8_reach 53 = .ok (.aastore, 1) := dk_83 (dk_at dksX8_reach_2 7 rfl rfl)
theorem dX8_reach_54 : decode cX8_reach 54 = .ok (.aload_n 0, 1) := dk_42 (dk_at dksX8_reach_2 8 rfl rfl)
theorem dX8_reach_55 : decode cX8_reach 55 = .ok (.getfield 11, 3) := dk_180 0 11 (dk_at dksX8_reach_2 9 rfl rfl)
theorem dX8_reach_58 : decode cX8_reach 58 = .ok (.iload_n 1, 1) := dk_27 (dk_at dksX8_reach_2 12 rfl rfl)
theorem dX8_reach_59 : decode cX8_reach 59 = .ok (.aaload, 1) := dk_50 (dk_at dksX8_reach_2 13 rfl rfl)
theorem dX8_reach_60 : decode cX8_reach 60 = .ok (.areturn, 1) := dk_176 (dk_at dksX8_reach_2 14 rfl rfl)
theorem q116 : (Jvm.Cond.initialized "EightBlocks$Level") ∈ lw_all := lw_g (lw_at lw_m1 21 rfl) rfl
theorem q439 : (Jvm.Cond.instantiable "EightBlocks$Level" (5 : Nat)) ∈ lw_all := lw_g (lw_at lw_m2 104 rfl) rfl
theorem q441 : (Jvm.Cond.instanceMethod ({ cls := "EightBlocks$Level", name := "<init>", desc := "()V" } : Jvm.MethodName)) ∈ lw_all := lw_g (lw_at lw_m2 106 rfl) rfl
theorem q442 : (Jvm.Cond.code ({ cls := "EightBlocks$Level", name := "<init>", desc := "()V" } : Jvm.MethodName) prog_8_method_1_code (1 : Nat) (Option.none : Option Jvm.ClassFile.FieldType)) ∈ lw_all := lw_g (lw_at lw_m2 107 rfl) rfl
theorem q443 : (Jvm.Cond.methodLink "EightBlocks$Level" (3 : Nat) ({ cls := "java/lang/Object", name := "<init>", desc := "()V" } : Jvm.MethodName)) ∈ lw_all := lw_g (lw_at lw_m2 108 rfl) rfl
theorem q444 : (Jvm.Cond.classLink "EightBlocks$Level" (9 : Nat) "EightBlocks$Move") ∈ lw_all := lw_g (lw_at lw_m2 109 rfl) rfl
theorem q445 : (Jvm.Cond.fieldLink "EightBlocks$Level" (28 : Nat) "EightBlocks$Level" "base" "I") ∈ lw_all := lw_g (lw_at lw_m2 110 rfl) rfl
theorem q447 : (Jvm.Cond.fieldLink "EightBlocks$Level" (11 : Nat) "EightBlocks$Level" "ways" "[LEightBlocks$Move;") ∈ lw_all := lw_g (lw_at lw_m2 112 rfl) rfl
theorem q449 : (Jvm.Cond.fieldLink "EightBlocks$Level" (17 : Nat) "EightBlocks$Level" "orbit" "[I") ∈ lw_all := lw_g (lw_at lw_m2 114 rfl) rfl
theorem q451 : (Jvm.Cond.fieldLink "EightBlocks$Level" (21 : Nat) "EightBlocks$Level" "set" "I") ∈ lw_all := lw_g (lw_at lw_m2 116 rfl) rfl
theorem q453 : (Jvm.Cond.fieldLink "EightBlocks$Level" (25 : Nat) "EightBlocks$Level" "many" "I") ∈ lw_all := lw_g (lw_at lw_m2 118 rfl) rfl
theorem q455 : (Jvm.Cond.lays "EightBlocks$Level" "EightBlocks$Level" "base" "I") ∈ lw_all := lw_g (lw_at lw_m2 120 rfl) rfl
theorem q456 : (Jvm.Cond.soleField "EightBlocks$Level" "base") ∈ lw_all := lw_g (lw_at lw_m2 121 rfl) rfl
theorem q457 : (Jvm.Cond.laysFinal "EightBlocks$Level" "EightBlocks$Level" "ways" "[LEightBlocks$Move;") ∈ lw_all := lw_g (lw_at lw_m2 122 rfl) rfl
theorem q458 : (Jvm.Cond.soleField "EightBlocks$Level" "ways") ∈ lw_all := lw_g (lw_at lw_m2 123 rfl) rfl
theorem q459 : (Jvm.Cond.laysFinal "EightBlocks$Level" "EightBlocks$Level" "orbit" "[I") ∈ lw_all := lw_g (lw_at lw_m2 124 rfl) rfl
theorem q460 : (Jvm.Cond.soleField "EightBlocks$Level" "orbit") ∈ lw_all := lw_g (lw_at lw_m2 125 rfl) rfl
theorem q461 : (Jvm.Cond.lays "EightBlocks$Level" "EightBlocks$Level" "set" "I") ∈ lw_all := lw_g (lw_at lw_m2 126 rfl) rfl
theorem q462 : (Jvm.Cond.soleField "EightBlocks$Level" "set") ∈ lw_all := lw_g (lw_at lw_m2 127 rfl) rfl
theorem q463 : (Jvm.Cond.lays "EightBlocks$Level" "EightBlocks$Level" "many" "I") ∈ lw_all := lw_g (lw_at lw_m2 128 rfl) rfl
theorem q464 : (Jvm.Cond.soleField "EightBlocks$Level" "many") ∈ lw_all := lw_g (lw_at lw_m2 129 rfl) rfl
theorem q465 : (Jvm.Cond.superclass "EightBlocks$Level" "java/lang/Object") ∈ lw_all := lw_g (lw_at lw_m2 130 rfl) rfl
theorem q1410 : (Jvm.Cond.instanceMethod ({ cls := "EightBlocks$Level", name := "begin", desc := "(LEightBlocks$Way;)V" } : Jvm.MethodName)) ∈ lw_all := lw_g (lw_at lw_m6 115 rfl) rfl
theorem q1411 : (Jvm.Cond.selects "EightBlocks$Level" ({ cls := "EightBlocks$Level", name := "begin", desc := "(LEightBlocks$Way;)V" } : Jvm.MethodName) ({ cls := "EightBlocks$Level", name := "begin", desc := "(LEightBlocks$Way;)V" } : Jvm.MethodName)) ∈ lw_all := lw_g (lw_at lw_m6 116 rfl) rfl
theorem q1412 : (Jvm.Cond.code ({ cls := "EightBlocks$Level", name := "begin", desc := "(LEightBlocks$Way;)V" } : Jvm.MethodName) prog_8_method_2_code (2 : Nat) (Option.none : Option Jvm.ClassFile.FieldType)) ∈ lw_all := lw_g (lw_at lw_m6 117 rfl) rfl
theorem q1413 : (Jvm.Cond.methodLink "EightBlocks$Level" (31 : Nat) ({ cls := "EightBlocks$Level", name := "reach", desc := "(I)LEightBlocks$Move;" } : Jvm.MethodName)) ∈ lw_all := lw_g (lw_at lw_m6 118 rfl) rfl
theorem q1414 : (Jvm.Cond.instanceMethod ({ cls := "EightBlocks$Level", name := "reach", desc := "(I)LEightBlocks$Move;" } : Jvm.MethodName)) ∈ lw_all := lw_g (lw_at lw_m6 119 rfl) rfl
theorem q1415 : (Jvm.Cond.selects "EightBlocks$Level" ({ cls := "EightBlocks$Level", name := "reach", desc := "(I)LEightBlocks$Move;" } : Jvm.MethodName) ({ cls := "EightBlocks$Level", name := "reach", desc := "(I)LEightBlocks$Move;" } : Jvm.MethodName)) ∈ lw_all := lw_g (lw_at lw_m6 120 rfl) rfl
theorem q1416 : (Jvm.Cond.code ({ cls := "EightBlocks$Level", name := "reach", desc := "(I)LEightBlocks$Move;" } : Jvm.MethodName) prog_8_method_3_code (2 : Nat) (Option.some (Jvm.ClassFile.FieldType.object "EightBlocks$Move"))) ∈ lw_all := lw_g (lw_at lw_m6 121 rfl) rfl
theorem q1417 : (Jvm.Cond.methodLinkNest "EightBlocks$Level" (39 : Nat) ({ cls := "EightBlocks$Move", name := "<init>", desc := "()V" } : Jvm.MethodName) "EightBlocks") ∈ lw_tbl := lw_at lw_m6 122 rfl
theorem q1418 : (Jvm.Cond.methodLink "EightBlocks$Level" (35 : Nat) ({ cls := "EightBlocks$Move", name := "take", desc := "(LEightBlocks$Way;)LEightBlocks$Move;" } : Jvm.MethodName)) ∈ lw_all := lw_g (lw_at lw_m6 123 rfl) rfl
theorem in_X8 : ∀ w ∈ wsX80, w ∈ lw_all := lw_in wsX80 [455, 457, 459, 461, 463] (by decide +kernel) (by decide +kernel)

/-! EightBlocks$Flood -/
set_option maxRecDepth 100000
def RX9 : String := "EightBlocks$Flood"
def TX9 : u_T := fun k => match k with
  | 0 => ("EightBlocks$Flood", "seen", "[Z", true)
  | _ => ("EightBlocks$Flood", "stack", "[I", true)
def tyX9 : Nat → FieldType := fun k => match k with
  | 0 => .array .boolean
  | _ => .array .int
abbrev wsX90 : List Cond := u_ws RX9 TX9 2
theorem nmX9 : ∀ a, a < 2 → ∀ b, b < 2 → a ≠ b → (TX9 a).2.1 ≠ (TX9 b).2.1 := by decide +kernel
theorem tyX9_ok : ∀ k, k < 2 → parseFieldDescriptor (TX9 k).2.2.1 = some (tyX9 k) := by decide +kernel
abbrev cX9_init : ByteArray := prog_5_method_1_code
def yX9_init : MethodName := ⟨RX9, "<init>", "()V"⟩
def dkwX9_init_0 : List UInt8 := [42, 183, 0, 3, 42, 17, 16, 0, 188, 4, 181, 0, 9, 42, 17, 16, 0, 188, 10, 181, 0, 15, 177]
abbrev dktX9_init_0 : List UInt8 := dkwX9_init_0 ++ []
theorem dksX9_init_0 : cX9_init.data.toList.drop 0 = dktX9_init_0 := by decide +kernel
theorem dX9_init_0 : decode cX9_init 0 = .ok (.aload_n 0, 1) := dk_42 (dk_at dksX9_init_0 0 rfl rfl)
theorem dX9_init_1 : decode cX9_init 1 = .ok (.invokespecial 3, 3) := dk_183 0 3 (dk_at dksX9_init_0 1 rfl rfl)
theorem dX9_init_4 : decode cX9_init 4 = .ok (.aload_n 0, 1) := dk_42 (dk_at dksX9_init_0 4 rfl rfl)
theorem dX9_init_5 : decode cX9_init 5 = .ok (.sipush 4096, 3) := dk_17 16 0 (dk_at dksX9_init_0 5 rfl rfl)
theorem dX9_init_8 : decode cX9_init 8 = .ok (.newarray .boolean, 2) := dk_188_4 (dk_at dksX9_init_0 8 rfl rfl)
theorem dX9_init_10 : decode cX9_init 10 = .ok (.putfield 9, 3) := dk_181 0 9 (dk_at dksX9_init_0 10 rfl rfl)
theorem dX9_init_13 : decode cX9_init 13 = .ok (.aload_n 0, 1) := dk_42 (dk_at dksX9_init_0 13 rfl rfl)
theorem dX9_init_14 : decode cX9_init 14 = .ok (.sipush 4096, 3) := dk_17 16 0 (dk_at dksX9_init_0 14 rfl rfl)
theorem dX9_init_17 : decode cX9_init 17 = .ok (.newarray .int, 2) := dk_188_10 (dk_at dksX9_init_0 17 rfl rfl)
theorem dX9_init_19 : decode cX9_init 19 = .ok (.putfield 15, 3) := dk_181 0 15 (dk_at dksX9_init_0 19 rfl rfl)
theorem dX9_init_22 : decode cX9_init 22 = .ok (.return_, 1) := dk_177 (dk_at dksX9_init_0 22 rfl rfl)
abbrev cX9_clear : ByteArray := prog_5_method_2_code
def yX9_clear : MethodName := ⟨RX9, "clear", "()V"⟩
def dkwX9_clear_0 : List UInt8 := [42, 180, 0, 9, 3, 184, 0, 19, 177]
abbrev dktX9_clear_0 : List UInt8 := dkwX9_clear_0 ++ []
theorem dksX9_clear_0 : cX9_clear.data.toList.drop 0 = dktX9_clear_0 := by decide +kernel
theorem dX9_clear_0 : decode cX9_clear 0 = .ok (.aload_n 0, 1) := dk_42 (dk_at dksX9_clear_0 0 rfl rfl)
theorem dX9_clear_1 : decode cX9_clear 1 = .ok (.getfield 9, 3) := dk_180 0 9 (dk_at dksX9_clear_0 1 rfl rfl)
theorem dX9_clear_4 : decode cX9_clear 4 = .ok (.iconst 0, 1) := dk_3 (dk_at dksX9_clear_0 4 rfl rfl)
theorem dX9_clear_5 : decode cX9_clear 5 = .ok (.invokestatic 19, 3) := dk_184 0 19 (dk_at dksX9_clear_0 5 rfl rfl)
theorem dX9_clear_8 : decode cX9_clear 8 = .ok (.return_, 1) := dk_177 (dk_at dksX9_clear_0 8 rfl rfl)
abbrev cX9_spread : ByteArray := prog_5_method_3_code
def yX9_spread : MethodName := ⟨RX9, "spread", "(LEightBlocks$Things;ILEightBlocks$Hall;I)I"⟩
def dkwX9_spread_5 : List UInt8 := [132, 8, 1, 167, 255, 182, 167, 255, 159, 21, 6, 172]
abbrev dktX9_spread_5 : List UInt8 := dkwX9_spread_5 ++ []
def dkwX9_spread_4 : List UInt8 := [180, 0, 9, 21, 9, 4, 84, 42, 180, 0, 15, 21, 5, 21, 9, 79, 132, 5, 1, 132, 6, 1]
abbrev dktX9_spread_4 : List UInt8 := dkwX9_spread_4 ++ dktX9_spread_5
def dkwX9_spread_3 : List UInt8 := [185, 0, 35, 3, 0, 167, 0, 5, 21, 7, 54, 9, 42, 180, 0, 9, 21, 9, 51, 154, 0, 26, 42]
abbrev dktX9_spread_3 : List UInt8 := dkwX9_spread_3 ++ dktX9_spread_4
def dkwX9_spread_2 : List UInt8 := [21, 4, 21, 8, 184, 0, 25, 153, 0, 21, 43, 21, 7, 45, 180, 0, 29, 21, 8, 50]
abbrev dktX9_spread_2 : List UInt8 := dkwX9_spread_2 ++ dktX9_spread_3
def dkwX9_spread_1 : List UInt8 := [158, 0, 98, 132, 5, 255, 42, 180, 0, 15, 21, 5, 46, 54, 7, 3, 54, 8, 21, 8, 7, 162, 0, 74]
abbrev dktX9_spread_1 : List UInt8 := dkwX9_spread_1 ++ dktX9_spread_2
def dkwX9_spread_0 : List UInt8 := [4, 54, 5, 4, 54, 6, 42, 180, 0, 15, 3, 28, 79, 42, 180, 0, 9, 28, 4, 84, 21, 5]
abbrev dktX9_spread_0 : List UInt8 := dkwX9_spread_0 ++ dktX9_spread_1
theorem dksX9_spread_0 : cX9_spread.data.toList.drop 0 = dktX9_spread_0 := by decide +kernel
theorem dksX9_spread_1 : cX9_spread.data.toList.drop 22 = dktX9_spread_1 := dk_seg dksX9_spread_0 22 rfl rfl
theorem dksX9_spread_2 : cX9_spread.data.toList.drop 46 = dktX9_spread_2 := dk_seg dksX9_spread_1 24 rfl rfl
theorem dksX9_spread_3 : cX9_spread.data.toList.drop 66 = dktX9_spread_3 := dk_seg dksX9_spread_2 20 rfl rfl
theorem dksX9_spread_4 : cX9_spread.data.toList.drop 89 = dktX9_spread_4 := dk_seg dksX9_spread_3 23 rfl rfl
theorem dksX9_spread_5 : cX9_spread.data.toList.drop 111 = dktX9_spread_5 := dk_seg dksX9_spread_4 22 rfl rfl
theorem dX9_spread_0 : decode cX9_spread 0 = .ok (.iconst 1, 1) := dk_4 (dk_at dksX9_spread_0 0 rfl rfl)
theorem dX9_spread_1 : decode cX9_spread 1 = .ok (.istore 5, 2) := dk_54 5 (dk_at dksX9_spread_0 1 rfl rfl)
theorem dX9_spread_3 : decode cX9_spread 3 = .ok (.iconst 1, 1) := dk_4 (dk_at dksX9_spread_0 3 rfl rfl)
theorem dX9_spread_4 : decode cX9_spread 4 = .ok (.istore 6, 2) := dk_54 6 (dk_at dksX9_spread_0 4 rfl rfl)
theorem dX9_spread_6 : decode cX9_spread 6 = .ok (.aload_n 0, 1) := dk_42 (dk_at dksX9_spread_0 6 rfl rfl)
theorem dX9_spread_7 : decode cX9_spread 7 = .ok (.getfield 15, 3) := dk_180 0 15 (dk_at dksX9_spread_0 7 rfl rfl)
theorem dX9_spread_10 : decode cX9_spread 10 = .ok (.iconst 0, 1) := dk_3 (dk_at dksX9_spread_0 10 rfl rfl)
theorem dX9_spread_11 : decode cX9_spread 11 = .ok (.iload_n 2, 1) := dk_28 (dk_at dksX9_spread_0 11 rfl rfl)
theorem dX9_spread_12 : decode cX9_spread 12 = .ok (.iastore, 1) := dk_79 (dk_at dksX9_spread_0 12 rfl rfl)
theorem dX9_spread_13 : decode cX9_spread 13 = .ok (.aload_n 0, 1) := dk_42 (dk_at dksX9_spread_0 13 rfl rfl)
theorem dX9_spread_14 : decode cX9_spread 14 = .ok (.getfield 9, 3) := dk_180 0 9 (dk_at dksX9_spread_0 14 rfl rfl)
theorem dX9_spread_17 : decode cX9_spread 17 = .ok (.iload_n 2, 1) := dk_28 (dk_at dksX9_spread_0 17 rfl rfl)
theorem dX9_spread_18 : decode cX9_spread 18 = .ok (.iconst 1, 1) := dk_4 (dk_at dksX9_spread_0 18 rfl rfl)
theorem dX9_spread_19 : decode cX9_spread 19 = .ok (.bastore, 1) := dk_84 (dk_at dksX9_spread_0 19 rfl rfl)
theorem dX9_spread_20 : decode cX9_spread 20 = .ok (.iload 5, 2) := dk_21 5 (dk_at dksX9_spread_0 20 rfl rfl)
theorem dX9_spread_22 : decode cX9_spread 22 = .ok (.ifCond .le 98, 3) := dk_158 0 98 (dk_at dksX9_spread_1 0 rfl rfl)
theorem dX9_spread_25 : decode cX9_spread 25 = .ok (.iinc 5 (-1), 3) := dk_132 5 255 (dk_at dksX9_spread_1 3 rfl rfl)
theorem dX9_spread_28 : decode cX9_spread 28 = .ok (.aload_n 0, 1) := dk_42 (dk_at dksX9_spread_1 6 rfl rfl)
theorem dX9_spread_29 : decode cX9_spread 29 = .ok (.getfield 15, 3) := dk_180 0 15 (dk_at dksX9_spread_1 7 rfl rfl)
theorem dX9_spread_32 : decode cX9_spread 32 = .ok (.iload 5, 2) := dk_21 5 (dk_at dksX9_spread_1 10 rfl rfl)
theorem dX9_spread_34 : decode cX9_spread 34 = .ok (.iaload, 1) := dk_46 (dk_at dksX9_spread_1 12 rfl rfl)
theorem dX9_spread_35 : decode cX9_spread 35 = .ok (.istore 7, 2) := dk_54 7 (dk_at dksX9_spread_1 13 rfl rfl)
theorem dX9_spread_37 : decode cX9_spread 37 = .ok (.iconst 0, 1) := dk_3 (dk_at dksX9_spread_1 15 rfl rfl)
theorem dX9_spread_38 : decode cX9_spread 38 = .ok (.istore 8, 2) := dk_54 8 (dk_at dksX9_spread_1 16 rfl rfl)
theorem dX9_spread_40 : decode cX9_spread 40 = .ok (.iload 8, 2) := dk_21 8 (dk_at dksX9_spread_1 18 rfl rfl)
theorem dX9_spread_42 : decode cX9_spread 42 = .ok (.iconst 4, 1) := dk_7 (dk_at dksX9_spread_1 20 rfl rfl)
theorem dX9_spread_43 : decode cX9_spread 43 = .ok (.if_icmp .ge 74, 3) := dk_162 0 74 (dk_at dksX9_spread_1 21 rfl rfl)
theorem dX9_spread_46 : decode cX9_spread 46 = .ok (.iload 4, 2) := dk_21 4 (dk_at dksX9_spread_2 0 rfl rfl)
theorem dX9_spread_48 : decode cX9_spread 48 = .ok (.iload 8, 2) := dk_21 8 (dk_at dksX9_spread_2 2 rfl rfl)
theorem dX9_spread_50 : decode cX9_spread 50 = .ok (.invokestatic 25, 3) := dk_184 0 25 (dk_at dksX9_spread_2 4 rfl rfl)
theorem dX9_spread_53 : decode cX9_spread 53 = .ok (.ifCond .eq 21, 3) := dk_153 0 21 (dk_at dksX9_spread_2 7 rfl rfl)
theorem dX9_spread_56 : decode cX9_spread 56 = .ok (.aload_n 1, 1) := dk_43 (dk_at dksX9_spread_2 10 rfl rfl)
theorem dX9_spread_57 : decode cX9_spread 57 = .ok (.iload 7, 2) := dk_21 7 (dk_at dksX9_spread_2 11 rfl rfl)
theorem dX9_spread_59 : decode cX9_spread 59 = .ok (.aload_n 3, 1) := dk_45 (dk_at dksX9_spread_2 13 rfl rfl)
theorem dX9_spread_60 : decode cX9_spread 60 = .ok (.getfield 29, 3) := dk_180 0 29 (dk_at dksX9_spread_2 14 rfl rfl)
theorem dX9_spread_63 : decode cX9_spread 63 = .ok (.iload 8, 2) := dk_21 8 (dk_at dksX9_spread_2 17 rfl rfl)
theorem dX9_spread_65 : decode cX9_spread 65 = .ok (.aaload, 1) := dk_50 (dk_at dksX9_spread_2 19 rfl rfl)
theorem dX9_spread_66 : decode cX9_spread 66 = .ok (.invokeinterface 35 3, 5) := by decide +kernel
theorem dX9_spread_71 : decode cX9_spread 71 = .ok (.goto 5, 3) := dk_167 0 5 (dk_at dksX9_spread_3 5 rfl rfl)
theorem dX9_spread_74 : decode cX9_spread 74 = .ok (.iload 7, 2) := dk_21 7 (dk_at dksX9_spread_3 8 rfl rfl)
theorem dX9_spread_76 : decode cX9_spread 76 = .ok (.istore 9, 2) := dk_54 9 (dk_at dksX9_spread_3 10 rfl rfl)
theorem dX9_spread_78 : decode cX9_spread 78 = .ok (.aload_n 0, 1) := dk_42 (dk_at dksX9_spread_3 12 rfl rfl)
theorem dX9_spread_79 : decode cX9_spread 79 = .ok (.getfield 9, 3) := dk_180 0 9 (dk_at dksX9_spread_3 13 rfl rfl)
theorem dX9_spread_82 : decode cX9_spread 82 = .ok (.iload 9, 2) := dk_21 9 (dk_at dksX9_spread_3 16 rfl rfl)
theorem dX9_spread_84 : decode cX9_spread 84 = .ok (.baload, 1) := dk_51 (dk_at dksX9_spread_3 18 rfl rfl)
theorem dX9_spread_85 : decode cX9_spread 85 = .ok (.ifCond .ne 26, 3) := dk_154 0 26 (dk_at dksX9_spread_3 19 rfl rfl)
theorem dX9_spread_88 : decode cX9_spread 88 = .ok (.aload_n 0, 1) := dk_42 (dk_at dksX9_spread_3 22 rfl rfl)
theorem dX9_spread_89 : decode cX9_spread 89 = .ok (.getfield 9, 3) := dk_180 0 9 (dk_at dksX9_spread_4 0 rfl rfl)
theorem dX9_spread_92 : decode cX9_spread 92 = .ok (.iload 9, 2) := dk_21 9 (dk_at dksX9_spread_4 3 rfl rfl)
theorem dX9_spread_94 : decode cX9_spread 94 = .ok (.iconst 1, 1) := dk_4 (dk_at dksX9_spread_4 5 rfl rfl)
theorem dX9_spread_95 : decode cX9_spread 95 = .ok (.bastore, 1) := dk_84 (dk_at dksX9_spread_4 6 rfl rfl)
theorem dX9_spread_96 : decode cX9_spread 96 = .ok (.aload_n 0, 1) := dk_42 (dk_at dksX9_spread_4 7 rfl rfl)
theorem dX9_spread_97 : decode cX9_spread 97 = .ok (.getfield 15, 3) := dk_180 0 15 (dk_at dksX9_spread_4 8 rfl rfl)
theorem dX9_spread_100 : decode cX9_spread 100 = .ok (.iload 5, 2) := dk_21 5 (dk_at dksX9_spread_4 11 rfl rfl)
theorem dX9_spread_102 : decode cX9_spread 102 = .ok (.iload 9, 2) := dk_21 9 (dk_at dksX9_spread_4 13 rfl rfl)
theorem dX9_spread_104 : decode cX9_spread 104 = .ok (.iastore, 1) := dk_79 (dk_at dksX9_spread_4 15 rfl rfl)
theorem dX9_spread_105 : decode cX9_spread 105 = .ok (.iinc 5 1, 3) := dk_132 5 1 (dk_at dksX9_spread_4 16 rfl rfl)
theorem dX9_spread_108 : decode cX9_spread 108 = .ok (.iinc 6 1, 3) := dk_132 6 1 (dk_at dksX9_spread_4 19 rfl rfl)
theorem dX9_spread_111 : decode cX9_spread 111 = .ok (.iinc 8 1, 3) := dk_132 8 1 (dk_at dksX9_spread_5 0 rfl rfl)
theorem dX9_spread_114 : decode cX9_spread 114 = .ok (.goto (-74), 3) := dk_167 255 182 (dk_at dksX9_spread_5 3 rfl rfl)
theorem dX9_spread_117 : decode cX9_spread 117 = .ok (.goto (-97), 3) := dk_167 255 159 (dk_at dksX9_spread_5 6 rfl rfl)
theorem dX9_spread_120 : decode cX9_spread 120 = .ok (.iload 6, 2) := dk_21 6 (dk_at dksX9_spread_5 9 rfl rfl)
theorem dX9_spread_122 : decode cX9_spread 122 = .ok (.ireturn, 1) := dk_172 (dk_at dksX9_spread_5 11 rfl rfl)
theorem q117 : (Jvm.Cond.initialized "EightBlocks$Flood") ∈ lw_all := lw_g (lw_at lw_m1 22 rfl) rfl
theorem q258 : (Jvm.Cond.fieldLinkNest "EightBlocks$Flood" (29 : Nat) "EightBlocks$Hall" "moves" "[LEightBlocks$Move;" "EightBlocks") ∈ lw_tbl := lw_at lw_m1 163 rfl
theorem q486 : (Jvm.Cond.instantiable "EightBlocks$Flood" (2 : Nat)) ∈ lw_all := lw_g (lw_at lw_m2 151 rfl) rfl
theorem q488 : (Jvm.Cond.instanceMethod ({ cls := "EightBlocks$Flood", name := "<init>", desc := "()V" } : Jvm.MethodName)) ∈ lw_all := lw_g (lw_at lw_m2 153 rfl) rfl
theorem q489 : (Jvm.Cond.code ({ cls := "EightBlocks$Flood", name := "<init>", desc := "()V" } : Jvm.MethodName) prog_5_method_1_code (1 : Nat) (Option.none : Option Jvm.ClassFile.FieldType)) ∈ lw_all := lw_g (lw_at lw_m2 154 rfl) rfl
theorem q490 : (Jvm.Cond.methodLink "EightBlocks$Flood" (3 : Nat) ({ cls := "java/lang/Object", name := "<init>", desc := "()V" } : Jvm.MethodName)) ∈ lw_all := lw_g (lw_at lw_m2 155 rfl) rfl
theorem q491 : (Jvm.Cond.fieldLink "EightBlocks$Flood" (9 : Nat) "EightBlocks$Flood" "seen" "[Z") ∈ lw_all := lw_g (lw_at lw_m2 156 rfl) rfl
theorem q493 : (Jvm.Cond.fieldLink "EightBlocks$Flood" (15 : Nat) "EightBlocks$Flood" "stack" "[I") ∈ lw_all := lw_g (lw_at lw_m2 158 rfl) rfl
theorem q494 : (Jvm.Cond.laysFinal "EightBlocks$Flood" "EightBlocks$Flood" "seen" "[Z") ∈ lw_all := lw_g (lw_at lw_m2 159 rfl) rfl
theorem q495 : (Jvm.Cond.soleField "EightBlocks$Flood" "seen") ∈ lw_all := lw_g (lw_at lw_m2 160 rfl) rfl
theorem q496 : (Jvm.Cond.laysFinal "EightBlocks$Flood" "EightBlocks$Flood" "stack" "[I") ∈ lw_all := lw_g (lw_at lw_m2 161 rfl) rfl
theorem q497 : (Jvm.Cond.soleField "EightBlocks$Flood" "stack") ∈ lw_all := lw_g (lw_at lw_m2 162 rfl) rfl
theorem q498 : (Jvm.Cond.superclass "EightBlocks$Flood" "java/lang/Object") ∈ lw_all := lw_g (lw_at lw_m2 163 rfl) rfl
theorem q1481 : (Jvm.Cond.instanceMethod ({ cls := "EightBlocks$Flood", name := "clear", desc := "()V" } : Jvm.MethodName)) ∈ lw_all := lw_g (lw_at lw_m6 186 rfl) rfl
theorem q1482 : (Jvm.Cond.selects "EightBlocks$Flood" ({ cls := "EightBlocks$Flood", name := "clear", desc := "()V" } : Jvm.MethodName) ({ cls := "EightBlocks$Flood", name := "clear", desc := "()V" } : Jvm.MethodName)) ∈ lw_all := lw_g (lw_at lw_m6 187 rfl) rfl
theorem q1483 : (Jvm.Cond.code ({ cls := "EightBlocks$Flood", name := "clear", desc := "()V" } : Jvm.MethodName) prog_5_method_2_code (1 : Nat) (Option.none : Option Jvm.ClassFile.FieldType)) ∈ lw_all := lw_g (lw_at lw_m6 188 rfl) rfl
theorem q1484 : (Jvm.Cond.methodLink "EightBlocks$Flood" (19 : Nat) ({ cls := "java/util/Arrays", name := "fill", desc := "([ZZ)V" } : Jvm.MethodName)) ∈ lw_all := lw_g (lw_at lw_m6 189 rfl) rfl
theorem q1523 : (Jvm.Cond.instanceMethod ({ cls := "EightBlocks$Flood", name := "spread", desc := "(LEightBlocks$Things;ILEightBlocks$Hall;I)I" } : Jvm.MethodName)) ∈ lw_all := lw_g (lw_at lw_m6 228 rfl) rfl
theorem q1524 : (Jvm.Cond.selects "EightBlocks$Flood" ({ cls := "EightBlocks$Flood", name := "spread", desc := "(LEightBlocks$Things;ILEightBlocks$Hall;I)I" } : Jvm.MethodName) ({ cls := "EightBlocks$Flood", name := "spread", desc := "(LEightBlocks$Things;ILEightBlocks$Hall;I)I" } : Jvm.MethodName)) ∈ lw_all := lw_g (lw_at lw_m6 229 rfl) rfl
theorem q1525 : (Jvm.Cond.code ({ cls := "EightBlocks$Flood", name := "spread", desc := "(LEightBlocks$Things;ILEightBlocks$Hall;I)I" } : Jvm.MethodName) prog_5_method_3_code (10 : Nat) (Option.some Jvm.ClassFile.FieldType.int)) ∈ lw_all := lw_g (lw_at lw_m6 230 rfl) rfl
theorem q1526 : (Jvm.Cond.methodLinkNest "EightBlocks$Flood" (25 : Nat) ({ cls := "EightBlocks", name := "has", desc := "(II)Z" } : Jvm.MethodName) "EightBlocks") ∈ lw_tbl := lw_at lw_m6 231 rfl
theorem q1527 : (Jvm.Cond.interfaceEntry "EightBlocks$Flood" (35 : Nat)) ∈ lw_tbl := lw_at lw_m6 232 rfl
theorem q1528 : (Jvm.Cond.methodLink "EightBlocks$Flood" (35 : Nat) ({ cls := "EightBlocks$Things", name := "next", desc := "(ILEightBlocks$Move;)I" } : Jvm.MethodName)) ∈ lw_all := lw_g (lw_at lw_m6 233 rfl) rfl
theorem in_X9 : ∀ w ∈ wsX90, w ∈ lw_all := lw_in wsX90 [494, 496] (by decide +kernel) (by decide +kernel)

/-! EightBlocks$Sheet -/
set_option maxRecDepth 100000
def RX10 : String := "EightBlocks$Sheet"
def TX10 : u_T := fun k => match k with
  | _ => ("EightBlocks$Sheet", "row", "Ljava/lang/Object;", false)
def tyX10 : Nat → FieldType := fun k => match k with
  | _ => .object "java/lang/Object"
abbrev wsX100 : List Cond := u_ws RX10 TX10 1
theorem nmX10 : ∀ a, a < 1 → ∀ b, b < 1 → a ≠ b → (TX10 a).2.1 ≠ (TX10 b).2.1 := by decide +kernel
theorem tyX10_ok : ∀ k, k < 1 → parseFieldDescriptor (TX10 k).2.2.1 = some (tyX10 k) := by decide +kernel
abbrev cX10_init : ByteArray := prog_16_method_1_code
def yX10_init : MethodName := ⟨RX10, "<init>", "()V"⟩
theorem dX10_init_0 : decode cX10_init 0 = .ok (.aload_n 0, 1) := by decide +kernel
theorem dX10_init_1 : decode cX10_init 1 = .ok (.invokespecial 1, 3) := by decide +kernel
theorem dX10_init_4 : decode cX10_init 4 = .ok (.return_, 1) := by decide +kernel
abbrev cX10_lane : ByteArray := prog_16_method_2_code
def yX10_lane : MethodName := ⟨RX10, "lane", "()I"⟩
def dkwX10_lane_1 : List UInt8 := [4, 167, 0, 18, 42, 180, 0, 7, 193, 0, 17, 153, 0, 7, 5, 167, 0, 4, 6, 172]
abbrev dktX10_lane_1 : List UInt8 := dkwX10_lane_1 ++ []
def dkwX10_lane_0 : List UInt8 := [42, 180, 0, 7, 193, 0, 13, 153, 0, 7, 3, 167, 0, 32, 42, 180, 0, 7, 193, 0, 15, 153, 0, 7]
abbrev dktX10_lane_0 : List UInt8 := dkwX10_lane_0 ++ dktX10_lane_1
theorem dksX10_lane_0 : cX10_lane.data.toList.drop 0 = dktX10_lane_0 := by decide +kernel
theorem dksX10_lane_1 : cX10_lane.data.toList.drop 24 = dktX10_lane_1 := dk_seg dksX10_lane_0 24 rfl rfl
theorem dX10_lane_0 : decode cX10_lane 0 = .ok (.aload_n 0, 1) := dk_42 (dk_at dksX10_lane_0 0 rfl rfl)
theorem dX10_lane_1 : decode cX10_lane 1 = .ok (.getfield 7, 3) := dk_180 0 7 (dk_at dksX10_lane_0 1 rfl rfl)
theorem dX10_lane_4 : decode cX10_lane 4 = .ok (.instanceof 13, 3) := dk_193 0 13 (dk_at dksX10_lane_0 4 rfl rfl)
theorem dX10_lane_7 : decode cX10_lane 7 = .ok (.ifCond .eq 7, 3) := dk_153 0 7 (dk_at dksX10_lane_0 7 rfl rfl)
theorem dX10_lane_10 : decode cX10_lane 10 = .ok (.iconst 0, 1) := dk_3 (dk_at dksX10_lane_0 10 rfl rfl)
theorem dX10_lane_11 : decode cX10_lane 11 = .ok (.goto 32, 3) := dk_167 0 32 (dk_at dksX10_lane_0 11 rfl rfl)
theorem dX10_lane_14 : decode cX10_lane 14 = .ok (.aload_n 0, 1) := dk_42 (dk_at dksX10_lane_0 14 rfl rfl)
theorem dX10_lane_15 : decode cX10_lane 15 = .ok (.getfield 7, 3) := dk_180 0 7 (dk_at dksX10_lane_0 15 rfl rfl)
theorem dX10_lane_18 : decode cX10_lane 18 = .ok (.instanceof 15, 3) := dk_193 0 15 (dk_at dksX10_lane_0 18 rfl rfl)
theorem dX10_lane_21 : decode cX10_lane 21 = .ok (.ifCond .eq 7, 3) := dk_153 0 7 (dk_at dksX10_lane_0 21 rfl rfl)
theorem dX10_lane_24 : decode cX10_lane 24 = .ok (.iconst 1, 1) := dk_4 (dk_at dksX10_lane_1 0 rfl rfl)
theorem dX10_lane_25 : decode cX10_lane 25 = .ok (.goto 18, 3) := dk_167 0 18 (dk_at dksX10_lane_1 1 rfl rfl)
theorem dX10_lane_28 : decode cX10_lane 28 = .ok (.aload_n 0, 1) := dk_42 (dk_at dksX10_lane_1 4 rfl rfl)
theorem dX10_lane_29 : decode cX10_lane 29 = .ok (.getfield 7, 3) := dk_180 0 7 (dk_at dksX10_lane_1 5 rfl rfl)
theorem dX10_lane_32 : decode cX10_lane 32 = .ok (.instanceof 17, 3) := dk_193 0 17 (dk_at dksX10_lane_1 8 rfl rfl)
theorem dX10_lane_35 : decode cX10_lane 35 = .ok (.ifCond .eq 7, 3) := dk_153 0 7 (dk_at dksX10_lane_1 11 rfl rfl)
theorem dX10_lane_38 : decode cX10_lane 38 = .ok (.iconst 2, 1) := dk_5 (dk_at dksX10_lane_1 14 rfl rfl)
theorem dX10_lane_39 : decode cX10_lane 39 = .ok (.goto 4, 3) := dk_167 0 4 (dk_at dksX10_lane_1 15 rfl rfl)
theorem dX10_lane_42 : decode cX10_lane 42 = .ok (.iconst 3, 1) := dk_6 (dk_at dksX10_lane_1 18 rfl rfl)
theorem dX10_lane_43 : decode cX10_lane 43 = .ok (.ireturn, 1) := dk_172 (dk_at dksX10_lane_1 19 rfl rfl)
abbrev cX10_size : ByteArray := prog_16_method_3_code
def yX10_size : MethodName := ⟨RX10, "size", "()I"⟩
def dkwX10_size_3 : List UInt8 := [172]
abbrev dktX10_size_3 : List UInt8 := dkwX10_size_3 ++ []
def dkwX10_size_2 : List UInt8 := [193, 0, 17, 153, 0, 13, 44, 192, 0, 17, 76, 43, 190, 167, 0, 11, 42, 180, 0, 7, 192, 0, 19, 190]
abbrev dktX10_size_2 : List UInt8 := dkwX10_size_2 ++ dktX10_size_3
def dkwX10_size_1 : List UInt8 := [77, 44, 193, 0, 15, 153, 0, 11, 44, 192, 0, 15, 76, 43, 190, 172, 42, 180, 0, 7, 77, 44]
abbrev dktX10_size_1 : List UInt8 := dkwX10_size_1 ++ dktX10_size_2
def dkwX10_size_0 : List UInt8 := [42, 180, 0, 7, 77, 44, 193, 0, 13, 153, 0, 11, 44, 192, 0, 13, 76, 43, 190, 172, 42, 180, 0, 7]
abbrev dktX10_size_0 : List UInt8 := dkwX10_size_0 ++ dktX10_size_1
theorem dksX10_size_0 : cX10_size.data.toList.drop 0 = dktX10_size_0 := by decide +kernel
theorem dksX10_size_1 : cX10_size.data.toList.drop 24 = dktX10_size_1 := dk_seg dksX10_size_0 24 rfl rfl
theorem dksX10_size_2 : cX10_size.data.toList.drop 46 = dktX10_size_2 := dk_seg dksX10_size_1 22 rfl rfl
theorem dksX10_size_3 : cX10_size.data.toList.drop 70 = dktX10_size_3 := dk_seg dksX10_size_2 24 rfl rfl
theorem dX10_size_0 : decode cX10_size 0 = .ok (.aload_n 0, 1) := dk_42 (dk_at dksX10_size_0 0 rfl rfl)
theorem dX10_size_1 : decode cX10_size 1 = .ok (.getfield 7, 3) := dk_180 0 7 (dk_at dksX10_size_0 1 rfl rfl)
theorem dX10_size_4 : decode cX10_size 4 = .ok (.astore_n 2, 1) := dk_77 (dk_at dksX10_size_0 4 rfl rfl)
theorem dX10_size_5 : decode cX10_size 5 = .ok (.aload_n 2, 1) := dk_44 (dk_at dksX10_size_0 5 rfl rfl)
theorem dX10_size_6 : decode cX10_size 6 = .ok (.instanceof 13, 3) := dk_193 0 13 (dk_at dksX10_size_0 6 rfl rfl)
theorem dX10_size_9 : decode cX10_size 9 = .ok (.ifCond .eq 11, 3) := dk_153 0 11 (dk_at dksX10_size_0 9 rfl rfl)
theorem dX10_size_12 : decode cX10_size 12 = .ok (.aload_n 2, 1) := dk_44 (dk_at dksX10_size_0 12 rfl rfl)
theorem dX10_size_13 : decode cX10_size 13 = .ok (.checkcast 13, 3) := dk_192 0 13 (dk_at dksX10_size_0 13 rfl rfl)
theorem dX10_size_16 : decode cX10_size 16 = .ok (.astore_n 1, 1) := dk_76 (dk_at dksX10_size_0 16 rfl rfl)
theorem dX10_size_17 : decode cX10_size 17 = .ok (.aload_n 1, 1) := dk_43 (dk_at dksX10_size_0 17 rfl rfl)
theorem dX10_size_18 : decode cX10_size 18 = .ok (.arraylength, 1) := dk_190 (dk_at dksX10_size_0 18 rfl rfl)
theorem dX10_size_19 : decode cX10_size 19 = .ok (.ireturn, 1) := dk_172 (dk_at dksX10_size_0 19 rfl rfl)
theorem dX10_size_20 : decode cX10_size 20 = .ok (.aload_n 0, 1) := dk_42 (dk_at dksX10_size_0 20 rfl rfl)
theorem dX10_size_21 : decode cX10_size 21 = .ok (.getfield 7, 3) := dk_180 0 7 (dk_at dksX10_size_0 21 rfl rfl)
theorem dX10_size_24 : decode cX10_size 24 = .ok (.astore_n 2, 1) := dk_77 (dk_at dksX10_size_1 0 rfl rfl)
theorem dX10_size_25 : decode cX10_size 25 = .ok (.aload_n 2, 1) := dk_44 (dk_at dksX10_size_1 1 rfl rfl)
theorem dX10_size_26 : decode cX10_size 26 = .ok (.instanceof 15, 3) := dk_193 0 15 (dk_at dksX10_size_1 2 rfl rfl)
theorem dX10_size_29 : decode cX10_size 29 = .ok (.ifCond .eq 11, 3) := dk_153 0 11 (dk_at dksX10_size_1 5 rfl rfl)
theorem dX10_size_32 : decode cX10_size 32 = .ok (.aload_n 2, 1) := dk_44 (dk_at dksX10_size_1 8 rfl rfl)
theorem dX10_size_33 : decode cX10_size 33 = .ok (.checkcast 15, 3) := dk_192 0 15 (dk_at dksX10_size_1 9 rfl rfl)
theorem dX10_size_36 : decode cX10_size 36 = .ok (.astore_n 1, 1) := dk_76 (dk_at dksX10_size_1 12 rfl rfl)
theorem dX10_size_37 : decode cX10_size 37 = .ok (.aload_n 1, 1) := dk_43 (dk_at dksX10_size_1 13 rfl rfl)
theorem dX10_size_38 : decode cX10_size 38 = .ok (.arraylength, 1) := dk_190 (dk_at dksX10_size_1 14 rfl rfl)
theorem dX10_size_39 : decode cX10_size 39 = .ok (.ireturn, 1) := dk_172 (dk_at dksX10_size_1 15 rfl rfl)
theorem dX10_size_40 : decode cX10_size 40 = .ok (.aload_n 0, 1) := dk_42 (dk_at dksX10_size_1 16 rfl rfl)
theorem dX10_size_41 : decode cX10_size 41 = .ok (.getfield 7, 3) := dk_180 0 7 (dk_at dksX10_size_1 17 rfl rfl)
theorem dX10_size_44 : decode cX10_size 44 = .ok (.astore_n 2, 1) := dk_77 (dk_at dksX10_size_1 20 rfl rfl)
theorem dX10_size_45 : decode cX10_size 45 = .ok (.aload_n 2, 1) := dk_44 (dk_at dksX10_size_1 21 rfl rfl)
theorem dX10_size_46 : decode cX10_size 46 = .ok (.instanceof 17, 3) := dk_193 0 17 (dk_at dksX10_size_2 0 rfl rfl)
theorem dX10_size_49 : decode cX10_size 49 = .ok (.ifCond .eq 13, 3) := dk_153 0 13 (dk_at dksX10_size_2 3 rfl rfl)
theorem dX10_size_52 : decode cX10_size 52 = .ok (.aload_n 2, 1) := dk_44 (dk_at dksX10_size_2 6 rfl rfl)
theorem dX10_size_53 : decode cX10_size 53 = .ok (.checkcast 17, 3) := dk_192 0 17 (dk_at dksX10_size_2 7 rfl rfl)
theorem dX10_size_56 : decode cX10_size 56 = .ok (.astore_n 1, 1) := dk_76 (dk_at dksX10_size_2 10 rfl rfl)
theorem dX10_size_57 : decode cX10_size 57 = .ok (.aload_n 1, 1) := dk_43 (dk_at dksX10_size_2 11 rfl rfl)
theorem dX10_size_58 : decode cX10_size 58 = .ok (.arraylength, 1) := dk_190 (dk_at dksX10_size_2 12 rfl rfl)
theorem dX10_size_59 : decode cX10_size 59 = .ok (.goto 11, 3) := dk_167 0 11 (dk_at dksX10_size_2 13 rfl rfl)
theorem dX10_size_62 : decode cX10_size 62 = .ok (.aload_n 0, 1) := dk_42 (dk_at dksX10_size_2 16 rfl rfl)
theorem dX10_size_63 : decode cX10_size 63 = .ok (.getfield 7, 3) := dk_180 0 7 (dk_at dksX10_size_2 17 rfl rfl)
theorem dX10_size_66 : decode cX10_size 66 = .ok (.checkcast 19, 3) := dk_192 0 19 (dk_at dksX10_size_2 20 rfl rfl)
theorem dX10_size_69 : decode cX10_size 69 = .ok (.arraylength, 1) := dk_190 (dk_at dksX10_size_2 23 rfl rfl)
theorem dX10_size_70 : decode cX10_size 70 = .ok (.ireturn, 1) := dk_172 (dk_at dksX10_size_3 0 rfl rfl)
abbrev cX10_get : ByteArray := prog_16_method_4_code
def yX10_get : MethodName := ⟨RX10, "get", "(I)J"⟩
def dkwX10_get_3 : List UInt8 := [180, 0, 7, 192, 0, 19, 27, 47, 173]
abbrev dktX10_get_3 : List UInt8 := dkwX10_get_3 ++ []
def dkwX10_get_2 : List UInt8 := [180, 0, 7, 78, 45, 193, 0, 17, 153, 0, 15, 45, 192, 0, 17, 77, 44, 27, 46, 133, 167, 0, 12, 42]
abbrev dktX10_get_2 : List UInt8 := dkwX10_get_2 ++ dktX10_get_3
def dkwX10_get_1 : List UInt8 := [180, 0, 7, 78, 45, 193, 0, 15, 153, 0, 13, 45, 192, 0, 15, 77, 44, 27, 53, 133, 173, 42]
abbrev dktX10_get_1 : List UInt8 := dkwX10_get_1 ++ dktX10_get_2
def dkwX10_get_0 : List UInt8 := [42, 180, 0, 7, 78, 45, 193, 0, 13, 153, 0, 13, 45, 192, 0, 13, 77, 44, 27, 51, 133, 173, 42]
abbrev dktX10_get_0 : List UInt8 := dkwX10_get_0 ++ dktX10_get_1
theorem dksX10_get_0 : cX10_get.data.toList.drop 0 = dktX10_get_0 := by decide +kernel
theorem dksX10_get_1 : cX10_get.data.toList.drop 23 = dktX10_get_1 := dk_seg dksX10_get_0 23 rfl rfl
theorem dksX10_get_2 : cX10_get.data.toList.drop 45 = dktX10_get_2 := dk_seg dksX10_get_1 22 rfl rfl
theorem dksX10_get_3 : cX10_get.data.toList.drop 69 = dktX10_get_3 := dk_seg dksX10_get_2 24 rfl rfl
theorem dX10_get_0 : decode cX10_get 0 = .ok (.aload_n 0, 1) := dk_42 (dk_at dksX10_get_0 0 rfl rfl)
theorem dX10_get_1 : decode cX10_get 1 = .ok (.getfield 7, 3) := dk_180 0 7 (dk_at dksX10_get_0 1 rfl rfl)
theorem dX10_get_4 : decode cX10_get 4 = .ok (.astore_n 3, 1) := dk_78 (dk_at dksX10_get_0 4 rfl rfl)
theorem dX10_get_5 : decode cX10_get 5 = .ok (.aload_n 3, 1) := dk_45 (dk_at dksX10_get_0 5 rfl rfl)
theorem dX10_get_6 : decode cX10_get 6 = .ok (.instanceof 13, 3) := dk_193 0 13 (dk_at dksX10_get_0 6 rfl rfl)
theorem dX10_get_9 : decode cX10_get 9 = .ok (.ifCond .eq 13, 3) := dk_153 0 13 (dk_at dksX10_get_0 9 rfl rfl)
theorem dX10_get_12 : decode cX10_get 12 = .ok (.aload_n 3, 1) := dk_45 (dk_at dksX10_get_0 12 rfl rfl)
theorem dX10_get_13 : decode cX10_get 13 = .ok (.checkcast 13, 3) := dk_192 0 13 (dk_at dksX10_get_0 13 rfl rfl)
theorem dX10_get_16 : decode cX10_get 16 = .ok (.astore_n 2, 1) := dk_77 (dk_at dksX10_get_0 16 rfl rfl)
theorem dX10_get_17 : decode cX10_get 17 = .ok (.aload_n 2, 1) := dk_44 (dk_at dksX10_get_0 17 rfl rfl)
theorem dX10_get_18 : decode cX10_get 18 = .ok (.iload_n 1, 1) := dk_27 (dk_at dksX10_get_0 18 rfl rfl)
theorem dX10_get_19 : decode cX10_get 19 = .ok (.baload, 1) := dk_51 (dk_at dksX10_get_0 19 rfl rfl)
theorem dX10_get_20 : decode cX10_get 20 = .ok (.i2l, 1) := dk_133 (dk_at dksX10_get_0 20 rfl rfl)
theorem dX10_get_21 : decode cX10_get 21 = .ok (.lreturn, 1) := dk_173 (dk_at dksX10_get_0 21 rfl rfl)
theorem dX10_get_22 : decode cX10_get 22 = .ok (.aload_n 0, 1) := dk_42 (dk_at dksX10_get_0 22 rfl rfl)
theorem dX10_get_23 : decode cX10_get 23 = .ok (.getfield 7, 3) := dk_180 0 7 (dk_at dksX10_get_1 0 rfl rfl)
theorem dX10_get_26 : decode cX10_get 26 = .ok (.astore_n 3, 1) := dk_78 (dk_at dksX10_get_1 3 rfl rfl)
theorem dX10_get_27 : decode cX10_get 27 = .ok (.aload_n 3, 1) := dk_45 (dk_at dksX10_get_1 4 rfl rfl)
theorem dX10_get_28 : decode cX10_get 28 = .ok (.instanceof 15, 3) := dk_193 0 15 (dk_at dksX10_get_1 5 rfl rfl)
theorem dX10_get_31 : decode cX10_get 31 = .ok (.ifCond .eq 13, 3) := dk_153 0 13 (dk_at dksX10_get_1 8 rfl rfl)
theorem dX10_get_34 : decode cX10_get 34 = .ok (.aload_n 3, 1) := dk_45 (dk_at dksX10_get_1 11 rfl rfl)
theorem dX10_get_35 : decode cX10_get 35 = .ok (.checkcast 15, 3) := dk_192 0 15 (dk_at dksX10_get_1 12 rfl rfl)
theorem dX10_get_38 : decode cX10_get 38 = .ok (.astore_n 2, 1) := dk_77 (dk_at dksX10_get_1 15 rfl rfl)
theorem dX10_get_39 : decode cX10_get 39 = .ok (.aload_n 2, 1) := dk_44 (dk_at dksX10_get_1 16 rfl rfl)
theorem dX10_get_40 : decode cX10_get 40 = .ok (.iload_n 1, 1) := dk_27 (dk_at dksX10_get_1 17 rfl rfl)
theorem dX10_get_41 : decode cX10_get 41 = .ok (.saload, 1) := dk_53 (dk_at dksX10_get_1 18 rfl rfl)
theorem dX10_get_42 : decode cX10_get 42 = .ok (.i2l, 1) := dk_133 (dk_at dksX10_get_1 19 rfl rfl)
theorem dX10_get_43 : decode cX10_get 43 = .ok (.lreturn, 1) := dk_173 (dk_at dksX10_get_1 20 rfl rfl)
theorem dX10_get_44 : decode cX10_get 44 = .ok (.aload_n 0, 1) := dk_42 (dk_at dksX10_get_1 21 rfl rfl)
theorem dX10_get_45 : decode cX10_get 45 = .ok (.getfield 7, 3) := dk_180 0 7 (dk_at dksX10_get_2 0 rfl rfl)
theorem dX10_get_48 : decode cX10_get 48 = .ok (.astore_n 3, 1) := dk_78 (dk_at dksX10_get_2 3 rfl rfl)
theorem dX10_get_49 : decode cX10_get 49 = .ok (.aload_n 3, 1) := dk_45 (dk_at dksX10_get_2 4 rfl rfl)
theorem dX10_get_50 : decode cX10_get 50 = .ok (.instanceof 17, 3) := dk_193 0 17 (dk_at dksX10_get_2 5 rfl rfl)
theorem dX10_get_53 : decode cX10_get 53 = .ok (.ifCond .eq 15, 3) := dk_153 0 15 (dk_at dksX10_get_2 8 rfl rfl)
theorem dX10_get_56 : decode cX10_get 56 = .ok (.aload_n 3, 1) := dk_45 (dk_at dksX10_get_2 11 rfl rfl)
theorem dX10_get_57 : decode cX10_get 57 = .ok (.checkcast 17, 3) := dk_192 0 17 (dk_at dksX10_get_2 12 rfl rfl)
theorem dX10_get_60 : decode cX10_get 60 = .ok (.astore_n 2, 1) := dk_77 (dk_at dksX10_get_2 15 rfl rfl)
theorem dX10_get_61 : decode cX10_get 61 = .ok (.aload_n 2, 1) := dk_44 (dk_at dksX10_get_2 16 rfl rfl)
theorem dX10_get_62 : decode cX10_get 62 = .ok (.iload_n 1, 1) := dk_27 (dk_at dksX10_get_2 17 rfl rfl)
theorem dX10_get_63 : decode cX10_get 63 = .ok (.iaload, 1) := dk_46 (dk_at dksX10_get_2 18 rfl rfl)
theorem dX10_get_64 : decode cX10_get 64 = .ok (.i2l, 1) := dk_133 (dk_at dksX10_get_2 19 rfl rfl)
theorem dX10_get_65 : decode cX10_get 65 = .ok (.goto 12, 3) := dk_167 0 12 (dk_at dksX10_get_2 20 rfl rfl)
theorem dX10_get_68 : decode cX10_get 68 = .ok (.aload_n 0, 1) := dk_42 (dk_at dksX10_get_2 23 rfl rfl)
theorem dX10_get_69 : decode cX10_get 69 = .ok (.getfield 7, 3) := dk_180 0 7 (dk_at dksX10_get_3 0 rfl rfl)
theorem dX10_get_72 : decode cX10_get 72 = .ok (.checkcast 19, 3) := dk_192 0 19 (dk_at dksX10_get_3 3 rfl rfl)
theorem dX10_get_75 : decode cX10_get 75 = .ok (.iload_n 1, 1) := dk_27 (dk_at dksX10_get_3 6 rfl rfl)
theorem dX10_get_76 : decode cX10_get 76 = .ok (.laload, 1) := dk_47 (dk_at dksX10_get_3 7 rfl rfl)
theorem dX10_get_77 : decode cX10_get 77 = .ok (.lreturn, 1) := dk_173 (dk_at dksX10_get_3 8 rfl rfl)
abbrev cX10_lay : ByteArray := prog_16_method_5_code
def yX10_lay : MethodName := ⟨RX10, "lay", "(IIJ)V"⟩
def dkwX10_lay_4 : List UInt8 := [192, 0, 19, 28, 33, 80, 177]
abbrev dktX10_lay_4 : List UInt8 := dkwX10_lay_4 ++ []
def dkwX10_lay_3 : List UInt8 := [136, 147, 86, 167, 0, 27, 42, 180, 0, 7, 192, 0, 17, 28, 33, 136, 79, 167, 0, 13, 42, 180, 0, 7]
abbrev dktX10_lay_3 : List UInt8 := dkwX10_lay_3 ++ dktX10_lay_4
def dkwX10_lay_2 : List UInt8 := [42, 180, 0, 7, 192, 0, 13, 28, 33, 136, 145, 84, 167, 0, 42, 42, 180, 0, 7, 192, 0, 15, 28, 33]
abbrev dktX10_lay_2 : List UInt8 := dkwX10_lay_2 ++ dktX10_lay_3
def dkwX10_lay_1 : List UInt8 := [170, 0, 0, 0, 0, 0, 71, 0, 0, 0, 0, 0, 0, 0, 2, 0, 0, 0, 27, 0, 0, 0, 42, 0, 0, 0, 57]
abbrev dktX10_lay_1 : List UInt8 := dkwX10_lay_1 ++ dktX10_lay_2
def dkwX10_lay_0 : List UInt8 := [27]
abbrev dktX10_lay_0 : List UInt8 := dkwX10_lay_0 ++ dktX10_lay_1
theorem dksX10_lay_0 : cX10_lay.data.toList.drop 0 = dktX10_lay_0 := by decide +kernel
theorem dksX10_lay_1 : cX10_lay.data.toList.drop 1 = dktX10_lay_1 := dk_seg dksX10_lay_0 1 rfl rfl
theorem dksX10_lay_2 : cX10_lay.data.toList.drop 28 = dktX10_lay_2 := dk_seg dksX10_lay_1 27 rfl rfl
theorem dksX10_lay_3 : cX10_lay.data.toList.drop 52 = dktX10_lay_3 := dk_seg dksX10_lay_2 24 rfl rfl
theorem dksX10_lay_4 : cX10_lay.data.toList.drop 76 = dktX10_lay_4 := dk_seg dksX10_lay_3 24 rfl rfl
theorem dX10_lay_0 : decode cX10_lay 0 = .ok (.iload_n 1, 1) := dk_27 (dk_at dksX10_lay_0 0 rfl rfl)
theorem dX10_lay_1 : decode cX10_lay 1 = .ok (.tableswitch 71 0 2 #[27, 42, 57], 27) := by decide +kernel
theorem dX10_lay_28 : decode cX10_lay 28 = .ok (.aload_n 0, 1) := dk_42 (dk_at dksX10_lay_2 0 rfl rfl)
theorem dX10_lay_29 : decode cX10_lay 29 = .ok (.getfield 7, 3) := dk_180 0 7 (dk_at dksX10_lay_2 1 rfl rfl)
theorem dX10_lay_32 : decode cX10_lay 32 = .ok (.checkcast 13, 3) := dk_192 0 13 (dk_at dksX10_lay_2 4 rfl rfl)
theorem dX10_lay_35 : decode cX10_lay 35 = .ok (.iload_n 2, 1) := dk_28 (dk_at dksX10_lay_2 7 rfl rfl)
theorem dX10_lay_36 : decode cX10_lay 36 = .ok (.lload_n 3, 1) := dk_33 (dk_at dksX10_lay_2 8 rfl rfl)
theorem dX10_lay_37 : decode cX10_lay 37 = .ok (.l2i, 1) := dk_136 (dk_at dksX10_lay_2 9 rfl rfl)
theorem dX10_lay_38 : decode cX10_lay 38 = .ok (.i2b, 1) := dk_145 (dk_at dksX10_lay_2 10 rfl rfl)
theorem dX10_lay_39 : decode cX10_lay 39 = .ok (.bastore, 1) := dk_84 (dk_at dksX10_lay_2 11 rfl rfl)
theorem dX10_lay_40 : decode cX10_lay 40 = .ok (.goto 42, 3) := dk_167 0 42 (dk_at dksX10_lay_2 12 rfl rfl)
theorem dX10_lay_43 : decode cX10_lay 43 = .ok (.aload_n 0, 1) := dk_42 (dk_at dksX10_lay_2 15 rfl rfl)
theorem dX10_lay_44 : decode cX10_lay 44 = .ok (.getfield 7, 3) := dk_180 0 7 (dk_at dksX10_lay_2 16 rfl rfl)
theorem dX10_lay_47 : decode cX10_lay 47 = .ok (.checkcast 15, 3) := dk_192 0 15 (dk_at dksX10_lay_2 19 rfl rfl)
theorem dX10_lay_50 : decode cX10_lay 50 = .ok (.iload_n 2, 1) := dk_28 (dk_at dksX10_lay_2 22 rfl rfl)
theorem dX10_lay_51 : decode cX10_lay 51 = .ok (.lload_n 3, 1) := dk_33 (dk_at dksX10_lay_2 23 rfl rfl)
theorem dX10_lay_52 : decode cX10_lay 52 = .ok (.l2i, 1) := dk_136 (dk_at dksX10_lay_3 0 rfl rfl)
theorem dX10_lay_53 : decode cX10_lay 53 = .ok (.i2s, 1) := dk_147 (dk_at dksX10_lay_3 1 rfl rfl)
theorem dX10_lay_54 : decode cX10_lay 54 = .ok (.sastore, 1) := dk_86 (dk_at dksX10_lay_3 2 rfl rfl)
theorem dX10_lay_55 : decode cX10_lay 55 = .ok (.goto 27, 3) := dk_167 0 27 (dk_at dksX10_lay_3 3 rfl rfl)
theorem dX10_lay_58 : decode cX10_lay 58 = .ok (.aload_n 0, 1) := dk_42 (dk_at dksX10_lay_3 6 rfl rfl)
theorem dX10_lay_59 : decode cX10_lay 59 = .ok (.getfield 7, 3) := dk_180 0 7 (dk_at dksX10_lay_3 7 rfl rfl)
theorem dX10_lay_62 : decode cX10_lay 62 = .ok (.checkcast 17, 3) := dk_192 0 17 (dk_at dksX10_lay_3 10 rfl rfl)
theorem dX10_lay_65 : decode cX10_lay 65 = .ok (.iload_n 2, 1) := dk_28 (dk_at dksX10_lay_3 13 rfl rfl)
theorem dX10_lay_66 : decode cX10_lay 66 = .ok (.lload_n 3, 1) := dk_33 (dk_at dksX10_lay_3 14 rfl rfl)
theorem dX10_lay_67 : decode cX10_lay 67 = .ok (.l2i, 1) := dk_136 (dk_at dksX10_lay_3 15 rfl rfl)
theorem dX10_lay_68 : decode cX10_lay 68 = .ok (.iastore, 1) := dk_79 (dk_at dksX10_lay_3 16 rfl rfl)
theorem dX10_lay_69 : decode cX10_lay 69 = .ok (.goto 13, 3) := dk_167 0 13 (dk_at dksX10_lay_3 17 rfl rfl)
theorem dX10_lay_72 : decode cX10_lay 72 = .ok (.aload_n 0, 1) := dk_42 (dk_at dksX10_lay_3 20 rfl rfl)
theorem dX10_lay_73 : decode cX10_lay 73 = .ok (.getfield 7, 3) := dk_180 0 7 (dk_at dksX10_lay_3 21 rfl rfl)
theorem dX10_lay_76 : decode cX10_lay 76 = .ok (.checkcast 19, 3) := dk_192 0 19 (dk_at dksX10_lay_4 0 rfl rfl)
theorem dX10_lay_79 : decode cX10_lay 79 = .ok (.iload_n 2, 1) := dk_28 (dk_at dksX10_lay_4 3 rfl rfl)
theorem dX10_lay_80 : decode cX10_lay 80 = .ok (.lload_n 3, 1) := dk_33 (dk_at dksX10_lay_4 4 rfl rfl)
theorem dX10_lay_81 : decode cX10_lay 81 = .ok (.lastore, 1) := dk_80 (dk_at dksX10_lay_4 5 rfl rfl)
theorem dX10_lay_82 : decode cX10_lay 82 = .ok (.return_, 1) := dk_177 (dk_at dksX10_lay_4 6 rfl rfl)
theorem q118 : (Jvm.Cond.initialized "EightBlocks$Sheet") ∈ lw_all := lw_g (lw_at lw_m1 23 rfl) rfl
theorem q503 : (Jvm.Cond.instantiable "EightBlocks$Sheet" (1 : Nat)) ∈ lw_all := lw_g (lw_at lw_m2 168 rfl) rfl
theorem q505 : (Jvm.Cond.instanceMethod ({ cls := "EightBlocks$Sheet", name := "<init>", desc := "()V" } : Jvm.MethodName)) ∈ lw_all := lw_g (lw_at lw_m2 170 rfl) rfl
theorem q506 : (Jvm.Cond.code ({ cls := "EightBlocks$Sheet", name := "<init>", desc := "()V" } : Jvm.MethodName) prog_16_method_1_code (1 : Nat) (Option.none : Option Jvm.ClassFile.FieldType)) ∈ lw_all := lw_g (lw_at lw_m2 171 rfl) rfl
theorem q507 : (Jvm.Cond.methodLink "EightBlocks$Sheet" (1 : Nat) ({ cls := "java/lang/Object", name := "<init>", desc := "()V" } : Jvm.MethodName)) ∈ lw_all := lw_g (lw_at lw_m2 172 rfl) rfl
theorem q508 : (Jvm.Cond.fieldLink "EightBlocks$Sheet" (7 : Nat) "EightBlocks$Sheet" "row" "Ljava/lang/Object;") ∈ lw_all := lw_g (lw_at lw_m2 173 rfl) rfl
theorem q510 : (Jvm.Cond.lays "EightBlocks$Sheet" "EightBlocks$Sheet" "row" "Ljava/lang/Object;") ∈ lw_all := lw_g (lw_at lw_m2 175 rfl) rfl
theorem q511 : (Jvm.Cond.soleField "EightBlocks$Sheet" "row") ∈ lw_all := lw_g (lw_at lw_m2 176 rfl) rfl
theorem q512 : (Jvm.Cond.superclass "EightBlocks$Sheet" "java/lang/Object") ∈ lw_all := lw_g (lw_at lw_m2 177 rfl) rfl
theorem q1649 : (Jvm.Cond.instanceMethod ({ cls := "EightBlocks$Sheet", name := "lane", desc := "()I" } : Jvm.MethodName)) ∈ lw_all := lw_g (lw_at lw_m7 114 rfl) rfl
theorem q1650 : (Jvm.Cond.selects "EightBlocks$Sheet" ({ cls := "EightBlocks$Sheet", name := "lane", desc := "()I" } : Jvm.MethodName) ({ cls := "EightBlocks$Sheet", name := "lane", desc := "()I" } : Jvm.MethodName)) ∈ lw_all := lw_g (lw_at lw_m7 115 rfl) rfl
theorem q1651 : (Jvm.Cond.code ({ cls := "EightBlocks$Sheet", name := "lane", desc := "()I" } : Jvm.MethodName) prog_16_method_2_code (1 : Nat) (Option.some Jvm.ClassFile.FieldType.int)) ∈ lw_all := lw_g (lw_at lw_m7 116 rfl) rfl
theorem q1652 : (Jvm.Cond.classLink "EightBlocks$Sheet" (13 : Nat) "[B") ∈ lw_all := lw_g (lw_at lw_m7 117 rfl) rfl
theorem q1653 : (Jvm.Cond.classLink "EightBlocks$Sheet" (15 : Nat) "[S") ∈ lw_all := lw_g (lw_at lw_m7 118 rfl) rfl
theorem q1654 : (Jvm.Cond.classLink "EightBlocks$Sheet" (17 : Nat) "[I") ∈ lw_all := lw_g (lw_at lw_m7 119 rfl) rfl
theorem q1656 : (Jvm.Cond.instanceMethod ({ cls := "EightBlocks$Sheet", name := "size", desc := "()I" } : Jvm.MethodName)) ∈ lw_all := lw_g (lw_at lw_m7 121 rfl) rfl
theorem q1657 : (Jvm.Cond.selects "EightBlocks$Sheet" ({ cls := "EightBlocks$Sheet", name := "size", desc := "()I" } : Jvm.MethodName) ({ cls := "EightBlocks$Sheet", name := "size", desc := "()I" } : Jvm.MethodName)) ∈ lw_all := lw_g (lw_at lw_m7 122 rfl) rfl
theorem q1658 : (Jvm.Cond.code ({ cls := "EightBlocks$Sheet", name := "size", desc := "()I" } : Jvm.MethodName) prog_16_method_3_code (3 : Nat) (Option.some Jvm.ClassFile.FieldType.int)) ∈ lw_all := lw_g (lw_at lw_m7 123 rfl) rfl
theorem q1659 : (Jvm.Cond.classLink "EightBlocks$Sheet" (19 : Nat) "[J") ∈ lw_all := lw_g (lw_at lw_m7 124 rfl) rfl
theorem q1665 : (Jvm.Cond.instanceMethod ({ cls := "EightBlocks$Sheet", name := "get", desc := "(I)J" } : Jvm.MethodName)) ∈ lw_all := lw_g (lw_at lw_m7 130 rfl) rfl
theorem q1666 : (Jvm.Cond.selects "EightBlocks$Sheet" ({ cls := "EightBlocks$Sheet", name := "get", desc := "(I)J" } : Jvm.MethodName) ({ cls := "EightBlocks$Sheet", name := "get", desc := "(I)J" } : Jvm.MethodName)) ∈ lw_all := lw_g (lw_at lw_m7 131 rfl) rfl
theorem q1667 : (Jvm.Cond.code ({ cls := "EightBlocks$Sheet", name := "get", desc := "(I)J" } : Jvm.MethodName) prog_16_method_4_code (4 : Nat) (Option.some Jvm.ClassFile.FieldType.long)) ∈ lw_all := lw_g (lw_at lw_m7 132 rfl) rfl
theorem q1690 : (Jvm.Cond.instanceMethod ({ cls := "EightBlocks$Sheet", name := "lay", desc := "(IIJ)V" } : Jvm.MethodName)) ∈ lw_all := lw_g (lw_at lw_m7 155 rfl) rfl
theorem q1691 : (Jvm.Cond.selects "EightBlocks$Sheet" ({ cls := "EightBlocks$Sheet", name := "lay", desc := "(IIJ)V" } : Jvm.MethodName) ({ cls := "EightBlocks$Sheet", name := "lay", desc := "(IIJ)V" } : Jvm.MethodName)) ∈ lw_all := lw_g (lw_at lw_m7 156 rfl) rfl
theorem q1692 : (Jvm.Cond.code ({ cls := "EightBlocks$Sheet", name := "lay", desc := "(IIJ)V" } : Jvm.MethodName) prog_16_method_5_code (5 : Nat) (Option.none : Option Jvm.ClassFile.FieldType)) ∈ lw_all := lw_g (lw_at lw_m7 157 rfl) rfl
theorem in_X10 : ∀ w ∈ wsX100, w ∈ lw_all := lw_in wsX100 [510] (by decide +kernel) (by decide +kernel)

/-! EightBlocks$Way -/
set_option maxRecDepth 100000
def RX11 : String := "EightBlocks$Way"
abbrev cX11_named : ByteArray := prog_21_method_4_code
def yX11_named : MethodName := ⟨RX11, "named", "(Ljava/lang/String;)LEightBlocks$Way;"⟩
def dkwX11_named_8 : List UInt8 := [167, 0, 4, 1, 176]
abbrev dktX11_named_8 : List UInt8 := dkwX11_named_8 ++ []
def dkwX11_named_7 : List UInt8 := [183, 0, 44, 167, 0, 24, 187, 0, 45, 89, 183, 0, 47, 167, 0, 14, 187, 0, 48, 89, 183, 0, 50]
abbrev dktX11_named_7 : List UInt8 := dkwX11_named_7 ++ dktX11_named_8
def dkwX11_named_6 : List UInt8 := [187, 0, 33, 89, 183, 0, 35, 167, 0, 44, 187, 0, 39, 89, 183, 0, 41, 167, 0, 34, 187, 0, 42, 89]
abbrev dktX11_named_6 : List UInt8 := dkwX11_named_6 ++ dktX11_named_7
def dkwX11_named_5 : List UInt8 := [170, 0, 0, 0, 0, 0, 0, 86, 0, 0, 0, 0, 0, 0, 0, 4, 0, 0, 0, 36, 0, 0, 0, 46, 0, 0, 0, 56, 0, 0, 0, 66, 0, 0, 0, 76]
abbrev dktX11_named_5 : List UInt8 := dkwX11_named_5 ++ dktX11_named_6
def dkwX11_named_4 : List UInt8 := [153, 0, 19, 6, 61, 167, 0, 14, 43, 18, 31, 182, 0, 21, 153, 0, 5, 7, 61, 28]
abbrev dktX11_named_4 : List UInt8 := dkwX11_named_4 ++ dktX11_named_5
def dkwX11_named_3 : List UInt8 := [61, 167, 0, 42, 43, 18, 27, 182, 0, 21, 153, 0, 33, 5, 61, 167, 0, 28, 43, 18, 29, 182, 0, 21]
abbrev dktX11_named_3 : List UInt8 := dkwX11_named_3 ++ dktX11_named_4
def dkwX11_named_2 : List UInt8 := [43, 18, 19, 182, 0, 21, 153, 0, 61, 3, 61, 167, 0, 56, 43, 18, 25, 182, 0, 21, 153, 0, 47, 4]
abbrev dktX11_named_2 : List UInt8 := dkwX11_named_2 ++ dktX11_named_3
def dkwX11_named_1 : List UInt8 := [171, 0, 0, 0, 0, 0, 0, 119, 0, 0, 0, 5, 0, 52, 60, 212, 0, 0, 0, 80, 0, 53, 192, 102, 0, 0, 0, 108, 0, 54, 6, 204, 0, 0, 0, 52, 0, 55, 175, 202, 0, 0, 0, 94, 6, 154, 85, 40, 0, 0, 0, 66]
abbrev dktX11_named_1 : List UInt8 := dkwX11_named_1 ++ dktX11_named_2
def dkwX11_named_0 : List UInt8 := [42, 76, 2, 61, 43, 182, 0, 13]
abbrev dktX11_named_0 : List UInt8 := dkwX11_named_0 ++ dktX11_named_1
theorem dksX11_named_0 : cX11_named.data.toList.drop 0 = dktX11_named_0 := by decide +kernel
theorem dksX11_named_1 : cX11_named.data.toList.drop 8 = dktX11_named_1 := dk_seg dksX11_named_0 8 rfl rfl
theorem dksX11_named_2 : cX11_named.data.toList.drop 60 = dktX11_named_2 := dk_seg dksX11_named_1 52 rfl rfl
theorem dksX11_named_3 : cX11_named.data.toList.drop 84 = dktX11_named_3 := dk_seg dksX11_named_2 24 rfl rfl
theorem dksX11_named_4 : cX11_named.data.toList.drop 108 = dktX11_named_4 := dk_seg dksX11_named_3 24 rfl rfl
theorem dksX11_named_5 : cX11_named.data.toList.drop 128 = dktX11_named_5 := dk_seg dksX11_named_4 20 rfl rfl
theorem dksX11_named_6 : cX11_named.data.toList.drop 164 = dktX11_named_6 := dk_seg dksX11_named_5 36 rfl rfl
theorem dksX11_named_7 : cX11_named.data.toList.drop 188 = dktX11_named_7 := dk_seg dksX11_named_6 24 rfl rfl
theorem dksX11_named_8 : cX11_named.data.toList.drop 211 = dktX11_named_8 := dk_seg dksX11_named_7 23 rfl rfl
theorem dX11_named_0 : decode cX11_named 0 = .ok (.aload_n 0, 1) := dk_42 (dk_at dksX11_named_0 0 rfl rfl)
theorem dX11_named_1 : decode cX11_named 1 = .ok (.astore_n 1, 1) := dk_76 (dk_at dksX11_named_0 1 rfl rfl)
theorem dX11_named_2 : decode cX11_named 2 = .ok (.iconst (-1), 1) := dk_2 (dk_at dksX11_named_0 2 rfl rfl)
theorem dX11_named_3 : decode cX11_named 3 = .ok (.istore_n 2, 1) := dk_61 (dk_at dksX11_named_0 3 rfl rfl)
theorem dX11_named_4 : decode cX11_named 4 = .ok (.aload_n 1, 1) := dk_43 (dk_at dksX11_named_0 4 rfl rfl)
theorem dX11_named_5 : decode cX11_named 5 = .ok (.invokevirtual 13, 3) := dk_182 0 13 (dk_at dksX11_named_0 5 rfl rfl)
theorem dX11_named_8 : decode cX11_named 8 = .ok (.lookupswitch 119 #[(3423444, 80), (3522662, 108), (3540684, 52), (3649482, 94), (110777640, 66)], 52) := by decide +kernel
theorem dX11_named_60 : decode cX11_named 60 = .ok (.aload_n 1, 1) := dk_43 (dk_at dksX11_named_2 0 rfl rfl)
theorem dX11_named_61 : decode cX11_named 61 = .ok (.ldc 19, 2) := dk_18 19 (dk_at dksX11_named_2 1 rfl rfl)
theorem dX11_named_63 : decode cX11_named 63 = .ok (.invokevirtual 21, 3) := dk_182 0 21 (dk_at dksX11_named_2 3 rfl rfl)
theorem dX11_named_66 : decode cX11_named 66 = .ok (.ifCond .eq 61, 3) := dk_153 0 61 (dk_at dksX11_named_2 6 rfl rfl)
theorem dX11_named_69 : decode cX11_named 69 = .ok (.iconst 0, 1) := dk_3 (dk_at dksX11_named_2 9 rfl rfl)
theorem dX11_named_70 : decode cX11_named 70 = .ok (.istore_n 2, 1) := dk_61 (dk_at dksX11_named_2 10 rfl rfl)
theorem dX11_named_71 : decode cX11_named 71 = .ok (.goto 56, 3) := dk_167 0 56 (dk_at dksX11_named_2 11 rfl rfl)
theorem dX11_named_74 : decode cX11_named 74 = .ok (.aload_n 1, 1) := dk_43 (dk_at dksX11_named_2 14 rfl rfl)
theorem dX11_named_75 : decode cX11_named 75 = .ok (.ldc 25, 2) := dk_18 25 (dk_at dksX11_named_2 15 rfl rfl)
theorem dX11_named_77 : decode cX11_named 77 = .ok (.invokevirtual 21, 3) := dk_182 0 21 (dk_at dksX11_named_2 17 rfl rfl)
theorem dX11_named_80 : decode cX11_named 80 = .ok (.ifCond .eq 47, 3) := dk_153 0 47 (dk_at dksX11_named_2 20 rfl rfl)
theorem dX11_named_83 : decode cX11_named 83 = .ok (.iconst 1, 1) := dk_4 (dk_at dksX11_named_2 23 rfl rfl)
theorem dX11_named_84 : decode cX11_named 84 = .ok (.istore_n 2, 1) := dk_61 (dk_at dksX11_named_3 0 rfl rfl)
theorem dX11_named_85 : decode cX11_named 85 = .ok (.goto 42, 3) := dk_167 0 42 (dk_at dksX11_named_3 1 rfl rfl)
theorem dX11_named_88 : decode cX11_named 88 = .ok (.aload_n 1, 1) := dk_43 (dk_at dksX11_named_3 4 rfl rfl)
theorem dX11_named_89 : decode cX11_named 89 = .ok (.ldc 27, 2) := dk_18 27 (dk_at dksX11_named_3 5 rfl rfl)
theorem dX11_named_91 : decode cX11_named 91 = .ok (.invokevirtual 21, 3) := dk_182 0 21 (dk_at dksX11_named_3 7 rfl rfl)
theorem dX11_named_94 : decode cX11_named 94 = .ok (.ifCond .eq 33, 3) := dk_153 0 33 (dk_at dksX11_named_3 10 rfl rfl)
theorem dX11_named_97 : decode cX11_named 97 = .ok (.iconst 2, 1) := dk_5 (dk_at dksX11_named_3 13 rfl rfl)
theorem dX11_named_98 : decode cX11_named 98 = .ok (.istore_n 2, 1) := dk_61 (dk_at dksX11_named_3 14 rfl rfl)
theorem dX11_named_99 : decode cX11_named 99 = .ok (.goto 28, 3) := dk_167 0 28 (dk_at dksX11_named_3 15 rfl rfl)
theorem dX11_named_102 : decode cX11_named 102 = .ok (.aload_n 1, 1) := dk_43 (dk_at dksX11_named_3 18 rfl rfl)
theorem dX11_named_103 : decode cX11_named 103 = .ok (.ldc 29, 2) := dk_18 29 (dk_at dksX11_named_3 19 rfl rfl)
theorem dX11_named_105 : decode cX11_named 105 = .ok (.invokevirtual 21, 3) := dk_182 0 21 (dk_at dksX11_named_3 21 rfl rfl)
theorem dX11_named_108 : decode cX11_named 108 = .ok (.ifCond .eq 19, 3) := dk_153 0 19 (dk_at dksX11_named_4 0 rfl rfl)
theorem dX11_named_111 : decode cX11_named 111 = .ok (.iconst 3, 1) := dk_6 (dk_at dksX11_named_4 3 rfl rfl)
theorem dX11_named_112 : decode cX11_named 112 = .ok (.istore_n 2, 1) := dk_61 (dk_at dksX11_named_4 4 rfl rfl)
theorem dX11_named_113 : decode cX11_named 113 = .ok (.goto 14, 3) := dk_167 0 14 (dk_at dksX11_named_4 5 rfl rfl)
theorem dX11_named_116 : decode cX11_named 116 = .ok (.aload_n 1, 1) := dk_43 (dk_at dksX11_named_4 8 rfl rfl)
theorem dX11_named_117 : decode cX11_named 117 = .ok (.ldc 31, 2) := dk_18 31 (dk_at dksX11_named_4 9 rfl rfl)
theorem dX11_named_119 : decode cX11_named 119 = .ok (.invokevirtual 21, 3) := dk_182 0 21 (dk_at dksX11_named_4 11 rfl rfl)
theorem dX11_named_122 : decode cX11_named 122 = .ok (.ifCond .eq 5, 3) := dk_153 0 5 (dk_at dksX11_named_4 14 rfl rfl)
theorem dX11_named_125 : decode cX11_named 125 = .ok (.iconst 4, 1) := dk_7 (dk_at dksX11_named_4 17 rfl rfl)
theorem dX11_named_126 : decode cX11_named 126 = .ok (.istore_n 2, 1) := dk_61 (dk_at dksX11_named_4 18 rfl rfl)
theorem dX11_named_127 : decode cX11_named 127 = .ok (.iload_n 2, 1) := dk_28 (dk_at dksX11_named_4 19 rfl rfl)
theorem dX11_named_128 : decode cX11_named 128 = .ok (.tableswitch 86 0 4 #[36, 46, 56, 66, 76], 36) := by decide +kernel
theorem dX11_named_164 : decode cX11_named 164 = .ok (.new 33, 3) := dk_187 0 33 (dk_at dksX11_named_6 0 rfl rfl)
theorem dX11_named_167 : decode cX11_named 167 = .ok (.dup, 1) := dk_89 (dk_at dksX11_named_6 3 rfl rfl)
theorem dX11_named_168 : decode cX11_named 168 = .ok (.invokespecial 35, 3) := dk_183 0 35 (dk_at dksX11_named_6 4 rfl rfl)
theorem dX11_named_171 : decode cX11_named 171 = .ok (.goto 44, 3) := dk_167 0 44 (dk_at dksX11_named_6 7 rfl rfl)
theorem dX11_named_174 : decode cX11_named 174 = .ok (.new 39, 3) := dk_187 0 39 (dk_at dksX11_named_6 10 rfl rfl)
theorem dX11_named_177 : decode cX11_named 177 = .ok (.dup, 1) := dk_89 (dk_at dksX11_named_6 13 rfl rfl)
theorem dX11_named_178 : decode cX11_named 178 = .ok (.invokespecial 41, 3) := dk_183 0 41 (dk_at dksX11_named_6 14 rfl rfl)
theorem dX11_named_181 : decode cX11_named 181 = .ok (.goto 34, 3) := dk_167 0 34 (dk_at dksX11_named_6 17 rfl rfl)
theorem dX11_named_184 : decode cX11_named 184 = .ok (.new 42, 3) := dk_187 0 42 (dk_at dksX11_named_6 20 rfl rfl)
theorem dX11_named_187 : decode cX11_named 187 = .ok (.dup, 1) := dk_89 (dk_at dksX11_named_6 23 rfl rfl)
theorem dX11_named_188 : decode cX11_named 188 = .ok (.invokespecial 44, 3) := dk_183 0 44 (dk_at dksX11_named_7 0 rfl rfl)
theorem dX11_named_191 : decode cX11_named 191 = .ok (.goto 24, 3) := dk_167 0 24 (dk_at dksX11_named_7 3 rfl rfl)
theorem dX11_named_194 : decode cX11_named 194 = .ok (.new 45, 3) := dk_187 0 45 (dk_at dksX11_named_7 6 rfl rfl)
theorem dX11_named_197 : decode cX11_named 197 = .ok (.dup, 1) := dk_89 (dk_at dksX11_named_7 9 rfl rfl)
theorem dX11_named_198 : decode cX11_named 198 = .ok (.invokespecial 47, 3) := dk_183 0 47 (dk_at dksX11_named_7 10 rfl rfl)
theorem dX11_named_201 : decode cX11_named 201 = .ok (.goto 14, 3) := dk_167 0 14 (dk_at dksX11_named_7 13 rfl rfl)
theorem dX11_named_204 : decode cX11_named 204 = .ok (.new 48, 3) := dk_187 0 48 (dk_at dksX11_named_7 16 rfl rfl)
theorem dX11_named_207 : decode cX11_named 207 = .ok (.dup, 1) := dk_89 (dk_at dksX11_named_7 19 rfl rfl)
theorem dX11_named_208 : decode cX11_named 208 = .ok (.invokespecial 50, 3) := dk_183 0 50 (dk_at dksX11_named_7 20 rfl rfl)
theorem dX11_named_211 : decode cX11_named 211 = .ok (.goto 4, 3) := dk_167 0 4 (dk_at dksX11_named_8 0 rfl rfl)
theorem dX11_named_214 : decode cX11_named 214 = .ok (.aconst_null, 1) := dk_1 (dk_at dksX11_named_8 3 rfl rfl)
theorem dX11_named_215 : decode cX11_named 215 = .ok (.areturn, 1) := dk_176 (dk_at dksX11_named_8 4 rfl rfl)
abbrev cX11_over : ByteArray := prog_21_method_2_code
def yX11_over : MethodName := ⟨RX11, "over", "(I)I"⟩
def dkwX11_over_1 : List UInt8 := [185, 0, 7, 2, 0, 120, 167, 0, 4, 3, 128, 61, 132, 3, 1, 167, 255, 223, 28, 172]
abbrev dktX11_over_1 : List UInt8 := dkwX11_over_1 ++ []
def dkwX11_over_0 : List UInt8 := [3, 61, 3, 62, 29, 16, 24, 162, 0, 33, 28, 27, 29, 184, 0, 3, 153, 0, 15, 4, 42, 29]
abbrev dktX11_over_0 : List UInt8 := dkwX11_over_0 ++ dktX11_over_1
theorem dksX11_over_0 : cX11_over.data.toList.drop 0 = dktX11_over_0 := by decide +kernel
theorem dksX11_over_1 : cX11_over.data.toList.drop 22 = dktX11_over_1 := dk_seg dksX11_over_0 22 rfl rfl
theorem dX11_over_0 : decode cX11_over 0 = .ok (.iconst 0, 1) := dk_3 (dk_at dksX11_over_0 0 rfl rfl)
theorem dX11_over_1 : decode cX11_over 1 = .ok (.istore_n 2, 1) := dk_61 (dk_at dksX11_over_0 1 rfl rfl)
theorem dX11_over_2 : decode cX11_over 2 = .ok (.iconst 0, 1) := dk_3 (dk_at dksX11_over_0 2 rfl rfl)
theorem dX11_over_3 : decode cX11_over 3 = .ok (.istore_n 3, 1) := dk_62 (dk_at dksX11_over_0 3 rfl rfl)
theorem dX11_over_4 : decode cX11_over 4 = .ok (.iload_n 3, 1) := dk_29 (dk_at dksX11_over_0 4 rfl rfl)
theorem dX11_over_5 : decode cX11_over 5 = .ok (.bipush 24, 2) := dk_16 24 (dk_at dksX11_over_0 5 rfl rfl)
theorem dX11_over_7 : decode cX11_over 7 = .ok (.if_icmp .ge 33, 3) := dk_162 0 33 (dk_at dksX11_over_0 7 rfl rfl)
theorem dX11_over_10 : decode cX11_over 10 = .ok (.iload_n 2, 1) := dk_28 (dk_at dksX11_over_0 10 rfl rfl)
theorem dX11_over_11 : decode cX11_over 11 = .ok (.iload_n 1, 1) := dk_27 (dk_at dksX11_over_0 11 rfl rfl)
theorem dX11_over_12 : decode cX11_over 12 = .ok (.iload_n 3, 1) := dk_29 (dk_at dksX11_over_0 12 rfl rfl)
theorem dX11_over_13 : decode cX11_over 13 = .ok (.invokestatic 3, 3) := dk_184 0 3 (dk_at dksX11_over_0 13 rfl rfl)
theorem dX11_over_16 : decode cX11_over 16 = .ok (.ifCond .eq 15, 3) := dk_153 0 15 (dk_at dksX11_over_0 16 rfl rfl)
theorem dX11_over_19 : decode cX11_over 19 = .ok (.iconst 1, 1) := dk_4 (dk_at dksX11_over_0 19 rfl rfl)
theorem dX11_over_20 : decode cX11_over 20 = .ok (.aload_n 0, 1) := dk_42 (dk_at dksX11_over_0 20 rfl rfl)
theorem dX11_over_21 : decode cX11_over 21 = .ok (.iload_n 3, 1) := dk_29 (dk_at dksX11_over_0 21 rfl rfl)
theorem dX11_over_22 : decode cX11_over 22 = .ok (.invokeinterface 7 2, 5) := by decide +kernel
theorem dX11_over_27 : decode cX11_over 27 = .ok (.ishl, 1) := dk_120 (dk_at dksX11_over_1 5 rfl rfl)
theorem dX11_over_28 : decode cX11_over 28 = .ok (.goto 4, 3) := dk_167 0 4 (dk_at dksX11_over_1 6 rfl rfl)
theorem dX11_over_31 : decode cX11_over 31 = .ok (.iconst 0, 1) := dk_3 (dk_at dksX11_over_1 9 rfl rfl)
theorem dX11_over_32 : decode cX11_over 32 = .ok (.ior, 1) := dk_128 (dk_at dksX11_over_1 10 rfl rfl)
theorem dX11_over_33 : decode cX11_over 33 = .ok (.istore_n 2, 1) := dk_61 (dk_at dksX11_over_1 11 rfl rfl)
theorem dX11_over_34 : decode cX11_over 34 = .ok (.iinc 3 1, 3) := dk_132 3 1 (dk_at dksX11_over_1 12 rfl rfl)
theorem dX11_over_37 : decode cX11_over 37 = .ok (.goto (-33), 3) := dk_167 255 223 (dk_at dksX11_over_1 15 rfl rfl)
theorem dX11_over_40 : decode cX11_over 40 = .ok (.iload_n 2, 1) := dk_28 (dk_at dksX11_over_1 18 rfl rfl)
theorem dX11_over_41 : decode cX11_over 41 = .ok (.ireturn, 1) := dk_172 (dk_at dksX11_over_1 19 rfl rfl)
abbrev cX11_round : ByteArray := prog_21_method_3_code
def yX11_round : MethodName := ⟨RX11, "round", "(I)I"⟩
def dkwX11_round_1 : List UInt8 := [185, 0, 7, 2, 0, 62, 132, 2, 1, 167, 255, 234, 28, 172]
abbrev dktX11_round_1 : List UInt8 := dkwX11_round_1 ++ []
def dkwX11_round_0 : List UInt8 := [4, 61, 42, 27, 185, 0, 7, 2, 0, 62, 28, 16, 24, 162, 0, 22, 29, 27, 159, 0, 17, 42, 29]
abbrev dktX11_round_0 : List UInt8 := dkwX11_round_0 ++ dktX11_round_1
theorem dksX11_round_0 : cX11_round.data.toList.drop 0 = dktX11_round_0 := by decide +kernel
theorem dksX11_round_1 : cX11_round.data.toList.drop 23 = dktX11_round_1 := dk_seg dksX11_round_0 23 rfl rfl
theorem dX11_round_0 : decode cX11_round 0 = .ok (.iconst 1, 1) := dk_4 (dk_at dksX11_round_0 0 rfl rfl)
theorem dX11_round_1 : decode cX11_round 1 = .ok (.istore_n 2, 1) := dk_61 (dk_at dksX11_round_0 1 rfl rfl)
theorem dX11_round_2 : decode cX11_round 2 = .ok (.aload_n 0, 1) := dk_42 (dk_at dksX11_round_0 2 rfl rfl)
theorem dX11_round_3 : decode cX11_round 3 = .ok (.iload_n 1, 1) := dk_27 (dk_at dksX11_round_0 3 rfl rfl)
theorem dX11_round_4 : decode cX11_round 4 = .ok (.invokeinterface 7 2, 5) := by decide +kernel
theorem dX11_round_9 : decode cX11_round 9 = .ok (.istore_n 3, 1) := dk_62 (dk_at dksX11_round_0 9 rfl rfl)
theorem dX11_round_10 : decode cX11_round 10 = .ok (.iload_n 2, 1) := dk_28 (dk_at dksX11_round_0 10 rfl rfl)
theorem dX11_round_11 : decode cX11_round 11 = .ok (.bipush 24, 2) := dk_16 24 (dk_at dksX11_round_0 11 rfl rfl)
theorem dX11_round_13 : decode cX11_round 13 = .ok (.if_icmp .ge 22, 3) := dk_162 0 22 (dk_at dksX11_round_0 13 rfl rfl)
theorem dX11_round_16 : decode cX11_round 16 = .ok (.iload_n 3, 1) := dk_29 (dk_at dksX11_round_0 16 rfl rfl)
theorem dX11_round_17 : decode cX11_round 17 = .ok (.iload_n 1, 1) := dk_27 (dk_at dksX11_round_0 17 rfl rfl)
theorem dX11_round_18 : decode cX11_round 18 = .ok (.if_icmp .eq 17, 3) := dk_159 0 17 (dk_at dksX11_round_0 18 rfl rfl)
theorem dX11_round_21 : decode cX11_round 21 = .ok (.aload_n 0, 1) := dk_42 (dk_at dksX11_round_0 21 rfl rfl)
theorem dX11_round_22 : decode cX11_round 22 = .ok (.iload_n 3, 1) := dk_29 (dk_at dksX11_round_0 22 rfl rfl)
theorem dX11_round_23 : decode cX11_round 23 = .ok (.invokeinterface 7 2, 5) := by decide +kernel
theorem dX11_round_28 : decode cX11_round 28 = .ok (.istore_n 3, 1) := dk_62 (dk_at dksX11_round_1 5 rfl rfl)
theorem dX11_round_29 : decode cX11_round 29 = .ok (.iinc 2 1, 3) := dk_132 2 1 (dk_at dksX11_round_1 6 rfl rfl)
theorem dX11_round_32 : decode cX11_round 32 = .ok (.goto (-22), 3) := dk_167 255 234 (dk_at dksX11_round_1 9 rfl rfl)
theorem dX11_round_35 : decode cX11_round 35 = .ok (.iload_n 2, 1) := dk_28 (dk_at dksX11_round_1 12 rfl rfl)
theorem dX11_round_36 : decode cX11_round 36 = .ok (.ireturn, 1) := dk_172 (dk_at dksX11_round_1 13 rfl rfl)
theorem q119 : (Jvm.Cond.initialized "EightBlocks$Way") ∈ lw_all := lw_g (lw_at lw_m1 24 rfl) rfl
theorem q521 : (Jvm.Cond.static ({ cls := "EightBlocks$Way", name := "named", desc := "(Ljava/lang/String;)LEightBlocks$Way;" } : Jvm.MethodName)) ∈ lw_all := lw_g (lw_at lw_m2 186 rfl) rfl
theorem q522 : (Jvm.Cond.code ({ cls := "EightBlocks$Way", name := "named", desc := "(Ljava/lang/String;)LEightBlocks$Way;" } : Jvm.MethodName) prog_21_method_4_code (3 : Nat) (Option.some (Jvm.ClassFile.FieldType.object "EightBlocks$Way"))) ∈ lw_all := lw_g (lw_at lw_m2 187 rfl) rfl
theorem q523 : (Jvm.Cond.methodLink "EightBlocks$Way" (13 : Nat) ({ cls := "java/lang/String", name := "hashCode", desc := "()I" } : Jvm.MethodName)) ∈ lw_all := lw_g (lw_at lw_m2 188 rfl) rfl
theorem q589 : (Jvm.Cond.stringRef "EightBlocks$Way" (19 : Nat) "step") ∈ lw_tbl := lw_at lw_m3 14 rfl
theorem q590 : (Jvm.Cond.methodLink "EightBlocks$Way" (21 : Nat) ({ cls := "java/lang/String", name := "equals", desc := "(Ljava/lang/Object;)Z" } : Jvm.MethodName)) ∈ lw_all := lw_g (lw_at lw_m3 15 rfl) rfl
theorem q598 : (Jvm.Cond.stringRef "EightBlocks$Way" (25 : Nat) "twice") ∈ lw_tbl := lw_at lw_m3 23 rfl
theorem q599 : (Jvm.Cond.stringRef "EightBlocks$Way" (27 : Nat) "over") ∈ lw_tbl := lw_at lw_m3 24 rfl
theorem q600 : (Jvm.Cond.stringRef "EightBlocks$Way" (29 : Nat) "wild") ∈ lw_tbl := lw_at lw_m3 25 rfl
theorem q601 : (Jvm.Cond.stringRef "EightBlocks$Way" (31 : Nat) "same") ∈ lw_tbl := lw_at lw_m3 26 rfl
theorem q602 : (Jvm.Cond.classLink "EightBlocks$Way" (33 : Nat) "EightBlocks$Step") ∈ lw_all := lw_g (lw_at lw_m3 27 rfl) rfl
theorem q604 : (Jvm.Cond.methodLinkNest "EightBlocks$Way" (35 : Nat) ({ cls := "EightBlocks$Step", name := "<init>", desc := "()V" } : Jvm.MethodName) "EightBlocks") ∈ lw_tbl := lw_at lw_m3 29 rfl
theorem q612 : (Jvm.Cond.classLink "EightBlocks$Way" (39 : Nat) "EightBlocks$Twice") ∈ lw_all := lw_g (lw_at lw_m3 37 rfl) rfl
theorem q614 : (Jvm.Cond.methodLinkNest "EightBlocks$Way" (41 : Nat) ({ cls := "EightBlocks$Twice", name := "<init>", desc := "()V" } : Jvm.MethodName) "EightBlocks") ∈ lw_tbl := lw_at lw_m3 39 rfl
theorem q619 : (Jvm.Cond.classLink "EightBlocks$Way" (42 : Nat) "EightBlocks$Over") ∈ lw_all := lw_g (lw_at lw_m3 44 rfl) rfl
theorem q621 : (Jvm.Cond.methodLinkNest "EightBlocks$Way" (44 : Nat) ({ cls := "EightBlocks$Over", name := "<init>", desc := "()V" } : Jvm.MethodName) "EightBlocks") ∈ lw_tbl := lw_at lw_m3 46 rfl
theorem q626 : (Jvm.Cond.classLink "EightBlocks$Way" (45 : Nat) "EightBlocks$Wild") ∈ lw_all := lw_g (lw_at lw_m3 51 rfl) rfl
theorem q628 : (Jvm.Cond.methodLinkNest "EightBlocks$Way" (47 : Nat) ({ cls := "EightBlocks$Wild", name := "<init>", desc := "()V" } : Jvm.MethodName) "EightBlocks") ∈ lw_tbl := lw_at lw_m3 53 rfl
theorem q633 : (Jvm.Cond.classLink "EightBlocks$Way" (48 : Nat) "EightBlocks$Same") ∈ lw_all := lw_g (lw_at lw_m3 58 rfl) rfl
theorem q634 : (Jvm.Cond.methodLinkNest "EightBlocks$Way" (50 : Nat) ({ cls := "EightBlocks$Same", name := "<init>", desc := "()V" } : Jvm.MethodName) "EightBlocks") ∈ lw_tbl := lw_at lw_m3 59 rfl
theorem q641 : (Jvm.Cond.interfaceMethod "EightBlocks$Way" "EightBlocks$Way" "to" "(I)I") ∈ lw_tbl := lw_at lw_m3 66 rfl
theorem q642 : (Jvm.Cond.declares ({ cls := "EightBlocks$Way", name := "to", desc := "(I)I" } : Jvm.MethodName)) ∈ lw_tbl := lw_at lw_m3 67 rfl
theorem q829 : (Jvm.Cond.declares ({ cls := "EightBlocks$Way", name := "over", desc := "(I)I" } : Jvm.MethodName)) ∈ lw_tbl := lw_at lw_m4 14 rfl
theorem q831 : (Jvm.Cond.instanceMethod ({ cls := "EightBlocks$Way", name := "over", desc := "(I)I" } : Jvm.MethodName)) ∈ lw_all := lw_g (lw_at lw_m4 16 rfl) rfl
theorem q832 : (Jvm.Cond.publicMethod ({ cls := "EightBlocks$Way", name := "over", desc := "(I)I" } : Jvm.MethodName)) ∈ lw_tbl := lw_at lw_m4 17 rfl
theorem q833 : (Jvm.Cond.code ({ cls := "EightBlocks$Way", name := "over", desc := "(I)I" } : Jvm.MethodName) prog_21_method_2_code (4 : Nat) (Option.some Jvm.ClassFile.FieldType.int)) ∈ lw_all := lw_g (lw_at lw_m4 18 rfl) rfl
theorem q834 : (Jvm.Cond.methodLinkNest "EightBlocks$Way" (3 : Nat) ({ cls := "EightBlocks", name := "has", desc := "(II)Z" } : Jvm.MethodName) "EightBlocks") ∈ lw_tbl := lw_at lw_m4 19 rfl
theorem q835 : (Jvm.Cond.interfaceEntry "EightBlocks$Way" (7 : Nat)) ∈ lw_tbl := lw_at lw_m4 20 rfl
theorem q836 : (Jvm.Cond.methodLink "EightBlocks$Way" (7 : Nat) ({ cls := "EightBlocks$Way", name := "to", desc := "(I)I" } : Jvm.MethodName)) ∈ lw_all := lw_g (lw_at lw_m4 21 rfl) rfl
theorem q846 : (Jvm.Cond.declares ({ cls := "EightBlocks$Way", name := "round", desc := "(I)I" } : Jvm.MethodName)) ∈ lw_tbl := lw_at lw_m4 31 rfl
theorem q848 : (Jvm.Cond.instanceMethod ({ cls := "EightBlocks$Way", name := "round", desc := "(I)I" } : Jvm.MethodName)) ∈ lw_all := lw_g (lw_at lw_m4 33 rfl) rfl
theorem q849 : (Jvm.Cond.publicMethod ({ cls := "EightBlocks$Way", name := "round", desc := "(I)I" } : Jvm.MethodName)) ∈ lw_tbl := lw_at lw_m4 34 rfl
theorem q850 : (Jvm.Cond.code ({ cls := "EightBlocks$Way", name := "round", desc := "(I)I" } : Jvm.MethodName) prog_21_method_3_code (4 : Nat) (Option.some Jvm.ClassFile.FieldType.int)) ∈ lw_all := lw_g (lw_at lw_m4 35 rfl) rfl

/-! EightBlocks$Rounded -/
set_option maxRecDepth 100000
def RX12 : String := "EightBlocks$Rounded"
abbrev cX12_init : ByteArray := prog_12_method_1_code
def yX12_init : MethodName := ⟨RX12, "<init>", "()V"⟩
theorem dX12_init_0 : decode cX12_init 0 = .ok (.aload_n 0, 1) := by decide +kernel
theorem dX12_init_1 : decode cX12_init 1 = .ok (.invokespecial 3, 3) := by decide +kernel
theorem dX12_init_4 : decode cX12_init 4 = .ok (.return_, 1) := by decide +kernel
abbrev cX12_to : ByteArray := prog_12_method_3_code
def yX12_to : MethodName := ⟨RX12, "to", "(I)I"⟩
def dkwX12_to_0 : List UInt8 := [27, 16, 23, 160, 0, 7, 27, 167, 0, 11, 42, 27, 182, 0, 9, 16, 23, 112, 172]
abbrev dktX12_to_0 : List UInt8 := dkwX12_to_0 ++ []
theorem dksX12_to_0 : cX12_to.data.toList.drop 0 = dktX12_to_0 := by decide +kernel
theorem dX12_to_0 : decode cX12_to 0 = .ok (.iload_n 1, 1) := dk_27 (dk_at dksX12_to_0 0 rfl rfl)
theorem dX12_to_1 : decode cX12_to 1 = .ok (.bipush 23, 2) := dk_16 23 (dk_at dksX12_to_0 1 rfl rfl)
theorem dX12_to_3 : decode cX12_to 3 = .ok (.if_icmp .ne 7, 3) := dk_160 0 7 (dk_at dksX12_to_0 3 rfl rfl)
theorem dX12_to_6 : decode cX12_to 6 = .ok (.iload_n 1, 1) := dk_27 (dk_at dksX12_to_0 6 rfl rfl)
theorem dX12_to_7 : decode cX12_to 7 = .ok (.goto 11, 3) := dk_167 0 11 (dk_at dksX12_to_0 7 rfl rfl)
theorem dX12_to_10 : decode cX12_to 10 = .ok (.aload_n 0, 1) := dk_42 (dk_at dksX12_to_0 10 rfl rfl)
theorem dX12_to_11 : decode cX12_to 11 = .ok (.iload_n 1, 1) := dk_27 (dk_at dksX12_to_0 11 rfl rfl)
theorem dX12_to_12 : decode cX12_to 12 = .ok (.invokevirtual 9, 3) := dk_182 0 9 (dk_at dksX12_to_0 12 rfl rfl)
theorem dX12_to_15 : decode cX12_to 15 = .ok (.bipush 23, 2) := dk_16 23 (dk_at dksX12_to_0 15 rfl rfl)
theorem dX12_to_17 : decode cX12_to 17 = .ok (.irem, 1) := dk_112 (dk_at dksX12_to_0 17 rfl rfl)
theorem dX12_to_18 : decode cX12_to 18 = .ok (.ireturn, 1) := dk_172 (dk_at dksX12_to_0 18 rfl rfl)
theorem q122 : (Jvm.Cond.initialized "EightBlocks$Rounded") ∈ lw_all := lw_g (lw_at lw_m1 27 rfl) rfl
theorem q608 : (Jvm.Cond.instanceMethod ({ cls := "EightBlocks$Rounded", name := "<init>", desc := "()V" } : Jvm.MethodName)) ∈ lw_all := lw_g (lw_at lw_m3 33 rfl) rfl
theorem q609 : (Jvm.Cond.code ({ cls := "EightBlocks$Rounded", name := "<init>", desc := "()V" } : Jvm.MethodName) prog_12_method_1_code (1 : Nat) (Option.none : Option Jvm.ClassFile.FieldType)) ∈ lw_all := lw_g (lw_at lw_m3 34 rfl) rfl
theorem q610 : (Jvm.Cond.methodLink "EightBlocks$Rounded" (3 : Nat) ({ cls := "java/lang/Object", name := "<init>", desc := "()V" } : Jvm.MethodName)) ∈ lw_all := lw_g (lw_at lw_m3 35 rfl) rfl
theorem q664 : (Jvm.Cond.instanceMethod ({ cls := "EightBlocks$Rounded", name := "to", desc := "(I)I" } : Jvm.MethodName)) ∈ lw_all := lw_g (lw_at lw_m3 89 rfl) rfl
theorem q665 : (Jvm.Cond.publicMethod ({ cls := "EightBlocks$Rounded", name := "to", desc := "(I)I" } : Jvm.MethodName)) ∈ lw_tbl := lw_at lw_m3 90 rfl
theorem q666 : (Jvm.Cond.code ({ cls := "EightBlocks$Rounded", name := "to", desc := "(I)I" } : Jvm.MethodName) prog_12_method_3_code (2 : Nat) (Option.some Jvm.ClassFile.FieldType.int)) ∈ lw_all := lw_g (lw_at lw_m3 91 rfl) rfl
theorem q667 : (Jvm.Cond.methodLink "EightBlocks$Rounded" (9 : Nat) ({ cls := "EightBlocks$Rounded", name := "on", desc := "(I)I" } : Jvm.MethodName)) ∈ lw_all := lw_g (lw_at lw_m3 92 rfl) rfl
theorem q668 : (Jvm.Cond.declares ({ cls := "EightBlocks$Rounded", name := "on", desc := "(I)I" } : Jvm.MethodName)) ∈ lw_tbl := lw_at lw_m3 93 rfl
theorem q669 : (Jvm.Cond.sameMethod "EightBlocks$Rounded" "EightBlocks$Rounded" "on" "(I)I") ∈ lw_all := lw_g (lw_at lw_m3 94 rfl) rfl

/-! EightBlocks$Step -/
set_option maxRecDepth 100000
def RX13 : String := "EightBlocks$Step"
abbrev cX13_init : ByteArray := prog_17_method_1_code
def yX13_init : MethodName := ⟨RX13, "<init>", "()V"⟩
theorem dX13_init_0 : decode cX13_init 0 = .ok (.aload_n 0, 1) := by decide +kernel
theorem dX13_init_1 : decode cX13_init 1 = .ok (.invokespecial 1, 3) := by decide +kernel
theorem dX13_init_4 : decode cX13_init 4 = .ok (.return_, 1) := by decide +kernel
abbrev cX13_on : ByteArray := prog_17_method_2_code
def yX13_on : MethodName := ⟨RX13, "on", "(I)I"⟩
def dkwX13_on_0 : List UInt8 := [27, 4, 96, 172]
abbrev dktX13_on_0 : List UInt8 := dkwX13_on_0 ++ []
theorem dksX13_on_0 : cX13_on.data.toList.drop 0 = dktX13_on_0 := by decide +kernel
theorem dX13_on_0 : decode cX13_on 0 = .ok (.iload_n 1, 1) := dk_27 (dk_at dksX13_on_0 0 rfl rfl)
theorem dX13_on_1 : decode cX13_on 1 = .ok (.iconst 1, 1) := dk_4 (dk_at dksX13_on_0 1 rfl rfl)
theorem dX13_on_2 : decode cX13_on 2 = .ok (.iadd, 1) := dk_96 (dk_at dksX13_on_0 2 rfl rfl)
theorem dX13_on_3 : decode cX13_on 3 = .ok (.ireturn, 1) := dk_172 (dk_at dksX13_on_0 3 rfl rfl)
theorem q123 : (Jvm.Cond.initialized "EightBlocks$Step") ∈ lw_all := lw_g (lw_at lw_m1 28 rfl) rfl
theorem q603 : (Jvm.Cond.instantiable "EightBlocks$Step" (0 : Nat)) ∈ lw_all := lw_g (lw_at lw_m3 28 rfl) rfl
theorem q605 : (Jvm.Cond.instanceMethod ({ cls := "EightBlocks$Step", name := "<init>", desc := "()V" } : Jvm.MethodName)) ∈ lw_all := lw_g (lw_at lw_m3 30 rfl) rfl
theorem q606 : (Jvm.Cond.code ({ cls := "EightBlocks$Step", name := "<init>", desc := "()V" } : Jvm.MethodName) prog_17_method_1_code (1 : Nat) (Option.none : Option Jvm.ClassFile.FieldType)) ∈ lw_all := lw_g (lw_at lw_m3 31 rfl) rfl
theorem q607 : (Jvm.Cond.methodLinkNest "EightBlocks$Step" (1 : Nat) ({ cls := "EightBlocks$Rounded", name := "<init>", desc := "()V" } : Jvm.MethodName) "EightBlocks") ∈ lw_tbl := lw_at lw_m3 32 rfl
theorem q611 : (Jvm.Cond.superclass "EightBlocks$Step" "EightBlocks$Rounded") ∈ lw_all := lw_g (lw_at lw_m3 36 rfl) rfl
theorem q661 : (Jvm.Cond.castable "EightBlocks$Step" "EightBlocks$Way") ∈ lw_tbl := lw_at lw_m3 86 rfl
theorem q662 : (Jvm.Cond.selects "EightBlocks$Step" ({ cls := "EightBlocks$Way", name := "to", desc := "(I)I" } : Jvm.MethodName) ({ cls := "EightBlocks$Rounded", name := "to", desc := "(I)I" } : Jvm.MethodName)) ∈ lw_all := lw_g (lw_at lw_m3 87 rfl) rfl
theorem q663 : (Jvm.Cond.unhidden "EightBlocks$Step" "to" "(I)I") ∈ lw_tbl := lw_at lw_m3 88 rfl
theorem q670 : (Jvm.Cond.selects "EightBlocks$Step" ({ cls := "EightBlocks$Rounded", name := "on", desc := "(I)I" } : Jvm.MethodName) ({ cls := "EightBlocks$Step", name := "on", desc := "(I)I" } : Jvm.MethodName)) ∈ lw_all := lw_g (lw_at lw_m3 95 rfl) rfl
theorem q671 : (Jvm.Cond.instanceMethod ({ cls := "EightBlocks$Step", name := "on", desc := "(I)I" } : Jvm.MethodName)) ∈ lw_all := lw_g (lw_at lw_m3 96 rfl) rfl
theorem q672 : (Jvm.Cond.code ({ cls := "EightBlocks$Step", name := "on", desc := "(I)I" } : Jvm.MethodName) prog_17_method_2_code (2 : Nat) (Option.some Jvm.ClassFile.FieldType.int)) ∈ lw_all := lw_g (lw_at lw_m3 97 rfl) rfl

/-! EightBlocks$Twice -/
set_option maxRecDepth 100000
def RX14 : String := "EightBlocks$Twice"
abbrev cX14_init : ByteArray := prog_20_method_1_code
def yX14_init : MethodName := ⟨RX14, "<init>", "()V"⟩
theorem dX14_init_0 : decode cX14_init 0 = .ok (.aload_n 0, 1) := by decide +kernel
theorem dX14_init_1 : decode cX14_init 1 = .ok (.invokespecial 1, 3) := by decide +kernel
theorem dX14_init_4 : decode cX14_init 4 = .ok (.return_, 1) := by decide +kernel
abbrev cX14_on : ByteArray := prog_20_method_2_code
def yX14_on : MethodName := ⟨RX14, "on", "(I)I"⟩
def dkwX14_on_0 : List UInt8 := [5, 27, 104, 172]
abbrev dktX14_on_0 : List UInt8 := dkwX14_on_0 ++ []
theorem dksX14_on_0 : cX14_on.data.toList.drop 0 = dktX14_on_0 := by decide +kernel
theorem dX14_on_0 : decode cX14_on 0 = .ok (.iconst 2, 1) := dk_5 (dk_at dksX14_on_0 0 rfl rfl)
theorem dX14_on_1 : decode cX14_on 1 = .ok (.iload_n 1, 1) := dk_27 (dk_at dksX14_on_0 1 rfl rfl)
theorem dX14_on_2 : decode cX14_on 2 = .ok (.imul, 1) := dk_104 (dk_at dksX14_on_0 2 rfl rfl)
theorem dX14_on_3 : decode cX14_on 3 = .ok (.ireturn, 1) := dk_172 (dk_at dksX14_on_0 3 rfl rfl)
theorem q124 : (Jvm.Cond.initialized "EightBlocks$Twice") ∈ lw_all := lw_g (lw_at lw_m1 29 rfl) rfl
theorem q613 : (Jvm.Cond.instantiable "EightBlocks$Twice" (0 : Nat)) ∈ lw_all := lw_g (lw_at lw_m3 38 rfl) rfl
theorem q615 : (Jvm.Cond.instanceMethod ({ cls := "EightBlocks$Twice", name := "<init>", desc := "()V" } : Jvm.MethodName)) ∈ lw_all := lw_g (lw_at lw_m3 40 rfl) rfl
theorem q616 : (Jvm.Cond.code ({ cls := "EightBlocks$Twice", name := "<init>", desc := "()V" } : Jvm.MethodName) prog_20_method_1_code (1 : Nat) (Option.none : Option Jvm.ClassFile.FieldType)) ∈ lw_all := lw_g (lw_at lw_m3 41 rfl) rfl
theorem q617 : (Jvm.Cond.methodLinkNest "EightBlocks$Twice" (1 : Nat) ({ cls := "EightBlocks$Rounded", name := "<init>", desc := "()V" } : Jvm.MethodName) "EightBlocks") ∈ lw_tbl := lw_at lw_m3 42 rfl
theorem q618 : (Jvm.Cond.superclass "EightBlocks$Twice" "EightBlocks$Rounded") ∈ lw_all := lw_g (lw_at lw_m3 43 rfl) rfl
theorem q673 : (Jvm.Cond.selects "EightBlocks$Twice" ({ cls := "EightBlocks$Rounded", name := "on", desc := "(I)I" } : Jvm.MethodName) ({ cls := "EightBlocks$Twice", name := "on", desc := "(I)I" } : Jvm.MethodName)) ∈ lw_all := lw_g (lw_at lw_m3 98 rfl) rfl
theorem q674 : (Jvm.Cond.instanceMethod ({ cls := "EightBlocks$Twice", name := "on", desc := "(I)I" } : Jvm.MethodName)) ∈ lw_all := lw_g (lw_at lw_m3 99 rfl) rfl
theorem q675 : (Jvm.Cond.code ({ cls := "EightBlocks$Twice", name := "on", desc := "(I)I" } : Jvm.MethodName) prog_20_method_2_code (2 : Nat) (Option.some Jvm.ClassFile.FieldType.int)) ∈ lw_all := lw_g (lw_at lw_m3 100 rfl) rfl
theorem q682 : (Jvm.Cond.castable "EightBlocks$Twice" "EightBlocks$Way") ∈ lw_tbl := lw_at lw_m3 107 rfl
theorem q683 : (Jvm.Cond.selects "EightBlocks$Twice" ({ cls := "EightBlocks$Way", name := "to", desc := "(I)I" } : Jvm.MethodName) ({ cls := "EightBlocks$Rounded", name := "to", desc := "(I)I" } : Jvm.MethodName)) ∈ lw_all := lw_g (lw_at lw_m3 108 rfl) rfl
theorem q684 : (Jvm.Cond.unhidden "EightBlocks$Twice" "to" "(I)I") ∈ lw_tbl := lw_at lw_m3 109 rfl

/-! EightBlocks$Over -/
set_option maxRecDepth 100000
def RX15 : String := "EightBlocks$Over"
abbrev cX15_init : ByteArray := prog_10_method_1_code
def yX15_init : MethodName := ⟨RX15, "<init>", "()V"⟩
theorem dX15_init_0 : decode cX15_init 0 = .ok (.aload_n 0, 1) := by decide +kernel
theorem dX15_init_1 : decode cX15_init 1 = .ok (.invokespecial 3, 3) := by decide +kernel
theorem dX15_init_4 : decode cX15_init 4 = .ok (.return_, 1) := by decide +kernel
abbrev cX15_to : ByteArray := prog_10_method_2_code
def yX15_to : MethodName := ⟨RX15, "to", "(I)I"⟩
def dkwX15_to_1 : List UInt8 := [28, 104, 16, 23, 112, 16, 22, 159, 0, 9, 132, 2, 1, 167, 255, 236, 28, 172]
abbrev dktX15_to_1 : List UInt8 := dkwX15_to_1 ++ []
def dkwX15_to_0 : List UInt8 := [27, 153, 0, 9, 27, 16, 23, 160, 0, 8, 16, 23, 27, 100, 172, 4, 61, 28, 16, 22, 162, 0, 20, 27]
abbrev dktX15_to_0 : List UInt8 := dkwX15_to_0 ++ dktX15_to_1
theorem dksX15_to_0 : cX15_to.data.toList.drop 0 = dktX15_to_0 := by decide +kernel
theorem dksX15_to_1 : cX15_to.data.toList.drop 24 = dktX15_to_1 := dk_seg dksX15_to_0 24 rfl rfl
theorem dX15_to_0 : decode cX15_to 0 = .ok (.iload_n 1, 1) := dk_27 (dk_at dksX15_to_0 0 rfl rfl)
theorem dX15_to_1 : decode cX15_to 1 = .ok (.ifCond .eq 9, 3) := dk_153 0 9 (dk_at dksX15_to_0 1 rfl rfl)
theorem dX15_to_4 : decode cX15_to 4 = .ok (.iload_n 1, 1) := dk_27 (dk_at dksX15_to_0 4 rfl rfl)
theorem dX15_to_5 : decode cX15_to 5 = .ok (.bipush 23, 2) := dk_16 23 (dk_at dksX15_to_0 5 rfl rfl)
theorem dX15_to_7 : decode cX15_to 7 = .ok (.if_icmp .ne 8, 3) := dk_160 0 8 (dk_at dksX15_to_0 7 rfl rfl)
theorem dX15_to_10 : decode cX15_to 10 = .ok (.bipush 23, 2) := dk_16 23 (dk_at dksX15_to_0 10 rfl rfl)
theorem dX15_to_12 : decode cX15_to 12 = .ok (.iload_n 1, 1) := dk_27 (dk_at dksX15_to_0 12 rfl rfl)
theorem dX15_to_13 : decode cX15_to 13 = .ok (.isub, 1) := dk_100 (dk_at dksX15_to_0 13 rfl rfl)
theorem dX15_to_14 : decode cX15_to 14 = .ok (.ireturn, 1) := dk_172 (dk_at dksX15_to_0 14 rfl rfl)
theorem dX15_to_15 : decode cX15_to 15 = .ok (.iconst 1, 1) := dk_4 (dk_at dksX15_to_0 15 rfl rfl)
theorem dX15_to_16 : decode cX15_to 16 = .ok (.istore_n 2, 1) := dk_61 (dk_at dksX15_to_0 16 rfl rfl)
theorem dX15_to_17 : decode cX15_to 17 = .ok (.iload_n 2, 1) := dk_28 (dk_at dksX15_to_0 17 rfl rfl)
theorem dX15_to_18 : decode cX15_to 18 = .ok (.bipush 22, 2) := dk_16 22 (dk_at dksX15_to_0 18 rfl rfl)
theorem dX15_to_20 : decode cX15_to 20 = .ok (.if_icmp .ge 20, 3) := dk_162 0 20 (dk_at dksX15_to_0 20 rfl rfl)
theorem dX15_to_23 : decode cX15_to 23 = .ok (.iload_n 1, 1) := dk_27 (dk_at dksX15_to_0 23 rfl rfl)
theorem dX15_to_24 : decode cX15_to 24 = .ok (.iload_n 2, 1) := dk_28 (dk_at dksX15_to_1 0 rfl rfl)
theorem dX15_to_25 : decode cX15_to 25 = .ok (.imul, 1) := dk_104 (dk_at dksX15_to_1 1 rfl rfl)
theorem dX15_to_26 : decode cX15_to 26 = .ok (.bipush 23, 2) := dk_16 23 (dk_at dksX15_to_1 2 rfl rfl)
theorem dX15_to_28 : decode cX15_to 28 = .ok (.irem, 1) := dk_112 (dk_at dksX15_to_1 4 rfl rfl)
theorem dX15_to_29 : decode cX15_to 29 = .ok (.bipush 22, 2) := dk_16 22 (dk_at dksX15_to_1 5 rfl rfl)
theorem dX15_to_31 : decode cX15_to 31 = .ok (.if_icmp .eq 9, 3) := dk_159 0 9 (dk_at dksX15_to_1 7 rfl rfl)
theorem dX15_to_34 : decode cX15_to 34 = .ok (.iinc 2 1, 3) := dk_132 2 1 (dk_at dksX15_to_1 10 rfl rfl)
theorem dX15_to_37 : decode cX15_to 37 = .ok (.goto (-20), 3) := dk_167 255 236 (dk_at dksX15_to_1 13 rfl rfl)
theorem dX15_to_40 : decode cX15_to 40 = .ok (.iload_n 2, 1) := dk_28 (dk_at dksX15_to_1 16 rfl rfl)
theorem dX15_to_41 : decode cX15_to 41 = .ok (.ireturn, 1) := dk_172 (dk_at dksX15_to_1 17 rfl rfl)
theorem q125 : (Jvm.Cond.initialized "EightBlocks$Over") ∈ lw_all := lw_g (lw_at lw_m1 30 rfl) rfl
theorem q620 : (Jvm.Cond.instantiable "EightBlocks$Over" (0 : Nat)) ∈ lw_all := lw_g (lw_at lw_m3 45 rfl) rfl
theorem q622 : (Jvm.Cond.instanceMethod ({ cls := "EightBlocks$Over", name := "<init>", desc := "()V" } : Jvm.MethodName)) ∈ lw_all := lw_g (lw_at lw_m3 47 rfl) rfl
theorem q623 : (Jvm.Cond.code ({ cls := "EightBlocks$Over", name := "<init>", desc := "()V" } : Jvm.MethodName) prog_10_method_1_code (1 : Nat) (Option.none : Option Jvm.ClassFile.FieldType)) ∈ lw_all := lw_g (lw_at lw_m3 48 rfl) rfl
theorem q624 : (Jvm.Cond.methodLink "EightBlocks$Over" (3 : Nat) ({ cls := "java/lang/Object", name := "<init>", desc := "()V" } : Jvm.MethodName)) ∈ lw_all := lw_g (lw_at lw_m3 49 rfl) rfl
theorem q625 : (Jvm.Cond.superclass "EightBlocks$Over" "java/lang/Object") ∈ lw_all := lw_g (lw_at lw_m3 50 rfl) rfl
theorem q649 : (Jvm.Cond.castable "EightBlocks$Over" "EightBlocks$Way") ∈ lw_tbl := lw_at lw_m3 74 rfl
theorem q650 : (Jvm.Cond.selects "EightBlocks$Over" ({ cls := "EightBlocks$Way", name := "to", desc := "(I)I" } : Jvm.MethodName) ({ cls := "EightBlocks$Over", name := "to", desc := "(I)I" } : Jvm.MethodName)) ∈ lw_all := lw_g (lw_at lw_m3 75 rfl) rfl
theorem q651 : (Jvm.Cond.unhidden "EightBlocks$Over" "to" "(I)I") ∈ lw_tbl := lw_at lw_m3 76 rfl
theorem q652 : (Jvm.Cond.instanceMethod ({ cls := "EightBlocks$Over", name := "to", desc := "(I)I" } : Jvm.MethodName)) ∈ lw_all := lw_g (lw_at lw_m3 77 rfl) rfl
theorem q653 : (Jvm.Cond.publicMethod ({ cls := "EightBlocks$Over", name := "to", desc := "(I)I" } : Jvm.MethodName)) ∈ lw_tbl := lw_at lw_m3 78 rfl
theorem q654 : (Jvm.Cond.code ({ cls := "EightBlocks$Over", name := "to", desc := "(I)I" } : Jvm.MethodName) prog_10_method_2_code (3 : Nat) (Option.some Jvm.ClassFile.FieldType.int)) ∈ lw_all := lw_g (lw_at lw_m3 79 rfl) rfl

/-! EightBlocks$Wild -/
set_option maxRecDepth 100000
def RX16 : String := "EightBlocks$Wild"
abbrev cX16_init : ByteArray := prog_22_method_1_code
def yX16_init : MethodName := ⟨RX16, "<init>", "()V"⟩
theorem dX16_init_0 : decode cX16_init 0 = .ok (.aload_n 0, 1) := by decide +kernel
theorem dX16_init_1 : decode cX16_init 1 = .ok (.invokespecial 3, 3) := by decide +kernel
theorem dX16_init_4 : decode cX16_init 4 = .ok (.return_, 1) := by decide +kernel
abbrev cX16_on : ByteArray := prog_22_method_3_code
def yX16_on : MethodName := ⟨RX16, "on", "(I)I"⟩
def dkwX16_on_0 : List UInt8 := [27, 184, 0, 9, 153, 0, 8, 16, 18, 167, 0, 5, 16, 9, 27, 104, 27, 104, 27, 104, 172]
abbrev dktX16_on_0 : List UInt8 := dkwX16_on_0 ++ []
theorem dksX16_on_0 : cX16_on.data.toList.drop 0 = dktX16_on_0 := by decide +kernel
theorem dX16_on_0 : decode cX16_on 0 = .ok (.iload_n 1, 1) := dk_27 (dk_at dksX16_on_0 0 rfl rfl)
theorem dX16_on_1 : decode cX16_on 1 = .ok (.invokestatic 9, 3) := dk_184 0 9 (dk_at dksX16_on_0 1 rfl rfl)
theorem dX16_on_4 : decode cX16_on 4 = .ok (.ifCond .eq 8, 3) := dk_153 0 8 (dk_at dksX16_on_0 4 rfl rfl)
theorem dX16_on_7 : decode cX16_on 7 = .ok (.bipush 18, 2) := dk_16 18 (dk_at dksX16_on_0 7 rfl rfl)
theorem dX16_on_9 : decode cX16_on 9 = .ok (.goto 5, 3) := dk_167 0 5 (dk_at dksX16_on_0 9 rfl rfl)
theorem dX16_on_12 : decode cX16_on 12 = .ok (.bipush 9, 2) := dk_16 9 (dk_at dksX16_on_0 12 rfl rfl)
theorem dX16_on_14 : decode cX16_on 14 = .ok (.iload_n 1, 1) := dk_27 (dk_at dksX16_on_0 14 rfl rfl)
theorem dX16_on_15 : decode cX16_on 15 = .ok (.imul, 1) := dk_104 (dk_at dksX16_on_0 15 rfl rfl)
theorem dX16_on_16 : decode cX16_on 16 = .ok (.iload_n 1, 1) := dk_27 (dk_at dksX16_on_0 16 rfl rfl)
theorem dX16_on_17 : decode cX16_on 17 = .ok (.imul, 1) := dk_104 (dk_at dksX16_on_0 17 rfl rfl)
theorem dX16_on_18 : decode cX16_on 18 = .ok (.iload_n 1, 1) := dk_27 (dk_at dksX16_on_0 18 rfl rfl)
theorem dX16_on_19 : decode cX16_on 19 = .ok (.imul, 1) := dk_104 (dk_at dksX16_on_0 19 rfl rfl)
theorem dX16_on_20 : decode cX16_on 20 = .ok (.ireturn, 1) := dk_172 (dk_at dksX16_on_0 20 rfl rfl)
abbrev cX16_isSquare : ByteArray := prog_22_method_2_code
def yX16_isSquare : MethodName := ⟨RX16, "isSquare", "(I)Z"⟩
def dkwX16_isSquare_1 : List UInt8 := [4, 167, 0, 4, 3, 60, 132, 2, 1, 167, 255, 227, 27, 172]
abbrev dktX16_isSquare_1 : List UInt8 := dkwX16_isSquare_1 ++ []
def dkwX16_isSquare_0 : List UInt8 := [3, 60, 4, 61, 28, 16, 23, 162, 0, 29, 27, 154, 0, 25, 28, 28, 104, 16, 23, 112, 26, 160, 0, 7]
abbrev dktX16_isSquare_0 : List UInt8 := dkwX16_isSquare_0 ++ dktX16_isSquare_1
theorem dksX16_isSquare_0 : cX16_isSquare.data.toList.drop 0 = dktX16_isSquare_0 := by decide +kernel
theorem dksX16_isSquare_1 : cX16_isSquare.data.toList.drop 24 = dktX16_isSquare_1 := dk_seg dksX16_isSquare_0 24 rfl rfl
theorem dX16_isSquare_0 : decode cX16_isSquare 0 = .ok (.iconst 0, 1) := dk_3 (dk_at dksX16_isSquare_0 0 rfl rfl)
theorem dX16_isSquare_1 : decode cX16_isSquare 1 = .ok (.istore_n 1, 1) := dk_60 (dk_at dksX16_isSquare_0 1 rfl rfl)
theorem dX16_isSquare_2 : decode cX16_isSquare 2 = .ok (.iconst 1, 1) := dk_4 (dk_at dksX16_isSquare_0 2 rfl rfl)
theorem dX16_isSquare_3 : decode cX16_isSquare 3 = .ok (.istore_n 2, 1) := dk_61 (dk_at dksX16_isSquare_0 3 rfl rfl)
theorem dX16_isSquare_4 : decode cX16_isSquare 4 = .ok (.iload_n 2, 1) := dk_28 (dk_at dksX16_isSquare_0 4 rfl rfl)
theorem dX16_isSquare_5 : decode cX16_isSquare 5 = .ok (.bipush 23, 2) := dk_16 23 (dk_at dksX16_isSquare_0 5 rfl rfl)
theorem dX16_isSquare_7 : decode cX16_isSquare 7 = .ok (.if_icmp .ge 29, 3) := dk_162 0 29 (dk_at dksX16_isSquare_0 7 rfl rfl)
theorem dX16_isSquare_10 : decode cX16_isSquare 10 = .ok (.iload_n 1, 1) := dk_27 (dk_at dksX16_isSquare_0 10 rfl rfl)
theorem dX16_isSquare_11 : decode cX16_isSquare 11 = .ok (.ifCond .ne 25, 3) := dk_154 0 25 (dk_at dksX16_isSquare_0 11 rfl rfl)
theorem dX16_isSquare_14 : decode cX16_isSquare 14 = .ok (.iload_n 2, 1) := dk_28 (dk_at dksX16_isSquare_0 14 rfl rfl)
theorem dX16_isSquare_15 : decode cX16_isSquare 15 = .ok (.iload_n 2, 1) := dk_28 (dk_at dksX16_isSquare_0 15 rfl rfl)
theorem dX16_isSquare_16 : decode cX16_isSquare 16 = .ok (.imul, 1) := dk_104 (dk_at dksX16_isSquare_0 16 rfl rfl)
theorem dX16_isSquare_17 : decode cX16_isSquare 17 = .ok (.bipush 23, 2) := dk_16 23 (dk_at dksX16_isSquare_0 17 rfl rfl)
theorem dX16_isSquare_19 : decode cX16_isSquare 19 = .ok (.irem, 1) := dk_112 (dk_at dksX16_isSquare_0 19 rfl rfl)
theorem dX16_isSquare_20 : decode cX16_isSquare 20 = .ok (.iload_n 0, 1) := dk_26 (dk_at dksX16_isSquare_0 20 rfl rfl)
theorem dX16_isSquare_21 : decode cX16_isSquare 21 = .ok (.if_icmp .ne 7, 3) := dk_160 0 7 (dk_at dksX16_isSquare_0 21 rfl rfl)
theorem dX16_isSquare_24 : decode cX16_isSquare 24 = .ok (.iconst 1, 1) := dk_4 (dk_at dksX16_isSquare_1 0 rfl rfl)
theorem dX16_isSquare_25 : decode cX16_isSquare 25 = .ok (.goto 4, 3) := dk_167 0 4 (dk_at dksX16_isSquare_1 1 rfl rfl)
theorem dX16_isSquare_28 : decode cX16_isSquare 28 = .ok (.iconst 0, 1) := dk_3 (dk_at dksX16_isSquare_1 4 rfl rfl)
theorem dX16_isSquare_29 : decode cX16_isSquare 29 = .ok (.istore_n 1, 1) := dk_60 (dk_at dksX16_isSquare_1 5 rfl rfl)
theorem dX16_isSquare_30 : decode cX16_isSquare 30 = .ok (.iinc 2 1, 3) := dk_132 2 1 (dk_at dksX16_isSquare_1 6 rfl rfl)
theorem dX16_isSquare_33 : decode cX16_isSquare 33 = .ok (.goto (-29), 3) := dk_167 255 227 (dk_at dksX16_isSquare_1 9 rfl rfl)
theorem dX16_isSquare_36 : decode cX16_isSquare 36 = .ok (.iload_n 1, 1) := dk_27 (dk_at dksX16_isSquare_1 12 rfl rfl)
theorem dX16_isSquare_37 : decode cX16_isSquare 37 = .ok (.ireturn, 1) := dk_172 (dk_at dksX16_isSquare_1 13 rfl rfl)
theorem q126 : (Jvm.Cond.initialized "EightBlocks$Wild") ∈ lw_all := lw_g (lw_at lw_m1 31 rfl) rfl
theorem q627 : (Jvm.Cond.instantiable "EightBlocks$Wild" (0 : Nat)) ∈ lw_all := lw_g (lw_at lw_m3 52 rfl) rfl
theorem q629 : (Jvm.Cond.instanceMethod ({ cls := "EightBlocks$Wild", name := "<init>", desc := "()V" } : Jvm.MethodName)) ∈ lw_all := lw_g (lw_at lw_m3 54 rfl) rfl
theorem q630 : (Jvm.Cond.code ({ cls := "EightBlocks$Wild", name := "<init>", desc := "()V" } : Jvm.MethodName) prog_22_method_1_code (1 : Nat) (Option.none : Option Jvm.ClassFile.FieldType)) ∈ lw_all := lw_g (lw_at lw_m3 55 rfl) rfl
theorem q631 : (Jvm.Cond.methodLinkNest "EightBlocks$Wild" (3 : Nat) ({ cls := "EightBlocks$Rounded", name := "<init>", desc := "()V" } : Jvm.MethodName) "EightBlocks") ∈ lw_tbl := lw_at lw_m3 56 rfl
theorem q632 : (Jvm.Cond.superclass "EightBlocks$Wild" "EightBlocks$Rounded") ∈ lw_all := lw_g (lw_at lw_m3 57 rfl) rfl
theorem q676 : (Jvm.Cond.selects "EightBlocks$Wild" ({ cls := "EightBlocks$Rounded", name := "on", desc := "(I)I" } : Jvm.MethodName) ({ cls := "EightBlocks$Wild", name := "on", desc := "(I)I" } : Jvm.MethodName)) ∈ lw_all := lw_g (lw_at lw_m3 101 rfl) rfl
theorem q677 : (Jvm.Cond.instanceMethod ({ cls := "EightBlocks$Wild", name := "on", desc := "(I)I" } : Jvm.MethodName)) ∈ lw_all := lw_g (lw_at lw_m3 102 rfl) rfl
theorem q678 : (Jvm.Cond.code ({ cls := "EightBlocks$Wild", name := "on", desc := "(I)I" } : Jvm.MethodName) prog_22_method_3_code (2 : Nat) (Option.some Jvm.ClassFile.FieldType.int)) ∈ lw_all := lw_g (lw_at lw_m3 103 rfl) rfl
theorem q679 : (Jvm.Cond.methodLink "EightBlocks$Wild" (9 : Nat) ({ cls := "EightBlocks$Wild", name := "isSquare", desc := "(I)Z" } : Jvm.MethodName)) ∈ lw_all := lw_g (lw_at lw_m3 104 rfl) rfl
theorem q680 : (Jvm.Cond.static ({ cls := "EightBlocks$Wild", name := "isSquare", desc := "(I)Z" } : Jvm.MethodName)) ∈ lw_all := lw_g (lw_at lw_m3 105 rfl) rfl
theorem q681 : (Jvm.Cond.code ({ cls := "EightBlocks$Wild", name := "isSquare", desc := "(I)Z" } : Jvm.MethodName) prog_22_method_2_code (3 : Nat) (Option.some Jvm.ClassFile.FieldType.boolean)) ∈ lw_all := lw_g (lw_at lw_m3 106 rfl) rfl
theorem q685 : (Jvm.Cond.castable "EightBlocks$Wild" "EightBlocks$Way") ∈ lw_tbl := lw_at lw_m3 110 rfl
theorem q686 : (Jvm.Cond.selects "EightBlocks$Wild" ({ cls := "EightBlocks$Way", name := "to", desc := "(I)I" } : Jvm.MethodName) ({ cls := "EightBlocks$Rounded", name := "to", desc := "(I)I" } : Jvm.MethodName)) ∈ lw_all := lw_g (lw_at lw_m3 111 rfl) rfl
theorem q687 : (Jvm.Cond.unhidden "EightBlocks$Wild" "to" "(I)I") ∈ lw_tbl := lw_at lw_m3 112 rfl

/-! EightBlocks$Letters -/
set_option maxRecDepth 100000
def RX18 : String := "EightBlocks$Letters"
abbrev cX18_next : ByteArray := prog_7_method_4_code
def yX18_next : MethodName := ⟨RX18, "next", "()I"⟩
def dkwX18_next_1 : List UInt8 := [185, 0, 21, 1, 0, 172]
abbrev dktX18_next_1 : List UInt8 := dkwX18_next_1 ++ []
def dkwX18_next_0 : List UInt8 := [42, 42, 185, 0, 3, 1, 0, 42, 185, 0, 9, 1, 0, 184, 0, 13, 185, 0, 17, 2, 0, 42]
abbrev dktX18_next_0 : List UInt8 := dkwX18_next_0 ++ dktX18_next_1
theorem dksX18_next_0 : cX18_next.data.toList.drop 0 = dktX18_next_0 := by decide +kernel
theorem dksX18_next_1 : cX18_next.data.toList.drop 22 = dktX18_next_1 := dk_seg dksX18_next_0 22 rfl rfl
theorem dX18_next_0 : decode cX18_next 0 = .ok (.aload_n 0, 1) := dk_42 (dk_at dksX18_next_0 0 rfl rfl)
theorem dX18_next_1 : decode cX18_next 1 = .ok (.aload_n 0, 1) := dk_42 (dk_at dksX18_next_0 1 rfl rfl)
theorem dX18_next_2 : decode cX18_next 2 = .ok (.invokeinterface 3 1, 5) := by decide +kernel
theorem dX18_next_7 : decode cX18_next 7 = .ok (.aload_n 0, 1) := dk_42 (dk_at dksX18_next_0 7 rfl rfl)
theorem dX18_next_8 : decode cX18_next 8 = .ok (.invokeinterface 9 1, 5) := by decide +kernel
theorem dX18_next_13 : decode cX18_next 13 = .ok (.invokestatic 13, 3) := dk_184 0 13 (dk_at dksX18_next_0 13 rfl rfl)
theorem dX18_next_16 : decode cX18_next 16 = .ok (.invokeinterface 17 2, 5) := by decide +kernel
theorem dX18_next_21 : decode cX18_next 21 = .ok (.aload_n 0, 1) := dk_42 (dk_at dksX18_next_0 21 rfl rfl)
theorem dX18_next_22 : decode cX18_next 22 = .ok (.invokeinterface 21 1, 5) := by decide +kernel
theorem dX18_next_27 : decode cX18_next 27 = .ok (.ireturn, 1) := dk_172 (dk_at dksX18_next_1 5 rfl rfl)
abbrev cX18_behindBlanks : ByteArray := prog_7_method_9_code
def yX18_behindBlanks : MethodName := ⟨RX18, "behindBlanks", "(Ljava/lang/CharSequence;I)I"⟩
def dkwX18_behindBlanks_1 : List UInt8 := [132, 2, 1, 167, 255, 231, 28, 172]
abbrev dktX18_behindBlanks_1 : List UInt8 := dkwX18_behindBlanks_1 ++ []
def dkwX18_behindBlanks_0 : List UInt8 := [27, 61, 28, 42, 185, 0, 24, 1, 0, 162, 0, 21, 42, 28, 185, 0, 29, 2, 0, 16, 32, 160, 0, 9]
abbrev dktX18_behindBlanks_0 : List UInt8 := dkwX18_behindBlanks_0 ++ dktX18_behindBlanks_1
theorem dksX18_behindBlanks_0 : cX18_behindBlanks.data.toList.drop 0 = dktX18_behindBlanks_0 := by decide +kernel
theorem dksX18_behindBlanks_1 : cX18_behindBlanks.data.toList.drop 24 = dktX18_behindBlanks_1 := dk_seg dksX18_behindBlanks_0 24 rfl rfl
theorem dX18_behindBlanks_0 : decode cX18_behindBlanks 0 = .ok (.iload_n 1, 1) := dk_27 (dk_at dksX18_behindBlanks_0 0 rfl rfl)
theorem dX18_behindBlanks_1 : decode cX18_behindBlanks 1 = .ok (.istore_n 2, 1) := dk_61 (dk_at dksX18_behindBlanks_0 1 rfl rfl)
theorem dX18_behindBlanks_2 : decode cX18_behindBlanks 2 = .ok (.iload_n 2, 1) := dk_28 (dk_at dksX18_behindBlanks_0 2 rfl rfl)
theorem dX18_behindBlanks_3 : decode cX18_behindBlanks 3 = .ok (.aload_n 0, 1) := dk_42 (dk_at dksX18_behindBlanks_0 3 rfl rfl)
theorem dX18_behindBlanks_4 : decode cX18_behindBlanks 4 = .ok (.invokeinterface 24 1, 5) := by decide +kernel
theorem dX18_behindBlanks_9 : decode cX18_behindBlanks 9 = .ok (.if_icmp .ge 21, 3) := dk_162 0 21 (dk_at dksX18_behindBlanks_0 9 rfl rfl)
theorem dX18_behindBlanks_12 : decode cX18_behindBlanks 12 = .ok (.aload_n 0, 1) := dk_42 (dk_at dksX18_behindBlanks_0 12 rfl rfl)
theorem dX18_behindBlanks_13 : decode cX18_behindBlanks 13 = .ok (.iload_n 2, 1) := dk_28 (dk_at dksX18_behindBlanks_0 13 rfl rfl)
theorem dX18_behindBlanks_14 : decode cX18_behindBlanks 14 = .ok (.invokeinterface 29 2, 5) := by decide +kernel
theorem dX18_behindBlanks_19 : decode cX18_behindBlanks 19 = .ok (.bipush 32, 2) := dk_16 32 (dk_at dksX18_behindBlanks_0 19 rfl rfl)
theorem dX18_behindBlanks_21 : decode cX18_behindBlanks 21 = .ok (.if_icmp .ne 9, 3) := dk_160 0 9 (dk_at dksX18_behindBlanks_0 21 rfl rfl)
theorem dX18_behindBlanks_24 : decode cX18_behindBlanks 24 = .ok (.iinc 2 1, 3) := dk_132 2 1 (dk_at dksX18_behindBlanks_1 0 rfl rfl)
theorem dX18_behindBlanks_27 : decode cX18_behindBlanks 27 = .ok (.goto (-25), 3) := dk_167 255 231 (dk_at dksX18_behindBlanks_1 3 rfl rfl)
theorem dX18_behindBlanks_30 : decode cX18_behindBlanks 30 = .ok (.iload_n 2, 1) := dk_28 (dk_at dksX18_behindBlanks_1 6 rfl rfl)
theorem dX18_behindBlanks_31 : decode cX18_behindBlanks 31 = .ok (.ireturn, 1) := dk_172 (dk_at dksX18_behindBlanks_1 7 rfl rfl)
abbrev cX18_here : ByteArray := prog_7_method_5_code
def yX18_here : MethodName := ⟨RX18, "here", "()I"⟩
def dkwX18_here_1 : List UInt8 := [185, 0, 3, 1, 0, 42, 185, 0, 9, 1, 0, 185, 0, 29, 2, 0, 167, 0, 5, 16, 252, 172]
abbrev dktX18_here_1 : List UInt8 := dkwX18_here_1 ++ []
def dkwX18_here_0 : List UInt8 := [42, 185, 0, 9, 1, 0, 42, 185, 0, 3, 1, 0, 185, 0, 24, 1, 0, 162, 0, 23, 42]
abbrev dktX18_here_0 : List UInt8 := dkwX18_here_0 ++ dktX18_here_1
theorem dksX18_here_0 : cX18_here.data.toList.drop 0 = dktX18_here_0 := by decide +kernel
theorem dksX18_here_1 : cX18_here.data.toList.drop 21 = dktX18_here_1 := dk_seg dksX18_here_0 21 rfl rfl
theorem dX18_here_0 : decode cX18_here 0 = .ok (.aload_n 0, 1) := dk_42 (dk_at dksX18_here_0 0 rfl rfl)
theorem dX18_here_1 : decode cX18_here 1 = .ok (.invokeinterface 9 1, 5) := by decide +kernel
theorem dX18_here_6 : decode cX18_here 6 = .ok (.aload_n 0, 1) := dk_42 (dk_at dksX18_here_0 6 rfl rfl)
theorem dX18_here_7 : decode cX18_here 7 = .ok (.invokeinterface 3 1, 5) := by decide +kernel
theorem dX18_here_12 : decode cX18_here 12 = .ok (.invokeinterface 24 1, 5) := by decide +kernel
theorem dX18_here_17 : decode cX18_here 17 = .ok (.if_icmp .ge 23, 3) := dk_162 0 23 (dk_at dksX18_here_0 17 rfl rfl)
theorem dX18_here_20 : decode cX18_here 20 = .ok (.aload_n 0, 1) := dk_42 (dk_at dksX18_here_0 20 rfl rfl)
theorem dX18_here_21 : decode cX18_here 21 = .ok (.invokeinterface 3 1, 5) := by decide +kernel
theorem dX18_here_26 : decode cX18_here 26 = .ok (.aload_n 0, 1) := dk_42 (dk_at dksX18_here_1 5 rfl rfl)
theorem dX18_here_27 : decode cX18_here 27 = .ok (.invokeinterface 9 1, 5) := by decide +kernel
theorem dX18_here_32 : decode cX18_here 32 = .ok (.invokeinterface 29 2, 5) := by decide +kernel
theorem dX18_here_37 : decode cX18_here 37 = .ok (.goto 5, 3) := dk_167 0 5 (dk_at dksX18_here_1 16 rfl rfl)
theorem dX18_here_40 : decode cX18_here 40 = .ok (.bipush (-4), 2) := dk_16 252 (dk_at dksX18_here_1 19 rfl rfl)
theorem dX18_here_42 : decode cX18_here 42 = .ok (.ireturn, 1) := dk_172 (dk_at dksX18_here_1 21 rfl rfl)
abbrev cX18_isName : ByteArray := prog_7_method_7_code
def yX18_isName : MethodName := ⟨RX18, "isName", "()Z"⟩
def dkwX18_isName_0 : List UInt8 := [42, 185, 0, 21, 1, 0, 133, 20, 0, 36, 20, 0, 38, 184, 0, 40, 172]
abbrev dktX18_isName_0 : List UInt8 := dkwX18_isName_0 ++ []
theorem dksX18_isName_0 : cX18_isName.data.toList.drop 0 = dktX18_isName_0 := by decide +kernel
theorem dX18_isName_0 : decode cX18_isName 0 = .ok (.aload_n 0, 1) := dk_42 (dk_at dksX18_isName_0 0 rfl rfl)
theorem dX18_isName_1 : decode cX18_isName 1 = .ok (.invokeinterface 21 1, 5) := by decide +kernel
theorem dX18_isName_6 : decode cX18_isName 6 = .ok (.i2l, 1) := dk_133 (dk_at dksX18_isName_0 6 rfl rfl)
theorem dX18_isName_7 : decode cX18_isName 7 = .ok (.ldc2_w 36, 3) := dk_20 0 36 (dk_at dksX18_isName_0 7 rfl rfl)
theorem dX18_isName_10 : decode cX18_isName 10 = .ok (.ldc2_w 38, 3) := dk_20 0 38 (dk_at dksX18_isName_0 10 rfl rfl)
theorem dX18_isName_13 : decode cX18_isName 13 = .ok (.invokestatic 40, 3) := dk_184 0 40 (dk_at dksX18_isName_0 13 rfl rfl)
theorem dX18_isName_16 : decode cX18_isName 16 = .ok (.ireturn, 1) := dk_172 (dk_at dksX18_isName_0 16 rfl rfl)
abbrev cX18_isSign : ByteArray := prog_7_method_6_code
def yX18_isSign : MethodName := ⟨RX18, "isSign", "(I)Z"⟩
def dkwX18_isSign_1 : List UInt8 := [185, 0, 17, 2, 0, 4, 172]
abbrev dktX18_isSign_1 : List UInt8 := dkwX18_isSign_1 ++ []
def dkwX18_isSign_0 : List UInt8 := [42, 185, 0, 33, 1, 0, 27, 159, 0, 5, 3, 172, 42, 42, 185, 0, 9, 1, 0, 4, 96]
abbrev dktX18_isSign_0 : List UInt8 := dkwX18_isSign_0 ++ dktX18_isSign_1
theorem dksX18_isSign_0 : cX18_isSign.data.toList.drop 0 = dktX18_isSign_0 := by decide +kernel
theorem dksX18_isSign_1 : cX18_isSign.data.toList.drop 21 = dktX18_isSign_1 := dk_seg dksX18_isSign_0 21 rfl rfl
theorem dX18_isSign_0 : decode cX18_isSign 0 = .ok (.aload_n 0, 1) := dk_42 (dk_at dksX18_isSign_0 0 rfl rfl)
theorem dX18_isSign_1 : decode cX18_isSign 1 = .ok (.invokeinterface 33 1, 5) := by decide +kernel
theorem dX18_isSign_6 : decode cX18_isSign 6 = .ok (.iload_n 1, 1) := dk_27 (dk_at dksX18_isSign_0 6 rfl rfl)
theorem dX18_isSign_7 : decode cX18_isSign 7 = .ok (.if_icmp .eq 5, 3) := dk_159 0 5 (dk_at dksX18_isSign_0 7 rfl rfl)
theorem dX18_isSign_10 : decode cX18_isSign 10 = .ok (.iconst 0, 1) := dk_3 (dk_at dksX18_isSign_0 10 rfl rfl)
theorem dX18_isSign_11 : decode cX18_isSign 11 = .ok (.ireturn, 1) := dk_172 (dk_at dksX18_isSign_0 11 rfl rfl)
theorem dX18_isSign_12 : decode cX18_isSign 12 = .ok (.aload_n 0, 1) := dk_42 (dk_at dksX18_isSign_0 12 rfl rfl)
theorem dX18_isSign_13 : decode cX18_isSign 13 = .ok (.aload_n 0, 1) := dk_42 (dk_at dksX18_isSign_0 13 rfl rfl)
theorem dX18_isSign_14 : decode cX18_isSign 14 = .ok (.invokeinterface 9 1, 5) := by decide +kernel
theorem dX18_isSign_19 : decode cX18_isSign 19 = .ok (.iconst 1, 1) := dk_4 (dk_at dksX18_isSign_0 19 rfl rfl)
theorem dX18_isSign_20 : decode cX18_isSign 20 = .ok (.iadd, 1) := dk_96 (dk_at dksX18_isSign_0 20 rfl rfl)
theorem dX18_isSign_21 : decode cX18_isSign 21 = .ok (.invokeinterface 17 2, 5) := by decide +kernel
theorem dX18_isSign_26 : decode cX18_isSign 26 = .ok (.iconst 1, 1) := dk_4 (dk_at dksX18_isSign_1 5 rfl rfl)
theorem dX18_isSign_27 : decode cX18_isSign 27 = .ok (.ireturn, 1) := dk_172 (dk_at dksX18_isSign_1 6 rfl rfl)
abbrev cX18_isFigure : ByteArray := prog_7_method_8_code
def yX18_isFigure : MethodName := ⟨RX18, "isFigure", "()Z"⟩
def dkwX18_isFigure_0 : List UInt8 := [42, 185, 0, 21, 1, 0, 133, 20, 0, 44, 20, 0, 46, 184, 0, 40, 172]
abbrev dktX18_isFigure_0 : List UInt8 := dkwX18_isFigure_0 ++ []
theorem dksX18_isFigure_0 : cX18_isFigure.data.toList.drop 0 = dktX18_isFigure_0 := by decide +kernel
theorem dX18_isFigure_0 : decode cX18_isFigure 0 = .ok (.aload_n 0, 1) := dk_42 (dk_at dksX18_isFigure_0 0 rfl rfl)
theorem dX18_isFigure_1 : decode cX18_isFigure 1 = .ok (.invokeinterface 21 1, 5) := by decide +kernel
theorem dX18_isFigure_6 : decode cX18_isFigure 6 = .ok (.i2l, 1) := dk_133 (dk_at dksX18_isFigure_0 6 rfl rfl)
theorem dX18_isFigure_7 : decode cX18_isFigure 7 = .ok (.ldc2_w 44, 3) := dk_20 0 44 (dk_at dksX18_isFigure_0 7 rfl rfl)
theorem dX18_isFigure_10 : decode cX18_isFigure 10 = .ok (.ldc2_w 46, 3) := dk_20 0 46 (dk_at dksX18_isFigure_0 10 rfl rfl)
theorem dX18_isFigure_13 : decode cX18_isFigure 13 = .ok (.invokestatic 40, 3) := dk_184 0 40 (dk_at dksX18_isFigure_0 13 rfl rfl)
theorem dX18_isFigure_16 : decode cX18_isFigure 16 = .ok (.ireturn, 1) := dk_172 (dk_at dksX18_isFigure_0 16 rfl rfl)
theorem q130 : (Jvm.Cond.initialized "EightBlocks$Letters") ∈ lw_all := lw_g (lw_at lw_m1 35 rfl) rfl
theorem q1162 : (Jvm.Cond.declares ({ cls := "EightBlocks$Letters", name := "next", desc := "()I" } : Jvm.MethodName)) ∈ lw_tbl := lw_at lw_m5 107 rfl
theorem q1164 : (Jvm.Cond.instanceMethod ({ cls := "EightBlocks$Letters", name := "next", desc := "()I" } : Jvm.MethodName)) ∈ lw_all := lw_g (lw_at lw_m5 109 rfl) rfl
theorem q1165 : (Jvm.Cond.publicMethod ({ cls := "EightBlocks$Letters", name := "next", desc := "()I" } : Jvm.MethodName)) ∈ lw_tbl := lw_at lw_m5 110 rfl
theorem q1166 : (Jvm.Cond.code ({ cls := "EightBlocks$Letters", name := "next", desc := "()I" } : Jvm.MethodName) prog_7_method_4_code (1 : Nat) (Option.some Jvm.ClassFile.FieldType.int)) ∈ lw_all := lw_g (lw_at lw_m5 111 rfl) rfl
theorem q1167 : (Jvm.Cond.interfaceEntry "EightBlocks$Letters" (3 : Nat)) ∈ lw_tbl := lw_at lw_m5 112 rfl
theorem q1168 : (Jvm.Cond.methodLink "EightBlocks$Letters" (3 : Nat) ({ cls := "EightBlocks$Letters", name := "text", desc := "()Ljava/lang/CharSequence;" } : Jvm.MethodName)) ∈ lw_all := lw_g (lw_at lw_m5 113 rfl) rfl
theorem q1169 : (Jvm.Cond.interfaceMethod "EightBlocks$Letters" "EightBlocks$Letters" "text" "()Ljava/lang/CharSequence;") ∈ lw_tbl := lw_at lw_m5 114 rfl
theorem q1170 : (Jvm.Cond.declares ({ cls := "EightBlocks$Letters", name := "text", desc := "()Ljava/lang/CharSequence;" } : Jvm.MethodName)) ∈ lw_tbl := lw_at lw_m5 115 rfl
theorem q1177 : (Jvm.Cond.interfaceEntry "EightBlocks$Letters" (9 : Nat)) ∈ lw_tbl := lw_at lw_m5 122 rfl
theorem q1178 : (Jvm.Cond.methodLink "EightBlocks$Letters" (9 : Nat) ({ cls := "EightBlocks$Letters", name := "at", desc := "()I" } : Jvm.MethodName)) ∈ lw_all := lw_g (lw_at lw_m5 123 rfl) rfl
theorem q1179 : (Jvm.Cond.interfaceMethod "EightBlocks$Letters" "EightBlocks$Letters" "at" "()I") ∈ lw_tbl := lw_at lw_m5 124 rfl
theorem q1180 : (Jvm.Cond.declares ({ cls := "EightBlocks$Letters", name := "at", desc := "()I" } : Jvm.MethodName)) ∈ lw_tbl := lw_at lw_m5 125 rfl
theorem q1186 : (Jvm.Cond.methodLink "EightBlocks$Letters" (13 : Nat) ({ cls := "EightBlocks$Letters", name := "behindBlanks", desc := "(Ljava/lang/CharSequence;I)I" } : Jvm.MethodName)) ∈ lw_all := lw_g (lw_at lw_m5 131 rfl) rfl
theorem q1187 : (Jvm.Cond.static ({ cls := "EightBlocks$Letters", name := "behindBlanks", desc := "(Ljava/lang/CharSequence;I)I" } : Jvm.MethodName)) ∈ lw_all := lw_g (lw_at lw_m5 132 rfl) rfl
theorem q1188 : (Jvm.Cond.code ({ cls := "EightBlocks$Letters", name := "behindBlanks", desc := "(Ljava/lang/CharSequence;I)I" } : Jvm.MethodName) prog_7_method_9_code (3 : Nat) (Option.some Jvm.ClassFile.FieldType.int)) ∈ lw_all := lw_g (lw_at lw_m5 133 rfl) rfl
theorem q1189 : (Jvm.Cond.interfaceEntry "EightBlocks$Letters" (24 : Nat)) ∈ lw_tbl := lw_at lw_m5 134 rfl
theorem q1190 : (Jvm.Cond.methodLink "EightBlocks$Letters" (24 : Nat) ({ cls := "java/lang/CharSequence", name := "length", desc := "()I" } : Jvm.MethodName)) ∈ lw_all := lw_g (lw_at lw_m5 135 rfl) rfl
theorem q1191 : (Jvm.Cond.interfaceEntry "EightBlocks$Letters" (29 : Nat)) ∈ lw_tbl := lw_at lw_m5 136 rfl
theorem q1192 : (Jvm.Cond.methodLink "EightBlocks$Letters" (29 : Nat) ({ cls := "java/lang/CharSequence", name := "charAt", desc := "(I)C" } : Jvm.MethodName)) ∈ lw_all := lw_g (lw_at lw_m5 137 rfl) rfl
theorem q1193 : (Jvm.Cond.interfaceEntry "EightBlocks$Letters" (17 : Nat)) ∈ lw_tbl := lw_at lw_m5 138 rfl
theorem q1194 : (Jvm.Cond.methodLink "EightBlocks$Letters" (17 : Nat) ({ cls := "EightBlocks$Letters", name := "goOn", desc := "(I)V" } : Jvm.MethodName)) ∈ lw_all := lw_g (lw_at lw_m5 139 rfl) rfl
theorem q1195 : (Jvm.Cond.interfaceMethod "EightBlocks$Letters" "EightBlocks$Letters" "goOn" "(I)V") ∈ lw_tbl := lw_at lw_m5 140 rfl
theorem q1196 : (Jvm.Cond.declares ({ cls := "EightBlocks$Letters", name := "goOn", desc := "(I)V" } : Jvm.MethodName)) ∈ lw_tbl := lw_at lw_m5 141 rfl
theorem q1202 : (Jvm.Cond.interfaceEntry "EightBlocks$Letters" (21 : Nat)) ∈ lw_tbl := lw_at lw_m5 147 rfl
theorem q1203 : (Jvm.Cond.methodLink "EightBlocks$Letters" (21 : Nat) ({ cls := "EightBlocks$Letters", name := "here", desc := "()I" } : Jvm.MethodName)) ∈ lw_all := lw_g (lw_at lw_m5 148 rfl) rfl
theorem q1204 : (Jvm.Cond.interfaceMethod "EightBlocks$Letters" "EightBlocks$Letters" "here" "()I") ∈ lw_tbl := lw_at lw_m5 149 rfl
theorem q1205 : (Jvm.Cond.declares ({ cls := "EightBlocks$Letters", name := "here", desc := "()I" } : Jvm.MethodName)) ∈ lw_tbl := lw_at lw_m5 150 rfl
theorem q1207 : (Jvm.Cond.instanceMethod ({ cls := "EightBlocks$Letters", name := "here", desc := "()I" } : Jvm.MethodName)) ∈ lw_all := lw_g (lw_at lw_m5 152 rfl) rfl
theorem q1208 : (Jvm.Cond.publicMethod ({ cls := "EightBlocks$Letters", name := "here", desc := "()I" } : Jvm.MethodName)) ∈ lw_tbl := lw_at lw_m5 153 rfl
theorem q1209 : (Jvm.Cond.code ({ cls := "EightBlocks$Letters", name := "here", desc := "()I" } : Jvm.MethodName) prog_7_method_5_code (1 : Nat) (Option.some Jvm.ClassFile.FieldType.int)) ∈ lw_all := lw_g (lw_at lw_m5 154 rfl) rfl
theorem q1210 : (Jvm.Cond.declares ({ cls := "EightBlocks$Letters", name := "isName", desc := "()Z" } : Jvm.MethodName)) ∈ lw_tbl := lw_at lw_m5 155 rfl
theorem q1212 : (Jvm.Cond.instanceMethod ({ cls := "EightBlocks$Letters", name := "isName", desc := "()Z" } : Jvm.MethodName)) ∈ lw_all := lw_g (lw_at lw_m5 157 rfl) rfl
theorem q1213 : (Jvm.Cond.publicMethod ({ cls := "EightBlocks$Letters", name := "isName", desc := "()Z" } : Jvm.MethodName)) ∈ lw_tbl := lw_at lw_m5 158 rfl
theorem q1214 : (Jvm.Cond.code ({ cls := "EightBlocks$Letters", name := "isName", desc := "()Z" } : Jvm.MethodName) prog_7_method_7_code (1 : Nat) (Option.some Jvm.ClassFile.FieldType.boolean)) ∈ lw_all := lw_g (lw_at lw_m5 159 rfl) rfl
theorem q1215 : (Jvm.Cond.constantLong "EightBlocks$Letters" (36 : Nat) (97 : Int64)) ∈ lw_all := lw_g (lw_at lw_m5 160 rfl) rfl
theorem q1216 : (Jvm.Cond.constantLong "EightBlocks$Letters" (38 : Nat) (122 : Int64)) ∈ lw_all := lw_g (lw_at lw_m5 161 rfl) rfl
theorem q1217 : (Jvm.Cond.methodLinkNest "EightBlocks$Letters" (40 : Nat) ({ cls := "EightBlocks", name := "isIn", desc := "(JJJ)Z" } : Jvm.MethodName) "EightBlocks") ∈ lw_tbl := lw_at lw_m5 162 rfl
theorem q1234 : (Jvm.Cond.declares ({ cls := "EightBlocks$Letters", name := "isSign", desc := "(I)Z" } : Jvm.MethodName)) ∈ lw_tbl := lw_at lw_m5 179 rfl
theorem q1236 : (Jvm.Cond.instanceMethod ({ cls := "EightBlocks$Letters", name := "isSign", desc := "(I)Z" } : Jvm.MethodName)) ∈ lw_all := lw_g (lw_at lw_m5 181 rfl) rfl
theorem q1237 : (Jvm.Cond.publicMethod ({ cls := "EightBlocks$Letters", name := "isSign", desc := "(I)Z" } : Jvm.MethodName)) ∈ lw_tbl := lw_at lw_m5 182 rfl
theorem q1238 : (Jvm.Cond.code ({ cls := "EightBlocks$Letters", name := "isSign", desc := "(I)Z" } : Jvm.MethodName) prog_7_method_6_code (2 : Nat) (Option.some Jvm.ClassFile.FieldType.boolean)) ∈ lw_all := lw_g (lw_at lw_m5 183 rfl) rfl
theorem q1239 : (Jvm.Cond.interfaceEntry "EightBlocks$Letters" (33 : Nat)) ∈ lw_tbl := lw_at lw_m5 184 rfl
theorem q1240 : (Jvm.Cond.methodLink "EightBlocks$Letters" (33 : Nat) ({ cls := "EightBlocks$Letters", name := "next", desc := "()I" } : Jvm.MethodName)) ∈ lw_all := lw_g (lw_at lw_m5 185 rfl) rfl
theorem q1241 : (Jvm.Cond.interfaceMethod "EightBlocks$Letters" "EightBlocks$Letters" "next" "()I") ∈ lw_tbl := lw_at lw_m5 186 rfl
theorem q1252 : (Jvm.Cond.declares ({ cls := "EightBlocks$Letters", name := "isFigure", desc := "()Z" } : Jvm.MethodName)) ∈ lw_tbl := lw_at lw_m5 197 rfl
theorem q1254 : (Jvm.Cond.instanceMethod ({ cls := "EightBlocks$Letters", name := "isFigure", desc := "()Z" } : Jvm.MethodName)) ∈ lw_all := lw_g (lw_at lw_m5 199 rfl) rfl
theorem q1255 : (Jvm.Cond.publicMethod ({ cls := "EightBlocks$Letters", name := "isFigure", desc := "()Z" } : Jvm.MethodName)) ∈ lw_tbl := lw_at lw_m5 200 rfl
theorem q1256 : (Jvm.Cond.code ({ cls := "EightBlocks$Letters", name := "isFigure", desc := "()Z" } : Jvm.MethodName) prog_7_method_8_code (1 : Nat) (Option.some Jvm.ClassFile.FieldType.boolean)) ∈ lw_all := lw_g (lw_at lw_m5 201 rfl) rfl
theorem q1257 : (Jvm.Cond.constantLong "EightBlocks$Letters" (44 : Nat) (48 : Int64)) ∈ lw_all := lw_g (lw_at lw_m5 202 rfl) rfl
theorem q1258 : (Jvm.Cond.constantLong "EightBlocks$Letters" (46 : Nat) (57 : Int64)) ∈ lw_all := lw_g (lw_at lw_m5 203 rfl) rfl

/-! EightBlocks$Things -/
set_option maxRecDepth 100000
def RX19 : String := "EightBlocks$Things"
abbrev cX19_of : ByteArray := prog_19_method_5_code
def yX19_of : MethodName := ⟨RX19, "of", "(ILEightBlocks$Code;)LEightBlocks$Things;"⟩
def dkwX19_of_3 : List UInt8 := [187, 0, 30, 89, 43, 180, 0, 41, 183, 0, 38, 167, 0, 11, 187, 0, 44, 89, 43, 183, 0, 46, 176]
abbrev dktX19_of_3 : List UInt8 := dkwX19_of_3 ++ []
def dkwX19_of_2 : List UInt8 := [187, 0, 25, 89, 183, 0, 27, 167, 0, 39, 187, 0, 30, 89, 43, 180, 0, 32, 183, 0, 38, 167, 0, 25]
abbrev dktX19_of_2 : List UInt8 := dkwX19_of_2 ++ dktX19_of_3
def dkwX19_of_1 : List UInt8 := [170, 0, 0, 0, 0, 0, 65, 0, 0, 0, 1, 0, 0, 0, 3, 0, 0, 0, 27, 0, 0, 0, 37, 0, 0, 0, 51]
abbrev dktX19_of_1 : List UInt8 := dkwX19_of_1 ++ dktX19_of_2
def dkwX19_of_0 : List UInt8 := [26]
abbrev dktX19_of_0 : List UInt8 := dkwX19_of_0 ++ dktX19_of_1
theorem dksX19_of_0 : cX19_of.data.toList.drop 0 = dktX19_of_0 := by decide +kernel
theorem dksX19_of_1 : cX19_of.data.toList.drop 1 = dktX19_of_1 := dk_seg dksX19_of_0 1 rfl rfl
theorem dksX19_of_2 : cX19_of.data.toList.drop 28 = dktX19_of_2 := dk_seg dksX19_of_1 27 rfl rfl
theorem dksX19_of_3 : cX19_of.data.toList.drop 52 = dktX19_of_3 := dk_seg dksX19_of_2 24 rfl rfl
theorem dX19_of_0 : decode cX19_of 0 = .ok (.iload_n 0, 1) := dk_26 (dk_at dksX19_of_0 0 rfl rfl)
theorem dX19_of_1 : decode cX19_of 1 = .ok (.tableswitch 65 1 3 #[27, 37, 51], 27) := by decide +kernel
theorem dX19_of_28 : decode cX19_of 28 = .ok (.new 25, 3) := dk_187 0 25 (dk_at dksX19_of_2 0 rfl rfl)
theorem dX19_of_31 : decode cX19_of 31 = .ok (.dup, 1) := dk_89 (dk_at dksX19_of_2 3 rfl rfl)
theorem dX19_of_32 : decode cX19_of 32 = .ok (.invokespecial 27, 3) := dk_183 0 27 (dk_at dksX19_of_2 4 rfl rfl)
theorem dX19_of_35 : decode cX19_of 35 = .ok (.goto 39, 3) := dk_167 0 39 (dk_at dksX19_of_2 7 rfl rfl)
theorem dX19_of_38 : decode cX19_of 38 = .ok (.new 30, 3) := dk_187 0 30 (dk_at dksX19_of_2 10 rfl rfl)
theorem dX19_of_41 : decode cX19_of 41 = .ok (.dup, 1) := dk_89 (dk_at dksX19_of_2 13 rfl rfl)
theorem dX19_of_42 : decode cX19_of 42 = .ok (.aload_n 1, 1) := dk_43 (dk_at dksX19_of_2 14 rfl rfl)
theorem dX19_of_43 : decode cX19_of 43 = .ok (.getfield 32, 3) := dk_180 0 32 (dk_at dksX19_of_2 15 rfl rfl)
theorem dX19_of_46 : decode cX19_of 46 = .ok (.invokespecial 38, 3) := dk_183 0 38 (dk_at dksX19_of_2 18 rfl rfl)
theorem dX19_of_49 : decode cX19_of 49 = .ok (.goto 25, 3) := dk_167 0 25 (dk_at dksX19_of_2 21 rfl rfl)
theorem dX19_of_52 : decode cX19_of 52 = .ok (.new 30, 3) := dk_187 0 30 (dk_at dksX19_of_3 0 rfl rfl)
theorem dX19_of_55 : decode cX19_of 55 = .ok (.dup, 1) := dk_89 (dk_at dksX19_of_3 3 rfl rfl)
theorem dX19_of_56 : decode cX19_of 56 = .ok (.aload_n 1, 1) := dk_43 (dk_at dksX19_of_3 4 rfl rfl)
theorem dX19_of_57 : decode cX19_of 57 = .ok (.getfield 41, 3) := dk_180 0 41 (dk_at dksX19_of_3 5 rfl rfl)
theorem dX19_of_60 : decode cX19_of 60 = .ok (.invokespecial 38, 3) := dk_183 0 38 (dk_at dksX19_of_3 8 rfl rfl)
theorem dX19_of_63 : decode cX19_of 63 = .ok (.goto 11, 3) := dk_167 0 11 (dk_at dksX19_of_3 11 rfl rfl)
theorem dX19_of_66 : decode cX19_of 66 = .ok (.new 44, 3) := dk_187 0 44 (dk_at dksX19_of_3 14 rfl rfl)
theorem dX19_of_69 : decode cX19_of 69 = .ok (.dup, 1) := dk_89 (dk_at dksX19_of_3 17 rfl rfl)
theorem dX19_of_70 : decode cX19_of 70 = .ok (.aload_n 1, 1) := dk_43 (dk_at dksX19_of_3 18 rfl rfl)
theorem dX19_of_71 : decode cX19_of 71 = .ok (.invokespecial 46, 3) := dk_183 0 46 (dk_at dksX19_of_3 19 rfl rfl)
theorem dX19_of_74 : decode cX19_of 74 = .ok (.areturn, 1) := dk_176 (dk_at dksX19_of_3 22 rfl rfl)
abbrev cX19_parts : ByteArray := prog_19_method_4_code
def yX19_parts : MethodName := ⟨RX19, "parts", "(LEightBlocks$Flood;LEightBlocks$Hall;I)I"⟩
def dkwX19_parts_2 : List UInt8 := [182, 0, 21, 87, 132, 4, 1, 132, 5, 1, 167, 255, 208, 21, 4, 172]
abbrev dktX19_parts_2 : List UInt8 := dkwX19_parts_2 ++ []
def dkwX19_parts_1 : List UInt8 := [185, 0, 13, 2, 0, 153, 0, 26, 43, 180, 0, 17, 21, 5, 51, 154, 0, 16, 43, 42, 21, 5, 44, 29]
abbrev dktX19_parts_1 : List UInt8 := dkwX19_parts_1 ++ dktX19_parts_2
def dkwX19_parts_0 : List UInt8 := [43, 182, 0, 1, 3, 54, 4, 3, 54, 5, 21, 5, 42, 185, 0, 7, 1, 0, 162, 0, 43, 42, 21, 5]
abbrev dktX19_parts_0 : List UInt8 := dkwX19_parts_0 ++ dktX19_parts_1
theorem dksX19_parts_0 : cX19_parts.data.toList.drop 0 = dktX19_parts_0 := by decide +kernel
theorem dksX19_parts_1 : cX19_parts.data.toList.drop 24 = dktX19_parts_1 := dk_seg dksX19_parts_0 24 rfl rfl
theorem dksX19_parts_2 : cX19_parts.data.toList.drop 48 = dktX19_parts_2 := dk_seg dksX19_parts_1 24 rfl rfl
theorem dX19_parts_0 : decode cX19_parts 0 = .ok (.aload_n 1, 1) := dk_43 (dk_at dksX19_parts_0 0 rfl rfl)
theorem dX19_parts_1 : decode cX19_parts 1 = .ok (.invokevirtual 1, 3) := dk_182 0 1 (dk_at dksX19_parts_0 1 rfl rfl)
theorem dX19_parts_4 : decode cX19_parts 4 = .ok (.iconst 0, 1) := dk_3 (dk_at dksX19_parts_0 4 rfl rfl)
theorem dX19_parts_5 : decode cX19_parts 5 = .ok (.istore 4, 2) := dk_54 4 (dk_at dksX19_parts_0 5 rfl rfl)
theorem dX19_parts_7 : decode cX19_parts 7 = .ok (.iconst 0, 1) := dk_3 (dk_at dksX19_parts_0 7 rfl rfl)
theorem dX19_parts_8 : decode cX19_parts 8 = .ok (.istore 5, 2) := dk_54 5 (dk_at dksX19_parts_0 8 rfl rfl)
theorem dX19_parts_10 : decode cX19_parts 10 = .ok (.iload 5, 2) := dk_21 5 (dk_at dksX19_parts_0 10 rfl rfl)
theorem dX19_parts_12 : decode cX19_parts 12 = .ok (.aload_n 0, 1) := dk_42 (dk_at dksX19_parts_0 12 rfl rfl)
theorem dX19_parts_13 : decode cX19_parts 13 = .ok (.invokeinterface 7 1, 5) := by decide +kernel
theorem dX19_parts_18 : decode cX19_parts 18 = .ok (.if_icmp .ge 43, 3) := dk_162 0 43 (dk_at dksX19_parts_0 18 rfl rfl)
theorem dX19_parts_21 : decode cX19_parts 21 = .ok (.aload_n 0, 1) := dk_42 (dk_at dksX19_parts_0 21 rfl rfl)
theorem dX19_parts_22 : decode cX19_parts 22 = .ok (.iload 5, 2) := dk_21 5 (dk_at dksX19_parts_0 22 rfl rfl)
theorem dX19_parts_24 : decode cX19_parts 24 = .ok (.invokeinterface 13 2, 5) := by decide +kernel
theorem dX19_parts_29 : decode cX19_parts 29 = .ok (.ifCond .eq 26, 3) := dk_153 0 26 (dk_at dksX19_parts_1 5 rfl rfl)
theorem dX19_parts_32 : decode cX19_parts 32 = .ok (.aload_n 1, 1) := dk_43 (dk_at dksX19_parts_1 8 rfl rfl)
theorem dX19_parts_33 : decode cX19_parts 33 = .ok (.getfield 17, 3) := dk_180 0 17 (dk_at dksX19_parts_1 9 rfl rfl)
theorem dX19_parts_36 : decode cX19_parts 36 = .ok (.iload 5, 2) := dk_21 5 (dk_at dksX19_parts_1 12 rfl rfl)
theorem dX19_parts_38 : decode cX19_parts 38 = .ok (.baload, 1) := dk_51 (dk_at dksX19_parts_1 14 rfl rfl)
theorem dX19_parts_39 : decode cX19_parts 39 = .ok (.ifCond .ne 16, 3) := dk_154 0 16 (dk_at dksX19_parts_1 15 rfl rfl)
theorem dX19_parts_42 : decode cX19_parts 42 = .ok (.aload_n 1, 1) := dk_43 (dk_at dksX19_parts_1 18 rfl rfl)
theorem dX19_parts_43 : decode cX19_parts 43 = .ok (.aload_n 0, 1) := dk_42 (dk_at dksX19_parts_1 19 rfl rfl)
theorem dX19_parts_44 : decode cX19_parts 44 = .ok (.iload 5, 2) := dk_21 5 (dk_at dksX19_parts_1 20 rfl rfl)
theorem dX19_parts_46 : decode cX19_parts 46 = .ok (.aload_n 2, 1) := dk_44 (dk_at dksX19_parts_1 22 rfl rfl)
theorem dX19_parts_47 : decode cX19_parts 47 = .ok (.iload_n 3, 1) := dk_29 (dk_at dksX19_parts_1 23 rfl rfl)
theorem dX19_parts_48 : decode cX19_parts 48 = .ok (.invokevirtual 21, 3) := dk_182 0 21 (dk_at dksX19_parts_2 0 rfl rfl)
theorem dX19_parts_51 : decode cX19_parts 51 = .ok (.pop, 1) := dk_87 (dk_at dksX19_parts_2 3 rfl rfl)
theorem dX19_parts_52 : decode cX19_parts 52 = .ok (.iinc 4 1, 3) := dk_132 4 1 (dk_at dksX19_parts_2 4 rfl rfl)
theorem dX19_parts_55 : decode cX19_parts 55 = .ok (.iinc 5 1, 3) := dk_132 5 1 (dk_at dksX19_parts_2 7 rfl rfl)
theorem dX19_parts_58 : decode cX19_parts 58 = .ok (.goto (-48), 3) := dk_167 255 208 (dk_at dksX19_parts_2 10 rfl rfl)
theorem dX19_parts_61 : decode cX19_parts 61 = .ok (.iload 4, 2) := dk_21 4 (dk_at dksX19_parts_2 13 rfl rfl)
theorem dX19_parts_63 : decode cX19_parts 63 = .ok (.ireturn, 1) := dk_172 (dk_at dksX19_parts_2 15 rfl rfl)
abbrev cX19_isThere : ByteArray := prog_19_method_3_code
def yX19_isThere : MethodName := ⟨RX19, "isThere", "(I)Z"⟩
theorem dX19_isThere_0 : decode cX19_isThere 0 = .ok (.iconst 1, 1) := by decide +kernel
theorem dX19_isThere_1 : decode cX19_isThere 1 = .ok (.ireturn, 1) := by decide +kernel
theorem q134 : (Jvm.Cond.initialized "EightBlocks$Things") ∈ lw_all := lw_g (lw_at lw_m1 39 rfl) rfl
theorem q201 : (Jvm.Cond.fieldLinkNest "EightBlocks$Things" (32 : Nat) "EightBlocks$Code" "octads" "[I" "EightBlocks") ∈ lw_tbl := lw_at lw_m1 106 rfl
theorem q204 : (Jvm.Cond.fieldLinkNest "EightBlocks$Things" (41 : Nat) "EightBlocks$Code" "dodecads" "[I" "EightBlocks") ∈ lw_tbl := lw_at lw_m1 109 rfl
theorem q492 : (Jvm.Cond.fieldLinkNest "EightBlocks$Things" (17 : Nat) "EightBlocks$Flood" "seen" "[Z" "EightBlocks") ∈ lw_tbl := lw_at lw_m2 157 rfl
theorem q1439 : (Jvm.Cond.static ({ cls := "EightBlocks$Things", name := "of", desc := "(ILEightBlocks$Code;)LEightBlocks$Things;" } : Jvm.MethodName)) ∈ lw_all := lw_g (lw_at lw_m6 144 rfl) rfl
theorem q1440 : (Jvm.Cond.code ({ cls := "EightBlocks$Things", name := "of", desc := "(ILEightBlocks$Code;)LEightBlocks$Things;" } : Jvm.MethodName) prog_19_method_5_code (2 : Nat) (Option.some (Jvm.ClassFile.FieldType.object "EightBlocks$Things"))) ∈ lw_all := lw_g (lw_at lw_m6 145 rfl) rfl
theorem q1441 : (Jvm.Cond.classLink "EightBlocks$Things" (25 : Nat) "EightBlocks$Places") ∈ lw_all := lw_g (lw_at lw_m6 146 rfl) rfl
theorem q1443 : (Jvm.Cond.methodLinkNest "EightBlocks$Things" (27 : Nat) ({ cls := "EightBlocks$Places", name := "<init>", desc := "()V" } : Jvm.MethodName) "EightBlocks") ∈ lw_tbl := lw_at lw_m6 148 rfl
theorem q1448 : (Jvm.Cond.classLink "EightBlocks$Things" (30 : Nat) "EightBlocks$Rows") ∈ lw_all := lw_g (lw_at lw_m6 153 rfl) rfl
theorem q1450 : (Jvm.Cond.methodLink "EightBlocks$Things" (38 : Nat) ({ cls := "EightBlocks$Rows", name := "<init>", desc := "([I)V" } : Jvm.MethodName)) ∈ lw_all := lw_g (lw_at lw_m6 155 rfl) rfl
theorem q1458 : (Jvm.Cond.classLink "EightBlocks$Things" (44 : Nat) "EightBlocks$Sextets") ∈ lw_all := lw_g (lw_at lw_m6 163 rfl) rfl
theorem q1460 : (Jvm.Cond.methodLink "EightBlocks$Things" (46 : Nat) ({ cls := "EightBlocks$Sextets", name := "<init>", desc := "(LEightBlocks$Code;)V" } : Jvm.MethodName)) ∈ lw_all := lw_g (lw_at lw_m6 165 rfl) rfl
theorem q1473 : (Jvm.Cond.interfaceMethod "EightBlocks$Things" "EightBlocks$Things" "parts" "(LEightBlocks$Flood;LEightBlocks$Hall;I)I") ∈ lw_tbl := lw_at lw_m6 178 rfl
theorem q1474 : (Jvm.Cond.declares ({ cls := "EightBlocks$Things", name := "parts", desc := "(LEightBlocks$Flood;LEightBlocks$Hall;I)I" } : Jvm.MethodName)) ∈ lw_tbl := lw_at lw_m6 179 rfl
theorem q1477 : (Jvm.Cond.instanceMethod ({ cls := "EightBlocks$Things", name := "parts", desc := "(LEightBlocks$Flood;LEightBlocks$Hall;I)I" } : Jvm.MethodName)) ∈ lw_all := lw_g (lw_at lw_m6 182 rfl) rfl
theorem q1478 : (Jvm.Cond.publicMethod ({ cls := "EightBlocks$Things", name := "parts", desc := "(LEightBlocks$Flood;LEightBlocks$Hall;I)I" } : Jvm.MethodName)) ∈ lw_tbl := lw_at lw_m6 183 rfl
theorem q1479 : (Jvm.Cond.code ({ cls := "EightBlocks$Things", name := "parts", desc := "(LEightBlocks$Flood;LEightBlocks$Hall;I)I" } : Jvm.MethodName) prog_19_method_4_code (6 : Nat) (Option.some Jvm.ClassFile.FieldType.int)) ∈ lw_all := lw_g (lw_at lw_m6 184 rfl) rfl
theorem q1480 : (Jvm.Cond.methodLink "EightBlocks$Things" (1 : Nat) ({ cls := "EightBlocks$Flood", name := "clear", desc := "()V" } : Jvm.MethodName)) ∈ lw_all := lw_g (lw_at lw_m6 185 rfl) rfl
theorem q1487 : (Jvm.Cond.interfaceEntry "EightBlocks$Things" (7 : Nat)) ∈ lw_tbl := lw_at lw_m6 192 rfl
theorem q1488 : (Jvm.Cond.methodLink "EightBlocks$Things" (7 : Nat) ({ cls := "EightBlocks$Things", name := "many", desc := "()I" } : Jvm.MethodName)) ∈ lw_all := lw_g (lw_at lw_m6 193 rfl) rfl
theorem q1489 : (Jvm.Cond.interfaceMethod "EightBlocks$Things" "EightBlocks$Things" "many" "()I") ∈ lw_tbl := lw_at lw_m6 194 rfl
theorem q1490 : (Jvm.Cond.declares ({ cls := "EightBlocks$Things", name := "many", desc := "()I" } : Jvm.MethodName)) ∈ lw_tbl := lw_at lw_m6 195 rfl
theorem q1508 : (Jvm.Cond.interfaceEntry "EightBlocks$Things" (13 : Nat)) ∈ lw_tbl := lw_at lw_m6 213 rfl
theorem q1509 : (Jvm.Cond.methodLink "EightBlocks$Things" (13 : Nat) ({ cls := "EightBlocks$Things", name := "isThere", desc := "(I)Z" } : Jvm.MethodName)) ∈ lw_all := lw_g (lw_at lw_m6 214 rfl) rfl
theorem q1510 : (Jvm.Cond.interfaceMethod "EightBlocks$Things" "EightBlocks$Things" "isThere" "(I)Z") ∈ lw_tbl := lw_at lw_m6 215 rfl
theorem q1511 : (Jvm.Cond.declares ({ cls := "EightBlocks$Things", name := "isThere", desc := "(I)Z" } : Jvm.MethodName)) ∈ lw_tbl := lw_at lw_m6 216 rfl
theorem q1513 : (Jvm.Cond.instanceMethod ({ cls := "EightBlocks$Things", name := "isThere", desc := "(I)Z" } : Jvm.MethodName)) ∈ lw_all := lw_g (lw_at lw_m6 218 rfl) rfl
theorem q1514 : (Jvm.Cond.publicMethod ({ cls := "EightBlocks$Things", name := "isThere", desc := "(I)Z" } : Jvm.MethodName)) ∈ lw_tbl := lw_at lw_m6 219 rfl
theorem q1515 : (Jvm.Cond.code ({ cls := "EightBlocks$Things", name := "isThere", desc := "(I)Z" } : Jvm.MethodName) prog_19_method_3_code (2 : Nat) (Option.some Jvm.ClassFile.FieldType.boolean)) ∈ lw_all := lw_g (lw_at lw_m6 220 rfl) rfl
theorem q1522 : (Jvm.Cond.methodLink "EightBlocks$Things" (21 : Nat) ({ cls := "EightBlocks$Flood", name := "spread", desc := "(LEightBlocks$Things;ILEightBlocks$Hall;I)I" } : Jvm.MethodName)) ∈ lw_all := lw_g (lw_at lw_m6 227 rfl) rfl
theorem q1529 : (Jvm.Cond.interfaceMethod "EightBlocks$Things" "EightBlocks$Things" "next" "(ILEightBlocks$Move;)I") ∈ lw_tbl := lw_at lw_m6 234 rfl
theorem q1530 : (Jvm.Cond.declares ({ cls := "EightBlocks$Things", name := "next", desc := "(ILEightBlocks$Move;)I" } : Jvm.MethodName)) ∈ lw_tbl := lw_at lw_m6 235 rfl

/-! EightBlocks$Places -/
set_option maxRecDepth 100000
def RX20 : String := "EightBlocks$Places"
abbrev cX20_init : ByteArray := prog_11_method_1_code
def yX20_init : MethodName := ⟨RX20, "<init>", "()V"⟩
theorem dX20_init_0 : decode cX20_init 0 = .ok (.aload_n 0, 1) := by decide +kernel
theorem dX20_init_1 : decode cX20_init 1 = .ok (.invokespecial 3, 3) := by decide +kernel
theorem dX20_init_4 : decode cX20_init 4 = .ok (.return_, 1) := by decide +kernel
abbrev cX20_many : ByteArray := prog_11_method_2_code
def yX20_many : MethodName := ⟨RX20, "many", "()I"⟩
theorem dX20_many_0 : decode cX20_many 0 = .ok (.bipush 24, 2) := by decide +kernel
theorem dX20_many_2 : decode cX20_many 2 = .ok (.ireturn, 1) := by decide +kernel
abbrev cX20_next : ByteArray := prog_11_method_3_code
def yX20_next : MethodName := ⟨RX20, "next", "(ILEightBlocks$Move;)I"⟩
def dkwX20_next_0 : List UInt8 := [44, 27, 182, 0, 9, 172]
abbrev dktX20_next_0 : List UInt8 := dkwX20_next_0 ++ []
theorem dksX20_next_0 : cX20_next.data.toList.drop 0 = dktX20_next_0 := by decide +kernel
theorem dX20_next_0 : decode cX20_next 0 = .ok (.aload_n 2, 1) := dk_44 (dk_at dksX20_next_0 0 rfl rfl)
theorem dX20_next_1 : decode cX20_next 1 = .ok (.iload_n 1, 1) := dk_27 (dk_at dksX20_next_0 1 rfl rfl)
theorem dX20_next_2 : decode cX20_next 2 = .ok (.invokevirtual 9, 3) := dk_182 0 9 (dk_at dksX20_next_0 2 rfl rfl)
theorem dX20_next_5 : decode cX20_next 5 = .ok (.ireturn, 1) := dk_172 (dk_at dksX20_next_0 5 rfl rfl)
theorem q135 : (Jvm.Cond.initialized "EightBlocks$Places") ∈ lw_all := lw_g (lw_at lw_m1 40 rfl) rfl
theorem q1442 : (Jvm.Cond.instantiable "EightBlocks$Places" (0 : Nat)) ∈ lw_all := lw_g (lw_at lw_m6 147 rfl) rfl
theorem q1444 : (Jvm.Cond.instanceMethod ({ cls := "EightBlocks$Places", name := "<init>", desc := "()V" } : Jvm.MethodName)) ∈ lw_all := lw_g (lw_at lw_m6 149 rfl) rfl
theorem q1445 : (Jvm.Cond.code ({ cls := "EightBlocks$Places", name := "<init>", desc := "()V" } : Jvm.MethodName) prog_11_method_1_code (1 : Nat) (Option.none : Option Jvm.ClassFile.FieldType)) ∈ lw_all := lw_g (lw_at lw_m6 150 rfl) rfl
theorem q1446 : (Jvm.Cond.methodLink "EightBlocks$Places" (3 : Nat) ({ cls := "java/lang/Object", name := "<init>", desc := "()V" } : Jvm.MethodName)) ∈ lw_all := lw_g (lw_at lw_m6 151 rfl) rfl
theorem q1447 : (Jvm.Cond.superclass "EightBlocks$Places" "java/lang/Object") ∈ lw_all := lw_g (lw_at lw_m6 152 rfl) rfl
theorem q1475 : (Jvm.Cond.castable "EightBlocks$Places" "EightBlocks$Things") ∈ lw_tbl := lw_at lw_m6 180 rfl
theorem q1476 : (Jvm.Cond.unhidden "EightBlocks$Places" "parts" "(LEightBlocks$Flood;LEightBlocks$Hall;I)I") ∈ lw_tbl := lw_at lw_m6 181 rfl
theorem q1491 : (Jvm.Cond.selects "EightBlocks$Places" ({ cls := "EightBlocks$Things", name := "many", desc := "()I" } : Jvm.MethodName) ({ cls := "EightBlocks$Places", name := "many", desc := "()I" } : Jvm.MethodName)) ∈ lw_all := lw_g (lw_at lw_m6 196 rfl) rfl
theorem q1492 : (Jvm.Cond.unhidden "EightBlocks$Places" "many" "()I") ∈ lw_tbl := lw_at lw_m6 197 rfl
theorem q1493 : (Jvm.Cond.instanceMethod ({ cls := "EightBlocks$Places", name := "many", desc := "()I" } : Jvm.MethodName)) ∈ lw_all := lw_g (lw_at lw_m6 198 rfl) rfl
theorem q1494 : (Jvm.Cond.publicMethod ({ cls := "EightBlocks$Places", name := "many", desc := "()I" } : Jvm.MethodName)) ∈ lw_tbl := lw_at lw_m6 199 rfl
theorem q1495 : (Jvm.Cond.code ({ cls := "EightBlocks$Places", name := "many", desc := "()I" } : Jvm.MethodName) prog_11_method_2_code (1 : Nat) (Option.some Jvm.ClassFile.FieldType.int)) ∈ lw_all := lw_g (lw_at lw_m6 200 rfl) rfl
theorem q1512 : (Jvm.Cond.unhidden "EightBlocks$Places" "isThere" "(I)Z") ∈ lw_tbl := lw_at lw_m6 217 rfl
theorem q1531 : (Jvm.Cond.selects "EightBlocks$Places" ({ cls := "EightBlocks$Things", name := "next", desc := "(ILEightBlocks$Move;)I" } : Jvm.MethodName) ({ cls := "EightBlocks$Places", name := "next", desc := "(ILEightBlocks$Move;)I" } : Jvm.MethodName)) ∈ lw_all := lw_g (lw_at lw_m6 236 rfl) rfl
theorem q1532 : (Jvm.Cond.unhidden "EightBlocks$Places" "next" "(ILEightBlocks$Move;)I") ∈ lw_tbl := lw_at lw_m6 237 rfl
theorem q1533 : (Jvm.Cond.instanceMethod ({ cls := "EightBlocks$Places", name := "next", desc := "(ILEightBlocks$Move;)I" } : Jvm.MethodName)) ∈ lw_all := lw_g (lw_at lw_m6 238 rfl) rfl
theorem q1534 : (Jvm.Cond.publicMethod ({ cls := "EightBlocks$Places", name := "next", desc := "(ILEightBlocks$Move;)I" } : Jvm.MethodName)) ∈ lw_tbl := lw_at lw_m6 239 rfl
theorem q1535 : (Jvm.Cond.code ({ cls := "EightBlocks$Places", name := "next", desc := "(ILEightBlocks$Move;)I" } : Jvm.MethodName) prog_11_method_3_code (3 : Nat) (Option.some Jvm.ClassFile.FieldType.int)) ∈ lw_all := lw_g (lw_at lw_m7 0 rfl) rfl
theorem q1536 : (Jvm.Cond.methodLink "EightBlocks$Places" (9 : Nat) ({ cls := "EightBlocks$Move", name := "to", desc := "(I)I" } : Jvm.MethodName)) ∈ lw_all := lw_g (lw_at lw_m7 1 rfl) rfl

/-! EightBlocks$Rows -/
set_option maxRecDepth 100000
def RX21 : String := "EightBlocks$Rows"
def TX21 : u_T := fun k => match k with
  | _ => ("EightBlocks$Rows", "row", "[I", true)
def tyX21 : Nat → FieldType := fun k => match k with
  | _ => .array .int
abbrev wsX210 : List Cond := u_ws RX21 TX21 1
theorem nmX21 : ∀ a, a < 1 → ∀ b, b < 1 → a ≠ b → (TX21 a).2.1 ≠ (TX21 b).2.1 := by decide +kernel
theorem tyX21_ok : ∀ k, k < 1 → parseFieldDescriptor (TX21 k).2.2.1 = some (tyX21 k) := by decide +kernel
abbrev cX21_init : ByteArray := prog_13_method_1_code
def yX21_init : MethodName := ⟨RX21, "<init>", "([I)V"⟩
def dkwX21_init_0 : List UInt8 := [42, 183, 0, 1, 42, 43, 181, 0, 7, 177]
abbrev dktX21_init_0 : List UInt8 := dkwX21_init_0 ++ []
theorem dksX21_init_0 : cX21_init.data.toList.drop 0 = dktX21_init_0 := by decide +kernel
theorem dX21_init_0 : decode cX21_init 0 = .ok (.aload_n 0, 1) := dk_42 (dk_at dksX21_init_0 0 rfl rfl)
theorem dX21_init_1 : decode cX21_init 1 = .ok (.invokespecial 1, 3) := dk_183 0 1 (dk_at dksX21_init_0 1 rfl rfl)
theorem dX21_init_4 : decode cX21_init 4 = .ok (.aload_n 0, 1) := dk_42 (dk_at dksX21_init_0 4 rfl rfl)
theorem dX21_init_5 : decode cX21_init 5 = .ok (.aload_n 1, 1) := dk_43 (dk_at dksX21_init_0 5 rfl rfl)
theorem dX21_init_6 : decode cX21_init 6 = .ok (.putfield 7, 3) := dk_181 0 7 (dk_at dksX21_init_0 6 rfl rfl)
theorem dX21_init_9 : decode cX21_init 9 = .ok (.return_, 1) := dk_177 (dk_at dksX21_init_0 9 rfl rfl)
abbrev cX21_many : ByteArray := prog_13_method_2_code
def yX21_many : MethodName := ⟨RX21, "many", "()I"⟩
def dkwX21_many_0 : List UInt8 := [42, 180, 0, 7, 190, 172]
abbrev dktX21_many_0 : List UInt8 := dkwX21_many_0 ++ []
theorem dksX21_many_0 : cX21_many.data.toList.drop 0 = dktX21_many_0 := by decide +kernel
theorem dX21_many_0 : decode cX21_many 0 = .ok (.aload_n 0, 1) := dk_42 (dk_at dksX21_many_0 0 rfl rfl)
theorem dX21_many_1 : decode cX21_many 1 = .ok (.getfield 7, 3) := dk_180 0 7 (dk_at dksX21_many_0 1 rfl rfl)
theorem dX21_many_4 : decode cX21_many 4 = .ok (.arraylength, 1) := dk_190 (dk_at dksX21_many_0 4 rfl rfl)
theorem dX21_many_5 : decode cX21_many 5 = .ok (.ireturn, 1) := dk_172 (dk_at dksX21_many_0 5 rfl rfl)
abbrev cX21_next : ByteArray := prog_13_method_4_code
def yX21_next : MethodName := ⟨RX21, "next", "(ILEightBlocks$Move;)I"⟩
def dkwX21_next_0 : List UInt8 := [42, 44, 42, 180, 0, 7, 27, 46, 182, 0, 13, 182, 0, 19, 172]
abbrev dktX21_next_0 : List UInt8 := dkwX21_next_0 ++ []
theorem dksX21_next_0 : cX21_next.data.toList.drop 0 = dktX21_next_0 := by decide +kernel
theorem dX21_next_0 : decode cX21_next 0 = .ok (.aload_n 0, 1) := dk_42 (dk_at dksX21_next_0 0 rfl rfl)
theorem dX21_next_1 : decode cX21_next 1 = .ok (.aload_n 2, 1) := dk_44 (dk_at dksX21_next_0 1 rfl rfl)
theorem dX21_next_2 : decode cX21_next 2 = .ok (.aload_n 0, 1) := dk_42 (dk_at dksX21_next_0 2 rfl rfl)
theorem dX21_next_3 : decode cX21_next 3 = .ok (.getfield 7, 3) := dk_180 0 7 (dk_at dksX21_next_0 3 rfl rfl)
theorem dX21_next_6 : decode cX21_next 6 = .ok (.iload_n 1, 1) := dk_27 (dk_at dksX21_next_0 6 rfl rfl)
theorem dX21_next_7 : decode cX21_next 7 = .ok (.iaload, 1) := dk_46 (dk_at dksX21_next_0 7 rfl rfl)
theorem dX21_next_8 : decode cX21_next 8 = .ok (.invokevirtual 13, 3) := dk_182 0 13 (dk_at dksX21_next_0 8 rfl rfl)
theorem dX21_next_11 : decode cX21_next 11 = .ok (.invokevirtual 19, 3) := dk_182 0 19 (dk_at dksX21_next_0 11 rfl rfl)
theorem dX21_next_14 : decode cX21_next 14 = .ok (.ireturn, 1) := dk_172 (dk_at dksX21_next_0 14 rfl rfl)
abbrev cX21_at : ByteArray := prog_13_method_3_code
def yX21_at : MethodName := ⟨RX21, "at", "(I)I"⟩
def dkwX21_at_2 : List UInt8 := [28, 172]
abbrev dktX21_at_2 : List UInt8 := dkwX21_at_2 ++ []
def dkwX21_at_1 : List UInt8 := [180, 0, 7, 21, 4, 46, 27, 162, 0, 11, 21, 4, 4, 96, 61, 167, 0, 6, 21, 4, 62, 167, 255, 222]
abbrev dktX21_at_1 : List UInt8 := dkwX21_at_1 ++ dktX21_at_2
def dkwX21_at_0 : List UInt8 := [3, 61, 42, 180, 0, 7, 190, 4, 100, 62, 28, 29, 162, 0, 35, 28, 29, 96, 5, 108, 54, 4, 42]
abbrev dktX21_at_0 : List UInt8 := dkwX21_at_0 ++ dktX21_at_1
theorem dksX21_at_0 : cX21_at.data.toList.drop 0 = dktX21_at_0 := by decide +kernel
theorem dksX21_at_1 : cX21_at.data.toList.drop 23 = dktX21_at_1 := dk_seg dksX21_at_0 23 rfl rfl
theorem dksX21_at_2 : cX21_at.data.toList.drop 47 = dktX21_at_2 := dk_seg dksX21_at_1 24 rfl rfl
theorem dX21_at_0 : decode cX21_at 0 = .ok (.iconst 0, 1) := dk_3 (dk_at dksX21_at_0 0 rfl rfl)
theorem dX21_at_1 : decode cX21_at 1 = .ok (.istore_n 2, 1) := dk_61 (dk_at dksX21_at_0 1 rfl rfl)
theorem dX21_at_2 : decode cX21_at 2 = .ok (.aload_n 0, 1) := dk_42 (dk_at dksX21_at_0 2 rfl rfl)
theorem dX21_at_3 : decode cX21_at 3 = .ok (.getfield 7, 3) := dk_180 0 7 (dk_at dksX21_at_0 3 rfl rfl)
theorem dX21_at_6 : decode cX21_at 6 = .ok (.arraylength, 1) := dk_190 (dk_at dksX21_at_0 6 rfl rfl)
theorem dX21_at_7 : decode cX21_at 7 = .ok (.iconst 1, 1) := dk_4 (dk_at dksX21_at_0 7 rfl rfl)
theorem dX21_at_8 : decode cX21_at 8 = .ok (.isub, 1) := dk_100 (dk_at dksX21_at_0 8 rfl rfl)
theorem dX21_at_9 : decode cX21_at 9 = .ok (.istore_n 3, 1) := dk_62 (dk_at dksX21_at_0 9 rfl rfl)
theorem dX21_at_10 : decode cX21_at 10 = .ok (.iload_n 2, 1) := dk_28 (dk_at dksX21_at_0 10 rfl rfl)
theorem dX21_at_11 : decode cX21_at 11 = .ok (.iload_n 3, 1) := dk_29 (dk_at dksX21_at_0 11 rfl rfl)
theorem dX21_at_12 : decode cX21_at 12 = .ok (.if_icmp .ge 35, 3) := dk_162 0 35 (dk_at dksX21_at_0 12 rfl rfl)
theorem dX21_at_15 : decode cX21_at 15 = .ok (.iload_n 2, 1) := dk_28 (dk_at dksX21_at_0 15 rfl rfl)
theorem dX21_at_16 : decode cX21_at 16 = .ok (.iload_n 3, 1) := dk_29 (dk_at dksX21_at_0 16 rfl rfl)
theorem dX21_at_17 : decode cX21_at 17 = .ok (.iadd, 1) := dk_96 (dk_at dksX21_at_0 17 rfl rfl)
theorem dX21_at_18 : decode cX21_at 18 = .ok (.iconst 2, 1) := dk_5 (dk_at dksX21_at_0 18 rfl rfl)
theorem dX21_at_19 : decode cX21_at 19 = .ok (.idiv, 1) := dk_108 (dk_at dksX21_at_0 19 rfl rfl)
theorem dX21_at_20 : decode cX21_at 20 = .ok (.istore 4, 2) := dk_54 4 (dk_at dksX21_at_0 20 rfl rfl)
theorem dX21_at_22 : decode cX21_at 22 = .ok (.aload_n 0, 1) := dk_42 (dk_at dksX21_at_0 22 rfl rfl)
theorem dX21_at_23 : decode cX21_at 23 = .ok (.getfield 7, 3) := dk_180 0 7 (dk_at dksX21_at_1 0 rfl rfl)
theorem dX21_at_26 : decode cX21_at 26 = .ok (.iload 4, 2) := dk_21 4 (dk_at dksX21_at_1 3 rfl rfl)
theorem dX21_at_28 : decode cX21_at 28 = .ok (.iaload, 1) := dk_46 (dk_at dksX21_at_1 5 rfl rfl)
theorem dX21_at_29 : decode cX21_at 29 = .ok (.iload_n 1, 1) := dk_27 (dk_at dksX21_at_1 6 rfl rfl)
theorem dX21_at_30 : decode cX21_at 30 = .ok (.if_icmp .ge 11, 3) := dk_162 0 11 (dk_at dksX21_at_1 7 rfl rfl)
theorem dX21_at_33 : decode cX21_at 33 = .ok (.iload 4, 2) := dk_21 4 (dk_at dksX21_at_1 10 rfl rfl)
theorem dX21_at_35 : decode cX21_at 35 = .ok (.iconst 1, 1) := dk_4 (dk_at dksX21_at_1 12 rfl rfl)
theorem dX21_at_36 : decode cX21_at 36 = .ok (.iadd, 1) := dk_96 (dk_at dksX21_at_1 13 rfl rfl)
theorem dX21_at_37 : decode cX21_at 37 = .ok (.istore_n 2, 1) := dk_61 (dk_at dksX21_at_1 14 rfl rfl)
theorem dX21_at_38 : decode cX21_at 38 = .ok (.goto 6, 3) := dk_167 0 6 (dk_at dksX21_at_1 15 rfl rfl)
theorem dX21_at_41 : decode cX21_at 41 = .ok (.iload 4, 2) := dk_21 4 (dk_at dksX21_at_1 18 rfl rfl)
theorem dX21_at_43 : decode cX21_at 43 = .ok (.istore_n 3, 1) := dk_62 (dk_at dksX21_at_1 20 rfl rfl)
theorem dX21_at_44 : decode cX21_at 44 = .ok (.goto (-34), 3) := dk_167 255 222 (dk_at dksX21_at_1 21 rfl rfl)
theorem dX21_at_47 : decode cX21_at 47 = .ok (.iload_n 2, 1) := dk_28 (dk_at dksX21_at_2 0 rfl rfl)
theorem dX21_at_48 : decode cX21_at 48 = .ok (.ireturn, 1) := dk_172 (dk_at dksX21_at_2 1 rfl rfl)
theorem q136 : (Jvm.Cond.initialized "EightBlocks$Rows") ∈ lw_all := lw_g (lw_at lw_m1 41 rfl) rfl
theorem q1449 : (Jvm.Cond.instantiable "EightBlocks$Rows" (1 : Nat)) ∈ lw_all := lw_g (lw_at lw_m6 154 rfl) rfl
theorem q1451 : (Jvm.Cond.instanceMethod ({ cls := "EightBlocks$Rows", name := "<init>", desc := "([I)V" } : Jvm.MethodName)) ∈ lw_all := lw_g (lw_at lw_m6 156 rfl) rfl
theorem q1452 : (Jvm.Cond.code ({ cls := "EightBlocks$Rows", name := "<init>", desc := "([I)V" } : Jvm.MethodName) prog_13_method_1_code (2 : Nat) (Option.none : Option Jvm.ClassFile.FieldType)) ∈ lw_all := lw_g (lw_at lw_m6 157 rfl) rfl
theorem q1453 : (Jvm.Cond.methodLink "EightBlocks$Rows" (1 : Nat) ({ cls := "java/lang/Object", name := "<init>", desc := "()V" } : Jvm.MethodName)) ∈ lw_all := lw_g (lw_at lw_m6 158 rfl) rfl
theorem q1454 : (Jvm.Cond.fieldLink "EightBlocks$Rows" (7 : Nat) "EightBlocks$Rows" "row" "[I") ∈ lw_all := lw_g (lw_at lw_m6 159 rfl) rfl
theorem q1455 : (Jvm.Cond.laysFinal "EightBlocks$Rows" "EightBlocks$Rows" "row" "[I") ∈ lw_all := lw_g (lw_at lw_m6 160 rfl) rfl
theorem q1456 : (Jvm.Cond.soleField "EightBlocks$Rows" "row") ∈ lw_all := lw_g (lw_at lw_m6 161 rfl) rfl
theorem q1457 : (Jvm.Cond.superclass "EightBlocks$Rows" "java/lang/Object") ∈ lw_all := lw_g (lw_at lw_m6 162 rfl) rfl
theorem q1496 : (Jvm.Cond.castable "EightBlocks$Rows" "EightBlocks$Things") ∈ lw_tbl := lw_at lw_m6 201 rfl
theorem q1497 : (Jvm.Cond.selects "EightBlocks$Rows" ({ cls := "EightBlocks$Things", name := "many", desc := "()I" } : Jvm.MethodName) ({ cls := "EightBlocks$Rows", name := "many", desc := "()I" } : Jvm.MethodName)) ∈ lw_all := lw_g (lw_at lw_m6 202 rfl) rfl
theorem q1498 : (Jvm.Cond.unhidden "EightBlocks$Rows" "many" "()I") ∈ lw_tbl := lw_at lw_m6 203 rfl
theorem q1499 : (Jvm.Cond.instanceMethod ({ cls := "EightBlocks$Rows", name := "many", desc := "()I" } : Jvm.MethodName)) ∈ lw_all := lw_g (lw_at lw_m6 204 rfl) rfl
theorem q1500 : (Jvm.Cond.publicMethod ({ cls := "EightBlocks$Rows", name := "many", desc := "()I" } : Jvm.MethodName)) ∈ lw_tbl := lw_at lw_m6 205 rfl
theorem q1501 : (Jvm.Cond.code ({ cls := "EightBlocks$Rows", name := "many", desc := "()I" } : Jvm.MethodName) prog_13_method_2_code (1 : Nat) (Option.some Jvm.ClassFile.FieldType.int)) ∈ lw_all := lw_g (lw_at lw_m6 206 rfl) rfl
theorem q1516 : (Jvm.Cond.unhidden "EightBlocks$Rows" "isThere" "(I)Z") ∈ lw_tbl := lw_at lw_m6 221 rfl
theorem q1537 : (Jvm.Cond.selects "EightBlocks$Rows" ({ cls := "EightBlocks$Things", name := "next", desc := "(ILEightBlocks$Move;)I" } : Jvm.MethodName) ({ cls := "EightBlocks$Rows", name := "next", desc := "(ILEightBlocks$Move;)I" } : Jvm.MethodName)) ∈ lw_all := lw_g (lw_at lw_m7 2 rfl) rfl
theorem q1538 : (Jvm.Cond.unhidden "EightBlocks$Rows" "next" "(ILEightBlocks$Move;)I") ∈ lw_tbl := lw_at lw_m7 3 rfl
theorem q1539 : (Jvm.Cond.instanceMethod ({ cls := "EightBlocks$Rows", name := "next", desc := "(ILEightBlocks$Move;)I" } : Jvm.MethodName)) ∈ lw_all := lw_g (lw_at lw_m7 4 rfl) rfl
theorem q1540 : (Jvm.Cond.publicMethod ({ cls := "EightBlocks$Rows", name := "next", desc := "(ILEightBlocks$Move;)I" } : Jvm.MethodName)) ∈ lw_tbl := lw_at lw_m7 5 rfl
theorem q1541 : (Jvm.Cond.code ({ cls := "EightBlocks$Rows", name := "next", desc := "(ILEightBlocks$Move;)I" } : Jvm.MethodName) prog_13_method_4_code (3 : Nat) (Option.some Jvm.ClassFile.FieldType.int)) ∈ lw_all := lw_g (lw_at lw_m7 6 rfl) rfl
theorem q1542 : (Jvm.Cond.methodLink "EightBlocks$Rows" (19 : Nat) ({ cls := "EightBlocks$Rows", name := "at", desc := "(I)I" } : Jvm.MethodName)) ∈ lw_all := lw_g (lw_at lw_m7 7 rfl) rfl
theorem q1543 : (Jvm.Cond.instanceMethod ({ cls := "EightBlocks$Rows", name := "at", desc := "(I)I" } : Jvm.MethodName)) ∈ lw_all := lw_g (lw_at lw_m7 8 rfl) rfl
theorem q1544 : (Jvm.Cond.selects "EightBlocks$Rows" ({ cls := "EightBlocks$Rows", name := "at", desc := "(I)I" } : Jvm.MethodName) ({ cls := "EightBlocks$Rows", name := "at", desc := "(I)I" } : Jvm.MethodName)) ∈ lw_all := lw_g (lw_at lw_m7 9 rfl) rfl
theorem q1545 : (Jvm.Cond.code ({ cls := "EightBlocks$Rows", name := "at", desc := "(I)I" } : Jvm.MethodName) prog_13_method_3_code (5 : Nat) (Option.some Jvm.ClassFile.FieldType.int)) ∈ lw_all := lw_g (lw_at lw_m7 10 rfl) rfl
theorem q1553 : (Jvm.Cond.unhidden "EightBlocks$Rows" "parts" "(LEightBlocks$Flood;LEightBlocks$Hall;I)I") ∈ lw_tbl := lw_at lw_m7 18 rfl
theorem in_X21 : ∀ w ∈ wsX210, w ∈ lw_all := lw_in wsX210 [1455] (by decide +kernel) (by decide +kernel)

/-! EightBlocks$Sextets -/
set_option maxRecDepth 100000
def RX22 : String := "EightBlocks$Sextets"
def TX22 : u_T := fun k => match k with
  | 0 => ("EightBlocks$Sextets", "code", "LEightBlocks$Code;", true)
  | _ => ("EightBlocks$Sextets", "six", "[I", true)
def tyX22 : Nat → FieldType := fun k => match k with
  | 0 => .object "EightBlocks$Code"
  | _ => .array .int
abbrev wsX220 : List Cond := u_ws RX22 TX22 2
theorem nmX22 : ∀ a, a < 2 → ∀ b, b < 2 → a ≠ b → (TX22 a).2.1 ≠ (TX22 b).2.1 := by decide +kernel
theorem tyX22_ok : ∀ k, k < 2 → parseFieldDescriptor (TX22 k).2.2.1 = some (tyX22 k) := by decide +kernel
abbrev cX22_init : ByteArray := prog_15_method_1_code
def yX22_init : MethodName := ⟨RX22, "<init>", "(LEightBlocks$Code;)V"⟩
def dkwX22_init_0 : List UInt8 := [42, 183, 0, 3, 42, 16, 6, 188, 10, 181, 0, 9, 42, 43, 181, 0, 15, 177]
abbrev dktX22_init_0 : List UInt8 := dkwX22_init_0 ++ []
theorem dksX22_init_0 : cX22_init.data.toList.drop 0 = dktX22_init_0 := by decide +kernel
theorem dX22_init_0 : decode cX22_init 0 = .ok (.aload_n 0, 1) := dk_42 (dk_at dksX22_init_0 0 rfl rfl)
theorem dX22_init_1 : decode cX22_init 1 = .ok (.invokespecial 3, 3) := dk_183 0 3 (dk_at dksX22_init_0 1 rfl rfl)
theorem dX22_init_4 : decode cX22_init 4 = .ok (.aload_n 0, 1) := dk_42 (dk_at dksX22_init_0 4 rfl rfl)
theorem dX22_init_5 : decode cX22_init 5 = .ok (.bipush 6, 2) := dk_16 6 (dk_at dksX22_init_0 5 rfl rfl)
theorem dX22_init_7 : decode cX22_init 7 = .ok (.newarray .int, 2) := dk_188_10 (dk_at dksX22_init_0 7 rfl rfl)
theorem dX22_init_9 : decode cX22_init 9 = .ok (.putfield 9, 3) := dk_181 0 9 (dk_at dksX22_init_0 9 rfl rfl)
theorem dX22_init_12 : decode cX22_init 12 = .ok (.aload_n 0, 1) := dk_42 (dk_at dksX22_init_0 12 rfl rfl)
theorem dX22_init_13 : decode cX22_init 13 = .ok (.aload_n 1, 1) := dk_43 (dk_at dksX22_init_0 13 rfl rfl)
theorem dX22_init_14 : decode cX22_init 14 = .ok (.putfield 15, 3) := dk_181 0 15 (dk_at dksX22_init_0 14 rfl rfl)
theorem dX22_init_17 : decode cX22_init 17 = .ok (.return_, 1) := dk_177 (dk_at dksX22_init_0 17 rfl rfl)
abbrev cX22_many : ByteArray := prog_15_method_2_code
def yX22_many : MethodName := ⟨RX22, "many", "()I"⟩
theorem dX22_many_0 : decode cX22_many 0 = .ok (.sipush 4096, 3) := by decide +kernel
theorem dX22_many_3 : decode cX22_many 3 = .ok (.ireturn, 1) := by decide +kernel
abbrev cX22_isThere : ByteArray := prog_15_method_3_code
def yX22_isThere : MethodName := ⟨RX22, "isThere", "(I)Z"⟩
def dkwX22_isThere_0 : List UInt8 := [42, 180, 0, 15, 180, 0, 19, 27, 46, 156, 0, 7, 4, 167, 0, 4, 3, 172]
abbrev dktX22_isThere_0 : List UInt8 := dkwX22_isThere_0 ++ []
theorem dksX22_isThere_0 : cX22_isThere.data.toList.drop 0 = dktX22_isThere_0 := by decide +kernel
theorem dX22_isThere_0 : decode cX22_isThere 0 = .ok (.aload_n 0, 1) := dk_42 (dk_at dksX22_isThere_0 0 rfl rfl)
theorem dX22_isThere_1 : decode cX22_isThere 1 = .ok (.getfield 15, 3) := dk_180 0 15 (dk_at dksX22_isThere_0 1 rfl rfl)
theorem dX22_isThere_4 : decode cX22_isThere 4 = .ok (.getfield 19, 3) := dk_180 0 19 (dk_at dksX22_isThere_0 4 rfl rfl)
theorem dX22_isThere_7 : decode cX22_isThere 7 = .ok (.iload_n 1, 1) := dk_27 (dk_at dksX22_isThere_0 7 rfl rfl)
theorem dX22_isThere_8 : decode cX22_isThere 8 = .ok (.iaload, 1) := dk_46 (dk_at dksX22_isThere_0 8 rfl rfl)
theorem dX22_isThere_9 : decode cX22_isThere 9 = .ok (.ifCond .ge 7, 3) := dk_156 0 7 (dk_at dksX22_isThere_0 9 rfl rfl)
theorem dX22_isThere_12 : decode cX22_isThere 12 = .ok (.iconst 1, 1) := dk_4 (dk_at dksX22_isThere_0 12 rfl rfl)
theorem dX22_isThere_13 : decode cX22_isThere 13 = .ok (.goto 4, 3) := dk_167 0 4 (dk_at dksX22_isThere_0 13 rfl rfl)
theorem dX22_isThere_16 : decode cX22_isThere 16 = .ok (.iconst 0, 1) := dk_3 (dk_at dksX22_isThere_0 16 rfl rfl)
theorem dX22_isThere_17 : decode cX22_isThere 17 = .ok (.ireturn, 1) := dk_172 (dk_at dksX22_isThere_0 17 rfl rfl)
abbrev cX22_next : ByteArray := prog_15_method_4_code
def yX22_next : MethodName := ⟨RX22, "next", "(ILEightBlocks$Move;)I"⟩
def dkwX22_next_1 : List UInt8 := [182, 0, 28, 182, 0, 34, 172]
abbrev dktX22_next_1 : List UInt8 := dkwX22_next_1 ++ []
def dkwX22_next_0 : List UInt8 := [42, 180, 0, 15, 27, 42, 180, 0, 9, 182, 0, 24, 42, 180, 0, 15, 44, 42, 180, 0, 9, 3, 46]
abbrev dktX22_next_0 : List UInt8 := dkwX22_next_0 ++ dktX22_next_1
theorem dksX22_next_0 : cX22_next.data.toList.drop 0 = dktX22_next_0 := by decide +kernel
theorem dksX22_next_1 : cX22_next.data.toList.drop 23 = dktX22_next_1 := dk_seg dksX22_next_0 23 rfl rfl
theorem dX22_next_0 : decode cX22_next 0 = .ok (.aload_n 0, 1) := dk_42 (dk_at dksX22_next_0 0 rfl rfl)
theorem dX22_next_1 : decode cX22_next 1 = .ok (.getfield 15, 3) := dk_180 0 15 (dk_at dksX22_next_0 1 rfl rfl)
theorem dX22_next_4 : decode cX22_next 4 = .ok (.iload_n 1, 1) := dk_27 (dk_at dksX22_next_0 4 rfl rfl)
theorem dX22_next_5 : decode cX22_next 5 = .ok (.aload_n 0, 1) := dk_42 (dk_at dksX22_next_0 5 rfl rfl)
theorem dX22_next_6 : decode cX22_next 6 = .ok (.getfield 9, 3) := dk_180 0 9 (dk_at dksX22_next_0 6 rfl rfl)
theorem dX22_next_9 : decode cX22_next 9 = .ok (.invokevirtual 24, 3) := dk_182 0 24 (dk_at dksX22_next_0 9 rfl rfl)
theorem dX22_next_12 : decode cX22_next 12 = .ok (.aload_n 0, 1) := dk_42 (dk_at dksX22_next_0 12 rfl rfl)
theorem dX22_next_13 : decode cX22_next 13 = .ok (.getfield 15, 3) := dk_180 0 15 (dk_at dksX22_next_0 13 rfl rfl)
theorem dX22_next_16 : decode cX22_next 16 = .ok (.aload_n 2, 1) := dk_44 (dk_at dksX22_next_0 16 rfl rfl)
theorem dX22_next_17 : decode cX22_next 17 = .ok (.aload_n 0, 1) := dk_42 (dk_at dksX22_next_0 17 rfl rfl)
theorem dX22_next_18 : decode cX22_next 18 = .ok (.getfield 9, 3) := dk_180 0 9 (dk_at dksX22_next_0 18 rfl rfl)
theorem dX22_next_21 : decode cX22_next 21 = .ok (.iconst 0, 1) := dk_3 (dk_at dksX22_next_0 21 rfl rfl)
theorem dX22_next_22 : decode cX22_next 22 = .ok (.iaload, 1) := dk_46 (dk_at dksX22_next_0 22 rfl rfl)
theorem dX22_next_23 : decode cX22_next 23 = .ok (.invokevirtual 28, 3) := dk_182 0 28 (dk_at dksX22_next_1 0 rfl rfl)
theorem dX22_next_26 : decode cX22_next 26 = .ok (.invokevirtual 34, 3) := dk_182 0 34 (dk_at dksX22_next_1 3 rfl rfl)
theorem dX22_next_29 : decode cX22_next 29 = .ok (.ireturn, 1) := dk_172 (dk_at dksX22_next_1 6 rfl rfl)
theorem q137 : (Jvm.Cond.initialized "EightBlocks$Sextets") ∈ lw_all := lw_g (lw_at lw_m1 42 rfl) rfl
theorem q208 : (Jvm.Cond.fieldLinkNest "EightBlocks$Sextets" (19 : Nat) "EightBlocks$Code" "leaders" "[I" "EightBlocks") ∈ lw_tbl := lw_at lw_m1 113 rfl
theorem q1459 : (Jvm.Cond.instantiable "EightBlocks$Sextets" (2 : Nat)) ∈ lw_all := lw_g (lw_at lw_m6 164 rfl) rfl
theorem q1461 : (Jvm.Cond.instanceMethod ({ cls := "EightBlocks$Sextets", name := "<init>", desc := "(LEightBlocks$Code;)V" } : Jvm.MethodName)) ∈ lw_all := lw_g (lw_at lw_m6 166 rfl) rfl
theorem q1462 : (Jvm.Cond.code ({ cls := "EightBlocks$Sextets", name := "<init>", desc := "(LEightBlocks$Code;)V" } : Jvm.MethodName) prog_15_method_1_code (2 : Nat) (Option.none : Option Jvm.ClassFile.FieldType)) ∈ lw_all := lw_g (lw_at lw_m6 167 rfl) rfl
theorem q1463 : (Jvm.Cond.methodLink "EightBlocks$Sextets" (3 : Nat) ({ cls := "java/lang/Object", name := "<init>", desc := "()V" } : Jvm.MethodName)) ∈ lw_all := lw_g (lw_at lw_m6 168 rfl) rfl
theorem q1464 : (Jvm.Cond.fieldLink "EightBlocks$Sextets" (15 : Nat) "EightBlocks$Sextets" "code" "LEightBlocks$Code;") ∈ lw_all := lw_g (lw_at lw_m6 169 rfl) rfl
theorem q1465 : (Jvm.Cond.fieldLink "EightBlocks$Sextets" (9 : Nat) "EightBlocks$Sextets" "six" "[I") ∈ lw_all := lw_g (lw_at lw_m6 170 rfl) rfl
theorem q1466 : (Jvm.Cond.laysFinal "EightBlocks$Sextets" "EightBlocks$Sextets" "code" "LEightBlocks$Code;") ∈ lw_all := lw_g (lw_at lw_m6 171 rfl) rfl
theorem q1467 : (Jvm.Cond.soleField "EightBlocks$Sextets" "code") ∈ lw_all := lw_g (lw_at lw_m6 172 rfl) rfl
theorem q1468 : (Jvm.Cond.laysFinal "EightBlocks$Sextets" "EightBlocks$Sextets" "six" "[I") ∈ lw_all := lw_g (lw_at lw_m6 173 rfl) rfl
theorem q1469 : (Jvm.Cond.soleField "EightBlocks$Sextets" "six") ∈ lw_all := lw_g (lw_at lw_m6 174 rfl) rfl
theorem q1470 : (Jvm.Cond.superclass "EightBlocks$Sextets" "java/lang/Object") ∈ lw_all := lw_g (lw_at lw_m6 175 rfl) rfl
theorem q1502 : (Jvm.Cond.castable "EightBlocks$Sextets" "EightBlocks$Things") ∈ lw_tbl := lw_at lw_m6 207 rfl
theorem q1503 : (Jvm.Cond.selects "EightBlocks$Sextets" ({ cls := "EightBlocks$Things", name := "many", desc := "()I" } : Jvm.MethodName) ({ cls := "EightBlocks$Sextets", name := "many", desc := "()I" } : Jvm.MethodName)) ∈ lw_all := lw_g (lw_at lw_m6 208 rfl) rfl
theorem q1504 : (Jvm.Cond.unhidden "EightBlocks$Sextets" "many" "()I") ∈ lw_tbl := lw_at lw_m6 209 rfl
theorem q1505 : (Jvm.Cond.instanceMethod ({ cls := "EightBlocks$Sextets", name := "many", desc := "()I" } : Jvm.MethodName)) ∈ lw_all := lw_g (lw_at lw_m6 210 rfl) rfl
theorem q1506 : (Jvm.Cond.publicMethod ({ cls := "EightBlocks$Sextets", name := "many", desc := "()I" } : Jvm.MethodName)) ∈ lw_tbl := lw_at lw_m6 211 rfl
theorem q1507 : (Jvm.Cond.code ({ cls := "EightBlocks$Sextets", name := "many", desc := "()I" } : Jvm.MethodName) prog_15_method_2_code (1 : Nat) (Option.some Jvm.ClassFile.FieldType.int)) ∈ lw_all := lw_g (lw_at lw_m6 212 rfl) rfl
theorem q1517 : (Jvm.Cond.selects "EightBlocks$Sextets" ({ cls := "EightBlocks$Things", name := "isThere", desc := "(I)Z" } : Jvm.MethodName) ({ cls := "EightBlocks$Sextets", name := "isThere", desc := "(I)Z" } : Jvm.MethodName)) ∈ lw_all := lw_g (lw_at lw_m6 222 rfl) rfl
theorem q1518 : (Jvm.Cond.unhidden "EightBlocks$Sextets" "isThere" "(I)Z") ∈ lw_tbl := lw_at lw_m6 223 rfl
theorem q1519 : (Jvm.Cond.instanceMethod ({ cls := "EightBlocks$Sextets", name := "isThere", desc := "(I)Z" } : Jvm.MethodName)) ∈ lw_all := lw_g (lw_at lw_m6 224 rfl) rfl
theorem q1520 : (Jvm.Cond.publicMethod ({ cls := "EightBlocks$Sextets", name := "isThere", desc := "(I)Z" } : Jvm.MethodName)) ∈ lw_tbl := lw_at lw_m6 225 rfl
theorem q1521 : (Jvm.Cond.code ({ cls := "EightBlocks$Sextets", name := "isThere", desc := "(I)Z" } : Jvm.MethodName) prog_15_method_3_code (2 : Nat) (Option.some Jvm.ClassFile.FieldType.boolean)) ∈ lw_all := lw_g (lw_at lw_m6 226 rfl) rfl
theorem q1546 : (Jvm.Cond.selects "EightBlocks$Sextets" ({ cls := "EightBlocks$Things", name := "next", desc := "(ILEightBlocks$Move;)I" } : Jvm.MethodName) ({ cls := "EightBlocks$Sextets", name := "next", desc := "(ILEightBlocks$Move;)I" } : Jvm.MethodName)) ∈ lw_all := lw_g (lw_at lw_m7 11 rfl) rfl
theorem q1547 : (Jvm.Cond.unhidden "EightBlocks$Sextets" "next" "(ILEightBlocks$Move;)I") ∈ lw_tbl := lw_at lw_m7 12 rfl
theorem q1548 : (Jvm.Cond.instanceMethod ({ cls := "EightBlocks$Sextets", name := "next", desc := "(ILEightBlocks$Move;)I" } : Jvm.MethodName)) ∈ lw_all := lw_g (lw_at lw_m7 13 rfl) rfl
theorem q1549 : (Jvm.Cond.publicMethod ({ cls := "EightBlocks$Sextets", name := "next", desc := "(ILEightBlocks$Move;)I" } : Jvm.MethodName)) ∈ lw_tbl := lw_at lw_m7 14 rfl
theorem q1550 : (Jvm.Cond.code ({ cls := "EightBlocks$Sextets", name := "next", desc := "(ILEightBlocks$Move;)I" } : Jvm.MethodName) prog_15_method_4_code (3 : Nat) (Option.some Jvm.ClassFile.FieldType.int)) ∈ lw_all := lw_g (lw_at lw_m7 15 rfl) rfl
theorem q1551 : (Jvm.Cond.methodLink "EightBlocks$Sextets" (24 : Nat) ({ cls := "EightBlocks$Code", name := "tetrads", desc := "(I[I)V" } : Jvm.MethodName)) ∈ lw_all := lw_g (lw_at lw_m7 16 rfl) rfl
theorem q1552 : (Jvm.Cond.methodLink "EightBlocks$Sextets" (34 : Nat) ({ cls := "EightBlocks$Code", name := "remainder", desc := "(I)I" } : Jvm.MethodName)) ∈ lw_all := lw_g (lw_at lw_m7 17 rfl) rfl
theorem q1554 : (Jvm.Cond.unhidden "EightBlocks$Sextets" "parts" "(LEightBlocks$Flood;LEightBlocks$Hall;I)I") ∈ lw_tbl := lw_at lw_m7 19 rfl
theorem in_X22 : ∀ w ∈ wsX220, w ∈ lw_all := lw_in wsX220 [1466, 1468] (by decide +kernel) (by decide +kernel)
