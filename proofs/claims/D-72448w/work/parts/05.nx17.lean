/-! EightBlocksModel -/
set_option maxRecDepth 100000
def RX17 : String := "EightBlocksModel"
def TX17 : u_T := fun k => match k with
  | 0 => ("EightBlocksModel", "now", "[I", true)
  | 1 => ("EightBlocksModel", "steps", "[I", true)
  | 2 => ("EightBlocksModel", "makes", "[I", true)
  | 3 => ("EightBlocksModel", "stepMany", "I", false)
  | 4 => ("EightBlocksModel", "sorted", "[I", true)
  | 5 => ("EightBlocksModel", "octads", "[I", true)
  | 6 => ("EightBlocksModel", "text", "[I", true)
  | 7 => ("EightBlocksModel", "textMany", "I", false)
  | 8 => ("EightBlocksModel", "tape", "[I", true)
  | 9 => ("EightBlocksModel", "taped", "I", false)
  | 10 => ("EightBlocksModel", "place", "I", false)
  | 11 => ("EightBlocksModel", "factor", "[I", true)
  | 12 => ("EightBlocksModel", "done", "[I", true)
  | 13 => ("EightBlocksModel", "rest", "[I", true)
  | 14 => ("EightBlocksModel", "level", "I", false)
  | 15 => ("EightBlocksModel", "base", "[I", true)
  | 16 => ("EightBlocksModel", "entry", "[I", true)
  | 17 => ("EightBlocksModel", "ways", "[I", true)
  | 18 => ("EightBlocksModel", "levelOf", "[I", true)
  | 19 => ("EightBlocksModel", "entries", "I", false)
  | 20 => ("EightBlocksModel", "way", "[I", true)
  | 21 => ("EightBlocksModel", "madeBy", "I", false)
  | 22 => ("EightBlocksModel", "madeSet", "I", false)
  | 23 => ("EightBlocksModel", "madeOf", "[I", true)
  | 24 => ("EightBlocksModel", "images", "[I", true)
  | 25 => ("EightBlocksModel", "marked", "[Z", true)
  | 26 => ("EightBlocksModel", "todo", "[I", true)
  | 27 => ("EightBlocksModel", "ahead", "[I", true)
  | 28 => ("EightBlocksModel", "undos", "I", false)
  | 29 => ("EightBlocksModel", "kept", "[I", true)
  | 30 => ("EightBlocksModel", "keptAhead", "[I", true)
  | 31 => ("EightBlocksModel", "keptUndos", "I", false)
  | 32 => ("EightBlocksModel", "lanes", "[I", true)
  | 33 => ("EightBlocksModel", "sizes", "[I", true)
  | 34 => ("EightBlocksModel", "items", "[J", true)
  | 35 => ("EightBlocksModel", "moved", "[J", true)
  | _ => ("EightBlocksModel", "want", "[I", true)
def tyX17 : Nat → FieldType := fun k => match k with
  | 0 => .array .int
  | 1 => .array .int
  | 2 => .array .int
  | 3 => .int
  | 4 => .array .int
  | 5 => .array .int
  | 6 => .array .int
  | 7 => .int
  | 8 => .array .int
  | 9 => .int
  | 10 => .int
  | 11 => .array .int
  | 12 => .array .int
  | 13 => .array .int
  | 14 => .int
  | 15 => .array .int
  | 16 => .array .int
  | 17 => .array .int
  | 18 => .array .int
  | 19 => .int
  | 20 => .array .int
  | 21 => .int
  | 22 => .int
  | 23 => .array .int
  | 24 => .array .int
  | 25 => .array .boolean
  | 26 => .array .int
  | 27 => .array .int
  | 28 => .int
  | 29 => .array .int
  | 30 => .array .int
  | 31 => .int
  | 32 => .array .int
  | 33 => .array .int
  | 34 => .array .long
  | 35 => .array .long
  | _ => .array .int
abbrev wsX170 : List Cond := u_ws RX17 TX17 37
set_option maxRecDepth 100000 in
theorem nmX17 : ∀ a, a < 37 → ∀ b, b < 37 → a ≠ b → (TX17 a).2.1 ≠ (TX17 b).2.1 := by decide +kernel
set_option maxRecDepth 100000 in
theorem tyX17_ok : ∀ k, k < 37 → parseFieldDescriptor (TX17 k).2.2.1 = some (tyX17 k) := by decide +kernel
abbrev cX17_init : ByteArray := prog_24_method_3_code
def yX17_init : MethodName := ⟨RX17, "<init>", "()V"⟩
def dkwX17_init_18 : List UInt8 := [167, 255, 241, 177]
abbrev dktX17_init_18 : List UInt8 := dkwX17_init_18 ++ []
def dkwX17_init_17 : List UInt8 := [132, 2, 1, 167, 255, 183, 3, 61, 28, 7, 162, 0, 16, 42, 180, 0, 84, 28, 2, 79, 132, 2, 1]
abbrev dktX17_init_17 : List UInt8 := dkwX17_init_17 ++ dktX17_init_18
def dkwX17_init_16 : List UInt8 := [184, 0, 115, 16, 8, 160, 0, 18, 42, 180, 0, 22, 27, 42, 180, 0, 19, 28, 46, 79, 132, 1, 1]
abbrev dktX17_init_16 : List UInt8 := dkwX17_init_16 ++ dktX17_init_17
def dkwX17_init_15 : List UInt8 := [28, 28, 4, 100, 126, 46, 42, 180, 0, 13, 28, 184, 0, 112, 46, 130, 79, 42, 180, 0, 19, 28, 46]
abbrev dktX17_init_15 : List UInt8 := dkwX17_init_15 ++ dktX17_init_16
def dkwX17_init_14 : List UInt8 := [28, 17, 16, 0, 162, 0, 72, 42, 180, 0, 19, 28, 28, 154, 0, 7, 3, 167, 0, 23, 42, 180, 0, 19]
abbrev dktX17_init_14 : List UInt8 := dkwX17_init_14 ++ dktX17_init_15
def dkwX17_init_13 : List UInt8 := [162, 0, 20, 42, 27, 184, 0, 104, 4, 27, 120, 182, 0, 108, 132, 1, 1, 167, 255, 236, 3, 60, 3, 61]
abbrev dktX17_init_13 : List UInt8 := dkwX17_init_13 ++ dktX17_init_14
def dkwX17_init_12 : List UInt8 := [180, 0, 7, 16, 121, 4, 79, 42, 180, 0, 7, 16, 120, 3, 184, 0, 104, 79, 3, 60, 27, 16, 12]
abbrev dktX17_init_12 : List UInt8 := dkwX17_init_12 ++ dktX17_init_13
def dkwX17_init_11 : List UInt8 := [27, 104, 28, 96, 27, 28, 184, 0, 100, 79, 132, 2, 1, 167, 255, 231, 132, 1, 1, 167, 255, 218, 42]
abbrev dktX17_init_11 : List UInt8 := dkwX17_init_11 ++ dktX17_init_12
def dkwX17_init_10 : List UInt8 := [181, 0, 97, 3, 60, 27, 8, 162, 0, 39, 3, 61, 28, 16, 24, 162, 0, 25, 42, 180, 0, 7, 16, 24]
abbrev dktX17_init_10 : List UInt8 := dkwX17_init_10 ++ dktX17_init_11
def dkwX17_init_9 : List UInt8 := [42, 17, 0, 128, 188, 11, 181, 0, 90, 42, 16, 32, 188, 11, 181, 0, 94, 42, 16, 24, 188, 10]
abbrev dktX17_init_9 : List UInt8 := dkwX17_init_9 ++ dktX17_init_10
def dkwX17_init_8 : List UInt8 := [188, 10, 181, 0, 78, 42, 2, 181, 0, 81, 42, 7, 188, 10, 181, 0, 84, 42, 7, 188, 10, 181, 0, 87]
abbrev dktX17_init_8 : List UInt8 := dkwX17_init_8 ++ dktX17_init_9
def dkwX17_init_7 : List UInt8 := [181, 0, 69, 42, 17, 2, 220, 188, 10, 181, 0, 72, 42, 16, 122, 188, 10, 181, 0, 75, 42, 17, 2, 220]
abbrev dktX17_init_7 : List UInt8 := dkwX17_init_7 ++ dktX17_init_8
def dkwX17_init_6 : List UInt8 := [42, 16, 48, 188, 10, 181, 0, 62, 42, 17, 16, 0, 188, 4, 181, 0, 65, 42, 17, 16, 0, 188, 10]
abbrev dktX17_init_6 : List UInt8 := dkwX17_init_6 ++ dktX17_init_7
def dkwX17_init_5 : List UInt8 := [181, 0, 49, 42, 16, 24, 188, 10, 181, 0, 52, 42, 2, 181, 0, 55, 42, 16, 96, 188, 10, 181, 0, 59]
abbrev dktX17_init_5 : List UInt8 := dkwX17_init_5 ++ dktX17_init_6
def dkwX17_init_4 : List UInt8 := [42, 17, 2, 64, 188, 10, 181, 0, 43, 42, 17, 11, 160, 188, 10, 181, 0, 46, 42, 16, 124, 188, 10]
abbrev dktX17_init_4 : List UInt8 := dkwX17_init_4 ++ dktX17_init_5
def dkwX17_init_3 : List UInt8 := [17, 0, 168, 188, 10, 181, 0, 34, 42, 16, 24, 188, 10, 181, 0, 37, 42, 16, 24, 188, 10, 181, 0, 40]
abbrev dktX17_init_3 : List UInt8 := dkwX17_init_3 ++ dktX17_init_4
def dkwX17_init_2 : List UInt8 := [16, 100, 188, 10, 181, 0, 25, 42, 16, 100, 188, 10, 181, 0, 28, 42, 16, 24, 188, 10, 181, 0, 31, 42]
abbrev dktX17_init_2 : List UInt8 := dkwX17_init_2 ++ dktX17_init_3
def dkwX17_init_1 : List UInt8 := [188, 10, 181, 0, 16, 42, 17, 16, 0, 188, 10, 181, 0, 19, 42, 17, 2, 247, 188, 10, 181, 0, 22, 42]
abbrev dktX17_init_1 : List UInt8 := dkwX17_init_1 ++ dktX17_init_2
def dkwX17_init_0 : List UInt8 := [42, 183, 0, 1, 42, 16, 122, 188, 10, 181, 0, 7, 42, 16, 12, 188, 10, 181, 0, 13, 42, 16, 12]
abbrev dktX17_init_0 : List UInt8 := dkwX17_init_0 ++ dktX17_init_1
theorem dksX17_init_0 : cX17_init.data.toList.drop 0 = dktX17_init_0 := by decide +kernel
theorem dksX17_init_1 : cX17_init.data.toList.drop 23 = dktX17_init_1 := dk_seg dksX17_init_0 23 rfl rfl
theorem dksX17_init_2 : cX17_init.data.toList.drop 47 = dktX17_init_2 := dk_seg dksX17_init_1 24 rfl rfl
theorem dksX17_init_3 : cX17_init.data.toList.drop 71 = dktX17_init_3 := dk_seg dksX17_init_2 24 rfl rfl
theorem dksX17_init_4 : cX17_init.data.toList.drop 95 = dktX17_init_4 := dk_seg dksX17_init_3 24 rfl rfl
theorem dksX17_init_5 : cX17_init.data.toList.drop 118 = dktX17_init_5 := dk_seg dksX17_init_4 23 rfl rfl
theorem dksX17_init_6 : cX17_init.data.toList.drop 142 = dktX17_init_6 := dk_seg dksX17_init_5 24 rfl rfl
theorem dksX17_init_7 : cX17_init.data.toList.drop 165 = dktX17_init_7 := dk_seg dksX17_init_6 23 rfl rfl
theorem dksX17_init_8 : cX17_init.data.toList.drop 189 = dktX17_init_8 := dk_seg dksX17_init_7 24 rfl rfl
theorem dksX17_init_9 : cX17_init.data.toList.drop 213 = dktX17_init_9 := dk_seg dksX17_init_8 24 rfl rfl
theorem dksX17_init_10 : cX17_init.data.toList.drop 235 = dktX17_init_10 := dk_seg dksX17_init_9 22 rfl rfl
theorem dksX17_init_11 : cX17_init.data.toList.drop 259 = dktX17_init_11 := dk_seg dksX17_init_10 24 rfl rfl
theorem dksX17_init_12 : cX17_init.data.toList.drop 282 = dktX17_init_12 := dk_seg dksX17_init_11 23 rfl rfl
theorem dksX17_init_13 : cX17_init.data.toList.drop 305 = dktX17_init_13 := dk_seg dksX17_init_12 23 rfl rfl
theorem dksX17_init_14 : cX17_init.data.toList.drop 329 = dktX17_init_14 := dk_seg dksX17_init_13 24 rfl rfl
theorem dksX17_init_15 : cX17_init.data.toList.drop 353 = dktX17_init_15 := dk_seg dksX17_init_14 24 rfl rfl
theorem dksX17_init_16 : cX17_init.data.toList.drop 376 = dktX17_init_16 := dk_seg dksX17_init_15 23 rfl rfl
theorem dksX17_init_17 : cX17_init.data.toList.drop 399 = dktX17_init_17 := dk_seg dksX17_init_16 23 rfl rfl
theorem dksX17_init_18 : cX17_init.data.toList.drop 422 = dktX17_init_18 := dk_seg dksX17_init_17 23 rfl rfl
theorem dX17_init_0 : decode cX17_init 0 = .ok (.aload_n 0, 1) := dk_42 (dk_at dksX17_init_0 0 rfl rfl)
theorem dX17_init_1 : decode cX17_init 1 = .ok (.invokespecial 1, 3) := dk_183 0 1 (dk_at dksX17_init_0 1 rfl rfl)
theorem dX17_init_4 : decode cX17_init 4 = .ok (.aload_n 0, 1) := dk_42 (dk_at dksX17_init_0 4 rfl rfl)
theorem dX17_init_5 : decode cX17_init 5 = .ok (.bipush 122, 2) := dk_16 122 (dk_at dksX17_init_0 5 rfl rfl)
theorem dX17_init_7 : decode cX17_init 7 = .ok (.newarray .int, 2) := dk_188_10 (dk_at dksX17_init_0 7 rfl rfl)
theorem dX17_init_9 : decode cX17_init 9 = .ok (.putfield 7, 3) := dk_181 0 7 (dk_at dksX17_init_0 9 rfl rfl)
theorem dX17_init_12 : decode cX17_init 12 = .ok (.aload_n 0, 1) := dk_42 (dk_at dksX17_init_0 12 rfl rfl)
theorem dX17_init_13 : decode cX17_init 13 = .ok (.bipush 12, 2) := dk_16 12 (dk_at dksX17_init_0 13 rfl rfl)
theorem dX17_init_15 : decode cX17_init 15 = .ok (.newarray .int, 2) := dk_188_10 (dk_at dksX17_init_0 15 rfl rfl)
theorem dX17_init_17 : decode cX17_init 17 = .ok (.putfield 13, 3) := dk_181 0 13 (dk_at dksX17_init_0 17 rfl rfl)
theorem dX17_init_20 : decode cX17_init 20 = .ok (.aload_n 0, 1) := dk_42 (dk_at dksX17_init_0 20 rfl rfl)
theorem dX17_init_21 : decode cX17_init 21 = .ok (.bipush 12, 2) := dk_16 12 (dk_at dksX17_init_0 21 rfl rfl)
theorem dX17_init_23 : decode cX17_init 23 = .ok (.newarray .int, 2) := dk_188_10 (dk_at dksX17_init_1 0 rfl rfl)
theorem dX17_init_25 : decode cX17_init 25 = .ok (.putfield 16, 3) := dk_181 0 16 (dk_at dksX17_init_1 2 rfl rfl)
theorem dX17_init_28 : decode cX17_init 28 = .ok (.aload_n 0, 1) := dk_42 (dk_at dksX17_init_1 5 rfl rfl)
theorem dX17_init_29 : decode cX17_init 29 = .ok (.sipush 4096, 3) := dk_17 16 0 (dk_at dksX17_init_1 6 rfl rfl)
theorem dX17_init_32 : decode cX17_init 32 = .ok (.newarray .int, 2) := dk_188_10 (dk_at dksX17_init_1 9 rfl rfl)
theorem dX17_init_34 : decode cX17_init 34 = .ok (.putfield 19, 3) := dk_181 0 19 (dk_at dksX17_init_1 11 rfl rfl)
theorem dX17_init_37 : decode cX17_init 37 = .ok (.aload_n 0, 1) := dk_42 (dk_at dksX17_init_1 14 rfl rfl)
theorem dX17_init_38 : decode cX17_init 38 = .ok (.sipush 759, 3) := dk_17 2 247 (dk_at dksX17_init_1 15 rfl rfl)
theorem dX17_init_41 : decode cX17_init 41 = .ok (.newarray .int, 2) := dk_188_10 (dk_at dksX17_init_1 18 rfl rfl)
theorem dX17_init_43 : decode cX17_init 43 = .ok (.putfield 22, 3) := dk_181 0 22 (dk_at dksX17_init_1 20 rfl rfl)
theorem dX17_init_46 : decode cX17_init 46 = .ok (.aload_n 0, 1) := dk_42 (dk_at dksX17_init_1 23 rfl rfl)
theorem dX17_init_47 : decode cX17_init 47 = .ok (.bipush 100, 2) := dk_16 100 (dk_at dksX17_init_2 0 rfl rfl)
theorem dX17_init_49 : decode cX17_init 49 = .ok (.newarray .int, 2) := dk_188_10 (dk_at dksX17_init_2 2 rfl rfl)
theorem dX17_init_51 : decode cX17_init 51 = .ok (.putfield 25, 3) := dk_181 0 25 (dk_at dksX17_init_2 4 rfl rfl)
theorem dX17_init_54 : decode cX17_init 54 = .ok (.aload_n 0, 1) := dk_42 (dk_at dksX17_init_2 7 rfl rfl)
theorem dX17_init_55 : decode cX17_init 55 = .ok (.bipush 100, 2) := dk_16 100 (dk_at dksX17_init_2 8 rfl rfl)
theorem dX17_init_57 : decode cX17_init 57 = .ok (.newarray .int, 2) := dk_188_10 (dk_at dksX17_init_2 10 rfl rfl)
theorem dX17_init_59 : decode cX17_init 59 = .ok (.putfield 28, 3) := dk_181 0 28 (dk_at dksX17_init_2 12 rfl rfl)
theorem dX17_init_62 : decode cX17_init 62 = .ok (.aload_n 0, 1) := dk_42 (dk_at dksX17_init_2 15 rfl rfl)
theorem dX17_init_63 : decode cX17_init 63 = .ok (.bipush 24, 2) := dk_16 24 (dk_at dksX17_init_2 16 rfl rfl)
theorem dX17_init_65 : decode cX17_init 65 = .ok (.newarray .int, 2) := dk_188_10 (dk_at dksX17_init_2 18 rfl rfl)
theorem dX17_init_67 : decode cX17_init 67 = .ok (.putfield 31, 3) := dk_181 0 31 (dk_at dksX17_init_2 20 rfl rfl)
theorem dX17_init_70 : decode cX17_init 70 = .ok (.aload_n 0, 1) := dk_42 (dk_at dksX17_init_2 23 rfl rfl)
theorem dX17_init_71 : decode cX17_init 71 = .ok (.sipush 168, 3) := dk_17 0 168 (dk_at dksX17_init_3 0 rfl rfl)
theorem dX17_init_74 : decode cX17_init 74 = .ok (.newarray .int, 2) := dk_188_10 (dk_at dksX17_init_3 3 rfl rfl)
theorem dX17_init_76 : decode cX17_init 76 = .ok (.putfield 34, 3) := dk_181 0 34 (dk_at dksX17_init_3 5 rfl rfl)
theorem dX17_init_79 : decode cX17_init 79 = .ok (.aload_n 0, 1) := dk_42 (dk_at dksX17_init_3 8 rfl rfl)
theorem dX17_init_80 : decode cX17_init 80 = .ok (.bipush 24, 2) := dk_16 24 (dk_at dksX17_init_3 9 rfl rfl)
theorem dX17_init_82 : decode cX17_init 82 = .ok (.newarray .int, 2) := dk_188_10 (dk_at dksX17_init_3 11 rfl rfl)
theorem dX17_init_84 : decode cX17_init 84 = .ok (.putfield 37, 3) := dk_181 0 37 (dk_at dksX17_init_3 13 rfl rfl)
theorem dX17_init_87 : decode cX17_init 87 = .ok (.aload_n 0, 1) := dk_42 (dk_at dksX17_init_3 16 rfl rfl)
theorem dX17_init_88 : decode cX17_init 88 = .ok (.bipush 24, 2) := dk_16 24 (dk_at dksX17_init_3 17 rfl rfl)
theorem dX17_init_90 : decode cX17_init 90 = .ok (.newarray .int, 2) := dk_188_10 (dk_at dksX17_init_3 19 rfl rfl)
theorem dX17_init_92 : decode cX17_init 92 = .ok (.putfield 40, 3) := dk_181 0 40 (dk_at dksX17_init_3 21 rfl rfl)
theorem dX17_init_95 : decode cX17_init 95 = .ok (.aload_n 0, 1) := dk_42 (dk_at dksX17_init_4 0 rfl rfl)
theorem dX17_init_96 : decode cX17_init 96 = .ok (.sipush 576, 3) := dk_17 2 64 (dk_at dksX17_init_4 1 rfl rfl)
theorem dX17_init_99 : decode cX17_init 99 = .ok (.newarray .int, 2) := dk_188_10 (dk_at dksX17_init_4 4 rfl rfl)
theorem dX17_init_101 : decode cX17_init 101 = .ok (.putfield 43, 3) := dk_181 0 43 (dk_at dksX17_init_4 6 rfl rfl)
theorem dX17_init_104 : decode cX17_init 104 = .ok (.aload_n 0, 1) := dk_42 (dk_at dksX17_init_4 9 rfl rfl)
theorem dX17_init_105 : decode cX17_init 105 = .ok (.sipush 2976, 3) := dk_17 11 160 (dk_at dksX17_init_4 10 rfl rfl)
theorem dX17_init_108 : decode cX17_init 108 = .ok (.newarray .int, 2) := dk_188_10 (dk_at dksX17_init_4 13 rfl rfl)
theorem dX17_init_110 : decode cX17_init 110 = .ok (.putfield 46, 3) := dk_181 0 46 (dk_at dksX17_init_4 15 rfl rfl)
theorem dX17_init_113 : decode cX17_init 113 = .ok (.aload_n 0, 1) := dk_42 (dk_at dksX17_init_4 18 rfl rfl)
theorem dX17_init_114 : decode cX17_init 114 = .ok (.bipush 124, 2) := dk_16 124 (dk_at dksX17_init_4 19 rfl rfl)
theorem dX17_init_116 : decode cX17_init 116 = .ok (.newarray .int, 2) := dk_188_10 (dk_at dksX17_init_4 21 rfl rfl)
theorem dX17_init_118 : decode cX17_init 118 = .ok (.putfield 49, 3) := dk_181 0 49 (dk_at dksX17_init_5 0 rfl rfl)
theorem dX17_init_121 : decode cX17_init 121 = .ok (.aload_n 0, 1) := dk_42 (dk_at dksX17_init_5 3 rfl rfl)
theorem dX17_init_122 : decode cX17_init 122 = .ok (.bipush 24, 2) := dk_16 24 (dk_at dksX17_init_5 4 rfl rfl)
theorem dX17_init_124 : decode cX17_init 124 = .ok (.newarray .int, 2) := dk_188_10 (dk_at dksX17_init_5 6 rfl rfl)
theorem dX17_init_126 : decode cX17_init 126 = .ok (.putfield 52, 3) := dk_181 0 52 (dk_at dksX17_init_5 8 rfl rfl)
theorem dX17_init_129 : decode cX17_init 129 = .ok (.aload_n 0, 1) := dk_42 (dk_at dksX17_init_5 11 rfl rfl)
theorem dX17_init_130 : decode cX17_init 130 = .ok (.iconst (-1), 1) := dk_2 (dk_at dksX17_init_5 12 rfl rfl)
theorem dX17_init_131 : decode cX17_init 131 = .ok (.putfield 55, 3) := dk_181 0 55 (dk_at dksX17_init_5 13 rfl rfl)
theorem dX17_init_134 : decode cX17_init 134 = .ok (.aload_n 0, 1) := dk_42 (dk_at dksX17_init_5 16 rfl rfl)
theorem dX17_init_135 : decode cX17_init 135 = .ok (.bipush 96, 2) := dk_16 96 (dk_at dksX17_init_5 17 rfl rfl)
theorem dX17_init_137 : decode cX17_init 137 = .ok (.newarray .int, 2) := dk_188_10 (dk_at dksX17_init_5 19 rfl rfl)
theorem dX17_init_139 : decode cX17_init 139 = .ok (.putfield 59, 3) := dk_181 0 59 (dk_at dksX17_init_5 21 rfl rfl)
theorem dX17_init_142 : decode cX17_init 142 = .ok (.aload_n 0, 1) := dk_42 (dk_at dksX17_init_6 0 rfl rfl)
theorem dX17_init_143 : decode cX17_init 143 = .ok (.bipush 48, 2) := dk_16 48 (dk_at dksX17_init_6 1 rfl rfl)
theorem dX17_init_145 : decode cX17_init 145 = .ok (.newarray .int, 2) := dk_188_10 (dk_at dksX17_init_6 3 rfl rfl)
theorem dX17_init_147 : decode cX17_init 147 = .ok (.putfield 62, 3) := dk_181 0 62 (dk_at dksX17_init_6 5 rfl rfl)
theorem dX17_init_150 : decode cX17_init 150 = .ok (.aload_n 0, 1) := dk_42 (dk_at dksX17_init_6 8 rfl rfl)
theorem dX17_init_151 : decode cX17_init 151 = .ok (.sipush 4096, 3) := dk_17 16 0 (dk_at dksX17_init_6 9 rfl rfl)
theorem dX17_init_154 : decode cX17_init 154 = .ok (.newarray .boolean, 2) := dk_188_4 (dk_at dksX17_init_6 12 rfl rfl)
theorem dX17_init_156 : decode cX17_init 156 = .ok (.putfield 65, 3) := dk_181 0 65 (dk_at dksX17_init_6 14 rfl rfl)
theorem dX17_init_159 : decode cX17_init 159 = .ok (.aload_n 0, 1) := dk_42 (dk_at dksX17_init_6 17 rfl rfl)
theorem dX17_init_160 : decode cX17_init 160 = .ok (.sipush 4096, 3) := dk_17 16 0 (dk_at dksX17_init_6 18 rfl rfl)
theorem dX17_init_163 : decode cX17_init 163 = .ok (.newarray .int, 2) := dk_188_10 (dk_at dksX17_init_6 21 rfl rfl)
theorem dX17_init_165 : decode cX17_init 165 = .ok (.putfield 69, 3) := dk_181 0 69 (dk_at dksX17_init_7 0 rfl rfl)
theorem dX17_init_168 : decode cX17_init 168 = .ok (.aload_n 0, 1) := dk_42 (dk_at dksX17_init_7 3 rfl rfl)
theorem dX17_init_169 : decode cX17_init 169 = .ok (.sipush 732, 3) := dk_17 2 220 (dk_at dksX17_init_7 4 rfl rfl)
theorem dX17_init_172 : decode cX17_init 172 = .ok (.newarray .int, 2) := dk_188_10 (dk_at dksX17_init_7 7 rfl rfl)
theorem dX17_init_174 : decode cX17_init 174 = .ok (.putfield 72, 3) := dk_181 0 72 (dk_at dksX17_init_7 9 rfl rfl)
theorem dX17_init_177 : decode cX17_init 177 = .ok (.aload_n 0, 1) := dk_42 (dk_at dksX17_init_7 12 rfl rfl)
theorem dX17_init_178 : decode cX17_init 178 = .ok (.bipush 122, 2) := dk_16 122 (dk_at dksX17_init_7 13 rfl rfl)
theorem dX17_init_180 : decode cX17_init 180 = .ok (.newarray .int, 2) := dk_188_10 (dk_at dksX17_init_7 15 rfl rfl)
theorem dX17_init_182 : decode cX17_init 182 = .ok (.putfield 75, 3) := dk_181 0 75 (dk_at dksX17_init_7 17 rfl rfl)
theorem dX17_init_185 : decode cX17_init 185 = .ok (.aload_n 0, 1) := dk_42 (dk_at dksX17_init_7 20 rfl rfl)
theorem dX17_init_186 : decode cX17_init 186 = .ok (.sipush 732, 3) := dk_17 2 220 (dk_at dksX17_init_7 21 rfl rfl)
theorem dX17_init_189 : decode cX17_init 189 = .ok (.newarray .int, 2) := dk_188_10 (dk_at dksX17_init_8 0 rfl rfl)
theorem dX17_init_191 : decode cX17_init 191 = .ok (.putfield 78, 3) := dk_181 0 78 (dk_at dksX17_init_8 2 rfl rfl)
theorem dX17_init_194 : decode cX17_init 194 = .ok (.aload_n 0, 1) := dk_42 (dk_at dksX17_init_8 5 rfl rfl)
theorem dX17_init_195 : decode cX17_init 195 = .ok (.iconst (-1), 1) := dk_2 (dk_at dksX17_init_8 6 rfl rfl)
theorem dX17_init_196 : decode cX17_init 196 = .ok (.putfield 81, 3) := dk_181 0 81 (dk_at dksX17_init_8 7 rfl rfl)
theorem dX17_init_199 : decode cX17_init 199 = .ok (.aload_n 0, 1) := dk_42 (dk_at dksX17_init_8 10 rfl rfl)
theorem dX17_init_200 : decode cX17_init 200 = .ok (.iconst 4, 1) := dk_7 (dk_at dksX17_init_8 11 rfl rfl)
theorem dX17_init_201 : decode cX17_init 201 = .ok (.newarray .int, 2) := dk_188_10 (dk_at dksX17_init_8 12 rfl rfl)
theorem dX17_init_203 : decode cX17_init 203 = .ok (.putfield 84, 3) := dk_181 0 84 (dk_at dksX17_init_8 14 rfl rfl)
theorem dX17_init_206 : decode cX17_init 206 = .ok (.aload_n 0, 1) := dk_42 (dk_at dksX17_init_8 17 rfl rfl)
theorem dX17_init_207 : decode cX17_init 207 = .ok (.iconst 4, 1) := dk_7 (dk_at dksX17_init_8 18 rfl rfl)
theorem dX17_init_208 : decode cX17_init 208 = .ok (.newarray .int, 2) := dk_188_10 (dk_at dksX17_init_8 19 rfl rfl)
theorem dX17_init_210 : decode cX17_init 210 = .ok (.putfield 87, 3) := dk_181 0 87 (dk_at dksX17_init_8 21 rfl rfl)
theorem dX17_init_213 : decode cX17_init 213 = .ok (.aload_n 0, 1) := dk_42 (dk_at dksX17_init_9 0 rfl rfl)
theorem dX17_init_214 : decode cX17_init 214 = .ok (.sipush 128, 3) := dk_17 0 128 (dk_at dksX17_init_9 1 rfl rfl)
theorem dX17_init_217 : decode cX17_init 217 = .ok (.newarray .long, 2) := dk_188_11 (dk_at dksX17_init_9 4 rfl rfl)
theorem dX17_init_219 : decode cX17_init 219 = .ok (.putfield 90, 3) := dk_181 0 90 (dk_at dksX17_init_9 6 rfl rfl)
theorem dX17_init_222 : decode cX17_init 222 = .ok (.aload_n 0, 1) := dk_42 (dk_at dksX17_init_9 9 rfl rfl)
theorem dX17_init_223 : decode cX17_init 223 = .ok (.bipush 32, 2) := dk_16 32 (dk_at dksX17_init_9 10 rfl rfl)
theorem dX17_init_225 : decode cX17_init 225 = .ok (.newarray .long, 2) := dk_188_11 (dk_at dksX17_init_9 12 rfl rfl)
theorem dX17_init_227 : decode cX17_init 227 = .ok (.putfield 94, 3) := dk_181 0 94 (dk_at dksX17_init_9 14 rfl rfl)
theorem dX17_init_230 : decode cX17_init 230 = .ok (.aload_n 0, 1) := dk_42 (dk_at dksX17_init_9 17 rfl rfl)
theorem dX17_init_231 : decode cX17_init 231 = .ok (.bipush 24, 2) := dk_16 24 (dk_at dksX17_init_9 18 rfl rfl)
theorem dX17_init_233 : decode cX17_init 233 = .ok (.newarray .int, 2) := dk_188_10 (dk_at dksX17_init_9 20 rfl rfl)
theorem dX17_init_235 : decode cX17_init 235 = .ok (.putfield 97, 3) := dk_181 0 97 (dk_at dksX17_init_10 0 rfl rfl)
theorem dX17_init_238 : decode cX17_init 238 = .ok (.iconst 0, 1) := dk_3 (dk_at dksX17_init_10 3 rfl rfl)
theorem dX17_init_239 : decode cX17_init 239 = .ok (.istore_n 1, 1) := dk_60 (dk_at dksX17_init_10 4 rfl rfl)
theorem dX17_init_240 : decode cX17_init 240 = .ok (.iload_n 1, 1) := dk_27 (dk_at dksX17_init_10 5 rfl rfl)
theorem dX17_init_241 : decode cX17_init 241 = .ok (.iconst 5, 1) := dk_8 (dk_at dksX17_init_10 6 rfl rfl)
theorem dX17_init_242 : decode cX17_init 242 = .ok (.if_icmp .ge 39, 3) := dk_162 0 39 (dk_at dksX17_init_10 7 rfl rfl)
theorem dX17_init_245 : decode cX17_init 245 = .ok (.iconst 0, 1) := dk_3 (dk_at dksX17_init_10 10 rfl rfl)
theorem dX17_init_246 : decode cX17_init 246 = .ok (.istore_n 2, 1) := dk_61 (dk_at dksX17_init_10 11 rfl rfl)
theorem dX17_init_247 : decode cX17_init 247 = .ok (.iload_n 2, 1) := dk_28 (dk_at dksX17_init_10 12 rfl rfl)
theorem dX17_init_248 : decode cX17_init 248 = .ok (.bipush 24, 2) := dk_16 24 (dk_at dksX17_init_10 13 rfl rfl)
theorem dX17_init_250 : decode cX17_init 250 = .ok (.if_icmp .ge 25, 3) := dk_162 0 25 (dk_at dksX17_init_10 15 rfl rfl)
theorem dX17_init_253 : decode cX17_init 253 = .ok (.aload_n 0, 1) := dk_42 (dk_at dksX17_init_10 18 rfl rfl)
theorem dX17_init_254 : decode cX17_init 254 = .ok (.getfield 7, 3) := dk_180 0 7 (dk_at dksX17_init_10 19 rfl rfl)
theorem dX17_init_257 : decode cX17_init 257 = .ok (.bipush 24, 2) := dk_16 24 (dk_at dksX17_init_10 22 rfl rfl)
theorem dX17_init_259 : decode cX17_init 259 = .ok (.iload_n 1, 1) := dk_27 (dk_at dksX17_init_11 0 rfl rfl)
theorem dX17_init_260 : decode cX17_init 260 = .ok (.imul, 1) := dk_104 (dk_at dksX17_init_11 1 rfl rfl)
theorem dX17_init_261 : decode cX17_init 261 = .ok (.iload_n 2, 1) := dk_28 (dk_at dksX17_init_11 2 rfl rfl)
theorem dX17_init_262 : decode cX17_init 262 = .ok (.iadd, 1) := dk_96 (dk_at dksX17_init_11 3 rfl rfl)
theorem dX17_init_263 : decode cX17_init 263 = .ok (.iload_n 1, 1) := dk_27 (dk_at dksX17_init_11 4 rfl rfl)
theorem dX17_init_264 : decode cX17_init 264 = .ok (.iload_n 2, 1) := dk_28 (dk_at dksX17_init_11 5 rfl rfl)
theorem dX17_init_265 : decode cX17_init 265 = .ok (.invokestatic 100, 3) := dk_184 0 100 (dk_at dksX17_init_11 6 rfl rfl)
theorem dX17_init_268 : decode cX17_init 268 = .ok (.iastore, 1) := dk_79 (dk_at dksX17_init_11 9 rfl rfl)
theorem dX17_init_269 : decode cX17_init 269 = .ok (.iinc 2 1, 3) := dk_132 2 1 (dk_at dksX17_init_11 10 rfl rfl)
theorem dX17_init_272 : decode cX17_init 272 = .ok (.goto (-25), 3) := dk_167 255 231 (dk_at dksX17_init_11 13 rfl rfl)
theorem dX17_init_275 : decode cX17_init 275 = .ok (.iinc 1 1, 3) := dk_132 1 1 (dk_at dksX17_init_11 16 rfl rfl)
theorem dX17_init_278 : decode cX17_init 278 = .ok (.goto (-38), 3) := dk_167 255 218 (dk_at dksX17_init_11 19 rfl rfl)
theorem dX17_init_281 : decode cX17_init 281 = .ok (.aload_n 0, 1) := dk_42 (dk_at dksX17_init_11 22 rfl rfl)
theorem dX17_init_282 : decode cX17_init 282 = .ok (.getfield 7, 3) := dk_180 0 7 (dk_at dksX17_init_12 0 rfl rfl)
theorem dX17_init_285 : decode cX17_init 285 = .ok (.bipush 121, 2) := dk_16 121 (dk_at dksX17_init_12 3 rfl rfl)
theorem dX17_init_287 : decode cX17_init 287 = .ok (.iconst 1, 1) := dk_4 (dk_at dksX17_init_12 5 rfl rfl)
theorem dX17_init_288 : decode cX17_init 288 = .ok (.iastore, 1) := dk_79 (dk_at dksX17_init_12 6 rfl rfl)
theorem dX17_init_289 : decode cX17_init 289 = .ok (.aload_n 0, 1) := dk_42 (dk_at dksX17_init_12 7 rfl rfl)
theorem dX17_init_290 : decode cX17_init 290 = .ok (.getfield 7, 3) := dk_180 0 7 (dk_at dksX17_init_12 8 rfl rfl)
theorem dX17_init_293 : decode cX17_init 293 = .ok (.bipush 120, 2) := dk_16 120 (dk_at dksX17_init_12 11 rfl rfl)
theorem dX17_init_295 : decode cX17_init 295 = .ok (.iconst 0, 1) := dk_3 (dk_at dksX17_init_12 13 rfl rfl)
theorem dX17_init_296 : decode cX17_init 296 = .ok (.invokestatic 104, 3) := dk_184 0 104 (dk_at dksX17_init_12 14 rfl rfl)
theorem dX17_init_299 : decode cX17_init 299 = .ok (.iastore, 1) := dk_79 (dk_at dksX17_init_12 17 rfl rfl)
theorem dX17_init_300 : decode cX17_init 300 = .ok (.iconst 0, 1) := dk_3 (dk_at dksX17_init_12 18 rfl rfl)
theorem dX17_init_301 : decode cX17_init 301 = .ok (.istore_n 1, 1) := dk_60 (dk_at dksX17_init_12 19 rfl rfl)
theorem dX17_init_302 : decode cX17_init 302 = .ok (.iload_n 1, 1) := dk_27 (dk_at dksX17_init_12 20 rfl rfl)
theorem dX17_init_303 : decode cX17_init 303 = .ok (.bipush 12, 2) := dk_16 12 (dk_at dksX17_init_12 21 rfl rfl)
theorem dX17_init_305 : decode cX17_init 305 = .ok (.if_icmp .ge 20, 3) := dk_162 0 20 (dk_at dksX17_init_13 0 rfl rfl)
theorem dX17_init_308 : decode cX17_init 308 = .ok (.aload_n 0, 1) := dk_42 (dk_at dksX17_init_13 3 rfl rfl)
theorem dX17_init_309 : decode cX17_init 309 = .ok (.iload_n 1, 1) := dk_27 (dk_at dksX17_init_13 4 rfl rfl)
theorem dX17_init_310 : decode cX17_init 310 = .ok (.invokestatic 104, 3) := dk_184 0 104 (dk_at dksX17_init_13 5 rfl rfl)
theorem dX17_init_313 : decode cX17_init 313 = .ok (.iconst 1, 1) := dk_4 (dk_at dksX17_init_13 8 rfl rfl)
theorem dX17_init_314 : decode cX17_init 314 = .ok (.iload_n 1, 1) := dk_27 (dk_at dksX17_init_13 9 rfl rfl)
theorem dX17_init_315 : decode cX17_init 315 = .ok (.ishl, 1) := dk_120 (dk_at dksX17_init_13 10 rfl rfl)
theorem dX17_init_316 : decode cX17_init 316 = .ok (.invokevirtual 108, 3) := dk_182 0 108 (dk_at dksX17_init_13 11 rfl rfl)
theorem dX17_init_319 : decode cX17_init 319 = .ok (.iinc 1 1, 3) := dk_132 1 1 (dk_at dksX17_init_13 14 rfl rfl)
theorem dX17_init_322 : decode cX17_init 322 = .ok (.goto (-20), 3) := dk_167 255 236 (dk_at dksX17_init_13 17 rfl rfl)
theorem dX17_init_325 : decode cX17_init 325 = .ok (.iconst 0, 1) := dk_3 (dk_at dksX17_init_13 20 rfl rfl)
theorem dX17_init_326 : decode cX17_init 326 = .ok (.istore_n 1, 1) := dk_60 (dk_at dksX17_init_13 21 rfl rfl)
theorem dX17_init_327 : decode cX17_init 327 = .ok (.iconst 0, 1) := dk_3 (dk_at dksX17_init_13 22 rfl rfl)
theorem dX17_init_328 : decode cX17_init 328 = .ok (.istore_n 2, 1) := dk_61 (dk_at dksX17_init_13 23 rfl rfl)
theorem dX17_init_329 : decode cX17_init 329 = .ok (.iload_n 2, 1) := dk_28 (dk_at dksX17_init_14 0 rfl rfl)
theorem dX17_init_330 : decode cX17_init 330 = .ok (.sipush 4096, 3) := dk_17 16 0 (dk_at dksX17_init_14 1 rfl rfl)
theorem dX17_init_333 : decode cX17_init 333 = .ok (.if_icmp .ge 72, 3) := dk_162 0 72 (dk_at dksX17_init_14 4 rfl rfl)
theorem dX17_init_336 : decode cX17_init 336 = .ok (.aload_n 0, 1) := dk_42 (dk_at dksX17_init_14 7 rfl rfl)
theorem dX17_init_337 : decode cX17_init 337 = .ok (.getfield 19, 3) := dk_180 0 19 (dk_at dksX17_init_14 8 rfl rfl)
theorem dX17_init_340 : decode cX17_init 340 = .ok (.iload_n 2, 1) := dk_28 (dk_at dksX17_init_14 11 rfl rfl)
theorem dX17_init_341 : decode cX17_init 341 = .ok (.iload_n 2, 1) := dk_28 (dk_at dksX17_init_14 12 rfl rfl)
theorem dX17_init_342 : decode cX17_init 342 = .ok (.ifCond .ne 7, 3) := dk_154 0 7 (dk_at dksX17_init_14 13 rfl rfl)
theorem dX17_init_345 : decode cX17_init 345 = .ok (.iconst 0, 1) := dk_3 (dk_at dksX17_init_14 16 rfl rfl)
theorem dX17_init_346 : decode cX17_init 346 = .ok (.goto 23, 3) := dk_167 0 23 (dk_at dksX17_init_14 17 rfl rfl)
theorem dX17_init_349 : decode cX17_init 349 = .ok (.aload_n 0, 1) := dk_42 (dk_at dksX17_init_14 20 rfl rfl)
theorem dX17_init_350 : decode cX17_init 350 = .ok (.getfield 19, 3) := dk_180 0 19 (dk_at dksX17_init_14 21 rfl rfl)
theorem dX17_init_353 : decode cX17_init 353 = .ok (.iload_n 2, 1) := dk_28 (dk_at dksX17_init_15 0 rfl rfl)
theorem dX17_init_354 : decode cX17_init 354 = .ok (.iload_n 2, 1) := dk_28 (dk_at dksX17_init_15 1 rfl rfl)
theorem dX17_init_355 : decode cX17_init 355 = .ok (.iconst 1, 1) := dk_4 (dk_at dksX17_init_15 2 rfl rfl)
theorem dX17_init_356 : decode cX17_init 356 = .ok (.isub, 1) := dk_100 (dk_at dksX17_init_15 3 rfl rfl)
theorem dX17_init_357 : decode cX17_init 357 = .ok (.iand, 1) := dk_126 (dk_at dksX17_init_15 4 rfl rfl)
theorem dX17_init_358 : decode cX17_init 358 = .ok (.iaload, 1) := dk_46 (dk_at dksX17_init_15 5 rfl rfl)
theorem dX17_init_359 : decode cX17_init 359 = .ok (.aload_n 0, 1) := dk_42 (dk_at dksX17_init_15 6 rfl rfl)
theorem dX17_init_360 : decode cX17_init 360 = .ok (.getfield 13, 3) := dk_180 0 13 (dk_at dksX17_init_15 7 rfl rfl)
theorem dX17_init_363 : decode cX17_init 363 = .ok (.iload_n 2, 1) := dk_28 (dk_at dksX17_init_15 10 rfl rfl)
theorem dX17_init_364 : decode cX17_init 364 = .ok (.invokestatic 112, 3) := dk_184 0 112 (dk_at dksX17_init_15 11 rfl rfl)
theorem dX17_init_367 : decode cX17_init 367 = .ok (.iaload, 1) := dk_46 (dk_at dksX17_init_15 14 rfl rfl)
theorem dX17_init_368 : decode cX17_init 368 = .ok (.ixor, 1) := dk_130 (dk_at dksX17_init_15 15 rfl rfl)
theorem dX17_init_369 : decode cX17_init 369 = .ok (.iastore, 1) := dk_79 (dk_at dksX17_init_15 16 rfl rfl)
theorem dX17_init_370 : decode cX17_init 370 = .ok (.aload_n 0, 1) := dk_42 (dk_at dksX17_init_15 17 rfl rfl)
theorem dX17_init_371 : decode cX17_init 371 = .ok (.getfield 19, 3) := dk_180 0 19 (dk_at dksX17_init_15 18 rfl rfl)
theorem dX17_init_374 : decode cX17_init 374 = .ok (.iload_n 2, 1) := dk_28 (dk_at dksX17_init_15 21 rfl rfl)
theorem dX17_init_375 : decode cX17_init 375 = .ok (.iaload, 1) := dk_46 (dk_at dksX17_init_15 22 rfl rfl)
theorem dX17_init_376 : decode cX17_init 376 = .ok (.invokestatic 115, 3) := dk_184 0 115 (dk_at dksX17_init_16 0 rfl rfl)
theorem dX17_init_379 : decode cX17_init 379 = .ok (.bipush 8, 2) := dk_16 8 (dk_at dksX17_init_16 3 rfl rfl)
theorem dX17_init_381 : decode cX17_init 381 = .ok (.if_icmp .ne 18, 3) := dk_160 0 18 (dk_at dksX17_init_16 5 rfl rfl)
theorem dX17_init_384 : decode cX17_init 384 = .ok (.aload_n 0, 1) := dk_42 (dk_at dksX17_init_16 8 rfl rfl)
theorem dX17_init_385 : decode cX17_init 385 = .ok (.getfield 22, 3) := dk_180 0 22 (dk_at dksX17_init_16 9 rfl rfl)
theorem dX17_init_388 : decode cX17_init 388 = .ok (.iload_n 1, 1) := dk_27 (dk_at dksX17_init_16 12 rfl rfl)
theorem dX17_init_389 : decode cX17_init 389 = .ok (.aload_n 0, 1) := dk_42 (dk_at dksX17_init_16 13 rfl rfl)
theorem dX17_init_390 : decode cX17_init 390 = .ok (.getfield 19, 3) := dk_180 0 19 (dk_at dksX17_init_16 14 rfl rfl)
theorem dX17_init_393 : decode cX17_init 393 = .ok (.iload_n 2, 1) := dk_28 (dk_at dksX17_init_16 17 rfl rfl)
theorem dX17_init_394 : decode cX17_init 394 = .ok (.iaload, 1) := dk_46 (dk_at dksX17_init_16 18 rfl rfl)
theorem dX17_init_395 : decode cX17_init 395 = .ok (.iastore, 1) := dk_79 (dk_at dksX17_init_16 19 rfl rfl)
theorem dX17_init_396 : decode cX17_init 396 = .ok (.iinc 1 1, 3) := dk_132 1 1 (dk_at dksX17_init_16 20 rfl rfl)
theorem dX17_init_399 : decode cX17_init 399 = .ok (.iinc 2 1, 3) := dk_132 2 1 (dk_at dksX17_init_17 0 rfl rfl)
theorem dX17_init_402 : decode cX17_init 402 = .ok (.goto (-73), 3) := dk_167 255 183 (dk_at dksX17_init_17 3 rfl rfl)
theorem dX17_init_405 : decode cX17_init 405 = .ok (.iconst 0, 1) := dk_3 (dk_at dksX17_init_17 6 rfl rfl)
theorem dX17_init_406 : decode cX17_init 406 = .ok (.istore_n 2, 1) := dk_61 (dk_at dksX17_init_17 7 rfl rfl)
theorem dX17_init_407 : decode cX17_init 407 = .ok (.iload_n 2, 1) := dk_28 (dk_at dksX17_init_17 8 rfl rfl)
theorem dX17_init_408 : decode cX17_init 408 = .ok (.iconst 4, 1) := dk_7 (dk_at dksX17_init_17 9 rfl rfl)
theorem dX17_init_409 : decode cX17_init 409 = .ok (.if_icmp .ge 16, 3) := dk_162 0 16 (dk_at dksX17_init_17 10 rfl rfl)
theorem dX17_init_412 : decode cX17_init 412 = .ok (.aload_n 0, 1) := dk_42 (dk_at dksX17_init_17 13 rfl rfl)
theorem dX17_init_413 : decode cX17_init 413 = .ok (.getfield 84, 3) := dk_180 0 84 (dk_at dksX17_init_17 14 rfl rfl)
theorem dX17_init_416 : decode cX17_init 416 = .ok (.iload_n 2, 1) := dk_28 (dk_at dksX17_init_17 17 rfl rfl)
theorem dX17_init_417 : decode cX17_init 417 = .ok (.iconst (-1), 1) := dk_2 (dk_at dksX17_init_17 18 rfl rfl)
theorem dX17_init_418 : decode cX17_init 418 = .ok (.iastore, 1) := dk_79 (dk_at dksX17_init_17 19 rfl rfl)
theorem dX17_init_419 : decode cX17_init 419 = .ok (.iinc 2 1, 3) := dk_132 2 1 (dk_at dksX17_init_17 20 rfl rfl)
theorem dX17_init_422 : decode cX17_init 422 = .ok (.goto (-15), 3) := dk_167 255 241 (dk_at dksX17_init_18 0 rfl rfl)
theorem dX17_init_425 : decode cX17_init 425 = .ok (.return_, 1) := dk_177 (dk_at dksX17_init_18 3 rfl rfl)
abbrev cX17_named : ByteArray := prog_24_method_9_code
def yX17_named : MethodName := ⟨RX17, "named", "(II)I"⟩
def dkwX17_named_5 : List UInt8 := [112, 167, 0, 5, 16, 23, 172, 27, 172]
abbrev dktX17_named_5 : List UInt8 := dkwX17_named_5 ++ []
def dkwX17_named_4 : List UInt8 := [18, 133, 27, 184, 0, 118, 153, 0, 8, 16, 18, 167, 0, 5, 16, 9, 27, 104, 27, 104, 27, 104, 16, 23]
abbrev dktX17_named_4 : List UInt8 := dkwX17_named_4 ++ dktX17_named_5
def dkwX17_named_3 : List UInt8 := [5, 27, 104, 16, 23, 112, 167, 0, 5, 16, 23, 172, 27, 184, 0, 130, 172, 27, 16, 23, 162, 0, 31]
abbrev dktX17_named_3 : List UInt8 := dkwX17_named_3 ++ dktX17_named_4
def dkwX17_named_2 : List UInt8 := [27, 16, 23, 162, 0, 12, 27, 4, 96, 16, 23, 112, 167, 0, 5, 16, 23, 172, 27, 16, 23, 162, 0, 12]
abbrev dktX17_named_2 : List UInt8 := dkwX17_named_2 ++ dktX17_named_3
def dkwX17_named_1 : List UInt8 := [170, 0, 0, 0, 0, 0, 109, 0, 0, 0, 0, 0, 0, 0, 3, 0, 0, 0, 31, 0, 0, 0, 49, 0, 0, 0, 67, 0, 0, 0, 72]
abbrev dktX17_named_1 : List UInt8 := dkwX17_named_1 ++ dktX17_named_2
def dkwX17_named_0 : List UInt8 := [26]
abbrev dktX17_named_0 : List UInt8 := dkwX17_named_0 ++ dktX17_named_1
theorem dksX17_named_0 : cX17_named.data.toList.drop 0 = dktX17_named_0 := by decide +kernel
theorem dksX17_named_1 : cX17_named.data.toList.drop 1 = dktX17_named_1 := dk_seg dksX17_named_0 1 rfl rfl
theorem dksX17_named_2 : cX17_named.data.toList.drop 32 = dktX17_named_2 := dk_seg dksX17_named_1 31 rfl rfl
theorem dksX17_named_3 : cX17_named.data.toList.drop 56 = dktX17_named_3 := dk_seg dksX17_named_2 24 rfl rfl
theorem dksX17_named_4 : cX17_named.data.toList.drop 79 = dktX17_named_4 := dk_seg dksX17_named_3 23 rfl rfl
theorem dksX17_named_5 : cX17_named.data.toList.drop 103 = dktX17_named_5 := dk_seg dksX17_named_4 24 rfl rfl
theorem dX17_named_0 : decode cX17_named 0 = .ok (.iload_n 0, 1) := dk_26 (dk_at dksX17_named_0 0 rfl rfl)
theorem dX17_named_1 : decode cX17_named 1 = .ok (.tableswitch 109 0 3 #[31, 49, 67, 72], 31) := by decide +kernel
theorem dX17_named_32 : decode cX17_named 32 = .ok (.iload_n 1, 1) := dk_27 (dk_at dksX17_named_2 0 rfl rfl)
theorem dX17_named_33 : decode cX17_named 33 = .ok (.bipush 23, 2) := dk_16 23 (dk_at dksX17_named_2 1 rfl rfl)
theorem dX17_named_35 : decode cX17_named 35 = .ok (.if_icmp .ge 12, 3) := dk_162 0 12 (dk_at dksX17_named_2 3 rfl rfl)
theorem dX17_named_38 : decode cX17_named 38 = .ok (.iload_n 1, 1) := dk_27 (dk_at dksX17_named_2 6 rfl rfl)
theorem dX17_named_39 : decode cX17_named 39 = .ok (.iconst 1, 1) := dk_4 (dk_at dksX17_named_2 7 rfl rfl)
theorem dX17_named_40 : decode cX17_named 40 = .ok (.iadd, 1) := dk_96 (dk_at dksX17_named_2 8 rfl rfl)
theorem dX17_named_41 : decode cX17_named 41 = .ok (.bipush 23, 2) := dk_16 23 (dk_at dksX17_named_2 9 rfl rfl)
theorem dX17_named_43 : decode cX17_named 43 = .ok (.irem, 1) := dk_112 (dk_at dksX17_named_2 11 rfl rfl)
theorem dX17_named_44 : decode cX17_named 44 = .ok (.goto 5, 3) := dk_167 0 5 (dk_at dksX17_named_2 12 rfl rfl)
theorem dX17_named_47 : decode cX17_named 47 = .ok (.bipush 23, 2) := dk_16 23 (dk_at dksX17_named_2 15 rfl rfl)
theorem dX17_named_49 : decode cX17_named 49 = .ok (.ireturn, 1) := dk_172 (dk_at dksX17_named_2 17 rfl rfl)
theorem dX17_named_50 : decode cX17_named 50 = .ok (.iload_n 1, 1) := dk_27 (dk_at dksX17_named_2 18 rfl rfl)
theorem dX17_named_51 : decode cX17_named 51 = .ok (.bipush 23, 2) := dk_16 23 (dk_at dksX17_named_2 19 rfl rfl)
theorem dX17_named_53 : decode cX17_named 53 = .ok (.if_icmp .ge 12, 3) := dk_162 0 12 (dk_at dksX17_named_2 21 rfl rfl)
theorem dX17_named_56 : decode cX17_named 56 = .ok (.iconst 2, 1) := dk_5 (dk_at dksX17_named_3 0 rfl rfl)
theorem dX17_named_57 : decode cX17_named 57 = .ok (.iload_n 1, 1) := dk_27 (dk_at dksX17_named_3 1 rfl rfl)
theorem dX17_named_58 : decode cX17_named 58 = .ok (.imul, 1) := dk_104 (dk_at dksX17_named_3 2 rfl rfl)
theorem dX17_named_59 : decode cX17_named 59 = .ok (.bipush 23, 2) := dk_16 23 (dk_at dksX17_named_3 3 rfl rfl)
theorem dX17_named_61 : decode cX17_named 61 = .ok (.irem, 1) := dk_112 (dk_at dksX17_named_3 5 rfl rfl)
theorem dX17_named_62 : decode cX17_named 62 = .ok (.goto 5, 3) := dk_167 0 5 (dk_at dksX17_named_3 6 rfl rfl)
theorem dX17_named_65 : decode cX17_named 65 = .ok (.bipush 23, 2) := dk_16 23 (dk_at dksX17_named_3 9 rfl rfl)
theorem dX17_named_67 : decode cX17_named 67 = .ok (.ireturn, 1) := dk_172 (dk_at dksX17_named_3 11 rfl rfl)
theorem dX17_named_68 : decode cX17_named 68 = .ok (.iload_n 1, 1) := dk_27 (dk_at dksX17_named_3 12 rfl rfl)
theorem dX17_named_69 : decode cX17_named 69 = .ok (.invokestatic 130, 3) := dk_184 0 130 (dk_at dksX17_named_3 13 rfl rfl)
theorem dX17_named_72 : decode cX17_named 72 = .ok (.ireturn, 1) := dk_172 (dk_at dksX17_named_3 16 rfl rfl)
theorem dX17_named_73 : decode cX17_named 73 = .ok (.iload_n 1, 1) := dk_27 (dk_at dksX17_named_3 17 rfl rfl)
theorem dX17_named_74 : decode cX17_named 74 = .ok (.bipush 23, 2) := dk_16 23 (dk_at dksX17_named_3 18 rfl rfl)
theorem dX17_named_76 : decode cX17_named 76 = .ok (.if_icmp .ge 31, 3) := dk_162 0 31 (dk_at dksX17_named_3 20 rfl rfl)
theorem dX17_named_79 : decode cX17_named 79 = .ok (.ldc 133, 2) := dk_18 133 (dk_at dksX17_named_4 0 rfl rfl)
theorem dX17_named_81 : decode cX17_named 81 = .ok (.iload_n 1, 1) := dk_27 (dk_at dksX17_named_4 2 rfl rfl)
theorem dX17_named_82 : decode cX17_named 82 = .ok (.invokestatic 118, 3) := dk_184 0 118 (dk_at dksX17_named_4 3 rfl rfl)
theorem dX17_named_85 : decode cX17_named 85 = .ok (.ifCond .eq 8, 3) := dk_153 0 8 (dk_at dksX17_named_4 6 rfl rfl)
theorem dX17_named_88 : decode cX17_named 88 = .ok (.bipush 18, 2) := dk_16 18 (dk_at dksX17_named_4 9 rfl rfl)
theorem dX17_named_90 : decode cX17_named 90 = .ok (.goto 5, 3) := dk_167 0 5 (dk_at dksX17_named_4 11 rfl rfl)
theorem dX17_named_93 : decode cX17_named 93 = .ok (.bipush 9, 2) := dk_16 9 (dk_at dksX17_named_4 14 rfl rfl)
theorem dX17_named_95 : decode cX17_named 95 = .ok (.iload_n 1, 1) := dk_27 (dk_at dksX17_named_4 16 rfl rfl)
theorem dX17_named_96 : decode cX17_named 96 = .ok (.imul, 1) := dk_104 (dk_at dksX17_named_4 17 rfl rfl)
theorem dX17_named_97 : decode cX17_named 97 = .ok (.iload_n 1, 1) := dk_27 (dk_at dksX17_named_4 18 rfl rfl)
theorem dX17_named_98 : decode cX17_named 98 = .ok (.imul, 1) := dk_104 (dk_at dksX17_named_4 19 rfl rfl)
theorem dX17_named_99 : decode cX17_named 99 = .ok (.iload_n 1, 1) := dk_27 (dk_at dksX17_named_4 20 rfl rfl)
theorem dX17_named_100 : decode cX17_named 100 = .ok (.imul, 1) := dk_104 (dk_at dksX17_named_4 21 rfl rfl)
theorem dX17_named_101 : decode cX17_named 101 = .ok (.bipush 23, 2) := dk_16 23 (dk_at dksX17_named_4 22 rfl rfl)
theorem dX17_named_103 : decode cX17_named 103 = .ok (.irem, 1) := dk_112 (dk_at dksX17_named_5 0 rfl rfl)
theorem dX17_named_104 : decode cX17_named 104 = .ok (.goto 5, 3) := dk_167 0 5 (dk_at dksX17_named_5 1 rfl rfl)
theorem dX17_named_107 : decode cX17_named 107 = .ok (.bipush 23, 2) := dk_16 23 (dk_at dksX17_named_5 4 rfl rfl)
theorem dX17_named_109 : decode cX17_named 109 = .ok (.ireturn, 1) := dk_172 (dk_at dksX17_named_5 6 rfl rfl)
theorem dX17_named_110 : decode cX17_named 110 = .ok (.iload_n 1, 1) := dk_27 (dk_at dksX17_named_5 7 rfl rfl)
theorem dX17_named_111 : decode cX17_named 111 = .ok (.ireturn, 1) := dk_172 (dk_at dksX17_named_5 8 rfl rfl)
abbrev cX17_overOf : ByteArray := prog_24_method_10_code
def yX17_overOf : MethodName := ⟨RX17, "overOf", "(I)I"⟩
def dkwX17_overOf_2 : List UInt8 := [27, 60, 132, 2, 1, 167, 255, 218, 27, 172]
abbrev dktX17_overOf_2 : List UInt8 := dkwX17_overOf_2 ++ []
def dkwX17_overOf_1 : List UInt8 := [20, 0, 134, 184, 0, 124, 153, 0, 18, 26, 28, 104, 16, 23, 112, 16, 22, 160, 0, 7, 28, 167, 0, 4]
abbrev dktX17_overOf_1 : List UInt8 := dkwX17_overOf_1 ++ dktX17_overOf_2
def dkwX17_overOf_0 : List UInt8 := [26, 154, 0, 8, 16, 23, 167, 0, 4, 3, 60, 4, 61, 28, 16, 23, 162, 0, 38, 26, 133, 10]
abbrev dktX17_overOf_0 : List UInt8 := dkwX17_overOf_0 ++ dktX17_overOf_1
theorem dksX17_overOf_0 : cX17_overOf.data.toList.drop 0 = dktX17_overOf_0 := by decide +kernel
theorem dksX17_overOf_1 : cX17_overOf.data.toList.drop 22 = dktX17_overOf_1 := dk_seg dksX17_overOf_0 22 rfl rfl
theorem dksX17_overOf_2 : cX17_overOf.data.toList.drop 46 = dktX17_overOf_2 := dk_seg dksX17_overOf_1 24 rfl rfl
theorem dX17_overOf_0 : decode cX17_overOf 0 = .ok (.iload_n 0, 1) := dk_26 (dk_at dksX17_overOf_0 0 rfl rfl)
theorem dX17_overOf_1 : decode cX17_overOf 1 = .ok (.ifCond .ne 8, 3) := dk_154 0 8 (dk_at dksX17_overOf_0 1 rfl rfl)
theorem dX17_overOf_4 : decode cX17_overOf 4 = .ok (.bipush 23, 2) := dk_16 23 (dk_at dksX17_overOf_0 4 rfl rfl)
theorem dX17_overOf_6 : decode cX17_overOf 6 = .ok (.goto 4, 3) := dk_167 0 4 (dk_at dksX17_overOf_0 6 rfl rfl)
theorem dX17_overOf_9 : decode cX17_overOf 9 = .ok (.iconst 0, 1) := dk_3 (dk_at dksX17_overOf_0 9 rfl rfl)
theorem dX17_overOf_10 : decode cX17_overOf 10 = .ok (.istore_n 1, 1) := dk_60 (dk_at dksX17_overOf_0 10 rfl rfl)
theorem dX17_overOf_11 : decode cX17_overOf 11 = .ok (.iconst 1, 1) := dk_4 (dk_at dksX17_overOf_0 11 rfl rfl)
theorem dX17_overOf_12 : decode cX17_overOf 12 = .ok (.istore_n 2, 1) := dk_61 (dk_at dksX17_overOf_0 12 rfl rfl)
theorem dX17_overOf_13 : decode cX17_overOf 13 = .ok (.iload_n 2, 1) := dk_28 (dk_at dksX17_overOf_0 13 rfl rfl)
theorem dX17_overOf_14 : decode cX17_overOf 14 = .ok (.bipush 23, 2) := dk_16 23 (dk_at dksX17_overOf_0 14 rfl rfl)
theorem dX17_overOf_16 : decode cX17_overOf 16 = .ok (.if_icmp .ge 38, 3) := dk_162 0 38 (dk_at dksX17_overOf_0 16 rfl rfl)
theorem dX17_overOf_19 : decode cX17_overOf 19 = .ok (.iload_n 0, 1) := dk_26 (dk_at dksX17_overOf_0 19 rfl rfl)
theorem dX17_overOf_20 : decode cX17_overOf 20 = .ok (.i2l, 1) := dk_133 (dk_at dksX17_overOf_0 20 rfl rfl)
theorem dX17_overOf_21 : decode cX17_overOf 21 = .ok (.lconst 1, 1) := dk_10 (dk_at dksX17_overOf_0 21 rfl rfl)
theorem dX17_overOf_22 : decode cX17_overOf 22 = .ok (.ldc2_w 134, 3) := dk_20 0 134 (dk_at dksX17_overOf_1 0 rfl rfl)
theorem dX17_overOf_25 : decode cX17_overOf 25 = .ok (.invokestatic 124, 3) := dk_184 0 124 (dk_at dksX17_overOf_1 3 rfl rfl)
theorem dX17_overOf_28 : decode cX17_overOf 28 = .ok (.ifCond .eq 18, 3) := dk_153 0 18 (dk_at dksX17_overOf_1 6 rfl rfl)
theorem dX17_overOf_31 : decode cX17_overOf 31 = .ok (.iload_n 0, 1) := dk_26 (dk_at dksX17_overOf_1 9 rfl rfl)
theorem dX17_overOf_32 : decode cX17_overOf 32 = .ok (.iload_n 2, 1) := dk_28 (dk_at dksX17_overOf_1 10 rfl rfl)
theorem dX17_overOf_33 : decode cX17_overOf 33 = .ok (.imul, 1) := dk_104 (dk_at dksX17_overOf_1 11 rfl rfl)
theorem dX17_overOf_34 : decode cX17_overOf 34 = .ok (.bipush 23, 2) := dk_16 23 (dk_at dksX17_overOf_1 12 rfl rfl)
theorem dX17_overOf_36 : decode cX17_overOf 36 = .ok (.irem, 1) := dk_112 (dk_at dksX17_overOf_1 14 rfl rfl)
theorem dX17_overOf_37 : decode cX17_overOf 37 = .ok (.bipush 22, 2) := dk_16 22 (dk_at dksX17_overOf_1 15 rfl rfl)
theorem dX17_overOf_39 : decode cX17_overOf 39 = .ok (.if_icmp .ne 7, 3) := dk_160 0 7 (dk_at dksX17_overOf_1 17 rfl rfl)
theorem dX17_overOf_42 : decode cX17_overOf 42 = .ok (.iload_n 2, 1) := dk_28 (dk_at dksX17_overOf_1 20 rfl rfl)
theorem dX17_overOf_43 : decode cX17_overOf 43 = .ok (.goto 4, 3) := dk_167 0 4 (dk_at dksX17_overOf_1 21 rfl rfl)
theorem dX17_overOf_46 : decode cX17_overOf 46 = .ok (.iload_n 1, 1) := dk_27 (dk_at dksX17_overOf_2 0 rfl rfl)
theorem dX17_overOf_47 : decode cX17_overOf 47 = .ok (.istore_n 1, 1) := dk_60 (dk_at dksX17_overOf_2 1 rfl rfl)
theorem dX17_overOf_48 : decode cX17_overOf 48 = .ok (.iinc 2 1, 3) := dk_132 2 1 (dk_at dksX17_overOf_2 2 rfl rfl)
theorem dX17_overOf_51 : decode cX17_overOf 51 = .ok (.goto (-38), 3) := dk_167 255 218 (dk_at dksX17_overOf_2 5 rfl rfl)
theorem dX17_overOf_54 : decode cX17_overOf 54 = .ok (.iload_n 1, 1) := dk_27 (dk_at dksX17_overOf_2 8 rfl rfl)
theorem dX17_overOf_55 : decode cX17_overOf 55 = .ok (.ireturn, 1) := dk_172 (dk_at dksX17_overOf_2 9 rfl rfl)
abbrev cX17_in : ByteArray := prog_24_method_2_code
def yX17_in : MethodName := ⟨RX17, "in", "(JJJ)Z"⟩
def dkwX17_in_0 : List UInt8 := [30, 32, 148, 155, 0, 14, 30, 22, 4, 148, 157, 0, 7, 4, 167, 0, 4, 3, 172]
abbrev dktX17_in_0 : List UInt8 := dkwX17_in_0 ++ []
theorem dksX17_in_0 : cX17_in.data.toList.drop 0 = dktX17_in_0 := by decide +kernel
theorem dX17_in_0 : decode cX17_in 0 = .ok (.lload_n 0, 1) := dk_30 (dk_at dksX17_in_0 0 rfl rfl)
theorem dX17_in_1 : decode cX17_in 1 = .ok (.lload_n 2, 1) := dk_32 (dk_at dksX17_in_0 1 rfl rfl)
theorem dX17_in_2 : decode cX17_in 2 = .ok (.lcmp, 1) := dk_148 (dk_at dksX17_in_0 2 rfl rfl)
theorem dX17_in_3 : decode cX17_in 3 = .ok (.ifCond .lt 14, 3) := dk_155 0 14 (dk_at dksX17_in_0 3 rfl rfl)
theorem dX17_in_6 : decode cX17_in 6 = .ok (.lload_n 0, 1) := dk_30 (dk_at dksX17_in_0 6 rfl rfl)
theorem dX17_in_7 : decode cX17_in 7 = .ok (.lload 4, 2) := dk_22 4 (dk_at dksX17_in_0 7 rfl rfl)
theorem dX17_in_9 : decode cX17_in 9 = .ok (.lcmp, 1) := dk_148 (dk_at dksX17_in_0 9 rfl rfl)
theorem dX17_in_10 : decode cX17_in 10 = .ok (.ifCond .gt 7, 3) := dk_157 0 7 (dk_at dksX17_in_0 10 rfl rfl)
theorem dX17_in_13 : decode cX17_in 13 = .ok (.iconst 1, 1) := dk_4 (dk_at dksX17_in_0 13 rfl rfl)
theorem dX17_in_14 : decode cX17_in 14 = .ok (.goto 4, 3) := dk_167 0 4 (dk_at dksX17_in_0 14 rfl rfl)
theorem dX17_in_17 : decode cX17_in 17 = .ok (.iconst 0, 1) := dk_3 (dk_at dksX17_in_0 17 rfl rfl)
theorem dX17_in_18 : decode cX17_in 18 = .ok (.ireturn, 1) := dk_172 (dk_at dksX17_in_0 18 rfl rfl)
abbrev cX17_has : ByteArray := prog_24_method_4_code
def yX17_has : MethodName := ⟨RX17, "has", "(II)Z"⟩
def dkwX17_has_0 : List UInt8 := [26, 27, 122, 4, 126, 4, 160, 0, 7, 4, 167, 0, 4, 3, 172]
abbrev dktX17_has_0 : List UInt8 := dkwX17_has_0 ++ []
theorem dksX17_has_0 : cX17_has.data.toList.drop 0 = dktX17_has_0 := by decide +kernel
theorem dX17_has_0 : decode cX17_has 0 = .ok (.iload_n 0, 1) := dk_26 (dk_at dksX17_has_0 0 rfl rfl)
theorem dX17_has_1 : decode cX17_has 1 = .ok (.iload_n 1, 1) := dk_27 (dk_at dksX17_has_0 1 rfl rfl)
theorem dX17_has_2 : decode cX17_has 2 = .ok (.ishr, 1) := dk_122 (dk_at dksX17_has_0 2 rfl rfl)
theorem dX17_has_3 : decode cX17_has 3 = .ok (.iconst 1, 1) := dk_4 (dk_at dksX17_has_0 3 rfl rfl)
theorem dX17_has_4 : decode cX17_has 4 = .ok (.iand, 1) := dk_126 (dk_at dksX17_has_0 4 rfl rfl)
theorem dX17_has_5 : decode cX17_has 5 = .ok (.iconst 1, 1) := dk_4 (dk_at dksX17_has_0 5 rfl rfl)
theorem dX17_has_6 : decode cX17_has 6 = .ok (.if_icmp .ne 7, 3) := dk_160 0 7 (dk_at dksX17_has_0 6 rfl rfl)
theorem dX17_has_9 : decode cX17_has 9 = .ok (.iconst 1, 1) := dk_4 (dk_at dksX17_has_0 9 rfl rfl)
theorem dX17_has_10 : decode cX17_has 10 = .ok (.goto 4, 3) := dk_167 0 4 (dk_at dksX17_has_0 10 rfl rfl)
theorem dX17_has_13 : decode cX17_has 13 = .ok (.iconst 0, 1) := dk_3 (dk_at dksX17_has_0 13 rfl rfl)
theorem dX17_has_14 : decode cX17_has 14 = .ok (.ireturn, 1) := dk_172 (dk_at dksX17_has_0 14 rfl rfl)
abbrev cX17_basic : ByteArray := prog_24_method_11_code
def yX17_basic : MethodName := ⟨RX17, "basic", "(I)I"⟩
def dkwX17_basic_1 : List UInt8 := [100, 16, 23, 96, 16, 23, 112, 120, 167, 0, 4, 3, 128, 60, 132, 2, 1, 167, 255, 220, 27, 172]
abbrev dktX17_basic_1 : List UInt8 := dkwX17_basic_1 ++ []
def dkwX17_basic_0 : List UInt8 := [18, 136, 60, 3, 61, 28, 16, 23, 162, 0, 36, 27, 18, 137, 28, 184, 0, 118, 153, 0, 17, 4, 28, 26]
abbrev dktX17_basic_0 : List UInt8 := dkwX17_basic_0 ++ dktX17_basic_1
theorem dksX17_basic_0 : cX17_basic.data.toList.drop 0 = dktX17_basic_0 := by decide +kernel
theorem dksX17_basic_1 : cX17_basic.data.toList.drop 24 = dktX17_basic_1 := dk_seg dksX17_basic_0 24 rfl rfl
theorem dX17_basic_0 : decode cX17_basic 0 = .ok (.ldc 136, 2) := dk_18 136 (dk_at dksX17_basic_0 0 rfl rfl)
theorem dX17_basic_2 : decode cX17_basic 2 = .ok (.istore_n 1, 1) := dk_60 (dk_at dksX17_basic_0 2 rfl rfl)
theorem dX17_basic_3 : decode cX17_basic 3 = .ok (.iconst 0, 1) := dk_3 (dk_at dksX17_basic_0 3 rfl rfl)
theorem dX17_basic_4 : decode cX17_basic 4 = .ok (.istore_n 2, 1) := dk_61 (dk_at dksX17_basic_0 4 rfl rfl)
theorem dX17_basic_5 : decode cX17_basic 5 = .ok (.iload_n 2, 1) := dk_28 (dk_at dksX17_basic_0 5 rfl rfl)
theorem dX17_basic_6 : decode cX17_basic 6 = .ok (.bipush 23, 2) := dk_16 23 (dk_at dksX17_basic_0 6 rfl rfl)
theorem dX17_basic_8 : decode cX17_basic 8 = .ok (.if_icmp .ge 36, 3) := dk_162 0 36 (dk_at dksX17_basic_0 8 rfl rfl)
theorem dX17_basic_11 : decode cX17_basic 11 = .ok (.iload_n 1, 1) := dk_27 (dk_at dksX17_basic_0 11 rfl rfl)
theorem dX17_basic_12 : decode cX17_basic 12 = .ok (.ldc 137, 2) := dk_18 137 (dk_at dksX17_basic_0 12 rfl rfl)
theorem dX17_basic_14 : decode cX17_basic 14 = .ok (.iload_n 2, 1) := dk_28 (dk_at dksX17_basic_0 14 rfl rfl)
theorem dX17_basic_15 : decode cX17_basic 15 = .ok (.invokestatic 118, 3) := dk_184 0 118 (dk_at dksX17_basic_0 15 rfl rfl)
theorem dX17_basic_18 : decode cX17_basic 18 = .ok (.ifCond .eq 17, 3) := dk_153 0 17 (dk_at dksX17_basic_0 18 rfl rfl)
theorem dX17_basic_21 : decode cX17_basic 21 = .ok (.iconst 1, 1) := dk_4 (dk_at dksX17_basic_0 21 rfl rfl)
theorem dX17_basic_22 : decode cX17_basic 22 = .ok (.iload_n 2, 1) := dk_28 (dk_at dksX17_basic_0 22 rfl rfl)
theorem dX17_basic_23 : decode cX17_basic 23 = .ok (.iload_n 0, 1) := dk_26 (dk_at dksX17_basic_0 23 rfl rfl)
theorem dX17_basic_24 : decode cX17_basic 24 = .ok (.isub, 1) := dk_100 (dk_at dksX17_basic_1 0 rfl rfl)
theorem dX17_basic_25 : decode cX17_basic 25 = .ok (.bipush 23, 2) := dk_16 23 (dk_at dksX17_basic_1 1 rfl rfl)
theorem dX17_basic_27 : decode cX17_basic 27 = .ok (.iadd, 1) := dk_96 (dk_at dksX17_basic_1 3 rfl rfl)
theorem dX17_basic_28 : decode cX17_basic 28 = .ok (.bipush 23, 2) := dk_16 23 (dk_at dksX17_basic_1 4 rfl rfl)
theorem dX17_basic_30 : decode cX17_basic 30 = .ok (.irem, 1) := dk_112 (dk_at dksX17_basic_1 6 rfl rfl)
theorem dX17_basic_31 : decode cX17_basic 31 = .ok (.ishl, 1) := dk_120 (dk_at dksX17_basic_1 7 rfl rfl)
theorem dX17_basic_32 : decode cX17_basic 32 = .ok (.goto 4, 3) := dk_167 0 4 (dk_at dksX17_basic_1 8 rfl rfl)
theorem dX17_basic_35 : decode cX17_basic 35 = .ok (.iconst 0, 1) := dk_3 (dk_at dksX17_basic_1 11 rfl rfl)
theorem dX17_basic_36 : decode cX17_basic 36 = .ok (.ior, 1) := dk_128 (dk_at dksX17_basic_1 12 rfl rfl)
theorem dX17_basic_37 : decode cX17_basic 37 = .ok (.istore_n 1, 1) := dk_60 (dk_at dksX17_basic_1 13 rfl rfl)
theorem dX17_basic_38 : decode cX17_basic 38 = .ok (.iinc 2 1, 3) := dk_132 2 1 (dk_at dksX17_basic_1 14 rfl rfl)
theorem dX17_basic_41 : decode cX17_basic 41 = .ok (.goto (-36), 3) := dk_167 255 220 (dk_at dksX17_basic_1 17 rfl rfl)
theorem dX17_basic_44 : decode cX17_basic 44 = .ok (.iload_n 1, 1) := dk_27 (dk_at dksX17_basic_1 20 rfl rfl)
theorem dX17_basic_45 : decode cX17_basic 45 = .ok (.ireturn, 1) := dk_172 (dk_at dksX17_basic_1 21 rfl rfl)
abbrev cX17_comes : ByteArray := prog_24_method_13_code
def yX17_comes : MethodName := ⟨RX17, "comes", "(II)V"⟩
def dkwX17_comes_8 : List UInt8 := [79, 42, 180, 0, 16, 21, 6, 21, 4, 79, 42, 89, 180, 0, 138, 4, 96, 181, 0, 138, 177]
abbrev dktX17_comes_8 : List UInt8 := dkwX17_comes_8 ++ []
def dkwX17_comes_7 : List UInt8 := [180, 0, 16, 21, 7, 46, 79, 21, 7, 54, 6, 132, 7, 255, 167, 255, 159, 42, 180, 0, 13, 21, 6, 29]
abbrev dktX17_comes_7 : List UInt8 := dkwX17_comes_7 ++ dktX17_comes_8
def dkwX17_comes_6 : List UInt8 := [180, 0, 13, 21, 7, 4, 96, 42, 180, 0, 13, 21, 7, 46, 79, 42, 180, 0, 16, 21, 7, 4, 96, 42]
abbrev dktX17_comes_6 : List UInt8 := dkwX17_comes_6 ++ dktX17_comes_7
def dkwX17_comes_5 : List UInt8 := [21, 7, 92, 46, 21, 4, 130, 79, 42, 180, 0, 13, 21, 7, 46, 184, 0, 141, 21, 5, 164, 0, 39, 42]
abbrev dktX17_comes_5 : List UInt8 := dkwX17_comes_5 ++ dktX17_comes_6
def dkwX17_comes_4 : List UInt8 := [46, 21, 5, 184, 0, 118, 153, 0, 26, 42, 180, 0, 13, 21, 7, 92, 46, 29, 130, 79, 42, 180, 0, 16]
abbrev dktX17_comes_4 : List UInt8 := dkwX17_comes_4 ++ dktX17_comes_5
def dkwX17_comes_3 : List UInt8 := [180, 0, 138, 54, 6, 42, 180, 0, 138, 4, 100, 54, 7, 21, 7, 155, 0, 98, 42, 180, 0, 13, 21, 7]
abbrev dktX17_comes_3 : List UInt8 := dkwX17_comes_3 ++ dktX17_comes_4
def dkwX17_comes_2 : List UInt8 := [180, 0, 16, 21, 5, 46, 130, 54, 4, 132, 5, 1, 167, 255, 205, 29, 184, 0, 141, 54, 5, 42]
abbrev dktX17_comes_2 : List UInt8 := dkwX17_comes_2 ++ dktX17_comes_3
def dkwX17_comes_1 : List UInt8 := [46, 184, 0, 141, 184, 0, 118, 153, 0, 25, 29, 42, 180, 0, 13, 21, 5, 46, 130, 62, 21, 4, 42]
abbrev dktX17_comes_1 : List UInt8 := dkwX17_comes_1 ++ dktX17_comes_2
def dkwX17_comes_0 : List UInt8 := [27, 62, 28, 54, 4, 3, 54, 5, 21, 5, 42, 180, 0, 138, 162, 0, 48, 29, 42, 180, 0, 13, 21, 5]
abbrev dktX17_comes_0 : List UInt8 := dkwX17_comes_0 ++ dktX17_comes_1
theorem dksX17_comes_0 : cX17_comes.data.toList.drop 0 = dktX17_comes_0 := by decide +kernel
theorem dksX17_comes_1 : cX17_comes.data.toList.drop 24 = dktX17_comes_1 := dk_seg dksX17_comes_0 24 rfl rfl
theorem dksX17_comes_2 : cX17_comes.data.toList.drop 47 = dktX17_comes_2 := dk_seg dksX17_comes_1 23 rfl rfl
theorem dksX17_comes_3 : cX17_comes.data.toList.drop 69 = dktX17_comes_3 := dk_seg dksX17_comes_2 22 rfl rfl
theorem dksX17_comes_4 : cX17_comes.data.toList.drop 93 = dktX17_comes_4 := dk_seg dksX17_comes_3 24 rfl rfl
theorem dksX17_comes_5 : cX17_comes.data.toList.drop 117 = dktX17_comes_5 := dk_seg dksX17_comes_4 24 rfl rfl
theorem dksX17_comes_6 : cX17_comes.data.toList.drop 141 = dktX17_comes_6 := dk_seg dksX17_comes_5 24 rfl rfl
theorem dksX17_comes_7 : cX17_comes.data.toList.drop 165 = dktX17_comes_7 := dk_seg dksX17_comes_6 24 rfl rfl
theorem dksX17_comes_8 : cX17_comes.data.toList.drop 189 = dktX17_comes_8 := dk_seg dksX17_comes_7 24 rfl rfl
theorem dX17_comes_0 : decode cX17_comes 0 = .ok (.iload_n 1, 1) := dk_27 (dk_at dksX17_comes_0 0 rfl rfl)
theorem dX17_comes_1 : decode cX17_comes 1 = .ok (.istore_n 3, 1) := dk_62 (dk_at dksX17_comes_0 1 rfl rfl)
theorem dX17_comes_2 : decode cX17_comes 2 = .ok (.iload_n 2, 1) := dk_28 (dk_at dksX17_comes_0 2 rfl rfl)
theorem dX17_comes_3 : decode cX17_comes 3 = .ok (.istore 4, 2) := dk_54 4 (dk_at dksX17_comes_0 3 rfl rfl)
theorem dX17_comes_5 : decode cX17_comes 5 = .ok (.iconst 0, 1) := dk_3 (dk_at dksX17_comes_0 5 rfl rfl)
theorem dX17_comes_6 : decode cX17_comes 6 = .ok (.istore 5, 2) := dk_54 5 (dk_at dksX17_comes_0 6 rfl rfl)
theorem dX17_comes_8 : decode cX17_comes 8 = .ok (.iload 5, 2) := dk_21 5 (dk_at dksX17_comes_0 8 rfl rfl)
theorem dX17_comes_10 : decode cX17_comes 10 = .ok (.aload_n 0, 1) := dk_42 (dk_at dksX17_comes_0 10 rfl rfl)
theorem dX17_comes_11 : decode cX17_comes 11 = .ok (.getfield 138, 3) := dk_180 0 138 (dk_at dksX17_comes_0 11 rfl rfl)
theorem dX17_comes_14 : decode cX17_comes 14 = .ok (.if_icmp .ge 48, 3) := dk_162 0 48 (dk_at dksX17_comes_0 14 rfl rfl)
theorem dX17_comes_17 : decode cX17_comes 17 = .ok (.iload_n 3, 1) := dk_29 (dk_at dksX17_comes_0 17 rfl rfl)
theorem dX17_comes_18 : decode cX17_comes 18 = .ok (.aload_n 0, 1) := dk_42 (dk_at dksX17_comes_0 18 rfl rfl)
theorem dX17_comes_19 : decode cX17_comes 19 = .ok (.getfield 13, 3) := dk_180 0 13 (dk_at dksX17_comes_0 19 rfl rfl)
theorem dX17_comes_22 : decode cX17_comes 22 = .ok (.iload 5, 2) := dk_21 5 (dk_at dksX17_comes_0 22 rfl rfl)
theorem dX17_comes_24 : decode cX17_comes 24 = .ok (.iaload, 1) := dk_46 (dk_at dksX17_comes_1 0 rfl rfl)
theorem dX17_comes_25 : decode cX17_comes 25 = .ok (.invokestatic 141, 3) := dk_184 0 141 (dk_at dksX17_comes_1 1 rfl rfl)
theorem dX17_comes_28 : decode cX17_comes 28 = .ok (.invokestatic 118, 3) := dk_184 0 118 (dk_at dksX17_comes_1 4 rfl rfl)
theorem dX17_comes_31 : decode cX17_comes 31 = .ok (.ifCond .eq 25, 3) := dk_153 0 25 (dk_at dksX17_comes_1 7 rfl rfl)
theorem dX17_comes_34 : decode cX17_comes 34 = .ok (.iload_n 3, 1) := dk_29 (dk_at dksX17_comes_1 10 rfl rfl)
theorem dX17_comes_35 : decode cX17_comes 35 = .ok (.aload_n 0, 1) := dk_42 (dk_at dksX17_comes_1 11 rfl rfl)
theorem dX17_comes_36 : decode cX17_comes 36 = .ok (.getfield 13, 3) := dk_180 0 13 (dk_at dksX17_comes_1 12 rfl rfl)
theorem dX17_comes_39 : decode cX17_comes 39 = .ok (.iload 5, 2) := dk_21 5 (dk_at dksX17_comes_1 15 rfl rfl)
theorem dX17_comes_41 : decode cX17_comes 41 = .ok (.iaload, 1) := dk_46 (dk_at dksX17_comes_1 17 rfl rfl)
theorem dX17_comes_42 : decode cX17_comes 42 = .ok (.ixor, 1) := dk_130 (dk_at dksX17_comes_1 18 rfl rfl)
theorem dX17_comes_43 : decode cX17_comes 43 = .ok (.istore_n 3, 1) := dk_62 (dk_at dksX17_comes_1 19 rfl rfl)
theorem dX17_comes_44 : decode cX17_comes 44 = .ok (.iload 4, 2) := dk_21 4 (dk_at dksX17_comes_1 20 rfl rfl)
theorem dX17_comes_46 : decode cX17_comes 46 = .ok (.aload_n 0, 1) := dk_42 (dk_at dksX17_comes_1 22 rfl rfl)
theorem dX17_comes_47 : decode cX17_comes 47 = .ok (.getfield 16, 3) := dk_180 0 16 (dk_at dksX17_comes_2 0 rfl rfl)
theorem dX17_comes_50 : decode cX17_comes 50 = .ok (.iload 5, 2) := dk_21 5 (dk_at dksX17_comes_2 3 rfl rfl)
theorem dX17_comes_52 : decode cX17_comes 52 = .ok (.iaload, 1) := dk_46 (dk_at dksX17_comes_2 5 rfl rfl)
theorem dX17_comes_53 : decode cX17_comes 53 = .ok (.ixor, 1) := dk_130 (dk_at dksX17_comes_2 6 rfl rfl)
theorem dX17_comes_54 : decode cX17_comes 54 = .ok (.istore 4, 2) := dk_54 4 (dk_at dksX17_comes_2 7 rfl rfl)
theorem dX17_comes_56 : decode cX17_comes 56 = .ok (.iinc 5 1, 3) := dk_132 5 1 (dk_at dksX17_comes_2 9 rfl rfl)
theorem dX17_comes_59 : decode cX17_comes 59 = .ok (.goto (-51), 3) := dk_167 255 205 (dk_at dksX17_comes_2 12 rfl rfl)
theorem dX17_comes_62 : decode cX17_comes 62 = .ok (.iload_n 3, 1) := dk_29 (dk_at dksX17_comes_2 15 rfl rfl)
theorem dX17_comes_63 : decode cX17_comes 63 = .ok (.invokestatic 141, 3) := dk_184 0 141 (dk_at dksX17_comes_2 16 rfl rfl)
theorem dX17_comes_66 : decode cX17_comes 66 = .ok (.istore 5, 2) := dk_54 5 (dk_at dksX17_comes_2 19 rfl rfl)
theorem dX17_comes_68 : decode cX17_comes 68 = .ok (.aload_n 0, 1) := dk_42 (dk_at dksX17_comes_2 21 rfl rfl)
theorem dX17_comes_69 : decode cX17_comes 69 = .ok (.getfield 138, 3) := dk_180 0 138 (dk_at dksX17_comes_3 0 rfl rfl)
theorem dX17_comes_72 : decode cX17_comes 72 = .ok (.istore 6, 2) := dk_54 6 (dk_at dksX17_comes_3 3 rfl rfl)
theorem dX17_comes_74 : decode cX17_comes 74 = .ok (.aload_n 0, 1) := dk_42 (dk_at dksX17_comes_3 5 rfl rfl)
theorem dX17_comes_75 : decode cX17_comes 75 = .ok (.getfield 138, 3) := dk_180 0 138 (dk_at dksX17_comes_3 6 rfl rfl)
theorem dX17_comes_78 : decode cX17_comes 78 = .ok (.iconst 1, 1) := dk_4 (dk_at dksX17_comes_3 9 rfl rfl)
theorem dX17_comes_79 : decode cX17_comes 79 = .ok (.isub, 1) := dk_100 (dk_at dksX17_comes_3 10 rfl rfl)
theorem dX17_comes_80 : decode cX17_comes 80 = .ok (.istore 7, 2) := dk_54 7 (dk_at dksX17_comes_3 11 rfl rfl)
theorem dX17_comes_82 : decode cX17_comes 82 = .ok (.iload 7, 2) := dk_21 7 (dk_at dksX17_comes_3 13 rfl rfl)
theorem dX17_comes_84 : decode cX17_comes 84 = .ok (.ifCond .lt 98, 3) := dk_155 0 98 (dk_at dksX17_comes_3 15 rfl rfl)
theorem dX17_comes_87 : decode cX17_comes 87 = .ok (.aload_n 0, 1) := dk_42 (dk_at dksX17_comes_3 18 rfl rfl)
theorem dX17_comes_88 : decode cX17_comes 88 = .ok (.getfield 13, 3) := dk_180 0 13 (dk_at dksX17_comes_3 19 rfl rfl)
theorem dX17_comes_91 : decode cX17_comes 91 = .ok (.iload 7, 2) := dk_21 7 (dk_at dksX17_comes_3 22 rfl rfl)
theorem dX17_comes_93 : decode cX17_comes 93 = .ok (.iaload, 1) := dk_46 (dk_at dksX17_comes_4 0 rfl rfl)
theorem dX17_comes_94 : decode cX17_comes 94 = .ok (.iload 5, 2) := dk_21 5 (dk_at dksX17_comes_4 1 rfl rfl)
theorem dX17_comes_96 : decode cX17_comes 96 = .ok (.invokestatic 118, 3) := dk_184 0 118 (dk_at dksX17_comes_4 3 rfl rfl)
theorem dX17_comes_99 : decode cX17_comes 99 = .ok (.ifCond .eq 26, 3) := dk_153 0 26 (dk_at dksX17_comes_4 6 rfl rfl)
theorem dX17_comes_102 : decode cX17_comes 102 = .ok (.aload_n 0, 1) := dk_42 (dk_at dksX17_comes_4 9 rfl rfl)
theorem dX17_comes_103 : decode cX17_comes 103 = .ok (.getfield 13, 3) := dk_180 0 13 (dk_at dksX17_comes_4 10 rfl rfl)
theorem dX17_comes_106 : decode cX17_comes 106 = .ok (.iload 7, 2) := dk_21 7 (dk_at dksX17_comes_4 13 rfl rfl)
theorem dX17_comes_108 : decode cX17_comes 108 = .ok (.dup2, 1) := dk_92 (dk_at dksX17_comes_4 15 rfl rfl)
theorem dX17_comes_109 : decode cX17_comes 109 = .ok (.iaload, 1) := dk_46 (dk_at dksX17_comes_4 16 rfl rfl)
theorem dX17_comes_110 : decode cX17_comes 110 = .ok (.iload_n 3, 1) := dk_29 (dk_at dksX17_comes_4 17 rfl rfl)
theorem dX17_comes_111 : decode cX17_comes 111 = .ok (.ixor, 1) := dk_130 (dk_at dksX17_comes_4 18 rfl rfl)
theorem dX17_comes_112 : decode cX17_comes 112 = .ok (.iastore, 1) := dk_79 (dk_at dksX17_comes_4 19 rfl rfl)
theorem dX17_comes_113 : decode cX17_comes 113 = .ok (.aload_n 0, 1) := dk_42 (dk_at dksX17_comes_4 20 rfl rfl)
theorem dX17_comes_114 : decode cX17_comes 114 = .ok (.getfield 16, 3) := dk_180 0 16 (dk_at dksX17_comes_4 21 rfl rfl)
theorem dX17_comes_117 : decode cX17_comes 117 = .ok (.iload 7, 2) := dk_21 7 (dk_at dksX17_comes_5 0 rfl rfl)
theorem dX17_comes_119 : decode cX17_comes 119 = .ok (.dup2, 1) := dk_92 (dk_at dksX17_comes_5 2 rfl rfl)
theorem dX17_comes_120 : decode cX17_comes 120 = .ok (.iaload, 1) := dk_46 (dk_at dksX17_comes_5 3 rfl rfl)
theorem dX17_comes_121 : decode cX17_comes 121 = .ok (.iload 4, 2) := dk_21 4 (dk_at dksX17_comes_5 4 rfl rfl)
theorem dX17_comes_123 : decode cX17_comes 123 = .ok (.ixor, 1) := dk_130 (dk_at dksX17_comes_5 6 rfl rfl)
theorem dX17_comes_124 : decode cX17_comes 124 = .ok (.iastore, 1) := dk_79 (dk_at dksX17_comes_5 7 rfl rfl)
theorem dX17_comes_125 : decode cX17_comes 125 = .ok (.aload_n 0, 1) := dk_42 (dk_at dksX17_comes_5 8 rfl rfl)
theorem dX17_comes_126 : decode cX17_comes 126 = .ok (.getfield 13, 3) := dk_180 0 13 (dk_at dksX17_comes_5 9 rfl rfl)
theorem dX17_comes_129 : decode cX17_comes 129 = .ok (.iload 7, 2) := dk_21 7 (dk_at dksX17_comes_5 12 rfl rfl)
theorem dX17_comes_131 : decode cX17_comes 131 = .ok (.iaload, 1) := dk_46 (dk_at dksX17_comes_5 14 rfl rfl)
theorem dX17_comes_132 : decode cX17_comes 132 = .ok (.invokestatic 141, 3) := dk_184 0 141 (dk_at dksX17_comes_5 15 rfl rfl)
theorem dX17_comes_135 : decode cX17_comes 135 = .ok (.iload 5, 2) := dk_21 5 (dk_at dksX17_comes_5 18 rfl rfl)
theorem dX17_comes_137 : decode cX17_comes 137 = .ok (.if_icmp .le 39, 3) := dk_164 0 39 (dk_at dksX17_comes_5 20 rfl rfl)
theorem dX17_comes_140 : decode cX17_comes 140 = .ok (.aload_n 0, 1) := dk_42 (dk_at dksX17_comes_5 23 rfl rfl)
theorem dX17_comes_141 : decode cX17_comes 141 = .ok (.getfield 13, 3) := dk_180 0 13 (dk_at dksX17_comes_6 0 rfl rfl)
theorem dX17_comes_144 : decode cX17_comes 144 = .ok (.iload 7, 2) := dk_21 7 (dk_at dksX17_comes_6 3 rfl rfl)
theorem dX17_comes_146 : decode cX17_comes 146 = .ok (.iconst 1, 1) := dk_4 (dk_at dksX17_comes_6 5 rfl rfl)
theorem dX17_comes_147 : decode cX17_comes 147 = .ok (.iadd, 1) := dk_96 (dk_at dksX17_comes_6 6 rfl rfl)
theorem dX17_comes_148 : decode cX17_comes 148 = .ok (.aload_n 0, 1) := dk_42 (dk_at dksX17_comes_6 7 rfl rfl)
theorem dX17_comes_149 : decode cX17_comes 149 = .ok (.getfield 13, 3) := dk_180 0 13 (dk_at dksX17_comes_6 8 rfl rfl)
theorem dX17_comes_152 : decode cX17_comes 152 = .ok (.iload 7, 2) := dk_21 7 (dk_at dksX17_comes_6 11 rfl rfl)
theorem dX17_comes_154 : decode cX17_comes 154 = .ok (.iaload, 1) := dk_46 (dk_at dksX17_comes_6 13 rfl rfl)
theorem dX17_comes_155 : decode cX17_comes 155 = .ok (.iastore, 1) := dk_79 (dk_at dksX17_comes_6 14 rfl rfl)
theorem dX17_comes_156 : decode cX17_comes 156 = .ok (.aload_n 0, 1) := dk_42 (dk_at dksX17_comes_6 15 rfl rfl)
theorem dX17_comes_157 : decode cX17_comes 157 = .ok (.getfield 16, 3) := dk_180 0 16 (dk_at dksX17_comes_6 16 rfl rfl)
theorem dX17_comes_160 : decode cX17_comes 160 = .ok (.iload 7, 2) := dk_21 7 (dk_at dksX17_comes_6 19 rfl rfl)
theorem dX17_comes_162 : decode cX17_comes 162 = .ok (.iconst 1, 1) := dk_4 (dk_at dksX17_comes_6 21 rfl rfl)
theorem dX17_comes_163 : decode cX17_comes 163 = .ok (.iadd, 1) := dk_96 (dk_at dksX17_comes_6 22 rfl rfl)
theorem dX17_comes_164 : decode cX17_comes 164 = .ok (.aload_n 0, 1) := dk_42 (dk_at dksX17_comes_6 23 rfl rfl)
theorem dX17_comes_165 : decode cX17_comes 165 = .ok (.getfield 16, 3) := dk_180 0 16 (dk_at dksX17_comes_7 0 rfl rfl)
theorem dX17_comes_168 : decode cX17_comes 168 = .ok (.iload 7, 2) := dk_21 7 (dk_at dksX17_comes_7 3 rfl rfl)
theorem dX17_comes_170 : decode cX17_comes 170 = .ok (.iaload, 1) := dk_46 (dk_at dksX17_comes_7 5 rfl rfl)
theorem dX17_comes_171 : decode cX17_comes 171 = .ok (.iastore, 1) := dk_79 (dk_at dksX17_comes_7 6 rfl rfl)
theorem dX17_comes_172 : decode cX17_comes 172 = .ok (.iload 7, 2) := dk_21 7 (dk_at dksX17_comes_7 7 rfl rfl)
theorem dX17_comes_174 : decode cX17_comes 174 = .ok (.istore 6, 2) := dk_54 6 (dk_at dksX17_comes_7 9 rfl rfl)
theorem dX17_comes_176 : decode cX17_comes 176 = .ok (.iinc 7 (-1), 3) := dk_132 7 255 (dk_at dksX17_comes_7 11 rfl rfl)
theorem dX17_comes_179 : decode cX17_comes 179 = .ok (.goto (-97), 3) := dk_167 255 159 (dk_at dksX17_comes_7 14 rfl rfl)
theorem dX17_comes_182 : decode cX17_comes 182 = .ok (.aload_n 0, 1) := dk_42 (dk_at dksX17_comes_7 17 rfl rfl)
theorem dX17_comes_183 : decode cX17_comes 183 = .ok (.getfield 13, 3) := dk_180 0 13 (dk_at dksX17_comes_7 18 rfl rfl)
theorem dX17_comes_186 : decode cX17_comes 186 = .ok (.iload 6, 2) := dk_21 6 (dk_at dksX17_comes_7 21 rfl rfl)
theorem dX17_comes_188 : decode cX17_comes 188 = .ok (.iload_n 3, 1) := dk_29 (dk_at dksX17_comes_7 23 rfl rfl)
theorem dX17_comes_189 : decode cX17_comes 189 = .ok (.iastore, 1) := dk_79 (dk_at dksX17_comes_8 0 rfl rfl)
theorem dX17_comes_190 : decode cX17_comes 190 = .ok (.aload_n 0, 1) := dk_42 (dk_at dksX17_comes_8 1 rfl rfl)
theorem dX17_comes_191 : decode cX17_comes 191 = .ok (.getfield 16, 3) := dk_180 0 16 (dk_at dksX17_comes_8 2 rfl rfl)
theorem dX17_comes_194 : decode cX17_comes 194 = .ok (.iload 6, 2) := dk_21 6 (dk_at dksX17_comes_8 5 rfl rfl)
theorem dX17_comes_196 : decode cX17_comes 196 = .ok (.iload 4, 2) := dk_21 4 (dk_at dksX17_comes_8 7 rfl rfl)
theorem dX17_comes_198 : decode cX17_comes 198 = .ok (.iastore, 1) := dk_79 (dk_at dksX17_comes_8 9 rfl rfl)
theorem dX17_comes_199 : decode cX17_comes 199 = .ok (.aload_n 0, 1) := dk_42 (dk_at dksX17_comes_8 10 rfl rfl)
theorem dX17_comes_200 : decode cX17_comes 200 = .ok (.dup, 1) := dk_89 (dk_at dksX17_comes_8 11 rfl rfl)
theorem dX17_comes_201 : decode cX17_comes 201 = .ok (.getfield 138, 3) := dk_180 0 138 (dk_at dksX17_comes_8 12 rfl rfl)
theorem dX17_comes_204 : decode cX17_comes 204 = .ok (.iconst 1, 1) := dk_4 (dk_at dksX17_comes_8 15 rfl rfl)
theorem dX17_comes_205 : decode cX17_comes 205 = .ok (.iadd, 1) := dk_96 (dk_at dksX17_comes_8 16 rfl rfl)
theorem dX17_comes_206 : decode cX17_comes 206 = .ok (.putfield 138, 3) := dk_181 0 138 (dk_at dksX17_comes_8 17 rfl rfl)
theorem dX17_comes_209 : decode cX17_comes 209 = .ok (.return_, 1) := dk_177 (dk_at dksX17_comes_8 20 rfl rfl)
abbrev cX17_highest : ByteArray := prog_24_method_12_code
def yX17_highest : MethodName := ⟨RX17, "highest", "(I)I"⟩
def dkwX17_highest_0 : List UInt8 := [16, 23, 60, 27, 158, 0, 17, 26, 27, 184, 0, 118, 154, 0, 9, 132, 1, 255, 167, 255, 241, 27, 172]
abbrev dktX17_highest_0 : List UInt8 := dkwX17_highest_0 ++ []
theorem dksX17_highest_0 : cX17_highest.data.toList.drop 0 = dktX17_highest_0 := by decide +kernel
theorem dX17_highest_0 : decode cX17_highest 0 = .ok (.bipush 23, 2) := dk_16 23 (dk_at dksX17_highest_0 0 rfl rfl)
theorem dX17_highest_2 : decode cX17_highest 2 = .ok (.istore_n 1, 1) := dk_60 (dk_at dksX17_highest_0 2 rfl rfl)
theorem dX17_highest_3 : decode cX17_highest 3 = .ok (.iload_n 1, 1) := dk_27 (dk_at dksX17_highest_0 3 rfl rfl)
theorem dX17_highest_4 : decode cX17_highest 4 = .ok (.ifCond .le 17, 3) := dk_158 0 17 (dk_at dksX17_highest_0 4 rfl rfl)
theorem dX17_highest_7 : decode cX17_highest 7 = .ok (.iload_n 0, 1) := dk_26 (dk_at dksX17_highest_0 7 rfl rfl)
theorem dX17_highest_8 : decode cX17_highest 8 = .ok (.iload_n 1, 1) := dk_27 (dk_at dksX17_highest_0 8 rfl rfl)
theorem dX17_highest_9 : decode cX17_highest 9 = .ok (.invokestatic 118, 3) := dk_184 0 118 (dk_at dksX17_highest_0 9 rfl rfl)
theorem dX17_highest_12 : decode cX17_highest 12 = .ok (.ifCond .ne 9, 3) := dk_154 0 9 (dk_at dksX17_highest_0 12 rfl rfl)
theorem dX17_highest_15 : decode cX17_highest 15 = .ok (.iinc 1 (-1), 3) := dk_132 1 255 (dk_at dksX17_highest_0 15 rfl rfl)
theorem dX17_highest_18 : decode cX17_highest 18 = .ok (.goto (-15), 3) := dk_167 255 241 (dk_at dksX17_highest_0 18 rfl rfl)
theorem dX17_highest_21 : decode cX17_highest 21 = .ok (.iload_n 1, 1) := dk_27 (dk_at dksX17_highest_0 21 rfl rfl)
theorem dX17_highest_22 : decode cX17_highest 22 = .ok (.ireturn, 1) := dk_172 (dk_at dksX17_highest_0 22 rfl rfl)
abbrev cX17_lowest : ByteArray := prog_24_method_6_code
def yX17_lowest : MethodName := ⟨RX17, "lowest", "(I)I"⟩
def dkwX17_lowest_0 : List UInt8 := [3, 60, 27, 16, 31, 162, 0, 17, 26, 27, 184, 0, 118, 154, 0, 9, 132, 1, 1, 167, 255, 239, 27, 172]
abbrev dktX17_lowest_0 : List UInt8 := dkwX17_lowest_0 ++ []
theorem dksX17_lowest_0 : cX17_lowest.data.toList.drop 0 = dktX17_lowest_0 := by decide +kernel
theorem dX17_lowest_0 : decode cX17_lowest 0 = .ok (.iconst 0, 1) := dk_3 (dk_at dksX17_lowest_0 0 rfl rfl)
theorem dX17_lowest_1 : decode cX17_lowest 1 = .ok (.istore_n 1, 1) := dk_60 (dk_at dksX17_lowest_0 1 rfl rfl)
theorem dX17_lowest_2 : decode cX17_lowest 2 = .ok (.iload_n 1, 1) := dk_27 (dk_at dksX17_lowest_0 2 rfl rfl)
theorem dX17_lowest_3 : decode cX17_lowest 3 = .ok (.bipush 31, 2) := dk_16 31 (dk_at dksX17_lowest_0 3 rfl rfl)
theorem dX17_lowest_5 : decode cX17_lowest 5 = .ok (.if_icmp .ge 17, 3) := dk_162 0 17 (dk_at dksX17_lowest_0 5 rfl rfl)
theorem dX17_lowest_8 : decode cX17_lowest 8 = .ok (.iload_n 0, 1) := dk_26 (dk_at dksX17_lowest_0 8 rfl rfl)
theorem dX17_lowest_9 : decode cX17_lowest 9 = .ok (.iload_n 1, 1) := dk_27 (dk_at dksX17_lowest_0 9 rfl rfl)
theorem dX17_lowest_10 : decode cX17_lowest 10 = .ok (.invokestatic 118, 3) := dk_184 0 118 (dk_at dksX17_lowest_0 10 rfl rfl)
theorem dX17_lowest_13 : decode cX17_lowest 13 = .ok (.ifCond .ne 9, 3) := dk_154 0 9 (dk_at dksX17_lowest_0 13 rfl rfl)
theorem dX17_lowest_16 : decode cX17_lowest 16 = .ok (.iinc 1 1, 3) := dk_132 1 1 (dk_at dksX17_lowest_0 16 rfl rfl)
theorem dX17_lowest_19 : decode cX17_lowest 19 = .ok (.goto (-17), 3) := dk_167 255 239 (dk_at dksX17_lowest_0 19 rfl rfl)
theorem dX17_lowest_22 : decode cX17_lowest 22 = .ok (.iload_n 1, 1) := dk_27 (dk_at dksX17_lowest_0 22 rfl rfl)
theorem dX17_lowest_23 : decode cX17_lowest 23 = .ok (.ireturn, 1) := dk_172 (dk_at dksX17_lowest_0 23 rfl rfl)
abbrev cX17_bits : ByteArray := prog_24_method_5_code
def yX17_bits : MethodName := ⟨RX17, "bits", "(I)I"⟩
def dkwX17_bits_0 : List UInt8 := [3, 60, 26, 61, 28, 153, 0, 15, 132, 1, 1, 28, 28, 4, 100, 126, 61, 167, 255, 243, 27, 172]
abbrev dktX17_bits_0 : List UInt8 := dkwX17_bits_0 ++ []
theorem dksX17_bits_0 : cX17_bits.data.toList.drop 0 = dktX17_bits_0 := by decide +kernel
theorem dX17_bits_0 : decode cX17_bits 0 = .ok (.iconst 0, 1) := dk_3 (dk_at dksX17_bits_0 0 rfl rfl)
theorem dX17_bits_1 : decode cX17_bits 1 = .ok (.istore_n 1, 1) := dk_60 (dk_at dksX17_bits_0 1 rfl rfl)
theorem dX17_bits_2 : decode cX17_bits 2 = .ok (.iload_n 0, 1) := dk_26 (dk_at dksX17_bits_0 2 rfl rfl)
theorem dX17_bits_3 : decode cX17_bits 3 = .ok (.istore_n 2, 1) := dk_61 (dk_at dksX17_bits_0 3 rfl rfl)
theorem dX17_bits_4 : decode cX17_bits 4 = .ok (.iload_n 2, 1) := dk_28 (dk_at dksX17_bits_0 4 rfl rfl)
theorem dX17_bits_5 : decode cX17_bits 5 = .ok (.ifCond .eq 15, 3) := dk_153 0 15 (dk_at dksX17_bits_0 5 rfl rfl)
theorem dX17_bits_8 : decode cX17_bits 8 = .ok (.iinc 1 1, 3) := dk_132 1 1 (dk_at dksX17_bits_0 8 rfl rfl)
theorem dX17_bits_11 : decode cX17_bits 11 = .ok (.iload_n 2, 1) := dk_28 (dk_at dksX17_bits_0 11 rfl rfl)
theorem dX17_bits_12 : decode cX17_bits 12 = .ok (.iload_n 2, 1) := dk_28 (dk_at dksX17_bits_0 12 rfl rfl)
theorem dX17_bits_13 : decode cX17_bits 13 = .ok (.iconst 1, 1) := dk_4 (dk_at dksX17_bits_0 13 rfl rfl)
theorem dX17_bits_14 : decode cX17_bits 14 = .ok (.isub, 1) := dk_100 (dk_at dksX17_bits_0 14 rfl rfl)
theorem dX17_bits_15 : decode cX17_bits 15 = .ok (.iand, 1) := dk_126 (dk_at dksX17_bits_0 15 rfl rfl)
theorem dX17_bits_16 : decode cX17_bits 16 = .ok (.istore_n 2, 1) := dk_61 (dk_at dksX17_bits_0 16 rfl rfl)
theorem dX17_bits_17 : decode cX17_bits 17 = .ok (.goto (-13), 3) := dk_167 255 243 (dk_at dksX17_bits_0 17 rfl rfl)
theorem dX17_bits_20 : decode cX17_bits 20 = .ok (.iload_n 1, 1) := dk_27 (dk_at dksX17_bits_0 20 rfl rfl)
theorem dX17_bits_21 : decode cX17_bits 21 = .ok (.ireturn, 1) := dk_172 (dk_at dksX17_bits_0 21 rfl rfl)
abbrev cX17_word : ByteArray := prog_24_method_19_code
def yX17_word : MethodName := ⟨RX17, "word", "(II)I"⟩
def dkwX17_word_3 : List UInt8 := [42, 27, 182, 0, 157, 172, 2, 172]
abbrev dktX17_word_3 : List UInt8 := dkwX17_word_3 ++ []
def dkwX17_word_2 : List UInt8 := [27, 184, 0, 115, 172, 42, 27, 182, 0, 148, 172, 42, 27, 28, 182, 0, 151, 172, 42, 27, 182, 0, 154, 172]
abbrev dktX17_word_2 : List UInt8 := dkwX17_word_2 ++ dktX17_word_3
def dkwX17_word_1 : List UInt8 := [170, 0, 0, 0, 0, 72, 0, 0, 0, 0, 0, 0, 0, 6, 0, 0, 0, 42, 0, 0, 0, 47, 0, 0, 0, 53, 0, 0, 0, 53, 0, 0, 0, 53, 0, 0, 0, 60, 0, 0, 0, 66]
abbrev dktX17_word_1 : List UInt8 := dkwX17_word_1 ++ dktX17_word_2
def dkwX17_word_0 : List UInt8 := [27, 184, 0, 144, 154, 0, 5, 2, 172, 28]
abbrev dktX17_word_0 : List UInt8 := dkwX17_word_0 ++ dktX17_word_1
theorem dksX17_word_0 : cX17_word.data.toList.drop 0 = dktX17_word_0 := by decide +kernel
theorem dksX17_word_1 : cX17_word.data.toList.drop 10 = dktX17_word_1 := dk_seg dksX17_word_0 10 rfl rfl
theorem dksX17_word_2 : cX17_word.data.toList.drop 52 = dktX17_word_2 := dk_seg dksX17_word_1 42 rfl rfl
theorem dksX17_word_3 : cX17_word.data.toList.drop 76 = dktX17_word_3 := dk_seg dksX17_word_2 24 rfl rfl
theorem dX17_word_0 : decode cX17_word 0 = .ok (.iload_n 1, 1) := dk_27 (dk_at dksX17_word_0 0 rfl rfl)
theorem dX17_word_1 : decode cX17_word 1 = .ok (.invokestatic 144, 3) := dk_184 0 144 (dk_at dksX17_word_0 1 rfl rfl)
theorem dX17_word_4 : decode cX17_word 4 = .ok (.ifCond .ne 5, 3) := dk_154 0 5 (dk_at dksX17_word_0 4 rfl rfl)
theorem dX17_word_7 : decode cX17_word 7 = .ok (.iconst (-1), 1) := dk_2 (dk_at dksX17_word_0 7 rfl rfl)
theorem dX17_word_8 : decode cX17_word 8 = .ok (.ireturn, 1) := dk_172 (dk_at dksX17_word_0 8 rfl rfl)
theorem dX17_word_9 : decode cX17_word 9 = .ok (.iload_n 2, 1) := dk_28 (dk_at dksX17_word_0 9 rfl rfl)
theorem dX17_word_10 : decode cX17_word 10 = .ok (.tableswitch 72 0 6 #[42, 47, 53, 53, 53, 60, 66], 42) := by decide +kernel
theorem dX17_word_52 : decode cX17_word 52 = .ok (.iload_n 1, 1) := dk_27 (dk_at dksX17_word_2 0 rfl rfl)
theorem dX17_word_53 : decode cX17_word 53 = .ok (.invokestatic 115, 3) := dk_184 0 115 (dk_at dksX17_word_2 1 rfl rfl)
theorem dX17_word_56 : decode cX17_word 56 = .ok (.ireturn, 1) := dk_172 (dk_at dksX17_word_2 4 rfl rfl)
theorem dX17_word_57 : decode cX17_word 57 = .ok (.aload_n 0, 1) := dk_42 (dk_at dksX17_word_2 5 rfl rfl)
theorem dX17_word_58 : decode cX17_word 58 = .ok (.iload_n 1, 1) := dk_27 (dk_at dksX17_word_2 6 rfl rfl)
theorem dX17_word_59 : decode cX17_word 59 = .ok (.invokevirtual 148, 3) := dk_182 0 148 (dk_at dksX17_word_2 7 rfl rfl)
theorem dX17_word_62 : decode cX17_word 62 = .ok (.ireturn, 1) := dk_172 (dk_at dksX17_word_2 10 rfl rfl)
theorem dX17_word_63 : decode cX17_word 63 = .ok (.aload_n 0, 1) := dk_42 (dk_at dksX17_word_2 11 rfl rfl)
theorem dX17_word_64 : decode cX17_word 64 = .ok (.iload_n 1, 1) := dk_27 (dk_at dksX17_word_2 12 rfl rfl)
theorem dX17_word_65 : decode cX17_word 65 = .ok (.iload_n 2, 1) := dk_28 (dk_at dksX17_word_2 13 rfl rfl)
theorem dX17_word_66 : decode cX17_word 66 = .ok (.invokevirtual 151, 3) := dk_182 0 151 (dk_at dksX17_word_2 14 rfl rfl)
theorem dX17_word_69 : decode cX17_word 69 = .ok (.ireturn, 1) := dk_172 (dk_at dksX17_word_2 17 rfl rfl)
theorem dX17_word_70 : decode cX17_word 70 = .ok (.aload_n 0, 1) := dk_42 (dk_at dksX17_word_2 18 rfl rfl)
theorem dX17_word_71 : decode cX17_word 71 = .ok (.iload_n 1, 1) := dk_27 (dk_at dksX17_word_2 19 rfl rfl)
theorem dX17_word_72 : decode cX17_word 72 = .ok (.invokevirtual 154, 3) := dk_182 0 154 (dk_at dksX17_word_2 20 rfl rfl)
theorem dX17_word_75 : decode cX17_word 75 = .ok (.ireturn, 1) := dk_172 (dk_at dksX17_word_2 23 rfl rfl)
theorem dX17_word_76 : decode cX17_word 76 = .ok (.aload_n 0, 1) := dk_42 (dk_at dksX17_word_3 0 rfl rfl)
theorem dX17_word_77 : decode cX17_word 77 = .ok (.iload_n 1, 1) := dk_27 (dk_at dksX17_word_3 1 rfl rfl)
theorem dX17_word_78 : decode cX17_word 78 = .ok (.invokevirtual 157, 3) := dk_182 0 157 (dk_at dksX17_word_3 2 rfl rfl)
theorem dX17_word_81 : decode cX17_word 81 = .ok (.ireturn, 1) := dk_172 (dk_at dksX17_word_3 5 rfl rfl)
theorem dX17_word_82 : decode cX17_word 82 = .ok (.iconst (-1), 1) := dk_2 (dk_at dksX17_word_3 6 rfl rfl)
theorem dX17_word_83 : decode cX17_word 83 = .ok (.ireturn, 1) := dk_172 (dk_at dksX17_word_3 7 rfl rfl)
abbrev cX17_isSet : ByteArray := prog_24_method_7_code
def yX17_isSet : MethodName := ⟨RX17, "isSet", "(I)Z"⟩
def dkwX17_isSet_0 : List UInt8 := [26, 133, 9, 20, 0, 122, 184, 0, 124, 172]
abbrev dktX17_isSet_0 : List UInt8 := dkwX17_isSet_0 ++ []
theorem dksX17_isSet_0 : cX17_isSet.data.toList.drop 0 = dktX17_isSet_0 := by decide +kernel
theorem dX17_isSet_0 : decode cX17_isSet 0 = .ok (.iload_n 0, 1) := dk_26 (dk_at dksX17_isSet_0 0 rfl rfl)
theorem dX17_isSet_1 : decode cX17_isSet 1 = .ok (.i2l, 1) := dk_133 (dk_at dksX17_isSet_0 1 rfl rfl)
theorem dX17_isSet_2 : decode cX17_isSet 2 = .ok (.lconst 0, 1) := dk_9 (dk_at dksX17_isSet_0 2 rfl rfl)
theorem dX17_isSet_3 : decode cX17_isSet 3 = .ok (.ldc2_w 122, 3) := dk_20 0 122 (dk_at dksX17_isSet_0 3 rfl rfl)
theorem dX17_isSet_6 : decode cX17_isSet 6 = .ok (.invokestatic 124, 3) := dk_184 0 124 (dk_at dksX17_isSet_0 6 rfl rfl)
theorem dX17_isSet_9 : decode cX17_isSet 9 = .ok (.ireturn, 1) := dk_172 (dk_at dksX17_isSet_0 9 rfl rfl)
abbrev cX17_numberOf : ByteArray := prog_24_method_14_code
def yX17_numberOf : MethodName := ⟨RX17, "numberOf", "(I)I"⟩
def dkwX17_numberOf_2 : List UInt8 := [130, 62, 132, 4, 255, 167, 255, 211, 28, 154, 0, 7, 29, 167, 0, 5, 16, 252, 172]
abbrev dktX17_numberOf_2 : List UInt8 := dkwX17_numberOf_2 ++ []
def dkwX17_numberOf_1 : List UInt8 := [184, 0, 118, 153, 0, 23, 28, 42, 180, 0, 13, 21, 4, 46, 130, 61, 29, 42, 180, 0, 16, 21, 4, 46]
abbrev dktX17_numberOf_1 : List UInt8 := dkwX17_numberOf_1 ++ dktX17_numberOf_2
def dkwX17_numberOf_0 : List UInt8 := [27, 61, 3, 62, 16, 11, 54, 4, 21, 4, 155, 0, 46, 28, 42, 180, 0, 13, 21, 4, 46, 184, 0, 141]
abbrev dktX17_numberOf_0 : List UInt8 := dkwX17_numberOf_0 ++ dktX17_numberOf_1
theorem dksX17_numberOf_0 : cX17_numberOf.data.toList.drop 0 = dktX17_numberOf_0 := by decide +kernel
theorem dksX17_numberOf_1 : cX17_numberOf.data.toList.drop 24 = dktX17_numberOf_1 := dk_seg dksX17_numberOf_0 24 rfl rfl
theorem dksX17_numberOf_2 : cX17_numberOf.data.toList.drop 48 = dktX17_numberOf_2 := dk_seg dksX17_numberOf_1 24 rfl rfl
theorem dX17_numberOf_0 : decode cX17_numberOf 0 = .ok (.iload_n 1, 1) := dk_27 (dk_at dksX17_numberOf_0 0 rfl rfl)
theorem dX17_numberOf_1 : decode cX17_numberOf 1 = .ok (.istore_n 2, 1) := dk_61 (dk_at dksX17_numberOf_0 1 rfl rfl)
theorem dX17_numberOf_2 : decode cX17_numberOf 2 = .ok (.iconst 0, 1) := dk_3 (dk_at dksX17_numberOf_0 2 rfl rfl)
theorem dX17_numberOf_3 : decode cX17_numberOf 3 = .ok (.istore_n 3, 1) := dk_62 (dk_at dksX17_numberOf_0 3 rfl rfl)
theorem dX17_numberOf_4 : decode cX17_numberOf 4 = .ok (.bipush 11, 2) := dk_16 11 (dk_at dksX17_numberOf_0 4 rfl rfl)
theorem dX17_numberOf_6 : decode cX17_numberOf 6 = .ok (.istore 4, 2) := dk_54 4 (dk_at dksX17_numberOf_0 6 rfl rfl)
theorem dX17_numberOf_8 : decode cX17_numberOf 8 = .ok (.iload 4, 2) := dk_21 4 (dk_at dksX17_numberOf_0 8 rfl rfl)
theorem dX17_numberOf_10 : decode cX17_numberOf 10 = .ok (.ifCond .lt 46, 3) := dk_155 0 46 (dk_at dksX17_numberOf_0 10 rfl rfl)
theorem dX17_numberOf_13 : decode cX17_numberOf 13 = .ok (.iload_n 2, 1) := dk_28 (dk_at dksX17_numberOf_0 13 rfl rfl)
theorem dX17_numberOf_14 : decode cX17_numberOf 14 = .ok (.aload_n 0, 1) := dk_42 (dk_at dksX17_numberOf_0 14 rfl rfl)
theorem dX17_numberOf_15 : decode cX17_numberOf 15 = .ok (.getfield 13, 3) := dk_180 0 13 (dk_at dksX17_numberOf_0 15 rfl rfl)
theorem dX17_numberOf_18 : decode cX17_numberOf 18 = .ok (.iload 4, 2) := dk_21 4 (dk_at dksX17_numberOf_0 18 rfl rfl)
theorem dX17_numberOf_20 : decode cX17_numberOf 20 = .ok (.iaload, 1) := dk_46 (dk_at dksX17_numberOf_0 20 rfl rfl)
theorem dX17_numberOf_21 : decode cX17_numberOf 21 = .ok (.invokestatic 141, 3) := dk_184 0 141 (dk_at dksX17_numberOf_0 21 rfl rfl)
theorem dX17_numberOf_24 : decode cX17_numberOf 24 = .ok (.invokestatic 118, 3) := dk_184 0 118 (dk_at dksX17_numberOf_1 0 rfl rfl)
theorem dX17_numberOf_27 : decode cX17_numberOf 27 = .ok (.ifCond .eq 23, 3) := dk_153 0 23 (dk_at dksX17_numberOf_1 3 rfl rfl)
theorem dX17_numberOf_30 : decode cX17_numberOf 30 = .ok (.iload_n 2, 1) := dk_28 (dk_at dksX17_numberOf_1 6 rfl rfl)
theorem dX17_numberOf_31 : decode cX17_numberOf 31 = .ok (.aload_n 0, 1) := dk_42 (dk_at dksX17_numberOf_1 7 rfl rfl)
theorem dX17_numberOf_32 : decode cX17_numberOf 32 = .ok (.getfield 13, 3) := dk_180 0 13 (dk_at dksX17_numberOf_1 8 rfl rfl)
theorem dX17_numberOf_35 : decode cX17_numberOf 35 = .ok (.iload 4, 2) := dk_21 4 (dk_at dksX17_numberOf_1 11 rfl rfl)
theorem dX17_numberOf_37 : decode cX17_numberOf 37 = .ok (.iaload, 1) := dk_46 (dk_at dksX17_numberOf_1 13 rfl rfl)
theorem dX17_numberOf_38 : decode cX17_numberOf 38 = .ok (.ixor, 1) := dk_130 (dk_at dksX17_numberOf_1 14 rfl rfl)
theorem dX17_numberOf_39 : decode cX17_numberOf 39 = .ok (.istore_n 2, 1) := dk_61 (dk_at dksX17_numberOf_1 15 rfl rfl)
theorem dX17_numberOf_40 : decode cX17_numberOf 40 = .ok (.iload_n 3, 1) := dk_29 (dk_at dksX17_numberOf_1 16 rfl rfl)
theorem dX17_numberOf_41 : decode cX17_numberOf 41 = .ok (.aload_n 0, 1) := dk_42 (dk_at dksX17_numberOf_1 17 rfl rfl)
theorem dX17_numberOf_42 : decode cX17_numberOf 42 = .ok (.getfield 16, 3) := dk_180 0 16 (dk_at dksX17_numberOf_1 18 rfl rfl)
theorem dX17_numberOf_45 : decode cX17_numberOf 45 = .ok (.iload 4, 2) := dk_21 4 (dk_at dksX17_numberOf_1 21 rfl rfl)
theorem dX17_numberOf_47 : decode cX17_numberOf 47 = .ok (.iaload, 1) := dk_46 (dk_at dksX17_numberOf_1 23 rfl rfl)
theorem dX17_numberOf_48 : decode cX17_numberOf 48 = .ok (.ixor, 1) := dk_130 (dk_at dksX17_numberOf_2 0 rfl rfl)
theorem dX17_numberOf_49 : decode cX17_numberOf 49 = .ok (.istore_n 3, 1) := dk_62 (dk_at dksX17_numberOf_2 1 rfl rfl)
theorem dX17_numberOf_50 : decode cX17_numberOf 50 = .ok (.iinc 4 (-1), 3) := dk_132 4 255 (dk_at dksX17_numberOf_2 2 rfl rfl)
theorem dX17_numberOf_53 : decode cX17_numberOf 53 = .ok (.goto (-45), 3) := dk_167 255 211 (dk_at dksX17_numberOf_2 5 rfl rfl)
theorem dX17_numberOf_56 : decode cX17_numberOf 56 = .ok (.iload_n 2, 1) := dk_28 (dk_at dksX17_numberOf_2 8 rfl rfl)
theorem dX17_numberOf_57 : decode cX17_numberOf 57 = .ok (.ifCond .ne 7, 3) := dk_154 0 7 (dk_at dksX17_numberOf_2 9 rfl rfl)
theorem dX17_numberOf_60 : decode cX17_numberOf 60 = .ok (.iload_n 3, 1) := dk_29 (dk_at dksX17_numberOf_2 12 rfl rfl)
theorem dX17_numberOf_61 : decode cX17_numberOf 61 = .ok (.goto 5, 3) := dk_167 0 5 (dk_at dksX17_numberOf_2 13 rfl rfl)
theorem dX17_numberOf_64 : decode cX17_numberOf 64 = .ok (.bipush (-4), 2) := dk_16 252 (dk_at dksX17_numberOf_2 16 rfl rfl)
theorem dX17_numberOf_66 : decode cX17_numberOf 66 = .ok (.ireturn, 1) := dk_172 (dk_at dksX17_numberOf_2 18 rfl rfl)
abbrev cX17_closest : ByteArray := prog_24_method_16_code
def yX17_closest : MethodName := ⟨RX17, "closest", "(II)I"⟩
def dkwX17_closest_5 : List UInt8 := [167, 0, 5, 21, 5, 172]
abbrev dktX17_closest_5 : List UInt8 := dkwX17_closest_5 ++ []
def dkwX17_closest_4 : List UInt8 := [132, 6, 255, 167, 255, 174, 28, 5, 160, 0, 7, 29, 167, 0, 15, 28, 6, 160, 0, 8, 21, 4]
abbrev dktX17_closest_4 : List UInt8 := dkwX17_closest_4 ++ dktX17_closest_5
def dkwX17_closest_3 : List UInt8 := [21, 6, 46, 167, 0, 5, 21, 5, 54, 5, 21, 7, 29, 162, 0, 8, 21, 7, 167, 0, 4, 29, 62]
abbrev dktX17_closest_3 : List UInt8 := dkwX17_closest_3 ++ dktX17_closest_4
def dkwX17_closest_2 : List UInt8 := [160, 0, 10, 21, 4, 4, 96, 167, 0, 5, 21, 4, 54, 4, 21, 7, 29, 163, 0, 13, 42, 180, 0, 19]
abbrev dktX17_closest_2 : List UInt8 := dkwX17_closest_2 ++ dktX17_closest_3
def dkwX17_closest_1 : List UInt8 := [21, 6, 46, 130, 184, 0, 115, 54, 7, 21, 7, 29, 162, 0, 7, 4, 167, 0, 18, 21, 7, 29]
abbrev dktX17_closest_1 : List UInt8 := dkwX17_closest_1 ++ dktX17_closest_2
def dkwX17_closest_0 : List UInt8 := [16, 25, 62, 3, 54, 4, 3, 54, 5, 17, 15, 255, 54, 6, 21, 6, 155, 0, 83, 27, 42, 180, 0, 19]
abbrev dktX17_closest_0 : List UInt8 := dkwX17_closest_0 ++ dktX17_closest_1
theorem dksX17_closest_0 : cX17_closest.data.toList.drop 0 = dktX17_closest_0 := by decide +kernel
theorem dksX17_closest_1 : cX17_closest.data.toList.drop 24 = dktX17_closest_1 := dk_seg dksX17_closest_0 24 rfl rfl
theorem dksX17_closest_2 : cX17_closest.data.toList.drop 46 = dktX17_closest_2 := dk_seg dksX17_closest_1 22 rfl rfl
theorem dksX17_closest_3 : cX17_closest.data.toList.drop 70 = dktX17_closest_3 := dk_seg dksX17_closest_2 24 rfl rfl
theorem dksX17_closest_4 : cX17_closest.data.toList.drop 93 = dktX17_closest_4 := dk_seg dksX17_closest_3 23 rfl rfl
theorem dksX17_closest_5 : cX17_closest.data.toList.drop 115 = dktX17_closest_5 := dk_seg dksX17_closest_4 22 rfl rfl
theorem dX17_closest_0 : decode cX17_closest 0 = .ok (.bipush 25, 2) := dk_16 25 (dk_at dksX17_closest_0 0 rfl rfl)
theorem dX17_closest_2 : decode cX17_closest 2 = .ok (.istore_n 3, 1) := dk_62 (dk_at dksX17_closest_0 2 rfl rfl)
theorem dX17_closest_3 : decode cX17_closest 3 = .ok (.iconst 0, 1) := dk_3 (dk_at dksX17_closest_0 3 rfl rfl)
theorem dX17_closest_4 : decode cX17_closest 4 = .ok (.istore 4, 2) := dk_54 4 (dk_at dksX17_closest_0 4 rfl rfl)
theorem dX17_closest_6 : decode cX17_closest 6 = .ok (.iconst 0, 1) := dk_3 (dk_at dksX17_closest_0 6 rfl rfl)
theorem dX17_closest_7 : decode cX17_closest 7 = .ok (.istore 5, 2) := dk_54 5 (dk_at dksX17_closest_0 7 rfl rfl)
theorem dX17_closest_9 : decode cX17_closest 9 = .ok (.sipush 4095, 3) := dk_17 15 255 (dk_at dksX17_closest_0 9 rfl rfl)
theorem dX17_closest_12 : decode cX17_closest 12 = .ok (.istore 6, 2) := dk_54 6 (dk_at dksX17_closest_0 12 rfl rfl)
theorem dX17_closest_14 : decode cX17_closest 14 = .ok (.iload 6, 2) := dk_21 6 (dk_at dksX17_closest_0 14 rfl rfl)
theorem dX17_closest_16 : decode cX17_closest 16 = .ok (.ifCond .lt 83, 3) := dk_155 0 83 (dk_at dksX17_closest_0 16 rfl rfl)
theorem dX17_closest_19 : decode cX17_closest 19 = .ok (.iload_n 1, 1) := dk_27 (dk_at dksX17_closest_0 19 rfl rfl)
theorem dX17_closest_20 : decode cX17_closest 20 = .ok (.aload_n 0, 1) := dk_42 (dk_at dksX17_closest_0 20 rfl rfl)
theorem dX17_closest_21 : decode cX17_closest 21 = .ok (.getfield 19, 3) := dk_180 0 19 (dk_at dksX17_closest_0 21 rfl rfl)
theorem dX17_closest_24 : decode cX17_closest 24 = .ok (.iload 6, 2) := dk_21 6 (dk_at dksX17_closest_1 0 rfl rfl)
theorem dX17_closest_26 : decode cX17_closest 26 = .ok (.iaload, 1) := dk_46 (dk_at dksX17_closest_1 2 rfl rfl)
theorem dX17_closest_27 : decode cX17_closest 27 = .ok (.ixor, 1) := dk_130 (dk_at dksX17_closest_1 3 rfl rfl)
theorem dX17_closest_28 : decode cX17_closest 28 = .ok (.invokestatic 115, 3) := dk_184 0 115 (dk_at dksX17_closest_1 4 rfl rfl)
theorem dX17_closest_31 : decode cX17_closest 31 = .ok (.istore 7, 2) := dk_54 7 (dk_at dksX17_closest_1 7 rfl rfl)
theorem dX17_closest_33 : decode cX17_closest 33 = .ok (.iload 7, 2) := dk_21 7 (dk_at dksX17_closest_1 9 rfl rfl)
theorem dX17_closest_35 : decode cX17_closest 35 = .ok (.iload_n 3, 1) := dk_29 (dk_at dksX17_closest_1 11 rfl rfl)
theorem dX17_closest_36 : decode cX17_closest 36 = .ok (.if_icmp .ge 7, 3) := dk_162 0 7 (dk_at dksX17_closest_1 12 rfl rfl)
theorem dX17_closest_39 : decode cX17_closest 39 = .ok (.iconst 1, 1) := dk_4 (dk_at dksX17_closest_1 15 rfl rfl)
theorem dX17_closest_40 : decode cX17_closest 40 = .ok (.goto 18, 3) := dk_167 0 18 (dk_at dksX17_closest_1 16 rfl rfl)
theorem dX17_closest_43 : decode cX17_closest 43 = .ok (.iload 7, 2) := dk_21 7 (dk_at dksX17_closest_1 19 rfl rfl)
theorem dX17_closest_45 : decode cX17_closest 45 = .ok (.iload_n 3, 1) := dk_29 (dk_at dksX17_closest_1 21 rfl rfl)
theorem dX17_closest_46 : decode cX17_closest 46 = .ok (.if_icmp .ne 10, 3) := dk_160 0 10 (dk_at dksX17_closest_2 0 rfl rfl)
theorem dX17_closest_49 : decode cX17_closest 49 = .ok (.iload 4, 2) := dk_21 4 (dk_at dksX17_closest_2 3 rfl rfl)
theorem dX17_closest_51 : decode cX17_closest 51 = .ok (.iconst 1, 1) := dk_4 (dk_at dksX17_closest_2 5 rfl rfl)
theorem dX17_closest_52 : decode cX17_closest 52 = .ok (.iadd, 1) := dk_96 (dk_at dksX17_closest_2 6 rfl rfl)
theorem dX17_closest_53 : decode cX17_closest 53 = .ok (.goto 5, 3) := dk_167 0 5 (dk_at dksX17_closest_2 7 rfl rfl)
theorem dX17_closest_56 : decode cX17_closest 56 = .ok (.iload 4, 2) := dk_21 4 (dk_at dksX17_closest_2 10 rfl rfl)
theorem dX17_closest_58 : decode cX17_closest 58 = .ok (.istore 4, 2) := dk_54 4 (dk_at dksX17_closest_2 12 rfl rfl)
theorem dX17_closest_60 : decode cX17_closest 60 = .ok (.iload 7, 2) := dk_21 7 (dk_at dksX17_closest_2 14 rfl rfl)
theorem dX17_closest_62 : decode cX17_closest 62 = .ok (.iload_n 3, 1) := dk_29 (dk_at dksX17_closest_2 16 rfl rfl)
theorem dX17_closest_63 : decode cX17_closest 63 = .ok (.if_icmp .gt 13, 3) := dk_163 0 13 (dk_at dksX17_closest_2 17 rfl rfl)
theorem dX17_closest_66 : decode cX17_closest 66 = .ok (.aload_n 0, 1) := dk_42 (dk_at dksX17_closest_2 20 rfl rfl)
theorem dX17_closest_67 : decode cX17_closest 67 = .ok (.getfield 19, 3) := dk_180 0 19 (dk_at dksX17_closest_2 21 rfl rfl)
theorem dX17_closest_70 : decode cX17_closest 70 = .ok (.iload 6, 2) := dk_21 6 (dk_at dksX17_closest_3 0 rfl rfl)
theorem dX17_closest_72 : decode cX17_closest 72 = .ok (.iaload, 1) := dk_46 (dk_at dksX17_closest_3 2 rfl rfl)
theorem dX17_closest_73 : decode cX17_closest 73 = .ok (.goto 5, 3) := dk_167 0 5 (dk_at dksX17_closest_3 3 rfl rfl)
theorem dX17_closest_76 : decode cX17_closest 76 = .ok (.iload 5, 2) := dk_21 5 (dk_at dksX17_closest_3 6 rfl rfl)
theorem dX17_closest_78 : decode cX17_closest 78 = .ok (.istore 5, 2) := dk_54 5 (dk_at dksX17_closest_3 8 rfl rfl)
theorem dX17_closest_80 : decode cX17_closest 80 = .ok (.iload 7, 2) := dk_21 7 (dk_at dksX17_closest_3 10 rfl rfl)
theorem dX17_closest_82 : decode cX17_closest 82 = .ok (.iload_n 3, 1) := dk_29 (dk_at dksX17_closest_3 12 rfl rfl)
theorem dX17_closest_83 : decode cX17_closest 83 = .ok (.if_icmp .ge 8, 3) := dk_162 0 8 (dk_at dksX17_closest_3 13 rfl rfl)
theorem dX17_closest_86 : decode cX17_closest 86 = .ok (.iload 7, 2) := dk_21 7 (dk_at dksX17_closest_3 16 rfl rfl)
theorem dX17_closest_88 : decode cX17_closest 88 = .ok (.goto 4, 3) := dk_167 0 4 (dk_at dksX17_closest_3 18 rfl rfl)
theorem dX17_closest_91 : decode cX17_closest 91 = .ok (.iload_n 3, 1) := dk_29 (dk_at dksX17_closest_3 21 rfl rfl)
theorem dX17_closest_92 : decode cX17_closest 92 = .ok (.istore_n 3, 1) := dk_62 (dk_at dksX17_closest_3 22 rfl rfl)
theorem dX17_closest_93 : decode cX17_closest 93 = .ok (.iinc 6 (-1), 3) := dk_132 6 255 (dk_at dksX17_closest_4 0 rfl rfl)
theorem dX17_closest_96 : decode cX17_closest 96 = .ok (.goto (-82), 3) := dk_167 255 174 (dk_at dksX17_closest_4 3 rfl rfl)
theorem dX17_closest_99 : decode cX17_closest 99 = .ok (.iload_n 2, 1) := dk_28 (dk_at dksX17_closest_4 6 rfl rfl)
theorem dX17_closest_100 : decode cX17_closest 100 = .ok (.iconst 2, 1) := dk_5 (dk_at dksX17_closest_4 7 rfl rfl)
theorem dX17_closest_101 : decode cX17_closest 101 = .ok (.if_icmp .ne 7, 3) := dk_160 0 7 (dk_at dksX17_closest_4 8 rfl rfl)
theorem dX17_closest_104 : decode cX17_closest 104 = .ok (.iload_n 3, 1) := dk_29 (dk_at dksX17_closest_4 11 rfl rfl)
theorem dX17_closest_105 : decode cX17_closest 105 = .ok (.goto 15, 3) := dk_167 0 15 (dk_at dksX17_closest_4 12 rfl rfl)
theorem dX17_closest_108 : decode cX17_closest 108 = .ok (.iload_n 2, 1) := dk_28 (dk_at dksX17_closest_4 15 rfl rfl)
theorem dX17_closest_109 : decode cX17_closest 109 = .ok (.iconst 3, 1) := dk_6 (dk_at dksX17_closest_4 16 rfl rfl)
theorem dX17_closest_110 : decode cX17_closest 110 = .ok (.if_icmp .ne 8, 3) := dk_160 0 8 (dk_at dksX17_closest_4 17 rfl rfl)
theorem dX17_closest_113 : decode cX17_closest 113 = .ok (.iload 4, 2) := dk_21 4 (dk_at dksX17_closest_4 20 rfl rfl)
theorem dX17_closest_115 : decode cX17_closest 115 = .ok (.goto 5, 3) := dk_167 0 5 (dk_at dksX17_closest_5 0 rfl rfl)
theorem dX17_closest_118 : decode cX17_closest 118 = .ok (.iload 5, 2) := dk_21 5 (dk_at dksX17_closest_5 3 rfl rfl)
theorem dX17_closest_120 : decode cX17_closest 120 = .ok (.ireturn, 1) := dk_172 (dk_at dksX17_closest_5 5 rfl rfl)
abbrev cX17_octadsIn : ByteArray := prog_24_method_17_code
def yX17_octadsIn : MethodName := ⟨RX17, "octadsIn", "(I)I"⟩
def dkwX17_octadsIn_1 : List UInt8 := [154, 0, 7, 4, 167, 0, 4, 3, 96, 61, 132, 3, 1, 167, 255, 225, 28, 172]
abbrev dktX17_octadsIn_1 : List UInt8 := dkwX17_octadsIn_1 ++ []
def dkwX17_octadsIn_0 : List UInt8 := [3, 61, 3, 62, 29, 17, 2, 247, 162, 0, 30, 28, 42, 180, 0, 22, 29, 46, 27, 2, 130, 126]
abbrev dktX17_octadsIn_0 : List UInt8 := dkwX17_octadsIn_0 ++ dktX17_octadsIn_1
theorem dksX17_octadsIn_0 : cX17_octadsIn.data.toList.drop 0 = dktX17_octadsIn_0 := by decide +kernel
theorem dksX17_octadsIn_1 : cX17_octadsIn.data.toList.drop 22 = dktX17_octadsIn_1 := dk_seg dksX17_octadsIn_0 22 rfl rfl
theorem dX17_octadsIn_0 : decode cX17_octadsIn 0 = .ok (.iconst 0, 1) := dk_3 (dk_at dksX17_octadsIn_0 0 rfl rfl)
theorem dX17_octadsIn_1 : decode cX17_octadsIn 1 = .ok (.istore_n 2, 1) := dk_61 (dk_at dksX17_octadsIn_0 1 rfl rfl)
theorem dX17_octadsIn_2 : decode cX17_octadsIn 2 = .ok (.iconst 0, 1) := dk_3 (dk_at dksX17_octadsIn_0 2 rfl rfl)
theorem dX17_octadsIn_3 : decode cX17_octadsIn 3 = .ok (.istore_n 3, 1) := dk_62 (dk_at dksX17_octadsIn_0 3 rfl rfl)
theorem dX17_octadsIn_4 : decode cX17_octadsIn 4 = .ok (.iload_n 3, 1) := dk_29 (dk_at dksX17_octadsIn_0 4 rfl rfl)
theorem dX17_octadsIn_5 : decode cX17_octadsIn 5 = .ok (.sipush 759, 3) := dk_17 2 247 (dk_at dksX17_octadsIn_0 5 rfl rfl)
theorem dX17_octadsIn_8 : decode cX17_octadsIn 8 = .ok (.if_icmp .ge 30, 3) := dk_162 0 30 (dk_at dksX17_octadsIn_0 8 rfl rfl)
theorem dX17_octadsIn_11 : decode cX17_octadsIn 11 = .ok (.iload_n 2, 1) := dk_28 (dk_at dksX17_octadsIn_0 11 rfl rfl)
theorem dX17_octadsIn_12 : decode cX17_octadsIn 12 = .ok (.aload_n 0, 1) := dk_42 (dk_at dksX17_octadsIn_0 12 rfl rfl)
theorem dX17_octadsIn_13 : decode cX17_octadsIn 13 = .ok (.getfield 22, 3) := dk_180 0 22 (dk_at dksX17_octadsIn_0 13 rfl rfl)
theorem dX17_octadsIn_16 : decode cX17_octadsIn 16 = .ok (.iload_n 3, 1) := dk_29 (dk_at dksX17_octadsIn_0 16 rfl rfl)
theorem dX17_octadsIn_17 : decode cX17_octadsIn 17 = .ok (.iaload, 1) := dk_46 (dk_at dksX17_octadsIn_0 17 rfl rfl)
theorem dX17_octadsIn_18 : decode cX17_octadsIn 18 = .ok (.iload_n 1, 1) := dk_27 (dk_at dksX17_octadsIn_0 18 rfl rfl)
theorem dX17_octadsIn_19 : decode cX17_octadsIn 19 = .ok (.iconst (-1), 1) := dk_2 (dk_at dksX17_octadsIn_0 19 rfl rfl)
theorem dX17_octadsIn_20 : decode cX17_octadsIn 20 = .ok (.ixor, 1) := dk_130 (dk_at dksX17_octadsIn_0 20 rfl rfl)
theorem dX17_octadsIn_21 : decode cX17_octadsIn 21 = .ok (.iand, 1) := dk_126 (dk_at dksX17_octadsIn_0 21 rfl rfl)
theorem dX17_octadsIn_22 : decode cX17_octadsIn 22 = .ok (.ifCond .ne 7, 3) := dk_154 0 7 (dk_at dksX17_octadsIn_1 0 rfl rfl)
theorem dX17_octadsIn_25 : decode cX17_octadsIn 25 = .ok (.iconst 1, 1) := dk_4 (dk_at dksX17_octadsIn_1 3 rfl rfl)
theorem dX17_octadsIn_26 : decode cX17_octadsIn 26 = .ok (.goto 4, 3) := dk_167 0 4 (dk_at dksX17_octadsIn_1 4 rfl rfl)
theorem dX17_octadsIn_29 : decode cX17_octadsIn 29 = .ok (.iconst 0, 1) := dk_3 (dk_at dksX17_octadsIn_1 7 rfl rfl)
theorem dX17_octadsIn_30 : decode cX17_octadsIn 30 = .ok (.iadd, 1) := dk_96 (dk_at dksX17_octadsIn_1 8 rfl rfl)
theorem dX17_octadsIn_31 : decode cX17_octadsIn 31 = .ok (.istore_n 2, 1) := dk_61 (dk_at dksX17_octadsIn_1 9 rfl rfl)
theorem dX17_octadsIn_32 : decode cX17_octadsIn 32 = .ok (.iinc 3 1, 3) := dk_132 3 1 (dk_at dksX17_octadsIn_1 10 rfl rfl)
theorem dX17_octadsIn_35 : decode cX17_octadsIn 35 = .ok (.goto (-31), 3) := dk_167 255 225 (dk_at dksX17_octadsIn_1 13 rfl rfl)
theorem dX17_octadsIn_38 : decode cX17_octadsIn 38 = .ok (.iload_n 2, 1) := dk_28 (dk_at dksX17_octadsIn_1 16 rfl rfl)
theorem dX17_octadsIn_39 : decode cX17_octadsIn 39 = .ok (.ireturn, 1) := dk_172 (dk_at dksX17_octadsIn_1 17 rfl rfl)
abbrev cX17_octadsWith : ByteArray := prog_24_method_18_code
def yX17_octadsWith : MethodName := ⟨RX17, "octadsWith", "(I)I"⟩
def dkwX17_octadsWith_1 : List UInt8 := [154, 0, 7, 4, 167, 0, 4, 3, 96, 61, 132, 3, 1, 167, 255, 225, 28, 172]
abbrev dktX17_octadsWith_1 : List UInt8 := dkwX17_octadsWith_1 ++ []
def dkwX17_octadsWith_0 : List UInt8 := [3, 61, 3, 62, 29, 17, 2, 247, 162, 0, 30, 28, 27, 42, 180, 0, 22, 29, 46, 2, 130, 126]
abbrev dktX17_octadsWith_0 : List UInt8 := dkwX17_octadsWith_0 ++ dktX17_octadsWith_1
theorem dksX17_octadsWith_0 : cX17_octadsWith.data.toList.drop 0 = dktX17_octadsWith_0 := by decide +kernel
theorem dksX17_octadsWith_1 : cX17_octadsWith.data.toList.drop 22 = dktX17_octadsWith_1 := dk_seg dksX17_octadsWith_0 22 rfl rfl
theorem dX17_octadsWith_0 : decode cX17_octadsWith 0 = .ok (.iconst 0, 1) := dk_3 (dk_at dksX17_octadsWith_0 0 rfl rfl)
theorem dX17_octadsWith_1 : decode cX17_octadsWith 1 = .ok (.istore_n 2, 1) := dk_61 (dk_at dksX17_octadsWith_0 1 rfl rfl)
theorem dX17_octadsWith_2 : decode cX17_octadsWith 2 = .ok (.iconst 0, 1) := dk_3 (dk_at dksX17_octadsWith_0 2 rfl rfl)
theorem dX17_octadsWith_3 : decode cX17_octadsWith 3 = .ok (.istore_n 3, 1) := dk_62 (dk_at dksX17_octadsWith_0 3 rfl rfl)
theorem dX17_octadsWith_4 : decode cX17_octadsWith 4 = .ok (.iload_n 3, 1) := dk_29 (dk_at dksX17_octadsWith_0 4 rfl rfl)
theorem dX17_octadsWith_5 : decode cX17_octadsWith 5 = .ok (.sipush 759, 3) := dk_17 2 247 (dk_at dksX17_octadsWith_0 5 rfl rfl)
theorem dX17_octadsWith_8 : decode cX17_octadsWith 8 = .ok (.if_icmp .ge 30, 3) := dk_162 0 30 (dk_at dksX17_octadsWith_0 8 rfl rfl)
theorem dX17_octadsWith_11 : decode cX17_octadsWith 11 = .ok (.iload_n 2, 1) := dk_28 (dk_at dksX17_octadsWith_0 11 rfl rfl)
theorem dX17_octadsWith_12 : decode cX17_octadsWith 12 = .ok (.iload_n 1, 1) := dk_27 (dk_at dksX17_octadsWith_0 12 rfl rfl)
theorem dX17_octadsWith_13 : decode cX17_octadsWith 13 = .ok (.aload_n 0, 1) := dk_42 (dk_at dksX17_octadsWith_0 13 rfl rfl)
theorem dX17_octadsWith_14 : decode cX17_octadsWith 14 = .ok (.getfield 22, 3) := dk_180 0 22 (dk_at dksX17_octadsWith_0 14 rfl rfl)
theorem dX17_octadsWith_17 : decode cX17_octadsWith 17 = .ok (.iload_n 3, 1) := dk_29 (dk_at dksX17_octadsWith_0 17 rfl rfl)
theorem dX17_octadsWith_18 : decode cX17_octadsWith 18 = .ok (.iaload, 1) := dk_46 (dk_at dksX17_octadsWith_0 18 rfl rfl)
theorem dX17_octadsWith_19 : decode cX17_octadsWith 19 = .ok (.iconst (-1), 1) := dk_2 (dk_at dksX17_octadsWith_0 19 rfl rfl)
theorem dX17_octadsWith_20 : decode cX17_octadsWith 20 = .ok (.ixor, 1) := dk_130 (dk_at dksX17_octadsWith_0 20 rfl rfl)
theorem dX17_octadsWith_21 : decode cX17_octadsWith 21 = .ok (.iand, 1) := dk_126 (dk_at dksX17_octadsWith_0 21 rfl rfl)
theorem dX17_octadsWith_22 : decode cX17_octadsWith 22 = .ok (.ifCond .ne 7, 3) := dk_154 0 7 (dk_at dksX17_octadsWith_1 0 rfl rfl)
theorem dX17_octadsWith_25 : decode cX17_octadsWith 25 = .ok (.iconst 1, 1) := dk_4 (dk_at dksX17_octadsWith_1 3 rfl rfl)
theorem dX17_octadsWith_26 : decode cX17_octadsWith 26 = .ok (.goto 4, 3) := dk_167 0 4 (dk_at dksX17_octadsWith_1 4 rfl rfl)
theorem dX17_octadsWith_29 : decode cX17_octadsWith 29 = .ok (.iconst 0, 1) := dk_3 (dk_at dksX17_octadsWith_1 7 rfl rfl)
theorem dX17_octadsWith_30 : decode cX17_octadsWith 30 = .ok (.iadd, 1) := dk_96 (dk_at dksX17_octadsWith_1 8 rfl rfl)
theorem dX17_octadsWith_31 : decode cX17_octadsWith 31 = .ok (.istore_n 2, 1) := dk_61 (dk_at dksX17_octadsWith_1 9 rfl rfl)
theorem dX17_octadsWith_32 : decode cX17_octadsWith 32 = .ok (.iinc 3 1, 3) := dk_132 3 1 (dk_at dksX17_octadsWith_1 10 rfl rfl)
theorem dX17_octadsWith_35 : decode cX17_octadsWith 35 = .ok (.goto (-31), 3) := dk_167 255 225 (dk_at dksX17_octadsWith_1 13 rfl rfl)
theorem dX17_octadsWith_38 : decode cX17_octadsWith 38 = .ok (.iload_n 2, 1) := dk_28 (dk_at dksX17_octadsWith_1 16 rfl rfl)
theorem dX17_octadsWith_39 : decode cX17_octadsWith 39 = .ok (.ireturn, 1) := dk_172 (dk_at dksX17_octadsWith_1 17 rfl rfl)
abbrev cX17_block : ByteArray := prog_24_method_21_code
def yX17_block : MethodName := ⟨RX17, "block", "(II)I"⟩
def dkwX17_block_4 : List UInt8 := [20, 0, 167, 184, 0, 124, 153, 0, 11, 42, 28, 182, 0, 169, 167, 0, 4, 2, 172, 2, 172]
abbrev dktX17_block_4 : List UInt8 := dkwX17_block_4 ++ []
def dkwX17_block_3 : List UInt8 := [20, 0, 165, 184, 0, 124, 153, 0, 12, 42, 180, 0, 22, 28, 46, 167, 0, 4, 2, 172, 28, 133, 9]
abbrev dktX17_block_3 : List UInt8 := dkwX17_block_3 ++ dktX17_block_4
def dkwX17_block_2 : List UInt8 := [28, 133, 9, 20, 0, 160, 184, 0, 124, 153, 0, 10, 28, 184, 0, 162, 167, 0, 4, 2, 172, 28, 133, 9]
abbrev dktX17_block_2 : List UInt8 := dkwX17_block_2 ++ dktX17_block_3
def dkwX17_block_1 : List UInt8 := [170, 0, 0, 0, 0, 0, 93, 0, 0, 0, 0, 0, 0, 0, 2, 0, 0, 0, 27, 0, 0, 0, 48, 0, 0, 0, 71]
abbrev dktX17_block_1 : List UInt8 := dkwX17_block_1 ++ dktX17_block_2
def dkwX17_block_0 : List UInt8 := [27]
abbrev dktX17_block_0 : List UInt8 := dkwX17_block_0 ++ dktX17_block_1
theorem dksX17_block_0 : cX17_block.data.toList.drop 0 = dktX17_block_0 := by decide +kernel
theorem dksX17_block_1 : cX17_block.data.toList.drop 1 = dktX17_block_1 := dk_seg dksX17_block_0 1 rfl rfl
theorem dksX17_block_2 : cX17_block.data.toList.drop 28 = dktX17_block_2 := dk_seg dksX17_block_1 27 rfl rfl
theorem dksX17_block_3 : cX17_block.data.toList.drop 52 = dktX17_block_3 := dk_seg dksX17_block_2 24 rfl rfl
theorem dksX17_block_4 : cX17_block.data.toList.drop 75 = dktX17_block_4 := dk_seg dksX17_block_3 23 rfl rfl
theorem dX17_block_0 : decode cX17_block 0 = .ok (.iload_n 1, 1) := dk_27 (dk_at dksX17_block_0 0 rfl rfl)
theorem dX17_block_1 : decode cX17_block 1 = .ok (.tableswitch 93 0 2 #[27, 48, 71], 27) := by decide +kernel
theorem dX17_block_28 : decode cX17_block 28 = .ok (.iload_n 2, 1) := dk_28 (dk_at dksX17_block_2 0 rfl rfl)
theorem dX17_block_29 : decode cX17_block 29 = .ok (.i2l, 1) := dk_133 (dk_at dksX17_block_2 1 rfl rfl)
theorem dX17_block_30 : decode cX17_block 30 = .ok (.lconst 0, 1) := dk_9 (dk_at dksX17_block_2 2 rfl rfl)
theorem dX17_block_31 : decode cX17_block 31 = .ok (.ldc2_w 160, 3) := dk_20 0 160 (dk_at dksX17_block_2 3 rfl rfl)
theorem dX17_block_34 : decode cX17_block 34 = .ok (.invokestatic 124, 3) := dk_184 0 124 (dk_at dksX17_block_2 6 rfl rfl)
theorem dX17_block_37 : decode cX17_block 37 = .ok (.ifCond .eq 10, 3) := dk_153 0 10 (dk_at dksX17_block_2 9 rfl rfl)
theorem dX17_block_40 : decode cX17_block 40 = .ok (.iload_n 2, 1) := dk_28 (dk_at dksX17_block_2 12 rfl rfl)
theorem dX17_block_41 : decode cX17_block 41 = .ok (.invokestatic 162, 3) := dk_184 0 162 (dk_at dksX17_block_2 13 rfl rfl)
theorem dX17_block_44 : decode cX17_block 44 = .ok (.goto 4, 3) := dk_167 0 4 (dk_at dksX17_block_2 16 rfl rfl)
theorem dX17_block_47 : decode cX17_block 47 = .ok (.iconst (-1), 1) := dk_2 (dk_at dksX17_block_2 19 rfl rfl)
theorem dX17_block_48 : decode cX17_block 48 = .ok (.ireturn, 1) := dk_172 (dk_at dksX17_block_2 20 rfl rfl)
theorem dX17_block_49 : decode cX17_block 49 = .ok (.iload_n 2, 1) := dk_28 (dk_at dksX17_block_2 21 rfl rfl)
theorem dX17_block_50 : decode cX17_block 50 = .ok (.i2l, 1) := dk_133 (dk_at dksX17_block_2 22 rfl rfl)
theorem dX17_block_51 : decode cX17_block 51 = .ok (.lconst 0, 1) := dk_9 (dk_at dksX17_block_2 23 rfl rfl)
theorem dX17_block_52 : decode cX17_block 52 = .ok (.ldc2_w 165, 3) := dk_20 0 165 (dk_at dksX17_block_3 0 rfl rfl)
theorem dX17_block_55 : decode cX17_block 55 = .ok (.invokestatic 124, 3) := dk_184 0 124 (dk_at dksX17_block_3 3 rfl rfl)
theorem dX17_block_58 : decode cX17_block 58 = .ok (.ifCond .eq 12, 3) := dk_153 0 12 (dk_at dksX17_block_3 6 rfl rfl)
theorem dX17_block_61 : decode cX17_block 61 = .ok (.aload_n 0, 1) := dk_42 (dk_at dksX17_block_3 9 rfl rfl)
theorem dX17_block_62 : decode cX17_block 62 = .ok (.getfield 22, 3) := dk_180 0 22 (dk_at dksX17_block_3 10 rfl rfl)
theorem dX17_block_65 : decode cX17_block 65 = .ok (.iload_n 2, 1) := dk_28 (dk_at dksX17_block_3 13 rfl rfl)
theorem dX17_block_66 : decode cX17_block 66 = .ok (.iaload, 1) := dk_46 (dk_at dksX17_block_3 14 rfl rfl)
theorem dX17_block_67 : decode cX17_block 67 = .ok (.goto 4, 3) := dk_167 0 4 (dk_at dksX17_block_3 15 rfl rfl)
theorem dX17_block_70 : decode cX17_block 70 = .ok (.iconst (-1), 1) := dk_2 (dk_at dksX17_block_3 18 rfl rfl)
theorem dX17_block_71 : decode cX17_block 71 = .ok (.ireturn, 1) := dk_172 (dk_at dksX17_block_3 19 rfl rfl)
theorem dX17_block_72 : decode cX17_block 72 = .ok (.iload_n 2, 1) := dk_28 (dk_at dksX17_block_3 20 rfl rfl)
theorem dX17_block_73 : decode cX17_block 73 = .ok (.i2l, 1) := dk_133 (dk_at dksX17_block_3 21 rfl rfl)
theorem dX17_block_74 : decode cX17_block 74 = .ok (.lconst 0, 1) := dk_9 (dk_at dksX17_block_3 22 rfl rfl)
theorem dX17_block_75 : decode cX17_block 75 = .ok (.ldc2_w 167, 3) := dk_20 0 167 (dk_at dksX17_block_4 0 rfl rfl)
theorem dX17_block_78 : decode cX17_block 78 = .ok (.invokestatic 124, 3) := dk_184 0 124 (dk_at dksX17_block_4 3 rfl rfl)
theorem dX17_block_81 : decode cX17_block 81 = .ok (.ifCond .eq 11, 3) := dk_153 0 11 (dk_at dksX17_block_4 6 rfl rfl)
theorem dX17_block_84 : decode cX17_block 84 = .ok (.aload_n 0, 1) := dk_42 (dk_at dksX17_block_4 9 rfl rfl)
theorem dX17_block_85 : decode cX17_block 85 = .ok (.iload_n 2, 1) := dk_28 (dk_at dksX17_block_4 10 rfl rfl)
theorem dX17_block_86 : decode cX17_block 86 = .ok (.invokevirtual 169, 3) := dk_182 0 169 (dk_at dksX17_block_4 11 rfl rfl)
theorem dX17_block_89 : decode cX17_block 89 = .ok (.goto 4, 3) := dk_167 0 4 (dk_at dksX17_block_4 14 rfl rfl)
theorem dX17_block_92 : decode cX17_block 92 = .ok (.iconst (-1), 1) := dk_2 (dk_at dksX17_block_4 17 rfl rfl)
theorem dX17_block_93 : decode cX17_block 93 = .ok (.ireturn, 1) := dk_172 (dk_at dksX17_block_4 18 rfl rfl)
theorem dX17_block_94 : decode cX17_block 94 = .ok (.iconst (-1), 1) := dk_2 (dk_at dksX17_block_4 19 rfl rfl)
theorem dX17_block_95 : decode cX17_block 95 = .ok (.ireturn, 1) := dk_172 (dk_at dksX17_block_4 20 rfl rfl)
abbrev cX17_wordOf : ByteArray := prog_24_method_15_code
def yX17_wordOf : MethodName := ⟨RX17, "wordOf", "(I)I"⟩
def dkwX17_wordOf_1 : List UInt8 := [167, 0, 4, 3, 130, 60, 132, 2, 1, 167, 255, 228, 27, 172]
abbrev dktX17_wordOf_1 : List UInt8 := dkwX17_wordOf_1 ++ []
def dkwX17_wordOf_0 : List UInt8 := [3, 60, 3, 61, 28, 16, 12, 162, 0, 28, 27, 26, 28, 184, 0, 118, 153, 0, 10, 28, 184, 0, 104]
abbrev dktX17_wordOf_0 : List UInt8 := dkwX17_wordOf_0 ++ dktX17_wordOf_1
theorem dksX17_wordOf_0 : cX17_wordOf.data.toList.drop 0 = dktX17_wordOf_0 := by decide +kernel
theorem dksX17_wordOf_1 : cX17_wordOf.data.toList.drop 23 = dktX17_wordOf_1 := dk_seg dksX17_wordOf_0 23 rfl rfl
theorem dX17_wordOf_0 : decode cX17_wordOf 0 = .ok (.iconst 0, 1) := dk_3 (dk_at dksX17_wordOf_0 0 rfl rfl)
theorem dX17_wordOf_1 : decode cX17_wordOf 1 = .ok (.istore_n 1, 1) := dk_60 (dk_at dksX17_wordOf_0 1 rfl rfl)
theorem dX17_wordOf_2 : decode cX17_wordOf 2 = .ok (.iconst 0, 1) := dk_3 (dk_at dksX17_wordOf_0 2 rfl rfl)
theorem dX17_wordOf_3 : decode cX17_wordOf 3 = .ok (.istore_n 2, 1) := dk_61 (dk_at dksX17_wordOf_0 3 rfl rfl)
theorem dX17_wordOf_4 : decode cX17_wordOf 4 = .ok (.iload_n 2, 1) := dk_28 (dk_at dksX17_wordOf_0 4 rfl rfl)
theorem dX17_wordOf_5 : decode cX17_wordOf 5 = .ok (.bipush 12, 2) := dk_16 12 (dk_at dksX17_wordOf_0 5 rfl rfl)
theorem dX17_wordOf_7 : decode cX17_wordOf 7 = .ok (.if_icmp .ge 28, 3) := dk_162 0 28 (dk_at dksX17_wordOf_0 7 rfl rfl)
theorem dX17_wordOf_10 : decode cX17_wordOf 10 = .ok (.iload_n 1, 1) := dk_27 (dk_at dksX17_wordOf_0 10 rfl rfl)
theorem dX17_wordOf_11 : decode cX17_wordOf 11 = .ok (.iload_n 0, 1) := dk_26 (dk_at dksX17_wordOf_0 11 rfl rfl)
theorem dX17_wordOf_12 : decode cX17_wordOf 12 = .ok (.iload_n 2, 1) := dk_28 (dk_at dksX17_wordOf_0 12 rfl rfl)
theorem dX17_wordOf_13 : decode cX17_wordOf 13 = .ok (.invokestatic 118, 3) := dk_184 0 118 (dk_at dksX17_wordOf_0 13 rfl rfl)
theorem dX17_wordOf_16 : decode cX17_wordOf 16 = .ok (.ifCond .eq 10, 3) := dk_153 0 10 (dk_at dksX17_wordOf_0 16 rfl rfl)
theorem dX17_wordOf_19 : decode cX17_wordOf 19 = .ok (.iload_n 2, 1) := dk_28 (dk_at dksX17_wordOf_0 19 rfl rfl)
theorem dX17_wordOf_20 : decode cX17_wordOf 20 = .ok (.invokestatic 104, 3) := dk_184 0 104 (dk_at dksX17_wordOf_0 20 rfl rfl)
theorem dX17_wordOf_23 : decode cX17_wordOf 23 = .ok (.goto 4, 3) := dk_167 0 4 (dk_at dksX17_wordOf_1 0 rfl rfl)
theorem dX17_wordOf_26 : decode cX17_wordOf 26 = .ok (.iconst 0, 1) := dk_3 (dk_at dksX17_wordOf_1 3 rfl rfl)
theorem dX17_wordOf_27 : decode cX17_wordOf 27 = .ok (.ixor, 1) := dk_130 (dk_at dksX17_wordOf_1 4 rfl rfl)
theorem dX17_wordOf_28 : decode cX17_wordOf 28 = .ok (.istore_n 1, 1) := dk_60 (dk_at dksX17_wordOf_1 5 rfl rfl)
theorem dX17_wordOf_29 : decode cX17_wordOf 29 = .ok (.iinc 2 1, 3) := dk_132 2 1 (dk_at dksX17_wordOf_1 6 rfl rfl)
theorem dX17_wordOf_32 : decode cX17_wordOf 32 = .ok (.goto (-28), 3) := dk_167 255 228 (dk_at dksX17_wordOf_1 9 rfl rfl)
theorem dX17_wordOf_35 : decode cX17_wordOf 35 = .ok (.iload_n 1, 1) := dk_27 (dk_at dksX17_wordOf_1 12 rfl rfl)
theorem dX17_wordOf_36 : decode cX17_wordOf 36 = .ok (.ireturn, 1) := dk_172 (dk_at dksX17_wordOf_1 13 rfl rfl)
abbrev cX17_dodecad : ByteArray := prog_24_method_20_code
def yX17_dodecad : MethodName := ⟨RX17, "dodecad", "(I)I"⟩
def dkwX17_dodecad_2 : List UInt8 := [3, 100, 61, 132, 3, 1, 167, 255, 206, 42, 180, 0, 19, 29, 46, 172]
abbrev dktX17_dodecad_2 : List UInt8 := dkwX17_dodecad_2 ++ []
def dkwX17_dodecad_1 : List UInt8 := [16, 12, 159, 0, 31, 28, 42, 180, 0, 19, 29, 46, 184, 0, 115, 16, 12, 160, 0, 7, 4, 167, 0, 4]
abbrev dktX17_dodecad_1 : List UInt8 := dkwX17_dodecad_1 ++ dktX17_dodecad_2
def dkwX17_dodecad_0 : List UInt8 := [27, 61, 3, 62, 29, 17, 15, 255, 162, 0, 49, 28, 157, 0, 17, 42, 180, 0, 19, 29, 46, 184, 0, 115]
abbrev dktX17_dodecad_0 : List UInt8 := dkwX17_dodecad_0 ++ dktX17_dodecad_1
theorem dksX17_dodecad_0 : cX17_dodecad.data.toList.drop 0 = dktX17_dodecad_0 := by decide +kernel
theorem dksX17_dodecad_1 : cX17_dodecad.data.toList.drop 24 = dktX17_dodecad_1 := dk_seg dksX17_dodecad_0 24 rfl rfl
theorem dksX17_dodecad_2 : cX17_dodecad.data.toList.drop 48 = dktX17_dodecad_2 := dk_seg dksX17_dodecad_1 24 rfl rfl
theorem dX17_dodecad_0 : decode cX17_dodecad 0 = .ok (.iload_n 1, 1) := dk_27 (dk_at dksX17_dodecad_0 0 rfl rfl)
theorem dX17_dodecad_1 : decode cX17_dodecad 1 = .ok (.istore_n 2, 1) := dk_61 (dk_at dksX17_dodecad_0 1 rfl rfl)
theorem dX17_dodecad_2 : decode cX17_dodecad 2 = .ok (.iconst 0, 1) := dk_3 (dk_at dksX17_dodecad_0 2 rfl rfl)
theorem dX17_dodecad_3 : decode cX17_dodecad 3 = .ok (.istore_n 3, 1) := dk_62 (dk_at dksX17_dodecad_0 3 rfl rfl)
theorem dX17_dodecad_4 : decode cX17_dodecad 4 = .ok (.iload_n 3, 1) := dk_29 (dk_at dksX17_dodecad_0 4 rfl rfl)
theorem dX17_dodecad_5 : decode cX17_dodecad 5 = .ok (.sipush 4095, 3) := dk_17 15 255 (dk_at dksX17_dodecad_0 5 rfl rfl)
theorem dX17_dodecad_8 : decode cX17_dodecad 8 = .ok (.if_icmp .ge 49, 3) := dk_162 0 49 (dk_at dksX17_dodecad_0 8 rfl rfl)
theorem dX17_dodecad_11 : decode cX17_dodecad 11 = .ok (.iload_n 2, 1) := dk_28 (dk_at dksX17_dodecad_0 11 rfl rfl)
theorem dX17_dodecad_12 : decode cX17_dodecad 12 = .ok (.ifCond .gt 17, 3) := dk_157 0 17 (dk_at dksX17_dodecad_0 12 rfl rfl)
theorem dX17_dodecad_15 : decode cX17_dodecad 15 = .ok (.aload_n 0, 1) := dk_42 (dk_at dksX17_dodecad_0 15 rfl rfl)
theorem dX17_dodecad_16 : decode cX17_dodecad 16 = .ok (.getfield 19, 3) := dk_180 0 19 (dk_at dksX17_dodecad_0 16 rfl rfl)
theorem dX17_dodecad_19 : decode cX17_dodecad 19 = .ok (.iload_n 3, 1) := dk_29 (dk_at dksX17_dodecad_0 19 rfl rfl)
theorem dX17_dodecad_20 : decode cX17_dodecad 20 = .ok (.iaload, 1) := dk_46 (dk_at dksX17_dodecad_0 20 rfl rfl)
theorem dX17_dodecad_21 : decode cX17_dodecad 21 = .ok (.invokestatic 115, 3) := dk_184 0 115 (dk_at dksX17_dodecad_0 21 rfl rfl)
theorem dX17_dodecad_24 : decode cX17_dodecad 24 = .ok (.bipush 12, 2) := dk_16 12 (dk_at dksX17_dodecad_1 0 rfl rfl)
theorem dX17_dodecad_26 : decode cX17_dodecad 26 = .ok (.if_icmp .eq 31, 3) := dk_159 0 31 (dk_at dksX17_dodecad_1 2 rfl rfl)
theorem dX17_dodecad_29 : decode cX17_dodecad 29 = .ok (.iload_n 2, 1) := dk_28 (dk_at dksX17_dodecad_1 5 rfl rfl)
theorem dX17_dodecad_30 : decode cX17_dodecad 30 = .ok (.aload_n 0, 1) := dk_42 (dk_at dksX17_dodecad_1 6 rfl rfl)
theorem dX17_dodecad_31 : decode cX17_dodecad 31 = .ok (.getfield 19, 3) := dk_180 0 19 (dk_at dksX17_dodecad_1 7 rfl rfl)
theorem dX17_dodecad_34 : decode cX17_dodecad 34 = .ok (.iload_n 3, 1) := dk_29 (dk_at dksX17_dodecad_1 10 rfl rfl)
theorem dX17_dodecad_35 : decode cX17_dodecad 35 = .ok (.iaload, 1) := dk_46 (dk_at dksX17_dodecad_1 11 rfl rfl)
theorem dX17_dodecad_36 : decode cX17_dodecad 36 = .ok (.invokestatic 115, 3) := dk_184 0 115 (dk_at dksX17_dodecad_1 12 rfl rfl)
theorem dX17_dodecad_39 : decode cX17_dodecad 39 = .ok (.bipush 12, 2) := dk_16 12 (dk_at dksX17_dodecad_1 15 rfl rfl)
theorem dX17_dodecad_41 : decode cX17_dodecad 41 = .ok (.if_icmp .ne 7, 3) := dk_160 0 7 (dk_at dksX17_dodecad_1 17 rfl rfl)
theorem dX17_dodecad_44 : decode cX17_dodecad 44 = .ok (.iconst 1, 1) := dk_4 (dk_at dksX17_dodecad_1 20 rfl rfl)
theorem dX17_dodecad_45 : decode cX17_dodecad 45 = .ok (.goto 4, 3) := dk_167 0 4 (dk_at dksX17_dodecad_1 21 rfl rfl)
theorem dX17_dodecad_48 : decode cX17_dodecad 48 = .ok (.iconst 0, 1) := dk_3 (dk_at dksX17_dodecad_2 0 rfl rfl)
theorem dX17_dodecad_49 : decode cX17_dodecad 49 = .ok (.isub, 1) := dk_100 (dk_at dksX17_dodecad_2 1 rfl rfl)
theorem dX17_dodecad_50 : decode cX17_dodecad 50 = .ok (.istore_n 2, 1) := dk_61 (dk_at dksX17_dodecad_2 2 rfl rfl)
theorem dX17_dodecad_51 : decode cX17_dodecad 51 = .ok (.iinc 3 1, 3) := dk_132 3 1 (dk_at dksX17_dodecad_2 3 rfl rfl)
theorem dX17_dodecad_54 : decode cX17_dodecad 54 = .ok (.goto (-50), 3) := dk_167 255 206 (dk_at dksX17_dodecad_2 6 rfl rfl)
theorem dX17_dodecad_57 : decode cX17_dodecad 57 = .ok (.aload_n 0, 1) := dk_42 (dk_at dksX17_dodecad_2 9 rfl rfl)
theorem dX17_dodecad_58 : decode cX17_dodecad 58 = .ok (.getfield 19, 3) := dk_180 0 19 (dk_at dksX17_dodecad_2 10 rfl rfl)
theorem dX17_dodecad_61 : decode cX17_dodecad 61 = .ok (.iload_n 3, 1) := dk_29 (dk_at dksX17_dodecad_2 13 rfl rfl)
theorem dX17_dodecad_62 : decode cX17_dodecad 62 = .ok (.iaload, 1) := dk_46 (dk_at dksX17_dodecad_2 14 rfl rfl)
theorem dX17_dodecad_63 : decode cX17_dodecad 63 = .ok (.ireturn, 1) := dk_172 (dk_at dksX17_dodecad_2 15 rfl rfl)
abbrev cX17_complete : ByteArray := prog_24_method_23_code
def yX17_complete : MethodName := ⟨RX17, "complete", "(I)I"⟩
def dkwX17_complete_1 : List UInt8 := [42, 27, 182, 0, 172, 172]
abbrev dktX17_complete_1 : List UInt8 := dkwX17_complete_1 ++ []
def dkwX17_complete_0 : List UInt8 := [27, 184, 0, 144, 154, 0, 7, 2, 167, 0, 21, 27, 184, 0, 115, 8, 159, 0, 8, 16, 254, 167, 0, 8]
abbrev dktX17_complete_0 : List UInt8 := dkwX17_complete_0 ++ dktX17_complete_1
theorem dksX17_complete_0 : cX17_complete.data.toList.drop 0 = dktX17_complete_0 := by decide +kernel
theorem dksX17_complete_1 : cX17_complete.data.toList.drop 24 = dktX17_complete_1 := dk_seg dksX17_complete_0 24 rfl rfl
theorem dX17_complete_0 : decode cX17_complete 0 = .ok (.iload_n 1, 1) := dk_27 (dk_at dksX17_complete_0 0 rfl rfl)
theorem dX17_complete_1 : decode cX17_complete 1 = .ok (.invokestatic 144, 3) := dk_184 0 144 (dk_at dksX17_complete_0 1 rfl rfl)
theorem dX17_complete_4 : decode cX17_complete 4 = .ok (.ifCond .ne 7, 3) := dk_154 0 7 (dk_at dksX17_complete_0 4 rfl rfl)
theorem dX17_complete_7 : decode cX17_complete 7 = .ok (.iconst (-1), 1) := dk_2 (dk_at dksX17_complete_0 7 rfl rfl)
theorem dX17_complete_8 : decode cX17_complete 8 = .ok (.goto 21, 3) := dk_167 0 21 (dk_at dksX17_complete_0 8 rfl rfl)
theorem dX17_complete_11 : decode cX17_complete 11 = .ok (.iload_n 1, 1) := dk_27 (dk_at dksX17_complete_0 11 rfl rfl)
theorem dX17_complete_12 : decode cX17_complete 12 = .ok (.invokestatic 115, 3) := dk_184 0 115 (dk_at dksX17_complete_0 12 rfl rfl)
theorem dX17_complete_15 : decode cX17_complete 15 = .ok (.iconst 5, 1) := dk_8 (dk_at dksX17_complete_0 15 rfl rfl)
theorem dX17_complete_16 : decode cX17_complete 16 = .ok (.if_icmp .eq 8, 3) := dk_159 0 8 (dk_at dksX17_complete_0 16 rfl rfl)
theorem dX17_complete_19 : decode cX17_complete 19 = .ok (.bipush (-2), 2) := dk_16 254 (dk_at dksX17_complete_0 19 rfl rfl)
theorem dX17_complete_21 : decode cX17_complete 21 = .ok (.goto 8, 3) := dk_167 0 8 (dk_at dksX17_complete_0 21 rfl rfl)
theorem dX17_complete_24 : decode cX17_complete 24 = .ok (.aload_n 0, 1) := dk_42 (dk_at dksX17_complete_1 0 rfl rfl)
theorem dX17_complete_25 : decode cX17_complete 25 = .ok (.iload_n 1, 1) := dk_27 (dk_at dksX17_complete_1 1 rfl rfl)
theorem dX17_complete_26 : decode cX17_complete 26 = .ok (.invokevirtual 172, 3) := dk_182 0 172 (dk_at dksX17_complete_1 2 rfl rfl)
theorem dX17_complete_29 : decode cX17_complete 29 = .ok (.ireturn, 1) := dk_172 (dk_at dksX17_complete_1 5 rfl rfl)
abbrev cX17_octadOf : ByteArray := prog_24_method_22_code
def yX17_octadOf : MethodName := ⟨RX17, "octadOf", "(I)I"⟩
def dkwX17_octadOf_1 : List UInt8 := [132, 2, 1, 167, 255, 233, 42, 180, 0, 22, 28, 46, 172]
abbrev dktX17_octadOf_1 : List UInt8 := dkwX17_octadOf_1 ++ []
def dkwX17_octadOf_0 : List UInt8 := [3, 61, 28, 17, 2, 246, 162, 0, 22, 27, 42, 180, 0, 22, 28, 46, 2, 130, 126, 153, 0, 9]
abbrev dktX17_octadOf_0 : List UInt8 := dkwX17_octadOf_0 ++ dktX17_octadOf_1
theorem dksX17_octadOf_0 : cX17_octadOf.data.toList.drop 0 = dktX17_octadOf_0 := by decide +kernel
theorem dksX17_octadOf_1 : cX17_octadOf.data.toList.drop 22 = dktX17_octadOf_1 := dk_seg dksX17_octadOf_0 22 rfl rfl
theorem dX17_octadOf_0 : decode cX17_octadOf 0 = .ok (.iconst 0, 1) := dk_3 (dk_at dksX17_octadOf_0 0 rfl rfl)
theorem dX17_octadOf_1 : decode cX17_octadOf 1 = .ok (.istore_n 2, 1) := dk_61 (dk_at dksX17_octadOf_0 1 rfl rfl)
theorem dX17_octadOf_2 : decode cX17_octadOf 2 = .ok (.iload_n 2, 1) := dk_28 (dk_at dksX17_octadOf_0 2 rfl rfl)
theorem dX17_octadOf_3 : decode cX17_octadOf 3 = .ok (.sipush 758, 3) := dk_17 2 246 (dk_at dksX17_octadOf_0 3 rfl rfl)
theorem dX17_octadOf_6 : decode cX17_octadOf 6 = .ok (.if_icmp .ge 22, 3) := dk_162 0 22 (dk_at dksX17_octadOf_0 6 rfl rfl)
theorem dX17_octadOf_9 : decode cX17_octadOf 9 = .ok (.iload_n 1, 1) := dk_27 (dk_at dksX17_octadOf_0 9 rfl rfl)
theorem dX17_octadOf_10 : decode cX17_octadOf 10 = .ok (.aload_n 0, 1) := dk_42 (dk_at dksX17_octadOf_0 10 rfl rfl)
theorem dX17_octadOf_11 : decode cX17_octadOf 11 = .ok (.getfield 22, 3) := dk_180 0 22 (dk_at dksX17_octadOf_0 11 rfl rfl)
theorem dX17_octadOf_14 : decode cX17_octadOf 14 = .ok (.iload_n 2, 1) := dk_28 (dk_at dksX17_octadOf_0 14 rfl rfl)
theorem dX17_octadOf_15 : decode cX17_octadOf 15 = .ok (.iaload, 1) := dk_46 (dk_at dksX17_octadOf_0 15 rfl rfl)
theorem dX17_octadOf_16 : decode cX17_octadOf 16 = .ok (.iconst (-1), 1) := dk_2 (dk_at dksX17_octadOf_0 16 rfl rfl)
theorem dX17_octadOf_17 : decode cX17_octadOf 17 = .ok (.ixor, 1) := dk_130 (dk_at dksX17_octadOf_0 17 rfl rfl)
theorem dX17_octadOf_18 : decode cX17_octadOf 18 = .ok (.iand, 1) := dk_126 (dk_at dksX17_octadOf_0 18 rfl rfl)
theorem dX17_octadOf_19 : decode cX17_octadOf 19 = .ok (.ifCond .eq 9, 3) := dk_153 0 9 (dk_at dksX17_octadOf_0 19 rfl rfl)
theorem dX17_octadOf_22 : decode cX17_octadOf 22 = .ok (.iinc 2 1, 3) := dk_132 2 1 (dk_at dksX17_octadOf_1 0 rfl rfl)
theorem dX17_octadOf_25 : decode cX17_octadOf 25 = .ok (.goto (-23), 3) := dk_167 255 233 (dk_at dksX17_octadOf_1 3 rfl rfl)
theorem dX17_octadOf_28 : decode cX17_octadOf 28 = .ok (.aload_n 0, 1) := dk_42 (dk_at dksX17_octadOf_1 6 rfl rfl)
theorem dX17_octadOf_29 : decode cX17_octadOf 29 = .ok (.getfield 22, 3) := dk_180 0 22 (dk_at dksX17_octadOf_1 7 rfl rfl)
theorem dX17_octadOf_32 : decode cX17_octadOf 32 = .ok (.iload_n 2, 1) := dk_28 (dk_at dksX17_octadOf_1 10 rfl rfl)
theorem dX17_octadOf_33 : decode cX17_octadOf 33 = .ok (.iaload, 1) := dk_46 (dk_at dksX17_octadOf_1 11 rfl rfl)
theorem dX17_octadOf_34 : decode cX17_octadOf 34 = .ok (.ireturn, 1) := dk_172 (dk_at dksX17_octadOf_1 12 rfl rfl)
abbrev cX17_sextet : ByteArray := prog_24_method_25_code
def yX17_sextet : MethodName := ⟨RX17, "sextet", "(II)I"⟩
def dkwX17_sextet_3 : List UInt8 := [167, 255, 229, 21, 4, 172]
abbrev dktX17_sextet_3 : List UInt8 := dkwX17_sextet_3 ++ []
def dkwX17_sextet_2 : List UInt8 := [163, 0, 27, 42, 27, 29, 184, 0, 112, 182, 0, 178, 54, 4, 29, 21, 4, 2, 130, 126, 62, 132, 5, 1]
abbrev dktX17_sextet_2 : List UInt8 := dkwX17_sextet_2 ++ dktX17_sextet_3
def dkwX17_sextet_1 : List UInt8 := [184, 0, 115, 7, 159, 0, 6, 16, 254, 172, 18, 177, 62, 3, 54, 4, 3, 54, 5, 21, 5, 28]
abbrev dktX17_sextet_1 : List UInt8 := dkwX17_sextet_1 ++ dktX17_sextet_2
def dkwX17_sextet_0 : List UInt8 := [27, 184, 0, 144, 153, 0, 15, 28, 133, 9, 20, 0, 175, 184, 0, 124, 154, 0, 5, 2, 172, 27]
abbrev dktX17_sextet_0 : List UInt8 := dkwX17_sextet_0 ++ dktX17_sextet_1
theorem dksX17_sextet_0 : cX17_sextet.data.toList.drop 0 = dktX17_sextet_0 := by decide +kernel
theorem dksX17_sextet_1 : cX17_sextet.data.toList.drop 22 = dktX17_sextet_1 := dk_seg dksX17_sextet_0 22 rfl rfl
theorem dksX17_sextet_2 : cX17_sextet.data.toList.drop 44 = dktX17_sextet_2 := dk_seg dksX17_sextet_1 22 rfl rfl
theorem dksX17_sextet_3 : cX17_sextet.data.toList.drop 68 = dktX17_sextet_3 := dk_seg dksX17_sextet_2 24 rfl rfl
theorem dX17_sextet_0 : decode cX17_sextet 0 = .ok (.iload_n 1, 1) := dk_27 (dk_at dksX17_sextet_0 0 rfl rfl)
theorem dX17_sextet_1 : decode cX17_sextet 1 = .ok (.invokestatic 144, 3) := dk_184 0 144 (dk_at dksX17_sextet_0 1 rfl rfl)
theorem dX17_sextet_4 : decode cX17_sextet 4 = .ok (.ifCond .eq 15, 3) := dk_153 0 15 (dk_at dksX17_sextet_0 4 rfl rfl)
theorem dX17_sextet_7 : decode cX17_sextet 7 = .ok (.iload_n 2, 1) := dk_28 (dk_at dksX17_sextet_0 7 rfl rfl)
theorem dX17_sextet_8 : decode cX17_sextet 8 = .ok (.i2l, 1) := dk_133 (dk_at dksX17_sextet_0 8 rfl rfl)
theorem dX17_sextet_9 : decode cX17_sextet 9 = .ok (.lconst 0, 1) := dk_9 (dk_at dksX17_sextet_0 9 rfl rfl)
theorem dX17_sextet_10 : decode cX17_sextet 10 = .ok (.ldc2_w 175, 3) := dk_20 0 175 (dk_at dksX17_sextet_0 10 rfl rfl)
theorem dX17_sextet_13 : decode cX17_sextet 13 = .ok (.invokestatic 124, 3) := dk_184 0 124 (dk_at dksX17_sextet_0 13 rfl rfl)
theorem dX17_sextet_16 : decode cX17_sextet 16 = .ok (.ifCond .ne 5, 3) := dk_154 0 5 (dk_at dksX17_sextet_0 16 rfl rfl)
theorem dX17_sextet_19 : decode cX17_sextet 19 = .ok (.iconst (-1), 1) := dk_2 (dk_at dksX17_sextet_0 19 rfl rfl)
theorem dX17_sextet_20 : decode cX17_sextet 20 = .ok (.ireturn, 1) := dk_172 (dk_at dksX17_sextet_0 20 rfl rfl)
theorem dX17_sextet_21 : decode cX17_sextet 21 = .ok (.iload_n 1, 1) := dk_27 (dk_at dksX17_sextet_0 21 rfl rfl)
theorem dX17_sextet_22 : decode cX17_sextet 22 = .ok (.invokestatic 115, 3) := dk_184 0 115 (dk_at dksX17_sextet_1 0 rfl rfl)
theorem dX17_sextet_25 : decode cX17_sextet 25 = .ok (.iconst 4, 1) := dk_7 (dk_at dksX17_sextet_1 3 rfl rfl)
theorem dX17_sextet_26 : decode cX17_sextet 26 = .ok (.if_icmp .eq 6, 3) := dk_159 0 6 (dk_at dksX17_sextet_1 4 rfl rfl)
theorem dX17_sextet_29 : decode cX17_sextet 29 = .ok (.bipush (-2), 2) := dk_16 254 (dk_at dksX17_sextet_1 7 rfl rfl)
theorem dX17_sextet_31 : decode cX17_sextet 31 = .ok (.ireturn, 1) := dk_172 (dk_at dksX17_sextet_1 9 rfl rfl)
theorem dX17_sextet_32 : decode cX17_sextet 32 = .ok (.ldc 177, 2) := dk_18 177 (dk_at dksX17_sextet_1 10 rfl rfl)
theorem dX17_sextet_34 : decode cX17_sextet 34 = .ok (.istore_n 3, 1) := dk_62 (dk_at dksX17_sextet_1 12 rfl rfl)
theorem dX17_sextet_35 : decode cX17_sextet 35 = .ok (.iconst 0, 1) := dk_3 (dk_at dksX17_sextet_1 13 rfl rfl)
theorem dX17_sextet_36 : decode cX17_sextet 36 = .ok (.istore 4, 2) := dk_54 4 (dk_at dksX17_sextet_1 14 rfl rfl)
theorem dX17_sextet_38 : decode cX17_sextet 38 = .ok (.iconst 0, 1) := dk_3 (dk_at dksX17_sextet_1 16 rfl rfl)
theorem dX17_sextet_39 : decode cX17_sextet 39 = .ok (.istore 5, 2) := dk_54 5 (dk_at dksX17_sextet_1 17 rfl rfl)
theorem dX17_sextet_41 : decode cX17_sextet 41 = .ok (.iload 5, 2) := dk_21 5 (dk_at dksX17_sextet_1 19 rfl rfl)
theorem dX17_sextet_43 : decode cX17_sextet 43 = .ok (.iload_n 2, 1) := dk_28 (dk_at dksX17_sextet_1 21 rfl rfl)
theorem dX17_sextet_44 : decode cX17_sextet 44 = .ok (.if_icmp .gt 27, 3) := dk_163 0 27 (dk_at dksX17_sextet_2 0 rfl rfl)
theorem dX17_sextet_47 : decode cX17_sextet 47 = .ok (.aload_n 0, 1) := dk_42 (dk_at dksX17_sextet_2 3 rfl rfl)
theorem dX17_sextet_48 : decode cX17_sextet 48 = .ok (.iload_n 1, 1) := dk_27 (dk_at dksX17_sextet_2 4 rfl rfl)
theorem dX17_sextet_49 : decode cX17_sextet 49 = .ok (.iload_n 3, 1) := dk_29 (dk_at dksX17_sextet_2 5 rfl rfl)
theorem dX17_sextet_50 : decode cX17_sextet 50 = .ok (.invokestatic 112, 3) := dk_184 0 112 (dk_at dksX17_sextet_2 6 rfl rfl)
theorem dX17_sextet_53 : decode cX17_sextet 53 = .ok (.invokevirtual 178, 3) := dk_182 0 178 (dk_at dksX17_sextet_2 9 rfl rfl)
theorem dX17_sextet_56 : decode cX17_sextet 56 = .ok (.istore 4, 2) := dk_54 4 (dk_at dksX17_sextet_2 12 rfl rfl)
theorem dX17_sextet_58 : decode cX17_sextet 58 = .ok (.iload_n 3, 1) := dk_29 (dk_at dksX17_sextet_2 14 rfl rfl)
theorem dX17_sextet_59 : decode cX17_sextet 59 = .ok (.iload 4, 2) := dk_21 4 (dk_at dksX17_sextet_2 15 rfl rfl)
theorem dX17_sextet_61 : decode cX17_sextet 61 = .ok (.iconst (-1), 1) := dk_2 (dk_at dksX17_sextet_2 17 rfl rfl)
theorem dX17_sextet_62 : decode cX17_sextet 62 = .ok (.ixor, 1) := dk_130 (dk_at dksX17_sextet_2 18 rfl rfl)
theorem dX17_sextet_63 : decode cX17_sextet 63 = .ok (.iand, 1) := dk_126 (dk_at dksX17_sextet_2 19 rfl rfl)
theorem dX17_sextet_64 : decode cX17_sextet 64 = .ok (.istore_n 3, 1) := dk_62 (dk_at dksX17_sextet_2 20 rfl rfl)
theorem dX17_sextet_65 : decode cX17_sextet 65 = .ok (.iinc 5 1, 3) := dk_132 5 1 (dk_at dksX17_sextet_2 21 rfl rfl)
theorem dX17_sextet_68 : decode cX17_sextet 68 = .ok (.goto (-27), 3) := dk_167 255 229 (dk_at dksX17_sextet_3 0 rfl rfl)
theorem dX17_sextet_71 : decode cX17_sextet 71 = .ok (.iload 4, 2) := dk_21 4 (dk_at dksX17_sextet_3 3 rfl rfl)
theorem dX17_sextet_73 : decode cX17_sextet 73 = .ok (.ireturn, 1) := dk_172 (dk_at dksX17_sextet_3 5 rfl rfl)
abbrev cX17_tetradAt : ByteArray := prog_24_method_24_code
def yX17_tetradAt : MethodName := ⟨RX17, "tetradAt", "(II)I"⟩
def dkwX17_tetradAt_1 : List UInt8 := [126, 172]
abbrev dktX17_tetradAt_1 : List UInt8 := dkwX17_tetradAt_1 ++ []
def dkwX17_tetradAt_0 : List UInt8 := [27, 28, 184, 0, 118, 153, 0, 7, 27, 167, 0, 16, 42, 27, 4, 28, 120, 128, 182, 0, 172, 27, 2, 130]
abbrev dktX17_tetradAt_0 : List UInt8 := dkwX17_tetradAt_0 ++ dktX17_tetradAt_1
theorem dksX17_tetradAt_0 : cX17_tetradAt.data.toList.drop 0 = dktX17_tetradAt_0 := by decide +kernel
theorem dksX17_tetradAt_1 : cX17_tetradAt.data.toList.drop 24 = dktX17_tetradAt_1 := dk_seg dksX17_tetradAt_0 24 rfl rfl
theorem dX17_tetradAt_0 : decode cX17_tetradAt 0 = .ok (.iload_n 1, 1) := dk_27 (dk_at dksX17_tetradAt_0 0 rfl rfl)
theorem dX17_tetradAt_1 : decode cX17_tetradAt 1 = .ok (.iload_n 2, 1) := dk_28 (dk_at dksX17_tetradAt_0 1 rfl rfl)
theorem dX17_tetradAt_2 : decode cX17_tetradAt 2 = .ok (.invokestatic 118, 3) := dk_184 0 118 (dk_at dksX17_tetradAt_0 2 rfl rfl)
theorem dX17_tetradAt_5 : decode cX17_tetradAt 5 = .ok (.ifCond .eq 7, 3) := dk_153 0 7 (dk_at dksX17_tetradAt_0 5 rfl rfl)
theorem dX17_tetradAt_8 : decode cX17_tetradAt 8 = .ok (.iload_n 1, 1) := dk_27 (dk_at dksX17_tetradAt_0 8 rfl rfl)
theorem dX17_tetradAt_9 : decode cX17_tetradAt 9 = .ok (.goto 16, 3) := dk_167 0 16 (dk_at dksX17_tetradAt_0 9 rfl rfl)
theorem dX17_tetradAt_12 : decode cX17_tetradAt 12 = .ok (.aload_n 0, 1) := dk_42 (dk_at dksX17_tetradAt_0 12 rfl rfl)
theorem dX17_tetradAt_13 : decode cX17_tetradAt 13 = .ok (.iload_n 1, 1) := dk_27 (dk_at dksX17_tetradAt_0 13 rfl rfl)
theorem dX17_tetradAt_14 : decode cX17_tetradAt 14 = .ok (.iconst 1, 1) := dk_4 (dk_at dksX17_tetradAt_0 14 rfl rfl)
theorem dX17_tetradAt_15 : decode cX17_tetradAt 15 = .ok (.iload_n 2, 1) := dk_28 (dk_at dksX17_tetradAt_0 15 rfl rfl)
theorem dX17_tetradAt_16 : decode cX17_tetradAt 16 = .ok (.ishl, 1) := dk_120 (dk_at dksX17_tetradAt_0 16 rfl rfl)
theorem dX17_tetradAt_17 : decode cX17_tetradAt 17 = .ok (.ior, 1) := dk_128 (dk_at dksX17_tetradAt_0 17 rfl rfl)
theorem dX17_tetradAt_18 : decode cX17_tetradAt 18 = .ok (.invokevirtual 172, 3) := dk_182 0 172 (dk_at dksX17_tetradAt_0 18 rfl rfl)
theorem dX17_tetradAt_21 : decode cX17_tetradAt 21 = .ok (.iload_n 1, 1) := dk_27 (dk_at dksX17_tetradAt_0 21 rfl rfl)
theorem dX17_tetradAt_22 : decode cX17_tetradAt 22 = .ok (.iconst (-1), 1) := dk_2 (dk_at dksX17_tetradAt_0 22 rfl rfl)
theorem dX17_tetradAt_23 : decode cX17_tetradAt 23 = .ok (.ixor, 1) := dk_130 (dk_at dksX17_tetradAt_0 23 rfl rfl)
theorem dX17_tetradAt_24 : decode cX17_tetradAt 24 = .ok (.iand, 1) := dk_126 (dk_at dksX17_tetradAt_1 0 rfl rfl)
theorem dX17_tetradAt_25 : decode cX17_tetradAt 25 = .ok (.ireturn, 1) := dk_172 (dk_at dksX17_tetradAt_1 1 rfl rfl)
abbrev cX17_both : ByteArray := prog_24_method_27_code
def yX17_both : MethodName := ⟨RX17, "both", "(II)I"⟩
def dkwX17_both_3 : List UInt8 := [28, 182, 0, 181, 153, 0, 7, 4, 167, 0, 4, 3, 96, 62, 132, 4, 1, 167, 255, 207, 29, 172]
abbrev dktX17_both_3 : List UInt8 := dkwX17_both_3 ++ []
def dkwX17_both_2 : List UInt8 := [29, 42, 42, 180, 0, 22, 21, 4, 46, 27, 182, 0, 181, 153, 0, 22, 42, 42, 180, 0, 22, 21, 4, 46]
abbrev dktX17_both_2 : List UInt8 := dkwX17_both_2 ++ dktX17_both_3
def dkwX17_both_1 : List UInt8 := [28, 184, 0, 115, 7, 159, 0, 6, 16, 254, 172, 3, 62, 3, 54, 4, 21, 4, 17, 2, 247, 162, 0, 47]
abbrev dktX17_both_1 : List UInt8 := dkwX17_both_1 ++ dktX17_both_2
def dkwX17_both_0 : List UInt8 := [27, 184, 0, 144, 153, 0, 10, 28, 184, 0, 144, 154, 0, 5, 2, 172, 27, 184, 0, 115, 7, 160, 0, 11]
abbrev dktX17_both_0 : List UInt8 := dkwX17_both_0 ++ dktX17_both_1
theorem dksX17_both_0 : cX17_both.data.toList.drop 0 = dktX17_both_0 := by decide +kernel
theorem dksX17_both_1 : cX17_both.data.toList.drop 24 = dktX17_both_1 := dk_seg dksX17_both_0 24 rfl rfl
theorem dksX17_both_2 : cX17_both.data.toList.drop 48 = dktX17_both_2 := dk_seg dksX17_both_1 24 rfl rfl
theorem dksX17_both_3 : cX17_both.data.toList.drop 72 = dktX17_both_3 := dk_seg dksX17_both_2 24 rfl rfl
theorem dX17_both_0 : decode cX17_both 0 = .ok (.iload_n 1, 1) := dk_27 (dk_at dksX17_both_0 0 rfl rfl)
theorem dX17_both_1 : decode cX17_both 1 = .ok (.invokestatic 144, 3) := dk_184 0 144 (dk_at dksX17_both_0 1 rfl rfl)
theorem dX17_both_4 : decode cX17_both 4 = .ok (.ifCond .eq 10, 3) := dk_153 0 10 (dk_at dksX17_both_0 4 rfl rfl)
theorem dX17_both_7 : decode cX17_both 7 = .ok (.iload_n 2, 1) := dk_28 (dk_at dksX17_both_0 7 rfl rfl)
theorem dX17_both_8 : decode cX17_both 8 = .ok (.invokestatic 144, 3) := dk_184 0 144 (dk_at dksX17_both_0 8 rfl rfl)
theorem dX17_both_11 : decode cX17_both 11 = .ok (.ifCond .ne 5, 3) := dk_154 0 5 (dk_at dksX17_both_0 11 rfl rfl)
theorem dX17_both_14 : decode cX17_both 14 = .ok (.iconst (-1), 1) := dk_2 (dk_at dksX17_both_0 14 rfl rfl)
theorem dX17_both_15 : decode cX17_both 15 = .ok (.ireturn, 1) := dk_172 (dk_at dksX17_both_0 15 rfl rfl)
theorem dX17_both_16 : decode cX17_both 16 = .ok (.iload_n 1, 1) := dk_27 (dk_at dksX17_both_0 16 rfl rfl)
theorem dX17_both_17 : decode cX17_both 17 = .ok (.invokestatic 115, 3) := dk_184 0 115 (dk_at dksX17_both_0 17 rfl rfl)
theorem dX17_both_20 : decode cX17_both 20 = .ok (.iconst 4, 1) := dk_7 (dk_at dksX17_both_0 20 rfl rfl)
theorem dX17_both_21 : decode cX17_both 21 = .ok (.if_icmp .ne 11, 3) := dk_160 0 11 (dk_at dksX17_both_0 21 rfl rfl)
theorem dX17_both_24 : decode cX17_both 24 = .ok (.iload_n 2, 1) := dk_28 (dk_at dksX17_both_1 0 rfl rfl)
theorem dX17_both_25 : decode cX17_both 25 = .ok (.invokestatic 115, 3) := dk_184 0 115 (dk_at dksX17_both_1 1 rfl rfl)
theorem dX17_both_28 : decode cX17_both 28 = .ok (.iconst 4, 1) := dk_7 (dk_at dksX17_both_1 4 rfl rfl)
theorem dX17_both_29 : decode cX17_both 29 = .ok (.if_icmp .eq 6, 3) := dk_159 0 6 (dk_at dksX17_both_1 5 rfl rfl)
theorem dX17_both_32 : decode cX17_both 32 = .ok (.bipush (-2), 2) := dk_16 254 (dk_at dksX17_both_1 8 rfl rfl)
theorem dX17_both_34 : decode cX17_both 34 = .ok (.ireturn, 1) := dk_172 (dk_at dksX17_both_1 10 rfl rfl)
theorem dX17_both_35 : decode cX17_both 35 = .ok (.iconst 0, 1) := dk_3 (dk_at dksX17_both_1 11 rfl rfl)
theorem dX17_both_36 : decode cX17_both 36 = .ok (.istore_n 3, 1) := dk_62 (dk_at dksX17_both_1 12 rfl rfl)
theorem dX17_both_37 : decode cX17_both 37 = .ok (.iconst 0, 1) := dk_3 (dk_at dksX17_both_1 13 rfl rfl)
theorem dX17_both_38 : decode cX17_both 38 = .ok (.istore 4, 2) := dk_54 4 (dk_at dksX17_both_1 14 rfl rfl)
theorem dX17_both_40 : decode cX17_both 40 = .ok (.iload 4, 2) := dk_21 4 (dk_at dksX17_both_1 16 rfl rfl)
theorem dX17_both_42 : decode cX17_both 42 = .ok (.sipush 759, 3) := dk_17 2 247 (dk_at dksX17_both_1 18 rfl rfl)
theorem dX17_both_45 : decode cX17_both 45 = .ok (.if_icmp .ge 47, 3) := dk_162 0 47 (dk_at dksX17_both_1 21 rfl rfl)
theorem dX17_both_48 : decode cX17_both 48 = .ok (.iload_n 3, 1) := dk_29 (dk_at dksX17_both_2 0 rfl rfl)
theorem dX17_both_49 : decode cX17_both 49 = .ok (.aload_n 0, 1) := dk_42 (dk_at dksX17_both_2 1 rfl rfl)
theorem dX17_both_50 : decode cX17_both 50 = .ok (.aload_n 0, 1) := dk_42 (dk_at dksX17_both_2 2 rfl rfl)
theorem dX17_both_51 : decode cX17_both 51 = .ok (.getfield 22, 3) := dk_180 0 22 (dk_at dksX17_both_2 3 rfl rfl)
theorem dX17_both_54 : decode cX17_both 54 = .ok (.iload 4, 2) := dk_21 4 (dk_at dksX17_both_2 6 rfl rfl)
theorem dX17_both_56 : decode cX17_both 56 = .ok (.iaload, 1) := dk_46 (dk_at dksX17_both_2 8 rfl rfl)
theorem dX17_both_57 : decode cX17_both 57 = .ok (.iload_n 1, 1) := dk_27 (dk_at dksX17_both_2 9 rfl rfl)
theorem dX17_both_58 : decode cX17_both 58 = .ok (.invokevirtual 181, 3) := dk_182 0 181 (dk_at dksX17_both_2 10 rfl rfl)
theorem dX17_both_61 : decode cX17_both 61 = .ok (.ifCond .eq 22, 3) := dk_153 0 22 (dk_at dksX17_both_2 13 rfl rfl)
theorem dX17_both_64 : decode cX17_both 64 = .ok (.aload_n 0, 1) := dk_42 (dk_at dksX17_both_2 16 rfl rfl)
theorem dX17_both_65 : decode cX17_both 65 = .ok (.aload_n 0, 1) := dk_42 (dk_at dksX17_both_2 17 rfl rfl)
theorem dX17_both_66 : decode cX17_both 66 = .ok (.getfield 22, 3) := dk_180 0 22 (dk_at dksX17_both_2 18 rfl rfl)
theorem dX17_both_69 : decode cX17_both 69 = .ok (.iload 4, 2) := dk_21 4 (dk_at dksX17_both_2 21 rfl rfl)
theorem dX17_both_71 : decode cX17_both 71 = .ok (.iaload, 1) := dk_46 (dk_at dksX17_both_2 23 rfl rfl)
theorem dX17_both_72 : decode cX17_both 72 = .ok (.iload_n 2, 1) := dk_28 (dk_at dksX17_both_3 0 rfl rfl)
theorem dX17_both_73 : decode cX17_both 73 = .ok (.invokevirtual 181, 3) := dk_182 0 181 (dk_at dksX17_both_3 1 rfl rfl)
theorem dX17_both_76 : decode cX17_both 76 = .ok (.ifCond .eq 7, 3) := dk_153 0 7 (dk_at dksX17_both_3 4 rfl rfl)
theorem dX17_both_79 : decode cX17_both 79 = .ok (.iconst 1, 1) := dk_4 (dk_at dksX17_both_3 7 rfl rfl)
theorem dX17_both_80 : decode cX17_both 80 = .ok (.goto 4, 3) := dk_167 0 4 (dk_at dksX17_both_3 8 rfl rfl)
theorem dX17_both_83 : decode cX17_both 83 = .ok (.iconst 0, 1) := dk_3 (dk_at dksX17_both_3 11 rfl rfl)
theorem dX17_both_84 : decode cX17_both 84 = .ok (.iadd, 1) := dk_96 (dk_at dksX17_both_3 12 rfl rfl)
theorem dX17_both_85 : decode cX17_both 85 = .ok (.istore_n 3, 1) := dk_62 (dk_at dksX17_both_3 13 rfl rfl)
theorem dX17_both_86 : decode cX17_both 86 = .ok (.iinc 4 1, 3) := dk_132 4 1 (dk_at dksX17_both_3 14 rfl rfl)
theorem dX17_both_89 : decode cX17_both 89 = .ok (.goto (-49), 3) := dk_167 255 207 (dk_at dksX17_both_3 17 rfl rfl)
theorem dX17_both_92 : decode cX17_both 92 = .ok (.iload_n 3, 1) := dk_29 (dk_at dksX17_both_3 20 rfl rfl)
theorem dX17_both_93 : decode cX17_both 93 = .ok (.ireturn, 1) := dk_172 (dk_at dksX17_both_3 21 rfl rfl)
abbrev cX17_isOfTwo : ByteArray := prog_24_method_26_code
def yX17_isOfTwo : MethodName := ⟨RX17, "isOfTwo", "(II)Z"⟩
def dkwX17_isOfTwo_2 : List UInt8 := [132, 4, 1, 167, 255, 213, 29, 172]
abbrev dktX17_isOfTwo_2 : List UInt8 := dkwX17_isOfTwo_2 ++ []
def dkwX17_isOfTwo_1 : List UInt8 := [153, 0, 17, 42, 28, 21, 4, 182, 0, 178, 27, 2, 130, 126, 154, 0, 7, 4, 167, 0, 4, 3, 62]
abbrev dktX17_isOfTwo_1 : List UInt8 := dkwX17_isOfTwo_1 ++ dktX17_isOfTwo_2
def dkwX17_isOfTwo_0 : List UInt8 := [4, 62, 3, 54, 4, 21, 4, 16, 24, 162, 0, 42, 29, 153, 0, 38, 27, 21, 4, 184, 0, 118]
abbrev dktX17_isOfTwo_0 : List UInt8 := dkwX17_isOfTwo_0 ++ dktX17_isOfTwo_1
theorem dksX17_isOfTwo_0 : cX17_isOfTwo.data.toList.drop 0 = dktX17_isOfTwo_0 := by decide +kernel
theorem dksX17_isOfTwo_1 : cX17_isOfTwo.data.toList.drop 22 = dktX17_isOfTwo_1 := dk_seg dksX17_isOfTwo_0 22 rfl rfl
theorem dksX17_isOfTwo_2 : cX17_isOfTwo.data.toList.drop 45 = dktX17_isOfTwo_2 := dk_seg dksX17_isOfTwo_1 23 rfl rfl
theorem dX17_isOfTwo_0 : decode cX17_isOfTwo 0 = .ok (.iconst 1, 1) := dk_4 (dk_at dksX17_isOfTwo_0 0 rfl rfl)
theorem dX17_isOfTwo_1 : decode cX17_isOfTwo 1 = .ok (.istore_n 3, 1) := dk_62 (dk_at dksX17_isOfTwo_0 1 rfl rfl)
theorem dX17_isOfTwo_2 : decode cX17_isOfTwo 2 = .ok (.iconst 0, 1) := dk_3 (dk_at dksX17_isOfTwo_0 2 rfl rfl)
theorem dX17_isOfTwo_3 : decode cX17_isOfTwo 3 = .ok (.istore 4, 2) := dk_54 4 (dk_at dksX17_isOfTwo_0 3 rfl rfl)
theorem dX17_isOfTwo_5 : decode cX17_isOfTwo 5 = .ok (.iload 4, 2) := dk_21 4 (dk_at dksX17_isOfTwo_0 5 rfl rfl)
theorem dX17_isOfTwo_7 : decode cX17_isOfTwo 7 = .ok (.bipush 24, 2) := dk_16 24 (dk_at dksX17_isOfTwo_0 7 rfl rfl)
theorem dX17_isOfTwo_9 : decode cX17_isOfTwo 9 = .ok (.if_icmp .ge 42, 3) := dk_162 0 42 (dk_at dksX17_isOfTwo_0 9 rfl rfl)
theorem dX17_isOfTwo_12 : decode cX17_isOfTwo 12 = .ok (.iload_n 3, 1) := dk_29 (dk_at dksX17_isOfTwo_0 12 rfl rfl)
theorem dX17_isOfTwo_13 : decode cX17_isOfTwo 13 = .ok (.ifCond .eq 38, 3) := dk_153 0 38 (dk_at dksX17_isOfTwo_0 13 rfl rfl)
theorem dX17_isOfTwo_16 : decode cX17_isOfTwo 16 = .ok (.iload_n 1, 1) := dk_27 (dk_at dksX17_isOfTwo_0 16 rfl rfl)
theorem dX17_isOfTwo_17 : decode cX17_isOfTwo 17 = .ok (.iload 4, 2) := dk_21 4 (dk_at dksX17_isOfTwo_0 17 rfl rfl)
theorem dX17_isOfTwo_19 : decode cX17_isOfTwo 19 = .ok (.invokestatic 118, 3) := dk_184 0 118 (dk_at dksX17_isOfTwo_0 19 rfl rfl)
theorem dX17_isOfTwo_22 : decode cX17_isOfTwo 22 = .ok (.ifCond .eq 17, 3) := dk_153 0 17 (dk_at dksX17_isOfTwo_1 0 rfl rfl)
theorem dX17_isOfTwo_25 : decode cX17_isOfTwo 25 = .ok (.aload_n 0, 1) := dk_42 (dk_at dksX17_isOfTwo_1 3 rfl rfl)
theorem dX17_isOfTwo_26 : decode cX17_isOfTwo 26 = .ok (.iload_n 2, 1) := dk_28 (dk_at dksX17_isOfTwo_1 4 rfl rfl)
theorem dX17_isOfTwo_27 : decode cX17_isOfTwo 27 = .ok (.iload 4, 2) := dk_21 4 (dk_at dksX17_isOfTwo_1 5 rfl rfl)
theorem dX17_isOfTwo_29 : decode cX17_isOfTwo 29 = .ok (.invokevirtual 178, 3) := dk_182 0 178 (dk_at dksX17_isOfTwo_1 7 rfl rfl)
theorem dX17_isOfTwo_32 : decode cX17_isOfTwo 32 = .ok (.iload_n 1, 1) := dk_27 (dk_at dksX17_isOfTwo_1 10 rfl rfl)
theorem dX17_isOfTwo_33 : decode cX17_isOfTwo 33 = .ok (.iconst (-1), 1) := dk_2 (dk_at dksX17_isOfTwo_1 11 rfl rfl)
theorem dX17_isOfTwo_34 : decode cX17_isOfTwo 34 = .ok (.ixor, 1) := dk_130 (dk_at dksX17_isOfTwo_1 12 rfl rfl)
theorem dX17_isOfTwo_35 : decode cX17_isOfTwo 35 = .ok (.iand, 1) := dk_126 (dk_at dksX17_isOfTwo_1 13 rfl rfl)
theorem dX17_isOfTwo_36 : decode cX17_isOfTwo 36 = .ok (.ifCond .ne 7, 3) := dk_154 0 7 (dk_at dksX17_isOfTwo_1 14 rfl rfl)
theorem dX17_isOfTwo_39 : decode cX17_isOfTwo 39 = .ok (.iconst 1, 1) := dk_4 (dk_at dksX17_isOfTwo_1 17 rfl rfl)
theorem dX17_isOfTwo_40 : decode cX17_isOfTwo 40 = .ok (.goto 4, 3) := dk_167 0 4 (dk_at dksX17_isOfTwo_1 18 rfl rfl)
theorem dX17_isOfTwo_43 : decode cX17_isOfTwo 43 = .ok (.iconst 0, 1) := dk_3 (dk_at dksX17_isOfTwo_1 21 rfl rfl)
theorem dX17_isOfTwo_44 : decode cX17_isOfTwo 44 = .ok (.istore_n 3, 1) := dk_62 (dk_at dksX17_isOfTwo_1 22 rfl rfl)
theorem dX17_isOfTwo_45 : decode cX17_isOfTwo 45 = .ok (.iinc 4 1, 3) := dk_132 4 1 (dk_at dksX17_isOfTwo_2 0 rfl rfl)
theorem dX17_isOfTwo_48 : decode cX17_isOfTwo 48 = .ok (.goto (-43), 3) := dk_167 255 213 (dk_at dksX17_isOfTwo_2 3 rfl rfl)
theorem dX17_isOfTwo_51 : decode cX17_isOfTwo 51 = .ok (.iload_n 3, 1) := dk_29 (dk_at dksX17_isOfTwo_2 6 rfl rfl)
theorem dX17_isOfTwo_52 : decode cX17_isOfTwo 52 = .ok (.ireturn, 1) := dk_172 (dk_at dksX17_isOfTwo_2 7 rfl rfl)
abbrev cX17_met : ByteArray := prog_24_method_28_code
def yX17_met : MethodName := ⟨RX17, "met", "(II)I"⟩
def dkwX17_met_2 : List UInt8 := [160, 0, 7, 4, 167, 0, 4, 3, 96, 62, 132, 4, 1, 167, 255, 221, 29, 172]
abbrev dktX17_met_2 : List UInt8 := dkwX17_met_2 ++ []
def dkwX17_met_1 : List UInt8 := [54, 4, 21, 4, 17, 2, 247, 162, 0, 33, 29, 42, 180, 0, 22, 21, 4, 46, 27, 126, 184, 0, 115, 28]
abbrev dktX17_met_1 : List UInt8 := dkwX17_met_1 ++ dktX17_met_2
def dkwX17_met_0 : List UInt8 := [27, 184, 0, 144, 153, 0, 15, 28, 133, 9, 20, 0, 184, 184, 0, 124, 154, 0, 5, 2, 172, 3, 62, 3]
abbrev dktX17_met_0 : List UInt8 := dkwX17_met_0 ++ dktX17_met_1
theorem dksX17_met_0 : cX17_met.data.toList.drop 0 = dktX17_met_0 := by decide +kernel
theorem dksX17_met_1 : cX17_met.data.toList.drop 24 = dktX17_met_1 := dk_seg dksX17_met_0 24 rfl rfl
theorem dksX17_met_2 : cX17_met.data.toList.drop 48 = dktX17_met_2 := dk_seg dksX17_met_1 24 rfl rfl
theorem dX17_met_0 : decode cX17_met 0 = .ok (.iload_n 1, 1) := dk_27 (dk_at dksX17_met_0 0 rfl rfl)
theorem dX17_met_1 : decode cX17_met 1 = .ok (.invokestatic 144, 3) := dk_184 0 144 (dk_at dksX17_met_0 1 rfl rfl)
theorem dX17_met_4 : decode cX17_met 4 = .ok (.ifCond .eq 15, 3) := dk_153 0 15 (dk_at dksX17_met_0 4 rfl rfl)
theorem dX17_met_7 : decode cX17_met 7 = .ok (.iload_n 2, 1) := dk_28 (dk_at dksX17_met_0 7 rfl rfl)
theorem dX17_met_8 : decode cX17_met 8 = .ok (.i2l, 1) := dk_133 (dk_at dksX17_met_0 8 rfl rfl)
theorem dX17_met_9 : decode cX17_met 9 = .ok (.lconst 0, 1) := dk_9 (dk_at dksX17_met_0 9 rfl rfl)
theorem dX17_met_10 : decode cX17_met 10 = .ok (.ldc2_w 184, 3) := dk_20 0 184 (dk_at dksX17_met_0 10 rfl rfl)
theorem dX17_met_13 : decode cX17_met 13 = .ok (.invokestatic 124, 3) := dk_184 0 124 (dk_at dksX17_met_0 13 rfl rfl)
theorem dX17_met_16 : decode cX17_met 16 = .ok (.ifCond .ne 5, 3) := dk_154 0 5 (dk_at dksX17_met_0 16 rfl rfl)
theorem dX17_met_19 : decode cX17_met 19 = .ok (.iconst (-1), 1) := dk_2 (dk_at dksX17_met_0 19 rfl rfl)
theorem dX17_met_20 : decode cX17_met 20 = .ok (.ireturn, 1) := dk_172 (dk_at dksX17_met_0 20 rfl rfl)
theorem dX17_met_21 : decode cX17_met 21 = .ok (.iconst 0, 1) := dk_3 (dk_at dksX17_met_0 21 rfl rfl)
theorem dX17_met_22 : decode cX17_met 22 = .ok (.istore_n 3, 1) := dk_62 (dk_at dksX17_met_0 22 rfl rfl)
theorem dX17_met_23 : decode cX17_met 23 = .ok (.iconst 0, 1) := dk_3 (dk_at dksX17_met_0 23 rfl rfl)
theorem dX17_met_24 : decode cX17_met 24 = .ok (.istore 4, 2) := dk_54 4 (dk_at dksX17_met_1 0 rfl rfl)
theorem dX17_met_26 : decode cX17_met 26 = .ok (.iload 4, 2) := dk_21 4 (dk_at dksX17_met_1 2 rfl rfl)
theorem dX17_met_28 : decode cX17_met 28 = .ok (.sipush 759, 3) := dk_17 2 247 (dk_at dksX17_met_1 4 rfl rfl)
theorem dX17_met_31 : decode cX17_met 31 = .ok (.if_icmp .ge 33, 3) := dk_162 0 33 (dk_at dksX17_met_1 7 rfl rfl)
theorem dX17_met_34 : decode cX17_met 34 = .ok (.iload_n 3, 1) := dk_29 (dk_at dksX17_met_1 10 rfl rfl)
theorem dX17_met_35 : decode cX17_met 35 = .ok (.aload_n 0, 1) := dk_42 (dk_at dksX17_met_1 11 rfl rfl)
theorem dX17_met_36 : decode cX17_met 36 = .ok (.getfield 22, 3) := dk_180 0 22 (dk_at dksX17_met_1 12 rfl rfl)
theorem dX17_met_39 : decode cX17_met 39 = .ok (.iload 4, 2) := dk_21 4 (dk_at dksX17_met_1 15 rfl rfl)
theorem dX17_met_41 : decode cX17_met 41 = .ok (.iaload, 1) := dk_46 (dk_at dksX17_met_1 17 rfl rfl)
theorem dX17_met_42 : decode cX17_met 42 = .ok (.iload_n 1, 1) := dk_27 (dk_at dksX17_met_1 18 rfl rfl)
theorem dX17_met_43 : decode cX17_met 43 = .ok (.iand, 1) := dk_126 (dk_at dksX17_met_1 19 rfl rfl)
theorem dX17_met_44 : decode cX17_met 44 = .ok (.invokestatic 115, 3) := dk_184 0 115 (dk_at dksX17_met_1 20 rfl rfl)
theorem dX17_met_47 : decode cX17_met 47 = .ok (.iload_n 2, 1) := dk_28 (dk_at dksX17_met_1 23 rfl rfl)
theorem dX17_met_48 : decode cX17_met 48 = .ok (.if_icmp .ne 7, 3) := dk_160 0 7 (dk_at dksX17_met_2 0 rfl rfl)
theorem dX17_met_51 : decode cX17_met 51 = .ok (.iconst 1, 1) := dk_4 (dk_at dksX17_met_2 3 rfl rfl)
theorem dX17_met_52 : decode cX17_met 52 = .ok (.goto 4, 3) := dk_167 0 4 (dk_at dksX17_met_2 4 rfl rfl)
theorem dX17_met_55 : decode cX17_met 55 = .ok (.iconst 0, 1) := dk_3 (dk_at dksX17_met_2 7 rfl rfl)
theorem dX17_met_56 : decode cX17_met 56 = .ok (.iadd, 1) := dk_96 (dk_at dksX17_met_2 8 rfl rfl)
theorem dX17_met_57 : decode cX17_met 57 = .ok (.istore_n 3, 1) := dk_62 (dk_at dksX17_met_2 9 rfl rfl)
theorem dX17_met_58 : decode cX17_met 58 = .ok (.iinc 4 1, 3) := dk_132 4 1 (dk_at dksX17_met_2 10 rfl rfl)
theorem dX17_met_61 : decode cX17_met 61 = .ok (.goto (-35), 3) := dk_167 255 221 (dk_at dksX17_met_2 13 rfl rfl)
theorem dX17_met_64 : decode cX17_met 64 = .ok (.iload_n 3, 1) := dk_29 (dk_at dksX17_met_2 16 rfl rfl)
theorem dX17_met_65 : decode cX17_met 65 = .ok (.ireturn, 1) := dk_172 (dk_at dksX17_met_2 17 rfl rfl)
abbrev cX17_move : ByteArray := prog_24_method_31_code
def yX17_move : MethodName := ⟨RX17, "move", "(II)I"⟩
def dkwX17_move_1 : List UInt8 := [2, 172]
abbrev dktX17_move_1 : List UInt8 := dkwX17_move_1 ++ []
def dkwX17_move_0 : List UInt8 := [27, 184, 0, 188, 153, 0, 20, 28, 133, 184, 0, 191, 153, 0, 12, 42, 27, 28, 182, 0, 195, 167, 0, 4]
abbrev dktX17_move_0 : List UInt8 := dkwX17_move_0 ++ dktX17_move_1
theorem dksX17_move_0 : cX17_move.data.toList.drop 0 = dktX17_move_0 := by decide +kernel
theorem dksX17_move_1 : cX17_move.data.toList.drop 24 = dktX17_move_1 := dk_seg dksX17_move_0 24 rfl rfl
theorem dX17_move_0 : decode cX17_move 0 = .ok (.iload_n 1, 1) := dk_27 (dk_at dksX17_move_0 0 rfl rfl)
theorem dX17_move_1 : decode cX17_move 1 = .ok (.invokestatic 188, 3) := dk_184 0 188 (dk_at dksX17_move_0 1 rfl rfl)
theorem dX17_move_4 : decode cX17_move 4 = .ok (.ifCond .eq 20, 3) := dk_153 0 20 (dk_at dksX17_move_0 4 rfl rfl)
theorem dX17_move_7 : decode cX17_move 7 = .ok (.iload_n 2, 1) := dk_28 (dk_at dksX17_move_0 7 rfl rfl)
theorem dX17_move_8 : decode cX17_move 8 = .ok (.i2l, 1) := dk_133 (dk_at dksX17_move_0 8 rfl rfl)
theorem dX17_move_9 : decode cX17_move 9 = .ok (.invokestatic 191, 3) := dk_184 0 191 (dk_at dksX17_move_0 9 rfl rfl)
theorem dX17_move_12 : decode cX17_move 12 = .ok (.ifCond .eq 12, 3) := dk_153 0 12 (dk_at dksX17_move_0 12 rfl rfl)
theorem dX17_move_15 : decode cX17_move 15 = .ok (.aload_n 0, 1) := dk_42 (dk_at dksX17_move_0 15 rfl rfl)
theorem dX17_move_16 : decode cX17_move 16 = .ok (.iload_n 1, 1) := dk_27 (dk_at dksX17_move_0 16 rfl rfl)
theorem dX17_move_17 : decode cX17_move 17 = .ok (.iload_n 2, 1) := dk_28 (dk_at dksX17_move_0 17 rfl rfl)
theorem dX17_move_18 : decode cX17_move 18 = .ok (.invokevirtual 195, 3) := dk_182 0 195 (dk_at dksX17_move_0 18 rfl rfl)
theorem dX17_move_21 : decode cX17_move 21 = .ok (.goto 4, 3) := dk_167 0 4 (dk_at dksX17_move_0 21 rfl rfl)
theorem dX17_move_24 : decode cX17_move 24 = .ok (.iconst (-1), 1) := dk_2 (dk_at dksX17_move_1 0 rfl rfl)
theorem dX17_move_25 : decode cX17_move 25 = .ok (.ireturn, 1) := dk_172 (dk_at dksX17_move_1 1 rfl rfl)
abbrev cX17_isMove : ByteArray := prog_24_method_29_code
def yX17_isMove : MethodName := ⟨RX17, "isMove", "(I)Z"⟩
def dkwX17_isMove_0 : List UInt8 := [26, 133, 9, 20, 0, 186, 184, 0, 124, 172]
abbrev dktX17_isMove_0 : List UInt8 := dkwX17_isMove_0 ++ []
theorem dksX17_isMove_0 : cX17_isMove.data.toList.drop 0 = dktX17_isMove_0 := by decide +kernel
theorem dX17_isMove_0 : decode cX17_isMove 0 = .ok (.iload_n 0, 1) := dk_26 (dk_at dksX17_isMove_0 0 rfl rfl)
theorem dX17_isMove_1 : decode cX17_isMove 1 = .ok (.i2l, 1) := dk_133 (dk_at dksX17_isMove_0 1 rfl rfl)
theorem dX17_isMove_2 : decode cX17_isMove 2 = .ok (.lconst 0, 1) := dk_9 (dk_at dksX17_isMove_0 2 rfl rfl)
theorem dX17_isMove_3 : decode cX17_isMove 3 = .ok (.ldc2_w 186, 3) := dk_20 0 186 (dk_at dksX17_isMove_0 3 rfl rfl)
theorem dX17_isMove_6 : decode cX17_isMove 6 = .ok (.invokestatic 124, 3) := dk_184 0 124 (dk_at dksX17_isMove_0 6 rfl rfl)
theorem dX17_isMove_9 : decode cX17_isMove 9 = .ok (.ireturn, 1) := dk_172 (dk_at dksX17_isMove_0 9 rfl rfl)
abbrev cX17_isPlace : ByteArray := prog_24_method_8_code
def yX17_isPlace : MethodName := ⟨RX17, "isPlace", "(J)Z"⟩
def dkwX17_isPlace_0 : List UInt8 := [30, 9, 20, 0, 128, 184, 0, 124, 172]
abbrev dktX17_isPlace_0 : List UInt8 := dkwX17_isPlace_0 ++ []
theorem dksX17_isPlace_0 : cX17_isPlace.data.toList.drop 0 = dktX17_isPlace_0 := by decide +kernel
theorem dX17_isPlace_0 : decode cX17_isPlace 0 = .ok (.lload_n 0, 1) := dk_30 (dk_at dksX17_isPlace_0 0 rfl rfl)
theorem dX17_isPlace_1 : decode cX17_isPlace 1 = .ok (.lconst 0, 1) := dk_9 (dk_at dksX17_isPlace_0 1 rfl rfl)
theorem dX17_isPlace_2 : decode cX17_isPlace 2 = .ok (.ldc2_w 128, 3) := dk_20 0 128 (dk_at dksX17_isPlace_0 2 rfl rfl)
theorem dX17_isPlace_5 : decode cX17_isPlace 5 = .ok (.invokestatic 124, 3) := dk_184 0 124 (dk_at dksX17_isPlace_0 5 rfl rfl)
theorem dX17_isPlace_8 : decode cX17_isPlace 8 = .ok (.ireturn, 1) := dk_172 (dk_at dksX17_isPlace_0 8 rfl rfl)
abbrev cX17_to : ByteArray := prog_24_method_30_code
def yX17_to : MethodName := ⟨RX17, "to", "(II)I"⟩
def dkwX17_to_0 : List UInt8 := [42, 180, 0, 7, 16, 24, 27, 104, 28, 96, 46, 172]
abbrev dktX17_to_0 : List UInt8 := dkwX17_to_0 ++ []
theorem dksX17_to_0 : cX17_to.data.toList.drop 0 = dktX17_to_0 := by decide +kernel
theorem dX17_to_0 : decode cX17_to 0 = .ok (.aload_n 0, 1) := dk_42 (dk_at dksX17_to_0 0 rfl rfl)
theorem dX17_to_1 : decode cX17_to 1 = .ok (.getfield 7, 3) := dk_180 0 7 (dk_at dksX17_to_0 1 rfl rfl)
theorem dX17_to_4 : decode cX17_to 4 = .ok (.bipush 24, 2) := dk_16 24 (dk_at dksX17_to_0 4 rfl rfl)
theorem dX17_to_6 : decode cX17_to 6 = .ok (.iload_n 1, 1) := dk_27 (dk_at dksX17_to_0 6 rfl rfl)
theorem dX17_to_7 : decode cX17_to 7 = .ok (.imul, 1) := dk_104 (dk_at dksX17_to_0 7 rfl rfl)
theorem dX17_to_8 : decode cX17_to 8 = .ok (.iload_n 2, 1) := dk_28 (dk_at dksX17_to_0 8 rfl rfl)
theorem dX17_to_9 : decode cX17_to 9 = .ok (.iadd, 1) := dk_96 (dk_at dksX17_to_0 9 rfl rfl)
theorem dX17_to_10 : decode cX17_to 10 = .ok (.iaload, 1) := dk_46 (dk_at dksX17_to_0 10 rfl rfl)
theorem dX17_to_11 : decode cX17_to 11 = .ok (.ireturn, 1) := dk_172 (dk_at dksX17_to_0 11 rfl rfl)
abbrev cX17_sent : ByteArray := prog_24_method_33_code
def yX17_sent : MethodName := ⟨RX17, "sent", "(II)I"⟩
def dkwX17_sent_1 : List UInt8 := [172]
abbrev dktX17_sent_1 : List UInt8 := dkwX17_sent_1 ++ []
def dkwX17_sent_0 : List UInt8 := [27, 184, 0, 188, 153, 0, 19, 28, 184, 0, 144, 153, 0, 12, 42, 27, 28, 182, 0, 198, 167, 0, 4, 2]
abbrev dktX17_sent_0 : List UInt8 := dkwX17_sent_0 ++ dktX17_sent_1
theorem dksX17_sent_0 : cX17_sent.data.toList.drop 0 = dktX17_sent_0 := by decide +kernel
theorem dksX17_sent_1 : cX17_sent.data.toList.drop 24 = dktX17_sent_1 := dk_seg dksX17_sent_0 24 rfl rfl
theorem dX17_sent_0 : decode cX17_sent 0 = .ok (.iload_n 1, 1) := dk_27 (dk_at dksX17_sent_0 0 rfl rfl)
theorem dX17_sent_1 : decode cX17_sent 1 = .ok (.invokestatic 188, 3) := dk_184 0 188 (dk_at dksX17_sent_0 1 rfl rfl)
theorem dX17_sent_4 : decode cX17_sent 4 = .ok (.ifCond .eq 19, 3) := dk_153 0 19 (dk_at dksX17_sent_0 4 rfl rfl)
theorem dX17_sent_7 : decode cX17_sent 7 = .ok (.iload_n 2, 1) := dk_28 (dk_at dksX17_sent_0 7 rfl rfl)
theorem dX17_sent_8 : decode cX17_sent 8 = .ok (.invokestatic 144, 3) := dk_184 0 144 (dk_at dksX17_sent_0 8 rfl rfl)
theorem dX17_sent_11 : decode cX17_sent 11 = .ok (.ifCond .eq 12, 3) := dk_153 0 12 (dk_at dksX17_sent_0 11 rfl rfl)
theorem dX17_sent_14 : decode cX17_sent 14 = .ok (.aload_n 0, 1) := dk_42 (dk_at dksX17_sent_0 14 rfl rfl)
theorem dX17_sent_15 : decode cX17_sent 15 = .ok (.iload_n 1, 1) := dk_27 (dk_at dksX17_sent_0 15 rfl rfl)
theorem dX17_sent_16 : decode cX17_sent 16 = .ok (.iload_n 2, 1) := dk_28 (dk_at dksX17_sent_0 16 rfl rfl)
theorem dX17_sent_17 : decode cX17_sent 17 = .ok (.invokevirtual 198, 3) := dk_182 0 198 (dk_at dksX17_sent_0 17 rfl rfl)
theorem dX17_sent_20 : decode cX17_sent 20 = .ok (.goto 4, 3) := dk_167 0 4 (dk_at dksX17_sent_0 20 rfl rfl)
theorem dX17_sent_23 : decode cX17_sent 23 = .ok (.iconst (-1), 1) := dk_2 (dk_at dksX17_sent_0 23 rfl rfl)
theorem dX17_sent_24 : decode cX17_sent 24 = .ok (.ireturn, 1) := dk_172 (dk_at dksX17_sent_1 0 rfl rfl)
abbrev cX17_goes : ByteArray := prog_24_method_32_code
def yX17_goes : MethodName := ⟨RX17, "goes", "(II)I"⟩
def dkwX17_goes_1 : List UInt8 := [27, 21, 4, 182, 0, 195, 120, 167, 0, 4, 3, 128, 62, 132, 4, 1, 167, 255, 221, 29, 172]
abbrev dktX17_goes_1 : List UInt8 := dkwX17_goes_1 ++ []
def dkwX17_goes_0 : List UInt8 := [3, 62, 3, 54, 4, 21, 4, 16, 24, 162, 0, 34, 29, 28, 21, 4, 184, 0, 118, 153, 0, 15, 4, 42]
abbrev dktX17_goes_0 : List UInt8 := dkwX17_goes_0 ++ dktX17_goes_1
theorem dksX17_goes_0 : cX17_goes.data.toList.drop 0 = dktX17_goes_0 := by decide +kernel
theorem dksX17_goes_1 : cX17_goes.data.toList.drop 24 = dktX17_goes_1 := dk_seg dksX17_goes_0 24 rfl rfl
theorem dX17_goes_0 : decode cX17_goes 0 = .ok (.iconst 0, 1) := dk_3 (dk_at dksX17_goes_0 0 rfl rfl)
theorem dX17_goes_1 : decode cX17_goes 1 = .ok (.istore_n 3, 1) := dk_62 (dk_at dksX17_goes_0 1 rfl rfl)
theorem dX17_goes_2 : decode cX17_goes 2 = .ok (.iconst 0, 1) := dk_3 (dk_at dksX17_goes_0 2 rfl rfl)
theorem dX17_goes_3 : decode cX17_goes 3 = .ok (.istore 4, 2) := dk_54 4 (dk_at dksX17_goes_0 3 rfl rfl)
theorem dX17_goes_5 : decode cX17_goes 5 = .ok (.iload 4, 2) := dk_21 4 (dk_at dksX17_goes_0 5 rfl rfl)
theorem dX17_goes_7 : decode cX17_goes 7 = .ok (.bipush 24, 2) := dk_16 24 (dk_at dksX17_goes_0 7 rfl rfl)
theorem dX17_goes_9 : decode cX17_goes 9 = .ok (.if_icmp .ge 34, 3) := dk_162 0 34 (dk_at dksX17_goes_0 9 rfl rfl)
theorem dX17_goes_12 : decode cX17_goes 12 = .ok (.iload_n 3, 1) := dk_29 (dk_at dksX17_goes_0 12 rfl rfl)
theorem dX17_goes_13 : decode cX17_goes 13 = .ok (.iload_n 2, 1) := dk_28 (dk_at dksX17_goes_0 13 rfl rfl)
theorem dX17_goes_14 : decode cX17_goes 14 = .ok (.iload 4, 2) := dk_21 4 (dk_at dksX17_goes_0 14 rfl rfl)
theorem dX17_goes_16 : decode cX17_goes 16 = .ok (.invokestatic 118, 3) := dk_184 0 118 (dk_at dksX17_goes_0 16 rfl rfl)
theorem dX17_goes_19 : decode cX17_goes 19 = .ok (.ifCond .eq 15, 3) := dk_153 0 15 (dk_at dksX17_goes_0 19 rfl rfl)
theorem dX17_goes_22 : decode cX17_goes 22 = .ok (.iconst 1, 1) := dk_4 (dk_at dksX17_goes_0 22 rfl rfl)
theorem dX17_goes_23 : decode cX17_goes 23 = .ok (.aload_n 0, 1) := dk_42 (dk_at dksX17_goes_0 23 rfl rfl)
theorem dX17_goes_24 : decode cX17_goes 24 = .ok (.iload_n 1, 1) := dk_27 (dk_at dksX17_goes_1 0 rfl rfl)
theorem dX17_goes_25 : decode cX17_goes 25 = .ok (.iload 4, 2) := dk_21 4 (dk_at dksX17_goes_1 1 rfl rfl)
theorem dX17_goes_27 : decode cX17_goes 27 = .ok (.invokevirtual 195, 3) := dk_182 0 195 (dk_at dksX17_goes_1 3 rfl rfl)
theorem dX17_goes_30 : decode cX17_goes 30 = .ok (.ishl, 1) := dk_120 (dk_at dksX17_goes_1 6 rfl rfl)
theorem dX17_goes_31 : decode cX17_goes 31 = .ok (.goto 4, 3) := dk_167 0 4 (dk_at dksX17_goes_1 7 rfl rfl)
theorem dX17_goes_34 : decode cX17_goes 34 = .ok (.iconst 0, 1) := dk_3 (dk_at dksX17_goes_1 10 rfl rfl)
theorem dX17_goes_35 : decode cX17_goes 35 = .ok (.ior, 1) := dk_128 (dk_at dksX17_goes_1 11 rfl rfl)
theorem dX17_goes_36 : decode cX17_goes 36 = .ok (.istore_n 3, 1) := dk_62 (dk_at dksX17_goes_1 12 rfl rfl)
theorem dX17_goes_37 : decode cX17_goes 37 = .ok (.iinc 4 1, 3) := dk_132 4 1 (dk_at dksX17_goes_1 13 rfl rfl)
theorem dX17_goes_40 : decode cX17_goes 40 = .ok (.goto (-35), 3) := dk_167 255 221 (dk_at dksX17_goes_1 16 rfl rfl)
theorem dX17_goes_43 : decode cX17_goes 43 = .ok (.iload_n 3, 1) := dk_29 (dk_at dksX17_goes_1 19 rfl rfl)
theorem dX17_goes_44 : decode cX17_goes 44 = .ok (.ireturn, 1) := dk_172 (dk_at dksX17_goes_1 20 rfl rfl)
abbrev cX17_told : ByteArray := prog_24_method_44_code
def yX17_told : MethodName := ⟨RX17, "told", "(II)I"⟩
def dkwX17_told_6 : List UInt8 := [180, 0, 7, 16, 120, 46, 130, 160, 0, 7, 5, 167, 0, 4, 3, 172, 42, 27, 182, 0, 232, 172, 2, 172]
abbrev dktX17_told_6 : List UInt8 := dkwX17_told_6 ++ []
def dkwX17_told_5 : List UInt8 := [160, 0, 7, 4, 167, 0, 33, 42, 27, 42, 180, 0, 7, 16, 120, 46, 182, 0, 198, 18, 177, 42]
abbrev dktX17_told_5 : List UInt8 := dkwX17_told_5 ++ dktX17_told_6
def dkwX17_told_4 : List UInt8 := [182, 0, 229, 172, 42, 27, 42, 180, 0, 7, 16, 120, 46, 182, 0, 198, 42, 180, 0, 7, 16, 120, 46]
abbrev dktX17_told_4 : List UInt8 := dkwX17_told_4 ++ dktX17_told_5
def dkwX17_told_3 : List UInt8 := [182, 0, 223, 172, 42, 27, 182, 0, 226, 172, 16, 24, 42, 27, 182, 0, 223, 100, 5, 112, 172, 42, 27]
abbrev dktX17_told_3 : List UInt8 := dkwX17_told_3 ++ dktX17_told_4
def dkwX17_told_2 : List UInt8 := [42, 27, 182, 0, 217, 153, 0, 7, 4, 167, 0, 4, 3, 172, 42, 27, 182, 0, 220, 172, 42, 27]
abbrev dktX17_told_2 : List UInt8 := dkwX17_told_2 ++ dktX17_told_3
def dkwX17_told_1 : List UInt8 := [170, 0, 0, 0, 0, 158, 0, 0, 0, 0, 0, 0, 0, 7, 0, 0, 0, 46, 0, 0, 0, 60, 0, 0, 0, 66, 0, 0, 0, 72, 0, 0, 0, 78, 0, 0, 0, 89, 0, 0, 0, 95, 0, 0, 0, 152]
abbrev dktX17_told_1 : List UInt8 := dkwX17_told_1 ++ dktX17_told_2
def dkwX17_told_0 : List UInt8 := [27, 184, 0, 188, 154, 0, 5, 2, 172, 28]
abbrev dktX17_told_0 : List UInt8 := dkwX17_told_0 ++ dktX17_told_1
theorem dksX17_told_0 : cX17_told.data.toList.drop 0 = dktX17_told_0 := by decide +kernel
theorem dksX17_told_1 : cX17_told.data.toList.drop 10 = dktX17_told_1 := dk_seg dksX17_told_0 10 rfl rfl
theorem dksX17_told_2 : cX17_told.data.toList.drop 56 = dktX17_told_2 := dk_seg dksX17_told_1 46 rfl rfl
theorem dksX17_told_3 : cX17_told.data.toList.drop 78 = dktX17_told_3 := dk_seg dksX17_told_2 22 rfl rfl
theorem dksX17_told_4 : cX17_told.data.toList.drop 101 = dktX17_told_4 := dk_seg dksX17_told_3 23 rfl rfl
theorem dksX17_told_5 : cX17_told.data.toList.drop 124 = dktX17_told_5 := dk_seg dksX17_told_4 23 rfl rfl
theorem dksX17_told_6 : cX17_told.data.toList.drop 146 = dktX17_told_6 := dk_seg dksX17_told_5 22 rfl rfl
theorem dX17_told_0 : decode cX17_told 0 = .ok (.iload_n 1, 1) := dk_27 (dk_at dksX17_told_0 0 rfl rfl)
theorem dX17_told_1 : decode cX17_told 1 = .ok (.invokestatic 188, 3) := dk_184 0 188 (dk_at dksX17_told_0 1 rfl rfl)
theorem dX17_told_4 : decode cX17_told 4 = .ok (.ifCond .ne 5, 3) := dk_154 0 5 (dk_at dksX17_told_0 4 rfl rfl)
theorem dX17_told_7 : decode cX17_told 7 = .ok (.iconst (-1), 1) := dk_2 (dk_at dksX17_told_0 7 rfl rfl)
theorem dX17_told_8 : decode cX17_told 8 = .ok (.ireturn, 1) := dk_172 (dk_at dksX17_told_0 8 rfl rfl)
theorem dX17_told_9 : decode cX17_told 9 = .ok (.iload_n 2, 1) := dk_28 (dk_at dksX17_told_0 9 rfl rfl)
theorem dX17_told_10 : decode cX17_told 10 = .ok (.tableswitch 158 0 7 #[46, 60, 66, 72, 78, 89, 95, 152], 46) := by decide +kernel
theorem dX17_told_56 : decode cX17_told 56 = .ok (.aload_n 0, 1) := dk_42 (dk_at dksX17_told_2 0 rfl rfl)
theorem dX17_told_57 : decode cX17_told 57 = .ok (.iload_n 1, 1) := dk_27 (dk_at dksX17_told_2 1 rfl rfl)
theorem dX17_told_58 : decode cX17_told 58 = .ok (.invokevirtual 217, 3) := dk_182 0 217 (dk_at dksX17_told_2 2 rfl rfl)
theorem dX17_told_61 : decode cX17_told 61 = .ok (.ifCond .eq 7, 3) := dk_153 0 7 (dk_at dksX17_told_2 5 rfl rfl)
theorem dX17_told_64 : decode cX17_told 64 = .ok (.iconst 1, 1) := dk_4 (dk_at dksX17_told_2 8 rfl rfl)
theorem dX17_told_65 : decode cX17_told 65 = .ok (.goto 4, 3) := dk_167 0 4 (dk_at dksX17_told_2 9 rfl rfl)
theorem dX17_told_68 : decode cX17_told 68 = .ok (.iconst 0, 1) := dk_3 (dk_at dksX17_told_2 12 rfl rfl)
theorem dX17_told_69 : decode cX17_told 69 = .ok (.ireturn, 1) := dk_172 (dk_at dksX17_told_2 13 rfl rfl)
theorem dX17_told_70 : decode cX17_told 70 = .ok (.aload_n 0, 1) := dk_42 (dk_at dksX17_told_2 14 rfl rfl)
theorem dX17_told_71 : decode cX17_told 71 = .ok (.iload_n 1, 1) := dk_27 (dk_at dksX17_told_2 15 rfl rfl)
theorem dX17_told_72 : decode cX17_told 72 = .ok (.invokevirtual 220, 3) := dk_182 0 220 (dk_at dksX17_told_2 16 rfl rfl)
theorem dX17_told_75 : decode cX17_told 75 = .ok (.ireturn, 1) := dk_172 (dk_at dksX17_told_2 19 rfl rfl)
theorem dX17_told_76 : decode cX17_told 76 = .ok (.aload_n 0, 1) := dk_42 (dk_at dksX17_told_2 20 rfl rfl)
theorem dX17_told_77 : decode cX17_told 77 = .ok (.iload_n 1, 1) := dk_27 (dk_at dksX17_told_2 21 rfl rfl)
theorem dX17_told_78 : decode cX17_told 78 = .ok (.invokevirtual 223, 3) := dk_182 0 223 (dk_at dksX17_told_3 0 rfl rfl)
theorem dX17_told_81 : decode cX17_told 81 = .ok (.ireturn, 1) := dk_172 (dk_at dksX17_told_3 3 rfl rfl)
theorem dX17_told_82 : decode cX17_told 82 = .ok (.aload_n 0, 1) := dk_42 (dk_at dksX17_told_3 4 rfl rfl)
theorem dX17_told_83 : decode cX17_told 83 = .ok (.iload_n 1, 1) := dk_27 (dk_at dksX17_told_3 5 rfl rfl)
theorem dX17_told_84 : decode cX17_told 84 = .ok (.invokevirtual 226, 3) := dk_182 0 226 (dk_at dksX17_told_3 6 rfl rfl)
theorem dX17_told_87 : decode cX17_told 87 = .ok (.ireturn, 1) := dk_172 (dk_at dksX17_told_3 9 rfl rfl)
theorem dX17_told_88 : decode cX17_told 88 = .ok (.bipush 24, 2) := dk_16 24 (dk_at dksX17_told_3 10 rfl rfl)
theorem dX17_told_90 : decode cX17_told 90 = .ok (.aload_n 0, 1) := dk_42 (dk_at dksX17_told_3 12 rfl rfl)
theorem dX17_told_91 : decode cX17_told 91 = .ok (.iload_n 1, 1) := dk_27 (dk_at dksX17_told_3 13 rfl rfl)
theorem dX17_told_92 : decode cX17_told 92 = .ok (.invokevirtual 223, 3) := dk_182 0 223 (dk_at dksX17_told_3 14 rfl rfl)
theorem dX17_told_95 : decode cX17_told 95 = .ok (.isub, 1) := dk_100 (dk_at dksX17_told_3 17 rfl rfl)
theorem dX17_told_96 : decode cX17_told 96 = .ok (.iconst 2, 1) := dk_5 (dk_at dksX17_told_3 18 rfl rfl)
theorem dX17_told_97 : decode cX17_told 97 = .ok (.irem, 1) := dk_112 (dk_at dksX17_told_3 19 rfl rfl)
theorem dX17_told_98 : decode cX17_told 98 = .ok (.ireturn, 1) := dk_172 (dk_at dksX17_told_3 20 rfl rfl)
theorem dX17_told_99 : decode cX17_told 99 = .ok (.aload_n 0, 1) := dk_42 (dk_at dksX17_told_3 21 rfl rfl)
theorem dX17_told_100 : decode cX17_told 100 = .ok (.iload_n 1, 1) := dk_27 (dk_at dksX17_told_3 22 rfl rfl)
theorem dX17_told_101 : decode cX17_told 101 = .ok (.invokevirtual 229, 3) := dk_182 0 229 (dk_at dksX17_told_4 0 rfl rfl)
theorem dX17_told_104 : decode cX17_told 104 = .ok (.ireturn, 1) := dk_172 (dk_at dksX17_told_4 3 rfl rfl)
theorem dX17_told_105 : decode cX17_told 105 = .ok (.aload_n 0, 1) := dk_42 (dk_at dksX17_told_4 4 rfl rfl)
theorem dX17_told_106 : decode cX17_told 106 = .ok (.iload_n 1, 1) := dk_27 (dk_at dksX17_told_4 5 rfl rfl)
theorem dX17_told_107 : decode cX17_told 107 = .ok (.aload_n 0, 1) := dk_42 (dk_at dksX17_told_4 6 rfl rfl)
theorem dX17_told_108 : decode cX17_told 108 = .ok (.getfield 7, 3) := dk_180 0 7 (dk_at dksX17_told_4 7 rfl rfl)
theorem dX17_told_111 : decode cX17_told 111 = .ok (.bipush 120, 2) := dk_16 120 (dk_at dksX17_told_4 10 rfl rfl)
theorem dX17_told_113 : decode cX17_told 113 = .ok (.iaload, 1) := dk_46 (dk_at dksX17_told_4 12 rfl rfl)
theorem dX17_told_114 : decode cX17_told 114 = .ok (.invokevirtual 198, 3) := dk_182 0 198 (dk_at dksX17_told_4 13 rfl rfl)
theorem dX17_told_117 : decode cX17_told 117 = .ok (.aload_n 0, 1) := dk_42 (dk_at dksX17_told_4 16 rfl rfl)
theorem dX17_told_118 : decode cX17_told 118 = .ok (.getfield 7, 3) := dk_180 0 7 (dk_at dksX17_told_4 17 rfl rfl)
theorem dX17_told_121 : decode cX17_told 121 = .ok (.bipush 120, 2) := dk_16 120 (dk_at dksX17_told_4 20 rfl rfl)
theorem dX17_told_123 : decode cX17_told 123 = .ok (.iaload, 1) := dk_46 (dk_at dksX17_told_4 22 rfl rfl)
theorem dX17_told_124 : decode cX17_told 124 = .ok (.if_icmp .ne 7, 3) := dk_160 0 7 (dk_at dksX17_told_5 0 rfl rfl)
theorem dX17_told_127 : decode cX17_told 127 = .ok (.iconst 1, 1) := dk_4 (dk_at dksX17_told_5 3 rfl rfl)
theorem dX17_told_128 : decode cX17_told 128 = .ok (.goto 33, 3) := dk_167 0 33 (dk_at dksX17_told_5 4 rfl rfl)
theorem dX17_told_131 : decode cX17_told 131 = .ok (.aload_n 0, 1) := dk_42 (dk_at dksX17_told_5 7 rfl rfl)
theorem dX17_told_132 : decode cX17_told 132 = .ok (.iload_n 1, 1) := dk_27 (dk_at dksX17_told_5 8 rfl rfl)
theorem dX17_told_133 : decode cX17_told 133 = .ok (.aload_n 0, 1) := dk_42 (dk_at dksX17_told_5 9 rfl rfl)
theorem dX17_told_134 : decode cX17_told 134 = .ok (.getfield 7, 3) := dk_180 0 7 (dk_at dksX17_told_5 10 rfl rfl)
theorem dX17_told_137 : decode cX17_told 137 = .ok (.bipush 120, 2) := dk_16 120 (dk_at dksX17_told_5 13 rfl rfl)
theorem dX17_told_139 : decode cX17_told 139 = .ok (.iaload, 1) := dk_46 (dk_at dksX17_told_5 15 rfl rfl)
theorem dX17_told_140 : decode cX17_told 140 = .ok (.invokevirtual 198, 3) := dk_182 0 198 (dk_at dksX17_told_5 16 rfl rfl)
theorem dX17_told_143 : decode cX17_told 143 = .ok (.ldc 177, 2) := dk_18 177 (dk_at dksX17_told_5 19 rfl rfl)
theorem dX17_told_145 : decode cX17_told 145 = .ok (.aload_n 0, 1) := dk_42 (dk_at dksX17_told_5 21 rfl rfl)
theorem dX17_told_146 : decode cX17_told 146 = .ok (.getfield 7, 3) := dk_180 0 7 (dk_at dksX17_told_6 0 rfl rfl)
theorem dX17_told_149 : decode cX17_told 149 = .ok (.bipush 120, 2) := dk_16 120 (dk_at dksX17_told_6 3 rfl rfl)
theorem dX17_told_151 : decode cX17_told 151 = .ok (.iaload, 1) := dk_46 (dk_at dksX17_told_6 5 rfl rfl)
theorem dX17_told_152 : decode cX17_told 152 = .ok (.ixor, 1) := dk_130 (dk_at dksX17_told_6 6 rfl rfl)
theorem dX17_told_153 : decode cX17_told 153 = .ok (.if_icmp .ne 7, 3) := dk_160 0 7 (dk_at dksX17_told_6 7 rfl rfl)
theorem dX17_told_156 : decode cX17_told 156 = .ok (.iconst 2, 1) := dk_5 (dk_at dksX17_told_6 10 rfl rfl)
theorem dX17_told_157 : decode cX17_told 157 = .ok (.goto 4, 3) := dk_167 0 4 (dk_at dksX17_told_6 11 rfl rfl)
theorem dX17_told_160 : decode cX17_told 160 = .ok (.iconst 0, 1) := dk_3 (dk_at dksX17_told_6 14 rfl rfl)
theorem dX17_told_161 : decode cX17_told 161 = .ok (.ireturn, 1) := dk_172 (dk_at dksX17_told_6 15 rfl rfl)
theorem dX17_told_162 : decode cX17_told 162 = .ok (.aload_n 0, 1) := dk_42 (dk_at dksX17_told_6 16 rfl rfl)
theorem dX17_told_163 : decode cX17_told 163 = .ok (.iload_n 1, 1) := dk_27 (dk_at dksX17_told_6 17 rfl rfl)
theorem dX17_told_164 : decode cX17_told 164 = .ok (.invokevirtual 232, 3) := dk_182 0 232 (dk_at dksX17_told_6 18 rfl rfl)
theorem dX17_told_167 : decode cX17_told 167 = .ok (.ireturn, 1) := dk_172 (dk_at dksX17_told_6 21 rfl rfl)
theorem dX17_told_168 : decode cX17_told 168 = .ok (.iconst (-1), 1) := dk_2 (dk_at dksX17_told_6 22 rfl rfl)
theorem dX17_told_169 : decode cX17_told 169 = .ok (.ireturn, 1) := dk_172 (dk_at dksX17_told_6 23 rfl rfl)
abbrev cX17_keeps : ByteArray := prog_24_method_34_code
def yX17_keeps : MethodName := ⟨RX17, "keeps", "(I)Z"⟩
def dkwX17_keeps_1 : List UInt8 := [182, 0, 148, 155, 0, 7, 4, 167, 0, 4, 3, 61, 132, 3, 1, 167, 255, 221, 28, 172]
abbrev dktX17_keeps_1 : List UInt8 := dkwX17_keeps_1 ++ []
def dkwX17_keeps_0 : List UInt8 := [4, 61, 3, 62, 29, 16, 12, 162, 0, 35, 28, 153, 0, 31, 42, 42, 27, 29, 184, 0, 104, 182, 0, 198]
abbrev dktX17_keeps_0 : List UInt8 := dkwX17_keeps_0 ++ dktX17_keeps_1
theorem dksX17_keeps_0 : cX17_keeps.data.toList.drop 0 = dktX17_keeps_0 := by decide +kernel
theorem dksX17_keeps_1 : cX17_keeps.data.toList.drop 24 = dktX17_keeps_1 := dk_seg dksX17_keeps_0 24 rfl rfl
theorem dX17_keeps_0 : decode cX17_keeps 0 = .ok (.iconst 1, 1) := dk_4 (dk_at dksX17_keeps_0 0 rfl rfl)
theorem dX17_keeps_1 : decode cX17_keeps 1 = .ok (.istore_n 2, 1) := dk_61 (dk_at dksX17_keeps_0 1 rfl rfl)
theorem dX17_keeps_2 : decode cX17_keeps 2 = .ok (.iconst 0, 1) := dk_3 (dk_at dksX17_keeps_0 2 rfl rfl)
theorem dX17_keeps_3 : decode cX17_keeps 3 = .ok (.istore_n 3, 1) := dk_62 (dk_at dksX17_keeps_0 3 rfl rfl)
theorem dX17_keeps_4 : decode cX17_keeps 4 = .ok (.iload_n 3, 1) := dk_29 (dk_at dksX17_keeps_0 4 rfl rfl)
theorem dX17_keeps_5 : decode cX17_keeps 5 = .ok (.bipush 12, 2) := dk_16 12 (dk_at dksX17_keeps_0 5 rfl rfl)
theorem dX17_keeps_7 : decode cX17_keeps 7 = .ok (.if_icmp .ge 35, 3) := dk_162 0 35 (dk_at dksX17_keeps_0 7 rfl rfl)
theorem dX17_keeps_10 : decode cX17_keeps 10 = .ok (.iload_n 2, 1) := dk_28 (dk_at dksX17_keeps_0 10 rfl rfl)
theorem dX17_keeps_11 : decode cX17_keeps 11 = .ok (.ifCond .eq 31, 3) := dk_153 0 31 (dk_at dksX17_keeps_0 11 rfl rfl)
theorem dX17_keeps_14 : decode cX17_keeps 14 = .ok (.aload_n 0, 1) := dk_42 (dk_at dksX17_keeps_0 14 rfl rfl)
theorem dX17_keeps_15 : decode cX17_keeps 15 = .ok (.aload_n 0, 1) := dk_42 (dk_at dksX17_keeps_0 15 rfl rfl)
theorem dX17_keeps_16 : decode cX17_keeps 16 = .ok (.iload_n 1, 1) := dk_27 (dk_at dksX17_keeps_0 16 rfl rfl)
theorem dX17_keeps_17 : decode cX17_keeps 17 = .ok (.iload_n 3, 1) := dk_29 (dk_at dksX17_keeps_0 17 rfl rfl)
theorem dX17_keeps_18 : decode cX17_keeps 18 = .ok (.invokestatic 104, 3) := dk_184 0 104 (dk_at dksX17_keeps_0 18 rfl rfl)
theorem dX17_keeps_21 : decode cX17_keeps 21 = .ok (.invokevirtual 198, 3) := dk_182 0 198 (dk_at dksX17_keeps_0 21 rfl rfl)
theorem dX17_keeps_24 : decode cX17_keeps 24 = .ok (.invokevirtual 148, 3) := dk_182 0 148 (dk_at dksX17_keeps_1 0 rfl rfl)
theorem dX17_keeps_27 : decode cX17_keeps 27 = .ok (.ifCond .lt 7, 3) := dk_155 0 7 (dk_at dksX17_keeps_1 3 rfl rfl)
theorem dX17_keeps_30 : decode cX17_keeps 30 = .ok (.iconst 1, 1) := dk_4 (dk_at dksX17_keeps_1 6 rfl rfl)
theorem dX17_keeps_31 : decode cX17_keeps 31 = .ok (.goto 4, 3) := dk_167 0 4 (dk_at dksX17_keeps_1 7 rfl rfl)
theorem dX17_keeps_34 : decode cX17_keeps 34 = .ok (.iconst 0, 1) := dk_3 (dk_at dksX17_keeps_1 10 rfl rfl)
theorem dX17_keeps_35 : decode cX17_keeps 35 = .ok (.istore_n 2, 1) := dk_61 (dk_at dksX17_keeps_1 11 rfl rfl)
theorem dX17_keeps_36 : decode cX17_keeps 36 = .ok (.iinc 3 1, 3) := dk_132 3 1 (dk_at dksX17_keeps_1 12 rfl rfl)
theorem dX17_keeps_39 : decode cX17_keeps 39 = .ok (.goto (-35), 3) := dk_167 255 221 (dk_at dksX17_keeps_1 15 rfl rfl)
theorem dX17_keeps_42 : decode cX17_keeps 42 = .ok (.iload_n 2, 1) := dk_28 (dk_at dksX17_keeps_1 18 rfl rfl)
theorem dX17_keeps_43 : decode cX17_keeps 43 = .ok (.ireturn, 1) := dk_172 (dk_at dksX17_keeps_1 19 rfl rfl)
abbrev cX17_stays : ByteArray := prog_24_method_39_code
def yX17_stays : MethodName := ⟨RX17, "stays", "(I)I"⟩
def dkwX17_stays_1 : List UInt8 := [167, 0, 4, 3, 96, 61, 132, 3, 1, 167, 255, 229, 28, 172]
abbrev dktX17_stays_1 : List UInt8 := dkwX17_stays_1 ++ []
def dkwX17_stays_0 : List UInt8 := [3, 61, 3, 62, 29, 16, 24, 162, 0, 27, 28, 42, 27, 29, 182, 0, 195, 29, 160, 0, 7, 4]
abbrev dktX17_stays_0 : List UInt8 := dkwX17_stays_0 ++ dktX17_stays_1
theorem dksX17_stays_0 : cX17_stays.data.toList.drop 0 = dktX17_stays_0 := by decide +kernel
theorem dksX17_stays_1 : cX17_stays.data.toList.drop 22 = dktX17_stays_1 := dk_seg dksX17_stays_0 22 rfl rfl
theorem dX17_stays_0 : decode cX17_stays 0 = .ok (.iconst 0, 1) := dk_3 (dk_at dksX17_stays_0 0 rfl rfl)
theorem dX17_stays_1 : decode cX17_stays 1 = .ok (.istore_n 2, 1) := dk_61 (dk_at dksX17_stays_0 1 rfl rfl)
theorem dX17_stays_2 : decode cX17_stays 2 = .ok (.iconst 0, 1) := dk_3 (dk_at dksX17_stays_0 2 rfl rfl)
theorem dX17_stays_3 : decode cX17_stays 3 = .ok (.istore_n 3, 1) := dk_62 (dk_at dksX17_stays_0 3 rfl rfl)
theorem dX17_stays_4 : decode cX17_stays 4 = .ok (.iload_n 3, 1) := dk_29 (dk_at dksX17_stays_0 4 rfl rfl)
theorem dX17_stays_5 : decode cX17_stays 5 = .ok (.bipush 24, 2) := dk_16 24 (dk_at dksX17_stays_0 5 rfl rfl)
theorem dX17_stays_7 : decode cX17_stays 7 = .ok (.if_icmp .ge 27, 3) := dk_162 0 27 (dk_at dksX17_stays_0 7 rfl rfl)
theorem dX17_stays_10 : decode cX17_stays 10 = .ok (.iload_n 2, 1) := dk_28 (dk_at dksX17_stays_0 10 rfl rfl)
theorem dX17_stays_11 : decode cX17_stays 11 = .ok (.aload_n 0, 1) := dk_42 (dk_at dksX17_stays_0 11 rfl rfl)
theorem dX17_stays_12 : decode cX17_stays 12 = .ok (.iload_n 1, 1) := dk_27 (dk_at dksX17_stays_0 12 rfl rfl)
theorem dX17_stays_13 : decode cX17_stays 13 = .ok (.iload_n 3, 1) := dk_29 (dk_at dksX17_stays_0 13 rfl rfl)
theorem dX17_stays_14 : decode cX17_stays 14 = .ok (.invokevirtual 195, 3) := dk_182 0 195 (dk_at dksX17_stays_0 14 rfl rfl)
theorem dX17_stays_17 : decode cX17_stays 17 = .ok (.iload_n 3, 1) := dk_29 (dk_at dksX17_stays_0 17 rfl rfl)
theorem dX17_stays_18 : decode cX17_stays 18 = .ok (.if_icmp .ne 7, 3) := dk_160 0 7 (dk_at dksX17_stays_0 18 rfl rfl)
theorem dX17_stays_21 : decode cX17_stays 21 = .ok (.iconst 1, 1) := dk_4 (dk_at dksX17_stays_0 21 rfl rfl)
theorem dX17_stays_22 : decode cX17_stays 22 = .ok (.goto 4, 3) := dk_167 0 4 (dk_at dksX17_stays_1 0 rfl rfl)
theorem dX17_stays_25 : decode cX17_stays 25 = .ok (.iconst 0, 1) := dk_3 (dk_at dksX17_stays_1 3 rfl rfl)
theorem dX17_stays_26 : decode cX17_stays 26 = .ok (.iadd, 1) := dk_96 (dk_at dksX17_stays_1 4 rfl rfl)
theorem dX17_stays_27 : decode cX17_stays 27 = .ok (.istore_n 2, 1) := dk_61 (dk_at dksX17_stays_1 5 rfl rfl)
theorem dX17_stays_28 : decode cX17_stays 28 = .ok (.iinc 3 1, 3) := dk_132 3 1 (dk_at dksX17_stays_1 6 rfl rfl)
theorem dX17_stays_31 : decode cX17_stays 31 = .ok (.goto (-27), 3) := dk_167 255 229 (dk_at dksX17_stays_1 9 rfl rfl)
theorem dX17_stays_34 : decode cX17_stays 34 = .ok (.iload_n 2, 1) := dk_28 (dk_at dksX17_stays_1 12 rfl rfl)
theorem dX17_stays_35 : decode cX17_stays 35 = .ok (.ireturn, 1) := dk_172 (dk_at dksX17_stays_1 13 rfl rfl)
abbrev cX17_rings : ByteArray := prog_24_method_37_code
def yX17_rings : MethodName := ⟨RX17, "rings", "(I)I"⟩
def dkwX17_rings_1 : List UInt8 := [3, 96, 61, 132, 3, 1, 167, 255, 230, 28, 172]
abbrev dktX17_rings_1 : List UInt8 := dkwX17_rings_1 ++ []
def dkwX17_rings_0 : List UInt8 := [3, 61, 3, 62, 29, 16, 24, 162, 0, 26, 28, 42, 27, 29, 182, 0, 201, 153, 0, 7, 4, 167, 0, 4]
abbrev dktX17_rings_0 : List UInt8 := dkwX17_rings_0 ++ dktX17_rings_1
theorem dksX17_rings_0 : cX17_rings.data.toList.drop 0 = dktX17_rings_0 := by decide +kernel
theorem dksX17_rings_1 : cX17_rings.data.toList.drop 24 = dktX17_rings_1 := dk_seg dksX17_rings_0 24 rfl rfl
theorem dX17_rings_0 : decode cX17_rings 0 = .ok (.iconst 0, 1) := dk_3 (dk_at dksX17_rings_0 0 rfl rfl)
theorem dX17_rings_1 : decode cX17_rings 1 = .ok (.istore_n 2, 1) := dk_61 (dk_at dksX17_rings_0 1 rfl rfl)
theorem dX17_rings_2 : decode cX17_rings 2 = .ok (.iconst 0, 1) := dk_3 (dk_at dksX17_rings_0 2 rfl rfl)
theorem dX17_rings_3 : decode cX17_rings 3 = .ok (.istore_n 3, 1) := dk_62 (dk_at dksX17_rings_0 3 rfl rfl)
theorem dX17_rings_4 : decode cX17_rings 4 = .ok (.iload_n 3, 1) := dk_29 (dk_at dksX17_rings_0 4 rfl rfl)
theorem dX17_rings_5 : decode cX17_rings 5 = .ok (.bipush 24, 2) := dk_16 24 (dk_at dksX17_rings_0 5 rfl rfl)
theorem dX17_rings_7 : decode cX17_rings 7 = .ok (.if_icmp .ge 26, 3) := dk_162 0 26 (dk_at dksX17_rings_0 7 rfl rfl)
theorem dX17_rings_10 : decode cX17_rings 10 = .ok (.iload_n 2, 1) := dk_28 (dk_at dksX17_rings_0 10 rfl rfl)
theorem dX17_rings_11 : decode cX17_rings 11 = .ok (.aload_n 0, 1) := dk_42 (dk_at dksX17_rings_0 11 rfl rfl)
theorem dX17_rings_12 : decode cX17_rings 12 = .ok (.iload_n 1, 1) := dk_27 (dk_at dksX17_rings_0 12 rfl rfl)
theorem dX17_rings_13 : decode cX17_rings 13 = .ok (.iload_n 3, 1) := dk_29 (dk_at dksX17_rings_0 13 rfl rfl)
theorem dX17_rings_14 : decode cX17_rings 14 = .ok (.invokevirtual 201, 3) := dk_182 0 201 (dk_at dksX17_rings_0 14 rfl rfl)
theorem dX17_rings_17 : decode cX17_rings 17 = .ok (.ifCond .eq 7, 3) := dk_153 0 7 (dk_at dksX17_rings_0 17 rfl rfl)
theorem dX17_rings_20 : decode cX17_rings 20 = .ok (.iconst 1, 1) := dk_4 (dk_at dksX17_rings_0 20 rfl rfl)
theorem dX17_rings_21 : decode cX17_rings 21 = .ok (.goto 4, 3) := dk_167 0 4 (dk_at dksX17_rings_0 21 rfl rfl)
theorem dX17_rings_24 : decode cX17_rings 24 = .ok (.iconst 0, 1) := dk_3 (dk_at dksX17_rings_1 0 rfl rfl)
theorem dX17_rings_25 : decode cX17_rings 25 = .ok (.iadd, 1) := dk_96 (dk_at dksX17_rings_1 1 rfl rfl)
theorem dX17_rings_26 : decode cX17_rings 26 = .ok (.istore_n 2, 1) := dk_61 (dk_at dksX17_rings_1 2 rfl rfl)
theorem dX17_rings_27 : decode cX17_rings 27 = .ok (.iinc 3 1, 3) := dk_132 3 1 (dk_at dksX17_rings_1 3 rfl rfl)
theorem dX17_rings_30 : decode cX17_rings 30 = .ok (.goto (-26), 3) := dk_167 255 230 (dk_at dksX17_rings_1 6 rfl rfl)
theorem dX17_rings_33 : decode cX17_rings 33 = .ok (.iload_n 2, 1) := dk_28 (dk_at dksX17_rings_1 9 rfl rfl)
theorem dX17_rings_34 : decode cX17_rings 34 = .ok (.ireturn, 1) := dk_172 (dk_at dksX17_rings_1 10 rfl rfl)
abbrev cX17_isLeast : ByteArray := prog_24_method_36_code
def yX17_isLeast : MethodName := ⟨RX17, "isLeast", "(II)Z"⟩
def dkwX17_isLeast_2 : List UInt8 := [172]
abbrev dktX17_isLeast_2 : List UInt8 := dkwX17_isLeast_2 ++ []
def dkwX17_isLeast_1 : List UInt8 := [182, 0, 195, 54, 4, 21, 4, 28, 161, 0, 7, 4, 167, 0, 4, 3, 62, 132, 5, 1, 167, 255, 221, 29]
abbrev dktX17_isLeast_1 : List UInt8 := dkwX17_isLeast_1 ++ dktX17_isLeast_2
def dkwX17_isLeast_0 : List UInt8 := [4, 62, 28, 54, 4, 3, 54, 5, 21, 5, 16, 24, 162, 0, 34, 29, 153, 0, 30, 42, 27, 21, 4]
abbrev dktX17_isLeast_0 : List UInt8 := dkwX17_isLeast_0 ++ dktX17_isLeast_1
theorem dksX17_isLeast_0 : cX17_isLeast.data.toList.drop 0 = dktX17_isLeast_0 := by decide +kernel
theorem dksX17_isLeast_1 : cX17_isLeast.data.toList.drop 23 = dktX17_isLeast_1 := dk_seg dksX17_isLeast_0 23 rfl rfl
theorem dksX17_isLeast_2 : cX17_isLeast.data.toList.drop 47 = dktX17_isLeast_2 := dk_seg dksX17_isLeast_1 24 rfl rfl
theorem dX17_isLeast_0 : decode cX17_isLeast 0 = .ok (.iconst 1, 1) := dk_4 (dk_at dksX17_isLeast_0 0 rfl rfl)
theorem dX17_isLeast_1 : decode cX17_isLeast 1 = .ok (.istore_n 3, 1) := dk_62 (dk_at dksX17_isLeast_0 1 rfl rfl)
theorem dX17_isLeast_2 : decode cX17_isLeast 2 = .ok (.iload_n 2, 1) := dk_28 (dk_at dksX17_isLeast_0 2 rfl rfl)
theorem dX17_isLeast_3 : decode cX17_isLeast 3 = .ok (.istore 4, 2) := dk_54 4 (dk_at dksX17_isLeast_0 3 rfl rfl)
theorem dX17_isLeast_5 : decode cX17_isLeast 5 = .ok (.iconst 0, 1) := dk_3 (dk_at dksX17_isLeast_0 5 rfl rfl)
theorem dX17_isLeast_6 : decode cX17_isLeast 6 = .ok (.istore 5, 2) := dk_54 5 (dk_at dksX17_isLeast_0 6 rfl rfl)
theorem dX17_isLeast_8 : decode cX17_isLeast 8 = .ok (.iload 5, 2) := dk_21 5 (dk_at dksX17_isLeast_0 8 rfl rfl)
theorem dX17_isLeast_10 : decode cX17_isLeast 10 = .ok (.bipush 24, 2) := dk_16 24 (dk_at dksX17_isLeast_0 10 rfl rfl)
theorem dX17_isLeast_12 : decode cX17_isLeast 12 = .ok (.if_icmp .ge 34, 3) := dk_162 0 34 (dk_at dksX17_isLeast_0 12 rfl rfl)
theorem dX17_isLeast_15 : decode cX17_isLeast 15 = .ok (.iload_n 3, 1) := dk_29 (dk_at dksX17_isLeast_0 15 rfl rfl)
theorem dX17_isLeast_16 : decode cX17_isLeast 16 = .ok (.ifCond .eq 30, 3) := dk_153 0 30 (dk_at dksX17_isLeast_0 16 rfl rfl)
theorem dX17_isLeast_19 : decode cX17_isLeast 19 = .ok (.aload_n 0, 1) := dk_42 (dk_at dksX17_isLeast_0 19 rfl rfl)
theorem dX17_isLeast_20 : decode cX17_isLeast 20 = .ok (.iload_n 1, 1) := dk_27 (dk_at dksX17_isLeast_0 20 rfl rfl)
theorem dX17_isLeast_21 : decode cX17_isLeast 21 = .ok (.iload 4, 2) := dk_21 4 (dk_at dksX17_isLeast_0 21 rfl rfl)
theorem dX17_isLeast_23 : decode cX17_isLeast 23 = .ok (.invokevirtual 195, 3) := dk_182 0 195 (dk_at dksX17_isLeast_1 0 rfl rfl)
theorem dX17_isLeast_26 : decode cX17_isLeast 26 = .ok (.istore 4, 2) := dk_54 4 (dk_at dksX17_isLeast_1 3 rfl rfl)
theorem dX17_isLeast_28 : decode cX17_isLeast 28 = .ok (.iload 4, 2) := dk_21 4 (dk_at dksX17_isLeast_1 5 rfl rfl)
theorem dX17_isLeast_30 : decode cX17_isLeast 30 = .ok (.iload_n 2, 1) := dk_28 (dk_at dksX17_isLeast_1 7 rfl rfl)
theorem dX17_isLeast_31 : decode cX17_isLeast 31 = .ok (.if_icmp .lt 7, 3) := dk_161 0 7 (dk_at dksX17_isLeast_1 8 rfl rfl)
theorem dX17_isLeast_34 : decode cX17_isLeast 34 = .ok (.iconst 1, 1) := dk_4 (dk_at dksX17_isLeast_1 11 rfl rfl)
theorem dX17_isLeast_35 : decode cX17_isLeast 35 = .ok (.goto 4, 3) := dk_167 0 4 (dk_at dksX17_isLeast_1 12 rfl rfl)
theorem dX17_isLeast_38 : decode cX17_isLeast 38 = .ok (.iconst 0, 1) := dk_3 (dk_at dksX17_isLeast_1 15 rfl rfl)
theorem dX17_isLeast_39 : decode cX17_isLeast 39 = .ok (.istore_n 3, 1) := dk_62 (dk_at dksX17_isLeast_1 16 rfl rfl)
theorem dX17_isLeast_40 : decode cX17_isLeast 40 = .ok (.iinc 5 1, 3) := dk_132 5 1 (dk_at dksX17_isLeast_1 17 rfl rfl)
theorem dX17_isLeast_43 : decode cX17_isLeast 43 = .ok (.goto (-35), 3) := dk_167 255 221 (dk_at dksX17_isLeast_1 20 rfl rfl)
theorem dX17_isLeast_46 : decode cX17_isLeast 46 = .ok (.iload_n 3, 1) := dk_29 (dk_at dksX17_isLeast_1 23 rfl rfl)
theorem dX17_isLeast_47 : decode cX17_isLeast 47 = .ok (.ireturn, 1) := dk_172 (dk_at dksX17_isLeast_2 0 rfl rfl)
abbrev cX17_orderOf : ByteArray := prog_24_method_38_code
def yX17_orderOf : MethodName := ⟨RX17, "orderOf", "(I)I"⟩
def dkwX17_orderOf_2 : List UInt8 := [167, 255, 234, 132, 3, 1, 167, 255, 208, 28, 172]
abbrev dktX17_orderOf_2 : List UInt8 := dkwX17_orderOf_2 ++ []
def dkwX17_orderOf_1 : List UInt8 := [21, 6, 16, 24, 162, 0, 21, 28, 21, 4, 112, 153, 0, 14, 28, 21, 5, 96, 61, 132, 6, 1]
abbrev dktX17_orderOf_1 : List UInt8 := dkwX17_orderOf_1 ++ dktX17_orderOf_2
def dkwX17_orderOf_0 : List UInt8 := [4, 61, 3, 62, 29, 16, 24, 162, 0, 48, 42, 27, 29, 182, 0, 204, 54, 4, 28, 54, 5, 4, 54, 6]
abbrev dktX17_orderOf_0 : List UInt8 := dkwX17_orderOf_0 ++ dktX17_orderOf_1
theorem dksX17_orderOf_0 : cX17_orderOf.data.toList.drop 0 = dktX17_orderOf_0 := by decide +kernel
theorem dksX17_orderOf_1 : cX17_orderOf.data.toList.drop 24 = dktX17_orderOf_1 := dk_seg dksX17_orderOf_0 24 rfl rfl
theorem dksX17_orderOf_2 : cX17_orderOf.data.toList.drop 46 = dktX17_orderOf_2 := dk_seg dksX17_orderOf_1 22 rfl rfl
theorem dX17_orderOf_0 : decode cX17_orderOf 0 = .ok (.iconst 1, 1) := dk_4 (dk_at dksX17_orderOf_0 0 rfl rfl)
theorem dX17_orderOf_1 : decode cX17_orderOf 1 = .ok (.istore_n 2, 1) := dk_61 (dk_at dksX17_orderOf_0 1 rfl rfl)
theorem dX17_orderOf_2 : decode cX17_orderOf 2 = .ok (.iconst 0, 1) := dk_3 (dk_at dksX17_orderOf_0 2 rfl rfl)
theorem dX17_orderOf_3 : decode cX17_orderOf 3 = .ok (.istore_n 3, 1) := dk_62 (dk_at dksX17_orderOf_0 3 rfl rfl)
theorem dX17_orderOf_4 : decode cX17_orderOf 4 = .ok (.iload_n 3, 1) := dk_29 (dk_at dksX17_orderOf_0 4 rfl rfl)
theorem dX17_orderOf_5 : decode cX17_orderOf 5 = .ok (.bipush 24, 2) := dk_16 24 (dk_at dksX17_orderOf_0 5 rfl rfl)
theorem dX17_orderOf_7 : decode cX17_orderOf 7 = .ok (.if_icmp .ge 48, 3) := dk_162 0 48 (dk_at dksX17_orderOf_0 7 rfl rfl)
theorem dX17_orderOf_10 : decode cX17_orderOf 10 = .ok (.aload_n 0, 1) := dk_42 (dk_at dksX17_orderOf_0 10 rfl rfl)
theorem dX17_orderOf_11 : decode cX17_orderOf 11 = .ok (.iload_n 1, 1) := dk_27 (dk_at dksX17_orderOf_0 11 rfl rfl)
theorem dX17_orderOf_12 : decode cX17_orderOf 12 = .ok (.iload_n 3, 1) := dk_29 (dk_at dksX17_orderOf_0 12 rfl rfl)
theorem dX17_orderOf_13 : decode cX17_orderOf 13 = .ok (.invokevirtual 204, 3) := dk_182 0 204 (dk_at dksX17_orderOf_0 13 rfl rfl)
theorem dX17_orderOf_16 : decode cX17_orderOf 16 = .ok (.istore 4, 2) := dk_54 4 (dk_at dksX17_orderOf_0 16 rfl rfl)
theorem dX17_orderOf_18 : decode cX17_orderOf 18 = .ok (.iload_n 2, 1) := dk_28 (dk_at dksX17_orderOf_0 18 rfl rfl)
theorem dX17_orderOf_19 : decode cX17_orderOf 19 = .ok (.istore 5, 2) := dk_54 5 (dk_at dksX17_orderOf_0 19 rfl rfl)
theorem dX17_orderOf_21 : decode cX17_orderOf 21 = .ok (.iconst 1, 1) := dk_4 (dk_at dksX17_orderOf_0 21 rfl rfl)
theorem dX17_orderOf_22 : decode cX17_orderOf 22 = .ok (.istore 6, 2) := dk_54 6 (dk_at dksX17_orderOf_0 22 rfl rfl)
theorem dX17_orderOf_24 : decode cX17_orderOf 24 = .ok (.iload 6, 2) := dk_21 6 (dk_at dksX17_orderOf_1 0 rfl rfl)
theorem dX17_orderOf_26 : decode cX17_orderOf 26 = .ok (.bipush 24, 2) := dk_16 24 (dk_at dksX17_orderOf_1 2 rfl rfl)
theorem dX17_orderOf_28 : decode cX17_orderOf 28 = .ok (.if_icmp .ge 21, 3) := dk_162 0 21 (dk_at dksX17_orderOf_1 4 rfl rfl)
theorem dX17_orderOf_31 : decode cX17_orderOf 31 = .ok (.iload_n 2, 1) := dk_28 (dk_at dksX17_orderOf_1 7 rfl rfl)
theorem dX17_orderOf_32 : decode cX17_orderOf 32 = .ok (.iload 4, 2) := dk_21 4 (dk_at dksX17_orderOf_1 8 rfl rfl)
theorem dX17_orderOf_34 : decode cX17_orderOf 34 = .ok (.irem, 1) := dk_112 (dk_at dksX17_orderOf_1 10 rfl rfl)
theorem dX17_orderOf_35 : decode cX17_orderOf 35 = .ok (.ifCond .eq 14, 3) := dk_153 0 14 (dk_at dksX17_orderOf_1 11 rfl rfl)
theorem dX17_orderOf_38 : decode cX17_orderOf 38 = .ok (.iload_n 2, 1) := dk_28 (dk_at dksX17_orderOf_1 14 rfl rfl)
theorem dX17_orderOf_39 : decode cX17_orderOf 39 = .ok (.iload 5, 2) := dk_21 5 (dk_at dksX17_orderOf_1 15 rfl rfl)
theorem dX17_orderOf_41 : decode cX17_orderOf 41 = .ok (.iadd, 1) := dk_96 (dk_at dksX17_orderOf_1 17 rfl rfl)
theorem dX17_orderOf_42 : decode cX17_orderOf 42 = .ok (.istore_n 2, 1) := dk_61 (dk_at dksX17_orderOf_1 18 rfl rfl)
theorem dX17_orderOf_43 : decode cX17_orderOf 43 = .ok (.iinc 6 1, 3) := dk_132 6 1 (dk_at dksX17_orderOf_1 19 rfl rfl)
theorem dX17_orderOf_46 : decode cX17_orderOf 46 = .ok (.goto (-22), 3) := dk_167 255 234 (dk_at dksX17_orderOf_2 0 rfl rfl)
theorem dX17_orderOf_49 : decode cX17_orderOf 49 = .ok (.iinc 3 1, 3) := dk_132 3 1 (dk_at dksX17_orderOf_2 3 rfl rfl)
theorem dX17_orderOf_52 : decode cX17_orderOf 52 = .ok (.goto (-48), 3) := dk_167 255 208 (dk_at dksX17_orderOf_2 6 rfl rfl)
theorem dX17_orderOf_55 : decode cX17_orderOf 55 = .ok (.iload_n 2, 1) := dk_28 (dk_at dksX17_orderOf_2 9 rfl rfl)
theorem dX17_orderOf_56 : decode cX17_orderOf 56 = .ok (.ireturn, 1) := dk_172 (dk_at dksX17_orderOf_2 10 rfl rfl)
abbrev cX17_ring : ByteArray := prog_24_method_35_code
def yX17_ring : MethodName := ⟨RX17, "ring", "(II)I"⟩
def dkwX17_ring_1 : List UInt8 := [132, 3, 1, 42, 27, 21, 4, 182, 0, 195, 54, 4, 167, 255, 232, 29, 172]
abbrev dktX17_ring_1 : List UInt8 := dkwX17_ring_1 ++ []
def dkwX17_ring_0 : List UInt8 := [4, 62, 42, 27, 28, 182, 0, 195, 54, 4, 21, 4, 28, 159, 0, 24, 29, 16, 24, 162, 0, 18]
abbrev dktX17_ring_0 : List UInt8 := dkwX17_ring_0 ++ dktX17_ring_1
theorem dksX17_ring_0 : cX17_ring.data.toList.drop 0 = dktX17_ring_0 := by decide +kernel
theorem dksX17_ring_1 : cX17_ring.data.toList.drop 22 = dktX17_ring_1 := dk_seg dksX17_ring_0 22 rfl rfl
theorem dX17_ring_0 : decode cX17_ring 0 = .ok (.iconst 1, 1) := dk_4 (dk_at dksX17_ring_0 0 rfl rfl)
theorem dX17_ring_1 : decode cX17_ring 1 = .ok (.istore_n 3, 1) := dk_62 (dk_at dksX17_ring_0 1 rfl rfl)
theorem dX17_ring_2 : decode cX17_ring 2 = .ok (.aload_n 0, 1) := dk_42 (dk_at dksX17_ring_0 2 rfl rfl)
theorem dX17_ring_3 : decode cX17_ring 3 = .ok (.iload_n 1, 1) := dk_27 (dk_at dksX17_ring_0 3 rfl rfl)
theorem dX17_ring_4 : decode cX17_ring 4 = .ok (.iload_n 2, 1) := dk_28 (dk_at dksX17_ring_0 4 rfl rfl)
theorem dX17_ring_5 : decode cX17_ring 5 = .ok (.invokevirtual 195, 3) := dk_182 0 195 (dk_at dksX17_ring_0 5 rfl rfl)
theorem dX17_ring_8 : decode cX17_ring 8 = .ok (.istore 4, 2) := dk_54 4 (dk_at dksX17_ring_0 8 rfl rfl)
theorem dX17_ring_10 : decode cX17_ring 10 = .ok (.iload 4, 2) := dk_21 4 (dk_at dksX17_ring_0 10 rfl rfl)
theorem dX17_ring_12 : decode cX17_ring 12 = .ok (.iload_n 2, 1) := dk_28 (dk_at dksX17_ring_0 12 rfl rfl)
theorem dX17_ring_13 : decode cX17_ring 13 = .ok (.if_icmp .eq 24, 3) := dk_159 0 24 (dk_at dksX17_ring_0 13 rfl rfl)
theorem dX17_ring_16 : decode cX17_ring 16 = .ok (.iload_n 3, 1) := dk_29 (dk_at dksX17_ring_0 16 rfl rfl)
theorem dX17_ring_17 : decode cX17_ring 17 = .ok (.bipush 24, 2) := dk_16 24 (dk_at dksX17_ring_0 17 rfl rfl)
theorem dX17_ring_19 : decode cX17_ring 19 = .ok (.if_icmp .ge 18, 3) := dk_162 0 18 (dk_at dksX17_ring_0 19 rfl rfl)
theorem dX17_ring_22 : decode cX17_ring 22 = .ok (.iinc 3 1, 3) := dk_132 3 1 (dk_at dksX17_ring_1 0 rfl rfl)
theorem dX17_ring_25 : decode cX17_ring 25 = .ok (.aload_n 0, 1) := dk_42 (dk_at dksX17_ring_1 3 rfl rfl)
theorem dX17_ring_26 : decode cX17_ring 26 = .ok (.iload_n 1, 1) := dk_27 (dk_at dksX17_ring_1 4 rfl rfl)
theorem dX17_ring_27 : decode cX17_ring 27 = .ok (.iload 4, 2) := dk_21 4 (dk_at dksX17_ring_1 5 rfl rfl)
theorem dX17_ring_29 : decode cX17_ring 29 = .ok (.invokevirtual 195, 3) := dk_182 0 195 (dk_at dksX17_ring_1 7 rfl rfl)
theorem dX17_ring_32 : decode cX17_ring 32 = .ok (.istore 4, 2) := dk_54 4 (dk_at dksX17_ring_1 10 rfl rfl)
theorem dX17_ring_34 : decode cX17_ring 34 = .ok (.goto (-24), 3) := dk_167 255 232 (dk_at dksX17_ring_1 12 rfl rfl)
theorem dX17_ring_37 : decode cX17_ring 37 = .ok (.iload_n 3, 1) := dk_29 (dk_at dksX17_ring_1 15 rfl rfl)
theorem dX17_ring_38 : decode cX17_ring 38 = .ok (.ireturn, 1) := dk_172 (dk_at dksX17_ring_1 16 rfl rfl)
abbrev cX17_octadsKept : ByteArray := prog_24_method_40_code
def yX17_octadsKept : MethodName := ⟨RX17, "octadsKept", "(I)I"⟩
def dkwX17_octadsKept_1 : List UInt8 := [180, 0, 22, 29, 46, 160, 0, 7, 4, 167, 0, 4, 3, 96, 61, 132, 3, 1, 167, 255, 218, 28, 172]
abbrev dktX17_octadsKept_1 : List UInt8 := dkwX17_octadsKept_1 ++ []
def dkwX17_octadsKept_0 : List UInt8 := [3, 61, 3, 62, 29, 17, 2, 247, 162, 0, 37, 28, 42, 27, 42, 180, 0, 22, 29, 46, 182, 0, 198, 42]
abbrev dktX17_octadsKept_0 : List UInt8 := dkwX17_octadsKept_0 ++ dktX17_octadsKept_1
theorem dksX17_octadsKept_0 : cX17_octadsKept.data.toList.drop 0 = dktX17_octadsKept_0 := by decide +kernel
theorem dksX17_octadsKept_1 : cX17_octadsKept.data.toList.drop 24 = dktX17_octadsKept_1 := dk_seg dksX17_octadsKept_0 24 rfl rfl
theorem dX17_octadsKept_0 : decode cX17_octadsKept 0 = .ok (.iconst 0, 1) := dk_3 (dk_at dksX17_octadsKept_0 0 rfl rfl)
theorem dX17_octadsKept_1 : decode cX17_octadsKept 1 = .ok (.istore_n 2, 1) := dk_61 (dk_at dksX17_octadsKept_0 1 rfl rfl)
theorem dX17_octadsKept_2 : decode cX17_octadsKept 2 = .ok (.iconst 0, 1) := dk_3 (dk_at dksX17_octadsKept_0 2 rfl rfl)
theorem dX17_octadsKept_3 : decode cX17_octadsKept 3 = .ok (.istore_n 3, 1) := dk_62 (dk_at dksX17_octadsKept_0 3 rfl rfl)
theorem dX17_octadsKept_4 : decode cX17_octadsKept 4 = .ok (.iload_n 3, 1) := dk_29 (dk_at dksX17_octadsKept_0 4 rfl rfl)
theorem dX17_octadsKept_5 : decode cX17_octadsKept 5 = .ok (.sipush 759, 3) := dk_17 2 247 (dk_at dksX17_octadsKept_0 5 rfl rfl)
theorem dX17_octadsKept_8 : decode cX17_octadsKept 8 = .ok (.if_icmp .ge 37, 3) := dk_162 0 37 (dk_at dksX17_octadsKept_0 8 rfl rfl)
theorem dX17_octadsKept_11 : decode cX17_octadsKept 11 = .ok (.iload_n 2, 1) := dk_28 (dk_at dksX17_octadsKept_0 11 rfl rfl)
theorem dX17_octadsKept_12 : decode cX17_octadsKept 12 = .ok (.aload_n 0, 1) := dk_42 (dk_at dksX17_octadsKept_0 12 rfl rfl)
theorem dX17_octadsKept_13 : decode cX17_octadsKept 13 = .ok (.iload_n 1, 1) := dk_27 (dk_at dksX17_octadsKept_0 13 rfl rfl)
theorem dX17_octadsKept_14 : decode cX17_octadsKept 14 = .ok (.aload_n 0, 1) := dk_42 (dk_at dksX17_octadsKept_0 14 rfl rfl)
theorem dX17_octadsKept_15 : decode cX17_octadsKept 15 = .ok (.getfield 22, 3) := dk_180 0 22 (dk_at dksX17_octadsKept_0 15 rfl rfl)
theorem dX17_octadsKept_18 : decode cX17_octadsKept 18 = .ok (.iload_n 3, 1) := dk_29 (dk_at dksX17_octadsKept_0 18 rfl rfl)
theorem dX17_octadsKept_19 : decode cX17_octadsKept 19 = .ok (.iaload, 1) := dk_46 (dk_at dksX17_octadsKept_0 19 rfl rfl)
theorem dX17_octadsKept_20 : decode cX17_octadsKept 20 = .ok (.invokevirtual 198, 3) := dk_182 0 198 (dk_at dksX17_octadsKept_0 20 rfl rfl)
theorem dX17_octadsKept_23 : decode cX17_octadsKept 23 = .ok (.aload_n 0, 1) := dk_42 (dk_at dksX17_octadsKept_0 23 rfl rfl)
theorem dX17_octadsKept_24 : decode cX17_octadsKept 24 = .ok (.getfield 22, 3) := dk_180 0 22 (dk_at dksX17_octadsKept_1 0 rfl rfl)
theorem dX17_octadsKept_27 : decode cX17_octadsKept 27 = .ok (.iload_n 3, 1) := dk_29 (dk_at dksX17_octadsKept_1 3 rfl rfl)
theorem dX17_octadsKept_28 : decode cX17_octadsKept 28 = .ok (.iaload, 1) := dk_46 (dk_at dksX17_octadsKept_1 4 rfl rfl)
theorem dX17_octadsKept_29 : decode cX17_octadsKept 29 = .ok (.if_icmp .ne 7, 3) := dk_160 0 7 (dk_at dksX17_octadsKept_1 5 rfl rfl)
theorem dX17_octadsKept_32 : decode cX17_octadsKept 32 = .ok (.iconst 1, 1) := dk_4 (dk_at dksX17_octadsKept_1 8 rfl rfl)
theorem dX17_octadsKept_33 : decode cX17_octadsKept 33 = .ok (.goto 4, 3) := dk_167 0 4 (dk_at dksX17_octadsKept_1 9 rfl rfl)
theorem dX17_octadsKept_36 : decode cX17_octadsKept 36 = .ok (.iconst 0, 1) := dk_3 (dk_at dksX17_octadsKept_1 12 rfl rfl)
theorem dX17_octadsKept_37 : decode cX17_octadsKept 37 = .ok (.iadd, 1) := dk_96 (dk_at dksX17_octadsKept_1 13 rfl rfl)
theorem dX17_octadsKept_38 : decode cX17_octadsKept 38 = .ok (.istore_n 2, 1) := dk_61 (dk_at dksX17_octadsKept_1 14 rfl rfl)
theorem dX17_octadsKept_39 : decode cX17_octadsKept 39 = .ok (.iinc 3 1, 3) := dk_132 3 1 (dk_at dksX17_octadsKept_1 15 rfl rfl)
theorem dX17_octadsKept_42 : decode cX17_octadsKept 42 = .ok (.goto (-38), 3) := dk_167 255 218 (dk_at dksX17_octadsKept_1 18 rfl rfl)
theorem dX17_octadsKept_45 : decode cX17_octadsKept 45 = .ok (.iload_n 2, 1) := dk_28 (dk_at dksX17_octadsKept_1 21 rfl rfl)
theorem dX17_octadsKept_46 : decode cX17_octadsKept 46 = .ok (.ireturn, 1) := dk_172 (dk_at dksX17_octadsKept_1 22 rfl rfl)
abbrev cX17_texts : ByteArray := prog_24_method_43_code
def yX17_texts : MethodName := ⟨RX17, "texts", "(I)I"⟩
def dkwX17_texts_2 : List UInt8 := [172]
abbrev dktX17_texts_2 : List UInt8 := dkwX17_texts_2 ++ []
def dkwX17_texts_1 : List UInt8 := [28, 182, 0, 195, 28, 159, 0, 9, 42, 27, 28, 182, 0, 214, 132, 2, 1, 167, 255, 222, 42, 180, 0, 207]
abbrev dktX17_texts_1 : List UInt8 := dkwX17_texts_1 ++ dktX17_texts_2
def dkwX17_texts_0 : List UInt8 := [42, 3, 181, 0, 207, 3, 61, 28, 16, 24, 162, 0, 34, 42, 27, 28, 182, 0, 201, 153, 0, 19, 42, 27]
abbrev dktX17_texts_0 : List UInt8 := dkwX17_texts_0 ++ dktX17_texts_1
theorem dksX17_texts_0 : cX17_texts.data.toList.drop 0 = dktX17_texts_0 := by decide +kernel
theorem dksX17_texts_1 : cX17_texts.data.toList.drop 24 = dktX17_texts_1 := dk_seg dksX17_texts_0 24 rfl rfl
theorem dksX17_texts_2 : cX17_texts.data.toList.drop 48 = dktX17_texts_2 := dk_seg dksX17_texts_1 24 rfl rfl
theorem dX17_texts_0 : decode cX17_texts 0 = .ok (.aload_n 0, 1) := dk_42 (dk_at dksX17_texts_0 0 rfl rfl)
theorem dX17_texts_1 : decode cX17_texts 1 = .ok (.iconst 0, 1) := dk_3 (dk_at dksX17_texts_0 1 rfl rfl)
theorem dX17_texts_2 : decode cX17_texts 2 = .ok (.putfield 207, 3) := dk_181 0 207 (dk_at dksX17_texts_0 2 rfl rfl)
theorem dX17_texts_5 : decode cX17_texts 5 = .ok (.iconst 0, 1) := dk_3 (dk_at dksX17_texts_0 5 rfl rfl)
theorem dX17_texts_6 : decode cX17_texts 6 = .ok (.istore_n 2, 1) := dk_61 (dk_at dksX17_texts_0 6 rfl rfl)
theorem dX17_texts_7 : decode cX17_texts 7 = .ok (.iload_n 2, 1) := dk_28 (dk_at dksX17_texts_0 7 rfl rfl)
theorem dX17_texts_8 : decode cX17_texts 8 = .ok (.bipush 24, 2) := dk_16 24 (dk_at dksX17_texts_0 8 rfl rfl)
theorem dX17_texts_10 : decode cX17_texts 10 = .ok (.if_icmp .ge 34, 3) := dk_162 0 34 (dk_at dksX17_texts_0 10 rfl rfl)
theorem dX17_texts_13 : decode cX17_texts 13 = .ok (.aload_n 0, 1) := dk_42 (dk_at dksX17_texts_0 13 rfl rfl)
theorem dX17_texts_14 : decode cX17_texts 14 = .ok (.iload_n 1, 1) := dk_27 (dk_at dksX17_texts_0 14 rfl rfl)
theorem dX17_texts_15 : decode cX17_texts 15 = .ok (.iload_n 2, 1) := dk_28 (dk_at dksX17_texts_0 15 rfl rfl)
theorem dX17_texts_16 : decode cX17_texts 16 = .ok (.invokevirtual 201, 3) := dk_182 0 201 (dk_at dksX17_texts_0 16 rfl rfl)
theorem dX17_texts_19 : decode cX17_texts 19 = .ok (.ifCond .eq 19, 3) := dk_153 0 19 (dk_at dksX17_texts_0 19 rfl rfl)
theorem dX17_texts_22 : decode cX17_texts 22 = .ok (.aload_n 0, 1) := dk_42 (dk_at dksX17_texts_0 22 rfl rfl)
theorem dX17_texts_23 : decode cX17_texts 23 = .ok (.iload_n 1, 1) := dk_27 (dk_at dksX17_texts_0 23 rfl rfl)
theorem dX17_texts_24 : decode cX17_texts 24 = .ok (.iload_n 2, 1) := dk_28 (dk_at dksX17_texts_1 0 rfl rfl)
theorem dX17_texts_25 : decode cX17_texts 25 = .ok (.invokevirtual 195, 3) := dk_182 0 195 (dk_at dksX17_texts_1 1 rfl rfl)
theorem dX17_texts_28 : decode cX17_texts 28 = .ok (.iload_n 2, 1) := dk_28 (dk_at dksX17_texts_1 4 rfl rfl)
theorem dX17_texts_29 : decode cX17_texts 29 = .ok (.if_icmp .eq 9, 3) := dk_159 0 9 (dk_at dksX17_texts_1 5 rfl rfl)
theorem dX17_texts_32 : decode cX17_texts 32 = .ok (.aload_n 0, 1) := dk_42 (dk_at dksX17_texts_1 8 rfl rfl)
theorem dX17_texts_33 : decode cX17_texts 33 = .ok (.iload_n 1, 1) := dk_27 (dk_at dksX17_texts_1 9 rfl rfl)
theorem dX17_texts_34 : decode cX17_texts 34 = .ok (.iload_n 2, 1) := dk_28 (dk_at dksX17_texts_1 10 rfl rfl)
theorem dX17_texts_35 : decode cX17_texts 35 = .ok (.invokevirtual 214, 3) := dk_182 0 214 (dk_at dksX17_texts_1 11 rfl rfl)
theorem dX17_texts_38 : decode cX17_texts 38 = .ok (.iinc 2 1, 3) := dk_132 2 1 (dk_at dksX17_texts_1 14 rfl rfl)
theorem dX17_texts_41 : decode cX17_texts 41 = .ok (.goto (-34), 3) := dk_167 255 222 (dk_at dksX17_texts_1 17 rfl rfl)
theorem dX17_texts_44 : decode cX17_texts 44 = .ok (.aload_n 0, 1) := dk_42 (dk_at dksX17_texts_1 20 rfl rfl)
theorem dX17_texts_45 : decode cX17_texts 45 = .ok (.getfield 207, 3) := dk_180 0 207 (dk_at dksX17_texts_1 21 rfl rfl)
theorem dX17_texts_48 : decode cX17_texts 48 = .ok (.ireturn, 1) := dk_172 (dk_at dksX17_texts_2 0 rfl rfl)
abbrev cX17_putsRing : ByteArray := prog_24_method_42_code
def yX17_putsRing : MethodName := ⟨RX17, "putsRing", "(II)V"⟩
def dkwX17_putsRing_3 : List UInt8 := [182, 0, 195, 62, 132, 4, 255, 167, 255, 196, 177]
abbrev dktX17_putsRing_3 : List UInt8 := dkwX17_putsRing_3 ++ []
def dkwX17_putsRing_2 : List UInt8 := [182, 0, 210, 42, 21, 4, 4, 164, 0, 8, 16, 44, 167, 0, 5, 16, 41, 182, 0, 210, 42, 27, 29]
abbrev dktX17_putsRing_2 : List UInt8 := dkwX17_putsRing_2 ++ dktX17_putsRing_3
def dkwX17_putsRing_1 : List UInt8 := [164, 0, 14, 42, 16, 48, 29, 16, 10, 108, 96, 182, 0, 210, 42, 16, 48, 29, 16, 10, 112, 96]
abbrev dktX17_putsRing_1 : List UInt8 := dkwX17_putsRing_1 ++ dktX17_putsRing_2
def dkwX17_putsRing_0 : List UInt8 := [42, 16, 40, 182, 0, 210, 28, 62, 42, 27, 28, 182, 0, 204, 54, 4, 21, 4, 158, 0, 61, 29, 16, 9]
abbrev dktX17_putsRing_0 : List UInt8 := dkwX17_putsRing_0 ++ dktX17_putsRing_1
theorem dksX17_putsRing_0 : cX17_putsRing.data.toList.drop 0 = dktX17_putsRing_0 := by decide +kernel
theorem dksX17_putsRing_1 : cX17_putsRing.data.toList.drop 24 = dktX17_putsRing_1 := dk_seg dksX17_putsRing_0 24 rfl rfl
theorem dksX17_putsRing_2 : cX17_putsRing.data.toList.drop 46 = dktX17_putsRing_2 := dk_seg dksX17_putsRing_1 22 rfl rfl
theorem dksX17_putsRing_3 : cX17_putsRing.data.toList.drop 69 = dktX17_putsRing_3 := dk_seg dksX17_putsRing_2 23 rfl rfl
theorem dX17_putsRing_0 : decode cX17_putsRing 0 = .ok (.aload_n 0, 1) := dk_42 (dk_at dksX17_putsRing_0 0 rfl rfl)
theorem dX17_putsRing_1 : decode cX17_putsRing 1 = .ok (.bipush 40, 2) := dk_16 40 (dk_at dksX17_putsRing_0 1 rfl rfl)
theorem dX17_putsRing_3 : decode cX17_putsRing 3 = .ok (.invokevirtual 210, 3) := dk_182 0 210 (dk_at dksX17_putsRing_0 3 rfl rfl)
theorem dX17_putsRing_6 : decode cX17_putsRing 6 = .ok (.iload_n 2, 1) := dk_28 (dk_at dksX17_putsRing_0 6 rfl rfl)
theorem dX17_putsRing_7 : decode cX17_putsRing 7 = .ok (.istore_n 3, 1) := dk_62 (dk_at dksX17_putsRing_0 7 rfl rfl)
theorem dX17_putsRing_8 : decode cX17_putsRing 8 = .ok (.aload_n 0, 1) := dk_42 (dk_at dksX17_putsRing_0 8 rfl rfl)
theorem dX17_putsRing_9 : decode cX17_putsRing 9 = .ok (.iload_n 1, 1) := dk_27 (dk_at dksX17_putsRing_0 9 rfl rfl)
theorem dX17_putsRing_10 : decode cX17_putsRing 10 = .ok (.iload_n 2, 1) := dk_28 (dk_at dksX17_putsRing_0 10 rfl rfl)
theorem dX17_putsRing_11 : decode cX17_putsRing 11 = .ok (.invokevirtual 204, 3) := dk_182 0 204 (dk_at dksX17_putsRing_0 11 rfl rfl)
theorem dX17_putsRing_14 : decode cX17_putsRing 14 = .ok (.istore 4, 2) := dk_54 4 (dk_at dksX17_putsRing_0 14 rfl rfl)
theorem dX17_putsRing_16 : decode cX17_putsRing 16 = .ok (.iload 4, 2) := dk_21 4 (dk_at dksX17_putsRing_0 16 rfl rfl)
theorem dX17_putsRing_18 : decode cX17_putsRing 18 = .ok (.ifCond .le 61, 3) := dk_158 0 61 (dk_at dksX17_putsRing_0 18 rfl rfl)
theorem dX17_putsRing_21 : decode cX17_putsRing 21 = .ok (.iload_n 3, 1) := dk_29 (dk_at dksX17_putsRing_0 21 rfl rfl)
theorem dX17_putsRing_22 : decode cX17_putsRing 22 = .ok (.bipush 9, 2) := dk_16 9 (dk_at dksX17_putsRing_0 22 rfl rfl)
theorem dX17_putsRing_24 : decode cX17_putsRing 24 = .ok (.if_icmp .le 14, 3) := dk_164 0 14 (dk_at dksX17_putsRing_1 0 rfl rfl)
theorem dX17_putsRing_27 : decode cX17_putsRing 27 = .ok (.aload_n 0, 1) := dk_42 (dk_at dksX17_putsRing_1 3 rfl rfl)
theorem dX17_putsRing_28 : decode cX17_putsRing 28 = .ok (.bipush 48, 2) := dk_16 48 (dk_at dksX17_putsRing_1 4 rfl rfl)
theorem dX17_putsRing_30 : decode cX17_putsRing 30 = .ok (.iload_n 3, 1) := dk_29 (dk_at dksX17_putsRing_1 6 rfl rfl)
theorem dX17_putsRing_31 : decode cX17_putsRing 31 = .ok (.bipush 10, 2) := dk_16 10 (dk_at dksX17_putsRing_1 7 rfl rfl)
theorem dX17_putsRing_33 : decode cX17_putsRing 33 = .ok (.idiv, 1) := dk_108 (dk_at dksX17_putsRing_1 9 rfl rfl)
theorem dX17_putsRing_34 : decode cX17_putsRing 34 = .ok (.iadd, 1) := dk_96 (dk_at dksX17_putsRing_1 10 rfl rfl)
theorem dX17_putsRing_35 : decode cX17_putsRing 35 = .ok (.invokevirtual 210, 3) := dk_182 0 210 (dk_at dksX17_putsRing_1 11 rfl rfl)
theorem dX17_putsRing_38 : decode cX17_putsRing 38 = .ok (.aload_n 0, 1) := dk_42 (dk_at dksX17_putsRing_1 14 rfl rfl)
theorem dX17_putsRing_39 : decode cX17_putsRing 39 = .ok (.bipush 48, 2) := dk_16 48 (dk_at dksX17_putsRing_1 15 rfl rfl)
theorem dX17_putsRing_41 : decode cX17_putsRing 41 = .ok (.iload_n 3, 1) := dk_29 (dk_at dksX17_putsRing_1 17 rfl rfl)
theorem dX17_putsRing_42 : decode cX17_putsRing 42 = .ok (.bipush 10, 2) := dk_16 10 (dk_at dksX17_putsRing_1 18 rfl rfl)
theorem dX17_putsRing_44 : decode cX17_putsRing 44 = .ok (.irem, 1) := dk_112 (dk_at dksX17_putsRing_1 20 rfl rfl)
theorem dX17_putsRing_45 : decode cX17_putsRing 45 = .ok (.iadd, 1) := dk_96 (dk_at dksX17_putsRing_1 21 rfl rfl)
theorem dX17_putsRing_46 : decode cX17_putsRing 46 = .ok (.invokevirtual 210, 3) := dk_182 0 210 (dk_at dksX17_putsRing_2 0 rfl rfl)
theorem dX17_putsRing_49 : decode cX17_putsRing 49 = .ok (.aload_n 0, 1) := dk_42 (dk_at dksX17_putsRing_2 3 rfl rfl)
theorem dX17_putsRing_50 : decode cX17_putsRing 50 = .ok (.iload 4, 2) := dk_21 4 (dk_at dksX17_putsRing_2 4 rfl rfl)
theorem dX17_putsRing_52 : decode cX17_putsRing 52 = .ok (.iconst 1, 1) := dk_4 (dk_at dksX17_putsRing_2 6 rfl rfl)
theorem dX17_putsRing_53 : decode cX17_putsRing 53 = .ok (.if_icmp .le 8, 3) := dk_164 0 8 (dk_at dksX17_putsRing_2 7 rfl rfl)
theorem dX17_putsRing_56 : decode cX17_putsRing 56 = .ok (.bipush 44, 2) := dk_16 44 (dk_at dksX17_putsRing_2 10 rfl rfl)
theorem dX17_putsRing_58 : decode cX17_putsRing 58 = .ok (.goto 5, 3) := dk_167 0 5 (dk_at dksX17_putsRing_2 12 rfl rfl)
theorem dX17_putsRing_61 : decode cX17_putsRing 61 = .ok (.bipush 41, 2) := dk_16 41 (dk_at dksX17_putsRing_2 15 rfl rfl)
theorem dX17_putsRing_63 : decode cX17_putsRing 63 = .ok (.invokevirtual 210, 3) := dk_182 0 210 (dk_at dksX17_putsRing_2 17 rfl rfl)
theorem dX17_putsRing_66 : decode cX17_putsRing 66 = .ok (.aload_n 0, 1) := dk_42 (dk_at dksX17_putsRing_2 20 rfl rfl)
theorem dX17_putsRing_67 : decode cX17_putsRing 67 = .ok (.iload_n 1, 1) := dk_27 (dk_at dksX17_putsRing_2 21 rfl rfl)
theorem dX17_putsRing_68 : decode cX17_putsRing 68 = .ok (.iload_n 3, 1) := dk_29 (dk_at dksX17_putsRing_2 22 rfl rfl)
theorem dX17_putsRing_69 : decode cX17_putsRing 69 = .ok (.invokevirtual 195, 3) := dk_182 0 195 (dk_at dksX17_putsRing_3 0 rfl rfl)
theorem dX17_putsRing_72 : decode cX17_putsRing 72 = .ok (.istore_n 3, 1) := dk_62 (dk_at dksX17_putsRing_3 3 rfl rfl)
theorem dX17_putsRing_73 : decode cX17_putsRing 73 = .ok (.iinc 4 (-1), 3) := dk_132 4 255 (dk_at dksX17_putsRing_3 4 rfl rfl)
theorem dX17_putsRing_76 : decode cX17_putsRing 76 = .ok (.goto (-60), 3) := dk_167 255 196 (dk_at dksX17_putsRing_3 7 rfl rfl)
theorem dX17_putsRing_79 : decode cX17_putsRing 79 = .ok (.return_, 1) := dk_177 (dk_at dksX17_putsRing_3 10 rfl rfl)
abbrev cX17_puts : ByteArray := prog_24_method_41_code
def yX17_puts : MethodName := ⟨RX17, "puts", "(I)V"⟩
def dkwX17_puts_0 : List UInt8 := [42, 180, 0, 25, 42, 180, 0, 207, 27, 79, 42, 89, 180, 0, 207, 4, 96, 181, 0, 207, 177]
abbrev dktX17_puts_0 : List UInt8 := dkwX17_puts_0 ++ []
theorem dksX17_puts_0 : cX17_puts.data.toList.drop 0 = dktX17_puts_0 := by decide +kernel
theorem dX17_puts_0 : decode cX17_puts 0 = .ok (.aload_n 0, 1) := dk_42 (dk_at dksX17_puts_0 0 rfl rfl)
theorem dX17_puts_1 : decode cX17_puts 1 = .ok (.getfield 25, 3) := dk_180 0 25 (dk_at dksX17_puts_0 1 rfl rfl)
theorem dX17_puts_4 : decode cX17_puts 4 = .ok (.aload_n 0, 1) := dk_42 (dk_at dksX17_puts_0 4 rfl rfl)
theorem dX17_puts_5 : decode cX17_puts 5 = .ok (.getfield 207, 3) := dk_180 0 207 (dk_at dksX17_puts_0 5 rfl rfl)
theorem dX17_puts_8 : decode cX17_puts 8 = .ok (.iload_n 1, 1) := dk_27 (dk_at dksX17_puts_0 8 rfl rfl)
theorem dX17_puts_9 : decode cX17_puts 9 = .ok (.iastore, 1) := dk_79 (dk_at dksX17_puts_0 9 rfl rfl)
theorem dX17_puts_10 : decode cX17_puts 10 = .ok (.aload_n 0, 1) := dk_42 (dk_at dksX17_puts_0 10 rfl rfl)
theorem dX17_puts_11 : decode cX17_puts 11 = .ok (.dup, 1) := dk_89 (dk_at dksX17_puts_0 11 rfl rfl)
theorem dX17_puts_12 : decode cX17_puts 12 = .ok (.getfield 207, 3) := dk_180 0 207 (dk_at dksX17_puts_0 12 rfl rfl)
theorem dX17_puts_15 : decode cX17_puts 15 = .ok (.iconst 1, 1) := dk_4 (dk_at dksX17_puts_0 15 rfl rfl)
theorem dX17_puts_16 : decode cX17_puts 16 = .ok (.iadd, 1) := dk_96 (dk_at dksX17_puts_0 16 rfl rfl)
theorem dX17_puts_17 : decode cX17_puts 17 = .ok (.putfield 207, 3) := dk_181 0 207 (dk_at dksX17_puts_0 17 rfl rfl)
theorem dX17_puts_20 : decode cX17_puts 20 = .ok (.return_, 1) := dk_177 (dk_at dksX17_puts_0 20 rfl rfl)
abbrev cX17_letter : ByteArray := prog_24_method_45_code
def yX17_letter : MethodName := ⟨RX17, "letter", "(II)I"⟩
def dkwX17_letter_1 : List UInt8 := [180, 0, 25, 28, 46, 167, 0, 5, 16, 252, 172]
abbrev dktX17_letter_1 : List UInt8 := dkwX17_letter_1 ++ []
def dkwX17_letter_0 : List UInt8 := [27, 184, 0, 188, 153, 0, 7, 28, 156, 0, 5, 2, 172, 28, 42, 27, 182, 0, 232, 162, 0, 12, 42]
abbrev dktX17_letter_0 : List UInt8 := dkwX17_letter_0 ++ dktX17_letter_1
theorem dksX17_letter_0 : cX17_letter.data.toList.drop 0 = dktX17_letter_0 := by decide +kernel
theorem dksX17_letter_1 : cX17_letter.data.toList.drop 23 = dktX17_letter_1 := dk_seg dksX17_letter_0 23 rfl rfl
theorem dX17_letter_0 : decode cX17_letter 0 = .ok (.iload_n 1, 1) := dk_27 (dk_at dksX17_letter_0 0 rfl rfl)
theorem dX17_letter_1 : decode cX17_letter 1 = .ok (.invokestatic 188, 3) := dk_184 0 188 (dk_at dksX17_letter_0 1 rfl rfl)
theorem dX17_letter_4 : decode cX17_letter 4 = .ok (.ifCond .eq 7, 3) := dk_153 0 7 (dk_at dksX17_letter_0 4 rfl rfl)
theorem dX17_letter_7 : decode cX17_letter 7 = .ok (.iload_n 2, 1) := dk_28 (dk_at dksX17_letter_0 7 rfl rfl)
theorem dX17_letter_8 : decode cX17_letter 8 = .ok (.ifCond .ge 5, 3) := dk_156 0 5 (dk_at dksX17_letter_0 8 rfl rfl)
theorem dX17_letter_11 : decode cX17_letter 11 = .ok (.iconst (-1), 1) := dk_2 (dk_at dksX17_letter_0 11 rfl rfl)
theorem dX17_letter_12 : decode cX17_letter 12 = .ok (.ireturn, 1) := dk_172 (dk_at dksX17_letter_0 12 rfl rfl)
theorem dX17_letter_13 : decode cX17_letter 13 = .ok (.iload_n 2, 1) := dk_28 (dk_at dksX17_letter_0 13 rfl rfl)
theorem dX17_letter_14 : decode cX17_letter 14 = .ok (.aload_n 0, 1) := dk_42 (dk_at dksX17_letter_0 14 rfl rfl)
theorem dX17_letter_15 : decode cX17_letter 15 = .ok (.iload_n 1, 1) := dk_27 (dk_at dksX17_letter_0 15 rfl rfl)
theorem dX17_letter_16 : decode cX17_letter 16 = .ok (.invokevirtual 232, 3) := dk_182 0 232 (dk_at dksX17_letter_0 16 rfl rfl)
theorem dX17_letter_19 : decode cX17_letter 19 = .ok (.if_icmp .ge 12, 3) := dk_162 0 12 (dk_at dksX17_letter_0 19 rfl rfl)
theorem dX17_letter_22 : decode cX17_letter 22 = .ok (.aload_n 0, 1) := dk_42 (dk_at dksX17_letter_0 22 rfl rfl)
theorem dX17_letter_23 : decode cX17_letter 23 = .ok (.getfield 25, 3) := dk_180 0 25 (dk_at dksX17_letter_1 0 rfl rfl)
theorem dX17_letter_26 : decode cX17_letter 26 = .ok (.iload_n 2, 1) := dk_28 (dk_at dksX17_letter_1 3 rfl rfl)
theorem dX17_letter_27 : decode cX17_letter 27 = .ok (.iaload, 1) := dk_46 (dk_at dksX17_letter_1 4 rfl rfl)
theorem dX17_letter_28 : decode cX17_letter 28 = .ok (.goto 5, 3) := dk_167 0 5 (dk_at dksX17_letter_1 5 rfl rfl)
theorem dX17_letter_31 : decode cX17_letter 31 = .ok (.bipush (-4), 2) := dk_16 252 (dk_at dksX17_letter_1 8 rfl rfl)
theorem dX17_letter_33 : decode cX17_letter 33 = .ok (.ireturn, 1) := dk_172 (dk_at dksX17_letter_1 10 rfl rfl)
abbrev cX17_type : ByteArray := prog_24_method_46_code
def yX17_type : MethodName := ⟨RX17, "type", "(I)I"⟩
def dkwX17_type_2 : List UInt8 := [181, 0, 239, 42, 180, 0, 239, 172]
abbrev dktX17_type_2 : List UInt8 := dkwX17_type_2 ++ []
def dkwX17_type_1 : List UInt8 := [160, 0, 6, 16, 253, 172, 42, 180, 0, 28, 42, 180, 0, 239, 27, 79, 42, 89, 180, 0, 239, 4, 96]
abbrev dktX17_type_1 : List UInt8 := dkwX17_type_1 ++ dktX17_type_2
def dkwX17_type_0 : List UInt8 := [27, 133, 20, 0, 235, 20, 0, 237, 184, 0, 124, 154, 0, 5, 2, 172, 42, 180, 0, 239, 16, 100]
abbrev dktX17_type_0 : List UInt8 := dkwX17_type_0 ++ dktX17_type_1
theorem dksX17_type_0 : cX17_type.data.toList.drop 0 = dktX17_type_0 := by decide +kernel
theorem dksX17_type_1 : cX17_type.data.toList.drop 22 = dktX17_type_1 := dk_seg dksX17_type_0 22 rfl rfl
theorem dksX17_type_2 : cX17_type.data.toList.drop 45 = dktX17_type_2 := dk_seg dksX17_type_1 23 rfl rfl
theorem dX17_type_0 : decode cX17_type 0 = .ok (.iload_n 1, 1) := dk_27 (dk_at dksX17_type_0 0 rfl rfl)
theorem dX17_type_1 : decode cX17_type 1 = .ok (.i2l, 1) := dk_133 (dk_at dksX17_type_0 1 rfl rfl)
theorem dX17_type_2 : decode cX17_type 2 = .ok (.ldc2_w 235, 3) := dk_20 0 235 (dk_at dksX17_type_0 2 rfl rfl)
theorem dX17_type_5 : decode cX17_type 5 = .ok (.ldc2_w 237, 3) := dk_20 0 237 (dk_at dksX17_type_0 5 rfl rfl)
theorem dX17_type_8 : decode cX17_type 8 = .ok (.invokestatic 124, 3) := dk_184 0 124 (dk_at dksX17_type_0 8 rfl rfl)
theorem dX17_type_11 : decode cX17_type 11 = .ok (.ifCond .ne 5, 3) := dk_154 0 5 (dk_at dksX17_type_0 11 rfl rfl)
theorem dX17_type_14 : decode cX17_type 14 = .ok (.iconst (-1), 1) := dk_2 (dk_at dksX17_type_0 14 rfl rfl)
theorem dX17_type_15 : decode cX17_type 15 = .ok (.ireturn, 1) := dk_172 (dk_at dksX17_type_0 15 rfl rfl)
theorem dX17_type_16 : decode cX17_type 16 = .ok (.aload_n 0, 1) := dk_42 (dk_at dksX17_type_0 16 rfl rfl)
theorem dX17_type_17 : decode cX17_type 17 = .ok (.getfield 239, 3) := dk_180 0 239 (dk_at dksX17_type_0 17 rfl rfl)
theorem dX17_type_20 : decode cX17_type 20 = .ok (.bipush 100, 2) := dk_16 100 (dk_at dksX17_type_0 20 rfl rfl)
theorem dX17_type_22 : decode cX17_type 22 = .ok (.if_icmp .ne 6, 3) := dk_160 0 6 (dk_at dksX17_type_1 0 rfl rfl)
theorem dX17_type_25 : decode cX17_type 25 = .ok (.bipush (-3), 2) := dk_16 253 (dk_at dksX17_type_1 3 rfl rfl)
theorem dX17_type_27 : decode cX17_type 27 = .ok (.ireturn, 1) := dk_172 (dk_at dksX17_type_1 5 rfl rfl)
theorem dX17_type_28 : decode cX17_type 28 = .ok (.aload_n 0, 1) := dk_42 (dk_at dksX17_type_1 6 rfl rfl)
theorem dX17_type_29 : decode cX17_type 29 = .ok (.getfield 28, 3) := dk_180 0 28 (dk_at dksX17_type_1 7 rfl rfl)
theorem dX17_type_32 : decode cX17_type 32 = .ok (.aload_n 0, 1) := dk_42 (dk_at dksX17_type_1 10 rfl rfl)
theorem dX17_type_33 : decode cX17_type 33 = .ok (.getfield 239, 3) := dk_180 0 239 (dk_at dksX17_type_1 11 rfl rfl)
theorem dX17_type_36 : decode cX17_type 36 = .ok (.iload_n 1, 1) := dk_27 (dk_at dksX17_type_1 14 rfl rfl)
theorem dX17_type_37 : decode cX17_type 37 = .ok (.iastore, 1) := dk_79 (dk_at dksX17_type_1 15 rfl rfl)
theorem dX17_type_38 : decode cX17_type 38 = .ok (.aload_n 0, 1) := dk_42 (dk_at dksX17_type_1 16 rfl rfl)
theorem dX17_type_39 : decode cX17_type 39 = .ok (.dup, 1) := dk_89 (dk_at dksX17_type_1 17 rfl rfl)
theorem dX17_type_40 : decode cX17_type 40 = .ok (.getfield 239, 3) := dk_180 0 239 (dk_at dksX17_type_1 18 rfl rfl)
theorem dX17_type_43 : decode cX17_type 43 = .ok (.iconst 1, 1) := dk_4 (dk_at dksX17_type_1 21 rfl rfl)
theorem dX17_type_44 : decode cX17_type 44 = .ok (.iadd, 1) := dk_96 (dk_at dksX17_type_1 22 rfl rfl)
theorem dX17_type_45 : decode cX17_type 45 = .ok (.putfield 239, 3) := dk_181 0 239 (dk_at dksX17_type_2 0 rfl rfl)
theorem dX17_type_48 : decode cX17_type 48 = .ok (.aload_n 0, 1) := dk_42 (dk_at dksX17_type_2 3 rfl rfl)
theorem dX17_type_49 : decode cX17_type 49 = .ok (.getfield 239, 3) := dk_180 0 239 (dk_at dksX17_type_2 4 rfl rfl)
theorem dX17_type_52 : decode cX17_type 52 = .ok (.ireturn, 1) := dk_172 (dk_at dksX17_type_2 7 rfl rfl)
abbrev cX17_read : ByteArray := prog_24_method_62_code
def yX17_read : MethodName := ⟨RX17, "read", "(I)I"⟩
def dkwX17_read_5 : List UInt8 := [167, 255, 200, 21, 4, 172]
abbrev dktX17_read_5 : List UInt8 := dkwX17_read_5 ++ []
def dkwX17_read_4 : List UInt8 := [54, 4, 42, 180, 0, 7, 16, 24, 27, 104, 21, 5, 96, 42, 180, 0, 34, 21, 5, 46, 79, 132, 5, 1]
abbrev dktX17_read_4 : List UInt8 := dkwX17_read_4 ++ dktX17_read_5
def dkwX17_read_3 : List UInt8 := [42, 27, 21, 5, 182, 0, 195, 42, 180, 0, 34, 21, 5, 46, 159, 0, 7, 4, 167, 0, 4, 3, 96]
abbrev dktX17_read_3 : List UInt8 := dkwX17_read_3 ++ dktX17_read_4
def dkwX17_read_2 : List UInt8 := [16, 236, 29, 100, 172, 42, 182, 1, 53, 3, 54, 4, 3, 54, 5, 21, 5, 16, 24, 162, 0, 55, 21, 4]
abbrev dktX17_read_2 : List UInt8 := dkwX17_read_2 ++ dktX17_read_3
def dkwX17_read_1 : List UInt8 := [154, 0, 10, 42, 180, 0, 239, 167, 0, 7, 42, 180, 0, 242, 62, 42, 3, 181, 0, 239, 28, 154, 0, 8]
abbrev dktX17_read_1 : List UInt8 := dkwX17_read_1 ++ dktX17_read_2
def dkwX17_read_0 : List UInt8 := [27, 133, 9, 20, 1, 48, 184, 0, 124, 154, 0, 5, 2, 172, 42, 182, 1, 50, 61, 42, 182, 0, 253]
abbrev dktX17_read_0 : List UInt8 := dkwX17_read_0 ++ dktX17_read_1
theorem dksX17_read_0 : cX17_read.data.toList.drop 0 = dktX17_read_0 := by decide +kernel
theorem dksX17_read_1 : cX17_read.data.toList.drop 23 = dktX17_read_1 := dk_seg dksX17_read_0 23 rfl rfl
theorem dksX17_read_2 : cX17_read.data.toList.drop 47 = dktX17_read_2 := dk_seg dksX17_read_1 24 rfl rfl
theorem dksX17_read_3 : cX17_read.data.toList.drop 71 = dktX17_read_3 := dk_seg dksX17_read_2 24 rfl rfl
theorem dksX17_read_4 : cX17_read.data.toList.drop 94 = dktX17_read_4 := dk_seg dksX17_read_3 23 rfl rfl
theorem dksX17_read_5 : cX17_read.data.toList.drop 118 = dktX17_read_5 := dk_seg dksX17_read_4 24 rfl rfl
theorem dX17_read_0 : decode cX17_read 0 = .ok (.iload_n 1, 1) := dk_27 (dk_at dksX17_read_0 0 rfl rfl)
theorem dX17_read_1 : decode cX17_read 1 = .ok (.i2l, 1) := dk_133 (dk_at dksX17_read_0 1 rfl rfl)
theorem dX17_read_2 : decode cX17_read 2 = .ok (.lconst 0, 1) := dk_9 (dk_at dksX17_read_0 2 rfl rfl)
theorem dX17_read_3 : decode cX17_read 3 = .ok (.ldc2_w 304, 3) := dk_20 1 48 (dk_at dksX17_read_0 3 rfl rfl)
theorem dX17_read_6 : decode cX17_read 6 = .ok (.invokestatic 124, 3) := dk_184 0 124 (dk_at dksX17_read_0 6 rfl rfl)
theorem dX17_read_9 : decode cX17_read 9 = .ok (.ifCond .ne 5, 3) := dk_154 0 5 (dk_at dksX17_read_0 9 rfl rfl)
theorem dX17_read_12 : decode cX17_read 12 = .ok (.iconst (-1), 1) := dk_2 (dk_at dksX17_read_0 12 rfl rfl)
theorem dX17_read_13 : decode cX17_read 13 = .ok (.ireturn, 1) := dk_172 (dk_at dksX17_read_0 13 rfl rfl)
theorem dX17_read_14 : decode cX17_read 14 = .ok (.aload_n 0, 1) := dk_42 (dk_at dksX17_read_0 14 rfl rfl)
theorem dX17_read_15 : decode cX17_read 15 = .ok (.invokevirtual 306, 3) := dk_182 1 50 (dk_at dksX17_read_0 15 rfl rfl)
theorem dX17_read_18 : decode cX17_read 18 = .ok (.istore_n 2, 1) := dk_61 (dk_at dksX17_read_0 18 rfl rfl)
theorem dX17_read_19 : decode cX17_read 19 = .ok (.aload_n 0, 1) := dk_42 (dk_at dksX17_read_0 19 rfl rfl)
theorem dX17_read_20 : decode cX17_read 20 = .ok (.invokevirtual 253, 3) := dk_182 0 253 (dk_at dksX17_read_0 20 rfl rfl)
theorem dX17_read_23 : decode cX17_read 23 = .ok (.ifCond .ne 10, 3) := dk_154 0 10 (dk_at dksX17_read_1 0 rfl rfl)
theorem dX17_read_26 : decode cX17_read 26 = .ok (.aload_n 0, 1) := dk_42 (dk_at dksX17_read_1 3 rfl rfl)
theorem dX17_read_27 : decode cX17_read 27 = .ok (.getfield 239, 3) := dk_180 0 239 (dk_at dksX17_read_1 4 rfl rfl)
theorem dX17_read_30 : decode cX17_read 30 = .ok (.goto 7, 3) := dk_167 0 7 (dk_at dksX17_read_1 7 rfl rfl)
theorem dX17_read_33 : decode cX17_read 33 = .ok (.aload_n 0, 1) := dk_42 (dk_at dksX17_read_1 10 rfl rfl)
theorem dX17_read_34 : decode cX17_read 34 = .ok (.getfield 242, 3) := dk_180 0 242 (dk_at dksX17_read_1 11 rfl rfl)
theorem dX17_read_37 : decode cX17_read 37 = .ok (.istore_n 3, 1) := dk_62 (dk_at dksX17_read_1 14 rfl rfl)
theorem dX17_read_38 : decode cX17_read 38 = .ok (.aload_n 0, 1) := dk_42 (dk_at dksX17_read_1 15 rfl rfl)
theorem dX17_read_39 : decode cX17_read 39 = .ok (.iconst 0, 1) := dk_3 (dk_at dksX17_read_1 16 rfl rfl)
theorem dX17_read_40 : decode cX17_read 40 = .ok (.putfield 239, 3) := dk_181 0 239 (dk_at dksX17_read_1 17 rfl rfl)
theorem dX17_read_43 : decode cX17_read 43 = .ok (.iload_n 2, 1) := dk_28 (dk_at dksX17_read_1 20 rfl rfl)
theorem dX17_read_44 : decode cX17_read 44 = .ok (.ifCond .ne 8, 3) := dk_154 0 8 (dk_at dksX17_read_1 21 rfl rfl)
theorem dX17_read_47 : decode cX17_read 47 = .ok (.bipush (-20), 2) := dk_16 236 (dk_at dksX17_read_2 0 rfl rfl)
theorem dX17_read_49 : decode cX17_read 49 = .ok (.iload_n 3, 1) := dk_29 (dk_at dksX17_read_2 2 rfl rfl)
theorem dX17_read_50 : decode cX17_read 50 = .ok (.isub, 1) := dk_100 (dk_at dksX17_read_2 3 rfl rfl)
theorem dX17_read_51 : decode cX17_read 51 = .ok (.ireturn, 1) := dk_172 (dk_at dksX17_read_2 4 rfl rfl)
theorem dX17_read_52 : decode cX17_read 52 = .ok (.aload_n 0, 1) := dk_42 (dk_at dksX17_read_2 5 rfl rfl)
theorem dX17_read_53 : decode cX17_read 53 = .ok (.invokevirtual 309, 3) := dk_182 1 53 (dk_at dksX17_read_2 6 rfl rfl)
theorem dX17_read_56 : decode cX17_read 56 = .ok (.iconst 0, 1) := dk_3 (dk_at dksX17_read_2 9 rfl rfl)
theorem dX17_read_57 : decode cX17_read 57 = .ok (.istore 4, 2) := dk_54 4 (dk_at dksX17_read_2 10 rfl rfl)
theorem dX17_read_59 : decode cX17_read 59 = .ok (.iconst 0, 1) := dk_3 (dk_at dksX17_read_2 12 rfl rfl)
theorem dX17_read_60 : decode cX17_read 60 = .ok (.istore 5, 2) := dk_54 5 (dk_at dksX17_read_2 13 rfl rfl)
theorem dX17_read_62 : decode cX17_read 62 = .ok (.iload 5, 2) := dk_21 5 (dk_at dksX17_read_2 15 rfl rfl)
theorem dX17_read_64 : decode cX17_read 64 = .ok (.bipush 24, 2) := dk_16 24 (dk_at dksX17_read_2 17 rfl rfl)
theorem dX17_read_66 : decode cX17_read 66 = .ok (.if_icmp .ge 55, 3) := dk_162 0 55 (dk_at dksX17_read_2 19 rfl rfl)
theorem dX17_read_69 : decode cX17_read 69 = .ok (.iload 4, 2) := dk_21 4 (dk_at dksX17_read_2 22 rfl rfl)
theorem dX17_read_71 : decode cX17_read 71 = .ok (.aload_n 0, 1) := dk_42 (dk_at dksX17_read_3 0 rfl rfl)
theorem dX17_read_72 : decode cX17_read 72 = .ok (.iload_n 1, 1) := dk_27 (dk_at dksX17_read_3 1 rfl rfl)
theorem dX17_read_73 : decode cX17_read 73 = .ok (.iload 5, 2) := dk_21 5 (dk_at dksX17_read_3 2 rfl rfl)
theorem dX17_read_75 : decode cX17_read 75 = .ok (.invokevirtual 195, 3) := dk_182 0 195 (dk_at dksX17_read_3 4 rfl rfl)
theorem dX17_read_78 : decode cX17_read 78 = .ok (.aload_n 0, 1) := dk_42 (dk_at dksX17_read_3 7 rfl rfl)
theorem dX17_read_79 : decode cX17_read 79 = .ok (.getfield 34, 3) := dk_180 0 34 (dk_at dksX17_read_3 8 rfl rfl)
theorem dX17_read_82 : decode cX17_read 82 = .ok (.iload 5, 2) := dk_21 5 (dk_at dksX17_read_3 11 rfl rfl)
theorem dX17_read_84 : decode cX17_read 84 = .ok (.iaload, 1) := dk_46 (dk_at dksX17_read_3 13 rfl rfl)
theorem dX17_read_85 : decode cX17_read 85 = .ok (.if_icmp .eq 7, 3) := dk_159 0 7 (dk_at dksX17_read_3 14 rfl rfl)
theorem dX17_read_88 : decode cX17_read 88 = .ok (.iconst 1, 1) := dk_4 (dk_at dksX17_read_3 17 rfl rfl)
theorem dX17_read_89 : decode cX17_read 89 = .ok (.goto 4, 3) := dk_167 0 4 (dk_at dksX17_read_3 18 rfl rfl)
theorem dX17_read_92 : decode cX17_read 92 = .ok (.iconst 0, 1) := dk_3 (dk_at dksX17_read_3 21 rfl rfl)
theorem dX17_read_93 : decode cX17_read 93 = .ok (.iadd, 1) := dk_96 (dk_at dksX17_read_3 22 rfl rfl)
theorem dX17_read_94 : decode cX17_read 94 = .ok (.istore 4, 2) := dk_54 4 (dk_at dksX17_read_4 0 rfl rfl)
theorem dX17_read_96 : decode cX17_read 96 = .ok (.aload_n 0, 1) := dk_42 (dk_at dksX17_read_4 2 rfl rfl)
theorem dX17_read_97 : decode cX17_read 97 = .ok (.getfield 7, 3) := dk_180 0 7 (dk_at dksX17_read_4 3 rfl rfl)
theorem dX17_read_100 : decode cX17_read 100 = .ok (.bipush 24, 2) := dk_16 24 (dk_at dksX17_read_4 6 rfl rfl)
theorem dX17_read_102 : decode cX17_read 102 = .ok (.iload_n 1, 1) := dk_27 (dk_at dksX17_read_4 8 rfl rfl)
theorem dX17_read_103 : decode cX17_read 103 = .ok (.imul, 1) := dk_104 (dk_at dksX17_read_4 9 rfl rfl)
theorem dX17_read_104 : decode cX17_read 104 = .ok (.iload 5, 2) := dk_21 5 (dk_at dksX17_read_4 10 rfl rfl)
theorem dX17_read_106 : decode cX17_read 106 = .ok (.iadd, 1) := dk_96 (dk_at dksX17_read_4 12 rfl rfl)
theorem dX17_read_107 : decode cX17_read 107 = .ok (.aload_n 0, 1) := dk_42 (dk_at dksX17_read_4 13 rfl rfl)
theorem dX17_read_108 : decode cX17_read 108 = .ok (.getfield 34, 3) := dk_180 0 34 (dk_at dksX17_read_4 14 rfl rfl)
theorem dX17_read_111 : decode cX17_read 111 = .ok (.iload 5, 2) := dk_21 5 (dk_at dksX17_read_4 17 rfl rfl)
theorem dX17_read_113 : decode cX17_read 113 = .ok (.iaload, 1) := dk_46 (dk_at dksX17_read_4 19 rfl rfl)
theorem dX17_read_114 : decode cX17_read 114 = .ok (.iastore, 1) := dk_79 (dk_at dksX17_read_4 20 rfl rfl)
theorem dX17_read_115 : decode cX17_read 115 = .ok (.iinc 5 1, 3) := dk_132 5 1 (dk_at dksX17_read_4 21 rfl rfl)
theorem dX17_read_118 : decode cX17_read 118 = .ok (.goto (-56), 3) := dk_167 255 200 (dk_at dksX17_read_5 0 rfl rfl)
theorem dX17_read_121 : decode cX17_read 121 = .ok (.iload 4, 2) := dk_21 4 (dk_at dksX17_read_5 3 rfl rfl)
theorem dX17_read_123 : decode cX17_read 123 = .ok (.ireturn, 1) := dk_172 (dk_at dksX17_read_5 5 rfl rfl)
abbrev cX17_isText : ByteArray := prog_24_method_61_code
def yX17_isText : MethodName := ⟨RX17, "isText", "()Z"⟩
def dkwX17_isText_7 : List UInt8 := [181, 0, 242, 167, 255, 109, 28, 153, 0, 14, 42, 180, 1, 26, 154, 0, 7, 4, 167, 0, 4, 3, 172]
abbrev dktX17_isText_7 : List UInt8 := dkwX17_isText_7 ++ []
def dkwX17_isText_6 : List UInt8 := [167, 0, 4, 3, 61, 28, 60, 42, 89, 180, 0, 242, 28, 153, 0, 7, 4, 167, 0, 4, 3, 96]
abbrev dktX17_isText_6 : List UInt8 := dkwX17_isText_6 ++ dktX17_isText_7
def dkwX17_isText_5 : List UInt8 := [96, 181, 0, 242, 42, 182, 1, 45, 42, 182, 1, 36, 61, 167, 0, 35, 29, 16, 42, 160, 0, 7, 4]
abbrev dktX17_isText_5 : List UInt8 := dkwX17_isText_5 ++ dktX17_isText_6
def dkwX17_isText_4 : List UInt8 := [3, 60, 167, 0, 70, 29, 16, 93, 160, 0, 32, 42, 180, 1, 26, 158, 0, 25, 42, 89, 180, 0, 242, 4]
abbrev dktX17_isText_4 : List UInt8 := dkwX17_isText_4 ++ dktX17_isText_5
def dkwX17_isText_3 : List UInt8 := [180, 1, 26, 4, 96, 181, 1, 26, 42, 182, 1, 39, 167, 0, 84, 27, 153, 0, 13, 42, 182, 1, 42, 61]
abbrev dktX17_isText_3 : List UInt8 := dkwX17_isText_3 ++ dktX17_isText_4
def dkwX17_isText_2 : List UInt8 := [160, 0, 39, 42, 180, 1, 26, 16, 6, 162, 0, 30, 42, 89, 180, 0, 242, 4, 96, 181, 0, 242, 42, 89]
abbrev dktX17_isText_2 : List UInt8 := dkwX17_isText_2 ++ dktX17_isText_3
def dkwX17_isText_1 : List UInt8 := [154, 0, 10, 42, 182, 0, 253, 153, 0, 138, 42, 182, 0, 253, 62, 27, 153, 0, 45, 29, 16, 91]
abbrev dktX17_isText_1 : List UInt8 := dkwX17_isText_1 ++ dktX17_isText_2
def dkwX17_isText_0 : List UInt8 := [42, 3, 181, 0, 242, 42, 3, 181, 1, 26, 42, 182, 1, 39, 4, 60, 4, 61, 28, 153, 0, 149, 27]
abbrev dktX17_isText_0 : List UInt8 := dkwX17_isText_0 ++ dktX17_isText_1
theorem dksX17_isText_0 : cX17_isText.data.toList.drop 0 = dktX17_isText_0 := by decide +kernel
theorem dksX17_isText_1 : cX17_isText.data.toList.drop 23 = dktX17_isText_1 := dk_seg dksX17_isText_0 23 rfl rfl
theorem dksX17_isText_2 : cX17_isText.data.toList.drop 45 = dktX17_isText_2 := dk_seg dksX17_isText_1 22 rfl rfl
theorem dksX17_isText_3 : cX17_isText.data.toList.drop 69 = dktX17_isText_3 := dk_seg dksX17_isText_2 24 rfl rfl
theorem dksX17_isText_4 : cX17_isText.data.toList.drop 93 = dktX17_isText_4 := dk_seg dksX17_isText_3 24 rfl rfl
theorem dksX17_isText_5 : cX17_isText.data.toList.drop 117 = dktX17_isText_5 := dk_seg dksX17_isText_4 24 rfl rfl
theorem dksX17_isText_6 : cX17_isText.data.toList.drop 140 = dktX17_isText_6 := dk_seg dksX17_isText_5 23 rfl rfl
theorem dksX17_isText_7 : cX17_isText.data.toList.drop 162 = dktX17_isText_7 := dk_seg dksX17_isText_6 22 rfl rfl
theorem dX17_isText_0 : decode cX17_isText 0 = .ok (.aload_n 0, 1) := dk_42 (dk_at dksX17_isText_0 0 rfl rfl)
theorem dX17_isText_1 : decode cX17_isText 1 = .ok (.iconst 0, 1) := dk_3 (dk_at dksX17_isText_0 1 rfl rfl)
theorem dX17_isText_2 : decode cX17_isText 2 = .ok (.putfield 242, 3) := dk_181 0 242 (dk_at dksX17_isText_0 2 rfl rfl)
theorem dX17_isText_5 : decode cX17_isText 5 = .ok (.aload_n 0, 1) := dk_42 (dk_at dksX17_isText_0 5 rfl rfl)
theorem dX17_isText_6 : decode cX17_isText 6 = .ok (.iconst 0, 1) := dk_3 (dk_at dksX17_isText_0 6 rfl rfl)
theorem dX17_isText_7 : decode cX17_isText 7 = .ok (.putfield 282, 3) := dk_181 1 26 (dk_at dksX17_isText_0 7 rfl rfl)
theorem dX17_isText_10 : decode cX17_isText 10 = .ok (.aload_n 0, 1) := dk_42 (dk_at dksX17_isText_0 10 rfl rfl)
theorem dX17_isText_11 : decode cX17_isText 11 = .ok (.invokevirtual 295, 3) := dk_182 1 39 (dk_at dksX17_isText_0 11 rfl rfl)
theorem dX17_isText_14 : decode cX17_isText 14 = .ok (.iconst 1, 1) := dk_4 (dk_at dksX17_isText_0 14 rfl rfl)
theorem dX17_isText_15 : decode cX17_isText 15 = .ok (.istore_n 1, 1) := dk_60 (dk_at dksX17_isText_0 15 rfl rfl)
theorem dX17_isText_16 : decode cX17_isText 16 = .ok (.iconst 1, 1) := dk_4 (dk_at dksX17_isText_0 16 rfl rfl)
theorem dX17_isText_17 : decode cX17_isText 17 = .ok (.istore_n 2, 1) := dk_61 (dk_at dksX17_isText_0 17 rfl rfl)
theorem dX17_isText_18 : decode cX17_isText 18 = .ok (.iload_n 2, 1) := dk_28 (dk_at dksX17_isText_0 18 rfl rfl)
theorem dX17_isText_19 : decode cX17_isText 19 = .ok (.ifCond .eq 149, 3) := dk_153 0 149 (dk_at dksX17_isText_0 19 rfl rfl)
theorem dX17_isText_22 : decode cX17_isText 22 = .ok (.iload_n 1, 1) := dk_27 (dk_at dksX17_isText_0 22 rfl rfl)
theorem dX17_isText_23 : decode cX17_isText 23 = .ok (.ifCond .ne 10, 3) := dk_154 0 10 (dk_at dksX17_isText_1 0 rfl rfl)
theorem dX17_isText_26 : decode cX17_isText 26 = .ok (.aload_n 0, 1) := dk_42 (dk_at dksX17_isText_1 3 rfl rfl)
theorem dX17_isText_27 : decode cX17_isText 27 = .ok (.invokevirtual 253, 3) := dk_182 0 253 (dk_at dksX17_isText_1 4 rfl rfl)
theorem dX17_isText_30 : decode cX17_isText 30 = .ok (.ifCond .eq 138, 3) := dk_153 0 138 (dk_at dksX17_isText_1 7 rfl rfl)
theorem dX17_isText_33 : decode cX17_isText 33 = .ok (.aload_n 0, 1) := dk_42 (dk_at dksX17_isText_1 10 rfl rfl)
theorem dX17_isText_34 : decode cX17_isText 34 = .ok (.invokevirtual 253, 3) := dk_182 0 253 (dk_at dksX17_isText_1 11 rfl rfl)
theorem dX17_isText_37 : decode cX17_isText 37 = .ok (.istore_n 3, 1) := dk_62 (dk_at dksX17_isText_1 14 rfl rfl)
theorem dX17_isText_38 : decode cX17_isText 38 = .ok (.iload_n 1, 1) := dk_27 (dk_at dksX17_isText_1 15 rfl rfl)
theorem dX17_isText_39 : decode cX17_isText 39 = .ok (.ifCond .eq 45, 3) := dk_153 0 45 (dk_at dksX17_isText_1 16 rfl rfl)
theorem dX17_isText_42 : decode cX17_isText 42 = .ok (.iload_n 3, 1) := dk_29 (dk_at dksX17_isText_1 19 rfl rfl)
theorem dX17_isText_43 : decode cX17_isText 43 = .ok (.bipush 91, 2) := dk_16 91 (dk_at dksX17_isText_1 20 rfl rfl)
theorem dX17_isText_45 : decode cX17_isText 45 = .ok (.if_icmp .ne 39, 3) := dk_160 0 39 (dk_at dksX17_isText_2 0 rfl rfl)
theorem dX17_isText_48 : decode cX17_isText 48 = .ok (.aload_n 0, 1) := dk_42 (dk_at dksX17_isText_2 3 rfl rfl)
theorem dX17_isText_49 : decode cX17_isText 49 = .ok (.getfield 282, 3) := dk_180 1 26 (dk_at dksX17_isText_2 4 rfl rfl)
theorem dX17_isText_52 : decode cX17_isText 52 = .ok (.bipush 6, 2) := dk_16 6 (dk_at dksX17_isText_2 7 rfl rfl)
theorem dX17_isText_54 : decode cX17_isText 54 = .ok (.if_icmp .ge 30, 3) := dk_162 0 30 (dk_at dksX17_isText_2 9 rfl rfl)
theorem dX17_isText_57 : decode cX17_isText 57 = .ok (.aload_n 0, 1) := dk_42 (dk_at dksX17_isText_2 12 rfl rfl)
theorem dX17_isText_58 : decode cX17_isText 58 = .ok (.dup, 1) := dk_89 (dk_at dksX17_isText_2 13 rfl rfl)
theorem dX17_isText_59 : decode cX17_isText 59 = .ok (.getfield 242, 3) := dk_180 0 242 (dk_at dksX17_isText_2 14 rfl rfl)
theorem dX17_isText_62 : decode cX17_isText 62 = .ok (.iconst 1, 1) := dk_4 (dk_at dksX17_isText_2 17 rfl rfl)
theorem dX17_isText_63 : decode cX17_isText 63 = .ok (.iadd, 1) := dk_96 (dk_at dksX17_isText_2 18 rfl rfl)
theorem dX17_isText_64 : decode cX17_isText 64 = .ok (.putfield 242, 3) := dk_181 0 242 (dk_at dksX17_isText_2 19 rfl rfl)
theorem dX17_isText_67 : decode cX17_isText 67 = .ok (.aload_n 0, 1) := dk_42 (dk_at dksX17_isText_2 22 rfl rfl)
theorem dX17_isText_68 : decode cX17_isText 68 = .ok (.dup, 1) := dk_89 (dk_at dksX17_isText_2 23 rfl rfl)
theorem dX17_isText_69 : decode cX17_isText 69 = .ok (.getfield 282, 3) := dk_180 1 26 (dk_at dksX17_isText_3 0 rfl rfl)
theorem dX17_isText_72 : decode cX17_isText 72 = .ok (.iconst 1, 1) := dk_4 (dk_at dksX17_isText_3 3 rfl rfl)
theorem dX17_isText_73 : decode cX17_isText 73 = .ok (.iadd, 1) := dk_96 (dk_at dksX17_isText_3 4 rfl rfl)
theorem dX17_isText_74 : decode cX17_isText 74 = .ok (.putfield 282, 3) := dk_181 1 26 (dk_at dksX17_isText_3 5 rfl rfl)
theorem dX17_isText_77 : decode cX17_isText 77 = .ok (.aload_n 0, 1) := dk_42 (dk_at dksX17_isText_3 8 rfl rfl)
theorem dX17_isText_78 : decode cX17_isText 78 = .ok (.invokevirtual 295, 3) := dk_182 1 39 (dk_at dksX17_isText_3 9 rfl rfl)
theorem dX17_isText_81 : decode cX17_isText 81 = .ok (.goto 84, 3) := dk_167 0 84 (dk_at dksX17_isText_3 12 rfl rfl)
theorem dX17_isText_84 : decode cX17_isText 84 = .ok (.iload_n 1, 1) := dk_27 (dk_at dksX17_isText_3 15 rfl rfl)
theorem dX17_isText_85 : decode cX17_isText 85 = .ok (.ifCond .eq 13, 3) := dk_153 0 13 (dk_at dksX17_isText_3 16 rfl rfl)
theorem dX17_isText_88 : decode cX17_isText 88 = .ok (.aload_n 0, 1) := dk_42 (dk_at dksX17_isText_3 19 rfl rfl)
theorem dX17_isText_89 : decode cX17_isText 89 = .ok (.invokevirtual 298, 3) := dk_182 1 42 (dk_at dksX17_isText_3 20 rfl rfl)
theorem dX17_isText_92 : decode cX17_isText 92 = .ok (.istore_n 2, 1) := dk_61 (dk_at dksX17_isText_3 23 rfl rfl)
theorem dX17_isText_93 : decode cX17_isText 93 = .ok (.iconst 0, 1) := dk_3 (dk_at dksX17_isText_4 0 rfl rfl)
theorem dX17_isText_94 : decode cX17_isText 94 = .ok (.istore_n 1, 1) := dk_60 (dk_at dksX17_isText_4 1 rfl rfl)
theorem dX17_isText_95 : decode cX17_isText 95 = .ok (.goto 70, 3) := dk_167 0 70 (dk_at dksX17_isText_4 2 rfl rfl)
theorem dX17_isText_98 : decode cX17_isText 98 = .ok (.iload_n 3, 1) := dk_29 (dk_at dksX17_isText_4 5 rfl rfl)
theorem dX17_isText_99 : decode cX17_isText 99 = .ok (.bipush 93, 2) := dk_16 93 (dk_at dksX17_isText_4 6 rfl rfl)
theorem dX17_isText_101 : decode cX17_isText 101 = .ok (.if_icmp .ne 32, 3) := dk_160 0 32 (dk_at dksX17_isText_4 8 rfl rfl)
theorem dX17_isText_104 : decode cX17_isText 104 = .ok (.aload_n 0, 1) := dk_42 (dk_at dksX17_isText_4 11 rfl rfl)
theorem dX17_isText_105 : decode cX17_isText 105 = .ok (.getfield 282, 3) := dk_180 1 26 (dk_at dksX17_isText_4 12 rfl rfl)
theorem dX17_isText_108 : decode cX17_isText 108 = .ok (.ifCond .le 25, 3) := dk_158 0 25 (dk_at dksX17_isText_4 15 rfl rfl)
theorem dX17_isText_111 : decode cX17_isText 111 = .ok (.aload_n 0, 1) := dk_42 (dk_at dksX17_isText_4 18 rfl rfl)
theorem dX17_isText_112 : decode cX17_isText 112 = .ok (.dup, 1) := dk_89 (dk_at dksX17_isText_4 19 rfl rfl)
theorem dX17_isText_113 : decode cX17_isText 113 = .ok (.getfield 242, 3) := dk_180 0 242 (dk_at dksX17_isText_4 20 rfl rfl)
theorem dX17_isText_116 : decode cX17_isText 116 = .ok (.iconst 1, 1) := dk_4 (dk_at dksX17_isText_4 23 rfl rfl)
theorem dX17_isText_117 : decode cX17_isText 117 = .ok (.iadd, 1) := dk_96 (dk_at dksX17_isText_5 0 rfl rfl)
theorem dX17_isText_118 : decode cX17_isText 118 = .ok (.putfield 242, 3) := dk_181 0 242 (dk_at dksX17_isText_5 1 rfl rfl)
theorem dX17_isText_121 : decode cX17_isText 121 = .ok (.aload_n 0, 1) := dk_42 (dk_at dksX17_isText_5 4 rfl rfl)
theorem dX17_isText_122 : decode cX17_isText 122 = .ok (.invokevirtual 301, 3) := dk_182 1 45 (dk_at dksX17_isText_5 5 rfl rfl)
theorem dX17_isText_125 : decode cX17_isText 125 = .ok (.aload_n 0, 1) := dk_42 (dk_at dksX17_isText_5 8 rfl rfl)
theorem dX17_isText_126 : decode cX17_isText 126 = .ok (.invokevirtual 292, 3) := dk_182 1 36 (dk_at dksX17_isText_5 9 rfl rfl)
theorem dX17_isText_129 : decode cX17_isText 129 = .ok (.istore_n 2, 1) := dk_61 (dk_at dksX17_isText_5 12 rfl rfl)
theorem dX17_isText_130 : decode cX17_isText 130 = .ok (.goto 35, 3) := dk_167 0 35 (dk_at dksX17_isText_5 13 rfl rfl)
theorem dX17_isText_133 : decode cX17_isText 133 = .ok (.iload_n 3, 1) := dk_29 (dk_at dksX17_isText_5 16 rfl rfl)
theorem dX17_isText_134 : decode cX17_isText 134 = .ok (.bipush 42, 2) := dk_16 42 (dk_at dksX17_isText_5 17 rfl rfl)
theorem dX17_isText_136 : decode cX17_isText 136 = .ok (.if_icmp .ne 7, 3) := dk_160 0 7 (dk_at dksX17_isText_5 19 rfl rfl)
theorem dX17_isText_139 : decode cX17_isText 139 = .ok (.iconst 1, 1) := dk_4 (dk_at dksX17_isText_5 22 rfl rfl)
theorem dX17_isText_140 : decode cX17_isText 140 = .ok (.goto 4, 3) := dk_167 0 4 (dk_at dksX17_isText_6 0 rfl rfl)
theorem dX17_isText_143 : decode cX17_isText 143 = .ok (.iconst 0, 1) := dk_3 (dk_at dksX17_isText_6 3 rfl rfl)
theorem dX17_isText_144 : decode cX17_isText 144 = .ok (.istore_n 2, 1) := dk_61 (dk_at dksX17_isText_6 4 rfl rfl)
theorem dX17_isText_145 : decode cX17_isText 145 = .ok (.iload_n 2, 1) := dk_28 (dk_at dksX17_isText_6 5 rfl rfl)
theorem dX17_isText_146 : decode cX17_isText 146 = .ok (.istore_n 1, 1) := dk_60 (dk_at dksX17_isText_6 6 rfl rfl)
theorem dX17_isText_147 : decode cX17_isText 147 = .ok (.aload_n 0, 1) := dk_42 (dk_at dksX17_isText_6 7 rfl rfl)
theorem dX17_isText_148 : decode cX17_isText 148 = .ok (.dup, 1) := dk_89 (dk_at dksX17_isText_6 8 rfl rfl)
theorem dX17_isText_149 : decode cX17_isText 149 = .ok (.getfield 242, 3) := dk_180 0 242 (dk_at dksX17_isText_6 9 rfl rfl)
theorem dX17_isText_152 : decode cX17_isText 152 = .ok (.iload_n 2, 1) := dk_28 (dk_at dksX17_isText_6 12 rfl rfl)
theorem dX17_isText_153 : decode cX17_isText 153 = .ok (.ifCond .eq 7, 3) := dk_153 0 7 (dk_at dksX17_isText_6 13 rfl rfl)
theorem dX17_isText_156 : decode cX17_isText 156 = .ok (.iconst 1, 1) := dk_4 (dk_at dksX17_isText_6 16 rfl rfl)
theorem dX17_isText_157 : decode cX17_isText 157 = .ok (.goto 4, 3) := dk_167 0 4 (dk_at dksX17_isText_6 17 rfl rfl)
theorem dX17_isText_160 : decode cX17_isText 160 = .ok (.iconst 0, 1) := dk_3 (dk_at dksX17_isText_6 20 rfl rfl)
theorem dX17_isText_161 : decode cX17_isText 161 = .ok (.iadd, 1) := dk_96 (dk_at dksX17_isText_6 21 rfl rfl)
theorem dX17_isText_162 : decode cX17_isText 162 = .ok (.putfield 242, 3) := dk_181 0 242 (dk_at dksX17_isText_7 0 rfl rfl)
theorem dX17_isText_165 : decode cX17_isText 165 = .ok (.goto (-147), 3) := dk_167 255 109 (dk_at dksX17_isText_7 3 rfl rfl)
theorem dX17_isText_168 : decode cX17_isText 168 = .ok (.iload_n 2, 1) := dk_28 (dk_at dksX17_isText_7 6 rfl rfl)
theorem dX17_isText_169 : decode cX17_isText 169 = .ok (.ifCond .eq 14, 3) := dk_153 0 14 (dk_at dksX17_isText_7 7 rfl rfl)
theorem dX17_isText_172 : decode cX17_isText 172 = .ok (.aload_n 0, 1) := dk_42 (dk_at dksX17_isText_7 10 rfl rfl)
theorem dX17_isText_173 : decode cX17_isText 173 = .ok (.getfield 282, 3) := dk_180 1 26 (dk_at dksX17_isText_7 11 rfl rfl)
theorem dX17_isText_176 : decode cX17_isText 176 = .ok (.ifCond .ne 7, 3) := dk_154 0 7 (dk_at dksX17_isText_7 14 rfl rfl)
theorem dX17_isText_179 : decode cX17_isText 179 = .ok (.iconst 1, 1) := dk_4 (dk_at dksX17_isText_7 17 rfl rfl)
theorem dX17_isText_180 : decode cX17_isText 180 = .ok (.goto 4, 3) := dk_167 0 4 (dk_at dksX17_isText_7 18 rfl rfl)
theorem dX17_isText_183 : decode cX17_isText 183 = .ok (.iconst 0, 1) := dk_3 (dk_at dksX17_isText_7 21 rfl rfl)
theorem dX17_isText_184 : decode cX17_isText 184 = .ok (.ireturn, 1) := dk_172 (dk_at dksX17_isText_7 22 rfl rfl)
abbrev cX17_begins : ByteArray := prog_24_method_58_code
def yX17_begins : MethodName := ⟨RX17, "begins", "()V"⟩
def dkwX17_begins_1 : List UInt8 := [132, 1, 1, 167, 255, 232, 177]
abbrev dktX17_begins_1 : List UInt8 := dkwX17_begins_1 ++ []
def dkwX17_begins_0 : List UInt8 := [3, 60, 27, 16, 24, 162, 0, 24, 42, 180, 0, 34, 16, 24, 42, 180, 1, 26, 104, 27, 96, 27, 79]
abbrev dktX17_begins_0 : List UInt8 := dkwX17_begins_0 ++ dktX17_begins_1
theorem dksX17_begins_0 : cX17_begins.data.toList.drop 0 = dktX17_begins_0 := by decide +kernel
theorem dksX17_begins_1 : cX17_begins.data.toList.drop 23 = dktX17_begins_1 := dk_seg dksX17_begins_0 23 rfl rfl
theorem dX17_begins_0 : decode cX17_begins 0 = .ok (.iconst 0, 1) := dk_3 (dk_at dksX17_begins_0 0 rfl rfl)
theorem dX17_begins_1 : decode cX17_begins 1 = .ok (.istore_n 1, 1) := dk_60 (dk_at dksX17_begins_0 1 rfl rfl)
theorem dX17_begins_2 : decode cX17_begins 2 = .ok (.iload_n 1, 1) := dk_27 (dk_at dksX17_begins_0 2 rfl rfl)
theorem dX17_begins_3 : decode cX17_begins 3 = .ok (.bipush 24, 2) := dk_16 24 (dk_at dksX17_begins_0 3 rfl rfl)
theorem dX17_begins_5 : decode cX17_begins 5 = .ok (.if_icmp .ge 24, 3) := dk_162 0 24 (dk_at dksX17_begins_0 5 rfl rfl)
theorem dX17_begins_8 : decode cX17_begins 8 = .ok (.aload_n 0, 1) := dk_42 (dk_at dksX17_begins_0 8 rfl rfl)
theorem dX17_begins_9 : decode cX17_begins 9 = .ok (.getfield 34, 3) := dk_180 0 34 (dk_at dksX17_begins_0 9 rfl rfl)
theorem dX17_begins_12 : decode cX17_begins 12 = .ok (.bipush 24, 2) := dk_16 24 (dk_at dksX17_begins_0 12 rfl rfl)
theorem dX17_begins_14 : decode cX17_begins 14 = .ok (.aload_n 0, 1) := dk_42 (dk_at dksX17_begins_0 14 rfl rfl)
theorem dX17_begins_15 : decode cX17_begins 15 = .ok (.getfield 282, 3) := dk_180 1 26 (dk_at dksX17_begins_0 15 rfl rfl)
theorem dX17_begins_18 : decode cX17_begins 18 = .ok (.imul, 1) := dk_104 (dk_at dksX17_begins_0 18 rfl rfl)
theorem dX17_begins_19 : decode cX17_begins 19 = .ok (.iload_n 1, 1) := dk_27 (dk_at dksX17_begins_0 19 rfl rfl)
theorem dX17_begins_20 : decode cX17_begins 20 = .ok (.iadd, 1) := dk_96 (dk_at dksX17_begins_0 20 rfl rfl)
theorem dX17_begins_21 : decode cX17_begins 21 = .ok (.iload_n 1, 1) := dk_27 (dk_at dksX17_begins_0 21 rfl rfl)
theorem dX17_begins_22 : decode cX17_begins 22 = .ok (.iastore, 1) := dk_79 (dk_at dksX17_begins_0 22 rfl rfl)
theorem dX17_begins_23 : decode cX17_begins 23 = .ok (.iinc 1 1, 3) := dk_132 1 1 (dk_at dksX17_begins_1 0 rfl rfl)
theorem dX17_begins_26 : decode cX17_begins 26 = .ok (.goto (-24), 3) := dk_167 255 232 (dk_at dksX17_begins_1 3 rfl rfl)
theorem dX17_begins_29 : decode cX17_begins 29 = .ok (.return_, 1) := dk_177 (dk_at dksX17_begins_1 6 rfl rfl)
abbrev cX17_here : ByteArray := prog_24_method_47_code
def yX17_here : MethodName := ⟨RX17, "here", "()I"⟩
def dkwX17_here_2 : List UInt8 := [162, 0, 15, 42, 180, 0, 28, 42, 180, 0, 242, 46, 167, 0, 4, 3, 172]
abbrev dktX17_here_2 : List UInt8 := dkwX17_here_2 ++ []
def dkwX17_here_1 : List UInt8 := [160, 0, 16, 42, 89, 180, 0, 242, 4, 96, 181, 0, 242, 167, 255, 221, 42, 180, 0, 242, 42, 180, 0, 239]
abbrev dktX17_here_1 : List UInt8 := dkwX17_here_1 ++ dktX17_here_2
def dkwX17_here_0 : List UInt8 := [42, 180, 0, 242, 42, 180, 0, 239, 162, 0, 30, 42, 180, 0, 28, 42, 180, 0, 242, 46, 16, 32]
abbrev dktX17_here_0 : List UInt8 := dkwX17_here_0 ++ dktX17_here_1
theorem dksX17_here_0 : cX17_here.data.toList.drop 0 = dktX17_here_0 := by decide +kernel
theorem dksX17_here_1 : cX17_here.data.toList.drop 22 = dktX17_here_1 := dk_seg dksX17_here_0 22 rfl rfl
theorem dksX17_here_2 : cX17_here.data.toList.drop 46 = dktX17_here_2 := dk_seg dksX17_here_1 24 rfl rfl
theorem dX17_here_0 : decode cX17_here 0 = .ok (.aload_n 0, 1) := dk_42 (dk_at dksX17_here_0 0 rfl rfl)
theorem dX17_here_1 : decode cX17_here 1 = .ok (.getfield 242, 3) := dk_180 0 242 (dk_at dksX17_here_0 1 rfl rfl)
theorem dX17_here_4 : decode cX17_here 4 = .ok (.aload_n 0, 1) := dk_42 (dk_at dksX17_here_0 4 rfl rfl)
theorem dX17_here_5 : decode cX17_here 5 = .ok (.getfield 239, 3) := dk_180 0 239 (dk_at dksX17_here_0 5 rfl rfl)
theorem dX17_here_8 : decode cX17_here 8 = .ok (.if_icmp .ge 30, 3) := dk_162 0 30 (dk_at dksX17_here_0 8 rfl rfl)
theorem dX17_here_11 : decode cX17_here 11 = .ok (.aload_n 0, 1) := dk_42 (dk_at dksX17_here_0 11 rfl rfl)
theorem dX17_here_12 : decode cX17_here 12 = .ok (.getfield 28, 3) := dk_180 0 28 (dk_at dksX17_here_0 12 rfl rfl)
theorem dX17_here_15 : decode cX17_here 15 = .ok (.aload_n 0, 1) := dk_42 (dk_at dksX17_here_0 15 rfl rfl)
theorem dX17_here_16 : decode cX17_here 16 = .ok (.getfield 242, 3) := dk_180 0 242 (dk_at dksX17_here_0 16 rfl rfl)
theorem dX17_here_19 : decode cX17_here 19 = .ok (.iaload, 1) := dk_46 (dk_at dksX17_here_0 19 rfl rfl)
theorem dX17_here_20 : decode cX17_here 20 = .ok (.bipush 32, 2) := dk_16 32 (dk_at dksX17_here_0 20 rfl rfl)
theorem dX17_here_22 : decode cX17_here 22 = .ok (.if_icmp .ne 16, 3) := dk_160 0 16 (dk_at dksX17_here_1 0 rfl rfl)
theorem dX17_here_25 : decode cX17_here 25 = .ok (.aload_n 0, 1) := dk_42 (dk_at dksX17_here_1 3 rfl rfl)
theorem dX17_here_26 : decode cX17_here 26 = .ok (.dup, 1) := dk_89 (dk_at dksX17_here_1 4 rfl rfl)
theorem dX17_here_27 : decode cX17_here 27 = .ok (.getfield 242, 3) := dk_180 0 242 (dk_at dksX17_here_1 5 rfl rfl)
theorem dX17_here_30 : decode cX17_here 30 = .ok (.iconst 1, 1) := dk_4 (dk_at dksX17_here_1 8 rfl rfl)
theorem dX17_here_31 : decode cX17_here 31 = .ok (.iadd, 1) := dk_96 (dk_at dksX17_here_1 9 rfl rfl)
theorem dX17_here_32 : decode cX17_here 32 = .ok (.putfield 242, 3) := dk_181 0 242 (dk_at dksX17_here_1 10 rfl rfl)
theorem dX17_here_35 : decode cX17_here 35 = .ok (.goto (-35), 3) := dk_167 255 221 (dk_at dksX17_here_1 13 rfl rfl)
theorem dX17_here_38 : decode cX17_here 38 = .ok (.aload_n 0, 1) := dk_42 (dk_at dksX17_here_1 16 rfl rfl)
theorem dX17_here_39 : decode cX17_here 39 = .ok (.getfield 242, 3) := dk_180 0 242 (dk_at dksX17_here_1 17 rfl rfl)
theorem dX17_here_42 : decode cX17_here 42 = .ok (.aload_n 0, 1) := dk_42 (dk_at dksX17_here_1 20 rfl rfl)
theorem dX17_here_43 : decode cX17_here 43 = .ok (.getfield 239, 3) := dk_180 0 239 (dk_at dksX17_here_1 21 rfl rfl)
theorem dX17_here_46 : decode cX17_here 46 = .ok (.if_icmp .ge 15, 3) := dk_162 0 15 (dk_at dksX17_here_2 0 rfl rfl)
theorem dX17_here_49 : decode cX17_here 49 = .ok (.aload_n 0, 1) := dk_42 (dk_at dksX17_here_2 3 rfl rfl)
theorem dX17_here_50 : decode cX17_here 50 = .ok (.getfield 28, 3) := dk_180 0 28 (dk_at dksX17_here_2 4 rfl rfl)
theorem dX17_here_53 : decode cX17_here 53 = .ok (.aload_n 0, 1) := dk_42 (dk_at dksX17_here_2 7 rfl rfl)
theorem dX17_here_54 : decode cX17_here 54 = .ok (.getfield 242, 3) := dk_180 0 242 (dk_at dksX17_here_2 8 rfl rfl)
theorem dX17_here_57 : decode cX17_here 57 = .ok (.iaload, 1) := dk_46 (dk_at dksX17_here_2 11 rfl rfl)
theorem dX17_here_58 : decode cX17_here 58 = .ok (.goto 4, 3) := dk_167 0 4 (dk_at dksX17_here_2 12 rfl rfl)
theorem dX17_here_61 : decode cX17_here 61 = .ok (.iconst 0, 1) := dk_3 (dk_at dksX17_here_2 15 rfl rfl)
theorem dX17_here_62 : decode cX17_here 62 = .ok (.ireturn, 1) := dk_172 (dk_at dksX17_here_2 16 rfl rfl)
abbrev cX17_readsFactor : ByteArray := prog_24_method_60_code
def yX17_readsFactor : MethodName := ⟨RX17, "readsFactor", "()Z"⟩
def dkwX17_readsFactor_2 : List UInt8 := [153, 0, 7, 4, 167, 0, 4, 3, 172]
abbrev dktX17_readsFactor_2 : List UInt8 := dkwX17_readsFactor_2 ++ []
def dkwX17_readsFactor_1 : List UInt8 := [160, 0, 14, 42, 182, 1, 33, 153, 0, 7, 4, 167, 0, 4, 3, 60, 27, 153, 0, 14, 42, 182, 1, 36]
abbrev dktX17_readsFactor_1 : List UInt8 := dkwX17_readsFactor_1 ++ dktX17_readsFactor_2
def dkwX17_readsFactor_0 : List UInt8 := [42, 182, 0, 253, 184, 1, 4, 153, 0, 10, 42, 182, 1, 29, 167, 0, 24, 42, 182, 0, 253, 16, 40]
abbrev dktX17_readsFactor_0 : List UInt8 := dkwX17_readsFactor_0 ++ dktX17_readsFactor_1
theorem dksX17_readsFactor_0 : cX17_readsFactor.data.toList.drop 0 = dktX17_readsFactor_0 := by decide +kernel
theorem dksX17_readsFactor_1 : cX17_readsFactor.data.toList.drop 23 = dktX17_readsFactor_1 := dk_seg dksX17_readsFactor_0 23 rfl rfl
theorem dksX17_readsFactor_2 : cX17_readsFactor.data.toList.drop 47 = dktX17_readsFactor_2 := dk_seg dksX17_readsFactor_1 24 rfl rfl
theorem dX17_readsFactor_0 : decode cX17_readsFactor 0 = .ok (.aload_n 0, 1) := dk_42 (dk_at dksX17_readsFactor_0 0 rfl rfl)
theorem dX17_readsFactor_1 : decode cX17_readsFactor 1 = .ok (.invokevirtual 253, 3) := dk_182 0 253 (dk_at dksX17_readsFactor_0 1 rfl rfl)
theorem dX17_readsFactor_4 : decode cX17_readsFactor 4 = .ok (.invokestatic 260, 3) := dk_184 1 4 (dk_at dksX17_readsFactor_0 4 rfl rfl)
theorem dX17_readsFactor_7 : decode cX17_readsFactor 7 = .ok (.ifCond .eq 10, 3) := dk_153 0 10 (dk_at dksX17_readsFactor_0 7 rfl rfl)
theorem dX17_readsFactor_10 : decode cX17_readsFactor 10 = .ok (.aload_n 0, 1) := dk_42 (dk_at dksX17_readsFactor_0 10 rfl rfl)
theorem dX17_readsFactor_11 : decode cX17_readsFactor 11 = .ok (.invokevirtual 285, 3) := dk_182 1 29 (dk_at dksX17_readsFactor_0 11 rfl rfl)
theorem dX17_readsFactor_14 : decode cX17_readsFactor 14 = .ok (.goto 24, 3) := dk_167 0 24 (dk_at dksX17_readsFactor_0 14 rfl rfl)
theorem dX17_readsFactor_17 : decode cX17_readsFactor 17 = .ok (.aload_n 0, 1) := dk_42 (dk_at dksX17_readsFactor_0 17 rfl rfl)
theorem dX17_readsFactor_18 : decode cX17_readsFactor 18 = .ok (.invokevirtual 253, 3) := dk_182 0 253 (dk_at dksX17_readsFactor_0 18 rfl rfl)
theorem dX17_readsFactor_21 : decode cX17_readsFactor 21 = .ok (.bipush 40, 2) := dk_16 40 (dk_at dksX17_readsFactor_0 21 rfl rfl)
theorem dX17_readsFactor_23 : decode cX17_readsFactor 23 = .ok (.if_icmp .ne 14, 3) := dk_160 0 14 (dk_at dksX17_readsFactor_1 0 rfl rfl)
theorem dX17_readsFactor_26 : decode cX17_readsFactor 26 = .ok (.aload_n 0, 1) := dk_42 (dk_at dksX17_readsFactor_1 3 rfl rfl)
theorem dX17_readsFactor_27 : decode cX17_readsFactor 27 = .ok (.invokevirtual 289, 3) := dk_182 1 33 (dk_at dksX17_readsFactor_1 4 rfl rfl)
theorem dX17_readsFactor_30 : decode cX17_readsFactor 30 = .ok (.ifCond .eq 7, 3) := dk_153 0 7 (dk_at dksX17_readsFactor_1 7 rfl rfl)
theorem dX17_readsFactor_33 : decode cX17_readsFactor 33 = .ok (.iconst 1, 1) := dk_4 (dk_at dksX17_readsFactor_1 10 rfl rfl)
theorem dX17_readsFactor_34 : decode cX17_readsFactor 34 = .ok (.goto 4, 3) := dk_167 0 4 (dk_at dksX17_readsFactor_1 11 rfl rfl)
theorem dX17_readsFactor_37 : decode cX17_readsFactor 37 = .ok (.iconst 0, 1) := dk_3 (dk_at dksX17_readsFactor_1 14 rfl rfl)
theorem dX17_readsFactor_38 : decode cX17_readsFactor 38 = .ok (.istore_n 1, 1) := dk_60 (dk_at dksX17_readsFactor_1 15 rfl rfl)
theorem dX17_readsFactor_39 : decode cX17_readsFactor 39 = .ok (.iload_n 1, 1) := dk_27 (dk_at dksX17_readsFactor_1 16 rfl rfl)
theorem dX17_readsFactor_40 : decode cX17_readsFactor 40 = .ok (.ifCond .eq 14, 3) := dk_153 0 14 (dk_at dksX17_readsFactor_1 17 rfl rfl)
theorem dX17_readsFactor_43 : decode cX17_readsFactor 43 = .ok (.aload_n 0, 1) := dk_42 (dk_at dksX17_readsFactor_1 20 rfl rfl)
theorem dX17_readsFactor_44 : decode cX17_readsFactor 44 = .ok (.invokevirtual 292, 3) := dk_182 1 36 (dk_at dksX17_readsFactor_1 21 rfl rfl)
theorem dX17_readsFactor_47 : decode cX17_readsFactor 47 = .ok (.ifCond .eq 7, 3) := dk_153 0 7 (dk_at dksX17_readsFactor_2 0 rfl rfl)
theorem dX17_readsFactor_50 : decode cX17_readsFactor 50 = .ok (.iconst 1, 1) := dk_4 (dk_at dksX17_readsFactor_2 3 rfl rfl)
theorem dX17_readsFactor_51 : decode cX17_readsFactor 51 = .ok (.goto 4, 3) := dk_167 0 4 (dk_at dksX17_readsFactor_2 4 rfl rfl)
theorem dX17_readsFactor_54 : decode cX17_readsFactor 54 = .ok (.iconst 0, 1) := dk_3 (dk_at dksX17_readsFactor_2 7 rfl rfl)
theorem dX17_readsFactor_55 : decode cX17_readsFactor 55 = .ok (.ireturn, 1) := dk_172 (dk_at dksX17_readsFactor_2 8 rfl rfl)
abbrev cX17_isLow : ByteArray := prog_24_method_49_code
def yX17_isLow : MethodName := ⟨RX17, "isLow", "(I)Z"⟩
def dkwX17_isLow_0 : List UInt8 := [26, 133, 20, 0, 249, 20, 0, 251, 184, 0, 124, 172]
abbrev dktX17_isLow_0 : List UInt8 := dkwX17_isLow_0 ++ []
theorem dksX17_isLow_0 : cX17_isLow.data.toList.drop 0 = dktX17_isLow_0 := by decide +kernel
theorem dX17_isLow_0 : decode cX17_isLow 0 = .ok (.iload_n 0, 1) := dk_26 (dk_at dksX17_isLow_0 0 rfl rfl)
theorem dX17_isLow_1 : decode cX17_isLow 1 = .ok (.i2l, 1) := dk_133 (dk_at dksX17_isLow_0 1 rfl rfl)
theorem dX17_isLow_2 : decode cX17_isLow 2 = .ok (.ldc2_w 249, 3) := dk_20 0 249 (dk_at dksX17_isLow_0 2 rfl rfl)
theorem dX17_isLow_5 : decode cX17_isLow 5 = .ok (.ldc2_w 251, 3) := dk_20 0 251 (dk_at dksX17_isLow_0 5 rfl rfl)
theorem dX17_isLow_8 : decode cX17_isLow 8 = .ok (.invokestatic 124, 3) := dk_184 0 124 (dk_at dksX17_isLow_0 8 rfl rfl)
theorem dX17_isLow_11 : decode cX17_isLow 11 = .ok (.ireturn, 1) := dk_172 (dk_at dksX17_isLow_0 11 rfl rfl)
abbrev cX17_readsName : ByteArray := prog_24_method_54_code
def yX17_readsName : MethodName := ⟨RX17, "readsName", "()Z"⟩
def dkwX17_readsName_2 : List UInt8 := [29, 184, 0, 100, 167, 0, 11, 42, 28, 8, 100, 29, 182, 0, 195, 79, 132, 3, 1, 167, 255, 220, 4, 172]
abbrev dktX17_readsName_2 : List UInt8 := dkwX17_readsName_2 ++ []
def dkwX17_readsName_1 : List UInt8 := [181, 0, 242, 3, 172, 3, 62, 29, 16, 24, 162, 0, 36, 42, 180, 0, 31, 29, 28, 8, 162, 0, 11, 28]
abbrev dktX17_readsName_1 : List UInt8 := dkwX17_readsName_1 ++ dktX17_readsName_2
def dkwX17_readsName_0 : List UInt8 := [42, 3, 182, 1, 7, 60, 42, 27, 182, 1, 17, 61, 28, 156, 0, 15, 42, 89, 180, 0, 242, 27, 100]
abbrev dktX17_readsName_0 : List UInt8 := dkwX17_readsName_0 ++ dktX17_readsName_1
theorem dksX17_readsName_0 : cX17_readsName.data.toList.drop 0 = dktX17_readsName_0 := by decide +kernel
theorem dksX17_readsName_1 : cX17_readsName.data.toList.drop 23 = dktX17_readsName_1 := dk_seg dksX17_readsName_0 23 rfl rfl
theorem dksX17_readsName_2 : cX17_readsName.data.toList.drop 47 = dktX17_readsName_2 := dk_seg dksX17_readsName_1 24 rfl rfl
theorem dX17_readsName_0 : decode cX17_readsName 0 = .ok (.aload_n 0, 1) := dk_42 (dk_at dksX17_readsName_0 0 rfl rfl)
theorem dX17_readsName_1 : decode cX17_readsName 1 = .ok (.iconst 0, 1) := dk_3 (dk_at dksX17_readsName_0 1 rfl rfl)
theorem dX17_readsName_2 : decode cX17_readsName 2 = .ok (.invokevirtual 263, 3) := dk_182 1 7 (dk_at dksX17_readsName_0 2 rfl rfl)
theorem dX17_readsName_5 : decode cX17_readsName 5 = .ok (.istore_n 1, 1) := dk_60 (dk_at dksX17_readsName_0 5 rfl rfl)
theorem dX17_readsName_6 : decode cX17_readsName 6 = .ok (.aload_n 0, 1) := dk_42 (dk_at dksX17_readsName_0 6 rfl rfl)
theorem dX17_readsName_7 : decode cX17_readsName 7 = .ok (.iload_n 1, 1) := dk_27 (dk_at dksX17_readsName_0 7 rfl rfl)
theorem dX17_readsName_8 : decode cX17_readsName 8 = .ok (.invokevirtual 273, 3) := dk_182 1 17 (dk_at dksX17_readsName_0 8 rfl rfl)
theorem dX17_readsName_11 : decode cX17_readsName 11 = .ok (.istore_n 2, 1) := dk_61 (dk_at dksX17_readsName_0 11 rfl rfl)
theorem dX17_readsName_12 : decode cX17_readsName 12 = .ok (.iload_n 2, 1) := dk_28 (dk_at dksX17_readsName_0 12 rfl rfl)
theorem dX17_readsName_13 : decode cX17_readsName 13 = .ok (.ifCond .ge 15, 3) := dk_156 0 15 (dk_at dksX17_readsName_0 13 rfl rfl)
theorem dX17_readsName_16 : decode cX17_readsName 16 = .ok (.aload_n 0, 1) := dk_42 (dk_at dksX17_readsName_0 16 rfl rfl)
theorem dX17_readsName_17 : decode cX17_readsName 17 = .ok (.dup, 1) := dk_89 (dk_at dksX17_readsName_0 17 rfl rfl)
theorem dX17_readsName_18 : decode cX17_readsName 18 = .ok (.getfield 242, 3) := dk_180 0 242 (dk_at dksX17_readsName_0 18 rfl rfl)
theorem dX17_readsName_21 : decode cX17_readsName 21 = .ok (.iload_n 1, 1) := dk_27 (dk_at dksX17_readsName_0 21 rfl rfl)
theorem dX17_readsName_22 : decode cX17_readsName 22 = .ok (.isub, 1) := dk_100 (dk_at dksX17_readsName_0 22 rfl rfl)
theorem dX17_readsName_23 : decode cX17_readsName 23 = .ok (.putfield 242, 3) := dk_181 0 242 (dk_at dksX17_readsName_1 0 rfl rfl)
theorem dX17_readsName_26 : decode cX17_readsName 26 = .ok (.iconst 0, 1) := dk_3 (dk_at dksX17_readsName_1 3 rfl rfl)
theorem dX17_readsName_27 : decode cX17_readsName 27 = .ok (.ireturn, 1) := dk_172 (dk_at dksX17_readsName_1 4 rfl rfl)
theorem dX17_readsName_28 : decode cX17_readsName 28 = .ok (.iconst 0, 1) := dk_3 (dk_at dksX17_readsName_1 5 rfl rfl)
theorem dX17_readsName_29 : decode cX17_readsName 29 = .ok (.istore_n 3, 1) := dk_62 (dk_at dksX17_readsName_1 6 rfl rfl)
theorem dX17_readsName_30 : decode cX17_readsName 30 = .ok (.iload_n 3, 1) := dk_29 (dk_at dksX17_readsName_1 7 rfl rfl)
theorem dX17_readsName_31 : decode cX17_readsName 31 = .ok (.bipush 24, 2) := dk_16 24 (dk_at dksX17_readsName_1 8 rfl rfl)
theorem dX17_readsName_33 : decode cX17_readsName 33 = .ok (.if_icmp .ge 36, 3) := dk_162 0 36 (dk_at dksX17_readsName_1 10 rfl rfl)
theorem dX17_readsName_36 : decode cX17_readsName 36 = .ok (.aload_n 0, 1) := dk_42 (dk_at dksX17_readsName_1 13 rfl rfl)
theorem dX17_readsName_37 : decode cX17_readsName 37 = .ok (.getfield 31, 3) := dk_180 0 31 (dk_at dksX17_readsName_1 14 rfl rfl)
theorem dX17_readsName_40 : decode cX17_readsName 40 = .ok (.iload_n 3, 1) := dk_29 (dk_at dksX17_readsName_1 17 rfl rfl)
theorem dX17_readsName_41 : decode cX17_readsName 41 = .ok (.iload_n 2, 1) := dk_28 (dk_at dksX17_readsName_1 18 rfl rfl)
theorem dX17_readsName_42 : decode cX17_readsName 42 = .ok (.iconst 5, 1) := dk_8 (dk_at dksX17_readsName_1 19 rfl rfl)
theorem dX17_readsName_43 : decode cX17_readsName 43 = .ok (.if_icmp .ge 11, 3) := dk_162 0 11 (dk_at dksX17_readsName_1 20 rfl rfl)
theorem dX17_readsName_46 : decode cX17_readsName 46 = .ok (.iload_n 2, 1) := dk_28 (dk_at dksX17_readsName_1 23 rfl rfl)
theorem dX17_readsName_47 : decode cX17_readsName 47 = .ok (.iload_n 3, 1) := dk_29 (dk_at dksX17_readsName_2 0 rfl rfl)
theorem dX17_readsName_48 : decode cX17_readsName 48 = .ok (.invokestatic 100, 3) := dk_184 0 100 (dk_at dksX17_readsName_2 1 rfl rfl)
theorem dX17_readsName_51 : decode cX17_readsName 51 = .ok (.goto 11, 3) := dk_167 0 11 (dk_at dksX17_readsName_2 4 rfl rfl)
theorem dX17_readsName_54 : decode cX17_readsName 54 = .ok (.aload_n 0, 1) := dk_42 (dk_at dksX17_readsName_2 7 rfl rfl)
theorem dX17_readsName_55 : decode cX17_readsName 55 = .ok (.iload_n 2, 1) := dk_28 (dk_at dksX17_readsName_2 8 rfl rfl)
theorem dX17_readsName_56 : decode cX17_readsName 56 = .ok (.iconst 5, 1) := dk_8 (dk_at dksX17_readsName_2 9 rfl rfl)
theorem dX17_readsName_57 : decode cX17_readsName 57 = .ok (.isub, 1) := dk_100 (dk_at dksX17_readsName_2 10 rfl rfl)
theorem dX17_readsName_58 : decode cX17_readsName 58 = .ok (.iload_n 3, 1) := dk_29 (dk_at dksX17_readsName_2 11 rfl rfl)
theorem dX17_readsName_59 : decode cX17_readsName 59 = .ok (.invokevirtual 195, 3) := dk_182 0 195 (dk_at dksX17_readsName_2 12 rfl rfl)
theorem dX17_readsName_62 : decode cX17_readsName 62 = .ok (.iastore, 1) := dk_79 (dk_at dksX17_readsName_2 15 rfl rfl)
theorem dX17_readsName_63 : decode cX17_readsName 63 = .ok (.iinc 3 1, 3) := dk_132 3 1 (dk_at dksX17_readsName_2 16 rfl rfl)
theorem dX17_readsName_66 : decode cX17_readsName 66 = .ok (.goto (-36), 3) := dk_167 255 220 (dk_at dksX17_readsName_2 19 rfl rfl)
theorem dX17_readsName_69 : decode cX17_readsName 69 = .ok (.iconst 1, 1) := dk_4 (dk_at dksX17_readsName_2 22 rfl rfl)
theorem dX17_readsName_70 : decode cX17_readsName 70 = .ok (.ireturn, 1) := dk_172 (dk_at dksX17_readsName_2 23 rfl rfl)
abbrev cX17_row : ByteArray := prog_24_method_50_code
def yX17_row : MethodName := ⟨RX17, "row", "(Z)I"⟩
def dkwX17_row_3 : List UInt8 := [167, 255, 195, 28, 172]
abbrev dktX17_row_3 : List UInt8 := dkwX17_row_3 ++ []
def dkwX17_row_2 : List UInt8 := [180, 0, 242, 46, 184, 1, 4, 153, 0, 19, 42, 89, 180, 0, 242, 4, 96, 181, 0, 242, 132, 2, 1]
abbrev dktX17_row_2 : List UInt8 := dkwX17_row_2 ++ dktX17_row_3
def dkwX17_row_1 : List UInt8 := [180, 0, 28, 42, 180, 0, 242, 46, 184, 1, 1, 153, 0, 37, 167, 0, 18, 42, 180, 0, 28, 42]
abbrev dktX17_row_1 : List UInt8 := dkwX17_row_1 ++ dktX17_row_2
def dkwX17_row_0 : List UInt8 := [42, 182, 0, 253, 87, 3, 61, 42, 180, 0, 242, 42, 180, 0, 239, 162, 0, 56, 27, 153, 0, 21, 42]
abbrev dktX17_row_0 : List UInt8 := dkwX17_row_0 ++ dktX17_row_1
theorem dksX17_row_0 : cX17_row.data.toList.drop 0 = dktX17_row_0 := by decide +kernel
theorem dksX17_row_1 : cX17_row.data.toList.drop 23 = dktX17_row_1 := dk_seg dksX17_row_0 23 rfl rfl
theorem dksX17_row_2 : cX17_row.data.toList.drop 45 = dktX17_row_2 := dk_seg dksX17_row_1 22 rfl rfl
theorem dksX17_row_3 : cX17_row.data.toList.drop 68 = dktX17_row_3 := dk_seg dksX17_row_2 23 rfl rfl
theorem dX17_row_0 : decode cX17_row 0 = .ok (.aload_n 0, 1) := dk_42 (dk_at dksX17_row_0 0 rfl rfl)
theorem dX17_row_1 : decode cX17_row 1 = .ok (.invokevirtual 253, 3) := dk_182 0 253 (dk_at dksX17_row_0 1 rfl rfl)
theorem dX17_row_4 : decode cX17_row 4 = .ok (.pop, 1) := dk_87 (dk_at dksX17_row_0 4 rfl rfl)
theorem dX17_row_5 : decode cX17_row 5 = .ok (.iconst 0, 1) := dk_3 (dk_at dksX17_row_0 5 rfl rfl)
theorem dX17_row_6 : decode cX17_row 6 = .ok (.istore_n 2, 1) := dk_61 (dk_at dksX17_row_0 6 rfl rfl)
theorem dX17_row_7 : decode cX17_row 7 = .ok (.aload_n 0, 1) := dk_42 (dk_at dksX17_row_0 7 rfl rfl)
theorem dX17_row_8 : decode cX17_row 8 = .ok (.getfield 242, 3) := dk_180 0 242 (dk_at dksX17_row_0 8 rfl rfl)
theorem dX17_row_11 : decode cX17_row 11 = .ok (.aload_n 0, 1) := dk_42 (dk_at dksX17_row_0 11 rfl rfl)
theorem dX17_row_12 : decode cX17_row 12 = .ok (.getfield 239, 3) := dk_180 0 239 (dk_at dksX17_row_0 12 rfl rfl)
theorem dX17_row_15 : decode cX17_row 15 = .ok (.if_icmp .ge 56, 3) := dk_162 0 56 (dk_at dksX17_row_0 15 rfl rfl)
theorem dX17_row_18 : decode cX17_row 18 = .ok (.iload_n 1, 1) := dk_27 (dk_at dksX17_row_0 18 rfl rfl)
theorem dX17_row_19 : decode cX17_row 19 = .ok (.ifCond .eq 21, 3) := dk_153 0 21 (dk_at dksX17_row_0 19 rfl rfl)
theorem dX17_row_22 : decode cX17_row 22 = .ok (.aload_n 0, 1) := dk_42 (dk_at dksX17_row_0 22 rfl rfl)
theorem dX17_row_23 : decode cX17_row 23 = .ok (.getfield 28, 3) := dk_180 0 28 (dk_at dksX17_row_1 0 rfl rfl)
theorem dX17_row_26 : decode cX17_row 26 = .ok (.aload_n 0, 1) := dk_42 (dk_at dksX17_row_1 3 rfl rfl)
theorem dX17_row_27 : decode cX17_row 27 = .ok (.getfield 242, 3) := dk_180 0 242 (dk_at dksX17_row_1 4 rfl rfl)
theorem dX17_row_30 : decode cX17_row 30 = .ok (.iaload, 1) := dk_46 (dk_at dksX17_row_1 7 rfl rfl)
theorem dX17_row_31 : decode cX17_row 31 = .ok (.invokestatic 257, 3) := dk_184 1 1 (dk_at dksX17_row_1 8 rfl rfl)
theorem dX17_row_34 : decode cX17_row 34 = .ok (.ifCond .eq 37, 3) := dk_153 0 37 (dk_at dksX17_row_1 11 rfl rfl)
theorem dX17_row_37 : decode cX17_row 37 = .ok (.goto 18, 3) := dk_167 0 18 (dk_at dksX17_row_1 14 rfl rfl)
theorem dX17_row_40 : decode cX17_row 40 = .ok (.aload_n 0, 1) := dk_42 (dk_at dksX17_row_1 17 rfl rfl)
theorem dX17_row_41 : decode cX17_row 41 = .ok (.getfield 28, 3) := dk_180 0 28 (dk_at dksX17_row_1 18 rfl rfl)
theorem dX17_row_44 : decode cX17_row 44 = .ok (.aload_n 0, 1) := dk_42 (dk_at dksX17_row_1 21 rfl rfl)
theorem dX17_row_45 : decode cX17_row 45 = .ok (.getfield 242, 3) := dk_180 0 242 (dk_at dksX17_row_2 0 rfl rfl)
theorem dX17_row_48 : decode cX17_row 48 = .ok (.iaload, 1) := dk_46 (dk_at dksX17_row_2 3 rfl rfl)
theorem dX17_row_49 : decode cX17_row 49 = .ok (.invokestatic 260, 3) := dk_184 1 4 (dk_at dksX17_row_2 4 rfl rfl)
theorem dX17_row_52 : decode cX17_row 52 = .ok (.ifCond .eq 19, 3) := dk_153 0 19 (dk_at dksX17_row_2 7 rfl rfl)
theorem dX17_row_55 : decode cX17_row 55 = .ok (.aload_n 0, 1) := dk_42 (dk_at dksX17_row_2 10 rfl rfl)
theorem dX17_row_56 : decode cX17_row 56 = .ok (.dup, 1) := dk_89 (dk_at dksX17_row_2 11 rfl rfl)
theorem dX17_row_57 : decode cX17_row 57 = .ok (.getfield 242, 3) := dk_180 0 242 (dk_at dksX17_row_2 12 rfl rfl)
theorem dX17_row_60 : decode cX17_row 60 = .ok (.iconst 1, 1) := dk_4 (dk_at dksX17_row_2 15 rfl rfl)
theorem dX17_row_61 : decode cX17_row 61 = .ok (.iadd, 1) := dk_96 (dk_at dksX17_row_2 16 rfl rfl)
theorem dX17_row_62 : decode cX17_row 62 = .ok (.putfield 242, 3) := dk_181 0 242 (dk_at dksX17_row_2 17 rfl rfl)
theorem dX17_row_65 : decode cX17_row 65 = .ok (.iinc 2 1, 3) := dk_132 2 1 (dk_at dksX17_row_2 20 rfl rfl)
theorem dX17_row_68 : decode cX17_row 68 = .ok (.goto (-61), 3) := dk_167 255 195 (dk_at dksX17_row_3 0 rfl rfl)
theorem dX17_row_71 : decode cX17_row 71 = .ok (.iload_n 2, 1) := dk_28 (dk_at dksX17_row_3 3 rfl rfl)
theorem dX17_row_72 : decode cX17_row 72 = .ok (.ireturn, 1) := dk_172 (dk_at dksX17_row_3 4 rfl rfl)
abbrev cX17_isFigure : ByteArray := prog_24_method_48_code
def yX17_isFigure : MethodName := ⟨RX17, "isFigure", "(I)Z"⟩
def dkwX17_isFigure_0 : List UInt8 := [26, 133, 20, 0, 245, 20, 0, 247, 184, 0, 124, 172]
abbrev dktX17_isFigure_0 : List UInt8 := dkwX17_isFigure_0 ++ []
theorem dksX17_isFigure_0 : cX17_isFigure.data.toList.drop 0 = dktX17_isFigure_0 := by decide +kernel
theorem dX17_isFigure_0 : decode cX17_isFigure 0 = .ok (.iload_n 0, 1) := dk_26 (dk_at dksX17_isFigure_0 0 rfl rfl)
theorem dX17_isFigure_1 : decode cX17_isFigure 1 = .ok (.i2l, 1) := dk_133 (dk_at dksX17_isFigure_0 1 rfl rfl)
theorem dX17_isFigure_2 : decode cX17_isFigure 2 = .ok (.ldc2_w 245, 3) := dk_20 0 245 (dk_at dksX17_isFigure_0 2 rfl rfl)
theorem dX17_isFigure_5 : decode cX17_isFigure 5 = .ok (.ldc2_w 247, 3) := dk_20 0 247 (dk_at dksX17_isFigure_0 5 rfl rfl)
theorem dX17_isFigure_8 : decode cX17_isFigure 8 = .ok (.invokestatic 124, 3) := dk_184 0 124 (dk_at dksX17_isFigure_0 8 rfl rfl)
theorem dX17_isFigure_11 : decode cX17_isFigure 11 = .ok (.ireturn, 1) := dk_172 (dk_at dksX17_isFigure_0 11 rfl rfl)
abbrev cX17_nameOf : ByteArray := prog_24_method_53_code
def yX17_nameOf : MethodName := ⟨RX17, "nameOf", "(I)I"⟩
def dkwX17_nameOf_7 : List UInt8 := [167, 0, 5, 16, 252, 172]
abbrev dktX17_nameOf_7 : List UInt8 := dkwX17_nameOf_7 ++ []
def dkwX17_nameOf_6 : List UInt8 := [167, 0, 27, 42, 27, 7, 16, 115, 16, 97, 16, 109, 16, 101, 3, 182, 1, 13, 153, 0, 7, 7]
abbrev dktX17_nameOf_6 : List UInt8 := dkwX17_nameOf_6 ++ dktX17_nameOf_7
def dkwX17_nameOf_5 : List UInt8 := [167, 0, 49, 42, 27, 7, 16, 119, 16, 105, 16, 108, 16, 100, 3, 182, 1, 13, 153, 0, 7, 6]
abbrev dktX17_nameOf_5 : List UInt8 := dkwX17_nameOf_5 ++ dktX17_nameOf_6
def dkwX17_nameOf_4 : List UInt8 := [167, 0, 71, 42, 27, 7, 16, 111, 16, 118, 16, 101, 16, 114, 3, 182, 1, 13, 153, 0, 7, 5]
abbrev dktX17_nameOf_4 : List UInt8 := dkwX17_nameOf_4 ++ dktX17_nameOf_5
def dkwX17_nameOf_3 : List UInt8 := [167, 0, 94, 42, 27, 8, 16, 116, 16, 119, 16, 105, 16, 99, 16, 101, 182, 1, 13, 153, 0, 7, 4]
abbrev dktX17_nameOf_3 : List UInt8 := dkwX17_nameOf_3 ++ dktX17_nameOf_4
def dkwX17_nameOf_2 : List UInt8 := [16, 252, 172, 42, 27, 7, 16, 115, 16, 116, 16, 101, 16, 112, 3, 182, 1, 13, 153, 0, 7, 3]
abbrev dktX17_nameOf_2 : List UInt8 := dkwX17_nameOf_2 ++ dktX17_nameOf_3
def dkwX17_nameOf_1 : List UInt8 := [184, 0, 124, 153, 0, 20, 42, 180, 0, 28, 42, 180, 0, 242, 4, 100, 46, 16, 92, 100, 167, 0, 5]
abbrev dktX17_nameOf_1 : List UInt8 := dkwX17_nameOf_1 ++ dktX17_nameOf_2
def dkwX17_nameOf_0 : List UInt8 := [27, 4, 160, 0, 47, 42, 180, 0, 28, 42, 180, 0, 242, 4, 100, 46, 133, 20, 0, 249, 20, 1, 11]
abbrev dktX17_nameOf_0 : List UInt8 := dkwX17_nameOf_0 ++ dktX17_nameOf_1
theorem dksX17_nameOf_0 : cX17_nameOf.data.toList.drop 0 = dktX17_nameOf_0 := by decide +kernel
theorem dksX17_nameOf_1 : cX17_nameOf.data.toList.drop 23 = dktX17_nameOf_1 := dk_seg dksX17_nameOf_0 23 rfl rfl
theorem dksX17_nameOf_2 : cX17_nameOf.data.toList.drop 46 = dktX17_nameOf_2 := dk_seg dksX17_nameOf_1 23 rfl rfl
theorem dksX17_nameOf_3 : cX17_nameOf.data.toList.drop 68 = dktX17_nameOf_3 := dk_seg dksX17_nameOf_2 22 rfl rfl
theorem dksX17_nameOf_4 : cX17_nameOf.data.toList.drop 91 = dktX17_nameOf_4 := dk_seg dksX17_nameOf_3 23 rfl rfl
theorem dksX17_nameOf_5 : cX17_nameOf.data.toList.drop 113 = dktX17_nameOf_5 := dk_seg dksX17_nameOf_4 22 rfl rfl
theorem dksX17_nameOf_6 : cX17_nameOf.data.toList.drop 135 = dktX17_nameOf_6 := dk_seg dksX17_nameOf_5 22 rfl rfl
theorem dksX17_nameOf_7 : cX17_nameOf.data.toList.drop 157 = dktX17_nameOf_7 := dk_seg dksX17_nameOf_6 22 rfl rfl
theorem dX17_nameOf_0 : decode cX17_nameOf 0 = .ok (.iload_n 1, 1) := dk_27 (dk_at dksX17_nameOf_0 0 rfl rfl)
theorem dX17_nameOf_1 : decode cX17_nameOf 1 = .ok (.iconst 1, 1) := dk_4 (dk_at dksX17_nameOf_0 1 rfl rfl)
theorem dX17_nameOf_2 : decode cX17_nameOf 2 = .ok (.if_icmp .ne 47, 3) := dk_160 0 47 (dk_at dksX17_nameOf_0 2 rfl rfl)
theorem dX17_nameOf_5 : decode cX17_nameOf 5 = .ok (.aload_n 0, 1) := dk_42 (dk_at dksX17_nameOf_0 5 rfl rfl)
theorem dX17_nameOf_6 : decode cX17_nameOf 6 = .ok (.getfield 28, 3) := dk_180 0 28 (dk_at dksX17_nameOf_0 6 rfl rfl)
theorem dX17_nameOf_9 : decode cX17_nameOf 9 = .ok (.aload_n 0, 1) := dk_42 (dk_at dksX17_nameOf_0 9 rfl rfl)
theorem dX17_nameOf_10 : decode cX17_nameOf 10 = .ok (.getfield 242, 3) := dk_180 0 242 (dk_at dksX17_nameOf_0 10 rfl rfl)
theorem dX17_nameOf_13 : decode cX17_nameOf 13 = .ok (.iconst 1, 1) := dk_4 (dk_at dksX17_nameOf_0 13 rfl rfl)
theorem dX17_nameOf_14 : decode cX17_nameOf 14 = .ok (.isub, 1) := dk_100 (dk_at dksX17_nameOf_0 14 rfl rfl)
theorem dX17_nameOf_15 : decode cX17_nameOf 15 = .ok (.iaload, 1) := dk_46 (dk_at dksX17_nameOf_0 15 rfl rfl)
theorem dX17_nameOf_16 : decode cX17_nameOf 16 = .ok (.i2l, 1) := dk_133 (dk_at dksX17_nameOf_0 16 rfl rfl)
theorem dX17_nameOf_17 : decode cX17_nameOf 17 = .ok (.ldc2_w 249, 3) := dk_20 0 249 (dk_at dksX17_nameOf_0 17 rfl rfl)
theorem dX17_nameOf_20 : decode cX17_nameOf 20 = .ok (.ldc2_w 267, 3) := dk_20 1 11 (dk_at dksX17_nameOf_0 20 rfl rfl)
theorem dX17_nameOf_23 : decode cX17_nameOf 23 = .ok (.invokestatic 124, 3) := dk_184 0 124 (dk_at dksX17_nameOf_1 0 rfl rfl)
theorem dX17_nameOf_26 : decode cX17_nameOf 26 = .ok (.ifCond .eq 20, 3) := dk_153 0 20 (dk_at dksX17_nameOf_1 3 rfl rfl)
theorem dX17_nameOf_29 : decode cX17_nameOf 29 = .ok (.aload_n 0, 1) := dk_42 (dk_at dksX17_nameOf_1 6 rfl rfl)
theorem dX17_nameOf_30 : decode cX17_nameOf 30 = .ok (.getfield 28, 3) := dk_180 0 28 (dk_at dksX17_nameOf_1 7 rfl rfl)
theorem dX17_nameOf_33 : decode cX17_nameOf 33 = .ok (.aload_n 0, 1) := dk_42 (dk_at dksX17_nameOf_1 10 rfl rfl)
theorem dX17_nameOf_34 : decode cX17_nameOf 34 = .ok (.getfield 242, 3) := dk_180 0 242 (dk_at dksX17_nameOf_1 11 rfl rfl)
theorem dX17_nameOf_37 : decode cX17_nameOf 37 = .ok (.iconst 1, 1) := dk_4 (dk_at dksX17_nameOf_1 14 rfl rfl)
theorem dX17_nameOf_38 : decode cX17_nameOf 38 = .ok (.isub, 1) := dk_100 (dk_at dksX17_nameOf_1 15 rfl rfl)
theorem dX17_nameOf_39 : decode cX17_nameOf 39 = .ok (.iaload, 1) := dk_46 (dk_at dksX17_nameOf_1 16 rfl rfl)
theorem dX17_nameOf_40 : decode cX17_nameOf 40 = .ok (.bipush 92, 2) := dk_16 92 (dk_at dksX17_nameOf_1 17 rfl rfl)
theorem dX17_nameOf_42 : decode cX17_nameOf 42 = .ok (.isub, 1) := dk_100 (dk_at dksX17_nameOf_1 19 rfl rfl)
theorem dX17_nameOf_43 : decode cX17_nameOf 43 = .ok (.goto 5, 3) := dk_167 0 5 (dk_at dksX17_nameOf_1 20 rfl rfl)
theorem dX17_nameOf_46 : decode cX17_nameOf 46 = .ok (.bipush (-4), 2) := dk_16 252 (dk_at dksX17_nameOf_2 0 rfl rfl)
theorem dX17_nameOf_48 : decode cX17_nameOf 48 = .ok (.ireturn, 1) := dk_172 (dk_at dksX17_nameOf_2 2 rfl rfl)
theorem dX17_nameOf_49 : decode cX17_nameOf 49 = .ok (.aload_n 0, 1) := dk_42 (dk_at dksX17_nameOf_2 3 rfl rfl)
theorem dX17_nameOf_50 : decode cX17_nameOf 50 = .ok (.iload_n 1, 1) := dk_27 (dk_at dksX17_nameOf_2 4 rfl rfl)
theorem dX17_nameOf_51 : decode cX17_nameOf 51 = .ok (.iconst 4, 1) := dk_7 (dk_at dksX17_nameOf_2 5 rfl rfl)
theorem dX17_nameOf_52 : decode cX17_nameOf 52 = .ok (.bipush 115, 2) := dk_16 115 (dk_at dksX17_nameOf_2 6 rfl rfl)
theorem dX17_nameOf_54 : decode cX17_nameOf 54 = .ok (.bipush 116, 2) := dk_16 116 (dk_at dksX17_nameOf_2 8 rfl rfl)
theorem dX17_nameOf_56 : decode cX17_nameOf 56 = .ok (.bipush 101, 2) := dk_16 101 (dk_at dksX17_nameOf_2 10 rfl rfl)
theorem dX17_nameOf_58 : decode cX17_nameOf 58 = .ok (.bipush 112, 2) := dk_16 112 (dk_at dksX17_nameOf_2 12 rfl rfl)
theorem dX17_nameOf_60 : decode cX17_nameOf 60 = .ok (.iconst 0, 1) := dk_3 (dk_at dksX17_nameOf_2 14 rfl rfl)
theorem dX17_nameOf_61 : decode cX17_nameOf 61 = .ok (.invokevirtual 269, 3) := dk_182 1 13 (dk_at dksX17_nameOf_2 15 rfl rfl)
theorem dX17_nameOf_64 : decode cX17_nameOf 64 = .ok (.ifCond .eq 7, 3) := dk_153 0 7 (dk_at dksX17_nameOf_2 18 rfl rfl)
theorem dX17_nameOf_67 : decode cX17_nameOf 67 = .ok (.iconst 0, 1) := dk_3 (dk_at dksX17_nameOf_2 21 rfl rfl)
theorem dX17_nameOf_68 : decode cX17_nameOf 68 = .ok (.goto 94, 3) := dk_167 0 94 (dk_at dksX17_nameOf_3 0 rfl rfl)
theorem dX17_nameOf_71 : decode cX17_nameOf 71 = .ok (.aload_n 0, 1) := dk_42 (dk_at dksX17_nameOf_3 3 rfl rfl)
theorem dX17_nameOf_72 : decode cX17_nameOf 72 = .ok (.iload_n 1, 1) := dk_27 (dk_at dksX17_nameOf_3 4 rfl rfl)
theorem dX17_nameOf_73 : decode cX17_nameOf 73 = .ok (.iconst 5, 1) := dk_8 (dk_at dksX17_nameOf_3 5 rfl rfl)
theorem dX17_nameOf_74 : decode cX17_nameOf 74 = .ok (.bipush 116, 2) := dk_16 116 (dk_at dksX17_nameOf_3 6 rfl rfl)
theorem dX17_nameOf_76 : decode cX17_nameOf 76 = .ok (.bipush 119, 2) := dk_16 119 (dk_at dksX17_nameOf_3 8 rfl rfl)
theorem dX17_nameOf_78 : decode cX17_nameOf 78 = .ok (.bipush 105, 2) := dk_16 105 (dk_at dksX17_nameOf_3 10 rfl rfl)
theorem dX17_nameOf_80 : decode cX17_nameOf 80 = .ok (.bipush 99, 2) := dk_16 99 (dk_at dksX17_nameOf_3 12 rfl rfl)
theorem dX17_nameOf_82 : decode cX17_nameOf 82 = .ok (.bipush 101, 2) := dk_16 101 (dk_at dksX17_nameOf_3 14 rfl rfl)
theorem dX17_nameOf_84 : decode cX17_nameOf 84 = .ok (.invokevirtual 269, 3) := dk_182 1 13 (dk_at dksX17_nameOf_3 16 rfl rfl)
theorem dX17_nameOf_87 : decode cX17_nameOf 87 = .ok (.ifCond .eq 7, 3) := dk_153 0 7 (dk_at dksX17_nameOf_3 19 rfl rfl)
theorem dX17_nameOf_90 : decode cX17_nameOf 90 = .ok (.iconst 1, 1) := dk_4 (dk_at dksX17_nameOf_3 22 rfl rfl)
theorem dX17_nameOf_91 : decode cX17_nameOf 91 = .ok (.goto 71, 3) := dk_167 0 71 (dk_at dksX17_nameOf_4 0 rfl rfl)
theorem dX17_nameOf_94 : decode cX17_nameOf 94 = .ok (.aload_n 0, 1) := dk_42 (dk_at dksX17_nameOf_4 3 rfl rfl)
theorem dX17_nameOf_95 : decode cX17_nameOf 95 = .ok (.iload_n 1, 1) := dk_27 (dk_at dksX17_nameOf_4 4 rfl rfl)
theorem dX17_nameOf_96 : decode cX17_nameOf 96 = .ok (.iconst 4, 1) := dk_7 (dk_at dksX17_nameOf_4 5 rfl rfl)
theorem dX17_nameOf_97 : decode cX17_nameOf 97 = .ok (.bipush 111, 2) := dk_16 111 (dk_at dksX17_nameOf_4 6 rfl rfl)
theorem dX17_nameOf_99 : decode cX17_nameOf 99 = .ok (.bipush 118, 2) := dk_16 118 (dk_at dksX17_nameOf_4 8 rfl rfl)
theorem dX17_nameOf_101 : decode cX17_nameOf 101 = .ok (.bipush 101, 2) := dk_16 101 (dk_at dksX17_nameOf_4 10 rfl rfl)
theorem dX17_nameOf_103 : decode cX17_nameOf 103 = .ok (.bipush 114, 2) := dk_16 114 (dk_at dksX17_nameOf_4 12 rfl rfl)
theorem dX17_nameOf_105 : decode cX17_nameOf 105 = .ok (.iconst 0, 1) := dk_3 (dk_at dksX17_nameOf_4 14 rfl rfl)
theorem dX17_nameOf_106 : decode cX17_nameOf 106 = .ok (.invokevirtual 269, 3) := dk_182 1 13 (dk_at dksX17_nameOf_4 15 rfl rfl)
theorem dX17_nameOf_109 : decode cX17_nameOf 109 = .ok (.ifCond .eq 7, 3) := dk_153 0 7 (dk_at dksX17_nameOf_4 18 rfl rfl)
theorem dX17_nameOf_112 : decode cX17_nameOf 112 = .ok (.iconst 2, 1) := dk_5 (dk_at dksX17_nameOf_4 21 rfl rfl)
theorem dX17_nameOf_113 : decode cX17_nameOf 113 = .ok (.goto 49, 3) := dk_167 0 49 (dk_at dksX17_nameOf_5 0 rfl rfl)
theorem dX17_nameOf_116 : decode cX17_nameOf 116 = .ok (.aload_n 0, 1) := dk_42 (dk_at dksX17_nameOf_5 3 rfl rfl)
theorem dX17_nameOf_117 : decode cX17_nameOf 117 = .ok (.iload_n 1, 1) := dk_27 (dk_at dksX17_nameOf_5 4 rfl rfl)
theorem dX17_nameOf_118 : decode cX17_nameOf 118 = .ok (.iconst 4, 1) := dk_7 (dk_at dksX17_nameOf_5 5 rfl rfl)
theorem dX17_nameOf_119 : decode cX17_nameOf 119 = .ok (.bipush 119, 2) := dk_16 119 (dk_at dksX17_nameOf_5 6 rfl rfl)
theorem dX17_nameOf_121 : decode cX17_nameOf 121 = .ok (.bipush 105, 2) := dk_16 105 (dk_at dksX17_nameOf_5 8 rfl rfl)
theorem dX17_nameOf_123 : decode cX17_nameOf 123 = .ok (.bipush 108, 2) := dk_16 108 (dk_at dksX17_nameOf_5 10 rfl rfl)
theorem dX17_nameOf_125 : decode cX17_nameOf 125 = .ok (.bipush 100, 2) := dk_16 100 (dk_at dksX17_nameOf_5 12 rfl rfl)
theorem dX17_nameOf_127 : decode cX17_nameOf 127 = .ok (.iconst 0, 1) := dk_3 (dk_at dksX17_nameOf_5 14 rfl rfl)
theorem dX17_nameOf_128 : decode cX17_nameOf 128 = .ok (.invokevirtual 269, 3) := dk_182 1 13 (dk_at dksX17_nameOf_5 15 rfl rfl)
theorem dX17_nameOf_131 : decode cX17_nameOf 131 = .ok (.ifCond .eq 7, 3) := dk_153 0 7 (dk_at dksX17_nameOf_5 18 rfl rfl)
theorem dX17_nameOf_134 : decode cX17_nameOf 134 = .ok (.iconst 3, 1) := dk_6 (dk_at dksX17_nameOf_5 21 rfl rfl)
theorem dX17_nameOf_135 : decode cX17_nameOf 135 = .ok (.goto 27, 3) := dk_167 0 27 (dk_at dksX17_nameOf_6 0 rfl rfl)
theorem dX17_nameOf_138 : decode cX17_nameOf 138 = .ok (.aload_n 0, 1) := dk_42 (dk_at dksX17_nameOf_6 3 rfl rfl)
theorem dX17_nameOf_139 : decode cX17_nameOf 139 = .ok (.iload_n 1, 1) := dk_27 (dk_at dksX17_nameOf_6 4 rfl rfl)
theorem dX17_nameOf_140 : decode cX17_nameOf 140 = .ok (.iconst 4, 1) := dk_7 (dk_at dksX17_nameOf_6 5 rfl rfl)
theorem dX17_nameOf_141 : decode cX17_nameOf 141 = .ok (.bipush 115, 2) := dk_16 115 (dk_at dksX17_nameOf_6 6 rfl rfl)
theorem dX17_nameOf_143 : decode cX17_nameOf 143 = .ok (.bipush 97, 2) := dk_16 97 (dk_at dksX17_nameOf_6 8 rfl rfl)
theorem dX17_nameOf_145 : decode cX17_nameOf 145 = .ok (.bipush 109, 2) := dk_16 109 (dk_at dksX17_nameOf_6 10 rfl rfl)
theorem dX17_nameOf_147 : decode cX17_nameOf 147 = .ok (.bipush 101, 2) := dk_16 101 (dk_at dksX17_nameOf_6 12 rfl rfl)
theorem dX17_nameOf_149 : decode cX17_nameOf 149 = .ok (.iconst 0, 1) := dk_3 (dk_at dksX17_nameOf_6 14 rfl rfl)
theorem dX17_nameOf_150 : decode cX17_nameOf 150 = .ok (.invokevirtual 269, 3) := dk_182 1 13 (dk_at dksX17_nameOf_6 15 rfl rfl)
theorem dX17_nameOf_153 : decode cX17_nameOf 153 = .ok (.ifCond .eq 7, 3) := dk_153 0 7 (dk_at dksX17_nameOf_6 18 rfl rfl)
theorem dX17_nameOf_156 : decode cX17_nameOf 156 = .ok (.iconst 4, 1) := dk_7 (dk_at dksX17_nameOf_6 21 rfl rfl)
theorem dX17_nameOf_157 : decode cX17_nameOf 157 = .ok (.goto 5, 3) := dk_167 0 5 (dk_at dksX17_nameOf_7 0 rfl rfl)
theorem dX17_nameOf_160 : decode cX17_nameOf 160 = .ok (.bipush (-4), 2) := dk_16 252 (dk_at dksX17_nameOf_7 3 rfl rfl)
theorem dX17_nameOf_162 : decode cX17_nameOf 162 = .ok (.ireturn, 1) := dk_172 (dk_at dksX17_nameOf_7 5 rfl rfl)
abbrev cX17_isName : ByteArray := prog_24_method_52_code
def yX17_isName : MethodName := ⟨RX17, "isName", "(IIIIIII)Z"⟩
def dkwX17_isName_3 : List UInt8 := [42, 180, 0, 28, 21, 8, 7, 96, 46, 21, 7, 160, 0, 7, 4, 167, 0, 4, 3, 172]
abbrev dktX17_isName_3 : List UInt8 := dkwX17_isName_3 ++ []
def dkwX17_isName_2 : List UInt8 := [21, 5, 160, 0, 40, 42, 180, 0, 28, 21, 8, 6, 96, 46, 21, 6, 160, 0, 26, 28, 8, 161, 0, 17]
abbrev dktX17_isName_2 : List UInt8 := dkwX17_isName_2 ++ dktX17_isName_3
def dkwX17_isName_1 : List UInt8 := [42, 180, 0, 28, 21, 8, 4, 96, 46, 21, 4, 160, 0, 54, 42, 180, 0, 28, 21, 8, 5, 96, 46]
abbrev dktX17_isName_1 : List UInt8 := dkwX17_isName_1 ++ dktX17_isName_2
def dkwX17_isName_0 : List UInt8 := [42, 180, 0, 242, 27, 100, 54, 8, 27, 28, 160, 0, 79, 42, 180, 0, 28, 21, 8, 46, 29, 160, 0, 68]
abbrev dktX17_isName_0 : List UInt8 := dkwX17_isName_0 ++ dktX17_isName_1
theorem dksX17_isName_0 : cX17_isName.data.toList.drop 0 = dktX17_isName_0 := by decide +kernel
theorem dksX17_isName_1 : cX17_isName.data.toList.drop 24 = dktX17_isName_1 := dk_seg dksX17_isName_0 24 rfl rfl
theorem dksX17_isName_2 : cX17_isName.data.toList.drop 47 = dktX17_isName_2 := dk_seg dksX17_isName_1 23 rfl rfl
theorem dksX17_isName_3 : cX17_isName.data.toList.drop 71 = dktX17_isName_3 := dk_seg dksX17_isName_2 24 rfl rfl
theorem dX17_isName_0 : decode cX17_isName 0 = .ok (.aload_n 0, 1) := dk_42 (dk_at dksX17_isName_0 0 rfl rfl)
theorem dX17_isName_1 : decode cX17_isName 1 = .ok (.getfield 242, 3) := dk_180 0 242 (dk_at dksX17_isName_0 1 rfl rfl)
theorem dX17_isName_4 : decode cX17_isName 4 = .ok (.iload_n 1, 1) := dk_27 (dk_at dksX17_isName_0 4 rfl rfl)
theorem dX17_isName_5 : decode cX17_isName 5 = .ok (.isub, 1) := dk_100 (dk_at dksX17_isName_0 5 rfl rfl)
theorem dX17_isName_6 : decode cX17_isName 6 = .ok (.istore 8, 2) := dk_54 8 (dk_at dksX17_isName_0 6 rfl rfl)
theorem dX17_isName_8 : decode cX17_isName 8 = .ok (.iload_n 1, 1) := dk_27 (dk_at dksX17_isName_0 8 rfl rfl)
theorem dX17_isName_9 : decode cX17_isName 9 = .ok (.iload_n 2, 1) := dk_28 (dk_at dksX17_isName_0 9 rfl rfl)
theorem dX17_isName_10 : decode cX17_isName 10 = .ok (.if_icmp .ne 79, 3) := dk_160 0 79 (dk_at dksX17_isName_0 10 rfl rfl)
theorem dX17_isName_13 : decode cX17_isName 13 = .ok (.aload_n 0, 1) := dk_42 (dk_at dksX17_isName_0 13 rfl rfl)
theorem dX17_isName_14 : decode cX17_isName 14 = .ok (.getfield 28, 3) := dk_180 0 28 (dk_at dksX17_isName_0 14 rfl rfl)
theorem dX17_isName_17 : decode cX17_isName 17 = .ok (.iload 8, 2) := dk_21 8 (dk_at dksX17_isName_0 17 rfl rfl)
theorem dX17_isName_19 : decode cX17_isName 19 = .ok (.iaload, 1) := dk_46 (dk_at dksX17_isName_0 19 rfl rfl)
theorem dX17_isName_20 : decode cX17_isName 20 = .ok (.iload_n 3, 1) := dk_29 (dk_at dksX17_isName_0 20 rfl rfl)
theorem dX17_isName_21 : decode cX17_isName 21 = .ok (.if_icmp .ne 68, 3) := dk_160 0 68 (dk_at dksX17_isName_0 21 rfl rfl)
theorem dX17_isName_24 : decode cX17_isName 24 = .ok (.aload_n 0, 1) := dk_42 (dk_at dksX17_isName_1 0 rfl rfl)
theorem dX17_isName_25 : decode cX17_isName 25 = .ok (.getfield 28, 3) := dk_180 0 28 (dk_at dksX17_isName_1 1 rfl rfl)
theorem dX17_isName_28 : decode cX17_isName 28 = .ok (.iload 8, 2) := dk_21 8 (dk_at dksX17_isName_1 4 rfl rfl)
theorem dX17_isName_30 : decode cX17_isName 30 = .ok (.iconst 1, 1) := dk_4 (dk_at dksX17_isName_1 6 rfl rfl)
theorem dX17_isName_31 : decode cX17_isName 31 = .ok (.iadd, 1) := dk_96 (dk_at dksX17_isName_1 7 rfl rfl)
theorem dX17_isName_32 : decode cX17_isName 32 = .ok (.iaload, 1) := dk_46 (dk_at dksX17_isName_1 8 rfl rfl)
theorem dX17_isName_33 : decode cX17_isName 33 = .ok (.iload 4, 2) := dk_21 4 (dk_at dksX17_isName_1 9 rfl rfl)
theorem dX17_isName_35 : decode cX17_isName 35 = .ok (.if_icmp .ne 54, 3) := dk_160 0 54 (dk_at dksX17_isName_1 11 rfl rfl)
theorem dX17_isName_38 : decode cX17_isName 38 = .ok (.aload_n 0, 1) := dk_42 (dk_at dksX17_isName_1 14 rfl rfl)
theorem dX17_isName_39 : decode cX17_isName 39 = .ok (.getfield 28, 3) := dk_180 0 28 (dk_at dksX17_isName_1 15 rfl rfl)
theorem dX17_isName_42 : decode cX17_isName 42 = .ok (.iload 8, 2) := dk_21 8 (dk_at dksX17_isName_1 18 rfl rfl)
theorem dX17_isName_44 : decode cX17_isName 44 = .ok (.iconst 2, 1) := dk_5 (dk_at dksX17_isName_1 20 rfl rfl)
theorem dX17_isName_45 : decode cX17_isName 45 = .ok (.iadd, 1) := dk_96 (dk_at dksX17_isName_1 21 rfl rfl)
theorem dX17_isName_46 : decode cX17_isName 46 = .ok (.iaload, 1) := dk_46 (dk_at dksX17_isName_1 22 rfl rfl)
theorem dX17_isName_47 : decode cX17_isName 47 = .ok (.iload 5, 2) := dk_21 5 (dk_at dksX17_isName_2 0 rfl rfl)
theorem dX17_isName_49 : decode cX17_isName 49 = .ok (.if_icmp .ne 40, 3) := dk_160 0 40 (dk_at dksX17_isName_2 2 rfl rfl)
theorem dX17_isName_52 : decode cX17_isName 52 = .ok (.aload_n 0, 1) := dk_42 (dk_at dksX17_isName_2 5 rfl rfl)
theorem dX17_isName_53 : decode cX17_isName 53 = .ok (.getfield 28, 3) := dk_180 0 28 (dk_at dksX17_isName_2 6 rfl rfl)
theorem dX17_isName_56 : decode cX17_isName 56 = .ok (.iload 8, 2) := dk_21 8 (dk_at dksX17_isName_2 9 rfl rfl)
theorem dX17_isName_58 : decode cX17_isName 58 = .ok (.iconst 3, 1) := dk_6 (dk_at dksX17_isName_2 11 rfl rfl)
theorem dX17_isName_59 : decode cX17_isName 59 = .ok (.iadd, 1) := dk_96 (dk_at dksX17_isName_2 12 rfl rfl)
theorem dX17_isName_60 : decode cX17_isName 60 = .ok (.iaload, 1) := dk_46 (dk_at dksX17_isName_2 13 rfl rfl)
theorem dX17_isName_61 : decode cX17_isName 61 = .ok (.iload 6, 2) := dk_21 6 (dk_at dksX17_isName_2 14 rfl rfl)
theorem dX17_isName_63 : decode cX17_isName 63 = .ok (.if_icmp .ne 26, 3) := dk_160 0 26 (dk_at dksX17_isName_2 16 rfl rfl)
theorem dX17_isName_66 : decode cX17_isName 66 = .ok (.iload_n 2, 1) := dk_28 (dk_at dksX17_isName_2 19 rfl rfl)
theorem dX17_isName_67 : decode cX17_isName 67 = .ok (.iconst 5, 1) := dk_8 (dk_at dksX17_isName_2 20 rfl rfl)
theorem dX17_isName_68 : decode cX17_isName 68 = .ok (.if_icmp .lt 17, 3) := dk_161 0 17 (dk_at dksX17_isName_2 21 rfl rfl)
theorem dX17_isName_71 : decode cX17_isName 71 = .ok (.aload_n 0, 1) := dk_42 (dk_at dksX17_isName_3 0 rfl rfl)
theorem dX17_isName_72 : decode cX17_isName 72 = .ok (.getfield 28, 3) := dk_180 0 28 (dk_at dksX17_isName_3 1 rfl rfl)
theorem dX17_isName_75 : decode cX17_isName 75 = .ok (.iload 8, 2) := dk_21 8 (dk_at dksX17_isName_3 4 rfl rfl)
theorem dX17_isName_77 : decode cX17_isName 77 = .ok (.iconst 4, 1) := dk_7 (dk_at dksX17_isName_3 6 rfl rfl)
theorem dX17_isName_78 : decode cX17_isName 78 = .ok (.iadd, 1) := dk_96 (dk_at dksX17_isName_3 7 rfl rfl)
theorem dX17_isName_79 : decode cX17_isName 79 = .ok (.iaload, 1) := dk_46 (dk_at dksX17_isName_3 8 rfl rfl)
theorem dX17_isName_80 : decode cX17_isName 80 = .ok (.iload 7, 2) := dk_21 7 (dk_at dksX17_isName_3 9 rfl rfl)
theorem dX17_isName_82 : decode cX17_isName 82 = .ok (.if_icmp .ne 7, 3) := dk_160 0 7 (dk_at dksX17_isName_3 11 rfl rfl)
theorem dX17_isName_85 : decode cX17_isName 85 = .ok (.iconst 1, 1) := dk_4 (dk_at dksX17_isName_3 14 rfl rfl)
theorem dX17_isName_86 : decode cX17_isName 86 = .ok (.goto 4, 3) := dk_167 0 4 (dk_at dksX17_isName_3 15 rfl rfl)
theorem dX17_isName_89 : decode cX17_isName 89 = .ok (.iconst 0, 1) := dk_3 (dk_at dksX17_isName_3 18 rfl rfl)
theorem dX17_isName_90 : decode cX17_isName 90 = .ok (.ireturn, 1) := dk_172 (dk_at dksX17_isName_3 19 rfl rfl)
abbrev cX17_readsRing : ByteArray := prog_24_method_55_code
def yX17_readsRing : MethodName := ⟨RX17, "readsRing", "()Z"⟩
def dkwX17_readsRing_8 : List UInt8 := [153, 0, 7, 4, 167, 0, 4, 3, 96, 181, 0, 242, 21, 5, 172]
abbrev dktX17_readsRing_8 : List UInt8 := dkwX17_readsRing_8 ++ []
def dkwX17_readsRing_7 : List UInt8 := [182, 0, 253, 16, 41, 160, 0, 7, 4, 167, 0, 4, 3, 54, 5, 42, 89, 180, 0, 242, 21, 5]
abbrev dktX17_readsRing_7 : List UInt8 := dkwX17_readsRing_7 ++ dktX17_readsRing_8
def dkwX17_readsRing_6 : List UInt8 := [153, 0, 7, 4, 167, 0, 4, 3, 96, 181, 0, 242, 167, 255, 142, 42, 180, 0, 31, 29, 28, 79, 42]
abbrev dktX17_readsRing_6 : List UInt8 := dkwX17_readsRing_6 ++ dktX17_readsRing_7
def dkwX17_readsRing_5 : List UInt8 := [62, 42, 182, 0, 253, 16, 44, 160, 0, 7, 4, 167, 0, 4, 3, 54, 4, 42, 89, 180, 0, 242, 21, 4]
abbrev dktX17_readsRing_5 : List UInt8 := dkwX17_readsRing_5 ++ dktX17_readsRing_6
def dkwX17_readsRing_4 : List UInt8 := [156, 0, 8, 21, 6, 167, 0, 4, 28, 61, 29, 155, 0, 11, 42, 180, 0, 31, 29, 21, 6, 79, 21, 6]
abbrev dktX17_readsRing_4 : List UInt8 := dkwX17_readsRing_4 ++ dktX17_readsRing_5
def dkwX17_readsRing_3 : List UInt8 := [21, 6, 184, 0, 118, 153, 0, 11, 42, 21, 5, 181, 0, 242, 3, 172, 27, 4, 21, 6, 120, 128, 60, 28]
abbrev dktX17_readsRing_3 : List UInt8 := dkwX17_readsRing_3 ++ dktX17_readsRing_4
def dkwX17_readsRing_2 : List UInt8 := [182, 0, 253, 87, 42, 180, 0, 242, 54, 5, 42, 16, 23, 182, 1, 20, 54, 6, 21, 6, 155, 0, 12, 27]
abbrev dktX17_readsRing_2 : List UInt8 := dkwX17_readsRing_2 ++ dktX17_readsRing_3
def dkwX17_readsRing_1 : List UInt8 := [180, 0, 242, 4, 96, 181, 0, 242, 3, 60, 2, 61, 2, 62, 4, 54, 4, 21, 4, 153, 0, 115, 42]
abbrev dktX17_readsRing_1 : List UInt8 := dkwX17_readsRing_1 ++ dktX17_readsRing_2
def dkwX17_readsRing_0 : List UInt8 := [3, 60, 27, 16, 24, 162, 0, 16, 42, 180, 0, 31, 27, 27, 79, 132, 1, 1, 167, 255, 240, 42, 89]
abbrev dktX17_readsRing_0 : List UInt8 := dkwX17_readsRing_0 ++ dktX17_readsRing_1
theorem dksX17_readsRing_0 : cX17_readsRing.data.toList.drop 0 = dktX17_readsRing_0 := by decide +kernel
theorem dksX17_readsRing_1 : cX17_readsRing.data.toList.drop 23 = dktX17_readsRing_1 := dk_seg dksX17_readsRing_0 23 rfl rfl
theorem dksX17_readsRing_2 : cX17_readsRing.data.toList.drop 46 = dktX17_readsRing_2 := dk_seg dksX17_readsRing_1 23 rfl rfl
theorem dksX17_readsRing_3 : cX17_readsRing.data.toList.drop 70 = dktX17_readsRing_3 := dk_seg dksX17_readsRing_2 24 rfl rfl
theorem dksX17_readsRing_4 : cX17_readsRing.data.toList.drop 94 = dktX17_readsRing_4 := dk_seg dksX17_readsRing_3 24 rfl rfl
theorem dksX17_readsRing_5 : cX17_readsRing.data.toList.drop 118 = dktX17_readsRing_5 := dk_seg dksX17_readsRing_4 24 rfl rfl
theorem dksX17_readsRing_6 : cX17_readsRing.data.toList.drop 142 = dktX17_readsRing_6 := dk_seg dksX17_readsRing_5 24 rfl rfl
theorem dksX17_readsRing_7 : cX17_readsRing.data.toList.drop 165 = dktX17_readsRing_7 := dk_seg dksX17_readsRing_6 23 rfl rfl
theorem dksX17_readsRing_8 : cX17_readsRing.data.toList.drop 187 = dktX17_readsRing_8 := dk_seg dksX17_readsRing_7 22 rfl rfl
theorem dX17_readsRing_0 : decode cX17_readsRing 0 = .ok (.iconst 0, 1) := dk_3 (dk_at dksX17_readsRing_0 0 rfl rfl)
theorem dX17_readsRing_1 : decode cX17_readsRing 1 = .ok (.istore_n 1, 1) := dk_60 (dk_at dksX17_readsRing_0 1 rfl rfl)
theorem dX17_readsRing_2 : decode cX17_readsRing 2 = .ok (.iload_n 1, 1) := dk_27 (dk_at dksX17_readsRing_0 2 rfl rfl)
theorem dX17_readsRing_3 : decode cX17_readsRing 3 = .ok (.bipush 24, 2) := dk_16 24 (dk_at dksX17_readsRing_0 3 rfl rfl)
theorem dX17_readsRing_5 : decode cX17_readsRing 5 = .ok (.if_icmp .ge 16, 3) := dk_162 0 16 (dk_at dksX17_readsRing_0 5 rfl rfl)
theorem dX17_readsRing_8 : decode cX17_readsRing 8 = .ok (.aload_n 0, 1) := dk_42 (dk_at dksX17_readsRing_0 8 rfl rfl)
theorem dX17_readsRing_9 : decode cX17_readsRing 9 = .ok (.getfield 31, 3) := dk_180 0 31 (dk_at dksX17_readsRing_0 9 rfl rfl)
theorem dX17_readsRing_12 : decode cX17_readsRing 12 = .ok (.iload_n 1, 1) := dk_27 (dk_at dksX17_readsRing_0 12 rfl rfl)
theorem dX17_readsRing_13 : decode cX17_readsRing 13 = .ok (.iload_n 1, 1) := dk_27 (dk_at dksX17_readsRing_0 13 rfl rfl)
theorem dX17_readsRing_14 : decode cX17_readsRing 14 = .ok (.iastore, 1) := dk_79 (dk_at dksX17_readsRing_0 14 rfl rfl)
theorem dX17_readsRing_15 : decode cX17_readsRing 15 = .ok (.iinc 1 1, 3) := dk_132 1 1 (dk_at dksX17_readsRing_0 15 rfl rfl)
theorem dX17_readsRing_18 : decode cX17_readsRing 18 = .ok (.goto (-16), 3) := dk_167 255 240 (dk_at dksX17_readsRing_0 18 rfl rfl)
theorem dX17_readsRing_21 : decode cX17_readsRing 21 = .ok (.aload_n 0, 1) := dk_42 (dk_at dksX17_readsRing_0 21 rfl rfl)
theorem dX17_readsRing_22 : decode cX17_readsRing 22 = .ok (.dup, 1) := dk_89 (dk_at dksX17_readsRing_0 22 rfl rfl)
theorem dX17_readsRing_23 : decode cX17_readsRing 23 = .ok (.getfield 242, 3) := dk_180 0 242 (dk_at dksX17_readsRing_1 0 rfl rfl)
theorem dX17_readsRing_26 : decode cX17_readsRing 26 = .ok (.iconst 1, 1) := dk_4 (dk_at dksX17_readsRing_1 3 rfl rfl)
theorem dX17_readsRing_27 : decode cX17_readsRing 27 = .ok (.iadd, 1) := dk_96 (dk_at dksX17_readsRing_1 4 rfl rfl)
theorem dX17_readsRing_28 : decode cX17_readsRing 28 = .ok (.putfield 242, 3) := dk_181 0 242 (dk_at dksX17_readsRing_1 5 rfl rfl)
theorem dX17_readsRing_31 : decode cX17_readsRing 31 = .ok (.iconst 0, 1) := dk_3 (dk_at dksX17_readsRing_1 8 rfl rfl)
theorem dX17_readsRing_32 : decode cX17_readsRing 32 = .ok (.istore_n 1, 1) := dk_60 (dk_at dksX17_readsRing_1 9 rfl rfl)
theorem dX17_readsRing_33 : decode cX17_readsRing 33 = .ok (.iconst (-1), 1) := dk_2 (dk_at dksX17_readsRing_1 10 rfl rfl)
theorem dX17_readsRing_34 : decode cX17_readsRing 34 = .ok (.istore_n 2, 1) := dk_61 (dk_at dksX17_readsRing_1 11 rfl rfl)
theorem dX17_readsRing_35 : decode cX17_readsRing 35 = .ok (.iconst (-1), 1) := dk_2 (dk_at dksX17_readsRing_1 12 rfl rfl)
theorem dX17_readsRing_36 : decode cX17_readsRing 36 = .ok (.istore_n 3, 1) := dk_62 (dk_at dksX17_readsRing_1 13 rfl rfl)
theorem dX17_readsRing_37 : decode cX17_readsRing 37 = .ok (.iconst 1, 1) := dk_4 (dk_at dksX17_readsRing_1 14 rfl rfl)
theorem dX17_readsRing_38 : decode cX17_readsRing 38 = .ok (.istore 4, 2) := dk_54 4 (dk_at dksX17_readsRing_1 15 rfl rfl)
theorem dX17_readsRing_40 : decode cX17_readsRing 40 = .ok (.iload 4, 2) := dk_21 4 (dk_at dksX17_readsRing_1 17 rfl rfl)
theorem dX17_readsRing_42 : decode cX17_readsRing 42 = .ok (.ifCond .eq 115, 3) := dk_153 0 115 (dk_at dksX17_readsRing_1 19 rfl rfl)
theorem dX17_readsRing_45 : decode cX17_readsRing 45 = .ok (.aload_n 0, 1) := dk_42 (dk_at dksX17_readsRing_1 22 rfl rfl)
theorem dX17_readsRing_46 : decode cX17_readsRing 46 = .ok (.invokevirtual 253, 3) := dk_182 0 253 (dk_at dksX17_readsRing_2 0 rfl rfl)
theorem dX17_readsRing_49 : decode cX17_readsRing 49 = .ok (.pop, 1) := dk_87 (dk_at dksX17_readsRing_2 3 rfl rfl)
theorem dX17_readsRing_50 : decode cX17_readsRing 50 = .ok (.aload_n 0, 1) := dk_42 (dk_at dksX17_readsRing_2 4 rfl rfl)
theorem dX17_readsRing_51 : decode cX17_readsRing 51 = .ok (.getfield 242, 3) := dk_180 0 242 (dk_at dksX17_readsRing_2 5 rfl rfl)
theorem dX17_readsRing_54 : decode cX17_readsRing 54 = .ok (.istore 5, 2) := dk_54 5 (dk_at dksX17_readsRing_2 8 rfl rfl)
theorem dX17_readsRing_56 : decode cX17_readsRing 56 = .ok (.aload_n 0, 1) := dk_42 (dk_at dksX17_readsRing_2 10 rfl rfl)
theorem dX17_readsRing_57 : decode cX17_readsRing 57 = .ok (.bipush 23, 2) := dk_16 23 (dk_at dksX17_readsRing_2 11 rfl rfl)
theorem dX17_readsRing_59 : decode cX17_readsRing 59 = .ok (.invokevirtual 276, 3) := dk_182 1 20 (dk_at dksX17_readsRing_2 13 rfl rfl)
theorem dX17_readsRing_62 : decode cX17_readsRing 62 = .ok (.istore 6, 2) := dk_54 6 (dk_at dksX17_readsRing_2 16 rfl rfl)
theorem dX17_readsRing_64 : decode cX17_readsRing 64 = .ok (.iload 6, 2) := dk_21 6 (dk_at dksX17_readsRing_2 18 rfl rfl)
theorem dX17_readsRing_66 : decode cX17_readsRing 66 = .ok (.ifCond .lt 12, 3) := dk_155 0 12 (dk_at dksX17_readsRing_2 20 rfl rfl)
theorem dX17_readsRing_69 : decode cX17_readsRing 69 = .ok (.iload_n 1, 1) := dk_27 (dk_at dksX17_readsRing_2 23 rfl rfl)
theorem dX17_readsRing_70 : decode cX17_readsRing 70 = .ok (.iload 6, 2) := dk_21 6 (dk_at dksX17_readsRing_3 0 rfl rfl)
theorem dX17_readsRing_72 : decode cX17_readsRing 72 = .ok (.invokestatic 118, 3) := dk_184 0 118 (dk_at dksX17_readsRing_3 2 rfl rfl)
theorem dX17_readsRing_75 : decode cX17_readsRing 75 = .ok (.ifCond .eq 11, 3) := dk_153 0 11 (dk_at dksX17_readsRing_3 5 rfl rfl)
theorem dX17_readsRing_78 : decode cX17_readsRing 78 = .ok (.aload_n 0, 1) := dk_42 (dk_at dksX17_readsRing_3 8 rfl rfl)
theorem dX17_readsRing_79 : decode cX17_readsRing 79 = .ok (.iload 5, 2) := dk_21 5 (dk_at dksX17_readsRing_3 9 rfl rfl)
theorem dX17_readsRing_81 : decode cX17_readsRing 81 = .ok (.putfield 242, 3) := dk_181 0 242 (dk_at dksX17_readsRing_3 11 rfl rfl)
theorem dX17_readsRing_84 : decode cX17_readsRing 84 = .ok (.iconst 0, 1) := dk_3 (dk_at dksX17_readsRing_3 14 rfl rfl)
theorem dX17_readsRing_85 : decode cX17_readsRing 85 = .ok (.ireturn, 1) := dk_172 (dk_at dksX17_readsRing_3 15 rfl rfl)
theorem dX17_readsRing_86 : decode cX17_readsRing 86 = .ok (.iload_n 1, 1) := dk_27 (dk_at dksX17_readsRing_3 16 rfl rfl)
theorem dX17_readsRing_87 : decode cX17_readsRing 87 = .ok (.iconst 1, 1) := dk_4 (dk_at dksX17_readsRing_3 17 rfl rfl)
theorem dX17_readsRing_88 : decode cX17_readsRing 88 = .ok (.iload 6, 2) := dk_21 6 (dk_at dksX17_readsRing_3 18 rfl rfl)
theorem dX17_readsRing_90 : decode cX17_readsRing 90 = .ok (.ishl, 1) := dk_120 (dk_at dksX17_readsRing_3 20 rfl rfl)
theorem dX17_readsRing_91 : decode cX17_readsRing 91 = .ok (.ior, 1) := dk_128 (dk_at dksX17_readsRing_3 21 rfl rfl)
theorem dX17_readsRing_92 : decode cX17_readsRing 92 = .ok (.istore_n 1, 1) := dk_60 (dk_at dksX17_readsRing_3 22 rfl rfl)
theorem dX17_readsRing_93 : decode cX17_readsRing 93 = .ok (.iload_n 2, 1) := dk_28 (dk_at dksX17_readsRing_3 23 rfl rfl)
theorem dX17_readsRing_94 : decode cX17_readsRing 94 = .ok (.ifCond .ge 8, 3) := dk_156 0 8 (dk_at dksX17_readsRing_4 0 rfl rfl)
theorem dX17_readsRing_97 : decode cX17_readsRing 97 = .ok (.iload 6, 2) := dk_21 6 (dk_at dksX17_readsRing_4 3 rfl rfl)
theorem dX17_readsRing_99 : decode cX17_readsRing 99 = .ok (.goto 4, 3) := dk_167 0 4 (dk_at dksX17_readsRing_4 5 rfl rfl)
theorem dX17_readsRing_102 : decode cX17_readsRing 102 = .ok (.iload_n 2, 1) := dk_28 (dk_at dksX17_readsRing_4 8 rfl rfl)
theorem dX17_readsRing_103 : decode cX17_readsRing 103 = .ok (.istore_n 2, 1) := dk_61 (dk_at dksX17_readsRing_4 9 rfl rfl)
theorem dX17_readsRing_104 : decode cX17_readsRing 104 = .ok (.iload_n 3, 1) := dk_29 (dk_at dksX17_readsRing_4 10 rfl rfl)
theorem dX17_readsRing_105 : decode cX17_readsRing 105 = .ok (.ifCond .lt 11, 3) := dk_155 0 11 (dk_at dksX17_readsRing_4 11 rfl rfl)
theorem dX17_readsRing_108 : decode cX17_readsRing 108 = .ok (.aload_n 0, 1) := dk_42 (dk_at dksX17_readsRing_4 14 rfl rfl)
theorem dX17_readsRing_109 : decode cX17_readsRing 109 = .ok (.getfield 31, 3) := dk_180 0 31 (dk_at dksX17_readsRing_4 15 rfl rfl)
theorem dX17_readsRing_112 : decode cX17_readsRing 112 = .ok (.iload_n 3, 1) := dk_29 (dk_at dksX17_readsRing_4 18 rfl rfl)
theorem dX17_readsRing_113 : decode cX17_readsRing 113 = .ok (.iload 6, 2) := dk_21 6 (dk_at dksX17_readsRing_4 19 rfl rfl)
theorem dX17_readsRing_115 : decode cX17_readsRing 115 = .ok (.iastore, 1) := dk_79 (dk_at dksX17_readsRing_4 21 rfl rfl)
theorem dX17_readsRing_116 : decode cX17_readsRing 116 = .ok (.iload 6, 2) := dk_21 6 (dk_at dksX17_readsRing_4 22 rfl rfl)
theorem dX17_readsRing_118 : decode cX17_readsRing 118 = .ok (.istore_n 3, 1) := dk_62 (dk_at dksX17_readsRing_5 0 rfl rfl)
theorem dX17_readsRing_119 : decode cX17_readsRing 119 = .ok (.aload_n 0, 1) := dk_42 (dk_at dksX17_readsRing_5 1 rfl rfl)
theorem dX17_readsRing_120 : decode cX17_readsRing 120 = .ok (.invokevirtual 253, 3) := dk_182 0 253 (dk_at dksX17_readsRing_5 2 rfl rfl)
theorem dX17_readsRing_123 : decode cX17_readsRing 123 = .ok (.bipush 44, 2) := dk_16 44 (dk_at dksX17_readsRing_5 5 rfl rfl)
theorem dX17_readsRing_125 : decode cX17_readsRing 125 = .ok (.if_icmp .ne 7, 3) := dk_160 0 7 (dk_at dksX17_readsRing_5 7 rfl rfl)
theorem dX17_readsRing_128 : decode cX17_readsRing 128 = .ok (.iconst 1, 1) := dk_4 (dk_at dksX17_readsRing_5 10 rfl rfl)
theorem dX17_readsRing_129 : decode cX17_readsRing 129 = .ok (.goto 4, 3) := dk_167 0 4 (dk_at dksX17_readsRing_5 11 rfl rfl)
theorem dX17_readsRing_132 : decode cX17_readsRing 132 = .ok (.iconst 0, 1) := dk_3 (dk_at dksX17_readsRing_5 14 rfl rfl)
theorem dX17_readsRing_133 : decode cX17_readsRing 133 = .ok (.istore 4, 2) := dk_54 4 (dk_at dksX17_readsRing_5 15 rfl rfl)
theorem dX17_readsRing_135 : decode cX17_readsRing 135 = .ok (.aload_n 0, 1) := dk_42 (dk_at dksX17_readsRing_5 17 rfl rfl)
theorem dX17_readsRing_136 : decode cX17_readsRing 136 = .ok (.dup, 1) := dk_89 (dk_at dksX17_readsRing_5 18 rfl rfl)
theorem dX17_readsRing_137 : decode cX17_readsRing 137 = .ok (.getfield 242, 3) := dk_180 0 242 (dk_at dksX17_readsRing_5 19 rfl rfl)
theorem dX17_readsRing_140 : decode cX17_readsRing 140 = .ok (.iload 4, 2) := dk_21 4 (dk_at dksX17_readsRing_5 22 rfl rfl)
theorem dX17_readsRing_142 : decode cX17_readsRing 142 = .ok (.ifCond .eq 7, 3) := dk_153 0 7 (dk_at dksX17_readsRing_6 0 rfl rfl)
theorem dX17_readsRing_145 : decode cX17_readsRing 145 = .ok (.iconst 1, 1) := dk_4 (dk_at dksX17_readsRing_6 3 rfl rfl)
theorem dX17_readsRing_146 : decode cX17_readsRing 146 = .ok (.goto 4, 3) := dk_167 0 4 (dk_at dksX17_readsRing_6 4 rfl rfl)
theorem dX17_readsRing_149 : decode cX17_readsRing 149 = .ok (.iconst 0, 1) := dk_3 (dk_at dksX17_readsRing_6 7 rfl rfl)
theorem dX17_readsRing_150 : decode cX17_readsRing 150 = .ok (.iadd, 1) := dk_96 (dk_at dksX17_readsRing_6 8 rfl rfl)
theorem dX17_readsRing_151 : decode cX17_readsRing 151 = .ok (.putfield 242, 3) := dk_181 0 242 (dk_at dksX17_readsRing_6 9 rfl rfl)
theorem dX17_readsRing_154 : decode cX17_readsRing 154 = .ok (.goto (-114), 3) := dk_167 255 142 (dk_at dksX17_readsRing_6 12 rfl rfl)
theorem dX17_readsRing_157 : decode cX17_readsRing 157 = .ok (.aload_n 0, 1) := dk_42 (dk_at dksX17_readsRing_6 15 rfl rfl)
theorem dX17_readsRing_158 : decode cX17_readsRing 158 = .ok (.getfield 31, 3) := dk_180 0 31 (dk_at dksX17_readsRing_6 16 rfl rfl)
theorem dX17_readsRing_161 : decode cX17_readsRing 161 = .ok (.iload_n 3, 1) := dk_29 (dk_at dksX17_readsRing_6 19 rfl rfl)
theorem dX17_readsRing_162 : decode cX17_readsRing 162 = .ok (.iload_n 2, 1) := dk_28 (dk_at dksX17_readsRing_6 20 rfl rfl)
theorem dX17_readsRing_163 : decode cX17_readsRing 163 = .ok (.iastore, 1) := dk_79 (dk_at dksX17_readsRing_6 21 rfl rfl)
theorem dX17_readsRing_164 : decode cX17_readsRing 164 = .ok (.aload_n 0, 1) := dk_42 (dk_at dksX17_readsRing_6 22 rfl rfl)
theorem dX17_readsRing_165 : decode cX17_readsRing 165 = .ok (.invokevirtual 253, 3) := dk_182 0 253 (dk_at dksX17_readsRing_7 0 rfl rfl)
theorem dX17_readsRing_168 : decode cX17_readsRing 168 = .ok (.bipush 41, 2) := dk_16 41 (dk_at dksX17_readsRing_7 3 rfl rfl)
theorem dX17_readsRing_170 : decode cX17_readsRing 170 = .ok (.if_icmp .ne 7, 3) := dk_160 0 7 (dk_at dksX17_readsRing_7 5 rfl rfl)
theorem dX17_readsRing_173 : decode cX17_readsRing 173 = .ok (.iconst 1, 1) := dk_4 (dk_at dksX17_readsRing_7 8 rfl rfl)
theorem dX17_readsRing_174 : decode cX17_readsRing 174 = .ok (.goto 4, 3) := dk_167 0 4 (dk_at dksX17_readsRing_7 9 rfl rfl)
theorem dX17_readsRing_177 : decode cX17_readsRing 177 = .ok (.iconst 0, 1) := dk_3 (dk_at dksX17_readsRing_7 12 rfl rfl)
theorem dX17_readsRing_178 : decode cX17_readsRing 178 = .ok (.istore 5, 2) := dk_54 5 (dk_at dksX17_readsRing_7 13 rfl rfl)
theorem dX17_readsRing_180 : decode cX17_readsRing 180 = .ok (.aload_n 0, 1) := dk_42 (dk_at dksX17_readsRing_7 15 rfl rfl)
theorem dX17_readsRing_181 : decode cX17_readsRing 181 = .ok (.dup, 1) := dk_89 (dk_at dksX17_readsRing_7 16 rfl rfl)
theorem dX17_readsRing_182 : decode cX17_readsRing 182 = .ok (.getfield 242, 3) := dk_180 0 242 (dk_at dksX17_readsRing_7 17 rfl rfl)
theorem dX17_readsRing_185 : decode cX17_readsRing 185 = .ok (.iload 5, 2) := dk_21 5 (dk_at dksX17_readsRing_7 20 rfl rfl)
theorem dX17_readsRing_187 : decode cX17_readsRing 187 = .ok (.ifCond .eq 7, 3) := dk_153 0 7 (dk_at dksX17_readsRing_8 0 rfl rfl)
theorem dX17_readsRing_190 : decode cX17_readsRing 190 = .ok (.iconst 1, 1) := dk_4 (dk_at dksX17_readsRing_8 3 rfl rfl)
theorem dX17_readsRing_191 : decode cX17_readsRing 191 = .ok (.goto 4, 3) := dk_167 0 4 (dk_at dksX17_readsRing_8 4 rfl rfl)
theorem dX17_readsRing_194 : decode cX17_readsRing 194 = .ok (.iconst 0, 1) := dk_3 (dk_at dksX17_readsRing_8 7 rfl rfl)
theorem dX17_readsRing_195 : decode cX17_readsRing 195 = .ok (.iadd, 1) := dk_96 (dk_at dksX17_readsRing_8 8 rfl rfl)
theorem dX17_readsRing_196 : decode cX17_readsRing 196 = .ok (.putfield 242, 3) := dk_181 0 242 (dk_at dksX17_readsRing_8 9 rfl rfl)
theorem dX17_readsRing_199 : decode cX17_readsRing 199 = .ok (.iload 5, 2) := dk_21 5 (dk_at dksX17_readsRing_8 12 rfl rfl)
theorem dX17_readsRing_201 : decode cX17_readsRing 201 = .ok (.ireturn, 1) := dk_172 (dk_at dksX17_readsRing_8 14 rfl rfl)
abbrev cX17_number : ByteArray := prog_24_method_51_code
def yX17_number : MethodName := ⟨RX17, "number", "(I)I"⟩
def dkwX17_number_3 : List UInt8 := [153, 0, 8, 29, 27, 164, 0, 15, 42, 89, 180, 0, 242, 28, 100, 181, 0, 242, 2, 172, 29, 172]
abbrev dktX17_number_3 : List UInt8 := dkwX17_number_3 ++ []
def dkwX17_number_2 : List UInt8 := [180, 0, 28, 42, 180, 0, 242, 4, 100, 46, 96, 17, 2, 16, 100, 167, 0, 5, 16, 100, 62, 28]
abbrev dktX17_number_2 : List UInt8 := dkwX17_number_2 ++ dktX17_number_3
def dkwX17_number_1 : List UInt8 := [100, 167, 0, 43, 28, 5, 160, 0, 36, 16, 10, 42, 180, 0, 28, 42, 180, 0, 242, 5, 100, 46, 104, 42]
abbrev dktX17_number_1 : List UInt8 := dkwX17_number_1 ++ dktX17_number_2
def dkwX17_number_0 : List UInt8 := [42, 4, 182, 1, 7, 61, 28, 4, 160, 0, 20, 42, 180, 0, 28, 42, 180, 0, 242, 4, 100, 46, 16, 48]
abbrev dktX17_number_0 : List UInt8 := dkwX17_number_0 ++ dktX17_number_1
theorem dksX17_number_0 : cX17_number.data.toList.drop 0 = dktX17_number_0 := by decide +kernel
theorem dksX17_number_1 : cX17_number.data.toList.drop 24 = dktX17_number_1 := dk_seg dksX17_number_0 24 rfl rfl
theorem dksX17_number_2 : cX17_number.data.toList.drop 48 = dktX17_number_2 := dk_seg dksX17_number_1 24 rfl rfl
theorem dksX17_number_3 : cX17_number.data.toList.drop 70 = dktX17_number_3 := dk_seg dksX17_number_2 22 rfl rfl
theorem dX17_number_0 : decode cX17_number 0 = .ok (.aload_n 0, 1) := dk_42 (dk_at dksX17_number_0 0 rfl rfl)
theorem dX17_number_1 : decode cX17_number 1 = .ok (.iconst 1, 1) := dk_4 (dk_at dksX17_number_0 1 rfl rfl)
theorem dX17_number_2 : decode cX17_number 2 = .ok (.invokevirtual 263, 3) := dk_182 1 7 (dk_at dksX17_number_0 2 rfl rfl)
theorem dX17_number_5 : decode cX17_number 5 = .ok (.istore_n 2, 1) := dk_61 (dk_at dksX17_number_0 5 rfl rfl)
theorem dX17_number_6 : decode cX17_number 6 = .ok (.iload_n 2, 1) := dk_28 (dk_at dksX17_number_0 6 rfl rfl)
theorem dX17_number_7 : decode cX17_number 7 = .ok (.iconst 1, 1) := dk_4 (dk_at dksX17_number_0 7 rfl rfl)
theorem dX17_number_8 : decode cX17_number 8 = .ok (.if_icmp .ne 20, 3) := dk_160 0 20 (dk_at dksX17_number_0 8 rfl rfl)
theorem dX17_number_11 : decode cX17_number 11 = .ok (.aload_n 0, 1) := dk_42 (dk_at dksX17_number_0 11 rfl rfl)
theorem dX17_number_12 : decode cX17_number 12 = .ok (.getfield 28, 3) := dk_180 0 28 (dk_at dksX17_number_0 12 rfl rfl)
theorem dX17_number_15 : decode cX17_number 15 = .ok (.aload_n 0, 1) := dk_42 (dk_at dksX17_number_0 15 rfl rfl)
theorem dX17_number_16 : decode cX17_number 16 = .ok (.getfield 242, 3) := dk_180 0 242 (dk_at dksX17_number_0 16 rfl rfl)
theorem dX17_number_19 : decode cX17_number 19 = .ok (.iconst 1, 1) := dk_4 (dk_at dksX17_number_0 19 rfl rfl)
theorem dX17_number_20 : decode cX17_number 20 = .ok (.isub, 1) := dk_100 (dk_at dksX17_number_0 20 rfl rfl)
theorem dX17_number_21 : decode cX17_number 21 = .ok (.iaload, 1) := dk_46 (dk_at dksX17_number_0 21 rfl rfl)
theorem dX17_number_22 : decode cX17_number 22 = .ok (.bipush 48, 2) := dk_16 48 (dk_at dksX17_number_0 22 rfl rfl)
theorem dX17_number_24 : decode cX17_number 24 = .ok (.isub, 1) := dk_100 (dk_at dksX17_number_1 0 rfl rfl)
theorem dX17_number_25 : decode cX17_number 25 = .ok (.goto 43, 3) := dk_167 0 43 (dk_at dksX17_number_1 1 rfl rfl)
theorem dX17_number_28 : decode cX17_number 28 = .ok (.iload_n 2, 1) := dk_28 (dk_at dksX17_number_1 4 rfl rfl)
theorem dX17_number_29 : decode cX17_number 29 = .ok (.iconst 2, 1) := dk_5 (dk_at dksX17_number_1 5 rfl rfl)
theorem dX17_number_30 : decode cX17_number 30 = .ok (.if_icmp .ne 36, 3) := dk_160 0 36 (dk_at dksX17_number_1 6 rfl rfl)
theorem dX17_number_33 : decode cX17_number 33 = .ok (.bipush 10, 2) := dk_16 10 (dk_at dksX17_number_1 9 rfl rfl)
theorem dX17_number_35 : decode cX17_number 35 = .ok (.aload_n 0, 1) := dk_42 (dk_at dksX17_number_1 11 rfl rfl)
theorem dX17_number_36 : decode cX17_number 36 = .ok (.getfield 28, 3) := dk_180 0 28 (dk_at dksX17_number_1 12 rfl rfl)
theorem dX17_number_39 : decode cX17_number 39 = .ok (.aload_n 0, 1) := dk_42 (dk_at dksX17_number_1 15 rfl rfl)
theorem dX17_number_40 : decode cX17_number 40 = .ok (.getfield 242, 3) := dk_180 0 242 (dk_at dksX17_number_1 16 rfl rfl)
theorem dX17_number_43 : decode cX17_number 43 = .ok (.iconst 2, 1) := dk_5 (dk_at dksX17_number_1 19 rfl rfl)
theorem dX17_number_44 : decode cX17_number 44 = .ok (.isub, 1) := dk_100 (dk_at dksX17_number_1 20 rfl rfl)
theorem dX17_number_45 : decode cX17_number 45 = .ok (.iaload, 1) := dk_46 (dk_at dksX17_number_1 21 rfl rfl)
theorem dX17_number_46 : decode cX17_number 46 = .ok (.imul, 1) := dk_104 (dk_at dksX17_number_1 22 rfl rfl)
theorem dX17_number_47 : decode cX17_number 47 = .ok (.aload_n 0, 1) := dk_42 (dk_at dksX17_number_1 23 rfl rfl)
theorem dX17_number_48 : decode cX17_number 48 = .ok (.getfield 28, 3) := dk_180 0 28 (dk_at dksX17_number_2 0 rfl rfl)
theorem dX17_number_51 : decode cX17_number 51 = .ok (.aload_n 0, 1) := dk_42 (dk_at dksX17_number_2 3 rfl rfl)
theorem dX17_number_52 : decode cX17_number 52 = .ok (.getfield 242, 3) := dk_180 0 242 (dk_at dksX17_number_2 4 rfl rfl)
theorem dX17_number_55 : decode cX17_number 55 = .ok (.iconst 1, 1) := dk_4 (dk_at dksX17_number_2 7 rfl rfl)
theorem dX17_number_56 : decode cX17_number 56 = .ok (.isub, 1) := dk_100 (dk_at dksX17_number_2 8 rfl rfl)
theorem dX17_number_57 : decode cX17_number 57 = .ok (.iaload, 1) := dk_46 (dk_at dksX17_number_2 9 rfl rfl)
theorem dX17_number_58 : decode cX17_number 58 = .ok (.iadd, 1) := dk_96 (dk_at dksX17_number_2 10 rfl rfl)
theorem dX17_number_59 : decode cX17_number 59 = .ok (.sipush 528, 3) := dk_17 2 16 (dk_at dksX17_number_2 11 rfl rfl)
theorem dX17_number_62 : decode cX17_number 62 = .ok (.isub, 1) := dk_100 (dk_at dksX17_number_2 14 rfl rfl)
theorem dX17_number_63 : decode cX17_number 63 = .ok (.goto 5, 3) := dk_167 0 5 (dk_at dksX17_number_2 15 rfl rfl)
theorem dX17_number_66 : decode cX17_number 66 = .ok (.bipush 100, 2) := dk_16 100 (dk_at dksX17_number_2 18 rfl rfl)
theorem dX17_number_68 : decode cX17_number 68 = .ok (.istore_n 3, 1) := dk_62 (dk_at dksX17_number_2 20 rfl rfl)
theorem dX17_number_69 : decode cX17_number 69 = .ok (.iload_n 2, 1) := dk_28 (dk_at dksX17_number_2 21 rfl rfl)
theorem dX17_number_70 : decode cX17_number 70 = .ok (.ifCond .eq 8, 3) := dk_153 0 8 (dk_at dksX17_number_3 0 rfl rfl)
theorem dX17_number_73 : decode cX17_number 73 = .ok (.iload_n 3, 1) := dk_29 (dk_at dksX17_number_3 3 rfl rfl)
theorem dX17_number_74 : decode cX17_number 74 = .ok (.iload_n 1, 1) := dk_27 (dk_at dksX17_number_3 4 rfl rfl)
theorem dX17_number_75 : decode cX17_number 75 = .ok (.if_icmp .le 15, 3) := dk_164 0 15 (dk_at dksX17_number_3 5 rfl rfl)
theorem dX17_number_78 : decode cX17_number 78 = .ok (.aload_n 0, 1) := dk_42 (dk_at dksX17_number_3 8 rfl rfl)
theorem dX17_number_79 : decode cX17_number 79 = .ok (.dup, 1) := dk_89 (dk_at dksX17_number_3 9 rfl rfl)
theorem dX17_number_80 : decode cX17_number 80 = .ok (.getfield 242, 3) := dk_180 0 242 (dk_at dksX17_number_3 10 rfl rfl)
theorem dX17_number_83 : decode cX17_number 83 = .ok (.iload_n 2, 1) := dk_28 (dk_at dksX17_number_3 13 rfl rfl)
theorem dX17_number_84 : decode cX17_number 84 = .ok (.isub, 1) := dk_100 (dk_at dksX17_number_3 14 rfl rfl)
theorem dX17_number_85 : decode cX17_number 85 = .ok (.putfield 242, 3) := dk_181 0 242 (dk_at dksX17_number_3 15 rfl rfl)
theorem dX17_number_88 : decode cX17_number 88 = .ok (.iconst (-1), 1) := dk_2 (dk_at dksX17_number_3 18 rfl rfl)
theorem dX17_number_89 : decode cX17_number 89 = .ok (.ireturn, 1) := dk_172 (dk_at dksX17_number_3 19 rfl rfl)
theorem dX17_number_90 : decode cX17_number 90 = .ok (.iload_n 3, 1) := dk_29 (dk_at dksX17_number_3 20 rfl rfl)
theorem dX17_number_91 : decode cX17_number 91 = .ok (.ireturn, 1) := dk_172 (dk_at dksX17_number_3 21 rfl rfl)
abbrev cX17_readsOften : ByteArray := prog_24_method_57_code
def yX17_readsOften : MethodName := ⟨RX17, "readsOften", "()Z"⟩
def dkwX17_readsOften_5 : List UInt8 := [132, 2, 1, 167, 255, 191, 27, 155, 0, 7, 4, 167, 0, 4, 3, 172]
abbrev dktX17_readsOften_5 : List UInt8 := dkwX17_readsOften_5 ++ []
def dkwX17_readsOften_4 : List UInt8 := [62, 132, 4, 1, 167, 255, 240, 42, 180, 0, 34, 16, 24, 42, 180, 1, 26, 104, 28, 96, 29, 79]
abbrev dktX17_readsOften_4 : List UInt8 := dkwX17_readsOften_4 ++ dktX17_readsOften_5
def dkwX17_readsOften_3 : List UInt8 := [42, 180, 1, 26, 104, 28, 96, 46, 62, 3, 54, 4, 21, 4, 27, 162, 0, 16, 42, 180, 0, 31, 29, 46]
abbrev dktX17_readsOften_3 : List UInt8 := dkwX17_readsOften_3 ++ dktX17_readsOften_4
def dkwX17_readsOften_2 : List UInt8 := [16, 99, 182, 1, 20, 60, 3, 61, 28, 16, 24, 162, 0, 65, 27, 155, 0, 61, 42, 180, 0, 34, 16, 24]
abbrev dktX17_readsOften_2 : List UInt8 := dkwX17_readsOften_2 ++ dktX17_readsOften_3
def dkwX17_readsOften_1 : List UInt8 := [182, 0, 253, 16, 45, 160, 0, 17, 42, 89, 180, 0, 242, 4, 96, 181, 0, 242, 42, 182, 1, 23, 42]
abbrev dktX17_readsOften_1 : List UInt8 := dkwX17_readsOften_1 ++ dktX17_readsOften_2
def dkwX17_readsOften_0 : List UInt8 := [4, 60, 42, 182, 0, 253, 16, 94, 160, 0, 43, 42, 89, 180, 0, 242, 4, 96, 181, 0, 242, 42]
abbrev dktX17_readsOften_0 : List UInt8 := dkwX17_readsOften_0 ++ dktX17_readsOften_1
theorem dksX17_readsOften_0 : cX17_readsOften.data.toList.drop 0 = dktX17_readsOften_0 := by decide +kernel
theorem dksX17_readsOften_1 : cX17_readsOften.data.toList.drop 22 = dktX17_readsOften_1 := dk_seg dksX17_readsOften_0 22 rfl rfl
theorem dksX17_readsOften_2 : cX17_readsOften.data.toList.drop 45 = dktX17_readsOften_2 := dk_seg dksX17_readsOften_1 23 rfl rfl
theorem dksX17_readsOften_3 : cX17_readsOften.data.toList.drop 69 = dktX17_readsOften_3 := dk_seg dksX17_readsOften_2 24 rfl rfl
theorem dksX17_readsOften_4 : cX17_readsOften.data.toList.drop 93 = dktX17_readsOften_4 := dk_seg dksX17_readsOften_3 24 rfl rfl
theorem dksX17_readsOften_5 : cX17_readsOften.data.toList.drop 115 = dktX17_readsOften_5 := dk_seg dksX17_readsOften_4 22 rfl rfl
theorem dX17_readsOften_0 : decode cX17_readsOften 0 = .ok (.iconst 1, 1) := dk_4 (dk_at dksX17_readsOften_0 0 rfl rfl)
theorem dX17_readsOften_1 : decode cX17_readsOften 1 = .ok (.istore_n 1, 1) := dk_60 (dk_at dksX17_readsOften_0 1 rfl rfl)
theorem dX17_readsOften_2 : decode cX17_readsOften 2 = .ok (.aload_n 0, 1) := dk_42 (dk_at dksX17_readsOften_0 2 rfl rfl)
theorem dX17_readsOften_3 : decode cX17_readsOften 3 = .ok (.invokevirtual 253, 3) := dk_182 0 253 (dk_at dksX17_readsOften_0 3 rfl rfl)
theorem dX17_readsOften_6 : decode cX17_readsOften 6 = .ok (.bipush 94, 2) := dk_16 94 (dk_at dksX17_readsOften_0 6 rfl rfl)
theorem dX17_readsOften_8 : decode cX17_readsOften 8 = .ok (.if_icmp .ne 43, 3) := dk_160 0 43 (dk_at dksX17_readsOften_0 8 rfl rfl)
theorem dX17_readsOften_11 : decode cX17_readsOften 11 = .ok (.aload_n 0, 1) := dk_42 (dk_at dksX17_readsOften_0 11 rfl rfl)
theorem dX17_readsOften_12 : decode cX17_readsOften 12 = .ok (.dup, 1) := dk_89 (dk_at dksX17_readsOften_0 12 rfl rfl)
theorem dX17_readsOften_13 : decode cX17_readsOften 13 = .ok (.getfield 242, 3) := dk_180 0 242 (dk_at dksX17_readsOften_0 13 rfl rfl)
theorem dX17_readsOften_16 : decode cX17_readsOften 16 = .ok (.iconst 1, 1) := dk_4 (dk_at dksX17_readsOften_0 16 rfl rfl)
theorem dX17_readsOften_17 : decode cX17_readsOften 17 = .ok (.iadd, 1) := dk_96 (dk_at dksX17_readsOften_0 17 rfl rfl)
theorem dX17_readsOften_18 : decode cX17_readsOften 18 = .ok (.putfield 242, 3) := dk_181 0 242 (dk_at dksX17_readsOften_0 18 rfl rfl)
theorem dX17_readsOften_21 : decode cX17_readsOften 21 = .ok (.aload_n 0, 1) := dk_42 (dk_at dksX17_readsOften_0 21 rfl rfl)
theorem dX17_readsOften_22 : decode cX17_readsOften 22 = .ok (.invokevirtual 253, 3) := dk_182 0 253 (dk_at dksX17_readsOften_1 0 rfl rfl)
theorem dX17_readsOften_25 : decode cX17_readsOften 25 = .ok (.bipush 45, 2) := dk_16 45 (dk_at dksX17_readsOften_1 3 rfl rfl)
theorem dX17_readsOften_27 : decode cX17_readsOften 27 = .ok (.if_icmp .ne 17, 3) := dk_160 0 17 (dk_at dksX17_readsOften_1 5 rfl rfl)
theorem dX17_readsOften_30 : decode cX17_readsOften 30 = .ok (.aload_n 0, 1) := dk_42 (dk_at dksX17_readsOften_1 8 rfl rfl)
theorem dX17_readsOften_31 : decode cX17_readsOften 31 = .ok (.dup, 1) := dk_89 (dk_at dksX17_readsOften_1 9 rfl rfl)
theorem dX17_readsOften_32 : decode cX17_readsOften 32 = .ok (.getfield 242, 3) := dk_180 0 242 (dk_at dksX17_readsOften_1 10 rfl rfl)
theorem dX17_readsOften_35 : decode cX17_readsOften 35 = .ok (.iconst 1, 1) := dk_4 (dk_at dksX17_readsOften_1 13 rfl rfl)
theorem dX17_readsOften_36 : decode cX17_readsOften 36 = .ok (.iadd, 1) := dk_96 (dk_at dksX17_readsOften_1 14 rfl rfl)
theorem dX17_readsOften_37 : decode cX17_readsOften 37 = .ok (.putfield 242, 3) := dk_181 0 242 (dk_at dksX17_readsOften_1 15 rfl rfl)
theorem dX17_readsOften_40 : decode cX17_readsOften 40 = .ok (.aload_n 0, 1) := dk_42 (dk_at dksX17_readsOften_1 18 rfl rfl)
theorem dX17_readsOften_41 : decode cX17_readsOften 41 = .ok (.invokevirtual 279, 3) := dk_182 1 23 (dk_at dksX17_readsOften_1 19 rfl rfl)
theorem dX17_readsOften_44 : decode cX17_readsOften 44 = .ok (.aload_n 0, 1) := dk_42 (dk_at dksX17_readsOften_1 22 rfl rfl)
theorem dX17_readsOften_45 : decode cX17_readsOften 45 = .ok (.bipush 99, 2) := dk_16 99 (dk_at dksX17_readsOften_2 0 rfl rfl)
theorem dX17_readsOften_47 : decode cX17_readsOften 47 = .ok (.invokevirtual 276, 3) := dk_182 1 20 (dk_at dksX17_readsOften_2 2 rfl rfl)
theorem dX17_readsOften_50 : decode cX17_readsOften 50 = .ok (.istore_n 1, 1) := dk_60 (dk_at dksX17_readsOften_2 5 rfl rfl)
theorem dX17_readsOften_51 : decode cX17_readsOften 51 = .ok (.iconst 0, 1) := dk_3 (dk_at dksX17_readsOften_2 6 rfl rfl)
theorem dX17_readsOften_52 : decode cX17_readsOften 52 = .ok (.istore_n 2, 1) := dk_61 (dk_at dksX17_readsOften_2 7 rfl rfl)
theorem dX17_readsOften_53 : decode cX17_readsOften 53 = .ok (.iload_n 2, 1) := dk_28 (dk_at dksX17_readsOften_2 8 rfl rfl)
theorem dX17_readsOften_54 : decode cX17_readsOften 54 = .ok (.bipush 24, 2) := dk_16 24 (dk_at dksX17_readsOften_2 9 rfl rfl)
theorem dX17_readsOften_56 : decode cX17_readsOften 56 = .ok (.if_icmp .ge 65, 3) := dk_162 0 65 (dk_at dksX17_readsOften_2 11 rfl rfl)
theorem dX17_readsOften_59 : decode cX17_readsOften 59 = .ok (.iload_n 1, 1) := dk_27 (dk_at dksX17_readsOften_2 14 rfl rfl)
theorem dX17_readsOften_60 : decode cX17_readsOften 60 = .ok (.ifCond .lt 61, 3) := dk_155 0 61 (dk_at dksX17_readsOften_2 15 rfl rfl)
theorem dX17_readsOften_63 : decode cX17_readsOften 63 = .ok (.aload_n 0, 1) := dk_42 (dk_at dksX17_readsOften_2 18 rfl rfl)
theorem dX17_readsOften_64 : decode cX17_readsOften 64 = .ok (.getfield 34, 3) := dk_180 0 34 (dk_at dksX17_readsOften_2 19 rfl rfl)
theorem dX17_readsOften_67 : decode cX17_readsOften 67 = .ok (.bipush 24, 2) := dk_16 24 (dk_at dksX17_readsOften_2 22 rfl rfl)
theorem dX17_readsOften_69 : decode cX17_readsOften 69 = .ok (.aload_n 0, 1) := dk_42 (dk_at dksX17_readsOften_3 0 rfl rfl)
theorem dX17_readsOften_70 : decode cX17_readsOften 70 = .ok (.getfield 282, 3) := dk_180 1 26 (dk_at dksX17_readsOften_3 1 rfl rfl)
theorem dX17_readsOften_73 : decode cX17_readsOften 73 = .ok (.imul, 1) := dk_104 (dk_at dksX17_readsOften_3 4 rfl rfl)
theorem dX17_readsOften_74 : decode cX17_readsOften 74 = .ok (.iload_n 2, 1) := dk_28 (dk_at dksX17_readsOften_3 5 rfl rfl)
theorem dX17_readsOften_75 : decode cX17_readsOften 75 = .ok (.iadd, 1) := dk_96 (dk_at dksX17_readsOften_3 6 rfl rfl)
theorem dX17_readsOften_76 : decode cX17_readsOften 76 = .ok (.iaload, 1) := dk_46 (dk_at dksX17_readsOften_3 7 rfl rfl)
theorem dX17_readsOften_77 : decode cX17_readsOften 77 = .ok (.istore_n 3, 1) := dk_62 (dk_at dksX17_readsOften_3 8 rfl rfl)
theorem dX17_readsOften_78 : decode cX17_readsOften 78 = .ok (.iconst 0, 1) := dk_3 (dk_at dksX17_readsOften_3 9 rfl rfl)
theorem dX17_readsOften_79 : decode cX17_readsOften 79 = .ok (.istore 4, 2) := dk_54 4 (dk_at dksX17_readsOften_3 10 rfl rfl)
theorem dX17_readsOften_81 : decode cX17_readsOften 81 = .ok (.iload 4, 2) := dk_21 4 (dk_at dksX17_readsOften_3 12 rfl rfl)
theorem dX17_readsOften_83 : decode cX17_readsOften 83 = .ok (.iload_n 1, 1) := dk_27 (dk_at dksX17_readsOften_3 14 rfl rfl)
theorem dX17_readsOften_84 : decode cX17_readsOften 84 = .ok (.if_icmp .ge 16, 3) := dk_162 0 16 (dk_at dksX17_readsOften_3 15 rfl rfl)
theorem dX17_readsOften_87 : decode cX17_readsOften 87 = .ok (.aload_n 0, 1) := dk_42 (dk_at dksX17_readsOften_3 18 rfl rfl)
theorem dX17_readsOften_88 : decode cX17_readsOften 88 = .ok (.getfield 31, 3) := dk_180 0 31 (dk_at dksX17_readsOften_3 19 rfl rfl)
theorem dX17_readsOften_91 : decode cX17_readsOften 91 = .ok (.iload_n 3, 1) := dk_29 (dk_at dksX17_readsOften_3 22 rfl rfl)
theorem dX17_readsOften_92 : decode cX17_readsOften 92 = .ok (.iaload, 1) := dk_46 (dk_at dksX17_readsOften_3 23 rfl rfl)
theorem dX17_readsOften_93 : decode cX17_readsOften 93 = .ok (.istore_n 3, 1) := dk_62 (dk_at dksX17_readsOften_4 0 rfl rfl)
theorem dX17_readsOften_94 : decode cX17_readsOften 94 = .ok (.iinc 4 1, 3) := dk_132 4 1 (dk_at dksX17_readsOften_4 1 rfl rfl)
theorem dX17_readsOften_97 : decode cX17_readsOften 97 = .ok (.goto (-16), 3) := dk_167 255 240 (dk_at dksX17_readsOften_4 4 rfl rfl)
theorem dX17_readsOften_100 : decode cX17_readsOften 100 = .ok (.aload_n 0, 1) := dk_42 (dk_at dksX17_readsOften_4 7 rfl rfl)
theorem dX17_readsOften_101 : decode cX17_readsOften 101 = .ok (.getfield 34, 3) := dk_180 0 34 (dk_at dksX17_readsOften_4 8 rfl rfl)
theorem dX17_readsOften_104 : decode cX17_readsOften 104 = .ok (.bipush 24, 2) := dk_16 24 (dk_at dksX17_readsOften_4 11 rfl rfl)
theorem dX17_readsOften_106 : decode cX17_readsOften 106 = .ok (.aload_n 0, 1) := dk_42 (dk_at dksX17_readsOften_4 13 rfl rfl)
theorem dX17_readsOften_107 : decode cX17_readsOften 107 = .ok (.getfield 282, 3) := dk_180 1 26 (dk_at dksX17_readsOften_4 14 rfl rfl)
theorem dX17_readsOften_110 : decode cX17_readsOften 110 = .ok (.imul, 1) := dk_104 (dk_at dksX17_readsOften_4 17 rfl rfl)
theorem dX17_readsOften_111 : decode cX17_readsOften 111 = .ok (.iload_n 2, 1) := dk_28 (dk_at dksX17_readsOften_4 18 rfl rfl)
theorem dX17_readsOften_112 : decode cX17_readsOften 112 = .ok (.iadd, 1) := dk_96 (dk_at dksX17_readsOften_4 19 rfl rfl)
theorem dX17_readsOften_113 : decode cX17_readsOften 113 = .ok (.iload_n 3, 1) := dk_29 (dk_at dksX17_readsOften_4 20 rfl rfl)
theorem dX17_readsOften_114 : decode cX17_readsOften 114 = .ok (.iastore, 1) := dk_79 (dk_at dksX17_readsOften_4 21 rfl rfl)
theorem dX17_readsOften_115 : decode cX17_readsOften 115 = .ok (.iinc 2 1, 3) := dk_132 2 1 (dk_at dksX17_readsOften_5 0 rfl rfl)
theorem dX17_readsOften_118 : decode cX17_readsOften 118 = .ok (.goto (-65), 3) := dk_167 255 191 (dk_at dksX17_readsOften_5 3 rfl rfl)
theorem dX17_readsOften_121 : decode cX17_readsOften 121 = .ok (.iload_n 1, 1) := dk_27 (dk_at dksX17_readsOften_5 6 rfl rfl)
theorem dX17_readsOften_122 : decode cX17_readsOften 122 = .ok (.ifCond .lt 7, 3) := dk_155 0 7 (dk_at dksX17_readsOften_5 7 rfl rfl)
theorem dX17_readsOften_125 : decode cX17_readsOften 125 = .ok (.iconst 1, 1) := dk_4 (dk_at dksX17_readsOften_5 10 rfl rfl)
theorem dX17_readsOften_126 : decode cX17_readsOften 126 = .ok (.goto 4, 3) := dk_167 0 4 (dk_at dksX17_readsOften_5 11 rfl rfl)
theorem dX17_readsOften_129 : decode cX17_readsOften 129 = .ok (.iconst 0, 1) := dk_3 (dk_at dksX17_readsOften_5 14 rfl rfl)
theorem dX17_readsOften_130 : decode cX17_readsOften 130 = .ok (.ireturn, 1) := dk_172 (dk_at dksX17_readsOften_5 15 rfl rfl)
abbrev cX17_turnsBack : ByteArray := prog_24_method_56_code
def yX17_turnsBack : MethodName := ⟨RX17, "turnsBack", "()V"⟩
def dkwX17_turnsBack_2 : List UInt8 := [132, 1, 1, 167, 255, 235, 177]
abbrev dktX17_turnsBack_2 : List UInt8 := dkwX17_turnsBack_2 ++ []
def dkwX17_turnsBack_1 : List UInt8 := [167, 255, 235, 3, 60, 27, 16, 24, 162, 0, 21, 42, 180, 0, 31, 27, 42, 180, 0, 37, 27, 46, 79]
abbrev dktX17_turnsBack_1 : List UInt8 := dkwX17_turnsBack_1 ++ dktX17_turnsBack_2
def dkwX17_turnsBack_0 : List UInt8 := [3, 60, 27, 16, 24, 162, 0, 21, 42, 180, 0, 37, 42, 180, 0, 31, 27, 46, 27, 79, 132, 1, 1]
abbrev dktX17_turnsBack_0 : List UInt8 := dkwX17_turnsBack_0 ++ dktX17_turnsBack_1
theorem dksX17_turnsBack_0 : cX17_turnsBack.data.toList.drop 0 = dktX17_turnsBack_0 := by decide +kernel
theorem dksX17_turnsBack_1 : cX17_turnsBack.data.toList.drop 23 = dktX17_turnsBack_1 := dk_seg dksX17_turnsBack_0 23 rfl rfl
theorem dksX17_turnsBack_2 : cX17_turnsBack.data.toList.drop 46 = dktX17_turnsBack_2 := dk_seg dksX17_turnsBack_1 23 rfl rfl
theorem dX17_turnsBack_0 : decode cX17_turnsBack 0 = .ok (.iconst 0, 1) := dk_3 (dk_at dksX17_turnsBack_0 0 rfl rfl)
theorem dX17_turnsBack_1 : decode cX17_turnsBack 1 = .ok (.istore_n 1, 1) := dk_60 (dk_at dksX17_turnsBack_0 1 rfl rfl)
theorem dX17_turnsBack_2 : decode cX17_turnsBack 2 = .ok (.iload_n 1, 1) := dk_27 (dk_at dksX17_turnsBack_0 2 rfl rfl)
theorem dX17_turnsBack_3 : decode cX17_turnsBack 3 = .ok (.bipush 24, 2) := dk_16 24 (dk_at dksX17_turnsBack_0 3 rfl rfl)
theorem dX17_turnsBack_5 : decode cX17_turnsBack 5 = .ok (.if_icmp .ge 21, 3) := dk_162 0 21 (dk_at dksX17_turnsBack_0 5 rfl rfl)
theorem dX17_turnsBack_8 : decode cX17_turnsBack 8 = .ok (.aload_n 0, 1) := dk_42 (dk_at dksX17_turnsBack_0 8 rfl rfl)
theorem dX17_turnsBack_9 : decode cX17_turnsBack 9 = .ok (.getfield 37, 3) := dk_180 0 37 (dk_at dksX17_turnsBack_0 9 rfl rfl)
theorem dX17_turnsBack_12 : decode cX17_turnsBack 12 = .ok (.aload_n 0, 1) := dk_42 (dk_at dksX17_turnsBack_0 12 rfl rfl)
theorem dX17_turnsBack_13 : decode cX17_turnsBack 13 = .ok (.getfield 31, 3) := dk_180 0 31 (dk_at dksX17_turnsBack_0 13 rfl rfl)
theorem dX17_turnsBack_16 : decode cX17_turnsBack 16 = .ok (.iload_n 1, 1) := dk_27 (dk_at dksX17_turnsBack_0 16 rfl rfl)
theorem dX17_turnsBack_17 : decode cX17_turnsBack 17 = .ok (.iaload, 1) := dk_46 (dk_at dksX17_turnsBack_0 17 rfl rfl)
theorem dX17_turnsBack_18 : decode cX17_turnsBack 18 = .ok (.iload_n 1, 1) := dk_27 (dk_at dksX17_turnsBack_0 18 rfl rfl)
theorem dX17_turnsBack_19 : decode cX17_turnsBack 19 = .ok (.iastore, 1) := dk_79 (dk_at dksX17_turnsBack_0 19 rfl rfl)
theorem dX17_turnsBack_20 : decode cX17_turnsBack 20 = .ok (.iinc 1 1, 3) := dk_132 1 1 (dk_at dksX17_turnsBack_0 20 rfl rfl)
theorem dX17_turnsBack_23 : decode cX17_turnsBack 23 = .ok (.goto (-21), 3) := dk_167 255 235 (dk_at dksX17_turnsBack_1 0 rfl rfl)
theorem dX17_turnsBack_26 : decode cX17_turnsBack 26 = .ok (.iconst 0, 1) := dk_3 (dk_at dksX17_turnsBack_1 3 rfl rfl)
theorem dX17_turnsBack_27 : decode cX17_turnsBack 27 = .ok (.istore_n 1, 1) := dk_60 (dk_at dksX17_turnsBack_1 4 rfl rfl)
theorem dX17_turnsBack_28 : decode cX17_turnsBack 28 = .ok (.iload_n 1, 1) := dk_27 (dk_at dksX17_turnsBack_1 5 rfl rfl)
theorem dX17_turnsBack_29 : decode cX17_turnsBack 29 = .ok (.bipush 24, 2) := dk_16 24 (dk_at dksX17_turnsBack_1 6 rfl rfl)
theorem dX17_turnsBack_31 : decode cX17_turnsBack 31 = .ok (.if_icmp .ge 21, 3) := dk_162 0 21 (dk_at dksX17_turnsBack_1 8 rfl rfl)
theorem dX17_turnsBack_34 : decode cX17_turnsBack 34 = .ok (.aload_n 0, 1) := dk_42 (dk_at dksX17_turnsBack_1 11 rfl rfl)
theorem dX17_turnsBack_35 : decode cX17_turnsBack 35 = .ok (.getfield 31, 3) := dk_180 0 31 (dk_at dksX17_turnsBack_1 12 rfl rfl)
theorem dX17_turnsBack_38 : decode cX17_turnsBack 38 = .ok (.iload_n 1, 1) := dk_27 (dk_at dksX17_turnsBack_1 15 rfl rfl)
theorem dX17_turnsBack_39 : decode cX17_turnsBack 39 = .ok (.aload_n 0, 1) := dk_42 (dk_at dksX17_turnsBack_1 16 rfl rfl)
theorem dX17_turnsBack_40 : decode cX17_turnsBack 40 = .ok (.getfield 37, 3) := dk_180 0 37 (dk_at dksX17_turnsBack_1 17 rfl rfl)
theorem dX17_turnsBack_43 : decode cX17_turnsBack 43 = .ok (.iload_n 1, 1) := dk_27 (dk_at dksX17_turnsBack_1 20 rfl rfl)
theorem dX17_turnsBack_44 : decode cX17_turnsBack 44 = .ok (.iaload, 1) := dk_46 (dk_at dksX17_turnsBack_1 21 rfl rfl)
theorem dX17_turnsBack_45 : decode cX17_turnsBack 45 = .ok (.iastore, 1) := dk_79 (dk_at dksX17_turnsBack_1 22 rfl rfl)
theorem dX17_turnsBack_46 : decode cX17_turnsBack 46 = .ok (.iinc 1 1, 3) := dk_132 1 1 (dk_at dksX17_turnsBack_2 0 rfl rfl)
theorem dX17_turnsBack_49 : decode cX17_turnsBack 49 = .ok (.goto (-21), 3) := dk_167 255 235 (dk_at dksX17_turnsBack_2 3 rfl rfl)
theorem dX17_turnsBack_52 : decode cX17_turnsBack 52 = .ok (.return_, 1) := dk_177 (dk_at dksX17_turnsBack_2 6 rfl rfl)
abbrev cX17_closes : ByteArray := prog_24_method_59_code
def yX17_closes : MethodName := ⟨RX17, "closes", "()V"⟩
def dkwX17_closes_1 : List UInt8 := [27, 96, 46, 79, 132, 1, 1, 167, 255, 227, 42, 89, 180, 1, 26, 4, 100, 181, 1, 26, 177]
abbrev dktX17_closes_1 : List UInt8 := dkwX17_closes_1 ++ []
def dkwX17_closes_0 : List UInt8 := [3, 60, 27, 16, 24, 162, 0, 29, 42, 180, 0, 31, 27, 42, 180, 0, 34, 16, 24, 42, 180, 1, 26, 104]
abbrev dktX17_closes_0 : List UInt8 := dkwX17_closes_0 ++ dktX17_closes_1
theorem dksX17_closes_0 : cX17_closes.data.toList.drop 0 = dktX17_closes_0 := by decide +kernel
theorem dksX17_closes_1 : cX17_closes.data.toList.drop 24 = dktX17_closes_1 := dk_seg dksX17_closes_0 24 rfl rfl
theorem dX17_closes_0 : decode cX17_closes 0 = .ok (.iconst 0, 1) := dk_3 (dk_at dksX17_closes_0 0 rfl rfl)
theorem dX17_closes_1 : decode cX17_closes 1 = .ok (.istore_n 1, 1) := dk_60 (dk_at dksX17_closes_0 1 rfl rfl)
theorem dX17_closes_2 : decode cX17_closes 2 = .ok (.iload_n 1, 1) := dk_27 (dk_at dksX17_closes_0 2 rfl rfl)
theorem dX17_closes_3 : decode cX17_closes 3 = .ok (.bipush 24, 2) := dk_16 24 (dk_at dksX17_closes_0 3 rfl rfl)
theorem dX17_closes_5 : decode cX17_closes 5 = .ok (.if_icmp .ge 29, 3) := dk_162 0 29 (dk_at dksX17_closes_0 5 rfl rfl)
theorem dX17_closes_8 : decode cX17_closes 8 = .ok (.aload_n 0, 1) := dk_42 (dk_at dksX17_closes_0 8 rfl rfl)
theorem dX17_closes_9 : decode cX17_closes 9 = .ok (.getfield 31, 3) := dk_180 0 31 (dk_at dksX17_closes_0 9 rfl rfl)
theorem dX17_closes_12 : decode cX17_closes 12 = .ok (.iload_n 1, 1) := dk_27 (dk_at dksX17_closes_0 12 rfl rfl)
theorem dX17_closes_13 : decode cX17_closes 13 = .ok (.aload_n 0, 1) := dk_42 (dk_at dksX17_closes_0 13 rfl rfl)
theorem dX17_closes_14 : decode cX17_closes 14 = .ok (.getfield 34, 3) := dk_180 0 34 (dk_at dksX17_closes_0 14 rfl rfl)
theorem dX17_closes_17 : decode cX17_closes 17 = .ok (.bipush 24, 2) := dk_16 24 (dk_at dksX17_closes_0 17 rfl rfl)
theorem dX17_closes_19 : decode cX17_closes 19 = .ok (.aload_n 0, 1) := dk_42 (dk_at dksX17_closes_0 19 rfl rfl)
theorem dX17_closes_20 : decode cX17_closes 20 = .ok (.getfield 282, 3) := dk_180 1 26 (dk_at dksX17_closes_0 20 rfl rfl)
theorem dX17_closes_23 : decode cX17_closes 23 = .ok (.imul, 1) := dk_104 (dk_at dksX17_closes_0 23 rfl rfl)
theorem dX17_closes_24 : decode cX17_closes 24 = .ok (.iload_n 1, 1) := dk_27 (dk_at dksX17_closes_1 0 rfl rfl)
theorem dX17_closes_25 : decode cX17_closes 25 = .ok (.iadd, 1) := dk_96 (dk_at dksX17_closes_1 1 rfl rfl)
theorem dX17_closes_26 : decode cX17_closes 26 = .ok (.iaload, 1) := dk_46 (dk_at dksX17_closes_1 2 rfl rfl)
theorem dX17_closes_27 : decode cX17_closes 27 = .ok (.iastore, 1) := dk_79 (dk_at dksX17_closes_1 3 rfl rfl)
theorem dX17_closes_28 : decode cX17_closes 28 = .ok (.iinc 1 1, 3) := dk_132 1 1 (dk_at dksX17_closes_1 4 rfl rfl)
theorem dX17_closes_31 : decode cX17_closes 31 = .ok (.goto (-29), 3) := dk_167 255 227 (dk_at dksX17_closes_1 7 rfl rfl)
theorem dX17_closes_34 : decode cX17_closes 34 = .ok (.aload_n 0, 1) := dk_42 (dk_at dksX17_closes_1 10 rfl rfl)
theorem dX17_closes_35 : decode cX17_closes 35 = .ok (.dup, 1) := dk_89 (dk_at dksX17_closes_1 11 rfl rfl)
theorem dX17_closes_36 : decode cX17_closes 36 = .ok (.getfield 282, 3) := dk_180 1 26 (dk_at dksX17_closes_1 12 rfl rfl)
theorem dX17_closes_39 : decode cX17_closes 39 = .ok (.iconst 1, 1) := dk_4 (dk_at dksX17_closes_1 15 rfl rfl)
theorem dX17_closes_40 : decode cX17_closes 40 = .ok (.isub, 1) := dk_100 (dk_at dksX17_closes_1 16 rfl rfl)
theorem dX17_closes_41 : decode cX17_closes 41 = .ok (.putfield 282, 3) := dk_181 1 26 (dk_at dksX17_closes_1 17 rfl rfl)
theorem dX17_closes_44 : decode cX17_closes 44 = .ok (.return_, 1) := dk_177 (dk_at dksX17_closes_1 20 rfl rfl)
abbrev cX17_notes : ByteArray := prog_24_method_91_code
def yX17_notes : MethodName := ⟨RX17, "notes", "()V"⟩
def dkwX17_notes_3 : List UInt8 := [79, 132, 1, 1, 167, 255, 227, 42, 89, 180, 1, 129, 4, 96, 181, 1, 129, 177]
abbrev dktX17_notes_3 : List UInt8 := dkwX17_notes_3 ++ []
def dkwX17_notes_2 : List UInt8 := [16, 122, 162, 0, 29, 42, 180, 0, 72, 16, 122, 42, 180, 1, 129, 104, 27, 96, 42, 180, 0, 7, 27, 46]
abbrev dktX17_notes_2 : List UInt8 := dkwX17_notes_2 ++ dktX17_notes_3
def dkwX17_notes_1 : List UInt8 := [16, 122, 100, 42, 180, 0, 72, 27, 46, 79, 132, 1, 1, 167, 255, 231, 42, 8, 181, 1, 129, 3, 60, 27]
abbrev dktX17_notes_1 : List UInt8 := dkwX17_notes_1 ++ dktX17_notes_2
def dkwX17_notes_0 : List UInt8 := [42, 180, 1, 129, 16, 6, 160, 0, 39, 16, 122, 60, 27, 17, 2, 220, 162, 0, 24, 42, 180, 0, 72, 27]
abbrev dktX17_notes_0 : List UInt8 := dkwX17_notes_0 ++ dktX17_notes_1
theorem dksX17_notes_0 : cX17_notes.data.toList.drop 0 = dktX17_notes_0 := by decide +kernel
theorem dksX17_notes_1 : cX17_notes.data.toList.drop 24 = dktX17_notes_1 := dk_seg dksX17_notes_0 24 rfl rfl
theorem dksX17_notes_2 : cX17_notes.data.toList.drop 48 = dktX17_notes_2 := dk_seg dksX17_notes_1 24 rfl rfl
theorem dksX17_notes_3 : cX17_notes.data.toList.drop 72 = dktX17_notes_3 := dk_seg dksX17_notes_2 24 rfl rfl
theorem dX17_notes_0 : decode cX17_notes 0 = .ok (.aload_n 0, 1) := dk_42 (dk_at dksX17_notes_0 0 rfl rfl)
theorem dX17_notes_1 : decode cX17_notes 1 = .ok (.getfield 385, 3) := dk_180 1 129 (dk_at dksX17_notes_0 1 rfl rfl)
theorem dX17_notes_4 : decode cX17_notes 4 = .ok (.bipush 6, 2) := dk_16 6 (dk_at dksX17_notes_0 4 rfl rfl)
theorem dX17_notes_6 : decode cX17_notes 6 = .ok (.if_icmp .ne 39, 3) := dk_160 0 39 (dk_at dksX17_notes_0 6 rfl rfl)
theorem dX17_notes_9 : decode cX17_notes 9 = .ok (.bipush 122, 2) := dk_16 122 (dk_at dksX17_notes_0 9 rfl rfl)
theorem dX17_notes_11 : decode cX17_notes 11 = .ok (.istore_n 1, 1) := dk_60 (dk_at dksX17_notes_0 11 rfl rfl)
theorem dX17_notes_12 : decode cX17_notes 12 = .ok (.iload_n 1, 1) := dk_27 (dk_at dksX17_notes_0 12 rfl rfl)
theorem dX17_notes_13 : decode cX17_notes 13 = .ok (.sipush 732, 3) := dk_17 2 220 (dk_at dksX17_notes_0 13 rfl rfl)
theorem dX17_notes_16 : decode cX17_notes 16 = .ok (.if_icmp .ge 24, 3) := dk_162 0 24 (dk_at dksX17_notes_0 16 rfl rfl)
theorem dX17_notes_19 : decode cX17_notes 19 = .ok (.aload_n 0, 1) := dk_42 (dk_at dksX17_notes_0 19 rfl rfl)
theorem dX17_notes_20 : decode cX17_notes 20 = .ok (.getfield 72, 3) := dk_180 0 72 (dk_at dksX17_notes_0 20 rfl rfl)
theorem dX17_notes_23 : decode cX17_notes 23 = .ok (.iload_n 1, 1) := dk_27 (dk_at dksX17_notes_0 23 rfl rfl)
theorem dX17_notes_24 : decode cX17_notes 24 = .ok (.bipush 122, 2) := dk_16 122 (dk_at dksX17_notes_1 0 rfl rfl)
theorem dX17_notes_26 : decode cX17_notes 26 = .ok (.isub, 1) := dk_100 (dk_at dksX17_notes_1 2 rfl rfl)
theorem dX17_notes_27 : decode cX17_notes 27 = .ok (.aload_n 0, 1) := dk_42 (dk_at dksX17_notes_1 3 rfl rfl)
theorem dX17_notes_28 : decode cX17_notes 28 = .ok (.getfield 72, 3) := dk_180 0 72 (dk_at dksX17_notes_1 4 rfl rfl)
theorem dX17_notes_31 : decode cX17_notes 31 = .ok (.iload_n 1, 1) := dk_27 (dk_at dksX17_notes_1 7 rfl rfl)
theorem dX17_notes_32 : decode cX17_notes 32 = .ok (.iaload, 1) := dk_46 (dk_at dksX17_notes_1 8 rfl rfl)
theorem dX17_notes_33 : decode cX17_notes 33 = .ok (.iastore, 1) := dk_79 (dk_at dksX17_notes_1 9 rfl rfl)
theorem dX17_notes_34 : decode cX17_notes 34 = .ok (.iinc 1 1, 3) := dk_132 1 1 (dk_at dksX17_notes_1 10 rfl rfl)
theorem dX17_notes_37 : decode cX17_notes 37 = .ok (.goto (-25), 3) := dk_167 255 231 (dk_at dksX17_notes_1 13 rfl rfl)
theorem dX17_notes_40 : decode cX17_notes 40 = .ok (.aload_n 0, 1) := dk_42 (dk_at dksX17_notes_1 16 rfl rfl)
theorem dX17_notes_41 : decode cX17_notes 41 = .ok (.iconst 5, 1) := dk_8 (dk_at dksX17_notes_1 17 rfl rfl)
theorem dX17_notes_42 : decode cX17_notes 42 = .ok (.putfield 385, 3) := dk_181 1 129 (dk_at dksX17_notes_1 18 rfl rfl)
theorem dX17_notes_45 : decode cX17_notes 45 = .ok (.iconst 0, 1) := dk_3 (dk_at dksX17_notes_1 21 rfl rfl)
theorem dX17_notes_46 : decode cX17_notes 46 = .ok (.istore_n 1, 1) := dk_60 (dk_at dksX17_notes_1 22 rfl rfl)
theorem dX17_notes_47 : decode cX17_notes 47 = .ok (.iload_n 1, 1) := dk_27 (dk_at dksX17_notes_1 23 rfl rfl)
theorem dX17_notes_48 : decode cX17_notes 48 = .ok (.bipush 122, 2) := dk_16 122 (dk_at dksX17_notes_2 0 rfl rfl)
theorem dX17_notes_50 : decode cX17_notes 50 = .ok (.if_icmp .ge 29, 3) := dk_162 0 29 (dk_at dksX17_notes_2 2 rfl rfl)
theorem dX17_notes_53 : decode cX17_notes 53 = .ok (.aload_n 0, 1) := dk_42 (dk_at dksX17_notes_2 5 rfl rfl)
theorem dX17_notes_54 : decode cX17_notes 54 = .ok (.getfield 72, 3) := dk_180 0 72 (dk_at dksX17_notes_2 6 rfl rfl)
theorem dX17_notes_57 : decode cX17_notes 57 = .ok (.bipush 122, 2) := dk_16 122 (dk_at dksX17_notes_2 9 rfl rfl)
theorem dX17_notes_59 : decode cX17_notes 59 = .ok (.aload_n 0, 1) := dk_42 (dk_at dksX17_notes_2 11 rfl rfl)
theorem dX17_notes_60 : decode cX17_notes 60 = .ok (.getfield 385, 3) := dk_180 1 129 (dk_at dksX17_notes_2 12 rfl rfl)
theorem dX17_notes_63 : decode cX17_notes 63 = .ok (.imul, 1) := dk_104 (dk_at dksX17_notes_2 15 rfl rfl)
theorem dX17_notes_64 : decode cX17_notes 64 = .ok (.iload_n 1, 1) := dk_27 (dk_at dksX17_notes_2 16 rfl rfl)
theorem dX17_notes_65 : decode cX17_notes 65 = .ok (.iadd, 1) := dk_96 (dk_at dksX17_notes_2 17 rfl rfl)
theorem dX17_notes_66 : decode cX17_notes 66 = .ok (.aload_n 0, 1) := dk_42 (dk_at dksX17_notes_2 18 rfl rfl)
theorem dX17_notes_67 : decode cX17_notes 67 = .ok (.getfield 7, 3) := dk_180 0 7 (dk_at dksX17_notes_2 19 rfl rfl)
theorem dX17_notes_70 : decode cX17_notes 70 = .ok (.iload_n 1, 1) := dk_27 (dk_at dksX17_notes_2 22 rfl rfl)
theorem dX17_notes_71 : decode cX17_notes 71 = .ok (.iaload, 1) := dk_46 (dk_at dksX17_notes_2 23 rfl rfl)
theorem dX17_notes_72 : decode cX17_notes 72 = .ok (.iastore, 1) := dk_79 (dk_at dksX17_notes_3 0 rfl rfl)
theorem dX17_notes_73 : decode cX17_notes 73 = .ok (.iinc 1 1, 3) := dk_132 1 1 (dk_at dksX17_notes_3 1 rfl rfl)
theorem dX17_notes_76 : decode cX17_notes 76 = .ok (.goto (-29), 3) := dk_167 255 227 (dk_at dksX17_notes_3 4 rfl rfl)
theorem dX17_notes_79 : decode cX17_notes 79 = .ok (.aload_n 0, 1) := dk_42 (dk_at dksX17_notes_3 7 rfl rfl)
theorem dX17_notes_80 : decode cX17_notes 80 = .ok (.dup, 1) := dk_89 (dk_at dksX17_notes_3 8 rfl rfl)
theorem dX17_notes_81 : decode cX17_notes 81 = .ok (.getfield 385, 3) := dk_180 1 129 (dk_at dksX17_notes_3 9 rfl rfl)
theorem dX17_notes_84 : decode cX17_notes 84 = .ok (.iconst 1, 1) := dk_4 (dk_at dksX17_notes_3 12 rfl rfl)
theorem dX17_notes_85 : decode cX17_notes 85 = .ok (.iadd, 1) := dk_96 (dk_at dksX17_notes_3 13 rfl rfl)
theorem dX17_notes_86 : decode cX17_notes 86 = .ok (.putfield 385, 3) := dk_181 1 129 (dk_at dksX17_notes_3 14 rfl rfl)
theorem dX17_notes_89 : decode cX17_notes 89 = .ok (.return_, 1) := dk_177 (dk_at dksX17_notes_3 17 rfl rfl)
abbrev cX17_group : ByteArray := prog_24_method_84_code
def yX17_group : MethodName := ⟨RX17, "group", "(II)I"⟩
def dkwX17_group_4 : List UInt8 := [42, 27, 28, 5, 160, 0, 8, 16, 8, 167, 0, 5, 16, 12, 182, 1, 124, 172]
abbrev dktX17_group_4 : List UInt8 := dkwX17_group_4 ++ []
def dkwX17_group_3 : List UInt8 := [42, 27, 3, 182, 1, 112, 42, 3, 182, 1, 115, 172, 42, 27, 182, 1, 118, 172, 42, 27, 182, 1, 121, 172]
abbrev dktX17_group_3 : List UInt8 := dkwX17_group_3 ++ dktX17_group_4
def dkwX17_group_2 : List UInt8 := [170, 0, 0, 0, 0, 0, 59, 0, 0, 0, 0, 0, 0, 0, 4, 0, 0, 0, 35, 0, 0, 0, 47, 0, 0, 0, 59, 0, 0, 0, 59, 0, 0, 0, 53]
abbrev dktX17_group_2 : List UInt8 := dkwX17_group_2 ++ dktX17_group_3
def dkwX17_group_1 : List UInt8 := [182, 1, 109, 154, 0, 6, 16, 254, 172, 28]
abbrev dktX17_group_1 : List UInt8 := dkwX17_group_1 ++ dktX17_group_2
def dkwX17_group_0 : List UInt8 := [27, 184, 1, 106, 153, 0, 15, 28, 133, 9, 20, 0, 186, 184, 0, 124, 154, 0, 5, 2, 172, 42, 27]
abbrev dktX17_group_0 : List UInt8 := dkwX17_group_0 ++ dktX17_group_1
theorem dksX17_group_0 : cX17_group.data.toList.drop 0 = dktX17_group_0 := by decide +kernel
theorem dksX17_group_1 : cX17_group.data.toList.drop 23 = dktX17_group_1 := dk_seg dksX17_group_0 23 rfl rfl
theorem dksX17_group_2 : cX17_group.data.toList.drop 33 = dktX17_group_2 := dk_seg dksX17_group_1 10 rfl rfl
theorem dksX17_group_3 : cX17_group.data.toList.drop 68 = dktX17_group_3 := dk_seg dksX17_group_2 35 rfl rfl
theorem dksX17_group_4 : cX17_group.data.toList.drop 92 = dktX17_group_4 := dk_seg dksX17_group_3 24 rfl rfl
theorem dX17_group_0 : decode cX17_group 0 = .ok (.iload_n 1, 1) := dk_27 (dk_at dksX17_group_0 0 rfl rfl)
theorem dX17_group_1 : decode cX17_group 1 = .ok (.invokestatic 362, 3) := dk_184 1 106 (dk_at dksX17_group_0 1 rfl rfl)
theorem dX17_group_4 : decode cX17_group 4 = .ok (.ifCond .eq 15, 3) := dk_153 0 15 (dk_at dksX17_group_0 4 rfl rfl)
theorem dX17_group_7 : decode cX17_group 7 = .ok (.iload_n 2, 1) := dk_28 (dk_at dksX17_group_0 7 rfl rfl)
theorem dX17_group_8 : decode cX17_group 8 = .ok (.i2l, 1) := dk_133 (dk_at dksX17_group_0 8 rfl rfl)
theorem dX17_group_9 : decode cX17_group 9 = .ok (.lconst 0, 1) := dk_9 (dk_at dksX17_group_0 9 rfl rfl)
theorem dX17_group_10 : decode cX17_group 10 = .ok (.ldc2_w 186, 3) := dk_20 0 186 (dk_at dksX17_group_0 10 rfl rfl)
theorem dX17_group_13 : decode cX17_group 13 = .ok (.invokestatic 124, 3) := dk_184 0 124 (dk_at dksX17_group_0 13 rfl rfl)
theorem dX17_group_16 : decode cX17_group 16 = .ok (.ifCond .ne 5, 3) := dk_154 0 5 (dk_at dksX17_group_0 16 rfl rfl)
theorem dX17_group_19 : decode cX17_group 19 = .ok (.iconst (-1), 1) := dk_2 (dk_at dksX17_group_0 19 rfl rfl)
theorem dX17_group_20 : decode cX17_group 20 = .ok (.ireturn, 1) := dk_172 (dk_at dksX17_group_0 20 rfl rfl)
theorem dX17_group_21 : decode cX17_group 21 = .ok (.aload_n 0, 1) := dk_42 (dk_at dksX17_group_0 21 rfl rfl)
theorem dX17_group_22 : decode cX17_group 22 = .ok (.iload_n 1, 1) := dk_27 (dk_at dksX17_group_0 22 rfl rfl)
theorem dX17_group_23 : decode cX17_group 23 = .ok (.invokevirtual 365, 3) := dk_182 1 109 (dk_at dksX17_group_1 0 rfl rfl)
theorem dX17_group_26 : decode cX17_group 26 = .ok (.ifCond .ne 6, 3) := dk_154 0 6 (dk_at dksX17_group_1 3 rfl rfl)
theorem dX17_group_29 : decode cX17_group 29 = .ok (.bipush (-2), 2) := dk_16 254 (dk_at dksX17_group_1 6 rfl rfl)
theorem dX17_group_31 : decode cX17_group 31 = .ok (.ireturn, 1) := dk_172 (dk_at dksX17_group_1 8 rfl rfl)
theorem dX17_group_32 : decode cX17_group 32 = .ok (.iload_n 2, 1) := dk_28 (dk_at dksX17_group_1 9 rfl rfl)
theorem dX17_group_33 : decode cX17_group 33 = .ok (.tableswitch 59 0 4 #[35, 47, 59, 59, 53], 35) := by decide +kernel
theorem dX17_group_68 : decode cX17_group 68 = .ok (.aload_n 0, 1) := dk_42 (dk_at dksX17_group_3 0 rfl rfl)
theorem dX17_group_69 : decode cX17_group 69 = .ok (.iload_n 1, 1) := dk_27 (dk_at dksX17_group_3 1 rfl rfl)
theorem dX17_group_70 : decode cX17_group 70 = .ok (.iconst 0, 1) := dk_3 (dk_at dksX17_group_3 2 rfl rfl)
theorem dX17_group_71 : decode cX17_group 71 = .ok (.invokevirtual 368, 3) := dk_182 1 112 (dk_at dksX17_group_3 3 rfl rfl)
theorem dX17_group_74 : decode cX17_group 74 = .ok (.aload_n 0, 1) := dk_42 (dk_at dksX17_group_3 6 rfl rfl)
theorem dX17_group_75 : decode cX17_group 75 = .ok (.iconst 0, 1) := dk_3 (dk_at dksX17_group_3 7 rfl rfl)
theorem dX17_group_76 : decode cX17_group 76 = .ok (.invokevirtual 371, 3) := dk_182 1 115 (dk_at dksX17_group_3 8 rfl rfl)
theorem dX17_group_79 : decode cX17_group 79 = .ok (.ireturn, 1) := dk_172 (dk_at dksX17_group_3 11 rfl rfl)
theorem dX17_group_80 : decode cX17_group 80 = .ok (.aload_n 0, 1) := dk_42 (dk_at dksX17_group_3 12 rfl rfl)
theorem dX17_group_81 : decode cX17_group 81 = .ok (.iload_n 1, 1) := dk_27 (dk_at dksX17_group_3 13 rfl rfl)
theorem dX17_group_82 : decode cX17_group 82 = .ok (.invokevirtual 374, 3) := dk_182 1 118 (dk_at dksX17_group_3 14 rfl rfl)
theorem dX17_group_85 : decode cX17_group 85 = .ok (.ireturn, 1) := dk_172 (dk_at dksX17_group_3 17 rfl rfl)
theorem dX17_group_86 : decode cX17_group 86 = .ok (.aload_n 0, 1) := dk_42 (dk_at dksX17_group_3 18 rfl rfl)
theorem dX17_group_87 : decode cX17_group 87 = .ok (.iload_n 1, 1) := dk_27 (dk_at dksX17_group_3 19 rfl rfl)
theorem dX17_group_88 : decode cX17_group 88 = .ok (.invokevirtual 377, 3) := dk_182 1 121 (dk_at dksX17_group_3 20 rfl rfl)
theorem dX17_group_91 : decode cX17_group 91 = .ok (.ireturn, 1) := dk_172 (dk_at dksX17_group_3 23 rfl rfl)
theorem dX17_group_92 : decode cX17_group 92 = .ok (.aload_n 0, 1) := dk_42 (dk_at dksX17_group_4 0 rfl rfl)
theorem dX17_group_93 : decode cX17_group 93 = .ok (.iload_n 1, 1) := dk_27 (dk_at dksX17_group_4 1 rfl rfl)
theorem dX17_group_94 : decode cX17_group 94 = .ok (.iload_n 2, 1) := dk_28 (dk_at dksX17_group_4 2 rfl rfl)
theorem dX17_group_95 : decode cX17_group 95 = .ok (.iconst 2, 1) := dk_5 (dk_at dksX17_group_4 3 rfl rfl)
theorem dX17_group_96 : decode cX17_group 96 = .ok (.if_icmp .ne 8, 3) := dk_160 0 8 (dk_at dksX17_group_4 4 rfl rfl)
theorem dX17_group_99 : decode cX17_group 99 = .ok (.bipush 8, 2) := dk_16 8 (dk_at dksX17_group_4 7 rfl rfl)
theorem dX17_group_101 : decode cX17_group 101 = .ok (.goto 5, 3) := dk_167 0 5 (dk_at dksX17_group_4 9 rfl rfl)
theorem dX17_group_104 : decode cX17_group 104 = .ok (.bipush 12, 2) := dk_16 12 (dk_at dksX17_group_4 12 rfl rfl)
theorem dX17_group_106 : decode cX17_group 106 = .ok (.invokevirtual 380, 3) := dk_182 1 124 (dk_at dksX17_group_4 14 rfl rfl)
theorem dX17_group_109 : decode cX17_group 109 = .ok (.ireturn, 1) := dk_172 (dk_at dksX17_group_4 17 rfl rfl)
abbrev cX17_isGroup : ByteArray := prog_24_method_71_code
def yX17_isGroup : MethodName := ⟨RX17, "isGroup", "(I)Z"⟩
def dkwX17_isGroup_0 : List UInt8 := [26, 133, 9, 20, 1, 80, 184, 0, 124, 172]
abbrev dktX17_isGroup_0 : List UInt8 := dkwX17_isGroup_0 ++ []
theorem dksX17_isGroup_0 : cX17_isGroup.data.toList.drop 0 = dktX17_isGroup_0 := by decide +kernel
theorem dX17_isGroup_0 : decode cX17_isGroup 0 = .ok (.iload_n 0, 1) := dk_26 (dk_at dksX17_isGroup_0 0 rfl rfl)
theorem dX17_isGroup_1 : decode cX17_isGroup 1 = .ok (.i2l, 1) := dk_133 (dk_at dksX17_isGroup_0 1 rfl rfl)
theorem dX17_isGroup_2 : decode cX17_isGroup 2 = .ok (.lconst 0, 1) := dk_9 (dk_at dksX17_isGroup_0 2 rfl rfl)
theorem dX17_isGroup_3 : decode cX17_isGroup 3 = .ok (.ldc2_w 336, 3) := dk_20 1 80 (dk_at dksX17_isGroup_0 3 rfl rfl)
theorem dX17_isGroup_6 : decode cX17_isGroup 6 = .ok (.invokestatic 124, 3) := dk_184 0 124 (dk_at dksX17_isGroup_0 6 rfl rfl)
theorem dX17_isGroup_9 : decode cX17_isGroup 9 = .ok (.ireturn, 1) := dk_172 (dk_at dksX17_isGroup_0 9 rfl rfl)
abbrev cX17_allKeep : ByteArray := prog_24_method_72_code
def yX17_allKeep : MethodName := ⟨RX17, "allKeep", "(I)Z"⟩
def dkwX17_allKeep_1 : List UInt8 := [182, 0, 217, 153, 0, 7, 4, 167, 0, 4, 3, 61, 132, 3, 1, 167, 255, 222, 28, 172]
abbrev dktX17_allKeep_1 : List UInt8 := dkwX17_allKeep_1 ++ []
def dkwX17_allKeep_0 : List UInt8 := [4, 61, 3, 62, 29, 7, 162, 0, 35, 28, 153, 0, 23, 27, 29, 184, 0, 118, 153, 0, 11, 42, 29]
abbrev dktX17_allKeep_0 : List UInt8 := dkwX17_allKeep_0 ++ dktX17_allKeep_1
theorem dksX17_allKeep_0 : cX17_allKeep.data.toList.drop 0 = dktX17_allKeep_0 := by decide +kernel
theorem dksX17_allKeep_1 : cX17_allKeep.data.toList.drop 23 = dktX17_allKeep_1 := dk_seg dksX17_allKeep_0 23 rfl rfl
theorem dX17_allKeep_0 : decode cX17_allKeep 0 = .ok (.iconst 1, 1) := dk_4 (dk_at dksX17_allKeep_0 0 rfl rfl)
theorem dX17_allKeep_1 : decode cX17_allKeep 1 = .ok (.istore_n 2, 1) := dk_61 (dk_at dksX17_allKeep_0 1 rfl rfl)
theorem dX17_allKeep_2 : decode cX17_allKeep 2 = .ok (.iconst 0, 1) := dk_3 (dk_at dksX17_allKeep_0 2 rfl rfl)
theorem dX17_allKeep_3 : decode cX17_allKeep 3 = .ok (.istore_n 3, 1) := dk_62 (dk_at dksX17_allKeep_0 3 rfl rfl)
theorem dX17_allKeep_4 : decode cX17_allKeep 4 = .ok (.iload_n 3, 1) := dk_29 (dk_at dksX17_allKeep_0 4 rfl rfl)
theorem dX17_allKeep_5 : decode cX17_allKeep 5 = .ok (.iconst 4, 1) := dk_7 (dk_at dksX17_allKeep_0 5 rfl rfl)
theorem dX17_allKeep_6 : decode cX17_allKeep 6 = .ok (.if_icmp .ge 35, 3) := dk_162 0 35 (dk_at dksX17_allKeep_0 6 rfl rfl)
theorem dX17_allKeep_9 : decode cX17_allKeep 9 = .ok (.iload_n 2, 1) := dk_28 (dk_at dksX17_allKeep_0 9 rfl rfl)
theorem dX17_allKeep_10 : decode cX17_allKeep 10 = .ok (.ifCond .eq 23, 3) := dk_153 0 23 (dk_at dksX17_allKeep_0 10 rfl rfl)
theorem dX17_allKeep_13 : decode cX17_allKeep 13 = .ok (.iload_n 1, 1) := dk_27 (dk_at dksX17_allKeep_0 13 rfl rfl)
theorem dX17_allKeep_14 : decode cX17_allKeep 14 = .ok (.iload_n 3, 1) := dk_29 (dk_at dksX17_allKeep_0 14 rfl rfl)
theorem dX17_allKeep_15 : decode cX17_allKeep 15 = .ok (.invokestatic 118, 3) := dk_184 0 118 (dk_at dksX17_allKeep_0 15 rfl rfl)
theorem dX17_allKeep_18 : decode cX17_allKeep 18 = .ok (.ifCond .eq 11, 3) := dk_153 0 11 (dk_at dksX17_allKeep_0 18 rfl rfl)
theorem dX17_allKeep_21 : decode cX17_allKeep 21 = .ok (.aload_n 0, 1) := dk_42 (dk_at dksX17_allKeep_0 21 rfl rfl)
theorem dX17_allKeep_22 : decode cX17_allKeep 22 = .ok (.iload_n 3, 1) := dk_29 (dk_at dksX17_allKeep_0 22 rfl rfl)
theorem dX17_allKeep_23 : decode cX17_allKeep 23 = .ok (.invokevirtual 217, 3) := dk_182 0 217 (dk_at dksX17_allKeep_1 0 rfl rfl)
theorem dX17_allKeep_26 : decode cX17_allKeep 26 = .ok (.ifCond .eq 7, 3) := dk_153 0 7 (dk_at dksX17_allKeep_1 3 rfl rfl)
theorem dX17_allKeep_29 : decode cX17_allKeep 29 = .ok (.iconst 1, 1) := dk_4 (dk_at dksX17_allKeep_1 6 rfl rfl)
theorem dX17_allKeep_30 : decode cX17_allKeep 30 = .ok (.goto 4, 3) := dk_167 0 4 (dk_at dksX17_allKeep_1 7 rfl rfl)
theorem dX17_allKeep_33 : decode cX17_allKeep 33 = .ok (.iconst 0, 1) := dk_3 (dk_at dksX17_allKeep_1 10 rfl rfl)
theorem dX17_allKeep_34 : decode cX17_allKeep 34 = .ok (.istore_n 2, 1) := dk_61 (dk_at dksX17_allKeep_1 11 rfl rfl)
theorem dX17_allKeep_35 : decode cX17_allKeep 35 = .ok (.iinc 3 1, 3) := dk_132 3 1 (dk_at dksX17_allKeep_1 12 rfl rfl)
theorem dX17_allKeep_38 : decode cX17_allKeep 38 = .ok (.goto (-34), 3) := dk_167 255 222 (dk_at dksX17_allKeep_1 15 rfl rfl)
theorem dX17_allKeep_41 : decode cX17_allKeep 41 = .ok (.iload_n 2, 1) := dk_28 (dk_at dksX17_allKeep_1 18 rfl rfl)
theorem dX17_allKeep_42 : decode cX17_allKeep 42 = .ok (.ireturn, 1) := dk_172 (dk_at dksX17_allKeep_1 19 rfl rfl)
abbrev cX17_builds : ByteArray := prog_24_method_69_code
def yX17_builds : MethodName := ⟨RX17, "builds", "(II)V"⟩
def dkwX17_builds_7 : List UInt8 := [21, 4, 29, 182, 1, 77, 132, 4, 1, 167, 255, 233, 132, 3, 1, 167, 255, 216, 177]
abbrev dktX17_builds_7 : List UInt8 := dkwX17_builds_7 ++ []
def dkwX17_builds_6 : List UInt8 := [180, 1, 62, 162, 0, 38, 3, 54, 4, 21, 4, 29, 163, 0, 23, 42, 29, 21, 4, 182, 1, 77, 42]
abbrev dktX17_builds_6 : List UInt8 := dkwX17_builds_6 ++ dktX17_builds_7
def dkwX17_builds_5 : List UInt8 := [21, 4, 79, 132, 4, 1, 167, 255, 219, 42, 182, 1, 65, 132, 3, 1, 167, 255, 201, 3, 62, 29, 42]
abbrev dktX17_builds_5 : List UInt8 := dkwX17_builds_5 ++ dktX17_builds_6
def dkwX17_builds_4 : List UInt8 := [42, 180, 0, 52, 21, 4, 27, 29, 184, 0, 118, 153, 0, 13, 42, 29, 21, 4, 182, 0, 195, 167, 0, 5]
abbrev dktX17_builds_4 : List UInt8 := dkwX17_builds_4 ++ dktX17_builds_5
def dkwX17_builds_3 : List UInt8 := [79, 132, 3, 1, 167, 255, 239, 3, 62, 29, 7, 162, 0, 56, 3, 54, 4, 21, 4, 16, 24, 162, 0, 36]
abbrev dktX17_builds_3 : List UInt8 := dkwX17_builds_3 ++ dktX17_builds_4
def dkwX17_builds_2 : List UInt8 := [28, 182, 1, 74, 42, 3, 181, 1, 62, 3, 62, 29, 17, 2, 64, 162, 0, 16, 42, 180, 0, 43, 29, 2]
abbrev dktX17_builds_2 : List UInt8 := dkwX17_builds_2 ++ dktX17_builds_3
def dkwX17_builds_1 : List UInt8 := [16, 96, 162, 0, 21, 42, 180, 0, 59, 29, 42, 180, 0, 7, 29, 46, 79, 132, 3, 1, 167, 255, 235, 42]
abbrev dktX17_builds_1 : List UInt8 := dkwX17_builds_1 ++ dktX17_builds_2
def dkwX17_builds_0 : List UInt8 := [42, 27, 28, 182, 1, 71, 153, 0, 4, 177, 42, 27, 181, 0, 55, 42, 28, 181, 1, 68, 3, 62, 29]
abbrev dktX17_builds_0 : List UInt8 := dkwX17_builds_0 ++ dktX17_builds_1
theorem dksX17_builds_0 : cX17_builds.data.toList.drop 0 = dktX17_builds_0 := by decide +kernel
theorem dksX17_builds_1 : cX17_builds.data.toList.drop 23 = dktX17_builds_1 := dk_seg dksX17_builds_0 23 rfl rfl
theorem dksX17_builds_2 : cX17_builds.data.toList.drop 47 = dktX17_builds_2 := dk_seg dksX17_builds_1 24 rfl rfl
theorem dksX17_builds_3 : cX17_builds.data.toList.drop 71 = dktX17_builds_3 := dk_seg dksX17_builds_2 24 rfl rfl
theorem dksX17_builds_4 : cX17_builds.data.toList.drop 95 = dktX17_builds_4 := dk_seg dksX17_builds_3 24 rfl rfl
theorem dksX17_builds_5 : cX17_builds.data.toList.drop 119 = dktX17_builds_5 := dk_seg dksX17_builds_4 24 rfl rfl
theorem dksX17_builds_6 : cX17_builds.data.toList.drop 142 = dktX17_builds_6 := dk_seg dksX17_builds_5 23 rfl rfl
theorem dksX17_builds_7 : cX17_builds.data.toList.drop 165 = dktX17_builds_7 := dk_seg dksX17_builds_6 23 rfl rfl
theorem dX17_builds_0 : decode cX17_builds 0 = .ok (.aload_n 0, 1) := dk_42 (dk_at dksX17_builds_0 0 rfl rfl)
theorem dX17_builds_1 : decode cX17_builds 1 = .ok (.iload_n 1, 1) := dk_27 (dk_at dksX17_builds_0 1 rfl rfl)
theorem dX17_builds_2 : decode cX17_builds 2 = .ok (.iload_n 2, 1) := dk_28 (dk_at dksX17_builds_0 2 rfl rfl)
theorem dX17_builds_3 : decode cX17_builds 3 = .ok (.invokevirtual 327, 3) := dk_182 1 71 (dk_at dksX17_builds_0 3 rfl rfl)
theorem dX17_builds_6 : decode cX17_builds 6 = .ok (.ifCond .eq 4, 3) := dk_153 0 4 (dk_at dksX17_builds_0 6 rfl rfl)
theorem dX17_builds_9 : decode cX17_builds 9 = .ok (.return_, 1) := dk_177 (dk_at dksX17_builds_0 9 rfl rfl)
theorem dX17_builds_10 : decode cX17_builds 10 = .ok (.aload_n 0, 1) := dk_42 (dk_at dksX17_builds_0 10 rfl rfl)
theorem dX17_builds_11 : decode cX17_builds 11 = .ok (.iload_n 1, 1) := dk_27 (dk_at dksX17_builds_0 11 rfl rfl)
theorem dX17_builds_12 : decode cX17_builds 12 = .ok (.putfield 55, 3) := dk_181 0 55 (dk_at dksX17_builds_0 12 rfl rfl)
theorem dX17_builds_15 : decode cX17_builds 15 = .ok (.aload_n 0, 1) := dk_42 (dk_at dksX17_builds_0 15 rfl rfl)
theorem dX17_builds_16 : decode cX17_builds 16 = .ok (.iload_n 2, 1) := dk_28 (dk_at dksX17_builds_0 16 rfl rfl)
theorem dX17_builds_17 : decode cX17_builds 17 = .ok (.putfield 324, 3) := dk_181 1 68 (dk_at dksX17_builds_0 17 rfl rfl)
theorem dX17_builds_20 : decode cX17_builds 20 = .ok (.iconst 0, 1) := dk_3 (dk_at dksX17_builds_0 20 rfl rfl)
theorem dX17_builds_21 : decode cX17_builds 21 = .ok (.istore_n 3, 1) := dk_62 (dk_at dksX17_builds_0 21 rfl rfl)
theorem dX17_builds_22 : decode cX17_builds 22 = .ok (.iload_n 3, 1) := dk_29 (dk_at dksX17_builds_0 22 rfl rfl)
theorem dX17_builds_23 : decode cX17_builds 23 = .ok (.bipush 96, 2) := dk_16 96 (dk_at dksX17_builds_1 0 rfl rfl)
theorem dX17_builds_25 : decode cX17_builds 25 = .ok (.if_icmp .ge 21, 3) := dk_162 0 21 (dk_at dksX17_builds_1 2 rfl rfl)
theorem dX17_builds_28 : decode cX17_builds 28 = .ok (.aload_n 0, 1) := dk_42 (dk_at dksX17_builds_1 5 rfl rfl)
theorem dX17_builds_29 : decode cX17_builds 29 = .ok (.getfield 59, 3) := dk_180 0 59 (dk_at dksX17_builds_1 6 rfl rfl)
theorem dX17_builds_32 : decode cX17_builds 32 = .ok (.iload_n 3, 1) := dk_29 (dk_at dksX17_builds_1 9 rfl rfl)
theorem dX17_builds_33 : decode cX17_builds 33 = .ok (.aload_n 0, 1) := dk_42 (dk_at dksX17_builds_1 10 rfl rfl)
theorem dX17_builds_34 : decode cX17_builds 34 = .ok (.getfield 7, 3) := dk_180 0 7 (dk_at dksX17_builds_1 11 rfl rfl)
theorem dX17_builds_37 : decode cX17_builds 37 = .ok (.iload_n 3, 1) := dk_29 (dk_at dksX17_builds_1 14 rfl rfl)
theorem dX17_builds_38 : decode cX17_builds 38 = .ok (.iaload, 1) := dk_46 (dk_at dksX17_builds_1 15 rfl rfl)
theorem dX17_builds_39 : decode cX17_builds 39 = .ok (.iastore, 1) := dk_79 (dk_at dksX17_builds_1 16 rfl rfl)
theorem dX17_builds_40 : decode cX17_builds 40 = .ok (.iinc 3 1, 3) := dk_132 3 1 (dk_at dksX17_builds_1 17 rfl rfl)
theorem dX17_builds_43 : decode cX17_builds 43 = .ok (.goto (-21), 3) := dk_167 255 235 (dk_at dksX17_builds_1 20 rfl rfl)
theorem dX17_builds_46 : decode cX17_builds 46 = .ok (.aload_n 0, 1) := dk_42 (dk_at dksX17_builds_1 23 rfl rfl)
theorem dX17_builds_47 : decode cX17_builds 47 = .ok (.iload_n 2, 1) := dk_28 (dk_at dksX17_builds_2 0 rfl rfl)
theorem dX17_builds_48 : decode cX17_builds 48 = .ok (.invokevirtual 330, 3) := dk_182 1 74 (dk_at dksX17_builds_2 1 rfl rfl)
theorem dX17_builds_51 : decode cX17_builds 51 = .ok (.aload_n 0, 1) := dk_42 (dk_at dksX17_builds_2 4 rfl rfl)
theorem dX17_builds_52 : decode cX17_builds 52 = .ok (.iconst 0, 1) := dk_3 (dk_at dksX17_builds_2 5 rfl rfl)
theorem dX17_builds_53 : decode cX17_builds 53 = .ok (.putfield 318, 3) := dk_181 1 62 (dk_at dksX17_builds_2 6 rfl rfl)
theorem dX17_builds_56 : decode cX17_builds 56 = .ok (.iconst 0, 1) := dk_3 (dk_at dksX17_builds_2 9 rfl rfl)
theorem dX17_builds_57 : decode cX17_builds 57 = .ok (.istore_n 3, 1) := dk_62 (dk_at dksX17_builds_2 10 rfl rfl)
theorem dX17_builds_58 : decode cX17_builds 58 = .ok (.iload_n 3, 1) := dk_29 (dk_at dksX17_builds_2 11 rfl rfl)
theorem dX17_builds_59 : decode cX17_builds 59 = .ok (.sipush 576, 3) := dk_17 2 64 (dk_at dksX17_builds_2 12 rfl rfl)
theorem dX17_builds_62 : decode cX17_builds 62 = .ok (.if_icmp .ge 16, 3) := dk_162 0 16 (dk_at dksX17_builds_2 15 rfl rfl)
theorem dX17_builds_65 : decode cX17_builds 65 = .ok (.aload_n 0, 1) := dk_42 (dk_at dksX17_builds_2 18 rfl rfl)
theorem dX17_builds_66 : decode cX17_builds 66 = .ok (.getfield 43, 3) := dk_180 0 43 (dk_at dksX17_builds_2 19 rfl rfl)
theorem dX17_builds_69 : decode cX17_builds 69 = .ok (.iload_n 3, 1) := dk_29 (dk_at dksX17_builds_2 22 rfl rfl)
theorem dX17_builds_70 : decode cX17_builds 70 = .ok (.iconst (-1), 1) := dk_2 (dk_at dksX17_builds_2 23 rfl rfl)
theorem dX17_builds_71 : decode cX17_builds 71 = .ok (.iastore, 1) := dk_79 (dk_at dksX17_builds_3 0 rfl rfl)
theorem dX17_builds_72 : decode cX17_builds 72 = .ok (.iinc 3 1, 3) := dk_132 3 1 (dk_at dksX17_builds_3 1 rfl rfl)
theorem dX17_builds_75 : decode cX17_builds 75 = .ok (.goto (-17), 3) := dk_167 255 239 (dk_at dksX17_builds_3 4 rfl rfl)
theorem dX17_builds_78 : decode cX17_builds 78 = .ok (.iconst 0, 1) := dk_3 (dk_at dksX17_builds_3 7 rfl rfl)
theorem dX17_builds_79 : decode cX17_builds 79 = .ok (.istore_n 3, 1) := dk_62 (dk_at dksX17_builds_3 8 rfl rfl)
theorem dX17_builds_80 : decode cX17_builds 80 = .ok (.iload_n 3, 1) := dk_29 (dk_at dksX17_builds_3 9 rfl rfl)
theorem dX17_builds_81 : decode cX17_builds 81 = .ok (.iconst 4, 1) := dk_7 (dk_at dksX17_builds_3 10 rfl rfl)
theorem dX17_builds_82 : decode cX17_builds 82 = .ok (.if_icmp .ge 56, 3) := dk_162 0 56 (dk_at dksX17_builds_3 11 rfl rfl)
theorem dX17_builds_85 : decode cX17_builds 85 = .ok (.iconst 0, 1) := dk_3 (dk_at dksX17_builds_3 14 rfl rfl)
theorem dX17_builds_86 : decode cX17_builds 86 = .ok (.istore 4, 2) := dk_54 4 (dk_at dksX17_builds_3 15 rfl rfl)
theorem dX17_builds_88 : decode cX17_builds 88 = .ok (.iload 4, 2) := dk_21 4 (dk_at dksX17_builds_3 17 rfl rfl)
theorem dX17_builds_90 : decode cX17_builds 90 = .ok (.bipush 24, 2) := dk_16 24 (dk_at dksX17_builds_3 19 rfl rfl)
theorem dX17_builds_92 : decode cX17_builds 92 = .ok (.if_icmp .ge 36, 3) := dk_162 0 36 (dk_at dksX17_builds_3 21 rfl rfl)
theorem dX17_builds_95 : decode cX17_builds 95 = .ok (.aload_n 0, 1) := dk_42 (dk_at dksX17_builds_4 0 rfl rfl)
theorem dX17_builds_96 : decode cX17_builds 96 = .ok (.getfield 52, 3) := dk_180 0 52 (dk_at dksX17_builds_4 1 rfl rfl)
theorem dX17_builds_99 : decode cX17_builds 99 = .ok (.iload 4, 2) := dk_21 4 (dk_at dksX17_builds_4 4 rfl rfl)
theorem dX17_builds_101 : decode cX17_builds 101 = .ok (.iload_n 1, 1) := dk_27 (dk_at dksX17_builds_4 6 rfl rfl)
theorem dX17_builds_102 : decode cX17_builds 102 = .ok (.iload_n 3, 1) := dk_29 (dk_at dksX17_builds_4 7 rfl rfl)
theorem dX17_builds_103 : decode cX17_builds 103 = .ok (.invokestatic 118, 3) := dk_184 0 118 (dk_at dksX17_builds_4 8 rfl rfl)
theorem dX17_builds_106 : decode cX17_builds 106 = .ok (.ifCond .eq 13, 3) := dk_153 0 13 (dk_at dksX17_builds_4 11 rfl rfl)
theorem dX17_builds_109 : decode cX17_builds 109 = .ok (.aload_n 0, 1) := dk_42 (dk_at dksX17_builds_4 14 rfl rfl)
theorem dX17_builds_110 : decode cX17_builds 110 = .ok (.iload_n 3, 1) := dk_29 (dk_at dksX17_builds_4 15 rfl rfl)
theorem dX17_builds_111 : decode cX17_builds 111 = .ok (.iload 4, 2) := dk_21 4 (dk_at dksX17_builds_4 16 rfl rfl)
theorem dX17_builds_113 : decode cX17_builds 113 = .ok (.invokevirtual 195, 3) := dk_182 0 195 (dk_at dksX17_builds_4 18 rfl rfl)
theorem dX17_builds_116 : decode cX17_builds 116 = .ok (.goto 5, 3) := dk_167 0 5 (dk_at dksX17_builds_4 21 rfl rfl)
theorem dX17_builds_119 : decode cX17_builds 119 = .ok (.iload 4, 2) := dk_21 4 (dk_at dksX17_builds_5 0 rfl rfl)
theorem dX17_builds_121 : decode cX17_builds 121 = .ok (.iastore, 1) := dk_79 (dk_at dksX17_builds_5 2 rfl rfl)
theorem dX17_builds_122 : decode cX17_builds 122 = .ok (.iinc 4 1, 3) := dk_132 4 1 (dk_at dksX17_builds_5 3 rfl rfl)
theorem dX17_builds_125 : decode cX17_builds 125 = .ok (.goto (-37), 3) := dk_167 255 219 (dk_at dksX17_builds_5 6 rfl rfl)
theorem dX17_builds_128 : decode cX17_builds 128 = .ok (.aload_n 0, 1) := dk_42 (dk_at dksX17_builds_5 9 rfl rfl)
theorem dX17_builds_129 : decode cX17_builds 129 = .ok (.invokevirtual 321, 3) := dk_182 1 65 (dk_at dksX17_builds_5 10 rfl rfl)
theorem dX17_builds_132 : decode cX17_builds 132 = .ok (.iinc 3 1, 3) := dk_132 3 1 (dk_at dksX17_builds_5 13 rfl rfl)
theorem dX17_builds_135 : decode cX17_builds 135 = .ok (.goto (-55), 3) := dk_167 255 201 (dk_at dksX17_builds_5 16 rfl rfl)
theorem dX17_builds_138 : decode cX17_builds 138 = .ok (.iconst 0, 1) := dk_3 (dk_at dksX17_builds_5 19 rfl rfl)
theorem dX17_builds_139 : decode cX17_builds 139 = .ok (.istore_n 3, 1) := dk_62 (dk_at dksX17_builds_5 20 rfl rfl)
theorem dX17_builds_140 : decode cX17_builds 140 = .ok (.iload_n 3, 1) := dk_29 (dk_at dksX17_builds_5 21 rfl rfl)
theorem dX17_builds_141 : decode cX17_builds 141 = .ok (.aload_n 0, 1) := dk_42 (dk_at dksX17_builds_5 22 rfl rfl)
theorem dX17_builds_142 : decode cX17_builds 142 = .ok (.getfield 318, 3) := dk_180 1 62 (dk_at dksX17_builds_6 0 rfl rfl)
theorem dX17_builds_145 : decode cX17_builds 145 = .ok (.if_icmp .ge 38, 3) := dk_162 0 38 (dk_at dksX17_builds_6 3 rfl rfl)
theorem dX17_builds_148 : decode cX17_builds 148 = .ok (.iconst 0, 1) := dk_3 (dk_at dksX17_builds_6 6 rfl rfl)
theorem dX17_builds_149 : decode cX17_builds 149 = .ok (.istore 4, 2) := dk_54 4 (dk_at dksX17_builds_6 7 rfl rfl)
theorem dX17_builds_151 : decode cX17_builds 151 = .ok (.iload 4, 2) := dk_21 4 (dk_at dksX17_builds_6 9 rfl rfl)
theorem dX17_builds_153 : decode cX17_builds 153 = .ok (.iload_n 3, 1) := dk_29 (dk_at dksX17_builds_6 11 rfl rfl)
theorem dX17_builds_154 : decode cX17_builds 154 = .ok (.if_icmp .gt 23, 3) := dk_163 0 23 (dk_at dksX17_builds_6 12 rfl rfl)
theorem dX17_builds_157 : decode cX17_builds 157 = .ok (.aload_n 0, 1) := dk_42 (dk_at dksX17_builds_6 15 rfl rfl)
theorem dX17_builds_158 : decode cX17_builds 158 = .ok (.iload_n 3, 1) := dk_29 (dk_at dksX17_builds_6 16 rfl rfl)
theorem dX17_builds_159 : decode cX17_builds 159 = .ok (.iload 4, 2) := dk_21 4 (dk_at dksX17_builds_6 17 rfl rfl)
theorem dX17_builds_161 : decode cX17_builds 161 = .ok (.invokevirtual 333, 3) := dk_182 1 77 (dk_at dksX17_builds_6 19 rfl rfl)
theorem dX17_builds_164 : decode cX17_builds 164 = .ok (.aload_n 0, 1) := dk_42 (dk_at dksX17_builds_6 22 rfl rfl)
theorem dX17_builds_165 : decode cX17_builds 165 = .ok (.iload 4, 2) := dk_21 4 (dk_at dksX17_builds_7 0 rfl rfl)
theorem dX17_builds_167 : decode cX17_builds 167 = .ok (.iload_n 3, 1) := dk_29 (dk_at dksX17_builds_7 2 rfl rfl)
theorem dX17_builds_168 : decode cX17_builds 168 = .ok (.invokevirtual 333, 3) := dk_182 1 77 (dk_at dksX17_builds_7 3 rfl rfl)
theorem dX17_builds_171 : decode cX17_builds 171 = .ok (.iinc 4 1, 3) := dk_132 4 1 (dk_at dksX17_builds_7 6 rfl rfl)
theorem dX17_builds_174 : decode cX17_builds 174 = .ok (.goto (-23), 3) := dk_167 255 233 (dk_at dksX17_builds_7 9 rfl rfl)
theorem dX17_builds_177 : decode cX17_builds 177 = .ok (.iinc 3 1, 3) := dk_132 3 1 (dk_at dksX17_builds_7 12 rfl rfl)
theorem dX17_builds_180 : decode cX17_builds 180 = .ok (.goto (-40), 3) := dk_167 255 216 (dk_at dksX17_builds_7 15 rfl rfl)
theorem dX17_builds_183 : decode cX17_builds 183 = .ok (.return_, 1) := dk_177 (dk_at dksX17_builds_7 18 rfl rfl)
abbrev cX17_stands : ByteArray := prog_24_method_68_code
def yX17_stands : MethodName := ⟨RX17, "stands", "(II)Z"⟩
def dkwX17_stands_2 : List UInt8 := [21, 4, 46, 160, 0, 7, 4, 167, 0, 4, 3, 62, 132, 4, 1, 167, 255, 219, 29, 172]
abbrev dktX17_stands_2 : List UInt8 := dkwX17_stands_2 ++ []
def dkwX17_stands_1 : List UInt8 := [54, 4, 21, 4, 16, 96, 162, 0, 36, 29, 153, 0, 32, 42, 180, 0, 59, 21, 4, 46, 42, 180, 0, 7]
abbrev dktX17_stands_1 : List UInt8 := dkwX17_stands_1 ++ dktX17_stands_2
def dkwX17_stands_0 : List UInt8 := [42, 180, 0, 55, 27, 160, 0, 15, 42, 180, 1, 68, 28, 160, 0, 7, 4, 167, 0, 4, 3, 62, 3]
abbrev dktX17_stands_0 : List UInt8 := dkwX17_stands_0 ++ dktX17_stands_1
theorem dksX17_stands_0 : cX17_stands.data.toList.drop 0 = dktX17_stands_0 := by decide +kernel
theorem dksX17_stands_1 : cX17_stands.data.toList.drop 23 = dktX17_stands_1 := dk_seg dksX17_stands_0 23 rfl rfl
theorem dksX17_stands_2 : cX17_stands.data.toList.drop 47 = dktX17_stands_2 := dk_seg dksX17_stands_1 24 rfl rfl
theorem dX17_stands_0 : decode cX17_stands 0 = .ok (.aload_n 0, 1) := dk_42 (dk_at dksX17_stands_0 0 rfl rfl)
theorem dX17_stands_1 : decode cX17_stands 1 = .ok (.getfield 55, 3) := dk_180 0 55 (dk_at dksX17_stands_0 1 rfl rfl)
theorem dX17_stands_4 : decode cX17_stands 4 = .ok (.iload_n 1, 1) := dk_27 (dk_at dksX17_stands_0 4 rfl rfl)
theorem dX17_stands_5 : decode cX17_stands 5 = .ok (.if_icmp .ne 15, 3) := dk_160 0 15 (dk_at dksX17_stands_0 5 rfl rfl)
theorem dX17_stands_8 : decode cX17_stands 8 = .ok (.aload_n 0, 1) := dk_42 (dk_at dksX17_stands_0 8 rfl rfl)
theorem dX17_stands_9 : decode cX17_stands 9 = .ok (.getfield 324, 3) := dk_180 1 68 (dk_at dksX17_stands_0 9 rfl rfl)
theorem dX17_stands_12 : decode cX17_stands 12 = .ok (.iload_n 2, 1) := dk_28 (dk_at dksX17_stands_0 12 rfl rfl)
theorem dX17_stands_13 : decode cX17_stands 13 = .ok (.if_icmp .ne 7, 3) := dk_160 0 7 (dk_at dksX17_stands_0 13 rfl rfl)
theorem dX17_stands_16 : decode cX17_stands 16 = .ok (.iconst 1, 1) := dk_4 (dk_at dksX17_stands_0 16 rfl rfl)
theorem dX17_stands_17 : decode cX17_stands 17 = .ok (.goto 4, 3) := dk_167 0 4 (dk_at dksX17_stands_0 17 rfl rfl)
theorem dX17_stands_20 : decode cX17_stands 20 = .ok (.iconst 0, 1) := dk_3 (dk_at dksX17_stands_0 20 rfl rfl)
theorem dX17_stands_21 : decode cX17_stands 21 = .ok (.istore_n 3, 1) := dk_62 (dk_at dksX17_stands_0 21 rfl rfl)
theorem dX17_stands_22 : decode cX17_stands 22 = .ok (.iconst 0, 1) := dk_3 (dk_at dksX17_stands_0 22 rfl rfl)
theorem dX17_stands_23 : decode cX17_stands 23 = .ok (.istore 4, 2) := dk_54 4 (dk_at dksX17_stands_1 0 rfl rfl)
theorem dX17_stands_25 : decode cX17_stands 25 = .ok (.iload 4, 2) := dk_21 4 (dk_at dksX17_stands_1 2 rfl rfl)
theorem dX17_stands_27 : decode cX17_stands 27 = .ok (.bipush 96, 2) := dk_16 96 (dk_at dksX17_stands_1 4 rfl rfl)
theorem dX17_stands_29 : decode cX17_stands 29 = .ok (.if_icmp .ge 36, 3) := dk_162 0 36 (dk_at dksX17_stands_1 6 rfl rfl)
theorem dX17_stands_32 : decode cX17_stands 32 = .ok (.iload_n 3, 1) := dk_29 (dk_at dksX17_stands_1 9 rfl rfl)
theorem dX17_stands_33 : decode cX17_stands 33 = .ok (.ifCond .eq 32, 3) := dk_153 0 32 (dk_at dksX17_stands_1 10 rfl rfl)
theorem dX17_stands_36 : decode cX17_stands 36 = .ok (.aload_n 0, 1) := dk_42 (dk_at dksX17_stands_1 13 rfl rfl)
theorem dX17_stands_37 : decode cX17_stands 37 = .ok (.getfield 59, 3) := dk_180 0 59 (dk_at dksX17_stands_1 14 rfl rfl)
theorem dX17_stands_40 : decode cX17_stands 40 = .ok (.iload 4, 2) := dk_21 4 (dk_at dksX17_stands_1 17 rfl rfl)
theorem dX17_stands_42 : decode cX17_stands 42 = .ok (.iaload, 1) := dk_46 (dk_at dksX17_stands_1 19 rfl rfl)
theorem dX17_stands_43 : decode cX17_stands 43 = .ok (.aload_n 0, 1) := dk_42 (dk_at dksX17_stands_1 20 rfl rfl)
theorem dX17_stands_44 : decode cX17_stands 44 = .ok (.getfield 7, 3) := dk_180 0 7 (dk_at dksX17_stands_1 21 rfl rfl)
theorem dX17_stands_47 : decode cX17_stands 47 = .ok (.iload 4, 2) := dk_21 4 (dk_at dksX17_stands_2 0 rfl rfl)
theorem dX17_stands_49 : decode cX17_stands 49 = .ok (.iaload, 1) := dk_46 (dk_at dksX17_stands_2 2 rfl rfl)
theorem dX17_stands_50 : decode cX17_stands 50 = .ok (.if_icmp .ne 7, 3) := dk_160 0 7 (dk_at dksX17_stands_2 3 rfl rfl)
theorem dX17_stands_53 : decode cX17_stands 53 = .ok (.iconst 1, 1) := dk_4 (dk_at dksX17_stands_2 6 rfl rfl)
theorem dX17_stands_54 : decode cX17_stands 54 = .ok (.goto 4, 3) := dk_167 0 4 (dk_at dksX17_stands_2 7 rfl rfl)
theorem dX17_stands_57 : decode cX17_stands 57 = .ok (.iconst 0, 1) := dk_3 (dk_at dksX17_stands_2 10 rfl rfl)
theorem dX17_stands_58 : decode cX17_stands 58 = .ok (.istore_n 3, 1) := dk_62 (dk_at dksX17_stands_2 11 rfl rfl)
theorem dX17_stands_59 : decode cX17_stands 59 = .ok (.iinc 4 1, 3) := dk_132 4 1 (dk_at dksX17_stands_2 12 rfl rfl)
theorem dX17_stands_62 : decode cX17_stands 62 = .ok (.goto (-37), 3) := dk_167 255 219 (dk_at dksX17_stands_2 15 rfl rfl)
theorem dX17_stands_65 : decode cX17_stands 65 = .ok (.iload_n 3, 1) := dk_29 (dk_at dksX17_stands_2 18 rfl rfl)
theorem dX17_stands_66 : decode cX17_stands 66 = .ok (.ireturn, 1) := dk_172 (dk_at dksX17_stands_2 19 rfl rfl)
abbrev cX17_bases : ByteArray := prog_24_method_67_code
def yX17_bases : MethodName := ⟨RX17, "bases", "(I)V"⟩
def dkwX17_bases_2 : List UInt8 := [167, 255, 212, 177]
abbrev dktX17_bases_2 : List UInt8 := dkwX17_bases_2 ++ []
def dkwX17_bases_1 : List UInt8 := [4, 167, 0, 4, 3, 160, 0, 16, 42, 180, 0, 40, 28, 29, 16, 24, 112, 79, 132, 2, 1, 132, 3, 1]
abbrev dktX17_bases_1 : List UInt8 := dkwX17_bases_1 ++ dktX17_bases_2
def dkwX17_bases_0 : List UInt8 := [3, 61, 3, 62, 29, 16, 48, 162, 0, 44, 27, 29, 16, 24, 112, 184, 0, 118, 29, 16, 24, 162, 0, 7]
abbrev dktX17_bases_0 : List UInt8 := dkwX17_bases_0 ++ dktX17_bases_1
theorem dksX17_bases_0 : cX17_bases.data.toList.drop 0 = dktX17_bases_0 := by decide +kernel
theorem dksX17_bases_1 : cX17_bases.data.toList.drop 24 = dktX17_bases_1 := dk_seg dksX17_bases_0 24 rfl rfl
theorem dksX17_bases_2 : cX17_bases.data.toList.drop 48 = dktX17_bases_2 := dk_seg dksX17_bases_1 24 rfl rfl
theorem dX17_bases_0 : decode cX17_bases 0 = .ok (.iconst 0, 1) := dk_3 (dk_at dksX17_bases_0 0 rfl rfl)
theorem dX17_bases_1 : decode cX17_bases 1 = .ok (.istore_n 2, 1) := dk_61 (dk_at dksX17_bases_0 1 rfl rfl)
theorem dX17_bases_2 : decode cX17_bases 2 = .ok (.iconst 0, 1) := dk_3 (dk_at dksX17_bases_0 2 rfl rfl)
theorem dX17_bases_3 : decode cX17_bases 3 = .ok (.istore_n 3, 1) := dk_62 (dk_at dksX17_bases_0 3 rfl rfl)
theorem dX17_bases_4 : decode cX17_bases 4 = .ok (.iload_n 3, 1) := dk_29 (dk_at dksX17_bases_0 4 rfl rfl)
theorem dX17_bases_5 : decode cX17_bases 5 = .ok (.bipush 48, 2) := dk_16 48 (dk_at dksX17_bases_0 5 rfl rfl)
theorem dX17_bases_7 : decode cX17_bases 7 = .ok (.if_icmp .ge 44, 3) := dk_162 0 44 (dk_at dksX17_bases_0 7 rfl rfl)
theorem dX17_bases_10 : decode cX17_bases 10 = .ok (.iload_n 1, 1) := dk_27 (dk_at dksX17_bases_0 10 rfl rfl)
theorem dX17_bases_11 : decode cX17_bases 11 = .ok (.iload_n 3, 1) := dk_29 (dk_at dksX17_bases_0 11 rfl rfl)
theorem dX17_bases_12 : decode cX17_bases 12 = .ok (.bipush 24, 2) := dk_16 24 (dk_at dksX17_bases_0 12 rfl rfl)
theorem dX17_bases_14 : decode cX17_bases 14 = .ok (.irem, 1) := dk_112 (dk_at dksX17_bases_0 14 rfl rfl)
theorem dX17_bases_15 : decode cX17_bases 15 = .ok (.invokestatic 118, 3) := dk_184 0 118 (dk_at dksX17_bases_0 15 rfl rfl)
theorem dX17_bases_18 : decode cX17_bases 18 = .ok (.iload_n 3, 1) := dk_29 (dk_at dksX17_bases_0 18 rfl rfl)
theorem dX17_bases_19 : decode cX17_bases 19 = .ok (.bipush 24, 2) := dk_16 24 (dk_at dksX17_bases_0 19 rfl rfl)
theorem dX17_bases_21 : decode cX17_bases 21 = .ok (.if_icmp .ge 7, 3) := dk_162 0 7 (dk_at dksX17_bases_0 21 rfl rfl)
theorem dX17_bases_24 : decode cX17_bases 24 = .ok (.iconst 1, 1) := dk_4 (dk_at dksX17_bases_1 0 rfl rfl)
theorem dX17_bases_25 : decode cX17_bases 25 = .ok (.goto 4, 3) := dk_167 0 4 (dk_at dksX17_bases_1 1 rfl rfl)
theorem dX17_bases_28 : decode cX17_bases 28 = .ok (.iconst 0, 1) := dk_3 (dk_at dksX17_bases_1 4 rfl rfl)
theorem dX17_bases_29 : decode cX17_bases 29 = .ok (.if_icmp .ne 16, 3) := dk_160 0 16 (dk_at dksX17_bases_1 5 rfl rfl)
theorem dX17_bases_32 : decode cX17_bases 32 = .ok (.aload_n 0, 1) := dk_42 (dk_at dksX17_bases_1 8 rfl rfl)
theorem dX17_bases_33 : decode cX17_bases 33 = .ok (.getfield 40, 3) := dk_180 0 40 (dk_at dksX17_bases_1 9 rfl rfl)
theorem dX17_bases_36 : decode cX17_bases 36 = .ok (.iload_n 2, 1) := dk_28 (dk_at dksX17_bases_1 12 rfl rfl)
theorem dX17_bases_37 : decode cX17_bases 37 = .ok (.iload_n 3, 1) := dk_29 (dk_at dksX17_bases_1 13 rfl rfl)
theorem dX17_bases_38 : decode cX17_bases 38 = .ok (.bipush 24, 2) := dk_16 24 (dk_at dksX17_bases_1 14 rfl rfl)
theorem dX17_bases_40 : decode cX17_bases 40 = .ok (.irem, 1) := dk_112 (dk_at dksX17_bases_1 16 rfl rfl)
theorem dX17_bases_41 : decode cX17_bases 41 = .ok (.iastore, 1) := dk_79 (dk_at dksX17_bases_1 17 rfl rfl)
theorem dX17_bases_42 : decode cX17_bases 42 = .ok (.iinc 2 1, 3) := dk_132 2 1 (dk_at dksX17_bases_1 18 rfl rfl)
theorem dX17_bases_45 : decode cX17_bases 45 = .ok (.iinc 3 1, 3) := dk_132 3 1 (dk_at dksX17_bases_1 21 rfl rfl)
theorem dX17_bases_48 : decode cX17_bases 48 = .ok (.goto (-44), 3) := dk_167 255 212 (dk_at dksX17_bases_2 0 rfl rfl)
theorem dX17_bases_51 : decode cX17_bases 51 = .ok (.return_, 1) := dk_177 (dk_at dksX17_bases_2 3 rfl rfl)
abbrev cX17_adds : ByteArray := prog_24_method_65_code
def yX17_adds : MethodName := ⟨RX17, "adds", "()V"⟩
def dkwX17_adds_4 : List UInt8 := [4, 96, 181, 1, 62, 177]
abbrev dktX17_adds_4 : List UInt8 := dkwX17_adds_4 ++ []
def dkwX17_adds_3 : List UInt8 := [180, 1, 62, 104, 28, 96, 42, 180, 0, 52, 28, 46, 79, 132, 2, 1, 167, 255, 227, 42, 89, 180, 1, 62]
abbrev dktX17_adds_3 : List UInt8 := dkwX17_adds_3 ++ dktX17_adds_4
def dkwX17_adds_2 : List UInt8 := [180, 0, 49, 42, 180, 1, 62, 27, 79, 3, 61, 28, 16, 24, 162, 0, 29, 42, 180, 0, 46, 16, 24, 42]
abbrev dktX17_adds_2 : List UInt8 := dkwX17_adds_2 ++ dktX17_adds_3
def dkwX17_adds_1 : List UInt8 := [16, 24, 27, 104, 42, 180, 0, 52, 42, 180, 0, 40, 27, 46, 46, 96, 42, 180, 1, 62, 79, 42]
abbrev dktX17_adds_1 : List UInt8 := dkwX17_adds_1 ++ dktX17_adds_2
def dkwX17_adds_0 : List UInt8 := [42, 182, 1, 59, 60, 27, 155, 0, 12, 42, 180, 1, 62, 16, 124, 160, 0, 4, 177, 42, 180, 0, 43]
abbrev dktX17_adds_0 : List UInt8 := dkwX17_adds_0 ++ dktX17_adds_1
theorem dksX17_adds_0 : cX17_adds.data.toList.drop 0 = dktX17_adds_0 := by decide +kernel
theorem dksX17_adds_1 : cX17_adds.data.toList.drop 23 = dktX17_adds_1 := dk_seg dksX17_adds_0 23 rfl rfl
theorem dksX17_adds_2 : cX17_adds.data.toList.drop 45 = dktX17_adds_2 := dk_seg dksX17_adds_1 22 rfl rfl
theorem dksX17_adds_3 : cX17_adds.data.toList.drop 69 = dktX17_adds_3 := dk_seg dksX17_adds_2 24 rfl rfl
theorem dksX17_adds_4 : cX17_adds.data.toList.drop 93 = dktX17_adds_4 := dk_seg dksX17_adds_3 24 rfl rfl
theorem dX17_adds_0 : decode cX17_adds 0 = .ok (.aload_n 0, 1) := dk_42 (dk_at dksX17_adds_0 0 rfl rfl)
theorem dX17_adds_1 : decode cX17_adds 1 = .ok (.invokevirtual 315, 3) := dk_182 1 59 (dk_at dksX17_adds_0 1 rfl rfl)
theorem dX17_adds_4 : decode cX17_adds 4 = .ok (.istore_n 1, 1) := dk_60 (dk_at dksX17_adds_0 4 rfl rfl)
theorem dX17_adds_5 : decode cX17_adds 5 = .ok (.iload_n 1, 1) := dk_27 (dk_at dksX17_adds_0 5 rfl rfl)
theorem dX17_adds_6 : decode cX17_adds 6 = .ok (.ifCond .lt 12, 3) := dk_155 0 12 (dk_at dksX17_adds_0 6 rfl rfl)
theorem dX17_adds_9 : decode cX17_adds 9 = .ok (.aload_n 0, 1) := dk_42 (dk_at dksX17_adds_0 9 rfl rfl)
theorem dX17_adds_10 : decode cX17_adds 10 = .ok (.getfield 318, 3) := dk_180 1 62 (dk_at dksX17_adds_0 10 rfl rfl)
theorem dX17_adds_13 : decode cX17_adds 13 = .ok (.bipush 124, 2) := dk_16 124 (dk_at dksX17_adds_0 13 rfl rfl)
theorem dX17_adds_15 : decode cX17_adds 15 = .ok (.if_icmp .ne 4, 3) := dk_160 0 4 (dk_at dksX17_adds_0 15 rfl rfl)
theorem dX17_adds_18 : decode cX17_adds 18 = .ok (.return_, 1) := dk_177 (dk_at dksX17_adds_0 18 rfl rfl)
theorem dX17_adds_19 : decode cX17_adds 19 = .ok (.aload_n 0, 1) := dk_42 (dk_at dksX17_adds_0 19 rfl rfl)
theorem dX17_adds_20 : decode cX17_adds 20 = .ok (.getfield 43, 3) := dk_180 0 43 (dk_at dksX17_adds_0 20 rfl rfl)
theorem dX17_adds_23 : decode cX17_adds 23 = .ok (.bipush 24, 2) := dk_16 24 (dk_at dksX17_adds_1 0 rfl rfl)
theorem dX17_adds_25 : decode cX17_adds 25 = .ok (.iload_n 1, 1) := dk_27 (dk_at dksX17_adds_1 2 rfl rfl)
theorem dX17_adds_26 : decode cX17_adds 26 = .ok (.imul, 1) := dk_104 (dk_at dksX17_adds_1 3 rfl rfl)
theorem dX17_adds_27 : decode cX17_adds 27 = .ok (.aload_n 0, 1) := dk_42 (dk_at dksX17_adds_1 4 rfl rfl)
theorem dX17_adds_28 : decode cX17_adds 28 = .ok (.getfield 52, 3) := dk_180 0 52 (dk_at dksX17_adds_1 5 rfl rfl)
theorem dX17_adds_31 : decode cX17_adds 31 = .ok (.aload_n 0, 1) := dk_42 (dk_at dksX17_adds_1 8 rfl rfl)
theorem dX17_adds_32 : decode cX17_adds 32 = .ok (.getfield 40, 3) := dk_180 0 40 (dk_at dksX17_adds_1 9 rfl rfl)
theorem dX17_adds_35 : decode cX17_adds 35 = .ok (.iload_n 1, 1) := dk_27 (dk_at dksX17_adds_1 12 rfl rfl)
theorem dX17_adds_36 : decode cX17_adds 36 = .ok (.iaload, 1) := dk_46 (dk_at dksX17_adds_1 13 rfl rfl)
theorem dX17_adds_37 : decode cX17_adds 37 = .ok (.iaload, 1) := dk_46 (dk_at dksX17_adds_1 14 rfl rfl)
theorem dX17_adds_38 : decode cX17_adds 38 = .ok (.iadd, 1) := dk_96 (dk_at dksX17_adds_1 15 rfl rfl)
theorem dX17_adds_39 : decode cX17_adds 39 = .ok (.aload_n 0, 1) := dk_42 (dk_at dksX17_adds_1 16 rfl rfl)
theorem dX17_adds_40 : decode cX17_adds 40 = .ok (.getfield 318, 3) := dk_180 1 62 (dk_at dksX17_adds_1 17 rfl rfl)
theorem dX17_adds_43 : decode cX17_adds 43 = .ok (.iastore, 1) := dk_79 (dk_at dksX17_adds_1 20 rfl rfl)
theorem dX17_adds_44 : decode cX17_adds 44 = .ok (.aload_n 0, 1) := dk_42 (dk_at dksX17_adds_1 21 rfl rfl)
theorem dX17_adds_45 : decode cX17_adds 45 = .ok (.getfield 49, 3) := dk_180 0 49 (dk_at dksX17_adds_2 0 rfl rfl)
theorem dX17_adds_48 : decode cX17_adds 48 = .ok (.aload_n 0, 1) := dk_42 (dk_at dksX17_adds_2 3 rfl rfl)
theorem dX17_adds_49 : decode cX17_adds 49 = .ok (.getfield 318, 3) := dk_180 1 62 (dk_at dksX17_adds_2 4 rfl rfl)
theorem dX17_adds_52 : decode cX17_adds 52 = .ok (.iload_n 1, 1) := dk_27 (dk_at dksX17_adds_2 7 rfl rfl)
theorem dX17_adds_53 : decode cX17_adds 53 = .ok (.iastore, 1) := dk_79 (dk_at dksX17_adds_2 8 rfl rfl)
theorem dX17_adds_54 : decode cX17_adds 54 = .ok (.iconst 0, 1) := dk_3 (dk_at dksX17_adds_2 9 rfl rfl)
theorem dX17_adds_55 : decode cX17_adds 55 = .ok (.istore_n 2, 1) := dk_61 (dk_at dksX17_adds_2 10 rfl rfl)
theorem dX17_adds_56 : decode cX17_adds 56 = .ok (.iload_n 2, 1) := dk_28 (dk_at dksX17_adds_2 11 rfl rfl)
theorem dX17_adds_57 : decode cX17_adds 57 = .ok (.bipush 24, 2) := dk_16 24 (dk_at dksX17_adds_2 12 rfl rfl)
theorem dX17_adds_59 : decode cX17_adds 59 = .ok (.if_icmp .ge 29, 3) := dk_162 0 29 (dk_at dksX17_adds_2 14 rfl rfl)
theorem dX17_adds_62 : decode cX17_adds 62 = .ok (.aload_n 0, 1) := dk_42 (dk_at dksX17_adds_2 17 rfl rfl)
theorem dX17_adds_63 : decode cX17_adds 63 = .ok (.getfield 46, 3) := dk_180 0 46 (dk_at dksX17_adds_2 18 rfl rfl)
theorem dX17_adds_66 : decode cX17_adds 66 = .ok (.bipush 24, 2) := dk_16 24 (dk_at dksX17_adds_2 21 rfl rfl)
theorem dX17_adds_68 : decode cX17_adds 68 = .ok (.aload_n 0, 1) := dk_42 (dk_at dksX17_adds_2 23 rfl rfl)
theorem dX17_adds_69 : decode cX17_adds 69 = .ok (.getfield 318, 3) := dk_180 1 62 (dk_at dksX17_adds_3 0 rfl rfl)
theorem dX17_adds_72 : decode cX17_adds 72 = .ok (.imul, 1) := dk_104 (dk_at dksX17_adds_3 3 rfl rfl)
theorem dX17_adds_73 : decode cX17_adds 73 = .ok (.iload_n 2, 1) := dk_28 (dk_at dksX17_adds_3 4 rfl rfl)
theorem dX17_adds_74 : decode cX17_adds 74 = .ok (.iadd, 1) := dk_96 (dk_at dksX17_adds_3 5 rfl rfl)
theorem dX17_adds_75 : decode cX17_adds 75 = .ok (.aload_n 0, 1) := dk_42 (dk_at dksX17_adds_3 6 rfl rfl)
theorem dX17_adds_76 : decode cX17_adds 76 = .ok (.getfield 52, 3) := dk_180 0 52 (dk_at dksX17_adds_3 7 rfl rfl)
theorem dX17_adds_79 : decode cX17_adds 79 = .ok (.iload_n 2, 1) := dk_28 (dk_at dksX17_adds_3 10 rfl rfl)
theorem dX17_adds_80 : decode cX17_adds 80 = .ok (.iaload, 1) := dk_46 (dk_at dksX17_adds_3 11 rfl rfl)
theorem dX17_adds_81 : decode cX17_adds 81 = .ok (.iastore, 1) := dk_79 (dk_at dksX17_adds_3 12 rfl rfl)
theorem dX17_adds_82 : decode cX17_adds 82 = .ok (.iinc 2 1, 3) := dk_132 2 1 (dk_at dksX17_adds_3 13 rfl rfl)
theorem dX17_adds_85 : decode cX17_adds 85 = .ok (.goto (-29), 3) := dk_167 255 227 (dk_at dksX17_adds_3 16 rfl rfl)
theorem dX17_adds_88 : decode cX17_adds 88 = .ok (.aload_n 0, 1) := dk_42 (dk_at dksX17_adds_3 19 rfl rfl)
theorem dX17_adds_89 : decode cX17_adds 89 = .ok (.dup, 1) := dk_89 (dk_at dksX17_adds_3 20 rfl rfl)
theorem dX17_adds_90 : decode cX17_adds 90 = .ok (.getfield 318, 3) := dk_180 1 62 (dk_at dksX17_adds_3 21 rfl rfl)
theorem dX17_adds_93 : decode cX17_adds 93 = .ok (.iconst 1, 1) := dk_4 (dk_at dksX17_adds_4 0 rfl rfl)
theorem dX17_adds_94 : decode cX17_adds 94 = .ok (.iadd, 1) := dk_96 (dk_at dksX17_adds_4 1 rfl rfl)
theorem dX17_adds_95 : decode cX17_adds 95 = .ok (.putfield 318, 3) := dk_181 1 62 (dk_at dksX17_adds_4 2 rfl rfl)
theorem dX17_adds_98 : decode cX17_adds 98 = .ok (.return_, 1) := dk_177 (dk_at dksX17_adds_4 5 rfl rfl)
abbrev cX17_sifts : ByteArray := prog_24_method_64_code
def yX17_sifts : MethodName := ⟨RX17, "sifts", "()I"⟩
def dkwX17_sifts_2 : List UInt8 := [29, 155, 0, 8, 42, 29, 182, 1, 56, 132, 1, 1, 167, 255, 198, 2, 172]
abbrev dktX17_sifts_2 : List UInt8 := dkwX17_sifts_2 ++ []
def dkwX17_sifts_1 : List UInt8 := [16, 24, 27, 104, 28, 96, 46, 62, 29, 156, 0, 15, 28, 42, 180, 0, 40, 27, 46, 159, 0, 5, 27, 172]
abbrev dktX17_sifts_1 : List UInt8 := dkwX17_sifts_1 ++ dktX17_sifts_2
def dkwX17_sifts_0 : List UInt8 := [3, 60, 27, 16, 24, 162, 0, 58, 42, 180, 0, 52, 42, 180, 0, 40, 27, 46, 46, 61, 42, 180, 0, 43]
abbrev dktX17_sifts_0 : List UInt8 := dkwX17_sifts_0 ++ dktX17_sifts_1
theorem dksX17_sifts_0 : cX17_sifts.data.toList.drop 0 = dktX17_sifts_0 := by decide +kernel
theorem dksX17_sifts_1 : cX17_sifts.data.toList.drop 24 = dktX17_sifts_1 := dk_seg dksX17_sifts_0 24 rfl rfl
theorem dksX17_sifts_2 : cX17_sifts.data.toList.drop 48 = dktX17_sifts_2 := dk_seg dksX17_sifts_1 24 rfl rfl
theorem dX17_sifts_0 : decode cX17_sifts 0 = .ok (.iconst 0, 1) := dk_3 (dk_at dksX17_sifts_0 0 rfl rfl)
theorem dX17_sifts_1 : decode cX17_sifts 1 = .ok (.istore_n 1, 1) := dk_60 (dk_at dksX17_sifts_0 1 rfl rfl)
theorem dX17_sifts_2 : decode cX17_sifts 2 = .ok (.iload_n 1, 1) := dk_27 (dk_at dksX17_sifts_0 2 rfl rfl)
theorem dX17_sifts_3 : decode cX17_sifts 3 = .ok (.bipush 24, 2) := dk_16 24 (dk_at dksX17_sifts_0 3 rfl rfl)
theorem dX17_sifts_5 : decode cX17_sifts 5 = .ok (.if_icmp .ge 58, 3) := dk_162 0 58 (dk_at dksX17_sifts_0 5 rfl rfl)
theorem dX17_sifts_8 : decode cX17_sifts 8 = .ok (.aload_n 0, 1) := dk_42 (dk_at dksX17_sifts_0 8 rfl rfl)
theorem dX17_sifts_9 : decode cX17_sifts 9 = .ok (.getfield 52, 3) := dk_180 0 52 (dk_at dksX17_sifts_0 9 rfl rfl)
theorem dX17_sifts_12 : decode cX17_sifts 12 = .ok (.aload_n 0, 1) := dk_42 (dk_at dksX17_sifts_0 12 rfl rfl)
theorem dX17_sifts_13 : decode cX17_sifts 13 = .ok (.getfield 40, 3) := dk_180 0 40 (dk_at dksX17_sifts_0 13 rfl rfl)
theorem dX17_sifts_16 : decode cX17_sifts 16 = .ok (.iload_n 1, 1) := dk_27 (dk_at dksX17_sifts_0 16 rfl rfl)
theorem dX17_sifts_17 : decode cX17_sifts 17 = .ok (.iaload, 1) := dk_46 (dk_at dksX17_sifts_0 17 rfl rfl)
theorem dX17_sifts_18 : decode cX17_sifts 18 = .ok (.iaload, 1) := dk_46 (dk_at dksX17_sifts_0 18 rfl rfl)
theorem dX17_sifts_19 : decode cX17_sifts 19 = .ok (.istore_n 2, 1) := dk_61 (dk_at dksX17_sifts_0 19 rfl rfl)
theorem dX17_sifts_20 : decode cX17_sifts 20 = .ok (.aload_n 0, 1) := dk_42 (dk_at dksX17_sifts_0 20 rfl rfl)
theorem dX17_sifts_21 : decode cX17_sifts 21 = .ok (.getfield 43, 3) := dk_180 0 43 (dk_at dksX17_sifts_0 21 rfl rfl)
theorem dX17_sifts_24 : decode cX17_sifts 24 = .ok (.bipush 24, 2) := dk_16 24 (dk_at dksX17_sifts_1 0 rfl rfl)
theorem dX17_sifts_26 : decode cX17_sifts 26 = .ok (.iload_n 1, 1) := dk_27 (dk_at dksX17_sifts_1 2 rfl rfl)
theorem dX17_sifts_27 : decode cX17_sifts 27 = .ok (.imul, 1) := dk_104 (dk_at dksX17_sifts_1 3 rfl rfl)
theorem dX17_sifts_28 : decode cX17_sifts 28 = .ok (.iload_n 2, 1) := dk_28 (dk_at dksX17_sifts_1 4 rfl rfl)
theorem dX17_sifts_29 : decode cX17_sifts 29 = .ok (.iadd, 1) := dk_96 (dk_at dksX17_sifts_1 5 rfl rfl)
theorem dX17_sifts_30 : decode cX17_sifts 30 = .ok (.iaload, 1) := dk_46 (dk_at dksX17_sifts_1 6 rfl rfl)
theorem dX17_sifts_31 : decode cX17_sifts 31 = .ok (.istore_n 3, 1) := dk_62 (dk_at dksX17_sifts_1 7 rfl rfl)
theorem dX17_sifts_32 : decode cX17_sifts 32 = .ok (.iload_n 3, 1) := dk_29 (dk_at dksX17_sifts_1 8 rfl rfl)
theorem dX17_sifts_33 : decode cX17_sifts 33 = .ok (.ifCond .ge 15, 3) := dk_156 0 15 (dk_at dksX17_sifts_1 9 rfl rfl)
theorem dX17_sifts_36 : decode cX17_sifts 36 = .ok (.iload_n 2, 1) := dk_28 (dk_at dksX17_sifts_1 12 rfl rfl)
theorem dX17_sifts_37 : decode cX17_sifts 37 = .ok (.aload_n 0, 1) := dk_42 (dk_at dksX17_sifts_1 13 rfl rfl)
theorem dX17_sifts_38 : decode cX17_sifts 38 = .ok (.getfield 40, 3) := dk_180 0 40 (dk_at dksX17_sifts_1 14 rfl rfl)
theorem dX17_sifts_41 : decode cX17_sifts 41 = .ok (.iload_n 1, 1) := dk_27 (dk_at dksX17_sifts_1 17 rfl rfl)
theorem dX17_sifts_42 : decode cX17_sifts 42 = .ok (.iaload, 1) := dk_46 (dk_at dksX17_sifts_1 18 rfl rfl)
theorem dX17_sifts_43 : decode cX17_sifts 43 = .ok (.if_icmp .eq 5, 3) := dk_159 0 5 (dk_at dksX17_sifts_1 19 rfl rfl)
theorem dX17_sifts_46 : decode cX17_sifts 46 = .ok (.iload_n 1, 1) := dk_27 (dk_at dksX17_sifts_1 22 rfl rfl)
theorem dX17_sifts_47 : decode cX17_sifts 47 = .ok (.ireturn, 1) := dk_172 (dk_at dksX17_sifts_1 23 rfl rfl)
theorem dX17_sifts_48 : decode cX17_sifts 48 = .ok (.iload_n 3, 1) := dk_29 (dk_at dksX17_sifts_2 0 rfl rfl)
theorem dX17_sifts_49 : decode cX17_sifts 49 = .ok (.ifCond .lt 8, 3) := dk_155 0 8 (dk_at dksX17_sifts_2 1 rfl rfl)
theorem dX17_sifts_52 : decode cX17_sifts 52 = .ok (.aload_n 0, 1) := dk_42 (dk_at dksX17_sifts_2 4 rfl rfl)
theorem dX17_sifts_53 : decode cX17_sifts 53 = .ok (.iload_n 3, 1) := dk_29 (dk_at dksX17_sifts_2 5 rfl rfl)
theorem dX17_sifts_54 : decode cX17_sifts 54 = .ok (.invokevirtual 312, 3) := dk_182 1 56 (dk_at dksX17_sifts_2 6 rfl rfl)
theorem dX17_sifts_57 : decode cX17_sifts 57 = .ok (.iinc 1 1, 3) := dk_132 1 1 (dk_at dksX17_sifts_2 9 rfl rfl)
theorem dX17_sifts_60 : decode cX17_sifts 60 = .ok (.goto (-58), 3) := dk_167 255 198 (dk_at dksX17_sifts_2 12 rfl rfl)
theorem dX17_sifts_63 : decode cX17_sifts 63 = .ok (.iconst (-1), 1) := dk_2 (dk_at dksX17_sifts_2 15 rfl rfl)
theorem dX17_sifts_64 : decode cX17_sifts 64 = .ok (.ireturn, 1) := dk_172 (dk_at dksX17_sifts_2 16 rfl rfl)
abbrev cX17_takesBack : ByteArray := prog_24_method_63_code
def yX17_takesBack : MethodName := ⟨RX17, "takesBack", "(I)V"⟩
def dkwX17_takesBack_2 : List UInt8 := [42, 180, 0, 52, 28, 46, 46, 79, 132, 2, 1, 167, 255, 230, 177]
abbrev dktX17_takesBack_2 : List UInt8 := dkwX17_takesBack_2 ++ []
def dkwX17_takesBack_1 : List UInt8 := [79, 132, 2, 1, 167, 255, 230, 3, 61, 28, 16, 24, 162, 0, 26, 42, 180, 0, 52, 28, 42, 180, 0, 37]
abbrev dktX17_takesBack_1 : List UInt8 := dkwX17_takesBack_1 ++ dktX17_takesBack_2
def dkwX17_takesBack_0 : List UInt8 := [3, 61, 28, 16, 24, 162, 0, 26, 42, 180, 0, 37, 42, 180, 0, 46, 16, 24, 27, 104, 28, 96, 46, 28]
abbrev dktX17_takesBack_0 : List UInt8 := dkwX17_takesBack_0 ++ dktX17_takesBack_1
theorem dksX17_takesBack_0 : cX17_takesBack.data.toList.drop 0 = dktX17_takesBack_0 := by decide +kernel
theorem dksX17_takesBack_1 : cX17_takesBack.data.toList.drop 24 = dktX17_takesBack_1 := dk_seg dksX17_takesBack_0 24 rfl rfl
theorem dksX17_takesBack_2 : cX17_takesBack.data.toList.drop 48 = dktX17_takesBack_2 := dk_seg dksX17_takesBack_1 24 rfl rfl
theorem dX17_takesBack_0 : decode cX17_takesBack 0 = .ok (.iconst 0, 1) := dk_3 (dk_at dksX17_takesBack_0 0 rfl rfl)
theorem dX17_takesBack_1 : decode cX17_takesBack 1 = .ok (.istore_n 2, 1) := dk_61 (dk_at dksX17_takesBack_0 1 rfl rfl)
theorem dX17_takesBack_2 : decode cX17_takesBack 2 = .ok (.iload_n 2, 1) := dk_28 (dk_at dksX17_takesBack_0 2 rfl rfl)
theorem dX17_takesBack_3 : decode cX17_takesBack 3 = .ok (.bipush 24, 2) := dk_16 24 (dk_at dksX17_takesBack_0 3 rfl rfl)
theorem dX17_takesBack_5 : decode cX17_takesBack 5 = .ok (.if_icmp .ge 26, 3) := dk_162 0 26 (dk_at dksX17_takesBack_0 5 rfl rfl)
theorem dX17_takesBack_8 : decode cX17_takesBack 8 = .ok (.aload_n 0, 1) := dk_42 (dk_at dksX17_takesBack_0 8 rfl rfl)
theorem dX17_takesBack_9 : decode cX17_takesBack 9 = .ok (.getfield 37, 3) := dk_180 0 37 (dk_at dksX17_takesBack_0 9 rfl rfl)
theorem dX17_takesBack_12 : decode cX17_takesBack 12 = .ok (.aload_n 0, 1) := dk_42 (dk_at dksX17_takesBack_0 12 rfl rfl)
theorem dX17_takesBack_13 : decode cX17_takesBack 13 = .ok (.getfield 46, 3) := dk_180 0 46 (dk_at dksX17_takesBack_0 13 rfl rfl)
theorem dX17_takesBack_16 : decode cX17_takesBack 16 = .ok (.bipush 24, 2) := dk_16 24 (dk_at dksX17_takesBack_0 16 rfl rfl)
theorem dX17_takesBack_18 : decode cX17_takesBack 18 = .ok (.iload_n 1, 1) := dk_27 (dk_at dksX17_takesBack_0 18 rfl rfl)
theorem dX17_takesBack_19 : decode cX17_takesBack 19 = .ok (.imul, 1) := dk_104 (dk_at dksX17_takesBack_0 19 rfl rfl)
theorem dX17_takesBack_20 : decode cX17_takesBack 20 = .ok (.iload_n 2, 1) := dk_28 (dk_at dksX17_takesBack_0 20 rfl rfl)
theorem dX17_takesBack_21 : decode cX17_takesBack 21 = .ok (.iadd, 1) := dk_96 (dk_at dksX17_takesBack_0 21 rfl rfl)
theorem dX17_takesBack_22 : decode cX17_takesBack 22 = .ok (.iaload, 1) := dk_46 (dk_at dksX17_takesBack_0 22 rfl rfl)
theorem dX17_takesBack_23 : decode cX17_takesBack 23 = .ok (.iload_n 2, 1) := dk_28 (dk_at dksX17_takesBack_0 23 rfl rfl)
theorem dX17_takesBack_24 : decode cX17_takesBack 24 = .ok (.iastore, 1) := dk_79 (dk_at dksX17_takesBack_1 0 rfl rfl)
theorem dX17_takesBack_25 : decode cX17_takesBack 25 = .ok (.iinc 2 1, 3) := dk_132 2 1 (dk_at dksX17_takesBack_1 1 rfl rfl)
theorem dX17_takesBack_28 : decode cX17_takesBack 28 = .ok (.goto (-26), 3) := dk_167 255 230 (dk_at dksX17_takesBack_1 4 rfl rfl)
theorem dX17_takesBack_31 : decode cX17_takesBack 31 = .ok (.iconst 0, 1) := dk_3 (dk_at dksX17_takesBack_1 7 rfl rfl)
theorem dX17_takesBack_32 : decode cX17_takesBack 32 = .ok (.istore_n 2, 1) := dk_61 (dk_at dksX17_takesBack_1 8 rfl rfl)
theorem dX17_takesBack_33 : decode cX17_takesBack 33 = .ok (.iload_n 2, 1) := dk_28 (dk_at dksX17_takesBack_1 9 rfl rfl)
theorem dX17_takesBack_34 : decode cX17_takesBack 34 = .ok (.bipush 24, 2) := dk_16 24 (dk_at dksX17_takesBack_1 10 rfl rfl)
theorem dX17_takesBack_36 : decode cX17_takesBack 36 = .ok (.if_icmp .ge 26, 3) := dk_162 0 26 (dk_at dksX17_takesBack_1 12 rfl rfl)
theorem dX17_takesBack_39 : decode cX17_takesBack 39 = .ok (.aload_n 0, 1) := dk_42 (dk_at dksX17_takesBack_1 15 rfl rfl)
theorem dX17_takesBack_40 : decode cX17_takesBack 40 = .ok (.getfield 52, 3) := dk_180 0 52 (dk_at dksX17_takesBack_1 16 rfl rfl)
theorem dX17_takesBack_43 : decode cX17_takesBack 43 = .ok (.iload_n 2, 1) := dk_28 (dk_at dksX17_takesBack_1 19 rfl rfl)
theorem dX17_takesBack_44 : decode cX17_takesBack 44 = .ok (.aload_n 0, 1) := dk_42 (dk_at dksX17_takesBack_1 20 rfl rfl)
theorem dX17_takesBack_45 : decode cX17_takesBack 45 = .ok (.getfield 37, 3) := dk_180 0 37 (dk_at dksX17_takesBack_1 21 rfl rfl)
theorem dX17_takesBack_48 : decode cX17_takesBack 48 = .ok (.aload_n 0, 1) := dk_42 (dk_at dksX17_takesBack_2 0 rfl rfl)
theorem dX17_takesBack_49 : decode cX17_takesBack 49 = .ok (.getfield 52, 3) := dk_180 0 52 (dk_at dksX17_takesBack_2 1 rfl rfl)
theorem dX17_takesBack_52 : decode cX17_takesBack 52 = .ok (.iload_n 2, 1) := dk_28 (dk_at dksX17_takesBack_2 4 rfl rfl)
theorem dX17_takesBack_53 : decode cX17_takesBack 53 = .ok (.iaload, 1) := dk_46 (dk_at dksX17_takesBack_2 5 rfl rfl)
theorem dX17_takesBack_54 : decode cX17_takesBack 54 = .ok (.iaload, 1) := dk_46 (dk_at dksX17_takesBack_2 6 rfl rfl)
theorem dX17_takesBack_55 : decode cX17_takesBack 55 = .ok (.iastore, 1) := dk_79 (dk_at dksX17_takesBack_2 7 rfl rfl)
theorem dX17_takesBack_56 : decode cX17_takesBack 56 = .ok (.iinc 2 1, 3) := dk_132 2 1 (dk_at dksX17_takesBack_2 8 rfl rfl)
theorem dX17_takesBack_59 : decode cX17_takesBack 59 = .ok (.goto (-26), 3) := dk_167 255 230 (dk_at dksX17_takesBack_2 11 rfl rfl)
theorem dX17_takesBack_62 : decode cX17_takesBack 62 = .ok (.return_, 1) := dk_177 (dk_at dksX17_takesBack_2 14 rfl rfl)
abbrev cX17_tries : ByteArray := prog_24_method_66_code
def yX17_tries : MethodName := ⟨RX17, "tries", "(II)V"⟩
def dkwX17_tries_2 : List UInt8 := [96, 46, 79, 132, 3, 1, 167, 255, 220, 42, 182, 1, 65, 177]
abbrev dktX17_tries_2 : List UInt8 := dkwX17_tries_2 ++ []
def dkwX17_tries_1 : List UInt8 := [42, 180, 0, 52, 29, 42, 180, 0, 46, 16, 24, 28, 104, 42, 180, 0, 46, 16, 24, 27, 104, 29, 96, 46]
abbrev dktX17_tries_1 : List UInt8 := dkwX17_tries_1 ++ dktX17_tries_2
def dkwX17_tries_0 : List UInt8 := [42, 180, 0, 49, 27, 46, 42, 180, 0, 49, 28, 46, 164, 0, 4, 177, 3, 62, 29, 16, 24, 162, 0, 36]
abbrev dktX17_tries_0 : List UInt8 := dkwX17_tries_0 ++ dktX17_tries_1
theorem dksX17_tries_0 : cX17_tries.data.toList.drop 0 = dktX17_tries_0 := by decide +kernel
theorem dksX17_tries_1 : cX17_tries.data.toList.drop 24 = dktX17_tries_1 := dk_seg dksX17_tries_0 24 rfl rfl
theorem dksX17_tries_2 : cX17_tries.data.toList.drop 48 = dktX17_tries_2 := dk_seg dksX17_tries_1 24 rfl rfl
theorem dX17_tries_0 : decode cX17_tries 0 = .ok (.aload_n 0, 1) := dk_42 (dk_at dksX17_tries_0 0 rfl rfl)
theorem dX17_tries_1 : decode cX17_tries 1 = .ok (.getfield 49, 3) := dk_180 0 49 (dk_at dksX17_tries_0 1 rfl rfl)
theorem dX17_tries_4 : decode cX17_tries 4 = .ok (.iload_n 1, 1) := dk_27 (dk_at dksX17_tries_0 4 rfl rfl)
theorem dX17_tries_5 : decode cX17_tries 5 = .ok (.iaload, 1) := dk_46 (dk_at dksX17_tries_0 5 rfl rfl)
theorem dX17_tries_6 : decode cX17_tries 6 = .ok (.aload_n 0, 1) := dk_42 (dk_at dksX17_tries_0 6 rfl rfl)
theorem dX17_tries_7 : decode cX17_tries 7 = .ok (.getfield 49, 3) := dk_180 0 49 (dk_at dksX17_tries_0 7 rfl rfl)
theorem dX17_tries_10 : decode cX17_tries 10 = .ok (.iload_n 2, 1) := dk_28 (dk_at dksX17_tries_0 10 rfl rfl)
theorem dX17_tries_11 : decode cX17_tries 11 = .ok (.iaload, 1) := dk_46 (dk_at dksX17_tries_0 11 rfl rfl)
theorem dX17_tries_12 : decode cX17_tries 12 = .ok (.if_icmp .le 4, 3) := dk_164 0 4 (dk_at dksX17_tries_0 12 rfl rfl)
theorem dX17_tries_15 : decode cX17_tries 15 = .ok (.return_, 1) := dk_177 (dk_at dksX17_tries_0 15 rfl rfl)
theorem dX17_tries_16 : decode cX17_tries 16 = .ok (.iconst 0, 1) := dk_3 (dk_at dksX17_tries_0 16 rfl rfl)
theorem dX17_tries_17 : decode cX17_tries 17 = .ok (.istore_n 3, 1) := dk_62 (dk_at dksX17_tries_0 17 rfl rfl)
theorem dX17_tries_18 : decode cX17_tries 18 = .ok (.iload_n 3, 1) := dk_29 (dk_at dksX17_tries_0 18 rfl rfl)
theorem dX17_tries_19 : decode cX17_tries 19 = .ok (.bipush 24, 2) := dk_16 24 (dk_at dksX17_tries_0 19 rfl rfl)
theorem dX17_tries_21 : decode cX17_tries 21 = .ok (.if_icmp .ge 36, 3) := dk_162 0 36 (dk_at dksX17_tries_0 21 rfl rfl)
theorem dX17_tries_24 : decode cX17_tries 24 = .ok (.aload_n 0, 1) := dk_42 (dk_at dksX17_tries_1 0 rfl rfl)
theorem dX17_tries_25 : decode cX17_tries 25 = .ok (.getfield 52, 3) := dk_180 0 52 (dk_at dksX17_tries_1 1 rfl rfl)
theorem dX17_tries_28 : decode cX17_tries 28 = .ok (.iload_n 3, 1) := dk_29 (dk_at dksX17_tries_1 4 rfl rfl)
theorem dX17_tries_29 : decode cX17_tries 29 = .ok (.aload_n 0, 1) := dk_42 (dk_at dksX17_tries_1 5 rfl rfl)
theorem dX17_tries_30 : decode cX17_tries 30 = .ok (.getfield 46, 3) := dk_180 0 46 (dk_at dksX17_tries_1 6 rfl rfl)
theorem dX17_tries_33 : decode cX17_tries 33 = .ok (.bipush 24, 2) := dk_16 24 (dk_at dksX17_tries_1 9 rfl rfl)
theorem dX17_tries_35 : decode cX17_tries 35 = .ok (.iload_n 2, 1) := dk_28 (dk_at dksX17_tries_1 11 rfl rfl)
theorem dX17_tries_36 : decode cX17_tries 36 = .ok (.imul, 1) := dk_104 (dk_at dksX17_tries_1 12 rfl rfl)
theorem dX17_tries_37 : decode cX17_tries 37 = .ok (.aload_n 0, 1) := dk_42 (dk_at dksX17_tries_1 13 rfl rfl)
theorem dX17_tries_38 : decode cX17_tries 38 = .ok (.getfield 46, 3) := dk_180 0 46 (dk_at dksX17_tries_1 14 rfl rfl)
theorem dX17_tries_41 : decode cX17_tries 41 = .ok (.bipush 24, 2) := dk_16 24 (dk_at dksX17_tries_1 17 rfl rfl)
theorem dX17_tries_43 : decode cX17_tries 43 = .ok (.iload_n 1, 1) := dk_27 (dk_at dksX17_tries_1 19 rfl rfl)
theorem dX17_tries_44 : decode cX17_tries 44 = .ok (.imul, 1) := dk_104 (dk_at dksX17_tries_1 20 rfl rfl)
theorem dX17_tries_45 : decode cX17_tries 45 = .ok (.iload_n 3, 1) := dk_29 (dk_at dksX17_tries_1 21 rfl rfl)
theorem dX17_tries_46 : decode cX17_tries 46 = .ok (.iadd, 1) := dk_96 (dk_at dksX17_tries_1 22 rfl rfl)
theorem dX17_tries_47 : decode cX17_tries 47 = .ok (.iaload, 1) := dk_46 (dk_at dksX17_tries_1 23 rfl rfl)
theorem dX17_tries_48 : decode cX17_tries 48 = .ok (.iadd, 1) := dk_96 (dk_at dksX17_tries_2 0 rfl rfl)
theorem dX17_tries_49 : decode cX17_tries 49 = .ok (.iaload, 1) := dk_46 (dk_at dksX17_tries_2 1 rfl rfl)
theorem dX17_tries_50 : decode cX17_tries 50 = .ok (.iastore, 1) := dk_79 (dk_at dksX17_tries_2 2 rfl rfl)
theorem dX17_tries_51 : decode cX17_tries 51 = .ok (.iinc 3 1, 3) := dk_132 3 1 (dk_at dksX17_tries_2 3 rfl rfl)
theorem dX17_tries_54 : decode cX17_tries 54 = .ok (.goto (-36), 3) := dk_167 255 220 (dk_at dksX17_tries_2 6 rfl rfl)
theorem dX17_tries_57 : decode cX17_tries 57 = .ok (.aload_n 0, 1) := dk_42 (dk_at dksX17_tries_2 9 rfl rfl)
theorem dX17_tries_58 : decode cX17_tries 58 = .ok (.invokevirtual 321, 3) := dk_182 1 65 (dk_at dksX17_tries_2 10 rfl rfl)
theorem dX17_tries_61 : decode cX17_tries 61 = .ok (.return_, 1) := dk_177 (dk_at dksX17_tries_2 13 rfl rfl)
abbrev cX17_manyFrom : ByteArray := prog_24_method_70_code
def yX17_manyFrom : MethodName := ⟨RX17, "manyFrom", "(I)I"⟩
def dkwX17_manyFrom_2 : List UInt8 := [54, 4, 132, 5, 1, 167, 255, 221, 28, 21, 4, 104, 61, 132, 3, 1, 167, 255, 198, 28, 172]
abbrev dktX17_manyFrom_2 : List UInt8 := dkwX17_manyFrom_2 ++ []
def dkwX17_manyFrom_1 : List UInt8 := [21, 4, 42, 180, 0, 43, 16, 24, 29, 104, 21, 5, 96, 46, 155, 0, 7, 4, 167, 0, 4, 3, 96]
abbrev dktX17_manyFrom_1 : List UInt8 := dkwX17_manyFrom_1 ++ dktX17_manyFrom_2
def dkwX17_manyFrom_0 : List UInt8 := [4, 61, 27, 62, 29, 16, 24, 162, 0, 58, 4, 54, 4, 3, 54, 5, 21, 5, 16, 24, 162, 0, 34]
abbrev dktX17_manyFrom_0 : List UInt8 := dkwX17_manyFrom_0 ++ dktX17_manyFrom_1
theorem dksX17_manyFrom_0 : cX17_manyFrom.data.toList.drop 0 = dktX17_manyFrom_0 := by decide +kernel
theorem dksX17_manyFrom_1 : cX17_manyFrom.data.toList.drop 23 = dktX17_manyFrom_1 := dk_seg dksX17_manyFrom_0 23 rfl rfl
theorem dksX17_manyFrom_2 : cX17_manyFrom.data.toList.drop 46 = dktX17_manyFrom_2 := dk_seg dksX17_manyFrom_1 23 rfl rfl
theorem dX17_manyFrom_0 : decode cX17_manyFrom 0 = .ok (.iconst 1, 1) := dk_4 (dk_at dksX17_manyFrom_0 0 rfl rfl)
theorem dX17_manyFrom_1 : decode cX17_manyFrom 1 = .ok (.istore_n 2, 1) := dk_61 (dk_at dksX17_manyFrom_0 1 rfl rfl)
theorem dX17_manyFrom_2 : decode cX17_manyFrom 2 = .ok (.iload_n 1, 1) := dk_27 (dk_at dksX17_manyFrom_0 2 rfl rfl)
theorem dX17_manyFrom_3 : decode cX17_manyFrom 3 = .ok (.istore_n 3, 1) := dk_62 (dk_at dksX17_manyFrom_0 3 rfl rfl)
theorem dX17_manyFrom_4 : decode cX17_manyFrom 4 = .ok (.iload_n 3, 1) := dk_29 (dk_at dksX17_manyFrom_0 4 rfl rfl)
theorem dX17_manyFrom_5 : decode cX17_manyFrom 5 = .ok (.bipush 24, 2) := dk_16 24 (dk_at dksX17_manyFrom_0 5 rfl rfl)
theorem dX17_manyFrom_7 : decode cX17_manyFrom 7 = .ok (.if_icmp .ge 58, 3) := dk_162 0 58 (dk_at dksX17_manyFrom_0 7 rfl rfl)
theorem dX17_manyFrom_10 : decode cX17_manyFrom 10 = .ok (.iconst 1, 1) := dk_4 (dk_at dksX17_manyFrom_0 10 rfl rfl)
theorem dX17_manyFrom_11 : decode cX17_manyFrom 11 = .ok (.istore 4, 2) := dk_54 4 (dk_at dksX17_manyFrom_0 11 rfl rfl)
theorem dX17_manyFrom_13 : decode cX17_manyFrom 13 = .ok (.iconst 0, 1) := dk_3 (dk_at dksX17_manyFrom_0 13 rfl rfl)
theorem dX17_manyFrom_14 : decode cX17_manyFrom 14 = .ok (.istore 5, 2) := dk_54 5 (dk_at dksX17_manyFrom_0 14 rfl rfl)
theorem dX17_manyFrom_16 : decode cX17_manyFrom 16 = .ok (.iload 5, 2) := dk_21 5 (dk_at dksX17_manyFrom_0 16 rfl rfl)
theorem dX17_manyFrom_18 : decode cX17_manyFrom 18 = .ok (.bipush 24, 2) := dk_16 24 (dk_at dksX17_manyFrom_0 18 rfl rfl)
theorem dX17_manyFrom_20 : decode cX17_manyFrom 20 = .ok (.if_icmp .ge 34, 3) := dk_162 0 34 (dk_at dksX17_manyFrom_0 20 rfl rfl)
theorem dX17_manyFrom_23 : decode cX17_manyFrom 23 = .ok (.iload 4, 2) := dk_21 4 (dk_at dksX17_manyFrom_1 0 rfl rfl)
theorem dX17_manyFrom_25 : decode cX17_manyFrom 25 = .ok (.aload_n 0, 1) := dk_42 (dk_at dksX17_manyFrom_1 2 rfl rfl)
theorem dX17_manyFrom_26 : decode cX17_manyFrom 26 = .ok (.getfield 43, 3) := dk_180 0 43 (dk_at dksX17_manyFrom_1 3 rfl rfl)
theorem dX17_manyFrom_29 : decode cX17_manyFrom 29 = .ok (.bipush 24, 2) := dk_16 24 (dk_at dksX17_manyFrom_1 6 rfl rfl)
theorem dX17_manyFrom_31 : decode cX17_manyFrom 31 = .ok (.iload_n 3, 1) := dk_29 (dk_at dksX17_manyFrom_1 8 rfl rfl)
theorem dX17_manyFrom_32 : decode cX17_manyFrom 32 = .ok (.imul, 1) := dk_104 (dk_at dksX17_manyFrom_1 9 rfl rfl)
theorem dX17_manyFrom_33 : decode cX17_manyFrom 33 = .ok (.iload 5, 2) := dk_21 5 (dk_at dksX17_manyFrom_1 10 rfl rfl)
theorem dX17_manyFrom_35 : decode cX17_manyFrom 35 = .ok (.iadd, 1) := dk_96 (dk_at dksX17_manyFrom_1 12 rfl rfl)
theorem dX17_manyFrom_36 : decode cX17_manyFrom 36 = .ok (.iaload, 1) := dk_46 (dk_at dksX17_manyFrom_1 13 rfl rfl)
theorem dX17_manyFrom_37 : decode cX17_manyFrom 37 = .ok (.ifCond .lt 7, 3) := dk_155 0 7 (dk_at dksX17_manyFrom_1 14 rfl rfl)
theorem dX17_manyFrom_40 : decode cX17_manyFrom 40 = .ok (.iconst 1, 1) := dk_4 (dk_at dksX17_manyFrom_1 17 rfl rfl)
theorem dX17_manyFrom_41 : decode cX17_manyFrom 41 = .ok (.goto 4, 3) := dk_167 0 4 (dk_at dksX17_manyFrom_1 18 rfl rfl)
theorem dX17_manyFrom_44 : decode cX17_manyFrom 44 = .ok (.iconst 0, 1) := dk_3 (dk_at dksX17_manyFrom_1 21 rfl rfl)
theorem dX17_manyFrom_45 : decode cX17_manyFrom 45 = .ok (.iadd, 1) := dk_96 (dk_at dksX17_manyFrom_1 22 rfl rfl)
theorem dX17_manyFrom_46 : decode cX17_manyFrom 46 = .ok (.istore 4, 2) := dk_54 4 (dk_at dksX17_manyFrom_2 0 rfl rfl)
theorem dX17_manyFrom_48 : decode cX17_manyFrom 48 = .ok (.iinc 5 1, 3) := dk_132 5 1 (dk_at dksX17_manyFrom_2 2 rfl rfl)
theorem dX17_manyFrom_51 : decode cX17_manyFrom 51 = .ok (.goto (-35), 3) := dk_167 255 221 (dk_at dksX17_manyFrom_2 5 rfl rfl)
theorem dX17_manyFrom_54 : decode cX17_manyFrom 54 = .ok (.iload_n 2, 1) := dk_28 (dk_at dksX17_manyFrom_2 8 rfl rfl)
theorem dX17_manyFrom_55 : decode cX17_manyFrom 55 = .ok (.iload 4, 2) := dk_21 4 (dk_at dksX17_manyFrom_2 9 rfl rfl)
theorem dX17_manyFrom_57 : decode cX17_manyFrom 57 = .ok (.imul, 1) := dk_104 (dk_at dksX17_manyFrom_2 11 rfl rfl)
theorem dX17_manyFrom_58 : decode cX17_manyFrom 58 = .ok (.istore_n 2, 1) := dk_61 (dk_at dksX17_manyFrom_2 12 rfl rfl)
theorem dX17_manyFrom_59 : decode cX17_manyFrom 59 = .ok (.iinc 3 1, 3) := dk_132 3 1 (dk_at dksX17_manyFrom_2 13 rfl rfl)
theorem dX17_manyFrom_62 : decode cX17_manyFrom 62 = .ok (.goto (-58), 3) := dk_167 255 198 (dk_at dksX17_manyFrom_2 16 rfl rfl)
theorem dX17_manyFrom_65 : decode cX17_manyFrom 65 = .ok (.iload_n 2, 1) := dk_28 (dk_at dksX17_manyFrom_2 19 rfl rfl)
theorem dX17_manyFrom_66 : decode cX17_manyFrom 66 = .ok (.ireturn, 1) := dk_172 (dk_at dksX17_manyFrom_2 20 rfl rfl)
abbrev cX17_orbitsOfPlaces : ByteArray := prog_24_method_74_code
def yX17_orbitsOfPlaces : MethodName := ⟨RX17, "orbitsOfPlaces", "(I)I"⟩
def dkwX17_orbitsOfPlaces_1 : List UInt8 := [184, 0, 112, 120, 182, 1, 82, 2, 130, 126, 62, 132, 2, 1, 132, 4, 1, 167, 255, 223, 28, 172]
abbrev dktX17_orbitsOfPlaces_1 : List UInt8 := dkwX17_orbitsOfPlaces_1 ++ []
def dkwX17_orbitsOfPlaces_0 : List UInt8 := [3, 61, 18, 177, 62, 3, 54, 4, 21, 4, 16, 24, 162, 0, 32, 29, 153, 0, 28, 29, 42, 27, 4, 29]
abbrev dktX17_orbitsOfPlaces_0 : List UInt8 := dkwX17_orbitsOfPlaces_0 ++ dktX17_orbitsOfPlaces_1
theorem dksX17_orbitsOfPlaces_0 : cX17_orbitsOfPlaces.data.toList.drop 0 = dktX17_orbitsOfPlaces_0 := by decide +kernel
theorem dksX17_orbitsOfPlaces_1 : cX17_orbitsOfPlaces.data.toList.drop 24 = dktX17_orbitsOfPlaces_1 := dk_seg dksX17_orbitsOfPlaces_0 24 rfl rfl
theorem dX17_orbitsOfPlaces_0 : decode cX17_orbitsOfPlaces 0 = .ok (.iconst 0, 1) := dk_3 (dk_at dksX17_orbitsOfPlaces_0 0 rfl rfl)
theorem dX17_orbitsOfPlaces_1 : decode cX17_orbitsOfPlaces 1 = .ok (.istore_n 2, 1) := dk_61 (dk_at dksX17_orbitsOfPlaces_0 1 rfl rfl)
theorem dX17_orbitsOfPlaces_2 : decode cX17_orbitsOfPlaces 2 = .ok (.ldc 177, 2) := dk_18 177 (dk_at dksX17_orbitsOfPlaces_0 2 rfl rfl)
theorem dX17_orbitsOfPlaces_4 : decode cX17_orbitsOfPlaces 4 = .ok (.istore_n 3, 1) := dk_62 (dk_at dksX17_orbitsOfPlaces_0 4 rfl rfl)
theorem dX17_orbitsOfPlaces_5 : decode cX17_orbitsOfPlaces 5 = .ok (.iconst 0, 1) := dk_3 (dk_at dksX17_orbitsOfPlaces_0 5 rfl rfl)
theorem dX17_orbitsOfPlaces_6 : decode cX17_orbitsOfPlaces 6 = .ok (.istore 4, 2) := dk_54 4 (dk_at dksX17_orbitsOfPlaces_0 6 rfl rfl)
theorem dX17_orbitsOfPlaces_8 : decode cX17_orbitsOfPlaces 8 = .ok (.iload 4, 2) := dk_21 4 (dk_at dksX17_orbitsOfPlaces_0 8 rfl rfl)
theorem dX17_orbitsOfPlaces_10 : decode cX17_orbitsOfPlaces 10 = .ok (.bipush 24, 2) := dk_16 24 (dk_at dksX17_orbitsOfPlaces_0 10 rfl rfl)
theorem dX17_orbitsOfPlaces_12 : decode cX17_orbitsOfPlaces 12 = .ok (.if_icmp .ge 32, 3) := dk_162 0 32 (dk_at dksX17_orbitsOfPlaces_0 12 rfl rfl)
theorem dX17_orbitsOfPlaces_15 : decode cX17_orbitsOfPlaces 15 = .ok (.iload_n 3, 1) := dk_29 (dk_at dksX17_orbitsOfPlaces_0 15 rfl rfl)
theorem dX17_orbitsOfPlaces_16 : decode cX17_orbitsOfPlaces 16 = .ok (.ifCond .eq 28, 3) := dk_153 0 28 (dk_at dksX17_orbitsOfPlaces_0 16 rfl rfl)
theorem dX17_orbitsOfPlaces_19 : decode cX17_orbitsOfPlaces 19 = .ok (.iload_n 3, 1) := dk_29 (dk_at dksX17_orbitsOfPlaces_0 19 rfl rfl)
theorem dX17_orbitsOfPlaces_20 : decode cX17_orbitsOfPlaces 20 = .ok (.aload_n 0, 1) := dk_42 (dk_at dksX17_orbitsOfPlaces_0 20 rfl rfl)
theorem dX17_orbitsOfPlaces_21 : decode cX17_orbitsOfPlaces 21 = .ok (.iload_n 1, 1) := dk_27 (dk_at dksX17_orbitsOfPlaces_0 21 rfl rfl)
theorem dX17_orbitsOfPlaces_22 : decode cX17_orbitsOfPlaces 22 = .ok (.iconst 1, 1) := dk_4 (dk_at dksX17_orbitsOfPlaces_0 22 rfl rfl)
theorem dX17_orbitsOfPlaces_23 : decode cX17_orbitsOfPlaces 23 = .ok (.iload_n 3, 1) := dk_29 (dk_at dksX17_orbitsOfPlaces_0 23 rfl rfl)
theorem dX17_orbitsOfPlaces_24 : decode cX17_orbitsOfPlaces 24 = .ok (.invokestatic 112, 3) := dk_184 0 112 (dk_at dksX17_orbitsOfPlaces_1 0 rfl rfl)
theorem dX17_orbitsOfPlaces_27 : decode cX17_orbitsOfPlaces 27 = .ok (.ishl, 1) := dk_120 (dk_at dksX17_orbitsOfPlaces_1 3 rfl rfl)
theorem dX17_orbitsOfPlaces_28 : decode cX17_orbitsOfPlaces 28 = .ok (.invokevirtual 338, 3) := dk_182 1 82 (dk_at dksX17_orbitsOfPlaces_1 4 rfl rfl)
theorem dX17_orbitsOfPlaces_31 : decode cX17_orbitsOfPlaces 31 = .ok (.iconst (-1), 1) := dk_2 (dk_at dksX17_orbitsOfPlaces_1 7 rfl rfl)
theorem dX17_orbitsOfPlaces_32 : decode cX17_orbitsOfPlaces 32 = .ok (.ixor, 1) := dk_130 (dk_at dksX17_orbitsOfPlaces_1 8 rfl rfl)
theorem dX17_orbitsOfPlaces_33 : decode cX17_orbitsOfPlaces 33 = .ok (.iand, 1) := dk_126 (dk_at dksX17_orbitsOfPlaces_1 9 rfl rfl)
theorem dX17_orbitsOfPlaces_34 : decode cX17_orbitsOfPlaces 34 = .ok (.istore_n 3, 1) := dk_62 (dk_at dksX17_orbitsOfPlaces_1 10 rfl rfl)
theorem dX17_orbitsOfPlaces_35 : decode cX17_orbitsOfPlaces 35 = .ok (.iinc 2 1, 3) := dk_132 2 1 (dk_at dksX17_orbitsOfPlaces_1 11 rfl rfl)
theorem dX17_orbitsOfPlaces_38 : decode cX17_orbitsOfPlaces 38 = .ok (.iinc 4 1, 3) := dk_132 4 1 (dk_at dksX17_orbitsOfPlaces_1 14 rfl rfl)
theorem dX17_orbitsOfPlaces_41 : decode cX17_orbitsOfPlaces 41 = .ok (.goto (-33), 3) := dk_167 255 223 (dk_at dksX17_orbitsOfPlaces_1 17 rfl rfl)
theorem dX17_orbitsOfPlaces_44 : decode cX17_orbitsOfPlaces 44 = .ok (.iload_n 2, 1) := dk_28 (dk_at dksX17_orbitsOfPlaces_1 20 rfl rfl)
theorem dX17_orbitsOfPlaces_45 : decode cX17_orbitsOfPlaces 45 = .ok (.ireturn, 1) := dk_172 (dk_at dksX17_orbitsOfPlaces_1 21 rfl rfl)
abbrev cX17_reaches : ByteArray := prog_24_method_73_code
def yX17_reaches : MethodName := ⟨RX17, "reaches", "(II)I"⟩
def dkwX17_reaches_2 : List UInt8 := [182, 0, 198, 167, 0, 4, 3, 128, 62, 132, 6, 1, 167, 255, 224, 132, 5, 1, 167, 255, 199, 29, 172]
abbrev dktX17_reaches_2 : List UInt8 := dkwX17_reaches_2 ++ []
def dkwX17_reaches_1 : List UInt8 := [3, 54, 6, 21, 6, 7, 162, 0, 32, 29, 27, 21, 6, 184, 0, 118, 153, 0, 13, 42, 21, 6, 29]
abbrev dktX17_reaches_1 : List UInt8 := dkwX17_reaches_1 ++ dktX17_reaches_2
def dkwX17_reaches_0 : List UInt8 := [28, 62, 3, 54, 4, 3, 54, 5, 21, 5, 16, 25, 162, 0, 56, 21, 4, 29, 159, 0, 50, 29, 54, 4]
abbrev dktX17_reaches_0 : List UInt8 := dkwX17_reaches_0 ++ dktX17_reaches_1
theorem dksX17_reaches_0 : cX17_reaches.data.toList.drop 0 = dktX17_reaches_0 := by decide +kernel
theorem dksX17_reaches_1 : cX17_reaches.data.toList.drop 24 = dktX17_reaches_1 := dk_seg dksX17_reaches_0 24 rfl rfl
theorem dksX17_reaches_2 : cX17_reaches.data.toList.drop 47 = dktX17_reaches_2 := dk_seg dksX17_reaches_1 23 rfl rfl
theorem dX17_reaches_0 : decode cX17_reaches 0 = .ok (.iload_n 2, 1) := dk_28 (dk_at dksX17_reaches_0 0 rfl rfl)
theorem dX17_reaches_1 : decode cX17_reaches 1 = .ok (.istore_n 3, 1) := dk_62 (dk_at dksX17_reaches_0 1 rfl rfl)
theorem dX17_reaches_2 : decode cX17_reaches 2 = .ok (.iconst 0, 1) := dk_3 (dk_at dksX17_reaches_0 2 rfl rfl)
theorem dX17_reaches_3 : decode cX17_reaches 3 = .ok (.istore 4, 2) := dk_54 4 (dk_at dksX17_reaches_0 3 rfl rfl)
theorem dX17_reaches_5 : decode cX17_reaches 5 = .ok (.iconst 0, 1) := dk_3 (dk_at dksX17_reaches_0 5 rfl rfl)
theorem dX17_reaches_6 : decode cX17_reaches 6 = .ok (.istore 5, 2) := dk_54 5 (dk_at dksX17_reaches_0 6 rfl rfl)
theorem dX17_reaches_8 : decode cX17_reaches 8 = .ok (.iload 5, 2) := dk_21 5 (dk_at dksX17_reaches_0 8 rfl rfl)
theorem dX17_reaches_10 : decode cX17_reaches 10 = .ok (.bipush 25, 2) := dk_16 25 (dk_at dksX17_reaches_0 10 rfl rfl)
theorem dX17_reaches_12 : decode cX17_reaches 12 = .ok (.if_icmp .ge 56, 3) := dk_162 0 56 (dk_at dksX17_reaches_0 12 rfl rfl)
theorem dX17_reaches_15 : decode cX17_reaches 15 = .ok (.iload 4, 2) := dk_21 4 (dk_at dksX17_reaches_0 15 rfl rfl)
theorem dX17_reaches_17 : decode cX17_reaches 17 = .ok (.iload_n 3, 1) := dk_29 (dk_at dksX17_reaches_0 17 rfl rfl)
theorem dX17_reaches_18 : decode cX17_reaches 18 = .ok (.if_icmp .eq 50, 3) := dk_159 0 50 (dk_at dksX17_reaches_0 18 rfl rfl)
theorem dX17_reaches_21 : decode cX17_reaches 21 = .ok (.iload_n 3, 1) := dk_29 (dk_at dksX17_reaches_0 21 rfl rfl)
theorem dX17_reaches_22 : decode cX17_reaches 22 = .ok (.istore 4, 2) := dk_54 4 (dk_at dksX17_reaches_0 22 rfl rfl)
theorem dX17_reaches_24 : decode cX17_reaches 24 = .ok (.iconst 0, 1) := dk_3 (dk_at dksX17_reaches_1 0 rfl rfl)
theorem dX17_reaches_25 : decode cX17_reaches 25 = .ok (.istore 6, 2) := dk_54 6 (dk_at dksX17_reaches_1 1 rfl rfl)
theorem dX17_reaches_27 : decode cX17_reaches 27 = .ok (.iload 6, 2) := dk_21 6 (dk_at dksX17_reaches_1 3 rfl rfl)
theorem dX17_reaches_29 : decode cX17_reaches 29 = .ok (.iconst 4, 1) := dk_7 (dk_at dksX17_reaches_1 5 rfl rfl)
theorem dX17_reaches_30 : decode cX17_reaches 30 = .ok (.if_icmp .ge 32, 3) := dk_162 0 32 (dk_at dksX17_reaches_1 6 rfl rfl)
theorem dX17_reaches_33 : decode cX17_reaches 33 = .ok (.iload_n 3, 1) := dk_29 (dk_at dksX17_reaches_1 9 rfl rfl)
theorem dX17_reaches_34 : decode cX17_reaches 34 = .ok (.iload_n 1, 1) := dk_27 (dk_at dksX17_reaches_1 10 rfl rfl)
theorem dX17_reaches_35 : decode cX17_reaches 35 = .ok (.iload 6, 2) := dk_21 6 (dk_at dksX17_reaches_1 11 rfl rfl)
theorem dX17_reaches_37 : decode cX17_reaches 37 = .ok (.invokestatic 118, 3) := dk_184 0 118 (dk_at dksX17_reaches_1 13 rfl rfl)
theorem dX17_reaches_40 : decode cX17_reaches 40 = .ok (.ifCond .eq 13, 3) := dk_153 0 13 (dk_at dksX17_reaches_1 16 rfl rfl)
theorem dX17_reaches_43 : decode cX17_reaches 43 = .ok (.aload_n 0, 1) := dk_42 (dk_at dksX17_reaches_1 19 rfl rfl)
theorem dX17_reaches_44 : decode cX17_reaches 44 = .ok (.iload 6, 2) := dk_21 6 (dk_at dksX17_reaches_1 20 rfl rfl)
theorem dX17_reaches_46 : decode cX17_reaches 46 = .ok (.iload_n 3, 1) := dk_29 (dk_at dksX17_reaches_1 22 rfl rfl)
theorem dX17_reaches_47 : decode cX17_reaches 47 = .ok (.invokevirtual 198, 3) := dk_182 0 198 (dk_at dksX17_reaches_2 0 rfl rfl)
theorem dX17_reaches_50 : decode cX17_reaches 50 = .ok (.goto 4, 3) := dk_167 0 4 (dk_at dksX17_reaches_2 3 rfl rfl)
theorem dX17_reaches_53 : decode cX17_reaches 53 = .ok (.iconst 0, 1) := dk_3 (dk_at dksX17_reaches_2 6 rfl rfl)
theorem dX17_reaches_54 : decode cX17_reaches 54 = .ok (.ior, 1) := dk_128 (dk_at dksX17_reaches_2 7 rfl rfl)
theorem dX17_reaches_55 : decode cX17_reaches 55 = .ok (.istore_n 3, 1) := dk_62 (dk_at dksX17_reaches_2 8 rfl rfl)
theorem dX17_reaches_56 : decode cX17_reaches 56 = .ok (.iinc 6 1, 3) := dk_132 6 1 (dk_at dksX17_reaches_2 9 rfl rfl)
theorem dX17_reaches_59 : decode cX17_reaches 59 = .ok (.goto (-32), 3) := dk_167 255 224 (dk_at dksX17_reaches_2 12 rfl rfl)
theorem dX17_reaches_62 : decode cX17_reaches 62 = .ok (.iinc 5 1, 3) := dk_132 5 1 (dk_at dksX17_reaches_2 15 rfl rfl)
theorem dX17_reaches_65 : decode cX17_reaches 65 = .ok (.goto (-57), 3) := dk_167 255 199 (dk_at dksX17_reaches_2 18 rfl rfl)
theorem dX17_reaches_68 : decode cX17_reaches 68 = .ok (.iload_n 3, 1) := dk_29 (dk_at dksX17_reaches_2 21 rfl rfl)
theorem dX17_reaches_69 : decode cX17_reaches 69 = .ok (.ireturn, 1) := dk_172 (dk_at dksX17_reaches_2 22 rfl rfl)
abbrev cX17_orbitsOfSextets : ByteArray := prog_24_method_83_code
def yX17_orbitsOfSextets : MethodName := ⟨RX17, "orbitsOfSextets", "(I)I"⟩
def dkwX17_orbitsOfSextets_3 : List UInt8 := [132, 5, 1, 167, 255, 215, 132, 4, 1, 167, 255, 196, 132, 3, 1, 167, 255, 179, 28, 172]
abbrev dktX17_orbitsOfSextets_3 : List UInt8 := dkwX17_orbitsOfSextets_3 ++ []
def dkwX17_orbitsOfSextets_2 : List UInt8 := [4, 21, 4, 120, 128, 4, 21, 5, 120, 128, 182, 1, 103, 158, 0, 7, 4, 167, 0, 4, 3, 96, 61]
abbrev dktX17_orbitsOfSextets_2 : List UInt8 := dkwX17_orbitsOfSextets_2 ++ dktX17_orbitsOfSextets_3
def dkwX17_orbitsOfSextets_1 : List UInt8 := [162, 0, 59, 21, 4, 4, 96, 54, 5, 21, 5, 16, 24, 162, 0, 40, 28, 42, 27, 4, 4, 29, 120, 128]
abbrev dktX17_orbitsOfSextets_1 : List UInt8 := dkwX17_orbitsOfSextets_1 ++ dktX17_orbitsOfSextets_2
def dkwX17_orbitsOfSextets_0 : List UInt8 := [42, 182, 1, 91, 3, 61, 4, 62, 29, 16, 22, 162, 0, 77, 29, 4, 96, 54, 4, 21, 4, 16, 23]
abbrev dktX17_orbitsOfSextets_0 : List UInt8 := dkwX17_orbitsOfSextets_0 ++ dktX17_orbitsOfSextets_1
theorem dksX17_orbitsOfSextets_0 : cX17_orbitsOfSextets.data.toList.drop 0 = dktX17_orbitsOfSextets_0 := by decide +kernel
theorem dksX17_orbitsOfSextets_1 : cX17_orbitsOfSextets.data.toList.drop 23 = dktX17_orbitsOfSextets_1 := dk_seg dksX17_orbitsOfSextets_0 23 rfl rfl
theorem dksX17_orbitsOfSextets_2 : cX17_orbitsOfSextets.data.toList.drop 47 = dktX17_orbitsOfSextets_2 := dk_seg dksX17_orbitsOfSextets_1 24 rfl rfl
theorem dksX17_orbitsOfSextets_3 : cX17_orbitsOfSextets.data.toList.drop 70 = dktX17_orbitsOfSextets_3 := dk_seg dksX17_orbitsOfSextets_2 23 rfl rfl
theorem dX17_orbitsOfSextets_0 : decode cX17_orbitsOfSextets 0 = .ok (.aload_n 0, 1) := dk_42 (dk_at dksX17_orbitsOfSextets_0 0 rfl rfl)
theorem dX17_orbitsOfSextets_1 : decode cX17_orbitsOfSextets 1 = .ok (.invokevirtual 347, 3) := dk_182 1 91 (dk_at dksX17_orbitsOfSextets_0 1 rfl rfl)
theorem dX17_orbitsOfSextets_4 : decode cX17_orbitsOfSextets 4 = .ok (.iconst 0, 1) := dk_3 (dk_at dksX17_orbitsOfSextets_0 4 rfl rfl)
theorem dX17_orbitsOfSextets_5 : decode cX17_orbitsOfSextets 5 = .ok (.istore_n 2, 1) := dk_61 (dk_at dksX17_orbitsOfSextets_0 5 rfl rfl)
theorem dX17_orbitsOfSextets_6 : decode cX17_orbitsOfSextets 6 = .ok (.iconst 1, 1) := dk_4 (dk_at dksX17_orbitsOfSextets_0 6 rfl rfl)
theorem dX17_orbitsOfSextets_7 : decode cX17_orbitsOfSextets 7 = .ok (.istore_n 3, 1) := dk_62 (dk_at dksX17_orbitsOfSextets_0 7 rfl rfl)
theorem dX17_orbitsOfSextets_8 : decode cX17_orbitsOfSextets 8 = .ok (.iload_n 3, 1) := dk_29 (dk_at dksX17_orbitsOfSextets_0 8 rfl rfl)
theorem dX17_orbitsOfSextets_9 : decode cX17_orbitsOfSextets 9 = .ok (.bipush 22, 2) := dk_16 22 (dk_at dksX17_orbitsOfSextets_0 9 rfl rfl)
theorem dX17_orbitsOfSextets_11 : decode cX17_orbitsOfSextets 11 = .ok (.if_icmp .ge 77, 3) := dk_162 0 77 (dk_at dksX17_orbitsOfSextets_0 11 rfl rfl)
theorem dX17_orbitsOfSextets_14 : decode cX17_orbitsOfSextets 14 = .ok (.iload_n 3, 1) := dk_29 (dk_at dksX17_orbitsOfSextets_0 14 rfl rfl)
theorem dX17_orbitsOfSextets_15 : decode cX17_orbitsOfSextets 15 = .ok (.iconst 1, 1) := dk_4 (dk_at dksX17_orbitsOfSextets_0 15 rfl rfl)
theorem dX17_orbitsOfSextets_16 : decode cX17_orbitsOfSextets 16 = .ok (.iadd, 1) := dk_96 (dk_at dksX17_orbitsOfSextets_0 16 rfl rfl)
theorem dX17_orbitsOfSextets_17 : decode cX17_orbitsOfSextets 17 = .ok (.istore 4, 2) := dk_54 4 (dk_at dksX17_orbitsOfSextets_0 17 rfl rfl)
theorem dX17_orbitsOfSextets_19 : decode cX17_orbitsOfSextets 19 = .ok (.iload 4, 2) := dk_21 4 (dk_at dksX17_orbitsOfSextets_0 19 rfl rfl)
theorem dX17_orbitsOfSextets_21 : decode cX17_orbitsOfSextets 21 = .ok (.bipush 23, 2) := dk_16 23 (dk_at dksX17_orbitsOfSextets_0 21 rfl rfl)
theorem dX17_orbitsOfSextets_23 : decode cX17_orbitsOfSextets 23 = .ok (.if_icmp .ge 59, 3) := dk_162 0 59 (dk_at dksX17_orbitsOfSextets_1 0 rfl rfl)
theorem dX17_orbitsOfSextets_26 : decode cX17_orbitsOfSextets 26 = .ok (.iload 4, 2) := dk_21 4 (dk_at dksX17_orbitsOfSextets_1 3 rfl rfl)
theorem dX17_orbitsOfSextets_28 : decode cX17_orbitsOfSextets 28 = .ok (.iconst 1, 1) := dk_4 (dk_at dksX17_orbitsOfSextets_1 5 rfl rfl)
theorem dX17_orbitsOfSextets_29 : decode cX17_orbitsOfSextets 29 = .ok (.iadd, 1) := dk_96 (dk_at dksX17_orbitsOfSextets_1 6 rfl rfl)
theorem dX17_orbitsOfSextets_30 : decode cX17_orbitsOfSextets 30 = .ok (.istore 5, 2) := dk_54 5 (dk_at dksX17_orbitsOfSextets_1 7 rfl rfl)
theorem dX17_orbitsOfSextets_32 : decode cX17_orbitsOfSextets 32 = .ok (.iload 5, 2) := dk_21 5 (dk_at dksX17_orbitsOfSextets_1 9 rfl rfl)
theorem dX17_orbitsOfSextets_34 : decode cX17_orbitsOfSextets 34 = .ok (.bipush 24, 2) := dk_16 24 (dk_at dksX17_orbitsOfSextets_1 11 rfl rfl)
theorem dX17_orbitsOfSextets_36 : decode cX17_orbitsOfSextets 36 = .ok (.if_icmp .ge 40, 3) := dk_162 0 40 (dk_at dksX17_orbitsOfSextets_1 13 rfl rfl)
theorem dX17_orbitsOfSextets_39 : decode cX17_orbitsOfSextets 39 = .ok (.iload_n 2, 1) := dk_28 (dk_at dksX17_orbitsOfSextets_1 16 rfl rfl)
theorem dX17_orbitsOfSextets_40 : decode cX17_orbitsOfSextets 40 = .ok (.aload_n 0, 1) := dk_42 (dk_at dksX17_orbitsOfSextets_1 17 rfl rfl)
theorem dX17_orbitsOfSextets_41 : decode cX17_orbitsOfSextets 41 = .ok (.iload_n 1, 1) := dk_27 (dk_at dksX17_orbitsOfSextets_1 18 rfl rfl)
theorem dX17_orbitsOfSextets_42 : decode cX17_orbitsOfSextets 42 = .ok (.iconst 1, 1) := dk_4 (dk_at dksX17_orbitsOfSextets_1 19 rfl rfl)
theorem dX17_orbitsOfSextets_43 : decode cX17_orbitsOfSextets 43 = .ok (.iconst 1, 1) := dk_4 (dk_at dksX17_orbitsOfSextets_1 20 rfl rfl)
theorem dX17_orbitsOfSextets_44 : decode cX17_orbitsOfSextets 44 = .ok (.iload_n 3, 1) := dk_29 (dk_at dksX17_orbitsOfSextets_1 21 rfl rfl)
theorem dX17_orbitsOfSextets_45 : decode cX17_orbitsOfSextets 45 = .ok (.ishl, 1) := dk_120 (dk_at dksX17_orbitsOfSextets_1 22 rfl rfl)
theorem dX17_orbitsOfSextets_46 : decode cX17_orbitsOfSextets 46 = .ok (.ior, 1) := dk_128 (dk_at dksX17_orbitsOfSextets_1 23 rfl rfl)
theorem dX17_orbitsOfSextets_47 : decode cX17_orbitsOfSextets 47 = .ok (.iconst 1, 1) := dk_4 (dk_at dksX17_orbitsOfSextets_2 0 rfl rfl)
theorem dX17_orbitsOfSextets_48 : decode cX17_orbitsOfSextets 48 = .ok (.iload 4, 2) := dk_21 4 (dk_at dksX17_orbitsOfSextets_2 1 rfl rfl)
theorem dX17_orbitsOfSextets_50 : decode cX17_orbitsOfSextets 50 = .ok (.ishl, 1) := dk_120 (dk_at dksX17_orbitsOfSextets_2 3 rfl rfl)
theorem dX17_orbitsOfSextets_51 : decode cX17_orbitsOfSextets 51 = .ok (.ior, 1) := dk_128 (dk_at dksX17_orbitsOfSextets_2 4 rfl rfl)
theorem dX17_orbitsOfSextets_52 : decode cX17_orbitsOfSextets 52 = .ok (.iconst 1, 1) := dk_4 (dk_at dksX17_orbitsOfSextets_2 5 rfl rfl)
theorem dX17_orbitsOfSextets_53 : decode cX17_orbitsOfSextets 53 = .ok (.iload 5, 2) := dk_21 5 (dk_at dksX17_orbitsOfSextets_2 6 rfl rfl)
theorem dX17_orbitsOfSextets_55 : decode cX17_orbitsOfSextets 55 = .ok (.ishl, 1) := dk_120 (dk_at dksX17_orbitsOfSextets_2 8 rfl rfl)
theorem dX17_orbitsOfSextets_56 : decode cX17_orbitsOfSextets 56 = .ok (.ior, 1) := dk_128 (dk_at dksX17_orbitsOfSextets_2 9 rfl rfl)
theorem dX17_orbitsOfSextets_57 : decode cX17_orbitsOfSextets 57 = .ok (.invokevirtual 359, 3) := dk_182 1 103 (dk_at dksX17_orbitsOfSextets_2 10 rfl rfl)
theorem dX17_orbitsOfSextets_60 : decode cX17_orbitsOfSextets 60 = .ok (.ifCond .le 7, 3) := dk_158 0 7 (dk_at dksX17_orbitsOfSextets_2 13 rfl rfl)
theorem dX17_orbitsOfSextets_63 : decode cX17_orbitsOfSextets 63 = .ok (.iconst 1, 1) := dk_4 (dk_at dksX17_orbitsOfSextets_2 16 rfl rfl)
theorem dX17_orbitsOfSextets_64 : decode cX17_orbitsOfSextets 64 = .ok (.goto 4, 3) := dk_167 0 4 (dk_at dksX17_orbitsOfSextets_2 17 rfl rfl)
theorem dX17_orbitsOfSextets_67 : decode cX17_orbitsOfSextets 67 = .ok (.iconst 0, 1) := dk_3 (dk_at dksX17_orbitsOfSextets_2 20 rfl rfl)
theorem dX17_orbitsOfSextets_68 : decode cX17_orbitsOfSextets 68 = .ok (.iadd, 1) := dk_96 (dk_at dksX17_orbitsOfSextets_2 21 rfl rfl)
theorem dX17_orbitsOfSextets_69 : decode cX17_orbitsOfSextets 69 = .ok (.istore_n 2, 1) := dk_61 (dk_at dksX17_orbitsOfSextets_2 22 rfl rfl)
theorem dX17_orbitsOfSextets_70 : decode cX17_orbitsOfSextets 70 = .ok (.iinc 5 1, 3) := dk_132 5 1 (dk_at dksX17_orbitsOfSextets_3 0 rfl rfl)
theorem dX17_orbitsOfSextets_73 : decode cX17_orbitsOfSextets 73 = .ok (.goto (-41), 3) := dk_167 255 215 (dk_at dksX17_orbitsOfSextets_3 3 rfl rfl)
theorem dX17_orbitsOfSextets_76 : decode cX17_orbitsOfSextets 76 = .ok (.iinc 4 1, 3) := dk_132 4 1 (dk_at dksX17_orbitsOfSextets_3 6 rfl rfl)
theorem dX17_orbitsOfSextets_79 : decode cX17_orbitsOfSextets 79 = .ok (.goto (-60), 3) := dk_167 255 196 (dk_at dksX17_orbitsOfSextets_3 9 rfl rfl)
theorem dX17_orbitsOfSextets_82 : decode cX17_orbitsOfSextets 82 = .ok (.iinc 3 1, 3) := dk_132 3 1 (dk_at dksX17_orbitsOfSextets_3 12 rfl rfl)
theorem dX17_orbitsOfSextets_85 : decode cX17_orbitsOfSextets 85 = .ok (.goto (-77), 3) := dk_167 255 179 (dk_at dksX17_orbitsOfSextets_3 15 rfl rfl)
theorem dX17_orbitsOfSextets_88 : decode cX17_orbitsOfSextets 88 = .ok (.iload_n 2, 1) := dk_28 (dk_at dksX17_orbitsOfSextets_3 18 rfl rfl)
theorem dX17_orbitsOfSextets_89 : decode cX17_orbitsOfSextets 89 = .ok (.ireturn, 1) := dk_172 (dk_at dksX17_orbitsOfSextets_3 19 rfl rfl)
abbrev cX17_unmarks : ByteArray := prog_24_method_78_code
def yX17_unmarks : MethodName := ⟨RX17, "unmarks", "()V"⟩
def dkwX17_unmarks_0 : List UInt8 := [3, 60, 27, 17, 16, 0, 162, 0, 16, 42, 180, 0, 65, 27, 3, 84, 132, 1, 1, 167, 255, 239, 177]
abbrev dktX17_unmarks_0 : List UInt8 := dkwX17_unmarks_0 ++ []
theorem dksX17_unmarks_0 : cX17_unmarks.data.toList.drop 0 = dktX17_unmarks_0 := by decide +kernel
theorem dX17_unmarks_0 : decode cX17_unmarks 0 = .ok (.iconst 0, 1) := dk_3 (dk_at dksX17_unmarks_0 0 rfl rfl)
theorem dX17_unmarks_1 : decode cX17_unmarks 1 = .ok (.istore_n 1, 1) := dk_60 (dk_at dksX17_unmarks_0 1 rfl rfl)
theorem dX17_unmarks_2 : decode cX17_unmarks 2 = .ok (.iload_n 1, 1) := dk_27 (dk_at dksX17_unmarks_0 2 rfl rfl)
theorem dX17_unmarks_3 : decode cX17_unmarks 3 = .ok (.sipush 4096, 3) := dk_17 16 0 (dk_at dksX17_unmarks_0 3 rfl rfl)
theorem dX17_unmarks_6 : decode cX17_unmarks 6 = .ok (.if_icmp .ge 16, 3) := dk_162 0 16 (dk_at dksX17_unmarks_0 6 rfl rfl)
theorem dX17_unmarks_9 : decode cX17_unmarks 9 = .ok (.aload_n 0, 1) := dk_42 (dk_at dksX17_unmarks_0 9 rfl rfl)
theorem dX17_unmarks_10 : decode cX17_unmarks 10 = .ok (.getfield 65, 3) := dk_180 0 65 (dk_at dksX17_unmarks_0 10 rfl rfl)
theorem dX17_unmarks_13 : decode cX17_unmarks 13 = .ok (.iload_n 1, 1) := dk_27 (dk_at dksX17_unmarks_0 13 rfl rfl)
theorem dX17_unmarks_14 : decode cX17_unmarks 14 = .ok (.iconst 0, 1) := dk_3 (dk_at dksX17_unmarks_0 14 rfl rfl)
theorem dX17_unmarks_15 : decode cX17_unmarks 15 = .ok (.bastore, 1) := dk_84 (dk_at dksX17_unmarks_0 15 rfl rfl)
theorem dX17_unmarks_16 : decode cX17_unmarks 16 = .ok (.iinc 1 1, 3) := dk_132 1 1 (dk_at dksX17_unmarks_0 16 rfl rfl)
theorem dX17_unmarks_19 : decode cX17_unmarks 19 = .ok (.goto (-17), 3) := dk_167 255 239 (dk_at dksX17_unmarks_0 19 rfl rfl)
theorem dX17_unmarks_22 : decode cX17_unmarks 22 = .ok (.return_, 1) := dk_177 (dk_at dksX17_unmarks_0 22 rfl rfl)
abbrev cX17_spreadsFours : ByteArray := prog_24_method_82_code
def yX17_spreadsFours : MethodName := ⟨RX17, "spreadsFours", "(II)I"⟩
def dkwX17_spreadsFours_5 : List UInt8 := [132, 3, 1, 132, 5, 1, 167, 255, 178, 132, 4, 1, 167, 255, 163, 29, 172]
abbrev dktX17_spreadsFours_5 : List UInt8 := dkwX17_spreadsFours_5 ++ []
def dkwX17_spreadsFours_4 : List UInt8 := [51, 154, 0, 25, 42, 180, 0, 65, 21, 6, 184, 1, 97, 4, 84, 42, 180, 0, 69, 29, 21, 6, 79]
abbrev dktX17_spreadsFours_4 : List UInt8 := dkwX17_spreadsFours_4 ++ dktX17_spreadsFours_5
def dkwX17_spreadsFours_3 : List UInt8 := [182, 1, 100, 167, 0, 10, 42, 180, 0, 69, 21, 4, 46, 54, 6, 42, 180, 0, 65, 21, 6, 184, 1, 97]
abbrev dktX17_spreadsFours_3 : List UInt8 := dkwX17_spreadsFours_3 ++ dktX17_spreadsFours_4
def dkwX17_spreadsFours_2 : List UInt8 := [162, 0, 78, 27, 21, 5, 184, 0, 118, 153, 0, 19, 42, 21, 5, 42, 180, 0, 69, 21, 4, 46]
abbrev dktX17_spreadsFours_2 : List UInt8 := dkwX17_spreadsFours_2 ++ dktX17_spreadsFours_3
def dkwX17_spreadsFours_1 : List UInt8 := [4, 84, 42, 180, 0, 69, 3, 28, 79, 3, 54, 4, 21, 4, 29, 162, 0, 93, 3, 54, 5, 21, 5, 7]
abbrev dktX17_spreadsFours_1 : List UInt8 := dkwX17_spreadsFours_1 ++ dktX17_spreadsFours_2
def dkwX17_spreadsFours_0 : List UInt8 := [42, 180, 0, 65, 28, 184, 1, 97, 51, 153, 0, 5, 3, 172, 4, 62, 42, 180, 0, 65, 28, 184, 1, 97]
abbrev dktX17_spreadsFours_0 : List UInt8 := dkwX17_spreadsFours_0 ++ dktX17_spreadsFours_1
theorem dksX17_spreadsFours_0 : cX17_spreadsFours.data.toList.drop 0 = dktX17_spreadsFours_0 := by decide +kernel
theorem dksX17_spreadsFours_1 : cX17_spreadsFours.data.toList.drop 24 = dktX17_spreadsFours_1 := dk_seg dksX17_spreadsFours_0 24 rfl rfl
theorem dksX17_spreadsFours_2 : cX17_spreadsFours.data.toList.drop 48 = dktX17_spreadsFours_2 := dk_seg dksX17_spreadsFours_1 24 rfl rfl
theorem dksX17_spreadsFours_3 : cX17_spreadsFours.data.toList.drop 70 = dktX17_spreadsFours_3 := dk_seg dksX17_spreadsFours_2 22 rfl rfl
theorem dksX17_spreadsFours_4 : cX17_spreadsFours.data.toList.drop 94 = dktX17_spreadsFours_4 := dk_seg dksX17_spreadsFours_3 24 rfl rfl
theorem dksX17_spreadsFours_5 : cX17_spreadsFours.data.toList.drop 117 = dktX17_spreadsFours_5 := dk_seg dksX17_spreadsFours_4 23 rfl rfl
theorem dX17_spreadsFours_0 : decode cX17_spreadsFours 0 = .ok (.aload_n 0, 1) := dk_42 (dk_at dksX17_spreadsFours_0 0 rfl rfl)
theorem dX17_spreadsFours_1 : decode cX17_spreadsFours 1 = .ok (.getfield 65, 3) := dk_180 0 65 (dk_at dksX17_spreadsFours_0 1 rfl rfl)
theorem dX17_spreadsFours_4 : decode cX17_spreadsFours 4 = .ok (.iload_n 2, 1) := dk_28 (dk_at dksX17_spreadsFours_0 4 rfl rfl)
theorem dX17_spreadsFours_5 : decode cX17_spreadsFours 5 = .ok (.invokestatic 353, 3) := dk_184 1 97 (dk_at dksX17_spreadsFours_0 5 rfl rfl)
theorem dX17_spreadsFours_8 : decode cX17_spreadsFours 8 = .ok (.baload, 1) := dk_51 (dk_at dksX17_spreadsFours_0 8 rfl rfl)
theorem dX17_spreadsFours_9 : decode cX17_spreadsFours 9 = .ok (.ifCond .eq 5, 3) := dk_153 0 5 (dk_at dksX17_spreadsFours_0 9 rfl rfl)
theorem dX17_spreadsFours_12 : decode cX17_spreadsFours 12 = .ok (.iconst 0, 1) := dk_3 (dk_at dksX17_spreadsFours_0 12 rfl rfl)
theorem dX17_spreadsFours_13 : decode cX17_spreadsFours 13 = .ok (.ireturn, 1) := dk_172 (dk_at dksX17_spreadsFours_0 13 rfl rfl)
theorem dX17_spreadsFours_14 : decode cX17_spreadsFours 14 = .ok (.iconst 1, 1) := dk_4 (dk_at dksX17_spreadsFours_0 14 rfl rfl)
theorem dX17_spreadsFours_15 : decode cX17_spreadsFours 15 = .ok (.istore_n 3, 1) := dk_62 (dk_at dksX17_spreadsFours_0 15 rfl rfl)
theorem dX17_spreadsFours_16 : decode cX17_spreadsFours 16 = .ok (.aload_n 0, 1) := dk_42 (dk_at dksX17_spreadsFours_0 16 rfl rfl)
theorem dX17_spreadsFours_17 : decode cX17_spreadsFours 17 = .ok (.getfield 65, 3) := dk_180 0 65 (dk_at dksX17_spreadsFours_0 17 rfl rfl)
theorem dX17_spreadsFours_20 : decode cX17_spreadsFours 20 = .ok (.iload_n 2, 1) := dk_28 (dk_at dksX17_spreadsFours_0 20 rfl rfl)
theorem dX17_spreadsFours_21 : decode cX17_spreadsFours 21 = .ok (.invokestatic 353, 3) := dk_184 1 97 (dk_at dksX17_spreadsFours_0 21 rfl rfl)
theorem dX17_spreadsFours_24 : decode cX17_spreadsFours 24 = .ok (.iconst 1, 1) := dk_4 (dk_at dksX17_spreadsFours_1 0 rfl rfl)
theorem dX17_spreadsFours_25 : decode cX17_spreadsFours 25 = .ok (.bastore, 1) := dk_84 (dk_at dksX17_spreadsFours_1 1 rfl rfl)
theorem dX17_spreadsFours_26 : decode cX17_spreadsFours 26 = .ok (.aload_n 0, 1) := dk_42 (dk_at dksX17_spreadsFours_1 2 rfl rfl)
theorem dX17_spreadsFours_27 : decode cX17_spreadsFours 27 = .ok (.getfield 69, 3) := dk_180 0 69 (dk_at dksX17_spreadsFours_1 3 rfl rfl)
theorem dX17_spreadsFours_30 : decode cX17_spreadsFours 30 = .ok (.iconst 0, 1) := dk_3 (dk_at dksX17_spreadsFours_1 6 rfl rfl)
theorem dX17_spreadsFours_31 : decode cX17_spreadsFours 31 = .ok (.iload_n 2, 1) := dk_28 (dk_at dksX17_spreadsFours_1 7 rfl rfl)
theorem dX17_spreadsFours_32 : decode cX17_spreadsFours 32 = .ok (.iastore, 1) := dk_79 (dk_at dksX17_spreadsFours_1 8 rfl rfl)
theorem dX17_spreadsFours_33 : decode cX17_spreadsFours 33 = .ok (.iconst 0, 1) := dk_3 (dk_at dksX17_spreadsFours_1 9 rfl rfl)
theorem dX17_spreadsFours_34 : decode cX17_spreadsFours 34 = .ok (.istore 4, 2) := dk_54 4 (dk_at dksX17_spreadsFours_1 10 rfl rfl)
theorem dX17_spreadsFours_36 : decode cX17_spreadsFours 36 = .ok (.iload 4, 2) := dk_21 4 (dk_at dksX17_spreadsFours_1 12 rfl rfl)
theorem dX17_spreadsFours_38 : decode cX17_spreadsFours 38 = .ok (.iload_n 3, 1) := dk_29 (dk_at dksX17_spreadsFours_1 14 rfl rfl)
theorem dX17_spreadsFours_39 : decode cX17_spreadsFours 39 = .ok (.if_icmp .ge 93, 3) := dk_162 0 93 (dk_at dksX17_spreadsFours_1 15 rfl rfl)
theorem dX17_spreadsFours_42 : decode cX17_spreadsFours 42 = .ok (.iconst 0, 1) := dk_3 (dk_at dksX17_spreadsFours_1 18 rfl rfl)
theorem dX17_spreadsFours_43 : decode cX17_spreadsFours 43 = .ok (.istore 5, 2) := dk_54 5 (dk_at dksX17_spreadsFours_1 19 rfl rfl)
theorem dX17_spreadsFours_45 : decode cX17_spreadsFours 45 = .ok (.iload 5, 2) := dk_21 5 (dk_at dksX17_spreadsFours_1 21 rfl rfl)
theorem dX17_spreadsFours_47 : decode cX17_spreadsFours 47 = .ok (.iconst 4, 1) := dk_7 (dk_at dksX17_spreadsFours_1 23 rfl rfl)
theorem dX17_spreadsFours_48 : decode cX17_spreadsFours 48 = .ok (.if_icmp .ge 78, 3) := dk_162 0 78 (dk_at dksX17_spreadsFours_2 0 rfl rfl)
theorem dX17_spreadsFours_51 : decode cX17_spreadsFours 51 = .ok (.iload_n 1, 1) := dk_27 (dk_at dksX17_spreadsFours_2 3 rfl rfl)
theorem dX17_spreadsFours_52 : decode cX17_spreadsFours 52 = .ok (.iload 5, 2) := dk_21 5 (dk_at dksX17_spreadsFours_2 4 rfl rfl)
theorem dX17_spreadsFours_54 : decode cX17_spreadsFours 54 = .ok (.invokestatic 118, 3) := dk_184 0 118 (dk_at dksX17_spreadsFours_2 6 rfl rfl)
theorem dX17_spreadsFours_57 : decode cX17_spreadsFours 57 = .ok (.ifCond .eq 19, 3) := dk_153 0 19 (dk_at dksX17_spreadsFours_2 9 rfl rfl)
theorem dX17_spreadsFours_60 : decode cX17_spreadsFours 60 = .ok (.aload_n 0, 1) := dk_42 (dk_at dksX17_spreadsFours_2 12 rfl rfl)
theorem dX17_spreadsFours_61 : decode cX17_spreadsFours 61 = .ok (.iload 5, 2) := dk_21 5 (dk_at dksX17_spreadsFours_2 13 rfl rfl)
theorem dX17_spreadsFours_63 : decode cX17_spreadsFours 63 = .ok (.aload_n 0, 1) := dk_42 (dk_at dksX17_spreadsFours_2 15 rfl rfl)
theorem dX17_spreadsFours_64 : decode cX17_spreadsFours 64 = .ok (.getfield 69, 3) := dk_180 0 69 (dk_at dksX17_spreadsFours_2 16 rfl rfl)
theorem dX17_spreadsFours_67 : decode cX17_spreadsFours 67 = .ok (.iload 4, 2) := dk_21 4 (dk_at dksX17_spreadsFours_2 19 rfl rfl)
theorem dX17_spreadsFours_69 : decode cX17_spreadsFours 69 = .ok (.iaload, 1) := dk_46 (dk_at dksX17_spreadsFours_2 21 rfl rfl)
theorem dX17_spreadsFours_70 : decode cX17_spreadsFours 70 = .ok (.invokevirtual 356, 3) := dk_182 1 100 (dk_at dksX17_spreadsFours_3 0 rfl rfl)
theorem dX17_spreadsFours_73 : decode cX17_spreadsFours 73 = .ok (.goto 10, 3) := dk_167 0 10 (dk_at dksX17_spreadsFours_3 3 rfl rfl)
theorem dX17_spreadsFours_76 : decode cX17_spreadsFours 76 = .ok (.aload_n 0, 1) := dk_42 (dk_at dksX17_spreadsFours_3 6 rfl rfl)
theorem dX17_spreadsFours_77 : decode cX17_spreadsFours 77 = .ok (.getfield 69, 3) := dk_180 0 69 (dk_at dksX17_spreadsFours_3 7 rfl rfl)
theorem dX17_spreadsFours_80 : decode cX17_spreadsFours 80 = .ok (.iload 4, 2) := dk_21 4 (dk_at dksX17_spreadsFours_3 10 rfl rfl)
theorem dX17_spreadsFours_82 : decode cX17_spreadsFours 82 = .ok (.iaload, 1) := dk_46 (dk_at dksX17_spreadsFours_3 12 rfl rfl)
theorem dX17_spreadsFours_83 : decode cX17_spreadsFours 83 = .ok (.istore 6, 2) := dk_54 6 (dk_at dksX17_spreadsFours_3 13 rfl rfl)
theorem dX17_spreadsFours_85 : decode cX17_spreadsFours 85 = .ok (.aload_n 0, 1) := dk_42 (dk_at dksX17_spreadsFours_3 15 rfl rfl)
theorem dX17_spreadsFours_86 : decode cX17_spreadsFours 86 = .ok (.getfield 65, 3) := dk_180 0 65 (dk_at dksX17_spreadsFours_3 16 rfl rfl)
theorem dX17_spreadsFours_89 : decode cX17_spreadsFours 89 = .ok (.iload 6, 2) := dk_21 6 (dk_at dksX17_spreadsFours_3 19 rfl rfl)
theorem dX17_spreadsFours_91 : decode cX17_spreadsFours 91 = .ok (.invokestatic 353, 3) := dk_184 1 97 (dk_at dksX17_spreadsFours_3 21 rfl rfl)
theorem dX17_spreadsFours_94 : decode cX17_spreadsFours 94 = .ok (.baload, 1) := dk_51 (dk_at dksX17_spreadsFours_4 0 rfl rfl)
theorem dX17_spreadsFours_95 : decode cX17_spreadsFours 95 = .ok (.ifCond .ne 25, 3) := dk_154 0 25 (dk_at dksX17_spreadsFours_4 1 rfl rfl)
theorem dX17_spreadsFours_98 : decode cX17_spreadsFours 98 = .ok (.aload_n 0, 1) := dk_42 (dk_at dksX17_spreadsFours_4 4 rfl rfl)
theorem dX17_spreadsFours_99 : decode cX17_spreadsFours 99 = .ok (.getfield 65, 3) := dk_180 0 65 (dk_at dksX17_spreadsFours_4 5 rfl rfl)
theorem dX17_spreadsFours_102 : decode cX17_spreadsFours 102 = .ok (.iload 6, 2) := dk_21 6 (dk_at dksX17_spreadsFours_4 8 rfl rfl)
theorem dX17_spreadsFours_104 : decode cX17_spreadsFours 104 = .ok (.invokestatic 353, 3) := dk_184 1 97 (dk_at dksX17_spreadsFours_4 10 rfl rfl)
theorem dX17_spreadsFours_107 : decode cX17_spreadsFours 107 = .ok (.iconst 1, 1) := dk_4 (dk_at dksX17_spreadsFours_4 13 rfl rfl)
theorem dX17_spreadsFours_108 : decode cX17_spreadsFours 108 = .ok (.bastore, 1) := dk_84 (dk_at dksX17_spreadsFours_4 14 rfl rfl)
theorem dX17_spreadsFours_109 : decode cX17_spreadsFours 109 = .ok (.aload_n 0, 1) := dk_42 (dk_at dksX17_spreadsFours_4 15 rfl rfl)
theorem dX17_spreadsFours_110 : decode cX17_spreadsFours 110 = .ok (.getfield 69, 3) := dk_180 0 69 (dk_at dksX17_spreadsFours_4 16 rfl rfl)
theorem dX17_spreadsFours_113 : decode cX17_spreadsFours 113 = .ok (.iload_n 3, 1) := dk_29 (dk_at dksX17_spreadsFours_4 19 rfl rfl)
theorem dX17_spreadsFours_114 : decode cX17_spreadsFours 114 = .ok (.iload 6, 2) := dk_21 6 (dk_at dksX17_spreadsFours_4 20 rfl rfl)
theorem dX17_spreadsFours_116 : decode cX17_spreadsFours 116 = .ok (.iastore, 1) := dk_79 (dk_at dksX17_spreadsFours_4 22 rfl rfl)
theorem dX17_spreadsFours_117 : decode cX17_spreadsFours 117 = .ok (.iinc 3 1, 3) := dk_132 3 1 (dk_at dksX17_spreadsFours_5 0 rfl rfl)
theorem dX17_spreadsFours_120 : decode cX17_spreadsFours 120 = .ok (.iinc 5 1, 3) := dk_132 5 1 (dk_at dksX17_spreadsFours_5 3 rfl rfl)
theorem dX17_spreadsFours_123 : decode cX17_spreadsFours 123 = .ok (.goto (-78), 3) := dk_167 255 178 (dk_at dksX17_spreadsFours_5 6 rfl rfl)
theorem dX17_spreadsFours_126 : decode cX17_spreadsFours 126 = .ok (.iinc 4 1, 3) := dk_132 4 1 (dk_at dksX17_spreadsFours_5 9 rfl rfl)
theorem dX17_spreadsFours_129 : decode cX17_spreadsFours 129 = .ok (.goto (-93), 3) := dk_167 255 163 (dk_at dksX17_spreadsFours_5 12 rfl rfl)
theorem dX17_spreadsFours_132 : decode cX17_spreadsFours 132 = .ok (.iload_n 3, 1) := dk_29 (dk_at dksX17_spreadsFours_5 15 rfl rfl)
theorem dX17_spreadsFours_133 : decode cX17_spreadsFours 133 = .ok (.ireturn, 1) := dk_172 (dk_at dksX17_spreadsFours_5 16 rfl rfl)
abbrev cX17_rankOf : ByteArray := prog_24_method_80_code
def yX17_rankOf : MethodName := ⟨RX17, "rankOf", "(I)I"⟩
def dkwX17_rankOf_2 : List UInt8 := [104, 5, 108, 96, 27, 96, 4, 100, 172]
abbrev dktX17_rankOf_2 : List UInt8 := dkwX17_rankOf_2 ++ []
def dkwX17_rankOf_1 : List UInt8 := [184, 0, 141, 62, 29, 4, 100, 29, 5, 100, 104, 29, 6, 100, 104, 16, 6, 108, 28, 4, 100, 28, 5, 100]
abbrev dktX17_rankOf_1 : List UInt8 := dkwX17_rankOf_1 ++ dktX17_rankOf_2
def dkwX17_rankOf_0 : List UInt8 := [26, 26, 4, 100, 126, 184, 0, 112, 60, 26, 16, 254, 126, 4, 27, 120, 2, 130, 126, 184, 0, 112, 61, 26]
abbrev dktX17_rankOf_0 : List UInt8 := dkwX17_rankOf_0 ++ dktX17_rankOf_1
theorem dksX17_rankOf_0 : cX17_rankOf.data.toList.drop 0 = dktX17_rankOf_0 := by decide +kernel
theorem dksX17_rankOf_1 : cX17_rankOf.data.toList.drop 24 = dktX17_rankOf_1 := dk_seg dksX17_rankOf_0 24 rfl rfl
theorem dksX17_rankOf_2 : cX17_rankOf.data.toList.drop 48 = dktX17_rankOf_2 := dk_seg dksX17_rankOf_1 24 rfl rfl
theorem dX17_rankOf_0 : decode cX17_rankOf 0 = .ok (.iload_n 0, 1) := dk_26 (dk_at dksX17_rankOf_0 0 rfl rfl)
theorem dX17_rankOf_1 : decode cX17_rankOf 1 = .ok (.iload_n 0, 1) := dk_26 (dk_at dksX17_rankOf_0 1 rfl rfl)
theorem dX17_rankOf_2 : decode cX17_rankOf 2 = .ok (.iconst 1, 1) := dk_4 (dk_at dksX17_rankOf_0 2 rfl rfl)
theorem dX17_rankOf_3 : decode cX17_rankOf 3 = .ok (.isub, 1) := dk_100 (dk_at dksX17_rankOf_0 3 rfl rfl)
theorem dX17_rankOf_4 : decode cX17_rankOf 4 = .ok (.iand, 1) := dk_126 (dk_at dksX17_rankOf_0 4 rfl rfl)
theorem dX17_rankOf_5 : decode cX17_rankOf 5 = .ok (.invokestatic 112, 3) := dk_184 0 112 (dk_at dksX17_rankOf_0 5 rfl rfl)
theorem dX17_rankOf_8 : decode cX17_rankOf 8 = .ok (.istore_n 1, 1) := dk_60 (dk_at dksX17_rankOf_0 8 rfl rfl)
theorem dX17_rankOf_9 : decode cX17_rankOf 9 = .ok (.iload_n 0, 1) := dk_26 (dk_at dksX17_rankOf_0 9 rfl rfl)
theorem dX17_rankOf_10 : decode cX17_rankOf 10 = .ok (.bipush (-2), 2) := dk_16 254 (dk_at dksX17_rankOf_0 10 rfl rfl)
theorem dX17_rankOf_12 : decode cX17_rankOf 12 = .ok (.iand, 1) := dk_126 (dk_at dksX17_rankOf_0 12 rfl rfl)
theorem dX17_rankOf_13 : decode cX17_rankOf 13 = .ok (.iconst 1, 1) := dk_4 (dk_at dksX17_rankOf_0 13 rfl rfl)
theorem dX17_rankOf_14 : decode cX17_rankOf 14 = .ok (.iload_n 1, 1) := dk_27 (dk_at dksX17_rankOf_0 14 rfl rfl)
theorem dX17_rankOf_15 : decode cX17_rankOf 15 = .ok (.ishl, 1) := dk_120 (dk_at dksX17_rankOf_0 15 rfl rfl)
theorem dX17_rankOf_16 : decode cX17_rankOf 16 = .ok (.iconst (-1), 1) := dk_2 (dk_at dksX17_rankOf_0 16 rfl rfl)
theorem dX17_rankOf_17 : decode cX17_rankOf 17 = .ok (.ixor, 1) := dk_130 (dk_at dksX17_rankOf_0 17 rfl rfl)
theorem dX17_rankOf_18 : decode cX17_rankOf 18 = .ok (.iand, 1) := dk_126 (dk_at dksX17_rankOf_0 18 rfl rfl)
theorem dX17_rankOf_19 : decode cX17_rankOf 19 = .ok (.invokestatic 112, 3) := dk_184 0 112 (dk_at dksX17_rankOf_0 19 rfl rfl)
theorem dX17_rankOf_22 : decode cX17_rankOf 22 = .ok (.istore_n 2, 1) := dk_61 (dk_at dksX17_rankOf_0 22 rfl rfl)
theorem dX17_rankOf_23 : decode cX17_rankOf 23 = .ok (.iload_n 0, 1) := dk_26 (dk_at dksX17_rankOf_0 23 rfl rfl)
theorem dX17_rankOf_24 : decode cX17_rankOf 24 = .ok (.invokestatic 141, 3) := dk_184 0 141 (dk_at dksX17_rankOf_1 0 rfl rfl)
theorem dX17_rankOf_27 : decode cX17_rankOf 27 = .ok (.istore_n 3, 1) := dk_62 (dk_at dksX17_rankOf_1 3 rfl rfl)
theorem dX17_rankOf_28 : decode cX17_rankOf 28 = .ok (.iload_n 3, 1) := dk_29 (dk_at dksX17_rankOf_1 4 rfl rfl)
theorem dX17_rankOf_29 : decode cX17_rankOf 29 = .ok (.iconst 1, 1) := dk_4 (dk_at dksX17_rankOf_1 5 rfl rfl)
theorem dX17_rankOf_30 : decode cX17_rankOf 30 = .ok (.isub, 1) := dk_100 (dk_at dksX17_rankOf_1 6 rfl rfl)
theorem dX17_rankOf_31 : decode cX17_rankOf 31 = .ok (.iload_n 3, 1) := dk_29 (dk_at dksX17_rankOf_1 7 rfl rfl)
theorem dX17_rankOf_32 : decode cX17_rankOf 32 = .ok (.iconst 2, 1) := dk_5 (dk_at dksX17_rankOf_1 8 rfl rfl)
theorem dX17_rankOf_33 : decode cX17_rankOf 33 = .ok (.isub, 1) := dk_100 (dk_at dksX17_rankOf_1 9 rfl rfl)
theorem dX17_rankOf_34 : decode cX17_rankOf 34 = .ok (.imul, 1) := dk_104 (dk_at dksX17_rankOf_1 10 rfl rfl)
theorem dX17_rankOf_35 : decode cX17_rankOf 35 = .ok (.iload_n 3, 1) := dk_29 (dk_at dksX17_rankOf_1 11 rfl rfl)
theorem dX17_rankOf_36 : decode cX17_rankOf 36 = .ok (.iconst 3, 1) := dk_6 (dk_at dksX17_rankOf_1 12 rfl rfl)
theorem dX17_rankOf_37 : decode cX17_rankOf 37 = .ok (.isub, 1) := dk_100 (dk_at dksX17_rankOf_1 13 rfl rfl)
theorem dX17_rankOf_38 : decode cX17_rankOf 38 = .ok (.imul, 1) := dk_104 (dk_at dksX17_rankOf_1 14 rfl rfl)
theorem dX17_rankOf_39 : decode cX17_rankOf 39 = .ok (.bipush 6, 2) := dk_16 6 (dk_at dksX17_rankOf_1 15 rfl rfl)
theorem dX17_rankOf_41 : decode cX17_rankOf 41 = .ok (.idiv, 1) := dk_108 (dk_at dksX17_rankOf_1 17 rfl rfl)
theorem dX17_rankOf_42 : decode cX17_rankOf 42 = .ok (.iload_n 2, 1) := dk_28 (dk_at dksX17_rankOf_1 18 rfl rfl)
theorem dX17_rankOf_43 : decode cX17_rankOf 43 = .ok (.iconst 1, 1) := dk_4 (dk_at dksX17_rankOf_1 19 rfl rfl)
theorem dX17_rankOf_44 : decode cX17_rankOf 44 = .ok (.isub, 1) := dk_100 (dk_at dksX17_rankOf_1 20 rfl rfl)
theorem dX17_rankOf_45 : decode cX17_rankOf 45 = .ok (.iload_n 2, 1) := dk_28 (dk_at dksX17_rankOf_1 21 rfl rfl)
theorem dX17_rankOf_46 : decode cX17_rankOf 46 = .ok (.iconst 2, 1) := dk_5 (dk_at dksX17_rankOf_1 22 rfl rfl)
theorem dX17_rankOf_47 : decode cX17_rankOf 47 = .ok (.isub, 1) := dk_100 (dk_at dksX17_rankOf_1 23 rfl rfl)
theorem dX17_rankOf_48 : decode cX17_rankOf 48 = .ok (.imul, 1) := dk_104 (dk_at dksX17_rankOf_2 0 rfl rfl)
theorem dX17_rankOf_49 : decode cX17_rankOf 49 = .ok (.iconst 2, 1) := dk_5 (dk_at dksX17_rankOf_2 1 rfl rfl)
theorem dX17_rankOf_50 : decode cX17_rankOf 50 = .ok (.idiv, 1) := dk_108 (dk_at dksX17_rankOf_2 2 rfl rfl)
theorem dX17_rankOf_51 : decode cX17_rankOf 51 = .ok (.iadd, 1) := dk_96 (dk_at dksX17_rankOf_2 3 rfl rfl)
theorem dX17_rankOf_52 : decode cX17_rankOf 52 = .ok (.iload_n 1, 1) := dk_27 (dk_at dksX17_rankOf_2 4 rfl rfl)
theorem dX17_rankOf_53 : decode cX17_rankOf 53 = .ok (.iadd, 1) := dk_96 (dk_at dksX17_rankOf_2 5 rfl rfl)
theorem dX17_rankOf_54 : decode cX17_rankOf 54 = .ok (.iconst 1, 1) := dk_4 (dk_at dksX17_rankOf_2 6 rfl rfl)
theorem dX17_rankOf_55 : decode cX17_rankOf 55 = .ok (.isub, 1) := dk_100 (dk_at dksX17_rankOf_2 7 rfl rfl)
theorem dX17_rankOf_56 : decode cX17_rankOf 56 = .ok (.ireturn, 1) := dk_172 (dk_at dksX17_rankOf_2 8 rfl rfl)
abbrev cX17_fourBy : ByteArray := prog_24_method_81_code
def yX17_fourBy : MethodName := ⟨RX17, "fourBy", "(II)I"⟩
def dkwX17_fourBy_0 : List UInt8 := [42, 42, 27, 28, 182, 0, 198, 3, 182, 0, 178, 172]
abbrev dktX17_fourBy_0 : List UInt8 := dkwX17_fourBy_0 ++ []
theorem dksX17_fourBy_0 : cX17_fourBy.data.toList.drop 0 = dktX17_fourBy_0 := by decide +kernel
theorem dX17_fourBy_0 : decode cX17_fourBy 0 = .ok (.aload_n 0, 1) := dk_42 (dk_at dksX17_fourBy_0 0 rfl rfl)
theorem dX17_fourBy_1 : decode cX17_fourBy 1 = .ok (.aload_n 0, 1) := dk_42 (dk_at dksX17_fourBy_0 1 rfl rfl)
theorem dX17_fourBy_2 : decode cX17_fourBy 2 = .ok (.iload_n 1, 1) := dk_27 (dk_at dksX17_fourBy_0 2 rfl rfl)
theorem dX17_fourBy_3 : decode cX17_fourBy 3 = .ok (.iload_n 2, 1) := dk_28 (dk_at dksX17_fourBy_0 3 rfl rfl)
theorem dX17_fourBy_4 : decode cX17_fourBy 4 = .ok (.invokevirtual 198, 3) := dk_182 0 198 (dk_at dksX17_fourBy_0 4 rfl rfl)
theorem dX17_fourBy_7 : decode cX17_fourBy 7 = .ok (.iconst 0, 1) := dk_3 (dk_at dksX17_fourBy_0 7 rfl rfl)
theorem dX17_fourBy_8 : decode cX17_fourBy 8 = .ok (.invokevirtual 178, 3) := dk_182 0 178 (dk_at dksX17_fourBy_0 8 rfl rfl)
theorem dX17_fourBy_11 : decode cX17_fourBy 11 = .ok (.ireturn, 1) := dk_172 (dk_at dksX17_fourBy_0 11 rfl rfl)
abbrev cX17_orbitsOfWords : ByteArray := prog_24_method_79_code
def yX17_orbitsOfWords : MethodName := ⟨RX17, "orbitsOfWords", "(II)I"⟩
def dkwX17_orbitsOfWords_2 : List UInt8 := [167, 0, 4, 3, 96, 62, 132, 4, 1, 167, 255, 216, 29, 172]
abbrev dktX17_orbitsOfWords_2 : List UInt8 := dkwX17_orbitsOfWords_2 ++ []
def dkwX17_orbitsOfWords_1 : List UInt8 := [21, 4, 184, 0, 162, 184, 0, 115, 28, 160, 0, 16, 42, 21, 4, 182, 1, 94, 158, 0, 7, 4]
abbrev dktX17_orbitsOfWords_1 : List UInt8 := dkwX17_orbitsOfWords_1 ++ dktX17_orbitsOfWords_2
def dkwX17_orbitsOfWords_0 : List UInt8 := [42, 27, 182, 1, 88, 42, 182, 1, 91, 3, 62, 3, 54, 4, 21, 4, 17, 16, 0, 162, 0, 38, 29]
abbrev dktX17_orbitsOfWords_0 : List UInt8 := dkwX17_orbitsOfWords_0 ++ dktX17_orbitsOfWords_1
theorem dksX17_orbitsOfWords_0 : cX17_orbitsOfWords.data.toList.drop 0 = dktX17_orbitsOfWords_0 := by decide +kernel
theorem dksX17_orbitsOfWords_1 : cX17_orbitsOfWords.data.toList.drop 23 = dktX17_orbitsOfWords_1 := dk_seg dksX17_orbitsOfWords_0 23 rfl rfl
theorem dksX17_orbitsOfWords_2 : cX17_orbitsOfWords.data.toList.drop 45 = dktX17_orbitsOfWords_2 := dk_seg dksX17_orbitsOfWords_1 22 rfl rfl
theorem dX17_orbitsOfWords_0 : decode cX17_orbitsOfWords 0 = .ok (.aload_n 0, 1) := dk_42 (dk_at dksX17_orbitsOfWords_0 0 rfl rfl)
theorem dX17_orbitsOfWords_1 : decode cX17_orbitsOfWords 1 = .ok (.iload_n 1, 1) := dk_27 (dk_at dksX17_orbitsOfWords_0 1 rfl rfl)
theorem dX17_orbitsOfWords_2 : decode cX17_orbitsOfWords 2 = .ok (.invokevirtual 344, 3) := dk_182 1 88 (dk_at dksX17_orbitsOfWords_0 2 rfl rfl)
theorem dX17_orbitsOfWords_5 : decode cX17_orbitsOfWords 5 = .ok (.aload_n 0, 1) := dk_42 (dk_at dksX17_orbitsOfWords_0 5 rfl rfl)
theorem dX17_orbitsOfWords_6 : decode cX17_orbitsOfWords 6 = .ok (.invokevirtual 347, 3) := dk_182 1 91 (dk_at dksX17_orbitsOfWords_0 6 rfl rfl)
theorem dX17_orbitsOfWords_9 : decode cX17_orbitsOfWords 9 = .ok (.iconst 0, 1) := dk_3 (dk_at dksX17_orbitsOfWords_0 9 rfl rfl)
theorem dX17_orbitsOfWords_10 : decode cX17_orbitsOfWords 10 = .ok (.istore_n 3, 1) := dk_62 (dk_at dksX17_orbitsOfWords_0 10 rfl rfl)
theorem dX17_orbitsOfWords_11 : decode cX17_orbitsOfWords 11 = .ok (.iconst 0, 1) := dk_3 (dk_at dksX17_orbitsOfWords_0 11 rfl rfl)
theorem dX17_orbitsOfWords_12 : decode cX17_orbitsOfWords 12 = .ok (.istore 4, 2) := dk_54 4 (dk_at dksX17_orbitsOfWords_0 12 rfl rfl)
theorem dX17_orbitsOfWords_14 : decode cX17_orbitsOfWords 14 = .ok (.iload 4, 2) := dk_21 4 (dk_at dksX17_orbitsOfWords_0 14 rfl rfl)
theorem dX17_orbitsOfWords_16 : decode cX17_orbitsOfWords 16 = .ok (.sipush 4096, 3) := dk_17 16 0 (dk_at dksX17_orbitsOfWords_0 16 rfl rfl)
theorem dX17_orbitsOfWords_19 : decode cX17_orbitsOfWords 19 = .ok (.if_icmp .ge 38, 3) := dk_162 0 38 (dk_at dksX17_orbitsOfWords_0 19 rfl rfl)
theorem dX17_orbitsOfWords_22 : decode cX17_orbitsOfWords 22 = .ok (.iload_n 3, 1) := dk_29 (dk_at dksX17_orbitsOfWords_0 22 rfl rfl)
theorem dX17_orbitsOfWords_23 : decode cX17_orbitsOfWords 23 = .ok (.iload 4, 2) := dk_21 4 (dk_at dksX17_orbitsOfWords_1 0 rfl rfl)
theorem dX17_orbitsOfWords_25 : decode cX17_orbitsOfWords 25 = .ok (.invokestatic 162, 3) := dk_184 0 162 (dk_at dksX17_orbitsOfWords_1 2 rfl rfl)
theorem dX17_orbitsOfWords_28 : decode cX17_orbitsOfWords 28 = .ok (.invokestatic 115, 3) := dk_184 0 115 (dk_at dksX17_orbitsOfWords_1 5 rfl rfl)
theorem dX17_orbitsOfWords_31 : decode cX17_orbitsOfWords 31 = .ok (.iload_n 2, 1) := dk_28 (dk_at dksX17_orbitsOfWords_1 8 rfl rfl)
theorem dX17_orbitsOfWords_32 : decode cX17_orbitsOfWords 32 = .ok (.if_icmp .ne 16, 3) := dk_160 0 16 (dk_at dksX17_orbitsOfWords_1 9 rfl rfl)
theorem dX17_orbitsOfWords_35 : decode cX17_orbitsOfWords 35 = .ok (.aload_n 0, 1) := dk_42 (dk_at dksX17_orbitsOfWords_1 12 rfl rfl)
theorem dX17_orbitsOfWords_36 : decode cX17_orbitsOfWords 36 = .ok (.iload 4, 2) := dk_21 4 (dk_at dksX17_orbitsOfWords_1 13 rfl rfl)
theorem dX17_orbitsOfWords_38 : decode cX17_orbitsOfWords 38 = .ok (.invokevirtual 350, 3) := dk_182 1 94 (dk_at dksX17_orbitsOfWords_1 15 rfl rfl)
theorem dX17_orbitsOfWords_41 : decode cX17_orbitsOfWords 41 = .ok (.ifCond .le 7, 3) := dk_158 0 7 (dk_at dksX17_orbitsOfWords_1 18 rfl rfl)
theorem dX17_orbitsOfWords_44 : decode cX17_orbitsOfWords 44 = .ok (.iconst 1, 1) := dk_4 (dk_at dksX17_orbitsOfWords_1 21 rfl rfl)
theorem dX17_orbitsOfWords_45 : decode cX17_orbitsOfWords 45 = .ok (.goto 4, 3) := dk_167 0 4 (dk_at dksX17_orbitsOfWords_2 0 rfl rfl)
theorem dX17_orbitsOfWords_48 : decode cX17_orbitsOfWords 48 = .ok (.iconst 0, 1) := dk_3 (dk_at dksX17_orbitsOfWords_2 3 rfl rfl)
theorem dX17_orbitsOfWords_49 : decode cX17_orbitsOfWords 49 = .ok (.iadd, 1) := dk_96 (dk_at dksX17_orbitsOfWords_2 4 rfl rfl)
theorem dX17_orbitsOfWords_50 : decode cX17_orbitsOfWords 50 = .ok (.istore_n 3, 1) := dk_62 (dk_at dksX17_orbitsOfWords_2 5 rfl rfl)
theorem dX17_orbitsOfWords_51 : decode cX17_orbitsOfWords 51 = .ok (.iinc 4 1, 3) := dk_132 4 1 (dk_at dksX17_orbitsOfWords_2 6 rfl rfl)
theorem dX17_orbitsOfWords_54 : decode cX17_orbitsOfWords 54 = .ok (.goto (-40), 3) := dk_167 255 216 (dk_at dksX17_orbitsOfWords_2 9 rfl rfl)
theorem dX17_orbitsOfWords_57 : decode cX17_orbitsOfWords 57 = .ok (.iload_n 3, 1) := dk_29 (dk_at dksX17_orbitsOfWords_2 12 rfl rfl)
theorem dX17_orbitsOfWords_58 : decode cX17_orbitsOfWords 58 = .ok (.ireturn, 1) := dk_172 (dk_at dksX17_orbitsOfWords_2 13 rfl rfl)
abbrev cX17_imagesOf : ByteArray := prog_24_method_75_code
def yX17_imagesOf : MethodName := ⟨RX17, "imagesOf", "(I)V"⟩
def dkwX17_imagesOf_2 : List UInt8 := [167, 0, 6, 4, 29, 120, 79, 132, 3, 1, 167, 255, 209, 132, 2, 1, 167, 255, 196, 177]
abbrev dktX17_imagesOf_2 : List UInt8 := dkwX17_imagesOf_2 ++ []
def dkwX17_imagesOf_1 : List UInt8 := [96, 27, 28, 184, 0, 118, 153, 0, 19, 42, 42, 28, 29, 184, 0, 104, 182, 0, 198, 182, 0, 148]
abbrev dktX17_imagesOf_1 : List UInt8 := dkwX17_imagesOf_1 ++ dktX17_imagesOf_2
def dkwX17_imagesOf_0 : List UInt8 := [3, 61, 28, 7, 162, 0, 61, 3, 62, 29, 16, 12, 162, 0, 47, 42, 180, 0, 62, 16, 12, 28, 104, 29]
abbrev dktX17_imagesOf_0 : List UInt8 := dkwX17_imagesOf_0 ++ dktX17_imagesOf_1
theorem dksX17_imagesOf_0 : cX17_imagesOf.data.toList.drop 0 = dktX17_imagesOf_0 := by decide +kernel
theorem dksX17_imagesOf_1 : cX17_imagesOf.data.toList.drop 24 = dktX17_imagesOf_1 := dk_seg dksX17_imagesOf_0 24 rfl rfl
theorem dksX17_imagesOf_2 : cX17_imagesOf.data.toList.drop 46 = dktX17_imagesOf_2 := dk_seg dksX17_imagesOf_1 22 rfl rfl
theorem dX17_imagesOf_0 : decode cX17_imagesOf 0 = .ok (.iconst 0, 1) := dk_3 (dk_at dksX17_imagesOf_0 0 rfl rfl)
theorem dX17_imagesOf_1 : decode cX17_imagesOf 1 = .ok (.istore_n 2, 1) := dk_61 (dk_at dksX17_imagesOf_0 1 rfl rfl)
theorem dX17_imagesOf_2 : decode cX17_imagesOf 2 = .ok (.iload_n 2, 1) := dk_28 (dk_at dksX17_imagesOf_0 2 rfl rfl)
theorem dX17_imagesOf_3 : decode cX17_imagesOf 3 = .ok (.iconst 4, 1) := dk_7 (dk_at dksX17_imagesOf_0 3 rfl rfl)
theorem dX17_imagesOf_4 : decode cX17_imagesOf 4 = .ok (.if_icmp .ge 61, 3) := dk_162 0 61 (dk_at dksX17_imagesOf_0 4 rfl rfl)
theorem dX17_imagesOf_7 : decode cX17_imagesOf 7 = .ok (.iconst 0, 1) := dk_3 (dk_at dksX17_imagesOf_0 7 rfl rfl)
theorem dX17_imagesOf_8 : decode cX17_imagesOf 8 = .ok (.istore_n 3, 1) := dk_62 (dk_at dksX17_imagesOf_0 8 rfl rfl)
theorem dX17_imagesOf_9 : decode cX17_imagesOf 9 = .ok (.iload_n 3, 1) := dk_29 (dk_at dksX17_imagesOf_0 9 rfl rfl)
theorem dX17_imagesOf_10 : decode cX17_imagesOf 10 = .ok (.bipush 12, 2) := dk_16 12 (dk_at dksX17_imagesOf_0 10 rfl rfl)
theorem dX17_imagesOf_12 : decode cX17_imagesOf 12 = .ok (.if_icmp .ge 47, 3) := dk_162 0 47 (dk_at dksX17_imagesOf_0 12 rfl rfl)
theorem dX17_imagesOf_15 : decode cX17_imagesOf 15 = .ok (.aload_n 0, 1) := dk_42 (dk_at dksX17_imagesOf_0 15 rfl rfl)
theorem dX17_imagesOf_16 : decode cX17_imagesOf 16 = .ok (.getfield 62, 3) := dk_180 0 62 (dk_at dksX17_imagesOf_0 16 rfl rfl)
theorem dX17_imagesOf_19 : decode cX17_imagesOf 19 = .ok (.bipush 12, 2) := dk_16 12 (dk_at dksX17_imagesOf_0 19 rfl rfl)
theorem dX17_imagesOf_21 : decode cX17_imagesOf 21 = .ok (.iload_n 2, 1) := dk_28 (dk_at dksX17_imagesOf_0 21 rfl rfl)
theorem dX17_imagesOf_22 : decode cX17_imagesOf 22 = .ok (.imul, 1) := dk_104 (dk_at dksX17_imagesOf_0 22 rfl rfl)
theorem dX17_imagesOf_23 : decode cX17_imagesOf 23 = .ok (.iload_n 3, 1) := dk_29 (dk_at dksX17_imagesOf_0 23 rfl rfl)
theorem dX17_imagesOf_24 : decode cX17_imagesOf 24 = .ok (.iadd, 1) := dk_96 (dk_at dksX17_imagesOf_1 0 rfl rfl)
theorem dX17_imagesOf_25 : decode cX17_imagesOf 25 = .ok (.iload_n 1, 1) := dk_27 (dk_at dksX17_imagesOf_1 1 rfl rfl)
theorem dX17_imagesOf_26 : decode cX17_imagesOf 26 = .ok (.iload_n 2, 1) := dk_28 (dk_at dksX17_imagesOf_1 2 rfl rfl)
theorem dX17_imagesOf_27 : decode cX17_imagesOf 27 = .ok (.invokestatic 118, 3) := dk_184 0 118 (dk_at dksX17_imagesOf_1 3 rfl rfl)
theorem dX17_imagesOf_30 : decode cX17_imagesOf 30 = .ok (.ifCond .eq 19, 3) := dk_153 0 19 (dk_at dksX17_imagesOf_1 6 rfl rfl)
theorem dX17_imagesOf_33 : decode cX17_imagesOf 33 = .ok (.aload_n 0, 1) := dk_42 (dk_at dksX17_imagesOf_1 9 rfl rfl)
theorem dX17_imagesOf_34 : decode cX17_imagesOf 34 = .ok (.aload_n 0, 1) := dk_42 (dk_at dksX17_imagesOf_1 10 rfl rfl)
theorem dX17_imagesOf_35 : decode cX17_imagesOf 35 = .ok (.iload_n 2, 1) := dk_28 (dk_at dksX17_imagesOf_1 11 rfl rfl)
theorem dX17_imagesOf_36 : decode cX17_imagesOf 36 = .ok (.iload_n 3, 1) := dk_29 (dk_at dksX17_imagesOf_1 12 rfl rfl)
theorem dX17_imagesOf_37 : decode cX17_imagesOf 37 = .ok (.invokestatic 104, 3) := dk_184 0 104 (dk_at dksX17_imagesOf_1 13 rfl rfl)
theorem dX17_imagesOf_40 : decode cX17_imagesOf 40 = .ok (.invokevirtual 198, 3) := dk_182 0 198 (dk_at dksX17_imagesOf_1 16 rfl rfl)
theorem dX17_imagesOf_43 : decode cX17_imagesOf 43 = .ok (.invokevirtual 148, 3) := dk_182 0 148 (dk_at dksX17_imagesOf_1 19 rfl rfl)
theorem dX17_imagesOf_46 : decode cX17_imagesOf 46 = .ok (.goto 6, 3) := dk_167 0 6 (dk_at dksX17_imagesOf_2 0 rfl rfl)
theorem dX17_imagesOf_49 : decode cX17_imagesOf 49 = .ok (.iconst 1, 1) := dk_4 (dk_at dksX17_imagesOf_2 3 rfl rfl)
theorem dX17_imagesOf_50 : decode cX17_imagesOf 50 = .ok (.iload_n 3, 1) := dk_29 (dk_at dksX17_imagesOf_2 4 rfl rfl)
theorem dX17_imagesOf_51 : decode cX17_imagesOf 51 = .ok (.ishl, 1) := dk_120 (dk_at dksX17_imagesOf_2 5 rfl rfl)
theorem dX17_imagesOf_52 : decode cX17_imagesOf 52 = .ok (.iastore, 1) := dk_79 (dk_at dksX17_imagesOf_2 6 rfl rfl)
theorem dX17_imagesOf_53 : decode cX17_imagesOf 53 = .ok (.iinc 3 1, 3) := dk_132 3 1 (dk_at dksX17_imagesOf_2 7 rfl rfl)
theorem dX17_imagesOf_56 : decode cX17_imagesOf 56 = .ok (.goto (-47), 3) := dk_167 255 209 (dk_at dksX17_imagesOf_2 10 rfl rfl)
theorem dX17_imagesOf_59 : decode cX17_imagesOf 59 = .ok (.iinc 2 1, 3) := dk_132 2 1 (dk_at dksX17_imagesOf_2 13 rfl rfl)
theorem dX17_imagesOf_62 : decode cX17_imagesOf 62 = .ok (.goto (-60), 3) := dk_167 255 196 (dk_at dksX17_imagesOf_2 16 rfl rfl)
theorem dX17_imagesOf_65 : decode cX17_imagesOf 65 = .ok (.return_, 1) := dk_177 (dk_at dksX17_imagesOf_2 19 rfl rfl)
abbrev cX17_spreads : ByteArray := prog_24_method_77_code
def yX17_spreads : MethodName := ⟨RX17, "spreads", "(I)I"⟩
def dkwX17_spreads_4 : List UInt8 := [167, 255, 190, 28, 172]
abbrev dktX17_spreads_4 : List UInt8 := dkwX17_spreads_4 ++ []
def dkwX17_spreads_3 : List UInt8 := [21, 5, 4, 84, 42, 180, 0, 69, 28, 21, 5, 79, 132, 2, 1, 132, 4, 1, 167, 255, 204, 132, 3, 1]
abbrev dktX17_spreads_3 : List UInt8 := dkwX17_spreads_3 ++ dktX17_spreads_4
def dkwX17_spreads_2 : List UInt8 := [180, 0, 69, 29, 46, 182, 1, 85, 54, 5, 42, 180, 0, 65, 21, 5, 51, 154, 0, 22, 42, 180, 0, 65]
abbrev dktX17_spreads_2 : List UInt8 := dkwX17_spreads_2 ++ dktX17_spreads_3
def dkwX17_spreads_1 : List UInt8 := [3, 27, 79, 3, 62, 29, 28, 162, 0, 67, 3, 54, 4, 21, 4, 7, 162, 0, 52, 42, 21, 4, 42]
abbrev dktX17_spreads_1 : List UInt8 := dkwX17_spreads_1 ++ dktX17_spreads_2
def dkwX17_spreads_0 : List UInt8 := [42, 180, 0, 65, 27, 51, 153, 0, 5, 3, 172, 4, 61, 42, 180, 0, 65, 27, 4, 84, 42, 180, 0, 69]
abbrev dktX17_spreads_0 : List UInt8 := dkwX17_spreads_0 ++ dktX17_spreads_1
theorem dksX17_spreads_0 : cX17_spreads.data.toList.drop 0 = dktX17_spreads_0 := by decide +kernel
theorem dksX17_spreads_1 : cX17_spreads.data.toList.drop 24 = dktX17_spreads_1 := dk_seg dksX17_spreads_0 24 rfl rfl
theorem dksX17_spreads_2 : cX17_spreads.data.toList.drop 47 = dktX17_spreads_2 := dk_seg dksX17_spreads_1 23 rfl rfl
theorem dksX17_spreads_3 : cX17_spreads.data.toList.drop 71 = dktX17_spreads_3 := dk_seg dksX17_spreads_2 24 rfl rfl
theorem dksX17_spreads_4 : cX17_spreads.data.toList.drop 95 = dktX17_spreads_4 := dk_seg dksX17_spreads_3 24 rfl rfl
theorem dX17_spreads_0 : decode cX17_spreads 0 = .ok (.aload_n 0, 1) := dk_42 (dk_at dksX17_spreads_0 0 rfl rfl)
theorem dX17_spreads_1 : decode cX17_spreads 1 = .ok (.getfield 65, 3) := dk_180 0 65 (dk_at dksX17_spreads_0 1 rfl rfl)
theorem dX17_spreads_4 : decode cX17_spreads 4 = .ok (.iload_n 1, 1) := dk_27 (dk_at dksX17_spreads_0 4 rfl rfl)
theorem dX17_spreads_5 : decode cX17_spreads 5 = .ok (.baload, 1) := dk_51 (dk_at dksX17_spreads_0 5 rfl rfl)
theorem dX17_spreads_6 : decode cX17_spreads 6 = .ok (.ifCond .eq 5, 3) := dk_153 0 5 (dk_at dksX17_spreads_0 6 rfl rfl)
theorem dX17_spreads_9 : decode cX17_spreads 9 = .ok (.iconst 0, 1) := dk_3 (dk_at dksX17_spreads_0 9 rfl rfl)
theorem dX17_spreads_10 : decode cX17_spreads 10 = .ok (.ireturn, 1) := dk_172 (dk_at dksX17_spreads_0 10 rfl rfl)
theorem dX17_spreads_11 : decode cX17_spreads 11 = .ok (.iconst 1, 1) := dk_4 (dk_at dksX17_spreads_0 11 rfl rfl)
theorem dX17_spreads_12 : decode cX17_spreads 12 = .ok (.istore_n 2, 1) := dk_61 (dk_at dksX17_spreads_0 12 rfl rfl)
theorem dX17_spreads_13 : decode cX17_spreads 13 = .ok (.aload_n 0, 1) := dk_42 (dk_at dksX17_spreads_0 13 rfl rfl)
theorem dX17_spreads_14 : decode cX17_spreads 14 = .ok (.getfield 65, 3) := dk_180 0 65 (dk_at dksX17_spreads_0 14 rfl rfl)
theorem dX17_spreads_17 : decode cX17_spreads 17 = .ok (.iload_n 1, 1) := dk_27 (dk_at dksX17_spreads_0 17 rfl rfl)
theorem dX17_spreads_18 : decode cX17_spreads 18 = .ok (.iconst 1, 1) := dk_4 (dk_at dksX17_spreads_0 18 rfl rfl)
theorem dX17_spreads_19 : decode cX17_spreads 19 = .ok (.bastore, 1) := dk_84 (dk_at dksX17_spreads_0 19 rfl rfl)
theorem dX17_spreads_20 : decode cX17_spreads 20 = .ok (.aload_n 0, 1) := dk_42 (dk_at dksX17_spreads_0 20 rfl rfl)
theorem dX17_spreads_21 : decode cX17_spreads 21 = .ok (.getfield 69, 3) := dk_180 0 69 (dk_at dksX17_spreads_0 21 rfl rfl)
theorem dX17_spreads_24 : decode cX17_spreads 24 = .ok (.iconst 0, 1) := dk_3 (dk_at dksX17_spreads_1 0 rfl rfl)
theorem dX17_spreads_25 : decode cX17_spreads 25 = .ok (.iload_n 1, 1) := dk_27 (dk_at dksX17_spreads_1 1 rfl rfl)
theorem dX17_spreads_26 : decode cX17_spreads 26 = .ok (.iastore, 1) := dk_79 (dk_at dksX17_spreads_1 2 rfl rfl)
theorem dX17_spreads_27 : decode cX17_spreads 27 = .ok (.iconst 0, 1) := dk_3 (dk_at dksX17_spreads_1 3 rfl rfl)
theorem dX17_spreads_28 : decode cX17_spreads 28 = .ok (.istore_n 3, 1) := dk_62 (dk_at dksX17_spreads_1 4 rfl rfl)
theorem dX17_spreads_29 : decode cX17_spreads 29 = .ok (.iload_n 3, 1) := dk_29 (dk_at dksX17_spreads_1 5 rfl rfl)
theorem dX17_spreads_30 : decode cX17_spreads 30 = .ok (.iload_n 2, 1) := dk_28 (dk_at dksX17_spreads_1 6 rfl rfl)
theorem dX17_spreads_31 : decode cX17_spreads 31 = .ok (.if_icmp .ge 67, 3) := dk_162 0 67 (dk_at dksX17_spreads_1 7 rfl rfl)
theorem dX17_spreads_34 : decode cX17_spreads 34 = .ok (.iconst 0, 1) := dk_3 (dk_at dksX17_spreads_1 10 rfl rfl)
theorem dX17_spreads_35 : decode cX17_spreads 35 = .ok (.istore 4, 2) := dk_54 4 (dk_at dksX17_spreads_1 11 rfl rfl)
theorem dX17_spreads_37 : decode cX17_spreads 37 = .ok (.iload 4, 2) := dk_21 4 (dk_at dksX17_spreads_1 13 rfl rfl)
theorem dX17_spreads_39 : decode cX17_spreads 39 = .ok (.iconst 4, 1) := dk_7 (dk_at dksX17_spreads_1 15 rfl rfl)
theorem dX17_spreads_40 : decode cX17_spreads 40 = .ok (.if_icmp .ge 52, 3) := dk_162 0 52 (dk_at dksX17_spreads_1 16 rfl rfl)
theorem dX17_spreads_43 : decode cX17_spreads 43 = .ok (.aload_n 0, 1) := dk_42 (dk_at dksX17_spreads_1 19 rfl rfl)
theorem dX17_spreads_44 : decode cX17_spreads 44 = .ok (.iload 4, 2) := dk_21 4 (dk_at dksX17_spreads_1 20 rfl rfl)
theorem dX17_spreads_46 : decode cX17_spreads 46 = .ok (.aload_n 0, 1) := dk_42 (dk_at dksX17_spreads_1 22 rfl rfl)
theorem dX17_spreads_47 : decode cX17_spreads 47 = .ok (.getfield 69, 3) := dk_180 0 69 (dk_at dksX17_spreads_2 0 rfl rfl)
theorem dX17_spreads_50 : decode cX17_spreads 50 = .ok (.iload_n 3, 1) := dk_29 (dk_at dksX17_spreads_2 3 rfl rfl)
theorem dX17_spreads_51 : decode cX17_spreads 51 = .ok (.iaload, 1) := dk_46 (dk_at dksX17_spreads_2 4 rfl rfl)
theorem dX17_spreads_52 : decode cX17_spreads 52 = .ok (.invokevirtual 341, 3) := dk_182 1 85 (dk_at dksX17_spreads_2 5 rfl rfl)
theorem dX17_spreads_55 : decode cX17_spreads 55 = .ok (.istore 5, 2) := dk_54 5 (dk_at dksX17_spreads_2 8 rfl rfl)
theorem dX17_spreads_57 : decode cX17_spreads 57 = .ok (.aload_n 0, 1) := dk_42 (dk_at dksX17_spreads_2 10 rfl rfl)
theorem dX17_spreads_58 : decode cX17_spreads 58 = .ok (.getfield 65, 3) := dk_180 0 65 (dk_at dksX17_spreads_2 11 rfl rfl)
theorem dX17_spreads_61 : decode cX17_spreads 61 = .ok (.iload 5, 2) := dk_21 5 (dk_at dksX17_spreads_2 14 rfl rfl)
theorem dX17_spreads_63 : decode cX17_spreads 63 = .ok (.baload, 1) := dk_51 (dk_at dksX17_spreads_2 16 rfl rfl)
theorem dX17_spreads_64 : decode cX17_spreads 64 = .ok (.ifCond .ne 22, 3) := dk_154 0 22 (dk_at dksX17_spreads_2 17 rfl rfl)
theorem dX17_spreads_67 : decode cX17_spreads 67 = .ok (.aload_n 0, 1) := dk_42 (dk_at dksX17_spreads_2 20 rfl rfl)
theorem dX17_spreads_68 : decode cX17_spreads 68 = .ok (.getfield 65, 3) := dk_180 0 65 (dk_at dksX17_spreads_2 21 rfl rfl)
theorem dX17_spreads_71 : decode cX17_spreads 71 = .ok (.iload 5, 2) := dk_21 5 (dk_at dksX17_spreads_3 0 rfl rfl)
theorem dX17_spreads_73 : decode cX17_spreads 73 = .ok (.iconst 1, 1) := dk_4 (dk_at dksX17_spreads_3 2 rfl rfl)
theorem dX17_spreads_74 : decode cX17_spreads 74 = .ok (.bastore, 1) := dk_84 (dk_at dksX17_spreads_3 3 rfl rfl)
theorem dX17_spreads_75 : decode cX17_spreads 75 = .ok (.aload_n 0, 1) := dk_42 (dk_at dksX17_spreads_3 4 rfl rfl)
theorem dX17_spreads_76 : decode cX17_spreads 76 = .ok (.getfield 69, 3) := dk_180 0 69 (dk_at dksX17_spreads_3 5 rfl rfl)
theorem dX17_spreads_79 : decode cX17_spreads 79 = .ok (.iload_n 2, 1) := dk_28 (dk_at dksX17_spreads_3 8 rfl rfl)
theorem dX17_spreads_80 : decode cX17_spreads 80 = .ok (.iload 5, 2) := dk_21 5 (dk_at dksX17_spreads_3 9 rfl rfl)
theorem dX17_spreads_82 : decode cX17_spreads 82 = .ok (.iastore, 1) := dk_79 (dk_at dksX17_spreads_3 11 rfl rfl)
theorem dX17_spreads_83 : decode cX17_spreads 83 = .ok (.iinc 2 1, 3) := dk_132 2 1 (dk_at dksX17_spreads_3 12 rfl rfl)
theorem dX17_spreads_86 : decode cX17_spreads 86 = .ok (.iinc 4 1, 3) := dk_132 4 1 (dk_at dksX17_spreads_3 15 rfl rfl)
theorem dX17_spreads_89 : decode cX17_spreads 89 = .ok (.goto (-52), 3) := dk_167 255 204 (dk_at dksX17_spreads_3 18 rfl rfl)
theorem dX17_spreads_92 : decode cX17_spreads 92 = .ok (.iinc 3 1, 3) := dk_132 3 1 (dk_at dksX17_spreads_3 21 rfl rfl)
theorem dX17_spreads_95 : decode cX17_spreads 95 = .ok (.goto (-66), 3) := dk_167 255 190 (dk_at dksX17_spreads_4 0 rfl rfl)
theorem dX17_spreads_98 : decode cX17_spreads 98 = .ok (.iload_n 2, 1) := dk_28 (dk_at dksX17_spreads_4 3 rfl rfl)
theorem dX17_spreads_99 : decode cX17_spreads 99 = .ok (.ireturn, 1) := dk_172 (dk_at dksX17_spreads_4 4 rfl rfl)
abbrev cX17_imageOf : ByteArray := prog_24_method_76_code
def yX17_imageOf : MethodName := ⟨RX17, "imageOf", "(II)I"⟩
def dkwX17_imageOf_2 : List UInt8 := [172]
abbrev dktX17_imageOf_2 : List UInt8 := dkwX17_imageOf_2 ++ []
def dkwX17_imageOf_1 : List UInt8 := [180, 0, 62, 16, 12, 27, 104, 21, 4, 96, 46, 167, 0, 4, 3, 130, 62, 132, 4, 1, 167, 255, 218, 29]
abbrev dktX17_imageOf_1 : List UInt8 := dkwX17_imageOf_1 ++ dktX17_imageOf_2
def dkwX17_imageOf_0 : List UInt8 := [3, 62, 3, 54, 4, 21, 4, 16, 12, 162, 0, 37, 29, 28, 21, 4, 184, 0, 118, 153, 0, 18, 42]
abbrev dktX17_imageOf_0 : List UInt8 := dkwX17_imageOf_0 ++ dktX17_imageOf_1
theorem dksX17_imageOf_0 : cX17_imageOf.data.toList.drop 0 = dktX17_imageOf_0 := by decide +kernel
theorem dksX17_imageOf_1 : cX17_imageOf.data.toList.drop 23 = dktX17_imageOf_1 := dk_seg dksX17_imageOf_0 23 rfl rfl
theorem dksX17_imageOf_2 : cX17_imageOf.data.toList.drop 47 = dktX17_imageOf_2 := dk_seg dksX17_imageOf_1 24 rfl rfl
theorem dX17_imageOf_0 : decode cX17_imageOf 0 = .ok (.iconst 0, 1) := dk_3 (dk_at dksX17_imageOf_0 0 rfl rfl)
theorem dX17_imageOf_1 : decode cX17_imageOf 1 = .ok (.istore_n 3, 1) := dk_62 (dk_at dksX17_imageOf_0 1 rfl rfl)
theorem dX17_imageOf_2 : decode cX17_imageOf 2 = .ok (.iconst 0, 1) := dk_3 (dk_at dksX17_imageOf_0 2 rfl rfl)
theorem dX17_imageOf_3 : decode cX17_imageOf 3 = .ok (.istore 4, 2) := dk_54 4 (dk_at dksX17_imageOf_0 3 rfl rfl)
theorem dX17_imageOf_5 : decode cX17_imageOf 5 = .ok (.iload 4, 2) := dk_21 4 (dk_at dksX17_imageOf_0 5 rfl rfl)
theorem dX17_imageOf_7 : decode cX17_imageOf 7 = .ok (.bipush 12, 2) := dk_16 12 (dk_at dksX17_imageOf_0 7 rfl rfl)
theorem dX17_imageOf_9 : decode cX17_imageOf 9 = .ok (.if_icmp .ge 37, 3) := dk_162 0 37 (dk_at dksX17_imageOf_0 9 rfl rfl)
theorem dX17_imageOf_12 : decode cX17_imageOf 12 = .ok (.iload_n 3, 1) := dk_29 (dk_at dksX17_imageOf_0 12 rfl rfl)
theorem dX17_imageOf_13 : decode cX17_imageOf 13 = .ok (.iload_n 2, 1) := dk_28 (dk_at dksX17_imageOf_0 13 rfl rfl)
theorem dX17_imageOf_14 : decode cX17_imageOf 14 = .ok (.iload 4, 2) := dk_21 4 (dk_at dksX17_imageOf_0 14 rfl rfl)
theorem dX17_imageOf_16 : decode cX17_imageOf 16 = .ok (.invokestatic 118, 3) := dk_184 0 118 (dk_at dksX17_imageOf_0 16 rfl rfl)
theorem dX17_imageOf_19 : decode cX17_imageOf 19 = .ok (.ifCond .eq 18, 3) := dk_153 0 18 (dk_at dksX17_imageOf_0 19 rfl rfl)
theorem dX17_imageOf_22 : decode cX17_imageOf 22 = .ok (.aload_n 0, 1) := dk_42 (dk_at dksX17_imageOf_0 22 rfl rfl)
theorem dX17_imageOf_23 : decode cX17_imageOf 23 = .ok (.getfield 62, 3) := dk_180 0 62 (dk_at dksX17_imageOf_1 0 rfl rfl)
theorem dX17_imageOf_26 : decode cX17_imageOf 26 = .ok (.bipush 12, 2) := dk_16 12 (dk_at dksX17_imageOf_1 3 rfl rfl)
theorem dX17_imageOf_28 : decode cX17_imageOf 28 = .ok (.iload_n 1, 1) := dk_27 (dk_at dksX17_imageOf_1 5 rfl rfl)
theorem dX17_imageOf_29 : decode cX17_imageOf 29 = .ok (.imul, 1) := dk_104 (dk_at dksX17_imageOf_1 6 rfl rfl)
theorem dX17_imageOf_30 : decode cX17_imageOf 30 = .ok (.iload 4, 2) := dk_21 4 (dk_at dksX17_imageOf_1 7 rfl rfl)
theorem dX17_imageOf_32 : decode cX17_imageOf 32 = .ok (.iadd, 1) := dk_96 (dk_at dksX17_imageOf_1 9 rfl rfl)
theorem dX17_imageOf_33 : decode cX17_imageOf 33 = .ok (.iaload, 1) := dk_46 (dk_at dksX17_imageOf_1 10 rfl rfl)
theorem dX17_imageOf_34 : decode cX17_imageOf 34 = .ok (.goto 4, 3) := dk_167 0 4 (dk_at dksX17_imageOf_1 11 rfl rfl)
theorem dX17_imageOf_37 : decode cX17_imageOf 37 = .ok (.iconst 0, 1) := dk_3 (dk_at dksX17_imageOf_1 14 rfl rfl)
theorem dX17_imageOf_38 : decode cX17_imageOf 38 = .ok (.ixor, 1) := dk_130 (dk_at dksX17_imageOf_1 15 rfl rfl)
theorem dX17_imageOf_39 : decode cX17_imageOf 39 = .ok (.istore_n 3, 1) := dk_62 (dk_at dksX17_imageOf_1 16 rfl rfl)
theorem dX17_imageOf_40 : decode cX17_imageOf 40 = .ok (.iinc 4 1, 3) := dk_132 4 1 (dk_at dksX17_imageOf_1 17 rfl rfl)
theorem dX17_imageOf_43 : decode cX17_imageOf 43 = .ok (.goto (-38), 3) := dk_167 255 218 (dk_at dksX17_imageOf_1 20 rfl rfl)
theorem dX17_imageOf_46 : decode cX17_imageOf 46 = .ok (.iload_n 3, 1) := dk_29 (dk_at dksX17_imageOf_1 23 rfl rfl)
theorem dX17_imageOf_47 : decode cX17_imageOf 47 = .ok (.ireturn, 1) := dk_172 (dk_at dksX17_imageOf_2 0 rfl rfl)
abbrev cX17_held : ByteArray := prog_24_method_85_code
def yX17_held : MethodName := ⟨RX17, "held", "(III)I"⟩
def dkwX17_held_4 : List UInt8 := [182, 1, 115, 42, 42, 28, 182, 0, 148, 182, 1, 94, 108, 172]
abbrev dktX17_held_4 : List UInt8 := dkwX17_held_4 ++ []
def dkwX17_held_3 : List UInt8 := [4, 160, 0, 12, 42, 28, 184, 0, 115, 182, 1, 115, 172, 42, 27, 182, 1, 88, 42, 182, 1, 91, 42, 3]
abbrev dktX17_held_3 : List UInt8 := dkwX17_held_3 ++ dktX17_held_4
def dkwX17_held_2 : List UInt8 := [156, 0, 6, 16, 254, 172, 29, 154, 0, 10, 42, 27, 28, 182, 1, 82, 172, 42, 27, 28, 182, 1, 112, 29]
abbrev dktX17_held_2 : List UInt8 := dkwX17_held_2 ++ dktX17_held_3
def dkwX17_held_1 : List UInt8 := [154, 0, 5, 2, 172, 42, 27, 182, 1, 109, 153, 0, 16, 29, 5, 160, 0, 14, 42, 28, 182, 0, 148]
abbrev dktX17_held_1 : List UInt8 := dkwX17_held_1 ++ dktX17_held_2
def dkwX17_held_0 : List UInt8 := [27, 184, 1, 106, 153, 0, 22, 28, 184, 0, 144, 153, 0, 15, 29, 133, 9, 20, 1, 127, 184, 0, 124]
abbrev dktX17_held_0 : List UInt8 := dkwX17_held_0 ++ dktX17_held_1
theorem dksX17_held_0 : cX17_held.data.toList.drop 0 = dktX17_held_0 := by decide +kernel
theorem dksX17_held_1 : cX17_held.data.toList.drop 23 = dktX17_held_1 := dk_seg dksX17_held_0 23 rfl rfl
theorem dksX17_held_2 : cX17_held.data.toList.drop 46 = dktX17_held_2 := dk_seg dksX17_held_1 23 rfl rfl
theorem dksX17_held_3 : cX17_held.data.toList.drop 70 = dktX17_held_3 := dk_seg dksX17_held_2 24 rfl rfl
theorem dksX17_held_4 : cX17_held.data.toList.drop 94 = dktX17_held_4 := dk_seg dksX17_held_3 24 rfl rfl
theorem dX17_held_0 : decode cX17_held 0 = .ok (.iload_n 1, 1) := dk_27 (dk_at dksX17_held_0 0 rfl rfl)
theorem dX17_held_1 : decode cX17_held 1 = .ok (.invokestatic 362, 3) := dk_184 1 106 (dk_at dksX17_held_0 1 rfl rfl)
theorem dX17_held_4 : decode cX17_held 4 = .ok (.ifCond .eq 22, 3) := dk_153 0 22 (dk_at dksX17_held_0 4 rfl rfl)
theorem dX17_held_7 : decode cX17_held 7 = .ok (.iload_n 2, 1) := dk_28 (dk_at dksX17_held_0 7 rfl rfl)
theorem dX17_held_8 : decode cX17_held 8 = .ok (.invokestatic 144, 3) := dk_184 0 144 (dk_at dksX17_held_0 8 rfl rfl)
theorem dX17_held_11 : decode cX17_held 11 = .ok (.ifCond .eq 15, 3) := dk_153 0 15 (dk_at dksX17_held_0 11 rfl rfl)
theorem dX17_held_14 : decode cX17_held 14 = .ok (.iload_n 3, 1) := dk_29 (dk_at dksX17_held_0 14 rfl rfl)
theorem dX17_held_15 : decode cX17_held 15 = .ok (.i2l, 1) := dk_133 (dk_at dksX17_held_0 15 rfl rfl)
theorem dX17_held_16 : decode cX17_held 16 = .ok (.lconst 0, 1) := dk_9 (dk_at dksX17_held_0 16 rfl rfl)
theorem dX17_held_17 : decode cX17_held 17 = .ok (.ldc2_w 383, 3) := dk_20 1 127 (dk_at dksX17_held_0 17 rfl rfl)
theorem dX17_held_20 : decode cX17_held 20 = .ok (.invokestatic 124, 3) := dk_184 0 124 (dk_at dksX17_held_0 20 rfl rfl)
theorem dX17_held_23 : decode cX17_held 23 = .ok (.ifCond .ne 5, 3) := dk_154 0 5 (dk_at dksX17_held_1 0 rfl rfl)
theorem dX17_held_26 : decode cX17_held 26 = .ok (.iconst (-1), 1) := dk_2 (dk_at dksX17_held_1 3 rfl rfl)
theorem dX17_held_27 : decode cX17_held 27 = .ok (.ireturn, 1) := dk_172 (dk_at dksX17_held_1 4 rfl rfl)
theorem dX17_held_28 : decode cX17_held 28 = .ok (.aload_n 0, 1) := dk_42 (dk_at dksX17_held_1 5 rfl rfl)
theorem dX17_held_29 : decode cX17_held 29 = .ok (.iload_n 1, 1) := dk_27 (dk_at dksX17_held_1 6 rfl rfl)
theorem dX17_held_30 : decode cX17_held 30 = .ok (.invokevirtual 365, 3) := dk_182 1 109 (dk_at dksX17_held_1 7 rfl rfl)
theorem dX17_held_33 : decode cX17_held 33 = .ok (.ifCond .eq 16, 3) := dk_153 0 16 (dk_at dksX17_held_1 10 rfl rfl)
theorem dX17_held_36 : decode cX17_held 36 = .ok (.iload_n 3, 1) := dk_29 (dk_at dksX17_held_1 13 rfl rfl)
theorem dX17_held_37 : decode cX17_held 37 = .ok (.iconst 2, 1) := dk_5 (dk_at dksX17_held_1 14 rfl rfl)
theorem dX17_held_38 : decode cX17_held 38 = .ok (.if_icmp .ne 14, 3) := dk_160 0 14 (dk_at dksX17_held_1 15 rfl rfl)
theorem dX17_held_41 : decode cX17_held 41 = .ok (.aload_n 0, 1) := dk_42 (dk_at dksX17_held_1 18 rfl rfl)
theorem dX17_held_42 : decode cX17_held 42 = .ok (.iload_n 2, 1) := dk_28 (dk_at dksX17_held_1 19 rfl rfl)
theorem dX17_held_43 : decode cX17_held 43 = .ok (.invokevirtual 148, 3) := dk_182 0 148 (dk_at dksX17_held_1 20 rfl rfl)
theorem dX17_held_46 : decode cX17_held 46 = .ok (.ifCond .ge 6, 3) := dk_156 0 6 (dk_at dksX17_held_2 0 rfl rfl)
theorem dX17_held_49 : decode cX17_held 49 = .ok (.bipush (-2), 2) := dk_16 254 (dk_at dksX17_held_2 3 rfl rfl)
theorem dX17_held_51 : decode cX17_held 51 = .ok (.ireturn, 1) := dk_172 (dk_at dksX17_held_2 5 rfl rfl)
theorem dX17_held_52 : decode cX17_held 52 = .ok (.iload_n 3, 1) := dk_29 (dk_at dksX17_held_2 6 rfl rfl)
theorem dX17_held_53 : decode cX17_held 53 = .ok (.ifCond .ne 10, 3) := dk_154 0 10 (dk_at dksX17_held_2 7 rfl rfl)
theorem dX17_held_56 : decode cX17_held 56 = .ok (.aload_n 0, 1) := dk_42 (dk_at dksX17_held_2 10 rfl rfl)
theorem dX17_held_57 : decode cX17_held 57 = .ok (.iload_n 1, 1) := dk_27 (dk_at dksX17_held_2 11 rfl rfl)
theorem dX17_held_58 : decode cX17_held 58 = .ok (.iload_n 2, 1) := dk_28 (dk_at dksX17_held_2 12 rfl rfl)
theorem dX17_held_59 : decode cX17_held 59 = .ok (.invokevirtual 338, 3) := dk_182 1 82 (dk_at dksX17_held_2 13 rfl rfl)
theorem dX17_held_62 : decode cX17_held 62 = .ok (.ireturn, 1) := dk_172 (dk_at dksX17_held_2 16 rfl rfl)
theorem dX17_held_63 : decode cX17_held 63 = .ok (.aload_n 0, 1) := dk_42 (dk_at dksX17_held_2 17 rfl rfl)
theorem dX17_held_64 : decode cX17_held 64 = .ok (.iload_n 1, 1) := dk_27 (dk_at dksX17_held_2 18 rfl rfl)
theorem dX17_held_65 : decode cX17_held 65 = .ok (.iload_n 2, 1) := dk_28 (dk_at dksX17_held_2 19 rfl rfl)
theorem dX17_held_66 : decode cX17_held 66 = .ok (.invokevirtual 368, 3) := dk_182 1 112 (dk_at dksX17_held_2 20 rfl rfl)
theorem dX17_held_69 : decode cX17_held 69 = .ok (.iload_n 3, 1) := dk_29 (dk_at dksX17_held_2 23 rfl rfl)
theorem dX17_held_70 : decode cX17_held 70 = .ok (.iconst 1, 1) := dk_4 (dk_at dksX17_held_3 0 rfl rfl)
theorem dX17_held_71 : decode cX17_held 71 = .ok (.if_icmp .ne 12, 3) := dk_160 0 12 (dk_at dksX17_held_3 1 rfl rfl)
theorem dX17_held_74 : decode cX17_held 74 = .ok (.aload_n 0, 1) := dk_42 (dk_at dksX17_held_3 4 rfl rfl)
theorem dX17_held_75 : decode cX17_held 75 = .ok (.iload_n 2, 1) := dk_28 (dk_at dksX17_held_3 5 rfl rfl)
theorem dX17_held_76 : decode cX17_held 76 = .ok (.invokestatic 115, 3) := dk_184 0 115 (dk_at dksX17_held_3 6 rfl rfl)
theorem dX17_held_79 : decode cX17_held 79 = .ok (.invokevirtual 371, 3) := dk_182 1 115 (dk_at dksX17_held_3 9 rfl rfl)
theorem dX17_held_82 : decode cX17_held 82 = .ok (.ireturn, 1) := dk_172 (dk_at dksX17_held_3 12 rfl rfl)
theorem dX17_held_83 : decode cX17_held 83 = .ok (.aload_n 0, 1) := dk_42 (dk_at dksX17_held_3 13 rfl rfl)
theorem dX17_held_84 : decode cX17_held 84 = .ok (.iload_n 1, 1) := dk_27 (dk_at dksX17_held_3 14 rfl rfl)
theorem dX17_held_85 : decode cX17_held 85 = .ok (.invokevirtual 344, 3) := dk_182 1 88 (dk_at dksX17_held_3 15 rfl rfl)
theorem dX17_held_88 : decode cX17_held 88 = .ok (.aload_n 0, 1) := dk_42 (dk_at dksX17_held_3 18 rfl rfl)
theorem dX17_held_89 : decode cX17_held 89 = .ok (.invokevirtual 347, 3) := dk_182 1 91 (dk_at dksX17_held_3 19 rfl rfl)
theorem dX17_held_92 : decode cX17_held 92 = .ok (.aload_n 0, 1) := dk_42 (dk_at dksX17_held_3 22 rfl rfl)
theorem dX17_held_93 : decode cX17_held 93 = .ok (.iconst 0, 1) := dk_3 (dk_at dksX17_held_3 23 rfl rfl)
theorem dX17_held_94 : decode cX17_held 94 = .ok (.invokevirtual 371, 3) := dk_182 1 115 (dk_at dksX17_held_4 0 rfl rfl)
theorem dX17_held_97 : decode cX17_held 97 = .ok (.aload_n 0, 1) := dk_42 (dk_at dksX17_held_4 3 rfl rfl)
theorem dX17_held_98 : decode cX17_held 98 = .ok (.aload_n 0, 1) := dk_42 (dk_at dksX17_held_4 4 rfl rfl)
theorem dX17_held_99 : decode cX17_held 99 = .ok (.iload_n 2, 1) := dk_28 (dk_at dksX17_held_4 5 rfl rfl)
theorem dX17_held_100 : decode cX17_held 100 = .ok (.invokevirtual 148, 3) := dk_182 0 148 (dk_at dksX17_held_4 6 rfl rfl)
theorem dX17_held_103 : decode cX17_held 103 = .ok (.invokevirtual 350, 3) := dk_182 1 94 (dk_at dksX17_held_4 9 rfl rfl)
theorem dX17_held_106 : decode cX17_held 106 = .ok (.idiv, 1) := dk_108 (dk_at dksX17_held_4 12 rfl rfl)
theorem dX17_held_107 : decode cX17_held 107 = .ok (.ireturn, 1) := dk_172 (dk_at dksX17_held_4 13 rfl rfl)
abbrev cX17_holds : ByteArray := prog_24_method_86_code
def yX17_holds : MethodName := ⟨RX17, "holds", "(II)I"⟩
def dkwX17_holds_2 : List UInt8 := [29, 182, 0, 195, 79, 132, 3, 1, 167, 255, 235, 42, 182, 1, 59, 156, 0, 7, 4, 167, 0, 4, 3, 172]
abbrev dktX17_holds_2 : List UInt8 := dkwX17_holds_2 ++ []
def dkwX17_holds_1 : List UInt8 := [16, 254, 172, 42, 27, 3, 182, 1, 112, 3, 62, 29, 16, 24, 162, 0, 21, 42, 180, 0, 52, 29, 42, 28]
abbrev dktX17_holds_1 : List UInt8 := dkwX17_holds_1 ++ dktX17_holds_2
def dkwX17_holds_0 : List UInt8 := [27, 184, 1, 106, 153, 0, 10, 28, 184, 0, 188, 154, 0, 5, 2, 172, 42, 27, 182, 1, 109, 154, 0, 6]
abbrev dktX17_holds_0 : List UInt8 := dkwX17_holds_0 ++ dktX17_holds_1
theorem dksX17_holds_0 : cX17_holds.data.toList.drop 0 = dktX17_holds_0 := by decide +kernel
theorem dksX17_holds_1 : cX17_holds.data.toList.drop 24 = dktX17_holds_1 := dk_seg dksX17_holds_0 24 rfl rfl
theorem dksX17_holds_2 : cX17_holds.data.toList.drop 48 = dktX17_holds_2 := dk_seg dksX17_holds_1 24 rfl rfl
theorem dX17_holds_0 : decode cX17_holds 0 = .ok (.iload_n 1, 1) := dk_27 (dk_at dksX17_holds_0 0 rfl rfl)
theorem dX17_holds_1 : decode cX17_holds 1 = .ok (.invokestatic 362, 3) := dk_184 1 106 (dk_at dksX17_holds_0 1 rfl rfl)
theorem dX17_holds_4 : decode cX17_holds 4 = .ok (.ifCond .eq 10, 3) := dk_153 0 10 (dk_at dksX17_holds_0 4 rfl rfl)
theorem dX17_holds_7 : decode cX17_holds 7 = .ok (.iload_n 2, 1) := dk_28 (dk_at dksX17_holds_0 7 rfl rfl)
theorem dX17_holds_8 : decode cX17_holds 8 = .ok (.invokestatic 188, 3) := dk_184 0 188 (dk_at dksX17_holds_0 8 rfl rfl)
theorem dX17_holds_11 : decode cX17_holds 11 = .ok (.ifCond .ne 5, 3) := dk_154 0 5 (dk_at dksX17_holds_0 11 rfl rfl)
theorem dX17_holds_14 : decode cX17_holds 14 = .ok (.iconst (-1), 1) := dk_2 (dk_at dksX17_holds_0 14 rfl rfl)
theorem dX17_holds_15 : decode cX17_holds 15 = .ok (.ireturn, 1) := dk_172 (dk_at dksX17_holds_0 15 rfl rfl)
theorem dX17_holds_16 : decode cX17_holds 16 = .ok (.aload_n 0, 1) := dk_42 (dk_at dksX17_holds_0 16 rfl rfl)
theorem dX17_holds_17 : decode cX17_holds 17 = .ok (.iload_n 1, 1) := dk_27 (dk_at dksX17_holds_0 17 rfl rfl)
theorem dX17_holds_18 : decode cX17_holds 18 = .ok (.invokevirtual 365, 3) := dk_182 1 109 (dk_at dksX17_holds_0 18 rfl rfl)
theorem dX17_holds_21 : decode cX17_holds 21 = .ok (.ifCond .ne 6, 3) := dk_154 0 6 (dk_at dksX17_holds_0 21 rfl rfl)
theorem dX17_holds_24 : decode cX17_holds 24 = .ok (.bipush (-2), 2) := dk_16 254 (dk_at dksX17_holds_1 0 rfl rfl)
theorem dX17_holds_26 : decode cX17_holds 26 = .ok (.ireturn, 1) := dk_172 (dk_at dksX17_holds_1 2 rfl rfl)
theorem dX17_holds_27 : decode cX17_holds 27 = .ok (.aload_n 0, 1) := dk_42 (dk_at dksX17_holds_1 3 rfl rfl)
theorem dX17_holds_28 : decode cX17_holds 28 = .ok (.iload_n 1, 1) := dk_27 (dk_at dksX17_holds_1 4 rfl rfl)
theorem dX17_holds_29 : decode cX17_holds 29 = .ok (.iconst 0, 1) := dk_3 (dk_at dksX17_holds_1 5 rfl rfl)
theorem dX17_holds_30 : decode cX17_holds 30 = .ok (.invokevirtual 368, 3) := dk_182 1 112 (dk_at dksX17_holds_1 6 rfl rfl)
theorem dX17_holds_33 : decode cX17_holds 33 = .ok (.iconst 0, 1) := dk_3 (dk_at dksX17_holds_1 9 rfl rfl)
theorem dX17_holds_34 : decode cX17_holds 34 = .ok (.istore_n 3, 1) := dk_62 (dk_at dksX17_holds_1 10 rfl rfl)
theorem dX17_holds_35 : decode cX17_holds 35 = .ok (.iload_n 3, 1) := dk_29 (dk_at dksX17_holds_1 11 rfl rfl)
theorem dX17_holds_36 : decode cX17_holds 36 = .ok (.bipush 24, 2) := dk_16 24 (dk_at dksX17_holds_1 12 rfl rfl)
theorem dX17_holds_38 : decode cX17_holds 38 = .ok (.if_icmp .ge 21, 3) := dk_162 0 21 (dk_at dksX17_holds_1 14 rfl rfl)
theorem dX17_holds_41 : decode cX17_holds 41 = .ok (.aload_n 0, 1) := dk_42 (dk_at dksX17_holds_1 17 rfl rfl)
theorem dX17_holds_42 : decode cX17_holds 42 = .ok (.getfield 52, 3) := dk_180 0 52 (dk_at dksX17_holds_1 18 rfl rfl)
theorem dX17_holds_45 : decode cX17_holds 45 = .ok (.iload_n 3, 1) := dk_29 (dk_at dksX17_holds_1 21 rfl rfl)
theorem dX17_holds_46 : decode cX17_holds 46 = .ok (.aload_n 0, 1) := dk_42 (dk_at dksX17_holds_1 22 rfl rfl)
theorem dX17_holds_47 : decode cX17_holds 47 = .ok (.iload_n 2, 1) := dk_28 (dk_at dksX17_holds_1 23 rfl rfl)
theorem dX17_holds_48 : decode cX17_holds 48 = .ok (.iload_n 3, 1) := dk_29 (dk_at dksX17_holds_2 0 rfl rfl)
theorem dX17_holds_49 : decode cX17_holds 49 = .ok (.invokevirtual 195, 3) := dk_182 0 195 (dk_at dksX17_holds_2 1 rfl rfl)
theorem dX17_holds_52 : decode cX17_holds 52 = .ok (.iastore, 1) := dk_79 (dk_at dksX17_holds_2 4 rfl rfl)
theorem dX17_holds_53 : decode cX17_holds 53 = .ok (.iinc 3 1, 3) := dk_132 3 1 (dk_at dksX17_holds_2 5 rfl rfl)
theorem dX17_holds_56 : decode cX17_holds 56 = .ok (.goto (-21), 3) := dk_167 255 235 (dk_at dksX17_holds_2 8 rfl rfl)
theorem dX17_holds_59 : decode cX17_holds 59 = .ok (.aload_n 0, 1) := dk_42 (dk_at dksX17_holds_2 11 rfl rfl)
theorem dX17_holds_60 : decode cX17_holds 60 = .ok (.invokevirtual 315, 3) := dk_182 1 59 (dk_at dksX17_holds_2 12 rfl rfl)
theorem dX17_holds_63 : decode cX17_holds 63 = .ok (.ifCond .ge 7, 3) := dk_156 0 7 (dk_at dksX17_holds_2 15 rfl rfl)
theorem dX17_holds_66 : decode cX17_holds 66 = .ok (.iconst 1, 1) := dk_4 (dk_at dksX17_holds_2 18 rfl rfl)
theorem dX17_holds_67 : decode cX17_holds 67 = .ok (.goto 4, 3) := dk_167 0 4 (dk_at dksX17_holds_2 19 rfl rfl)
theorem dX17_holds_70 : decode cX17_holds 70 = .ok (.iconst 0, 1) := dk_3 (dk_at dksX17_holds_2 22 rfl rfl)
theorem dX17_holds_71 : decode cX17_holds 71 = .ok (.ireturn, 1) := dk_172 (dk_at dksX17_holds_2 23 rfl rfl)
abbrev cX17_choose : ByteArray := prog_24_method_87_code
def yX17_choose : MethodName := ⟨RX17, "choose", "(I)I"⟩
def dkwX17_choose_2 : List UInt8 := [180, 0, 7, 16, 120, 27, 79, 28, 172]
abbrev dktX17_choose_2 : List UInt8 := dkwX17_choose_2 ++ []
def dkwX17_choose_1 : List UInt8 := [160, 0, 16, 42, 27, 182, 0, 148, 155, 0, 8, 27, 28, 160, 0, 6, 16, 254, 172, 42, 182, 1, 53, 42]
abbrev dktX17_choose_1 : List UInt8 := dkwX17_choose_1 ++ dktX17_choose_2
def dkwX17_choose_0 : List UInt8 := [27, 184, 0, 144, 154, 0, 5, 2, 172, 42, 180, 0, 7, 16, 120, 46, 61, 27, 184, 0, 115, 16, 12]
abbrev dktX17_choose_0 : List UInt8 := dkwX17_choose_0 ++ dktX17_choose_1
theorem dksX17_choose_0 : cX17_choose.data.toList.drop 0 = dktX17_choose_0 := by decide +kernel
theorem dksX17_choose_1 : cX17_choose.data.toList.drop 23 = dktX17_choose_1 := dk_seg dksX17_choose_0 23 rfl rfl
theorem dksX17_choose_2 : cX17_choose.data.toList.drop 47 = dktX17_choose_2 := dk_seg dksX17_choose_1 24 rfl rfl
theorem dX17_choose_0 : decode cX17_choose 0 = .ok (.iload_n 1, 1) := dk_27 (dk_at dksX17_choose_0 0 rfl rfl)
theorem dX17_choose_1 : decode cX17_choose 1 = .ok (.invokestatic 144, 3) := dk_184 0 144 (dk_at dksX17_choose_0 1 rfl rfl)
theorem dX17_choose_4 : decode cX17_choose 4 = .ok (.ifCond .ne 5, 3) := dk_154 0 5 (dk_at dksX17_choose_0 4 rfl rfl)
theorem dX17_choose_7 : decode cX17_choose 7 = .ok (.iconst (-1), 1) := dk_2 (dk_at dksX17_choose_0 7 rfl rfl)
theorem dX17_choose_8 : decode cX17_choose 8 = .ok (.ireturn, 1) := dk_172 (dk_at dksX17_choose_0 8 rfl rfl)
theorem dX17_choose_9 : decode cX17_choose 9 = .ok (.aload_n 0, 1) := dk_42 (dk_at dksX17_choose_0 9 rfl rfl)
theorem dX17_choose_10 : decode cX17_choose 10 = .ok (.getfield 7, 3) := dk_180 0 7 (dk_at dksX17_choose_0 10 rfl rfl)
theorem dX17_choose_13 : decode cX17_choose 13 = .ok (.bipush 120, 2) := dk_16 120 (dk_at dksX17_choose_0 13 rfl rfl)
theorem dX17_choose_15 : decode cX17_choose 15 = .ok (.iaload, 1) := dk_46 (dk_at dksX17_choose_0 15 rfl rfl)
theorem dX17_choose_16 : decode cX17_choose 16 = .ok (.istore_n 2, 1) := dk_61 (dk_at dksX17_choose_0 16 rfl rfl)
theorem dX17_choose_17 : decode cX17_choose 17 = .ok (.iload_n 1, 1) := dk_27 (dk_at dksX17_choose_0 17 rfl rfl)
theorem dX17_choose_18 : decode cX17_choose 18 = .ok (.invokestatic 115, 3) := dk_184 0 115 (dk_at dksX17_choose_0 18 rfl rfl)
theorem dX17_choose_21 : decode cX17_choose 21 = .ok (.bipush 12, 2) := dk_16 12 (dk_at dksX17_choose_0 21 rfl rfl)
theorem dX17_choose_23 : decode cX17_choose 23 = .ok (.if_icmp .ne 16, 3) := dk_160 0 16 (dk_at dksX17_choose_1 0 rfl rfl)
theorem dX17_choose_26 : decode cX17_choose 26 = .ok (.aload_n 0, 1) := dk_42 (dk_at dksX17_choose_1 3 rfl rfl)
theorem dX17_choose_27 : decode cX17_choose 27 = .ok (.iload_n 1, 1) := dk_27 (dk_at dksX17_choose_1 4 rfl rfl)
theorem dX17_choose_28 : decode cX17_choose 28 = .ok (.invokevirtual 148, 3) := dk_182 0 148 (dk_at dksX17_choose_1 5 rfl rfl)
theorem dX17_choose_31 : decode cX17_choose 31 = .ok (.ifCond .lt 8, 3) := dk_155 0 8 (dk_at dksX17_choose_1 8 rfl rfl)
theorem dX17_choose_34 : decode cX17_choose 34 = .ok (.iload_n 1, 1) := dk_27 (dk_at dksX17_choose_1 11 rfl rfl)
theorem dX17_choose_35 : decode cX17_choose 35 = .ok (.iload_n 2, 1) := dk_28 (dk_at dksX17_choose_1 12 rfl rfl)
theorem dX17_choose_36 : decode cX17_choose 36 = .ok (.if_icmp .ne 6, 3) := dk_160 0 6 (dk_at dksX17_choose_1 13 rfl rfl)
theorem dX17_choose_39 : decode cX17_choose 39 = .ok (.bipush (-2), 2) := dk_16 254 (dk_at dksX17_choose_1 16 rfl rfl)
theorem dX17_choose_41 : decode cX17_choose 41 = .ok (.ireturn, 1) := dk_172 (dk_at dksX17_choose_1 18 rfl rfl)
theorem dX17_choose_42 : decode cX17_choose 42 = .ok (.aload_n 0, 1) := dk_42 (dk_at dksX17_choose_1 19 rfl rfl)
theorem dX17_choose_43 : decode cX17_choose 43 = .ok (.invokevirtual 309, 3) := dk_182 1 53 (dk_at dksX17_choose_1 20 rfl rfl)
theorem dX17_choose_46 : decode cX17_choose 46 = .ok (.aload_n 0, 1) := dk_42 (dk_at dksX17_choose_1 23 rfl rfl)
theorem dX17_choose_47 : decode cX17_choose 47 = .ok (.getfield 7, 3) := dk_180 0 7 (dk_at dksX17_choose_2 0 rfl rfl)
theorem dX17_choose_50 : decode cX17_choose 50 = .ok (.bipush 120, 2) := dk_16 120 (dk_at dksX17_choose_2 3 rfl rfl)
theorem dX17_choose_52 : decode cX17_choose 52 = .ok (.iload_n 1, 1) := dk_27 (dk_at dksX17_choose_2 5 rfl rfl)
theorem dX17_choose_53 : decode cX17_choose 53 = .ok (.iastore, 1) := dk_79 (dk_at dksX17_choose_2 6 rfl rfl)
theorem dX17_choose_54 : decode cX17_choose 54 = .ok (.iload_n 2, 1) := dk_28 (dk_at dksX17_choose_2 7 rfl rfl)
theorem dX17_choose_55 : decode cX17_choose 55 = .ok (.ireturn, 1) := dk_172 (dk_at dksX17_choose_2 8 rfl rfl)
abbrev cX17_hexad : ByteArray := prog_24_method_88_code
def yX17_hexad : MethodName := ⟨RX17, "hexad", "(I)I"⟩
def dkwX17_hexad_2 : List UInt8 := [126, 172]
abbrev dktX17_hexad_2 : List UInt8 := dkwX17_hexad_2 ++ []
def dkwX17_hexad_1 : List UInt8 := [46, 2, 130, 126, 153, 0, 8, 16, 254, 167, 0, 16, 42, 27, 182, 0, 172, 42, 180, 0, 7, 16, 120, 46]
abbrev dktX17_hexad_1 : List UInt8 := dkwX17_hexad_1 ++ dktX17_hexad_2
def dkwX17_hexad_0 : List UInt8 := [27, 184, 0, 144, 154, 0, 5, 2, 172, 27, 184, 0, 115, 8, 160, 0, 17, 27, 42, 180, 0, 7, 16, 120]
abbrev dktX17_hexad_0 : List UInt8 := dkwX17_hexad_0 ++ dktX17_hexad_1
theorem dksX17_hexad_0 : cX17_hexad.data.toList.drop 0 = dktX17_hexad_0 := by decide +kernel
theorem dksX17_hexad_1 : cX17_hexad.data.toList.drop 24 = dktX17_hexad_1 := dk_seg dksX17_hexad_0 24 rfl rfl
theorem dksX17_hexad_2 : cX17_hexad.data.toList.drop 48 = dktX17_hexad_2 := dk_seg dksX17_hexad_1 24 rfl rfl
theorem dX17_hexad_0 : decode cX17_hexad 0 = .ok (.iload_n 1, 1) := dk_27 (dk_at dksX17_hexad_0 0 rfl rfl)
theorem dX17_hexad_1 : decode cX17_hexad 1 = .ok (.invokestatic 144, 3) := dk_184 0 144 (dk_at dksX17_hexad_0 1 rfl rfl)
theorem dX17_hexad_4 : decode cX17_hexad 4 = .ok (.ifCond .ne 5, 3) := dk_154 0 5 (dk_at dksX17_hexad_0 4 rfl rfl)
theorem dX17_hexad_7 : decode cX17_hexad 7 = .ok (.iconst (-1), 1) := dk_2 (dk_at dksX17_hexad_0 7 rfl rfl)
theorem dX17_hexad_8 : decode cX17_hexad 8 = .ok (.ireturn, 1) := dk_172 (dk_at dksX17_hexad_0 8 rfl rfl)
theorem dX17_hexad_9 : decode cX17_hexad 9 = .ok (.iload_n 1, 1) := dk_27 (dk_at dksX17_hexad_0 9 rfl rfl)
theorem dX17_hexad_10 : decode cX17_hexad 10 = .ok (.invokestatic 115, 3) := dk_184 0 115 (dk_at dksX17_hexad_0 10 rfl rfl)
theorem dX17_hexad_13 : decode cX17_hexad 13 = .ok (.iconst 5, 1) := dk_8 (dk_at dksX17_hexad_0 13 rfl rfl)
theorem dX17_hexad_14 : decode cX17_hexad 14 = .ok (.if_icmp .ne 17, 3) := dk_160 0 17 (dk_at dksX17_hexad_0 14 rfl rfl)
theorem dX17_hexad_17 : decode cX17_hexad 17 = .ok (.iload_n 1, 1) := dk_27 (dk_at dksX17_hexad_0 17 rfl rfl)
theorem dX17_hexad_18 : decode cX17_hexad 18 = .ok (.aload_n 0, 1) := dk_42 (dk_at dksX17_hexad_0 18 rfl rfl)
theorem dX17_hexad_19 : decode cX17_hexad 19 = .ok (.getfield 7, 3) := dk_180 0 7 (dk_at dksX17_hexad_0 19 rfl rfl)
theorem dX17_hexad_22 : decode cX17_hexad 22 = .ok (.bipush 120, 2) := dk_16 120 (dk_at dksX17_hexad_0 22 rfl rfl)
theorem dX17_hexad_24 : decode cX17_hexad 24 = .ok (.iaload, 1) := dk_46 (dk_at dksX17_hexad_1 0 rfl rfl)
theorem dX17_hexad_25 : decode cX17_hexad 25 = .ok (.iconst (-1), 1) := dk_2 (dk_at dksX17_hexad_1 1 rfl rfl)
theorem dX17_hexad_26 : decode cX17_hexad 26 = .ok (.ixor, 1) := dk_130 (dk_at dksX17_hexad_1 2 rfl rfl)
theorem dX17_hexad_27 : decode cX17_hexad 27 = .ok (.iand, 1) := dk_126 (dk_at dksX17_hexad_1 3 rfl rfl)
theorem dX17_hexad_28 : decode cX17_hexad 28 = .ok (.ifCond .eq 8, 3) := dk_153 0 8 (dk_at dksX17_hexad_1 4 rfl rfl)
theorem dX17_hexad_31 : decode cX17_hexad 31 = .ok (.bipush (-2), 2) := dk_16 254 (dk_at dksX17_hexad_1 7 rfl rfl)
theorem dX17_hexad_33 : decode cX17_hexad 33 = .ok (.goto 16, 3) := dk_167 0 16 (dk_at dksX17_hexad_1 9 rfl rfl)
theorem dX17_hexad_36 : decode cX17_hexad 36 = .ok (.aload_n 0, 1) := dk_42 (dk_at dksX17_hexad_1 12 rfl rfl)
theorem dX17_hexad_37 : decode cX17_hexad 37 = .ok (.iload_n 1, 1) := dk_27 (dk_at dksX17_hexad_1 13 rfl rfl)
theorem dX17_hexad_38 : decode cX17_hexad 38 = .ok (.invokevirtual 172, 3) := dk_182 0 172 (dk_at dksX17_hexad_1 14 rfl rfl)
theorem dX17_hexad_41 : decode cX17_hexad 41 = .ok (.aload_n 0, 1) := dk_42 (dk_at dksX17_hexad_1 17 rfl rfl)
theorem dX17_hexad_42 : decode cX17_hexad 42 = .ok (.getfield 7, 3) := dk_180 0 7 (dk_at dksX17_hexad_1 18 rfl rfl)
theorem dX17_hexad_45 : decode cX17_hexad 45 = .ok (.bipush 120, 2) := dk_16 120 (dk_at dksX17_hexad_1 21 rfl rfl)
theorem dX17_hexad_47 : decode cX17_hexad 47 = .ok (.iaload, 1) := dk_46 (dk_at dksX17_hexad_1 23 rfl rfl)
theorem dX17_hexad_48 : decode cX17_hexad 48 = .ok (.iand, 1) := dk_126 (dk_at dksX17_hexad_2 0 rfl rfl)
theorem dX17_hexad_49 : decode cX17_hexad 49 = .ok (.ireturn, 1) := dk_172 (dk_at dksX17_hexad_2 1 rfl rfl)
abbrev cX17_turn : ByteArray := prog_24_method_89_code
def yX17_turn : MethodName := ⟨RX17, "turn", "(II)I"⟩
def dkwX17_turn_6 : List UInt8 := [21, 4, 172]
abbrev dktX17_turn_6 : List UInt8 := dkwX17_turn_6 ++ []
def dkwX17_turn_5 : List UInt8 := [180, 0, 22, 21, 5, 46, 29, 2, 130, 126, 167, 0, 5, 21, 4, 54, 4, 132, 5, 1, 167, 255, 171]
abbrev dktX17_turn_5 : List UInt8 := dkwX17_turn_5 ++ dktX17_turn_6
def dkwX17_turn_4 : List UInt8 := [184, 0, 112, 184, 0, 118, 153, 0, 7, 4, 167, 0, 4, 3, 54, 6, 21, 6, 153, 0, 17, 42]
abbrev dktX17_turn_4 : List UInt8 := dkwX17_turn_4 ++ dktX17_turn_5
def dkwX17_turn_3 : List UInt8 := [16, 120, 46, 2, 130, 126, 29, 160, 0, 30, 42, 180, 0, 22, 21, 5, 46, 42, 180, 0, 7, 16, 120, 46]
abbrev dktX17_turn_3 : List UInt8 := dkwX17_turn_3 ++ dktX17_turn_4
def dkwX17_turn_2 : List UInt8 := [54, 4, 3, 54, 5, 21, 5, 17, 2, 247, 162, 0, 83, 42, 180, 0, 22, 21, 5, 46, 42, 180, 0, 7]
abbrev dktX17_turn_2 : List UInt8 := dkwX17_turn_2 ++ dktX17_turn_3
def dkwX17_turn_1 : List UInt8 := [128, 62, 27, 28, 159, 0, 15, 29, 42, 180, 0, 7, 16, 120, 46, 126, 153, 0, 6, 16, 254, 172, 16, 252]
abbrev dktX17_turn_1 : List UInt8 := dkwX17_turn_1 ++ dktX17_turn_2
def dkwX17_turn_0 : List UInt8 := [27, 133, 184, 0, 191, 153, 0, 11, 28, 133, 184, 0, 191, 154, 0, 5, 2, 172, 4, 27, 120, 4, 28, 120]
abbrev dktX17_turn_0 : List UInt8 := dkwX17_turn_0 ++ dktX17_turn_1
theorem dksX17_turn_0 : cX17_turn.data.toList.drop 0 = dktX17_turn_0 := by decide +kernel
theorem dksX17_turn_1 : cX17_turn.data.toList.drop 24 = dktX17_turn_1 := dk_seg dksX17_turn_0 24 rfl rfl
theorem dksX17_turn_2 : cX17_turn.data.toList.drop 48 = dktX17_turn_2 := dk_seg dksX17_turn_1 24 rfl rfl
theorem dksX17_turn_3 : cX17_turn.data.toList.drop 72 = dktX17_turn_3 := dk_seg dksX17_turn_2 24 rfl rfl
theorem dksX17_turn_4 : cX17_turn.data.toList.drop 96 = dktX17_turn_4 := dk_seg dksX17_turn_3 24 rfl rfl
theorem dksX17_turn_5 : cX17_turn.data.toList.drop 118 = dktX17_turn_5 := dk_seg dksX17_turn_4 22 rfl rfl
theorem dksX17_turn_6 : cX17_turn.data.toList.drop 141 = dktX17_turn_6 := dk_seg dksX17_turn_5 23 rfl rfl
theorem dX17_turn_0 : decode cX17_turn 0 = .ok (.iload_n 1, 1) := dk_27 (dk_at dksX17_turn_0 0 rfl rfl)
theorem dX17_turn_1 : decode cX17_turn 1 = .ok (.i2l, 1) := dk_133 (dk_at dksX17_turn_0 1 rfl rfl)
theorem dX17_turn_2 : decode cX17_turn 2 = .ok (.invokestatic 191, 3) := dk_184 0 191 (dk_at dksX17_turn_0 2 rfl rfl)
theorem dX17_turn_5 : decode cX17_turn 5 = .ok (.ifCond .eq 11, 3) := dk_153 0 11 (dk_at dksX17_turn_0 5 rfl rfl)
theorem dX17_turn_8 : decode cX17_turn 8 = .ok (.iload_n 2, 1) := dk_28 (dk_at dksX17_turn_0 8 rfl rfl)
theorem dX17_turn_9 : decode cX17_turn 9 = .ok (.i2l, 1) := dk_133 (dk_at dksX17_turn_0 9 rfl rfl)
theorem dX17_turn_10 : decode cX17_turn 10 = .ok (.invokestatic 191, 3) := dk_184 0 191 (dk_at dksX17_turn_0 10 rfl rfl)
theorem dX17_turn_13 : decode cX17_turn 13 = .ok (.ifCond .ne 5, 3) := dk_154 0 5 (dk_at dksX17_turn_0 13 rfl rfl)
theorem dX17_turn_16 : decode cX17_turn 16 = .ok (.iconst (-1), 1) := dk_2 (dk_at dksX17_turn_0 16 rfl rfl)
theorem dX17_turn_17 : decode cX17_turn 17 = .ok (.ireturn, 1) := dk_172 (dk_at dksX17_turn_0 17 rfl rfl)
theorem dX17_turn_18 : decode cX17_turn 18 = .ok (.iconst 1, 1) := dk_4 (dk_at dksX17_turn_0 18 rfl rfl)
theorem dX17_turn_19 : decode cX17_turn 19 = .ok (.iload_n 1, 1) := dk_27 (dk_at dksX17_turn_0 19 rfl rfl)
theorem dX17_turn_20 : decode cX17_turn 20 = .ok (.ishl, 1) := dk_120 (dk_at dksX17_turn_0 20 rfl rfl)
theorem dX17_turn_21 : decode cX17_turn 21 = .ok (.iconst 1, 1) := dk_4 (dk_at dksX17_turn_0 21 rfl rfl)
theorem dX17_turn_22 : decode cX17_turn 22 = .ok (.iload_n 2, 1) := dk_28 (dk_at dksX17_turn_0 22 rfl rfl)
theorem dX17_turn_23 : decode cX17_turn 23 = .ok (.ishl, 1) := dk_120 (dk_at dksX17_turn_0 23 rfl rfl)
theorem dX17_turn_24 : decode cX17_turn 24 = .ok (.ior, 1) := dk_128 (dk_at dksX17_turn_1 0 rfl rfl)
theorem dX17_turn_25 : decode cX17_turn 25 = .ok (.istore_n 3, 1) := dk_62 (dk_at dksX17_turn_1 1 rfl rfl)
theorem dX17_turn_26 : decode cX17_turn 26 = .ok (.iload_n 1, 1) := dk_27 (dk_at dksX17_turn_1 2 rfl rfl)
theorem dX17_turn_27 : decode cX17_turn 27 = .ok (.iload_n 2, 1) := dk_28 (dk_at dksX17_turn_1 3 rfl rfl)
theorem dX17_turn_28 : decode cX17_turn 28 = .ok (.if_icmp .eq 15, 3) := dk_159 0 15 (dk_at dksX17_turn_1 4 rfl rfl)
theorem dX17_turn_31 : decode cX17_turn 31 = .ok (.iload_n 3, 1) := dk_29 (dk_at dksX17_turn_1 7 rfl rfl)
theorem dX17_turn_32 : decode cX17_turn 32 = .ok (.aload_n 0, 1) := dk_42 (dk_at dksX17_turn_1 8 rfl rfl)
theorem dX17_turn_33 : decode cX17_turn 33 = .ok (.getfield 7, 3) := dk_180 0 7 (dk_at dksX17_turn_1 9 rfl rfl)
theorem dX17_turn_36 : decode cX17_turn 36 = .ok (.bipush 120, 2) := dk_16 120 (dk_at dksX17_turn_1 12 rfl rfl)
theorem dX17_turn_38 : decode cX17_turn 38 = .ok (.iaload, 1) := dk_46 (dk_at dksX17_turn_1 14 rfl rfl)
theorem dX17_turn_39 : decode cX17_turn 39 = .ok (.iand, 1) := dk_126 (dk_at dksX17_turn_1 15 rfl rfl)
theorem dX17_turn_40 : decode cX17_turn 40 = .ok (.ifCond .eq 6, 3) := dk_153 0 6 (dk_at dksX17_turn_1 16 rfl rfl)
theorem dX17_turn_43 : decode cX17_turn 43 = .ok (.bipush (-2), 2) := dk_16 254 (dk_at dksX17_turn_1 19 rfl rfl)
theorem dX17_turn_45 : decode cX17_turn 45 = .ok (.ireturn, 1) := dk_172 (dk_at dksX17_turn_1 21 rfl rfl)
theorem dX17_turn_46 : decode cX17_turn 46 = .ok (.bipush (-4), 2) := dk_16 252 (dk_at dksX17_turn_1 22 rfl rfl)
theorem dX17_turn_48 : decode cX17_turn 48 = .ok (.istore 4, 2) := dk_54 4 (dk_at dksX17_turn_2 0 rfl rfl)
theorem dX17_turn_50 : decode cX17_turn 50 = .ok (.iconst 0, 1) := dk_3 (dk_at dksX17_turn_2 2 rfl rfl)
theorem dX17_turn_51 : decode cX17_turn 51 = .ok (.istore 5, 2) := dk_54 5 (dk_at dksX17_turn_2 3 rfl rfl)
theorem dX17_turn_53 : decode cX17_turn 53 = .ok (.iload 5, 2) := dk_21 5 (dk_at dksX17_turn_2 5 rfl rfl)
theorem dX17_turn_55 : decode cX17_turn 55 = .ok (.sipush 759, 3) := dk_17 2 247 (dk_at dksX17_turn_2 7 rfl rfl)
theorem dX17_turn_58 : decode cX17_turn 58 = .ok (.if_icmp .ge 83, 3) := dk_162 0 83 (dk_at dksX17_turn_2 10 rfl rfl)
theorem dX17_turn_61 : decode cX17_turn 61 = .ok (.aload_n 0, 1) := dk_42 (dk_at dksX17_turn_2 13 rfl rfl)
theorem dX17_turn_62 : decode cX17_turn 62 = .ok (.getfield 22, 3) := dk_180 0 22 (dk_at dksX17_turn_2 14 rfl rfl)
theorem dX17_turn_65 : decode cX17_turn 65 = .ok (.iload 5, 2) := dk_21 5 (dk_at dksX17_turn_2 17 rfl rfl)
theorem dX17_turn_67 : decode cX17_turn 67 = .ok (.iaload, 1) := dk_46 (dk_at dksX17_turn_2 19 rfl rfl)
theorem dX17_turn_68 : decode cX17_turn 68 = .ok (.aload_n 0, 1) := dk_42 (dk_at dksX17_turn_2 20 rfl rfl)
theorem dX17_turn_69 : decode cX17_turn 69 = .ok (.getfield 7, 3) := dk_180 0 7 (dk_at dksX17_turn_2 21 rfl rfl)
theorem dX17_turn_72 : decode cX17_turn 72 = .ok (.bipush 120, 2) := dk_16 120 (dk_at dksX17_turn_3 0 rfl rfl)
theorem dX17_turn_74 : decode cX17_turn 74 = .ok (.iaload, 1) := dk_46 (dk_at dksX17_turn_3 2 rfl rfl)
theorem dX17_turn_75 : decode cX17_turn 75 = .ok (.iconst (-1), 1) := dk_2 (dk_at dksX17_turn_3 3 rfl rfl)
theorem dX17_turn_76 : decode cX17_turn 76 = .ok (.ixor, 1) := dk_130 (dk_at dksX17_turn_3 4 rfl rfl)
theorem dX17_turn_77 : decode cX17_turn 77 = .ok (.iand, 1) := dk_126 (dk_at dksX17_turn_3 5 rfl rfl)
theorem dX17_turn_78 : decode cX17_turn 78 = .ok (.iload_n 3, 1) := dk_29 (dk_at dksX17_turn_3 6 rfl rfl)
theorem dX17_turn_79 : decode cX17_turn 79 = .ok (.if_icmp .ne 30, 3) := dk_160 0 30 (dk_at dksX17_turn_3 7 rfl rfl)
theorem dX17_turn_82 : decode cX17_turn 82 = .ok (.aload_n 0, 1) := dk_42 (dk_at dksX17_turn_3 10 rfl rfl)
theorem dX17_turn_83 : decode cX17_turn 83 = .ok (.getfield 22, 3) := dk_180 0 22 (dk_at dksX17_turn_3 11 rfl rfl)
theorem dX17_turn_86 : decode cX17_turn 86 = .ok (.iload 5, 2) := dk_21 5 (dk_at dksX17_turn_3 14 rfl rfl)
theorem dX17_turn_88 : decode cX17_turn 88 = .ok (.iaload, 1) := dk_46 (dk_at dksX17_turn_3 16 rfl rfl)
theorem dX17_turn_89 : decode cX17_turn 89 = .ok (.aload_n 0, 1) := dk_42 (dk_at dksX17_turn_3 17 rfl rfl)
theorem dX17_turn_90 : decode cX17_turn 90 = .ok (.getfield 7, 3) := dk_180 0 7 (dk_at dksX17_turn_3 18 rfl rfl)
theorem dX17_turn_93 : decode cX17_turn 93 = .ok (.bipush 120, 2) := dk_16 120 (dk_at dksX17_turn_3 21 rfl rfl)
theorem dX17_turn_95 : decode cX17_turn 95 = .ok (.iaload, 1) := dk_46 (dk_at dksX17_turn_3 23 rfl rfl)
theorem dX17_turn_96 : decode cX17_turn 96 = .ok (.invokestatic 112, 3) := dk_184 0 112 (dk_at dksX17_turn_4 0 rfl rfl)
theorem dX17_turn_99 : decode cX17_turn 99 = .ok (.invokestatic 118, 3) := dk_184 0 118 (dk_at dksX17_turn_4 3 rfl rfl)
theorem dX17_turn_102 : decode cX17_turn 102 = .ok (.ifCond .eq 7, 3) := dk_153 0 7 (dk_at dksX17_turn_4 6 rfl rfl)
theorem dX17_turn_105 : decode cX17_turn 105 = .ok (.iconst 1, 1) := dk_4 (dk_at dksX17_turn_4 9 rfl rfl)
theorem dX17_turn_106 : decode cX17_turn 106 = .ok (.goto 4, 3) := dk_167 0 4 (dk_at dksX17_turn_4 10 rfl rfl)
theorem dX17_turn_109 : decode cX17_turn 109 = .ok (.iconst 0, 1) := dk_3 (dk_at dksX17_turn_4 13 rfl rfl)
theorem dX17_turn_110 : decode cX17_turn 110 = .ok (.istore 6, 2) := dk_54 6 (dk_at dksX17_turn_4 14 rfl rfl)
theorem dX17_turn_112 : decode cX17_turn 112 = .ok (.iload 6, 2) := dk_21 6 (dk_at dksX17_turn_4 16 rfl rfl)
theorem dX17_turn_114 : decode cX17_turn 114 = .ok (.ifCond .eq 17, 3) := dk_153 0 17 (dk_at dksX17_turn_4 18 rfl rfl)
theorem dX17_turn_117 : decode cX17_turn 117 = .ok (.aload_n 0, 1) := dk_42 (dk_at dksX17_turn_4 21 rfl rfl)
theorem dX17_turn_118 : decode cX17_turn 118 = .ok (.getfield 22, 3) := dk_180 0 22 (dk_at dksX17_turn_5 0 rfl rfl)
theorem dX17_turn_121 : decode cX17_turn 121 = .ok (.iload 5, 2) := dk_21 5 (dk_at dksX17_turn_5 3 rfl rfl)
theorem dX17_turn_123 : decode cX17_turn 123 = .ok (.iaload, 1) := dk_46 (dk_at dksX17_turn_5 5 rfl rfl)
theorem dX17_turn_124 : decode cX17_turn 124 = .ok (.iload_n 3, 1) := dk_29 (dk_at dksX17_turn_5 6 rfl rfl)
theorem dX17_turn_125 : decode cX17_turn 125 = .ok (.iconst (-1), 1) := dk_2 (dk_at dksX17_turn_5 7 rfl rfl)
theorem dX17_turn_126 : decode cX17_turn 126 = .ok (.ixor, 1) := dk_130 (dk_at dksX17_turn_5 8 rfl rfl)
theorem dX17_turn_127 : decode cX17_turn 127 = .ok (.iand, 1) := dk_126 (dk_at dksX17_turn_5 9 rfl rfl)
theorem dX17_turn_128 : decode cX17_turn 128 = .ok (.goto 5, 3) := dk_167 0 5 (dk_at dksX17_turn_5 10 rfl rfl)
theorem dX17_turn_131 : decode cX17_turn 131 = .ok (.iload 4, 2) := dk_21 4 (dk_at dksX17_turn_5 13 rfl rfl)
theorem dX17_turn_133 : decode cX17_turn 133 = .ok (.istore 4, 2) := dk_54 4 (dk_at dksX17_turn_5 15 rfl rfl)
theorem dX17_turn_135 : decode cX17_turn 135 = .ok (.iinc 5 1, 3) := dk_132 5 1 (dk_at dksX17_turn_5 17 rfl rfl)
theorem dX17_turn_138 : decode cX17_turn 138 = .ok (.goto (-85), 3) := dk_167 255 171 (dk_at dksX17_turn_5 20 rfl rfl)
theorem dX17_turn_141 : decode cX17_turn 141 = .ok (.iload 4, 2) := dk_21 4 (dk_at dksX17_turn_6 0 rfl rfl)
theorem dX17_turn_143 : decode cX17_turn 143 = .ok (.ireturn, 1) := dk_172 (dk_at dksX17_turn_6 2 rfl rfl)
abbrev cX17_pair : ByteArray := prog_24_method_90_code
def yX17_pair : MethodName := ⟨RX17, "pair", "(I)I"⟩
def dkwX17_pair_3 : List UInt8 := [28, 172]
abbrev dktX17_pair_3 : List UInt8 := dkwX17_pair_3 ++ []
def dkwX17_pair_2 : List UInt8 := [160, 0, 16, 42, 180, 0, 22, 29, 46, 27, 2, 130, 126, 167, 0, 4, 28, 61, 132, 3, 1, 167, 255, 204]
abbrev dktX17_pair_2 : List UInt8 := dkwX17_pair_2 ++ dktX17_pair_3
def dkwX17_pair_1 : List UInt8 := [184, 0, 115, 16, 6, 160, 0, 34, 42, 180, 0, 22, 29, 46, 42, 180, 0, 7, 16, 120, 46, 126, 27]
abbrev dktX17_pair_1 : List UInt8 := dkwX17_pair_1 ++ dktX17_pair_2
def dkwX17_pair_0 : List UInt8 := [27, 184, 0, 144, 154, 0, 5, 2, 172, 16, 254, 61, 3, 62, 29, 17, 2, 247, 162, 0, 51, 27]
abbrev dktX17_pair_0 : List UInt8 := dkwX17_pair_0 ++ dktX17_pair_1
theorem dksX17_pair_0 : cX17_pair.data.toList.drop 0 = dktX17_pair_0 := by decide +kernel
theorem dksX17_pair_1 : cX17_pair.data.toList.drop 22 = dktX17_pair_1 := dk_seg dksX17_pair_0 22 rfl rfl
theorem dksX17_pair_2 : cX17_pair.data.toList.drop 45 = dktX17_pair_2 := dk_seg dksX17_pair_1 23 rfl rfl
theorem dksX17_pair_3 : cX17_pair.data.toList.drop 69 = dktX17_pair_3 := dk_seg dksX17_pair_2 24 rfl rfl
theorem dX17_pair_0 : decode cX17_pair 0 = .ok (.iload_n 1, 1) := dk_27 (dk_at dksX17_pair_0 0 rfl rfl)
theorem dX17_pair_1 : decode cX17_pair 1 = .ok (.invokestatic 144, 3) := dk_184 0 144 (dk_at dksX17_pair_0 1 rfl rfl)
theorem dX17_pair_4 : decode cX17_pair 4 = .ok (.ifCond .ne 5, 3) := dk_154 0 5 (dk_at dksX17_pair_0 4 rfl rfl)
theorem dX17_pair_7 : decode cX17_pair 7 = .ok (.iconst (-1), 1) := dk_2 (dk_at dksX17_pair_0 7 rfl rfl)
theorem dX17_pair_8 : decode cX17_pair 8 = .ok (.ireturn, 1) := dk_172 (dk_at dksX17_pair_0 8 rfl rfl)
theorem dX17_pair_9 : decode cX17_pair 9 = .ok (.bipush (-2), 2) := dk_16 254 (dk_at dksX17_pair_0 9 rfl rfl)
theorem dX17_pair_11 : decode cX17_pair 11 = .ok (.istore_n 2, 1) := dk_61 (dk_at dksX17_pair_0 11 rfl rfl)
theorem dX17_pair_12 : decode cX17_pair 12 = .ok (.iconst 0, 1) := dk_3 (dk_at dksX17_pair_0 12 rfl rfl)
theorem dX17_pair_13 : decode cX17_pair 13 = .ok (.istore_n 3, 1) := dk_62 (dk_at dksX17_pair_0 13 rfl rfl)
theorem dX17_pair_14 : decode cX17_pair 14 = .ok (.iload_n 3, 1) := dk_29 (dk_at dksX17_pair_0 14 rfl rfl)
theorem dX17_pair_15 : decode cX17_pair 15 = .ok (.sipush 759, 3) := dk_17 2 247 (dk_at dksX17_pair_0 15 rfl rfl)
theorem dX17_pair_18 : decode cX17_pair 18 = .ok (.if_icmp .ge 51, 3) := dk_162 0 51 (dk_at dksX17_pair_0 18 rfl rfl)
theorem dX17_pair_21 : decode cX17_pair 21 = .ok (.iload_n 1, 1) := dk_27 (dk_at dksX17_pair_0 21 rfl rfl)
theorem dX17_pair_22 : decode cX17_pair 22 = .ok (.invokestatic 115, 3) := dk_184 0 115 (dk_at dksX17_pair_1 0 rfl rfl)
theorem dX17_pair_25 : decode cX17_pair 25 = .ok (.bipush 6, 2) := dk_16 6 (dk_at dksX17_pair_1 3 rfl rfl)
theorem dX17_pair_27 : decode cX17_pair 27 = .ok (.if_icmp .ne 34, 3) := dk_160 0 34 (dk_at dksX17_pair_1 5 rfl rfl)
theorem dX17_pair_30 : decode cX17_pair 30 = .ok (.aload_n 0, 1) := dk_42 (dk_at dksX17_pair_1 8 rfl rfl)
theorem dX17_pair_31 : decode cX17_pair 31 = .ok (.getfield 22, 3) := dk_180 0 22 (dk_at dksX17_pair_1 9 rfl rfl)
theorem dX17_pair_34 : decode cX17_pair 34 = .ok (.iload_n 3, 1) := dk_29 (dk_at dksX17_pair_1 12 rfl rfl)
theorem dX17_pair_35 : decode cX17_pair 35 = .ok (.iaload, 1) := dk_46 (dk_at dksX17_pair_1 13 rfl rfl)
theorem dX17_pair_36 : decode cX17_pair 36 = .ok (.aload_n 0, 1) := dk_42 (dk_at dksX17_pair_1 14 rfl rfl)
theorem dX17_pair_37 : decode cX17_pair 37 = .ok (.getfield 7, 3) := dk_180 0 7 (dk_at dksX17_pair_1 15 rfl rfl)
theorem dX17_pair_40 : decode cX17_pair 40 = .ok (.bipush 120, 2) := dk_16 120 (dk_at dksX17_pair_1 18 rfl rfl)
theorem dX17_pair_42 : decode cX17_pair 42 = .ok (.iaload, 1) := dk_46 (dk_at dksX17_pair_1 20 rfl rfl)
theorem dX17_pair_43 : decode cX17_pair 43 = .ok (.iand, 1) := dk_126 (dk_at dksX17_pair_1 21 rfl rfl)
theorem dX17_pair_44 : decode cX17_pair 44 = .ok (.iload_n 1, 1) := dk_27 (dk_at dksX17_pair_1 22 rfl rfl)
theorem dX17_pair_45 : decode cX17_pair 45 = .ok (.if_icmp .ne 16, 3) := dk_160 0 16 (dk_at dksX17_pair_2 0 rfl rfl)
theorem dX17_pair_48 : decode cX17_pair 48 = .ok (.aload_n 0, 1) := dk_42 (dk_at dksX17_pair_2 3 rfl rfl)
theorem dX17_pair_49 : decode cX17_pair 49 = .ok (.getfield 22, 3) := dk_180 0 22 (dk_at dksX17_pair_2 4 rfl rfl)
theorem dX17_pair_52 : decode cX17_pair 52 = .ok (.iload_n 3, 1) := dk_29 (dk_at dksX17_pair_2 7 rfl rfl)
theorem dX17_pair_53 : decode cX17_pair 53 = .ok (.iaload, 1) := dk_46 (dk_at dksX17_pair_2 8 rfl rfl)
theorem dX17_pair_54 : decode cX17_pair 54 = .ok (.iload_n 1, 1) := dk_27 (dk_at dksX17_pair_2 9 rfl rfl)
theorem dX17_pair_55 : decode cX17_pair 55 = .ok (.iconst (-1), 1) := dk_2 (dk_at dksX17_pair_2 10 rfl rfl)
theorem dX17_pair_56 : decode cX17_pair 56 = .ok (.ixor, 1) := dk_130 (dk_at dksX17_pair_2 11 rfl rfl)
theorem dX17_pair_57 : decode cX17_pair 57 = .ok (.iand, 1) := dk_126 (dk_at dksX17_pair_2 12 rfl rfl)
theorem dX17_pair_58 : decode cX17_pair 58 = .ok (.goto 4, 3) := dk_167 0 4 (dk_at dksX17_pair_2 13 rfl rfl)
theorem dX17_pair_61 : decode cX17_pair 61 = .ok (.iload_n 2, 1) := dk_28 (dk_at dksX17_pair_2 16 rfl rfl)
theorem dX17_pair_62 : decode cX17_pair 62 = .ok (.istore_n 2, 1) := dk_61 (dk_at dksX17_pair_2 17 rfl rfl)
theorem dX17_pair_63 : decode cX17_pair 63 = .ok (.iinc 3 1, 3) := dk_132 3 1 (dk_at dksX17_pair_2 18 rfl rfl)
theorem dX17_pair_66 : decode cX17_pair 66 = .ok (.goto (-52), 3) := dk_167 255 204 (dk_at dksX17_pair_2 21 rfl rfl)
theorem dX17_pair_69 : decode cX17_pair 69 = .ok (.iload_n 2, 1) := dk_28 (dk_at dksX17_pair_3 0 rfl rfl)
theorem dX17_pair_70 : decode cX17_pair 70 = .ok (.ireturn, 1) := dk_172 (dk_at dksX17_pair_3 1 rfl rfl)
abbrev cX17_undo : ByteArray := prog_24_method_92_code
def yX17_undo : MethodName := ⟨RX17, "undo", "()I"⟩
def dkwX17_undo_2 : List UInt8 := [79, 132, 1, 1, 167, 255, 227, 42, 180, 1, 129, 172]
abbrev dktX17_undo_2 : List UInt8 := dkwX17_undo_2 ++ []
def dkwX17_undo_1 : List UInt8 := [16, 122, 162, 0, 29, 42, 180, 0, 7, 27, 42, 180, 0, 72, 16, 122, 42, 180, 1, 129, 104, 27, 96, 46]
abbrev dktX17_undo_1 : List UInt8 := dkwX17_undo_1 ++ dktX17_undo_2
def dkwX17_undo_0 : List UInt8 := [42, 180, 1, 129, 154, 0, 6, 16, 252, 172, 42, 89, 180, 1, 129, 4, 100, 181, 1, 129, 3, 60, 27]
abbrev dktX17_undo_0 : List UInt8 := dkwX17_undo_0 ++ dktX17_undo_1
theorem dksX17_undo_0 : cX17_undo.data.toList.drop 0 = dktX17_undo_0 := by decide +kernel
theorem dksX17_undo_1 : cX17_undo.data.toList.drop 23 = dktX17_undo_1 := dk_seg dksX17_undo_0 23 rfl rfl
theorem dksX17_undo_2 : cX17_undo.data.toList.drop 47 = dktX17_undo_2 := dk_seg dksX17_undo_1 24 rfl rfl
theorem dX17_undo_0 : decode cX17_undo 0 = .ok (.aload_n 0, 1) := dk_42 (dk_at dksX17_undo_0 0 rfl rfl)
theorem dX17_undo_1 : decode cX17_undo 1 = .ok (.getfield 385, 3) := dk_180 1 129 (dk_at dksX17_undo_0 1 rfl rfl)
theorem dX17_undo_4 : decode cX17_undo 4 = .ok (.ifCond .ne 6, 3) := dk_154 0 6 (dk_at dksX17_undo_0 4 rfl rfl)
theorem dX17_undo_7 : decode cX17_undo 7 = .ok (.bipush (-4), 2) := dk_16 252 (dk_at dksX17_undo_0 7 rfl rfl)
theorem dX17_undo_9 : decode cX17_undo 9 = .ok (.ireturn, 1) := dk_172 (dk_at dksX17_undo_0 9 rfl rfl)
theorem dX17_undo_10 : decode cX17_undo 10 = .ok (.aload_n 0, 1) := dk_42 (dk_at dksX17_undo_0 10 rfl rfl)
theorem dX17_undo_11 : decode cX17_undo 11 = .ok (.dup, 1) := dk_89 (dk_at dksX17_undo_0 11 rfl rfl)
theorem dX17_undo_12 : decode cX17_undo 12 = .ok (.getfield 385, 3) := dk_180 1 129 (dk_at dksX17_undo_0 12 rfl rfl)
theorem dX17_undo_15 : decode cX17_undo 15 = .ok (.iconst 1, 1) := dk_4 (dk_at dksX17_undo_0 15 rfl rfl)
theorem dX17_undo_16 : decode cX17_undo 16 = .ok (.isub, 1) := dk_100 (dk_at dksX17_undo_0 16 rfl rfl)
theorem dX17_undo_17 : decode cX17_undo 17 = .ok (.putfield 385, 3) := dk_181 1 129 (dk_at dksX17_undo_0 17 rfl rfl)
theorem dX17_undo_20 : decode cX17_undo 20 = .ok (.iconst 0, 1) := dk_3 (dk_at dksX17_undo_0 20 rfl rfl)
theorem dX17_undo_21 : decode cX17_undo 21 = .ok (.istore_n 1, 1) := dk_60 (dk_at dksX17_undo_0 21 rfl rfl)
theorem dX17_undo_22 : decode cX17_undo 22 = .ok (.iload_n 1, 1) := dk_27 (dk_at dksX17_undo_0 22 rfl rfl)
theorem dX17_undo_23 : decode cX17_undo 23 = .ok (.bipush 122, 2) := dk_16 122 (dk_at dksX17_undo_1 0 rfl rfl)
theorem dX17_undo_25 : decode cX17_undo 25 = .ok (.if_icmp .ge 29, 3) := dk_162 0 29 (dk_at dksX17_undo_1 2 rfl rfl)
theorem dX17_undo_28 : decode cX17_undo 28 = .ok (.aload_n 0, 1) := dk_42 (dk_at dksX17_undo_1 5 rfl rfl)
theorem dX17_undo_29 : decode cX17_undo 29 = .ok (.getfield 7, 3) := dk_180 0 7 (dk_at dksX17_undo_1 6 rfl rfl)
theorem dX17_undo_32 : decode cX17_undo 32 = .ok (.iload_n 1, 1) := dk_27 (dk_at dksX17_undo_1 9 rfl rfl)
theorem dX17_undo_33 : decode cX17_undo 33 = .ok (.aload_n 0, 1) := dk_42 (dk_at dksX17_undo_1 10 rfl rfl)
theorem dX17_undo_34 : decode cX17_undo 34 = .ok (.getfield 72, 3) := dk_180 0 72 (dk_at dksX17_undo_1 11 rfl rfl)
theorem dX17_undo_37 : decode cX17_undo 37 = .ok (.bipush 122, 2) := dk_16 122 (dk_at dksX17_undo_1 14 rfl rfl)
theorem dX17_undo_39 : decode cX17_undo 39 = .ok (.aload_n 0, 1) := dk_42 (dk_at dksX17_undo_1 16 rfl rfl)
theorem dX17_undo_40 : decode cX17_undo 40 = .ok (.getfield 385, 3) := dk_180 1 129 (dk_at dksX17_undo_1 17 rfl rfl)
theorem dX17_undo_43 : decode cX17_undo 43 = .ok (.imul, 1) := dk_104 (dk_at dksX17_undo_1 20 rfl rfl)
theorem dX17_undo_44 : decode cX17_undo 44 = .ok (.iload_n 1, 1) := dk_27 (dk_at dksX17_undo_1 21 rfl rfl)
theorem dX17_undo_45 : decode cX17_undo 45 = .ok (.iadd, 1) := dk_96 (dk_at dksX17_undo_1 22 rfl rfl)
theorem dX17_undo_46 : decode cX17_undo 46 = .ok (.iaload, 1) := dk_46 (dk_at dksX17_undo_1 23 rfl rfl)
theorem dX17_undo_47 : decode cX17_undo 47 = .ok (.iastore, 1) := dk_79 (dk_at dksX17_undo_2 0 rfl rfl)
theorem dX17_undo_48 : decode cX17_undo 48 = .ok (.iinc 1 1, 3) := dk_132 1 1 (dk_at dksX17_undo_2 1 rfl rfl)
theorem dX17_undo_51 : decode cX17_undo 51 = .ok (.goto (-29), 3) := dk_167 255 227 (dk_at dksX17_undo_2 4 rfl rfl)
theorem dX17_undo_54 : decode cX17_undo 54 = .ok (.aload_n 0, 1) := dk_42 (dk_at dksX17_undo_2 7 rfl rfl)
theorem dX17_undo_55 : decode cX17_undo 55 = .ok (.getfield 385, 3) := dk_180 1 129 (dk_at dksX17_undo_2 8 rfl rfl)
theorem dX17_undo_58 : decode cX17_undo 58 = .ok (.ireturn, 1) := dk_172 (dk_at dksX17_undo_2 11 rfl rfl)
abbrev cX17_drift : ByteArray := prog_24_method_94_code
def yX17_drift : MethodName := ⟨RX17, "drift", "(I)I"⟩
def dkwX17_drift_5 : List UInt8 := [42, 180, 0, 7, 16, 120, 46, 172]
abbrev dktX17_drift_5 : List UInt8 := dkwX17_drift_5 ++ []
def dkwX17_drift_4 : List UInt8 := [167, 0, 18, 42, 21, 5, 7, 112, 21, 5, 16, 8, 108, 8, 112, 182, 1, 142, 132, 2, 1, 167, 255, 160]
abbrev dktX17_drift_4 : List UInt8 := dkwX17_drift_4 ++ dktX17_drift_5
def dkwX17_drift_3 : List UInt8 := [154, 0, 26, 42, 180, 0, 7, 16, 120, 42, 21, 5, 16, 8, 108, 17, 10, 16, 112, 182, 0, 169, 79]
abbrev dktX17_drift_3 : List UInt8 := dkwX17_drift_3 ++ dktX17_drift_4
def dkwX17_drift_2 : List UInt8 := [33, 20, 1, 140, 109, 136, 54, 5, 42, 180, 0, 7, 16, 121, 33, 136, 79, 21, 5, 16, 8, 112]
abbrev dktX17_drift_2 : List UInt8 := dkwX17_drift_2 ++ dktX17_drift_3
def dkwX17_drift_1 : List UInt8 := [182, 1, 53, 42, 180, 0, 7, 16, 121, 46, 133, 20, 1, 134, 105, 20, 1, 136, 97, 20, 1, 138, 113, 66]
abbrev dktX17_drift_1 : List UInt8 := dkwX17_drift_1 ++ dktX17_drift_2
def dkwX17_drift_0 : List UInt8 := [27, 133, 10, 20, 1, 132, 184, 0, 124, 154, 0, 5, 2, 172, 3, 61, 28, 27, 162, 0, 97, 42]
abbrev dktX17_drift_0 : List UInt8 := dkwX17_drift_0 ++ dktX17_drift_1
theorem dksX17_drift_0 : cX17_drift.data.toList.drop 0 = dktX17_drift_0 := by decide +kernel
theorem dksX17_drift_1 : cX17_drift.data.toList.drop 22 = dktX17_drift_1 := dk_seg dksX17_drift_0 22 rfl rfl
theorem dksX17_drift_2 : cX17_drift.data.toList.drop 46 = dktX17_drift_2 := dk_seg dksX17_drift_1 24 rfl rfl
theorem dksX17_drift_3 : cX17_drift.data.toList.drop 68 = dktX17_drift_3 := dk_seg dksX17_drift_2 22 rfl rfl
theorem dksX17_drift_4 : cX17_drift.data.toList.drop 91 = dktX17_drift_4 := dk_seg dksX17_drift_3 23 rfl rfl
theorem dksX17_drift_5 : cX17_drift.data.toList.drop 115 = dktX17_drift_5 := dk_seg dksX17_drift_4 24 rfl rfl
theorem dX17_drift_0 : decode cX17_drift 0 = .ok (.iload_n 1, 1) := dk_27 (dk_at dksX17_drift_0 0 rfl rfl)
theorem dX17_drift_1 : decode cX17_drift 1 = .ok (.i2l, 1) := dk_133 (dk_at dksX17_drift_0 1 rfl rfl)
theorem dX17_drift_2 : decode cX17_drift 2 = .ok (.lconst 1, 1) := dk_10 (dk_at dksX17_drift_0 2 rfl rfl)
theorem dX17_drift_3 : decode cX17_drift 3 = .ok (.ldc2_w 388, 3) := dk_20 1 132 (dk_at dksX17_drift_0 3 rfl rfl)
theorem dX17_drift_6 : decode cX17_drift 6 = .ok (.invokestatic 124, 3) := dk_184 0 124 (dk_at dksX17_drift_0 6 rfl rfl)
theorem dX17_drift_9 : decode cX17_drift 9 = .ok (.ifCond .ne 5, 3) := dk_154 0 5 (dk_at dksX17_drift_0 9 rfl rfl)
theorem dX17_drift_12 : decode cX17_drift 12 = .ok (.iconst (-1), 1) := dk_2 (dk_at dksX17_drift_0 12 rfl rfl)
theorem dX17_drift_13 : decode cX17_drift 13 = .ok (.ireturn, 1) := dk_172 (dk_at dksX17_drift_0 13 rfl rfl)
theorem dX17_drift_14 : decode cX17_drift 14 = .ok (.iconst 0, 1) := dk_3 (dk_at dksX17_drift_0 14 rfl rfl)
theorem dX17_drift_15 : decode cX17_drift 15 = .ok (.istore_n 2, 1) := dk_61 (dk_at dksX17_drift_0 15 rfl rfl)
theorem dX17_drift_16 : decode cX17_drift 16 = .ok (.iload_n 2, 1) := dk_28 (dk_at dksX17_drift_0 16 rfl rfl)
theorem dX17_drift_17 : decode cX17_drift 17 = .ok (.iload_n 1, 1) := dk_27 (dk_at dksX17_drift_0 17 rfl rfl)
theorem dX17_drift_18 : decode cX17_drift 18 = .ok (.if_icmp .ge 97, 3) := dk_162 0 97 (dk_at dksX17_drift_0 18 rfl rfl)
theorem dX17_drift_21 : decode cX17_drift 21 = .ok (.aload_n 0, 1) := dk_42 (dk_at dksX17_drift_0 21 rfl rfl)
theorem dX17_drift_22 : decode cX17_drift 22 = .ok (.invokevirtual 309, 3) := dk_182 1 53 (dk_at dksX17_drift_1 0 rfl rfl)
theorem dX17_drift_25 : decode cX17_drift 25 = .ok (.aload_n 0, 1) := dk_42 (dk_at dksX17_drift_1 3 rfl rfl)
theorem dX17_drift_26 : decode cX17_drift 26 = .ok (.getfield 7, 3) := dk_180 0 7 (dk_at dksX17_drift_1 4 rfl rfl)
theorem dX17_drift_29 : decode cX17_drift 29 = .ok (.bipush 121, 2) := dk_16 121 (dk_at dksX17_drift_1 7 rfl rfl)
theorem dX17_drift_31 : decode cX17_drift 31 = .ok (.iaload, 1) := dk_46 (dk_at dksX17_drift_1 9 rfl rfl)
theorem dX17_drift_32 : decode cX17_drift 32 = .ok (.i2l, 1) := dk_133 (dk_at dksX17_drift_1 10 rfl rfl)
theorem dX17_drift_33 : decode cX17_drift 33 = .ok (.ldc2_w 390, 3) := dk_20 1 134 (dk_at dksX17_drift_1 11 rfl rfl)
theorem dX17_drift_36 : decode cX17_drift 36 = .ok (.lmul, 1) := dk_105 (dk_at dksX17_drift_1 14 rfl rfl)
theorem dX17_drift_37 : decode cX17_drift 37 = .ok (.ldc2_w 392, 3) := dk_20 1 136 (dk_at dksX17_drift_1 15 rfl rfl)
theorem dX17_drift_40 : decode cX17_drift 40 = .ok (.ladd, 1) := dk_97 (dk_at dksX17_drift_1 18 rfl rfl)
theorem dX17_drift_41 : decode cX17_drift 41 = .ok (.ldc2_w 394, 3) := dk_20 1 138 (dk_at dksX17_drift_1 19 rfl rfl)
theorem dX17_drift_44 : decode cX17_drift 44 = .ok (.lrem, 1) := dk_113 (dk_at dksX17_drift_1 22 rfl rfl)
theorem dX17_drift_45 : decode cX17_drift 45 = .ok (.lstore_n 3, 1) := dk_66 (dk_at dksX17_drift_1 23 rfl rfl)
theorem dX17_drift_46 : decode cX17_drift 46 = .ok (.lload_n 3, 1) := dk_33 (dk_at dksX17_drift_2 0 rfl rfl)
theorem dX17_drift_47 : decode cX17_drift 47 = .ok (.ldc2_w 396, 3) := dk_20 1 140 (dk_at dksX17_drift_2 1 rfl rfl)
theorem dX17_drift_50 : decode cX17_drift 50 = .ok (.ldiv, 1) := dk_109 (dk_at dksX17_drift_2 4 rfl rfl)
theorem dX17_drift_51 : decode cX17_drift 51 = .ok (.l2i, 1) := dk_136 (dk_at dksX17_drift_2 5 rfl rfl)
theorem dX17_drift_52 : decode cX17_drift 52 = .ok (.istore 5, 2) := dk_54 5 (dk_at dksX17_drift_2 6 rfl rfl)
theorem dX17_drift_54 : decode cX17_drift 54 = .ok (.aload_n 0, 1) := dk_42 (dk_at dksX17_drift_2 8 rfl rfl)
theorem dX17_drift_55 : decode cX17_drift 55 = .ok (.getfield 7, 3) := dk_180 0 7 (dk_at dksX17_drift_2 9 rfl rfl)
theorem dX17_drift_58 : decode cX17_drift 58 = .ok (.bipush 121, 2) := dk_16 121 (dk_at dksX17_drift_2 12 rfl rfl)
theorem dX17_drift_60 : decode cX17_drift 60 = .ok (.lload_n 3, 1) := dk_33 (dk_at dksX17_drift_2 14 rfl rfl)
theorem dX17_drift_61 : decode cX17_drift 61 = .ok (.l2i, 1) := dk_136 (dk_at dksX17_drift_2 15 rfl rfl)
theorem dX17_drift_62 : decode cX17_drift 62 = .ok (.iastore, 1) := dk_79 (dk_at dksX17_drift_2 16 rfl rfl)
theorem dX17_drift_63 : decode cX17_drift 63 = .ok (.iload 5, 2) := dk_21 5 (dk_at dksX17_drift_2 17 rfl rfl)
theorem dX17_drift_65 : decode cX17_drift 65 = .ok (.bipush 8, 2) := dk_16 8 (dk_at dksX17_drift_2 19 rfl rfl)
theorem dX17_drift_67 : decode cX17_drift 67 = .ok (.irem, 1) := dk_112 (dk_at dksX17_drift_2 21 rfl rfl)
theorem dX17_drift_68 : decode cX17_drift 68 = .ok (.ifCond .ne 26, 3) := dk_154 0 26 (dk_at dksX17_drift_3 0 rfl rfl)
theorem dX17_drift_71 : decode cX17_drift 71 = .ok (.aload_n 0, 1) := dk_42 (dk_at dksX17_drift_3 3 rfl rfl)
theorem dX17_drift_72 : decode cX17_drift 72 = .ok (.getfield 7, 3) := dk_180 0 7 (dk_at dksX17_drift_3 4 rfl rfl)
theorem dX17_drift_75 : decode cX17_drift 75 = .ok (.bipush 120, 2) := dk_16 120 (dk_at dksX17_drift_3 7 rfl rfl)
theorem dX17_drift_77 : decode cX17_drift 77 = .ok (.aload_n 0, 1) := dk_42 (dk_at dksX17_drift_3 9 rfl rfl)
theorem dX17_drift_78 : decode cX17_drift 78 = .ok (.iload 5, 2) := dk_21 5 (dk_at dksX17_drift_3 10 rfl rfl)
theorem dX17_drift_80 : decode cX17_drift 80 = .ok (.bipush 8, 2) := dk_16 8 (dk_at dksX17_drift_3 12 rfl rfl)
theorem dX17_drift_82 : decode cX17_drift 82 = .ok (.idiv, 1) := dk_108 (dk_at dksX17_drift_3 14 rfl rfl)
theorem dX17_drift_83 : decode cX17_drift 83 = .ok (.sipush 2576, 3) := dk_17 10 16 (dk_at dksX17_drift_3 15 rfl rfl)
theorem dX17_drift_86 : decode cX17_drift 86 = .ok (.irem, 1) := dk_112 (dk_at dksX17_drift_3 18 rfl rfl)
theorem dX17_drift_87 : decode cX17_drift 87 = .ok (.invokevirtual 169, 3) := dk_182 0 169 (dk_at dksX17_drift_3 19 rfl rfl)
theorem dX17_drift_90 : decode cX17_drift 90 = .ok (.iastore, 1) := dk_79 (dk_at dksX17_drift_3 22 rfl rfl)
theorem dX17_drift_91 : decode cX17_drift 91 = .ok (.goto 18, 3) := dk_167 0 18 (dk_at dksX17_drift_4 0 rfl rfl)
theorem dX17_drift_94 : decode cX17_drift 94 = .ok (.aload_n 0, 1) := dk_42 (dk_at dksX17_drift_4 3 rfl rfl)
theorem dX17_drift_95 : decode cX17_drift 95 = .ok (.iload 5, 2) := dk_21 5 (dk_at dksX17_drift_4 4 rfl rfl)
theorem dX17_drift_97 : decode cX17_drift 97 = .ok (.iconst 4, 1) := dk_7 (dk_at dksX17_drift_4 6 rfl rfl)
theorem dX17_drift_98 : decode cX17_drift 98 = .ok (.irem, 1) := dk_112 (dk_at dksX17_drift_4 7 rfl rfl)
theorem dX17_drift_99 : decode cX17_drift 99 = .ok (.iload 5, 2) := dk_21 5 (dk_at dksX17_drift_4 8 rfl rfl)
theorem dX17_drift_101 : decode cX17_drift 101 = .ok (.bipush 8, 2) := dk_16 8 (dk_at dksX17_drift_4 10 rfl rfl)
theorem dX17_drift_103 : decode cX17_drift 103 = .ok (.idiv, 1) := dk_108 (dk_at dksX17_drift_4 12 rfl rfl)
theorem dX17_drift_104 : decode cX17_drift 104 = .ok (.iconst 5, 1) := dk_8 (dk_at dksX17_drift_4 13 rfl rfl)
theorem dX17_drift_105 : decode cX17_drift 105 = .ok (.irem, 1) := dk_112 (dk_at dksX17_drift_4 14 rfl rfl)
theorem dX17_drift_106 : decode cX17_drift 106 = .ok (.invokevirtual 398, 3) := dk_182 1 142 (dk_at dksX17_drift_4 15 rfl rfl)
theorem dX17_drift_109 : decode cX17_drift 109 = .ok (.iinc 2 1, 3) := dk_132 2 1 (dk_at dksX17_drift_4 18 rfl rfl)
theorem dX17_drift_112 : decode cX17_drift 112 = .ok (.goto (-96), 3) := dk_167 255 160 (dk_at dksX17_drift_4 21 rfl rfl)
theorem dX17_drift_115 : decode cX17_drift 115 = .ok (.aload_n 0, 1) := dk_42 (dk_at dksX17_drift_5 0 rfl rfl)
theorem dX17_drift_116 : decode cX17_drift 116 = .ok (.getfield 7, 3) := dk_180 0 7 (dk_at dksX17_drift_5 1 rfl rfl)
theorem dX17_drift_119 : decode cX17_drift 119 = .ok (.bipush 120, 2) := dk_16 120 (dk_at dksX17_drift_5 4 rfl rfl)
theorem dX17_drift_121 : decode cX17_drift 121 = .ok (.iaload, 1) := dk_46 (dk_at dksX17_drift_5 6 rfl rfl)
theorem dX17_drift_122 : decode cX17_drift 122 = .ok (.ireturn, 1) := dk_172 (dk_at dksX17_drift_5 7 rfl rfl)
abbrev cX17_doubles : ByteArray := prog_24_method_93_code
def yX17_doubles : MethodName := ⟨RX17, "doubles", "(II)V"⟩
def dkwX17_doubles_2 : List UInt8 := [96, 42, 180, 0, 37, 29, 46, 79, 132, 3, 1, 167, 255, 230, 177]
abbrev dktX17_doubles_2 : List UInt8 := dkwX17_doubles_2 ++ []
def dkwX17_doubles_1 : List UInt8 := [79, 132, 3, 1, 167, 255, 230, 3, 62, 29, 16, 24, 162, 0, 26, 42, 180, 0, 7, 16, 24, 27, 104, 29]
abbrev dktX17_doubles_1 : List UInt8 := dkwX17_doubles_1 ++ dktX17_doubles_2
def dkwX17_doubles_0 : List UInt8 := [3, 62, 29, 16, 24, 162, 0, 26, 42, 180, 0, 37, 29, 42, 28, 42, 27, 29, 182, 0, 195, 182, 0, 195]
abbrev dktX17_doubles_0 : List UInt8 := dkwX17_doubles_0 ++ dktX17_doubles_1
theorem dksX17_doubles_0 : cX17_doubles.data.toList.drop 0 = dktX17_doubles_0 := by decide +kernel
theorem dksX17_doubles_1 : cX17_doubles.data.toList.drop 24 = dktX17_doubles_1 := dk_seg dksX17_doubles_0 24 rfl rfl
theorem dksX17_doubles_2 : cX17_doubles.data.toList.drop 48 = dktX17_doubles_2 := dk_seg dksX17_doubles_1 24 rfl rfl
theorem dX17_doubles_0 : decode cX17_doubles 0 = .ok (.iconst 0, 1) := dk_3 (dk_at dksX17_doubles_0 0 rfl rfl)
theorem dX17_doubles_1 : decode cX17_doubles 1 = .ok (.istore_n 3, 1) := dk_62 (dk_at dksX17_doubles_0 1 rfl rfl)
theorem dX17_doubles_2 : decode cX17_doubles 2 = .ok (.iload_n 3, 1) := dk_29 (dk_at dksX17_doubles_0 2 rfl rfl)
theorem dX17_doubles_3 : decode cX17_doubles 3 = .ok (.bipush 24, 2) := dk_16 24 (dk_at dksX17_doubles_0 3 rfl rfl)
theorem dX17_doubles_5 : decode cX17_doubles 5 = .ok (.if_icmp .ge 26, 3) := dk_162 0 26 (dk_at dksX17_doubles_0 5 rfl rfl)
theorem dX17_doubles_8 : decode cX17_doubles 8 = .ok (.aload_n 0, 1) := dk_42 (dk_at dksX17_doubles_0 8 rfl rfl)
theorem dX17_doubles_9 : decode cX17_doubles 9 = .ok (.getfield 37, 3) := dk_180 0 37 (dk_at dksX17_doubles_0 9 rfl rfl)
theorem dX17_doubles_12 : decode cX17_doubles 12 = .ok (.iload_n 3, 1) := dk_29 (dk_at dksX17_doubles_0 12 rfl rfl)
theorem dX17_doubles_13 : decode cX17_doubles 13 = .ok (.aload_n 0, 1) := dk_42 (dk_at dksX17_doubles_0 13 rfl rfl)
theorem dX17_doubles_14 : decode cX17_doubles 14 = .ok (.iload_n 2, 1) := dk_28 (dk_at dksX17_doubles_0 14 rfl rfl)
theorem dX17_doubles_15 : decode cX17_doubles 15 = .ok (.aload_n 0, 1) := dk_42 (dk_at dksX17_doubles_0 15 rfl rfl)
theorem dX17_doubles_16 : decode cX17_doubles 16 = .ok (.iload_n 1, 1) := dk_27 (dk_at dksX17_doubles_0 16 rfl rfl)
theorem dX17_doubles_17 : decode cX17_doubles 17 = .ok (.iload_n 3, 1) := dk_29 (dk_at dksX17_doubles_0 17 rfl rfl)
theorem dX17_doubles_18 : decode cX17_doubles 18 = .ok (.invokevirtual 195, 3) := dk_182 0 195 (dk_at dksX17_doubles_0 18 rfl rfl)
theorem dX17_doubles_21 : decode cX17_doubles 21 = .ok (.invokevirtual 195, 3) := dk_182 0 195 (dk_at dksX17_doubles_0 21 rfl rfl)
theorem dX17_doubles_24 : decode cX17_doubles 24 = .ok (.iastore, 1) := dk_79 (dk_at dksX17_doubles_1 0 rfl rfl)
theorem dX17_doubles_25 : decode cX17_doubles 25 = .ok (.iinc 3 1, 3) := dk_132 3 1 (dk_at dksX17_doubles_1 1 rfl rfl)
theorem dX17_doubles_28 : decode cX17_doubles 28 = .ok (.goto (-26), 3) := dk_167 255 230 (dk_at dksX17_doubles_1 4 rfl rfl)
theorem dX17_doubles_31 : decode cX17_doubles 31 = .ok (.iconst 0, 1) := dk_3 (dk_at dksX17_doubles_1 7 rfl rfl)
theorem dX17_doubles_32 : decode cX17_doubles 32 = .ok (.istore_n 3, 1) := dk_62 (dk_at dksX17_doubles_1 8 rfl rfl)
theorem dX17_doubles_33 : decode cX17_doubles 33 = .ok (.iload_n 3, 1) := dk_29 (dk_at dksX17_doubles_1 9 rfl rfl)
theorem dX17_doubles_34 : decode cX17_doubles 34 = .ok (.bipush 24, 2) := dk_16 24 (dk_at dksX17_doubles_1 10 rfl rfl)
theorem dX17_doubles_36 : decode cX17_doubles 36 = .ok (.if_icmp .ge 26, 3) := dk_162 0 26 (dk_at dksX17_doubles_1 12 rfl rfl)
theorem dX17_doubles_39 : decode cX17_doubles 39 = .ok (.aload_n 0, 1) := dk_42 (dk_at dksX17_doubles_1 15 rfl rfl)
theorem dX17_doubles_40 : decode cX17_doubles 40 = .ok (.getfield 7, 3) := dk_180 0 7 (dk_at dksX17_doubles_1 16 rfl rfl)
theorem dX17_doubles_43 : decode cX17_doubles 43 = .ok (.bipush 24, 2) := dk_16 24 (dk_at dksX17_doubles_1 19 rfl rfl)
theorem dX17_doubles_45 : decode cX17_doubles 45 = .ok (.iload_n 1, 1) := dk_27 (dk_at dksX17_doubles_1 21 rfl rfl)
theorem dX17_doubles_46 : decode cX17_doubles 46 = .ok (.imul, 1) := dk_104 (dk_at dksX17_doubles_1 22 rfl rfl)
theorem dX17_doubles_47 : decode cX17_doubles 47 = .ok (.iload_n 3, 1) := dk_29 (dk_at dksX17_doubles_1 23 rfl rfl)
theorem dX17_doubles_48 : decode cX17_doubles 48 = .ok (.iadd, 1) := dk_96 (dk_at dksX17_doubles_2 0 rfl rfl)
theorem dX17_doubles_49 : decode cX17_doubles 49 = .ok (.aload_n 0, 1) := dk_42 (dk_at dksX17_doubles_2 1 rfl rfl)
theorem dX17_doubles_50 : decode cX17_doubles 50 = .ok (.getfield 37, 3) := dk_180 0 37 (dk_at dksX17_doubles_2 2 rfl rfl)
theorem dX17_doubles_53 : decode cX17_doubles 53 = .ok (.iload_n 3, 1) := dk_29 (dk_at dksX17_doubles_2 5 rfl rfl)
theorem dX17_doubles_54 : decode cX17_doubles 54 = .ok (.iaload, 1) := dk_46 (dk_at dksX17_doubles_2 6 rfl rfl)
theorem dX17_doubles_55 : decode cX17_doubles 55 = .ok (.iastore, 1) := dk_79 (dk_at dksX17_doubles_2 7 rfl rfl)
theorem dX17_doubles_56 : decode cX17_doubles 56 = .ok (.iinc 3 1, 3) := dk_132 3 1 (dk_at dksX17_doubles_2 8 rfl rfl)
theorem dX17_doubles_59 : decode cX17_doubles 59 = .ok (.goto (-26), 3) := dk_167 255 230 (dk_at dksX17_doubles_2 11 rfl rfl)
theorem dX17_doubles_62 : decode cX17_doubles 62 = .ok (.return_, 1) := dk_177 (dk_at dksX17_doubles_2 14 rfl rfl)
abbrev cX17_seed : ByteArray := prog_24_method_95_code
def yX17_seed : MethodName := ⟨RX17, "seed", "(I)I"⟩
def dkwX17_seed_0 : List UInt8 := [27, 156, 0, 5, 2, 172, 42, 180, 0, 7, 16, 121, 46, 61, 42, 180, 0, 7, 16, 121, 27, 79, 28, 172]
abbrev dktX17_seed_0 : List UInt8 := dkwX17_seed_0 ++ []
theorem dksX17_seed_0 : cX17_seed.data.toList.drop 0 = dktX17_seed_0 := by decide +kernel
theorem dX17_seed_0 : decode cX17_seed 0 = .ok (.iload_n 1, 1) := dk_27 (dk_at dksX17_seed_0 0 rfl rfl)
theorem dX17_seed_1 : decode cX17_seed 1 = .ok (.ifCond .ge 5, 3) := dk_156 0 5 (dk_at dksX17_seed_0 1 rfl rfl)
theorem dX17_seed_4 : decode cX17_seed 4 = .ok (.iconst (-1), 1) := dk_2 (dk_at dksX17_seed_0 4 rfl rfl)
theorem dX17_seed_5 : decode cX17_seed 5 = .ok (.ireturn, 1) := dk_172 (dk_at dksX17_seed_0 5 rfl rfl)
theorem dX17_seed_6 : decode cX17_seed 6 = .ok (.aload_n 0, 1) := dk_42 (dk_at dksX17_seed_0 6 rfl rfl)
theorem dX17_seed_7 : decode cX17_seed 7 = .ok (.getfield 7, 3) := dk_180 0 7 (dk_at dksX17_seed_0 7 rfl rfl)
theorem dX17_seed_10 : decode cX17_seed 10 = .ok (.bipush 121, 2) := dk_16 121 (dk_at dksX17_seed_0 10 rfl rfl)
theorem dX17_seed_12 : decode cX17_seed 12 = .ok (.iaload, 1) := dk_46 (dk_at dksX17_seed_0 12 rfl rfl)
theorem dX17_seed_13 : decode cX17_seed 13 = .ok (.istore_n 2, 1) := dk_61 (dk_at dksX17_seed_0 13 rfl rfl)
theorem dX17_seed_14 : decode cX17_seed 14 = .ok (.aload_n 0, 1) := dk_42 (dk_at dksX17_seed_0 14 rfl rfl)
theorem dX17_seed_15 : decode cX17_seed 15 = .ok (.getfield 7, 3) := dk_180 0 7 (dk_at dksX17_seed_0 15 rfl rfl)
theorem dX17_seed_18 : decode cX17_seed 18 = .ok (.bipush 121, 2) := dk_16 121 (dk_at dksX17_seed_0 18 rfl rfl)
theorem dX17_seed_20 : decode cX17_seed 20 = .ok (.iload_n 1, 1) := dk_27 (dk_at dksX17_seed_0 20 rfl rfl)
theorem dX17_seed_21 : decode cX17_seed 21 = .ok (.iastore, 1) := dk_79 (dk_at dksX17_seed_0 21 rfl rfl)
theorem dX17_seed_22 : decode cX17_seed 22 = .ok (.iload_n 2, 1) := dk_28 (dk_at dksX17_seed_0 22 rfl rfl)
theorem dX17_seed_23 : decode cX17_seed 23 = .ok (.ireturn, 1) := dk_172 (dk_at dksX17_seed_0 23 rfl rfl)
abbrev cX17_count : ByteArray := prog_24_method_96_code
def yX17_count : MethodName := ⟨RX17, "count", "(I)I"⟩
def dkwX17_count_4 : List UInt8 := [180, 0, 81, 156, 0, 7, 3, 167, 0, 4, 4, 172, 2, 172]
abbrev dktX17_count_4 : List UInt8 := dkwX17_count_4 ++ []
def dkwX17_count_3 : List UInt8 := [182, 0, 217, 153, 0, 9, 4, 29, 120, 167, 0, 4, 3, 128, 61, 132, 3, 1, 167, 255, 230, 28, 172, 42]
abbrev dktX17_count_3 : List UInt8 := dkwX17_count_3 ++ dktX17_count_4
def dkwX17_count_2 : List UInt8 := [42, 180, 0, 7, 16, 120, 46, 172, 42, 180, 1, 129, 172, 3, 62, 29, 8, 162, 0, 27, 28, 42, 29]
abbrev dktX17_count_2 : List UInt8 := dkwX17_count_2 ++ dktX17_count_3
def dkwX17_count_1 : List UInt8 := [170, 0, 0, 0, 88, 0, 0, 0, 0, 0, 0, 0, 3, 0, 0, 0, 29, 0, 0, 0, 37, 0, 0, 0, 42, 0, 0, 0, 75]
abbrev dktX17_count_1 : List UInt8 := dkwX17_count_1 ++ dktX17_count_2
def dkwX17_count_0 : List UInt8 := [3, 61, 27]
abbrev dktX17_count_0 : List UInt8 := dkwX17_count_0 ++ dktX17_count_1
theorem dksX17_count_0 : cX17_count.data.toList.drop 0 = dktX17_count_0 := by decide +kernel
theorem dksX17_count_1 : cX17_count.data.toList.drop 3 = dktX17_count_1 := dk_seg dksX17_count_0 3 rfl rfl
theorem dksX17_count_2 : cX17_count.data.toList.drop 32 = dktX17_count_2 := dk_seg dksX17_count_1 29 rfl rfl
theorem dksX17_count_3 : cX17_count.data.toList.drop 55 = dktX17_count_3 := dk_seg dksX17_count_2 23 rfl rfl
theorem dksX17_count_4 : cX17_count.data.toList.drop 79 = dktX17_count_4 := dk_seg dksX17_count_3 24 rfl rfl
theorem dX17_count_0 : decode cX17_count 0 = .ok (.iconst 0, 1) := dk_3 (dk_at dksX17_count_0 0 rfl rfl)
theorem dX17_count_1 : decode cX17_count 1 = .ok (.istore_n 2, 1) := dk_61 (dk_at dksX17_count_0 1 rfl rfl)
theorem dX17_count_2 : decode cX17_count 2 = .ok (.iload_n 1, 1) := dk_27 (dk_at dksX17_count_0 2 rfl rfl)
theorem dX17_count_3 : decode cX17_count 3 = .ok (.tableswitch 88 0 3 #[29, 37, 42, 75], 29) := by decide +kernel
theorem dX17_count_32 : decode cX17_count 32 = .ok (.aload_n 0, 1) := dk_42 (dk_at dksX17_count_2 0 rfl rfl)
theorem dX17_count_33 : decode cX17_count 33 = .ok (.getfield 7, 3) := dk_180 0 7 (dk_at dksX17_count_2 1 rfl rfl)
theorem dX17_count_36 : decode cX17_count 36 = .ok (.bipush 120, 2) := dk_16 120 (dk_at dksX17_count_2 4 rfl rfl)
theorem dX17_count_38 : decode cX17_count 38 = .ok (.iaload, 1) := dk_46 (dk_at dksX17_count_2 6 rfl rfl)
theorem dX17_count_39 : decode cX17_count 39 = .ok (.ireturn, 1) := dk_172 (dk_at dksX17_count_2 7 rfl rfl)
theorem dX17_count_40 : decode cX17_count 40 = .ok (.aload_n 0, 1) := dk_42 (dk_at dksX17_count_2 8 rfl rfl)
theorem dX17_count_41 : decode cX17_count 41 = .ok (.getfield 385, 3) := dk_180 1 129 (dk_at dksX17_count_2 9 rfl rfl)
theorem dX17_count_44 : decode cX17_count 44 = .ok (.ireturn, 1) := dk_172 (dk_at dksX17_count_2 12 rfl rfl)
theorem dX17_count_45 : decode cX17_count 45 = .ok (.iconst 0, 1) := dk_3 (dk_at dksX17_count_2 13 rfl rfl)
theorem dX17_count_46 : decode cX17_count 46 = .ok (.istore_n 3, 1) := dk_62 (dk_at dksX17_count_2 14 rfl rfl)
theorem dX17_count_47 : decode cX17_count 47 = .ok (.iload_n 3, 1) := dk_29 (dk_at dksX17_count_2 15 rfl rfl)
theorem dX17_count_48 : decode cX17_count 48 = .ok (.iconst 5, 1) := dk_8 (dk_at dksX17_count_2 16 rfl rfl)
theorem dX17_count_49 : decode cX17_count 49 = .ok (.if_icmp .ge 27, 3) := dk_162 0 27 (dk_at dksX17_count_2 17 rfl rfl)
theorem dX17_count_52 : decode cX17_count 52 = .ok (.iload_n 2, 1) := dk_28 (dk_at dksX17_count_2 20 rfl rfl)
theorem dX17_count_53 : decode cX17_count 53 = .ok (.aload_n 0, 1) := dk_42 (dk_at dksX17_count_2 21 rfl rfl)
theorem dX17_count_54 : decode cX17_count 54 = .ok (.iload_n 3, 1) := dk_29 (dk_at dksX17_count_2 22 rfl rfl)
theorem dX17_count_55 : decode cX17_count 55 = .ok (.invokevirtual 217, 3) := dk_182 0 217 (dk_at dksX17_count_3 0 rfl rfl)
theorem dX17_count_58 : decode cX17_count 58 = .ok (.ifCond .eq 9, 3) := dk_153 0 9 (dk_at dksX17_count_3 3 rfl rfl)
theorem dX17_count_61 : decode cX17_count 61 = .ok (.iconst 1, 1) := dk_4 (dk_at dksX17_count_3 6 rfl rfl)
theorem dX17_count_62 : decode cX17_count 62 = .ok (.iload_n 3, 1) := dk_29 (dk_at dksX17_count_3 7 rfl rfl)
theorem dX17_count_63 : decode cX17_count 63 = .ok (.ishl, 1) := dk_120 (dk_at dksX17_count_3 8 rfl rfl)
theorem dX17_count_64 : decode cX17_count 64 = .ok (.goto 4, 3) := dk_167 0 4 (dk_at dksX17_count_3 9 rfl rfl)
theorem dX17_count_67 : decode cX17_count 67 = .ok (.iconst 0, 1) := dk_3 (dk_at dksX17_count_3 12 rfl rfl)
theorem dX17_count_68 : decode cX17_count 68 = .ok (.ior, 1) := dk_128 (dk_at dksX17_count_3 13 rfl rfl)
theorem dX17_count_69 : decode cX17_count 69 = .ok (.istore_n 2, 1) := dk_61 (dk_at dksX17_count_3 14 rfl rfl)
theorem dX17_count_70 : decode cX17_count 70 = .ok (.iinc 3 1, 3) := dk_132 3 1 (dk_at dksX17_count_3 15 rfl rfl)
theorem dX17_count_73 : decode cX17_count 73 = .ok (.goto (-26), 3) := dk_167 255 230 (dk_at dksX17_count_3 18 rfl rfl)
theorem dX17_count_76 : decode cX17_count 76 = .ok (.iload_n 2, 1) := dk_28 (dk_at dksX17_count_3 21 rfl rfl)
theorem dX17_count_77 : decode cX17_count 77 = .ok (.ireturn, 1) := dk_172 (dk_at dksX17_count_3 22 rfl rfl)
theorem dX17_count_78 : decode cX17_count 78 = .ok (.aload_n 0, 1) := dk_42 (dk_at dksX17_count_3 23 rfl rfl)
theorem dX17_count_79 : decode cX17_count 79 = .ok (.getfield 81, 3) := dk_180 0 81 (dk_at dksX17_count_4 0 rfl rfl)
theorem dX17_count_82 : decode cX17_count 82 = .ok (.ifCond .ge 7, 3) := dk_156 0 7 (dk_at dksX17_count_4 3 rfl rfl)
theorem dX17_count_85 : decode cX17_count 85 = .ok (.iconst 0, 1) := dk_3 (dk_at dksX17_count_4 6 rfl rfl)
theorem dX17_count_86 : decode cX17_count 86 = .ok (.goto 4, 3) := dk_167 0 4 (dk_at dksX17_count_4 7 rfl rfl)
theorem dX17_count_89 : decode cX17_count 89 = .ok (.iconst 1, 1) := dk_4 (dk_at dksX17_count_4 10 rfl rfl)
theorem dX17_count_90 : decode cX17_count 90 = .ok (.ireturn, 1) := dk_172 (dk_at dksX17_count_4 11 rfl rfl)
theorem dX17_count_91 : decode cX17_count 91 = .ok (.iconst (-1), 1) := dk_2 (dk_at dksX17_count_4 12 rfl rfl)
theorem dX17_count_92 : decode cX17_count 92 = .ok (.ireturn, 1) := dk_172 (dk_at dksX17_count_4 13 rfl rfl)
abbrev cX17_image : ByteArray := prog_24_method_97_code
def yX17_image : MethodName := ⟨RX17, "image", "()I"⟩
def dkwX17_image_2 : List UInt8 := [132, 1, 1, 167, 255, 234, 42, 42, 180, 1, 129, 181, 0, 81, 4, 172]
abbrev dktX17_image_2 : List UInt8 := dkwX17_image_2 ++ []
def dkwX17_image_1 : List UInt8 := [167, 255, 235, 3, 60, 27, 17, 2, 220, 162, 0, 21, 42, 180, 0, 78, 27, 42, 180, 0, 72, 27, 46, 79]
abbrev dktX17_image_1 : List UInt8 := dkwX17_image_1 ++ dktX17_image_2
def dkwX17_image_0 : List UInt8 := [3, 60, 27, 16, 122, 162, 0, 21, 42, 180, 0, 75, 27, 42, 180, 0, 7, 27, 46, 79, 132, 1, 1]
abbrev dktX17_image_0 : List UInt8 := dkwX17_image_0 ++ dktX17_image_1
theorem dksX17_image_0 : cX17_image.data.toList.drop 0 = dktX17_image_0 := by decide +kernel
theorem dksX17_image_1 : cX17_image.data.toList.drop 23 = dktX17_image_1 := dk_seg dksX17_image_0 23 rfl rfl
theorem dksX17_image_2 : cX17_image.data.toList.drop 47 = dktX17_image_2 := dk_seg dksX17_image_1 24 rfl rfl
theorem dX17_image_0 : decode cX17_image 0 = .ok (.iconst 0, 1) := dk_3 (dk_at dksX17_image_0 0 rfl rfl)
theorem dX17_image_1 : decode cX17_image 1 = .ok (.istore_n 1, 1) := dk_60 (dk_at dksX17_image_0 1 rfl rfl)
theorem dX17_image_2 : decode cX17_image 2 = .ok (.iload_n 1, 1) := dk_27 (dk_at dksX17_image_0 2 rfl rfl)
theorem dX17_image_3 : decode cX17_image 3 = .ok (.bipush 122, 2) := dk_16 122 (dk_at dksX17_image_0 3 rfl rfl)
theorem dX17_image_5 : decode cX17_image 5 = .ok (.if_icmp .ge 21, 3) := dk_162 0 21 (dk_at dksX17_image_0 5 rfl rfl)
theorem dX17_image_8 : decode cX17_image 8 = .ok (.aload_n 0, 1) := dk_42 (dk_at dksX17_image_0 8 rfl rfl)
theorem dX17_image_9 : decode cX17_image 9 = .ok (.getfield 75, 3) := dk_180 0 75 (dk_at dksX17_image_0 9 rfl rfl)
theorem dX17_image_12 : decode cX17_image 12 = .ok (.iload_n 1, 1) := dk_27 (dk_at dksX17_image_0 12 rfl rfl)
theorem dX17_image_13 : decode cX17_image 13 = .ok (.aload_n 0, 1) := dk_42 (dk_at dksX17_image_0 13 rfl rfl)
theorem dX17_image_14 : decode cX17_image 14 = .ok (.getfield 7, 3) := dk_180 0 7 (dk_at dksX17_image_0 14 rfl rfl)
theorem dX17_image_17 : decode cX17_image 17 = .ok (.iload_n 1, 1) := dk_27 (dk_at dksX17_image_0 17 rfl rfl)
theorem dX17_image_18 : decode cX17_image 18 = .ok (.iaload, 1) := dk_46 (dk_at dksX17_image_0 18 rfl rfl)
theorem dX17_image_19 : decode cX17_image 19 = .ok (.iastore, 1) := dk_79 (dk_at dksX17_image_0 19 rfl rfl)
theorem dX17_image_20 : decode cX17_image 20 = .ok (.iinc 1 1, 3) := dk_132 1 1 (dk_at dksX17_image_0 20 rfl rfl)
theorem dX17_image_23 : decode cX17_image 23 = .ok (.goto (-21), 3) := dk_167 255 235 (dk_at dksX17_image_1 0 rfl rfl)
theorem dX17_image_26 : decode cX17_image 26 = .ok (.iconst 0, 1) := dk_3 (dk_at dksX17_image_1 3 rfl rfl)
theorem dX17_image_27 : decode cX17_image 27 = .ok (.istore_n 1, 1) := dk_60 (dk_at dksX17_image_1 4 rfl rfl)
theorem dX17_image_28 : decode cX17_image 28 = .ok (.iload_n 1, 1) := dk_27 (dk_at dksX17_image_1 5 rfl rfl)
theorem dX17_image_29 : decode cX17_image 29 = .ok (.sipush 732, 3) := dk_17 2 220 (dk_at dksX17_image_1 6 rfl rfl)
theorem dX17_image_32 : decode cX17_image 32 = .ok (.if_icmp .ge 21, 3) := dk_162 0 21 (dk_at dksX17_image_1 9 rfl rfl)
theorem dX17_image_35 : decode cX17_image 35 = .ok (.aload_n 0, 1) := dk_42 (dk_at dksX17_image_1 12 rfl rfl)
theorem dX17_image_36 : decode cX17_image 36 = .ok (.getfield 78, 3) := dk_180 0 78 (dk_at dksX17_image_1 13 rfl rfl)
theorem dX17_image_39 : decode cX17_image 39 = .ok (.iload_n 1, 1) := dk_27 (dk_at dksX17_image_1 16 rfl rfl)
theorem dX17_image_40 : decode cX17_image 40 = .ok (.aload_n 0, 1) := dk_42 (dk_at dksX17_image_1 17 rfl rfl)
theorem dX17_image_41 : decode cX17_image 41 = .ok (.getfield 72, 3) := dk_180 0 72 (dk_at dksX17_image_1 18 rfl rfl)
theorem dX17_image_44 : decode cX17_image 44 = .ok (.iload_n 1, 1) := dk_27 (dk_at dksX17_image_1 21 rfl rfl)
theorem dX17_image_45 : decode cX17_image 45 = .ok (.iaload, 1) := dk_46 (dk_at dksX17_image_1 22 rfl rfl)
theorem dX17_image_46 : decode cX17_image 46 = .ok (.iastore, 1) := dk_79 (dk_at dksX17_image_1 23 rfl rfl)
theorem dX17_image_47 : decode cX17_image 47 = .ok (.iinc 1 1, 3) := dk_132 1 1 (dk_at dksX17_image_2 0 rfl rfl)
theorem dX17_image_50 : decode cX17_image 50 = .ok (.goto (-22), 3) := dk_167 255 234 (dk_at dksX17_image_2 3 rfl rfl)
theorem dX17_image_53 : decode cX17_image 53 = .ok (.aload_n 0, 1) := dk_42 (dk_at dksX17_image_2 6 rfl rfl)
theorem dX17_image_54 : decode cX17_image 54 = .ok (.aload_n 0, 1) := dk_42 (dk_at dksX17_image_2 7 rfl rfl)
theorem dX17_image_55 : decode cX17_image 55 = .ok (.getfield 385, 3) := dk_180 1 129 (dk_at dksX17_image_2 8 rfl rfl)
theorem dX17_image_58 : decode cX17_image 58 = .ok (.putfield 81, 3) := dk_181 0 81 (dk_at dksX17_image_2 11 rfl rfl)
theorem dX17_image_61 : decode cX17_image 61 = .ok (.iconst 1, 1) := dk_4 (dk_at dksX17_image_2 14 rfl rfl)
theorem dX17_image_62 : decode cX17_image 62 = .ok (.ireturn, 1) := dk_172 (dk_at dksX17_image_2 15 rfl rfl)
abbrev cX17_restore : ByteArray := prog_24_method_98_code
def yX17_restore : MethodName := ⟨RX17, "restore", "()I"⟩
def dkwX17_restore_3 : List UInt8 := [181, 1, 129, 4, 172]
abbrev dktX17_restore_3 : List UInt8 := dkwX17_restore_3 ++ []
def dkwX17_restore_2 : List UInt8 := [180, 0, 72, 27, 42, 180, 0, 78, 27, 46, 79, 132, 1, 1, 167, 255, 234, 42, 42, 180, 0, 81]
abbrev dktX17_restore_2 : List UInt8 := dkwX17_restore_2 ++ dktX17_restore_3
def dkwX17_restore_1 : List UInt8 := [180, 0, 75, 27, 46, 79, 132, 1, 1, 167, 255, 235, 3, 60, 27, 17, 2, 220, 162, 0, 21, 42]
abbrev dktX17_restore_1 : List UInt8 := dkwX17_restore_1 ++ dktX17_restore_2
def dkwX17_restore_0 : List UInt8 := [42, 180, 0, 81, 156, 0, 6, 16, 252, 172, 3, 60, 27, 16, 122, 162, 0, 21, 42, 180, 0, 7, 27, 42]
abbrev dktX17_restore_0 : List UInt8 := dkwX17_restore_0 ++ dktX17_restore_1
theorem dksX17_restore_0 : cX17_restore.data.toList.drop 0 = dktX17_restore_0 := by decide +kernel
theorem dksX17_restore_1 : cX17_restore.data.toList.drop 24 = dktX17_restore_1 := dk_seg dksX17_restore_0 24 rfl rfl
theorem dksX17_restore_2 : cX17_restore.data.toList.drop 46 = dktX17_restore_2 := dk_seg dksX17_restore_1 22 rfl rfl
theorem dksX17_restore_3 : cX17_restore.data.toList.drop 68 = dktX17_restore_3 := dk_seg dksX17_restore_2 22 rfl rfl
theorem dX17_restore_0 : decode cX17_restore 0 = .ok (.aload_n 0, 1) := dk_42 (dk_at dksX17_restore_0 0 rfl rfl)
theorem dX17_restore_1 : decode cX17_restore 1 = .ok (.getfield 81, 3) := dk_180 0 81 (dk_at dksX17_restore_0 1 rfl rfl)
theorem dX17_restore_4 : decode cX17_restore 4 = .ok (.ifCond .ge 6, 3) := dk_156 0 6 (dk_at dksX17_restore_0 4 rfl rfl)
theorem dX17_restore_7 : decode cX17_restore 7 = .ok (.bipush (-4), 2) := dk_16 252 (dk_at dksX17_restore_0 7 rfl rfl)
theorem dX17_restore_9 : decode cX17_restore 9 = .ok (.ireturn, 1) := dk_172 (dk_at dksX17_restore_0 9 rfl rfl)
theorem dX17_restore_10 : decode cX17_restore 10 = .ok (.iconst 0, 1) := dk_3 (dk_at dksX17_restore_0 10 rfl rfl)
theorem dX17_restore_11 : decode cX17_restore 11 = .ok (.istore_n 1, 1) := dk_60 (dk_at dksX17_restore_0 11 rfl rfl)
theorem dX17_restore_12 : decode cX17_restore 12 = .ok (.iload_n 1, 1) := dk_27 (dk_at dksX17_restore_0 12 rfl rfl)
theorem dX17_restore_13 : decode cX17_restore 13 = .ok (.bipush 122, 2) := dk_16 122 (dk_at dksX17_restore_0 13 rfl rfl)
theorem dX17_restore_15 : decode cX17_restore 15 = .ok (.if_icmp .ge 21, 3) := dk_162 0 21 (dk_at dksX17_restore_0 15 rfl rfl)
theorem dX17_restore_18 : decode cX17_restore 18 = .ok (.aload_n 0, 1) := dk_42 (dk_at dksX17_restore_0 18 rfl rfl)
theorem dX17_restore_19 : decode cX17_restore 19 = .ok (.getfield 7, 3) := dk_180 0 7 (dk_at dksX17_restore_0 19 rfl rfl)
theorem dX17_restore_22 : decode cX17_restore 22 = .ok (.iload_n 1, 1) := dk_27 (dk_at dksX17_restore_0 22 rfl rfl)
theorem dX17_restore_23 : decode cX17_restore 23 = .ok (.aload_n 0, 1) := dk_42 (dk_at dksX17_restore_0 23 rfl rfl)
theorem dX17_restore_24 : decode cX17_restore 24 = .ok (.getfield 75, 3) := dk_180 0 75 (dk_at dksX17_restore_1 0 rfl rfl)
theorem dX17_restore_27 : decode cX17_restore 27 = .ok (.iload_n 1, 1) := dk_27 (dk_at dksX17_restore_1 3 rfl rfl)
theorem dX17_restore_28 : decode cX17_restore 28 = .ok (.iaload, 1) := dk_46 (dk_at dksX17_restore_1 4 rfl rfl)
theorem dX17_restore_29 : decode cX17_restore 29 = .ok (.iastore, 1) := dk_79 (dk_at dksX17_restore_1 5 rfl rfl)
theorem dX17_restore_30 : decode cX17_restore 30 = .ok (.iinc 1 1, 3) := dk_132 1 1 (dk_at dksX17_restore_1 6 rfl rfl)
theorem dX17_restore_33 : decode cX17_restore 33 = .ok (.goto (-21), 3) := dk_167 255 235 (dk_at dksX17_restore_1 9 rfl rfl)
theorem dX17_restore_36 : decode cX17_restore 36 = .ok (.iconst 0, 1) := dk_3 (dk_at dksX17_restore_1 12 rfl rfl)
theorem dX17_restore_37 : decode cX17_restore 37 = .ok (.istore_n 1, 1) := dk_60 (dk_at dksX17_restore_1 13 rfl rfl)
theorem dX17_restore_38 : decode cX17_restore 38 = .ok (.iload_n 1, 1) := dk_27 (dk_at dksX17_restore_1 14 rfl rfl)
theorem dX17_restore_39 : decode cX17_restore 39 = .ok (.sipush 732, 3) := dk_17 2 220 (dk_at dksX17_restore_1 15 rfl rfl)
theorem dX17_restore_42 : decode cX17_restore 42 = .ok (.if_icmp .ge 21, 3) := dk_162 0 21 (dk_at dksX17_restore_1 18 rfl rfl)
theorem dX17_restore_45 : decode cX17_restore 45 = .ok (.aload_n 0, 1) := dk_42 (dk_at dksX17_restore_1 21 rfl rfl)
theorem dX17_restore_46 : decode cX17_restore 46 = .ok (.getfield 72, 3) := dk_180 0 72 (dk_at dksX17_restore_2 0 rfl rfl)
theorem dX17_restore_49 : decode cX17_restore 49 = .ok (.iload_n 1, 1) := dk_27 (dk_at dksX17_restore_2 3 rfl rfl)
theorem dX17_restore_50 : decode cX17_restore 50 = .ok (.aload_n 0, 1) := dk_42 (dk_at dksX17_restore_2 4 rfl rfl)
theorem dX17_restore_51 : decode cX17_restore 51 = .ok (.getfield 78, 3) := dk_180 0 78 (dk_at dksX17_restore_2 5 rfl rfl)
theorem dX17_restore_54 : decode cX17_restore 54 = .ok (.iload_n 1, 1) := dk_27 (dk_at dksX17_restore_2 8 rfl rfl)
theorem dX17_restore_55 : decode cX17_restore 55 = .ok (.iaload, 1) := dk_46 (dk_at dksX17_restore_2 9 rfl rfl)
theorem dX17_restore_56 : decode cX17_restore 56 = .ok (.iastore, 1) := dk_79 (dk_at dksX17_restore_2 10 rfl rfl)
theorem dX17_restore_57 : decode cX17_restore 57 = .ok (.iinc 1 1, 3) := dk_132 1 1 (dk_at dksX17_restore_2 11 rfl rfl)
theorem dX17_restore_60 : decode cX17_restore 60 = .ok (.goto (-22), 3) := dk_167 255 234 (dk_at dksX17_restore_2 14 rfl rfl)
theorem dX17_restore_63 : decode cX17_restore 63 = .ok (.aload_n 0, 1) := dk_42 (dk_at dksX17_restore_2 17 rfl rfl)
theorem dX17_restore_64 : decode cX17_restore 64 = .ok (.aload_n 0, 1) := dk_42 (dk_at dksX17_restore_2 18 rfl rfl)
theorem dX17_restore_65 : decode cX17_restore 65 = .ok (.getfield 81, 3) := dk_180 0 81 (dk_at dksX17_restore_2 19 rfl rfl)
theorem dX17_restore_68 : decode cX17_restore 68 = .ok (.putfield 385, 3) := dk_181 1 129 (dk_at dksX17_restore_3 0 rfl rfl)
theorem dX17_restore_71 : decode cX17_restore 71 = .ok (.iconst 1, 1) := dk_4 (dk_at dksX17_restore_3 3 rfl rfl)
theorem dX17_restore_72 : decode cX17_restore 72 = .ok (.ireturn, 1) := dk_172 (dk_at dksX17_restore_3 4 rfl rfl)
abbrev cX17_sheet : ByteArray := prog_24_method_101_code
def yX17_sheet : MethodName := ⟨RX17, "sheet", "(III)I"⟩
def dkwX17_sheet_3 : List UInt8 := [80, 132, 4, 1, 167, 255, 233, 29, 172]
abbrev dktX17_sheet_3 : List UInt8 := dkwX17_sheet_3 ++ []
def dkwX17_sheet_2 : List UInt8 := [29, 79, 3, 54, 4, 21, 4, 16, 32, 162, 0, 22, 42, 180, 0, 90, 16, 32, 27, 104, 21, 4, 96, 9]
abbrev dktX17_sheet_2 : List UInt8 := dkwX17_sheet_2 ++ dktX17_sheet_3
def dkwX17_sheet_1 : List UInt8 := [164, 0, 5, 2, 172, 29, 156, 0, 6, 16, 242, 172, 42, 180, 0, 84, 27, 28, 79, 42, 180, 0, 87, 27]
abbrev dktX17_sheet_1 : List UInt8 := dkwX17_sheet_1 ++ dktX17_sheet_2
def dkwX17_sheet_0 : List UInt8 := [27, 184, 1, 145, 153, 0, 21, 28, 133, 9, 20, 1, 48, 184, 0, 124, 153, 0, 9, 29, 16, 32]
abbrev dktX17_sheet_0 : List UInt8 := dkwX17_sheet_0 ++ dktX17_sheet_1
theorem dksX17_sheet_0 : cX17_sheet.data.toList.drop 0 = dktX17_sheet_0 := by decide +kernel
theorem dksX17_sheet_1 : cX17_sheet.data.toList.drop 22 = dktX17_sheet_1 := dk_seg dksX17_sheet_0 22 rfl rfl
theorem dksX17_sheet_2 : cX17_sheet.data.toList.drop 46 = dktX17_sheet_2 := dk_seg dksX17_sheet_1 24 rfl rfl
theorem dksX17_sheet_3 : cX17_sheet.data.toList.drop 70 = dktX17_sheet_3 := dk_seg dksX17_sheet_2 24 rfl rfl
theorem dX17_sheet_0 : decode cX17_sheet 0 = .ok (.iload_n 1, 1) := dk_27 (dk_at dksX17_sheet_0 0 rfl rfl)
theorem dX17_sheet_1 : decode cX17_sheet 1 = .ok (.invokestatic 401, 3) := dk_184 1 145 (dk_at dksX17_sheet_0 1 rfl rfl)
theorem dX17_sheet_4 : decode cX17_sheet 4 = .ok (.ifCond .eq 21, 3) := dk_153 0 21 (dk_at dksX17_sheet_0 4 rfl rfl)
theorem dX17_sheet_7 : decode cX17_sheet 7 = .ok (.iload_n 2, 1) := dk_28 (dk_at dksX17_sheet_0 7 rfl rfl)
theorem dX17_sheet_8 : decode cX17_sheet 8 = .ok (.i2l, 1) := dk_133 (dk_at dksX17_sheet_0 8 rfl rfl)
theorem dX17_sheet_9 : decode cX17_sheet 9 = .ok (.lconst 0, 1) := dk_9 (dk_at dksX17_sheet_0 9 rfl rfl)
theorem dX17_sheet_10 : decode cX17_sheet 10 = .ok (.ldc2_w 304, 3) := dk_20 1 48 (dk_at dksX17_sheet_0 10 rfl rfl)
theorem dX17_sheet_13 : decode cX17_sheet 13 = .ok (.invokestatic 124, 3) := dk_184 0 124 (dk_at dksX17_sheet_0 13 rfl rfl)
theorem dX17_sheet_16 : decode cX17_sheet 16 = .ok (.ifCond .eq 9, 3) := dk_153 0 9 (dk_at dksX17_sheet_0 16 rfl rfl)
theorem dX17_sheet_19 : decode cX17_sheet 19 = .ok (.iload_n 3, 1) := dk_29 (dk_at dksX17_sheet_0 19 rfl rfl)
theorem dX17_sheet_20 : decode cX17_sheet 20 = .ok (.bipush 32, 2) := dk_16 32 (dk_at dksX17_sheet_0 20 rfl rfl)
theorem dX17_sheet_22 : decode cX17_sheet 22 = .ok (.if_icmp .le 5, 3) := dk_164 0 5 (dk_at dksX17_sheet_1 0 rfl rfl)
theorem dX17_sheet_25 : decode cX17_sheet 25 = .ok (.iconst (-1), 1) := dk_2 (dk_at dksX17_sheet_1 3 rfl rfl)
theorem dX17_sheet_26 : decode cX17_sheet 26 = .ok (.ireturn, 1) := dk_172 (dk_at dksX17_sheet_1 4 rfl rfl)
theorem dX17_sheet_27 : decode cX17_sheet 27 = .ok (.iload_n 3, 1) := dk_29 (dk_at dksX17_sheet_1 5 rfl rfl)
theorem dX17_sheet_28 : decode cX17_sheet 28 = .ok (.ifCond .ge 6, 3) := dk_156 0 6 (dk_at dksX17_sheet_1 6 rfl rfl)
theorem dX17_sheet_31 : decode cX17_sheet 31 = .ok (.bipush (-14), 2) := dk_16 242 (dk_at dksX17_sheet_1 9 rfl rfl)
theorem dX17_sheet_33 : decode cX17_sheet 33 = .ok (.ireturn, 1) := dk_172 (dk_at dksX17_sheet_1 11 rfl rfl)
theorem dX17_sheet_34 : decode cX17_sheet 34 = .ok (.aload_n 0, 1) := dk_42 (dk_at dksX17_sheet_1 12 rfl rfl)
theorem dX17_sheet_35 : decode cX17_sheet 35 = .ok (.getfield 84, 3) := dk_180 0 84 (dk_at dksX17_sheet_1 13 rfl rfl)
theorem dX17_sheet_38 : decode cX17_sheet 38 = .ok (.iload_n 1, 1) := dk_27 (dk_at dksX17_sheet_1 16 rfl rfl)
theorem dX17_sheet_39 : decode cX17_sheet 39 = .ok (.iload_n 2, 1) := dk_28 (dk_at dksX17_sheet_1 17 rfl rfl)
theorem dX17_sheet_40 : decode cX17_sheet 40 = .ok (.iastore, 1) := dk_79 (dk_at dksX17_sheet_1 18 rfl rfl)
theorem dX17_sheet_41 : decode cX17_sheet 41 = .ok (.aload_n 0, 1) := dk_42 (dk_at dksX17_sheet_1 19 rfl rfl)
theorem dX17_sheet_42 : decode cX17_sheet 42 = .ok (.getfield 87, 3) := dk_180 0 87 (dk_at dksX17_sheet_1 20 rfl rfl)
theorem dX17_sheet_45 : decode cX17_sheet 45 = .ok (.iload_n 1, 1) := dk_27 (dk_at dksX17_sheet_1 23 rfl rfl)
theorem dX17_sheet_46 : decode cX17_sheet 46 = .ok (.iload_n 3, 1) := dk_29 (dk_at dksX17_sheet_2 0 rfl rfl)
theorem dX17_sheet_47 : decode cX17_sheet 47 = .ok (.iastore, 1) := dk_79 (dk_at dksX17_sheet_2 1 rfl rfl)
theorem dX17_sheet_48 : decode cX17_sheet 48 = .ok (.iconst 0, 1) := dk_3 (dk_at dksX17_sheet_2 2 rfl rfl)
theorem dX17_sheet_49 : decode cX17_sheet 49 = .ok (.istore 4, 2) := dk_54 4 (dk_at dksX17_sheet_2 3 rfl rfl)
theorem dX17_sheet_51 : decode cX17_sheet 51 = .ok (.iload 4, 2) := dk_21 4 (dk_at dksX17_sheet_2 5 rfl rfl)
theorem dX17_sheet_53 : decode cX17_sheet 53 = .ok (.bipush 32, 2) := dk_16 32 (dk_at dksX17_sheet_2 7 rfl rfl)
theorem dX17_sheet_55 : decode cX17_sheet 55 = .ok (.if_icmp .ge 22, 3) := dk_162 0 22 (dk_at dksX17_sheet_2 9 rfl rfl)
theorem dX17_sheet_58 : decode cX17_sheet 58 = .ok (.aload_n 0, 1) := dk_42 (dk_at dksX17_sheet_2 12 rfl rfl)
theorem dX17_sheet_59 : decode cX17_sheet 59 = .ok (.getfield 90, 3) := dk_180 0 90 (dk_at dksX17_sheet_2 13 rfl rfl)
theorem dX17_sheet_62 : decode cX17_sheet 62 = .ok (.bipush 32, 2) := dk_16 32 (dk_at dksX17_sheet_2 16 rfl rfl)
theorem dX17_sheet_64 : decode cX17_sheet 64 = .ok (.iload_n 1, 1) := dk_27 (dk_at dksX17_sheet_2 18 rfl rfl)
theorem dX17_sheet_65 : decode cX17_sheet 65 = .ok (.imul, 1) := dk_104 (dk_at dksX17_sheet_2 19 rfl rfl)
theorem dX17_sheet_66 : decode cX17_sheet 66 = .ok (.iload 4, 2) := dk_21 4 (dk_at dksX17_sheet_2 20 rfl rfl)
theorem dX17_sheet_68 : decode cX17_sheet 68 = .ok (.iadd, 1) := dk_96 (dk_at dksX17_sheet_2 22 rfl rfl)
theorem dX17_sheet_69 : decode cX17_sheet 69 = .ok (.lconst 0, 1) := dk_9 (dk_at dksX17_sheet_2 23 rfl rfl)
theorem dX17_sheet_70 : decode cX17_sheet 70 = .ok (.lastore, 1) := dk_80 (dk_at dksX17_sheet_3 0 rfl rfl)
theorem dX17_sheet_71 : decode cX17_sheet 71 = .ok (.iinc 4 1, 3) := dk_132 4 1 (dk_at dksX17_sheet_3 1 rfl rfl)
theorem dX17_sheet_74 : decode cX17_sheet 74 = .ok (.goto (-23), 3) := dk_167 255 233 (dk_at dksX17_sheet_3 4 rfl rfl)
theorem dX17_sheet_77 : decode cX17_sheet 77 = .ok (.iload_n 3, 1) := dk_29 (dk_at dksX17_sheet_3 7 rfl rfl)
theorem dX17_sheet_78 : decode cX17_sheet 78 = .ok (.ireturn, 1) := dk_172 (dk_at dksX17_sheet_3 8 rfl rfl)
abbrev cX17_isSheet : ByteArray := prog_24_method_99_code
def yX17_isSheet : MethodName := ⟨RX17, "isSheet", "(I)Z"⟩
def dkwX17_isSheet_0 : List UInt8 := [26, 133, 9, 20, 1, 48, 184, 0, 124, 172]
abbrev dktX17_isSheet_0 : List UInt8 := dkwX17_isSheet_0 ++ []
theorem dksX17_isSheet_0 : cX17_isSheet.data.toList.drop 0 = dktX17_isSheet_0 := by decide +kernel
theorem dX17_isSheet_0 : decode cX17_isSheet 0 = .ok (.iload_n 0, 1) := dk_26 (dk_at dksX17_isSheet_0 0 rfl rfl)
theorem dX17_isSheet_1 : decode cX17_isSheet 1 = .ok (.i2l, 1) := dk_133 (dk_at dksX17_isSheet_0 1 rfl rfl)
theorem dX17_isSheet_2 : decode cX17_isSheet 2 = .ok (.lconst 0, 1) := dk_9 (dk_at dksX17_isSheet_0 2 rfl rfl)
theorem dX17_isSheet_3 : decode cX17_isSheet 3 = .ok (.ldc2_w 304, 3) := dk_20 1 48 (dk_at dksX17_isSheet_0 3 rfl rfl)
theorem dX17_isSheet_6 : decode cX17_isSheet 6 = .ok (.invokestatic 124, 3) := dk_184 0 124 (dk_at dksX17_isSheet_0 6 rfl rfl)
theorem dX17_isSheet_9 : decode cX17_isSheet 9 = .ok (.ireturn, 1) := dk_172 (dk_at dksX17_isSheet_0 9 rfl rfl)
abbrev cX17_drop : ByteArray := prog_24_method_102_code
def yX17_drop : MethodName := ⟨RX17, "drop", "(I)I"⟩
def dkwX17_drop_1 : List UInt8 := [180, 0, 84, 27, 2, 79, 42, 180, 0, 87, 27, 46, 172]
abbrev dktX17_drop_1 : List UInt8 := dkwX17_drop_1 ++ []
def dkwX17_drop_0 : List UInt8 := [27, 184, 1, 145, 154, 0, 5, 2, 172, 42, 180, 0, 84, 27, 46, 156, 0, 6, 16, 245, 172, 42]
abbrev dktX17_drop_0 : List UInt8 := dkwX17_drop_0 ++ dktX17_drop_1
theorem dksX17_drop_0 : cX17_drop.data.toList.drop 0 = dktX17_drop_0 := by decide +kernel
theorem dksX17_drop_1 : cX17_drop.data.toList.drop 22 = dktX17_drop_1 := dk_seg dksX17_drop_0 22 rfl rfl
theorem dX17_drop_0 : decode cX17_drop 0 = .ok (.iload_n 1, 1) := dk_27 (dk_at dksX17_drop_0 0 rfl rfl)
theorem dX17_drop_1 : decode cX17_drop 1 = .ok (.invokestatic 401, 3) := dk_184 1 145 (dk_at dksX17_drop_0 1 rfl rfl)
theorem dX17_drop_4 : decode cX17_drop 4 = .ok (.ifCond .ne 5, 3) := dk_154 0 5 (dk_at dksX17_drop_0 4 rfl rfl)
theorem dX17_drop_7 : decode cX17_drop 7 = .ok (.iconst (-1), 1) := dk_2 (dk_at dksX17_drop_0 7 rfl rfl)
theorem dX17_drop_8 : decode cX17_drop 8 = .ok (.ireturn, 1) := dk_172 (dk_at dksX17_drop_0 8 rfl rfl)
theorem dX17_drop_9 : decode cX17_drop 9 = .ok (.aload_n 0, 1) := dk_42 (dk_at dksX17_drop_0 9 rfl rfl)
theorem dX17_drop_10 : decode cX17_drop 10 = .ok (.getfield 84, 3) := dk_180 0 84 (dk_at dksX17_drop_0 10 rfl rfl)
theorem dX17_drop_13 : decode cX17_drop 13 = .ok (.iload_n 1, 1) := dk_27 (dk_at dksX17_drop_0 13 rfl rfl)
theorem dX17_drop_14 : decode cX17_drop 14 = .ok (.iaload, 1) := dk_46 (dk_at dksX17_drop_0 14 rfl rfl)
theorem dX17_drop_15 : decode cX17_drop 15 = .ok (.ifCond .ge 6, 3) := dk_156 0 6 (dk_at dksX17_drop_0 15 rfl rfl)
theorem dX17_drop_18 : decode cX17_drop 18 = .ok (.bipush (-11), 2) := dk_16 245 (dk_at dksX17_drop_0 18 rfl rfl)
theorem dX17_drop_20 : decode cX17_drop 20 = .ok (.ireturn, 1) := dk_172 (dk_at dksX17_drop_0 20 rfl rfl)
theorem dX17_drop_21 : decode cX17_drop 21 = .ok (.aload_n 0, 1) := dk_42 (dk_at dksX17_drop_0 21 rfl rfl)
theorem dX17_drop_22 : decode cX17_drop 22 = .ok (.getfield 84, 3) := dk_180 0 84 (dk_at dksX17_drop_1 0 rfl rfl)
theorem dX17_drop_25 : decode cX17_drop 25 = .ok (.iload_n 1, 1) := dk_27 (dk_at dksX17_drop_1 3 rfl rfl)
theorem dX17_drop_26 : decode cX17_drop 26 = .ok (.iconst (-1), 1) := dk_2 (dk_at dksX17_drop_1 4 rfl rfl)
theorem dX17_drop_27 : decode cX17_drop 27 = .ok (.iastore, 1) := dk_79 (dk_at dksX17_drop_1 5 rfl rfl)
theorem dX17_drop_28 : decode cX17_drop 28 = .ok (.aload_n 0, 1) := dk_42 (dk_at dksX17_drop_1 6 rfl rfl)
theorem dX17_drop_29 : decode cX17_drop 29 = .ok (.getfield 87, 3) := dk_180 0 87 (dk_at dksX17_drop_1 7 rfl rfl)
theorem dX17_drop_32 : decode cX17_drop 32 = .ok (.iload_n 1, 1) := dk_27 (dk_at dksX17_drop_1 10 rfl rfl)
theorem dX17_drop_33 : decode cX17_drop 33 = .ok (.iaload, 1) := dk_46 (dk_at dksX17_drop_1 11 rfl rfl)
theorem dX17_drop_34 : decode cX17_drop 34 = .ok (.ireturn, 1) := dk_172 (dk_at dksX17_drop_1 12 rfl rfl)
abbrev cX17_item : ByteArray := prog_24_method_104_code
def yX17_item : MethodName := ⟨RX17, "item", "(IIIJ)I"⟩
def dkwX17_item_2 : List UInt8 := [96, 22, 4, 28, 184, 1, 152, 80, 4, 172]
abbrev dktX17_item_2 : List UInt8 := dkwX17_item_2 ++ []
def dkwX17_item_1 : List UInt8 := [29, 4, 182, 1, 148, 54, 6, 21, 6, 156, 0, 6, 21, 6, 172, 42, 180, 0, 90, 16, 32, 27, 104, 29]
abbrev dktX17_item_1 : List UInt8 := dkwX17_item_1 ++ dktX17_item_2
def dkwX17_item_0 : List UInt8 := [27, 184, 1, 145, 153, 0, 15, 28, 133, 9, 20, 1, 48, 184, 0, 124, 154, 0, 5, 2, 172, 42, 27, 28]
abbrev dktX17_item_0 : List UInt8 := dkwX17_item_0 ++ dktX17_item_1
theorem dksX17_item_0 : cX17_item.data.toList.drop 0 = dktX17_item_0 := by decide +kernel
theorem dksX17_item_1 : cX17_item.data.toList.drop 24 = dktX17_item_1 := dk_seg dksX17_item_0 24 rfl rfl
theorem dksX17_item_2 : cX17_item.data.toList.drop 48 = dktX17_item_2 := dk_seg dksX17_item_1 24 rfl rfl
theorem dX17_item_0 : decode cX17_item 0 = .ok (.iload_n 1, 1) := dk_27 (dk_at dksX17_item_0 0 rfl rfl)
theorem dX17_item_1 : decode cX17_item 1 = .ok (.invokestatic 401, 3) := dk_184 1 145 (dk_at dksX17_item_0 1 rfl rfl)
theorem dX17_item_4 : decode cX17_item 4 = .ok (.ifCond .eq 15, 3) := dk_153 0 15 (dk_at dksX17_item_0 4 rfl rfl)
theorem dX17_item_7 : decode cX17_item 7 = .ok (.iload_n 2, 1) := dk_28 (dk_at dksX17_item_0 7 rfl rfl)
theorem dX17_item_8 : decode cX17_item 8 = .ok (.i2l, 1) := dk_133 (dk_at dksX17_item_0 8 rfl rfl)
theorem dX17_item_9 : decode cX17_item 9 = .ok (.lconst 0, 1) := dk_9 (dk_at dksX17_item_0 9 rfl rfl)
theorem dX17_item_10 : decode cX17_item 10 = .ok (.ldc2_w 304, 3) := dk_20 1 48 (dk_at dksX17_item_0 10 rfl rfl)
theorem dX17_item_13 : decode cX17_item 13 = .ok (.invokestatic 124, 3) := dk_184 0 124 (dk_at dksX17_item_0 13 rfl rfl)
theorem dX17_item_16 : decode cX17_item 16 = .ok (.ifCond .ne 5, 3) := dk_154 0 5 (dk_at dksX17_item_0 16 rfl rfl)
theorem dX17_item_19 : decode cX17_item 19 = .ok (.iconst (-1), 1) := dk_2 (dk_at dksX17_item_0 19 rfl rfl)
theorem dX17_item_20 : decode cX17_item 20 = .ok (.ireturn, 1) := dk_172 (dk_at dksX17_item_0 20 rfl rfl)
theorem dX17_item_21 : decode cX17_item 21 = .ok (.aload_n 0, 1) := dk_42 (dk_at dksX17_item_0 21 rfl rfl)
theorem dX17_item_22 : decode cX17_item 22 = .ok (.iload_n 1, 1) := dk_27 (dk_at dksX17_item_0 22 rfl rfl)
theorem dX17_item_23 : decode cX17_item 23 = .ok (.iload_n 2, 1) := dk_28 (dk_at dksX17_item_0 23 rfl rfl)
theorem dX17_item_24 : decode cX17_item 24 = .ok (.iload_n 3, 1) := dk_29 (dk_at dksX17_item_1 0 rfl rfl)
theorem dX17_item_25 : decode cX17_item 25 = .ok (.iconst 1, 1) := dk_4 (dk_at dksX17_item_1 1 rfl rfl)
theorem dX17_item_26 : decode cX17_item 26 = .ok (.invokevirtual 404, 3) := dk_182 1 148 (dk_at dksX17_item_1 2 rfl rfl)
theorem dX17_item_29 : decode cX17_item 29 = .ok (.istore 6, 2) := dk_54 6 (dk_at dksX17_item_1 5 rfl rfl)
theorem dX17_item_31 : decode cX17_item 31 = .ok (.iload 6, 2) := dk_21 6 (dk_at dksX17_item_1 7 rfl rfl)
theorem dX17_item_33 : decode cX17_item 33 = .ok (.ifCond .ge 6, 3) := dk_156 0 6 (dk_at dksX17_item_1 9 rfl rfl)
theorem dX17_item_36 : decode cX17_item 36 = .ok (.iload 6, 2) := dk_21 6 (dk_at dksX17_item_1 12 rfl rfl)
theorem dX17_item_38 : decode cX17_item 38 = .ok (.ireturn, 1) := dk_172 (dk_at dksX17_item_1 14 rfl rfl)
theorem dX17_item_39 : decode cX17_item 39 = .ok (.aload_n 0, 1) := dk_42 (dk_at dksX17_item_1 15 rfl rfl)
theorem dX17_item_40 : decode cX17_item 40 = .ok (.getfield 90, 3) := dk_180 0 90 (dk_at dksX17_item_1 16 rfl rfl)
theorem dX17_item_43 : decode cX17_item 43 = .ok (.bipush 32, 2) := dk_16 32 (dk_at dksX17_item_1 19 rfl rfl)
theorem dX17_item_45 : decode cX17_item 45 = .ok (.iload_n 1, 1) := dk_27 (dk_at dksX17_item_1 21 rfl rfl)
theorem dX17_item_46 : decode cX17_item 46 = .ok (.imul, 1) := dk_104 (dk_at dksX17_item_1 22 rfl rfl)
theorem dX17_item_47 : decode cX17_item 47 = .ok (.iload_n 3, 1) := dk_29 (dk_at dksX17_item_1 23 rfl rfl)
theorem dX17_item_48 : decode cX17_item 48 = .ok (.iadd, 1) := dk_96 (dk_at dksX17_item_2 0 rfl rfl)
theorem dX17_item_49 : decode cX17_item 49 = .ok (.lload 4, 2) := dk_22 4 (dk_at dksX17_item_2 1 rfl rfl)
theorem dX17_item_51 : decode cX17_item 51 = .ok (.iload_n 2, 1) := dk_28 (dk_at dksX17_item_2 3 rfl rfl)
theorem dX17_item_52 : decode cX17_item 52 = .ok (.invokestatic 408, 3) := dk_184 1 152 (dk_at dksX17_item_2 4 rfl rfl)
theorem dX17_item_55 : decode cX17_item 55 = .ok (.lastore, 1) := dk_80 (dk_at dksX17_item_2 7 rfl rfl)
theorem dX17_item_56 : decode cX17_item 56 = .ok (.iconst 1, 1) := dk_4 (dk_at dksX17_item_2 8 rfl rfl)
theorem dX17_item_57 : decode cX17_item 57 = .ok (.ireturn, 1) := dk_172 (dk_at dksX17_item_2 9 rfl rfl)
abbrev cX17_why : ByteArray := prog_24_method_103_code
def yX17_why : MethodName := ⟨RX17, "why", "(IIII)I"⟩
def dkwX17_why_2 : List UInt8 := [172]
abbrev dktX17_why_2 : List UInt8 := dkwX17_why_2 ++ []
def dkwX17_why_1 : List UInt8 := [172, 29, 155, 0, 16, 21, 4, 42, 180, 0, 87, 27, 46, 29, 100, 164, 0, 8, 16, 243, 167, 0, 4, 3]
abbrev dktX17_why_1 : List UInt8 := dkwX17_why_1 ++ dktX17_why_2
def dkwX17_why_0 : List UInt8 := [42, 180, 0, 84, 27, 46, 156, 0, 6, 16, 245, 172, 42, 180, 0, 84, 27, 46, 28, 159, 0, 6, 16, 244]
abbrev dktX17_why_0 : List UInt8 := dkwX17_why_0 ++ dktX17_why_1
theorem dksX17_why_0 : cX17_why.data.toList.drop 0 = dktX17_why_0 := by decide +kernel
theorem dksX17_why_1 : cX17_why.data.toList.drop 24 = dktX17_why_1 := dk_seg dksX17_why_0 24 rfl rfl
theorem dksX17_why_2 : cX17_why.data.toList.drop 48 = dktX17_why_2 := dk_seg dksX17_why_1 24 rfl rfl
theorem dX17_why_0 : decode cX17_why 0 = .ok (.aload_n 0, 1) := dk_42 (dk_at dksX17_why_0 0 rfl rfl)
theorem dX17_why_1 : decode cX17_why 1 = .ok (.getfield 84, 3) := dk_180 0 84 (dk_at dksX17_why_0 1 rfl rfl)
theorem dX17_why_4 : decode cX17_why 4 = .ok (.iload_n 1, 1) := dk_27 (dk_at dksX17_why_0 4 rfl rfl)
theorem dX17_why_5 : decode cX17_why 5 = .ok (.iaload, 1) := dk_46 (dk_at dksX17_why_0 5 rfl rfl)
theorem dX17_why_6 : decode cX17_why 6 = .ok (.ifCond .ge 6, 3) := dk_156 0 6 (dk_at dksX17_why_0 6 rfl rfl)
theorem dX17_why_9 : decode cX17_why 9 = .ok (.bipush (-11), 2) := dk_16 245 (dk_at dksX17_why_0 9 rfl rfl)
theorem dX17_why_11 : decode cX17_why 11 = .ok (.ireturn, 1) := dk_172 (dk_at dksX17_why_0 11 rfl rfl)
theorem dX17_why_12 : decode cX17_why 12 = .ok (.aload_n 0, 1) := dk_42 (dk_at dksX17_why_0 12 rfl rfl)
theorem dX17_why_13 : decode cX17_why 13 = .ok (.getfield 84, 3) := dk_180 0 84 (dk_at dksX17_why_0 13 rfl rfl)
theorem dX17_why_16 : decode cX17_why 16 = .ok (.iload_n 1, 1) := dk_27 (dk_at dksX17_why_0 16 rfl rfl)
theorem dX17_why_17 : decode cX17_why 17 = .ok (.iaload, 1) := dk_46 (dk_at dksX17_why_0 17 rfl rfl)
theorem dX17_why_18 : decode cX17_why 18 = .ok (.iload_n 2, 1) := dk_28 (dk_at dksX17_why_0 18 rfl rfl)
theorem dX17_why_19 : decode cX17_why 19 = .ok (.if_icmp .eq 6, 3) := dk_159 0 6 (dk_at dksX17_why_0 19 rfl rfl)
theorem dX17_why_22 : decode cX17_why 22 = .ok (.bipush (-12), 2) := dk_16 244 (dk_at dksX17_why_0 22 rfl rfl)
theorem dX17_why_24 : decode cX17_why 24 = .ok (.ireturn, 1) := dk_172 (dk_at dksX17_why_1 0 rfl rfl)
theorem dX17_why_25 : decode cX17_why 25 = .ok (.iload_n 3, 1) := dk_29 (dk_at dksX17_why_1 1 rfl rfl)
theorem dX17_why_26 : decode cX17_why 26 = .ok (.ifCond .lt 16, 3) := dk_155 0 16 (dk_at dksX17_why_1 2 rfl rfl)
theorem dX17_why_29 : decode cX17_why 29 = .ok (.iload 4, 2) := dk_21 4 (dk_at dksX17_why_1 5 rfl rfl)
theorem dX17_why_31 : decode cX17_why 31 = .ok (.aload_n 0, 1) := dk_42 (dk_at dksX17_why_1 7 rfl rfl)
theorem dX17_why_32 : decode cX17_why 32 = .ok (.getfield 87, 3) := dk_180 0 87 (dk_at dksX17_why_1 8 rfl rfl)
theorem dX17_why_35 : decode cX17_why 35 = .ok (.iload_n 1, 1) := dk_27 (dk_at dksX17_why_1 11 rfl rfl)
theorem dX17_why_36 : decode cX17_why 36 = .ok (.iaload, 1) := dk_46 (dk_at dksX17_why_1 12 rfl rfl)
theorem dX17_why_37 : decode cX17_why 37 = .ok (.iload_n 3, 1) := dk_29 (dk_at dksX17_why_1 13 rfl rfl)
theorem dX17_why_38 : decode cX17_why 38 = .ok (.isub, 1) := dk_100 (dk_at dksX17_why_1 14 rfl rfl)
theorem dX17_why_39 : decode cX17_why 39 = .ok (.if_icmp .le 8, 3) := dk_164 0 8 (dk_at dksX17_why_1 15 rfl rfl)
theorem dX17_why_42 : decode cX17_why 42 = .ok (.bipush (-13), 2) := dk_16 243 (dk_at dksX17_why_1 18 rfl rfl)
theorem dX17_why_44 : decode cX17_why 44 = .ok (.goto 4, 3) := dk_167 0 4 (dk_at dksX17_why_1 20 rfl rfl)
theorem dX17_why_47 : decode cX17_why 47 = .ok (.iconst 0, 1) := dk_3 (dk_at dksX17_why_1 23 rfl rfl)
theorem dX17_why_48 : decode cX17_why 48 = .ok (.ireturn, 1) := dk_172 (dk_at dksX17_why_2 0 rfl rfl)
abbrev cX17_cut : ByteArray := prog_24_method_100_code
def yX17_cut : MethodName := ⟨RX17, "cut", "(JI)J"⟩
def dkwX17_cut_1 : List UInt8 := [5, 160, 0, 9, 30, 136, 133, 167, 0, 4, 30, 173]
abbrev dktX17_cut_1 : List UInt8 := dkwX17_cut_1 ++ []
def dkwX17_cut_0 : List UInt8 := [28, 154, 0, 10, 30, 136, 145, 133, 167, 0, 27, 28, 4, 160, 0, 10, 30, 136, 147, 133, 167, 0, 15, 28]
abbrev dktX17_cut_0 : List UInt8 := dkwX17_cut_0 ++ dktX17_cut_1
theorem dksX17_cut_0 : cX17_cut.data.toList.drop 0 = dktX17_cut_0 := by decide +kernel
theorem dksX17_cut_1 : cX17_cut.data.toList.drop 24 = dktX17_cut_1 := dk_seg dksX17_cut_0 24 rfl rfl
theorem dX17_cut_0 : decode cX17_cut 0 = .ok (.iload_n 2, 1) := dk_28 (dk_at dksX17_cut_0 0 rfl rfl)
theorem dX17_cut_1 : decode cX17_cut 1 = .ok (.ifCond .ne 10, 3) := dk_154 0 10 (dk_at dksX17_cut_0 1 rfl rfl)
theorem dX17_cut_4 : decode cX17_cut 4 = .ok (.lload_n 0, 1) := dk_30 (dk_at dksX17_cut_0 4 rfl rfl)
theorem dX17_cut_5 : decode cX17_cut 5 = .ok (.l2i, 1) := dk_136 (dk_at dksX17_cut_0 5 rfl rfl)
theorem dX17_cut_6 : decode cX17_cut 6 = .ok (.i2b, 1) := dk_145 (dk_at dksX17_cut_0 6 rfl rfl)
theorem dX17_cut_7 : decode cX17_cut 7 = .ok (.i2l, 1) := dk_133 (dk_at dksX17_cut_0 7 rfl rfl)
theorem dX17_cut_8 : decode cX17_cut 8 = .ok (.goto 27, 3) := dk_167 0 27 (dk_at dksX17_cut_0 8 rfl rfl)
theorem dX17_cut_11 : decode cX17_cut 11 = .ok (.iload_n 2, 1) := dk_28 (dk_at dksX17_cut_0 11 rfl rfl)
theorem dX17_cut_12 : decode cX17_cut 12 = .ok (.iconst 1, 1) := dk_4 (dk_at dksX17_cut_0 12 rfl rfl)
theorem dX17_cut_13 : decode cX17_cut 13 = .ok (.if_icmp .ne 10, 3) := dk_160 0 10 (dk_at dksX17_cut_0 13 rfl rfl)
theorem dX17_cut_16 : decode cX17_cut 16 = .ok (.lload_n 0, 1) := dk_30 (dk_at dksX17_cut_0 16 rfl rfl)
theorem dX17_cut_17 : decode cX17_cut 17 = .ok (.l2i, 1) := dk_136 (dk_at dksX17_cut_0 17 rfl rfl)
theorem dX17_cut_18 : decode cX17_cut 18 = .ok (.i2s, 1) := dk_147 (dk_at dksX17_cut_0 18 rfl rfl)
theorem dX17_cut_19 : decode cX17_cut 19 = .ok (.i2l, 1) := dk_133 (dk_at dksX17_cut_0 19 rfl rfl)
theorem dX17_cut_20 : decode cX17_cut 20 = .ok (.goto 15, 3) := dk_167 0 15 (dk_at dksX17_cut_0 20 rfl rfl)
theorem dX17_cut_23 : decode cX17_cut 23 = .ok (.iload_n 2, 1) := dk_28 (dk_at dksX17_cut_0 23 rfl rfl)
theorem dX17_cut_24 : decode cX17_cut 24 = .ok (.iconst 2, 1) := dk_5 (dk_at dksX17_cut_1 0 rfl rfl)
theorem dX17_cut_25 : decode cX17_cut 25 = .ok (.if_icmp .ne 9, 3) := dk_160 0 9 (dk_at dksX17_cut_1 1 rfl rfl)
theorem dX17_cut_28 : decode cX17_cut 28 = .ok (.lload_n 0, 1) := dk_30 (dk_at dksX17_cut_1 4 rfl rfl)
theorem dX17_cut_29 : decode cX17_cut 29 = .ok (.l2i, 1) := dk_136 (dk_at dksX17_cut_1 5 rfl rfl)
theorem dX17_cut_30 : decode cX17_cut 30 = .ok (.i2l, 1) := dk_133 (dk_at dksX17_cut_1 6 rfl rfl)
theorem dX17_cut_31 : decode cX17_cut 31 = .ok (.goto 4, 3) := dk_167 0 4 (dk_at dksX17_cut_1 7 rfl rfl)
theorem dX17_cut_34 : decode cX17_cut 34 = .ok (.lload_n 0, 1) := dk_30 (dk_at dksX17_cut_1 10 rfl rfl)
theorem dX17_cut_35 : decode cX17_cut 35 = .ok (.lreturn, 1) := dk_173 (dk_at dksX17_cut_1 11 rfl rfl)
abbrev cX17_copy : ByteArray := prog_24_method_105_code
def yX17_copy : MethodName := ⟨RX17, "copy", "(IIIII)I"⟩
def dkwX17_copy_8 : List UInt8 := [172]
abbrev dktX17_copy_8 : List UInt8 := dkwX17_copy_8 ++ []
def dkwX17_copy_7 : List UInt8 := [29, 104, 21, 4, 96, 21, 6, 96, 42, 180, 0, 94, 21, 6, 47, 80, 132, 6, 1, 167, 255, 224, 21, 5]
abbrev dktX17_copy_7 : List UInt8 := dkwX17_copy_7 ++ dktX17_copy_8
def dkwX17_copy_6 : List UInt8 := [47, 80, 132, 6, 1, 167, 255, 225, 3, 54, 6, 21, 6, 21, 5, 162, 0, 31, 42, 180, 0, 90, 16, 32]
abbrev dktX17_copy_6 : List UInt8 := dkwX17_copy_6 ++ dktX17_copy_7
def dkwX17_copy_5 : List UInt8 := [21, 5, 162, 0, 30, 42, 180, 0, 94, 21, 6, 42, 180, 0, 90, 16, 32, 27, 104, 28, 96, 21, 6, 96]
abbrev dktX17_copy_5 : List UInt8 := dkwX17_copy_5 ++ dktX17_copy_6
def dkwX17_copy_4 : List UInt8 := [21, 5, 133, 97, 42, 180, 0, 87, 29, 46, 133, 148, 158, 0, 6, 16, 243, 172, 3, 54, 6, 21, 6]
abbrev dktX17_copy_4 : List UInt8 := dkwX17_copy_4 ++ dktX17_copy_5
def dkwX17_copy_3 : List UInt8 := [155, 0, 38, 28, 133, 21, 5, 133, 97, 42, 180, 0, 87, 27, 46, 133, 148, 157, 0, 21, 21, 4, 133]
abbrev dktX17_copy_3 : List UInt8 := dkwX17_copy_3 ++ dktX17_copy_4
def dkwX17_copy_2 : List UInt8 := [180, 0, 84, 29, 46, 159, 0, 6, 16, 244, 172, 21, 5, 155, 0, 47, 28, 155, 0, 43, 21, 4]
abbrev dktX17_copy_2 : List UInt8 := dkwX17_copy_2 ++ dktX17_copy_3
def dkwX17_copy_1 : List UInt8 := [155, 0, 12, 42, 180, 0, 84, 29, 46, 156, 0, 6, 16, 245, 172, 42, 180, 0, 84, 27, 46, 42]
abbrev dktX17_copy_1 : List UInt8 := dkwX17_copy_1 ++ dktX17_copy_2
def dkwX17_copy_0 : List UInt8 := [27, 184, 1, 145, 153, 0, 10, 29, 184, 1, 145, 154, 0, 5, 2, 172, 42, 180, 0, 84, 27, 46]
abbrev dktX17_copy_0 : List UInt8 := dkwX17_copy_0 ++ dktX17_copy_1
theorem dksX17_copy_0 : cX17_copy.data.toList.drop 0 = dktX17_copy_0 := by decide +kernel
theorem dksX17_copy_1 : cX17_copy.data.toList.drop 22 = dktX17_copy_1 := dk_seg dksX17_copy_0 22 rfl rfl
theorem dksX17_copy_2 : cX17_copy.data.toList.drop 44 = dktX17_copy_2 := dk_seg dksX17_copy_1 22 rfl rfl
theorem dksX17_copy_3 : cX17_copy.data.toList.drop 66 = dktX17_copy_3 := dk_seg dksX17_copy_2 22 rfl rfl
theorem dksX17_copy_4 : cX17_copy.data.toList.drop 89 = dktX17_copy_4 := dk_seg dksX17_copy_3 23 rfl rfl
theorem dksX17_copy_5 : cX17_copy.data.toList.drop 112 = dktX17_copy_5 := dk_seg dksX17_copy_4 23 rfl rfl
theorem dksX17_copy_6 : cX17_copy.data.toList.drop 136 = dktX17_copy_6 := dk_seg dksX17_copy_5 24 rfl rfl
theorem dksX17_copy_7 : cX17_copy.data.toList.drop 160 = dktX17_copy_7 := dk_seg dksX17_copy_6 24 rfl rfl
theorem dksX17_copy_8 : cX17_copy.data.toList.drop 184 = dktX17_copy_8 := dk_seg dksX17_copy_7 24 rfl rfl
theorem dX17_copy_0 : decode cX17_copy 0 = .ok (.iload_n 1, 1) := dk_27 (dk_at dksX17_copy_0 0 rfl rfl)
theorem dX17_copy_1 : decode cX17_copy 1 = .ok (.invokestatic 401, 3) := dk_184 1 145 (dk_at dksX17_copy_0 1 rfl rfl)
theorem dX17_copy_4 : decode cX17_copy 4 = .ok (.ifCond .eq 10, 3) := dk_153 0 10 (dk_at dksX17_copy_0 4 rfl rfl)
theorem dX17_copy_7 : decode cX17_copy 7 = .ok (.iload_n 3, 1) := dk_29 (dk_at dksX17_copy_0 7 rfl rfl)
theorem dX17_copy_8 : decode cX17_copy 8 = .ok (.invokestatic 401, 3) := dk_184 1 145 (dk_at dksX17_copy_0 8 rfl rfl)
theorem dX17_copy_11 : decode cX17_copy 11 = .ok (.ifCond .ne 5, 3) := dk_154 0 5 (dk_at dksX17_copy_0 11 rfl rfl)
theorem dX17_copy_14 : decode cX17_copy 14 = .ok (.iconst (-1), 1) := dk_2 (dk_at dksX17_copy_0 14 rfl rfl)
theorem dX17_copy_15 : decode cX17_copy 15 = .ok (.ireturn, 1) := dk_172 (dk_at dksX17_copy_0 15 rfl rfl)
theorem dX17_copy_16 : decode cX17_copy 16 = .ok (.aload_n 0, 1) := dk_42 (dk_at dksX17_copy_0 16 rfl rfl)
theorem dX17_copy_17 : decode cX17_copy 17 = .ok (.getfield 84, 3) := dk_180 0 84 (dk_at dksX17_copy_0 17 rfl rfl)
theorem dX17_copy_20 : decode cX17_copy 20 = .ok (.iload_n 1, 1) := dk_27 (dk_at dksX17_copy_0 20 rfl rfl)
theorem dX17_copy_21 : decode cX17_copy 21 = .ok (.iaload, 1) := dk_46 (dk_at dksX17_copy_0 21 rfl rfl)
theorem dX17_copy_22 : decode cX17_copy 22 = .ok (.ifCond .lt 12, 3) := dk_155 0 12 (dk_at dksX17_copy_1 0 rfl rfl)
theorem dX17_copy_25 : decode cX17_copy 25 = .ok (.aload_n 0, 1) := dk_42 (dk_at dksX17_copy_1 3 rfl rfl)
theorem dX17_copy_26 : decode cX17_copy 26 = .ok (.getfield 84, 3) := dk_180 0 84 (dk_at dksX17_copy_1 4 rfl rfl)
theorem dX17_copy_29 : decode cX17_copy 29 = .ok (.iload_n 3, 1) := dk_29 (dk_at dksX17_copy_1 7 rfl rfl)
theorem dX17_copy_30 : decode cX17_copy 30 = .ok (.iaload, 1) := dk_46 (dk_at dksX17_copy_1 8 rfl rfl)
theorem dX17_copy_31 : decode cX17_copy 31 = .ok (.ifCond .ge 6, 3) := dk_156 0 6 (dk_at dksX17_copy_1 9 rfl rfl)
theorem dX17_copy_34 : decode cX17_copy 34 = .ok (.bipush (-11), 2) := dk_16 245 (dk_at dksX17_copy_1 12 rfl rfl)
theorem dX17_copy_36 : decode cX17_copy 36 = .ok (.ireturn, 1) := dk_172 (dk_at dksX17_copy_1 14 rfl rfl)
theorem dX17_copy_37 : decode cX17_copy 37 = .ok (.aload_n 0, 1) := dk_42 (dk_at dksX17_copy_1 15 rfl rfl)
theorem dX17_copy_38 : decode cX17_copy 38 = .ok (.getfield 84, 3) := dk_180 0 84 (dk_at dksX17_copy_1 16 rfl rfl)
theorem dX17_copy_41 : decode cX17_copy 41 = .ok (.iload_n 1, 1) := dk_27 (dk_at dksX17_copy_1 19 rfl rfl)
theorem dX17_copy_42 : decode cX17_copy 42 = .ok (.iaload, 1) := dk_46 (dk_at dksX17_copy_1 20 rfl rfl)
theorem dX17_copy_43 : decode cX17_copy 43 = .ok (.aload_n 0, 1) := dk_42 (dk_at dksX17_copy_1 21 rfl rfl)
theorem dX17_copy_44 : decode cX17_copy 44 = .ok (.getfield 84, 3) := dk_180 0 84 (dk_at dksX17_copy_2 0 rfl rfl)
theorem dX17_copy_47 : decode cX17_copy 47 = .ok (.iload_n 3, 1) := dk_29 (dk_at dksX17_copy_2 3 rfl rfl)
theorem dX17_copy_48 : decode cX17_copy 48 = .ok (.iaload, 1) := dk_46 (dk_at dksX17_copy_2 4 rfl rfl)
theorem dX17_copy_49 : decode cX17_copy 49 = .ok (.if_icmp .eq 6, 3) := dk_159 0 6 (dk_at dksX17_copy_2 5 rfl rfl)
theorem dX17_copy_52 : decode cX17_copy 52 = .ok (.bipush (-12), 2) := dk_16 244 (dk_at dksX17_copy_2 8 rfl rfl)
theorem dX17_copy_54 : decode cX17_copy 54 = .ok (.ireturn, 1) := dk_172 (dk_at dksX17_copy_2 10 rfl rfl)
theorem dX17_copy_55 : decode cX17_copy 55 = .ok (.iload 5, 2) := dk_21 5 (dk_at dksX17_copy_2 11 rfl rfl)
theorem dX17_copy_57 : decode cX17_copy 57 = .ok (.ifCond .lt 47, 3) := dk_155 0 47 (dk_at dksX17_copy_2 13 rfl rfl)
theorem dX17_copy_60 : decode cX17_copy 60 = .ok (.iload_n 2, 1) := dk_28 (dk_at dksX17_copy_2 16 rfl rfl)
theorem dX17_copy_61 : decode cX17_copy 61 = .ok (.ifCond .lt 43, 3) := dk_155 0 43 (dk_at dksX17_copy_2 17 rfl rfl)
theorem dX17_copy_64 : decode cX17_copy 64 = .ok (.iload 4, 2) := dk_21 4 (dk_at dksX17_copy_2 20 rfl rfl)
theorem dX17_copy_66 : decode cX17_copy 66 = .ok (.ifCond .lt 38, 3) := dk_155 0 38 (dk_at dksX17_copy_3 0 rfl rfl)
theorem dX17_copy_69 : decode cX17_copy 69 = .ok (.iload_n 2, 1) := dk_28 (dk_at dksX17_copy_3 3 rfl rfl)
theorem dX17_copy_70 : decode cX17_copy 70 = .ok (.i2l, 1) := dk_133 (dk_at dksX17_copy_3 4 rfl rfl)
theorem dX17_copy_71 : decode cX17_copy 71 = .ok (.iload 5, 2) := dk_21 5 (dk_at dksX17_copy_3 5 rfl rfl)
theorem dX17_copy_73 : decode cX17_copy 73 = .ok (.i2l, 1) := dk_133 (dk_at dksX17_copy_3 7 rfl rfl)
theorem dX17_copy_74 : decode cX17_copy 74 = .ok (.ladd, 1) := dk_97 (dk_at dksX17_copy_3 8 rfl rfl)
theorem dX17_copy_75 : decode cX17_copy 75 = .ok (.aload_n 0, 1) := dk_42 (dk_at dksX17_copy_3 9 rfl rfl)
theorem dX17_copy_76 : decode cX17_copy 76 = .ok (.getfield 87, 3) := dk_180 0 87 (dk_at dksX17_copy_3 10 rfl rfl)
theorem dX17_copy_79 : decode cX17_copy 79 = .ok (.iload_n 1, 1) := dk_27 (dk_at dksX17_copy_3 13 rfl rfl)
theorem dX17_copy_80 : decode cX17_copy 80 = .ok (.iaload, 1) := dk_46 (dk_at dksX17_copy_3 14 rfl rfl)
theorem dX17_copy_81 : decode cX17_copy 81 = .ok (.i2l, 1) := dk_133 (dk_at dksX17_copy_3 15 rfl rfl)
theorem dX17_copy_82 : decode cX17_copy 82 = .ok (.lcmp, 1) := dk_148 (dk_at dksX17_copy_3 16 rfl rfl)
theorem dX17_copy_83 : decode cX17_copy 83 = .ok (.ifCond .gt 21, 3) := dk_157 0 21 (dk_at dksX17_copy_3 17 rfl rfl)
theorem dX17_copy_86 : decode cX17_copy 86 = .ok (.iload 4, 2) := dk_21 4 (dk_at dksX17_copy_3 20 rfl rfl)
theorem dX17_copy_88 : decode cX17_copy 88 = .ok (.i2l, 1) := dk_133 (dk_at dksX17_copy_3 22 rfl rfl)
theorem dX17_copy_89 : decode cX17_copy 89 = .ok (.iload 5, 2) := dk_21 5 (dk_at dksX17_copy_4 0 rfl rfl)
theorem dX17_copy_91 : decode cX17_copy 91 = .ok (.i2l, 1) := dk_133 (dk_at dksX17_copy_4 2 rfl rfl)
theorem dX17_copy_92 : decode cX17_copy 92 = .ok (.ladd, 1) := dk_97 (dk_at dksX17_copy_4 3 rfl rfl)
theorem dX17_copy_93 : decode cX17_copy 93 = .ok (.aload_n 0, 1) := dk_42 (dk_at dksX17_copy_4 4 rfl rfl)
theorem dX17_copy_94 : decode cX17_copy 94 = .ok (.getfield 87, 3) := dk_180 0 87 (dk_at dksX17_copy_4 5 rfl rfl)
theorem dX17_copy_97 : decode cX17_copy 97 = .ok (.iload_n 3, 1) := dk_29 (dk_at dksX17_copy_4 8 rfl rfl)
theorem dX17_copy_98 : decode cX17_copy 98 = .ok (.iaload, 1) := dk_46 (dk_at dksX17_copy_4 9 rfl rfl)
theorem dX17_copy_99 : decode cX17_copy 99 = .ok (.i2l, 1) := dk_133 (dk_at dksX17_copy_4 10 rfl rfl)
theorem dX17_copy_100 : decode cX17_copy 100 = .ok (.lcmp, 1) := dk_148 (dk_at dksX17_copy_4 11 rfl rfl)
theorem dX17_copy_101 : decode cX17_copy 101 = .ok (.ifCond .le 6, 3) := dk_158 0 6 (dk_at dksX17_copy_4 12 rfl rfl)
theorem dX17_copy_104 : decode cX17_copy 104 = .ok (.bipush (-13), 2) := dk_16 243 (dk_at dksX17_copy_4 15 rfl rfl)
theorem dX17_copy_106 : decode cX17_copy 106 = .ok (.ireturn, 1) := dk_172 (dk_at dksX17_copy_4 17 rfl rfl)
theorem dX17_copy_107 : decode cX17_copy 107 = .ok (.iconst 0, 1) := dk_3 (dk_at dksX17_copy_4 18 rfl rfl)
theorem dX17_copy_108 : decode cX17_copy 108 = .ok (.istore 6, 2) := dk_54 6 (dk_at dksX17_copy_4 19 rfl rfl)
theorem dX17_copy_110 : decode cX17_copy 110 = .ok (.iload 6, 2) := dk_21 6 (dk_at dksX17_copy_4 21 rfl rfl)
theorem dX17_copy_112 : decode cX17_copy 112 = .ok (.iload 5, 2) := dk_21 5 (dk_at dksX17_copy_5 0 rfl rfl)
theorem dX17_copy_114 : decode cX17_copy 114 = .ok (.if_icmp .ge 30, 3) := dk_162 0 30 (dk_at dksX17_copy_5 2 rfl rfl)
theorem dX17_copy_117 : decode cX17_copy 117 = .ok (.aload_n 0, 1) := dk_42 (dk_at dksX17_copy_5 5 rfl rfl)
theorem dX17_copy_118 : decode cX17_copy 118 = .ok (.getfield 94, 3) := dk_180 0 94 (dk_at dksX17_copy_5 6 rfl rfl)
theorem dX17_copy_121 : decode cX17_copy 121 = .ok (.iload 6, 2) := dk_21 6 (dk_at dksX17_copy_5 9 rfl rfl)
theorem dX17_copy_123 : decode cX17_copy 123 = .ok (.aload_n 0, 1) := dk_42 (dk_at dksX17_copy_5 11 rfl rfl)
theorem dX17_copy_124 : decode cX17_copy 124 = .ok (.getfield 90, 3) := dk_180 0 90 (dk_at dksX17_copy_5 12 rfl rfl)
theorem dX17_copy_127 : decode cX17_copy 127 = .ok (.bipush 32, 2) := dk_16 32 (dk_at dksX17_copy_5 15 rfl rfl)
theorem dX17_copy_129 : decode cX17_copy 129 = .ok (.iload_n 1, 1) := dk_27 (dk_at dksX17_copy_5 17 rfl rfl)
theorem dX17_copy_130 : decode cX17_copy 130 = .ok (.imul, 1) := dk_104 (dk_at dksX17_copy_5 18 rfl rfl)
theorem dX17_copy_131 : decode cX17_copy 131 = .ok (.iload_n 2, 1) := dk_28 (dk_at dksX17_copy_5 19 rfl rfl)
theorem dX17_copy_132 : decode cX17_copy 132 = .ok (.iadd, 1) := dk_96 (dk_at dksX17_copy_5 20 rfl rfl)
theorem dX17_copy_133 : decode cX17_copy 133 = .ok (.iload 6, 2) := dk_21 6 (dk_at dksX17_copy_5 21 rfl rfl)
theorem dX17_copy_135 : decode cX17_copy 135 = .ok (.iadd, 1) := dk_96 (dk_at dksX17_copy_5 23 rfl rfl)
theorem dX17_copy_136 : decode cX17_copy 136 = .ok (.laload, 1) := dk_47 (dk_at dksX17_copy_6 0 rfl rfl)
theorem dX17_copy_137 : decode cX17_copy 137 = .ok (.lastore, 1) := dk_80 (dk_at dksX17_copy_6 1 rfl rfl)
theorem dX17_copy_138 : decode cX17_copy 138 = .ok (.iinc 6 1, 3) := dk_132 6 1 (dk_at dksX17_copy_6 2 rfl rfl)
theorem dX17_copy_141 : decode cX17_copy 141 = .ok (.goto (-31), 3) := dk_167 255 225 (dk_at dksX17_copy_6 5 rfl rfl)
theorem dX17_copy_144 : decode cX17_copy 144 = .ok (.iconst 0, 1) := dk_3 (dk_at dksX17_copy_6 8 rfl rfl)
theorem dX17_copy_145 : decode cX17_copy 145 = .ok (.istore 6, 2) := dk_54 6 (dk_at dksX17_copy_6 9 rfl rfl)
theorem dX17_copy_147 : decode cX17_copy 147 = .ok (.iload 6, 2) := dk_21 6 (dk_at dksX17_copy_6 11 rfl rfl)
theorem dX17_copy_149 : decode cX17_copy 149 = .ok (.iload 5, 2) := dk_21 5 (dk_at dksX17_copy_6 13 rfl rfl)
theorem dX17_copy_151 : decode cX17_copy 151 = .ok (.if_icmp .ge 31, 3) := dk_162 0 31 (dk_at dksX17_copy_6 15 rfl rfl)
theorem dX17_copy_154 : decode cX17_copy 154 = .ok (.aload_n 0, 1) := dk_42 (dk_at dksX17_copy_6 18 rfl rfl)
theorem dX17_copy_155 : decode cX17_copy 155 = .ok (.getfield 90, 3) := dk_180 0 90 (dk_at dksX17_copy_6 19 rfl rfl)
theorem dX17_copy_158 : decode cX17_copy 158 = .ok (.bipush 32, 2) := dk_16 32 (dk_at dksX17_copy_6 22 rfl rfl)
theorem dX17_copy_160 : decode cX17_copy 160 = .ok (.iload_n 3, 1) := dk_29 (dk_at dksX17_copy_7 0 rfl rfl)
theorem dX17_copy_161 : decode cX17_copy 161 = .ok (.imul, 1) := dk_104 (dk_at dksX17_copy_7 1 rfl rfl)
theorem dX17_copy_162 : decode cX17_copy 162 = .ok (.iload 4, 2) := dk_21 4 (dk_at dksX17_copy_7 2 rfl rfl)
theorem dX17_copy_164 : decode cX17_copy 164 = .ok (.iadd, 1) := dk_96 (dk_at dksX17_copy_7 4 rfl rfl)
theorem dX17_copy_165 : decode cX17_copy 165 = .ok (.iload 6, 2) := dk_21 6 (dk_at dksX17_copy_7 5 rfl rfl)
theorem dX17_copy_167 : decode cX17_copy 167 = .ok (.iadd, 1) := dk_96 (dk_at dksX17_copy_7 7 rfl rfl)
theorem dX17_copy_168 : decode cX17_copy 168 = .ok (.aload_n 0, 1) := dk_42 (dk_at dksX17_copy_7 8 rfl rfl)
theorem dX17_copy_169 : decode cX17_copy 169 = .ok (.getfield 94, 3) := dk_180 0 94 (dk_at dksX17_copy_7 9 rfl rfl)
theorem dX17_copy_172 : decode cX17_copy 172 = .ok (.iload 6, 2) := dk_21 6 (dk_at dksX17_copy_7 12 rfl rfl)
theorem dX17_copy_174 : decode cX17_copy 174 = .ok (.laload, 1) := dk_47 (dk_at dksX17_copy_7 14 rfl rfl)
theorem dX17_copy_175 : decode cX17_copy 175 = .ok (.lastore, 1) := dk_80 (dk_at dksX17_copy_7 15 rfl rfl)
theorem dX17_copy_176 : decode cX17_copy 176 = .ok (.iinc 6 1, 3) := dk_132 6 1 (dk_at dksX17_copy_7 16 rfl rfl)
theorem dX17_copy_179 : decode cX17_copy 179 = .ok (.goto (-32), 3) := dk_167 255 224 (dk_at dksX17_copy_7 19 rfl rfl)
theorem dX17_copy_182 : decode cX17_copy 182 = .ok (.iload 5, 2) := dk_21 5 (dk_at dksX17_copy_7 22 rfl rfl)
theorem dX17_copy_184 : decode cX17_copy 184 = .ok (.ireturn, 1) := dk_172 (dk_at dksX17_copy_8 0 rfl rfl)
abbrev cX17_film : ByteArray := prog_24_method_106_code
def yX17_film : MethodName := ⟨RX17, "film", "(IIII)I"⟩
def dkwX17_film_3 : List UInt8 := [96, 42, 27, 21, 6, 182, 0, 195, 133, 80, 132, 6, 1, 167, 255, 223, 16, 24, 172]
abbrev dktX17_film_3 : List UInt8 := dkwX17_film_3 ++ []
def dkwX17_film_2 : List UInt8 := [172, 3, 54, 6, 21, 6, 16, 24, 162, 0, 32, 42, 180, 0, 90, 16, 32, 28, 104, 21, 4, 96, 21, 6]
abbrev dktX17_film_2 : List UInt8 := dkwX17_film_2 ++ dktX17_film_3
def dkwX17_film_1 : List UInt8 := [154, 0, 5, 2, 172, 42, 28, 29, 21, 4, 16, 24, 182, 1, 148, 54, 5, 21, 5, 156, 0, 6, 21, 5]
abbrev dktX17_film_1 : List UInt8 := dkwX17_film_1 ++ dktX17_film_2
def dkwX17_film_0 : List UInt8 := [27, 184, 0, 188, 153, 0, 22, 28, 184, 1, 145, 153, 0, 15, 29, 133, 9, 20, 1, 48, 184, 0, 124]
abbrev dktX17_film_0 : List UInt8 := dkwX17_film_0 ++ dktX17_film_1
theorem dksX17_film_0 : cX17_film.data.toList.drop 0 = dktX17_film_0 := by decide +kernel
theorem dksX17_film_1 : cX17_film.data.toList.drop 23 = dktX17_film_1 := dk_seg dksX17_film_0 23 rfl rfl
theorem dksX17_film_2 : cX17_film.data.toList.drop 47 = dktX17_film_2 := dk_seg dksX17_film_1 24 rfl rfl
theorem dksX17_film_3 : cX17_film.data.toList.drop 71 = dktX17_film_3 := dk_seg dksX17_film_2 24 rfl rfl
theorem dX17_film_0 : decode cX17_film 0 = .ok (.iload_n 1, 1) := dk_27 (dk_at dksX17_film_0 0 rfl rfl)
theorem dX17_film_1 : decode cX17_film 1 = .ok (.invokestatic 188, 3) := dk_184 0 188 (dk_at dksX17_film_0 1 rfl rfl)
theorem dX17_film_4 : decode cX17_film 4 = .ok (.ifCond .eq 22, 3) := dk_153 0 22 (dk_at dksX17_film_0 4 rfl rfl)
theorem dX17_film_7 : decode cX17_film 7 = .ok (.iload_n 2, 1) := dk_28 (dk_at dksX17_film_0 7 rfl rfl)
theorem dX17_film_8 : decode cX17_film 8 = .ok (.invokestatic 401, 3) := dk_184 1 145 (dk_at dksX17_film_0 8 rfl rfl)
theorem dX17_film_11 : decode cX17_film 11 = .ok (.ifCond .eq 15, 3) := dk_153 0 15 (dk_at dksX17_film_0 11 rfl rfl)
theorem dX17_film_14 : decode cX17_film 14 = .ok (.iload_n 3, 1) := dk_29 (dk_at dksX17_film_0 14 rfl rfl)
theorem dX17_film_15 : decode cX17_film 15 = .ok (.i2l, 1) := dk_133 (dk_at dksX17_film_0 15 rfl rfl)
theorem dX17_film_16 : decode cX17_film 16 = .ok (.lconst 0, 1) := dk_9 (dk_at dksX17_film_0 16 rfl rfl)
theorem dX17_film_17 : decode cX17_film 17 = .ok (.ldc2_w 304, 3) := dk_20 1 48 (dk_at dksX17_film_0 17 rfl rfl)
theorem dX17_film_20 : decode cX17_film 20 = .ok (.invokestatic 124, 3) := dk_184 0 124 (dk_at dksX17_film_0 20 rfl rfl)
theorem dX17_film_23 : decode cX17_film 23 = .ok (.ifCond .ne 5, 3) := dk_154 0 5 (dk_at dksX17_film_1 0 rfl rfl)
theorem dX17_film_26 : decode cX17_film 26 = .ok (.iconst (-1), 1) := dk_2 (dk_at dksX17_film_1 3 rfl rfl)
theorem dX17_film_27 : decode cX17_film 27 = .ok (.ireturn, 1) := dk_172 (dk_at dksX17_film_1 4 rfl rfl)
theorem dX17_film_28 : decode cX17_film 28 = .ok (.aload_n 0, 1) := dk_42 (dk_at dksX17_film_1 5 rfl rfl)
theorem dX17_film_29 : decode cX17_film 29 = .ok (.iload_n 2, 1) := dk_28 (dk_at dksX17_film_1 6 rfl rfl)
theorem dX17_film_30 : decode cX17_film 30 = .ok (.iload_n 3, 1) := dk_29 (dk_at dksX17_film_1 7 rfl rfl)
theorem dX17_film_31 : decode cX17_film 31 = .ok (.iload 4, 2) := dk_21 4 (dk_at dksX17_film_1 8 rfl rfl)
theorem dX17_film_33 : decode cX17_film 33 = .ok (.bipush 24, 2) := dk_16 24 (dk_at dksX17_film_1 10 rfl rfl)
theorem dX17_film_35 : decode cX17_film 35 = .ok (.invokevirtual 404, 3) := dk_182 1 148 (dk_at dksX17_film_1 12 rfl rfl)
theorem dX17_film_38 : decode cX17_film 38 = .ok (.istore 5, 2) := dk_54 5 (dk_at dksX17_film_1 15 rfl rfl)
theorem dX17_film_40 : decode cX17_film 40 = .ok (.iload 5, 2) := dk_21 5 (dk_at dksX17_film_1 17 rfl rfl)
theorem dX17_film_42 : decode cX17_film 42 = .ok (.ifCond .ge 6, 3) := dk_156 0 6 (dk_at dksX17_film_1 19 rfl rfl)
theorem dX17_film_45 : decode cX17_film 45 = .ok (.iload 5, 2) := dk_21 5 (dk_at dksX17_film_1 22 rfl rfl)
theorem dX17_film_47 : decode cX17_film 47 = .ok (.ireturn, 1) := dk_172 (dk_at dksX17_film_2 0 rfl rfl)
theorem dX17_film_48 : decode cX17_film 48 = .ok (.iconst 0, 1) := dk_3 (dk_at dksX17_film_2 1 rfl rfl)
theorem dX17_film_49 : decode cX17_film 49 = .ok (.istore 6, 2) := dk_54 6 (dk_at dksX17_film_2 2 rfl rfl)
theorem dX17_film_51 : decode cX17_film 51 = .ok (.iload 6, 2) := dk_21 6 (dk_at dksX17_film_2 4 rfl rfl)
theorem dX17_film_53 : decode cX17_film 53 = .ok (.bipush 24, 2) := dk_16 24 (dk_at dksX17_film_2 6 rfl rfl)
theorem dX17_film_55 : decode cX17_film 55 = .ok (.if_icmp .ge 32, 3) := dk_162 0 32 (dk_at dksX17_film_2 8 rfl rfl)
theorem dX17_film_58 : decode cX17_film 58 = .ok (.aload_n 0, 1) := dk_42 (dk_at dksX17_film_2 11 rfl rfl)
theorem dX17_film_59 : decode cX17_film 59 = .ok (.getfield 90, 3) := dk_180 0 90 (dk_at dksX17_film_2 12 rfl rfl)
theorem dX17_film_62 : decode cX17_film 62 = .ok (.bipush 32, 2) := dk_16 32 (dk_at dksX17_film_2 15 rfl rfl)
theorem dX17_film_64 : decode cX17_film 64 = .ok (.iload_n 2, 1) := dk_28 (dk_at dksX17_film_2 17 rfl rfl)
theorem dX17_film_65 : decode cX17_film 65 = .ok (.imul, 1) := dk_104 (dk_at dksX17_film_2 18 rfl rfl)
theorem dX17_film_66 : decode cX17_film 66 = .ok (.iload 4, 2) := dk_21 4 (dk_at dksX17_film_2 19 rfl rfl)
theorem dX17_film_68 : decode cX17_film 68 = .ok (.iadd, 1) := dk_96 (dk_at dksX17_film_2 21 rfl rfl)
theorem dX17_film_69 : decode cX17_film 69 = .ok (.iload 6, 2) := dk_21 6 (dk_at dksX17_film_2 22 rfl rfl)
theorem dX17_film_71 : decode cX17_film 71 = .ok (.iadd, 1) := dk_96 (dk_at dksX17_film_3 0 rfl rfl)
theorem dX17_film_72 : decode cX17_film 72 = .ok (.aload_n 0, 1) := dk_42 (dk_at dksX17_film_3 1 rfl rfl)
theorem dX17_film_73 : decode cX17_film 73 = .ok (.iload_n 1, 1) := dk_27 (dk_at dksX17_film_3 2 rfl rfl)
theorem dX17_film_74 : decode cX17_film 74 = .ok (.iload 6, 2) := dk_21 6 (dk_at dksX17_film_3 3 rfl rfl)
theorem dX17_film_76 : decode cX17_film 76 = .ok (.invokevirtual 195, 3) := dk_182 0 195 (dk_at dksX17_film_3 5 rfl rfl)
theorem dX17_film_79 : decode cX17_film 79 = .ok (.i2l, 1) := dk_133 (dk_at dksX17_film_3 8 rfl rfl)
theorem dX17_film_80 : decode cX17_film 80 = .ok (.lastore, 1) := dk_80 (dk_at dksX17_film_3 9 rfl rfl)
theorem dX17_film_81 : decode cX17_film 81 = .ok (.iinc 6 1, 3) := dk_132 6 1 (dk_at dksX17_film_3 10 rfl rfl)
theorem dX17_film_84 : decode cX17_film 84 = .ok (.goto (-33), 3) := dk_167 255 223 (dk_at dksX17_film_3 13 rfl rfl)
theorem dX17_film_87 : decode cX17_film 87 = .ok (.bipush 24, 2) := dk_16 24 (dk_at dksX17_film_3 16 rfl rfl)
theorem dX17_film_89 : decode cX17_film 89 = .ok (.ireturn, 1) := dk_172 (dk_at dksX17_film_3 18 rfl rfl)
abbrev cX17_retrace : ByteArray := prog_24_method_110_code
def yX17_retrace : MethodName := ⟨RX17, "retrace", "(IIIII)I"⟩
def dkwX17_retrace_9 : List UInt8 := [182, 1, 115, 172]
abbrev dktX17_retrace_9 : List UInt8 := dkwX17_retrace_9 ++ []
def dkwX17_retrace_8 : List UInt8 := [21, 9, 96, 42, 180, 0, 52, 21, 9, 46, 79, 132, 9, 1, 167, 255, 229, 42, 21, 8, 184, 0, 115]
abbrev dktX17_retrace_8 : List UInt8 := dkwX17_retrace_8 ++ dktX17_retrace_9
def dkwX17_retrace_7 : List UInt8 := [182, 1, 162, 154, 0, 5, 3, 172, 3, 54, 9, 21, 9, 16, 24, 162, 0, 26, 42, 180, 0, 7, 16, 96]
abbrev dktX17_retrace_7 : List UInt8 := dkwX17_retrace_7 ++ dktX17_retrace_8
def dkwX17_retrace_6 : List UInt8 := [54, 8, 21, 8, 156, 0, 5, 3, 172, 42, 27, 21, 8, 182, 1, 112, 42, 21, 8, 184, 0, 115]
abbrev dktX17_retrace_6 : List UInt8 := dkwX17_retrace_6 ++ dktX17_retrace_7
def dkwX17_retrace_5 : List UInt8 := [167, 255, 211, 21, 7, 154, 0, 6, 16, 254, 172, 42, 16, 32, 28, 104, 21, 4, 96, 21, 5, 182, 1, 159]
abbrev dktX17_retrace_5 : List UInt8 := dkwX17_retrace_5 ++ dktX17_retrace_6
def dkwX17_retrace_4 : List UInt8 := [21, 4, 96, 21, 8, 96, 47, 184, 0, 191, 153, 0, 7, 4, 167, 0, 4, 3, 54, 7, 132, 8, 1]
abbrev dktX17_retrace_4 : List UInt8 := dkwX17_retrace_4 ++ dktX17_retrace_5
def dkwX17_retrace_3 : List UInt8 := [54, 8, 21, 8, 5, 21, 5, 104, 162, 0, 42, 21, 7, 153, 0, 28, 42, 180, 0, 90, 16, 32, 28, 104]
abbrev dktX17_retrace_3 : List UInt8 := dkwX17_retrace_3 ++ dktX17_retrace_4
def dkwX17_retrace_2 : List UInt8 := [21, 5, 104, 182, 1, 148, 54, 6, 21, 6, 156, 0, 6, 21, 6, 172, 42, 27, 182, 1, 109, 54, 7, 3]
abbrev dktX17_retrace_2 : List UInt8 := dkwX17_retrace_2 ++ dktX17_retrace_3
def dkwX17_retrace_1 : List UInt8 := [153, 0, 16, 21, 5, 133, 10, 20, 0, 184, 184, 0, 124, 154, 0, 5, 2, 172, 42, 28, 29, 21, 4, 5]
abbrev dktX17_retrace_1 : List UInt8 := dkwX17_retrace_1 ++ dktX17_retrace_2
def dkwX17_retrace_0 : List UInt8 := [27, 184, 1, 106, 153, 0, 35, 28, 184, 1, 145, 153, 0, 28, 29, 133, 9, 20, 1, 48, 184, 0, 124]
abbrev dktX17_retrace_0 : List UInt8 := dkwX17_retrace_0 ++ dktX17_retrace_1
theorem dksX17_retrace_0 : cX17_retrace.data.toList.drop 0 = dktX17_retrace_0 := by decide +kernel
theorem dksX17_retrace_1 : cX17_retrace.data.toList.drop 23 = dktX17_retrace_1 := dk_seg dksX17_retrace_0 23 rfl rfl
theorem dksX17_retrace_2 : cX17_retrace.data.toList.drop 47 = dktX17_retrace_2 := dk_seg dksX17_retrace_1 24 rfl rfl
theorem dksX17_retrace_3 : cX17_retrace.data.toList.drop 71 = dktX17_retrace_3 := dk_seg dksX17_retrace_2 24 rfl rfl
theorem dksX17_retrace_4 : cX17_retrace.data.toList.drop 95 = dktX17_retrace_4 := dk_seg dksX17_retrace_3 24 rfl rfl
theorem dksX17_retrace_5 : cX17_retrace.data.toList.drop 118 = dktX17_retrace_5 := dk_seg dksX17_retrace_4 23 rfl rfl
theorem dksX17_retrace_6 : cX17_retrace.data.toList.drop 142 = dktX17_retrace_6 := dk_seg dksX17_retrace_5 24 rfl rfl
theorem dksX17_retrace_7 : cX17_retrace.data.toList.drop 164 = dktX17_retrace_7 := dk_seg dksX17_retrace_6 22 rfl rfl
theorem dksX17_retrace_8 : cX17_retrace.data.toList.drop 188 = dktX17_retrace_8 := dk_seg dksX17_retrace_7 24 rfl rfl
theorem dksX17_retrace_9 : cX17_retrace.data.toList.drop 211 = dktX17_retrace_9 := dk_seg dksX17_retrace_8 23 rfl rfl
theorem dX17_retrace_0 : decode cX17_retrace 0 = .ok (.iload_n 1, 1) := dk_27 (dk_at dksX17_retrace_0 0 rfl rfl)
theorem dX17_retrace_1 : decode cX17_retrace 1 = .ok (.invokestatic 362, 3) := dk_184 1 106 (dk_at dksX17_retrace_0 1 rfl rfl)
theorem dX17_retrace_4 : decode cX17_retrace 4 = .ok (.ifCond .eq 35, 3) := dk_153 0 35 (dk_at dksX17_retrace_0 4 rfl rfl)
theorem dX17_retrace_7 : decode cX17_retrace 7 = .ok (.iload_n 2, 1) := dk_28 (dk_at dksX17_retrace_0 7 rfl rfl)
theorem dX17_retrace_8 : decode cX17_retrace 8 = .ok (.invokestatic 401, 3) := dk_184 1 145 (dk_at dksX17_retrace_0 8 rfl rfl)
theorem dX17_retrace_11 : decode cX17_retrace 11 = .ok (.ifCond .eq 28, 3) := dk_153 0 28 (dk_at dksX17_retrace_0 11 rfl rfl)
theorem dX17_retrace_14 : decode cX17_retrace 14 = .ok (.iload_n 3, 1) := dk_29 (dk_at dksX17_retrace_0 14 rfl rfl)
theorem dX17_retrace_15 : decode cX17_retrace 15 = .ok (.i2l, 1) := dk_133 (dk_at dksX17_retrace_0 15 rfl rfl)
theorem dX17_retrace_16 : decode cX17_retrace 16 = .ok (.lconst 0, 1) := dk_9 (dk_at dksX17_retrace_0 16 rfl rfl)
theorem dX17_retrace_17 : decode cX17_retrace 17 = .ok (.ldc2_w 304, 3) := dk_20 1 48 (dk_at dksX17_retrace_0 17 rfl rfl)
theorem dX17_retrace_20 : decode cX17_retrace 20 = .ok (.invokestatic 124, 3) := dk_184 0 124 (dk_at dksX17_retrace_0 20 rfl rfl)
theorem dX17_retrace_23 : decode cX17_retrace 23 = .ok (.ifCond .eq 16, 3) := dk_153 0 16 (dk_at dksX17_retrace_1 0 rfl rfl)
theorem dX17_retrace_26 : decode cX17_retrace 26 = .ok (.iload 5, 2) := dk_21 5 (dk_at dksX17_retrace_1 3 rfl rfl)
theorem dX17_retrace_28 : decode cX17_retrace 28 = .ok (.i2l, 1) := dk_133 (dk_at dksX17_retrace_1 5 rfl rfl)
theorem dX17_retrace_29 : decode cX17_retrace 29 = .ok (.lconst 1, 1) := dk_10 (dk_at dksX17_retrace_1 6 rfl rfl)
theorem dX17_retrace_30 : decode cX17_retrace 30 = .ok (.ldc2_w 184, 3) := dk_20 0 184 (dk_at dksX17_retrace_1 7 rfl rfl)
theorem dX17_retrace_33 : decode cX17_retrace 33 = .ok (.invokestatic 124, 3) := dk_184 0 124 (dk_at dksX17_retrace_1 10 rfl rfl)
theorem dX17_retrace_36 : decode cX17_retrace 36 = .ok (.ifCond .ne 5, 3) := dk_154 0 5 (dk_at dksX17_retrace_1 13 rfl rfl)
theorem dX17_retrace_39 : decode cX17_retrace 39 = .ok (.iconst (-1), 1) := dk_2 (dk_at dksX17_retrace_1 16 rfl rfl)
theorem dX17_retrace_40 : decode cX17_retrace 40 = .ok (.ireturn, 1) := dk_172 (dk_at dksX17_retrace_1 17 rfl rfl)
theorem dX17_retrace_41 : decode cX17_retrace 41 = .ok (.aload_n 0, 1) := dk_42 (dk_at dksX17_retrace_1 18 rfl rfl)
theorem dX17_retrace_42 : decode cX17_retrace 42 = .ok (.iload_n 2, 1) := dk_28 (dk_at dksX17_retrace_1 19 rfl rfl)
theorem dX17_retrace_43 : decode cX17_retrace 43 = .ok (.iload_n 3, 1) := dk_29 (dk_at dksX17_retrace_1 20 rfl rfl)
theorem dX17_retrace_44 : decode cX17_retrace 44 = .ok (.iload 4, 2) := dk_21 4 (dk_at dksX17_retrace_1 21 rfl rfl)
theorem dX17_retrace_46 : decode cX17_retrace 46 = .ok (.iconst 2, 1) := dk_5 (dk_at dksX17_retrace_1 23 rfl rfl)
theorem dX17_retrace_47 : decode cX17_retrace 47 = .ok (.iload 5, 2) := dk_21 5 (dk_at dksX17_retrace_2 0 rfl rfl)
theorem dX17_retrace_49 : decode cX17_retrace 49 = .ok (.imul, 1) := dk_104 (dk_at dksX17_retrace_2 2 rfl rfl)
theorem dX17_retrace_50 : decode cX17_retrace 50 = .ok (.invokevirtual 404, 3) := dk_182 1 148 (dk_at dksX17_retrace_2 3 rfl rfl)
theorem dX17_retrace_53 : decode cX17_retrace 53 = .ok (.istore 6, 2) := dk_54 6 (dk_at dksX17_retrace_2 6 rfl rfl)
theorem dX17_retrace_55 : decode cX17_retrace 55 = .ok (.iload 6, 2) := dk_21 6 (dk_at dksX17_retrace_2 8 rfl rfl)
theorem dX17_retrace_57 : decode cX17_retrace 57 = .ok (.ifCond .ge 6, 3) := dk_156 0 6 (dk_at dksX17_retrace_2 10 rfl rfl)
theorem dX17_retrace_60 : decode cX17_retrace 60 = .ok (.iload 6, 2) := dk_21 6 (dk_at dksX17_retrace_2 13 rfl rfl)
theorem dX17_retrace_62 : decode cX17_retrace 62 = .ok (.ireturn, 1) := dk_172 (dk_at dksX17_retrace_2 15 rfl rfl)
theorem dX17_retrace_63 : decode cX17_retrace 63 = .ok (.aload_n 0, 1) := dk_42 (dk_at dksX17_retrace_2 16 rfl rfl)
theorem dX17_retrace_64 : decode cX17_retrace 64 = .ok (.iload_n 1, 1) := dk_27 (dk_at dksX17_retrace_2 17 rfl rfl)
theorem dX17_retrace_65 : decode cX17_retrace 65 = .ok (.invokevirtual 365, 3) := dk_182 1 109 (dk_at dksX17_retrace_2 18 rfl rfl)
theorem dX17_retrace_68 : decode cX17_retrace 68 = .ok (.istore 7, 2) := dk_54 7 (dk_at dksX17_retrace_2 21 rfl rfl)
theorem dX17_retrace_70 : decode cX17_retrace 70 = .ok (.iconst 0, 1) := dk_3 (dk_at dksX17_retrace_2 23 rfl rfl)
theorem dX17_retrace_71 : decode cX17_retrace 71 = .ok (.istore 8, 2) := dk_54 8 (dk_at dksX17_retrace_3 0 rfl rfl)
theorem dX17_retrace_73 : decode cX17_retrace 73 = .ok (.iload 8, 2) := dk_21 8 (dk_at dksX17_retrace_3 2 rfl rfl)
theorem dX17_retrace_75 : decode cX17_retrace 75 = .ok (.iconst 2, 1) := dk_5 (dk_at dksX17_retrace_3 4 rfl rfl)
theorem dX17_retrace_76 : decode cX17_retrace 76 = .ok (.iload 5, 2) := dk_21 5 (dk_at dksX17_retrace_3 5 rfl rfl)
theorem dX17_retrace_78 : decode cX17_retrace 78 = .ok (.imul, 1) := dk_104 (dk_at dksX17_retrace_3 7 rfl rfl)
theorem dX17_retrace_79 : decode cX17_retrace 79 = .ok (.if_icmp .ge 42, 3) := dk_162 0 42 (dk_at dksX17_retrace_3 8 rfl rfl)
theorem dX17_retrace_82 : decode cX17_retrace 82 = .ok (.iload 7, 2) := dk_21 7 (dk_at dksX17_retrace_3 11 rfl rfl)
theorem dX17_retrace_84 : decode cX17_retrace 84 = .ok (.ifCond .eq 28, 3) := dk_153 0 28 (dk_at dksX17_retrace_3 13 rfl rfl)
theorem dX17_retrace_87 : decode cX17_retrace 87 = .ok (.aload_n 0, 1) := dk_42 (dk_at dksX17_retrace_3 16 rfl rfl)
theorem dX17_retrace_88 : decode cX17_retrace 88 = .ok (.getfield 90, 3) := dk_180 0 90 (dk_at dksX17_retrace_3 17 rfl rfl)
theorem dX17_retrace_91 : decode cX17_retrace 91 = .ok (.bipush 32, 2) := dk_16 32 (dk_at dksX17_retrace_3 20 rfl rfl)
theorem dX17_retrace_93 : decode cX17_retrace 93 = .ok (.iload_n 2, 1) := dk_28 (dk_at dksX17_retrace_3 22 rfl rfl)
theorem dX17_retrace_94 : decode cX17_retrace 94 = .ok (.imul, 1) := dk_104 (dk_at dksX17_retrace_3 23 rfl rfl)
theorem dX17_retrace_95 : decode cX17_retrace 95 = .ok (.iload 4, 2) := dk_21 4 (dk_at dksX17_retrace_4 0 rfl rfl)
theorem dX17_retrace_97 : decode cX17_retrace 97 = .ok (.iadd, 1) := dk_96 (dk_at dksX17_retrace_4 2 rfl rfl)
theorem dX17_retrace_98 : decode cX17_retrace 98 = .ok (.iload 8, 2) := dk_21 8 (dk_at dksX17_retrace_4 3 rfl rfl)
theorem dX17_retrace_100 : decode cX17_retrace 100 = .ok (.iadd, 1) := dk_96 (dk_at dksX17_retrace_4 5 rfl rfl)
theorem dX17_retrace_101 : decode cX17_retrace 101 = .ok (.laload, 1) := dk_47 (dk_at dksX17_retrace_4 6 rfl rfl)
theorem dX17_retrace_102 : decode cX17_retrace 102 = .ok (.invokestatic 191, 3) := dk_184 0 191 (dk_at dksX17_retrace_4 7 rfl rfl)
theorem dX17_retrace_105 : decode cX17_retrace 105 = .ok (.ifCond .eq 7, 3) := dk_153 0 7 (dk_at dksX17_retrace_4 10 rfl rfl)
theorem dX17_retrace_108 : decode cX17_retrace 108 = .ok (.iconst 1, 1) := dk_4 (dk_at dksX17_retrace_4 13 rfl rfl)
theorem dX17_retrace_109 : decode cX17_retrace 109 = .ok (.goto 4, 3) := dk_167 0 4 (dk_at dksX17_retrace_4 14 rfl rfl)
theorem dX17_retrace_112 : decode cX17_retrace 112 = .ok (.iconst 0, 1) := dk_3 (dk_at dksX17_retrace_4 17 rfl rfl)
theorem dX17_retrace_113 : decode cX17_retrace 113 = .ok (.istore 7, 2) := dk_54 7 (dk_at dksX17_retrace_4 18 rfl rfl)
theorem dX17_retrace_115 : decode cX17_retrace 115 = .ok (.iinc 8 1, 3) := dk_132 8 1 (dk_at dksX17_retrace_4 20 rfl rfl)
theorem dX17_retrace_118 : decode cX17_retrace 118 = .ok (.goto (-45), 3) := dk_167 255 211 (dk_at dksX17_retrace_5 0 rfl rfl)
theorem dX17_retrace_121 : decode cX17_retrace 121 = .ok (.iload 7, 2) := dk_21 7 (dk_at dksX17_retrace_5 3 rfl rfl)
theorem dX17_retrace_123 : decode cX17_retrace 123 = .ok (.ifCond .ne 6, 3) := dk_154 0 6 (dk_at dksX17_retrace_5 5 rfl rfl)
theorem dX17_retrace_126 : decode cX17_retrace 126 = .ok (.bipush (-2), 2) := dk_16 254 (dk_at dksX17_retrace_5 8 rfl rfl)
theorem dX17_retrace_128 : decode cX17_retrace 128 = .ok (.ireturn, 1) := dk_172 (dk_at dksX17_retrace_5 10 rfl rfl)
theorem dX17_retrace_129 : decode cX17_retrace 129 = .ok (.aload_n 0, 1) := dk_42 (dk_at dksX17_retrace_5 11 rfl rfl)
theorem dX17_retrace_130 : decode cX17_retrace 130 = .ok (.bipush 32, 2) := dk_16 32 (dk_at dksX17_retrace_5 12 rfl rfl)
theorem dX17_retrace_132 : decode cX17_retrace 132 = .ok (.iload_n 2, 1) := dk_28 (dk_at dksX17_retrace_5 14 rfl rfl)
theorem dX17_retrace_133 : decode cX17_retrace 133 = .ok (.imul, 1) := dk_104 (dk_at dksX17_retrace_5 15 rfl rfl)
theorem dX17_retrace_134 : decode cX17_retrace 134 = .ok (.iload 4, 2) := dk_21 4 (dk_at dksX17_retrace_5 16 rfl rfl)
theorem dX17_retrace_136 : decode cX17_retrace 136 = .ok (.iadd, 1) := dk_96 (dk_at dksX17_retrace_5 18 rfl rfl)
theorem dX17_retrace_137 : decode cX17_retrace 137 = .ok (.iload 5, 2) := dk_21 5 (dk_at dksX17_retrace_5 19 rfl rfl)
theorem dX17_retrace_139 : decode cX17_retrace 139 = .ok (.invokevirtual 415, 3) := dk_182 1 159 (dk_at dksX17_retrace_5 21 rfl rfl)
theorem dX17_retrace_142 : decode cX17_retrace 142 = .ok (.istore 8, 2) := dk_54 8 (dk_at dksX17_retrace_6 0 rfl rfl)
theorem dX17_retrace_144 : decode cX17_retrace 144 = .ok (.iload 8, 2) := dk_21 8 (dk_at dksX17_retrace_6 2 rfl rfl)
theorem dX17_retrace_146 : decode cX17_retrace 146 = .ok (.ifCond .ge 5, 3) := dk_156 0 5 (dk_at dksX17_retrace_6 4 rfl rfl)
theorem dX17_retrace_149 : decode cX17_retrace 149 = .ok (.iconst 0, 1) := dk_3 (dk_at dksX17_retrace_6 7 rfl rfl)
theorem dX17_retrace_150 : decode cX17_retrace 150 = .ok (.ireturn, 1) := dk_172 (dk_at dksX17_retrace_6 8 rfl rfl)
theorem dX17_retrace_151 : decode cX17_retrace 151 = .ok (.aload_n 0, 1) := dk_42 (dk_at dksX17_retrace_6 9 rfl rfl)
theorem dX17_retrace_152 : decode cX17_retrace 152 = .ok (.iload_n 1, 1) := dk_27 (dk_at dksX17_retrace_6 10 rfl rfl)
theorem dX17_retrace_153 : decode cX17_retrace 153 = .ok (.iload 8, 2) := dk_21 8 (dk_at dksX17_retrace_6 11 rfl rfl)
theorem dX17_retrace_155 : decode cX17_retrace 155 = .ok (.invokevirtual 368, 3) := dk_182 1 112 (dk_at dksX17_retrace_6 13 rfl rfl)
theorem dX17_retrace_158 : decode cX17_retrace 158 = .ok (.aload_n 0, 1) := dk_42 (dk_at dksX17_retrace_6 16 rfl rfl)
theorem dX17_retrace_159 : decode cX17_retrace 159 = .ok (.iload 8, 2) := dk_21 8 (dk_at dksX17_retrace_6 17 rfl rfl)
theorem dX17_retrace_161 : decode cX17_retrace 161 = .ok (.invokestatic 115, 3) := dk_184 0 115 (dk_at dksX17_retrace_6 19 rfl rfl)
theorem dX17_retrace_164 : decode cX17_retrace 164 = .ok (.invokevirtual 418, 3) := dk_182 1 162 (dk_at dksX17_retrace_7 0 rfl rfl)
theorem dX17_retrace_167 : decode cX17_retrace 167 = .ok (.ifCond .ne 5, 3) := dk_154 0 5 (dk_at dksX17_retrace_7 3 rfl rfl)
theorem dX17_retrace_170 : decode cX17_retrace 170 = .ok (.iconst 0, 1) := dk_3 (dk_at dksX17_retrace_7 6 rfl rfl)
theorem dX17_retrace_171 : decode cX17_retrace 171 = .ok (.ireturn, 1) := dk_172 (dk_at dksX17_retrace_7 7 rfl rfl)
theorem dX17_retrace_172 : decode cX17_retrace 172 = .ok (.iconst 0, 1) := dk_3 (dk_at dksX17_retrace_7 8 rfl rfl)
theorem dX17_retrace_173 : decode cX17_retrace 173 = .ok (.istore 9, 2) := dk_54 9 (dk_at dksX17_retrace_7 9 rfl rfl)
theorem dX17_retrace_175 : decode cX17_retrace 175 = .ok (.iload 9, 2) := dk_21 9 (dk_at dksX17_retrace_7 11 rfl rfl)
theorem dX17_retrace_177 : decode cX17_retrace 177 = .ok (.bipush 24, 2) := dk_16 24 (dk_at dksX17_retrace_7 13 rfl rfl)
theorem dX17_retrace_179 : decode cX17_retrace 179 = .ok (.if_icmp .ge 26, 3) := dk_162 0 26 (dk_at dksX17_retrace_7 15 rfl rfl)
theorem dX17_retrace_182 : decode cX17_retrace 182 = .ok (.aload_n 0, 1) := dk_42 (dk_at dksX17_retrace_7 18 rfl rfl)
theorem dX17_retrace_183 : decode cX17_retrace 183 = .ok (.getfield 7, 3) := dk_180 0 7 (dk_at dksX17_retrace_7 19 rfl rfl)
theorem dX17_retrace_186 : decode cX17_retrace 186 = .ok (.bipush 96, 2) := dk_16 96 (dk_at dksX17_retrace_7 22 rfl rfl)
theorem dX17_retrace_188 : decode cX17_retrace 188 = .ok (.iload 9, 2) := dk_21 9 (dk_at dksX17_retrace_8 0 rfl rfl)
theorem dX17_retrace_190 : decode cX17_retrace 190 = .ok (.iadd, 1) := dk_96 (dk_at dksX17_retrace_8 2 rfl rfl)
theorem dX17_retrace_191 : decode cX17_retrace 191 = .ok (.aload_n 0, 1) := dk_42 (dk_at dksX17_retrace_8 3 rfl rfl)
theorem dX17_retrace_192 : decode cX17_retrace 192 = .ok (.getfield 52, 3) := dk_180 0 52 (dk_at dksX17_retrace_8 4 rfl rfl)
theorem dX17_retrace_195 : decode cX17_retrace 195 = .ok (.iload 9, 2) := dk_21 9 (dk_at dksX17_retrace_8 7 rfl rfl)
theorem dX17_retrace_197 : decode cX17_retrace 197 = .ok (.iaload, 1) := dk_46 (dk_at dksX17_retrace_8 9 rfl rfl)
theorem dX17_retrace_198 : decode cX17_retrace 198 = .ok (.iastore, 1) := dk_79 (dk_at dksX17_retrace_8 10 rfl rfl)
theorem dX17_retrace_199 : decode cX17_retrace 199 = .ok (.iinc 9 1, 3) := dk_132 9 1 (dk_at dksX17_retrace_8 11 rfl rfl)
theorem dX17_retrace_202 : decode cX17_retrace 202 = .ok (.goto (-27), 3) := dk_167 255 229 (dk_at dksX17_retrace_8 14 rfl rfl)
theorem dX17_retrace_205 : decode cX17_retrace 205 = .ok (.aload_n 0, 1) := dk_42 (dk_at dksX17_retrace_8 17 rfl rfl)
theorem dX17_retrace_206 : decode cX17_retrace 206 = .ok (.iload 8, 2) := dk_21 8 (dk_at dksX17_retrace_8 18 rfl rfl)
theorem dX17_retrace_208 : decode cX17_retrace 208 = .ok (.invokestatic 115, 3) := dk_184 0 115 (dk_at dksX17_retrace_8 20 rfl rfl)
theorem dX17_retrace_211 : decode cX17_retrace 211 = .ok (.invokevirtual 371, 3) := dk_182 1 115 (dk_at dksX17_retrace_9 0 rfl rfl)
theorem dX17_retrace_214 : decode cX17_retrace 214 = .ok (.ireturn, 1) := dk_172 (dk_at dksX17_retrace_9 3 rfl rfl)
abbrev cX17_wants : ByteArray := prog_24_method_107_code
def yX17_wants : MethodName := ⟨RX17, "wants", "(II)I"⟩
def dkwX17_wants_4 : List UInt8 := [132, 5, 1, 167, 255, 168, 21, 4, 153, 0, 7, 2, 167, 0, 4, 29, 172]
abbrev dktX17_wants_4 : List UInt8 := dkwX17_wants_4 ++ []
def dkwX17_wants_3 : List UInt8 := [4, 167, 0, 4, 3, 54, 4, 42, 180, 0, 97, 21, 6, 21, 7, 79, 29, 4, 21, 6, 120, 128, 62]
abbrev dktX17_wants_3 : List UInt8 := dkwX17_wants_3 ++ dktX17_wants_4
def dkwX17_wants_2 : List UInt8 := [154, 0, 24, 29, 21, 6, 184, 0, 118, 153, 0, 19, 42, 180, 0, 97, 21, 6, 46, 21, 7, 159, 0, 7]
abbrev dktX17_wants_2 : List UInt8 := dkwX17_wants_2 ++ dktX17_wants_3
def dkwX17_wants_1 : List UInt8 := [47, 136, 54, 6, 42, 180, 0, 90, 27, 5, 21, 5, 104, 96, 4, 96, 47, 136, 54, 7, 21, 4]
abbrev dktX17_wants_1 : List UInt8 := dkwX17_wants_1 ++ dktX17_wants_2
def dkwX17_wants_0 : List UInt8 := [3, 62, 3, 54, 4, 3, 54, 5, 21, 5, 28, 162, 0, 88, 42, 180, 0, 90, 27, 5, 21, 5, 104, 96]
abbrev dktX17_wants_0 : List UInt8 := dkwX17_wants_0 ++ dktX17_wants_1
theorem dksX17_wants_0 : cX17_wants.data.toList.drop 0 = dktX17_wants_0 := by decide +kernel
theorem dksX17_wants_1 : cX17_wants.data.toList.drop 24 = dktX17_wants_1 := dk_seg dksX17_wants_0 24 rfl rfl
theorem dksX17_wants_2 : cX17_wants.data.toList.drop 46 = dktX17_wants_2 := dk_seg dksX17_wants_1 22 rfl rfl
theorem dksX17_wants_3 : cX17_wants.data.toList.drop 70 = dktX17_wants_3 := dk_seg dksX17_wants_2 24 rfl rfl
theorem dksX17_wants_4 : cX17_wants.data.toList.drop 93 = dktX17_wants_4 := dk_seg dksX17_wants_3 23 rfl rfl
theorem dX17_wants_0 : decode cX17_wants 0 = .ok (.iconst 0, 1) := dk_3 (dk_at dksX17_wants_0 0 rfl rfl)
theorem dX17_wants_1 : decode cX17_wants 1 = .ok (.istore_n 3, 1) := dk_62 (dk_at dksX17_wants_0 1 rfl rfl)
theorem dX17_wants_2 : decode cX17_wants 2 = .ok (.iconst 0, 1) := dk_3 (dk_at dksX17_wants_0 2 rfl rfl)
theorem dX17_wants_3 : decode cX17_wants 3 = .ok (.istore 4, 2) := dk_54 4 (dk_at dksX17_wants_0 3 rfl rfl)
theorem dX17_wants_5 : decode cX17_wants 5 = .ok (.iconst 0, 1) := dk_3 (dk_at dksX17_wants_0 5 rfl rfl)
theorem dX17_wants_6 : decode cX17_wants 6 = .ok (.istore 5, 2) := dk_54 5 (dk_at dksX17_wants_0 6 rfl rfl)
theorem dX17_wants_8 : decode cX17_wants 8 = .ok (.iload 5, 2) := dk_21 5 (dk_at dksX17_wants_0 8 rfl rfl)
theorem dX17_wants_10 : decode cX17_wants 10 = .ok (.iload_n 2, 1) := dk_28 (dk_at dksX17_wants_0 10 rfl rfl)
theorem dX17_wants_11 : decode cX17_wants 11 = .ok (.if_icmp .ge 88, 3) := dk_162 0 88 (dk_at dksX17_wants_0 11 rfl rfl)
theorem dX17_wants_14 : decode cX17_wants 14 = .ok (.aload_n 0, 1) := dk_42 (dk_at dksX17_wants_0 14 rfl rfl)
theorem dX17_wants_15 : decode cX17_wants 15 = .ok (.getfield 90, 3) := dk_180 0 90 (dk_at dksX17_wants_0 15 rfl rfl)
theorem dX17_wants_18 : decode cX17_wants 18 = .ok (.iload_n 1, 1) := dk_27 (dk_at dksX17_wants_0 18 rfl rfl)
theorem dX17_wants_19 : decode cX17_wants 19 = .ok (.iconst 2, 1) := dk_5 (dk_at dksX17_wants_0 19 rfl rfl)
theorem dX17_wants_20 : decode cX17_wants 20 = .ok (.iload 5, 2) := dk_21 5 (dk_at dksX17_wants_0 20 rfl rfl)
theorem dX17_wants_22 : decode cX17_wants 22 = .ok (.imul, 1) := dk_104 (dk_at dksX17_wants_0 22 rfl rfl)
theorem dX17_wants_23 : decode cX17_wants 23 = .ok (.iadd, 1) := dk_96 (dk_at dksX17_wants_0 23 rfl rfl)
theorem dX17_wants_24 : decode cX17_wants 24 = .ok (.laload, 1) := dk_47 (dk_at dksX17_wants_1 0 rfl rfl)
theorem dX17_wants_25 : decode cX17_wants 25 = .ok (.l2i, 1) := dk_136 (dk_at dksX17_wants_1 1 rfl rfl)
theorem dX17_wants_26 : decode cX17_wants 26 = .ok (.istore 6, 2) := dk_54 6 (dk_at dksX17_wants_1 2 rfl rfl)
theorem dX17_wants_28 : decode cX17_wants 28 = .ok (.aload_n 0, 1) := dk_42 (dk_at dksX17_wants_1 4 rfl rfl)
theorem dX17_wants_29 : decode cX17_wants 29 = .ok (.getfield 90, 3) := dk_180 0 90 (dk_at dksX17_wants_1 5 rfl rfl)
theorem dX17_wants_32 : decode cX17_wants 32 = .ok (.iload_n 1, 1) := dk_27 (dk_at dksX17_wants_1 8 rfl rfl)
theorem dX17_wants_33 : decode cX17_wants 33 = .ok (.iconst 2, 1) := dk_5 (dk_at dksX17_wants_1 9 rfl rfl)
theorem dX17_wants_34 : decode cX17_wants 34 = .ok (.iload 5, 2) := dk_21 5 (dk_at dksX17_wants_1 10 rfl rfl)
theorem dX17_wants_36 : decode cX17_wants 36 = .ok (.imul, 1) := dk_104 (dk_at dksX17_wants_1 12 rfl rfl)
theorem dX17_wants_37 : decode cX17_wants 37 = .ok (.iadd, 1) := dk_96 (dk_at dksX17_wants_1 13 rfl rfl)
theorem dX17_wants_38 : decode cX17_wants 38 = .ok (.iconst 1, 1) := dk_4 (dk_at dksX17_wants_1 14 rfl rfl)
theorem dX17_wants_39 : decode cX17_wants 39 = .ok (.iadd, 1) := dk_96 (dk_at dksX17_wants_1 15 rfl rfl)
theorem dX17_wants_40 : decode cX17_wants 40 = .ok (.laload, 1) := dk_47 (dk_at dksX17_wants_1 16 rfl rfl)
theorem dX17_wants_41 : decode cX17_wants 41 = .ok (.l2i, 1) := dk_136 (dk_at dksX17_wants_1 17 rfl rfl)
theorem dX17_wants_42 : decode cX17_wants 42 = .ok (.istore 7, 2) := dk_54 7 (dk_at dksX17_wants_1 18 rfl rfl)
theorem dX17_wants_44 : decode cX17_wants 44 = .ok (.iload 4, 2) := dk_21 4 (dk_at dksX17_wants_1 20 rfl rfl)
theorem dX17_wants_46 : decode cX17_wants 46 = .ok (.ifCond .ne 24, 3) := dk_154 0 24 (dk_at dksX17_wants_2 0 rfl rfl)
theorem dX17_wants_49 : decode cX17_wants 49 = .ok (.iload_n 3, 1) := dk_29 (dk_at dksX17_wants_2 3 rfl rfl)
theorem dX17_wants_50 : decode cX17_wants 50 = .ok (.iload 6, 2) := dk_21 6 (dk_at dksX17_wants_2 4 rfl rfl)
theorem dX17_wants_52 : decode cX17_wants 52 = .ok (.invokestatic 118, 3) := dk_184 0 118 (dk_at dksX17_wants_2 6 rfl rfl)
theorem dX17_wants_55 : decode cX17_wants 55 = .ok (.ifCond .eq 19, 3) := dk_153 0 19 (dk_at dksX17_wants_2 9 rfl rfl)
theorem dX17_wants_58 : decode cX17_wants 58 = .ok (.aload_n 0, 1) := dk_42 (dk_at dksX17_wants_2 12 rfl rfl)
theorem dX17_wants_59 : decode cX17_wants 59 = .ok (.getfield 97, 3) := dk_180 0 97 (dk_at dksX17_wants_2 13 rfl rfl)
theorem dX17_wants_62 : decode cX17_wants 62 = .ok (.iload 6, 2) := dk_21 6 (dk_at dksX17_wants_2 16 rfl rfl)
theorem dX17_wants_64 : decode cX17_wants 64 = .ok (.iaload, 1) := dk_46 (dk_at dksX17_wants_2 18 rfl rfl)
theorem dX17_wants_65 : decode cX17_wants 65 = .ok (.iload 7, 2) := dk_21 7 (dk_at dksX17_wants_2 19 rfl rfl)
theorem dX17_wants_67 : decode cX17_wants 67 = .ok (.if_icmp .eq 7, 3) := dk_159 0 7 (dk_at dksX17_wants_2 21 rfl rfl)
theorem dX17_wants_70 : decode cX17_wants 70 = .ok (.iconst 1, 1) := dk_4 (dk_at dksX17_wants_3 0 rfl rfl)
theorem dX17_wants_71 : decode cX17_wants 71 = .ok (.goto 4, 3) := dk_167 0 4 (dk_at dksX17_wants_3 1 rfl rfl)
theorem dX17_wants_74 : decode cX17_wants 74 = .ok (.iconst 0, 1) := dk_3 (dk_at dksX17_wants_3 4 rfl rfl)
theorem dX17_wants_75 : decode cX17_wants 75 = .ok (.istore 4, 2) := dk_54 4 (dk_at dksX17_wants_3 5 rfl rfl)
theorem dX17_wants_77 : decode cX17_wants 77 = .ok (.aload_n 0, 1) := dk_42 (dk_at dksX17_wants_3 7 rfl rfl)
theorem dX17_wants_78 : decode cX17_wants 78 = .ok (.getfield 97, 3) := dk_180 0 97 (dk_at dksX17_wants_3 8 rfl rfl)
theorem dX17_wants_81 : decode cX17_wants 81 = .ok (.iload 6, 2) := dk_21 6 (dk_at dksX17_wants_3 11 rfl rfl)
theorem dX17_wants_83 : decode cX17_wants 83 = .ok (.iload 7, 2) := dk_21 7 (dk_at dksX17_wants_3 13 rfl rfl)
theorem dX17_wants_85 : decode cX17_wants 85 = .ok (.iastore, 1) := dk_79 (dk_at dksX17_wants_3 15 rfl rfl)
theorem dX17_wants_86 : decode cX17_wants 86 = .ok (.iload_n 3, 1) := dk_29 (dk_at dksX17_wants_3 16 rfl rfl)
theorem dX17_wants_87 : decode cX17_wants 87 = .ok (.iconst 1, 1) := dk_4 (dk_at dksX17_wants_3 17 rfl rfl)
theorem dX17_wants_88 : decode cX17_wants 88 = .ok (.iload 6, 2) := dk_21 6 (dk_at dksX17_wants_3 18 rfl rfl)
theorem dX17_wants_90 : decode cX17_wants 90 = .ok (.ishl, 1) := dk_120 (dk_at dksX17_wants_3 20 rfl rfl)
theorem dX17_wants_91 : decode cX17_wants 91 = .ok (.ior, 1) := dk_128 (dk_at dksX17_wants_3 21 rfl rfl)
theorem dX17_wants_92 : decode cX17_wants 92 = .ok (.istore_n 3, 1) := dk_62 (dk_at dksX17_wants_3 22 rfl rfl)
theorem dX17_wants_93 : decode cX17_wants 93 = .ok (.iinc 5 1, 3) := dk_132 5 1 (dk_at dksX17_wants_4 0 rfl rfl)
theorem dX17_wants_96 : decode cX17_wants 96 = .ok (.goto (-88), 3) := dk_167 255 168 (dk_at dksX17_wants_4 3 rfl rfl)
theorem dX17_wants_99 : decode cX17_wants 99 = .ok (.iload 4, 2) := dk_21 4 (dk_at dksX17_wants_4 6 rfl rfl)
theorem dX17_wants_101 : decode cX17_wants 101 = .ok (.ifCond .eq 7, 3) := dk_153 0 7 (dk_at dksX17_wants_4 8 rfl rfl)
theorem dX17_wants_104 : decode cX17_wants 104 = .ok (.iconst (-1), 1) := dk_2 (dk_at dksX17_wants_4 11 rfl rfl)
theorem dX17_wants_105 : decode cX17_wants 105 = .ok (.goto 4, 3) := dk_167 0 4 (dk_at dksX17_wants_4 12 rfl rfl)
theorem dX17_wants_108 : decode cX17_wants 108 = .ok (.iload_n 3, 1) := dk_29 (dk_at dksX17_wants_4 15 rfl rfl)
theorem dX17_wants_109 : decode cX17_wants 109 = .ok (.ireturn, 1) := dk_172 (dk_at dksX17_wants_4 16 rfl rfl)
abbrev cX17_finds : ByteArray := prog_24_method_109_code
def yX17_finds : MethodName := ⟨RX17, "finds", "(I)Z"⟩
def dkwX17_finds_6 : List UInt8 := [132, 2, 1, 167, 255, 135, 4, 172]
abbrev dktX17_finds_6 : List UInt8 := dkwX17_finds_6 ++ []
def dkwX17_finds_5 : List UInt8 := [162, 0, 23, 42, 180, 0, 52, 21, 5, 42, 180, 0, 37, 21, 5, 46, 79, 132, 5, 1, 167, 255, 232]
abbrev dktX17_finds_5 : List UInt8 := dkwX17_finds_5 ++ dktX17_finds_6
def dkwX17_finds_4 : List UInt8 := [16, 24, 21, 4, 104, 21, 5, 96, 46, 46, 79, 132, 5, 1, 167, 255, 206, 3, 54, 5, 21, 5, 16, 24]
abbrev dktX17_finds_4 : List UInt8 := dkwX17_finds_4 ++ dktX17_finds_5
def dkwX17_finds_3 : List UInt8 := [21, 4, 156, 0, 13, 42, 180, 0, 52, 21, 5, 46, 167, 0, 21, 42, 180, 0, 52, 42, 180, 0, 46]
abbrev dktX17_finds_3 : List UInt8 := dkwX17_finds_3 ++ dktX17_finds_4
def dkwX17_finds_2 : List UInt8 := [28, 104, 29, 96, 46, 54, 4, 3, 54, 5, 21, 5, 16, 24, 162, 0, 49, 42, 180, 0, 37, 21, 5]
abbrev dktX17_finds_2 : List UInt8 := dkwX17_finds_2 ++ dktX17_finds_3
def dkwX17_finds_1 : List UInt8 := [16, 24, 162, 0, 121, 42, 28, 27, 182, 1, 156, 62, 29, 156, 0, 5, 3, 172, 42, 180, 0, 43, 16, 24]
abbrev dktX17_finds_1 : List UInt8 := dkwX17_finds_1 ++ dktX17_finds_2
def dkwX17_finds_0 : List UInt8 := [3, 61, 28, 16, 24, 162, 0, 16, 42, 180, 0, 52, 28, 28, 79, 132, 2, 1, 167, 255, 240, 3, 61, 28]
abbrev dktX17_finds_0 : List UInt8 := dkwX17_finds_0 ++ dktX17_finds_1
theorem dksX17_finds_0 : cX17_finds.data.toList.drop 0 = dktX17_finds_0 := by decide +kernel
theorem dksX17_finds_1 : cX17_finds.data.toList.drop 24 = dktX17_finds_1 := dk_seg dksX17_finds_0 24 rfl rfl
theorem dksX17_finds_2 : cX17_finds.data.toList.drop 48 = dktX17_finds_2 := dk_seg dksX17_finds_1 24 rfl rfl
theorem dksX17_finds_3 : cX17_finds.data.toList.drop 71 = dktX17_finds_3 := dk_seg dksX17_finds_2 23 rfl rfl
theorem dksX17_finds_4 : cX17_finds.data.toList.drop 94 = dktX17_finds_4 := dk_seg dksX17_finds_3 23 rfl rfl
theorem dksX17_finds_5 : cX17_finds.data.toList.drop 118 = dktX17_finds_5 := dk_seg dksX17_finds_4 24 rfl rfl
theorem dksX17_finds_6 : cX17_finds.data.toList.drop 141 = dktX17_finds_6 := dk_seg dksX17_finds_5 23 rfl rfl
theorem dX17_finds_0 : decode cX17_finds 0 = .ok (.iconst 0, 1) := dk_3 (dk_at dksX17_finds_0 0 rfl rfl)
theorem dX17_finds_1 : decode cX17_finds 1 = .ok (.istore_n 2, 1) := dk_61 (dk_at dksX17_finds_0 1 rfl rfl)
theorem dX17_finds_2 : decode cX17_finds 2 = .ok (.iload_n 2, 1) := dk_28 (dk_at dksX17_finds_0 2 rfl rfl)
theorem dX17_finds_3 : decode cX17_finds 3 = .ok (.bipush 24, 2) := dk_16 24 (dk_at dksX17_finds_0 3 rfl rfl)
theorem dX17_finds_5 : decode cX17_finds 5 = .ok (.if_icmp .ge 16, 3) := dk_162 0 16 (dk_at dksX17_finds_0 5 rfl rfl)
theorem dX17_finds_8 : decode cX17_finds 8 = .ok (.aload_n 0, 1) := dk_42 (dk_at dksX17_finds_0 8 rfl rfl)
theorem dX17_finds_9 : decode cX17_finds 9 = .ok (.getfield 52, 3) := dk_180 0 52 (dk_at dksX17_finds_0 9 rfl rfl)
theorem dX17_finds_12 : decode cX17_finds 12 = .ok (.iload_n 2, 1) := dk_28 (dk_at dksX17_finds_0 12 rfl rfl)
theorem dX17_finds_13 : decode cX17_finds 13 = .ok (.iload_n 2, 1) := dk_28 (dk_at dksX17_finds_0 13 rfl rfl)
theorem dX17_finds_14 : decode cX17_finds 14 = .ok (.iastore, 1) := dk_79 (dk_at dksX17_finds_0 14 rfl rfl)
theorem dX17_finds_15 : decode cX17_finds 15 = .ok (.iinc 2 1, 3) := dk_132 2 1 (dk_at dksX17_finds_0 15 rfl rfl)
theorem dX17_finds_18 : decode cX17_finds 18 = .ok (.goto (-16), 3) := dk_167 255 240 (dk_at dksX17_finds_0 18 rfl rfl)
theorem dX17_finds_21 : decode cX17_finds 21 = .ok (.iconst 0, 1) := dk_3 (dk_at dksX17_finds_0 21 rfl rfl)
theorem dX17_finds_22 : decode cX17_finds 22 = .ok (.istore_n 2, 1) := dk_61 (dk_at dksX17_finds_0 22 rfl rfl)
theorem dX17_finds_23 : decode cX17_finds 23 = .ok (.iload_n 2, 1) := dk_28 (dk_at dksX17_finds_0 23 rfl rfl)
theorem dX17_finds_24 : decode cX17_finds 24 = .ok (.bipush 24, 2) := dk_16 24 (dk_at dksX17_finds_1 0 rfl rfl)
theorem dX17_finds_26 : decode cX17_finds 26 = .ok (.if_icmp .ge 121, 3) := dk_162 0 121 (dk_at dksX17_finds_1 2 rfl rfl)
theorem dX17_finds_29 : decode cX17_finds 29 = .ok (.aload_n 0, 1) := dk_42 (dk_at dksX17_finds_1 5 rfl rfl)
theorem dX17_finds_30 : decode cX17_finds 30 = .ok (.iload_n 2, 1) := dk_28 (dk_at dksX17_finds_1 6 rfl rfl)
theorem dX17_finds_31 : decode cX17_finds 31 = .ok (.iload_n 1, 1) := dk_27 (dk_at dksX17_finds_1 7 rfl rfl)
theorem dX17_finds_32 : decode cX17_finds 32 = .ok (.invokevirtual 412, 3) := dk_182 1 156 (dk_at dksX17_finds_1 8 rfl rfl)
theorem dX17_finds_35 : decode cX17_finds 35 = .ok (.istore_n 3, 1) := dk_62 (dk_at dksX17_finds_1 11 rfl rfl)
theorem dX17_finds_36 : decode cX17_finds 36 = .ok (.iload_n 3, 1) := dk_29 (dk_at dksX17_finds_1 12 rfl rfl)
theorem dX17_finds_37 : decode cX17_finds 37 = .ok (.ifCond .ge 5, 3) := dk_156 0 5 (dk_at dksX17_finds_1 13 rfl rfl)
theorem dX17_finds_40 : decode cX17_finds 40 = .ok (.iconst 0, 1) := dk_3 (dk_at dksX17_finds_1 16 rfl rfl)
theorem dX17_finds_41 : decode cX17_finds 41 = .ok (.ireturn, 1) := dk_172 (dk_at dksX17_finds_1 17 rfl rfl)
theorem dX17_finds_42 : decode cX17_finds 42 = .ok (.aload_n 0, 1) := dk_42 (dk_at dksX17_finds_1 18 rfl rfl)
theorem dX17_finds_43 : decode cX17_finds 43 = .ok (.getfield 43, 3) := dk_180 0 43 (dk_at dksX17_finds_1 19 rfl rfl)
theorem dX17_finds_46 : decode cX17_finds 46 = .ok (.bipush 24, 2) := dk_16 24 (dk_at dksX17_finds_1 22 rfl rfl)
theorem dX17_finds_48 : decode cX17_finds 48 = .ok (.iload_n 2, 1) := dk_28 (dk_at dksX17_finds_2 0 rfl rfl)
theorem dX17_finds_49 : decode cX17_finds 49 = .ok (.imul, 1) := dk_104 (dk_at dksX17_finds_2 1 rfl rfl)
theorem dX17_finds_50 : decode cX17_finds 50 = .ok (.iload_n 3, 1) := dk_29 (dk_at dksX17_finds_2 2 rfl rfl)
theorem dX17_finds_51 : decode cX17_finds 51 = .ok (.iadd, 1) := dk_96 (dk_at dksX17_finds_2 3 rfl rfl)
theorem dX17_finds_52 : decode cX17_finds 52 = .ok (.iaload, 1) := dk_46 (dk_at dksX17_finds_2 4 rfl rfl)
theorem dX17_finds_53 : decode cX17_finds 53 = .ok (.istore 4, 2) := dk_54 4 (dk_at dksX17_finds_2 5 rfl rfl)
theorem dX17_finds_55 : decode cX17_finds 55 = .ok (.iconst 0, 1) := dk_3 (dk_at dksX17_finds_2 7 rfl rfl)
theorem dX17_finds_56 : decode cX17_finds 56 = .ok (.istore 5, 2) := dk_54 5 (dk_at dksX17_finds_2 8 rfl rfl)
theorem dX17_finds_58 : decode cX17_finds 58 = .ok (.iload 5, 2) := dk_21 5 (dk_at dksX17_finds_2 10 rfl rfl)
theorem dX17_finds_60 : decode cX17_finds 60 = .ok (.bipush 24, 2) := dk_16 24 (dk_at dksX17_finds_2 12 rfl rfl)
theorem dX17_finds_62 : decode cX17_finds 62 = .ok (.if_icmp .ge 49, 3) := dk_162 0 49 (dk_at dksX17_finds_2 14 rfl rfl)
theorem dX17_finds_65 : decode cX17_finds 65 = .ok (.aload_n 0, 1) := dk_42 (dk_at dksX17_finds_2 17 rfl rfl)
theorem dX17_finds_66 : decode cX17_finds 66 = .ok (.getfield 37, 3) := dk_180 0 37 (dk_at dksX17_finds_2 18 rfl rfl)
theorem dX17_finds_69 : decode cX17_finds 69 = .ok (.iload 5, 2) := dk_21 5 (dk_at dksX17_finds_2 21 rfl rfl)
theorem dX17_finds_71 : decode cX17_finds 71 = .ok (.iload 4, 2) := dk_21 4 (dk_at dksX17_finds_3 0 rfl rfl)
theorem dX17_finds_73 : decode cX17_finds 73 = .ok (.ifCond .ge 13, 3) := dk_156 0 13 (dk_at dksX17_finds_3 2 rfl rfl)
theorem dX17_finds_76 : decode cX17_finds 76 = .ok (.aload_n 0, 1) := dk_42 (dk_at dksX17_finds_3 5 rfl rfl)
theorem dX17_finds_77 : decode cX17_finds 77 = .ok (.getfield 52, 3) := dk_180 0 52 (dk_at dksX17_finds_3 6 rfl rfl)
theorem dX17_finds_80 : decode cX17_finds 80 = .ok (.iload 5, 2) := dk_21 5 (dk_at dksX17_finds_3 9 rfl rfl)
theorem dX17_finds_82 : decode cX17_finds 82 = .ok (.iaload, 1) := dk_46 (dk_at dksX17_finds_3 11 rfl rfl)
theorem dX17_finds_83 : decode cX17_finds 83 = .ok (.goto 21, 3) := dk_167 0 21 (dk_at dksX17_finds_3 12 rfl rfl)
theorem dX17_finds_86 : decode cX17_finds 86 = .ok (.aload_n 0, 1) := dk_42 (dk_at dksX17_finds_3 15 rfl rfl)
theorem dX17_finds_87 : decode cX17_finds 87 = .ok (.getfield 52, 3) := dk_180 0 52 (dk_at dksX17_finds_3 16 rfl rfl)
theorem dX17_finds_90 : decode cX17_finds 90 = .ok (.aload_n 0, 1) := dk_42 (dk_at dksX17_finds_3 19 rfl rfl)
theorem dX17_finds_91 : decode cX17_finds 91 = .ok (.getfield 46, 3) := dk_180 0 46 (dk_at dksX17_finds_3 20 rfl rfl)
theorem dX17_finds_94 : decode cX17_finds 94 = .ok (.bipush 24, 2) := dk_16 24 (dk_at dksX17_finds_4 0 rfl rfl)
theorem dX17_finds_96 : decode cX17_finds 96 = .ok (.iload 4, 2) := dk_21 4 (dk_at dksX17_finds_4 2 rfl rfl)
theorem dX17_finds_98 : decode cX17_finds 98 = .ok (.imul, 1) := dk_104 (dk_at dksX17_finds_4 4 rfl rfl)
theorem dX17_finds_99 : decode cX17_finds 99 = .ok (.iload 5, 2) := dk_21 5 (dk_at dksX17_finds_4 5 rfl rfl)
theorem dX17_finds_101 : decode cX17_finds 101 = .ok (.iadd, 1) := dk_96 (dk_at dksX17_finds_4 7 rfl rfl)
theorem dX17_finds_102 : decode cX17_finds 102 = .ok (.iaload, 1) := dk_46 (dk_at dksX17_finds_4 8 rfl rfl)
theorem dX17_finds_103 : decode cX17_finds 103 = .ok (.iaload, 1) := dk_46 (dk_at dksX17_finds_4 9 rfl rfl)
theorem dX17_finds_104 : decode cX17_finds 104 = .ok (.iastore, 1) := dk_79 (dk_at dksX17_finds_4 10 rfl rfl)
theorem dX17_finds_105 : decode cX17_finds 105 = .ok (.iinc 5 1, 3) := dk_132 5 1 (dk_at dksX17_finds_4 11 rfl rfl)
theorem dX17_finds_108 : decode cX17_finds 108 = .ok (.goto (-50), 3) := dk_167 255 206 (dk_at dksX17_finds_4 14 rfl rfl)
theorem dX17_finds_111 : decode cX17_finds 111 = .ok (.iconst 0, 1) := dk_3 (dk_at dksX17_finds_4 17 rfl rfl)
theorem dX17_finds_112 : decode cX17_finds 112 = .ok (.istore 5, 2) := dk_54 5 (dk_at dksX17_finds_4 18 rfl rfl)
theorem dX17_finds_114 : decode cX17_finds 114 = .ok (.iload 5, 2) := dk_21 5 (dk_at dksX17_finds_4 20 rfl rfl)
theorem dX17_finds_116 : decode cX17_finds 116 = .ok (.bipush 24, 2) := dk_16 24 (dk_at dksX17_finds_4 22 rfl rfl)
theorem dX17_finds_118 : decode cX17_finds 118 = .ok (.if_icmp .ge 23, 3) := dk_162 0 23 (dk_at dksX17_finds_5 0 rfl rfl)
theorem dX17_finds_121 : decode cX17_finds 121 = .ok (.aload_n 0, 1) := dk_42 (dk_at dksX17_finds_5 3 rfl rfl)
theorem dX17_finds_122 : decode cX17_finds 122 = .ok (.getfield 52, 3) := dk_180 0 52 (dk_at dksX17_finds_5 4 rfl rfl)
theorem dX17_finds_125 : decode cX17_finds 125 = .ok (.iload 5, 2) := dk_21 5 (dk_at dksX17_finds_5 7 rfl rfl)
theorem dX17_finds_127 : decode cX17_finds 127 = .ok (.aload_n 0, 1) := dk_42 (dk_at dksX17_finds_5 9 rfl rfl)
theorem dX17_finds_128 : decode cX17_finds 128 = .ok (.getfield 37, 3) := dk_180 0 37 (dk_at dksX17_finds_5 10 rfl rfl)
theorem dX17_finds_131 : decode cX17_finds 131 = .ok (.iload 5, 2) := dk_21 5 (dk_at dksX17_finds_5 13 rfl rfl)
theorem dX17_finds_133 : decode cX17_finds 133 = .ok (.iaload, 1) := dk_46 (dk_at dksX17_finds_5 15 rfl rfl)
theorem dX17_finds_134 : decode cX17_finds 134 = .ok (.iastore, 1) := dk_79 (dk_at dksX17_finds_5 16 rfl rfl)
theorem dX17_finds_135 : decode cX17_finds 135 = .ok (.iinc 5 1, 3) := dk_132 5 1 (dk_at dksX17_finds_5 17 rfl rfl)
theorem dX17_finds_138 : decode cX17_finds 138 = .ok (.goto (-24), 3) := dk_167 255 232 (dk_at dksX17_finds_5 20 rfl rfl)
theorem dX17_finds_141 : decode cX17_finds 141 = .ok (.iinc 2 1, 3) := dk_132 2 1 (dk_at dksX17_finds_6 0 rfl rfl)
theorem dX17_finds_144 : decode cX17_finds 144 = .ok (.goto (-121), 3) := dk_167 255 135 (dk_at dksX17_finds_6 3 rfl rfl)
theorem dX17_finds_147 : decode cX17_finds 147 = .ok (.iconst 1, 1) := dk_4 (dk_at dksX17_finds_6 6 rfl rfl)
theorem dX17_finds_148 : decode cX17_finds 148 = .ok (.ireturn, 1) := dk_172 (dk_at dksX17_finds_6 7 rfl rfl)
abbrev cX17_sends : ByteArray := prog_24_method_108_code
def yX17_sends : MethodName := ⟨RX17, "sends", "(II)I"⟩
def dkwX17_sends_5 : List UInt8 := [167, 0, 4, 29, 62, 132, 4, 1, 167, 255, 135, 29, 172]
abbrev dktX17_sends_5 : List UInt8 := dkwX17_sends_5 ++ []
def dkwX17_sends_4 : List UInt8 := [46, 162, 0, 7, 4, 167, 0, 4, 3, 54, 6, 21, 5, 153, 0, 13, 21, 6, 153, 0, 8, 21, 4]
abbrev dktX17_sends_4 : List UInt8 := dkwX17_sends_4 ++ dktX17_sends_5
def dkwX17_sends_3 : List UInt8 := [4, 167, 0, 32, 3, 167, 0, 28, 29, 155, 0, 19, 42, 180, 0, 52, 21, 4, 46, 42, 180, 0, 52, 29]
abbrev dktX17_sends_3 : List UInt8 := dkwX17_sends_3 ++ dktX17_sends_4
def dkwX17_sends_2 : List UInt8 := [162, 0, 32, 42, 180, 0, 52, 21, 4, 46, 42, 180, 0, 97, 42, 180, 0, 40, 27, 46, 46, 160, 0, 7]
abbrev dktX17_sends_2 : List UInt8 := dkwX17_sends_2 ++ dktX17_sends_3
def dkwX17_sends_1 : List UInt8 := [180, 0, 43, 16, 24, 27, 104, 21, 4, 96, 46, 155, 0, 7, 4, 167, 0, 4, 3, 54, 5, 27, 28]
abbrev dktX17_sends_1 : List UInt8 := dkwX17_sends_1 ++ dktX17_sends_2
def dkwX17_sends_0 : List UInt8 := [2, 62, 3, 54, 4, 21, 4, 16, 24, 162, 0, 120, 21, 4, 42, 180, 0, 40, 27, 46, 159, 0, 18, 42]
abbrev dktX17_sends_0 : List UInt8 := dkwX17_sends_0 ++ dktX17_sends_1
theorem dksX17_sends_0 : cX17_sends.data.toList.drop 0 = dktX17_sends_0 := by decide +kernel
theorem dksX17_sends_1 : cX17_sends.data.toList.drop 24 = dktX17_sends_1 := dk_seg dksX17_sends_0 24 rfl rfl
theorem dksX17_sends_2 : cX17_sends.data.toList.drop 47 = dktX17_sends_2 := dk_seg dksX17_sends_1 23 rfl rfl
theorem dksX17_sends_3 : cX17_sends.data.toList.drop 71 = dktX17_sends_3 := dk_seg dksX17_sends_2 24 rfl rfl
theorem dksX17_sends_4 : cX17_sends.data.toList.drop 95 = dktX17_sends_4 := dk_seg dksX17_sends_3 24 rfl rfl
theorem dksX17_sends_5 : cX17_sends.data.toList.drop 118 = dktX17_sends_5 := dk_seg dksX17_sends_4 23 rfl rfl
theorem dX17_sends_0 : decode cX17_sends 0 = .ok (.iconst (-1), 1) := dk_2 (dk_at dksX17_sends_0 0 rfl rfl)
theorem dX17_sends_1 : decode cX17_sends 1 = .ok (.istore_n 3, 1) := dk_62 (dk_at dksX17_sends_0 1 rfl rfl)
theorem dX17_sends_2 : decode cX17_sends 2 = .ok (.iconst 0, 1) := dk_3 (dk_at dksX17_sends_0 2 rfl rfl)
theorem dX17_sends_3 : decode cX17_sends 3 = .ok (.istore 4, 2) := dk_54 4 (dk_at dksX17_sends_0 3 rfl rfl)
theorem dX17_sends_5 : decode cX17_sends 5 = .ok (.iload 4, 2) := dk_21 4 (dk_at dksX17_sends_0 5 rfl rfl)
theorem dX17_sends_7 : decode cX17_sends 7 = .ok (.bipush 24, 2) := dk_16 24 (dk_at dksX17_sends_0 7 rfl rfl)
theorem dX17_sends_9 : decode cX17_sends 9 = .ok (.if_icmp .ge 120, 3) := dk_162 0 120 (dk_at dksX17_sends_0 9 rfl rfl)
theorem dX17_sends_12 : decode cX17_sends 12 = .ok (.iload 4, 2) := dk_21 4 (dk_at dksX17_sends_0 12 rfl rfl)
theorem dX17_sends_14 : decode cX17_sends 14 = .ok (.aload_n 0, 1) := dk_42 (dk_at dksX17_sends_0 14 rfl rfl)
theorem dX17_sends_15 : decode cX17_sends 15 = .ok (.getfield 40, 3) := dk_180 0 40 (dk_at dksX17_sends_0 15 rfl rfl)
theorem dX17_sends_18 : decode cX17_sends 18 = .ok (.iload_n 1, 1) := dk_27 (dk_at dksX17_sends_0 18 rfl rfl)
theorem dX17_sends_19 : decode cX17_sends 19 = .ok (.iaload, 1) := dk_46 (dk_at dksX17_sends_0 19 rfl rfl)
theorem dX17_sends_20 : decode cX17_sends 20 = .ok (.if_icmp .eq 18, 3) := dk_159 0 18 (dk_at dksX17_sends_0 20 rfl rfl)
theorem dX17_sends_23 : decode cX17_sends 23 = .ok (.aload_n 0, 1) := dk_42 (dk_at dksX17_sends_0 23 rfl rfl)
theorem dX17_sends_24 : decode cX17_sends 24 = .ok (.getfield 43, 3) := dk_180 0 43 (dk_at dksX17_sends_1 0 rfl rfl)
theorem dX17_sends_27 : decode cX17_sends 27 = .ok (.bipush 24, 2) := dk_16 24 (dk_at dksX17_sends_1 3 rfl rfl)
theorem dX17_sends_29 : decode cX17_sends 29 = .ok (.iload_n 1, 1) := dk_27 (dk_at dksX17_sends_1 5 rfl rfl)
theorem dX17_sends_30 : decode cX17_sends 30 = .ok (.imul, 1) := dk_104 (dk_at dksX17_sends_1 6 rfl rfl)
theorem dX17_sends_31 : decode cX17_sends 31 = .ok (.iload 4, 2) := dk_21 4 (dk_at dksX17_sends_1 7 rfl rfl)
theorem dX17_sends_33 : decode cX17_sends 33 = .ok (.iadd, 1) := dk_96 (dk_at dksX17_sends_1 9 rfl rfl)
theorem dX17_sends_34 : decode cX17_sends 34 = .ok (.iaload, 1) := dk_46 (dk_at dksX17_sends_1 10 rfl rfl)
theorem dX17_sends_35 : decode cX17_sends 35 = .ok (.ifCond .lt 7, 3) := dk_155 0 7 (dk_at dksX17_sends_1 11 rfl rfl)
theorem dX17_sends_38 : decode cX17_sends 38 = .ok (.iconst 1, 1) := dk_4 (dk_at dksX17_sends_1 14 rfl rfl)
theorem dX17_sends_39 : decode cX17_sends 39 = .ok (.goto 4, 3) := dk_167 0 4 (dk_at dksX17_sends_1 15 rfl rfl)
theorem dX17_sends_42 : decode cX17_sends 42 = .ok (.iconst 0, 1) := dk_3 (dk_at dksX17_sends_1 18 rfl rfl)
theorem dX17_sends_43 : decode cX17_sends 43 = .ok (.istore 5, 2) := dk_54 5 (dk_at dksX17_sends_1 19 rfl rfl)
theorem dX17_sends_45 : decode cX17_sends 45 = .ok (.iload_n 1, 1) := dk_27 (dk_at dksX17_sends_1 21 rfl rfl)
theorem dX17_sends_46 : decode cX17_sends 46 = .ok (.iload_n 2, 1) := dk_28 (dk_at dksX17_sends_1 22 rfl rfl)
theorem dX17_sends_47 : decode cX17_sends 47 = .ok (.if_icmp .ge 32, 3) := dk_162 0 32 (dk_at dksX17_sends_2 0 rfl rfl)
theorem dX17_sends_50 : decode cX17_sends 50 = .ok (.aload_n 0, 1) := dk_42 (dk_at dksX17_sends_2 3 rfl rfl)
theorem dX17_sends_51 : decode cX17_sends 51 = .ok (.getfield 52, 3) := dk_180 0 52 (dk_at dksX17_sends_2 4 rfl rfl)
theorem dX17_sends_54 : decode cX17_sends 54 = .ok (.iload 4, 2) := dk_21 4 (dk_at dksX17_sends_2 7 rfl rfl)
theorem dX17_sends_56 : decode cX17_sends 56 = .ok (.iaload, 1) := dk_46 (dk_at dksX17_sends_2 9 rfl rfl)
theorem dX17_sends_57 : decode cX17_sends 57 = .ok (.aload_n 0, 1) := dk_42 (dk_at dksX17_sends_2 10 rfl rfl)
theorem dX17_sends_58 : decode cX17_sends 58 = .ok (.getfield 97, 3) := dk_180 0 97 (dk_at dksX17_sends_2 11 rfl rfl)
theorem dX17_sends_61 : decode cX17_sends 61 = .ok (.aload_n 0, 1) := dk_42 (dk_at dksX17_sends_2 14 rfl rfl)
theorem dX17_sends_62 : decode cX17_sends 62 = .ok (.getfield 40, 3) := dk_180 0 40 (dk_at dksX17_sends_2 15 rfl rfl)
theorem dX17_sends_65 : decode cX17_sends 65 = .ok (.iload_n 1, 1) := dk_27 (dk_at dksX17_sends_2 18 rfl rfl)
theorem dX17_sends_66 : decode cX17_sends 66 = .ok (.iaload, 1) := dk_46 (dk_at dksX17_sends_2 19 rfl rfl)
theorem dX17_sends_67 : decode cX17_sends 67 = .ok (.iaload, 1) := dk_46 (dk_at dksX17_sends_2 20 rfl rfl)
theorem dX17_sends_68 : decode cX17_sends 68 = .ok (.if_icmp .ne 7, 3) := dk_160 0 7 (dk_at dksX17_sends_2 21 rfl rfl)
theorem dX17_sends_71 : decode cX17_sends 71 = .ok (.iconst 1, 1) := dk_4 (dk_at dksX17_sends_3 0 rfl rfl)
theorem dX17_sends_72 : decode cX17_sends 72 = .ok (.goto 32, 3) := dk_167 0 32 (dk_at dksX17_sends_3 1 rfl rfl)
theorem dX17_sends_75 : decode cX17_sends 75 = .ok (.iconst 0, 1) := dk_3 (dk_at dksX17_sends_3 4 rfl rfl)
theorem dX17_sends_76 : decode cX17_sends 76 = .ok (.goto 28, 3) := dk_167 0 28 (dk_at dksX17_sends_3 5 rfl rfl)
theorem dX17_sends_79 : decode cX17_sends 79 = .ok (.iload_n 3, 1) := dk_29 (dk_at dksX17_sends_3 8 rfl rfl)
theorem dX17_sends_80 : decode cX17_sends 80 = .ok (.ifCond .lt 19, 3) := dk_155 0 19 (dk_at dksX17_sends_3 9 rfl rfl)
theorem dX17_sends_83 : decode cX17_sends 83 = .ok (.aload_n 0, 1) := dk_42 (dk_at dksX17_sends_3 12 rfl rfl)
theorem dX17_sends_84 : decode cX17_sends 84 = .ok (.getfield 52, 3) := dk_180 0 52 (dk_at dksX17_sends_3 13 rfl rfl)
theorem dX17_sends_87 : decode cX17_sends 87 = .ok (.iload 4, 2) := dk_21 4 (dk_at dksX17_sends_3 16 rfl rfl)
theorem dX17_sends_89 : decode cX17_sends 89 = .ok (.iaload, 1) := dk_46 (dk_at dksX17_sends_3 18 rfl rfl)
theorem dX17_sends_90 : decode cX17_sends 90 = .ok (.aload_n 0, 1) := dk_42 (dk_at dksX17_sends_3 19 rfl rfl)
theorem dX17_sends_91 : decode cX17_sends 91 = .ok (.getfield 52, 3) := dk_180 0 52 (dk_at dksX17_sends_3 20 rfl rfl)
theorem dX17_sends_94 : decode cX17_sends 94 = .ok (.iload_n 3, 1) := dk_29 (dk_at dksX17_sends_3 23 rfl rfl)
theorem dX17_sends_95 : decode cX17_sends 95 = .ok (.iaload, 1) := dk_46 (dk_at dksX17_sends_4 0 rfl rfl)
theorem dX17_sends_96 : decode cX17_sends 96 = .ok (.if_icmp .ge 7, 3) := dk_162 0 7 (dk_at dksX17_sends_4 1 rfl rfl)
theorem dX17_sends_99 : decode cX17_sends 99 = .ok (.iconst 1, 1) := dk_4 (dk_at dksX17_sends_4 4 rfl rfl)
theorem dX17_sends_100 : decode cX17_sends 100 = .ok (.goto 4, 3) := dk_167 0 4 (dk_at dksX17_sends_4 5 rfl rfl)
theorem dX17_sends_103 : decode cX17_sends 103 = .ok (.iconst 0, 1) := dk_3 (dk_at dksX17_sends_4 8 rfl rfl)
theorem dX17_sends_104 : decode cX17_sends 104 = .ok (.istore 6, 2) := dk_54 6 (dk_at dksX17_sends_4 9 rfl rfl)
theorem dX17_sends_106 : decode cX17_sends 106 = .ok (.iload 5, 2) := dk_21 5 (dk_at dksX17_sends_4 11 rfl rfl)
theorem dX17_sends_108 : decode cX17_sends 108 = .ok (.ifCond .eq 13, 3) := dk_153 0 13 (dk_at dksX17_sends_4 13 rfl rfl)
theorem dX17_sends_111 : decode cX17_sends 111 = .ok (.iload 6, 2) := dk_21 6 (dk_at dksX17_sends_4 16 rfl rfl)
theorem dX17_sends_113 : decode cX17_sends 113 = .ok (.ifCond .eq 8, 3) := dk_153 0 8 (dk_at dksX17_sends_4 18 rfl rfl)
theorem dX17_sends_116 : decode cX17_sends 116 = .ok (.iload 4, 2) := dk_21 4 (dk_at dksX17_sends_4 21 rfl rfl)
theorem dX17_sends_118 : decode cX17_sends 118 = .ok (.goto 4, 3) := dk_167 0 4 (dk_at dksX17_sends_5 0 rfl rfl)
theorem dX17_sends_121 : decode cX17_sends 121 = .ok (.iload_n 3, 1) := dk_29 (dk_at dksX17_sends_5 3 rfl rfl)
theorem dX17_sends_122 : decode cX17_sends 122 = .ok (.istore_n 3, 1) := dk_62 (dk_at dksX17_sends_5 4 rfl rfl)
theorem dX17_sends_123 : decode cX17_sends 123 = .ok (.iinc 4 1, 3) := dk_132 4 1 (dk_at dksX17_sends_5 5 rfl rfl)
theorem dX17_sends_126 : decode cX17_sends 126 = .ok (.goto (-121), 3) := dk_167 255 135 (dk_at dksX17_sends_5 8 rfl rfl)
theorem dX17_sends_129 : decode cX17_sends 129 = .ok (.iload_n 3, 1) := dk_29 (dk_at dksX17_sends_5 11 rfl rfl)
theorem dX17_sends_130 : decode cX17_sends 130 = .ok (.ireturn, 1) := dk_172 (dk_at dksX17_sends_5 12 rfl rfl)
theorem q127 : (Jvm.Cond.initialized "EightBlocksModel") ∈ lw_all := lw_g (lw_at lw_m1 32 rfl) rfl
theorem q1767 : (Jvm.Cond.instantiable "EightBlocksModel" (37 : Nat)) ∈ lw_all := lw_g (lw_at lw_m7 232 rfl) rfl
theorem q1769 : (Jvm.Cond.instanceMethod ({ cls := "EightBlocksModel", name := "<init>", desc := "()V" } : Jvm.MethodName)) ∈ lw_all := lw_g (lw_at lw_m7 234 rfl) rfl
theorem q1770 : (Jvm.Cond.code ({ cls := "EightBlocksModel", name := "<init>", desc := "()V" } : Jvm.MethodName) prog_24_method_3_code (3 : Nat) (Option.none : Option Jvm.ClassFile.FieldType)) ∈ lw_all := lw_g (lw_at lw_m7 235 rfl) rfl
theorem q1771 : (Jvm.Cond.methodLink "EightBlocksModel" (1 : Nat) ({ cls := "java/lang/Object", name := "<init>", desc := "()V" } : Jvm.MethodName)) ∈ lw_all := lw_g (lw_at lw_m7 236 rfl) rfl
theorem q1772 : (Jvm.Cond.methodLink "EightBlocksModel" (100 : Nat) ({ cls := "EightBlocksModel", name := "named", desc := "(II)I" } : Jvm.MethodName)) ∈ lw_all := lw_g (lw_at lw_m7 237 rfl) rfl
theorem q1773 : (Jvm.Cond.static ({ cls := "EightBlocksModel", name := "named", desc := "(II)I" } : Jvm.MethodName)) ∈ lw_all := lw_g (lw_at lw_m7 238 rfl) rfl
theorem q1774 : (Jvm.Cond.code ({ cls := "EightBlocksModel", name := "named", desc := "(II)I" } : Jvm.MethodName) prog_24_method_9_code (2 : Nat) (Option.some Jvm.ClassFile.FieldType.int)) ∈ lw_all := lw_g (lw_at lw_m7 239 rfl) rfl
theorem q1775 : (Jvm.Cond.methodLink "EightBlocksModel" (130 : Nat) ({ cls := "EightBlocksModel", name := "overOf", desc := "(I)I" } : Jvm.MethodName)) ∈ lw_all := lw_g (lw_at lw_m8 0 rfl) rfl
theorem q1776 : (Jvm.Cond.static ({ cls := "EightBlocksModel", name := "overOf", desc := "(I)I" } : Jvm.MethodName)) ∈ lw_all := lw_g (lw_at lw_m8 1 rfl) rfl
theorem q1777 : (Jvm.Cond.code ({ cls := "EightBlocksModel", name := "overOf", desc := "(I)I" } : Jvm.MethodName) prog_24_method_10_code (3 : Nat) (Option.some Jvm.ClassFile.FieldType.int)) ∈ lw_all := lw_g (lw_at lw_m8 2 rfl) rfl
theorem q1778 : (Jvm.Cond.constantLong "EightBlocksModel" (134 : Nat) (22 : Int64)) ∈ lw_all := lw_g (lw_at lw_m8 3 rfl) rfl
theorem q1779 : (Jvm.Cond.methodLink "EightBlocksModel" (124 : Nat) ({ cls := "EightBlocksModel", name := "in", desc := "(JJJ)Z" } : Jvm.MethodName)) ∈ lw_all := lw_g (lw_at lw_m8 4 rfl) rfl
theorem q1780 : (Jvm.Cond.static ({ cls := "EightBlocksModel", name := "in", desc := "(JJJ)Z" } : Jvm.MethodName)) ∈ lw_all := lw_g (lw_at lw_m8 5 rfl) rfl
theorem q1781 : (Jvm.Cond.code ({ cls := "EightBlocksModel", name := "in", desc := "(JJJ)Z" } : Jvm.MethodName) prog_24_method_2_code (6 : Nat) (Option.some Jvm.ClassFile.FieldType.boolean)) ∈ lw_all := lw_g (lw_at lw_m8 6 rfl) rfl
theorem q1782 : (Jvm.Cond.constant "EightBlocksModel" (133 : Nat) (340830 : Int32)) ∈ lw_all := lw_g (lw_at lw_m8 7 rfl) rfl
theorem q1783 : (Jvm.Cond.methodLink "EightBlocksModel" (118 : Nat) ({ cls := "EightBlocksModel", name := "has", desc := "(II)Z" } : Jvm.MethodName)) ∈ lw_all := lw_g (lw_at lw_m8 8 rfl) rfl
theorem q1784 : (Jvm.Cond.static ({ cls := "EightBlocksModel", name := "has", desc := "(II)Z" } : Jvm.MethodName)) ∈ lw_all := lw_g (lw_at lw_m8 9 rfl) rfl
theorem q1785 : (Jvm.Cond.code ({ cls := "EightBlocksModel", name := "has", desc := "(II)Z" } : Jvm.MethodName) prog_24_method_4_code (2 : Nat) (Option.some Jvm.ClassFile.FieldType.boolean)) ∈ lw_all := lw_g (lw_at lw_m8 10 rfl) rfl
theorem q1786 : (Jvm.Cond.methodLink "EightBlocksModel" (104 : Nat) ({ cls := "EightBlocksModel", name := "basic", desc := "(I)I" } : Jvm.MethodName)) ∈ lw_all := lw_g (lw_at lw_m8 11 rfl) rfl
theorem q1787 : (Jvm.Cond.static ({ cls := "EightBlocksModel", name := "basic", desc := "(I)I" } : Jvm.MethodName)) ∈ lw_all := lw_g (lw_at lw_m8 12 rfl) rfl
theorem q1788 : (Jvm.Cond.code ({ cls := "EightBlocksModel", name := "basic", desc := "(I)I" } : Jvm.MethodName) prog_24_method_11_code (3 : Nat) (Option.some Jvm.ClassFile.FieldType.int)) ∈ lw_all := lw_g (lw_at lw_m8 13 rfl) rfl
theorem q1789 : (Jvm.Cond.constant "EightBlocksModel" (136 : Nat) (8388608 : Int32)) ∈ lw_all := lw_g (lw_at lw_m8 14 rfl) rfl
theorem q1790 : (Jvm.Cond.constant "EightBlocksModel" (137 : Nat) (8047776 : Int32)) ∈ lw_all := lw_g (lw_at lw_m8 15 rfl) rfl
theorem q1791 : (Jvm.Cond.methodLink "EightBlocksModel" (108 : Nat) ({ cls := "EightBlocksModel", name := "comes", desc := "(II)V" } : Jvm.MethodName)) ∈ lw_all := lw_g (lw_at lw_m8 16 rfl) rfl
theorem q1792 : (Jvm.Cond.privateMethod ({ cls := "EightBlocksModel", name := "comes", desc := "(II)V" } : Jvm.MethodName)) ∈ lw_tbl := lw_at lw_m8 17 rfl
theorem q1793 : (Jvm.Cond.instanceMethod ({ cls := "EightBlocksModel", name := "comes", desc := "(II)V" } : Jvm.MethodName)) ∈ lw_all := lw_g (lw_at lw_m8 18 rfl) rfl
theorem q1794 : (Jvm.Cond.code ({ cls := "EightBlocksModel", name := "comes", desc := "(II)V" } : Jvm.MethodName) prog_24_method_13_code (8 : Nat) (Option.none : Option Jvm.ClassFile.FieldType)) ∈ lw_all := lw_g (lw_at lw_m8 19 rfl) rfl
theorem q1795 : (Jvm.Cond.methodLink "EightBlocksModel" (141 : Nat) ({ cls := "EightBlocksModel", name := "highest", desc := "(I)I" } : Jvm.MethodName)) ∈ lw_all := lw_g (lw_at lw_m8 20 rfl) rfl
theorem q1796 : (Jvm.Cond.static ({ cls := "EightBlocksModel", name := "highest", desc := "(I)I" } : Jvm.MethodName)) ∈ lw_all := lw_g (lw_at lw_m8 21 rfl) rfl
theorem q1797 : (Jvm.Cond.code ({ cls := "EightBlocksModel", name := "highest", desc := "(I)I" } : Jvm.MethodName) prog_24_method_12_code (2 : Nat) (Option.some Jvm.ClassFile.FieldType.int)) ∈ lw_all := lw_g (lw_at lw_m8 22 rfl) rfl
theorem q1798 : (Jvm.Cond.methodLink "EightBlocksModel" (112 : Nat) ({ cls := "EightBlocksModel", name := "lowest", desc := "(I)I" } : Jvm.MethodName)) ∈ lw_all := lw_g (lw_at lw_m8 23 rfl) rfl
theorem q1799 : (Jvm.Cond.static ({ cls := "EightBlocksModel", name := "lowest", desc := "(I)I" } : Jvm.MethodName)) ∈ lw_all := lw_g (lw_at lw_m8 24 rfl) rfl
theorem q1800 : (Jvm.Cond.code ({ cls := "EightBlocksModel", name := "lowest", desc := "(I)I" } : Jvm.MethodName) prog_24_method_6_code (2 : Nat) (Option.some Jvm.ClassFile.FieldType.int)) ∈ lw_all := lw_g (lw_at lw_m8 25 rfl) rfl
theorem q1801 : (Jvm.Cond.methodLink "EightBlocksModel" (115 : Nat) ({ cls := "EightBlocksModel", name := "bits", desc := "(I)I" } : Jvm.MethodName)) ∈ lw_all := lw_g (lw_at lw_m8 26 rfl) rfl
theorem q1802 : (Jvm.Cond.static ({ cls := "EightBlocksModel", name := "bits", desc := "(I)I" } : Jvm.MethodName)) ∈ lw_all := lw_g (lw_at lw_m8 27 rfl) rfl
theorem q1803 : (Jvm.Cond.code ({ cls := "EightBlocksModel", name := "bits", desc := "(I)I" } : Jvm.MethodName) prog_24_method_5_code (3 : Nat) (Option.some Jvm.ClassFile.FieldType.int)) ∈ lw_all := lw_g (lw_at lw_m8 28 rfl) rfl
theorem q1804 : (Jvm.Cond.fieldLink "EightBlocksModel" (7 : Nat) "EightBlocksModel" "now" "[I") ∈ lw_all := lw_g (lw_at lw_m8 29 rfl) rfl
theorem q1805 : (Jvm.Cond.fieldLink "EightBlocksModel" (13 : Nat) "EightBlocksModel" "steps" "[I") ∈ lw_all := lw_g (lw_at lw_m8 30 rfl) rfl
theorem q1806 : (Jvm.Cond.fieldLink "EightBlocksModel" (16 : Nat) "EightBlocksModel" "makes" "[I") ∈ lw_all := lw_g (lw_at lw_m8 31 rfl) rfl
theorem q1807 : (Jvm.Cond.fieldLink "EightBlocksModel" (138 : Nat) "EightBlocksModel" "stepMany" "I") ∈ lw_all := lw_g (lw_at lw_m8 32 rfl) rfl
theorem q1808 : (Jvm.Cond.fieldLink "EightBlocksModel" (19 : Nat) "EightBlocksModel" "sorted" "[I") ∈ lw_all := lw_g (lw_at lw_m8 33 rfl) rfl
theorem q1809 : (Jvm.Cond.fieldLink "EightBlocksModel" (22 : Nat) "EightBlocksModel" "octads" "[I") ∈ lw_all := lw_g (lw_at lw_m8 34 rfl) rfl
theorem q1810 : (Jvm.Cond.fieldLink "EightBlocksModel" (25 : Nat) "EightBlocksModel" "text" "[I") ∈ lw_all := lw_g (lw_at lw_m8 35 rfl) rfl
theorem q1811 : (Jvm.Cond.fieldLink "EightBlocksModel" (207 : Nat) "EightBlocksModel" "textMany" "I") ∈ lw_all := lw_g (lw_at lw_m8 36 rfl) rfl
theorem q1812 : (Jvm.Cond.fieldLink "EightBlocksModel" (28 : Nat) "EightBlocksModel" "tape" "[I") ∈ lw_all := lw_g (lw_at lw_m8 37 rfl) rfl
theorem q1813 : (Jvm.Cond.fieldLink "EightBlocksModel" (239 : Nat) "EightBlocksModel" "taped" "I") ∈ lw_all := lw_g (lw_at lw_m8 38 rfl) rfl
theorem q1814 : (Jvm.Cond.fieldLink "EightBlocksModel" (242 : Nat) "EightBlocksModel" "place" "I") ∈ lw_all := lw_g (lw_at lw_m8 39 rfl) rfl
theorem q1815 : (Jvm.Cond.fieldLink "EightBlocksModel" (31 : Nat) "EightBlocksModel" "factor" "[I") ∈ lw_all := lw_g (lw_at lw_m8 40 rfl) rfl
theorem q1816 : (Jvm.Cond.fieldLink "EightBlocksModel" (34 : Nat) "EightBlocksModel" "done" "[I") ∈ lw_all := lw_g (lw_at lw_m8 41 rfl) rfl
theorem q1817 : (Jvm.Cond.fieldLink "EightBlocksModel" (37 : Nat) "EightBlocksModel" "rest" "[I") ∈ lw_all := lw_g (lw_at lw_m8 42 rfl) rfl
theorem q1818 : (Jvm.Cond.fieldLink "EightBlocksModel" (282 : Nat) "EightBlocksModel" "level" "I") ∈ lw_all := lw_g (lw_at lw_m8 43 rfl) rfl
theorem q1819 : (Jvm.Cond.fieldLink "EightBlocksModel" (40 : Nat) "EightBlocksModel" "base" "[I") ∈ lw_all := lw_g (lw_at lw_m8 44 rfl) rfl
theorem q1820 : (Jvm.Cond.fieldLink "EightBlocksModel" (43 : Nat) "EightBlocksModel" "entry" "[I") ∈ lw_all := lw_g (lw_at lw_m8 45 rfl) rfl
theorem q1821 : (Jvm.Cond.fieldLink "EightBlocksModel" (46 : Nat) "EightBlocksModel" "ways" "[I") ∈ lw_all := lw_g (lw_at lw_m8 46 rfl) rfl
theorem q1822 : (Jvm.Cond.fieldLink "EightBlocksModel" (49 : Nat) "EightBlocksModel" "levelOf" "[I") ∈ lw_all := lw_g (lw_at lw_m8 47 rfl) rfl
theorem q1823 : (Jvm.Cond.fieldLink "EightBlocksModel" (318 : Nat) "EightBlocksModel" "entries" "I") ∈ lw_all := lw_g (lw_at lw_m8 48 rfl) rfl
theorem q1824 : (Jvm.Cond.fieldLink "EightBlocksModel" (52 : Nat) "EightBlocksModel" "way" "[I") ∈ lw_all := lw_g (lw_at lw_m8 49 rfl) rfl
theorem q1825 : (Jvm.Cond.fieldLink "EightBlocksModel" (55 : Nat) "EightBlocksModel" "madeBy" "I") ∈ lw_all := lw_g (lw_at lw_m8 50 rfl) rfl
theorem q1826 : (Jvm.Cond.fieldLink "EightBlocksModel" (324 : Nat) "EightBlocksModel" "madeSet" "I") ∈ lw_all := lw_g (lw_at lw_m8 51 rfl) rfl
theorem q1827 : (Jvm.Cond.fieldLink "EightBlocksModel" (59 : Nat) "EightBlocksModel" "madeOf" "[I") ∈ lw_all := lw_g (lw_at lw_m8 52 rfl) rfl
theorem q1828 : (Jvm.Cond.fieldLink "EightBlocksModel" (62 : Nat) "EightBlocksModel" "images" "[I") ∈ lw_all := lw_g (lw_at lw_m8 53 rfl) rfl
theorem q1829 : (Jvm.Cond.fieldLink "EightBlocksModel" (65 : Nat) "EightBlocksModel" "marked" "[Z") ∈ lw_all := lw_g (lw_at lw_m8 54 rfl) rfl
theorem q1830 : (Jvm.Cond.fieldLink "EightBlocksModel" (69 : Nat) "EightBlocksModel" "todo" "[I") ∈ lw_all := lw_g (lw_at lw_m8 55 rfl) rfl
theorem q1831 : (Jvm.Cond.fieldLink "EightBlocksModel" (72 : Nat) "EightBlocksModel" "ahead" "[I") ∈ lw_all := lw_g (lw_at lw_m8 56 rfl) rfl
theorem q1832 : (Jvm.Cond.fieldLink "EightBlocksModel" (385 : Nat) "EightBlocksModel" "undos" "I") ∈ lw_all := lw_g (lw_at lw_m8 57 rfl) rfl
theorem q1833 : (Jvm.Cond.fieldLink "EightBlocksModel" (75 : Nat) "EightBlocksModel" "kept" "[I") ∈ lw_all := lw_g (lw_at lw_m8 58 rfl) rfl
theorem q1834 : (Jvm.Cond.fieldLink "EightBlocksModel" (78 : Nat) "EightBlocksModel" "keptAhead" "[I") ∈ lw_all := lw_g (lw_at lw_m8 59 rfl) rfl
theorem q1835 : (Jvm.Cond.fieldLink "EightBlocksModel" (81 : Nat) "EightBlocksModel" "keptUndos" "I") ∈ lw_all := lw_g (lw_at lw_m8 60 rfl) rfl
theorem q1836 : (Jvm.Cond.fieldLink "EightBlocksModel" (84 : Nat) "EightBlocksModel" "lanes" "[I") ∈ lw_all := lw_g (lw_at lw_m8 61 rfl) rfl
theorem q1837 : (Jvm.Cond.fieldLink "EightBlocksModel" (87 : Nat) "EightBlocksModel" "sizes" "[I") ∈ lw_all := lw_g (lw_at lw_m8 62 rfl) rfl
theorem q1838 : (Jvm.Cond.fieldLink "EightBlocksModel" (90 : Nat) "EightBlocksModel" "items" "[J") ∈ lw_all := lw_g (lw_at lw_m8 63 rfl) rfl
theorem q1839 : (Jvm.Cond.fieldLink "EightBlocksModel" (94 : Nat) "EightBlocksModel" "moved" "[J") ∈ lw_all := lw_g (lw_at lw_m8 64 rfl) rfl
theorem q1840 : (Jvm.Cond.fieldLink "EightBlocksModel" (97 : Nat) "EightBlocksModel" "want" "[I") ∈ lw_all := lw_g (lw_at lw_m8 65 rfl) rfl
theorem q1841 : (Jvm.Cond.laysFinal "EightBlocksModel" "EightBlocksModel" "now" "[I") ∈ lw_all := lw_g (lw_at lw_m8 66 rfl) rfl
theorem q1842 : (Jvm.Cond.soleField "EightBlocksModel" "now") ∈ lw_all := lw_g (lw_at lw_m8 67 rfl) rfl
theorem q1843 : (Jvm.Cond.laysFinal "EightBlocksModel" "EightBlocksModel" "steps" "[I") ∈ lw_all := lw_g (lw_at lw_m8 68 rfl) rfl
theorem q1844 : (Jvm.Cond.soleField "EightBlocksModel" "steps") ∈ lw_all := lw_g (lw_at lw_m8 69 rfl) rfl
theorem q1845 : (Jvm.Cond.laysFinal "EightBlocksModel" "EightBlocksModel" "makes" "[I") ∈ lw_all := lw_g (lw_at lw_m8 70 rfl) rfl
theorem q1846 : (Jvm.Cond.soleField "EightBlocksModel" "makes") ∈ lw_all := lw_g (lw_at lw_m8 71 rfl) rfl
theorem q1847 : (Jvm.Cond.lays "EightBlocksModel" "EightBlocksModel" "stepMany" "I") ∈ lw_all := lw_g (lw_at lw_m8 72 rfl) rfl
theorem q1848 : (Jvm.Cond.soleField "EightBlocksModel" "stepMany") ∈ lw_all := lw_g (lw_at lw_m8 73 rfl) rfl
theorem q1849 : (Jvm.Cond.laysFinal "EightBlocksModel" "EightBlocksModel" "sorted" "[I") ∈ lw_all := lw_g (lw_at lw_m8 74 rfl) rfl
theorem q1850 : (Jvm.Cond.soleField "EightBlocksModel" "sorted") ∈ lw_all := lw_g (lw_at lw_m8 75 rfl) rfl
theorem q1851 : (Jvm.Cond.laysFinal "EightBlocksModel" "EightBlocksModel" "octads" "[I") ∈ lw_all := lw_g (lw_at lw_m8 76 rfl) rfl
theorem q1852 : (Jvm.Cond.soleField "EightBlocksModel" "octads") ∈ lw_all := lw_g (lw_at lw_m8 77 rfl) rfl
theorem q1853 : (Jvm.Cond.laysFinal "EightBlocksModel" "EightBlocksModel" "text" "[I") ∈ lw_all := lw_g (lw_at lw_m8 78 rfl) rfl
theorem q1854 : (Jvm.Cond.soleField "EightBlocksModel" "text") ∈ lw_all := lw_g (lw_at lw_m8 79 rfl) rfl
theorem q1855 : (Jvm.Cond.lays "EightBlocksModel" "EightBlocksModel" "textMany" "I") ∈ lw_all := lw_g (lw_at lw_m8 80 rfl) rfl
theorem q1856 : (Jvm.Cond.soleField "EightBlocksModel" "textMany") ∈ lw_all := lw_g (lw_at lw_m8 81 rfl) rfl
theorem q1857 : (Jvm.Cond.laysFinal "EightBlocksModel" "EightBlocksModel" "tape" "[I") ∈ lw_all := lw_g (lw_at lw_m8 82 rfl) rfl
theorem q1858 : (Jvm.Cond.soleField "EightBlocksModel" "tape") ∈ lw_all := lw_g (lw_at lw_m8 83 rfl) rfl
theorem q1859 : (Jvm.Cond.lays "EightBlocksModel" "EightBlocksModel" "taped" "I") ∈ lw_all := lw_g (lw_at lw_m8 84 rfl) rfl
theorem q1860 : (Jvm.Cond.soleField "EightBlocksModel" "taped") ∈ lw_all := lw_g (lw_at lw_m8 85 rfl) rfl
theorem q1861 : (Jvm.Cond.lays "EightBlocksModel" "EightBlocksModel" "place" "I") ∈ lw_all := lw_g (lw_at lw_m8 86 rfl) rfl
theorem q1862 : (Jvm.Cond.soleField "EightBlocksModel" "place") ∈ lw_all := lw_g (lw_at lw_m8 87 rfl) rfl
theorem q1863 : (Jvm.Cond.laysFinal "EightBlocksModel" "EightBlocksModel" "factor" "[I") ∈ lw_all := lw_g (lw_at lw_m8 88 rfl) rfl
theorem q1864 : (Jvm.Cond.soleField "EightBlocksModel" "factor") ∈ lw_all := lw_g (lw_at lw_m8 89 rfl) rfl
theorem q1865 : (Jvm.Cond.laysFinal "EightBlocksModel" "EightBlocksModel" "done" "[I") ∈ lw_all := lw_g (lw_at lw_m8 90 rfl) rfl
theorem q1866 : (Jvm.Cond.soleField "EightBlocksModel" "done") ∈ lw_all := lw_g (lw_at lw_m8 91 rfl) rfl
theorem q1867 : (Jvm.Cond.laysFinal "EightBlocksModel" "EightBlocksModel" "rest" "[I") ∈ lw_all := lw_g (lw_at lw_m8 92 rfl) rfl
theorem q1868 : (Jvm.Cond.soleField "EightBlocksModel" "rest") ∈ lw_all := lw_g (lw_at lw_m8 93 rfl) rfl
theorem q1869 : (Jvm.Cond.lays "EightBlocksModel" "EightBlocksModel" "level" "I") ∈ lw_all := lw_g (lw_at lw_m8 94 rfl) rfl
theorem q1870 : (Jvm.Cond.soleField "EightBlocksModel" "level") ∈ lw_all := lw_g (lw_at lw_m8 95 rfl) rfl
theorem q1871 : (Jvm.Cond.laysFinal "EightBlocksModel" "EightBlocksModel" "base" "[I") ∈ lw_all := lw_g (lw_at lw_m8 96 rfl) rfl
theorem q1872 : (Jvm.Cond.soleField "EightBlocksModel" "base") ∈ lw_all := lw_g (lw_at lw_m8 97 rfl) rfl
theorem q1873 : (Jvm.Cond.laysFinal "EightBlocksModel" "EightBlocksModel" "entry" "[I") ∈ lw_all := lw_g (lw_at lw_m8 98 rfl) rfl
theorem q1874 : (Jvm.Cond.soleField "EightBlocksModel" "entry") ∈ lw_all := lw_g (lw_at lw_m8 99 rfl) rfl
theorem q1875 : (Jvm.Cond.laysFinal "EightBlocksModel" "EightBlocksModel" "ways" "[I") ∈ lw_all := lw_g (lw_at lw_m8 100 rfl) rfl
theorem q1876 : (Jvm.Cond.soleField "EightBlocksModel" "ways") ∈ lw_all := lw_g (lw_at lw_m8 101 rfl) rfl
theorem q1877 : (Jvm.Cond.laysFinal "EightBlocksModel" "EightBlocksModel" "levelOf" "[I") ∈ lw_all := lw_g (lw_at lw_m8 102 rfl) rfl
theorem q1878 : (Jvm.Cond.soleField "EightBlocksModel" "levelOf") ∈ lw_all := lw_g (lw_at lw_m8 103 rfl) rfl
theorem q1879 : (Jvm.Cond.lays "EightBlocksModel" "EightBlocksModel" "entries" "I") ∈ lw_all := lw_g (lw_at lw_m8 104 rfl) rfl
theorem q1880 : (Jvm.Cond.soleField "EightBlocksModel" "entries") ∈ lw_all := lw_g (lw_at lw_m8 105 rfl) rfl
theorem q1881 : (Jvm.Cond.laysFinal "EightBlocksModel" "EightBlocksModel" "way" "[I") ∈ lw_all := lw_g (lw_at lw_m8 106 rfl) rfl
theorem q1882 : (Jvm.Cond.soleField "EightBlocksModel" "way") ∈ lw_all := lw_g (lw_at lw_m8 107 rfl) rfl
theorem q1883 : (Jvm.Cond.lays "EightBlocksModel" "EightBlocksModel" "madeBy" "I") ∈ lw_all := lw_g (lw_at lw_m8 108 rfl) rfl
theorem q1884 : (Jvm.Cond.soleField "EightBlocksModel" "madeBy") ∈ lw_all := lw_g (lw_at lw_m8 109 rfl) rfl
theorem q1885 : (Jvm.Cond.lays "EightBlocksModel" "EightBlocksModel" "madeSet" "I") ∈ lw_all := lw_g (lw_at lw_m8 110 rfl) rfl
theorem q1886 : (Jvm.Cond.soleField "EightBlocksModel" "madeSet") ∈ lw_all := lw_g (lw_at lw_m8 111 rfl) rfl
theorem q1887 : (Jvm.Cond.laysFinal "EightBlocksModel" "EightBlocksModel" "madeOf" "[I") ∈ lw_all := lw_g (lw_at lw_m8 112 rfl) rfl
theorem q1888 : (Jvm.Cond.soleField "EightBlocksModel" "madeOf") ∈ lw_all := lw_g (lw_at lw_m8 113 rfl) rfl
theorem q1889 : (Jvm.Cond.laysFinal "EightBlocksModel" "EightBlocksModel" "images" "[I") ∈ lw_all := lw_g (lw_at lw_m8 114 rfl) rfl
theorem q1890 : (Jvm.Cond.soleField "EightBlocksModel" "images") ∈ lw_all := lw_g (lw_at lw_m8 115 rfl) rfl
theorem q1891 : (Jvm.Cond.laysFinal "EightBlocksModel" "EightBlocksModel" "marked" "[Z") ∈ lw_all := lw_g (lw_at lw_m8 116 rfl) rfl
theorem q1892 : (Jvm.Cond.soleField "EightBlocksModel" "marked") ∈ lw_all := lw_g (lw_at lw_m8 117 rfl) rfl
theorem q1893 : (Jvm.Cond.laysFinal "EightBlocksModel" "EightBlocksModel" "todo" "[I") ∈ lw_all := lw_g (lw_at lw_m8 118 rfl) rfl
theorem q1894 : (Jvm.Cond.soleField "EightBlocksModel" "todo") ∈ lw_all := lw_g (lw_at lw_m8 119 rfl) rfl
theorem q1895 : (Jvm.Cond.laysFinal "EightBlocksModel" "EightBlocksModel" "ahead" "[I") ∈ lw_all := lw_g (lw_at lw_m8 120 rfl) rfl
theorem q1896 : (Jvm.Cond.soleField "EightBlocksModel" "ahead") ∈ lw_all := lw_g (lw_at lw_m8 121 rfl) rfl
theorem q1897 : (Jvm.Cond.lays "EightBlocksModel" "EightBlocksModel" "undos" "I") ∈ lw_all := lw_g (lw_at lw_m8 122 rfl) rfl
theorem q1898 : (Jvm.Cond.soleField "EightBlocksModel" "undos") ∈ lw_all := lw_g (lw_at lw_m8 123 rfl) rfl
theorem q1899 : (Jvm.Cond.laysFinal "EightBlocksModel" "EightBlocksModel" "kept" "[I") ∈ lw_all := lw_g (lw_at lw_m8 124 rfl) rfl
theorem q1900 : (Jvm.Cond.soleField "EightBlocksModel" "kept") ∈ lw_all := lw_g (lw_at lw_m8 125 rfl) rfl
theorem q1901 : (Jvm.Cond.laysFinal "EightBlocksModel" "EightBlocksModel" "keptAhead" "[I") ∈ lw_all := lw_g (lw_at lw_m8 126 rfl) rfl
theorem q1902 : (Jvm.Cond.soleField "EightBlocksModel" "keptAhead") ∈ lw_all := lw_g (lw_at lw_m8 127 rfl) rfl
theorem q1903 : (Jvm.Cond.lays "EightBlocksModel" "EightBlocksModel" "keptUndos" "I") ∈ lw_all := lw_g (lw_at lw_m8 128 rfl) rfl
theorem q1904 : (Jvm.Cond.soleField "EightBlocksModel" "keptUndos") ∈ lw_all := lw_g (lw_at lw_m8 129 rfl) rfl
theorem q1905 : (Jvm.Cond.laysFinal "EightBlocksModel" "EightBlocksModel" "lanes" "[I") ∈ lw_all := lw_g (lw_at lw_m8 130 rfl) rfl
theorem q1906 : (Jvm.Cond.soleField "EightBlocksModel" "lanes") ∈ lw_all := lw_g (lw_at lw_m8 131 rfl) rfl
theorem q1907 : (Jvm.Cond.laysFinal "EightBlocksModel" "EightBlocksModel" "sizes" "[I") ∈ lw_all := lw_g (lw_at lw_m8 132 rfl) rfl
theorem q1908 : (Jvm.Cond.soleField "EightBlocksModel" "sizes") ∈ lw_all := lw_g (lw_at lw_m8 133 rfl) rfl
theorem q1909 : (Jvm.Cond.laysFinal "EightBlocksModel" "EightBlocksModel" "items" "[J") ∈ lw_all := lw_g (lw_at lw_m8 134 rfl) rfl
theorem q1910 : (Jvm.Cond.soleField "EightBlocksModel" "items") ∈ lw_all := lw_g (lw_at lw_m8 135 rfl) rfl
theorem q1911 : (Jvm.Cond.laysFinal "EightBlocksModel" "EightBlocksModel" "moved" "[J") ∈ lw_all := lw_g (lw_at lw_m8 136 rfl) rfl
theorem q1912 : (Jvm.Cond.soleField "EightBlocksModel" "moved") ∈ lw_all := lw_g (lw_at lw_m8 137 rfl) rfl
theorem q1913 : (Jvm.Cond.laysFinal "EightBlocksModel" "EightBlocksModel" "want" "[I") ∈ lw_all := lw_g (lw_at lw_m8 138 rfl) rfl
theorem q1914 : (Jvm.Cond.soleField "EightBlocksModel" "want") ∈ lw_all := lw_g (lw_at lw_m8 139 rfl) rfl
theorem q1915 : (Jvm.Cond.superclass "EightBlocksModel" "java/lang/Object") ∈ lw_all := lw_g (lw_at lw_m8 140 rfl) rfl
theorem q1917 : (Jvm.Cond.instanceMethod ({ cls := "EightBlocksModel", name := "word", desc := "(II)I" } : Jvm.MethodName)) ∈ lw_all := lw_g (lw_at lw_m8 142 rfl) rfl
theorem q1918 : (Jvm.Cond.selects "EightBlocksModel" ({ cls := "EightBlocksModel", name := "word", desc := "(II)I" } : Jvm.MethodName) ({ cls := "EightBlocksModel", name := "word", desc := "(II)I" } : Jvm.MethodName)) ∈ lw_all := lw_g (lw_at lw_m8 143 rfl) rfl
theorem q1919 : (Jvm.Cond.code ({ cls := "EightBlocksModel", name := "word", desc := "(II)I" } : Jvm.MethodName) prog_24_method_19_code (3 : Nat) (Option.some Jvm.ClassFile.FieldType.int)) ∈ lw_all := lw_g (lw_at lw_m8 144 rfl) rfl
theorem q1920 : (Jvm.Cond.methodLink "EightBlocksModel" (144 : Nat) ({ cls := "EightBlocksModel", name := "isSet", desc := "(I)Z" } : Jvm.MethodName)) ∈ lw_all := lw_g (lw_at lw_m8 145 rfl) rfl
theorem q1921 : (Jvm.Cond.static ({ cls := "EightBlocksModel", name := "isSet", desc := "(I)Z" } : Jvm.MethodName)) ∈ lw_all := lw_g (lw_at lw_m8 146 rfl) rfl
theorem q1922 : (Jvm.Cond.code ({ cls := "EightBlocksModel", name := "isSet", desc := "(I)Z" } : Jvm.MethodName) prog_24_method_7_code (1 : Nat) (Option.some Jvm.ClassFile.FieldType.boolean)) ∈ lw_all := lw_g (lw_at lw_m8 147 rfl) rfl
theorem q1923 : (Jvm.Cond.constantLong "EightBlocksModel" (122 : Nat) (16777215 : Int64)) ∈ lw_all := lw_g (lw_at lw_m8 148 rfl) rfl
theorem q1924 : (Jvm.Cond.methodLink "EightBlocksModel" (148 : Nat) ({ cls := "EightBlocksModel", name := "numberOf", desc := "(I)I" } : Jvm.MethodName)) ∈ lw_all := lw_g (lw_at lw_m8 149 rfl) rfl
theorem q1925 : (Jvm.Cond.privateMethod ({ cls := "EightBlocksModel", name := "numberOf", desc := "(I)I" } : Jvm.MethodName)) ∈ lw_tbl := lw_at lw_m8 150 rfl
theorem q1926 : (Jvm.Cond.instanceMethod ({ cls := "EightBlocksModel", name := "numberOf", desc := "(I)I" } : Jvm.MethodName)) ∈ lw_all := lw_g (lw_at lw_m8 151 rfl) rfl
theorem q1927 : (Jvm.Cond.code ({ cls := "EightBlocksModel", name := "numberOf", desc := "(I)I" } : Jvm.MethodName) prog_24_method_14_code (5 : Nat) (Option.some Jvm.ClassFile.FieldType.int)) ∈ lw_all := lw_g (lw_at lw_m8 152 rfl) rfl
theorem q1928 : (Jvm.Cond.methodLink "EightBlocksModel" (151 : Nat) ({ cls := "EightBlocksModel", name := "closest", desc := "(II)I" } : Jvm.MethodName)) ∈ lw_all := lw_g (lw_at lw_m8 153 rfl) rfl
theorem q1929 : (Jvm.Cond.privateMethod ({ cls := "EightBlocksModel", name := "closest", desc := "(II)I" } : Jvm.MethodName)) ∈ lw_tbl := lw_at lw_m8 154 rfl
theorem q1930 : (Jvm.Cond.instanceMethod ({ cls := "EightBlocksModel", name := "closest", desc := "(II)I" } : Jvm.MethodName)) ∈ lw_all := lw_g (lw_at lw_m8 155 rfl) rfl
theorem q1931 : (Jvm.Cond.code ({ cls := "EightBlocksModel", name := "closest", desc := "(II)I" } : Jvm.MethodName) prog_24_method_16_code (8 : Nat) (Option.some Jvm.ClassFile.FieldType.int)) ∈ lw_all := lw_g (lw_at lw_m8 156 rfl) rfl
theorem q1932 : (Jvm.Cond.methodLink "EightBlocksModel" (154 : Nat) ({ cls := "EightBlocksModel", name := "octadsIn", desc := "(I)I" } : Jvm.MethodName)) ∈ lw_all := lw_g (lw_at lw_m8 157 rfl) rfl
theorem q1933 : (Jvm.Cond.privateMethod ({ cls := "EightBlocksModel", name := "octadsIn", desc := "(I)I" } : Jvm.MethodName)) ∈ lw_tbl := lw_at lw_m8 158 rfl
theorem q1934 : (Jvm.Cond.instanceMethod ({ cls := "EightBlocksModel", name := "octadsIn", desc := "(I)I" } : Jvm.MethodName)) ∈ lw_all := lw_g (lw_at lw_m8 159 rfl) rfl
theorem q1935 : (Jvm.Cond.code ({ cls := "EightBlocksModel", name := "octadsIn", desc := "(I)I" } : Jvm.MethodName) prog_24_method_17_code (4 : Nat) (Option.some Jvm.ClassFile.FieldType.int)) ∈ lw_all := lw_g (lw_at lw_m8 160 rfl) rfl
theorem q1936 : (Jvm.Cond.methodLink "EightBlocksModel" (157 : Nat) ({ cls := "EightBlocksModel", name := "octadsWith", desc := "(I)I" } : Jvm.MethodName)) ∈ lw_all := lw_g (lw_at lw_m8 161 rfl) rfl
theorem q1937 : (Jvm.Cond.privateMethod ({ cls := "EightBlocksModel", name := "octadsWith", desc := "(I)I" } : Jvm.MethodName)) ∈ lw_tbl := lw_at lw_m8 162 rfl
theorem q1938 : (Jvm.Cond.instanceMethod ({ cls := "EightBlocksModel", name := "octadsWith", desc := "(I)I" } : Jvm.MethodName)) ∈ lw_all := lw_g (lw_at lw_m8 163 rfl) rfl
theorem q1939 : (Jvm.Cond.code ({ cls := "EightBlocksModel", name := "octadsWith", desc := "(I)I" } : Jvm.MethodName) prog_24_method_18_code (4 : Nat) (Option.some Jvm.ClassFile.FieldType.int)) ∈ lw_all := lw_g (lw_at lw_m8 164 rfl) rfl
theorem q1941 : (Jvm.Cond.instanceMethod ({ cls := "EightBlocksModel", name := "block", desc := "(II)I" } : Jvm.MethodName)) ∈ lw_all := lw_g (lw_at lw_m8 166 rfl) rfl
theorem q1942 : (Jvm.Cond.selects "EightBlocksModel" ({ cls := "EightBlocksModel", name := "block", desc := "(II)I" } : Jvm.MethodName) ({ cls := "EightBlocksModel", name := "block", desc := "(II)I" } : Jvm.MethodName)) ∈ lw_all := lw_g (lw_at lw_m8 167 rfl) rfl
theorem q1943 : (Jvm.Cond.code ({ cls := "EightBlocksModel", name := "block", desc := "(II)I" } : Jvm.MethodName) prog_24_method_21_code (3 : Nat) (Option.some Jvm.ClassFile.FieldType.int)) ∈ lw_all := lw_g (lw_at lw_m8 168 rfl) rfl
theorem q1944 : (Jvm.Cond.constantLong "EightBlocksModel" (160 : Nat) (4095 : Int64)) ∈ lw_all := lw_g (lw_at lw_m8 169 rfl) rfl
theorem q1945 : (Jvm.Cond.methodLink "EightBlocksModel" (162 : Nat) ({ cls := "EightBlocksModel", name := "wordOf", desc := "(I)I" } : Jvm.MethodName)) ∈ lw_all := lw_g (lw_at lw_m8 170 rfl) rfl
theorem q1946 : (Jvm.Cond.static ({ cls := "EightBlocksModel", name := "wordOf", desc := "(I)I" } : Jvm.MethodName)) ∈ lw_all := lw_g (lw_at lw_m8 171 rfl) rfl
theorem q1947 : (Jvm.Cond.code ({ cls := "EightBlocksModel", name := "wordOf", desc := "(I)I" } : Jvm.MethodName) prog_24_method_15_code (3 : Nat) (Option.some Jvm.ClassFile.FieldType.int)) ∈ lw_all := lw_g (lw_at lw_m8 172 rfl) rfl
theorem q1948 : (Jvm.Cond.constantLong "EightBlocksModel" (165 : Nat) (758 : Int64)) ∈ lw_all := lw_g (lw_at lw_m8 173 rfl) rfl
theorem q1949 : (Jvm.Cond.constantLong "EightBlocksModel" (167 : Nat) (2575 : Int64)) ∈ lw_all := lw_g (lw_at lw_m8 174 rfl) rfl
theorem q1950 : (Jvm.Cond.methodLink "EightBlocksModel" (169 : Nat) ({ cls := "EightBlocksModel", name := "dodecad", desc := "(I)I" } : Jvm.MethodName)) ∈ lw_all := lw_g (lw_at lw_m8 175 rfl) rfl
theorem q1951 : (Jvm.Cond.privateMethod ({ cls := "EightBlocksModel", name := "dodecad", desc := "(I)I" } : Jvm.MethodName)) ∈ lw_tbl := lw_at lw_m8 176 rfl
theorem q1952 : (Jvm.Cond.instanceMethod ({ cls := "EightBlocksModel", name := "dodecad", desc := "(I)I" } : Jvm.MethodName)) ∈ lw_all := lw_g (lw_at lw_m8 177 rfl) rfl
theorem q1953 : (Jvm.Cond.code ({ cls := "EightBlocksModel", name := "dodecad", desc := "(I)I" } : Jvm.MethodName) prog_24_method_20_code (4 : Nat) (Option.some Jvm.ClassFile.FieldType.int)) ∈ lw_all := lw_g (lw_at lw_m8 178 rfl) rfl
theorem q1955 : (Jvm.Cond.instanceMethod ({ cls := "EightBlocksModel", name := "complete", desc := "(I)I" } : Jvm.MethodName)) ∈ lw_all := lw_g (lw_at lw_m8 180 rfl) rfl
theorem q1956 : (Jvm.Cond.selects "EightBlocksModel" ({ cls := "EightBlocksModel", name := "complete", desc := "(I)I" } : Jvm.MethodName) ({ cls := "EightBlocksModel", name := "complete", desc := "(I)I" } : Jvm.MethodName)) ∈ lw_all := lw_g (lw_at lw_m8 181 rfl) rfl
theorem q1957 : (Jvm.Cond.code ({ cls := "EightBlocksModel", name := "complete", desc := "(I)I" } : Jvm.MethodName) prog_24_method_23_code (2 : Nat) (Option.some Jvm.ClassFile.FieldType.int)) ∈ lw_all := lw_g (lw_at lw_m8 182 rfl) rfl
theorem q1958 : (Jvm.Cond.methodLink "EightBlocksModel" (172 : Nat) ({ cls := "EightBlocksModel", name := "octadOf", desc := "(I)I" } : Jvm.MethodName)) ∈ lw_all := lw_g (lw_at lw_m8 183 rfl) rfl
theorem q1959 : (Jvm.Cond.privateMethod ({ cls := "EightBlocksModel", name := "octadOf", desc := "(I)I" } : Jvm.MethodName)) ∈ lw_tbl := lw_at lw_m8 184 rfl
theorem q1960 : (Jvm.Cond.instanceMethod ({ cls := "EightBlocksModel", name := "octadOf", desc := "(I)I" } : Jvm.MethodName)) ∈ lw_all := lw_g (lw_at lw_m8 185 rfl) rfl
theorem q1961 : (Jvm.Cond.code ({ cls := "EightBlocksModel", name := "octadOf", desc := "(I)I" } : Jvm.MethodName) prog_24_method_22_code (3 : Nat) (Option.some Jvm.ClassFile.FieldType.int)) ∈ lw_all := lw_g (lw_at lw_m8 186 rfl) rfl
theorem q1963 : (Jvm.Cond.instanceMethod ({ cls := "EightBlocksModel", name := "sextet", desc := "(II)I" } : Jvm.MethodName)) ∈ lw_all := lw_g (lw_at lw_m8 188 rfl) rfl
theorem q1964 : (Jvm.Cond.selects "EightBlocksModel" ({ cls := "EightBlocksModel", name := "sextet", desc := "(II)I" } : Jvm.MethodName) ({ cls := "EightBlocksModel", name := "sextet", desc := "(II)I" } : Jvm.MethodName)) ∈ lw_all := lw_g (lw_at lw_m8 189 rfl) rfl
theorem q1965 : (Jvm.Cond.code ({ cls := "EightBlocksModel", name := "sextet", desc := "(II)I" } : Jvm.MethodName) prog_24_method_25_code (6 : Nat) (Option.some Jvm.ClassFile.FieldType.int)) ∈ lw_all := lw_g (lw_at lw_m8 190 rfl) rfl
theorem q1966 : (Jvm.Cond.constantLong "EightBlocksModel" (175 : Nat) (5 : Int64)) ∈ lw_all := lw_g (lw_at lw_m8 191 rfl) rfl
theorem q1967 : (Jvm.Cond.constant "EightBlocksModel" (177 : Nat) (16777215 : Int32)) ∈ lw_all := lw_g (lw_at lw_m8 192 rfl) rfl
theorem q1968 : (Jvm.Cond.methodLink "EightBlocksModel" (178 : Nat) ({ cls := "EightBlocksModel", name := "tetradAt", desc := "(II)I" } : Jvm.MethodName)) ∈ lw_all := lw_g (lw_at lw_m8 193 rfl) rfl
theorem q1969 : (Jvm.Cond.privateMethod ({ cls := "EightBlocksModel", name := "tetradAt", desc := "(II)I" } : Jvm.MethodName)) ∈ lw_tbl := lw_at lw_m8 194 rfl
theorem q1970 : (Jvm.Cond.instanceMethod ({ cls := "EightBlocksModel", name := "tetradAt", desc := "(II)I" } : Jvm.MethodName)) ∈ lw_all := lw_g (lw_at lw_m8 195 rfl) rfl
theorem q1971 : (Jvm.Cond.code ({ cls := "EightBlocksModel", name := "tetradAt", desc := "(II)I" } : Jvm.MethodName) prog_24_method_24_code (3 : Nat) (Option.some Jvm.ClassFile.FieldType.int)) ∈ lw_all := lw_g (lw_at lw_m8 196 rfl) rfl
theorem q1973 : (Jvm.Cond.instanceMethod ({ cls := "EightBlocksModel", name := "both", desc := "(II)I" } : Jvm.MethodName)) ∈ lw_all := lw_g (lw_at lw_m8 198 rfl) rfl
theorem q1974 : (Jvm.Cond.selects "EightBlocksModel" ({ cls := "EightBlocksModel", name := "both", desc := "(II)I" } : Jvm.MethodName) ({ cls := "EightBlocksModel", name := "both", desc := "(II)I" } : Jvm.MethodName)) ∈ lw_all := lw_g (lw_at lw_m8 199 rfl) rfl
theorem q1975 : (Jvm.Cond.code ({ cls := "EightBlocksModel", name := "both", desc := "(II)I" } : Jvm.MethodName) prog_24_method_27_code (5 : Nat) (Option.some Jvm.ClassFile.FieldType.int)) ∈ lw_all := lw_g (lw_at lw_m8 200 rfl) rfl
theorem q1976 : (Jvm.Cond.methodLink "EightBlocksModel" (181 : Nat) ({ cls := "EightBlocksModel", name := "isOfTwo", desc := "(II)Z" } : Jvm.MethodName)) ∈ lw_all := lw_g (lw_at lw_m8 201 rfl) rfl
theorem q1977 : (Jvm.Cond.privateMethod ({ cls := "EightBlocksModel", name := "isOfTwo", desc := "(II)Z" } : Jvm.MethodName)) ∈ lw_tbl := lw_at lw_m8 202 rfl
theorem q1978 : (Jvm.Cond.instanceMethod ({ cls := "EightBlocksModel", name := "isOfTwo", desc := "(II)Z" } : Jvm.MethodName)) ∈ lw_all := lw_g (lw_at lw_m8 203 rfl) rfl
theorem q1979 : (Jvm.Cond.code ({ cls := "EightBlocksModel", name := "isOfTwo", desc := "(II)Z" } : Jvm.MethodName) prog_24_method_26_code (5 : Nat) (Option.some Jvm.ClassFile.FieldType.boolean)) ∈ lw_all := lw_g (lw_at lw_m8 204 rfl) rfl
theorem q1981 : (Jvm.Cond.instanceMethod ({ cls := "EightBlocksModel", name := "met", desc := "(II)I" } : Jvm.MethodName)) ∈ lw_all := lw_g (lw_at lw_m8 206 rfl) rfl
theorem q1982 : (Jvm.Cond.selects "EightBlocksModel" ({ cls := "EightBlocksModel", name := "met", desc := "(II)I" } : Jvm.MethodName) ({ cls := "EightBlocksModel", name := "met", desc := "(II)I" } : Jvm.MethodName)) ∈ lw_all := lw_g (lw_at lw_m8 207 rfl) rfl
theorem q1983 : (Jvm.Cond.code ({ cls := "EightBlocksModel", name := "met", desc := "(II)I" } : Jvm.MethodName) prog_24_method_28_code (5 : Nat) (Option.some Jvm.ClassFile.FieldType.int)) ∈ lw_all := lw_g (lw_at lw_m8 208 rfl) rfl
theorem q1984 : (Jvm.Cond.constantLong "EightBlocksModel" (184 : Nat) (8 : Int64)) ∈ lw_all := lw_g (lw_at lw_m8 209 rfl) rfl
theorem q1986 : (Jvm.Cond.instanceMethod ({ cls := "EightBlocksModel", name := "move", desc := "(II)I" } : Jvm.MethodName)) ∈ lw_all := lw_g (lw_at lw_m8 211 rfl) rfl
theorem q1987 : (Jvm.Cond.selects "EightBlocksModel" ({ cls := "EightBlocksModel", name := "move", desc := "(II)I" } : Jvm.MethodName) ({ cls := "EightBlocksModel", name := "move", desc := "(II)I" } : Jvm.MethodName)) ∈ lw_all := lw_g (lw_at lw_m8 212 rfl) rfl
theorem q1988 : (Jvm.Cond.code ({ cls := "EightBlocksModel", name := "move", desc := "(II)I" } : Jvm.MethodName) prog_24_method_31_code (3 : Nat) (Option.some Jvm.ClassFile.FieldType.int)) ∈ lw_all := lw_g (lw_at lw_m8 213 rfl) rfl
theorem q1989 : (Jvm.Cond.methodLink "EightBlocksModel" (188 : Nat) ({ cls := "EightBlocksModel", name := "isMove", desc := "(I)Z" } : Jvm.MethodName)) ∈ lw_all := lw_g (lw_at lw_m8 214 rfl) rfl
theorem q1990 : (Jvm.Cond.static ({ cls := "EightBlocksModel", name := "isMove", desc := "(I)Z" } : Jvm.MethodName)) ∈ lw_all := lw_g (lw_at lw_m8 215 rfl) rfl
theorem q1991 : (Jvm.Cond.code ({ cls := "EightBlocksModel", name := "isMove", desc := "(I)Z" } : Jvm.MethodName) prog_24_method_29_code (1 : Nat) (Option.some Jvm.ClassFile.FieldType.boolean)) ∈ lw_all := lw_g (lw_at lw_m8 216 rfl) rfl
theorem q1992 : (Jvm.Cond.constantLong "EightBlocksModel" (186 : Nat) (4 : Int64)) ∈ lw_all := lw_g (lw_at lw_m8 217 rfl) rfl
theorem q1993 : (Jvm.Cond.methodLink "EightBlocksModel" (191 : Nat) ({ cls := "EightBlocksModel", name := "isPlace", desc := "(J)Z" } : Jvm.MethodName)) ∈ lw_all := lw_g (lw_at lw_m8 218 rfl) rfl
theorem q1994 : (Jvm.Cond.static ({ cls := "EightBlocksModel", name := "isPlace", desc := "(J)Z" } : Jvm.MethodName)) ∈ lw_all := lw_g (lw_at lw_m8 219 rfl) rfl
theorem q1995 : (Jvm.Cond.code ({ cls := "EightBlocksModel", name := "isPlace", desc := "(J)Z" } : Jvm.MethodName) prog_24_method_8_code (2 : Nat) (Option.some Jvm.ClassFile.FieldType.boolean)) ∈ lw_all := lw_g (lw_at lw_m8 220 rfl) rfl
theorem q1996 : (Jvm.Cond.constantLong "EightBlocksModel" (128 : Nat) (23 : Int64)) ∈ lw_all := lw_g (lw_at lw_m8 221 rfl) rfl
theorem q1997 : (Jvm.Cond.methodLink "EightBlocksModel" (195 : Nat) ({ cls := "EightBlocksModel", name := "to", desc := "(II)I" } : Jvm.MethodName)) ∈ lw_all := lw_g (lw_at lw_m8 222 rfl) rfl
theorem q1998 : (Jvm.Cond.privateMethod ({ cls := "EightBlocksModel", name := "to", desc := "(II)I" } : Jvm.MethodName)) ∈ lw_tbl := lw_at lw_m8 223 rfl
theorem q1999 : (Jvm.Cond.instanceMethod ({ cls := "EightBlocksModel", name := "to", desc := "(II)I" } : Jvm.MethodName)) ∈ lw_all := lw_g (lw_at lw_m8 224 rfl) rfl
theorem q2000 : (Jvm.Cond.code ({ cls := "EightBlocksModel", name := "to", desc := "(II)I" } : Jvm.MethodName) prog_24_method_30_code (3 : Nat) (Option.some Jvm.ClassFile.FieldType.int)) ∈ lw_all := lw_g (lw_at lw_m8 225 rfl) rfl
theorem q2002 : (Jvm.Cond.instanceMethod ({ cls := "EightBlocksModel", name := "sent", desc := "(II)I" } : Jvm.MethodName)) ∈ lw_all := lw_g (lw_at lw_m8 227 rfl) rfl
theorem q2003 : (Jvm.Cond.selects "EightBlocksModel" ({ cls := "EightBlocksModel", name := "sent", desc := "(II)I" } : Jvm.MethodName) ({ cls := "EightBlocksModel", name := "sent", desc := "(II)I" } : Jvm.MethodName)) ∈ lw_all := lw_g (lw_at lw_m8 228 rfl) rfl
theorem q2004 : (Jvm.Cond.code ({ cls := "EightBlocksModel", name := "sent", desc := "(II)I" } : Jvm.MethodName) prog_24_method_33_code (3 : Nat) (Option.some Jvm.ClassFile.FieldType.int)) ∈ lw_all := lw_g (lw_at lw_m8 229 rfl) rfl
theorem q2005 : (Jvm.Cond.methodLink "EightBlocksModel" (198 : Nat) ({ cls := "EightBlocksModel", name := "goes", desc := "(II)I" } : Jvm.MethodName)) ∈ lw_all := lw_g (lw_at lw_m8 230 rfl) rfl
theorem q2006 : (Jvm.Cond.privateMethod ({ cls := "EightBlocksModel", name := "goes", desc := "(II)I" } : Jvm.MethodName)) ∈ lw_tbl := lw_at lw_m8 231 rfl
theorem q2007 : (Jvm.Cond.instanceMethod ({ cls := "EightBlocksModel", name := "goes", desc := "(II)I" } : Jvm.MethodName)) ∈ lw_all := lw_g (lw_at lw_m8 232 rfl) rfl
theorem q2008 : (Jvm.Cond.code ({ cls := "EightBlocksModel", name := "goes", desc := "(II)I" } : Jvm.MethodName) prog_24_method_32_code (5 : Nat) (Option.some Jvm.ClassFile.FieldType.int)) ∈ lw_all := lw_g (lw_at lw_m8 233 rfl) rfl
theorem q2010 : (Jvm.Cond.instanceMethod ({ cls := "EightBlocksModel", name := "told", desc := "(II)I" } : Jvm.MethodName)) ∈ lw_all := lw_g (lw_at lw_m8 235 rfl) rfl
theorem q2011 : (Jvm.Cond.selects "EightBlocksModel" ({ cls := "EightBlocksModel", name := "told", desc := "(II)I" } : Jvm.MethodName) ({ cls := "EightBlocksModel", name := "told", desc := "(II)I" } : Jvm.MethodName)) ∈ lw_all := lw_g (lw_at lw_m8 236 rfl) rfl
theorem q2012 : (Jvm.Cond.code ({ cls := "EightBlocksModel", name := "told", desc := "(II)I" } : Jvm.MethodName) prog_24_method_44_code (3 : Nat) (Option.some Jvm.ClassFile.FieldType.int)) ∈ lw_all := lw_g (lw_at lw_m8 237 rfl) rfl
theorem q2013 : (Jvm.Cond.methodLink "EightBlocksModel" (217 : Nat) ({ cls := "EightBlocksModel", name := "keeps", desc := "(I)Z" } : Jvm.MethodName)) ∈ lw_all := lw_g (lw_at lw_m8 238 rfl) rfl
theorem q2014 : (Jvm.Cond.privateMethod ({ cls := "EightBlocksModel", name := "keeps", desc := "(I)Z" } : Jvm.MethodName)) ∈ lw_tbl := lw_at lw_m8 239 rfl
theorem q2015 : (Jvm.Cond.instanceMethod ({ cls := "EightBlocksModel", name := "keeps", desc := "(I)Z" } : Jvm.MethodName)) ∈ lw_all := lw_g (lw_at lw_m9 0 rfl) rfl
theorem q2016 : (Jvm.Cond.code ({ cls := "EightBlocksModel", name := "keeps", desc := "(I)Z" } : Jvm.MethodName) prog_24_method_34_code (4 : Nat) (Option.some Jvm.ClassFile.FieldType.boolean)) ∈ lw_all := lw_g (lw_at lw_m9 1 rfl) rfl
theorem q2017 : (Jvm.Cond.methodLink "EightBlocksModel" (220 : Nat) ({ cls := "EightBlocksModel", name := "stays", desc := "(I)I" } : Jvm.MethodName)) ∈ lw_all := lw_g (lw_at lw_m9 2 rfl) rfl
theorem q2018 : (Jvm.Cond.privateMethod ({ cls := "EightBlocksModel", name := "stays", desc := "(I)I" } : Jvm.MethodName)) ∈ lw_tbl := lw_at lw_m9 3 rfl
theorem q2019 : (Jvm.Cond.instanceMethod ({ cls := "EightBlocksModel", name := "stays", desc := "(I)I" } : Jvm.MethodName)) ∈ lw_all := lw_g (lw_at lw_m9 4 rfl) rfl
theorem q2020 : (Jvm.Cond.code ({ cls := "EightBlocksModel", name := "stays", desc := "(I)I" } : Jvm.MethodName) prog_24_method_39_code (4 : Nat) (Option.some Jvm.ClassFile.FieldType.int)) ∈ lw_all := lw_g (lw_at lw_m9 5 rfl) rfl
theorem q2021 : (Jvm.Cond.methodLink "EightBlocksModel" (223 : Nat) ({ cls := "EightBlocksModel", name := "rings", desc := "(I)I" } : Jvm.MethodName)) ∈ lw_all := lw_g (lw_at lw_m9 6 rfl) rfl
theorem q2022 : (Jvm.Cond.privateMethod ({ cls := "EightBlocksModel", name := "rings", desc := "(I)I" } : Jvm.MethodName)) ∈ lw_tbl := lw_at lw_m9 7 rfl
theorem q2023 : (Jvm.Cond.instanceMethod ({ cls := "EightBlocksModel", name := "rings", desc := "(I)I" } : Jvm.MethodName)) ∈ lw_all := lw_g (lw_at lw_m9 8 rfl) rfl
theorem q2024 : (Jvm.Cond.code ({ cls := "EightBlocksModel", name := "rings", desc := "(I)I" } : Jvm.MethodName) prog_24_method_37_code (4 : Nat) (Option.some Jvm.ClassFile.FieldType.int)) ∈ lw_all := lw_g (lw_at lw_m9 9 rfl) rfl
theorem q2025 : (Jvm.Cond.methodLink "EightBlocksModel" (201 : Nat) ({ cls := "EightBlocksModel", name := "isLeast", desc := "(II)Z" } : Jvm.MethodName)) ∈ lw_all := lw_g (lw_at lw_m9 10 rfl) rfl
theorem q2026 : (Jvm.Cond.privateMethod ({ cls := "EightBlocksModel", name := "isLeast", desc := "(II)Z" } : Jvm.MethodName)) ∈ lw_tbl := lw_at lw_m9 11 rfl
theorem q2027 : (Jvm.Cond.instanceMethod ({ cls := "EightBlocksModel", name := "isLeast", desc := "(II)Z" } : Jvm.MethodName)) ∈ lw_all := lw_g (lw_at lw_m9 12 rfl) rfl
theorem q2028 : (Jvm.Cond.code ({ cls := "EightBlocksModel", name := "isLeast", desc := "(II)Z" } : Jvm.MethodName) prog_24_method_36_code (6 : Nat) (Option.some Jvm.ClassFile.FieldType.boolean)) ∈ lw_all := lw_g (lw_at lw_m9 13 rfl) rfl
theorem q2029 : (Jvm.Cond.methodLink "EightBlocksModel" (226 : Nat) ({ cls := "EightBlocksModel", name := "orderOf", desc := "(I)I" } : Jvm.MethodName)) ∈ lw_all := lw_g (lw_at lw_m9 14 rfl) rfl
theorem q2030 : (Jvm.Cond.privateMethod ({ cls := "EightBlocksModel", name := "orderOf", desc := "(I)I" } : Jvm.MethodName)) ∈ lw_tbl := lw_at lw_m9 15 rfl
theorem q2031 : (Jvm.Cond.instanceMethod ({ cls := "EightBlocksModel", name := "orderOf", desc := "(I)I" } : Jvm.MethodName)) ∈ lw_all := lw_g (lw_at lw_m9 16 rfl) rfl
theorem q2032 : (Jvm.Cond.code ({ cls := "EightBlocksModel", name := "orderOf", desc := "(I)I" } : Jvm.MethodName) prog_24_method_38_code (7 : Nat) (Option.some Jvm.ClassFile.FieldType.int)) ∈ lw_all := lw_g (lw_at lw_m9 17 rfl) rfl
theorem q2033 : (Jvm.Cond.methodLink "EightBlocksModel" (204 : Nat) ({ cls := "EightBlocksModel", name := "ring", desc := "(II)I" } : Jvm.MethodName)) ∈ lw_all := lw_g (lw_at lw_m9 18 rfl) rfl
theorem q2034 : (Jvm.Cond.privateMethod ({ cls := "EightBlocksModel", name := "ring", desc := "(II)I" } : Jvm.MethodName)) ∈ lw_tbl := lw_at lw_m9 19 rfl
theorem q2035 : (Jvm.Cond.instanceMethod ({ cls := "EightBlocksModel", name := "ring", desc := "(II)I" } : Jvm.MethodName)) ∈ lw_all := lw_g (lw_at lw_m9 20 rfl) rfl
theorem q2036 : (Jvm.Cond.code ({ cls := "EightBlocksModel", name := "ring", desc := "(II)I" } : Jvm.MethodName) prog_24_method_35_code (5 : Nat) (Option.some Jvm.ClassFile.FieldType.int)) ∈ lw_all := lw_g (lw_at lw_m9 21 rfl) rfl
theorem q2037 : (Jvm.Cond.methodLink "EightBlocksModel" (229 : Nat) ({ cls := "EightBlocksModel", name := "octadsKept", desc := "(I)I" } : Jvm.MethodName)) ∈ lw_all := lw_g (lw_at lw_m9 22 rfl) rfl
theorem q2038 : (Jvm.Cond.privateMethod ({ cls := "EightBlocksModel", name := "octadsKept", desc := "(I)I" } : Jvm.MethodName)) ∈ lw_tbl := lw_at lw_m9 23 rfl
theorem q2039 : (Jvm.Cond.instanceMethod ({ cls := "EightBlocksModel", name := "octadsKept", desc := "(I)I" } : Jvm.MethodName)) ∈ lw_all := lw_g (lw_at lw_m9 24 rfl) rfl
theorem q2040 : (Jvm.Cond.code ({ cls := "EightBlocksModel", name := "octadsKept", desc := "(I)I" } : Jvm.MethodName) prog_24_method_40_code (4 : Nat) (Option.some Jvm.ClassFile.FieldType.int)) ∈ lw_all := lw_g (lw_at lw_m9 25 rfl) rfl
theorem q2041 : (Jvm.Cond.methodLink "EightBlocksModel" (232 : Nat) ({ cls := "EightBlocksModel", name := "texts", desc := "(I)I" } : Jvm.MethodName)) ∈ lw_all := lw_g (lw_at lw_m9 26 rfl) rfl
theorem q2042 : (Jvm.Cond.privateMethod ({ cls := "EightBlocksModel", name := "texts", desc := "(I)I" } : Jvm.MethodName)) ∈ lw_tbl := lw_at lw_m9 27 rfl
theorem q2043 : (Jvm.Cond.instanceMethod ({ cls := "EightBlocksModel", name := "texts", desc := "(I)I" } : Jvm.MethodName)) ∈ lw_all := lw_g (lw_at lw_m9 28 rfl) rfl
theorem q2044 : (Jvm.Cond.code ({ cls := "EightBlocksModel", name := "texts", desc := "(I)I" } : Jvm.MethodName) prog_24_method_43_code (3 : Nat) (Option.some Jvm.ClassFile.FieldType.int)) ∈ lw_all := lw_g (lw_at lw_m9 29 rfl) rfl
theorem q2045 : (Jvm.Cond.methodLink "EightBlocksModel" (214 : Nat) ({ cls := "EightBlocksModel", name := "putsRing", desc := "(II)V" } : Jvm.MethodName)) ∈ lw_all := lw_g (lw_at lw_m9 30 rfl) rfl
theorem q2046 : (Jvm.Cond.privateMethod ({ cls := "EightBlocksModel", name := "putsRing", desc := "(II)V" } : Jvm.MethodName)) ∈ lw_tbl := lw_at lw_m9 31 rfl
theorem q2047 : (Jvm.Cond.instanceMethod ({ cls := "EightBlocksModel", name := "putsRing", desc := "(II)V" } : Jvm.MethodName)) ∈ lw_all := lw_g (lw_at lw_m9 32 rfl) rfl
theorem q2048 : (Jvm.Cond.code ({ cls := "EightBlocksModel", name := "putsRing", desc := "(II)V" } : Jvm.MethodName) prog_24_method_42_code (5 : Nat) (Option.none : Option Jvm.ClassFile.FieldType)) ∈ lw_all := lw_g (lw_at lw_m9 33 rfl) rfl
theorem q2049 : (Jvm.Cond.methodLink "EightBlocksModel" (210 : Nat) ({ cls := "EightBlocksModel", name := "puts", desc := "(I)V" } : Jvm.MethodName)) ∈ lw_all := lw_g (lw_at lw_m9 34 rfl) rfl
theorem q2050 : (Jvm.Cond.privateMethod ({ cls := "EightBlocksModel", name := "puts", desc := "(I)V" } : Jvm.MethodName)) ∈ lw_tbl := lw_at lw_m9 35 rfl
theorem q2051 : (Jvm.Cond.instanceMethod ({ cls := "EightBlocksModel", name := "puts", desc := "(I)V" } : Jvm.MethodName)) ∈ lw_all := lw_g (lw_at lw_m9 36 rfl) rfl
theorem q2052 : (Jvm.Cond.code ({ cls := "EightBlocksModel", name := "puts", desc := "(I)V" } : Jvm.MethodName) prog_24_method_41_code (2 : Nat) (Option.none : Option Jvm.ClassFile.FieldType)) ∈ lw_all := lw_g (lw_at lw_m9 37 rfl) rfl
theorem q2054 : (Jvm.Cond.instanceMethod ({ cls := "EightBlocksModel", name := "letter", desc := "(II)I" } : Jvm.MethodName)) ∈ lw_all := lw_g (lw_at lw_m9 39 rfl) rfl
theorem q2055 : (Jvm.Cond.selects "EightBlocksModel" ({ cls := "EightBlocksModel", name := "letter", desc := "(II)I" } : Jvm.MethodName) ({ cls := "EightBlocksModel", name := "letter", desc := "(II)I" } : Jvm.MethodName)) ∈ lw_all := lw_g (lw_at lw_m9 40 rfl) rfl
theorem q2056 : (Jvm.Cond.code ({ cls := "EightBlocksModel", name := "letter", desc := "(II)I" } : Jvm.MethodName) prog_24_method_45_code (3 : Nat) (Option.some Jvm.ClassFile.FieldType.int)) ∈ lw_all := lw_g (lw_at lw_m9 41 rfl) rfl
theorem q2058 : (Jvm.Cond.instanceMethod ({ cls := "EightBlocksModel", name := "type", desc := "(I)I" } : Jvm.MethodName)) ∈ lw_all := lw_g (lw_at lw_m9 43 rfl) rfl
theorem q2059 : (Jvm.Cond.selects "EightBlocksModel" ({ cls := "EightBlocksModel", name := "type", desc := "(I)I" } : Jvm.MethodName) ({ cls := "EightBlocksModel", name := "type", desc := "(I)I" } : Jvm.MethodName)) ∈ lw_all := lw_g (lw_at lw_m9 44 rfl) rfl
theorem q2060 : (Jvm.Cond.code ({ cls := "EightBlocksModel", name := "type", desc := "(I)I" } : Jvm.MethodName) prog_24_method_46_code (2 : Nat) (Option.some Jvm.ClassFile.FieldType.int)) ∈ lw_all := lw_g (lw_at lw_m9 45 rfl) rfl
theorem q2061 : (Jvm.Cond.constantLong "EightBlocksModel" (235 : Nat) (32 : Int64)) ∈ lw_all := lw_g (lw_at lw_m9 46 rfl) rfl
theorem q2062 : (Jvm.Cond.constantLong "EightBlocksModel" (237 : Nat) (126 : Int64)) ∈ lw_all := lw_g (lw_at lw_m9 47 rfl) rfl
theorem q2064 : (Jvm.Cond.instanceMethod ({ cls := "EightBlocksModel", name := "read", desc := "(I)I" } : Jvm.MethodName)) ∈ lw_all := lw_g (lw_at lw_m9 49 rfl) rfl
theorem q2065 : (Jvm.Cond.selects "EightBlocksModel" ({ cls := "EightBlocksModel", name := "read", desc := "(I)I" } : Jvm.MethodName) ({ cls := "EightBlocksModel", name := "read", desc := "(I)I" } : Jvm.MethodName)) ∈ lw_all := lw_g (lw_at lw_m9 50 rfl) rfl
theorem q2066 : (Jvm.Cond.code ({ cls := "EightBlocksModel", name := "read", desc := "(I)I" } : Jvm.MethodName) prog_24_method_62_code (6 : Nat) (Option.some Jvm.ClassFile.FieldType.int)) ∈ lw_all := lw_g (lw_at lw_m9 51 rfl) rfl
theorem q2067 : (Jvm.Cond.constantLong "EightBlocksModel" (304 : Nat) (3 : Int64)) ∈ lw_all := lw_g (lw_at lw_m9 52 rfl) rfl
theorem q2068 : (Jvm.Cond.methodLink "EightBlocksModel" (306 : Nat) ({ cls := "EightBlocksModel", name := "isText", desc := "()Z" } : Jvm.MethodName)) ∈ lw_all := lw_g (lw_at lw_m9 53 rfl) rfl
theorem q2069 : (Jvm.Cond.privateMethod ({ cls := "EightBlocksModel", name := "isText", desc := "()Z" } : Jvm.MethodName)) ∈ lw_tbl := lw_at lw_m9 54 rfl
theorem q2070 : (Jvm.Cond.instanceMethod ({ cls := "EightBlocksModel", name := "isText", desc := "()Z" } : Jvm.MethodName)) ∈ lw_all := lw_g (lw_at lw_m9 55 rfl) rfl
theorem q2071 : (Jvm.Cond.code ({ cls := "EightBlocksModel", name := "isText", desc := "()Z" } : Jvm.MethodName) prog_24_method_61_code (4 : Nat) (Option.some Jvm.ClassFile.FieldType.boolean)) ∈ lw_all := lw_g (lw_at lw_m9 56 rfl) rfl
theorem q2072 : (Jvm.Cond.methodLink "EightBlocksModel" (295 : Nat) ({ cls := "EightBlocksModel", name := "begins", desc := "()V" } : Jvm.MethodName)) ∈ lw_all := lw_g (lw_at lw_m9 57 rfl) rfl
theorem q2073 : (Jvm.Cond.privateMethod ({ cls := "EightBlocksModel", name := "begins", desc := "()V" } : Jvm.MethodName)) ∈ lw_tbl := lw_at lw_m9 58 rfl
theorem q2074 : (Jvm.Cond.instanceMethod ({ cls := "EightBlocksModel", name := "begins", desc := "()V" } : Jvm.MethodName)) ∈ lw_all := lw_g (lw_at lw_m9 59 rfl) rfl
theorem q2075 : (Jvm.Cond.code ({ cls := "EightBlocksModel", name := "begins", desc := "()V" } : Jvm.MethodName) prog_24_method_58_code (2 : Nat) (Option.none : Option Jvm.ClassFile.FieldType)) ∈ lw_all := lw_g (lw_at lw_m9 60 rfl) rfl
theorem q2076 : (Jvm.Cond.methodLink "EightBlocksModel" (253 : Nat) ({ cls := "EightBlocksModel", name := "here", desc := "()I" } : Jvm.MethodName)) ∈ lw_all := lw_g (lw_at lw_m9 61 rfl) rfl
theorem q2077 : (Jvm.Cond.privateMethod ({ cls := "EightBlocksModel", name := "here", desc := "()I" } : Jvm.MethodName)) ∈ lw_tbl := lw_at lw_m9 62 rfl
theorem q2078 : (Jvm.Cond.instanceMethod ({ cls := "EightBlocksModel", name := "here", desc := "()I" } : Jvm.MethodName)) ∈ lw_all := lw_g (lw_at lw_m9 63 rfl) rfl
theorem q2079 : (Jvm.Cond.code ({ cls := "EightBlocksModel", name := "here", desc := "()I" } : Jvm.MethodName) prog_24_method_47_code (1 : Nat) (Option.some Jvm.ClassFile.FieldType.int)) ∈ lw_all := lw_g (lw_at lw_m9 64 rfl) rfl
theorem q2080 : (Jvm.Cond.methodLink "EightBlocksModel" (298 : Nat) ({ cls := "EightBlocksModel", name := "readsFactor", desc := "()Z" } : Jvm.MethodName)) ∈ lw_all := lw_g (lw_at lw_m9 65 rfl) rfl
theorem q2081 : (Jvm.Cond.privateMethod ({ cls := "EightBlocksModel", name := "readsFactor", desc := "()Z" } : Jvm.MethodName)) ∈ lw_tbl := lw_at lw_m9 66 rfl
theorem q2082 : (Jvm.Cond.instanceMethod ({ cls := "EightBlocksModel", name := "readsFactor", desc := "()Z" } : Jvm.MethodName)) ∈ lw_all := lw_g (lw_at lw_m9 67 rfl) rfl
theorem q2083 : (Jvm.Cond.code ({ cls := "EightBlocksModel", name := "readsFactor", desc := "()Z" } : Jvm.MethodName) prog_24_method_60_code (2 : Nat) (Option.some Jvm.ClassFile.FieldType.boolean)) ∈ lw_all := lw_g (lw_at lw_m9 68 rfl) rfl
theorem q2084 : (Jvm.Cond.methodLink "EightBlocksModel" (260 : Nat) ({ cls := "EightBlocksModel", name := "isLow", desc := "(I)Z" } : Jvm.MethodName)) ∈ lw_all := lw_g (lw_at lw_m9 69 rfl) rfl
theorem q2085 : (Jvm.Cond.static ({ cls := "EightBlocksModel", name := "isLow", desc := "(I)Z" } : Jvm.MethodName)) ∈ lw_all := lw_g (lw_at lw_m9 70 rfl) rfl
theorem q2086 : (Jvm.Cond.code ({ cls := "EightBlocksModel", name := "isLow", desc := "(I)Z" } : Jvm.MethodName) prog_24_method_49_code (1 : Nat) (Option.some Jvm.ClassFile.FieldType.boolean)) ∈ lw_all := lw_g (lw_at lw_m9 71 rfl) rfl
theorem q2087 : (Jvm.Cond.constantLong "EightBlocksModel" (249 : Nat) (97 : Int64)) ∈ lw_all := lw_g (lw_at lw_m9 72 rfl) rfl
theorem q2088 : (Jvm.Cond.constantLong "EightBlocksModel" (251 : Nat) (122 : Int64)) ∈ lw_all := lw_g (lw_at lw_m9 73 rfl) rfl
theorem q2089 : (Jvm.Cond.methodLink "EightBlocksModel" (285 : Nat) ({ cls := "EightBlocksModel", name := "readsName", desc := "()Z" } : Jvm.MethodName)) ∈ lw_all := lw_g (lw_at lw_m9 74 rfl) rfl
theorem q2090 : (Jvm.Cond.privateMethod ({ cls := "EightBlocksModel", name := "readsName", desc := "()Z" } : Jvm.MethodName)) ∈ lw_tbl := lw_at lw_m9 75 rfl
theorem q2091 : (Jvm.Cond.instanceMethod ({ cls := "EightBlocksModel", name := "readsName", desc := "()Z" } : Jvm.MethodName)) ∈ lw_all := lw_g (lw_at lw_m9 76 rfl) rfl
theorem q2092 : (Jvm.Cond.code ({ cls := "EightBlocksModel", name := "readsName", desc := "()Z" } : Jvm.MethodName) prog_24_method_54_code (4 : Nat) (Option.some Jvm.ClassFile.FieldType.boolean)) ∈ lw_all := lw_g (lw_at lw_m9 77 rfl) rfl
theorem q2093 : (Jvm.Cond.methodLink "EightBlocksModel" (263 : Nat) ({ cls := "EightBlocksModel", name := "row", desc := "(Z)I" } : Jvm.MethodName)) ∈ lw_all := lw_g (lw_at lw_m9 78 rfl) rfl
theorem q2094 : (Jvm.Cond.privateMethod ({ cls := "EightBlocksModel", name := "row", desc := "(Z)I" } : Jvm.MethodName)) ∈ lw_tbl := lw_at lw_m9 79 rfl
theorem q2095 : (Jvm.Cond.instanceMethod ({ cls := "EightBlocksModel", name := "row", desc := "(Z)I" } : Jvm.MethodName)) ∈ lw_all := lw_g (lw_at lw_m9 80 rfl) rfl
theorem q2096 : (Jvm.Cond.code ({ cls := "EightBlocksModel", name := "row", desc := "(Z)I" } : Jvm.MethodName) prog_24_method_50_code (3 : Nat) (Option.some Jvm.ClassFile.FieldType.int)) ∈ lw_all := lw_g (lw_at lw_m9 81 rfl) rfl
theorem q2097 : (Jvm.Cond.methodLink "EightBlocksModel" (257 : Nat) ({ cls := "EightBlocksModel", name := "isFigure", desc := "(I)Z" } : Jvm.MethodName)) ∈ lw_all := lw_g (lw_at lw_m9 82 rfl) rfl
theorem q2098 : (Jvm.Cond.static ({ cls := "EightBlocksModel", name := "isFigure", desc := "(I)Z" } : Jvm.MethodName)) ∈ lw_all := lw_g (lw_at lw_m9 83 rfl) rfl
theorem q2099 : (Jvm.Cond.code ({ cls := "EightBlocksModel", name := "isFigure", desc := "(I)Z" } : Jvm.MethodName) prog_24_method_48_code (1 : Nat) (Option.some Jvm.ClassFile.FieldType.boolean)) ∈ lw_all := lw_g (lw_at lw_m9 84 rfl) rfl
theorem q2100 : (Jvm.Cond.constantLong "EightBlocksModel" (245 : Nat) (48 : Int64)) ∈ lw_all := lw_g (lw_at lw_m9 85 rfl) rfl
theorem q2101 : (Jvm.Cond.constantLong "EightBlocksModel" (247 : Nat) (57 : Int64)) ∈ lw_all := lw_g (lw_at lw_m9 86 rfl) rfl
theorem q2102 : (Jvm.Cond.methodLink "EightBlocksModel" (273 : Nat) ({ cls := "EightBlocksModel", name := "nameOf", desc := "(I)I" } : Jvm.MethodName)) ∈ lw_all := lw_g (lw_at lw_m9 87 rfl) rfl
theorem q2103 : (Jvm.Cond.privateMethod ({ cls := "EightBlocksModel", name := "nameOf", desc := "(I)I" } : Jvm.MethodName)) ∈ lw_tbl := lw_at lw_m9 88 rfl
theorem q2104 : (Jvm.Cond.instanceMethod ({ cls := "EightBlocksModel", name := "nameOf", desc := "(I)I" } : Jvm.MethodName)) ∈ lw_all := lw_g (lw_at lw_m9 89 rfl) rfl
theorem q2105 : (Jvm.Cond.code ({ cls := "EightBlocksModel", name := "nameOf", desc := "(I)I" } : Jvm.MethodName) prog_24_method_53_code (2 : Nat) (Option.some Jvm.ClassFile.FieldType.int)) ∈ lw_all := lw_g (lw_at lw_m9 90 rfl) rfl
theorem q2106 : (Jvm.Cond.constantLong "EightBlocksModel" (267 : Nat) (101 : Int64)) ∈ lw_all := lw_g (lw_at lw_m9 91 rfl) rfl
theorem q2107 : (Jvm.Cond.methodLink "EightBlocksModel" (269 : Nat) ({ cls := "EightBlocksModel", name := "isName", desc := "(IIIIIII)Z" } : Jvm.MethodName)) ∈ lw_all := lw_g (lw_at lw_m9 92 rfl) rfl
theorem q2108 : (Jvm.Cond.privateMethod ({ cls := "EightBlocksModel", name := "isName", desc := "(IIIIIII)Z" } : Jvm.MethodName)) ∈ lw_tbl := lw_at lw_m9 93 rfl
theorem q2109 : (Jvm.Cond.instanceMethod ({ cls := "EightBlocksModel", name := "isName", desc := "(IIIIIII)Z" } : Jvm.MethodName)) ∈ lw_all := lw_g (lw_at lw_m9 94 rfl) rfl
theorem q2110 : (Jvm.Cond.code ({ cls := "EightBlocksModel", name := "isName", desc := "(IIIIIII)Z" } : Jvm.MethodName) prog_24_method_52_code (9 : Nat) (Option.some Jvm.ClassFile.FieldType.boolean)) ∈ lw_all := lw_g (lw_at lw_m9 95 rfl) rfl
theorem q2111 : (Jvm.Cond.methodLink "EightBlocksModel" (289 : Nat) ({ cls := "EightBlocksModel", name := "readsRing", desc := "()Z" } : Jvm.MethodName)) ∈ lw_all := lw_g (lw_at lw_m9 96 rfl) rfl
theorem q2112 : (Jvm.Cond.privateMethod ({ cls := "EightBlocksModel", name := "readsRing", desc := "()Z" } : Jvm.MethodName)) ∈ lw_tbl := lw_at lw_m9 97 rfl
theorem q2113 : (Jvm.Cond.instanceMethod ({ cls := "EightBlocksModel", name := "readsRing", desc := "()Z" } : Jvm.MethodName)) ∈ lw_all := lw_g (lw_at lw_m9 98 rfl) rfl
theorem q2114 : (Jvm.Cond.code ({ cls := "EightBlocksModel", name := "readsRing", desc := "()Z" } : Jvm.MethodName) prog_24_method_55_code (7 : Nat) (Option.some Jvm.ClassFile.FieldType.boolean)) ∈ lw_all := lw_g (lw_at lw_m9 99 rfl) rfl
theorem q2115 : (Jvm.Cond.methodLink "EightBlocksModel" (276 : Nat) ({ cls := "EightBlocksModel", name := "number", desc := "(I)I" } : Jvm.MethodName)) ∈ lw_all := lw_g (lw_at lw_m9 100 rfl) rfl
theorem q2116 : (Jvm.Cond.privateMethod ({ cls := "EightBlocksModel", name := "number", desc := "(I)I" } : Jvm.MethodName)) ∈ lw_tbl := lw_at lw_m9 101 rfl
theorem q2117 : (Jvm.Cond.instanceMethod ({ cls := "EightBlocksModel", name := "number", desc := "(I)I" } : Jvm.MethodName)) ∈ lw_all := lw_g (lw_at lw_m9 102 rfl) rfl
theorem q2118 : (Jvm.Cond.code ({ cls := "EightBlocksModel", name := "number", desc := "(I)I" } : Jvm.MethodName) prog_24_method_51_code (4 : Nat) (Option.some Jvm.ClassFile.FieldType.int)) ∈ lw_all := lw_g (lw_at lw_m9 103 rfl) rfl
theorem q2119 : (Jvm.Cond.methodLink "EightBlocksModel" (292 : Nat) ({ cls := "EightBlocksModel", name := "readsOften", desc := "()Z" } : Jvm.MethodName)) ∈ lw_all := lw_g (lw_at lw_m9 104 rfl) rfl
theorem q2120 : (Jvm.Cond.privateMethod ({ cls := "EightBlocksModel", name := "readsOften", desc := "()Z" } : Jvm.MethodName)) ∈ lw_tbl := lw_at lw_m9 105 rfl
theorem q2121 : (Jvm.Cond.instanceMethod ({ cls := "EightBlocksModel", name := "readsOften", desc := "()Z" } : Jvm.MethodName)) ∈ lw_all := lw_g (lw_at lw_m9 106 rfl) rfl
theorem q2122 : (Jvm.Cond.code ({ cls := "EightBlocksModel", name := "readsOften", desc := "()Z" } : Jvm.MethodName) prog_24_method_57_code (5 : Nat) (Option.some Jvm.ClassFile.FieldType.boolean)) ∈ lw_all := lw_g (lw_at lw_m9 107 rfl) rfl
theorem q2123 : (Jvm.Cond.methodLink "EightBlocksModel" (279 : Nat) ({ cls := "EightBlocksModel", name := "turnsBack", desc := "()V" } : Jvm.MethodName)) ∈ lw_all := lw_g (lw_at lw_m9 108 rfl) rfl
theorem q2124 : (Jvm.Cond.privateMethod ({ cls := "EightBlocksModel", name := "turnsBack", desc := "()V" } : Jvm.MethodName)) ∈ lw_tbl := lw_at lw_m9 109 rfl
theorem q2125 : (Jvm.Cond.instanceMethod ({ cls := "EightBlocksModel", name := "turnsBack", desc := "()V" } : Jvm.MethodName)) ∈ lw_all := lw_g (lw_at lw_m9 110 rfl) rfl
theorem q2126 : (Jvm.Cond.code ({ cls := "EightBlocksModel", name := "turnsBack", desc := "()V" } : Jvm.MethodName) prog_24_method_56_code (2 : Nat) (Option.none : Option Jvm.ClassFile.FieldType)) ∈ lw_all := lw_g (lw_at lw_m9 111 rfl) rfl
theorem q2127 : (Jvm.Cond.methodLink "EightBlocksModel" (301 : Nat) ({ cls := "EightBlocksModel", name := "closes", desc := "()V" } : Jvm.MethodName)) ∈ lw_all := lw_g (lw_at lw_m9 112 rfl) rfl
theorem q2128 : (Jvm.Cond.privateMethod ({ cls := "EightBlocksModel", name := "closes", desc := "()V" } : Jvm.MethodName)) ∈ lw_tbl := lw_at lw_m9 113 rfl
theorem q2129 : (Jvm.Cond.instanceMethod ({ cls := "EightBlocksModel", name := "closes", desc := "()V" } : Jvm.MethodName)) ∈ lw_all := lw_g (lw_at lw_m9 114 rfl) rfl
theorem q2130 : (Jvm.Cond.code ({ cls := "EightBlocksModel", name := "closes", desc := "()V" } : Jvm.MethodName) prog_24_method_59_code (2 : Nat) (Option.none : Option Jvm.ClassFile.FieldType)) ∈ lw_all := lw_g (lw_at lw_m9 115 rfl) rfl
theorem q2131 : (Jvm.Cond.methodLink "EightBlocksModel" (309 : Nat) ({ cls := "EightBlocksModel", name := "notes", desc := "()V" } : Jvm.MethodName)) ∈ lw_all := lw_g (lw_at lw_m9 116 rfl) rfl
theorem q2132 : (Jvm.Cond.privateMethod ({ cls := "EightBlocksModel", name := "notes", desc := "()V" } : Jvm.MethodName)) ∈ lw_tbl := lw_at lw_m9 117 rfl
theorem q2133 : (Jvm.Cond.instanceMethod ({ cls := "EightBlocksModel", name := "notes", desc := "()V" } : Jvm.MethodName)) ∈ lw_all := lw_g (lw_at lw_m9 118 rfl) rfl
theorem q2134 : (Jvm.Cond.code ({ cls := "EightBlocksModel", name := "notes", desc := "()V" } : Jvm.MethodName) prog_24_method_91_code (2 : Nat) (Option.none : Option Jvm.ClassFile.FieldType)) ∈ lw_all := lw_g (lw_at lw_m9 119 rfl) rfl
theorem q2136 : (Jvm.Cond.instanceMethod ({ cls := "EightBlocksModel", name := "group", desc := "(II)I" } : Jvm.MethodName)) ∈ lw_all := lw_g (lw_at lw_m9 121 rfl) rfl
theorem q2137 : (Jvm.Cond.selects "EightBlocksModel" ({ cls := "EightBlocksModel", name := "group", desc := "(II)I" } : Jvm.MethodName) ({ cls := "EightBlocksModel", name := "group", desc := "(II)I" } : Jvm.MethodName)) ∈ lw_all := lw_g (lw_at lw_m9 122 rfl) rfl
theorem q2138 : (Jvm.Cond.code ({ cls := "EightBlocksModel", name := "group", desc := "(II)I" } : Jvm.MethodName) prog_24_method_84_code (3 : Nat) (Option.some Jvm.ClassFile.FieldType.int)) ∈ lw_all := lw_g (lw_at lw_m9 123 rfl) rfl
theorem q2139 : (Jvm.Cond.methodLink "EightBlocksModel" (362 : Nat) ({ cls := "EightBlocksModel", name := "isGroup", desc := "(I)Z" } : Jvm.MethodName)) ∈ lw_all := lw_g (lw_at lw_m9 124 rfl) rfl
theorem q2140 : (Jvm.Cond.static ({ cls := "EightBlocksModel", name := "isGroup", desc := "(I)Z" } : Jvm.MethodName)) ∈ lw_all := lw_g (lw_at lw_m9 125 rfl) rfl
theorem q2141 : (Jvm.Cond.code ({ cls := "EightBlocksModel", name := "isGroup", desc := "(I)Z" } : Jvm.MethodName) prog_24_method_71_code (1 : Nat) (Option.some Jvm.ClassFile.FieldType.boolean)) ∈ lw_all := lw_g (lw_at lw_m9 126 rfl) rfl
theorem q2142 : (Jvm.Cond.constantLong "EightBlocksModel" (336 : Nat) (15 : Int64)) ∈ lw_all := lw_g (lw_at lw_m9 127 rfl) rfl
theorem q2143 : (Jvm.Cond.methodLink "EightBlocksModel" (365 : Nat) ({ cls := "EightBlocksModel", name := "allKeep", desc := "(I)Z" } : Jvm.MethodName)) ∈ lw_all := lw_g (lw_at lw_m9 128 rfl) rfl
theorem q2144 : (Jvm.Cond.privateMethod ({ cls := "EightBlocksModel", name := "allKeep", desc := "(I)Z" } : Jvm.MethodName)) ∈ lw_tbl := lw_at lw_m9 129 rfl
theorem q2145 : (Jvm.Cond.instanceMethod ({ cls := "EightBlocksModel", name := "allKeep", desc := "(I)Z" } : Jvm.MethodName)) ∈ lw_all := lw_g (lw_at lw_m9 130 rfl) rfl
theorem q2146 : (Jvm.Cond.code ({ cls := "EightBlocksModel", name := "allKeep", desc := "(I)Z" } : Jvm.MethodName) prog_24_method_72_code (4 : Nat) (Option.some Jvm.ClassFile.FieldType.boolean)) ∈ lw_all := lw_g (lw_at lw_m9 131 rfl) rfl
theorem q2147 : (Jvm.Cond.methodLink "EightBlocksModel" (368 : Nat) ({ cls := "EightBlocksModel", name := "builds", desc := "(II)V" } : Jvm.MethodName)) ∈ lw_all := lw_g (lw_at lw_m9 132 rfl) rfl
theorem q2148 : (Jvm.Cond.privateMethod ({ cls := "EightBlocksModel", name := "builds", desc := "(II)V" } : Jvm.MethodName)) ∈ lw_tbl := lw_at lw_m9 133 rfl
theorem q2149 : (Jvm.Cond.instanceMethod ({ cls := "EightBlocksModel", name := "builds", desc := "(II)V" } : Jvm.MethodName)) ∈ lw_all := lw_g (lw_at lw_m9 134 rfl) rfl
theorem q2150 : (Jvm.Cond.code ({ cls := "EightBlocksModel", name := "builds", desc := "(II)V" } : Jvm.MethodName) prog_24_method_69_code (5 : Nat) (Option.none : Option Jvm.ClassFile.FieldType)) ∈ lw_all := lw_g (lw_at lw_m9 135 rfl) rfl
theorem q2151 : (Jvm.Cond.methodLink "EightBlocksModel" (327 : Nat) ({ cls := "EightBlocksModel", name := "stands", desc := "(II)Z" } : Jvm.MethodName)) ∈ lw_all := lw_g (lw_at lw_m9 136 rfl) rfl
theorem q2152 : (Jvm.Cond.privateMethod ({ cls := "EightBlocksModel", name := "stands", desc := "(II)Z" } : Jvm.MethodName)) ∈ lw_tbl := lw_at lw_m9 137 rfl
theorem q2153 : (Jvm.Cond.instanceMethod ({ cls := "EightBlocksModel", name := "stands", desc := "(II)Z" } : Jvm.MethodName)) ∈ lw_all := lw_g (lw_at lw_m9 138 rfl) rfl
theorem q2154 : (Jvm.Cond.code ({ cls := "EightBlocksModel", name := "stands", desc := "(II)Z" } : Jvm.MethodName) prog_24_method_68_code (5 : Nat) (Option.some Jvm.ClassFile.FieldType.boolean)) ∈ lw_all := lw_g (lw_at lw_m9 139 rfl) rfl
theorem q2155 : (Jvm.Cond.methodLink "EightBlocksModel" (330 : Nat) ({ cls := "EightBlocksModel", name := "bases", desc := "(I)V" } : Jvm.MethodName)) ∈ lw_all := lw_g (lw_at lw_m9 140 rfl) rfl
theorem q2156 : (Jvm.Cond.privateMethod ({ cls := "EightBlocksModel", name := "bases", desc := "(I)V" } : Jvm.MethodName)) ∈ lw_tbl := lw_at lw_m9 141 rfl
theorem q2157 : (Jvm.Cond.instanceMethod ({ cls := "EightBlocksModel", name := "bases", desc := "(I)V" } : Jvm.MethodName)) ∈ lw_all := lw_g (lw_at lw_m9 142 rfl) rfl
theorem q2158 : (Jvm.Cond.code ({ cls := "EightBlocksModel", name := "bases", desc := "(I)V" } : Jvm.MethodName) prog_24_method_67_code (4 : Nat) (Option.none : Option Jvm.ClassFile.FieldType)) ∈ lw_all := lw_g (lw_at lw_m9 143 rfl) rfl
theorem q2159 : (Jvm.Cond.methodLink "EightBlocksModel" (321 : Nat) ({ cls := "EightBlocksModel", name := "adds", desc := "()V" } : Jvm.MethodName)) ∈ lw_all := lw_g (lw_at lw_m9 144 rfl) rfl
theorem q2160 : (Jvm.Cond.privateMethod ({ cls := "EightBlocksModel", name := "adds", desc := "()V" } : Jvm.MethodName)) ∈ lw_tbl := lw_at lw_m9 145 rfl
theorem q2161 : (Jvm.Cond.instanceMethod ({ cls := "EightBlocksModel", name := "adds", desc := "()V" } : Jvm.MethodName)) ∈ lw_all := lw_g (lw_at lw_m9 146 rfl) rfl
theorem q2162 : (Jvm.Cond.code ({ cls := "EightBlocksModel", name := "adds", desc := "()V" } : Jvm.MethodName) prog_24_method_65_code (3 : Nat) (Option.none : Option Jvm.ClassFile.FieldType)) ∈ lw_all := lw_g (lw_at lw_m9 147 rfl) rfl
theorem q2163 : (Jvm.Cond.methodLink "EightBlocksModel" (315 : Nat) ({ cls := "EightBlocksModel", name := "sifts", desc := "()I" } : Jvm.MethodName)) ∈ lw_all := lw_g (lw_at lw_m9 148 rfl) rfl
theorem q2164 : (Jvm.Cond.privateMethod ({ cls := "EightBlocksModel", name := "sifts", desc := "()I" } : Jvm.MethodName)) ∈ lw_tbl := lw_at lw_m9 149 rfl
theorem q2165 : (Jvm.Cond.instanceMethod ({ cls := "EightBlocksModel", name := "sifts", desc := "()I" } : Jvm.MethodName)) ∈ lw_all := lw_g (lw_at lw_m9 150 rfl) rfl
theorem q2166 : (Jvm.Cond.code ({ cls := "EightBlocksModel", name := "sifts", desc := "()I" } : Jvm.MethodName) prog_24_method_64_code (4 : Nat) (Option.some Jvm.ClassFile.FieldType.int)) ∈ lw_all := lw_g (lw_at lw_m9 151 rfl) rfl
theorem q2167 : (Jvm.Cond.methodLink "EightBlocksModel" (312 : Nat) ({ cls := "EightBlocksModel", name := "takesBack", desc := "(I)V" } : Jvm.MethodName)) ∈ lw_all := lw_g (lw_at lw_m9 152 rfl) rfl
theorem q2168 : (Jvm.Cond.privateMethod ({ cls := "EightBlocksModel", name := "takesBack", desc := "(I)V" } : Jvm.MethodName)) ∈ lw_tbl := lw_at lw_m9 153 rfl
theorem q2169 : (Jvm.Cond.instanceMethod ({ cls := "EightBlocksModel", name := "takesBack", desc := "(I)V" } : Jvm.MethodName)) ∈ lw_all := lw_g (lw_at lw_m9 154 rfl) rfl
theorem q2170 : (Jvm.Cond.code ({ cls := "EightBlocksModel", name := "takesBack", desc := "(I)V" } : Jvm.MethodName) prog_24_method_63_code (3 : Nat) (Option.none : Option Jvm.ClassFile.FieldType)) ∈ lw_all := lw_g (lw_at lw_m9 155 rfl) rfl
theorem q2171 : (Jvm.Cond.methodLink "EightBlocksModel" (333 : Nat) ({ cls := "EightBlocksModel", name := "tries", desc := "(II)V" } : Jvm.MethodName)) ∈ lw_all := lw_g (lw_at lw_m9 156 rfl) rfl
theorem q2172 : (Jvm.Cond.privateMethod ({ cls := "EightBlocksModel", name := "tries", desc := "(II)V" } : Jvm.MethodName)) ∈ lw_tbl := lw_at lw_m9 157 rfl
theorem q2173 : (Jvm.Cond.instanceMethod ({ cls := "EightBlocksModel", name := "tries", desc := "(II)V" } : Jvm.MethodName)) ∈ lw_all := lw_g (lw_at lw_m9 158 rfl) rfl
theorem q2174 : (Jvm.Cond.code ({ cls := "EightBlocksModel", name := "tries", desc := "(II)V" } : Jvm.MethodName) prog_24_method_66_code (4 : Nat) (Option.none : Option Jvm.ClassFile.FieldType)) ∈ lw_all := lw_g (lw_at lw_m9 159 rfl) rfl
theorem q2175 : (Jvm.Cond.methodLink "EightBlocksModel" (371 : Nat) ({ cls := "EightBlocksModel", name := "manyFrom", desc := "(I)I" } : Jvm.MethodName)) ∈ lw_all := lw_g (lw_at lw_m9 160 rfl) rfl
theorem q2176 : (Jvm.Cond.privateMethod ({ cls := "EightBlocksModel", name := "manyFrom", desc := "(I)I" } : Jvm.MethodName)) ∈ lw_tbl := lw_at lw_m9 161 rfl
theorem q2177 : (Jvm.Cond.instanceMethod ({ cls := "EightBlocksModel", name := "manyFrom", desc := "(I)I" } : Jvm.MethodName)) ∈ lw_all := lw_g (lw_at lw_m9 162 rfl) rfl
theorem q2178 : (Jvm.Cond.code ({ cls := "EightBlocksModel", name := "manyFrom", desc := "(I)I" } : Jvm.MethodName) prog_24_method_70_code (6 : Nat) (Option.some Jvm.ClassFile.FieldType.int)) ∈ lw_all := lw_g (lw_at lw_m9 163 rfl) rfl
theorem q2179 : (Jvm.Cond.methodLink "EightBlocksModel" (374 : Nat) ({ cls := "EightBlocksModel", name := "orbitsOfPlaces", desc := "(I)I" } : Jvm.MethodName)) ∈ lw_all := lw_g (lw_at lw_m9 164 rfl) rfl
theorem q2180 : (Jvm.Cond.privateMethod ({ cls := "EightBlocksModel", name := "orbitsOfPlaces", desc := "(I)I" } : Jvm.MethodName)) ∈ lw_tbl := lw_at lw_m9 165 rfl
theorem q2181 : (Jvm.Cond.instanceMethod ({ cls := "EightBlocksModel", name := "orbitsOfPlaces", desc := "(I)I" } : Jvm.MethodName)) ∈ lw_all := lw_g (lw_at lw_m9 166 rfl) rfl
theorem q2182 : (Jvm.Cond.code ({ cls := "EightBlocksModel", name := "orbitsOfPlaces", desc := "(I)I" } : Jvm.MethodName) prog_24_method_74_code (5 : Nat) (Option.some Jvm.ClassFile.FieldType.int)) ∈ lw_all := lw_g (lw_at lw_m9 167 rfl) rfl
theorem q2183 : (Jvm.Cond.methodLink "EightBlocksModel" (338 : Nat) ({ cls := "EightBlocksModel", name := "reaches", desc := "(II)I" } : Jvm.MethodName)) ∈ lw_all := lw_g (lw_at lw_m9 168 rfl) rfl
theorem q2184 : (Jvm.Cond.privateMethod ({ cls := "EightBlocksModel", name := "reaches", desc := "(II)I" } : Jvm.MethodName)) ∈ lw_tbl := lw_at lw_m9 169 rfl
theorem q2185 : (Jvm.Cond.instanceMethod ({ cls := "EightBlocksModel", name := "reaches", desc := "(II)I" } : Jvm.MethodName)) ∈ lw_all := lw_g (lw_at lw_m9 170 rfl) rfl
theorem q2186 : (Jvm.Cond.code ({ cls := "EightBlocksModel", name := "reaches", desc := "(II)I" } : Jvm.MethodName) prog_24_method_73_code (7 : Nat) (Option.some Jvm.ClassFile.FieldType.int)) ∈ lw_all := lw_g (lw_at lw_m9 171 rfl) rfl
theorem q2187 : (Jvm.Cond.methodLink "EightBlocksModel" (377 : Nat) ({ cls := "EightBlocksModel", name := "orbitsOfSextets", desc := "(I)I" } : Jvm.MethodName)) ∈ lw_all := lw_g (lw_at lw_m9 172 rfl) rfl
theorem q2188 : (Jvm.Cond.privateMethod ({ cls := "EightBlocksModel", name := "orbitsOfSextets", desc := "(I)I" } : Jvm.MethodName)) ∈ lw_tbl := lw_at lw_m9 173 rfl
theorem q2189 : (Jvm.Cond.instanceMethod ({ cls := "EightBlocksModel", name := "orbitsOfSextets", desc := "(I)I" } : Jvm.MethodName)) ∈ lw_all := lw_g (lw_at lw_m9 174 rfl) rfl
theorem q2190 : (Jvm.Cond.code ({ cls := "EightBlocksModel", name := "orbitsOfSextets", desc := "(I)I" } : Jvm.MethodName) prog_24_method_83_code (6 : Nat) (Option.some Jvm.ClassFile.FieldType.int)) ∈ lw_all := lw_g (lw_at lw_m9 175 rfl) rfl
theorem q2191 : (Jvm.Cond.methodLink "EightBlocksModel" (347 : Nat) ({ cls := "EightBlocksModel", name := "unmarks", desc := "()V" } : Jvm.MethodName)) ∈ lw_all := lw_g (lw_at lw_m9 176 rfl) rfl
theorem q2192 : (Jvm.Cond.privateMethod ({ cls := "EightBlocksModel", name := "unmarks", desc := "()V" } : Jvm.MethodName)) ∈ lw_tbl := lw_at lw_m9 177 rfl
theorem q2193 : (Jvm.Cond.instanceMethod ({ cls := "EightBlocksModel", name := "unmarks", desc := "()V" } : Jvm.MethodName)) ∈ lw_all := lw_g (lw_at lw_m9 178 rfl) rfl
theorem q2194 : (Jvm.Cond.code ({ cls := "EightBlocksModel", name := "unmarks", desc := "()V" } : Jvm.MethodName) prog_24_method_78_code (2 : Nat) (Option.none : Option Jvm.ClassFile.FieldType)) ∈ lw_all := lw_g (lw_at lw_m9 179 rfl) rfl
theorem q2195 : (Jvm.Cond.methodLink "EightBlocksModel" (359 : Nat) ({ cls := "EightBlocksModel", name := "spreadsFours", desc := "(II)I" } : Jvm.MethodName)) ∈ lw_all := lw_g (lw_at lw_m9 180 rfl) rfl
theorem q2196 : (Jvm.Cond.privateMethod ({ cls := "EightBlocksModel", name := "spreadsFours", desc := "(II)I" } : Jvm.MethodName)) ∈ lw_tbl := lw_at lw_m9 181 rfl
theorem q2197 : (Jvm.Cond.instanceMethod ({ cls := "EightBlocksModel", name := "spreadsFours", desc := "(II)I" } : Jvm.MethodName)) ∈ lw_all := lw_g (lw_at lw_m9 182 rfl) rfl
theorem q2198 : (Jvm.Cond.code ({ cls := "EightBlocksModel", name := "spreadsFours", desc := "(II)I" } : Jvm.MethodName) prog_24_method_82_code (7 : Nat) (Option.some Jvm.ClassFile.FieldType.int)) ∈ lw_all := lw_g (lw_at lw_m9 183 rfl) rfl
theorem q2199 : (Jvm.Cond.methodLink "EightBlocksModel" (353 : Nat) ({ cls := "EightBlocksModel", name := "rankOf", desc := "(I)I" } : Jvm.MethodName)) ∈ lw_all := lw_g (lw_at lw_m9 184 rfl) rfl
theorem q2200 : (Jvm.Cond.static ({ cls := "EightBlocksModel", name := "rankOf", desc := "(I)I" } : Jvm.MethodName)) ∈ lw_all := lw_g (lw_at lw_m9 185 rfl) rfl
theorem q2201 : (Jvm.Cond.code ({ cls := "EightBlocksModel", name := "rankOf", desc := "(I)I" } : Jvm.MethodName) prog_24_method_80_code (4 : Nat) (Option.some Jvm.ClassFile.FieldType.int)) ∈ lw_all := lw_g (lw_at lw_m9 186 rfl) rfl
theorem q2202 : (Jvm.Cond.methodLink "EightBlocksModel" (356 : Nat) ({ cls := "EightBlocksModel", name := "fourBy", desc := "(II)I" } : Jvm.MethodName)) ∈ lw_all := lw_g (lw_at lw_m9 187 rfl) rfl
theorem q2203 : (Jvm.Cond.privateMethod ({ cls := "EightBlocksModel", name := "fourBy", desc := "(II)I" } : Jvm.MethodName)) ∈ lw_tbl := lw_at lw_m9 188 rfl
theorem q2204 : (Jvm.Cond.instanceMethod ({ cls := "EightBlocksModel", name := "fourBy", desc := "(II)I" } : Jvm.MethodName)) ∈ lw_all := lw_g (lw_at lw_m9 189 rfl) rfl
theorem q2205 : (Jvm.Cond.code ({ cls := "EightBlocksModel", name := "fourBy", desc := "(II)I" } : Jvm.MethodName) prog_24_method_81_code (3 : Nat) (Option.some Jvm.ClassFile.FieldType.int)) ∈ lw_all := lw_g (lw_at lw_m9 190 rfl) rfl
theorem q2206 : (Jvm.Cond.methodLink "EightBlocksModel" (380 : Nat) ({ cls := "EightBlocksModel", name := "orbitsOfWords", desc := "(II)I" } : Jvm.MethodName)) ∈ lw_all := lw_g (lw_at lw_m9 191 rfl) rfl
theorem q2207 : (Jvm.Cond.privateMethod ({ cls := "EightBlocksModel", name := "orbitsOfWords", desc := "(II)I" } : Jvm.MethodName)) ∈ lw_tbl := lw_at lw_m9 192 rfl
theorem q2208 : (Jvm.Cond.instanceMethod ({ cls := "EightBlocksModel", name := "orbitsOfWords", desc := "(II)I" } : Jvm.MethodName)) ∈ lw_all := lw_g (lw_at lw_m9 193 rfl) rfl
theorem q2209 : (Jvm.Cond.code ({ cls := "EightBlocksModel", name := "orbitsOfWords", desc := "(II)I" } : Jvm.MethodName) prog_24_method_79_code (5 : Nat) (Option.some Jvm.ClassFile.FieldType.int)) ∈ lw_all := lw_g (lw_at lw_m9 194 rfl) rfl
theorem q2210 : (Jvm.Cond.methodLink "EightBlocksModel" (344 : Nat) ({ cls := "EightBlocksModel", name := "imagesOf", desc := "(I)V" } : Jvm.MethodName)) ∈ lw_all := lw_g (lw_at lw_m9 195 rfl) rfl
theorem q2211 : (Jvm.Cond.privateMethod ({ cls := "EightBlocksModel", name := "imagesOf", desc := "(I)V" } : Jvm.MethodName)) ∈ lw_tbl := lw_at lw_m9 196 rfl
theorem q2212 : (Jvm.Cond.instanceMethod ({ cls := "EightBlocksModel", name := "imagesOf", desc := "(I)V" } : Jvm.MethodName)) ∈ lw_all := lw_g (lw_at lw_m9 197 rfl) rfl
theorem q2213 : (Jvm.Cond.code ({ cls := "EightBlocksModel", name := "imagesOf", desc := "(I)V" } : Jvm.MethodName) prog_24_method_75_code (4 : Nat) (Option.none : Option Jvm.ClassFile.FieldType)) ∈ lw_all := lw_g (lw_at lw_m9 198 rfl) rfl
theorem q2214 : (Jvm.Cond.methodLink "EightBlocksModel" (350 : Nat) ({ cls := "EightBlocksModel", name := "spreads", desc := "(I)I" } : Jvm.MethodName)) ∈ lw_all := lw_g (lw_at lw_m9 199 rfl) rfl
theorem q2215 : (Jvm.Cond.privateMethod ({ cls := "EightBlocksModel", name := "spreads", desc := "(I)I" } : Jvm.MethodName)) ∈ lw_tbl := lw_at lw_m9 200 rfl
theorem q2216 : (Jvm.Cond.instanceMethod ({ cls := "EightBlocksModel", name := "spreads", desc := "(I)I" } : Jvm.MethodName)) ∈ lw_all := lw_g (lw_at lw_m9 201 rfl) rfl
theorem q2217 : (Jvm.Cond.code ({ cls := "EightBlocksModel", name := "spreads", desc := "(I)I" } : Jvm.MethodName) prog_24_method_77_code (6 : Nat) (Option.some Jvm.ClassFile.FieldType.int)) ∈ lw_all := lw_g (lw_at lw_m9 202 rfl) rfl
theorem q2218 : (Jvm.Cond.methodLink "EightBlocksModel" (341 : Nat) ({ cls := "EightBlocksModel", name := "imageOf", desc := "(II)I" } : Jvm.MethodName)) ∈ lw_all := lw_g (lw_at lw_m9 203 rfl) rfl
theorem q2219 : (Jvm.Cond.privateMethod ({ cls := "EightBlocksModel", name := "imageOf", desc := "(II)I" } : Jvm.MethodName)) ∈ lw_tbl := lw_at lw_m9 204 rfl
theorem q2220 : (Jvm.Cond.instanceMethod ({ cls := "EightBlocksModel", name := "imageOf", desc := "(II)I" } : Jvm.MethodName)) ∈ lw_all := lw_g (lw_at lw_m9 205 rfl) rfl
theorem q2221 : (Jvm.Cond.code ({ cls := "EightBlocksModel", name := "imageOf", desc := "(II)I" } : Jvm.MethodName) prog_24_method_76_code (5 : Nat) (Option.some Jvm.ClassFile.FieldType.int)) ∈ lw_all := lw_g (lw_at lw_m9 206 rfl) rfl
theorem q2223 : (Jvm.Cond.instanceMethod ({ cls := "EightBlocksModel", name := "held", desc := "(III)I" } : Jvm.MethodName)) ∈ lw_all := lw_g (lw_at lw_m9 208 rfl) rfl
theorem q2224 : (Jvm.Cond.selects "EightBlocksModel" ({ cls := "EightBlocksModel", name := "held", desc := "(III)I" } : Jvm.MethodName) ({ cls := "EightBlocksModel", name := "held", desc := "(III)I" } : Jvm.MethodName)) ∈ lw_all := lw_g (lw_at lw_m9 209 rfl) rfl
theorem q2225 : (Jvm.Cond.code ({ cls := "EightBlocksModel", name := "held", desc := "(III)I" } : Jvm.MethodName) prog_24_method_85_code (4 : Nat) (Option.some Jvm.ClassFile.FieldType.int)) ∈ lw_all := lw_g (lw_at lw_m9 210 rfl) rfl
theorem q2226 : (Jvm.Cond.constantLong "EightBlocksModel" (383 : Nat) (2 : Int64)) ∈ lw_all := lw_g (lw_at lw_m9 211 rfl) rfl
theorem q2228 : (Jvm.Cond.instanceMethod ({ cls := "EightBlocksModel", name := "holds", desc := "(II)I" } : Jvm.MethodName)) ∈ lw_all := lw_g (lw_at lw_m9 213 rfl) rfl
theorem q2229 : (Jvm.Cond.selects "EightBlocksModel" ({ cls := "EightBlocksModel", name := "holds", desc := "(II)I" } : Jvm.MethodName) ({ cls := "EightBlocksModel", name := "holds", desc := "(II)I" } : Jvm.MethodName)) ∈ lw_all := lw_g (lw_at lw_m9 214 rfl) rfl
theorem q2230 : (Jvm.Cond.code ({ cls := "EightBlocksModel", name := "holds", desc := "(II)I" } : Jvm.MethodName) prog_24_method_86_code (4 : Nat) (Option.some Jvm.ClassFile.FieldType.int)) ∈ lw_all := lw_g (lw_at lw_m9 215 rfl) rfl
theorem q2232 : (Jvm.Cond.instanceMethod ({ cls := "EightBlocksModel", name := "choose", desc := "(I)I" } : Jvm.MethodName)) ∈ lw_all := lw_g (lw_at lw_m9 217 rfl) rfl
theorem q2233 : (Jvm.Cond.selects "EightBlocksModel" ({ cls := "EightBlocksModel", name := "choose", desc := "(I)I" } : Jvm.MethodName) ({ cls := "EightBlocksModel", name := "choose", desc := "(I)I" } : Jvm.MethodName)) ∈ lw_all := lw_g (lw_at lw_m9 218 rfl) rfl
theorem q2234 : (Jvm.Cond.code ({ cls := "EightBlocksModel", name := "choose", desc := "(I)I" } : Jvm.MethodName) prog_24_method_87_code (3 : Nat) (Option.some Jvm.ClassFile.FieldType.int)) ∈ lw_all := lw_g (lw_at lw_m9 219 rfl) rfl
theorem q2236 : (Jvm.Cond.instanceMethod ({ cls := "EightBlocksModel", name := "hexad", desc := "(I)I" } : Jvm.MethodName)) ∈ lw_all := lw_g (lw_at lw_m9 221 rfl) rfl
theorem q2237 : (Jvm.Cond.selects "EightBlocksModel" ({ cls := "EightBlocksModel", name := "hexad", desc := "(I)I" } : Jvm.MethodName) ({ cls := "EightBlocksModel", name := "hexad", desc := "(I)I" } : Jvm.MethodName)) ∈ lw_all := lw_g (lw_at lw_m9 222 rfl) rfl
theorem q2238 : (Jvm.Cond.code ({ cls := "EightBlocksModel", name := "hexad", desc := "(I)I" } : Jvm.MethodName) prog_24_method_88_code (2 : Nat) (Option.some Jvm.ClassFile.FieldType.int)) ∈ lw_all := lw_g (lw_at lw_m9 223 rfl) rfl
theorem q2240 : (Jvm.Cond.instanceMethod ({ cls := "EightBlocksModel", name := "turn", desc := "(II)I" } : Jvm.MethodName)) ∈ lw_all := lw_g (lw_at lw_m9 225 rfl) rfl
theorem q2241 : (Jvm.Cond.selects "EightBlocksModel" ({ cls := "EightBlocksModel", name := "turn", desc := "(II)I" } : Jvm.MethodName) ({ cls := "EightBlocksModel", name := "turn", desc := "(II)I" } : Jvm.MethodName)) ∈ lw_all := lw_g (lw_at lw_m9 226 rfl) rfl
theorem q2242 : (Jvm.Cond.code ({ cls := "EightBlocksModel", name := "turn", desc := "(II)I" } : Jvm.MethodName) prog_24_method_89_code (7 : Nat) (Option.some Jvm.ClassFile.FieldType.int)) ∈ lw_all := lw_g (lw_at lw_m9 227 rfl) rfl
theorem q2244 : (Jvm.Cond.instanceMethod ({ cls := "EightBlocksModel", name := "pair", desc := "(I)I" } : Jvm.MethodName)) ∈ lw_all := lw_g (lw_at lw_m9 229 rfl) rfl
theorem q2245 : (Jvm.Cond.selects "EightBlocksModel" ({ cls := "EightBlocksModel", name := "pair", desc := "(I)I" } : Jvm.MethodName) ({ cls := "EightBlocksModel", name := "pair", desc := "(I)I" } : Jvm.MethodName)) ∈ lw_all := lw_g (lw_at lw_m9 230 rfl) rfl
theorem q2246 : (Jvm.Cond.code ({ cls := "EightBlocksModel", name := "pair", desc := "(I)I" } : Jvm.MethodName) prog_24_method_90_code (4 : Nat) (Option.some Jvm.ClassFile.FieldType.int)) ∈ lw_all := lw_g (lw_at lw_m9 231 rfl) rfl
theorem q2248 : (Jvm.Cond.instanceMethod ({ cls := "EightBlocksModel", name := "undo", desc := "()I" } : Jvm.MethodName)) ∈ lw_all := lw_g (lw_at lw_m9 233 rfl) rfl
theorem q2249 : (Jvm.Cond.selects "EightBlocksModel" ({ cls := "EightBlocksModel", name := "undo", desc := "()I" } : Jvm.MethodName) ({ cls := "EightBlocksModel", name := "undo", desc := "()I" } : Jvm.MethodName)) ∈ lw_all := lw_g (lw_at lw_m9 234 rfl) rfl
theorem q2250 : (Jvm.Cond.code ({ cls := "EightBlocksModel", name := "undo", desc := "()I" } : Jvm.MethodName) prog_24_method_92_code (2 : Nat) (Option.some Jvm.ClassFile.FieldType.int)) ∈ lw_all := lw_g (lw_at lw_m9 235 rfl) rfl
theorem q2252 : (Jvm.Cond.instanceMethod ({ cls := "EightBlocksModel", name := "drift", desc := "(I)I" } : Jvm.MethodName)) ∈ lw_all := lw_g (lw_at lw_m9 237 rfl) rfl
theorem q2253 : (Jvm.Cond.selects "EightBlocksModel" ({ cls := "EightBlocksModel", name := "drift", desc := "(I)I" } : Jvm.MethodName) ({ cls := "EightBlocksModel", name := "drift", desc := "(I)I" } : Jvm.MethodName)) ∈ lw_all := lw_g (lw_at lw_m9 238 rfl) rfl
theorem q2254 : (Jvm.Cond.code ({ cls := "EightBlocksModel", name := "drift", desc := "(I)I" } : Jvm.MethodName) prog_24_method_94_code (6 : Nat) (Option.some Jvm.ClassFile.FieldType.int)) ∈ lw_all := lw_g (lw_at lw_m9 239 rfl) rfl
theorem q2255 : (Jvm.Cond.constantLong "EightBlocksModel" (388 : Nat) (40 : Int64)) ∈ lw_all := lw_g (lw_at lw_m10 0 rfl) rfl
theorem q2256 : (Jvm.Cond.constantLong "EightBlocksModel" (390 : Nat) (1103515245 : Int64)) ∈ lw_all := lw_g (lw_at lw_m10 1 rfl) rfl
theorem q2257 : (Jvm.Cond.constantLong "EightBlocksModel" (392 : Nat) (12345 : Int64)) ∈ lw_all := lw_g (lw_at lw_m10 2 rfl) rfl
theorem q2258 : (Jvm.Cond.constantLong "EightBlocksModel" (394 : Nat) (2147483648 : Int64)) ∈ lw_all := lw_g (lw_at lw_m10 3 rfl) rfl
theorem q2259 : (Jvm.Cond.constantLong "EightBlocksModel" (396 : Nat) (65536 : Int64)) ∈ lw_all := lw_g (lw_at lw_m10 4 rfl) rfl
theorem q2260 : (Jvm.Cond.methodLink "EightBlocksModel" (398 : Nat) ({ cls := "EightBlocksModel", name := "doubles", desc := "(II)V" } : Jvm.MethodName)) ∈ lw_all := lw_g (lw_at lw_m10 5 rfl) rfl
theorem q2261 : (Jvm.Cond.privateMethod ({ cls := "EightBlocksModel", name := "doubles", desc := "(II)V" } : Jvm.MethodName)) ∈ lw_tbl := lw_at lw_m10 6 rfl
theorem q2262 : (Jvm.Cond.instanceMethod ({ cls := "EightBlocksModel", name := "doubles", desc := "(II)V" } : Jvm.MethodName)) ∈ lw_all := lw_g (lw_at lw_m10 7 rfl) rfl
theorem q2263 : (Jvm.Cond.code ({ cls := "EightBlocksModel", name := "doubles", desc := "(II)V" } : Jvm.MethodName) prog_24_method_93_code (4 : Nat) (Option.none : Option Jvm.ClassFile.FieldType)) ∈ lw_all := lw_g (lw_at lw_m10 8 rfl) rfl
theorem q2265 : (Jvm.Cond.instanceMethod ({ cls := "EightBlocksModel", name := "seed", desc := "(I)I" } : Jvm.MethodName)) ∈ lw_all := lw_g (lw_at lw_m10 10 rfl) rfl
theorem q2266 : (Jvm.Cond.selects "EightBlocksModel" ({ cls := "EightBlocksModel", name := "seed", desc := "(I)I" } : Jvm.MethodName) ({ cls := "EightBlocksModel", name := "seed", desc := "(I)I" } : Jvm.MethodName)) ∈ lw_all := lw_g (lw_at lw_m10 11 rfl) rfl
theorem q2267 : (Jvm.Cond.code ({ cls := "EightBlocksModel", name := "seed", desc := "(I)I" } : Jvm.MethodName) prog_24_method_95_code (3 : Nat) (Option.some Jvm.ClassFile.FieldType.int)) ∈ lw_all := lw_g (lw_at lw_m10 12 rfl) rfl
theorem q2269 : (Jvm.Cond.instanceMethod ({ cls := "EightBlocksModel", name := "count", desc := "(I)I" } : Jvm.MethodName)) ∈ lw_all := lw_g (lw_at lw_m10 14 rfl) rfl
theorem q2270 : (Jvm.Cond.selects "EightBlocksModel" ({ cls := "EightBlocksModel", name := "count", desc := "(I)I" } : Jvm.MethodName) ({ cls := "EightBlocksModel", name := "count", desc := "(I)I" } : Jvm.MethodName)) ∈ lw_all := lw_g (lw_at lw_m10 15 rfl) rfl
theorem q2271 : (Jvm.Cond.code ({ cls := "EightBlocksModel", name := "count", desc := "(I)I" } : Jvm.MethodName) prog_24_method_96_code (4 : Nat) (Option.some Jvm.ClassFile.FieldType.int)) ∈ lw_all := lw_g (lw_at lw_m10 16 rfl) rfl
theorem q2273 : (Jvm.Cond.instanceMethod ({ cls := "EightBlocksModel", name := "image", desc := "()I" } : Jvm.MethodName)) ∈ lw_all := lw_g (lw_at lw_m10 18 rfl) rfl
theorem q2274 : (Jvm.Cond.selects "EightBlocksModel" ({ cls := "EightBlocksModel", name := "image", desc := "()I" } : Jvm.MethodName) ({ cls := "EightBlocksModel", name := "image", desc := "()I" } : Jvm.MethodName)) ∈ lw_all := lw_g (lw_at lw_m10 19 rfl) rfl
theorem q2275 : (Jvm.Cond.code ({ cls := "EightBlocksModel", name := "image", desc := "()I" } : Jvm.MethodName) prog_24_method_97_code (2 : Nat) (Option.some Jvm.ClassFile.FieldType.int)) ∈ lw_all := lw_g (lw_at lw_m10 20 rfl) rfl
theorem q2277 : (Jvm.Cond.instanceMethod ({ cls := "EightBlocksModel", name := "restore", desc := "()I" } : Jvm.MethodName)) ∈ lw_all := lw_g (lw_at lw_m10 22 rfl) rfl
theorem q2278 : (Jvm.Cond.selects "EightBlocksModel" ({ cls := "EightBlocksModel", name := "restore", desc := "()I" } : Jvm.MethodName) ({ cls := "EightBlocksModel", name := "restore", desc := "()I" } : Jvm.MethodName)) ∈ lw_all := lw_g (lw_at lw_m10 23 rfl) rfl
theorem q2279 : (Jvm.Cond.code ({ cls := "EightBlocksModel", name := "restore", desc := "()I" } : Jvm.MethodName) prog_24_method_98_code (2 : Nat) (Option.some Jvm.ClassFile.FieldType.int)) ∈ lw_all := lw_g (lw_at lw_m10 24 rfl) rfl
theorem q2281 : (Jvm.Cond.instanceMethod ({ cls := "EightBlocksModel", name := "sheet", desc := "(III)I" } : Jvm.MethodName)) ∈ lw_all := lw_g (lw_at lw_m10 26 rfl) rfl
theorem q2282 : (Jvm.Cond.selects "EightBlocksModel" ({ cls := "EightBlocksModel", name := "sheet", desc := "(III)I" } : Jvm.MethodName) ({ cls := "EightBlocksModel", name := "sheet", desc := "(III)I" } : Jvm.MethodName)) ∈ lw_all := lw_g (lw_at lw_m10 27 rfl) rfl
theorem q2283 : (Jvm.Cond.code ({ cls := "EightBlocksModel", name := "sheet", desc := "(III)I" } : Jvm.MethodName) prog_24_method_101_code (5 : Nat) (Option.some Jvm.ClassFile.FieldType.int)) ∈ lw_all := lw_g (lw_at lw_m10 28 rfl) rfl
theorem q2284 : (Jvm.Cond.methodLink "EightBlocksModel" (401 : Nat) ({ cls := "EightBlocksModel", name := "isSheet", desc := "(I)Z" } : Jvm.MethodName)) ∈ lw_all := lw_g (lw_at lw_m10 29 rfl) rfl
theorem q2285 : (Jvm.Cond.static ({ cls := "EightBlocksModel", name := "isSheet", desc := "(I)Z" } : Jvm.MethodName)) ∈ lw_all := lw_g (lw_at lw_m10 30 rfl) rfl
theorem q2286 : (Jvm.Cond.code ({ cls := "EightBlocksModel", name := "isSheet", desc := "(I)Z" } : Jvm.MethodName) prog_24_method_99_code (1 : Nat) (Option.some Jvm.ClassFile.FieldType.boolean)) ∈ lw_all := lw_g (lw_at lw_m10 31 rfl) rfl
theorem q2288 : (Jvm.Cond.instanceMethod ({ cls := "EightBlocksModel", name := "drop", desc := "(I)I" } : Jvm.MethodName)) ∈ lw_all := lw_g (lw_at lw_m10 33 rfl) rfl
theorem q2289 : (Jvm.Cond.selects "EightBlocksModel" ({ cls := "EightBlocksModel", name := "drop", desc := "(I)I" } : Jvm.MethodName) ({ cls := "EightBlocksModel", name := "drop", desc := "(I)I" } : Jvm.MethodName)) ∈ lw_all := lw_g (lw_at lw_m10 34 rfl) rfl
theorem q2290 : (Jvm.Cond.code ({ cls := "EightBlocksModel", name := "drop", desc := "(I)I" } : Jvm.MethodName) prog_24_method_102_code (2 : Nat) (Option.some Jvm.ClassFile.FieldType.int)) ∈ lw_all := lw_g (lw_at lw_m10 35 rfl) rfl
theorem q2292 : (Jvm.Cond.instanceMethod ({ cls := "EightBlocksModel", name := "item", desc := "(IIIJ)I" } : Jvm.MethodName)) ∈ lw_all := lw_g (lw_at lw_m10 37 rfl) rfl
theorem q2293 : (Jvm.Cond.selects "EightBlocksModel" ({ cls := "EightBlocksModel", name := "item", desc := "(IIIJ)I" } : Jvm.MethodName) ({ cls := "EightBlocksModel", name := "item", desc := "(IIIJ)I" } : Jvm.MethodName)) ∈ lw_all := lw_g (lw_at lw_m10 38 rfl) rfl
theorem q2294 : (Jvm.Cond.code ({ cls := "EightBlocksModel", name := "item", desc := "(IIIJ)I" } : Jvm.MethodName) prog_24_method_104_code (7 : Nat) (Option.some Jvm.ClassFile.FieldType.int)) ∈ lw_all := lw_g (lw_at lw_m10 39 rfl) rfl
theorem q2295 : (Jvm.Cond.methodLink "EightBlocksModel" (404 : Nat) ({ cls := "EightBlocksModel", name := "why", desc := "(IIII)I" } : Jvm.MethodName)) ∈ lw_all := lw_g (lw_at lw_m10 40 rfl) rfl
theorem q2296 : (Jvm.Cond.privateMethod ({ cls := "EightBlocksModel", name := "why", desc := "(IIII)I" } : Jvm.MethodName)) ∈ lw_tbl := lw_at lw_m10 41 rfl
theorem q2297 : (Jvm.Cond.instanceMethod ({ cls := "EightBlocksModel", name := "why", desc := "(IIII)I" } : Jvm.MethodName)) ∈ lw_all := lw_g (lw_at lw_m10 42 rfl) rfl
theorem q2298 : (Jvm.Cond.code ({ cls := "EightBlocksModel", name := "why", desc := "(IIII)I" } : Jvm.MethodName) prog_24_method_103_code (5 : Nat) (Option.some Jvm.ClassFile.FieldType.int)) ∈ lw_all := lw_g (lw_at lw_m10 43 rfl) rfl
theorem q2299 : (Jvm.Cond.methodLink "EightBlocksModel" (408 : Nat) ({ cls := "EightBlocksModel", name := "cut", desc := "(JI)J" } : Jvm.MethodName)) ∈ lw_all := lw_g (lw_at lw_m10 44 rfl) rfl
theorem q2300 : (Jvm.Cond.static ({ cls := "EightBlocksModel", name := "cut", desc := "(JI)J" } : Jvm.MethodName)) ∈ lw_all := lw_g (lw_at lw_m10 45 rfl) rfl
theorem q2301 : (Jvm.Cond.code ({ cls := "EightBlocksModel", name := "cut", desc := "(JI)J" } : Jvm.MethodName) prog_24_method_100_code (3 : Nat) (Option.some Jvm.ClassFile.FieldType.long)) ∈ lw_all := lw_g (lw_at lw_m10 46 rfl) rfl
theorem q2303 : (Jvm.Cond.instanceMethod ({ cls := "EightBlocksModel", name := "copy", desc := "(IIIII)I" } : Jvm.MethodName)) ∈ lw_all := lw_g (lw_at lw_m10 48 rfl) rfl
theorem q2304 : (Jvm.Cond.selects "EightBlocksModel" ({ cls := "EightBlocksModel", name := "copy", desc := "(IIIII)I" } : Jvm.MethodName) ({ cls := "EightBlocksModel", name := "copy", desc := "(IIIII)I" } : Jvm.MethodName)) ∈ lw_all := lw_g (lw_at lw_m10 49 rfl) rfl
theorem q2305 : (Jvm.Cond.code ({ cls := "EightBlocksModel", name := "copy", desc := "(IIIII)I" } : Jvm.MethodName) prog_24_method_105_code (7 : Nat) (Option.some Jvm.ClassFile.FieldType.int)) ∈ lw_all := lw_g (lw_at lw_m10 50 rfl) rfl
theorem q2307 : (Jvm.Cond.instanceMethod ({ cls := "EightBlocksModel", name := "film", desc := "(IIII)I" } : Jvm.MethodName)) ∈ lw_all := lw_g (lw_at lw_m10 52 rfl) rfl
theorem q2308 : (Jvm.Cond.selects "EightBlocksModel" ({ cls := "EightBlocksModel", name := "film", desc := "(IIII)I" } : Jvm.MethodName) ({ cls := "EightBlocksModel", name := "film", desc := "(IIII)I" } : Jvm.MethodName)) ∈ lw_all := lw_g (lw_at lw_m10 53 rfl) rfl
theorem q2309 : (Jvm.Cond.code ({ cls := "EightBlocksModel", name := "film", desc := "(IIII)I" } : Jvm.MethodName) prog_24_method_106_code (7 : Nat) (Option.some Jvm.ClassFile.FieldType.int)) ∈ lw_all := lw_g (lw_at lw_m10 54 rfl) rfl
theorem q2311 : (Jvm.Cond.instanceMethod ({ cls := "EightBlocksModel", name := "retrace", desc := "(IIIII)I" } : Jvm.MethodName)) ∈ lw_all := lw_g (lw_at lw_m10 56 rfl) rfl
theorem q2312 : (Jvm.Cond.selects "EightBlocksModel" ({ cls := "EightBlocksModel", name := "retrace", desc := "(IIIII)I" } : Jvm.MethodName) ({ cls := "EightBlocksModel", name := "retrace", desc := "(IIIII)I" } : Jvm.MethodName)) ∈ lw_all := lw_g (lw_at lw_m10 57 rfl) rfl
theorem q2313 : (Jvm.Cond.code ({ cls := "EightBlocksModel", name := "retrace", desc := "(IIIII)I" } : Jvm.MethodName) prog_24_method_110_code (10 : Nat) (Option.some Jvm.ClassFile.FieldType.int)) ∈ lw_all := lw_g (lw_at lw_m10 58 rfl) rfl
theorem q2314 : (Jvm.Cond.methodLink "EightBlocksModel" (415 : Nat) ({ cls := "EightBlocksModel", name := "wants", desc := "(II)I" } : Jvm.MethodName)) ∈ lw_all := lw_g (lw_at lw_m10 59 rfl) rfl
theorem q2315 : (Jvm.Cond.privateMethod ({ cls := "EightBlocksModel", name := "wants", desc := "(II)I" } : Jvm.MethodName)) ∈ lw_tbl := lw_at lw_m10 60 rfl
theorem q2316 : (Jvm.Cond.instanceMethod ({ cls := "EightBlocksModel", name := "wants", desc := "(II)I" } : Jvm.MethodName)) ∈ lw_all := lw_g (lw_at lw_m10 61 rfl) rfl
theorem q2317 : (Jvm.Cond.code ({ cls := "EightBlocksModel", name := "wants", desc := "(II)I" } : Jvm.MethodName) prog_24_method_107_code (8 : Nat) (Option.some Jvm.ClassFile.FieldType.int)) ∈ lw_all := lw_g (lw_at lw_m10 62 rfl) rfl
theorem q2318 : (Jvm.Cond.methodLink "EightBlocksModel" (418 : Nat) ({ cls := "EightBlocksModel", name := "finds", desc := "(I)Z" } : Jvm.MethodName)) ∈ lw_all := lw_g (lw_at lw_m10 63 rfl) rfl
theorem q2319 : (Jvm.Cond.privateMethod ({ cls := "EightBlocksModel", name := "finds", desc := "(I)Z" } : Jvm.MethodName)) ∈ lw_tbl := lw_at lw_m10 64 rfl
theorem q2320 : (Jvm.Cond.instanceMethod ({ cls := "EightBlocksModel", name := "finds", desc := "(I)Z" } : Jvm.MethodName)) ∈ lw_all := lw_g (lw_at lw_m10 65 rfl) rfl
theorem q2321 : (Jvm.Cond.code ({ cls := "EightBlocksModel", name := "finds", desc := "(I)Z" } : Jvm.MethodName) prog_24_method_109_code (6 : Nat) (Option.some Jvm.ClassFile.FieldType.boolean)) ∈ lw_all := lw_g (lw_at lw_m10 66 rfl) rfl
theorem q2322 : (Jvm.Cond.methodLink "EightBlocksModel" (412 : Nat) ({ cls := "EightBlocksModel", name := "sends", desc := "(II)I" } : Jvm.MethodName)) ∈ lw_all := lw_g (lw_at lw_m10 67 rfl) rfl
theorem q2323 : (Jvm.Cond.privateMethod ({ cls := "EightBlocksModel", name := "sends", desc := "(II)I" } : Jvm.MethodName)) ∈ lw_tbl := lw_at lw_m10 68 rfl
theorem q2324 : (Jvm.Cond.instanceMethod ({ cls := "EightBlocksModel", name := "sends", desc := "(II)I" } : Jvm.MethodName)) ∈ lw_all := lw_g (lw_at lw_m10 69 rfl) rfl
theorem q2325 : (Jvm.Cond.code ({ cls := "EightBlocksModel", name := "sends", desc := "(II)I" } : Jvm.MethodName) prog_24_method_108_code (7 : Nat) (Option.some Jvm.ClassFile.FieldType.int)) ∈ lw_all := lw_g (lw_at lw_m10 70 rfl) rfl
theorem in_X17 : ∀ w ∈ wsX170, w ∈ lw_all := lw_in wsX170 [1841, 1843, 1845, 1847, 1849, 1851, 1853, 1855, 1857, 1859, 1861, 1863, 1865, 1867, 1869, 1871, 1873, 1875, 1877, 1879, 1881, 1883, 1885, 1887, 1889, 1891, 1893, 1895, 1897, 1899, 1901, 1903, 1905, 1907, 1909, 1911, 1913] (by decide +kernel) (by decide +kernel)
