/-! RightTurns -/
set_option maxRecDepth 100000
def RX1 : String := "RightTurns"
def TX1 : u_T := fun k => match k with
  | 0 => ("RightTurns", "town", "LRightTurns$Town;", false)
  | 1 => ("RightTurns", "state", "LRightTurns$State;", true)
  | 2 => ("RightTurns", "taped", "I", false)
  | 3 => ("RightTurns", "faultAt", "I", false)
  | 4 => ("RightTurns", "imageMany", "I", false)
  | 5 => ("RightTurns", "tape", "[B", true)
  | 6 => ("RightTurns", "images", "[LRightTurns$State;", true)
  | 7 => ("RightTurns", "more", "[I", true)
  | 8 => ("RightTurns", "fewer", "[I", true)
  | 9 => ("RightTurns", "free", "Z", false)
  | 10 => ("RightTurns", "rest", "[I", true)
  | 11 => ("RightTurns", "path", "[I", true)
  | 12 => ("RightTurns", "seen", "[Z", true)
  | 13 => ("RightTurns", "queue", "[I", true)
  | 14 => ("RightTurns", "part", "[I", true)
  | 15 => ("RightTurns", "behind", "[J", true)
  | 16 => ("RightTurns", "candidate", "[I", true)
  | 17 => ("RightTurns", "leastBy", "I", false)
  | 18 => ("RightTurns", "far", "[I", true)
  | 19 => ("RightTurns", "boxAt", "[I", true)
  | 20 => ("RightTurns", "point", "[I", true)
  | 21 => ("RightTurns", "between", "[I", true)
  | 22 => ("RightTurns", "least", "[I", true)
  | 23 => ("RightTurns", "way", "[I", true)
  | 24 => ("RightTurns", "ways", "[I", true)
  | 25 => ("RightTurns", "at", "[I", true)
  | 26 => ("RightTurns", "left", "[I", true)
  | 27 => ("RightTurns", "came", "[I", true)
  | 28 => ("RightTurns", "homeIn", "[I", true)
  | 29 => ("RightTurns", "waited", "[I", true)
  | 30 => ("RightTurns", "rounds", "I", false)
  | 31 => ("RightTurns", "homes", "I", false)
  | 32 => ("RightTurns", "few", "[I", true)
  | 33 => ("RightTurns", "fewThen", "[I", true)
  | 34 => ("RightTurns", "many", "[J", true)
  | 35 => ("RightTurns", "manyThen", "[J", true)
  | 36 => ("RightTurns", "bannedFrom", "I", false)
  | 37 => ("RightTurns", "bannedTo", "I", false)
  | 38 => ("RightTurns", "ridersFar", "I", false)
  | _ => ("RightTurns", "passed", "[I", true)
def tyX1 : Nat → FieldType := fun k => match k with
  | 0 => .object "RightTurns$Town"
  | 1 => .object "RightTurns$State"
  | 2 => .int
  | 3 => .int
  | 4 => .int
  | 5 => .array .byte
  | 6 => .array (.object "RightTurns$State")
  | 7 => .array .int
  | 8 => .array .int
  | 9 => .boolean
  | 10 => .array .int
  | 11 => .array .int
  | 12 => .array .boolean
  | 13 => .array .int
  | 14 => .array .int
  | 15 => .array .long
  | 16 => .array .int
  | 17 => .int
  | 18 => .array .int
  | 19 => .array .int
  | 20 => .array .int
  | 21 => .array .int
  | 22 => .array .int
  | 23 => .array .int
  | 24 => .array .int
  | 25 => .array .int
  | 26 => .array .int
  | 27 => .array .int
  | 28 => .array .int
  | 29 => .array .int
  | 30 => .int
  | 31 => .int
  | 32 => .array .int
  | 33 => .array .int
  | 34 => .array .long
  | 35 => .array .long
  | 36 => .int
  | 37 => .int
  | 38 => .int
  | _ => .array .int
abbrev wsX10 : List Cond := u_ws RX1 TX1 40
set_option maxRecDepth 100000 in
theorem nmX1 : ∀ a, a < 40 → ∀ b, b < 40 → a ≠ b → (TX1 a).2.1 ≠ (TX1 b).2.1 := by decide +kernel
set_option maxRecDepth 100000 in
theorem tyX1_ok : ∀ k, k < 40 → parseFieldDescriptor (TX1 k).2.2.1 = some (tyX1 k) := by decide +kernel
abbrev cX1_init : ByteArray := prog_1_method_1_code
def yX1_init : MethodName := ⟨RX1, "<init>", "()V"⟩
def dkwX1_init_11 : List UInt8 := [181, 0, 117, 177]
abbrev dktX1_init_11 : List UInt8 := dkwX1_init_11 ++ []
def dkwX1_init_10 : List UInt8 := [188, 11, 181, 0, 108, 42, 16, 48, 188, 11, 181, 0, 111, 42, 2, 181, 0, 114, 42, 16, 24, 188, 10]
abbrev dktX1_init_10 : List UInt8 := dkwX1_init_10 ++ dktX1_init_11
def dkwX1_init_9 : List UInt8 := [188, 10, 181, 0, 99, 42, 16, 48, 188, 10, 181, 0, 102, 42, 16, 48, 188, 10, 181, 0, 105, 42, 16, 48]
abbrev dktX1_init_9 : List UInt8 := dkwX1_init_9 ++ dktX1_init_10
def dkwX1_init_8 : List UInt8 := [188, 10, 181, 0, 90, 42, 16, 12, 188, 10, 181, 0, 93, 42, 16, 12, 188, 10, 181, 0, 96, 42, 16, 12]
abbrev dktX1_init_8 : List UInt8 := dkwX1_init_8 ++ dktX1_init_9
def dkwX1_init_7 : List UInt8 := [188, 10, 181, 0, 81, 42, 16, 12, 188, 10, 181, 0, 84, 42, 16, 12, 188, 10, 181, 0, 87, 42, 16, 12]
abbrev dktX1_init_7 : List UInt8 := dkwX1_init_7 ++ dktX1_init_8
def dkwX1_init_6 : List UInt8 := [181, 0, 72, 42, 16, 121, 188, 10, 181, 0, 75, 42, 17, 8, 0, 188, 10, 181, 0, 78, 42, 17, 2, 64]
abbrev dktX1_init_6 : List UInt8 := dkwX1_init_6 ++ dktX1_init_7
def dkwX1_init_5 : List UInt8 := [181, 0, 62, 42, 18, 65, 188, 10, 181, 0, 66, 42, 16, 16, 188, 10, 181, 0, 69, 42, 16, 11, 188, 10]
abbrev dktX1_init_5 : List UInt8 := dkwX1_init_5 ++ dktX1_init_6
def dkwX1_init_4 : List UInt8 := [181, 0, 52, 42, 16, 48, 188, 10, 181, 0, 55, 42, 16, 48, 188, 11, 181, 0, 58, 42, 16, 14, 188, 10]
abbrev dktX1_init_4 : List UInt8 := dkwX1_init_4 ++ dktX1_init_5
def dkwX1_init_3 : List UInt8 := [181, 0, 42, 42, 16, 48, 188, 10, 181, 0, 45, 42, 16, 48, 188, 4, 181, 0, 48, 42, 16, 48, 188, 10]
abbrev dktX1_init_3 : List UInt8 := dkwX1_init_3 ++ dktX1_init_4
def dkwX1_init_2 : List UInt8 := [181, 0, 31, 42, 16, 24, 188, 10, 181, 0, 35, 42, 16, 24, 188, 10, 181, 0, 39, 42, 16, 48, 188, 10]
abbrev dktX1_init_2 : List UInt8 := dkwX1_init_2 ++ dktX1_init_3
def dkwX1_init_1 : List UInt8 := [181, 0, 19, 42, 2, 181, 0, 23, 42, 17, 1, 244, 188, 8, 181, 0, 27, 42, 6, 189, 0, 16]
abbrev dktX1_init_1 : List UInt8 := dkwX1_init_1 ++ dktX1_init_2
def dkwX1_init_0 : List UInt8 := [42, 183, 0, 3, 42, 187, 0, 9, 89, 183, 0, 11, 181, 0, 12, 42, 187, 0, 16, 89, 183, 0, 18]
abbrev dktX1_init_0 : List UInt8 := dkwX1_init_0 ++ dktX1_init_1
theorem dksX1_init_0 : cX1_init.data.toList.drop 0 = dktX1_init_0 := by decide +kernel
theorem dksX1_init_1 : cX1_init.data.toList.drop 23 = dktX1_init_1 := dk_seg dksX1_init_0 23 rfl rfl
theorem dksX1_init_2 : cX1_init.data.toList.drop 45 = dktX1_init_2 := dk_seg dksX1_init_1 22 rfl rfl
theorem dksX1_init_3 : cX1_init.data.toList.drop 69 = dktX1_init_3 := dk_seg dksX1_init_2 24 rfl rfl
theorem dksX1_init_4 : cX1_init.data.toList.drop 93 = dktX1_init_4 := dk_seg dksX1_init_3 24 rfl rfl
theorem dksX1_init_5 : cX1_init.data.toList.drop 117 = dktX1_init_5 := dk_seg dksX1_init_4 24 rfl rfl
theorem dksX1_init_6 : cX1_init.data.toList.drop 141 = dktX1_init_6 := dk_seg dksX1_init_5 24 rfl rfl
theorem dksX1_init_7 : cX1_init.data.toList.drop 165 = dktX1_init_7 := dk_seg dksX1_init_6 24 rfl rfl
theorem dksX1_init_8 : cX1_init.data.toList.drop 189 = dktX1_init_8 := dk_seg dksX1_init_7 24 rfl rfl
theorem dksX1_init_9 : cX1_init.data.toList.drop 213 = dktX1_init_9 := dk_seg dksX1_init_8 24 rfl rfl
theorem dksX1_init_10 : cX1_init.data.toList.drop 237 = dktX1_init_10 := dk_seg dksX1_init_9 24 rfl rfl
theorem dksX1_init_11 : cX1_init.data.toList.drop 260 = dktX1_init_11 := dk_seg dksX1_init_10 23 rfl rfl
theorem dX1_init_0 : decode cX1_init 0 = .ok (.aload_n 0, 1) := dk_42 (dk_at dksX1_init_0 0 rfl rfl)
theorem dX1_init_1 : decode cX1_init 1 = .ok (.invokespecial 3, 3) := dk_183 0 3 (dk_at dksX1_init_0 1 rfl rfl)
theorem dX1_init_4 : decode cX1_init 4 = .ok (.aload_n 0, 1) := dk_42 (dk_at dksX1_init_0 4 rfl rfl)
theorem dX1_init_5 : decode cX1_init 5 = .ok (.new 9, 3) := dk_187 0 9 (dk_at dksX1_init_0 5 rfl rfl)
theorem dX1_init_8 : decode cX1_init 8 = .ok (.dup, 1) := dk_89 (dk_at dksX1_init_0 8 rfl rfl)
theorem dX1_init_9 : decode cX1_init 9 = .ok (.invokespecial 11, 3) := dk_183 0 11 (dk_at dksX1_init_0 9 rfl rfl)
theorem dX1_init_12 : decode cX1_init 12 = .ok (.putfield 12, 3) := dk_181 0 12 (dk_at dksX1_init_0 12 rfl rfl)
theorem dX1_init_15 : decode cX1_init 15 = .ok (.aload_n 0, 1) := dk_42 (dk_at dksX1_init_0 15 rfl rfl)
theorem dX1_init_16 : decode cX1_init 16 = .ok (.new 16, 3) := dk_187 0 16 (dk_at dksX1_init_0 16 rfl rfl)
theorem dX1_init_19 : decode cX1_init 19 = .ok (.dup, 1) := dk_89 (dk_at dksX1_init_0 19 rfl rfl)
theorem dX1_init_20 : decode cX1_init 20 = .ok (.invokespecial 18, 3) := dk_183 0 18 (dk_at dksX1_init_0 20 rfl rfl)
theorem dX1_init_23 : decode cX1_init 23 = .ok (.putfield 19, 3) := dk_181 0 19 (dk_at dksX1_init_1 0 rfl rfl)
theorem dX1_init_26 : decode cX1_init 26 = .ok (.aload_n 0, 1) := dk_42 (dk_at dksX1_init_1 3 rfl rfl)
theorem dX1_init_27 : decode cX1_init 27 = .ok (.iconst (-1), 1) := dk_2 (dk_at dksX1_init_1 4 rfl rfl)
theorem dX1_init_28 : decode cX1_init 28 = .ok (.putfield 23, 3) := dk_181 0 23 (dk_at dksX1_init_1 5 rfl rfl)
theorem dX1_init_31 : decode cX1_init 31 = .ok (.aload_n 0, 1) := dk_42 (dk_at dksX1_init_1 8 rfl rfl)
theorem dX1_init_32 : decode cX1_init 32 = .ok (.sipush 500, 3) := dk_17 1 244 (dk_at dksX1_init_1 9 rfl rfl)
theorem dX1_init_35 : decode cX1_init 35 = .ok (.newarray .byte, 2) := dk_188_8 (dk_at dksX1_init_1 12 rfl rfl)
theorem dX1_init_37 : decode cX1_init 37 = .ok (.putfield 27, 3) := dk_181 0 27 (dk_at dksX1_init_1 14 rfl rfl)
theorem dX1_init_40 : decode cX1_init 40 = .ok (.aload_n 0, 1) := dk_42 (dk_at dksX1_init_1 17 rfl rfl)
theorem dX1_init_41 : decode cX1_init 41 = .ok (.iconst 3, 1) := dk_6 (dk_at dksX1_init_1 18 rfl rfl)
theorem dX1_init_42 : decode cX1_init 42 = .ok (.anewarray 16, 3) := dk_189 0 16 (dk_at dksX1_init_1 19 rfl rfl)
theorem dX1_init_45 : decode cX1_init 45 = .ok (.putfield 31, 3) := dk_181 0 31 (dk_at dksX1_init_2 0 rfl rfl)
theorem dX1_init_48 : decode cX1_init 48 = .ok (.aload_n 0, 1) := dk_42 (dk_at dksX1_init_2 3 rfl rfl)
theorem dX1_init_49 : decode cX1_init 49 = .ok (.bipush 24, 2) := dk_16 24 (dk_at dksX1_init_2 4 rfl rfl)
theorem dX1_init_51 : decode cX1_init 51 = .ok (.newarray .int, 2) := dk_188_10 (dk_at dksX1_init_2 6 rfl rfl)
theorem dX1_init_53 : decode cX1_init 53 = .ok (.putfield 35, 3) := dk_181 0 35 (dk_at dksX1_init_2 8 rfl rfl)
theorem dX1_init_56 : decode cX1_init 56 = .ok (.aload_n 0, 1) := dk_42 (dk_at dksX1_init_2 11 rfl rfl)
theorem dX1_init_57 : decode cX1_init 57 = .ok (.bipush 24, 2) := dk_16 24 (dk_at dksX1_init_2 12 rfl rfl)
theorem dX1_init_59 : decode cX1_init 59 = .ok (.newarray .int, 2) := dk_188_10 (dk_at dksX1_init_2 14 rfl rfl)
theorem dX1_init_61 : decode cX1_init 61 = .ok (.putfield 39, 3) := dk_181 0 39 (dk_at dksX1_init_2 16 rfl rfl)
theorem dX1_init_64 : decode cX1_init 64 = .ok (.aload_n 0, 1) := dk_42 (dk_at dksX1_init_2 19 rfl rfl)
theorem dX1_init_65 : decode cX1_init 65 = .ok (.bipush 48, 2) := dk_16 48 (dk_at dksX1_init_2 20 rfl rfl)
theorem dX1_init_67 : decode cX1_init 67 = .ok (.newarray .int, 2) := dk_188_10 (dk_at dksX1_init_2 22 rfl rfl)
theorem dX1_init_69 : decode cX1_init 69 = .ok (.putfield 42, 3) := dk_181 0 42 (dk_at dksX1_init_3 0 rfl rfl)
theorem dX1_init_72 : decode cX1_init 72 = .ok (.aload_n 0, 1) := dk_42 (dk_at dksX1_init_3 3 rfl rfl)
theorem dX1_init_73 : decode cX1_init 73 = .ok (.bipush 48, 2) := dk_16 48 (dk_at dksX1_init_3 4 rfl rfl)
theorem dX1_init_75 : decode cX1_init 75 = .ok (.newarray .int, 2) := dk_188_10 (dk_at dksX1_init_3 6 rfl rfl)
theorem dX1_init_77 : decode cX1_init 77 = .ok (.putfield 45, 3) := dk_181 0 45 (dk_at dksX1_init_3 8 rfl rfl)
theorem dX1_init_80 : decode cX1_init 80 = .ok (.aload_n 0, 1) := dk_42 (dk_at dksX1_init_3 11 rfl rfl)
theorem dX1_init_81 : decode cX1_init 81 = .ok (.bipush 48, 2) := dk_16 48 (dk_at dksX1_init_3 12 rfl rfl)
theorem dX1_init_83 : decode cX1_init 83 = .ok (.newarray .boolean, 2) := dk_188_4 (dk_at dksX1_init_3 14 rfl rfl)
theorem dX1_init_85 : decode cX1_init 85 = .ok (.putfield 48, 3) := dk_181 0 48 (dk_at dksX1_init_3 16 rfl rfl)
theorem dX1_init_88 : decode cX1_init 88 = .ok (.aload_n 0, 1) := dk_42 (dk_at dksX1_init_3 19 rfl rfl)
theorem dX1_init_89 : decode cX1_init 89 = .ok (.bipush 48, 2) := dk_16 48 (dk_at dksX1_init_3 20 rfl rfl)
theorem dX1_init_91 : decode cX1_init 91 = .ok (.newarray .int, 2) := dk_188_10 (dk_at dksX1_init_3 22 rfl rfl)
theorem dX1_init_93 : decode cX1_init 93 = .ok (.putfield 52, 3) := dk_181 0 52 (dk_at dksX1_init_4 0 rfl rfl)
theorem dX1_init_96 : decode cX1_init 96 = .ok (.aload_n 0, 1) := dk_42 (dk_at dksX1_init_4 3 rfl rfl)
theorem dX1_init_97 : decode cX1_init 97 = .ok (.bipush 48, 2) := dk_16 48 (dk_at dksX1_init_4 4 rfl rfl)
theorem dX1_init_99 : decode cX1_init 99 = .ok (.newarray .int, 2) := dk_188_10 (dk_at dksX1_init_4 6 rfl rfl)
theorem dX1_init_101 : decode cX1_init 101 = .ok (.putfield 55, 3) := dk_181 0 55 (dk_at dksX1_init_4 8 rfl rfl)
theorem dX1_init_104 : decode cX1_init 104 = .ok (.aload_n 0, 1) := dk_42 (dk_at dksX1_init_4 11 rfl rfl)
theorem dX1_init_105 : decode cX1_init 105 = .ok (.bipush 48, 2) := dk_16 48 (dk_at dksX1_init_4 12 rfl rfl)
theorem dX1_init_107 : decode cX1_init 107 = .ok (.newarray .long, 2) := dk_188_11 (dk_at dksX1_init_4 14 rfl rfl)
theorem dX1_init_109 : decode cX1_init 109 = .ok (.putfield 58, 3) := dk_181 0 58 (dk_at dksX1_init_4 16 rfl rfl)
theorem dX1_init_112 : decode cX1_init 112 = .ok (.aload_n 0, 1) := dk_42 (dk_at dksX1_init_4 19 rfl rfl)
theorem dX1_init_113 : decode cX1_init 113 = .ok (.bipush 14, 2) := dk_16 14 (dk_at dksX1_init_4 20 rfl rfl)
theorem dX1_init_115 : decode cX1_init 115 = .ok (.newarray .int, 2) := dk_188_10 (dk_at dksX1_init_4 22 rfl rfl)
theorem dX1_init_117 : decode cX1_init 117 = .ok (.putfield 62, 3) := dk_181 0 62 (dk_at dksX1_init_5 0 rfl rfl)
theorem dX1_init_120 : decode cX1_init 120 = .ok (.aload_n 0, 1) := dk_42 (dk_at dksX1_init_5 3 rfl rfl)
theorem dX1_init_121 : decode cX1_init 121 = .ok (.ldc 65, 2) := dk_18 65 (dk_at dksX1_init_5 4 rfl rfl)
theorem dX1_init_123 : decode cX1_init 123 = .ok (.newarray .int, 2) := dk_188_10 (dk_at dksX1_init_5 6 rfl rfl)
theorem dX1_init_125 : decode cX1_init 125 = .ok (.putfield 66, 3) := dk_181 0 66 (dk_at dksX1_init_5 8 rfl rfl)
theorem dX1_init_128 : decode cX1_init 128 = .ok (.aload_n 0, 1) := dk_42 (dk_at dksX1_init_5 11 rfl rfl)
theorem dX1_init_129 : decode cX1_init 129 = .ok (.bipush 16, 2) := dk_16 16 (dk_at dksX1_init_5 12 rfl rfl)
theorem dX1_init_131 : decode cX1_init 131 = .ok (.newarray .int, 2) := dk_188_10 (dk_at dksX1_init_5 14 rfl rfl)
theorem dX1_init_133 : decode cX1_init 133 = .ok (.putfield 69, 3) := dk_181 0 69 (dk_at dksX1_init_5 16 rfl rfl)
theorem dX1_init_136 : decode cX1_init 136 = .ok (.aload_n 0, 1) := dk_42 (dk_at dksX1_init_5 19 rfl rfl)
theorem dX1_init_137 : decode cX1_init 137 = .ok (.bipush 11, 2) := dk_16 11 (dk_at dksX1_init_5 20 rfl rfl)
theorem dX1_init_139 : decode cX1_init 139 = .ok (.newarray .int, 2) := dk_188_10 (dk_at dksX1_init_5 22 rfl rfl)
theorem dX1_init_141 : decode cX1_init 141 = .ok (.putfield 72, 3) := dk_181 0 72 (dk_at dksX1_init_6 0 rfl rfl)
theorem dX1_init_144 : decode cX1_init 144 = .ok (.aload_n 0, 1) := dk_42 (dk_at dksX1_init_6 3 rfl rfl)
theorem dX1_init_145 : decode cX1_init 145 = .ok (.bipush 121, 2) := dk_16 121 (dk_at dksX1_init_6 4 rfl rfl)
theorem dX1_init_147 : decode cX1_init 147 = .ok (.newarray .int, 2) := dk_188_10 (dk_at dksX1_init_6 6 rfl rfl)
theorem dX1_init_149 : decode cX1_init 149 = .ok (.putfield 75, 3) := dk_181 0 75 (dk_at dksX1_init_6 8 rfl rfl)
theorem dX1_init_152 : decode cX1_init 152 = .ok (.aload_n 0, 1) := dk_42 (dk_at dksX1_init_6 11 rfl rfl)
theorem dX1_init_153 : decode cX1_init 153 = .ok (.sipush 2048, 3) := dk_17 8 0 (dk_at dksX1_init_6 12 rfl rfl)
theorem dX1_init_156 : decode cX1_init 156 = .ok (.newarray .int, 2) := dk_188_10 (dk_at dksX1_init_6 15 rfl rfl)
theorem dX1_init_158 : decode cX1_init 158 = .ok (.putfield 78, 3) := dk_181 0 78 (dk_at dksX1_init_6 17 rfl rfl)
theorem dX1_init_161 : decode cX1_init 161 = .ok (.aload_n 0, 1) := dk_42 (dk_at dksX1_init_6 20 rfl rfl)
theorem dX1_init_162 : decode cX1_init 162 = .ok (.sipush 576, 3) := dk_17 2 64 (dk_at dksX1_init_6 21 rfl rfl)
theorem dX1_init_165 : decode cX1_init 165 = .ok (.newarray .int, 2) := dk_188_10 (dk_at dksX1_init_7 0 rfl rfl)
theorem dX1_init_167 : decode cX1_init 167 = .ok (.putfield 81, 3) := dk_181 0 81 (dk_at dksX1_init_7 2 rfl rfl)
theorem dX1_init_170 : decode cX1_init 170 = .ok (.aload_n 0, 1) := dk_42 (dk_at dksX1_init_7 5 rfl rfl)
theorem dX1_init_171 : decode cX1_init 171 = .ok (.bipush 12, 2) := dk_16 12 (dk_at dksX1_init_7 6 rfl rfl)
theorem dX1_init_173 : decode cX1_init 173 = .ok (.newarray .int, 2) := dk_188_10 (dk_at dksX1_init_7 8 rfl rfl)
theorem dX1_init_175 : decode cX1_init 175 = .ok (.putfield 84, 3) := dk_181 0 84 (dk_at dksX1_init_7 10 rfl rfl)
theorem dX1_init_178 : decode cX1_init 178 = .ok (.aload_n 0, 1) := dk_42 (dk_at dksX1_init_7 13 rfl rfl)
theorem dX1_init_179 : decode cX1_init 179 = .ok (.bipush 12, 2) := dk_16 12 (dk_at dksX1_init_7 14 rfl rfl)
theorem dX1_init_181 : decode cX1_init 181 = .ok (.newarray .int, 2) := dk_188_10 (dk_at dksX1_init_7 16 rfl rfl)
theorem dX1_init_183 : decode cX1_init 183 = .ok (.putfield 87, 3) := dk_181 0 87 (dk_at dksX1_init_7 18 rfl rfl)
theorem dX1_init_186 : decode cX1_init 186 = .ok (.aload_n 0, 1) := dk_42 (dk_at dksX1_init_7 21 rfl rfl)
theorem dX1_init_187 : decode cX1_init 187 = .ok (.bipush 12, 2) := dk_16 12 (dk_at dksX1_init_7 22 rfl rfl)
theorem dX1_init_189 : decode cX1_init 189 = .ok (.newarray .int, 2) := dk_188_10 (dk_at dksX1_init_8 0 rfl rfl)
theorem dX1_init_191 : decode cX1_init 191 = .ok (.putfield 90, 3) := dk_181 0 90 (dk_at dksX1_init_8 2 rfl rfl)
theorem dX1_init_194 : decode cX1_init 194 = .ok (.aload_n 0, 1) := dk_42 (dk_at dksX1_init_8 5 rfl rfl)
theorem dX1_init_195 : decode cX1_init 195 = .ok (.bipush 12, 2) := dk_16 12 (dk_at dksX1_init_8 6 rfl rfl)
theorem dX1_init_197 : decode cX1_init 197 = .ok (.newarray .int, 2) := dk_188_10 (dk_at dksX1_init_8 8 rfl rfl)
theorem dX1_init_199 : decode cX1_init 199 = .ok (.putfield 93, 3) := dk_181 0 93 (dk_at dksX1_init_8 10 rfl rfl)
theorem dX1_init_202 : decode cX1_init 202 = .ok (.aload_n 0, 1) := dk_42 (dk_at dksX1_init_8 13 rfl rfl)
theorem dX1_init_203 : decode cX1_init 203 = .ok (.bipush 12, 2) := dk_16 12 (dk_at dksX1_init_8 14 rfl rfl)
theorem dX1_init_205 : decode cX1_init 205 = .ok (.newarray .int, 2) := dk_188_10 (dk_at dksX1_init_8 16 rfl rfl)
theorem dX1_init_207 : decode cX1_init 207 = .ok (.putfield 96, 3) := dk_181 0 96 (dk_at dksX1_init_8 18 rfl rfl)
theorem dX1_init_210 : decode cX1_init 210 = .ok (.aload_n 0, 1) := dk_42 (dk_at dksX1_init_8 21 rfl rfl)
theorem dX1_init_211 : decode cX1_init 211 = .ok (.bipush 12, 2) := dk_16 12 (dk_at dksX1_init_8 22 rfl rfl)
theorem dX1_init_213 : decode cX1_init 213 = .ok (.newarray .int, 2) := dk_188_10 (dk_at dksX1_init_9 0 rfl rfl)
theorem dX1_init_215 : decode cX1_init 215 = .ok (.putfield 99, 3) := dk_181 0 99 (dk_at dksX1_init_9 2 rfl rfl)
theorem dX1_init_218 : decode cX1_init 218 = .ok (.aload_n 0, 1) := dk_42 (dk_at dksX1_init_9 5 rfl rfl)
theorem dX1_init_219 : decode cX1_init 219 = .ok (.bipush 48, 2) := dk_16 48 (dk_at dksX1_init_9 6 rfl rfl)
theorem dX1_init_221 : decode cX1_init 221 = .ok (.newarray .int, 2) := dk_188_10 (dk_at dksX1_init_9 8 rfl rfl)
theorem dX1_init_223 : decode cX1_init 223 = .ok (.putfield 102, 3) := dk_181 0 102 (dk_at dksX1_init_9 10 rfl rfl)
theorem dX1_init_226 : decode cX1_init 226 = .ok (.aload_n 0, 1) := dk_42 (dk_at dksX1_init_9 13 rfl rfl)
theorem dX1_init_227 : decode cX1_init 227 = .ok (.bipush 48, 2) := dk_16 48 (dk_at dksX1_init_9 14 rfl rfl)
theorem dX1_init_229 : decode cX1_init 229 = .ok (.newarray .int, 2) := dk_188_10 (dk_at dksX1_init_9 16 rfl rfl)
theorem dX1_init_231 : decode cX1_init 231 = .ok (.putfield 105, 3) := dk_181 0 105 (dk_at dksX1_init_9 18 rfl rfl)
theorem dX1_init_234 : decode cX1_init 234 = .ok (.aload_n 0, 1) := dk_42 (dk_at dksX1_init_9 21 rfl rfl)
theorem dX1_init_235 : decode cX1_init 235 = .ok (.bipush 48, 2) := dk_16 48 (dk_at dksX1_init_9 22 rfl rfl)
theorem dX1_init_237 : decode cX1_init 237 = .ok (.newarray .long, 2) := dk_188_11 (dk_at dksX1_init_10 0 rfl rfl)
theorem dX1_init_239 : decode cX1_init 239 = .ok (.putfield 108, 3) := dk_181 0 108 (dk_at dksX1_init_10 2 rfl rfl)
theorem dX1_init_242 : decode cX1_init 242 = .ok (.aload_n 0, 1) := dk_42 (dk_at dksX1_init_10 5 rfl rfl)
theorem dX1_init_243 : decode cX1_init 243 = .ok (.bipush 48, 2) := dk_16 48 (dk_at dksX1_init_10 6 rfl rfl)
theorem dX1_init_245 : decode cX1_init 245 = .ok (.newarray .long, 2) := dk_188_11 (dk_at dksX1_init_10 8 rfl rfl)
theorem dX1_init_247 : decode cX1_init 247 = .ok (.putfield 111, 3) := dk_181 0 111 (dk_at dksX1_init_10 10 rfl rfl)
theorem dX1_init_250 : decode cX1_init 250 = .ok (.aload_n 0, 1) := dk_42 (dk_at dksX1_init_10 13 rfl rfl)
theorem dX1_init_251 : decode cX1_init 251 = .ok (.iconst (-1), 1) := dk_2 (dk_at dksX1_init_10 14 rfl rfl)
theorem dX1_init_252 : decode cX1_init 252 = .ok (.putfield 114, 3) := dk_181 0 114 (dk_at dksX1_init_10 15 rfl rfl)
theorem dX1_init_255 : decode cX1_init 255 = .ok (.aload_n 0, 1) := dk_42 (dk_at dksX1_init_10 18 rfl rfl)
theorem dX1_init_256 : decode cX1_init 256 = .ok (.bipush 24, 2) := dk_16 24 (dk_at dksX1_init_10 19 rfl rfl)
theorem dX1_init_258 : decode cX1_init 258 = .ok (.newarray .int, 2) := dk_188_10 (dk_at dksX1_init_10 21 rfl rfl)
theorem dX1_init_260 : decode cX1_init 260 = .ok (.putfield 117, 3) := dk_181 0 117 (dk_at dksX1_init_11 0 rfl rfl)
theorem dX1_init_263 : decode cX1_init 263 = .ok (.return_, 1) := dk_177 (dk_at dksX1_init_11 3 rfl rfl)
abbrev cX1_feed : ByteArray := prog_1_method_8_code
def yX1_feed : MethodName := ⟨RX1, "feed", "(IIIII)I"⟩
def dkwX1_feed_2 : List UInt8 := [172]
abbrev dktX1_feed_2 : List UInt8 := dkwX1_feed_2 ++ []
def dkwX1_feed_1 : List UInt8 := [182, 0, 160, 42, 29, 182, 0, 160, 42, 21, 4, 182, 0, 160, 42, 21, 5, 182, 0, 160, 42, 180, 0, 157]
abbrev dktX1_feed_1 : List UInt8 := dkwX1_feed_1 ++ dktX1_feed_2
def dkwX1_feed_0 : List UInt8 := [42, 180, 0, 157, 16, 20, 96, 17, 1, 244, 164, 0, 5, 2, 172, 42, 27, 182, 0, 160, 42, 28]
abbrev dktX1_feed_0 : List UInt8 := dkwX1_feed_0 ++ dktX1_feed_1
theorem dksX1_feed_0 : cX1_feed.data.toList.drop 0 = dktX1_feed_0 := by decide +kernel
theorem dksX1_feed_1 : cX1_feed.data.toList.drop 22 = dktX1_feed_1 := dk_seg dksX1_feed_0 22 rfl rfl
theorem dksX1_feed_2 : cX1_feed.data.toList.drop 46 = dktX1_feed_2 := dk_seg dksX1_feed_1 24 rfl rfl
theorem dX1_feed_0 : decode cX1_feed 0 = .ok (.aload_n 0, 1) := dk_42 (dk_at dksX1_feed_0 0 rfl rfl)
theorem dX1_feed_1 : decode cX1_feed 1 = .ok (.getfield 157, 3) := dk_180 0 157 (dk_at dksX1_feed_0 1 rfl rfl)
theorem dX1_feed_4 : decode cX1_feed 4 = .ok (.bipush 20, 2) := dk_16 20 (dk_at dksX1_feed_0 4 rfl rfl)
theorem dX1_feed_6 : decode cX1_feed 6 = .ok (.iadd, 1) := dk_96 (dk_at dksX1_feed_0 6 rfl rfl)
theorem dX1_feed_7 : decode cX1_feed 7 = .ok (.sipush 500, 3) := dk_17 1 244 (dk_at dksX1_feed_0 7 rfl rfl)
theorem dX1_feed_10 : decode cX1_feed 10 = .ok (.if_icmp .le 5, 3) := dk_164 0 5 (dk_at dksX1_feed_0 10 rfl rfl)
theorem dX1_feed_13 : decode cX1_feed 13 = .ok (.iconst (-1), 1) := dk_2 (dk_at dksX1_feed_0 13 rfl rfl)
theorem dX1_feed_14 : decode cX1_feed 14 = .ok (.ireturn, 1) := dk_172 (dk_at dksX1_feed_0 14 rfl rfl)
theorem dX1_feed_15 : decode cX1_feed 15 = .ok (.aload_n 0, 1) := dk_42 (dk_at dksX1_feed_0 15 rfl rfl)
theorem dX1_feed_16 : decode cX1_feed 16 = .ok (.iload_n 1, 1) := dk_27 (dk_at dksX1_feed_0 16 rfl rfl)
theorem dX1_feed_17 : decode cX1_feed 17 = .ok (.invokevirtual 160, 3) := dk_182 0 160 (dk_at dksX1_feed_0 17 rfl rfl)
theorem dX1_feed_20 : decode cX1_feed 20 = .ok (.aload_n 0, 1) := dk_42 (dk_at dksX1_feed_0 20 rfl rfl)
theorem dX1_feed_21 : decode cX1_feed 21 = .ok (.iload_n 2, 1) := dk_28 (dk_at dksX1_feed_0 21 rfl rfl)
theorem dX1_feed_22 : decode cX1_feed 22 = .ok (.invokevirtual 160, 3) := dk_182 0 160 (dk_at dksX1_feed_1 0 rfl rfl)
theorem dX1_feed_25 : decode cX1_feed 25 = .ok (.aload_n 0, 1) := dk_42 (dk_at dksX1_feed_1 3 rfl rfl)
theorem dX1_feed_26 : decode cX1_feed 26 = .ok (.iload_n 3, 1) := dk_29 (dk_at dksX1_feed_1 4 rfl rfl)
theorem dX1_feed_27 : decode cX1_feed 27 = .ok (.invokevirtual 160, 3) := dk_182 0 160 (dk_at dksX1_feed_1 5 rfl rfl)
theorem dX1_feed_30 : decode cX1_feed 30 = .ok (.aload_n 0, 1) := dk_42 (dk_at dksX1_feed_1 8 rfl rfl)
theorem dX1_feed_31 : decode cX1_feed 31 = .ok (.iload 4, 2) := dk_21 4 (dk_at dksX1_feed_1 9 rfl rfl)
theorem dX1_feed_33 : decode cX1_feed 33 = .ok (.invokevirtual 160, 3) := dk_182 0 160 (dk_at dksX1_feed_1 11 rfl rfl)
theorem dX1_feed_36 : decode cX1_feed 36 = .ok (.aload_n 0, 1) := dk_42 (dk_at dksX1_feed_1 14 rfl rfl)
theorem dX1_feed_37 : decode cX1_feed 37 = .ok (.iload 5, 2) := dk_21 5 (dk_at dksX1_feed_1 15 rfl rfl)
theorem dX1_feed_39 : decode cX1_feed 39 = .ok (.invokevirtual 160, 3) := dk_182 0 160 (dk_at dksX1_feed_1 17 rfl rfl)
theorem dX1_feed_42 : decode cX1_feed 42 = .ok (.aload_n 0, 1) := dk_42 (dk_at dksX1_feed_1 20 rfl rfl)
theorem dX1_feed_43 : decode cX1_feed 43 = .ok (.getfield 157, 3) := dk_180 0 157 (dk_at dksX1_feed_1 21 rfl rfl)
theorem dX1_feed_46 : decode cX1_feed 46 = .ok (.ireturn, 1) := dk_172 (dk_at dksX1_feed_2 0 rfl rfl)
abbrev cX1_put : ByteArray := prog_1_method_9_code
def yX1_put : MethodName := ⟨RX1, "put", "(I)V"⟩
def dkwX1_put_1 : List UInt8 := [180, 0, 157, 4, 96, 181, 0, 157, 132, 2, 248, 167, 255, 226, 177]
abbrev dktX1_put_1 : List UInt8 := dkwX1_put_1 ++ []
def dkwX1_put_0 : List UInt8 := [16, 24, 61, 28, 155, 0, 32, 42, 180, 0, 27, 42, 180, 0, 157, 27, 28, 122, 145, 84, 42, 89]
abbrev dktX1_put_0 : List UInt8 := dkwX1_put_0 ++ dktX1_put_1
theorem dksX1_put_0 : cX1_put.data.toList.drop 0 = dktX1_put_0 := by decide +kernel
theorem dksX1_put_1 : cX1_put.data.toList.drop 22 = dktX1_put_1 := dk_seg dksX1_put_0 22 rfl rfl
theorem dX1_put_0 : decode cX1_put 0 = .ok (.bipush 24, 2) := dk_16 24 (dk_at dksX1_put_0 0 rfl rfl)
theorem dX1_put_2 : decode cX1_put 2 = .ok (.istore_n 2, 1) := dk_61 (dk_at dksX1_put_0 2 rfl rfl)
theorem dX1_put_3 : decode cX1_put 3 = .ok (.iload_n 2, 1) := dk_28 (dk_at dksX1_put_0 3 rfl rfl)
theorem dX1_put_4 : decode cX1_put 4 = .ok (.ifCond .lt 32, 3) := dk_155 0 32 (dk_at dksX1_put_0 4 rfl rfl)
theorem dX1_put_7 : decode cX1_put 7 = .ok (.aload_n 0, 1) := dk_42 (dk_at dksX1_put_0 7 rfl rfl)
theorem dX1_put_8 : decode cX1_put 8 = .ok (.getfield 27, 3) := dk_180 0 27 (dk_at dksX1_put_0 8 rfl rfl)
theorem dX1_put_11 : decode cX1_put 11 = .ok (.aload_n 0, 1) := dk_42 (dk_at dksX1_put_0 11 rfl rfl)
theorem dX1_put_12 : decode cX1_put 12 = .ok (.getfield 157, 3) := dk_180 0 157 (dk_at dksX1_put_0 12 rfl rfl)
theorem dX1_put_15 : decode cX1_put 15 = .ok (.iload_n 1, 1) := dk_27 (dk_at dksX1_put_0 15 rfl rfl)
theorem dX1_put_16 : decode cX1_put 16 = .ok (.iload_n 2, 1) := dk_28 (dk_at dksX1_put_0 16 rfl rfl)
theorem dX1_put_17 : decode cX1_put 17 = .ok (.ishr, 1) := dk_122 (dk_at dksX1_put_0 17 rfl rfl)
theorem dX1_put_18 : decode cX1_put 18 = .ok (.i2b, 1) := dk_145 (dk_at dksX1_put_0 18 rfl rfl)
theorem dX1_put_19 : decode cX1_put 19 = .ok (.bastore, 1) := dk_84 (dk_at dksX1_put_0 19 rfl rfl)
theorem dX1_put_20 : decode cX1_put 20 = .ok (.aload_n 0, 1) := dk_42 (dk_at dksX1_put_0 20 rfl rfl)
theorem dX1_put_21 : decode cX1_put 21 = .ok (.dup, 1) := dk_89 (dk_at dksX1_put_0 21 rfl rfl)
theorem dX1_put_22 : decode cX1_put 22 = .ok (.getfield 157, 3) := dk_180 0 157 (dk_at dksX1_put_1 0 rfl rfl)
theorem dX1_put_25 : decode cX1_put 25 = .ok (.iconst 1, 1) := dk_4 (dk_at dksX1_put_1 3 rfl rfl)
theorem dX1_put_26 : decode cX1_put 26 = .ok (.iadd, 1) := dk_96 (dk_at dksX1_put_1 4 rfl rfl)
theorem dX1_put_27 : decode cX1_put 27 = .ok (.putfield 157, 3) := dk_181 0 157 (dk_at dksX1_put_1 5 rfl rfl)
theorem dX1_put_30 : decode cX1_put 30 = .ok (.iinc 2 (-8), 3) := dk_132 2 248 (dk_at dksX1_put_1 8 rfl rfl)
theorem dX1_put_33 : decode cX1_put 33 = .ok (.goto (-30), 3) := dk_167 255 226 (dk_at dksX1_put_1 11 rfl rfl)
theorem dX1_put_36 : decode cX1_put 36 = .ok (.return_, 1) := dk_177 (dk_at dksX1_put_1 14 rfl rfl)
abbrev cX1_fault : ByteArray := prog_1_method_11_code
def yX1_fault : MethodName := ⟨RX1, "fault", "()I"⟩
theorem dX1_fault_0 : decode cX1_fault 0 = .ok (.aload_n 0, 1) := by decide +kernel
theorem dX1_fault_1 : decode cX1_fault 1 = .ok (.getfield 23, 3) := by decide +kernel
theorem dX1_fault_4 : decode cX1_fault 4 = .ok (.ireturn, 1) := by decide +kernel
abbrev cX1_left : ByteArray := prog_1_method_41_code
def yX1_left : MethodName := ⟨RX1, "left", "(I)I"⟩
def dkwX1_left_1 : List UInt8 := [180, 0, 12, 180, 1, 76, 27, 46, 104, 42, 180, 0, 12, 180, 1, 79, 27, 46, 96, 172]
abbrev dktX1_left_1 : List UInt8 := dkwX1_left_1 ++ []
def dkwX1_left_0 : List UInt8 := [27, 155, 0, 14, 27, 42, 180, 0, 12, 180, 0, 217, 161, 0, 7, 2, 167, 0, 25, 16, 100, 42]
abbrev dktX1_left_0 : List UInt8 := dkwX1_left_0 ++ dktX1_left_1
theorem dksX1_left_0 : cX1_left.data.toList.drop 0 = dktX1_left_0 := by decide +kernel
theorem dksX1_left_1 : cX1_left.data.toList.drop 22 = dktX1_left_1 := dk_seg dksX1_left_0 22 rfl rfl
theorem dX1_left_0 : decode cX1_left 0 = .ok (.iload_n 1, 1) := dk_27 (dk_at dksX1_left_0 0 rfl rfl)
theorem dX1_left_1 : decode cX1_left 1 = .ok (.ifCond .lt 14, 3) := dk_155 0 14 (dk_at dksX1_left_0 1 rfl rfl)
theorem dX1_left_4 : decode cX1_left 4 = .ok (.iload_n 1, 1) := dk_27 (dk_at dksX1_left_0 4 rfl rfl)
theorem dX1_left_5 : decode cX1_left 5 = .ok (.aload_n 0, 1) := dk_42 (dk_at dksX1_left_0 5 rfl rfl)
theorem dX1_left_6 : decode cX1_left 6 = .ok (.getfield 12, 3) := dk_180 0 12 (dk_at dksX1_left_0 6 rfl rfl)
theorem dX1_left_9 : decode cX1_left 9 = .ok (.getfield 217, 3) := dk_180 0 217 (dk_at dksX1_left_0 9 rfl rfl)
theorem dX1_left_12 : decode cX1_left 12 = .ok (.if_icmp .lt 7, 3) := dk_161 0 7 (dk_at dksX1_left_0 12 rfl rfl)
theorem dX1_left_15 : decode cX1_left 15 = .ok (.iconst (-1), 1) := dk_2 (dk_at dksX1_left_0 15 rfl rfl)
theorem dX1_left_16 : decode cX1_left 16 = .ok (.goto 25, 3) := dk_167 0 25 (dk_at dksX1_left_0 16 rfl rfl)
theorem dX1_left_19 : decode cX1_left 19 = .ok (.bipush 100, 2) := dk_16 100 (dk_at dksX1_left_0 19 rfl rfl)
theorem dX1_left_21 : decode cX1_left 21 = .ok (.aload_n 0, 1) := dk_42 (dk_at dksX1_left_0 21 rfl rfl)
theorem dX1_left_22 : decode cX1_left 22 = .ok (.getfield 12, 3) := dk_180 0 12 (dk_at dksX1_left_1 0 rfl rfl)
theorem dX1_left_25 : decode cX1_left 25 = .ok (.getfield 332, 3) := dk_180 1 76 (dk_at dksX1_left_1 3 rfl rfl)
theorem dX1_left_28 : decode cX1_left 28 = .ok (.iload_n 1, 1) := dk_27 (dk_at dksX1_left_1 6 rfl rfl)
theorem dX1_left_29 : decode cX1_left 29 = .ok (.iaload, 1) := dk_46 (dk_at dksX1_left_1 7 rfl rfl)
theorem dX1_left_30 : decode cX1_left 30 = .ok (.imul, 1) := dk_104 (dk_at dksX1_left_1 8 rfl rfl)
theorem dX1_left_31 : decode cX1_left 31 = .ok (.aload_n 0, 1) := dk_42 (dk_at dksX1_left_1 9 rfl rfl)
theorem dX1_left_32 : decode cX1_left 32 = .ok (.getfield 12, 3) := dk_180 0 12 (dk_at dksX1_left_1 10 rfl rfl)
theorem dX1_left_35 : decode cX1_left 35 = .ok (.getfield 335, 3) := dk_180 1 79 (dk_at dksX1_left_1 13 rfl rfl)
theorem dX1_left_38 : decode cX1_left 38 = .ok (.iload_n 1, 1) := dk_27 (dk_at dksX1_left_1 16 rfl rfl)
theorem dX1_left_39 : decode cX1_left 39 = .ok (.iaload, 1) := dk_46 (dk_at dksX1_left_1 17 rfl rfl)
theorem dX1_left_40 : decode cX1_left 40 = .ok (.iadd, 1) := dk_96 (dk_at dksX1_left_1 18 rfl rfl)
theorem dX1_left_41 : decode cX1_left 41 = .ok (.ireturn, 1) := dk_172 (dk_at dksX1_left_1 19 rfl rfl)
abbrev cX1_forget : ByteArray := prog_1_method_65_code
def yX1_forget : MethodName := ⟨RX1, "forget", "()I"⟩
def dkwX1_forget_0 : List UInt8 := [42, 180, 0, 19, 180, 0, 177, 60, 42, 180, 0, 19, 3, 181, 0, 177, 27, 172]
abbrev dktX1_forget_0 : List UInt8 := dkwX1_forget_0 ++ []
theorem dksX1_forget_0 : cX1_forget.data.toList.drop 0 = dktX1_forget_0 := by decide +kernel
theorem dX1_forget_0 : decode cX1_forget 0 = .ok (.aload_n 0, 1) := dk_42 (dk_at dksX1_forget_0 0 rfl rfl)
theorem dX1_forget_1 : decode cX1_forget 1 = .ok (.getfield 19, 3) := dk_180 0 19 (dk_at dksX1_forget_0 1 rfl rfl)
theorem dX1_forget_4 : decode cX1_forget 4 = .ok (.getfield 177, 3) := dk_180 0 177 (dk_at dksX1_forget_0 4 rfl rfl)
theorem dX1_forget_7 : decode cX1_forget 7 = .ok (.istore_n 1, 1) := dk_60 (dk_at dksX1_forget_0 7 rfl rfl)
theorem dX1_forget_8 : decode cX1_forget 8 = .ok (.aload_n 0, 1) := dk_42 (dk_at dksX1_forget_0 8 rfl rfl)
theorem dX1_forget_9 : decode cX1_forget 9 = .ok (.getfield 19, 3) := dk_180 0 19 (dk_at dksX1_forget_0 9 rfl rfl)
theorem dX1_forget_12 : decode cX1_forget 12 = .ok (.iconst 0, 1) := dk_3 (dk_at dksX1_forget_0 12 rfl rfl)
theorem dX1_forget_13 : decode cX1_forget 13 = .ok (.putfield 177, 3) := dk_181 0 177 (dk_at dksX1_forget_0 13 rfl rfl)
theorem dX1_forget_16 : decode cX1_forget 16 = .ok (.iload_n 1, 1) := dk_27 (dk_at dksX1_forget_0 16 rfl rfl)
theorem dX1_forget_17 : decode cX1_forget 17 = .ok (.ireturn, 1) := dk_172 (dk_at dksX1_forget_0 17 rfl rfl)
abbrev cX1_image : ByteArray := prog_1_method_77_code
def yX1_image : MethodName := ⟨RX1, "image", "()I"⟩
def dkwX1_image_2 : List UInt8 := [42, 180, 0, 19, 182, 1, 165, 42, 89, 180, 0, 194, 4, 96, 181, 0, 194, 42, 180, 0, 194, 172]
abbrev dktX1_image_2 : List UInt8 := dkwX1_image_2 ++ []
def dkwX1_image_1 : List UInt8 := [180, 0, 31, 42, 180, 0, 194, 187, 0, 16, 89, 183, 0, 18, 83, 42, 180, 0, 31, 42, 180, 0, 194, 50]
abbrev dktX1_image_1 : List UInt8 := dkwX1_image_1 ++ dktX1_image_2
def dkwX1_image_0 : List UInt8 := [42, 180, 0, 194, 6, 160, 0, 5, 2, 172, 42, 180, 0, 31, 42, 180, 0, 194, 50, 199, 0, 19, 42]
abbrev dktX1_image_0 : List UInt8 := dkwX1_image_0 ++ dktX1_image_1
theorem dksX1_image_0 : cX1_image.data.toList.drop 0 = dktX1_image_0 := by decide +kernel
theorem dksX1_image_1 : cX1_image.data.toList.drop 23 = dktX1_image_1 := dk_seg dksX1_image_0 23 rfl rfl
theorem dksX1_image_2 : cX1_image.data.toList.drop 47 = dktX1_image_2 := dk_seg dksX1_image_1 24 rfl rfl
theorem dX1_image_0 : decode cX1_image 0 = .ok (.aload_n 0, 1) := dk_42 (dk_at dksX1_image_0 0 rfl rfl)
theorem dX1_image_1 : decode cX1_image 1 = .ok (.getfield 194, 3) := dk_180 0 194 (dk_at dksX1_image_0 1 rfl rfl)
theorem dX1_image_4 : decode cX1_image 4 = .ok (.iconst 3, 1) := dk_6 (dk_at dksX1_image_0 4 rfl rfl)
theorem dX1_image_5 : decode cX1_image 5 = .ok (.if_icmp .ne 5, 3) := dk_160 0 5 (dk_at dksX1_image_0 5 rfl rfl)
theorem dX1_image_8 : decode cX1_image 8 = .ok (.iconst (-1), 1) := dk_2 (dk_at dksX1_image_0 8 rfl rfl)
theorem dX1_image_9 : decode cX1_image 9 = .ok (.ireturn, 1) := dk_172 (dk_at dksX1_image_0 9 rfl rfl)
theorem dX1_image_10 : decode cX1_image 10 = .ok (.aload_n 0, 1) := dk_42 (dk_at dksX1_image_0 10 rfl rfl)
theorem dX1_image_11 : decode cX1_image 11 = .ok (.getfield 31, 3) := dk_180 0 31 (dk_at dksX1_image_0 11 rfl rfl)
theorem dX1_image_14 : decode cX1_image 14 = .ok (.aload_n 0, 1) := dk_42 (dk_at dksX1_image_0 14 rfl rfl)
theorem dX1_image_15 : decode cX1_image 15 = .ok (.getfield 194, 3) := dk_180 0 194 (dk_at dksX1_image_0 15 rfl rfl)
theorem dX1_image_18 : decode cX1_image 18 = .ok (.aaload, 1) := dk_50 (dk_at dksX1_image_0 18 rfl rfl)
theorem dX1_image_19 : decode cX1_image 19 = .ok (.ifnonnull 19, 3) := dk_199 0 19 (dk_at dksX1_image_0 19 rfl rfl)
theorem dX1_image_22 : decode cX1_image 22 = .ok (.aload_n 0, 1) := dk_42 (dk_at dksX1_image_0 22 rfl rfl)
theorem dX1_image_23 : decode cX1_image 23 = .ok (.getfield 31, 3) := dk_180 0 31 (dk_at dksX1_image_1 0 rfl rfl)
theorem dX1_image_26 : decode cX1_image 26 = .ok (.aload_n 0, 1) := dk_42 (dk_at dksX1_image_1 3 rfl rfl)
theorem dX1_image_27 : decode cX1_image 27 = .ok (.getfield 194, 3) := dk_180 0 194 (dk_at dksX1_image_1 4 rfl rfl)
theorem dX1_image_30 : decode cX1_image 30 = .ok (.new 16, 3) := dk_187 0 16 (dk_at dksX1_image_1 7 rfl rfl)
theorem dX1_image_33 : decode cX1_image 33 = .ok (.dup, 1) := dk_89 (dk_at dksX1_image_1 10 rfl rfl)
theorem dX1_image_34 : decode cX1_image 34 = .ok (.invokespecial 18, 3) := dk_183 0 18 (dk_at dksX1_image_1 11 rfl rfl)
theorem dX1_image_37 : decode cX1_image 37 = .ok (.aastore, 1) := dk_83 (dk_at dksX1_image_1 14 rfl rfl)
theorem dX1_image_38 : decode cX1_image 38 = .ok (.aload_n 0, 1) := dk_42 (dk_at dksX1_image_1 15 rfl rfl)
theorem dX1_image_39 : decode cX1_image 39 = .ok (.getfield 31, 3) := dk_180 0 31 (dk_at dksX1_image_1 16 rfl rfl)
theorem dX1_image_42 : decode cX1_image 42 = .ok (.aload_n 0, 1) := dk_42 (dk_at dksX1_image_1 19 rfl rfl)
theorem dX1_image_43 : decode cX1_image 43 = .ok (.getfield 194, 3) := dk_180 0 194 (dk_at dksX1_image_1 20 rfl rfl)
theorem dX1_image_46 : decode cX1_image 46 = .ok (.aaload, 1) := dk_50 (dk_at dksX1_image_1 23 rfl rfl)
theorem dX1_image_47 : decode cX1_image 47 = .ok (.aload_n 0, 1) := dk_42 (dk_at dksX1_image_2 0 rfl rfl)
theorem dX1_image_48 : decode cX1_image 48 = .ok (.getfield 19, 3) := dk_180 0 19 (dk_at dksX1_image_2 1 rfl rfl)
theorem dX1_image_51 : decode cX1_image 51 = .ok (.invokevirtual 421, 3) := dk_182 1 165 (dk_at dksX1_image_2 4 rfl rfl)
theorem dX1_image_54 : decode cX1_image 54 = .ok (.aload_n 0, 1) := dk_42 (dk_at dksX1_image_2 7 rfl rfl)
theorem dX1_image_55 : decode cX1_image 55 = .ok (.dup, 1) := dk_89 (dk_at dksX1_image_2 8 rfl rfl)
theorem dX1_image_56 : decode cX1_image 56 = .ok (.getfield 194, 3) := dk_180 0 194 (dk_at dksX1_image_2 9 rfl rfl)
theorem dX1_image_59 : decode cX1_image 59 = .ok (.iconst 1, 1) := dk_4 (dk_at dksX1_image_2 12 rfl rfl)
theorem dX1_image_60 : decode cX1_image 60 = .ok (.iadd, 1) := dk_96 (dk_at dksX1_image_2 13 rfl rfl)
theorem dX1_image_61 : decode cX1_image 61 = .ok (.putfield 194, 3) := dk_181 0 194 (dk_at dksX1_image_2 14 rfl rfl)
theorem dX1_image_64 : decode cX1_image 64 = .ok (.aload_n 0, 1) := dk_42 (dk_at dksX1_image_2 17 rfl rfl)
theorem dX1_image_65 : decode cX1_image 65 = .ok (.getfield 194, 3) := dk_180 0 194 (dk_at dksX1_image_2 18 rfl rfl)
theorem dX1_image_68 : decode cX1_image 68 = .ok (.ireturn, 1) := dk_172 (dk_at dksX1_image_2 21 rfl rfl)
abbrev cX1_restore : ByteArray := prog_1_method_78_code
def yX1_restore : MethodName := ⟨RX1, "restore", "()I"⟩
def dkwX1_restore_1 : List UInt8 := [180, 0, 31, 42, 180, 0, 194, 50, 182, 1, 165, 42, 180, 0, 194, 172]
abbrev dktX1_restore_1 : List UInt8 := dkwX1_restore_1 ++ []
def dkwX1_restore_0 : List UInt8 := [42, 180, 0, 194, 154, 0, 5, 2, 172, 42, 89, 180, 0, 194, 4, 100, 181, 0, 194, 42, 180, 0, 19, 42]
abbrev dktX1_restore_0 : List UInt8 := dkwX1_restore_0 ++ dktX1_restore_1
theorem dksX1_restore_0 : cX1_restore.data.toList.drop 0 = dktX1_restore_0 := by decide +kernel
theorem dksX1_restore_1 : cX1_restore.data.toList.drop 24 = dktX1_restore_1 := dk_seg dksX1_restore_0 24 rfl rfl
theorem dX1_restore_0 : decode cX1_restore 0 = .ok (.aload_n 0, 1) := dk_42 (dk_at dksX1_restore_0 0 rfl rfl)
theorem dX1_restore_1 : decode cX1_restore 1 = .ok (.getfield 194, 3) := dk_180 0 194 (dk_at dksX1_restore_0 1 rfl rfl)
theorem dX1_restore_4 : decode cX1_restore 4 = .ok (.ifCond .ne 5, 3) := dk_154 0 5 (dk_at dksX1_restore_0 4 rfl rfl)
theorem dX1_restore_7 : decode cX1_restore 7 = .ok (.iconst (-1), 1) := dk_2 (dk_at dksX1_restore_0 7 rfl rfl)
theorem dX1_restore_8 : decode cX1_restore 8 = .ok (.ireturn, 1) := dk_172 (dk_at dksX1_restore_0 8 rfl rfl)
theorem dX1_restore_9 : decode cX1_restore 9 = .ok (.aload_n 0, 1) := dk_42 (dk_at dksX1_restore_0 9 rfl rfl)
theorem dX1_restore_10 : decode cX1_restore 10 = .ok (.dup, 1) := dk_89 (dk_at dksX1_restore_0 10 rfl rfl)
theorem dX1_restore_11 : decode cX1_restore 11 = .ok (.getfield 194, 3) := dk_180 0 194 (dk_at dksX1_restore_0 11 rfl rfl)
theorem dX1_restore_14 : decode cX1_restore 14 = .ok (.iconst 1, 1) := dk_4 (dk_at dksX1_restore_0 14 rfl rfl)
theorem dX1_restore_15 : decode cX1_restore 15 = .ok (.isub, 1) := dk_100 (dk_at dksX1_restore_0 15 rfl rfl)
theorem dX1_restore_16 : decode cX1_restore 16 = .ok (.putfield 194, 3) := dk_181 0 194 (dk_at dksX1_restore_0 16 rfl rfl)
theorem dX1_restore_19 : decode cX1_restore 19 = .ok (.aload_n 0, 1) := dk_42 (dk_at dksX1_restore_0 19 rfl rfl)
theorem dX1_restore_20 : decode cX1_restore 20 = .ok (.getfield 19, 3) := dk_180 0 19 (dk_at dksX1_restore_0 20 rfl rfl)
theorem dX1_restore_23 : decode cX1_restore 23 = .ok (.aload_n 0, 1) := dk_42 (dk_at dksX1_restore_0 23 rfl rfl)
theorem dX1_restore_24 : decode cX1_restore 24 = .ok (.getfield 31, 3) := dk_180 0 31 (dk_at dksX1_restore_1 0 rfl rfl)
theorem dX1_restore_27 : decode cX1_restore 27 = .ok (.aload_n 0, 1) := dk_42 (dk_at dksX1_restore_1 3 rfl rfl)
theorem dX1_restore_28 : decode cX1_restore 28 = .ok (.getfield 194, 3) := dk_180 0 194 (dk_at dksX1_restore_1 4 rfl rfl)
theorem dX1_restore_31 : decode cX1_restore 31 = .ok (.aaload, 1) := dk_50 (dk_at dksX1_restore_1 7 rfl rfl)
theorem dX1_restore_32 : decode cX1_restore 32 = .ok (.invokevirtual 421, 3) := dk_182 1 165 (dk_at dksX1_restore_1 8 rfl rfl)
theorem dX1_restore_35 : decode cX1_restore 35 = .ok (.aload_n 0, 1) := dk_42 (dk_at dksX1_restore_1 11 rfl rfl)
theorem dX1_restore_36 : decode cX1_restore 36 = .ok (.getfield 194, 3) := dk_180 0 194 (dk_at dksX1_restore_1 12 rfl rfl)
theorem dX1_restore_39 : decode cX1_restore 39 = .ok (.ireturn, 1) := dk_172 (dk_at dksX1_restore_1 15 rfl rfl)
abbrev cX1_count : ByteArray := prog_1_method_79_code
def yX1_count : MethodName := ⟨RX1, "count", "(I)I"⟩
def dkwX1_count_2 : List UInt8 := [42, 180, 0, 19, 180, 0, 177, 172, 42, 180, 0, 194, 172, 42, 180, 0, 157, 172, 2, 172]
abbrev dktX1_count_2 : List UInt8 := dkwX1_count_2 ++ []
def dkwX1_count_1 : List UInt8 := [170, 0, 0, 0, 0, 0, 45, 0, 0, 0, 0, 0, 0, 0, 2, 0, 0, 0, 27, 0, 0, 0, 35, 0, 0, 0, 40]
abbrev dktX1_count_1 : List UInt8 := dkwX1_count_1 ++ dktX1_count_2
def dkwX1_count_0 : List UInt8 := [27]
abbrev dktX1_count_0 : List UInt8 := dkwX1_count_0 ++ dktX1_count_1
theorem dksX1_count_0 : cX1_count.data.toList.drop 0 = dktX1_count_0 := by decide +kernel
theorem dksX1_count_1 : cX1_count.data.toList.drop 1 = dktX1_count_1 := dk_seg dksX1_count_0 1 rfl rfl
theorem dksX1_count_2 : cX1_count.data.toList.drop 28 = dktX1_count_2 := dk_seg dksX1_count_1 27 rfl rfl
theorem dX1_count_0 : decode cX1_count 0 = .ok (.iload_n 1, 1) := dk_27 (dk_at dksX1_count_0 0 rfl rfl)
theorem dX1_count_1 : decode cX1_count 1 = .ok (.tableswitch 45 0 2 #[27, 35, 40], 27) := by decide +kernel
theorem dX1_count_28 : decode cX1_count 28 = .ok (.aload_n 0, 1) := dk_42 (dk_at dksX1_count_2 0 rfl rfl)
theorem dX1_count_29 : decode cX1_count 29 = .ok (.getfield 19, 3) := dk_180 0 19 (dk_at dksX1_count_2 1 rfl rfl)
theorem dX1_count_32 : decode cX1_count 32 = .ok (.getfield 177, 3) := dk_180 0 177 (dk_at dksX1_count_2 4 rfl rfl)
theorem dX1_count_35 : decode cX1_count 35 = .ok (.ireturn, 1) := dk_172 (dk_at dksX1_count_2 7 rfl rfl)
theorem dX1_count_36 : decode cX1_count 36 = .ok (.aload_n 0, 1) := dk_42 (dk_at dksX1_count_2 8 rfl rfl)
theorem dX1_count_37 : decode cX1_count 37 = .ok (.getfield 194, 3) := dk_180 0 194 (dk_at dksX1_count_2 9 rfl rfl)
theorem dX1_count_40 : decode cX1_count 40 = .ok (.ireturn, 1) := dk_172 (dk_at dksX1_count_2 12 rfl rfl)
theorem dX1_count_41 : decode cX1_count 41 = .ok (.aload_n 0, 1) := dk_42 (dk_at dksX1_count_2 13 rfl rfl)
theorem dX1_count_42 : decode cX1_count 42 = .ok (.getfield 157, 3) := dk_180 0 157 (dk_at dksX1_count_2 14 rfl rfl)
theorem dX1_count_45 : decode cX1_count 45 = .ok (.ireturn, 1) := dk_172 (dk_at dksX1_count_2 17 rfl rfl)
theorem dX1_count_46 : decode cX1_count 46 = .ok (.iconst (-1), 1) := dk_2 (dk_at dksX1_count_2 18 rfl rfl)
theorem dX1_count_47 : decode cX1_count 47 = .ok (.ireturn, 1) := dk_172 (dk_at dksX1_count_2 19 rfl rfl)
abbrev cX1_town : ByteArray := prog_1_method_10_code
def yX1_town : MethodName := ⟨RX1, "town", "(I)I"⟩
def dkwX1_town_6 : List UInt8 := [58, 4, 42, 3, 181, 0, 157, 25, 4, 191]
abbrev dktX1_town_6 : List UInt8 := dkwX1_town_6 ++ []
def dkwX1_town_5 : List UInt8 := [42, 44, 180, 0, 199, 181, 0, 23, 44, 180, 0, 202, 16, 10, 100, 62, 42, 3, 181, 0, 157, 29, 172]
abbrev dktX1_town_5 : List UInt8 := dkwX1_town_5 ++ dktX1_town_6
def dkwX1_town_4 : List UInt8 := [3, 16, 24, 184, 0, 184, 42, 3, 181, 0, 194, 42, 182, 0, 133, 62, 42, 3, 181, 0, 157, 29, 172, 77]
abbrev dktX1_town_4 : List UInt8 := dkwX1_town_4 ++ dktX1_town_5
def dkwX1_town_3 : List UInt8 := [180, 0, 19, 180, 0, 183, 3, 16, 24, 184, 0, 184, 44, 180, 0, 190, 3, 42, 180, 0, 19, 180, 0, 193]
abbrev dktX1_town_3 : List UInt8 := dkwX1_town_3 ++ dktX1_town_4
def dkwX1_town_2 : List UInt8 := [42, 180, 0, 19, 3, 181, 0, 154, 42, 180, 0, 19, 3, 181, 0, 177, 44, 180, 0, 180, 3, 42]
abbrev dktX1_town_2 : List UInt8 := dkwX1_town_2 ++ dktX1_town_3
def dkwX1_town_1 : List UInt8 := [181, 0, 23, 187, 0, 168, 89, 42, 180, 0, 27, 27, 183, 0, 170, 182, 0, 173, 77, 42, 44, 181, 0, 12]
abbrev dktX1_town_1 : List UInt8 := dkwX1_town_1 ++ dktX1_town_2
def dkwX1_town_0 : List UInt8 := [27, 155, 0, 15, 27, 42, 180, 0, 157, 163, 0, 7, 4, 167, 0, 4, 3, 184, 0, 164, 42, 2]
abbrev dktX1_town_0 : List UInt8 := dkwX1_town_0 ++ dktX1_town_1
theorem dksX1_town_0 : cX1_town.data.toList.drop 0 = dktX1_town_0 := by decide +kernel
theorem dksX1_town_1 : cX1_town.data.toList.drop 22 = dktX1_town_1 := dk_seg dksX1_town_0 22 rfl rfl
theorem dksX1_town_2 : cX1_town.data.toList.drop 46 = dktX1_town_2 := dk_seg dksX1_town_1 24 rfl rfl
theorem dksX1_town_3 : cX1_town.data.toList.drop 68 = dktX1_town_3 := dk_seg dksX1_town_2 22 rfl rfl
theorem dksX1_town_4 : cX1_town.data.toList.drop 92 = dktX1_town_4 := dk_seg dksX1_town_3 24 rfl rfl
theorem dksX1_town_5 : cX1_town.data.toList.drop 116 = dktX1_town_5 := dk_seg dksX1_town_4 24 rfl rfl
theorem dksX1_town_6 : cX1_town.data.toList.drop 139 = dktX1_town_6 := dk_seg dksX1_town_5 23 rfl rfl
theorem dX1_town_0 : decode cX1_town 0 = .ok (.iload_n 1, 1) := dk_27 (dk_at dksX1_town_0 0 rfl rfl)
theorem dX1_town_1 : decode cX1_town 1 = .ok (.ifCond .lt 15, 3) := dk_155 0 15 (dk_at dksX1_town_0 1 rfl rfl)
theorem dX1_town_4 : decode cX1_town 4 = .ok (.iload_n 1, 1) := dk_27 (dk_at dksX1_town_0 4 rfl rfl)
theorem dX1_town_5 : decode cX1_town 5 = .ok (.aload_n 0, 1) := dk_42 (dk_at dksX1_town_0 5 rfl rfl)
theorem dX1_town_6 : decode cX1_town 6 = .ok (.getfield 157, 3) := dk_180 0 157 (dk_at dksX1_town_0 6 rfl rfl)
theorem dX1_town_9 : decode cX1_town 9 = .ok (.if_icmp .gt 7, 3) := dk_163 0 7 (dk_at dksX1_town_0 9 rfl rfl)
theorem dX1_town_12 : decode cX1_town 12 = .ok (.iconst 1, 1) := dk_4 (dk_at dksX1_town_0 12 rfl rfl)
theorem dX1_town_13 : decode cX1_town 13 = .ok (.goto 4, 3) := dk_167 0 4 (dk_at dksX1_town_0 13 rfl rfl)
theorem dX1_town_16 : decode cX1_town 16 = .ok (.iconst 0, 1) := dk_3 (dk_at dksX1_town_0 16 rfl rfl)
theorem dX1_town_17 : decode cX1_town 17 = .ok (.invokestatic 164, 3) := dk_184 0 164 (dk_at dksX1_town_0 17 rfl rfl)
theorem dX1_town_20 : decode cX1_town 20 = .ok (.aload_n 0, 1) := dk_42 (dk_at dksX1_town_0 20 rfl rfl)
theorem dX1_town_21 : decode cX1_town 21 = .ok (.iconst (-1), 1) := dk_2 (dk_at dksX1_town_0 21 rfl rfl)
theorem dX1_town_22 : decode cX1_town 22 = .ok (.putfield 23, 3) := dk_181 0 23 (dk_at dksX1_town_1 0 rfl rfl)
theorem dX1_town_25 : decode cX1_town 25 = .ok (.new 168, 3) := dk_187 0 168 (dk_at dksX1_town_1 3 rfl rfl)
theorem dX1_town_28 : decode cX1_town 28 = .ok (.dup, 1) := dk_89 (dk_at dksX1_town_1 6 rfl rfl)
theorem dX1_town_29 : decode cX1_town 29 = .ok (.aload_n 0, 1) := dk_42 (dk_at dksX1_town_1 7 rfl rfl)
theorem dX1_town_30 : decode cX1_town 30 = .ok (.getfield 27, 3) := dk_180 0 27 (dk_at dksX1_town_1 8 rfl rfl)
theorem dX1_town_33 : decode cX1_town 33 = .ok (.iload_n 1, 1) := dk_27 (dk_at dksX1_town_1 11 rfl rfl)
theorem dX1_town_34 : decode cX1_town 34 = .ok (.invokespecial 170, 3) := dk_183 0 170 (dk_at dksX1_town_1 12 rfl rfl)
theorem dX1_town_37 : decode cX1_town 37 = .ok (.invokevirtual 173, 3) := dk_182 0 173 (dk_at dksX1_town_1 15 rfl rfl)
theorem dX1_town_40 : decode cX1_town 40 = .ok (.astore_n 2, 1) := dk_77 (dk_at dksX1_town_1 18 rfl rfl)
theorem dX1_town_41 : decode cX1_town 41 = .ok (.aload_n 0, 1) := dk_42 (dk_at dksX1_town_1 19 rfl rfl)
theorem dX1_town_42 : decode cX1_town 42 = .ok (.aload_n 2, 1) := dk_44 (dk_at dksX1_town_1 20 rfl rfl)
theorem dX1_town_43 : decode cX1_town 43 = .ok (.putfield 12, 3) := dk_181 0 12 (dk_at dksX1_town_1 21 rfl rfl)
theorem dX1_town_46 : decode cX1_town 46 = .ok (.aload_n 0, 1) := dk_42 (dk_at dksX1_town_2 0 rfl rfl)
theorem dX1_town_47 : decode cX1_town 47 = .ok (.getfield 19, 3) := dk_180 0 19 (dk_at dksX1_town_2 1 rfl rfl)
theorem dX1_town_50 : decode cX1_town 50 = .ok (.iconst 0, 1) := dk_3 (dk_at dksX1_town_2 4 rfl rfl)
theorem dX1_town_51 : decode cX1_town 51 = .ok (.putfield 154, 3) := dk_181 0 154 (dk_at dksX1_town_2 5 rfl rfl)
theorem dX1_town_54 : decode cX1_town 54 = .ok (.aload_n 0, 1) := dk_42 (dk_at dksX1_town_2 8 rfl rfl)
theorem dX1_town_55 : decode cX1_town 55 = .ok (.getfield 19, 3) := dk_180 0 19 (dk_at dksX1_town_2 9 rfl rfl)
theorem dX1_town_58 : decode cX1_town 58 = .ok (.iconst 0, 1) := dk_3 (dk_at dksX1_town_2 12 rfl rfl)
theorem dX1_town_59 : decode cX1_town 59 = .ok (.putfield 177, 3) := dk_181 0 177 (dk_at dksX1_town_2 13 rfl rfl)
theorem dX1_town_62 : decode cX1_town 62 = .ok (.aload_n 2, 1) := dk_44 (dk_at dksX1_town_2 16 rfl rfl)
theorem dX1_town_63 : decode cX1_town 63 = .ok (.getfield 180, 3) := dk_180 0 180 (dk_at dksX1_town_2 17 rfl rfl)
theorem dX1_town_66 : decode cX1_town 66 = .ok (.iconst 0, 1) := dk_3 (dk_at dksX1_town_2 20 rfl rfl)
theorem dX1_town_67 : decode cX1_town 67 = .ok (.aload_n 0, 1) := dk_42 (dk_at dksX1_town_2 21 rfl rfl)
theorem dX1_town_68 : decode cX1_town 68 = .ok (.getfield 19, 3) := dk_180 0 19 (dk_at dksX1_town_3 0 rfl rfl)
theorem dX1_town_71 : decode cX1_town 71 = .ok (.getfield 183, 3) := dk_180 0 183 (dk_at dksX1_town_3 3 rfl rfl)
theorem dX1_town_74 : decode cX1_town 74 = .ok (.iconst 0, 1) := dk_3 (dk_at dksX1_town_3 6 rfl rfl)
theorem dX1_town_75 : decode cX1_town 75 = .ok (.bipush 24, 2) := dk_16 24 (dk_at dksX1_town_3 7 rfl rfl)
theorem dX1_town_77 : decode cX1_town 77 = .ok (.invokestatic 184, 3) := dk_184 0 184 (dk_at dksX1_town_3 9 rfl rfl)
theorem dX1_town_80 : decode cX1_town 80 = .ok (.aload_n 2, 1) := dk_44 (dk_at dksX1_town_3 12 rfl rfl)
theorem dX1_town_81 : decode cX1_town 81 = .ok (.getfield 190, 3) := dk_180 0 190 (dk_at dksX1_town_3 13 rfl rfl)
theorem dX1_town_84 : decode cX1_town 84 = .ok (.iconst 0, 1) := dk_3 (dk_at dksX1_town_3 16 rfl rfl)
theorem dX1_town_85 : decode cX1_town 85 = .ok (.aload_n 0, 1) := dk_42 (dk_at dksX1_town_3 17 rfl rfl)
theorem dX1_town_86 : decode cX1_town 86 = .ok (.getfield 19, 3) := dk_180 0 19 (dk_at dksX1_town_3 18 rfl rfl)
theorem dX1_town_89 : decode cX1_town 89 = .ok (.getfield 193, 3) := dk_180 0 193 (dk_at dksX1_town_3 21 rfl rfl)
theorem dX1_town_92 : decode cX1_town 92 = .ok (.iconst 0, 1) := dk_3 (dk_at dksX1_town_4 0 rfl rfl)
theorem dX1_town_93 : decode cX1_town 93 = .ok (.bipush 24, 2) := dk_16 24 (dk_at dksX1_town_4 1 rfl rfl)
theorem dX1_town_95 : decode cX1_town 95 = .ok (.invokestatic 184, 3) := dk_184 0 184 (dk_at dksX1_town_4 3 rfl rfl)
theorem dX1_town_98 : decode cX1_town 98 = .ok (.aload_n 0, 1) := dk_42 (dk_at dksX1_town_4 6 rfl rfl)
theorem dX1_town_99 : decode cX1_town 99 = .ok (.iconst 0, 1) := dk_3 (dk_at dksX1_town_4 7 rfl rfl)
theorem dX1_town_100 : decode cX1_town 100 = .ok (.putfield 194, 3) := dk_181 0 194 (dk_at dksX1_town_4 8 rfl rfl)
theorem dX1_town_103 : decode cX1_town 103 = .ok (.aload_n 0, 1) := dk_42 (dk_at dksX1_town_4 11 rfl rfl)
theorem dX1_town_104 : decode cX1_town 104 = .ok (.invokevirtual 133, 3) := dk_182 0 133 (dk_at dksX1_town_4 12 rfl rfl)
theorem dX1_town_107 : decode cX1_town 107 = .ok (.istore_n 3, 1) := dk_62 (dk_at dksX1_town_4 15 rfl rfl)
theorem dX1_town_108 : decode cX1_town 108 = .ok (.aload_n 0, 1) := dk_42 (dk_at dksX1_town_4 16 rfl rfl)
theorem dX1_town_109 : decode cX1_town 109 = .ok (.iconst 0, 1) := dk_3 (dk_at dksX1_town_4 17 rfl rfl)
theorem dX1_town_110 : decode cX1_town 110 = .ok (.putfield 157, 3) := dk_181 0 157 (dk_at dksX1_town_4 18 rfl rfl)
theorem dX1_town_113 : decode cX1_town 113 = .ok (.iload_n 3, 1) := dk_29 (dk_at dksX1_town_4 21 rfl rfl)
theorem dX1_town_114 : decode cX1_town 114 = .ok (.ireturn, 1) := dk_172 (dk_at dksX1_town_4 22 rfl rfl)
theorem dX1_town_115 : decode cX1_town 115 = .ok (.astore_n 2, 1) := dk_77 (dk_at dksX1_town_4 23 rfl rfl)
theorem dX1_town_116 : decode cX1_town 116 = .ok (.aload_n 0, 1) := dk_42 (dk_at dksX1_town_5 0 rfl rfl)
theorem dX1_town_117 : decode cX1_town 117 = .ok (.aload_n 2, 1) := dk_44 (dk_at dksX1_town_5 1 rfl rfl)
theorem dX1_town_118 : decode cX1_town 118 = .ok (.getfield 199, 3) := dk_180 0 199 (dk_at dksX1_town_5 2 rfl rfl)
theorem dX1_town_121 : decode cX1_town 121 = .ok (.putfield 23, 3) := dk_181 0 23 (dk_at dksX1_town_5 5 rfl rfl)
theorem dX1_town_124 : decode cX1_town 124 = .ok (.aload_n 2, 1) := dk_44 (dk_at dksX1_town_5 8 rfl rfl)
theorem dX1_town_125 : decode cX1_town 125 = .ok (.getfield 202, 3) := dk_180 0 202 (dk_at dksX1_town_5 9 rfl rfl)
theorem dX1_town_128 : decode cX1_town 128 = .ok (.bipush 10, 2) := dk_16 10 (dk_at dksX1_town_5 12 rfl rfl)
theorem dX1_town_130 : decode cX1_town 130 = .ok (.isub, 1) := dk_100 (dk_at dksX1_town_5 14 rfl rfl)
theorem dX1_town_131 : decode cX1_town 131 = .ok (.istore_n 3, 1) := dk_62 (dk_at dksX1_town_5 15 rfl rfl)
theorem dX1_town_132 : decode cX1_town 132 = .ok (.aload_n 0, 1) := dk_42 (dk_at dksX1_town_5 16 rfl rfl)
theorem dX1_town_133 : decode cX1_town 133 = .ok (.iconst 0, 1) := dk_3 (dk_at dksX1_town_5 17 rfl rfl)
theorem dX1_town_134 : decode cX1_town 134 = .ok (.putfield 157, 3) := dk_181 0 157 (dk_at dksX1_town_5 18 rfl rfl)
theorem dX1_town_137 : decode cX1_town 137 = .ok (.iload_n 3, 1) := dk_29 (dk_at dksX1_town_5 21 rfl rfl)
theorem dX1_town_138 : decode cX1_town 138 = .ok (.ireturn, 1) := dk_172 (dk_at dksX1_town_5 22 rfl rfl)
theorem dX1_town_139 : decode cX1_town 139 = .ok (.astore 4, 2) := dk_58 4 (dk_at dksX1_town_6 0 rfl rfl)
theorem dX1_town_141 : decode cX1_town 141 = .ok (.aload_n 0, 1) := dk_42 (dk_at dksX1_town_6 2 rfl rfl)
theorem dX1_town_142 : decode cX1_town 142 = .ok (.iconst 0, 1) := dk_3 (dk_at dksX1_town_6 3 rfl rfl)
theorem dX1_town_143 : decode cX1_town 143 = .ok (.putfield 157, 3) := dk_181 0 157 (dk_at dksX1_town_6 4 rfl rfl)
theorem dX1_town_146 : decode cX1_town 146 = .ok (.aload 4, 2) := dk_25 4 (dk_at dksX1_town_6 7 rfl rfl)
theorem dX1_town_148 : decode cX1_town 148 = .ok (.athrow, 1) := dk_191 (dk_at dksX1_town_6 9 rfl rfl)
abbrev cX1_need : ByteArray := prog_1_method_2_code
def yX1_need : MethodName := ⟨RX1, "need", "(Z)V"⟩
def dkwX1_need_0 : List UInt8 := [26, 154, 0, 11, 187, 0, 120, 89, 183, 0, 122, 191, 177]
abbrev dktX1_need_0 : List UInt8 := dkwX1_need_0 ++ []
theorem dksX1_need_0 : cX1_need.data.toList.drop 0 = dktX1_need_0 := by decide +kernel
theorem dX1_need_0 : decode cX1_need 0 = .ok (.iload_n 0, 1) := dk_26 (dk_at dksX1_need_0 0 rfl rfl)
theorem dX1_need_1 : decode cX1_need 1 = .ok (.ifCond .ne 11, 3) := dk_154 0 11 (dk_at dksX1_need_0 1 rfl rfl)
theorem dX1_need_4 : decode cX1_need 4 = .ok (.new 120, 3) := dk_187 0 120 (dk_at dksX1_need_0 4 rfl rfl)
theorem dX1_need_7 : decode cX1_need 7 = .ok (.dup, 1) := dk_89 (dk_at dksX1_need_0 7 rfl rfl)
theorem dX1_need_8 : decode cX1_need 8 = .ok (.invokespecial 122, 3) := dk_183 0 122 (dk_at dksX1_need_0 8 rfl rfl)
theorem dX1_need_11 : decode cX1_need 11 = .ok (.athrow, 1) := dk_191 (dk_at dksX1_need_0 11 rfl rfl)
theorem dX1_need_12 : decode cX1_need 12 = .ok (.return_, 1) := dk_177 (dk_at dksX1_need_0 12 rfl rfl)
abbrev cX1_corners : ByteArray := prog_1_method_3_code
def yX1_corners : MethodName := ⟨RX1, "corners", "()I"⟩
def dkwX1_corners_0 : List UInt8 := [42, 180, 0, 12, 180, 0, 123, 182, 0, 127, 172]
abbrev dktX1_corners_0 : List UInt8 := dkwX1_corners_0 ++ []
theorem dksX1_corners_0 : cX1_corners.data.toList.drop 0 = dktX1_corners_0 := by decide +kernel
theorem dX1_corners_0 : decode cX1_corners 0 = .ok (.aload_n 0, 1) := dk_42 (dk_at dksX1_corners_0 0 rfl rfl)
theorem dX1_corners_1 : decode cX1_corners 1 = .ok (.getfield 12, 3) := dk_180 0 12 (dk_at dksX1_corners_0 1 rfl rfl)
theorem dX1_corners_4 : decode cX1_corners 4 = .ok (.getfield 123, 3) := dk_180 0 123 (dk_at dksX1_corners_0 4 rfl rfl)
theorem dX1_corners_7 : decode cX1_corners 7 = .ok (.invokevirtual 127, 3) := dk_182 0 127 (dk_at dksX1_corners_0 7 rfl rfl)
theorem dX1_corners_10 : decode cX1_corners 10 = .ok (.ireturn, 1) := dk_172 (dk_at dksX1_corners_0 10 rfl rfl)
abbrev cX1_told : ByteArray := prog_1_method_12_code
def yX1_told : MethodName := ⟨RX1, "told", "(I)I"⟩
def dkwX1_told_4 : List UInt8 := [180, 0, 19, 180, 0, 154, 172]
abbrev dktX1_told_4 : List UInt8 := dkwX1_told_4 ++ []
def dkwX1_told_3 : List UInt8 := [184, 0, 208, 172, 42, 180, 0, 12, 180, 0, 214, 182, 0, 127, 172, 42, 180, 0, 12, 180, 0, 217, 172, 42]
abbrev dktX1_told_3 : List UInt8 := dkwX1_told_3 ++ dktX1_told_4
def dkwX1_told_2 : List UInt8 := [42, 182, 0, 133, 172, 42, 180, 0, 12, 180, 0, 138, 182, 0, 127, 172, 42, 180, 0, 12, 180, 0, 205]
abbrev dktX1_told_2 : List UInt8 := dkwX1_told_2 ++ dktX1_told_3
def dkwX1_told_1 : List UInt8 := [170, 0, 0, 0, 0, 80, 0, 0, 0, 0, 0, 0, 0, 4, 0, 0, 0, 34, 0, 0, 0, 39, 0, 0, 0, 50, 0, 0, 0, 61, 0, 0, 0, 72]
abbrev dktX1_told_1 : List UInt8 := dkwX1_told_1 ++ dktX1_told_2
def dkwX1_told_0 : List UInt8 := [27, 155, 0, 12, 27, 8, 163, 0, 7, 4, 167, 0, 4, 3, 184, 0, 164, 27]
abbrev dktX1_told_0 : List UInt8 := dkwX1_told_0 ++ dktX1_told_1
theorem dksX1_told_0 : cX1_told.data.toList.drop 0 = dktX1_told_0 := by decide +kernel
theorem dksX1_told_1 : cX1_told.data.toList.drop 18 = dktX1_told_1 := dk_seg dksX1_told_0 18 rfl rfl
theorem dksX1_told_2 : cX1_told.data.toList.drop 52 = dktX1_told_2 := dk_seg dksX1_told_1 34 rfl rfl
theorem dksX1_told_3 : cX1_told.data.toList.drop 75 = dktX1_told_3 := dk_seg dksX1_told_2 23 rfl rfl
theorem dksX1_told_4 : cX1_told.data.toList.drop 99 = dktX1_told_4 := dk_seg dksX1_told_3 24 rfl rfl
theorem dX1_told_0 : decode cX1_told 0 = .ok (.iload_n 1, 1) := dk_27 (dk_at dksX1_told_0 0 rfl rfl)
theorem dX1_told_1 : decode cX1_told 1 = .ok (.ifCond .lt 12, 3) := dk_155 0 12 (dk_at dksX1_told_0 1 rfl rfl)
theorem dX1_told_4 : decode cX1_told 4 = .ok (.iload_n 1, 1) := dk_27 (dk_at dksX1_told_0 4 rfl rfl)
theorem dX1_told_5 : decode cX1_told 5 = .ok (.iconst 5, 1) := dk_8 (dk_at dksX1_told_0 5 rfl rfl)
theorem dX1_told_6 : decode cX1_told 6 = .ok (.if_icmp .gt 7, 3) := dk_163 0 7 (dk_at dksX1_told_0 6 rfl rfl)
theorem dX1_told_9 : decode cX1_told 9 = .ok (.iconst 1, 1) := dk_4 (dk_at dksX1_told_0 9 rfl rfl)
theorem dX1_told_10 : decode cX1_told 10 = .ok (.goto 4, 3) := dk_167 0 4 (dk_at dksX1_told_0 10 rfl rfl)
theorem dX1_told_13 : decode cX1_told 13 = .ok (.iconst 0, 1) := dk_3 (dk_at dksX1_told_0 13 rfl rfl)
theorem dX1_told_14 : decode cX1_told 14 = .ok (.invokestatic 164, 3) := dk_184 0 164 (dk_at dksX1_told_0 14 rfl rfl)
theorem dX1_told_17 : decode cX1_told 17 = .ok (.iload_n 1, 1) := dk_27 (dk_at dksX1_told_0 17 rfl rfl)
theorem dX1_told_18 : decode cX1_told 18 = .ok (.tableswitch 80 0 4 #[34, 39, 50, 61, 72], 34) := by decide +kernel
theorem dX1_told_52 : decode cX1_told 52 = .ok (.aload_n 0, 1) := dk_42 (dk_at dksX1_told_2 0 rfl rfl)
theorem dX1_told_53 : decode cX1_told 53 = .ok (.invokevirtual 133, 3) := dk_182 0 133 (dk_at dksX1_told_2 1 rfl rfl)
theorem dX1_told_56 : decode cX1_told 56 = .ok (.ireturn, 1) := dk_172 (dk_at dksX1_told_2 4 rfl rfl)
theorem dX1_told_57 : decode cX1_told 57 = .ok (.aload_n 0, 1) := dk_42 (dk_at dksX1_told_2 5 rfl rfl)
theorem dX1_told_58 : decode cX1_told 58 = .ok (.getfield 12, 3) := dk_180 0 12 (dk_at dksX1_told_2 6 rfl rfl)
theorem dX1_told_61 : decode cX1_told 61 = .ok (.getfield 138, 3) := dk_180 0 138 (dk_at dksX1_told_2 9 rfl rfl)
theorem dX1_told_64 : decode cX1_told 64 = .ok (.invokevirtual 127, 3) := dk_182 0 127 (dk_at dksX1_told_2 12 rfl rfl)
theorem dX1_told_67 : decode cX1_told 67 = .ok (.ireturn, 1) := dk_172 (dk_at dksX1_told_2 15 rfl rfl)
theorem dX1_told_68 : decode cX1_told 68 = .ok (.aload_n 0, 1) := dk_42 (dk_at dksX1_told_2 16 rfl rfl)
theorem dX1_told_69 : decode cX1_told 69 = .ok (.getfield 12, 3) := dk_180 0 12 (dk_at dksX1_told_2 17 rfl rfl)
theorem dX1_told_72 : decode cX1_told 72 = .ok (.getfield 205, 3) := dk_180 0 205 (dk_at dksX1_told_2 20 rfl rfl)
theorem dX1_told_75 : decode cX1_told 75 = .ok (.invokestatic 208, 3) := dk_184 0 208 (dk_at dksX1_told_3 0 rfl rfl)
theorem dX1_told_78 : decode cX1_told 78 = .ok (.ireturn, 1) := dk_172 (dk_at dksX1_told_3 3 rfl rfl)
theorem dX1_told_79 : decode cX1_told 79 = .ok (.aload_n 0, 1) := dk_42 (dk_at dksX1_told_3 4 rfl rfl)
theorem dX1_told_80 : decode cX1_told 80 = .ok (.getfield 12, 3) := dk_180 0 12 (dk_at dksX1_told_3 5 rfl rfl)
theorem dX1_told_83 : decode cX1_told 83 = .ok (.getfield 214, 3) := dk_180 0 214 (dk_at dksX1_told_3 8 rfl rfl)
theorem dX1_told_86 : decode cX1_told 86 = .ok (.invokevirtual 127, 3) := dk_182 0 127 (dk_at dksX1_told_3 11 rfl rfl)
theorem dX1_told_89 : decode cX1_told 89 = .ok (.ireturn, 1) := dk_172 (dk_at dksX1_told_3 14 rfl rfl)
theorem dX1_told_90 : decode cX1_told 90 = .ok (.aload_n 0, 1) := dk_42 (dk_at dksX1_told_3 15 rfl rfl)
theorem dX1_told_91 : decode cX1_told 91 = .ok (.getfield 12, 3) := dk_180 0 12 (dk_at dksX1_told_3 16 rfl rfl)
theorem dX1_told_94 : decode cX1_told 94 = .ok (.getfield 217, 3) := dk_180 0 217 (dk_at dksX1_told_3 19 rfl rfl)
theorem dX1_told_97 : decode cX1_told 97 = .ok (.ireturn, 1) := dk_172 (dk_at dksX1_told_3 22 rfl rfl)
theorem dX1_told_98 : decode cX1_told 98 = .ok (.aload_n 0, 1) := dk_42 (dk_at dksX1_told_3 23 rfl rfl)
theorem dX1_told_99 : decode cX1_told 99 = .ok (.getfield 19, 3) := dk_180 0 19 (dk_at dksX1_told_4 0 rfl rfl)
theorem dX1_told_102 : decode cX1_told 102 = .ok (.getfield 154, 3) := dk_180 0 154 (dk_at dksX1_told_4 3 rfl rfl)
theorem dX1_told_105 : decode cX1_told 105 = .ok (.ireturn, 1) := dk_172 (dk_at dksX1_told_4 6 rfl rfl)
abbrev cX1_street : ByteArray := prog_1_method_13_code
def yX1_street : MethodName := ⟨RX1, "street", "(II)I"⟩
def dkwX1_street_2 : List UInt8 := [160, 0, 10, 45, 180, 0, 230, 167, 0, 15, 45, 180, 0, 233, 153, 0, 7, 4, 167, 0, 4, 3, 172]
abbrev dktX1_street_2 : List UInt8 := dkwX1_street_2 ++ []
def dkwX1_street_1 : List UInt8 := [154, 0, 10, 45, 180, 0, 224, 167, 0, 39, 28, 4, 160, 0, 10, 45, 180, 0, 227, 167, 0, 27, 28, 5]
abbrev dktX1_street_1 : List UInt8 := dkwX1_street_1 ++ dktX1_street_2
def dkwX1_street_0 : List UInt8 := [42, 27, 182, 0, 220, 78, 28, 155, 0, 12, 28, 6, 163, 0, 7, 4, 167, 0, 4, 3, 184, 0, 164, 28]
abbrev dktX1_street_0 : List UInt8 := dkwX1_street_0 ++ dktX1_street_1
theorem dksX1_street_0 : cX1_street.data.toList.drop 0 = dktX1_street_0 := by decide +kernel
theorem dksX1_street_1 : cX1_street.data.toList.drop 24 = dktX1_street_1 := dk_seg dksX1_street_0 24 rfl rfl
theorem dksX1_street_2 : cX1_street.data.toList.drop 48 = dktX1_street_2 := dk_seg dksX1_street_1 24 rfl rfl
theorem dX1_street_0 : decode cX1_street 0 = .ok (.aload_n 0, 1) := dk_42 (dk_at dksX1_street_0 0 rfl rfl)
theorem dX1_street_1 : decode cX1_street 1 = .ok (.iload_n 1, 1) := dk_27 (dk_at dksX1_street_0 1 rfl rfl)
theorem dX1_street_2 : decode cX1_street 2 = .ok (.invokevirtual 220, 3) := dk_182 0 220 (dk_at dksX1_street_0 2 rfl rfl)
theorem dX1_street_5 : decode cX1_street 5 = .ok (.astore_n 3, 1) := dk_78 (dk_at dksX1_street_0 5 rfl rfl)
theorem dX1_street_6 : decode cX1_street 6 = .ok (.iload_n 2, 1) := dk_28 (dk_at dksX1_street_0 6 rfl rfl)
theorem dX1_street_7 : decode cX1_street 7 = .ok (.ifCond .lt 12, 3) := dk_155 0 12 (dk_at dksX1_street_0 7 rfl rfl)
theorem dX1_street_10 : decode cX1_street 10 = .ok (.iload_n 2, 1) := dk_28 (dk_at dksX1_street_0 10 rfl rfl)
theorem dX1_street_11 : decode cX1_street 11 = .ok (.iconst 3, 1) := dk_6 (dk_at dksX1_street_0 11 rfl rfl)
theorem dX1_street_12 : decode cX1_street 12 = .ok (.if_icmp .gt 7, 3) := dk_163 0 7 (dk_at dksX1_street_0 12 rfl rfl)
theorem dX1_street_15 : decode cX1_street 15 = .ok (.iconst 1, 1) := dk_4 (dk_at dksX1_street_0 15 rfl rfl)
theorem dX1_street_16 : decode cX1_street 16 = .ok (.goto 4, 3) := dk_167 0 4 (dk_at dksX1_street_0 16 rfl rfl)
theorem dX1_street_19 : decode cX1_street 19 = .ok (.iconst 0, 1) := dk_3 (dk_at dksX1_street_0 19 rfl rfl)
theorem dX1_street_20 : decode cX1_street 20 = .ok (.invokestatic 164, 3) := dk_184 0 164 (dk_at dksX1_street_0 20 rfl rfl)
theorem dX1_street_23 : decode cX1_street 23 = .ok (.iload_n 2, 1) := dk_28 (dk_at dksX1_street_0 23 rfl rfl)
theorem dX1_street_24 : decode cX1_street 24 = .ok (.ifCond .ne 10, 3) := dk_154 0 10 (dk_at dksX1_street_1 0 rfl rfl)
theorem dX1_street_27 : decode cX1_street 27 = .ok (.aload_n 3, 1) := dk_45 (dk_at dksX1_street_1 3 rfl rfl)
theorem dX1_street_28 : decode cX1_street 28 = .ok (.getfield 224, 3) := dk_180 0 224 (dk_at dksX1_street_1 4 rfl rfl)
theorem dX1_street_31 : decode cX1_street 31 = .ok (.goto 39, 3) := dk_167 0 39 (dk_at dksX1_street_1 7 rfl rfl)
theorem dX1_street_34 : decode cX1_street 34 = .ok (.iload_n 2, 1) := dk_28 (dk_at dksX1_street_1 10 rfl rfl)
theorem dX1_street_35 : decode cX1_street 35 = .ok (.iconst 1, 1) := dk_4 (dk_at dksX1_street_1 11 rfl rfl)
theorem dX1_street_36 : decode cX1_street 36 = .ok (.if_icmp .ne 10, 3) := dk_160 0 10 (dk_at dksX1_street_1 12 rfl rfl)
theorem dX1_street_39 : decode cX1_street 39 = .ok (.aload_n 3, 1) := dk_45 (dk_at dksX1_street_1 15 rfl rfl)
theorem dX1_street_40 : decode cX1_street 40 = .ok (.getfield 227, 3) := dk_180 0 227 (dk_at dksX1_street_1 16 rfl rfl)
theorem dX1_street_43 : decode cX1_street 43 = .ok (.goto 27, 3) := dk_167 0 27 (dk_at dksX1_street_1 19 rfl rfl)
theorem dX1_street_46 : decode cX1_street 46 = .ok (.iload_n 2, 1) := dk_28 (dk_at dksX1_street_1 22 rfl rfl)
theorem dX1_street_47 : decode cX1_street 47 = .ok (.iconst 2, 1) := dk_5 (dk_at dksX1_street_1 23 rfl rfl)
theorem dX1_street_48 : decode cX1_street 48 = .ok (.if_icmp .ne 10, 3) := dk_160 0 10 (dk_at dksX1_street_2 0 rfl rfl)
theorem dX1_street_51 : decode cX1_street 51 = .ok (.aload_n 3, 1) := dk_45 (dk_at dksX1_street_2 3 rfl rfl)
theorem dX1_street_52 : decode cX1_street 52 = .ok (.getfield 230, 3) := dk_180 0 230 (dk_at dksX1_street_2 4 rfl rfl)
theorem dX1_street_55 : decode cX1_street 55 = .ok (.goto 15, 3) := dk_167 0 15 (dk_at dksX1_street_2 7 rfl rfl)
theorem dX1_street_58 : decode cX1_street 58 = .ok (.aload_n 3, 1) := dk_45 (dk_at dksX1_street_2 10 rfl rfl)
theorem dX1_street_59 : decode cX1_street 59 = .ok (.getfield 233, 3) := dk_180 0 233 (dk_at dksX1_street_2 11 rfl rfl)
theorem dX1_street_62 : decode cX1_street 62 = .ok (.ifCond .eq 7, 3) := dk_153 0 7 (dk_at dksX1_street_2 14 rfl rfl)
theorem dX1_street_65 : decode cX1_street 65 = .ok (.iconst 1, 1) := dk_4 (dk_at dksX1_street_2 17 rfl rfl)
theorem dX1_street_66 : decode cX1_street 66 = .ok (.goto 4, 3) := dk_167 0 4 (dk_at dksX1_street_2 18 rfl rfl)
theorem dX1_street_69 : decode cX1_street 69 = .ok (.iconst 0, 1) := dk_3 (dk_at dksX1_street_2 21 rfl rfl)
theorem dX1_street_70 : decode cX1_street 70 = .ok (.ireturn, 1) := dk_172 (dk_at dksX1_street_2 22 rfl rfl)
abbrev cX1_streetOf : ByteArray := prog_1_method_5_code
def yX1_streetOf : MethodName := ⟨RX1, "streetOf", "(I)LRightTurns$Street;"⟩
def dkwX1_streetOf_1 : List UInt8 := [183, 0, 143, 191, 42, 180, 0, 12, 180, 0, 138, 27, 182, 0, 144, 192, 0, 148, 176]
abbrev dktX1_streetOf_1 : List UInt8 := dkwX1_streetOf_1 ++ []
def dkwX1_streetOf_0 : List UInt8 := [27, 155, 0, 17, 27, 42, 180, 0, 12, 180, 0, 138, 182, 0, 127, 161, 0, 11, 187, 0, 141, 89]
abbrev dktX1_streetOf_0 : List UInt8 := dkwX1_streetOf_0 ++ dktX1_streetOf_1
theorem dksX1_streetOf_0 : cX1_streetOf.data.toList.drop 0 = dktX1_streetOf_0 := by decide +kernel
theorem dksX1_streetOf_1 : cX1_streetOf.data.toList.drop 22 = dktX1_streetOf_1 := dk_seg dksX1_streetOf_0 22 rfl rfl
theorem dX1_streetOf_0 : decode cX1_streetOf 0 = .ok (.iload_n 1, 1) := dk_27 (dk_at dksX1_streetOf_0 0 rfl rfl)
theorem dX1_streetOf_1 : decode cX1_streetOf 1 = .ok (.ifCond .lt 17, 3) := dk_155 0 17 (dk_at dksX1_streetOf_0 1 rfl rfl)
theorem dX1_streetOf_4 : decode cX1_streetOf 4 = .ok (.iload_n 1, 1) := dk_27 (dk_at dksX1_streetOf_0 4 rfl rfl)
theorem dX1_streetOf_5 : decode cX1_streetOf 5 = .ok (.aload_n 0, 1) := dk_42 (dk_at dksX1_streetOf_0 5 rfl rfl)
theorem dX1_streetOf_6 : decode cX1_streetOf 6 = .ok (.getfield 12, 3) := dk_180 0 12 (dk_at dksX1_streetOf_0 6 rfl rfl)
theorem dX1_streetOf_9 : decode cX1_streetOf 9 = .ok (.getfield 138, 3) := dk_180 0 138 (dk_at dksX1_streetOf_0 9 rfl rfl)
theorem dX1_streetOf_12 : decode cX1_streetOf 12 = .ok (.invokevirtual 127, 3) := dk_182 0 127 (dk_at dksX1_streetOf_0 12 rfl rfl)
theorem dX1_streetOf_15 : decode cX1_streetOf 15 = .ok (.if_icmp .lt 11, 3) := dk_161 0 11 (dk_at dksX1_streetOf_0 15 rfl rfl)
theorem dX1_streetOf_18 : decode cX1_streetOf 18 = .ok (.new 141, 3) := dk_187 0 141 (dk_at dksX1_streetOf_0 18 rfl rfl)
theorem dX1_streetOf_21 : decode cX1_streetOf 21 = .ok (.dup, 1) := dk_89 (dk_at dksX1_streetOf_0 21 rfl rfl)
theorem dX1_streetOf_22 : decode cX1_streetOf 22 = .ok (.invokespecial 143, 3) := dk_183 0 143 (dk_at dksX1_streetOf_1 0 rfl rfl)
theorem dX1_streetOf_25 : decode cX1_streetOf 25 = .ok (.athrow, 1) := dk_191 (dk_at dksX1_streetOf_1 3 rfl rfl)
theorem dX1_streetOf_26 : decode cX1_streetOf 26 = .ok (.aload_n 0, 1) := dk_42 (dk_at dksX1_streetOf_1 4 rfl rfl)
theorem dX1_streetOf_27 : decode cX1_streetOf 27 = .ok (.getfield 12, 3) := dk_180 0 12 (dk_at dksX1_streetOf_1 5 rfl rfl)
theorem dX1_streetOf_30 : decode cX1_streetOf 30 = .ok (.getfield 138, 3) := dk_180 0 138 (dk_at dksX1_streetOf_1 8 rfl rfl)
theorem dX1_streetOf_33 : decode cX1_streetOf 33 = .ok (.iload_n 1, 1) := dk_27 (dk_at dksX1_streetOf_1 11 rfl rfl)
theorem dX1_streetOf_34 : decode cX1_streetOf 34 = .ok (.invokevirtual 144, 3) := dk_182 0 144 (dk_at dksX1_streetOf_1 12 rfl rfl)
theorem dX1_streetOf_37 : decode cX1_streetOf 37 = .ok (.checkcast 148, 3) := dk_192 0 148 (dk_at dksX1_streetOf_1 15 rfl rfl)
theorem dX1_streetOf_40 : decode cX1_streetOf 40 = .ok (.areturn, 1) := dk_176 (dk_at dksX1_streetOf_1 18 rfl rfl)
abbrev cX1_turn : ByteArray := prog_1_method_14_code
def yX1_turn : MethodName := ⟨RX1, "turn", "(II)I"⟩
def dkwX1_turn_0 : List UInt8 := [42, 27, 182, 0, 237, 42, 28, 182, 0, 237, 42, 180, 0, 12, 27, 28, 182, 0, 240, 172]
abbrev dktX1_turn_0 : List UInt8 := dkwX1_turn_0 ++ []
theorem dksX1_turn_0 : cX1_turn.data.toList.drop 0 = dktX1_turn_0 := by decide +kernel
theorem dX1_turn_0 : decode cX1_turn 0 = .ok (.aload_n 0, 1) := dk_42 (dk_at dksX1_turn_0 0 rfl rfl)
theorem dX1_turn_1 : decode cX1_turn 1 = .ok (.iload_n 1, 1) := dk_27 (dk_at dksX1_turn_0 1 rfl rfl)
theorem dX1_turn_2 : decode cX1_turn 2 = .ok (.invokevirtual 237, 3) := dk_182 0 237 (dk_at dksX1_turn_0 2 rfl rfl)
theorem dX1_turn_5 : decode cX1_turn 5 = .ok (.aload_n 0, 1) := dk_42 (dk_at dksX1_turn_0 5 rfl rfl)
theorem dX1_turn_6 : decode cX1_turn 6 = .ok (.iload_n 2, 1) := dk_28 (dk_at dksX1_turn_0 6 rfl rfl)
theorem dX1_turn_7 : decode cX1_turn 7 = .ok (.invokevirtual 237, 3) := dk_182 0 237 (dk_at dksX1_turn_0 7 rfl rfl)
theorem dX1_turn_10 : decode cX1_turn 10 = .ok (.aload_n 0, 1) := dk_42 (dk_at dksX1_turn_0 10 rfl rfl)
theorem dX1_turn_11 : decode cX1_turn 11 = .ok (.getfield 12, 3) := dk_180 0 12 (dk_at dksX1_turn_0 11 rfl rfl)
theorem dX1_turn_14 : decode cX1_turn 14 = .ok (.iload_n 1, 1) := dk_27 (dk_at dksX1_turn_0 14 rfl rfl)
theorem dX1_turn_15 : decode cX1_turn 15 = .ok (.iload_n 2, 1) := dk_28 (dk_at dksX1_turn_0 15 rfl rfl)
theorem dX1_turn_16 : decode cX1_turn 16 = .ok (.invokevirtual 240, 3) := dk_182 0 240 (dk_at dksX1_turn_0 16 rfl rfl)
theorem dX1_turn_19 : decode cX1_turn 19 = .ok (.ireturn, 1) := dk_172 (dk_at dksX1_turn_0 19 rfl rfl)
abbrev cX1_needArc : ByteArray := prog_1_method_6_code
def yX1_needArc : MethodName := ⟨RX1, "needArc", "(I)V"⟩
def dkwX1_needArc_0 : List UInt8 := [42, 180, 0, 12, 27, 182, 0, 150, 154, 0, 11, 187, 0, 141, 89, 183, 0, 143, 191, 177]
abbrev dktX1_needArc_0 : List UInt8 := dkwX1_needArc_0 ++ []
theorem dksX1_needArc_0 : cX1_needArc.data.toList.drop 0 = dktX1_needArc_0 := by decide +kernel
theorem dX1_needArc_0 : decode cX1_needArc 0 = .ok (.aload_n 0, 1) := dk_42 (dk_at dksX1_needArc_0 0 rfl rfl)
theorem dX1_needArc_1 : decode cX1_needArc 1 = .ok (.getfield 12, 3) := dk_180 0 12 (dk_at dksX1_needArc_0 1 rfl rfl)
theorem dX1_needArc_4 : decode cX1_needArc 4 = .ok (.iload_n 1, 1) := dk_27 (dk_at dksX1_needArc_0 4 rfl rfl)
theorem dX1_needArc_5 : decode cX1_needArc 5 = .ok (.invokevirtual 150, 3) := dk_182 0 150 (dk_at dksX1_needArc_0 5 rfl rfl)
theorem dX1_needArc_8 : decode cX1_needArc 8 = .ok (.ifCond .ne 11, 3) := dk_154 0 11 (dk_at dksX1_needArc_0 8 rfl rfl)
theorem dX1_needArc_11 : decode cX1_needArc 11 = .ok (.new 141, 3) := dk_187 0 141 (dk_at dksX1_needArc_0 11 rfl rfl)
theorem dX1_needArc_14 : decode cX1_needArc 14 = .ok (.dup, 1) := dk_89 (dk_at dksX1_needArc_0 14 rfl rfl)
theorem dX1_needArc_15 : decode cX1_needArc 15 = .ok (.invokespecial 143, 3) := dk_183 0 143 (dk_at dksX1_needArc_0 15 rfl rfl)
theorem dX1_needArc_18 : decode cX1_needArc 18 = .ok (.athrow, 1) := dk_191 (dk_at dksX1_needArc_0 18 rfl rfl)
theorem dX1_needArc_19 : decode cX1_needArc 19 = .ok (.return_, 1) := dk_177 (dk_at dksX1_needArc_0 19 rfl rfl)
abbrev cX1_may : ByteArray := prog_1_method_16_code
def yX1_may : MethodName := ⟨RX1, "may", "(III)Z"⟩
def dkwX1_may_1 : List UInt8 := [182, 1, 1, 172]
abbrev dktX1_may_1 : List UInt8 := dkwX1_may_1 ++ []
def dkwX1_may_0 : List UInt8 := [42, 27, 182, 0, 237, 42, 28, 182, 0, 237, 42, 29, 182, 0, 254, 184, 0, 164, 42, 27, 28, 29]
abbrev dktX1_may_0 : List UInt8 := dkwX1_may_0 ++ dktX1_may_1
theorem dksX1_may_0 : cX1_may.data.toList.drop 0 = dktX1_may_0 := by decide +kernel
theorem dksX1_may_1 : cX1_may.data.toList.drop 22 = dktX1_may_1 := dk_seg dksX1_may_0 22 rfl rfl
theorem dX1_may_0 : decode cX1_may 0 = .ok (.aload_n 0, 1) := dk_42 (dk_at dksX1_may_0 0 rfl rfl)
theorem dX1_may_1 : decode cX1_may 1 = .ok (.iload_n 1, 1) := dk_27 (dk_at dksX1_may_0 1 rfl rfl)
theorem dX1_may_2 : decode cX1_may 2 = .ok (.invokevirtual 237, 3) := dk_182 0 237 (dk_at dksX1_may_0 2 rfl rfl)
theorem dX1_may_5 : decode cX1_may 5 = .ok (.aload_n 0, 1) := dk_42 (dk_at dksX1_may_0 5 rfl rfl)
theorem dX1_may_6 : decode cX1_may 6 = .ok (.iload_n 2, 1) := dk_28 (dk_at dksX1_may_0 6 rfl rfl)
theorem dX1_may_7 : decode cX1_may 7 = .ok (.invokevirtual 237, 3) := dk_182 0 237 (dk_at dksX1_may_0 7 rfl rfl)
theorem dX1_may_10 : decode cX1_may 10 = .ok (.aload_n 0, 1) := dk_42 (dk_at dksX1_may_0 10 rfl rfl)
theorem dX1_may_11 : decode cX1_may 11 = .ok (.iload_n 3, 1) := dk_29 (dk_at dksX1_may_0 11 rfl rfl)
theorem dX1_may_12 : decode cX1_may 12 = .ok (.invokevirtual 254, 3) := dk_182 0 254 (dk_at dksX1_may_0 12 rfl rfl)
theorem dX1_may_15 : decode cX1_may 15 = .ok (.invokestatic 164, 3) := dk_184 0 164 (dk_at dksX1_may_0 15 rfl rfl)
theorem dX1_may_18 : decode cX1_may 18 = .ok (.aload_n 0, 1) := dk_42 (dk_at dksX1_may_0 18 rfl rfl)
theorem dX1_may_19 : decode cX1_may 19 = .ok (.iload_n 1, 1) := dk_27 (dk_at dksX1_may_0 19 rfl rfl)
theorem dX1_may_20 : decode cX1_may 20 = .ok (.iload_n 2, 1) := dk_28 (dk_at dksX1_may_0 20 rfl rfl)
theorem dX1_may_21 : decode cX1_may 21 = .ok (.iload_n 3, 1) := dk_29 (dk_at dksX1_may_0 21 rfl rfl)
theorem dX1_may_22 : decode cX1_may 22 = .ok (.invokevirtual 257, 3) := dk_182 1 1 (dk_at dksX1_may_1 0 rfl rfl)
theorem dX1_may_25 : decode cX1_may 25 = .ok (.ireturn, 1) := dk_172 (dk_at dksX1_may_1 3 rfl rfl)
abbrev cX1_isTime : ByteArray := prog_1_method_7_code
def yX1_isTime : MethodName := ⟨RX1, "isTime", "(I)Z"⟩
def dkwX1_isTime_0 : List UInt8 := [27, 155, 0, 18, 27, 42, 180, 0, 19, 180, 0, 154, 163, 0, 7, 4, 167, 0, 4, 3, 172]
abbrev dktX1_isTime_0 : List UInt8 := dkwX1_isTime_0 ++ []
theorem dksX1_isTime_0 : cX1_isTime.data.toList.drop 0 = dktX1_isTime_0 := by decide +kernel
theorem dX1_isTime_0 : decode cX1_isTime 0 = .ok (.iload_n 1, 1) := dk_27 (dk_at dksX1_isTime_0 0 rfl rfl)
theorem dX1_isTime_1 : decode cX1_isTime 1 = .ok (.ifCond .lt 18, 3) := dk_155 0 18 (dk_at dksX1_isTime_0 1 rfl rfl)
theorem dX1_isTime_4 : decode cX1_isTime 4 = .ok (.iload_n 1, 1) := dk_27 (dk_at dksX1_isTime_0 4 rfl rfl)
theorem dX1_isTime_5 : decode cX1_isTime 5 = .ok (.aload_n 0, 1) := dk_42 (dk_at dksX1_isTime_0 5 rfl rfl)
theorem dX1_isTime_6 : decode cX1_isTime 6 = .ok (.getfield 19, 3) := dk_180 0 19 (dk_at dksX1_isTime_0 6 rfl rfl)
theorem dX1_isTime_9 : decode cX1_isTime 9 = .ok (.getfield 154, 3) := dk_180 0 154 (dk_at dksX1_isTime_0 9 rfl rfl)
theorem dX1_isTime_12 : decode cX1_isTime 12 = .ok (.if_icmp .gt 7, 3) := dk_163 0 7 (dk_at dksX1_isTime_0 12 rfl rfl)
theorem dX1_isTime_15 : decode cX1_isTime 15 = .ok (.iconst 1, 1) := dk_4 (dk_at dksX1_isTime_0 15 rfl rfl)
theorem dX1_isTime_16 : decode cX1_isTime 16 = .ok (.goto 4, 3) := dk_167 0 4 (dk_at dksX1_isTime_0 16 rfl rfl)
theorem dX1_isTime_19 : decode cX1_isTime 19 = .ok (.iconst 0, 1) := dk_3 (dk_at dksX1_isTime_0 19 rfl rfl)
theorem dX1_isTime_20 : decode cX1_isTime 20 = .ok (.ireturn, 1) := dk_172 (dk_at dksX1_isTime_0 20 rfl rfl)
abbrev cX1_mayRide : ByteArray := prog_1_method_15_code
def yX1_mayRide : MethodName := ⟨RX1, "mayRide", "(III)Z"⟩
def dkwX1_mayRide_4 : List UInt8 := [153, 0, 22, 42, 180, 0, 39, 21, 4, 46, 21, 5, 122, 4, 126, 154, 0, 7, 4, 167, 0, 4, 3, 172]
abbrev dktX1_mayRide_4 : List UInt8 := dkwX1_mayRide_4 ++ []
def dkwX1_mayRide_3 : List UInt8 := [46, 21, 5, 122, 4, 126, 4, 159, 0, 33, 42, 180, 0, 19, 29, 21, 4, 21, 5, 182, 0, 251]
abbrev dktX1_mayRide_3 : List UInt8 := dkwX1_mayRide_3 ++ dktX1_mayRide_4
def dkwX1_mayRide_2 : List UInt8 := [21, 4, 21, 5, 182, 0, 247, 153, 0, 5, 3, 172, 21, 6, 6, 160, 0, 49, 42, 180, 0, 35, 21, 4]
abbrev dktX1_mayRide_2 : List UInt8 := dkwX1_mayRide_2 ++ dktX1_mayRide_3
def dkwX1_mayRide_1 : List UInt8 := [159, 0, 8, 21, 6, 154, 0, 5, 3, 172, 42, 180, 0, 244, 153, 0, 5, 4, 172, 42, 180, 0, 19, 29]
abbrev dktX1_mayRide_1 : List UInt8 := dkwX1_mayRide_1 ++ dktX1_mayRide_2
def dkwX1_mayRide_0 : List UInt8 := [27, 5, 108, 54, 4, 28, 5, 108, 54, 5, 42, 180, 0, 12, 27, 28, 182, 0, 240, 54, 6, 21, 6, 2]
abbrev dktX1_mayRide_0 : List UInt8 := dkwX1_mayRide_0 ++ dktX1_mayRide_1
theorem dksX1_mayRide_0 : cX1_mayRide.data.toList.drop 0 = dktX1_mayRide_0 := by decide +kernel
theorem dksX1_mayRide_1 : cX1_mayRide.data.toList.drop 24 = dktX1_mayRide_1 := dk_seg dksX1_mayRide_0 24 rfl rfl
theorem dksX1_mayRide_2 : cX1_mayRide.data.toList.drop 48 = dktX1_mayRide_2 := dk_seg dksX1_mayRide_1 24 rfl rfl
theorem dksX1_mayRide_3 : cX1_mayRide.data.toList.drop 72 = dktX1_mayRide_3 := dk_seg dksX1_mayRide_2 24 rfl rfl
theorem dksX1_mayRide_4 : cX1_mayRide.data.toList.drop 94 = dktX1_mayRide_4 := dk_seg dksX1_mayRide_3 22 rfl rfl
theorem dX1_mayRide_0 : decode cX1_mayRide 0 = .ok (.iload_n 1, 1) := dk_27 (dk_at dksX1_mayRide_0 0 rfl rfl)
theorem dX1_mayRide_1 : decode cX1_mayRide 1 = .ok (.iconst 2, 1) := dk_5 (dk_at dksX1_mayRide_0 1 rfl rfl)
theorem dX1_mayRide_2 : decode cX1_mayRide 2 = .ok (.idiv, 1) := dk_108 (dk_at dksX1_mayRide_0 2 rfl rfl)
theorem dX1_mayRide_3 : decode cX1_mayRide 3 = .ok (.istore 4, 2) := dk_54 4 (dk_at dksX1_mayRide_0 3 rfl rfl)
theorem dX1_mayRide_5 : decode cX1_mayRide 5 = .ok (.iload_n 2, 1) := dk_28 (dk_at dksX1_mayRide_0 5 rfl rfl)
theorem dX1_mayRide_6 : decode cX1_mayRide 6 = .ok (.iconst 2, 1) := dk_5 (dk_at dksX1_mayRide_0 6 rfl rfl)
theorem dX1_mayRide_7 : decode cX1_mayRide 7 = .ok (.idiv, 1) := dk_108 (dk_at dksX1_mayRide_0 7 rfl rfl)
theorem dX1_mayRide_8 : decode cX1_mayRide 8 = .ok (.istore 5, 2) := dk_54 5 (dk_at dksX1_mayRide_0 8 rfl rfl)
theorem dX1_mayRide_10 : decode cX1_mayRide 10 = .ok (.aload_n 0, 1) := dk_42 (dk_at dksX1_mayRide_0 10 rfl rfl)
theorem dX1_mayRide_11 : decode cX1_mayRide 11 = .ok (.getfield 12, 3) := dk_180 0 12 (dk_at dksX1_mayRide_0 11 rfl rfl)
theorem dX1_mayRide_14 : decode cX1_mayRide 14 = .ok (.iload_n 1, 1) := dk_27 (dk_at dksX1_mayRide_0 14 rfl rfl)
theorem dX1_mayRide_15 : decode cX1_mayRide 15 = .ok (.iload_n 2, 1) := dk_28 (dk_at dksX1_mayRide_0 15 rfl rfl)
theorem dX1_mayRide_16 : decode cX1_mayRide 16 = .ok (.invokevirtual 240, 3) := dk_182 0 240 (dk_at dksX1_mayRide_0 16 rfl rfl)
theorem dX1_mayRide_19 : decode cX1_mayRide 19 = .ok (.istore 6, 2) := dk_54 6 (dk_at dksX1_mayRide_0 19 rfl rfl)
theorem dX1_mayRide_21 : decode cX1_mayRide 21 = .ok (.iload 6, 2) := dk_21 6 (dk_at dksX1_mayRide_0 21 rfl rfl)
theorem dX1_mayRide_23 : decode cX1_mayRide 23 = .ok (.iconst (-1), 1) := dk_2 (dk_at dksX1_mayRide_0 23 rfl rfl)
theorem dX1_mayRide_24 : decode cX1_mayRide 24 = .ok (.if_icmp .eq 8, 3) := dk_159 0 8 (dk_at dksX1_mayRide_1 0 rfl rfl)
theorem dX1_mayRide_27 : decode cX1_mayRide 27 = .ok (.iload 6, 2) := dk_21 6 (dk_at dksX1_mayRide_1 3 rfl rfl)
theorem dX1_mayRide_29 : decode cX1_mayRide 29 = .ok (.ifCond .ne 5, 3) := dk_154 0 5 (dk_at dksX1_mayRide_1 5 rfl rfl)
theorem dX1_mayRide_32 : decode cX1_mayRide 32 = .ok (.iconst 0, 1) := dk_3 (dk_at dksX1_mayRide_1 8 rfl rfl)
theorem dX1_mayRide_33 : decode cX1_mayRide 33 = .ok (.ireturn, 1) := dk_172 (dk_at dksX1_mayRide_1 9 rfl rfl)
theorem dX1_mayRide_34 : decode cX1_mayRide 34 = .ok (.aload_n 0, 1) := dk_42 (dk_at dksX1_mayRide_1 10 rfl rfl)
theorem dX1_mayRide_35 : decode cX1_mayRide 35 = .ok (.getfield 244, 3) := dk_180 0 244 (dk_at dksX1_mayRide_1 11 rfl rfl)
theorem dX1_mayRide_38 : decode cX1_mayRide 38 = .ok (.ifCond .eq 5, 3) := dk_153 0 5 (dk_at dksX1_mayRide_1 14 rfl rfl)
theorem dX1_mayRide_41 : decode cX1_mayRide 41 = .ok (.iconst 1, 1) := dk_4 (dk_at dksX1_mayRide_1 17 rfl rfl)
theorem dX1_mayRide_42 : decode cX1_mayRide 42 = .ok (.ireturn, 1) := dk_172 (dk_at dksX1_mayRide_1 18 rfl rfl)
theorem dX1_mayRide_43 : decode cX1_mayRide 43 = .ok (.aload_n 0, 1) := dk_42 (dk_at dksX1_mayRide_1 19 rfl rfl)
theorem dX1_mayRide_44 : decode cX1_mayRide 44 = .ok (.getfield 19, 3) := dk_180 0 19 (dk_at dksX1_mayRide_1 20 rfl rfl)
theorem dX1_mayRide_47 : decode cX1_mayRide 47 = .ok (.iload_n 3, 1) := dk_29 (dk_at dksX1_mayRide_1 23 rfl rfl)
theorem dX1_mayRide_48 : decode cX1_mayRide 48 = .ok (.iload 4, 2) := dk_21 4 (dk_at dksX1_mayRide_2 0 rfl rfl)
theorem dX1_mayRide_50 : decode cX1_mayRide 50 = .ok (.iload 5, 2) := dk_21 5 (dk_at dksX1_mayRide_2 2 rfl rfl)
theorem dX1_mayRide_52 : decode cX1_mayRide 52 = .ok (.invokevirtual 247, 3) := dk_182 0 247 (dk_at dksX1_mayRide_2 4 rfl rfl)
theorem dX1_mayRide_55 : decode cX1_mayRide 55 = .ok (.ifCond .eq 5, 3) := dk_153 0 5 (dk_at dksX1_mayRide_2 7 rfl rfl)
theorem dX1_mayRide_58 : decode cX1_mayRide 58 = .ok (.iconst 0, 1) := dk_3 (dk_at dksX1_mayRide_2 10 rfl rfl)
theorem dX1_mayRide_59 : decode cX1_mayRide 59 = .ok (.ireturn, 1) := dk_172 (dk_at dksX1_mayRide_2 11 rfl rfl)
theorem dX1_mayRide_60 : decode cX1_mayRide 60 = .ok (.iload 6, 2) := dk_21 6 (dk_at dksX1_mayRide_2 12 rfl rfl)
theorem dX1_mayRide_62 : decode cX1_mayRide 62 = .ok (.iconst 3, 1) := dk_6 (dk_at dksX1_mayRide_2 14 rfl rfl)
theorem dX1_mayRide_63 : decode cX1_mayRide 63 = .ok (.if_icmp .ne 49, 3) := dk_160 0 49 (dk_at dksX1_mayRide_2 15 rfl rfl)
theorem dX1_mayRide_66 : decode cX1_mayRide 66 = .ok (.aload_n 0, 1) := dk_42 (dk_at dksX1_mayRide_2 18 rfl rfl)
theorem dX1_mayRide_67 : decode cX1_mayRide 67 = .ok (.getfield 35, 3) := dk_180 0 35 (dk_at dksX1_mayRide_2 19 rfl rfl)
theorem dX1_mayRide_70 : decode cX1_mayRide 70 = .ok (.iload 4, 2) := dk_21 4 (dk_at dksX1_mayRide_2 22 rfl rfl)
theorem dX1_mayRide_72 : decode cX1_mayRide 72 = .ok (.iaload, 1) := dk_46 (dk_at dksX1_mayRide_3 0 rfl rfl)
theorem dX1_mayRide_73 : decode cX1_mayRide 73 = .ok (.iload 5, 2) := dk_21 5 (dk_at dksX1_mayRide_3 1 rfl rfl)
theorem dX1_mayRide_75 : decode cX1_mayRide 75 = .ok (.ishr, 1) := dk_122 (dk_at dksX1_mayRide_3 3 rfl rfl)
theorem dX1_mayRide_76 : decode cX1_mayRide 76 = .ok (.iconst 1, 1) := dk_4 (dk_at dksX1_mayRide_3 4 rfl rfl)
theorem dX1_mayRide_77 : decode cX1_mayRide 77 = .ok (.iand, 1) := dk_126 (dk_at dksX1_mayRide_3 5 rfl rfl)
theorem dX1_mayRide_78 : decode cX1_mayRide 78 = .ok (.iconst 1, 1) := dk_4 (dk_at dksX1_mayRide_3 6 rfl rfl)
theorem dX1_mayRide_79 : decode cX1_mayRide 79 = .ok (.if_icmp .eq 33, 3) := dk_159 0 33 (dk_at dksX1_mayRide_3 7 rfl rfl)
theorem dX1_mayRide_82 : decode cX1_mayRide 82 = .ok (.aload_n 0, 1) := dk_42 (dk_at dksX1_mayRide_3 10 rfl rfl)
theorem dX1_mayRide_83 : decode cX1_mayRide 83 = .ok (.getfield 19, 3) := dk_180 0 19 (dk_at dksX1_mayRide_3 11 rfl rfl)
theorem dX1_mayRide_86 : decode cX1_mayRide 86 = .ok (.iload_n 3, 1) := dk_29 (dk_at dksX1_mayRide_3 14 rfl rfl)
theorem dX1_mayRide_87 : decode cX1_mayRide 87 = .ok (.iload 4, 2) := dk_21 4 (dk_at dksX1_mayRide_3 15 rfl rfl)
theorem dX1_mayRide_89 : decode cX1_mayRide 89 = .ok (.iload 5, 2) := dk_21 5 (dk_at dksX1_mayRide_3 17 rfl rfl)
theorem dX1_mayRide_91 : decode cX1_mayRide 91 = .ok (.invokevirtual 251, 3) := dk_182 0 251 (dk_at dksX1_mayRide_3 19 rfl rfl)
theorem dX1_mayRide_94 : decode cX1_mayRide 94 = .ok (.ifCond .eq 22, 3) := dk_153 0 22 (dk_at dksX1_mayRide_4 0 rfl rfl)
theorem dX1_mayRide_97 : decode cX1_mayRide 97 = .ok (.aload_n 0, 1) := dk_42 (dk_at dksX1_mayRide_4 3 rfl rfl)
theorem dX1_mayRide_98 : decode cX1_mayRide 98 = .ok (.getfield 39, 3) := dk_180 0 39 (dk_at dksX1_mayRide_4 4 rfl rfl)
theorem dX1_mayRide_101 : decode cX1_mayRide 101 = .ok (.iload 4, 2) := dk_21 4 (dk_at dksX1_mayRide_4 7 rfl rfl)
theorem dX1_mayRide_103 : decode cX1_mayRide 103 = .ok (.iaload, 1) := dk_46 (dk_at dksX1_mayRide_4 9 rfl rfl)
theorem dX1_mayRide_104 : decode cX1_mayRide 104 = .ok (.iload 5, 2) := dk_21 5 (dk_at dksX1_mayRide_4 10 rfl rfl)
theorem dX1_mayRide_106 : decode cX1_mayRide 106 = .ok (.ishr, 1) := dk_122 (dk_at dksX1_mayRide_4 12 rfl rfl)
theorem dX1_mayRide_107 : decode cX1_mayRide 107 = .ok (.iconst 1, 1) := dk_4 (dk_at dksX1_mayRide_4 13 rfl rfl)
theorem dX1_mayRide_108 : decode cX1_mayRide 108 = .ok (.iand, 1) := dk_126 (dk_at dksX1_mayRide_4 14 rfl rfl)
theorem dX1_mayRide_109 : decode cX1_mayRide 109 = .ok (.ifCond .ne 7, 3) := dk_154 0 7 (dk_at dksX1_mayRide_4 15 rfl rfl)
theorem dX1_mayRide_112 : decode cX1_mayRide 112 = .ok (.iconst 1, 1) := dk_4 (dk_at dksX1_mayRide_4 18 rfl rfl)
theorem dX1_mayRide_113 : decode cX1_mayRide 113 = .ok (.goto 4, 3) := dk_167 0 4 (dk_at dksX1_mayRide_4 19 rfl rfl)
theorem dX1_mayRide_116 : decode cX1_mayRide 116 = .ok (.iconst 0, 1) := dk_3 (dk_at dksX1_mayRide_4 22 rfl rfl)
theorem dX1_mayRide_117 : decode cX1_mayRide 117 = .ok (.ireturn, 1) := dk_172 (dk_at dksX1_mayRide_4 23 rfl rfl)
abbrev cX1_sign : ByteArray := prog_1_method_18_code
def yX1_sign : MethodName := ⟨RX1, "sign", "(IIZ)I"⟩
def dkwX1_sign_3 : List UInt8 := [180, 0, 19, 180, 0, 154, 104, 27, 96, 92, 46, 4, 28, 120, 130, 79, 42, 180, 0, 19, 180, 0, 154, 172]
abbrev dktX1_sign_3 : List UInt8 := dkwX1_sign_3 ++ []
def dkwX1_sign_2 : List UInt8 := [180, 0, 19, 42, 180, 0, 19, 180, 0, 154, 182, 1, 12, 42, 180, 0, 19, 180, 0, 183, 16, 24, 42]
abbrev dktX1_sign_2 : List UInt8 := dkwX1_sign_2 ++ dktX1_sign_3
def dkwX1_sign_1 : List UInt8 := [180, 0, 19, 42, 180, 0, 19, 180, 0, 154, 27, 28, 182, 0, 247, 29, 160, 0, 6, 16, 254, 172, 42]
abbrev dktX1_sign_1 : List UInt8 := dkwX1_sign_1 ++ dktX1_sign_2
def dkwX1_sign_0 : List UInt8 := [42, 27, 28, 182, 1, 8, 42, 180, 0, 19, 180, 0, 154, 17, 0, 200, 160, 0, 5, 2, 172, 42]
abbrev dktX1_sign_0 : List UInt8 := dkwX1_sign_0 ++ dktX1_sign_1
theorem dksX1_sign_0 : cX1_sign.data.toList.drop 0 = dktX1_sign_0 := by decide +kernel
theorem dksX1_sign_1 : cX1_sign.data.toList.drop 22 = dktX1_sign_1 := dk_seg dksX1_sign_0 22 rfl rfl
theorem dksX1_sign_2 : cX1_sign.data.toList.drop 45 = dktX1_sign_2 := dk_seg dksX1_sign_1 23 rfl rfl
theorem dksX1_sign_3 : cX1_sign.data.toList.drop 68 = dktX1_sign_3 := dk_seg dksX1_sign_2 23 rfl rfl
theorem dX1_sign_0 : decode cX1_sign 0 = .ok (.aload_n 0, 1) := dk_42 (dk_at dksX1_sign_0 0 rfl rfl)
theorem dX1_sign_1 : decode cX1_sign 1 = .ok (.iload_n 1, 1) := dk_27 (dk_at dksX1_sign_0 1 rfl rfl)
theorem dX1_sign_2 : decode cX1_sign 2 = .ok (.iload_n 2, 1) := dk_28 (dk_at dksX1_sign_0 2 rfl rfl)
theorem dX1_sign_3 : decode cX1_sign 3 = .ok (.invokevirtual 264, 3) := dk_182 1 8 (dk_at dksX1_sign_0 3 rfl rfl)
theorem dX1_sign_6 : decode cX1_sign 6 = .ok (.aload_n 0, 1) := dk_42 (dk_at dksX1_sign_0 6 rfl rfl)
theorem dX1_sign_7 : decode cX1_sign 7 = .ok (.getfield 19, 3) := dk_180 0 19 (dk_at dksX1_sign_0 7 rfl rfl)
theorem dX1_sign_10 : decode cX1_sign 10 = .ok (.getfield 154, 3) := dk_180 0 154 (dk_at dksX1_sign_0 10 rfl rfl)
theorem dX1_sign_13 : decode cX1_sign 13 = .ok (.sipush 200, 3) := dk_17 0 200 (dk_at dksX1_sign_0 13 rfl rfl)
theorem dX1_sign_16 : decode cX1_sign 16 = .ok (.if_icmp .ne 5, 3) := dk_160 0 5 (dk_at dksX1_sign_0 16 rfl rfl)
theorem dX1_sign_19 : decode cX1_sign 19 = .ok (.iconst (-1), 1) := dk_2 (dk_at dksX1_sign_0 19 rfl rfl)
theorem dX1_sign_20 : decode cX1_sign 20 = .ok (.ireturn, 1) := dk_172 (dk_at dksX1_sign_0 20 rfl rfl)
theorem dX1_sign_21 : decode cX1_sign 21 = .ok (.aload_n 0, 1) := dk_42 (dk_at dksX1_sign_0 21 rfl rfl)
theorem dX1_sign_22 : decode cX1_sign 22 = .ok (.getfield 19, 3) := dk_180 0 19 (dk_at dksX1_sign_1 0 rfl rfl)
theorem dX1_sign_25 : decode cX1_sign 25 = .ok (.aload_n 0, 1) := dk_42 (dk_at dksX1_sign_1 3 rfl rfl)
theorem dX1_sign_26 : decode cX1_sign 26 = .ok (.getfield 19, 3) := dk_180 0 19 (dk_at dksX1_sign_1 4 rfl rfl)
theorem dX1_sign_29 : decode cX1_sign 29 = .ok (.getfield 154, 3) := dk_180 0 154 (dk_at dksX1_sign_1 7 rfl rfl)
theorem dX1_sign_32 : decode cX1_sign 32 = .ok (.iload_n 1, 1) := dk_27 (dk_at dksX1_sign_1 10 rfl rfl)
theorem dX1_sign_33 : decode cX1_sign 33 = .ok (.iload_n 2, 1) := dk_28 (dk_at dksX1_sign_1 11 rfl rfl)
theorem dX1_sign_34 : decode cX1_sign 34 = .ok (.invokevirtual 247, 3) := dk_182 0 247 (dk_at dksX1_sign_1 12 rfl rfl)
theorem dX1_sign_37 : decode cX1_sign 37 = .ok (.iload_n 3, 1) := dk_29 (dk_at dksX1_sign_1 15 rfl rfl)
theorem dX1_sign_38 : decode cX1_sign 38 = .ok (.if_icmp .ne 6, 3) := dk_160 0 6 (dk_at dksX1_sign_1 16 rfl rfl)
theorem dX1_sign_41 : decode cX1_sign 41 = .ok (.bipush (-2), 2) := dk_16 254 (dk_at dksX1_sign_1 19 rfl rfl)
theorem dX1_sign_43 : decode cX1_sign 43 = .ok (.ireturn, 1) := dk_172 (dk_at dksX1_sign_1 21 rfl rfl)
theorem dX1_sign_44 : decode cX1_sign 44 = .ok (.aload_n 0, 1) := dk_42 (dk_at dksX1_sign_1 22 rfl rfl)
theorem dX1_sign_45 : decode cX1_sign 45 = .ok (.getfield 19, 3) := dk_180 0 19 (dk_at dksX1_sign_2 0 rfl rfl)
theorem dX1_sign_48 : decode cX1_sign 48 = .ok (.aload_n 0, 1) := dk_42 (dk_at dksX1_sign_2 3 rfl rfl)
theorem dX1_sign_49 : decode cX1_sign 49 = .ok (.getfield 19, 3) := dk_180 0 19 (dk_at dksX1_sign_2 4 rfl rfl)
theorem dX1_sign_52 : decode cX1_sign 52 = .ok (.getfield 154, 3) := dk_180 0 154 (dk_at dksX1_sign_2 7 rfl rfl)
theorem dX1_sign_55 : decode cX1_sign 55 = .ok (.invokevirtual 268, 3) := dk_182 1 12 (dk_at dksX1_sign_2 10 rfl rfl)
theorem dX1_sign_58 : decode cX1_sign 58 = .ok (.aload_n 0, 1) := dk_42 (dk_at dksX1_sign_2 13 rfl rfl)
theorem dX1_sign_59 : decode cX1_sign 59 = .ok (.getfield 19, 3) := dk_180 0 19 (dk_at dksX1_sign_2 14 rfl rfl)
theorem dX1_sign_62 : decode cX1_sign 62 = .ok (.getfield 183, 3) := dk_180 0 183 (dk_at dksX1_sign_2 17 rfl rfl)
theorem dX1_sign_65 : decode cX1_sign 65 = .ok (.bipush 24, 2) := dk_16 24 (dk_at dksX1_sign_2 20 rfl rfl)
theorem dX1_sign_67 : decode cX1_sign 67 = .ok (.aload_n 0, 1) := dk_42 (dk_at dksX1_sign_2 22 rfl rfl)
theorem dX1_sign_68 : decode cX1_sign 68 = .ok (.getfield 19, 3) := dk_180 0 19 (dk_at dksX1_sign_3 0 rfl rfl)
theorem dX1_sign_71 : decode cX1_sign 71 = .ok (.getfield 154, 3) := dk_180 0 154 (dk_at dksX1_sign_3 3 rfl rfl)
theorem dX1_sign_74 : decode cX1_sign 74 = .ok (.imul, 1) := dk_104 (dk_at dksX1_sign_3 6 rfl rfl)
theorem dX1_sign_75 : decode cX1_sign 75 = .ok (.iload_n 1, 1) := dk_27 (dk_at dksX1_sign_3 7 rfl rfl)
theorem dX1_sign_76 : decode cX1_sign 76 = .ok (.iadd, 1) := dk_96 (dk_at dksX1_sign_3 8 rfl rfl)
theorem dX1_sign_77 : decode cX1_sign 77 = .ok (.dup2, 1) := dk_92 (dk_at dksX1_sign_3 9 rfl rfl)
theorem dX1_sign_78 : decode cX1_sign 78 = .ok (.iaload, 1) := dk_46 (dk_at dksX1_sign_3 10 rfl rfl)
theorem dX1_sign_79 : decode cX1_sign 79 = .ok (.iconst 1, 1) := dk_4 (dk_at dksX1_sign_3 11 rfl rfl)
theorem dX1_sign_80 : decode cX1_sign 80 = .ok (.iload_n 2, 1) := dk_28 (dk_at dksX1_sign_3 12 rfl rfl)
theorem dX1_sign_81 : decode cX1_sign 81 = .ok (.ishl, 1) := dk_120 (dk_at dksX1_sign_3 13 rfl rfl)
theorem dX1_sign_82 : decode cX1_sign 82 = .ok (.ixor, 1) := dk_130 (dk_at dksX1_sign_3 14 rfl rfl)
theorem dX1_sign_83 : decode cX1_sign 83 = .ok (.iastore, 1) := dk_79 (dk_at dksX1_sign_3 15 rfl rfl)
theorem dX1_sign_84 : decode cX1_sign 84 = .ok (.aload_n 0, 1) := dk_42 (dk_at dksX1_sign_3 16 rfl rfl)
theorem dX1_sign_85 : decode cX1_sign 85 = .ok (.getfield 19, 3) := dk_180 0 19 (dk_at dksX1_sign_3 17 rfl rfl)
theorem dX1_sign_88 : decode cX1_sign 88 = .ok (.getfield 154, 3) := dk_180 0 154 (dk_at dksX1_sign_3 20 rfl rfl)
theorem dX1_sign_91 : decode cX1_sign 91 = .ok (.ireturn, 1) := dk_172 (dk_at dksX1_sign_3 23 rfl rfl)
abbrev cX1_needMeeting : ByteArray := prog_1_method_17_code
def yX1_needMeeting : MethodName := ⟨RX1, "needMeeting", "(II)V"⟩
def dkwX1_needMeeting_1 : List UInt8 := [153, 0, 7, 4, 167, 0, 4, 3, 184, 0, 164, 177]
abbrev dktX1_needMeeting_1 : List UInt8 := dkwX1_needMeeting_1 ++ []
def dkwX1_needMeeting_0 : List UInt8 := [42, 27, 182, 0, 220, 78, 42, 28, 182, 0, 220, 58, 4, 27, 28, 159, 0, 16, 45, 25, 4, 182, 1, 4]
abbrev dktX1_needMeeting_0 : List UInt8 := dkwX1_needMeeting_0 ++ dktX1_needMeeting_1
theorem dksX1_needMeeting_0 : cX1_needMeeting.data.toList.drop 0 = dktX1_needMeeting_0 := by decide +kernel
theorem dksX1_needMeeting_1 : cX1_needMeeting.data.toList.drop 24 = dktX1_needMeeting_1 := dk_seg dksX1_needMeeting_0 24 rfl rfl
theorem dX1_needMeeting_0 : decode cX1_needMeeting 0 = .ok (.aload_n 0, 1) := dk_42 (dk_at dksX1_needMeeting_0 0 rfl rfl)
theorem dX1_needMeeting_1 : decode cX1_needMeeting 1 = .ok (.iload_n 1, 1) := dk_27 (dk_at dksX1_needMeeting_0 1 rfl rfl)
theorem dX1_needMeeting_2 : decode cX1_needMeeting 2 = .ok (.invokevirtual 220, 3) := dk_182 0 220 (dk_at dksX1_needMeeting_0 2 rfl rfl)
theorem dX1_needMeeting_5 : decode cX1_needMeeting 5 = .ok (.astore_n 3, 1) := dk_78 (dk_at dksX1_needMeeting_0 5 rfl rfl)
theorem dX1_needMeeting_6 : decode cX1_needMeeting 6 = .ok (.aload_n 0, 1) := dk_42 (dk_at dksX1_needMeeting_0 6 rfl rfl)
theorem dX1_needMeeting_7 : decode cX1_needMeeting 7 = .ok (.iload_n 2, 1) := dk_28 (dk_at dksX1_needMeeting_0 7 rfl rfl)
theorem dX1_needMeeting_8 : decode cX1_needMeeting 8 = .ok (.invokevirtual 220, 3) := dk_182 0 220 (dk_at dksX1_needMeeting_0 8 rfl rfl)
theorem dX1_needMeeting_11 : decode cX1_needMeeting 11 = .ok (.astore 4, 2) := dk_58 4 (dk_at dksX1_needMeeting_0 11 rfl rfl)
theorem dX1_needMeeting_13 : decode cX1_needMeeting 13 = .ok (.iload_n 1, 1) := dk_27 (dk_at dksX1_needMeeting_0 13 rfl rfl)
theorem dX1_needMeeting_14 : decode cX1_needMeeting 14 = .ok (.iload_n 2, 1) := dk_28 (dk_at dksX1_needMeeting_0 14 rfl rfl)
theorem dX1_needMeeting_15 : decode cX1_needMeeting 15 = .ok (.if_icmp .eq 16, 3) := dk_159 0 16 (dk_at dksX1_needMeeting_0 15 rfl rfl)
theorem dX1_needMeeting_18 : decode cX1_needMeeting 18 = .ok (.aload_n 3, 1) := dk_45 (dk_at dksX1_needMeeting_0 18 rfl rfl)
theorem dX1_needMeeting_19 : decode cX1_needMeeting 19 = .ok (.aload 4, 2) := dk_25 4 (dk_at dksX1_needMeeting_0 19 rfl rfl)
theorem dX1_needMeeting_21 : decode cX1_needMeeting 21 = .ok (.invokevirtual 260, 3) := dk_182 1 4 (dk_at dksX1_needMeeting_0 21 rfl rfl)
theorem dX1_needMeeting_24 : decode cX1_needMeeting 24 = .ok (.ifCond .eq 7, 3) := dk_153 0 7 (dk_at dksX1_needMeeting_1 0 rfl rfl)
theorem dX1_needMeeting_27 : decode cX1_needMeeting 27 = .ok (.iconst 1, 1) := dk_4 (dk_at dksX1_needMeeting_1 3 rfl rfl)
theorem dX1_needMeeting_28 : decode cX1_needMeeting 28 = .ok (.goto 4, 3) := dk_167 0 4 (dk_at dksX1_needMeeting_1 4 rfl rfl)
theorem dX1_needMeeting_31 : decode cX1_needMeeting 31 = .ok (.iconst 0, 1) := dk_3 (dk_at dksX1_needMeeting_1 7 rfl rfl)
theorem dX1_needMeeting_32 : decode cX1_needMeeting 32 = .ok (.invokestatic 164, 3) := dk_184 0 164 (dk_at dksX1_needMeeting_1 8 rfl rfl)
theorem dX1_needMeeting_35 : decode cX1_needMeeting 35 = .ok (.return_, 1) := dk_177 (dk_at dksX1_needMeeting_1 11 rfl rfl)
abbrev cX1_allow : ByteArray := prog_1_method_19_code
def yX1_allow : MethodName := ⟨RX1, "allow", "(IIZ)I"⟩
def dkwX1_allow_3 : List UInt8 := [180, 0, 19, 180, 0, 154, 104, 27, 96, 92, 46, 4, 28, 120, 130, 79, 42, 180, 0, 19, 180, 0, 154, 172]
abbrev dktX1_allow_3 : List UInt8 := dkwX1_allow_3 ++ []
def dkwX1_allow_2 : List UInt8 := [180, 0, 19, 42, 180, 0, 19, 180, 0, 154, 182, 1, 12, 42, 180, 0, 19, 180, 0, 193, 16, 24, 42]
abbrev dktX1_allow_2 : List UInt8 := dkwX1_allow_2 ++ dktX1_allow_3
def dkwX1_allow_1 : List UInt8 := [180, 0, 19, 42, 180, 0, 19, 180, 0, 154, 27, 28, 182, 0, 251, 29, 160, 0, 6, 16, 254, 172, 42]
abbrev dktX1_allow_1 : List UInt8 := dkwX1_allow_1 ++ dktX1_allow_2
def dkwX1_allow_0 : List UInt8 := [42, 27, 28, 182, 1, 8, 42, 180, 0, 19, 180, 0, 154, 17, 0, 200, 160, 0, 5, 2, 172, 42]
abbrev dktX1_allow_0 : List UInt8 := dkwX1_allow_0 ++ dktX1_allow_1
theorem dksX1_allow_0 : cX1_allow.data.toList.drop 0 = dktX1_allow_0 := by decide +kernel
theorem dksX1_allow_1 : cX1_allow.data.toList.drop 22 = dktX1_allow_1 := dk_seg dksX1_allow_0 22 rfl rfl
theorem dksX1_allow_2 : cX1_allow.data.toList.drop 45 = dktX1_allow_2 := dk_seg dksX1_allow_1 23 rfl rfl
theorem dksX1_allow_3 : cX1_allow.data.toList.drop 68 = dktX1_allow_3 := dk_seg dksX1_allow_2 23 rfl rfl
theorem dX1_allow_0 : decode cX1_allow 0 = .ok (.aload_n 0, 1) := dk_42 (dk_at dksX1_allow_0 0 rfl rfl)
theorem dX1_allow_1 : decode cX1_allow 1 = .ok (.iload_n 1, 1) := dk_27 (dk_at dksX1_allow_0 1 rfl rfl)
theorem dX1_allow_2 : decode cX1_allow 2 = .ok (.iload_n 2, 1) := dk_28 (dk_at dksX1_allow_0 2 rfl rfl)
theorem dX1_allow_3 : decode cX1_allow 3 = .ok (.invokevirtual 264, 3) := dk_182 1 8 (dk_at dksX1_allow_0 3 rfl rfl)
theorem dX1_allow_6 : decode cX1_allow 6 = .ok (.aload_n 0, 1) := dk_42 (dk_at dksX1_allow_0 6 rfl rfl)
theorem dX1_allow_7 : decode cX1_allow 7 = .ok (.getfield 19, 3) := dk_180 0 19 (dk_at dksX1_allow_0 7 rfl rfl)
theorem dX1_allow_10 : decode cX1_allow 10 = .ok (.getfield 154, 3) := dk_180 0 154 (dk_at dksX1_allow_0 10 rfl rfl)
theorem dX1_allow_13 : decode cX1_allow 13 = .ok (.sipush 200, 3) := dk_17 0 200 (dk_at dksX1_allow_0 13 rfl rfl)
theorem dX1_allow_16 : decode cX1_allow 16 = .ok (.if_icmp .ne 5, 3) := dk_160 0 5 (dk_at dksX1_allow_0 16 rfl rfl)
theorem dX1_allow_19 : decode cX1_allow 19 = .ok (.iconst (-1), 1) := dk_2 (dk_at dksX1_allow_0 19 rfl rfl)
theorem dX1_allow_20 : decode cX1_allow 20 = .ok (.ireturn, 1) := dk_172 (dk_at dksX1_allow_0 20 rfl rfl)
theorem dX1_allow_21 : decode cX1_allow 21 = .ok (.aload_n 0, 1) := dk_42 (dk_at dksX1_allow_0 21 rfl rfl)
theorem dX1_allow_22 : decode cX1_allow 22 = .ok (.getfield 19, 3) := dk_180 0 19 (dk_at dksX1_allow_1 0 rfl rfl)
theorem dX1_allow_25 : decode cX1_allow 25 = .ok (.aload_n 0, 1) := dk_42 (dk_at dksX1_allow_1 3 rfl rfl)
theorem dX1_allow_26 : decode cX1_allow 26 = .ok (.getfield 19, 3) := dk_180 0 19 (dk_at dksX1_allow_1 4 rfl rfl)
theorem dX1_allow_29 : decode cX1_allow 29 = .ok (.getfield 154, 3) := dk_180 0 154 (dk_at dksX1_allow_1 7 rfl rfl)
theorem dX1_allow_32 : decode cX1_allow 32 = .ok (.iload_n 1, 1) := dk_27 (dk_at dksX1_allow_1 10 rfl rfl)
theorem dX1_allow_33 : decode cX1_allow 33 = .ok (.iload_n 2, 1) := dk_28 (dk_at dksX1_allow_1 11 rfl rfl)
theorem dX1_allow_34 : decode cX1_allow 34 = .ok (.invokevirtual 251, 3) := dk_182 0 251 (dk_at dksX1_allow_1 12 rfl rfl)
theorem dX1_allow_37 : decode cX1_allow 37 = .ok (.iload_n 3, 1) := dk_29 (dk_at dksX1_allow_1 15 rfl rfl)
theorem dX1_allow_38 : decode cX1_allow 38 = .ok (.if_icmp .ne 6, 3) := dk_160 0 6 (dk_at dksX1_allow_1 16 rfl rfl)
theorem dX1_allow_41 : decode cX1_allow 41 = .ok (.bipush (-2), 2) := dk_16 254 (dk_at dksX1_allow_1 19 rfl rfl)
theorem dX1_allow_43 : decode cX1_allow 43 = .ok (.ireturn, 1) := dk_172 (dk_at dksX1_allow_1 21 rfl rfl)
theorem dX1_allow_44 : decode cX1_allow 44 = .ok (.aload_n 0, 1) := dk_42 (dk_at dksX1_allow_1 22 rfl rfl)
theorem dX1_allow_45 : decode cX1_allow 45 = .ok (.getfield 19, 3) := dk_180 0 19 (dk_at dksX1_allow_2 0 rfl rfl)
theorem dX1_allow_48 : decode cX1_allow 48 = .ok (.aload_n 0, 1) := dk_42 (dk_at dksX1_allow_2 3 rfl rfl)
theorem dX1_allow_49 : decode cX1_allow 49 = .ok (.getfield 19, 3) := dk_180 0 19 (dk_at dksX1_allow_2 4 rfl rfl)
theorem dX1_allow_52 : decode cX1_allow 52 = .ok (.getfield 154, 3) := dk_180 0 154 (dk_at dksX1_allow_2 7 rfl rfl)
theorem dX1_allow_55 : decode cX1_allow 55 = .ok (.invokevirtual 268, 3) := dk_182 1 12 (dk_at dksX1_allow_2 10 rfl rfl)
theorem dX1_allow_58 : decode cX1_allow 58 = .ok (.aload_n 0, 1) := dk_42 (dk_at dksX1_allow_2 13 rfl rfl)
theorem dX1_allow_59 : decode cX1_allow 59 = .ok (.getfield 19, 3) := dk_180 0 19 (dk_at dksX1_allow_2 14 rfl rfl)
theorem dX1_allow_62 : decode cX1_allow 62 = .ok (.getfield 193, 3) := dk_180 0 193 (dk_at dksX1_allow_2 17 rfl rfl)
theorem dX1_allow_65 : decode cX1_allow 65 = .ok (.bipush 24, 2) := dk_16 24 (dk_at dksX1_allow_2 20 rfl rfl)
theorem dX1_allow_67 : decode cX1_allow 67 = .ok (.aload_n 0, 1) := dk_42 (dk_at dksX1_allow_2 22 rfl rfl)
theorem dX1_allow_68 : decode cX1_allow 68 = .ok (.getfield 19, 3) := dk_180 0 19 (dk_at dksX1_allow_3 0 rfl rfl)
theorem dX1_allow_71 : decode cX1_allow 71 = .ok (.getfield 154, 3) := dk_180 0 154 (dk_at dksX1_allow_3 3 rfl rfl)
theorem dX1_allow_74 : decode cX1_allow 74 = .ok (.imul, 1) := dk_104 (dk_at dksX1_allow_3 6 rfl rfl)
theorem dX1_allow_75 : decode cX1_allow 75 = .ok (.iload_n 1, 1) := dk_27 (dk_at dksX1_allow_3 7 rfl rfl)
theorem dX1_allow_76 : decode cX1_allow 76 = .ok (.iadd, 1) := dk_96 (dk_at dksX1_allow_3 8 rfl rfl)
theorem dX1_allow_77 : decode cX1_allow 77 = .ok (.dup2, 1) := dk_92 (dk_at dksX1_allow_3 9 rfl rfl)
theorem dX1_allow_78 : decode cX1_allow 78 = .ok (.iaload, 1) := dk_46 (dk_at dksX1_allow_3 10 rfl rfl)
theorem dX1_allow_79 : decode cX1_allow 79 = .ok (.iconst 1, 1) := dk_4 (dk_at dksX1_allow_3 11 rfl rfl)
theorem dX1_allow_80 : decode cX1_allow 80 = .ok (.iload_n 2, 1) := dk_28 (dk_at dksX1_allow_3 12 rfl rfl)
theorem dX1_allow_81 : decode cX1_allow 81 = .ok (.ishl, 1) := dk_120 (dk_at dksX1_allow_3 13 rfl rfl)
theorem dX1_allow_82 : decode cX1_allow 82 = .ok (.ixor, 1) := dk_130 (dk_at dksX1_allow_3 14 rfl rfl)
theorem dX1_allow_83 : decode cX1_allow 83 = .ok (.iastore, 1) := dk_79 (dk_at dksX1_allow_3 15 rfl rfl)
theorem dX1_allow_84 : decode cX1_allow 84 = .ok (.aload_n 0, 1) := dk_42 (dk_at dksX1_allow_3 16 rfl rfl)
theorem dX1_allow_85 : decode cX1_allow 85 = .ok (.getfield 19, 3) := dk_180 0 19 (dk_at dksX1_allow_3 17 rfl rfl)
theorem dX1_allow_88 : decode cX1_allow 88 = .ok (.getfield 154, 3) := dk_180 0 154 (dk_at dksX1_allow_3 20 rfl rfl)
theorem dX1_allow_91 : decode cX1_allow 91 = .ok (.ireturn, 1) := dk_172 (dk_at dksX1_allow_3 23 rfl rfl)
abbrev cX1_back : ByteArray := prog_1_method_20_code
def yX1_back : MethodName := ⟨RX1, "back", "(I)I"⟩
def dkwX1_back_1 : List UInt8 := [180, 0, 19, 27, 182, 1, 12, 42, 180, 0, 19, 180, 0, 154, 172]
abbrev dktX1_back_1 : List UInt8 := dkwX1_back_1 ++ []
def dkwX1_back_0 : List UInt8 := [42, 27, 182, 0, 254, 184, 0, 164, 42, 180, 0, 19, 180, 0, 154, 17, 0, 200, 160, 0, 5, 2, 172, 42]
abbrev dktX1_back_0 : List UInt8 := dkwX1_back_0 ++ dktX1_back_1
theorem dksX1_back_0 : cX1_back.data.toList.drop 0 = dktX1_back_0 := by decide +kernel
theorem dksX1_back_1 : cX1_back.data.toList.drop 24 = dktX1_back_1 := dk_seg dksX1_back_0 24 rfl rfl
theorem dX1_back_0 : decode cX1_back 0 = .ok (.aload_n 0, 1) := dk_42 (dk_at dksX1_back_0 0 rfl rfl)
theorem dX1_back_1 : decode cX1_back 1 = .ok (.iload_n 1, 1) := dk_27 (dk_at dksX1_back_0 1 rfl rfl)
theorem dX1_back_2 : decode cX1_back 2 = .ok (.invokevirtual 254, 3) := dk_182 0 254 (dk_at dksX1_back_0 2 rfl rfl)
theorem dX1_back_5 : decode cX1_back 5 = .ok (.invokestatic 164, 3) := dk_184 0 164 (dk_at dksX1_back_0 5 rfl rfl)
theorem dX1_back_8 : decode cX1_back 8 = .ok (.aload_n 0, 1) := dk_42 (dk_at dksX1_back_0 8 rfl rfl)
theorem dX1_back_9 : decode cX1_back 9 = .ok (.getfield 19, 3) := dk_180 0 19 (dk_at dksX1_back_0 9 rfl rfl)
theorem dX1_back_12 : decode cX1_back 12 = .ok (.getfield 154, 3) := dk_180 0 154 (dk_at dksX1_back_0 12 rfl rfl)
theorem dX1_back_15 : decode cX1_back 15 = .ok (.sipush 200, 3) := dk_17 0 200 (dk_at dksX1_back_0 15 rfl rfl)
theorem dX1_back_18 : decode cX1_back 18 = .ok (.if_icmp .ne 5, 3) := dk_160 0 5 (dk_at dksX1_back_0 18 rfl rfl)
theorem dX1_back_21 : decode cX1_back 21 = .ok (.iconst (-1), 1) := dk_2 (dk_at dksX1_back_0 21 rfl rfl)
theorem dX1_back_22 : decode cX1_back 22 = .ok (.ireturn, 1) := dk_172 (dk_at dksX1_back_0 22 rfl rfl)
theorem dX1_back_23 : decode cX1_back 23 = .ok (.aload_n 0, 1) := dk_42 (dk_at dksX1_back_0 23 rfl rfl)
theorem dX1_back_24 : decode cX1_back 24 = .ok (.getfield 19, 3) := dk_180 0 19 (dk_at dksX1_back_1 0 rfl rfl)
theorem dX1_back_27 : decode cX1_back 27 = .ok (.iload_n 1, 1) := dk_27 (dk_at dksX1_back_1 3 rfl rfl)
theorem dX1_back_28 : decode cX1_back 28 = .ok (.invokevirtual 268, 3) := dk_182 1 12 (dk_at dksX1_back_1 4 rfl rfl)
theorem dX1_back_31 : decode cX1_back 31 = .ok (.aload_n 0, 1) := dk_42 (dk_at dksX1_back_1 7 rfl rfl)
theorem dX1_back_32 : decode cX1_back 32 = .ok (.getfield 19, 3) := dk_180 0 19 (dk_at dksX1_back_1 8 rfl rfl)
theorem dX1_back_35 : decode cX1_back 35 = .ok (.getfield 154, 3) := dk_180 0 154 (dk_at dksX1_back_1 11 rfl rfl)
theorem dX1_back_38 : decode cX1_back 38 = .ok (.ireturn, 1) := dk_172 (dk_at dksX1_back_1 14 rfl rfl)
abbrev cX1_stands : ByteArray := prog_1_method_21_code
def yX1_stands : MethodName := ⟨RX1, "stands", "(IIII)Z"⟩
def dkwX1_stands_2 : List UInt8 := [180, 0, 19, 29, 27, 28, 182, 0, 247, 167, 0, 13, 42, 180, 0, 19, 29, 27, 28, 182, 0, 251, 172]
abbrev dktX1_stands_2 : List UInt8 := dkwX1_stands_2 ++ []
def dkwX1_stands_1 : List UInt8 := [153, 0, 9, 21, 4, 4, 160, 0, 7, 4, 167, 0, 4, 3, 184, 0, 164, 21, 4, 154, 0, 16, 42]
abbrev dktX1_stands_1 : List UInt8 := dkwX1_stands_1 ++ dktX1_stands_2
def dkwX1_stands_0 : List UInt8 := [42, 27, 182, 0, 220, 87, 42, 28, 182, 0, 220, 87, 42, 29, 182, 0, 254, 153, 0, 18, 21, 4]
abbrev dktX1_stands_0 : List UInt8 := dkwX1_stands_0 ++ dktX1_stands_1
theorem dksX1_stands_0 : cX1_stands.data.toList.drop 0 = dktX1_stands_0 := by decide +kernel
theorem dksX1_stands_1 : cX1_stands.data.toList.drop 22 = dktX1_stands_1 := dk_seg dksX1_stands_0 22 rfl rfl
theorem dksX1_stands_2 : cX1_stands.data.toList.drop 45 = dktX1_stands_2 := dk_seg dksX1_stands_1 23 rfl rfl
theorem dX1_stands_0 : decode cX1_stands 0 = .ok (.aload_n 0, 1) := dk_42 (dk_at dksX1_stands_0 0 rfl rfl)
theorem dX1_stands_1 : decode cX1_stands 1 = .ok (.iload_n 1, 1) := dk_27 (dk_at dksX1_stands_0 1 rfl rfl)
theorem dX1_stands_2 : decode cX1_stands 2 = .ok (.invokevirtual 220, 3) := dk_182 0 220 (dk_at dksX1_stands_0 2 rfl rfl)
theorem dX1_stands_5 : decode cX1_stands 5 = .ok (.pop, 1) := dk_87 (dk_at dksX1_stands_0 5 rfl rfl)
theorem dX1_stands_6 : decode cX1_stands 6 = .ok (.aload_n 0, 1) := dk_42 (dk_at dksX1_stands_0 6 rfl rfl)
theorem dX1_stands_7 : decode cX1_stands 7 = .ok (.iload_n 2, 1) := dk_28 (dk_at dksX1_stands_0 7 rfl rfl)
theorem dX1_stands_8 : decode cX1_stands 8 = .ok (.invokevirtual 220, 3) := dk_182 0 220 (dk_at dksX1_stands_0 8 rfl rfl)
theorem dX1_stands_11 : decode cX1_stands 11 = .ok (.pop, 1) := dk_87 (dk_at dksX1_stands_0 11 rfl rfl)
theorem dX1_stands_12 : decode cX1_stands 12 = .ok (.aload_n 0, 1) := dk_42 (dk_at dksX1_stands_0 12 rfl rfl)
theorem dX1_stands_13 : decode cX1_stands 13 = .ok (.iload_n 3, 1) := dk_29 (dk_at dksX1_stands_0 13 rfl rfl)
theorem dX1_stands_14 : decode cX1_stands 14 = .ok (.invokevirtual 254, 3) := dk_182 0 254 (dk_at dksX1_stands_0 14 rfl rfl)
theorem dX1_stands_17 : decode cX1_stands 17 = .ok (.ifCond .eq 18, 3) := dk_153 0 18 (dk_at dksX1_stands_0 17 rfl rfl)
theorem dX1_stands_20 : decode cX1_stands 20 = .ok (.iload 4, 2) := dk_21 4 (dk_at dksX1_stands_0 20 rfl rfl)
theorem dX1_stands_22 : decode cX1_stands 22 = .ok (.ifCond .eq 9, 3) := dk_153 0 9 (dk_at dksX1_stands_1 0 rfl rfl)
theorem dX1_stands_25 : decode cX1_stands 25 = .ok (.iload 4, 2) := dk_21 4 (dk_at dksX1_stands_1 3 rfl rfl)
theorem dX1_stands_27 : decode cX1_stands 27 = .ok (.iconst 1, 1) := dk_4 (dk_at dksX1_stands_1 5 rfl rfl)
theorem dX1_stands_28 : decode cX1_stands 28 = .ok (.if_icmp .ne 7, 3) := dk_160 0 7 (dk_at dksX1_stands_1 6 rfl rfl)
theorem dX1_stands_31 : decode cX1_stands 31 = .ok (.iconst 1, 1) := dk_4 (dk_at dksX1_stands_1 9 rfl rfl)
theorem dX1_stands_32 : decode cX1_stands 32 = .ok (.goto 4, 3) := dk_167 0 4 (dk_at dksX1_stands_1 10 rfl rfl)
theorem dX1_stands_35 : decode cX1_stands 35 = .ok (.iconst 0, 1) := dk_3 (dk_at dksX1_stands_1 13 rfl rfl)
theorem dX1_stands_36 : decode cX1_stands 36 = .ok (.invokestatic 164, 3) := dk_184 0 164 (dk_at dksX1_stands_1 14 rfl rfl)
theorem dX1_stands_39 : decode cX1_stands 39 = .ok (.iload 4, 2) := dk_21 4 (dk_at dksX1_stands_1 17 rfl rfl)
theorem dX1_stands_41 : decode cX1_stands 41 = .ok (.ifCond .ne 16, 3) := dk_154 0 16 (dk_at dksX1_stands_1 19 rfl rfl)
theorem dX1_stands_44 : decode cX1_stands 44 = .ok (.aload_n 0, 1) := dk_42 (dk_at dksX1_stands_1 22 rfl rfl)
theorem dX1_stands_45 : decode cX1_stands 45 = .ok (.getfield 19, 3) := dk_180 0 19 (dk_at dksX1_stands_2 0 rfl rfl)
theorem dX1_stands_48 : decode cX1_stands 48 = .ok (.iload_n 3, 1) := dk_29 (dk_at dksX1_stands_2 3 rfl rfl)
theorem dX1_stands_49 : decode cX1_stands 49 = .ok (.iload_n 1, 1) := dk_27 (dk_at dksX1_stands_2 4 rfl rfl)
theorem dX1_stands_50 : decode cX1_stands 50 = .ok (.iload_n 2, 1) := dk_28 (dk_at dksX1_stands_2 5 rfl rfl)
theorem dX1_stands_51 : decode cX1_stands 51 = .ok (.invokevirtual 247, 3) := dk_182 0 247 (dk_at dksX1_stands_2 6 rfl rfl)
theorem dX1_stands_54 : decode cX1_stands 54 = .ok (.goto 13, 3) := dk_167 0 13 (dk_at dksX1_stands_2 9 rfl rfl)
theorem dX1_stands_57 : decode cX1_stands 57 = .ok (.aload_n 0, 1) := dk_42 (dk_at dksX1_stands_2 12 rfl rfl)
theorem dX1_stands_58 : decode cX1_stands 58 = .ok (.getfield 19, 3) := dk_180 0 19 (dk_at dksX1_stands_2 13 rfl rfl)
theorem dX1_stands_61 : decode cX1_stands 61 = .ok (.iload_n 3, 1) := dk_29 (dk_at dksX1_stands_2 16 rfl rfl)
theorem dX1_stands_62 : decode cX1_stands 62 = .ok (.iload_n 1, 1) := dk_27 (dk_at dksX1_stands_2 17 rfl rfl)
theorem dX1_stands_63 : decode cX1_stands 63 = .ok (.iload_n 2, 1) := dk_28 (dk_at dksX1_stands_2 18 rfl rfl)
theorem dX1_stands_64 : decode cX1_stands 64 = .ok (.invokevirtual 251, 3) := dk_182 0 251 (dk_at dksX1_stands_2 19 rfl rfl)
theorem dX1_stands_67 : decode cX1_stands 67 = .ok (.ireturn, 1) := dk_172 (dk_at dksX1_stands_2 22 rfl rfl)
abbrev cX1_ride : ByteArray := prog_1_method_25_code
def yX1_ride : MethodName := ⟨RX1, "ride", "(III)I"⟩
def dkwX1_ride_1 : List UInt8 := [182, 1, 41, 172]
abbrev dktX1_ride_1 : List UInt8 := dkwX1_ride_1 ++ []
def dkwX1_ride_0 : List UInt8 := [42, 27, 182, 1, 38, 42, 28, 182, 1, 38, 42, 29, 182, 0, 254, 184, 0, 164, 42, 27, 28, 29]
abbrev dktX1_ride_0 : List UInt8 := dkwX1_ride_0 ++ dktX1_ride_1
theorem dksX1_ride_0 : cX1_ride.data.toList.drop 0 = dktX1_ride_0 := by decide +kernel
theorem dksX1_ride_1 : cX1_ride.data.toList.drop 22 = dktX1_ride_1 := dk_seg dksX1_ride_0 22 rfl rfl
theorem dX1_ride_0 : decode cX1_ride 0 = .ok (.aload_n 0, 1) := dk_42 (dk_at dksX1_ride_0 0 rfl rfl)
theorem dX1_ride_1 : decode cX1_ride 1 = .ok (.iload_n 1, 1) := dk_27 (dk_at dksX1_ride_0 1 rfl rfl)
theorem dX1_ride_2 : decode cX1_ride 2 = .ok (.invokevirtual 294, 3) := dk_182 1 38 (dk_at dksX1_ride_0 2 rfl rfl)
theorem dX1_ride_5 : decode cX1_ride 5 = .ok (.aload_n 0, 1) := dk_42 (dk_at dksX1_ride_0 5 rfl rfl)
theorem dX1_ride_6 : decode cX1_ride 6 = .ok (.iload_n 2, 1) := dk_28 (dk_at dksX1_ride_0 6 rfl rfl)
theorem dX1_ride_7 : decode cX1_ride 7 = .ok (.invokevirtual 294, 3) := dk_182 1 38 (dk_at dksX1_ride_0 7 rfl rfl)
theorem dX1_ride_10 : decode cX1_ride 10 = .ok (.aload_n 0, 1) := dk_42 (dk_at dksX1_ride_0 10 rfl rfl)
theorem dX1_ride_11 : decode cX1_ride 11 = .ok (.iload_n 3, 1) := dk_29 (dk_at dksX1_ride_0 11 rfl rfl)
theorem dX1_ride_12 : decode cX1_ride 12 = .ok (.invokevirtual 254, 3) := dk_182 0 254 (dk_at dksX1_ride_0 12 rfl rfl)
theorem dX1_ride_15 : decode cX1_ride 15 = .ok (.invokestatic 164, 3) := dk_184 0 164 (dk_at dksX1_ride_0 15 rfl rfl)
theorem dX1_ride_18 : decode cX1_ride 18 = .ok (.aload_n 0, 1) := dk_42 (dk_at dksX1_ride_0 18 rfl rfl)
theorem dX1_ride_19 : decode cX1_ride 19 = .ok (.iload_n 1, 1) := dk_27 (dk_at dksX1_ride_0 19 rfl rfl)
theorem dX1_ride_20 : decode cX1_ride 20 = .ok (.iload_n 2, 1) := dk_28 (dk_at dksX1_ride_0 20 rfl rfl)
theorem dX1_ride_21 : decode cX1_ride 21 = .ok (.iload_n 3, 1) := dk_29 (dk_at dksX1_ride_0 21 rfl rfl)
theorem dX1_ride_22 : decode cX1_ride 22 = .ok (.invokevirtual 297, 3) := dk_182 1 41 (dk_at dksX1_ride_1 0 rfl rfl)
theorem dX1_ride_25 : decode cX1_ride 25 = .ok (.ireturn, 1) := dk_172 (dk_at dksX1_ride_1 3 rfl rfl)
abbrev cX1_needCorner : ByteArray := prog_1_method_4_code
def yX1_needCorner : MethodName := ⟨RX1, "needCorner", "(I)V"⟩
def dkwX1_needCorner_0 : List UInt8 := [27, 155, 0, 11, 27, 42, 182, 0, 133, 161, 0, 11, 187, 0, 135, 89, 183, 0, 137, 191, 177]
abbrev dktX1_needCorner_0 : List UInt8 := dkwX1_needCorner_0 ++ []
theorem dksX1_needCorner_0 : cX1_needCorner.data.toList.drop 0 = dktX1_needCorner_0 := by decide +kernel
theorem dX1_needCorner_0 : decode cX1_needCorner 0 = .ok (.iload_n 1, 1) := dk_27 (dk_at dksX1_needCorner_0 0 rfl rfl)
theorem dX1_needCorner_1 : decode cX1_needCorner 1 = .ok (.ifCond .lt 11, 3) := dk_155 0 11 (dk_at dksX1_needCorner_0 1 rfl rfl)
theorem dX1_needCorner_4 : decode cX1_needCorner 4 = .ok (.iload_n 1, 1) := dk_27 (dk_at dksX1_needCorner_0 4 rfl rfl)
theorem dX1_needCorner_5 : decode cX1_needCorner 5 = .ok (.aload_n 0, 1) := dk_42 (dk_at dksX1_needCorner_0 5 rfl rfl)
theorem dX1_needCorner_6 : decode cX1_needCorner 6 = .ok (.invokevirtual 133, 3) := dk_182 0 133 (dk_at dksX1_needCorner_0 6 rfl rfl)
theorem dX1_needCorner_9 : decode cX1_needCorner 9 = .ok (.if_icmp .lt 11, 3) := dk_161 0 11 (dk_at dksX1_needCorner_0 9 rfl rfl)
theorem dX1_needCorner_12 : decode cX1_needCorner 12 = .ok (.new 135, 3) := dk_187 0 135 (dk_at dksX1_needCorner_0 12 rfl rfl)
theorem dX1_needCorner_15 : decode cX1_needCorner 15 = .ok (.dup, 1) := dk_89 (dk_at dksX1_needCorner_0 15 rfl rfl)
theorem dX1_needCorner_16 : decode cX1_needCorner 16 = .ok (.invokespecial 137, 3) := dk_183 0 137 (dk_at dksX1_needCorner_0 16 rfl rfl)
theorem dX1_needCorner_19 : decode cX1_needCorner 19 = .ok (.athrow, 1) := dk_191 (dk_at dksX1_needCorner_0 19 rfl rfl)
theorem dX1_needCorner_20 : decode cX1_needCorner 20 = .ok (.return_, 1) := dk_177 (dk_at dksX1_needCorner_0 20 rfl rfl)
abbrev cX1_rideOf : ByteArray := prog_1_method_24_code
def yX1_rideOf : MethodName := ⟨RX1, "rideOf", "(III)I"⟩
def dkwX1_rideOf_1 : List UInt8 := [19, 1, 21, 162, 0, 8, 21, 4, 167, 0, 4, 2, 172]
abbrev dktX1_rideOf_1 : List UInt8 := dkwX1_rideOf_1 ++ []
def dkwX1_rideOf_0 : List UInt8 := [27, 28, 160, 0, 5, 3, 172, 42, 28, 29, 182, 1, 32, 42, 27, 182, 1, 35, 54, 4, 21, 4]
abbrev dktX1_rideOf_0 : List UInt8 := dkwX1_rideOf_0 ++ dktX1_rideOf_1
theorem dksX1_rideOf_0 : cX1_rideOf.data.toList.drop 0 = dktX1_rideOf_0 := by decide +kernel
theorem dksX1_rideOf_1 : cX1_rideOf.data.toList.drop 22 = dktX1_rideOf_1 := dk_seg dksX1_rideOf_0 22 rfl rfl
theorem dX1_rideOf_0 : decode cX1_rideOf 0 = .ok (.iload_n 1, 1) := dk_27 (dk_at dksX1_rideOf_0 0 rfl rfl)
theorem dX1_rideOf_1 : decode cX1_rideOf 1 = .ok (.iload_n 2, 1) := dk_28 (dk_at dksX1_rideOf_0 1 rfl rfl)
theorem dX1_rideOf_2 : decode cX1_rideOf 2 = .ok (.if_icmp .ne 5, 3) := dk_160 0 5 (dk_at dksX1_rideOf_0 2 rfl rfl)
theorem dX1_rideOf_5 : decode cX1_rideOf 5 = .ok (.iconst 0, 1) := dk_3 (dk_at dksX1_rideOf_0 5 rfl rfl)
theorem dX1_rideOf_6 : decode cX1_rideOf 6 = .ok (.ireturn, 1) := dk_172 (dk_at dksX1_rideOf_0 6 rfl rfl)
theorem dX1_rideOf_7 : decode cX1_rideOf 7 = .ok (.aload_n 0, 1) := dk_42 (dk_at dksX1_rideOf_0 7 rfl rfl)
theorem dX1_rideOf_8 : decode cX1_rideOf 8 = .ok (.iload_n 2, 1) := dk_28 (dk_at dksX1_rideOf_0 8 rfl rfl)
theorem dX1_rideOf_9 : decode cX1_rideOf 9 = .ok (.iload_n 3, 1) := dk_29 (dk_at dksX1_rideOf_0 9 rfl rfl)
theorem dX1_rideOf_10 : decode cX1_rideOf 10 = .ok (.invokevirtual 288, 3) := dk_182 1 32 (dk_at dksX1_rideOf_0 10 rfl rfl)
theorem dX1_rideOf_13 : decode cX1_rideOf 13 = .ok (.aload_n 0, 1) := dk_42 (dk_at dksX1_rideOf_0 13 rfl rfl)
theorem dX1_rideOf_14 : decode cX1_rideOf 14 = .ok (.iload_n 1, 1) := dk_27 (dk_at dksX1_rideOf_0 14 rfl rfl)
theorem dX1_rideOf_15 : decode cX1_rideOf 15 = .ok (.invokevirtual 291, 3) := dk_182 1 35 (dk_at dksX1_rideOf_0 15 rfl rfl)
theorem dX1_rideOf_18 : decode cX1_rideOf 18 = .ok (.istore 4, 2) := dk_54 4 (dk_at dksX1_rideOf_0 18 rfl rfl)
theorem dX1_rideOf_20 : decode cX1_rideOf 20 = .ok (.iload 4, 2) := dk_21 4 (dk_at dksX1_rideOf_0 20 rfl rfl)
theorem dX1_rideOf_22 : decode cX1_rideOf 22 = .ok (.ldc_w 277, 3) := dk_19 1 21 (dk_at dksX1_rideOf_1 0 rfl rfl)
theorem dX1_rideOf_25 : decode cX1_rideOf 25 = .ok (.if_icmp .ge 8, 3) := dk_162 0 8 (dk_at dksX1_rideOf_1 3 rfl rfl)
theorem dX1_rideOf_28 : decode cX1_rideOf 28 = .ok (.iload 4, 2) := dk_21 4 (dk_at dksX1_rideOf_1 6 rfl rfl)
theorem dX1_rideOf_30 : decode cX1_rideOf 30 = .ok (.goto 4, 3) := dk_167 0 4 (dk_at dksX1_rideOf_1 8 rfl rfl)
theorem dX1_rideOf_33 : decode cX1_rideOf 33 = .ok (.iconst (-1), 1) := dk_2 (dk_at dksX1_rideOf_1 11 rfl rfl)
theorem dX1_rideOf_34 : decode cX1_rideOf 34 = .ok (.ireturn, 1) := dk_172 (dk_at dksX1_rideOf_1 12 rfl rfl)
abbrev cX1_findRest : ByteArray := prog_1_method_22_code
def yX1_findRest : MethodName := ⟨RX1, "findRest", "(II)V"⟩
def dkwX1_findRest_8 : List UInt8 := [62, 132, 5, 1, 167, 255, 161, 132, 4, 1, 167, 255, 125, 167, 255, 113, 177]
abbrev dktX1_findRest_8 : List UInt8 := dkwX1_findRest_8 ++ []
def dkwX1_findRest_7 : List UInt8 := [180, 0, 42, 21, 4, 42, 180, 0, 42, 21, 5, 46, 42, 180, 0, 12, 21, 5, 182, 1, 22, 96, 79, 4]
abbrev dktX1_findRest_7 : List UInt8 := dkwX1_findRest_7 ++ dktX1_findRest_8
def dkwX1_findRest_6 : List UInt8 := [21, 4, 46, 162, 0, 44, 42, 21, 4, 21, 5, 28, 182, 1, 1, 154, 0, 6, 167, 0, 29, 42]
abbrev dktX1_findRest_6 : List UInt8 := dkwX1_findRest_6 ++ dktX1_findRest_7
def dkwX1_findRest_5 : List UInt8 := [153, 0, 71, 42, 180, 0, 42, 21, 5, 46, 42, 180, 0, 12, 21, 5, 182, 1, 22, 96, 42, 180, 0, 42]
abbrev dktX1_findRest_5 : List UInt8 := dkwX1_findRest_5 ++ dktX1_findRest_6
def dkwX1_findRest_4 : List UInt8 := [3, 54, 5, 21, 5, 42, 180, 0, 12, 182, 1, 15, 162, 0, 89, 42, 180, 0, 12, 21, 5, 182, 0, 150]
abbrev dktX1_findRest_4 : List UInt8 := dkwX1_findRest_4 ++ dktX1_findRest_5
def dkwX1_findRest_3 : List UInt8 := [180, 0, 12, 182, 1, 15, 162, 0, 125, 42, 180, 0, 12, 21, 4, 182, 0, 150, 154, 0, 6, 167, 0, 104]
abbrev dktX1_findRest_3 : List UInt8 := dkwX1_findRest_3 ++ dktX1_findRest_4
def dkwX1_findRest_2 : List UInt8 := [19, 1, 21, 79, 132, 3, 1, 167, 255, 206, 4, 62, 29, 153, 0, 145, 3, 62, 3, 54, 4, 21, 4, 42]
abbrev dktX1_findRest_2 : List UInt8 := dkwX1_findRest_2 ++ dktX1_findRest_3
def dkwX1_findRest_1 : List UInt8 := [182, 0, 150, 153, 0, 19, 42, 180, 0, 12, 29, 182, 1, 18, 27, 160, 0, 7, 3, 167, 0, 6]
abbrev dktX1_findRest_1 : List UInt8 := dkwX1_findRest_1 ++ dktX1_findRest_2
def dkwX1_findRest_0 : List UInt8 := [3, 62, 29, 42, 180, 0, 12, 182, 1, 15, 162, 0, 45, 42, 180, 0, 42, 29, 42, 180, 0, 12, 29]
abbrev dktX1_findRest_0 : List UInt8 := dkwX1_findRest_0 ++ dktX1_findRest_1
theorem dksX1_findRest_0 : cX1_findRest.data.toList.drop 0 = dktX1_findRest_0 := by decide +kernel
theorem dksX1_findRest_1 : cX1_findRest.data.toList.drop 23 = dktX1_findRest_1 := dk_seg dksX1_findRest_0 23 rfl rfl
theorem dksX1_findRest_2 : cX1_findRest.data.toList.drop 45 = dktX1_findRest_2 := dk_seg dksX1_findRest_1 22 rfl rfl
theorem dksX1_findRest_3 : cX1_findRest.data.toList.drop 69 = dktX1_findRest_3 := dk_seg dksX1_findRest_2 24 rfl rfl
theorem dksX1_findRest_4 : cX1_findRest.data.toList.drop 93 = dktX1_findRest_4 := dk_seg dksX1_findRest_3 24 rfl rfl
theorem dksX1_findRest_5 : cX1_findRest.data.toList.drop 117 = dktX1_findRest_5 := dk_seg dksX1_findRest_4 24 rfl rfl
theorem dksX1_findRest_6 : cX1_findRest.data.toList.drop 141 = dktX1_findRest_6 := dk_seg dksX1_findRest_5 24 rfl rfl
theorem dksX1_findRest_7 : cX1_findRest.data.toList.drop 163 = dktX1_findRest_7 := dk_seg dksX1_findRest_6 22 rfl rfl
theorem dksX1_findRest_8 : cX1_findRest.data.toList.drop 187 = dktX1_findRest_8 := dk_seg dksX1_findRest_7 24 rfl rfl
theorem dX1_findRest_0 : decode cX1_findRest 0 = .ok (.iconst 0, 1) := dk_3 (dk_at dksX1_findRest_0 0 rfl rfl)
theorem dX1_findRest_1 : decode cX1_findRest 1 = .ok (.istore_n 3, 1) := dk_62 (dk_at dksX1_findRest_0 1 rfl rfl)
theorem dX1_findRest_2 : decode cX1_findRest 2 = .ok (.iload_n 3, 1) := dk_29 (dk_at dksX1_findRest_0 2 rfl rfl)
theorem dX1_findRest_3 : decode cX1_findRest 3 = .ok (.aload_n 0, 1) := dk_42 (dk_at dksX1_findRest_0 3 rfl rfl)
theorem dX1_findRest_4 : decode cX1_findRest 4 = .ok (.getfield 12, 3) := dk_180 0 12 (dk_at dksX1_findRest_0 4 rfl rfl)
theorem dX1_findRest_7 : decode cX1_findRest 7 = .ok (.invokevirtual 271, 3) := dk_182 1 15 (dk_at dksX1_findRest_0 7 rfl rfl)
theorem dX1_findRest_10 : decode cX1_findRest 10 = .ok (.if_icmp .ge 45, 3) := dk_162 0 45 (dk_at dksX1_findRest_0 10 rfl rfl)
theorem dX1_findRest_13 : decode cX1_findRest 13 = .ok (.aload_n 0, 1) := dk_42 (dk_at dksX1_findRest_0 13 rfl rfl)
theorem dX1_findRest_14 : decode cX1_findRest 14 = .ok (.getfield 42, 3) := dk_180 0 42 (dk_at dksX1_findRest_0 14 rfl rfl)
theorem dX1_findRest_17 : decode cX1_findRest 17 = .ok (.iload_n 3, 1) := dk_29 (dk_at dksX1_findRest_0 17 rfl rfl)
theorem dX1_findRest_18 : decode cX1_findRest 18 = .ok (.aload_n 0, 1) := dk_42 (dk_at dksX1_findRest_0 18 rfl rfl)
theorem dX1_findRest_19 : decode cX1_findRest 19 = .ok (.getfield 12, 3) := dk_180 0 12 (dk_at dksX1_findRest_0 19 rfl rfl)
theorem dX1_findRest_22 : decode cX1_findRest 22 = .ok (.iload_n 3, 1) := dk_29 (dk_at dksX1_findRest_0 22 rfl rfl)
theorem dX1_findRest_23 : decode cX1_findRest 23 = .ok (.invokevirtual 150, 3) := dk_182 0 150 (dk_at dksX1_findRest_1 0 rfl rfl)
theorem dX1_findRest_26 : decode cX1_findRest 26 = .ok (.ifCond .eq 19, 3) := dk_153 0 19 (dk_at dksX1_findRest_1 3 rfl rfl)
theorem dX1_findRest_29 : decode cX1_findRest 29 = .ok (.aload_n 0, 1) := dk_42 (dk_at dksX1_findRest_1 6 rfl rfl)
theorem dX1_findRest_30 : decode cX1_findRest 30 = .ok (.getfield 12, 3) := dk_180 0 12 (dk_at dksX1_findRest_1 7 rfl rfl)
theorem dX1_findRest_33 : decode cX1_findRest 33 = .ok (.iload_n 3, 1) := dk_29 (dk_at dksX1_findRest_1 10 rfl rfl)
theorem dX1_findRest_34 : decode cX1_findRest 34 = .ok (.invokevirtual 274, 3) := dk_182 1 18 (dk_at dksX1_findRest_1 11 rfl rfl)
theorem dX1_findRest_37 : decode cX1_findRest 37 = .ok (.iload_n 1, 1) := dk_27 (dk_at dksX1_findRest_1 14 rfl rfl)
theorem dX1_findRest_38 : decode cX1_findRest 38 = .ok (.if_icmp .ne 7, 3) := dk_160 0 7 (dk_at dksX1_findRest_1 15 rfl rfl)
theorem dX1_findRest_41 : decode cX1_findRest 41 = .ok (.iconst 0, 1) := dk_3 (dk_at dksX1_findRest_1 18 rfl rfl)
theorem dX1_findRest_42 : decode cX1_findRest 42 = .ok (.goto 6, 3) := dk_167 0 6 (dk_at dksX1_findRest_1 19 rfl rfl)
theorem dX1_findRest_45 : decode cX1_findRest 45 = .ok (.ldc_w 277, 3) := dk_19 1 21 (dk_at dksX1_findRest_2 0 rfl rfl)
theorem dX1_findRest_48 : decode cX1_findRest 48 = .ok (.iastore, 1) := dk_79 (dk_at dksX1_findRest_2 3 rfl rfl)
theorem dX1_findRest_49 : decode cX1_findRest 49 = .ok (.iinc 3 1, 3) := dk_132 3 1 (dk_at dksX1_findRest_2 4 rfl rfl)
theorem dX1_findRest_52 : decode cX1_findRest 52 = .ok (.goto (-50), 3) := dk_167 255 206 (dk_at dksX1_findRest_2 7 rfl rfl)
theorem dX1_findRest_55 : decode cX1_findRest 55 = .ok (.iconst 1, 1) := dk_4 (dk_at dksX1_findRest_2 10 rfl rfl)
theorem dX1_findRest_56 : decode cX1_findRest 56 = .ok (.istore_n 3, 1) := dk_62 (dk_at dksX1_findRest_2 11 rfl rfl)
theorem dX1_findRest_57 : decode cX1_findRest 57 = .ok (.iload_n 3, 1) := dk_29 (dk_at dksX1_findRest_2 12 rfl rfl)
theorem dX1_findRest_58 : decode cX1_findRest 58 = .ok (.ifCond .eq 145, 3) := dk_153 0 145 (dk_at dksX1_findRest_2 13 rfl rfl)
theorem dX1_findRest_61 : decode cX1_findRest 61 = .ok (.iconst 0, 1) := dk_3 (dk_at dksX1_findRest_2 16 rfl rfl)
theorem dX1_findRest_62 : decode cX1_findRest 62 = .ok (.istore_n 3, 1) := dk_62 (dk_at dksX1_findRest_2 17 rfl rfl)
theorem dX1_findRest_63 : decode cX1_findRest 63 = .ok (.iconst 0, 1) := dk_3 (dk_at dksX1_findRest_2 18 rfl rfl)
theorem dX1_findRest_64 : decode cX1_findRest 64 = .ok (.istore 4, 2) := dk_54 4 (dk_at dksX1_findRest_2 19 rfl rfl)
theorem dX1_findRest_66 : decode cX1_findRest 66 = .ok (.iload 4, 2) := dk_21 4 (dk_at dksX1_findRest_2 21 rfl rfl)
theorem dX1_findRest_68 : decode cX1_findRest 68 = .ok (.aload_n 0, 1) := dk_42 (dk_at dksX1_findRest_2 23 rfl rfl)
theorem dX1_findRest_69 : decode cX1_findRest 69 = .ok (.getfield 12, 3) := dk_180 0 12 (dk_at dksX1_findRest_3 0 rfl rfl)
theorem dX1_findRest_72 : decode cX1_findRest 72 = .ok (.invokevirtual 271, 3) := dk_182 1 15 (dk_at dksX1_findRest_3 3 rfl rfl)
theorem dX1_findRest_75 : decode cX1_findRest 75 = .ok (.if_icmp .ge 125, 3) := dk_162 0 125 (dk_at dksX1_findRest_3 6 rfl rfl)
theorem dX1_findRest_78 : decode cX1_findRest 78 = .ok (.aload_n 0, 1) := dk_42 (dk_at dksX1_findRest_3 9 rfl rfl)
theorem dX1_findRest_79 : decode cX1_findRest 79 = .ok (.getfield 12, 3) := dk_180 0 12 (dk_at dksX1_findRest_3 10 rfl rfl)
theorem dX1_findRest_82 : decode cX1_findRest 82 = .ok (.iload 4, 2) := dk_21 4 (dk_at dksX1_findRest_3 13 rfl rfl)
theorem dX1_findRest_84 : decode cX1_findRest 84 = .ok (.invokevirtual 150, 3) := dk_182 0 150 (dk_at dksX1_findRest_3 15 rfl rfl)
theorem dX1_findRest_87 : decode cX1_findRest 87 = .ok (.ifCond .ne 6, 3) := dk_154 0 6 (dk_at dksX1_findRest_3 18 rfl rfl)
theorem dX1_findRest_90 : decode cX1_findRest 90 = .ok (.goto 104, 3) := dk_167 0 104 (dk_at dksX1_findRest_3 21 rfl rfl)
theorem dX1_findRest_93 : decode cX1_findRest 93 = .ok (.iconst 0, 1) := dk_3 (dk_at dksX1_findRest_4 0 rfl rfl)
theorem dX1_findRest_94 : decode cX1_findRest 94 = .ok (.istore 5, 2) := dk_54 5 (dk_at dksX1_findRest_4 1 rfl rfl)
theorem dX1_findRest_96 : decode cX1_findRest 96 = .ok (.iload 5, 2) := dk_21 5 (dk_at dksX1_findRest_4 3 rfl rfl)
theorem dX1_findRest_98 : decode cX1_findRest 98 = .ok (.aload_n 0, 1) := dk_42 (dk_at dksX1_findRest_4 5 rfl rfl)
theorem dX1_findRest_99 : decode cX1_findRest 99 = .ok (.getfield 12, 3) := dk_180 0 12 (dk_at dksX1_findRest_4 6 rfl rfl)
theorem dX1_findRest_102 : decode cX1_findRest 102 = .ok (.invokevirtual 271, 3) := dk_182 1 15 (dk_at dksX1_findRest_4 9 rfl rfl)
theorem dX1_findRest_105 : decode cX1_findRest 105 = .ok (.if_icmp .ge 89, 3) := dk_162 0 89 (dk_at dksX1_findRest_4 12 rfl rfl)
theorem dX1_findRest_108 : decode cX1_findRest 108 = .ok (.aload_n 0, 1) := dk_42 (dk_at dksX1_findRest_4 15 rfl rfl)
theorem dX1_findRest_109 : decode cX1_findRest 109 = .ok (.getfield 12, 3) := dk_180 0 12 (dk_at dksX1_findRest_4 16 rfl rfl)
theorem dX1_findRest_112 : decode cX1_findRest 112 = .ok (.iload 5, 2) := dk_21 5 (dk_at dksX1_findRest_4 19 rfl rfl)
theorem dX1_findRest_114 : decode cX1_findRest 114 = .ok (.invokevirtual 150, 3) := dk_182 0 150 (dk_at dksX1_findRest_4 21 rfl rfl)
theorem dX1_findRest_117 : decode cX1_findRest 117 = .ok (.ifCond .eq 71, 3) := dk_153 0 71 (dk_at dksX1_findRest_5 0 rfl rfl)
theorem dX1_findRest_120 : decode cX1_findRest 120 = .ok (.aload_n 0, 1) := dk_42 (dk_at dksX1_findRest_5 3 rfl rfl)
theorem dX1_findRest_121 : decode cX1_findRest 121 = .ok (.getfield 42, 3) := dk_180 0 42 (dk_at dksX1_findRest_5 4 rfl rfl)
theorem dX1_findRest_124 : decode cX1_findRest 124 = .ok (.iload 5, 2) := dk_21 5 (dk_at dksX1_findRest_5 7 rfl rfl)
theorem dX1_findRest_126 : decode cX1_findRest 126 = .ok (.iaload, 1) := dk_46 (dk_at dksX1_findRest_5 9 rfl rfl)
theorem dX1_findRest_127 : decode cX1_findRest 127 = .ok (.aload_n 0, 1) := dk_42 (dk_at dksX1_findRest_5 10 rfl rfl)
theorem dX1_findRest_128 : decode cX1_findRest 128 = .ok (.getfield 12, 3) := dk_180 0 12 (dk_at dksX1_findRest_5 11 rfl rfl)
theorem dX1_findRest_131 : decode cX1_findRest 131 = .ok (.iload 5, 2) := dk_21 5 (dk_at dksX1_findRest_5 14 rfl rfl)
theorem dX1_findRest_133 : decode cX1_findRest 133 = .ok (.invokevirtual 278, 3) := dk_182 1 22 (dk_at dksX1_findRest_5 16 rfl rfl)
theorem dX1_findRest_136 : decode cX1_findRest 136 = .ok (.iadd, 1) := dk_96 (dk_at dksX1_findRest_5 19 rfl rfl)
theorem dX1_findRest_137 : decode cX1_findRest 137 = .ok (.aload_n 0, 1) := dk_42 (dk_at dksX1_findRest_5 20 rfl rfl)
theorem dX1_findRest_138 : decode cX1_findRest 138 = .ok (.getfield 42, 3) := dk_180 0 42 (dk_at dksX1_findRest_5 21 rfl rfl)
theorem dX1_findRest_141 : decode cX1_findRest 141 = .ok (.iload 4, 2) := dk_21 4 (dk_at dksX1_findRest_6 0 rfl rfl)
theorem dX1_findRest_143 : decode cX1_findRest 143 = .ok (.iaload, 1) := dk_46 (dk_at dksX1_findRest_6 2 rfl rfl)
theorem dX1_findRest_144 : decode cX1_findRest 144 = .ok (.if_icmp .ge 44, 3) := dk_162 0 44 (dk_at dksX1_findRest_6 3 rfl rfl)
theorem dX1_findRest_147 : decode cX1_findRest 147 = .ok (.aload_n 0, 1) := dk_42 (dk_at dksX1_findRest_6 6 rfl rfl)
theorem dX1_findRest_148 : decode cX1_findRest 148 = .ok (.iload 4, 2) := dk_21 4 (dk_at dksX1_findRest_6 7 rfl rfl)
theorem dX1_findRest_150 : decode cX1_findRest 150 = .ok (.iload 5, 2) := dk_21 5 (dk_at dksX1_findRest_6 9 rfl rfl)
theorem dX1_findRest_152 : decode cX1_findRest 152 = .ok (.iload_n 2, 1) := dk_28 (dk_at dksX1_findRest_6 11 rfl rfl)
theorem dX1_findRest_153 : decode cX1_findRest 153 = .ok (.invokevirtual 257, 3) := dk_182 1 1 (dk_at dksX1_findRest_6 12 rfl rfl)
theorem dX1_findRest_156 : decode cX1_findRest 156 = .ok (.ifCond .ne 6, 3) := dk_154 0 6 (dk_at dksX1_findRest_6 15 rfl rfl)
theorem dX1_findRest_159 : decode cX1_findRest 159 = .ok (.goto 29, 3) := dk_167 0 29 (dk_at dksX1_findRest_6 18 rfl rfl)
theorem dX1_findRest_162 : decode cX1_findRest 162 = .ok (.aload_n 0, 1) := dk_42 (dk_at dksX1_findRest_6 21 rfl rfl)
theorem dX1_findRest_163 : decode cX1_findRest 163 = .ok (.getfield 42, 3) := dk_180 0 42 (dk_at dksX1_findRest_7 0 rfl rfl)
theorem dX1_findRest_166 : decode cX1_findRest 166 = .ok (.iload 4, 2) := dk_21 4 (dk_at dksX1_findRest_7 3 rfl rfl)
theorem dX1_findRest_168 : decode cX1_findRest 168 = .ok (.aload_n 0, 1) := dk_42 (dk_at dksX1_findRest_7 5 rfl rfl)
theorem dX1_findRest_169 : decode cX1_findRest 169 = .ok (.getfield 42, 3) := dk_180 0 42 (dk_at dksX1_findRest_7 6 rfl rfl)
theorem dX1_findRest_172 : decode cX1_findRest 172 = .ok (.iload 5, 2) := dk_21 5 (dk_at dksX1_findRest_7 9 rfl rfl)
theorem dX1_findRest_174 : decode cX1_findRest 174 = .ok (.iaload, 1) := dk_46 (dk_at dksX1_findRest_7 11 rfl rfl)
theorem dX1_findRest_175 : decode cX1_findRest 175 = .ok (.aload_n 0, 1) := dk_42 (dk_at dksX1_findRest_7 12 rfl rfl)
theorem dX1_findRest_176 : decode cX1_findRest 176 = .ok (.getfield 12, 3) := dk_180 0 12 (dk_at dksX1_findRest_7 13 rfl rfl)
theorem dX1_findRest_179 : decode cX1_findRest 179 = .ok (.iload 5, 2) := dk_21 5 (dk_at dksX1_findRest_7 16 rfl rfl)
theorem dX1_findRest_181 : decode cX1_findRest 181 = .ok (.invokevirtual 278, 3) := dk_182 1 22 (dk_at dksX1_findRest_7 18 rfl rfl)
theorem dX1_findRest_184 : decode cX1_findRest 184 = .ok (.iadd, 1) := dk_96 (dk_at dksX1_findRest_7 21 rfl rfl)
theorem dX1_findRest_185 : decode cX1_findRest 185 = .ok (.iastore, 1) := dk_79 (dk_at dksX1_findRest_7 22 rfl rfl)
theorem dX1_findRest_186 : decode cX1_findRest 186 = .ok (.iconst 1, 1) := dk_4 (dk_at dksX1_findRest_7 23 rfl rfl)
theorem dX1_findRest_187 : decode cX1_findRest 187 = .ok (.istore_n 3, 1) := dk_62 (dk_at dksX1_findRest_8 0 rfl rfl)
theorem dX1_findRest_188 : decode cX1_findRest 188 = .ok (.iinc 5 1, 3) := dk_132 5 1 (dk_at dksX1_findRest_8 1 rfl rfl)
theorem dX1_findRest_191 : decode cX1_findRest 191 = .ok (.goto (-95), 3) := dk_167 255 161 (dk_at dksX1_findRest_8 4 rfl rfl)
theorem dX1_findRest_194 : decode cX1_findRest 194 = .ok (.iinc 4 1, 3) := dk_132 4 1 (dk_at dksX1_findRest_8 7 rfl rfl)
theorem dX1_findRest_197 : decode cX1_findRest 197 = .ok (.goto (-131), 3) := dk_167 255 125 (dk_at dksX1_findRest_8 10 rfl rfl)
theorem dX1_findRest_200 : decode cX1_findRest 200 = .ok (.goto (-143), 3) := dk_167 255 113 (dk_at dksX1_findRest_8 13 rfl rfl)
theorem dX1_findRest_203 : decode cX1_findRest 203 = .ok (.return_, 1) := dk_177 (dk_at dksX1_findRest_8 16 rfl rfl)
abbrev cX1_lengthFrom : ByteArray := prog_1_method_23_code
def yX1_lengthFrom : MethodName := ⟨RX1, "lengthFrom", "(I)I"⟩
def dkwX1_lengthFrom_2 : List UInt8 := [46, 42, 180, 0, 12, 29, 182, 1, 22, 96, 184, 1, 27, 61, 132, 3, 1, 167, 255, 199, 28, 172]
abbrev dktX1_lengthFrom_2 : List UInt8 := dkwX1_lengthFrom_2 ++ []
def dkwX1_lengthFrom_1 : List UInt8 := [182, 0, 150, 153, 0, 35, 42, 180, 0, 12, 29, 182, 1, 24, 27, 160, 0, 23, 28, 42, 180, 0, 42, 29]
abbrev dktX1_lengthFrom_1 : List UInt8 := dkwX1_lengthFrom_1 ++ dktX1_lengthFrom_2
def dkwX1_lengthFrom_0 : List UInt8 := [19, 1, 21, 61, 3, 62, 29, 42, 180, 0, 12, 182, 1, 15, 162, 0, 52, 42, 180, 0, 12, 29]
abbrev dktX1_lengthFrom_0 : List UInt8 := dkwX1_lengthFrom_0 ++ dktX1_lengthFrom_1
theorem dksX1_lengthFrom_0 : cX1_lengthFrom.data.toList.drop 0 = dktX1_lengthFrom_0 := by decide +kernel
theorem dksX1_lengthFrom_1 : cX1_lengthFrom.data.toList.drop 22 = dktX1_lengthFrom_1 := dk_seg dksX1_lengthFrom_0 22 rfl rfl
theorem dksX1_lengthFrom_2 : cX1_lengthFrom.data.toList.drop 46 = dktX1_lengthFrom_2 := dk_seg dksX1_lengthFrom_1 24 rfl rfl
theorem dX1_lengthFrom_0 : decode cX1_lengthFrom 0 = .ok (.ldc_w 277, 3) := dk_19 1 21 (dk_at dksX1_lengthFrom_0 0 rfl rfl)
theorem dX1_lengthFrom_3 : decode cX1_lengthFrom 3 = .ok (.istore_n 2, 1) := dk_61 (dk_at dksX1_lengthFrom_0 3 rfl rfl)
theorem dX1_lengthFrom_4 : decode cX1_lengthFrom 4 = .ok (.iconst 0, 1) := dk_3 (dk_at dksX1_lengthFrom_0 4 rfl rfl)
theorem dX1_lengthFrom_5 : decode cX1_lengthFrom 5 = .ok (.istore_n 3, 1) := dk_62 (dk_at dksX1_lengthFrom_0 5 rfl rfl)
theorem dX1_lengthFrom_6 : decode cX1_lengthFrom 6 = .ok (.iload_n 3, 1) := dk_29 (dk_at dksX1_lengthFrom_0 6 rfl rfl)
theorem dX1_lengthFrom_7 : decode cX1_lengthFrom 7 = .ok (.aload_n 0, 1) := dk_42 (dk_at dksX1_lengthFrom_0 7 rfl rfl)
theorem dX1_lengthFrom_8 : decode cX1_lengthFrom 8 = .ok (.getfield 12, 3) := dk_180 0 12 (dk_at dksX1_lengthFrom_0 8 rfl rfl)
theorem dX1_lengthFrom_11 : decode cX1_lengthFrom 11 = .ok (.invokevirtual 271, 3) := dk_182 1 15 (dk_at dksX1_lengthFrom_0 11 rfl rfl)
theorem dX1_lengthFrom_14 : decode cX1_lengthFrom 14 = .ok (.if_icmp .ge 52, 3) := dk_162 0 52 (dk_at dksX1_lengthFrom_0 14 rfl rfl)
theorem dX1_lengthFrom_17 : decode cX1_lengthFrom 17 = .ok (.aload_n 0, 1) := dk_42 (dk_at dksX1_lengthFrom_0 17 rfl rfl)
theorem dX1_lengthFrom_18 : decode cX1_lengthFrom 18 = .ok (.getfield 12, 3) := dk_180 0 12 (dk_at dksX1_lengthFrom_0 18 rfl rfl)
theorem dX1_lengthFrom_21 : decode cX1_lengthFrom 21 = .ok (.iload_n 3, 1) := dk_29 (dk_at dksX1_lengthFrom_0 21 rfl rfl)
theorem dX1_lengthFrom_22 : decode cX1_lengthFrom 22 = .ok (.invokevirtual 150, 3) := dk_182 0 150 (dk_at dksX1_lengthFrom_1 0 rfl rfl)
theorem dX1_lengthFrom_25 : decode cX1_lengthFrom 25 = .ok (.ifCond .eq 35, 3) := dk_153 0 35 (dk_at dksX1_lengthFrom_1 3 rfl rfl)
theorem dX1_lengthFrom_28 : decode cX1_lengthFrom 28 = .ok (.aload_n 0, 1) := dk_42 (dk_at dksX1_lengthFrom_1 6 rfl rfl)
theorem dX1_lengthFrom_29 : decode cX1_lengthFrom 29 = .ok (.getfield 12, 3) := dk_180 0 12 (dk_at dksX1_lengthFrom_1 7 rfl rfl)
theorem dX1_lengthFrom_32 : decode cX1_lengthFrom 32 = .ok (.iload_n 3, 1) := dk_29 (dk_at dksX1_lengthFrom_1 10 rfl rfl)
theorem dX1_lengthFrom_33 : decode cX1_lengthFrom 33 = .ok (.invokevirtual 280, 3) := dk_182 1 24 (dk_at dksX1_lengthFrom_1 11 rfl rfl)
theorem dX1_lengthFrom_36 : decode cX1_lengthFrom 36 = .ok (.iload_n 1, 1) := dk_27 (dk_at dksX1_lengthFrom_1 14 rfl rfl)
theorem dX1_lengthFrom_37 : decode cX1_lengthFrom 37 = .ok (.if_icmp .ne 23, 3) := dk_160 0 23 (dk_at dksX1_lengthFrom_1 15 rfl rfl)
theorem dX1_lengthFrom_40 : decode cX1_lengthFrom 40 = .ok (.iload_n 2, 1) := dk_28 (dk_at dksX1_lengthFrom_1 18 rfl rfl)
theorem dX1_lengthFrom_41 : decode cX1_lengthFrom 41 = .ok (.aload_n 0, 1) := dk_42 (dk_at dksX1_lengthFrom_1 19 rfl rfl)
theorem dX1_lengthFrom_42 : decode cX1_lengthFrom 42 = .ok (.getfield 42, 3) := dk_180 0 42 (dk_at dksX1_lengthFrom_1 20 rfl rfl)
theorem dX1_lengthFrom_45 : decode cX1_lengthFrom 45 = .ok (.iload_n 3, 1) := dk_29 (dk_at dksX1_lengthFrom_1 23 rfl rfl)
theorem dX1_lengthFrom_46 : decode cX1_lengthFrom 46 = .ok (.iaload, 1) := dk_46 (dk_at dksX1_lengthFrom_2 0 rfl rfl)
theorem dX1_lengthFrom_47 : decode cX1_lengthFrom 47 = .ok (.aload_n 0, 1) := dk_42 (dk_at dksX1_lengthFrom_2 1 rfl rfl)
theorem dX1_lengthFrom_48 : decode cX1_lengthFrom 48 = .ok (.getfield 12, 3) := dk_180 0 12 (dk_at dksX1_lengthFrom_2 2 rfl rfl)
theorem dX1_lengthFrom_51 : decode cX1_lengthFrom 51 = .ok (.iload_n 3, 1) := dk_29 (dk_at dksX1_lengthFrom_2 5 rfl rfl)
theorem dX1_lengthFrom_52 : decode cX1_lengthFrom 52 = .ok (.invokevirtual 278, 3) := dk_182 1 22 (dk_at dksX1_lengthFrom_2 6 rfl rfl)
theorem dX1_lengthFrom_55 : decode cX1_lengthFrom 55 = .ok (.iadd, 1) := dk_96 (dk_at dksX1_lengthFrom_2 9 rfl rfl)
theorem dX1_lengthFrom_56 : decode cX1_lengthFrom 56 = .ok (.invokestatic 283, 3) := dk_184 1 27 (dk_at dksX1_lengthFrom_2 10 rfl rfl)
theorem dX1_lengthFrom_59 : decode cX1_lengthFrom 59 = .ok (.istore_n 2, 1) := dk_61 (dk_at dksX1_lengthFrom_2 13 rfl rfl)
theorem dX1_lengthFrom_60 : decode cX1_lengthFrom 60 = .ok (.iinc 3 1, 3) := dk_132 3 1 (dk_at dksX1_lengthFrom_2 14 rfl rfl)
theorem dX1_lengthFrom_63 : decode cX1_lengthFrom 63 = .ok (.goto (-57), 3) := dk_167 255 199 (dk_at dksX1_lengthFrom_2 17 rfl rfl)
theorem dX1_lengthFrom_66 : decode cX1_lengthFrom 66 = .ok (.iload_n 2, 1) := dk_28 (dk_at dksX1_lengthFrom_2 20 rfl rfl)
theorem dX1_lengthFrom_67 : decode cX1_lengthFrom 67 = .ok (.ireturn, 1) := dk_172 (dk_at dksX1_lengthFrom_2 21 rfl rfl)
abbrev cX1_step : ByteArray := prog_1_method_28_code
def yX1_step : MethodName := ⟨RX1, "step", "(IIII)I"⟩
def dkwX1_step_2 : List UInt8 := [180, 0, 45, 21, 4, 46, 172]
abbrev dktX1_step_2 : List UInt8 := dkwX1_step_2 ++ []
def dkwX1_step_1 : List UInt8 := [182, 1, 49, 54, 5, 21, 4, 155, 0, 10, 21, 4, 21, 5, 161, 0, 7, 2, 167, 0, 10, 42]
abbrev dktX1_step_1 : List UInt8 := dkwX1_step_1 ++ dktX1_step_2
def dkwX1_step_0 : List UInt8 := [42, 27, 182, 1, 38, 42, 28, 182, 1, 38, 42, 29, 182, 0, 254, 184, 0, 164, 42, 27, 28, 29]
abbrev dktX1_step_0 : List UInt8 := dkwX1_step_0 ++ dktX1_step_1
theorem dksX1_step_0 : cX1_step.data.toList.drop 0 = dktX1_step_0 := by decide +kernel
theorem dksX1_step_1 : cX1_step.data.toList.drop 22 = dktX1_step_1 := dk_seg dksX1_step_0 22 rfl rfl
theorem dksX1_step_2 : cX1_step.data.toList.drop 44 = dktX1_step_2 := dk_seg dksX1_step_1 22 rfl rfl
theorem dX1_step_0 : decode cX1_step 0 = .ok (.aload_n 0, 1) := dk_42 (dk_at dksX1_step_0 0 rfl rfl)
theorem dX1_step_1 : decode cX1_step 1 = .ok (.iload_n 1, 1) := dk_27 (dk_at dksX1_step_0 1 rfl rfl)
theorem dX1_step_2 : decode cX1_step 2 = .ok (.invokevirtual 294, 3) := dk_182 1 38 (dk_at dksX1_step_0 2 rfl rfl)
theorem dX1_step_5 : decode cX1_step 5 = .ok (.aload_n 0, 1) := dk_42 (dk_at dksX1_step_0 5 rfl rfl)
theorem dX1_step_6 : decode cX1_step 6 = .ok (.iload_n 2, 1) := dk_28 (dk_at dksX1_step_0 6 rfl rfl)
theorem dX1_step_7 : decode cX1_step 7 = .ok (.invokevirtual 294, 3) := dk_182 1 38 (dk_at dksX1_step_0 7 rfl rfl)
theorem dX1_step_10 : decode cX1_step 10 = .ok (.aload_n 0, 1) := dk_42 (dk_at dksX1_step_0 10 rfl rfl)
theorem dX1_step_11 : decode cX1_step 11 = .ok (.iload_n 3, 1) := dk_29 (dk_at dksX1_step_0 11 rfl rfl)
theorem dX1_step_12 : decode cX1_step 12 = .ok (.invokevirtual 254, 3) := dk_182 0 254 (dk_at dksX1_step_0 12 rfl rfl)
theorem dX1_step_15 : decode cX1_step 15 = .ok (.invokestatic 164, 3) := dk_184 0 164 (dk_at dksX1_step_0 15 rfl rfl)
theorem dX1_step_18 : decode cX1_step 18 = .ok (.aload_n 0, 1) := dk_42 (dk_at dksX1_step_0 18 rfl rfl)
theorem dX1_step_19 : decode cX1_step 19 = .ok (.iload_n 1, 1) := dk_27 (dk_at dksX1_step_0 19 rfl rfl)
theorem dX1_step_20 : decode cX1_step 20 = .ok (.iload_n 2, 1) := dk_28 (dk_at dksX1_step_0 20 rfl rfl)
theorem dX1_step_21 : decode cX1_step 21 = .ok (.iload_n 3, 1) := dk_29 (dk_at dksX1_step_0 21 rfl rfl)
theorem dX1_step_22 : decode cX1_step 22 = .ok (.invokevirtual 305, 3) := dk_182 1 49 (dk_at dksX1_step_1 0 rfl rfl)
theorem dX1_step_25 : decode cX1_step 25 = .ok (.istore 5, 2) := dk_54 5 (dk_at dksX1_step_1 3 rfl rfl)
theorem dX1_step_27 : decode cX1_step 27 = .ok (.iload 4, 2) := dk_21 4 (dk_at dksX1_step_1 5 rfl rfl)
theorem dX1_step_29 : decode cX1_step 29 = .ok (.ifCond .lt 10, 3) := dk_155 0 10 (dk_at dksX1_step_1 7 rfl rfl)
theorem dX1_step_32 : decode cX1_step 32 = .ok (.iload 4, 2) := dk_21 4 (dk_at dksX1_step_1 10 rfl rfl)
theorem dX1_step_34 : decode cX1_step 34 = .ok (.iload 5, 2) := dk_21 5 (dk_at dksX1_step_1 12 rfl rfl)
theorem dX1_step_36 : decode cX1_step 36 = .ok (.if_icmp .lt 7, 3) := dk_161 0 7 (dk_at dksX1_step_1 14 rfl rfl)
theorem dX1_step_39 : decode cX1_step 39 = .ok (.iconst (-1), 1) := dk_2 (dk_at dksX1_step_1 17 rfl rfl)
theorem dX1_step_40 : decode cX1_step 40 = .ok (.goto 10, 3) := dk_167 0 10 (dk_at dksX1_step_1 18 rfl rfl)
theorem dX1_step_43 : decode cX1_step 43 = .ok (.aload_n 0, 1) := dk_42 (dk_at dksX1_step_1 21 rfl rfl)
theorem dX1_step_44 : decode cX1_step 44 = .ok (.getfield 45, 3) := dk_180 0 45 (dk_at dksX1_step_2 0 rfl rfl)
theorem dX1_step_47 : decode cX1_step 47 = .ok (.iload 4, 2) := dk_21 4 (dk_at dksX1_step_2 3 rfl rfl)
theorem dX1_step_49 : decode cX1_step 49 = .ok (.iaload, 1) := dk_46 (dk_at dksX1_step_2 5 rfl rfl)
theorem dX1_step_50 : decode cX1_step 50 = .ok (.ireturn, 1) := dk_172 (dk_at dksX1_step_2 6 rfl rfl)
abbrev cX1_pathOf : ByteArray := prog_1_method_27_code
def yX1_pathOf : MethodName := ⟨RX1, "pathOf", "(III)I"⟩
def dkwX1_pathOf_3 : List UInt8 := [21, 5, 172]
abbrev dktX1_pathOf_3 : List UInt8 := dkwX1_pathOf_3 ++ []
def dkwX1_pathOf_2 : List UInt8 := [21, 6, 79, 132, 5, 1, 21, 4, 42, 180, 0, 12, 21, 6, 182, 1, 22, 100, 54, 4, 167, 255, 213]
abbrev dktX1_pathOf_2 : List UInt8 := dkwX1_pathOf_2 ++ dktX1_pathOf_3
def dkwX1_pathOf_1 : List UInt8 := [21, 4, 158, 0, 44, 42, 27, 21, 6, 21, 4, 29, 182, 1, 45, 54, 6, 42, 180, 0, 45, 21, 5]
abbrev dktX1_pathOf_1 : List UInt8 := dkwX1_pathOf_1 ++ dktX1_pathOf_2
def dkwX1_pathOf_0 : List UInt8 := [42, 27, 28, 29, 182, 1, 41, 54, 4, 21, 4, 2, 160, 0, 5, 2, 172, 3, 54, 5, 2, 54, 6]
abbrev dktX1_pathOf_0 : List UInt8 := dkwX1_pathOf_0 ++ dktX1_pathOf_1
theorem dksX1_pathOf_0 : cX1_pathOf.data.toList.drop 0 = dktX1_pathOf_0 := by decide +kernel
theorem dksX1_pathOf_1 : cX1_pathOf.data.toList.drop 23 = dktX1_pathOf_1 := dk_seg dksX1_pathOf_0 23 rfl rfl
theorem dksX1_pathOf_2 : cX1_pathOf.data.toList.drop 46 = dktX1_pathOf_2 := dk_seg dksX1_pathOf_1 23 rfl rfl
theorem dksX1_pathOf_3 : cX1_pathOf.data.toList.drop 69 = dktX1_pathOf_3 := dk_seg dksX1_pathOf_2 23 rfl rfl
theorem dX1_pathOf_0 : decode cX1_pathOf 0 = .ok (.aload_n 0, 1) := dk_42 (dk_at dksX1_pathOf_0 0 rfl rfl)
theorem dX1_pathOf_1 : decode cX1_pathOf 1 = .ok (.iload_n 1, 1) := dk_27 (dk_at dksX1_pathOf_0 1 rfl rfl)
theorem dX1_pathOf_2 : decode cX1_pathOf 2 = .ok (.iload_n 2, 1) := dk_28 (dk_at dksX1_pathOf_0 2 rfl rfl)
theorem dX1_pathOf_3 : decode cX1_pathOf 3 = .ok (.iload_n 3, 1) := dk_29 (dk_at dksX1_pathOf_0 3 rfl rfl)
theorem dX1_pathOf_4 : decode cX1_pathOf 4 = .ok (.invokevirtual 297, 3) := dk_182 1 41 (dk_at dksX1_pathOf_0 4 rfl rfl)
theorem dX1_pathOf_7 : decode cX1_pathOf 7 = .ok (.istore 4, 2) := dk_54 4 (dk_at dksX1_pathOf_0 7 rfl rfl)
theorem dX1_pathOf_9 : decode cX1_pathOf 9 = .ok (.iload 4, 2) := dk_21 4 (dk_at dksX1_pathOf_0 9 rfl rfl)
theorem dX1_pathOf_11 : decode cX1_pathOf 11 = .ok (.iconst (-1), 1) := dk_2 (dk_at dksX1_pathOf_0 11 rfl rfl)
theorem dX1_pathOf_12 : decode cX1_pathOf 12 = .ok (.if_icmp .ne 5, 3) := dk_160 0 5 (dk_at dksX1_pathOf_0 12 rfl rfl)
theorem dX1_pathOf_15 : decode cX1_pathOf 15 = .ok (.iconst (-1), 1) := dk_2 (dk_at dksX1_pathOf_0 15 rfl rfl)
theorem dX1_pathOf_16 : decode cX1_pathOf 16 = .ok (.ireturn, 1) := dk_172 (dk_at dksX1_pathOf_0 16 rfl rfl)
theorem dX1_pathOf_17 : decode cX1_pathOf 17 = .ok (.iconst 0, 1) := dk_3 (dk_at dksX1_pathOf_0 17 rfl rfl)
theorem dX1_pathOf_18 : decode cX1_pathOf 18 = .ok (.istore 5, 2) := dk_54 5 (dk_at dksX1_pathOf_0 18 rfl rfl)
theorem dX1_pathOf_20 : decode cX1_pathOf 20 = .ok (.iconst (-1), 1) := dk_2 (dk_at dksX1_pathOf_0 20 rfl rfl)
theorem dX1_pathOf_21 : decode cX1_pathOf 21 = .ok (.istore 6, 2) := dk_54 6 (dk_at dksX1_pathOf_0 21 rfl rfl)
theorem dX1_pathOf_23 : decode cX1_pathOf 23 = .ok (.iload 4, 2) := dk_21 4 (dk_at dksX1_pathOf_1 0 rfl rfl)
theorem dX1_pathOf_25 : decode cX1_pathOf 25 = .ok (.ifCond .le 44, 3) := dk_158 0 44 (dk_at dksX1_pathOf_1 2 rfl rfl)
theorem dX1_pathOf_28 : decode cX1_pathOf 28 = .ok (.aload_n 0, 1) := dk_42 (dk_at dksX1_pathOf_1 5 rfl rfl)
theorem dX1_pathOf_29 : decode cX1_pathOf 29 = .ok (.iload_n 1, 1) := dk_27 (dk_at dksX1_pathOf_1 6 rfl rfl)
theorem dX1_pathOf_30 : decode cX1_pathOf 30 = .ok (.iload 6, 2) := dk_21 6 (dk_at dksX1_pathOf_1 7 rfl rfl)
theorem dX1_pathOf_32 : decode cX1_pathOf 32 = .ok (.iload 4, 2) := dk_21 4 (dk_at dksX1_pathOf_1 9 rfl rfl)
theorem dX1_pathOf_34 : decode cX1_pathOf 34 = .ok (.iload_n 3, 1) := dk_29 (dk_at dksX1_pathOf_1 11 rfl rfl)
theorem dX1_pathOf_35 : decode cX1_pathOf 35 = .ok (.invokevirtual 301, 3) := dk_182 1 45 (dk_at dksX1_pathOf_1 12 rfl rfl)
theorem dX1_pathOf_38 : decode cX1_pathOf 38 = .ok (.istore 6, 2) := dk_54 6 (dk_at dksX1_pathOf_1 15 rfl rfl)
theorem dX1_pathOf_40 : decode cX1_pathOf 40 = .ok (.aload_n 0, 1) := dk_42 (dk_at dksX1_pathOf_1 17 rfl rfl)
theorem dX1_pathOf_41 : decode cX1_pathOf 41 = .ok (.getfield 45, 3) := dk_180 0 45 (dk_at dksX1_pathOf_1 18 rfl rfl)
theorem dX1_pathOf_44 : decode cX1_pathOf 44 = .ok (.iload 5, 2) := dk_21 5 (dk_at dksX1_pathOf_1 21 rfl rfl)
theorem dX1_pathOf_46 : decode cX1_pathOf 46 = .ok (.iload 6, 2) := dk_21 6 (dk_at dksX1_pathOf_2 0 rfl rfl)
theorem dX1_pathOf_48 : decode cX1_pathOf 48 = .ok (.iastore, 1) := dk_79 (dk_at dksX1_pathOf_2 2 rfl rfl)
theorem dX1_pathOf_49 : decode cX1_pathOf 49 = .ok (.iinc 5 1, 3) := dk_132 5 1 (dk_at dksX1_pathOf_2 3 rfl rfl)
theorem dX1_pathOf_52 : decode cX1_pathOf 52 = .ok (.iload 4, 2) := dk_21 4 (dk_at dksX1_pathOf_2 6 rfl rfl)
theorem dX1_pathOf_54 : decode cX1_pathOf 54 = .ok (.aload_n 0, 1) := dk_42 (dk_at dksX1_pathOf_2 8 rfl rfl)
theorem dX1_pathOf_55 : decode cX1_pathOf 55 = .ok (.getfield 12, 3) := dk_180 0 12 (dk_at dksX1_pathOf_2 9 rfl rfl)
theorem dX1_pathOf_58 : decode cX1_pathOf 58 = .ok (.iload 6, 2) := dk_21 6 (dk_at dksX1_pathOf_2 12 rfl rfl)
theorem dX1_pathOf_60 : decode cX1_pathOf 60 = .ok (.invokevirtual 278, 3) := dk_182 1 22 (dk_at dksX1_pathOf_2 14 rfl rfl)
theorem dX1_pathOf_63 : decode cX1_pathOf 63 = .ok (.isub, 1) := dk_100 (dk_at dksX1_pathOf_2 17 rfl rfl)
theorem dX1_pathOf_64 : decode cX1_pathOf 64 = .ok (.istore 4, 2) := dk_54 4 (dk_at dksX1_pathOf_2 18 rfl rfl)
theorem dX1_pathOf_66 : decode cX1_pathOf 66 = .ok (.goto (-43), 3) := dk_167 255 213 (dk_at dksX1_pathOf_2 20 rfl rfl)
theorem dX1_pathOf_69 : decode cX1_pathOf 69 = .ok (.iload 5, 2) := dk_21 5 (dk_at dksX1_pathOf_3 0 rfl rfl)
theorem dX1_pathOf_71 : decode cX1_pathOf 71 = .ok (.ireturn, 1) := dk_172 (dk_at dksX1_pathOf_3 2 rfl rfl)
abbrev cX1_nextArc : ByteArray := prog_1_method_26_code
def yX1_nextArc : MethodName := ⟨RX1, "nextArc", "(IIII)I"⟩
def dkwX1_nextArc_3 : List UInt8 := [21, 5, 182, 1, 22, 96, 29, 160, 0, 6, 21, 5, 172, 132, 5, 1, 167, 255, 172, 2, 172]
abbrev dktX1_nextArc_3 : List UInt8 := dkwX1_nextArc_3 ++ []
def dkwX1_nextArc_2 : List UInt8 := [42, 28, 21, 5, 21, 4, 182, 1, 1, 153, 0, 27, 42, 180, 0, 42, 21, 5, 46, 42, 180, 0, 12]
abbrev dktX1_nextArc_2 : List UInt8 := dkwX1_nextArc_2 ++ dktX1_nextArc_3
def dkwX1_nextArc_1 : List UInt8 := [153, 0, 60, 28, 2, 160, 0, 19, 42, 180, 0, 12, 21, 5, 182, 1, 24, 27, 160, 0, 42, 167, 0, 15]
abbrev dktX1_nextArc_1 : List UInt8 := dkwX1_nextArc_1 ++ dktX1_nextArc_2
def dkwX1_nextArc_0 : List UInt8 := [3, 54, 5, 21, 5, 42, 180, 0, 12, 182, 1, 15, 162, 0, 78, 42, 180, 0, 12, 21, 5, 182, 0, 150]
abbrev dktX1_nextArc_0 : List UInt8 := dkwX1_nextArc_0 ++ dktX1_nextArc_1
theorem dksX1_nextArc_0 : cX1_nextArc.data.toList.drop 0 = dktX1_nextArc_0 := by decide +kernel
theorem dksX1_nextArc_1 : cX1_nextArc.data.toList.drop 24 = dktX1_nextArc_1 := dk_seg dksX1_nextArc_0 24 rfl rfl
theorem dksX1_nextArc_2 : cX1_nextArc.data.toList.drop 48 = dktX1_nextArc_2 := dk_seg dksX1_nextArc_1 24 rfl rfl
theorem dksX1_nextArc_3 : cX1_nextArc.data.toList.drop 71 = dktX1_nextArc_3 := dk_seg dksX1_nextArc_2 23 rfl rfl
theorem dX1_nextArc_0 : decode cX1_nextArc 0 = .ok (.iconst 0, 1) := dk_3 (dk_at dksX1_nextArc_0 0 rfl rfl)
theorem dX1_nextArc_1 : decode cX1_nextArc 1 = .ok (.istore 5, 2) := dk_54 5 (dk_at dksX1_nextArc_0 1 rfl rfl)
theorem dX1_nextArc_3 : decode cX1_nextArc 3 = .ok (.iload 5, 2) := dk_21 5 (dk_at dksX1_nextArc_0 3 rfl rfl)
theorem dX1_nextArc_5 : decode cX1_nextArc 5 = .ok (.aload_n 0, 1) := dk_42 (dk_at dksX1_nextArc_0 5 rfl rfl)
theorem dX1_nextArc_6 : decode cX1_nextArc 6 = .ok (.getfield 12, 3) := dk_180 0 12 (dk_at dksX1_nextArc_0 6 rfl rfl)
theorem dX1_nextArc_9 : decode cX1_nextArc 9 = .ok (.invokevirtual 271, 3) := dk_182 1 15 (dk_at dksX1_nextArc_0 9 rfl rfl)
theorem dX1_nextArc_12 : decode cX1_nextArc 12 = .ok (.if_icmp .ge 78, 3) := dk_162 0 78 (dk_at dksX1_nextArc_0 12 rfl rfl)
theorem dX1_nextArc_15 : decode cX1_nextArc 15 = .ok (.aload_n 0, 1) := dk_42 (dk_at dksX1_nextArc_0 15 rfl rfl)
theorem dX1_nextArc_16 : decode cX1_nextArc 16 = .ok (.getfield 12, 3) := dk_180 0 12 (dk_at dksX1_nextArc_0 16 rfl rfl)
theorem dX1_nextArc_19 : decode cX1_nextArc 19 = .ok (.iload 5, 2) := dk_21 5 (dk_at dksX1_nextArc_0 19 rfl rfl)
theorem dX1_nextArc_21 : decode cX1_nextArc 21 = .ok (.invokevirtual 150, 3) := dk_182 0 150 (dk_at dksX1_nextArc_0 21 rfl rfl)
theorem dX1_nextArc_24 : decode cX1_nextArc 24 = .ok (.ifCond .eq 60, 3) := dk_153 0 60 (dk_at dksX1_nextArc_1 0 rfl rfl)
theorem dX1_nextArc_27 : decode cX1_nextArc 27 = .ok (.iload_n 2, 1) := dk_28 (dk_at dksX1_nextArc_1 3 rfl rfl)
theorem dX1_nextArc_28 : decode cX1_nextArc 28 = .ok (.iconst (-1), 1) := dk_2 (dk_at dksX1_nextArc_1 4 rfl rfl)
theorem dX1_nextArc_29 : decode cX1_nextArc 29 = .ok (.if_icmp .ne 19, 3) := dk_160 0 19 (dk_at dksX1_nextArc_1 5 rfl rfl)
theorem dX1_nextArc_32 : decode cX1_nextArc 32 = .ok (.aload_n 0, 1) := dk_42 (dk_at dksX1_nextArc_1 8 rfl rfl)
theorem dX1_nextArc_33 : decode cX1_nextArc 33 = .ok (.getfield 12, 3) := dk_180 0 12 (dk_at dksX1_nextArc_1 9 rfl rfl)
theorem dX1_nextArc_36 : decode cX1_nextArc 36 = .ok (.iload 5, 2) := dk_21 5 (dk_at dksX1_nextArc_1 12 rfl rfl)
theorem dX1_nextArc_38 : decode cX1_nextArc 38 = .ok (.invokevirtual 280, 3) := dk_182 1 24 (dk_at dksX1_nextArc_1 14 rfl rfl)
theorem dX1_nextArc_41 : decode cX1_nextArc 41 = .ok (.iload_n 1, 1) := dk_27 (dk_at dksX1_nextArc_1 17 rfl rfl)
theorem dX1_nextArc_42 : decode cX1_nextArc 42 = .ok (.if_icmp .ne 42, 3) := dk_160 0 42 (dk_at dksX1_nextArc_1 18 rfl rfl)
theorem dX1_nextArc_45 : decode cX1_nextArc 45 = .ok (.goto 15, 3) := dk_167 0 15 (dk_at dksX1_nextArc_1 21 rfl rfl)
theorem dX1_nextArc_48 : decode cX1_nextArc 48 = .ok (.aload_n 0, 1) := dk_42 (dk_at dksX1_nextArc_2 0 rfl rfl)
theorem dX1_nextArc_49 : decode cX1_nextArc 49 = .ok (.iload_n 2, 1) := dk_28 (dk_at dksX1_nextArc_2 1 rfl rfl)
theorem dX1_nextArc_50 : decode cX1_nextArc 50 = .ok (.iload 5, 2) := dk_21 5 (dk_at dksX1_nextArc_2 2 rfl rfl)
theorem dX1_nextArc_52 : decode cX1_nextArc 52 = .ok (.iload 4, 2) := dk_21 4 (dk_at dksX1_nextArc_2 4 rfl rfl)
theorem dX1_nextArc_54 : decode cX1_nextArc 54 = .ok (.invokevirtual 257, 3) := dk_182 1 1 (dk_at dksX1_nextArc_2 6 rfl rfl)
theorem dX1_nextArc_57 : decode cX1_nextArc 57 = .ok (.ifCond .eq 27, 3) := dk_153 0 27 (dk_at dksX1_nextArc_2 9 rfl rfl)
theorem dX1_nextArc_60 : decode cX1_nextArc 60 = .ok (.aload_n 0, 1) := dk_42 (dk_at dksX1_nextArc_2 12 rfl rfl)
theorem dX1_nextArc_61 : decode cX1_nextArc 61 = .ok (.getfield 42, 3) := dk_180 0 42 (dk_at dksX1_nextArc_2 13 rfl rfl)
theorem dX1_nextArc_64 : decode cX1_nextArc 64 = .ok (.iload 5, 2) := dk_21 5 (dk_at dksX1_nextArc_2 16 rfl rfl)
theorem dX1_nextArc_66 : decode cX1_nextArc 66 = .ok (.iaload, 1) := dk_46 (dk_at dksX1_nextArc_2 18 rfl rfl)
theorem dX1_nextArc_67 : decode cX1_nextArc 67 = .ok (.aload_n 0, 1) := dk_42 (dk_at dksX1_nextArc_2 19 rfl rfl)
theorem dX1_nextArc_68 : decode cX1_nextArc 68 = .ok (.getfield 12, 3) := dk_180 0 12 (dk_at dksX1_nextArc_2 20 rfl rfl)
theorem dX1_nextArc_71 : decode cX1_nextArc 71 = .ok (.iload 5, 2) := dk_21 5 (dk_at dksX1_nextArc_3 0 rfl rfl)
theorem dX1_nextArc_73 : decode cX1_nextArc 73 = .ok (.invokevirtual 278, 3) := dk_182 1 22 (dk_at dksX1_nextArc_3 2 rfl rfl)
theorem dX1_nextArc_76 : decode cX1_nextArc 76 = .ok (.iadd, 1) := dk_96 (dk_at dksX1_nextArc_3 5 rfl rfl)
theorem dX1_nextArc_77 : decode cX1_nextArc 77 = .ok (.iload_n 3, 1) := dk_29 (dk_at dksX1_nextArc_3 6 rfl rfl)
theorem dX1_nextArc_78 : decode cX1_nextArc 78 = .ok (.if_icmp .ne 6, 3) := dk_160 0 6 (dk_at dksX1_nextArc_3 7 rfl rfl)
theorem dX1_nextArc_81 : decode cX1_nextArc 81 = .ok (.iload 5, 2) := dk_21 5 (dk_at dksX1_nextArc_3 10 rfl rfl)
theorem dX1_nextArc_83 : decode cX1_nextArc 83 = .ok (.ireturn, 1) := dk_172 (dk_at dksX1_nextArc_3 12 rfl rfl)
theorem dX1_nextArc_84 : decode cX1_nextArc 84 = .ok (.iinc 5 1, 3) := dk_132 5 1 (dk_at dksX1_nextArc_3 13 rfl rfl)
theorem dX1_nextArc_87 : decode cX1_nextArc 87 = .ok (.goto (-84), 3) := dk_167 255 172 (dk_at dksX1_nextArc_3 16 rfl rfl)
theorem dX1_nextArc_90 : decode cX1_nextArc 90 = .ok (.iconst (-1), 1) := dk_2 (dk_at dksX1_nextArc_3 19 rfl rfl)
theorem dX1_nextArc_91 : decode cX1_nextArc 91 = .ok (.ireturn, 1) := dk_172 (dk_at dksX1_nextArc_3 20 rfl rfl)
abbrev cX1_reach : ByteArray := prog_1_method_32_code
def yX1_reach : MethodName := ⟨RX1, "reach", "(III)I"⟩
def dkwX1_reach_3 : List UInt8 := [184, 0, 208, 172]
abbrev dktX1_reach_3 : List UInt8 := dkwX1_reach_3 ++ []
def dkwX1_reach_2 : List UInt8 := [28, 182, 1, 57, 54, 5, 29, 4, 160, 0, 8, 21, 5, 167, 0, 13, 21, 4, 21, 5, 2, 130, 126]
abbrev dktX1_reach_2 : List UInt8 := dkwX1_reach_2 ++ dktX1_reach_3
def dkwX1_reach_1 : List UInt8 := [167, 0, 4, 3, 184, 0, 164, 42, 27, 28, 182, 1, 54, 54, 4, 29, 154, 0, 6, 21, 4, 172, 42, 27]
abbrev dktX1_reach_1 : List UInt8 := dkwX1_reach_1 ++ dktX1_reach_2
def dkwX1_reach_0 : List UInt8 := [42, 27, 182, 1, 38, 42, 28, 182, 0, 254, 153, 0, 16, 29, 155, 0, 12, 29, 5, 163, 0, 7, 4]
abbrev dktX1_reach_0 : List UInt8 := dkwX1_reach_0 ++ dktX1_reach_1
theorem dksX1_reach_0 : cX1_reach.data.toList.drop 0 = dktX1_reach_0 := by decide +kernel
theorem dksX1_reach_1 : cX1_reach.data.toList.drop 23 = dktX1_reach_1 := dk_seg dksX1_reach_0 23 rfl rfl
theorem dksX1_reach_2 : cX1_reach.data.toList.drop 47 = dktX1_reach_2 := dk_seg dksX1_reach_1 24 rfl rfl
theorem dksX1_reach_3 : cX1_reach.data.toList.drop 70 = dktX1_reach_3 := dk_seg dksX1_reach_2 23 rfl rfl
theorem dX1_reach_0 : decode cX1_reach 0 = .ok (.aload_n 0, 1) := dk_42 (dk_at dksX1_reach_0 0 rfl rfl)
theorem dX1_reach_1 : decode cX1_reach 1 = .ok (.iload_n 1, 1) := dk_27 (dk_at dksX1_reach_0 1 rfl rfl)
theorem dX1_reach_2 : decode cX1_reach 2 = .ok (.invokevirtual 294, 3) := dk_182 1 38 (dk_at dksX1_reach_0 2 rfl rfl)
theorem dX1_reach_5 : decode cX1_reach 5 = .ok (.aload_n 0, 1) := dk_42 (dk_at dksX1_reach_0 5 rfl rfl)
theorem dX1_reach_6 : decode cX1_reach 6 = .ok (.iload_n 2, 1) := dk_28 (dk_at dksX1_reach_0 6 rfl rfl)
theorem dX1_reach_7 : decode cX1_reach 7 = .ok (.invokevirtual 254, 3) := dk_182 0 254 (dk_at dksX1_reach_0 7 rfl rfl)
theorem dX1_reach_10 : decode cX1_reach 10 = .ok (.ifCond .eq 16, 3) := dk_153 0 16 (dk_at dksX1_reach_0 10 rfl rfl)
theorem dX1_reach_13 : decode cX1_reach 13 = .ok (.iload_n 3, 1) := dk_29 (dk_at dksX1_reach_0 13 rfl rfl)
theorem dX1_reach_14 : decode cX1_reach 14 = .ok (.ifCond .lt 12, 3) := dk_155 0 12 (dk_at dksX1_reach_0 14 rfl rfl)
theorem dX1_reach_17 : decode cX1_reach 17 = .ok (.iload_n 3, 1) := dk_29 (dk_at dksX1_reach_0 17 rfl rfl)
theorem dX1_reach_18 : decode cX1_reach 18 = .ok (.iconst 2, 1) := dk_5 (dk_at dksX1_reach_0 18 rfl rfl)
theorem dX1_reach_19 : decode cX1_reach 19 = .ok (.if_icmp .gt 7, 3) := dk_163 0 7 (dk_at dksX1_reach_0 19 rfl rfl)
theorem dX1_reach_22 : decode cX1_reach 22 = .ok (.iconst 1, 1) := dk_4 (dk_at dksX1_reach_0 22 rfl rfl)
theorem dX1_reach_23 : decode cX1_reach 23 = .ok (.goto 4, 3) := dk_167 0 4 (dk_at dksX1_reach_1 0 rfl rfl)
theorem dX1_reach_26 : decode cX1_reach 26 = .ok (.iconst 0, 1) := dk_3 (dk_at dksX1_reach_1 3 rfl rfl)
theorem dX1_reach_27 : decode cX1_reach 27 = .ok (.invokestatic 164, 3) := dk_184 0 164 (dk_at dksX1_reach_1 4 rfl rfl)
theorem dX1_reach_30 : decode cX1_reach 30 = .ok (.aload_n 0, 1) := dk_42 (dk_at dksX1_reach_1 7 rfl rfl)
theorem dX1_reach_31 : decode cX1_reach 31 = .ok (.iload_n 1, 1) := dk_27 (dk_at dksX1_reach_1 8 rfl rfl)
theorem dX1_reach_32 : decode cX1_reach 32 = .ok (.iload_n 2, 1) := dk_28 (dk_at dksX1_reach_1 9 rfl rfl)
theorem dX1_reach_33 : decode cX1_reach 33 = .ok (.invokevirtual 310, 3) := dk_182 1 54 (dk_at dksX1_reach_1 10 rfl rfl)
theorem dX1_reach_36 : decode cX1_reach 36 = .ok (.istore 4, 2) := dk_54 4 (dk_at dksX1_reach_1 13 rfl rfl)
theorem dX1_reach_38 : decode cX1_reach 38 = .ok (.iload_n 3, 1) := dk_29 (dk_at dksX1_reach_1 15 rfl rfl)
theorem dX1_reach_39 : decode cX1_reach 39 = .ok (.ifCond .ne 6, 3) := dk_154 0 6 (dk_at dksX1_reach_1 16 rfl rfl)
theorem dX1_reach_42 : decode cX1_reach 42 = .ok (.iload 4, 2) := dk_21 4 (dk_at dksX1_reach_1 19 rfl rfl)
theorem dX1_reach_44 : decode cX1_reach 44 = .ok (.ireturn, 1) := dk_172 (dk_at dksX1_reach_1 21 rfl rfl)
theorem dX1_reach_45 : decode cX1_reach 45 = .ok (.aload_n 0, 1) := dk_42 (dk_at dksX1_reach_1 22 rfl rfl)
theorem dX1_reach_46 : decode cX1_reach 46 = .ok (.iload_n 1, 1) := dk_27 (dk_at dksX1_reach_1 23 rfl rfl)
theorem dX1_reach_47 : decode cX1_reach 47 = .ok (.iload_n 2, 1) := dk_28 (dk_at dksX1_reach_2 0 rfl rfl)
theorem dX1_reach_48 : decode cX1_reach 48 = .ok (.invokevirtual 313, 3) := dk_182 1 57 (dk_at dksX1_reach_2 1 rfl rfl)
theorem dX1_reach_51 : decode cX1_reach 51 = .ok (.istore 5, 2) := dk_54 5 (dk_at dksX1_reach_2 4 rfl rfl)
theorem dX1_reach_53 : decode cX1_reach 53 = .ok (.iload_n 3, 1) := dk_29 (dk_at dksX1_reach_2 6 rfl rfl)
theorem dX1_reach_54 : decode cX1_reach 54 = .ok (.iconst 1, 1) := dk_4 (dk_at dksX1_reach_2 7 rfl rfl)
theorem dX1_reach_55 : decode cX1_reach 55 = .ok (.if_icmp .ne 8, 3) := dk_160 0 8 (dk_at dksX1_reach_2 8 rfl rfl)
theorem dX1_reach_58 : decode cX1_reach 58 = .ok (.iload 5, 2) := dk_21 5 (dk_at dksX1_reach_2 11 rfl rfl)
theorem dX1_reach_60 : decode cX1_reach 60 = .ok (.goto 13, 3) := dk_167 0 13 (dk_at dksX1_reach_2 13 rfl rfl)
theorem dX1_reach_63 : decode cX1_reach 63 = .ok (.iload 4, 2) := dk_21 4 (dk_at dksX1_reach_2 16 rfl rfl)
theorem dX1_reach_65 : decode cX1_reach 65 = .ok (.iload 5, 2) := dk_21 5 (dk_at dksX1_reach_2 18 rfl rfl)
theorem dX1_reach_67 : decode cX1_reach 67 = .ok (.iconst (-1), 1) := dk_2 (dk_at dksX1_reach_2 20 rfl rfl)
theorem dX1_reach_68 : decode cX1_reach 68 = .ok (.ixor, 1) := dk_130 (dk_at dksX1_reach_2 21 rfl rfl)
theorem dX1_reach_69 : decode cX1_reach 69 = .ok (.iand, 1) := dk_126 (dk_at dksX1_reach_2 22 rfl rfl)
theorem dX1_reach_70 : decode cX1_reach 70 = .ok (.invokestatic 208, 3) := dk_184 0 208 (dk_at dksX1_reach_3 0 rfl rfl)
theorem dX1_reach_73 : decode cX1_reach 73 = .ok (.ireturn, 1) := dk_172 (dk_at dksX1_reach_3 3 rfl rfl)
abbrev cX1_reached : ByteArray := prog_1_method_30_code
def yX1_reached : MethodName := ⟨RX1, "reached", "(II)I"⟩
def dkwX1_reached_6 : List UInt8 := [167, 255, 211, 21, 4, 172]
abbrev dktX1_reached_6 : List UInt8 := dkwX1_reached_6 ++ []
def dkwX1_reached_5 : List UInt8 := [153, 0, 17, 4, 42, 180, 0, 12, 21, 5, 182, 1, 18, 120, 167, 0, 4, 3, 128, 54, 4, 132, 5, 1]
abbrev dktX1_reached_5 : List UInt8 := dkwX1_reached_5 ++ dktX1_reached_6
def dkwX1_reached_4 : List UInt8 := [54, 5, 21, 5, 42, 180, 0, 12, 182, 1, 15, 162, 0, 39, 21, 4, 42, 180, 0, 48, 21, 5, 51]
abbrev dktX1_reached_4 : List UInt8 := dkwX1_reached_4 ++ dktX1_reached_5
def dkwX1_reached_3 : List UInt8 := [21, 4, 79, 132, 3, 1, 132, 4, 1, 167, 255, 180, 42, 29, 28, 182, 1, 52, 4, 27, 120, 54, 4, 3]
abbrev dktX1_reached_3 : List UInt8 := dkwX1_reached_3 ++ dktX1_reached_4
def dkwX1_reached_2 : List UInt8 := [4, 167, 0, 4, 3, 84, 42, 180, 0, 48, 21, 4, 51, 154, 0, 6, 167, 0, 14, 42, 180, 0, 52, 29]
abbrev dktX1_reached_2 : List UInt8 := dkwX1_reached_2 ++ dktX1_reached_3
def dkwX1_reached_1 : List UInt8 := [180, 0, 12, 21, 4, 182, 0, 150, 153, 0, 20, 42, 180, 0, 12, 21, 4, 182, 1, 24, 27, 160, 0, 7]
abbrev dktX1_reached_1 : List UInt8 := dkwX1_reached_1 ++ dktX1_reached_2
def dkwX1_reached_0 : List UInt8 := [3, 62, 3, 54, 4, 21, 4, 42, 180, 0, 12, 182, 1, 15, 162, 0, 70, 42, 180, 0, 48, 21, 4, 42]
abbrev dktX1_reached_0 : List UInt8 := dkwX1_reached_0 ++ dktX1_reached_1
theorem dksX1_reached_0 : cX1_reached.data.toList.drop 0 = dktX1_reached_0 := by decide +kernel
theorem dksX1_reached_1 : cX1_reached.data.toList.drop 24 = dktX1_reached_1 := dk_seg dksX1_reached_0 24 rfl rfl
theorem dksX1_reached_2 : cX1_reached.data.toList.drop 48 = dktX1_reached_2 := dk_seg dksX1_reached_1 24 rfl rfl
theorem dksX1_reached_3 : cX1_reached.data.toList.drop 72 = dktX1_reached_3 := dk_seg dksX1_reached_2 24 rfl rfl
theorem dksX1_reached_4 : cX1_reached.data.toList.drop 96 = dktX1_reached_4 := dk_seg dksX1_reached_3 24 rfl rfl
theorem dksX1_reached_5 : cX1_reached.data.toList.drop 119 = dktX1_reached_5 := dk_seg dksX1_reached_4 23 rfl rfl
theorem dksX1_reached_6 : cX1_reached.data.toList.drop 143 = dktX1_reached_6 := dk_seg dksX1_reached_5 24 rfl rfl
theorem dX1_reached_0 : decode cX1_reached 0 = .ok (.iconst 0, 1) := dk_3 (dk_at dksX1_reached_0 0 rfl rfl)
theorem dX1_reached_1 : decode cX1_reached 1 = .ok (.istore_n 3, 1) := dk_62 (dk_at dksX1_reached_0 1 rfl rfl)
theorem dX1_reached_2 : decode cX1_reached 2 = .ok (.iconst 0, 1) := dk_3 (dk_at dksX1_reached_0 2 rfl rfl)
theorem dX1_reached_3 : decode cX1_reached 3 = .ok (.istore 4, 2) := dk_54 4 (dk_at dksX1_reached_0 3 rfl rfl)
theorem dX1_reached_5 : decode cX1_reached 5 = .ok (.iload 4, 2) := dk_21 4 (dk_at dksX1_reached_0 5 rfl rfl)
theorem dX1_reached_7 : decode cX1_reached 7 = .ok (.aload_n 0, 1) := dk_42 (dk_at dksX1_reached_0 7 rfl rfl)
theorem dX1_reached_8 : decode cX1_reached 8 = .ok (.getfield 12, 3) := dk_180 0 12 (dk_at dksX1_reached_0 8 rfl rfl)
theorem dX1_reached_11 : decode cX1_reached 11 = .ok (.invokevirtual 271, 3) := dk_182 1 15 (dk_at dksX1_reached_0 11 rfl rfl)
theorem dX1_reached_14 : decode cX1_reached 14 = .ok (.if_icmp .ge 70, 3) := dk_162 0 70 (dk_at dksX1_reached_0 14 rfl rfl)
theorem dX1_reached_17 : decode cX1_reached 17 = .ok (.aload_n 0, 1) := dk_42 (dk_at dksX1_reached_0 17 rfl rfl)
theorem dX1_reached_18 : decode cX1_reached 18 = .ok (.getfield 48, 3) := dk_180 0 48 (dk_at dksX1_reached_0 18 rfl rfl)
theorem dX1_reached_21 : decode cX1_reached 21 = .ok (.iload 4, 2) := dk_21 4 (dk_at dksX1_reached_0 21 rfl rfl)
theorem dX1_reached_23 : decode cX1_reached 23 = .ok (.aload_n 0, 1) := dk_42 (dk_at dksX1_reached_0 23 rfl rfl)
theorem dX1_reached_24 : decode cX1_reached 24 = .ok (.getfield 12, 3) := dk_180 0 12 (dk_at dksX1_reached_1 0 rfl rfl)
theorem dX1_reached_27 : decode cX1_reached 27 = .ok (.iload 4, 2) := dk_21 4 (dk_at dksX1_reached_1 3 rfl rfl)
theorem dX1_reached_29 : decode cX1_reached 29 = .ok (.invokevirtual 150, 3) := dk_182 0 150 (dk_at dksX1_reached_1 5 rfl rfl)
theorem dX1_reached_32 : decode cX1_reached 32 = .ok (.ifCond .eq 20, 3) := dk_153 0 20 (dk_at dksX1_reached_1 8 rfl rfl)
theorem dX1_reached_35 : decode cX1_reached 35 = .ok (.aload_n 0, 1) := dk_42 (dk_at dksX1_reached_1 11 rfl rfl)
theorem dX1_reached_36 : decode cX1_reached 36 = .ok (.getfield 12, 3) := dk_180 0 12 (dk_at dksX1_reached_1 12 rfl rfl)
theorem dX1_reached_39 : decode cX1_reached 39 = .ok (.iload 4, 2) := dk_21 4 (dk_at dksX1_reached_1 15 rfl rfl)
theorem dX1_reached_41 : decode cX1_reached 41 = .ok (.invokevirtual 280, 3) := dk_182 1 24 (dk_at dksX1_reached_1 17 rfl rfl)
theorem dX1_reached_44 : decode cX1_reached 44 = .ok (.iload_n 1, 1) := dk_27 (dk_at dksX1_reached_1 20 rfl rfl)
theorem dX1_reached_45 : decode cX1_reached 45 = .ok (.if_icmp .ne 7, 3) := dk_160 0 7 (dk_at dksX1_reached_1 21 rfl rfl)
theorem dX1_reached_48 : decode cX1_reached 48 = .ok (.iconst 1, 1) := dk_4 (dk_at dksX1_reached_2 0 rfl rfl)
theorem dX1_reached_49 : decode cX1_reached 49 = .ok (.goto 4, 3) := dk_167 0 4 (dk_at dksX1_reached_2 1 rfl rfl)
theorem dX1_reached_52 : decode cX1_reached 52 = .ok (.iconst 0, 1) := dk_3 (dk_at dksX1_reached_2 4 rfl rfl)
theorem dX1_reached_53 : decode cX1_reached 53 = .ok (.bastore, 1) := dk_84 (dk_at dksX1_reached_2 5 rfl rfl)
theorem dX1_reached_54 : decode cX1_reached 54 = .ok (.aload_n 0, 1) := dk_42 (dk_at dksX1_reached_2 6 rfl rfl)
theorem dX1_reached_55 : decode cX1_reached 55 = .ok (.getfield 48, 3) := dk_180 0 48 (dk_at dksX1_reached_2 7 rfl rfl)
theorem dX1_reached_58 : decode cX1_reached 58 = .ok (.iload 4, 2) := dk_21 4 (dk_at dksX1_reached_2 10 rfl rfl)
theorem dX1_reached_60 : decode cX1_reached 60 = .ok (.baload, 1) := dk_51 (dk_at dksX1_reached_2 12 rfl rfl)
theorem dX1_reached_61 : decode cX1_reached 61 = .ok (.ifCond .ne 6, 3) := dk_154 0 6 (dk_at dksX1_reached_2 13 rfl rfl)
theorem dX1_reached_64 : decode cX1_reached 64 = .ok (.goto 14, 3) := dk_167 0 14 (dk_at dksX1_reached_2 16 rfl rfl)
theorem dX1_reached_67 : decode cX1_reached 67 = .ok (.aload_n 0, 1) := dk_42 (dk_at dksX1_reached_2 19 rfl rfl)
theorem dX1_reached_68 : decode cX1_reached 68 = .ok (.getfield 52, 3) := dk_180 0 52 (dk_at dksX1_reached_2 20 rfl rfl)
theorem dX1_reached_71 : decode cX1_reached 71 = .ok (.iload_n 3, 1) := dk_29 (dk_at dksX1_reached_2 23 rfl rfl)
theorem dX1_reached_72 : decode cX1_reached 72 = .ok (.iload 4, 2) := dk_21 4 (dk_at dksX1_reached_3 0 rfl rfl)
theorem dX1_reached_74 : decode cX1_reached 74 = .ok (.iastore, 1) := dk_79 (dk_at dksX1_reached_3 2 rfl rfl)
theorem dX1_reached_75 : decode cX1_reached 75 = .ok (.iinc 3 1, 3) := dk_132 3 1 (dk_at dksX1_reached_3 3 rfl rfl)
theorem dX1_reached_78 : decode cX1_reached 78 = .ok (.iinc 4 1, 3) := dk_132 4 1 (dk_at dksX1_reached_3 6 rfl rfl)
theorem dX1_reached_81 : decode cX1_reached 81 = .ok (.goto (-76), 3) := dk_167 255 180 (dk_at dksX1_reached_3 9 rfl rfl)
theorem dX1_reached_84 : decode cX1_reached 84 = .ok (.aload_n 0, 1) := dk_42 (dk_at dksX1_reached_3 12 rfl rfl)
theorem dX1_reached_85 : decode cX1_reached 85 = .ok (.iload_n 3, 1) := dk_29 (dk_at dksX1_reached_3 13 rfl rfl)
theorem dX1_reached_86 : decode cX1_reached 86 = .ok (.iload_n 2, 1) := dk_28 (dk_at dksX1_reached_3 14 rfl rfl)
theorem dX1_reached_87 : decode cX1_reached 87 = .ok (.invokevirtual 308, 3) := dk_182 1 52 (dk_at dksX1_reached_3 15 rfl rfl)
theorem dX1_reached_90 : decode cX1_reached 90 = .ok (.iconst 1, 1) := dk_4 (dk_at dksX1_reached_3 18 rfl rfl)
theorem dX1_reached_91 : decode cX1_reached 91 = .ok (.iload_n 1, 1) := dk_27 (dk_at dksX1_reached_3 19 rfl rfl)
theorem dX1_reached_92 : decode cX1_reached 92 = .ok (.ishl, 1) := dk_120 (dk_at dksX1_reached_3 20 rfl rfl)
theorem dX1_reached_93 : decode cX1_reached 93 = .ok (.istore 4, 2) := dk_54 4 (dk_at dksX1_reached_3 21 rfl rfl)
theorem dX1_reached_95 : decode cX1_reached 95 = .ok (.iconst 0, 1) := dk_3 (dk_at dksX1_reached_3 23 rfl rfl)
theorem dX1_reached_96 : decode cX1_reached 96 = .ok (.istore 5, 2) := dk_54 5 (dk_at dksX1_reached_4 0 rfl rfl)
theorem dX1_reached_98 : decode cX1_reached 98 = .ok (.iload 5, 2) := dk_21 5 (dk_at dksX1_reached_4 2 rfl rfl)
theorem dX1_reached_100 : decode cX1_reached 100 = .ok (.aload_n 0, 1) := dk_42 (dk_at dksX1_reached_4 4 rfl rfl)
theorem dX1_reached_101 : decode cX1_reached 101 = .ok (.getfield 12, 3) := dk_180 0 12 (dk_at dksX1_reached_4 5 rfl rfl)
theorem dX1_reached_104 : decode cX1_reached 104 = .ok (.invokevirtual 271, 3) := dk_182 1 15 (dk_at dksX1_reached_4 8 rfl rfl)
theorem dX1_reached_107 : decode cX1_reached 107 = .ok (.if_icmp .ge 39, 3) := dk_162 0 39 (dk_at dksX1_reached_4 11 rfl rfl)
theorem dX1_reached_110 : decode cX1_reached 110 = .ok (.iload 4, 2) := dk_21 4 (dk_at dksX1_reached_4 14 rfl rfl)
theorem dX1_reached_112 : decode cX1_reached 112 = .ok (.aload_n 0, 1) := dk_42 (dk_at dksX1_reached_4 16 rfl rfl)
theorem dX1_reached_113 : decode cX1_reached 113 = .ok (.getfield 48, 3) := dk_180 0 48 (dk_at dksX1_reached_4 17 rfl rfl)
theorem dX1_reached_116 : decode cX1_reached 116 = .ok (.iload 5, 2) := dk_21 5 (dk_at dksX1_reached_4 20 rfl rfl)
theorem dX1_reached_118 : decode cX1_reached 118 = .ok (.baload, 1) := dk_51 (dk_at dksX1_reached_4 22 rfl rfl)
theorem dX1_reached_119 : decode cX1_reached 119 = .ok (.ifCond .eq 17, 3) := dk_153 0 17 (dk_at dksX1_reached_5 0 rfl rfl)
theorem dX1_reached_122 : decode cX1_reached 122 = .ok (.iconst 1, 1) := dk_4 (dk_at dksX1_reached_5 3 rfl rfl)
theorem dX1_reached_123 : decode cX1_reached 123 = .ok (.aload_n 0, 1) := dk_42 (dk_at dksX1_reached_5 4 rfl rfl)
theorem dX1_reached_124 : decode cX1_reached 124 = .ok (.getfield 12, 3) := dk_180 0 12 (dk_at dksX1_reached_5 5 rfl rfl)
theorem dX1_reached_127 : decode cX1_reached 127 = .ok (.iload 5, 2) := dk_21 5 (dk_at dksX1_reached_5 8 rfl rfl)
theorem dX1_reached_129 : decode cX1_reached 129 = .ok (.invokevirtual 274, 3) := dk_182 1 18 (dk_at dksX1_reached_5 10 rfl rfl)
theorem dX1_reached_132 : decode cX1_reached 132 = .ok (.ishl, 1) := dk_120 (dk_at dksX1_reached_5 13 rfl rfl)
theorem dX1_reached_133 : decode cX1_reached 133 = .ok (.goto 4, 3) := dk_167 0 4 (dk_at dksX1_reached_5 14 rfl rfl)
theorem dX1_reached_136 : decode cX1_reached 136 = .ok (.iconst 0, 1) := dk_3 (dk_at dksX1_reached_5 17 rfl rfl)
theorem dX1_reached_137 : decode cX1_reached 137 = .ok (.ior, 1) := dk_128 (dk_at dksX1_reached_5 18 rfl rfl)
theorem dX1_reached_138 : decode cX1_reached 138 = .ok (.istore 4, 2) := dk_54 4 (dk_at dksX1_reached_5 19 rfl rfl)
theorem dX1_reached_140 : decode cX1_reached 140 = .ok (.iinc 5 1, 3) := dk_132 5 1 (dk_at dksX1_reached_5 21 rfl rfl)
theorem dX1_reached_143 : decode cX1_reached 143 = .ok (.goto (-45), 3) := dk_167 255 211 (dk_at dksX1_reached_6 0 rfl rfl)
theorem dX1_reached_146 : decode cX1_reached 146 = .ok (.iload 4, 2) := dk_21 4 (dk_at dksX1_reached_6 3 rfl rfl)
theorem dX1_reached_148 : decode cX1_reached 148 = .ok (.ireturn, 1) := dk_172 (dk_at dksX1_reached_6 5 rfl rfl)
abbrev cX1_goesOn : ByteArray := prog_1_method_29_code
def yX1_goesOn : MethodName := ⟨RX1, "goesOn", "(II)V"⟩
def dkwX1_goesOn_4 : List UInt8 := [132, 4, 1, 167, 255, 165, 177]
abbrev dktX1_goesOn_4 : List UInt8 := dkwX1_goesOn_4 ++ []
def dkwX1_goesOn_3 : List UInt8 := [180, 0, 48, 21, 5, 4, 84, 42, 180, 0, 52, 29, 21, 5, 79, 132, 3, 1, 132, 5, 1, 167, 255, 180]
abbrev dktX1_goesOn_3 : List UInt8 := dkwX1_goesOn_3 ++ dktX1_goesOn_4
def dkwX1_goesOn_2 : List UInt8 := [153, 0, 42, 42, 42, 180, 0, 52, 21, 4, 46, 21, 5, 28, 182, 1, 1, 154, 0, 6, 167, 0, 22, 42]
abbrev dktX1_goesOn_2 : List UInt8 := dkwX1_goesOn_2 ++ dktX1_goesOn_3
def dkwX1_goesOn_1 : List UInt8 := [162, 0, 70, 42, 180, 0, 48, 21, 5, 51, 154, 0, 54, 42, 180, 0, 12, 21, 5, 182, 0, 150]
abbrev dktX1_goesOn_1 : List UInt8 := dkwX1_goesOn_1 ++ dktX1_goesOn_2
def dkwX1_goesOn_0 : List UInt8 := [27, 62, 3, 54, 4, 21, 4, 29, 162, 0, 91, 3, 54, 5, 21, 5, 42, 180, 0, 12, 182, 1, 15]
abbrev dktX1_goesOn_0 : List UInt8 := dkwX1_goesOn_0 ++ dktX1_goesOn_1
theorem dksX1_goesOn_0 : cX1_goesOn.data.toList.drop 0 = dktX1_goesOn_0 := by decide +kernel
theorem dksX1_goesOn_1 : cX1_goesOn.data.toList.drop 23 = dktX1_goesOn_1 := dk_seg dksX1_goesOn_0 23 rfl rfl
theorem dksX1_goesOn_2 : cX1_goesOn.data.toList.drop 45 = dktX1_goesOn_2 := dk_seg dksX1_goesOn_1 22 rfl rfl
theorem dksX1_goesOn_3 : cX1_goesOn.data.toList.drop 69 = dktX1_goesOn_3 := dk_seg dksX1_goesOn_2 24 rfl rfl
theorem dksX1_goesOn_4 : cX1_goesOn.data.toList.drop 93 = dktX1_goesOn_4 := dk_seg dksX1_goesOn_3 24 rfl rfl
theorem dX1_goesOn_0 : decode cX1_goesOn 0 = .ok (.iload_n 1, 1) := dk_27 (dk_at dksX1_goesOn_0 0 rfl rfl)
theorem dX1_goesOn_1 : decode cX1_goesOn 1 = .ok (.istore_n 3, 1) := dk_62 (dk_at dksX1_goesOn_0 1 rfl rfl)
theorem dX1_goesOn_2 : decode cX1_goesOn 2 = .ok (.iconst 0, 1) := dk_3 (dk_at dksX1_goesOn_0 2 rfl rfl)
theorem dX1_goesOn_3 : decode cX1_goesOn 3 = .ok (.istore 4, 2) := dk_54 4 (dk_at dksX1_goesOn_0 3 rfl rfl)
theorem dX1_goesOn_5 : decode cX1_goesOn 5 = .ok (.iload 4, 2) := dk_21 4 (dk_at dksX1_goesOn_0 5 rfl rfl)
theorem dX1_goesOn_7 : decode cX1_goesOn 7 = .ok (.iload_n 3, 1) := dk_29 (dk_at dksX1_goesOn_0 7 rfl rfl)
theorem dX1_goesOn_8 : decode cX1_goesOn 8 = .ok (.if_icmp .ge 91, 3) := dk_162 0 91 (dk_at dksX1_goesOn_0 8 rfl rfl)
theorem dX1_goesOn_11 : decode cX1_goesOn 11 = .ok (.iconst 0, 1) := dk_3 (dk_at dksX1_goesOn_0 11 rfl rfl)
theorem dX1_goesOn_12 : decode cX1_goesOn 12 = .ok (.istore 5, 2) := dk_54 5 (dk_at dksX1_goesOn_0 12 rfl rfl)
theorem dX1_goesOn_14 : decode cX1_goesOn 14 = .ok (.iload 5, 2) := dk_21 5 (dk_at dksX1_goesOn_0 14 rfl rfl)
theorem dX1_goesOn_16 : decode cX1_goesOn 16 = .ok (.aload_n 0, 1) := dk_42 (dk_at dksX1_goesOn_0 16 rfl rfl)
theorem dX1_goesOn_17 : decode cX1_goesOn 17 = .ok (.getfield 12, 3) := dk_180 0 12 (dk_at dksX1_goesOn_0 17 rfl rfl)
theorem dX1_goesOn_20 : decode cX1_goesOn 20 = .ok (.invokevirtual 271, 3) := dk_182 1 15 (dk_at dksX1_goesOn_0 20 rfl rfl)
theorem dX1_goesOn_23 : decode cX1_goesOn 23 = .ok (.if_icmp .ge 70, 3) := dk_162 0 70 (dk_at dksX1_goesOn_1 0 rfl rfl)
theorem dX1_goesOn_26 : decode cX1_goesOn 26 = .ok (.aload_n 0, 1) := dk_42 (dk_at dksX1_goesOn_1 3 rfl rfl)
theorem dX1_goesOn_27 : decode cX1_goesOn 27 = .ok (.getfield 48, 3) := dk_180 0 48 (dk_at dksX1_goesOn_1 4 rfl rfl)
theorem dX1_goesOn_30 : decode cX1_goesOn 30 = .ok (.iload 5, 2) := dk_21 5 (dk_at dksX1_goesOn_1 7 rfl rfl)
theorem dX1_goesOn_32 : decode cX1_goesOn 32 = .ok (.baload, 1) := dk_51 (dk_at dksX1_goesOn_1 9 rfl rfl)
theorem dX1_goesOn_33 : decode cX1_goesOn 33 = .ok (.ifCond .ne 54, 3) := dk_154 0 54 (dk_at dksX1_goesOn_1 10 rfl rfl)
theorem dX1_goesOn_36 : decode cX1_goesOn 36 = .ok (.aload_n 0, 1) := dk_42 (dk_at dksX1_goesOn_1 13 rfl rfl)
theorem dX1_goesOn_37 : decode cX1_goesOn 37 = .ok (.getfield 12, 3) := dk_180 0 12 (dk_at dksX1_goesOn_1 14 rfl rfl)
theorem dX1_goesOn_40 : decode cX1_goesOn 40 = .ok (.iload 5, 2) := dk_21 5 (dk_at dksX1_goesOn_1 17 rfl rfl)
theorem dX1_goesOn_42 : decode cX1_goesOn 42 = .ok (.invokevirtual 150, 3) := dk_182 0 150 (dk_at dksX1_goesOn_1 19 rfl rfl)
theorem dX1_goesOn_45 : decode cX1_goesOn 45 = .ok (.ifCond .eq 42, 3) := dk_153 0 42 (dk_at dksX1_goesOn_2 0 rfl rfl)
theorem dX1_goesOn_48 : decode cX1_goesOn 48 = .ok (.aload_n 0, 1) := dk_42 (dk_at dksX1_goesOn_2 3 rfl rfl)
theorem dX1_goesOn_49 : decode cX1_goesOn 49 = .ok (.aload_n 0, 1) := dk_42 (dk_at dksX1_goesOn_2 4 rfl rfl)
theorem dX1_goesOn_50 : decode cX1_goesOn 50 = .ok (.getfield 52, 3) := dk_180 0 52 (dk_at dksX1_goesOn_2 5 rfl rfl)
theorem dX1_goesOn_53 : decode cX1_goesOn 53 = .ok (.iload 4, 2) := dk_21 4 (dk_at dksX1_goesOn_2 8 rfl rfl)
theorem dX1_goesOn_55 : decode cX1_goesOn 55 = .ok (.iaload, 1) := dk_46 (dk_at dksX1_goesOn_2 10 rfl rfl)
theorem dX1_goesOn_56 : decode cX1_goesOn 56 = .ok (.iload 5, 2) := dk_21 5 (dk_at dksX1_goesOn_2 11 rfl rfl)
theorem dX1_goesOn_58 : decode cX1_goesOn 58 = .ok (.iload_n 2, 1) := dk_28 (dk_at dksX1_goesOn_2 13 rfl rfl)
theorem dX1_goesOn_59 : decode cX1_goesOn 59 = .ok (.invokevirtual 257, 3) := dk_182 1 1 (dk_at dksX1_goesOn_2 14 rfl rfl)
theorem dX1_goesOn_62 : decode cX1_goesOn 62 = .ok (.ifCond .ne 6, 3) := dk_154 0 6 (dk_at dksX1_goesOn_2 17 rfl rfl)
theorem dX1_goesOn_65 : decode cX1_goesOn 65 = .ok (.goto 22, 3) := dk_167 0 22 (dk_at dksX1_goesOn_2 20 rfl rfl)
theorem dX1_goesOn_68 : decode cX1_goesOn 68 = .ok (.aload_n 0, 1) := dk_42 (dk_at dksX1_goesOn_2 23 rfl rfl)
theorem dX1_goesOn_69 : decode cX1_goesOn 69 = .ok (.getfield 48, 3) := dk_180 0 48 (dk_at dksX1_goesOn_3 0 rfl rfl)
theorem dX1_goesOn_72 : decode cX1_goesOn 72 = .ok (.iload 5, 2) := dk_21 5 (dk_at dksX1_goesOn_3 3 rfl rfl)
theorem dX1_goesOn_74 : decode cX1_goesOn 74 = .ok (.iconst 1, 1) := dk_4 (dk_at dksX1_goesOn_3 5 rfl rfl)
theorem dX1_goesOn_75 : decode cX1_goesOn 75 = .ok (.bastore, 1) := dk_84 (dk_at dksX1_goesOn_3 6 rfl rfl)
theorem dX1_goesOn_76 : decode cX1_goesOn 76 = .ok (.aload_n 0, 1) := dk_42 (dk_at dksX1_goesOn_3 7 rfl rfl)
theorem dX1_goesOn_77 : decode cX1_goesOn 77 = .ok (.getfield 52, 3) := dk_180 0 52 (dk_at dksX1_goesOn_3 8 rfl rfl)
theorem dX1_goesOn_80 : decode cX1_goesOn 80 = .ok (.iload_n 3, 1) := dk_29 (dk_at dksX1_goesOn_3 11 rfl rfl)
theorem dX1_goesOn_81 : decode cX1_goesOn 81 = .ok (.iload 5, 2) := dk_21 5 (dk_at dksX1_goesOn_3 12 rfl rfl)
theorem dX1_goesOn_83 : decode cX1_goesOn 83 = .ok (.iastore, 1) := dk_79 (dk_at dksX1_goesOn_3 14 rfl rfl)
theorem dX1_goesOn_84 : decode cX1_goesOn 84 = .ok (.iinc 3 1, 3) := dk_132 3 1 (dk_at dksX1_goesOn_3 15 rfl rfl)
theorem dX1_goesOn_87 : decode cX1_goesOn 87 = .ok (.iinc 5 1, 3) := dk_132 5 1 (dk_at dksX1_goesOn_3 18 rfl rfl)
theorem dX1_goesOn_90 : decode cX1_goesOn 90 = .ok (.goto (-76), 3) := dk_167 255 180 (dk_at dksX1_goesOn_3 21 rfl rfl)
theorem dX1_goesOn_93 : decode cX1_goesOn 93 = .ok (.iinc 4 1, 3) := dk_132 4 1 (dk_at dksX1_goesOn_4 0 rfl rfl)
theorem dX1_goesOn_96 : decode cX1_goesOn 96 = .ok (.goto (-91), 3) := dk_167 255 165 (dk_at dksX1_goesOn_4 3 rfl rfl)
theorem dX1_goesOn_99 : decode cX1_goesOn 99 = .ok (.return_, 1) := dk_177 (dk_at dksX1_goesOn_4 6 rfl rfl)
abbrev cX1_homeOf : ByteArray := prog_1_method_31_code
def yX1_homeOf : MethodName := ⟨RX1, "homeOf", "(II)I"⟩
def dkwX1_homeOf_1 : List UInt8 := [126, 4, 160, 0, 10, 29, 4, 21, 4, 120, 128, 62, 132, 4, 1, 167, 255, 222, 29, 172]
abbrev dktX1_homeOf_1 : List UInt8 := dkwX1_homeOf_1 ++ []
def dkwX1_homeOf_0 : List UInt8 := [3, 62, 3, 54, 4, 21, 4, 42, 182, 0, 133, 162, 0, 31, 42, 21, 4, 28, 182, 1, 54, 27, 122, 4]
abbrev dktX1_homeOf_0 : List UInt8 := dkwX1_homeOf_0 ++ dktX1_homeOf_1
theorem dksX1_homeOf_0 : cX1_homeOf.data.toList.drop 0 = dktX1_homeOf_0 := by decide +kernel
theorem dksX1_homeOf_1 : cX1_homeOf.data.toList.drop 24 = dktX1_homeOf_1 := dk_seg dksX1_homeOf_0 24 rfl rfl
theorem dX1_homeOf_0 : decode cX1_homeOf 0 = .ok (.iconst 0, 1) := dk_3 (dk_at dksX1_homeOf_0 0 rfl rfl)
theorem dX1_homeOf_1 : decode cX1_homeOf 1 = .ok (.istore_n 3, 1) := dk_62 (dk_at dksX1_homeOf_0 1 rfl rfl)
theorem dX1_homeOf_2 : decode cX1_homeOf 2 = .ok (.iconst 0, 1) := dk_3 (dk_at dksX1_homeOf_0 2 rfl rfl)
theorem dX1_homeOf_3 : decode cX1_homeOf 3 = .ok (.istore 4, 2) := dk_54 4 (dk_at dksX1_homeOf_0 3 rfl rfl)
theorem dX1_homeOf_5 : decode cX1_homeOf 5 = .ok (.iload 4, 2) := dk_21 4 (dk_at dksX1_homeOf_0 5 rfl rfl)
theorem dX1_homeOf_7 : decode cX1_homeOf 7 = .ok (.aload_n 0, 1) := dk_42 (dk_at dksX1_homeOf_0 7 rfl rfl)
theorem dX1_homeOf_8 : decode cX1_homeOf 8 = .ok (.invokevirtual 133, 3) := dk_182 0 133 (dk_at dksX1_homeOf_0 8 rfl rfl)
theorem dX1_homeOf_11 : decode cX1_homeOf 11 = .ok (.if_icmp .ge 31, 3) := dk_162 0 31 (dk_at dksX1_homeOf_0 11 rfl rfl)
theorem dX1_homeOf_14 : decode cX1_homeOf 14 = .ok (.aload_n 0, 1) := dk_42 (dk_at dksX1_homeOf_0 14 rfl rfl)
theorem dX1_homeOf_15 : decode cX1_homeOf 15 = .ok (.iload 4, 2) := dk_21 4 (dk_at dksX1_homeOf_0 15 rfl rfl)
theorem dX1_homeOf_17 : decode cX1_homeOf 17 = .ok (.iload_n 2, 1) := dk_28 (dk_at dksX1_homeOf_0 17 rfl rfl)
theorem dX1_homeOf_18 : decode cX1_homeOf 18 = .ok (.invokevirtual 310, 3) := dk_182 1 54 (dk_at dksX1_homeOf_0 18 rfl rfl)
theorem dX1_homeOf_21 : decode cX1_homeOf 21 = .ok (.iload_n 1, 1) := dk_27 (dk_at dksX1_homeOf_0 21 rfl rfl)
theorem dX1_homeOf_22 : decode cX1_homeOf 22 = .ok (.ishr, 1) := dk_122 (dk_at dksX1_homeOf_0 22 rfl rfl)
theorem dX1_homeOf_23 : decode cX1_homeOf 23 = .ok (.iconst 1, 1) := dk_4 (dk_at dksX1_homeOf_0 23 rfl rfl)
theorem dX1_homeOf_24 : decode cX1_homeOf 24 = .ok (.iand, 1) := dk_126 (dk_at dksX1_homeOf_1 0 rfl rfl)
theorem dX1_homeOf_25 : decode cX1_homeOf 25 = .ok (.iconst 1, 1) := dk_4 (dk_at dksX1_homeOf_1 1 rfl rfl)
theorem dX1_homeOf_26 : decode cX1_homeOf 26 = .ok (.if_icmp .ne 10, 3) := dk_160 0 10 (dk_at dksX1_homeOf_1 2 rfl rfl)
theorem dX1_homeOf_29 : decode cX1_homeOf 29 = .ok (.iload_n 3, 1) := dk_29 (dk_at dksX1_homeOf_1 5 rfl rfl)
theorem dX1_homeOf_30 : decode cX1_homeOf 30 = .ok (.iconst 1, 1) := dk_4 (dk_at dksX1_homeOf_1 6 rfl rfl)
theorem dX1_homeOf_31 : decode cX1_homeOf 31 = .ok (.iload 4, 2) := dk_21 4 (dk_at dksX1_homeOf_1 7 rfl rfl)
theorem dX1_homeOf_33 : decode cX1_homeOf 33 = .ok (.ishl, 1) := dk_120 (dk_at dksX1_homeOf_1 9 rfl rfl)
theorem dX1_homeOf_34 : decode cX1_homeOf 34 = .ok (.ior, 1) := dk_128 (dk_at dksX1_homeOf_1 10 rfl rfl)
theorem dX1_homeOf_35 : decode cX1_homeOf 35 = .ok (.istore_n 3, 1) := dk_62 (dk_at dksX1_homeOf_1 11 rfl rfl)
theorem dX1_homeOf_36 : decode cX1_homeOf 36 = .ok (.iinc 4 1, 3) := dk_132 4 1 (dk_at dksX1_homeOf_1 12 rfl rfl)
theorem dX1_homeOf_39 : decode cX1_homeOf 39 = .ok (.goto (-34), 3) := dk_167 255 222 (dk_at dksX1_homeOf_1 15 rfl rfl)
theorem dX1_homeOf_42 : decode cX1_homeOf 42 = .ok (.iload_n 3, 1) := dk_29 (dk_at dksX1_homeOf_1 18 rfl rfl)
theorem dX1_homeOf_43 : decode cX1_homeOf 43 = .ok (.ireturn, 1) := dk_172 (dk_at dksX1_homeOf_1 19 rfl rfl)
abbrev cX1_parts : ByteArray := prog_1_method_35_code
def yX1_parts : MethodName := ⟨RX1, "parts", "(II)I"⟩
def dkwX1_parts_5 : List UInt8 := [21, 6, 184, 1, 67, 54, 4, 132, 5, 1, 167, 255, 168, 28, 154, 0, 7, 29, 167, 0, 5, 21, 4, 172]
abbrev dktX1_parts_5 : List UInt8 := dkwX1_parts_5 ++ []
def dkwX1_parts_4 : List UInt8 := [21, 7, 46, 21, 5, 160, 0, 7, 4, 167, 0, 4, 3, 96, 54, 6, 132, 7, 1, 167, 255, 219, 21, 4]
abbrev dktX1_parts_4 : List UInt8 := dkwX1_parts_4 ++ dktX1_parts_5
def dkwX1_parts_3 : List UInt8 := [3, 54, 6, 3, 54, 7, 21, 7, 42, 180, 0, 12, 182, 1, 15, 162, 0, 31, 21, 6, 42, 180, 0, 55]
abbrev dktX1_parts_3 : List UInt8 := dkwX1_parts_3 ++ dktX1_parts_4
def dkwX1_parts_2 : List UInt8 := [182, 1, 15, 162, 0, 82, 42, 180, 0, 55, 21, 5, 46, 21, 5, 159, 0, 6, 167, 0, 61, 132, 3, 1]
abbrev dktX1_parts_2 : List UInt8 := dkwX1_parts_2 ++ dktX1_parts_3
def dkwX1_parts_1 : List UInt8 := [184, 0, 164, 42, 27, 182, 1, 64, 3, 62, 3, 54, 4, 3, 54, 5, 21, 5, 42, 180, 0, 12]
abbrev dktX1_parts_1 : List UInt8 := dkwX1_parts_1 ++ dktX1_parts_2
def dkwX1_parts_0 : List UInt8 := [42, 27, 182, 0, 254, 153, 0, 16, 28, 153, 0, 8, 28, 4, 160, 0, 7, 4, 167, 0, 4, 3]
abbrev dktX1_parts_0 : List UInt8 := dkwX1_parts_0 ++ dktX1_parts_1
theorem dksX1_parts_0 : cX1_parts.data.toList.drop 0 = dktX1_parts_0 := by decide +kernel
theorem dksX1_parts_1 : cX1_parts.data.toList.drop 22 = dktX1_parts_1 := dk_seg dksX1_parts_0 22 rfl rfl
theorem dksX1_parts_2 : cX1_parts.data.toList.drop 44 = dktX1_parts_2 := dk_seg dksX1_parts_1 22 rfl rfl
theorem dksX1_parts_3 : cX1_parts.data.toList.drop 68 = dktX1_parts_3 := dk_seg dksX1_parts_2 24 rfl rfl
theorem dksX1_parts_4 : cX1_parts.data.toList.drop 92 = dktX1_parts_4 := dk_seg dksX1_parts_3 24 rfl rfl
theorem dksX1_parts_5 : cX1_parts.data.toList.drop 116 = dktX1_parts_5 := dk_seg dksX1_parts_4 24 rfl rfl
theorem dX1_parts_0 : decode cX1_parts 0 = .ok (.aload_n 0, 1) := dk_42 (dk_at dksX1_parts_0 0 rfl rfl)
theorem dX1_parts_1 : decode cX1_parts 1 = .ok (.iload_n 1, 1) := dk_27 (dk_at dksX1_parts_0 1 rfl rfl)
theorem dX1_parts_2 : decode cX1_parts 2 = .ok (.invokevirtual 254, 3) := dk_182 0 254 (dk_at dksX1_parts_0 2 rfl rfl)
theorem dX1_parts_5 : decode cX1_parts 5 = .ok (.ifCond .eq 16, 3) := dk_153 0 16 (dk_at dksX1_parts_0 5 rfl rfl)
theorem dX1_parts_8 : decode cX1_parts 8 = .ok (.iload_n 2, 1) := dk_28 (dk_at dksX1_parts_0 8 rfl rfl)
theorem dX1_parts_9 : decode cX1_parts 9 = .ok (.ifCond .eq 8, 3) := dk_153 0 8 (dk_at dksX1_parts_0 9 rfl rfl)
theorem dX1_parts_12 : decode cX1_parts 12 = .ok (.iload_n 2, 1) := dk_28 (dk_at dksX1_parts_0 12 rfl rfl)
theorem dX1_parts_13 : decode cX1_parts 13 = .ok (.iconst 1, 1) := dk_4 (dk_at dksX1_parts_0 13 rfl rfl)
theorem dX1_parts_14 : decode cX1_parts 14 = .ok (.if_icmp .ne 7, 3) := dk_160 0 7 (dk_at dksX1_parts_0 14 rfl rfl)
theorem dX1_parts_17 : decode cX1_parts 17 = .ok (.iconst 1, 1) := dk_4 (dk_at dksX1_parts_0 17 rfl rfl)
theorem dX1_parts_18 : decode cX1_parts 18 = .ok (.goto 4, 3) := dk_167 0 4 (dk_at dksX1_parts_0 18 rfl rfl)
theorem dX1_parts_21 : decode cX1_parts 21 = .ok (.iconst 0, 1) := dk_3 (dk_at dksX1_parts_0 21 rfl rfl)
theorem dX1_parts_22 : decode cX1_parts 22 = .ok (.invokestatic 164, 3) := dk_184 0 164 (dk_at dksX1_parts_1 0 rfl rfl)
theorem dX1_parts_25 : decode cX1_parts 25 = .ok (.aload_n 0, 1) := dk_42 (dk_at dksX1_parts_1 3 rfl rfl)
theorem dX1_parts_26 : decode cX1_parts 26 = .ok (.iload_n 1, 1) := dk_27 (dk_at dksX1_parts_1 4 rfl rfl)
theorem dX1_parts_27 : decode cX1_parts 27 = .ok (.invokevirtual 320, 3) := dk_182 1 64 (dk_at dksX1_parts_1 5 rfl rfl)
theorem dX1_parts_30 : decode cX1_parts 30 = .ok (.iconst 0, 1) := dk_3 (dk_at dksX1_parts_1 8 rfl rfl)
theorem dX1_parts_31 : decode cX1_parts 31 = .ok (.istore_n 3, 1) := dk_62 (dk_at dksX1_parts_1 9 rfl rfl)
theorem dX1_parts_32 : decode cX1_parts 32 = .ok (.iconst 0, 1) := dk_3 (dk_at dksX1_parts_1 10 rfl rfl)
theorem dX1_parts_33 : decode cX1_parts 33 = .ok (.istore 4, 2) := dk_54 4 (dk_at dksX1_parts_1 11 rfl rfl)
theorem dX1_parts_35 : decode cX1_parts 35 = .ok (.iconst 0, 1) := dk_3 (dk_at dksX1_parts_1 13 rfl rfl)
theorem dX1_parts_36 : decode cX1_parts 36 = .ok (.istore 5, 2) := dk_54 5 (dk_at dksX1_parts_1 14 rfl rfl)
theorem dX1_parts_38 : decode cX1_parts 38 = .ok (.iload 5, 2) := dk_21 5 (dk_at dksX1_parts_1 16 rfl rfl)
theorem dX1_parts_40 : decode cX1_parts 40 = .ok (.aload_n 0, 1) := dk_42 (dk_at dksX1_parts_1 18 rfl rfl)
theorem dX1_parts_41 : decode cX1_parts 41 = .ok (.getfield 12, 3) := dk_180 0 12 (dk_at dksX1_parts_1 19 rfl rfl)
theorem dX1_parts_44 : decode cX1_parts 44 = .ok (.invokevirtual 271, 3) := dk_182 1 15 (dk_at dksX1_parts_2 0 rfl rfl)
theorem dX1_parts_47 : decode cX1_parts 47 = .ok (.if_icmp .ge 82, 3) := dk_162 0 82 (dk_at dksX1_parts_2 3 rfl rfl)
theorem dX1_parts_50 : decode cX1_parts 50 = .ok (.aload_n 0, 1) := dk_42 (dk_at dksX1_parts_2 6 rfl rfl)
theorem dX1_parts_51 : decode cX1_parts 51 = .ok (.getfield 55, 3) := dk_180 0 55 (dk_at dksX1_parts_2 7 rfl rfl)
theorem dX1_parts_54 : decode cX1_parts 54 = .ok (.iload 5, 2) := dk_21 5 (dk_at dksX1_parts_2 10 rfl rfl)
theorem dX1_parts_56 : decode cX1_parts 56 = .ok (.iaload, 1) := dk_46 (dk_at dksX1_parts_2 12 rfl rfl)
theorem dX1_parts_57 : decode cX1_parts 57 = .ok (.iload 5, 2) := dk_21 5 (dk_at dksX1_parts_2 13 rfl rfl)
theorem dX1_parts_59 : decode cX1_parts 59 = .ok (.if_icmp .eq 6, 3) := dk_159 0 6 (dk_at dksX1_parts_2 15 rfl rfl)
theorem dX1_parts_62 : decode cX1_parts 62 = .ok (.goto 61, 3) := dk_167 0 61 (dk_at dksX1_parts_2 18 rfl rfl)
theorem dX1_parts_65 : decode cX1_parts 65 = .ok (.iinc 3 1, 3) := dk_132 3 1 (dk_at dksX1_parts_2 21 rfl rfl)
theorem dX1_parts_68 : decode cX1_parts 68 = .ok (.iconst 0, 1) := dk_3 (dk_at dksX1_parts_3 0 rfl rfl)
theorem dX1_parts_69 : decode cX1_parts 69 = .ok (.istore 6, 2) := dk_54 6 (dk_at dksX1_parts_3 1 rfl rfl)
theorem dX1_parts_71 : decode cX1_parts 71 = .ok (.iconst 0, 1) := dk_3 (dk_at dksX1_parts_3 3 rfl rfl)
theorem dX1_parts_72 : decode cX1_parts 72 = .ok (.istore 7, 2) := dk_54 7 (dk_at dksX1_parts_3 4 rfl rfl)
theorem dX1_parts_74 : decode cX1_parts 74 = .ok (.iload 7, 2) := dk_21 7 (dk_at dksX1_parts_3 6 rfl rfl)
theorem dX1_parts_76 : decode cX1_parts 76 = .ok (.aload_n 0, 1) := dk_42 (dk_at dksX1_parts_3 8 rfl rfl)
theorem dX1_parts_77 : decode cX1_parts 77 = .ok (.getfield 12, 3) := dk_180 0 12 (dk_at dksX1_parts_3 9 rfl rfl)
theorem dX1_parts_80 : decode cX1_parts 80 = .ok (.invokevirtual 271, 3) := dk_182 1 15 (dk_at dksX1_parts_3 12 rfl rfl)
theorem dX1_parts_83 : decode cX1_parts 83 = .ok (.if_icmp .ge 31, 3) := dk_162 0 31 (dk_at dksX1_parts_3 15 rfl rfl)
theorem dX1_parts_86 : decode cX1_parts 86 = .ok (.iload 6, 2) := dk_21 6 (dk_at dksX1_parts_3 18 rfl rfl)
theorem dX1_parts_88 : decode cX1_parts 88 = .ok (.aload_n 0, 1) := dk_42 (dk_at dksX1_parts_3 20 rfl rfl)
theorem dX1_parts_89 : decode cX1_parts 89 = .ok (.getfield 55, 3) := dk_180 0 55 (dk_at dksX1_parts_3 21 rfl rfl)
theorem dX1_parts_92 : decode cX1_parts 92 = .ok (.iload 7, 2) := dk_21 7 (dk_at dksX1_parts_4 0 rfl rfl)
theorem dX1_parts_94 : decode cX1_parts 94 = .ok (.iaload, 1) := dk_46 (dk_at dksX1_parts_4 2 rfl rfl)
theorem dX1_parts_95 : decode cX1_parts 95 = .ok (.iload 5, 2) := dk_21 5 (dk_at dksX1_parts_4 3 rfl rfl)
theorem dX1_parts_97 : decode cX1_parts 97 = .ok (.if_icmp .ne 7, 3) := dk_160 0 7 (dk_at dksX1_parts_4 5 rfl rfl)
theorem dX1_parts_100 : decode cX1_parts 100 = .ok (.iconst 1, 1) := dk_4 (dk_at dksX1_parts_4 8 rfl rfl)
theorem dX1_parts_101 : decode cX1_parts 101 = .ok (.goto 4, 3) := dk_167 0 4 (dk_at dksX1_parts_4 9 rfl rfl)
theorem dX1_parts_104 : decode cX1_parts 104 = .ok (.iconst 0, 1) := dk_3 (dk_at dksX1_parts_4 12 rfl rfl)
theorem dX1_parts_105 : decode cX1_parts 105 = .ok (.iadd, 1) := dk_96 (dk_at dksX1_parts_4 13 rfl rfl)
theorem dX1_parts_106 : decode cX1_parts 106 = .ok (.istore 6, 2) := dk_54 6 (dk_at dksX1_parts_4 14 rfl rfl)
theorem dX1_parts_108 : decode cX1_parts 108 = .ok (.iinc 7 1, 3) := dk_132 7 1 (dk_at dksX1_parts_4 16 rfl rfl)
theorem dX1_parts_111 : decode cX1_parts 111 = .ok (.goto (-37), 3) := dk_167 255 219 (dk_at dksX1_parts_4 19 rfl rfl)
theorem dX1_parts_114 : decode cX1_parts 114 = .ok (.iload 4, 2) := dk_21 4 (dk_at dksX1_parts_4 22 rfl rfl)
theorem dX1_parts_116 : decode cX1_parts 116 = .ok (.iload 6, 2) := dk_21 6 (dk_at dksX1_parts_5 0 rfl rfl)
theorem dX1_parts_118 : decode cX1_parts 118 = .ok (.invokestatic 323, 3) := dk_184 1 67 (dk_at dksX1_parts_5 2 rfl rfl)
theorem dX1_parts_121 : decode cX1_parts 121 = .ok (.istore 4, 2) := dk_54 4 (dk_at dksX1_parts_5 5 rfl rfl)
theorem dX1_parts_123 : decode cX1_parts 123 = .ok (.iinc 5 1, 3) := dk_132 5 1 (dk_at dksX1_parts_5 7 rfl rfl)
theorem dX1_parts_126 : decode cX1_parts 126 = .ok (.goto (-88), 3) := dk_167 255 168 (dk_at dksX1_parts_5 10 rfl rfl)
theorem dX1_parts_129 : decode cX1_parts 129 = .ok (.iload_n 2, 1) := dk_28 (dk_at dksX1_parts_5 13 rfl rfl)
theorem dX1_parts_130 : decode cX1_parts 130 = .ok (.ifCond .ne 7, 3) := dk_154 0 7 (dk_at dksX1_parts_5 14 rfl rfl)
theorem dX1_parts_133 : decode cX1_parts 133 = .ok (.iload_n 3, 1) := dk_29 (dk_at dksX1_parts_5 17 rfl rfl)
theorem dX1_parts_134 : decode cX1_parts 134 = .ok (.goto 5, 3) := dk_167 0 5 (dk_at dksX1_parts_5 18 rfl rfl)
theorem dX1_parts_137 : decode cX1_parts 137 = .ok (.iload 4, 2) := dk_21 4 (dk_at dksX1_parts_5 21 rfl rfl)
theorem dX1_parts_139 : decode cX1_parts 139 = .ok (.ireturn, 1) := dk_172 (dk_at dksX1_parts_5 23 rfl rfl)
abbrev cX1_findParts : ByteArray := prog_1_method_33_code
def yX1_findParts : MethodName := ⟨RX1, "findParts", "(I)V"⟩
def dkwX1_findParts_8 : List UInt8 := [28, 29, 79, 132, 2, 1, 167, 255, 204, 177]
abbrev dktX1_findParts_8 : List UInt8 := dkwX1_findParts_8 ++ []
def dkwX1_findParts_7 : List UInt8 := [167, 0, 27, 3, 62, 42, 29, 28, 182, 1, 60, 154, 0, 9, 132, 3, 1, 167, 255, 244, 42, 180, 0, 55]
abbrev dktX1_findParts_7 : List UInt8 := dkwX1_findParts_7 ++ dktX1_findParts_8
def dkwX1_findParts_6 : List UInt8 := [3, 61, 28, 42, 180, 0, 12, 182, 1, 15, 162, 0, 47, 42, 180, 0, 12, 28, 182, 0, 150, 154, 0, 6]
abbrev dktX1_findParts_6 : List UInt8 := dkwX1_findParts_6 ++ dktX1_findParts_7
def dkwX1_findParts_5 : List UInt8 := [153, 0, 9, 10, 29, 121, 167, 0, 4, 9, 129, 80, 132, 3, 1, 167, 255, 217, 132, 2, 1, 167, 255, 122]
abbrev dktX1_findParts_5 : List UInt8 := dkwX1_findParts_5 ++ dktX1_findParts_6
def dkwX1_findParts_4 : List UInt8 := [180, 0, 12, 182, 1, 15, 162, 0, 34, 42, 180, 0, 58, 28, 92, 47, 42, 180, 0, 48, 29, 51]
abbrev dktX1_findParts_4 : List UInt8 := dkwX1_findParts_4 ++ dktX1_findParts_5
def dkwX1_findParts_3 : List UInt8 := [132, 3, 1, 167, 255, 226, 42, 180, 0, 52, 3, 28, 79, 42, 4, 27, 182, 1, 52, 3, 62, 29, 42]
abbrev dktX1_findParts_3 : List UInt8 := dkwX1_findParts_3 ++ dktX1_findParts_4
def dkwX1_findParts_2 : List UInt8 := [182, 1, 15, 162, 0, 25, 42, 180, 0, 48, 29, 29, 28, 160, 0, 7, 4, 167, 0, 4, 3, 84]
abbrev dktX1_findParts_2 : List UInt8 := dkwX1_findParts_2 ++ dktX1_findParts_3
def dkwX1_findParts_1 : List UInt8 := [28, 2, 79, 42, 180, 0, 12, 28, 182, 0, 150, 154, 0, 6, 167, 0, 95, 3, 62, 29, 42, 180, 0, 12]
abbrev dktX1_findParts_1 : List UInt8 := dkwX1_findParts_1 ++ dktX1_findParts_2
def dkwX1_findParts_0 : List UInt8 := [3, 61, 28, 42, 180, 0, 12, 182, 1, 15, 162, 0, 129, 42, 180, 0, 58, 28, 9, 80, 42, 180, 0, 55]
abbrev dktX1_findParts_0 : List UInt8 := dkwX1_findParts_0 ++ dktX1_findParts_1
theorem dksX1_findParts_0 : cX1_findParts.data.toList.drop 0 = dktX1_findParts_0 := by decide +kernel
theorem dksX1_findParts_1 : cX1_findParts.data.toList.drop 24 = dktX1_findParts_1 := dk_seg dksX1_findParts_0 24 rfl rfl
theorem dksX1_findParts_2 : cX1_findParts.data.toList.drop 48 = dktX1_findParts_2 := dk_seg dksX1_findParts_1 24 rfl rfl
theorem dksX1_findParts_3 : cX1_findParts.data.toList.drop 70 = dktX1_findParts_3 := dk_seg dksX1_findParts_2 22 rfl rfl
theorem dksX1_findParts_4 : cX1_findParts.data.toList.drop 93 = dktX1_findParts_4 := dk_seg dksX1_findParts_3 23 rfl rfl
theorem dksX1_findParts_5 : cX1_findParts.data.toList.drop 115 = dktX1_findParts_5 := dk_seg dksX1_findParts_4 22 rfl rfl
theorem dksX1_findParts_6 : cX1_findParts.data.toList.drop 139 = dktX1_findParts_6 := dk_seg dksX1_findParts_5 24 rfl rfl
theorem dksX1_findParts_7 : cX1_findParts.data.toList.drop 163 = dktX1_findParts_7 := dk_seg dksX1_findParts_6 24 rfl rfl
theorem dksX1_findParts_8 : cX1_findParts.data.toList.drop 187 = dktX1_findParts_8 := dk_seg dksX1_findParts_7 24 rfl rfl
theorem dX1_findParts_0 : decode cX1_findParts 0 = .ok (.iconst 0, 1) := dk_3 (dk_at dksX1_findParts_0 0 rfl rfl)
theorem dX1_findParts_1 : decode cX1_findParts 1 = .ok (.istore_n 2, 1) := dk_61 (dk_at dksX1_findParts_0 1 rfl rfl)
theorem dX1_findParts_2 : decode cX1_findParts 2 = .ok (.iload_n 2, 1) := dk_28 (dk_at dksX1_findParts_0 2 rfl rfl)
theorem dX1_findParts_3 : decode cX1_findParts 3 = .ok (.aload_n 0, 1) := dk_42 (dk_at dksX1_findParts_0 3 rfl rfl)
theorem dX1_findParts_4 : decode cX1_findParts 4 = .ok (.getfield 12, 3) := dk_180 0 12 (dk_at dksX1_findParts_0 4 rfl rfl)
theorem dX1_findParts_7 : decode cX1_findParts 7 = .ok (.invokevirtual 271, 3) := dk_182 1 15 (dk_at dksX1_findParts_0 7 rfl rfl)
theorem dX1_findParts_10 : decode cX1_findParts 10 = .ok (.if_icmp .ge 129, 3) := dk_162 0 129 (dk_at dksX1_findParts_0 10 rfl rfl)
theorem dX1_findParts_13 : decode cX1_findParts 13 = .ok (.aload_n 0, 1) := dk_42 (dk_at dksX1_findParts_0 13 rfl rfl)
theorem dX1_findParts_14 : decode cX1_findParts 14 = .ok (.getfield 58, 3) := dk_180 0 58 (dk_at dksX1_findParts_0 14 rfl rfl)
theorem dX1_findParts_17 : decode cX1_findParts 17 = .ok (.iload_n 2, 1) := dk_28 (dk_at dksX1_findParts_0 17 rfl rfl)
theorem dX1_findParts_18 : decode cX1_findParts 18 = .ok (.lconst 0, 1) := dk_9 (dk_at dksX1_findParts_0 18 rfl rfl)
theorem dX1_findParts_19 : decode cX1_findParts 19 = .ok (.lastore, 1) := dk_80 (dk_at dksX1_findParts_0 19 rfl rfl)
theorem dX1_findParts_20 : decode cX1_findParts 20 = .ok (.aload_n 0, 1) := dk_42 (dk_at dksX1_findParts_0 20 rfl rfl)
theorem dX1_findParts_21 : decode cX1_findParts 21 = .ok (.getfield 55, 3) := dk_180 0 55 (dk_at dksX1_findParts_0 21 rfl rfl)
theorem dX1_findParts_24 : decode cX1_findParts 24 = .ok (.iload_n 2, 1) := dk_28 (dk_at dksX1_findParts_1 0 rfl rfl)
theorem dX1_findParts_25 : decode cX1_findParts 25 = .ok (.iconst (-1), 1) := dk_2 (dk_at dksX1_findParts_1 1 rfl rfl)
theorem dX1_findParts_26 : decode cX1_findParts 26 = .ok (.iastore, 1) := dk_79 (dk_at dksX1_findParts_1 2 rfl rfl)
theorem dX1_findParts_27 : decode cX1_findParts 27 = .ok (.aload_n 0, 1) := dk_42 (dk_at dksX1_findParts_1 3 rfl rfl)
theorem dX1_findParts_28 : decode cX1_findParts 28 = .ok (.getfield 12, 3) := dk_180 0 12 (dk_at dksX1_findParts_1 4 rfl rfl)
theorem dX1_findParts_31 : decode cX1_findParts 31 = .ok (.iload_n 2, 1) := dk_28 (dk_at dksX1_findParts_1 7 rfl rfl)
theorem dX1_findParts_32 : decode cX1_findParts 32 = .ok (.invokevirtual 150, 3) := dk_182 0 150 (dk_at dksX1_findParts_1 8 rfl rfl)
theorem dX1_findParts_35 : decode cX1_findParts 35 = .ok (.ifCond .ne 6, 3) := dk_154 0 6 (dk_at dksX1_findParts_1 11 rfl rfl)
theorem dX1_findParts_38 : decode cX1_findParts 38 = .ok (.goto 95, 3) := dk_167 0 95 (dk_at dksX1_findParts_1 14 rfl rfl)
theorem dX1_findParts_41 : decode cX1_findParts 41 = .ok (.iconst 0, 1) := dk_3 (dk_at dksX1_findParts_1 17 rfl rfl)
theorem dX1_findParts_42 : decode cX1_findParts 42 = .ok (.istore_n 3, 1) := dk_62 (dk_at dksX1_findParts_1 18 rfl rfl)
theorem dX1_findParts_43 : decode cX1_findParts 43 = .ok (.iload_n 3, 1) := dk_29 (dk_at dksX1_findParts_1 19 rfl rfl)
theorem dX1_findParts_44 : decode cX1_findParts 44 = .ok (.aload_n 0, 1) := dk_42 (dk_at dksX1_findParts_1 20 rfl rfl)
theorem dX1_findParts_45 : decode cX1_findParts 45 = .ok (.getfield 12, 3) := dk_180 0 12 (dk_at dksX1_findParts_1 21 rfl rfl)
theorem dX1_findParts_48 : decode cX1_findParts 48 = .ok (.invokevirtual 271, 3) := dk_182 1 15 (dk_at dksX1_findParts_2 0 rfl rfl)
theorem dX1_findParts_51 : decode cX1_findParts 51 = .ok (.if_icmp .ge 25, 3) := dk_162 0 25 (dk_at dksX1_findParts_2 3 rfl rfl)
theorem dX1_findParts_54 : decode cX1_findParts 54 = .ok (.aload_n 0, 1) := dk_42 (dk_at dksX1_findParts_2 6 rfl rfl)
theorem dX1_findParts_55 : decode cX1_findParts 55 = .ok (.getfield 48, 3) := dk_180 0 48 (dk_at dksX1_findParts_2 7 rfl rfl)
theorem dX1_findParts_58 : decode cX1_findParts 58 = .ok (.iload_n 3, 1) := dk_29 (dk_at dksX1_findParts_2 10 rfl rfl)
theorem dX1_findParts_59 : decode cX1_findParts 59 = .ok (.iload_n 3, 1) := dk_29 (dk_at dksX1_findParts_2 11 rfl rfl)
theorem dX1_findParts_60 : decode cX1_findParts 60 = .ok (.iload_n 2, 1) := dk_28 (dk_at dksX1_findParts_2 12 rfl rfl)
theorem dX1_findParts_61 : decode cX1_findParts 61 = .ok (.if_icmp .ne 7, 3) := dk_160 0 7 (dk_at dksX1_findParts_2 13 rfl rfl)
theorem dX1_findParts_64 : decode cX1_findParts 64 = .ok (.iconst 1, 1) := dk_4 (dk_at dksX1_findParts_2 16 rfl rfl)
theorem dX1_findParts_65 : decode cX1_findParts 65 = .ok (.goto 4, 3) := dk_167 0 4 (dk_at dksX1_findParts_2 17 rfl rfl)
theorem dX1_findParts_68 : decode cX1_findParts 68 = .ok (.iconst 0, 1) := dk_3 (dk_at dksX1_findParts_2 20 rfl rfl)
theorem dX1_findParts_69 : decode cX1_findParts 69 = .ok (.bastore, 1) := dk_84 (dk_at dksX1_findParts_2 21 rfl rfl)
theorem dX1_findParts_70 : decode cX1_findParts 70 = .ok (.iinc 3 1, 3) := dk_132 3 1 (dk_at dksX1_findParts_3 0 rfl rfl)
theorem dX1_findParts_73 : decode cX1_findParts 73 = .ok (.goto (-30), 3) := dk_167 255 226 (dk_at dksX1_findParts_3 3 rfl rfl)
theorem dX1_findParts_76 : decode cX1_findParts 76 = .ok (.aload_n 0, 1) := dk_42 (dk_at dksX1_findParts_3 6 rfl rfl)
theorem dX1_findParts_77 : decode cX1_findParts 77 = .ok (.getfield 52, 3) := dk_180 0 52 (dk_at dksX1_findParts_3 7 rfl rfl)
theorem dX1_findParts_80 : decode cX1_findParts 80 = .ok (.iconst 0, 1) := dk_3 (dk_at dksX1_findParts_3 10 rfl rfl)
theorem dX1_findParts_81 : decode cX1_findParts 81 = .ok (.iload_n 2, 1) := dk_28 (dk_at dksX1_findParts_3 11 rfl rfl)
theorem dX1_findParts_82 : decode cX1_findParts 82 = .ok (.iastore, 1) := dk_79 (dk_at dksX1_findParts_3 12 rfl rfl)
theorem dX1_findParts_83 : decode cX1_findParts 83 = .ok (.aload_n 0, 1) := dk_42 (dk_at dksX1_findParts_3 13 rfl rfl)
theorem dX1_findParts_84 : decode cX1_findParts 84 = .ok (.iconst 1, 1) := dk_4 (dk_at dksX1_findParts_3 14 rfl rfl)
theorem dX1_findParts_85 : decode cX1_findParts 85 = .ok (.iload_n 1, 1) := dk_27 (dk_at dksX1_findParts_3 15 rfl rfl)
theorem dX1_findParts_86 : decode cX1_findParts 86 = .ok (.invokevirtual 308, 3) := dk_182 1 52 (dk_at dksX1_findParts_3 16 rfl rfl)
theorem dX1_findParts_89 : decode cX1_findParts 89 = .ok (.iconst 0, 1) := dk_3 (dk_at dksX1_findParts_3 19 rfl rfl)
theorem dX1_findParts_90 : decode cX1_findParts 90 = .ok (.istore_n 3, 1) := dk_62 (dk_at dksX1_findParts_3 20 rfl rfl)
theorem dX1_findParts_91 : decode cX1_findParts 91 = .ok (.iload_n 3, 1) := dk_29 (dk_at dksX1_findParts_3 21 rfl rfl)
theorem dX1_findParts_92 : decode cX1_findParts 92 = .ok (.aload_n 0, 1) := dk_42 (dk_at dksX1_findParts_3 22 rfl rfl)
theorem dX1_findParts_93 : decode cX1_findParts 93 = .ok (.getfield 12, 3) := dk_180 0 12 (dk_at dksX1_findParts_4 0 rfl rfl)
theorem dX1_findParts_96 : decode cX1_findParts 96 = .ok (.invokevirtual 271, 3) := dk_182 1 15 (dk_at dksX1_findParts_4 3 rfl rfl)
theorem dX1_findParts_99 : decode cX1_findParts 99 = .ok (.if_icmp .ge 34, 3) := dk_162 0 34 (dk_at dksX1_findParts_4 6 rfl rfl)
theorem dX1_findParts_102 : decode cX1_findParts 102 = .ok (.aload_n 0, 1) := dk_42 (dk_at dksX1_findParts_4 9 rfl rfl)
theorem dX1_findParts_103 : decode cX1_findParts 103 = .ok (.getfield 58, 3) := dk_180 0 58 (dk_at dksX1_findParts_4 10 rfl rfl)
theorem dX1_findParts_106 : decode cX1_findParts 106 = .ok (.iload_n 2, 1) := dk_28 (dk_at dksX1_findParts_4 13 rfl rfl)
theorem dX1_findParts_107 : decode cX1_findParts 107 = .ok (.dup2, 1) := dk_92 (dk_at dksX1_findParts_4 14 rfl rfl)
theorem dX1_findParts_108 : decode cX1_findParts 108 = .ok (.laload, 1) := dk_47 (dk_at dksX1_findParts_4 15 rfl rfl)
theorem dX1_findParts_109 : decode cX1_findParts 109 = .ok (.aload_n 0, 1) := dk_42 (dk_at dksX1_findParts_4 16 rfl rfl)
theorem dX1_findParts_110 : decode cX1_findParts 110 = .ok (.getfield 48, 3) := dk_180 0 48 (dk_at dksX1_findParts_4 17 rfl rfl)
theorem dX1_findParts_113 : decode cX1_findParts 113 = .ok (.iload_n 3, 1) := dk_29 (dk_at dksX1_findParts_4 20 rfl rfl)
theorem dX1_findParts_114 : decode cX1_findParts 114 = .ok (.baload, 1) := dk_51 (dk_at dksX1_findParts_4 21 rfl rfl)
theorem dX1_findParts_115 : decode cX1_findParts 115 = .ok (.ifCond .eq 9, 3) := dk_153 0 9 (dk_at dksX1_findParts_5 0 rfl rfl)
theorem dX1_findParts_118 : decode cX1_findParts 118 = .ok (.lconst 1, 1) := dk_10 (dk_at dksX1_findParts_5 3 rfl rfl)
theorem dX1_findParts_119 : decode cX1_findParts 119 = .ok (.iload_n 3, 1) := dk_29 (dk_at dksX1_findParts_5 4 rfl rfl)
theorem dX1_findParts_120 : decode cX1_findParts 120 = .ok (.lshl, 1) := dk_121 (dk_at dksX1_findParts_5 5 rfl rfl)
theorem dX1_findParts_121 : decode cX1_findParts 121 = .ok (.goto 4, 3) := dk_167 0 4 (dk_at dksX1_findParts_5 6 rfl rfl)
theorem dX1_findParts_124 : decode cX1_findParts 124 = .ok (.lconst 0, 1) := dk_9 (dk_at dksX1_findParts_5 9 rfl rfl)
theorem dX1_findParts_125 : decode cX1_findParts 125 = .ok (.lor, 1) := dk_129 (dk_at dksX1_findParts_5 10 rfl rfl)
theorem dX1_findParts_126 : decode cX1_findParts 126 = .ok (.lastore, 1) := dk_80 (dk_at dksX1_findParts_5 11 rfl rfl)
theorem dX1_findParts_127 : decode cX1_findParts 127 = .ok (.iinc 3 1, 3) := dk_132 3 1 (dk_at dksX1_findParts_5 12 rfl rfl)
theorem dX1_findParts_130 : decode cX1_findParts 130 = .ok (.goto (-39), 3) := dk_167 255 217 (dk_at dksX1_findParts_5 15 rfl rfl)
theorem dX1_findParts_133 : decode cX1_findParts 133 = .ok (.iinc 2 1, 3) := dk_132 2 1 (dk_at dksX1_findParts_5 18 rfl rfl)
theorem dX1_findParts_136 : decode cX1_findParts 136 = .ok (.goto (-134), 3) := dk_167 255 122 (dk_at dksX1_findParts_5 21 rfl rfl)
theorem dX1_findParts_139 : decode cX1_findParts 139 = .ok (.iconst 0, 1) := dk_3 (dk_at dksX1_findParts_6 0 rfl rfl)
theorem dX1_findParts_140 : decode cX1_findParts 140 = .ok (.istore_n 2, 1) := dk_61 (dk_at dksX1_findParts_6 1 rfl rfl)
theorem dX1_findParts_141 : decode cX1_findParts 141 = .ok (.iload_n 2, 1) := dk_28 (dk_at dksX1_findParts_6 2 rfl rfl)
theorem dX1_findParts_142 : decode cX1_findParts 142 = .ok (.aload_n 0, 1) := dk_42 (dk_at dksX1_findParts_6 3 rfl rfl)
theorem dX1_findParts_143 : decode cX1_findParts 143 = .ok (.getfield 12, 3) := dk_180 0 12 (dk_at dksX1_findParts_6 4 rfl rfl)
theorem dX1_findParts_146 : decode cX1_findParts 146 = .ok (.invokevirtual 271, 3) := dk_182 1 15 (dk_at dksX1_findParts_6 7 rfl rfl)
theorem dX1_findParts_149 : decode cX1_findParts 149 = .ok (.if_icmp .ge 47, 3) := dk_162 0 47 (dk_at dksX1_findParts_6 10 rfl rfl)
theorem dX1_findParts_152 : decode cX1_findParts 152 = .ok (.aload_n 0, 1) := dk_42 (dk_at dksX1_findParts_6 13 rfl rfl)
theorem dX1_findParts_153 : decode cX1_findParts 153 = .ok (.getfield 12, 3) := dk_180 0 12 (dk_at dksX1_findParts_6 14 rfl rfl)
theorem dX1_findParts_156 : decode cX1_findParts 156 = .ok (.iload_n 2, 1) := dk_28 (dk_at dksX1_findParts_6 17 rfl rfl)
theorem dX1_findParts_157 : decode cX1_findParts 157 = .ok (.invokevirtual 150, 3) := dk_182 0 150 (dk_at dksX1_findParts_6 18 rfl rfl)
theorem dX1_findParts_160 : decode cX1_findParts 160 = .ok (.ifCond .ne 6, 3) := dk_154 0 6 (dk_at dksX1_findParts_6 21 rfl rfl)
theorem dX1_findParts_163 : decode cX1_findParts 163 = .ok (.goto 27, 3) := dk_167 0 27 (dk_at dksX1_findParts_7 0 rfl rfl)
theorem dX1_findParts_166 : decode cX1_findParts 166 = .ok (.iconst 0, 1) := dk_3 (dk_at dksX1_findParts_7 3 rfl rfl)
theorem dX1_findParts_167 : decode cX1_findParts 167 = .ok (.istore_n 3, 1) := dk_62 (dk_at dksX1_findParts_7 4 rfl rfl)
theorem dX1_findParts_168 : decode cX1_findParts 168 = .ok (.aload_n 0, 1) := dk_42 (dk_at dksX1_findParts_7 5 rfl rfl)
theorem dX1_findParts_169 : decode cX1_findParts 169 = .ok (.iload_n 3, 1) := dk_29 (dk_at dksX1_findParts_7 6 rfl rfl)
theorem dX1_findParts_170 : decode cX1_findParts 170 = .ok (.iload_n 2, 1) := dk_28 (dk_at dksX1_findParts_7 7 rfl rfl)
theorem dX1_findParts_171 : decode cX1_findParts 171 = .ok (.invokevirtual 316, 3) := dk_182 1 60 (dk_at dksX1_findParts_7 8 rfl rfl)
theorem dX1_findParts_174 : decode cX1_findParts 174 = .ok (.ifCond .ne 9, 3) := dk_154 0 9 (dk_at dksX1_findParts_7 11 rfl rfl)
theorem dX1_findParts_177 : decode cX1_findParts 177 = .ok (.iinc 3 1, 3) := dk_132 3 1 (dk_at dksX1_findParts_7 14 rfl rfl)
theorem dX1_findParts_180 : decode cX1_findParts 180 = .ok (.goto (-12), 3) := dk_167 255 244 (dk_at dksX1_findParts_7 17 rfl rfl)
theorem dX1_findParts_183 : decode cX1_findParts 183 = .ok (.aload_n 0, 1) := dk_42 (dk_at dksX1_findParts_7 20 rfl rfl)
theorem dX1_findParts_184 : decode cX1_findParts 184 = .ok (.getfield 55, 3) := dk_180 0 55 (dk_at dksX1_findParts_7 21 rfl rfl)
theorem dX1_findParts_187 : decode cX1_findParts 187 = .ok (.iload_n 2, 1) := dk_28 (dk_at dksX1_findParts_8 0 rfl rfl)
theorem dX1_findParts_188 : decode cX1_findParts 188 = .ok (.iload_n 3, 1) := dk_29 (dk_at dksX1_findParts_8 1 rfl rfl)
theorem dX1_findParts_189 : decode cX1_findParts 189 = .ok (.iastore, 1) := dk_79 (dk_at dksX1_findParts_8 2 rfl rfl)
theorem dX1_findParts_190 : decode cX1_findParts 190 = .ok (.iinc 2 1, 3) := dk_132 2 1 (dk_at dksX1_findParts_8 3 rfl rfl)
theorem dX1_findParts_193 : decode cX1_findParts 193 = .ok (.goto (-52), 3) := dk_167 255 204 (dk_at dksX1_findParts_8 6 rfl rfl)
theorem dX1_findParts_196 : decode cX1_findParts 196 = .ok (.return_, 1) := dk_177 (dk_at dksX1_findParts_8 9 rfl rfl)
abbrev cX1_areTogether : ByteArray := prog_1_method_34_code
def yX1_areTogether : MethodName := ⟨RX1, "areTogether", "(II)Z"⟩
def dkwX1_areTogether_1 : List UInt8 := [127, 10, 148, 154, 0, 7, 4, 167, 0, 4, 3, 172]
abbrev dktX1_areTogether_1 : List UInt8 := dkwX1_areTogether_1 ++ []
def dkwX1_areTogether_0 : List UInt8 := [42, 180, 0, 58, 27, 47, 28, 123, 10, 127, 10, 148, 154, 0, 22, 42, 180, 0, 58, 28, 47, 27, 123, 10]
abbrev dktX1_areTogether_0 : List UInt8 := dkwX1_areTogether_0 ++ dktX1_areTogether_1
theorem dksX1_areTogether_0 : cX1_areTogether.data.toList.drop 0 = dktX1_areTogether_0 := by decide +kernel
theorem dksX1_areTogether_1 : cX1_areTogether.data.toList.drop 24 = dktX1_areTogether_1 := dk_seg dksX1_areTogether_0 24 rfl rfl
theorem dX1_areTogether_0 : decode cX1_areTogether 0 = .ok (.aload_n 0, 1) := dk_42 (dk_at dksX1_areTogether_0 0 rfl rfl)
theorem dX1_areTogether_1 : decode cX1_areTogether 1 = .ok (.getfield 58, 3) := dk_180 0 58 (dk_at dksX1_areTogether_0 1 rfl rfl)
theorem dX1_areTogether_4 : decode cX1_areTogether 4 = .ok (.iload_n 1, 1) := dk_27 (dk_at dksX1_areTogether_0 4 rfl rfl)
theorem dX1_areTogether_5 : decode cX1_areTogether 5 = .ok (.laload, 1) := dk_47 (dk_at dksX1_areTogether_0 5 rfl rfl)
theorem dX1_areTogether_6 : decode cX1_areTogether 6 = .ok (.iload_n 2, 1) := dk_28 (dk_at dksX1_areTogether_0 6 rfl rfl)
theorem dX1_areTogether_7 : decode cX1_areTogether 7 = .ok (.lshr, 1) := dk_123 (dk_at dksX1_areTogether_0 7 rfl rfl)
theorem dX1_areTogether_8 : decode cX1_areTogether 8 = .ok (.lconst 1, 1) := dk_10 (dk_at dksX1_areTogether_0 8 rfl rfl)
theorem dX1_areTogether_9 : decode cX1_areTogether 9 = .ok (.land, 1) := dk_127 (dk_at dksX1_areTogether_0 9 rfl rfl)
theorem dX1_areTogether_10 : decode cX1_areTogether 10 = .ok (.lconst 1, 1) := dk_10 (dk_at dksX1_areTogether_0 10 rfl rfl)
theorem dX1_areTogether_11 : decode cX1_areTogether 11 = .ok (.lcmp, 1) := dk_148 (dk_at dksX1_areTogether_0 11 rfl rfl)
theorem dX1_areTogether_12 : decode cX1_areTogether 12 = .ok (.ifCond .ne 22, 3) := dk_154 0 22 (dk_at dksX1_areTogether_0 12 rfl rfl)
theorem dX1_areTogether_15 : decode cX1_areTogether 15 = .ok (.aload_n 0, 1) := dk_42 (dk_at dksX1_areTogether_0 15 rfl rfl)
theorem dX1_areTogether_16 : decode cX1_areTogether 16 = .ok (.getfield 58, 3) := dk_180 0 58 (dk_at dksX1_areTogether_0 16 rfl rfl)
theorem dX1_areTogether_19 : decode cX1_areTogether 19 = .ok (.iload_n 2, 1) := dk_28 (dk_at dksX1_areTogether_0 19 rfl rfl)
theorem dX1_areTogether_20 : decode cX1_areTogether 20 = .ok (.laload, 1) := dk_47 (dk_at dksX1_areTogether_0 20 rfl rfl)
theorem dX1_areTogether_21 : decode cX1_areTogether 21 = .ok (.iload_n 1, 1) := dk_27 (dk_at dksX1_areTogether_0 21 rfl rfl)
theorem dX1_areTogether_22 : decode cX1_areTogether 22 = .ok (.lshr, 1) := dk_123 (dk_at dksX1_areTogether_0 22 rfl rfl)
theorem dX1_areTogether_23 : decode cX1_areTogether 23 = .ok (.lconst 1, 1) := dk_10 (dk_at dksX1_areTogether_0 23 rfl rfl)
theorem dX1_areTogether_24 : decode cX1_areTogether 24 = .ok (.land, 1) := dk_127 (dk_at dksX1_areTogether_1 0 rfl rfl)
theorem dX1_areTogether_25 : decode cX1_areTogether 25 = .ok (.lconst 1, 1) := dk_10 (dk_at dksX1_areTogether_1 1 rfl rfl)
theorem dX1_areTogether_26 : decode cX1_areTogether 26 = .ok (.lcmp, 1) := dk_148 (dk_at dksX1_areTogether_1 2 rfl rfl)
theorem dX1_areTogether_27 : decode cX1_areTogether 27 = .ok (.ifCond .ne 7, 3) := dk_154 0 7 (dk_at dksX1_areTogether_1 3 rfl rfl)
theorem dX1_areTogether_30 : decode cX1_areTogether 30 = .ok (.iconst 1, 1) := dk_4 (dk_at dksX1_areTogether_1 6 rfl rfl)
theorem dX1_areTogether_31 : decode cX1_areTogether 31 = .ok (.goto 4, 3) := dk_167 0 4 (dk_at dksX1_areTogether_1 7 rfl rfl)
theorem dX1_areTogether_34 : decode cX1_areTogether 34 = .ok (.iconst 0, 1) := dk_3 (dk_at dksX1_areTogether_1 10 rfl rfl)
theorem dX1_areTogether_35 : decode cX1_areTogether 35 = .ok (.ireturn, 1) := dk_172 (dk_at dksX1_areTogether_1 11 rfl rfl)
abbrev cX1_together : ByteArray := prog_1_method_36_code
def yX1_together : MethodName := ⟨RX1, "together", "(III)Z"⟩
def dkwX1_together_1 : List UInt8 := [180, 0, 55, 27, 46, 42, 180, 0, 55, 28, 46, 160, 0, 7, 4, 167, 0, 4, 3, 172]
abbrev dktX1_together_1 : List UInt8 := dkwX1_together_1 ++ []
def dkwX1_together_0 : List UInt8 := [42, 27, 182, 0, 237, 42, 28, 182, 0, 237, 42, 29, 182, 0, 254, 184, 0, 164, 42, 29, 182, 1, 64, 42]
abbrev dktX1_together_0 : List UInt8 := dkwX1_together_0 ++ dktX1_together_1
theorem dksX1_together_0 : cX1_together.data.toList.drop 0 = dktX1_together_0 := by decide +kernel
theorem dksX1_together_1 : cX1_together.data.toList.drop 24 = dktX1_together_1 := dk_seg dksX1_together_0 24 rfl rfl
theorem dX1_together_0 : decode cX1_together 0 = .ok (.aload_n 0, 1) := dk_42 (dk_at dksX1_together_0 0 rfl rfl)
theorem dX1_together_1 : decode cX1_together 1 = .ok (.iload_n 1, 1) := dk_27 (dk_at dksX1_together_0 1 rfl rfl)
theorem dX1_together_2 : decode cX1_together 2 = .ok (.invokevirtual 237, 3) := dk_182 0 237 (dk_at dksX1_together_0 2 rfl rfl)
theorem dX1_together_5 : decode cX1_together 5 = .ok (.aload_n 0, 1) := dk_42 (dk_at dksX1_together_0 5 rfl rfl)
theorem dX1_together_6 : decode cX1_together 6 = .ok (.iload_n 2, 1) := dk_28 (dk_at dksX1_together_0 6 rfl rfl)
theorem dX1_together_7 : decode cX1_together 7 = .ok (.invokevirtual 237, 3) := dk_182 0 237 (dk_at dksX1_together_0 7 rfl rfl)
theorem dX1_together_10 : decode cX1_together 10 = .ok (.aload_n 0, 1) := dk_42 (dk_at dksX1_together_0 10 rfl rfl)
theorem dX1_together_11 : decode cX1_together 11 = .ok (.iload_n 3, 1) := dk_29 (dk_at dksX1_together_0 11 rfl rfl)
theorem dX1_together_12 : decode cX1_together 12 = .ok (.invokevirtual 254, 3) := dk_182 0 254 (dk_at dksX1_together_0 12 rfl rfl)
theorem dX1_together_15 : decode cX1_together 15 = .ok (.invokestatic 164, 3) := dk_184 0 164 (dk_at dksX1_together_0 15 rfl rfl)
theorem dX1_together_18 : decode cX1_together 18 = .ok (.aload_n 0, 1) := dk_42 (dk_at dksX1_together_0 18 rfl rfl)
theorem dX1_together_19 : decode cX1_together 19 = .ok (.iload_n 3, 1) := dk_29 (dk_at dksX1_together_0 19 rfl rfl)
theorem dX1_together_20 : decode cX1_together 20 = .ok (.invokevirtual 320, 3) := dk_182 1 64 (dk_at dksX1_together_0 20 rfl rfl)
theorem dX1_together_23 : decode cX1_together 23 = .ok (.aload_n 0, 1) := dk_42 (dk_at dksX1_together_0 23 rfl rfl)
theorem dX1_together_24 : decode cX1_together 24 = .ok (.getfield 55, 3) := dk_180 0 55 (dk_at dksX1_together_1 0 rfl rfl)
theorem dX1_together_27 : decode cX1_together 27 = .ok (.iload_n 1, 1) := dk_27 (dk_at dksX1_together_1 3 rfl rfl)
theorem dX1_together_28 : decode cX1_together 28 = .ok (.iaload, 1) := dk_46 (dk_at dksX1_together_1 4 rfl rfl)
theorem dX1_together_29 : decode cX1_together 29 = .ok (.aload_n 0, 1) := dk_42 (dk_at dksX1_together_1 5 rfl rfl)
theorem dX1_together_30 : decode cX1_together 30 = .ok (.getfield 55, 3) := dk_180 0 55 (dk_at dksX1_together_1 6 rfl rfl)
theorem dX1_together_33 : decode cX1_together 33 = .ok (.iload_n 2, 1) := dk_28 (dk_at dksX1_together_1 9 rfl rfl)
theorem dX1_together_34 : decode cX1_together 34 = .ok (.iaload, 1) := dk_46 (dk_at dksX1_together_1 10 rfl rfl)
theorem dX1_together_35 : decode cX1_together 35 = .ok (.if_icmp .ne 7, 3) := dk_160 0 7 (dk_at dksX1_together_1 11 rfl rfl)
theorem dX1_together_38 : decode cX1_together 38 = .ok (.iconst 1, 1) := dk_4 (dk_at dksX1_together_1 14 rfl rfl)
theorem dX1_together_39 : decode cX1_together 39 = .ok (.goto 4, 3) := dk_167 0 4 (dk_at dksX1_together_1 15 rfl rfl)
theorem dX1_together_42 : decode cX1_together 42 = .ok (.iconst 0, 1) := dk_3 (dk_at dksX1_together_1 18 rfl rfl)
theorem dX1_together_43 : decode cX1_together 43 = .ok (.ireturn, 1) := dk_172 (dk_at dksX1_together_1 19 rfl rfl)
abbrev cX1_open : ByteArray := prog_1_method_39_code
def yX1_open : MethodName := ⟨RX1, "open", "(II)I"⟩
def dkwX1_open_2 : List UInt8 := [4, 167, 0, 4, 3, 172]
abbrev dktX1_open_2 : List UInt8 := dkwX1_open_2 ++ []
def dkwX1_open_1 : List UInt8 := [184, 0, 164, 28, 4, 160, 0, 11, 42, 27, 182, 1, 70, 167, 0, 16, 42, 27, 182, 1, 73, 153, 0, 7]
abbrev dktX1_open_1 : List UInt8 := dkwX1_open_1 ++ dktX1_open_2
def dkwX1_open_0 : List UInt8 := [42, 27, 182, 0, 254, 153, 0, 16, 28, 153, 0, 8, 28, 4, 160, 0, 7, 4, 167, 0, 4, 3]
abbrev dktX1_open_0 : List UInt8 := dkwX1_open_0 ++ dktX1_open_1
theorem dksX1_open_0 : cX1_open.data.toList.drop 0 = dktX1_open_0 := by decide +kernel
theorem dksX1_open_1 : cX1_open.data.toList.drop 22 = dktX1_open_1 := dk_seg dksX1_open_0 22 rfl rfl
theorem dksX1_open_2 : cX1_open.data.toList.drop 46 = dktX1_open_2 := dk_seg dksX1_open_1 24 rfl rfl
theorem dX1_open_0 : decode cX1_open 0 = .ok (.aload_n 0, 1) := dk_42 (dk_at dksX1_open_0 0 rfl rfl)
theorem dX1_open_1 : decode cX1_open 1 = .ok (.iload_n 1, 1) := dk_27 (dk_at dksX1_open_0 1 rfl rfl)
theorem dX1_open_2 : decode cX1_open 2 = .ok (.invokevirtual 254, 3) := dk_182 0 254 (dk_at dksX1_open_0 2 rfl rfl)
theorem dX1_open_5 : decode cX1_open 5 = .ok (.ifCond .eq 16, 3) := dk_153 0 16 (dk_at dksX1_open_0 5 rfl rfl)
theorem dX1_open_8 : decode cX1_open 8 = .ok (.iload_n 2, 1) := dk_28 (dk_at dksX1_open_0 8 rfl rfl)
theorem dX1_open_9 : decode cX1_open 9 = .ok (.ifCond .eq 8, 3) := dk_153 0 8 (dk_at dksX1_open_0 9 rfl rfl)
theorem dX1_open_12 : decode cX1_open 12 = .ok (.iload_n 2, 1) := dk_28 (dk_at dksX1_open_0 12 rfl rfl)
theorem dX1_open_13 : decode cX1_open 13 = .ok (.iconst 1, 1) := dk_4 (dk_at dksX1_open_0 13 rfl rfl)
theorem dX1_open_14 : decode cX1_open 14 = .ok (.if_icmp .ne 7, 3) := dk_160 0 7 (dk_at dksX1_open_0 14 rfl rfl)
theorem dX1_open_17 : decode cX1_open 17 = .ok (.iconst 1, 1) := dk_4 (dk_at dksX1_open_0 17 rfl rfl)
theorem dX1_open_18 : decode cX1_open 18 = .ok (.goto 4, 3) := dk_167 0 4 (dk_at dksX1_open_0 18 rfl rfl)
theorem dX1_open_21 : decode cX1_open 21 = .ok (.iconst 0, 1) := dk_3 (dk_at dksX1_open_0 21 rfl rfl)
theorem dX1_open_22 : decode cX1_open 22 = .ok (.invokestatic 164, 3) := dk_184 0 164 (dk_at dksX1_open_1 0 rfl rfl)
theorem dX1_open_25 : decode cX1_open 25 = .ok (.iload_n 2, 1) := dk_28 (dk_at dksX1_open_1 3 rfl rfl)
theorem dX1_open_26 : decode cX1_open 26 = .ok (.iconst 1, 1) := dk_4 (dk_at dksX1_open_1 4 rfl rfl)
theorem dX1_open_27 : decode cX1_open 27 = .ok (.if_icmp .ne 11, 3) := dk_160 0 11 (dk_at dksX1_open_1 5 rfl rfl)
theorem dX1_open_30 : decode cX1_open 30 = .ok (.aload_n 0, 1) := dk_42 (dk_at dksX1_open_1 8 rfl rfl)
theorem dX1_open_31 : decode cX1_open 31 = .ok (.iload_n 1, 1) := dk_27 (dk_at dksX1_open_1 9 rfl rfl)
theorem dX1_open_32 : decode cX1_open 32 = .ok (.invokevirtual 326, 3) := dk_182 1 70 (dk_at dksX1_open_1 10 rfl rfl)
theorem dX1_open_35 : decode cX1_open 35 = .ok (.goto 16, 3) := dk_167 0 16 (dk_at dksX1_open_1 13 rfl rfl)
theorem dX1_open_38 : decode cX1_open 38 = .ok (.aload_n 0, 1) := dk_42 (dk_at dksX1_open_1 16 rfl rfl)
theorem dX1_open_39 : decode cX1_open 39 = .ok (.iload_n 1, 1) := dk_27 (dk_at dksX1_open_1 17 rfl rfl)
theorem dX1_open_40 : decode cX1_open 40 = .ok (.invokevirtual 329, 3) := dk_182 1 73 (dk_at dksX1_open_1 18 rfl rfl)
theorem dX1_open_43 : decode cX1_open 43 = .ok (.ifCond .eq 7, 3) := dk_153 0 7 (dk_at dksX1_open_1 21 rfl rfl)
theorem dX1_open_46 : decode cX1_open 46 = .ok (.iconst 1, 1) := dk_4 (dk_at dksX1_open_2 0 rfl rfl)
theorem dX1_open_47 : decode cX1_open 47 = .ok (.goto 4, 3) := dk_167 0 4 (dk_at dksX1_open_2 1 rfl rfl)
theorem dX1_open_50 : decode cX1_open 50 = .ok (.iconst 0, 1) := dk_3 (dk_at dksX1_open_2 4 rfl rfl)
theorem dX1_open_51 : decode cX1_open 51 = .ok (.ireturn, 1) := dk_172 (dk_at dksX1_open_2 5 rfl rfl)
abbrev cX1_pairs : ByteArray := prog_1_method_38_code
def yX1_pairs : MethodName := ⟨RX1, "pairs", "(I)I"⟩
def dkwX1_pairs_1 : List UInt8 := [96, 61, 132, 3, 1, 167, 255, 231, 28, 172]
abbrev dktX1_pairs_1 : List UInt8 := dkwX1_pairs_1 ++ []
def dkwX1_pairs_0 : List UInt8 := [3, 61, 3, 62, 29, 42, 182, 0, 133, 162, 0, 23, 28, 42, 29, 27, 182, 1, 54, 184, 0, 208, 4, 100]
abbrev dktX1_pairs_0 : List UInt8 := dkwX1_pairs_0 ++ dktX1_pairs_1
theorem dksX1_pairs_0 : cX1_pairs.data.toList.drop 0 = dktX1_pairs_0 := by decide +kernel
theorem dksX1_pairs_1 : cX1_pairs.data.toList.drop 24 = dktX1_pairs_1 := dk_seg dksX1_pairs_0 24 rfl rfl
theorem dX1_pairs_0 : decode cX1_pairs 0 = .ok (.iconst 0, 1) := dk_3 (dk_at dksX1_pairs_0 0 rfl rfl)
theorem dX1_pairs_1 : decode cX1_pairs 1 = .ok (.istore_n 2, 1) := dk_61 (dk_at dksX1_pairs_0 1 rfl rfl)
theorem dX1_pairs_2 : decode cX1_pairs 2 = .ok (.iconst 0, 1) := dk_3 (dk_at dksX1_pairs_0 2 rfl rfl)
theorem dX1_pairs_3 : decode cX1_pairs 3 = .ok (.istore_n 3, 1) := dk_62 (dk_at dksX1_pairs_0 3 rfl rfl)
theorem dX1_pairs_4 : decode cX1_pairs 4 = .ok (.iload_n 3, 1) := dk_29 (dk_at dksX1_pairs_0 4 rfl rfl)
theorem dX1_pairs_5 : decode cX1_pairs 5 = .ok (.aload_n 0, 1) := dk_42 (dk_at dksX1_pairs_0 5 rfl rfl)
theorem dX1_pairs_6 : decode cX1_pairs 6 = .ok (.invokevirtual 133, 3) := dk_182 0 133 (dk_at dksX1_pairs_0 6 rfl rfl)
theorem dX1_pairs_9 : decode cX1_pairs 9 = .ok (.if_icmp .ge 23, 3) := dk_162 0 23 (dk_at dksX1_pairs_0 9 rfl rfl)
theorem dX1_pairs_12 : decode cX1_pairs 12 = .ok (.iload_n 2, 1) := dk_28 (dk_at dksX1_pairs_0 12 rfl rfl)
theorem dX1_pairs_13 : decode cX1_pairs 13 = .ok (.aload_n 0, 1) := dk_42 (dk_at dksX1_pairs_0 13 rfl rfl)
theorem dX1_pairs_14 : decode cX1_pairs 14 = .ok (.iload_n 3, 1) := dk_29 (dk_at dksX1_pairs_0 14 rfl rfl)
theorem dX1_pairs_15 : decode cX1_pairs 15 = .ok (.iload_n 1, 1) := dk_27 (dk_at dksX1_pairs_0 15 rfl rfl)
theorem dX1_pairs_16 : decode cX1_pairs 16 = .ok (.invokevirtual 310, 3) := dk_182 1 54 (dk_at dksX1_pairs_0 16 rfl rfl)
theorem dX1_pairs_19 : decode cX1_pairs 19 = .ok (.invokestatic 208, 3) := dk_184 0 208 (dk_at dksX1_pairs_0 19 rfl rfl)
theorem dX1_pairs_22 : decode cX1_pairs 22 = .ok (.iconst 1, 1) := dk_4 (dk_at dksX1_pairs_0 22 rfl rfl)
theorem dX1_pairs_23 : decode cX1_pairs 23 = .ok (.isub, 1) := dk_100 (dk_at dksX1_pairs_0 23 rfl rfl)
theorem dX1_pairs_24 : decode cX1_pairs 24 = .ok (.iadd, 1) := dk_96 (dk_at dksX1_pairs_1 0 rfl rfl)
theorem dX1_pairs_25 : decode cX1_pairs 25 = .ok (.istore_n 2, 1) := dk_61 (dk_at dksX1_pairs_1 1 rfl rfl)
theorem dX1_pairs_26 : decode cX1_pairs 26 = .ok (.iinc 3 1, 3) := dk_132 3 1 (dk_at dksX1_pairs_1 2 rfl rfl)
theorem dX1_pairs_29 : decode cX1_pairs 29 = .ok (.goto (-25), 3) := dk_167 255 231 (dk_at dksX1_pairs_1 5 rfl rfl)
theorem dX1_pairs_32 : decode cX1_pairs 32 = .ok (.iload_n 2, 1) := dk_28 (dk_at dksX1_pairs_1 8 rfl rfl)
theorem dX1_pairs_33 : decode cX1_pairs 33 = .ok (.ireturn, 1) := dk_172 (dk_at dksX1_pairs_1 9 rfl rfl)
abbrev cX1_isOpen : ByteArray := prog_1_method_37_code
def yX1_isOpen : MethodName := ⟨RX1, "isOpen", "(I)Z"⟩
def dkwX1_isOpen_1 : List UInt8 := [159, 0, 5, 3, 172, 132, 2, 1, 167, 255, 226, 4, 172]
abbrev dktX1_isOpen_1 : List UInt8 := dkwX1_isOpen_1 ++ []
def dkwX1_isOpen_0 : List UInt8 := [3, 61, 28, 42, 182, 0, 133, 162, 0, 28, 42, 28, 27, 182, 1, 54, 4, 42, 182, 0, 133, 120, 4, 100]
abbrev dktX1_isOpen_0 : List UInt8 := dkwX1_isOpen_0 ++ dktX1_isOpen_1
theorem dksX1_isOpen_0 : cX1_isOpen.data.toList.drop 0 = dktX1_isOpen_0 := by decide +kernel
theorem dksX1_isOpen_1 : cX1_isOpen.data.toList.drop 24 = dktX1_isOpen_1 := dk_seg dksX1_isOpen_0 24 rfl rfl
theorem dX1_isOpen_0 : decode cX1_isOpen 0 = .ok (.iconst 0, 1) := dk_3 (dk_at dksX1_isOpen_0 0 rfl rfl)
theorem dX1_isOpen_1 : decode cX1_isOpen 1 = .ok (.istore_n 2, 1) := dk_61 (dk_at dksX1_isOpen_0 1 rfl rfl)
theorem dX1_isOpen_2 : decode cX1_isOpen 2 = .ok (.iload_n 2, 1) := dk_28 (dk_at dksX1_isOpen_0 2 rfl rfl)
theorem dX1_isOpen_3 : decode cX1_isOpen 3 = .ok (.aload_n 0, 1) := dk_42 (dk_at dksX1_isOpen_0 3 rfl rfl)
theorem dX1_isOpen_4 : decode cX1_isOpen 4 = .ok (.invokevirtual 133, 3) := dk_182 0 133 (dk_at dksX1_isOpen_0 4 rfl rfl)
theorem dX1_isOpen_7 : decode cX1_isOpen 7 = .ok (.if_icmp .ge 28, 3) := dk_162 0 28 (dk_at dksX1_isOpen_0 7 rfl rfl)
theorem dX1_isOpen_10 : decode cX1_isOpen 10 = .ok (.aload_n 0, 1) := dk_42 (dk_at dksX1_isOpen_0 10 rfl rfl)
theorem dX1_isOpen_11 : decode cX1_isOpen 11 = .ok (.iload_n 2, 1) := dk_28 (dk_at dksX1_isOpen_0 11 rfl rfl)
theorem dX1_isOpen_12 : decode cX1_isOpen 12 = .ok (.iload_n 1, 1) := dk_27 (dk_at dksX1_isOpen_0 12 rfl rfl)
theorem dX1_isOpen_13 : decode cX1_isOpen 13 = .ok (.invokevirtual 310, 3) := dk_182 1 54 (dk_at dksX1_isOpen_0 13 rfl rfl)
theorem dX1_isOpen_16 : decode cX1_isOpen 16 = .ok (.iconst 1, 1) := dk_4 (dk_at dksX1_isOpen_0 16 rfl rfl)
theorem dX1_isOpen_17 : decode cX1_isOpen 17 = .ok (.aload_n 0, 1) := dk_42 (dk_at dksX1_isOpen_0 17 rfl rfl)
theorem dX1_isOpen_18 : decode cX1_isOpen 18 = .ok (.invokevirtual 133, 3) := dk_182 0 133 (dk_at dksX1_isOpen_0 18 rfl rfl)
theorem dX1_isOpen_21 : decode cX1_isOpen 21 = .ok (.ishl, 1) := dk_120 (dk_at dksX1_isOpen_0 21 rfl rfl)
theorem dX1_isOpen_22 : decode cX1_isOpen 22 = .ok (.iconst 1, 1) := dk_4 (dk_at dksX1_isOpen_0 22 rfl rfl)
theorem dX1_isOpen_23 : decode cX1_isOpen 23 = .ok (.isub, 1) := dk_100 (dk_at dksX1_isOpen_0 23 rfl rfl)
theorem dX1_isOpen_24 : decode cX1_isOpen 24 = .ok (.if_icmp .eq 5, 3) := dk_159 0 5 (dk_at dksX1_isOpen_1 0 rfl rfl)
theorem dX1_isOpen_27 : decode cX1_isOpen 27 = .ok (.iconst 0, 1) := dk_3 (dk_at dksX1_isOpen_1 3 rfl rfl)
theorem dX1_isOpen_28 : decode cX1_isOpen 28 = .ok (.ireturn, 1) := dk_172 (dk_at dksX1_isOpen_1 4 rfl rfl)
theorem dX1_isOpen_29 : decode cX1_isOpen 29 = .ok (.iinc 2 1, 3) := dk_132 2 1 (dk_at dksX1_isOpen_1 5 rfl rfl)
theorem dX1_isOpen_32 : decode cX1_isOpen 32 = .ok (.goto (-30), 3) := dk_167 255 226 (dk_at dksX1_isOpen_1 8 rfl rfl)
theorem dX1_isOpen_35 : decode cX1_isOpen 35 = .ok (.iconst 1, 1) := dk_4 (dk_at dksX1_isOpen_1 11 rfl rfl)
theorem dX1_isOpen_36 : decode cX1_isOpen 36 = .ok (.ireturn, 1) := dk_172 (dk_at dksX1_isOpen_1 12 rfl rfl)
abbrev cX1_since : ByteArray := prog_1_method_40_code
def yX1_since : MethodName := ⟨RX1, "since", "(IIIZ)I"⟩
def dkwX1_since_2 : List UInt8 := [4, 167, 0, 4, 3, 21, 4, 160, 0, 6, 21, 5, 172, 132, 5, 1, 167, 255, 213, 2, 172]
abbrev dktX1_since_2 : List UInt8 := dkwX1_since_2 ++ []
def dkwX1_since_1 : List UInt8 := [180, 0, 19, 180, 0, 154, 163, 0, 37, 42, 27, 21, 5, 182, 1, 54, 28, 122, 4, 126, 4, 160, 0, 7]
abbrev dktX1_since_1 : List UInt8 := dkwX1_since_1 ++ dktX1_since_2
def dkwX1_since_0 : List UInt8 := [42, 27, 182, 1, 38, 42, 28, 182, 1, 38, 42, 29, 182, 0, 254, 184, 0, 164, 29, 54, 5, 21, 5, 42]
abbrev dktX1_since_0 : List UInt8 := dkwX1_since_0 ++ dktX1_since_1
theorem dksX1_since_0 : cX1_since.data.toList.drop 0 = dktX1_since_0 := by decide +kernel
theorem dksX1_since_1 : cX1_since.data.toList.drop 24 = dktX1_since_1 := dk_seg dksX1_since_0 24 rfl rfl
theorem dksX1_since_2 : cX1_since.data.toList.drop 48 = dktX1_since_2 := dk_seg dksX1_since_1 24 rfl rfl
theorem dX1_since_0 : decode cX1_since 0 = .ok (.aload_n 0, 1) := dk_42 (dk_at dksX1_since_0 0 rfl rfl)
theorem dX1_since_1 : decode cX1_since 1 = .ok (.iload_n 1, 1) := dk_27 (dk_at dksX1_since_0 1 rfl rfl)
theorem dX1_since_2 : decode cX1_since 2 = .ok (.invokevirtual 294, 3) := dk_182 1 38 (dk_at dksX1_since_0 2 rfl rfl)
theorem dX1_since_5 : decode cX1_since 5 = .ok (.aload_n 0, 1) := dk_42 (dk_at dksX1_since_0 5 rfl rfl)
theorem dX1_since_6 : decode cX1_since 6 = .ok (.iload_n 2, 1) := dk_28 (dk_at dksX1_since_0 6 rfl rfl)
theorem dX1_since_7 : decode cX1_since 7 = .ok (.invokevirtual 294, 3) := dk_182 1 38 (dk_at dksX1_since_0 7 rfl rfl)
theorem dX1_since_10 : decode cX1_since 10 = .ok (.aload_n 0, 1) := dk_42 (dk_at dksX1_since_0 10 rfl rfl)
theorem dX1_since_11 : decode cX1_since 11 = .ok (.iload_n 3, 1) := dk_29 (dk_at dksX1_since_0 11 rfl rfl)
theorem dX1_since_12 : decode cX1_since 12 = .ok (.invokevirtual 254, 3) := dk_182 0 254 (dk_at dksX1_since_0 12 rfl rfl)
theorem dX1_since_15 : decode cX1_since 15 = .ok (.invokestatic 164, 3) := dk_184 0 164 (dk_at dksX1_since_0 15 rfl rfl)
theorem dX1_since_18 : decode cX1_since 18 = .ok (.iload_n 3, 1) := dk_29 (dk_at dksX1_since_0 18 rfl rfl)
theorem dX1_since_19 : decode cX1_since 19 = .ok (.istore 5, 2) := dk_54 5 (dk_at dksX1_since_0 19 rfl rfl)
theorem dX1_since_21 : decode cX1_since 21 = .ok (.iload 5, 2) := dk_21 5 (dk_at dksX1_since_0 21 rfl rfl)
theorem dX1_since_23 : decode cX1_since 23 = .ok (.aload_n 0, 1) := dk_42 (dk_at dksX1_since_0 23 rfl rfl)
theorem dX1_since_24 : decode cX1_since 24 = .ok (.getfield 19, 3) := dk_180 0 19 (dk_at dksX1_since_1 0 rfl rfl)
theorem dX1_since_27 : decode cX1_since 27 = .ok (.getfield 154, 3) := dk_180 0 154 (dk_at dksX1_since_1 3 rfl rfl)
theorem dX1_since_30 : decode cX1_since 30 = .ok (.if_icmp .gt 37, 3) := dk_163 0 37 (dk_at dksX1_since_1 6 rfl rfl)
theorem dX1_since_33 : decode cX1_since 33 = .ok (.aload_n 0, 1) := dk_42 (dk_at dksX1_since_1 9 rfl rfl)
theorem dX1_since_34 : decode cX1_since 34 = .ok (.iload_n 1, 1) := dk_27 (dk_at dksX1_since_1 10 rfl rfl)
theorem dX1_since_35 : decode cX1_since 35 = .ok (.iload 5, 2) := dk_21 5 (dk_at dksX1_since_1 11 rfl rfl)
theorem dX1_since_37 : decode cX1_since 37 = .ok (.invokevirtual 310, 3) := dk_182 1 54 (dk_at dksX1_since_1 13 rfl rfl)
theorem dX1_since_40 : decode cX1_since 40 = .ok (.iload_n 2, 1) := dk_28 (dk_at dksX1_since_1 16 rfl rfl)
theorem dX1_since_41 : decode cX1_since 41 = .ok (.ishr, 1) := dk_122 (dk_at dksX1_since_1 17 rfl rfl)
theorem dX1_since_42 : decode cX1_since 42 = .ok (.iconst 1, 1) := dk_4 (dk_at dksX1_since_1 18 rfl rfl)
theorem dX1_since_43 : decode cX1_since 43 = .ok (.iand, 1) := dk_126 (dk_at dksX1_since_1 19 rfl rfl)
theorem dX1_since_44 : decode cX1_since 44 = .ok (.iconst 1, 1) := dk_4 (dk_at dksX1_since_1 20 rfl rfl)
theorem dX1_since_45 : decode cX1_since 45 = .ok (.if_icmp .ne 7, 3) := dk_160 0 7 (dk_at dksX1_since_1 21 rfl rfl)
theorem dX1_since_48 : decode cX1_since 48 = .ok (.iconst 1, 1) := dk_4 (dk_at dksX1_since_2 0 rfl rfl)
theorem dX1_since_49 : decode cX1_since 49 = .ok (.goto 4, 3) := dk_167 0 4 (dk_at dksX1_since_2 1 rfl rfl)
theorem dX1_since_52 : decode cX1_since 52 = .ok (.iconst 0, 1) := dk_3 (dk_at dksX1_since_2 4 rfl rfl)
theorem dX1_since_53 : decode cX1_since 53 = .ok (.iload 4, 2) := dk_21 4 (dk_at dksX1_since_2 5 rfl rfl)
theorem dX1_since_55 : decode cX1_since 55 = .ok (.if_icmp .ne 6, 3) := dk_160 0 6 (dk_at dksX1_since_2 7 rfl rfl)
theorem dX1_since_58 : decode cX1_since 58 = .ok (.iload 5, 2) := dk_21 5 (dk_at dksX1_since_2 10 rfl rfl)
theorem dX1_since_60 : decode cX1_since 60 = .ok (.ireturn, 1) := dk_172 (dk_at dksX1_since_2 12 rfl rfl)
theorem dX1_since_61 : decode cX1_since 61 = .ok (.iinc 5 1, 3) := dk_132 5 1 (dk_at dksX1_since_2 13 rfl rfl)
theorem dX1_since_64 : decode cX1_since 64 = .ok (.goto (-43), 3) := dk_167 255 213 (dk_at dksX1_since_2 16 rfl rfl)
theorem dX1_since_67 : decode cX1_since 67 = .ok (.iconst (-1), 1) := dk_2 (dk_at dksX1_since_2 19 rfl rfl)
theorem dX1_since_68 : decode cX1_since 68 = .ok (.ireturn, 1) := dk_172 (dk_at dksX1_since_2 20 rfl rfl)
abbrev cX1_candidates : ByteArray := prog_1_method_43_code
def yX1_candidates : MethodName := ⟨RX1, "candidates", "(I)I"⟩
def dkwX1_candidates_0 : List UInt8 := [42, 27, 182, 0, 254, 184, 0, 164, 42, 27, 182, 1, 82, 172]
abbrev dktX1_candidates_0 : List UInt8 := dkwX1_candidates_0 ++ []
theorem dksX1_candidates_0 : cX1_candidates.data.toList.drop 0 = dktX1_candidates_0 := by decide +kernel
theorem dX1_candidates_0 : decode cX1_candidates 0 = .ok (.aload_n 0, 1) := dk_42 (dk_at dksX1_candidates_0 0 rfl rfl)
theorem dX1_candidates_1 : decode cX1_candidates 1 = .ok (.iload_n 1, 1) := dk_27 (dk_at dksX1_candidates_0 1 rfl rfl)
theorem dX1_candidates_2 : decode cX1_candidates 2 = .ok (.invokevirtual 254, 3) := dk_182 0 254 (dk_at dksX1_candidates_0 2 rfl rfl)
theorem dX1_candidates_5 : decode cX1_candidates 5 = .ok (.invokestatic 164, 3) := dk_184 0 164 (dk_at dksX1_candidates_0 5 rfl rfl)
theorem dX1_candidates_8 : decode cX1_candidates 8 = .ok (.aload_n 0, 1) := dk_42 (dk_at dksX1_candidates_0 8 rfl rfl)
theorem dX1_candidates_9 : decode cX1_candidates 9 = .ok (.iload_n 1, 1) := dk_27 (dk_at dksX1_candidates_0 9 rfl rfl)
theorem dX1_candidates_10 : decode cX1_candidates 10 = .ok (.invokevirtual 338, 3) := dk_182 1 82 (dk_at dksX1_candidates_0 10 rfl rfl)
theorem dX1_candidates_13 : decode cX1_candidates 13 = .ok (.ireturn, 1) := dk_172 (dk_at dksX1_candidates_0 13 rfl rfl)
abbrev cX1_findCandidates : ByteArray := prog_1_method_42_code
def yX1_findCandidates : MethodName := ⟨RX1, "findCandidates", "(I)I"⟩
def dkwX1_findCandidates_4 : List UInt8 := [132, 3, 1, 167, 255, 165, 28, 172]
abbrev dktX1_findCandidates_4 : List UInt8 := dkwX1_findCandidates_4 ++ []
def dkwX1_findCandidates_3 : List UInt8 := [180, 1, 79, 29, 46, 182, 0, 247, 153, 0, 6, 167, 0, 13, 42, 180, 0, 62, 28, 29, 79, 132, 2, 1]
abbrev dktX1_findCandidates_3 : List UInt8 := dkwX1_findCandidates_3 ++ dktX1_findCandidates_4
def dkwX1_findCandidates_2 : List UInt8 := [182, 0, 251, 154, 0, 45, 42, 180, 0, 19, 27, 42, 180, 0, 12, 180, 1, 76, 29, 46, 42, 180, 0, 12]
abbrev dktX1_findCandidates_2 : List UInt8 := dkwX1_findCandidates_2 ++ dktX1_findCandidates_3
def dkwX1_findCandidates_1 : List UInt8 := [180, 0, 19, 27, 42, 180, 0, 12, 180, 1, 76, 29, 46, 42, 180, 0, 12, 180, 1, 79, 29, 46]
abbrev dktX1_findCandidates_1 : List UInt8 := dkwX1_findCandidates_1 ++ dktX1_findCandidates_2
def dkwX1_findCandidates_0 : List UInt8 := [3, 61, 3, 62, 29, 42, 180, 0, 12, 180, 0, 217, 162, 0, 86, 28, 16, 14, 162, 0, 80, 42]
abbrev dktX1_findCandidates_0 : List UInt8 := dkwX1_findCandidates_0 ++ dktX1_findCandidates_1
theorem dksX1_findCandidates_0 : cX1_findCandidates.data.toList.drop 0 = dktX1_findCandidates_0 := by decide +kernel
theorem dksX1_findCandidates_1 : cX1_findCandidates.data.toList.drop 22 = dktX1_findCandidates_1 := dk_seg dksX1_findCandidates_0 22 rfl rfl
theorem dksX1_findCandidates_2 : cX1_findCandidates.data.toList.drop 44 = dktX1_findCandidates_2 := dk_seg dksX1_findCandidates_1 22 rfl rfl
theorem dksX1_findCandidates_3 : cX1_findCandidates.data.toList.drop 68 = dktX1_findCandidates_3 := dk_seg dksX1_findCandidates_2 24 rfl rfl
theorem dksX1_findCandidates_4 : cX1_findCandidates.data.toList.drop 92 = dktX1_findCandidates_4 := dk_seg dksX1_findCandidates_3 24 rfl rfl
theorem dX1_findCandidates_0 : decode cX1_findCandidates 0 = .ok (.iconst 0, 1) := dk_3 (dk_at dksX1_findCandidates_0 0 rfl rfl)
theorem dX1_findCandidates_1 : decode cX1_findCandidates 1 = .ok (.istore_n 2, 1) := dk_61 (dk_at dksX1_findCandidates_0 1 rfl rfl)
theorem dX1_findCandidates_2 : decode cX1_findCandidates 2 = .ok (.iconst 0, 1) := dk_3 (dk_at dksX1_findCandidates_0 2 rfl rfl)
theorem dX1_findCandidates_3 : decode cX1_findCandidates 3 = .ok (.istore_n 3, 1) := dk_62 (dk_at dksX1_findCandidates_0 3 rfl rfl)
theorem dX1_findCandidates_4 : decode cX1_findCandidates 4 = .ok (.iload_n 3, 1) := dk_29 (dk_at dksX1_findCandidates_0 4 rfl rfl)
theorem dX1_findCandidates_5 : decode cX1_findCandidates 5 = .ok (.aload_n 0, 1) := dk_42 (dk_at dksX1_findCandidates_0 5 rfl rfl)
theorem dX1_findCandidates_6 : decode cX1_findCandidates 6 = .ok (.getfield 12, 3) := dk_180 0 12 (dk_at dksX1_findCandidates_0 6 rfl rfl)
theorem dX1_findCandidates_9 : decode cX1_findCandidates 9 = .ok (.getfield 217, 3) := dk_180 0 217 (dk_at dksX1_findCandidates_0 9 rfl rfl)
theorem dX1_findCandidates_12 : decode cX1_findCandidates 12 = .ok (.if_icmp .ge 86, 3) := dk_162 0 86 (dk_at dksX1_findCandidates_0 12 rfl rfl)
theorem dX1_findCandidates_15 : decode cX1_findCandidates 15 = .ok (.iload_n 2, 1) := dk_28 (dk_at dksX1_findCandidates_0 15 rfl rfl)
theorem dX1_findCandidates_16 : decode cX1_findCandidates 16 = .ok (.bipush 14, 2) := dk_16 14 (dk_at dksX1_findCandidates_0 16 rfl rfl)
theorem dX1_findCandidates_18 : decode cX1_findCandidates 18 = .ok (.if_icmp .ge 80, 3) := dk_162 0 80 (dk_at dksX1_findCandidates_0 18 rfl rfl)
theorem dX1_findCandidates_21 : decode cX1_findCandidates 21 = .ok (.aload_n 0, 1) := dk_42 (dk_at dksX1_findCandidates_0 21 rfl rfl)
theorem dX1_findCandidates_22 : decode cX1_findCandidates 22 = .ok (.getfield 19, 3) := dk_180 0 19 (dk_at dksX1_findCandidates_1 0 rfl rfl)
theorem dX1_findCandidates_25 : decode cX1_findCandidates 25 = .ok (.iload_n 1, 1) := dk_27 (dk_at dksX1_findCandidates_1 3 rfl rfl)
theorem dX1_findCandidates_26 : decode cX1_findCandidates 26 = .ok (.aload_n 0, 1) := dk_42 (dk_at dksX1_findCandidates_1 4 rfl rfl)
theorem dX1_findCandidates_27 : decode cX1_findCandidates 27 = .ok (.getfield 12, 3) := dk_180 0 12 (dk_at dksX1_findCandidates_1 5 rfl rfl)
theorem dX1_findCandidates_30 : decode cX1_findCandidates 30 = .ok (.getfield 332, 3) := dk_180 1 76 (dk_at dksX1_findCandidates_1 8 rfl rfl)
theorem dX1_findCandidates_33 : decode cX1_findCandidates 33 = .ok (.iload_n 3, 1) := dk_29 (dk_at dksX1_findCandidates_1 11 rfl rfl)
theorem dX1_findCandidates_34 : decode cX1_findCandidates 34 = .ok (.iaload, 1) := dk_46 (dk_at dksX1_findCandidates_1 12 rfl rfl)
theorem dX1_findCandidates_35 : decode cX1_findCandidates 35 = .ok (.aload_n 0, 1) := dk_42 (dk_at dksX1_findCandidates_1 13 rfl rfl)
theorem dX1_findCandidates_36 : decode cX1_findCandidates 36 = .ok (.getfield 12, 3) := dk_180 0 12 (dk_at dksX1_findCandidates_1 14 rfl rfl)
theorem dX1_findCandidates_39 : decode cX1_findCandidates 39 = .ok (.getfield 335, 3) := dk_180 1 79 (dk_at dksX1_findCandidates_1 17 rfl rfl)
theorem dX1_findCandidates_42 : decode cX1_findCandidates 42 = .ok (.iload_n 3, 1) := dk_29 (dk_at dksX1_findCandidates_1 20 rfl rfl)
theorem dX1_findCandidates_43 : decode cX1_findCandidates 43 = .ok (.iaload, 1) := dk_46 (dk_at dksX1_findCandidates_1 21 rfl rfl)
theorem dX1_findCandidates_44 : decode cX1_findCandidates 44 = .ok (.invokevirtual 251, 3) := dk_182 0 251 (dk_at dksX1_findCandidates_2 0 rfl rfl)
theorem dX1_findCandidates_47 : decode cX1_findCandidates 47 = .ok (.ifCond .ne 45, 3) := dk_154 0 45 (dk_at dksX1_findCandidates_2 3 rfl rfl)
theorem dX1_findCandidates_50 : decode cX1_findCandidates 50 = .ok (.aload_n 0, 1) := dk_42 (dk_at dksX1_findCandidates_2 6 rfl rfl)
theorem dX1_findCandidates_51 : decode cX1_findCandidates 51 = .ok (.getfield 19, 3) := dk_180 0 19 (dk_at dksX1_findCandidates_2 7 rfl rfl)
theorem dX1_findCandidates_54 : decode cX1_findCandidates 54 = .ok (.iload_n 1, 1) := dk_27 (dk_at dksX1_findCandidates_2 10 rfl rfl)
theorem dX1_findCandidates_55 : decode cX1_findCandidates 55 = .ok (.aload_n 0, 1) := dk_42 (dk_at dksX1_findCandidates_2 11 rfl rfl)
theorem dX1_findCandidates_56 : decode cX1_findCandidates 56 = .ok (.getfield 12, 3) := dk_180 0 12 (dk_at dksX1_findCandidates_2 12 rfl rfl)
theorem dX1_findCandidates_59 : decode cX1_findCandidates 59 = .ok (.getfield 332, 3) := dk_180 1 76 (dk_at dksX1_findCandidates_2 15 rfl rfl)
theorem dX1_findCandidates_62 : decode cX1_findCandidates 62 = .ok (.iload_n 3, 1) := dk_29 (dk_at dksX1_findCandidates_2 18 rfl rfl)
theorem dX1_findCandidates_63 : decode cX1_findCandidates 63 = .ok (.iaload, 1) := dk_46 (dk_at dksX1_findCandidates_2 19 rfl rfl)
theorem dX1_findCandidates_64 : decode cX1_findCandidates 64 = .ok (.aload_n 0, 1) := dk_42 (dk_at dksX1_findCandidates_2 20 rfl rfl)
theorem dX1_findCandidates_65 : decode cX1_findCandidates 65 = .ok (.getfield 12, 3) := dk_180 0 12 (dk_at dksX1_findCandidates_2 21 rfl rfl)
theorem dX1_findCandidates_68 : decode cX1_findCandidates 68 = .ok (.getfield 335, 3) := dk_180 1 79 (dk_at dksX1_findCandidates_3 0 rfl rfl)
theorem dX1_findCandidates_71 : decode cX1_findCandidates 71 = .ok (.iload_n 3, 1) := dk_29 (dk_at dksX1_findCandidates_3 3 rfl rfl)
theorem dX1_findCandidates_72 : decode cX1_findCandidates 72 = .ok (.iaload, 1) := dk_46 (dk_at dksX1_findCandidates_3 4 rfl rfl)
theorem dX1_findCandidates_73 : decode cX1_findCandidates 73 = .ok (.invokevirtual 247, 3) := dk_182 0 247 (dk_at dksX1_findCandidates_3 5 rfl rfl)
theorem dX1_findCandidates_76 : decode cX1_findCandidates 76 = .ok (.ifCond .eq 6, 3) := dk_153 0 6 (dk_at dksX1_findCandidates_3 8 rfl rfl)
theorem dX1_findCandidates_79 : decode cX1_findCandidates 79 = .ok (.goto 13, 3) := dk_167 0 13 (dk_at dksX1_findCandidates_3 11 rfl rfl)
theorem dX1_findCandidates_82 : decode cX1_findCandidates 82 = .ok (.aload_n 0, 1) := dk_42 (dk_at dksX1_findCandidates_3 14 rfl rfl)
theorem dX1_findCandidates_83 : decode cX1_findCandidates 83 = .ok (.getfield 62, 3) := dk_180 0 62 (dk_at dksX1_findCandidates_3 15 rfl rfl)
theorem dX1_findCandidates_86 : decode cX1_findCandidates 86 = .ok (.iload_n 2, 1) := dk_28 (dk_at dksX1_findCandidates_3 18 rfl rfl)
theorem dX1_findCandidates_87 : decode cX1_findCandidates 87 = .ok (.iload_n 3, 1) := dk_29 (dk_at dksX1_findCandidates_3 19 rfl rfl)
theorem dX1_findCandidates_88 : decode cX1_findCandidates 88 = .ok (.iastore, 1) := dk_79 (dk_at dksX1_findCandidates_3 20 rfl rfl)
theorem dX1_findCandidates_89 : decode cX1_findCandidates 89 = .ok (.iinc 2 1, 3) := dk_132 2 1 (dk_at dksX1_findCandidates_3 21 rfl rfl)
theorem dX1_findCandidates_92 : decode cX1_findCandidates 92 = .ok (.iinc 3 1, 3) := dk_132 3 1 (dk_at dksX1_findCandidates_4 0 rfl rfl)
theorem dX1_findCandidates_95 : decode cX1_findCandidates 95 = .ok (.goto (-91), 3) := dk_167 255 165 (dk_at dksX1_findCandidates_4 3 rfl rfl)
theorem dX1_findCandidates_98 : decode cX1_findCandidates 98 = .ok (.iload_n 2, 1) := dk_28 (dk_at dksX1_findCandidates_4 6 rfl rfl)
theorem dX1_findCandidates_99 : decode cX1_findCandidates 99 = .ok (.ireturn, 1) := dk_172 (dk_at dksX1_findCandidates_4 7 rfl rfl)
abbrev cX1_fewest : ByteArray := prog_1_method_47_code
def yX1_fewest : MethodName := ⟨RX1, "fewest", "(II)I"⟩
def dkwX1_fewest_2 : List UInt8 := [29, 167, 0, 7, 42, 180, 1, 85, 172]
abbrev dktX1_fewest_2 : List UInt8 := dkwX1_fewest_2 ++ []
def dkwX1_fewest_1 : List UInt8 := [184, 0, 164, 42, 27, 3, 182, 1, 94, 62, 29, 2, 160, 0, 7, 2, 167, 0, 16, 28, 4, 160, 0, 7]
abbrev dktX1_fewest_1 : List UInt8 := dkwX1_fewest_1 ++ dktX1_fewest_2
def dkwX1_fewest_0 : List UInt8 := [42, 27, 182, 0, 254, 153, 0, 16, 28, 153, 0, 8, 28, 4, 160, 0, 7, 4, 167, 0, 4, 3]
abbrev dktX1_fewest_0 : List UInt8 := dkwX1_fewest_0 ++ dktX1_fewest_1
theorem dksX1_fewest_0 : cX1_fewest.data.toList.drop 0 = dktX1_fewest_0 := by decide +kernel
theorem dksX1_fewest_1 : cX1_fewest.data.toList.drop 22 = dktX1_fewest_1 := dk_seg dksX1_fewest_0 22 rfl rfl
theorem dksX1_fewest_2 : cX1_fewest.data.toList.drop 46 = dktX1_fewest_2 := dk_seg dksX1_fewest_1 24 rfl rfl
theorem dX1_fewest_0 : decode cX1_fewest 0 = .ok (.aload_n 0, 1) := dk_42 (dk_at dksX1_fewest_0 0 rfl rfl)
theorem dX1_fewest_1 : decode cX1_fewest 1 = .ok (.iload_n 1, 1) := dk_27 (dk_at dksX1_fewest_0 1 rfl rfl)
theorem dX1_fewest_2 : decode cX1_fewest 2 = .ok (.invokevirtual 254, 3) := dk_182 0 254 (dk_at dksX1_fewest_0 2 rfl rfl)
theorem dX1_fewest_5 : decode cX1_fewest 5 = .ok (.ifCond .eq 16, 3) := dk_153 0 16 (dk_at dksX1_fewest_0 5 rfl rfl)
theorem dX1_fewest_8 : decode cX1_fewest 8 = .ok (.iload_n 2, 1) := dk_28 (dk_at dksX1_fewest_0 8 rfl rfl)
theorem dX1_fewest_9 : decode cX1_fewest 9 = .ok (.ifCond .eq 8, 3) := dk_153 0 8 (dk_at dksX1_fewest_0 9 rfl rfl)
theorem dX1_fewest_12 : decode cX1_fewest 12 = .ok (.iload_n 2, 1) := dk_28 (dk_at dksX1_fewest_0 12 rfl rfl)
theorem dX1_fewest_13 : decode cX1_fewest 13 = .ok (.iconst 1, 1) := dk_4 (dk_at dksX1_fewest_0 13 rfl rfl)
theorem dX1_fewest_14 : decode cX1_fewest 14 = .ok (.if_icmp .ne 7, 3) := dk_160 0 7 (dk_at dksX1_fewest_0 14 rfl rfl)
theorem dX1_fewest_17 : decode cX1_fewest 17 = .ok (.iconst 1, 1) := dk_4 (dk_at dksX1_fewest_0 17 rfl rfl)
theorem dX1_fewest_18 : decode cX1_fewest 18 = .ok (.goto 4, 3) := dk_167 0 4 (dk_at dksX1_fewest_0 18 rfl rfl)
theorem dX1_fewest_21 : decode cX1_fewest 21 = .ok (.iconst 0, 1) := dk_3 (dk_at dksX1_fewest_0 21 rfl rfl)
theorem dX1_fewest_22 : decode cX1_fewest 22 = .ok (.invokestatic 164, 3) := dk_184 0 164 (dk_at dksX1_fewest_1 0 rfl rfl)
theorem dX1_fewest_25 : decode cX1_fewest 25 = .ok (.aload_n 0, 1) := dk_42 (dk_at dksX1_fewest_1 3 rfl rfl)
theorem dX1_fewest_26 : decode cX1_fewest 26 = .ok (.iload_n 1, 1) := dk_27 (dk_at dksX1_fewest_1 4 rfl rfl)
theorem dX1_fewest_27 : decode cX1_fewest 27 = .ok (.iconst 0, 1) := dk_3 (dk_at dksX1_fewest_1 5 rfl rfl)
theorem dX1_fewest_28 : decode cX1_fewest 28 = .ok (.invokevirtual 350, 3) := dk_182 1 94 (dk_at dksX1_fewest_1 6 rfl rfl)
theorem dX1_fewest_31 : decode cX1_fewest 31 = .ok (.istore_n 3, 1) := dk_62 (dk_at dksX1_fewest_1 9 rfl rfl)
theorem dX1_fewest_32 : decode cX1_fewest 32 = .ok (.iload_n 3, 1) := dk_29 (dk_at dksX1_fewest_1 10 rfl rfl)
theorem dX1_fewest_33 : decode cX1_fewest 33 = .ok (.iconst (-1), 1) := dk_2 (dk_at dksX1_fewest_1 11 rfl rfl)
theorem dX1_fewest_34 : decode cX1_fewest 34 = .ok (.if_icmp .ne 7, 3) := dk_160 0 7 (dk_at dksX1_fewest_1 12 rfl rfl)
theorem dX1_fewest_37 : decode cX1_fewest 37 = .ok (.iconst (-1), 1) := dk_2 (dk_at dksX1_fewest_1 15 rfl rfl)
theorem dX1_fewest_38 : decode cX1_fewest 38 = .ok (.goto 16, 3) := dk_167 0 16 (dk_at dksX1_fewest_1 16 rfl rfl)
theorem dX1_fewest_41 : decode cX1_fewest 41 = .ok (.iload_n 2, 1) := dk_28 (dk_at dksX1_fewest_1 19 rfl rfl)
theorem dX1_fewest_42 : decode cX1_fewest 42 = .ok (.iconst 1, 1) := dk_4 (dk_at dksX1_fewest_1 20 rfl rfl)
theorem dX1_fewest_43 : decode cX1_fewest 43 = .ok (.if_icmp .ne 7, 3) := dk_160 0 7 (dk_at dksX1_fewest_1 21 rfl rfl)
theorem dX1_fewest_46 : decode cX1_fewest 46 = .ok (.iload_n 3, 1) := dk_29 (dk_at dksX1_fewest_2 0 rfl rfl)
theorem dX1_fewest_47 : decode cX1_fewest 47 = .ok (.goto 7, 3) := dk_167 0 7 (dk_at dksX1_fewest_2 1 rfl rfl)
theorem dX1_fewest_50 : decode cX1_fewest 50 = .ok (.aload_n 0, 1) := dk_42 (dk_at dksX1_fewest_2 4 rfl rfl)
theorem dX1_fewest_51 : decode cX1_fewest 51 = .ok (.getfield 341, 3) := dk_180 1 85 (dk_at dksX1_fewest_2 5 rfl rfl)
theorem dX1_fewest_54 : decode cX1_fewest 54 = .ok (.ireturn, 1) := dk_172 (dk_at dksX1_fewest_2 8 rfl rfl)
abbrev cX1_leastSet : ByteArray := prog_1_method_46_code
def yX1_leastSet : MethodName := ⟨RX1, "leastSet", "(IZ)I"⟩
def dkwX1_leastSet_5 : List UInt8 := [42, 21, 6, 181, 1, 85, 132, 5, 1, 167, 255, 147, 42, 3, 182, 1, 91, 21, 4, 172]
abbrev dktX1_leastSet_5 : List UInt8 := dkwX1_leastSet_5 ++ []
def dkwX1_leastSet_4 : List UInt8 := [167, 0, 30, 42, 21, 5, 182, 1, 91, 42, 27, 182, 1, 73, 154, 0, 6, 167, 0, 13, 21, 5, 54, 4]
abbrev dktX1_leastSet_4 : List UInt8 := dkwX1_leastSet_4 ++ dktX1_leastSet_5
def dkwX1_leastSet_3 : List UInt8 := [96, 54, 6, 132, 7, 1, 167, 255, 212, 21, 4, 2, 159, 0, 15, 21, 6, 42, 180, 1, 85, 161, 0, 6]
abbrev dktX1_leastSet_3 : List UInt8 := dkwX1_leastSet_3 ++ dktX1_leastSet_4
def dkwX1_leastSet_2 : List UInt8 := [160, 0, 27, 21, 6, 28, 153, 0, 17, 42, 42, 180, 0, 62, 21, 7, 46, 182, 1, 88, 167, 0, 4, 4]
abbrev dktX1_leastSet_2 : List UInt8 := dkwX1_leastSet_2 ++ dktX1_leastSet_3
def dkwX1_leastSet_1 : List UInt8 := [162, 0, 107, 3, 54, 6, 3, 54, 7, 21, 7, 29, 162, 0, 44, 21, 5, 21, 7, 122, 4, 126, 4]
abbrev dktX1_leastSet_1 : List UInt8 := dkwX1_leastSet_1 ++ dktX1_leastSet_2
def dkwX1_leastSet_0 : List UInt8 := [42, 27, 182, 1, 82, 62, 2, 54, 4, 42, 3, 181, 1, 85, 3, 54, 5, 21, 5, 4, 29, 120]
abbrev dktX1_leastSet_0 : List UInt8 := dkwX1_leastSet_0 ++ dktX1_leastSet_1
theorem dksX1_leastSet_0 : cX1_leastSet.data.toList.drop 0 = dktX1_leastSet_0 := by decide +kernel
theorem dksX1_leastSet_1 : cX1_leastSet.data.toList.drop 22 = dktX1_leastSet_1 := dk_seg dksX1_leastSet_0 22 rfl rfl
theorem dksX1_leastSet_2 : cX1_leastSet.data.toList.drop 45 = dktX1_leastSet_2 := dk_seg dksX1_leastSet_1 23 rfl rfl
theorem dksX1_leastSet_3 : cX1_leastSet.data.toList.drop 69 = dktX1_leastSet_3 := dk_seg dksX1_leastSet_2 24 rfl rfl
theorem dksX1_leastSet_4 : cX1_leastSet.data.toList.drop 93 = dktX1_leastSet_4 := dk_seg dksX1_leastSet_3 24 rfl rfl
theorem dksX1_leastSet_5 : cX1_leastSet.data.toList.drop 117 = dktX1_leastSet_5 := dk_seg dksX1_leastSet_4 24 rfl rfl
theorem dX1_leastSet_0 : decode cX1_leastSet 0 = .ok (.aload_n 0, 1) := dk_42 (dk_at dksX1_leastSet_0 0 rfl rfl)
theorem dX1_leastSet_1 : decode cX1_leastSet 1 = .ok (.iload_n 1, 1) := dk_27 (dk_at dksX1_leastSet_0 1 rfl rfl)
theorem dX1_leastSet_2 : decode cX1_leastSet 2 = .ok (.invokevirtual 338, 3) := dk_182 1 82 (dk_at dksX1_leastSet_0 2 rfl rfl)
theorem dX1_leastSet_5 : decode cX1_leastSet 5 = .ok (.istore_n 3, 1) := dk_62 (dk_at dksX1_leastSet_0 5 rfl rfl)
theorem dX1_leastSet_6 : decode cX1_leastSet 6 = .ok (.iconst (-1), 1) := dk_2 (dk_at dksX1_leastSet_0 6 rfl rfl)
theorem dX1_leastSet_7 : decode cX1_leastSet 7 = .ok (.istore 4, 2) := dk_54 4 (dk_at dksX1_leastSet_0 7 rfl rfl)
theorem dX1_leastSet_9 : decode cX1_leastSet 9 = .ok (.aload_n 0, 1) := dk_42 (dk_at dksX1_leastSet_0 9 rfl rfl)
theorem dX1_leastSet_10 : decode cX1_leastSet 10 = .ok (.iconst 0, 1) := dk_3 (dk_at dksX1_leastSet_0 10 rfl rfl)
theorem dX1_leastSet_11 : decode cX1_leastSet 11 = .ok (.putfield 341, 3) := dk_181 1 85 (dk_at dksX1_leastSet_0 11 rfl rfl)
theorem dX1_leastSet_14 : decode cX1_leastSet 14 = .ok (.iconst 0, 1) := dk_3 (dk_at dksX1_leastSet_0 14 rfl rfl)
theorem dX1_leastSet_15 : decode cX1_leastSet 15 = .ok (.istore 5, 2) := dk_54 5 (dk_at dksX1_leastSet_0 15 rfl rfl)
theorem dX1_leastSet_17 : decode cX1_leastSet 17 = .ok (.iload 5, 2) := dk_21 5 (dk_at dksX1_leastSet_0 17 rfl rfl)
theorem dX1_leastSet_19 : decode cX1_leastSet 19 = .ok (.iconst 1, 1) := dk_4 (dk_at dksX1_leastSet_0 19 rfl rfl)
theorem dX1_leastSet_20 : decode cX1_leastSet 20 = .ok (.iload_n 3, 1) := dk_29 (dk_at dksX1_leastSet_0 20 rfl rfl)
theorem dX1_leastSet_21 : decode cX1_leastSet 21 = .ok (.ishl, 1) := dk_120 (dk_at dksX1_leastSet_0 21 rfl rfl)
theorem dX1_leastSet_22 : decode cX1_leastSet 22 = .ok (.if_icmp .ge 107, 3) := dk_162 0 107 (dk_at dksX1_leastSet_1 0 rfl rfl)
theorem dX1_leastSet_25 : decode cX1_leastSet 25 = .ok (.iconst 0, 1) := dk_3 (dk_at dksX1_leastSet_1 3 rfl rfl)
theorem dX1_leastSet_26 : decode cX1_leastSet 26 = .ok (.istore 6, 2) := dk_54 6 (dk_at dksX1_leastSet_1 4 rfl rfl)
theorem dX1_leastSet_28 : decode cX1_leastSet 28 = .ok (.iconst 0, 1) := dk_3 (dk_at dksX1_leastSet_1 6 rfl rfl)
theorem dX1_leastSet_29 : decode cX1_leastSet 29 = .ok (.istore 7, 2) := dk_54 7 (dk_at dksX1_leastSet_1 7 rfl rfl)
theorem dX1_leastSet_31 : decode cX1_leastSet 31 = .ok (.iload 7, 2) := dk_21 7 (dk_at dksX1_leastSet_1 9 rfl rfl)
theorem dX1_leastSet_33 : decode cX1_leastSet 33 = .ok (.iload_n 3, 1) := dk_29 (dk_at dksX1_leastSet_1 11 rfl rfl)
theorem dX1_leastSet_34 : decode cX1_leastSet 34 = .ok (.if_icmp .ge 44, 3) := dk_162 0 44 (dk_at dksX1_leastSet_1 12 rfl rfl)
theorem dX1_leastSet_37 : decode cX1_leastSet 37 = .ok (.iload 5, 2) := dk_21 5 (dk_at dksX1_leastSet_1 15 rfl rfl)
theorem dX1_leastSet_39 : decode cX1_leastSet 39 = .ok (.iload 7, 2) := dk_21 7 (dk_at dksX1_leastSet_1 17 rfl rfl)
theorem dX1_leastSet_41 : decode cX1_leastSet 41 = .ok (.ishr, 1) := dk_122 (dk_at dksX1_leastSet_1 19 rfl rfl)
theorem dX1_leastSet_42 : decode cX1_leastSet 42 = .ok (.iconst 1, 1) := dk_4 (dk_at dksX1_leastSet_1 20 rfl rfl)
theorem dX1_leastSet_43 : decode cX1_leastSet 43 = .ok (.iand, 1) := dk_126 (dk_at dksX1_leastSet_1 21 rfl rfl)
theorem dX1_leastSet_44 : decode cX1_leastSet 44 = .ok (.iconst 1, 1) := dk_4 (dk_at dksX1_leastSet_1 22 rfl rfl)
theorem dX1_leastSet_45 : decode cX1_leastSet 45 = .ok (.if_icmp .ne 27, 3) := dk_160 0 27 (dk_at dksX1_leastSet_2 0 rfl rfl)
theorem dX1_leastSet_48 : decode cX1_leastSet 48 = .ok (.iload 6, 2) := dk_21 6 (dk_at dksX1_leastSet_2 3 rfl rfl)
theorem dX1_leastSet_50 : decode cX1_leastSet 50 = .ok (.iload_n 2, 1) := dk_28 (dk_at dksX1_leastSet_2 5 rfl rfl)
theorem dX1_leastSet_51 : decode cX1_leastSet 51 = .ok (.ifCond .eq 17, 3) := dk_153 0 17 (dk_at dksX1_leastSet_2 6 rfl rfl)
theorem dX1_leastSet_54 : decode cX1_leastSet 54 = .ok (.aload_n 0, 1) := dk_42 (dk_at dksX1_leastSet_2 9 rfl rfl)
theorem dX1_leastSet_55 : decode cX1_leastSet 55 = .ok (.aload_n 0, 1) := dk_42 (dk_at dksX1_leastSet_2 10 rfl rfl)
theorem dX1_leastSet_56 : decode cX1_leastSet 56 = .ok (.getfield 62, 3) := dk_180 0 62 (dk_at dksX1_leastSet_2 11 rfl rfl)
theorem dX1_leastSet_59 : decode cX1_leastSet 59 = .ok (.iload 7, 2) := dk_21 7 (dk_at dksX1_leastSet_2 14 rfl rfl)
theorem dX1_leastSet_61 : decode cX1_leastSet 61 = .ok (.iaload, 1) := dk_46 (dk_at dksX1_leastSet_2 16 rfl rfl)
theorem dX1_leastSet_62 : decode cX1_leastSet 62 = .ok (.invokevirtual 344, 3) := dk_182 1 88 (dk_at dksX1_leastSet_2 17 rfl rfl)
theorem dX1_leastSet_65 : decode cX1_leastSet 65 = .ok (.goto 4, 3) := dk_167 0 4 (dk_at dksX1_leastSet_2 20 rfl rfl)
theorem dX1_leastSet_68 : decode cX1_leastSet 68 = .ok (.iconst 1, 1) := dk_4 (dk_at dksX1_leastSet_2 23 rfl rfl)
theorem dX1_leastSet_69 : decode cX1_leastSet 69 = .ok (.iadd, 1) := dk_96 (dk_at dksX1_leastSet_3 0 rfl rfl)
theorem dX1_leastSet_70 : decode cX1_leastSet 70 = .ok (.istore 6, 2) := dk_54 6 (dk_at dksX1_leastSet_3 1 rfl rfl)
theorem dX1_leastSet_72 : decode cX1_leastSet 72 = .ok (.iinc 7 1, 3) := dk_132 7 1 (dk_at dksX1_leastSet_3 3 rfl rfl)
theorem dX1_leastSet_75 : decode cX1_leastSet 75 = .ok (.goto (-44), 3) := dk_167 255 212 (dk_at dksX1_leastSet_3 6 rfl rfl)
theorem dX1_leastSet_78 : decode cX1_leastSet 78 = .ok (.iload 4, 2) := dk_21 4 (dk_at dksX1_leastSet_3 9 rfl rfl)
theorem dX1_leastSet_80 : decode cX1_leastSet 80 = .ok (.iconst (-1), 1) := dk_2 (dk_at dksX1_leastSet_3 11 rfl rfl)
theorem dX1_leastSet_81 : decode cX1_leastSet 81 = .ok (.if_icmp .eq 15, 3) := dk_159 0 15 (dk_at dksX1_leastSet_3 12 rfl rfl)
theorem dX1_leastSet_84 : decode cX1_leastSet 84 = .ok (.iload 6, 2) := dk_21 6 (dk_at dksX1_leastSet_3 15 rfl rfl)
theorem dX1_leastSet_86 : decode cX1_leastSet 86 = .ok (.aload_n 0, 1) := dk_42 (dk_at dksX1_leastSet_3 17 rfl rfl)
theorem dX1_leastSet_87 : decode cX1_leastSet 87 = .ok (.getfield 341, 3) := dk_180 1 85 (dk_at dksX1_leastSet_3 18 rfl rfl)
theorem dX1_leastSet_90 : decode cX1_leastSet 90 = .ok (.if_icmp .lt 6, 3) := dk_161 0 6 (dk_at dksX1_leastSet_3 21 rfl rfl)
theorem dX1_leastSet_93 : decode cX1_leastSet 93 = .ok (.goto 30, 3) := dk_167 0 30 (dk_at dksX1_leastSet_4 0 rfl rfl)
theorem dX1_leastSet_96 : decode cX1_leastSet 96 = .ok (.aload_n 0, 1) := dk_42 (dk_at dksX1_leastSet_4 3 rfl rfl)
theorem dX1_leastSet_97 : decode cX1_leastSet 97 = .ok (.iload 5, 2) := dk_21 5 (dk_at dksX1_leastSet_4 4 rfl rfl)
theorem dX1_leastSet_99 : decode cX1_leastSet 99 = .ok (.invokevirtual 347, 3) := dk_182 1 91 (dk_at dksX1_leastSet_4 6 rfl rfl)
theorem dX1_leastSet_102 : decode cX1_leastSet 102 = .ok (.aload_n 0, 1) := dk_42 (dk_at dksX1_leastSet_4 9 rfl rfl)
theorem dX1_leastSet_103 : decode cX1_leastSet 103 = .ok (.iload_n 1, 1) := dk_27 (dk_at dksX1_leastSet_4 10 rfl rfl)
theorem dX1_leastSet_104 : decode cX1_leastSet 104 = .ok (.invokevirtual 329, 3) := dk_182 1 73 (dk_at dksX1_leastSet_4 11 rfl rfl)
theorem dX1_leastSet_107 : decode cX1_leastSet 107 = .ok (.ifCond .ne 6, 3) := dk_154 0 6 (dk_at dksX1_leastSet_4 14 rfl rfl)
theorem dX1_leastSet_110 : decode cX1_leastSet 110 = .ok (.goto 13, 3) := dk_167 0 13 (dk_at dksX1_leastSet_4 17 rfl rfl)
theorem dX1_leastSet_113 : decode cX1_leastSet 113 = .ok (.iload 5, 2) := dk_21 5 (dk_at dksX1_leastSet_4 20 rfl rfl)
theorem dX1_leastSet_115 : decode cX1_leastSet 115 = .ok (.istore 4, 2) := dk_54 4 (dk_at dksX1_leastSet_4 22 rfl rfl)
theorem dX1_leastSet_117 : decode cX1_leastSet 117 = .ok (.aload_n 0, 1) := dk_42 (dk_at dksX1_leastSet_5 0 rfl rfl)
theorem dX1_leastSet_118 : decode cX1_leastSet 118 = .ok (.iload 6, 2) := dk_21 6 (dk_at dksX1_leastSet_5 1 rfl rfl)
theorem dX1_leastSet_120 : decode cX1_leastSet 120 = .ok (.putfield 341, 3) := dk_181 1 85 (dk_at dksX1_leastSet_5 3 rfl rfl)
theorem dX1_leastSet_123 : decode cX1_leastSet 123 = .ok (.iinc 5 1, 3) := dk_132 5 1 (dk_at dksX1_leastSet_5 6 rfl rfl)
theorem dX1_leastSet_126 : decode cX1_leastSet 126 = .ok (.goto (-109), 3) := dk_167 255 147 (dk_at dksX1_leastSet_5 9 rfl rfl)
theorem dX1_leastSet_129 : decode cX1_leastSet 129 = .ok (.aload_n 0, 1) := dk_42 (dk_at dksX1_leastSet_5 12 rfl rfl)
theorem dX1_leastSet_130 : decode cX1_leastSet 130 = .ok (.iconst 0, 1) := dk_3 (dk_at dksX1_leastSet_5 13 rfl rfl)
theorem dX1_leastSet_131 : decode cX1_leastSet 131 = .ok (.invokevirtual 347, 3) := dk_182 1 91 (dk_at dksX1_leastSet_5 14 rfl rfl)
theorem dX1_leastSet_134 : decode cX1_leastSet 134 = .ok (.iload 4, 2) := dk_21 4 (dk_at dksX1_leastSet_5 17 rfl rfl)
theorem dX1_leastSet_136 : decode cX1_leastSet 136 = .ok (.ireturn, 1) := dk_172 (dk_at dksX1_leastSet_5 19 rfl rfl)
abbrev cX1_costOf : ByteArray := prog_1_method_45_code
def yX1_costOf : MethodName := ⟨RX1, "costOf", "(I)I"⟩
def dkwX1_costOf_2 : List UInt8 := [192, 0, 148, 180, 0, 230, 96, 16, 10, 108, 96, 172]
abbrev dktX1_costOf_2 : List UInt8 := dkwX1_costOf_2 ++ []
def dkwX1_costOf_1 : List UInt8 := [180, 0, 230, 42, 180, 0, 12, 180, 0, 138, 42, 180, 0, 12, 180, 1, 79, 27, 46, 182, 0, 144]
abbrev dktX1_costOf_1 : List UInt8 := dkwX1_costOf_1 ++ dktX1_costOf_2
def dkwX1_costOf_0 : List UInt8 := [4, 42, 180, 0, 12, 180, 0, 138, 42, 180, 0, 12, 180, 1, 76, 27, 46, 182, 0, 144, 192, 0, 148]
abbrev dktX1_costOf_0 : List UInt8 := dkwX1_costOf_0 ++ dktX1_costOf_1
theorem dksX1_costOf_0 : cX1_costOf.data.toList.drop 0 = dktX1_costOf_0 := by decide +kernel
theorem dksX1_costOf_1 : cX1_costOf.data.toList.drop 23 = dktX1_costOf_1 := dk_seg dksX1_costOf_0 23 rfl rfl
theorem dksX1_costOf_2 : cX1_costOf.data.toList.drop 45 = dktX1_costOf_2 := dk_seg dksX1_costOf_1 22 rfl rfl
theorem dX1_costOf_0 : decode cX1_costOf 0 = .ok (.iconst 1, 1) := dk_4 (dk_at dksX1_costOf_0 0 rfl rfl)
theorem dX1_costOf_1 : decode cX1_costOf 1 = .ok (.aload_n 0, 1) := dk_42 (dk_at dksX1_costOf_0 1 rfl rfl)
theorem dX1_costOf_2 : decode cX1_costOf 2 = .ok (.getfield 12, 3) := dk_180 0 12 (dk_at dksX1_costOf_0 2 rfl rfl)
theorem dX1_costOf_5 : decode cX1_costOf 5 = .ok (.getfield 138, 3) := dk_180 0 138 (dk_at dksX1_costOf_0 5 rfl rfl)
theorem dX1_costOf_8 : decode cX1_costOf 8 = .ok (.aload_n 0, 1) := dk_42 (dk_at dksX1_costOf_0 8 rfl rfl)
theorem dX1_costOf_9 : decode cX1_costOf 9 = .ok (.getfield 12, 3) := dk_180 0 12 (dk_at dksX1_costOf_0 9 rfl rfl)
theorem dX1_costOf_12 : decode cX1_costOf 12 = .ok (.getfield 332, 3) := dk_180 1 76 (dk_at dksX1_costOf_0 12 rfl rfl)
theorem dX1_costOf_15 : decode cX1_costOf 15 = .ok (.iload_n 1, 1) := dk_27 (dk_at dksX1_costOf_0 15 rfl rfl)
theorem dX1_costOf_16 : decode cX1_costOf 16 = .ok (.iaload, 1) := dk_46 (dk_at dksX1_costOf_0 16 rfl rfl)
theorem dX1_costOf_17 : decode cX1_costOf 17 = .ok (.invokevirtual 144, 3) := dk_182 0 144 (dk_at dksX1_costOf_0 17 rfl rfl)
theorem dX1_costOf_20 : decode cX1_costOf 20 = .ok (.checkcast 148, 3) := dk_192 0 148 (dk_at dksX1_costOf_0 20 rfl rfl)
theorem dX1_costOf_23 : decode cX1_costOf 23 = .ok (.getfield 230, 3) := dk_180 0 230 (dk_at dksX1_costOf_1 0 rfl rfl)
theorem dX1_costOf_26 : decode cX1_costOf 26 = .ok (.aload_n 0, 1) := dk_42 (dk_at dksX1_costOf_1 3 rfl rfl)
theorem dX1_costOf_27 : decode cX1_costOf 27 = .ok (.getfield 12, 3) := dk_180 0 12 (dk_at dksX1_costOf_1 4 rfl rfl)
theorem dX1_costOf_30 : decode cX1_costOf 30 = .ok (.getfield 138, 3) := dk_180 0 138 (dk_at dksX1_costOf_1 7 rfl rfl)
theorem dX1_costOf_33 : decode cX1_costOf 33 = .ok (.aload_n 0, 1) := dk_42 (dk_at dksX1_costOf_1 10 rfl rfl)
theorem dX1_costOf_34 : decode cX1_costOf 34 = .ok (.getfield 12, 3) := dk_180 0 12 (dk_at dksX1_costOf_1 11 rfl rfl)
theorem dX1_costOf_37 : decode cX1_costOf 37 = .ok (.getfield 335, 3) := dk_180 1 79 (dk_at dksX1_costOf_1 14 rfl rfl)
theorem dX1_costOf_40 : decode cX1_costOf 40 = .ok (.iload_n 1, 1) := dk_27 (dk_at dksX1_costOf_1 17 rfl rfl)
theorem dX1_costOf_41 : decode cX1_costOf 41 = .ok (.iaload, 1) := dk_46 (dk_at dksX1_costOf_1 18 rfl rfl)
theorem dX1_costOf_42 : decode cX1_costOf 42 = .ok (.invokevirtual 144, 3) := dk_182 0 144 (dk_at dksX1_costOf_1 19 rfl rfl)
theorem dX1_costOf_45 : decode cX1_costOf 45 = .ok (.checkcast 148, 3) := dk_192 0 148 (dk_at dksX1_costOf_2 0 rfl rfl)
theorem dX1_costOf_48 : decode cX1_costOf 48 = .ok (.getfield 230, 3) := dk_180 0 230 (dk_at dksX1_costOf_2 3 rfl rfl)
theorem dX1_costOf_51 : decode cX1_costOf 51 = .ok (.iadd, 1) := dk_96 (dk_at dksX1_costOf_2 6 rfl rfl)
theorem dX1_costOf_52 : decode cX1_costOf 52 = .ok (.bipush 10, 2) := dk_16 10 (dk_at dksX1_costOf_2 7 rfl rfl)
theorem dX1_costOf_54 : decode cX1_costOf 54 = .ok (.idiv, 1) := dk_108 (dk_at dksX1_costOf_2 9 rfl rfl)
theorem dX1_costOf_55 : decode cX1_costOf 55 = .ok (.iadd, 1) := dk_96 (dk_at dksX1_costOf_2 10 rfl rfl)
theorem dX1_costOf_56 : decode cX1_costOf 56 = .ok (.ireturn, 1) := dk_172 (dk_at dksX1_costOf_2 11 rfl rfl)
abbrev cX1_tries : ByteArray := prog_1_method_44_code
def yX1_tries : MethodName := ⟨RX1, "tries", "(I)V"⟩
def dkwX1_tries_3 : List UInt8 := [28, 46, 46, 120, 128, 79, 132, 2, 1, 167, 255, 200, 177]
abbrev dktX1_tries_3 : List UInt8 := dkwX1_tries_3 ++ []
def dkwX1_tries_2 : List UInt8 := [180, 1, 76, 42, 180, 0, 62, 28, 46, 46, 92, 46, 4, 42, 180, 0, 12, 180, 1, 79, 42, 180, 0, 62]
abbrev dktX1_tries_2 : List UInt8 := dkwX1_tries_2 ++ dktX1_tries_3
def dkwX1_tries_1 : List UInt8 := [16, 14, 162, 0, 56, 27, 28, 122, 4, 126, 4, 160, 0, 41, 42, 180, 0, 35, 42, 180, 0, 12]
abbrev dktX1_tries_1 : List UInt8 := dkwX1_tries_1 ++ dktX1_tries_2
def dkwX1_tries_0 : List UInt8 := [3, 61, 28, 16, 24, 162, 0, 16, 42, 180, 0, 35, 28, 3, 79, 132, 2, 1, 167, 255, 240, 3, 61, 28]
abbrev dktX1_tries_0 : List UInt8 := dkwX1_tries_0 ++ dktX1_tries_1
theorem dksX1_tries_0 : cX1_tries.data.toList.drop 0 = dktX1_tries_0 := by decide +kernel
theorem dksX1_tries_1 : cX1_tries.data.toList.drop 24 = dktX1_tries_1 := dk_seg dksX1_tries_0 24 rfl rfl
theorem dksX1_tries_2 : cX1_tries.data.toList.drop 46 = dktX1_tries_2 := dk_seg dksX1_tries_1 22 rfl rfl
theorem dksX1_tries_3 : cX1_tries.data.toList.drop 70 = dktX1_tries_3 := dk_seg dksX1_tries_2 24 rfl rfl
theorem dX1_tries_0 : decode cX1_tries 0 = .ok (.iconst 0, 1) := dk_3 (dk_at dksX1_tries_0 0 rfl rfl)
theorem dX1_tries_1 : decode cX1_tries 1 = .ok (.istore_n 2, 1) := dk_61 (dk_at dksX1_tries_0 1 rfl rfl)
theorem dX1_tries_2 : decode cX1_tries 2 = .ok (.iload_n 2, 1) := dk_28 (dk_at dksX1_tries_0 2 rfl rfl)
theorem dX1_tries_3 : decode cX1_tries 3 = .ok (.bipush 24, 2) := dk_16 24 (dk_at dksX1_tries_0 3 rfl rfl)
theorem dX1_tries_5 : decode cX1_tries 5 = .ok (.if_icmp .ge 16, 3) := dk_162 0 16 (dk_at dksX1_tries_0 5 rfl rfl)
theorem dX1_tries_8 : decode cX1_tries 8 = .ok (.aload_n 0, 1) := dk_42 (dk_at dksX1_tries_0 8 rfl rfl)
theorem dX1_tries_9 : decode cX1_tries 9 = .ok (.getfield 35, 3) := dk_180 0 35 (dk_at dksX1_tries_0 9 rfl rfl)
theorem dX1_tries_12 : decode cX1_tries 12 = .ok (.iload_n 2, 1) := dk_28 (dk_at dksX1_tries_0 12 rfl rfl)
theorem dX1_tries_13 : decode cX1_tries 13 = .ok (.iconst 0, 1) := dk_3 (dk_at dksX1_tries_0 13 rfl rfl)
theorem dX1_tries_14 : decode cX1_tries 14 = .ok (.iastore, 1) := dk_79 (dk_at dksX1_tries_0 14 rfl rfl)
theorem dX1_tries_15 : decode cX1_tries 15 = .ok (.iinc 2 1, 3) := dk_132 2 1 (dk_at dksX1_tries_0 15 rfl rfl)
theorem dX1_tries_18 : decode cX1_tries 18 = .ok (.goto (-16), 3) := dk_167 255 240 (dk_at dksX1_tries_0 18 rfl rfl)
theorem dX1_tries_21 : decode cX1_tries 21 = .ok (.iconst 0, 1) := dk_3 (dk_at dksX1_tries_0 21 rfl rfl)
theorem dX1_tries_22 : decode cX1_tries 22 = .ok (.istore_n 2, 1) := dk_61 (dk_at dksX1_tries_0 22 rfl rfl)
theorem dX1_tries_23 : decode cX1_tries 23 = .ok (.iload_n 2, 1) := dk_28 (dk_at dksX1_tries_0 23 rfl rfl)
theorem dX1_tries_24 : decode cX1_tries 24 = .ok (.bipush 14, 2) := dk_16 14 (dk_at dksX1_tries_1 0 rfl rfl)
theorem dX1_tries_26 : decode cX1_tries 26 = .ok (.if_icmp .ge 56, 3) := dk_162 0 56 (dk_at dksX1_tries_1 2 rfl rfl)
theorem dX1_tries_29 : decode cX1_tries 29 = .ok (.iload_n 1, 1) := dk_27 (dk_at dksX1_tries_1 5 rfl rfl)
theorem dX1_tries_30 : decode cX1_tries 30 = .ok (.iload_n 2, 1) := dk_28 (dk_at dksX1_tries_1 6 rfl rfl)
theorem dX1_tries_31 : decode cX1_tries 31 = .ok (.ishr, 1) := dk_122 (dk_at dksX1_tries_1 7 rfl rfl)
theorem dX1_tries_32 : decode cX1_tries 32 = .ok (.iconst 1, 1) := dk_4 (dk_at dksX1_tries_1 8 rfl rfl)
theorem dX1_tries_33 : decode cX1_tries 33 = .ok (.iand, 1) := dk_126 (dk_at dksX1_tries_1 9 rfl rfl)
theorem dX1_tries_34 : decode cX1_tries 34 = .ok (.iconst 1, 1) := dk_4 (dk_at dksX1_tries_1 10 rfl rfl)
theorem dX1_tries_35 : decode cX1_tries 35 = .ok (.if_icmp .ne 41, 3) := dk_160 0 41 (dk_at dksX1_tries_1 11 rfl rfl)
theorem dX1_tries_38 : decode cX1_tries 38 = .ok (.aload_n 0, 1) := dk_42 (dk_at dksX1_tries_1 14 rfl rfl)
theorem dX1_tries_39 : decode cX1_tries 39 = .ok (.getfield 35, 3) := dk_180 0 35 (dk_at dksX1_tries_1 15 rfl rfl)
theorem dX1_tries_42 : decode cX1_tries 42 = .ok (.aload_n 0, 1) := dk_42 (dk_at dksX1_tries_1 18 rfl rfl)
theorem dX1_tries_43 : decode cX1_tries 43 = .ok (.getfield 12, 3) := dk_180 0 12 (dk_at dksX1_tries_1 19 rfl rfl)
theorem dX1_tries_46 : decode cX1_tries 46 = .ok (.getfield 332, 3) := dk_180 1 76 (dk_at dksX1_tries_2 0 rfl rfl)
theorem dX1_tries_49 : decode cX1_tries 49 = .ok (.aload_n 0, 1) := dk_42 (dk_at dksX1_tries_2 3 rfl rfl)
theorem dX1_tries_50 : decode cX1_tries 50 = .ok (.getfield 62, 3) := dk_180 0 62 (dk_at dksX1_tries_2 4 rfl rfl)
theorem dX1_tries_53 : decode cX1_tries 53 = .ok (.iload_n 2, 1) := dk_28 (dk_at dksX1_tries_2 7 rfl rfl)
theorem dX1_tries_54 : decode cX1_tries 54 = .ok (.iaload, 1) := dk_46 (dk_at dksX1_tries_2 8 rfl rfl)
theorem dX1_tries_55 : decode cX1_tries 55 = .ok (.iaload, 1) := dk_46 (dk_at dksX1_tries_2 9 rfl rfl)
theorem dX1_tries_56 : decode cX1_tries 56 = .ok (.dup2, 1) := dk_92 (dk_at dksX1_tries_2 10 rfl rfl)
theorem dX1_tries_57 : decode cX1_tries 57 = .ok (.iaload, 1) := dk_46 (dk_at dksX1_tries_2 11 rfl rfl)
theorem dX1_tries_58 : decode cX1_tries 58 = .ok (.iconst 1, 1) := dk_4 (dk_at dksX1_tries_2 12 rfl rfl)
theorem dX1_tries_59 : decode cX1_tries 59 = .ok (.aload_n 0, 1) := dk_42 (dk_at dksX1_tries_2 13 rfl rfl)
theorem dX1_tries_60 : decode cX1_tries 60 = .ok (.getfield 12, 3) := dk_180 0 12 (dk_at dksX1_tries_2 14 rfl rfl)
theorem dX1_tries_63 : decode cX1_tries 63 = .ok (.getfield 335, 3) := dk_180 1 79 (dk_at dksX1_tries_2 17 rfl rfl)
theorem dX1_tries_66 : decode cX1_tries 66 = .ok (.aload_n 0, 1) := dk_42 (dk_at dksX1_tries_2 20 rfl rfl)
theorem dX1_tries_67 : decode cX1_tries 67 = .ok (.getfield 62, 3) := dk_180 0 62 (dk_at dksX1_tries_2 21 rfl rfl)
theorem dX1_tries_70 : decode cX1_tries 70 = .ok (.iload_n 2, 1) := dk_28 (dk_at dksX1_tries_3 0 rfl rfl)
theorem dX1_tries_71 : decode cX1_tries 71 = .ok (.iaload, 1) := dk_46 (dk_at dksX1_tries_3 1 rfl rfl)
theorem dX1_tries_72 : decode cX1_tries 72 = .ok (.iaload, 1) := dk_46 (dk_at dksX1_tries_3 2 rfl rfl)
theorem dX1_tries_73 : decode cX1_tries 73 = .ok (.ishl, 1) := dk_120 (dk_at dksX1_tries_3 3 rfl rfl)
theorem dX1_tries_74 : decode cX1_tries 74 = .ok (.ior, 1) := dk_128 (dk_at dksX1_tries_3 4 rfl rfl)
theorem dX1_tries_75 : decode cX1_tries 75 = .ok (.iastore, 1) := dk_79 (dk_at dksX1_tries_3 5 rfl rfl)
theorem dX1_tries_76 : decode cX1_tries 76 = .ok (.iinc 2 1, 3) := dk_132 2 1 (dk_at dksX1_tries_3 6 rfl rfl)
theorem dX1_tries_79 : decode cX1_tries 79 = .ok (.goto (-56), 3) := dk_167 255 200 (dk_at dksX1_tries_3 9 rfl rfl)
theorem dX1_tries_82 : decode cX1_tries 82 = .ok (.return_, 1) := dk_177 (dk_at dksX1_tries_3 12 rfl rfl)
abbrev cX1_cheapest : ByteArray := prog_1_method_48_code
def yX1_cheapest : MethodName := ⟨RX1, "cheapest", "(II)I"⟩
def dkwX1_cheapest_2 : List UInt8 := [29, 167, 0, 7, 42, 180, 1, 85, 172]
abbrev dktX1_cheapest_2 : List UInt8 := dkwX1_cheapest_2 ++ []
def dkwX1_cheapest_1 : List UInt8 := [184, 0, 164, 42, 27, 4, 182, 1, 94, 62, 29, 2, 160, 0, 7, 2, 167, 0, 16, 28, 4, 160, 0, 7]
abbrev dktX1_cheapest_1 : List UInt8 := dkwX1_cheapest_1 ++ dktX1_cheapest_2
def dkwX1_cheapest_0 : List UInt8 := [42, 27, 182, 0, 254, 153, 0, 16, 28, 153, 0, 8, 28, 4, 160, 0, 7, 4, 167, 0, 4, 3]
abbrev dktX1_cheapest_0 : List UInt8 := dkwX1_cheapest_0 ++ dktX1_cheapest_1
theorem dksX1_cheapest_0 : cX1_cheapest.data.toList.drop 0 = dktX1_cheapest_0 := by decide +kernel
theorem dksX1_cheapest_1 : cX1_cheapest.data.toList.drop 22 = dktX1_cheapest_1 := dk_seg dksX1_cheapest_0 22 rfl rfl
theorem dksX1_cheapest_2 : cX1_cheapest.data.toList.drop 46 = dktX1_cheapest_2 := dk_seg dksX1_cheapest_1 24 rfl rfl
theorem dX1_cheapest_0 : decode cX1_cheapest 0 = .ok (.aload_n 0, 1) := dk_42 (dk_at dksX1_cheapest_0 0 rfl rfl)
theorem dX1_cheapest_1 : decode cX1_cheapest 1 = .ok (.iload_n 1, 1) := dk_27 (dk_at dksX1_cheapest_0 1 rfl rfl)
theorem dX1_cheapest_2 : decode cX1_cheapest 2 = .ok (.invokevirtual 254, 3) := dk_182 0 254 (dk_at dksX1_cheapest_0 2 rfl rfl)
theorem dX1_cheapest_5 : decode cX1_cheapest 5 = .ok (.ifCond .eq 16, 3) := dk_153 0 16 (dk_at dksX1_cheapest_0 5 rfl rfl)
theorem dX1_cheapest_8 : decode cX1_cheapest 8 = .ok (.iload_n 2, 1) := dk_28 (dk_at dksX1_cheapest_0 8 rfl rfl)
theorem dX1_cheapest_9 : decode cX1_cheapest 9 = .ok (.ifCond .eq 8, 3) := dk_153 0 8 (dk_at dksX1_cheapest_0 9 rfl rfl)
theorem dX1_cheapest_12 : decode cX1_cheapest 12 = .ok (.iload_n 2, 1) := dk_28 (dk_at dksX1_cheapest_0 12 rfl rfl)
theorem dX1_cheapest_13 : decode cX1_cheapest 13 = .ok (.iconst 1, 1) := dk_4 (dk_at dksX1_cheapest_0 13 rfl rfl)
theorem dX1_cheapest_14 : decode cX1_cheapest 14 = .ok (.if_icmp .ne 7, 3) := dk_160 0 7 (dk_at dksX1_cheapest_0 14 rfl rfl)
theorem dX1_cheapest_17 : decode cX1_cheapest 17 = .ok (.iconst 1, 1) := dk_4 (dk_at dksX1_cheapest_0 17 rfl rfl)
theorem dX1_cheapest_18 : decode cX1_cheapest 18 = .ok (.goto 4, 3) := dk_167 0 4 (dk_at dksX1_cheapest_0 18 rfl rfl)
theorem dX1_cheapest_21 : decode cX1_cheapest 21 = .ok (.iconst 0, 1) := dk_3 (dk_at dksX1_cheapest_0 21 rfl rfl)
theorem dX1_cheapest_22 : decode cX1_cheapest 22 = .ok (.invokestatic 164, 3) := dk_184 0 164 (dk_at dksX1_cheapest_1 0 rfl rfl)
theorem dX1_cheapest_25 : decode cX1_cheapest 25 = .ok (.aload_n 0, 1) := dk_42 (dk_at dksX1_cheapest_1 3 rfl rfl)
theorem dX1_cheapest_26 : decode cX1_cheapest 26 = .ok (.iload_n 1, 1) := dk_27 (dk_at dksX1_cheapest_1 4 rfl rfl)
theorem dX1_cheapest_27 : decode cX1_cheapest 27 = .ok (.iconst 1, 1) := dk_4 (dk_at dksX1_cheapest_1 5 rfl rfl)
theorem dX1_cheapest_28 : decode cX1_cheapest 28 = .ok (.invokevirtual 350, 3) := dk_182 1 94 (dk_at dksX1_cheapest_1 6 rfl rfl)
theorem dX1_cheapest_31 : decode cX1_cheapest 31 = .ok (.istore_n 3, 1) := dk_62 (dk_at dksX1_cheapest_1 9 rfl rfl)
theorem dX1_cheapest_32 : decode cX1_cheapest 32 = .ok (.iload_n 3, 1) := dk_29 (dk_at dksX1_cheapest_1 10 rfl rfl)
theorem dX1_cheapest_33 : decode cX1_cheapest 33 = .ok (.iconst (-1), 1) := dk_2 (dk_at dksX1_cheapest_1 11 rfl rfl)
theorem dX1_cheapest_34 : decode cX1_cheapest 34 = .ok (.if_icmp .ne 7, 3) := dk_160 0 7 (dk_at dksX1_cheapest_1 12 rfl rfl)
theorem dX1_cheapest_37 : decode cX1_cheapest 37 = .ok (.iconst (-1), 1) := dk_2 (dk_at dksX1_cheapest_1 15 rfl rfl)
theorem dX1_cheapest_38 : decode cX1_cheapest 38 = .ok (.goto 16, 3) := dk_167 0 16 (dk_at dksX1_cheapest_1 16 rfl rfl)
theorem dX1_cheapest_41 : decode cX1_cheapest 41 = .ok (.iload_n 2, 1) := dk_28 (dk_at dksX1_cheapest_1 19 rfl rfl)
theorem dX1_cheapest_42 : decode cX1_cheapest 42 = .ok (.iconst 1, 1) := dk_4 (dk_at dksX1_cheapest_1 20 rfl rfl)
theorem dX1_cheapest_43 : decode cX1_cheapest 43 = .ok (.if_icmp .ne 7, 3) := dk_160 0 7 (dk_at dksX1_cheapest_1 21 rfl rfl)
theorem dX1_cheapest_46 : decode cX1_cheapest 46 = .ok (.iload_n 3, 1) := dk_29 (dk_at dksX1_cheapest_2 0 rfl rfl)
theorem dX1_cheapest_47 : decode cX1_cheapest 47 = .ok (.goto 7, 3) := dk_167 0 7 (dk_at dksX1_cheapest_2 1 rfl rfl)
theorem dX1_cheapest_50 : decode cX1_cheapest 50 = .ok (.aload_n 0, 1) := dk_42 (dk_at dksX1_cheapest_2 4 rfl rfl)
theorem dX1_cheapest_51 : decode cX1_cheapest 51 = .ok (.getfield 341, 3) := dk_180 1 85 (dk_at dksX1_cheapest_2 5 rfl rfl)
theorem dX1_cheapest_54 : decode cX1_cheapest 54 = .ok (.ireturn, 1) := dk_172 (dk_at dksX1_cheapest_2 8 rfl rfl)
abbrev cX1_exchange : ByteArray := prog_1_method_49_code
def yX1_exchange : MethodName := ⟨RX1, "exchange", "(II)I"⟩
def dkwX1_exchange_9 : List UInt8 := [167, 0, 5, 21, 5, 172]
abbrev dktX1_exchange_9 : List UInt8 := dkwX1_exchange_9 ++ []
def dkwX1_exchange_8 : List UInt8 := [180, 0, 39, 21, 7, 3, 79, 132, 6, 1, 167, 255, 105, 42, 3, 182, 1, 91, 28, 154, 0, 8, 21, 4]
abbrev dktX1_exchange_8 : List UInt8 := dkwX1_exchange_8 ++ dktX1_exchange_9
def dkwX1_exchange_7 : List UInt8 := [21, 6, 104, 42, 180, 0, 62, 21, 9, 46, 96, 54, 4, 21, 10, 54, 5, 132, 9, 1, 167, 255, 202, 42]
abbrev dktX1_exchange_7 : List UInt8 := dkwX1_exchange_7 ++ dktX1_exchange_8
def dkwX1_exchange_6 : List UInt8 := [182, 1, 91, 42, 27, 182, 1, 70, 54, 10, 21, 10, 21, 5, 163, 0, 6, 167, 0, 23, 17, 3, 232]
abbrev dktX1_exchange_6 : List UInt8 := dkwX1_exchange_6 ++ dktX1_exchange_7
def dkwX1_exchange_5 : List UInt8 := [180, 0, 39, 21, 7, 4, 21, 8, 120, 79, 3, 54, 9, 21, 9, 29, 162, 0, 54, 42, 4, 21, 9, 120]
abbrev dktX1_exchange_5 : List UInt8 := dkwX1_exchange_5 ++ dktX1_exchange_6
def dkwX1_exchange_4 : List UInt8 := [153, 0, 100, 42, 180, 0, 19, 27, 21, 7, 21, 8, 182, 0, 247, 153, 0, 6, 167, 0, 82, 42]
abbrev dktX1_exchange_4 : List UInt8 := dkwX1_exchange_4 ++ dktX1_exchange_5
def dkwX1_exchange_3 : List UInt8 := [180, 0, 12, 180, 1, 79, 21, 6, 46, 54, 8, 42, 180, 0, 19, 27, 21, 7, 21, 8, 182, 0, 251]
abbrev dktX1_exchange_3 : List UInt8 := dkwX1_exchange_3 ++ dktX1_exchange_4
def dkwX1_exchange_2 : List UInt8 := [42, 180, 0, 12, 180, 0, 217, 162, 0, 145, 42, 180, 0, 12, 180, 1, 76, 21, 6, 46, 54, 7, 42]
abbrev dktX1_exchange_2 : List UInt8 := dkwX1_exchange_2 ++ dktX1_exchange_3
def dkwX1_exchange_1 : List UInt8 := [184, 0, 164, 42, 27, 182, 1, 82, 62, 2, 54, 4, 42, 27, 182, 1, 70, 54, 5, 3, 54, 6, 21, 6]
abbrev dktX1_exchange_1 : List UInt8 := dkwX1_exchange_1 ++ dktX1_exchange_2
def dkwX1_exchange_0 : List UInt8 := [42, 27, 182, 0, 254, 153, 0, 16, 28, 153, 0, 8, 28, 4, 160, 0, 7, 4, 167, 0, 4, 3]
abbrev dktX1_exchange_0 : List UInt8 := dkwX1_exchange_0 ++ dktX1_exchange_1
theorem dksX1_exchange_0 : cX1_exchange.data.toList.drop 0 = dktX1_exchange_0 := by decide +kernel
theorem dksX1_exchange_1 : cX1_exchange.data.toList.drop 22 = dktX1_exchange_1 := dk_seg dksX1_exchange_0 22 rfl rfl
theorem dksX1_exchange_2 : cX1_exchange.data.toList.drop 46 = dktX1_exchange_2 := dk_seg dksX1_exchange_1 24 rfl rfl
theorem dksX1_exchange_3 : cX1_exchange.data.toList.drop 69 = dktX1_exchange_3 := dk_seg dksX1_exchange_2 23 rfl rfl
theorem dksX1_exchange_4 : cX1_exchange.data.toList.drop 92 = dktX1_exchange_4 := dk_seg dksX1_exchange_3 23 rfl rfl
theorem dksX1_exchange_5 : cX1_exchange.data.toList.drop 114 = dktX1_exchange_5 := dk_seg dksX1_exchange_4 22 rfl rfl
theorem dksX1_exchange_6 : cX1_exchange.data.toList.drop 138 = dktX1_exchange_6 := dk_seg dksX1_exchange_5 24 rfl rfl
theorem dksX1_exchange_7 : cX1_exchange.data.toList.drop 161 = dktX1_exchange_7 := dk_seg dksX1_exchange_6 23 rfl rfl
theorem dksX1_exchange_8 : cX1_exchange.data.toList.drop 185 = dktX1_exchange_8 := dk_seg dksX1_exchange_7 24 rfl rfl
theorem dksX1_exchange_9 : cX1_exchange.data.toList.drop 209 = dktX1_exchange_9 := dk_seg dksX1_exchange_8 24 rfl rfl
theorem dX1_exchange_0 : decode cX1_exchange 0 = .ok (.aload_n 0, 1) := dk_42 (dk_at dksX1_exchange_0 0 rfl rfl)
theorem dX1_exchange_1 : decode cX1_exchange 1 = .ok (.iload_n 1, 1) := dk_27 (dk_at dksX1_exchange_0 1 rfl rfl)
theorem dX1_exchange_2 : decode cX1_exchange 2 = .ok (.invokevirtual 254, 3) := dk_182 0 254 (dk_at dksX1_exchange_0 2 rfl rfl)
theorem dX1_exchange_5 : decode cX1_exchange 5 = .ok (.ifCond .eq 16, 3) := dk_153 0 16 (dk_at dksX1_exchange_0 5 rfl rfl)
theorem dX1_exchange_8 : decode cX1_exchange 8 = .ok (.iload_n 2, 1) := dk_28 (dk_at dksX1_exchange_0 8 rfl rfl)
theorem dX1_exchange_9 : decode cX1_exchange 9 = .ok (.ifCond .eq 8, 3) := dk_153 0 8 (dk_at dksX1_exchange_0 9 rfl rfl)
theorem dX1_exchange_12 : decode cX1_exchange 12 = .ok (.iload_n 2, 1) := dk_28 (dk_at dksX1_exchange_0 12 rfl rfl)
theorem dX1_exchange_13 : decode cX1_exchange 13 = .ok (.iconst 1, 1) := dk_4 (dk_at dksX1_exchange_0 13 rfl rfl)
theorem dX1_exchange_14 : decode cX1_exchange 14 = .ok (.if_icmp .ne 7, 3) := dk_160 0 7 (dk_at dksX1_exchange_0 14 rfl rfl)
theorem dX1_exchange_17 : decode cX1_exchange 17 = .ok (.iconst 1, 1) := dk_4 (dk_at dksX1_exchange_0 17 rfl rfl)
theorem dX1_exchange_18 : decode cX1_exchange 18 = .ok (.goto 4, 3) := dk_167 0 4 (dk_at dksX1_exchange_0 18 rfl rfl)
theorem dX1_exchange_21 : decode cX1_exchange 21 = .ok (.iconst 0, 1) := dk_3 (dk_at dksX1_exchange_0 21 rfl rfl)
theorem dX1_exchange_22 : decode cX1_exchange 22 = .ok (.invokestatic 164, 3) := dk_184 0 164 (dk_at dksX1_exchange_1 0 rfl rfl)
theorem dX1_exchange_25 : decode cX1_exchange 25 = .ok (.aload_n 0, 1) := dk_42 (dk_at dksX1_exchange_1 3 rfl rfl)
theorem dX1_exchange_26 : decode cX1_exchange 26 = .ok (.iload_n 1, 1) := dk_27 (dk_at dksX1_exchange_1 4 rfl rfl)
theorem dX1_exchange_27 : decode cX1_exchange 27 = .ok (.invokevirtual 338, 3) := dk_182 1 82 (dk_at dksX1_exchange_1 5 rfl rfl)
theorem dX1_exchange_30 : decode cX1_exchange 30 = .ok (.istore_n 3, 1) := dk_62 (dk_at dksX1_exchange_1 8 rfl rfl)
theorem dX1_exchange_31 : decode cX1_exchange 31 = .ok (.iconst (-1), 1) := dk_2 (dk_at dksX1_exchange_1 9 rfl rfl)
theorem dX1_exchange_32 : decode cX1_exchange 32 = .ok (.istore 4, 2) := dk_54 4 (dk_at dksX1_exchange_1 10 rfl rfl)
theorem dX1_exchange_34 : decode cX1_exchange 34 = .ok (.aload_n 0, 1) := dk_42 (dk_at dksX1_exchange_1 12 rfl rfl)
theorem dX1_exchange_35 : decode cX1_exchange 35 = .ok (.iload_n 1, 1) := dk_27 (dk_at dksX1_exchange_1 13 rfl rfl)
theorem dX1_exchange_36 : decode cX1_exchange 36 = .ok (.invokevirtual 326, 3) := dk_182 1 70 (dk_at dksX1_exchange_1 14 rfl rfl)
theorem dX1_exchange_39 : decode cX1_exchange 39 = .ok (.istore 5, 2) := dk_54 5 (dk_at dksX1_exchange_1 17 rfl rfl)
theorem dX1_exchange_41 : decode cX1_exchange 41 = .ok (.iconst 0, 1) := dk_3 (dk_at dksX1_exchange_1 19 rfl rfl)
theorem dX1_exchange_42 : decode cX1_exchange 42 = .ok (.istore 6, 2) := dk_54 6 (dk_at dksX1_exchange_1 20 rfl rfl)
theorem dX1_exchange_44 : decode cX1_exchange 44 = .ok (.iload 6, 2) := dk_21 6 (dk_at dksX1_exchange_1 22 rfl rfl)
theorem dX1_exchange_46 : decode cX1_exchange 46 = .ok (.aload_n 0, 1) := dk_42 (dk_at dksX1_exchange_2 0 rfl rfl)
theorem dX1_exchange_47 : decode cX1_exchange 47 = .ok (.getfield 12, 3) := dk_180 0 12 (dk_at dksX1_exchange_2 1 rfl rfl)
theorem dX1_exchange_50 : decode cX1_exchange 50 = .ok (.getfield 217, 3) := dk_180 0 217 (dk_at dksX1_exchange_2 4 rfl rfl)
theorem dX1_exchange_53 : decode cX1_exchange 53 = .ok (.if_icmp .ge 145, 3) := dk_162 0 145 (dk_at dksX1_exchange_2 7 rfl rfl)
theorem dX1_exchange_56 : decode cX1_exchange 56 = .ok (.aload_n 0, 1) := dk_42 (dk_at dksX1_exchange_2 10 rfl rfl)
theorem dX1_exchange_57 : decode cX1_exchange 57 = .ok (.getfield 12, 3) := dk_180 0 12 (dk_at dksX1_exchange_2 11 rfl rfl)
theorem dX1_exchange_60 : decode cX1_exchange 60 = .ok (.getfield 332, 3) := dk_180 1 76 (dk_at dksX1_exchange_2 14 rfl rfl)
theorem dX1_exchange_63 : decode cX1_exchange 63 = .ok (.iload 6, 2) := dk_21 6 (dk_at dksX1_exchange_2 17 rfl rfl)
theorem dX1_exchange_65 : decode cX1_exchange 65 = .ok (.iaload, 1) := dk_46 (dk_at dksX1_exchange_2 19 rfl rfl)
theorem dX1_exchange_66 : decode cX1_exchange 66 = .ok (.istore 7, 2) := dk_54 7 (dk_at dksX1_exchange_2 20 rfl rfl)
theorem dX1_exchange_68 : decode cX1_exchange 68 = .ok (.aload_n 0, 1) := dk_42 (dk_at dksX1_exchange_2 22 rfl rfl)
theorem dX1_exchange_69 : decode cX1_exchange 69 = .ok (.getfield 12, 3) := dk_180 0 12 (dk_at dksX1_exchange_3 0 rfl rfl)
theorem dX1_exchange_72 : decode cX1_exchange 72 = .ok (.getfield 335, 3) := dk_180 1 79 (dk_at dksX1_exchange_3 3 rfl rfl)
theorem dX1_exchange_75 : decode cX1_exchange 75 = .ok (.iload 6, 2) := dk_21 6 (dk_at dksX1_exchange_3 6 rfl rfl)
theorem dX1_exchange_77 : decode cX1_exchange 77 = .ok (.iaload, 1) := dk_46 (dk_at dksX1_exchange_3 8 rfl rfl)
theorem dX1_exchange_78 : decode cX1_exchange 78 = .ok (.istore 8, 2) := dk_54 8 (dk_at dksX1_exchange_3 9 rfl rfl)
theorem dX1_exchange_80 : decode cX1_exchange 80 = .ok (.aload_n 0, 1) := dk_42 (dk_at dksX1_exchange_3 11 rfl rfl)
theorem dX1_exchange_81 : decode cX1_exchange 81 = .ok (.getfield 19, 3) := dk_180 0 19 (dk_at dksX1_exchange_3 12 rfl rfl)
theorem dX1_exchange_84 : decode cX1_exchange 84 = .ok (.iload_n 1, 1) := dk_27 (dk_at dksX1_exchange_3 15 rfl rfl)
theorem dX1_exchange_85 : decode cX1_exchange 85 = .ok (.iload 7, 2) := dk_21 7 (dk_at dksX1_exchange_3 16 rfl rfl)
theorem dX1_exchange_87 : decode cX1_exchange 87 = .ok (.iload 8, 2) := dk_21 8 (dk_at dksX1_exchange_3 18 rfl rfl)
theorem dX1_exchange_89 : decode cX1_exchange 89 = .ok (.invokevirtual 251, 3) := dk_182 0 251 (dk_at dksX1_exchange_3 20 rfl rfl)
theorem dX1_exchange_92 : decode cX1_exchange 92 = .ok (.ifCond .eq 100, 3) := dk_153 0 100 (dk_at dksX1_exchange_4 0 rfl rfl)
theorem dX1_exchange_95 : decode cX1_exchange 95 = .ok (.aload_n 0, 1) := dk_42 (dk_at dksX1_exchange_4 3 rfl rfl)
theorem dX1_exchange_96 : decode cX1_exchange 96 = .ok (.getfield 19, 3) := dk_180 0 19 (dk_at dksX1_exchange_4 4 rfl rfl)
theorem dX1_exchange_99 : decode cX1_exchange 99 = .ok (.iload_n 1, 1) := dk_27 (dk_at dksX1_exchange_4 7 rfl rfl)
theorem dX1_exchange_100 : decode cX1_exchange 100 = .ok (.iload 7, 2) := dk_21 7 (dk_at dksX1_exchange_4 8 rfl rfl)
theorem dX1_exchange_102 : decode cX1_exchange 102 = .ok (.iload 8, 2) := dk_21 8 (dk_at dksX1_exchange_4 10 rfl rfl)
theorem dX1_exchange_104 : decode cX1_exchange 104 = .ok (.invokevirtual 247, 3) := dk_182 0 247 (dk_at dksX1_exchange_4 12 rfl rfl)
theorem dX1_exchange_107 : decode cX1_exchange 107 = .ok (.ifCond .eq 6, 3) := dk_153 0 6 (dk_at dksX1_exchange_4 15 rfl rfl)
theorem dX1_exchange_110 : decode cX1_exchange 110 = .ok (.goto 82, 3) := dk_167 0 82 (dk_at dksX1_exchange_4 18 rfl rfl)
theorem dX1_exchange_113 : decode cX1_exchange 113 = .ok (.aload_n 0, 1) := dk_42 (dk_at dksX1_exchange_4 21 rfl rfl)
theorem dX1_exchange_114 : decode cX1_exchange 114 = .ok (.getfield 39, 3) := dk_180 0 39 (dk_at dksX1_exchange_5 0 rfl rfl)
theorem dX1_exchange_117 : decode cX1_exchange 117 = .ok (.iload 7, 2) := dk_21 7 (dk_at dksX1_exchange_5 3 rfl rfl)
theorem dX1_exchange_119 : decode cX1_exchange 119 = .ok (.iconst 1, 1) := dk_4 (dk_at dksX1_exchange_5 5 rfl rfl)
theorem dX1_exchange_120 : decode cX1_exchange 120 = .ok (.iload 8, 2) := dk_21 8 (dk_at dksX1_exchange_5 6 rfl rfl)
theorem dX1_exchange_122 : decode cX1_exchange 122 = .ok (.ishl, 1) := dk_120 (dk_at dksX1_exchange_5 8 rfl rfl)
theorem dX1_exchange_123 : decode cX1_exchange 123 = .ok (.iastore, 1) := dk_79 (dk_at dksX1_exchange_5 9 rfl rfl)
theorem dX1_exchange_124 : decode cX1_exchange 124 = .ok (.iconst 0, 1) := dk_3 (dk_at dksX1_exchange_5 10 rfl rfl)
theorem dX1_exchange_125 : decode cX1_exchange 125 = .ok (.istore 9, 2) := dk_54 9 (dk_at dksX1_exchange_5 11 rfl rfl)
theorem dX1_exchange_127 : decode cX1_exchange 127 = .ok (.iload 9, 2) := dk_21 9 (dk_at dksX1_exchange_5 13 rfl rfl)
theorem dX1_exchange_129 : decode cX1_exchange 129 = .ok (.iload_n 3, 1) := dk_29 (dk_at dksX1_exchange_5 15 rfl rfl)
theorem dX1_exchange_130 : decode cX1_exchange 130 = .ok (.if_icmp .ge 54, 3) := dk_162 0 54 (dk_at dksX1_exchange_5 16 rfl rfl)
theorem dX1_exchange_133 : decode cX1_exchange 133 = .ok (.aload_n 0, 1) := dk_42 (dk_at dksX1_exchange_5 19 rfl rfl)
theorem dX1_exchange_134 : decode cX1_exchange 134 = .ok (.iconst 1, 1) := dk_4 (dk_at dksX1_exchange_5 20 rfl rfl)
theorem dX1_exchange_135 : decode cX1_exchange 135 = .ok (.iload 9, 2) := dk_21 9 (dk_at dksX1_exchange_5 21 rfl rfl)
theorem dX1_exchange_137 : decode cX1_exchange 137 = .ok (.ishl, 1) := dk_120 (dk_at dksX1_exchange_5 23 rfl rfl)
theorem dX1_exchange_138 : decode cX1_exchange 138 = .ok (.invokevirtual 347, 3) := dk_182 1 91 (dk_at dksX1_exchange_6 0 rfl rfl)
theorem dX1_exchange_141 : decode cX1_exchange 141 = .ok (.aload_n 0, 1) := dk_42 (dk_at dksX1_exchange_6 3 rfl rfl)
theorem dX1_exchange_142 : decode cX1_exchange 142 = .ok (.iload_n 1, 1) := dk_27 (dk_at dksX1_exchange_6 4 rfl rfl)
theorem dX1_exchange_143 : decode cX1_exchange 143 = .ok (.invokevirtual 326, 3) := dk_182 1 70 (dk_at dksX1_exchange_6 5 rfl rfl)
theorem dX1_exchange_146 : decode cX1_exchange 146 = .ok (.istore 10, 2) := dk_54 10 (dk_at dksX1_exchange_6 8 rfl rfl)
theorem dX1_exchange_148 : decode cX1_exchange 148 = .ok (.iload 10, 2) := dk_21 10 (dk_at dksX1_exchange_6 10 rfl rfl)
theorem dX1_exchange_150 : decode cX1_exchange 150 = .ok (.iload 5, 2) := dk_21 5 (dk_at dksX1_exchange_6 12 rfl rfl)
theorem dX1_exchange_152 : decode cX1_exchange 152 = .ok (.if_icmp .gt 6, 3) := dk_163 0 6 (dk_at dksX1_exchange_6 14 rfl rfl)
theorem dX1_exchange_155 : decode cX1_exchange 155 = .ok (.goto 23, 3) := dk_167 0 23 (dk_at dksX1_exchange_6 17 rfl rfl)
theorem dX1_exchange_158 : decode cX1_exchange 158 = .ok (.sipush 1000, 3) := dk_17 3 232 (dk_at dksX1_exchange_6 20 rfl rfl)
theorem dX1_exchange_161 : decode cX1_exchange 161 = .ok (.iload 6, 2) := dk_21 6 (dk_at dksX1_exchange_7 0 rfl rfl)
theorem dX1_exchange_163 : decode cX1_exchange 163 = .ok (.imul, 1) := dk_104 (dk_at dksX1_exchange_7 2 rfl rfl)
theorem dX1_exchange_164 : decode cX1_exchange 164 = .ok (.aload_n 0, 1) := dk_42 (dk_at dksX1_exchange_7 3 rfl rfl)
theorem dX1_exchange_165 : decode cX1_exchange 165 = .ok (.getfield 62, 3) := dk_180 0 62 (dk_at dksX1_exchange_7 4 rfl rfl)
theorem dX1_exchange_168 : decode cX1_exchange 168 = .ok (.iload 9, 2) := dk_21 9 (dk_at dksX1_exchange_7 7 rfl rfl)
theorem dX1_exchange_170 : decode cX1_exchange 170 = .ok (.iaload, 1) := dk_46 (dk_at dksX1_exchange_7 9 rfl rfl)
theorem dX1_exchange_171 : decode cX1_exchange 171 = .ok (.iadd, 1) := dk_96 (dk_at dksX1_exchange_7 10 rfl rfl)
theorem dX1_exchange_172 : decode cX1_exchange 172 = .ok (.istore 4, 2) := dk_54 4 (dk_at dksX1_exchange_7 11 rfl rfl)
theorem dX1_exchange_174 : decode cX1_exchange 174 = .ok (.iload 10, 2) := dk_21 10 (dk_at dksX1_exchange_7 13 rfl rfl)
theorem dX1_exchange_176 : decode cX1_exchange 176 = .ok (.istore 5, 2) := dk_54 5 (dk_at dksX1_exchange_7 15 rfl rfl)
theorem dX1_exchange_178 : decode cX1_exchange 178 = .ok (.iinc 9 1, 3) := dk_132 9 1 (dk_at dksX1_exchange_7 17 rfl rfl)
theorem dX1_exchange_181 : decode cX1_exchange 181 = .ok (.goto (-54), 3) := dk_167 255 202 (dk_at dksX1_exchange_7 20 rfl rfl)
theorem dX1_exchange_184 : decode cX1_exchange 184 = .ok (.aload_n 0, 1) := dk_42 (dk_at dksX1_exchange_7 23 rfl rfl)
theorem dX1_exchange_185 : decode cX1_exchange 185 = .ok (.getfield 39, 3) := dk_180 0 39 (dk_at dksX1_exchange_8 0 rfl rfl)
theorem dX1_exchange_188 : decode cX1_exchange 188 = .ok (.iload 7, 2) := dk_21 7 (dk_at dksX1_exchange_8 3 rfl rfl)
theorem dX1_exchange_190 : decode cX1_exchange 190 = .ok (.iconst 0, 1) := dk_3 (dk_at dksX1_exchange_8 5 rfl rfl)
theorem dX1_exchange_191 : decode cX1_exchange 191 = .ok (.iastore, 1) := dk_79 (dk_at dksX1_exchange_8 6 rfl rfl)
theorem dX1_exchange_192 : decode cX1_exchange 192 = .ok (.iinc 6 1, 3) := dk_132 6 1 (dk_at dksX1_exchange_8 7 rfl rfl)
theorem dX1_exchange_195 : decode cX1_exchange 195 = .ok (.goto (-151), 3) := dk_167 255 105 (dk_at dksX1_exchange_8 10 rfl rfl)
theorem dX1_exchange_198 : decode cX1_exchange 198 = .ok (.aload_n 0, 1) := dk_42 (dk_at dksX1_exchange_8 13 rfl rfl)
theorem dX1_exchange_199 : decode cX1_exchange 199 = .ok (.iconst 0, 1) := dk_3 (dk_at dksX1_exchange_8 14 rfl rfl)
theorem dX1_exchange_200 : decode cX1_exchange 200 = .ok (.invokevirtual 347, 3) := dk_182 1 91 (dk_at dksX1_exchange_8 15 rfl rfl)
theorem dX1_exchange_203 : decode cX1_exchange 203 = .ok (.iload_n 2, 1) := dk_28 (dk_at dksX1_exchange_8 18 rfl rfl)
theorem dX1_exchange_204 : decode cX1_exchange 204 = .ok (.ifCond .ne 8, 3) := dk_154 0 8 (dk_at dksX1_exchange_8 19 rfl rfl)
theorem dX1_exchange_207 : decode cX1_exchange 207 = .ok (.iload 4, 2) := dk_21 4 (dk_at dksX1_exchange_8 22 rfl rfl)
theorem dX1_exchange_209 : decode cX1_exchange 209 = .ok (.goto 5, 3) := dk_167 0 5 (dk_at dksX1_exchange_9 0 rfl rfl)
theorem dX1_exchange_212 : decode cX1_exchange 212 = .ok (.iload 5, 2) := dk_21 5 (dk_at dksX1_exchange_9 3 rfl rfl)
theorem dX1_exchange_214 : decode cX1_exchange 214 = .ok (.ireturn, 1) := dk_172 (dk_at dksX1_exchange_9 5 rfl rfl)
abbrev cX1_round : ByteArray := prog_1_method_52_code
def yX1_round : MethodName := ⟨RX1, "round", "(II)I"⟩
def dkwX1_round_11 : List UInt8 := [2, 172]
abbrev dktX1_round_11 : List UInt8 := dkwX1_round_11 ++ []
def dkwX1_round_10 : List UInt8 := [184, 1, 27, 54, 4, 132, 5, 1, 167, 255, 193, 21, 4, 19, 1, 21, 162, 0, 8, 21, 4, 167, 0, 4]
abbrev dktX1_round_10 : List UInt8 := dkwX1_round_10 ++ dktX1_round_11
def dkwX1_round_9 : List UInt8 := [27, 160, 0, 26, 21, 4, 42, 180, 0, 66, 16, 48, 4, 29, 120, 4, 100, 104, 21, 5, 96, 46]
abbrev dktX1_round_9 : List UInt8 := dkwX1_round_9 ++ dktX1_round_10
def dkwX1_round_8 : List UInt8 := [162, 0, 57, 42, 180, 0, 12, 21, 5, 182, 0, 150, 153, 0, 39, 42, 180, 0, 12, 21, 5, 182, 1, 18]
abbrev dktX1_round_8 : List UInt8 := dkwX1_round_8 ++ dktX1_round_9
def dkwX1_round_7 : List UInt8 := [132, 4, 1, 167, 255, 238, 19, 1, 21, 54, 4, 3, 54, 5, 21, 5, 42, 180, 0, 12, 182, 1, 15]
abbrev dktX1_round_7 : List UInt8 := dkwX1_round_7 ++ dktX1_round_8
def dkwX1_round_6 : List UInt8 := [132, 4, 1, 167, 255, 168, 3, 54, 4, 21, 4, 4, 29, 120, 162, 0, 16, 42, 21, 4, 28, 182, 1, 104]
abbrev dktX1_round_6 : List UInt8 := dkwX1_round_6 ++ dktX1_round_7
def dkwX1_round_5 : List UInt8 := [3, 21, 4, 182, 1, 101, 104, 21, 4, 96, 46, 42, 180, 0, 12, 21, 4, 182, 1, 22, 184, 1, 27, 79]
abbrev dktX1_round_5 : List UInt8 := dkwX1_round_5 ++ dktX1_round_6
def dkwX1_round_4 : List UInt8 := [42, 180, 0, 66, 16, 48, 42, 3, 21, 4, 182, 1, 101, 104, 21, 4, 96, 42, 180, 0, 66, 16, 48, 42]
abbrev dktX1_round_4 : List UInt8 := dkwX1_round_4 ++ dktX1_round_5
def dkwX1_round_3 : List UInt8 := [180, 0, 12, 21, 4, 182, 0, 150, 153, 0, 64, 42, 180, 0, 12, 21, 4, 182, 1, 24, 27, 160, 0, 51]
abbrev dktX1_round_3 : List UInt8 := dkwX1_round_3 ++ dktX1_round_4
def dkwX1_round_2 : List UInt8 := [132, 4, 1, 167, 255, 234, 3, 54, 4, 21, 4, 42, 180, 0, 12, 182, 1, 15, 162, 0, 82, 42]
abbrev dktX1_round_2 : List UInt8 := dkwX1_round_2 ++ dktX1_round_3
def dkwX1_round_1 : List UInt8 := [172, 3, 54, 4, 21, 4, 16, 48, 29, 120, 162, 0, 19, 42, 180, 0, 66, 21, 4, 19, 1, 21, 79]
abbrev dktX1_round_1 : List UInt8 := dkwX1_round_1 ++ dktX1_round_2
def dkwX1_round_0 : List UInt8 := [42, 27, 182, 1, 38, 42, 28, 182, 0, 254, 184, 0, 164, 42, 27, 182, 1, 98, 62, 29, 154, 0, 5, 3]
abbrev dktX1_round_0 : List UInt8 := dkwX1_round_0 ++ dktX1_round_1
theorem dksX1_round_0 : cX1_round.data.toList.drop 0 = dktX1_round_0 := by decide +kernel
theorem dksX1_round_1 : cX1_round.data.toList.drop 24 = dktX1_round_1 := dk_seg dksX1_round_0 24 rfl rfl
theorem dksX1_round_2 : cX1_round.data.toList.drop 47 = dktX1_round_2 := dk_seg dksX1_round_1 23 rfl rfl
theorem dksX1_round_3 : cX1_round.data.toList.drop 69 = dktX1_round_3 := dk_seg dksX1_round_2 22 rfl rfl
theorem dksX1_round_4 : cX1_round.data.toList.drop 93 = dktX1_round_4 := dk_seg dksX1_round_3 24 rfl rfl
theorem dksX1_round_5 : cX1_round.data.toList.drop 117 = dktX1_round_5 := dk_seg dksX1_round_4 24 rfl rfl
theorem dksX1_round_6 : cX1_round.data.toList.drop 141 = dktX1_round_6 := dk_seg dksX1_round_5 24 rfl rfl
theorem dksX1_round_7 : cX1_round.data.toList.drop 165 = dktX1_round_7 := dk_seg dksX1_round_6 24 rfl rfl
theorem dksX1_round_8 : cX1_round.data.toList.drop 188 = dktX1_round_8 := dk_seg dksX1_round_7 23 rfl rfl
theorem dksX1_round_9 : cX1_round.data.toList.drop 212 = dktX1_round_9 := dk_seg dksX1_round_8 24 rfl rfl
theorem dksX1_round_10 : cX1_round.data.toList.drop 234 = dktX1_round_10 := dk_seg dksX1_round_9 22 rfl rfl
theorem dksX1_round_11 : cX1_round.data.toList.drop 258 = dktX1_round_11 := dk_seg dksX1_round_10 24 rfl rfl
theorem dX1_round_0 : decode cX1_round 0 = .ok (.aload_n 0, 1) := dk_42 (dk_at dksX1_round_0 0 rfl rfl)
theorem dX1_round_1 : decode cX1_round 1 = .ok (.iload_n 1, 1) := dk_27 (dk_at dksX1_round_0 1 rfl rfl)
theorem dX1_round_2 : decode cX1_round 2 = .ok (.invokevirtual 294, 3) := dk_182 1 38 (dk_at dksX1_round_0 2 rfl rfl)
theorem dX1_round_5 : decode cX1_round 5 = .ok (.aload_n 0, 1) := dk_42 (dk_at dksX1_round_0 5 rfl rfl)
theorem dX1_round_6 : decode cX1_round 6 = .ok (.iload_n 2, 1) := dk_28 (dk_at dksX1_round_0 6 rfl rfl)
theorem dX1_round_7 : decode cX1_round 7 = .ok (.invokevirtual 254, 3) := dk_182 0 254 (dk_at dksX1_round_0 7 rfl rfl)
theorem dX1_round_10 : decode cX1_round 10 = .ok (.invokestatic 164, 3) := dk_184 0 164 (dk_at dksX1_round_0 10 rfl rfl)
theorem dX1_round_13 : decode cX1_round 13 = .ok (.aload_n 0, 1) := dk_42 (dk_at dksX1_round_0 13 rfl rfl)
theorem dX1_round_14 : decode cX1_round 14 = .ok (.iload_n 1, 1) := dk_27 (dk_at dksX1_round_0 14 rfl rfl)
theorem dX1_round_15 : decode cX1_round 15 = .ok (.invokevirtual 354, 3) := dk_182 1 98 (dk_at dksX1_round_0 15 rfl rfl)
theorem dX1_round_18 : decode cX1_round 18 = .ok (.istore_n 3, 1) := dk_62 (dk_at dksX1_round_0 18 rfl rfl)
theorem dX1_round_19 : decode cX1_round 19 = .ok (.iload_n 3, 1) := dk_29 (dk_at dksX1_round_0 19 rfl rfl)
theorem dX1_round_20 : decode cX1_round 20 = .ok (.ifCond .ne 5, 3) := dk_154 0 5 (dk_at dksX1_round_0 20 rfl rfl)
theorem dX1_round_23 : decode cX1_round 23 = .ok (.iconst 0, 1) := dk_3 (dk_at dksX1_round_0 23 rfl rfl)
theorem dX1_round_24 : decode cX1_round 24 = .ok (.ireturn, 1) := dk_172 (dk_at dksX1_round_1 0 rfl rfl)
theorem dX1_round_25 : decode cX1_round 25 = .ok (.iconst 0, 1) := dk_3 (dk_at dksX1_round_1 1 rfl rfl)
theorem dX1_round_26 : decode cX1_round 26 = .ok (.istore 4, 2) := dk_54 4 (dk_at dksX1_round_1 2 rfl rfl)
theorem dX1_round_28 : decode cX1_round 28 = .ok (.iload 4, 2) := dk_21 4 (dk_at dksX1_round_1 4 rfl rfl)
theorem dX1_round_30 : decode cX1_round 30 = .ok (.bipush 48, 2) := dk_16 48 (dk_at dksX1_round_1 6 rfl rfl)
theorem dX1_round_32 : decode cX1_round 32 = .ok (.iload_n 3, 1) := dk_29 (dk_at dksX1_round_1 8 rfl rfl)
theorem dX1_round_33 : decode cX1_round 33 = .ok (.ishl, 1) := dk_120 (dk_at dksX1_round_1 9 rfl rfl)
theorem dX1_round_34 : decode cX1_round 34 = .ok (.if_icmp .ge 19, 3) := dk_162 0 19 (dk_at dksX1_round_1 10 rfl rfl)
theorem dX1_round_37 : decode cX1_round 37 = .ok (.aload_n 0, 1) := dk_42 (dk_at dksX1_round_1 13 rfl rfl)
theorem dX1_round_38 : decode cX1_round 38 = .ok (.getfield 66, 3) := dk_180 0 66 (dk_at dksX1_round_1 14 rfl rfl)
theorem dX1_round_41 : decode cX1_round 41 = .ok (.iload 4, 2) := dk_21 4 (dk_at dksX1_round_1 17 rfl rfl)
theorem dX1_round_43 : decode cX1_round 43 = .ok (.ldc_w 277, 3) := dk_19 1 21 (dk_at dksX1_round_1 19 rfl rfl)
theorem dX1_round_46 : decode cX1_round 46 = .ok (.iastore, 1) := dk_79 (dk_at dksX1_round_1 22 rfl rfl)
theorem dX1_round_47 : decode cX1_round 47 = .ok (.iinc 4 1, 3) := dk_132 4 1 (dk_at dksX1_round_2 0 rfl rfl)
theorem dX1_round_50 : decode cX1_round 50 = .ok (.goto (-22), 3) := dk_167 255 234 (dk_at dksX1_round_2 3 rfl rfl)
theorem dX1_round_53 : decode cX1_round 53 = .ok (.iconst 0, 1) := dk_3 (dk_at dksX1_round_2 6 rfl rfl)
theorem dX1_round_54 : decode cX1_round 54 = .ok (.istore 4, 2) := dk_54 4 (dk_at dksX1_round_2 7 rfl rfl)
theorem dX1_round_56 : decode cX1_round 56 = .ok (.iload 4, 2) := dk_21 4 (dk_at dksX1_round_2 9 rfl rfl)
theorem dX1_round_58 : decode cX1_round 58 = .ok (.aload_n 0, 1) := dk_42 (dk_at dksX1_round_2 11 rfl rfl)
theorem dX1_round_59 : decode cX1_round 59 = .ok (.getfield 12, 3) := dk_180 0 12 (dk_at dksX1_round_2 12 rfl rfl)
theorem dX1_round_62 : decode cX1_round 62 = .ok (.invokevirtual 271, 3) := dk_182 1 15 (dk_at dksX1_round_2 15 rfl rfl)
theorem dX1_round_65 : decode cX1_round 65 = .ok (.if_icmp .ge 82, 3) := dk_162 0 82 (dk_at dksX1_round_2 18 rfl rfl)
theorem dX1_round_68 : decode cX1_round 68 = .ok (.aload_n 0, 1) := dk_42 (dk_at dksX1_round_2 21 rfl rfl)
theorem dX1_round_69 : decode cX1_round 69 = .ok (.getfield 12, 3) := dk_180 0 12 (dk_at dksX1_round_3 0 rfl rfl)
theorem dX1_round_72 : decode cX1_round 72 = .ok (.iload 4, 2) := dk_21 4 (dk_at dksX1_round_3 3 rfl rfl)
theorem dX1_round_74 : decode cX1_round 74 = .ok (.invokevirtual 150, 3) := dk_182 0 150 (dk_at dksX1_round_3 5 rfl rfl)
theorem dX1_round_77 : decode cX1_round 77 = .ok (.ifCond .eq 64, 3) := dk_153 0 64 (dk_at dksX1_round_3 8 rfl rfl)
theorem dX1_round_80 : decode cX1_round 80 = .ok (.aload_n 0, 1) := dk_42 (dk_at dksX1_round_3 11 rfl rfl)
theorem dX1_round_81 : decode cX1_round 81 = .ok (.getfield 12, 3) := dk_180 0 12 (dk_at dksX1_round_3 12 rfl rfl)
theorem dX1_round_84 : decode cX1_round 84 = .ok (.iload 4, 2) := dk_21 4 (dk_at dksX1_round_3 15 rfl rfl)
theorem dX1_round_86 : decode cX1_round 86 = .ok (.invokevirtual 280, 3) := dk_182 1 24 (dk_at dksX1_round_3 17 rfl rfl)
theorem dX1_round_89 : decode cX1_round 89 = .ok (.iload_n 1, 1) := dk_27 (dk_at dksX1_round_3 20 rfl rfl)
theorem dX1_round_90 : decode cX1_round 90 = .ok (.if_icmp .ne 51, 3) := dk_160 0 51 (dk_at dksX1_round_3 21 rfl rfl)
theorem dX1_round_93 : decode cX1_round 93 = .ok (.aload_n 0, 1) := dk_42 (dk_at dksX1_round_4 0 rfl rfl)
theorem dX1_round_94 : decode cX1_round 94 = .ok (.getfield 66, 3) := dk_180 0 66 (dk_at dksX1_round_4 1 rfl rfl)
theorem dX1_round_97 : decode cX1_round 97 = .ok (.bipush 48, 2) := dk_16 48 (dk_at dksX1_round_4 4 rfl rfl)
theorem dX1_round_99 : decode cX1_round 99 = .ok (.aload_n 0, 1) := dk_42 (dk_at dksX1_round_4 6 rfl rfl)
theorem dX1_round_100 : decode cX1_round 100 = .ok (.iconst 0, 1) := dk_3 (dk_at dksX1_round_4 7 rfl rfl)
theorem dX1_round_101 : decode cX1_round 101 = .ok (.iload 4, 2) := dk_21 4 (dk_at dksX1_round_4 8 rfl rfl)
theorem dX1_round_103 : decode cX1_round 103 = .ok (.invokevirtual 357, 3) := dk_182 1 101 (dk_at dksX1_round_4 10 rfl rfl)
theorem dX1_round_106 : decode cX1_round 106 = .ok (.imul, 1) := dk_104 (dk_at dksX1_round_4 13 rfl rfl)
theorem dX1_round_107 : decode cX1_round 107 = .ok (.iload 4, 2) := dk_21 4 (dk_at dksX1_round_4 14 rfl rfl)
theorem dX1_round_109 : decode cX1_round 109 = .ok (.iadd, 1) := dk_96 (dk_at dksX1_round_4 16 rfl rfl)
theorem dX1_round_110 : decode cX1_round 110 = .ok (.aload_n 0, 1) := dk_42 (dk_at dksX1_round_4 17 rfl rfl)
theorem dX1_round_111 : decode cX1_round 111 = .ok (.getfield 66, 3) := dk_180 0 66 (dk_at dksX1_round_4 18 rfl rfl)
theorem dX1_round_114 : decode cX1_round 114 = .ok (.bipush 48, 2) := dk_16 48 (dk_at dksX1_round_4 21 rfl rfl)
theorem dX1_round_116 : decode cX1_round 116 = .ok (.aload_n 0, 1) := dk_42 (dk_at dksX1_round_4 23 rfl rfl)
theorem dX1_round_117 : decode cX1_round 117 = .ok (.iconst 0, 1) := dk_3 (dk_at dksX1_round_5 0 rfl rfl)
theorem dX1_round_118 : decode cX1_round 118 = .ok (.iload 4, 2) := dk_21 4 (dk_at dksX1_round_5 1 rfl rfl)
theorem dX1_round_120 : decode cX1_round 120 = .ok (.invokevirtual 357, 3) := dk_182 1 101 (dk_at dksX1_round_5 3 rfl rfl)
theorem dX1_round_123 : decode cX1_round 123 = .ok (.imul, 1) := dk_104 (dk_at dksX1_round_5 6 rfl rfl)
theorem dX1_round_124 : decode cX1_round 124 = .ok (.iload 4, 2) := dk_21 4 (dk_at dksX1_round_5 7 rfl rfl)
theorem dX1_round_126 : decode cX1_round 126 = .ok (.iadd, 1) := dk_96 (dk_at dksX1_round_5 9 rfl rfl)
theorem dX1_round_127 : decode cX1_round 127 = .ok (.iaload, 1) := dk_46 (dk_at dksX1_round_5 10 rfl rfl)
theorem dX1_round_128 : decode cX1_round 128 = .ok (.aload_n 0, 1) := dk_42 (dk_at dksX1_round_5 11 rfl rfl)
theorem dX1_round_129 : decode cX1_round 129 = .ok (.getfield 12, 3) := dk_180 0 12 (dk_at dksX1_round_5 12 rfl rfl)
theorem dX1_round_132 : decode cX1_round 132 = .ok (.iload 4, 2) := dk_21 4 (dk_at dksX1_round_5 15 rfl rfl)
theorem dX1_round_134 : decode cX1_round 134 = .ok (.invokevirtual 278, 3) := dk_182 1 22 (dk_at dksX1_round_5 17 rfl rfl)
theorem dX1_round_137 : decode cX1_round 137 = .ok (.invokestatic 283, 3) := dk_184 1 27 (dk_at dksX1_round_5 20 rfl rfl)
theorem dX1_round_140 : decode cX1_round 140 = .ok (.iastore, 1) := dk_79 (dk_at dksX1_round_5 23 rfl rfl)
theorem dX1_round_141 : decode cX1_round 141 = .ok (.iinc 4 1, 3) := dk_132 4 1 (dk_at dksX1_round_6 0 rfl rfl)
theorem dX1_round_144 : decode cX1_round 144 = .ok (.goto (-88), 3) := dk_167 255 168 (dk_at dksX1_round_6 3 rfl rfl)
theorem dX1_round_147 : decode cX1_round 147 = .ok (.iconst 0, 1) := dk_3 (dk_at dksX1_round_6 6 rfl rfl)
theorem dX1_round_148 : decode cX1_round 148 = .ok (.istore 4, 2) := dk_54 4 (dk_at dksX1_round_6 7 rfl rfl)
theorem dX1_round_150 : decode cX1_round 150 = .ok (.iload 4, 2) := dk_21 4 (dk_at dksX1_round_6 9 rfl rfl)
theorem dX1_round_152 : decode cX1_round 152 = .ok (.iconst 1, 1) := dk_4 (dk_at dksX1_round_6 11 rfl rfl)
theorem dX1_round_153 : decode cX1_round 153 = .ok (.iload_n 3, 1) := dk_29 (dk_at dksX1_round_6 12 rfl rfl)
theorem dX1_round_154 : decode cX1_round 154 = .ok (.ishl, 1) := dk_120 (dk_at dksX1_round_6 13 rfl rfl)
theorem dX1_round_155 : decode cX1_round 155 = .ok (.if_icmp .ge 16, 3) := dk_162 0 16 (dk_at dksX1_round_6 14 rfl rfl)
theorem dX1_round_158 : decode cX1_round 158 = .ok (.aload_n 0, 1) := dk_42 (dk_at dksX1_round_6 17 rfl rfl)
theorem dX1_round_159 : decode cX1_round 159 = .ok (.iload 4, 2) := dk_21 4 (dk_at dksX1_round_6 18 rfl rfl)
theorem dX1_round_161 : decode cX1_round 161 = .ok (.iload_n 2, 1) := dk_28 (dk_at dksX1_round_6 20 rfl rfl)
theorem dX1_round_162 : decode cX1_round 162 = .ok (.invokevirtual 360, 3) := dk_182 1 104 (dk_at dksX1_round_6 21 rfl rfl)
theorem dX1_round_165 : decode cX1_round 165 = .ok (.iinc 4 1, 3) := dk_132 4 1 (dk_at dksX1_round_7 0 rfl rfl)
theorem dX1_round_168 : decode cX1_round 168 = .ok (.goto (-18), 3) := dk_167 255 238 (dk_at dksX1_round_7 3 rfl rfl)
theorem dX1_round_171 : decode cX1_round 171 = .ok (.ldc_w 277, 3) := dk_19 1 21 (dk_at dksX1_round_7 6 rfl rfl)
theorem dX1_round_174 : decode cX1_round 174 = .ok (.istore 4, 2) := dk_54 4 (dk_at dksX1_round_7 9 rfl rfl)
theorem dX1_round_176 : decode cX1_round 176 = .ok (.iconst 0, 1) := dk_3 (dk_at dksX1_round_7 11 rfl rfl)
theorem dX1_round_177 : decode cX1_round 177 = .ok (.istore 5, 2) := dk_54 5 (dk_at dksX1_round_7 12 rfl rfl)
theorem dX1_round_179 : decode cX1_round 179 = .ok (.iload 5, 2) := dk_21 5 (dk_at dksX1_round_7 14 rfl rfl)
theorem dX1_round_181 : decode cX1_round 181 = .ok (.aload_n 0, 1) := dk_42 (dk_at dksX1_round_7 16 rfl rfl)
theorem dX1_round_182 : decode cX1_round 182 = .ok (.getfield 12, 3) := dk_180 0 12 (dk_at dksX1_round_7 17 rfl rfl)
theorem dX1_round_185 : decode cX1_round 185 = .ok (.invokevirtual 271, 3) := dk_182 1 15 (dk_at dksX1_round_7 20 rfl rfl)
theorem dX1_round_188 : decode cX1_round 188 = .ok (.if_icmp .ge 57, 3) := dk_162 0 57 (dk_at dksX1_round_8 0 rfl rfl)
theorem dX1_round_191 : decode cX1_round 191 = .ok (.aload_n 0, 1) := dk_42 (dk_at dksX1_round_8 3 rfl rfl)
theorem dX1_round_192 : decode cX1_round 192 = .ok (.getfield 12, 3) := dk_180 0 12 (dk_at dksX1_round_8 4 rfl rfl)
theorem dX1_round_195 : decode cX1_round 195 = .ok (.iload 5, 2) := dk_21 5 (dk_at dksX1_round_8 7 rfl rfl)
theorem dX1_round_197 : decode cX1_round 197 = .ok (.invokevirtual 150, 3) := dk_182 0 150 (dk_at dksX1_round_8 9 rfl rfl)
theorem dX1_round_200 : decode cX1_round 200 = .ok (.ifCond .eq 39, 3) := dk_153 0 39 (dk_at dksX1_round_8 12 rfl rfl)
theorem dX1_round_203 : decode cX1_round 203 = .ok (.aload_n 0, 1) := dk_42 (dk_at dksX1_round_8 15 rfl rfl)
theorem dX1_round_204 : decode cX1_round 204 = .ok (.getfield 12, 3) := dk_180 0 12 (dk_at dksX1_round_8 16 rfl rfl)
theorem dX1_round_207 : decode cX1_round 207 = .ok (.iload 5, 2) := dk_21 5 (dk_at dksX1_round_8 19 rfl rfl)
theorem dX1_round_209 : decode cX1_round 209 = .ok (.invokevirtual 274, 3) := dk_182 1 18 (dk_at dksX1_round_8 21 rfl rfl)
theorem dX1_round_212 : decode cX1_round 212 = .ok (.iload_n 1, 1) := dk_27 (dk_at dksX1_round_9 0 rfl rfl)
theorem dX1_round_213 : decode cX1_round 213 = .ok (.if_icmp .ne 26, 3) := dk_160 0 26 (dk_at dksX1_round_9 1 rfl rfl)
theorem dX1_round_216 : decode cX1_round 216 = .ok (.iload 4, 2) := dk_21 4 (dk_at dksX1_round_9 4 rfl rfl)
theorem dX1_round_218 : decode cX1_round 218 = .ok (.aload_n 0, 1) := dk_42 (dk_at dksX1_round_9 6 rfl rfl)
theorem dX1_round_219 : decode cX1_round 219 = .ok (.getfield 66, 3) := dk_180 0 66 (dk_at dksX1_round_9 7 rfl rfl)
theorem dX1_round_222 : decode cX1_round 222 = .ok (.bipush 48, 2) := dk_16 48 (dk_at dksX1_round_9 10 rfl rfl)
theorem dX1_round_224 : decode cX1_round 224 = .ok (.iconst 1, 1) := dk_4 (dk_at dksX1_round_9 12 rfl rfl)
theorem dX1_round_225 : decode cX1_round 225 = .ok (.iload_n 3, 1) := dk_29 (dk_at dksX1_round_9 13 rfl rfl)
theorem dX1_round_226 : decode cX1_round 226 = .ok (.ishl, 1) := dk_120 (dk_at dksX1_round_9 14 rfl rfl)
theorem dX1_round_227 : decode cX1_round 227 = .ok (.iconst 1, 1) := dk_4 (dk_at dksX1_round_9 15 rfl rfl)
theorem dX1_round_228 : decode cX1_round 228 = .ok (.isub, 1) := dk_100 (dk_at dksX1_round_9 16 rfl rfl)
theorem dX1_round_229 : decode cX1_round 229 = .ok (.imul, 1) := dk_104 (dk_at dksX1_round_9 17 rfl rfl)
theorem dX1_round_230 : decode cX1_round 230 = .ok (.iload 5, 2) := dk_21 5 (dk_at dksX1_round_9 18 rfl rfl)
theorem dX1_round_232 : decode cX1_round 232 = .ok (.iadd, 1) := dk_96 (dk_at dksX1_round_9 20 rfl rfl)
theorem dX1_round_233 : decode cX1_round 233 = .ok (.iaload, 1) := dk_46 (dk_at dksX1_round_9 21 rfl rfl)
theorem dX1_round_234 : decode cX1_round 234 = .ok (.invokestatic 283, 3) := dk_184 1 27 (dk_at dksX1_round_10 0 rfl rfl)
theorem dX1_round_237 : decode cX1_round 237 = .ok (.istore 4, 2) := dk_54 4 (dk_at dksX1_round_10 3 rfl rfl)
theorem dX1_round_239 : decode cX1_round 239 = .ok (.iinc 5 1, 3) := dk_132 5 1 (dk_at dksX1_round_10 5 rfl rfl)
theorem dX1_round_242 : decode cX1_round 242 = .ok (.goto (-63), 3) := dk_167 255 193 (dk_at dksX1_round_10 8 rfl rfl)
theorem dX1_round_245 : decode cX1_round 245 = .ok (.iload 4, 2) := dk_21 4 (dk_at dksX1_round_10 11 rfl rfl)
theorem dX1_round_247 : decode cX1_round 247 = .ok (.ldc_w 277, 3) := dk_19 1 21 (dk_at dksX1_round_10 13 rfl rfl)
theorem dX1_round_250 : decode cX1_round 250 = .ok (.if_icmp .ge 8, 3) := dk_162 0 8 (dk_at dksX1_round_10 16 rfl rfl)
theorem dX1_round_253 : decode cX1_round 253 = .ok (.iload 4, 2) := dk_21 4 (dk_at dksX1_round_10 19 rfl rfl)
theorem dX1_round_255 : decode cX1_round 255 = .ok (.goto 4, 3) := dk_167 0 4 (dk_at dksX1_round_10 21 rfl rfl)
theorem dX1_round_258 : decode cX1_round 258 = .ok (.iconst (-1), 1) := dk_2 (dk_at dksX1_round_11 0 rfl rfl)
theorem dX1_round_259 : decode cX1_round 259 = .ok (.ireturn, 1) := dk_172 (dk_at dksX1_round_11 1 rfl rfl)
abbrev cX1_findBoxes : ByteArray := prog_1_method_50_code
def yX1_findBoxes : MethodName := ⟨RX1, "findBoxes", "(I)I"⟩
def dkwX1_findBoxes_2 : List UInt8 := [132, 2, 1, 132, 3, 1, 167, 255, 208, 28, 172]
abbrev dktX1_findBoxes_2 : List UInt8 := dkwX1_findBoxes_2 ++ []
def dkwX1_findBoxes_1 : List UInt8 := [180, 0, 12, 180, 0, 205, 29, 122, 4, 126, 154, 0, 6, 167, 0, 13, 42, 180, 0, 69, 29, 28, 79]
abbrev dktX1_findBoxes_1 : List UInt8 := dkwX1_findBoxes_1 ++ dktX1_findBoxes_2
def dkwX1_findBoxes_0 : List UInt8 := [3, 61, 3, 62, 29, 16, 16, 162, 0, 48, 42, 180, 0, 69, 29, 2, 79, 29, 27, 159, 0, 30, 42]
abbrev dktX1_findBoxes_0 : List UInt8 := dkwX1_findBoxes_0 ++ dktX1_findBoxes_1
theorem dksX1_findBoxes_0 : cX1_findBoxes.data.toList.drop 0 = dktX1_findBoxes_0 := by decide +kernel
theorem dksX1_findBoxes_1 : cX1_findBoxes.data.toList.drop 23 = dktX1_findBoxes_1 := dk_seg dksX1_findBoxes_0 23 rfl rfl
theorem dksX1_findBoxes_2 : cX1_findBoxes.data.toList.drop 46 = dktX1_findBoxes_2 := dk_seg dksX1_findBoxes_1 23 rfl rfl
theorem dX1_findBoxes_0 : decode cX1_findBoxes 0 = .ok (.iconst 0, 1) := dk_3 (dk_at dksX1_findBoxes_0 0 rfl rfl)
theorem dX1_findBoxes_1 : decode cX1_findBoxes 1 = .ok (.istore_n 2, 1) := dk_61 (dk_at dksX1_findBoxes_0 1 rfl rfl)
theorem dX1_findBoxes_2 : decode cX1_findBoxes 2 = .ok (.iconst 0, 1) := dk_3 (dk_at dksX1_findBoxes_0 2 rfl rfl)
theorem dX1_findBoxes_3 : decode cX1_findBoxes 3 = .ok (.istore_n 3, 1) := dk_62 (dk_at dksX1_findBoxes_0 3 rfl rfl)
theorem dX1_findBoxes_4 : decode cX1_findBoxes 4 = .ok (.iload_n 3, 1) := dk_29 (dk_at dksX1_findBoxes_0 4 rfl rfl)
theorem dX1_findBoxes_5 : decode cX1_findBoxes 5 = .ok (.bipush 16, 2) := dk_16 16 (dk_at dksX1_findBoxes_0 5 rfl rfl)
theorem dX1_findBoxes_7 : decode cX1_findBoxes 7 = .ok (.if_icmp .ge 48, 3) := dk_162 0 48 (dk_at dksX1_findBoxes_0 7 rfl rfl)
theorem dX1_findBoxes_10 : decode cX1_findBoxes 10 = .ok (.aload_n 0, 1) := dk_42 (dk_at dksX1_findBoxes_0 10 rfl rfl)
theorem dX1_findBoxes_11 : decode cX1_findBoxes 11 = .ok (.getfield 69, 3) := dk_180 0 69 (dk_at dksX1_findBoxes_0 11 rfl rfl)
theorem dX1_findBoxes_14 : decode cX1_findBoxes 14 = .ok (.iload_n 3, 1) := dk_29 (dk_at dksX1_findBoxes_0 14 rfl rfl)
theorem dX1_findBoxes_15 : decode cX1_findBoxes 15 = .ok (.iconst (-1), 1) := dk_2 (dk_at dksX1_findBoxes_0 15 rfl rfl)
theorem dX1_findBoxes_16 : decode cX1_findBoxes 16 = .ok (.iastore, 1) := dk_79 (dk_at dksX1_findBoxes_0 16 rfl rfl)
theorem dX1_findBoxes_17 : decode cX1_findBoxes 17 = .ok (.iload_n 3, 1) := dk_29 (dk_at dksX1_findBoxes_0 17 rfl rfl)
theorem dX1_findBoxes_18 : decode cX1_findBoxes 18 = .ok (.iload_n 1, 1) := dk_27 (dk_at dksX1_findBoxes_0 18 rfl rfl)
theorem dX1_findBoxes_19 : decode cX1_findBoxes 19 = .ok (.if_icmp .eq 30, 3) := dk_159 0 30 (dk_at dksX1_findBoxes_0 19 rfl rfl)
theorem dX1_findBoxes_22 : decode cX1_findBoxes 22 = .ok (.aload_n 0, 1) := dk_42 (dk_at dksX1_findBoxes_0 22 rfl rfl)
theorem dX1_findBoxes_23 : decode cX1_findBoxes 23 = .ok (.getfield 12, 3) := dk_180 0 12 (dk_at dksX1_findBoxes_1 0 rfl rfl)
theorem dX1_findBoxes_26 : decode cX1_findBoxes 26 = .ok (.getfield 205, 3) := dk_180 0 205 (dk_at dksX1_findBoxes_1 3 rfl rfl)
theorem dX1_findBoxes_29 : decode cX1_findBoxes 29 = .ok (.iload_n 3, 1) := dk_29 (dk_at dksX1_findBoxes_1 6 rfl rfl)
theorem dX1_findBoxes_30 : decode cX1_findBoxes 30 = .ok (.ishr, 1) := dk_122 (dk_at dksX1_findBoxes_1 7 rfl rfl)
theorem dX1_findBoxes_31 : decode cX1_findBoxes 31 = .ok (.iconst 1, 1) := dk_4 (dk_at dksX1_findBoxes_1 8 rfl rfl)
theorem dX1_findBoxes_32 : decode cX1_findBoxes 32 = .ok (.iand, 1) := dk_126 (dk_at dksX1_findBoxes_1 9 rfl rfl)
theorem dX1_findBoxes_33 : decode cX1_findBoxes 33 = .ok (.ifCond .ne 6, 3) := dk_154 0 6 (dk_at dksX1_findBoxes_1 10 rfl rfl)
theorem dX1_findBoxes_36 : decode cX1_findBoxes 36 = .ok (.goto 13, 3) := dk_167 0 13 (dk_at dksX1_findBoxes_1 13 rfl rfl)
theorem dX1_findBoxes_39 : decode cX1_findBoxes 39 = .ok (.aload_n 0, 1) := dk_42 (dk_at dksX1_findBoxes_1 16 rfl rfl)
theorem dX1_findBoxes_40 : decode cX1_findBoxes 40 = .ok (.getfield 69, 3) := dk_180 0 69 (dk_at dksX1_findBoxes_1 17 rfl rfl)
theorem dX1_findBoxes_43 : decode cX1_findBoxes 43 = .ok (.iload_n 3, 1) := dk_29 (dk_at dksX1_findBoxes_1 20 rfl rfl)
theorem dX1_findBoxes_44 : decode cX1_findBoxes 44 = .ok (.iload_n 2, 1) := dk_28 (dk_at dksX1_findBoxes_1 21 rfl rfl)
theorem dX1_findBoxes_45 : decode cX1_findBoxes 45 = .ok (.iastore, 1) := dk_79 (dk_at dksX1_findBoxes_1 22 rfl rfl)
theorem dX1_findBoxes_46 : decode cX1_findBoxes 46 = .ok (.iinc 2 1, 3) := dk_132 2 1 (dk_at dksX1_findBoxes_2 0 rfl rfl)
theorem dX1_findBoxes_49 : decode cX1_findBoxes 49 = .ok (.iinc 3 1, 3) := dk_132 3 1 (dk_at dksX1_findBoxes_2 3 rfl rfl)
theorem dX1_findBoxes_52 : decode cX1_findBoxes 52 = .ok (.goto (-48), 3) := dk_167 255 208 (dk_at dksX1_findBoxes_2 6 rfl rfl)
theorem dX1_findBoxes_55 : decode cX1_findBoxes 55 = .ok (.iload_n 2, 1) := dk_28 (dk_at dksX1_findBoxes_2 9 rfl rfl)
theorem dX1_findBoxes_56 : decode cX1_findBoxes 56 = .ok (.ireturn, 1) := dk_172 (dk_at dksX1_findBoxes_2 10 rfl rfl)
abbrev cX1_with : ByteArray := prog_1_method_51_code
def yX1_with : MethodName := ⟨RX1, "with", "(II)I"⟩
def dkwX1_with_1 : List UInt8 := [4, 29, 120, 128, 172]
abbrev dktX1_with_1 : List UInt8 := dkwX1_with_1 ++ []
def dkwX1_with_0 : List UInt8 := [42, 180, 0, 69, 42, 180, 0, 12, 28, 182, 1, 18, 46, 62, 29, 2, 160, 0, 7, 27, 167, 0, 8, 27]
abbrev dktX1_with_0 : List UInt8 := dkwX1_with_0 ++ dktX1_with_1
theorem dksX1_with_0 : cX1_with.data.toList.drop 0 = dktX1_with_0 := by decide +kernel
theorem dksX1_with_1 : cX1_with.data.toList.drop 24 = dktX1_with_1 := dk_seg dksX1_with_0 24 rfl rfl
theorem dX1_with_0 : decode cX1_with 0 = .ok (.aload_n 0, 1) := dk_42 (dk_at dksX1_with_0 0 rfl rfl)
theorem dX1_with_1 : decode cX1_with 1 = .ok (.getfield 69, 3) := dk_180 0 69 (dk_at dksX1_with_0 1 rfl rfl)
theorem dX1_with_4 : decode cX1_with 4 = .ok (.aload_n 0, 1) := dk_42 (dk_at dksX1_with_0 4 rfl rfl)
theorem dX1_with_5 : decode cX1_with 5 = .ok (.getfield 12, 3) := dk_180 0 12 (dk_at dksX1_with_0 5 rfl rfl)
theorem dX1_with_8 : decode cX1_with 8 = .ok (.iload_n 2, 1) := dk_28 (dk_at dksX1_with_0 8 rfl rfl)
theorem dX1_with_9 : decode cX1_with 9 = .ok (.invokevirtual 274, 3) := dk_182 1 18 (dk_at dksX1_with_0 9 rfl rfl)
theorem dX1_with_12 : decode cX1_with 12 = .ok (.iaload, 1) := dk_46 (dk_at dksX1_with_0 12 rfl rfl)
theorem dX1_with_13 : decode cX1_with 13 = .ok (.istore_n 3, 1) := dk_62 (dk_at dksX1_with_0 13 rfl rfl)
theorem dX1_with_14 : decode cX1_with 14 = .ok (.iload_n 3, 1) := dk_29 (dk_at dksX1_with_0 14 rfl rfl)
theorem dX1_with_15 : decode cX1_with 15 = .ok (.iconst (-1), 1) := dk_2 (dk_at dksX1_with_0 15 rfl rfl)
theorem dX1_with_16 : decode cX1_with 16 = .ok (.if_icmp .ne 7, 3) := dk_160 0 7 (dk_at dksX1_with_0 16 rfl rfl)
theorem dX1_with_19 : decode cX1_with 19 = .ok (.iload_n 1, 1) := dk_27 (dk_at dksX1_with_0 19 rfl rfl)
theorem dX1_with_20 : decode cX1_with 20 = .ok (.goto 8, 3) := dk_167 0 8 (dk_at dksX1_with_0 20 rfl rfl)
theorem dX1_with_23 : decode cX1_with 23 = .ok (.iload_n 1, 1) := dk_27 (dk_at dksX1_with_0 23 rfl rfl)
theorem dX1_with_24 : decode cX1_with 24 = .ok (.iconst 1, 1) := dk_4 (dk_at dksX1_with_1 0 rfl rfl)
theorem dX1_with_25 : decode cX1_with 25 = .ok (.iload_n 3, 1) := dk_29 (dk_at dksX1_with_1 1 rfl rfl)
theorem dX1_with_26 : decode cX1_with 26 = .ok (.ishl, 1) := dk_120 (dk_at dksX1_with_1 2 rfl rfl)
theorem dX1_with_27 : decode cX1_with 27 = .ok (.ior, 1) := dk_128 (dk_at dksX1_with_1 3 rfl rfl)
theorem dX1_with_28 : decode cX1_with 28 = .ok (.ireturn, 1) := dk_172 (dk_at dksX1_with_1 4 rfl rfl)
abbrev cX1_goesRound : ByteArray := prog_1_method_53_code
def yX1_goesRound : MethodName := ⟨RX1, "goesRound", "(II)V"⟩
def dkwX1_goesRound_7 : List UInt8 := [177]
abbrev dktX1_goesRound_7 : List UInt8 := dkwX1_goesRound_7 ++ []
def dkwX1_goesRound_6 : List UInt8 := [21, 6, 182, 1, 22, 96, 79, 4, 62, 132, 6, 1, 167, 255, 153, 132, 4, 1, 167, 255, 107, 167, 255, 95]
abbrev dktX1_goesRound_6 : List UInt8 := dkwX1_goesRound_6 ++ dktX1_goesRound_7
def dkwX1_goesRound_5 : List UInt8 := [180, 0, 66, 21, 7, 46, 161, 0, 6, 167, 0, 24, 42, 180, 0, 66, 21, 7, 21, 5, 42, 180, 0, 12]
abbrev dktX1_goesRound_5 : List UInt8 := dkwX1_goesRound_5 ++ dktX1_goesRound_6
def dkwX1_goesRound_4 : List UInt8 := [182, 1, 101, 104, 21, 6, 96, 54, 7, 21, 5, 42, 180, 0, 12, 21, 6, 182, 1, 22, 96, 42]
abbrev dktX1_goesRound_4 : List UInt8 := dkwX1_goesRound_4 ++ dktX1_goesRound_5
def dkwX1_goesRound_3 : List UInt8 := [153, 0, 79, 42, 21, 4, 21, 6, 28, 182, 1, 1, 154, 0, 6, 167, 0, 64, 16, 48, 42, 27, 21, 6]
abbrev dktX1_goesRound_3 : List UInt8 := dkwX1_goesRound_3 ++ dktX1_goesRound_4
def dkwX1_goesRound_2 : List UInt8 := [3, 54, 6, 21, 6, 42, 180, 0, 12, 182, 1, 15, 162, 0, 97, 42, 180, 0, 12, 21, 6, 182, 0, 150]
abbrev dktX1_goesRound_2 : List UInt8 := dkwX1_goesRound_2 ++ dktX1_goesRound_3
def dkwX1_goesRound_1 : List UInt8 := [180, 0, 66, 16, 48, 27, 104, 21, 4, 96, 46, 54, 5, 21, 5, 19, 1, 21, 160, 0, 6, 167, 0, 112]
abbrev dktX1_goesRound_1 : List UInt8 := dkwX1_goesRound_1 ++ dktX1_goesRound_2
def dkwX1_goesRound_0 : List UInt8 := [4, 62, 29, 153, 0, 163, 3, 62, 3, 54, 4, 21, 4, 42, 180, 0, 12, 182, 1, 15, 162, 0, 143, 42]
abbrev dktX1_goesRound_0 : List UInt8 := dkwX1_goesRound_0 ++ dktX1_goesRound_1
theorem dksX1_goesRound_0 : cX1_goesRound.data.toList.drop 0 = dktX1_goesRound_0 := by decide +kernel
theorem dksX1_goesRound_1 : cX1_goesRound.data.toList.drop 24 = dktX1_goesRound_1 := dk_seg dksX1_goesRound_0 24 rfl rfl
theorem dksX1_goesRound_2 : cX1_goesRound.data.toList.drop 48 = dktX1_goesRound_2 := dk_seg dksX1_goesRound_1 24 rfl rfl
theorem dksX1_goesRound_3 : cX1_goesRound.data.toList.drop 72 = dktX1_goesRound_3 := dk_seg dksX1_goesRound_2 24 rfl rfl
theorem dksX1_goesRound_4 : cX1_goesRound.data.toList.drop 96 = dktX1_goesRound_4 := dk_seg dksX1_goesRound_3 24 rfl rfl
theorem dksX1_goesRound_5 : cX1_goesRound.data.toList.drop 118 = dktX1_goesRound_5 := dk_seg dksX1_goesRound_4 22 rfl rfl
theorem dksX1_goesRound_6 : cX1_goesRound.data.toList.drop 142 = dktX1_goesRound_6 := dk_seg dksX1_goesRound_5 24 rfl rfl
theorem dksX1_goesRound_7 : cX1_goesRound.data.toList.drop 166 = dktX1_goesRound_7 := dk_seg dksX1_goesRound_6 24 rfl rfl
theorem dX1_goesRound_0 : decode cX1_goesRound 0 = .ok (.iconst 1, 1) := dk_4 (dk_at dksX1_goesRound_0 0 rfl rfl)
theorem dX1_goesRound_1 : decode cX1_goesRound 1 = .ok (.istore_n 3, 1) := dk_62 (dk_at dksX1_goesRound_0 1 rfl rfl)
theorem dX1_goesRound_2 : decode cX1_goesRound 2 = .ok (.iload_n 3, 1) := dk_29 (dk_at dksX1_goesRound_0 2 rfl rfl)
theorem dX1_goesRound_3 : decode cX1_goesRound 3 = .ok (.ifCond .eq 163, 3) := dk_153 0 163 (dk_at dksX1_goesRound_0 3 rfl rfl)
theorem dX1_goesRound_6 : decode cX1_goesRound 6 = .ok (.iconst 0, 1) := dk_3 (dk_at dksX1_goesRound_0 6 rfl rfl)
theorem dX1_goesRound_7 : decode cX1_goesRound 7 = .ok (.istore_n 3, 1) := dk_62 (dk_at dksX1_goesRound_0 7 rfl rfl)
theorem dX1_goesRound_8 : decode cX1_goesRound 8 = .ok (.iconst 0, 1) := dk_3 (dk_at dksX1_goesRound_0 8 rfl rfl)
theorem dX1_goesRound_9 : decode cX1_goesRound 9 = .ok (.istore 4, 2) := dk_54 4 (dk_at dksX1_goesRound_0 9 rfl rfl)
theorem dX1_goesRound_11 : decode cX1_goesRound 11 = .ok (.iload 4, 2) := dk_21 4 (dk_at dksX1_goesRound_0 11 rfl rfl)
theorem dX1_goesRound_13 : decode cX1_goesRound 13 = .ok (.aload_n 0, 1) := dk_42 (dk_at dksX1_goesRound_0 13 rfl rfl)
theorem dX1_goesRound_14 : decode cX1_goesRound 14 = .ok (.getfield 12, 3) := dk_180 0 12 (dk_at dksX1_goesRound_0 14 rfl rfl)
theorem dX1_goesRound_17 : decode cX1_goesRound 17 = .ok (.invokevirtual 271, 3) := dk_182 1 15 (dk_at dksX1_goesRound_0 17 rfl rfl)
theorem dX1_goesRound_20 : decode cX1_goesRound 20 = .ok (.if_icmp .ge 143, 3) := dk_162 0 143 (dk_at dksX1_goesRound_0 20 rfl rfl)
theorem dX1_goesRound_23 : decode cX1_goesRound 23 = .ok (.aload_n 0, 1) := dk_42 (dk_at dksX1_goesRound_0 23 rfl rfl)
theorem dX1_goesRound_24 : decode cX1_goesRound 24 = .ok (.getfield 66, 3) := dk_180 0 66 (dk_at dksX1_goesRound_1 0 rfl rfl)
theorem dX1_goesRound_27 : decode cX1_goesRound 27 = .ok (.bipush 48, 2) := dk_16 48 (dk_at dksX1_goesRound_1 3 rfl rfl)
theorem dX1_goesRound_29 : decode cX1_goesRound 29 = .ok (.iload_n 1, 1) := dk_27 (dk_at dksX1_goesRound_1 5 rfl rfl)
theorem dX1_goesRound_30 : decode cX1_goesRound 30 = .ok (.imul, 1) := dk_104 (dk_at dksX1_goesRound_1 6 rfl rfl)
theorem dX1_goesRound_31 : decode cX1_goesRound 31 = .ok (.iload 4, 2) := dk_21 4 (dk_at dksX1_goesRound_1 7 rfl rfl)
theorem dX1_goesRound_33 : decode cX1_goesRound 33 = .ok (.iadd, 1) := dk_96 (dk_at dksX1_goesRound_1 9 rfl rfl)
theorem dX1_goesRound_34 : decode cX1_goesRound 34 = .ok (.iaload, 1) := dk_46 (dk_at dksX1_goesRound_1 10 rfl rfl)
theorem dX1_goesRound_35 : decode cX1_goesRound 35 = .ok (.istore 5, 2) := dk_54 5 (dk_at dksX1_goesRound_1 11 rfl rfl)
theorem dX1_goesRound_37 : decode cX1_goesRound 37 = .ok (.iload 5, 2) := dk_21 5 (dk_at dksX1_goesRound_1 13 rfl rfl)
theorem dX1_goesRound_39 : decode cX1_goesRound 39 = .ok (.ldc_w 277, 3) := dk_19 1 21 (dk_at dksX1_goesRound_1 15 rfl rfl)
theorem dX1_goesRound_42 : decode cX1_goesRound 42 = .ok (.if_icmp .ne 6, 3) := dk_160 0 6 (dk_at dksX1_goesRound_1 18 rfl rfl)
theorem dX1_goesRound_45 : decode cX1_goesRound 45 = .ok (.goto 112, 3) := dk_167 0 112 (dk_at dksX1_goesRound_1 21 rfl rfl)
theorem dX1_goesRound_48 : decode cX1_goesRound 48 = .ok (.iconst 0, 1) := dk_3 (dk_at dksX1_goesRound_2 0 rfl rfl)
theorem dX1_goesRound_49 : decode cX1_goesRound 49 = .ok (.istore 6, 2) := dk_54 6 (dk_at dksX1_goesRound_2 1 rfl rfl)
theorem dX1_goesRound_51 : decode cX1_goesRound 51 = .ok (.iload 6, 2) := dk_21 6 (dk_at dksX1_goesRound_2 3 rfl rfl)
theorem dX1_goesRound_53 : decode cX1_goesRound 53 = .ok (.aload_n 0, 1) := dk_42 (dk_at dksX1_goesRound_2 5 rfl rfl)
theorem dX1_goesRound_54 : decode cX1_goesRound 54 = .ok (.getfield 12, 3) := dk_180 0 12 (dk_at dksX1_goesRound_2 6 rfl rfl)
theorem dX1_goesRound_57 : decode cX1_goesRound 57 = .ok (.invokevirtual 271, 3) := dk_182 1 15 (dk_at dksX1_goesRound_2 9 rfl rfl)
theorem dX1_goesRound_60 : decode cX1_goesRound 60 = .ok (.if_icmp .ge 97, 3) := dk_162 0 97 (dk_at dksX1_goesRound_2 12 rfl rfl)
theorem dX1_goesRound_63 : decode cX1_goesRound 63 = .ok (.aload_n 0, 1) := dk_42 (dk_at dksX1_goesRound_2 15 rfl rfl)
theorem dX1_goesRound_64 : decode cX1_goesRound 64 = .ok (.getfield 12, 3) := dk_180 0 12 (dk_at dksX1_goesRound_2 16 rfl rfl)
theorem dX1_goesRound_67 : decode cX1_goesRound 67 = .ok (.iload 6, 2) := dk_21 6 (dk_at dksX1_goesRound_2 19 rfl rfl)
theorem dX1_goesRound_69 : decode cX1_goesRound 69 = .ok (.invokevirtual 150, 3) := dk_182 0 150 (dk_at dksX1_goesRound_2 21 rfl rfl)
theorem dX1_goesRound_72 : decode cX1_goesRound 72 = .ok (.ifCond .eq 79, 3) := dk_153 0 79 (dk_at dksX1_goesRound_3 0 rfl rfl)
theorem dX1_goesRound_75 : decode cX1_goesRound 75 = .ok (.aload_n 0, 1) := dk_42 (dk_at dksX1_goesRound_3 3 rfl rfl)
theorem dX1_goesRound_76 : decode cX1_goesRound 76 = .ok (.iload 4, 2) := dk_21 4 (dk_at dksX1_goesRound_3 4 rfl rfl)
theorem dX1_goesRound_78 : decode cX1_goesRound 78 = .ok (.iload 6, 2) := dk_21 6 (dk_at dksX1_goesRound_3 6 rfl rfl)
theorem dX1_goesRound_80 : decode cX1_goesRound 80 = .ok (.iload_n 2, 1) := dk_28 (dk_at dksX1_goesRound_3 8 rfl rfl)
theorem dX1_goesRound_81 : decode cX1_goesRound 81 = .ok (.invokevirtual 257, 3) := dk_182 1 1 (dk_at dksX1_goesRound_3 9 rfl rfl)
theorem dX1_goesRound_84 : decode cX1_goesRound 84 = .ok (.ifCond .ne 6, 3) := dk_154 0 6 (dk_at dksX1_goesRound_3 12 rfl rfl)
theorem dX1_goesRound_87 : decode cX1_goesRound 87 = .ok (.goto 64, 3) := dk_167 0 64 (dk_at dksX1_goesRound_3 15 rfl rfl)
theorem dX1_goesRound_90 : decode cX1_goesRound 90 = .ok (.bipush 48, 2) := dk_16 48 (dk_at dksX1_goesRound_3 18 rfl rfl)
theorem dX1_goesRound_92 : decode cX1_goesRound 92 = .ok (.aload_n 0, 1) := dk_42 (dk_at dksX1_goesRound_3 20 rfl rfl)
theorem dX1_goesRound_93 : decode cX1_goesRound 93 = .ok (.iload_n 1, 1) := dk_27 (dk_at dksX1_goesRound_3 21 rfl rfl)
theorem dX1_goesRound_94 : decode cX1_goesRound 94 = .ok (.iload 6, 2) := dk_21 6 (dk_at dksX1_goesRound_3 22 rfl rfl)
theorem dX1_goesRound_96 : decode cX1_goesRound 96 = .ok (.invokevirtual 357, 3) := dk_182 1 101 (dk_at dksX1_goesRound_4 0 rfl rfl)
theorem dX1_goesRound_99 : decode cX1_goesRound 99 = .ok (.imul, 1) := dk_104 (dk_at dksX1_goesRound_4 3 rfl rfl)
theorem dX1_goesRound_100 : decode cX1_goesRound 100 = .ok (.iload 6, 2) := dk_21 6 (dk_at dksX1_goesRound_4 4 rfl rfl)
theorem dX1_goesRound_102 : decode cX1_goesRound 102 = .ok (.iadd, 1) := dk_96 (dk_at dksX1_goesRound_4 6 rfl rfl)
theorem dX1_goesRound_103 : decode cX1_goesRound 103 = .ok (.istore 7, 2) := dk_54 7 (dk_at dksX1_goesRound_4 7 rfl rfl)
theorem dX1_goesRound_105 : decode cX1_goesRound 105 = .ok (.iload 5, 2) := dk_21 5 (dk_at dksX1_goesRound_4 9 rfl rfl)
theorem dX1_goesRound_107 : decode cX1_goesRound 107 = .ok (.aload_n 0, 1) := dk_42 (dk_at dksX1_goesRound_4 11 rfl rfl)
theorem dX1_goesRound_108 : decode cX1_goesRound 108 = .ok (.getfield 12, 3) := dk_180 0 12 (dk_at dksX1_goesRound_4 12 rfl rfl)
theorem dX1_goesRound_111 : decode cX1_goesRound 111 = .ok (.iload 6, 2) := dk_21 6 (dk_at dksX1_goesRound_4 15 rfl rfl)
theorem dX1_goesRound_113 : decode cX1_goesRound 113 = .ok (.invokevirtual 278, 3) := dk_182 1 22 (dk_at dksX1_goesRound_4 17 rfl rfl)
theorem dX1_goesRound_116 : decode cX1_goesRound 116 = .ok (.iadd, 1) := dk_96 (dk_at dksX1_goesRound_4 20 rfl rfl)
theorem dX1_goesRound_117 : decode cX1_goesRound 117 = .ok (.aload_n 0, 1) := dk_42 (dk_at dksX1_goesRound_4 21 rfl rfl)
theorem dX1_goesRound_118 : decode cX1_goesRound 118 = .ok (.getfield 66, 3) := dk_180 0 66 (dk_at dksX1_goesRound_5 0 rfl rfl)
theorem dX1_goesRound_121 : decode cX1_goesRound 121 = .ok (.iload 7, 2) := dk_21 7 (dk_at dksX1_goesRound_5 3 rfl rfl)
theorem dX1_goesRound_123 : decode cX1_goesRound 123 = .ok (.iaload, 1) := dk_46 (dk_at dksX1_goesRound_5 5 rfl rfl)
theorem dX1_goesRound_124 : decode cX1_goesRound 124 = .ok (.if_icmp .lt 6, 3) := dk_161 0 6 (dk_at dksX1_goesRound_5 6 rfl rfl)
theorem dX1_goesRound_127 : decode cX1_goesRound 127 = .ok (.goto 24, 3) := dk_167 0 24 (dk_at dksX1_goesRound_5 9 rfl rfl)
theorem dX1_goesRound_130 : decode cX1_goesRound 130 = .ok (.aload_n 0, 1) := dk_42 (dk_at dksX1_goesRound_5 12 rfl rfl)
theorem dX1_goesRound_131 : decode cX1_goesRound 131 = .ok (.getfield 66, 3) := dk_180 0 66 (dk_at dksX1_goesRound_5 13 rfl rfl)
theorem dX1_goesRound_134 : decode cX1_goesRound 134 = .ok (.iload 7, 2) := dk_21 7 (dk_at dksX1_goesRound_5 16 rfl rfl)
theorem dX1_goesRound_136 : decode cX1_goesRound 136 = .ok (.iload 5, 2) := dk_21 5 (dk_at dksX1_goesRound_5 18 rfl rfl)
theorem dX1_goesRound_138 : decode cX1_goesRound 138 = .ok (.aload_n 0, 1) := dk_42 (dk_at dksX1_goesRound_5 20 rfl rfl)
theorem dX1_goesRound_139 : decode cX1_goesRound 139 = .ok (.getfield 12, 3) := dk_180 0 12 (dk_at dksX1_goesRound_5 21 rfl rfl)
theorem dX1_goesRound_142 : decode cX1_goesRound 142 = .ok (.iload 6, 2) := dk_21 6 (dk_at dksX1_goesRound_6 0 rfl rfl)
theorem dX1_goesRound_144 : decode cX1_goesRound 144 = .ok (.invokevirtual 278, 3) := dk_182 1 22 (dk_at dksX1_goesRound_6 2 rfl rfl)
theorem dX1_goesRound_147 : decode cX1_goesRound 147 = .ok (.iadd, 1) := dk_96 (dk_at dksX1_goesRound_6 5 rfl rfl)
theorem dX1_goesRound_148 : decode cX1_goesRound 148 = .ok (.iastore, 1) := dk_79 (dk_at dksX1_goesRound_6 6 rfl rfl)
theorem dX1_goesRound_149 : decode cX1_goesRound 149 = .ok (.iconst 1, 1) := dk_4 (dk_at dksX1_goesRound_6 7 rfl rfl)
theorem dX1_goesRound_150 : decode cX1_goesRound 150 = .ok (.istore_n 3, 1) := dk_62 (dk_at dksX1_goesRound_6 8 rfl rfl)
theorem dX1_goesRound_151 : decode cX1_goesRound 151 = .ok (.iinc 6 1, 3) := dk_132 6 1 (dk_at dksX1_goesRound_6 9 rfl rfl)
theorem dX1_goesRound_154 : decode cX1_goesRound 154 = .ok (.goto (-103), 3) := dk_167 255 153 (dk_at dksX1_goesRound_6 12 rfl rfl)
theorem dX1_goesRound_157 : decode cX1_goesRound 157 = .ok (.iinc 4 1, 3) := dk_132 4 1 (dk_at dksX1_goesRound_6 15 rfl rfl)
theorem dX1_goesRound_160 : decode cX1_goesRound 160 = .ok (.goto (-149), 3) := dk_167 255 107 (dk_at dksX1_goesRound_6 18 rfl rfl)
theorem dX1_goesRound_163 : decode cX1_goesRound 163 = .ok (.goto (-161), 3) := dk_167 255 95 (dk_at dksX1_goesRound_6 21 rfl rfl)
theorem dX1_goesRound_166 : decode cX1_goesRound 166 = .ok (.return_, 1) := dk_177 (dk_at dksX1_goesRound_7 0 rfl rfl)
abbrev cX1_bound : ByteArray := prog_1_method_54_code
def yX1_bound : MethodName := ⟨RX1, "bound", "(II)I"⟩
def dkwX1_bound_13 : List UInt8 := [180, 0, 78, 4, 29, 120, 4, 100, 46, 167, 0, 4, 2, 172]
abbrev dktX1_bound_13 : List UInt8 := dkwX1_bound_13 ++ []
def dkwX1_bound_12 : List UInt8 := [132, 4, 1, 167, 255, 141, 42, 180, 0, 78, 4, 29, 120, 4, 100, 46, 19, 1, 21, 162, 0, 16, 42]
abbrev dktX1_bound_12 : List UInt8 := dkwX1_bound_12 ++ dktX1_bound_13
def dkwX1_bound_11 : List UInt8 := [180, 0, 75, 29, 21, 5, 104, 21, 6, 96, 46, 96, 184, 1, 27, 79, 132, 6, 1, 167, 255, 177]
abbrev dktX1_bound_11 : List UInt8 := dkwX1_bound_11 ++ dktX1_bound_12
def dkwX1_bound_10 : List UInt8 := [180, 0, 78, 21, 4, 46, 21, 7, 154, 0, 7, 3, 167, 0, 10, 42, 180, 0, 78, 21, 7, 46, 42]
abbrev dktX1_bound_10 : List UInt8 := dkwX1_bound_10 ++ dktX1_bound_11
def dkwX1_bound_9 : List UInt8 := [154, 0, 6, 167, 0, 60, 21, 4, 4, 21, 6, 120, 2, 130, 126, 54, 7, 42, 180, 0, 78, 21, 4, 42]
abbrev dktX1_bound_9 : List UInt8 := dkwX1_bound_9 ++ dktX1_bound_10
def dkwX1_bound_8 : List UInt8 := [21, 4, 19, 1, 21, 79, 3, 54, 6, 21, 6, 29, 162, 0, 79, 21, 4, 21, 6, 122, 4, 126]
abbrev dktX1_bound_8 : List UInt8 := dkwX1_bound_8 ++ dktX1_bound_9
def dkwX1_bound_7 : List UInt8 := [4, 54, 4, 21, 4, 4, 29, 120, 162, 0, 113, 21, 4, 184, 0, 208, 4, 100, 54, 5, 42, 180, 0, 78]
abbrev dktX1_bound_7 : List UInt8 := dkwX1_bound_7 ++ dktX1_bound_8
def dkwX1_bound_6 : List UInt8 := [160, 0, 9, 19, 1, 21, 167, 0, 5, 21, 6, 79, 132, 5, 1, 167, 255, 189, 132, 4, 1, 167, 255, 174]
abbrev dktX1_bound_6 : List UInt8 := dkwX1_bound_6 ++ dktX1_bound_7
def dkwX1_bound_5 : List UInt8 := [21, 5, 46, 28, 182, 1, 41, 54, 6, 42, 180, 0, 75, 29, 21, 4, 104, 21, 5, 96, 21, 6, 2]
abbrev dktX1_bound_5 : List UInt8 := dkwX1_bound_5 ++ dktX1_bound_6
def dkwX1_bound_4 : List UInt8 := [21, 4, 21, 5, 160, 0, 7, 2, 167, 0, 22, 42, 42, 180, 0, 72, 21, 4, 46, 42, 180, 0, 72]
abbrev dktX1_bound_4 : List UInt8 := dkwX1_bound_4 ++ dktX1_bound_5
def dkwX1_bound_3 : List UInt8 := [160, 0, 5, 3, 172, 3, 54, 4, 21, 4, 29, 162, 0, 82, 3, 54, 5, 21, 5, 29, 162, 0, 67]
abbrev dktX1_bound_3 : List UInt8 := dkwX1_bound_3 ++ dktX1_bound_4
def dkwX1_bound_2 : List UInt8 := [167, 0, 14, 42, 180, 0, 72, 29, 21, 4, 79, 132, 3, 1, 132, 4, 1, 167, 255, 209, 29, 4]
abbrev dktX1_bound_2 : List UInt8 := dkwX1_bound_2 ++ dktX1_bound_3
def dkwX1_bound_1 : List UInt8 := [162, 0, 44, 21, 4, 27, 159, 0, 21, 42, 180, 0, 12, 180, 0, 205, 21, 4, 122, 4, 126, 154, 0, 6]
abbrev dktX1_bound_1 : List UInt8 := dkwX1_bound_1 ++ dktX1_bound_2
def dkwX1_bound_0 : List UInt8 := [42, 27, 182, 1, 38, 42, 28, 182, 0, 254, 184, 0, 164, 3, 62, 3, 54, 4, 21, 4, 42, 182, 0, 133]
abbrev dktX1_bound_0 : List UInt8 := dkwX1_bound_0 ++ dktX1_bound_1
theorem dksX1_bound_0 : cX1_bound.data.toList.drop 0 = dktX1_bound_0 := by decide +kernel
theorem dksX1_bound_1 : cX1_bound.data.toList.drop 24 = dktX1_bound_1 := dk_seg dksX1_bound_0 24 rfl rfl
theorem dksX1_bound_2 : cX1_bound.data.toList.drop 48 = dktX1_bound_2 := dk_seg dksX1_bound_1 24 rfl rfl
theorem dksX1_bound_3 : cX1_bound.data.toList.drop 70 = dktX1_bound_3 := dk_seg dksX1_bound_2 22 rfl rfl
theorem dksX1_bound_4 : cX1_bound.data.toList.drop 93 = dktX1_bound_4 := dk_seg dksX1_bound_3 23 rfl rfl
theorem dksX1_bound_5 : cX1_bound.data.toList.drop 116 = dktX1_bound_5 := dk_seg dksX1_bound_4 23 rfl rfl
theorem dksX1_bound_6 : cX1_bound.data.toList.drop 139 = dktX1_bound_6 := dk_seg dksX1_bound_5 23 rfl rfl
theorem dksX1_bound_7 : cX1_bound.data.toList.drop 163 = dktX1_bound_7 := dk_seg dksX1_bound_6 24 rfl rfl
theorem dksX1_bound_8 : cX1_bound.data.toList.drop 187 = dktX1_bound_8 := dk_seg dksX1_bound_7 24 rfl rfl
theorem dksX1_bound_9 : cX1_bound.data.toList.drop 209 = dktX1_bound_9 := dk_seg dksX1_bound_8 22 rfl rfl
theorem dksX1_bound_10 : cX1_bound.data.toList.drop 233 = dktX1_bound_10 := dk_seg dksX1_bound_9 24 rfl rfl
theorem dksX1_bound_11 : cX1_bound.data.toList.drop 256 = dktX1_bound_11 := dk_seg dksX1_bound_10 23 rfl rfl
theorem dksX1_bound_12 : cX1_bound.data.toList.drop 278 = dktX1_bound_12 := dk_seg dksX1_bound_11 22 rfl rfl
theorem dksX1_bound_13 : cX1_bound.data.toList.drop 301 = dktX1_bound_13 := dk_seg dksX1_bound_12 23 rfl rfl
theorem dX1_bound_0 : decode cX1_bound 0 = .ok (.aload_n 0, 1) := dk_42 (dk_at dksX1_bound_0 0 rfl rfl)
theorem dX1_bound_1 : decode cX1_bound 1 = .ok (.iload_n 1, 1) := dk_27 (dk_at dksX1_bound_0 1 rfl rfl)
theorem dX1_bound_2 : decode cX1_bound 2 = .ok (.invokevirtual 294, 3) := dk_182 1 38 (dk_at dksX1_bound_0 2 rfl rfl)
theorem dX1_bound_5 : decode cX1_bound 5 = .ok (.aload_n 0, 1) := dk_42 (dk_at dksX1_bound_0 5 rfl rfl)
theorem dX1_bound_6 : decode cX1_bound 6 = .ok (.iload_n 2, 1) := dk_28 (dk_at dksX1_bound_0 6 rfl rfl)
theorem dX1_bound_7 : decode cX1_bound 7 = .ok (.invokevirtual 254, 3) := dk_182 0 254 (dk_at dksX1_bound_0 7 rfl rfl)
theorem dX1_bound_10 : decode cX1_bound 10 = .ok (.invokestatic 164, 3) := dk_184 0 164 (dk_at dksX1_bound_0 10 rfl rfl)
theorem dX1_bound_13 : decode cX1_bound 13 = .ok (.iconst 0, 1) := dk_3 (dk_at dksX1_bound_0 13 rfl rfl)
theorem dX1_bound_14 : decode cX1_bound 14 = .ok (.istore_n 3, 1) := dk_62 (dk_at dksX1_bound_0 14 rfl rfl)
theorem dX1_bound_15 : decode cX1_bound 15 = .ok (.iconst 0, 1) := dk_3 (dk_at dksX1_bound_0 15 rfl rfl)
theorem dX1_bound_16 : decode cX1_bound 16 = .ok (.istore 4, 2) := dk_54 4 (dk_at dksX1_bound_0 16 rfl rfl)
theorem dX1_bound_18 : decode cX1_bound 18 = .ok (.iload 4, 2) := dk_21 4 (dk_at dksX1_bound_0 18 rfl rfl)
theorem dX1_bound_20 : decode cX1_bound 20 = .ok (.aload_n 0, 1) := dk_42 (dk_at dksX1_bound_0 20 rfl rfl)
theorem dX1_bound_21 : decode cX1_bound 21 = .ok (.invokevirtual 133, 3) := dk_182 0 133 (dk_at dksX1_bound_0 21 rfl rfl)
theorem dX1_bound_24 : decode cX1_bound 24 = .ok (.if_icmp .ge 44, 3) := dk_162 0 44 (dk_at dksX1_bound_1 0 rfl rfl)
theorem dX1_bound_27 : decode cX1_bound 27 = .ok (.iload 4, 2) := dk_21 4 (dk_at dksX1_bound_1 3 rfl rfl)
theorem dX1_bound_29 : decode cX1_bound 29 = .ok (.iload_n 1, 1) := dk_27 (dk_at dksX1_bound_1 5 rfl rfl)
theorem dX1_bound_30 : decode cX1_bound 30 = .ok (.if_icmp .eq 21, 3) := dk_159 0 21 (dk_at dksX1_bound_1 6 rfl rfl)
theorem dX1_bound_33 : decode cX1_bound 33 = .ok (.aload_n 0, 1) := dk_42 (dk_at dksX1_bound_1 9 rfl rfl)
theorem dX1_bound_34 : decode cX1_bound 34 = .ok (.getfield 12, 3) := dk_180 0 12 (dk_at dksX1_bound_1 10 rfl rfl)
theorem dX1_bound_37 : decode cX1_bound 37 = .ok (.getfield 205, 3) := dk_180 0 205 (dk_at dksX1_bound_1 13 rfl rfl)
theorem dX1_bound_40 : decode cX1_bound 40 = .ok (.iload 4, 2) := dk_21 4 (dk_at dksX1_bound_1 16 rfl rfl)
theorem dX1_bound_42 : decode cX1_bound 42 = .ok (.ishr, 1) := dk_122 (dk_at dksX1_bound_1 18 rfl rfl)
theorem dX1_bound_43 : decode cX1_bound 43 = .ok (.iconst 1, 1) := dk_4 (dk_at dksX1_bound_1 19 rfl rfl)
theorem dX1_bound_44 : decode cX1_bound 44 = .ok (.iand, 1) := dk_126 (dk_at dksX1_bound_1 20 rfl rfl)
theorem dX1_bound_45 : decode cX1_bound 45 = .ok (.ifCond .ne 6, 3) := dk_154 0 6 (dk_at dksX1_bound_1 21 rfl rfl)
theorem dX1_bound_48 : decode cX1_bound 48 = .ok (.goto 14, 3) := dk_167 0 14 (dk_at dksX1_bound_2 0 rfl rfl)
theorem dX1_bound_51 : decode cX1_bound 51 = .ok (.aload_n 0, 1) := dk_42 (dk_at dksX1_bound_2 3 rfl rfl)
theorem dX1_bound_52 : decode cX1_bound 52 = .ok (.getfield 72, 3) := dk_180 0 72 (dk_at dksX1_bound_2 4 rfl rfl)
theorem dX1_bound_55 : decode cX1_bound 55 = .ok (.iload_n 3, 1) := dk_29 (dk_at dksX1_bound_2 7 rfl rfl)
theorem dX1_bound_56 : decode cX1_bound 56 = .ok (.iload 4, 2) := dk_21 4 (dk_at dksX1_bound_2 8 rfl rfl)
theorem dX1_bound_58 : decode cX1_bound 58 = .ok (.iastore, 1) := dk_79 (dk_at dksX1_bound_2 10 rfl rfl)
theorem dX1_bound_59 : decode cX1_bound 59 = .ok (.iinc 3 1, 3) := dk_132 3 1 (dk_at dksX1_bound_2 11 rfl rfl)
theorem dX1_bound_62 : decode cX1_bound 62 = .ok (.iinc 4 1, 3) := dk_132 4 1 (dk_at dksX1_bound_2 14 rfl rfl)
theorem dX1_bound_65 : decode cX1_bound 65 = .ok (.goto (-47), 3) := dk_167 255 209 (dk_at dksX1_bound_2 17 rfl rfl)
theorem dX1_bound_68 : decode cX1_bound 68 = .ok (.iload_n 3, 1) := dk_29 (dk_at dksX1_bound_2 20 rfl rfl)
theorem dX1_bound_69 : decode cX1_bound 69 = .ok (.iconst 1, 1) := dk_4 (dk_at dksX1_bound_2 21 rfl rfl)
theorem dX1_bound_70 : decode cX1_bound 70 = .ok (.if_icmp .ne 5, 3) := dk_160 0 5 (dk_at dksX1_bound_3 0 rfl rfl)
theorem dX1_bound_73 : decode cX1_bound 73 = .ok (.iconst 0, 1) := dk_3 (dk_at dksX1_bound_3 3 rfl rfl)
theorem dX1_bound_74 : decode cX1_bound 74 = .ok (.ireturn, 1) := dk_172 (dk_at dksX1_bound_3 4 rfl rfl)
theorem dX1_bound_75 : decode cX1_bound 75 = .ok (.iconst 0, 1) := dk_3 (dk_at dksX1_bound_3 5 rfl rfl)
theorem dX1_bound_76 : decode cX1_bound 76 = .ok (.istore 4, 2) := dk_54 4 (dk_at dksX1_bound_3 6 rfl rfl)
theorem dX1_bound_78 : decode cX1_bound 78 = .ok (.iload 4, 2) := dk_21 4 (dk_at dksX1_bound_3 8 rfl rfl)
theorem dX1_bound_80 : decode cX1_bound 80 = .ok (.iload_n 3, 1) := dk_29 (dk_at dksX1_bound_3 10 rfl rfl)
theorem dX1_bound_81 : decode cX1_bound 81 = .ok (.if_icmp .ge 82, 3) := dk_162 0 82 (dk_at dksX1_bound_3 11 rfl rfl)
theorem dX1_bound_84 : decode cX1_bound 84 = .ok (.iconst 0, 1) := dk_3 (dk_at dksX1_bound_3 14 rfl rfl)
theorem dX1_bound_85 : decode cX1_bound 85 = .ok (.istore 5, 2) := dk_54 5 (dk_at dksX1_bound_3 15 rfl rfl)
theorem dX1_bound_87 : decode cX1_bound 87 = .ok (.iload 5, 2) := dk_21 5 (dk_at dksX1_bound_3 17 rfl rfl)
theorem dX1_bound_89 : decode cX1_bound 89 = .ok (.iload_n 3, 1) := dk_29 (dk_at dksX1_bound_3 19 rfl rfl)
theorem dX1_bound_90 : decode cX1_bound 90 = .ok (.if_icmp .ge 67, 3) := dk_162 0 67 (dk_at dksX1_bound_3 20 rfl rfl)
theorem dX1_bound_93 : decode cX1_bound 93 = .ok (.iload 4, 2) := dk_21 4 (dk_at dksX1_bound_4 0 rfl rfl)
theorem dX1_bound_95 : decode cX1_bound 95 = .ok (.iload 5, 2) := dk_21 5 (dk_at dksX1_bound_4 2 rfl rfl)
theorem dX1_bound_97 : decode cX1_bound 97 = .ok (.if_icmp .ne 7, 3) := dk_160 0 7 (dk_at dksX1_bound_4 4 rfl rfl)
theorem dX1_bound_100 : decode cX1_bound 100 = .ok (.iconst (-1), 1) := dk_2 (dk_at dksX1_bound_4 7 rfl rfl)
theorem dX1_bound_101 : decode cX1_bound 101 = .ok (.goto 22, 3) := dk_167 0 22 (dk_at dksX1_bound_4 8 rfl rfl)
theorem dX1_bound_104 : decode cX1_bound 104 = .ok (.aload_n 0, 1) := dk_42 (dk_at dksX1_bound_4 11 rfl rfl)
theorem dX1_bound_105 : decode cX1_bound 105 = .ok (.aload_n 0, 1) := dk_42 (dk_at dksX1_bound_4 12 rfl rfl)
theorem dX1_bound_106 : decode cX1_bound 106 = .ok (.getfield 72, 3) := dk_180 0 72 (dk_at dksX1_bound_4 13 rfl rfl)
theorem dX1_bound_109 : decode cX1_bound 109 = .ok (.iload 4, 2) := dk_21 4 (dk_at dksX1_bound_4 16 rfl rfl)
theorem dX1_bound_111 : decode cX1_bound 111 = .ok (.iaload, 1) := dk_46 (dk_at dksX1_bound_4 18 rfl rfl)
theorem dX1_bound_112 : decode cX1_bound 112 = .ok (.aload_n 0, 1) := dk_42 (dk_at dksX1_bound_4 19 rfl rfl)
theorem dX1_bound_113 : decode cX1_bound 113 = .ok (.getfield 72, 3) := dk_180 0 72 (dk_at dksX1_bound_4 20 rfl rfl)
theorem dX1_bound_116 : decode cX1_bound 116 = .ok (.iload 5, 2) := dk_21 5 (dk_at dksX1_bound_5 0 rfl rfl)
theorem dX1_bound_118 : decode cX1_bound 118 = .ok (.iaload, 1) := dk_46 (dk_at dksX1_bound_5 2 rfl rfl)
theorem dX1_bound_119 : decode cX1_bound 119 = .ok (.iload_n 2, 1) := dk_28 (dk_at dksX1_bound_5 3 rfl rfl)
theorem dX1_bound_120 : decode cX1_bound 120 = .ok (.invokevirtual 297, 3) := dk_182 1 41 (dk_at dksX1_bound_5 4 rfl rfl)
theorem dX1_bound_123 : decode cX1_bound 123 = .ok (.istore 6, 2) := dk_54 6 (dk_at dksX1_bound_5 7 rfl rfl)
theorem dX1_bound_125 : decode cX1_bound 125 = .ok (.aload_n 0, 1) := dk_42 (dk_at dksX1_bound_5 9 rfl rfl)
theorem dX1_bound_126 : decode cX1_bound 126 = .ok (.getfield 75, 3) := dk_180 0 75 (dk_at dksX1_bound_5 10 rfl rfl)
theorem dX1_bound_129 : decode cX1_bound 129 = .ok (.iload_n 3, 1) := dk_29 (dk_at dksX1_bound_5 13 rfl rfl)
theorem dX1_bound_130 : decode cX1_bound 130 = .ok (.iload 4, 2) := dk_21 4 (dk_at dksX1_bound_5 14 rfl rfl)
theorem dX1_bound_132 : decode cX1_bound 132 = .ok (.imul, 1) := dk_104 (dk_at dksX1_bound_5 16 rfl rfl)
theorem dX1_bound_133 : decode cX1_bound 133 = .ok (.iload 5, 2) := dk_21 5 (dk_at dksX1_bound_5 17 rfl rfl)
theorem dX1_bound_135 : decode cX1_bound 135 = .ok (.iadd, 1) := dk_96 (dk_at dksX1_bound_5 19 rfl rfl)
theorem dX1_bound_136 : decode cX1_bound 136 = .ok (.iload 6, 2) := dk_21 6 (dk_at dksX1_bound_5 20 rfl rfl)
theorem dX1_bound_138 : decode cX1_bound 138 = .ok (.iconst (-1), 1) := dk_2 (dk_at dksX1_bound_5 22 rfl rfl)
theorem dX1_bound_139 : decode cX1_bound 139 = .ok (.if_icmp .ne 9, 3) := dk_160 0 9 (dk_at dksX1_bound_6 0 rfl rfl)
theorem dX1_bound_142 : decode cX1_bound 142 = .ok (.ldc_w 277, 3) := dk_19 1 21 (dk_at dksX1_bound_6 3 rfl rfl)
theorem dX1_bound_145 : decode cX1_bound 145 = .ok (.goto 5, 3) := dk_167 0 5 (dk_at dksX1_bound_6 6 rfl rfl)
theorem dX1_bound_148 : decode cX1_bound 148 = .ok (.iload 6, 2) := dk_21 6 (dk_at dksX1_bound_6 9 rfl rfl)
theorem dX1_bound_150 : decode cX1_bound 150 = .ok (.iastore, 1) := dk_79 (dk_at dksX1_bound_6 11 rfl rfl)
theorem dX1_bound_151 : decode cX1_bound 151 = .ok (.iinc 5 1, 3) := dk_132 5 1 (dk_at dksX1_bound_6 12 rfl rfl)
theorem dX1_bound_154 : decode cX1_bound 154 = .ok (.goto (-67), 3) := dk_167 255 189 (dk_at dksX1_bound_6 15 rfl rfl)
theorem dX1_bound_157 : decode cX1_bound 157 = .ok (.iinc 4 1, 3) := dk_132 4 1 (dk_at dksX1_bound_6 18 rfl rfl)
theorem dX1_bound_160 : decode cX1_bound 160 = .ok (.goto (-82), 3) := dk_167 255 174 (dk_at dksX1_bound_6 21 rfl rfl)
theorem dX1_bound_163 : decode cX1_bound 163 = .ok (.iconst 1, 1) := dk_4 (dk_at dksX1_bound_7 0 rfl rfl)
theorem dX1_bound_164 : decode cX1_bound 164 = .ok (.istore 4, 2) := dk_54 4 (dk_at dksX1_bound_7 1 rfl rfl)
theorem dX1_bound_166 : decode cX1_bound 166 = .ok (.iload 4, 2) := dk_21 4 (dk_at dksX1_bound_7 3 rfl rfl)
theorem dX1_bound_168 : decode cX1_bound 168 = .ok (.iconst 1, 1) := dk_4 (dk_at dksX1_bound_7 5 rfl rfl)
theorem dX1_bound_169 : decode cX1_bound 169 = .ok (.iload_n 3, 1) := dk_29 (dk_at dksX1_bound_7 6 rfl rfl)
theorem dX1_bound_170 : decode cX1_bound 170 = .ok (.ishl, 1) := dk_120 (dk_at dksX1_bound_7 7 rfl rfl)
theorem dX1_bound_171 : decode cX1_bound 171 = .ok (.if_icmp .ge 113, 3) := dk_162 0 113 (dk_at dksX1_bound_7 8 rfl rfl)
theorem dX1_bound_174 : decode cX1_bound 174 = .ok (.iload 4, 2) := dk_21 4 (dk_at dksX1_bound_7 11 rfl rfl)
theorem dX1_bound_176 : decode cX1_bound 176 = .ok (.invokestatic 208, 3) := dk_184 0 208 (dk_at dksX1_bound_7 13 rfl rfl)
theorem dX1_bound_179 : decode cX1_bound 179 = .ok (.iconst 1, 1) := dk_4 (dk_at dksX1_bound_7 16 rfl rfl)
theorem dX1_bound_180 : decode cX1_bound 180 = .ok (.isub, 1) := dk_100 (dk_at dksX1_bound_7 17 rfl rfl)
theorem dX1_bound_181 : decode cX1_bound 181 = .ok (.istore 5, 2) := dk_54 5 (dk_at dksX1_bound_7 18 rfl rfl)
theorem dX1_bound_183 : decode cX1_bound 183 = .ok (.aload_n 0, 1) := dk_42 (dk_at dksX1_bound_7 20 rfl rfl)
theorem dX1_bound_184 : decode cX1_bound 184 = .ok (.getfield 78, 3) := dk_180 0 78 (dk_at dksX1_bound_7 21 rfl rfl)
theorem dX1_bound_187 : decode cX1_bound 187 = .ok (.iload 4, 2) := dk_21 4 (dk_at dksX1_bound_8 0 rfl rfl)
theorem dX1_bound_189 : decode cX1_bound 189 = .ok (.ldc_w 277, 3) := dk_19 1 21 (dk_at dksX1_bound_8 2 rfl rfl)
theorem dX1_bound_192 : decode cX1_bound 192 = .ok (.iastore, 1) := dk_79 (dk_at dksX1_bound_8 5 rfl rfl)
theorem dX1_bound_193 : decode cX1_bound 193 = .ok (.iconst 0, 1) := dk_3 (dk_at dksX1_bound_8 6 rfl rfl)
theorem dX1_bound_194 : decode cX1_bound 194 = .ok (.istore 6, 2) := dk_54 6 (dk_at dksX1_bound_8 7 rfl rfl)
theorem dX1_bound_196 : decode cX1_bound 196 = .ok (.iload 6, 2) := dk_21 6 (dk_at dksX1_bound_8 9 rfl rfl)
theorem dX1_bound_198 : decode cX1_bound 198 = .ok (.iload_n 3, 1) := dk_29 (dk_at dksX1_bound_8 11 rfl rfl)
theorem dX1_bound_199 : decode cX1_bound 199 = .ok (.if_icmp .ge 79, 3) := dk_162 0 79 (dk_at dksX1_bound_8 12 rfl rfl)
theorem dX1_bound_202 : decode cX1_bound 202 = .ok (.iload 4, 2) := dk_21 4 (dk_at dksX1_bound_8 15 rfl rfl)
theorem dX1_bound_204 : decode cX1_bound 204 = .ok (.iload 6, 2) := dk_21 6 (dk_at dksX1_bound_8 17 rfl rfl)
theorem dX1_bound_206 : decode cX1_bound 206 = .ok (.ishr, 1) := dk_122 (dk_at dksX1_bound_8 19 rfl rfl)
theorem dX1_bound_207 : decode cX1_bound 207 = .ok (.iconst 1, 1) := dk_4 (dk_at dksX1_bound_8 20 rfl rfl)
theorem dX1_bound_208 : decode cX1_bound 208 = .ok (.iand, 1) := dk_126 (dk_at dksX1_bound_8 21 rfl rfl)
theorem dX1_bound_209 : decode cX1_bound 209 = .ok (.ifCond .ne 6, 3) := dk_154 0 6 (dk_at dksX1_bound_9 0 rfl rfl)
theorem dX1_bound_212 : decode cX1_bound 212 = .ok (.goto 60, 3) := dk_167 0 60 (dk_at dksX1_bound_9 3 rfl rfl)
theorem dX1_bound_215 : decode cX1_bound 215 = .ok (.iload 4, 2) := dk_21 4 (dk_at dksX1_bound_9 6 rfl rfl)
theorem dX1_bound_217 : decode cX1_bound 217 = .ok (.iconst 1, 1) := dk_4 (dk_at dksX1_bound_9 8 rfl rfl)
theorem dX1_bound_218 : decode cX1_bound 218 = .ok (.iload 6, 2) := dk_21 6 (dk_at dksX1_bound_9 9 rfl rfl)
theorem dX1_bound_220 : decode cX1_bound 220 = .ok (.ishl, 1) := dk_120 (dk_at dksX1_bound_9 11 rfl rfl)
theorem dX1_bound_221 : decode cX1_bound 221 = .ok (.iconst (-1), 1) := dk_2 (dk_at dksX1_bound_9 12 rfl rfl)
theorem dX1_bound_222 : decode cX1_bound 222 = .ok (.ixor, 1) := dk_130 (dk_at dksX1_bound_9 13 rfl rfl)
theorem dX1_bound_223 : decode cX1_bound 223 = .ok (.iand, 1) := dk_126 (dk_at dksX1_bound_9 14 rfl rfl)
theorem dX1_bound_224 : decode cX1_bound 224 = .ok (.istore 7, 2) := dk_54 7 (dk_at dksX1_bound_9 15 rfl rfl)
theorem dX1_bound_226 : decode cX1_bound 226 = .ok (.aload_n 0, 1) := dk_42 (dk_at dksX1_bound_9 17 rfl rfl)
theorem dX1_bound_227 : decode cX1_bound 227 = .ok (.getfield 78, 3) := dk_180 0 78 (dk_at dksX1_bound_9 18 rfl rfl)
theorem dX1_bound_230 : decode cX1_bound 230 = .ok (.iload 4, 2) := dk_21 4 (dk_at dksX1_bound_9 21 rfl rfl)
theorem dX1_bound_232 : decode cX1_bound 232 = .ok (.aload_n 0, 1) := dk_42 (dk_at dksX1_bound_9 23 rfl rfl)
theorem dX1_bound_233 : decode cX1_bound 233 = .ok (.getfield 78, 3) := dk_180 0 78 (dk_at dksX1_bound_10 0 rfl rfl)
theorem dX1_bound_236 : decode cX1_bound 236 = .ok (.iload 4, 2) := dk_21 4 (dk_at dksX1_bound_10 3 rfl rfl)
theorem dX1_bound_238 : decode cX1_bound 238 = .ok (.iaload, 1) := dk_46 (dk_at dksX1_bound_10 5 rfl rfl)
theorem dX1_bound_239 : decode cX1_bound 239 = .ok (.iload 7, 2) := dk_21 7 (dk_at dksX1_bound_10 6 rfl rfl)
theorem dX1_bound_241 : decode cX1_bound 241 = .ok (.ifCond .ne 7, 3) := dk_154 0 7 (dk_at dksX1_bound_10 8 rfl rfl)
theorem dX1_bound_244 : decode cX1_bound 244 = .ok (.iconst 0, 1) := dk_3 (dk_at dksX1_bound_10 11 rfl rfl)
theorem dX1_bound_245 : decode cX1_bound 245 = .ok (.goto 10, 3) := dk_167 0 10 (dk_at dksX1_bound_10 12 rfl rfl)
theorem dX1_bound_248 : decode cX1_bound 248 = .ok (.aload_n 0, 1) := dk_42 (dk_at dksX1_bound_10 15 rfl rfl)
theorem dX1_bound_249 : decode cX1_bound 249 = .ok (.getfield 78, 3) := dk_180 0 78 (dk_at dksX1_bound_10 16 rfl rfl)
theorem dX1_bound_252 : decode cX1_bound 252 = .ok (.iload 7, 2) := dk_21 7 (dk_at dksX1_bound_10 19 rfl rfl)
theorem dX1_bound_254 : decode cX1_bound 254 = .ok (.iaload, 1) := dk_46 (dk_at dksX1_bound_10 21 rfl rfl)
theorem dX1_bound_255 : decode cX1_bound 255 = .ok (.aload_n 0, 1) := dk_42 (dk_at dksX1_bound_10 22 rfl rfl)
theorem dX1_bound_256 : decode cX1_bound 256 = .ok (.getfield 75, 3) := dk_180 0 75 (dk_at dksX1_bound_11 0 rfl rfl)
theorem dX1_bound_259 : decode cX1_bound 259 = .ok (.iload_n 3, 1) := dk_29 (dk_at dksX1_bound_11 3 rfl rfl)
theorem dX1_bound_260 : decode cX1_bound 260 = .ok (.iload 5, 2) := dk_21 5 (dk_at dksX1_bound_11 4 rfl rfl)
theorem dX1_bound_262 : decode cX1_bound 262 = .ok (.imul, 1) := dk_104 (dk_at dksX1_bound_11 6 rfl rfl)
theorem dX1_bound_263 : decode cX1_bound 263 = .ok (.iload 6, 2) := dk_21 6 (dk_at dksX1_bound_11 7 rfl rfl)
theorem dX1_bound_265 : decode cX1_bound 265 = .ok (.iadd, 1) := dk_96 (dk_at dksX1_bound_11 9 rfl rfl)
theorem dX1_bound_266 : decode cX1_bound 266 = .ok (.iaload, 1) := dk_46 (dk_at dksX1_bound_11 10 rfl rfl)
theorem dX1_bound_267 : decode cX1_bound 267 = .ok (.iadd, 1) := dk_96 (dk_at dksX1_bound_11 11 rfl rfl)
theorem dX1_bound_268 : decode cX1_bound 268 = .ok (.invokestatic 283, 3) := dk_184 1 27 (dk_at dksX1_bound_11 12 rfl rfl)
theorem dX1_bound_271 : decode cX1_bound 271 = .ok (.iastore, 1) := dk_79 (dk_at dksX1_bound_11 15 rfl rfl)
theorem dX1_bound_272 : decode cX1_bound 272 = .ok (.iinc 6 1, 3) := dk_132 6 1 (dk_at dksX1_bound_11 16 rfl rfl)
theorem dX1_bound_275 : decode cX1_bound 275 = .ok (.goto (-79), 3) := dk_167 255 177 (dk_at dksX1_bound_11 19 rfl rfl)
theorem dX1_bound_278 : decode cX1_bound 278 = .ok (.iinc 4 1, 3) := dk_132 4 1 (dk_at dksX1_bound_12 0 rfl rfl)
theorem dX1_bound_281 : decode cX1_bound 281 = .ok (.goto (-115), 3) := dk_167 255 141 (dk_at dksX1_bound_12 3 rfl rfl)
theorem dX1_bound_284 : decode cX1_bound 284 = .ok (.aload_n 0, 1) := dk_42 (dk_at dksX1_bound_12 6 rfl rfl)
theorem dX1_bound_285 : decode cX1_bound 285 = .ok (.getfield 78, 3) := dk_180 0 78 (dk_at dksX1_bound_12 7 rfl rfl)
theorem dX1_bound_288 : decode cX1_bound 288 = .ok (.iconst 1, 1) := dk_4 (dk_at dksX1_bound_12 10 rfl rfl)
theorem dX1_bound_289 : decode cX1_bound 289 = .ok (.iload_n 3, 1) := dk_29 (dk_at dksX1_bound_12 11 rfl rfl)
theorem dX1_bound_290 : decode cX1_bound 290 = .ok (.ishl, 1) := dk_120 (dk_at dksX1_bound_12 12 rfl rfl)
theorem dX1_bound_291 : decode cX1_bound 291 = .ok (.iconst 1, 1) := dk_4 (dk_at dksX1_bound_12 13 rfl rfl)
theorem dX1_bound_292 : decode cX1_bound 292 = .ok (.isub, 1) := dk_100 (dk_at dksX1_bound_12 14 rfl rfl)
theorem dX1_bound_293 : decode cX1_bound 293 = .ok (.iaload, 1) := dk_46 (dk_at dksX1_bound_12 15 rfl rfl)
theorem dX1_bound_294 : decode cX1_bound 294 = .ok (.ldc_w 277, 3) := dk_19 1 21 (dk_at dksX1_bound_12 16 rfl rfl)
theorem dX1_bound_297 : decode cX1_bound 297 = .ok (.if_icmp .ge 16, 3) := dk_162 0 16 (dk_at dksX1_bound_12 19 rfl rfl)
theorem dX1_bound_300 : decode cX1_bound 300 = .ok (.aload_n 0, 1) := dk_42 (dk_at dksX1_bound_12 22 rfl rfl)
theorem dX1_bound_301 : decode cX1_bound 301 = .ok (.getfield 78, 3) := dk_180 0 78 (dk_at dksX1_bound_13 0 rfl rfl)
theorem dX1_bound_304 : decode cX1_bound 304 = .ok (.iconst 1, 1) := dk_4 (dk_at dksX1_bound_13 3 rfl rfl)
theorem dX1_bound_305 : decode cX1_bound 305 = .ok (.iload_n 3, 1) := dk_29 (dk_at dksX1_bound_13 4 rfl rfl)
theorem dX1_bound_306 : decode cX1_bound 306 = .ok (.ishl, 1) := dk_120 (dk_at dksX1_bound_13 5 rfl rfl)
theorem dX1_bound_307 : decode cX1_bound 307 = .ok (.iconst 1, 1) := dk_4 (dk_at dksX1_bound_13 6 rfl rfl)
theorem dX1_bound_308 : decode cX1_bound 308 = .ok (.isub, 1) := dk_100 (dk_at dksX1_bound_13 7 rfl rfl)
theorem dX1_bound_309 : decode cX1_bound 309 = .ok (.iaload, 1) := dk_46 (dk_at dksX1_bound_13 8 rfl rfl)
theorem dX1_bound_310 : decode cX1_bound 310 = .ok (.goto 4, 3) := dk_167 0 4 (dk_at dksX1_bound_13 9 rfl rfl)
theorem dX1_bound_313 : decode cX1_bound 313 = .ok (.iconst (-1), 1) := dk_2 (dk_at dksX1_bound_13 12 rfl rfl)
theorem dX1_bound_314 : decode cX1_bound 314 = .ok (.ireturn, 1) := dk_172 (dk_at dksX1_bound_13 13 rfl rfl)
abbrev cX1_home : ByteArray := prog_1_method_61_code
def yX1_home : MethodName := ⟨RX1, "home", "(I)I"⟩
def dkwX1_home_1 : List UInt8 := [184, 0, 164, 42, 182, 1, 135, 42, 180, 0, 96, 27, 46, 172]
abbrev dktX1_home_1 : List UInt8 := dkwX1_home_1 ++ []
def dkwX1_home_0 : List UInt8 := [27, 155, 0, 21, 27, 42, 180, 0, 12, 180, 0, 214, 182, 0, 127, 162, 0, 7, 4, 167, 0, 4, 3]
abbrev dktX1_home_0 : List UInt8 := dkwX1_home_0 ++ dktX1_home_1
theorem dksX1_home_0 : cX1_home.data.toList.drop 0 = dktX1_home_0 := by decide +kernel
theorem dksX1_home_1 : cX1_home.data.toList.drop 23 = dktX1_home_1 := dk_seg dksX1_home_0 23 rfl rfl
theorem dX1_home_0 : decode cX1_home 0 = .ok (.iload_n 1, 1) := dk_27 (dk_at dksX1_home_0 0 rfl rfl)
theorem dX1_home_1 : decode cX1_home 1 = .ok (.ifCond .lt 21, 3) := dk_155 0 21 (dk_at dksX1_home_0 1 rfl rfl)
theorem dX1_home_4 : decode cX1_home 4 = .ok (.iload_n 1, 1) := dk_27 (dk_at dksX1_home_0 4 rfl rfl)
theorem dX1_home_5 : decode cX1_home 5 = .ok (.aload_n 0, 1) := dk_42 (dk_at dksX1_home_0 5 rfl rfl)
theorem dX1_home_6 : decode cX1_home 6 = .ok (.getfield 12, 3) := dk_180 0 12 (dk_at dksX1_home_0 6 rfl rfl)
theorem dX1_home_9 : decode cX1_home 9 = .ok (.getfield 214, 3) := dk_180 0 214 (dk_at dksX1_home_0 9 rfl rfl)
theorem dX1_home_12 : decode cX1_home 12 = .ok (.invokevirtual 127, 3) := dk_182 0 127 (dk_at dksX1_home_0 12 rfl rfl)
theorem dX1_home_15 : decode cX1_home 15 = .ok (.if_icmp .ge 7, 3) := dk_162 0 7 (dk_at dksX1_home_0 15 rfl rfl)
theorem dX1_home_18 : decode cX1_home 18 = .ok (.iconst 1, 1) := dk_4 (dk_at dksX1_home_0 18 rfl rfl)
theorem dX1_home_19 : decode cX1_home 19 = .ok (.goto 4, 3) := dk_167 0 4 (dk_at dksX1_home_0 19 rfl rfl)
theorem dX1_home_22 : decode cX1_home 22 = .ok (.iconst 0, 1) := dk_3 (dk_at dksX1_home_0 22 rfl rfl)
theorem dX1_home_23 : decode cX1_home 23 = .ok (.invokestatic 164, 3) := dk_184 0 164 (dk_at dksX1_home_1 0 rfl rfl)
theorem dX1_home_26 : decode cX1_home 26 = .ok (.aload_n 0, 1) := dk_42 (dk_at dksX1_home_1 3 rfl rfl)
theorem dX1_home_27 : decode cX1_home 27 = .ok (.invokevirtual 391, 3) := dk_182 1 135 (dk_at dksX1_home_1 4 rfl rfl)
theorem dX1_home_30 : decode cX1_home 30 = .ok (.aload_n 0, 1) := dk_42 (dk_at dksX1_home_1 7 rfl rfl)
theorem dX1_home_31 : decode cX1_home 31 = .ok (.getfield 96, 3) := dk_180 0 96 (dk_at dksX1_home_1 8 rfl rfl)
theorem dX1_home_34 : decode cX1_home 34 = .ok (.iload_n 1, 1) := dk_27 (dk_at dksX1_home_1 11 rfl rfl)
theorem dX1_home_35 : decode cX1_home 35 = .ok (.iaload, 1) := dk_46 (dk_at dksX1_home_1 12 rfl rfl)
theorem dX1_home_36 : decode cX1_home 36 = .ok (.ireturn, 1) := dk_172 (dk_at dksX1_home_1 13 rfl rfl)
abbrev cX1_goes : ByteArray := prog_1_method_58_code
def yX1_goes : MethodName := ⟨RX1, "goes", "()V"⟩
def dkwX1_goes_4 : List UInt8 := [177]
abbrev dktX1_goes_4 : List UInt8 := dkwX1_goes_4 ++ []
def dkwX1_goes_3 : List UInt8 := [42, 28, 182, 1, 123, 132, 2, 1, 167, 255, 240, 42, 89, 180, 1, 114, 4, 96, 181, 1, 114, 167, 255, 180]
abbrev dktX1_goes_3 : List UInt8 := dkwX1_goes_3 ++ dktX1_goes_4
def dkwX1_goes_2 : List UInt8 := [162, 0, 14, 42, 28, 182, 1, 120, 132, 2, 1, 167, 255, 234, 3, 61, 28, 42, 182, 0, 133, 162, 0, 14]
abbrev dktX1_goes_2 : List UInt8 := dkwX1_goes_2 ++ dktX1_goes_3
def dkwX1_goes_1 : List UInt8 := [180, 1, 114, 17, 3, 231, 162, 0, 64, 3, 61, 28, 42, 180, 0, 12, 180, 0, 214, 182, 0, 127]
abbrev dktX1_goes_1 : List UInt8 := dkwX1_goes_1 ++ dktX1_goes_2
def dkwX1_goes_0 : List UInt8 := [42, 182, 1, 111, 60, 42, 3, 181, 1, 114, 42, 3, 181, 1, 117, 42, 180, 1, 117, 27, 162, 0, 74, 42]
abbrev dktX1_goes_0 : List UInt8 := dkwX1_goes_0 ++ dktX1_goes_1
theorem dksX1_goes_0 : cX1_goes.data.toList.drop 0 = dktX1_goes_0 := by decide +kernel
theorem dksX1_goes_1 : cX1_goes.data.toList.drop 24 = dktX1_goes_1 := dk_seg dksX1_goes_0 24 rfl rfl
theorem dksX1_goes_2 : cX1_goes.data.toList.drop 46 = dktX1_goes_2 := dk_seg dksX1_goes_1 22 rfl rfl
theorem dksX1_goes_3 : cX1_goes.data.toList.drop 70 = dktX1_goes_3 := dk_seg dksX1_goes_2 24 rfl rfl
theorem dksX1_goes_4 : cX1_goes.data.toList.drop 94 = dktX1_goes_4 := dk_seg dksX1_goes_3 24 rfl rfl
theorem dX1_goes_0 : decode cX1_goes 0 = .ok (.aload_n 0, 1) := dk_42 (dk_at dksX1_goes_0 0 rfl rfl)
theorem dX1_goes_1 : decode cX1_goes 1 = .ok (.invokevirtual 367, 3) := dk_182 1 111 (dk_at dksX1_goes_0 1 rfl rfl)
theorem dX1_goes_4 : decode cX1_goes 4 = .ok (.istore_n 1, 1) := dk_60 (dk_at dksX1_goes_0 4 rfl rfl)
theorem dX1_goes_5 : decode cX1_goes 5 = .ok (.aload_n 0, 1) := dk_42 (dk_at dksX1_goes_0 5 rfl rfl)
theorem dX1_goes_6 : decode cX1_goes 6 = .ok (.iconst 0, 1) := dk_3 (dk_at dksX1_goes_0 6 rfl rfl)
theorem dX1_goes_7 : decode cX1_goes 7 = .ok (.putfield 370, 3) := dk_181 1 114 (dk_at dksX1_goes_0 7 rfl rfl)
theorem dX1_goes_10 : decode cX1_goes 10 = .ok (.aload_n 0, 1) := dk_42 (dk_at dksX1_goes_0 10 rfl rfl)
theorem dX1_goes_11 : decode cX1_goes 11 = .ok (.iconst 0, 1) := dk_3 (dk_at dksX1_goes_0 11 rfl rfl)
theorem dX1_goes_12 : decode cX1_goes 12 = .ok (.putfield 373, 3) := dk_181 1 117 (dk_at dksX1_goes_0 12 rfl rfl)
theorem dX1_goes_15 : decode cX1_goes 15 = .ok (.aload_n 0, 1) := dk_42 (dk_at dksX1_goes_0 15 rfl rfl)
theorem dX1_goes_16 : decode cX1_goes 16 = .ok (.getfield 373, 3) := dk_180 1 117 (dk_at dksX1_goes_0 16 rfl rfl)
theorem dX1_goes_19 : decode cX1_goes 19 = .ok (.iload_n 1, 1) := dk_27 (dk_at dksX1_goes_0 19 rfl rfl)
theorem dX1_goes_20 : decode cX1_goes 20 = .ok (.if_icmp .ge 74, 3) := dk_162 0 74 (dk_at dksX1_goes_0 20 rfl rfl)
theorem dX1_goes_23 : decode cX1_goes 23 = .ok (.aload_n 0, 1) := dk_42 (dk_at dksX1_goes_0 23 rfl rfl)
theorem dX1_goes_24 : decode cX1_goes 24 = .ok (.getfield 370, 3) := dk_180 1 114 (dk_at dksX1_goes_1 0 rfl rfl)
theorem dX1_goes_27 : decode cX1_goes 27 = .ok (.sipush 999, 3) := dk_17 3 231 (dk_at dksX1_goes_1 3 rfl rfl)
theorem dX1_goes_30 : decode cX1_goes 30 = .ok (.if_icmp .ge 64, 3) := dk_162 0 64 (dk_at dksX1_goes_1 6 rfl rfl)
theorem dX1_goes_33 : decode cX1_goes 33 = .ok (.iconst 0, 1) := dk_3 (dk_at dksX1_goes_1 9 rfl rfl)
theorem dX1_goes_34 : decode cX1_goes 34 = .ok (.istore_n 2, 1) := dk_61 (dk_at dksX1_goes_1 10 rfl rfl)
theorem dX1_goes_35 : decode cX1_goes 35 = .ok (.iload_n 2, 1) := dk_28 (dk_at dksX1_goes_1 11 rfl rfl)
theorem dX1_goes_36 : decode cX1_goes 36 = .ok (.aload_n 0, 1) := dk_42 (dk_at dksX1_goes_1 12 rfl rfl)
theorem dX1_goes_37 : decode cX1_goes 37 = .ok (.getfield 12, 3) := dk_180 0 12 (dk_at dksX1_goes_1 13 rfl rfl)
theorem dX1_goes_40 : decode cX1_goes 40 = .ok (.getfield 214, 3) := dk_180 0 214 (dk_at dksX1_goes_1 16 rfl rfl)
theorem dX1_goes_43 : decode cX1_goes 43 = .ok (.invokevirtual 127, 3) := dk_182 0 127 (dk_at dksX1_goes_1 19 rfl rfl)
theorem dX1_goes_46 : decode cX1_goes 46 = .ok (.if_icmp .ge 14, 3) := dk_162 0 14 (dk_at dksX1_goes_2 0 rfl rfl)
theorem dX1_goes_49 : decode cX1_goes 49 = .ok (.aload_n 0, 1) := dk_42 (dk_at dksX1_goes_2 3 rfl rfl)
theorem dX1_goes_50 : decode cX1_goes 50 = .ok (.iload_n 2, 1) := dk_28 (dk_at dksX1_goes_2 4 rfl rfl)
theorem dX1_goes_51 : decode cX1_goes 51 = .ok (.invokevirtual 376, 3) := dk_182 1 120 (dk_at dksX1_goes_2 5 rfl rfl)
theorem dX1_goes_54 : decode cX1_goes 54 = .ok (.iinc 2 1, 3) := dk_132 2 1 (dk_at dksX1_goes_2 8 rfl rfl)
theorem dX1_goes_57 : decode cX1_goes 57 = .ok (.goto (-22), 3) := dk_167 255 234 (dk_at dksX1_goes_2 11 rfl rfl)
theorem dX1_goes_60 : decode cX1_goes 60 = .ok (.iconst 0, 1) := dk_3 (dk_at dksX1_goes_2 14 rfl rfl)
theorem dX1_goes_61 : decode cX1_goes 61 = .ok (.istore_n 2, 1) := dk_61 (dk_at dksX1_goes_2 15 rfl rfl)
theorem dX1_goes_62 : decode cX1_goes 62 = .ok (.iload_n 2, 1) := dk_28 (dk_at dksX1_goes_2 16 rfl rfl)
theorem dX1_goes_63 : decode cX1_goes 63 = .ok (.aload_n 0, 1) := dk_42 (dk_at dksX1_goes_2 17 rfl rfl)
theorem dX1_goes_64 : decode cX1_goes 64 = .ok (.invokevirtual 133, 3) := dk_182 0 133 (dk_at dksX1_goes_2 18 rfl rfl)
theorem dX1_goes_67 : decode cX1_goes 67 = .ok (.if_icmp .ge 14, 3) := dk_162 0 14 (dk_at dksX1_goes_2 21 rfl rfl)
theorem dX1_goes_70 : decode cX1_goes 70 = .ok (.aload_n 0, 1) := dk_42 (dk_at dksX1_goes_3 0 rfl rfl)
theorem dX1_goes_71 : decode cX1_goes 71 = .ok (.iload_n 2, 1) := dk_28 (dk_at dksX1_goes_3 1 rfl rfl)
theorem dX1_goes_72 : decode cX1_goes 72 = .ok (.invokevirtual 379, 3) := dk_182 1 123 (dk_at dksX1_goes_3 2 rfl rfl)
theorem dX1_goes_75 : decode cX1_goes 75 = .ok (.iinc 2 1, 3) := dk_132 2 1 (dk_at dksX1_goes_3 5 rfl rfl)
theorem dX1_goes_78 : decode cX1_goes 78 = .ok (.goto (-16), 3) := dk_167 255 240 (dk_at dksX1_goes_3 8 rfl rfl)
theorem dX1_goes_81 : decode cX1_goes 81 = .ok (.aload_n 0, 1) := dk_42 (dk_at dksX1_goes_3 11 rfl rfl)
theorem dX1_goes_82 : decode cX1_goes 82 = .ok (.dup, 1) := dk_89 (dk_at dksX1_goes_3 12 rfl rfl)
theorem dX1_goes_83 : decode cX1_goes 83 = .ok (.getfield 370, 3) := dk_180 1 114 (dk_at dksX1_goes_3 13 rfl rfl)
theorem dX1_goes_86 : decode cX1_goes 86 = .ok (.iconst 1, 1) := dk_4 (dk_at dksX1_goes_3 16 rfl rfl)
theorem dX1_goes_87 : decode cX1_goes 87 = .ok (.iadd, 1) := dk_96 (dk_at dksX1_goes_3 17 rfl rfl)
theorem dX1_goes_88 : decode cX1_goes 88 = .ok (.putfield 370, 3) := dk_181 1 114 (dk_at dksX1_goes_3 18 rfl rfl)
theorem dX1_goes_91 : decode cX1_goes 91 = .ok (.goto (-76), 3) := dk_167 255 180 (dk_at dksX1_goes_3 21 rfl rfl)
theorem dX1_goes_94 : decode cX1_goes 94 = .ok (.return_, 1) := dk_177 (dk_at dksX1_goes_4 0 rfl rfl)
abbrev cX1_findWays : ByteArray := prog_1_method_55_code
def yX1_findWays : MethodName := ⟨RX1, "findWays", "()I"⟩
def dkwX1_findWays_6 : List UInt8 := [167, 255, 121, 27, 172]
abbrev dktX1_findWays_6 : List UInt8 := dkwX1_findWays_6 ++ []
def dkwX1_findWays_5 : List UInt8 := [28, 3, 79, 27, 42, 180, 0, 84, 28, 46, 2, 160, 0, 7, 3, 167, 0, 4, 4, 96, 60, 132, 2, 1]
abbrev dktX1_findWays_5 : List UInt8 := dkwX1_findWays_5 ++ dktX1_findWays_6
def dkwX1_findWays_4 : List UInt8 := [132, 4, 1, 167, 255, 223, 42, 180, 0, 87, 28, 2, 79, 42, 180, 0, 96, 28, 2, 79, 42, 180, 0, 99]
abbrev dktX1_findWays_4 : List UInt8 := dkwX1_findWays_4 ++ dktX1_findWays_5
def dkwX1_findWays_3 : List UInt8 := [46, 162, 0, 28, 42, 180, 0, 81, 16, 48, 28, 104, 21, 4, 96, 42, 180, 0, 45, 21, 4, 46, 79]
abbrev dktX1_findWays_3 : List UInt8 := dkwX1_findWays_3 ++ dktX1_findWays_4
def dkwX1_findWays_2 : List UInt8 := [180, 1, 110, 42, 180, 0, 19, 180, 0, 154, 182, 1, 49, 79, 3, 54, 4, 21, 4, 42, 180, 0, 84, 28]
abbrev dktX1_findWays_2 : List UInt8 := dkwX1_findWays_2 ++ dktX1_findWays_3
def dkwX1_findWays_1 : List UInt8 := [180, 0, 214, 28, 182, 0, 144, 192, 1, 107, 78, 42, 180, 0, 84, 28, 42, 45, 180, 1, 109, 45]
abbrev dktX1_findWays_1 : List UInt8 := dkwX1_findWays_1 ++ dktX1_findWays_2
def dkwX1_findWays_0 : List UInt8 := [3, 60, 3, 61, 28, 42, 180, 0, 12, 180, 0, 214, 182, 0, 127, 162, 0, 127, 42, 180, 0, 12]
abbrev dktX1_findWays_0 : List UInt8 := dkwX1_findWays_0 ++ dktX1_findWays_1
theorem dksX1_findWays_0 : cX1_findWays.data.toList.drop 0 = dktX1_findWays_0 := by decide +kernel
theorem dksX1_findWays_1 : cX1_findWays.data.toList.drop 22 = dktX1_findWays_1 := dk_seg dksX1_findWays_0 22 rfl rfl
theorem dksX1_findWays_2 : cX1_findWays.data.toList.drop 44 = dktX1_findWays_2 := dk_seg dksX1_findWays_1 22 rfl rfl
theorem dksX1_findWays_3 : cX1_findWays.data.toList.drop 68 = dktX1_findWays_3 := dk_seg dksX1_findWays_2 24 rfl rfl
theorem dksX1_findWays_4 : cX1_findWays.data.toList.drop 91 = dktX1_findWays_4 := dk_seg dksX1_findWays_3 23 rfl rfl
theorem dksX1_findWays_5 : cX1_findWays.data.toList.drop 115 = dktX1_findWays_5 := dk_seg dksX1_findWays_4 24 rfl rfl
theorem dksX1_findWays_6 : cX1_findWays.data.toList.drop 139 = dktX1_findWays_6 := dk_seg dksX1_findWays_5 24 rfl rfl
theorem dX1_findWays_0 : decode cX1_findWays 0 = .ok (.iconst 0, 1) := dk_3 (dk_at dksX1_findWays_0 0 rfl rfl)
theorem dX1_findWays_1 : decode cX1_findWays 1 = .ok (.istore_n 1, 1) := dk_60 (dk_at dksX1_findWays_0 1 rfl rfl)
theorem dX1_findWays_2 : decode cX1_findWays 2 = .ok (.iconst 0, 1) := dk_3 (dk_at dksX1_findWays_0 2 rfl rfl)
theorem dX1_findWays_3 : decode cX1_findWays 3 = .ok (.istore_n 2, 1) := dk_61 (dk_at dksX1_findWays_0 3 rfl rfl)
theorem dX1_findWays_4 : decode cX1_findWays 4 = .ok (.iload_n 2, 1) := dk_28 (dk_at dksX1_findWays_0 4 rfl rfl)
theorem dX1_findWays_5 : decode cX1_findWays 5 = .ok (.aload_n 0, 1) := dk_42 (dk_at dksX1_findWays_0 5 rfl rfl)
theorem dX1_findWays_6 : decode cX1_findWays 6 = .ok (.getfield 12, 3) := dk_180 0 12 (dk_at dksX1_findWays_0 6 rfl rfl)
theorem dX1_findWays_9 : decode cX1_findWays 9 = .ok (.getfield 214, 3) := dk_180 0 214 (dk_at dksX1_findWays_0 9 rfl rfl)
theorem dX1_findWays_12 : decode cX1_findWays 12 = .ok (.invokevirtual 127, 3) := dk_182 0 127 (dk_at dksX1_findWays_0 12 rfl rfl)
theorem dX1_findWays_15 : decode cX1_findWays 15 = .ok (.if_icmp .ge 127, 3) := dk_162 0 127 (dk_at dksX1_findWays_0 15 rfl rfl)
theorem dX1_findWays_18 : decode cX1_findWays 18 = .ok (.aload_n 0, 1) := dk_42 (dk_at dksX1_findWays_0 18 rfl rfl)
theorem dX1_findWays_19 : decode cX1_findWays 19 = .ok (.getfield 12, 3) := dk_180 0 12 (dk_at dksX1_findWays_0 19 rfl rfl)
theorem dX1_findWays_22 : decode cX1_findWays 22 = .ok (.getfield 214, 3) := dk_180 0 214 (dk_at dksX1_findWays_1 0 rfl rfl)
theorem dX1_findWays_25 : decode cX1_findWays 25 = .ok (.iload_n 2, 1) := dk_28 (dk_at dksX1_findWays_1 3 rfl rfl)
theorem dX1_findWays_26 : decode cX1_findWays 26 = .ok (.invokevirtual 144, 3) := dk_182 0 144 (dk_at dksX1_findWays_1 4 rfl rfl)
theorem dX1_findWays_29 : decode cX1_findWays 29 = .ok (.checkcast 363, 3) := dk_192 1 107 (dk_at dksX1_findWays_1 7 rfl rfl)
theorem dX1_findWays_32 : decode cX1_findWays 32 = .ok (.astore_n 3, 1) := dk_78 (dk_at dksX1_findWays_1 10 rfl rfl)
theorem dX1_findWays_33 : decode cX1_findWays 33 = .ok (.aload_n 0, 1) := dk_42 (dk_at dksX1_findWays_1 11 rfl rfl)
theorem dX1_findWays_34 : decode cX1_findWays 34 = .ok (.getfield 84, 3) := dk_180 0 84 (dk_at dksX1_findWays_1 12 rfl rfl)
theorem dX1_findWays_37 : decode cX1_findWays 37 = .ok (.iload_n 2, 1) := dk_28 (dk_at dksX1_findWays_1 15 rfl rfl)
theorem dX1_findWays_38 : decode cX1_findWays 38 = .ok (.aload_n 0, 1) := dk_42 (dk_at dksX1_findWays_1 16 rfl rfl)
theorem dX1_findWays_39 : decode cX1_findWays 39 = .ok (.aload_n 3, 1) := dk_45 (dk_at dksX1_findWays_1 17 rfl rfl)
theorem dX1_findWays_40 : decode cX1_findWays 40 = .ok (.getfield 365, 3) := dk_180 1 109 (dk_at dksX1_findWays_1 18 rfl rfl)
theorem dX1_findWays_43 : decode cX1_findWays 43 = .ok (.aload_n 3, 1) := dk_45 (dk_at dksX1_findWays_1 21 rfl rfl)
theorem dX1_findWays_44 : decode cX1_findWays 44 = .ok (.getfield 366, 3) := dk_180 1 110 (dk_at dksX1_findWays_2 0 rfl rfl)
theorem dX1_findWays_47 : decode cX1_findWays 47 = .ok (.aload_n 0, 1) := dk_42 (dk_at dksX1_findWays_2 3 rfl rfl)
theorem dX1_findWays_48 : decode cX1_findWays 48 = .ok (.getfield 19, 3) := dk_180 0 19 (dk_at dksX1_findWays_2 4 rfl rfl)
theorem dX1_findWays_51 : decode cX1_findWays 51 = .ok (.getfield 154, 3) := dk_180 0 154 (dk_at dksX1_findWays_2 7 rfl rfl)
theorem dX1_findWays_54 : decode cX1_findWays 54 = .ok (.invokevirtual 305, 3) := dk_182 1 49 (dk_at dksX1_findWays_2 10 rfl rfl)
theorem dX1_findWays_57 : decode cX1_findWays 57 = .ok (.iastore, 1) := dk_79 (dk_at dksX1_findWays_2 13 rfl rfl)
theorem dX1_findWays_58 : decode cX1_findWays 58 = .ok (.iconst 0, 1) := dk_3 (dk_at dksX1_findWays_2 14 rfl rfl)
theorem dX1_findWays_59 : decode cX1_findWays 59 = .ok (.istore 4, 2) := dk_54 4 (dk_at dksX1_findWays_2 15 rfl rfl)
theorem dX1_findWays_61 : decode cX1_findWays 61 = .ok (.iload 4, 2) := dk_21 4 (dk_at dksX1_findWays_2 17 rfl rfl)
theorem dX1_findWays_63 : decode cX1_findWays 63 = .ok (.aload_n 0, 1) := dk_42 (dk_at dksX1_findWays_2 19 rfl rfl)
theorem dX1_findWays_64 : decode cX1_findWays 64 = .ok (.getfield 84, 3) := dk_180 0 84 (dk_at dksX1_findWays_2 20 rfl rfl)
theorem dX1_findWays_67 : decode cX1_findWays 67 = .ok (.iload_n 2, 1) := dk_28 (dk_at dksX1_findWays_2 23 rfl rfl)
theorem dX1_findWays_68 : decode cX1_findWays 68 = .ok (.iaload, 1) := dk_46 (dk_at dksX1_findWays_3 0 rfl rfl)
theorem dX1_findWays_69 : decode cX1_findWays 69 = .ok (.if_icmp .ge 28, 3) := dk_162 0 28 (dk_at dksX1_findWays_3 1 rfl rfl)
theorem dX1_findWays_72 : decode cX1_findWays 72 = .ok (.aload_n 0, 1) := dk_42 (dk_at dksX1_findWays_3 4 rfl rfl)
theorem dX1_findWays_73 : decode cX1_findWays 73 = .ok (.getfield 81, 3) := dk_180 0 81 (dk_at dksX1_findWays_3 5 rfl rfl)
theorem dX1_findWays_76 : decode cX1_findWays 76 = .ok (.bipush 48, 2) := dk_16 48 (dk_at dksX1_findWays_3 8 rfl rfl)
theorem dX1_findWays_78 : decode cX1_findWays 78 = .ok (.iload_n 2, 1) := dk_28 (dk_at dksX1_findWays_3 10 rfl rfl)
theorem dX1_findWays_79 : decode cX1_findWays 79 = .ok (.imul, 1) := dk_104 (dk_at dksX1_findWays_3 11 rfl rfl)
theorem dX1_findWays_80 : decode cX1_findWays 80 = .ok (.iload 4, 2) := dk_21 4 (dk_at dksX1_findWays_3 12 rfl rfl)
theorem dX1_findWays_82 : decode cX1_findWays 82 = .ok (.iadd, 1) := dk_96 (dk_at dksX1_findWays_3 14 rfl rfl)
theorem dX1_findWays_83 : decode cX1_findWays 83 = .ok (.aload_n 0, 1) := dk_42 (dk_at dksX1_findWays_3 15 rfl rfl)
theorem dX1_findWays_84 : decode cX1_findWays 84 = .ok (.getfield 45, 3) := dk_180 0 45 (dk_at dksX1_findWays_3 16 rfl rfl)
theorem dX1_findWays_87 : decode cX1_findWays 87 = .ok (.iload 4, 2) := dk_21 4 (dk_at dksX1_findWays_3 19 rfl rfl)
theorem dX1_findWays_89 : decode cX1_findWays 89 = .ok (.iaload, 1) := dk_46 (dk_at dksX1_findWays_3 21 rfl rfl)
theorem dX1_findWays_90 : decode cX1_findWays 90 = .ok (.iastore, 1) := dk_79 (dk_at dksX1_findWays_3 22 rfl rfl)
theorem dX1_findWays_91 : decode cX1_findWays 91 = .ok (.iinc 4 1, 3) := dk_132 4 1 (dk_at dksX1_findWays_4 0 rfl rfl)
theorem dX1_findWays_94 : decode cX1_findWays 94 = .ok (.goto (-33), 3) := dk_167 255 223 (dk_at dksX1_findWays_4 3 rfl rfl)
theorem dX1_findWays_97 : decode cX1_findWays 97 = .ok (.aload_n 0, 1) := dk_42 (dk_at dksX1_findWays_4 6 rfl rfl)
theorem dX1_findWays_98 : decode cX1_findWays 98 = .ok (.getfield 87, 3) := dk_180 0 87 (dk_at dksX1_findWays_4 7 rfl rfl)
theorem dX1_findWays_101 : decode cX1_findWays 101 = .ok (.iload_n 2, 1) := dk_28 (dk_at dksX1_findWays_4 10 rfl rfl)
theorem dX1_findWays_102 : decode cX1_findWays 102 = .ok (.iconst (-1), 1) := dk_2 (dk_at dksX1_findWays_4 11 rfl rfl)
theorem dX1_findWays_103 : decode cX1_findWays 103 = .ok (.iastore, 1) := dk_79 (dk_at dksX1_findWays_4 12 rfl rfl)
theorem dX1_findWays_104 : decode cX1_findWays 104 = .ok (.aload_n 0, 1) := dk_42 (dk_at dksX1_findWays_4 13 rfl rfl)
theorem dX1_findWays_105 : decode cX1_findWays 105 = .ok (.getfield 96, 3) := dk_180 0 96 (dk_at dksX1_findWays_4 14 rfl rfl)
theorem dX1_findWays_108 : decode cX1_findWays 108 = .ok (.iload_n 2, 1) := dk_28 (dk_at dksX1_findWays_4 17 rfl rfl)
theorem dX1_findWays_109 : decode cX1_findWays 109 = .ok (.iconst (-1), 1) := dk_2 (dk_at dksX1_findWays_4 18 rfl rfl)
theorem dX1_findWays_110 : decode cX1_findWays 110 = .ok (.iastore, 1) := dk_79 (dk_at dksX1_findWays_4 19 rfl rfl)
theorem dX1_findWays_111 : decode cX1_findWays 111 = .ok (.aload_n 0, 1) := dk_42 (dk_at dksX1_findWays_4 20 rfl rfl)
theorem dX1_findWays_112 : decode cX1_findWays 112 = .ok (.getfield 99, 3) := dk_180 0 99 (dk_at dksX1_findWays_4 21 rfl rfl)
theorem dX1_findWays_115 : decode cX1_findWays 115 = .ok (.iload_n 2, 1) := dk_28 (dk_at dksX1_findWays_5 0 rfl rfl)
theorem dX1_findWays_116 : decode cX1_findWays 116 = .ok (.iconst 0, 1) := dk_3 (dk_at dksX1_findWays_5 1 rfl rfl)
theorem dX1_findWays_117 : decode cX1_findWays 117 = .ok (.iastore, 1) := dk_79 (dk_at dksX1_findWays_5 2 rfl rfl)
theorem dX1_findWays_118 : decode cX1_findWays 118 = .ok (.iload_n 1, 1) := dk_27 (dk_at dksX1_findWays_5 3 rfl rfl)
theorem dX1_findWays_119 : decode cX1_findWays 119 = .ok (.aload_n 0, 1) := dk_42 (dk_at dksX1_findWays_5 4 rfl rfl)
theorem dX1_findWays_120 : decode cX1_findWays 120 = .ok (.getfield 84, 3) := dk_180 0 84 (dk_at dksX1_findWays_5 5 rfl rfl)
theorem dX1_findWays_123 : decode cX1_findWays 123 = .ok (.iload_n 2, 1) := dk_28 (dk_at dksX1_findWays_5 8 rfl rfl)
theorem dX1_findWays_124 : decode cX1_findWays 124 = .ok (.iaload, 1) := dk_46 (dk_at dksX1_findWays_5 9 rfl rfl)
theorem dX1_findWays_125 : decode cX1_findWays 125 = .ok (.iconst (-1), 1) := dk_2 (dk_at dksX1_findWays_5 10 rfl rfl)
theorem dX1_findWays_126 : decode cX1_findWays 126 = .ok (.if_icmp .ne 7, 3) := dk_160 0 7 (dk_at dksX1_findWays_5 11 rfl rfl)
theorem dX1_findWays_129 : decode cX1_findWays 129 = .ok (.iconst 0, 1) := dk_3 (dk_at dksX1_findWays_5 14 rfl rfl)
theorem dX1_findWays_130 : decode cX1_findWays 130 = .ok (.goto 4, 3) := dk_167 0 4 (dk_at dksX1_findWays_5 15 rfl rfl)
theorem dX1_findWays_133 : decode cX1_findWays 133 = .ok (.iconst 1, 1) := dk_4 (dk_at dksX1_findWays_5 18 rfl rfl)
theorem dX1_findWays_134 : decode cX1_findWays 134 = .ok (.iadd, 1) := dk_96 (dk_at dksX1_findWays_5 19 rfl rfl)
theorem dX1_findWays_135 : decode cX1_findWays 135 = .ok (.istore_n 1, 1) := dk_60 (dk_at dksX1_findWays_5 20 rfl rfl)
theorem dX1_findWays_136 : decode cX1_findWays 136 = .ok (.iinc 2 1, 3) := dk_132 2 1 (dk_at dksX1_findWays_5 21 rfl rfl)
theorem dX1_findWays_139 : decode cX1_findWays 139 = .ok (.goto (-135), 3) := dk_167 255 121 (dk_at dksX1_findWays_6 0 rfl rfl)
theorem dX1_findWays_142 : decode cX1_findWays 142 = .ok (.iload_n 1, 1) := dk_27 (dk_at dksX1_findWays_6 3 rfl rfl)
theorem dX1_findWays_143 : decode cX1_findWays 143 = .ok (.ireturn, 1) := dk_172 (dk_at dksX1_findWays_6 4 rfl rfl)
abbrev cX1_rides : ByteArray := prog_1_method_59_code
def yX1_rides : MethodName := ⟨RX1, "rides", "(I)V"⟩
def dkwX1_rides_5 : List UInt8 := [79, 177]
abbrev dktX1_rides_5 : List UInt8 := dkwX1_rides_5 ++ []
def dkwX1_rides_4 : List UInt8 := [27, 92, 46, 4, 100, 79, 42, 180, 0, 90, 27, 46, 154, 0, 13, 42, 180, 0, 93, 27, 42, 180, 1, 114]
abbrev dktX1_rides_4 : List UInt8 := dkwX1_rides_4 ++ dktX1_rides_5
def dkwX1_rides_3 : List UInt8 := [167, 0, 49, 42, 27, 182, 1, 132, 153, 0, 41, 42, 180, 0, 90, 27, 46, 158, 0, 32, 42, 180, 0, 90]
abbrev dktX1_rides_3 : List UInt8 := dkwX1_rides_3 ++ dktX1_rides_4
def dkwX1_rides_2 : List UInt8 := [180, 0, 87, 27, 3, 79, 42, 180, 0, 90, 27, 42, 180, 0, 12, 42, 27, 182, 1, 129, 182, 1, 22, 79]
abbrev dktX1_rides_2 : List UInt8 := dkwX1_rides_2 ++ dktX1_rides_3
def dkwX1_rides_1 : List UInt8 := [180, 0, 12, 180, 0, 214, 27, 182, 0, 144, 192, 1, 107, 180, 1, 126, 42, 180, 1, 114, 160, 0, 31, 42]
abbrev dktX1_rides_1 : List UInt8 := dkwX1_rides_1 ++ dktX1_rides_2
def dkwX1_rides_0 : List UInt8 := [42, 180, 0, 84, 27, 46, 2, 160, 0, 4, 177, 42, 180, 0, 87, 27, 46, 2, 160, 0, 55, 42]
abbrev dktX1_rides_0 : List UInt8 := dkwX1_rides_0 ++ dktX1_rides_1
theorem dksX1_rides_0 : cX1_rides.data.toList.drop 0 = dktX1_rides_0 := by decide +kernel
theorem dksX1_rides_1 : cX1_rides.data.toList.drop 22 = dktX1_rides_1 := dk_seg dksX1_rides_0 22 rfl rfl
theorem dksX1_rides_2 : cX1_rides.data.toList.drop 46 = dktX1_rides_2 := dk_seg dksX1_rides_1 24 rfl rfl
theorem dksX1_rides_3 : cX1_rides.data.toList.drop 70 = dktX1_rides_3 := dk_seg dksX1_rides_2 24 rfl rfl
theorem dksX1_rides_4 : cX1_rides.data.toList.drop 94 = dktX1_rides_4 := dk_seg dksX1_rides_3 24 rfl rfl
theorem dksX1_rides_5 : cX1_rides.data.toList.drop 118 = dktX1_rides_5 := dk_seg dksX1_rides_4 24 rfl rfl
theorem dX1_rides_0 : decode cX1_rides 0 = .ok (.aload_n 0, 1) := dk_42 (dk_at dksX1_rides_0 0 rfl rfl)
theorem dX1_rides_1 : decode cX1_rides 1 = .ok (.getfield 84, 3) := dk_180 0 84 (dk_at dksX1_rides_0 1 rfl rfl)
theorem dX1_rides_4 : decode cX1_rides 4 = .ok (.iload_n 1, 1) := dk_27 (dk_at dksX1_rides_0 4 rfl rfl)
theorem dX1_rides_5 : decode cX1_rides 5 = .ok (.iaload, 1) := dk_46 (dk_at dksX1_rides_0 5 rfl rfl)
theorem dX1_rides_6 : decode cX1_rides 6 = .ok (.iconst (-1), 1) := dk_2 (dk_at dksX1_rides_0 6 rfl rfl)
theorem dX1_rides_7 : decode cX1_rides 7 = .ok (.if_icmp .ne 4, 3) := dk_160 0 4 (dk_at dksX1_rides_0 7 rfl rfl)
theorem dX1_rides_10 : decode cX1_rides 10 = .ok (.return_, 1) := dk_177 (dk_at dksX1_rides_0 10 rfl rfl)
theorem dX1_rides_11 : decode cX1_rides 11 = .ok (.aload_n 0, 1) := dk_42 (dk_at dksX1_rides_0 11 rfl rfl)
theorem dX1_rides_12 : decode cX1_rides 12 = .ok (.getfield 87, 3) := dk_180 0 87 (dk_at dksX1_rides_0 12 rfl rfl)
theorem dX1_rides_15 : decode cX1_rides 15 = .ok (.iload_n 1, 1) := dk_27 (dk_at dksX1_rides_0 15 rfl rfl)
theorem dX1_rides_16 : decode cX1_rides 16 = .ok (.iaload, 1) := dk_46 (dk_at dksX1_rides_0 16 rfl rfl)
theorem dX1_rides_17 : decode cX1_rides 17 = .ok (.iconst (-1), 1) := dk_2 (dk_at dksX1_rides_0 17 rfl rfl)
theorem dX1_rides_18 : decode cX1_rides 18 = .ok (.if_icmp .ne 55, 3) := dk_160 0 55 (dk_at dksX1_rides_0 18 rfl rfl)
theorem dX1_rides_21 : decode cX1_rides 21 = .ok (.aload_n 0, 1) := dk_42 (dk_at dksX1_rides_0 21 rfl rfl)
theorem dX1_rides_22 : decode cX1_rides 22 = .ok (.getfield 12, 3) := dk_180 0 12 (dk_at dksX1_rides_1 0 rfl rfl)
theorem dX1_rides_25 : decode cX1_rides 25 = .ok (.getfield 214, 3) := dk_180 0 214 (dk_at dksX1_rides_1 3 rfl rfl)
theorem dX1_rides_28 : decode cX1_rides 28 = .ok (.iload_n 1, 1) := dk_27 (dk_at dksX1_rides_1 6 rfl rfl)
theorem dX1_rides_29 : decode cX1_rides 29 = .ok (.invokevirtual 144, 3) := dk_182 0 144 (dk_at dksX1_rides_1 7 rfl rfl)
theorem dX1_rides_32 : decode cX1_rides 32 = .ok (.checkcast 363, 3) := dk_192 1 107 (dk_at dksX1_rides_1 10 rfl rfl)
theorem dX1_rides_35 : decode cX1_rides 35 = .ok (.getfield 382, 3) := dk_180 1 126 (dk_at dksX1_rides_1 13 rfl rfl)
theorem dX1_rides_38 : decode cX1_rides 38 = .ok (.aload_n 0, 1) := dk_42 (dk_at dksX1_rides_1 16 rfl rfl)
theorem dX1_rides_39 : decode cX1_rides 39 = .ok (.getfield 370, 3) := dk_180 1 114 (dk_at dksX1_rides_1 17 rfl rfl)
theorem dX1_rides_42 : decode cX1_rides 42 = .ok (.if_icmp .ne 31, 3) := dk_160 0 31 (dk_at dksX1_rides_1 20 rfl rfl)
theorem dX1_rides_45 : decode cX1_rides 45 = .ok (.aload_n 0, 1) := dk_42 (dk_at dksX1_rides_1 23 rfl rfl)
theorem dX1_rides_46 : decode cX1_rides 46 = .ok (.getfield 87, 3) := dk_180 0 87 (dk_at dksX1_rides_2 0 rfl rfl)
theorem dX1_rides_49 : decode cX1_rides 49 = .ok (.iload_n 1, 1) := dk_27 (dk_at dksX1_rides_2 3 rfl rfl)
theorem dX1_rides_50 : decode cX1_rides 50 = .ok (.iconst 0, 1) := dk_3 (dk_at dksX1_rides_2 4 rfl rfl)
theorem dX1_rides_51 : decode cX1_rides 51 = .ok (.iastore, 1) := dk_79 (dk_at dksX1_rides_2 5 rfl rfl)
theorem dX1_rides_52 : decode cX1_rides 52 = .ok (.aload_n 0, 1) := dk_42 (dk_at dksX1_rides_2 6 rfl rfl)
theorem dX1_rides_53 : decode cX1_rides 53 = .ok (.getfield 90, 3) := dk_180 0 90 (dk_at dksX1_rides_2 7 rfl rfl)
theorem dX1_rides_56 : decode cX1_rides 56 = .ok (.iload_n 1, 1) := dk_27 (dk_at dksX1_rides_2 10 rfl rfl)
theorem dX1_rides_57 : decode cX1_rides 57 = .ok (.aload_n 0, 1) := dk_42 (dk_at dksX1_rides_2 11 rfl rfl)
theorem dX1_rides_58 : decode cX1_rides 58 = .ok (.getfield 12, 3) := dk_180 0 12 (dk_at dksX1_rides_2 12 rfl rfl)
theorem dX1_rides_61 : decode cX1_rides 61 = .ok (.aload_n 0, 1) := dk_42 (dk_at dksX1_rides_2 15 rfl rfl)
theorem dX1_rides_62 : decode cX1_rides 62 = .ok (.iload_n 1, 1) := dk_27 (dk_at dksX1_rides_2 16 rfl rfl)
theorem dX1_rides_63 : decode cX1_rides 63 = .ok (.invokevirtual 385, 3) := dk_182 1 129 (dk_at dksX1_rides_2 17 rfl rfl)
theorem dX1_rides_66 : decode cX1_rides 66 = .ok (.invokevirtual 278, 3) := dk_182 1 22 (dk_at dksX1_rides_2 20 rfl rfl)
theorem dX1_rides_69 : decode cX1_rides 69 = .ok (.iastore, 1) := dk_79 (dk_at dksX1_rides_2 23 rfl rfl)
theorem dX1_rides_70 : decode cX1_rides 70 = .ok (.goto 49, 3) := dk_167 0 49 (dk_at dksX1_rides_3 0 rfl rfl)
theorem dX1_rides_73 : decode cX1_rides 73 = .ok (.aload_n 0, 1) := dk_42 (dk_at dksX1_rides_3 3 rfl rfl)
theorem dX1_rides_74 : decode cX1_rides 74 = .ok (.iload_n 1, 1) := dk_27 (dk_at dksX1_rides_3 4 rfl rfl)
theorem dX1_rides_75 : decode cX1_rides 75 = .ok (.invokevirtual 388, 3) := dk_182 1 132 (dk_at dksX1_rides_3 5 rfl rfl)
theorem dX1_rides_78 : decode cX1_rides 78 = .ok (.ifCond .eq 41, 3) := dk_153 0 41 (dk_at dksX1_rides_3 8 rfl rfl)
theorem dX1_rides_81 : decode cX1_rides 81 = .ok (.aload_n 0, 1) := dk_42 (dk_at dksX1_rides_3 11 rfl rfl)
theorem dX1_rides_82 : decode cX1_rides 82 = .ok (.getfield 90, 3) := dk_180 0 90 (dk_at dksX1_rides_3 12 rfl rfl)
theorem dX1_rides_85 : decode cX1_rides 85 = .ok (.iload_n 1, 1) := dk_27 (dk_at dksX1_rides_3 15 rfl rfl)
theorem dX1_rides_86 : decode cX1_rides 86 = .ok (.iaload, 1) := dk_46 (dk_at dksX1_rides_3 16 rfl rfl)
theorem dX1_rides_87 : decode cX1_rides 87 = .ok (.ifCond .le 32, 3) := dk_158 0 32 (dk_at dksX1_rides_3 17 rfl rfl)
theorem dX1_rides_90 : decode cX1_rides 90 = .ok (.aload_n 0, 1) := dk_42 (dk_at dksX1_rides_3 20 rfl rfl)
theorem dX1_rides_91 : decode cX1_rides 91 = .ok (.getfield 90, 3) := dk_180 0 90 (dk_at dksX1_rides_3 21 rfl rfl)
theorem dX1_rides_94 : decode cX1_rides 94 = .ok (.iload_n 1, 1) := dk_27 (dk_at dksX1_rides_4 0 rfl rfl)
theorem dX1_rides_95 : decode cX1_rides 95 = .ok (.dup2, 1) := dk_92 (dk_at dksX1_rides_4 1 rfl rfl)
theorem dX1_rides_96 : decode cX1_rides 96 = .ok (.iaload, 1) := dk_46 (dk_at dksX1_rides_4 2 rfl rfl)
theorem dX1_rides_97 : decode cX1_rides 97 = .ok (.iconst 1, 1) := dk_4 (dk_at dksX1_rides_4 3 rfl rfl)
theorem dX1_rides_98 : decode cX1_rides 98 = .ok (.isub, 1) := dk_100 (dk_at dksX1_rides_4 4 rfl rfl)
theorem dX1_rides_99 : decode cX1_rides 99 = .ok (.iastore, 1) := dk_79 (dk_at dksX1_rides_4 5 rfl rfl)
theorem dX1_rides_100 : decode cX1_rides 100 = .ok (.aload_n 0, 1) := dk_42 (dk_at dksX1_rides_4 6 rfl rfl)
theorem dX1_rides_101 : decode cX1_rides 101 = .ok (.getfield 90, 3) := dk_180 0 90 (dk_at dksX1_rides_4 7 rfl rfl)
theorem dX1_rides_104 : decode cX1_rides 104 = .ok (.iload_n 1, 1) := dk_27 (dk_at dksX1_rides_4 10 rfl rfl)
theorem dX1_rides_105 : decode cX1_rides 105 = .ok (.iaload, 1) := dk_46 (dk_at dksX1_rides_4 11 rfl rfl)
theorem dX1_rides_106 : decode cX1_rides 106 = .ok (.ifCond .ne 13, 3) := dk_154 0 13 (dk_at dksX1_rides_4 12 rfl rfl)
theorem dX1_rides_109 : decode cX1_rides 109 = .ok (.aload_n 0, 1) := dk_42 (dk_at dksX1_rides_4 15 rfl rfl)
theorem dX1_rides_110 : decode cX1_rides 110 = .ok (.getfield 93, 3) := dk_180 0 93 (dk_at dksX1_rides_4 16 rfl rfl)
theorem dX1_rides_113 : decode cX1_rides 113 = .ok (.iload_n 1, 1) := dk_27 (dk_at dksX1_rides_4 19 rfl rfl)
theorem dX1_rides_114 : decode cX1_rides 114 = .ok (.aload_n 0, 1) := dk_42 (dk_at dksX1_rides_4 20 rfl rfl)
theorem dX1_rides_115 : decode cX1_rides 115 = .ok (.getfield 370, 3) := dk_180 1 114 (dk_at dksX1_rides_4 21 rfl rfl)
theorem dX1_rides_118 : decode cX1_rides 118 = .ok (.iastore, 1) := dk_79 (dk_at dksX1_rides_5 0 rfl rfl)
theorem dX1_rides_119 : decode cX1_rides 119 = .ok (.return_, 1) := dk_177 (dk_at dksX1_rides_5 1 rfl rfl)
abbrev cX1_arcOf : ByteArray := prog_1_method_56_code
def yX1_arcOf : MethodName := ⟨RX1, "arcOf", "(I)I"⟩
def dkwX1_arcOf_0 : List UInt8 := [42, 180, 0, 81, 16, 48, 27, 104, 42, 180, 0, 87, 27, 46, 96, 46, 172]
abbrev dktX1_arcOf_0 : List UInt8 := dkwX1_arcOf_0 ++ []
theorem dksX1_arcOf_0 : cX1_arcOf.data.toList.drop 0 = dktX1_arcOf_0 := by decide +kernel
theorem dX1_arcOf_0 : decode cX1_arcOf 0 = .ok (.aload_n 0, 1) := dk_42 (dk_at dksX1_arcOf_0 0 rfl rfl)
theorem dX1_arcOf_1 : decode cX1_arcOf 1 = .ok (.getfield 81, 3) := dk_180 0 81 (dk_at dksX1_arcOf_0 1 rfl rfl)
theorem dX1_arcOf_4 : decode cX1_arcOf 4 = .ok (.bipush 48, 2) := dk_16 48 (dk_at dksX1_arcOf_0 4 rfl rfl)
theorem dX1_arcOf_6 : decode cX1_arcOf 6 = .ok (.iload_n 1, 1) := dk_27 (dk_at dksX1_arcOf_0 6 rfl rfl)
theorem dX1_arcOf_7 : decode cX1_arcOf 7 = .ok (.imul, 1) := dk_104 (dk_at dksX1_arcOf_0 7 rfl rfl)
theorem dX1_arcOf_8 : decode cX1_arcOf 8 = .ok (.aload_n 0, 1) := dk_42 (dk_at dksX1_arcOf_0 8 rfl rfl)
theorem dX1_arcOf_9 : decode cX1_arcOf 9 = .ok (.getfield 87, 3) := dk_180 0 87 (dk_at dksX1_arcOf_0 9 rfl rfl)
theorem dX1_arcOf_12 : decode cX1_arcOf 12 = .ok (.iload_n 1, 1) := dk_27 (dk_at dksX1_arcOf_0 12 rfl rfl)
theorem dX1_arcOf_13 : decode cX1_arcOf 13 = .ok (.iaload, 1) := dk_46 (dk_at dksX1_arcOf_0 13 rfl rfl)
theorem dX1_arcOf_14 : decode cX1_arcOf 14 = .ok (.iadd, 1) := dk_96 (dk_at dksX1_arcOf_0 14 rfl rfl)
theorem dX1_arcOf_15 : decode cX1_arcOf 15 = .ok (.iaload, 1) := dk_46 (dk_at dksX1_arcOf_0 15 rfl rfl)
theorem dX1_arcOf_16 : decode cX1_arcOf 16 = .ok (.ireturn, 1) := dk_172 (dk_at dksX1_arcOf_0 16 rfl rfl)
abbrev cX1_isOut : ByteArray := prog_1_method_57_code
def yX1_isOut : MethodName := ⟨RX1, "isOut", "(I)Z"⟩
def dkwX1_isOut_1 : List UInt8 := [27, 46, 2, 160, 0, 7, 4, 167, 0, 4, 3, 172]
abbrev dktX1_isOut_1 : List UInt8 := dkwX1_isOut_1 ++ []
def dkwX1_isOut_0 : List UInt8 := [42, 180, 0, 84, 27, 46, 2, 159, 0, 27, 42, 180, 0, 87, 27, 46, 2, 159, 0, 17, 42, 180, 0, 96]
abbrev dktX1_isOut_0 : List UInt8 := dkwX1_isOut_0 ++ dktX1_isOut_1
theorem dksX1_isOut_0 : cX1_isOut.data.toList.drop 0 = dktX1_isOut_0 := by decide +kernel
theorem dksX1_isOut_1 : cX1_isOut.data.toList.drop 24 = dktX1_isOut_1 := dk_seg dksX1_isOut_0 24 rfl rfl
theorem dX1_isOut_0 : decode cX1_isOut 0 = .ok (.aload_n 0, 1) := dk_42 (dk_at dksX1_isOut_0 0 rfl rfl)
theorem dX1_isOut_1 : decode cX1_isOut 1 = .ok (.getfield 84, 3) := dk_180 0 84 (dk_at dksX1_isOut_0 1 rfl rfl)
theorem dX1_isOut_4 : decode cX1_isOut 4 = .ok (.iload_n 1, 1) := dk_27 (dk_at dksX1_isOut_0 4 rfl rfl)
theorem dX1_isOut_5 : decode cX1_isOut 5 = .ok (.iaload, 1) := dk_46 (dk_at dksX1_isOut_0 5 rfl rfl)
theorem dX1_isOut_6 : decode cX1_isOut 6 = .ok (.iconst (-1), 1) := dk_2 (dk_at dksX1_isOut_0 6 rfl rfl)
theorem dX1_isOut_7 : decode cX1_isOut 7 = .ok (.if_icmp .eq 27, 3) := dk_159 0 27 (dk_at dksX1_isOut_0 7 rfl rfl)
theorem dX1_isOut_10 : decode cX1_isOut 10 = .ok (.aload_n 0, 1) := dk_42 (dk_at dksX1_isOut_0 10 rfl rfl)
theorem dX1_isOut_11 : decode cX1_isOut 11 = .ok (.getfield 87, 3) := dk_180 0 87 (dk_at dksX1_isOut_0 11 rfl rfl)
theorem dX1_isOut_14 : decode cX1_isOut 14 = .ok (.iload_n 1, 1) := dk_27 (dk_at dksX1_isOut_0 14 rfl rfl)
theorem dX1_isOut_15 : decode cX1_isOut 15 = .ok (.iaload, 1) := dk_46 (dk_at dksX1_isOut_0 15 rfl rfl)
theorem dX1_isOut_16 : decode cX1_isOut 16 = .ok (.iconst (-1), 1) := dk_2 (dk_at dksX1_isOut_0 16 rfl rfl)
theorem dX1_isOut_17 : decode cX1_isOut 17 = .ok (.if_icmp .eq 17, 3) := dk_159 0 17 (dk_at dksX1_isOut_0 17 rfl rfl)
theorem dX1_isOut_20 : decode cX1_isOut 20 = .ok (.aload_n 0, 1) := dk_42 (dk_at dksX1_isOut_0 20 rfl rfl)
theorem dX1_isOut_21 : decode cX1_isOut 21 = .ok (.getfield 96, 3) := dk_180 0 96 (dk_at dksX1_isOut_0 21 rfl rfl)
theorem dX1_isOut_24 : decode cX1_isOut 24 = .ok (.iload_n 1, 1) := dk_27 (dk_at dksX1_isOut_1 0 rfl rfl)
theorem dX1_isOut_25 : decode cX1_isOut 25 = .ok (.iaload, 1) := dk_46 (dk_at dksX1_isOut_1 1 rfl rfl)
theorem dX1_isOut_26 : decode cX1_isOut 26 = .ok (.iconst (-1), 1) := dk_2 (dk_at dksX1_isOut_1 2 rfl rfl)
theorem dX1_isOut_27 : decode cX1_isOut 27 = .ok (.if_icmp .ne 7, 3) := dk_160 0 7 (dk_at dksX1_isOut_1 3 rfl rfl)
theorem dX1_isOut_30 : decode cX1_isOut 30 = .ok (.iconst 1, 1) := dk_4 (dk_at dksX1_isOut_1 6 rfl rfl)
theorem dX1_isOut_31 : decode cX1_isOut 31 = .ok (.goto 4, 3) := dk_167 0 4 (dk_at dksX1_isOut_1 7 rfl rfl)
theorem dX1_isOut_34 : decode cX1_isOut 34 = .ok (.iconst 0, 1) := dk_3 (dk_at dksX1_isOut_1 10 rfl rfl)
theorem dX1_isOut_35 : decode cX1_isOut 35 = .ok (.ireturn, 1) := dk_172 (dk_at dksX1_isOut_1 11 rfl rfl)
abbrev cX1_passes : ByteArray := prog_1_method_60_code
def yX1_passes : MethodName := ⟨RX1, "passes", "(I)V"⟩
def dkwX1_passes_7 : List UInt8 := [28, 182, 1, 129, 182, 1, 22, 79, 177]
abbrev dktX1_passes_7 : List UInt8 := dkwX1_passes_7 ++ []
def dkwX1_passes_6 : List UInt8 := [79, 42, 89, 180, 1, 117, 4, 96, 181, 1, 117, 167, 0, 21, 42, 180, 0, 90, 28, 42, 180, 0, 12, 42]
abbrev dktX1_passes_6 : List UInt8 := dkwX1_passes_6 ++ dktX1_passes_7
def dkwX1_passes_5 : List UInt8 := [42, 180, 0, 87, 28, 46, 42, 180, 0, 84, 28, 46, 160, 0, 26, 42, 180, 0, 96, 28, 42, 180, 1, 114]
abbrev dktX1_passes_5 : List UInt8 := dkwX1_passes_5 ++ dktX1_passes_6
def dkwX1_passes_4 : List UInt8 := [160, 0, 4, 177, 42, 180, 0, 99, 28, 92, 46, 4, 100, 79, 42, 180, 0, 87, 28, 92, 46, 4, 96, 79]
abbrev dktX1_passes_4 : List UInt8 := dkwX1_passes_4 ++ dktX1_passes_5
def dkwX1_passes_3 : List UInt8 := [180, 0, 93, 29, 46, 42, 180, 0, 93, 28, 46, 162, 0, 5, 29, 61, 132, 3, 1, 167, 255, 171, 28, 2]
abbrev dktX1_passes_3 : List UInt8 := dkwX1_passes_3 ++ dktX1_passes_4
def dkwX1_passes_2 : List UInt8 := [27, 159, 0, 6, 167, 0, 35, 42, 180, 0, 99, 29, 92, 46, 4, 96, 79, 28, 2, 159, 0, 18, 42]
abbrev dktX1_passes_2 : List UInt8 := dkwX1_passes_2 ++ dktX1_passes_3
def dkwX1_passes_1 : List UInt8 := [153, 0, 63, 42, 180, 0, 90, 29, 46, 157, 0, 54, 42, 180, 0, 12, 42, 29, 182, 1, 129, 182, 1, 18]
abbrev dktX1_passes_1 : List UInt8 := dkwX1_passes_1 ++ dktX1_passes_2
def dkwX1_passes_0 : List UInt8 := [2, 61, 3, 62, 29, 42, 180, 0, 12, 180, 0, 214, 182, 0, 127, 162, 0, 77, 42, 29, 182, 1, 132]
abbrev dktX1_passes_0 : List UInt8 := dkwX1_passes_0 ++ dktX1_passes_1
theorem dksX1_passes_0 : cX1_passes.data.toList.drop 0 = dktX1_passes_0 := by decide +kernel
theorem dksX1_passes_1 : cX1_passes.data.toList.drop 23 = dktX1_passes_1 := dk_seg dksX1_passes_0 23 rfl rfl
theorem dksX1_passes_2 : cX1_passes.data.toList.drop 47 = dktX1_passes_2 := dk_seg dksX1_passes_1 24 rfl rfl
theorem dksX1_passes_3 : cX1_passes.data.toList.drop 70 = dktX1_passes_3 := dk_seg dksX1_passes_2 23 rfl rfl
theorem dksX1_passes_4 : cX1_passes.data.toList.drop 94 = dktX1_passes_4 := dk_seg dksX1_passes_3 24 rfl rfl
theorem dksX1_passes_5 : cX1_passes.data.toList.drop 118 = dktX1_passes_5 := dk_seg dksX1_passes_4 24 rfl rfl
theorem dksX1_passes_6 : cX1_passes.data.toList.drop 142 = dktX1_passes_6 := dk_seg dksX1_passes_5 24 rfl rfl
theorem dksX1_passes_7 : cX1_passes.data.toList.drop 166 = dktX1_passes_7 := dk_seg dksX1_passes_6 24 rfl rfl
theorem dX1_passes_0 : decode cX1_passes 0 = .ok (.iconst (-1), 1) := dk_2 (dk_at dksX1_passes_0 0 rfl rfl)
theorem dX1_passes_1 : decode cX1_passes 1 = .ok (.istore_n 2, 1) := dk_61 (dk_at dksX1_passes_0 1 rfl rfl)
theorem dX1_passes_2 : decode cX1_passes 2 = .ok (.iconst 0, 1) := dk_3 (dk_at dksX1_passes_0 2 rfl rfl)
theorem dX1_passes_3 : decode cX1_passes 3 = .ok (.istore_n 3, 1) := dk_62 (dk_at dksX1_passes_0 3 rfl rfl)
theorem dX1_passes_4 : decode cX1_passes 4 = .ok (.iload_n 3, 1) := dk_29 (dk_at dksX1_passes_0 4 rfl rfl)
theorem dX1_passes_5 : decode cX1_passes 5 = .ok (.aload_n 0, 1) := dk_42 (dk_at dksX1_passes_0 5 rfl rfl)
theorem dX1_passes_6 : decode cX1_passes 6 = .ok (.getfield 12, 3) := dk_180 0 12 (dk_at dksX1_passes_0 6 rfl rfl)
theorem dX1_passes_9 : decode cX1_passes 9 = .ok (.getfield 214, 3) := dk_180 0 214 (dk_at dksX1_passes_0 9 rfl rfl)
theorem dX1_passes_12 : decode cX1_passes 12 = .ok (.invokevirtual 127, 3) := dk_182 0 127 (dk_at dksX1_passes_0 12 rfl rfl)
theorem dX1_passes_15 : decode cX1_passes 15 = .ok (.if_icmp .ge 77, 3) := dk_162 0 77 (dk_at dksX1_passes_0 15 rfl rfl)
theorem dX1_passes_18 : decode cX1_passes 18 = .ok (.aload_n 0, 1) := dk_42 (dk_at dksX1_passes_0 18 rfl rfl)
theorem dX1_passes_19 : decode cX1_passes 19 = .ok (.iload_n 3, 1) := dk_29 (dk_at dksX1_passes_0 19 rfl rfl)
theorem dX1_passes_20 : decode cX1_passes 20 = .ok (.invokevirtual 388, 3) := dk_182 1 132 (dk_at dksX1_passes_0 20 rfl rfl)
theorem dX1_passes_23 : decode cX1_passes 23 = .ok (.ifCond .eq 63, 3) := dk_153 0 63 (dk_at dksX1_passes_1 0 rfl rfl)
theorem dX1_passes_26 : decode cX1_passes 26 = .ok (.aload_n 0, 1) := dk_42 (dk_at dksX1_passes_1 3 rfl rfl)
theorem dX1_passes_27 : decode cX1_passes 27 = .ok (.getfield 90, 3) := dk_180 0 90 (dk_at dksX1_passes_1 4 rfl rfl)
theorem dX1_passes_30 : decode cX1_passes 30 = .ok (.iload_n 3, 1) := dk_29 (dk_at dksX1_passes_1 7 rfl rfl)
theorem dX1_passes_31 : decode cX1_passes 31 = .ok (.iaload, 1) := dk_46 (dk_at dksX1_passes_1 8 rfl rfl)
theorem dX1_passes_32 : decode cX1_passes 32 = .ok (.ifCond .gt 54, 3) := dk_157 0 54 (dk_at dksX1_passes_1 9 rfl rfl)
theorem dX1_passes_35 : decode cX1_passes 35 = .ok (.aload_n 0, 1) := dk_42 (dk_at dksX1_passes_1 12 rfl rfl)
theorem dX1_passes_36 : decode cX1_passes 36 = .ok (.getfield 12, 3) := dk_180 0 12 (dk_at dksX1_passes_1 13 rfl rfl)
theorem dX1_passes_39 : decode cX1_passes 39 = .ok (.aload_n 0, 1) := dk_42 (dk_at dksX1_passes_1 16 rfl rfl)
theorem dX1_passes_40 : decode cX1_passes 40 = .ok (.iload_n 3, 1) := dk_29 (dk_at dksX1_passes_1 17 rfl rfl)
theorem dX1_passes_41 : decode cX1_passes 41 = .ok (.invokevirtual 385, 3) := dk_182 1 129 (dk_at dksX1_passes_1 18 rfl rfl)
theorem dX1_passes_44 : decode cX1_passes 44 = .ok (.invokevirtual 274, 3) := dk_182 1 18 (dk_at dksX1_passes_1 21 rfl rfl)
theorem dX1_passes_47 : decode cX1_passes 47 = .ok (.iload_n 1, 1) := dk_27 (dk_at dksX1_passes_2 0 rfl rfl)
theorem dX1_passes_48 : decode cX1_passes 48 = .ok (.if_icmp .eq 6, 3) := dk_159 0 6 (dk_at dksX1_passes_2 1 rfl rfl)
theorem dX1_passes_51 : decode cX1_passes 51 = .ok (.goto 35, 3) := dk_167 0 35 (dk_at dksX1_passes_2 4 rfl rfl)
theorem dX1_passes_54 : decode cX1_passes 54 = .ok (.aload_n 0, 1) := dk_42 (dk_at dksX1_passes_2 7 rfl rfl)
theorem dX1_passes_55 : decode cX1_passes 55 = .ok (.getfield 99, 3) := dk_180 0 99 (dk_at dksX1_passes_2 8 rfl rfl)
theorem dX1_passes_58 : decode cX1_passes 58 = .ok (.iload_n 3, 1) := dk_29 (dk_at dksX1_passes_2 11 rfl rfl)
theorem dX1_passes_59 : decode cX1_passes 59 = .ok (.dup2, 1) := dk_92 (dk_at dksX1_passes_2 12 rfl rfl)
theorem dX1_passes_60 : decode cX1_passes 60 = .ok (.iaload, 1) := dk_46 (dk_at dksX1_passes_2 13 rfl rfl)
theorem dX1_passes_61 : decode cX1_passes 61 = .ok (.iconst 1, 1) := dk_4 (dk_at dksX1_passes_2 14 rfl rfl)
theorem dX1_passes_62 : decode cX1_passes 62 = .ok (.iadd, 1) := dk_96 (dk_at dksX1_passes_2 15 rfl rfl)
theorem dX1_passes_63 : decode cX1_passes 63 = .ok (.iastore, 1) := dk_79 (dk_at dksX1_passes_2 16 rfl rfl)
theorem dX1_passes_64 : decode cX1_passes 64 = .ok (.iload_n 2, 1) := dk_28 (dk_at dksX1_passes_2 17 rfl rfl)
theorem dX1_passes_65 : decode cX1_passes 65 = .ok (.iconst (-1), 1) := dk_2 (dk_at dksX1_passes_2 18 rfl rfl)
theorem dX1_passes_66 : decode cX1_passes 66 = .ok (.if_icmp .eq 18, 3) := dk_159 0 18 (dk_at dksX1_passes_2 19 rfl rfl)
theorem dX1_passes_69 : decode cX1_passes 69 = .ok (.aload_n 0, 1) := dk_42 (dk_at dksX1_passes_2 22 rfl rfl)
theorem dX1_passes_70 : decode cX1_passes 70 = .ok (.getfield 93, 3) := dk_180 0 93 (dk_at dksX1_passes_3 0 rfl rfl)
theorem dX1_passes_73 : decode cX1_passes 73 = .ok (.iload_n 3, 1) := dk_29 (dk_at dksX1_passes_3 3 rfl rfl)
theorem dX1_passes_74 : decode cX1_passes 74 = .ok (.iaload, 1) := dk_46 (dk_at dksX1_passes_3 4 rfl rfl)
theorem dX1_passes_75 : decode cX1_passes 75 = .ok (.aload_n 0, 1) := dk_42 (dk_at dksX1_passes_3 5 rfl rfl)
theorem dX1_passes_76 : decode cX1_passes 76 = .ok (.getfield 93, 3) := dk_180 0 93 (dk_at dksX1_passes_3 6 rfl rfl)
theorem dX1_passes_79 : decode cX1_passes 79 = .ok (.iload_n 2, 1) := dk_28 (dk_at dksX1_passes_3 9 rfl rfl)
theorem dX1_passes_80 : decode cX1_passes 80 = .ok (.iaload, 1) := dk_46 (dk_at dksX1_passes_3 10 rfl rfl)
theorem dX1_passes_81 : decode cX1_passes 81 = .ok (.if_icmp .ge 5, 3) := dk_162 0 5 (dk_at dksX1_passes_3 11 rfl rfl)
theorem dX1_passes_84 : decode cX1_passes 84 = .ok (.iload_n 3, 1) := dk_29 (dk_at dksX1_passes_3 14 rfl rfl)
theorem dX1_passes_85 : decode cX1_passes 85 = .ok (.istore_n 2, 1) := dk_61 (dk_at dksX1_passes_3 15 rfl rfl)
theorem dX1_passes_86 : decode cX1_passes 86 = .ok (.iinc 3 1, 3) := dk_132 3 1 (dk_at dksX1_passes_3 16 rfl rfl)
theorem dX1_passes_89 : decode cX1_passes 89 = .ok (.goto (-85), 3) := dk_167 255 171 (dk_at dksX1_passes_3 19 rfl rfl)
theorem dX1_passes_92 : decode cX1_passes 92 = .ok (.iload_n 2, 1) := dk_28 (dk_at dksX1_passes_3 22 rfl rfl)
theorem dX1_passes_93 : decode cX1_passes 93 = .ok (.iconst (-1), 1) := dk_2 (dk_at dksX1_passes_3 23 rfl rfl)
theorem dX1_passes_94 : decode cX1_passes 94 = .ok (.if_icmp .ne 4, 3) := dk_160 0 4 (dk_at dksX1_passes_4 0 rfl rfl)
theorem dX1_passes_97 : decode cX1_passes 97 = .ok (.return_, 1) := dk_177 (dk_at dksX1_passes_4 3 rfl rfl)
theorem dX1_passes_98 : decode cX1_passes 98 = .ok (.aload_n 0, 1) := dk_42 (dk_at dksX1_passes_4 4 rfl rfl)
theorem dX1_passes_99 : decode cX1_passes 99 = .ok (.getfield 99, 3) := dk_180 0 99 (dk_at dksX1_passes_4 5 rfl rfl)
theorem dX1_passes_102 : decode cX1_passes 102 = .ok (.iload_n 2, 1) := dk_28 (dk_at dksX1_passes_4 8 rfl rfl)
theorem dX1_passes_103 : decode cX1_passes 103 = .ok (.dup2, 1) := dk_92 (dk_at dksX1_passes_4 9 rfl rfl)
theorem dX1_passes_104 : decode cX1_passes 104 = .ok (.iaload, 1) := dk_46 (dk_at dksX1_passes_4 10 rfl rfl)
theorem dX1_passes_105 : decode cX1_passes 105 = .ok (.iconst 1, 1) := dk_4 (dk_at dksX1_passes_4 11 rfl rfl)
theorem dX1_passes_106 : decode cX1_passes 106 = .ok (.isub, 1) := dk_100 (dk_at dksX1_passes_4 12 rfl rfl)
theorem dX1_passes_107 : decode cX1_passes 107 = .ok (.iastore, 1) := dk_79 (dk_at dksX1_passes_4 13 rfl rfl)
theorem dX1_passes_108 : decode cX1_passes 108 = .ok (.aload_n 0, 1) := dk_42 (dk_at dksX1_passes_4 14 rfl rfl)
theorem dX1_passes_109 : decode cX1_passes 109 = .ok (.getfield 87, 3) := dk_180 0 87 (dk_at dksX1_passes_4 15 rfl rfl)
theorem dX1_passes_112 : decode cX1_passes 112 = .ok (.iload_n 2, 1) := dk_28 (dk_at dksX1_passes_4 18 rfl rfl)
theorem dX1_passes_113 : decode cX1_passes 113 = .ok (.dup2, 1) := dk_92 (dk_at dksX1_passes_4 19 rfl rfl)
theorem dX1_passes_114 : decode cX1_passes 114 = .ok (.iaload, 1) := dk_46 (dk_at dksX1_passes_4 20 rfl rfl)
theorem dX1_passes_115 : decode cX1_passes 115 = .ok (.iconst 1, 1) := dk_4 (dk_at dksX1_passes_4 21 rfl rfl)
theorem dX1_passes_116 : decode cX1_passes 116 = .ok (.iadd, 1) := dk_96 (dk_at dksX1_passes_4 22 rfl rfl)
theorem dX1_passes_117 : decode cX1_passes 117 = .ok (.iastore, 1) := dk_79 (dk_at dksX1_passes_4 23 rfl rfl)
theorem dX1_passes_118 : decode cX1_passes 118 = .ok (.aload_n 0, 1) := dk_42 (dk_at dksX1_passes_5 0 rfl rfl)
theorem dX1_passes_119 : decode cX1_passes 119 = .ok (.getfield 87, 3) := dk_180 0 87 (dk_at dksX1_passes_5 1 rfl rfl)
theorem dX1_passes_122 : decode cX1_passes 122 = .ok (.iload_n 2, 1) := dk_28 (dk_at dksX1_passes_5 4 rfl rfl)
theorem dX1_passes_123 : decode cX1_passes 123 = .ok (.iaload, 1) := dk_46 (dk_at dksX1_passes_5 5 rfl rfl)
theorem dX1_passes_124 : decode cX1_passes 124 = .ok (.aload_n 0, 1) := dk_42 (dk_at dksX1_passes_5 6 rfl rfl)
theorem dX1_passes_125 : decode cX1_passes 125 = .ok (.getfield 84, 3) := dk_180 0 84 (dk_at dksX1_passes_5 7 rfl rfl)
theorem dX1_passes_128 : decode cX1_passes 128 = .ok (.iload_n 2, 1) := dk_28 (dk_at dksX1_passes_5 10 rfl rfl)
theorem dX1_passes_129 : decode cX1_passes 129 = .ok (.iaload, 1) := dk_46 (dk_at dksX1_passes_5 11 rfl rfl)
theorem dX1_passes_130 : decode cX1_passes 130 = .ok (.if_icmp .ne 26, 3) := dk_160 0 26 (dk_at dksX1_passes_5 12 rfl rfl)
theorem dX1_passes_133 : decode cX1_passes 133 = .ok (.aload_n 0, 1) := dk_42 (dk_at dksX1_passes_5 15 rfl rfl)
theorem dX1_passes_134 : decode cX1_passes 134 = .ok (.getfield 96, 3) := dk_180 0 96 (dk_at dksX1_passes_5 16 rfl rfl)
theorem dX1_passes_137 : decode cX1_passes 137 = .ok (.iload_n 2, 1) := dk_28 (dk_at dksX1_passes_5 19 rfl rfl)
theorem dX1_passes_138 : decode cX1_passes 138 = .ok (.aload_n 0, 1) := dk_42 (dk_at dksX1_passes_5 20 rfl rfl)
theorem dX1_passes_139 : decode cX1_passes 139 = .ok (.getfield 370, 3) := dk_180 1 114 (dk_at dksX1_passes_5 21 rfl rfl)
theorem dX1_passes_142 : decode cX1_passes 142 = .ok (.iastore, 1) := dk_79 (dk_at dksX1_passes_6 0 rfl rfl)
theorem dX1_passes_143 : decode cX1_passes 143 = .ok (.aload_n 0, 1) := dk_42 (dk_at dksX1_passes_6 1 rfl rfl)
theorem dX1_passes_144 : decode cX1_passes 144 = .ok (.dup, 1) := dk_89 (dk_at dksX1_passes_6 2 rfl rfl)
theorem dX1_passes_145 : decode cX1_passes 145 = .ok (.getfield 373, 3) := dk_180 1 117 (dk_at dksX1_passes_6 3 rfl rfl)
theorem dX1_passes_148 : decode cX1_passes 148 = .ok (.iconst 1, 1) := dk_4 (dk_at dksX1_passes_6 6 rfl rfl)
theorem dX1_passes_149 : decode cX1_passes 149 = .ok (.iadd, 1) := dk_96 (dk_at dksX1_passes_6 7 rfl rfl)
theorem dX1_passes_150 : decode cX1_passes 150 = .ok (.putfield 373, 3) := dk_181 1 117 (dk_at dksX1_passes_6 8 rfl rfl)
theorem dX1_passes_153 : decode cX1_passes 153 = .ok (.goto 21, 3) := dk_167 0 21 (dk_at dksX1_passes_6 11 rfl rfl)
theorem dX1_passes_156 : decode cX1_passes 156 = .ok (.aload_n 0, 1) := dk_42 (dk_at dksX1_passes_6 14 rfl rfl)
theorem dX1_passes_157 : decode cX1_passes 157 = .ok (.getfield 90, 3) := dk_180 0 90 (dk_at dksX1_passes_6 15 rfl rfl)
theorem dX1_passes_160 : decode cX1_passes 160 = .ok (.iload_n 2, 1) := dk_28 (dk_at dksX1_passes_6 18 rfl rfl)
theorem dX1_passes_161 : decode cX1_passes 161 = .ok (.aload_n 0, 1) := dk_42 (dk_at dksX1_passes_6 19 rfl rfl)
theorem dX1_passes_162 : decode cX1_passes 162 = .ok (.getfield 12, 3) := dk_180 0 12 (dk_at dksX1_passes_6 20 rfl rfl)
theorem dX1_passes_165 : decode cX1_passes 165 = .ok (.aload_n 0, 1) := dk_42 (dk_at dksX1_passes_6 23 rfl rfl)
theorem dX1_passes_166 : decode cX1_passes 166 = .ok (.iload_n 2, 1) := dk_28 (dk_at dksX1_passes_7 0 rfl rfl)
theorem dX1_passes_167 : decode cX1_passes 167 = .ok (.invokevirtual 385, 3) := dk_182 1 129 (dk_at dksX1_passes_7 1 rfl rfl)
theorem dX1_passes_170 : decode cX1_passes 170 = .ok (.invokevirtual 278, 3) := dk_182 1 22 (dk_at dksX1_passes_7 4 rfl rfl)
theorem dX1_passes_173 : decode cX1_passes 173 = .ok (.iastore, 1) := dk_79 (dk_at dksX1_passes_7 7 rfl rfl)
theorem dX1_passes_174 : decode cX1_passes 174 = .ok (.return_, 1) := dk_177 (dk_at dksX1_passes_7 8 rfl rfl)
abbrev cX1_traffic : ByteArray := prog_1_method_62_code
def yX1_traffic : MethodName := ⟨RX1, "traffic", "(I)I"⟩
def dkwX1_traffic_5 : List UInt8 := [28, 167, 0, 4, 29, 172]
abbrev dktX1_traffic_5 : List UInt8 := dkwX1_traffic_5 ++ []
def dkwX1_traffic_4 : List UInt8 := [46, 42, 180, 0, 99, 29, 46, 164, 0, 6, 21, 4, 62, 132, 4, 1, 167, 255, 194, 27, 5, 160, 0, 7]
abbrev dktX1_traffic_4 : List UInt8 := dkwX1_traffic_4 ++ dktX1_traffic_5
def dkwX1_traffic_3 : List UInt8 := [46, 96, 61, 42, 180, 0, 99, 21, 4, 46, 158, 0, 27, 29, 2, 159, 0, 19, 42, 180, 0, 99, 21, 4]
abbrev dktX1_traffic_3 : List UInt8 := dkwX1_traffic_3 ++ dktX1_traffic_4
def dkwX1_traffic_2 : List UInt8 := [54, 4, 21, 4, 42, 180, 0, 12, 180, 0, 214, 182, 0, 127, 162, 0, 53, 28, 42, 180, 0, 99, 21, 4]
abbrev dktX1_traffic_2 : List UInt8 := dkwX1_traffic_2 ++ dktX1_traffic_3
def dkwX1_traffic_1 : List UInt8 := [162, 0, 19, 27, 154, 0, 10, 42, 180, 1, 114, 167, 0, 7, 42, 180, 1, 117, 172, 3, 61, 2, 62, 3]
abbrev dktX1_traffic_1 : List UInt8 := dkwX1_traffic_1 ++ dktX1_traffic_2
def dkwX1_traffic_0 : List UInt8 := [27, 155, 0, 12, 27, 6, 163, 0, 7, 4, 167, 0, 4, 3, 184, 0, 164, 42, 182, 1, 135, 27, 5]
abbrev dktX1_traffic_0 : List UInt8 := dkwX1_traffic_0 ++ dktX1_traffic_1
theorem dksX1_traffic_0 : cX1_traffic.data.toList.drop 0 = dktX1_traffic_0 := by decide +kernel
theorem dksX1_traffic_1 : cX1_traffic.data.toList.drop 23 = dktX1_traffic_1 := dk_seg dksX1_traffic_0 23 rfl rfl
theorem dksX1_traffic_2 : cX1_traffic.data.toList.drop 47 = dktX1_traffic_2 := dk_seg dksX1_traffic_1 24 rfl rfl
theorem dksX1_traffic_3 : cX1_traffic.data.toList.drop 71 = dktX1_traffic_3 := dk_seg dksX1_traffic_2 24 rfl rfl
theorem dksX1_traffic_4 : cX1_traffic.data.toList.drop 95 = dktX1_traffic_4 := dk_seg dksX1_traffic_3 24 rfl rfl
theorem dksX1_traffic_5 : cX1_traffic.data.toList.drop 119 = dktX1_traffic_5 := dk_seg dksX1_traffic_4 24 rfl rfl
theorem dX1_traffic_0 : decode cX1_traffic 0 = .ok (.iload_n 1, 1) := dk_27 (dk_at dksX1_traffic_0 0 rfl rfl)
theorem dX1_traffic_1 : decode cX1_traffic 1 = .ok (.ifCond .lt 12, 3) := dk_155 0 12 (dk_at dksX1_traffic_0 1 rfl rfl)
theorem dX1_traffic_4 : decode cX1_traffic 4 = .ok (.iload_n 1, 1) := dk_27 (dk_at dksX1_traffic_0 4 rfl rfl)
theorem dX1_traffic_5 : decode cX1_traffic 5 = .ok (.iconst 3, 1) := dk_6 (dk_at dksX1_traffic_0 5 rfl rfl)
theorem dX1_traffic_6 : decode cX1_traffic 6 = .ok (.if_icmp .gt 7, 3) := dk_163 0 7 (dk_at dksX1_traffic_0 6 rfl rfl)
theorem dX1_traffic_9 : decode cX1_traffic 9 = .ok (.iconst 1, 1) := dk_4 (dk_at dksX1_traffic_0 9 rfl rfl)
theorem dX1_traffic_10 : decode cX1_traffic 10 = .ok (.goto 4, 3) := dk_167 0 4 (dk_at dksX1_traffic_0 10 rfl rfl)
theorem dX1_traffic_13 : decode cX1_traffic 13 = .ok (.iconst 0, 1) := dk_3 (dk_at dksX1_traffic_0 13 rfl rfl)
theorem dX1_traffic_14 : decode cX1_traffic 14 = .ok (.invokestatic 164, 3) := dk_184 0 164 (dk_at dksX1_traffic_0 14 rfl rfl)
theorem dX1_traffic_17 : decode cX1_traffic 17 = .ok (.aload_n 0, 1) := dk_42 (dk_at dksX1_traffic_0 17 rfl rfl)
theorem dX1_traffic_18 : decode cX1_traffic 18 = .ok (.invokevirtual 391, 3) := dk_182 1 135 (dk_at dksX1_traffic_0 18 rfl rfl)
theorem dX1_traffic_21 : decode cX1_traffic 21 = .ok (.iload_n 1, 1) := dk_27 (dk_at dksX1_traffic_0 21 rfl rfl)
theorem dX1_traffic_22 : decode cX1_traffic 22 = .ok (.iconst 2, 1) := dk_5 (dk_at dksX1_traffic_0 22 rfl rfl)
theorem dX1_traffic_23 : decode cX1_traffic 23 = .ok (.if_icmp .ge 19, 3) := dk_162 0 19 (dk_at dksX1_traffic_1 0 rfl rfl)
theorem dX1_traffic_26 : decode cX1_traffic 26 = .ok (.iload_n 1, 1) := dk_27 (dk_at dksX1_traffic_1 3 rfl rfl)
theorem dX1_traffic_27 : decode cX1_traffic 27 = .ok (.ifCond .ne 10, 3) := dk_154 0 10 (dk_at dksX1_traffic_1 4 rfl rfl)
theorem dX1_traffic_30 : decode cX1_traffic 30 = .ok (.aload_n 0, 1) := dk_42 (dk_at dksX1_traffic_1 7 rfl rfl)
theorem dX1_traffic_31 : decode cX1_traffic 31 = .ok (.getfield 370, 3) := dk_180 1 114 (dk_at dksX1_traffic_1 8 rfl rfl)
theorem dX1_traffic_34 : decode cX1_traffic 34 = .ok (.goto 7, 3) := dk_167 0 7 (dk_at dksX1_traffic_1 11 rfl rfl)
theorem dX1_traffic_37 : decode cX1_traffic 37 = .ok (.aload_n 0, 1) := dk_42 (dk_at dksX1_traffic_1 14 rfl rfl)
theorem dX1_traffic_38 : decode cX1_traffic 38 = .ok (.getfield 373, 3) := dk_180 1 117 (dk_at dksX1_traffic_1 15 rfl rfl)
theorem dX1_traffic_41 : decode cX1_traffic 41 = .ok (.ireturn, 1) := dk_172 (dk_at dksX1_traffic_1 18 rfl rfl)
theorem dX1_traffic_42 : decode cX1_traffic 42 = .ok (.iconst 0, 1) := dk_3 (dk_at dksX1_traffic_1 19 rfl rfl)
theorem dX1_traffic_43 : decode cX1_traffic 43 = .ok (.istore_n 2, 1) := dk_61 (dk_at dksX1_traffic_1 20 rfl rfl)
theorem dX1_traffic_44 : decode cX1_traffic 44 = .ok (.iconst (-1), 1) := dk_2 (dk_at dksX1_traffic_1 21 rfl rfl)
theorem dX1_traffic_45 : decode cX1_traffic 45 = .ok (.istore_n 3, 1) := dk_62 (dk_at dksX1_traffic_1 22 rfl rfl)
theorem dX1_traffic_46 : decode cX1_traffic 46 = .ok (.iconst 0, 1) := dk_3 (dk_at dksX1_traffic_1 23 rfl rfl)
theorem dX1_traffic_47 : decode cX1_traffic 47 = .ok (.istore 4, 2) := dk_54 4 (dk_at dksX1_traffic_2 0 rfl rfl)
theorem dX1_traffic_49 : decode cX1_traffic 49 = .ok (.iload 4, 2) := dk_21 4 (dk_at dksX1_traffic_2 2 rfl rfl)
theorem dX1_traffic_51 : decode cX1_traffic 51 = .ok (.aload_n 0, 1) := dk_42 (dk_at dksX1_traffic_2 4 rfl rfl)
theorem dX1_traffic_52 : decode cX1_traffic 52 = .ok (.getfield 12, 3) := dk_180 0 12 (dk_at dksX1_traffic_2 5 rfl rfl)
theorem dX1_traffic_55 : decode cX1_traffic 55 = .ok (.getfield 214, 3) := dk_180 0 214 (dk_at dksX1_traffic_2 8 rfl rfl)
theorem dX1_traffic_58 : decode cX1_traffic 58 = .ok (.invokevirtual 127, 3) := dk_182 0 127 (dk_at dksX1_traffic_2 11 rfl rfl)
theorem dX1_traffic_61 : decode cX1_traffic 61 = .ok (.if_icmp .ge 53, 3) := dk_162 0 53 (dk_at dksX1_traffic_2 14 rfl rfl)
theorem dX1_traffic_64 : decode cX1_traffic 64 = .ok (.iload_n 2, 1) := dk_28 (dk_at dksX1_traffic_2 17 rfl rfl)
theorem dX1_traffic_65 : decode cX1_traffic 65 = .ok (.aload_n 0, 1) := dk_42 (dk_at dksX1_traffic_2 18 rfl rfl)
theorem dX1_traffic_66 : decode cX1_traffic 66 = .ok (.getfield 99, 3) := dk_180 0 99 (dk_at dksX1_traffic_2 19 rfl rfl)
theorem dX1_traffic_69 : decode cX1_traffic 69 = .ok (.iload 4, 2) := dk_21 4 (dk_at dksX1_traffic_2 22 rfl rfl)
theorem dX1_traffic_71 : decode cX1_traffic 71 = .ok (.iaload, 1) := dk_46 (dk_at dksX1_traffic_3 0 rfl rfl)
theorem dX1_traffic_72 : decode cX1_traffic 72 = .ok (.iadd, 1) := dk_96 (dk_at dksX1_traffic_3 1 rfl rfl)
theorem dX1_traffic_73 : decode cX1_traffic 73 = .ok (.istore_n 2, 1) := dk_61 (dk_at dksX1_traffic_3 2 rfl rfl)
theorem dX1_traffic_74 : decode cX1_traffic 74 = .ok (.aload_n 0, 1) := dk_42 (dk_at dksX1_traffic_3 3 rfl rfl)
theorem dX1_traffic_75 : decode cX1_traffic 75 = .ok (.getfield 99, 3) := dk_180 0 99 (dk_at dksX1_traffic_3 4 rfl rfl)
theorem dX1_traffic_78 : decode cX1_traffic 78 = .ok (.iload 4, 2) := dk_21 4 (dk_at dksX1_traffic_3 7 rfl rfl)
theorem dX1_traffic_80 : decode cX1_traffic 80 = .ok (.iaload, 1) := dk_46 (dk_at dksX1_traffic_3 9 rfl rfl)
theorem dX1_traffic_81 : decode cX1_traffic 81 = .ok (.ifCond .le 27, 3) := dk_158 0 27 (dk_at dksX1_traffic_3 10 rfl rfl)
theorem dX1_traffic_84 : decode cX1_traffic 84 = .ok (.iload_n 3, 1) := dk_29 (dk_at dksX1_traffic_3 13 rfl rfl)
theorem dX1_traffic_85 : decode cX1_traffic 85 = .ok (.iconst (-1), 1) := dk_2 (dk_at dksX1_traffic_3 14 rfl rfl)
theorem dX1_traffic_86 : decode cX1_traffic 86 = .ok (.if_icmp .eq 19, 3) := dk_159 0 19 (dk_at dksX1_traffic_3 15 rfl rfl)
theorem dX1_traffic_89 : decode cX1_traffic 89 = .ok (.aload_n 0, 1) := dk_42 (dk_at dksX1_traffic_3 18 rfl rfl)
theorem dX1_traffic_90 : decode cX1_traffic 90 = .ok (.getfield 99, 3) := dk_180 0 99 (dk_at dksX1_traffic_3 19 rfl rfl)
theorem dX1_traffic_93 : decode cX1_traffic 93 = .ok (.iload 4, 2) := dk_21 4 (dk_at dksX1_traffic_3 22 rfl rfl)
theorem dX1_traffic_95 : decode cX1_traffic 95 = .ok (.iaload, 1) := dk_46 (dk_at dksX1_traffic_4 0 rfl rfl)
theorem dX1_traffic_96 : decode cX1_traffic 96 = .ok (.aload_n 0, 1) := dk_42 (dk_at dksX1_traffic_4 1 rfl rfl)
theorem dX1_traffic_97 : decode cX1_traffic 97 = .ok (.getfield 99, 3) := dk_180 0 99 (dk_at dksX1_traffic_4 2 rfl rfl)
theorem dX1_traffic_100 : decode cX1_traffic 100 = .ok (.iload_n 3, 1) := dk_29 (dk_at dksX1_traffic_4 5 rfl rfl)
theorem dX1_traffic_101 : decode cX1_traffic 101 = .ok (.iaload, 1) := dk_46 (dk_at dksX1_traffic_4 6 rfl rfl)
theorem dX1_traffic_102 : decode cX1_traffic 102 = .ok (.if_icmp .le 6, 3) := dk_164 0 6 (dk_at dksX1_traffic_4 7 rfl rfl)
theorem dX1_traffic_105 : decode cX1_traffic 105 = .ok (.iload 4, 2) := dk_21 4 (dk_at dksX1_traffic_4 10 rfl rfl)
theorem dX1_traffic_107 : decode cX1_traffic 107 = .ok (.istore_n 3, 1) := dk_62 (dk_at dksX1_traffic_4 12 rfl rfl)
theorem dX1_traffic_108 : decode cX1_traffic 108 = .ok (.iinc 4 1, 3) := dk_132 4 1 (dk_at dksX1_traffic_4 13 rfl rfl)
theorem dX1_traffic_111 : decode cX1_traffic 111 = .ok (.goto (-62), 3) := dk_167 255 194 (dk_at dksX1_traffic_4 16 rfl rfl)
theorem dX1_traffic_114 : decode cX1_traffic 114 = .ok (.iload_n 1, 1) := dk_27 (dk_at dksX1_traffic_4 19 rfl rfl)
theorem dX1_traffic_115 : decode cX1_traffic 115 = .ok (.iconst 2, 1) := dk_5 (dk_at dksX1_traffic_4 20 rfl rfl)
theorem dX1_traffic_116 : decode cX1_traffic 116 = .ok (.if_icmp .ne 7, 3) := dk_160 0 7 (dk_at dksX1_traffic_4 21 rfl rfl)
theorem dX1_traffic_119 : decode cX1_traffic 119 = .ok (.iload_n 2, 1) := dk_28 (dk_at dksX1_traffic_5 0 rfl rfl)
theorem dX1_traffic_120 : decode cX1_traffic 120 = .ok (.goto 4, 3) := dk_167 0 4 (dk_at dksX1_traffic_5 1 rfl rfl)
theorem dX1_traffic_123 : decode cX1_traffic 123 = .ok (.iload_n 3, 1) := dk_29 (dk_at dksX1_traffic_5 4 rfl rfl)
theorem dX1_traffic_124 : decode cX1_traffic 124 = .ok (.ireturn, 1) := dk_172 (dk_at dksX1_traffic_5 5 rfl rfl)
abbrev cX1_counts : ByteArray := prog_1_method_63_code
def yX1_counts : MethodName := ⟨RX1, "counts", "(I)I"⟩
def dkwX1_counts_4 : List UInt8 := [61, 132, 3, 1, 167, 255, 173, 28, 172]
abbrev dktX1_counts_4 : List UInt8 := dkwX1_counts_4 ++ []
def dkwX1_counts_3 : List UInt8 := [167, 0, 4, 3, 54, 4, 132, 5, 1, 167, 255, 212, 28, 21, 4, 153, 0, 7, 4, 167, 0, 4, 3, 96]
abbrev dktX1_counts_3 : List UInt8 := dkwX1_counts_3 ++ dktX1_counts_4
def dkwX1_counts_2 : List UInt8 := [21, 4, 154, 0, 21, 42, 180, 0, 81, 16, 48, 29, 104, 21, 5, 96, 46, 5, 108, 27, 160, 0, 7, 4]
abbrev dktX1_counts_2 : List UInt8 := dkwX1_counts_2 ++ dktX1_counts_3
def dkwX1_counts_1 : List UInt8 := [182, 0, 127, 162, 0, 75, 3, 54, 4, 3, 54, 5, 21, 5, 42, 180, 0, 84, 29, 46, 162, 0, 39]
abbrev dktX1_counts_1 : List UInt8 := dkwX1_counts_1 ++ dktX1_counts_2
def dkwX1_counts_0 : List UInt8 := [42, 27, 182, 0, 220, 87, 42, 182, 1, 111, 87, 3, 61, 3, 62, 29, 42, 180, 0, 12, 180, 0, 214]
abbrev dktX1_counts_0 : List UInt8 := dkwX1_counts_0 ++ dktX1_counts_1
theorem dksX1_counts_0 : cX1_counts.data.toList.drop 0 = dktX1_counts_0 := by decide +kernel
theorem dksX1_counts_1 : cX1_counts.data.toList.drop 23 = dktX1_counts_1 := dk_seg dksX1_counts_0 23 rfl rfl
theorem dksX1_counts_2 : cX1_counts.data.toList.drop 46 = dktX1_counts_2 := dk_seg dksX1_counts_1 23 rfl rfl
theorem dksX1_counts_3 : cX1_counts.data.toList.drop 70 = dktX1_counts_3 := dk_seg dksX1_counts_2 24 rfl rfl
theorem dksX1_counts_4 : cX1_counts.data.toList.drop 94 = dktX1_counts_4 := dk_seg dksX1_counts_3 24 rfl rfl
theorem dX1_counts_0 : decode cX1_counts 0 = .ok (.aload_n 0, 1) := dk_42 (dk_at dksX1_counts_0 0 rfl rfl)
theorem dX1_counts_1 : decode cX1_counts 1 = .ok (.iload_n 1, 1) := dk_27 (dk_at dksX1_counts_0 1 rfl rfl)
theorem dX1_counts_2 : decode cX1_counts 2 = .ok (.invokevirtual 220, 3) := dk_182 0 220 (dk_at dksX1_counts_0 2 rfl rfl)
theorem dX1_counts_5 : decode cX1_counts 5 = .ok (.pop, 1) := dk_87 (dk_at dksX1_counts_0 5 rfl rfl)
theorem dX1_counts_6 : decode cX1_counts 6 = .ok (.aload_n 0, 1) := dk_42 (dk_at dksX1_counts_0 6 rfl rfl)
theorem dX1_counts_7 : decode cX1_counts 7 = .ok (.invokevirtual 367, 3) := dk_182 1 111 (dk_at dksX1_counts_0 7 rfl rfl)
theorem dX1_counts_10 : decode cX1_counts 10 = .ok (.pop, 1) := dk_87 (dk_at dksX1_counts_0 10 rfl rfl)
theorem dX1_counts_11 : decode cX1_counts 11 = .ok (.iconst 0, 1) := dk_3 (dk_at dksX1_counts_0 11 rfl rfl)
theorem dX1_counts_12 : decode cX1_counts 12 = .ok (.istore_n 2, 1) := dk_61 (dk_at dksX1_counts_0 12 rfl rfl)
theorem dX1_counts_13 : decode cX1_counts 13 = .ok (.iconst 0, 1) := dk_3 (dk_at dksX1_counts_0 13 rfl rfl)
theorem dX1_counts_14 : decode cX1_counts 14 = .ok (.istore_n 3, 1) := dk_62 (dk_at dksX1_counts_0 14 rfl rfl)
theorem dX1_counts_15 : decode cX1_counts 15 = .ok (.iload_n 3, 1) := dk_29 (dk_at dksX1_counts_0 15 rfl rfl)
theorem dX1_counts_16 : decode cX1_counts 16 = .ok (.aload_n 0, 1) := dk_42 (dk_at dksX1_counts_0 16 rfl rfl)
theorem dX1_counts_17 : decode cX1_counts 17 = .ok (.getfield 12, 3) := dk_180 0 12 (dk_at dksX1_counts_0 17 rfl rfl)
theorem dX1_counts_20 : decode cX1_counts 20 = .ok (.getfield 214, 3) := dk_180 0 214 (dk_at dksX1_counts_0 20 rfl rfl)
theorem dX1_counts_23 : decode cX1_counts 23 = .ok (.invokevirtual 127, 3) := dk_182 0 127 (dk_at dksX1_counts_1 0 rfl rfl)
theorem dX1_counts_26 : decode cX1_counts 26 = .ok (.if_icmp .ge 75, 3) := dk_162 0 75 (dk_at dksX1_counts_1 3 rfl rfl)
theorem dX1_counts_29 : decode cX1_counts 29 = .ok (.iconst 0, 1) := dk_3 (dk_at dksX1_counts_1 6 rfl rfl)
theorem dX1_counts_30 : decode cX1_counts 30 = .ok (.istore 4, 2) := dk_54 4 (dk_at dksX1_counts_1 7 rfl rfl)
theorem dX1_counts_32 : decode cX1_counts 32 = .ok (.iconst 0, 1) := dk_3 (dk_at dksX1_counts_1 9 rfl rfl)
theorem dX1_counts_33 : decode cX1_counts 33 = .ok (.istore 5, 2) := dk_54 5 (dk_at dksX1_counts_1 10 rfl rfl)
theorem dX1_counts_35 : decode cX1_counts 35 = .ok (.iload 5, 2) := dk_21 5 (dk_at dksX1_counts_1 12 rfl rfl)
theorem dX1_counts_37 : decode cX1_counts 37 = .ok (.aload_n 0, 1) := dk_42 (dk_at dksX1_counts_1 14 rfl rfl)
theorem dX1_counts_38 : decode cX1_counts 38 = .ok (.getfield 84, 3) := dk_180 0 84 (dk_at dksX1_counts_1 15 rfl rfl)
theorem dX1_counts_41 : decode cX1_counts 41 = .ok (.iload_n 3, 1) := dk_29 (dk_at dksX1_counts_1 18 rfl rfl)
theorem dX1_counts_42 : decode cX1_counts 42 = .ok (.iaload, 1) := dk_46 (dk_at dksX1_counts_1 19 rfl rfl)
theorem dX1_counts_43 : decode cX1_counts 43 = .ok (.if_icmp .ge 39, 3) := dk_162 0 39 (dk_at dksX1_counts_1 20 rfl rfl)
theorem dX1_counts_46 : decode cX1_counts 46 = .ok (.iload 4, 2) := dk_21 4 (dk_at dksX1_counts_2 0 rfl rfl)
theorem dX1_counts_48 : decode cX1_counts 48 = .ok (.ifCond .ne 21, 3) := dk_154 0 21 (dk_at dksX1_counts_2 2 rfl rfl)
theorem dX1_counts_51 : decode cX1_counts 51 = .ok (.aload_n 0, 1) := dk_42 (dk_at dksX1_counts_2 5 rfl rfl)
theorem dX1_counts_52 : decode cX1_counts 52 = .ok (.getfield 81, 3) := dk_180 0 81 (dk_at dksX1_counts_2 6 rfl rfl)
theorem dX1_counts_55 : decode cX1_counts 55 = .ok (.bipush 48, 2) := dk_16 48 (dk_at dksX1_counts_2 9 rfl rfl)
theorem dX1_counts_57 : decode cX1_counts 57 = .ok (.iload_n 3, 1) := dk_29 (dk_at dksX1_counts_2 11 rfl rfl)
theorem dX1_counts_58 : decode cX1_counts 58 = .ok (.imul, 1) := dk_104 (dk_at dksX1_counts_2 12 rfl rfl)
theorem dX1_counts_59 : decode cX1_counts 59 = .ok (.iload 5, 2) := dk_21 5 (dk_at dksX1_counts_2 13 rfl rfl)
theorem dX1_counts_61 : decode cX1_counts 61 = .ok (.iadd, 1) := dk_96 (dk_at dksX1_counts_2 15 rfl rfl)
theorem dX1_counts_62 : decode cX1_counts 62 = .ok (.iaload, 1) := dk_46 (dk_at dksX1_counts_2 16 rfl rfl)
theorem dX1_counts_63 : decode cX1_counts 63 = .ok (.iconst 2, 1) := dk_5 (dk_at dksX1_counts_2 17 rfl rfl)
theorem dX1_counts_64 : decode cX1_counts 64 = .ok (.idiv, 1) := dk_108 (dk_at dksX1_counts_2 18 rfl rfl)
theorem dX1_counts_65 : decode cX1_counts 65 = .ok (.iload_n 1, 1) := dk_27 (dk_at dksX1_counts_2 19 rfl rfl)
theorem dX1_counts_66 : decode cX1_counts 66 = .ok (.if_icmp .ne 7, 3) := dk_160 0 7 (dk_at dksX1_counts_2 20 rfl rfl)
theorem dX1_counts_69 : decode cX1_counts 69 = .ok (.iconst 1, 1) := dk_4 (dk_at dksX1_counts_2 23 rfl rfl)
theorem dX1_counts_70 : decode cX1_counts 70 = .ok (.goto 4, 3) := dk_167 0 4 (dk_at dksX1_counts_3 0 rfl rfl)
theorem dX1_counts_73 : decode cX1_counts 73 = .ok (.iconst 0, 1) := dk_3 (dk_at dksX1_counts_3 3 rfl rfl)
theorem dX1_counts_74 : decode cX1_counts 74 = .ok (.istore 4, 2) := dk_54 4 (dk_at dksX1_counts_3 4 rfl rfl)
theorem dX1_counts_76 : decode cX1_counts 76 = .ok (.iinc 5 1, 3) := dk_132 5 1 (dk_at dksX1_counts_3 6 rfl rfl)
theorem dX1_counts_79 : decode cX1_counts 79 = .ok (.goto (-44), 3) := dk_167 255 212 (dk_at dksX1_counts_3 9 rfl rfl)
theorem dX1_counts_82 : decode cX1_counts 82 = .ok (.iload_n 2, 1) := dk_28 (dk_at dksX1_counts_3 12 rfl rfl)
theorem dX1_counts_83 : decode cX1_counts 83 = .ok (.iload 4, 2) := dk_21 4 (dk_at dksX1_counts_3 13 rfl rfl)
theorem dX1_counts_85 : decode cX1_counts 85 = .ok (.ifCond .eq 7, 3) := dk_153 0 7 (dk_at dksX1_counts_3 15 rfl rfl)
theorem dX1_counts_88 : decode cX1_counts 88 = .ok (.iconst 1, 1) := dk_4 (dk_at dksX1_counts_3 18 rfl rfl)
theorem dX1_counts_89 : decode cX1_counts 89 = .ok (.goto 4, 3) := dk_167 0 4 (dk_at dksX1_counts_3 19 rfl rfl)
theorem dX1_counts_92 : decode cX1_counts 92 = .ok (.iconst 0, 1) := dk_3 (dk_at dksX1_counts_3 22 rfl rfl)
theorem dX1_counts_93 : decode cX1_counts 93 = .ok (.iadd, 1) := dk_96 (dk_at dksX1_counts_3 23 rfl rfl)
theorem dX1_counts_94 : decode cX1_counts 94 = .ok (.istore_n 2, 1) := dk_61 (dk_at dksX1_counts_4 0 rfl rfl)
theorem dX1_counts_95 : decode cX1_counts 95 = .ok (.iinc 3 1, 3) := dk_132 3 1 (dk_at dksX1_counts_4 1 rfl rfl)
theorem dX1_counts_98 : decode cX1_counts 98 = .ok (.goto (-83), 3) := dk_167 255 173 (dk_at dksX1_counts_4 4 rfl rfl)
theorem dX1_counts_101 : decode cX1_counts 101 = .ok (.iload_n 2, 1) := dk_28 (dk_at dksX1_counts_4 7 rfl rfl)
theorem dX1_counts_102 : decode cX1_counts 102 = .ok (.ireturn, 1) := dk_172 (dk_at dksX1_counts_4 8 rfl rfl)
abbrev cX1_tell : ByteArray := prog_1_method_64_code
def yX1_tell : MethodName := ⟨RX1, "tell", "(I)I"⟩
def dkwX1_tell_2 : List UInt8 := [181, 0, 177, 42, 180, 0, 19, 180, 0, 177, 172]
abbrev dktX1_tell_2 : List UInt8 := dkwX1_tell_2 ++ []
def dkwX1_tell_1 : List UInt8 := [180, 1, 138, 42, 180, 0, 19, 180, 0, 177, 27, 79, 42, 180, 0, 19, 89, 180, 0, 177, 4, 96]
abbrev dktX1_tell_1 : List UInt8 := dkwX1_tell_1 ++ dktX1_tell_2
def dkwX1_tell_0 : List UInt8 := [42, 27, 182, 1, 38, 42, 180, 0, 19, 180, 0, 177, 16, 12, 160, 0, 5, 2, 172, 42, 180, 0, 19]
abbrev dktX1_tell_0 : List UInt8 := dkwX1_tell_0 ++ dktX1_tell_1
theorem dksX1_tell_0 : cX1_tell.data.toList.drop 0 = dktX1_tell_0 := by decide +kernel
theorem dksX1_tell_1 : cX1_tell.data.toList.drop 23 = dktX1_tell_1 := dk_seg dksX1_tell_0 23 rfl rfl
theorem dksX1_tell_2 : cX1_tell.data.toList.drop 45 = dktX1_tell_2 := dk_seg dksX1_tell_1 22 rfl rfl
theorem dX1_tell_0 : decode cX1_tell 0 = .ok (.aload_n 0, 1) := dk_42 (dk_at dksX1_tell_0 0 rfl rfl)
theorem dX1_tell_1 : decode cX1_tell 1 = .ok (.iload_n 1, 1) := dk_27 (dk_at dksX1_tell_0 1 rfl rfl)
theorem dX1_tell_2 : decode cX1_tell 2 = .ok (.invokevirtual 294, 3) := dk_182 1 38 (dk_at dksX1_tell_0 2 rfl rfl)
theorem dX1_tell_5 : decode cX1_tell 5 = .ok (.aload_n 0, 1) := dk_42 (dk_at dksX1_tell_0 5 rfl rfl)
theorem dX1_tell_6 : decode cX1_tell 6 = .ok (.getfield 19, 3) := dk_180 0 19 (dk_at dksX1_tell_0 6 rfl rfl)
theorem dX1_tell_9 : decode cX1_tell 9 = .ok (.getfield 177, 3) := dk_180 0 177 (dk_at dksX1_tell_0 9 rfl rfl)
theorem dX1_tell_12 : decode cX1_tell 12 = .ok (.bipush 12, 2) := dk_16 12 (dk_at dksX1_tell_0 12 rfl rfl)
theorem dX1_tell_14 : decode cX1_tell 14 = .ok (.if_icmp .ne 5, 3) := dk_160 0 5 (dk_at dksX1_tell_0 14 rfl rfl)
theorem dX1_tell_17 : decode cX1_tell 17 = .ok (.iconst (-1), 1) := dk_2 (dk_at dksX1_tell_0 17 rfl rfl)
theorem dX1_tell_18 : decode cX1_tell 18 = .ok (.ireturn, 1) := dk_172 (dk_at dksX1_tell_0 18 rfl rfl)
theorem dX1_tell_19 : decode cX1_tell 19 = .ok (.aload_n 0, 1) := dk_42 (dk_at dksX1_tell_0 19 rfl rfl)
theorem dX1_tell_20 : decode cX1_tell 20 = .ok (.getfield 19, 3) := dk_180 0 19 (dk_at dksX1_tell_0 20 rfl rfl)
theorem dX1_tell_23 : decode cX1_tell 23 = .ok (.getfield 394, 3) := dk_180 1 138 (dk_at dksX1_tell_1 0 rfl rfl)
theorem dX1_tell_26 : decode cX1_tell 26 = .ok (.aload_n 0, 1) := dk_42 (dk_at dksX1_tell_1 3 rfl rfl)
theorem dX1_tell_27 : decode cX1_tell 27 = .ok (.getfield 19, 3) := dk_180 0 19 (dk_at dksX1_tell_1 4 rfl rfl)
theorem dX1_tell_30 : decode cX1_tell 30 = .ok (.getfield 177, 3) := dk_180 0 177 (dk_at dksX1_tell_1 7 rfl rfl)
theorem dX1_tell_33 : decode cX1_tell 33 = .ok (.iload_n 1, 1) := dk_27 (dk_at dksX1_tell_1 10 rfl rfl)
theorem dX1_tell_34 : decode cX1_tell 34 = .ok (.iastore, 1) := dk_79 (dk_at dksX1_tell_1 11 rfl rfl)
theorem dX1_tell_35 : decode cX1_tell 35 = .ok (.aload_n 0, 1) := dk_42 (dk_at dksX1_tell_1 12 rfl rfl)
theorem dX1_tell_36 : decode cX1_tell 36 = .ok (.getfield 19, 3) := dk_180 0 19 (dk_at dksX1_tell_1 13 rfl rfl)
theorem dX1_tell_39 : decode cX1_tell 39 = .ok (.dup, 1) := dk_89 (dk_at dksX1_tell_1 16 rfl rfl)
theorem dX1_tell_40 : decode cX1_tell 40 = .ok (.getfield 177, 3) := dk_180 0 177 (dk_at dksX1_tell_1 17 rfl rfl)
theorem dX1_tell_43 : decode cX1_tell 43 = .ok (.iconst 1, 1) := dk_4 (dk_at dksX1_tell_1 20 rfl rfl)
theorem dX1_tell_44 : decode cX1_tell 44 = .ok (.iadd, 1) := dk_96 (dk_at dksX1_tell_1 21 rfl rfl)
theorem dX1_tell_45 : decode cX1_tell 45 = .ok (.putfield 177, 3) := dk_181 0 177 (dk_at dksX1_tell_2 0 rfl rfl)
theorem dX1_tell_48 : decode cX1_tell 48 = .ok (.aload_n 0, 1) := dk_42 (dk_at dksX1_tell_2 3 rfl rfl)
theorem dX1_tell_49 : decode cX1_tell 49 = .ok (.getfield 19, 3) := dk_180 0 19 (dk_at dksX1_tell_2 4 rfl rfl)
theorem dX1_tell_52 : decode cX1_tell 52 = .ok (.getfield 177, 3) := dk_180 0 177 (dk_at dksX1_tell_2 7 rfl rfl)
theorem dX1_tell_55 : decode cX1_tell 55 = .ok (.ireturn, 1) := dk_172 (dk_at dksX1_tell_2 10 rfl rfl)
abbrev cX1_breaks : ByteArray := prog_1_method_67_code
def yX1_breaks : MethodName := ⟨RX1, "breaks", "(II)J"⟩
def dkwX1_breaks_1 : List UInt8 := [184, 0, 164, 42, 27, 28, 182, 1, 141, 173]
abbrev dktX1_breaks_1 : List UInt8 := dkwX1_breaks_1 ++ []
def dkwX1_breaks_0 : List UInt8 := [42, 27, 182, 0, 254, 153, 0, 16, 28, 153, 0, 8, 28, 4, 160, 0, 7, 4, 167, 0, 4, 3]
abbrev dktX1_breaks_0 : List UInt8 := dkwX1_breaks_0 ++ dktX1_breaks_1
theorem dksX1_breaks_0 : cX1_breaks.data.toList.drop 0 = dktX1_breaks_0 := by decide +kernel
theorem dksX1_breaks_1 : cX1_breaks.data.toList.drop 22 = dktX1_breaks_1 := dk_seg dksX1_breaks_0 22 rfl rfl
theorem dX1_breaks_0 : decode cX1_breaks 0 = .ok (.aload_n 0, 1) := dk_42 (dk_at dksX1_breaks_0 0 rfl rfl)
theorem dX1_breaks_1 : decode cX1_breaks 1 = .ok (.iload_n 1, 1) := dk_27 (dk_at dksX1_breaks_0 1 rfl rfl)
theorem dX1_breaks_2 : decode cX1_breaks 2 = .ok (.invokevirtual 254, 3) := dk_182 0 254 (dk_at dksX1_breaks_0 2 rfl rfl)
theorem dX1_breaks_5 : decode cX1_breaks 5 = .ok (.ifCond .eq 16, 3) := dk_153 0 16 (dk_at dksX1_breaks_0 5 rfl rfl)
theorem dX1_breaks_8 : decode cX1_breaks 8 = .ok (.iload_n 2, 1) := dk_28 (dk_at dksX1_breaks_0 8 rfl rfl)
theorem dX1_breaks_9 : decode cX1_breaks 9 = .ok (.ifCond .eq 8, 3) := dk_153 0 8 (dk_at dksX1_breaks_0 9 rfl rfl)
theorem dX1_breaks_12 : decode cX1_breaks 12 = .ok (.iload_n 2, 1) := dk_28 (dk_at dksX1_breaks_0 12 rfl rfl)
theorem dX1_breaks_13 : decode cX1_breaks 13 = .ok (.iconst 1, 1) := dk_4 (dk_at dksX1_breaks_0 13 rfl rfl)
theorem dX1_breaks_14 : decode cX1_breaks 14 = .ok (.if_icmp .ne 7, 3) := dk_160 0 7 (dk_at dksX1_breaks_0 14 rfl rfl)
theorem dX1_breaks_17 : decode cX1_breaks 17 = .ok (.iconst 1, 1) := dk_4 (dk_at dksX1_breaks_0 17 rfl rfl)
theorem dX1_breaks_18 : decode cX1_breaks 18 = .ok (.goto 4, 3) := dk_167 0 4 (dk_at dksX1_breaks_0 18 rfl rfl)
theorem dX1_breaks_21 : decode cX1_breaks 21 = .ok (.iconst 0, 1) := dk_3 (dk_at dksX1_breaks_0 21 rfl rfl)
theorem dX1_breaks_22 : decode cX1_breaks 22 = .ok (.invokestatic 164, 3) := dk_184 0 164 (dk_at dksX1_breaks_1 0 rfl rfl)
theorem dX1_breaks_25 : decode cX1_breaks 25 = .ok (.aload_n 0, 1) := dk_42 (dk_at dksX1_breaks_1 3 rfl rfl)
theorem dX1_breaks_26 : decode cX1_breaks 26 = .ok (.iload_n 1, 1) := dk_27 (dk_at dksX1_breaks_1 4 rfl rfl)
theorem dX1_breaks_27 : decode cX1_breaks 27 = .ok (.iload_n 2, 1) := dk_28 (dk_at dksX1_breaks_1 5 rfl rfl)
theorem dX1_breaks_28 : decode cX1_breaks 28 = .ok (.invokevirtual 397, 3) := dk_182 1 141 (dk_at dksX1_breaks_1 6 rfl rfl)
theorem dX1_breaks_31 : decode cX1_breaks 31 = .ok (.lreturn, 1) := dk_173 (dk_at dksX1_breaks_1 9 rfl rfl)
abbrev cX1_breaksOf : ByteArray := prog_1_method_68_code
def yX1_breaksOf : MethodName := ⟨RX1, "breaksOf", "(II)J"⟩
def dkwX1_breaksOf_8 : List UInt8 := [167, 0, 14, 28, 154, 0, 8, 29, 133, 167, 0, 5, 22, 4, 173]
abbrev dktX1_breaksOf_8 : List UInt8 := dkwX1_breaksOf_8 ++ []
def dkwX1_breaksOf_7 : List UInt8 := [167, 0, 4, 9, 97, 55, 4, 132, 6, 1, 167, 255, 192, 29, 19, 1, 21, 160, 0, 9, 20, 1, 151]
abbrev dktX1_breaksOf_7 : List UInt8 := dkwX1_breaksOf_7 ++ dktX1_breaksOf_8
def dkwX1_breaksOf_6 : List UInt8 := [62, 9, 55, 4, 22, 4, 42, 180, 0, 102, 21, 6, 46, 29, 160, 0, 13, 42, 180, 0, 108, 21, 6, 47]
abbrev dktX1_breaksOf_6 : List UInt8 := dkwX1_breaksOf_6 ++ dktX1_breaksOf_7
def dkwX1_breaksOf_5 : List UInt8 := [182, 1, 15, 162, 0, 58, 42, 180, 0, 102, 21, 6, 46, 29, 162, 0, 14, 42, 180, 0, 102, 21, 6, 46]
abbrev dktX1_breaksOf_5 : List UInt8 := dkwX1_breaksOf_5 ++ dktX1_breaksOf_6
def dkwX1_breaksOf_4 : List UInt8 := [132, 3, 1, 167, 255, 234, 19, 1, 21, 62, 9, 55, 4, 3, 54, 6, 21, 6, 42, 180, 0, 12]
abbrev dktX1_breaksOf_4 : List UInt8 := dkwX1_breaksOf_4 ++ dktX1_breaksOf_5
def dkwX1_breaksOf_3 : List UInt8 := [167, 255, 200, 4, 62, 29, 4, 96, 42, 180, 0, 19, 180, 0, 177, 162, 0, 15, 42, 29, 27, 182, 1, 148]
abbrev dktX1_breaksOf_3 : List UInt8 := dkwX1_breaksOf_3 ++ dktX1_breaksOf_4
def dkwX1_breaksOf_2 : List UInt8 := [79, 42, 180, 0, 108, 29, 42, 29, 3, 182, 1, 145, 153, 0, 7, 10, 167, 0, 4, 9, 80, 132, 3, 1]
abbrev dktX1_breaksOf_2 : List UInt8 := dkwX1_breaksOf_2 ++ dktX1_breaksOf_3
def dkwX1_breaksOf_1 : List UInt8 := [162, 0, 51, 42, 180, 0, 102, 29, 42, 29, 3, 182, 1, 145, 153, 0, 7, 3, 167, 0, 6, 19, 1, 21]
abbrev dktX1_breaksOf_1 : List UInt8 := dkwX1_breaksOf_1 ++ dktX1_breaksOf_2
def dkwX1_breaksOf_0 : List UInt8 := [42, 180, 0, 19, 180, 0, 177, 5, 162, 0, 5, 9, 173, 3, 62, 29, 42, 180, 0, 12, 182, 1, 15]
abbrev dktX1_breaksOf_0 : List UInt8 := dkwX1_breaksOf_0 ++ dktX1_breaksOf_1
theorem dksX1_breaksOf_0 : cX1_breaksOf.data.toList.drop 0 = dktX1_breaksOf_0 := by decide +kernel
theorem dksX1_breaksOf_1 : cX1_breaksOf.data.toList.drop 23 = dktX1_breaksOf_1 := dk_seg dksX1_breaksOf_0 23 rfl rfl
theorem dksX1_breaksOf_2 : cX1_breaksOf.data.toList.drop 47 = dktX1_breaksOf_2 := dk_seg dksX1_breaksOf_1 24 rfl rfl
theorem dksX1_breaksOf_3 : cX1_breaksOf.data.toList.drop 71 = dktX1_breaksOf_3 := dk_seg dksX1_breaksOf_2 24 rfl rfl
theorem dksX1_breaksOf_4 : cX1_breaksOf.data.toList.drop 95 = dktX1_breaksOf_4 := dk_seg dksX1_breaksOf_3 24 rfl rfl
theorem dksX1_breaksOf_5 : cX1_breaksOf.data.toList.drop 117 = dktX1_breaksOf_5 := dk_seg dksX1_breaksOf_4 22 rfl rfl
theorem dksX1_breaksOf_6 : cX1_breaksOf.data.toList.drop 141 = dktX1_breaksOf_6 := dk_seg dksX1_breaksOf_5 24 rfl rfl
theorem dksX1_breaksOf_7 : cX1_breaksOf.data.toList.drop 165 = dktX1_breaksOf_7 := dk_seg dksX1_breaksOf_6 24 rfl rfl
theorem dksX1_breaksOf_8 : cX1_breaksOf.data.toList.drop 188 = dktX1_breaksOf_8 := dk_seg dksX1_breaksOf_7 23 rfl rfl
theorem dX1_breaksOf_0 : decode cX1_breaksOf 0 = .ok (.aload_n 0, 1) := dk_42 (dk_at dksX1_breaksOf_0 0 rfl rfl)
theorem dX1_breaksOf_1 : decode cX1_breaksOf 1 = .ok (.getfield 19, 3) := dk_180 0 19 (dk_at dksX1_breaksOf_0 1 rfl rfl)
theorem dX1_breaksOf_4 : decode cX1_breaksOf 4 = .ok (.getfield 177, 3) := dk_180 0 177 (dk_at dksX1_breaksOf_0 4 rfl rfl)
theorem dX1_breaksOf_7 : decode cX1_breaksOf 7 = .ok (.iconst 2, 1) := dk_5 (dk_at dksX1_breaksOf_0 7 rfl rfl)
theorem dX1_breaksOf_8 : decode cX1_breaksOf 8 = .ok (.if_icmp .ge 5, 3) := dk_162 0 5 (dk_at dksX1_breaksOf_0 8 rfl rfl)
theorem dX1_breaksOf_11 : decode cX1_breaksOf 11 = .ok (.lconst 0, 1) := dk_9 (dk_at dksX1_breaksOf_0 11 rfl rfl)
theorem dX1_breaksOf_12 : decode cX1_breaksOf 12 = .ok (.lreturn, 1) := dk_173 (dk_at dksX1_breaksOf_0 12 rfl rfl)
theorem dX1_breaksOf_13 : decode cX1_breaksOf 13 = .ok (.iconst 0, 1) := dk_3 (dk_at dksX1_breaksOf_0 13 rfl rfl)
theorem dX1_breaksOf_14 : decode cX1_breaksOf 14 = .ok (.istore_n 3, 1) := dk_62 (dk_at dksX1_breaksOf_0 14 rfl rfl)
theorem dX1_breaksOf_15 : decode cX1_breaksOf 15 = .ok (.iload_n 3, 1) := dk_29 (dk_at dksX1_breaksOf_0 15 rfl rfl)
theorem dX1_breaksOf_16 : decode cX1_breaksOf 16 = .ok (.aload_n 0, 1) := dk_42 (dk_at dksX1_breaksOf_0 16 rfl rfl)
theorem dX1_breaksOf_17 : decode cX1_breaksOf 17 = .ok (.getfield 12, 3) := dk_180 0 12 (dk_at dksX1_breaksOf_0 17 rfl rfl)
theorem dX1_breaksOf_20 : decode cX1_breaksOf 20 = .ok (.invokevirtual 271, 3) := dk_182 1 15 (dk_at dksX1_breaksOf_0 20 rfl rfl)
theorem dX1_breaksOf_23 : decode cX1_breaksOf 23 = .ok (.if_icmp .ge 51, 3) := dk_162 0 51 (dk_at dksX1_breaksOf_1 0 rfl rfl)
theorem dX1_breaksOf_26 : decode cX1_breaksOf 26 = .ok (.aload_n 0, 1) := dk_42 (dk_at dksX1_breaksOf_1 3 rfl rfl)
theorem dX1_breaksOf_27 : decode cX1_breaksOf 27 = .ok (.getfield 102, 3) := dk_180 0 102 (dk_at dksX1_breaksOf_1 4 rfl rfl)
theorem dX1_breaksOf_30 : decode cX1_breaksOf 30 = .ok (.iload_n 3, 1) := dk_29 (dk_at dksX1_breaksOf_1 7 rfl rfl)
theorem dX1_breaksOf_31 : decode cX1_breaksOf 31 = .ok (.aload_n 0, 1) := dk_42 (dk_at dksX1_breaksOf_1 8 rfl rfl)
theorem dX1_breaksOf_32 : decode cX1_breaksOf 32 = .ok (.iload_n 3, 1) := dk_29 (dk_at dksX1_breaksOf_1 9 rfl rfl)
theorem dX1_breaksOf_33 : decode cX1_breaksOf 33 = .ok (.iconst 0, 1) := dk_3 (dk_at dksX1_breaksOf_1 10 rfl rfl)
theorem dX1_breaksOf_34 : decode cX1_breaksOf 34 = .ok (.invokevirtual 401, 3) := dk_182 1 145 (dk_at dksX1_breaksOf_1 11 rfl rfl)
theorem dX1_breaksOf_37 : decode cX1_breaksOf 37 = .ok (.ifCond .eq 7, 3) := dk_153 0 7 (dk_at dksX1_breaksOf_1 14 rfl rfl)
theorem dX1_breaksOf_40 : decode cX1_breaksOf 40 = .ok (.iconst 0, 1) := dk_3 (dk_at dksX1_breaksOf_1 17 rfl rfl)
theorem dX1_breaksOf_41 : decode cX1_breaksOf 41 = .ok (.goto 6, 3) := dk_167 0 6 (dk_at dksX1_breaksOf_1 18 rfl rfl)
theorem dX1_breaksOf_44 : decode cX1_breaksOf 44 = .ok (.ldc_w 277, 3) := dk_19 1 21 (dk_at dksX1_breaksOf_1 21 rfl rfl)
theorem dX1_breaksOf_47 : decode cX1_breaksOf 47 = .ok (.iastore, 1) := dk_79 (dk_at dksX1_breaksOf_2 0 rfl rfl)
theorem dX1_breaksOf_48 : decode cX1_breaksOf 48 = .ok (.aload_n 0, 1) := dk_42 (dk_at dksX1_breaksOf_2 1 rfl rfl)
theorem dX1_breaksOf_49 : decode cX1_breaksOf 49 = .ok (.getfield 108, 3) := dk_180 0 108 (dk_at dksX1_breaksOf_2 2 rfl rfl)
theorem dX1_breaksOf_52 : decode cX1_breaksOf 52 = .ok (.iload_n 3, 1) := dk_29 (dk_at dksX1_breaksOf_2 5 rfl rfl)
theorem dX1_breaksOf_53 : decode cX1_breaksOf 53 = .ok (.aload_n 0, 1) := dk_42 (dk_at dksX1_breaksOf_2 6 rfl rfl)
theorem dX1_breaksOf_54 : decode cX1_breaksOf 54 = .ok (.iload_n 3, 1) := dk_29 (dk_at dksX1_breaksOf_2 7 rfl rfl)
theorem dX1_breaksOf_55 : decode cX1_breaksOf 55 = .ok (.iconst 0, 1) := dk_3 (dk_at dksX1_breaksOf_2 8 rfl rfl)
theorem dX1_breaksOf_56 : decode cX1_breaksOf 56 = .ok (.invokevirtual 401, 3) := dk_182 1 145 (dk_at dksX1_breaksOf_2 9 rfl rfl)
theorem dX1_breaksOf_59 : decode cX1_breaksOf 59 = .ok (.ifCond .eq 7, 3) := dk_153 0 7 (dk_at dksX1_breaksOf_2 12 rfl rfl)
theorem dX1_breaksOf_62 : decode cX1_breaksOf 62 = .ok (.lconst 1, 1) := dk_10 (dk_at dksX1_breaksOf_2 15 rfl rfl)
theorem dX1_breaksOf_63 : decode cX1_breaksOf 63 = .ok (.goto 4, 3) := dk_167 0 4 (dk_at dksX1_breaksOf_2 16 rfl rfl)
theorem dX1_breaksOf_66 : decode cX1_breaksOf 66 = .ok (.lconst 0, 1) := dk_9 (dk_at dksX1_breaksOf_2 19 rfl rfl)
theorem dX1_breaksOf_67 : decode cX1_breaksOf 67 = .ok (.lastore, 1) := dk_80 (dk_at dksX1_breaksOf_2 20 rfl rfl)
theorem dX1_breaksOf_68 : decode cX1_breaksOf 68 = .ok (.iinc 3 1, 3) := dk_132 3 1 (dk_at dksX1_breaksOf_2 21 rfl rfl)
theorem dX1_breaksOf_71 : decode cX1_breaksOf 71 = .ok (.goto (-56), 3) := dk_167 255 200 (dk_at dksX1_breaksOf_3 0 rfl rfl)
theorem dX1_breaksOf_74 : decode cX1_breaksOf 74 = .ok (.iconst 1, 1) := dk_4 (dk_at dksX1_breaksOf_3 3 rfl rfl)
theorem dX1_breaksOf_75 : decode cX1_breaksOf 75 = .ok (.istore_n 3, 1) := dk_62 (dk_at dksX1_breaksOf_3 4 rfl rfl)
theorem dX1_breaksOf_76 : decode cX1_breaksOf 76 = .ok (.iload_n 3, 1) := dk_29 (dk_at dksX1_breaksOf_3 5 rfl rfl)
theorem dX1_breaksOf_77 : decode cX1_breaksOf 77 = .ok (.iconst 1, 1) := dk_4 (dk_at dksX1_breaksOf_3 6 rfl rfl)
theorem dX1_breaksOf_78 : decode cX1_breaksOf 78 = .ok (.iadd, 1) := dk_96 (dk_at dksX1_breaksOf_3 7 rfl rfl)
theorem dX1_breaksOf_79 : decode cX1_breaksOf 79 = .ok (.aload_n 0, 1) := dk_42 (dk_at dksX1_breaksOf_3 8 rfl rfl)
theorem dX1_breaksOf_80 : decode cX1_breaksOf 80 = .ok (.getfield 19, 3) := dk_180 0 19 (dk_at dksX1_breaksOf_3 9 rfl rfl)
theorem dX1_breaksOf_83 : decode cX1_breaksOf 83 = .ok (.getfield 177, 3) := dk_180 0 177 (dk_at dksX1_breaksOf_3 12 rfl rfl)
theorem dX1_breaksOf_86 : decode cX1_breaksOf 86 = .ok (.if_icmp .ge 15, 3) := dk_162 0 15 (dk_at dksX1_breaksOf_3 15 rfl rfl)
theorem dX1_breaksOf_89 : decode cX1_breaksOf 89 = .ok (.aload_n 0, 1) := dk_42 (dk_at dksX1_breaksOf_3 18 rfl rfl)
theorem dX1_breaksOf_90 : decode cX1_breaksOf 90 = .ok (.iload_n 3, 1) := dk_29 (dk_at dksX1_breaksOf_3 19 rfl rfl)
theorem dX1_breaksOf_91 : decode cX1_breaksOf 91 = .ok (.iload_n 1, 1) := dk_27 (dk_at dksX1_breaksOf_3 20 rfl rfl)
theorem dX1_breaksOf_92 : decode cX1_breaksOf 92 = .ok (.invokevirtual 404, 3) := dk_182 1 148 (dk_at dksX1_breaksOf_3 21 rfl rfl)
theorem dX1_breaksOf_95 : decode cX1_breaksOf 95 = .ok (.iinc 3 1, 3) := dk_132 3 1 (dk_at dksX1_breaksOf_4 0 rfl rfl)
theorem dX1_breaksOf_98 : decode cX1_breaksOf 98 = .ok (.goto (-22), 3) := dk_167 255 234 (dk_at dksX1_breaksOf_4 3 rfl rfl)
theorem dX1_breaksOf_101 : decode cX1_breaksOf 101 = .ok (.ldc_w 277, 3) := dk_19 1 21 (dk_at dksX1_breaksOf_4 6 rfl rfl)
theorem dX1_breaksOf_104 : decode cX1_breaksOf 104 = .ok (.istore_n 3, 1) := dk_62 (dk_at dksX1_breaksOf_4 9 rfl rfl)
theorem dX1_breaksOf_105 : decode cX1_breaksOf 105 = .ok (.lconst 0, 1) := dk_9 (dk_at dksX1_breaksOf_4 10 rfl rfl)
theorem dX1_breaksOf_106 : decode cX1_breaksOf 106 = .ok (.lstore 4, 2) := dk_55 4 (dk_at dksX1_breaksOf_4 11 rfl rfl)
theorem dX1_breaksOf_108 : decode cX1_breaksOf 108 = .ok (.iconst 0, 1) := dk_3 (dk_at dksX1_breaksOf_4 13 rfl rfl)
theorem dX1_breaksOf_109 : decode cX1_breaksOf 109 = .ok (.istore 6, 2) := dk_54 6 (dk_at dksX1_breaksOf_4 14 rfl rfl)
theorem dX1_breaksOf_111 : decode cX1_breaksOf 111 = .ok (.iload 6, 2) := dk_21 6 (dk_at dksX1_breaksOf_4 16 rfl rfl)
theorem dX1_breaksOf_113 : decode cX1_breaksOf 113 = .ok (.aload_n 0, 1) := dk_42 (dk_at dksX1_breaksOf_4 18 rfl rfl)
theorem dX1_breaksOf_114 : decode cX1_breaksOf 114 = .ok (.getfield 12, 3) := dk_180 0 12 (dk_at dksX1_breaksOf_4 19 rfl rfl)
theorem dX1_breaksOf_117 : decode cX1_breaksOf 117 = .ok (.invokevirtual 271, 3) := dk_182 1 15 (dk_at dksX1_breaksOf_5 0 rfl rfl)
theorem dX1_breaksOf_120 : decode cX1_breaksOf 120 = .ok (.if_icmp .ge 58, 3) := dk_162 0 58 (dk_at dksX1_breaksOf_5 3 rfl rfl)
theorem dX1_breaksOf_123 : decode cX1_breaksOf 123 = .ok (.aload_n 0, 1) := dk_42 (dk_at dksX1_breaksOf_5 6 rfl rfl)
theorem dX1_breaksOf_124 : decode cX1_breaksOf 124 = .ok (.getfield 102, 3) := dk_180 0 102 (dk_at dksX1_breaksOf_5 7 rfl rfl)
theorem dX1_breaksOf_127 : decode cX1_breaksOf 127 = .ok (.iload 6, 2) := dk_21 6 (dk_at dksX1_breaksOf_5 10 rfl rfl)
theorem dX1_breaksOf_129 : decode cX1_breaksOf 129 = .ok (.iaload, 1) := dk_46 (dk_at dksX1_breaksOf_5 12 rfl rfl)
theorem dX1_breaksOf_130 : decode cX1_breaksOf 130 = .ok (.iload_n 3, 1) := dk_29 (dk_at dksX1_breaksOf_5 13 rfl rfl)
theorem dX1_breaksOf_131 : decode cX1_breaksOf 131 = .ok (.if_icmp .ge 14, 3) := dk_162 0 14 (dk_at dksX1_breaksOf_5 14 rfl rfl)
theorem dX1_breaksOf_134 : decode cX1_breaksOf 134 = .ok (.aload_n 0, 1) := dk_42 (dk_at dksX1_breaksOf_5 17 rfl rfl)
theorem dX1_breaksOf_135 : decode cX1_breaksOf 135 = .ok (.getfield 102, 3) := dk_180 0 102 (dk_at dksX1_breaksOf_5 18 rfl rfl)
theorem dX1_breaksOf_138 : decode cX1_breaksOf 138 = .ok (.iload 6, 2) := dk_21 6 (dk_at dksX1_breaksOf_5 21 rfl rfl)
theorem dX1_breaksOf_140 : decode cX1_breaksOf 140 = .ok (.iaload, 1) := dk_46 (dk_at dksX1_breaksOf_5 23 rfl rfl)
theorem dX1_breaksOf_141 : decode cX1_breaksOf 141 = .ok (.istore_n 3, 1) := dk_62 (dk_at dksX1_breaksOf_6 0 rfl rfl)
theorem dX1_breaksOf_142 : decode cX1_breaksOf 142 = .ok (.lconst 0, 1) := dk_9 (dk_at dksX1_breaksOf_6 1 rfl rfl)
theorem dX1_breaksOf_143 : decode cX1_breaksOf 143 = .ok (.lstore 4, 2) := dk_55 4 (dk_at dksX1_breaksOf_6 2 rfl rfl)
theorem dX1_breaksOf_145 : decode cX1_breaksOf 145 = .ok (.lload 4, 2) := dk_22 4 (dk_at dksX1_breaksOf_6 4 rfl rfl)
theorem dX1_breaksOf_147 : decode cX1_breaksOf 147 = .ok (.aload_n 0, 1) := dk_42 (dk_at dksX1_breaksOf_6 6 rfl rfl)
theorem dX1_breaksOf_148 : decode cX1_breaksOf 148 = .ok (.getfield 102, 3) := dk_180 0 102 (dk_at dksX1_breaksOf_6 7 rfl rfl)
theorem dX1_breaksOf_151 : decode cX1_breaksOf 151 = .ok (.iload 6, 2) := dk_21 6 (dk_at dksX1_breaksOf_6 10 rfl rfl)
theorem dX1_breaksOf_153 : decode cX1_breaksOf 153 = .ok (.iaload, 1) := dk_46 (dk_at dksX1_breaksOf_6 12 rfl rfl)
theorem dX1_breaksOf_154 : decode cX1_breaksOf 154 = .ok (.iload_n 3, 1) := dk_29 (dk_at dksX1_breaksOf_6 13 rfl rfl)
theorem dX1_breaksOf_155 : decode cX1_breaksOf 155 = .ok (.if_icmp .ne 13, 3) := dk_160 0 13 (dk_at dksX1_breaksOf_6 14 rfl rfl)
theorem dX1_breaksOf_158 : decode cX1_breaksOf 158 = .ok (.aload_n 0, 1) := dk_42 (dk_at dksX1_breaksOf_6 17 rfl rfl)
theorem dX1_breaksOf_159 : decode cX1_breaksOf 159 = .ok (.getfield 108, 3) := dk_180 0 108 (dk_at dksX1_breaksOf_6 18 rfl rfl)
theorem dX1_breaksOf_162 : decode cX1_breaksOf 162 = .ok (.iload 6, 2) := dk_21 6 (dk_at dksX1_breaksOf_6 21 rfl rfl)
theorem dX1_breaksOf_164 : decode cX1_breaksOf 164 = .ok (.laload, 1) := dk_47 (dk_at dksX1_breaksOf_6 23 rfl rfl)
theorem dX1_breaksOf_165 : decode cX1_breaksOf 165 = .ok (.goto 4, 3) := dk_167 0 4 (dk_at dksX1_breaksOf_7 0 rfl rfl)
theorem dX1_breaksOf_168 : decode cX1_breaksOf 168 = .ok (.lconst 0, 1) := dk_9 (dk_at dksX1_breaksOf_7 3 rfl rfl)
theorem dX1_breaksOf_169 : decode cX1_breaksOf 169 = .ok (.ladd, 1) := dk_97 (dk_at dksX1_breaksOf_7 4 rfl rfl)
theorem dX1_breaksOf_170 : decode cX1_breaksOf 170 = .ok (.lstore 4, 2) := dk_55 4 (dk_at dksX1_breaksOf_7 5 rfl rfl)
theorem dX1_breaksOf_172 : decode cX1_breaksOf 172 = .ok (.iinc 6 1, 3) := dk_132 6 1 (dk_at dksX1_breaksOf_7 7 rfl rfl)
theorem dX1_breaksOf_175 : decode cX1_breaksOf 175 = .ok (.goto (-64), 3) := dk_167 255 192 (dk_at dksX1_breaksOf_7 10 rfl rfl)
theorem dX1_breaksOf_178 : decode cX1_breaksOf 178 = .ok (.iload_n 3, 1) := dk_29 (dk_at dksX1_breaksOf_7 13 rfl rfl)
theorem dX1_breaksOf_179 : decode cX1_breaksOf 179 = .ok (.ldc_w 277, 3) := dk_19 1 21 (dk_at dksX1_breaksOf_7 14 rfl rfl)
theorem dX1_breaksOf_182 : decode cX1_breaksOf 182 = .ok (.if_icmp .ne 9, 3) := dk_160 0 9 (dk_at dksX1_breaksOf_7 17 rfl rfl)
theorem dX1_breaksOf_185 : decode cX1_breaksOf 185 = .ok (.ldc2_w 407, 3) := dk_20 1 151 (dk_at dksX1_breaksOf_7 20 rfl rfl)
theorem dX1_breaksOf_188 : decode cX1_breaksOf 188 = .ok (.goto 14, 3) := dk_167 0 14 (dk_at dksX1_breaksOf_8 0 rfl rfl)
theorem dX1_breaksOf_191 : decode cX1_breaksOf 191 = .ok (.iload_n 2, 1) := dk_28 (dk_at dksX1_breaksOf_8 3 rfl rfl)
theorem dX1_breaksOf_192 : decode cX1_breaksOf 192 = .ok (.ifCond .ne 8, 3) := dk_154 0 8 (dk_at dksX1_breaksOf_8 4 rfl rfl)
theorem dX1_breaksOf_195 : decode cX1_breaksOf 195 = .ok (.iload_n 3, 1) := dk_29 (dk_at dksX1_breaksOf_8 7 rfl rfl)
theorem dX1_breaksOf_196 : decode cX1_breaksOf 196 = .ok (.i2l, 1) := dk_133 (dk_at dksX1_breaksOf_8 8 rfl rfl)
theorem dX1_breaksOf_197 : decode cX1_breaksOf 197 = .ok (.goto 5, 3) := dk_167 0 5 (dk_at dksX1_breaksOf_8 9 rfl rfl)
theorem dX1_breaksOf_200 : decode cX1_breaksOf 200 = .ok (.lload 4, 2) := dk_22 4 (dk_at dksX1_breaksOf_8 12 rfl rfl)
theorem dX1_breaksOf_202 : decode cX1_breaksOf 202 = .ok (.lreturn, 1) := dk_173 (dk_at dksX1_breaksOf_8 14 rfl rfl)
abbrev cX1_isLeg : ByteArray := prog_1_method_66_code
def yX1_isLeg : MethodName := ⟨RX1, "isLeg", "(II)Z"⟩
def dkwX1_isLeg_2 : List UInt8 := [4, 96, 46, 160, 0, 7, 4, 167, 0, 4, 3, 172]
abbrev dktX1_isLeg_2 : List UInt8 := dkwX1_isLeg_2 ++ []
def dkwX1_isLeg_1 : List UInt8 := [180, 1, 138, 28, 46, 160, 0, 29, 42, 180, 0, 12, 27, 182, 1, 18, 42, 180, 0, 19, 180, 1, 138, 28]
abbrev dktX1_isLeg_1 : List UInt8 := dkwX1_isLeg_1 ++ dktX1_isLeg_2
def dkwX1_isLeg_0 : List UInt8 := [42, 180, 0, 12, 27, 182, 0, 150, 153, 0, 49, 42, 180, 0, 12, 27, 182, 1, 24, 42, 180, 0, 19]
abbrev dktX1_isLeg_0 : List UInt8 := dkwX1_isLeg_0 ++ dktX1_isLeg_1
theorem dksX1_isLeg_0 : cX1_isLeg.data.toList.drop 0 = dktX1_isLeg_0 := by decide +kernel
theorem dksX1_isLeg_1 : cX1_isLeg.data.toList.drop 23 = dktX1_isLeg_1 := dk_seg dksX1_isLeg_0 23 rfl rfl
theorem dksX1_isLeg_2 : cX1_isLeg.data.toList.drop 47 = dktX1_isLeg_2 := dk_seg dksX1_isLeg_1 24 rfl rfl
theorem dX1_isLeg_0 : decode cX1_isLeg 0 = .ok (.aload_n 0, 1) := dk_42 (dk_at dksX1_isLeg_0 0 rfl rfl)
theorem dX1_isLeg_1 : decode cX1_isLeg 1 = .ok (.getfield 12, 3) := dk_180 0 12 (dk_at dksX1_isLeg_0 1 rfl rfl)
theorem dX1_isLeg_4 : decode cX1_isLeg 4 = .ok (.iload_n 1, 1) := dk_27 (dk_at dksX1_isLeg_0 4 rfl rfl)
theorem dX1_isLeg_5 : decode cX1_isLeg 5 = .ok (.invokevirtual 150, 3) := dk_182 0 150 (dk_at dksX1_isLeg_0 5 rfl rfl)
theorem dX1_isLeg_8 : decode cX1_isLeg 8 = .ok (.ifCond .eq 49, 3) := dk_153 0 49 (dk_at dksX1_isLeg_0 8 rfl rfl)
theorem dX1_isLeg_11 : decode cX1_isLeg 11 = .ok (.aload_n 0, 1) := dk_42 (dk_at dksX1_isLeg_0 11 rfl rfl)
theorem dX1_isLeg_12 : decode cX1_isLeg 12 = .ok (.getfield 12, 3) := dk_180 0 12 (dk_at dksX1_isLeg_0 12 rfl rfl)
theorem dX1_isLeg_15 : decode cX1_isLeg 15 = .ok (.iload_n 1, 1) := dk_27 (dk_at dksX1_isLeg_0 15 rfl rfl)
theorem dX1_isLeg_16 : decode cX1_isLeg 16 = .ok (.invokevirtual 280, 3) := dk_182 1 24 (dk_at dksX1_isLeg_0 16 rfl rfl)
theorem dX1_isLeg_19 : decode cX1_isLeg 19 = .ok (.aload_n 0, 1) := dk_42 (dk_at dksX1_isLeg_0 19 rfl rfl)
theorem dX1_isLeg_20 : decode cX1_isLeg 20 = .ok (.getfield 19, 3) := dk_180 0 19 (dk_at dksX1_isLeg_0 20 rfl rfl)
theorem dX1_isLeg_23 : decode cX1_isLeg 23 = .ok (.getfield 394, 3) := dk_180 1 138 (dk_at dksX1_isLeg_1 0 rfl rfl)
theorem dX1_isLeg_26 : decode cX1_isLeg 26 = .ok (.iload_n 2, 1) := dk_28 (dk_at dksX1_isLeg_1 3 rfl rfl)
theorem dX1_isLeg_27 : decode cX1_isLeg 27 = .ok (.iaload, 1) := dk_46 (dk_at dksX1_isLeg_1 4 rfl rfl)
theorem dX1_isLeg_28 : decode cX1_isLeg 28 = .ok (.if_icmp .ne 29, 3) := dk_160 0 29 (dk_at dksX1_isLeg_1 5 rfl rfl)
theorem dX1_isLeg_31 : decode cX1_isLeg 31 = .ok (.aload_n 0, 1) := dk_42 (dk_at dksX1_isLeg_1 8 rfl rfl)
theorem dX1_isLeg_32 : decode cX1_isLeg 32 = .ok (.getfield 12, 3) := dk_180 0 12 (dk_at dksX1_isLeg_1 9 rfl rfl)
theorem dX1_isLeg_35 : decode cX1_isLeg 35 = .ok (.iload_n 1, 1) := dk_27 (dk_at dksX1_isLeg_1 12 rfl rfl)
theorem dX1_isLeg_36 : decode cX1_isLeg 36 = .ok (.invokevirtual 274, 3) := dk_182 1 18 (dk_at dksX1_isLeg_1 13 rfl rfl)
theorem dX1_isLeg_39 : decode cX1_isLeg 39 = .ok (.aload_n 0, 1) := dk_42 (dk_at dksX1_isLeg_1 16 rfl rfl)
theorem dX1_isLeg_40 : decode cX1_isLeg 40 = .ok (.getfield 19, 3) := dk_180 0 19 (dk_at dksX1_isLeg_1 17 rfl rfl)
theorem dX1_isLeg_43 : decode cX1_isLeg 43 = .ok (.getfield 394, 3) := dk_180 1 138 (dk_at dksX1_isLeg_1 20 rfl rfl)
theorem dX1_isLeg_46 : decode cX1_isLeg 46 = .ok (.iload_n 2, 1) := dk_28 (dk_at dksX1_isLeg_1 23 rfl rfl)
theorem dX1_isLeg_47 : decode cX1_isLeg 47 = .ok (.iconst 1, 1) := dk_4 (dk_at dksX1_isLeg_2 0 rfl rfl)
theorem dX1_isLeg_48 : decode cX1_isLeg 48 = .ok (.iadd, 1) := dk_96 (dk_at dksX1_isLeg_2 1 rfl rfl)
theorem dX1_isLeg_49 : decode cX1_isLeg 49 = .ok (.iaload, 1) := dk_46 (dk_at dksX1_isLeg_2 2 rfl rfl)
theorem dX1_isLeg_50 : decode cX1_isLeg 50 = .ok (.if_icmp .ne 7, 3) := dk_160 0 7 (dk_at dksX1_isLeg_2 3 rfl rfl)
theorem dX1_isLeg_53 : decode cX1_isLeg 53 = .ok (.iconst 1, 1) := dk_4 (dk_at dksX1_isLeg_2 6 rfl rfl)
theorem dX1_isLeg_54 : decode cX1_isLeg 54 = .ok (.goto 4, 3) := dk_167 0 4 (dk_at dksX1_isLeg_2 7 rfl rfl)
theorem dX1_isLeg_57 : decode cX1_isLeg 57 = .ok (.iconst 0, 1) := dk_3 (dk_at dksX1_isLeg_2 10 rfl rfl)
theorem dX1_isLeg_58 : decode cX1_isLeg 58 = .ok (.ireturn, 1) := dk_172 (dk_at dksX1_isLeg_2 11 rfl rfl)
abbrev cX1_leg : ByteArray := prog_1_method_69_code
def yX1_leg : MethodName := ⟨RX1, "leg", "(II)V"⟩
def dkwX1_leg_9 : List UInt8 := [184, 0, 184, 42, 180, 0, 111, 3, 42, 180, 0, 108, 3, 16, 48, 184, 0, 184, 177]
abbrev dktX1_leg_9 : List UInt8 := dkwX1_leg_9 ++ []
def dkwX1_leg_8 : List UInt8 := [132, 4, 1, 167, 255, 112, 132, 3, 1, 167, 255, 64, 42, 180, 0, 105, 3, 42, 180, 0, 102, 3, 16, 48]
abbrev dktX1_leg_8 : List UInt8 := dkwX1_leg_8 ++ dktX1_leg_9
def dkwX1_leg_7 : List UInt8 := [42, 180, 0, 105, 29, 46, 160, 0, 13, 42, 180, 0, 108, 21, 4, 47, 167, 0, 4, 9, 97, 80]
abbrev dktX1_leg_7 : List UInt8 := dkwX1_leg_7 ++ dktX1_leg_8
def dkwX1_leg_6 : List UInt8 := [42, 180, 0, 105, 29, 21, 6, 79, 42, 180, 0, 111, 29, 9, 80, 42, 180, 0, 111, 29, 92, 47, 21, 6]
abbrev dktX1_leg_6 : List UInt8 := dkwX1_leg_6 ++ dktX1_leg_7
def dkwX1_leg_5 : List UInt8 := [21, 5, 153, 0, 7, 3, 167, 0, 4, 4, 96, 54, 6, 21, 6, 42, 180, 0, 105, 29, 46, 162, 0, 18]
abbrev dktX1_leg_5 : List UInt8 := dkwX1_leg_5 ++ dktX1_leg_6
def dkwX1_leg_4 : List UInt8 := [160, 0, 16, 42, 180, 1, 153, 29, 5, 108, 160, 0, 6, 167, 0, 80, 42, 180, 0, 102, 21, 4, 46]
abbrev dktX1_leg_4 : List UInt8 := dkwX1_leg_4 ++ dktX1_leg_5
def dkwX1_leg_3 : List UInt8 := [21, 4, 46, 19, 1, 21, 159, 0, 109, 21, 5, 154, 0, 27, 42, 180, 0, 114, 21, 4, 5, 108]
abbrev dktX1_leg_3 : List UInt8 := dkwX1_leg_3 ++ dktX1_leg_4
def dkwX1_leg_2 : List UInt8 := [180, 0, 12, 182, 1, 15, 162, 0, 138, 42, 21, 4, 29, 28, 182, 1, 1, 54, 5, 42, 180, 0, 102]
abbrev dktX1_leg_2 : List UInt8 := dkwX1_leg_2 ++ dktX1_leg_3
def dkwX1_leg_1 : List UInt8 := [180, 0, 111, 29, 9, 80, 42, 29, 27, 182, 1, 145, 154, 0, 6, 167, 0, 153, 3, 54, 4, 21, 4, 42]
abbrev dktX1_leg_1 : List UInt8 := dkwX1_leg_1 ++ dktX1_leg_2
def dkwX1_leg_0 : List UInt8 := [3, 62, 29, 42, 180, 0, 12, 182, 1, 15, 162, 0, 187, 42, 180, 0, 105, 29, 19, 1, 21, 79, 42]
abbrev dktX1_leg_0 : List UInt8 := dkwX1_leg_0 ++ dktX1_leg_1
theorem dksX1_leg_0 : cX1_leg.data.toList.drop 0 = dktX1_leg_0 := by decide +kernel
theorem dksX1_leg_1 : cX1_leg.data.toList.drop 23 = dktX1_leg_1 := dk_seg dksX1_leg_0 23 rfl rfl
theorem dksX1_leg_2 : cX1_leg.data.toList.drop 47 = dktX1_leg_2 := dk_seg dksX1_leg_1 24 rfl rfl
theorem dksX1_leg_3 : cX1_leg.data.toList.drop 70 = dktX1_leg_3 := dk_seg dksX1_leg_2 23 rfl rfl
theorem dksX1_leg_4 : cX1_leg.data.toList.drop 92 = dktX1_leg_4 := dk_seg dksX1_leg_3 22 rfl rfl
theorem dksX1_leg_5 : cX1_leg.data.toList.drop 115 = dktX1_leg_5 := dk_seg dksX1_leg_4 23 rfl rfl
theorem dksX1_leg_6 : cX1_leg.data.toList.drop 139 = dktX1_leg_6 := dk_seg dksX1_leg_5 24 rfl rfl
theorem dksX1_leg_7 : cX1_leg.data.toList.drop 163 = dktX1_leg_7 := dk_seg dksX1_leg_6 24 rfl rfl
theorem dksX1_leg_8 : cX1_leg.data.toList.drop 185 = dktX1_leg_8 := dk_seg dksX1_leg_7 22 rfl rfl
theorem dksX1_leg_9 : cX1_leg.data.toList.drop 209 = dktX1_leg_9 := dk_seg dksX1_leg_8 24 rfl rfl
theorem dX1_leg_0 : decode cX1_leg 0 = .ok (.iconst 0, 1) := dk_3 (dk_at dksX1_leg_0 0 rfl rfl)
theorem dX1_leg_1 : decode cX1_leg 1 = .ok (.istore_n 3, 1) := dk_62 (dk_at dksX1_leg_0 1 rfl rfl)
theorem dX1_leg_2 : decode cX1_leg 2 = .ok (.iload_n 3, 1) := dk_29 (dk_at dksX1_leg_0 2 rfl rfl)
theorem dX1_leg_3 : decode cX1_leg 3 = .ok (.aload_n 0, 1) := dk_42 (dk_at dksX1_leg_0 3 rfl rfl)
theorem dX1_leg_4 : decode cX1_leg 4 = .ok (.getfield 12, 3) := dk_180 0 12 (dk_at dksX1_leg_0 4 rfl rfl)
theorem dX1_leg_7 : decode cX1_leg 7 = .ok (.invokevirtual 271, 3) := dk_182 1 15 (dk_at dksX1_leg_0 7 rfl rfl)
theorem dX1_leg_10 : decode cX1_leg 10 = .ok (.if_icmp .ge 187, 3) := dk_162 0 187 (dk_at dksX1_leg_0 10 rfl rfl)
theorem dX1_leg_13 : decode cX1_leg 13 = .ok (.aload_n 0, 1) := dk_42 (dk_at dksX1_leg_0 13 rfl rfl)
theorem dX1_leg_14 : decode cX1_leg 14 = .ok (.getfield 105, 3) := dk_180 0 105 (dk_at dksX1_leg_0 14 rfl rfl)
theorem dX1_leg_17 : decode cX1_leg 17 = .ok (.iload_n 3, 1) := dk_29 (dk_at dksX1_leg_0 17 rfl rfl)
theorem dX1_leg_18 : decode cX1_leg 18 = .ok (.ldc_w 277, 3) := dk_19 1 21 (dk_at dksX1_leg_0 18 rfl rfl)
theorem dX1_leg_21 : decode cX1_leg 21 = .ok (.iastore, 1) := dk_79 (dk_at dksX1_leg_0 21 rfl rfl)
theorem dX1_leg_22 : decode cX1_leg 22 = .ok (.aload_n 0, 1) := dk_42 (dk_at dksX1_leg_0 22 rfl rfl)
theorem dX1_leg_23 : decode cX1_leg 23 = .ok (.getfield 111, 3) := dk_180 0 111 (dk_at dksX1_leg_1 0 rfl rfl)
theorem dX1_leg_26 : decode cX1_leg 26 = .ok (.iload_n 3, 1) := dk_29 (dk_at dksX1_leg_1 3 rfl rfl)
theorem dX1_leg_27 : decode cX1_leg 27 = .ok (.lconst 0, 1) := dk_9 (dk_at dksX1_leg_1 4 rfl rfl)
theorem dX1_leg_28 : decode cX1_leg 28 = .ok (.lastore, 1) := dk_80 (dk_at dksX1_leg_1 5 rfl rfl)
theorem dX1_leg_29 : decode cX1_leg 29 = .ok (.aload_n 0, 1) := dk_42 (dk_at dksX1_leg_1 6 rfl rfl)
theorem dX1_leg_30 : decode cX1_leg 30 = .ok (.iload_n 3, 1) := dk_29 (dk_at dksX1_leg_1 7 rfl rfl)
theorem dX1_leg_31 : decode cX1_leg 31 = .ok (.iload_n 1, 1) := dk_27 (dk_at dksX1_leg_1 8 rfl rfl)
theorem dX1_leg_32 : decode cX1_leg 32 = .ok (.invokevirtual 401, 3) := dk_182 1 145 (dk_at dksX1_leg_1 9 rfl rfl)
theorem dX1_leg_35 : decode cX1_leg 35 = .ok (.ifCond .ne 6, 3) := dk_154 0 6 (dk_at dksX1_leg_1 12 rfl rfl)
theorem dX1_leg_38 : decode cX1_leg 38 = .ok (.goto 153, 3) := dk_167 0 153 (dk_at dksX1_leg_1 15 rfl rfl)
theorem dX1_leg_41 : decode cX1_leg 41 = .ok (.iconst 0, 1) := dk_3 (dk_at dksX1_leg_1 18 rfl rfl)
theorem dX1_leg_42 : decode cX1_leg 42 = .ok (.istore 4, 2) := dk_54 4 (dk_at dksX1_leg_1 19 rfl rfl)
theorem dX1_leg_44 : decode cX1_leg 44 = .ok (.iload 4, 2) := dk_21 4 (dk_at dksX1_leg_1 21 rfl rfl)
theorem dX1_leg_46 : decode cX1_leg 46 = .ok (.aload_n 0, 1) := dk_42 (dk_at dksX1_leg_1 23 rfl rfl)
theorem dX1_leg_47 : decode cX1_leg 47 = .ok (.getfield 12, 3) := dk_180 0 12 (dk_at dksX1_leg_2 0 rfl rfl)
theorem dX1_leg_50 : decode cX1_leg 50 = .ok (.invokevirtual 271, 3) := dk_182 1 15 (dk_at dksX1_leg_2 3 rfl rfl)
theorem dX1_leg_53 : decode cX1_leg 53 = .ok (.if_icmp .ge 138, 3) := dk_162 0 138 (dk_at dksX1_leg_2 6 rfl rfl)
theorem dX1_leg_56 : decode cX1_leg 56 = .ok (.aload_n 0, 1) := dk_42 (dk_at dksX1_leg_2 9 rfl rfl)
theorem dX1_leg_57 : decode cX1_leg 57 = .ok (.iload 4, 2) := dk_21 4 (dk_at dksX1_leg_2 10 rfl rfl)
theorem dX1_leg_59 : decode cX1_leg 59 = .ok (.iload_n 3, 1) := dk_29 (dk_at dksX1_leg_2 12 rfl rfl)
theorem dX1_leg_60 : decode cX1_leg 60 = .ok (.iload_n 2, 1) := dk_28 (dk_at dksX1_leg_2 13 rfl rfl)
theorem dX1_leg_61 : decode cX1_leg 61 = .ok (.invokevirtual 257, 3) := dk_182 1 1 (dk_at dksX1_leg_2 14 rfl rfl)
theorem dX1_leg_64 : decode cX1_leg 64 = .ok (.istore 5, 2) := dk_54 5 (dk_at dksX1_leg_2 17 rfl rfl)
theorem dX1_leg_66 : decode cX1_leg 66 = .ok (.aload_n 0, 1) := dk_42 (dk_at dksX1_leg_2 19 rfl rfl)
theorem dX1_leg_67 : decode cX1_leg 67 = .ok (.getfield 102, 3) := dk_180 0 102 (dk_at dksX1_leg_2 20 rfl rfl)
theorem dX1_leg_70 : decode cX1_leg 70 = .ok (.iload 4, 2) := dk_21 4 (dk_at dksX1_leg_3 0 rfl rfl)
theorem dX1_leg_72 : decode cX1_leg 72 = .ok (.iaload, 1) := dk_46 (dk_at dksX1_leg_3 2 rfl rfl)
theorem dX1_leg_73 : decode cX1_leg 73 = .ok (.ldc_w 277, 3) := dk_19 1 21 (dk_at dksX1_leg_3 3 rfl rfl)
theorem dX1_leg_76 : decode cX1_leg 76 = .ok (.if_icmp .eq 109, 3) := dk_159 0 109 (dk_at dksX1_leg_3 6 rfl rfl)
theorem dX1_leg_79 : decode cX1_leg 79 = .ok (.iload 5, 2) := dk_21 5 (dk_at dksX1_leg_3 9 rfl rfl)
theorem dX1_leg_81 : decode cX1_leg 81 = .ok (.ifCond .ne 27, 3) := dk_154 0 27 (dk_at dksX1_leg_3 11 rfl rfl)
theorem dX1_leg_84 : decode cX1_leg 84 = .ok (.aload_n 0, 1) := dk_42 (dk_at dksX1_leg_3 14 rfl rfl)
theorem dX1_leg_85 : decode cX1_leg 85 = .ok (.getfield 114, 3) := dk_180 0 114 (dk_at dksX1_leg_3 15 rfl rfl)
theorem dX1_leg_88 : decode cX1_leg 88 = .ok (.iload 4, 2) := dk_21 4 (dk_at dksX1_leg_3 18 rfl rfl)
theorem dX1_leg_90 : decode cX1_leg 90 = .ok (.iconst 2, 1) := dk_5 (dk_at dksX1_leg_3 20 rfl rfl)
theorem dX1_leg_91 : decode cX1_leg 91 = .ok (.idiv, 1) := dk_108 (dk_at dksX1_leg_3 21 rfl rfl)
theorem dX1_leg_92 : decode cX1_leg 92 = .ok (.if_icmp .ne 16, 3) := dk_160 0 16 (dk_at dksX1_leg_4 0 rfl rfl)
theorem dX1_leg_95 : decode cX1_leg 95 = .ok (.aload_n 0, 1) := dk_42 (dk_at dksX1_leg_4 3 rfl rfl)
theorem dX1_leg_96 : decode cX1_leg 96 = .ok (.getfield 409, 3) := dk_180 1 153 (dk_at dksX1_leg_4 4 rfl rfl)
theorem dX1_leg_99 : decode cX1_leg 99 = .ok (.iload_n 3, 1) := dk_29 (dk_at dksX1_leg_4 7 rfl rfl)
theorem dX1_leg_100 : decode cX1_leg 100 = .ok (.iconst 2, 1) := dk_5 (dk_at dksX1_leg_4 8 rfl rfl)
theorem dX1_leg_101 : decode cX1_leg 101 = .ok (.idiv, 1) := dk_108 (dk_at dksX1_leg_4 9 rfl rfl)
theorem dX1_leg_102 : decode cX1_leg 102 = .ok (.if_icmp .ne 6, 3) := dk_160 0 6 (dk_at dksX1_leg_4 10 rfl rfl)
theorem dX1_leg_105 : decode cX1_leg 105 = .ok (.goto 80, 3) := dk_167 0 80 (dk_at dksX1_leg_4 13 rfl rfl)
theorem dX1_leg_108 : decode cX1_leg 108 = .ok (.aload_n 0, 1) := dk_42 (dk_at dksX1_leg_4 16 rfl rfl)
theorem dX1_leg_109 : decode cX1_leg 109 = .ok (.getfield 102, 3) := dk_180 0 102 (dk_at dksX1_leg_4 17 rfl rfl)
theorem dX1_leg_112 : decode cX1_leg 112 = .ok (.iload 4, 2) := dk_21 4 (dk_at dksX1_leg_4 20 rfl rfl)
theorem dX1_leg_114 : decode cX1_leg 114 = .ok (.iaload, 1) := dk_46 (dk_at dksX1_leg_4 22 rfl rfl)
theorem dX1_leg_115 : decode cX1_leg 115 = .ok (.iload 5, 2) := dk_21 5 (dk_at dksX1_leg_5 0 rfl rfl)
theorem dX1_leg_117 : decode cX1_leg 117 = .ok (.ifCond .eq 7, 3) := dk_153 0 7 (dk_at dksX1_leg_5 2 rfl rfl)
theorem dX1_leg_120 : decode cX1_leg 120 = .ok (.iconst 0, 1) := dk_3 (dk_at dksX1_leg_5 5 rfl rfl)
theorem dX1_leg_121 : decode cX1_leg 121 = .ok (.goto 4, 3) := dk_167 0 4 (dk_at dksX1_leg_5 6 rfl rfl)
theorem dX1_leg_124 : decode cX1_leg 124 = .ok (.iconst 1, 1) := dk_4 (dk_at dksX1_leg_5 9 rfl rfl)
theorem dX1_leg_125 : decode cX1_leg 125 = .ok (.iadd, 1) := dk_96 (dk_at dksX1_leg_5 10 rfl rfl)
theorem dX1_leg_126 : decode cX1_leg 126 = .ok (.istore 6, 2) := dk_54 6 (dk_at dksX1_leg_5 11 rfl rfl)
theorem dX1_leg_128 : decode cX1_leg 128 = .ok (.iload 6, 2) := dk_21 6 (dk_at dksX1_leg_5 13 rfl rfl)
theorem dX1_leg_130 : decode cX1_leg 130 = .ok (.aload_n 0, 1) := dk_42 (dk_at dksX1_leg_5 15 rfl rfl)
theorem dX1_leg_131 : decode cX1_leg 131 = .ok (.getfield 105, 3) := dk_180 0 105 (dk_at dksX1_leg_5 16 rfl rfl)
theorem dX1_leg_134 : decode cX1_leg 134 = .ok (.iload_n 3, 1) := dk_29 (dk_at dksX1_leg_5 19 rfl rfl)
theorem dX1_leg_135 : decode cX1_leg 135 = .ok (.iaload, 1) := dk_46 (dk_at dksX1_leg_5 20 rfl rfl)
theorem dX1_leg_136 : decode cX1_leg 136 = .ok (.if_icmp .ge 18, 3) := dk_162 0 18 (dk_at dksX1_leg_5 21 rfl rfl)
theorem dX1_leg_139 : decode cX1_leg 139 = .ok (.aload_n 0, 1) := dk_42 (dk_at dksX1_leg_6 0 rfl rfl)
theorem dX1_leg_140 : decode cX1_leg 140 = .ok (.getfield 105, 3) := dk_180 0 105 (dk_at dksX1_leg_6 1 rfl rfl)
theorem dX1_leg_143 : decode cX1_leg 143 = .ok (.iload_n 3, 1) := dk_29 (dk_at dksX1_leg_6 4 rfl rfl)
theorem dX1_leg_144 : decode cX1_leg 144 = .ok (.iload 6, 2) := dk_21 6 (dk_at dksX1_leg_6 5 rfl rfl)
theorem dX1_leg_146 : decode cX1_leg 146 = .ok (.iastore, 1) := dk_79 (dk_at dksX1_leg_6 7 rfl rfl)
theorem dX1_leg_147 : decode cX1_leg 147 = .ok (.aload_n 0, 1) := dk_42 (dk_at dksX1_leg_6 8 rfl rfl)
theorem dX1_leg_148 : decode cX1_leg 148 = .ok (.getfield 111, 3) := dk_180 0 111 (dk_at dksX1_leg_6 9 rfl rfl)
theorem dX1_leg_151 : decode cX1_leg 151 = .ok (.iload_n 3, 1) := dk_29 (dk_at dksX1_leg_6 12 rfl rfl)
theorem dX1_leg_152 : decode cX1_leg 152 = .ok (.lconst 0, 1) := dk_9 (dk_at dksX1_leg_6 13 rfl rfl)
theorem dX1_leg_153 : decode cX1_leg 153 = .ok (.lastore, 1) := dk_80 (dk_at dksX1_leg_6 14 rfl rfl)
theorem dX1_leg_154 : decode cX1_leg 154 = .ok (.aload_n 0, 1) := dk_42 (dk_at dksX1_leg_6 15 rfl rfl)
theorem dX1_leg_155 : decode cX1_leg 155 = .ok (.getfield 111, 3) := dk_180 0 111 (dk_at dksX1_leg_6 16 rfl rfl)
theorem dX1_leg_158 : decode cX1_leg 158 = .ok (.iload_n 3, 1) := dk_29 (dk_at dksX1_leg_6 19 rfl rfl)
theorem dX1_leg_159 : decode cX1_leg 159 = .ok (.dup2, 1) := dk_92 (dk_at dksX1_leg_6 20 rfl rfl)
theorem dX1_leg_160 : decode cX1_leg 160 = .ok (.laload, 1) := dk_47 (dk_at dksX1_leg_6 21 rfl rfl)
theorem dX1_leg_161 : decode cX1_leg 161 = .ok (.iload 6, 2) := dk_21 6 (dk_at dksX1_leg_6 22 rfl rfl)
theorem dX1_leg_163 : decode cX1_leg 163 = .ok (.aload_n 0, 1) := dk_42 (dk_at dksX1_leg_7 0 rfl rfl)
theorem dX1_leg_164 : decode cX1_leg 164 = .ok (.getfield 105, 3) := dk_180 0 105 (dk_at dksX1_leg_7 1 rfl rfl)
theorem dX1_leg_167 : decode cX1_leg 167 = .ok (.iload_n 3, 1) := dk_29 (dk_at dksX1_leg_7 4 rfl rfl)
theorem dX1_leg_168 : decode cX1_leg 168 = .ok (.iaload, 1) := dk_46 (dk_at dksX1_leg_7 5 rfl rfl)
theorem dX1_leg_169 : decode cX1_leg 169 = .ok (.if_icmp .ne 13, 3) := dk_160 0 13 (dk_at dksX1_leg_7 6 rfl rfl)
theorem dX1_leg_172 : decode cX1_leg 172 = .ok (.aload_n 0, 1) := dk_42 (dk_at dksX1_leg_7 9 rfl rfl)
theorem dX1_leg_173 : decode cX1_leg 173 = .ok (.getfield 108, 3) := dk_180 0 108 (dk_at dksX1_leg_7 10 rfl rfl)
theorem dX1_leg_176 : decode cX1_leg 176 = .ok (.iload 4, 2) := dk_21 4 (dk_at dksX1_leg_7 13 rfl rfl)
theorem dX1_leg_178 : decode cX1_leg 178 = .ok (.laload, 1) := dk_47 (dk_at dksX1_leg_7 15 rfl rfl)
theorem dX1_leg_179 : decode cX1_leg 179 = .ok (.goto 4, 3) := dk_167 0 4 (dk_at dksX1_leg_7 16 rfl rfl)
theorem dX1_leg_182 : decode cX1_leg 182 = .ok (.lconst 0, 1) := dk_9 (dk_at dksX1_leg_7 19 rfl rfl)
theorem dX1_leg_183 : decode cX1_leg 183 = .ok (.ladd, 1) := dk_97 (dk_at dksX1_leg_7 20 rfl rfl)
theorem dX1_leg_184 : decode cX1_leg 184 = .ok (.lastore, 1) := dk_80 (dk_at dksX1_leg_7 21 rfl rfl)
theorem dX1_leg_185 : decode cX1_leg 185 = .ok (.iinc 4 1, 3) := dk_132 4 1 (dk_at dksX1_leg_8 0 rfl rfl)
theorem dX1_leg_188 : decode cX1_leg 188 = .ok (.goto (-144), 3) := dk_167 255 112 (dk_at dksX1_leg_8 3 rfl rfl)
theorem dX1_leg_191 : decode cX1_leg 191 = .ok (.iinc 3 1, 3) := dk_132 3 1 (dk_at dksX1_leg_8 6 rfl rfl)
theorem dX1_leg_194 : decode cX1_leg 194 = .ok (.goto (-192), 3) := dk_167 255 64 (dk_at dksX1_leg_8 9 rfl rfl)
theorem dX1_leg_197 : decode cX1_leg 197 = .ok (.aload_n 0, 1) := dk_42 (dk_at dksX1_leg_8 12 rfl rfl)
theorem dX1_leg_198 : decode cX1_leg 198 = .ok (.getfield 105, 3) := dk_180 0 105 (dk_at dksX1_leg_8 13 rfl rfl)
theorem dX1_leg_201 : decode cX1_leg 201 = .ok (.iconst 0, 1) := dk_3 (dk_at dksX1_leg_8 16 rfl rfl)
theorem dX1_leg_202 : decode cX1_leg 202 = .ok (.aload_n 0, 1) := dk_42 (dk_at dksX1_leg_8 17 rfl rfl)
theorem dX1_leg_203 : decode cX1_leg 203 = .ok (.getfield 102, 3) := dk_180 0 102 (dk_at dksX1_leg_8 18 rfl rfl)
theorem dX1_leg_206 : decode cX1_leg 206 = .ok (.iconst 0, 1) := dk_3 (dk_at dksX1_leg_8 21 rfl rfl)
theorem dX1_leg_207 : decode cX1_leg 207 = .ok (.bipush 48, 2) := dk_16 48 (dk_at dksX1_leg_8 22 rfl rfl)
theorem dX1_leg_209 : decode cX1_leg 209 = .ok (.invokestatic 184, 3) := dk_184 0 184 (dk_at dksX1_leg_9 0 rfl rfl)
theorem dX1_leg_212 : decode cX1_leg 212 = .ok (.aload_n 0, 1) := dk_42 (dk_at dksX1_leg_9 3 rfl rfl)
theorem dX1_leg_213 : decode cX1_leg 213 = .ok (.getfield 111, 3) := dk_180 0 111 (dk_at dksX1_leg_9 4 rfl rfl)
theorem dX1_leg_216 : decode cX1_leg 216 = .ok (.iconst 0, 1) := dk_3 (dk_at dksX1_leg_9 7 rfl rfl)
theorem dX1_leg_217 : decode cX1_leg 217 = .ok (.aload_n 0, 1) := dk_42 (dk_at dksX1_leg_9 8 rfl rfl)
theorem dX1_leg_218 : decode cX1_leg 218 = .ok (.getfield 108, 3) := dk_180 0 108 (dk_at dksX1_leg_9 9 rfl rfl)
theorem dX1_leg_221 : decode cX1_leg 221 = .ok (.iconst 0, 1) := dk_3 (dk_at dksX1_leg_9 12 rfl rfl)
theorem dX1_leg_222 : decode cX1_leg 222 = .ok (.bipush 48, 2) := dk_16 48 (dk_at dksX1_leg_9 13 rfl rfl)
theorem dX1_leg_224 : decode cX1_leg 224 = .ok (.invokestatic 184, 3) := dk_184 0 184 (dk_at dksX1_leg_9 15 rfl rfl)
theorem dX1_leg_227 : decode cX1_leg 227 = .ok (.return_, 1) := dk_177 (dk_at dksX1_leg_9 18 rfl rfl)
abbrev cX1_cut : ByteArray := prog_1_method_71_code
def yX1_cut : MethodName := ⟨RX1, "cut", "(I)I"⟩
def dkwX1_cut_3 : List UInt8 := [21, 6, 160, 0, 12, 21, 4, 28, 162, 0, 6, 21, 4, 61, 132, 3, 1, 167, 255, 181, 28, 172]
abbrev dktX1_cut_3 : List UInt8 := dkwX1_cut_3 ++ []
def dkwX1_cut_2 : List UInt8 := [184, 0, 208, 54, 5, 28, 184, 0, 208, 54, 6, 28, 153, 0, 23, 21, 5, 21, 6, 161, 0, 16, 21, 5]
abbrev dktX1_cut_2 : List UInt8 := dkwX1_cut_2 ++ dktX1_cut_3
def dkwX1_cut_1 : List UInt8 := [182, 1, 156, 54, 4, 21, 4, 4, 42, 182, 0, 133, 120, 4, 100, 160, 0, 6, 167, 0, 43, 21, 4]
abbrev dktX1_cut_1 : List UInt8 := dkwX1_cut_1 ++ dktX1_cut_2
def dkwX1_cut_0 : List UInt8 := [42, 27, 182, 0, 254, 184, 0, 164, 3, 61, 3, 62, 29, 42, 182, 0, 133, 162, 0, 73, 42, 29, 27]
abbrev dktX1_cut_0 : List UInt8 := dkwX1_cut_0 ++ dktX1_cut_1
theorem dksX1_cut_0 : cX1_cut.data.toList.drop 0 = dktX1_cut_0 := by decide +kernel
theorem dksX1_cut_1 : cX1_cut.data.toList.drop 23 = dktX1_cut_1 := dk_seg dksX1_cut_0 23 rfl rfl
theorem dksX1_cut_2 : cX1_cut.data.toList.drop 46 = dktX1_cut_2 := dk_seg dksX1_cut_1 23 rfl rfl
theorem dksX1_cut_3 : cX1_cut.data.toList.drop 70 = dktX1_cut_3 := dk_seg dksX1_cut_2 24 rfl rfl
theorem dX1_cut_0 : decode cX1_cut 0 = .ok (.aload_n 0, 1) := dk_42 (dk_at dksX1_cut_0 0 rfl rfl)
theorem dX1_cut_1 : decode cX1_cut 1 = .ok (.iload_n 1, 1) := dk_27 (dk_at dksX1_cut_0 1 rfl rfl)
theorem dX1_cut_2 : decode cX1_cut 2 = .ok (.invokevirtual 254, 3) := dk_182 0 254 (dk_at dksX1_cut_0 2 rfl rfl)
theorem dX1_cut_5 : decode cX1_cut 5 = .ok (.invokestatic 164, 3) := dk_184 0 164 (dk_at dksX1_cut_0 5 rfl rfl)
theorem dX1_cut_8 : decode cX1_cut 8 = .ok (.iconst 0, 1) := dk_3 (dk_at dksX1_cut_0 8 rfl rfl)
theorem dX1_cut_9 : decode cX1_cut 9 = .ok (.istore_n 2, 1) := dk_61 (dk_at dksX1_cut_0 9 rfl rfl)
theorem dX1_cut_10 : decode cX1_cut 10 = .ok (.iconst 0, 1) := dk_3 (dk_at dksX1_cut_0 10 rfl rfl)
theorem dX1_cut_11 : decode cX1_cut 11 = .ok (.istore_n 3, 1) := dk_62 (dk_at dksX1_cut_0 11 rfl rfl)
theorem dX1_cut_12 : decode cX1_cut 12 = .ok (.iload_n 3, 1) := dk_29 (dk_at dksX1_cut_0 12 rfl rfl)
theorem dX1_cut_13 : decode cX1_cut 13 = .ok (.aload_n 0, 1) := dk_42 (dk_at dksX1_cut_0 13 rfl rfl)
theorem dX1_cut_14 : decode cX1_cut 14 = .ok (.invokevirtual 133, 3) := dk_182 0 133 (dk_at dksX1_cut_0 14 rfl rfl)
theorem dX1_cut_17 : decode cX1_cut 17 = .ok (.if_icmp .ge 73, 3) := dk_162 0 73 (dk_at dksX1_cut_0 17 rfl rfl)
theorem dX1_cut_20 : decode cX1_cut 20 = .ok (.aload_n 0, 1) := dk_42 (dk_at dksX1_cut_0 20 rfl rfl)
theorem dX1_cut_21 : decode cX1_cut 21 = .ok (.iload_n 3, 1) := dk_29 (dk_at dksX1_cut_0 21 rfl rfl)
theorem dX1_cut_22 : decode cX1_cut 22 = .ok (.iload_n 1, 1) := dk_27 (dk_at dksX1_cut_0 22 rfl rfl)
theorem dX1_cut_23 : decode cX1_cut 23 = .ok (.invokevirtual 412, 3) := dk_182 1 156 (dk_at dksX1_cut_1 0 rfl rfl)
theorem dX1_cut_26 : decode cX1_cut 26 = .ok (.istore 4, 2) := dk_54 4 (dk_at dksX1_cut_1 3 rfl rfl)
theorem dX1_cut_28 : decode cX1_cut 28 = .ok (.iload 4, 2) := dk_21 4 (dk_at dksX1_cut_1 5 rfl rfl)
theorem dX1_cut_30 : decode cX1_cut 30 = .ok (.iconst 1, 1) := dk_4 (dk_at dksX1_cut_1 7 rfl rfl)
theorem dX1_cut_31 : decode cX1_cut 31 = .ok (.aload_n 0, 1) := dk_42 (dk_at dksX1_cut_1 8 rfl rfl)
theorem dX1_cut_32 : decode cX1_cut 32 = .ok (.invokevirtual 133, 3) := dk_182 0 133 (dk_at dksX1_cut_1 9 rfl rfl)
theorem dX1_cut_35 : decode cX1_cut 35 = .ok (.ishl, 1) := dk_120 (dk_at dksX1_cut_1 12 rfl rfl)
theorem dX1_cut_36 : decode cX1_cut 36 = .ok (.iconst 1, 1) := dk_4 (dk_at dksX1_cut_1 13 rfl rfl)
theorem dX1_cut_37 : decode cX1_cut 37 = .ok (.isub, 1) := dk_100 (dk_at dksX1_cut_1 14 rfl rfl)
theorem dX1_cut_38 : decode cX1_cut 38 = .ok (.if_icmp .ne 6, 3) := dk_160 0 6 (dk_at dksX1_cut_1 15 rfl rfl)
theorem dX1_cut_41 : decode cX1_cut 41 = .ok (.goto 43, 3) := dk_167 0 43 (dk_at dksX1_cut_1 18 rfl rfl)
theorem dX1_cut_44 : decode cX1_cut 44 = .ok (.iload 4, 2) := dk_21 4 (dk_at dksX1_cut_1 21 rfl rfl)
theorem dX1_cut_46 : decode cX1_cut 46 = .ok (.invokestatic 208, 3) := dk_184 0 208 (dk_at dksX1_cut_2 0 rfl rfl)
theorem dX1_cut_49 : decode cX1_cut 49 = .ok (.istore 5, 2) := dk_54 5 (dk_at dksX1_cut_2 3 rfl rfl)
theorem dX1_cut_51 : decode cX1_cut 51 = .ok (.iload_n 2, 1) := dk_28 (dk_at dksX1_cut_2 5 rfl rfl)
theorem dX1_cut_52 : decode cX1_cut 52 = .ok (.invokestatic 208, 3) := dk_184 0 208 (dk_at dksX1_cut_2 6 rfl rfl)
theorem dX1_cut_55 : decode cX1_cut 55 = .ok (.istore 6, 2) := dk_54 6 (dk_at dksX1_cut_2 9 rfl rfl)
theorem dX1_cut_57 : decode cX1_cut 57 = .ok (.iload_n 2, 1) := dk_28 (dk_at dksX1_cut_2 11 rfl rfl)
theorem dX1_cut_58 : decode cX1_cut 58 = .ok (.ifCond .eq 23, 3) := dk_153 0 23 (dk_at dksX1_cut_2 12 rfl rfl)
theorem dX1_cut_61 : decode cX1_cut 61 = .ok (.iload 5, 2) := dk_21 5 (dk_at dksX1_cut_2 15 rfl rfl)
theorem dX1_cut_63 : decode cX1_cut 63 = .ok (.iload 6, 2) := dk_21 6 (dk_at dksX1_cut_2 17 rfl rfl)
theorem dX1_cut_65 : decode cX1_cut 65 = .ok (.if_icmp .lt 16, 3) := dk_161 0 16 (dk_at dksX1_cut_2 19 rfl rfl)
theorem dX1_cut_68 : decode cX1_cut 68 = .ok (.iload 5, 2) := dk_21 5 (dk_at dksX1_cut_2 22 rfl rfl)
theorem dX1_cut_70 : decode cX1_cut 70 = .ok (.iload 6, 2) := dk_21 6 (dk_at dksX1_cut_3 0 rfl rfl)
theorem dX1_cut_72 : decode cX1_cut 72 = .ok (.if_icmp .ne 12, 3) := dk_160 0 12 (dk_at dksX1_cut_3 2 rfl rfl)
theorem dX1_cut_75 : decode cX1_cut 75 = .ok (.iload 4, 2) := dk_21 4 (dk_at dksX1_cut_3 5 rfl rfl)
theorem dX1_cut_77 : decode cX1_cut 77 = .ok (.iload_n 2, 1) := dk_28 (dk_at dksX1_cut_3 7 rfl rfl)
theorem dX1_cut_78 : decode cX1_cut 78 = .ok (.if_icmp .ge 6, 3) := dk_162 0 6 (dk_at dksX1_cut_3 8 rfl rfl)
theorem dX1_cut_81 : decode cX1_cut 81 = .ok (.iload 4, 2) := dk_21 4 (dk_at dksX1_cut_3 11 rfl rfl)
theorem dX1_cut_83 : decode cX1_cut 83 = .ok (.istore_n 2, 1) := dk_61 (dk_at dksX1_cut_3 13 rfl rfl)
theorem dX1_cut_84 : decode cX1_cut 84 = .ok (.iinc 3 1, 3) := dk_132 3 1 (dk_at dksX1_cut_3 14 rfl rfl)
theorem dX1_cut_87 : decode cX1_cut 87 = .ok (.goto (-75), 3) := dk_167 255 181 (dk_at dksX1_cut_3 17 rfl rfl)
theorem dX1_cut_90 : decode cX1_cut 90 = .ok (.iload_n 2, 1) := dk_28 (dk_at dksX1_cut_3 20 rfl rfl)
theorem dX1_cut_91 : decode cX1_cut 91 = .ok (.ireturn, 1) := dk_172 (dk_at dksX1_cut_3 21 rfl rfl)
abbrev cX1_comesOf : ByteArray := prog_1_method_70_code
def yX1_comesOf : MethodName := ⟨RX1, "comesOf", "(II)I"⟩
def dkwX1_comesOf_2 : List UInt8 := [182, 1, 54, 128, 54, 4, 132, 5, 1, 167, 255, 222, 167, 255, 207, 29, 172]
abbrev dktX1_comesOf_2 : List UInt8 := dkwX1_comesOf_2 ++ []
def dkwX1_comesOf_1 : List UInt8 := [182, 0, 133, 162, 0, 31, 29, 21, 5, 122, 4, 126, 4, 160, 0, 15, 21, 4, 42, 21, 5, 28]
abbrev dktX1_comesOf_1 : List UInt8 := dkwX1_comesOf_1 ++ dktX1_comesOf_2
def dkwX1_comesOf_0 : List UInt8 := [3, 62, 4, 27, 120, 54, 4, 21, 4, 29, 159, 0, 49, 21, 4, 62, 3, 54, 5, 21, 5, 42]
abbrev dktX1_comesOf_0 : List UInt8 := dkwX1_comesOf_0 ++ dktX1_comesOf_1
theorem dksX1_comesOf_0 : cX1_comesOf.data.toList.drop 0 = dktX1_comesOf_0 := by decide +kernel
theorem dksX1_comesOf_1 : cX1_comesOf.data.toList.drop 22 = dktX1_comesOf_1 := dk_seg dksX1_comesOf_0 22 rfl rfl
theorem dksX1_comesOf_2 : cX1_comesOf.data.toList.drop 44 = dktX1_comesOf_2 := dk_seg dksX1_comesOf_1 22 rfl rfl
theorem dX1_comesOf_0 : decode cX1_comesOf 0 = .ok (.iconst 0, 1) := dk_3 (dk_at dksX1_comesOf_0 0 rfl rfl)
theorem dX1_comesOf_1 : decode cX1_comesOf 1 = .ok (.istore_n 3, 1) := dk_62 (dk_at dksX1_comesOf_0 1 rfl rfl)
theorem dX1_comesOf_2 : decode cX1_comesOf 2 = .ok (.iconst 1, 1) := dk_4 (dk_at dksX1_comesOf_0 2 rfl rfl)
theorem dX1_comesOf_3 : decode cX1_comesOf 3 = .ok (.iload_n 1, 1) := dk_27 (dk_at dksX1_comesOf_0 3 rfl rfl)
theorem dX1_comesOf_4 : decode cX1_comesOf 4 = .ok (.ishl, 1) := dk_120 (dk_at dksX1_comesOf_0 4 rfl rfl)
theorem dX1_comesOf_5 : decode cX1_comesOf 5 = .ok (.istore 4, 2) := dk_54 4 (dk_at dksX1_comesOf_0 5 rfl rfl)
theorem dX1_comesOf_7 : decode cX1_comesOf 7 = .ok (.iload 4, 2) := dk_21 4 (dk_at dksX1_comesOf_0 7 rfl rfl)
theorem dX1_comesOf_9 : decode cX1_comesOf 9 = .ok (.iload_n 3, 1) := dk_29 (dk_at dksX1_comesOf_0 9 rfl rfl)
theorem dX1_comesOf_10 : decode cX1_comesOf 10 = .ok (.if_icmp .eq 49, 3) := dk_159 0 49 (dk_at dksX1_comesOf_0 10 rfl rfl)
theorem dX1_comesOf_13 : decode cX1_comesOf 13 = .ok (.iload 4, 2) := dk_21 4 (dk_at dksX1_comesOf_0 13 rfl rfl)
theorem dX1_comesOf_15 : decode cX1_comesOf 15 = .ok (.istore_n 3, 1) := dk_62 (dk_at dksX1_comesOf_0 15 rfl rfl)
theorem dX1_comesOf_16 : decode cX1_comesOf 16 = .ok (.iconst 0, 1) := dk_3 (dk_at dksX1_comesOf_0 16 rfl rfl)
theorem dX1_comesOf_17 : decode cX1_comesOf 17 = .ok (.istore 5, 2) := dk_54 5 (dk_at dksX1_comesOf_0 17 rfl rfl)
theorem dX1_comesOf_19 : decode cX1_comesOf 19 = .ok (.iload 5, 2) := dk_21 5 (dk_at dksX1_comesOf_0 19 rfl rfl)
theorem dX1_comesOf_21 : decode cX1_comesOf 21 = .ok (.aload_n 0, 1) := dk_42 (dk_at dksX1_comesOf_0 21 rfl rfl)
theorem dX1_comesOf_22 : decode cX1_comesOf 22 = .ok (.invokevirtual 133, 3) := dk_182 0 133 (dk_at dksX1_comesOf_1 0 rfl rfl)
theorem dX1_comesOf_25 : decode cX1_comesOf 25 = .ok (.if_icmp .ge 31, 3) := dk_162 0 31 (dk_at dksX1_comesOf_1 3 rfl rfl)
theorem dX1_comesOf_28 : decode cX1_comesOf 28 = .ok (.iload_n 3, 1) := dk_29 (dk_at dksX1_comesOf_1 6 rfl rfl)
theorem dX1_comesOf_29 : decode cX1_comesOf 29 = .ok (.iload 5, 2) := dk_21 5 (dk_at dksX1_comesOf_1 7 rfl rfl)
theorem dX1_comesOf_31 : decode cX1_comesOf 31 = .ok (.ishr, 1) := dk_122 (dk_at dksX1_comesOf_1 9 rfl rfl)
theorem dX1_comesOf_32 : decode cX1_comesOf 32 = .ok (.iconst 1, 1) := dk_4 (dk_at dksX1_comesOf_1 10 rfl rfl)
theorem dX1_comesOf_33 : decode cX1_comesOf 33 = .ok (.iand, 1) := dk_126 (dk_at dksX1_comesOf_1 11 rfl rfl)
theorem dX1_comesOf_34 : decode cX1_comesOf 34 = .ok (.iconst 1, 1) := dk_4 (dk_at dksX1_comesOf_1 12 rfl rfl)
theorem dX1_comesOf_35 : decode cX1_comesOf 35 = .ok (.if_icmp .ne 15, 3) := dk_160 0 15 (dk_at dksX1_comesOf_1 13 rfl rfl)
theorem dX1_comesOf_38 : decode cX1_comesOf 38 = .ok (.iload 4, 2) := dk_21 4 (dk_at dksX1_comesOf_1 16 rfl rfl)
theorem dX1_comesOf_40 : decode cX1_comesOf 40 = .ok (.aload_n 0, 1) := dk_42 (dk_at dksX1_comesOf_1 18 rfl rfl)
theorem dX1_comesOf_41 : decode cX1_comesOf 41 = .ok (.iload 5, 2) := dk_21 5 (dk_at dksX1_comesOf_1 19 rfl rfl)
theorem dX1_comesOf_43 : decode cX1_comesOf 43 = .ok (.iload_n 2, 1) := dk_28 (dk_at dksX1_comesOf_1 21 rfl rfl)
theorem dX1_comesOf_44 : decode cX1_comesOf 44 = .ok (.invokevirtual 310, 3) := dk_182 1 54 (dk_at dksX1_comesOf_2 0 rfl rfl)
theorem dX1_comesOf_47 : decode cX1_comesOf 47 = .ok (.ior, 1) := dk_128 (dk_at dksX1_comesOf_2 3 rfl rfl)
theorem dX1_comesOf_48 : decode cX1_comesOf 48 = .ok (.istore 4, 2) := dk_54 4 (dk_at dksX1_comesOf_2 4 rfl rfl)
theorem dX1_comesOf_50 : decode cX1_comesOf 50 = .ok (.iinc 5 1, 3) := dk_132 5 1 (dk_at dksX1_comesOf_2 6 rfl rfl)
theorem dX1_comesOf_53 : decode cX1_comesOf 53 = .ok (.goto (-34), 3) := dk_167 255 222 (dk_at dksX1_comesOf_2 9 rfl rfl)
theorem dX1_comesOf_56 : decode cX1_comesOf 56 = .ok (.goto (-49), 3) := dk_167 255 207 (dk_at dksX1_comesOf_2 12 rfl rfl)
theorem dX1_comesOf_59 : decode cX1_comesOf 59 = .ok (.iload_n 3, 1) := dk_29 (dk_at dksX1_comesOf_2 15 rfl rfl)
theorem dX1_comesOf_60 : decode cX1_comesOf 60 = .ok (.ireturn, 1) := dk_172 (dk_at dksX1_comesOf_2 16 rfl rfl)
abbrev cX1_sure : ByteArray := prog_1_method_72_code
def yX1_sure : MethodName := ⟨RX1, "sure", "(II)I"⟩
def dkwX1_sure_5 : List UInt8 := [167, 255, 185, 132, 6, 1, 167, 255, 161, 2, 172]
abbrev dktX1_sure_5 : List UInt8 := dkwX1_sure_5 ++ []
def dkwX1_sure_4 : List UInt8 := [167, 0, 21, 21, 5, 28, 160, 0, 12, 16, 100, 21, 6, 104, 21, 7, 96, 172, 132, 5, 1, 132, 7, 1]
abbrev dktX1_sure_4 : List UInt8 := dkwX1_sure_4 ++ dktX1_sure_5
def dkwX1_sure_3 : List UInt8 := [181, 1, 153, 42, 27, 3, 182, 1, 141, 55, 8, 42, 2, 181, 0, 114, 22, 8, 33, 148, 154, 0, 6]
abbrev dktX1_sure_3 : List UInt8 := dkwX1_sure_3 ++ dktX1_sure_4
def dkwX1_sure_2 : List UInt8 := [21, 7, 42, 180, 0, 12, 180, 0, 138, 182, 0, 127, 162, 0, 62, 42, 21, 6, 181, 0, 114, 42, 21, 7]
abbrev dktX1_sure_2 : List UInt8 := dkwX1_sure_2 ++ dktX1_sure_3
def dkwX1_sure_1 : List UInt8 := [54, 5, 3, 54, 6, 21, 6, 42, 180, 0, 12, 180, 0, 138, 182, 0, 127, 162, 0, 86, 3, 54, 7]
abbrev dktX1_sure_1 : List UInt8 := dkwX1_sure_1 ++ dktX1_sure_2
def dkwX1_sure_0 : List UInt8 := [42, 27, 182, 0, 254, 184, 0, 164, 42, 27, 3, 182, 1, 141, 66, 33, 9, 148, 157, 0, 5, 2, 172, 3]
abbrev dktX1_sure_0 : List UInt8 := dkwX1_sure_0 ++ dktX1_sure_1
theorem dksX1_sure_0 : cX1_sure.data.toList.drop 0 = dktX1_sure_0 := by decide +kernel
theorem dksX1_sure_1 : cX1_sure.data.toList.drop 24 = dktX1_sure_1 := dk_seg dksX1_sure_0 24 rfl rfl
theorem dksX1_sure_2 : cX1_sure.data.toList.drop 47 = dktX1_sure_2 := dk_seg dksX1_sure_1 23 rfl rfl
theorem dksX1_sure_3 : cX1_sure.data.toList.drop 71 = dktX1_sure_3 := dk_seg dksX1_sure_2 24 rfl rfl
theorem dksX1_sure_4 : cX1_sure.data.toList.drop 94 = dktX1_sure_4 := dk_seg dksX1_sure_3 23 rfl rfl
theorem dksX1_sure_5 : cX1_sure.data.toList.drop 118 = dktX1_sure_5 := dk_seg dksX1_sure_4 24 rfl rfl
theorem dX1_sure_0 : decode cX1_sure 0 = .ok (.aload_n 0, 1) := dk_42 (dk_at dksX1_sure_0 0 rfl rfl)
theorem dX1_sure_1 : decode cX1_sure 1 = .ok (.iload_n 1, 1) := dk_27 (dk_at dksX1_sure_0 1 rfl rfl)
theorem dX1_sure_2 : decode cX1_sure 2 = .ok (.invokevirtual 254, 3) := dk_182 0 254 (dk_at dksX1_sure_0 2 rfl rfl)
theorem dX1_sure_5 : decode cX1_sure 5 = .ok (.invokestatic 164, 3) := dk_184 0 164 (dk_at dksX1_sure_0 5 rfl rfl)
theorem dX1_sure_8 : decode cX1_sure 8 = .ok (.aload_n 0, 1) := dk_42 (dk_at dksX1_sure_0 8 rfl rfl)
theorem dX1_sure_9 : decode cX1_sure 9 = .ok (.iload_n 1, 1) := dk_27 (dk_at dksX1_sure_0 9 rfl rfl)
theorem dX1_sure_10 : decode cX1_sure 10 = .ok (.iconst 0, 1) := dk_3 (dk_at dksX1_sure_0 10 rfl rfl)
theorem dX1_sure_11 : decode cX1_sure 11 = .ok (.invokevirtual 397, 3) := dk_182 1 141 (dk_at dksX1_sure_0 11 rfl rfl)
theorem dX1_sure_14 : decode cX1_sure 14 = .ok (.lstore_n 3, 1) := dk_66 (dk_at dksX1_sure_0 14 rfl rfl)
theorem dX1_sure_15 : decode cX1_sure 15 = .ok (.lload_n 3, 1) := dk_33 (dk_at dksX1_sure_0 15 rfl rfl)
theorem dX1_sure_16 : decode cX1_sure 16 = .ok (.lconst 0, 1) := dk_9 (dk_at dksX1_sure_0 16 rfl rfl)
theorem dX1_sure_17 : decode cX1_sure 17 = .ok (.lcmp, 1) := dk_148 (dk_at dksX1_sure_0 17 rfl rfl)
theorem dX1_sure_18 : decode cX1_sure 18 = .ok (.ifCond .gt 5, 3) := dk_157 0 5 (dk_at dksX1_sure_0 18 rfl rfl)
theorem dX1_sure_21 : decode cX1_sure 21 = .ok (.iconst (-1), 1) := dk_2 (dk_at dksX1_sure_0 21 rfl rfl)
theorem dX1_sure_22 : decode cX1_sure 22 = .ok (.ireturn, 1) := dk_172 (dk_at dksX1_sure_0 22 rfl rfl)
theorem dX1_sure_23 : decode cX1_sure 23 = .ok (.iconst 0, 1) := dk_3 (dk_at dksX1_sure_0 23 rfl rfl)
theorem dX1_sure_24 : decode cX1_sure 24 = .ok (.istore 5, 2) := dk_54 5 (dk_at dksX1_sure_1 0 rfl rfl)
theorem dX1_sure_26 : decode cX1_sure 26 = .ok (.iconst 0, 1) := dk_3 (dk_at dksX1_sure_1 2 rfl rfl)
theorem dX1_sure_27 : decode cX1_sure 27 = .ok (.istore 6, 2) := dk_54 6 (dk_at dksX1_sure_1 3 rfl rfl)
theorem dX1_sure_29 : decode cX1_sure 29 = .ok (.iload 6, 2) := dk_21 6 (dk_at dksX1_sure_1 5 rfl rfl)
theorem dX1_sure_31 : decode cX1_sure 31 = .ok (.aload_n 0, 1) := dk_42 (dk_at dksX1_sure_1 7 rfl rfl)
theorem dX1_sure_32 : decode cX1_sure 32 = .ok (.getfield 12, 3) := dk_180 0 12 (dk_at dksX1_sure_1 8 rfl rfl)
theorem dX1_sure_35 : decode cX1_sure 35 = .ok (.getfield 138, 3) := dk_180 0 138 (dk_at dksX1_sure_1 11 rfl rfl)
theorem dX1_sure_38 : decode cX1_sure 38 = .ok (.invokevirtual 127, 3) := dk_182 0 127 (dk_at dksX1_sure_1 14 rfl rfl)
theorem dX1_sure_41 : decode cX1_sure 41 = .ok (.if_icmp .ge 86, 3) := dk_162 0 86 (dk_at dksX1_sure_1 17 rfl rfl)
theorem dX1_sure_44 : decode cX1_sure 44 = .ok (.iconst 0, 1) := dk_3 (dk_at dksX1_sure_1 20 rfl rfl)
theorem dX1_sure_45 : decode cX1_sure 45 = .ok (.istore 7, 2) := dk_54 7 (dk_at dksX1_sure_1 21 rfl rfl)
theorem dX1_sure_47 : decode cX1_sure 47 = .ok (.iload 7, 2) := dk_21 7 (dk_at dksX1_sure_2 0 rfl rfl)
theorem dX1_sure_49 : decode cX1_sure 49 = .ok (.aload_n 0, 1) := dk_42 (dk_at dksX1_sure_2 2 rfl rfl)
theorem dX1_sure_50 : decode cX1_sure 50 = .ok (.getfield 12, 3) := dk_180 0 12 (dk_at dksX1_sure_2 3 rfl rfl)
theorem dX1_sure_53 : decode cX1_sure 53 = .ok (.getfield 138, 3) := dk_180 0 138 (dk_at dksX1_sure_2 6 rfl rfl)
theorem dX1_sure_56 : decode cX1_sure 56 = .ok (.invokevirtual 127, 3) := dk_182 0 127 (dk_at dksX1_sure_2 9 rfl rfl)
theorem dX1_sure_59 : decode cX1_sure 59 = .ok (.if_icmp .ge 62, 3) := dk_162 0 62 (dk_at dksX1_sure_2 12 rfl rfl)
theorem dX1_sure_62 : decode cX1_sure 62 = .ok (.aload_n 0, 1) := dk_42 (dk_at dksX1_sure_2 15 rfl rfl)
theorem dX1_sure_63 : decode cX1_sure 63 = .ok (.iload 6, 2) := dk_21 6 (dk_at dksX1_sure_2 16 rfl rfl)
theorem dX1_sure_65 : decode cX1_sure 65 = .ok (.putfield 114, 3) := dk_181 0 114 (dk_at dksX1_sure_2 18 rfl rfl)
theorem dX1_sure_68 : decode cX1_sure 68 = .ok (.aload_n 0, 1) := dk_42 (dk_at dksX1_sure_2 21 rfl rfl)
theorem dX1_sure_69 : decode cX1_sure 69 = .ok (.iload 7, 2) := dk_21 7 (dk_at dksX1_sure_2 22 rfl rfl)
theorem dX1_sure_71 : decode cX1_sure 71 = .ok (.putfield 409, 3) := dk_181 1 153 (dk_at dksX1_sure_3 0 rfl rfl)
theorem dX1_sure_74 : decode cX1_sure 74 = .ok (.aload_n 0, 1) := dk_42 (dk_at dksX1_sure_3 3 rfl rfl)
theorem dX1_sure_75 : decode cX1_sure 75 = .ok (.iload_n 1, 1) := dk_27 (dk_at dksX1_sure_3 4 rfl rfl)
theorem dX1_sure_76 : decode cX1_sure 76 = .ok (.iconst 0, 1) := dk_3 (dk_at dksX1_sure_3 5 rfl rfl)
theorem dX1_sure_77 : decode cX1_sure 77 = .ok (.invokevirtual 397, 3) := dk_182 1 141 (dk_at dksX1_sure_3 6 rfl rfl)
theorem dX1_sure_80 : decode cX1_sure 80 = .ok (.lstore 8, 2) := dk_55 8 (dk_at dksX1_sure_3 9 rfl rfl)
theorem dX1_sure_82 : decode cX1_sure 82 = .ok (.aload_n 0, 1) := dk_42 (dk_at dksX1_sure_3 11 rfl rfl)
theorem dX1_sure_83 : decode cX1_sure 83 = .ok (.iconst (-1), 1) := dk_2 (dk_at dksX1_sure_3 12 rfl rfl)
theorem dX1_sure_84 : decode cX1_sure 84 = .ok (.putfield 114, 3) := dk_181 0 114 (dk_at dksX1_sure_3 13 rfl rfl)
theorem dX1_sure_87 : decode cX1_sure 87 = .ok (.lload 8, 2) := dk_22 8 (dk_at dksX1_sure_3 16 rfl rfl)
theorem dX1_sure_89 : decode cX1_sure 89 = .ok (.lload_n 3, 1) := dk_33 (dk_at dksX1_sure_3 18 rfl rfl)
theorem dX1_sure_90 : decode cX1_sure 90 = .ok (.lcmp, 1) := dk_148 (dk_at dksX1_sure_3 19 rfl rfl)
theorem dX1_sure_91 : decode cX1_sure 91 = .ok (.ifCond .ne 6, 3) := dk_154 0 6 (dk_at dksX1_sure_3 20 rfl rfl)
theorem dX1_sure_94 : decode cX1_sure 94 = .ok (.goto 21, 3) := dk_167 0 21 (dk_at dksX1_sure_4 0 rfl rfl)
theorem dX1_sure_97 : decode cX1_sure 97 = .ok (.iload 5, 2) := dk_21 5 (dk_at dksX1_sure_4 3 rfl rfl)
theorem dX1_sure_99 : decode cX1_sure 99 = .ok (.iload_n 2, 1) := dk_28 (dk_at dksX1_sure_4 5 rfl rfl)
theorem dX1_sure_100 : decode cX1_sure 100 = .ok (.if_icmp .ne 12, 3) := dk_160 0 12 (dk_at dksX1_sure_4 6 rfl rfl)
theorem dX1_sure_103 : decode cX1_sure 103 = .ok (.bipush 100, 2) := dk_16 100 (dk_at dksX1_sure_4 9 rfl rfl)
theorem dX1_sure_105 : decode cX1_sure 105 = .ok (.iload 6, 2) := dk_21 6 (dk_at dksX1_sure_4 11 rfl rfl)
theorem dX1_sure_107 : decode cX1_sure 107 = .ok (.imul, 1) := dk_104 (dk_at dksX1_sure_4 13 rfl rfl)
theorem dX1_sure_108 : decode cX1_sure 108 = .ok (.iload 7, 2) := dk_21 7 (dk_at dksX1_sure_4 14 rfl rfl)
theorem dX1_sure_110 : decode cX1_sure 110 = .ok (.iadd, 1) := dk_96 (dk_at dksX1_sure_4 16 rfl rfl)
theorem dX1_sure_111 : decode cX1_sure 111 = .ok (.ireturn, 1) := dk_172 (dk_at dksX1_sure_4 17 rfl rfl)
theorem dX1_sure_112 : decode cX1_sure 112 = .ok (.iinc 5 1, 3) := dk_132 5 1 (dk_at dksX1_sure_4 18 rfl rfl)
theorem dX1_sure_115 : decode cX1_sure 115 = .ok (.iinc 7 1, 3) := dk_132 7 1 (dk_at dksX1_sure_4 21 rfl rfl)
theorem dX1_sure_118 : decode cX1_sure 118 = .ok (.goto (-71), 3) := dk_167 255 185 (dk_at dksX1_sure_5 0 rfl rfl)
theorem dX1_sure_121 : decode cX1_sure 121 = .ok (.iinc 6 1, 3) := dk_132 6 1 (dk_at dksX1_sure_5 3 rfl rfl)
theorem dX1_sure_124 : decode cX1_sure 124 = .ok (.goto (-95), 3) := dk_167 255 161 (dk_at dksX1_sure_5 6 rfl rfl)
theorem dX1_sure_127 : decode cX1_sure 127 = .ok (.iconst (-1), 1) := dk_2 (dk_at dksX1_sure_5 9 rfl rfl)
theorem dX1_sure_128 : decode cX1_sure 128 = .ok (.ireturn, 1) := dk_172 (dk_at dksX1_sure_5 10 rfl rfl)
abbrev cX1_detour : ByteArray := prog_1_method_73_code
def yX1_detour : MethodName := ⟨RX1, "detour", "(III)I"⟩
def dkwX1_detour_2 : List UInt8 := [182, 1, 41, 54, 5, 42, 3, 181, 0, 244, 21, 4, 21, 5, 100, 172]
abbrev dktX1_detour_2 : List UInt8 := dkwX1_detour_2 ++ []
def dkwX1_detour_1 : List UInt8 := [182, 1, 41, 54, 4, 21, 4, 2, 160, 0, 5, 2, 172, 42, 4, 181, 0, 244, 42, 27, 28, 29]
abbrev dktX1_detour_1 : List UInt8 := dkwX1_detour_1 ++ dktX1_detour_2
def dkwX1_detour_0 : List UInt8 := [42, 27, 182, 1, 38, 42, 28, 182, 1, 38, 42, 29, 182, 0, 254, 184, 0, 164, 42, 27, 28, 29]
abbrev dktX1_detour_0 : List UInt8 := dkwX1_detour_0 ++ dktX1_detour_1
theorem dksX1_detour_0 : cX1_detour.data.toList.drop 0 = dktX1_detour_0 := by decide +kernel
theorem dksX1_detour_1 : cX1_detour.data.toList.drop 22 = dktX1_detour_1 := dk_seg dksX1_detour_0 22 rfl rfl
theorem dksX1_detour_2 : cX1_detour.data.toList.drop 44 = dktX1_detour_2 := dk_seg dksX1_detour_1 22 rfl rfl
theorem dX1_detour_0 : decode cX1_detour 0 = .ok (.aload_n 0, 1) := dk_42 (dk_at dksX1_detour_0 0 rfl rfl)
theorem dX1_detour_1 : decode cX1_detour 1 = .ok (.iload_n 1, 1) := dk_27 (dk_at dksX1_detour_0 1 rfl rfl)
theorem dX1_detour_2 : decode cX1_detour 2 = .ok (.invokevirtual 294, 3) := dk_182 1 38 (dk_at dksX1_detour_0 2 rfl rfl)
theorem dX1_detour_5 : decode cX1_detour 5 = .ok (.aload_n 0, 1) := dk_42 (dk_at dksX1_detour_0 5 rfl rfl)
theorem dX1_detour_6 : decode cX1_detour 6 = .ok (.iload_n 2, 1) := dk_28 (dk_at dksX1_detour_0 6 rfl rfl)
theorem dX1_detour_7 : decode cX1_detour 7 = .ok (.invokevirtual 294, 3) := dk_182 1 38 (dk_at dksX1_detour_0 7 rfl rfl)
theorem dX1_detour_10 : decode cX1_detour 10 = .ok (.aload_n 0, 1) := dk_42 (dk_at dksX1_detour_0 10 rfl rfl)
theorem dX1_detour_11 : decode cX1_detour 11 = .ok (.iload_n 3, 1) := dk_29 (dk_at dksX1_detour_0 11 rfl rfl)
theorem dX1_detour_12 : decode cX1_detour 12 = .ok (.invokevirtual 254, 3) := dk_182 0 254 (dk_at dksX1_detour_0 12 rfl rfl)
theorem dX1_detour_15 : decode cX1_detour 15 = .ok (.invokestatic 164, 3) := dk_184 0 164 (dk_at dksX1_detour_0 15 rfl rfl)
theorem dX1_detour_18 : decode cX1_detour 18 = .ok (.aload_n 0, 1) := dk_42 (dk_at dksX1_detour_0 18 rfl rfl)
theorem dX1_detour_19 : decode cX1_detour 19 = .ok (.iload_n 1, 1) := dk_27 (dk_at dksX1_detour_0 19 rfl rfl)
theorem dX1_detour_20 : decode cX1_detour 20 = .ok (.iload_n 2, 1) := dk_28 (dk_at dksX1_detour_0 20 rfl rfl)
theorem dX1_detour_21 : decode cX1_detour 21 = .ok (.iload_n 3, 1) := dk_29 (dk_at dksX1_detour_0 21 rfl rfl)
theorem dX1_detour_22 : decode cX1_detour 22 = .ok (.invokevirtual 297, 3) := dk_182 1 41 (dk_at dksX1_detour_1 0 rfl rfl)
theorem dX1_detour_25 : decode cX1_detour 25 = .ok (.istore 4, 2) := dk_54 4 (dk_at dksX1_detour_1 3 rfl rfl)
theorem dX1_detour_27 : decode cX1_detour 27 = .ok (.iload 4, 2) := dk_21 4 (dk_at dksX1_detour_1 5 rfl rfl)
theorem dX1_detour_29 : decode cX1_detour 29 = .ok (.iconst (-1), 1) := dk_2 (dk_at dksX1_detour_1 7 rfl rfl)
theorem dX1_detour_30 : decode cX1_detour 30 = .ok (.if_icmp .ne 5, 3) := dk_160 0 5 (dk_at dksX1_detour_1 8 rfl rfl)
theorem dX1_detour_33 : decode cX1_detour 33 = .ok (.iconst (-1), 1) := dk_2 (dk_at dksX1_detour_1 11 rfl rfl)
theorem dX1_detour_34 : decode cX1_detour 34 = .ok (.ireturn, 1) := dk_172 (dk_at dksX1_detour_1 12 rfl rfl)
theorem dX1_detour_35 : decode cX1_detour 35 = .ok (.aload_n 0, 1) := dk_42 (dk_at dksX1_detour_1 13 rfl rfl)
theorem dX1_detour_36 : decode cX1_detour 36 = .ok (.iconst 1, 1) := dk_4 (dk_at dksX1_detour_1 14 rfl rfl)
theorem dX1_detour_37 : decode cX1_detour 37 = .ok (.putfield 244, 3) := dk_181 0 244 (dk_at dksX1_detour_1 15 rfl rfl)
theorem dX1_detour_40 : decode cX1_detour 40 = .ok (.aload_n 0, 1) := dk_42 (dk_at dksX1_detour_1 18 rfl rfl)
theorem dX1_detour_41 : decode cX1_detour 41 = .ok (.iload_n 1, 1) := dk_27 (dk_at dksX1_detour_1 19 rfl rfl)
theorem dX1_detour_42 : decode cX1_detour 42 = .ok (.iload_n 2, 1) := dk_28 (dk_at dksX1_detour_1 20 rfl rfl)
theorem dX1_detour_43 : decode cX1_detour 43 = .ok (.iload_n 3, 1) := dk_29 (dk_at dksX1_detour_1 21 rfl rfl)
theorem dX1_detour_44 : decode cX1_detour 44 = .ok (.invokevirtual 297, 3) := dk_182 1 41 (dk_at dksX1_detour_2 0 rfl rfl)
theorem dX1_detour_47 : decode cX1_detour 47 = .ok (.istore 5, 2) := dk_54 5 (dk_at dksX1_detour_2 3 rfl rfl)
theorem dX1_detour_49 : decode cX1_detour 49 = .ok (.aload_n 0, 1) := dk_42 (dk_at dksX1_detour_2 5 rfl rfl)
theorem dX1_detour_50 : decode cX1_detour 50 = .ok (.iconst 0, 1) := dk_3 (dk_at dksX1_detour_2 6 rfl rfl)
theorem dX1_detour_51 : decode cX1_detour 51 = .ok (.putfield 244, 3) := dk_181 0 244 (dk_at dksX1_detour_2 7 rfl rfl)
theorem dX1_detour_54 : decode cX1_detour 54 = .ok (.iload 4, 2) := dk_21 4 (dk_at dksX1_detour_2 10 rfl rfl)
theorem dX1_detour_56 : decode cX1_detour 56 = .ok (.iload 5, 2) := dk_21 5 (dk_at dksX1_detour_2 12 rfl rfl)
theorem dX1_detour_58 : decode cX1_detour 58 = .ok (.isub, 1) := dk_100 (dk_at dksX1_detour_2 14 rfl rfl)
theorem dX1_detour_59 : decode cX1_detour 59 = .ok (.ireturn, 1) := dk_172 (dk_at dksX1_detour_2 15 rfl rfl)
abbrev cX1_gain : ByteArray := prog_1_method_75_code
def yX1_gain : MethodName := ⟨RX1, "gain", "(II)I"⟩
def dkwX1_gain_6 : List UInt8 := [172]
abbrev dktX1_gain_6 : List UInt8 := dkwX1_gain_6 ++ []
def dkwX1_gain_5 : List UInt8 := [54, 6, 132, 7, 1, 167, 255, 187, 42, 3, 182, 1, 91, 28, 154, 0, 8, 21, 4, 167, 0, 5, 21, 6]
abbrev dktX1_gain_5 : List UInt8 := dkwX1_gain_5 ++ dktX1_gain_6
def dkwX1_gain_4 : List UInt8 := [161, 0, 6, 167, 0, 22, 42, 180, 0, 62, 21, 7, 46, 54, 4, 21, 8, 54, 5, 42, 180, 1, 159]
abbrev dktX1_gain_4 : List UInt8 := dkwX1_gain_4 ++ dktX1_gain_5
def dkwX1_gain_3 : List UInt8 := [54, 8, 21, 8, 21, 5, 163, 0, 41, 21, 8, 21, 5, 160, 0, 15, 42, 180, 1, 159, 21, 6]
abbrev dktX1_gain_3 : List UInt8 := dkwX1_gain_3 ++ dktX1_gain_4
def dkwX1_gain_2 : List UInt8 := [54, 6, 3, 54, 7, 21, 7, 29, 162, 0, 69, 42, 4, 21, 7, 120, 182, 1, 91, 42, 27, 182, 1, 162]
abbrev dktX1_gain_2 : List UInt8 := dkwX1_gain_2 ++ dktX1_gain_3
def dkwX1_gain_1 : List UInt8 := [184, 0, 164, 42, 27, 182, 1, 82, 62, 2, 54, 4, 42, 27, 182, 1, 162, 54, 5, 42, 180, 1, 159]
abbrev dktX1_gain_1 : List UInt8 := dkwX1_gain_1 ++ dktX1_gain_2
def dkwX1_gain_0 : List UInt8 := [42, 27, 182, 0, 254, 153, 0, 16, 28, 153, 0, 8, 28, 4, 160, 0, 7, 4, 167, 0, 4, 3]
abbrev dktX1_gain_0 : List UInt8 := dkwX1_gain_0 ++ dktX1_gain_1
theorem dksX1_gain_0 : cX1_gain.data.toList.drop 0 = dktX1_gain_0 := by decide +kernel
theorem dksX1_gain_1 : cX1_gain.data.toList.drop 22 = dktX1_gain_1 := dk_seg dksX1_gain_0 22 rfl rfl
theorem dksX1_gain_2 : cX1_gain.data.toList.drop 45 = dktX1_gain_2 := dk_seg dksX1_gain_1 23 rfl rfl
theorem dksX1_gain_3 : cX1_gain.data.toList.drop 69 = dktX1_gain_3 := dk_seg dksX1_gain_2 24 rfl rfl
theorem dksX1_gain_4 : cX1_gain.data.toList.drop 91 = dktX1_gain_4 := dk_seg dksX1_gain_3 22 rfl rfl
theorem dksX1_gain_5 : cX1_gain.data.toList.drop 114 = dktX1_gain_5 := dk_seg dksX1_gain_4 23 rfl rfl
theorem dksX1_gain_6 : cX1_gain.data.toList.drop 138 = dktX1_gain_6 := dk_seg dksX1_gain_5 24 rfl rfl
theorem dX1_gain_0 : decode cX1_gain 0 = .ok (.aload_n 0, 1) := dk_42 (dk_at dksX1_gain_0 0 rfl rfl)
theorem dX1_gain_1 : decode cX1_gain 1 = .ok (.iload_n 1, 1) := dk_27 (dk_at dksX1_gain_0 1 rfl rfl)
theorem dX1_gain_2 : decode cX1_gain 2 = .ok (.invokevirtual 254, 3) := dk_182 0 254 (dk_at dksX1_gain_0 2 rfl rfl)
theorem dX1_gain_5 : decode cX1_gain 5 = .ok (.ifCond .eq 16, 3) := dk_153 0 16 (dk_at dksX1_gain_0 5 rfl rfl)
theorem dX1_gain_8 : decode cX1_gain 8 = .ok (.iload_n 2, 1) := dk_28 (dk_at dksX1_gain_0 8 rfl rfl)
theorem dX1_gain_9 : decode cX1_gain 9 = .ok (.ifCond .eq 8, 3) := dk_153 0 8 (dk_at dksX1_gain_0 9 rfl rfl)
theorem dX1_gain_12 : decode cX1_gain 12 = .ok (.iload_n 2, 1) := dk_28 (dk_at dksX1_gain_0 12 rfl rfl)
theorem dX1_gain_13 : decode cX1_gain 13 = .ok (.iconst 1, 1) := dk_4 (dk_at dksX1_gain_0 13 rfl rfl)
theorem dX1_gain_14 : decode cX1_gain 14 = .ok (.if_icmp .ne 7, 3) := dk_160 0 7 (dk_at dksX1_gain_0 14 rfl rfl)
theorem dX1_gain_17 : decode cX1_gain 17 = .ok (.iconst 1, 1) := dk_4 (dk_at dksX1_gain_0 17 rfl rfl)
theorem dX1_gain_18 : decode cX1_gain 18 = .ok (.goto 4, 3) := dk_167 0 4 (dk_at dksX1_gain_0 18 rfl rfl)
theorem dX1_gain_21 : decode cX1_gain 21 = .ok (.iconst 0, 1) := dk_3 (dk_at dksX1_gain_0 21 rfl rfl)
theorem dX1_gain_22 : decode cX1_gain 22 = .ok (.invokestatic 164, 3) := dk_184 0 164 (dk_at dksX1_gain_1 0 rfl rfl)
theorem dX1_gain_25 : decode cX1_gain 25 = .ok (.aload_n 0, 1) := dk_42 (dk_at dksX1_gain_1 3 rfl rfl)
theorem dX1_gain_26 : decode cX1_gain 26 = .ok (.iload_n 1, 1) := dk_27 (dk_at dksX1_gain_1 4 rfl rfl)
theorem dX1_gain_27 : decode cX1_gain 27 = .ok (.invokevirtual 338, 3) := dk_182 1 82 (dk_at dksX1_gain_1 5 rfl rfl)
theorem dX1_gain_30 : decode cX1_gain 30 = .ok (.istore_n 3, 1) := dk_62 (dk_at dksX1_gain_1 8 rfl rfl)
theorem dX1_gain_31 : decode cX1_gain 31 = .ok (.iconst (-1), 1) := dk_2 (dk_at dksX1_gain_1 9 rfl rfl)
theorem dX1_gain_32 : decode cX1_gain 32 = .ok (.istore 4, 2) := dk_54 4 (dk_at dksX1_gain_1 10 rfl rfl)
theorem dX1_gain_34 : decode cX1_gain 34 = .ok (.aload_n 0, 1) := dk_42 (dk_at dksX1_gain_1 12 rfl rfl)
theorem dX1_gain_35 : decode cX1_gain 35 = .ok (.iload_n 1, 1) := dk_27 (dk_at dksX1_gain_1 13 rfl rfl)
theorem dX1_gain_36 : decode cX1_gain 36 = .ok (.invokevirtual 418, 3) := dk_182 1 162 (dk_at dksX1_gain_1 14 rfl rfl)
theorem dX1_gain_39 : decode cX1_gain 39 = .ok (.istore 5, 2) := dk_54 5 (dk_at dksX1_gain_1 17 rfl rfl)
theorem dX1_gain_41 : decode cX1_gain 41 = .ok (.aload_n 0, 1) := dk_42 (dk_at dksX1_gain_1 19 rfl rfl)
theorem dX1_gain_42 : decode cX1_gain 42 = .ok (.getfield 415, 3) := dk_180 1 159 (dk_at dksX1_gain_1 20 rfl rfl)
theorem dX1_gain_45 : decode cX1_gain 45 = .ok (.istore 6, 2) := dk_54 6 (dk_at dksX1_gain_2 0 rfl rfl)
theorem dX1_gain_47 : decode cX1_gain 47 = .ok (.iconst 0, 1) := dk_3 (dk_at dksX1_gain_2 2 rfl rfl)
theorem dX1_gain_48 : decode cX1_gain 48 = .ok (.istore 7, 2) := dk_54 7 (dk_at dksX1_gain_2 3 rfl rfl)
theorem dX1_gain_50 : decode cX1_gain 50 = .ok (.iload 7, 2) := dk_21 7 (dk_at dksX1_gain_2 5 rfl rfl)
theorem dX1_gain_52 : decode cX1_gain 52 = .ok (.iload_n 3, 1) := dk_29 (dk_at dksX1_gain_2 7 rfl rfl)
theorem dX1_gain_53 : decode cX1_gain 53 = .ok (.if_icmp .ge 69, 3) := dk_162 0 69 (dk_at dksX1_gain_2 8 rfl rfl)
theorem dX1_gain_56 : decode cX1_gain 56 = .ok (.aload_n 0, 1) := dk_42 (dk_at dksX1_gain_2 11 rfl rfl)
theorem dX1_gain_57 : decode cX1_gain 57 = .ok (.iconst 1, 1) := dk_4 (dk_at dksX1_gain_2 12 rfl rfl)
theorem dX1_gain_58 : decode cX1_gain 58 = .ok (.iload 7, 2) := dk_21 7 (dk_at dksX1_gain_2 13 rfl rfl)
theorem dX1_gain_60 : decode cX1_gain 60 = .ok (.ishl, 1) := dk_120 (dk_at dksX1_gain_2 15 rfl rfl)
theorem dX1_gain_61 : decode cX1_gain 61 = .ok (.invokevirtual 347, 3) := dk_182 1 91 (dk_at dksX1_gain_2 16 rfl rfl)
theorem dX1_gain_64 : decode cX1_gain 64 = .ok (.aload_n 0, 1) := dk_42 (dk_at dksX1_gain_2 19 rfl rfl)
theorem dX1_gain_65 : decode cX1_gain 65 = .ok (.iload_n 1, 1) := dk_27 (dk_at dksX1_gain_2 20 rfl rfl)
theorem dX1_gain_66 : decode cX1_gain 66 = .ok (.invokevirtual 418, 3) := dk_182 1 162 (dk_at dksX1_gain_2 21 rfl rfl)
theorem dX1_gain_69 : decode cX1_gain 69 = .ok (.istore 8, 2) := dk_54 8 (dk_at dksX1_gain_3 0 rfl rfl)
theorem dX1_gain_71 : decode cX1_gain 71 = .ok (.iload 8, 2) := dk_21 8 (dk_at dksX1_gain_3 2 rfl rfl)
theorem dX1_gain_73 : decode cX1_gain 73 = .ok (.iload 5, 2) := dk_21 5 (dk_at dksX1_gain_3 4 rfl rfl)
theorem dX1_gain_75 : decode cX1_gain 75 = .ok (.if_icmp .gt 41, 3) := dk_163 0 41 (dk_at dksX1_gain_3 6 rfl rfl)
theorem dX1_gain_78 : decode cX1_gain 78 = .ok (.iload 8, 2) := dk_21 8 (dk_at dksX1_gain_3 9 rfl rfl)
theorem dX1_gain_80 : decode cX1_gain 80 = .ok (.iload 5, 2) := dk_21 5 (dk_at dksX1_gain_3 11 rfl rfl)
theorem dX1_gain_82 : decode cX1_gain 82 = .ok (.if_icmp .ne 15, 3) := dk_160 0 15 (dk_at dksX1_gain_3 13 rfl rfl)
theorem dX1_gain_85 : decode cX1_gain 85 = .ok (.aload_n 0, 1) := dk_42 (dk_at dksX1_gain_3 16 rfl rfl)
theorem dX1_gain_86 : decode cX1_gain 86 = .ok (.getfield 415, 3) := dk_180 1 159 (dk_at dksX1_gain_3 17 rfl rfl)
theorem dX1_gain_89 : decode cX1_gain 89 = .ok (.iload 6, 2) := dk_21 6 (dk_at dksX1_gain_3 20 rfl rfl)
theorem dX1_gain_91 : decode cX1_gain 91 = .ok (.if_icmp .lt 6, 3) := dk_161 0 6 (dk_at dksX1_gain_4 0 rfl rfl)
theorem dX1_gain_94 : decode cX1_gain 94 = .ok (.goto 22, 3) := dk_167 0 22 (dk_at dksX1_gain_4 3 rfl rfl)
theorem dX1_gain_97 : decode cX1_gain 97 = .ok (.aload_n 0, 1) := dk_42 (dk_at dksX1_gain_4 6 rfl rfl)
theorem dX1_gain_98 : decode cX1_gain 98 = .ok (.getfield 62, 3) := dk_180 0 62 (dk_at dksX1_gain_4 7 rfl rfl)
theorem dX1_gain_101 : decode cX1_gain 101 = .ok (.iload 7, 2) := dk_21 7 (dk_at dksX1_gain_4 10 rfl rfl)
theorem dX1_gain_103 : decode cX1_gain 103 = .ok (.iaload, 1) := dk_46 (dk_at dksX1_gain_4 12 rfl rfl)
theorem dX1_gain_104 : decode cX1_gain 104 = .ok (.istore 4, 2) := dk_54 4 (dk_at dksX1_gain_4 13 rfl rfl)
theorem dX1_gain_106 : decode cX1_gain 106 = .ok (.iload 8, 2) := dk_21 8 (dk_at dksX1_gain_4 15 rfl rfl)
theorem dX1_gain_108 : decode cX1_gain 108 = .ok (.istore 5, 2) := dk_54 5 (dk_at dksX1_gain_4 17 rfl rfl)
theorem dX1_gain_110 : decode cX1_gain 110 = .ok (.aload_n 0, 1) := dk_42 (dk_at dksX1_gain_4 19 rfl rfl)
theorem dX1_gain_111 : decode cX1_gain 111 = .ok (.getfield 415, 3) := dk_180 1 159 (dk_at dksX1_gain_4 20 rfl rfl)
theorem dX1_gain_114 : decode cX1_gain 114 = .ok (.istore 6, 2) := dk_54 6 (dk_at dksX1_gain_5 0 rfl rfl)
theorem dX1_gain_116 : decode cX1_gain 116 = .ok (.iinc 7 1, 3) := dk_132 7 1 (dk_at dksX1_gain_5 2 rfl rfl)
theorem dX1_gain_119 : decode cX1_gain 119 = .ok (.goto (-69), 3) := dk_167 255 187 (dk_at dksX1_gain_5 5 rfl rfl)
theorem dX1_gain_122 : decode cX1_gain 122 = .ok (.aload_n 0, 1) := dk_42 (dk_at dksX1_gain_5 8 rfl rfl)
theorem dX1_gain_123 : decode cX1_gain 123 = .ok (.iconst 0, 1) := dk_3 (dk_at dksX1_gain_5 9 rfl rfl)
theorem dX1_gain_124 : decode cX1_gain 124 = .ok (.invokevirtual 347, 3) := dk_182 1 91 (dk_at dksX1_gain_5 10 rfl rfl)
theorem dX1_gain_127 : decode cX1_gain 127 = .ok (.iload_n 2, 1) := dk_28 (dk_at dksX1_gain_5 13 rfl rfl)
theorem dX1_gain_128 : decode cX1_gain 128 = .ok (.ifCond .ne 8, 3) := dk_154 0 8 (dk_at dksX1_gain_5 14 rfl rfl)
theorem dX1_gain_131 : decode cX1_gain 131 = .ok (.iload 4, 2) := dk_21 4 (dk_at dksX1_gain_5 17 rfl rfl)
theorem dX1_gain_133 : decode cX1_gain 133 = .ok (.goto 5, 3) := dk_167 0 5 (dk_at dksX1_gain_5 19 rfl rfl)
theorem dX1_gain_136 : decode cX1_gain 136 = .ok (.iload 6, 2) := dk_21 6 (dk_at dksX1_gain_5 22 rfl rfl)
theorem dX1_gain_138 : decode cX1_gain 138 = .ok (.ireturn, 1) := dk_172 (dk_at dksX1_gain_6 0 rfl rfl)
abbrev cX1_staying : ByteArray := prog_1_method_74_code
def yX1_staying : MethodName := ⟨RX1, "staying", "(I)I"⟩
def dkwX1_staying_4 : List UInt8 := [172]
abbrev dktX1_staying_4 : List UInt8 := dkwX1_staying_4 ++ []
def dkwX1_staying_3 : List UInt8 := [132, 2, 1, 167, 0, 14, 42, 89, 180, 1, 159, 21, 4, 96, 181, 1, 159, 132, 3, 1, 167, 255, 175, 28]
abbrev dktX1_staying_3 : List UInt8 := dkwX1_staying_3 ++ dktX1_staying_4
def dkwX1_staying_2 : List UInt8 := [29, 182, 0, 144, 192, 1, 107, 180, 1, 110, 27, 182, 1, 41, 54, 4, 21, 4, 2, 160, 0, 9]
abbrev dktX1_staying_2 : List UInt8 := dkwX1_staying_2 ++ dktX1_staying_3
def dkwX1_staying_1 : List UInt8 := [42, 180, 0, 12, 180, 0, 214, 29, 182, 0, 144, 192, 1, 107, 180, 1, 109, 42, 180, 0, 12, 180, 0, 214]
abbrev dktX1_staying_1 : List UInt8 := dkwX1_staying_1 ++ dktX1_staying_2
def dkwX1_staying_0 : List UInt8 := [3, 61, 42, 3, 181, 1, 159, 3, 62, 29, 42, 180, 0, 12, 180, 0, 214, 182, 0, 127, 162, 0, 73, 42]
abbrev dktX1_staying_0 : List UInt8 := dkwX1_staying_0 ++ dktX1_staying_1
theorem dksX1_staying_0 : cX1_staying.data.toList.drop 0 = dktX1_staying_0 := by decide +kernel
theorem dksX1_staying_1 : cX1_staying.data.toList.drop 24 = dktX1_staying_1 := dk_seg dksX1_staying_0 24 rfl rfl
theorem dksX1_staying_2 : cX1_staying.data.toList.drop 48 = dktX1_staying_2 := dk_seg dksX1_staying_1 24 rfl rfl
theorem dksX1_staying_3 : cX1_staying.data.toList.drop 70 = dktX1_staying_3 := dk_seg dksX1_staying_2 22 rfl rfl
theorem dksX1_staying_4 : cX1_staying.data.toList.drop 94 = dktX1_staying_4 := dk_seg dksX1_staying_3 24 rfl rfl
theorem dX1_staying_0 : decode cX1_staying 0 = .ok (.iconst 0, 1) := dk_3 (dk_at dksX1_staying_0 0 rfl rfl)
theorem dX1_staying_1 : decode cX1_staying 1 = .ok (.istore_n 2, 1) := dk_61 (dk_at dksX1_staying_0 1 rfl rfl)
theorem dX1_staying_2 : decode cX1_staying 2 = .ok (.aload_n 0, 1) := dk_42 (dk_at dksX1_staying_0 2 rfl rfl)
theorem dX1_staying_3 : decode cX1_staying 3 = .ok (.iconst 0, 1) := dk_3 (dk_at dksX1_staying_0 3 rfl rfl)
theorem dX1_staying_4 : decode cX1_staying 4 = .ok (.putfield 415, 3) := dk_181 1 159 (dk_at dksX1_staying_0 4 rfl rfl)
theorem dX1_staying_7 : decode cX1_staying 7 = .ok (.iconst 0, 1) := dk_3 (dk_at dksX1_staying_0 7 rfl rfl)
theorem dX1_staying_8 : decode cX1_staying 8 = .ok (.istore_n 3, 1) := dk_62 (dk_at dksX1_staying_0 8 rfl rfl)
theorem dX1_staying_9 : decode cX1_staying 9 = .ok (.iload_n 3, 1) := dk_29 (dk_at dksX1_staying_0 9 rfl rfl)
theorem dX1_staying_10 : decode cX1_staying 10 = .ok (.aload_n 0, 1) := dk_42 (dk_at dksX1_staying_0 10 rfl rfl)
theorem dX1_staying_11 : decode cX1_staying 11 = .ok (.getfield 12, 3) := dk_180 0 12 (dk_at dksX1_staying_0 11 rfl rfl)
theorem dX1_staying_14 : decode cX1_staying 14 = .ok (.getfield 214, 3) := dk_180 0 214 (dk_at dksX1_staying_0 14 rfl rfl)
theorem dX1_staying_17 : decode cX1_staying 17 = .ok (.invokevirtual 127, 3) := dk_182 0 127 (dk_at dksX1_staying_0 17 rfl rfl)
theorem dX1_staying_20 : decode cX1_staying 20 = .ok (.if_icmp .ge 73, 3) := dk_162 0 73 (dk_at dksX1_staying_0 20 rfl rfl)
theorem dX1_staying_23 : decode cX1_staying 23 = .ok (.aload_n 0, 1) := dk_42 (dk_at dksX1_staying_0 23 rfl rfl)
theorem dX1_staying_24 : decode cX1_staying 24 = .ok (.aload_n 0, 1) := dk_42 (dk_at dksX1_staying_1 0 rfl rfl)
theorem dX1_staying_25 : decode cX1_staying 25 = .ok (.getfield 12, 3) := dk_180 0 12 (dk_at dksX1_staying_1 1 rfl rfl)
theorem dX1_staying_28 : decode cX1_staying 28 = .ok (.getfield 214, 3) := dk_180 0 214 (dk_at dksX1_staying_1 4 rfl rfl)
theorem dX1_staying_31 : decode cX1_staying 31 = .ok (.iload_n 3, 1) := dk_29 (dk_at dksX1_staying_1 7 rfl rfl)
theorem dX1_staying_32 : decode cX1_staying 32 = .ok (.invokevirtual 144, 3) := dk_182 0 144 (dk_at dksX1_staying_1 8 rfl rfl)
theorem dX1_staying_35 : decode cX1_staying 35 = .ok (.checkcast 363, 3) := dk_192 1 107 (dk_at dksX1_staying_1 11 rfl rfl)
theorem dX1_staying_38 : decode cX1_staying 38 = .ok (.getfield 365, 3) := dk_180 1 109 (dk_at dksX1_staying_1 14 rfl rfl)
theorem dX1_staying_41 : decode cX1_staying 41 = .ok (.aload_n 0, 1) := dk_42 (dk_at dksX1_staying_1 17 rfl rfl)
theorem dX1_staying_42 : decode cX1_staying 42 = .ok (.getfield 12, 3) := dk_180 0 12 (dk_at dksX1_staying_1 18 rfl rfl)
theorem dX1_staying_45 : decode cX1_staying 45 = .ok (.getfield 214, 3) := dk_180 0 214 (dk_at dksX1_staying_1 21 rfl rfl)
theorem dX1_staying_48 : decode cX1_staying 48 = .ok (.iload_n 3, 1) := dk_29 (dk_at dksX1_staying_2 0 rfl rfl)
theorem dX1_staying_49 : decode cX1_staying 49 = .ok (.invokevirtual 144, 3) := dk_182 0 144 (dk_at dksX1_staying_2 1 rfl rfl)
theorem dX1_staying_52 : decode cX1_staying 52 = .ok (.checkcast 363, 3) := dk_192 1 107 (dk_at dksX1_staying_2 4 rfl rfl)
theorem dX1_staying_55 : decode cX1_staying 55 = .ok (.getfield 366, 3) := dk_180 1 110 (dk_at dksX1_staying_2 7 rfl rfl)
theorem dX1_staying_58 : decode cX1_staying 58 = .ok (.iload_n 1, 1) := dk_27 (dk_at dksX1_staying_2 10 rfl rfl)
theorem dX1_staying_59 : decode cX1_staying 59 = .ok (.invokevirtual 297, 3) := dk_182 1 41 (dk_at dksX1_staying_2 11 rfl rfl)
theorem dX1_staying_62 : decode cX1_staying 62 = .ok (.istore 4, 2) := dk_54 4 (dk_at dksX1_staying_2 14 rfl rfl)
theorem dX1_staying_64 : decode cX1_staying 64 = .ok (.iload 4, 2) := dk_21 4 (dk_at dksX1_staying_2 16 rfl rfl)
theorem dX1_staying_66 : decode cX1_staying 66 = .ok (.iconst (-1), 1) := dk_2 (dk_at dksX1_staying_2 18 rfl rfl)
theorem dX1_staying_67 : decode cX1_staying 67 = .ok (.if_icmp .ne 9, 3) := dk_160 0 9 (dk_at dksX1_staying_2 19 rfl rfl)
theorem dX1_staying_70 : decode cX1_staying 70 = .ok (.iinc 2 1, 3) := dk_132 2 1 (dk_at dksX1_staying_3 0 rfl rfl)
theorem dX1_staying_73 : decode cX1_staying 73 = .ok (.goto 14, 3) := dk_167 0 14 (dk_at dksX1_staying_3 3 rfl rfl)
theorem dX1_staying_76 : decode cX1_staying 76 = .ok (.aload_n 0, 1) := dk_42 (dk_at dksX1_staying_3 6 rfl rfl)
theorem dX1_staying_77 : decode cX1_staying 77 = .ok (.dup, 1) := dk_89 (dk_at dksX1_staying_3 7 rfl rfl)
theorem dX1_staying_78 : decode cX1_staying 78 = .ok (.getfield 415, 3) := dk_180 1 159 (dk_at dksX1_staying_3 8 rfl rfl)
theorem dX1_staying_81 : decode cX1_staying 81 = .ok (.iload 4, 2) := dk_21 4 (dk_at dksX1_staying_3 11 rfl rfl)
theorem dX1_staying_83 : decode cX1_staying 83 = .ok (.iadd, 1) := dk_96 (dk_at dksX1_staying_3 13 rfl rfl)
theorem dX1_staying_84 : decode cX1_staying 84 = .ok (.putfield 415, 3) := dk_181 1 159 (dk_at dksX1_staying_3 14 rfl rfl)
theorem dX1_staying_87 : decode cX1_staying 87 = .ok (.iinc 3 1, 3) := dk_132 3 1 (dk_at dksX1_staying_3 17 rfl rfl)
theorem dX1_staying_90 : decode cX1_staying 90 = .ok (.goto (-81), 3) := dk_167 255 175 (dk_at dksX1_staying_3 20 rfl rfl)
theorem dX1_staying_93 : decode cX1_staying 93 = .ok (.iload_n 2, 1) := dk_28 (dk_at dksX1_staying_3 23 rfl rfl)
theorem dX1_staying_94 : decode cX1_staying 94 = .ok (.ireturn, 1) := dk_172 (dk_at dksX1_staying_4 0 rfl rfl)
abbrev cX1_baker : ByteArray := prog_1_method_76_code
def yX1_baker : MethodName := ⟨RX1, "baker", "(II)I"⟩
def dkwX1_baker_9 : List UInt8 := [167, 0, 17, 42, 180, 0, 117, 29, 46, 154, 0, 7, 2, 167, 0, 4, 29, 172]
abbrev dktX1_baker_9 : List UInt8 := dkwX1_baker_9 ++ []
def dkwX1_baker_8 : List UInt8 := [21, 4, 167, 0, 4, 29, 62, 132, 4, 1, 167, 255, 223, 28, 4, 160, 0, 12, 42, 180, 0, 117, 29, 46]
abbrev dktX1_baker_8 : List UInt8 := dkwX1_baker_8 ++ dktX1_baker_9
def dkwX1_baker_7 : List UInt8 := [21, 4, 16, 24, 162, 0, 32, 42, 180, 0, 117, 21, 4, 46, 42, 180, 0, 117, 29, 46, 164, 0, 8]
abbrev dktX1_baker_7 : List UInt8 := dkwX1_baker_7 ++ dktX1_baker_8
def dkwX1_baker_6 : List UInt8 := [132, 7, 1, 167, 255, 229, 132, 4, 1, 167, 255, 166, 132, 3, 1, 167, 255, 149, 3, 62, 4, 54, 4]
abbrev dktX1_baker_6 : List UInt8 := dkwX1_baker_6 ++ dktX1_baker_7
def dkwX1_baker_5 : List UInt8 := [16, 24, 162, 0, 26, 42, 180, 0, 117, 21, 7, 92, 46, 21, 6, 21, 7, 122, 4, 126, 96, 79]
abbrev dktX1_baker_5 : List UInt8 := dkwX1_baker_5 ++ dktX1_baker_6
def dkwX1_baker_4 : List UInt8 := [42, 180, 0, 45, 21, 7, 46, 5, 108, 120, 128, 54, 6, 132, 7, 1, 167, 255, 230, 3, 54, 7, 21, 7]
abbrev dktX1_baker_4 : List UInt8 := dkwX1_baker_4 ++ dktX1_baker_5
def dkwX1_baker_3 : List UInt8 := [21, 4, 27, 182, 1, 49, 54, 5, 3, 54, 6, 3, 54, 7, 21, 7, 21, 5, 162, 0, 25, 21, 6, 4]
abbrev dktX1_baker_3 : List UInt8 := dkwX1_baker_3 ++ dktX1_baker_4
def dkwX1_baker_2 : List UInt8 := [3, 62, 29, 42, 182, 0, 133, 162, 0, 105, 3, 54, 4, 21, 4, 42, 182, 0, 133, 162, 0, 87, 42, 29]
abbrev dktX1_baker_2 : List UInt8 := dkwX1_baker_2 ++ dktX1_baker_3
def dkwX1_baker_1 : List UInt8 := [184, 0, 164, 3, 62, 29, 16, 24, 162, 0, 16, 42, 180, 0, 117, 29, 3, 79, 132, 3, 1, 167, 255, 240]
abbrev dktX1_baker_1 : List UInt8 := dkwX1_baker_1 ++ dktX1_baker_2
def dkwX1_baker_0 : List UInt8 := [42, 27, 182, 0, 254, 153, 0, 16, 28, 153, 0, 8, 28, 4, 160, 0, 7, 4, 167, 0, 4, 3]
abbrev dktX1_baker_0 : List UInt8 := dkwX1_baker_0 ++ dktX1_baker_1
theorem dksX1_baker_0 : cX1_baker.data.toList.drop 0 = dktX1_baker_0 := by decide +kernel
theorem dksX1_baker_1 : cX1_baker.data.toList.drop 22 = dktX1_baker_1 := dk_seg dksX1_baker_0 22 rfl rfl
theorem dksX1_baker_2 : cX1_baker.data.toList.drop 46 = dktX1_baker_2 := dk_seg dksX1_baker_1 24 rfl rfl
theorem dksX1_baker_3 : cX1_baker.data.toList.drop 70 = dktX1_baker_3 := dk_seg dksX1_baker_2 24 rfl rfl
theorem dksX1_baker_4 : cX1_baker.data.toList.drop 94 = dktX1_baker_4 := dk_seg dksX1_baker_3 24 rfl rfl
theorem dksX1_baker_5 : cX1_baker.data.toList.drop 118 = dktX1_baker_5 := dk_seg dksX1_baker_4 24 rfl rfl
theorem dksX1_baker_6 : cX1_baker.data.toList.drop 140 = dktX1_baker_6 := dk_seg dksX1_baker_5 22 rfl rfl
theorem dksX1_baker_7 : cX1_baker.data.toList.drop 163 = dktX1_baker_7 := dk_seg dksX1_baker_6 23 rfl rfl
theorem dksX1_baker_8 : cX1_baker.data.toList.drop 186 = dktX1_baker_8 := dk_seg dksX1_baker_7 23 rfl rfl
theorem dksX1_baker_9 : cX1_baker.data.toList.drop 210 = dktX1_baker_9 := dk_seg dksX1_baker_8 24 rfl rfl
theorem dX1_baker_0 : decode cX1_baker 0 = .ok (.aload_n 0, 1) := dk_42 (dk_at dksX1_baker_0 0 rfl rfl)
theorem dX1_baker_1 : decode cX1_baker 1 = .ok (.iload_n 1, 1) := dk_27 (dk_at dksX1_baker_0 1 rfl rfl)
theorem dX1_baker_2 : decode cX1_baker 2 = .ok (.invokevirtual 254, 3) := dk_182 0 254 (dk_at dksX1_baker_0 2 rfl rfl)
theorem dX1_baker_5 : decode cX1_baker 5 = .ok (.ifCond .eq 16, 3) := dk_153 0 16 (dk_at dksX1_baker_0 5 rfl rfl)
theorem dX1_baker_8 : decode cX1_baker 8 = .ok (.iload_n 2, 1) := dk_28 (dk_at dksX1_baker_0 8 rfl rfl)
theorem dX1_baker_9 : decode cX1_baker 9 = .ok (.ifCond .eq 8, 3) := dk_153 0 8 (dk_at dksX1_baker_0 9 rfl rfl)
theorem dX1_baker_12 : decode cX1_baker 12 = .ok (.iload_n 2, 1) := dk_28 (dk_at dksX1_baker_0 12 rfl rfl)
theorem dX1_baker_13 : decode cX1_baker 13 = .ok (.iconst 1, 1) := dk_4 (dk_at dksX1_baker_0 13 rfl rfl)
theorem dX1_baker_14 : decode cX1_baker 14 = .ok (.if_icmp .ne 7, 3) := dk_160 0 7 (dk_at dksX1_baker_0 14 rfl rfl)
theorem dX1_baker_17 : decode cX1_baker 17 = .ok (.iconst 1, 1) := dk_4 (dk_at dksX1_baker_0 17 rfl rfl)
theorem dX1_baker_18 : decode cX1_baker 18 = .ok (.goto 4, 3) := dk_167 0 4 (dk_at dksX1_baker_0 18 rfl rfl)
theorem dX1_baker_21 : decode cX1_baker 21 = .ok (.iconst 0, 1) := dk_3 (dk_at dksX1_baker_0 21 rfl rfl)
theorem dX1_baker_22 : decode cX1_baker 22 = .ok (.invokestatic 164, 3) := dk_184 0 164 (dk_at dksX1_baker_1 0 rfl rfl)
theorem dX1_baker_25 : decode cX1_baker 25 = .ok (.iconst 0, 1) := dk_3 (dk_at dksX1_baker_1 3 rfl rfl)
theorem dX1_baker_26 : decode cX1_baker 26 = .ok (.istore_n 3, 1) := dk_62 (dk_at dksX1_baker_1 4 rfl rfl)
theorem dX1_baker_27 : decode cX1_baker 27 = .ok (.iload_n 3, 1) := dk_29 (dk_at dksX1_baker_1 5 rfl rfl)
theorem dX1_baker_28 : decode cX1_baker 28 = .ok (.bipush 24, 2) := dk_16 24 (dk_at dksX1_baker_1 6 rfl rfl)
theorem dX1_baker_30 : decode cX1_baker 30 = .ok (.if_icmp .ge 16, 3) := dk_162 0 16 (dk_at dksX1_baker_1 8 rfl rfl)
theorem dX1_baker_33 : decode cX1_baker 33 = .ok (.aload_n 0, 1) := dk_42 (dk_at dksX1_baker_1 11 rfl rfl)
theorem dX1_baker_34 : decode cX1_baker 34 = .ok (.getfield 117, 3) := dk_180 0 117 (dk_at dksX1_baker_1 12 rfl rfl)
theorem dX1_baker_37 : decode cX1_baker 37 = .ok (.iload_n 3, 1) := dk_29 (dk_at dksX1_baker_1 15 rfl rfl)
theorem dX1_baker_38 : decode cX1_baker 38 = .ok (.iconst 0, 1) := dk_3 (dk_at dksX1_baker_1 16 rfl rfl)
theorem dX1_baker_39 : decode cX1_baker 39 = .ok (.iastore, 1) := dk_79 (dk_at dksX1_baker_1 17 rfl rfl)
theorem dX1_baker_40 : decode cX1_baker 40 = .ok (.iinc 3 1, 3) := dk_132 3 1 (dk_at dksX1_baker_1 18 rfl rfl)
theorem dX1_baker_43 : decode cX1_baker 43 = .ok (.goto (-16), 3) := dk_167 255 240 (dk_at dksX1_baker_1 21 rfl rfl)
theorem dX1_baker_46 : decode cX1_baker 46 = .ok (.iconst 0, 1) := dk_3 (dk_at dksX1_baker_2 0 rfl rfl)
theorem dX1_baker_47 : decode cX1_baker 47 = .ok (.istore_n 3, 1) := dk_62 (dk_at dksX1_baker_2 1 rfl rfl)
theorem dX1_baker_48 : decode cX1_baker 48 = .ok (.iload_n 3, 1) := dk_29 (dk_at dksX1_baker_2 2 rfl rfl)
theorem dX1_baker_49 : decode cX1_baker 49 = .ok (.aload_n 0, 1) := dk_42 (dk_at dksX1_baker_2 3 rfl rfl)
theorem dX1_baker_50 : decode cX1_baker 50 = .ok (.invokevirtual 133, 3) := dk_182 0 133 (dk_at dksX1_baker_2 4 rfl rfl)
theorem dX1_baker_53 : decode cX1_baker 53 = .ok (.if_icmp .ge 105, 3) := dk_162 0 105 (dk_at dksX1_baker_2 7 rfl rfl)
theorem dX1_baker_56 : decode cX1_baker 56 = .ok (.iconst 0, 1) := dk_3 (dk_at dksX1_baker_2 10 rfl rfl)
theorem dX1_baker_57 : decode cX1_baker 57 = .ok (.istore 4, 2) := dk_54 4 (dk_at dksX1_baker_2 11 rfl rfl)
theorem dX1_baker_59 : decode cX1_baker 59 = .ok (.iload 4, 2) := dk_21 4 (dk_at dksX1_baker_2 13 rfl rfl)
theorem dX1_baker_61 : decode cX1_baker 61 = .ok (.aload_n 0, 1) := dk_42 (dk_at dksX1_baker_2 15 rfl rfl)
theorem dX1_baker_62 : decode cX1_baker 62 = .ok (.invokevirtual 133, 3) := dk_182 0 133 (dk_at dksX1_baker_2 16 rfl rfl)
theorem dX1_baker_65 : decode cX1_baker 65 = .ok (.if_icmp .ge 87, 3) := dk_162 0 87 (dk_at dksX1_baker_2 19 rfl rfl)
theorem dX1_baker_68 : decode cX1_baker 68 = .ok (.aload_n 0, 1) := dk_42 (dk_at dksX1_baker_2 22 rfl rfl)
theorem dX1_baker_69 : decode cX1_baker 69 = .ok (.iload_n 3, 1) := dk_29 (dk_at dksX1_baker_2 23 rfl rfl)
theorem dX1_baker_70 : decode cX1_baker 70 = .ok (.iload 4, 2) := dk_21 4 (dk_at dksX1_baker_3 0 rfl rfl)
theorem dX1_baker_72 : decode cX1_baker 72 = .ok (.iload_n 1, 1) := dk_27 (dk_at dksX1_baker_3 2 rfl rfl)
theorem dX1_baker_73 : decode cX1_baker 73 = .ok (.invokevirtual 305, 3) := dk_182 1 49 (dk_at dksX1_baker_3 3 rfl rfl)
theorem dX1_baker_76 : decode cX1_baker 76 = .ok (.istore 5, 2) := dk_54 5 (dk_at dksX1_baker_3 6 rfl rfl)
theorem dX1_baker_78 : decode cX1_baker 78 = .ok (.iconst 0, 1) := dk_3 (dk_at dksX1_baker_3 8 rfl rfl)
theorem dX1_baker_79 : decode cX1_baker 79 = .ok (.istore 6, 2) := dk_54 6 (dk_at dksX1_baker_3 9 rfl rfl)
theorem dX1_baker_81 : decode cX1_baker 81 = .ok (.iconst 0, 1) := dk_3 (dk_at dksX1_baker_3 11 rfl rfl)
theorem dX1_baker_82 : decode cX1_baker 82 = .ok (.istore 7, 2) := dk_54 7 (dk_at dksX1_baker_3 12 rfl rfl)
theorem dX1_baker_84 : decode cX1_baker 84 = .ok (.iload 7, 2) := dk_21 7 (dk_at dksX1_baker_3 14 rfl rfl)
theorem dX1_baker_86 : decode cX1_baker 86 = .ok (.iload 5, 2) := dk_21 5 (dk_at dksX1_baker_3 16 rfl rfl)
theorem dX1_baker_88 : decode cX1_baker 88 = .ok (.if_icmp .ge 25, 3) := dk_162 0 25 (dk_at dksX1_baker_3 18 rfl rfl)
theorem dX1_baker_91 : decode cX1_baker 91 = .ok (.iload 6, 2) := dk_21 6 (dk_at dksX1_baker_3 21 rfl rfl)
theorem dX1_baker_93 : decode cX1_baker 93 = .ok (.iconst 1, 1) := dk_4 (dk_at dksX1_baker_3 23 rfl rfl)
theorem dX1_baker_94 : decode cX1_baker 94 = .ok (.aload_n 0, 1) := dk_42 (dk_at dksX1_baker_4 0 rfl rfl)
theorem dX1_baker_95 : decode cX1_baker 95 = .ok (.getfield 45, 3) := dk_180 0 45 (dk_at dksX1_baker_4 1 rfl rfl)
theorem dX1_baker_98 : decode cX1_baker 98 = .ok (.iload 7, 2) := dk_21 7 (dk_at dksX1_baker_4 4 rfl rfl)
theorem dX1_baker_100 : decode cX1_baker 100 = .ok (.iaload, 1) := dk_46 (dk_at dksX1_baker_4 6 rfl rfl)
theorem dX1_baker_101 : decode cX1_baker 101 = .ok (.iconst 2, 1) := dk_5 (dk_at dksX1_baker_4 7 rfl rfl)
theorem dX1_baker_102 : decode cX1_baker 102 = .ok (.idiv, 1) := dk_108 (dk_at dksX1_baker_4 8 rfl rfl)
theorem dX1_baker_103 : decode cX1_baker 103 = .ok (.ishl, 1) := dk_120 (dk_at dksX1_baker_4 9 rfl rfl)
theorem dX1_baker_104 : decode cX1_baker 104 = .ok (.ior, 1) := dk_128 (dk_at dksX1_baker_4 10 rfl rfl)
theorem dX1_baker_105 : decode cX1_baker 105 = .ok (.istore 6, 2) := dk_54 6 (dk_at dksX1_baker_4 11 rfl rfl)
theorem dX1_baker_107 : decode cX1_baker 107 = .ok (.iinc 7 1, 3) := dk_132 7 1 (dk_at dksX1_baker_4 13 rfl rfl)
theorem dX1_baker_110 : decode cX1_baker 110 = .ok (.goto (-26), 3) := dk_167 255 230 (dk_at dksX1_baker_4 16 rfl rfl)
theorem dX1_baker_113 : decode cX1_baker 113 = .ok (.iconst 0, 1) := dk_3 (dk_at dksX1_baker_4 19 rfl rfl)
theorem dX1_baker_114 : decode cX1_baker 114 = .ok (.istore 7, 2) := dk_54 7 (dk_at dksX1_baker_4 20 rfl rfl)
theorem dX1_baker_116 : decode cX1_baker 116 = .ok (.iload 7, 2) := dk_21 7 (dk_at dksX1_baker_4 22 rfl rfl)
theorem dX1_baker_118 : decode cX1_baker 118 = .ok (.bipush 24, 2) := dk_16 24 (dk_at dksX1_baker_5 0 rfl rfl)
theorem dX1_baker_120 : decode cX1_baker 120 = .ok (.if_icmp .ge 26, 3) := dk_162 0 26 (dk_at dksX1_baker_5 2 rfl rfl)
theorem dX1_baker_123 : decode cX1_baker 123 = .ok (.aload_n 0, 1) := dk_42 (dk_at dksX1_baker_5 5 rfl rfl)
theorem dX1_baker_124 : decode cX1_baker 124 = .ok (.getfield 117, 3) := dk_180 0 117 (dk_at dksX1_baker_5 6 rfl rfl)
theorem dX1_baker_127 : decode cX1_baker 127 = .ok (.iload 7, 2) := dk_21 7 (dk_at dksX1_baker_5 9 rfl rfl)
theorem dX1_baker_129 : decode cX1_baker 129 = .ok (.dup2, 1) := dk_92 (dk_at dksX1_baker_5 11 rfl rfl)
theorem dX1_baker_130 : decode cX1_baker 130 = .ok (.iaload, 1) := dk_46 (dk_at dksX1_baker_5 12 rfl rfl)
theorem dX1_baker_131 : decode cX1_baker 131 = .ok (.iload 6, 2) := dk_21 6 (dk_at dksX1_baker_5 13 rfl rfl)
theorem dX1_baker_133 : decode cX1_baker 133 = .ok (.iload 7, 2) := dk_21 7 (dk_at dksX1_baker_5 15 rfl rfl)
theorem dX1_baker_135 : decode cX1_baker 135 = .ok (.ishr, 1) := dk_122 (dk_at dksX1_baker_5 17 rfl rfl)
theorem dX1_baker_136 : decode cX1_baker 136 = .ok (.iconst 1, 1) := dk_4 (dk_at dksX1_baker_5 18 rfl rfl)
theorem dX1_baker_137 : decode cX1_baker 137 = .ok (.iand, 1) := dk_126 (dk_at dksX1_baker_5 19 rfl rfl)
theorem dX1_baker_138 : decode cX1_baker 138 = .ok (.iadd, 1) := dk_96 (dk_at dksX1_baker_5 20 rfl rfl)
theorem dX1_baker_139 : decode cX1_baker 139 = .ok (.iastore, 1) := dk_79 (dk_at dksX1_baker_5 21 rfl rfl)
theorem dX1_baker_140 : decode cX1_baker 140 = .ok (.iinc 7 1, 3) := dk_132 7 1 (dk_at dksX1_baker_6 0 rfl rfl)
theorem dX1_baker_143 : decode cX1_baker 143 = .ok (.goto (-27), 3) := dk_167 255 229 (dk_at dksX1_baker_6 3 rfl rfl)
theorem dX1_baker_146 : decode cX1_baker 146 = .ok (.iinc 4 1, 3) := dk_132 4 1 (dk_at dksX1_baker_6 6 rfl rfl)
theorem dX1_baker_149 : decode cX1_baker 149 = .ok (.goto (-90), 3) := dk_167 255 166 (dk_at dksX1_baker_6 9 rfl rfl)
theorem dX1_baker_152 : decode cX1_baker 152 = .ok (.iinc 3 1, 3) := dk_132 3 1 (dk_at dksX1_baker_6 12 rfl rfl)
theorem dX1_baker_155 : decode cX1_baker 155 = .ok (.goto (-107), 3) := dk_167 255 149 (dk_at dksX1_baker_6 15 rfl rfl)
theorem dX1_baker_158 : decode cX1_baker 158 = .ok (.iconst 0, 1) := dk_3 (dk_at dksX1_baker_6 18 rfl rfl)
theorem dX1_baker_159 : decode cX1_baker 159 = .ok (.istore_n 3, 1) := dk_62 (dk_at dksX1_baker_6 19 rfl rfl)
theorem dX1_baker_160 : decode cX1_baker 160 = .ok (.iconst 1, 1) := dk_4 (dk_at dksX1_baker_6 20 rfl rfl)
theorem dX1_baker_161 : decode cX1_baker 161 = .ok (.istore 4, 2) := dk_54 4 (dk_at dksX1_baker_6 21 rfl rfl)
theorem dX1_baker_163 : decode cX1_baker 163 = .ok (.iload 4, 2) := dk_21 4 (dk_at dksX1_baker_7 0 rfl rfl)
theorem dX1_baker_165 : decode cX1_baker 165 = .ok (.bipush 24, 2) := dk_16 24 (dk_at dksX1_baker_7 2 rfl rfl)
theorem dX1_baker_167 : decode cX1_baker 167 = .ok (.if_icmp .ge 32, 3) := dk_162 0 32 (dk_at dksX1_baker_7 4 rfl rfl)
theorem dX1_baker_170 : decode cX1_baker 170 = .ok (.aload_n 0, 1) := dk_42 (dk_at dksX1_baker_7 7 rfl rfl)
theorem dX1_baker_171 : decode cX1_baker 171 = .ok (.getfield 117, 3) := dk_180 0 117 (dk_at dksX1_baker_7 8 rfl rfl)
theorem dX1_baker_174 : decode cX1_baker 174 = .ok (.iload 4, 2) := dk_21 4 (dk_at dksX1_baker_7 11 rfl rfl)
theorem dX1_baker_176 : decode cX1_baker 176 = .ok (.iaload, 1) := dk_46 (dk_at dksX1_baker_7 13 rfl rfl)
theorem dX1_baker_177 : decode cX1_baker 177 = .ok (.aload_n 0, 1) := dk_42 (dk_at dksX1_baker_7 14 rfl rfl)
theorem dX1_baker_178 : decode cX1_baker 178 = .ok (.getfield 117, 3) := dk_180 0 117 (dk_at dksX1_baker_7 15 rfl rfl)
theorem dX1_baker_181 : decode cX1_baker 181 = .ok (.iload_n 3, 1) := dk_29 (dk_at dksX1_baker_7 18 rfl rfl)
theorem dX1_baker_182 : decode cX1_baker 182 = .ok (.iaload, 1) := dk_46 (dk_at dksX1_baker_7 19 rfl rfl)
theorem dX1_baker_183 : decode cX1_baker 183 = .ok (.if_icmp .le 8, 3) := dk_164 0 8 (dk_at dksX1_baker_7 20 rfl rfl)
theorem dX1_baker_186 : decode cX1_baker 186 = .ok (.iload 4, 2) := dk_21 4 (dk_at dksX1_baker_8 0 rfl rfl)
theorem dX1_baker_188 : decode cX1_baker 188 = .ok (.goto 4, 3) := dk_167 0 4 (dk_at dksX1_baker_8 2 rfl rfl)
theorem dX1_baker_191 : decode cX1_baker 191 = .ok (.iload_n 3, 1) := dk_29 (dk_at dksX1_baker_8 5 rfl rfl)
theorem dX1_baker_192 : decode cX1_baker 192 = .ok (.istore_n 3, 1) := dk_62 (dk_at dksX1_baker_8 6 rfl rfl)
theorem dX1_baker_193 : decode cX1_baker 193 = .ok (.iinc 4 1, 3) := dk_132 4 1 (dk_at dksX1_baker_8 7 rfl rfl)
theorem dX1_baker_196 : decode cX1_baker 196 = .ok (.goto (-33), 3) := dk_167 255 223 (dk_at dksX1_baker_8 10 rfl rfl)
theorem dX1_baker_199 : decode cX1_baker 199 = .ok (.iload_n 2, 1) := dk_28 (dk_at dksX1_baker_8 13 rfl rfl)
theorem dX1_baker_200 : decode cX1_baker 200 = .ok (.iconst 1, 1) := dk_4 (dk_at dksX1_baker_8 14 rfl rfl)
theorem dX1_baker_201 : decode cX1_baker 201 = .ok (.if_icmp .ne 12, 3) := dk_160 0 12 (dk_at dksX1_baker_8 15 rfl rfl)
theorem dX1_baker_204 : decode cX1_baker 204 = .ok (.aload_n 0, 1) := dk_42 (dk_at dksX1_baker_8 18 rfl rfl)
theorem dX1_baker_205 : decode cX1_baker 205 = .ok (.getfield 117, 3) := dk_180 0 117 (dk_at dksX1_baker_8 19 rfl rfl)
theorem dX1_baker_208 : decode cX1_baker 208 = .ok (.iload_n 3, 1) := dk_29 (dk_at dksX1_baker_8 22 rfl rfl)
theorem dX1_baker_209 : decode cX1_baker 209 = .ok (.iaload, 1) := dk_46 (dk_at dksX1_baker_8 23 rfl rfl)
theorem dX1_baker_210 : decode cX1_baker 210 = .ok (.goto 17, 3) := dk_167 0 17 (dk_at dksX1_baker_9 0 rfl rfl)
theorem dX1_baker_213 : decode cX1_baker 213 = .ok (.aload_n 0, 1) := dk_42 (dk_at dksX1_baker_9 3 rfl rfl)
theorem dX1_baker_214 : decode cX1_baker 214 = .ok (.getfield 117, 3) := dk_180 0 117 (dk_at dksX1_baker_9 4 rfl rfl)
theorem dX1_baker_217 : decode cX1_baker 217 = .ok (.iload_n 3, 1) := dk_29 (dk_at dksX1_baker_9 7 rfl rfl)
theorem dX1_baker_218 : decode cX1_baker 218 = .ok (.iaload, 1) := dk_46 (dk_at dksX1_baker_9 8 rfl rfl)
theorem dX1_baker_219 : decode cX1_baker 219 = .ok (.ifCond .ne 7, 3) := dk_154 0 7 (dk_at dksX1_baker_9 9 rfl rfl)
theorem dX1_baker_222 : decode cX1_baker 222 = .ok (.iconst (-1), 1) := dk_2 (dk_at dksX1_baker_9 12 rfl rfl)
theorem dX1_baker_223 : decode cX1_baker 223 = .ok (.goto 4, 3) := dk_167 0 4 (dk_at dksX1_baker_9 13 rfl rfl)
theorem dX1_baker_226 : decode cX1_baker 226 = .ok (.iload_n 3, 1) := dk_29 (dk_at dksX1_baker_9 16 rfl rfl)
theorem dX1_baker_227 : decode cX1_baker 227 = .ok (.ireturn, 1) := dk_172 (dk_at dksX1_baker_9 17 rfl rfl)
theorem q116 : (Jvm.Cond.initialized "RightTurns") ∈ lw_all := lw_g (lw_at lw_m1 1 rfl) rfl
theorem q149 : (Jvm.Cond.instantiable "RightTurns" (40 : Nat)) ∈ lw_all := lw_g (lw_at lw_m1 34 rfl) rfl
theorem q151 : (Jvm.Cond.instanceMethod ({ cls := "RightTurns", name := "<init>", desc := "()V" } : Jvm.MethodName)) ∈ lw_all := lw_g (lw_at lw_m1 36 rfl) rfl
theorem q152 : (Jvm.Cond.code ({ cls := "RightTurns", name := "<init>", desc := "()V" } : Jvm.MethodName) prog_1_method_1_code (1 : Nat) (Option.none : Option Jvm.ClassFile.FieldType)) ∈ lw_all := lw_g (lw_at lw_m1 37 rfl) rfl
theorem q153 : (Jvm.Cond.methodLink "RightTurns" (3 : Nat) ({ cls := "java/lang/Object", name := "<init>", desc := "()V" } : Jvm.MethodName)) ∈ lw_all := lw_g (lw_at lw_m1 38 rfl) rfl
theorem q156 : (Jvm.Cond.classLink "RightTurns" (9 : Nat) "RightTurns$Town") ∈ lw_all := lw_g (lw_at lw_m1 41 rfl) rfl
theorem q158 : (Jvm.Cond.methodLinkNest "RightTurns" (11 : Nat) ({ cls := "RightTurns$Town", name := "<init>", desc := "()V" } : Jvm.MethodName) "RightTurns") ∈ lw_tbl := lw_at lw_m1 43 rfl
theorem q507 : (Jvm.Cond.fieldLinkNest "RightTurns" (123 : Nat) "RightTurns$Town" "corners" "Ljava/util/ArrayList;" "RightTurns") ∈ lw_tbl := lw_at lw_m2 152 rfl
theorem q510 : (Jvm.Cond.fieldLinkNest "RightTurns" (138 : Nat) "RightTurns$Town" "streets" "Ljava/util/ArrayList;" "RightTurns") ∈ lw_tbl := lw_at lw_m2 155 rfl
theorem q514 : (Jvm.Cond.fieldLinkNest "RightTurns" (214 : Nat) "RightTurns$Town" "riders" "Ljava/util/ArrayList;" "RightTurns") ∈ lw_tbl := lw_at lw_m2 159 rfl
theorem q516 : (Jvm.Cond.fieldLinkNest "RightTurns" (180 : Nat) "RightTurns$Town" "signs" "[I" "RightTurns") ∈ lw_tbl := lw_at lw_m2 161 rfl
theorem q519 : (Jvm.Cond.fieldLinkNest "RightTurns" (190 : Nat) "RightTurns$Town" "allowed" "[I" "RightTurns") ∈ lw_tbl := lw_at lw_m2 164 rfl
theorem q522 : (Jvm.Cond.fieldLinkNest "RightTurns" (332 : Nat) "RightTurns$Town" "leftFrom" "[I" "RightTurns") ∈ lw_tbl := lw_at lw_m2 167 rfl
theorem q524 : (Jvm.Cond.fieldLinkNest "RightTurns" (335 : Nat) "RightTurns$Town" "leftTo" "[I" "RightTurns") ∈ lw_tbl := lw_at lw_m2 169 rfl
theorem q526 : (Jvm.Cond.fieldLinkNest "RightTurns" (205 : Nat) "RightTurns$Town" "boxes" "I" "RightTurns") ∈ lw_tbl := lw_at lw_m2 171 rfl
theorem q528 : (Jvm.Cond.fieldLinkNest "RightTurns" (217 : Nat) "RightTurns$Town" "lefts" "I" "RightTurns") ∈ lw_tbl := lw_at lw_m2 173 rfl
theorem q552 : (Jvm.Cond.classLink "RightTurns" (16 : Nat) "RightTurns$State") ∈ lw_all := lw_g (lw_at lw_m2 197 rfl) rfl
theorem q554 : (Jvm.Cond.methodLinkNest "RightTurns" (18 : Nat) ({ cls := "RightTurns$State", name := "<init>", desc := "()V" } : Jvm.MethodName) "RightTurns") ∈ lw_tbl := lw_at lw_m2 199 rfl
theorem q559 : (Jvm.Cond.fieldLinkNest "RightTurns" (183 : Nat) "RightTurns$State" "signs" "[I" "RightTurns") ∈ lw_tbl := lw_at lw_m2 204 rfl
theorem q561 : (Jvm.Cond.fieldLinkNest "RightTurns" (193 : Nat) "RightTurns$State" "allowed" "[I" "RightTurns") ∈ lw_tbl := lw_at lw_m2 206 rfl
theorem q563 : (Jvm.Cond.fieldLinkNest "RightTurns" (394 : Nat) "RightTurns$State" "ride" "[I" "RightTurns") ∈ lw_tbl := lw_at lw_m2 208 rfl
theorem q565 : (Jvm.Cond.fieldLinkNest "RightTurns" (154 : Nat) "RightTurns$State" "time" "I" "RightTurns") ∈ lw_tbl := lw_at lw_m2 210 rfl
theorem q567 : (Jvm.Cond.fieldLinkNest "RightTurns" (177 : Nat) "RightTurns$State" "told" "I" "RightTurns") ∈ lw_tbl := lw_at lw_m2 212 rfl
theorem q580 : (Jvm.Cond.constant "RightTurns" (65 : Nat) (49152 : Int32)) ∈ lw_all := lw_g (lw_at lw_m2 225 rfl) rfl
theorem q581 : (Jvm.Cond.fieldLink "RightTurns" (12 : Nat) "RightTurns" "town" "LRightTurns$Town;") ∈ lw_all := lw_g (lw_at lw_m2 226 rfl) rfl
theorem q582 : (Jvm.Cond.fieldLink "RightTurns" (19 : Nat) "RightTurns" "state" "LRightTurns$State;") ∈ lw_all := lw_g (lw_at lw_m2 227 rfl) rfl
theorem q583 : (Jvm.Cond.fieldLink "RightTurns" (157 : Nat) "RightTurns" "taped" "I") ∈ lw_all := lw_g (lw_at lw_m2 228 rfl) rfl
theorem q584 : (Jvm.Cond.fieldLink "RightTurns" (23 : Nat) "RightTurns" "faultAt" "I") ∈ lw_all := lw_g (lw_at lw_m2 229 rfl) rfl
theorem q585 : (Jvm.Cond.fieldLink "RightTurns" (194 : Nat) "RightTurns" "imageMany" "I") ∈ lw_all := lw_g (lw_at lw_m2 230 rfl) rfl
theorem q586 : (Jvm.Cond.fieldLink "RightTurns" (27 : Nat) "RightTurns" "tape" "[B") ∈ lw_all := lw_g (lw_at lw_m2 231 rfl) rfl
theorem q587 : (Jvm.Cond.fieldLink "RightTurns" (31 : Nat) "RightTurns" "images" "[LRightTurns$State;") ∈ lw_all := lw_g (lw_at lw_m2 232 rfl) rfl
theorem q588 : (Jvm.Cond.fieldLink "RightTurns" (35 : Nat) "RightTurns" "more" "[I") ∈ lw_all := lw_g (lw_at lw_m2 233 rfl) rfl
theorem q589 : (Jvm.Cond.fieldLink "RightTurns" (39 : Nat) "RightTurns" "fewer" "[I") ∈ lw_all := lw_g (lw_at lw_m2 234 rfl) rfl
theorem q590 : (Jvm.Cond.fieldLink "RightTurns" (244 : Nat) "RightTurns" "free" "Z") ∈ lw_all := lw_g (lw_at lw_m2 235 rfl) rfl
theorem q591 : (Jvm.Cond.fieldLink "RightTurns" (42 : Nat) "RightTurns" "rest" "[I") ∈ lw_all := lw_g (lw_at lw_m2 236 rfl) rfl
theorem q592 : (Jvm.Cond.fieldLink "RightTurns" (45 : Nat) "RightTurns" "path" "[I") ∈ lw_all := lw_g (lw_at lw_m2 237 rfl) rfl
theorem q593 : (Jvm.Cond.fieldLink "RightTurns" (48 : Nat) "RightTurns" "seen" "[Z") ∈ lw_all := lw_g (lw_at lw_m2 238 rfl) rfl
theorem q594 : (Jvm.Cond.fieldLink "RightTurns" (52 : Nat) "RightTurns" "queue" "[I") ∈ lw_all := lw_g (lw_at lw_m2 239 rfl) rfl
theorem q595 : (Jvm.Cond.fieldLink "RightTurns" (55 : Nat) "RightTurns" "part" "[I") ∈ lw_all := lw_g (lw_at lw_m3 0 rfl) rfl
theorem q596 : (Jvm.Cond.fieldLink "RightTurns" (58 : Nat) "RightTurns" "behind" "[J") ∈ lw_all := lw_g (lw_at lw_m3 1 rfl) rfl
theorem q597 : (Jvm.Cond.fieldLink "RightTurns" (62 : Nat) "RightTurns" "candidate" "[I") ∈ lw_all := lw_g (lw_at lw_m3 2 rfl) rfl
theorem q598 : (Jvm.Cond.fieldLink "RightTurns" (341 : Nat) "RightTurns" "leastBy" "I") ∈ lw_all := lw_g (lw_at lw_m3 3 rfl) rfl
theorem q599 : (Jvm.Cond.fieldLink "RightTurns" (66 : Nat) "RightTurns" "far" "[I") ∈ lw_all := lw_g (lw_at lw_m3 4 rfl) rfl
theorem q600 : (Jvm.Cond.fieldLink "RightTurns" (69 : Nat) "RightTurns" "boxAt" "[I") ∈ lw_all := lw_g (lw_at lw_m3 5 rfl) rfl
theorem q601 : (Jvm.Cond.fieldLink "RightTurns" (72 : Nat) "RightTurns" "point" "[I") ∈ lw_all := lw_g (lw_at lw_m3 6 rfl) rfl
theorem q602 : (Jvm.Cond.fieldLink "RightTurns" (75 : Nat) "RightTurns" "between" "[I") ∈ lw_all := lw_g (lw_at lw_m3 7 rfl) rfl
theorem q603 : (Jvm.Cond.fieldLink "RightTurns" (78 : Nat) "RightTurns" "least" "[I") ∈ lw_all := lw_g (lw_at lw_m3 8 rfl) rfl
theorem q604 : (Jvm.Cond.fieldLink "RightTurns" (81 : Nat) "RightTurns" "way" "[I") ∈ lw_all := lw_g (lw_at lw_m3 9 rfl) rfl
theorem q605 : (Jvm.Cond.fieldLink "RightTurns" (84 : Nat) "RightTurns" "ways" "[I") ∈ lw_all := lw_g (lw_at lw_m3 10 rfl) rfl
theorem q606 : (Jvm.Cond.fieldLink "RightTurns" (87 : Nat) "RightTurns" "at" "[I") ∈ lw_all := lw_g (lw_at lw_m3 11 rfl) rfl
theorem q607 : (Jvm.Cond.fieldLink "RightTurns" (90 : Nat) "RightTurns" "left" "[I") ∈ lw_all := lw_g (lw_at lw_m3 12 rfl) rfl
theorem q608 : (Jvm.Cond.fieldLink "RightTurns" (93 : Nat) "RightTurns" "came" "[I") ∈ lw_all := lw_g (lw_at lw_m3 13 rfl) rfl
theorem q609 : (Jvm.Cond.fieldLink "RightTurns" (96 : Nat) "RightTurns" "homeIn" "[I") ∈ lw_all := lw_g (lw_at lw_m3 14 rfl) rfl
theorem q610 : (Jvm.Cond.fieldLink "RightTurns" (99 : Nat) "RightTurns" "waited" "[I") ∈ lw_all := lw_g (lw_at lw_m3 15 rfl) rfl
theorem q611 : (Jvm.Cond.fieldLink "RightTurns" (370 : Nat) "RightTurns" "rounds" "I") ∈ lw_all := lw_g (lw_at lw_m3 16 rfl) rfl
theorem q612 : (Jvm.Cond.fieldLink "RightTurns" (373 : Nat) "RightTurns" "homes" "I") ∈ lw_all := lw_g (lw_at lw_m3 17 rfl) rfl
theorem q613 : (Jvm.Cond.fieldLink "RightTurns" (102 : Nat) "RightTurns" "few" "[I") ∈ lw_all := lw_g (lw_at lw_m3 18 rfl) rfl
theorem q614 : (Jvm.Cond.fieldLink "RightTurns" (105 : Nat) "RightTurns" "fewThen" "[I") ∈ lw_all := lw_g (lw_at lw_m3 19 rfl) rfl
theorem q615 : (Jvm.Cond.fieldLink "RightTurns" (108 : Nat) "RightTurns" "many" "[J") ∈ lw_all := lw_g (lw_at lw_m3 20 rfl) rfl
theorem q616 : (Jvm.Cond.fieldLink "RightTurns" (111 : Nat) "RightTurns" "manyThen" "[J") ∈ lw_all := lw_g (lw_at lw_m3 21 rfl) rfl
theorem q617 : (Jvm.Cond.fieldLink "RightTurns" (114 : Nat) "RightTurns" "bannedFrom" "I") ∈ lw_all := lw_g (lw_at lw_m3 22 rfl) rfl
theorem q618 : (Jvm.Cond.fieldLink "RightTurns" (409 : Nat) "RightTurns" "bannedTo" "I") ∈ lw_all := lw_g (lw_at lw_m3 23 rfl) rfl
theorem q619 : (Jvm.Cond.fieldLink "RightTurns" (415 : Nat) "RightTurns" "ridersFar" "I") ∈ lw_all := lw_g (lw_at lw_m3 24 rfl) rfl
theorem q620 : (Jvm.Cond.fieldLink "RightTurns" (117 : Nat) "RightTurns" "passed" "[I") ∈ lw_all := lw_g (lw_at lw_m3 25 rfl) rfl
theorem q621 : (Jvm.Cond.lays "RightTurns" "RightTurns" "town" "LRightTurns$Town;") ∈ lw_all := lw_g (lw_at lw_m3 26 rfl) rfl
theorem q622 : (Jvm.Cond.soleField "RightTurns" "town") ∈ lw_all := lw_g (lw_at lw_m3 27 rfl) rfl
theorem q623 : (Jvm.Cond.laysFinal "RightTurns" "RightTurns" "state" "LRightTurns$State;") ∈ lw_all := lw_g (lw_at lw_m3 28 rfl) rfl
theorem q624 : (Jvm.Cond.soleField "RightTurns" "state") ∈ lw_all := lw_g (lw_at lw_m3 29 rfl) rfl
theorem q625 : (Jvm.Cond.lays "RightTurns" "RightTurns" "taped" "I") ∈ lw_all := lw_g (lw_at lw_m3 30 rfl) rfl
theorem q626 : (Jvm.Cond.soleField "RightTurns" "taped") ∈ lw_all := lw_g (lw_at lw_m3 31 rfl) rfl
theorem q627 : (Jvm.Cond.lays "RightTurns" "RightTurns" "faultAt" "I") ∈ lw_all := lw_g (lw_at lw_m3 32 rfl) rfl
theorem q628 : (Jvm.Cond.soleField "RightTurns" "faultAt") ∈ lw_all := lw_g (lw_at lw_m3 33 rfl) rfl
theorem q629 : (Jvm.Cond.lays "RightTurns" "RightTurns" "imageMany" "I") ∈ lw_all := lw_g (lw_at lw_m3 34 rfl) rfl
theorem q630 : (Jvm.Cond.soleField "RightTurns" "imageMany") ∈ lw_all := lw_g (lw_at lw_m3 35 rfl) rfl
theorem q631 : (Jvm.Cond.laysFinal "RightTurns" "RightTurns" "tape" "[B") ∈ lw_all := lw_g (lw_at lw_m3 36 rfl) rfl
theorem q632 : (Jvm.Cond.soleField "RightTurns" "tape") ∈ lw_all := lw_g (lw_at lw_m3 37 rfl) rfl
theorem q633 : (Jvm.Cond.laysFinal "RightTurns" "RightTurns" "images" "[LRightTurns$State;") ∈ lw_all := lw_g (lw_at lw_m3 38 rfl) rfl
theorem q634 : (Jvm.Cond.soleField "RightTurns" "images") ∈ lw_all := lw_g (lw_at lw_m3 39 rfl) rfl
theorem q635 : (Jvm.Cond.laysFinal "RightTurns" "RightTurns" "more" "[I") ∈ lw_all := lw_g (lw_at lw_m3 40 rfl) rfl
theorem q636 : (Jvm.Cond.soleField "RightTurns" "more") ∈ lw_all := lw_g (lw_at lw_m3 41 rfl) rfl
theorem q637 : (Jvm.Cond.laysFinal "RightTurns" "RightTurns" "fewer" "[I") ∈ lw_all := lw_g (lw_at lw_m3 42 rfl) rfl
theorem q638 : (Jvm.Cond.soleField "RightTurns" "fewer") ∈ lw_all := lw_g (lw_at lw_m3 43 rfl) rfl
theorem q639 : (Jvm.Cond.lays "RightTurns" "RightTurns" "free" "Z") ∈ lw_all := lw_g (lw_at lw_m3 44 rfl) rfl
theorem q640 : (Jvm.Cond.soleField "RightTurns" "free") ∈ lw_all := lw_g (lw_at lw_m3 45 rfl) rfl
theorem q641 : (Jvm.Cond.laysFinal "RightTurns" "RightTurns" "rest" "[I") ∈ lw_all := lw_g (lw_at lw_m3 46 rfl) rfl
theorem q642 : (Jvm.Cond.soleField "RightTurns" "rest") ∈ lw_all := lw_g (lw_at lw_m3 47 rfl) rfl
theorem q643 : (Jvm.Cond.laysFinal "RightTurns" "RightTurns" "path" "[I") ∈ lw_all := lw_g (lw_at lw_m3 48 rfl) rfl
theorem q644 : (Jvm.Cond.soleField "RightTurns" "path") ∈ lw_all := lw_g (lw_at lw_m3 49 rfl) rfl
theorem q645 : (Jvm.Cond.laysFinal "RightTurns" "RightTurns" "seen" "[Z") ∈ lw_all := lw_g (lw_at lw_m3 50 rfl) rfl
theorem q646 : (Jvm.Cond.soleField "RightTurns" "seen") ∈ lw_all := lw_g (lw_at lw_m3 51 rfl) rfl
theorem q647 : (Jvm.Cond.laysFinal "RightTurns" "RightTurns" "queue" "[I") ∈ lw_all := lw_g (lw_at lw_m3 52 rfl) rfl
theorem q648 : (Jvm.Cond.soleField "RightTurns" "queue") ∈ lw_all := lw_g (lw_at lw_m3 53 rfl) rfl
theorem q649 : (Jvm.Cond.laysFinal "RightTurns" "RightTurns" "part" "[I") ∈ lw_all := lw_g (lw_at lw_m3 54 rfl) rfl
theorem q650 : (Jvm.Cond.soleField "RightTurns" "part") ∈ lw_all := lw_g (lw_at lw_m3 55 rfl) rfl
theorem q651 : (Jvm.Cond.laysFinal "RightTurns" "RightTurns" "behind" "[J") ∈ lw_all := lw_g (lw_at lw_m3 56 rfl) rfl
theorem q652 : (Jvm.Cond.soleField "RightTurns" "behind") ∈ lw_all := lw_g (lw_at lw_m3 57 rfl) rfl
theorem q653 : (Jvm.Cond.laysFinal "RightTurns" "RightTurns" "candidate" "[I") ∈ lw_all := lw_g (lw_at lw_m3 58 rfl) rfl
theorem q654 : (Jvm.Cond.soleField "RightTurns" "candidate") ∈ lw_all := lw_g (lw_at lw_m3 59 rfl) rfl
theorem q655 : (Jvm.Cond.lays "RightTurns" "RightTurns" "leastBy" "I") ∈ lw_all := lw_g (lw_at lw_m3 60 rfl) rfl
theorem q656 : (Jvm.Cond.soleField "RightTurns" "leastBy") ∈ lw_all := lw_g (lw_at lw_m3 61 rfl) rfl
theorem q657 : (Jvm.Cond.laysFinal "RightTurns" "RightTurns" "far" "[I") ∈ lw_all := lw_g (lw_at lw_m3 62 rfl) rfl
theorem q658 : (Jvm.Cond.soleField "RightTurns" "far") ∈ lw_all := lw_g (lw_at lw_m3 63 rfl) rfl
theorem q659 : (Jvm.Cond.laysFinal "RightTurns" "RightTurns" "boxAt" "[I") ∈ lw_all := lw_g (lw_at lw_m3 64 rfl) rfl
theorem q660 : (Jvm.Cond.soleField "RightTurns" "boxAt") ∈ lw_all := lw_g (lw_at lw_m3 65 rfl) rfl
theorem q661 : (Jvm.Cond.laysFinal "RightTurns" "RightTurns" "point" "[I") ∈ lw_all := lw_g (lw_at lw_m3 66 rfl) rfl
theorem q662 : (Jvm.Cond.soleField "RightTurns" "point") ∈ lw_all := lw_g (lw_at lw_m3 67 rfl) rfl
theorem q663 : (Jvm.Cond.laysFinal "RightTurns" "RightTurns" "between" "[I") ∈ lw_all := lw_g (lw_at lw_m3 68 rfl) rfl
theorem q664 : (Jvm.Cond.soleField "RightTurns" "between") ∈ lw_all := lw_g (lw_at lw_m3 69 rfl) rfl
theorem q665 : (Jvm.Cond.laysFinal "RightTurns" "RightTurns" "least" "[I") ∈ lw_all := lw_g (lw_at lw_m3 70 rfl) rfl
theorem q666 : (Jvm.Cond.soleField "RightTurns" "least") ∈ lw_all := lw_g (lw_at lw_m3 71 rfl) rfl
theorem q667 : (Jvm.Cond.laysFinal "RightTurns" "RightTurns" "way" "[I") ∈ lw_all := lw_g (lw_at lw_m3 72 rfl) rfl
theorem q668 : (Jvm.Cond.soleField "RightTurns" "way") ∈ lw_all := lw_g (lw_at lw_m3 73 rfl) rfl
theorem q669 : (Jvm.Cond.laysFinal "RightTurns" "RightTurns" "ways" "[I") ∈ lw_all := lw_g (lw_at lw_m3 74 rfl) rfl
theorem q670 : (Jvm.Cond.soleField "RightTurns" "ways") ∈ lw_all := lw_g (lw_at lw_m3 75 rfl) rfl
theorem q671 : (Jvm.Cond.laysFinal "RightTurns" "RightTurns" "at" "[I") ∈ lw_all := lw_g (lw_at lw_m3 76 rfl) rfl
theorem q672 : (Jvm.Cond.soleField "RightTurns" "at") ∈ lw_all := lw_g (lw_at lw_m3 77 rfl) rfl
theorem q673 : (Jvm.Cond.laysFinal "RightTurns" "RightTurns" "left" "[I") ∈ lw_all := lw_g (lw_at lw_m3 78 rfl) rfl
theorem q674 : (Jvm.Cond.soleField "RightTurns" "left") ∈ lw_all := lw_g (lw_at lw_m3 79 rfl) rfl
theorem q675 : (Jvm.Cond.laysFinal "RightTurns" "RightTurns" "came" "[I") ∈ lw_all := lw_g (lw_at lw_m3 80 rfl) rfl
theorem q676 : (Jvm.Cond.soleField "RightTurns" "came") ∈ lw_all := lw_g (lw_at lw_m3 81 rfl) rfl
theorem q677 : (Jvm.Cond.laysFinal "RightTurns" "RightTurns" "homeIn" "[I") ∈ lw_all := lw_g (lw_at lw_m3 82 rfl) rfl
theorem q678 : (Jvm.Cond.soleField "RightTurns" "homeIn") ∈ lw_all := lw_g (lw_at lw_m3 83 rfl) rfl
theorem q679 : (Jvm.Cond.laysFinal "RightTurns" "RightTurns" "waited" "[I") ∈ lw_all := lw_g (lw_at lw_m3 84 rfl) rfl
theorem q680 : (Jvm.Cond.soleField "RightTurns" "waited") ∈ lw_all := lw_g (lw_at lw_m3 85 rfl) rfl
theorem q681 : (Jvm.Cond.lays "RightTurns" "RightTurns" "rounds" "I") ∈ lw_all := lw_g (lw_at lw_m3 86 rfl) rfl
theorem q682 : (Jvm.Cond.soleField "RightTurns" "rounds") ∈ lw_all := lw_g (lw_at lw_m3 87 rfl) rfl
theorem q683 : (Jvm.Cond.lays "RightTurns" "RightTurns" "homes" "I") ∈ lw_all := lw_g (lw_at lw_m3 88 rfl) rfl
theorem q684 : (Jvm.Cond.soleField "RightTurns" "homes") ∈ lw_all := lw_g (lw_at lw_m3 89 rfl) rfl
theorem q685 : (Jvm.Cond.laysFinal "RightTurns" "RightTurns" "few" "[I") ∈ lw_all := lw_g (lw_at lw_m3 90 rfl) rfl
theorem q686 : (Jvm.Cond.soleField "RightTurns" "few") ∈ lw_all := lw_g (lw_at lw_m3 91 rfl) rfl
theorem q687 : (Jvm.Cond.laysFinal "RightTurns" "RightTurns" "fewThen" "[I") ∈ lw_all := lw_g (lw_at lw_m3 92 rfl) rfl
theorem q688 : (Jvm.Cond.soleField "RightTurns" "fewThen") ∈ lw_all := lw_g (lw_at lw_m3 93 rfl) rfl
theorem q689 : (Jvm.Cond.laysFinal "RightTurns" "RightTurns" "many" "[J") ∈ lw_all := lw_g (lw_at lw_m3 94 rfl) rfl
theorem q690 : (Jvm.Cond.soleField "RightTurns" "many") ∈ lw_all := lw_g (lw_at lw_m3 95 rfl) rfl
theorem q691 : (Jvm.Cond.laysFinal "RightTurns" "RightTurns" "manyThen" "[J") ∈ lw_all := lw_g (lw_at lw_m3 96 rfl) rfl
theorem q692 : (Jvm.Cond.soleField "RightTurns" "manyThen") ∈ lw_all := lw_g (lw_at lw_m3 97 rfl) rfl
theorem q693 : (Jvm.Cond.lays "RightTurns" "RightTurns" "bannedFrom" "I") ∈ lw_all := lw_g (lw_at lw_m3 98 rfl) rfl
theorem q694 : (Jvm.Cond.soleField "RightTurns" "bannedFrom") ∈ lw_all := lw_g (lw_at lw_m3 99 rfl) rfl
theorem q695 : (Jvm.Cond.lays "RightTurns" "RightTurns" "bannedTo" "I") ∈ lw_all := lw_g (lw_at lw_m3 100 rfl) rfl
theorem q696 : (Jvm.Cond.soleField "RightTurns" "bannedTo") ∈ lw_all := lw_g (lw_at lw_m3 101 rfl) rfl
theorem q697 : (Jvm.Cond.lays "RightTurns" "RightTurns" "ridersFar" "I") ∈ lw_all := lw_g (lw_at lw_m3 102 rfl) rfl
theorem q698 : (Jvm.Cond.soleField "RightTurns" "ridersFar") ∈ lw_all := lw_g (lw_at lw_m3 103 rfl) rfl
theorem q699 : (Jvm.Cond.laysFinal "RightTurns" "RightTurns" "passed" "[I") ∈ lw_all := lw_g (lw_at lw_m3 104 rfl) rfl
theorem q700 : (Jvm.Cond.soleField "RightTurns" "passed") ∈ lw_all := lw_g (lw_at lw_m3 105 rfl) rfl
theorem q701 : (Jvm.Cond.superclass "RightTurns" "java/lang/Object") ∈ lw_all := lw_g (lw_at lw_m3 106 rfl) rfl
theorem q705 : (Jvm.Cond.instanceMethod ({ cls := "RightTurns", name := "feed", desc := "(IIIII)I" } : Jvm.MethodName)) ∈ lw_all := lw_g (lw_at lw_m3 110 rfl) rfl
theorem q706 : (Jvm.Cond.selects "RightTurns" ({ cls := "RightTurns", name := "feed", desc := "(IIIII)I" } : Jvm.MethodName) ({ cls := "RightTurns", name := "feed", desc := "(IIIII)I" } : Jvm.MethodName)) ∈ lw_all := lw_g (lw_at lw_m3 111 rfl) rfl
theorem q707 : (Jvm.Cond.code ({ cls := "RightTurns", name := "feed", desc := "(IIIII)I" } : Jvm.MethodName) prog_1_method_8_code (6 : Nat) (Option.some Jvm.ClassFile.FieldType.int)) ∈ lw_all := lw_g (lw_at lw_m3 112 rfl) rfl
theorem q708 : (Jvm.Cond.methodLink "RightTurns" (160 : Nat) ({ cls := "RightTurns", name := "put", desc := "(I)V" } : Jvm.MethodName)) ∈ lw_all := lw_g (lw_at lw_m3 113 rfl) rfl
theorem q709 : (Jvm.Cond.privateMethod ({ cls := "RightTurns", name := "put", desc := "(I)V" } : Jvm.MethodName)) ∈ lw_tbl := lw_at lw_m3 114 rfl
theorem q710 : (Jvm.Cond.instanceMethod ({ cls := "RightTurns", name := "put", desc := "(I)V" } : Jvm.MethodName)) ∈ lw_all := lw_g (lw_at lw_m3 115 rfl) rfl
theorem q711 : (Jvm.Cond.code ({ cls := "RightTurns", name := "put", desc := "(I)V" } : Jvm.MethodName) prog_1_method_9_code (3 : Nat) (Option.none : Option Jvm.ClassFile.FieldType)) ∈ lw_all := lw_g (lw_at lw_m3 116 rfl) rfl
theorem q713 : (Jvm.Cond.instanceMethod ({ cls := "RightTurns", name := "fault", desc := "()I" } : Jvm.MethodName)) ∈ lw_all := lw_g (lw_at lw_m3 118 rfl) rfl
theorem q714 : (Jvm.Cond.selects "RightTurns" ({ cls := "RightTurns", name := "fault", desc := "()I" } : Jvm.MethodName) ({ cls := "RightTurns", name := "fault", desc := "()I" } : Jvm.MethodName)) ∈ lw_all := lw_g (lw_at lw_m3 119 rfl) rfl
theorem q715 : (Jvm.Cond.code ({ cls := "RightTurns", name := "fault", desc := "()I" } : Jvm.MethodName) prog_1_method_11_code (1 : Nat) (Option.some Jvm.ClassFile.FieldType.int)) ∈ lw_all := lw_g (lw_at lw_m3 120 rfl) rfl
theorem q717 : (Jvm.Cond.instanceMethod ({ cls := "RightTurns", name := "left", desc := "(I)I" } : Jvm.MethodName)) ∈ lw_all := lw_g (lw_at lw_m3 122 rfl) rfl
theorem q718 : (Jvm.Cond.selects "RightTurns" ({ cls := "RightTurns", name := "left", desc := "(I)I" } : Jvm.MethodName) ({ cls := "RightTurns", name := "left", desc := "(I)I" } : Jvm.MethodName)) ∈ lw_all := lw_g (lw_at lw_m3 123 rfl) rfl
theorem q719 : (Jvm.Cond.code ({ cls := "RightTurns", name := "left", desc := "(I)I" } : Jvm.MethodName) prog_1_method_41_code (2 : Nat) (Option.some Jvm.ClassFile.FieldType.int)) ∈ lw_all := lw_g (lw_at lw_m3 124 rfl) rfl
theorem q721 : (Jvm.Cond.instanceMethod ({ cls := "RightTurns", name := "forget", desc := "()I" } : Jvm.MethodName)) ∈ lw_all := lw_g (lw_at lw_m3 126 rfl) rfl
theorem q722 : (Jvm.Cond.selects "RightTurns" ({ cls := "RightTurns", name := "forget", desc := "()I" } : Jvm.MethodName) ({ cls := "RightTurns", name := "forget", desc := "()I" } : Jvm.MethodName)) ∈ lw_all := lw_g (lw_at lw_m3 127 rfl) rfl
theorem q723 : (Jvm.Cond.code ({ cls := "RightTurns", name := "forget", desc := "()I" } : Jvm.MethodName) prog_1_method_65_code (2 : Nat) (Option.some Jvm.ClassFile.FieldType.int)) ∈ lw_all := lw_g (lw_at lw_m3 128 rfl) rfl
theorem q725 : (Jvm.Cond.instanceMethod ({ cls := "RightTurns", name := "image", desc := "()I" } : Jvm.MethodName)) ∈ lw_all := lw_g (lw_at lw_m3 130 rfl) rfl
theorem q726 : (Jvm.Cond.selects "RightTurns" ({ cls := "RightTurns", name := "image", desc := "()I" } : Jvm.MethodName) ({ cls := "RightTurns", name := "image", desc := "()I" } : Jvm.MethodName)) ∈ lw_all := lw_g (lw_at lw_m3 131 rfl) rfl
theorem q727 : (Jvm.Cond.code ({ cls := "RightTurns", name := "image", desc := "()I" } : Jvm.MethodName) prog_1_method_77_code (1 : Nat) (Option.some Jvm.ClassFile.FieldType.int)) ∈ lw_all := lw_g (lw_at lw_m3 132 rfl) rfl
theorem q728 : (Jvm.Cond.methodLink "RightTurns" (421 : Nat) ({ cls := "RightTurns$State", name := "become", desc := "(LRightTurns$State;)V" } : Jvm.MethodName)) ∈ lw_all := lw_g (lw_at lw_m3 133 rfl) rfl
theorem q734 : (Jvm.Cond.instanceMethod ({ cls := "RightTurns", name := "restore", desc := "()I" } : Jvm.MethodName)) ∈ lw_all := lw_g (lw_at lw_m3 139 rfl) rfl
theorem q735 : (Jvm.Cond.selects "RightTurns" ({ cls := "RightTurns", name := "restore", desc := "()I" } : Jvm.MethodName) ({ cls := "RightTurns", name := "restore", desc := "()I" } : Jvm.MethodName)) ∈ lw_all := lw_g (lw_at lw_m3 140 rfl) rfl
theorem q736 : (Jvm.Cond.code ({ cls := "RightTurns", name := "restore", desc := "()I" } : Jvm.MethodName) prog_1_method_78_code (1 : Nat) (Option.some Jvm.ClassFile.FieldType.int)) ∈ lw_all := lw_g (lw_at lw_m3 141 rfl) rfl
theorem q738 : (Jvm.Cond.instanceMethod ({ cls := "RightTurns", name := "count", desc := "(I)I" } : Jvm.MethodName)) ∈ lw_all := lw_g (lw_at lw_m3 143 rfl) rfl
theorem q739 : (Jvm.Cond.selects "RightTurns" ({ cls := "RightTurns", name := "count", desc := "(I)I" } : Jvm.MethodName) ({ cls := "RightTurns", name := "count", desc := "(I)I" } : Jvm.MethodName)) ∈ lw_all := lw_g (lw_at lw_m3 144 rfl) rfl
theorem q740 : (Jvm.Cond.code ({ cls := "RightTurns", name := "count", desc := "(I)I" } : Jvm.MethodName) prog_1_method_79_code (2 : Nat) (Option.some Jvm.ClassFile.FieldType.int)) ∈ lw_all := lw_g (lw_at lw_m3 145 rfl) rfl
theorem q746 : (Jvm.Cond.instanceMethod ({ cls := "RightTurns", name := "town", desc := "(I)I" } : Jvm.MethodName)) ∈ lw_all := lw_g (lw_at lw_m3 151 rfl) rfl
theorem q747 : (Jvm.Cond.selects "RightTurns" ({ cls := "RightTurns", name := "town", desc := "(I)I" } : Jvm.MethodName) ({ cls := "RightTurns", name := "town", desc := "(I)I" } : Jvm.MethodName)) ∈ lw_all := lw_g (lw_at lw_m3 152 rfl) rfl
theorem q748 : (Jvm.Cond.codeWith ({ cls := "RightTurns", name := "town", desc := "(I)I" } : Jvm.MethodName) prog_1_method_10_code (5 : Nat) (Option.some Jvm.ClassFile.FieldType.int) [((20 : Nat), (108 : Nat), (115 : Nat), (197 : Nat)), ((20 : Nat), (108 : Nat), (139 : Nat), (0 : Nat)), ((115 : Nat), (132 : Nat), (139 : Nat), (0 : Nat)), ((139 : Nat), (141 : Nat), (139 : Nat), (0 : Nat))]) ∈ lw_all := lw_g (lw_at lw_m3 153 rfl) rfl
theorem q749 : (Jvm.Cond.classLink "RightTurns" (197 : Nat) "RightTurns$Wrong") ∈ lw_all := lw_g (lw_at lw_m3 154 rfl) rfl
theorem q750 : (Jvm.Cond.methodLink "RightTurns" (164 : Nat) ({ cls := "RightTurns", name := "need", desc := "(Z)V" } : Jvm.MethodName)) ∈ lw_all := lw_g (lw_at lw_m3 155 rfl) rfl
theorem q751 : (Jvm.Cond.static ({ cls := "RightTurns", name := "need", desc := "(Z)V" } : Jvm.MethodName)) ∈ lw_all := lw_g (lw_at lw_m3 156 rfl) rfl
theorem q752 : (Jvm.Cond.code ({ cls := "RightTurns", name := "need", desc := "(Z)V" } : Jvm.MethodName) prog_1_method_2_code (1 : Nat) (Option.none : Option Jvm.ClassFile.FieldType)) ∈ lw_all := lw_g (lw_at lw_m3 157 rfl) rfl
theorem q753 : (Jvm.Cond.classLink "RightTurns" (120 : Nat) "java/lang/IllegalArgumentException") ∈ lw_all := lw_g (lw_at lw_m3 158 rfl) rfl
theorem q754 : (Jvm.Cond.methodLink "RightTurns" (122 : Nat) ({ cls := "java/lang/IllegalArgumentException", name := "<init>", desc := "()V" } : Jvm.MethodName)) ∈ lw_all := lw_g (lw_at lw_m3 159 rfl) rfl
theorem q764 : (Jvm.Cond.classLink "RightTurns" (168 : Nat) "RightTurns$Reader") ∈ lw_all := lw_g (lw_at lw_m3 169 rfl) rfl
theorem q766 : (Jvm.Cond.methodLink "RightTurns" (170 : Nat) ({ cls := "RightTurns$Reader", name := "<init>", desc := "([BI)V" } : Jvm.MethodName)) ∈ lw_all := lw_g (lw_at lw_m3 171 rfl) rfl
theorem q788 : (Jvm.Cond.methodLink "RightTurns" (173 : Nat) ({ cls := "RightTurns$Reader", name := "reads", desc := "()LRightTurns$Town;" } : Jvm.MethodName)) ∈ lw_all := lw_g (lw_at lw_m3 193 rfl) rfl
theorem q939 : (Jvm.Cond.fieldLinkNest "RightTurns" (202 : Nat) "RightTurns$Wrong" "kind" "I" "RightTurns") ∈ lw_tbl := lw_at lw_m4 104 rfl
theorem q941 : (Jvm.Cond.fieldLinkNest "RightTurns" (199 : Nat) "RightTurns$Wrong" "place" "I" "RightTurns") ∈ lw_tbl := lw_at lw_m4 106 rfl
theorem q1012 : (Jvm.Cond.selects "RightTurns" ({ cls := "java/lang/Object", name := "getClass", desc := "()Ljava/lang/Class;" } : Jvm.MethodName) ({ cls := "java/lang/Object", name := "getClass", desc := "()Ljava/lang/Class;" } : Jvm.MethodName)) ∈ lw_all := lw_g (lw_at lw_m4 177 rfl) rfl
theorem q1048 : (Jvm.Cond.fieldLinkNest "RightTurns" (224 : Nat) "RightTurns$Street" "from" "I" "RightTurns") ∈ lw_tbl := lw_at lw_m4 213 rfl
theorem q1051 : (Jvm.Cond.fieldLinkNest "RightTurns" (227 : Nat) "RightTurns$Street" "to" "I" "RightTurns") ∈ lw_tbl := lw_at lw_m4 216 rfl
theorem q1054 : (Jvm.Cond.fieldLinkNest "RightTurns" (230 : Nat) "RightTurns$Street" "length" "I" "RightTurns") ∈ lw_tbl := lw_at lw_m4 219 rfl
theorem q1057 : (Jvm.Cond.fieldLinkNest "RightTurns" (233 : Nat) "RightTurns$Street" "one" "Z" "RightTurns") ∈ lw_tbl := lw_at lw_m4 222 rfl
theorem q1082 : (Jvm.Cond.fieldLinkNest "RightTurns" (365 : Nat) "RightTurns$Rider" "from" "I" "RightTurns") ∈ lw_tbl := lw_at lw_m5 7 rfl
theorem q1084 : (Jvm.Cond.fieldLinkNest "RightTurns" (366 : Nat) "RightTurns$Rider" "to" "I" "RightTurns") ∈ lw_tbl := lw_at lw_m5 9 rfl
theorem q1086 : (Jvm.Cond.fieldLinkNest "RightTurns" (382 : Nat) "RightTurns$Rider" "begins" "I" "RightTurns") ∈ lw_tbl := lw_at lw_m5 11 rfl
theorem q1130 : (Jvm.Cond.methodLink "RightTurns" (184 : Nat) ({ cls := "java/lang/System", name := "arraycopy", desc := "(Ljava/lang/Object;ILjava/lang/Object;II)V" } : Jvm.MethodName)) ∈ lw_all := lw_g (lw_at lw_m5 55 rfl) rfl
theorem q1131 : (Jvm.Cond.methodLink "RightTurns" (133 : Nat) ({ cls := "RightTurns", name := "corners", desc := "()I" } : Jvm.MethodName)) ∈ lw_all := lw_g (lw_at lw_m5 56 rfl) rfl
theorem q1132 : (Jvm.Cond.privateMethod ({ cls := "RightTurns", name := "corners", desc := "()I" } : Jvm.MethodName)) ∈ lw_tbl := lw_at lw_m5 57 rfl
theorem q1133 : (Jvm.Cond.instanceMethod ({ cls := "RightTurns", name := "corners", desc := "()I" } : Jvm.MethodName)) ∈ lw_all := lw_g (lw_at lw_m5 58 rfl) rfl
theorem q1134 : (Jvm.Cond.code ({ cls := "RightTurns", name := "corners", desc := "()I" } : Jvm.MethodName) prog_1_method_3_code (1 : Nat) (Option.some Jvm.ClassFile.FieldType.int)) ∈ lw_all := lw_g (lw_at lw_m5 59 rfl) rfl
theorem q1135 : (Jvm.Cond.methodLink "RightTurns" (127 : Nat) ({ cls := "java/util/ArrayList", name := "size", desc := "()I" } : Jvm.MethodName)) ∈ lw_all := lw_g (lw_at lw_m5 60 rfl) rfl
theorem q1140 : (Jvm.Cond.instanceMethod ({ cls := "RightTurns", name := "told", desc := "(I)I" } : Jvm.MethodName)) ∈ lw_all := lw_g (lw_at lw_m5 65 rfl) rfl
theorem q1141 : (Jvm.Cond.selects "RightTurns" ({ cls := "RightTurns", name := "told", desc := "(I)I" } : Jvm.MethodName) ({ cls := "RightTurns", name := "told", desc := "(I)I" } : Jvm.MethodName)) ∈ lw_all := lw_g (lw_at lw_m5 66 rfl) rfl
theorem q1142 : (Jvm.Cond.code ({ cls := "RightTurns", name := "told", desc := "(I)I" } : Jvm.MethodName) prog_1_method_12_code (2 : Nat) (Option.some Jvm.ClassFile.FieldType.int)) ∈ lw_all := lw_g (lw_at lw_m5 67 rfl) rfl
theorem q1143 : (Jvm.Cond.methodLink "RightTurns" (208 : Nat) ({ cls := "java/lang/Integer", name := "bitCount", desc := "(I)I" } : Jvm.MethodName)) ∈ lw_all := lw_g (lw_at lw_m5 68 rfl) rfl
theorem q1149 : (Jvm.Cond.instanceMethod ({ cls := "RightTurns", name := "street", desc := "(II)I" } : Jvm.MethodName)) ∈ lw_all := lw_g (lw_at lw_m5 74 rfl) rfl
theorem q1150 : (Jvm.Cond.selects "RightTurns" ({ cls := "RightTurns", name := "street", desc := "(II)I" } : Jvm.MethodName) ({ cls := "RightTurns", name := "street", desc := "(II)I" } : Jvm.MethodName)) ∈ lw_all := lw_g (lw_at lw_m5 75 rfl) rfl
theorem q1151 : (Jvm.Cond.code ({ cls := "RightTurns", name := "street", desc := "(II)I" } : Jvm.MethodName) prog_1_method_13_code (4 : Nat) (Option.some Jvm.ClassFile.FieldType.int)) ∈ lw_all := lw_g (lw_at lw_m5 76 rfl) rfl
theorem q1152 : (Jvm.Cond.methodLink "RightTurns" (220 : Nat) ({ cls := "RightTurns", name := "streetOf", desc := "(I)LRightTurns$Street;" } : Jvm.MethodName)) ∈ lw_all := lw_g (lw_at lw_m5 77 rfl) rfl
theorem q1153 : (Jvm.Cond.privateMethod ({ cls := "RightTurns", name := "streetOf", desc := "(I)LRightTurns$Street;" } : Jvm.MethodName)) ∈ lw_tbl := lw_at lw_m5 78 rfl
theorem q1154 : (Jvm.Cond.instanceMethod ({ cls := "RightTurns", name := "streetOf", desc := "(I)LRightTurns$Street;" } : Jvm.MethodName)) ∈ lw_all := lw_g (lw_at lw_m5 79 rfl) rfl
theorem q1155 : (Jvm.Cond.code ({ cls := "RightTurns", name := "streetOf", desc := "(I)LRightTurns$Street;" } : Jvm.MethodName) prog_1_method_5_code (2 : Nat) (Option.some (Jvm.ClassFile.FieldType.object "RightTurns$Street"))) ∈ lw_all := lw_g (lw_at lw_m5 80 rfl) rfl
theorem q1156 : (Jvm.Cond.classLink "RightTurns" (141 : Nat) "java/util/NoSuchElementException") ∈ lw_all := lw_g (lw_at lw_m5 81 rfl) rfl
theorem q1165 : (Jvm.Cond.methodLink "RightTurns" (143 : Nat) ({ cls := "java/util/NoSuchElementException", name := "<init>", desc := "()V" } : Jvm.MethodName)) ∈ lw_all := lw_g (lw_at lw_m5 90 rfl) rfl
theorem q1171 : (Jvm.Cond.methodLink "RightTurns" (144 : Nat) ({ cls := "java/util/ArrayList", name := "get", desc := "(I)Ljava/lang/Object;" } : Jvm.MethodName)) ∈ lw_all := lw_g (lw_at lw_m5 96 rfl) rfl
theorem q1172 : (Jvm.Cond.classLink "RightTurns" (148 : Nat) "RightTurns$Street") ∈ lw_all := lw_g (lw_at lw_m5 97 rfl) rfl
theorem q1177 : (Jvm.Cond.instanceMethod ({ cls := "RightTurns", name := "turn", desc := "(II)I" } : Jvm.MethodName)) ∈ lw_all := lw_g (lw_at lw_m5 102 rfl) rfl
theorem q1178 : (Jvm.Cond.selects "RightTurns" ({ cls := "RightTurns", name := "turn", desc := "(II)I" } : Jvm.MethodName) ({ cls := "RightTurns", name := "turn", desc := "(II)I" } : Jvm.MethodName)) ∈ lw_all := lw_g (lw_at lw_m5 103 rfl) rfl
theorem q1179 : (Jvm.Cond.code ({ cls := "RightTurns", name := "turn", desc := "(II)I" } : Jvm.MethodName) prog_1_method_14_code (3 : Nat) (Option.some Jvm.ClassFile.FieldType.int)) ∈ lw_all := lw_g (lw_at lw_m5 104 rfl) rfl
theorem q1180 : (Jvm.Cond.methodLink "RightTurns" (237 : Nat) ({ cls := "RightTurns", name := "needArc", desc := "(I)V" } : Jvm.MethodName)) ∈ lw_all := lw_g (lw_at lw_m5 105 rfl) rfl
theorem q1181 : (Jvm.Cond.privateMethod ({ cls := "RightTurns", name := "needArc", desc := "(I)V" } : Jvm.MethodName)) ∈ lw_tbl := lw_at lw_m5 106 rfl
theorem q1182 : (Jvm.Cond.instanceMethod ({ cls := "RightTurns", name := "needArc", desc := "(I)V" } : Jvm.MethodName)) ∈ lw_all := lw_g (lw_at lw_m5 107 rfl) rfl
theorem q1183 : (Jvm.Cond.code ({ cls := "RightTurns", name := "needArc", desc := "(I)V" } : Jvm.MethodName) prog_1_method_6_code (2 : Nat) (Option.none : Option Jvm.ClassFile.FieldType)) ∈ lw_all := lw_g (lw_at lw_m5 108 rfl) rfl
theorem q1184 : (Jvm.Cond.methodLink "RightTurns" (150 : Nat) ({ cls := "RightTurns$Town", name := "isArc", desc := "(I)Z" } : Jvm.MethodName)) ∈ lw_all := lw_g (lw_at lw_m5 109 rfl) rfl
theorem q1185 : (Jvm.Cond.methodLink "RightTurns" (240 : Nat) ({ cls := "RightTurns$Town", name := "turn", desc := "(II)I" } : Jvm.MethodName)) ∈ lw_all := lw_g (lw_at lw_m5 110 rfl) rfl
theorem q1190 : (Jvm.Cond.instanceMethod ({ cls := "RightTurns", name := "may", desc := "(III)Z" } : Jvm.MethodName)) ∈ lw_all := lw_g (lw_at lw_m5 115 rfl) rfl
theorem q1191 : (Jvm.Cond.selects "RightTurns" ({ cls := "RightTurns", name := "may", desc := "(III)Z" } : Jvm.MethodName) ({ cls := "RightTurns", name := "may", desc := "(III)Z" } : Jvm.MethodName)) ∈ lw_all := lw_g (lw_at lw_m5 116 rfl) rfl
theorem q1192 : (Jvm.Cond.code ({ cls := "RightTurns", name := "may", desc := "(III)Z" } : Jvm.MethodName) prog_1_method_16_code (4 : Nat) (Option.some Jvm.ClassFile.FieldType.boolean)) ∈ lw_all := lw_g (lw_at lw_m5 117 rfl) rfl
theorem q1193 : (Jvm.Cond.methodLink "RightTurns" (254 : Nat) ({ cls := "RightTurns", name := "isTime", desc := "(I)Z" } : Jvm.MethodName)) ∈ lw_all := lw_g (lw_at lw_m5 118 rfl) rfl
theorem q1194 : (Jvm.Cond.privateMethod ({ cls := "RightTurns", name := "isTime", desc := "(I)Z" } : Jvm.MethodName)) ∈ lw_tbl := lw_at lw_m5 119 rfl
theorem q1195 : (Jvm.Cond.instanceMethod ({ cls := "RightTurns", name := "isTime", desc := "(I)Z" } : Jvm.MethodName)) ∈ lw_all := lw_g (lw_at lw_m5 120 rfl) rfl
theorem q1196 : (Jvm.Cond.code ({ cls := "RightTurns", name := "isTime", desc := "(I)Z" } : Jvm.MethodName) prog_1_method_7_code (2 : Nat) (Option.some Jvm.ClassFile.FieldType.boolean)) ∈ lw_all := lw_g (lw_at lw_m5 121 rfl) rfl
theorem q1197 : (Jvm.Cond.methodLink "RightTurns" (257 : Nat) ({ cls := "RightTurns", name := "mayRide", desc := "(III)Z" } : Jvm.MethodName)) ∈ lw_all := lw_g (lw_at lw_m5 122 rfl) rfl
theorem q1198 : (Jvm.Cond.privateMethod ({ cls := "RightTurns", name := "mayRide", desc := "(III)Z" } : Jvm.MethodName)) ∈ lw_tbl := lw_at lw_m5 123 rfl
theorem q1199 : (Jvm.Cond.instanceMethod ({ cls := "RightTurns", name := "mayRide", desc := "(III)Z" } : Jvm.MethodName)) ∈ lw_all := lw_g (lw_at lw_m5 124 rfl) rfl
theorem q1200 : (Jvm.Cond.code ({ cls := "RightTurns", name := "mayRide", desc := "(III)Z" } : Jvm.MethodName) prog_1_method_15_code (7 : Nat) (Option.some Jvm.ClassFile.FieldType.boolean)) ∈ lw_all := lw_g (lw_at lw_m5 125 rfl) rfl
theorem q1201 : (Jvm.Cond.methodLink "RightTurns" (247 : Nat) ({ cls := "RightTurns$State", name := "isSigned", desc := "(III)Z" } : Jvm.MethodName)) ∈ lw_all := lw_g (lw_at lw_m5 126 rfl) rfl
theorem q1205 : (Jvm.Cond.methodLink "RightTurns" (251 : Nat) ({ cls := "RightTurns$State", name := "isAllowed", desc := "(III)Z" } : Jvm.MethodName)) ∈ lw_all := lw_g (lw_at lw_m5 130 rfl) rfl
theorem q1213 : (Jvm.Cond.instanceMethod ({ cls := "RightTurns", name := "sign", desc := "(IIZ)I" } : Jvm.MethodName)) ∈ lw_all := lw_g (lw_at lw_m5 138 rfl) rfl
theorem q1214 : (Jvm.Cond.selects "RightTurns" ({ cls := "RightTurns", name := "sign", desc := "(IIZ)I" } : Jvm.MethodName) ({ cls := "RightTurns", name := "sign", desc := "(IIZ)I" } : Jvm.MethodName)) ∈ lw_all := lw_g (lw_at lw_m5 139 rfl) rfl
theorem q1215 : (Jvm.Cond.code ({ cls := "RightTurns", name := "sign", desc := "(IIZ)I" } : Jvm.MethodName) prog_1_method_18_code (4 : Nat) (Option.some Jvm.ClassFile.FieldType.int)) ∈ lw_all := lw_g (lw_at lw_m5 140 rfl) rfl
theorem q1216 : (Jvm.Cond.methodLink "RightTurns" (264 : Nat) ({ cls := "RightTurns", name := "needMeeting", desc := "(II)V" } : Jvm.MethodName)) ∈ lw_all := lw_g (lw_at lw_m5 141 rfl) rfl
theorem q1217 : (Jvm.Cond.privateMethod ({ cls := "RightTurns", name := "needMeeting", desc := "(II)V" } : Jvm.MethodName)) ∈ lw_tbl := lw_at lw_m5 142 rfl
theorem q1218 : (Jvm.Cond.instanceMethod ({ cls := "RightTurns", name := "needMeeting", desc := "(II)V" } : Jvm.MethodName)) ∈ lw_all := lw_g (lw_at lw_m5 143 rfl) rfl
theorem q1219 : (Jvm.Cond.code ({ cls := "RightTurns", name := "needMeeting", desc := "(II)V" } : Jvm.MethodName) prog_1_method_17_code (5 : Nat) (Option.none : Option Jvm.ClassFile.FieldType)) ∈ lw_all := lw_g (lw_at lw_m5 144 rfl) rfl
theorem q1220 : (Jvm.Cond.methodLink "RightTurns" (260 : Nat) ({ cls := "RightTurns$Street", name := "meets", desc := "(LRightTurns$Street;)Z" } : Jvm.MethodName)) ∈ lw_all := lw_g (lw_at lw_m5 145 rfl) rfl
theorem q1221 : (Jvm.Cond.methodLink "RightTurns" (268 : Nat) ({ cls := "RightTurns$State", name := "goesOn", desc := "(I)V" } : Jvm.MethodName)) ∈ lw_all := lw_g (lw_at lw_m5 146 rfl) rfl
theorem q1229 : (Jvm.Cond.instanceMethod ({ cls := "RightTurns", name := "allow", desc := "(IIZ)I" } : Jvm.MethodName)) ∈ lw_all := lw_g (lw_at lw_m5 154 rfl) rfl
theorem q1230 : (Jvm.Cond.selects "RightTurns" ({ cls := "RightTurns", name := "allow", desc := "(IIZ)I" } : Jvm.MethodName) ({ cls := "RightTurns", name := "allow", desc := "(IIZ)I" } : Jvm.MethodName)) ∈ lw_all := lw_g (lw_at lw_m5 155 rfl) rfl
theorem q1231 : (Jvm.Cond.code ({ cls := "RightTurns", name := "allow", desc := "(IIZ)I" } : Jvm.MethodName) prog_1_method_19_code (4 : Nat) (Option.some Jvm.ClassFile.FieldType.int)) ∈ lw_all := lw_g (lw_at lw_m5 156 rfl) rfl
theorem q1236 : (Jvm.Cond.instanceMethod ({ cls := "RightTurns", name := "back", desc := "(I)I" } : Jvm.MethodName)) ∈ lw_all := lw_g (lw_at lw_m5 161 rfl) rfl
theorem q1237 : (Jvm.Cond.selects "RightTurns" ({ cls := "RightTurns", name := "back", desc := "(I)I" } : Jvm.MethodName) ({ cls := "RightTurns", name := "back", desc := "(I)I" } : Jvm.MethodName)) ∈ lw_all := lw_g (lw_at lw_m5 162 rfl) rfl
theorem q1238 : (Jvm.Cond.code ({ cls := "RightTurns", name := "back", desc := "(I)I" } : Jvm.MethodName) prog_1_method_20_code (2 : Nat) (Option.some Jvm.ClassFile.FieldType.int)) ∈ lw_all := lw_g (lw_at lw_m5 163 rfl) rfl
theorem q1243 : (Jvm.Cond.instanceMethod ({ cls := "RightTurns", name := "stands", desc := "(IIII)Z" } : Jvm.MethodName)) ∈ lw_all := lw_g (lw_at lw_m5 168 rfl) rfl
theorem q1244 : (Jvm.Cond.selects "RightTurns" ({ cls := "RightTurns", name := "stands", desc := "(IIII)Z" } : Jvm.MethodName) ({ cls := "RightTurns", name := "stands", desc := "(IIII)Z" } : Jvm.MethodName)) ∈ lw_all := lw_g (lw_at lw_m5 169 rfl) rfl
theorem q1245 : (Jvm.Cond.code ({ cls := "RightTurns", name := "stands", desc := "(IIII)Z" } : Jvm.MethodName) prog_1_method_21_code (5 : Nat) (Option.some Jvm.ClassFile.FieldType.boolean)) ∈ lw_all := lw_g (lw_at lw_m5 170 rfl) rfl
theorem q1269 : (Jvm.Cond.instanceMethod ({ cls := "RightTurns", name := "ride", desc := "(III)I" } : Jvm.MethodName)) ∈ lw_all := lw_g (lw_at lw_m5 194 rfl) rfl
theorem q1270 : (Jvm.Cond.selects "RightTurns" ({ cls := "RightTurns", name := "ride", desc := "(III)I" } : Jvm.MethodName) ({ cls := "RightTurns", name := "ride", desc := "(III)I" } : Jvm.MethodName)) ∈ lw_all := lw_g (lw_at lw_m5 195 rfl) rfl
theorem q1271 : (Jvm.Cond.code ({ cls := "RightTurns", name := "ride", desc := "(III)I" } : Jvm.MethodName) prog_1_method_25_code (4 : Nat) (Option.some Jvm.ClassFile.FieldType.int)) ∈ lw_all := lw_g (lw_at lw_m5 196 rfl) rfl
theorem q1272 : (Jvm.Cond.methodLink "RightTurns" (294 : Nat) ({ cls := "RightTurns", name := "needCorner", desc := "(I)V" } : Jvm.MethodName)) ∈ lw_all := lw_g (lw_at lw_m5 197 rfl) rfl
theorem q1273 : (Jvm.Cond.privateMethod ({ cls := "RightTurns", name := "needCorner", desc := "(I)V" } : Jvm.MethodName)) ∈ lw_tbl := lw_at lw_m5 198 rfl
theorem q1274 : (Jvm.Cond.instanceMethod ({ cls := "RightTurns", name := "needCorner", desc := "(I)V" } : Jvm.MethodName)) ∈ lw_all := lw_g (lw_at lw_m5 199 rfl) rfl
theorem q1275 : (Jvm.Cond.code ({ cls := "RightTurns", name := "needCorner", desc := "(I)V" } : Jvm.MethodName) prog_1_method_4_code (2 : Nat) (Option.none : Option Jvm.ClassFile.FieldType)) ∈ lw_all := lw_g (lw_at lw_m5 200 rfl) rfl
theorem q1276 : (Jvm.Cond.classLink "RightTurns" (135 : Nat) "java/lang/IndexOutOfBoundsException") ∈ lw_all := lw_g (lw_at lw_m5 201 rfl) rfl
theorem q1285 : (Jvm.Cond.methodLink "RightTurns" (137 : Nat) ({ cls := "java/lang/IndexOutOfBoundsException", name := "<init>", desc := "()V" } : Jvm.MethodName)) ∈ lw_all := lw_g (lw_at lw_m5 210 rfl) rfl
theorem q1291 : (Jvm.Cond.methodLink "RightTurns" (297 : Nat) ({ cls := "RightTurns", name := "rideOf", desc := "(III)I" } : Jvm.MethodName)) ∈ lw_all := lw_g (lw_at lw_m5 216 rfl) rfl
theorem q1292 : (Jvm.Cond.privateMethod ({ cls := "RightTurns", name := "rideOf", desc := "(III)I" } : Jvm.MethodName)) ∈ lw_tbl := lw_at lw_m5 217 rfl
theorem q1293 : (Jvm.Cond.instanceMethod ({ cls := "RightTurns", name := "rideOf", desc := "(III)I" } : Jvm.MethodName)) ∈ lw_all := lw_g (lw_at lw_m5 218 rfl) rfl
theorem q1294 : (Jvm.Cond.code ({ cls := "RightTurns", name := "rideOf", desc := "(III)I" } : Jvm.MethodName) prog_1_method_24_code (5 : Nat) (Option.some Jvm.ClassFile.FieldType.int)) ∈ lw_all := lw_g (lw_at lw_m5 219 rfl) rfl
theorem q1295 : (Jvm.Cond.methodLink "RightTurns" (288 : Nat) ({ cls := "RightTurns", name := "findRest", desc := "(II)V" } : Jvm.MethodName)) ∈ lw_all := lw_g (lw_at lw_m5 220 rfl) rfl
theorem q1296 : (Jvm.Cond.privateMethod ({ cls := "RightTurns", name := "findRest", desc := "(II)V" } : Jvm.MethodName)) ∈ lw_tbl := lw_at lw_m5 221 rfl
theorem q1297 : (Jvm.Cond.instanceMethod ({ cls := "RightTurns", name := "findRest", desc := "(II)V" } : Jvm.MethodName)) ∈ lw_all := lw_g (lw_at lw_m5 222 rfl) rfl
theorem q1298 : (Jvm.Cond.code ({ cls := "RightTurns", name := "findRest", desc := "(II)V" } : Jvm.MethodName) prog_1_method_22_code (6 : Nat) (Option.none : Option Jvm.ClassFile.FieldType)) ∈ lw_all := lw_g (lw_at lw_m5 223 rfl) rfl
theorem q1299 : (Jvm.Cond.methodLink "RightTurns" (271 : Nat) ({ cls := "RightTurns$Town", name := "arcs", desc := "()I" } : Jvm.MethodName)) ∈ lw_all := lw_g (lw_at lw_m5 224 rfl) rfl
theorem q1300 : (Jvm.Cond.methodLink "RightTurns" (274 : Nat) ({ cls := "RightTurns$Town", name := "end", desc := "(I)I" } : Jvm.MethodName)) ∈ lw_all := lw_g (lw_at lw_m5 225 rfl) rfl
theorem q1301 : (Jvm.Cond.constant "RightTurns" (277 : Nat) (1000000 : Int32)) ∈ lw_all := lw_g (lw_at lw_m5 226 rfl) rfl
theorem q1302 : (Jvm.Cond.methodLink "RightTurns" (278 : Nat) ({ cls := "RightTurns$Town", name := "length", desc := "(I)I" } : Jvm.MethodName)) ∈ lw_all := lw_g (lw_at lw_m5 227 rfl) rfl
theorem q1306 : (Jvm.Cond.methodLink "RightTurns" (291 : Nat) ({ cls := "RightTurns", name := "lengthFrom", desc := "(I)I" } : Jvm.MethodName)) ∈ lw_all := lw_g (lw_at lw_m5 231 rfl) rfl
theorem q1307 : (Jvm.Cond.privateMethod ({ cls := "RightTurns", name := "lengthFrom", desc := "(I)I" } : Jvm.MethodName)) ∈ lw_tbl := lw_at lw_m5 232 rfl
theorem q1308 : (Jvm.Cond.instanceMethod ({ cls := "RightTurns", name := "lengthFrom", desc := "(I)I" } : Jvm.MethodName)) ∈ lw_all := lw_g (lw_at lw_m5 233 rfl) rfl
theorem q1309 : (Jvm.Cond.code ({ cls := "RightTurns", name := "lengthFrom", desc := "(I)I" } : Jvm.MethodName) prog_1_method_23_code (4 : Nat) (Option.some Jvm.ClassFile.FieldType.int)) ∈ lw_all := lw_g (lw_at lw_m5 234 rfl) rfl
theorem q1310 : (Jvm.Cond.methodLink "RightTurns" (280 : Nat) ({ cls := "RightTurns$Town", name := "begin", desc := "(I)I" } : Jvm.MethodName)) ∈ lw_all := lw_g (lw_at lw_m5 235 rfl) rfl
theorem q1311 : (Jvm.Cond.methodLink "RightTurns" (283 : Nat) ({ cls := "java/lang/Math", name := "min", desc := "(II)I" } : Jvm.MethodName)) ∈ lw_all := lw_g (lw_at lw_m5 236 rfl) rfl
theorem q1316 : (Jvm.Cond.instanceMethod ({ cls := "RightTurns", name := "step", desc := "(IIII)I" } : Jvm.MethodName)) ∈ lw_all := lw_g (lw_at lw_m6 1 rfl) rfl
theorem q1317 : (Jvm.Cond.selects "RightTurns" ({ cls := "RightTurns", name := "step", desc := "(IIII)I" } : Jvm.MethodName) ({ cls := "RightTurns", name := "step", desc := "(IIII)I" } : Jvm.MethodName)) ∈ lw_all := lw_g (lw_at lw_m6 2 rfl) rfl
theorem q1318 : (Jvm.Cond.code ({ cls := "RightTurns", name := "step", desc := "(IIII)I" } : Jvm.MethodName) prog_1_method_28_code (6 : Nat) (Option.some Jvm.ClassFile.FieldType.int)) ∈ lw_all := lw_g (lw_at lw_m6 3 rfl) rfl
theorem q1319 : (Jvm.Cond.methodLink "RightTurns" (305 : Nat) ({ cls := "RightTurns", name := "pathOf", desc := "(III)I" } : Jvm.MethodName)) ∈ lw_all := lw_g (lw_at lw_m6 4 rfl) rfl
theorem q1320 : (Jvm.Cond.privateMethod ({ cls := "RightTurns", name := "pathOf", desc := "(III)I" } : Jvm.MethodName)) ∈ lw_tbl := lw_at lw_m6 5 rfl
theorem q1321 : (Jvm.Cond.instanceMethod ({ cls := "RightTurns", name := "pathOf", desc := "(III)I" } : Jvm.MethodName)) ∈ lw_all := lw_g (lw_at lw_m6 6 rfl) rfl
theorem q1322 : (Jvm.Cond.code ({ cls := "RightTurns", name := "pathOf", desc := "(III)I" } : Jvm.MethodName) prog_1_method_27_code (7 : Nat) (Option.some Jvm.ClassFile.FieldType.int)) ∈ lw_all := lw_g (lw_at lw_m6 7 rfl) rfl
theorem q1323 : (Jvm.Cond.methodLink "RightTurns" (301 : Nat) ({ cls := "RightTurns", name := "nextArc", desc := "(IIII)I" } : Jvm.MethodName)) ∈ lw_all := lw_g (lw_at lw_m6 8 rfl) rfl
theorem q1324 : (Jvm.Cond.privateMethod ({ cls := "RightTurns", name := "nextArc", desc := "(IIII)I" } : Jvm.MethodName)) ∈ lw_tbl := lw_at lw_m6 9 rfl
theorem q1325 : (Jvm.Cond.instanceMethod ({ cls := "RightTurns", name := "nextArc", desc := "(IIII)I" } : Jvm.MethodName)) ∈ lw_all := lw_g (lw_at lw_m6 10 rfl) rfl
theorem q1326 : (Jvm.Cond.code ({ cls := "RightTurns", name := "nextArc", desc := "(IIII)I" } : Jvm.MethodName) prog_1_method_26_code (6 : Nat) (Option.some Jvm.ClassFile.FieldType.int)) ∈ lw_all := lw_g (lw_at lw_m6 11 rfl) rfl
theorem q1331 : (Jvm.Cond.instanceMethod ({ cls := "RightTurns", name := "reach", desc := "(III)I" } : Jvm.MethodName)) ∈ lw_all := lw_g (lw_at lw_m6 16 rfl) rfl
theorem q1332 : (Jvm.Cond.selects "RightTurns" ({ cls := "RightTurns", name := "reach", desc := "(III)I" } : Jvm.MethodName) ({ cls := "RightTurns", name := "reach", desc := "(III)I" } : Jvm.MethodName)) ∈ lw_all := lw_g (lw_at lw_m6 17 rfl) rfl
theorem q1333 : (Jvm.Cond.code ({ cls := "RightTurns", name := "reach", desc := "(III)I" } : Jvm.MethodName) prog_1_method_32_code (6 : Nat) (Option.some Jvm.ClassFile.FieldType.int)) ∈ lw_all := lw_g (lw_at lw_m6 18 rfl) rfl
theorem q1334 : (Jvm.Cond.methodLink "RightTurns" (310 : Nat) ({ cls := "RightTurns", name := "reached", desc := "(II)I" } : Jvm.MethodName)) ∈ lw_all := lw_g (lw_at lw_m6 19 rfl) rfl
theorem q1335 : (Jvm.Cond.privateMethod ({ cls := "RightTurns", name := "reached", desc := "(II)I" } : Jvm.MethodName)) ∈ lw_tbl := lw_at lw_m6 20 rfl
theorem q1336 : (Jvm.Cond.instanceMethod ({ cls := "RightTurns", name := "reached", desc := "(II)I" } : Jvm.MethodName)) ∈ lw_all := lw_g (lw_at lw_m6 21 rfl) rfl
theorem q1337 : (Jvm.Cond.code ({ cls := "RightTurns", name := "reached", desc := "(II)I" } : Jvm.MethodName) prog_1_method_30_code (6 : Nat) (Option.some Jvm.ClassFile.FieldType.int)) ∈ lw_all := lw_g (lw_at lw_m6 22 rfl) rfl
theorem q1338 : (Jvm.Cond.methodLink "RightTurns" (308 : Nat) ({ cls := "RightTurns", name := "goesOn", desc := "(II)V" } : Jvm.MethodName)) ∈ lw_all := lw_g (lw_at lw_m6 23 rfl) rfl
theorem q1339 : (Jvm.Cond.privateMethod ({ cls := "RightTurns", name := "goesOn", desc := "(II)V" } : Jvm.MethodName)) ∈ lw_tbl := lw_at lw_m6 24 rfl
theorem q1340 : (Jvm.Cond.instanceMethod ({ cls := "RightTurns", name := "goesOn", desc := "(II)V" } : Jvm.MethodName)) ∈ lw_all := lw_g (lw_at lw_m6 25 rfl) rfl
theorem q1341 : (Jvm.Cond.code ({ cls := "RightTurns", name := "goesOn", desc := "(II)V" } : Jvm.MethodName) prog_1_method_29_code (6 : Nat) (Option.none : Option Jvm.ClassFile.FieldType)) ∈ lw_all := lw_g (lw_at lw_m6 26 rfl) rfl
theorem q1342 : (Jvm.Cond.methodLink "RightTurns" (313 : Nat) ({ cls := "RightTurns", name := "homeOf", desc := "(II)I" } : Jvm.MethodName)) ∈ lw_all := lw_g (lw_at lw_m6 27 rfl) rfl
theorem q1343 : (Jvm.Cond.privateMethod ({ cls := "RightTurns", name := "homeOf", desc := "(II)I" } : Jvm.MethodName)) ∈ lw_tbl := lw_at lw_m6 28 rfl
theorem q1344 : (Jvm.Cond.instanceMethod ({ cls := "RightTurns", name := "homeOf", desc := "(II)I" } : Jvm.MethodName)) ∈ lw_all := lw_g (lw_at lw_m6 29 rfl) rfl
theorem q1345 : (Jvm.Cond.code ({ cls := "RightTurns", name := "homeOf", desc := "(II)I" } : Jvm.MethodName) prog_1_method_31_code (5 : Nat) (Option.some Jvm.ClassFile.FieldType.int)) ∈ lw_all := lw_g (lw_at lw_m6 30 rfl) rfl
theorem q1350 : (Jvm.Cond.instanceMethod ({ cls := "RightTurns", name := "parts", desc := "(II)I" } : Jvm.MethodName)) ∈ lw_all := lw_g (lw_at lw_m6 35 rfl) rfl
theorem q1351 : (Jvm.Cond.selects "RightTurns" ({ cls := "RightTurns", name := "parts", desc := "(II)I" } : Jvm.MethodName) ({ cls := "RightTurns", name := "parts", desc := "(II)I" } : Jvm.MethodName)) ∈ lw_all := lw_g (lw_at lw_m6 36 rfl) rfl
theorem q1352 : (Jvm.Cond.code ({ cls := "RightTurns", name := "parts", desc := "(II)I" } : Jvm.MethodName) prog_1_method_35_code (8 : Nat) (Option.some Jvm.ClassFile.FieldType.int)) ∈ lw_all := lw_g (lw_at lw_m6 37 rfl) rfl
theorem q1353 : (Jvm.Cond.methodLink "RightTurns" (320 : Nat) ({ cls := "RightTurns", name := "findParts", desc := "(I)V" } : Jvm.MethodName)) ∈ lw_all := lw_g (lw_at lw_m6 38 rfl) rfl
theorem q1354 : (Jvm.Cond.privateMethod ({ cls := "RightTurns", name := "findParts", desc := "(I)V" } : Jvm.MethodName)) ∈ lw_tbl := lw_at lw_m6 39 rfl
theorem q1355 : (Jvm.Cond.instanceMethod ({ cls := "RightTurns", name := "findParts", desc := "(I)V" } : Jvm.MethodName)) ∈ lw_all := lw_g (lw_at lw_m6 40 rfl) rfl
theorem q1356 : (Jvm.Cond.code ({ cls := "RightTurns", name := "findParts", desc := "(I)V" } : Jvm.MethodName) prog_1_method_33_code (4 : Nat) (Option.none : Option Jvm.ClassFile.FieldType)) ∈ lw_all := lw_g (lw_at lw_m6 41 rfl) rfl
theorem q1357 : (Jvm.Cond.methodLink "RightTurns" (316 : Nat) ({ cls := "RightTurns", name := "areTogether", desc := "(II)Z" } : Jvm.MethodName)) ∈ lw_all := lw_g (lw_at lw_m6 42 rfl) rfl
theorem q1358 : (Jvm.Cond.privateMethod ({ cls := "RightTurns", name := "areTogether", desc := "(II)Z" } : Jvm.MethodName)) ∈ lw_tbl := lw_at lw_m6 43 rfl
theorem q1359 : (Jvm.Cond.instanceMethod ({ cls := "RightTurns", name := "areTogether", desc := "(II)Z" } : Jvm.MethodName)) ∈ lw_all := lw_g (lw_at lw_m6 44 rfl) rfl
theorem q1360 : (Jvm.Cond.code ({ cls := "RightTurns", name := "areTogether", desc := "(II)Z" } : Jvm.MethodName) prog_1_method_34_code (3 : Nat) (Option.some Jvm.ClassFile.FieldType.boolean)) ∈ lw_all := lw_g (lw_at lw_m6 45 rfl) rfl
theorem q1361 : (Jvm.Cond.methodLink "RightTurns" (323 : Nat) ({ cls := "java/lang/Math", name := "max", desc := "(II)I" } : Jvm.MethodName)) ∈ lw_all := lw_g (lw_at lw_m6 46 rfl) rfl
theorem q1366 : (Jvm.Cond.instanceMethod ({ cls := "RightTurns", name := "together", desc := "(III)Z" } : Jvm.MethodName)) ∈ lw_all := lw_g (lw_at lw_m6 51 rfl) rfl
theorem q1367 : (Jvm.Cond.selects "RightTurns" ({ cls := "RightTurns", name := "together", desc := "(III)Z" } : Jvm.MethodName) ({ cls := "RightTurns", name := "together", desc := "(III)Z" } : Jvm.MethodName)) ∈ lw_all := lw_g (lw_at lw_m6 52 rfl) rfl
theorem q1368 : (Jvm.Cond.code ({ cls := "RightTurns", name := "together", desc := "(III)Z" } : Jvm.MethodName) prog_1_method_36_code (4 : Nat) (Option.some Jvm.ClassFile.FieldType.boolean)) ∈ lw_all := lw_g (lw_at lw_m6 53 rfl) rfl
theorem q1373 : (Jvm.Cond.instanceMethod ({ cls := "RightTurns", name := "open", desc := "(II)I" } : Jvm.MethodName)) ∈ lw_all := lw_g (lw_at lw_m6 58 rfl) rfl
theorem q1374 : (Jvm.Cond.selects "RightTurns" ({ cls := "RightTurns", name := "open", desc := "(II)I" } : Jvm.MethodName) ({ cls := "RightTurns", name := "open", desc := "(II)I" } : Jvm.MethodName)) ∈ lw_all := lw_g (lw_at lw_m6 59 rfl) rfl
theorem q1375 : (Jvm.Cond.code ({ cls := "RightTurns", name := "open", desc := "(II)I" } : Jvm.MethodName) prog_1_method_39_code (3 : Nat) (Option.some Jvm.ClassFile.FieldType.int)) ∈ lw_all := lw_g (lw_at lw_m6 60 rfl) rfl
theorem q1376 : (Jvm.Cond.methodLink "RightTurns" (326 : Nat) ({ cls := "RightTurns", name := "pairs", desc := "(I)I" } : Jvm.MethodName)) ∈ lw_all := lw_g (lw_at lw_m6 61 rfl) rfl
theorem q1377 : (Jvm.Cond.privateMethod ({ cls := "RightTurns", name := "pairs", desc := "(I)I" } : Jvm.MethodName)) ∈ lw_tbl := lw_at lw_m6 62 rfl
theorem q1378 : (Jvm.Cond.instanceMethod ({ cls := "RightTurns", name := "pairs", desc := "(I)I" } : Jvm.MethodName)) ∈ lw_all := lw_g (lw_at lw_m6 63 rfl) rfl
theorem q1379 : (Jvm.Cond.code ({ cls := "RightTurns", name := "pairs", desc := "(I)I" } : Jvm.MethodName) prog_1_method_38_code (4 : Nat) (Option.some Jvm.ClassFile.FieldType.int)) ∈ lw_all := lw_g (lw_at lw_m6 64 rfl) rfl
theorem q1380 : (Jvm.Cond.methodLink "RightTurns" (329 : Nat) ({ cls := "RightTurns", name := "isOpen", desc := "(I)Z" } : Jvm.MethodName)) ∈ lw_all := lw_g (lw_at lw_m6 65 rfl) rfl
theorem q1381 : (Jvm.Cond.privateMethod ({ cls := "RightTurns", name := "isOpen", desc := "(I)Z" } : Jvm.MethodName)) ∈ lw_tbl := lw_at lw_m6 66 rfl
theorem q1382 : (Jvm.Cond.instanceMethod ({ cls := "RightTurns", name := "isOpen", desc := "(I)Z" } : Jvm.MethodName)) ∈ lw_all := lw_g (lw_at lw_m6 67 rfl) rfl
theorem q1383 : (Jvm.Cond.code ({ cls := "RightTurns", name := "isOpen", desc := "(I)Z" } : Jvm.MethodName) prog_1_method_37_code (3 : Nat) (Option.some Jvm.ClassFile.FieldType.boolean)) ∈ lw_all := lw_g (lw_at lw_m6 68 rfl) rfl
theorem q1388 : (Jvm.Cond.instanceMethod ({ cls := "RightTurns", name := "since", desc := "(IIIZ)I" } : Jvm.MethodName)) ∈ lw_all := lw_g (lw_at lw_m6 73 rfl) rfl
theorem q1389 : (Jvm.Cond.selects "RightTurns" ({ cls := "RightTurns", name := "since", desc := "(IIIZ)I" } : Jvm.MethodName) ({ cls := "RightTurns", name := "since", desc := "(IIIZ)I" } : Jvm.MethodName)) ∈ lw_all := lw_g (lw_at lw_m6 74 rfl) rfl
theorem q1390 : (Jvm.Cond.code ({ cls := "RightTurns", name := "since", desc := "(IIIZ)I" } : Jvm.MethodName) prog_1_method_40_code (6 : Nat) (Option.some Jvm.ClassFile.FieldType.int)) ∈ lw_all := lw_g (lw_at lw_m6 75 rfl) rfl
theorem q1395 : (Jvm.Cond.instanceMethod ({ cls := "RightTurns", name := "candidates", desc := "(I)I" } : Jvm.MethodName)) ∈ lw_all := lw_g (lw_at lw_m6 80 rfl) rfl
theorem q1396 : (Jvm.Cond.selects "RightTurns" ({ cls := "RightTurns", name := "candidates", desc := "(I)I" } : Jvm.MethodName) ({ cls := "RightTurns", name := "candidates", desc := "(I)I" } : Jvm.MethodName)) ∈ lw_all := lw_g (lw_at lw_m6 81 rfl) rfl
theorem q1397 : (Jvm.Cond.code ({ cls := "RightTurns", name := "candidates", desc := "(I)I" } : Jvm.MethodName) prog_1_method_43_code (2 : Nat) (Option.some Jvm.ClassFile.FieldType.int)) ∈ lw_all := lw_g (lw_at lw_m6 82 rfl) rfl
theorem q1398 : (Jvm.Cond.methodLink "RightTurns" (338 : Nat) ({ cls := "RightTurns", name := "findCandidates", desc := "(I)I" } : Jvm.MethodName)) ∈ lw_all := lw_g (lw_at lw_m6 83 rfl) rfl
theorem q1399 : (Jvm.Cond.privateMethod ({ cls := "RightTurns", name := "findCandidates", desc := "(I)I" } : Jvm.MethodName)) ∈ lw_tbl := lw_at lw_m6 84 rfl
theorem q1400 : (Jvm.Cond.instanceMethod ({ cls := "RightTurns", name := "findCandidates", desc := "(I)I" } : Jvm.MethodName)) ∈ lw_all := lw_g (lw_at lw_m6 85 rfl) rfl
theorem q1401 : (Jvm.Cond.code ({ cls := "RightTurns", name := "findCandidates", desc := "(I)I" } : Jvm.MethodName) prog_1_method_42_code (4 : Nat) (Option.some Jvm.ClassFile.FieldType.int)) ∈ lw_all := lw_g (lw_at lw_m6 86 rfl) rfl
theorem q1406 : (Jvm.Cond.instanceMethod ({ cls := "RightTurns", name := "fewest", desc := "(II)I" } : Jvm.MethodName)) ∈ lw_all := lw_g (lw_at lw_m6 91 rfl) rfl
theorem q1407 : (Jvm.Cond.selects "RightTurns" ({ cls := "RightTurns", name := "fewest", desc := "(II)I" } : Jvm.MethodName) ({ cls := "RightTurns", name := "fewest", desc := "(II)I" } : Jvm.MethodName)) ∈ lw_all := lw_g (lw_at lw_m6 92 rfl) rfl
theorem q1408 : (Jvm.Cond.code ({ cls := "RightTurns", name := "fewest", desc := "(II)I" } : Jvm.MethodName) prog_1_method_47_code (4 : Nat) (Option.some Jvm.ClassFile.FieldType.int)) ∈ lw_all := lw_g (lw_at lw_m6 93 rfl) rfl
theorem q1409 : (Jvm.Cond.methodLink "RightTurns" (350 : Nat) ({ cls := "RightTurns", name := "leastSet", desc := "(IZ)I" } : Jvm.MethodName)) ∈ lw_all := lw_g (lw_at lw_m6 94 rfl) rfl
theorem q1410 : (Jvm.Cond.privateMethod ({ cls := "RightTurns", name := "leastSet", desc := "(IZ)I" } : Jvm.MethodName)) ∈ lw_tbl := lw_at lw_m6 95 rfl
theorem q1411 : (Jvm.Cond.instanceMethod ({ cls := "RightTurns", name := "leastSet", desc := "(IZ)I" } : Jvm.MethodName)) ∈ lw_all := lw_g (lw_at lw_m6 96 rfl) rfl
theorem q1412 : (Jvm.Cond.code ({ cls := "RightTurns", name := "leastSet", desc := "(IZ)I" } : Jvm.MethodName) prog_1_method_46_code (8 : Nat) (Option.some Jvm.ClassFile.FieldType.int)) ∈ lw_all := lw_g (lw_at lw_m6 97 rfl) rfl
theorem q1413 : (Jvm.Cond.methodLink "RightTurns" (344 : Nat) ({ cls := "RightTurns", name := "costOf", desc := "(I)I" } : Jvm.MethodName)) ∈ lw_all := lw_g (lw_at lw_m6 98 rfl) rfl
theorem q1414 : (Jvm.Cond.privateMethod ({ cls := "RightTurns", name := "costOf", desc := "(I)I" } : Jvm.MethodName)) ∈ lw_tbl := lw_at lw_m6 99 rfl
theorem q1415 : (Jvm.Cond.instanceMethod ({ cls := "RightTurns", name := "costOf", desc := "(I)I" } : Jvm.MethodName)) ∈ lw_all := lw_g (lw_at lw_m6 100 rfl) rfl
theorem q1416 : (Jvm.Cond.code ({ cls := "RightTurns", name := "costOf", desc := "(I)I" } : Jvm.MethodName) prog_1_method_45_code (2 : Nat) (Option.some Jvm.ClassFile.FieldType.int)) ∈ lw_all := lw_g (lw_at lw_m6 101 rfl) rfl
theorem q1417 : (Jvm.Cond.methodLink "RightTurns" (347 : Nat) ({ cls := "RightTurns", name := "tries", desc := "(I)V" } : Jvm.MethodName)) ∈ lw_all := lw_g (lw_at lw_m6 102 rfl) rfl
theorem q1418 : (Jvm.Cond.privateMethod ({ cls := "RightTurns", name := "tries", desc := "(I)V" } : Jvm.MethodName)) ∈ lw_tbl := lw_at lw_m6 103 rfl
theorem q1419 : (Jvm.Cond.instanceMethod ({ cls := "RightTurns", name := "tries", desc := "(I)V" } : Jvm.MethodName)) ∈ lw_all := lw_g (lw_at lw_m6 104 rfl) rfl
theorem q1420 : (Jvm.Cond.code ({ cls := "RightTurns", name := "tries", desc := "(I)V" } : Jvm.MethodName) prog_1_method_44_code (3 : Nat) (Option.none : Option Jvm.ClassFile.FieldType)) ∈ lw_all := lw_g (lw_at lw_m6 105 rfl) rfl
theorem q1425 : (Jvm.Cond.instanceMethod ({ cls := "RightTurns", name := "cheapest", desc := "(II)I" } : Jvm.MethodName)) ∈ lw_all := lw_g (lw_at lw_m6 110 rfl) rfl
theorem q1426 : (Jvm.Cond.selects "RightTurns" ({ cls := "RightTurns", name := "cheapest", desc := "(II)I" } : Jvm.MethodName) ({ cls := "RightTurns", name := "cheapest", desc := "(II)I" } : Jvm.MethodName)) ∈ lw_all := lw_g (lw_at lw_m6 111 rfl) rfl
theorem q1427 : (Jvm.Cond.code ({ cls := "RightTurns", name := "cheapest", desc := "(II)I" } : Jvm.MethodName) prog_1_method_48_code (4 : Nat) (Option.some Jvm.ClassFile.FieldType.int)) ∈ lw_all := lw_g (lw_at lw_m6 112 rfl) rfl
theorem q1432 : (Jvm.Cond.instanceMethod ({ cls := "RightTurns", name := "exchange", desc := "(II)I" } : Jvm.MethodName)) ∈ lw_all := lw_g (lw_at lw_m6 117 rfl) rfl
theorem q1433 : (Jvm.Cond.selects "RightTurns" ({ cls := "RightTurns", name := "exchange", desc := "(II)I" } : Jvm.MethodName) ({ cls := "RightTurns", name := "exchange", desc := "(II)I" } : Jvm.MethodName)) ∈ lw_all := lw_g (lw_at lw_m6 118 rfl) rfl
theorem q1434 : (Jvm.Cond.code ({ cls := "RightTurns", name := "exchange", desc := "(II)I" } : Jvm.MethodName) prog_1_method_49_code (11 : Nat) (Option.some Jvm.ClassFile.FieldType.int)) ∈ lw_all := lw_g (lw_at lw_m6 119 rfl) rfl
theorem q1439 : (Jvm.Cond.instanceMethod ({ cls := "RightTurns", name := "round", desc := "(II)I" } : Jvm.MethodName)) ∈ lw_all := lw_g (lw_at lw_m6 124 rfl) rfl
theorem q1440 : (Jvm.Cond.selects "RightTurns" ({ cls := "RightTurns", name := "round", desc := "(II)I" } : Jvm.MethodName) ({ cls := "RightTurns", name := "round", desc := "(II)I" } : Jvm.MethodName)) ∈ lw_all := lw_g (lw_at lw_m6 125 rfl) rfl
theorem q1441 : (Jvm.Cond.code ({ cls := "RightTurns", name := "round", desc := "(II)I" } : Jvm.MethodName) prog_1_method_52_code (6 : Nat) (Option.some Jvm.ClassFile.FieldType.int)) ∈ lw_all := lw_g (lw_at lw_m6 126 rfl) rfl
theorem q1442 : (Jvm.Cond.methodLink "RightTurns" (354 : Nat) ({ cls := "RightTurns", name := "findBoxes", desc := "(I)I" } : Jvm.MethodName)) ∈ lw_all := lw_g (lw_at lw_m6 127 rfl) rfl
theorem q1443 : (Jvm.Cond.privateMethod ({ cls := "RightTurns", name := "findBoxes", desc := "(I)I" } : Jvm.MethodName)) ∈ lw_tbl := lw_at lw_m6 128 rfl
theorem q1444 : (Jvm.Cond.instanceMethod ({ cls := "RightTurns", name := "findBoxes", desc := "(I)I" } : Jvm.MethodName)) ∈ lw_all := lw_g (lw_at lw_m6 129 rfl) rfl
theorem q1445 : (Jvm.Cond.code ({ cls := "RightTurns", name := "findBoxes", desc := "(I)I" } : Jvm.MethodName) prog_1_method_50_code (4 : Nat) (Option.some Jvm.ClassFile.FieldType.int)) ∈ lw_all := lw_g (lw_at lw_m6 130 rfl) rfl
theorem q1446 : (Jvm.Cond.methodLink "RightTurns" (357 : Nat) ({ cls := "RightTurns", name := "with", desc := "(II)I" } : Jvm.MethodName)) ∈ lw_all := lw_g (lw_at lw_m6 131 rfl) rfl
theorem q1447 : (Jvm.Cond.privateMethod ({ cls := "RightTurns", name := "with", desc := "(II)I" } : Jvm.MethodName)) ∈ lw_tbl := lw_at lw_m6 132 rfl
theorem q1448 : (Jvm.Cond.instanceMethod ({ cls := "RightTurns", name := "with", desc := "(II)I" } : Jvm.MethodName)) ∈ lw_all := lw_g (lw_at lw_m6 133 rfl) rfl
theorem q1449 : (Jvm.Cond.code ({ cls := "RightTurns", name := "with", desc := "(II)I" } : Jvm.MethodName) prog_1_method_51_code (4 : Nat) (Option.some Jvm.ClassFile.FieldType.int)) ∈ lw_all := lw_g (lw_at lw_m6 134 rfl) rfl
theorem q1450 : (Jvm.Cond.methodLink "RightTurns" (360 : Nat) ({ cls := "RightTurns", name := "goesRound", desc := "(II)V" } : Jvm.MethodName)) ∈ lw_all := lw_g (lw_at lw_m6 135 rfl) rfl
theorem q1451 : (Jvm.Cond.privateMethod ({ cls := "RightTurns", name := "goesRound", desc := "(II)V" } : Jvm.MethodName)) ∈ lw_tbl := lw_at lw_m6 136 rfl
theorem q1452 : (Jvm.Cond.instanceMethod ({ cls := "RightTurns", name := "goesRound", desc := "(II)V" } : Jvm.MethodName)) ∈ lw_all := lw_g (lw_at lw_m6 137 rfl) rfl
theorem q1453 : (Jvm.Cond.code ({ cls := "RightTurns", name := "goesRound", desc := "(II)V" } : Jvm.MethodName) prog_1_method_53_code (8 : Nat) (Option.none : Option Jvm.ClassFile.FieldType)) ∈ lw_all := lw_g (lw_at lw_m6 138 rfl) rfl
theorem q1458 : (Jvm.Cond.instanceMethod ({ cls := "RightTurns", name := "bound", desc := "(II)I" } : Jvm.MethodName)) ∈ lw_all := lw_g (lw_at lw_m6 143 rfl) rfl
theorem q1459 : (Jvm.Cond.selects "RightTurns" ({ cls := "RightTurns", name := "bound", desc := "(II)I" } : Jvm.MethodName) ({ cls := "RightTurns", name := "bound", desc := "(II)I" } : Jvm.MethodName)) ∈ lw_all := lw_g (lw_at lw_m6 144 rfl) rfl
theorem q1460 : (Jvm.Cond.code ({ cls := "RightTurns", name := "bound", desc := "(II)I" } : Jvm.MethodName) prog_1_method_54_code (8 : Nat) (Option.some Jvm.ClassFile.FieldType.int)) ∈ lw_all := lw_g (lw_at lw_m6 145 rfl) rfl
theorem q1465 : (Jvm.Cond.instanceMethod ({ cls := "RightTurns", name := "home", desc := "(I)I" } : Jvm.MethodName)) ∈ lw_all := lw_g (lw_at lw_m6 150 rfl) rfl
theorem q1466 : (Jvm.Cond.selects "RightTurns" ({ cls := "RightTurns", name := "home", desc := "(I)I" } : Jvm.MethodName) ({ cls := "RightTurns", name := "home", desc := "(I)I" } : Jvm.MethodName)) ∈ lw_all := lw_g (lw_at lw_m6 151 rfl) rfl
theorem q1467 : (Jvm.Cond.code ({ cls := "RightTurns", name := "home", desc := "(I)I" } : Jvm.MethodName) prog_1_method_61_code (2 : Nat) (Option.some Jvm.ClassFile.FieldType.int)) ∈ lw_all := lw_g (lw_at lw_m6 152 rfl) rfl
theorem q1468 : (Jvm.Cond.methodLink "RightTurns" (391 : Nat) ({ cls := "RightTurns", name := "goes", desc := "()V" } : Jvm.MethodName)) ∈ lw_all := lw_g (lw_at lw_m6 153 rfl) rfl
theorem q1469 : (Jvm.Cond.privateMethod ({ cls := "RightTurns", name := "goes", desc := "()V" } : Jvm.MethodName)) ∈ lw_tbl := lw_at lw_m6 154 rfl
theorem q1470 : (Jvm.Cond.instanceMethod ({ cls := "RightTurns", name := "goes", desc := "()V" } : Jvm.MethodName)) ∈ lw_all := lw_g (lw_at lw_m6 155 rfl) rfl
theorem q1471 : (Jvm.Cond.code ({ cls := "RightTurns", name := "goes", desc := "()V" } : Jvm.MethodName) prog_1_method_58_code (3 : Nat) (Option.none : Option Jvm.ClassFile.FieldType)) ∈ lw_all := lw_g (lw_at lw_m6 156 rfl) rfl
theorem q1472 : (Jvm.Cond.methodLink "RightTurns" (367 : Nat) ({ cls := "RightTurns", name := "findWays", desc := "()I" } : Jvm.MethodName)) ∈ lw_all := lw_g (lw_at lw_m6 157 rfl) rfl
theorem q1473 : (Jvm.Cond.privateMethod ({ cls := "RightTurns", name := "findWays", desc := "()I" } : Jvm.MethodName)) ∈ lw_tbl := lw_at lw_m6 158 rfl
theorem q1474 : (Jvm.Cond.instanceMethod ({ cls := "RightTurns", name := "findWays", desc := "()I" } : Jvm.MethodName)) ∈ lw_all := lw_g (lw_at lw_m6 159 rfl) rfl
theorem q1475 : (Jvm.Cond.code ({ cls := "RightTurns", name := "findWays", desc := "()I" } : Jvm.MethodName) prog_1_method_55_code (5 : Nat) (Option.some Jvm.ClassFile.FieldType.int)) ∈ lw_all := lw_g (lw_at lw_m6 160 rfl) rfl
theorem q1476 : (Jvm.Cond.classLink "RightTurns" (363 : Nat) "RightTurns$Rider") ∈ lw_all := lw_g (lw_at lw_m6 161 rfl) rfl
theorem q1477 : (Jvm.Cond.methodLink "RightTurns" (376 : Nat) ({ cls := "RightTurns", name := "rides", desc := "(I)V" } : Jvm.MethodName)) ∈ lw_all := lw_g (lw_at lw_m6 162 rfl) rfl
theorem q1478 : (Jvm.Cond.privateMethod ({ cls := "RightTurns", name := "rides", desc := "(I)V" } : Jvm.MethodName)) ∈ lw_tbl := lw_at lw_m6 163 rfl
theorem q1479 : (Jvm.Cond.instanceMethod ({ cls := "RightTurns", name := "rides", desc := "(I)V" } : Jvm.MethodName)) ∈ lw_all := lw_g (lw_at lw_m6 164 rfl) rfl
theorem q1480 : (Jvm.Cond.code ({ cls := "RightTurns", name := "rides", desc := "(I)V" } : Jvm.MethodName) prog_1_method_59_code (2 : Nat) (Option.none : Option Jvm.ClassFile.FieldType)) ∈ lw_all := lw_g (lw_at lw_m6 165 rfl) rfl
theorem q1481 : (Jvm.Cond.methodLink "RightTurns" (385 : Nat) ({ cls := "RightTurns", name := "arcOf", desc := "(I)I" } : Jvm.MethodName)) ∈ lw_all := lw_g (lw_at lw_m6 166 rfl) rfl
theorem q1482 : (Jvm.Cond.privateMethod ({ cls := "RightTurns", name := "arcOf", desc := "(I)I" } : Jvm.MethodName)) ∈ lw_tbl := lw_at lw_m6 167 rfl
theorem q1483 : (Jvm.Cond.instanceMethod ({ cls := "RightTurns", name := "arcOf", desc := "(I)I" } : Jvm.MethodName)) ∈ lw_all := lw_g (lw_at lw_m6 168 rfl) rfl
theorem q1484 : (Jvm.Cond.code ({ cls := "RightTurns", name := "arcOf", desc := "(I)I" } : Jvm.MethodName) prog_1_method_56_code (2 : Nat) (Option.some Jvm.ClassFile.FieldType.int)) ∈ lw_all := lw_g (lw_at lw_m6 169 rfl) rfl
theorem q1485 : (Jvm.Cond.methodLink "RightTurns" (388 : Nat) ({ cls := "RightTurns", name := "isOut", desc := "(I)Z" } : Jvm.MethodName)) ∈ lw_all := lw_g (lw_at lw_m6 170 rfl) rfl
theorem q1486 : (Jvm.Cond.privateMethod ({ cls := "RightTurns", name := "isOut", desc := "(I)Z" } : Jvm.MethodName)) ∈ lw_tbl := lw_at lw_m6 171 rfl
theorem q1487 : (Jvm.Cond.instanceMethod ({ cls := "RightTurns", name := "isOut", desc := "(I)Z" } : Jvm.MethodName)) ∈ lw_all := lw_g (lw_at lw_m6 172 rfl) rfl
theorem q1488 : (Jvm.Cond.code ({ cls := "RightTurns", name := "isOut", desc := "(I)Z" } : Jvm.MethodName) prog_1_method_57_code (2 : Nat) (Option.some Jvm.ClassFile.FieldType.boolean)) ∈ lw_all := lw_g (lw_at lw_m6 173 rfl) rfl
theorem q1489 : (Jvm.Cond.methodLink "RightTurns" (379 : Nat) ({ cls := "RightTurns", name := "passes", desc := "(I)V" } : Jvm.MethodName)) ∈ lw_all := lw_g (lw_at lw_m6 174 rfl) rfl
theorem q1490 : (Jvm.Cond.privateMethod ({ cls := "RightTurns", name := "passes", desc := "(I)V" } : Jvm.MethodName)) ∈ lw_tbl := lw_at lw_m6 175 rfl
theorem q1491 : (Jvm.Cond.instanceMethod ({ cls := "RightTurns", name := "passes", desc := "(I)V" } : Jvm.MethodName)) ∈ lw_all := lw_g (lw_at lw_m6 176 rfl) rfl
theorem q1492 : (Jvm.Cond.code ({ cls := "RightTurns", name := "passes", desc := "(I)V" } : Jvm.MethodName) prog_1_method_60_code (4 : Nat) (Option.none : Option Jvm.ClassFile.FieldType)) ∈ lw_all := lw_g (lw_at lw_m6 177 rfl) rfl
theorem q1497 : (Jvm.Cond.instanceMethod ({ cls := "RightTurns", name := "traffic", desc := "(I)I" } : Jvm.MethodName)) ∈ lw_all := lw_g (lw_at lw_m6 182 rfl) rfl
theorem q1498 : (Jvm.Cond.selects "RightTurns" ({ cls := "RightTurns", name := "traffic", desc := "(I)I" } : Jvm.MethodName) ({ cls := "RightTurns", name := "traffic", desc := "(I)I" } : Jvm.MethodName)) ∈ lw_all := lw_g (lw_at lw_m6 183 rfl) rfl
theorem q1499 : (Jvm.Cond.code ({ cls := "RightTurns", name := "traffic", desc := "(I)I" } : Jvm.MethodName) prog_1_method_62_code (5 : Nat) (Option.some Jvm.ClassFile.FieldType.int)) ∈ lw_all := lw_g (lw_at lw_m6 184 rfl) rfl
theorem q1504 : (Jvm.Cond.instanceMethod ({ cls := "RightTurns", name := "counts", desc := "(I)I" } : Jvm.MethodName)) ∈ lw_all := lw_g (lw_at lw_m6 189 rfl) rfl
theorem q1505 : (Jvm.Cond.selects "RightTurns" ({ cls := "RightTurns", name := "counts", desc := "(I)I" } : Jvm.MethodName) ({ cls := "RightTurns", name := "counts", desc := "(I)I" } : Jvm.MethodName)) ∈ lw_all := lw_g (lw_at lw_m6 190 rfl) rfl
theorem q1506 : (Jvm.Cond.code ({ cls := "RightTurns", name := "counts", desc := "(I)I" } : Jvm.MethodName) prog_1_method_63_code (6 : Nat) (Option.some Jvm.ClassFile.FieldType.int)) ∈ lw_all := lw_g (lw_at lw_m6 191 rfl) rfl
theorem q1511 : (Jvm.Cond.instanceMethod ({ cls := "RightTurns", name := "tell", desc := "(I)I" } : Jvm.MethodName)) ∈ lw_all := lw_g (lw_at lw_m6 196 rfl) rfl
theorem q1512 : (Jvm.Cond.selects "RightTurns" ({ cls := "RightTurns", name := "tell", desc := "(I)I" } : Jvm.MethodName) ({ cls := "RightTurns", name := "tell", desc := "(I)I" } : Jvm.MethodName)) ∈ lw_all := lw_g (lw_at lw_m6 197 rfl) rfl
theorem q1513 : (Jvm.Cond.code ({ cls := "RightTurns", name := "tell", desc := "(I)I" } : Jvm.MethodName) prog_1_method_64_code (2 : Nat) (Option.some Jvm.ClassFile.FieldType.int)) ∈ lw_all := lw_g (lw_at lw_m6 198 rfl) rfl
theorem q1518 : (Jvm.Cond.instanceMethod ({ cls := "RightTurns", name := "breaks", desc := "(II)J" } : Jvm.MethodName)) ∈ lw_all := lw_g (lw_at lw_m6 203 rfl) rfl
theorem q1519 : (Jvm.Cond.selects "RightTurns" ({ cls := "RightTurns", name := "breaks", desc := "(II)J" } : Jvm.MethodName) ({ cls := "RightTurns", name := "breaks", desc := "(II)J" } : Jvm.MethodName)) ∈ lw_all := lw_g (lw_at lw_m6 204 rfl) rfl
theorem q1520 : (Jvm.Cond.code ({ cls := "RightTurns", name := "breaks", desc := "(II)J" } : Jvm.MethodName) prog_1_method_67_code (3 : Nat) (Option.some Jvm.ClassFile.FieldType.long)) ∈ lw_all := lw_g (lw_at lw_m6 205 rfl) rfl
theorem q1521 : (Jvm.Cond.methodLink "RightTurns" (397 : Nat) ({ cls := "RightTurns", name := "breaksOf", desc := "(II)J" } : Jvm.MethodName)) ∈ lw_all := lw_g (lw_at lw_m6 206 rfl) rfl
theorem q1522 : (Jvm.Cond.privateMethod ({ cls := "RightTurns", name := "breaksOf", desc := "(II)J" } : Jvm.MethodName)) ∈ lw_tbl := lw_at lw_m6 207 rfl
theorem q1523 : (Jvm.Cond.instanceMethod ({ cls := "RightTurns", name := "breaksOf", desc := "(II)J" } : Jvm.MethodName)) ∈ lw_all := lw_g (lw_at lw_m6 208 rfl) rfl
theorem q1524 : (Jvm.Cond.code ({ cls := "RightTurns", name := "breaksOf", desc := "(II)J" } : Jvm.MethodName) prog_1_method_68_code (7 : Nat) (Option.some Jvm.ClassFile.FieldType.long)) ∈ lw_all := lw_g (lw_at lw_m6 209 rfl) rfl
theorem q1525 : (Jvm.Cond.methodLink "RightTurns" (401 : Nat) ({ cls := "RightTurns", name := "isLeg", desc := "(II)Z" } : Jvm.MethodName)) ∈ lw_all := lw_g (lw_at lw_m6 210 rfl) rfl
theorem q1526 : (Jvm.Cond.privateMethod ({ cls := "RightTurns", name := "isLeg", desc := "(II)Z" } : Jvm.MethodName)) ∈ lw_tbl := lw_at lw_m6 211 rfl
theorem q1527 : (Jvm.Cond.instanceMethod ({ cls := "RightTurns", name := "isLeg", desc := "(II)Z" } : Jvm.MethodName)) ∈ lw_all := lw_g (lw_at lw_m6 212 rfl) rfl
theorem q1528 : (Jvm.Cond.code ({ cls := "RightTurns", name := "isLeg", desc := "(II)Z" } : Jvm.MethodName) prog_1_method_66_code (3 : Nat) (Option.some Jvm.ClassFile.FieldType.boolean)) ∈ lw_all := lw_g (lw_at lw_m6 213 rfl) rfl
theorem q1529 : (Jvm.Cond.methodLink "RightTurns" (404 : Nat) ({ cls := "RightTurns", name := "leg", desc := "(II)V" } : Jvm.MethodName)) ∈ lw_all := lw_g (lw_at lw_m6 214 rfl) rfl
theorem q1530 : (Jvm.Cond.privateMethod ({ cls := "RightTurns", name := "leg", desc := "(II)V" } : Jvm.MethodName)) ∈ lw_tbl := lw_at lw_m6 215 rfl
theorem q1531 : (Jvm.Cond.instanceMethod ({ cls := "RightTurns", name := "leg", desc := "(II)V" } : Jvm.MethodName)) ∈ lw_all := lw_g (lw_at lw_m6 216 rfl) rfl
theorem q1532 : (Jvm.Cond.code ({ cls := "RightTurns", name := "leg", desc := "(II)V" } : Jvm.MethodName) prog_1_method_69_code (7 : Nat) (Option.none : Option Jvm.ClassFile.FieldType)) ∈ lw_all := lw_g (lw_at lw_m6 217 rfl) rfl
theorem q1533 : (Jvm.Cond.constantLong "RightTurns" (407 : Nat) (-1 : Int64)) ∈ lw_all := lw_g (lw_at lw_m6 218 rfl) rfl
theorem q1538 : (Jvm.Cond.instanceMethod ({ cls := "RightTurns", name := "cut", desc := "(I)I" } : Jvm.MethodName)) ∈ lw_all := lw_g (lw_at lw_m6 223 rfl) rfl
theorem q1539 : (Jvm.Cond.selects "RightTurns" ({ cls := "RightTurns", name := "cut", desc := "(I)I" } : Jvm.MethodName) ({ cls := "RightTurns", name := "cut", desc := "(I)I" } : Jvm.MethodName)) ∈ lw_all := lw_g (lw_at lw_m6 224 rfl) rfl
theorem q1540 : (Jvm.Cond.code ({ cls := "RightTurns", name := "cut", desc := "(I)I" } : Jvm.MethodName) prog_1_method_71_code (7 : Nat) (Option.some Jvm.ClassFile.FieldType.int)) ∈ lw_all := lw_g (lw_at lw_m6 225 rfl) rfl
theorem q1541 : (Jvm.Cond.methodLink "RightTurns" (412 : Nat) ({ cls := "RightTurns", name := "comesOf", desc := "(II)I" } : Jvm.MethodName)) ∈ lw_all := lw_g (lw_at lw_m6 226 rfl) rfl
theorem q1542 : (Jvm.Cond.privateMethod ({ cls := "RightTurns", name := "comesOf", desc := "(II)I" } : Jvm.MethodName)) ∈ lw_tbl := lw_at lw_m6 227 rfl
theorem q1543 : (Jvm.Cond.instanceMethod ({ cls := "RightTurns", name := "comesOf", desc := "(II)I" } : Jvm.MethodName)) ∈ lw_all := lw_g (lw_at lw_m6 228 rfl) rfl
theorem q1544 : (Jvm.Cond.code ({ cls := "RightTurns", name := "comesOf", desc := "(II)I" } : Jvm.MethodName) prog_1_method_70_code (6 : Nat) (Option.some Jvm.ClassFile.FieldType.int)) ∈ lw_all := lw_g (lw_at lw_m6 229 rfl) rfl
theorem q1549 : (Jvm.Cond.instanceMethod ({ cls := "RightTurns", name := "sure", desc := "(II)I" } : Jvm.MethodName)) ∈ lw_all := lw_g (lw_at lw_m6 234 rfl) rfl
theorem q1550 : (Jvm.Cond.selects "RightTurns" ({ cls := "RightTurns", name := "sure", desc := "(II)I" } : Jvm.MethodName) ({ cls := "RightTurns", name := "sure", desc := "(II)I" } : Jvm.MethodName)) ∈ lw_all := lw_g (lw_at lw_m6 235 rfl) rfl
theorem q1551 : (Jvm.Cond.code ({ cls := "RightTurns", name := "sure", desc := "(II)I" } : Jvm.MethodName) prog_1_method_72_code (10 : Nat) (Option.some Jvm.ClassFile.FieldType.int)) ∈ lw_all := lw_g (lw_at lw_m6 236 rfl) rfl
theorem q1556 : (Jvm.Cond.instanceMethod ({ cls := "RightTurns", name := "detour", desc := "(III)I" } : Jvm.MethodName)) ∈ lw_all := lw_g (lw_at lw_m7 1 rfl) rfl
theorem q1557 : (Jvm.Cond.selects "RightTurns" ({ cls := "RightTurns", name := "detour", desc := "(III)I" } : Jvm.MethodName) ({ cls := "RightTurns", name := "detour", desc := "(III)I" } : Jvm.MethodName)) ∈ lw_all := lw_g (lw_at lw_m7 2 rfl) rfl
theorem q1558 : (Jvm.Cond.code ({ cls := "RightTurns", name := "detour", desc := "(III)I" } : Jvm.MethodName) prog_1_method_73_code (6 : Nat) (Option.some Jvm.ClassFile.FieldType.int)) ∈ lw_all := lw_g (lw_at lw_m7 3 rfl) rfl
theorem q1563 : (Jvm.Cond.instanceMethod ({ cls := "RightTurns", name := "gain", desc := "(II)I" } : Jvm.MethodName)) ∈ lw_all := lw_g (lw_at lw_m7 8 rfl) rfl
theorem q1564 : (Jvm.Cond.selects "RightTurns" ({ cls := "RightTurns", name := "gain", desc := "(II)I" } : Jvm.MethodName) ({ cls := "RightTurns", name := "gain", desc := "(II)I" } : Jvm.MethodName)) ∈ lw_all := lw_g (lw_at lw_m7 9 rfl) rfl
theorem q1565 : (Jvm.Cond.code ({ cls := "RightTurns", name := "gain", desc := "(II)I" } : Jvm.MethodName) prog_1_method_75_code (9 : Nat) (Option.some Jvm.ClassFile.FieldType.int)) ∈ lw_all := lw_g (lw_at lw_m7 10 rfl) rfl
theorem q1566 : (Jvm.Cond.methodLink "RightTurns" (418 : Nat) ({ cls := "RightTurns", name := "staying", desc := "(I)I" } : Jvm.MethodName)) ∈ lw_all := lw_g (lw_at lw_m7 11 rfl) rfl
theorem q1567 : (Jvm.Cond.privateMethod ({ cls := "RightTurns", name := "staying", desc := "(I)I" } : Jvm.MethodName)) ∈ lw_tbl := lw_at lw_m7 12 rfl
theorem q1568 : (Jvm.Cond.instanceMethod ({ cls := "RightTurns", name := "staying", desc := "(I)I" } : Jvm.MethodName)) ∈ lw_all := lw_g (lw_at lw_m7 13 rfl) rfl
theorem q1569 : (Jvm.Cond.code ({ cls := "RightTurns", name := "staying", desc := "(I)I" } : Jvm.MethodName) prog_1_method_74_code (5 : Nat) (Option.some Jvm.ClassFile.FieldType.int)) ∈ lw_all := lw_g (lw_at lw_m7 14 rfl) rfl
theorem q1574 : (Jvm.Cond.instanceMethod ({ cls := "RightTurns", name := "baker", desc := "(II)I" } : Jvm.MethodName)) ∈ lw_all := lw_g (lw_at lw_m7 19 rfl) rfl
theorem q1575 : (Jvm.Cond.selects "RightTurns" ({ cls := "RightTurns", name := "baker", desc := "(II)I" } : Jvm.MethodName) ({ cls := "RightTurns", name := "baker", desc := "(II)I" } : Jvm.MethodName)) ∈ lw_all := lw_g (lw_at lw_m7 20 rfl) rfl
theorem q1576 : (Jvm.Cond.code ({ cls := "RightTurns", name := "baker", desc := "(II)I" } : Jvm.MethodName) prog_1_method_76_code (8 : Nat) (Option.some Jvm.ClassFile.FieldType.int)) ∈ lw_all := lw_g (lw_at lw_m7 21 rfl) rfl
theorem q2216 : (Jvm.Cond.castable "RightTurns" "java/lang/Object") ∈ lw_tbl := lw_at lw_m9 181 rfl
theorem in_X1 : ∀ w ∈ wsX10, w ∈ lw_all := lw_in wsX10 [621, 623, 625, 627, 629, 631, 633, 635, 637, 639, 641, 643, 645, 647, 649, 651, 653, 655, 657, 659, 661, 663, 665, 667, 669, 671, 673, 675, 677, 679, 681, 683, 685, 687, 689, 691, 693, 695, 697, 699] (by decide +kernel) (by decide +kernel)
