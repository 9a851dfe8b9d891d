/-! RightTurnsModel -/
set_option maxRecDepth 100000
def RX4 : String := "RightTurnsModel"
def TX4 : u_T := fun k => match k with
  | 0 => ("RightTurnsModel", "thrown", "I", false)
  | 1 => ("RightTurnsModel", "tape", "I", false)
  | 2 => ("RightTurnsModel", "size", "I", false)
  | 3 => ("RightTurnsModel", "place", "I", false)
  | 4 => ("RightTurnsModel", "at", "I", false)
  | 5 => ("RightTurnsModel", "fault", "I", false)
  | 6 => ("RightTurnsModel", "faultAt", "I", false)
  | 7 => ("RightTurnsModel", "clauses", "I", false)
  | 8 => ("RightTurnsModel", "fed", "[I", true)
  | 9 => ("RightTurnsModel", "readMany", "[I", true)
  | 10 => ("RightTurnsModel", "many", "[I", true)
  | 11 => ("RightTurnsModel", "readCorner", "[[I", true)
  | 12 => ("RightTurnsModel", "corner", "[[I", true)
  | 13 => ("RightTurnsModel", "readStreet", "[[I", true)
  | 14 => ("RightTurnsModel", "street", "[[I", true)
  | 15 => ("RightTurnsModel", "readRider", "[[I", true)
  | 16 => ("RightTurnsModel", "rider", "[[I", true)
  | 17 => ("RightTurnsModel", "readSign", "[I", true)
  | 18 => ("RightTurnsModel", "readAllowed", "[I", true)
  | 19 => ("RightTurnsModel", "time", "I", false)
  | 20 => ("RightTurnsModel", "signs", "[[I", true)
  | 21 => ("RightTurnsModel", "allowed", "[[I", true)
  | 22 => ("RightTurnsModel", "signNow", "[I", true)
  | 23 => ("RightTurnsModel", "allowedNow", "[I", true)
  | 24 => ("RightTurnsModel", "follows", "[J", true)
  | 25 => ("RightTurnsModel", "reaches", "[J", true)
  | 26 => ("RightTurnsModel", "lengthFrom", "[I", true)
  | 27 => ("RightTurnsModel", "lefts", "I", false)
  | 28 => ("RightTurnsModel", "toldMany", "I", false)
  | 29 => ("RightTurnsModel", "images", "I", false)
  | 30 => ("RightTurnsModel", "left", "[[I", true)
  | 31 => ("RightTurnsModel", "told", "[I", true)
  | 32 => ("RightTurnsModel", "later", "[I", true)
  | 33 => ("RightTurnsModel", "laters", "I", false)
  | 34 => ("RightTurnsModel", "found", "I", false)
  | 35 => ("RightTurnsModel", "foundBits", "I", false)
  | 36 => ("RightTurnsModel", "path", "[[I", true)
  | 37 => ("RightTurnsModel", "pathLong", "[I", true)
  | 38 => ("RightTurnsModel", "on", "[I", true)
  | 39 => ("RightTurnsModel", "toGo", "[I", true)
  | 40 => ("RightTurnsModel", "came", "[I", true)
  | 41 => ("RightTurnsModel", "homeAt", "[I", true)
  | 42 => ("RightTurnsModel", "waits", "[I", true)
  | 43 => ("RightTurnsModel", "rounds", "I", false)
  | 44 => ("RightTurnsModel", "kept", "[[I", true)
  | 45 => ("RightTurnsModel", "spot", "I", false)
  | 46 => ("RightTurnsModel", "roundLeast", "[[I", true)
  | 47 => ("RightTurnsModel", "node", "[I", true)
  | 48 => ("RightTurnsModel", "far", "[[I", true)
  | 49 => ("RightTurnsModel", "behind", "[I", true)
  | 50 => ("RightTurnsModel", "few", "[I", true)
  | 51 => ("RightTurnsModel", "fewNext", "[I", true)
  | 52 => ("RightTurnsModel", "ways", "[J", true)
  | 53 => ("RightTurnsModel", "waysNext", "[J", true)
  | 54 => ("RightTurnsModel", "barS", "I", false)
  | 55 => ("RightTurnsModel", "barT", "I", false)
  | 56 => ("RightTurnsModel", "leastBreaks", "I", false)
  | 57 => ("RightTurnsModel", "leastWays", "J", false)
  | 58 => ("RightTurnsModel", "riding", "I", false)
  | _ => ("RightTurnsModel", "ridden", "I", false)
def tyX4 : Nat → FieldType := fun k => match k with
  | 0 => .int
  | 1 => .int
  | 2 => .int
  | 3 => .int
  | 4 => .int
  | 5 => .int
  | 6 => .int
  | 7 => .int
  | 8 => .array .int
  | 9 => .array .int
  | 10 => .array .int
  | 11 => .array (.array .int)
  | 12 => .array (.array .int)
  | 13 => .array (.array .int)
  | 14 => .array (.array .int)
  | 15 => .array (.array .int)
  | 16 => .array (.array .int)
  | 17 => .array .int
  | 18 => .array .int
  | 19 => .int
  | 20 => .array (.array .int)
  | 21 => .array (.array .int)
  | 22 => .array .int
  | 23 => .array .int
  | 24 => .array .long
  | 25 => .array .long
  | 26 => .array .int
  | 27 => .int
  | 28 => .int
  | 29 => .int
  | 30 => .array (.array .int)
  | 31 => .array .int
  | 32 => .array .int
  | 33 => .int
  | 34 => .int
  | 35 => .int
  | 36 => .array (.array .int)
  | 37 => .array .int
  | 38 => .array .int
  | 39 => .array .int
  | 40 => .array .int
  | 41 => .array .int
  | 42 => .array .int
  | 43 => .int
  | 44 => .array (.array .int)
  | 45 => .int
  | 46 => .array (.array .int)
  | 47 => .array .int
  | 48 => .array (.array .int)
  | 49 => .array .int
  | 50 => .array .int
  | 51 => .array .int
  | 52 => .array .long
  | 53 => .array .long
  | 54 => .int
  | 55 => .int
  | 56 => .int
  | 57 => .long
  | 58 => .int
  | _ => .int
abbrev wsX40 : List Cond := u_ws RX4 TX4 60
set_option maxRecDepth 100000 in
theorem nmX4 : ∀ a, a < 60 → ∀ b, b < 60 → a ≠ b → (TX4 a).2.1 ≠ (TX4 b).2.1 := by decide +kernel
set_option maxRecDepth 100000 in
theorem tyX4_ok : ∀ k, k < 60 → parseFieldDescriptor (TX4 k).2.2.1 = some (tyX4 k) := by decide +kernel
abbrev cX4_init : ByteArray := prog_10_method_1_code
def yX4_init : MethodName := ⟨RX4, "<init>", "()V"⟩
def dkwX4_init_15 : List UInt8 := [181, 0, 125, 42, 2, 181, 0, 128, 177]
abbrev dktX4_init_15 : List UInt8 := dkwX4_init_15 ++ []
def dkwX4_init_14 : List UInt8 := [181, 0, 116, 42, 16, 48, 188, 10, 181, 0, 119, 42, 16, 48, 188, 11, 181, 0, 122, 42, 16, 48, 188, 11]
abbrev dktX4_init_14 : List UInt8 := dkwX4_init_14 ++ dktX4_init_15
def dkwX4_init_13 : List UInt8 := [16, 11, 197, 0, 23, 2, 181, 0, 110, 42, 17, 8, 0, 188, 10, 181, 0, 113, 42, 16, 48, 188, 10]
abbrev dktX4_init_13 : List UInt8 := dkwX4_init_13 ++ dktX4_init_14
def dkwX4_init_12 : List UInt8 := [16, 48, 17, 4, 0, 197, 0, 23, 2, 181, 0, 104, 42, 16, 11, 188, 10, 181, 0, 107, 42, 16, 11]
abbrev dktX4_init_12 : List UInt8 := dkwX4_init_12 ++ dktX4_init_13
def dkwX4_init_11 : List UInt8 := [181, 0, 95, 42, 16, 12, 188, 10, 181, 0, 98, 42, 6, 17, 39, 16, 197, 0, 23, 2, 181, 0, 101, 42]
abbrev dktX4_init_11 : List UInt8 := dkwX4_init_11 ++ dktX4_init_12
def dkwX4_init_10 : List UInt8 := [181, 0, 86, 42, 16, 12, 188, 10, 181, 0, 89, 42, 16, 12, 188, 10, 181, 0, 92, 42, 16, 12, 188, 10]
abbrev dktX4_init_10 : List UInt8 := dkwX4_init_10 ++ dktX4_init_11
def dkwX4_init_9 : List UInt8 := [16, 12, 16, 48, 197, 0, 23, 2, 181, 0, 80, 42, 16, 12, 188, 10, 181, 0, 83, 42, 16, 12, 188, 10]
abbrev dktX4_init_9 : List UInt8 := dkwX4_init_9 ++ dktX4_init_10
def dkwX4_init_8 : List UInt8 := [197, 0, 23, 2, 181, 0, 71, 42, 16, 12, 188, 10, 181, 0, 74, 42, 16, 14, 188, 10, 181, 0, 77, 42]
abbrev dktX4_init_8 : List UInt8 := dkwX4_init_8 ++ dktX4_init_9
def dkwX4_init_7 : List UInt8 := [181, 0, 61, 42, 16, 48, 188, 11, 181, 0, 65, 42, 16, 48, 188, 10, 181, 0, 68, 42, 17, 2, 64, 5]
abbrev dktX4_init_7 : List UInt8 := dkwX4_init_7 ++ dktX4_init_8
def dkwX4_init_6 : List UInt8 := [181, 0, 52, 42, 16, 24, 188, 10, 181, 0, 55, 42, 16, 24, 188, 10, 181, 0, 58, 42, 16, 48, 188, 11]
abbrev dktX4_init_6 : List UInt8 := dkwX4_init_6 ++ dktX4_init_7
def dkwX4_init_5 : List UInt8 := [17, 0, 201, 16, 24, 197, 0, 23, 2, 181, 0, 49, 42, 17, 0, 201, 16, 24, 197, 0, 23, 2]
abbrev dktX4_init_5 : List UInt8 := dkwX4_init_5 ++ dktX4_init_6
def dkwX4_init_4 : List UInt8 := [197, 0, 23, 2, 181, 0, 40, 42, 16, 24, 188, 10, 181, 0, 43, 42, 16, 24, 188, 10, 181, 0, 46, 42]
abbrev dktX4_init_4 : List UInt8 := dkwX4_init_4 ++ dktX4_init_5
def dkwX4_init_3 : List UInt8 := [197, 0, 23, 2, 181, 0, 34, 42, 16, 12, 6, 197, 0, 23, 2, 181, 0, 37, 42, 16, 12, 6]
abbrev dktX4_init_3 : List UInt8 := dkwX4_init_3 ++ dktX4_init_4
def dkwX4_init_2 : List UInt8 := [5, 197, 0, 23, 2, 181, 0, 28, 42, 16, 24, 7, 197, 0, 23, 2, 181, 0, 31, 42, 16, 24, 7]
abbrev dktX4_init_2 : List UInt8 := dkwX4_init_2 ++ dktX4_init_3
def dkwX4_init_1 : List UInt8 := [181, 0, 17, 42, 7, 188, 10, 181, 0, 20, 42, 16, 16, 5, 197, 0, 23, 2, 181, 0, 25, 42, 16, 16]
abbrev dktX4_init_1 : List UInt8 := dkwX4_init_1 ++ dktX4_init_2
def dkwX4_init_0 : List UInt8 := [42, 183, 0, 1, 42, 2, 181, 0, 9, 42, 17, 1, 244, 188, 10, 181, 0, 13, 42, 7, 188, 10]
abbrev dktX4_init_0 : List UInt8 := dkwX4_init_0 ++ dktX4_init_1
theorem dksX4_init_0 : cX4_init.data.toList.drop 0 = dktX4_init_0 := by decide +kernel
theorem dksX4_init_1 : cX4_init.data.toList.drop 22 = dktX4_init_1 := dk_seg dksX4_init_0 22 rfl rfl
theorem dksX4_init_2 : cX4_init.data.toList.drop 46 = dktX4_init_2 := dk_seg dksX4_init_1 24 rfl rfl
theorem dksX4_init_3 : cX4_init.data.toList.drop 69 = dktX4_init_3 := dk_seg dksX4_init_2 23 rfl rfl
theorem dksX4_init_4 : cX4_init.data.toList.drop 91 = dktX4_init_4 := dk_seg dksX4_init_3 22 rfl rfl
theorem dksX4_init_5 : cX4_init.data.toList.drop 115 = dktX4_init_5 := dk_seg dksX4_init_4 24 rfl rfl
theorem dksX4_init_6 : cX4_init.data.toList.drop 137 = dktX4_init_6 := dk_seg dksX4_init_5 22 rfl rfl
theorem dksX4_init_7 : cX4_init.data.toList.drop 161 = dktX4_init_7 := dk_seg dksX4_init_6 24 rfl rfl
theorem dksX4_init_8 : cX4_init.data.toList.drop 185 = dktX4_init_8 := dk_seg dksX4_init_7 24 rfl rfl
theorem dksX4_init_9 : cX4_init.data.toList.drop 209 = dktX4_init_9 := dk_seg dksX4_init_8 24 rfl rfl
theorem dksX4_init_10 : cX4_init.data.toList.drop 233 = dktX4_init_10 := dk_seg dksX4_init_9 24 rfl rfl
theorem dksX4_init_11 : cX4_init.data.toList.drop 257 = dktX4_init_11 := dk_seg dksX4_init_10 24 rfl rfl
theorem dksX4_init_12 : cX4_init.data.toList.drop 281 = dktX4_init_12 := dk_seg dksX4_init_11 24 rfl rfl
theorem dksX4_init_13 : cX4_init.data.toList.drop 304 = dktX4_init_13 := dk_seg dksX4_init_12 23 rfl rfl
theorem dksX4_init_14 : cX4_init.data.toList.drop 327 = dktX4_init_14 := dk_seg dksX4_init_13 23 rfl rfl
theorem dksX4_init_15 : cX4_init.data.toList.drop 351 = dktX4_init_15 := dk_seg dksX4_init_14 24 rfl rfl
theorem dX4_init_0 : decode cX4_init 0 = .ok (.aload_n 0, 1) := dk_42 (dk_at dksX4_init_0 0 rfl rfl)
theorem dX4_init_1 : decode cX4_init 1 = .ok (.invokespecial 1, 3) := dk_183 0 1 (dk_at dksX4_init_0 1 rfl rfl)
theorem dX4_init_4 : decode cX4_init 4 = .ok (.aload_n 0, 1) := dk_42 (dk_at dksX4_init_0 4 rfl rfl)
theorem dX4_init_5 : decode cX4_init 5 = .ok (.iconst (-1), 1) := dk_2 (dk_at dksX4_init_0 5 rfl rfl)
theorem dX4_init_6 : decode cX4_init 6 = .ok (.putfield 9, 3) := dk_181 0 9 (dk_at dksX4_init_0 6 rfl rfl)
theorem dX4_init_9 : decode cX4_init 9 = .ok (.aload_n 0, 1) := dk_42 (dk_at dksX4_init_0 9 rfl rfl)
theorem dX4_init_10 : decode cX4_init 10 = .ok (.sipush 500, 3) := dk_17 1 244 (dk_at dksX4_init_0 10 rfl rfl)
theorem dX4_init_13 : decode cX4_init 13 = .ok (.newarray .int, 2) := dk_188_10 (dk_at dksX4_init_0 13 rfl rfl)
theorem dX4_init_15 : decode cX4_init 15 = .ok (.putfield 13, 3) := dk_181 0 13 (dk_at dksX4_init_0 15 rfl rfl)
theorem dX4_init_18 : decode cX4_init 18 = .ok (.aload_n 0, 1) := dk_42 (dk_at dksX4_init_0 18 rfl rfl)
theorem dX4_init_19 : decode cX4_init 19 = .ok (.iconst 4, 1) := dk_7 (dk_at dksX4_init_0 19 rfl rfl)
theorem dX4_init_20 : decode cX4_init 20 = .ok (.newarray .int, 2) := dk_188_10 (dk_at dksX4_init_0 20 rfl rfl)
theorem dX4_init_22 : decode cX4_init 22 = .ok (.putfield 17, 3) := dk_181 0 17 (dk_at dksX4_init_1 0 rfl rfl)
theorem dX4_init_25 : decode cX4_init 25 = .ok (.aload_n 0, 1) := dk_42 (dk_at dksX4_init_1 3 rfl rfl)
theorem dX4_init_26 : decode cX4_init 26 = .ok (.iconst 4, 1) := dk_7 (dk_at dksX4_init_1 4 rfl rfl)
theorem dX4_init_27 : decode cX4_init 27 = .ok (.newarray .int, 2) := dk_188_10 (dk_at dksX4_init_1 5 rfl rfl)
theorem dX4_init_29 : decode cX4_init 29 = .ok (.putfield 20, 3) := dk_181 0 20 (dk_at dksX4_init_1 7 rfl rfl)
theorem dX4_init_32 : decode cX4_init 32 = .ok (.aload_n 0, 1) := dk_42 (dk_at dksX4_init_1 10 rfl rfl)
theorem dX4_init_33 : decode cX4_init 33 = .ok (.bipush 16, 2) := dk_16 16 (dk_at dksX4_init_1 11 rfl rfl)
theorem dX4_init_35 : decode cX4_init 35 = .ok (.iconst 2, 1) := dk_5 (dk_at dksX4_init_1 13 rfl rfl)
theorem dX4_init_36 : decode cX4_init 36 = .ok (.multianewarray 23 2, 4) := by decide +kernel
theorem dX4_init_40 : decode cX4_init 40 = .ok (.putfield 25, 3) := dk_181 0 25 (dk_at dksX4_init_1 18 rfl rfl)
theorem dX4_init_43 : decode cX4_init 43 = .ok (.aload_n 0, 1) := dk_42 (dk_at dksX4_init_1 21 rfl rfl)
theorem dX4_init_44 : decode cX4_init 44 = .ok (.bipush 16, 2) := dk_16 16 (dk_at dksX4_init_1 22 rfl rfl)
theorem dX4_init_46 : decode cX4_init 46 = .ok (.iconst 2, 1) := dk_5 (dk_at dksX4_init_2 0 rfl rfl)
theorem dX4_init_47 : decode cX4_init 47 = .ok (.multianewarray 23 2, 4) := by decide +kernel
theorem dX4_init_51 : decode cX4_init 51 = .ok (.putfield 28, 3) := dk_181 0 28 (dk_at dksX4_init_2 5 rfl rfl)
theorem dX4_init_54 : decode cX4_init 54 = .ok (.aload_n 0, 1) := dk_42 (dk_at dksX4_init_2 8 rfl rfl)
theorem dX4_init_55 : decode cX4_init 55 = .ok (.bipush 24, 2) := dk_16 24 (dk_at dksX4_init_2 9 rfl rfl)
theorem dX4_init_57 : decode cX4_init 57 = .ok (.iconst 4, 1) := dk_7 (dk_at dksX4_init_2 11 rfl rfl)
theorem dX4_init_58 : decode cX4_init 58 = .ok (.multianewarray 23 2, 4) := by decide +kernel
theorem dX4_init_62 : decode cX4_init 62 = .ok (.putfield 31, 3) := dk_181 0 31 (dk_at dksX4_init_2 16 rfl rfl)
theorem dX4_init_65 : decode cX4_init 65 = .ok (.aload_n 0, 1) := dk_42 (dk_at dksX4_init_2 19 rfl rfl)
theorem dX4_init_66 : decode cX4_init 66 = .ok (.bipush 24, 2) := dk_16 24 (dk_at dksX4_init_2 20 rfl rfl)
theorem dX4_init_68 : decode cX4_init 68 = .ok (.iconst 4, 1) := dk_7 (dk_at dksX4_init_2 22 rfl rfl)
theorem dX4_init_69 : decode cX4_init 69 = .ok (.multianewarray 23 2, 4) := by decide +kernel
theorem dX4_init_73 : decode cX4_init 73 = .ok (.putfield 34, 3) := dk_181 0 34 (dk_at dksX4_init_3 4 rfl rfl)
theorem dX4_init_76 : decode cX4_init 76 = .ok (.aload_n 0, 1) := dk_42 (dk_at dksX4_init_3 7 rfl rfl)
theorem dX4_init_77 : decode cX4_init 77 = .ok (.bipush 12, 2) := dk_16 12 (dk_at dksX4_init_3 8 rfl rfl)
theorem dX4_init_79 : decode cX4_init 79 = .ok (.iconst 3, 1) := dk_6 (dk_at dksX4_init_3 10 rfl rfl)
theorem dX4_init_80 : decode cX4_init 80 = .ok (.multianewarray 23 2, 4) := by decide +kernel
theorem dX4_init_84 : decode cX4_init 84 = .ok (.putfield 37, 3) := dk_181 0 37 (dk_at dksX4_init_3 15 rfl rfl)
theorem dX4_init_87 : decode cX4_init 87 = .ok (.aload_n 0, 1) := dk_42 (dk_at dksX4_init_3 18 rfl rfl)
theorem dX4_init_88 : decode cX4_init 88 = .ok (.bipush 12, 2) := dk_16 12 (dk_at dksX4_init_3 19 rfl rfl)
theorem dX4_init_90 : decode cX4_init 90 = .ok (.iconst 3, 1) := dk_6 (dk_at dksX4_init_3 21 rfl rfl)
theorem dX4_init_91 : decode cX4_init 91 = .ok (.multianewarray 23 2, 4) := by decide +kernel
theorem dX4_init_95 : decode cX4_init 95 = .ok (.putfield 40, 3) := dk_181 0 40 (dk_at dksX4_init_4 4 rfl rfl)
theorem dX4_init_98 : decode cX4_init 98 = .ok (.aload_n 0, 1) := dk_42 (dk_at dksX4_init_4 7 rfl rfl)
theorem dX4_init_99 : decode cX4_init 99 = .ok (.bipush 24, 2) := dk_16 24 (dk_at dksX4_init_4 8 rfl rfl)
theorem dX4_init_101 : decode cX4_init 101 = .ok (.newarray .int, 2) := dk_188_10 (dk_at dksX4_init_4 10 rfl rfl)
theorem dX4_init_103 : decode cX4_init 103 = .ok (.putfield 43, 3) := dk_181 0 43 (dk_at dksX4_init_4 12 rfl rfl)
theorem dX4_init_106 : decode cX4_init 106 = .ok (.aload_n 0, 1) := dk_42 (dk_at dksX4_init_4 15 rfl rfl)
theorem dX4_init_107 : decode cX4_init 107 = .ok (.bipush 24, 2) := dk_16 24 (dk_at dksX4_init_4 16 rfl rfl)
theorem dX4_init_109 : decode cX4_init 109 = .ok (.newarray .int, 2) := dk_188_10 (dk_at dksX4_init_4 18 rfl rfl)
theorem dX4_init_111 : decode cX4_init 111 = .ok (.putfield 46, 3) := dk_181 0 46 (dk_at dksX4_init_4 20 rfl rfl)
theorem dX4_init_114 : decode cX4_init 114 = .ok (.aload_n 0, 1) := dk_42 (dk_at dksX4_init_4 23 rfl rfl)
theorem dX4_init_115 : decode cX4_init 115 = .ok (.sipush 201, 3) := dk_17 0 201 (dk_at dksX4_init_5 0 rfl rfl)
theorem dX4_init_118 : decode cX4_init 118 = .ok (.bipush 24, 2) := dk_16 24 (dk_at dksX4_init_5 3 rfl rfl)
theorem dX4_init_120 : decode cX4_init 120 = .ok (.multianewarray 23 2, 4) := by decide +kernel
theorem dX4_init_124 : decode cX4_init 124 = .ok (.putfield 49, 3) := dk_181 0 49 (dk_at dksX4_init_5 9 rfl rfl)
theorem dX4_init_127 : decode cX4_init 127 = .ok (.aload_n 0, 1) := dk_42 (dk_at dksX4_init_5 12 rfl rfl)
theorem dX4_init_128 : decode cX4_init 128 = .ok (.sipush 201, 3) := dk_17 0 201 (dk_at dksX4_init_5 13 rfl rfl)
theorem dX4_init_131 : decode cX4_init 131 = .ok (.bipush 24, 2) := dk_16 24 (dk_at dksX4_init_5 16 rfl rfl)
theorem dX4_init_133 : decode cX4_init 133 = .ok (.multianewarray 23 2, 4) := by decide +kernel
theorem dX4_init_137 : decode cX4_init 137 = .ok (.putfield 52, 3) := dk_181 0 52 (dk_at dksX4_init_6 0 rfl rfl)
theorem dX4_init_140 : decode cX4_init 140 = .ok (.aload_n 0, 1) := dk_42 (dk_at dksX4_init_6 3 rfl rfl)
theorem dX4_init_141 : decode cX4_init 141 = .ok (.bipush 24, 2) := dk_16 24 (dk_at dksX4_init_6 4 rfl rfl)
theorem dX4_init_143 : decode cX4_init 143 = .ok (.newarray .int, 2) := dk_188_10 (dk_at dksX4_init_6 6 rfl rfl)
theorem dX4_init_145 : decode cX4_init 145 = .ok (.putfield 55, 3) := dk_181 0 55 (dk_at dksX4_init_6 8 rfl rfl)
theorem dX4_init_148 : decode cX4_init 148 = .ok (.aload_n 0, 1) := dk_42 (dk_at dksX4_init_6 11 rfl rfl)
theorem dX4_init_149 : decode cX4_init 149 = .ok (.bipush 24, 2) := dk_16 24 (dk_at dksX4_init_6 12 rfl rfl)
theorem dX4_init_151 : decode cX4_init 151 = .ok (.newarray .int, 2) := dk_188_10 (dk_at dksX4_init_6 14 rfl rfl)
theorem dX4_init_153 : decode cX4_init 153 = .ok (.putfield 58, 3) := dk_181 0 58 (dk_at dksX4_init_6 16 rfl rfl)
theorem dX4_init_156 : decode cX4_init 156 = .ok (.aload_n 0, 1) := dk_42 (dk_at dksX4_init_6 19 rfl rfl)
theorem dX4_init_157 : decode cX4_init 157 = .ok (.bipush 48, 2) := dk_16 48 (dk_at dksX4_init_6 20 rfl rfl)
theorem dX4_init_159 : decode cX4_init 159 = .ok (.newarray .long, 2) := dk_188_11 (dk_at dksX4_init_6 22 rfl rfl)
theorem dX4_init_161 : decode cX4_init 161 = .ok (.putfield 61, 3) := dk_181 0 61 (dk_at dksX4_init_7 0 rfl rfl)
theorem dX4_init_164 : decode cX4_init 164 = .ok (.aload_n 0, 1) := dk_42 (dk_at dksX4_init_7 3 rfl rfl)
theorem dX4_init_165 : decode cX4_init 165 = .ok (.bipush 48, 2) := dk_16 48 (dk_at dksX4_init_7 4 rfl rfl)
theorem dX4_init_167 : decode cX4_init 167 = .ok (.newarray .long, 2) := dk_188_11 (dk_at dksX4_init_7 6 rfl rfl)
theorem dX4_init_169 : decode cX4_init 169 = .ok (.putfield 65, 3) := dk_181 0 65 (dk_at dksX4_init_7 8 rfl rfl)
theorem dX4_init_172 : decode cX4_init 172 = .ok (.aload_n 0, 1) := dk_42 (dk_at dksX4_init_7 11 rfl rfl)
theorem dX4_init_173 : decode cX4_init 173 = .ok (.bipush 48, 2) := dk_16 48 (dk_at dksX4_init_7 12 rfl rfl)
theorem dX4_init_175 : decode cX4_init 175 = .ok (.newarray .int, 2) := dk_188_10 (dk_at dksX4_init_7 14 rfl rfl)
theorem dX4_init_177 : decode cX4_init 177 = .ok (.putfield 68, 3) := dk_181 0 68 (dk_at dksX4_init_7 16 rfl rfl)
theorem dX4_init_180 : decode cX4_init 180 = .ok (.aload_n 0, 1) := dk_42 (dk_at dksX4_init_7 19 rfl rfl)
theorem dX4_init_181 : decode cX4_init 181 = .ok (.sipush 576, 3) := dk_17 2 64 (dk_at dksX4_init_7 20 rfl rfl)
theorem dX4_init_184 : decode cX4_init 184 = .ok (.iconst 2, 1) := dk_5 (dk_at dksX4_init_7 23 rfl rfl)
theorem dX4_init_185 : decode cX4_init 185 = .ok (.multianewarray 23 2, 4) := by decide +kernel
theorem dX4_init_189 : decode cX4_init 189 = .ok (.putfield 71, 3) := dk_181 0 71 (dk_at dksX4_init_8 4 rfl rfl)
theorem dX4_init_192 : decode cX4_init 192 = .ok (.aload_n 0, 1) := dk_42 (dk_at dksX4_init_8 7 rfl rfl)
theorem dX4_init_193 : decode cX4_init 193 = .ok (.bipush 12, 2) := dk_16 12 (dk_at dksX4_init_8 8 rfl rfl)
theorem dX4_init_195 : decode cX4_init 195 = .ok (.newarray .int, 2) := dk_188_10 (dk_at dksX4_init_8 10 rfl rfl)
theorem dX4_init_197 : decode cX4_init 197 = .ok (.putfield 74, 3) := dk_181 0 74 (dk_at dksX4_init_8 12 rfl rfl)
theorem dX4_init_200 : decode cX4_init 200 = .ok (.aload_n 0, 1) := dk_42 (dk_at dksX4_init_8 15 rfl rfl)
theorem dX4_init_201 : decode cX4_init 201 = .ok (.bipush 14, 2) := dk_16 14 (dk_at dksX4_init_8 16 rfl rfl)
theorem dX4_init_203 : decode cX4_init 203 = .ok (.newarray .int, 2) := dk_188_10 (dk_at dksX4_init_8 18 rfl rfl)
theorem dX4_init_205 : decode cX4_init 205 = .ok (.putfield 77, 3) := dk_181 0 77 (dk_at dksX4_init_8 20 rfl rfl)
theorem dX4_init_208 : decode cX4_init 208 = .ok (.aload_n 0, 1) := dk_42 (dk_at dksX4_init_8 23 rfl rfl)
theorem dX4_init_209 : decode cX4_init 209 = .ok (.bipush 12, 2) := dk_16 12 (dk_at dksX4_init_9 0 rfl rfl)
theorem dX4_init_211 : decode cX4_init 211 = .ok (.bipush 48, 2) := dk_16 48 (dk_at dksX4_init_9 2 rfl rfl)
theorem dX4_init_213 : decode cX4_init 213 = .ok (.multianewarray 23 2, 4) := by decide +kernel
theorem dX4_init_217 : decode cX4_init 217 = .ok (.putfield 80, 3) := dk_181 0 80 (dk_at dksX4_init_9 8 rfl rfl)
theorem dX4_init_220 : decode cX4_init 220 = .ok (.aload_n 0, 1) := dk_42 (dk_at dksX4_init_9 11 rfl rfl)
theorem dX4_init_221 : decode cX4_init 221 = .ok (.bipush 12, 2) := dk_16 12 (dk_at dksX4_init_9 12 rfl rfl)
theorem dX4_init_223 : decode cX4_init 223 = .ok (.newarray .int, 2) := dk_188_10 (dk_at dksX4_init_9 14 rfl rfl)
theorem dX4_init_225 : decode cX4_init 225 = .ok (.putfield 83, 3) := dk_181 0 83 (dk_at dksX4_init_9 16 rfl rfl)
theorem dX4_init_228 : decode cX4_init 228 = .ok (.aload_n 0, 1) := dk_42 (dk_at dksX4_init_9 19 rfl rfl)
theorem dX4_init_229 : decode cX4_init 229 = .ok (.bipush 12, 2) := dk_16 12 (dk_at dksX4_init_9 20 rfl rfl)
theorem dX4_init_231 : decode cX4_init 231 = .ok (.newarray .int, 2) := dk_188_10 (dk_at dksX4_init_9 22 rfl rfl)
theorem dX4_init_233 : decode cX4_init 233 = .ok (.putfield 86, 3) := dk_181 0 86 (dk_at dksX4_init_10 0 rfl rfl)
theorem dX4_init_236 : decode cX4_init 236 = .ok (.aload_n 0, 1) := dk_42 (dk_at dksX4_init_10 3 rfl rfl)
theorem dX4_init_237 : decode cX4_init 237 = .ok (.bipush 12, 2) := dk_16 12 (dk_at dksX4_init_10 4 rfl rfl)
theorem dX4_init_239 : decode cX4_init 239 = .ok (.newarray .int, 2) := dk_188_10 (dk_at dksX4_init_10 6 rfl rfl)
theorem dX4_init_241 : decode cX4_init 241 = .ok (.putfield 89, 3) := dk_181 0 89 (dk_at dksX4_init_10 8 rfl rfl)
theorem dX4_init_244 : decode cX4_init 244 = .ok (.aload_n 0, 1) := dk_42 (dk_at dksX4_init_10 11 rfl rfl)
theorem dX4_init_245 : decode cX4_init 245 = .ok (.bipush 12, 2) := dk_16 12 (dk_at dksX4_init_10 12 rfl rfl)
theorem dX4_init_247 : decode cX4_init 247 = .ok (.newarray .int, 2) := dk_188_10 (dk_at dksX4_init_10 14 rfl rfl)
theorem dX4_init_249 : decode cX4_init 249 = .ok (.putfield 92, 3) := dk_181 0 92 (dk_at dksX4_init_10 16 rfl rfl)
theorem dX4_init_252 : decode cX4_init 252 = .ok (.aload_n 0, 1) := dk_42 (dk_at dksX4_init_10 19 rfl rfl)
theorem dX4_init_253 : decode cX4_init 253 = .ok (.bipush 12, 2) := dk_16 12 (dk_at dksX4_init_10 20 rfl rfl)
theorem dX4_init_255 : decode cX4_init 255 = .ok (.newarray .int, 2) := dk_188_10 (dk_at dksX4_init_10 22 rfl rfl)
theorem dX4_init_257 : decode cX4_init 257 = .ok (.putfield 95, 3) := dk_181 0 95 (dk_at dksX4_init_11 0 rfl rfl)
theorem dX4_init_260 : decode cX4_init 260 = .ok (.aload_n 0, 1) := dk_42 (dk_at dksX4_init_11 3 rfl rfl)
theorem dX4_init_261 : decode cX4_init 261 = .ok (.bipush 12, 2) := dk_16 12 (dk_at dksX4_init_11 4 rfl rfl)
theorem dX4_init_263 : decode cX4_init 263 = .ok (.newarray .int, 2) := dk_188_10 (dk_at dksX4_init_11 6 rfl rfl)
theorem dX4_init_265 : decode cX4_init 265 = .ok (.putfield 98, 3) := dk_181 0 98 (dk_at dksX4_init_11 8 rfl rfl)
theorem dX4_init_268 : decode cX4_init 268 = .ok (.aload_n 0, 1) := dk_42 (dk_at dksX4_init_11 11 rfl rfl)
theorem dX4_init_269 : decode cX4_init 269 = .ok (.iconst 3, 1) := dk_6 (dk_at dksX4_init_11 12 rfl rfl)
theorem dX4_init_270 : decode cX4_init 270 = .ok (.sipush 10000, 3) := dk_17 39 16 (dk_at dksX4_init_11 13 rfl rfl)
theorem dX4_init_273 : decode cX4_init 273 = .ok (.multianewarray 23 2, 4) := by decide +kernel
theorem dX4_init_277 : decode cX4_init 277 = .ok (.putfield 101, 3) := dk_181 0 101 (dk_at dksX4_init_11 20 rfl rfl)
theorem dX4_init_280 : decode cX4_init 280 = .ok (.aload_n 0, 1) := dk_42 (dk_at dksX4_init_11 23 rfl rfl)
theorem dX4_init_281 : decode cX4_init 281 = .ok (.bipush 48, 2) := dk_16 48 (dk_at dksX4_init_12 0 rfl rfl)
theorem dX4_init_283 : decode cX4_init 283 = .ok (.sipush 1024, 3) := dk_17 4 0 (dk_at dksX4_init_12 2 rfl rfl)
theorem dX4_init_286 : decode cX4_init 286 = .ok (.multianewarray 23 2, 4) := by decide +kernel
theorem dX4_init_290 : decode cX4_init 290 = .ok (.putfield 104, 3) := dk_181 0 104 (dk_at dksX4_init_12 9 rfl rfl)
theorem dX4_init_293 : decode cX4_init 293 = .ok (.aload_n 0, 1) := dk_42 (dk_at dksX4_init_12 12 rfl rfl)
theorem dX4_init_294 : decode cX4_init 294 = .ok (.bipush 11, 2) := dk_16 11 (dk_at dksX4_init_12 13 rfl rfl)
theorem dX4_init_296 : decode cX4_init 296 = .ok (.newarray .int, 2) := dk_188_10 (dk_at dksX4_init_12 15 rfl rfl)
theorem dX4_init_298 : decode cX4_init 298 = .ok (.putfield 107, 3) := dk_181 0 107 (dk_at dksX4_init_12 17 rfl rfl)
theorem dX4_init_301 : decode cX4_init 301 = .ok (.aload_n 0, 1) := dk_42 (dk_at dksX4_init_12 20 rfl rfl)
theorem dX4_init_302 : decode cX4_init 302 = .ok (.bipush 11, 2) := dk_16 11 (dk_at dksX4_init_12 21 rfl rfl)
theorem dX4_init_304 : decode cX4_init 304 = .ok (.bipush 11, 2) := dk_16 11 (dk_at dksX4_init_13 0 rfl rfl)
theorem dX4_init_306 : decode cX4_init 306 = .ok (.multianewarray 23 2, 4) := by decide +kernel
theorem dX4_init_310 : decode cX4_init 310 = .ok (.putfield 110, 3) := dk_181 0 110 (dk_at dksX4_init_13 6 rfl rfl)
theorem dX4_init_313 : decode cX4_init 313 = .ok (.aload_n 0, 1) := dk_42 (dk_at dksX4_init_13 9 rfl rfl)
theorem dX4_init_314 : decode cX4_init 314 = .ok (.sipush 2048, 3) := dk_17 8 0 (dk_at dksX4_init_13 10 rfl rfl)
theorem dX4_init_317 : decode cX4_init 317 = .ok (.newarray .int, 2) := dk_188_10 (dk_at dksX4_init_13 13 rfl rfl)
theorem dX4_init_319 : decode cX4_init 319 = .ok (.putfield 113, 3) := dk_181 0 113 (dk_at dksX4_init_13 15 rfl rfl)
theorem dX4_init_322 : decode cX4_init 322 = .ok (.aload_n 0, 1) := dk_42 (dk_at dksX4_init_13 18 rfl rfl)
theorem dX4_init_323 : decode cX4_init 323 = .ok (.bipush 48, 2) := dk_16 48 (dk_at dksX4_init_13 19 rfl rfl)
theorem dX4_init_325 : decode cX4_init 325 = .ok (.newarray .int, 2) := dk_188_10 (dk_at dksX4_init_13 21 rfl rfl)
theorem dX4_init_327 : decode cX4_init 327 = .ok (.putfield 116, 3) := dk_181 0 116 (dk_at dksX4_init_14 0 rfl rfl)
theorem dX4_init_330 : decode cX4_init 330 = .ok (.aload_n 0, 1) := dk_42 (dk_at dksX4_init_14 3 rfl rfl)
theorem dX4_init_331 : decode cX4_init 331 = .ok (.bipush 48, 2) := dk_16 48 (dk_at dksX4_init_14 4 rfl rfl)
theorem dX4_init_333 : decode cX4_init 333 = .ok (.newarray .int, 2) := dk_188_10 (dk_at dksX4_init_14 6 rfl rfl)
theorem dX4_init_335 : decode cX4_init 335 = .ok (.putfield 119, 3) := dk_181 0 119 (dk_at dksX4_init_14 8 rfl rfl)
theorem dX4_init_338 : decode cX4_init 338 = .ok (.aload_n 0, 1) := dk_42 (dk_at dksX4_init_14 11 rfl rfl)
theorem dX4_init_339 : decode cX4_init 339 = .ok (.bipush 48, 2) := dk_16 48 (dk_at dksX4_init_14 12 rfl rfl)
theorem dX4_init_341 : decode cX4_init 341 = .ok (.newarray .long, 2) := dk_188_11 (dk_at dksX4_init_14 14 rfl rfl)
theorem dX4_init_343 : decode cX4_init 343 = .ok (.putfield 122, 3) := dk_181 0 122 (dk_at dksX4_init_14 16 rfl rfl)
theorem dX4_init_346 : decode cX4_init 346 = .ok (.aload_n 0, 1) := dk_42 (dk_at dksX4_init_14 19 rfl rfl)
theorem dX4_init_347 : decode cX4_init 347 = .ok (.bipush 48, 2) := dk_16 48 (dk_at dksX4_init_14 20 rfl rfl)
theorem dX4_init_349 : decode cX4_init 349 = .ok (.newarray .long, 2) := dk_188_11 (dk_at dksX4_init_14 22 rfl rfl)
theorem dX4_init_351 : decode cX4_init 351 = .ok (.putfield 125, 3) := dk_181 0 125 (dk_at dksX4_init_15 0 rfl rfl)
theorem dX4_init_354 : decode cX4_init 354 = .ok (.aload_n 0, 1) := dk_42 (dk_at dksX4_init_15 3 rfl rfl)
theorem dX4_init_355 : decode cX4_init 355 = .ok (.iconst (-1), 1) := dk_2 (dk_at dksX4_init_15 4 rfl rfl)
theorem dX4_init_356 : decode cX4_init 356 = .ok (.putfield 128, 3) := dk_181 0 128 (dk_at dksX4_init_15 5 rfl rfl)
theorem dX4_init_359 : decode cX4_init 359 = .ok (.return_, 1) := dk_177 (dk_at dksX4_init_15 8 rfl rfl)
abbrev cX4_thrown : ByteArray := prog_10_method_2_code
def yX4_thrown : MethodName := ⟨RX4, "thrown", "()I"⟩
theorem dX4_thrown_0 : decode cX4_thrown 0 = .ok (.aload_n 0, 1) := by decide +kernel
theorem dX4_thrown_1 : decode cX4_thrown 1 = .ok (.getfield 131, 3) := by decide +kernel
theorem dX4_thrown_4 : decode cX4_thrown 4 = .ok (.ireturn, 1) := by decide +kernel
abbrev cX4_feed : ByteArray := prog_10_method_5_code
def yX4_feed : MethodName := ⟨RX4, "feed", "(IIIII)I"⟩
def dkwX4_feed_5 : List UInt8 := [167, 255, 162, 42, 180, 0, 134, 172]
abbrev dktX4_feed_5 : List UInt8 := dkwX4_feed_5 ++ []
def dkwX4_feed_4 : List UInt8 := [112, 104, 100, 122, 17, 0, 255, 126, 79, 42, 89, 180, 0, 134, 4, 96, 181, 0, 134, 132, 6, 1]
abbrev dktX4_feed_4 : List UInt8 := dkwX4_feed_4 ++ dktX4_feed_5
def dkwX4_feed_3 : List UInt8 := [167, 0, 5, 21, 5, 54, 7, 42, 180, 0, 13, 42, 180, 0, 134, 21, 7, 16, 24, 16, 8, 21, 6, 7]
abbrev dktX4_feed_3 : List UInt8 := dkwX4_feed_3 ++ dktX4_feed_4
def dkwX4_feed_2 : List UInt8 := [28, 167, 0, 28, 21, 6, 16, 12, 162, 0, 7, 29, 167, 0, 17, 21, 6, 16, 16, 162, 0, 8, 21, 4]
abbrev dktX4_feed_2 : List UInt8 := dkwX4_feed_2 ++ dktX4_feed_3
def dkwX4_feed_1 : List UInt8 := [21, 6, 16, 20, 162, 0, 93, 21, 6, 7, 162, 0, 7, 27, 167, 0, 39, 21, 6, 16, 8, 162, 0, 7]
abbrev dktX4_feed_1 : List UInt8 := dkwX4_feed_1 ++ dktX4_feed_2
def dkwX4_feed_0 : List UInt8 := [42, 3, 181, 0, 131, 42, 180, 0, 134, 16, 20, 96, 17, 1, 244, 164, 0, 5, 2, 172, 3, 54, 6]
abbrev dktX4_feed_0 : List UInt8 := dkwX4_feed_0 ++ dktX4_feed_1
theorem dksX4_feed_0 : cX4_feed.data.toList.drop 0 = dktX4_feed_0 := by decide +kernel
theorem dksX4_feed_1 : cX4_feed.data.toList.drop 23 = dktX4_feed_1 := dk_seg dksX4_feed_0 23 rfl rfl
theorem dksX4_feed_2 : cX4_feed.data.toList.drop 47 = dktX4_feed_2 := dk_seg dksX4_feed_1 24 rfl rfl
theorem dksX4_feed_3 : cX4_feed.data.toList.drop 71 = dktX4_feed_3 := dk_seg dksX4_feed_2 24 rfl rfl
theorem dksX4_feed_4 : cX4_feed.data.toList.drop 95 = dktX4_feed_4 := dk_seg dksX4_feed_3 24 rfl rfl
theorem dksX4_feed_5 : cX4_feed.data.toList.drop 117 = dktX4_feed_5 := dk_seg dksX4_feed_4 22 rfl rfl
theorem dX4_feed_0 : decode cX4_feed 0 = .ok (.aload_n 0, 1) := dk_42 (dk_at dksX4_feed_0 0 rfl rfl)
theorem dX4_feed_1 : decode cX4_feed 1 = .ok (.iconst 0, 1) := dk_3 (dk_at dksX4_feed_0 1 rfl rfl)
theorem dX4_feed_2 : decode cX4_feed 2 = .ok (.putfield 131, 3) := dk_181 0 131 (dk_at dksX4_feed_0 2 rfl rfl)
theorem dX4_feed_5 : decode cX4_feed 5 = .ok (.aload_n 0, 1) := dk_42 (dk_at dksX4_feed_0 5 rfl rfl)
theorem dX4_feed_6 : decode cX4_feed 6 = .ok (.getfield 134, 3) := dk_180 0 134 (dk_at dksX4_feed_0 6 rfl rfl)
theorem dX4_feed_9 : decode cX4_feed 9 = .ok (.bipush 20, 2) := dk_16 20 (dk_at dksX4_feed_0 9 rfl rfl)
theorem dX4_feed_11 : decode cX4_feed 11 = .ok (.iadd, 1) := dk_96 (dk_at dksX4_feed_0 11 rfl rfl)
theorem dX4_feed_12 : decode cX4_feed 12 = .ok (.sipush 500, 3) := dk_17 1 244 (dk_at dksX4_feed_0 12 rfl rfl)
theorem dX4_feed_15 : decode cX4_feed 15 = .ok (.if_icmp .le 5, 3) := dk_164 0 5 (dk_at dksX4_feed_0 15 rfl rfl)
theorem dX4_feed_18 : decode cX4_feed 18 = .ok (.iconst (-1), 1) := dk_2 (dk_at dksX4_feed_0 18 rfl rfl)
theorem dX4_feed_19 : decode cX4_feed 19 = .ok (.ireturn, 1) := dk_172 (dk_at dksX4_feed_0 19 rfl rfl)
theorem dX4_feed_20 : decode cX4_feed 20 = .ok (.iconst 0, 1) := dk_3 (dk_at dksX4_feed_0 20 rfl rfl)
theorem dX4_feed_21 : decode cX4_feed 21 = .ok (.istore 6, 2) := dk_54 6 (dk_at dksX4_feed_0 21 rfl rfl)
theorem dX4_feed_23 : decode cX4_feed 23 = .ok (.iload 6, 2) := dk_21 6 (dk_at dksX4_feed_1 0 rfl rfl)
theorem dX4_feed_25 : decode cX4_feed 25 = .ok (.bipush 20, 2) := dk_16 20 (dk_at dksX4_feed_1 2 rfl rfl)
theorem dX4_feed_27 : decode cX4_feed 27 = .ok (.if_icmp .ge 93, 3) := dk_162 0 93 (dk_at dksX4_feed_1 4 rfl rfl)
theorem dX4_feed_30 : decode cX4_feed 30 = .ok (.iload 6, 2) := dk_21 6 (dk_at dksX4_feed_1 7 rfl rfl)
theorem dX4_feed_32 : decode cX4_feed 32 = .ok (.iconst 4, 1) := dk_7 (dk_at dksX4_feed_1 9 rfl rfl)
theorem dX4_feed_33 : decode cX4_feed 33 = .ok (.if_icmp .ge 7, 3) := dk_162 0 7 (dk_at dksX4_feed_1 10 rfl rfl)
theorem dX4_feed_36 : decode cX4_feed 36 = .ok (.iload_n 1, 1) := dk_27 (dk_at dksX4_feed_1 13 rfl rfl)
theorem dX4_feed_37 : decode cX4_feed 37 = .ok (.goto 39, 3) := dk_167 0 39 (dk_at dksX4_feed_1 14 rfl rfl)
theorem dX4_feed_40 : decode cX4_feed 40 = .ok (.iload 6, 2) := dk_21 6 (dk_at dksX4_feed_1 17 rfl rfl)
theorem dX4_feed_42 : decode cX4_feed 42 = .ok (.bipush 8, 2) := dk_16 8 (dk_at dksX4_feed_1 19 rfl rfl)
theorem dX4_feed_44 : decode cX4_feed 44 = .ok (.if_icmp .ge 7, 3) := dk_162 0 7 (dk_at dksX4_feed_1 21 rfl rfl)
theorem dX4_feed_47 : decode cX4_feed 47 = .ok (.iload_n 2, 1) := dk_28 (dk_at dksX4_feed_2 0 rfl rfl)
theorem dX4_feed_48 : decode cX4_feed 48 = .ok (.goto 28, 3) := dk_167 0 28 (dk_at dksX4_feed_2 1 rfl rfl)
theorem dX4_feed_51 : decode cX4_feed 51 = .ok (.iload 6, 2) := dk_21 6 (dk_at dksX4_feed_2 4 rfl rfl)
theorem dX4_feed_53 : decode cX4_feed 53 = .ok (.bipush 12, 2) := dk_16 12 (dk_at dksX4_feed_2 6 rfl rfl)
theorem dX4_feed_55 : decode cX4_feed 55 = .ok (.if_icmp .ge 7, 3) := dk_162 0 7 (dk_at dksX4_feed_2 8 rfl rfl)
theorem dX4_feed_58 : decode cX4_feed 58 = .ok (.iload_n 3, 1) := dk_29 (dk_at dksX4_feed_2 11 rfl rfl)
theorem dX4_feed_59 : decode cX4_feed 59 = .ok (.goto 17, 3) := dk_167 0 17 (dk_at dksX4_feed_2 12 rfl rfl)
theorem dX4_feed_62 : decode cX4_feed 62 = .ok (.iload 6, 2) := dk_21 6 (dk_at dksX4_feed_2 15 rfl rfl)
theorem dX4_feed_64 : decode cX4_feed 64 = .ok (.bipush 16, 2) := dk_16 16 (dk_at dksX4_feed_2 17 rfl rfl)
theorem dX4_feed_66 : decode cX4_feed 66 = .ok (.if_icmp .ge 8, 3) := dk_162 0 8 (dk_at dksX4_feed_2 19 rfl rfl)
theorem dX4_feed_69 : decode cX4_feed 69 = .ok (.iload 4, 2) := dk_21 4 (dk_at dksX4_feed_2 22 rfl rfl)
theorem dX4_feed_71 : decode cX4_feed 71 = .ok (.goto 5, 3) := dk_167 0 5 (dk_at dksX4_feed_3 0 rfl rfl)
theorem dX4_feed_74 : decode cX4_feed 74 = .ok (.iload 5, 2) := dk_21 5 (dk_at dksX4_feed_3 3 rfl rfl)
theorem dX4_feed_76 : decode cX4_feed 76 = .ok (.istore 7, 2) := dk_54 7 (dk_at dksX4_feed_3 5 rfl rfl)
theorem dX4_feed_78 : decode cX4_feed 78 = .ok (.aload_n 0, 1) := dk_42 (dk_at dksX4_feed_3 7 rfl rfl)
theorem dX4_feed_79 : decode cX4_feed 79 = .ok (.getfield 13, 3) := dk_180 0 13 (dk_at dksX4_feed_3 8 rfl rfl)
theorem dX4_feed_82 : decode cX4_feed 82 = .ok (.aload_n 0, 1) := dk_42 (dk_at dksX4_feed_3 11 rfl rfl)
theorem dX4_feed_83 : decode cX4_feed 83 = .ok (.getfield 134, 3) := dk_180 0 134 (dk_at dksX4_feed_3 12 rfl rfl)
theorem dX4_feed_86 : decode cX4_feed 86 = .ok (.iload 7, 2) := dk_21 7 (dk_at dksX4_feed_3 15 rfl rfl)
theorem dX4_feed_88 : decode cX4_feed 88 = .ok (.bipush 24, 2) := dk_16 24 (dk_at dksX4_feed_3 17 rfl rfl)
theorem dX4_feed_90 : decode cX4_feed 90 = .ok (.bipush 8, 2) := dk_16 8 (dk_at dksX4_feed_3 19 rfl rfl)
theorem dX4_feed_92 : decode cX4_feed 92 = .ok (.iload 6, 2) := dk_21 6 (dk_at dksX4_feed_3 21 rfl rfl)
theorem dX4_feed_94 : decode cX4_feed 94 = .ok (.iconst 4, 1) := dk_7 (dk_at dksX4_feed_3 23 rfl rfl)
theorem dX4_feed_95 : decode cX4_feed 95 = .ok (.irem, 1) := dk_112 (dk_at dksX4_feed_4 0 rfl rfl)
theorem dX4_feed_96 : decode cX4_feed 96 = .ok (.imul, 1) := dk_104 (dk_at dksX4_feed_4 1 rfl rfl)
theorem dX4_feed_97 : decode cX4_feed 97 = .ok (.isub, 1) := dk_100 (dk_at dksX4_feed_4 2 rfl rfl)
theorem dX4_feed_98 : decode cX4_feed 98 = .ok (.ishr, 1) := dk_122 (dk_at dksX4_feed_4 3 rfl rfl)
theorem dX4_feed_99 : decode cX4_feed 99 = .ok (.sipush 255, 3) := dk_17 0 255 (dk_at dksX4_feed_4 4 rfl rfl)
theorem dX4_feed_102 : decode cX4_feed 102 = .ok (.iand, 1) := dk_126 (dk_at dksX4_feed_4 7 rfl rfl)
theorem dX4_feed_103 : decode cX4_feed 103 = .ok (.iastore, 1) := dk_79 (dk_at dksX4_feed_4 8 rfl rfl)
theorem dX4_feed_104 : decode cX4_feed 104 = .ok (.aload_n 0, 1) := dk_42 (dk_at dksX4_feed_4 9 rfl rfl)
theorem dX4_feed_105 : decode cX4_feed 105 = .ok (.dup, 1) := dk_89 (dk_at dksX4_feed_4 10 rfl rfl)
theorem dX4_feed_106 : decode cX4_feed 106 = .ok (.getfield 134, 3) := dk_180 0 134 (dk_at dksX4_feed_4 11 rfl rfl)
theorem dX4_feed_109 : decode cX4_feed 109 = .ok (.iconst 1, 1) := dk_4 (dk_at dksX4_feed_4 14 rfl rfl)
theorem dX4_feed_110 : decode cX4_feed 110 = .ok (.iadd, 1) := dk_96 (dk_at dksX4_feed_4 15 rfl rfl)
theorem dX4_feed_111 : decode cX4_feed 111 = .ok (.putfield 134, 3) := dk_181 0 134 (dk_at dksX4_feed_4 16 rfl rfl)
theorem dX4_feed_114 : decode cX4_feed 114 = .ok (.iinc 6 1, 3) := dk_132 6 1 (dk_at dksX4_feed_4 19 rfl rfl)
theorem dX4_feed_117 : decode cX4_feed 117 = .ok (.goto (-94), 3) := dk_167 255 162 (dk_at dksX4_feed_5 0 rfl rfl)
theorem dX4_feed_120 : decode cX4_feed 120 = .ok (.aload_n 0, 1) := dk_42 (dk_at dksX4_feed_5 3 rfl rfl)
theorem dX4_feed_121 : decode cX4_feed 121 = .ok (.getfield 134, 3) := dk_180 0 134 (dk_at dksX4_feed_5 4 rfl rfl)
theorem dX4_feed_124 : decode cX4_feed 124 = .ok (.ireturn, 1) := dk_172 (dk_at dksX4_feed_5 7 rfl rfl)
abbrev cX4_town : ByteArray := prog_10_method_28_code
def yX4_town : MethodName := ⟨RX4, "town", "(I)I"⟩
def dkwX4_town_12 : List UInt8 := [182, 0, 247, 42, 180, 0, 20, 3, 46, 172]
abbrev dktX4_town_12 : List UInt8 := dkwX4_town_12 ++ []
def dkwX4_town_11 : List UInt8 := [42, 180, 0, 46, 28, 46, 79, 132, 2, 1, 167, 255, 219, 42, 3, 181, 0, 241, 42, 3, 181, 0, 244, 42]
abbrev dktX4_town_11 : List UInt8 := dkwX4_town_11 ++ dktX4_town_12
def dkwX4_town_10 : List UInt8 := [162, 0, 37, 42, 180, 0, 49, 3, 50, 28, 42, 180, 0, 43, 28, 46, 79, 42, 180, 0, 52, 3, 50, 28]
abbrev dktX4_town_10 : List UInt8 := dkwX4_town_10 ++ dktX4_town_11
def dkwX4_town_9 : List UInt8 := [184, 0, 234, 42, 180, 0, 37, 42, 180, 0, 40, 184, 0, 234, 42, 3, 181, 0, 238, 3, 61, 28, 16, 24]
abbrev dktX4_town_9 : List UInt8 := dkwX4_town_9 ++ dktX4_town_10
def dkwX4_town_8 : List UInt8 := [167, 255, 236, 42, 180, 0, 25, 42, 180, 0, 28, 184, 0, 234, 42, 180, 0, 31, 42, 180, 0, 34]
abbrev dktX4_town_8 : List UInt8 := dkwX4_town_8 ++ dktX4_town_9
def dkwX4_town_7 : List UInt8 := [100, 172, 3, 61, 28, 7, 162, 0, 21, 42, 180, 0, 20, 28, 42, 180, 0, 17, 28, 46, 79, 132, 2, 1]
abbrev dktX4_town_7 : List UInt8 := dkwX4_town_7 ++ dktX4_town_8
def dkwX4_town_6 : List UInt8 := [167, 255, 230, 42, 42, 180, 0, 150, 181, 0, 9, 42, 180, 0, 147, 153, 0, 11, 42, 180, 0, 147, 16, 10]
abbrev dktX4_town_6 : List UInt8 := dkwX4_town_6 ++ dktX4_town_7
def dkwX4_town_5 : List UInt8 := [154, 0, 25, 42, 180, 0, 140, 42, 180, 0, 137, 162, 0, 14, 42, 182, 0, 231, 42, 182, 0, 153]
abbrev dktX4_town_5 : List UInt8 := dkwX4_town_5 ++ dktX4_town_6
def dkwX4_town_4 : List UInt8 := [28, 3, 79, 42, 180, 0, 46, 28, 3, 79, 132, 2, 1, 167, 255, 233, 42, 182, 0, 153, 42, 180, 0, 147]
abbrev dktX4_town_4 : List UInt8 := dkwX4_town_4 ++ dktX4_town_5
def dkwX4_town_3 : List UInt8 := [180, 0, 17, 28, 3, 79, 132, 2, 1, 167, 255, 241, 3, 61, 28, 16, 24, 162, 0, 23, 42, 180, 0, 43]
abbrev dktX4_town_3 : List UInt8 := dkwX4_town_3 ++ dktX4_town_4
def dkwX4_town_2 : List UInt8 := [3, 181, 0, 147, 42, 2, 181, 0, 150, 42, 3, 181, 0, 184, 3, 61, 28, 7, 162, 0, 16, 42]
abbrev dktX4_town_2 : List UInt8 := dkwX4_town_2 ++ dktX4_town_3
def dkwX4_town_1 : List UInt8 := [182, 0, 227, 153, 0, 5, 3, 172, 42, 3, 181, 0, 134, 42, 27, 181, 0, 137, 42, 3, 181, 0, 140, 42]
abbrev dktX4_town_1 : List UInt8 := dkwX4_town_1 ++ dktX4_town_2
def dkwX4_town_0 : List UInt8 := [42, 3, 181, 0, 131, 42, 27, 3, 42, 180, 0, 134, 184, 0, 165, 154, 0, 7, 4, 167, 0, 4, 3, 4]
abbrev dktX4_town_0 : List UInt8 := dkwX4_town_0 ++ dktX4_town_1
theorem dksX4_town_0 : cX4_town.data.toList.drop 0 = dktX4_town_0 := by decide +kernel
theorem dksX4_town_1 : cX4_town.data.toList.drop 24 = dktX4_town_1 := dk_seg dksX4_town_0 24 rfl rfl
theorem dksX4_town_2 : cX4_town.data.toList.drop 48 = dktX4_town_2 := dk_seg dksX4_town_1 24 rfl rfl
theorem dksX4_town_3 : cX4_town.data.toList.drop 70 = dktX4_town_3 := dk_seg dksX4_town_2 22 rfl rfl
theorem dksX4_town_4 : cX4_town.data.toList.drop 94 = dktX4_town_4 := dk_seg dksX4_town_3 24 rfl rfl
theorem dksX4_town_5 : cX4_town.data.toList.drop 118 = dktX4_town_5 := dk_seg dksX4_town_4 24 rfl rfl
theorem dksX4_town_6 : cX4_town.data.toList.drop 140 = dktX4_town_6 := dk_seg dksX4_town_5 22 rfl rfl
theorem dksX4_town_7 : cX4_town.data.toList.drop 164 = dktX4_town_7 := dk_seg dksX4_town_6 24 rfl rfl
theorem dksX4_town_8 : cX4_town.data.toList.drop 188 = dktX4_town_8 := dk_seg dksX4_town_7 24 rfl rfl
theorem dksX4_town_9 : cX4_town.data.toList.drop 210 = dktX4_town_9 := dk_seg dksX4_town_8 22 rfl rfl
theorem dksX4_town_10 : cX4_town.data.toList.drop 234 = dktX4_town_10 := dk_seg dksX4_town_9 24 rfl rfl
theorem dksX4_town_11 : cX4_town.data.toList.drop 258 = dktX4_town_11 := dk_seg dksX4_town_10 24 rfl rfl
theorem dksX4_town_12 : cX4_town.data.toList.drop 282 = dktX4_town_12 := dk_seg dksX4_town_11 24 rfl rfl
theorem dX4_town_0 : decode cX4_town 0 = .ok (.aload_n 0, 1) := dk_42 (dk_at dksX4_town_0 0 rfl rfl)
theorem dX4_town_1 : decode cX4_town 1 = .ok (.iconst 0, 1) := dk_3 (dk_at dksX4_town_0 1 rfl rfl)
theorem dX4_town_2 : decode cX4_town 2 = .ok (.putfield 131, 3) := dk_181 0 131 (dk_at dksX4_town_0 2 rfl rfl)
theorem dX4_town_5 : decode cX4_town 5 = .ok (.aload_n 0, 1) := dk_42 (dk_at dksX4_town_0 5 rfl rfl)
theorem dX4_town_6 : decode cX4_town 6 = .ok (.iload_n 1, 1) := dk_27 (dk_at dksX4_town_0 6 rfl rfl)
theorem dX4_town_7 : decode cX4_town 7 = .ok (.iconst 0, 1) := dk_3 (dk_at dksX4_town_0 7 rfl rfl)
theorem dX4_town_8 : decode cX4_town 8 = .ok (.aload_n 0, 1) := dk_42 (dk_at dksX4_town_0 8 rfl rfl)
theorem dX4_town_9 : decode cX4_town 9 = .ok (.getfield 134, 3) := dk_180 0 134 (dk_at dksX4_town_0 9 rfl rfl)
theorem dX4_town_12 : decode cX4_town 12 = .ok (.invokestatic 165, 3) := dk_184 0 165 (dk_at dksX4_town_0 12 rfl rfl)
theorem dX4_town_15 : decode cX4_town 15 = .ok (.ifCond .ne 7, 3) := dk_154 0 7 (dk_at dksX4_town_0 15 rfl rfl)
theorem dX4_town_18 : decode cX4_town 18 = .ok (.iconst 1, 1) := dk_4 (dk_at dksX4_town_0 18 rfl rfl)
theorem dX4_town_19 : decode cX4_town 19 = .ok (.goto 4, 3) := dk_167 0 4 (dk_at dksX4_town_0 19 rfl rfl)
theorem dX4_town_22 : decode cX4_town 22 = .ok (.iconst 0, 1) := dk_3 (dk_at dksX4_town_0 22 rfl rfl)
theorem dX4_town_23 : decode cX4_town 23 = .ok (.iconst 1, 1) := dk_4 (dk_at dksX4_town_0 23 rfl rfl)
theorem dX4_town_24 : decode cX4_town 24 = .ok (.invokevirtual 227, 3) := dk_182 0 227 (dk_at dksX4_town_1 0 rfl rfl)
theorem dX4_town_27 : decode cX4_town 27 = .ok (.ifCond .eq 5, 3) := dk_153 0 5 (dk_at dksX4_town_1 3 rfl rfl)
theorem dX4_town_30 : decode cX4_town 30 = .ok (.iconst 0, 1) := dk_3 (dk_at dksX4_town_1 6 rfl rfl)
theorem dX4_town_31 : decode cX4_town 31 = .ok (.ireturn, 1) := dk_172 (dk_at dksX4_town_1 7 rfl rfl)
theorem dX4_town_32 : decode cX4_town 32 = .ok (.aload_n 0, 1) := dk_42 (dk_at dksX4_town_1 8 rfl rfl)
theorem dX4_town_33 : decode cX4_town 33 = .ok (.iconst 0, 1) := dk_3 (dk_at dksX4_town_1 9 rfl rfl)
theorem dX4_town_34 : decode cX4_town 34 = .ok (.putfield 134, 3) := dk_181 0 134 (dk_at dksX4_town_1 10 rfl rfl)
theorem dX4_town_37 : decode cX4_town 37 = .ok (.aload_n 0, 1) := dk_42 (dk_at dksX4_town_1 13 rfl rfl)
theorem dX4_town_38 : decode cX4_town 38 = .ok (.iload_n 1, 1) := dk_27 (dk_at dksX4_town_1 14 rfl rfl)
theorem dX4_town_39 : decode cX4_town 39 = .ok (.putfield 137, 3) := dk_181 0 137 (dk_at dksX4_town_1 15 rfl rfl)
theorem dX4_town_42 : decode cX4_town 42 = .ok (.aload_n 0, 1) := dk_42 (dk_at dksX4_town_1 18 rfl rfl)
theorem dX4_town_43 : decode cX4_town 43 = .ok (.iconst 0, 1) := dk_3 (dk_at dksX4_town_1 19 rfl rfl)
theorem dX4_town_44 : decode cX4_town 44 = .ok (.putfield 140, 3) := dk_181 0 140 (dk_at dksX4_town_1 20 rfl rfl)
theorem dX4_town_47 : decode cX4_town 47 = .ok (.aload_n 0, 1) := dk_42 (dk_at dksX4_town_1 23 rfl rfl)
theorem dX4_town_48 : decode cX4_town 48 = .ok (.iconst 0, 1) := dk_3 (dk_at dksX4_town_2 0 rfl rfl)
theorem dX4_town_49 : decode cX4_town 49 = .ok (.putfield 147, 3) := dk_181 0 147 (dk_at dksX4_town_2 1 rfl rfl)
theorem dX4_town_52 : decode cX4_town 52 = .ok (.aload_n 0, 1) := dk_42 (dk_at dksX4_town_2 4 rfl rfl)
theorem dX4_town_53 : decode cX4_town 53 = .ok (.iconst (-1), 1) := dk_2 (dk_at dksX4_town_2 5 rfl rfl)
theorem dX4_town_54 : decode cX4_town 54 = .ok (.putfield 150, 3) := dk_181 0 150 (dk_at dksX4_town_2 6 rfl rfl)
theorem dX4_town_57 : decode cX4_town 57 = .ok (.aload_n 0, 1) := dk_42 (dk_at dksX4_town_2 9 rfl rfl)
theorem dX4_town_58 : decode cX4_town 58 = .ok (.iconst 0, 1) := dk_3 (dk_at dksX4_town_2 10 rfl rfl)
theorem dX4_town_59 : decode cX4_town 59 = .ok (.putfield 184, 3) := dk_181 0 184 (dk_at dksX4_town_2 11 rfl rfl)
theorem dX4_town_62 : decode cX4_town 62 = .ok (.iconst 0, 1) := dk_3 (dk_at dksX4_town_2 14 rfl rfl)
theorem dX4_town_63 : decode cX4_town 63 = .ok (.istore_n 2, 1) := dk_61 (dk_at dksX4_town_2 15 rfl rfl)
theorem dX4_town_64 : decode cX4_town 64 = .ok (.iload_n 2, 1) := dk_28 (dk_at dksX4_town_2 16 rfl rfl)
theorem dX4_town_65 : decode cX4_town 65 = .ok (.iconst 4, 1) := dk_7 (dk_at dksX4_town_2 17 rfl rfl)
theorem dX4_town_66 : decode cX4_town 66 = .ok (.if_icmp .ge 16, 3) := dk_162 0 16 (dk_at dksX4_town_2 18 rfl rfl)
theorem dX4_town_69 : decode cX4_town 69 = .ok (.aload_n 0, 1) := dk_42 (dk_at dksX4_town_2 21 rfl rfl)
theorem dX4_town_70 : decode cX4_town 70 = .ok (.getfield 17, 3) := dk_180 0 17 (dk_at dksX4_town_3 0 rfl rfl)
theorem dX4_town_73 : decode cX4_town 73 = .ok (.iload_n 2, 1) := dk_28 (dk_at dksX4_town_3 3 rfl rfl)
theorem dX4_town_74 : decode cX4_town 74 = .ok (.iconst 0, 1) := dk_3 (dk_at dksX4_town_3 4 rfl rfl)
theorem dX4_town_75 : decode cX4_town 75 = .ok (.iastore, 1) := dk_79 (dk_at dksX4_town_3 5 rfl rfl)
theorem dX4_town_76 : decode cX4_town 76 = .ok (.iinc 2 1, 3) := dk_132 2 1 (dk_at dksX4_town_3 6 rfl rfl)
theorem dX4_town_79 : decode cX4_town 79 = .ok (.goto (-15), 3) := dk_167 255 241 (dk_at dksX4_town_3 9 rfl rfl)
theorem dX4_town_82 : decode cX4_town 82 = .ok (.iconst 0, 1) := dk_3 (dk_at dksX4_town_3 12 rfl rfl)
theorem dX4_town_83 : decode cX4_town 83 = .ok (.istore_n 2, 1) := dk_61 (dk_at dksX4_town_3 13 rfl rfl)
theorem dX4_town_84 : decode cX4_town 84 = .ok (.iload_n 2, 1) := dk_28 (dk_at dksX4_town_3 14 rfl rfl)
theorem dX4_town_85 : decode cX4_town 85 = .ok (.bipush 24, 2) := dk_16 24 (dk_at dksX4_town_3 15 rfl rfl)
theorem dX4_town_87 : decode cX4_town 87 = .ok (.if_icmp .ge 23, 3) := dk_162 0 23 (dk_at dksX4_town_3 17 rfl rfl)
theorem dX4_town_90 : decode cX4_town 90 = .ok (.aload_n 0, 1) := dk_42 (dk_at dksX4_town_3 20 rfl rfl)
theorem dX4_town_91 : decode cX4_town 91 = .ok (.getfield 43, 3) := dk_180 0 43 (dk_at dksX4_town_3 21 rfl rfl)
theorem dX4_town_94 : decode cX4_town 94 = .ok (.iload_n 2, 1) := dk_28 (dk_at dksX4_town_4 0 rfl rfl)
theorem dX4_town_95 : decode cX4_town 95 = .ok (.iconst 0, 1) := dk_3 (dk_at dksX4_town_4 1 rfl rfl)
theorem dX4_town_96 : decode cX4_town 96 = .ok (.iastore, 1) := dk_79 (dk_at dksX4_town_4 2 rfl rfl)
theorem dX4_town_97 : decode cX4_town 97 = .ok (.aload_n 0, 1) := dk_42 (dk_at dksX4_town_4 3 rfl rfl)
theorem dX4_town_98 : decode cX4_town 98 = .ok (.getfield 46, 3) := dk_180 0 46 (dk_at dksX4_town_4 4 rfl rfl)
theorem dX4_town_101 : decode cX4_town 101 = .ok (.iload_n 2, 1) := dk_28 (dk_at dksX4_town_4 7 rfl rfl)
theorem dX4_town_102 : decode cX4_town 102 = .ok (.iconst 0, 1) := dk_3 (dk_at dksX4_town_4 8 rfl rfl)
theorem dX4_town_103 : decode cX4_town 103 = .ok (.iastore, 1) := dk_79 (dk_at dksX4_town_4 9 rfl rfl)
theorem dX4_town_104 : decode cX4_town 104 = .ok (.iinc 2 1, 3) := dk_132 2 1 (dk_at dksX4_town_4 10 rfl rfl)
theorem dX4_town_107 : decode cX4_town 107 = .ok (.goto (-23), 3) := dk_167 255 233 (dk_at dksX4_town_4 13 rfl rfl)
theorem dX4_town_110 : decode cX4_town 110 = .ok (.aload_n 0, 1) := dk_42 (dk_at dksX4_town_4 16 rfl rfl)
theorem dX4_town_111 : decode cX4_town 111 = .ok (.invokevirtual 153, 3) := dk_182 0 153 (dk_at dksX4_town_4 17 rfl rfl)
theorem dX4_town_114 : decode cX4_town 114 = .ok (.aload_n 0, 1) := dk_42 (dk_at dksX4_town_4 20 rfl rfl)
theorem dX4_town_115 : decode cX4_town 115 = .ok (.getfield 147, 3) := dk_180 0 147 (dk_at dksX4_town_4 21 rfl rfl)
theorem dX4_town_118 : decode cX4_town 118 = .ok (.ifCond .ne 25, 3) := dk_154 0 25 (dk_at dksX4_town_5 0 rfl rfl)
theorem dX4_town_121 : decode cX4_town 121 = .ok (.aload_n 0, 1) := dk_42 (dk_at dksX4_town_5 3 rfl rfl)
theorem dX4_town_122 : decode cX4_town 122 = .ok (.getfield 140, 3) := dk_180 0 140 (dk_at dksX4_town_5 4 rfl rfl)
theorem dX4_town_125 : decode cX4_town 125 = .ok (.aload_n 0, 1) := dk_42 (dk_at dksX4_town_5 7 rfl rfl)
theorem dX4_town_126 : decode cX4_town 126 = .ok (.getfield 137, 3) := dk_180 0 137 (dk_at dksX4_town_5 8 rfl rfl)
theorem dX4_town_129 : decode cX4_town 129 = .ok (.if_icmp .ge 14, 3) := dk_162 0 14 (dk_at dksX4_town_5 11 rfl rfl)
theorem dX4_town_132 : decode cX4_town 132 = .ok (.aload_n 0, 1) := dk_42 (dk_at dksX4_town_5 14 rfl rfl)
theorem dX4_town_133 : decode cX4_town 133 = .ok (.invokevirtual 231, 3) := dk_182 0 231 (dk_at dksX4_town_5 15 rfl rfl)
theorem dX4_town_136 : decode cX4_town 136 = .ok (.aload_n 0, 1) := dk_42 (dk_at dksX4_town_5 18 rfl rfl)
theorem dX4_town_137 : decode cX4_town 137 = .ok (.invokevirtual 153, 3) := dk_182 0 153 (dk_at dksX4_town_5 19 rfl rfl)
theorem dX4_town_140 : decode cX4_town 140 = .ok (.goto (-26), 3) := dk_167 255 230 (dk_at dksX4_town_6 0 rfl rfl)
theorem dX4_town_143 : decode cX4_town 143 = .ok (.aload_n 0, 1) := dk_42 (dk_at dksX4_town_6 3 rfl rfl)
theorem dX4_town_144 : decode cX4_town 144 = .ok (.aload_n 0, 1) := dk_42 (dk_at dksX4_town_6 4 rfl rfl)
theorem dX4_town_145 : decode cX4_town 145 = .ok (.getfield 150, 3) := dk_180 0 150 (dk_at dksX4_town_6 5 rfl rfl)
theorem dX4_town_148 : decode cX4_town 148 = .ok (.putfield 9, 3) := dk_181 0 9 (dk_at dksX4_town_6 8 rfl rfl)
theorem dX4_town_151 : decode cX4_town 151 = .ok (.aload_n 0, 1) := dk_42 (dk_at dksX4_town_6 11 rfl rfl)
theorem dX4_town_152 : decode cX4_town 152 = .ok (.getfield 147, 3) := dk_180 0 147 (dk_at dksX4_town_6 12 rfl rfl)
theorem dX4_town_155 : decode cX4_town 155 = .ok (.ifCond .eq 11, 3) := dk_153 0 11 (dk_at dksX4_town_6 15 rfl rfl)
theorem dX4_town_158 : decode cX4_town 158 = .ok (.aload_n 0, 1) := dk_42 (dk_at dksX4_town_6 18 rfl rfl)
theorem dX4_town_159 : decode cX4_town 159 = .ok (.getfield 147, 3) := dk_180 0 147 (dk_at dksX4_town_6 19 rfl rfl)
theorem dX4_town_162 : decode cX4_town 162 = .ok (.bipush 10, 2) := dk_16 10 (dk_at dksX4_town_6 22 rfl rfl)
theorem dX4_town_164 : decode cX4_town 164 = .ok (.isub, 1) := dk_100 (dk_at dksX4_town_7 0 rfl rfl)
theorem dX4_town_165 : decode cX4_town 165 = .ok (.ireturn, 1) := dk_172 (dk_at dksX4_town_7 1 rfl rfl)
theorem dX4_town_166 : decode cX4_town 166 = .ok (.iconst 0, 1) := dk_3 (dk_at dksX4_town_7 2 rfl rfl)
theorem dX4_town_167 : decode cX4_town 167 = .ok (.istore_n 2, 1) := dk_61 (dk_at dksX4_town_7 3 rfl rfl)
theorem dX4_town_168 : decode cX4_town 168 = .ok (.iload_n 2, 1) := dk_28 (dk_at dksX4_town_7 4 rfl rfl)
theorem dX4_town_169 : decode cX4_town 169 = .ok (.iconst 4, 1) := dk_7 (dk_at dksX4_town_7 5 rfl rfl)
theorem dX4_town_170 : decode cX4_town 170 = .ok (.if_icmp .ge 21, 3) := dk_162 0 21 (dk_at dksX4_town_7 6 rfl rfl)
theorem dX4_town_173 : decode cX4_town 173 = .ok (.aload_n 0, 1) := dk_42 (dk_at dksX4_town_7 9 rfl rfl)
theorem dX4_town_174 : decode cX4_town 174 = .ok (.getfield 20, 3) := dk_180 0 20 (dk_at dksX4_town_7 10 rfl rfl)
theorem dX4_town_177 : decode cX4_town 177 = .ok (.iload_n 2, 1) := dk_28 (dk_at dksX4_town_7 13 rfl rfl)
theorem dX4_town_178 : decode cX4_town 178 = .ok (.aload_n 0, 1) := dk_42 (dk_at dksX4_town_7 14 rfl rfl)
theorem dX4_town_179 : decode cX4_town 179 = .ok (.getfield 17, 3) := dk_180 0 17 (dk_at dksX4_town_7 15 rfl rfl)
theorem dX4_town_182 : decode cX4_town 182 = .ok (.iload_n 2, 1) := dk_28 (dk_at dksX4_town_7 18 rfl rfl)
theorem dX4_town_183 : decode cX4_town 183 = .ok (.iaload, 1) := dk_46 (dk_at dksX4_town_7 19 rfl rfl)
theorem dX4_town_184 : decode cX4_town 184 = .ok (.iastore, 1) := dk_79 (dk_at dksX4_town_7 20 rfl rfl)
theorem dX4_town_185 : decode cX4_town 185 = .ok (.iinc 2 1, 3) := dk_132 2 1 (dk_at dksX4_town_7 21 rfl rfl)
theorem dX4_town_188 : decode cX4_town 188 = .ok (.goto (-20), 3) := dk_167 255 236 (dk_at dksX4_town_8 0 rfl rfl)
theorem dX4_town_191 : decode cX4_town 191 = .ok (.aload_n 0, 1) := dk_42 (dk_at dksX4_town_8 3 rfl rfl)
theorem dX4_town_192 : decode cX4_town 192 = .ok (.getfield 25, 3) := dk_180 0 25 (dk_at dksX4_town_8 4 rfl rfl)
theorem dX4_town_195 : decode cX4_town 195 = .ok (.aload_n 0, 1) := dk_42 (dk_at dksX4_town_8 7 rfl rfl)
theorem dX4_town_196 : decode cX4_town 196 = .ok (.getfield 28, 3) := dk_180 0 28 (dk_at dksX4_town_8 8 rfl rfl)
theorem dX4_town_199 : decode cX4_town 199 = .ok (.invokestatic 234, 3) := dk_184 0 234 (dk_at dksX4_town_8 11 rfl rfl)
theorem dX4_town_202 : decode cX4_town 202 = .ok (.aload_n 0, 1) := dk_42 (dk_at dksX4_town_8 14 rfl rfl)
theorem dX4_town_203 : decode cX4_town 203 = .ok (.getfield 31, 3) := dk_180 0 31 (dk_at dksX4_town_8 15 rfl rfl)
theorem dX4_town_206 : decode cX4_town 206 = .ok (.aload_n 0, 1) := dk_42 (dk_at dksX4_town_8 18 rfl rfl)
theorem dX4_town_207 : decode cX4_town 207 = .ok (.getfield 34, 3) := dk_180 0 34 (dk_at dksX4_town_8 19 rfl rfl)
theorem dX4_town_210 : decode cX4_town 210 = .ok (.invokestatic 234, 3) := dk_184 0 234 (dk_at dksX4_town_9 0 rfl rfl)
theorem dX4_town_213 : decode cX4_town 213 = .ok (.aload_n 0, 1) := dk_42 (dk_at dksX4_town_9 3 rfl rfl)
theorem dX4_town_214 : decode cX4_town 214 = .ok (.getfield 37, 3) := dk_180 0 37 (dk_at dksX4_town_9 4 rfl rfl)
theorem dX4_town_217 : decode cX4_town 217 = .ok (.aload_n 0, 1) := dk_42 (dk_at dksX4_town_9 7 rfl rfl)
theorem dX4_town_218 : decode cX4_town 218 = .ok (.getfield 40, 3) := dk_180 0 40 (dk_at dksX4_town_9 8 rfl rfl)
theorem dX4_town_221 : decode cX4_town 221 = .ok (.invokestatic 234, 3) := dk_184 0 234 (dk_at dksX4_town_9 11 rfl rfl)
theorem dX4_town_224 : decode cX4_town 224 = .ok (.aload_n 0, 1) := dk_42 (dk_at dksX4_town_9 14 rfl rfl)
theorem dX4_town_225 : decode cX4_town 225 = .ok (.iconst 0, 1) := dk_3 (dk_at dksX4_town_9 15 rfl rfl)
theorem dX4_town_226 : decode cX4_town 226 = .ok (.putfield 238, 3) := dk_181 0 238 (dk_at dksX4_town_9 16 rfl rfl)
theorem dX4_town_229 : decode cX4_town 229 = .ok (.iconst 0, 1) := dk_3 (dk_at dksX4_town_9 19 rfl rfl)
theorem dX4_town_230 : decode cX4_town 230 = .ok (.istore_n 2, 1) := dk_61 (dk_at dksX4_town_9 20 rfl rfl)
theorem dX4_town_231 : decode cX4_town 231 = .ok (.iload_n 2, 1) := dk_28 (dk_at dksX4_town_9 21 rfl rfl)
theorem dX4_town_232 : decode cX4_town 232 = .ok (.bipush 24, 2) := dk_16 24 (dk_at dksX4_town_9 22 rfl rfl)
theorem dX4_town_234 : decode cX4_town 234 = .ok (.if_icmp .ge 37, 3) := dk_162 0 37 (dk_at dksX4_town_10 0 rfl rfl)
theorem dX4_town_237 : decode cX4_town 237 = .ok (.aload_n 0, 1) := dk_42 (dk_at dksX4_town_10 3 rfl rfl)
theorem dX4_town_238 : decode cX4_town 238 = .ok (.getfield 49, 3) := dk_180 0 49 (dk_at dksX4_town_10 4 rfl rfl)
theorem dX4_town_241 : decode cX4_town 241 = .ok (.iconst 0, 1) := dk_3 (dk_at dksX4_town_10 7 rfl rfl)
theorem dX4_town_242 : decode cX4_town 242 = .ok (.aaload, 1) := dk_50 (dk_at dksX4_town_10 8 rfl rfl)
theorem dX4_town_243 : decode cX4_town 243 = .ok (.iload_n 2, 1) := dk_28 (dk_at dksX4_town_10 9 rfl rfl)
theorem dX4_town_244 : decode cX4_town 244 = .ok (.aload_n 0, 1) := dk_42 (dk_at dksX4_town_10 10 rfl rfl)
theorem dX4_town_245 : decode cX4_town 245 = .ok (.getfield 43, 3) := dk_180 0 43 (dk_at dksX4_town_10 11 rfl rfl)
theorem dX4_town_248 : decode cX4_town 248 = .ok (.iload_n 2, 1) := dk_28 (dk_at dksX4_town_10 14 rfl rfl)
theorem dX4_town_249 : decode cX4_town 249 = .ok (.iaload, 1) := dk_46 (dk_at dksX4_town_10 15 rfl rfl)
theorem dX4_town_250 : decode cX4_town 250 = .ok (.iastore, 1) := dk_79 (dk_at dksX4_town_10 16 rfl rfl)
theorem dX4_town_251 : decode cX4_town 251 = .ok (.aload_n 0, 1) := dk_42 (dk_at dksX4_town_10 17 rfl rfl)
theorem dX4_town_252 : decode cX4_town 252 = .ok (.getfield 52, 3) := dk_180 0 52 (dk_at dksX4_town_10 18 rfl rfl)
theorem dX4_town_255 : decode cX4_town 255 = .ok (.iconst 0, 1) := dk_3 (dk_at dksX4_town_10 21 rfl rfl)
theorem dX4_town_256 : decode cX4_town 256 = .ok (.aaload, 1) := dk_50 (dk_at dksX4_town_10 22 rfl rfl)
theorem dX4_town_257 : decode cX4_town 257 = .ok (.iload_n 2, 1) := dk_28 (dk_at dksX4_town_10 23 rfl rfl)
theorem dX4_town_258 : decode cX4_town 258 = .ok (.aload_n 0, 1) := dk_42 (dk_at dksX4_town_11 0 rfl rfl)
theorem dX4_town_259 : decode cX4_town 259 = .ok (.getfield 46, 3) := dk_180 0 46 (dk_at dksX4_town_11 1 rfl rfl)
theorem dX4_town_262 : decode cX4_town 262 = .ok (.iload_n 2, 1) := dk_28 (dk_at dksX4_town_11 4 rfl rfl)
theorem dX4_town_263 : decode cX4_town 263 = .ok (.iaload, 1) := dk_46 (dk_at dksX4_town_11 5 rfl rfl)
theorem dX4_town_264 : decode cX4_town 264 = .ok (.iastore, 1) := dk_79 (dk_at dksX4_town_11 6 rfl rfl)
theorem dX4_town_265 : decode cX4_town 265 = .ok (.iinc 2 1, 3) := dk_132 2 1 (dk_at dksX4_town_11 7 rfl rfl)
theorem dX4_town_268 : decode cX4_town 268 = .ok (.goto (-37), 3) := dk_167 255 219 (dk_at dksX4_town_11 10 rfl rfl)
theorem dX4_town_271 : decode cX4_town 271 = .ok (.aload_n 0, 1) := dk_42 (dk_at dksX4_town_11 13 rfl rfl)
theorem dX4_town_272 : decode cX4_town 272 = .ok (.iconst 0, 1) := dk_3 (dk_at dksX4_town_11 14 rfl rfl)
theorem dX4_town_273 : decode cX4_town 273 = .ok (.putfield 241, 3) := dk_181 0 241 (dk_at dksX4_town_11 15 rfl rfl)
theorem dX4_town_276 : decode cX4_town 276 = .ok (.aload_n 0, 1) := dk_42 (dk_at dksX4_town_11 18 rfl rfl)
theorem dX4_town_277 : decode cX4_town 277 = .ok (.iconst 0, 1) := dk_3 (dk_at dksX4_town_11 19 rfl rfl)
theorem dX4_town_278 : decode cX4_town 278 = .ok (.putfield 244, 3) := dk_181 0 244 (dk_at dksX4_town_11 20 rfl rfl)
theorem dX4_town_281 : decode cX4_town 281 = .ok (.aload_n 0, 1) := dk_42 (dk_at dksX4_town_11 23 rfl rfl)
theorem dX4_town_282 : decode cX4_town 282 = .ok (.invokevirtual 247, 3) := dk_182 0 247 (dk_at dksX4_town_12 0 rfl rfl)
theorem dX4_town_285 : decode cX4_town 285 = .ok (.aload_n 0, 1) := dk_42 (dk_at dksX4_town_12 3 rfl rfl)
theorem dX4_town_286 : decode cX4_town 286 = .ok (.getfield 20, 3) := dk_180 0 20 (dk_at dksX4_town_12 4 rfl rfl)
theorem dX4_town_289 : decode cX4_town 289 = .ok (.iconst 0, 1) := dk_3 (dk_at dksX4_town_12 7 rfl rfl)
theorem dX4_town_290 : decode cX4_town 290 = .ok (.iaload, 1) := dk_46 (dk_at dksX4_town_12 8 rfl rfl)
theorem dX4_town_291 : decode cX4_town 291 = .ok (.ireturn, 1) := dk_172 (dk_at dksX4_town_12 9 rfl rfl)
abbrev cX4_in : ByteArray := prog_10_method_4_code
def yX4_in : MethodName := ⟨RX4, "in", "(III)Z"⟩
def dkwX4_in_0 : List UInt8 := [26, 27, 161, 0, 12, 26, 28, 163, 0, 7, 4, 167, 0, 4, 3, 172]
abbrev dktX4_in_0 : List UInt8 := dkwX4_in_0 ++ []
theorem dksX4_in_0 : cX4_in.data.toList.drop 0 = dktX4_in_0 := by decide +kernel
theorem dX4_in_0 : decode cX4_in 0 = .ok (.iload_n 0, 1) := dk_26 (dk_at dksX4_in_0 0 rfl rfl)
theorem dX4_in_1 : decode cX4_in 1 = .ok (.iload_n 1, 1) := dk_27 (dk_at dksX4_in_0 1 rfl rfl)
theorem dX4_in_2 : decode cX4_in 2 = .ok (.if_icmp .lt 12, 3) := dk_161 0 12 (dk_at dksX4_in_0 2 rfl rfl)
theorem dX4_in_5 : decode cX4_in 5 = .ok (.iload_n 0, 1) := dk_26 (dk_at dksX4_in_0 5 rfl rfl)
theorem dX4_in_6 : decode cX4_in 6 = .ok (.iload_n 2, 1) := dk_28 (dk_at dksX4_in_0 6 rfl rfl)
theorem dX4_in_7 : decode cX4_in 7 = .ok (.if_icmp .gt 7, 3) := dk_163 0 7 (dk_at dksX4_in_0 7 rfl rfl)
theorem dX4_in_10 : decode cX4_in 10 = .ok (.iconst 1, 1) := dk_4 (dk_at dksX4_in_0 10 rfl rfl)
theorem dX4_in_11 : decode cX4_in 11 = .ok (.goto 4, 3) := dk_167 0 4 (dk_at dksX4_in_0 11 rfl rfl)
theorem dX4_in_14 : decode cX4_in 14 = .ok (.iconst 0, 1) := dk_3 (dk_at dksX4_in_0 14 rfl rfl)
theorem dX4_in_15 : decode cX4_in 15 = .ok (.ireturn, 1) := dk_172 (dk_at dksX4_in_0 15 rfl rfl)
abbrev cX4_bad : ByteArray := prog_10_method_3_code
def yX4_bad : MethodName := ⟨RX4, "bad", "(ZI)Z"⟩
def dkwX4_bad_1 : List UInt8 := [167, 0, 4, 3, 172]
abbrev dktX4_bad_1 : List UInt8 := dkwX4_bad_1 ++ []
def dkwX4_bad_0 : List UInt8 := [27, 153, 0, 15, 42, 180, 0, 131, 154, 0, 8, 42, 28, 181, 0, 131, 42, 180, 0, 131, 153, 0, 7, 4]
abbrev dktX4_bad_0 : List UInt8 := dkwX4_bad_0 ++ dktX4_bad_1
theorem dksX4_bad_0 : cX4_bad.data.toList.drop 0 = dktX4_bad_0 := by decide +kernel
theorem dksX4_bad_1 : cX4_bad.data.toList.drop 24 = dktX4_bad_1 := dk_seg dksX4_bad_0 24 rfl rfl
theorem dX4_bad_0 : decode cX4_bad 0 = .ok (.iload_n 1, 1) := dk_27 (dk_at dksX4_bad_0 0 rfl rfl)
theorem dX4_bad_1 : decode cX4_bad 1 = .ok (.ifCond .eq 15, 3) := dk_153 0 15 (dk_at dksX4_bad_0 1 rfl rfl)
theorem dX4_bad_4 : decode cX4_bad 4 = .ok (.aload_n 0, 1) := dk_42 (dk_at dksX4_bad_0 4 rfl rfl)
theorem dX4_bad_5 : decode cX4_bad 5 = .ok (.getfield 131, 3) := dk_180 0 131 (dk_at dksX4_bad_0 5 rfl rfl)
theorem dX4_bad_8 : decode cX4_bad 8 = .ok (.ifCond .ne 8, 3) := dk_154 0 8 (dk_at dksX4_bad_0 8 rfl rfl)
theorem dX4_bad_11 : decode cX4_bad 11 = .ok (.aload_n 0, 1) := dk_42 (dk_at dksX4_bad_0 11 rfl rfl)
theorem dX4_bad_12 : decode cX4_bad 12 = .ok (.iload_n 2, 1) := dk_28 (dk_at dksX4_bad_0 12 rfl rfl)
theorem dX4_bad_13 : decode cX4_bad 13 = .ok (.putfield 131, 3) := dk_181 0 131 (dk_at dksX4_bad_0 13 rfl rfl)
theorem dX4_bad_16 : decode cX4_bad 16 = .ok (.aload_n 0, 1) := dk_42 (dk_at dksX4_bad_0 16 rfl rfl)
theorem dX4_bad_17 : decode cX4_bad 17 = .ok (.getfield 131, 3) := dk_180 0 131 (dk_at dksX4_bad_0 17 rfl rfl)
theorem dX4_bad_20 : decode cX4_bad 20 = .ok (.ifCond .eq 7, 3) := dk_153 0 7 (dk_at dksX4_bad_0 20 rfl rfl)
theorem dX4_bad_23 : decode cX4_bad 23 = .ok (.iconst 1, 1) := dk_4 (dk_at dksX4_bad_0 23 rfl rfl)
theorem dX4_bad_24 : decode cX4_bad 24 = .ok (.goto 4, 3) := dk_167 0 4 (dk_at dksX4_bad_1 0 rfl rfl)
theorem dX4_bad_27 : decode cX4_bad 27 = .ok (.iconst 0, 1) := dk_3 (dk_at dksX4_bad_1 3 rfl rfl)
theorem dX4_bad_28 : decode cX4_bad 28 = .ok (.ireturn, 1) := dk_172 (dk_at dksX4_bad_1 4 rfl rfl)
abbrev cX4_blanks : ByteArray := prog_10_method_7_code
def yX4_blanks : MethodName := ⟨RX4, "blanks", "()V"⟩
def dkwX4_blanks_1 : List UInt8 := [167, 255, 233, 177]
abbrev dktX4_blanks_1 : List UInt8 := dkwX4_blanks_1 ++ []
def dkwX4_blanks_0 : List UInt8 := [42, 42, 180, 0, 140, 182, 0, 143, 16, 32, 160, 0, 16, 42, 89, 180, 0, 140, 4, 96, 181, 0, 140]
abbrev dktX4_blanks_0 : List UInt8 := dkwX4_blanks_0 ++ dktX4_blanks_1
theorem dksX4_blanks_0 : cX4_blanks.data.toList.drop 0 = dktX4_blanks_0 := by decide +kernel
theorem dksX4_blanks_1 : cX4_blanks.data.toList.drop 23 = dktX4_blanks_1 := dk_seg dksX4_blanks_0 23 rfl rfl
theorem dX4_blanks_0 : decode cX4_blanks 0 = .ok (.aload_n 0, 1) := dk_42 (dk_at dksX4_blanks_0 0 rfl rfl)
theorem dX4_blanks_1 : decode cX4_blanks 1 = .ok (.aload_n 0, 1) := dk_42 (dk_at dksX4_blanks_0 1 rfl rfl)
theorem dX4_blanks_2 : decode cX4_blanks 2 = .ok (.getfield 140, 3) := dk_180 0 140 (dk_at dksX4_blanks_0 2 rfl rfl)
theorem dX4_blanks_5 : decode cX4_blanks 5 = .ok (.invokevirtual 143, 3) := dk_182 0 143 (dk_at dksX4_blanks_0 5 rfl rfl)
theorem dX4_blanks_8 : decode cX4_blanks 8 = .ok (.bipush 32, 2) := dk_16 32 (dk_at dksX4_blanks_0 8 rfl rfl)
theorem dX4_blanks_10 : decode cX4_blanks 10 = .ok (.if_icmp .ne 16, 3) := dk_160 0 16 (dk_at dksX4_blanks_0 10 rfl rfl)
theorem dX4_blanks_13 : decode cX4_blanks 13 = .ok (.aload_n 0, 1) := dk_42 (dk_at dksX4_blanks_0 13 rfl rfl)
theorem dX4_blanks_14 : decode cX4_blanks 14 = .ok (.dup, 1) := dk_89 (dk_at dksX4_blanks_0 14 rfl rfl)
theorem dX4_blanks_15 : decode cX4_blanks 15 = .ok (.getfield 140, 3) := dk_180 0 140 (dk_at dksX4_blanks_0 15 rfl rfl)
theorem dX4_blanks_18 : decode cX4_blanks 18 = .ok (.iconst 1, 1) := dk_4 (dk_at dksX4_blanks_0 18 rfl rfl)
theorem dX4_blanks_19 : decode cX4_blanks 19 = .ok (.iadd, 1) := dk_96 (dk_at dksX4_blanks_0 19 rfl rfl)
theorem dX4_blanks_20 : decode cX4_blanks 20 = .ok (.putfield 140, 3) := dk_181 0 140 (dk_at dksX4_blanks_0 20 rfl rfl)
theorem dX4_blanks_23 : decode cX4_blanks 23 = .ok (.goto (-23), 3) := dk_167 255 233 (dk_at dksX4_blanks_1 0 rfl rfl)
theorem dX4_blanks_26 : decode cX4_blanks 26 = .ok (.return_, 1) := dk_177 (dk_at dksX4_blanks_1 3 rfl rfl)
abbrev cX4_byteAt : ByteArray := prog_10_method_6_code
def yX4_byteAt : MethodName := ⟨RX4, "byteAt", "(I)I"⟩
def dkwX4_byteAt_0 : List UInt8 := [27, 42, 180, 0, 137, 161, 0, 7, 2, 167, 0, 9, 42, 180, 0, 13, 27, 46, 172]
abbrev dktX4_byteAt_0 : List UInt8 := dkwX4_byteAt_0 ++ []
theorem dksX4_byteAt_0 : cX4_byteAt.data.toList.drop 0 = dktX4_byteAt_0 := by decide +kernel
theorem dX4_byteAt_0 : decode cX4_byteAt 0 = .ok (.iload_n 1, 1) := dk_27 (dk_at dksX4_byteAt_0 0 rfl rfl)
theorem dX4_byteAt_1 : decode cX4_byteAt 1 = .ok (.aload_n 0, 1) := dk_42 (dk_at dksX4_byteAt_0 1 rfl rfl)
theorem dX4_byteAt_2 : decode cX4_byteAt 2 = .ok (.getfield 137, 3) := dk_180 0 137 (dk_at dksX4_byteAt_0 2 rfl rfl)
theorem dX4_byteAt_5 : decode cX4_byteAt 5 = .ok (.if_icmp .lt 7, 3) := dk_161 0 7 (dk_at dksX4_byteAt_0 5 rfl rfl)
theorem dX4_byteAt_8 : decode cX4_byteAt 8 = .ok (.iconst (-1), 1) := dk_2 (dk_at dksX4_byteAt_0 8 rfl rfl)
theorem dX4_byteAt_9 : decode cX4_byteAt 9 = .ok (.goto 9, 3) := dk_167 0 9 (dk_at dksX4_byteAt_0 9 rfl rfl)
theorem dX4_byteAt_12 : decode cX4_byteAt 12 = .ok (.aload_n 0, 1) := dk_42 (dk_at dksX4_byteAt_0 12 rfl rfl)
theorem dX4_byteAt_13 : decode cX4_byteAt 13 = .ok (.getfield 13, 3) := dk_180 0 13 (dk_at dksX4_byteAt_0 13 rfl rfl)
theorem dX4_byteAt_16 : decode cX4_byteAt 16 = .ok (.iload_n 1, 1) := dk_27 (dk_at dksX4_byteAt_0 16 rfl rfl)
theorem dX4_byteAt_17 : decode cX4_byteAt 17 = .ok (.iaload, 1) := dk_46 (dk_at dksX4_byteAt_0 17 rfl rfl)
theorem dX4_byteAt_18 : decode cX4_byteAt 18 = .ok (.ireturn, 1) := dk_172 (dk_at dksX4_byteAt_0 18 rfl rfl)
abbrev cX4_clause : ByteArray := prog_10_method_18_code
def yX4_clause : MethodName := ⟨RX4, "clause", "()V"⟩
def dkwX4_clause_9 : List UInt8 := [182, 0, 212, 177]
abbrev dktX4_clause_9 : List UInt8 := dkwX4_clause_9 ++ []
def dkwX4_clause_8 : List UInt8 := [167, 0, 19, 27, 8, 160, 0, 10, 42, 182, 0, 206, 167, 0, 7, 42, 182, 0, 209, 42, 16, 59]
abbrev dktX4_clause_8 : List UInt8 := dkwX4_clause_8 ++ dktX4_clause_9
def dkwX4_clause_7 : List UInt8 := [162, 0, 26, 42, 27, 6, 160, 0, 10, 42, 180, 0, 43, 167, 0, 7, 42, 180, 0, 46, 182, 0, 202]
abbrev dktX4_clause_7 : List UInt8 := dkwX4_clause_7 ++ dktX4_clause_8
def dkwX4_clause_6 : List UInt8 := [160, 0, 10, 42, 182, 0, 196, 167, 0, 59, 27, 5, 160, 0, 10, 42, 182, 0, 199, 167, 0, 47, 27, 8]
abbrev dktX4_clause_6 : List UInt8 := dkwX4_clause_6 ++ dktX4_clause_7
def dkwX4_clause_5 : List UInt8 := [42, 89, 180, 0, 184, 4, 96, 181, 0, 184, 27, 154, 0, 10, 42, 182, 0, 193, 167, 0, 71, 27, 4]
abbrev dktX4_clause_5 : List UInt8 := dkwX4_clause_5 ++ dktX4_clause_6
def dkwX4_clause_4 : List UInt8 := [160, 0, 12, 42, 6, 42, 180, 0, 140, 182, 0, 160, 42, 180, 0, 147, 153, 0, 4, 177, 42, 182, 0, 190]
abbrev dktX4_clause_4 : List UInt8 := dkwX4_clause_4 ++ dktX4_clause_5
def dkwX4_clause_3 : List UInt8 := [5, 46, 184, 0, 187, 16, 10, 159, 0, 20, 27, 16, 6, 160, 0, 23, 42, 180, 0, 17, 6, 46, 16, 12]
abbrev dktX4_clause_3 : List UInt8 := dkwX4_clause_3 ++ dktX4_clause_4
def dkwX4_clause_2 : List UInt8 := [4, 160, 0, 14, 42, 180, 0, 17, 4, 46, 16, 24, 159, 0, 39, 27, 8, 160, 0, 17, 42, 180, 0, 17]
abbrev dktX4_clause_2 : List UInt8 := dkwX4_clause_2 ++ dktX4_clause_3
def dkwX4_clause_1 : List UInt8 := [180, 0, 184, 16, 60, 159, 0, 70, 27, 154, 0, 14, 42, 180, 0, 17, 3, 46, 16, 16, 159, 0, 55, 27]
abbrev dktX4_clause_1 : List UInt8 := dkwX4_clause_1 ++ dktX4_clause_2
def dkwX4_clause_0 : List UInt8 := [42, 182, 0, 181, 60, 27, 2, 160, 0, 15, 42, 4, 42, 180, 0, 140, 182, 0, 160, 167, 0, 88, 42]
abbrev dktX4_clause_0 : List UInt8 := dkwX4_clause_0 ++ dktX4_clause_1
theorem dksX4_clause_0 : cX4_clause.data.toList.drop 0 = dktX4_clause_0 := by decide +kernel
theorem dksX4_clause_1 : cX4_clause.data.toList.drop 23 = dktX4_clause_1 := dk_seg dksX4_clause_0 23 rfl rfl
theorem dksX4_clause_2 : cX4_clause.data.toList.drop 47 = dktX4_clause_2 := dk_seg dksX4_clause_1 24 rfl rfl
theorem dksX4_clause_3 : cX4_clause.data.toList.drop 71 = dktX4_clause_3 := dk_seg dksX4_clause_2 24 rfl rfl
theorem dksX4_clause_4 : cX4_clause.data.toList.drop 95 = dktX4_clause_4 := dk_seg dksX4_clause_3 24 rfl rfl
theorem dksX4_clause_5 : cX4_clause.data.toList.drop 119 = dktX4_clause_5 := dk_seg dksX4_clause_4 24 rfl rfl
theorem dksX4_clause_6 : cX4_clause.data.toList.drop 142 = dktX4_clause_6 := dk_seg dksX4_clause_5 23 rfl rfl
theorem dksX4_clause_7 : cX4_clause.data.toList.drop 166 = dktX4_clause_7 := dk_seg dksX4_clause_6 24 rfl rfl
theorem dksX4_clause_8 : cX4_clause.data.toList.drop 189 = dktX4_clause_8 := dk_seg dksX4_clause_7 23 rfl rfl
theorem dksX4_clause_9 : cX4_clause.data.toList.drop 211 = dktX4_clause_9 := dk_seg dksX4_clause_8 22 rfl rfl
theorem dX4_clause_0 : decode cX4_clause 0 = .ok (.aload_n 0, 1) := dk_42 (dk_at dksX4_clause_0 0 rfl rfl)
theorem dX4_clause_1 : decode cX4_clause 1 = .ok (.invokevirtual 181, 3) := dk_182 0 181 (dk_at dksX4_clause_0 1 rfl rfl)
theorem dX4_clause_4 : decode cX4_clause 4 = .ok (.istore_n 1, 1) := dk_60 (dk_at dksX4_clause_0 4 rfl rfl)
theorem dX4_clause_5 : decode cX4_clause 5 = .ok (.iload_n 1, 1) := dk_27 (dk_at dksX4_clause_0 5 rfl rfl)
theorem dX4_clause_6 : decode cX4_clause 6 = .ok (.iconst (-1), 1) := dk_2 (dk_at dksX4_clause_0 6 rfl rfl)
theorem dX4_clause_7 : decode cX4_clause 7 = .ok (.if_icmp .ne 15, 3) := dk_160 0 15 (dk_at dksX4_clause_0 7 rfl rfl)
theorem dX4_clause_10 : decode cX4_clause 10 = .ok (.aload_n 0, 1) := dk_42 (dk_at dksX4_clause_0 10 rfl rfl)
theorem dX4_clause_11 : decode cX4_clause 11 = .ok (.iconst 1, 1) := dk_4 (dk_at dksX4_clause_0 11 rfl rfl)
theorem dX4_clause_12 : decode cX4_clause 12 = .ok (.aload_n 0, 1) := dk_42 (dk_at dksX4_clause_0 12 rfl rfl)
theorem dX4_clause_13 : decode cX4_clause 13 = .ok (.getfield 140, 3) := dk_180 0 140 (dk_at dksX4_clause_0 13 rfl rfl)
theorem dX4_clause_16 : decode cX4_clause 16 = .ok (.invokevirtual 160, 3) := dk_182 0 160 (dk_at dksX4_clause_0 16 rfl rfl)
theorem dX4_clause_19 : decode cX4_clause 19 = .ok (.goto 88, 3) := dk_167 0 88 (dk_at dksX4_clause_0 19 rfl rfl)
theorem dX4_clause_22 : decode cX4_clause 22 = .ok (.aload_n 0, 1) := dk_42 (dk_at dksX4_clause_0 22 rfl rfl)
theorem dX4_clause_23 : decode cX4_clause 23 = .ok (.getfield 184, 3) := dk_180 0 184 (dk_at dksX4_clause_1 0 rfl rfl)
theorem dX4_clause_26 : decode cX4_clause 26 = .ok (.bipush 60, 2) := dk_16 60 (dk_at dksX4_clause_1 3 rfl rfl)
theorem dX4_clause_28 : decode cX4_clause 28 = .ok (.if_icmp .eq 70, 3) := dk_159 0 70 (dk_at dksX4_clause_1 5 rfl rfl)
theorem dX4_clause_31 : decode cX4_clause 31 = .ok (.iload_n 1, 1) := dk_27 (dk_at dksX4_clause_1 8 rfl rfl)
theorem dX4_clause_32 : decode cX4_clause 32 = .ok (.ifCond .ne 14, 3) := dk_154 0 14 (dk_at dksX4_clause_1 9 rfl rfl)
theorem dX4_clause_35 : decode cX4_clause 35 = .ok (.aload_n 0, 1) := dk_42 (dk_at dksX4_clause_1 12 rfl rfl)
theorem dX4_clause_36 : decode cX4_clause 36 = .ok (.getfield 17, 3) := dk_180 0 17 (dk_at dksX4_clause_1 13 rfl rfl)
theorem dX4_clause_39 : decode cX4_clause 39 = .ok (.iconst 0, 1) := dk_3 (dk_at dksX4_clause_1 16 rfl rfl)
theorem dX4_clause_40 : decode cX4_clause 40 = .ok (.iaload, 1) := dk_46 (dk_at dksX4_clause_1 17 rfl rfl)
theorem dX4_clause_41 : decode cX4_clause 41 = .ok (.bipush 16, 2) := dk_16 16 (dk_at dksX4_clause_1 18 rfl rfl)
theorem dX4_clause_43 : decode cX4_clause 43 = .ok (.if_icmp .eq 55, 3) := dk_159 0 55 (dk_at dksX4_clause_1 20 rfl rfl)
theorem dX4_clause_46 : decode cX4_clause 46 = .ok (.iload_n 1, 1) := dk_27 (dk_at dksX4_clause_1 23 rfl rfl)
theorem dX4_clause_47 : decode cX4_clause 47 = .ok (.iconst 1, 1) := dk_4 (dk_at dksX4_clause_2 0 rfl rfl)
theorem dX4_clause_48 : decode cX4_clause 48 = .ok (.if_icmp .ne 14, 3) := dk_160 0 14 (dk_at dksX4_clause_2 1 rfl rfl)
theorem dX4_clause_51 : decode cX4_clause 51 = .ok (.aload_n 0, 1) := dk_42 (dk_at dksX4_clause_2 4 rfl rfl)
theorem dX4_clause_52 : decode cX4_clause 52 = .ok (.getfield 17, 3) := dk_180 0 17 (dk_at dksX4_clause_2 5 rfl rfl)
theorem dX4_clause_55 : decode cX4_clause 55 = .ok (.iconst 1, 1) := dk_4 (dk_at dksX4_clause_2 8 rfl rfl)
theorem dX4_clause_56 : decode cX4_clause 56 = .ok (.iaload, 1) := dk_46 (dk_at dksX4_clause_2 9 rfl rfl)
theorem dX4_clause_57 : decode cX4_clause 57 = .ok (.bipush 24, 2) := dk_16 24 (dk_at dksX4_clause_2 10 rfl rfl)
theorem dX4_clause_59 : decode cX4_clause 59 = .ok (.if_icmp .eq 39, 3) := dk_159 0 39 (dk_at dksX4_clause_2 12 rfl rfl)
theorem dX4_clause_62 : decode cX4_clause 62 = .ok (.iload_n 1, 1) := dk_27 (dk_at dksX4_clause_2 15 rfl rfl)
theorem dX4_clause_63 : decode cX4_clause 63 = .ok (.iconst 5, 1) := dk_8 (dk_at dksX4_clause_2 16 rfl rfl)
theorem dX4_clause_64 : decode cX4_clause 64 = .ok (.if_icmp .ne 17, 3) := dk_160 0 17 (dk_at dksX4_clause_2 17 rfl rfl)
theorem dX4_clause_67 : decode cX4_clause 67 = .ok (.aload_n 0, 1) := dk_42 (dk_at dksX4_clause_2 20 rfl rfl)
theorem dX4_clause_68 : decode cX4_clause 68 = .ok (.getfield 17, 3) := dk_180 0 17 (dk_at dksX4_clause_2 21 rfl rfl)
theorem dX4_clause_71 : decode cX4_clause 71 = .ok (.iconst 2, 1) := dk_5 (dk_at dksX4_clause_3 0 rfl rfl)
theorem dX4_clause_72 : decode cX4_clause 72 = .ok (.iaload, 1) := dk_46 (dk_at dksX4_clause_3 1 rfl rfl)
theorem dX4_clause_73 : decode cX4_clause 73 = .ok (.invokestatic 187, 3) := dk_184 0 187 (dk_at dksX4_clause_3 2 rfl rfl)
theorem dX4_clause_76 : decode cX4_clause 76 = .ok (.bipush 10, 2) := dk_16 10 (dk_at dksX4_clause_3 5 rfl rfl)
theorem dX4_clause_78 : decode cX4_clause 78 = .ok (.if_icmp .eq 20, 3) := dk_159 0 20 (dk_at dksX4_clause_3 7 rfl rfl)
theorem dX4_clause_81 : decode cX4_clause 81 = .ok (.iload_n 1, 1) := dk_27 (dk_at dksX4_clause_3 10 rfl rfl)
theorem dX4_clause_82 : decode cX4_clause 82 = .ok (.bipush 6, 2) := dk_16 6 (dk_at dksX4_clause_3 11 rfl rfl)
theorem dX4_clause_84 : decode cX4_clause 84 = .ok (.if_icmp .ne 23, 3) := dk_160 0 23 (dk_at dksX4_clause_3 13 rfl rfl)
theorem dX4_clause_87 : decode cX4_clause 87 = .ok (.aload_n 0, 1) := dk_42 (dk_at dksX4_clause_3 16 rfl rfl)
theorem dX4_clause_88 : decode cX4_clause 88 = .ok (.getfield 17, 3) := dk_180 0 17 (dk_at dksX4_clause_3 17 rfl rfl)
theorem dX4_clause_91 : decode cX4_clause 91 = .ok (.iconst 3, 1) := dk_6 (dk_at dksX4_clause_3 20 rfl rfl)
theorem dX4_clause_92 : decode cX4_clause 92 = .ok (.iaload, 1) := dk_46 (dk_at dksX4_clause_3 21 rfl rfl)
theorem dX4_clause_93 : decode cX4_clause 93 = .ok (.bipush 12, 2) := dk_16 12 (dk_at dksX4_clause_3 22 rfl rfl)
theorem dX4_clause_95 : decode cX4_clause 95 = .ok (.if_icmp .ne 12, 3) := dk_160 0 12 (dk_at dksX4_clause_4 0 rfl rfl)
theorem dX4_clause_98 : decode cX4_clause 98 = .ok (.aload_n 0, 1) := dk_42 (dk_at dksX4_clause_4 3 rfl rfl)
theorem dX4_clause_99 : decode cX4_clause 99 = .ok (.iconst 3, 1) := dk_6 (dk_at dksX4_clause_4 4 rfl rfl)
theorem dX4_clause_100 : decode cX4_clause 100 = .ok (.aload_n 0, 1) := dk_42 (dk_at dksX4_clause_4 5 rfl rfl)
theorem dX4_clause_101 : decode cX4_clause 101 = .ok (.getfield 140, 3) := dk_180 0 140 (dk_at dksX4_clause_4 6 rfl rfl)
theorem dX4_clause_104 : decode cX4_clause 104 = .ok (.invokevirtual 160, 3) := dk_182 0 160 (dk_at dksX4_clause_4 9 rfl rfl)
theorem dX4_clause_107 : decode cX4_clause 107 = .ok (.aload_n 0, 1) := dk_42 (dk_at dksX4_clause_4 12 rfl rfl)
theorem dX4_clause_108 : decode cX4_clause 108 = .ok (.getfield 147, 3) := dk_180 0 147 (dk_at dksX4_clause_4 13 rfl rfl)
theorem dX4_clause_111 : decode cX4_clause 111 = .ok (.ifCond .eq 4, 3) := dk_153 0 4 (dk_at dksX4_clause_4 16 rfl rfl)
theorem dX4_clause_114 : decode cX4_clause 114 = .ok (.return_, 1) := dk_177 (dk_at dksX4_clause_4 19 rfl rfl)
theorem dX4_clause_115 : decode cX4_clause 115 = .ok (.aload_n 0, 1) := dk_42 (dk_at dksX4_clause_4 20 rfl rfl)
theorem dX4_clause_116 : decode cX4_clause 116 = .ok (.invokevirtual 190, 3) := dk_182 0 190 (dk_at dksX4_clause_4 21 rfl rfl)
theorem dX4_clause_119 : decode cX4_clause 119 = .ok (.aload_n 0, 1) := dk_42 (dk_at dksX4_clause_5 0 rfl rfl)
theorem dX4_clause_120 : decode cX4_clause 120 = .ok (.dup, 1) := dk_89 (dk_at dksX4_clause_5 1 rfl rfl)
theorem dX4_clause_121 : decode cX4_clause 121 = .ok (.getfield 184, 3) := dk_180 0 184 (dk_at dksX4_clause_5 2 rfl rfl)
theorem dX4_clause_124 : decode cX4_clause 124 = .ok (.iconst 1, 1) := dk_4 (dk_at dksX4_clause_5 5 rfl rfl)
theorem dX4_clause_125 : decode cX4_clause 125 = .ok (.iadd, 1) := dk_96 (dk_at dksX4_clause_5 6 rfl rfl)
theorem dX4_clause_126 : decode cX4_clause 126 = .ok (.putfield 184, 3) := dk_181 0 184 (dk_at dksX4_clause_5 7 rfl rfl)
theorem dX4_clause_129 : decode cX4_clause 129 = .ok (.iload_n 1, 1) := dk_27 (dk_at dksX4_clause_5 10 rfl rfl)
theorem dX4_clause_130 : decode cX4_clause 130 = .ok (.ifCond .ne 10, 3) := dk_154 0 10 (dk_at dksX4_clause_5 11 rfl rfl)
theorem dX4_clause_133 : decode cX4_clause 133 = .ok (.aload_n 0, 1) := dk_42 (dk_at dksX4_clause_5 14 rfl rfl)
theorem dX4_clause_134 : decode cX4_clause 134 = .ok (.invokevirtual 193, 3) := dk_182 0 193 (dk_at dksX4_clause_5 15 rfl rfl)
theorem dX4_clause_137 : decode cX4_clause 137 = .ok (.goto 71, 3) := dk_167 0 71 (dk_at dksX4_clause_5 18 rfl rfl)
theorem dX4_clause_140 : decode cX4_clause 140 = .ok (.iload_n 1, 1) := dk_27 (dk_at dksX4_clause_5 21 rfl rfl)
theorem dX4_clause_141 : decode cX4_clause 141 = .ok (.iconst 1, 1) := dk_4 (dk_at dksX4_clause_5 22 rfl rfl)
theorem dX4_clause_142 : decode cX4_clause 142 = .ok (.if_icmp .ne 10, 3) := dk_160 0 10 (dk_at dksX4_clause_6 0 rfl rfl)
theorem dX4_clause_145 : decode cX4_clause 145 = .ok (.aload_n 0, 1) := dk_42 (dk_at dksX4_clause_6 3 rfl rfl)
theorem dX4_clause_146 : decode cX4_clause 146 = .ok (.invokevirtual 196, 3) := dk_182 0 196 (dk_at dksX4_clause_6 4 rfl rfl)
theorem dX4_clause_149 : decode cX4_clause 149 = .ok (.goto 59, 3) := dk_167 0 59 (dk_at dksX4_clause_6 7 rfl rfl)
theorem dX4_clause_152 : decode cX4_clause 152 = .ok (.iload_n 1, 1) := dk_27 (dk_at dksX4_clause_6 10 rfl rfl)
theorem dX4_clause_153 : decode cX4_clause 153 = .ok (.iconst 2, 1) := dk_5 (dk_at dksX4_clause_6 11 rfl rfl)
theorem dX4_clause_154 : decode cX4_clause 154 = .ok (.if_icmp .ne 10, 3) := dk_160 0 10 (dk_at dksX4_clause_6 12 rfl rfl)
theorem dX4_clause_157 : decode cX4_clause 157 = .ok (.aload_n 0, 1) := dk_42 (dk_at dksX4_clause_6 15 rfl rfl)
theorem dX4_clause_158 : decode cX4_clause 158 = .ok (.invokevirtual 199, 3) := dk_182 0 199 (dk_at dksX4_clause_6 16 rfl rfl)
theorem dX4_clause_161 : decode cX4_clause 161 = .ok (.goto 47, 3) := dk_167 0 47 (dk_at dksX4_clause_6 19 rfl rfl)
theorem dX4_clause_164 : decode cX4_clause 164 = .ok (.iload_n 1, 1) := dk_27 (dk_at dksX4_clause_6 22 rfl rfl)
theorem dX4_clause_165 : decode cX4_clause 165 = .ok (.iconst 5, 1) := dk_8 (dk_at dksX4_clause_6 23 rfl rfl)
theorem dX4_clause_166 : decode cX4_clause 166 = .ok (.if_icmp .ge 26, 3) := dk_162 0 26 (dk_at dksX4_clause_7 0 rfl rfl)
theorem dX4_clause_169 : decode cX4_clause 169 = .ok (.aload_n 0, 1) := dk_42 (dk_at dksX4_clause_7 3 rfl rfl)
theorem dX4_clause_170 : decode cX4_clause 170 = .ok (.iload_n 1, 1) := dk_27 (dk_at dksX4_clause_7 4 rfl rfl)
theorem dX4_clause_171 : decode cX4_clause 171 = .ok (.iconst 3, 1) := dk_6 (dk_at dksX4_clause_7 5 rfl rfl)
theorem dX4_clause_172 : decode cX4_clause 172 = .ok (.if_icmp .ne 10, 3) := dk_160 0 10 (dk_at dksX4_clause_7 6 rfl rfl)
theorem dX4_clause_175 : decode cX4_clause 175 = .ok (.aload_n 0, 1) := dk_42 (dk_at dksX4_clause_7 9 rfl rfl)
theorem dX4_clause_176 : decode cX4_clause 176 = .ok (.getfield 43, 3) := dk_180 0 43 (dk_at dksX4_clause_7 10 rfl rfl)
theorem dX4_clause_179 : decode cX4_clause 179 = .ok (.goto 7, 3) := dk_167 0 7 (dk_at dksX4_clause_7 13 rfl rfl)
theorem dX4_clause_182 : decode cX4_clause 182 = .ok (.aload_n 0, 1) := dk_42 (dk_at dksX4_clause_7 16 rfl rfl)
theorem dX4_clause_183 : decode cX4_clause 183 = .ok (.getfield 46, 3) := dk_180 0 46 (dk_at dksX4_clause_7 17 rfl rfl)
theorem dX4_clause_186 : decode cX4_clause 186 = .ok (.invokevirtual 202, 3) := dk_182 0 202 (dk_at dksX4_clause_7 20 rfl rfl)
theorem dX4_clause_189 : decode cX4_clause 189 = .ok (.goto 19, 3) := dk_167 0 19 (dk_at dksX4_clause_8 0 rfl rfl)
theorem dX4_clause_192 : decode cX4_clause 192 = .ok (.iload_n 1, 1) := dk_27 (dk_at dksX4_clause_8 3 rfl rfl)
theorem dX4_clause_193 : decode cX4_clause 193 = .ok (.iconst 5, 1) := dk_8 (dk_at dksX4_clause_8 4 rfl rfl)
theorem dX4_clause_194 : decode cX4_clause 194 = .ok (.if_icmp .ne 10, 3) := dk_160 0 10 (dk_at dksX4_clause_8 5 rfl rfl)
theorem dX4_clause_197 : decode cX4_clause 197 = .ok (.aload_n 0, 1) := dk_42 (dk_at dksX4_clause_8 8 rfl rfl)
theorem dX4_clause_198 : decode cX4_clause 198 = .ok (.invokevirtual 206, 3) := dk_182 0 206 (dk_at dksX4_clause_8 9 rfl rfl)
theorem dX4_clause_201 : decode cX4_clause 201 = .ok (.goto 7, 3) := dk_167 0 7 (dk_at dksX4_clause_8 12 rfl rfl)
theorem dX4_clause_204 : decode cX4_clause 204 = .ok (.aload_n 0, 1) := dk_42 (dk_at dksX4_clause_8 15 rfl rfl)
theorem dX4_clause_205 : decode cX4_clause 205 = .ok (.invokevirtual 209, 3) := dk_182 0 209 (dk_at dksX4_clause_8 16 rfl rfl)
theorem dX4_clause_208 : decode cX4_clause 208 = .ok (.aload_n 0, 1) := dk_42 (dk_at dksX4_clause_8 19 rfl rfl)
theorem dX4_clause_209 : decode cX4_clause 209 = .ok (.bipush 59, 2) := dk_16 59 (dk_at dksX4_clause_8 20 rfl rfl)
theorem dX4_clause_211 : decode cX4_clause 211 = .ok (.invokevirtual 212, 3) := dk_182 0 212 (dk_at dksX4_clause_9 0 rfl rfl)
theorem dX4_clause_214 : decode cX4_clause 214 = .ok (.return_, 1) := dk_177 (dk_at dksX4_clause_9 3 rfl rfl)
abbrev cX4_kindHere : ByteArray := prog_10_method_16_code
def yX4_kindHere : MethodName := ⟨RX4, "kindHere", "()I"⟩
def dkwX4_kindHere_5 : List UInt8 := [153, 0, 8, 16, 6, 167, 0, 4, 2, 172]
abbrev dktX4_kindHere_5 : List UInt8 := dkwX4_kindHere_5 ++ []
def dkwX4_kindHere_4 : List UInt8 := [3, 3, 3, 182, 0, 177, 153, 0, 5, 8, 172, 42, 16, 18, 16, 9, 7, 8, 16, 18, 3, 182, 0, 177]
abbrev dktX4_kindHere_4 : List UInt8 := dkwX4_kindHere_4 ++ dktX4_kindHere_5
def dkwX4_kindHere_3 : List UInt8 := [172, 42, 16, 13, 4, 16, 25, 3, 3, 3, 182, 0, 177, 153, 0, 5, 7, 172, 42, 5, 16, 15, 16, 24]
abbrev dktX4_kindHere_3 : List UInt8 := dkwX4_kindHere_3 ++ dktX4_kindHere_4
def dkwX4_kindHere_2 : List UInt8 := [182, 0, 177, 153, 0, 5, 5, 172, 42, 16, 14, 16, 15, 3, 3, 3, 3, 182, 0, 177, 153, 0, 5, 6]
abbrev dktX4_kindHere_2 : List UInt8 := dkwX4_kindHere_2 ++ dktX4_kindHere_3
def dkwX4_kindHere_1 : List UInt8 := [16, 18, 8, 8, 16, 20, 182, 0, 177, 153, 0, 5, 4, 172, 42, 16, 15, 16, 14, 8, 3, 3, 3]
abbrev dktX4_kindHere_1 : List UInt8 := dkwX4_kindHere_1 ++ dktX4_kindHere_2
def dkwX4_kindHere_0 : List UInt8 := [42, 6, 16, 15, 16, 18, 16, 14, 8, 16, 18, 182, 0, 177, 153, 0, 5, 3, 172, 42, 16, 19, 16, 20]
abbrev dktX4_kindHere_0 : List UInt8 := dkwX4_kindHere_0 ++ dktX4_kindHere_1
theorem dksX4_kindHere_0 : cX4_kindHere.data.toList.drop 0 = dktX4_kindHere_0 := by decide +kernel
theorem dksX4_kindHere_1 : cX4_kindHere.data.toList.drop 24 = dktX4_kindHere_1 := dk_seg dksX4_kindHere_0 24 rfl rfl
theorem dksX4_kindHere_2 : cX4_kindHere.data.toList.drop 47 = dktX4_kindHere_2 := dk_seg dksX4_kindHere_1 23 rfl rfl
theorem dksX4_kindHere_3 : cX4_kindHere.data.toList.drop 71 = dktX4_kindHere_3 := dk_seg dksX4_kindHere_2 24 rfl rfl
theorem dksX4_kindHere_4 : cX4_kindHere.data.toList.drop 95 = dktX4_kindHere_4 := dk_seg dksX4_kindHere_3 24 rfl rfl
theorem dksX4_kindHere_5 : cX4_kindHere.data.toList.drop 119 = dktX4_kindHere_5 := dk_seg dksX4_kindHere_4 24 rfl rfl
theorem dX4_kindHere_0 : decode cX4_kindHere 0 = .ok (.aload_n 0, 1) := dk_42 (dk_at dksX4_kindHere_0 0 rfl rfl)
theorem dX4_kindHere_1 : decode cX4_kindHere 1 = .ok (.iconst 3, 1) := dk_6 (dk_at dksX4_kindHere_0 1 rfl rfl)
theorem dX4_kindHere_2 : decode cX4_kindHere 2 = .ok (.bipush 15, 2) := dk_16 15 (dk_at dksX4_kindHere_0 2 rfl rfl)
theorem dX4_kindHere_4 : decode cX4_kindHere 4 = .ok (.bipush 18, 2) := dk_16 18 (dk_at dksX4_kindHere_0 4 rfl rfl)
theorem dX4_kindHere_6 : decode cX4_kindHere 6 = .ok (.bipush 14, 2) := dk_16 14 (dk_at dksX4_kindHere_0 6 rfl rfl)
theorem dX4_kindHere_8 : decode cX4_kindHere 8 = .ok (.iconst 5, 1) := dk_8 (dk_at dksX4_kindHere_0 8 rfl rfl)
theorem dX4_kindHere_9 : decode cX4_kindHere 9 = .ok (.bipush 18, 2) := dk_16 18 (dk_at dksX4_kindHere_0 9 rfl rfl)
theorem dX4_kindHere_11 : decode cX4_kindHere 11 = .ok (.invokevirtual 177, 3) := dk_182 0 177 (dk_at dksX4_kindHere_0 11 rfl rfl)
theorem dX4_kindHere_14 : decode cX4_kindHere 14 = .ok (.ifCond .eq 5, 3) := dk_153 0 5 (dk_at dksX4_kindHere_0 14 rfl rfl)
theorem dX4_kindHere_17 : decode cX4_kindHere 17 = .ok (.iconst 0, 1) := dk_3 (dk_at dksX4_kindHere_0 17 rfl rfl)
theorem dX4_kindHere_18 : decode cX4_kindHere 18 = .ok (.ireturn, 1) := dk_172 (dk_at dksX4_kindHere_0 18 rfl rfl)
theorem dX4_kindHere_19 : decode cX4_kindHere 19 = .ok (.aload_n 0, 1) := dk_42 (dk_at dksX4_kindHere_0 19 rfl rfl)
theorem dX4_kindHere_20 : decode cX4_kindHere 20 = .ok (.bipush 19, 2) := dk_16 19 (dk_at dksX4_kindHere_0 20 rfl rfl)
theorem dX4_kindHere_22 : decode cX4_kindHere 22 = .ok (.bipush 20, 2) := dk_16 20 (dk_at dksX4_kindHere_0 22 rfl rfl)
theorem dX4_kindHere_24 : decode cX4_kindHere 24 = .ok (.bipush 18, 2) := dk_16 18 (dk_at dksX4_kindHere_1 0 rfl rfl)
theorem dX4_kindHere_26 : decode cX4_kindHere 26 = .ok (.iconst 5, 1) := dk_8 (dk_at dksX4_kindHere_1 2 rfl rfl)
theorem dX4_kindHere_27 : decode cX4_kindHere 27 = .ok (.iconst 5, 1) := dk_8 (dk_at dksX4_kindHere_1 3 rfl rfl)
theorem dX4_kindHere_28 : decode cX4_kindHere 28 = .ok (.bipush 20, 2) := dk_16 20 (dk_at dksX4_kindHere_1 4 rfl rfl)
theorem dX4_kindHere_30 : decode cX4_kindHere 30 = .ok (.invokevirtual 177, 3) := dk_182 0 177 (dk_at dksX4_kindHere_1 6 rfl rfl)
theorem dX4_kindHere_33 : decode cX4_kindHere 33 = .ok (.ifCond .eq 5, 3) := dk_153 0 5 (dk_at dksX4_kindHere_1 9 rfl rfl)
theorem dX4_kindHere_36 : decode cX4_kindHere 36 = .ok (.iconst 1, 1) := dk_4 (dk_at dksX4_kindHere_1 12 rfl rfl)
theorem dX4_kindHere_37 : decode cX4_kindHere 37 = .ok (.ireturn, 1) := dk_172 (dk_at dksX4_kindHere_1 13 rfl rfl)
theorem dX4_kindHere_38 : decode cX4_kindHere 38 = .ok (.aload_n 0, 1) := dk_42 (dk_at dksX4_kindHere_1 14 rfl rfl)
theorem dX4_kindHere_39 : decode cX4_kindHere 39 = .ok (.bipush 15, 2) := dk_16 15 (dk_at dksX4_kindHere_1 15 rfl rfl)
theorem dX4_kindHere_41 : decode cX4_kindHere 41 = .ok (.bipush 14, 2) := dk_16 14 (dk_at dksX4_kindHere_1 17 rfl rfl)
theorem dX4_kindHere_43 : decode cX4_kindHere 43 = .ok (.iconst 5, 1) := dk_8 (dk_at dksX4_kindHere_1 19 rfl rfl)
theorem dX4_kindHere_44 : decode cX4_kindHere 44 = .ok (.iconst 0, 1) := dk_3 (dk_at dksX4_kindHere_1 20 rfl rfl)
theorem dX4_kindHere_45 : decode cX4_kindHere 45 = .ok (.iconst 0, 1) := dk_3 (dk_at dksX4_kindHere_1 21 rfl rfl)
theorem dX4_kindHere_46 : decode cX4_kindHere 46 = .ok (.iconst 0, 1) := dk_3 (dk_at dksX4_kindHere_1 22 rfl rfl)
theorem dX4_kindHere_47 : decode cX4_kindHere 47 = .ok (.invokevirtual 177, 3) := dk_182 0 177 (dk_at dksX4_kindHere_2 0 rfl rfl)
theorem dX4_kindHere_50 : decode cX4_kindHere 50 = .ok (.ifCond .eq 5, 3) := dk_153 0 5 (dk_at dksX4_kindHere_2 3 rfl rfl)
theorem dX4_kindHere_53 : decode cX4_kindHere 53 = .ok (.iconst 2, 1) := dk_5 (dk_at dksX4_kindHere_2 6 rfl rfl)
theorem dX4_kindHere_54 : decode cX4_kindHere 54 = .ok (.ireturn, 1) := dk_172 (dk_at dksX4_kindHere_2 7 rfl rfl)
theorem dX4_kindHere_55 : decode cX4_kindHere 55 = .ok (.aload_n 0, 1) := dk_42 (dk_at dksX4_kindHere_2 8 rfl rfl)
theorem dX4_kindHere_56 : decode cX4_kindHere 56 = .ok (.bipush 14, 2) := dk_16 14 (dk_at dksX4_kindHere_2 9 rfl rfl)
theorem dX4_kindHere_58 : decode cX4_kindHere 58 = .ok (.bipush 15, 2) := dk_16 15 (dk_at dksX4_kindHere_2 11 rfl rfl)
theorem dX4_kindHere_60 : decode cX4_kindHere 60 = .ok (.iconst 0, 1) := dk_3 (dk_at dksX4_kindHere_2 13 rfl rfl)
theorem dX4_kindHere_61 : decode cX4_kindHere 61 = .ok (.iconst 0, 1) := dk_3 (dk_at dksX4_kindHere_2 14 rfl rfl)
theorem dX4_kindHere_62 : decode cX4_kindHere 62 = .ok (.iconst 0, 1) := dk_3 (dk_at dksX4_kindHere_2 15 rfl rfl)
theorem dX4_kindHere_63 : decode cX4_kindHere 63 = .ok (.iconst 0, 1) := dk_3 (dk_at dksX4_kindHere_2 16 rfl rfl)
theorem dX4_kindHere_64 : decode cX4_kindHere 64 = .ok (.invokevirtual 177, 3) := dk_182 0 177 (dk_at dksX4_kindHere_2 17 rfl rfl)
theorem dX4_kindHere_67 : decode cX4_kindHere 67 = .ok (.ifCond .eq 5, 3) := dk_153 0 5 (dk_at dksX4_kindHere_2 20 rfl rfl)
theorem dX4_kindHere_70 : decode cX4_kindHere 70 = .ok (.iconst 3, 1) := dk_6 (dk_at dksX4_kindHere_2 23 rfl rfl)
theorem dX4_kindHere_71 : decode cX4_kindHere 71 = .ok (.ireturn, 1) := dk_172 (dk_at dksX4_kindHere_3 0 rfl rfl)
theorem dX4_kindHere_72 : decode cX4_kindHere 72 = .ok (.aload_n 0, 1) := dk_42 (dk_at dksX4_kindHere_3 1 rfl rfl)
theorem dX4_kindHere_73 : decode cX4_kindHere 73 = .ok (.bipush 13, 2) := dk_16 13 (dk_at dksX4_kindHere_3 2 rfl rfl)
theorem dX4_kindHere_75 : decode cX4_kindHere 75 = .ok (.iconst 1, 1) := dk_4 (dk_at dksX4_kindHere_3 4 rfl rfl)
theorem dX4_kindHere_76 : decode cX4_kindHere 76 = .ok (.bipush 25, 2) := dk_16 25 (dk_at dksX4_kindHere_3 5 rfl rfl)
theorem dX4_kindHere_78 : decode cX4_kindHere 78 = .ok (.iconst 0, 1) := dk_3 (dk_at dksX4_kindHere_3 7 rfl rfl)
theorem dX4_kindHere_79 : decode cX4_kindHere 79 = .ok (.iconst 0, 1) := dk_3 (dk_at dksX4_kindHere_3 8 rfl rfl)
theorem dX4_kindHere_80 : decode cX4_kindHere 80 = .ok (.iconst 0, 1) := dk_3 (dk_at dksX4_kindHere_3 9 rfl rfl)
theorem dX4_kindHere_81 : decode cX4_kindHere 81 = .ok (.invokevirtual 177, 3) := dk_182 0 177 (dk_at dksX4_kindHere_3 10 rfl rfl)
theorem dX4_kindHere_84 : decode cX4_kindHere 84 = .ok (.ifCond .eq 5, 3) := dk_153 0 5 (dk_at dksX4_kindHere_3 13 rfl rfl)
theorem dX4_kindHere_87 : decode cX4_kindHere 87 = .ok (.iconst 4, 1) := dk_7 (dk_at dksX4_kindHere_3 16 rfl rfl)
theorem dX4_kindHere_88 : decode cX4_kindHere 88 = .ok (.ireturn, 1) := dk_172 (dk_at dksX4_kindHere_3 17 rfl rfl)
theorem dX4_kindHere_89 : decode cX4_kindHere 89 = .ok (.aload_n 0, 1) := dk_42 (dk_at dksX4_kindHere_3 18 rfl rfl)
theorem dX4_kindHere_90 : decode cX4_kindHere 90 = .ok (.iconst 2, 1) := dk_5 (dk_at dksX4_kindHere_3 19 rfl rfl)
theorem dX4_kindHere_91 : decode cX4_kindHere 91 = .ok (.bipush 15, 2) := dk_16 15 (dk_at dksX4_kindHere_3 20 rfl rfl)
theorem dX4_kindHere_93 : decode cX4_kindHere 93 = .ok (.bipush 24, 2) := dk_16 24 (dk_at dksX4_kindHere_3 22 rfl rfl)
theorem dX4_kindHere_95 : decode cX4_kindHere 95 = .ok (.iconst 0, 1) := dk_3 (dk_at dksX4_kindHere_4 0 rfl rfl)
theorem dX4_kindHere_96 : decode cX4_kindHere 96 = .ok (.iconst 0, 1) := dk_3 (dk_at dksX4_kindHere_4 1 rfl rfl)
theorem dX4_kindHere_97 : decode cX4_kindHere 97 = .ok (.iconst 0, 1) := dk_3 (dk_at dksX4_kindHere_4 2 rfl rfl)
theorem dX4_kindHere_98 : decode cX4_kindHere 98 = .ok (.invokevirtual 177, 3) := dk_182 0 177 (dk_at dksX4_kindHere_4 3 rfl rfl)
theorem dX4_kindHere_101 : decode cX4_kindHere 101 = .ok (.ifCond .eq 5, 3) := dk_153 0 5 (dk_at dksX4_kindHere_4 6 rfl rfl)
theorem dX4_kindHere_104 : decode cX4_kindHere 104 = .ok (.iconst 5, 1) := dk_8 (dk_at dksX4_kindHere_4 9 rfl rfl)
theorem dX4_kindHere_105 : decode cX4_kindHere 105 = .ok (.ireturn, 1) := dk_172 (dk_at dksX4_kindHere_4 10 rfl rfl)
theorem dX4_kindHere_106 : decode cX4_kindHere 106 = .ok (.aload_n 0, 1) := dk_42 (dk_at dksX4_kindHere_4 11 rfl rfl)
theorem dX4_kindHere_107 : decode cX4_kindHere 107 = .ok (.bipush 18, 2) := dk_16 18 (dk_at dksX4_kindHere_4 12 rfl rfl)
theorem dX4_kindHere_109 : decode cX4_kindHere 109 = .ok (.bipush 9, 2) := dk_16 9 (dk_at dksX4_kindHere_4 14 rfl rfl)
theorem dX4_kindHere_111 : decode cX4_kindHere 111 = .ok (.iconst 4, 1) := dk_7 (dk_at dksX4_kindHere_4 16 rfl rfl)
theorem dX4_kindHere_112 : decode cX4_kindHere 112 = .ok (.iconst 5, 1) := dk_8 (dk_at dksX4_kindHere_4 17 rfl rfl)
theorem dX4_kindHere_113 : decode cX4_kindHere 113 = .ok (.bipush 18, 2) := dk_16 18 (dk_at dksX4_kindHere_4 18 rfl rfl)
theorem dX4_kindHere_115 : decode cX4_kindHere 115 = .ok (.iconst 0, 1) := dk_3 (dk_at dksX4_kindHere_4 20 rfl rfl)
theorem dX4_kindHere_116 : decode cX4_kindHere 116 = .ok (.invokevirtual 177, 3) := dk_182 0 177 (dk_at dksX4_kindHere_4 21 rfl rfl)
theorem dX4_kindHere_119 : decode cX4_kindHere 119 = .ok (.ifCond .eq 8, 3) := dk_153 0 8 (dk_at dksX4_kindHere_5 0 rfl rfl)
theorem dX4_kindHere_122 : decode cX4_kindHere 122 = .ok (.bipush 6, 2) := dk_16 6 (dk_at dksX4_kindHere_5 3 rfl rfl)
theorem dX4_kindHere_124 : decode cX4_kindHere 124 = .ok (.goto 4, 3) := dk_167 0 4 (dk_at dksX4_kindHere_5 5 rfl rfl)
theorem dX4_kindHere_127 : decode cX4_kindHere 127 = .ok (.iconst (-1), 1) := dk_2 (dk_at dksX4_kindHere_5 8 rfl rfl)
theorem dX4_kindHere_128 : decode cX4_kindHere 128 = .ok (.ireturn, 1) := dk_172 (dk_at dksX4_kindHere_5 9 rfl rfl)
abbrev cX4_isWord : ByteArray := prog_10_method_13_code
def yX4_isWord : MethodName := ⟨RX4, "isWord", "(IIIIII)Z"⟩
def dkwX4_isWord_1 : List UInt8 := [160, 0, 7, 4, 167, 0, 4, 3, 172]
abbrev dktX4_isWord_1 : List UInt8 := dkwX4_isWord_1 ++ []
def dkwX4_isWord_0 : List UInt8 := [42, 180, 0, 147, 154, 0, 26, 42, 182, 0, 169, 27, 28, 29, 21, 4, 21, 5, 21, 6, 184, 0, 173]
abbrev dktX4_isWord_0 : List UInt8 := dkwX4_isWord_0 ++ dktX4_isWord_1
theorem dksX4_isWord_0 : cX4_isWord.data.toList.drop 0 = dktX4_isWord_0 := by decide +kernel
theorem dksX4_isWord_1 : cX4_isWord.data.toList.drop 23 = dktX4_isWord_1 := dk_seg dksX4_isWord_0 23 rfl rfl
theorem dX4_isWord_0 : decode cX4_isWord 0 = .ok (.aload_n 0, 1) := dk_42 (dk_at dksX4_isWord_0 0 rfl rfl)
theorem dX4_isWord_1 : decode cX4_isWord 1 = .ok (.getfield 147, 3) := dk_180 0 147 (dk_at dksX4_isWord_0 1 rfl rfl)
theorem dX4_isWord_4 : decode cX4_isWord 4 = .ok (.ifCond .ne 26, 3) := dk_154 0 26 (dk_at dksX4_isWord_0 4 rfl rfl)
theorem dX4_isWord_7 : decode cX4_isWord 7 = .ok (.aload_n 0, 1) := dk_42 (dk_at dksX4_isWord_0 7 rfl rfl)
theorem dX4_isWord_8 : decode cX4_isWord 8 = .ok (.invokevirtual 169, 3) := dk_182 0 169 (dk_at dksX4_isWord_0 8 rfl rfl)
theorem dX4_isWord_11 : decode cX4_isWord 11 = .ok (.iload_n 1, 1) := dk_27 (dk_at dksX4_isWord_0 11 rfl rfl)
theorem dX4_isWord_12 : decode cX4_isWord 12 = .ok (.iload_n 2, 1) := dk_28 (dk_at dksX4_isWord_0 12 rfl rfl)
theorem dX4_isWord_13 : decode cX4_isWord 13 = .ok (.iload_n 3, 1) := dk_29 (dk_at dksX4_isWord_0 13 rfl rfl)
theorem dX4_isWord_14 : decode cX4_isWord 14 = .ok (.iload 4, 2) := dk_21 4 (dk_at dksX4_isWord_0 14 rfl rfl)
theorem dX4_isWord_16 : decode cX4_isWord 16 = .ok (.iload 5, 2) := dk_21 5 (dk_at dksX4_isWord_0 16 rfl rfl)
theorem dX4_isWord_18 : decode cX4_isWord 18 = .ok (.iload 6, 2) := dk_21 6 (dk_at dksX4_isWord_0 18 rfl rfl)
theorem dX4_isWord_20 : decode cX4_isWord 20 = .ok (.invokestatic 173, 3) := dk_184 0 173 (dk_at dksX4_isWord_0 20 rfl rfl)
theorem dX4_isWord_23 : decode cX4_isWord 23 = .ok (.if_icmp .ne 7, 3) := dk_160 0 7 (dk_at dksX4_isWord_1 0 rfl rfl)
theorem dX4_isWord_26 : decode cX4_isWord 26 = .ok (.iconst 1, 1) := dk_4 (dk_at dksX4_isWord_1 3 rfl rfl)
theorem dX4_isWord_27 : decode cX4_isWord 27 = .ok (.goto 4, 3) := dk_167 0 4 (dk_at dksX4_isWord_1 4 rfl rfl)
theorem dX4_isWord_30 : decode cX4_isWord 30 = .ok (.iconst 0, 1) := dk_3 (dk_at dksX4_isWord_1 7 rfl rfl)
theorem dX4_isWord_31 : decode cX4_isWord 31 = .ok (.ireturn, 1) := dk_172 (dk_at dksX4_isWord_1 8 rfl rfl)
abbrev cX4_wordHere : ByteArray := prog_10_method_11_code
def yX4_wordHere : MethodName := ⟨RX4, "wordHere", "()I"⟩
def dkwX4_wordHere_3 : List UInt8 := [167, 255, 192, 28, 16, 6, 164, 0, 7, 2, 167, 0, 4, 27, 172]
abbrev dktX4_wordHere_3 : List UInt8 := dkwX4_wordHere_3 ++ []
def dkwX4_wordHere_2 : List UInt8 := [42, 42, 180, 0, 140, 28, 96, 182, 0, 143, 96, 16, 97, 100, 4, 96, 167, 0, 4, 27, 60, 132, 2, 1]
abbrev dktX4_wordHere_2 : List UInt8 := dkwX4_wordHere_2 ++ dktX4_wordHere_3
def dkwX4_wordHere_1 : List UInt8 := [42, 180, 0, 140, 28, 96, 182, 0, 143, 16, 122, 163, 0, 40, 28, 16, 6, 162, 0, 26, 16, 27, 27, 104]
abbrev dktX4_wordHere_1 : List UInt8 := dkwX4_wordHere_1 ++ dktX4_wordHere_2
def dkwX4_wordHere_0 : List UInt8 := [42, 182, 0, 153, 3, 60, 3, 61, 42, 42, 180, 0, 140, 28, 96, 182, 0, 143, 16, 97, 161, 0, 55, 42]
abbrev dktX4_wordHere_0 : List UInt8 := dkwX4_wordHere_0 ++ dktX4_wordHere_1
theorem dksX4_wordHere_0 : cX4_wordHere.data.toList.drop 0 = dktX4_wordHere_0 := by decide +kernel
theorem dksX4_wordHere_1 : cX4_wordHere.data.toList.drop 24 = dktX4_wordHere_1 := dk_seg dksX4_wordHere_0 24 rfl rfl
theorem dksX4_wordHere_2 : cX4_wordHere.data.toList.drop 48 = dktX4_wordHere_2 := dk_seg dksX4_wordHere_1 24 rfl rfl
theorem dksX4_wordHere_3 : cX4_wordHere.data.toList.drop 72 = dktX4_wordHere_3 := dk_seg dksX4_wordHere_2 24 rfl rfl
theorem dX4_wordHere_0 : decode cX4_wordHere 0 = .ok (.aload_n 0, 1) := dk_42 (dk_at dksX4_wordHere_0 0 rfl rfl)
theorem dX4_wordHere_1 : decode cX4_wordHere 1 = .ok (.invokevirtual 153, 3) := dk_182 0 153 (dk_at dksX4_wordHere_0 1 rfl rfl)
theorem dX4_wordHere_4 : decode cX4_wordHere 4 = .ok (.iconst 0, 1) := dk_3 (dk_at dksX4_wordHere_0 4 rfl rfl)
theorem dX4_wordHere_5 : decode cX4_wordHere 5 = .ok (.istore_n 1, 1) := dk_60 (dk_at dksX4_wordHere_0 5 rfl rfl)
theorem dX4_wordHere_6 : decode cX4_wordHere 6 = .ok (.iconst 0, 1) := dk_3 (dk_at dksX4_wordHere_0 6 rfl rfl)
theorem dX4_wordHere_7 : decode cX4_wordHere 7 = .ok (.istore_n 2, 1) := dk_61 (dk_at dksX4_wordHere_0 7 rfl rfl)
theorem dX4_wordHere_8 : decode cX4_wordHere 8 = .ok (.aload_n 0, 1) := dk_42 (dk_at dksX4_wordHere_0 8 rfl rfl)
theorem dX4_wordHere_9 : decode cX4_wordHere 9 = .ok (.aload_n 0, 1) := dk_42 (dk_at dksX4_wordHere_0 9 rfl rfl)
theorem dX4_wordHere_10 : decode cX4_wordHere 10 = .ok (.getfield 140, 3) := dk_180 0 140 (dk_at dksX4_wordHere_0 10 rfl rfl)
theorem dX4_wordHere_13 : decode cX4_wordHere 13 = .ok (.iload_n 2, 1) := dk_28 (dk_at dksX4_wordHere_0 13 rfl rfl)
theorem dX4_wordHere_14 : decode cX4_wordHere 14 = .ok (.iadd, 1) := dk_96 (dk_at dksX4_wordHere_0 14 rfl rfl)
theorem dX4_wordHere_15 : decode cX4_wordHere 15 = .ok (.invokevirtual 143, 3) := dk_182 0 143 (dk_at dksX4_wordHere_0 15 rfl rfl)
theorem dX4_wordHere_18 : decode cX4_wordHere 18 = .ok (.bipush 97, 2) := dk_16 97 (dk_at dksX4_wordHere_0 18 rfl rfl)
theorem dX4_wordHere_20 : decode cX4_wordHere 20 = .ok (.if_icmp .lt 55, 3) := dk_161 0 55 (dk_at dksX4_wordHere_0 20 rfl rfl)
theorem dX4_wordHere_23 : decode cX4_wordHere 23 = .ok (.aload_n 0, 1) := dk_42 (dk_at dksX4_wordHere_0 23 rfl rfl)
theorem dX4_wordHere_24 : decode cX4_wordHere 24 = .ok (.aload_n 0, 1) := dk_42 (dk_at dksX4_wordHere_1 0 rfl rfl)
theorem dX4_wordHere_25 : decode cX4_wordHere 25 = .ok (.getfield 140, 3) := dk_180 0 140 (dk_at dksX4_wordHere_1 1 rfl rfl)
theorem dX4_wordHere_28 : decode cX4_wordHere 28 = .ok (.iload_n 2, 1) := dk_28 (dk_at dksX4_wordHere_1 4 rfl rfl)
theorem dX4_wordHere_29 : decode cX4_wordHere 29 = .ok (.iadd, 1) := dk_96 (dk_at dksX4_wordHere_1 5 rfl rfl)
theorem dX4_wordHere_30 : decode cX4_wordHere 30 = .ok (.invokevirtual 143, 3) := dk_182 0 143 (dk_at dksX4_wordHere_1 6 rfl rfl)
theorem dX4_wordHere_33 : decode cX4_wordHere 33 = .ok (.bipush 122, 2) := dk_16 122 (dk_at dksX4_wordHere_1 9 rfl rfl)
theorem dX4_wordHere_35 : decode cX4_wordHere 35 = .ok (.if_icmp .gt 40, 3) := dk_163 0 40 (dk_at dksX4_wordHere_1 11 rfl rfl)
theorem dX4_wordHere_38 : decode cX4_wordHere 38 = .ok (.iload_n 2, 1) := dk_28 (dk_at dksX4_wordHere_1 14 rfl rfl)
theorem dX4_wordHere_39 : decode cX4_wordHere 39 = .ok (.bipush 6, 2) := dk_16 6 (dk_at dksX4_wordHere_1 15 rfl rfl)
theorem dX4_wordHere_41 : decode cX4_wordHere 41 = .ok (.if_icmp .ge 26, 3) := dk_162 0 26 (dk_at dksX4_wordHere_1 17 rfl rfl)
theorem dX4_wordHere_44 : decode cX4_wordHere 44 = .ok (.bipush 27, 2) := dk_16 27 (dk_at dksX4_wordHere_1 20 rfl rfl)
theorem dX4_wordHere_46 : decode cX4_wordHere 46 = .ok (.iload_n 1, 1) := dk_27 (dk_at dksX4_wordHere_1 22 rfl rfl)
theorem dX4_wordHere_47 : decode cX4_wordHere 47 = .ok (.imul, 1) := dk_104 (dk_at dksX4_wordHere_1 23 rfl rfl)
theorem dX4_wordHere_48 : decode cX4_wordHere 48 = .ok (.aload_n 0, 1) := dk_42 (dk_at dksX4_wordHere_2 0 rfl rfl)
theorem dX4_wordHere_49 : decode cX4_wordHere 49 = .ok (.aload_n 0, 1) := dk_42 (dk_at dksX4_wordHere_2 1 rfl rfl)
theorem dX4_wordHere_50 : decode cX4_wordHere 50 = .ok (.getfield 140, 3) := dk_180 0 140 (dk_at dksX4_wordHere_2 2 rfl rfl)
theorem dX4_wordHere_53 : decode cX4_wordHere 53 = .ok (.iload_n 2, 1) := dk_28 (dk_at dksX4_wordHere_2 5 rfl rfl)
theorem dX4_wordHere_54 : decode cX4_wordHere 54 = .ok (.iadd, 1) := dk_96 (dk_at dksX4_wordHere_2 6 rfl rfl)
theorem dX4_wordHere_55 : decode cX4_wordHere 55 = .ok (.invokevirtual 143, 3) := dk_182 0 143 (dk_at dksX4_wordHere_2 7 rfl rfl)
theorem dX4_wordHere_58 : decode cX4_wordHere 58 = .ok (.iadd, 1) := dk_96 (dk_at dksX4_wordHere_2 10 rfl rfl)
theorem dX4_wordHere_59 : decode cX4_wordHere 59 = .ok (.bipush 97, 2) := dk_16 97 (dk_at dksX4_wordHere_2 11 rfl rfl)
theorem dX4_wordHere_61 : decode cX4_wordHere 61 = .ok (.isub, 1) := dk_100 (dk_at dksX4_wordHere_2 13 rfl rfl)
theorem dX4_wordHere_62 : decode cX4_wordHere 62 = .ok (.iconst 1, 1) := dk_4 (dk_at dksX4_wordHere_2 14 rfl rfl)
theorem dX4_wordHere_63 : decode cX4_wordHere 63 = .ok (.iadd, 1) := dk_96 (dk_at dksX4_wordHere_2 15 rfl rfl)
theorem dX4_wordHere_64 : decode cX4_wordHere 64 = .ok (.goto 4, 3) := dk_167 0 4 (dk_at dksX4_wordHere_2 16 rfl rfl)
theorem dX4_wordHere_67 : decode cX4_wordHere 67 = .ok (.iload_n 1, 1) := dk_27 (dk_at dksX4_wordHere_2 19 rfl rfl)
theorem dX4_wordHere_68 : decode cX4_wordHere 68 = .ok (.istore_n 1, 1) := dk_60 (dk_at dksX4_wordHere_2 20 rfl rfl)
theorem dX4_wordHere_69 : decode cX4_wordHere 69 = .ok (.iinc 2 1, 3) := dk_132 2 1 (dk_at dksX4_wordHere_2 21 rfl rfl)
theorem dX4_wordHere_72 : decode cX4_wordHere 72 = .ok (.goto (-64), 3) := dk_167 255 192 (dk_at dksX4_wordHere_3 0 rfl rfl)
theorem dX4_wordHere_75 : decode cX4_wordHere 75 = .ok (.iload_n 2, 1) := dk_28 (dk_at dksX4_wordHere_3 3 rfl rfl)
theorem dX4_wordHere_76 : decode cX4_wordHere 76 = .ok (.bipush 6, 2) := dk_16 6 (dk_at dksX4_wordHere_3 4 rfl rfl)
theorem dX4_wordHere_78 : decode cX4_wordHere 78 = .ok (.if_icmp .le 7, 3) := dk_164 0 7 (dk_at dksX4_wordHere_3 6 rfl rfl)
theorem dX4_wordHere_81 : decode cX4_wordHere 81 = .ok (.iconst (-1), 1) := dk_2 (dk_at dksX4_wordHere_3 9 rfl rfl)
theorem dX4_wordHere_82 : decode cX4_wordHere 82 = .ok (.goto 4, 3) := dk_167 0 4 (dk_at dksX4_wordHere_3 10 rfl rfl)
theorem dX4_wordHere_85 : decode cX4_wordHere 85 = .ok (.iload_n 1, 1) := dk_27 (dk_at dksX4_wordHere_3 13 rfl rfl)
theorem dX4_wordHere_86 : decode cX4_wordHere 86 = .ok (.ireturn, 1) := dk_172 (dk_at dksX4_wordHere_3 14 rfl rfl)
abbrev cX4_named : ByteArray := prog_10_method_12_code
def yX4_named : MethodName := ⟨RX4, "named", "(IIIIII)I"⟩
def dkwX4_named_3 : List UInt8 := [21, 6, 167, 0, 11, 16, 27, 21, 6, 104, 21, 5, 96, 172]
abbrev dktX4_named_3 : List UInt8 := dkwX4_named_3 ++ []
def dkwX4_named_2 : List UInt8 := [154, 0, 8, 21, 6, 167, 0, 11, 16, 27, 21, 6, 104, 21, 4, 96, 54, 6, 21, 5, 154, 0, 8]
abbrev dktX4_named_2 : List UInt8 := dkwX4_named_2 ++ dktX4_named_3
def dkwX4_named_1 : List UInt8 := [54, 6, 29, 154, 0, 8, 21, 6, 167, 0, 10, 16, 27, 21, 6, 104, 29, 96, 54, 6, 21, 4]
abbrev dktX4_named_1 : List UInt8 := dkwX4_named_1 ++ dktX4_named_2
def dkwX4_named_0 : List UInt8 := [16, 27, 26, 104, 27, 96, 54, 6, 28, 154, 0, 8, 21, 6, 167, 0, 10, 16, 27, 21, 6, 104, 28, 96]
abbrev dktX4_named_0 : List UInt8 := dkwX4_named_0 ++ dktX4_named_1
theorem dksX4_named_0 : cX4_named.data.toList.drop 0 = dktX4_named_0 := by decide +kernel
theorem dksX4_named_1 : cX4_named.data.toList.drop 24 = dktX4_named_1 := dk_seg dksX4_named_0 24 rfl rfl
theorem dksX4_named_2 : cX4_named.data.toList.drop 46 = dktX4_named_2 := dk_seg dksX4_named_1 22 rfl rfl
theorem dksX4_named_3 : cX4_named.data.toList.drop 69 = dktX4_named_3 := dk_seg dksX4_named_2 23 rfl rfl
theorem dX4_named_0 : decode cX4_named 0 = .ok (.bipush 27, 2) := dk_16 27 (dk_at dksX4_named_0 0 rfl rfl)
theorem dX4_named_2 : decode cX4_named 2 = .ok (.iload_n 0, 1) := dk_26 (dk_at dksX4_named_0 2 rfl rfl)
theorem dX4_named_3 : decode cX4_named 3 = .ok (.imul, 1) := dk_104 (dk_at dksX4_named_0 3 rfl rfl)
theorem dX4_named_4 : decode cX4_named 4 = .ok (.iload_n 1, 1) := dk_27 (dk_at dksX4_named_0 4 rfl rfl)
theorem dX4_named_5 : decode cX4_named 5 = .ok (.iadd, 1) := dk_96 (dk_at dksX4_named_0 5 rfl rfl)
theorem dX4_named_6 : decode cX4_named 6 = .ok (.istore 6, 2) := dk_54 6 (dk_at dksX4_named_0 6 rfl rfl)
theorem dX4_named_8 : decode cX4_named 8 = .ok (.iload_n 2, 1) := dk_28 (dk_at dksX4_named_0 8 rfl rfl)
theorem dX4_named_9 : decode cX4_named 9 = .ok (.ifCond .ne 8, 3) := dk_154 0 8 (dk_at dksX4_named_0 9 rfl rfl)
theorem dX4_named_12 : decode cX4_named 12 = .ok (.iload 6, 2) := dk_21 6 (dk_at dksX4_named_0 12 rfl rfl)
theorem dX4_named_14 : decode cX4_named 14 = .ok (.goto 10, 3) := dk_167 0 10 (dk_at dksX4_named_0 14 rfl rfl)
theorem dX4_named_17 : decode cX4_named 17 = .ok (.bipush 27, 2) := dk_16 27 (dk_at dksX4_named_0 17 rfl rfl)
theorem dX4_named_19 : decode cX4_named 19 = .ok (.iload 6, 2) := dk_21 6 (dk_at dksX4_named_0 19 rfl rfl)
theorem dX4_named_21 : decode cX4_named 21 = .ok (.imul, 1) := dk_104 (dk_at dksX4_named_0 21 rfl rfl)
theorem dX4_named_22 : decode cX4_named 22 = .ok (.iload_n 2, 1) := dk_28 (dk_at dksX4_named_0 22 rfl rfl)
theorem dX4_named_23 : decode cX4_named 23 = .ok (.iadd, 1) := dk_96 (dk_at dksX4_named_0 23 rfl rfl)
theorem dX4_named_24 : decode cX4_named 24 = .ok (.istore 6, 2) := dk_54 6 (dk_at dksX4_named_1 0 rfl rfl)
theorem dX4_named_26 : decode cX4_named 26 = .ok (.iload_n 3, 1) := dk_29 (dk_at dksX4_named_1 2 rfl rfl)
theorem dX4_named_27 : decode cX4_named 27 = .ok (.ifCond .ne 8, 3) := dk_154 0 8 (dk_at dksX4_named_1 3 rfl rfl)
theorem dX4_named_30 : decode cX4_named 30 = .ok (.iload 6, 2) := dk_21 6 (dk_at dksX4_named_1 6 rfl rfl)
theorem dX4_named_32 : decode cX4_named 32 = .ok (.goto 10, 3) := dk_167 0 10 (dk_at dksX4_named_1 8 rfl rfl)
theorem dX4_named_35 : decode cX4_named 35 = .ok (.bipush 27, 2) := dk_16 27 (dk_at dksX4_named_1 11 rfl rfl)
theorem dX4_named_37 : decode cX4_named 37 = .ok (.iload 6, 2) := dk_21 6 (dk_at dksX4_named_1 13 rfl rfl)
theorem dX4_named_39 : decode cX4_named 39 = .ok (.imul, 1) := dk_104 (dk_at dksX4_named_1 15 rfl rfl)
theorem dX4_named_40 : decode cX4_named 40 = .ok (.iload_n 3, 1) := dk_29 (dk_at dksX4_named_1 16 rfl rfl)
theorem dX4_named_41 : decode cX4_named 41 = .ok (.iadd, 1) := dk_96 (dk_at dksX4_named_1 17 rfl rfl)
theorem dX4_named_42 : decode cX4_named 42 = .ok (.istore 6, 2) := dk_54 6 (dk_at dksX4_named_1 18 rfl rfl)
theorem dX4_named_44 : decode cX4_named 44 = .ok (.iload 4, 2) := dk_21 4 (dk_at dksX4_named_1 20 rfl rfl)
theorem dX4_named_46 : decode cX4_named 46 = .ok (.ifCond .ne 8, 3) := dk_154 0 8 (dk_at dksX4_named_2 0 rfl rfl)
theorem dX4_named_49 : decode cX4_named 49 = .ok (.iload 6, 2) := dk_21 6 (dk_at dksX4_named_2 3 rfl rfl)
theorem dX4_named_51 : decode cX4_named 51 = .ok (.goto 11, 3) := dk_167 0 11 (dk_at dksX4_named_2 5 rfl rfl)
theorem dX4_named_54 : decode cX4_named 54 = .ok (.bipush 27, 2) := dk_16 27 (dk_at dksX4_named_2 8 rfl rfl)
theorem dX4_named_56 : decode cX4_named 56 = .ok (.iload 6, 2) := dk_21 6 (dk_at dksX4_named_2 10 rfl rfl)
theorem dX4_named_58 : decode cX4_named 58 = .ok (.imul, 1) := dk_104 (dk_at dksX4_named_2 12 rfl rfl)
theorem dX4_named_59 : decode cX4_named 59 = .ok (.iload 4, 2) := dk_21 4 (dk_at dksX4_named_2 13 rfl rfl)
theorem dX4_named_61 : decode cX4_named 61 = .ok (.iadd, 1) := dk_96 (dk_at dksX4_named_2 15 rfl rfl)
theorem dX4_named_62 : decode cX4_named 62 = .ok (.istore 6, 2) := dk_54 6 (dk_at dksX4_named_2 16 rfl rfl)
theorem dX4_named_64 : decode cX4_named 64 = .ok (.iload 5, 2) := dk_21 5 (dk_at dksX4_named_2 18 rfl rfl)
theorem dX4_named_66 : decode cX4_named 66 = .ok (.ifCond .ne 8, 3) := dk_154 0 8 (dk_at dksX4_named_2 20 rfl rfl)
theorem dX4_named_69 : decode cX4_named 69 = .ok (.iload 6, 2) := dk_21 6 (dk_at dksX4_named_3 0 rfl rfl)
theorem dX4_named_71 : decode cX4_named 71 = .ok (.goto 11, 3) := dk_167 0 11 (dk_at dksX4_named_3 2 rfl rfl)
theorem dX4_named_74 : decode cX4_named 74 = .ok (.bipush 27, 2) := dk_16 27 (dk_at dksX4_named_3 5 rfl rfl)
theorem dX4_named_76 : decode cX4_named 76 = .ok (.iload 6, 2) := dk_21 6 (dk_at dksX4_named_3 7 rfl rfl)
theorem dX4_named_78 : decode cX4_named 78 = .ok (.imul, 1) := dk_104 (dk_at dksX4_named_3 9 rfl rfl)
theorem dX4_named_79 : decode cX4_named 79 = .ok (.iload 5, 2) := dk_21 5 (dk_at dksX4_named_3 10 rfl rfl)
theorem dX4_named_81 : decode cX4_named 81 = .ok (.iadd, 1) := dk_96 (dk_at dksX4_named_3 12 rfl rfl)
theorem dX4_named_82 : decode cX4_named 82 = .ok (.ireturn, 1) := dk_172 (dk_at dksX4_named_3 13 rfl rfl)
abbrev cX4_wrong : ByteArray := prog_10_method_8_code
def yX4_wrong : MethodName := ⟨RX4, "wrong", "(II)V"⟩
def dkwX4_wrong_0 : List UInt8 := [42, 180, 0, 147, 154, 0, 13, 42, 27, 181, 0, 147, 42, 28, 181, 0, 150, 177]
abbrev dktX4_wrong_0 : List UInt8 := dkwX4_wrong_0 ++ []
theorem dksX4_wrong_0 : cX4_wrong.data.toList.drop 0 = dktX4_wrong_0 := by decide +kernel
theorem dX4_wrong_0 : decode cX4_wrong 0 = .ok (.aload_n 0, 1) := dk_42 (dk_at dksX4_wrong_0 0 rfl rfl)
theorem dX4_wrong_1 : decode cX4_wrong 1 = .ok (.getfield 147, 3) := dk_180 0 147 (dk_at dksX4_wrong_0 1 rfl rfl)
theorem dX4_wrong_4 : decode cX4_wrong 4 = .ok (.ifCond .ne 13, 3) := dk_154 0 13 (dk_at dksX4_wrong_0 4 rfl rfl)
theorem dX4_wrong_7 : decode cX4_wrong 7 = .ok (.aload_n 0, 1) := dk_42 (dk_at dksX4_wrong_0 7 rfl rfl)
theorem dX4_wrong_8 : decode cX4_wrong 8 = .ok (.iload_n 1, 1) := dk_27 (dk_at dksX4_wrong_0 8 rfl rfl)
theorem dX4_wrong_9 : decode cX4_wrong 9 = .ok (.putfield 147, 3) := dk_181 0 147 (dk_at dksX4_wrong_0 9 rfl rfl)
theorem dX4_wrong_12 : decode cX4_wrong 12 = .ok (.aload_n 0, 1) := dk_42 (dk_at dksX4_wrong_0 12 rfl rfl)
theorem dX4_wrong_13 : decode cX4_wrong 13 = .ok (.iload_n 2, 1) := dk_28 (dk_at dksX4_wrong_0 13 rfl rfl)
theorem dX4_wrong_14 : decode cX4_wrong 14 = .ok (.putfield 150, 3) := dk_181 0 150 (dk_at dksX4_wrong_0 14 rfl rfl)
theorem dX4_wrong_17 : decode cX4_wrong 17 = .ok (.return_, 1) := dk_177 (dk_at dksX4_wrong_0 17 rfl rfl)
abbrev cX4_ones : ByteArray := prog_10_method_17_code
def yX4_ones : MethodName := ⟨RX4, "ones", "(I)I"⟩
def dkwX4_ones_1 : List UInt8 := [27, 172]
abbrev dktX4_ones_1 : List UInt8 := dkwX4_ones_1 ++ []
def dkwX4_ones_0 : List UInt8 := [3, 60, 3, 61, 28, 16, 24, 162, 0, 17, 27, 26, 28, 122, 4, 126, 96, 60, 132, 2, 1, 167, 255, 239]
abbrev dktX4_ones_0 : List UInt8 := dkwX4_ones_0 ++ dktX4_ones_1
theorem dksX4_ones_0 : cX4_ones.data.toList.drop 0 = dktX4_ones_0 := by decide +kernel
theorem dksX4_ones_1 : cX4_ones.data.toList.drop 24 = dktX4_ones_1 := dk_seg dksX4_ones_0 24 rfl rfl
theorem dX4_ones_0 : decode cX4_ones 0 = .ok (.iconst 0, 1) := dk_3 (dk_at dksX4_ones_0 0 rfl rfl)
theorem dX4_ones_1 : decode cX4_ones 1 = .ok (.istore_n 1, 1) := dk_60 (dk_at dksX4_ones_0 1 rfl rfl)
theorem dX4_ones_2 : decode cX4_ones 2 = .ok (.iconst 0, 1) := dk_3 (dk_at dksX4_ones_0 2 rfl rfl)
theorem dX4_ones_3 : decode cX4_ones 3 = .ok (.istore_n 2, 1) := dk_61 (dk_at dksX4_ones_0 3 rfl rfl)
theorem dX4_ones_4 : decode cX4_ones 4 = .ok (.iload_n 2, 1) := dk_28 (dk_at dksX4_ones_0 4 rfl rfl)
theorem dX4_ones_5 : decode cX4_ones 5 = .ok (.bipush 24, 2) := dk_16 24 (dk_at dksX4_ones_0 5 rfl rfl)
theorem dX4_ones_7 : decode cX4_ones 7 = .ok (.if_icmp .ge 17, 3) := dk_162 0 17 (dk_at dksX4_ones_0 7 rfl rfl)
theorem dX4_ones_10 : decode cX4_ones 10 = .ok (.iload_n 1, 1) := dk_27 (dk_at dksX4_ones_0 10 rfl rfl)
theorem dX4_ones_11 : decode cX4_ones 11 = .ok (.iload_n 0, 1) := dk_26 (dk_at dksX4_ones_0 11 rfl rfl)
theorem dX4_ones_12 : decode cX4_ones 12 = .ok (.iload_n 2, 1) := dk_28 (dk_at dksX4_ones_0 12 rfl rfl)
theorem dX4_ones_13 : decode cX4_ones 13 = .ok (.ishr, 1) := dk_122 (dk_at dksX4_ones_0 13 rfl rfl)
theorem dX4_ones_14 : decode cX4_ones 14 = .ok (.iconst 1, 1) := dk_4 (dk_at dksX4_ones_0 14 rfl rfl)
theorem dX4_ones_15 : decode cX4_ones 15 = .ok (.iand, 1) := dk_126 (dk_at dksX4_ones_0 15 rfl rfl)
theorem dX4_ones_16 : decode cX4_ones 16 = .ok (.iadd, 1) := dk_96 (dk_at dksX4_ones_0 16 rfl rfl)
theorem dX4_ones_17 : decode cX4_ones 17 = .ok (.istore_n 1, 1) := dk_60 (dk_at dksX4_ones_0 17 rfl rfl)
theorem dX4_ones_18 : decode cX4_ones 18 = .ok (.iinc 2 1, 3) := dk_132 2 1 (dk_at dksX4_ones_0 18 rfl rfl)
theorem dX4_ones_21 : decode cX4_ones 21 = .ok (.goto (-17), 3) := dk_167 255 239 (dk_at dksX4_ones_0 21 rfl rfl)
theorem dX4_ones_24 : decode cX4_ones 24 = .ok (.iload_n 1, 1) := dk_27 (dk_at dksX4_ones_1 0 rfl rfl)
theorem dX4_ones_25 : decode cX4_ones 25 = .ok (.ireturn, 1) := dk_172 (dk_at dksX4_ones_1 1 rfl rfl)
abbrev cX4_skipWord : ByteArray := prog_10_method_14_code
def yX4_skipWord : MethodName := ⟨RX4, "skipWord", "()V"⟩
def dkwX4_skipWord_1 : List UInt8 := [163, 0, 16, 42, 89, 180, 0, 140, 4, 96, 181, 0, 140, 167, 255, 220, 177]
abbrev dktX4_skipWord_1 : List UInt8 := dkwX4_skipWord_1 ++ []
def dkwX4_skipWord_0 : List UInt8 := [42, 42, 180, 0, 140, 182, 0, 143, 16, 97, 161, 0, 29, 42, 42, 180, 0, 140, 182, 0, 143, 16, 122]
abbrev dktX4_skipWord_0 : List UInt8 := dkwX4_skipWord_0 ++ dktX4_skipWord_1
theorem dksX4_skipWord_0 : cX4_skipWord.data.toList.drop 0 = dktX4_skipWord_0 := by decide +kernel
theorem dksX4_skipWord_1 : cX4_skipWord.data.toList.drop 23 = dktX4_skipWord_1 := dk_seg dksX4_skipWord_0 23 rfl rfl
theorem dX4_skipWord_0 : decode cX4_skipWord 0 = .ok (.aload_n 0, 1) := dk_42 (dk_at dksX4_skipWord_0 0 rfl rfl)
theorem dX4_skipWord_1 : decode cX4_skipWord 1 = .ok (.aload_n 0, 1) := dk_42 (dk_at dksX4_skipWord_0 1 rfl rfl)
theorem dX4_skipWord_2 : decode cX4_skipWord 2 = .ok (.getfield 140, 3) := dk_180 0 140 (dk_at dksX4_skipWord_0 2 rfl rfl)
theorem dX4_skipWord_5 : decode cX4_skipWord 5 = .ok (.invokevirtual 143, 3) := dk_182 0 143 (dk_at dksX4_skipWord_0 5 rfl rfl)
theorem dX4_skipWord_8 : decode cX4_skipWord 8 = .ok (.bipush 97, 2) := dk_16 97 (dk_at dksX4_skipWord_0 8 rfl rfl)
theorem dX4_skipWord_10 : decode cX4_skipWord 10 = .ok (.if_icmp .lt 29, 3) := dk_161 0 29 (dk_at dksX4_skipWord_0 10 rfl rfl)
theorem dX4_skipWord_13 : decode cX4_skipWord 13 = .ok (.aload_n 0, 1) := dk_42 (dk_at dksX4_skipWord_0 13 rfl rfl)
theorem dX4_skipWord_14 : decode cX4_skipWord 14 = .ok (.aload_n 0, 1) := dk_42 (dk_at dksX4_skipWord_0 14 rfl rfl)
theorem dX4_skipWord_15 : decode cX4_skipWord 15 = .ok (.getfield 140, 3) := dk_180 0 140 (dk_at dksX4_skipWord_0 15 rfl rfl)
theorem dX4_skipWord_18 : decode cX4_skipWord 18 = .ok (.invokevirtual 143, 3) := dk_182 0 143 (dk_at dksX4_skipWord_0 18 rfl rfl)
theorem dX4_skipWord_21 : decode cX4_skipWord 21 = .ok (.bipush 122, 2) := dk_16 122 (dk_at dksX4_skipWord_0 21 rfl rfl)
theorem dX4_skipWord_23 : decode cX4_skipWord 23 = .ok (.if_icmp .gt 16, 3) := dk_163 0 16 (dk_at dksX4_skipWord_1 0 rfl rfl)
theorem dX4_skipWord_26 : decode cX4_skipWord 26 = .ok (.aload_n 0, 1) := dk_42 (dk_at dksX4_skipWord_1 3 rfl rfl)
theorem dX4_skipWord_27 : decode cX4_skipWord 27 = .ok (.dup, 1) := dk_89 (dk_at dksX4_skipWord_1 4 rfl rfl)
theorem dX4_skipWord_28 : decode cX4_skipWord 28 = .ok (.getfield 140, 3) := dk_180 0 140 (dk_at dksX4_skipWord_1 5 rfl rfl)
theorem dX4_skipWord_31 : decode cX4_skipWord 31 = .ok (.iconst 1, 1) := dk_4 (dk_at dksX4_skipWord_1 8 rfl rfl)
theorem dX4_skipWord_32 : decode cX4_skipWord 32 = .ok (.iadd, 1) := dk_96 (dk_at dksX4_skipWord_1 9 rfl rfl)
theorem dX4_skipWord_33 : decode cX4_skipWord 33 = .ok (.putfield 140, 3) := dk_181 0 140 (dk_at dksX4_skipWord_1 10 rfl rfl)
theorem dX4_skipWord_36 : decode cX4_skipWord 36 = .ok (.goto (-36), 3) := dk_167 255 220 (dk_at dksX4_skipWord_1 13 rfl rfl)
theorem dX4_skipWord_39 : decode cX4_skipWord 39 = .ok (.return_, 1) := dk_177 (dk_at dksX4_skipWord_1 16 rfl rfl)
abbrev cX4_readsCorner : ByteArray := prog_10_method_19_code
def yX4_readsCorner : MethodName := ⟨RX4, "readsCorner", "()V"⟩
def dkwX4_readsCorner_5 : List UInt8 := [46, 4, 96, 79, 177]
abbrev dktX4_readsCorner_5 : List UInt8 := dkwX4_readsCorner_5 ++ []
def dkwX4_readsCorner_4 : List UInt8 := [50, 3, 27, 79, 42, 180, 0, 25, 42, 180, 0, 17, 3, 46, 50, 4, 29, 79, 42, 180, 0, 17, 3, 92]
abbrev dktX4_readsCorner_4 : List UInt8 := dkwX4_readsCorner_4 ++ dktX4_readsCorner_5
def dkwX4_readsCorner_3 : List UInt8 := [132, 4, 1, 167, 255, 210, 42, 180, 0, 147, 153, 0, 4, 177, 42, 180, 0, 25, 42, 180, 0, 17, 3, 46]
abbrev dktX4_readsCorner_3 : List UInt8 := dkwX4_readsCorner_3 ++ dktX4_readsCorner_4
def dkwX4_readsCorner_2 : List UInt8 := [27, 160, 0, 22, 42, 180, 0, 25, 21, 4, 50, 4, 46, 29, 160, 0, 9, 42, 5, 28, 182, 0, 160]
abbrev dktX4_readsCorner_2 : List UInt8 := dkwX4_readsCorner_2 ++ dktX4_readsCorner_3
def dkwX4_readsCorner_1 : List UInt8 := [62, 3, 54, 4, 21, 4, 42, 180, 0, 17, 3, 46, 162, 0, 41, 42, 180, 0, 25, 21, 4, 50, 3, 46]
abbrev dktX4_readsCorner_1 : List UInt8 := dkwX4_readsCorner_1 ++ dktX4_readsCorner_2
def dkwX4_readsCorner_0 : List UInt8 := [42, 3, 16, 99, 182, 0, 216, 60, 42, 182, 0, 153, 42, 180, 0, 140, 61, 42, 3, 16, 99, 182, 0, 216]
abbrev dktX4_readsCorner_0 : List UInt8 := dkwX4_readsCorner_0 ++ dktX4_readsCorner_1
theorem dksX4_readsCorner_0 : cX4_readsCorner.data.toList.drop 0 = dktX4_readsCorner_0 := by decide +kernel
theorem dksX4_readsCorner_1 : cX4_readsCorner.data.toList.drop 24 = dktX4_readsCorner_1 := dk_seg dksX4_readsCorner_0 24 rfl rfl
theorem dksX4_readsCorner_2 : cX4_readsCorner.data.toList.drop 48 = dktX4_readsCorner_2 := dk_seg dksX4_readsCorner_1 24 rfl rfl
theorem dksX4_readsCorner_3 : cX4_readsCorner.data.toList.drop 71 = dktX4_readsCorner_3 := dk_seg dksX4_readsCorner_2 23 rfl rfl
theorem dksX4_readsCorner_4 : cX4_readsCorner.data.toList.drop 95 = dktX4_readsCorner_4 := dk_seg dksX4_readsCorner_3 24 rfl rfl
theorem dksX4_readsCorner_5 : cX4_readsCorner.data.toList.drop 119 = dktX4_readsCorner_5 := dk_seg dksX4_readsCorner_4 24 rfl rfl
theorem dX4_readsCorner_0 : decode cX4_readsCorner 0 = .ok (.aload_n 0, 1) := dk_42 (dk_at dksX4_readsCorner_0 0 rfl rfl)
theorem dX4_readsCorner_1 : decode cX4_readsCorner 1 = .ok (.iconst 0, 1) := dk_3 (dk_at dksX4_readsCorner_0 1 rfl rfl)
theorem dX4_readsCorner_2 : decode cX4_readsCorner 2 = .ok (.bipush 99, 2) := dk_16 99 (dk_at dksX4_readsCorner_0 2 rfl rfl)
theorem dX4_readsCorner_4 : decode cX4_readsCorner 4 = .ok (.invokevirtual 216, 3) := dk_182 0 216 (dk_at dksX4_readsCorner_0 4 rfl rfl)
theorem dX4_readsCorner_7 : decode cX4_readsCorner 7 = .ok (.istore_n 1, 1) := dk_60 (dk_at dksX4_readsCorner_0 7 rfl rfl)
theorem dX4_readsCorner_8 : decode cX4_readsCorner 8 = .ok (.aload_n 0, 1) := dk_42 (dk_at dksX4_readsCorner_0 8 rfl rfl)
theorem dX4_readsCorner_9 : decode cX4_readsCorner 9 = .ok (.invokevirtual 153, 3) := dk_182 0 153 (dk_at dksX4_readsCorner_0 9 rfl rfl)
theorem dX4_readsCorner_12 : decode cX4_readsCorner 12 = .ok (.aload_n 0, 1) := dk_42 (dk_at dksX4_readsCorner_0 12 rfl rfl)
theorem dX4_readsCorner_13 : decode cX4_readsCorner 13 = .ok (.getfield 140, 3) := dk_180 0 140 (dk_at dksX4_readsCorner_0 13 rfl rfl)
theorem dX4_readsCorner_16 : decode cX4_readsCorner 16 = .ok (.istore_n 2, 1) := dk_61 (dk_at dksX4_readsCorner_0 16 rfl rfl)
theorem dX4_readsCorner_17 : decode cX4_readsCorner 17 = .ok (.aload_n 0, 1) := dk_42 (dk_at dksX4_readsCorner_0 17 rfl rfl)
theorem dX4_readsCorner_18 : decode cX4_readsCorner 18 = .ok (.iconst 0, 1) := dk_3 (dk_at dksX4_readsCorner_0 18 rfl rfl)
theorem dX4_readsCorner_19 : decode cX4_readsCorner 19 = .ok (.bipush 99, 2) := dk_16 99 (dk_at dksX4_readsCorner_0 19 rfl rfl)
theorem dX4_readsCorner_21 : decode cX4_readsCorner 21 = .ok (.invokevirtual 216, 3) := dk_182 0 216 (dk_at dksX4_readsCorner_0 21 rfl rfl)
theorem dX4_readsCorner_24 : decode cX4_readsCorner 24 = .ok (.istore_n 3, 1) := dk_62 (dk_at dksX4_readsCorner_1 0 rfl rfl)
theorem dX4_readsCorner_25 : decode cX4_readsCorner 25 = .ok (.iconst 0, 1) := dk_3 (dk_at dksX4_readsCorner_1 1 rfl rfl)
theorem dX4_readsCorner_26 : decode cX4_readsCorner 26 = .ok (.istore 4, 2) := dk_54 4 (dk_at dksX4_readsCorner_1 2 rfl rfl)
theorem dX4_readsCorner_28 : decode cX4_readsCorner 28 = .ok (.iload 4, 2) := dk_21 4 (dk_at dksX4_readsCorner_1 4 rfl rfl)
theorem dX4_readsCorner_30 : decode cX4_readsCorner 30 = .ok (.aload_n 0, 1) := dk_42 (dk_at dksX4_readsCorner_1 6 rfl rfl)
theorem dX4_readsCorner_31 : decode cX4_readsCorner 31 = .ok (.getfield 17, 3) := dk_180 0 17 (dk_at dksX4_readsCorner_1 7 rfl rfl)
theorem dX4_readsCorner_34 : decode cX4_readsCorner 34 = .ok (.iconst 0, 1) := dk_3 (dk_at dksX4_readsCorner_1 10 rfl rfl)
theorem dX4_readsCorner_35 : decode cX4_readsCorner 35 = .ok (.iaload, 1) := dk_46 (dk_at dksX4_readsCorner_1 11 rfl rfl)
theorem dX4_readsCorner_36 : decode cX4_readsCorner 36 = .ok (.if_icmp .ge 41, 3) := dk_162 0 41 (dk_at dksX4_readsCorner_1 12 rfl rfl)
theorem dX4_readsCorner_39 : decode cX4_readsCorner 39 = .ok (.aload_n 0, 1) := dk_42 (dk_at dksX4_readsCorner_1 15 rfl rfl)
theorem dX4_readsCorner_40 : decode cX4_readsCorner 40 = .ok (.getfield 25, 3) := dk_180 0 25 (dk_at dksX4_readsCorner_1 16 rfl rfl)
theorem dX4_readsCorner_43 : decode cX4_readsCorner 43 = .ok (.iload 4, 2) := dk_21 4 (dk_at dksX4_readsCorner_1 19 rfl rfl)
theorem dX4_readsCorner_45 : decode cX4_readsCorner 45 = .ok (.aaload, 1) := dk_50 (dk_at dksX4_readsCorner_1 21 rfl rfl)
theorem dX4_readsCorner_46 : decode cX4_readsCorner 46 = .ok (.iconst 0, 1) := dk_3 (dk_at dksX4_readsCorner_1 22 rfl rfl)
theorem dX4_readsCorner_47 : decode cX4_readsCorner 47 = .ok (.iaload, 1) := dk_46 (dk_at dksX4_readsCorner_1 23 rfl rfl)
theorem dX4_readsCorner_48 : decode cX4_readsCorner 48 = .ok (.iload_n 1, 1) := dk_27 (dk_at dksX4_readsCorner_2 0 rfl rfl)
theorem dX4_readsCorner_49 : decode cX4_readsCorner 49 = .ok (.if_icmp .ne 22, 3) := dk_160 0 22 (dk_at dksX4_readsCorner_2 1 rfl rfl)
theorem dX4_readsCorner_52 : decode cX4_readsCorner 52 = .ok (.aload_n 0, 1) := dk_42 (dk_at dksX4_readsCorner_2 4 rfl rfl)
theorem dX4_readsCorner_53 : decode cX4_readsCorner 53 = .ok (.getfield 25, 3) := dk_180 0 25 (dk_at dksX4_readsCorner_2 5 rfl rfl)
theorem dX4_readsCorner_56 : decode cX4_readsCorner 56 = .ok (.iload 4, 2) := dk_21 4 (dk_at dksX4_readsCorner_2 8 rfl rfl)
theorem dX4_readsCorner_58 : decode cX4_readsCorner 58 = .ok (.aaload, 1) := dk_50 (dk_at dksX4_readsCorner_2 10 rfl rfl)
theorem dX4_readsCorner_59 : decode cX4_readsCorner 59 = .ok (.iconst 1, 1) := dk_4 (dk_at dksX4_readsCorner_2 11 rfl rfl)
theorem dX4_readsCorner_60 : decode cX4_readsCorner 60 = .ok (.iaload, 1) := dk_46 (dk_at dksX4_readsCorner_2 12 rfl rfl)
theorem dX4_readsCorner_61 : decode cX4_readsCorner 61 = .ok (.iload_n 3, 1) := dk_29 (dk_at dksX4_readsCorner_2 13 rfl rfl)
theorem dX4_readsCorner_62 : decode cX4_readsCorner 62 = .ok (.if_icmp .ne 9, 3) := dk_160 0 9 (dk_at dksX4_readsCorner_2 14 rfl rfl)
theorem dX4_readsCorner_65 : decode cX4_readsCorner 65 = .ok (.aload_n 0, 1) := dk_42 (dk_at dksX4_readsCorner_2 17 rfl rfl)
theorem dX4_readsCorner_66 : decode cX4_readsCorner 66 = .ok (.iconst 2, 1) := dk_5 (dk_at dksX4_readsCorner_2 18 rfl rfl)
theorem dX4_readsCorner_67 : decode cX4_readsCorner 67 = .ok (.iload_n 2, 1) := dk_28 (dk_at dksX4_readsCorner_2 19 rfl rfl)
theorem dX4_readsCorner_68 : decode cX4_readsCorner 68 = .ok (.invokevirtual 160, 3) := dk_182 0 160 (dk_at dksX4_readsCorner_2 20 rfl rfl)
theorem dX4_readsCorner_71 : decode cX4_readsCorner 71 = .ok (.iinc 4 1, 3) := dk_132 4 1 (dk_at dksX4_readsCorner_3 0 rfl rfl)
theorem dX4_readsCorner_74 : decode cX4_readsCorner 74 = .ok (.goto (-46), 3) := dk_167 255 210 (dk_at dksX4_readsCorner_3 3 rfl rfl)
theorem dX4_readsCorner_77 : decode cX4_readsCorner 77 = .ok (.aload_n 0, 1) := dk_42 (dk_at dksX4_readsCorner_3 6 rfl rfl)
theorem dX4_readsCorner_78 : decode cX4_readsCorner 78 = .ok (.getfield 147, 3) := dk_180 0 147 (dk_at dksX4_readsCorner_3 7 rfl rfl)
theorem dX4_readsCorner_81 : decode cX4_readsCorner 81 = .ok (.ifCond .eq 4, 3) := dk_153 0 4 (dk_at dksX4_readsCorner_3 10 rfl rfl)
theorem dX4_readsCorner_84 : decode cX4_readsCorner 84 = .ok (.return_, 1) := dk_177 (dk_at dksX4_readsCorner_3 13 rfl rfl)
theorem dX4_readsCorner_85 : decode cX4_readsCorner 85 = .ok (.aload_n 0, 1) := dk_42 (dk_at dksX4_readsCorner_3 14 rfl rfl)
theorem dX4_readsCorner_86 : decode cX4_readsCorner 86 = .ok (.getfield 25, 3) := dk_180 0 25 (dk_at dksX4_readsCorner_3 15 rfl rfl)
theorem dX4_readsCorner_89 : decode cX4_readsCorner 89 = .ok (.aload_n 0, 1) := dk_42 (dk_at dksX4_readsCorner_3 18 rfl rfl)
theorem dX4_readsCorner_90 : decode cX4_readsCorner 90 = .ok (.getfield 17, 3) := dk_180 0 17 (dk_at dksX4_readsCorner_3 19 rfl rfl)
theorem dX4_readsCorner_93 : decode cX4_readsCorner 93 = .ok (.iconst 0, 1) := dk_3 (dk_at dksX4_readsCorner_3 22 rfl rfl)
theorem dX4_readsCorner_94 : decode cX4_readsCorner 94 = .ok (.iaload, 1) := dk_46 (dk_at dksX4_readsCorner_3 23 rfl rfl)
theorem dX4_readsCorner_95 : decode cX4_readsCorner 95 = .ok (.aaload, 1) := dk_50 (dk_at dksX4_readsCorner_4 0 rfl rfl)
theorem dX4_readsCorner_96 : decode cX4_readsCorner 96 = .ok (.iconst 0, 1) := dk_3 (dk_at dksX4_readsCorner_4 1 rfl rfl)
theorem dX4_readsCorner_97 : decode cX4_readsCorner 97 = .ok (.iload_n 1, 1) := dk_27 (dk_at dksX4_readsCorner_4 2 rfl rfl)
theorem dX4_readsCorner_98 : decode cX4_readsCorner 98 = .ok (.iastore, 1) := dk_79 (dk_at dksX4_readsCorner_4 3 rfl rfl)
theorem dX4_readsCorner_99 : decode cX4_readsCorner 99 = .ok (.aload_n 0, 1) := dk_42 (dk_at dksX4_readsCorner_4 4 rfl rfl)
theorem dX4_readsCorner_100 : decode cX4_readsCorner 100 = .ok (.getfield 25, 3) := dk_180 0 25 (dk_at dksX4_readsCorner_4 5 rfl rfl)
theorem dX4_readsCorner_103 : decode cX4_readsCorner 103 = .ok (.aload_n 0, 1) := dk_42 (dk_at dksX4_readsCorner_4 8 rfl rfl)
theorem dX4_readsCorner_104 : decode cX4_readsCorner 104 = .ok (.getfield 17, 3) := dk_180 0 17 (dk_at dksX4_readsCorner_4 9 rfl rfl)
theorem dX4_readsCorner_107 : decode cX4_readsCorner 107 = .ok (.iconst 0, 1) := dk_3 (dk_at dksX4_readsCorner_4 12 rfl rfl)
theorem dX4_readsCorner_108 : decode cX4_readsCorner 108 = .ok (.iaload, 1) := dk_46 (dk_at dksX4_readsCorner_4 13 rfl rfl)
theorem dX4_readsCorner_109 : decode cX4_readsCorner 109 = .ok (.aaload, 1) := dk_50 (dk_at dksX4_readsCorner_4 14 rfl rfl)
theorem dX4_readsCorner_110 : decode cX4_readsCorner 110 = .ok (.iconst 1, 1) := dk_4 (dk_at dksX4_readsCorner_4 15 rfl rfl)
theorem dX4_readsCorner_111 : decode cX4_readsCorner 111 = .ok (.iload_n 3, 1) := dk_29 (dk_at dksX4_readsCorner_4 16 rfl rfl)
theorem dX4_readsCorner_112 : decode cX4_readsCorner 112 = .ok (.iastore, 1) := dk_79 (dk_at dksX4_readsCorner_4 17 rfl rfl)
theorem dX4_readsCorner_113 : decode cX4_readsCorner 113 = .ok (.aload_n 0, 1) := dk_42 (dk_at dksX4_readsCorner_4 18 rfl rfl)
theorem dX4_readsCorner_114 : decode cX4_readsCorner 114 = .ok (.getfield 17, 3) := dk_180 0 17 (dk_at dksX4_readsCorner_4 19 rfl rfl)
theorem dX4_readsCorner_117 : decode cX4_readsCorner 117 = .ok (.iconst 0, 1) := dk_3 (dk_at dksX4_readsCorner_4 22 rfl rfl)
theorem dX4_readsCorner_118 : decode cX4_readsCorner 118 = .ok (.dup2, 1) := dk_92 (dk_at dksX4_readsCorner_4 23 rfl rfl)
theorem dX4_readsCorner_119 : decode cX4_readsCorner 119 = .ok (.iaload, 1) := dk_46 (dk_at dksX4_readsCorner_5 0 rfl rfl)
theorem dX4_readsCorner_120 : decode cX4_readsCorner 120 = .ok (.iconst 1, 1) := dk_4 (dk_at dksX4_readsCorner_5 1 rfl rfl)
theorem dX4_readsCorner_121 : decode cX4_readsCorner 121 = .ok (.iadd, 1) := dk_96 (dk_at dksX4_readsCorner_5 2 rfl rfl)
theorem dX4_readsCorner_122 : decode cX4_readsCorner 122 = .ok (.iastore, 1) := dk_79 (dk_at dksX4_readsCorner_5 3 rfl rfl)
theorem dX4_readsCorner_123 : decode cX4_readsCorner 123 = .ok (.return_, 1) := dk_177 (dk_at dksX4_readsCorner_5 4 rfl rfl)
abbrev cX4_number : ByteArray := prog_10_method_10_code
def yX4_number : MethodName := ⟨RX4, "number", "(II)I"⟩
def dkwX4_number_5 : List UInt8 := [154, 0, 9, 42, 5, 29, 182, 0, 160, 42, 180, 0, 147, 154, 0, 8, 21, 4, 167, 0, 4, 3, 172]
abbrev dktX4_number_5 : List UInt8 := dkwX4_number_5 ++ []
def dkwX4_number_4 : List UInt8 := [54, 4, 42, 89, 180, 0, 140, 4, 96, 181, 0, 140, 167, 255, 197, 21, 4, 27, 28, 184, 0, 165]
abbrev dktX4_number_4 : List UInt8 := dkwX4_number_4 ++ dktX4_number_5
def dkwX4_number_3 : List UInt8 := [182, 0, 143, 96, 16, 48, 100, 54, 4, 21, 4, 18, 164, 164, 0, 8, 18, 164, 167, 0, 5, 21, 4]
abbrev dktX4_number_3 : List UInt8 := dkwX4_number_3 ++ dktX4_number_4
def dkwX4_number_2 : List UInt8 := [180, 0, 140, 182, 0, 143, 184, 0, 156, 153, 0, 51, 16, 10, 21, 4, 104, 42, 42, 180, 0, 140]
abbrev dktX4_number_2 : List UInt8 := dkwX4_number_2 ++ dktX4_number_3
def dkwX4_number_1 : List UInt8 := [180, 0, 140, 182, 0, 143, 184, 0, 156, 154, 0, 12, 42, 4, 42, 180, 0, 140, 182, 0, 160, 42, 42]
abbrev dktX4_number_1 : List UInt8 := dkwX4_number_1 ++ dktX4_number_2
def dkwX4_number_0 : List UInt8 := [42, 180, 0, 147, 153, 0, 5, 3, 172, 42, 182, 0, 153, 42, 180, 0, 140, 62, 3, 54, 4, 42, 42]
abbrev dktX4_number_0 : List UInt8 := dkwX4_number_0 ++ dktX4_number_1
theorem dksX4_number_0 : cX4_number.data.toList.drop 0 = dktX4_number_0 := by decide +kernel
theorem dksX4_number_1 : cX4_number.data.toList.drop 23 = dktX4_number_1 := dk_seg dksX4_number_0 23 rfl rfl
theorem dksX4_number_2 : cX4_number.data.toList.drop 46 = dktX4_number_2 := dk_seg dksX4_number_1 23 rfl rfl
theorem dksX4_number_3 : cX4_number.data.toList.drop 68 = dktX4_number_3 := dk_seg dksX4_number_2 22 rfl rfl
theorem dksX4_number_4 : cX4_number.data.toList.drop 91 = dktX4_number_4 := dk_seg dksX4_number_3 23 rfl rfl
theorem dksX4_number_5 : cX4_number.data.toList.drop 113 = dktX4_number_5 := dk_seg dksX4_number_4 22 rfl rfl
theorem dX4_number_0 : decode cX4_number 0 = .ok (.aload_n 0, 1) := dk_42 (dk_at dksX4_number_0 0 rfl rfl)
theorem dX4_number_1 : decode cX4_number 1 = .ok (.getfield 147, 3) := dk_180 0 147 (dk_at dksX4_number_0 1 rfl rfl)
theorem dX4_number_4 : decode cX4_number 4 = .ok (.ifCond .eq 5, 3) := dk_153 0 5 (dk_at dksX4_number_0 4 rfl rfl)
theorem dX4_number_7 : decode cX4_number 7 = .ok (.iconst 0, 1) := dk_3 (dk_at dksX4_number_0 7 rfl rfl)
theorem dX4_number_8 : decode cX4_number 8 = .ok (.ireturn, 1) := dk_172 (dk_at dksX4_number_0 8 rfl rfl)
theorem dX4_number_9 : decode cX4_number 9 = .ok (.aload_n 0, 1) := dk_42 (dk_at dksX4_number_0 9 rfl rfl)
theorem dX4_number_10 : decode cX4_number 10 = .ok (.invokevirtual 153, 3) := dk_182 0 153 (dk_at dksX4_number_0 10 rfl rfl)
theorem dX4_number_13 : decode cX4_number 13 = .ok (.aload_n 0, 1) := dk_42 (dk_at dksX4_number_0 13 rfl rfl)
theorem dX4_number_14 : decode cX4_number 14 = .ok (.getfield 140, 3) := dk_180 0 140 (dk_at dksX4_number_0 14 rfl rfl)
theorem dX4_number_17 : decode cX4_number 17 = .ok (.istore_n 3, 1) := dk_62 (dk_at dksX4_number_0 17 rfl rfl)
theorem dX4_number_18 : decode cX4_number 18 = .ok (.iconst 0, 1) := dk_3 (dk_at dksX4_number_0 18 rfl rfl)
theorem dX4_number_19 : decode cX4_number 19 = .ok (.istore 4, 2) := dk_54 4 (dk_at dksX4_number_0 19 rfl rfl)
theorem dX4_number_21 : decode cX4_number 21 = .ok (.aload_n 0, 1) := dk_42 (dk_at dksX4_number_0 21 rfl rfl)
theorem dX4_number_22 : decode cX4_number 22 = .ok (.aload_n 0, 1) := dk_42 (dk_at dksX4_number_0 22 rfl rfl)
theorem dX4_number_23 : decode cX4_number 23 = .ok (.getfield 140, 3) := dk_180 0 140 (dk_at dksX4_number_1 0 rfl rfl)
theorem dX4_number_26 : decode cX4_number 26 = .ok (.invokevirtual 143, 3) := dk_182 0 143 (dk_at dksX4_number_1 3 rfl rfl)
theorem dX4_number_29 : decode cX4_number 29 = .ok (.invokestatic 156, 3) := dk_184 0 156 (dk_at dksX4_number_1 6 rfl rfl)
theorem dX4_number_32 : decode cX4_number 32 = .ok (.ifCond .ne 12, 3) := dk_154 0 12 (dk_at dksX4_number_1 9 rfl rfl)
theorem dX4_number_35 : decode cX4_number 35 = .ok (.aload_n 0, 1) := dk_42 (dk_at dksX4_number_1 12 rfl rfl)
theorem dX4_number_36 : decode cX4_number 36 = .ok (.iconst 1, 1) := dk_4 (dk_at dksX4_number_1 13 rfl rfl)
theorem dX4_number_37 : decode cX4_number 37 = .ok (.aload_n 0, 1) := dk_42 (dk_at dksX4_number_1 14 rfl rfl)
theorem dX4_number_38 : decode cX4_number 38 = .ok (.getfield 140, 3) := dk_180 0 140 (dk_at dksX4_number_1 15 rfl rfl)
theorem dX4_number_41 : decode cX4_number 41 = .ok (.invokevirtual 160, 3) := dk_182 0 160 (dk_at dksX4_number_1 18 rfl rfl)
theorem dX4_number_44 : decode cX4_number 44 = .ok (.aload_n 0, 1) := dk_42 (dk_at dksX4_number_1 21 rfl rfl)
theorem dX4_number_45 : decode cX4_number 45 = .ok (.aload_n 0, 1) := dk_42 (dk_at dksX4_number_1 22 rfl rfl)
theorem dX4_number_46 : decode cX4_number 46 = .ok (.getfield 140, 3) := dk_180 0 140 (dk_at dksX4_number_2 0 rfl rfl)
theorem dX4_number_49 : decode cX4_number 49 = .ok (.invokevirtual 143, 3) := dk_182 0 143 (dk_at dksX4_number_2 3 rfl rfl)
theorem dX4_number_52 : decode cX4_number 52 = .ok (.invokestatic 156, 3) := dk_184 0 156 (dk_at dksX4_number_2 6 rfl rfl)
theorem dX4_number_55 : decode cX4_number 55 = .ok (.ifCond .eq 51, 3) := dk_153 0 51 (dk_at dksX4_number_2 9 rfl rfl)
theorem dX4_number_58 : decode cX4_number 58 = .ok (.bipush 10, 2) := dk_16 10 (dk_at dksX4_number_2 12 rfl rfl)
theorem dX4_number_60 : decode cX4_number 60 = .ok (.iload 4, 2) := dk_21 4 (dk_at dksX4_number_2 14 rfl rfl)
theorem dX4_number_62 : decode cX4_number 62 = .ok (.imul, 1) := dk_104 (dk_at dksX4_number_2 16 rfl rfl)
theorem dX4_number_63 : decode cX4_number 63 = .ok (.aload_n 0, 1) := dk_42 (dk_at dksX4_number_2 17 rfl rfl)
theorem dX4_number_64 : decode cX4_number 64 = .ok (.aload_n 0, 1) := dk_42 (dk_at dksX4_number_2 18 rfl rfl)
theorem dX4_number_65 : decode cX4_number 65 = .ok (.getfield 140, 3) := dk_180 0 140 (dk_at dksX4_number_2 19 rfl rfl)
theorem dX4_number_68 : decode cX4_number 68 = .ok (.invokevirtual 143, 3) := dk_182 0 143 (dk_at dksX4_number_3 0 rfl rfl)
theorem dX4_number_71 : decode cX4_number 71 = .ok (.iadd, 1) := dk_96 (dk_at dksX4_number_3 3 rfl rfl)
theorem dX4_number_72 : decode cX4_number 72 = .ok (.bipush 48, 2) := dk_16 48 (dk_at dksX4_number_3 4 rfl rfl)
theorem dX4_number_74 : decode cX4_number 74 = .ok (.isub, 1) := dk_100 (dk_at dksX4_number_3 6 rfl rfl)
theorem dX4_number_75 : decode cX4_number 75 = .ok (.istore 4, 2) := dk_54 4 (dk_at dksX4_number_3 7 rfl rfl)
theorem dX4_number_77 : decode cX4_number 77 = .ok (.iload 4, 2) := dk_21 4 (dk_at dksX4_number_3 9 rfl rfl)
theorem dX4_number_79 : decode cX4_number 79 = .ok (.ldc 164, 2) := dk_18 164 (dk_at dksX4_number_3 11 rfl rfl)
theorem dX4_number_81 : decode cX4_number 81 = .ok (.if_icmp .le 8, 3) := dk_164 0 8 (dk_at dksX4_number_3 13 rfl rfl)
theorem dX4_number_84 : decode cX4_number 84 = .ok (.ldc 164, 2) := dk_18 164 (dk_at dksX4_number_3 16 rfl rfl)
theorem dX4_number_86 : decode cX4_number 86 = .ok (.goto 5, 3) := dk_167 0 5 (dk_at dksX4_number_3 18 rfl rfl)
theorem dX4_number_89 : decode cX4_number 89 = .ok (.iload 4, 2) := dk_21 4 (dk_at dksX4_number_3 21 rfl rfl)
theorem dX4_number_91 : decode cX4_number 91 = .ok (.istore 4, 2) := dk_54 4 (dk_at dksX4_number_4 0 rfl rfl)
theorem dX4_number_93 : decode cX4_number 93 = .ok (.aload_n 0, 1) := dk_42 (dk_at dksX4_number_4 2 rfl rfl)
theorem dX4_number_94 : decode cX4_number 94 = .ok (.dup, 1) := dk_89 (dk_at dksX4_number_4 3 rfl rfl)
theorem dX4_number_95 : decode cX4_number 95 = .ok (.getfield 140, 3) := dk_180 0 140 (dk_at dksX4_number_4 4 rfl rfl)
theorem dX4_number_98 : decode cX4_number 98 = .ok (.iconst 1, 1) := dk_4 (dk_at dksX4_number_4 7 rfl rfl)
theorem dX4_number_99 : decode cX4_number 99 = .ok (.iadd, 1) := dk_96 (dk_at dksX4_number_4 8 rfl rfl)
theorem dX4_number_100 : decode cX4_number 100 = .ok (.putfield 140, 3) := dk_181 0 140 (dk_at dksX4_number_4 9 rfl rfl)
theorem dX4_number_103 : decode cX4_number 103 = .ok (.goto (-59), 3) := dk_167 255 197 (dk_at dksX4_number_4 12 rfl rfl)
theorem dX4_number_106 : decode cX4_number 106 = .ok (.iload 4, 2) := dk_21 4 (dk_at dksX4_number_4 15 rfl rfl)
theorem dX4_number_108 : decode cX4_number 108 = .ok (.iload_n 1, 1) := dk_27 (dk_at dksX4_number_4 17 rfl rfl)
theorem dX4_number_109 : decode cX4_number 109 = .ok (.iload_n 2, 1) := dk_28 (dk_at dksX4_number_4 18 rfl rfl)
theorem dX4_number_110 : decode cX4_number 110 = .ok (.invokestatic 165, 3) := dk_184 0 165 (dk_at dksX4_number_4 19 rfl rfl)
theorem dX4_number_113 : decode cX4_number 113 = .ok (.ifCond .ne 9, 3) := dk_154 0 9 (dk_at dksX4_number_5 0 rfl rfl)
theorem dX4_number_116 : decode cX4_number 116 = .ok (.aload_n 0, 1) := dk_42 (dk_at dksX4_number_5 3 rfl rfl)
theorem dX4_number_117 : decode cX4_number 117 = .ok (.iconst 2, 1) := dk_5 (dk_at dksX4_number_5 4 rfl rfl)
theorem dX4_number_118 : decode cX4_number 118 = .ok (.iload_n 3, 1) := dk_29 (dk_at dksX4_number_5 5 rfl rfl)
theorem dX4_number_119 : decode cX4_number 119 = .ok (.invokevirtual 160, 3) := dk_182 0 160 (dk_at dksX4_number_5 6 rfl rfl)
theorem dX4_number_122 : decode cX4_number 122 = .ok (.aload_n 0, 1) := dk_42 (dk_at dksX4_number_5 9 rfl rfl)
theorem dX4_number_123 : decode cX4_number 123 = .ok (.getfield 147, 3) := dk_180 0 147 (dk_at dksX4_number_5 10 rfl rfl)
theorem dX4_number_126 : decode cX4_number 126 = .ok (.ifCond .ne 8, 3) := dk_154 0 8 (dk_at dksX4_number_5 13 rfl rfl)
theorem dX4_number_129 : decode cX4_number 129 = .ok (.iload 4, 2) := dk_21 4 (dk_at dksX4_number_5 16 rfl rfl)
theorem dX4_number_131 : decode cX4_number 131 = .ok (.goto 4, 3) := dk_167 0 4 (dk_at dksX4_number_5 18 rfl rfl)
theorem dX4_number_134 : decode cX4_number 134 = .ok (.iconst 0, 1) := dk_3 (dk_at dksX4_number_5 21 rfl rfl)
theorem dX4_number_135 : decode cX4_number 135 = .ok (.ireturn, 1) := dk_172 (dk_at dksX4_number_5 22 rfl rfl)
abbrev cX4_isDigit : ByteArray := prog_10_method_9_code
def yX4_isDigit : MethodName := ⟨RX4, "isDigit", "(I)Z"⟩
def dkwX4_isDigit_0 : List UInt8 := [26, 16, 48, 161, 0, 13, 26, 16, 57, 163, 0, 7, 4, 167, 0, 4, 3, 172]
abbrev dktX4_isDigit_0 : List UInt8 := dkwX4_isDigit_0 ++ []
theorem dksX4_isDigit_0 : cX4_isDigit.data.toList.drop 0 = dktX4_isDigit_0 := by decide +kernel
theorem dX4_isDigit_0 : decode cX4_isDigit 0 = .ok (.iload_n 0, 1) := dk_26 (dk_at dksX4_isDigit_0 0 rfl rfl)
theorem dX4_isDigit_1 : decode cX4_isDigit 1 = .ok (.bipush 48, 2) := dk_16 48 (dk_at dksX4_isDigit_0 1 rfl rfl)
theorem dX4_isDigit_3 : decode cX4_isDigit 3 = .ok (.if_icmp .lt 13, 3) := dk_161 0 13 (dk_at dksX4_isDigit_0 3 rfl rfl)
theorem dX4_isDigit_6 : decode cX4_isDigit 6 = .ok (.iload_n 0, 1) := dk_26 (dk_at dksX4_isDigit_0 6 rfl rfl)
theorem dX4_isDigit_7 : decode cX4_isDigit 7 = .ok (.bipush 57, 2) := dk_16 57 (dk_at dksX4_isDigit_0 7 rfl rfl)
theorem dX4_isDigit_9 : decode cX4_isDigit 9 = .ok (.if_icmp .gt 7, 3) := dk_163 0 7 (dk_at dksX4_isDigit_0 9 rfl rfl)
theorem dX4_isDigit_12 : decode cX4_isDigit 12 = .ok (.iconst 1, 1) := dk_4 (dk_at dksX4_isDigit_0 12 rfl rfl)
theorem dX4_isDigit_13 : decode cX4_isDigit 13 = .ok (.goto 4, 3) := dk_167 0 4 (dk_at dksX4_isDigit_0 13 rfl rfl)
theorem dX4_isDigit_16 : decode cX4_isDigit 16 = .ok (.iconst 0, 1) := dk_3 (dk_at dksX4_isDigit_0 16 rfl rfl)
theorem dX4_isDigit_17 : decode cX4_isDigit 17 = .ok (.ireturn, 1) := dk_172 (dk_at dksX4_isDigit_0 17 rfl rfl)
abbrev cX4_readsStreet : ByteArray := prog_10_method_21_code
def yX4_readsStreet : MethodName := ⟨RX4, "readsStreet", "()V"⟩
def dkwX4_readsStreet_3 : List UInt8 := [25, 4, 6, 3, 79, 42, 180, 0, 17, 4, 92, 46, 4, 96, 79, 177]
abbrev dktX4_readsStreet_3 : List UInt8 := dkwX4_readsStreet_3 ++ []
def dkwX4_readsStreet_2 : List UInt8 := [42, 180, 0, 17, 4, 46, 50, 58, 4, 25, 4, 3, 27, 79, 25, 4, 4, 28, 79, 25, 4, 5, 29, 79]
abbrev dktX4_readsStreet_2 : List UInt8 := dkwX4_readsStreet_2 ++ dktX4_readsStreet_3
def dkwX4_readsStreet_1 : List UInt8 := [182, 0, 220, 61, 42, 4, 16, 99, 182, 0, 216, 62, 42, 180, 0, 147, 153, 0, 4, 177, 42, 180, 0, 31]
abbrev dktX4_readsStreet_1 : List UInt8 := dkwX4_readsStreet_1 ++ dktX4_readsStreet_2
def dkwX4_readsStreet_0 : List UInt8 := [42, 3, 42, 180, 0, 17, 3, 46, 4, 100, 182, 0, 216, 60, 42, 42, 180, 0, 17, 3, 46, 4, 100, 27]
abbrev dktX4_readsStreet_0 : List UInt8 := dkwX4_readsStreet_0 ++ dktX4_readsStreet_1
theorem dksX4_readsStreet_0 : cX4_readsStreet.data.toList.drop 0 = dktX4_readsStreet_0 := by decide +kernel
theorem dksX4_readsStreet_1 : cX4_readsStreet.data.toList.drop 24 = dktX4_readsStreet_1 := dk_seg dksX4_readsStreet_0 24 rfl rfl
theorem dksX4_readsStreet_2 : cX4_readsStreet.data.toList.drop 48 = dktX4_readsStreet_2 := dk_seg dksX4_readsStreet_1 24 rfl rfl
theorem dksX4_readsStreet_3 : cX4_readsStreet.data.toList.drop 72 = dktX4_readsStreet_3 := dk_seg dksX4_readsStreet_2 24 rfl rfl
theorem dX4_readsStreet_0 : decode cX4_readsStreet 0 = .ok (.aload_n 0, 1) := dk_42 (dk_at dksX4_readsStreet_0 0 rfl rfl)
theorem dX4_readsStreet_1 : decode cX4_readsStreet 1 = .ok (.iconst 0, 1) := dk_3 (dk_at dksX4_readsStreet_0 1 rfl rfl)
theorem dX4_readsStreet_2 : decode cX4_readsStreet 2 = .ok (.aload_n 0, 1) := dk_42 (dk_at dksX4_readsStreet_0 2 rfl rfl)
theorem dX4_readsStreet_3 : decode cX4_readsStreet 3 = .ok (.getfield 17, 3) := dk_180 0 17 (dk_at dksX4_readsStreet_0 3 rfl rfl)
theorem dX4_readsStreet_6 : decode cX4_readsStreet 6 = .ok (.iconst 0, 1) := dk_3 (dk_at dksX4_readsStreet_0 6 rfl rfl)
theorem dX4_readsStreet_7 : decode cX4_readsStreet 7 = .ok (.iaload, 1) := dk_46 (dk_at dksX4_readsStreet_0 7 rfl rfl)
theorem dX4_readsStreet_8 : decode cX4_readsStreet 8 = .ok (.iconst 1, 1) := dk_4 (dk_at dksX4_readsStreet_0 8 rfl rfl)
theorem dX4_readsStreet_9 : decode cX4_readsStreet 9 = .ok (.isub, 1) := dk_100 (dk_at dksX4_readsStreet_0 9 rfl rfl)
theorem dX4_readsStreet_10 : decode cX4_readsStreet 10 = .ok (.invokevirtual 216, 3) := dk_182 0 216 (dk_at dksX4_readsStreet_0 10 rfl rfl)
theorem dX4_readsStreet_13 : decode cX4_readsStreet 13 = .ok (.istore_n 1, 1) := dk_60 (dk_at dksX4_readsStreet_0 13 rfl rfl)
theorem dX4_readsStreet_14 : decode cX4_readsStreet 14 = .ok (.aload_n 0, 1) := dk_42 (dk_at dksX4_readsStreet_0 14 rfl rfl)
theorem dX4_readsStreet_15 : decode cX4_readsStreet 15 = .ok (.aload_n 0, 1) := dk_42 (dk_at dksX4_readsStreet_0 15 rfl rfl)
theorem dX4_readsStreet_16 : decode cX4_readsStreet 16 = .ok (.getfield 17, 3) := dk_180 0 17 (dk_at dksX4_readsStreet_0 16 rfl rfl)
theorem dX4_readsStreet_19 : decode cX4_readsStreet 19 = .ok (.iconst 0, 1) := dk_3 (dk_at dksX4_readsStreet_0 19 rfl rfl)
theorem dX4_readsStreet_20 : decode cX4_readsStreet 20 = .ok (.iaload, 1) := dk_46 (dk_at dksX4_readsStreet_0 20 rfl rfl)
theorem dX4_readsStreet_21 : decode cX4_readsStreet 21 = .ok (.iconst 1, 1) := dk_4 (dk_at dksX4_readsStreet_0 21 rfl rfl)
theorem dX4_readsStreet_22 : decode cX4_readsStreet 22 = .ok (.isub, 1) := dk_100 (dk_at dksX4_readsStreet_0 22 rfl rfl)
theorem dX4_readsStreet_23 : decode cX4_readsStreet 23 = .ok (.iload_n 1, 1) := dk_27 (dk_at dksX4_readsStreet_0 23 rfl rfl)
theorem dX4_readsStreet_24 : decode cX4_readsStreet 24 = .ok (.invokevirtual 220, 3) := dk_182 0 220 (dk_at dksX4_readsStreet_1 0 rfl rfl)
theorem dX4_readsStreet_27 : decode cX4_readsStreet 27 = .ok (.istore_n 2, 1) := dk_61 (dk_at dksX4_readsStreet_1 3 rfl rfl)
theorem dX4_readsStreet_28 : decode cX4_readsStreet 28 = .ok (.aload_n 0, 1) := dk_42 (dk_at dksX4_readsStreet_1 4 rfl rfl)
theorem dX4_readsStreet_29 : decode cX4_readsStreet 29 = .ok (.iconst 1, 1) := dk_4 (dk_at dksX4_readsStreet_1 5 rfl rfl)
theorem dX4_readsStreet_30 : decode cX4_readsStreet 30 = .ok (.bipush 99, 2) := dk_16 99 (dk_at dksX4_readsStreet_1 6 rfl rfl)
theorem dX4_readsStreet_32 : decode cX4_readsStreet 32 = .ok (.invokevirtual 216, 3) := dk_182 0 216 (dk_at dksX4_readsStreet_1 8 rfl rfl)
theorem dX4_readsStreet_35 : decode cX4_readsStreet 35 = .ok (.istore_n 3, 1) := dk_62 (dk_at dksX4_readsStreet_1 11 rfl rfl)
theorem dX4_readsStreet_36 : decode cX4_readsStreet 36 = .ok (.aload_n 0, 1) := dk_42 (dk_at dksX4_readsStreet_1 12 rfl rfl)
theorem dX4_readsStreet_37 : decode cX4_readsStreet 37 = .ok (.getfield 147, 3) := dk_180 0 147 (dk_at dksX4_readsStreet_1 13 rfl rfl)
theorem dX4_readsStreet_40 : decode cX4_readsStreet 40 = .ok (.ifCond .eq 4, 3) := dk_153 0 4 (dk_at dksX4_readsStreet_1 16 rfl rfl)
theorem dX4_readsStreet_43 : decode cX4_readsStreet 43 = .ok (.return_, 1) := dk_177 (dk_at dksX4_readsStreet_1 19 rfl rfl)
theorem dX4_readsStreet_44 : decode cX4_readsStreet 44 = .ok (.aload_n 0, 1) := dk_42 (dk_at dksX4_readsStreet_1 20 rfl rfl)
theorem dX4_readsStreet_45 : decode cX4_readsStreet 45 = .ok (.getfield 31, 3) := dk_180 0 31 (dk_at dksX4_readsStreet_1 21 rfl rfl)
theorem dX4_readsStreet_48 : decode cX4_readsStreet 48 = .ok (.aload_n 0, 1) := dk_42 (dk_at dksX4_readsStreet_2 0 rfl rfl)
theorem dX4_readsStreet_49 : decode cX4_readsStreet 49 = .ok (.getfield 17, 3) := dk_180 0 17 (dk_at dksX4_readsStreet_2 1 rfl rfl)
theorem dX4_readsStreet_52 : decode cX4_readsStreet 52 = .ok (.iconst 1, 1) := dk_4 (dk_at dksX4_readsStreet_2 4 rfl rfl)
theorem dX4_readsStreet_53 : decode cX4_readsStreet 53 = .ok (.iaload, 1) := dk_46 (dk_at dksX4_readsStreet_2 5 rfl rfl)
theorem dX4_readsStreet_54 : decode cX4_readsStreet 54 = .ok (.aaload, 1) := dk_50 (dk_at dksX4_readsStreet_2 6 rfl rfl)
theorem dX4_readsStreet_55 : decode cX4_readsStreet 55 = .ok (.astore 4, 2) := dk_58 4 (dk_at dksX4_readsStreet_2 7 rfl rfl)
theorem dX4_readsStreet_57 : decode cX4_readsStreet 57 = .ok (.aload 4, 2) := dk_25 4 (dk_at dksX4_readsStreet_2 9 rfl rfl)
theorem dX4_readsStreet_59 : decode cX4_readsStreet 59 = .ok (.iconst 0, 1) := dk_3 (dk_at dksX4_readsStreet_2 11 rfl rfl)
theorem dX4_readsStreet_60 : decode cX4_readsStreet 60 = .ok (.iload_n 1, 1) := dk_27 (dk_at dksX4_readsStreet_2 12 rfl rfl)
theorem dX4_readsStreet_61 : decode cX4_readsStreet 61 = .ok (.iastore, 1) := dk_79 (dk_at dksX4_readsStreet_2 13 rfl rfl)
theorem dX4_readsStreet_62 : decode cX4_readsStreet 62 = .ok (.aload 4, 2) := dk_25 4 (dk_at dksX4_readsStreet_2 14 rfl rfl)
theorem dX4_readsStreet_64 : decode cX4_readsStreet 64 = .ok (.iconst 1, 1) := dk_4 (dk_at dksX4_readsStreet_2 16 rfl rfl)
theorem dX4_readsStreet_65 : decode cX4_readsStreet 65 = .ok (.iload_n 2, 1) := dk_28 (dk_at dksX4_readsStreet_2 17 rfl rfl)
theorem dX4_readsStreet_66 : decode cX4_readsStreet 66 = .ok (.iastore, 1) := dk_79 (dk_at dksX4_readsStreet_2 18 rfl rfl)
theorem dX4_readsStreet_67 : decode cX4_readsStreet 67 = .ok (.aload 4, 2) := dk_25 4 (dk_at dksX4_readsStreet_2 19 rfl rfl)
theorem dX4_readsStreet_69 : decode cX4_readsStreet 69 = .ok (.iconst 2, 1) := dk_5 (dk_at dksX4_readsStreet_2 21 rfl rfl)
theorem dX4_readsStreet_70 : decode cX4_readsStreet 70 = .ok (.iload_n 3, 1) := dk_29 (dk_at dksX4_readsStreet_2 22 rfl rfl)
theorem dX4_readsStreet_71 : decode cX4_readsStreet 71 = .ok (.iastore, 1) := dk_79 (dk_at dksX4_readsStreet_2 23 rfl rfl)
theorem dX4_readsStreet_72 : decode cX4_readsStreet 72 = .ok (.aload 4, 2) := dk_25 4 (dk_at dksX4_readsStreet_3 0 rfl rfl)
theorem dX4_readsStreet_74 : decode cX4_readsStreet 74 = .ok (.iconst 3, 1) := dk_6 (dk_at dksX4_readsStreet_3 2 rfl rfl)
theorem dX4_readsStreet_75 : decode cX4_readsStreet 75 = .ok (.iconst 0, 1) := dk_3 (dk_at dksX4_readsStreet_3 3 rfl rfl)
theorem dX4_readsStreet_76 : decode cX4_readsStreet 76 = .ok (.iastore, 1) := dk_79 (dk_at dksX4_readsStreet_3 4 rfl rfl)
theorem dX4_readsStreet_77 : decode cX4_readsStreet 77 = .ok (.aload_n 0, 1) := dk_42 (dk_at dksX4_readsStreet_3 5 rfl rfl)
theorem dX4_readsStreet_78 : decode cX4_readsStreet 78 = .ok (.getfield 17, 3) := dk_180 0 17 (dk_at dksX4_readsStreet_3 6 rfl rfl)
theorem dX4_readsStreet_81 : decode cX4_readsStreet 81 = .ok (.iconst 1, 1) := dk_4 (dk_at dksX4_readsStreet_3 9 rfl rfl)
theorem dX4_readsStreet_82 : decode cX4_readsStreet 82 = .ok (.dup2, 1) := dk_92 (dk_at dksX4_readsStreet_3 10 rfl rfl)
theorem dX4_readsStreet_83 : decode cX4_readsStreet 83 = .ok (.iaload, 1) := dk_46 (dk_at dksX4_readsStreet_3 11 rfl rfl)
theorem dX4_readsStreet_84 : decode cX4_readsStreet 84 = .ok (.iconst 1, 1) := dk_4 (dk_at dksX4_readsStreet_3 12 rfl rfl)
theorem dX4_readsStreet_85 : decode cX4_readsStreet 85 = .ok (.iadd, 1) := dk_96 (dk_at dksX4_readsStreet_3 13 rfl rfl)
theorem dX4_readsStreet_86 : decode cX4_readsStreet 86 = .ok (.iastore, 1) := dk_79 (dk_at dksX4_readsStreet_3 14 rfl rfl)
theorem dX4_readsStreet_87 : decode cX4_readsStreet 87 = .ok (.return_, 1) := dk_177 (dk_at dksX4_readsStreet_3 15 rfl rfl)
abbrev cX4_other : ByteArray := prog_10_method_20_code
def yX4_other : MethodName := ⟨RX4, "other", "(II)I"⟩
def dkwX4_other_1 : List UInt8 := [5, 29, 182, 0, 160, 21, 4, 172]
abbrev dktX4_other_1 : List UInt8 := dkwX4_other_1 ++ []
def dkwX4_other_0 : List UInt8 := [42, 182, 0, 153, 42, 180, 0, 140, 62, 42, 3, 27, 182, 0, 216, 54, 4, 21, 4, 28, 160, 0, 9, 42]
abbrev dktX4_other_0 : List UInt8 := dkwX4_other_0 ++ dktX4_other_1
theorem dksX4_other_0 : cX4_other.data.toList.drop 0 = dktX4_other_0 := by decide +kernel
theorem dksX4_other_1 : cX4_other.data.toList.drop 24 = dktX4_other_1 := dk_seg dksX4_other_0 24 rfl rfl
theorem dX4_other_0 : decode cX4_other 0 = .ok (.aload_n 0, 1) := dk_42 (dk_at dksX4_other_0 0 rfl rfl)
theorem dX4_other_1 : decode cX4_other 1 = .ok (.invokevirtual 153, 3) := dk_182 0 153 (dk_at dksX4_other_0 1 rfl rfl)
theorem dX4_other_4 : decode cX4_other 4 = .ok (.aload_n 0, 1) := dk_42 (dk_at dksX4_other_0 4 rfl rfl)
theorem dX4_other_5 : decode cX4_other 5 = .ok (.getfield 140, 3) := dk_180 0 140 (dk_at dksX4_other_0 5 rfl rfl)
theorem dX4_other_8 : decode cX4_other 8 = .ok (.istore_n 3, 1) := dk_62 (dk_at dksX4_other_0 8 rfl rfl)
theorem dX4_other_9 : decode cX4_other 9 = .ok (.aload_n 0, 1) := dk_42 (dk_at dksX4_other_0 9 rfl rfl)
theorem dX4_other_10 : decode cX4_other 10 = .ok (.iconst 0, 1) := dk_3 (dk_at dksX4_other_0 10 rfl rfl)
theorem dX4_other_11 : decode cX4_other 11 = .ok (.iload_n 1, 1) := dk_27 (dk_at dksX4_other_0 11 rfl rfl)
theorem dX4_other_12 : decode cX4_other 12 = .ok (.invokevirtual 216, 3) := dk_182 0 216 (dk_at dksX4_other_0 12 rfl rfl)
theorem dX4_other_15 : decode cX4_other 15 = .ok (.istore 4, 2) := dk_54 4 (dk_at dksX4_other_0 15 rfl rfl)
theorem dX4_other_17 : decode cX4_other 17 = .ok (.iload 4, 2) := dk_21 4 (dk_at dksX4_other_0 17 rfl rfl)
theorem dX4_other_19 : decode cX4_other 19 = .ok (.iload_n 2, 1) := dk_28 (dk_at dksX4_other_0 19 rfl rfl)
theorem dX4_other_20 : decode cX4_other 20 = .ok (.if_icmp .ne 9, 3) := dk_160 0 9 (dk_at dksX4_other_0 20 rfl rfl)
theorem dX4_other_23 : decode cX4_other 23 = .ok (.aload_n 0, 1) := dk_42 (dk_at dksX4_other_0 23 rfl rfl)
theorem dX4_other_24 : decode cX4_other 24 = .ok (.iconst 2, 1) := dk_5 (dk_at dksX4_other_1 0 rfl rfl)
theorem dX4_other_25 : decode cX4_other 25 = .ok (.iload_n 3, 1) := dk_29 (dk_at dksX4_other_1 1 rfl rfl)
theorem dX4_other_26 : decode cX4_other 26 = .ok (.invokevirtual 160, 3) := dk_182 0 160 (dk_at dksX4_other_1 2 rfl rfl)
theorem dX4_other_29 : decode cX4_other 29 = .ok (.iload 4, 2) := dk_21 4 (dk_at dksX4_other_1 5 rfl rfl)
theorem dX4_other_31 : decode cX4_other 31 = .ok (.ireturn, 1) := dk_172 (dk_at dksX4_other_1 7 rfl rfl)
abbrev cX4_readsOne : ByteArray := prog_10_method_22_code
def yX4_readsOne : MethodName := ⟨RX4, "readsOne", "()V"⟩
def dkwX4_readsOne_1 : List UInt8 := [180, 0, 31, 27, 50, 6, 4, 79, 177]
abbrev dktX4_readsOne_1 : List UInt8 := dkwX4_readsOne_1 ++ []
def dkwX4_readsOne_0 : List UInt8 := [42, 3, 42, 180, 0, 17, 4, 46, 4, 100, 182, 0, 216, 60, 42, 180, 0, 147, 154, 0, 12, 42]
abbrev dktX4_readsOne_0 : List UInt8 := dkwX4_readsOne_0 ++ dktX4_readsOne_1
theorem dksX4_readsOne_0 : cX4_readsOne.data.toList.drop 0 = dktX4_readsOne_0 := by decide +kernel
theorem dksX4_readsOne_1 : cX4_readsOne.data.toList.drop 22 = dktX4_readsOne_1 := dk_seg dksX4_readsOne_0 22 rfl rfl
theorem dX4_readsOne_0 : decode cX4_readsOne 0 = .ok (.aload_n 0, 1) := dk_42 (dk_at dksX4_readsOne_0 0 rfl rfl)
theorem dX4_readsOne_1 : decode cX4_readsOne 1 = .ok (.iconst 0, 1) := dk_3 (dk_at dksX4_readsOne_0 1 rfl rfl)
theorem dX4_readsOne_2 : decode cX4_readsOne 2 = .ok (.aload_n 0, 1) := dk_42 (dk_at dksX4_readsOne_0 2 rfl rfl)
theorem dX4_readsOne_3 : decode cX4_readsOne 3 = .ok (.getfield 17, 3) := dk_180 0 17 (dk_at dksX4_readsOne_0 3 rfl rfl)
theorem dX4_readsOne_6 : decode cX4_readsOne 6 = .ok (.iconst 1, 1) := dk_4 (dk_at dksX4_readsOne_0 6 rfl rfl)
theorem dX4_readsOne_7 : decode cX4_readsOne 7 = .ok (.iaload, 1) := dk_46 (dk_at dksX4_readsOne_0 7 rfl rfl)
theorem dX4_readsOne_8 : decode cX4_readsOne 8 = .ok (.iconst 1, 1) := dk_4 (dk_at dksX4_readsOne_0 8 rfl rfl)
theorem dX4_readsOne_9 : decode cX4_readsOne 9 = .ok (.isub, 1) := dk_100 (dk_at dksX4_readsOne_0 9 rfl rfl)
theorem dX4_readsOne_10 : decode cX4_readsOne 10 = .ok (.invokevirtual 216, 3) := dk_182 0 216 (dk_at dksX4_readsOne_0 10 rfl rfl)
theorem dX4_readsOne_13 : decode cX4_readsOne 13 = .ok (.istore_n 1, 1) := dk_60 (dk_at dksX4_readsOne_0 13 rfl rfl)
theorem dX4_readsOne_14 : decode cX4_readsOne 14 = .ok (.aload_n 0, 1) := dk_42 (dk_at dksX4_readsOne_0 14 rfl rfl)
theorem dX4_readsOne_15 : decode cX4_readsOne 15 = .ok (.getfield 147, 3) := dk_180 0 147 (dk_at dksX4_readsOne_0 15 rfl rfl)
theorem dX4_readsOne_18 : decode cX4_readsOne 18 = .ok (.ifCond .ne 12, 3) := dk_154 0 12 (dk_at dksX4_readsOne_0 18 rfl rfl)
theorem dX4_readsOne_21 : decode cX4_readsOne 21 = .ok (.aload_n 0, 1) := dk_42 (dk_at dksX4_readsOne_0 21 rfl rfl)
theorem dX4_readsOne_22 : decode cX4_readsOne 22 = .ok (.getfield 31, 3) := dk_180 0 31 (dk_at dksX4_readsOne_1 0 rfl rfl)
theorem dX4_readsOne_25 : decode cX4_readsOne 25 = .ok (.iload_n 1, 1) := dk_27 (dk_at dksX4_readsOne_1 3 rfl rfl)
theorem dX4_readsOne_26 : decode cX4_readsOne 26 = .ok (.aaload, 1) := dk_50 (dk_at dksX4_readsOne_1 4 rfl rfl)
theorem dX4_readsOne_27 : decode cX4_readsOne 27 = .ok (.iconst 3, 1) := dk_6 (dk_at dksX4_readsOne_1 5 rfl rfl)
theorem dX4_readsOne_28 : decode cX4_readsOne 28 = .ok (.iconst 1, 1) := dk_4 (dk_at dksX4_readsOne_1 6 rfl rfl)
theorem dX4_readsOne_29 : decode cX4_readsOne 29 = .ok (.iastore, 1) := dk_79 (dk_at dksX4_readsOne_1 7 rfl rfl)
theorem dX4_readsOne_30 : decode cX4_readsOne 30 = .ok (.return_, 1) := dk_177 (dk_at dksX4_readsOne_1 8 rfl rfl)
abbrev cX4_readsTurn : ByteArray := prog_10_method_24_code
def yX4_readsTurn : MethodName := ⟨RX4, "readsTurn", "([I)V"⟩
def dkwX4_readsTurn_3 : List UInt8 := [154, 0, 13, 43, 28, 92, 46, 4, 21, 4, 120, 128, 79, 177]
abbrev dktX4_readsTurn_3 : List UInt8 := dkwX4_readsTurn_3 ++ []
def dkwX4_readsTurn_2 : List UInt8 := [180, 0, 31, 28, 21, 4, 184, 0, 223, 154, 0, 9, 42, 5, 29, 182, 0, 160, 42, 180, 0, 147]
abbrev dktX4_readsTurn_2 : List UInt8 := dkwX4_readsTurn_2 ++ dktX4_readsTurn_3
def dkwX4_readsTurn_1 : List UInt8 := [42, 180, 0, 17, 4, 46, 4, 100, 28, 182, 0, 220, 54, 4, 42, 180, 0, 147, 154, 0, 22, 42]
abbrev dktX4_readsTurn_1 : List UInt8 := dkwX4_readsTurn_1 ++ dktX4_readsTurn_2
def dkwX4_readsTurn_0 : List UInt8 := [42, 3, 42, 180, 0, 17, 4, 46, 4, 100, 182, 0, 216, 61, 42, 182, 0, 153, 42, 180, 0, 140, 62, 42]
abbrev dktX4_readsTurn_0 : List UInt8 := dkwX4_readsTurn_0 ++ dktX4_readsTurn_1
theorem dksX4_readsTurn_0 : cX4_readsTurn.data.toList.drop 0 = dktX4_readsTurn_0 := by decide +kernel
theorem dksX4_readsTurn_1 : cX4_readsTurn.data.toList.drop 24 = dktX4_readsTurn_1 := dk_seg dksX4_readsTurn_0 24 rfl rfl
theorem dksX4_readsTurn_2 : cX4_readsTurn.data.toList.drop 46 = dktX4_readsTurn_2 := dk_seg dksX4_readsTurn_1 22 rfl rfl
theorem dksX4_readsTurn_3 : cX4_readsTurn.data.toList.drop 68 = dktX4_readsTurn_3 := dk_seg dksX4_readsTurn_2 22 rfl rfl
theorem dX4_readsTurn_0 : decode cX4_readsTurn 0 = .ok (.aload_n 0, 1) := dk_42 (dk_at dksX4_readsTurn_0 0 rfl rfl)
theorem dX4_readsTurn_1 : decode cX4_readsTurn 1 = .ok (.iconst 0, 1) := dk_3 (dk_at dksX4_readsTurn_0 1 rfl rfl)
theorem dX4_readsTurn_2 : decode cX4_readsTurn 2 = .ok (.aload_n 0, 1) := dk_42 (dk_at dksX4_readsTurn_0 2 rfl rfl)
theorem dX4_readsTurn_3 : decode cX4_readsTurn 3 = .ok (.getfield 17, 3) := dk_180 0 17 (dk_at dksX4_readsTurn_0 3 rfl rfl)
theorem dX4_readsTurn_6 : decode cX4_readsTurn 6 = .ok (.iconst 1, 1) := dk_4 (dk_at dksX4_readsTurn_0 6 rfl rfl)
theorem dX4_readsTurn_7 : decode cX4_readsTurn 7 = .ok (.iaload, 1) := dk_46 (dk_at dksX4_readsTurn_0 7 rfl rfl)
theorem dX4_readsTurn_8 : decode cX4_readsTurn 8 = .ok (.iconst 1, 1) := dk_4 (dk_at dksX4_readsTurn_0 8 rfl rfl)
theorem dX4_readsTurn_9 : decode cX4_readsTurn 9 = .ok (.isub, 1) := dk_100 (dk_at dksX4_readsTurn_0 9 rfl rfl)
theorem dX4_readsTurn_10 : decode cX4_readsTurn 10 = .ok (.invokevirtual 216, 3) := dk_182 0 216 (dk_at dksX4_readsTurn_0 10 rfl rfl)
theorem dX4_readsTurn_13 : decode cX4_readsTurn 13 = .ok (.istore_n 2, 1) := dk_61 (dk_at dksX4_readsTurn_0 13 rfl rfl)
theorem dX4_readsTurn_14 : decode cX4_readsTurn 14 = .ok (.aload_n 0, 1) := dk_42 (dk_at dksX4_readsTurn_0 14 rfl rfl)
theorem dX4_readsTurn_15 : decode cX4_readsTurn 15 = .ok (.invokevirtual 153, 3) := dk_182 0 153 (dk_at dksX4_readsTurn_0 15 rfl rfl)
theorem dX4_readsTurn_18 : decode cX4_readsTurn 18 = .ok (.aload_n 0, 1) := dk_42 (dk_at dksX4_readsTurn_0 18 rfl rfl)
theorem dX4_readsTurn_19 : decode cX4_readsTurn 19 = .ok (.getfield 140, 3) := dk_180 0 140 (dk_at dksX4_readsTurn_0 19 rfl rfl)
theorem dX4_readsTurn_22 : decode cX4_readsTurn 22 = .ok (.istore_n 3, 1) := dk_62 (dk_at dksX4_readsTurn_0 22 rfl rfl)
theorem dX4_readsTurn_23 : decode cX4_readsTurn 23 = .ok (.aload_n 0, 1) := dk_42 (dk_at dksX4_readsTurn_0 23 rfl rfl)
theorem dX4_readsTurn_24 : decode cX4_readsTurn 24 = .ok (.aload_n 0, 1) := dk_42 (dk_at dksX4_readsTurn_1 0 rfl rfl)
theorem dX4_readsTurn_25 : decode cX4_readsTurn 25 = .ok (.getfield 17, 3) := dk_180 0 17 (dk_at dksX4_readsTurn_1 1 rfl rfl)
theorem dX4_readsTurn_28 : decode cX4_readsTurn 28 = .ok (.iconst 1, 1) := dk_4 (dk_at dksX4_readsTurn_1 4 rfl rfl)
theorem dX4_readsTurn_29 : decode cX4_readsTurn 29 = .ok (.iaload, 1) := dk_46 (dk_at dksX4_readsTurn_1 5 rfl rfl)
theorem dX4_readsTurn_30 : decode cX4_readsTurn 30 = .ok (.iconst 1, 1) := dk_4 (dk_at dksX4_readsTurn_1 6 rfl rfl)
theorem dX4_readsTurn_31 : decode cX4_readsTurn 31 = .ok (.isub, 1) := dk_100 (dk_at dksX4_readsTurn_1 7 rfl rfl)
theorem dX4_readsTurn_32 : decode cX4_readsTurn 32 = .ok (.iload_n 2, 1) := dk_28 (dk_at dksX4_readsTurn_1 8 rfl rfl)
theorem dX4_readsTurn_33 : decode cX4_readsTurn 33 = .ok (.invokevirtual 220, 3) := dk_182 0 220 (dk_at dksX4_readsTurn_1 9 rfl rfl)
theorem dX4_readsTurn_36 : decode cX4_readsTurn 36 = .ok (.istore 4, 2) := dk_54 4 (dk_at dksX4_readsTurn_1 12 rfl rfl)
theorem dX4_readsTurn_38 : decode cX4_readsTurn 38 = .ok (.aload_n 0, 1) := dk_42 (dk_at dksX4_readsTurn_1 14 rfl rfl)
theorem dX4_readsTurn_39 : decode cX4_readsTurn 39 = .ok (.getfield 147, 3) := dk_180 0 147 (dk_at dksX4_readsTurn_1 15 rfl rfl)
theorem dX4_readsTurn_42 : decode cX4_readsTurn 42 = .ok (.ifCond .ne 22, 3) := dk_154 0 22 (dk_at dksX4_readsTurn_1 18 rfl rfl)
theorem dX4_readsTurn_45 : decode cX4_readsTurn 45 = .ok (.aload_n 0, 1) := dk_42 (dk_at dksX4_readsTurn_1 21 rfl rfl)
theorem dX4_readsTurn_46 : decode cX4_readsTurn 46 = .ok (.getfield 31, 3) := dk_180 0 31 (dk_at dksX4_readsTurn_2 0 rfl rfl)
theorem dX4_readsTurn_49 : decode cX4_readsTurn 49 = .ok (.iload_n 2, 1) := dk_28 (dk_at dksX4_readsTurn_2 3 rfl rfl)
theorem dX4_readsTurn_50 : decode cX4_readsTurn 50 = .ok (.iload 4, 2) := dk_21 4 (dk_at dksX4_readsTurn_2 4 rfl rfl)
theorem dX4_readsTurn_52 : decode cX4_readsTurn 52 = .ok (.invokestatic 223, 3) := dk_184 0 223 (dk_at dksX4_readsTurn_2 6 rfl rfl)
theorem dX4_readsTurn_55 : decode cX4_readsTurn 55 = .ok (.ifCond .ne 9, 3) := dk_154 0 9 (dk_at dksX4_readsTurn_2 9 rfl rfl)
theorem dX4_readsTurn_58 : decode cX4_readsTurn 58 = .ok (.aload_n 0, 1) := dk_42 (dk_at dksX4_readsTurn_2 12 rfl rfl)
theorem dX4_readsTurn_59 : decode cX4_readsTurn 59 = .ok (.iconst 2, 1) := dk_5 (dk_at dksX4_readsTurn_2 13 rfl rfl)
theorem dX4_readsTurn_60 : decode cX4_readsTurn 60 = .ok (.iload_n 3, 1) := dk_29 (dk_at dksX4_readsTurn_2 14 rfl rfl)
theorem dX4_readsTurn_61 : decode cX4_readsTurn 61 = .ok (.invokevirtual 160, 3) := dk_182 0 160 (dk_at dksX4_readsTurn_2 15 rfl rfl)
theorem dX4_readsTurn_64 : decode cX4_readsTurn 64 = .ok (.aload_n 0, 1) := dk_42 (dk_at dksX4_readsTurn_2 18 rfl rfl)
theorem dX4_readsTurn_65 : decode cX4_readsTurn 65 = .ok (.getfield 147, 3) := dk_180 0 147 (dk_at dksX4_readsTurn_2 19 rfl rfl)
theorem dX4_readsTurn_68 : decode cX4_readsTurn 68 = .ok (.ifCond .ne 13, 3) := dk_154 0 13 (dk_at dksX4_readsTurn_3 0 rfl rfl)
theorem dX4_readsTurn_71 : decode cX4_readsTurn 71 = .ok (.aload_n 1, 1) := dk_43 (dk_at dksX4_readsTurn_3 3 rfl rfl)
theorem dX4_readsTurn_72 : decode cX4_readsTurn 72 = .ok (.iload_n 2, 1) := dk_28 (dk_at dksX4_readsTurn_3 4 rfl rfl)
theorem dX4_readsTurn_73 : decode cX4_readsTurn 73 = .ok (.dup2, 1) := dk_92 (dk_at dksX4_readsTurn_3 5 rfl rfl)
theorem dX4_readsTurn_74 : decode cX4_readsTurn 74 = .ok (.iaload, 1) := dk_46 (dk_at dksX4_readsTurn_3 6 rfl rfl)
theorem dX4_readsTurn_75 : decode cX4_readsTurn 75 = .ok (.iconst 1, 1) := dk_4 (dk_at dksX4_readsTurn_3 7 rfl rfl)
theorem dX4_readsTurn_76 : decode cX4_readsTurn 76 = .ok (.iload 4, 2) := dk_21 4 (dk_at dksX4_readsTurn_3 8 rfl rfl)
theorem dX4_readsTurn_78 : decode cX4_readsTurn 78 = .ok (.ishl, 1) := dk_120 (dk_at dksX4_readsTurn_3 10 rfl rfl)
theorem dX4_readsTurn_79 : decode cX4_readsTurn 79 = .ok (.ior, 1) := dk_128 (dk_at dksX4_readsTurn_3 11 rfl rfl)
theorem dX4_readsTurn_80 : decode cX4_readsTurn 80 = .ok (.iastore, 1) := dk_79 (dk_at dksX4_readsTurn_3 12 rfl rfl)
theorem dX4_readsTurn_81 : decode cX4_readsTurn 81 = .ok (.return_, 1) := dk_177 (dk_at dksX4_readsTurn_3 13 rfl rfl)
abbrev cX4_meet : ByteArray := prog_10_method_23_code
def yX4_meet : MethodName := ⟨RX4, "meet", "([[III)Z"⟩
def dkwX4_meet_2 : List UInt8 := [4, 46, 160, 0, 7, 4, 167, 0, 4, 3, 172]
abbrev dktX4_meet_2 : List UInt8 := dkwX4_meet_2 ++ []
def dkwX4_meet_1 : List UInt8 := [159, 0, 29, 42, 27, 50, 4, 46, 42, 28, 50, 3, 46, 159, 0, 16, 42, 27, 50, 4, 46, 42, 28, 50]
abbrev dktX4_meet_1 : List UInt8 := dkwX4_meet_1 ++ dktX4_meet_2
def dkwX4_meet_0 : List UInt8 := [42, 27, 50, 3, 46, 42, 28, 50, 3, 46, 159, 0, 42, 42, 27, 50, 3, 46, 42, 28, 50, 4, 46]
abbrev dktX4_meet_0 : List UInt8 := dkwX4_meet_0 ++ dktX4_meet_1
theorem dksX4_meet_0 : cX4_meet.data.toList.drop 0 = dktX4_meet_0 := by decide +kernel
theorem dksX4_meet_1 : cX4_meet.data.toList.drop 23 = dktX4_meet_1 := dk_seg dksX4_meet_0 23 rfl rfl
theorem dksX4_meet_2 : cX4_meet.data.toList.drop 47 = dktX4_meet_2 := dk_seg dksX4_meet_1 24 rfl rfl
theorem dX4_meet_0 : decode cX4_meet 0 = .ok (.aload_n 0, 1) := dk_42 (dk_at dksX4_meet_0 0 rfl rfl)
theorem dX4_meet_1 : decode cX4_meet 1 = .ok (.iload_n 1, 1) := dk_27 (dk_at dksX4_meet_0 1 rfl rfl)
theorem dX4_meet_2 : decode cX4_meet 2 = .ok (.aaload, 1) := dk_50 (dk_at dksX4_meet_0 2 rfl rfl)
theorem dX4_meet_3 : decode cX4_meet 3 = .ok (.iconst 0, 1) := dk_3 (dk_at dksX4_meet_0 3 rfl rfl)
theorem dX4_meet_4 : decode cX4_meet 4 = .ok (.iaload, 1) := dk_46 (dk_at dksX4_meet_0 4 rfl rfl)
theorem dX4_meet_5 : decode cX4_meet 5 = .ok (.aload_n 0, 1) := dk_42 (dk_at dksX4_meet_0 5 rfl rfl)
theorem dX4_meet_6 : decode cX4_meet 6 = .ok (.iload_n 2, 1) := dk_28 (dk_at dksX4_meet_0 6 rfl rfl)
theorem dX4_meet_7 : decode cX4_meet 7 = .ok (.aaload, 1) := dk_50 (dk_at dksX4_meet_0 7 rfl rfl)
theorem dX4_meet_8 : decode cX4_meet 8 = .ok (.iconst 0, 1) := dk_3 (dk_at dksX4_meet_0 8 rfl rfl)
theorem dX4_meet_9 : decode cX4_meet 9 = .ok (.iaload, 1) := dk_46 (dk_at dksX4_meet_0 9 rfl rfl)
theorem dX4_meet_10 : decode cX4_meet 10 = .ok (.if_icmp .eq 42, 3) := dk_159 0 42 (dk_at dksX4_meet_0 10 rfl rfl)
theorem dX4_meet_13 : decode cX4_meet 13 = .ok (.aload_n 0, 1) := dk_42 (dk_at dksX4_meet_0 13 rfl rfl)
theorem dX4_meet_14 : decode cX4_meet 14 = .ok (.iload_n 1, 1) := dk_27 (dk_at dksX4_meet_0 14 rfl rfl)
theorem dX4_meet_15 : decode cX4_meet 15 = .ok (.aaload, 1) := dk_50 (dk_at dksX4_meet_0 15 rfl rfl)
theorem dX4_meet_16 : decode cX4_meet 16 = .ok (.iconst 0, 1) := dk_3 (dk_at dksX4_meet_0 16 rfl rfl)
theorem dX4_meet_17 : decode cX4_meet 17 = .ok (.iaload, 1) := dk_46 (dk_at dksX4_meet_0 17 rfl rfl)
theorem dX4_meet_18 : decode cX4_meet 18 = .ok (.aload_n 0, 1) := dk_42 (dk_at dksX4_meet_0 18 rfl rfl)
theorem dX4_meet_19 : decode cX4_meet 19 = .ok (.iload_n 2, 1) := dk_28 (dk_at dksX4_meet_0 19 rfl rfl)
theorem dX4_meet_20 : decode cX4_meet 20 = .ok (.aaload, 1) := dk_50 (dk_at dksX4_meet_0 20 rfl rfl)
theorem dX4_meet_21 : decode cX4_meet 21 = .ok (.iconst 1, 1) := dk_4 (dk_at dksX4_meet_0 21 rfl rfl)
theorem dX4_meet_22 : decode cX4_meet 22 = .ok (.iaload, 1) := dk_46 (dk_at dksX4_meet_0 22 rfl rfl)
theorem dX4_meet_23 : decode cX4_meet 23 = .ok (.if_icmp .eq 29, 3) := dk_159 0 29 (dk_at dksX4_meet_1 0 rfl rfl)
theorem dX4_meet_26 : decode cX4_meet 26 = .ok (.aload_n 0, 1) := dk_42 (dk_at dksX4_meet_1 3 rfl rfl)
theorem dX4_meet_27 : decode cX4_meet 27 = .ok (.iload_n 1, 1) := dk_27 (dk_at dksX4_meet_1 4 rfl rfl)
theorem dX4_meet_28 : decode cX4_meet 28 = .ok (.aaload, 1) := dk_50 (dk_at dksX4_meet_1 5 rfl rfl)
theorem dX4_meet_29 : decode cX4_meet 29 = .ok (.iconst 1, 1) := dk_4 (dk_at dksX4_meet_1 6 rfl rfl)
theorem dX4_meet_30 : decode cX4_meet 30 = .ok (.iaload, 1) := dk_46 (dk_at dksX4_meet_1 7 rfl rfl)
theorem dX4_meet_31 : decode cX4_meet 31 = .ok (.aload_n 0, 1) := dk_42 (dk_at dksX4_meet_1 8 rfl rfl)
theorem dX4_meet_32 : decode cX4_meet 32 = .ok (.iload_n 2, 1) := dk_28 (dk_at dksX4_meet_1 9 rfl rfl)
theorem dX4_meet_33 : decode cX4_meet 33 = .ok (.aaload, 1) := dk_50 (dk_at dksX4_meet_1 10 rfl rfl)
theorem dX4_meet_34 : decode cX4_meet 34 = .ok (.iconst 0, 1) := dk_3 (dk_at dksX4_meet_1 11 rfl rfl)
theorem dX4_meet_35 : decode cX4_meet 35 = .ok (.iaload, 1) := dk_46 (dk_at dksX4_meet_1 12 rfl rfl)
theorem dX4_meet_36 : decode cX4_meet 36 = .ok (.if_icmp .eq 16, 3) := dk_159 0 16 (dk_at dksX4_meet_1 13 rfl rfl)
theorem dX4_meet_39 : decode cX4_meet 39 = .ok (.aload_n 0, 1) := dk_42 (dk_at dksX4_meet_1 16 rfl rfl)
theorem dX4_meet_40 : decode cX4_meet 40 = .ok (.iload_n 1, 1) := dk_27 (dk_at dksX4_meet_1 17 rfl rfl)
theorem dX4_meet_41 : decode cX4_meet 41 = .ok (.aaload, 1) := dk_50 (dk_at dksX4_meet_1 18 rfl rfl)
theorem dX4_meet_42 : decode cX4_meet 42 = .ok (.iconst 1, 1) := dk_4 (dk_at dksX4_meet_1 19 rfl rfl)
theorem dX4_meet_43 : decode cX4_meet 43 = .ok (.iaload, 1) := dk_46 (dk_at dksX4_meet_1 20 rfl rfl)
theorem dX4_meet_44 : decode cX4_meet 44 = .ok (.aload_n 0, 1) := dk_42 (dk_at dksX4_meet_1 21 rfl rfl)
theorem dX4_meet_45 : decode cX4_meet 45 = .ok (.iload_n 2, 1) := dk_28 (dk_at dksX4_meet_1 22 rfl rfl)
theorem dX4_meet_46 : decode cX4_meet 46 = .ok (.aaload, 1) := dk_50 (dk_at dksX4_meet_1 23 rfl rfl)
theorem dX4_meet_47 : decode cX4_meet 47 = .ok (.iconst 1, 1) := dk_4 (dk_at dksX4_meet_2 0 rfl rfl)
theorem dX4_meet_48 : decode cX4_meet 48 = .ok (.iaload, 1) := dk_46 (dk_at dksX4_meet_2 1 rfl rfl)
theorem dX4_meet_49 : decode cX4_meet 49 = .ok (.if_icmp .ne 7, 3) := dk_160 0 7 (dk_at dksX4_meet_2 2 rfl rfl)
theorem dX4_meet_52 : decode cX4_meet 52 = .ok (.iconst 1, 1) := dk_4 (dk_at dksX4_meet_2 5 rfl rfl)
theorem dX4_meet_53 : decode cX4_meet 53 = .ok (.goto 4, 3) := dk_167 0 4 (dk_at dksX4_meet_2 6 rfl rfl)
theorem dX4_meet_56 : decode cX4_meet 56 = .ok (.iconst 0, 1) := dk_3 (dk_at dksX4_meet_2 9 rfl rfl)
theorem dX4_meet_57 : decode cX4_meet 57 = .ok (.ireturn, 1) := dk_172 (dk_at dksX4_meet_2 10 rfl rfl)
abbrev cX4_readsBox : ByteArray := prog_10_method_25_code
def yX4_readsBox : MethodName := ⟨RX4, "readsBox", "()V"⟩
def dkwX4_readsBox_1 : List UInt8 := [180, 0, 17, 5, 92, 46, 4, 27, 120, 128, 79, 177]
abbrev dktX4_readsBox_1 : List UInt8 := dkwX4_readsBox_1 ++ []
def dkwX4_readsBox_0 : List UInt8 := [42, 3, 42, 180, 0, 17, 3, 46, 4, 100, 182, 0, 216, 60, 42, 180, 0, 147, 154, 0, 15, 42]
abbrev dktX4_readsBox_0 : List UInt8 := dkwX4_readsBox_0 ++ dktX4_readsBox_1
theorem dksX4_readsBox_0 : cX4_readsBox.data.toList.drop 0 = dktX4_readsBox_0 := by decide +kernel
theorem dksX4_readsBox_1 : cX4_readsBox.data.toList.drop 22 = dktX4_readsBox_1 := dk_seg dksX4_readsBox_0 22 rfl rfl
theorem dX4_readsBox_0 : decode cX4_readsBox 0 = .ok (.aload_n 0, 1) := dk_42 (dk_at dksX4_readsBox_0 0 rfl rfl)
theorem dX4_readsBox_1 : decode cX4_readsBox 1 = .ok (.iconst 0, 1) := dk_3 (dk_at dksX4_readsBox_0 1 rfl rfl)
theorem dX4_readsBox_2 : decode cX4_readsBox 2 = .ok (.aload_n 0, 1) := dk_42 (dk_at dksX4_readsBox_0 2 rfl rfl)
theorem dX4_readsBox_3 : decode cX4_readsBox 3 = .ok (.getfield 17, 3) := dk_180 0 17 (dk_at dksX4_readsBox_0 3 rfl rfl)
theorem dX4_readsBox_6 : decode cX4_readsBox 6 = .ok (.iconst 0, 1) := dk_3 (dk_at dksX4_readsBox_0 6 rfl rfl)
theorem dX4_readsBox_7 : decode cX4_readsBox 7 = .ok (.iaload, 1) := dk_46 (dk_at dksX4_readsBox_0 7 rfl rfl)
theorem dX4_readsBox_8 : decode cX4_readsBox 8 = .ok (.iconst 1, 1) := dk_4 (dk_at dksX4_readsBox_0 8 rfl rfl)
theorem dX4_readsBox_9 : decode cX4_readsBox 9 = .ok (.isub, 1) := dk_100 (dk_at dksX4_readsBox_0 9 rfl rfl)
theorem dX4_readsBox_10 : decode cX4_readsBox 10 = .ok (.invokevirtual 216, 3) := dk_182 0 216 (dk_at dksX4_readsBox_0 10 rfl rfl)
theorem dX4_readsBox_13 : decode cX4_readsBox 13 = .ok (.istore_n 1, 1) := dk_60 (dk_at dksX4_readsBox_0 13 rfl rfl)
theorem dX4_readsBox_14 : decode cX4_readsBox 14 = .ok (.aload_n 0, 1) := dk_42 (dk_at dksX4_readsBox_0 14 rfl rfl)
theorem dX4_readsBox_15 : decode cX4_readsBox 15 = .ok (.getfield 147, 3) := dk_180 0 147 (dk_at dksX4_readsBox_0 15 rfl rfl)
theorem dX4_readsBox_18 : decode cX4_readsBox 18 = .ok (.ifCond .ne 15, 3) := dk_154 0 15 (dk_at dksX4_readsBox_0 18 rfl rfl)
theorem dX4_readsBox_21 : decode cX4_readsBox 21 = .ok (.aload_n 0, 1) := dk_42 (dk_at dksX4_readsBox_0 21 rfl rfl)
theorem dX4_readsBox_22 : decode cX4_readsBox 22 = .ok (.getfield 17, 3) := dk_180 0 17 (dk_at dksX4_readsBox_1 0 rfl rfl)
theorem dX4_readsBox_25 : decode cX4_readsBox 25 = .ok (.iconst 2, 1) := dk_5 (dk_at dksX4_readsBox_1 3 rfl rfl)
theorem dX4_readsBox_26 : decode cX4_readsBox 26 = .ok (.dup2, 1) := dk_92 (dk_at dksX4_readsBox_1 4 rfl rfl)
theorem dX4_readsBox_27 : decode cX4_readsBox 27 = .ok (.iaload, 1) := dk_46 (dk_at dksX4_readsBox_1 5 rfl rfl)
theorem dX4_readsBox_28 : decode cX4_readsBox 28 = .ok (.iconst 1, 1) := dk_4 (dk_at dksX4_readsBox_1 6 rfl rfl)
theorem dX4_readsBox_29 : decode cX4_readsBox 29 = .ok (.iload_n 1, 1) := dk_27 (dk_at dksX4_readsBox_1 7 rfl rfl)
theorem dX4_readsBox_30 : decode cX4_readsBox 30 = .ok (.ishl, 1) := dk_120 (dk_at dksX4_readsBox_1 8 rfl rfl)
theorem dX4_readsBox_31 : decode cX4_readsBox 31 = .ok (.ior, 1) := dk_128 (dk_at dksX4_readsBox_1 9 rfl rfl)
theorem dX4_readsBox_32 : decode cX4_readsBox 32 = .ok (.iastore, 1) := dk_79 (dk_at dksX4_readsBox_1 10 rfl rfl)
theorem dX4_readsBox_33 : decode cX4_readsBox 33 = .ok (.return_, 1) := dk_177 (dk_at dksX4_readsBox_1 11 rfl rfl)
abbrev cX4_readsRider : ByteArray := prog_10_method_26_code
def yX4_readsRider : MethodName := ⟨RX4, "readsRider", "()V"⟩
def dkwX4_readsRider_3 : List UInt8 := [42, 180, 0, 17, 6, 92, 46, 4, 96, 79, 177]
abbrev dktX4_readsRider_3 : List UInt8 := dkwX4_readsRider_3 ++ []
def dkwX4_readsRider_2 : List UInt8 := [42, 180, 0, 17, 6, 46, 50, 58, 4, 25, 4, 3, 27, 79, 25, 4, 4, 28, 79, 25, 4, 5, 29, 79]
abbrev dktX4_readsRider_2 : List UInt8 := dkwX4_readsRider_2 ++ dktX4_readsRider_3
def dkwX4_readsRider_1 : List UInt8 := [182, 0, 220, 61, 42, 3, 16, 99, 182, 0, 216, 62, 42, 180, 0, 147, 153, 0, 4, 177, 42, 180, 0, 37]
abbrev dktX4_readsRider_1 : List UInt8 := dkwX4_readsRider_1 ++ dktX4_readsRider_2
def dkwX4_readsRider_0 : List UInt8 := [42, 3, 42, 180, 0, 17, 3, 46, 4, 100, 182, 0, 216, 60, 42, 42, 180, 0, 17, 3, 46, 4, 100, 27]
abbrev dktX4_readsRider_0 : List UInt8 := dkwX4_readsRider_0 ++ dktX4_readsRider_1
theorem dksX4_readsRider_0 : cX4_readsRider.data.toList.drop 0 = dktX4_readsRider_0 := by decide +kernel
theorem dksX4_readsRider_1 : cX4_readsRider.data.toList.drop 24 = dktX4_readsRider_1 := dk_seg dksX4_readsRider_0 24 rfl rfl
theorem dksX4_readsRider_2 : cX4_readsRider.data.toList.drop 48 = dktX4_readsRider_2 := dk_seg dksX4_readsRider_1 24 rfl rfl
theorem dksX4_readsRider_3 : cX4_readsRider.data.toList.drop 72 = dktX4_readsRider_3 := dk_seg dksX4_readsRider_2 24 rfl rfl
theorem dX4_readsRider_0 : decode cX4_readsRider 0 = .ok (.aload_n 0, 1) := dk_42 (dk_at dksX4_readsRider_0 0 rfl rfl)
theorem dX4_readsRider_1 : decode cX4_readsRider 1 = .ok (.iconst 0, 1) := dk_3 (dk_at dksX4_readsRider_0 1 rfl rfl)
theorem dX4_readsRider_2 : decode cX4_readsRider 2 = .ok (.aload_n 0, 1) := dk_42 (dk_at dksX4_readsRider_0 2 rfl rfl)
theorem dX4_readsRider_3 : decode cX4_readsRider 3 = .ok (.getfield 17, 3) := dk_180 0 17 (dk_at dksX4_readsRider_0 3 rfl rfl)
theorem dX4_readsRider_6 : decode cX4_readsRider 6 = .ok (.iconst 0, 1) := dk_3 (dk_at dksX4_readsRider_0 6 rfl rfl)
theorem dX4_readsRider_7 : decode cX4_readsRider 7 = .ok (.iaload, 1) := dk_46 (dk_at dksX4_readsRider_0 7 rfl rfl)
theorem dX4_readsRider_8 : decode cX4_readsRider 8 = .ok (.iconst 1, 1) := dk_4 (dk_at dksX4_readsRider_0 8 rfl rfl)
theorem dX4_readsRider_9 : decode cX4_readsRider 9 = .ok (.isub, 1) := dk_100 (dk_at dksX4_readsRider_0 9 rfl rfl)
theorem dX4_readsRider_10 : decode cX4_readsRider 10 = .ok (.invokevirtual 216, 3) := dk_182 0 216 (dk_at dksX4_readsRider_0 10 rfl rfl)
theorem dX4_readsRider_13 : decode cX4_readsRider 13 = .ok (.istore_n 1, 1) := dk_60 (dk_at dksX4_readsRider_0 13 rfl rfl)
theorem dX4_readsRider_14 : decode cX4_readsRider 14 = .ok (.aload_n 0, 1) := dk_42 (dk_at dksX4_readsRider_0 14 rfl rfl)
theorem dX4_readsRider_15 : decode cX4_readsRider 15 = .ok (.aload_n 0, 1) := dk_42 (dk_at dksX4_readsRider_0 15 rfl rfl)
theorem dX4_readsRider_16 : decode cX4_readsRider 16 = .ok (.getfield 17, 3) := dk_180 0 17 (dk_at dksX4_readsRider_0 16 rfl rfl)
theorem dX4_readsRider_19 : decode cX4_readsRider 19 = .ok (.iconst 0, 1) := dk_3 (dk_at dksX4_readsRider_0 19 rfl rfl)
theorem dX4_readsRider_20 : decode cX4_readsRider 20 = .ok (.iaload, 1) := dk_46 (dk_at dksX4_readsRider_0 20 rfl rfl)
theorem dX4_readsRider_21 : decode cX4_readsRider 21 = .ok (.iconst 1, 1) := dk_4 (dk_at dksX4_readsRider_0 21 rfl rfl)
theorem dX4_readsRider_22 : decode cX4_readsRider 22 = .ok (.isub, 1) := dk_100 (dk_at dksX4_readsRider_0 22 rfl rfl)
theorem dX4_readsRider_23 : decode cX4_readsRider 23 = .ok (.iload_n 1, 1) := dk_27 (dk_at dksX4_readsRider_0 23 rfl rfl)
theorem dX4_readsRider_24 : decode cX4_readsRider 24 = .ok (.invokevirtual 220, 3) := dk_182 0 220 (dk_at dksX4_readsRider_1 0 rfl rfl)
theorem dX4_readsRider_27 : decode cX4_readsRider 27 = .ok (.istore_n 2, 1) := dk_61 (dk_at dksX4_readsRider_1 3 rfl rfl)
theorem dX4_readsRider_28 : decode cX4_readsRider 28 = .ok (.aload_n 0, 1) := dk_42 (dk_at dksX4_readsRider_1 4 rfl rfl)
theorem dX4_readsRider_29 : decode cX4_readsRider 29 = .ok (.iconst 0, 1) := dk_3 (dk_at dksX4_readsRider_1 5 rfl rfl)
theorem dX4_readsRider_30 : decode cX4_readsRider 30 = .ok (.bipush 99, 2) := dk_16 99 (dk_at dksX4_readsRider_1 6 rfl rfl)
theorem dX4_readsRider_32 : decode cX4_readsRider 32 = .ok (.invokevirtual 216, 3) := dk_182 0 216 (dk_at dksX4_readsRider_1 8 rfl rfl)
theorem dX4_readsRider_35 : decode cX4_readsRider 35 = .ok (.istore_n 3, 1) := dk_62 (dk_at dksX4_readsRider_1 11 rfl rfl)
theorem dX4_readsRider_36 : decode cX4_readsRider 36 = .ok (.aload_n 0, 1) := dk_42 (dk_at dksX4_readsRider_1 12 rfl rfl)
theorem dX4_readsRider_37 : decode cX4_readsRider 37 = .ok (.getfield 147, 3) := dk_180 0 147 (dk_at dksX4_readsRider_1 13 rfl rfl)
theorem dX4_readsRider_40 : decode cX4_readsRider 40 = .ok (.ifCond .eq 4, 3) := dk_153 0 4 (dk_at dksX4_readsRider_1 16 rfl rfl)
theorem dX4_readsRider_43 : decode cX4_readsRider 43 = .ok (.return_, 1) := dk_177 (dk_at dksX4_readsRider_1 19 rfl rfl)
theorem dX4_readsRider_44 : decode cX4_readsRider 44 = .ok (.aload_n 0, 1) := dk_42 (dk_at dksX4_readsRider_1 20 rfl rfl)
theorem dX4_readsRider_45 : decode cX4_readsRider 45 = .ok (.getfield 37, 3) := dk_180 0 37 (dk_at dksX4_readsRider_1 21 rfl rfl)
theorem dX4_readsRider_48 : decode cX4_readsRider 48 = .ok (.aload_n 0, 1) := dk_42 (dk_at dksX4_readsRider_2 0 rfl rfl)
theorem dX4_readsRider_49 : decode cX4_readsRider 49 = .ok (.getfield 17, 3) := dk_180 0 17 (dk_at dksX4_readsRider_2 1 rfl rfl)
theorem dX4_readsRider_52 : decode cX4_readsRider 52 = .ok (.iconst 3, 1) := dk_6 (dk_at dksX4_readsRider_2 4 rfl rfl)
theorem dX4_readsRider_53 : decode cX4_readsRider 53 = .ok (.iaload, 1) := dk_46 (dk_at dksX4_readsRider_2 5 rfl rfl)
theorem dX4_readsRider_54 : decode cX4_readsRider 54 = .ok (.aaload, 1) := dk_50 (dk_at dksX4_readsRider_2 6 rfl rfl)
theorem dX4_readsRider_55 : decode cX4_readsRider 55 = .ok (.astore 4, 2) := dk_58 4 (dk_at dksX4_readsRider_2 7 rfl rfl)
theorem dX4_readsRider_57 : decode cX4_readsRider 57 = .ok (.aload 4, 2) := dk_25 4 (dk_at dksX4_readsRider_2 9 rfl rfl)
theorem dX4_readsRider_59 : decode cX4_readsRider 59 = .ok (.iconst 0, 1) := dk_3 (dk_at dksX4_readsRider_2 11 rfl rfl)
theorem dX4_readsRider_60 : decode cX4_readsRider 60 = .ok (.iload_n 1, 1) := dk_27 (dk_at dksX4_readsRider_2 12 rfl rfl)
theorem dX4_readsRider_61 : decode cX4_readsRider 61 = .ok (.iastore, 1) := dk_79 (dk_at dksX4_readsRider_2 13 rfl rfl)
theorem dX4_readsRider_62 : decode cX4_readsRider 62 = .ok (.aload 4, 2) := dk_25 4 (dk_at dksX4_readsRider_2 14 rfl rfl)
theorem dX4_readsRider_64 : decode cX4_readsRider 64 = .ok (.iconst 1, 1) := dk_4 (dk_at dksX4_readsRider_2 16 rfl rfl)
theorem dX4_readsRider_65 : decode cX4_readsRider 65 = .ok (.iload_n 2, 1) := dk_28 (dk_at dksX4_readsRider_2 17 rfl rfl)
theorem dX4_readsRider_66 : decode cX4_readsRider 66 = .ok (.iastore, 1) := dk_79 (dk_at dksX4_readsRider_2 18 rfl rfl)
theorem dX4_readsRider_67 : decode cX4_readsRider 67 = .ok (.aload 4, 2) := dk_25 4 (dk_at dksX4_readsRider_2 19 rfl rfl)
theorem dX4_readsRider_69 : decode cX4_readsRider 69 = .ok (.iconst 2, 1) := dk_5 (dk_at dksX4_readsRider_2 21 rfl rfl)
theorem dX4_readsRider_70 : decode cX4_readsRider 70 = .ok (.iload_n 3, 1) := dk_29 (dk_at dksX4_readsRider_2 22 rfl rfl)
theorem dX4_readsRider_71 : decode cX4_readsRider 71 = .ok (.iastore, 1) := dk_79 (dk_at dksX4_readsRider_2 23 rfl rfl)
theorem dX4_readsRider_72 : decode cX4_readsRider 72 = .ok (.aload_n 0, 1) := dk_42 (dk_at dksX4_readsRider_3 0 rfl rfl)
theorem dX4_readsRider_73 : decode cX4_readsRider 73 = .ok (.getfield 17, 3) := dk_180 0 17 (dk_at dksX4_readsRider_3 1 rfl rfl)
theorem dX4_readsRider_76 : decode cX4_readsRider 76 = .ok (.iconst 3, 1) := dk_6 (dk_at dksX4_readsRider_3 4 rfl rfl)
theorem dX4_readsRider_77 : decode cX4_readsRider 77 = .ok (.dup2, 1) := dk_92 (dk_at dksX4_readsRider_3 5 rfl rfl)
theorem dX4_readsRider_78 : decode cX4_readsRider 78 = .ok (.iaload, 1) := dk_46 (dk_at dksX4_readsRider_3 6 rfl rfl)
theorem dX4_readsRider_79 : decode cX4_readsRider 79 = .ok (.iconst 1, 1) := dk_4 (dk_at dksX4_readsRider_3 7 rfl rfl)
theorem dX4_readsRider_80 : decode cX4_readsRider 80 = .ok (.iadd, 1) := dk_96 (dk_at dksX4_readsRider_3 8 rfl rfl)
theorem dX4_readsRider_81 : decode cX4_readsRider 81 = .ok (.iastore, 1) := dk_79 (dk_at dksX4_readsRider_3 9 rfl rfl)
theorem dX4_readsRider_82 : decode cX4_readsRider 82 = .ok (.return_, 1) := dk_177 (dk_at dksX4_readsRider_3 10 rfl rfl)
abbrev cX4_closes : ByteArray := prog_10_method_15_code
def yX4_closes : MethodName := ⟨RX4, "closes", "(I)V"⟩
def dkwX4_closes_1 : List UInt8 := [42, 89, 180, 0, 140, 4, 96, 181, 0, 140, 167, 0, 12, 42, 4, 42, 180, 0, 140, 182, 0, 160, 177]
abbrev dktX4_closes_1 : List UInt8 := dkwX4_closes_1 ++ []
def dkwX4_closes_0 : List UInt8 := [42, 180, 0, 147, 153, 0, 4, 177, 42, 182, 0, 153, 42, 42, 180, 0, 140, 182, 0, 143, 27, 160, 0, 16]
abbrev dktX4_closes_0 : List UInt8 := dkwX4_closes_0 ++ dktX4_closes_1
theorem dksX4_closes_0 : cX4_closes.data.toList.drop 0 = dktX4_closes_0 := by decide +kernel
theorem dksX4_closes_1 : cX4_closes.data.toList.drop 24 = dktX4_closes_1 := dk_seg dksX4_closes_0 24 rfl rfl
theorem dX4_closes_0 : decode cX4_closes 0 = .ok (.aload_n 0, 1) := dk_42 (dk_at dksX4_closes_0 0 rfl rfl)
theorem dX4_closes_1 : decode cX4_closes 1 = .ok (.getfield 147, 3) := dk_180 0 147 (dk_at dksX4_closes_0 1 rfl rfl)
theorem dX4_closes_4 : decode cX4_closes 4 = .ok (.ifCond .eq 4, 3) := dk_153 0 4 (dk_at dksX4_closes_0 4 rfl rfl)
theorem dX4_closes_7 : decode cX4_closes 7 = .ok (.return_, 1) := dk_177 (dk_at dksX4_closes_0 7 rfl rfl)
theorem dX4_closes_8 : decode cX4_closes 8 = .ok (.aload_n 0, 1) := dk_42 (dk_at dksX4_closes_0 8 rfl rfl)
theorem dX4_closes_9 : decode cX4_closes 9 = .ok (.invokevirtual 153, 3) := dk_182 0 153 (dk_at dksX4_closes_0 9 rfl rfl)
theorem dX4_closes_12 : decode cX4_closes 12 = .ok (.aload_n 0, 1) := dk_42 (dk_at dksX4_closes_0 12 rfl rfl)
theorem dX4_closes_13 : decode cX4_closes 13 = .ok (.aload_n 0, 1) := dk_42 (dk_at dksX4_closes_0 13 rfl rfl)
theorem dX4_closes_14 : decode cX4_closes 14 = .ok (.getfield 140, 3) := dk_180 0 140 (dk_at dksX4_closes_0 14 rfl rfl)
theorem dX4_closes_17 : decode cX4_closes 17 = .ok (.invokevirtual 143, 3) := dk_182 0 143 (dk_at dksX4_closes_0 17 rfl rfl)
theorem dX4_closes_20 : decode cX4_closes 20 = .ok (.iload_n 1, 1) := dk_27 (dk_at dksX4_closes_0 20 rfl rfl)
theorem dX4_closes_21 : decode cX4_closes 21 = .ok (.if_icmp .ne 16, 3) := dk_160 0 16 (dk_at dksX4_closes_0 21 rfl rfl)
theorem dX4_closes_24 : decode cX4_closes 24 = .ok (.aload_n 0, 1) := dk_42 (dk_at dksX4_closes_1 0 rfl rfl)
theorem dX4_closes_25 : decode cX4_closes 25 = .ok (.dup, 1) := dk_89 (dk_at dksX4_closes_1 1 rfl rfl)
theorem dX4_closes_26 : decode cX4_closes 26 = .ok (.getfield 140, 3) := dk_180 0 140 (dk_at dksX4_closes_1 2 rfl rfl)
theorem dX4_closes_29 : decode cX4_closes 29 = .ok (.iconst 1, 1) := dk_4 (dk_at dksX4_closes_1 5 rfl rfl)
theorem dX4_closes_30 : decode cX4_closes 30 = .ok (.iadd, 1) := dk_96 (dk_at dksX4_closes_1 6 rfl rfl)
theorem dX4_closes_31 : decode cX4_closes 31 = .ok (.putfield 140, 3) := dk_181 0 140 (dk_at dksX4_closes_1 7 rfl rfl)
theorem dX4_closes_34 : decode cX4_closes 34 = .ok (.goto 12, 3) := dk_167 0 12 (dk_at dksX4_closes_1 10 rfl rfl)
theorem dX4_closes_37 : decode cX4_closes 37 = .ok (.aload_n 0, 1) := dk_42 (dk_at dksX4_closes_1 13 rfl rfl)
theorem dX4_closes_38 : decode cX4_closes 38 = .ok (.iconst 1, 1) := dk_4 (dk_at dksX4_closes_1 14 rfl rfl)
theorem dX4_closes_39 : decode cX4_closes 39 = .ok (.aload_n 0, 1) := dk_42 (dk_at dksX4_closes_1 15 rfl rfl)
theorem dX4_closes_40 : decode cX4_closes 40 = .ok (.getfield 140, 3) := dk_180 0 140 (dk_at dksX4_closes_1 16 rfl rfl)
theorem dX4_closes_43 : decode cX4_closes 43 = .ok (.invokevirtual 160, 3) := dk_182 0 160 (dk_at dksX4_closes_1 19 rfl rfl)
theorem dX4_closes_46 : decode cX4_closes 46 = .ok (.return_, 1) := dk_177 (dk_at dksX4_closes_1 22 rfl rfl)
abbrev cX4_copies : ByteArray := prog_10_method_27_code
def yX4_copies : MethodName := ⟨RX4, "copies", "([[I[[I)V"⟩
def dkwX4_copies_1 : List UInt8 := [50, 29, 46, 79, 132, 3, 1, 167, 255, 235, 132, 2, 1, 167, 255, 221, 177]
abbrev dktX4_copies_1 : List UInt8 := dkwX4_copies_1 ++ []
def dkwX4_copies_0 : List UInt8 := [3, 61, 28, 42, 190, 162, 0, 35, 3, 62, 29, 42, 28, 50, 190, 162, 0, 19, 43, 28, 50, 29, 42, 28]
abbrev dktX4_copies_0 : List UInt8 := dkwX4_copies_0 ++ dktX4_copies_1
theorem dksX4_copies_0 : cX4_copies.data.toList.drop 0 = dktX4_copies_0 := by decide +kernel
theorem dksX4_copies_1 : cX4_copies.data.toList.drop 24 = dktX4_copies_1 := dk_seg dksX4_copies_0 24 rfl rfl
theorem dX4_copies_0 : decode cX4_copies 0 = .ok (.iconst 0, 1) := dk_3 (dk_at dksX4_copies_0 0 rfl rfl)
theorem dX4_copies_1 : decode cX4_copies 1 = .ok (.istore_n 2, 1) := dk_61 (dk_at dksX4_copies_0 1 rfl rfl)
theorem dX4_copies_2 : decode cX4_copies 2 = .ok (.iload_n 2, 1) := dk_28 (dk_at dksX4_copies_0 2 rfl rfl)
theorem dX4_copies_3 : decode cX4_copies 3 = .ok (.aload_n 0, 1) := dk_42 (dk_at dksX4_copies_0 3 rfl rfl)
theorem dX4_copies_4 : decode cX4_copies 4 = .ok (.arraylength, 1) := dk_190 (dk_at dksX4_copies_0 4 rfl rfl)
theorem dX4_copies_5 : decode cX4_copies 5 = .ok (.if_icmp .ge 35, 3) := dk_162 0 35 (dk_at dksX4_copies_0 5 rfl rfl)
theorem dX4_copies_8 : decode cX4_copies 8 = .ok (.iconst 0, 1) := dk_3 (dk_at dksX4_copies_0 8 rfl rfl)
theorem dX4_copies_9 : decode cX4_copies 9 = .ok (.istore_n 3, 1) := dk_62 (dk_at dksX4_copies_0 9 rfl rfl)
theorem dX4_copies_10 : decode cX4_copies 10 = .ok (.iload_n 3, 1) := dk_29 (dk_at dksX4_copies_0 10 rfl rfl)
theorem dX4_copies_11 : decode cX4_copies 11 = .ok (.aload_n 0, 1) := dk_42 (dk_at dksX4_copies_0 11 rfl rfl)
theorem dX4_copies_12 : decode cX4_copies 12 = .ok (.iload_n 2, 1) := dk_28 (dk_at dksX4_copies_0 12 rfl rfl)
theorem dX4_copies_13 : decode cX4_copies 13 = .ok (.aaload, 1) := dk_50 (dk_at dksX4_copies_0 13 rfl rfl)
theorem dX4_copies_14 : decode cX4_copies 14 = .ok (.arraylength, 1) := dk_190 (dk_at dksX4_copies_0 14 rfl rfl)
theorem dX4_copies_15 : decode cX4_copies 15 = .ok (.if_icmp .ge 19, 3) := dk_162 0 19 (dk_at dksX4_copies_0 15 rfl rfl)
theorem dX4_copies_18 : decode cX4_copies 18 = .ok (.aload_n 1, 1) := dk_43 (dk_at dksX4_copies_0 18 rfl rfl)
theorem dX4_copies_19 : decode cX4_copies 19 = .ok (.iload_n 2, 1) := dk_28 (dk_at dksX4_copies_0 19 rfl rfl)
theorem dX4_copies_20 : decode cX4_copies 20 = .ok (.aaload, 1) := dk_50 (dk_at dksX4_copies_0 20 rfl rfl)
theorem dX4_copies_21 : decode cX4_copies 21 = .ok (.iload_n 3, 1) := dk_29 (dk_at dksX4_copies_0 21 rfl rfl)
theorem dX4_copies_22 : decode cX4_copies 22 = .ok (.aload_n 0, 1) := dk_42 (dk_at dksX4_copies_0 22 rfl rfl)
theorem dX4_copies_23 : decode cX4_copies 23 = .ok (.iload_n 2, 1) := dk_28 (dk_at dksX4_copies_0 23 rfl rfl)
theorem dX4_copies_24 : decode cX4_copies 24 = .ok (.aaload, 1) := dk_50 (dk_at dksX4_copies_1 0 rfl rfl)
theorem dX4_copies_25 : decode cX4_copies 25 = .ok (.iload_n 3, 1) := dk_29 (dk_at dksX4_copies_1 1 rfl rfl)
theorem dX4_copies_26 : decode cX4_copies 26 = .ok (.iaload, 1) := dk_46 (dk_at dksX4_copies_1 2 rfl rfl)
theorem dX4_copies_27 : decode cX4_copies 27 = .ok (.iastore, 1) := dk_79 (dk_at dksX4_copies_1 3 rfl rfl)
theorem dX4_copies_28 : decode cX4_copies 28 = .ok (.iinc 3 1, 3) := dk_132 3 1 (dk_at dksX4_copies_1 4 rfl rfl)
theorem dX4_copies_31 : decode cX4_copies 31 = .ok (.goto (-21), 3) := dk_167 255 235 (dk_at dksX4_copies_1 7 rfl rfl)
theorem dX4_copies_34 : decode cX4_copies 34 = .ok (.iinc 2 1, 3) := dk_132 2 1 (dk_at dksX4_copies_1 10 rfl rfl)
theorem dX4_copies_37 : decode cX4_copies 37 = .ok (.goto (-35), 3) := dk_167 255 221 (dk_at dksX4_copies_1 13 rfl rfl)
theorem dX4_copies_40 : decode cX4_copies 40 = .ok (.return_, 1) := dk_177 (dk_at dksX4_copies_1 16 rfl rfl)
abbrev cX4_findLefts : ByteArray := prog_10_method_36_code
def yX4_findLefts : MethodName := ⟨RX4, "findLefts", "()V"⟩
def dkwX4_findLefts_6 : List UInt8 := [89, 180, 1, 3, 4, 96, 181, 1, 3, 132, 2, 1, 167, 255, 121, 132, 1, 1, 167, 255, 103, 177]
abbrev dktX4_findLefts_6 : List UInt8 := dkwX4_findLefts_6 ++ []
def dkwX4_findLefts_5 : List UInt8 := [180, 0, 71, 42, 180, 1, 3, 50, 3, 27, 79, 42, 180, 0, 71, 42, 180, 1, 3, 50, 4, 28, 79, 42]
abbrev dktX4_findLefts_5 : List UInt8 := dkwX4_findLefts_5 ++ dktX4_findLefts_6
def dkwX4_findLefts_4 : List UInt8 := [160, 0, 7, 4, 167, 0, 4, 3, 62, 132, 4, 1, 167, 255, 183, 29, 154, 0, 6, 167, 0, 37, 42]
abbrev dktX4_findLefts_4 : List UInt8 := dkwX4_findLefts_4 ++ dktX4_findLefts_5
def dkwX4_findLefts_3 : List UInt8 := [153, 0, 31, 42, 5, 27, 104, 21, 4, 5, 108, 96, 5, 28, 104, 21, 4, 5, 112, 96, 182, 1, 9, 6]
abbrev dktX4_findLefts_3 : List UInt8 := dkwX4_findLefts_3 ++ dktX4_findLefts_4
def dkwX4_findLefts_2 : List UInt8 := [21, 4, 5, 108, 96, 182, 1, 6, 153, 0, 46, 42, 5, 28, 104, 21, 4, 5, 112, 96, 182, 1, 6]
abbrev dktX4_findLefts_2 : List UInt8 := dkwX4_findLefts_2 ++ dktX4_findLefts_3
def dkwX4_findLefts_1 : List UInt8 := [4, 46, 162, 0, 131, 3, 62, 3, 54, 4, 21, 4, 7, 162, 0, 73, 29, 154, 0, 57, 42, 5, 27, 104]
abbrev dktX4_findLefts_1 : List UInt8 := dkwX4_findLefts_1 ++ dktX4_findLefts_2
def dkwX4_findLefts_0 : List UInt8 := [42, 3, 181, 1, 3, 3, 60, 27, 42, 180, 0, 20, 4, 46, 162, 0, 149, 3, 61, 28, 42, 180, 0, 20]
abbrev dktX4_findLefts_0 : List UInt8 := dkwX4_findLefts_0 ++ dktX4_findLefts_1
theorem dksX4_findLefts_0 : cX4_findLefts.data.toList.drop 0 = dktX4_findLefts_0 := by decide +kernel
theorem dksX4_findLefts_1 : cX4_findLefts.data.toList.drop 24 = dktX4_findLefts_1 := dk_seg dksX4_findLefts_0 24 rfl rfl
theorem dksX4_findLefts_2 : cX4_findLefts.data.toList.drop 48 = dktX4_findLefts_2 := dk_seg dksX4_findLefts_1 24 rfl rfl
theorem dksX4_findLefts_3 : cX4_findLefts.data.toList.drop 71 = dktX4_findLefts_3 := dk_seg dksX4_findLefts_2 23 rfl rfl
theorem dksX4_findLefts_4 : cX4_findLefts.data.toList.drop 95 = dktX4_findLefts_4 := dk_seg dksX4_findLefts_3 24 rfl rfl
theorem dksX4_findLefts_5 : cX4_findLefts.data.toList.drop 118 = dktX4_findLefts_5 := dk_seg dksX4_findLefts_4 23 rfl rfl
theorem dksX4_findLefts_6 : cX4_findLefts.data.toList.drop 142 = dktX4_findLefts_6 := dk_seg dksX4_findLefts_5 24 rfl rfl
theorem dX4_findLefts_0 : decode cX4_findLefts 0 = .ok (.aload_n 0, 1) := dk_42 (dk_at dksX4_findLefts_0 0 rfl rfl)
theorem dX4_findLefts_1 : decode cX4_findLefts 1 = .ok (.iconst 0, 1) := dk_3 (dk_at dksX4_findLefts_0 1 rfl rfl)
theorem dX4_findLefts_2 : decode cX4_findLefts 2 = .ok (.putfield 259, 3) := dk_181 1 3 (dk_at dksX4_findLefts_0 2 rfl rfl)
theorem dX4_findLefts_5 : decode cX4_findLefts 5 = .ok (.iconst 0, 1) := dk_3 (dk_at dksX4_findLefts_0 5 rfl rfl)
theorem dX4_findLefts_6 : decode cX4_findLefts 6 = .ok (.istore_n 1, 1) := dk_60 (dk_at dksX4_findLefts_0 6 rfl rfl)
theorem dX4_findLefts_7 : decode cX4_findLefts 7 = .ok (.iload_n 1, 1) := dk_27 (dk_at dksX4_findLefts_0 7 rfl rfl)
theorem dX4_findLefts_8 : decode cX4_findLefts 8 = .ok (.aload_n 0, 1) := dk_42 (dk_at dksX4_findLefts_0 8 rfl rfl)
theorem dX4_findLefts_9 : decode cX4_findLefts 9 = .ok (.getfield 20, 3) := dk_180 0 20 (dk_at dksX4_findLefts_0 9 rfl rfl)
theorem dX4_findLefts_12 : decode cX4_findLefts 12 = .ok (.iconst 1, 1) := dk_4 (dk_at dksX4_findLefts_0 12 rfl rfl)
theorem dX4_findLefts_13 : decode cX4_findLefts 13 = .ok (.iaload, 1) := dk_46 (dk_at dksX4_findLefts_0 13 rfl rfl)
theorem dX4_findLefts_14 : decode cX4_findLefts 14 = .ok (.if_icmp .ge 149, 3) := dk_162 0 149 (dk_at dksX4_findLefts_0 14 rfl rfl)
theorem dX4_findLefts_17 : decode cX4_findLefts 17 = .ok (.iconst 0, 1) := dk_3 (dk_at dksX4_findLefts_0 17 rfl rfl)
theorem dX4_findLefts_18 : decode cX4_findLefts 18 = .ok (.istore_n 2, 1) := dk_61 (dk_at dksX4_findLefts_0 18 rfl rfl)
theorem dX4_findLefts_19 : decode cX4_findLefts 19 = .ok (.iload_n 2, 1) := dk_28 (dk_at dksX4_findLefts_0 19 rfl rfl)
theorem dX4_findLefts_20 : decode cX4_findLefts 20 = .ok (.aload_n 0, 1) := dk_42 (dk_at dksX4_findLefts_0 20 rfl rfl)
theorem dX4_findLefts_21 : decode cX4_findLefts 21 = .ok (.getfield 20, 3) := dk_180 0 20 (dk_at dksX4_findLefts_0 21 rfl rfl)
theorem dX4_findLefts_24 : decode cX4_findLefts 24 = .ok (.iconst 1, 1) := dk_4 (dk_at dksX4_findLefts_1 0 rfl rfl)
theorem dX4_findLefts_25 : decode cX4_findLefts 25 = .ok (.iaload, 1) := dk_46 (dk_at dksX4_findLefts_1 1 rfl rfl)
theorem dX4_findLefts_26 : decode cX4_findLefts 26 = .ok (.if_icmp .ge 131, 3) := dk_162 0 131 (dk_at dksX4_findLefts_1 2 rfl rfl)
theorem dX4_findLefts_29 : decode cX4_findLefts 29 = .ok (.iconst 0, 1) := dk_3 (dk_at dksX4_findLefts_1 5 rfl rfl)
theorem dX4_findLefts_30 : decode cX4_findLefts 30 = .ok (.istore_n 3, 1) := dk_62 (dk_at dksX4_findLefts_1 6 rfl rfl)
theorem dX4_findLefts_31 : decode cX4_findLefts 31 = .ok (.iconst 0, 1) := dk_3 (dk_at dksX4_findLefts_1 7 rfl rfl)
theorem dX4_findLefts_32 : decode cX4_findLefts 32 = .ok (.istore 4, 2) := dk_54 4 (dk_at dksX4_findLefts_1 8 rfl rfl)
theorem dX4_findLefts_34 : decode cX4_findLefts 34 = .ok (.iload 4, 2) := dk_21 4 (dk_at dksX4_findLefts_1 10 rfl rfl)
theorem dX4_findLefts_36 : decode cX4_findLefts 36 = .ok (.iconst 4, 1) := dk_7 (dk_at dksX4_findLefts_1 12 rfl rfl)
theorem dX4_findLefts_37 : decode cX4_findLefts 37 = .ok (.if_icmp .ge 73, 3) := dk_162 0 73 (dk_at dksX4_findLefts_1 13 rfl rfl)
theorem dX4_findLefts_40 : decode cX4_findLefts 40 = .ok (.iload_n 3, 1) := dk_29 (dk_at dksX4_findLefts_1 16 rfl rfl)
theorem dX4_findLefts_41 : decode cX4_findLefts 41 = .ok (.ifCond .ne 57, 3) := dk_154 0 57 (dk_at dksX4_findLefts_1 17 rfl rfl)
theorem dX4_findLefts_44 : decode cX4_findLefts 44 = .ok (.aload_n 0, 1) := dk_42 (dk_at dksX4_findLefts_1 20 rfl rfl)
theorem dX4_findLefts_45 : decode cX4_findLefts 45 = .ok (.iconst 2, 1) := dk_5 (dk_at dksX4_findLefts_1 21 rfl rfl)
theorem dX4_findLefts_46 : decode cX4_findLefts 46 = .ok (.iload_n 1, 1) := dk_27 (dk_at dksX4_findLefts_1 22 rfl rfl)
theorem dX4_findLefts_47 : decode cX4_findLefts 47 = .ok (.imul, 1) := dk_104 (dk_at dksX4_findLefts_1 23 rfl rfl)
theorem dX4_findLefts_48 : decode cX4_findLefts 48 = .ok (.iload 4, 2) := dk_21 4 (dk_at dksX4_findLefts_2 0 rfl rfl)
theorem dX4_findLefts_50 : decode cX4_findLefts 50 = .ok (.iconst 2, 1) := dk_5 (dk_at dksX4_findLefts_2 2 rfl rfl)
theorem dX4_findLefts_51 : decode cX4_findLefts 51 = .ok (.idiv, 1) := dk_108 (dk_at dksX4_findLefts_2 3 rfl rfl)
theorem dX4_findLefts_52 : decode cX4_findLefts 52 = .ok (.iadd, 1) := dk_96 (dk_at dksX4_findLefts_2 4 rfl rfl)
theorem dX4_findLefts_53 : decode cX4_findLefts 53 = .ok (.invokevirtual 262, 3) := dk_182 1 6 (dk_at dksX4_findLefts_2 5 rfl rfl)
theorem dX4_findLefts_56 : decode cX4_findLefts 56 = .ok (.ifCond .eq 46, 3) := dk_153 0 46 (dk_at dksX4_findLefts_2 8 rfl rfl)
theorem dX4_findLefts_59 : decode cX4_findLefts 59 = .ok (.aload_n 0, 1) := dk_42 (dk_at dksX4_findLefts_2 11 rfl rfl)
theorem dX4_findLefts_60 : decode cX4_findLefts 60 = .ok (.iconst 2, 1) := dk_5 (dk_at dksX4_findLefts_2 12 rfl rfl)
theorem dX4_findLefts_61 : decode cX4_findLefts 61 = .ok (.iload_n 2, 1) := dk_28 (dk_at dksX4_findLefts_2 13 rfl rfl)
theorem dX4_findLefts_62 : decode cX4_findLefts 62 = .ok (.imul, 1) := dk_104 (dk_at dksX4_findLefts_2 14 rfl rfl)
theorem dX4_findLefts_63 : decode cX4_findLefts 63 = .ok (.iload 4, 2) := dk_21 4 (dk_at dksX4_findLefts_2 15 rfl rfl)
theorem dX4_findLefts_65 : decode cX4_findLefts 65 = .ok (.iconst 2, 1) := dk_5 (dk_at dksX4_findLefts_2 17 rfl rfl)
theorem dX4_findLefts_66 : decode cX4_findLefts 66 = .ok (.irem, 1) := dk_112 (dk_at dksX4_findLefts_2 18 rfl rfl)
theorem dX4_findLefts_67 : decode cX4_findLefts 67 = .ok (.iadd, 1) := dk_96 (dk_at dksX4_findLefts_2 19 rfl rfl)
theorem dX4_findLefts_68 : decode cX4_findLefts 68 = .ok (.invokevirtual 262, 3) := dk_182 1 6 (dk_at dksX4_findLefts_2 20 rfl rfl)
theorem dX4_findLefts_71 : decode cX4_findLefts 71 = .ok (.ifCond .eq 31, 3) := dk_153 0 31 (dk_at dksX4_findLefts_3 0 rfl rfl)
theorem dX4_findLefts_74 : decode cX4_findLefts 74 = .ok (.aload_n 0, 1) := dk_42 (dk_at dksX4_findLefts_3 3 rfl rfl)
theorem dX4_findLefts_75 : decode cX4_findLefts 75 = .ok (.iconst 2, 1) := dk_5 (dk_at dksX4_findLefts_3 4 rfl rfl)
theorem dX4_findLefts_76 : decode cX4_findLefts 76 = .ok (.iload_n 1, 1) := dk_27 (dk_at dksX4_findLefts_3 5 rfl rfl)
theorem dX4_findLefts_77 : decode cX4_findLefts 77 = .ok (.imul, 1) := dk_104 (dk_at dksX4_findLefts_3 6 rfl rfl)
theorem dX4_findLefts_78 : decode cX4_findLefts 78 = .ok (.iload 4, 2) := dk_21 4 (dk_at dksX4_findLefts_3 7 rfl rfl)
theorem dX4_findLefts_80 : decode cX4_findLefts 80 = .ok (.iconst 2, 1) := dk_5 (dk_at dksX4_findLefts_3 9 rfl rfl)
theorem dX4_findLefts_81 : decode cX4_findLefts 81 = .ok (.idiv, 1) := dk_108 (dk_at dksX4_findLefts_3 10 rfl rfl)
theorem dX4_findLefts_82 : decode cX4_findLefts 82 = .ok (.iadd, 1) := dk_96 (dk_at dksX4_findLefts_3 11 rfl rfl)
theorem dX4_findLefts_83 : decode cX4_findLefts 83 = .ok (.iconst 2, 1) := dk_5 (dk_at dksX4_findLefts_3 12 rfl rfl)
theorem dX4_findLefts_84 : decode cX4_findLefts 84 = .ok (.iload_n 2, 1) := dk_28 (dk_at dksX4_findLefts_3 13 rfl rfl)
theorem dX4_findLefts_85 : decode cX4_findLefts 85 = .ok (.imul, 1) := dk_104 (dk_at dksX4_findLefts_3 14 rfl rfl)
theorem dX4_findLefts_86 : decode cX4_findLefts 86 = .ok (.iload 4, 2) := dk_21 4 (dk_at dksX4_findLefts_3 15 rfl rfl)
theorem dX4_findLefts_88 : decode cX4_findLefts 88 = .ok (.iconst 2, 1) := dk_5 (dk_at dksX4_findLefts_3 17 rfl rfl)
theorem dX4_findLefts_89 : decode cX4_findLefts 89 = .ok (.irem, 1) := dk_112 (dk_at dksX4_findLefts_3 18 rfl rfl)
theorem dX4_findLefts_90 : decode cX4_findLefts 90 = .ok (.iadd, 1) := dk_96 (dk_at dksX4_findLefts_3 19 rfl rfl)
theorem dX4_findLefts_91 : decode cX4_findLefts 91 = .ok (.invokevirtual 265, 3) := dk_182 1 9 (dk_at dksX4_findLefts_3 20 rfl rfl)
theorem dX4_findLefts_94 : decode cX4_findLefts 94 = .ok (.iconst 3, 1) := dk_6 (dk_at dksX4_findLefts_3 23 rfl rfl)
theorem dX4_findLefts_95 : decode cX4_findLefts 95 = .ok (.if_icmp .ne 7, 3) := dk_160 0 7 (dk_at dksX4_findLefts_4 0 rfl rfl)
theorem dX4_findLefts_98 : decode cX4_findLefts 98 = .ok (.iconst 1, 1) := dk_4 (dk_at dksX4_findLefts_4 3 rfl rfl)
theorem dX4_findLefts_99 : decode cX4_findLefts 99 = .ok (.goto 4, 3) := dk_167 0 4 (dk_at dksX4_findLefts_4 4 rfl rfl)
theorem dX4_findLefts_102 : decode cX4_findLefts 102 = .ok (.iconst 0, 1) := dk_3 (dk_at dksX4_findLefts_4 7 rfl rfl)
theorem dX4_findLefts_103 : decode cX4_findLefts 103 = .ok (.istore_n 3, 1) := dk_62 (dk_at dksX4_findLefts_4 8 rfl rfl)
theorem dX4_findLefts_104 : decode cX4_findLefts 104 = .ok (.iinc 4 1, 3) := dk_132 4 1 (dk_at dksX4_findLefts_4 9 rfl rfl)
theorem dX4_findLefts_107 : decode cX4_findLefts 107 = .ok (.goto (-73), 3) := dk_167 255 183 (dk_at dksX4_findLefts_4 12 rfl rfl)
theorem dX4_findLefts_110 : decode cX4_findLefts 110 = .ok (.iload_n 3, 1) := dk_29 (dk_at dksX4_findLefts_4 15 rfl rfl)
theorem dX4_findLefts_111 : decode cX4_findLefts 111 = .ok (.ifCond .ne 6, 3) := dk_154 0 6 (dk_at dksX4_findLefts_4 16 rfl rfl)
theorem dX4_findLefts_114 : decode cX4_findLefts 114 = .ok (.goto 37, 3) := dk_167 0 37 (dk_at dksX4_findLefts_4 19 rfl rfl)
theorem dX4_findLefts_117 : decode cX4_findLefts 117 = .ok (.aload_n 0, 1) := dk_42 (dk_at dksX4_findLefts_4 22 rfl rfl)
theorem dX4_findLefts_118 : decode cX4_findLefts 118 = .ok (.getfield 71, 3) := dk_180 0 71 (dk_at dksX4_findLefts_5 0 rfl rfl)
theorem dX4_findLefts_121 : decode cX4_findLefts 121 = .ok (.aload_n 0, 1) := dk_42 (dk_at dksX4_findLefts_5 3 rfl rfl)
theorem dX4_findLefts_122 : decode cX4_findLefts 122 = .ok (.getfield 259, 3) := dk_180 1 3 (dk_at dksX4_findLefts_5 4 rfl rfl)
theorem dX4_findLefts_125 : decode cX4_findLefts 125 = .ok (.aaload, 1) := dk_50 (dk_at dksX4_findLefts_5 7 rfl rfl)
theorem dX4_findLefts_126 : decode cX4_findLefts 126 = .ok (.iconst 0, 1) := dk_3 (dk_at dksX4_findLefts_5 8 rfl rfl)
theorem dX4_findLefts_127 : decode cX4_findLefts 127 = .ok (.iload_n 1, 1) := dk_27 (dk_at dksX4_findLefts_5 9 rfl rfl)
theorem dX4_findLefts_128 : decode cX4_findLefts 128 = .ok (.iastore, 1) := dk_79 (dk_at dksX4_findLefts_5 10 rfl rfl)
theorem dX4_findLefts_129 : decode cX4_findLefts 129 = .ok (.aload_n 0, 1) := dk_42 (dk_at dksX4_findLefts_5 11 rfl rfl)
theorem dX4_findLefts_130 : decode cX4_findLefts 130 = .ok (.getfield 71, 3) := dk_180 0 71 (dk_at dksX4_findLefts_5 12 rfl rfl)
theorem dX4_findLefts_133 : decode cX4_findLefts 133 = .ok (.aload_n 0, 1) := dk_42 (dk_at dksX4_findLefts_5 15 rfl rfl)
theorem dX4_findLefts_134 : decode cX4_findLefts 134 = .ok (.getfield 259, 3) := dk_180 1 3 (dk_at dksX4_findLefts_5 16 rfl rfl)
theorem dX4_findLefts_137 : decode cX4_findLefts 137 = .ok (.aaload, 1) := dk_50 (dk_at dksX4_findLefts_5 19 rfl rfl)
theorem dX4_findLefts_138 : decode cX4_findLefts 138 = .ok (.iconst 1, 1) := dk_4 (dk_at dksX4_findLefts_5 20 rfl rfl)
theorem dX4_findLefts_139 : decode cX4_findLefts 139 = .ok (.iload_n 2, 1) := dk_28 (dk_at dksX4_findLefts_5 21 rfl rfl)
theorem dX4_findLefts_140 : decode cX4_findLefts 140 = .ok (.iastore, 1) := dk_79 (dk_at dksX4_findLefts_5 22 rfl rfl)
theorem dX4_findLefts_141 : decode cX4_findLefts 141 = .ok (.aload_n 0, 1) := dk_42 (dk_at dksX4_findLefts_5 23 rfl rfl)
theorem dX4_findLefts_142 : decode cX4_findLefts 142 = .ok (.dup, 1) := dk_89 (dk_at dksX4_findLefts_6 0 rfl rfl)
theorem dX4_findLefts_143 : decode cX4_findLefts 143 = .ok (.getfield 259, 3) := dk_180 1 3 (dk_at dksX4_findLefts_6 1 rfl rfl)
theorem dX4_findLefts_146 : decode cX4_findLefts 146 = .ok (.iconst 1, 1) := dk_4 (dk_at dksX4_findLefts_6 4 rfl rfl)
theorem dX4_findLefts_147 : decode cX4_findLefts 147 = .ok (.iadd, 1) := dk_96 (dk_at dksX4_findLefts_6 5 rfl rfl)
theorem dX4_findLefts_148 : decode cX4_findLefts 148 = .ok (.putfield 259, 3) := dk_181 1 3 (dk_at dksX4_findLefts_6 6 rfl rfl)
theorem dX4_findLefts_151 : decode cX4_findLefts 151 = .ok (.iinc 2 1, 3) := dk_132 2 1 (dk_at dksX4_findLefts_6 9 rfl rfl)
theorem dX4_findLefts_154 : decode cX4_findLefts 154 = .ok (.goto (-135), 3) := dk_167 255 121 (dk_at dksX4_findLefts_6 12 rfl rfl)
theorem dX4_findLefts_157 : decode cX4_findLefts 157 = .ok (.iinc 1 1, 3) := dk_132 1 1 (dk_at dksX4_findLefts_6 15 rfl rfl)
theorem dX4_findLefts_160 : decode cX4_findLefts 160 = .ok (.goto (-153), 3) := dk_167 255 103 (dk_at dksX4_findLefts_6 18 rfl rfl)
theorem dX4_findLefts_163 : decode cX4_findLefts 163 = .ok (.return_, 1) := dk_177 (dk_at dksX4_findLefts_6 21 rfl rfl)
abbrev cX4_isArc : ByteArray := prog_10_method_30_code
def yX4_isArc : MethodName := ⟨RX4, "isArc", "(I)Z"⟩
def dkwX4_isArc_1 : List UInt8 := [42, 180, 0, 34, 27, 5, 108, 50, 6, 46, 154, 0, 7, 4, 167, 0, 4, 3, 172]
abbrev dktX4_isArc_1 : List UInt8 := dkwX4_isArc_1 ++ []
def dkwX4_isArc_0 : List UInt8 := [27, 3, 5, 42, 180, 0, 20, 4, 46, 104, 4, 100, 184, 0, 165, 153, 0, 26, 27, 5, 112, 153, 0, 16]
abbrev dktX4_isArc_0 : List UInt8 := dkwX4_isArc_0 ++ dktX4_isArc_1
theorem dksX4_isArc_0 : cX4_isArc.data.toList.drop 0 = dktX4_isArc_0 := by decide +kernel
theorem dksX4_isArc_1 : cX4_isArc.data.toList.drop 24 = dktX4_isArc_1 := dk_seg dksX4_isArc_0 24 rfl rfl
theorem dX4_isArc_0 : decode cX4_isArc 0 = .ok (.iload_n 1, 1) := dk_27 (dk_at dksX4_isArc_0 0 rfl rfl)
theorem dX4_isArc_1 : decode cX4_isArc 1 = .ok (.iconst 0, 1) := dk_3 (dk_at dksX4_isArc_0 1 rfl rfl)
theorem dX4_isArc_2 : decode cX4_isArc 2 = .ok (.iconst 2, 1) := dk_5 (dk_at dksX4_isArc_0 2 rfl rfl)
theorem dX4_isArc_3 : decode cX4_isArc 3 = .ok (.aload_n 0, 1) := dk_42 (dk_at dksX4_isArc_0 3 rfl rfl)
theorem dX4_isArc_4 : decode cX4_isArc 4 = .ok (.getfield 20, 3) := dk_180 0 20 (dk_at dksX4_isArc_0 4 rfl rfl)
theorem dX4_isArc_7 : decode cX4_isArc 7 = .ok (.iconst 1, 1) := dk_4 (dk_at dksX4_isArc_0 7 rfl rfl)
theorem dX4_isArc_8 : decode cX4_isArc 8 = .ok (.iaload, 1) := dk_46 (dk_at dksX4_isArc_0 8 rfl rfl)
theorem dX4_isArc_9 : decode cX4_isArc 9 = .ok (.imul, 1) := dk_104 (dk_at dksX4_isArc_0 9 rfl rfl)
theorem dX4_isArc_10 : decode cX4_isArc 10 = .ok (.iconst 1, 1) := dk_4 (dk_at dksX4_isArc_0 10 rfl rfl)
theorem dX4_isArc_11 : decode cX4_isArc 11 = .ok (.isub, 1) := dk_100 (dk_at dksX4_isArc_0 11 rfl rfl)
theorem dX4_isArc_12 : decode cX4_isArc 12 = .ok (.invokestatic 165, 3) := dk_184 0 165 (dk_at dksX4_isArc_0 12 rfl rfl)
theorem dX4_isArc_15 : decode cX4_isArc 15 = .ok (.ifCond .eq 26, 3) := dk_153 0 26 (dk_at dksX4_isArc_0 15 rfl rfl)
theorem dX4_isArc_18 : decode cX4_isArc 18 = .ok (.iload_n 1, 1) := dk_27 (dk_at dksX4_isArc_0 18 rfl rfl)
theorem dX4_isArc_19 : decode cX4_isArc 19 = .ok (.iconst 2, 1) := dk_5 (dk_at dksX4_isArc_0 19 rfl rfl)
theorem dX4_isArc_20 : decode cX4_isArc 20 = .ok (.irem, 1) := dk_112 (dk_at dksX4_isArc_0 20 rfl rfl)
theorem dX4_isArc_21 : decode cX4_isArc 21 = .ok (.ifCond .eq 16, 3) := dk_153 0 16 (dk_at dksX4_isArc_0 21 rfl rfl)
theorem dX4_isArc_24 : decode cX4_isArc 24 = .ok (.aload_n 0, 1) := dk_42 (dk_at dksX4_isArc_1 0 rfl rfl)
theorem dX4_isArc_25 : decode cX4_isArc 25 = .ok (.getfield 34, 3) := dk_180 0 34 (dk_at dksX4_isArc_1 1 rfl rfl)
theorem dX4_isArc_28 : decode cX4_isArc 28 = .ok (.iload_n 1, 1) := dk_27 (dk_at dksX4_isArc_1 4 rfl rfl)
theorem dX4_isArc_29 : decode cX4_isArc 29 = .ok (.iconst 2, 1) := dk_5 (dk_at dksX4_isArc_1 5 rfl rfl)
theorem dX4_isArc_30 : decode cX4_isArc 30 = .ok (.idiv, 1) := dk_108 (dk_at dksX4_isArc_1 6 rfl rfl)
theorem dX4_isArc_31 : decode cX4_isArc 31 = .ok (.aaload, 1) := dk_50 (dk_at dksX4_isArc_1 7 rfl rfl)
theorem dX4_isArc_32 : decode cX4_isArc 32 = .ok (.iconst 3, 1) := dk_6 (dk_at dksX4_isArc_1 8 rfl rfl)
theorem dX4_isArc_33 : decode cX4_isArc 33 = .ok (.iaload, 1) := dk_46 (dk_at dksX4_isArc_1 9 rfl rfl)
theorem dX4_isArc_34 : decode cX4_isArc 34 = .ok (.ifCond .ne 7, 3) := dk_154 0 7 (dk_at dksX4_isArc_1 10 rfl rfl)
theorem dX4_isArc_37 : decode cX4_isArc 37 = .ok (.iconst 1, 1) := dk_4 (dk_at dksX4_isArc_1 13 rfl rfl)
theorem dX4_isArc_38 : decode cX4_isArc 38 = .ok (.goto 4, 3) := dk_167 0 4 (dk_at dksX4_isArc_1 14 rfl rfl)
theorem dX4_isArc_41 : decode cX4_isArc 41 = .ok (.iconst 0, 1) := dk_3 (dk_at dksX4_isArc_1 17 rfl rfl)
theorem dX4_isArc_42 : decode cX4_isArc 42 = .ok (.ireturn, 1) := dk_172 (dk_at dksX4_isArc_1 18 rfl rfl)
abbrev cX4_turnOf : ByteArray := prog_10_method_35_code
def yX4_turnOf : MethodName := ⟨RX4, "turnOf", "(II)I"⟩
def dkwX4_turnOf_4 : List UInt8 := [158, 0, 7, 5, 167, 0, 4, 3, 172]
abbrev dktX4_turnOf_4 : List UInt8 := dkwX4_turnOf_4 ++ []
def dkwX4_turnOf_3 : List UInt8 := [182, 1, 0, 42, 28, 3, 182, 1, 0, 104, 42, 27, 4, 182, 1, 0, 42, 28, 4, 182, 1, 0, 104, 96]
abbrev dktX4_turnOf_3 : List UInt8 := dkwX4_turnOf_3 ++ dktX4_turnOf_4
def dkwX4_turnOf_2 : List UInt8 := [182, 1, 0, 104, 100, 62, 29, 153, 0, 13, 29, 158, 0, 7, 6, 167, 0, 4, 4, 172, 42, 27, 3]
abbrev dktX4_turnOf_2 : List UInt8 := dkwX4_turnOf_2 ++ dktX4_turnOf_3
def dkwX4_turnOf_1 : List UInt8 := [3, 172, 42, 27, 3, 182, 1, 0, 42, 28, 4, 182, 1, 0, 104, 42, 27, 4, 182, 1, 0, 42, 28, 3]
abbrev dktX4_turnOf_1 : List UInt8 := dkwX4_turnOf_1 ++ dktX4_turnOf_2
def dkwX4_turnOf_0 : List UInt8 := [42, 27, 182, 0, 250, 42, 28, 182, 0, 253, 159, 0, 5, 2, 172, 27, 5, 108, 28, 5, 108, 160, 0, 5]
abbrev dktX4_turnOf_0 : List UInt8 := dkwX4_turnOf_0 ++ dktX4_turnOf_1
theorem dksX4_turnOf_0 : cX4_turnOf.data.toList.drop 0 = dktX4_turnOf_0 := by decide +kernel
theorem dksX4_turnOf_1 : cX4_turnOf.data.toList.drop 24 = dktX4_turnOf_1 := dk_seg dksX4_turnOf_0 24 rfl rfl
theorem dksX4_turnOf_2 : cX4_turnOf.data.toList.drop 48 = dktX4_turnOf_2 := dk_seg dksX4_turnOf_1 24 rfl rfl
theorem dksX4_turnOf_3 : cX4_turnOf.data.toList.drop 71 = dktX4_turnOf_3 := dk_seg dksX4_turnOf_2 23 rfl rfl
theorem dksX4_turnOf_4 : cX4_turnOf.data.toList.drop 95 = dktX4_turnOf_4 := dk_seg dksX4_turnOf_3 24 rfl rfl
theorem dX4_turnOf_0 : decode cX4_turnOf 0 = .ok (.aload_n 0, 1) := dk_42 (dk_at dksX4_turnOf_0 0 rfl rfl)
theorem dX4_turnOf_1 : decode cX4_turnOf 1 = .ok (.iload_n 1, 1) := dk_27 (dk_at dksX4_turnOf_0 1 rfl rfl)
theorem dX4_turnOf_2 : decode cX4_turnOf 2 = .ok (.invokevirtual 250, 3) := dk_182 0 250 (dk_at dksX4_turnOf_0 2 rfl rfl)
theorem dX4_turnOf_5 : decode cX4_turnOf 5 = .ok (.aload_n 0, 1) := dk_42 (dk_at dksX4_turnOf_0 5 rfl rfl)
theorem dX4_turnOf_6 : decode cX4_turnOf 6 = .ok (.iload_n 2, 1) := dk_28 (dk_at dksX4_turnOf_0 6 rfl rfl)
theorem dX4_turnOf_7 : decode cX4_turnOf 7 = .ok (.invokevirtual 253, 3) := dk_182 0 253 (dk_at dksX4_turnOf_0 7 rfl rfl)
theorem dX4_turnOf_10 : decode cX4_turnOf 10 = .ok (.if_icmp .eq 5, 3) := dk_159 0 5 (dk_at dksX4_turnOf_0 10 rfl rfl)
theorem dX4_turnOf_13 : decode cX4_turnOf 13 = .ok (.iconst (-1), 1) := dk_2 (dk_at dksX4_turnOf_0 13 rfl rfl)
theorem dX4_turnOf_14 : decode cX4_turnOf 14 = .ok (.ireturn, 1) := dk_172 (dk_at dksX4_turnOf_0 14 rfl rfl)
theorem dX4_turnOf_15 : decode cX4_turnOf 15 = .ok (.iload_n 1, 1) := dk_27 (dk_at dksX4_turnOf_0 15 rfl rfl)
theorem dX4_turnOf_16 : decode cX4_turnOf 16 = .ok (.iconst 2, 1) := dk_5 (dk_at dksX4_turnOf_0 16 rfl rfl)
theorem dX4_turnOf_17 : decode cX4_turnOf 17 = .ok (.idiv, 1) := dk_108 (dk_at dksX4_turnOf_0 17 rfl rfl)
theorem dX4_turnOf_18 : decode cX4_turnOf 18 = .ok (.iload_n 2, 1) := dk_28 (dk_at dksX4_turnOf_0 18 rfl rfl)
theorem dX4_turnOf_19 : decode cX4_turnOf 19 = .ok (.iconst 2, 1) := dk_5 (dk_at dksX4_turnOf_0 19 rfl rfl)
theorem dX4_turnOf_20 : decode cX4_turnOf 20 = .ok (.idiv, 1) := dk_108 (dk_at dksX4_turnOf_0 20 rfl rfl)
theorem dX4_turnOf_21 : decode cX4_turnOf 21 = .ok (.if_icmp .ne 5, 3) := dk_160 0 5 (dk_at dksX4_turnOf_0 21 rfl rfl)
theorem dX4_turnOf_24 : decode cX4_turnOf 24 = .ok (.iconst 0, 1) := dk_3 (dk_at dksX4_turnOf_1 0 rfl rfl)
theorem dX4_turnOf_25 : decode cX4_turnOf 25 = .ok (.ireturn, 1) := dk_172 (dk_at dksX4_turnOf_1 1 rfl rfl)
theorem dX4_turnOf_26 : decode cX4_turnOf 26 = .ok (.aload_n 0, 1) := dk_42 (dk_at dksX4_turnOf_1 2 rfl rfl)
theorem dX4_turnOf_27 : decode cX4_turnOf 27 = .ok (.iload_n 1, 1) := dk_27 (dk_at dksX4_turnOf_1 3 rfl rfl)
theorem dX4_turnOf_28 : decode cX4_turnOf 28 = .ok (.iconst 0, 1) := dk_3 (dk_at dksX4_turnOf_1 4 rfl rfl)
theorem dX4_turnOf_29 : decode cX4_turnOf 29 = .ok (.invokevirtual 256, 3) := dk_182 1 0 (dk_at dksX4_turnOf_1 5 rfl rfl)
theorem dX4_turnOf_32 : decode cX4_turnOf 32 = .ok (.aload_n 0, 1) := dk_42 (dk_at dksX4_turnOf_1 8 rfl rfl)
theorem dX4_turnOf_33 : decode cX4_turnOf 33 = .ok (.iload_n 2, 1) := dk_28 (dk_at dksX4_turnOf_1 9 rfl rfl)
theorem dX4_turnOf_34 : decode cX4_turnOf 34 = .ok (.iconst 1, 1) := dk_4 (dk_at dksX4_turnOf_1 10 rfl rfl)
theorem dX4_turnOf_35 : decode cX4_turnOf 35 = .ok (.invokevirtual 256, 3) := dk_182 1 0 (dk_at dksX4_turnOf_1 11 rfl rfl)
theorem dX4_turnOf_38 : decode cX4_turnOf 38 = .ok (.imul, 1) := dk_104 (dk_at dksX4_turnOf_1 14 rfl rfl)
theorem dX4_turnOf_39 : decode cX4_turnOf 39 = .ok (.aload_n 0, 1) := dk_42 (dk_at dksX4_turnOf_1 15 rfl rfl)
theorem dX4_turnOf_40 : decode cX4_turnOf 40 = .ok (.iload_n 1, 1) := dk_27 (dk_at dksX4_turnOf_1 16 rfl rfl)
theorem dX4_turnOf_41 : decode cX4_turnOf 41 = .ok (.iconst 1, 1) := dk_4 (dk_at dksX4_turnOf_1 17 rfl rfl)
theorem dX4_turnOf_42 : decode cX4_turnOf 42 = .ok (.invokevirtual 256, 3) := dk_182 1 0 (dk_at dksX4_turnOf_1 18 rfl rfl)
theorem dX4_turnOf_45 : decode cX4_turnOf 45 = .ok (.aload_n 0, 1) := dk_42 (dk_at dksX4_turnOf_1 21 rfl rfl)
theorem dX4_turnOf_46 : decode cX4_turnOf 46 = .ok (.iload_n 2, 1) := dk_28 (dk_at dksX4_turnOf_1 22 rfl rfl)
theorem dX4_turnOf_47 : decode cX4_turnOf 47 = .ok (.iconst 0, 1) := dk_3 (dk_at dksX4_turnOf_1 23 rfl rfl)
theorem dX4_turnOf_48 : decode cX4_turnOf 48 = .ok (.invokevirtual 256, 3) := dk_182 1 0 (dk_at dksX4_turnOf_2 0 rfl rfl)
theorem dX4_turnOf_51 : decode cX4_turnOf 51 = .ok (.imul, 1) := dk_104 (dk_at dksX4_turnOf_2 3 rfl rfl)
theorem dX4_turnOf_52 : decode cX4_turnOf 52 = .ok (.isub, 1) := dk_100 (dk_at dksX4_turnOf_2 4 rfl rfl)
theorem dX4_turnOf_53 : decode cX4_turnOf 53 = .ok (.istore_n 3, 1) := dk_62 (dk_at dksX4_turnOf_2 5 rfl rfl)
theorem dX4_turnOf_54 : decode cX4_turnOf 54 = .ok (.iload_n 3, 1) := dk_29 (dk_at dksX4_turnOf_2 6 rfl rfl)
theorem dX4_turnOf_55 : decode cX4_turnOf 55 = .ok (.ifCond .eq 13, 3) := dk_153 0 13 (dk_at dksX4_turnOf_2 7 rfl rfl)
theorem dX4_turnOf_58 : decode cX4_turnOf 58 = .ok (.iload_n 3, 1) := dk_29 (dk_at dksX4_turnOf_2 10 rfl rfl)
theorem dX4_turnOf_59 : decode cX4_turnOf 59 = .ok (.ifCond .le 7, 3) := dk_158 0 7 (dk_at dksX4_turnOf_2 11 rfl rfl)
theorem dX4_turnOf_62 : decode cX4_turnOf 62 = .ok (.iconst 3, 1) := dk_6 (dk_at dksX4_turnOf_2 14 rfl rfl)
theorem dX4_turnOf_63 : decode cX4_turnOf 63 = .ok (.goto 4, 3) := dk_167 0 4 (dk_at dksX4_turnOf_2 15 rfl rfl)
theorem dX4_turnOf_66 : decode cX4_turnOf 66 = .ok (.iconst 1, 1) := dk_4 (dk_at dksX4_turnOf_2 18 rfl rfl)
theorem dX4_turnOf_67 : decode cX4_turnOf 67 = .ok (.ireturn, 1) := dk_172 (dk_at dksX4_turnOf_2 19 rfl rfl)
theorem dX4_turnOf_68 : decode cX4_turnOf 68 = .ok (.aload_n 0, 1) := dk_42 (dk_at dksX4_turnOf_2 20 rfl rfl)
theorem dX4_turnOf_69 : decode cX4_turnOf 69 = .ok (.iload_n 1, 1) := dk_27 (dk_at dksX4_turnOf_2 21 rfl rfl)
theorem dX4_turnOf_70 : decode cX4_turnOf 70 = .ok (.iconst 0, 1) := dk_3 (dk_at dksX4_turnOf_2 22 rfl rfl)
theorem dX4_turnOf_71 : decode cX4_turnOf 71 = .ok (.invokevirtual 256, 3) := dk_182 1 0 (dk_at dksX4_turnOf_3 0 rfl rfl)
theorem dX4_turnOf_74 : decode cX4_turnOf 74 = .ok (.aload_n 0, 1) := dk_42 (dk_at dksX4_turnOf_3 3 rfl rfl)
theorem dX4_turnOf_75 : decode cX4_turnOf 75 = .ok (.iload_n 2, 1) := dk_28 (dk_at dksX4_turnOf_3 4 rfl rfl)
theorem dX4_turnOf_76 : decode cX4_turnOf 76 = .ok (.iconst 0, 1) := dk_3 (dk_at dksX4_turnOf_3 5 rfl rfl)
theorem dX4_turnOf_77 : decode cX4_turnOf 77 = .ok (.invokevirtual 256, 3) := dk_182 1 0 (dk_at dksX4_turnOf_3 6 rfl rfl)
theorem dX4_turnOf_80 : decode cX4_turnOf 80 = .ok (.imul, 1) := dk_104 (dk_at dksX4_turnOf_3 9 rfl rfl)
theorem dX4_turnOf_81 : decode cX4_turnOf 81 = .ok (.aload_n 0, 1) := dk_42 (dk_at dksX4_turnOf_3 10 rfl rfl)
theorem dX4_turnOf_82 : decode cX4_turnOf 82 = .ok (.iload_n 1, 1) := dk_27 (dk_at dksX4_turnOf_3 11 rfl rfl)
theorem dX4_turnOf_83 : decode cX4_turnOf 83 = .ok (.iconst 1, 1) := dk_4 (dk_at dksX4_turnOf_3 12 rfl rfl)
theorem dX4_turnOf_84 : decode cX4_turnOf 84 = .ok (.invokevirtual 256, 3) := dk_182 1 0 (dk_at dksX4_turnOf_3 13 rfl rfl)
theorem dX4_turnOf_87 : decode cX4_turnOf 87 = .ok (.aload_n 0, 1) := dk_42 (dk_at dksX4_turnOf_3 16 rfl rfl)
theorem dX4_turnOf_88 : decode cX4_turnOf 88 = .ok (.iload_n 2, 1) := dk_28 (dk_at dksX4_turnOf_3 17 rfl rfl)
theorem dX4_turnOf_89 : decode cX4_turnOf 89 = .ok (.iconst 1, 1) := dk_4 (dk_at dksX4_turnOf_3 18 rfl rfl)
theorem dX4_turnOf_90 : decode cX4_turnOf 90 = .ok (.invokevirtual 256, 3) := dk_182 1 0 (dk_at dksX4_turnOf_3 19 rfl rfl)
theorem dX4_turnOf_93 : decode cX4_turnOf 93 = .ok (.imul, 1) := dk_104 (dk_at dksX4_turnOf_3 22 rfl rfl)
theorem dX4_turnOf_94 : decode cX4_turnOf 94 = .ok (.iadd, 1) := dk_96 (dk_at dksX4_turnOf_3 23 rfl rfl)
theorem dX4_turnOf_95 : decode cX4_turnOf 95 = .ok (.ifCond .le 7, 3) := dk_158 0 7 (dk_at dksX4_turnOf_4 0 rfl rfl)
theorem dX4_turnOf_98 : decode cX4_turnOf 98 = .ok (.iconst 2, 1) := dk_5 (dk_at dksX4_turnOf_4 3 rfl rfl)
theorem dX4_turnOf_99 : decode cX4_turnOf 99 = .ok (.goto 4, 3) := dk_167 0 4 (dk_at dksX4_turnOf_4 4 rfl rfl)
theorem dX4_turnOf_102 : decode cX4_turnOf 102 = .ok (.iconst 0, 1) := dk_3 (dk_at dksX4_turnOf_4 7 rfl rfl)
theorem dX4_turnOf_103 : decode cX4_turnOf 103 = .ok (.ireturn, 1) := dk_172 (dk_at dksX4_turnOf_4 8 rfl rfl)
abbrev cX4_endOf : ByteArray := prog_10_method_32_code
def yX4_endOf : MethodName := ⟨RX4, "endOf", "(I)I"⟩
def dkwX4_endOf_0 : List UInt8 := [42, 180, 0, 34, 27, 5, 108, 50, 4, 27, 5, 112, 100, 46, 172]
abbrev dktX4_endOf_0 : List UInt8 := dkwX4_endOf_0 ++ []
theorem dksX4_endOf_0 : cX4_endOf.data.toList.drop 0 = dktX4_endOf_0 := by decide +kernel
theorem dX4_endOf_0 : decode cX4_endOf 0 = .ok (.aload_n 0, 1) := dk_42 (dk_at dksX4_endOf_0 0 rfl rfl)
theorem dX4_endOf_1 : decode cX4_endOf 1 = .ok (.getfield 34, 3) := dk_180 0 34 (dk_at dksX4_endOf_0 1 rfl rfl)
theorem dX4_endOf_4 : decode cX4_endOf 4 = .ok (.iload_n 1, 1) := dk_27 (dk_at dksX4_endOf_0 4 rfl rfl)
theorem dX4_endOf_5 : decode cX4_endOf 5 = .ok (.iconst 2, 1) := dk_5 (dk_at dksX4_endOf_0 5 rfl rfl)
theorem dX4_endOf_6 : decode cX4_endOf 6 = .ok (.idiv, 1) := dk_108 (dk_at dksX4_endOf_0 6 rfl rfl)
theorem dX4_endOf_7 : decode cX4_endOf 7 = .ok (.aaload, 1) := dk_50 (dk_at dksX4_endOf_0 7 rfl rfl)
theorem dX4_endOf_8 : decode cX4_endOf 8 = .ok (.iconst 1, 1) := dk_4 (dk_at dksX4_endOf_0 8 rfl rfl)
theorem dX4_endOf_9 : decode cX4_endOf 9 = .ok (.iload_n 1, 1) := dk_27 (dk_at dksX4_endOf_0 9 rfl rfl)
theorem dX4_endOf_10 : decode cX4_endOf 10 = .ok (.iconst 2, 1) := dk_5 (dk_at dksX4_endOf_0 10 rfl rfl)
theorem dX4_endOf_11 : decode cX4_endOf 11 = .ok (.irem, 1) := dk_112 (dk_at dksX4_endOf_0 11 rfl rfl)
theorem dX4_endOf_12 : decode cX4_endOf 12 = .ok (.isub, 1) := dk_100 (dk_at dksX4_endOf_0 12 rfl rfl)
theorem dX4_endOf_13 : decode cX4_endOf 13 = .ok (.iaload, 1) := dk_46 (dk_at dksX4_endOf_0 13 rfl rfl)
theorem dX4_endOf_14 : decode cX4_endOf 14 = .ok (.ireturn, 1) := dk_172 (dk_at dksX4_endOf_0 14 rfl rfl)
abbrev cX4_beginOf : ByteArray := prog_10_method_31_code
def yX4_beginOf : MethodName := ⟨RX4, "beginOf", "(I)I"⟩
def dkwX4_beginOf_0 : List UInt8 := [42, 180, 0, 34, 27, 5, 108, 50, 27, 5, 112, 46, 172]
abbrev dktX4_beginOf_0 : List UInt8 := dkwX4_beginOf_0 ++ []
theorem dksX4_beginOf_0 : cX4_beginOf.data.toList.drop 0 = dktX4_beginOf_0 := by decide +kernel
theorem dX4_beginOf_0 : decode cX4_beginOf 0 = .ok (.aload_n 0, 1) := dk_42 (dk_at dksX4_beginOf_0 0 rfl rfl)
theorem dX4_beginOf_1 : decode cX4_beginOf 1 = .ok (.getfield 34, 3) := dk_180 0 34 (dk_at dksX4_beginOf_0 1 rfl rfl)
theorem dX4_beginOf_4 : decode cX4_beginOf 4 = .ok (.iload_n 1, 1) := dk_27 (dk_at dksX4_beginOf_0 4 rfl rfl)
theorem dX4_beginOf_5 : decode cX4_beginOf 5 = .ok (.iconst 2, 1) := dk_5 (dk_at dksX4_beginOf_0 5 rfl rfl)
theorem dX4_beginOf_6 : decode cX4_beginOf 6 = .ok (.idiv, 1) := dk_108 (dk_at dksX4_beginOf_0 6 rfl rfl)
theorem dX4_beginOf_7 : decode cX4_beginOf 7 = .ok (.aaload, 1) := dk_50 (dk_at dksX4_beginOf_0 7 rfl rfl)
theorem dX4_beginOf_8 : decode cX4_beginOf 8 = .ok (.iload_n 1, 1) := dk_27 (dk_at dksX4_beginOf_0 8 rfl rfl)
theorem dX4_beginOf_9 : decode cX4_beginOf 9 = .ok (.iconst 2, 1) := dk_5 (dk_at dksX4_beginOf_0 9 rfl rfl)
theorem dX4_beginOf_10 : decode cX4_beginOf 10 = .ok (.irem, 1) := dk_112 (dk_at dksX4_beginOf_0 10 rfl rfl)
theorem dX4_beginOf_11 : decode cX4_beginOf 11 = .ok (.iaload, 1) := dk_46 (dk_at dksX4_beginOf_0 11 rfl rfl)
theorem dX4_beginOf_12 : decode cX4_beginOf 12 = .ok (.ireturn, 1) := dk_172 (dk_at dksX4_beginOf_0 12 rfl rfl)
abbrev cX4_wayOf : ByteArray := prog_10_method_34_code
def yX4_wayOf : MethodName := ⟨RX4, "wayOf", "(II)I"⟩
def dkwX4_wayOf_1 : List UInt8 := [100, 172]
abbrev dktX4_wayOf_1 : List UInt8 := dkwX4_wayOf_1 ++ []
def dkwX4_wayOf_0 : List UInt8 := [42, 180, 0, 28, 42, 27, 182, 0, 250, 50, 28, 46, 42, 180, 0, 28, 42, 27, 182, 0, 253, 50, 28, 46]
abbrev dktX4_wayOf_0 : List UInt8 := dkwX4_wayOf_0 ++ dktX4_wayOf_1
theorem dksX4_wayOf_0 : cX4_wayOf.data.toList.drop 0 = dktX4_wayOf_0 := by decide +kernel
theorem dksX4_wayOf_1 : cX4_wayOf.data.toList.drop 24 = dktX4_wayOf_1 := dk_seg dksX4_wayOf_0 24 rfl rfl
theorem dX4_wayOf_0 : decode cX4_wayOf 0 = .ok (.aload_n 0, 1) := dk_42 (dk_at dksX4_wayOf_0 0 rfl rfl)
theorem dX4_wayOf_1 : decode cX4_wayOf 1 = .ok (.getfield 28, 3) := dk_180 0 28 (dk_at dksX4_wayOf_0 1 rfl rfl)
theorem dX4_wayOf_4 : decode cX4_wayOf 4 = .ok (.aload_n 0, 1) := dk_42 (dk_at dksX4_wayOf_0 4 rfl rfl)
theorem dX4_wayOf_5 : decode cX4_wayOf 5 = .ok (.iload_n 1, 1) := dk_27 (dk_at dksX4_wayOf_0 5 rfl rfl)
theorem dX4_wayOf_6 : decode cX4_wayOf 6 = .ok (.invokevirtual 250, 3) := dk_182 0 250 (dk_at dksX4_wayOf_0 6 rfl rfl)
theorem dX4_wayOf_9 : decode cX4_wayOf 9 = .ok (.aaload, 1) := dk_50 (dk_at dksX4_wayOf_0 9 rfl rfl)
theorem dX4_wayOf_10 : decode cX4_wayOf 10 = .ok (.iload_n 2, 1) := dk_28 (dk_at dksX4_wayOf_0 10 rfl rfl)
theorem dX4_wayOf_11 : decode cX4_wayOf 11 = .ok (.iaload, 1) := dk_46 (dk_at dksX4_wayOf_0 11 rfl rfl)
theorem dX4_wayOf_12 : decode cX4_wayOf 12 = .ok (.aload_n 0, 1) := dk_42 (dk_at dksX4_wayOf_0 12 rfl rfl)
theorem dX4_wayOf_13 : decode cX4_wayOf 13 = .ok (.getfield 28, 3) := dk_180 0 28 (dk_at dksX4_wayOf_0 13 rfl rfl)
theorem dX4_wayOf_16 : decode cX4_wayOf 16 = .ok (.aload_n 0, 1) := dk_42 (dk_at dksX4_wayOf_0 16 rfl rfl)
theorem dX4_wayOf_17 : decode cX4_wayOf 17 = .ok (.iload_n 1, 1) := dk_27 (dk_at dksX4_wayOf_0 17 rfl rfl)
theorem dX4_wayOf_18 : decode cX4_wayOf 18 = .ok (.invokevirtual 253, 3) := dk_182 0 253 (dk_at dksX4_wayOf_0 18 rfl rfl)
theorem dX4_wayOf_21 : decode cX4_wayOf 21 = .ok (.aaload, 1) := dk_50 (dk_at dksX4_wayOf_0 21 rfl rfl)
theorem dX4_wayOf_22 : decode cX4_wayOf 22 = .ok (.iload_n 2, 1) := dk_28 (dk_at dksX4_wayOf_0 22 rfl rfl)
theorem dX4_wayOf_23 : decode cX4_wayOf 23 = .ok (.iaload, 1) := dk_46 (dk_at dksX4_wayOf_0 23 rfl rfl)
theorem dX4_wayOf_24 : decode cX4_wayOf 24 = .ok (.isub, 1) := dk_100 (dk_at dksX4_wayOf_1 0 rfl rfl)
theorem dX4_wayOf_25 : decode cX4_wayOf 25 = .ok (.ireturn, 1) := dk_172 (dk_at dksX4_wayOf_1 1 rfl rfl)
abbrev cX4_fault : ByteArray := prog_10_method_29_code
def yX4_fault : MethodName := ⟨RX4, "fault", "()I"⟩
def dkwX4_fault_0 : List UInt8 := [42, 3, 181, 0, 131, 42, 180, 0, 9, 172]
abbrev dktX4_fault_0 : List UInt8 := dkwX4_fault_0 ++ []
theorem dksX4_fault_0 : cX4_fault.data.toList.drop 0 = dktX4_fault_0 := by decide +kernel
theorem dX4_fault_0 : decode cX4_fault 0 = .ok (.aload_n 0, 1) := dk_42 (dk_at dksX4_fault_0 0 rfl rfl)
theorem dX4_fault_1 : decode cX4_fault 1 = .ok (.iconst 0, 1) := dk_3 (dk_at dksX4_fault_0 1 rfl rfl)
theorem dX4_fault_2 : decode cX4_fault 2 = .ok (.putfield 131, 3) := dk_181 0 131 (dk_at dksX4_fault_0 2 rfl rfl)
theorem dX4_fault_5 : decode cX4_fault 5 = .ok (.aload_n 0, 1) := dk_42 (dk_at dksX4_fault_0 5 rfl rfl)
theorem dX4_fault_6 : decode cX4_fault 6 = .ok (.getfield 9, 3) := dk_180 0 9 (dk_at dksX4_fault_0 6 rfl rfl)
theorem dX4_fault_9 : decode cX4_fault 9 = .ok (.ireturn, 1) := dk_172 (dk_at dksX4_fault_0 9 rfl rfl)
abbrev cX4_told : ByteArray := prog_10_method_37_code
def yX4_told : MethodName := ⟨RX4, "told", "(I)I"⟩
def dkwX4_told_3 : List UInt8 := [180, 0, 20, 27, 46, 172]
abbrev dktX4_told_3 : List UInt8 := dkwX4_told_3 ++ []
def dkwX4_told_2 : List UInt8 := [160, 0, 10, 42, 180, 1, 3, 167, 0, 21, 27, 8, 160, 0, 10, 42, 180, 0, 238, 167, 0, 9, 42]
abbrev dktX4_told_2 : List UInt8 := dkwX4_told_2 ++ dktX4_told_3
def dkwX4_told_1 : List UInt8 := [153, 0, 5, 3, 172, 27, 5, 160, 0, 15, 42, 180, 0, 20, 5, 46, 184, 0, 187, 167, 0, 33, 27, 7]
abbrev dktX4_told_1 : List UInt8 := dkwX4_told_1 ++ dktX4_told_2
def dkwX4_told_0 : List UInt8 := [42, 3, 181, 0, 131, 42, 27, 3, 8, 184, 0, 165, 154, 0, 7, 4, 167, 0, 4, 3, 4, 182, 0, 227]
abbrev dktX4_told_0 : List UInt8 := dkwX4_told_0 ++ dktX4_told_1
theorem dksX4_told_0 : cX4_told.data.toList.drop 0 = dktX4_told_0 := by decide +kernel
theorem dksX4_told_1 : cX4_told.data.toList.drop 24 = dktX4_told_1 := dk_seg dksX4_told_0 24 rfl rfl
theorem dksX4_told_2 : cX4_told.data.toList.drop 48 = dktX4_told_2 := dk_seg dksX4_told_1 24 rfl rfl
theorem dksX4_told_3 : cX4_told.data.toList.drop 71 = dktX4_told_3 := dk_seg dksX4_told_2 23 rfl rfl
theorem dX4_told_0 : decode cX4_told 0 = .ok (.aload_n 0, 1) := dk_42 (dk_at dksX4_told_0 0 rfl rfl)
theorem dX4_told_1 : decode cX4_told 1 = .ok (.iconst 0, 1) := dk_3 (dk_at dksX4_told_0 1 rfl rfl)
theorem dX4_told_2 : decode cX4_told 2 = .ok (.putfield 131, 3) := dk_181 0 131 (dk_at dksX4_told_0 2 rfl rfl)
theorem dX4_told_5 : decode cX4_told 5 = .ok (.aload_n 0, 1) := dk_42 (dk_at dksX4_told_0 5 rfl rfl)
theorem dX4_told_6 : decode cX4_told 6 = .ok (.iload_n 1, 1) := dk_27 (dk_at dksX4_told_0 6 rfl rfl)
theorem dX4_told_7 : decode cX4_told 7 = .ok (.iconst 0, 1) := dk_3 (dk_at dksX4_told_0 7 rfl rfl)
theorem dX4_told_8 : decode cX4_told 8 = .ok (.iconst 5, 1) := dk_8 (dk_at dksX4_told_0 8 rfl rfl)
theorem dX4_told_9 : decode cX4_told 9 = .ok (.invokestatic 165, 3) := dk_184 0 165 (dk_at dksX4_told_0 9 rfl rfl)
theorem dX4_told_12 : decode cX4_told 12 = .ok (.ifCond .ne 7, 3) := dk_154 0 7 (dk_at dksX4_told_0 12 rfl rfl)
theorem dX4_told_15 : decode cX4_told 15 = .ok (.iconst 1, 1) := dk_4 (dk_at dksX4_told_0 15 rfl rfl)
theorem dX4_told_16 : decode cX4_told 16 = .ok (.goto 4, 3) := dk_167 0 4 (dk_at dksX4_told_0 16 rfl rfl)
theorem dX4_told_19 : decode cX4_told 19 = .ok (.iconst 0, 1) := dk_3 (dk_at dksX4_told_0 19 rfl rfl)
theorem dX4_told_20 : decode cX4_told 20 = .ok (.iconst 1, 1) := dk_4 (dk_at dksX4_told_0 20 rfl rfl)
theorem dX4_told_21 : decode cX4_told 21 = .ok (.invokevirtual 227, 3) := dk_182 0 227 (dk_at dksX4_told_0 21 rfl rfl)
theorem dX4_told_24 : decode cX4_told 24 = .ok (.ifCond .eq 5, 3) := dk_153 0 5 (dk_at dksX4_told_1 0 rfl rfl)
theorem dX4_told_27 : decode cX4_told 27 = .ok (.iconst 0, 1) := dk_3 (dk_at dksX4_told_1 3 rfl rfl)
theorem dX4_told_28 : decode cX4_told 28 = .ok (.ireturn, 1) := dk_172 (dk_at dksX4_told_1 4 rfl rfl)
theorem dX4_told_29 : decode cX4_told 29 = .ok (.iload_n 1, 1) := dk_27 (dk_at dksX4_told_1 5 rfl rfl)
theorem dX4_told_30 : decode cX4_told 30 = .ok (.iconst 2, 1) := dk_5 (dk_at dksX4_told_1 6 rfl rfl)
theorem dX4_told_31 : decode cX4_told 31 = .ok (.if_icmp .ne 15, 3) := dk_160 0 15 (dk_at dksX4_told_1 7 rfl rfl)
theorem dX4_told_34 : decode cX4_told 34 = .ok (.aload_n 0, 1) := dk_42 (dk_at dksX4_told_1 10 rfl rfl)
theorem dX4_told_35 : decode cX4_told 35 = .ok (.getfield 20, 3) := dk_180 0 20 (dk_at dksX4_told_1 11 rfl rfl)
theorem dX4_told_38 : decode cX4_told 38 = .ok (.iconst 2, 1) := dk_5 (dk_at dksX4_told_1 14 rfl rfl)
theorem dX4_told_39 : decode cX4_told 39 = .ok (.iaload, 1) := dk_46 (dk_at dksX4_told_1 15 rfl rfl)
theorem dX4_told_40 : decode cX4_told 40 = .ok (.invokestatic 187, 3) := dk_184 0 187 (dk_at dksX4_told_1 16 rfl rfl)
theorem dX4_told_43 : decode cX4_told 43 = .ok (.goto 33, 3) := dk_167 0 33 (dk_at dksX4_told_1 19 rfl rfl)
theorem dX4_told_46 : decode cX4_told 46 = .ok (.iload_n 1, 1) := dk_27 (dk_at dksX4_told_1 22 rfl rfl)
theorem dX4_told_47 : decode cX4_told 47 = .ok (.iconst 4, 1) := dk_7 (dk_at dksX4_told_1 23 rfl rfl)
theorem dX4_told_48 : decode cX4_told 48 = .ok (.if_icmp .ne 10, 3) := dk_160 0 10 (dk_at dksX4_told_2 0 rfl rfl)
theorem dX4_told_51 : decode cX4_told 51 = .ok (.aload_n 0, 1) := dk_42 (dk_at dksX4_told_2 3 rfl rfl)
theorem dX4_told_52 : decode cX4_told 52 = .ok (.getfield 259, 3) := dk_180 1 3 (dk_at dksX4_told_2 4 rfl rfl)
theorem dX4_told_55 : decode cX4_told 55 = .ok (.goto 21, 3) := dk_167 0 21 (dk_at dksX4_told_2 7 rfl rfl)
theorem dX4_told_58 : decode cX4_told 58 = .ok (.iload_n 1, 1) := dk_27 (dk_at dksX4_told_2 10 rfl rfl)
theorem dX4_told_59 : decode cX4_told 59 = .ok (.iconst 5, 1) := dk_8 (dk_at dksX4_told_2 11 rfl rfl)
theorem dX4_told_60 : decode cX4_told 60 = .ok (.if_icmp .ne 10, 3) := dk_160 0 10 (dk_at dksX4_told_2 12 rfl rfl)
theorem dX4_told_63 : decode cX4_told 63 = .ok (.aload_n 0, 1) := dk_42 (dk_at dksX4_told_2 15 rfl rfl)
theorem dX4_told_64 : decode cX4_told 64 = .ok (.getfield 238, 3) := dk_180 0 238 (dk_at dksX4_told_2 16 rfl rfl)
theorem dX4_told_67 : decode cX4_told 67 = .ok (.goto 9, 3) := dk_167 0 9 (dk_at dksX4_told_2 19 rfl rfl)
theorem dX4_told_70 : decode cX4_told 70 = .ok (.aload_n 0, 1) := dk_42 (dk_at dksX4_told_2 22 rfl rfl)
theorem dX4_told_71 : decode cX4_told 71 = .ok (.getfield 20, 3) := dk_180 0 20 (dk_at dksX4_told_3 0 rfl rfl)
theorem dX4_told_74 : decode cX4_told 74 = .ok (.iload_n 1, 1) := dk_27 (dk_at dksX4_told_3 3 rfl rfl)
theorem dX4_told_75 : decode cX4_told 75 = .ok (.iaload, 1) := dk_46 (dk_at dksX4_told_3 4 rfl rfl)
theorem dX4_told_76 : decode cX4_told 76 = .ok (.ireturn, 1) := dk_172 (dk_at dksX4_told_3 5 rfl rfl)
abbrev cX4_street : ByteArray := prog_10_method_39_code
def yX4_street : MethodName := ⟨RX4, "street", "(II)I"⟩
def dkwX4_street_2 : List UInt8 := [153, 0, 5, 3, 172, 42, 180, 0, 34, 27, 50, 28, 46, 172]
abbrev dktX4_street_2 : List UInt8 := dkwX4_street_2 ++ []
def dkwX4_street_1 : List UInt8 := [154, 0, 25, 42, 28, 3, 6, 184, 0, 165, 154, 0, 7, 4, 167, 0, 4, 3, 5, 182, 0, 227]
abbrev dktX4_street_1 : List UInt8 := dkwX4_street_1 ++ dktX4_street_2
def dkwX4_street_0 : List UInt8 := [42, 3, 181, 0, 131, 42, 42, 27, 182, 1, 12, 154, 0, 7, 4, 167, 0, 4, 3, 4, 182, 0, 227]
abbrev dktX4_street_0 : List UInt8 := dkwX4_street_0 ++ dktX4_street_1
theorem dksX4_street_0 : cX4_street.data.toList.drop 0 = dktX4_street_0 := by decide +kernel
theorem dksX4_street_1 : cX4_street.data.toList.drop 23 = dktX4_street_1 := dk_seg dksX4_street_0 23 rfl rfl
theorem dksX4_street_2 : cX4_street.data.toList.drop 45 = dktX4_street_2 := dk_seg dksX4_street_1 22 rfl rfl
theorem dX4_street_0 : decode cX4_street 0 = .ok (.aload_n 0, 1) := dk_42 (dk_at dksX4_street_0 0 rfl rfl)
theorem dX4_street_1 : decode cX4_street 1 = .ok (.iconst 0, 1) := dk_3 (dk_at dksX4_street_0 1 rfl rfl)
theorem dX4_street_2 : decode cX4_street 2 = .ok (.putfield 131, 3) := dk_181 0 131 (dk_at dksX4_street_0 2 rfl rfl)
theorem dX4_street_5 : decode cX4_street 5 = .ok (.aload_n 0, 1) := dk_42 (dk_at dksX4_street_0 5 rfl rfl)
theorem dX4_street_6 : decode cX4_street 6 = .ok (.aload_n 0, 1) := dk_42 (dk_at dksX4_street_0 6 rfl rfl)
theorem dX4_street_7 : decode cX4_street 7 = .ok (.iload_n 1, 1) := dk_27 (dk_at dksX4_street_0 7 rfl rfl)
theorem dX4_street_8 : decode cX4_street 8 = .ok (.invokevirtual 268, 3) := dk_182 1 12 (dk_at dksX4_street_0 8 rfl rfl)
theorem dX4_street_11 : decode cX4_street 11 = .ok (.ifCond .ne 7, 3) := dk_154 0 7 (dk_at dksX4_street_0 11 rfl rfl)
theorem dX4_street_14 : decode cX4_street 14 = .ok (.iconst 1, 1) := dk_4 (dk_at dksX4_street_0 14 rfl rfl)
theorem dX4_street_15 : decode cX4_street 15 = .ok (.goto 4, 3) := dk_167 0 4 (dk_at dksX4_street_0 15 rfl rfl)
theorem dX4_street_18 : decode cX4_street 18 = .ok (.iconst 0, 1) := dk_3 (dk_at dksX4_street_0 18 rfl rfl)
theorem dX4_street_19 : decode cX4_street 19 = .ok (.iconst 1, 1) := dk_4 (dk_at dksX4_street_0 19 rfl rfl)
theorem dX4_street_20 : decode cX4_street 20 = .ok (.invokevirtual 227, 3) := dk_182 0 227 (dk_at dksX4_street_0 20 rfl rfl)
theorem dX4_street_23 : decode cX4_street 23 = .ok (.ifCond .ne 25, 3) := dk_154 0 25 (dk_at dksX4_street_1 0 rfl rfl)
theorem dX4_street_26 : decode cX4_street 26 = .ok (.aload_n 0, 1) := dk_42 (dk_at dksX4_street_1 3 rfl rfl)
theorem dX4_street_27 : decode cX4_street 27 = .ok (.iload_n 2, 1) := dk_28 (dk_at dksX4_street_1 4 rfl rfl)
theorem dX4_street_28 : decode cX4_street 28 = .ok (.iconst 0, 1) := dk_3 (dk_at dksX4_street_1 5 rfl rfl)
theorem dX4_street_29 : decode cX4_street 29 = .ok (.iconst 3, 1) := dk_6 (dk_at dksX4_street_1 6 rfl rfl)
theorem dX4_street_30 : decode cX4_street 30 = .ok (.invokestatic 165, 3) := dk_184 0 165 (dk_at dksX4_street_1 7 rfl rfl)
theorem dX4_street_33 : decode cX4_street 33 = .ok (.ifCond .ne 7, 3) := dk_154 0 7 (dk_at dksX4_street_1 10 rfl rfl)
theorem dX4_street_36 : decode cX4_street 36 = .ok (.iconst 1, 1) := dk_4 (dk_at dksX4_street_1 13 rfl rfl)
theorem dX4_street_37 : decode cX4_street 37 = .ok (.goto 4, 3) := dk_167 0 4 (dk_at dksX4_street_1 14 rfl rfl)
theorem dX4_street_40 : decode cX4_street 40 = .ok (.iconst 0, 1) := dk_3 (dk_at dksX4_street_1 17 rfl rfl)
theorem dX4_street_41 : decode cX4_street 41 = .ok (.iconst 2, 1) := dk_5 (dk_at dksX4_street_1 18 rfl rfl)
theorem dX4_street_42 : decode cX4_street 42 = .ok (.invokevirtual 227, 3) := dk_182 0 227 (dk_at dksX4_street_1 19 rfl rfl)
theorem dX4_street_45 : decode cX4_street 45 = .ok (.ifCond .eq 5, 3) := dk_153 0 5 (dk_at dksX4_street_2 0 rfl rfl)
theorem dX4_street_48 : decode cX4_street 48 = .ok (.iconst 0, 1) := dk_3 (dk_at dksX4_street_2 3 rfl rfl)
theorem dX4_street_49 : decode cX4_street 49 = .ok (.ireturn, 1) := dk_172 (dk_at dksX4_street_2 4 rfl rfl)
theorem dX4_street_50 : decode cX4_street 50 = .ok (.aload_n 0, 1) := dk_42 (dk_at dksX4_street_2 5 rfl rfl)
theorem dX4_street_51 : decode cX4_street 51 = .ok (.getfield 34, 3) := dk_180 0 34 (dk_at dksX4_street_2 6 rfl rfl)
theorem dX4_street_54 : decode cX4_street 54 = .ok (.iload_n 1, 1) := dk_27 (dk_at dksX4_street_2 9 rfl rfl)
theorem dX4_street_55 : decode cX4_street 55 = .ok (.aaload, 1) := dk_50 (dk_at dksX4_street_2 10 rfl rfl)
theorem dX4_street_56 : decode cX4_street 56 = .ok (.iload_n 2, 1) := dk_28 (dk_at dksX4_street_2 11 rfl rfl)
theorem dX4_street_57 : decode cX4_street 57 = .ok (.iaload, 1) := dk_46 (dk_at dksX4_street_2 12 rfl rfl)
theorem dX4_street_58 : decode cX4_street 58 = .ok (.ireturn, 1) := dk_172 (dk_at dksX4_street_2 13 rfl rfl)
abbrev cX4_isStreet : ByteArray := prog_10_method_38_code
def yX4_isStreet : MethodName := ⟨RX4, "isStreet", "(I)Z"⟩
def dkwX4_isStreet_0 : List UInt8 := [27, 3, 42, 180, 0, 20, 4, 46, 4, 100, 184, 0, 165, 172]
abbrev dktX4_isStreet_0 : List UInt8 := dkwX4_isStreet_0 ++ []
theorem dksX4_isStreet_0 : cX4_isStreet.data.toList.drop 0 = dktX4_isStreet_0 := by decide +kernel
theorem dX4_isStreet_0 : decode cX4_isStreet 0 = .ok (.iload_n 1, 1) := dk_27 (dk_at dksX4_isStreet_0 0 rfl rfl)
theorem dX4_isStreet_1 : decode cX4_isStreet 1 = .ok (.iconst 0, 1) := dk_3 (dk_at dksX4_isStreet_0 1 rfl rfl)
theorem dX4_isStreet_2 : decode cX4_isStreet 2 = .ok (.aload_n 0, 1) := dk_42 (dk_at dksX4_isStreet_0 2 rfl rfl)
theorem dX4_isStreet_3 : decode cX4_isStreet 3 = .ok (.getfield 20, 3) := dk_180 0 20 (dk_at dksX4_isStreet_0 3 rfl rfl)
theorem dX4_isStreet_6 : decode cX4_isStreet 6 = .ok (.iconst 1, 1) := dk_4 (dk_at dksX4_isStreet_0 6 rfl rfl)
theorem dX4_isStreet_7 : decode cX4_isStreet 7 = .ok (.iaload, 1) := dk_46 (dk_at dksX4_isStreet_0 7 rfl rfl)
theorem dX4_isStreet_8 : decode cX4_isStreet 8 = .ok (.iconst 1, 1) := dk_4 (dk_at dksX4_isStreet_0 8 rfl rfl)
theorem dX4_isStreet_9 : decode cX4_isStreet 9 = .ok (.isub, 1) := dk_100 (dk_at dksX4_isStreet_0 9 rfl rfl)
theorem dX4_isStreet_10 : decode cX4_isStreet 10 = .ok (.invokestatic 165, 3) := dk_184 0 165 (dk_at dksX4_isStreet_0 10 rfl rfl)
theorem dX4_isStreet_13 : decode cX4_isStreet 13 = .ok (.ireturn, 1) := dk_172 (dk_at dksX4_isStreet_0 13 rfl rfl)
abbrev cX4_turn : ByteArray := prog_10_method_40_code
def yX4_turn : MethodName := ⟨RX4, "turn", "(II)I"⟩
def dkwX4_turn_1 : List UInt8 := [167, 0, 4, 3, 4, 182, 0, 227, 153, 0, 5, 3, 172, 42, 27, 28, 182, 1, 9, 172]
abbrev dktX4_turn_1 : List UInt8 := dkwX4_turn_1 ++ []
def dkwX4_turn_0 : List UInt8 := [42, 3, 181, 0, 131, 42, 42, 27, 182, 1, 6, 153, 0, 11, 42, 28, 182, 1, 6, 154, 0, 7, 4]
abbrev dktX4_turn_0 : List UInt8 := dkwX4_turn_0 ++ dktX4_turn_1
theorem dksX4_turn_0 : cX4_turn.data.toList.drop 0 = dktX4_turn_0 := by decide +kernel
theorem dksX4_turn_1 : cX4_turn.data.toList.drop 23 = dktX4_turn_1 := dk_seg dksX4_turn_0 23 rfl rfl
theorem dX4_turn_0 : decode cX4_turn 0 = .ok (.aload_n 0, 1) := dk_42 (dk_at dksX4_turn_0 0 rfl rfl)
theorem dX4_turn_1 : decode cX4_turn 1 = .ok (.iconst 0, 1) := dk_3 (dk_at dksX4_turn_0 1 rfl rfl)
theorem dX4_turn_2 : decode cX4_turn 2 = .ok (.putfield 131, 3) := dk_181 0 131 (dk_at dksX4_turn_0 2 rfl rfl)
theorem dX4_turn_5 : decode cX4_turn 5 = .ok (.aload_n 0, 1) := dk_42 (dk_at dksX4_turn_0 5 rfl rfl)
theorem dX4_turn_6 : decode cX4_turn 6 = .ok (.aload_n 0, 1) := dk_42 (dk_at dksX4_turn_0 6 rfl rfl)
theorem dX4_turn_7 : decode cX4_turn 7 = .ok (.iload_n 1, 1) := dk_27 (dk_at dksX4_turn_0 7 rfl rfl)
theorem dX4_turn_8 : decode cX4_turn 8 = .ok (.invokevirtual 262, 3) := dk_182 1 6 (dk_at dksX4_turn_0 8 rfl rfl)
theorem dX4_turn_11 : decode cX4_turn 11 = .ok (.ifCond .eq 11, 3) := dk_153 0 11 (dk_at dksX4_turn_0 11 rfl rfl)
theorem dX4_turn_14 : decode cX4_turn 14 = .ok (.aload_n 0, 1) := dk_42 (dk_at dksX4_turn_0 14 rfl rfl)
theorem dX4_turn_15 : decode cX4_turn 15 = .ok (.iload_n 2, 1) := dk_28 (dk_at dksX4_turn_0 15 rfl rfl)
theorem dX4_turn_16 : decode cX4_turn 16 = .ok (.invokevirtual 262, 3) := dk_182 1 6 (dk_at dksX4_turn_0 16 rfl rfl)
theorem dX4_turn_19 : decode cX4_turn 19 = .ok (.ifCond .ne 7, 3) := dk_154 0 7 (dk_at dksX4_turn_0 19 rfl rfl)
theorem dX4_turn_22 : decode cX4_turn 22 = .ok (.iconst 1, 1) := dk_4 (dk_at dksX4_turn_0 22 rfl rfl)
theorem dX4_turn_23 : decode cX4_turn 23 = .ok (.goto 4, 3) := dk_167 0 4 (dk_at dksX4_turn_1 0 rfl rfl)
theorem dX4_turn_26 : decode cX4_turn 26 = .ok (.iconst 0, 1) := dk_3 (dk_at dksX4_turn_1 3 rfl rfl)
theorem dX4_turn_27 : decode cX4_turn 27 = .ok (.iconst 1, 1) := dk_4 (dk_at dksX4_turn_1 4 rfl rfl)
theorem dX4_turn_28 : decode cX4_turn 28 = .ok (.invokevirtual 227, 3) := dk_182 0 227 (dk_at dksX4_turn_1 5 rfl rfl)
theorem dX4_turn_31 : decode cX4_turn 31 = .ok (.ifCond .eq 5, 3) := dk_153 0 5 (dk_at dksX4_turn_1 8 rfl rfl)
theorem dX4_turn_34 : decode cX4_turn 34 = .ok (.iconst 0, 1) := dk_3 (dk_at dksX4_turn_1 11 rfl rfl)
theorem dX4_turn_35 : decode cX4_turn 35 = .ok (.ireturn, 1) := dk_172 (dk_at dksX4_turn_1 12 rfl rfl)
theorem dX4_turn_36 : decode cX4_turn 36 = .ok (.aload_n 0, 1) := dk_42 (dk_at dksX4_turn_1 13 rfl rfl)
theorem dX4_turn_37 : decode cX4_turn 37 = .ok (.iload_n 1, 1) := dk_27 (dk_at dksX4_turn_1 14 rfl rfl)
theorem dX4_turn_38 : decode cX4_turn 38 = .ok (.iload_n 2, 1) := dk_28 (dk_at dksX4_turn_1 15 rfl rfl)
theorem dX4_turn_39 : decode cX4_turn 39 = .ok (.invokevirtual 265, 3) := dk_182 1 9 (dk_at dksX4_turn_1 16 rfl rfl)
theorem dX4_turn_42 : decode cX4_turn 42 = .ok (.ireturn, 1) := dk_172 (dk_at dksX4_turn_1 19 rfl rfl)
abbrev cX4_may : ByteArray := prog_10_method_46_code
def yX4_may : MethodName := ⟨RX4, "may", "(III)Z"⟩
def dkwX4_may_2 : List UInt8 := [3, 5, 182, 0, 227, 153, 0, 5, 3, 172, 42, 29, 182, 1, 19, 42, 27, 28, 182, 1, 15, 172]
abbrev dktX4_may_2 : List UInt8 := dkwX4_may_2 ++ []
def dkwX4_may_1 : List UInt8 := [167, 0, 4, 3, 4, 182, 0, 227, 154, 0, 24, 42, 42, 29, 182, 1, 25, 154, 0, 7, 4, 167, 0, 4]
abbrev dktX4_may_1 : List UInt8 := dkwX4_may_1 ++ dktX4_may_2
def dkwX4_may_0 : List UInt8 := [42, 3, 181, 0, 131, 42, 42, 27, 182, 1, 6, 153, 0, 11, 42, 28, 182, 1, 6, 154, 0, 7, 4]
abbrev dktX4_may_0 : List UInt8 := dkwX4_may_0 ++ dktX4_may_1
theorem dksX4_may_0 : cX4_may.data.toList.drop 0 = dktX4_may_0 := by decide +kernel
theorem dksX4_may_1 : cX4_may.data.toList.drop 23 = dktX4_may_1 := dk_seg dksX4_may_0 23 rfl rfl
theorem dksX4_may_2 : cX4_may.data.toList.drop 47 = dktX4_may_2 := dk_seg dksX4_may_1 24 rfl rfl
theorem dX4_may_0 : decode cX4_may 0 = .ok (.aload_n 0, 1) := dk_42 (dk_at dksX4_may_0 0 rfl rfl)
theorem dX4_may_1 : decode cX4_may 1 = .ok (.iconst 0, 1) := dk_3 (dk_at dksX4_may_0 1 rfl rfl)
theorem dX4_may_2 : decode cX4_may 2 = .ok (.putfield 131, 3) := dk_181 0 131 (dk_at dksX4_may_0 2 rfl rfl)
theorem dX4_may_5 : decode cX4_may 5 = .ok (.aload_n 0, 1) := dk_42 (dk_at dksX4_may_0 5 rfl rfl)
theorem dX4_may_6 : decode cX4_may 6 = .ok (.aload_n 0, 1) := dk_42 (dk_at dksX4_may_0 6 rfl rfl)
theorem dX4_may_7 : decode cX4_may 7 = .ok (.iload_n 1, 1) := dk_27 (dk_at dksX4_may_0 7 rfl rfl)
theorem dX4_may_8 : decode cX4_may 8 = .ok (.invokevirtual 262, 3) := dk_182 1 6 (dk_at dksX4_may_0 8 rfl rfl)
theorem dX4_may_11 : decode cX4_may 11 = .ok (.ifCond .eq 11, 3) := dk_153 0 11 (dk_at dksX4_may_0 11 rfl rfl)
theorem dX4_may_14 : decode cX4_may 14 = .ok (.aload_n 0, 1) := dk_42 (dk_at dksX4_may_0 14 rfl rfl)
theorem dX4_may_15 : decode cX4_may 15 = .ok (.iload_n 2, 1) := dk_28 (dk_at dksX4_may_0 15 rfl rfl)
theorem dX4_may_16 : decode cX4_may 16 = .ok (.invokevirtual 262, 3) := dk_182 1 6 (dk_at dksX4_may_0 16 rfl rfl)
theorem dX4_may_19 : decode cX4_may 19 = .ok (.ifCond .ne 7, 3) := dk_154 0 7 (dk_at dksX4_may_0 19 rfl rfl)
theorem dX4_may_22 : decode cX4_may 22 = .ok (.iconst 1, 1) := dk_4 (dk_at dksX4_may_0 22 rfl rfl)
theorem dX4_may_23 : decode cX4_may 23 = .ok (.goto 4, 3) := dk_167 0 4 (dk_at dksX4_may_1 0 rfl rfl)
theorem dX4_may_26 : decode cX4_may 26 = .ok (.iconst 0, 1) := dk_3 (dk_at dksX4_may_1 3 rfl rfl)
theorem dX4_may_27 : decode cX4_may 27 = .ok (.iconst 1, 1) := dk_4 (dk_at dksX4_may_1 4 rfl rfl)
theorem dX4_may_28 : decode cX4_may 28 = .ok (.invokevirtual 227, 3) := dk_182 0 227 (dk_at dksX4_may_1 5 rfl rfl)
theorem dX4_may_31 : decode cX4_may 31 = .ok (.ifCond .ne 24, 3) := dk_154 0 24 (dk_at dksX4_may_1 8 rfl rfl)
theorem dX4_may_34 : decode cX4_may 34 = .ok (.aload_n 0, 1) := dk_42 (dk_at dksX4_may_1 11 rfl rfl)
theorem dX4_may_35 : decode cX4_may 35 = .ok (.aload_n 0, 1) := dk_42 (dk_at dksX4_may_1 12 rfl rfl)
theorem dX4_may_36 : decode cX4_may 36 = .ok (.iload_n 3, 1) := dk_29 (dk_at dksX4_may_1 13 rfl rfl)
theorem dX4_may_37 : decode cX4_may 37 = .ok (.invokevirtual 281, 3) := dk_182 1 25 (dk_at dksX4_may_1 14 rfl rfl)
theorem dX4_may_40 : decode cX4_may 40 = .ok (.ifCond .ne 7, 3) := dk_154 0 7 (dk_at dksX4_may_1 17 rfl rfl)
theorem dX4_may_43 : decode cX4_may 43 = .ok (.iconst 1, 1) := dk_4 (dk_at dksX4_may_1 20 rfl rfl)
theorem dX4_may_44 : decode cX4_may 44 = .ok (.goto 4, 3) := dk_167 0 4 (dk_at dksX4_may_1 21 rfl rfl)
theorem dX4_may_47 : decode cX4_may 47 = .ok (.iconst 0, 1) := dk_3 (dk_at dksX4_may_2 0 rfl rfl)
theorem dX4_may_48 : decode cX4_may 48 = .ok (.iconst 2, 1) := dk_5 (dk_at dksX4_may_2 1 rfl rfl)
theorem dX4_may_49 : decode cX4_may 49 = .ok (.invokevirtual 227, 3) := dk_182 0 227 (dk_at dksX4_may_2 2 rfl rfl)
theorem dX4_may_52 : decode cX4_may 52 = .ok (.ifCond .eq 5, 3) := dk_153 0 5 (dk_at dksX4_may_2 5 rfl rfl)
theorem dX4_may_55 : decode cX4_may 55 = .ok (.iconst 0, 1) := dk_3 (dk_at dksX4_may_2 8 rfl rfl)
theorem dX4_may_56 : decode cX4_may 56 = .ok (.ireturn, 1) := dk_172 (dk_at dksX4_may_2 9 rfl rfl)
theorem dX4_may_57 : decode cX4_may 57 = .ok (.aload_n 0, 1) := dk_42 (dk_at dksX4_may_2 10 rfl rfl)
theorem dX4_may_58 : decode cX4_may 58 = .ok (.iload_n 3, 1) := dk_29 (dk_at dksX4_may_2 11 rfl rfl)
theorem dX4_may_59 : decode cX4_may 59 = .ok (.invokevirtual 275, 3) := dk_182 1 19 (dk_at dksX4_may_2 12 rfl rfl)
theorem dX4_may_62 : decode cX4_may 62 = .ok (.aload_n 0, 1) := dk_42 (dk_at dksX4_may_2 15 rfl rfl)
theorem dX4_may_63 : decode cX4_may 63 = .ok (.iload_n 1, 1) := dk_27 (dk_at dksX4_may_2 16 rfl rfl)
theorem dX4_may_64 : decode cX4_may 64 = .ok (.iload_n 2, 1) := dk_28 (dk_at dksX4_may_2 17 rfl rfl)
theorem dX4_may_65 : decode cX4_may 65 = .ok (.invokevirtual 271, 3) := dk_182 1 15 (dk_at dksX4_may_2 18 rfl rfl)
theorem dX4_may_68 : decode cX4_may 68 = .ok (.ireturn, 1) := dk_172 (dk_at dksX4_may_2 21 rfl rfl)
abbrev cX4_isTime : ByteArray := prog_10_method_45_code
def yX4_isTime : MethodName := ⟨RX4, "isTime", "(I)Z"⟩
def dkwX4_isTime_0 : List UInt8 := [27, 3, 42, 180, 0, 238, 184, 0, 165, 172]
abbrev dktX4_isTime_0 : List UInt8 := dkwX4_isTime_0 ++ []
theorem dksX4_isTime_0 : cX4_isTime.data.toList.drop 0 = dktX4_isTime_0 := by decide +kernel
theorem dX4_isTime_0 : decode cX4_isTime 0 = .ok (.iload_n 1, 1) := dk_27 (dk_at dksX4_isTime_0 0 rfl rfl)
theorem dX4_isTime_1 : decode cX4_isTime 1 = .ok (.iconst 0, 1) := dk_3 (dk_at dksX4_isTime_0 1 rfl rfl)
theorem dX4_isTime_2 : decode cX4_isTime 2 = .ok (.aload_n 0, 1) := dk_42 (dk_at dksX4_isTime_0 2 rfl rfl)
theorem dX4_isTime_3 : decode cX4_isTime 3 = .ok (.getfield 238, 3) := dk_180 0 238 (dk_at dksX4_isTime_0 3 rfl rfl)
theorem dX4_isTime_6 : decode cX4_isTime 6 = .ok (.invokestatic 165, 3) := dk_184 0 165 (dk_at dksX4_isTime_0 6 rfl rfl)
theorem dX4_isTime_9 : decode cX4_isTime 9 = .ok (.ireturn, 1) := dk_172 (dk_at dksX4_isTime_0 9 rfl rfl)
abbrev cX4_laysTime : ByteArray := prog_10_method_42_code
def yX4_laysTime : MethodName := ⟨RX4, "laysTime", "(I)V"⟩
def dkwX4_laysTime_1 : List UInt8 := [180, 0, 58, 28, 42, 180, 0, 52, 27, 50, 28, 46, 79, 132, 2, 1, 167, 255, 219, 177]
abbrev dktX4_laysTime_1 : List UInt8 := dkwX4_laysTime_1 ++ []
def dkwX4_laysTime_0 : List UInt8 := [3, 61, 28, 16, 24, 162, 0, 37, 42, 180, 0, 55, 28, 42, 180, 0, 49, 27, 50, 28, 46, 79, 42]
abbrev dktX4_laysTime_0 : List UInt8 := dkwX4_laysTime_0 ++ dktX4_laysTime_1
theorem dksX4_laysTime_0 : cX4_laysTime.data.toList.drop 0 = dktX4_laysTime_0 := by decide +kernel
theorem dksX4_laysTime_1 : cX4_laysTime.data.toList.drop 23 = dktX4_laysTime_1 := dk_seg dksX4_laysTime_0 23 rfl rfl
theorem dX4_laysTime_0 : decode cX4_laysTime 0 = .ok (.iconst 0, 1) := dk_3 (dk_at dksX4_laysTime_0 0 rfl rfl)
theorem dX4_laysTime_1 : decode cX4_laysTime 1 = .ok (.istore_n 2, 1) := dk_61 (dk_at dksX4_laysTime_0 1 rfl rfl)
theorem dX4_laysTime_2 : decode cX4_laysTime 2 = .ok (.iload_n 2, 1) := dk_28 (dk_at dksX4_laysTime_0 2 rfl rfl)
theorem dX4_laysTime_3 : decode cX4_laysTime 3 = .ok (.bipush 24, 2) := dk_16 24 (dk_at dksX4_laysTime_0 3 rfl rfl)
theorem dX4_laysTime_5 : decode cX4_laysTime 5 = .ok (.if_icmp .ge 37, 3) := dk_162 0 37 (dk_at dksX4_laysTime_0 5 rfl rfl)
theorem dX4_laysTime_8 : decode cX4_laysTime 8 = .ok (.aload_n 0, 1) := dk_42 (dk_at dksX4_laysTime_0 8 rfl rfl)
theorem dX4_laysTime_9 : decode cX4_laysTime 9 = .ok (.getfield 55, 3) := dk_180 0 55 (dk_at dksX4_laysTime_0 9 rfl rfl)
theorem dX4_laysTime_12 : decode cX4_laysTime 12 = .ok (.iload_n 2, 1) := dk_28 (dk_at dksX4_laysTime_0 12 rfl rfl)
theorem dX4_laysTime_13 : decode cX4_laysTime 13 = .ok (.aload_n 0, 1) := dk_42 (dk_at dksX4_laysTime_0 13 rfl rfl)
theorem dX4_laysTime_14 : decode cX4_laysTime 14 = .ok (.getfield 49, 3) := dk_180 0 49 (dk_at dksX4_laysTime_0 14 rfl rfl)
theorem dX4_laysTime_17 : decode cX4_laysTime 17 = .ok (.iload_n 1, 1) := dk_27 (dk_at dksX4_laysTime_0 17 rfl rfl)
theorem dX4_laysTime_18 : decode cX4_laysTime 18 = .ok (.aaload, 1) := dk_50 (dk_at dksX4_laysTime_0 18 rfl rfl)
theorem dX4_laysTime_19 : decode cX4_laysTime 19 = .ok (.iload_n 2, 1) := dk_28 (dk_at dksX4_laysTime_0 19 rfl rfl)
theorem dX4_laysTime_20 : decode cX4_laysTime 20 = .ok (.iaload, 1) := dk_46 (dk_at dksX4_laysTime_0 20 rfl rfl)
theorem dX4_laysTime_21 : decode cX4_laysTime 21 = .ok (.iastore, 1) := dk_79 (dk_at dksX4_laysTime_0 21 rfl rfl)
theorem dX4_laysTime_22 : decode cX4_laysTime 22 = .ok (.aload_n 0, 1) := dk_42 (dk_at dksX4_laysTime_0 22 rfl rfl)
theorem dX4_laysTime_23 : decode cX4_laysTime 23 = .ok (.getfield 58, 3) := dk_180 0 58 (dk_at dksX4_laysTime_1 0 rfl rfl)
theorem dX4_laysTime_26 : decode cX4_laysTime 26 = .ok (.iload_n 2, 1) := dk_28 (dk_at dksX4_laysTime_1 3 rfl rfl)
theorem dX4_laysTime_27 : decode cX4_laysTime 27 = .ok (.aload_n 0, 1) := dk_42 (dk_at dksX4_laysTime_1 4 rfl rfl)
theorem dX4_laysTime_28 : decode cX4_laysTime 28 = .ok (.getfield 52, 3) := dk_180 0 52 (dk_at dksX4_laysTime_1 5 rfl rfl)
theorem dX4_laysTime_31 : decode cX4_laysTime 31 = .ok (.iload_n 1, 1) := dk_27 (dk_at dksX4_laysTime_1 8 rfl rfl)
theorem dX4_laysTime_32 : decode cX4_laysTime 32 = .ok (.aaload, 1) := dk_50 (dk_at dksX4_laysTime_1 9 rfl rfl)
theorem dX4_laysTime_33 : decode cX4_laysTime 33 = .ok (.iload_n 2, 1) := dk_28 (dk_at dksX4_laysTime_1 10 rfl rfl)
theorem dX4_laysTime_34 : decode cX4_laysTime 34 = .ok (.iaload, 1) := dk_46 (dk_at dksX4_laysTime_1 11 rfl rfl)
theorem dX4_laysTime_35 : decode cX4_laysTime 35 = .ok (.iastore, 1) := dk_79 (dk_at dksX4_laysTime_1 12 rfl rfl)
theorem dX4_laysTime_36 : decode cX4_laysTime 36 = .ok (.iinc 2 1, 3) := dk_132 2 1 (dk_at dksX4_laysTime_1 13 rfl rfl)
theorem dX4_laysTime_39 : decode cX4_laysTime 39 = .ok (.goto (-37), 3) := dk_167 255 219 (dk_at dksX4_laysTime_1 16 rfl rfl)
theorem dX4_laysTime_42 : decode cX4_laysTime 42 = .ok (.return_, 1) := dk_177 (dk_at dksX4_laysTime_1 19 rfl rfl)
abbrev cX4_mayNow : ByteArray := prog_10_method_41_code
def yX4_mayNow : MethodName := ⟨RX4, "mayNow", "(II)Z"⟩
def dkwX4_mayNow_3 : List UInt8 := [167, 0, 4, 3, 172]
abbrev dktX4_mayNow_3 : List UInt8 := dkwX4_mayNow_3 ++ []
def dkwX4_mayNow_2 : List UInt8 := [21, 4, 153, 0, 24, 42, 180, 0, 55, 27, 5, 108, 46, 28, 5, 108, 122, 4, 126, 154, 0, 7, 4]
abbrev dktX4_mayNow_2 : List UInt8 := dkwX4_mayNow_2 ++ dktX4_mayNow_3
def dkwX4_mayNow_1 : List UInt8 := [180, 0, 58, 27, 5, 108, 46, 28, 5, 108, 122, 4, 126, 4, 160, 0, 7, 4, 167, 0, 4, 3, 54, 4]
abbrev dktX4_mayNow_1 : List UInt8 := dkwX4_mayNow_1 ++ dktX4_mayNow_2
def dkwX4_mayNow_0 : List UInt8 := [42, 27, 28, 182, 1, 9, 62, 29, 4, 159, 0, 31, 29, 5, 159, 0, 26, 29, 6, 160, 0, 25, 42]
abbrev dktX4_mayNow_0 : List UInt8 := dkwX4_mayNow_0 ++ dktX4_mayNow_1
theorem dksX4_mayNow_0 : cX4_mayNow.data.toList.drop 0 = dktX4_mayNow_0 := by decide +kernel
theorem dksX4_mayNow_1 : cX4_mayNow.data.toList.drop 23 = dktX4_mayNow_1 := dk_seg dksX4_mayNow_0 23 rfl rfl
theorem dksX4_mayNow_2 : cX4_mayNow.data.toList.drop 47 = dktX4_mayNow_2 := dk_seg dksX4_mayNow_1 24 rfl rfl
theorem dksX4_mayNow_3 : cX4_mayNow.data.toList.drop 70 = dktX4_mayNow_3 := dk_seg dksX4_mayNow_2 23 rfl rfl
theorem dX4_mayNow_0 : decode cX4_mayNow 0 = .ok (.aload_n 0, 1) := dk_42 (dk_at dksX4_mayNow_0 0 rfl rfl)
theorem dX4_mayNow_1 : decode cX4_mayNow 1 = .ok (.iload_n 1, 1) := dk_27 (dk_at dksX4_mayNow_0 1 rfl rfl)
theorem dX4_mayNow_2 : decode cX4_mayNow 2 = .ok (.iload_n 2, 1) := dk_28 (dk_at dksX4_mayNow_0 2 rfl rfl)
theorem dX4_mayNow_3 : decode cX4_mayNow 3 = .ok (.invokevirtual 265, 3) := dk_182 1 9 (dk_at dksX4_mayNow_0 3 rfl rfl)
theorem dX4_mayNow_6 : decode cX4_mayNow 6 = .ok (.istore_n 3, 1) := dk_62 (dk_at dksX4_mayNow_0 6 rfl rfl)
theorem dX4_mayNow_7 : decode cX4_mayNow 7 = .ok (.iload_n 3, 1) := dk_29 (dk_at dksX4_mayNow_0 7 rfl rfl)
theorem dX4_mayNow_8 : decode cX4_mayNow 8 = .ok (.iconst 1, 1) := dk_4 (dk_at dksX4_mayNow_0 8 rfl rfl)
theorem dX4_mayNow_9 : decode cX4_mayNow 9 = .ok (.if_icmp .eq 31, 3) := dk_159 0 31 (dk_at dksX4_mayNow_0 9 rfl rfl)
theorem dX4_mayNow_12 : decode cX4_mayNow 12 = .ok (.iload_n 3, 1) := dk_29 (dk_at dksX4_mayNow_0 12 rfl rfl)
theorem dX4_mayNow_13 : decode cX4_mayNow 13 = .ok (.iconst 2, 1) := dk_5 (dk_at dksX4_mayNow_0 13 rfl rfl)
theorem dX4_mayNow_14 : decode cX4_mayNow 14 = .ok (.if_icmp .eq 26, 3) := dk_159 0 26 (dk_at dksX4_mayNow_0 14 rfl rfl)
theorem dX4_mayNow_17 : decode cX4_mayNow 17 = .ok (.iload_n 3, 1) := dk_29 (dk_at dksX4_mayNow_0 17 rfl rfl)
theorem dX4_mayNow_18 : decode cX4_mayNow 18 = .ok (.iconst 3, 1) := dk_6 (dk_at dksX4_mayNow_0 18 rfl rfl)
theorem dX4_mayNow_19 : decode cX4_mayNow 19 = .ok (.if_icmp .ne 25, 3) := dk_160 0 25 (dk_at dksX4_mayNow_0 19 rfl rfl)
theorem dX4_mayNow_22 : decode cX4_mayNow 22 = .ok (.aload_n 0, 1) := dk_42 (dk_at dksX4_mayNow_0 22 rfl rfl)
theorem dX4_mayNow_23 : decode cX4_mayNow 23 = .ok (.getfield 58, 3) := dk_180 0 58 (dk_at dksX4_mayNow_1 0 rfl rfl)
theorem dX4_mayNow_26 : decode cX4_mayNow 26 = .ok (.iload_n 1, 1) := dk_27 (dk_at dksX4_mayNow_1 3 rfl rfl)
theorem dX4_mayNow_27 : decode cX4_mayNow 27 = .ok (.iconst 2, 1) := dk_5 (dk_at dksX4_mayNow_1 4 rfl rfl)
theorem dX4_mayNow_28 : decode cX4_mayNow 28 = .ok (.idiv, 1) := dk_108 (dk_at dksX4_mayNow_1 5 rfl rfl)
theorem dX4_mayNow_29 : decode cX4_mayNow 29 = .ok (.iaload, 1) := dk_46 (dk_at dksX4_mayNow_1 6 rfl rfl)
theorem dX4_mayNow_30 : decode cX4_mayNow 30 = .ok (.iload_n 2, 1) := dk_28 (dk_at dksX4_mayNow_1 7 rfl rfl)
theorem dX4_mayNow_31 : decode cX4_mayNow 31 = .ok (.iconst 2, 1) := dk_5 (dk_at dksX4_mayNow_1 8 rfl rfl)
theorem dX4_mayNow_32 : decode cX4_mayNow 32 = .ok (.idiv, 1) := dk_108 (dk_at dksX4_mayNow_1 9 rfl rfl)
theorem dX4_mayNow_33 : decode cX4_mayNow 33 = .ok (.ishr, 1) := dk_122 (dk_at dksX4_mayNow_1 10 rfl rfl)
theorem dX4_mayNow_34 : decode cX4_mayNow 34 = .ok (.iconst 1, 1) := dk_4 (dk_at dksX4_mayNow_1 11 rfl rfl)
theorem dX4_mayNow_35 : decode cX4_mayNow 35 = .ok (.iand, 1) := dk_126 (dk_at dksX4_mayNow_1 12 rfl rfl)
theorem dX4_mayNow_36 : decode cX4_mayNow 36 = .ok (.iconst 1, 1) := dk_4 (dk_at dksX4_mayNow_1 13 rfl rfl)
theorem dX4_mayNow_37 : decode cX4_mayNow 37 = .ok (.if_icmp .ne 7, 3) := dk_160 0 7 (dk_at dksX4_mayNow_1 14 rfl rfl)
theorem dX4_mayNow_40 : decode cX4_mayNow 40 = .ok (.iconst 1, 1) := dk_4 (dk_at dksX4_mayNow_1 17 rfl rfl)
theorem dX4_mayNow_41 : decode cX4_mayNow 41 = .ok (.goto 4, 3) := dk_167 0 4 (dk_at dksX4_mayNow_1 18 rfl rfl)
theorem dX4_mayNow_44 : decode cX4_mayNow 44 = .ok (.iconst 0, 1) := dk_3 (dk_at dksX4_mayNow_1 21 rfl rfl)
theorem dX4_mayNow_45 : decode cX4_mayNow 45 = .ok (.istore 4, 2) := dk_54 4 (dk_at dksX4_mayNow_1 22 rfl rfl)
theorem dX4_mayNow_47 : decode cX4_mayNow 47 = .ok (.iload 4, 2) := dk_21 4 (dk_at dksX4_mayNow_2 0 rfl rfl)
theorem dX4_mayNow_49 : decode cX4_mayNow 49 = .ok (.ifCond .eq 24, 3) := dk_153 0 24 (dk_at dksX4_mayNow_2 2 rfl rfl)
theorem dX4_mayNow_52 : decode cX4_mayNow 52 = .ok (.aload_n 0, 1) := dk_42 (dk_at dksX4_mayNow_2 5 rfl rfl)
theorem dX4_mayNow_53 : decode cX4_mayNow 53 = .ok (.getfield 55, 3) := dk_180 0 55 (dk_at dksX4_mayNow_2 6 rfl rfl)
theorem dX4_mayNow_56 : decode cX4_mayNow 56 = .ok (.iload_n 1, 1) := dk_27 (dk_at dksX4_mayNow_2 9 rfl rfl)
theorem dX4_mayNow_57 : decode cX4_mayNow 57 = .ok (.iconst 2, 1) := dk_5 (dk_at dksX4_mayNow_2 10 rfl rfl)
theorem dX4_mayNow_58 : decode cX4_mayNow 58 = .ok (.idiv, 1) := dk_108 (dk_at dksX4_mayNow_2 11 rfl rfl)
theorem dX4_mayNow_59 : decode cX4_mayNow 59 = .ok (.iaload, 1) := dk_46 (dk_at dksX4_mayNow_2 12 rfl rfl)
theorem dX4_mayNow_60 : decode cX4_mayNow 60 = .ok (.iload_n 2, 1) := dk_28 (dk_at dksX4_mayNow_2 13 rfl rfl)
theorem dX4_mayNow_61 : decode cX4_mayNow 61 = .ok (.iconst 2, 1) := dk_5 (dk_at dksX4_mayNow_2 14 rfl rfl)
theorem dX4_mayNow_62 : decode cX4_mayNow 62 = .ok (.idiv, 1) := dk_108 (dk_at dksX4_mayNow_2 15 rfl rfl)
theorem dX4_mayNow_63 : decode cX4_mayNow 63 = .ok (.ishr, 1) := dk_122 (dk_at dksX4_mayNow_2 16 rfl rfl)
theorem dX4_mayNow_64 : decode cX4_mayNow 64 = .ok (.iconst 1, 1) := dk_4 (dk_at dksX4_mayNow_2 17 rfl rfl)
theorem dX4_mayNow_65 : decode cX4_mayNow 65 = .ok (.iand, 1) := dk_126 (dk_at dksX4_mayNow_2 18 rfl rfl)
theorem dX4_mayNow_66 : decode cX4_mayNow 66 = .ok (.ifCond .ne 7, 3) := dk_154 0 7 (dk_at dksX4_mayNow_2 19 rfl rfl)
theorem dX4_mayNow_69 : decode cX4_mayNow 69 = .ok (.iconst 1, 1) := dk_4 (dk_at dksX4_mayNow_2 22 rfl rfl)
theorem dX4_mayNow_70 : decode cX4_mayNow 70 = .ok (.goto 4, 3) := dk_167 0 4 (dk_at dksX4_mayNow_3 0 rfl rfl)
theorem dX4_mayNow_73 : decode cX4_mayNow 73 = .ok (.iconst 0, 1) := dk_3 (dk_at dksX4_mayNow_3 3 rfl rfl)
theorem dX4_mayNow_74 : decode cX4_mayNow 74 = .ok (.ireturn, 1) := dk_172 (dk_at dksX4_mayNow_3 4 rfl rfl)
abbrev cX4_sign : ByteArray := prog_10_method_50_code
def yX4_sign : MethodName := ⟨RX4, "sign", "(IIZ)I"⟩
def dkwX4_sign_0 : List UInt8 := [42, 3, 181, 0, 131, 42, 42, 180, 0, 49, 27, 28, 29, 182, 1, 34, 172]
abbrev dktX4_sign_0 : List UInt8 := dkwX4_sign_0 ++ []
theorem dksX4_sign_0 : cX4_sign.data.toList.drop 0 = dktX4_sign_0 := by decide +kernel
theorem dX4_sign_0 : decode cX4_sign 0 = .ok (.aload_n 0, 1) := dk_42 (dk_at dksX4_sign_0 0 rfl rfl)
theorem dX4_sign_1 : decode cX4_sign 1 = .ok (.iconst 0, 1) := dk_3 (dk_at dksX4_sign_0 1 rfl rfl)
theorem dX4_sign_2 : decode cX4_sign 2 = .ok (.putfield 131, 3) := dk_181 0 131 (dk_at dksX4_sign_0 2 rfl rfl)
theorem dX4_sign_5 : decode cX4_sign 5 = .ok (.aload_n 0, 1) := dk_42 (dk_at dksX4_sign_0 5 rfl rfl)
theorem dX4_sign_6 : decode cX4_sign 6 = .ok (.aload_n 0, 1) := dk_42 (dk_at dksX4_sign_0 6 rfl rfl)
theorem dX4_sign_7 : decode cX4_sign 7 = .ok (.getfield 49, 3) := dk_180 0 49 (dk_at dksX4_sign_0 7 rfl rfl)
theorem dX4_sign_10 : decode cX4_sign 10 = .ok (.iload_n 1, 1) := dk_27 (dk_at dksX4_sign_0 10 rfl rfl)
theorem dX4_sign_11 : decode cX4_sign 11 = .ok (.iload_n 2, 1) := dk_28 (dk_at dksX4_sign_0 11 rfl rfl)
theorem dX4_sign_12 : decode cX4_sign 12 = .ok (.iload_n 3, 1) := dk_29 (dk_at dksX4_sign_0 12 rfl rfl)
theorem dX4_sign_13 : decode cX4_sign 13 = .ok (.invokevirtual 290, 3) := dk_182 1 34 (dk_at dksX4_sign_0 13 rfl rfl)
theorem dX4_sign_16 : decode cX4_sign 16 = .ok (.ireturn, 1) := dk_172 (dk_at dksX4_sign_0 16 rfl rfl)
abbrev cX4_changesTo : ByteArray := prog_10_method_49_code
def yX4_changesTo : MethodName := ⟨RX4, "changesTo", "([[IIIZ)I"⟩
def dkwX4_changesTo_5 : List UInt8 := [180, 0, 238, 172]
abbrev dktX4_changesTo_5 : List UInt8 := dkwX4_changesTo_5 ++ []
def dkwX4_changesTo_4 : List UInt8 := [16, 254, 172, 42, 182, 1, 31, 87, 43, 42, 180, 0, 238, 50, 28, 92, 46, 4, 29, 120, 130, 79, 42]
abbrev dktX4_changesTo_4 : List UInt8 := dkwX4_changesTo_4 ++ dktX4_changesTo_5
def dkwX4_changesTo_3 : List UInt8 := [180, 0, 238, 50, 28, 46, 29, 122, 4, 126, 21, 4, 153, 0, 7, 4, 167, 0, 4, 3, 160, 0, 6]
abbrev dktX4_changesTo_3 : List UInt8 := dkwX4_changesTo_3 ++ dktX4_changesTo_4
def dkwX4_changesTo_2 : List UInt8 := [182, 0, 227, 153, 0, 5, 3, 172, 42, 180, 0, 238, 17, 0, 200, 160, 0, 5, 2, 172, 43, 42]
abbrev dktX4_changesTo_2 : List UInt8 := dkwX4_changesTo_2 ++ dktX4_changesTo_3
def dkwX4_changesTo_1 : List UInt8 := [29, 159, 0, 15, 42, 180, 0, 34, 28, 29, 184, 0, 223, 154, 0, 7, 4, 167, 0, 4, 3, 5]
abbrev dktX4_changesTo_1 : List UInt8 := dkwX4_changesTo_1 ++ dktX4_changesTo_2
def dkwX4_changesTo_0 : List UInt8 := [42, 42, 28, 29, 182, 1, 28, 154, 0, 7, 4, 167, 0, 4, 3, 4, 182, 0, 227, 154, 0, 33, 42, 28]
abbrev dktX4_changesTo_0 : List UInt8 := dkwX4_changesTo_0 ++ dktX4_changesTo_1
theorem dksX4_changesTo_0 : cX4_changesTo.data.toList.drop 0 = dktX4_changesTo_0 := by decide +kernel
theorem dksX4_changesTo_1 : cX4_changesTo.data.toList.drop 24 = dktX4_changesTo_1 := dk_seg dksX4_changesTo_0 24 rfl rfl
theorem dksX4_changesTo_2 : cX4_changesTo.data.toList.drop 46 = dktX4_changesTo_2 := dk_seg dksX4_changesTo_1 22 rfl rfl
theorem dksX4_changesTo_3 : cX4_changesTo.data.toList.drop 68 = dktX4_changesTo_3 := dk_seg dksX4_changesTo_2 22 rfl rfl
theorem dksX4_changesTo_4 : cX4_changesTo.data.toList.drop 91 = dktX4_changesTo_4 := dk_seg dksX4_changesTo_3 23 rfl rfl
theorem dksX4_changesTo_5 : cX4_changesTo.data.toList.drop 114 = dktX4_changesTo_5 := dk_seg dksX4_changesTo_4 23 rfl rfl
theorem dX4_changesTo_0 : decode cX4_changesTo 0 = .ok (.aload_n 0, 1) := dk_42 (dk_at dksX4_changesTo_0 0 rfl rfl)
theorem dX4_changesTo_1 : decode cX4_changesTo 1 = .ok (.aload_n 0, 1) := dk_42 (dk_at dksX4_changesTo_0 1 rfl rfl)
theorem dX4_changesTo_2 : decode cX4_changesTo 2 = .ok (.iload_n 2, 1) := dk_28 (dk_at dksX4_changesTo_0 2 rfl rfl)
theorem dX4_changesTo_3 : decode cX4_changesTo 3 = .ok (.iload_n 3, 1) := dk_29 (dk_at dksX4_changesTo_0 3 rfl rfl)
theorem dX4_changesTo_4 : decode cX4_changesTo 4 = .ok (.invokevirtual 284, 3) := dk_182 1 28 (dk_at dksX4_changesTo_0 4 rfl rfl)
theorem dX4_changesTo_7 : decode cX4_changesTo 7 = .ok (.ifCond .ne 7, 3) := dk_154 0 7 (dk_at dksX4_changesTo_0 7 rfl rfl)
theorem dX4_changesTo_10 : decode cX4_changesTo 10 = .ok (.iconst 1, 1) := dk_4 (dk_at dksX4_changesTo_0 10 rfl rfl)
theorem dX4_changesTo_11 : decode cX4_changesTo 11 = .ok (.goto 4, 3) := dk_167 0 4 (dk_at dksX4_changesTo_0 11 rfl rfl)
theorem dX4_changesTo_14 : decode cX4_changesTo 14 = .ok (.iconst 0, 1) := dk_3 (dk_at dksX4_changesTo_0 14 rfl rfl)
theorem dX4_changesTo_15 : decode cX4_changesTo 15 = .ok (.iconst 1, 1) := dk_4 (dk_at dksX4_changesTo_0 15 rfl rfl)
theorem dX4_changesTo_16 : decode cX4_changesTo 16 = .ok (.invokevirtual 227, 3) := dk_182 0 227 (dk_at dksX4_changesTo_0 16 rfl rfl)
theorem dX4_changesTo_19 : decode cX4_changesTo 19 = .ok (.ifCond .ne 33, 3) := dk_154 0 33 (dk_at dksX4_changesTo_0 19 rfl rfl)
theorem dX4_changesTo_22 : decode cX4_changesTo 22 = .ok (.aload_n 0, 1) := dk_42 (dk_at dksX4_changesTo_0 22 rfl rfl)
theorem dX4_changesTo_23 : decode cX4_changesTo 23 = .ok (.iload_n 2, 1) := dk_28 (dk_at dksX4_changesTo_0 23 rfl rfl)
theorem dX4_changesTo_24 : decode cX4_changesTo 24 = .ok (.iload_n 3, 1) := dk_29 (dk_at dksX4_changesTo_1 0 rfl rfl)
theorem dX4_changesTo_25 : decode cX4_changesTo 25 = .ok (.if_icmp .eq 15, 3) := dk_159 0 15 (dk_at dksX4_changesTo_1 1 rfl rfl)
theorem dX4_changesTo_28 : decode cX4_changesTo 28 = .ok (.aload_n 0, 1) := dk_42 (dk_at dksX4_changesTo_1 4 rfl rfl)
theorem dX4_changesTo_29 : decode cX4_changesTo 29 = .ok (.getfield 34, 3) := dk_180 0 34 (dk_at dksX4_changesTo_1 5 rfl rfl)
theorem dX4_changesTo_32 : decode cX4_changesTo 32 = .ok (.iload_n 2, 1) := dk_28 (dk_at dksX4_changesTo_1 8 rfl rfl)
theorem dX4_changesTo_33 : decode cX4_changesTo 33 = .ok (.iload_n 3, 1) := dk_29 (dk_at dksX4_changesTo_1 9 rfl rfl)
theorem dX4_changesTo_34 : decode cX4_changesTo 34 = .ok (.invokestatic 223, 3) := dk_184 0 223 (dk_at dksX4_changesTo_1 10 rfl rfl)
theorem dX4_changesTo_37 : decode cX4_changesTo 37 = .ok (.ifCond .ne 7, 3) := dk_154 0 7 (dk_at dksX4_changesTo_1 13 rfl rfl)
theorem dX4_changesTo_40 : decode cX4_changesTo 40 = .ok (.iconst 1, 1) := dk_4 (dk_at dksX4_changesTo_1 16 rfl rfl)
theorem dX4_changesTo_41 : decode cX4_changesTo 41 = .ok (.goto 4, 3) := dk_167 0 4 (dk_at dksX4_changesTo_1 17 rfl rfl)
theorem dX4_changesTo_44 : decode cX4_changesTo 44 = .ok (.iconst 0, 1) := dk_3 (dk_at dksX4_changesTo_1 20 rfl rfl)
theorem dX4_changesTo_45 : decode cX4_changesTo 45 = .ok (.iconst 2, 1) := dk_5 (dk_at dksX4_changesTo_1 21 rfl rfl)
theorem dX4_changesTo_46 : decode cX4_changesTo 46 = .ok (.invokevirtual 227, 3) := dk_182 0 227 (dk_at dksX4_changesTo_2 0 rfl rfl)
theorem dX4_changesTo_49 : decode cX4_changesTo 49 = .ok (.ifCond .eq 5, 3) := dk_153 0 5 (dk_at dksX4_changesTo_2 3 rfl rfl)
theorem dX4_changesTo_52 : decode cX4_changesTo 52 = .ok (.iconst 0, 1) := dk_3 (dk_at dksX4_changesTo_2 6 rfl rfl)
theorem dX4_changesTo_53 : decode cX4_changesTo 53 = .ok (.ireturn, 1) := dk_172 (dk_at dksX4_changesTo_2 7 rfl rfl)
theorem dX4_changesTo_54 : decode cX4_changesTo 54 = .ok (.aload_n 0, 1) := dk_42 (dk_at dksX4_changesTo_2 8 rfl rfl)
theorem dX4_changesTo_55 : decode cX4_changesTo 55 = .ok (.getfield 238, 3) := dk_180 0 238 (dk_at dksX4_changesTo_2 9 rfl rfl)
theorem dX4_changesTo_58 : decode cX4_changesTo 58 = .ok (.sipush 200, 3) := dk_17 0 200 (dk_at dksX4_changesTo_2 12 rfl rfl)
theorem dX4_changesTo_61 : decode cX4_changesTo 61 = .ok (.if_icmp .ne 5, 3) := dk_160 0 5 (dk_at dksX4_changesTo_2 15 rfl rfl)
theorem dX4_changesTo_64 : decode cX4_changesTo 64 = .ok (.iconst (-1), 1) := dk_2 (dk_at dksX4_changesTo_2 18 rfl rfl)
theorem dX4_changesTo_65 : decode cX4_changesTo 65 = .ok (.ireturn, 1) := dk_172 (dk_at dksX4_changesTo_2 19 rfl rfl)
theorem dX4_changesTo_66 : decode cX4_changesTo 66 = .ok (.aload_n 1, 1) := dk_43 (dk_at dksX4_changesTo_2 20 rfl rfl)
theorem dX4_changesTo_67 : decode cX4_changesTo 67 = .ok (.aload_n 0, 1) := dk_42 (dk_at dksX4_changesTo_2 21 rfl rfl)
theorem dX4_changesTo_68 : decode cX4_changesTo 68 = .ok (.getfield 238, 3) := dk_180 0 238 (dk_at dksX4_changesTo_3 0 rfl rfl)
theorem dX4_changesTo_71 : decode cX4_changesTo 71 = .ok (.aaload, 1) := dk_50 (dk_at dksX4_changesTo_3 3 rfl rfl)
theorem dX4_changesTo_72 : decode cX4_changesTo 72 = .ok (.iload_n 2, 1) := dk_28 (dk_at dksX4_changesTo_3 4 rfl rfl)
theorem dX4_changesTo_73 : decode cX4_changesTo 73 = .ok (.iaload, 1) := dk_46 (dk_at dksX4_changesTo_3 5 rfl rfl)
theorem dX4_changesTo_74 : decode cX4_changesTo 74 = .ok (.iload_n 3, 1) := dk_29 (dk_at dksX4_changesTo_3 6 rfl rfl)
theorem dX4_changesTo_75 : decode cX4_changesTo 75 = .ok (.ishr, 1) := dk_122 (dk_at dksX4_changesTo_3 7 rfl rfl)
theorem dX4_changesTo_76 : decode cX4_changesTo 76 = .ok (.iconst 1, 1) := dk_4 (dk_at dksX4_changesTo_3 8 rfl rfl)
theorem dX4_changesTo_77 : decode cX4_changesTo 77 = .ok (.iand, 1) := dk_126 (dk_at dksX4_changesTo_3 9 rfl rfl)
theorem dX4_changesTo_78 : decode cX4_changesTo 78 = .ok (.iload 4, 2) := dk_21 4 (dk_at dksX4_changesTo_3 10 rfl rfl)
theorem dX4_changesTo_80 : decode cX4_changesTo 80 = .ok (.ifCond .eq 7, 3) := dk_153 0 7 (dk_at dksX4_changesTo_3 12 rfl rfl)
theorem dX4_changesTo_83 : decode cX4_changesTo 83 = .ok (.iconst 1, 1) := dk_4 (dk_at dksX4_changesTo_3 15 rfl rfl)
theorem dX4_changesTo_84 : decode cX4_changesTo 84 = .ok (.goto 4, 3) := dk_167 0 4 (dk_at dksX4_changesTo_3 16 rfl rfl)
theorem dX4_changesTo_87 : decode cX4_changesTo 87 = .ok (.iconst 0, 1) := dk_3 (dk_at dksX4_changesTo_3 19 rfl rfl)
theorem dX4_changesTo_88 : decode cX4_changesTo 88 = .ok (.if_icmp .ne 6, 3) := dk_160 0 6 (dk_at dksX4_changesTo_3 20 rfl rfl)
theorem dX4_changesTo_91 : decode cX4_changesTo 91 = .ok (.bipush (-2), 2) := dk_16 254 (dk_at dksX4_changesTo_4 0 rfl rfl)
theorem dX4_changesTo_93 : decode cX4_changesTo 93 = .ok (.ireturn, 1) := dk_172 (dk_at dksX4_changesTo_4 2 rfl rfl)
theorem dX4_changesTo_94 : decode cX4_changesTo 94 = .ok (.aload_n 0, 1) := dk_42 (dk_at dksX4_changesTo_4 3 rfl rfl)
theorem dX4_changesTo_95 : decode cX4_changesTo 95 = .ok (.invokevirtual 287, 3) := dk_182 1 31 (dk_at dksX4_changesTo_4 4 rfl rfl)
theorem dX4_changesTo_98 : decode cX4_changesTo 98 = .ok (.pop, 1) := dk_87 (dk_at dksX4_changesTo_4 7 rfl rfl)
theorem dX4_changesTo_99 : decode cX4_changesTo 99 = .ok (.aload_n 1, 1) := dk_43 (dk_at dksX4_changesTo_4 8 rfl rfl)
theorem dX4_changesTo_100 : decode cX4_changesTo 100 = .ok (.aload_n 0, 1) := dk_42 (dk_at dksX4_changesTo_4 9 rfl rfl)
theorem dX4_changesTo_101 : decode cX4_changesTo 101 = .ok (.getfield 238, 3) := dk_180 0 238 (dk_at dksX4_changesTo_4 10 rfl rfl)
theorem dX4_changesTo_104 : decode cX4_changesTo 104 = .ok (.aaload, 1) := dk_50 (dk_at dksX4_changesTo_4 13 rfl rfl)
theorem dX4_changesTo_105 : decode cX4_changesTo 105 = .ok (.iload_n 2, 1) := dk_28 (dk_at dksX4_changesTo_4 14 rfl rfl)
theorem dX4_changesTo_106 : decode cX4_changesTo 106 = .ok (.dup2, 1) := dk_92 (dk_at dksX4_changesTo_4 15 rfl rfl)
theorem dX4_changesTo_107 : decode cX4_changesTo 107 = .ok (.iaload, 1) := dk_46 (dk_at dksX4_changesTo_4 16 rfl rfl)
theorem dX4_changesTo_108 : decode cX4_changesTo 108 = .ok (.iconst 1, 1) := dk_4 (dk_at dksX4_changesTo_4 17 rfl rfl)
theorem dX4_changesTo_109 : decode cX4_changesTo 109 = .ok (.iload_n 3, 1) := dk_29 (dk_at dksX4_changesTo_4 18 rfl rfl)
theorem dX4_changesTo_110 : decode cX4_changesTo 110 = .ok (.ishl, 1) := dk_120 (dk_at dksX4_changesTo_4 19 rfl rfl)
theorem dX4_changesTo_111 : decode cX4_changesTo 111 = .ok (.ixor, 1) := dk_130 (dk_at dksX4_changesTo_4 20 rfl rfl)
theorem dX4_changesTo_112 : decode cX4_changesTo 112 = .ok (.iastore, 1) := dk_79 (dk_at dksX4_changesTo_4 21 rfl rfl)
theorem dX4_changesTo_113 : decode cX4_changesTo 113 = .ok (.aload_n 0, 1) := dk_42 (dk_at dksX4_changesTo_4 22 rfl rfl)
theorem dX4_changesTo_114 : decode cX4_changesTo 114 = .ok (.getfield 238, 3) := dk_180 0 238 (dk_at dksX4_changesTo_5 0 rfl rfl)
theorem dX4_changesTo_117 : decode cX4_changesTo 117 = .ok (.ireturn, 1) := dk_172 (dk_at dksX4_changesTo_5 3 rfl rfl)
abbrev cX4_areStreets : ByteArray := prog_10_method_48_code
def yX4_areStreets : MethodName := ⟨RX4, "areStreets", "(II)Z"⟩
def dkwX4_areStreets_0 : List UInt8 := [42, 27, 182, 1, 12, 153, 0, 15, 42, 28, 182, 1, 12, 153, 0, 7, 4, 167, 0, 4, 3, 172]
abbrev dktX4_areStreets_0 : List UInt8 := dkwX4_areStreets_0 ++ []
theorem dksX4_areStreets_0 : cX4_areStreets.data.toList.drop 0 = dktX4_areStreets_0 := by decide +kernel
theorem dX4_areStreets_0 : decode cX4_areStreets 0 = .ok (.aload_n 0, 1) := dk_42 (dk_at dksX4_areStreets_0 0 rfl rfl)
theorem dX4_areStreets_1 : decode cX4_areStreets 1 = .ok (.iload_n 1, 1) := dk_27 (dk_at dksX4_areStreets_0 1 rfl rfl)
theorem dX4_areStreets_2 : decode cX4_areStreets 2 = .ok (.invokevirtual 268, 3) := dk_182 1 12 (dk_at dksX4_areStreets_0 2 rfl rfl)
theorem dX4_areStreets_5 : decode cX4_areStreets 5 = .ok (.ifCond .eq 15, 3) := dk_153 0 15 (dk_at dksX4_areStreets_0 5 rfl rfl)
theorem dX4_areStreets_8 : decode cX4_areStreets 8 = .ok (.aload_n 0, 1) := dk_42 (dk_at dksX4_areStreets_0 8 rfl rfl)
theorem dX4_areStreets_9 : decode cX4_areStreets 9 = .ok (.iload_n 2, 1) := dk_28 (dk_at dksX4_areStreets_0 9 rfl rfl)
theorem dX4_areStreets_10 : decode cX4_areStreets 10 = .ok (.invokevirtual 268, 3) := dk_182 1 12 (dk_at dksX4_areStreets_0 10 rfl rfl)
theorem dX4_areStreets_13 : decode cX4_areStreets 13 = .ok (.ifCond .eq 7, 3) := dk_153 0 7 (dk_at dksX4_areStreets_0 13 rfl rfl)
theorem dX4_areStreets_16 : decode cX4_areStreets 16 = .ok (.iconst 1, 1) := dk_4 (dk_at dksX4_areStreets_0 16 rfl rfl)
theorem dX4_areStreets_17 : decode cX4_areStreets 17 = .ok (.goto 4, 3) := dk_167 0 4 (dk_at dksX4_areStreets_0 17 rfl rfl)
theorem dX4_areStreets_20 : decode cX4_areStreets 20 = .ok (.iconst 0, 1) := dk_3 (dk_at dksX4_areStreets_0 20 rfl rfl)
theorem dX4_areStreets_21 : decode cX4_areStreets 21 = .ok (.ireturn, 1) := dk_172 (dk_at dksX4_areStreets_0 21 rfl rfl)
abbrev cX4_changes : ByteArray := prog_10_method_47_code
def yX4_changes : MethodName := ⟨RX4, "changes", "()I"⟩
def dkwX4_changes_3 : List UInt8 := [42, 180, 0, 238, 172]
abbrev dktX4_changes_3 : List UInt8 := dkwX4_changes_3 ++ []
def dkwX4_changes_2 : List UInt8 := [42, 180, 0, 238, 50, 27, 46, 79, 132, 1, 1, 167, 255, 199, 42, 89, 180, 0, 238, 4, 96, 181, 0, 238]
abbrev dktX4_changes_2 : List UInt8 := dkwX4_changes_2 ++ dktX4_changes_3
def dkwX4_changes_1 : List UInt8 := [42, 180, 0, 238, 50, 27, 46, 79, 42, 180, 0, 52, 42, 180, 0, 238, 4, 96, 50, 27, 42, 180, 0, 52]
abbrev dktX4_changes_1 : List UInt8 := dkwX4_changes_1 ++ dktX4_changes_2
def dkwX4_changes_0 : List UInt8 := [3, 60, 27, 16, 24, 162, 0, 57, 42, 180, 0, 49, 42, 180, 0, 238, 4, 96, 50, 27, 42, 180, 0, 49]
abbrev dktX4_changes_0 : List UInt8 := dkwX4_changes_0 ++ dktX4_changes_1
theorem dksX4_changes_0 : cX4_changes.data.toList.drop 0 = dktX4_changes_0 := by decide +kernel
theorem dksX4_changes_1 : cX4_changes.data.toList.drop 24 = dktX4_changes_1 := dk_seg dksX4_changes_0 24 rfl rfl
theorem dksX4_changes_2 : cX4_changes.data.toList.drop 48 = dktX4_changes_2 := dk_seg dksX4_changes_1 24 rfl rfl
theorem dksX4_changes_3 : cX4_changes.data.toList.drop 72 = dktX4_changes_3 := dk_seg dksX4_changes_2 24 rfl rfl
theorem dX4_changes_0 : decode cX4_changes 0 = .ok (.iconst 0, 1) := dk_3 (dk_at dksX4_changes_0 0 rfl rfl)
theorem dX4_changes_1 : decode cX4_changes 1 = .ok (.istore_n 1, 1) := dk_60 (dk_at dksX4_changes_0 1 rfl rfl)
theorem dX4_changes_2 : decode cX4_changes 2 = .ok (.iload_n 1, 1) := dk_27 (dk_at dksX4_changes_0 2 rfl rfl)
theorem dX4_changes_3 : decode cX4_changes 3 = .ok (.bipush 24, 2) := dk_16 24 (dk_at dksX4_changes_0 3 rfl rfl)
theorem dX4_changes_5 : decode cX4_changes 5 = .ok (.if_icmp .ge 57, 3) := dk_162 0 57 (dk_at dksX4_changes_0 5 rfl rfl)
theorem dX4_changes_8 : decode cX4_changes 8 = .ok (.aload_n 0, 1) := dk_42 (dk_at dksX4_changes_0 8 rfl rfl)
theorem dX4_changes_9 : decode cX4_changes 9 = .ok (.getfield 49, 3) := dk_180 0 49 (dk_at dksX4_changes_0 9 rfl rfl)
theorem dX4_changes_12 : decode cX4_changes 12 = .ok (.aload_n 0, 1) := dk_42 (dk_at dksX4_changes_0 12 rfl rfl)
theorem dX4_changes_13 : decode cX4_changes 13 = .ok (.getfield 238, 3) := dk_180 0 238 (dk_at dksX4_changes_0 13 rfl rfl)
theorem dX4_changes_16 : decode cX4_changes 16 = .ok (.iconst 1, 1) := dk_4 (dk_at dksX4_changes_0 16 rfl rfl)
theorem dX4_changes_17 : decode cX4_changes 17 = .ok (.iadd, 1) := dk_96 (dk_at dksX4_changes_0 17 rfl rfl)
theorem dX4_changes_18 : decode cX4_changes 18 = .ok (.aaload, 1) := dk_50 (dk_at dksX4_changes_0 18 rfl rfl)
theorem dX4_changes_19 : decode cX4_changes 19 = .ok (.iload_n 1, 1) := dk_27 (dk_at dksX4_changes_0 19 rfl rfl)
theorem dX4_changes_20 : decode cX4_changes 20 = .ok (.aload_n 0, 1) := dk_42 (dk_at dksX4_changes_0 20 rfl rfl)
theorem dX4_changes_21 : decode cX4_changes 21 = .ok (.getfield 49, 3) := dk_180 0 49 (dk_at dksX4_changes_0 21 rfl rfl)
theorem dX4_changes_24 : decode cX4_changes 24 = .ok (.aload_n 0, 1) := dk_42 (dk_at dksX4_changes_1 0 rfl rfl)
theorem dX4_changes_25 : decode cX4_changes 25 = .ok (.getfield 238, 3) := dk_180 0 238 (dk_at dksX4_changes_1 1 rfl rfl)
theorem dX4_changes_28 : decode cX4_changes 28 = .ok (.aaload, 1) := dk_50 (dk_at dksX4_changes_1 4 rfl rfl)
theorem dX4_changes_29 : decode cX4_changes 29 = .ok (.iload_n 1, 1) := dk_27 (dk_at dksX4_changes_1 5 rfl rfl)
theorem dX4_changes_30 : decode cX4_changes 30 = .ok (.iaload, 1) := dk_46 (dk_at dksX4_changes_1 6 rfl rfl)
theorem dX4_changes_31 : decode cX4_changes 31 = .ok (.iastore, 1) := dk_79 (dk_at dksX4_changes_1 7 rfl rfl)
theorem dX4_changes_32 : decode cX4_changes 32 = .ok (.aload_n 0, 1) := dk_42 (dk_at dksX4_changes_1 8 rfl rfl)
theorem dX4_changes_33 : decode cX4_changes 33 = .ok (.getfield 52, 3) := dk_180 0 52 (dk_at dksX4_changes_1 9 rfl rfl)
theorem dX4_changes_36 : decode cX4_changes 36 = .ok (.aload_n 0, 1) := dk_42 (dk_at dksX4_changes_1 12 rfl rfl)
theorem dX4_changes_37 : decode cX4_changes 37 = .ok (.getfield 238, 3) := dk_180 0 238 (dk_at dksX4_changes_1 13 rfl rfl)
theorem dX4_changes_40 : decode cX4_changes 40 = .ok (.iconst 1, 1) := dk_4 (dk_at dksX4_changes_1 16 rfl rfl)
theorem dX4_changes_41 : decode cX4_changes 41 = .ok (.iadd, 1) := dk_96 (dk_at dksX4_changes_1 17 rfl rfl)
theorem dX4_changes_42 : decode cX4_changes 42 = .ok (.aaload, 1) := dk_50 (dk_at dksX4_changes_1 18 rfl rfl)
theorem dX4_changes_43 : decode cX4_changes 43 = .ok (.iload_n 1, 1) := dk_27 (dk_at dksX4_changes_1 19 rfl rfl)
theorem dX4_changes_44 : decode cX4_changes 44 = .ok (.aload_n 0, 1) := dk_42 (dk_at dksX4_changes_1 20 rfl rfl)
theorem dX4_changes_45 : decode cX4_changes 45 = .ok (.getfield 52, 3) := dk_180 0 52 (dk_at dksX4_changes_1 21 rfl rfl)
theorem dX4_changes_48 : decode cX4_changes 48 = .ok (.aload_n 0, 1) := dk_42 (dk_at dksX4_changes_2 0 rfl rfl)
theorem dX4_changes_49 : decode cX4_changes 49 = .ok (.getfield 238, 3) := dk_180 0 238 (dk_at dksX4_changes_2 1 rfl rfl)
theorem dX4_changes_52 : decode cX4_changes 52 = .ok (.aaload, 1) := dk_50 (dk_at dksX4_changes_2 4 rfl rfl)
theorem dX4_changes_53 : decode cX4_changes 53 = .ok (.iload_n 1, 1) := dk_27 (dk_at dksX4_changes_2 5 rfl rfl)
theorem dX4_changes_54 : decode cX4_changes 54 = .ok (.iaload, 1) := dk_46 (dk_at dksX4_changes_2 6 rfl rfl)
theorem dX4_changes_55 : decode cX4_changes 55 = .ok (.iastore, 1) := dk_79 (dk_at dksX4_changes_2 7 rfl rfl)
theorem dX4_changes_56 : decode cX4_changes 56 = .ok (.iinc 1 1, 3) := dk_132 1 1 (dk_at dksX4_changes_2 8 rfl rfl)
theorem dX4_changes_59 : decode cX4_changes 59 = .ok (.goto (-57), 3) := dk_167 255 199 (dk_at dksX4_changes_2 11 rfl rfl)
theorem dX4_changes_62 : decode cX4_changes 62 = .ok (.aload_n 0, 1) := dk_42 (dk_at dksX4_changes_2 14 rfl rfl)
theorem dX4_changes_63 : decode cX4_changes 63 = .ok (.dup, 1) := dk_89 (dk_at dksX4_changes_2 15 rfl rfl)
theorem dX4_changes_64 : decode cX4_changes 64 = .ok (.getfield 238, 3) := dk_180 0 238 (dk_at dksX4_changes_2 16 rfl rfl)
theorem dX4_changes_67 : decode cX4_changes 67 = .ok (.iconst 1, 1) := dk_4 (dk_at dksX4_changes_2 19 rfl rfl)
theorem dX4_changes_68 : decode cX4_changes 68 = .ok (.iadd, 1) := dk_96 (dk_at dksX4_changes_2 20 rfl rfl)
theorem dX4_changes_69 : decode cX4_changes 69 = .ok (.putfield 238, 3) := dk_181 0 238 (dk_at dksX4_changes_2 21 rfl rfl)
theorem dX4_changes_72 : decode cX4_changes 72 = .ok (.aload_n 0, 1) := dk_42 (dk_at dksX4_changes_3 0 rfl rfl)
theorem dX4_changes_73 : decode cX4_changes 73 = .ok (.getfield 238, 3) := dk_180 0 238 (dk_at dksX4_changes_3 1 rfl rfl)
theorem dX4_changes_76 : decode cX4_changes 76 = .ok (.ireturn, 1) := dk_172 (dk_at dksX4_changes_3 4 rfl rfl)
abbrev cX4_allow : ByteArray := prog_10_method_51_code
def yX4_allow : MethodName := ⟨RX4, "allow", "(IIZ)I"⟩
def dkwX4_allow_0 : List UInt8 := [42, 3, 181, 0, 131, 42, 42, 180, 0, 52, 27, 28, 29, 182, 1, 34, 172]
abbrev dktX4_allow_0 : List UInt8 := dkwX4_allow_0 ++ []
theorem dksX4_allow_0 : cX4_allow.data.toList.drop 0 = dktX4_allow_0 := by decide +kernel
theorem dX4_allow_0 : decode cX4_allow 0 = .ok (.aload_n 0, 1) := dk_42 (dk_at dksX4_allow_0 0 rfl rfl)
theorem dX4_allow_1 : decode cX4_allow 1 = .ok (.iconst 0, 1) := dk_3 (dk_at dksX4_allow_0 1 rfl rfl)
theorem dX4_allow_2 : decode cX4_allow 2 = .ok (.putfield 131, 3) := dk_181 0 131 (dk_at dksX4_allow_0 2 rfl rfl)
theorem dX4_allow_5 : decode cX4_allow 5 = .ok (.aload_n 0, 1) := dk_42 (dk_at dksX4_allow_0 5 rfl rfl)
theorem dX4_allow_6 : decode cX4_allow 6 = .ok (.aload_n 0, 1) := dk_42 (dk_at dksX4_allow_0 6 rfl rfl)
theorem dX4_allow_7 : decode cX4_allow 7 = .ok (.getfield 52, 3) := dk_180 0 52 (dk_at dksX4_allow_0 7 rfl rfl)
theorem dX4_allow_10 : decode cX4_allow 10 = .ok (.iload_n 1, 1) := dk_27 (dk_at dksX4_allow_0 10 rfl rfl)
theorem dX4_allow_11 : decode cX4_allow 11 = .ok (.iload_n 2, 1) := dk_28 (dk_at dksX4_allow_0 11 rfl rfl)
theorem dX4_allow_12 : decode cX4_allow 12 = .ok (.iload_n 3, 1) := dk_29 (dk_at dksX4_allow_0 12 rfl rfl)
theorem dX4_allow_13 : decode cX4_allow 13 = .ok (.invokevirtual 290, 3) := dk_182 1 34 (dk_at dksX4_allow_0 13 rfl rfl)
theorem dX4_allow_16 : decode cX4_allow 16 = .ok (.ireturn, 1) := dk_172 (dk_at dksX4_allow_0 16 rfl rfl)
abbrev cX4_back : ByteArray := prog_10_method_52_code
def yX4_back : MethodName := ⟨RX4, "back", "(I)I"⟩
def dkwX4_back_4 : List UInt8 := [167, 255, 209, 42, 180, 0, 238, 172]
abbrev dktX4_back_4 : List UInt8 := dkwX4_back_4 ++ []
def dkwX4_back_3 : List UInt8 := [79, 42, 180, 0, 52, 42, 180, 0, 238, 50, 28, 42, 180, 0, 52, 27, 50, 28, 46, 79, 132, 2, 1]
abbrev dktX4_back_3 : List UInt8 := dkwX4_back_3 ++ dktX4_back_4
def dkwX4_back_2 : List UInt8 := [28, 16, 24, 162, 0, 47, 42, 180, 0, 49, 42, 180, 0, 238, 50, 28, 42, 180, 0, 49, 27, 50, 28, 46]
abbrev dktX4_back_2 : List UInt8 := dkwX4_back_2 ++ dktX4_back_3
def dkwX4_back_1 : List UInt8 := [153, 0, 5, 3, 172, 42, 180, 0, 238, 17, 0, 200, 160, 0, 5, 2, 172, 42, 182, 1, 31, 87, 3, 61]
abbrev dktX4_back_1 : List UInt8 := dkwX4_back_1 ++ dktX4_back_2
def dkwX4_back_0 : List UInt8 := [42, 3, 181, 0, 131, 42, 42, 27, 182, 1, 25, 154, 0, 7, 4, 167, 0, 4, 3, 4, 182, 0, 227]
abbrev dktX4_back_0 : List UInt8 := dkwX4_back_0 ++ dktX4_back_1
theorem dksX4_back_0 : cX4_back.data.toList.drop 0 = dktX4_back_0 := by decide +kernel
theorem dksX4_back_1 : cX4_back.data.toList.drop 23 = dktX4_back_1 := dk_seg dksX4_back_0 23 rfl rfl
theorem dksX4_back_2 : cX4_back.data.toList.drop 47 = dktX4_back_2 := dk_seg dksX4_back_1 24 rfl rfl
theorem dksX4_back_3 : cX4_back.data.toList.drop 71 = dktX4_back_3 := dk_seg dksX4_back_2 24 rfl rfl
theorem dksX4_back_4 : cX4_back.data.toList.drop 94 = dktX4_back_4 := dk_seg dksX4_back_3 23 rfl rfl
theorem dX4_back_0 : decode cX4_back 0 = .ok (.aload_n 0, 1) := dk_42 (dk_at dksX4_back_0 0 rfl rfl)
theorem dX4_back_1 : decode cX4_back 1 = .ok (.iconst 0, 1) := dk_3 (dk_at dksX4_back_0 1 rfl rfl)
theorem dX4_back_2 : decode cX4_back 2 = .ok (.putfield 131, 3) := dk_181 0 131 (dk_at dksX4_back_0 2 rfl rfl)
theorem dX4_back_5 : decode cX4_back 5 = .ok (.aload_n 0, 1) := dk_42 (dk_at dksX4_back_0 5 rfl rfl)
theorem dX4_back_6 : decode cX4_back 6 = .ok (.aload_n 0, 1) := dk_42 (dk_at dksX4_back_0 6 rfl rfl)
theorem dX4_back_7 : decode cX4_back 7 = .ok (.iload_n 1, 1) := dk_27 (dk_at dksX4_back_0 7 rfl rfl)
theorem dX4_back_8 : decode cX4_back 8 = .ok (.invokevirtual 281, 3) := dk_182 1 25 (dk_at dksX4_back_0 8 rfl rfl)
theorem dX4_back_11 : decode cX4_back 11 = .ok (.ifCond .ne 7, 3) := dk_154 0 7 (dk_at dksX4_back_0 11 rfl rfl)
theorem dX4_back_14 : decode cX4_back 14 = .ok (.iconst 1, 1) := dk_4 (dk_at dksX4_back_0 14 rfl rfl)
theorem dX4_back_15 : decode cX4_back 15 = .ok (.goto 4, 3) := dk_167 0 4 (dk_at dksX4_back_0 15 rfl rfl)
theorem dX4_back_18 : decode cX4_back 18 = .ok (.iconst 0, 1) := dk_3 (dk_at dksX4_back_0 18 rfl rfl)
theorem dX4_back_19 : decode cX4_back 19 = .ok (.iconst 1, 1) := dk_4 (dk_at dksX4_back_0 19 rfl rfl)
theorem dX4_back_20 : decode cX4_back 20 = .ok (.invokevirtual 227, 3) := dk_182 0 227 (dk_at dksX4_back_0 20 rfl rfl)
theorem dX4_back_23 : decode cX4_back 23 = .ok (.ifCond .eq 5, 3) := dk_153 0 5 (dk_at dksX4_back_1 0 rfl rfl)
theorem dX4_back_26 : decode cX4_back 26 = .ok (.iconst 0, 1) := dk_3 (dk_at dksX4_back_1 3 rfl rfl)
theorem dX4_back_27 : decode cX4_back 27 = .ok (.ireturn, 1) := dk_172 (dk_at dksX4_back_1 4 rfl rfl)
theorem dX4_back_28 : decode cX4_back 28 = .ok (.aload_n 0, 1) := dk_42 (dk_at dksX4_back_1 5 rfl rfl)
theorem dX4_back_29 : decode cX4_back 29 = .ok (.getfield 238, 3) := dk_180 0 238 (dk_at dksX4_back_1 6 rfl rfl)
theorem dX4_back_32 : decode cX4_back 32 = .ok (.sipush 200, 3) := dk_17 0 200 (dk_at dksX4_back_1 9 rfl rfl)
theorem dX4_back_35 : decode cX4_back 35 = .ok (.if_icmp .ne 5, 3) := dk_160 0 5 (dk_at dksX4_back_1 12 rfl rfl)
theorem dX4_back_38 : decode cX4_back 38 = .ok (.iconst (-1), 1) := dk_2 (dk_at dksX4_back_1 15 rfl rfl)
theorem dX4_back_39 : decode cX4_back 39 = .ok (.ireturn, 1) := dk_172 (dk_at dksX4_back_1 16 rfl rfl)
theorem dX4_back_40 : decode cX4_back 40 = .ok (.aload_n 0, 1) := dk_42 (dk_at dksX4_back_1 17 rfl rfl)
theorem dX4_back_41 : decode cX4_back 41 = .ok (.invokevirtual 287, 3) := dk_182 1 31 (dk_at dksX4_back_1 18 rfl rfl)
theorem dX4_back_44 : decode cX4_back 44 = .ok (.pop, 1) := dk_87 (dk_at dksX4_back_1 21 rfl rfl)
theorem dX4_back_45 : decode cX4_back 45 = .ok (.iconst 0, 1) := dk_3 (dk_at dksX4_back_1 22 rfl rfl)
theorem dX4_back_46 : decode cX4_back 46 = .ok (.istore_n 2, 1) := dk_61 (dk_at dksX4_back_1 23 rfl rfl)
theorem dX4_back_47 : decode cX4_back 47 = .ok (.iload_n 2, 1) := dk_28 (dk_at dksX4_back_2 0 rfl rfl)
theorem dX4_back_48 : decode cX4_back 48 = .ok (.bipush 24, 2) := dk_16 24 (dk_at dksX4_back_2 1 rfl rfl)
theorem dX4_back_50 : decode cX4_back 50 = .ok (.if_icmp .ge 47, 3) := dk_162 0 47 (dk_at dksX4_back_2 3 rfl rfl)
theorem dX4_back_53 : decode cX4_back 53 = .ok (.aload_n 0, 1) := dk_42 (dk_at dksX4_back_2 6 rfl rfl)
theorem dX4_back_54 : decode cX4_back 54 = .ok (.getfield 49, 3) := dk_180 0 49 (dk_at dksX4_back_2 7 rfl rfl)
theorem dX4_back_57 : decode cX4_back 57 = .ok (.aload_n 0, 1) := dk_42 (dk_at dksX4_back_2 10 rfl rfl)
theorem dX4_back_58 : decode cX4_back 58 = .ok (.getfield 238, 3) := dk_180 0 238 (dk_at dksX4_back_2 11 rfl rfl)
theorem dX4_back_61 : decode cX4_back 61 = .ok (.aaload, 1) := dk_50 (dk_at dksX4_back_2 14 rfl rfl)
theorem dX4_back_62 : decode cX4_back 62 = .ok (.iload_n 2, 1) := dk_28 (dk_at dksX4_back_2 15 rfl rfl)
theorem dX4_back_63 : decode cX4_back 63 = .ok (.aload_n 0, 1) := dk_42 (dk_at dksX4_back_2 16 rfl rfl)
theorem dX4_back_64 : decode cX4_back 64 = .ok (.getfield 49, 3) := dk_180 0 49 (dk_at dksX4_back_2 17 rfl rfl)
theorem dX4_back_67 : decode cX4_back 67 = .ok (.iload_n 1, 1) := dk_27 (dk_at dksX4_back_2 20 rfl rfl)
theorem dX4_back_68 : decode cX4_back 68 = .ok (.aaload, 1) := dk_50 (dk_at dksX4_back_2 21 rfl rfl)
theorem dX4_back_69 : decode cX4_back 69 = .ok (.iload_n 2, 1) := dk_28 (dk_at dksX4_back_2 22 rfl rfl)
theorem dX4_back_70 : decode cX4_back 70 = .ok (.iaload, 1) := dk_46 (dk_at dksX4_back_2 23 rfl rfl)
theorem dX4_back_71 : decode cX4_back 71 = .ok (.iastore, 1) := dk_79 (dk_at dksX4_back_3 0 rfl rfl)
theorem dX4_back_72 : decode cX4_back 72 = .ok (.aload_n 0, 1) := dk_42 (dk_at dksX4_back_3 1 rfl rfl)
theorem dX4_back_73 : decode cX4_back 73 = .ok (.getfield 52, 3) := dk_180 0 52 (dk_at dksX4_back_3 2 rfl rfl)
theorem dX4_back_76 : decode cX4_back 76 = .ok (.aload_n 0, 1) := dk_42 (dk_at dksX4_back_3 5 rfl rfl)
theorem dX4_back_77 : decode cX4_back 77 = .ok (.getfield 238, 3) := dk_180 0 238 (dk_at dksX4_back_3 6 rfl rfl)
theorem dX4_back_80 : decode cX4_back 80 = .ok (.aaload, 1) := dk_50 (dk_at dksX4_back_3 9 rfl rfl)
theorem dX4_back_81 : decode cX4_back 81 = .ok (.iload_n 2, 1) := dk_28 (dk_at dksX4_back_3 10 rfl rfl)
theorem dX4_back_82 : decode cX4_back 82 = .ok (.aload_n 0, 1) := dk_42 (dk_at dksX4_back_3 11 rfl rfl)
theorem dX4_back_83 : decode cX4_back 83 = .ok (.getfield 52, 3) := dk_180 0 52 (dk_at dksX4_back_3 12 rfl rfl)
theorem dX4_back_86 : decode cX4_back 86 = .ok (.iload_n 1, 1) := dk_27 (dk_at dksX4_back_3 15 rfl rfl)
theorem dX4_back_87 : decode cX4_back 87 = .ok (.aaload, 1) := dk_50 (dk_at dksX4_back_3 16 rfl rfl)
theorem dX4_back_88 : decode cX4_back 88 = .ok (.iload_n 2, 1) := dk_28 (dk_at dksX4_back_3 17 rfl rfl)
theorem dX4_back_89 : decode cX4_back 89 = .ok (.iaload, 1) := dk_46 (dk_at dksX4_back_3 18 rfl rfl)
theorem dX4_back_90 : decode cX4_back 90 = .ok (.iastore, 1) := dk_79 (dk_at dksX4_back_3 19 rfl rfl)
theorem dX4_back_91 : decode cX4_back 91 = .ok (.iinc 2 1, 3) := dk_132 2 1 (dk_at dksX4_back_3 20 rfl rfl)
theorem dX4_back_94 : decode cX4_back 94 = .ok (.goto (-47), 3) := dk_167 255 209 (dk_at dksX4_back_4 0 rfl rfl)
theorem dX4_back_97 : decode cX4_back 97 = .ok (.aload_n 0, 1) := dk_42 (dk_at dksX4_back_4 3 rfl rfl)
theorem dX4_back_98 : decode cX4_back 98 = .ok (.getfield 238, 3) := dk_180 0 238 (dk_at dksX4_back_4 4 rfl rfl)
theorem dX4_back_101 : decode cX4_back 101 = .ok (.ireturn, 1) := dk_172 (dk_at dksX4_back_4 7 rfl rfl)
abbrev cX4_stands : ByteArray := prog_10_method_53_code
def yX4_stands : MethodName := ⟨RX4, "stands", "(IIII)Z"⟩
def dkwX4_stands_4 : List UInt8 := [172]
abbrev dktX4_stands_4 : List UInt8 := dkwX4_stands_4 ++ []
def dkwX4_stands_3 : List UInt8 := [167, 0, 7, 42, 180, 0, 52, 29, 50, 27, 46, 28, 122, 4, 126, 4, 160, 0, 7, 4, 167, 0, 4, 3]
abbrev dktX4_stands_3 : List UInt8 := dkwX4_stands_3 ++ dktX4_stands_4
def dkwX4_stands_2 : List UInt8 := [167, 0, 4, 3, 5, 182, 0, 227, 153, 0, 5, 3, 172, 21, 4, 154, 0, 10, 42, 180, 0, 49]
abbrev dktX4_stands_2 : List UInt8 := dkwX4_stands_2 ++ dktX4_stands_3
def dkwX4_stands_1 : List UInt8 := [154, 0, 34, 42, 42, 29, 182, 1, 25, 153, 0, 13, 21, 4, 3, 4, 184, 0, 165, 154, 0, 7, 4]
abbrev dktX4_stands_1 : List UInt8 := dkwX4_stands_1 ++ dktX4_stands_2
def dkwX4_stands_0 : List UInt8 := [42, 3, 181, 0, 131, 42, 42, 27, 28, 182, 1, 28, 154, 0, 7, 4, 167, 0, 4, 3, 4, 182, 0, 227]
abbrev dktX4_stands_0 : List UInt8 := dkwX4_stands_0 ++ dktX4_stands_1
theorem dksX4_stands_0 : cX4_stands.data.toList.drop 0 = dktX4_stands_0 := by decide +kernel
theorem dksX4_stands_1 : cX4_stands.data.toList.drop 24 = dktX4_stands_1 := dk_seg dksX4_stands_0 24 rfl rfl
theorem dksX4_stands_2 : cX4_stands.data.toList.drop 47 = dktX4_stands_2 := dk_seg dksX4_stands_1 23 rfl rfl
theorem dksX4_stands_3 : cX4_stands.data.toList.drop 69 = dktX4_stands_3 := dk_seg dksX4_stands_2 22 rfl rfl
theorem dksX4_stands_4 : cX4_stands.data.toList.drop 93 = dktX4_stands_4 := dk_seg dksX4_stands_3 24 rfl rfl
theorem dX4_stands_0 : decode cX4_stands 0 = .ok (.aload_n 0, 1) := dk_42 (dk_at dksX4_stands_0 0 rfl rfl)
theorem dX4_stands_1 : decode cX4_stands 1 = .ok (.iconst 0, 1) := dk_3 (dk_at dksX4_stands_0 1 rfl rfl)
theorem dX4_stands_2 : decode cX4_stands 2 = .ok (.putfield 131, 3) := dk_181 0 131 (dk_at dksX4_stands_0 2 rfl rfl)
theorem dX4_stands_5 : decode cX4_stands 5 = .ok (.aload_n 0, 1) := dk_42 (dk_at dksX4_stands_0 5 rfl rfl)
theorem dX4_stands_6 : decode cX4_stands 6 = .ok (.aload_n 0, 1) := dk_42 (dk_at dksX4_stands_0 6 rfl rfl)
theorem dX4_stands_7 : decode cX4_stands 7 = .ok (.iload_n 1, 1) := dk_27 (dk_at dksX4_stands_0 7 rfl rfl)
theorem dX4_stands_8 : decode cX4_stands 8 = .ok (.iload_n 2, 1) := dk_28 (dk_at dksX4_stands_0 8 rfl rfl)
theorem dX4_stands_9 : decode cX4_stands 9 = .ok (.invokevirtual 284, 3) := dk_182 1 28 (dk_at dksX4_stands_0 9 rfl rfl)
theorem dX4_stands_12 : decode cX4_stands 12 = .ok (.ifCond .ne 7, 3) := dk_154 0 7 (dk_at dksX4_stands_0 12 rfl rfl)
theorem dX4_stands_15 : decode cX4_stands 15 = .ok (.iconst 1, 1) := dk_4 (dk_at dksX4_stands_0 15 rfl rfl)
theorem dX4_stands_16 : decode cX4_stands 16 = .ok (.goto 4, 3) := dk_167 0 4 (dk_at dksX4_stands_0 16 rfl rfl)
theorem dX4_stands_19 : decode cX4_stands 19 = .ok (.iconst 0, 1) := dk_3 (dk_at dksX4_stands_0 19 rfl rfl)
theorem dX4_stands_20 : decode cX4_stands 20 = .ok (.iconst 1, 1) := dk_4 (dk_at dksX4_stands_0 20 rfl rfl)
theorem dX4_stands_21 : decode cX4_stands 21 = .ok (.invokevirtual 227, 3) := dk_182 0 227 (dk_at dksX4_stands_0 21 rfl rfl)
theorem dX4_stands_24 : decode cX4_stands 24 = .ok (.ifCond .ne 34, 3) := dk_154 0 34 (dk_at dksX4_stands_1 0 rfl rfl)
theorem dX4_stands_27 : decode cX4_stands 27 = .ok (.aload_n 0, 1) := dk_42 (dk_at dksX4_stands_1 3 rfl rfl)
theorem dX4_stands_28 : decode cX4_stands 28 = .ok (.aload_n 0, 1) := dk_42 (dk_at dksX4_stands_1 4 rfl rfl)
theorem dX4_stands_29 : decode cX4_stands 29 = .ok (.iload_n 3, 1) := dk_29 (dk_at dksX4_stands_1 5 rfl rfl)
theorem dX4_stands_30 : decode cX4_stands 30 = .ok (.invokevirtual 281, 3) := dk_182 1 25 (dk_at dksX4_stands_1 6 rfl rfl)
theorem dX4_stands_33 : decode cX4_stands 33 = .ok (.ifCond .eq 13, 3) := dk_153 0 13 (dk_at dksX4_stands_1 9 rfl rfl)
theorem dX4_stands_36 : decode cX4_stands 36 = .ok (.iload 4, 2) := dk_21 4 (dk_at dksX4_stands_1 12 rfl rfl)
theorem dX4_stands_38 : decode cX4_stands 38 = .ok (.iconst 0, 1) := dk_3 (dk_at dksX4_stands_1 14 rfl rfl)
theorem dX4_stands_39 : decode cX4_stands 39 = .ok (.iconst 1, 1) := dk_4 (dk_at dksX4_stands_1 15 rfl rfl)
theorem dX4_stands_40 : decode cX4_stands 40 = .ok (.invokestatic 165, 3) := dk_184 0 165 (dk_at dksX4_stands_1 16 rfl rfl)
theorem dX4_stands_43 : decode cX4_stands 43 = .ok (.ifCond .ne 7, 3) := dk_154 0 7 (dk_at dksX4_stands_1 19 rfl rfl)
theorem dX4_stands_46 : decode cX4_stands 46 = .ok (.iconst 1, 1) := dk_4 (dk_at dksX4_stands_1 22 rfl rfl)
theorem dX4_stands_47 : decode cX4_stands 47 = .ok (.goto 4, 3) := dk_167 0 4 (dk_at dksX4_stands_2 0 rfl rfl)
theorem dX4_stands_50 : decode cX4_stands 50 = .ok (.iconst 0, 1) := dk_3 (dk_at dksX4_stands_2 3 rfl rfl)
theorem dX4_stands_51 : decode cX4_stands 51 = .ok (.iconst 2, 1) := dk_5 (dk_at dksX4_stands_2 4 rfl rfl)
theorem dX4_stands_52 : decode cX4_stands 52 = .ok (.invokevirtual 227, 3) := dk_182 0 227 (dk_at dksX4_stands_2 5 rfl rfl)
theorem dX4_stands_55 : decode cX4_stands 55 = .ok (.ifCond .eq 5, 3) := dk_153 0 5 (dk_at dksX4_stands_2 8 rfl rfl)
theorem dX4_stands_58 : decode cX4_stands 58 = .ok (.iconst 0, 1) := dk_3 (dk_at dksX4_stands_2 11 rfl rfl)
theorem dX4_stands_59 : decode cX4_stands 59 = .ok (.ireturn, 1) := dk_172 (dk_at dksX4_stands_2 12 rfl rfl)
theorem dX4_stands_60 : decode cX4_stands 60 = .ok (.iload 4, 2) := dk_21 4 (dk_at dksX4_stands_2 13 rfl rfl)
theorem dX4_stands_62 : decode cX4_stands 62 = .ok (.ifCond .ne 10, 3) := dk_154 0 10 (dk_at dksX4_stands_2 15 rfl rfl)
theorem dX4_stands_65 : decode cX4_stands 65 = .ok (.aload_n 0, 1) := dk_42 (dk_at dksX4_stands_2 18 rfl rfl)
theorem dX4_stands_66 : decode cX4_stands 66 = .ok (.getfield 49, 3) := dk_180 0 49 (dk_at dksX4_stands_2 19 rfl rfl)
theorem dX4_stands_69 : decode cX4_stands 69 = .ok (.goto 7, 3) := dk_167 0 7 (dk_at dksX4_stands_3 0 rfl rfl)
theorem dX4_stands_72 : decode cX4_stands 72 = .ok (.aload_n 0, 1) := dk_42 (dk_at dksX4_stands_3 3 rfl rfl)
theorem dX4_stands_73 : decode cX4_stands 73 = .ok (.getfield 52, 3) := dk_180 0 52 (dk_at dksX4_stands_3 4 rfl rfl)
theorem dX4_stands_76 : decode cX4_stands 76 = .ok (.iload_n 3, 1) := dk_29 (dk_at dksX4_stands_3 7 rfl rfl)
theorem dX4_stands_77 : decode cX4_stands 77 = .ok (.aaload, 1) := dk_50 (dk_at dksX4_stands_3 8 rfl rfl)
theorem dX4_stands_78 : decode cX4_stands 78 = .ok (.iload_n 1, 1) := dk_27 (dk_at dksX4_stands_3 9 rfl rfl)
theorem dX4_stands_79 : decode cX4_stands 79 = .ok (.iaload, 1) := dk_46 (dk_at dksX4_stands_3 10 rfl rfl)
theorem dX4_stands_80 : decode cX4_stands 80 = .ok (.iload_n 2, 1) := dk_28 (dk_at dksX4_stands_3 11 rfl rfl)
theorem dX4_stands_81 : decode cX4_stands 81 = .ok (.ishr, 1) := dk_122 (dk_at dksX4_stands_3 12 rfl rfl)
theorem dX4_stands_82 : decode cX4_stands 82 = .ok (.iconst 1, 1) := dk_4 (dk_at dksX4_stands_3 13 rfl rfl)
theorem dX4_stands_83 : decode cX4_stands 83 = .ok (.iand, 1) := dk_126 (dk_at dksX4_stands_3 14 rfl rfl)
theorem dX4_stands_84 : decode cX4_stands 84 = .ok (.iconst 1, 1) := dk_4 (dk_at dksX4_stands_3 15 rfl rfl)
theorem dX4_stands_85 : decode cX4_stands 85 = .ok (.if_icmp .ne 7, 3) := dk_160 0 7 (dk_at dksX4_stands_3 16 rfl rfl)
theorem dX4_stands_88 : decode cX4_stands 88 = .ok (.iconst 1, 1) := dk_4 (dk_at dksX4_stands_3 19 rfl rfl)
theorem dX4_stands_89 : decode cX4_stands 89 = .ok (.goto 4, 3) := dk_167 0 4 (dk_at dksX4_stands_3 20 rfl rfl)
theorem dX4_stands_92 : decode cX4_stands 92 = .ok (.iconst 0, 1) := dk_3 (dk_at dksX4_stands_3 23 rfl rfl)
theorem dX4_stands_93 : decode cX4_stands 93 = .ok (.ireturn, 1) := dk_172 (dk_at dksX4_stands_4 0 rfl rfl)
abbrev cX4_ride : ByteArray := prog_10_method_60_code
def yX4_ride : MethodName := ⟨RX4, "ride", "(III)I"⟩
def dkwX4_ride_2 : List UInt8 := [3, 5, 182, 0, 227, 153, 0, 5, 3, 172, 42, 29, 182, 1, 54, 42, 27, 28, 182, 1, 57, 172]
abbrev dktX4_ride_2 : List UInt8 := dkwX4_ride_2 ++ []
def dkwX4_ride_1 : List UInt8 := [167, 0, 4, 3, 4, 182, 0, 227, 154, 0, 24, 42, 42, 29, 182, 1, 25, 154, 0, 7, 4, 167, 0, 4]
abbrev dktX4_ride_1 : List UInt8 := dkwX4_ride_1 ++ dktX4_ride_2
def dkwX4_ride_0 : List UInt8 := [42, 3, 181, 0, 131, 42, 42, 27, 182, 1, 51, 153, 0, 11, 42, 28, 182, 1, 51, 154, 0, 7, 4]
abbrev dktX4_ride_0 : List UInt8 := dkwX4_ride_0 ++ dktX4_ride_1
theorem dksX4_ride_0 : cX4_ride.data.toList.drop 0 = dktX4_ride_0 := by decide +kernel
theorem dksX4_ride_1 : cX4_ride.data.toList.drop 23 = dktX4_ride_1 := dk_seg dksX4_ride_0 23 rfl rfl
theorem dksX4_ride_2 : cX4_ride.data.toList.drop 47 = dktX4_ride_2 := dk_seg dksX4_ride_1 24 rfl rfl
theorem dX4_ride_0 : decode cX4_ride 0 = .ok (.aload_n 0, 1) := dk_42 (dk_at dksX4_ride_0 0 rfl rfl)
theorem dX4_ride_1 : decode cX4_ride 1 = .ok (.iconst 0, 1) := dk_3 (dk_at dksX4_ride_0 1 rfl rfl)
theorem dX4_ride_2 : decode cX4_ride 2 = .ok (.putfield 131, 3) := dk_181 0 131 (dk_at dksX4_ride_0 2 rfl rfl)
theorem dX4_ride_5 : decode cX4_ride 5 = .ok (.aload_n 0, 1) := dk_42 (dk_at dksX4_ride_0 5 rfl rfl)
theorem dX4_ride_6 : decode cX4_ride 6 = .ok (.aload_n 0, 1) := dk_42 (dk_at dksX4_ride_0 6 rfl rfl)
theorem dX4_ride_7 : decode cX4_ride 7 = .ok (.iload_n 1, 1) := dk_27 (dk_at dksX4_ride_0 7 rfl rfl)
theorem dX4_ride_8 : decode cX4_ride 8 = .ok (.invokevirtual 307, 3) := dk_182 1 51 (dk_at dksX4_ride_0 8 rfl rfl)
theorem dX4_ride_11 : decode cX4_ride 11 = .ok (.ifCond .eq 11, 3) := dk_153 0 11 (dk_at dksX4_ride_0 11 rfl rfl)
theorem dX4_ride_14 : decode cX4_ride 14 = .ok (.aload_n 0, 1) := dk_42 (dk_at dksX4_ride_0 14 rfl rfl)
theorem dX4_ride_15 : decode cX4_ride 15 = .ok (.iload_n 2, 1) := dk_28 (dk_at dksX4_ride_0 15 rfl rfl)
theorem dX4_ride_16 : decode cX4_ride 16 = .ok (.invokevirtual 307, 3) := dk_182 1 51 (dk_at dksX4_ride_0 16 rfl rfl)
theorem dX4_ride_19 : decode cX4_ride 19 = .ok (.ifCond .ne 7, 3) := dk_154 0 7 (dk_at dksX4_ride_0 19 rfl rfl)
theorem dX4_ride_22 : decode cX4_ride 22 = .ok (.iconst 1, 1) := dk_4 (dk_at dksX4_ride_0 22 rfl rfl)
theorem dX4_ride_23 : decode cX4_ride 23 = .ok (.goto 4, 3) := dk_167 0 4 (dk_at dksX4_ride_1 0 rfl rfl)
theorem dX4_ride_26 : decode cX4_ride 26 = .ok (.iconst 0, 1) := dk_3 (dk_at dksX4_ride_1 3 rfl rfl)
theorem dX4_ride_27 : decode cX4_ride 27 = .ok (.iconst 1, 1) := dk_4 (dk_at dksX4_ride_1 4 rfl rfl)
theorem dX4_ride_28 : decode cX4_ride 28 = .ok (.invokevirtual 227, 3) := dk_182 0 227 (dk_at dksX4_ride_1 5 rfl rfl)
theorem dX4_ride_31 : decode cX4_ride 31 = .ok (.ifCond .ne 24, 3) := dk_154 0 24 (dk_at dksX4_ride_1 8 rfl rfl)
theorem dX4_ride_34 : decode cX4_ride 34 = .ok (.aload_n 0, 1) := dk_42 (dk_at dksX4_ride_1 11 rfl rfl)
theorem dX4_ride_35 : decode cX4_ride 35 = .ok (.aload_n 0, 1) := dk_42 (dk_at dksX4_ride_1 12 rfl rfl)
theorem dX4_ride_36 : decode cX4_ride 36 = .ok (.iload_n 3, 1) := dk_29 (dk_at dksX4_ride_1 13 rfl rfl)
theorem dX4_ride_37 : decode cX4_ride 37 = .ok (.invokevirtual 281, 3) := dk_182 1 25 (dk_at dksX4_ride_1 14 rfl rfl)
theorem dX4_ride_40 : decode cX4_ride 40 = .ok (.ifCond .ne 7, 3) := dk_154 0 7 (dk_at dksX4_ride_1 17 rfl rfl)
theorem dX4_ride_43 : decode cX4_ride 43 = .ok (.iconst 1, 1) := dk_4 (dk_at dksX4_ride_1 20 rfl rfl)
theorem dX4_ride_44 : decode cX4_ride 44 = .ok (.goto 4, 3) := dk_167 0 4 (dk_at dksX4_ride_1 21 rfl rfl)
theorem dX4_ride_47 : decode cX4_ride 47 = .ok (.iconst 0, 1) := dk_3 (dk_at dksX4_ride_2 0 rfl rfl)
theorem dX4_ride_48 : decode cX4_ride 48 = .ok (.iconst 2, 1) := dk_5 (dk_at dksX4_ride_2 1 rfl rfl)
theorem dX4_ride_49 : decode cX4_ride 49 = .ok (.invokevirtual 227, 3) := dk_182 0 227 (dk_at dksX4_ride_2 2 rfl rfl)
theorem dX4_ride_52 : decode cX4_ride 52 = .ok (.ifCond .eq 5, 3) := dk_153 0 5 (dk_at dksX4_ride_2 5 rfl rfl)
theorem dX4_ride_55 : decode cX4_ride 55 = .ok (.iconst 0, 1) := dk_3 (dk_at dksX4_ride_2 8 rfl rfl)
theorem dX4_ride_56 : decode cX4_ride 56 = .ok (.ireturn, 1) := dk_172 (dk_at dksX4_ride_2 9 rfl rfl)
theorem dX4_ride_57 : decode cX4_ride 57 = .ok (.aload_n 0, 1) := dk_42 (dk_at dksX4_ride_2 10 rfl rfl)
theorem dX4_ride_58 : decode cX4_ride 58 = .ok (.iload_n 3, 1) := dk_29 (dk_at dksX4_ride_2 11 rfl rfl)
theorem dX4_ride_59 : decode cX4_ride 59 = .ok (.invokevirtual 310, 3) := dk_182 1 54 (dk_at dksX4_ride_2 12 rfl rfl)
theorem dX4_ride_62 : decode cX4_ride 62 = .ok (.aload_n 0, 1) := dk_42 (dk_at dksX4_ride_2 15 rfl rfl)
theorem dX4_ride_63 : decode cX4_ride 63 = .ok (.iload_n 1, 1) := dk_27 (dk_at dksX4_ride_2 16 rfl rfl)
theorem dX4_ride_64 : decode cX4_ride 64 = .ok (.iload_n 2, 1) := dk_28 (dk_at dksX4_ride_2 17 rfl rfl)
theorem dX4_ride_65 : decode cX4_ride 65 = .ok (.invokevirtual 313, 3) := dk_182 1 57 (dk_at dksX4_ride_2 18 rfl rfl)
theorem dX4_ride_68 : decode cX4_ride 68 = .ok (.ireturn, 1) := dk_172 (dk_at dksX4_ride_2 21 rfl rfl)
abbrev cX4_isCorner : ByteArray := prog_10_method_54_code
def yX4_isCorner : MethodName := ⟨RX4, "isCorner", "(I)Z"⟩
def dkwX4_isCorner_0 : List UInt8 := [27, 3, 42, 180, 0, 20, 3, 46, 4, 100, 184, 0, 165, 172]
abbrev dktX4_isCorner_0 : List UInt8 := dkwX4_isCorner_0 ++ []
theorem dksX4_isCorner_0 : cX4_isCorner.data.toList.drop 0 = dktX4_isCorner_0 := by decide +kernel
theorem dX4_isCorner_0 : decode cX4_isCorner 0 = .ok (.iload_n 1, 1) := dk_27 (dk_at dksX4_isCorner_0 0 rfl rfl)
theorem dX4_isCorner_1 : decode cX4_isCorner 1 = .ok (.iconst 0, 1) := dk_3 (dk_at dksX4_isCorner_0 1 rfl rfl)
theorem dX4_isCorner_2 : decode cX4_isCorner 2 = .ok (.aload_n 0, 1) := dk_42 (dk_at dksX4_isCorner_0 2 rfl rfl)
theorem dX4_isCorner_3 : decode cX4_isCorner 3 = .ok (.getfield 20, 3) := dk_180 0 20 (dk_at dksX4_isCorner_0 3 rfl rfl)
theorem dX4_isCorner_6 : decode cX4_isCorner 6 = .ok (.iconst 0, 1) := dk_3 (dk_at dksX4_isCorner_0 6 rfl rfl)
theorem dX4_isCorner_7 : decode cX4_isCorner 7 = .ok (.iaload, 1) := dk_46 (dk_at dksX4_isCorner_0 7 rfl rfl)
theorem dX4_isCorner_8 : decode cX4_isCorner 8 = .ok (.iconst 1, 1) := dk_4 (dk_at dksX4_isCorner_0 8 rfl rfl)
theorem dX4_isCorner_9 : decode cX4_isCorner 9 = .ok (.isub, 1) := dk_100 (dk_at dksX4_isCorner_0 9 rfl rfl)
theorem dX4_isCorner_10 : decode cX4_isCorner 10 = .ok (.invokestatic 165, 3) := dk_184 0 165 (dk_at dksX4_isCorner_0 10 rfl rfl)
theorem dX4_isCorner_13 : decode cX4_isCorner 13 = .ok (.ireturn, 1) := dk_172 (dk_at dksX4_isCorner_0 13 rfl rfl)
abbrev cX4_asks : ByteArray := prog_10_method_44_code
def yX4_asks : MethodName := ⟨RX4, "asks", "(I)V"⟩
def dkwX4_asks_0 : List UInt8 := [42, 27, 182, 1, 19, 42, 182, 1, 22, 177]
abbrev dktX4_asks_0 : List UInt8 := dkwX4_asks_0 ++ []
theorem dksX4_asks_0 : cX4_asks.data.toList.drop 0 = dktX4_asks_0 := by decide +kernel
theorem dX4_asks_0 : decode cX4_asks 0 = .ok (.aload_n 0, 1) := dk_42 (dk_at dksX4_asks_0 0 rfl rfl)
theorem dX4_asks_1 : decode cX4_asks 1 = .ok (.iload_n 1, 1) := dk_27 (dk_at dksX4_asks_0 1 rfl rfl)
theorem dX4_asks_2 : decode cX4_asks 2 = .ok (.invokevirtual 275, 3) := dk_182 1 19 (dk_at dksX4_asks_0 2 rfl rfl)
theorem dX4_asks_5 : decode cX4_asks 5 = .ok (.aload_n 0, 1) := dk_42 (dk_at dksX4_asks_0 5 rfl rfl)
theorem dX4_asks_6 : decode cX4_asks 6 = .ok (.invokevirtual 278, 3) := dk_182 1 22 (dk_at dksX4_asks_0 6 rfl rfl)
theorem dX4_asks_9 : decode cX4_asks 9 = .ok (.return_, 1) := dk_177 (dk_at dksX4_asks_0 9 rfl rfl)
abbrev cX4_layFollows : ByteArray := prog_10_method_43_code
def yX4_layFollows : MethodName := ⟨RX4, "layFollows", "()V"⟩
def dkwX4_layFollows_3 : List UInt8 := [28, 121, 129, 80, 132, 2, 1, 167, 255, 212, 132, 1, 1, 167, 255, 174, 177]
abbrev dktX4_layFollows_3 : List UInt8 := dkwX4_layFollows_3 ++ []
def dkwX4_layFollows_2 : List UInt8 := [28, 182, 1, 6, 153, 0, 24, 42, 27, 28, 182, 1, 15, 153, 0, 15, 42, 180, 0, 61, 27, 92, 47, 10]
abbrev dktX4_layFollows_2 : List UInt8 := dkwX4_layFollows_2 ++ dktX4_layFollows_3
def dkwX4_layFollows_1 : List UInt8 := [182, 1, 6, 154, 0, 6, 167, 0, 52, 3, 61, 28, 5, 42, 180, 0, 20, 4, 46, 104, 162, 0, 38, 42]
abbrev dktX4_layFollows_1 : List UInt8 := dkwX4_layFollows_1 ++ dktX4_layFollows_2
def dkwX4_layFollows_0 : List UInt8 := [3, 60, 27, 5, 42, 180, 0, 20, 4, 46, 104, 162, 0, 76, 42, 180, 0, 61, 27, 9, 80, 42, 27]
abbrev dktX4_layFollows_0 : List UInt8 := dkwX4_layFollows_0 ++ dktX4_layFollows_1
theorem dksX4_layFollows_0 : cX4_layFollows.data.toList.drop 0 = dktX4_layFollows_0 := by decide +kernel
theorem dksX4_layFollows_1 : cX4_layFollows.data.toList.drop 23 = dktX4_layFollows_1 := dk_seg dksX4_layFollows_0 23 rfl rfl
theorem dksX4_layFollows_2 : cX4_layFollows.data.toList.drop 47 = dktX4_layFollows_2 := dk_seg dksX4_layFollows_1 24 rfl rfl
theorem dksX4_layFollows_3 : cX4_layFollows.data.toList.drop 71 = dktX4_layFollows_3 := dk_seg dksX4_layFollows_2 24 rfl rfl
theorem dX4_layFollows_0 : decode cX4_layFollows 0 = .ok (.iconst 0, 1) := dk_3 (dk_at dksX4_layFollows_0 0 rfl rfl)
theorem dX4_layFollows_1 : decode cX4_layFollows 1 = .ok (.istore_n 1, 1) := dk_60 (dk_at dksX4_layFollows_0 1 rfl rfl)
theorem dX4_layFollows_2 : decode cX4_layFollows 2 = .ok (.iload_n 1, 1) := dk_27 (dk_at dksX4_layFollows_0 2 rfl rfl)
theorem dX4_layFollows_3 : decode cX4_layFollows 3 = .ok (.iconst 2, 1) := dk_5 (dk_at dksX4_layFollows_0 3 rfl rfl)
theorem dX4_layFollows_4 : decode cX4_layFollows 4 = .ok (.aload_n 0, 1) := dk_42 (dk_at dksX4_layFollows_0 4 rfl rfl)
theorem dX4_layFollows_5 : decode cX4_layFollows 5 = .ok (.getfield 20, 3) := dk_180 0 20 (dk_at dksX4_layFollows_0 5 rfl rfl)
theorem dX4_layFollows_8 : decode cX4_layFollows 8 = .ok (.iconst 1, 1) := dk_4 (dk_at dksX4_layFollows_0 8 rfl rfl)
theorem dX4_layFollows_9 : decode cX4_layFollows 9 = .ok (.iaload, 1) := dk_46 (dk_at dksX4_layFollows_0 9 rfl rfl)
theorem dX4_layFollows_10 : decode cX4_layFollows 10 = .ok (.imul, 1) := dk_104 (dk_at dksX4_layFollows_0 10 rfl rfl)
theorem dX4_layFollows_11 : decode cX4_layFollows 11 = .ok (.if_icmp .ge 76, 3) := dk_162 0 76 (dk_at dksX4_layFollows_0 11 rfl rfl)
theorem dX4_layFollows_14 : decode cX4_layFollows 14 = .ok (.aload_n 0, 1) := dk_42 (dk_at dksX4_layFollows_0 14 rfl rfl)
theorem dX4_layFollows_15 : decode cX4_layFollows 15 = .ok (.getfield 61, 3) := dk_180 0 61 (dk_at dksX4_layFollows_0 15 rfl rfl)
theorem dX4_layFollows_18 : decode cX4_layFollows 18 = .ok (.iload_n 1, 1) := dk_27 (dk_at dksX4_layFollows_0 18 rfl rfl)
theorem dX4_layFollows_19 : decode cX4_layFollows 19 = .ok (.lconst 0, 1) := dk_9 (dk_at dksX4_layFollows_0 19 rfl rfl)
theorem dX4_layFollows_20 : decode cX4_layFollows 20 = .ok (.lastore, 1) := dk_80 (dk_at dksX4_layFollows_0 20 rfl rfl)
theorem dX4_layFollows_21 : decode cX4_layFollows 21 = .ok (.aload_n 0, 1) := dk_42 (dk_at dksX4_layFollows_0 21 rfl rfl)
theorem dX4_layFollows_22 : decode cX4_layFollows 22 = .ok (.iload_n 1, 1) := dk_27 (dk_at dksX4_layFollows_0 22 rfl rfl)
theorem dX4_layFollows_23 : decode cX4_layFollows 23 = .ok (.invokevirtual 262, 3) := dk_182 1 6 (dk_at dksX4_layFollows_1 0 rfl rfl)
theorem dX4_layFollows_26 : decode cX4_layFollows 26 = .ok (.ifCond .ne 6, 3) := dk_154 0 6 (dk_at dksX4_layFollows_1 3 rfl rfl)
theorem dX4_layFollows_29 : decode cX4_layFollows 29 = .ok (.goto 52, 3) := dk_167 0 52 (dk_at dksX4_layFollows_1 6 rfl rfl)
theorem dX4_layFollows_32 : decode cX4_layFollows 32 = .ok (.iconst 0, 1) := dk_3 (dk_at dksX4_layFollows_1 9 rfl rfl)
theorem dX4_layFollows_33 : decode cX4_layFollows 33 = .ok (.istore_n 2, 1) := dk_61 (dk_at dksX4_layFollows_1 10 rfl rfl)
theorem dX4_layFollows_34 : decode cX4_layFollows 34 = .ok (.iload_n 2, 1) := dk_28 (dk_at dksX4_layFollows_1 11 rfl rfl)
theorem dX4_layFollows_35 : decode cX4_layFollows 35 = .ok (.iconst 2, 1) := dk_5 (dk_at dksX4_layFollows_1 12 rfl rfl)
theorem dX4_layFollows_36 : decode cX4_layFollows 36 = .ok (.aload_n 0, 1) := dk_42 (dk_at dksX4_layFollows_1 13 rfl rfl)
theorem dX4_layFollows_37 : decode cX4_layFollows 37 = .ok (.getfield 20, 3) := dk_180 0 20 (dk_at dksX4_layFollows_1 14 rfl rfl)
theorem dX4_layFollows_40 : decode cX4_layFollows 40 = .ok (.iconst 1, 1) := dk_4 (dk_at dksX4_layFollows_1 17 rfl rfl)
theorem dX4_layFollows_41 : decode cX4_layFollows 41 = .ok (.iaload, 1) := dk_46 (dk_at dksX4_layFollows_1 18 rfl rfl)
theorem dX4_layFollows_42 : decode cX4_layFollows 42 = .ok (.imul, 1) := dk_104 (dk_at dksX4_layFollows_1 19 rfl rfl)
theorem dX4_layFollows_43 : decode cX4_layFollows 43 = .ok (.if_icmp .ge 38, 3) := dk_162 0 38 (dk_at dksX4_layFollows_1 20 rfl rfl)
theorem dX4_layFollows_46 : decode cX4_layFollows 46 = .ok (.aload_n 0, 1) := dk_42 (dk_at dksX4_layFollows_1 23 rfl rfl)
theorem dX4_layFollows_47 : decode cX4_layFollows 47 = .ok (.iload_n 2, 1) := dk_28 (dk_at dksX4_layFollows_2 0 rfl rfl)
theorem dX4_layFollows_48 : decode cX4_layFollows 48 = .ok (.invokevirtual 262, 3) := dk_182 1 6 (dk_at dksX4_layFollows_2 1 rfl rfl)
theorem dX4_layFollows_51 : decode cX4_layFollows 51 = .ok (.ifCond .eq 24, 3) := dk_153 0 24 (dk_at dksX4_layFollows_2 4 rfl rfl)
theorem dX4_layFollows_54 : decode cX4_layFollows 54 = .ok (.aload_n 0, 1) := dk_42 (dk_at dksX4_layFollows_2 7 rfl rfl)
theorem dX4_layFollows_55 : decode cX4_layFollows 55 = .ok (.iload_n 1, 1) := dk_27 (dk_at dksX4_layFollows_2 8 rfl rfl)
theorem dX4_layFollows_56 : decode cX4_layFollows 56 = .ok (.iload_n 2, 1) := dk_28 (dk_at dksX4_layFollows_2 9 rfl rfl)
theorem dX4_layFollows_57 : decode cX4_layFollows 57 = .ok (.invokevirtual 271, 3) := dk_182 1 15 (dk_at dksX4_layFollows_2 10 rfl rfl)
theorem dX4_layFollows_60 : decode cX4_layFollows 60 = .ok (.ifCond .eq 15, 3) := dk_153 0 15 (dk_at dksX4_layFollows_2 13 rfl rfl)
theorem dX4_layFollows_63 : decode cX4_layFollows 63 = .ok (.aload_n 0, 1) := dk_42 (dk_at dksX4_layFollows_2 16 rfl rfl)
theorem dX4_layFollows_64 : decode cX4_layFollows 64 = .ok (.getfield 61, 3) := dk_180 0 61 (dk_at dksX4_layFollows_2 17 rfl rfl)
theorem dX4_layFollows_67 : decode cX4_layFollows 67 = .ok (.iload_n 1, 1) := dk_27 (dk_at dksX4_layFollows_2 20 rfl rfl)
theorem dX4_layFollows_68 : decode cX4_layFollows 68 = .ok (.dup2, 1) := dk_92 (dk_at dksX4_layFollows_2 21 rfl rfl)
theorem dX4_layFollows_69 : decode cX4_layFollows 69 = .ok (.laload, 1) := dk_47 (dk_at dksX4_layFollows_2 22 rfl rfl)
theorem dX4_layFollows_70 : decode cX4_layFollows 70 = .ok (.lconst 1, 1) := dk_10 (dk_at dksX4_layFollows_2 23 rfl rfl)
theorem dX4_layFollows_71 : decode cX4_layFollows 71 = .ok (.iload_n 2, 1) := dk_28 (dk_at dksX4_layFollows_3 0 rfl rfl)
theorem dX4_layFollows_72 : decode cX4_layFollows 72 = .ok (.lshl, 1) := dk_121 (dk_at dksX4_layFollows_3 1 rfl rfl)
theorem dX4_layFollows_73 : decode cX4_layFollows 73 = .ok (.lor, 1) := dk_129 (dk_at dksX4_layFollows_3 2 rfl rfl)
theorem dX4_layFollows_74 : decode cX4_layFollows 74 = .ok (.lastore, 1) := dk_80 (dk_at dksX4_layFollows_3 3 rfl rfl)
theorem dX4_layFollows_75 : decode cX4_layFollows 75 = .ok (.iinc 2 1, 3) := dk_132 2 1 (dk_at dksX4_layFollows_3 4 rfl rfl)
theorem dX4_layFollows_78 : decode cX4_layFollows 78 = .ok (.goto (-44), 3) := dk_167 255 212 (dk_at dksX4_layFollows_3 7 rfl rfl)
theorem dX4_layFollows_81 : decode cX4_layFollows 81 = .ok (.iinc 1 1, 3) := dk_132 1 1 (dk_at dksX4_layFollows_3 10 rfl rfl)
theorem dX4_layFollows_84 : decode cX4_layFollows 84 = .ok (.goto (-82), 3) := dk_167 255 174 (dk_at dksX4_layFollows_3 13 rfl rfl)
theorem dX4_layFollows_87 : decode cX4_layFollows 87 = .ok (.return_, 1) := dk_177 (dk_at dksX4_layFollows_3 16 rfl rfl)
abbrev cX4_rideOf : ByteArray := prog_10_method_59_code
def yX4_rideOf : MethodName := ⟨RX4, "rideOf", "(II)I"⟩
def dkwX4_rideOf_1 : List UInt8 := [167, 0, 9, 42, 180, 0, 68, 29, 46, 172]
abbrev dktX4_rideOf_1 : List UInt8 := dkwX4_rideOf_1 ++ []
def dkwX4_rideOf_0 : List UInt8 := [27, 28, 160, 0, 5, 3, 172, 42, 28, 182, 1, 45, 42, 27, 182, 1, 48, 62, 29, 2, 160, 0, 7, 2]
abbrev dktX4_rideOf_0 : List UInt8 := dkwX4_rideOf_0 ++ dktX4_rideOf_1
theorem dksX4_rideOf_0 : cX4_rideOf.data.toList.drop 0 = dktX4_rideOf_0 := by decide +kernel
theorem dksX4_rideOf_1 : cX4_rideOf.data.toList.drop 24 = dktX4_rideOf_1 := dk_seg dksX4_rideOf_0 24 rfl rfl
theorem dX4_rideOf_0 : decode cX4_rideOf 0 = .ok (.iload_n 1, 1) := dk_27 (dk_at dksX4_rideOf_0 0 rfl rfl)
theorem dX4_rideOf_1 : decode cX4_rideOf 1 = .ok (.iload_n 2, 1) := dk_28 (dk_at dksX4_rideOf_0 1 rfl rfl)
theorem dX4_rideOf_2 : decode cX4_rideOf 2 = .ok (.if_icmp .ne 5, 3) := dk_160 0 5 (dk_at dksX4_rideOf_0 2 rfl rfl)
theorem dX4_rideOf_5 : decode cX4_rideOf 5 = .ok (.iconst 0, 1) := dk_3 (dk_at dksX4_rideOf_0 5 rfl rfl)
theorem dX4_rideOf_6 : decode cX4_rideOf 6 = .ok (.ireturn, 1) := dk_172 (dk_at dksX4_rideOf_0 6 rfl rfl)
theorem dX4_rideOf_7 : decode cX4_rideOf 7 = .ok (.aload_n 0, 1) := dk_42 (dk_at dksX4_rideOf_0 7 rfl rfl)
theorem dX4_rideOf_8 : decode cX4_rideOf 8 = .ok (.iload_n 2, 1) := dk_28 (dk_at dksX4_rideOf_0 8 rfl rfl)
theorem dX4_rideOf_9 : decode cX4_rideOf 9 = .ok (.invokevirtual 301, 3) := dk_182 1 45 (dk_at dksX4_rideOf_0 9 rfl rfl)
theorem dX4_rideOf_12 : decode cX4_rideOf 12 = .ok (.aload_n 0, 1) := dk_42 (dk_at dksX4_rideOf_0 12 rfl rfl)
theorem dX4_rideOf_13 : decode cX4_rideOf 13 = .ok (.iload_n 1, 1) := dk_27 (dk_at dksX4_rideOf_0 13 rfl rfl)
theorem dX4_rideOf_14 : decode cX4_rideOf 14 = .ok (.invokevirtual 304, 3) := dk_182 1 48 (dk_at dksX4_rideOf_0 14 rfl rfl)
theorem dX4_rideOf_17 : decode cX4_rideOf 17 = .ok (.istore_n 3, 1) := dk_62 (dk_at dksX4_rideOf_0 17 rfl rfl)
theorem dX4_rideOf_18 : decode cX4_rideOf 18 = .ok (.iload_n 3, 1) := dk_29 (dk_at dksX4_rideOf_0 18 rfl rfl)
theorem dX4_rideOf_19 : decode cX4_rideOf 19 = .ok (.iconst (-1), 1) := dk_2 (dk_at dksX4_rideOf_0 19 rfl rfl)
theorem dX4_rideOf_20 : decode cX4_rideOf 20 = .ok (.if_icmp .ne 7, 3) := dk_160 0 7 (dk_at dksX4_rideOf_0 20 rfl rfl)
theorem dX4_rideOf_23 : decode cX4_rideOf 23 = .ok (.iconst (-1), 1) := dk_2 (dk_at dksX4_rideOf_0 23 rfl rfl)
theorem dX4_rideOf_24 : decode cX4_rideOf 24 = .ok (.goto 9, 3) := dk_167 0 9 (dk_at dksX4_rideOf_1 0 rfl rfl)
theorem dX4_rideOf_27 : decode cX4_rideOf 27 = .ok (.aload_n 0, 1) := dk_42 (dk_at dksX4_rideOf_1 3 rfl rfl)
theorem dX4_rideOf_28 : decode cX4_rideOf 28 = .ok (.getfield 68, 3) := dk_180 0 68 (dk_at dksX4_rideOf_1 4 rfl rfl)
theorem dX4_rideOf_31 : decode cX4_rideOf 31 = .ok (.iload_n 3, 1) := dk_29 (dk_at dksX4_rideOf_1 7 rfl rfl)
theorem dX4_rideOf_32 : decode cX4_rideOf 32 = .ok (.iaload, 1) := dk_46 (dk_at dksX4_rideOf_1 8 rfl rfl)
theorem dX4_rideOf_33 : decode cX4_rideOf 33 = .ok (.ireturn, 1) := dk_172 (dk_at dksX4_rideOf_1 9 rfl rfl)
abbrev cX4_layLengths : ByteArray := prog_10_method_56_code
def yX4_layLengths : MethodName := ⟨RX4, "layLengths", "(I)V"⟩
def dkwX4_layLengths_7 : List UInt8 := [167, 255, 176, 132, 3, 1, 167, 255, 155, 167, 255, 144, 177]
abbrev dktX4_layLengths_7 : List UInt8 := dkwX4_layLengths_7 ++ []
def dkwX4_layLengths_6 : List UInt8 := [42, 180, 0, 68, 29, 42, 180, 0, 68, 21, 4, 46, 42, 29, 182, 1, 39, 96, 79, 4, 61, 132, 4, 1]
abbrev dktX4_layLengths_6 : List UInt8 := dkwX4_layLengths_6 ++ dktX4_layLengths_7
def dkwX4_layLengths_5 : List UInt8 := [180, 0, 68, 21, 4, 46, 42, 29, 182, 1, 39, 96, 42, 180, 0, 68, 29, 46, 161, 0, 6, 167, 0, 24]
abbrev dktX4_layLengths_5 : List UInt8 := dkwX4_layLengths_5 ++ dktX4_layLengths_6
def dkwX4_layLengths_4 : List UInt8 := [162, 0, 73, 42, 29, 182, 1, 6, 153, 0, 59, 42, 29, 21, 4, 182, 1, 42, 153, 0, 49, 42]
abbrev dktX4_layLengths_4 : List UInt8 := dkwX4_layLengths_4 ++ dktX4_layLengths_5
def dkwX4_layLengths_3 : List UInt8 := [5, 42, 180, 0, 20, 4, 46, 104, 162, 0, 95, 3, 54, 4, 21, 4, 5, 42, 180, 0, 20, 4, 46, 104]
abbrev dktX4_layLengths_3 : List UInt8 := dkwX4_layLengths_3 ++ dktX4_layLengths_4
def dkwX4_layLengths_2 : List UInt8 := [167, 0, 6, 19, 1, 38, 79, 132, 2, 1, 167, 255, 201, 4, 61, 28, 153, 0, 114, 3, 61, 3, 62, 29]
abbrev dktX4_layLengths_2 : List UInt8 := dkwX4_layLengths_2 ++ dktX4_layLengths_3
def dkwX4_layLengths_1 : List UInt8 := [154, 0, 9, 19, 1, 38, 167, 0, 23, 42, 28, 182, 0, 250, 27, 160, 0, 11, 42, 28, 182, 1, 39]
abbrev dktX4_layLengths_1 : List UInt8 := dkwX4_layLengths_1 ++ dktX4_layLengths_2
def dkwX4_layLengths_0 : List UInt8 := [3, 61, 28, 5, 42, 180, 0, 20, 4, 46, 104, 162, 0, 49, 42, 180, 0, 68, 28, 42, 28, 182, 1, 6]
abbrev dktX4_layLengths_0 : List UInt8 := dkwX4_layLengths_0 ++ dktX4_layLengths_1
theorem dksX4_layLengths_0 : cX4_layLengths.data.toList.drop 0 = dktX4_layLengths_0 := by decide +kernel
theorem dksX4_layLengths_1 : cX4_layLengths.data.toList.drop 24 = dktX4_layLengths_1 := dk_seg dksX4_layLengths_0 24 rfl rfl
theorem dksX4_layLengths_2 : cX4_layLengths.data.toList.drop 47 = dktX4_layLengths_2 := dk_seg dksX4_layLengths_1 23 rfl rfl
theorem dksX4_layLengths_3 : cX4_layLengths.data.toList.drop 71 = dktX4_layLengths_3 := dk_seg dksX4_layLengths_2 24 rfl rfl
theorem dksX4_layLengths_4 : cX4_layLengths.data.toList.drop 95 = dktX4_layLengths_4 := dk_seg dksX4_layLengths_3 24 rfl rfl
theorem dksX4_layLengths_5 : cX4_layLengths.data.toList.drop 117 = dktX4_layLengths_5 := dk_seg dksX4_layLengths_4 22 rfl rfl
theorem dksX4_layLengths_6 : cX4_layLengths.data.toList.drop 141 = dktX4_layLengths_6 := dk_seg dksX4_layLengths_5 24 rfl rfl
theorem dksX4_layLengths_7 : cX4_layLengths.data.toList.drop 165 = dktX4_layLengths_7 := dk_seg dksX4_layLengths_6 24 rfl rfl
theorem dX4_layLengths_0 : decode cX4_layLengths 0 = .ok (.iconst 0, 1) := dk_3 (dk_at dksX4_layLengths_0 0 rfl rfl)
theorem dX4_layLengths_1 : decode cX4_layLengths 1 = .ok (.istore_n 2, 1) := dk_61 (dk_at dksX4_layLengths_0 1 rfl rfl)
theorem dX4_layLengths_2 : decode cX4_layLengths 2 = .ok (.iload_n 2, 1) := dk_28 (dk_at dksX4_layLengths_0 2 rfl rfl)
theorem dX4_layLengths_3 : decode cX4_layLengths 3 = .ok (.iconst 2, 1) := dk_5 (dk_at dksX4_layLengths_0 3 rfl rfl)
theorem dX4_layLengths_4 : decode cX4_layLengths 4 = .ok (.aload_n 0, 1) := dk_42 (dk_at dksX4_layLengths_0 4 rfl rfl)
theorem dX4_layLengths_5 : decode cX4_layLengths 5 = .ok (.getfield 20, 3) := dk_180 0 20 (dk_at dksX4_layLengths_0 5 rfl rfl)
theorem dX4_layLengths_8 : decode cX4_layLengths 8 = .ok (.iconst 1, 1) := dk_4 (dk_at dksX4_layLengths_0 8 rfl rfl)
theorem dX4_layLengths_9 : decode cX4_layLengths 9 = .ok (.iaload, 1) := dk_46 (dk_at dksX4_layLengths_0 9 rfl rfl)
theorem dX4_layLengths_10 : decode cX4_layLengths 10 = .ok (.imul, 1) := dk_104 (dk_at dksX4_layLengths_0 10 rfl rfl)
theorem dX4_layLengths_11 : decode cX4_layLengths 11 = .ok (.if_icmp .ge 49, 3) := dk_162 0 49 (dk_at dksX4_layLengths_0 11 rfl rfl)
theorem dX4_layLengths_14 : decode cX4_layLengths 14 = .ok (.aload_n 0, 1) := dk_42 (dk_at dksX4_layLengths_0 14 rfl rfl)
theorem dX4_layLengths_15 : decode cX4_layLengths 15 = .ok (.getfield 68, 3) := dk_180 0 68 (dk_at dksX4_layLengths_0 15 rfl rfl)
theorem dX4_layLengths_18 : decode cX4_layLengths 18 = .ok (.iload_n 2, 1) := dk_28 (dk_at dksX4_layLengths_0 18 rfl rfl)
theorem dX4_layLengths_19 : decode cX4_layLengths 19 = .ok (.aload_n 0, 1) := dk_42 (dk_at dksX4_layLengths_0 19 rfl rfl)
theorem dX4_layLengths_20 : decode cX4_layLengths 20 = .ok (.iload_n 2, 1) := dk_28 (dk_at dksX4_layLengths_0 20 rfl rfl)
theorem dX4_layLengths_21 : decode cX4_layLengths 21 = .ok (.invokevirtual 262, 3) := dk_182 1 6 (dk_at dksX4_layLengths_0 21 rfl rfl)
theorem dX4_layLengths_24 : decode cX4_layLengths 24 = .ok (.ifCond .ne 9, 3) := dk_154 0 9 (dk_at dksX4_layLengths_1 0 rfl rfl)
theorem dX4_layLengths_27 : decode cX4_layLengths 27 = .ok (.ldc_w 294, 3) := dk_19 1 38 (dk_at dksX4_layLengths_1 3 rfl rfl)
theorem dX4_layLengths_30 : decode cX4_layLengths 30 = .ok (.goto 23, 3) := dk_167 0 23 (dk_at dksX4_layLengths_1 6 rfl rfl)
theorem dX4_layLengths_33 : decode cX4_layLengths 33 = .ok (.aload_n 0, 1) := dk_42 (dk_at dksX4_layLengths_1 9 rfl rfl)
theorem dX4_layLengths_34 : decode cX4_layLengths 34 = .ok (.iload_n 2, 1) := dk_28 (dk_at dksX4_layLengths_1 10 rfl rfl)
theorem dX4_layLengths_35 : decode cX4_layLengths 35 = .ok (.invokevirtual 250, 3) := dk_182 0 250 (dk_at dksX4_layLengths_1 11 rfl rfl)
theorem dX4_layLengths_38 : decode cX4_layLengths 38 = .ok (.iload_n 1, 1) := dk_27 (dk_at dksX4_layLengths_1 14 rfl rfl)
theorem dX4_layLengths_39 : decode cX4_layLengths 39 = .ok (.if_icmp .ne 11, 3) := dk_160 0 11 (dk_at dksX4_layLengths_1 15 rfl rfl)
theorem dX4_layLengths_42 : decode cX4_layLengths 42 = .ok (.aload_n 0, 1) := dk_42 (dk_at dksX4_layLengths_1 18 rfl rfl)
theorem dX4_layLengths_43 : decode cX4_layLengths 43 = .ok (.iload_n 2, 1) := dk_28 (dk_at dksX4_layLengths_1 19 rfl rfl)
theorem dX4_layLengths_44 : decode cX4_layLengths 44 = .ok (.invokevirtual 295, 3) := dk_182 1 39 (dk_at dksX4_layLengths_1 20 rfl rfl)
theorem dX4_layLengths_47 : decode cX4_layLengths 47 = .ok (.goto 6, 3) := dk_167 0 6 (dk_at dksX4_layLengths_2 0 rfl rfl)
theorem dX4_layLengths_50 : decode cX4_layLengths 50 = .ok (.ldc_w 294, 3) := dk_19 1 38 (dk_at dksX4_layLengths_2 3 rfl rfl)
theorem dX4_layLengths_53 : decode cX4_layLengths 53 = .ok (.iastore, 1) := dk_79 (dk_at dksX4_layLengths_2 6 rfl rfl)
theorem dX4_layLengths_54 : decode cX4_layLengths 54 = .ok (.iinc 2 1, 3) := dk_132 2 1 (dk_at dksX4_layLengths_2 7 rfl rfl)
theorem dX4_layLengths_57 : decode cX4_layLengths 57 = .ok (.goto (-55), 3) := dk_167 255 201 (dk_at dksX4_layLengths_2 10 rfl rfl)
theorem dX4_layLengths_60 : decode cX4_layLengths 60 = .ok (.iconst 1, 1) := dk_4 (dk_at dksX4_layLengths_2 13 rfl rfl)
theorem dX4_layLengths_61 : decode cX4_layLengths 61 = .ok (.istore_n 2, 1) := dk_61 (dk_at dksX4_layLengths_2 14 rfl rfl)
theorem dX4_layLengths_62 : decode cX4_layLengths 62 = .ok (.iload_n 2, 1) := dk_28 (dk_at dksX4_layLengths_2 15 rfl rfl)
theorem dX4_layLengths_63 : decode cX4_layLengths 63 = .ok (.ifCond .eq 114, 3) := dk_153 0 114 (dk_at dksX4_layLengths_2 16 rfl rfl)
theorem dX4_layLengths_66 : decode cX4_layLengths 66 = .ok (.iconst 0, 1) := dk_3 (dk_at dksX4_layLengths_2 19 rfl rfl)
theorem dX4_layLengths_67 : decode cX4_layLengths 67 = .ok (.istore_n 2, 1) := dk_61 (dk_at dksX4_layLengths_2 20 rfl rfl)
theorem dX4_layLengths_68 : decode cX4_layLengths 68 = .ok (.iconst 0, 1) := dk_3 (dk_at dksX4_layLengths_2 21 rfl rfl)
theorem dX4_layLengths_69 : decode cX4_layLengths 69 = .ok (.istore_n 3, 1) := dk_62 (dk_at dksX4_layLengths_2 22 rfl rfl)
theorem dX4_layLengths_70 : decode cX4_layLengths 70 = .ok (.iload_n 3, 1) := dk_29 (dk_at dksX4_layLengths_2 23 rfl rfl)
theorem dX4_layLengths_71 : decode cX4_layLengths 71 = .ok (.iconst 2, 1) := dk_5 (dk_at dksX4_layLengths_3 0 rfl rfl)
theorem dX4_layLengths_72 : decode cX4_layLengths 72 = .ok (.aload_n 0, 1) := dk_42 (dk_at dksX4_layLengths_3 1 rfl rfl)
theorem dX4_layLengths_73 : decode cX4_layLengths 73 = .ok (.getfield 20, 3) := dk_180 0 20 (dk_at dksX4_layLengths_3 2 rfl rfl)
theorem dX4_layLengths_76 : decode cX4_layLengths 76 = .ok (.iconst 1, 1) := dk_4 (dk_at dksX4_layLengths_3 5 rfl rfl)
theorem dX4_layLengths_77 : decode cX4_layLengths 77 = .ok (.iaload, 1) := dk_46 (dk_at dksX4_layLengths_3 6 rfl rfl)
theorem dX4_layLengths_78 : decode cX4_layLengths 78 = .ok (.imul, 1) := dk_104 (dk_at dksX4_layLengths_3 7 rfl rfl)
theorem dX4_layLengths_79 : decode cX4_layLengths 79 = .ok (.if_icmp .ge 95, 3) := dk_162 0 95 (dk_at dksX4_layLengths_3 8 rfl rfl)
theorem dX4_layLengths_82 : decode cX4_layLengths 82 = .ok (.iconst 0, 1) := dk_3 (dk_at dksX4_layLengths_3 11 rfl rfl)
theorem dX4_layLengths_83 : decode cX4_layLengths 83 = .ok (.istore 4, 2) := dk_54 4 (dk_at dksX4_layLengths_3 12 rfl rfl)
theorem dX4_layLengths_85 : decode cX4_layLengths 85 = .ok (.iload 4, 2) := dk_21 4 (dk_at dksX4_layLengths_3 14 rfl rfl)
theorem dX4_layLengths_87 : decode cX4_layLengths 87 = .ok (.iconst 2, 1) := dk_5 (dk_at dksX4_layLengths_3 16 rfl rfl)
theorem dX4_layLengths_88 : decode cX4_layLengths 88 = .ok (.aload_n 0, 1) := dk_42 (dk_at dksX4_layLengths_3 17 rfl rfl)
theorem dX4_layLengths_89 : decode cX4_layLengths 89 = .ok (.getfield 20, 3) := dk_180 0 20 (dk_at dksX4_layLengths_3 18 rfl rfl)
theorem dX4_layLengths_92 : decode cX4_layLengths 92 = .ok (.iconst 1, 1) := dk_4 (dk_at dksX4_layLengths_3 21 rfl rfl)
theorem dX4_layLengths_93 : decode cX4_layLengths 93 = .ok (.iaload, 1) := dk_46 (dk_at dksX4_layLengths_3 22 rfl rfl)
theorem dX4_layLengths_94 : decode cX4_layLengths 94 = .ok (.imul, 1) := dk_104 (dk_at dksX4_layLengths_3 23 rfl rfl)
theorem dX4_layLengths_95 : decode cX4_layLengths 95 = .ok (.if_icmp .ge 73, 3) := dk_162 0 73 (dk_at dksX4_layLengths_4 0 rfl rfl)
theorem dX4_layLengths_98 : decode cX4_layLengths 98 = .ok (.aload_n 0, 1) := dk_42 (dk_at dksX4_layLengths_4 3 rfl rfl)
theorem dX4_layLengths_99 : decode cX4_layLengths 99 = .ok (.iload_n 3, 1) := dk_29 (dk_at dksX4_layLengths_4 4 rfl rfl)
theorem dX4_layLengths_100 : decode cX4_layLengths 100 = .ok (.invokevirtual 262, 3) := dk_182 1 6 (dk_at dksX4_layLengths_4 5 rfl rfl)
theorem dX4_layLengths_103 : decode cX4_layLengths 103 = .ok (.ifCond .eq 59, 3) := dk_153 0 59 (dk_at dksX4_layLengths_4 8 rfl rfl)
theorem dX4_layLengths_106 : decode cX4_layLengths 106 = .ok (.aload_n 0, 1) := dk_42 (dk_at dksX4_layLengths_4 11 rfl rfl)
theorem dX4_layLengths_107 : decode cX4_layLengths 107 = .ok (.iload_n 3, 1) := dk_29 (dk_at dksX4_layLengths_4 12 rfl rfl)
theorem dX4_layLengths_108 : decode cX4_layLengths 108 = .ok (.iload 4, 2) := dk_21 4 (dk_at dksX4_layLengths_4 13 rfl rfl)
theorem dX4_layLengths_110 : decode cX4_layLengths 110 = .ok (.invokevirtual 298, 3) := dk_182 1 42 (dk_at dksX4_layLengths_4 15 rfl rfl)
theorem dX4_layLengths_113 : decode cX4_layLengths 113 = .ok (.ifCond .eq 49, 3) := dk_153 0 49 (dk_at dksX4_layLengths_4 18 rfl rfl)
theorem dX4_layLengths_116 : decode cX4_layLengths 116 = .ok (.aload_n 0, 1) := dk_42 (dk_at dksX4_layLengths_4 21 rfl rfl)
theorem dX4_layLengths_117 : decode cX4_layLengths 117 = .ok (.getfield 68, 3) := dk_180 0 68 (dk_at dksX4_layLengths_5 0 rfl rfl)
theorem dX4_layLengths_120 : decode cX4_layLengths 120 = .ok (.iload 4, 2) := dk_21 4 (dk_at dksX4_layLengths_5 3 rfl rfl)
theorem dX4_layLengths_122 : decode cX4_layLengths 122 = .ok (.iaload, 1) := dk_46 (dk_at dksX4_layLengths_5 5 rfl rfl)
theorem dX4_layLengths_123 : decode cX4_layLengths 123 = .ok (.aload_n 0, 1) := dk_42 (dk_at dksX4_layLengths_5 6 rfl rfl)
theorem dX4_layLengths_124 : decode cX4_layLengths 124 = .ok (.iload_n 3, 1) := dk_29 (dk_at dksX4_layLengths_5 7 rfl rfl)
theorem dX4_layLengths_125 : decode cX4_layLengths 125 = .ok (.invokevirtual 295, 3) := dk_182 1 39 (dk_at dksX4_layLengths_5 8 rfl rfl)
theorem dX4_layLengths_128 : decode cX4_layLengths 128 = .ok (.iadd, 1) := dk_96 (dk_at dksX4_layLengths_5 11 rfl rfl)
theorem dX4_layLengths_129 : decode cX4_layLengths 129 = .ok (.aload_n 0, 1) := dk_42 (dk_at dksX4_layLengths_5 12 rfl rfl)
theorem dX4_layLengths_130 : decode cX4_layLengths 130 = .ok (.getfield 68, 3) := dk_180 0 68 (dk_at dksX4_layLengths_5 13 rfl rfl)
theorem dX4_layLengths_133 : decode cX4_layLengths 133 = .ok (.iload_n 3, 1) := dk_29 (dk_at dksX4_layLengths_5 16 rfl rfl)
theorem dX4_layLengths_134 : decode cX4_layLengths 134 = .ok (.iaload, 1) := dk_46 (dk_at dksX4_layLengths_5 17 rfl rfl)
theorem dX4_layLengths_135 : decode cX4_layLengths 135 = .ok (.if_icmp .lt 6, 3) := dk_161 0 6 (dk_at dksX4_layLengths_5 18 rfl rfl)
theorem dX4_layLengths_138 : decode cX4_layLengths 138 = .ok (.goto 24, 3) := dk_167 0 24 (dk_at dksX4_layLengths_5 21 rfl rfl)
theorem dX4_layLengths_141 : decode cX4_layLengths 141 = .ok (.aload_n 0, 1) := dk_42 (dk_at dksX4_layLengths_6 0 rfl rfl)
theorem dX4_layLengths_142 : decode cX4_layLengths 142 = .ok (.getfield 68, 3) := dk_180 0 68 (dk_at dksX4_layLengths_6 1 rfl rfl)
theorem dX4_layLengths_145 : decode cX4_layLengths 145 = .ok (.iload_n 3, 1) := dk_29 (dk_at dksX4_layLengths_6 4 rfl rfl)
theorem dX4_layLengths_146 : decode cX4_layLengths 146 = .ok (.aload_n 0, 1) := dk_42 (dk_at dksX4_layLengths_6 5 rfl rfl)
theorem dX4_layLengths_147 : decode cX4_layLengths 147 = .ok (.getfield 68, 3) := dk_180 0 68 (dk_at dksX4_layLengths_6 6 rfl rfl)
theorem dX4_layLengths_150 : decode cX4_layLengths 150 = .ok (.iload 4, 2) := dk_21 4 (dk_at dksX4_layLengths_6 9 rfl rfl)
theorem dX4_layLengths_152 : decode cX4_layLengths 152 = .ok (.iaload, 1) := dk_46 (dk_at dksX4_layLengths_6 11 rfl rfl)
theorem dX4_layLengths_153 : decode cX4_layLengths 153 = .ok (.aload_n 0, 1) := dk_42 (dk_at dksX4_layLengths_6 12 rfl rfl)
theorem dX4_layLengths_154 : decode cX4_layLengths 154 = .ok (.iload_n 3, 1) := dk_29 (dk_at dksX4_layLengths_6 13 rfl rfl)
theorem dX4_layLengths_155 : decode cX4_layLengths 155 = .ok (.invokevirtual 295, 3) := dk_182 1 39 (dk_at dksX4_layLengths_6 14 rfl rfl)
theorem dX4_layLengths_158 : decode cX4_layLengths 158 = .ok (.iadd, 1) := dk_96 (dk_at dksX4_layLengths_6 17 rfl rfl)
theorem dX4_layLengths_159 : decode cX4_layLengths 159 = .ok (.iastore, 1) := dk_79 (dk_at dksX4_layLengths_6 18 rfl rfl)
theorem dX4_layLengths_160 : decode cX4_layLengths 160 = .ok (.iconst 1, 1) := dk_4 (dk_at dksX4_layLengths_6 19 rfl rfl)
theorem dX4_layLengths_161 : decode cX4_layLengths 161 = .ok (.istore_n 2, 1) := dk_61 (dk_at dksX4_layLengths_6 20 rfl rfl)
theorem dX4_layLengths_162 : decode cX4_layLengths 162 = .ok (.iinc 4 1, 3) := dk_132 4 1 (dk_at dksX4_layLengths_6 21 rfl rfl)
theorem dX4_layLengths_165 : decode cX4_layLengths 165 = .ok (.goto (-80), 3) := dk_167 255 176 (dk_at dksX4_layLengths_7 0 rfl rfl)
theorem dX4_layLengths_168 : decode cX4_layLengths 168 = .ok (.iinc 3 1, 3) := dk_132 3 1 (dk_at dksX4_layLengths_7 3 rfl rfl)
theorem dX4_layLengths_171 : decode cX4_layLengths 171 = .ok (.goto (-101), 3) := dk_167 255 155 (dk_at dksX4_layLengths_7 6 rfl rfl)
theorem dX4_layLengths_174 : decode cX4_layLengths 174 = .ok (.goto (-112), 3) := dk_167 255 144 (dk_at dksX4_layLengths_7 9 rfl rfl)
theorem dX4_layLengths_177 : decode cX4_layLengths 177 = .ok (.return_, 1) := dk_177 (dk_at dksX4_layLengths_7 12 rfl rfl)
abbrev cX4_longOf : ByteArray := prog_10_method_33_code
def yX4_longOf : MethodName := ⟨RX4, "longOf", "(I)I"⟩
def dkwX4_longOf_0 : List UInt8 := [42, 180, 0, 34, 27, 5, 108, 50, 5, 46, 172]
abbrev dktX4_longOf_0 : List UInt8 := dkwX4_longOf_0 ++ []
theorem dksX4_longOf_0 : cX4_longOf.data.toList.drop 0 = dktX4_longOf_0 := by decide +kernel
theorem dX4_longOf_0 : decode cX4_longOf 0 = .ok (.aload_n 0, 1) := dk_42 (dk_at dksX4_longOf_0 0 rfl rfl)
theorem dX4_longOf_1 : decode cX4_longOf 1 = .ok (.getfield 34, 3) := dk_180 0 34 (dk_at dksX4_longOf_0 1 rfl rfl)
theorem dX4_longOf_4 : decode cX4_longOf 4 = .ok (.iload_n 1, 1) := dk_27 (dk_at dksX4_longOf_0 4 rfl rfl)
theorem dX4_longOf_5 : decode cX4_longOf 5 = .ok (.iconst 2, 1) := dk_5 (dk_at dksX4_longOf_0 5 rfl rfl)
theorem dX4_longOf_6 : decode cX4_longOf 6 = .ok (.idiv, 1) := dk_108 (dk_at dksX4_longOf_0 6 rfl rfl)
theorem dX4_longOf_7 : decode cX4_longOf 7 = .ok (.aaload, 1) := dk_50 (dk_at dksX4_longOf_0 7 rfl rfl)
theorem dX4_longOf_8 : decode cX4_longOf 8 = .ok (.iconst 2, 1) := dk_5 (dk_at dksX4_longOf_0 8 rfl rfl)
theorem dX4_longOf_9 : decode cX4_longOf 9 = .ok (.iaload, 1) := dk_46 (dk_at dksX4_longOf_0 9 rfl rfl)
theorem dX4_longOf_10 : decode cX4_longOf 10 = .ok (.ireturn, 1) := dk_172 (dk_at dksX4_longOf_0 10 rfl rfl)
abbrev cX4_isAfter : ByteArray := prog_10_method_55_code
def yX4_isAfter : MethodName := ⟨RX4, "isAfter", "(II)Z"⟩
def dkwX4_isAfter_0 : List UInt8 := [42, 180, 0, 61, 27, 47, 28, 125, 10, 127, 10, 148, 154, 0, 7, 4, 167, 0, 4, 3, 172]
abbrev dktX4_isAfter_0 : List UInt8 := dkwX4_isAfter_0 ++ []
theorem dksX4_isAfter_0 : cX4_isAfter.data.toList.drop 0 = dktX4_isAfter_0 := by decide +kernel
theorem dX4_isAfter_0 : decode cX4_isAfter 0 = .ok (.aload_n 0, 1) := dk_42 (dk_at dksX4_isAfter_0 0 rfl rfl)
theorem dX4_isAfter_1 : decode cX4_isAfter 1 = .ok (.getfield 61, 3) := dk_180 0 61 (dk_at dksX4_isAfter_0 1 rfl rfl)
theorem dX4_isAfter_4 : decode cX4_isAfter 4 = .ok (.iload_n 1, 1) := dk_27 (dk_at dksX4_isAfter_0 4 rfl rfl)
theorem dX4_isAfter_5 : decode cX4_isAfter 5 = .ok (.laload, 1) := dk_47 (dk_at dksX4_isAfter_0 5 rfl rfl)
theorem dX4_isAfter_6 : decode cX4_isAfter 6 = .ok (.iload_n 2, 1) := dk_28 (dk_at dksX4_isAfter_0 6 rfl rfl)
theorem dX4_isAfter_7 : decode cX4_isAfter 7 = .ok (.lushr, 1) := dk_125 (dk_at dksX4_isAfter_0 7 rfl rfl)
theorem dX4_isAfter_8 : decode cX4_isAfter 8 = .ok (.lconst 1, 1) := dk_10 (dk_at dksX4_isAfter_0 8 rfl rfl)
theorem dX4_isAfter_9 : decode cX4_isAfter 9 = .ok (.land, 1) := dk_127 (dk_at dksX4_isAfter_0 9 rfl rfl)
theorem dX4_isAfter_10 : decode cX4_isAfter 10 = .ok (.lconst 1, 1) := dk_10 (dk_at dksX4_isAfter_0 10 rfl rfl)
theorem dX4_isAfter_11 : decode cX4_isAfter 11 = .ok (.lcmp, 1) := dk_148 (dk_at dksX4_isAfter_0 11 rfl rfl)
theorem dX4_isAfter_12 : decode cX4_isAfter 12 = .ok (.ifCond .ne 7, 3) := dk_154 0 7 (dk_at dksX4_isAfter_0 12 rfl rfl)
theorem dX4_isAfter_15 : decode cX4_isAfter 15 = .ok (.iconst 1, 1) := dk_4 (dk_at dksX4_isAfter_0 15 rfl rfl)
theorem dX4_isAfter_16 : decode cX4_isAfter 16 = .ok (.goto 4, 3) := dk_167 0 4 (dk_at dksX4_isAfter_0 16 rfl rfl)
theorem dX4_isAfter_19 : decode cX4_isAfter 19 = .ok (.iconst 0, 1) := dk_3 (dk_at dksX4_isAfter_0 19 rfl rfl)
theorem dX4_isAfter_20 : decode cX4_isAfter 20 = .ok (.ireturn, 1) := dk_172 (dk_at dksX4_isAfter_0 20 rfl rfl)
abbrev cX4_firstArc : ByteArray := prog_10_method_57_code
def yX4_firstArc : MethodName := ⟨RX4, "firstArc", "(I)I"⟩
def dkwX4_firstArc_3 : List UInt8 := [167, 255, 190, 28, 172]
abbrev dktX4_firstArc_3 : List UInt8 := dkwX4_firstArc_3 ++ []
def dkwX4_firstArc_2 : List UInt8 := [159, 0, 18, 42, 180, 0, 68, 29, 46, 42, 180, 0, 68, 28, 46, 162, 0, 5, 29, 61, 132, 3, 1]
abbrev dktX4_firstArc_2 : List UInt8 := dkwX4_firstArc_2 ++ dktX4_firstArc_3
def dkwX4_firstArc_1 : List UInt8 := [42, 29, 182, 0, 253, 27, 160, 0, 37, 42, 180, 0, 68, 29, 46, 19, 1, 38, 162, 0, 25, 28, 2]
abbrev dktX4_firstArc_1 : List UInt8 := dkwX4_firstArc_1 ++ dktX4_firstArc_2
def dkwX4_firstArc_0 : List UInt8 := [2, 61, 3, 62, 29, 5, 42, 180, 0, 20, 4, 46, 104, 162, 0, 60, 42, 29, 182, 1, 6, 153, 0, 46]
abbrev dktX4_firstArc_0 : List UInt8 := dkwX4_firstArc_0 ++ dktX4_firstArc_1
theorem dksX4_firstArc_0 : cX4_firstArc.data.toList.drop 0 = dktX4_firstArc_0 := by decide +kernel
theorem dksX4_firstArc_1 : cX4_firstArc.data.toList.drop 24 = dktX4_firstArc_1 := dk_seg dksX4_firstArc_0 24 rfl rfl
theorem dksX4_firstArc_2 : cX4_firstArc.data.toList.drop 47 = dktX4_firstArc_2 := dk_seg dksX4_firstArc_1 23 rfl rfl
theorem dksX4_firstArc_3 : cX4_firstArc.data.toList.drop 70 = dktX4_firstArc_3 := dk_seg dksX4_firstArc_2 23 rfl rfl
theorem dX4_firstArc_0 : decode cX4_firstArc 0 = .ok (.iconst (-1), 1) := dk_2 (dk_at dksX4_firstArc_0 0 rfl rfl)
theorem dX4_firstArc_1 : decode cX4_firstArc 1 = .ok (.istore_n 2, 1) := dk_61 (dk_at dksX4_firstArc_0 1 rfl rfl)
theorem dX4_firstArc_2 : decode cX4_firstArc 2 = .ok (.iconst 0, 1) := dk_3 (dk_at dksX4_firstArc_0 2 rfl rfl)
theorem dX4_firstArc_3 : decode cX4_firstArc 3 = .ok (.istore_n 3, 1) := dk_62 (dk_at dksX4_firstArc_0 3 rfl rfl)
theorem dX4_firstArc_4 : decode cX4_firstArc 4 = .ok (.iload_n 3, 1) := dk_29 (dk_at dksX4_firstArc_0 4 rfl rfl)
theorem dX4_firstArc_5 : decode cX4_firstArc 5 = .ok (.iconst 2, 1) := dk_5 (dk_at dksX4_firstArc_0 5 rfl rfl)
theorem dX4_firstArc_6 : decode cX4_firstArc 6 = .ok (.aload_n 0, 1) := dk_42 (dk_at dksX4_firstArc_0 6 rfl rfl)
theorem dX4_firstArc_7 : decode cX4_firstArc 7 = .ok (.getfield 20, 3) := dk_180 0 20 (dk_at dksX4_firstArc_0 7 rfl rfl)
theorem dX4_firstArc_10 : decode cX4_firstArc 10 = .ok (.iconst 1, 1) := dk_4 (dk_at dksX4_firstArc_0 10 rfl rfl)
theorem dX4_firstArc_11 : decode cX4_firstArc 11 = .ok (.iaload, 1) := dk_46 (dk_at dksX4_firstArc_0 11 rfl rfl)
theorem dX4_firstArc_12 : decode cX4_firstArc 12 = .ok (.imul, 1) := dk_104 (dk_at dksX4_firstArc_0 12 rfl rfl)
theorem dX4_firstArc_13 : decode cX4_firstArc 13 = .ok (.if_icmp .ge 60, 3) := dk_162 0 60 (dk_at dksX4_firstArc_0 13 rfl rfl)
theorem dX4_firstArc_16 : decode cX4_firstArc 16 = .ok (.aload_n 0, 1) := dk_42 (dk_at dksX4_firstArc_0 16 rfl rfl)
theorem dX4_firstArc_17 : decode cX4_firstArc 17 = .ok (.iload_n 3, 1) := dk_29 (dk_at dksX4_firstArc_0 17 rfl rfl)
theorem dX4_firstArc_18 : decode cX4_firstArc 18 = .ok (.invokevirtual 262, 3) := dk_182 1 6 (dk_at dksX4_firstArc_0 18 rfl rfl)
theorem dX4_firstArc_21 : decode cX4_firstArc 21 = .ok (.ifCond .eq 46, 3) := dk_153 0 46 (dk_at dksX4_firstArc_0 21 rfl rfl)
theorem dX4_firstArc_24 : decode cX4_firstArc 24 = .ok (.aload_n 0, 1) := dk_42 (dk_at dksX4_firstArc_1 0 rfl rfl)
theorem dX4_firstArc_25 : decode cX4_firstArc 25 = .ok (.iload_n 3, 1) := dk_29 (dk_at dksX4_firstArc_1 1 rfl rfl)
theorem dX4_firstArc_26 : decode cX4_firstArc 26 = .ok (.invokevirtual 253, 3) := dk_182 0 253 (dk_at dksX4_firstArc_1 2 rfl rfl)
theorem dX4_firstArc_29 : decode cX4_firstArc 29 = .ok (.iload_n 1, 1) := dk_27 (dk_at dksX4_firstArc_1 5 rfl rfl)
theorem dX4_firstArc_30 : decode cX4_firstArc 30 = .ok (.if_icmp .ne 37, 3) := dk_160 0 37 (dk_at dksX4_firstArc_1 6 rfl rfl)
theorem dX4_firstArc_33 : decode cX4_firstArc 33 = .ok (.aload_n 0, 1) := dk_42 (dk_at dksX4_firstArc_1 9 rfl rfl)
theorem dX4_firstArc_34 : decode cX4_firstArc 34 = .ok (.getfield 68, 3) := dk_180 0 68 (dk_at dksX4_firstArc_1 10 rfl rfl)
theorem dX4_firstArc_37 : decode cX4_firstArc 37 = .ok (.iload_n 3, 1) := dk_29 (dk_at dksX4_firstArc_1 13 rfl rfl)
theorem dX4_firstArc_38 : decode cX4_firstArc 38 = .ok (.iaload, 1) := dk_46 (dk_at dksX4_firstArc_1 14 rfl rfl)
theorem dX4_firstArc_39 : decode cX4_firstArc 39 = .ok (.ldc_w 294, 3) := dk_19 1 38 (dk_at dksX4_firstArc_1 15 rfl rfl)
theorem dX4_firstArc_42 : decode cX4_firstArc 42 = .ok (.if_icmp .ge 25, 3) := dk_162 0 25 (dk_at dksX4_firstArc_1 18 rfl rfl)
theorem dX4_firstArc_45 : decode cX4_firstArc 45 = .ok (.iload_n 2, 1) := dk_28 (dk_at dksX4_firstArc_1 21 rfl rfl)
theorem dX4_firstArc_46 : decode cX4_firstArc 46 = .ok (.iconst (-1), 1) := dk_2 (dk_at dksX4_firstArc_1 22 rfl rfl)
theorem dX4_firstArc_47 : decode cX4_firstArc 47 = .ok (.if_icmp .eq 18, 3) := dk_159 0 18 (dk_at dksX4_firstArc_2 0 rfl rfl)
theorem dX4_firstArc_50 : decode cX4_firstArc 50 = .ok (.aload_n 0, 1) := dk_42 (dk_at dksX4_firstArc_2 3 rfl rfl)
theorem dX4_firstArc_51 : decode cX4_firstArc 51 = .ok (.getfield 68, 3) := dk_180 0 68 (dk_at dksX4_firstArc_2 4 rfl rfl)
theorem dX4_firstArc_54 : decode cX4_firstArc 54 = .ok (.iload_n 3, 1) := dk_29 (dk_at dksX4_firstArc_2 7 rfl rfl)
theorem dX4_firstArc_55 : decode cX4_firstArc 55 = .ok (.iaload, 1) := dk_46 (dk_at dksX4_firstArc_2 8 rfl rfl)
theorem dX4_firstArc_56 : decode cX4_firstArc 56 = .ok (.aload_n 0, 1) := dk_42 (dk_at dksX4_firstArc_2 9 rfl rfl)
theorem dX4_firstArc_57 : decode cX4_firstArc 57 = .ok (.getfield 68, 3) := dk_180 0 68 (dk_at dksX4_firstArc_2 10 rfl rfl)
theorem dX4_firstArc_60 : decode cX4_firstArc 60 = .ok (.iload_n 2, 1) := dk_28 (dk_at dksX4_firstArc_2 13 rfl rfl)
theorem dX4_firstArc_61 : decode cX4_firstArc 61 = .ok (.iaload, 1) := dk_46 (dk_at dksX4_firstArc_2 14 rfl rfl)
theorem dX4_firstArc_62 : decode cX4_firstArc 62 = .ok (.if_icmp .ge 5, 3) := dk_162 0 5 (dk_at dksX4_firstArc_2 15 rfl rfl)
theorem dX4_firstArc_65 : decode cX4_firstArc 65 = .ok (.iload_n 3, 1) := dk_29 (dk_at dksX4_firstArc_2 18 rfl rfl)
theorem dX4_firstArc_66 : decode cX4_firstArc 66 = .ok (.istore_n 2, 1) := dk_61 (dk_at dksX4_firstArc_2 19 rfl rfl)
theorem dX4_firstArc_67 : decode cX4_firstArc 67 = .ok (.iinc 3 1, 3) := dk_132 3 1 (dk_at dksX4_firstArc_2 20 rfl rfl)
theorem dX4_firstArc_70 : decode cX4_firstArc 70 = .ok (.goto (-66), 3) := dk_167 255 190 (dk_at dksX4_firstArc_3 0 rfl rfl)
theorem dX4_firstArc_73 : decode cX4_firstArc 73 = .ok (.iload_n 2, 1) := dk_28 (dk_at dksX4_firstArc_3 3 rfl rfl)
theorem dX4_firstArc_74 : decode cX4_firstArc 74 = .ok (.ireturn, 1) := dk_172 (dk_at dksX4_firstArc_3 4 rfl rfl)
abbrev cX4_step : ByteArray := prog_10_method_61_code
def yX4_step : MethodName := ⟨RX4, "step", "(IIII)I"⟩
def dkwX4_step_5 : List UInt8 := [21, 5, 172]
abbrev dktX4_step_5 : List UInt8 := dkwX4_step_5 ++ []
def dkwX4_step_4 : List UInt8 := [162, 0, 24, 21, 5, 2, 159, 0, 18, 42, 21, 5, 28, 182, 1, 60, 54, 5, 132, 6, 1, 167, 255, 231]
abbrev dktX4_step_4 : List UInt8 := dkwX4_step_4 ++ dktX4_step_5
def dkwX4_step_3 : List UInt8 := [182, 1, 57, 4, 162, 0, 5, 2, 172, 42, 27, 182, 1, 48, 54, 5, 3, 54, 6, 21, 6, 21, 4]
abbrev dktX4_step_3 : List UInt8 := dkwX4_step_3 ++ dktX4_step_4
def dkwX4_step_2 : List UInt8 := [3, 5, 182, 0, 227, 153, 0, 5, 3, 172, 42, 29, 182, 1, 54, 21, 4, 155, 0, 13, 42, 27, 28]
abbrev dktX4_step_2 : List UInt8 := dkwX4_step_2 ++ dktX4_step_3
def dkwX4_step_1 : List UInt8 := [167, 0, 4, 3, 4, 182, 0, 227, 154, 0, 24, 42, 42, 29, 182, 1, 25, 154, 0, 7, 4, 167, 0, 4]
abbrev dktX4_step_1 : List UInt8 := dkwX4_step_1 ++ dktX4_step_2
def dkwX4_step_0 : List UInt8 := [42, 3, 181, 0, 131, 42, 42, 27, 182, 1, 51, 153, 0, 11, 42, 28, 182, 1, 51, 154, 0, 7, 4]
abbrev dktX4_step_0 : List UInt8 := dkwX4_step_0 ++ dktX4_step_1
theorem dksX4_step_0 : cX4_step.data.toList.drop 0 = dktX4_step_0 := by decide +kernel
theorem dksX4_step_1 : cX4_step.data.toList.drop 23 = dktX4_step_1 := dk_seg dksX4_step_0 23 rfl rfl
theorem dksX4_step_2 : cX4_step.data.toList.drop 47 = dktX4_step_2 := dk_seg dksX4_step_1 24 rfl rfl
theorem dksX4_step_3 : cX4_step.data.toList.drop 70 = dktX4_step_3 := dk_seg dksX4_step_2 23 rfl rfl
theorem dksX4_step_4 : cX4_step.data.toList.drop 93 = dktX4_step_4 := dk_seg dksX4_step_3 23 rfl rfl
theorem dksX4_step_5 : cX4_step.data.toList.drop 117 = dktX4_step_5 := dk_seg dksX4_step_4 24 rfl rfl
theorem dX4_step_0 : decode cX4_step 0 = .ok (.aload_n 0, 1) := dk_42 (dk_at dksX4_step_0 0 rfl rfl)
theorem dX4_step_1 : decode cX4_step 1 = .ok (.iconst 0, 1) := dk_3 (dk_at dksX4_step_0 1 rfl rfl)
theorem dX4_step_2 : decode cX4_step 2 = .ok (.putfield 131, 3) := dk_181 0 131 (dk_at dksX4_step_0 2 rfl rfl)
theorem dX4_step_5 : decode cX4_step 5 = .ok (.aload_n 0, 1) := dk_42 (dk_at dksX4_step_0 5 rfl rfl)
theorem dX4_step_6 : decode cX4_step 6 = .ok (.aload_n 0, 1) := dk_42 (dk_at dksX4_step_0 6 rfl rfl)
theorem dX4_step_7 : decode cX4_step 7 = .ok (.iload_n 1, 1) := dk_27 (dk_at dksX4_step_0 7 rfl rfl)
theorem dX4_step_8 : decode cX4_step 8 = .ok (.invokevirtual 307, 3) := dk_182 1 51 (dk_at dksX4_step_0 8 rfl rfl)
theorem dX4_step_11 : decode cX4_step 11 = .ok (.ifCond .eq 11, 3) := dk_153 0 11 (dk_at dksX4_step_0 11 rfl rfl)
theorem dX4_step_14 : decode cX4_step 14 = .ok (.aload_n 0, 1) := dk_42 (dk_at dksX4_step_0 14 rfl rfl)
theorem dX4_step_15 : decode cX4_step 15 = .ok (.iload_n 2, 1) := dk_28 (dk_at dksX4_step_0 15 rfl rfl)
theorem dX4_step_16 : decode cX4_step 16 = .ok (.invokevirtual 307, 3) := dk_182 1 51 (dk_at dksX4_step_0 16 rfl rfl)
theorem dX4_step_19 : decode cX4_step 19 = .ok (.ifCond .ne 7, 3) := dk_154 0 7 (dk_at dksX4_step_0 19 rfl rfl)
theorem dX4_step_22 : decode cX4_step 22 = .ok (.iconst 1, 1) := dk_4 (dk_at dksX4_step_0 22 rfl rfl)
theorem dX4_step_23 : decode cX4_step 23 = .ok (.goto 4, 3) := dk_167 0 4 (dk_at dksX4_step_1 0 rfl rfl)
theorem dX4_step_26 : decode cX4_step 26 = .ok (.iconst 0, 1) := dk_3 (dk_at dksX4_step_1 3 rfl rfl)
theorem dX4_step_27 : decode cX4_step 27 = .ok (.iconst 1, 1) := dk_4 (dk_at dksX4_step_1 4 rfl rfl)
theorem dX4_step_28 : decode cX4_step 28 = .ok (.invokevirtual 227, 3) := dk_182 0 227 (dk_at dksX4_step_1 5 rfl rfl)
theorem dX4_step_31 : decode cX4_step 31 = .ok (.ifCond .ne 24, 3) := dk_154 0 24 (dk_at dksX4_step_1 8 rfl rfl)
theorem dX4_step_34 : decode cX4_step 34 = .ok (.aload_n 0, 1) := dk_42 (dk_at dksX4_step_1 11 rfl rfl)
theorem dX4_step_35 : decode cX4_step 35 = .ok (.aload_n 0, 1) := dk_42 (dk_at dksX4_step_1 12 rfl rfl)
theorem dX4_step_36 : decode cX4_step 36 = .ok (.iload_n 3, 1) := dk_29 (dk_at dksX4_step_1 13 rfl rfl)
theorem dX4_step_37 : decode cX4_step 37 = .ok (.invokevirtual 281, 3) := dk_182 1 25 (dk_at dksX4_step_1 14 rfl rfl)
theorem dX4_step_40 : decode cX4_step 40 = .ok (.ifCond .ne 7, 3) := dk_154 0 7 (dk_at dksX4_step_1 17 rfl rfl)
theorem dX4_step_43 : decode cX4_step 43 = .ok (.iconst 1, 1) := dk_4 (dk_at dksX4_step_1 20 rfl rfl)
theorem dX4_step_44 : decode cX4_step 44 = .ok (.goto 4, 3) := dk_167 0 4 (dk_at dksX4_step_1 21 rfl rfl)
theorem dX4_step_47 : decode cX4_step 47 = .ok (.iconst 0, 1) := dk_3 (dk_at dksX4_step_2 0 rfl rfl)
theorem dX4_step_48 : decode cX4_step 48 = .ok (.iconst 2, 1) := dk_5 (dk_at dksX4_step_2 1 rfl rfl)
theorem dX4_step_49 : decode cX4_step 49 = .ok (.invokevirtual 227, 3) := dk_182 0 227 (dk_at dksX4_step_2 2 rfl rfl)
theorem dX4_step_52 : decode cX4_step 52 = .ok (.ifCond .eq 5, 3) := dk_153 0 5 (dk_at dksX4_step_2 5 rfl rfl)
theorem dX4_step_55 : decode cX4_step 55 = .ok (.iconst 0, 1) := dk_3 (dk_at dksX4_step_2 8 rfl rfl)
theorem dX4_step_56 : decode cX4_step 56 = .ok (.ireturn, 1) := dk_172 (dk_at dksX4_step_2 9 rfl rfl)
theorem dX4_step_57 : decode cX4_step 57 = .ok (.aload_n 0, 1) := dk_42 (dk_at dksX4_step_2 10 rfl rfl)
theorem dX4_step_58 : decode cX4_step 58 = .ok (.iload_n 3, 1) := dk_29 (dk_at dksX4_step_2 11 rfl rfl)
theorem dX4_step_59 : decode cX4_step 59 = .ok (.invokevirtual 310, 3) := dk_182 1 54 (dk_at dksX4_step_2 12 rfl rfl)
theorem dX4_step_62 : decode cX4_step 62 = .ok (.iload 4, 2) := dk_21 4 (dk_at dksX4_step_2 15 rfl rfl)
theorem dX4_step_64 : decode cX4_step 64 = .ok (.ifCond .lt 13, 3) := dk_155 0 13 (dk_at dksX4_step_2 17 rfl rfl)
theorem dX4_step_67 : decode cX4_step 67 = .ok (.aload_n 0, 1) := dk_42 (dk_at dksX4_step_2 20 rfl rfl)
theorem dX4_step_68 : decode cX4_step 68 = .ok (.iload_n 1, 1) := dk_27 (dk_at dksX4_step_2 21 rfl rfl)
theorem dX4_step_69 : decode cX4_step 69 = .ok (.iload_n 2, 1) := dk_28 (dk_at dksX4_step_2 22 rfl rfl)
theorem dX4_step_70 : decode cX4_step 70 = .ok (.invokevirtual 313, 3) := dk_182 1 57 (dk_at dksX4_step_3 0 rfl rfl)
theorem dX4_step_73 : decode cX4_step 73 = .ok (.iconst 1, 1) := dk_4 (dk_at dksX4_step_3 3 rfl rfl)
theorem dX4_step_74 : decode cX4_step 74 = .ok (.if_icmp .ge 5, 3) := dk_162 0 5 (dk_at dksX4_step_3 4 rfl rfl)
theorem dX4_step_77 : decode cX4_step 77 = .ok (.iconst (-1), 1) := dk_2 (dk_at dksX4_step_3 7 rfl rfl)
theorem dX4_step_78 : decode cX4_step 78 = .ok (.ireturn, 1) := dk_172 (dk_at dksX4_step_3 8 rfl rfl)
theorem dX4_step_79 : decode cX4_step 79 = .ok (.aload_n 0, 1) := dk_42 (dk_at dksX4_step_3 9 rfl rfl)
theorem dX4_step_80 : decode cX4_step 80 = .ok (.iload_n 1, 1) := dk_27 (dk_at dksX4_step_3 10 rfl rfl)
theorem dX4_step_81 : decode cX4_step 81 = .ok (.invokevirtual 304, 3) := dk_182 1 48 (dk_at dksX4_step_3 11 rfl rfl)
theorem dX4_step_84 : decode cX4_step 84 = .ok (.istore 5, 2) := dk_54 5 (dk_at dksX4_step_3 14 rfl rfl)
theorem dX4_step_86 : decode cX4_step 86 = .ok (.iconst 0, 1) := dk_3 (dk_at dksX4_step_3 16 rfl rfl)
theorem dX4_step_87 : decode cX4_step 87 = .ok (.istore 6, 2) := dk_54 6 (dk_at dksX4_step_3 17 rfl rfl)
theorem dX4_step_89 : decode cX4_step 89 = .ok (.iload 6, 2) := dk_21 6 (dk_at dksX4_step_3 19 rfl rfl)
theorem dX4_step_91 : decode cX4_step 91 = .ok (.iload 4, 2) := dk_21 4 (dk_at dksX4_step_3 21 rfl rfl)
theorem dX4_step_93 : decode cX4_step 93 = .ok (.if_icmp .ge 24, 3) := dk_162 0 24 (dk_at dksX4_step_4 0 rfl rfl)
theorem dX4_step_96 : decode cX4_step 96 = .ok (.iload 5, 2) := dk_21 5 (dk_at dksX4_step_4 3 rfl rfl)
theorem dX4_step_98 : decode cX4_step 98 = .ok (.iconst (-1), 1) := dk_2 (dk_at dksX4_step_4 5 rfl rfl)
theorem dX4_step_99 : decode cX4_step 99 = .ok (.if_icmp .eq 18, 3) := dk_159 0 18 (dk_at dksX4_step_4 6 rfl rfl)
theorem dX4_step_102 : decode cX4_step 102 = .ok (.aload_n 0, 1) := dk_42 (dk_at dksX4_step_4 9 rfl rfl)
theorem dX4_step_103 : decode cX4_step 103 = .ok (.iload 5, 2) := dk_21 5 (dk_at dksX4_step_4 10 rfl rfl)
theorem dX4_step_105 : decode cX4_step 105 = .ok (.iload_n 2, 1) := dk_28 (dk_at dksX4_step_4 12 rfl rfl)
theorem dX4_step_106 : decode cX4_step 106 = .ok (.invokevirtual 316, 3) := dk_182 1 60 (dk_at dksX4_step_4 13 rfl rfl)
theorem dX4_step_109 : decode cX4_step 109 = .ok (.istore 5, 2) := dk_54 5 (dk_at dksX4_step_4 16 rfl rfl)
theorem dX4_step_111 : decode cX4_step 111 = .ok (.iinc 6 1, 3) := dk_132 6 1 (dk_at dksX4_step_4 18 rfl rfl)
theorem dX4_step_114 : decode cX4_step 114 = .ok (.goto (-25), 3) := dk_167 255 231 (dk_at dksX4_step_4 21 rfl rfl)
theorem dX4_step_117 : decode cX4_step 117 = .ok (.iload 5, 2) := dk_21 5 (dk_at dksX4_step_5 0 rfl rfl)
theorem dX4_step_119 : decode cX4_step 119 = .ok (.ireturn, 1) := dk_172 (dk_at dksX4_step_5 2 rfl rfl)
abbrev cX4_nextArc : ByteArray := prog_10_method_58_code
def yX4_nextArc : MethodName := ⟨RX4, "nextArc", "(II)I"⟩
def dkwX4_nextArc_2 : List UInt8 := [167, 255, 223, 29, 172]
abbrev dktX4_nextArc_2 : List UInt8 := dkwX4_nextArc_2 ++ []
def dkwX4_nextArc_1 : List UInt8 := [180, 0, 68, 29, 46, 42, 27, 182, 1, 39, 96, 42, 180, 0, 68, 27, 46, 159, 0, 9, 132, 3, 1]
abbrev dktX4_nextArc_1 : List UInt8 := dkwX4_nextArc_1 ++ dktX4_nextArc_2
def dkwX4_nextArc_0 : List UInt8 := [42, 27, 182, 0, 250, 28, 160, 0, 5, 2, 172, 3, 62, 42, 27, 29, 182, 1, 42, 153, 0, 24, 42]
abbrev dktX4_nextArc_0 : List UInt8 := dkwX4_nextArc_0 ++ dktX4_nextArc_1
theorem dksX4_nextArc_0 : cX4_nextArc.data.toList.drop 0 = dktX4_nextArc_0 := by decide +kernel
theorem dksX4_nextArc_1 : cX4_nextArc.data.toList.drop 23 = dktX4_nextArc_1 := dk_seg dksX4_nextArc_0 23 rfl rfl
theorem dksX4_nextArc_2 : cX4_nextArc.data.toList.drop 46 = dktX4_nextArc_2 := dk_seg dksX4_nextArc_1 23 rfl rfl
theorem dX4_nextArc_0 : decode cX4_nextArc 0 = .ok (.aload_n 0, 1) := dk_42 (dk_at dksX4_nextArc_0 0 rfl rfl)
theorem dX4_nextArc_1 : decode cX4_nextArc 1 = .ok (.iload_n 1, 1) := dk_27 (dk_at dksX4_nextArc_0 1 rfl rfl)
theorem dX4_nextArc_2 : decode cX4_nextArc 2 = .ok (.invokevirtual 250, 3) := dk_182 0 250 (dk_at dksX4_nextArc_0 2 rfl rfl)
theorem dX4_nextArc_5 : decode cX4_nextArc 5 = .ok (.iload_n 2, 1) := dk_28 (dk_at dksX4_nextArc_0 5 rfl rfl)
theorem dX4_nextArc_6 : decode cX4_nextArc 6 = .ok (.if_icmp .ne 5, 3) := dk_160 0 5 (dk_at dksX4_nextArc_0 6 rfl rfl)
theorem dX4_nextArc_9 : decode cX4_nextArc 9 = .ok (.iconst (-1), 1) := dk_2 (dk_at dksX4_nextArc_0 9 rfl rfl)
theorem dX4_nextArc_10 : decode cX4_nextArc 10 = .ok (.ireturn, 1) := dk_172 (dk_at dksX4_nextArc_0 10 rfl rfl)
theorem dX4_nextArc_11 : decode cX4_nextArc 11 = .ok (.iconst 0, 1) := dk_3 (dk_at dksX4_nextArc_0 11 rfl rfl)
theorem dX4_nextArc_12 : decode cX4_nextArc 12 = .ok (.istore_n 3, 1) := dk_62 (dk_at dksX4_nextArc_0 12 rfl rfl)
theorem dX4_nextArc_13 : decode cX4_nextArc 13 = .ok (.aload_n 0, 1) := dk_42 (dk_at dksX4_nextArc_0 13 rfl rfl)
theorem dX4_nextArc_14 : decode cX4_nextArc 14 = .ok (.iload_n 1, 1) := dk_27 (dk_at dksX4_nextArc_0 14 rfl rfl)
theorem dX4_nextArc_15 : decode cX4_nextArc 15 = .ok (.iload_n 3, 1) := dk_29 (dk_at dksX4_nextArc_0 15 rfl rfl)
theorem dX4_nextArc_16 : decode cX4_nextArc 16 = .ok (.invokevirtual 298, 3) := dk_182 1 42 (dk_at dksX4_nextArc_0 16 rfl rfl)
theorem dX4_nextArc_19 : decode cX4_nextArc 19 = .ok (.ifCond .eq 24, 3) := dk_153 0 24 (dk_at dksX4_nextArc_0 19 rfl rfl)
theorem dX4_nextArc_22 : decode cX4_nextArc 22 = .ok (.aload_n 0, 1) := dk_42 (dk_at dksX4_nextArc_0 22 rfl rfl)
theorem dX4_nextArc_23 : decode cX4_nextArc 23 = .ok (.getfield 68, 3) := dk_180 0 68 (dk_at dksX4_nextArc_1 0 rfl rfl)
theorem dX4_nextArc_26 : decode cX4_nextArc 26 = .ok (.iload_n 3, 1) := dk_29 (dk_at dksX4_nextArc_1 3 rfl rfl)
theorem dX4_nextArc_27 : decode cX4_nextArc 27 = .ok (.iaload, 1) := dk_46 (dk_at dksX4_nextArc_1 4 rfl rfl)
theorem dX4_nextArc_28 : decode cX4_nextArc 28 = .ok (.aload_n 0, 1) := dk_42 (dk_at dksX4_nextArc_1 5 rfl rfl)
theorem dX4_nextArc_29 : decode cX4_nextArc 29 = .ok (.iload_n 1, 1) := dk_27 (dk_at dksX4_nextArc_1 6 rfl rfl)
theorem dX4_nextArc_30 : decode cX4_nextArc 30 = .ok (.invokevirtual 295, 3) := dk_182 1 39 (dk_at dksX4_nextArc_1 7 rfl rfl)
theorem dX4_nextArc_33 : decode cX4_nextArc 33 = .ok (.iadd, 1) := dk_96 (dk_at dksX4_nextArc_1 10 rfl rfl)
theorem dX4_nextArc_34 : decode cX4_nextArc 34 = .ok (.aload_n 0, 1) := dk_42 (dk_at dksX4_nextArc_1 11 rfl rfl)
theorem dX4_nextArc_35 : decode cX4_nextArc 35 = .ok (.getfield 68, 3) := dk_180 0 68 (dk_at dksX4_nextArc_1 12 rfl rfl)
theorem dX4_nextArc_38 : decode cX4_nextArc 38 = .ok (.iload_n 1, 1) := dk_27 (dk_at dksX4_nextArc_1 15 rfl rfl)
theorem dX4_nextArc_39 : decode cX4_nextArc 39 = .ok (.iaload, 1) := dk_46 (dk_at dksX4_nextArc_1 16 rfl rfl)
theorem dX4_nextArc_40 : decode cX4_nextArc 40 = .ok (.if_icmp .eq 9, 3) := dk_159 0 9 (dk_at dksX4_nextArc_1 17 rfl rfl)
theorem dX4_nextArc_43 : decode cX4_nextArc 43 = .ok (.iinc 3 1, 3) := dk_132 3 1 (dk_at dksX4_nextArc_1 20 rfl rfl)
theorem dX4_nextArc_46 : decode cX4_nextArc 46 = .ok (.goto (-33), 3) := dk_167 255 223 (dk_at dksX4_nextArc_2 0 rfl rfl)
theorem dX4_nextArc_49 : decode cX4_nextArc 49 = .ok (.iload_n 3, 1) := dk_29 (dk_at dksX4_nextArc_2 3 rfl rfl)
theorem dX4_nextArc_50 : decode cX4_nextArc 50 = .ok (.ireturn, 1) := dk_172 (dk_at dksX4_nextArc_2 4 rfl rfl)
abbrev cX4_reach : ByteArray := prog_10_method_65_code
def yX4_reach : MethodName := ⟨RX4, "reach", "(III)I"⟩
def dkwX4_reach_4 : List UInt8 := [42, 27, 182, 1, 63, 42, 27, 182, 1, 69, 2, 130, 126, 184, 0, 187, 172]
abbrev dktX4_reach_4 : List UInt8 := dkwX4_reach_4 ++ []
def dkwX4_reach_3 : List UInt8 := [154, 0, 11, 42, 27, 182, 1, 63, 167, 0, 32, 29, 4, 160, 0, 11, 42, 27, 182, 1, 69, 167, 0, 19]
abbrev dktX4_reach_3 : List UInt8 := dkwX4_reach_3 ++ dktX4_reach_4
def dkwX4_reach_2 : List UInt8 := [167, 0, 4, 3, 5, 182, 0, 227, 153, 0, 5, 3, 172, 42, 28, 182, 1, 54, 42, 182, 1, 66, 29]
abbrev dktX4_reach_2 : List UInt8 := dkwX4_reach_2 ++ dktX4_reach_3
def dkwX4_reach_1 : List UInt8 := [154, 0, 33, 42, 42, 28, 182, 1, 25, 153, 0, 12, 29, 3, 5, 184, 0, 165, 154, 0, 7, 4]
abbrev dktX4_reach_1 : List UInt8 := dkwX4_reach_1 ++ dktX4_reach_2
def dkwX4_reach_0 : List UInt8 := [42, 3, 181, 0, 131, 42, 42, 27, 182, 1, 51, 154, 0, 7, 4, 167, 0, 4, 3, 4, 182, 0, 227]
abbrev dktX4_reach_0 : List UInt8 := dkwX4_reach_0 ++ dktX4_reach_1
theorem dksX4_reach_0 : cX4_reach.data.toList.drop 0 = dktX4_reach_0 := by decide +kernel
theorem dksX4_reach_1 : cX4_reach.data.toList.drop 23 = dktX4_reach_1 := dk_seg dksX4_reach_0 23 rfl rfl
theorem dksX4_reach_2 : cX4_reach.data.toList.drop 45 = dktX4_reach_2 := dk_seg dksX4_reach_1 22 rfl rfl
theorem dksX4_reach_3 : cX4_reach.data.toList.drop 68 = dktX4_reach_3 := dk_seg dksX4_reach_2 23 rfl rfl
theorem dksX4_reach_4 : cX4_reach.data.toList.drop 92 = dktX4_reach_4 := dk_seg dksX4_reach_3 24 rfl rfl
theorem dX4_reach_0 : decode cX4_reach 0 = .ok (.aload_n 0, 1) := dk_42 (dk_at dksX4_reach_0 0 rfl rfl)
theorem dX4_reach_1 : decode cX4_reach 1 = .ok (.iconst 0, 1) := dk_3 (dk_at dksX4_reach_0 1 rfl rfl)
theorem dX4_reach_2 : decode cX4_reach 2 = .ok (.putfield 131, 3) := dk_181 0 131 (dk_at dksX4_reach_0 2 rfl rfl)
theorem dX4_reach_5 : decode cX4_reach 5 = .ok (.aload_n 0, 1) := dk_42 (dk_at dksX4_reach_0 5 rfl rfl)
theorem dX4_reach_6 : decode cX4_reach 6 = .ok (.aload_n 0, 1) := dk_42 (dk_at dksX4_reach_0 6 rfl rfl)
theorem dX4_reach_7 : decode cX4_reach 7 = .ok (.iload_n 1, 1) := dk_27 (dk_at dksX4_reach_0 7 rfl rfl)
theorem dX4_reach_8 : decode cX4_reach 8 = .ok (.invokevirtual 307, 3) := dk_182 1 51 (dk_at dksX4_reach_0 8 rfl rfl)
theorem dX4_reach_11 : decode cX4_reach 11 = .ok (.ifCond .ne 7, 3) := dk_154 0 7 (dk_at dksX4_reach_0 11 rfl rfl)
theorem dX4_reach_14 : decode cX4_reach 14 = .ok (.iconst 1, 1) := dk_4 (dk_at dksX4_reach_0 14 rfl rfl)
theorem dX4_reach_15 : decode cX4_reach 15 = .ok (.goto 4, 3) := dk_167 0 4 (dk_at dksX4_reach_0 15 rfl rfl)
theorem dX4_reach_18 : decode cX4_reach 18 = .ok (.iconst 0, 1) := dk_3 (dk_at dksX4_reach_0 18 rfl rfl)
theorem dX4_reach_19 : decode cX4_reach 19 = .ok (.iconst 1, 1) := dk_4 (dk_at dksX4_reach_0 19 rfl rfl)
theorem dX4_reach_20 : decode cX4_reach 20 = .ok (.invokevirtual 227, 3) := dk_182 0 227 (dk_at dksX4_reach_0 20 rfl rfl)
theorem dX4_reach_23 : decode cX4_reach 23 = .ok (.ifCond .ne 33, 3) := dk_154 0 33 (dk_at dksX4_reach_1 0 rfl rfl)
theorem dX4_reach_26 : decode cX4_reach 26 = .ok (.aload_n 0, 1) := dk_42 (dk_at dksX4_reach_1 3 rfl rfl)
theorem dX4_reach_27 : decode cX4_reach 27 = .ok (.aload_n 0, 1) := dk_42 (dk_at dksX4_reach_1 4 rfl rfl)
theorem dX4_reach_28 : decode cX4_reach 28 = .ok (.iload_n 2, 1) := dk_28 (dk_at dksX4_reach_1 5 rfl rfl)
theorem dX4_reach_29 : decode cX4_reach 29 = .ok (.invokevirtual 281, 3) := dk_182 1 25 (dk_at dksX4_reach_1 6 rfl rfl)
theorem dX4_reach_32 : decode cX4_reach 32 = .ok (.ifCond .eq 12, 3) := dk_153 0 12 (dk_at dksX4_reach_1 9 rfl rfl)
theorem dX4_reach_35 : decode cX4_reach 35 = .ok (.iload_n 3, 1) := dk_29 (dk_at dksX4_reach_1 12 rfl rfl)
theorem dX4_reach_36 : decode cX4_reach 36 = .ok (.iconst 0, 1) := dk_3 (dk_at dksX4_reach_1 13 rfl rfl)
theorem dX4_reach_37 : decode cX4_reach 37 = .ok (.iconst 2, 1) := dk_5 (dk_at dksX4_reach_1 14 rfl rfl)
theorem dX4_reach_38 : decode cX4_reach 38 = .ok (.invokestatic 165, 3) := dk_184 0 165 (dk_at dksX4_reach_1 15 rfl rfl)
theorem dX4_reach_41 : decode cX4_reach 41 = .ok (.ifCond .ne 7, 3) := dk_154 0 7 (dk_at dksX4_reach_1 18 rfl rfl)
theorem dX4_reach_44 : decode cX4_reach 44 = .ok (.iconst 1, 1) := dk_4 (dk_at dksX4_reach_1 21 rfl rfl)
theorem dX4_reach_45 : decode cX4_reach 45 = .ok (.goto 4, 3) := dk_167 0 4 (dk_at dksX4_reach_2 0 rfl rfl)
theorem dX4_reach_48 : decode cX4_reach 48 = .ok (.iconst 0, 1) := dk_3 (dk_at dksX4_reach_2 3 rfl rfl)
theorem dX4_reach_49 : decode cX4_reach 49 = .ok (.iconst 2, 1) := dk_5 (dk_at dksX4_reach_2 4 rfl rfl)
theorem dX4_reach_50 : decode cX4_reach 50 = .ok (.invokevirtual 227, 3) := dk_182 0 227 (dk_at dksX4_reach_2 5 rfl rfl)
theorem dX4_reach_53 : decode cX4_reach 53 = .ok (.ifCond .eq 5, 3) := dk_153 0 5 (dk_at dksX4_reach_2 8 rfl rfl)
theorem dX4_reach_56 : decode cX4_reach 56 = .ok (.iconst 0, 1) := dk_3 (dk_at dksX4_reach_2 11 rfl rfl)
theorem dX4_reach_57 : decode cX4_reach 57 = .ok (.ireturn, 1) := dk_172 (dk_at dksX4_reach_2 12 rfl rfl)
theorem dX4_reach_58 : decode cX4_reach 58 = .ok (.aload_n 0, 1) := dk_42 (dk_at dksX4_reach_2 13 rfl rfl)
theorem dX4_reach_59 : decode cX4_reach 59 = .ok (.iload_n 2, 1) := dk_28 (dk_at dksX4_reach_2 14 rfl rfl)
theorem dX4_reach_60 : decode cX4_reach 60 = .ok (.invokevirtual 310, 3) := dk_182 1 54 (dk_at dksX4_reach_2 15 rfl rfl)
theorem dX4_reach_63 : decode cX4_reach 63 = .ok (.aload_n 0, 1) := dk_42 (dk_at dksX4_reach_2 18 rfl rfl)
theorem dX4_reach_64 : decode cX4_reach 64 = .ok (.invokevirtual 322, 3) := dk_182 1 66 (dk_at dksX4_reach_2 19 rfl rfl)
theorem dX4_reach_67 : decode cX4_reach 67 = .ok (.iload_n 3, 1) := dk_29 (dk_at dksX4_reach_2 22 rfl rfl)
theorem dX4_reach_68 : decode cX4_reach 68 = .ok (.ifCond .ne 11, 3) := dk_154 0 11 (dk_at dksX4_reach_3 0 rfl rfl)
theorem dX4_reach_71 : decode cX4_reach 71 = .ok (.aload_n 0, 1) := dk_42 (dk_at dksX4_reach_3 3 rfl rfl)
theorem dX4_reach_72 : decode cX4_reach 72 = .ok (.iload_n 1, 1) := dk_27 (dk_at dksX4_reach_3 4 rfl rfl)
theorem dX4_reach_73 : decode cX4_reach 73 = .ok (.invokevirtual 319, 3) := dk_182 1 63 (dk_at dksX4_reach_3 5 rfl rfl)
theorem dX4_reach_76 : decode cX4_reach 76 = .ok (.goto 32, 3) := dk_167 0 32 (dk_at dksX4_reach_3 8 rfl rfl)
theorem dX4_reach_79 : decode cX4_reach 79 = .ok (.iload_n 3, 1) := dk_29 (dk_at dksX4_reach_3 11 rfl rfl)
theorem dX4_reach_80 : decode cX4_reach 80 = .ok (.iconst 1, 1) := dk_4 (dk_at dksX4_reach_3 12 rfl rfl)
theorem dX4_reach_81 : decode cX4_reach 81 = .ok (.if_icmp .ne 11, 3) := dk_160 0 11 (dk_at dksX4_reach_3 13 rfl rfl)
theorem dX4_reach_84 : decode cX4_reach 84 = .ok (.aload_n 0, 1) := dk_42 (dk_at dksX4_reach_3 16 rfl rfl)
theorem dX4_reach_85 : decode cX4_reach 85 = .ok (.iload_n 1, 1) := dk_27 (dk_at dksX4_reach_3 17 rfl rfl)
theorem dX4_reach_86 : decode cX4_reach 86 = .ok (.invokevirtual 325, 3) := dk_182 1 69 (dk_at dksX4_reach_3 18 rfl rfl)
theorem dX4_reach_89 : decode cX4_reach 89 = .ok (.goto 19, 3) := dk_167 0 19 (dk_at dksX4_reach_3 21 rfl rfl)
theorem dX4_reach_92 : decode cX4_reach 92 = .ok (.aload_n 0, 1) := dk_42 (dk_at dksX4_reach_4 0 rfl rfl)
theorem dX4_reach_93 : decode cX4_reach 93 = .ok (.iload_n 1, 1) := dk_27 (dk_at dksX4_reach_4 1 rfl rfl)
theorem dX4_reach_94 : decode cX4_reach 94 = .ok (.invokevirtual 319, 3) := dk_182 1 63 (dk_at dksX4_reach_4 2 rfl rfl)
theorem dX4_reach_97 : decode cX4_reach 97 = .ok (.aload_n 0, 1) := dk_42 (dk_at dksX4_reach_4 5 rfl rfl)
theorem dX4_reach_98 : decode cX4_reach 98 = .ok (.iload_n 1, 1) := dk_27 (dk_at dksX4_reach_4 6 rfl rfl)
theorem dX4_reach_99 : decode cX4_reach 99 = .ok (.invokevirtual 325, 3) := dk_182 1 69 (dk_at dksX4_reach_4 7 rfl rfl)
theorem dX4_reach_102 : decode cX4_reach 102 = .ok (.iconst (-1), 1) := dk_2 (dk_at dksX4_reach_4 10 rfl rfl)
theorem dX4_reach_103 : decode cX4_reach 103 = .ok (.ixor, 1) := dk_130 (dk_at dksX4_reach_4 11 rfl rfl)
theorem dX4_reach_104 : decode cX4_reach 104 = .ok (.iand, 1) := dk_126 (dk_at dksX4_reach_4 12 rfl rfl)
theorem dX4_reach_105 : decode cX4_reach 105 = .ok (.invokestatic 187, 3) := dk_184 0 187 (dk_at dksX4_reach_4 13 rfl rfl)
theorem dX4_reach_108 : decode cX4_reach 108 = .ok (.ireturn, 1) := dk_172 (dk_at dksX4_reach_4 16 rfl rfl)
abbrev cX4_layReaches : ByteArray := prog_10_method_62_code
def yX4_layReaches : MethodName := ⟨RX4, "layReaches", "()V"⟩
def dkwX4_layReaches_4 : List UInt8 := [92, 47, 42, 180, 0, 65, 27, 47, 129, 80, 132, 2, 1, 167, 255, 211, 132, 1, 1, 167, 255, 191, 177]
abbrev dktX4_layReaches_4 : List UInt8 := dkwX4_layReaches_4 ++ []
def dkwX4_layReaches_3 : List UInt8 := [104, 162, 0, 39, 42, 180, 0, 65, 28, 47, 27, 125, 10, 127, 10, 148, 154, 0, 18, 42, 180, 0, 65, 28]
abbrev dktX4_layReaches_3 : List UInt8 := dkwX4_layReaches_3 ++ dktX4_layReaches_4
def dkwX4_layReaches_2 : List UInt8 := [3, 60, 27, 5, 42, 180, 0, 20, 4, 46, 104, 162, 0, 59, 3, 61, 28, 5, 42, 180, 0, 20, 4, 46]
abbrev dktX4_layReaches_2 : List UInt8 := dkwX4_layReaches_2 ++ dktX4_layReaches_3
def dkwX4_layReaches_1 : List UInt8 := [153, 0, 16, 42, 180, 0, 61, 27, 47, 10, 27, 121, 129, 167, 0, 4, 9, 80, 132, 1, 1, 167, 255, 213]
abbrev dktX4_layReaches_1 : List UInt8 := dkwX4_layReaches_1 ++ dktX4_layReaches_2
def dkwX4_layReaches_0 : List UInt8 := [3, 60, 27, 5, 42, 180, 0, 20, 4, 46, 104, 162, 0, 37, 42, 180, 0, 65, 27, 42, 27, 182, 1, 6]
abbrev dktX4_layReaches_0 : List UInt8 := dkwX4_layReaches_0 ++ dktX4_layReaches_1
theorem dksX4_layReaches_0 : cX4_layReaches.data.toList.drop 0 = dktX4_layReaches_0 := by decide +kernel
theorem dksX4_layReaches_1 : cX4_layReaches.data.toList.drop 24 = dktX4_layReaches_1 := dk_seg dksX4_layReaches_0 24 rfl rfl
theorem dksX4_layReaches_2 : cX4_layReaches.data.toList.drop 48 = dktX4_layReaches_2 := dk_seg dksX4_layReaches_1 24 rfl rfl
theorem dksX4_layReaches_3 : cX4_layReaches.data.toList.drop 72 = dktX4_layReaches_3 := dk_seg dksX4_layReaches_2 24 rfl rfl
theorem dksX4_layReaches_4 : cX4_layReaches.data.toList.drop 96 = dktX4_layReaches_4 := dk_seg dksX4_layReaches_3 24 rfl rfl
theorem dX4_layReaches_0 : decode cX4_layReaches 0 = .ok (.iconst 0, 1) := dk_3 (dk_at dksX4_layReaches_0 0 rfl rfl)
theorem dX4_layReaches_1 : decode cX4_layReaches 1 = .ok (.istore_n 1, 1) := dk_60 (dk_at dksX4_layReaches_0 1 rfl rfl)
theorem dX4_layReaches_2 : decode cX4_layReaches 2 = .ok (.iload_n 1, 1) := dk_27 (dk_at dksX4_layReaches_0 2 rfl rfl)
theorem dX4_layReaches_3 : decode cX4_layReaches 3 = .ok (.iconst 2, 1) := dk_5 (dk_at dksX4_layReaches_0 3 rfl rfl)
theorem dX4_layReaches_4 : decode cX4_layReaches 4 = .ok (.aload_n 0, 1) := dk_42 (dk_at dksX4_layReaches_0 4 rfl rfl)
theorem dX4_layReaches_5 : decode cX4_layReaches 5 = .ok (.getfield 20, 3) := dk_180 0 20 (dk_at dksX4_layReaches_0 5 rfl rfl)
theorem dX4_layReaches_8 : decode cX4_layReaches 8 = .ok (.iconst 1, 1) := dk_4 (dk_at dksX4_layReaches_0 8 rfl rfl)
theorem dX4_layReaches_9 : decode cX4_layReaches 9 = .ok (.iaload, 1) := dk_46 (dk_at dksX4_layReaches_0 9 rfl rfl)
theorem dX4_layReaches_10 : decode cX4_layReaches 10 = .ok (.imul, 1) := dk_104 (dk_at dksX4_layReaches_0 10 rfl rfl)
theorem dX4_layReaches_11 : decode cX4_layReaches 11 = .ok (.if_icmp .ge 37, 3) := dk_162 0 37 (dk_at dksX4_layReaches_0 11 rfl rfl)
theorem dX4_layReaches_14 : decode cX4_layReaches 14 = .ok (.aload_n 0, 1) := dk_42 (dk_at dksX4_layReaches_0 14 rfl rfl)
theorem dX4_layReaches_15 : decode cX4_layReaches 15 = .ok (.getfield 65, 3) := dk_180 0 65 (dk_at dksX4_layReaches_0 15 rfl rfl)
theorem dX4_layReaches_18 : decode cX4_layReaches 18 = .ok (.iload_n 1, 1) := dk_27 (dk_at dksX4_layReaches_0 18 rfl rfl)
theorem dX4_layReaches_19 : decode cX4_layReaches 19 = .ok (.aload_n 0, 1) := dk_42 (dk_at dksX4_layReaches_0 19 rfl rfl)
theorem dX4_layReaches_20 : decode cX4_layReaches 20 = .ok (.iload_n 1, 1) := dk_27 (dk_at dksX4_layReaches_0 20 rfl rfl)
theorem dX4_layReaches_21 : decode cX4_layReaches 21 = .ok (.invokevirtual 262, 3) := dk_182 1 6 (dk_at dksX4_layReaches_0 21 rfl rfl)
theorem dX4_layReaches_24 : decode cX4_layReaches 24 = .ok (.ifCond .eq 16, 3) := dk_153 0 16 (dk_at dksX4_layReaches_1 0 rfl rfl)
theorem dX4_layReaches_27 : decode cX4_layReaches 27 = .ok (.aload_n 0, 1) := dk_42 (dk_at dksX4_layReaches_1 3 rfl rfl)
theorem dX4_layReaches_28 : decode cX4_layReaches 28 = .ok (.getfield 61, 3) := dk_180 0 61 (dk_at dksX4_layReaches_1 4 rfl rfl)
theorem dX4_layReaches_31 : decode cX4_layReaches 31 = .ok (.iload_n 1, 1) := dk_27 (dk_at dksX4_layReaches_1 7 rfl rfl)
theorem dX4_layReaches_32 : decode cX4_layReaches 32 = .ok (.laload, 1) := dk_47 (dk_at dksX4_layReaches_1 8 rfl rfl)
theorem dX4_layReaches_33 : decode cX4_layReaches 33 = .ok (.lconst 1, 1) := dk_10 (dk_at dksX4_layReaches_1 9 rfl rfl)
theorem dX4_layReaches_34 : decode cX4_layReaches 34 = .ok (.iload_n 1, 1) := dk_27 (dk_at dksX4_layReaches_1 10 rfl rfl)
theorem dX4_layReaches_35 : decode cX4_layReaches 35 = .ok (.lshl, 1) := dk_121 (dk_at dksX4_layReaches_1 11 rfl rfl)
theorem dX4_layReaches_36 : decode cX4_layReaches 36 = .ok (.lor, 1) := dk_129 (dk_at dksX4_layReaches_1 12 rfl rfl)
theorem dX4_layReaches_37 : decode cX4_layReaches 37 = .ok (.goto 4, 3) := dk_167 0 4 (dk_at dksX4_layReaches_1 13 rfl rfl)
theorem dX4_layReaches_40 : decode cX4_layReaches 40 = .ok (.lconst 0, 1) := dk_9 (dk_at dksX4_layReaches_1 16 rfl rfl)
theorem dX4_layReaches_41 : decode cX4_layReaches 41 = .ok (.lastore, 1) := dk_80 (dk_at dksX4_layReaches_1 17 rfl rfl)
theorem dX4_layReaches_42 : decode cX4_layReaches 42 = .ok (.iinc 1 1, 3) := dk_132 1 1 (dk_at dksX4_layReaches_1 18 rfl rfl)
theorem dX4_layReaches_45 : decode cX4_layReaches 45 = .ok (.goto (-43), 3) := dk_167 255 213 (dk_at dksX4_layReaches_1 21 rfl rfl)
theorem dX4_layReaches_48 : decode cX4_layReaches 48 = .ok (.iconst 0, 1) := dk_3 (dk_at dksX4_layReaches_2 0 rfl rfl)
theorem dX4_layReaches_49 : decode cX4_layReaches 49 = .ok (.istore_n 1, 1) := dk_60 (dk_at dksX4_layReaches_2 1 rfl rfl)
theorem dX4_layReaches_50 : decode cX4_layReaches 50 = .ok (.iload_n 1, 1) := dk_27 (dk_at dksX4_layReaches_2 2 rfl rfl)
theorem dX4_layReaches_51 : decode cX4_layReaches 51 = .ok (.iconst 2, 1) := dk_5 (dk_at dksX4_layReaches_2 3 rfl rfl)
theorem dX4_layReaches_52 : decode cX4_layReaches 52 = .ok (.aload_n 0, 1) := dk_42 (dk_at dksX4_layReaches_2 4 rfl rfl)
theorem dX4_layReaches_53 : decode cX4_layReaches 53 = .ok (.getfield 20, 3) := dk_180 0 20 (dk_at dksX4_layReaches_2 5 rfl rfl)
theorem dX4_layReaches_56 : decode cX4_layReaches 56 = .ok (.iconst 1, 1) := dk_4 (dk_at dksX4_layReaches_2 8 rfl rfl)
theorem dX4_layReaches_57 : decode cX4_layReaches 57 = .ok (.iaload, 1) := dk_46 (dk_at dksX4_layReaches_2 9 rfl rfl)
theorem dX4_layReaches_58 : decode cX4_layReaches 58 = .ok (.imul, 1) := dk_104 (dk_at dksX4_layReaches_2 10 rfl rfl)
theorem dX4_layReaches_59 : decode cX4_layReaches 59 = .ok (.if_icmp .ge 59, 3) := dk_162 0 59 (dk_at dksX4_layReaches_2 11 rfl rfl)
theorem dX4_layReaches_62 : decode cX4_layReaches 62 = .ok (.iconst 0, 1) := dk_3 (dk_at dksX4_layReaches_2 14 rfl rfl)
theorem dX4_layReaches_63 : decode cX4_layReaches 63 = .ok (.istore_n 2, 1) := dk_61 (dk_at dksX4_layReaches_2 15 rfl rfl)
theorem dX4_layReaches_64 : decode cX4_layReaches 64 = .ok (.iload_n 2, 1) := dk_28 (dk_at dksX4_layReaches_2 16 rfl rfl)
theorem dX4_layReaches_65 : decode cX4_layReaches 65 = .ok (.iconst 2, 1) := dk_5 (dk_at dksX4_layReaches_2 17 rfl rfl)
theorem dX4_layReaches_66 : decode cX4_layReaches 66 = .ok (.aload_n 0, 1) := dk_42 (dk_at dksX4_layReaches_2 18 rfl rfl)
theorem dX4_layReaches_67 : decode cX4_layReaches 67 = .ok (.getfield 20, 3) := dk_180 0 20 (dk_at dksX4_layReaches_2 19 rfl rfl)
theorem dX4_layReaches_70 : decode cX4_layReaches 70 = .ok (.iconst 1, 1) := dk_4 (dk_at dksX4_layReaches_2 22 rfl rfl)
theorem dX4_layReaches_71 : decode cX4_layReaches 71 = .ok (.iaload, 1) := dk_46 (dk_at dksX4_layReaches_2 23 rfl rfl)
theorem dX4_layReaches_72 : decode cX4_layReaches 72 = .ok (.imul, 1) := dk_104 (dk_at dksX4_layReaches_3 0 rfl rfl)
theorem dX4_layReaches_73 : decode cX4_layReaches 73 = .ok (.if_icmp .ge 39, 3) := dk_162 0 39 (dk_at dksX4_layReaches_3 1 rfl rfl)
theorem dX4_layReaches_76 : decode cX4_layReaches 76 = .ok (.aload_n 0, 1) := dk_42 (dk_at dksX4_layReaches_3 4 rfl rfl)
theorem dX4_layReaches_77 : decode cX4_layReaches 77 = .ok (.getfield 65, 3) := dk_180 0 65 (dk_at dksX4_layReaches_3 5 rfl rfl)
theorem dX4_layReaches_80 : decode cX4_layReaches 80 = .ok (.iload_n 2, 1) := dk_28 (dk_at dksX4_layReaches_3 8 rfl rfl)
theorem dX4_layReaches_81 : decode cX4_layReaches 81 = .ok (.laload, 1) := dk_47 (dk_at dksX4_layReaches_3 9 rfl rfl)
theorem dX4_layReaches_82 : decode cX4_layReaches 82 = .ok (.iload_n 1, 1) := dk_27 (dk_at dksX4_layReaches_3 10 rfl rfl)
theorem dX4_layReaches_83 : decode cX4_layReaches 83 = .ok (.lushr, 1) := dk_125 (dk_at dksX4_layReaches_3 11 rfl rfl)
theorem dX4_layReaches_84 : decode cX4_layReaches 84 = .ok (.lconst 1, 1) := dk_10 (dk_at dksX4_layReaches_3 12 rfl rfl)
theorem dX4_layReaches_85 : decode cX4_layReaches 85 = .ok (.land, 1) := dk_127 (dk_at dksX4_layReaches_3 13 rfl rfl)
theorem dX4_layReaches_86 : decode cX4_layReaches 86 = .ok (.lconst 1, 1) := dk_10 (dk_at dksX4_layReaches_3 14 rfl rfl)
theorem dX4_layReaches_87 : decode cX4_layReaches 87 = .ok (.lcmp, 1) := dk_148 (dk_at dksX4_layReaches_3 15 rfl rfl)
theorem dX4_layReaches_88 : decode cX4_layReaches 88 = .ok (.ifCond .ne 18, 3) := dk_154 0 18 (dk_at dksX4_layReaches_3 16 rfl rfl)
theorem dX4_layReaches_91 : decode cX4_layReaches 91 = .ok (.aload_n 0, 1) := dk_42 (dk_at dksX4_layReaches_3 19 rfl rfl)
theorem dX4_layReaches_92 : decode cX4_layReaches 92 = .ok (.getfield 65, 3) := dk_180 0 65 (dk_at dksX4_layReaches_3 20 rfl rfl)
theorem dX4_layReaches_95 : decode cX4_layReaches 95 = .ok (.iload_n 2, 1) := dk_28 (dk_at dksX4_layReaches_3 23 rfl rfl)
theorem dX4_layReaches_96 : decode cX4_layReaches 96 = .ok (.dup2, 1) := dk_92 (dk_at dksX4_layReaches_4 0 rfl rfl)
theorem dX4_layReaches_97 : decode cX4_layReaches 97 = .ok (.laload, 1) := dk_47 (dk_at dksX4_layReaches_4 1 rfl rfl)
theorem dX4_layReaches_98 : decode cX4_layReaches 98 = .ok (.aload_n 0, 1) := dk_42 (dk_at dksX4_layReaches_4 2 rfl rfl)
theorem dX4_layReaches_99 : decode cX4_layReaches 99 = .ok (.getfield 65, 3) := dk_180 0 65 (dk_at dksX4_layReaches_4 3 rfl rfl)
theorem dX4_layReaches_102 : decode cX4_layReaches 102 = .ok (.iload_n 1, 1) := dk_27 (dk_at dksX4_layReaches_4 6 rfl rfl)
theorem dX4_layReaches_103 : decode cX4_layReaches 103 = .ok (.laload, 1) := dk_47 (dk_at dksX4_layReaches_4 7 rfl rfl)
theorem dX4_layReaches_104 : decode cX4_layReaches 104 = .ok (.lor, 1) := dk_129 (dk_at dksX4_layReaches_4 8 rfl rfl)
theorem dX4_layReaches_105 : decode cX4_layReaches 105 = .ok (.lastore, 1) := dk_80 (dk_at dksX4_layReaches_4 9 rfl rfl)
theorem dX4_layReaches_106 : decode cX4_layReaches 106 = .ok (.iinc 2 1, 3) := dk_132 2 1 (dk_at dksX4_layReaches_4 10 rfl rfl)
theorem dX4_layReaches_109 : decode cX4_layReaches 109 = .ok (.goto (-45), 3) := dk_167 255 211 (dk_at dksX4_layReaches_4 13 rfl rfl)
theorem dX4_layReaches_112 : decode cX4_layReaches 112 = .ok (.iinc 1 1, 3) := dk_132 1 1 (dk_at dksX4_layReaches_4 16 rfl rfl)
theorem dX4_layReaches_115 : decode cX4_layReaches 115 = .ok (.goto (-65), 3) := dk_167 255 191 (dk_at dksX4_layReaches_4 19 rfl rfl)
theorem dX4_layReaches_118 : decode cX4_layReaches 118 = .ok (.return_, 1) := dk_177 (dk_at dksX4_layReaches_4 22 rfl rfl)
abbrev cX4_reachOf : ByteArray := prog_10_method_63_code
def yX4_reachOf : MethodName := ⟨RX4, "reachOf", "(I)I"⟩
def dkwX4_reachOf_4 : List UInt8 := [167, 255, 172, 28, 172]
abbrev dktX4_reachOf_4 : List UInt8 := dkwX4_reachOf_4 ++ []
def dkwX4_reachOf_3 : List UInt8 := [154, 0, 14, 28, 4, 42, 21, 4, 182, 0, 250, 120, 128, 61, 132, 4, 1, 167, 255, 213, 132, 3, 1]
abbrev dktX4_reachOf_3 : List UInt8 := dkwX4_reachOf_3 ++ dktX4_reachOf_4
def dkwX4_reachOf_2 : List UInt8 := [180, 0, 20, 4, 46, 104, 162, 0, 36, 42, 180, 0, 65, 29, 47, 21, 4, 125, 10, 127, 10, 148]
abbrev dktX4_reachOf_2 : List UInt8 := dkwX4_reachOf_2 ++ dktX4_reachOf_3
def dkwX4_reachOf_1 : List UInt8 := [153, 0, 64, 42, 29, 182, 0, 253, 27, 159, 0, 6, 167, 0, 52, 3, 54, 4, 21, 4, 5, 42]
abbrev dktX4_reachOf_1 : List UInt8 := dkwX4_reachOf_1 ++ dktX4_reachOf_2
def dkwX4_reachOf_0 : List UInt8 := [4, 27, 120, 61, 3, 62, 29, 5, 42, 180, 0, 20, 4, 46, 104, 162, 0, 78, 42, 29, 182, 1, 6]
abbrev dktX4_reachOf_0 : List UInt8 := dkwX4_reachOf_0 ++ dktX4_reachOf_1
theorem dksX4_reachOf_0 : cX4_reachOf.data.toList.drop 0 = dktX4_reachOf_0 := by decide +kernel
theorem dksX4_reachOf_1 : cX4_reachOf.data.toList.drop 23 = dktX4_reachOf_1 := dk_seg dksX4_reachOf_0 23 rfl rfl
theorem dksX4_reachOf_2 : cX4_reachOf.data.toList.drop 45 = dktX4_reachOf_2 := dk_seg dksX4_reachOf_1 22 rfl rfl
theorem dksX4_reachOf_3 : cX4_reachOf.data.toList.drop 67 = dktX4_reachOf_3 := dk_seg dksX4_reachOf_2 22 rfl rfl
theorem dksX4_reachOf_4 : cX4_reachOf.data.toList.drop 90 = dktX4_reachOf_4 := dk_seg dksX4_reachOf_3 23 rfl rfl
theorem dX4_reachOf_0 : decode cX4_reachOf 0 = .ok (.iconst 1, 1) := dk_4 (dk_at dksX4_reachOf_0 0 rfl rfl)
theorem dX4_reachOf_1 : decode cX4_reachOf 1 = .ok (.iload_n 1, 1) := dk_27 (dk_at dksX4_reachOf_0 1 rfl rfl)
theorem dX4_reachOf_2 : decode cX4_reachOf 2 = .ok (.ishl, 1) := dk_120 (dk_at dksX4_reachOf_0 2 rfl rfl)
theorem dX4_reachOf_3 : decode cX4_reachOf 3 = .ok (.istore_n 2, 1) := dk_61 (dk_at dksX4_reachOf_0 3 rfl rfl)
theorem dX4_reachOf_4 : decode cX4_reachOf 4 = .ok (.iconst 0, 1) := dk_3 (dk_at dksX4_reachOf_0 4 rfl rfl)
theorem dX4_reachOf_5 : decode cX4_reachOf 5 = .ok (.istore_n 3, 1) := dk_62 (dk_at dksX4_reachOf_0 5 rfl rfl)
theorem dX4_reachOf_6 : decode cX4_reachOf 6 = .ok (.iload_n 3, 1) := dk_29 (dk_at dksX4_reachOf_0 6 rfl rfl)
theorem dX4_reachOf_7 : decode cX4_reachOf 7 = .ok (.iconst 2, 1) := dk_5 (dk_at dksX4_reachOf_0 7 rfl rfl)
theorem dX4_reachOf_8 : decode cX4_reachOf 8 = .ok (.aload_n 0, 1) := dk_42 (dk_at dksX4_reachOf_0 8 rfl rfl)
theorem dX4_reachOf_9 : decode cX4_reachOf 9 = .ok (.getfield 20, 3) := dk_180 0 20 (dk_at dksX4_reachOf_0 9 rfl rfl)
theorem dX4_reachOf_12 : decode cX4_reachOf 12 = .ok (.iconst 1, 1) := dk_4 (dk_at dksX4_reachOf_0 12 rfl rfl)
theorem dX4_reachOf_13 : decode cX4_reachOf 13 = .ok (.iaload, 1) := dk_46 (dk_at dksX4_reachOf_0 13 rfl rfl)
theorem dX4_reachOf_14 : decode cX4_reachOf 14 = .ok (.imul, 1) := dk_104 (dk_at dksX4_reachOf_0 14 rfl rfl)
theorem dX4_reachOf_15 : decode cX4_reachOf 15 = .ok (.if_icmp .ge 78, 3) := dk_162 0 78 (dk_at dksX4_reachOf_0 15 rfl rfl)
theorem dX4_reachOf_18 : decode cX4_reachOf 18 = .ok (.aload_n 0, 1) := dk_42 (dk_at dksX4_reachOf_0 18 rfl rfl)
theorem dX4_reachOf_19 : decode cX4_reachOf 19 = .ok (.iload_n 3, 1) := dk_29 (dk_at dksX4_reachOf_0 19 rfl rfl)
theorem dX4_reachOf_20 : decode cX4_reachOf 20 = .ok (.invokevirtual 262, 3) := dk_182 1 6 (dk_at dksX4_reachOf_0 20 rfl rfl)
theorem dX4_reachOf_23 : decode cX4_reachOf 23 = .ok (.ifCond .eq 64, 3) := dk_153 0 64 (dk_at dksX4_reachOf_1 0 rfl rfl)
theorem dX4_reachOf_26 : decode cX4_reachOf 26 = .ok (.aload_n 0, 1) := dk_42 (dk_at dksX4_reachOf_1 3 rfl rfl)
theorem dX4_reachOf_27 : decode cX4_reachOf 27 = .ok (.iload_n 3, 1) := dk_29 (dk_at dksX4_reachOf_1 4 rfl rfl)
theorem dX4_reachOf_28 : decode cX4_reachOf 28 = .ok (.invokevirtual 253, 3) := dk_182 0 253 (dk_at dksX4_reachOf_1 5 rfl rfl)
theorem dX4_reachOf_31 : decode cX4_reachOf 31 = .ok (.iload_n 1, 1) := dk_27 (dk_at dksX4_reachOf_1 8 rfl rfl)
theorem dX4_reachOf_32 : decode cX4_reachOf 32 = .ok (.if_icmp .eq 6, 3) := dk_159 0 6 (dk_at dksX4_reachOf_1 9 rfl rfl)
theorem dX4_reachOf_35 : decode cX4_reachOf 35 = .ok (.goto 52, 3) := dk_167 0 52 (dk_at dksX4_reachOf_1 12 rfl rfl)
theorem dX4_reachOf_38 : decode cX4_reachOf 38 = .ok (.iconst 0, 1) := dk_3 (dk_at dksX4_reachOf_1 15 rfl rfl)
theorem dX4_reachOf_39 : decode cX4_reachOf 39 = .ok (.istore 4, 2) := dk_54 4 (dk_at dksX4_reachOf_1 16 rfl rfl)
theorem dX4_reachOf_41 : decode cX4_reachOf 41 = .ok (.iload 4, 2) := dk_21 4 (dk_at dksX4_reachOf_1 18 rfl rfl)
theorem dX4_reachOf_43 : decode cX4_reachOf 43 = .ok (.iconst 2, 1) := dk_5 (dk_at dksX4_reachOf_1 20 rfl rfl)
theorem dX4_reachOf_44 : decode cX4_reachOf 44 = .ok (.aload_n 0, 1) := dk_42 (dk_at dksX4_reachOf_1 21 rfl rfl)
theorem dX4_reachOf_45 : decode cX4_reachOf 45 = .ok (.getfield 20, 3) := dk_180 0 20 (dk_at dksX4_reachOf_2 0 rfl rfl)
theorem dX4_reachOf_48 : decode cX4_reachOf 48 = .ok (.iconst 1, 1) := dk_4 (dk_at dksX4_reachOf_2 3 rfl rfl)
theorem dX4_reachOf_49 : decode cX4_reachOf 49 = .ok (.iaload, 1) := dk_46 (dk_at dksX4_reachOf_2 4 rfl rfl)
theorem dX4_reachOf_50 : decode cX4_reachOf 50 = .ok (.imul, 1) := dk_104 (dk_at dksX4_reachOf_2 5 rfl rfl)
theorem dX4_reachOf_51 : decode cX4_reachOf 51 = .ok (.if_icmp .ge 36, 3) := dk_162 0 36 (dk_at dksX4_reachOf_2 6 rfl rfl)
theorem dX4_reachOf_54 : decode cX4_reachOf 54 = .ok (.aload_n 0, 1) := dk_42 (dk_at dksX4_reachOf_2 9 rfl rfl)
theorem dX4_reachOf_55 : decode cX4_reachOf 55 = .ok (.getfield 65, 3) := dk_180 0 65 (dk_at dksX4_reachOf_2 10 rfl rfl)
theorem dX4_reachOf_58 : decode cX4_reachOf 58 = .ok (.iload_n 3, 1) := dk_29 (dk_at dksX4_reachOf_2 13 rfl rfl)
theorem dX4_reachOf_59 : decode cX4_reachOf 59 = .ok (.laload, 1) := dk_47 (dk_at dksX4_reachOf_2 14 rfl rfl)
theorem dX4_reachOf_60 : decode cX4_reachOf 60 = .ok (.iload 4, 2) := dk_21 4 (dk_at dksX4_reachOf_2 15 rfl rfl)
theorem dX4_reachOf_62 : decode cX4_reachOf 62 = .ok (.lushr, 1) := dk_125 (dk_at dksX4_reachOf_2 17 rfl rfl)
theorem dX4_reachOf_63 : decode cX4_reachOf 63 = .ok (.lconst 1, 1) := dk_10 (dk_at dksX4_reachOf_2 18 rfl rfl)
theorem dX4_reachOf_64 : decode cX4_reachOf 64 = .ok (.land, 1) := dk_127 (dk_at dksX4_reachOf_2 19 rfl rfl)
theorem dX4_reachOf_65 : decode cX4_reachOf 65 = .ok (.lconst 1, 1) := dk_10 (dk_at dksX4_reachOf_2 20 rfl rfl)
theorem dX4_reachOf_66 : decode cX4_reachOf 66 = .ok (.lcmp, 1) := dk_148 (dk_at dksX4_reachOf_2 21 rfl rfl)
theorem dX4_reachOf_67 : decode cX4_reachOf 67 = .ok (.ifCond .ne 14, 3) := dk_154 0 14 (dk_at dksX4_reachOf_3 0 rfl rfl)
theorem dX4_reachOf_70 : decode cX4_reachOf 70 = .ok (.iload_n 2, 1) := dk_28 (dk_at dksX4_reachOf_3 3 rfl rfl)
theorem dX4_reachOf_71 : decode cX4_reachOf 71 = .ok (.iconst 1, 1) := dk_4 (dk_at dksX4_reachOf_3 4 rfl rfl)
theorem dX4_reachOf_72 : decode cX4_reachOf 72 = .ok (.aload_n 0, 1) := dk_42 (dk_at dksX4_reachOf_3 5 rfl rfl)
theorem dX4_reachOf_73 : decode cX4_reachOf 73 = .ok (.iload 4, 2) := dk_21 4 (dk_at dksX4_reachOf_3 6 rfl rfl)
theorem dX4_reachOf_75 : decode cX4_reachOf 75 = .ok (.invokevirtual 250, 3) := dk_182 0 250 (dk_at dksX4_reachOf_3 8 rfl rfl)
theorem dX4_reachOf_78 : decode cX4_reachOf 78 = .ok (.ishl, 1) := dk_120 (dk_at dksX4_reachOf_3 11 rfl rfl)
theorem dX4_reachOf_79 : decode cX4_reachOf 79 = .ok (.ior, 1) := dk_128 (dk_at dksX4_reachOf_3 12 rfl rfl)
theorem dX4_reachOf_80 : decode cX4_reachOf 80 = .ok (.istore_n 2, 1) := dk_61 (dk_at dksX4_reachOf_3 13 rfl rfl)
theorem dX4_reachOf_81 : decode cX4_reachOf 81 = .ok (.iinc 4 1, 3) := dk_132 4 1 (dk_at dksX4_reachOf_3 14 rfl rfl)
theorem dX4_reachOf_84 : decode cX4_reachOf 84 = .ok (.goto (-43), 3) := dk_167 255 213 (dk_at dksX4_reachOf_3 17 rfl rfl)
theorem dX4_reachOf_87 : decode cX4_reachOf 87 = .ok (.iinc 3 1, 3) := dk_132 3 1 (dk_at dksX4_reachOf_3 20 rfl rfl)
theorem dX4_reachOf_90 : decode cX4_reachOf 90 = .ok (.goto (-84), 3) := dk_167 255 172 (dk_at dksX4_reachOf_4 0 rfl rfl)
theorem dX4_reachOf_93 : decode cX4_reachOf 93 = .ok (.iload_n 2, 1) := dk_28 (dk_at dksX4_reachOf_4 3 rfl rfl)
theorem dX4_reachOf_94 : decode cX4_reachOf 94 = .ok (.ireturn, 1) := dk_172 (dk_at dksX4_reachOf_4 4 rfl rfl)
abbrev cX4_homeOf : ByteArray := prog_10_method_64_code
def yX4_homeOf : MethodName := ⟨RX4, "homeOf", "(I)I"⟩
def dkwX4_homeOf_1 : List UInt8 := [4, 160, 0, 9, 4, 29, 120, 167, 0, 4, 3, 128, 61, 132, 3, 1, 167, 255, 220, 28, 172]
abbrev dktX4_homeOf_1 : List UInt8 := dkwX4_homeOf_1 ++ []
def dkwX4_homeOf_0 : List UInt8 := [3, 61, 3, 62, 29, 42, 180, 0, 20, 3, 46, 162, 0, 32, 28, 42, 29, 182, 1, 63, 27, 122, 4, 126]
abbrev dktX4_homeOf_0 : List UInt8 := dkwX4_homeOf_0 ++ dktX4_homeOf_1
theorem dksX4_homeOf_0 : cX4_homeOf.data.toList.drop 0 = dktX4_homeOf_0 := by decide +kernel
theorem dksX4_homeOf_1 : cX4_homeOf.data.toList.drop 24 = dktX4_homeOf_1 := dk_seg dksX4_homeOf_0 24 rfl rfl
theorem dX4_homeOf_0 : decode cX4_homeOf 0 = .ok (.iconst 0, 1) := dk_3 (dk_at dksX4_homeOf_0 0 rfl rfl)
theorem dX4_homeOf_1 : decode cX4_homeOf 1 = .ok (.istore_n 2, 1) := dk_61 (dk_at dksX4_homeOf_0 1 rfl rfl)
theorem dX4_homeOf_2 : decode cX4_homeOf 2 = .ok (.iconst 0, 1) := dk_3 (dk_at dksX4_homeOf_0 2 rfl rfl)
theorem dX4_homeOf_3 : decode cX4_homeOf 3 = .ok (.istore_n 3, 1) := dk_62 (dk_at dksX4_homeOf_0 3 rfl rfl)
theorem dX4_homeOf_4 : decode cX4_homeOf 4 = .ok (.iload_n 3, 1) := dk_29 (dk_at dksX4_homeOf_0 4 rfl rfl)
theorem dX4_homeOf_5 : decode cX4_homeOf 5 = .ok (.aload_n 0, 1) := dk_42 (dk_at dksX4_homeOf_0 5 rfl rfl)
theorem dX4_homeOf_6 : decode cX4_homeOf 6 = .ok (.getfield 20, 3) := dk_180 0 20 (dk_at dksX4_homeOf_0 6 rfl rfl)
theorem dX4_homeOf_9 : decode cX4_homeOf 9 = .ok (.iconst 0, 1) := dk_3 (dk_at dksX4_homeOf_0 9 rfl rfl)
theorem dX4_homeOf_10 : decode cX4_homeOf 10 = .ok (.iaload, 1) := dk_46 (dk_at dksX4_homeOf_0 10 rfl rfl)
theorem dX4_homeOf_11 : decode cX4_homeOf 11 = .ok (.if_icmp .ge 32, 3) := dk_162 0 32 (dk_at dksX4_homeOf_0 11 rfl rfl)
theorem dX4_homeOf_14 : decode cX4_homeOf 14 = .ok (.iload_n 2, 1) := dk_28 (dk_at dksX4_homeOf_0 14 rfl rfl)
theorem dX4_homeOf_15 : decode cX4_homeOf 15 = .ok (.aload_n 0, 1) := dk_42 (dk_at dksX4_homeOf_0 15 rfl rfl)
theorem dX4_homeOf_16 : decode cX4_homeOf 16 = .ok (.iload_n 3, 1) := dk_29 (dk_at dksX4_homeOf_0 16 rfl rfl)
theorem dX4_homeOf_17 : decode cX4_homeOf 17 = .ok (.invokevirtual 319, 3) := dk_182 1 63 (dk_at dksX4_homeOf_0 17 rfl rfl)
theorem dX4_homeOf_20 : decode cX4_homeOf 20 = .ok (.iload_n 1, 1) := dk_27 (dk_at dksX4_homeOf_0 20 rfl rfl)
theorem dX4_homeOf_21 : decode cX4_homeOf 21 = .ok (.ishr, 1) := dk_122 (dk_at dksX4_homeOf_0 21 rfl rfl)
theorem dX4_homeOf_22 : decode cX4_homeOf 22 = .ok (.iconst 1, 1) := dk_4 (dk_at dksX4_homeOf_0 22 rfl rfl)
theorem dX4_homeOf_23 : decode cX4_homeOf 23 = .ok (.iand, 1) := dk_126 (dk_at dksX4_homeOf_0 23 rfl rfl)
theorem dX4_homeOf_24 : decode cX4_homeOf 24 = .ok (.iconst 1, 1) := dk_4 (dk_at dksX4_homeOf_1 0 rfl rfl)
theorem dX4_homeOf_25 : decode cX4_homeOf 25 = .ok (.if_icmp .ne 9, 3) := dk_160 0 9 (dk_at dksX4_homeOf_1 1 rfl rfl)
theorem dX4_homeOf_28 : decode cX4_homeOf 28 = .ok (.iconst 1, 1) := dk_4 (dk_at dksX4_homeOf_1 4 rfl rfl)
theorem dX4_homeOf_29 : decode cX4_homeOf 29 = .ok (.iload_n 3, 1) := dk_29 (dk_at dksX4_homeOf_1 5 rfl rfl)
theorem dX4_homeOf_30 : decode cX4_homeOf 30 = .ok (.ishl, 1) := dk_120 (dk_at dksX4_homeOf_1 6 rfl rfl)
theorem dX4_homeOf_31 : decode cX4_homeOf 31 = .ok (.goto 4, 3) := dk_167 0 4 (dk_at dksX4_homeOf_1 7 rfl rfl)
theorem dX4_homeOf_34 : decode cX4_homeOf 34 = .ok (.iconst 0, 1) := dk_3 (dk_at dksX4_homeOf_1 10 rfl rfl)
theorem dX4_homeOf_35 : decode cX4_homeOf 35 = .ok (.ior, 1) := dk_128 (dk_at dksX4_homeOf_1 11 rfl rfl)
theorem dX4_homeOf_36 : decode cX4_homeOf 36 = .ok (.istore_n 2, 1) := dk_61 (dk_at dksX4_homeOf_1 12 rfl rfl)
theorem dX4_homeOf_37 : decode cX4_homeOf 37 = .ok (.iinc 3 1, 3) := dk_132 3 1 (dk_at dksX4_homeOf_1 13 rfl rfl)
theorem dX4_homeOf_40 : decode cX4_homeOf 40 = .ok (.goto (-36), 3) := dk_167 255 220 (dk_at dksX4_homeOf_1 16 rfl rfl)
theorem dX4_homeOf_43 : decode cX4_homeOf 43 = .ok (.iload_n 2, 1) := dk_28 (dk_at dksX4_homeOf_1 19 rfl rfl)
theorem dX4_homeOf_44 : decode cX4_homeOf 44 = .ok (.ireturn, 1) := dk_172 (dk_at dksX4_homeOf_1 20 rfl rfl)
abbrev cX4_parts : ByteArray := prog_10_method_67_code
def yX4_parts : MethodName := ⟨RX4, "parts", "(II)I"⟩
def dkwX4_parts_7 : List UInt8 := [167, 0, 5, 21, 4, 54, 4, 132, 5, 1, 167, 255, 137, 28, 154, 0, 7, 29, 167, 0, 5, 21, 4, 172]
abbrev dktX4_parts_7 : List UInt8 := dkwX4_parts_7 ++ []
def dkwX4_parts_6 : List UInt8 := [21, 6, 21, 5, 160, 0, 7, 4, 167, 0, 4, 3, 96, 62, 21, 7, 21, 4, 164, 0, 8, 21, 7]
abbrev dktX4_parts_6 : List UInt8 := dkwX4_parts_6 ++ dktX4_parts_7
def dkwX4_parts_5 : List UInt8 := [182, 1, 72, 154, 0, 6, 167, 0, 10, 21, 8, 54, 6, 132, 7, 1, 132, 8, 255, 167, 255, 218, 29]
abbrev dktX4_parts_5 : List UInt8 := dkwX4_parts_5 ++ dktX4_parts_6
def dkwX4_parts_4 : List UInt8 := [4, 100, 54, 8, 21, 8, 155, 0, 39, 42, 21, 8, 182, 1, 6, 153, 0, 24, 42, 21, 5, 21, 8]
abbrev dktX4_parts_4 : List UInt8 := dkwX4_parts_4 ++ dktX4_parts_5
def dkwX4_parts_3 : List UInt8 := [182, 1, 6, 154, 0, 6, 167, 0, 94, 21, 5, 54, 6, 3, 54, 7, 5, 42, 180, 0, 20, 4, 46, 104]
abbrev dktX4_parts_3 : List UInt8 := dkwX4_parts_3 ++ dktX4_parts_4
def dkwX4_parts_2 : List UInt8 := [3, 54, 4, 3, 54, 5, 21, 5, 5, 42, 180, 0, 20, 4, 46, 104, 162, 0, 112, 42, 21, 5]
abbrev dktX4_parts_2 : List UInt8 := dkwX4_parts_2 ++ dktX4_parts_3
def dkwX4_parts_1 : List UInt8 := [167, 0, 4, 3, 4, 182, 0, 227, 153, 0, 5, 3, 172, 42, 27, 182, 1, 54, 42, 182, 1, 66, 3, 62]
abbrev dktX4_parts_1 : List UInt8 := dkwX4_parts_1 ++ dktX4_parts_2
def dkwX4_parts_0 : List UInt8 := [42, 3, 181, 0, 131, 42, 42, 27, 182, 1, 25, 153, 0, 12, 28, 3, 4, 184, 0, 165, 154, 0, 7, 4]
abbrev dktX4_parts_0 : List UInt8 := dkwX4_parts_0 ++ dktX4_parts_1
theorem dksX4_parts_0 : cX4_parts.data.toList.drop 0 = dktX4_parts_0 := by decide +kernel
theorem dksX4_parts_1 : cX4_parts.data.toList.drop 24 = dktX4_parts_1 := dk_seg dksX4_parts_0 24 rfl rfl
theorem dksX4_parts_2 : cX4_parts.data.toList.drop 48 = dktX4_parts_2 := dk_seg dksX4_parts_1 24 rfl rfl
theorem dksX4_parts_3 : cX4_parts.data.toList.drop 70 = dktX4_parts_3 := dk_seg dksX4_parts_2 22 rfl rfl
theorem dksX4_parts_4 : cX4_parts.data.toList.drop 94 = dktX4_parts_4 := dk_seg dksX4_parts_3 24 rfl rfl
theorem dksX4_parts_5 : cX4_parts.data.toList.drop 117 = dktX4_parts_5 := dk_seg dksX4_parts_4 23 rfl rfl
theorem dksX4_parts_6 : cX4_parts.data.toList.drop 140 = dktX4_parts_6 := dk_seg dksX4_parts_5 23 rfl rfl
theorem dksX4_parts_7 : cX4_parts.data.toList.drop 163 = dktX4_parts_7 := dk_seg dksX4_parts_6 23 rfl rfl
theorem dX4_parts_0 : decode cX4_parts 0 = .ok (.aload_n 0, 1) := dk_42 (dk_at dksX4_parts_0 0 rfl rfl)
theorem dX4_parts_1 : decode cX4_parts 1 = .ok (.iconst 0, 1) := dk_3 (dk_at dksX4_parts_0 1 rfl rfl)
theorem dX4_parts_2 : decode cX4_parts 2 = .ok (.putfield 131, 3) := dk_181 0 131 (dk_at dksX4_parts_0 2 rfl rfl)
theorem dX4_parts_5 : decode cX4_parts 5 = .ok (.aload_n 0, 1) := dk_42 (dk_at dksX4_parts_0 5 rfl rfl)
theorem dX4_parts_6 : decode cX4_parts 6 = .ok (.aload_n 0, 1) := dk_42 (dk_at dksX4_parts_0 6 rfl rfl)
theorem dX4_parts_7 : decode cX4_parts 7 = .ok (.iload_n 1, 1) := dk_27 (dk_at dksX4_parts_0 7 rfl rfl)
theorem dX4_parts_8 : decode cX4_parts 8 = .ok (.invokevirtual 281, 3) := dk_182 1 25 (dk_at dksX4_parts_0 8 rfl rfl)
theorem dX4_parts_11 : decode cX4_parts 11 = .ok (.ifCond .eq 12, 3) := dk_153 0 12 (dk_at dksX4_parts_0 11 rfl rfl)
theorem dX4_parts_14 : decode cX4_parts 14 = .ok (.iload_n 2, 1) := dk_28 (dk_at dksX4_parts_0 14 rfl rfl)
theorem dX4_parts_15 : decode cX4_parts 15 = .ok (.iconst 0, 1) := dk_3 (dk_at dksX4_parts_0 15 rfl rfl)
theorem dX4_parts_16 : decode cX4_parts 16 = .ok (.iconst 1, 1) := dk_4 (dk_at dksX4_parts_0 16 rfl rfl)
theorem dX4_parts_17 : decode cX4_parts 17 = .ok (.invokestatic 165, 3) := dk_184 0 165 (dk_at dksX4_parts_0 17 rfl rfl)
theorem dX4_parts_20 : decode cX4_parts 20 = .ok (.ifCond .ne 7, 3) := dk_154 0 7 (dk_at dksX4_parts_0 20 rfl rfl)
theorem dX4_parts_23 : decode cX4_parts 23 = .ok (.iconst 1, 1) := dk_4 (dk_at dksX4_parts_0 23 rfl rfl)
theorem dX4_parts_24 : decode cX4_parts 24 = .ok (.goto 4, 3) := dk_167 0 4 (dk_at dksX4_parts_1 0 rfl rfl)
theorem dX4_parts_27 : decode cX4_parts 27 = .ok (.iconst 0, 1) := dk_3 (dk_at dksX4_parts_1 3 rfl rfl)
theorem dX4_parts_28 : decode cX4_parts 28 = .ok (.iconst 1, 1) := dk_4 (dk_at dksX4_parts_1 4 rfl rfl)
theorem dX4_parts_29 : decode cX4_parts 29 = .ok (.invokevirtual 227, 3) := dk_182 0 227 (dk_at dksX4_parts_1 5 rfl rfl)
theorem dX4_parts_32 : decode cX4_parts 32 = .ok (.ifCond .eq 5, 3) := dk_153 0 5 (dk_at dksX4_parts_1 8 rfl rfl)
theorem dX4_parts_35 : decode cX4_parts 35 = .ok (.iconst 0, 1) := dk_3 (dk_at dksX4_parts_1 11 rfl rfl)
theorem dX4_parts_36 : decode cX4_parts 36 = .ok (.ireturn, 1) := dk_172 (dk_at dksX4_parts_1 12 rfl rfl)
theorem dX4_parts_37 : decode cX4_parts 37 = .ok (.aload_n 0, 1) := dk_42 (dk_at dksX4_parts_1 13 rfl rfl)
theorem dX4_parts_38 : decode cX4_parts 38 = .ok (.iload_n 1, 1) := dk_27 (dk_at dksX4_parts_1 14 rfl rfl)
theorem dX4_parts_39 : decode cX4_parts 39 = .ok (.invokevirtual 310, 3) := dk_182 1 54 (dk_at dksX4_parts_1 15 rfl rfl)
theorem dX4_parts_42 : decode cX4_parts 42 = .ok (.aload_n 0, 1) := dk_42 (dk_at dksX4_parts_1 18 rfl rfl)
theorem dX4_parts_43 : decode cX4_parts 43 = .ok (.invokevirtual 322, 3) := dk_182 1 66 (dk_at dksX4_parts_1 19 rfl rfl)
theorem dX4_parts_46 : decode cX4_parts 46 = .ok (.iconst 0, 1) := dk_3 (dk_at dksX4_parts_1 22 rfl rfl)
theorem dX4_parts_47 : decode cX4_parts 47 = .ok (.istore_n 3, 1) := dk_62 (dk_at dksX4_parts_1 23 rfl rfl)
theorem dX4_parts_48 : decode cX4_parts 48 = .ok (.iconst 0, 1) := dk_3 (dk_at dksX4_parts_2 0 rfl rfl)
theorem dX4_parts_49 : decode cX4_parts 49 = .ok (.istore 4, 2) := dk_54 4 (dk_at dksX4_parts_2 1 rfl rfl)
theorem dX4_parts_51 : decode cX4_parts 51 = .ok (.iconst 0, 1) := dk_3 (dk_at dksX4_parts_2 3 rfl rfl)
theorem dX4_parts_52 : decode cX4_parts 52 = .ok (.istore 5, 2) := dk_54 5 (dk_at dksX4_parts_2 4 rfl rfl)
theorem dX4_parts_54 : decode cX4_parts 54 = .ok (.iload 5, 2) := dk_21 5 (dk_at dksX4_parts_2 6 rfl rfl)
theorem dX4_parts_56 : decode cX4_parts 56 = .ok (.iconst 2, 1) := dk_5 (dk_at dksX4_parts_2 8 rfl rfl)
theorem dX4_parts_57 : decode cX4_parts 57 = .ok (.aload_n 0, 1) := dk_42 (dk_at dksX4_parts_2 9 rfl rfl)
theorem dX4_parts_58 : decode cX4_parts 58 = .ok (.getfield 20, 3) := dk_180 0 20 (dk_at dksX4_parts_2 10 rfl rfl)
theorem dX4_parts_61 : decode cX4_parts 61 = .ok (.iconst 1, 1) := dk_4 (dk_at dksX4_parts_2 13 rfl rfl)
theorem dX4_parts_62 : decode cX4_parts 62 = .ok (.iaload, 1) := dk_46 (dk_at dksX4_parts_2 14 rfl rfl)
theorem dX4_parts_63 : decode cX4_parts 63 = .ok (.imul, 1) := dk_104 (dk_at dksX4_parts_2 15 rfl rfl)
theorem dX4_parts_64 : decode cX4_parts 64 = .ok (.if_icmp .ge 112, 3) := dk_162 0 112 (dk_at dksX4_parts_2 16 rfl rfl)
theorem dX4_parts_67 : decode cX4_parts 67 = .ok (.aload_n 0, 1) := dk_42 (dk_at dksX4_parts_2 19 rfl rfl)
theorem dX4_parts_68 : decode cX4_parts 68 = .ok (.iload 5, 2) := dk_21 5 (dk_at dksX4_parts_2 20 rfl rfl)
theorem dX4_parts_70 : decode cX4_parts 70 = .ok (.invokevirtual 262, 3) := dk_182 1 6 (dk_at dksX4_parts_3 0 rfl rfl)
theorem dX4_parts_73 : decode cX4_parts 73 = .ok (.ifCond .ne 6, 3) := dk_154 0 6 (dk_at dksX4_parts_3 3 rfl rfl)
theorem dX4_parts_76 : decode cX4_parts 76 = .ok (.goto 94, 3) := dk_167 0 94 (dk_at dksX4_parts_3 6 rfl rfl)
theorem dX4_parts_79 : decode cX4_parts 79 = .ok (.iload 5, 2) := dk_21 5 (dk_at dksX4_parts_3 9 rfl rfl)
theorem dX4_parts_81 : decode cX4_parts 81 = .ok (.istore 6, 2) := dk_54 6 (dk_at dksX4_parts_3 11 rfl rfl)
theorem dX4_parts_83 : decode cX4_parts 83 = .ok (.iconst 0, 1) := dk_3 (dk_at dksX4_parts_3 13 rfl rfl)
theorem dX4_parts_84 : decode cX4_parts 84 = .ok (.istore 7, 2) := dk_54 7 (dk_at dksX4_parts_3 14 rfl rfl)
theorem dX4_parts_86 : decode cX4_parts 86 = .ok (.iconst 2, 1) := dk_5 (dk_at dksX4_parts_3 16 rfl rfl)
theorem dX4_parts_87 : decode cX4_parts 87 = .ok (.aload_n 0, 1) := dk_42 (dk_at dksX4_parts_3 17 rfl rfl)
theorem dX4_parts_88 : decode cX4_parts 88 = .ok (.getfield 20, 3) := dk_180 0 20 (dk_at dksX4_parts_3 18 rfl rfl)
theorem dX4_parts_91 : decode cX4_parts 91 = .ok (.iconst 1, 1) := dk_4 (dk_at dksX4_parts_3 21 rfl rfl)
theorem dX4_parts_92 : decode cX4_parts 92 = .ok (.iaload, 1) := dk_46 (dk_at dksX4_parts_3 22 rfl rfl)
theorem dX4_parts_93 : decode cX4_parts 93 = .ok (.imul, 1) := dk_104 (dk_at dksX4_parts_3 23 rfl rfl)
theorem dX4_parts_94 : decode cX4_parts 94 = .ok (.iconst 1, 1) := dk_4 (dk_at dksX4_parts_4 0 rfl rfl)
theorem dX4_parts_95 : decode cX4_parts 95 = .ok (.isub, 1) := dk_100 (dk_at dksX4_parts_4 1 rfl rfl)
theorem dX4_parts_96 : decode cX4_parts 96 = .ok (.istore 8, 2) := dk_54 8 (dk_at dksX4_parts_4 2 rfl rfl)
theorem dX4_parts_98 : decode cX4_parts 98 = .ok (.iload 8, 2) := dk_21 8 (dk_at dksX4_parts_4 4 rfl rfl)
theorem dX4_parts_100 : decode cX4_parts 100 = .ok (.ifCond .lt 39, 3) := dk_155 0 39 (dk_at dksX4_parts_4 6 rfl rfl)
theorem dX4_parts_103 : decode cX4_parts 103 = .ok (.aload_n 0, 1) := dk_42 (dk_at dksX4_parts_4 9 rfl rfl)
theorem dX4_parts_104 : decode cX4_parts 104 = .ok (.iload 8, 2) := dk_21 8 (dk_at dksX4_parts_4 10 rfl rfl)
theorem dX4_parts_106 : decode cX4_parts 106 = .ok (.invokevirtual 262, 3) := dk_182 1 6 (dk_at dksX4_parts_4 12 rfl rfl)
theorem dX4_parts_109 : decode cX4_parts 109 = .ok (.ifCond .eq 24, 3) := dk_153 0 24 (dk_at dksX4_parts_4 15 rfl rfl)
theorem dX4_parts_112 : decode cX4_parts 112 = .ok (.aload_n 0, 1) := dk_42 (dk_at dksX4_parts_4 18 rfl rfl)
theorem dX4_parts_113 : decode cX4_parts 113 = .ok (.iload 5, 2) := dk_21 5 (dk_at dksX4_parts_4 19 rfl rfl)
theorem dX4_parts_115 : decode cX4_parts 115 = .ok (.iload 8, 2) := dk_21 8 (dk_at dksX4_parts_4 21 rfl rfl)
theorem dX4_parts_117 : decode cX4_parts 117 = .ok (.invokevirtual 328, 3) := dk_182 1 72 (dk_at dksX4_parts_5 0 rfl rfl)
theorem dX4_parts_120 : decode cX4_parts 120 = .ok (.ifCond .ne 6, 3) := dk_154 0 6 (dk_at dksX4_parts_5 3 rfl rfl)
theorem dX4_parts_123 : decode cX4_parts 123 = .ok (.goto 10, 3) := dk_167 0 10 (dk_at dksX4_parts_5 6 rfl rfl)
theorem dX4_parts_126 : decode cX4_parts 126 = .ok (.iload 8, 2) := dk_21 8 (dk_at dksX4_parts_5 9 rfl rfl)
theorem dX4_parts_128 : decode cX4_parts 128 = .ok (.istore 6, 2) := dk_54 6 (dk_at dksX4_parts_5 11 rfl rfl)
theorem dX4_parts_130 : decode cX4_parts 130 = .ok (.iinc 7 1, 3) := dk_132 7 1 (dk_at dksX4_parts_5 13 rfl rfl)
theorem dX4_parts_133 : decode cX4_parts 133 = .ok (.iinc 8 (-1), 3) := dk_132 8 255 (dk_at dksX4_parts_5 16 rfl rfl)
theorem dX4_parts_136 : decode cX4_parts 136 = .ok (.goto (-38), 3) := dk_167 255 218 (dk_at dksX4_parts_5 19 rfl rfl)
theorem dX4_parts_139 : decode cX4_parts 139 = .ok (.iload_n 3, 1) := dk_29 (dk_at dksX4_parts_5 22 rfl rfl)
theorem dX4_parts_140 : decode cX4_parts 140 = .ok (.iload 6, 2) := dk_21 6 (dk_at dksX4_parts_6 0 rfl rfl)
theorem dX4_parts_142 : decode cX4_parts 142 = .ok (.iload 5, 2) := dk_21 5 (dk_at dksX4_parts_6 2 rfl rfl)
theorem dX4_parts_144 : decode cX4_parts 144 = .ok (.if_icmp .ne 7, 3) := dk_160 0 7 (dk_at dksX4_parts_6 4 rfl rfl)
theorem dX4_parts_147 : decode cX4_parts 147 = .ok (.iconst 1, 1) := dk_4 (dk_at dksX4_parts_6 7 rfl rfl)
theorem dX4_parts_148 : decode cX4_parts 148 = .ok (.goto 4, 3) := dk_167 0 4 (dk_at dksX4_parts_6 8 rfl rfl)
theorem dX4_parts_151 : decode cX4_parts 151 = .ok (.iconst 0, 1) := dk_3 (dk_at dksX4_parts_6 11 rfl rfl)
theorem dX4_parts_152 : decode cX4_parts 152 = .ok (.iadd, 1) := dk_96 (dk_at dksX4_parts_6 12 rfl rfl)
theorem dX4_parts_153 : decode cX4_parts 153 = .ok (.istore_n 3, 1) := dk_62 (dk_at dksX4_parts_6 13 rfl rfl)
theorem dX4_parts_154 : decode cX4_parts 154 = .ok (.iload 7, 2) := dk_21 7 (dk_at dksX4_parts_6 14 rfl rfl)
theorem dX4_parts_156 : decode cX4_parts 156 = .ok (.iload 4, 2) := dk_21 4 (dk_at dksX4_parts_6 16 rfl rfl)
theorem dX4_parts_158 : decode cX4_parts 158 = .ok (.if_icmp .le 8, 3) := dk_164 0 8 (dk_at dksX4_parts_6 18 rfl rfl)
theorem dX4_parts_161 : decode cX4_parts 161 = .ok (.iload 7, 2) := dk_21 7 (dk_at dksX4_parts_6 21 rfl rfl)
theorem dX4_parts_163 : decode cX4_parts 163 = .ok (.goto 5, 3) := dk_167 0 5 (dk_at dksX4_parts_7 0 rfl rfl)
theorem dX4_parts_166 : decode cX4_parts 166 = .ok (.iload 4, 2) := dk_21 4 (dk_at dksX4_parts_7 3 rfl rfl)
theorem dX4_parts_168 : decode cX4_parts 168 = .ok (.istore 4, 2) := dk_54 4 (dk_at dksX4_parts_7 5 rfl rfl)
theorem dX4_parts_170 : decode cX4_parts 170 = .ok (.iinc 5 1, 3) := dk_132 5 1 (dk_at dksX4_parts_7 7 rfl rfl)
theorem dX4_parts_173 : decode cX4_parts 173 = .ok (.goto (-119), 3) := dk_167 255 137 (dk_at dksX4_parts_7 10 rfl rfl)
theorem dX4_parts_176 : decode cX4_parts 176 = .ok (.iload_n 2, 1) := dk_28 (dk_at dksX4_parts_7 13 rfl rfl)
theorem dX4_parts_177 : decode cX4_parts 177 = .ok (.ifCond .ne 7, 3) := dk_154 0 7 (dk_at dksX4_parts_7 14 rfl rfl)
theorem dX4_parts_180 : decode cX4_parts 180 = .ok (.iload_n 3, 1) := dk_29 (dk_at dksX4_parts_7 17 rfl rfl)
theorem dX4_parts_181 : decode cX4_parts 181 = .ok (.goto 5, 3) := dk_167 0 5 (dk_at dksX4_parts_7 18 rfl rfl)
theorem dX4_parts_184 : decode cX4_parts 184 = .ok (.iload 4, 2) := dk_21 4 (dk_at dksX4_parts_7 21 rfl rfl)
theorem dX4_parts_186 : decode cX4_parts 186 = .ok (.ireturn, 1) := dk_172 (dk_at dksX4_parts_7 23 rfl rfl)
abbrev cX4_areOne : ByteArray := prog_10_method_66_code
def yX4_areOne : MethodName := ⟨RX4, "areOne", "(II)Z"⟩
def dkwX4_areOne_1 : List UInt8 := [127, 10, 148, 154, 0, 7, 4, 167, 0, 4, 3, 172]
abbrev dktX4_areOne_1 : List UInt8 := dkwX4_areOne_1 ++ []
def dkwX4_areOne_0 : List UInt8 := [42, 180, 0, 65, 27, 47, 28, 125, 10, 127, 10, 148, 154, 0, 22, 42, 180, 0, 65, 28, 47, 27, 125, 10]
abbrev dktX4_areOne_0 : List UInt8 := dkwX4_areOne_0 ++ dktX4_areOne_1
theorem dksX4_areOne_0 : cX4_areOne.data.toList.drop 0 = dktX4_areOne_0 := by decide +kernel
theorem dksX4_areOne_1 : cX4_areOne.data.toList.drop 24 = dktX4_areOne_1 := dk_seg dksX4_areOne_0 24 rfl rfl
theorem dX4_areOne_0 : decode cX4_areOne 0 = .ok (.aload_n 0, 1) := dk_42 (dk_at dksX4_areOne_0 0 rfl rfl)
theorem dX4_areOne_1 : decode cX4_areOne 1 = .ok (.getfield 65, 3) := dk_180 0 65 (dk_at dksX4_areOne_0 1 rfl rfl)
theorem dX4_areOne_4 : decode cX4_areOne 4 = .ok (.iload_n 1, 1) := dk_27 (dk_at dksX4_areOne_0 4 rfl rfl)
theorem dX4_areOne_5 : decode cX4_areOne 5 = .ok (.laload, 1) := dk_47 (dk_at dksX4_areOne_0 5 rfl rfl)
theorem dX4_areOne_6 : decode cX4_areOne 6 = .ok (.iload_n 2, 1) := dk_28 (dk_at dksX4_areOne_0 6 rfl rfl)
theorem dX4_areOne_7 : decode cX4_areOne 7 = .ok (.lushr, 1) := dk_125 (dk_at dksX4_areOne_0 7 rfl rfl)
theorem dX4_areOne_8 : decode cX4_areOne 8 = .ok (.lconst 1, 1) := dk_10 (dk_at dksX4_areOne_0 8 rfl rfl)
theorem dX4_areOne_9 : decode cX4_areOne 9 = .ok (.land, 1) := dk_127 (dk_at dksX4_areOne_0 9 rfl rfl)
theorem dX4_areOne_10 : decode cX4_areOne 10 = .ok (.lconst 1, 1) := dk_10 (dk_at dksX4_areOne_0 10 rfl rfl)
theorem dX4_areOne_11 : decode cX4_areOne 11 = .ok (.lcmp, 1) := dk_148 (dk_at dksX4_areOne_0 11 rfl rfl)
theorem dX4_areOne_12 : decode cX4_areOne 12 = .ok (.ifCond .ne 22, 3) := dk_154 0 22 (dk_at dksX4_areOne_0 12 rfl rfl)
theorem dX4_areOne_15 : decode cX4_areOne 15 = .ok (.aload_n 0, 1) := dk_42 (dk_at dksX4_areOne_0 15 rfl rfl)
theorem dX4_areOne_16 : decode cX4_areOne 16 = .ok (.getfield 65, 3) := dk_180 0 65 (dk_at dksX4_areOne_0 16 rfl rfl)
theorem dX4_areOne_19 : decode cX4_areOne 19 = .ok (.iload_n 2, 1) := dk_28 (dk_at dksX4_areOne_0 19 rfl rfl)
theorem dX4_areOne_20 : decode cX4_areOne 20 = .ok (.laload, 1) := dk_47 (dk_at dksX4_areOne_0 20 rfl rfl)
theorem dX4_areOne_21 : decode cX4_areOne 21 = .ok (.iload_n 1, 1) := dk_27 (dk_at dksX4_areOne_0 21 rfl rfl)
theorem dX4_areOne_22 : decode cX4_areOne 22 = .ok (.lushr, 1) := dk_125 (dk_at dksX4_areOne_0 22 rfl rfl)
theorem dX4_areOne_23 : decode cX4_areOne 23 = .ok (.lconst 1, 1) := dk_10 (dk_at dksX4_areOne_0 23 rfl rfl)
theorem dX4_areOne_24 : decode cX4_areOne 24 = .ok (.land, 1) := dk_127 (dk_at dksX4_areOne_1 0 rfl rfl)
theorem dX4_areOne_25 : decode cX4_areOne 25 = .ok (.lconst 1, 1) := dk_10 (dk_at dksX4_areOne_1 1 rfl rfl)
theorem dX4_areOne_26 : decode cX4_areOne 26 = .ok (.lcmp, 1) := dk_148 (dk_at dksX4_areOne_1 2 rfl rfl)
theorem dX4_areOne_27 : decode cX4_areOne 27 = .ok (.ifCond .ne 7, 3) := dk_154 0 7 (dk_at dksX4_areOne_1 3 rfl rfl)
theorem dX4_areOne_30 : decode cX4_areOne 30 = .ok (.iconst 1, 1) := dk_4 (dk_at dksX4_areOne_1 6 rfl rfl)
theorem dX4_areOne_31 : decode cX4_areOne 31 = .ok (.goto 4, 3) := dk_167 0 4 (dk_at dksX4_areOne_1 7 rfl rfl)
theorem dX4_areOne_34 : decode cX4_areOne 34 = .ok (.iconst 0, 1) := dk_3 (dk_at dksX4_areOne_1 10 rfl rfl)
theorem dX4_areOne_35 : decode cX4_areOne 35 = .ok (.ireturn, 1) := dk_172 (dk_at dksX4_areOne_1 11 rfl rfl)
abbrev cX4_together : ByteArray := prog_10_method_68_code
def yX4_together : MethodName := ⟨RX4, "together", "(III)Z"⟩
def dkwX4_together_3 : List UInt8 := [182, 1, 72, 172]
abbrev dktX4_together_3 : List UInt8 := dkwX4_together_3 ++ []
def dkwX4_together_2 : List UInt8 := [3, 5, 182, 0, 227, 153, 0, 5, 3, 172, 42, 29, 182, 1, 54, 42, 182, 1, 66, 42, 27, 28]
abbrev dktX4_together_2 : List UInt8 := dkwX4_together_2 ++ dktX4_together_3
def dkwX4_together_1 : List UInt8 := [167, 0, 4, 3, 4, 182, 0, 227, 154, 0, 24, 42, 42, 29, 182, 1, 25, 154, 0, 7, 4, 167, 0, 4]
abbrev dktX4_together_1 : List UInt8 := dkwX4_together_1 ++ dktX4_together_2
def dkwX4_together_0 : List UInt8 := [42, 3, 181, 0, 131, 42, 42, 27, 182, 1, 6, 153, 0, 11, 42, 28, 182, 1, 6, 154, 0, 7, 4]
abbrev dktX4_together_0 : List UInt8 := dkwX4_together_0 ++ dktX4_together_1
theorem dksX4_together_0 : cX4_together.data.toList.drop 0 = dktX4_together_0 := by decide +kernel
theorem dksX4_together_1 : cX4_together.data.toList.drop 23 = dktX4_together_1 := dk_seg dksX4_together_0 23 rfl rfl
theorem dksX4_together_2 : cX4_together.data.toList.drop 47 = dktX4_together_2 := dk_seg dksX4_together_1 24 rfl rfl
theorem dksX4_together_3 : cX4_together.data.toList.drop 69 = dktX4_together_3 := dk_seg dksX4_together_2 22 rfl rfl
theorem dX4_together_0 : decode cX4_together 0 = .ok (.aload_n 0, 1) := dk_42 (dk_at dksX4_together_0 0 rfl rfl)
theorem dX4_together_1 : decode cX4_together 1 = .ok (.iconst 0, 1) := dk_3 (dk_at dksX4_together_0 1 rfl rfl)
theorem dX4_together_2 : decode cX4_together 2 = .ok (.putfield 131, 3) := dk_181 0 131 (dk_at dksX4_together_0 2 rfl rfl)
theorem dX4_together_5 : decode cX4_together 5 = .ok (.aload_n 0, 1) := dk_42 (dk_at dksX4_together_0 5 rfl rfl)
theorem dX4_together_6 : decode cX4_together 6 = .ok (.aload_n 0, 1) := dk_42 (dk_at dksX4_together_0 6 rfl rfl)
theorem dX4_together_7 : decode cX4_together 7 = .ok (.iload_n 1, 1) := dk_27 (dk_at dksX4_together_0 7 rfl rfl)
theorem dX4_together_8 : decode cX4_together 8 = .ok (.invokevirtual 262, 3) := dk_182 1 6 (dk_at dksX4_together_0 8 rfl rfl)
theorem dX4_together_11 : decode cX4_together 11 = .ok (.ifCond .eq 11, 3) := dk_153 0 11 (dk_at dksX4_together_0 11 rfl rfl)
theorem dX4_together_14 : decode cX4_together 14 = .ok (.aload_n 0, 1) := dk_42 (dk_at dksX4_together_0 14 rfl rfl)
theorem dX4_together_15 : decode cX4_together 15 = .ok (.iload_n 2, 1) := dk_28 (dk_at dksX4_together_0 15 rfl rfl)
theorem dX4_together_16 : decode cX4_together 16 = .ok (.invokevirtual 262, 3) := dk_182 1 6 (dk_at dksX4_together_0 16 rfl rfl)
theorem dX4_together_19 : decode cX4_together 19 = .ok (.ifCond .ne 7, 3) := dk_154 0 7 (dk_at dksX4_together_0 19 rfl rfl)
theorem dX4_together_22 : decode cX4_together 22 = .ok (.iconst 1, 1) := dk_4 (dk_at dksX4_together_0 22 rfl rfl)
theorem dX4_together_23 : decode cX4_together 23 = .ok (.goto 4, 3) := dk_167 0 4 (dk_at dksX4_together_1 0 rfl rfl)
theorem dX4_together_26 : decode cX4_together 26 = .ok (.iconst 0, 1) := dk_3 (dk_at dksX4_together_1 3 rfl rfl)
theorem dX4_together_27 : decode cX4_together 27 = .ok (.iconst 1, 1) := dk_4 (dk_at dksX4_together_1 4 rfl rfl)
theorem dX4_together_28 : decode cX4_together 28 = .ok (.invokevirtual 227, 3) := dk_182 0 227 (dk_at dksX4_together_1 5 rfl rfl)
theorem dX4_together_31 : decode cX4_together 31 = .ok (.ifCond .ne 24, 3) := dk_154 0 24 (dk_at dksX4_together_1 8 rfl rfl)
theorem dX4_together_34 : decode cX4_together 34 = .ok (.aload_n 0, 1) := dk_42 (dk_at dksX4_together_1 11 rfl rfl)
theorem dX4_together_35 : decode cX4_together 35 = .ok (.aload_n 0, 1) := dk_42 (dk_at dksX4_together_1 12 rfl rfl)
theorem dX4_together_36 : decode cX4_together 36 = .ok (.iload_n 3, 1) := dk_29 (dk_at dksX4_together_1 13 rfl rfl)
theorem dX4_together_37 : decode cX4_together 37 = .ok (.invokevirtual 281, 3) := dk_182 1 25 (dk_at dksX4_together_1 14 rfl rfl)
theorem dX4_together_40 : decode cX4_together 40 = .ok (.ifCond .ne 7, 3) := dk_154 0 7 (dk_at dksX4_together_1 17 rfl rfl)
theorem dX4_together_43 : decode cX4_together 43 = .ok (.iconst 1, 1) := dk_4 (dk_at dksX4_together_1 20 rfl rfl)
theorem dX4_together_44 : decode cX4_together 44 = .ok (.goto 4, 3) := dk_167 0 4 (dk_at dksX4_together_1 21 rfl rfl)
theorem dX4_together_47 : decode cX4_together 47 = .ok (.iconst 0, 1) := dk_3 (dk_at dksX4_together_2 0 rfl rfl)
theorem dX4_together_48 : decode cX4_together 48 = .ok (.iconst 2, 1) := dk_5 (dk_at dksX4_together_2 1 rfl rfl)
theorem dX4_together_49 : decode cX4_together 49 = .ok (.invokevirtual 227, 3) := dk_182 0 227 (dk_at dksX4_together_2 2 rfl rfl)
theorem dX4_together_52 : decode cX4_together 52 = .ok (.ifCond .eq 5, 3) := dk_153 0 5 (dk_at dksX4_together_2 5 rfl rfl)
theorem dX4_together_55 : decode cX4_together 55 = .ok (.iconst 0, 1) := dk_3 (dk_at dksX4_together_2 8 rfl rfl)
theorem dX4_together_56 : decode cX4_together 56 = .ok (.ireturn, 1) := dk_172 (dk_at dksX4_together_2 9 rfl rfl)
theorem dX4_together_57 : decode cX4_together 57 = .ok (.aload_n 0, 1) := dk_42 (dk_at dksX4_together_2 10 rfl rfl)
theorem dX4_together_58 : decode cX4_together 58 = .ok (.iload_n 3, 1) := dk_29 (dk_at dksX4_together_2 11 rfl rfl)
theorem dX4_together_59 : decode cX4_together 59 = .ok (.invokevirtual 310, 3) := dk_182 1 54 (dk_at dksX4_together_2 12 rfl rfl)
theorem dX4_together_62 : decode cX4_together 62 = .ok (.aload_n 0, 1) := dk_42 (dk_at dksX4_together_2 15 rfl rfl)
theorem dX4_together_63 : decode cX4_together 63 = .ok (.invokevirtual 322, 3) := dk_182 1 66 (dk_at dksX4_together_2 16 rfl rfl)
theorem dX4_together_66 : decode cX4_together 66 = .ok (.aload_n 0, 1) := dk_42 (dk_at dksX4_together_2 19 rfl rfl)
theorem dX4_together_67 : decode cX4_together 67 = .ok (.iload_n 1, 1) := dk_27 (dk_at dksX4_together_2 20 rfl rfl)
theorem dX4_together_68 : decode cX4_together 68 = .ok (.iload_n 2, 1) := dk_28 (dk_at dksX4_together_2 21 rfl rfl)
theorem dX4_together_69 : decode cX4_together 69 = .ok (.invokevirtual 328, 3) := dk_182 1 72 (dk_at dksX4_together_3 0 rfl rfl)
theorem dX4_together_72 : decode cX4_together 72 = .ok (.ireturn, 1) := dk_172 (dk_at dksX4_together_3 3 rfl rfl)
abbrev cX4_open : ByteArray := prog_10_method_71_code
def yX4_open : MethodName := ⟨RX4, "open", "(II)I"⟩
def dkwX4_open_3 : List UInt8 := [160, 0, 7, 4, 167, 0, 4, 3, 172]
abbrev dktX4_open_3 : List UInt8 := dkwX4_open_3 ++ []
def dkwX4_open_2 : List UInt8 := [4, 160, 0, 7, 29, 167, 0, 27, 29, 42, 180, 0, 20, 3, 46, 42, 180, 0, 20, 3, 46, 4, 100, 104]
abbrev dktX4_open_2 : List UInt8 := dkwX4_open_2 ++ dktX4_open_3
def dkwX4_open_1 : List UInt8 := [167, 0, 4, 3, 4, 182, 0, 227, 153, 0, 5, 3, 172, 42, 27, 182, 1, 19, 42, 182, 1, 75, 62, 28]
abbrev dktX4_open_1 : List UInt8 := dkwX4_open_1 ++ dktX4_open_2
def dkwX4_open_0 : List UInt8 := [42, 3, 181, 0, 131, 42, 42, 27, 182, 1, 25, 153, 0, 12, 28, 3, 4, 184, 0, 165, 154, 0, 7, 4]
abbrev dktX4_open_0 : List UInt8 := dkwX4_open_0 ++ dktX4_open_1
theorem dksX4_open_0 : cX4_open.data.toList.drop 0 = dktX4_open_0 := by decide +kernel
theorem dksX4_open_1 : cX4_open.data.toList.drop 24 = dktX4_open_1 := dk_seg dksX4_open_0 24 rfl rfl
theorem dksX4_open_2 : cX4_open.data.toList.drop 48 = dktX4_open_2 := dk_seg dksX4_open_1 24 rfl rfl
theorem dksX4_open_3 : cX4_open.data.toList.drop 72 = dktX4_open_3 := dk_seg dksX4_open_2 24 rfl rfl
theorem dX4_open_0 : decode cX4_open 0 = .ok (.aload_n 0, 1) := dk_42 (dk_at dksX4_open_0 0 rfl rfl)
theorem dX4_open_1 : decode cX4_open 1 = .ok (.iconst 0, 1) := dk_3 (dk_at dksX4_open_0 1 rfl rfl)
theorem dX4_open_2 : decode cX4_open 2 = .ok (.putfield 131, 3) := dk_181 0 131 (dk_at dksX4_open_0 2 rfl rfl)
theorem dX4_open_5 : decode cX4_open 5 = .ok (.aload_n 0, 1) := dk_42 (dk_at dksX4_open_0 5 rfl rfl)
theorem dX4_open_6 : decode cX4_open 6 = .ok (.aload_n 0, 1) := dk_42 (dk_at dksX4_open_0 6 rfl rfl)
theorem dX4_open_7 : decode cX4_open 7 = .ok (.iload_n 1, 1) := dk_27 (dk_at dksX4_open_0 7 rfl rfl)
theorem dX4_open_8 : decode cX4_open 8 = .ok (.invokevirtual 281, 3) := dk_182 1 25 (dk_at dksX4_open_0 8 rfl rfl)
theorem dX4_open_11 : decode cX4_open 11 = .ok (.ifCond .eq 12, 3) := dk_153 0 12 (dk_at dksX4_open_0 11 rfl rfl)
theorem dX4_open_14 : decode cX4_open 14 = .ok (.iload_n 2, 1) := dk_28 (dk_at dksX4_open_0 14 rfl rfl)
theorem dX4_open_15 : decode cX4_open 15 = .ok (.iconst 0, 1) := dk_3 (dk_at dksX4_open_0 15 rfl rfl)
theorem dX4_open_16 : decode cX4_open 16 = .ok (.iconst 1, 1) := dk_4 (dk_at dksX4_open_0 16 rfl rfl)
theorem dX4_open_17 : decode cX4_open 17 = .ok (.invokestatic 165, 3) := dk_184 0 165 (dk_at dksX4_open_0 17 rfl rfl)
theorem dX4_open_20 : decode cX4_open 20 = .ok (.ifCond .ne 7, 3) := dk_154 0 7 (dk_at dksX4_open_0 20 rfl rfl)
theorem dX4_open_23 : decode cX4_open 23 = .ok (.iconst 1, 1) := dk_4 (dk_at dksX4_open_0 23 rfl rfl)
theorem dX4_open_24 : decode cX4_open 24 = .ok (.goto 4, 3) := dk_167 0 4 (dk_at dksX4_open_1 0 rfl rfl)
theorem dX4_open_27 : decode cX4_open 27 = .ok (.iconst 0, 1) := dk_3 (dk_at dksX4_open_1 3 rfl rfl)
theorem dX4_open_28 : decode cX4_open 28 = .ok (.iconst 1, 1) := dk_4 (dk_at dksX4_open_1 4 rfl rfl)
theorem dX4_open_29 : decode cX4_open 29 = .ok (.invokevirtual 227, 3) := dk_182 0 227 (dk_at dksX4_open_1 5 rfl rfl)
theorem dX4_open_32 : decode cX4_open 32 = .ok (.ifCond .eq 5, 3) := dk_153 0 5 (dk_at dksX4_open_1 8 rfl rfl)
theorem dX4_open_35 : decode cX4_open 35 = .ok (.iconst 0, 1) := dk_3 (dk_at dksX4_open_1 11 rfl rfl)
theorem dX4_open_36 : decode cX4_open 36 = .ok (.ireturn, 1) := dk_172 (dk_at dksX4_open_1 12 rfl rfl)
theorem dX4_open_37 : decode cX4_open 37 = .ok (.aload_n 0, 1) := dk_42 (dk_at dksX4_open_1 13 rfl rfl)
theorem dX4_open_38 : decode cX4_open 38 = .ok (.iload_n 1, 1) := dk_27 (dk_at dksX4_open_1 14 rfl rfl)
theorem dX4_open_39 : decode cX4_open 39 = .ok (.invokevirtual 275, 3) := dk_182 1 19 (dk_at dksX4_open_1 15 rfl rfl)
theorem dX4_open_42 : decode cX4_open 42 = .ok (.aload_n 0, 1) := dk_42 (dk_at dksX4_open_1 18 rfl rfl)
theorem dX4_open_43 : decode cX4_open 43 = .ok (.invokevirtual 331, 3) := dk_182 1 75 (dk_at dksX4_open_1 19 rfl rfl)
theorem dX4_open_46 : decode cX4_open 46 = .ok (.istore_n 3, 1) := dk_62 (dk_at dksX4_open_1 22 rfl rfl)
theorem dX4_open_47 : decode cX4_open 47 = .ok (.iload_n 2, 1) := dk_28 (dk_at dksX4_open_1 23 rfl rfl)
theorem dX4_open_48 : decode cX4_open 48 = .ok (.iconst 1, 1) := dk_4 (dk_at dksX4_open_2 0 rfl rfl)
theorem dX4_open_49 : decode cX4_open 49 = .ok (.if_icmp .ne 7, 3) := dk_160 0 7 (dk_at dksX4_open_2 1 rfl rfl)
theorem dX4_open_52 : decode cX4_open 52 = .ok (.iload_n 3, 1) := dk_29 (dk_at dksX4_open_2 4 rfl rfl)
theorem dX4_open_53 : decode cX4_open 53 = .ok (.goto 27, 3) := dk_167 0 27 (dk_at dksX4_open_2 5 rfl rfl)
theorem dX4_open_56 : decode cX4_open 56 = .ok (.iload_n 3, 1) := dk_29 (dk_at dksX4_open_2 8 rfl rfl)
theorem dX4_open_57 : decode cX4_open 57 = .ok (.aload_n 0, 1) := dk_42 (dk_at dksX4_open_2 9 rfl rfl)
theorem dX4_open_58 : decode cX4_open 58 = .ok (.getfield 20, 3) := dk_180 0 20 (dk_at dksX4_open_2 10 rfl rfl)
theorem dX4_open_61 : decode cX4_open 61 = .ok (.iconst 0, 1) := dk_3 (dk_at dksX4_open_2 13 rfl rfl)
theorem dX4_open_62 : decode cX4_open 62 = .ok (.iaload, 1) := dk_46 (dk_at dksX4_open_2 14 rfl rfl)
theorem dX4_open_63 : decode cX4_open 63 = .ok (.aload_n 0, 1) := dk_42 (dk_at dksX4_open_2 15 rfl rfl)
theorem dX4_open_64 : decode cX4_open 64 = .ok (.getfield 20, 3) := dk_180 0 20 (dk_at dksX4_open_2 16 rfl rfl)
theorem dX4_open_67 : decode cX4_open 67 = .ok (.iconst 0, 1) := dk_3 (dk_at dksX4_open_2 19 rfl rfl)
theorem dX4_open_68 : decode cX4_open 68 = .ok (.iaload, 1) := dk_46 (dk_at dksX4_open_2 20 rfl rfl)
theorem dX4_open_69 : decode cX4_open 69 = .ok (.iconst 1, 1) := dk_4 (dk_at dksX4_open_2 21 rfl rfl)
theorem dX4_open_70 : decode cX4_open 70 = .ok (.isub, 1) := dk_100 (dk_at dksX4_open_2 22 rfl rfl)
theorem dX4_open_71 : decode cX4_open 71 = .ok (.imul, 1) := dk_104 (dk_at dksX4_open_2 23 rfl rfl)
theorem dX4_open_72 : decode cX4_open 72 = .ok (.if_icmp .ne 7, 3) := dk_160 0 7 (dk_at dksX4_open_3 0 rfl rfl)
theorem dX4_open_75 : decode cX4_open 75 = .ok (.iconst 1, 1) := dk_4 (dk_at dksX4_open_3 3 rfl rfl)
theorem dX4_open_76 : decode cX4_open 76 = .ok (.goto 4, 3) := dk_167 0 4 (dk_at dksX4_open_3 4 rfl rfl)
theorem dX4_open_79 : decode cX4_open 79 = .ok (.iconst 0, 1) := dk_3 (dk_at dksX4_open_3 7 rfl rfl)
theorem dX4_open_80 : decode cX4_open 80 = .ok (.ireturn, 1) := dk_172 (dk_at dksX4_open_3 8 rfl rfl)
abbrev cX4_pairs : ByteArray := prog_10_method_69_code
def yX4_pairs : MethodName := ⟨RX4, "pairs", "()I"⟩
def dkwX4_pairs_1 : List UInt8 := [28, 182, 1, 63, 184, 0, 187, 4, 100, 96, 60, 132, 2, 1, 167, 255, 230, 27, 172]
abbrev dktX4_pairs_1 : List UInt8 := dkwX4_pairs_1 ++ []
def dkwX4_pairs_0 : List UInt8 := [42, 182, 1, 22, 42, 182, 1, 66, 3, 60, 3, 61, 28, 42, 180, 0, 20, 3, 46, 162, 0, 22, 27, 42]
abbrev dktX4_pairs_0 : List UInt8 := dkwX4_pairs_0 ++ dktX4_pairs_1
theorem dksX4_pairs_0 : cX4_pairs.data.toList.drop 0 = dktX4_pairs_0 := by decide +kernel
theorem dksX4_pairs_1 : cX4_pairs.data.toList.drop 24 = dktX4_pairs_1 := dk_seg dksX4_pairs_0 24 rfl rfl
theorem dX4_pairs_0 : decode cX4_pairs 0 = .ok (.aload_n 0, 1) := dk_42 (dk_at dksX4_pairs_0 0 rfl rfl)
theorem dX4_pairs_1 : decode cX4_pairs 1 = .ok (.invokevirtual 278, 3) := dk_182 1 22 (dk_at dksX4_pairs_0 1 rfl rfl)
theorem dX4_pairs_4 : decode cX4_pairs 4 = .ok (.aload_n 0, 1) := dk_42 (dk_at dksX4_pairs_0 4 rfl rfl)
theorem dX4_pairs_5 : decode cX4_pairs 5 = .ok (.invokevirtual 322, 3) := dk_182 1 66 (dk_at dksX4_pairs_0 5 rfl rfl)
theorem dX4_pairs_8 : decode cX4_pairs 8 = .ok (.iconst 0, 1) := dk_3 (dk_at dksX4_pairs_0 8 rfl rfl)
theorem dX4_pairs_9 : decode cX4_pairs 9 = .ok (.istore_n 1, 1) := dk_60 (dk_at dksX4_pairs_0 9 rfl rfl)
theorem dX4_pairs_10 : decode cX4_pairs 10 = .ok (.iconst 0, 1) := dk_3 (dk_at dksX4_pairs_0 10 rfl rfl)
theorem dX4_pairs_11 : decode cX4_pairs 11 = .ok (.istore_n 2, 1) := dk_61 (dk_at dksX4_pairs_0 11 rfl rfl)
theorem dX4_pairs_12 : decode cX4_pairs 12 = .ok (.iload_n 2, 1) := dk_28 (dk_at dksX4_pairs_0 12 rfl rfl)
theorem dX4_pairs_13 : decode cX4_pairs 13 = .ok (.aload_n 0, 1) := dk_42 (dk_at dksX4_pairs_0 13 rfl rfl)
theorem dX4_pairs_14 : decode cX4_pairs 14 = .ok (.getfield 20, 3) := dk_180 0 20 (dk_at dksX4_pairs_0 14 rfl rfl)
theorem dX4_pairs_17 : decode cX4_pairs 17 = .ok (.iconst 0, 1) := dk_3 (dk_at dksX4_pairs_0 17 rfl rfl)
theorem dX4_pairs_18 : decode cX4_pairs 18 = .ok (.iaload, 1) := dk_46 (dk_at dksX4_pairs_0 18 rfl rfl)
theorem dX4_pairs_19 : decode cX4_pairs 19 = .ok (.if_icmp .ge 22, 3) := dk_162 0 22 (dk_at dksX4_pairs_0 19 rfl rfl)
theorem dX4_pairs_22 : decode cX4_pairs 22 = .ok (.iload_n 1, 1) := dk_27 (dk_at dksX4_pairs_0 22 rfl rfl)
theorem dX4_pairs_23 : decode cX4_pairs 23 = .ok (.aload_n 0, 1) := dk_42 (dk_at dksX4_pairs_0 23 rfl rfl)
theorem dX4_pairs_24 : decode cX4_pairs 24 = .ok (.iload_n 2, 1) := dk_28 (dk_at dksX4_pairs_1 0 rfl rfl)
theorem dX4_pairs_25 : decode cX4_pairs 25 = .ok (.invokevirtual 319, 3) := dk_182 1 63 (dk_at dksX4_pairs_1 1 rfl rfl)
theorem dX4_pairs_28 : decode cX4_pairs 28 = .ok (.invokestatic 187, 3) := dk_184 0 187 (dk_at dksX4_pairs_1 4 rfl rfl)
theorem dX4_pairs_31 : decode cX4_pairs 31 = .ok (.iconst 1, 1) := dk_4 (dk_at dksX4_pairs_1 7 rfl rfl)
theorem dX4_pairs_32 : decode cX4_pairs 32 = .ok (.isub, 1) := dk_100 (dk_at dksX4_pairs_1 8 rfl rfl)
theorem dX4_pairs_33 : decode cX4_pairs 33 = .ok (.iadd, 1) := dk_96 (dk_at dksX4_pairs_1 9 rfl rfl)
theorem dX4_pairs_34 : decode cX4_pairs 34 = .ok (.istore_n 1, 1) := dk_60 (dk_at dksX4_pairs_1 10 rfl rfl)
theorem dX4_pairs_35 : decode cX4_pairs 35 = .ok (.iinc 2 1, 3) := dk_132 2 1 (dk_at dksX4_pairs_1 11 rfl rfl)
theorem dX4_pairs_38 : decode cX4_pairs 38 = .ok (.goto (-26), 3) := dk_167 255 230 (dk_at dksX4_pairs_1 14 rfl rfl)
theorem dX4_pairs_41 : decode cX4_pairs 41 = .ok (.iload_n 1, 1) := dk_27 (dk_at dksX4_pairs_1 17 rfl rfl)
theorem dX4_pairs_42 : decode cX4_pairs 42 = .ok (.ireturn, 1) := dk_172 (dk_at dksX4_pairs_1 18 rfl rfl)
abbrev cX4_since : ByteArray := prog_10_method_72_code
def yX4_since : MethodName := ⟨RX4, "since", "(IIIZ)I"⟩
def dkwX4_since_4 : List UInt8 := [167, 0, 4, 3, 160, 0, 6, 21, 5, 172, 132, 5, 1, 167, 255, 209, 2, 172]
abbrev dktX4_since_4 : List UInt8 := dkwX4_since_4 ++ []
def dkwX4_since_3 : List UInt8 := [21, 5, 182, 1, 54, 42, 182, 1, 66, 42, 27, 182, 1, 63, 28, 122, 4, 126, 21, 4, 153, 0, 7, 4]
abbrev dktX4_since_3 : List UInt8 := dkwX4_since_3 ++ dktX4_since_4
def dkwX4_since_2 : List UInt8 := [3, 5, 182, 0, 227, 153, 0, 5, 3, 172, 29, 54, 5, 21, 5, 42, 180, 0, 238, 163, 0, 44, 42]
abbrev dktX4_since_2 : List UInt8 := dkwX4_since_2 ++ dktX4_since_3
def dkwX4_since_1 : List UInt8 := [167, 0, 4, 3, 4, 182, 0, 227, 154, 0, 24, 42, 42, 29, 182, 1, 25, 154, 0, 7, 4, 167, 0, 4]
abbrev dktX4_since_1 : List UInt8 := dkwX4_since_1 ++ dktX4_since_2
def dkwX4_since_0 : List UInt8 := [42, 3, 181, 0, 131, 42, 42, 27, 182, 1, 51, 153, 0, 11, 42, 28, 182, 1, 51, 154, 0, 7, 4]
abbrev dktX4_since_0 : List UInt8 := dkwX4_since_0 ++ dktX4_since_1
theorem dksX4_since_0 : cX4_since.data.toList.drop 0 = dktX4_since_0 := by decide +kernel
theorem dksX4_since_1 : cX4_since.data.toList.drop 23 = dktX4_since_1 := dk_seg dksX4_since_0 23 rfl rfl
theorem dksX4_since_2 : cX4_since.data.toList.drop 47 = dktX4_since_2 := dk_seg dksX4_since_1 24 rfl rfl
theorem dksX4_since_3 : cX4_since.data.toList.drop 70 = dktX4_since_3 := dk_seg dksX4_since_2 23 rfl rfl
theorem dksX4_since_4 : cX4_since.data.toList.drop 94 = dktX4_since_4 := dk_seg dksX4_since_3 24 rfl rfl
theorem dX4_since_0 : decode cX4_since 0 = .ok (.aload_n 0, 1) := dk_42 (dk_at dksX4_since_0 0 rfl rfl)
theorem dX4_since_1 : decode cX4_since 1 = .ok (.iconst 0, 1) := dk_3 (dk_at dksX4_since_0 1 rfl rfl)
theorem dX4_since_2 : decode cX4_since 2 = .ok (.putfield 131, 3) := dk_181 0 131 (dk_at dksX4_since_0 2 rfl rfl)
theorem dX4_since_5 : decode cX4_since 5 = .ok (.aload_n 0, 1) := dk_42 (dk_at dksX4_since_0 5 rfl rfl)
theorem dX4_since_6 : decode cX4_since 6 = .ok (.aload_n 0, 1) := dk_42 (dk_at dksX4_since_0 6 rfl rfl)
theorem dX4_since_7 : decode cX4_since 7 = .ok (.iload_n 1, 1) := dk_27 (dk_at dksX4_since_0 7 rfl rfl)
theorem dX4_since_8 : decode cX4_since 8 = .ok (.invokevirtual 307, 3) := dk_182 1 51 (dk_at dksX4_since_0 8 rfl rfl)
theorem dX4_since_11 : decode cX4_since 11 = .ok (.ifCond .eq 11, 3) := dk_153 0 11 (dk_at dksX4_since_0 11 rfl rfl)
theorem dX4_since_14 : decode cX4_since 14 = .ok (.aload_n 0, 1) := dk_42 (dk_at dksX4_since_0 14 rfl rfl)
theorem dX4_since_15 : decode cX4_since 15 = .ok (.iload_n 2, 1) := dk_28 (dk_at dksX4_since_0 15 rfl rfl)
theorem dX4_since_16 : decode cX4_since 16 = .ok (.invokevirtual 307, 3) := dk_182 1 51 (dk_at dksX4_since_0 16 rfl rfl)
theorem dX4_since_19 : decode cX4_since 19 = .ok (.ifCond .ne 7, 3) := dk_154 0 7 (dk_at dksX4_since_0 19 rfl rfl)
theorem dX4_since_22 : decode cX4_since 22 = .ok (.iconst 1, 1) := dk_4 (dk_at dksX4_since_0 22 rfl rfl)
theorem dX4_since_23 : decode cX4_since 23 = .ok (.goto 4, 3) := dk_167 0 4 (dk_at dksX4_since_1 0 rfl rfl)
theorem dX4_since_26 : decode cX4_since 26 = .ok (.iconst 0, 1) := dk_3 (dk_at dksX4_since_1 3 rfl rfl)
theorem dX4_since_27 : decode cX4_since 27 = .ok (.iconst 1, 1) := dk_4 (dk_at dksX4_since_1 4 rfl rfl)
theorem dX4_since_28 : decode cX4_since 28 = .ok (.invokevirtual 227, 3) := dk_182 0 227 (dk_at dksX4_since_1 5 rfl rfl)
theorem dX4_since_31 : decode cX4_since 31 = .ok (.ifCond .ne 24, 3) := dk_154 0 24 (dk_at dksX4_since_1 8 rfl rfl)
theorem dX4_since_34 : decode cX4_since 34 = .ok (.aload_n 0, 1) := dk_42 (dk_at dksX4_since_1 11 rfl rfl)
theorem dX4_since_35 : decode cX4_since 35 = .ok (.aload_n 0, 1) := dk_42 (dk_at dksX4_since_1 12 rfl rfl)
theorem dX4_since_36 : decode cX4_since 36 = .ok (.iload_n 3, 1) := dk_29 (dk_at dksX4_since_1 13 rfl rfl)
theorem dX4_since_37 : decode cX4_since 37 = .ok (.invokevirtual 281, 3) := dk_182 1 25 (dk_at dksX4_since_1 14 rfl rfl)
theorem dX4_since_40 : decode cX4_since 40 = .ok (.ifCond .ne 7, 3) := dk_154 0 7 (dk_at dksX4_since_1 17 rfl rfl)
theorem dX4_since_43 : decode cX4_since 43 = .ok (.iconst 1, 1) := dk_4 (dk_at dksX4_since_1 20 rfl rfl)
theorem dX4_since_44 : decode cX4_since 44 = .ok (.goto 4, 3) := dk_167 0 4 (dk_at dksX4_since_1 21 rfl rfl)
theorem dX4_since_47 : decode cX4_since 47 = .ok (.iconst 0, 1) := dk_3 (dk_at dksX4_since_2 0 rfl rfl)
theorem dX4_since_48 : decode cX4_since 48 = .ok (.iconst 2, 1) := dk_5 (dk_at dksX4_since_2 1 rfl rfl)
theorem dX4_since_49 : decode cX4_since 49 = .ok (.invokevirtual 227, 3) := dk_182 0 227 (dk_at dksX4_since_2 2 rfl rfl)
theorem dX4_since_52 : decode cX4_since 52 = .ok (.ifCond .eq 5, 3) := dk_153 0 5 (dk_at dksX4_since_2 5 rfl rfl)
theorem dX4_since_55 : decode cX4_since 55 = .ok (.iconst 0, 1) := dk_3 (dk_at dksX4_since_2 8 rfl rfl)
theorem dX4_since_56 : decode cX4_since 56 = .ok (.ireturn, 1) := dk_172 (dk_at dksX4_since_2 9 rfl rfl)
theorem dX4_since_57 : decode cX4_since 57 = .ok (.iload_n 3, 1) := dk_29 (dk_at dksX4_since_2 10 rfl rfl)
theorem dX4_since_58 : decode cX4_since 58 = .ok (.istore 5, 2) := dk_54 5 (dk_at dksX4_since_2 11 rfl rfl)
theorem dX4_since_60 : decode cX4_since 60 = .ok (.iload 5, 2) := dk_21 5 (dk_at dksX4_since_2 13 rfl rfl)
theorem dX4_since_62 : decode cX4_since 62 = .ok (.aload_n 0, 1) := dk_42 (dk_at dksX4_since_2 15 rfl rfl)
theorem dX4_since_63 : decode cX4_since 63 = .ok (.getfield 238, 3) := dk_180 0 238 (dk_at dksX4_since_2 16 rfl rfl)
theorem dX4_since_66 : decode cX4_since 66 = .ok (.if_icmp .gt 44, 3) := dk_163 0 44 (dk_at dksX4_since_2 19 rfl rfl)
theorem dX4_since_69 : decode cX4_since 69 = .ok (.aload_n 0, 1) := dk_42 (dk_at dksX4_since_2 22 rfl rfl)
theorem dX4_since_70 : decode cX4_since 70 = .ok (.iload 5, 2) := dk_21 5 (dk_at dksX4_since_3 0 rfl rfl)
theorem dX4_since_72 : decode cX4_since 72 = .ok (.invokevirtual 310, 3) := dk_182 1 54 (dk_at dksX4_since_3 2 rfl rfl)
theorem dX4_since_75 : decode cX4_since 75 = .ok (.aload_n 0, 1) := dk_42 (dk_at dksX4_since_3 5 rfl rfl)
theorem dX4_since_76 : decode cX4_since 76 = .ok (.invokevirtual 322, 3) := dk_182 1 66 (dk_at dksX4_since_3 6 rfl rfl)
theorem dX4_since_79 : decode cX4_since 79 = .ok (.aload_n 0, 1) := dk_42 (dk_at dksX4_since_3 9 rfl rfl)
theorem dX4_since_80 : decode cX4_since 80 = .ok (.iload_n 1, 1) := dk_27 (dk_at dksX4_since_3 10 rfl rfl)
theorem dX4_since_81 : decode cX4_since 81 = .ok (.invokevirtual 319, 3) := dk_182 1 63 (dk_at dksX4_since_3 11 rfl rfl)
theorem dX4_since_84 : decode cX4_since 84 = .ok (.iload_n 2, 1) := dk_28 (dk_at dksX4_since_3 14 rfl rfl)
theorem dX4_since_85 : decode cX4_since 85 = .ok (.ishr, 1) := dk_122 (dk_at dksX4_since_3 15 rfl rfl)
theorem dX4_since_86 : decode cX4_since 86 = .ok (.iconst 1, 1) := dk_4 (dk_at dksX4_since_3 16 rfl rfl)
theorem dX4_since_87 : decode cX4_since 87 = .ok (.iand, 1) := dk_126 (dk_at dksX4_since_3 17 rfl rfl)
theorem dX4_since_88 : decode cX4_since 88 = .ok (.iload 4, 2) := dk_21 4 (dk_at dksX4_since_3 18 rfl rfl)
theorem dX4_since_90 : decode cX4_since 90 = .ok (.ifCond .eq 7, 3) := dk_153 0 7 (dk_at dksX4_since_3 20 rfl rfl)
theorem dX4_since_93 : decode cX4_since 93 = .ok (.iconst 1, 1) := dk_4 (dk_at dksX4_since_3 23 rfl rfl)
theorem dX4_since_94 : decode cX4_since 94 = .ok (.goto 4, 3) := dk_167 0 4 (dk_at dksX4_since_4 0 rfl rfl)
theorem dX4_since_97 : decode cX4_since 97 = .ok (.iconst 0, 1) := dk_3 (dk_at dksX4_since_4 3 rfl rfl)
theorem dX4_since_98 : decode cX4_since 98 = .ok (.if_icmp .ne 6, 3) := dk_160 0 6 (dk_at dksX4_since_4 4 rfl rfl)
theorem dX4_since_101 : decode cX4_since 101 = .ok (.iload 5, 2) := dk_21 5 (dk_at dksX4_since_4 7 rfl rfl)
theorem dX4_since_103 : decode cX4_since 103 = .ok (.ireturn, 1) := dk_172 (dk_at dksX4_since_4 9 rfl rfl)
theorem dX4_since_104 : decode cX4_since 104 = .ok (.iinc 5 1, 3) := dk_132 5 1 (dk_at dksX4_since_4 10 rfl rfl)
theorem dX4_since_107 : decode cX4_since 107 = .ok (.goto (-47), 3) := dk_167 255 209 (dk_at dksX4_since_4 13 rfl rfl)
theorem dX4_since_110 : decode cX4_since 110 = .ok (.iconst (-1), 1) := dk_2 (dk_at dksX4_since_4 16 rfl rfl)
theorem dX4_since_111 : decode cX4_since 111 = .ok (.ireturn, 1) := dk_172 (dk_at dksX4_since_4 17 rfl rfl)
abbrev cX4_left : ByteArray := prog_10_method_73_code
def yX4_left : MethodName := ⟨RX4, "left", "(I)I"⟩
def dkwX4_left_1 : List UInt8 := [180, 0, 71, 27, 50, 3, 46, 104, 42, 180, 0, 71, 27, 50, 4, 46, 96, 167, 0, 4, 2, 172]
abbrev dktX4_left_1 : List UInt8 := dkwX4_left_1 ++ []
def dkwX4_left_0 : List UInt8 := [42, 3, 181, 0, 131, 27, 3, 42, 180, 1, 3, 4, 100, 184, 0, 165, 153, 0, 26, 16, 100, 42]
abbrev dktX4_left_0 : List UInt8 := dkwX4_left_0 ++ dktX4_left_1
theorem dksX4_left_0 : cX4_left.data.toList.drop 0 = dktX4_left_0 := by decide +kernel
theorem dksX4_left_1 : cX4_left.data.toList.drop 22 = dktX4_left_1 := dk_seg dksX4_left_0 22 rfl rfl
theorem dX4_left_0 : decode cX4_left 0 = .ok (.aload_n 0, 1) := dk_42 (dk_at dksX4_left_0 0 rfl rfl)
theorem dX4_left_1 : decode cX4_left 1 = .ok (.iconst 0, 1) := dk_3 (dk_at dksX4_left_0 1 rfl rfl)
theorem dX4_left_2 : decode cX4_left 2 = .ok (.putfield 131, 3) := dk_181 0 131 (dk_at dksX4_left_0 2 rfl rfl)
theorem dX4_left_5 : decode cX4_left 5 = .ok (.iload_n 1, 1) := dk_27 (dk_at dksX4_left_0 5 rfl rfl)
theorem dX4_left_6 : decode cX4_left 6 = .ok (.iconst 0, 1) := dk_3 (dk_at dksX4_left_0 6 rfl rfl)
theorem dX4_left_7 : decode cX4_left 7 = .ok (.aload_n 0, 1) := dk_42 (dk_at dksX4_left_0 7 rfl rfl)
theorem dX4_left_8 : decode cX4_left 8 = .ok (.getfield 259, 3) := dk_180 1 3 (dk_at dksX4_left_0 8 rfl rfl)
theorem dX4_left_11 : decode cX4_left 11 = .ok (.iconst 1, 1) := dk_4 (dk_at dksX4_left_0 11 rfl rfl)
theorem dX4_left_12 : decode cX4_left 12 = .ok (.isub, 1) := dk_100 (dk_at dksX4_left_0 12 rfl rfl)
theorem dX4_left_13 : decode cX4_left 13 = .ok (.invokestatic 165, 3) := dk_184 0 165 (dk_at dksX4_left_0 13 rfl rfl)
theorem dX4_left_16 : decode cX4_left 16 = .ok (.ifCond .eq 26, 3) := dk_153 0 26 (dk_at dksX4_left_0 16 rfl rfl)
theorem dX4_left_19 : decode cX4_left 19 = .ok (.bipush 100, 2) := dk_16 100 (dk_at dksX4_left_0 19 rfl rfl)
theorem dX4_left_21 : decode cX4_left 21 = .ok (.aload_n 0, 1) := dk_42 (dk_at dksX4_left_0 21 rfl rfl)
theorem dX4_left_22 : decode cX4_left 22 = .ok (.getfield 71, 3) := dk_180 0 71 (dk_at dksX4_left_1 0 rfl rfl)
theorem dX4_left_25 : decode cX4_left 25 = .ok (.iload_n 1, 1) := dk_27 (dk_at dksX4_left_1 3 rfl rfl)
theorem dX4_left_26 : decode cX4_left 26 = .ok (.aaload, 1) := dk_50 (dk_at dksX4_left_1 4 rfl rfl)
theorem dX4_left_27 : decode cX4_left 27 = .ok (.iconst 0, 1) := dk_3 (dk_at dksX4_left_1 5 rfl rfl)
theorem dX4_left_28 : decode cX4_left 28 = .ok (.iaload, 1) := dk_46 (dk_at dksX4_left_1 6 rfl rfl)
theorem dX4_left_29 : decode cX4_left 29 = .ok (.imul, 1) := dk_104 (dk_at dksX4_left_1 7 rfl rfl)
theorem dX4_left_30 : decode cX4_left 30 = .ok (.aload_n 0, 1) := dk_42 (dk_at dksX4_left_1 8 rfl rfl)
theorem dX4_left_31 : decode cX4_left 31 = .ok (.getfield 71, 3) := dk_180 0 71 (dk_at dksX4_left_1 9 rfl rfl)
theorem dX4_left_34 : decode cX4_left 34 = .ok (.iload_n 1, 1) := dk_27 (dk_at dksX4_left_1 12 rfl rfl)
theorem dX4_left_35 : decode cX4_left 35 = .ok (.aaload, 1) := dk_50 (dk_at dksX4_left_1 13 rfl rfl)
theorem dX4_left_36 : decode cX4_left 36 = .ok (.iconst 1, 1) := dk_4 (dk_at dksX4_left_1 14 rfl rfl)
theorem dX4_left_37 : decode cX4_left 37 = .ok (.iaload, 1) := dk_46 (dk_at dksX4_left_1 15 rfl rfl)
theorem dX4_left_38 : decode cX4_left 38 = .ok (.iadd, 1) := dk_96 (dk_at dksX4_left_1 16 rfl rfl)
theorem dX4_left_39 : decode cX4_left 39 = .ok (.goto 4, 3) := dk_167 0 4 (dk_at dksX4_left_1 17 rfl rfl)
theorem dX4_left_42 : decode cX4_left 42 = .ok (.iconst (-1), 1) := dk_2 (dk_at dksX4_left_1 20 rfl rfl)
theorem dX4_left_43 : decode cX4_left 43 = .ok (.ireturn, 1) := dk_172 (dk_at dksX4_left_1 21 rfl rfl)
abbrev cX4_candidates : ByteArray := prog_10_method_77_code
def yX4_candidates : MethodName := ⟨RX4, "candidates", "(I)I"⟩
def dkwX4_candidates_1 : List UInt8 := [153, 0, 5, 3, 172, 42, 27, 182, 1, 87, 42, 180, 1, 78, 172]
abbrev dktX4_candidates_1 : List UInt8 := dkwX4_candidates_1 ++ []
def dkwX4_candidates_0 : List UInt8 := [42, 3, 181, 0, 131, 42, 42, 27, 182, 1, 25, 154, 0, 7, 4, 167, 0, 4, 3, 4, 182, 0, 227]
abbrev dktX4_candidates_0 : List UInt8 := dkwX4_candidates_0 ++ dktX4_candidates_1
theorem dksX4_candidates_0 : cX4_candidates.data.toList.drop 0 = dktX4_candidates_0 := by decide +kernel
theorem dksX4_candidates_1 : cX4_candidates.data.toList.drop 23 = dktX4_candidates_1 := dk_seg dksX4_candidates_0 23 rfl rfl
theorem dX4_candidates_0 : decode cX4_candidates 0 = .ok (.aload_n 0, 1) := dk_42 (dk_at dksX4_candidates_0 0 rfl rfl)
theorem dX4_candidates_1 : decode cX4_candidates 1 = .ok (.iconst 0, 1) := dk_3 (dk_at dksX4_candidates_0 1 rfl rfl)
theorem dX4_candidates_2 : decode cX4_candidates 2 = .ok (.putfield 131, 3) := dk_181 0 131 (dk_at dksX4_candidates_0 2 rfl rfl)
theorem dX4_candidates_5 : decode cX4_candidates 5 = .ok (.aload_n 0, 1) := dk_42 (dk_at dksX4_candidates_0 5 rfl rfl)
theorem dX4_candidates_6 : decode cX4_candidates 6 = .ok (.aload_n 0, 1) := dk_42 (dk_at dksX4_candidates_0 6 rfl rfl)
theorem dX4_candidates_7 : decode cX4_candidates 7 = .ok (.iload_n 1, 1) := dk_27 (dk_at dksX4_candidates_0 7 rfl rfl)
theorem dX4_candidates_8 : decode cX4_candidates 8 = .ok (.invokevirtual 281, 3) := dk_182 1 25 (dk_at dksX4_candidates_0 8 rfl rfl)
theorem dX4_candidates_11 : decode cX4_candidates 11 = .ok (.ifCond .ne 7, 3) := dk_154 0 7 (dk_at dksX4_candidates_0 11 rfl rfl)
theorem dX4_candidates_14 : decode cX4_candidates 14 = .ok (.iconst 1, 1) := dk_4 (dk_at dksX4_candidates_0 14 rfl rfl)
theorem dX4_candidates_15 : decode cX4_candidates 15 = .ok (.goto 4, 3) := dk_167 0 4 (dk_at dksX4_candidates_0 15 rfl rfl)
theorem dX4_candidates_18 : decode cX4_candidates 18 = .ok (.iconst 0, 1) := dk_3 (dk_at dksX4_candidates_0 18 rfl rfl)
theorem dX4_candidates_19 : decode cX4_candidates 19 = .ok (.iconst 1, 1) := dk_4 (dk_at dksX4_candidates_0 19 rfl rfl)
theorem dX4_candidates_20 : decode cX4_candidates 20 = .ok (.invokevirtual 227, 3) := dk_182 0 227 (dk_at dksX4_candidates_0 20 rfl rfl)
theorem dX4_candidates_23 : decode cX4_candidates 23 = .ok (.ifCond .eq 5, 3) := dk_153 0 5 (dk_at dksX4_candidates_1 0 rfl rfl)
theorem dX4_candidates_26 : decode cX4_candidates 26 = .ok (.iconst 0, 1) := dk_3 (dk_at dksX4_candidates_1 3 rfl rfl)
theorem dX4_candidates_27 : decode cX4_candidates 27 = .ok (.ireturn, 1) := dk_172 (dk_at dksX4_candidates_1 4 rfl rfl)
theorem dX4_candidates_28 : decode cX4_candidates 28 = .ok (.aload_n 0, 1) := dk_42 (dk_at dksX4_candidates_1 5 rfl rfl)
theorem dX4_candidates_29 : decode cX4_candidates 29 = .ok (.iload_n 1, 1) := dk_27 (dk_at dksX4_candidates_1 6 rfl rfl)
theorem dX4_candidates_30 : decode cX4_candidates 30 = .ok (.invokevirtual 343, 3) := dk_182 1 87 (dk_at dksX4_candidates_1 7 rfl rfl)
theorem dX4_candidates_33 : decode cX4_candidates 33 = .ok (.aload_n 0, 1) := dk_42 (dk_at dksX4_candidates_1 10 rfl rfl)
theorem dX4_candidates_34 : decode cX4_candidates 34 = .ok (.getfield 334, 3) := dk_180 1 78 (dk_at dksX4_candidates_1 11 rfl rfl)
theorem dX4_candidates_37 : decode cX4_candidates 37 = .ok (.ireturn, 1) := dk_172 (dk_at dksX4_candidates_1 14 rfl rfl)
abbrev cX4_findLater : ByteArray := prog_10_method_76_code
def yX4_findLater : MethodName := ⟨RX4, "findLater", "(I)V"⟩
def dkwX4_findLater_3 : List UInt8 := [167, 255, 197, 177]
abbrev dktX4_findLater_3 : List UInt8 := dkwX4_findLater_3 ++ []
def dkwX4_findLater_2 : List UInt8 := [42, 180, 0, 77, 42, 180, 1, 78, 28, 79, 42, 89, 180, 1, 78, 4, 96, 181, 1, 78, 132, 2, 1]
abbrev dktX4_findLater_2 : List UInt8 := dkwX4_findLater_2 ++ dktX4_findLater_3
def dkwX4_findLater_1 : List UInt8 := [16, 14, 162, 0, 48, 42, 28, 182, 1, 81, 154, 0, 34, 42, 28, 182, 1, 84, 153, 0, 6, 167, 0, 23]
abbrev dktX4_findLater_1 : List UInt8 := dkwX4_findLater_1 ++ dktX4_findLater_2
def dkwX4_findLater_0 : List UInt8 := [42, 27, 182, 1, 19, 42, 3, 181, 1, 78, 3, 61, 28, 42, 180, 1, 3, 162, 0, 57, 42, 180, 1, 78]
abbrev dktX4_findLater_0 : List UInt8 := dkwX4_findLater_0 ++ dktX4_findLater_1
theorem dksX4_findLater_0 : cX4_findLater.data.toList.drop 0 = dktX4_findLater_0 := by decide +kernel
theorem dksX4_findLater_1 : cX4_findLater.data.toList.drop 24 = dktX4_findLater_1 := dk_seg dksX4_findLater_0 24 rfl rfl
theorem dksX4_findLater_2 : cX4_findLater.data.toList.drop 48 = dktX4_findLater_2 := dk_seg dksX4_findLater_1 24 rfl rfl
theorem dksX4_findLater_3 : cX4_findLater.data.toList.drop 71 = dktX4_findLater_3 := dk_seg dksX4_findLater_2 23 rfl rfl
theorem dX4_findLater_0 : decode cX4_findLater 0 = .ok (.aload_n 0, 1) := dk_42 (dk_at dksX4_findLater_0 0 rfl rfl)
theorem dX4_findLater_1 : decode cX4_findLater 1 = .ok (.iload_n 1, 1) := dk_27 (dk_at dksX4_findLater_0 1 rfl rfl)
theorem dX4_findLater_2 : decode cX4_findLater 2 = .ok (.invokevirtual 275, 3) := dk_182 1 19 (dk_at dksX4_findLater_0 2 rfl rfl)
theorem dX4_findLater_5 : decode cX4_findLater 5 = .ok (.aload_n 0, 1) := dk_42 (dk_at dksX4_findLater_0 5 rfl rfl)
theorem dX4_findLater_6 : decode cX4_findLater 6 = .ok (.iconst 0, 1) := dk_3 (dk_at dksX4_findLater_0 6 rfl rfl)
theorem dX4_findLater_7 : decode cX4_findLater 7 = .ok (.putfield 334, 3) := dk_181 1 78 (dk_at dksX4_findLater_0 7 rfl rfl)
theorem dX4_findLater_10 : decode cX4_findLater 10 = .ok (.iconst 0, 1) := dk_3 (dk_at dksX4_findLater_0 10 rfl rfl)
theorem dX4_findLater_11 : decode cX4_findLater 11 = .ok (.istore_n 2, 1) := dk_61 (dk_at dksX4_findLater_0 11 rfl rfl)
theorem dX4_findLater_12 : decode cX4_findLater 12 = .ok (.iload_n 2, 1) := dk_28 (dk_at dksX4_findLater_0 12 rfl rfl)
theorem dX4_findLater_13 : decode cX4_findLater 13 = .ok (.aload_n 0, 1) := dk_42 (dk_at dksX4_findLater_0 13 rfl rfl)
theorem dX4_findLater_14 : decode cX4_findLater 14 = .ok (.getfield 259, 3) := dk_180 1 3 (dk_at dksX4_findLater_0 14 rfl rfl)
theorem dX4_findLater_17 : decode cX4_findLater 17 = .ok (.if_icmp .ge 57, 3) := dk_162 0 57 (dk_at dksX4_findLater_0 17 rfl rfl)
theorem dX4_findLater_20 : decode cX4_findLater 20 = .ok (.aload_n 0, 1) := dk_42 (dk_at dksX4_findLater_0 20 rfl rfl)
theorem dX4_findLater_21 : decode cX4_findLater 21 = .ok (.getfield 334, 3) := dk_180 1 78 (dk_at dksX4_findLater_0 21 rfl rfl)
theorem dX4_findLater_24 : decode cX4_findLater 24 = .ok (.bipush 14, 2) := dk_16 14 (dk_at dksX4_findLater_1 0 rfl rfl)
theorem dX4_findLater_26 : decode cX4_findLater 26 = .ok (.if_icmp .ge 48, 3) := dk_162 0 48 (dk_at dksX4_findLater_1 2 rfl rfl)
theorem dX4_findLater_29 : decode cX4_findLater 29 = .ok (.aload_n 0, 1) := dk_42 (dk_at dksX4_findLater_1 5 rfl rfl)
theorem dX4_findLater_30 : decode cX4_findLater 30 = .ok (.iload_n 2, 1) := dk_28 (dk_at dksX4_findLater_1 6 rfl rfl)
theorem dX4_findLater_31 : decode cX4_findLater 31 = .ok (.invokevirtual 337, 3) := dk_182 1 81 (dk_at dksX4_findLater_1 7 rfl rfl)
theorem dX4_findLater_34 : decode cX4_findLater 34 = .ok (.ifCond .ne 34, 3) := dk_154 0 34 (dk_at dksX4_findLater_1 10 rfl rfl)
theorem dX4_findLater_37 : decode cX4_findLater 37 = .ok (.aload_n 0, 1) := dk_42 (dk_at dksX4_findLater_1 13 rfl rfl)
theorem dX4_findLater_38 : decode cX4_findLater 38 = .ok (.iload_n 2, 1) := dk_28 (dk_at dksX4_findLater_1 14 rfl rfl)
theorem dX4_findLater_39 : decode cX4_findLater 39 = .ok (.invokevirtual 340, 3) := dk_182 1 84 (dk_at dksX4_findLater_1 15 rfl rfl)
theorem dX4_findLater_42 : decode cX4_findLater 42 = .ok (.ifCond .eq 6, 3) := dk_153 0 6 (dk_at dksX4_findLater_1 18 rfl rfl)
theorem dX4_findLater_45 : decode cX4_findLater 45 = .ok (.goto 23, 3) := dk_167 0 23 (dk_at dksX4_findLater_1 21 rfl rfl)
theorem dX4_findLater_48 : decode cX4_findLater 48 = .ok (.aload_n 0, 1) := dk_42 (dk_at dksX4_findLater_2 0 rfl rfl)
theorem dX4_findLater_49 : decode cX4_findLater 49 = .ok (.getfield 77, 3) := dk_180 0 77 (dk_at dksX4_findLater_2 1 rfl rfl)
theorem dX4_findLater_52 : decode cX4_findLater 52 = .ok (.aload_n 0, 1) := dk_42 (dk_at dksX4_findLater_2 4 rfl rfl)
theorem dX4_findLater_53 : decode cX4_findLater 53 = .ok (.getfield 334, 3) := dk_180 1 78 (dk_at dksX4_findLater_2 5 rfl rfl)
theorem dX4_findLater_56 : decode cX4_findLater 56 = .ok (.iload_n 2, 1) := dk_28 (dk_at dksX4_findLater_2 8 rfl rfl)
theorem dX4_findLater_57 : decode cX4_findLater 57 = .ok (.iastore, 1) := dk_79 (dk_at dksX4_findLater_2 9 rfl rfl)
theorem dX4_findLater_58 : decode cX4_findLater 58 = .ok (.aload_n 0, 1) := dk_42 (dk_at dksX4_findLater_2 10 rfl rfl)
theorem dX4_findLater_59 : decode cX4_findLater 59 = .ok (.dup, 1) := dk_89 (dk_at dksX4_findLater_2 11 rfl rfl)
theorem dX4_findLater_60 : decode cX4_findLater 60 = .ok (.getfield 334, 3) := dk_180 1 78 (dk_at dksX4_findLater_2 12 rfl rfl)
theorem dX4_findLater_63 : decode cX4_findLater 63 = .ok (.iconst 1, 1) := dk_4 (dk_at dksX4_findLater_2 15 rfl rfl)
theorem dX4_findLater_64 : decode cX4_findLater 64 = .ok (.iadd, 1) := dk_96 (dk_at dksX4_findLater_2 16 rfl rfl)
theorem dX4_findLater_65 : decode cX4_findLater 65 = .ok (.putfield 334, 3) := dk_181 1 78 (dk_at dksX4_findLater_2 17 rfl rfl)
theorem dX4_findLater_68 : decode cX4_findLater 68 = .ok (.iinc 2 1, 3) := dk_132 2 1 (dk_at dksX4_findLater_2 20 rfl rfl)
theorem dX4_findLater_71 : decode cX4_findLater 71 = .ok (.goto (-59), 3) := dk_167 255 197 (dk_at dksX4_findLater_3 0 rfl rfl)
theorem dX4_findLater_74 : decode cX4_findLater 74 = .ok (.return_, 1) := dk_177 (dk_at dksX4_findLater_3 3 rfl rfl)
abbrev cX4_isAllowed : ByteArray := prog_10_method_74_code
def yX4_isAllowed : MethodName := ⟨RX4, "isAllowed", "(I)Z"⟩
def dkwX4_isAllowed_1 : List UInt8 := [4, 160, 0, 7, 4, 167, 0, 4, 3, 172]
abbrev dktX4_isAllowed_1 : List UInt8 := dkwX4_isAllowed_1 ++ []
def dkwX4_isAllowed_0 : List UInt8 := [42, 180, 0, 58, 42, 180, 0, 71, 27, 50, 3, 46, 46, 42, 180, 0, 71, 27, 50, 4, 46, 122, 4, 126]
abbrev dktX4_isAllowed_0 : List UInt8 := dkwX4_isAllowed_0 ++ dktX4_isAllowed_1
theorem dksX4_isAllowed_0 : cX4_isAllowed.data.toList.drop 0 = dktX4_isAllowed_0 := by decide +kernel
theorem dksX4_isAllowed_1 : cX4_isAllowed.data.toList.drop 24 = dktX4_isAllowed_1 := dk_seg dksX4_isAllowed_0 24 rfl rfl
theorem dX4_isAllowed_0 : decode cX4_isAllowed 0 = .ok (.aload_n 0, 1) := dk_42 (dk_at dksX4_isAllowed_0 0 rfl rfl)
theorem dX4_isAllowed_1 : decode cX4_isAllowed 1 = .ok (.getfield 58, 3) := dk_180 0 58 (dk_at dksX4_isAllowed_0 1 rfl rfl)
theorem dX4_isAllowed_4 : decode cX4_isAllowed 4 = .ok (.aload_n 0, 1) := dk_42 (dk_at dksX4_isAllowed_0 4 rfl rfl)
theorem dX4_isAllowed_5 : decode cX4_isAllowed 5 = .ok (.getfield 71, 3) := dk_180 0 71 (dk_at dksX4_isAllowed_0 5 rfl rfl)
theorem dX4_isAllowed_8 : decode cX4_isAllowed 8 = .ok (.iload_n 1, 1) := dk_27 (dk_at dksX4_isAllowed_0 8 rfl rfl)
theorem dX4_isAllowed_9 : decode cX4_isAllowed 9 = .ok (.aaload, 1) := dk_50 (dk_at dksX4_isAllowed_0 9 rfl rfl)
theorem dX4_isAllowed_10 : decode cX4_isAllowed 10 = .ok (.iconst 0, 1) := dk_3 (dk_at dksX4_isAllowed_0 10 rfl rfl)
theorem dX4_isAllowed_11 : decode cX4_isAllowed 11 = .ok (.iaload, 1) := dk_46 (dk_at dksX4_isAllowed_0 11 rfl rfl)
theorem dX4_isAllowed_12 : decode cX4_isAllowed 12 = .ok (.iaload, 1) := dk_46 (dk_at dksX4_isAllowed_0 12 rfl rfl)
theorem dX4_isAllowed_13 : decode cX4_isAllowed 13 = .ok (.aload_n 0, 1) := dk_42 (dk_at dksX4_isAllowed_0 13 rfl rfl)
theorem dX4_isAllowed_14 : decode cX4_isAllowed 14 = .ok (.getfield 71, 3) := dk_180 0 71 (dk_at dksX4_isAllowed_0 14 rfl rfl)
theorem dX4_isAllowed_17 : decode cX4_isAllowed 17 = .ok (.iload_n 1, 1) := dk_27 (dk_at dksX4_isAllowed_0 17 rfl rfl)
theorem dX4_isAllowed_18 : decode cX4_isAllowed 18 = .ok (.aaload, 1) := dk_50 (dk_at dksX4_isAllowed_0 18 rfl rfl)
theorem dX4_isAllowed_19 : decode cX4_isAllowed 19 = .ok (.iconst 1, 1) := dk_4 (dk_at dksX4_isAllowed_0 19 rfl rfl)
theorem dX4_isAllowed_20 : decode cX4_isAllowed 20 = .ok (.iaload, 1) := dk_46 (dk_at dksX4_isAllowed_0 20 rfl rfl)
theorem dX4_isAllowed_21 : decode cX4_isAllowed 21 = .ok (.ishr, 1) := dk_122 (dk_at dksX4_isAllowed_0 21 rfl rfl)
theorem dX4_isAllowed_22 : decode cX4_isAllowed 22 = .ok (.iconst 1, 1) := dk_4 (dk_at dksX4_isAllowed_0 22 rfl rfl)
theorem dX4_isAllowed_23 : decode cX4_isAllowed 23 = .ok (.iand, 1) := dk_126 (dk_at dksX4_isAllowed_0 23 rfl rfl)
theorem dX4_isAllowed_24 : decode cX4_isAllowed 24 = .ok (.iconst 1, 1) := dk_4 (dk_at dksX4_isAllowed_1 0 rfl rfl)
theorem dX4_isAllowed_25 : decode cX4_isAllowed 25 = .ok (.if_icmp .ne 7, 3) := dk_160 0 7 (dk_at dksX4_isAllowed_1 1 rfl rfl)
theorem dX4_isAllowed_28 : decode cX4_isAllowed 28 = .ok (.iconst 1, 1) := dk_4 (dk_at dksX4_isAllowed_1 4 rfl rfl)
theorem dX4_isAllowed_29 : decode cX4_isAllowed 29 = .ok (.goto 4, 3) := dk_167 0 4 (dk_at dksX4_isAllowed_1 5 rfl rfl)
theorem dX4_isAllowed_32 : decode cX4_isAllowed 32 = .ok (.iconst 0, 1) := dk_3 (dk_at dksX4_isAllowed_1 8 rfl rfl)
theorem dX4_isAllowed_33 : decode cX4_isAllowed 33 = .ok (.ireturn, 1) := dk_172 (dk_at dksX4_isAllowed_1 9 rfl rfl)
abbrev cX4_isSigned : ByteArray := prog_10_method_75_code
def yX4_isSigned : MethodName := ⟨RX4, "isSigned", "(I)Z"⟩
def dkwX4_isSigned_1 : List UInt8 := [4, 160, 0, 7, 4, 167, 0, 4, 3, 172]
abbrev dktX4_isSigned_1 : List UInt8 := dkwX4_isSigned_1 ++ []
def dkwX4_isSigned_0 : List UInt8 := [42, 180, 0, 55, 42, 180, 0, 71, 27, 50, 3, 46, 46, 42, 180, 0, 71, 27, 50, 4, 46, 122, 4, 126]
abbrev dktX4_isSigned_0 : List UInt8 := dkwX4_isSigned_0 ++ dktX4_isSigned_1
theorem dksX4_isSigned_0 : cX4_isSigned.data.toList.drop 0 = dktX4_isSigned_0 := by decide +kernel
theorem dksX4_isSigned_1 : cX4_isSigned.data.toList.drop 24 = dktX4_isSigned_1 := dk_seg dksX4_isSigned_0 24 rfl rfl
theorem dX4_isSigned_0 : decode cX4_isSigned 0 = .ok (.aload_n 0, 1) := dk_42 (dk_at dksX4_isSigned_0 0 rfl rfl)
theorem dX4_isSigned_1 : decode cX4_isSigned 1 = .ok (.getfield 55, 3) := dk_180 0 55 (dk_at dksX4_isSigned_0 1 rfl rfl)
theorem dX4_isSigned_4 : decode cX4_isSigned 4 = .ok (.aload_n 0, 1) := dk_42 (dk_at dksX4_isSigned_0 4 rfl rfl)
theorem dX4_isSigned_5 : decode cX4_isSigned 5 = .ok (.getfield 71, 3) := dk_180 0 71 (dk_at dksX4_isSigned_0 5 rfl rfl)
theorem dX4_isSigned_8 : decode cX4_isSigned 8 = .ok (.iload_n 1, 1) := dk_27 (dk_at dksX4_isSigned_0 8 rfl rfl)
theorem dX4_isSigned_9 : decode cX4_isSigned 9 = .ok (.aaload, 1) := dk_50 (dk_at dksX4_isSigned_0 9 rfl rfl)
theorem dX4_isSigned_10 : decode cX4_isSigned 10 = .ok (.iconst 0, 1) := dk_3 (dk_at dksX4_isSigned_0 10 rfl rfl)
theorem dX4_isSigned_11 : decode cX4_isSigned 11 = .ok (.iaload, 1) := dk_46 (dk_at dksX4_isSigned_0 11 rfl rfl)
theorem dX4_isSigned_12 : decode cX4_isSigned 12 = .ok (.iaload, 1) := dk_46 (dk_at dksX4_isSigned_0 12 rfl rfl)
theorem dX4_isSigned_13 : decode cX4_isSigned 13 = .ok (.aload_n 0, 1) := dk_42 (dk_at dksX4_isSigned_0 13 rfl rfl)
theorem dX4_isSigned_14 : decode cX4_isSigned 14 = .ok (.getfield 71, 3) := dk_180 0 71 (dk_at dksX4_isSigned_0 14 rfl rfl)
theorem dX4_isSigned_17 : decode cX4_isSigned 17 = .ok (.iload_n 1, 1) := dk_27 (dk_at dksX4_isSigned_0 17 rfl rfl)
theorem dX4_isSigned_18 : decode cX4_isSigned 18 = .ok (.aaload, 1) := dk_50 (dk_at dksX4_isSigned_0 18 rfl rfl)
theorem dX4_isSigned_19 : decode cX4_isSigned 19 = .ok (.iconst 1, 1) := dk_4 (dk_at dksX4_isSigned_0 19 rfl rfl)
theorem dX4_isSigned_20 : decode cX4_isSigned 20 = .ok (.iaload, 1) := dk_46 (dk_at dksX4_isSigned_0 20 rfl rfl)
theorem dX4_isSigned_21 : decode cX4_isSigned 21 = .ok (.ishr, 1) := dk_122 (dk_at dksX4_isSigned_0 21 rfl rfl)
theorem dX4_isSigned_22 : decode cX4_isSigned 22 = .ok (.iconst 1, 1) := dk_4 (dk_at dksX4_isSigned_0 22 rfl rfl)
theorem dX4_isSigned_23 : decode cX4_isSigned 23 = .ok (.iand, 1) := dk_126 (dk_at dksX4_isSigned_0 23 rfl rfl)
theorem dX4_isSigned_24 : decode cX4_isSigned 24 = .ok (.iconst 1, 1) := dk_4 (dk_at dksX4_isSigned_1 0 rfl rfl)
theorem dX4_isSigned_25 : decode cX4_isSigned 25 = .ok (.if_icmp .ne 7, 3) := dk_160 0 7 (dk_at dksX4_isSigned_1 1 rfl rfl)
theorem dX4_isSigned_28 : decode cX4_isSigned 28 = .ok (.iconst 1, 1) := dk_4 (dk_at dksX4_isSigned_1 4 rfl rfl)
theorem dX4_isSigned_29 : decode cX4_isSigned 29 = .ok (.goto 4, 3) := dk_167 0 4 (dk_at dksX4_isSigned_1 5 rfl rfl)
theorem dX4_isSigned_32 : decode cX4_isSigned 32 = .ok (.iconst 0, 1) := dk_3 (dk_at dksX4_isSigned_1 8 rfl rfl)
theorem dX4_isSigned_33 : decode cX4_isSigned 33 = .ok (.ireturn, 1) := dk_172 (dk_at dksX4_isSigned_1 9 rfl rfl)
abbrev cX4_fewest : ByteArray := prog_10_method_81_code
def yX4_fewest : MethodName := ⟨RX4, "fewest", "(II)I"⟩
def dkwX4_fewest_2 : List UInt8 := [180, 1, 90, 167, 0, 7, 42, 180, 1, 93, 172]
abbrev dktX4_fewest_2 : List UInt8 := dkwX4_fewest_2 ++ []
def dkwX4_fewest_1 : List UInt8 := [167, 0, 4, 3, 4, 182, 0, 227, 153, 0, 5, 3, 172, 42, 27, 3, 182, 1, 106, 28, 154, 0, 10, 42]
abbrev dktX4_fewest_1 : List UInt8 := dkwX4_fewest_1 ++ dktX4_fewest_2
def dkwX4_fewest_0 : List UInt8 := [42, 3, 181, 0, 131, 42, 42, 27, 182, 1, 25, 153, 0, 12, 28, 3, 4, 184, 0, 165, 154, 0, 7, 4]
abbrev dktX4_fewest_0 : List UInt8 := dkwX4_fewest_0 ++ dktX4_fewest_1
theorem dksX4_fewest_0 : cX4_fewest.data.toList.drop 0 = dktX4_fewest_0 := by decide +kernel
theorem dksX4_fewest_1 : cX4_fewest.data.toList.drop 24 = dktX4_fewest_1 := dk_seg dksX4_fewest_0 24 rfl rfl
theorem dksX4_fewest_2 : cX4_fewest.data.toList.drop 48 = dktX4_fewest_2 := dk_seg dksX4_fewest_1 24 rfl rfl
theorem dX4_fewest_0 : decode cX4_fewest 0 = .ok (.aload_n 0, 1) := dk_42 (dk_at dksX4_fewest_0 0 rfl rfl)
theorem dX4_fewest_1 : decode cX4_fewest 1 = .ok (.iconst 0, 1) := dk_3 (dk_at dksX4_fewest_0 1 rfl rfl)
theorem dX4_fewest_2 : decode cX4_fewest 2 = .ok (.putfield 131, 3) := dk_181 0 131 (dk_at dksX4_fewest_0 2 rfl rfl)
theorem dX4_fewest_5 : decode cX4_fewest 5 = .ok (.aload_n 0, 1) := dk_42 (dk_at dksX4_fewest_0 5 rfl rfl)
theorem dX4_fewest_6 : decode cX4_fewest 6 = .ok (.aload_n 0, 1) := dk_42 (dk_at dksX4_fewest_0 6 rfl rfl)
theorem dX4_fewest_7 : decode cX4_fewest 7 = .ok (.iload_n 1, 1) := dk_27 (dk_at dksX4_fewest_0 7 rfl rfl)
theorem dX4_fewest_8 : decode cX4_fewest 8 = .ok (.invokevirtual 281, 3) := dk_182 1 25 (dk_at dksX4_fewest_0 8 rfl rfl)
theorem dX4_fewest_11 : decode cX4_fewest 11 = .ok (.ifCond .eq 12, 3) := dk_153 0 12 (dk_at dksX4_fewest_0 11 rfl rfl)
theorem dX4_fewest_14 : decode cX4_fewest 14 = .ok (.iload_n 2, 1) := dk_28 (dk_at dksX4_fewest_0 14 rfl rfl)
theorem dX4_fewest_15 : decode cX4_fewest 15 = .ok (.iconst 0, 1) := dk_3 (dk_at dksX4_fewest_0 15 rfl rfl)
theorem dX4_fewest_16 : decode cX4_fewest 16 = .ok (.iconst 1, 1) := dk_4 (dk_at dksX4_fewest_0 16 rfl rfl)
theorem dX4_fewest_17 : decode cX4_fewest 17 = .ok (.invokestatic 165, 3) := dk_184 0 165 (dk_at dksX4_fewest_0 17 rfl rfl)
theorem dX4_fewest_20 : decode cX4_fewest 20 = .ok (.ifCond .ne 7, 3) := dk_154 0 7 (dk_at dksX4_fewest_0 20 rfl rfl)
theorem dX4_fewest_23 : decode cX4_fewest 23 = .ok (.iconst 1, 1) := dk_4 (dk_at dksX4_fewest_0 23 rfl rfl)
theorem dX4_fewest_24 : decode cX4_fewest 24 = .ok (.goto 4, 3) := dk_167 0 4 (dk_at dksX4_fewest_1 0 rfl rfl)
theorem dX4_fewest_27 : decode cX4_fewest 27 = .ok (.iconst 0, 1) := dk_3 (dk_at dksX4_fewest_1 3 rfl rfl)
theorem dX4_fewest_28 : decode cX4_fewest 28 = .ok (.iconst 1, 1) := dk_4 (dk_at dksX4_fewest_1 4 rfl rfl)
theorem dX4_fewest_29 : decode cX4_fewest 29 = .ok (.invokevirtual 227, 3) := dk_182 0 227 (dk_at dksX4_fewest_1 5 rfl rfl)
theorem dX4_fewest_32 : decode cX4_fewest 32 = .ok (.ifCond .eq 5, 3) := dk_153 0 5 (dk_at dksX4_fewest_1 8 rfl rfl)
theorem dX4_fewest_35 : decode cX4_fewest 35 = .ok (.iconst 0, 1) := dk_3 (dk_at dksX4_fewest_1 11 rfl rfl)
theorem dX4_fewest_36 : decode cX4_fewest 36 = .ok (.ireturn, 1) := dk_172 (dk_at dksX4_fewest_1 12 rfl rfl)
theorem dX4_fewest_37 : decode cX4_fewest 37 = .ok (.aload_n 0, 1) := dk_42 (dk_at dksX4_fewest_1 13 rfl rfl)
theorem dX4_fewest_38 : decode cX4_fewest 38 = .ok (.iload_n 1, 1) := dk_27 (dk_at dksX4_fewest_1 14 rfl rfl)
theorem dX4_fewest_39 : decode cX4_fewest 39 = .ok (.iconst 0, 1) := dk_3 (dk_at dksX4_fewest_1 15 rfl rfl)
theorem dX4_fewest_40 : decode cX4_fewest 40 = .ok (.invokevirtual 362, 3) := dk_182 1 106 (dk_at dksX4_fewest_1 16 rfl rfl)
theorem dX4_fewest_43 : decode cX4_fewest 43 = .ok (.iload_n 2, 1) := dk_28 (dk_at dksX4_fewest_1 19 rfl rfl)
theorem dX4_fewest_44 : decode cX4_fewest 44 = .ok (.ifCond .ne 10, 3) := dk_154 0 10 (dk_at dksX4_fewest_1 20 rfl rfl)
theorem dX4_fewest_47 : decode cX4_fewest 47 = .ok (.aload_n 0, 1) := dk_42 (dk_at dksX4_fewest_1 23 rfl rfl)
theorem dX4_fewest_48 : decode cX4_fewest 48 = .ok (.getfield 346, 3) := dk_180 1 90 (dk_at dksX4_fewest_2 0 rfl rfl)
theorem dX4_fewest_51 : decode cX4_fewest 51 = .ok (.goto 7, 3) := dk_167 0 7 (dk_at dksX4_fewest_2 3 rfl rfl)
theorem dX4_fewest_54 : decode cX4_fewest 54 = .ok (.aload_n 0, 1) := dk_42 (dk_at dksX4_fewest_2 6 rfl rfl)
theorem dX4_fewest_55 : decode cX4_fewest 55 = .ok (.getfield 349, 3) := dk_180 1 93 (dk_at dksX4_fewest_2 7 rfl rfl)
theorem dX4_fewest_58 : decode cX4_fewest 58 = .ok (.ireturn, 1) := dk_172 (dk_at dksX4_fewest_2 10 rfl rfl)
abbrev cX4_findSet : ByteArray := prog_10_method_80_code
def yX4_findSet : MethodName := ⟨RX4, "findSet", "(IZ)V"⟩
def dkwX4_findSet_8 : List UInt8 := [182, 1, 99, 132, 5, 1, 167, 255, 223, 132, 3, 1, 167, 255, 75, 177]
abbrev dktX4_findSet_8 : List UInt8 := dkwX4_findSet_8 ++ []
def dkwX4_findSet_7 : List UInt8 := [180, 1, 78, 162, 0, 30, 29, 21, 5, 122, 4, 126, 4, 160, 0, 14, 42, 42, 180, 0, 77, 21, 5, 46]
abbrev dktX4_findSet_7 : List UInt8 := dkwX4_findSet_7 ++ dktX4_findSet_8
def dkwX4_findSet_6 : List UInt8 := [182, 1, 102, 153, 0, 14, 42, 21, 4, 181, 1, 90, 42, 29, 181, 1, 93, 3, 54, 5, 21, 5, 42]
abbrev dktX4_findSet_6 : List UInt8 := dkwX4_findSet_6 ++ dktX4_findSet_7
def dkwX4_findSet_5 : List UInt8 := [4, 160, 0, 14, 42, 42, 180, 0, 77, 21, 5, 46, 182, 1, 99, 132, 5, 1, 167, 255, 223, 42]
abbrev dktX4_findSet_5 : List UInt8 := dkwX4_findSet_5 ++ dktX4_findSet_6
def dkwX4_findSet_4 : List UInt8 := [161, 0, 6, 167, 0, 99, 3, 54, 5, 21, 5, 42, 180, 1, 78, 162, 0, 30, 29, 21, 5, 122, 4, 126]
abbrev dktX4_findSet_4 : List UInt8 := dkwX4_findSet_4 ++ dktX4_findSet_5
def dkwX4_findSet_3 : List UInt8 := [54, 4, 132, 5, 1, 167, 255, 213, 42, 180, 1, 90, 2, 159, 0, 15, 21, 4, 42, 180, 1, 90]
abbrev dktX4_findSet_3 : List UInt8 := dkwX4_findSet_3 ++ dktX4_findSet_4
def dkwX4_findSet_2 : List UInt8 := [4, 126, 28, 153, 0, 17, 42, 42, 180, 0, 77, 21, 5, 46, 182, 1, 96, 167, 0, 4, 4, 104, 96]
abbrev dktX4_findSet_2 : List UInt8 := dkwX4_findSet_2 ++ dktX4_findSet_3
def dkwX4_findSet_1 : List UInt8 := [162, 0, 177, 3, 54, 4, 3, 54, 5, 21, 5, 42, 180, 1, 78, 162, 0, 40, 21, 4, 29, 21, 5, 122]
abbrev dktX4_findSet_1 : List UInt8 := dkwX4_findSet_1 ++ dktX4_findSet_2
def dkwX4_findSet_0 : List UInt8 := [42, 27, 182, 1, 87, 42, 2, 181, 1, 90, 42, 2, 181, 1, 93, 3, 62, 29, 4, 42, 180, 1, 78, 120]
abbrev dktX4_findSet_0 : List UInt8 := dkwX4_findSet_0 ++ dktX4_findSet_1
theorem dksX4_findSet_0 : cX4_findSet.data.toList.drop 0 = dktX4_findSet_0 := by decide +kernel
theorem dksX4_findSet_1 : cX4_findSet.data.toList.drop 24 = dktX4_findSet_1 := dk_seg dksX4_findSet_0 24 rfl rfl
theorem dksX4_findSet_2 : cX4_findSet.data.toList.drop 48 = dktX4_findSet_2 := dk_seg dksX4_findSet_1 24 rfl rfl
theorem dksX4_findSet_3 : cX4_findSet.data.toList.drop 71 = dktX4_findSet_3 := dk_seg dksX4_findSet_2 23 rfl rfl
theorem dksX4_findSet_4 : cX4_findSet.data.toList.drop 93 = dktX4_findSet_4 := dk_seg dksX4_findSet_3 22 rfl rfl
theorem dksX4_findSet_5 : cX4_findSet.data.toList.drop 117 = dktX4_findSet_5 := dk_seg dksX4_findSet_4 24 rfl rfl
theorem dksX4_findSet_6 : cX4_findSet.data.toList.drop 139 = dktX4_findSet_6 := dk_seg dksX4_findSet_5 22 rfl rfl
theorem dksX4_findSet_7 : cX4_findSet.data.toList.drop 162 = dktX4_findSet_7 := dk_seg dksX4_findSet_6 23 rfl rfl
theorem dksX4_findSet_8 : cX4_findSet.data.toList.drop 186 = dktX4_findSet_8 := dk_seg dksX4_findSet_7 24 rfl rfl
theorem dX4_findSet_0 : decode cX4_findSet 0 = .ok (.aload_n 0, 1) := dk_42 (dk_at dksX4_findSet_0 0 rfl rfl)
theorem dX4_findSet_1 : decode cX4_findSet 1 = .ok (.iload_n 1, 1) := dk_27 (dk_at dksX4_findSet_0 1 rfl rfl)
theorem dX4_findSet_2 : decode cX4_findSet 2 = .ok (.invokevirtual 343, 3) := dk_182 1 87 (dk_at dksX4_findSet_0 2 rfl rfl)
theorem dX4_findSet_5 : decode cX4_findSet 5 = .ok (.aload_n 0, 1) := dk_42 (dk_at dksX4_findSet_0 5 rfl rfl)
theorem dX4_findSet_6 : decode cX4_findSet 6 = .ok (.iconst (-1), 1) := dk_2 (dk_at dksX4_findSet_0 6 rfl rfl)
theorem dX4_findSet_7 : decode cX4_findSet 7 = .ok (.putfield 346, 3) := dk_181 1 90 (dk_at dksX4_findSet_0 7 rfl rfl)
theorem dX4_findSet_10 : decode cX4_findSet 10 = .ok (.aload_n 0, 1) := dk_42 (dk_at dksX4_findSet_0 10 rfl rfl)
theorem dX4_findSet_11 : decode cX4_findSet 11 = .ok (.iconst (-1), 1) := dk_2 (dk_at dksX4_findSet_0 11 rfl rfl)
theorem dX4_findSet_12 : decode cX4_findSet 12 = .ok (.putfield 349, 3) := dk_181 1 93 (dk_at dksX4_findSet_0 12 rfl rfl)
theorem dX4_findSet_15 : decode cX4_findSet 15 = .ok (.iconst 0, 1) := dk_3 (dk_at dksX4_findSet_0 15 rfl rfl)
theorem dX4_findSet_16 : decode cX4_findSet 16 = .ok (.istore_n 3, 1) := dk_62 (dk_at dksX4_findSet_0 16 rfl rfl)
theorem dX4_findSet_17 : decode cX4_findSet 17 = .ok (.iload_n 3, 1) := dk_29 (dk_at dksX4_findSet_0 17 rfl rfl)
theorem dX4_findSet_18 : decode cX4_findSet 18 = .ok (.iconst 1, 1) := dk_4 (dk_at dksX4_findSet_0 18 rfl rfl)
theorem dX4_findSet_19 : decode cX4_findSet 19 = .ok (.aload_n 0, 1) := dk_42 (dk_at dksX4_findSet_0 19 rfl rfl)
theorem dX4_findSet_20 : decode cX4_findSet 20 = .ok (.getfield 334, 3) := dk_180 1 78 (dk_at dksX4_findSet_0 20 rfl rfl)
theorem dX4_findSet_23 : decode cX4_findSet 23 = .ok (.ishl, 1) := dk_120 (dk_at dksX4_findSet_0 23 rfl rfl)
theorem dX4_findSet_24 : decode cX4_findSet 24 = .ok (.if_icmp .ge 177, 3) := dk_162 0 177 (dk_at dksX4_findSet_1 0 rfl rfl)
theorem dX4_findSet_27 : decode cX4_findSet 27 = .ok (.iconst 0, 1) := dk_3 (dk_at dksX4_findSet_1 3 rfl rfl)
theorem dX4_findSet_28 : decode cX4_findSet 28 = .ok (.istore 4, 2) := dk_54 4 (dk_at dksX4_findSet_1 4 rfl rfl)
theorem dX4_findSet_30 : decode cX4_findSet 30 = .ok (.iconst 0, 1) := dk_3 (dk_at dksX4_findSet_1 6 rfl rfl)
theorem dX4_findSet_31 : decode cX4_findSet 31 = .ok (.istore 5, 2) := dk_54 5 (dk_at dksX4_findSet_1 7 rfl rfl)
theorem dX4_findSet_33 : decode cX4_findSet 33 = .ok (.iload 5, 2) := dk_21 5 (dk_at dksX4_findSet_1 9 rfl rfl)
theorem dX4_findSet_35 : decode cX4_findSet 35 = .ok (.aload_n 0, 1) := dk_42 (dk_at dksX4_findSet_1 11 rfl rfl)
theorem dX4_findSet_36 : decode cX4_findSet 36 = .ok (.getfield 334, 3) := dk_180 1 78 (dk_at dksX4_findSet_1 12 rfl rfl)
theorem dX4_findSet_39 : decode cX4_findSet 39 = .ok (.if_icmp .ge 40, 3) := dk_162 0 40 (dk_at dksX4_findSet_1 15 rfl rfl)
theorem dX4_findSet_42 : decode cX4_findSet 42 = .ok (.iload 4, 2) := dk_21 4 (dk_at dksX4_findSet_1 18 rfl rfl)
theorem dX4_findSet_44 : decode cX4_findSet 44 = .ok (.iload_n 3, 1) := dk_29 (dk_at dksX4_findSet_1 20 rfl rfl)
theorem dX4_findSet_45 : decode cX4_findSet 45 = .ok (.iload 5, 2) := dk_21 5 (dk_at dksX4_findSet_1 21 rfl rfl)
theorem dX4_findSet_47 : decode cX4_findSet 47 = .ok (.ishr, 1) := dk_122 (dk_at dksX4_findSet_1 23 rfl rfl)
theorem dX4_findSet_48 : decode cX4_findSet 48 = .ok (.iconst 1, 1) := dk_4 (dk_at dksX4_findSet_2 0 rfl rfl)
theorem dX4_findSet_49 : decode cX4_findSet 49 = .ok (.iand, 1) := dk_126 (dk_at dksX4_findSet_2 1 rfl rfl)
theorem dX4_findSet_50 : decode cX4_findSet 50 = .ok (.iload_n 2, 1) := dk_28 (dk_at dksX4_findSet_2 2 rfl rfl)
theorem dX4_findSet_51 : decode cX4_findSet 51 = .ok (.ifCond .eq 17, 3) := dk_153 0 17 (dk_at dksX4_findSet_2 3 rfl rfl)
theorem dX4_findSet_54 : decode cX4_findSet 54 = .ok (.aload_n 0, 1) := dk_42 (dk_at dksX4_findSet_2 6 rfl rfl)
theorem dX4_findSet_55 : decode cX4_findSet 55 = .ok (.aload_n 0, 1) := dk_42 (dk_at dksX4_findSet_2 7 rfl rfl)
theorem dX4_findSet_56 : decode cX4_findSet 56 = .ok (.getfield 77, 3) := dk_180 0 77 (dk_at dksX4_findSet_2 8 rfl rfl)
theorem dX4_findSet_59 : decode cX4_findSet 59 = .ok (.iload 5, 2) := dk_21 5 (dk_at dksX4_findSet_2 11 rfl rfl)
theorem dX4_findSet_61 : decode cX4_findSet 61 = .ok (.iaload, 1) := dk_46 (dk_at dksX4_findSet_2 13 rfl rfl)
theorem dX4_findSet_62 : decode cX4_findSet 62 = .ok (.invokevirtual 352, 3) := dk_182 1 96 (dk_at dksX4_findSet_2 14 rfl rfl)
theorem dX4_findSet_65 : decode cX4_findSet 65 = .ok (.goto 4, 3) := dk_167 0 4 (dk_at dksX4_findSet_2 17 rfl rfl)
theorem dX4_findSet_68 : decode cX4_findSet 68 = .ok (.iconst 1, 1) := dk_4 (dk_at dksX4_findSet_2 20 rfl rfl)
theorem dX4_findSet_69 : decode cX4_findSet 69 = .ok (.imul, 1) := dk_104 (dk_at dksX4_findSet_2 21 rfl rfl)
theorem dX4_findSet_70 : decode cX4_findSet 70 = .ok (.iadd, 1) := dk_96 (dk_at dksX4_findSet_2 22 rfl rfl)
theorem dX4_findSet_71 : decode cX4_findSet 71 = .ok (.istore 4, 2) := dk_54 4 (dk_at dksX4_findSet_3 0 rfl rfl)
theorem dX4_findSet_73 : decode cX4_findSet 73 = .ok (.iinc 5 1, 3) := dk_132 5 1 (dk_at dksX4_findSet_3 2 rfl rfl)
theorem dX4_findSet_76 : decode cX4_findSet 76 = .ok (.goto (-43), 3) := dk_167 255 213 (dk_at dksX4_findSet_3 5 rfl rfl)
theorem dX4_findSet_79 : decode cX4_findSet 79 = .ok (.aload_n 0, 1) := dk_42 (dk_at dksX4_findSet_3 8 rfl rfl)
theorem dX4_findSet_80 : decode cX4_findSet 80 = .ok (.getfield 346, 3) := dk_180 1 90 (dk_at dksX4_findSet_3 9 rfl rfl)
theorem dX4_findSet_83 : decode cX4_findSet 83 = .ok (.iconst (-1), 1) := dk_2 (dk_at dksX4_findSet_3 12 rfl rfl)
theorem dX4_findSet_84 : decode cX4_findSet 84 = .ok (.if_icmp .eq 15, 3) := dk_159 0 15 (dk_at dksX4_findSet_3 13 rfl rfl)
theorem dX4_findSet_87 : decode cX4_findSet 87 = .ok (.iload 4, 2) := dk_21 4 (dk_at dksX4_findSet_3 16 rfl rfl)
theorem dX4_findSet_89 : decode cX4_findSet 89 = .ok (.aload_n 0, 1) := dk_42 (dk_at dksX4_findSet_3 18 rfl rfl)
theorem dX4_findSet_90 : decode cX4_findSet 90 = .ok (.getfield 346, 3) := dk_180 1 90 (dk_at dksX4_findSet_3 19 rfl rfl)
theorem dX4_findSet_93 : decode cX4_findSet 93 = .ok (.if_icmp .lt 6, 3) := dk_161 0 6 (dk_at dksX4_findSet_4 0 rfl rfl)
theorem dX4_findSet_96 : decode cX4_findSet 96 = .ok (.goto 99, 3) := dk_167 0 99 (dk_at dksX4_findSet_4 3 rfl rfl)
theorem dX4_findSet_99 : decode cX4_findSet 99 = .ok (.iconst 0, 1) := dk_3 (dk_at dksX4_findSet_4 6 rfl rfl)
theorem dX4_findSet_100 : decode cX4_findSet 100 = .ok (.istore 5, 2) := dk_54 5 (dk_at dksX4_findSet_4 7 rfl rfl)
theorem dX4_findSet_102 : decode cX4_findSet 102 = .ok (.iload 5, 2) := dk_21 5 (dk_at dksX4_findSet_4 9 rfl rfl)
theorem dX4_findSet_104 : decode cX4_findSet 104 = .ok (.aload_n 0, 1) := dk_42 (dk_at dksX4_findSet_4 11 rfl rfl)
theorem dX4_findSet_105 : decode cX4_findSet 105 = .ok (.getfield 334, 3) := dk_180 1 78 (dk_at dksX4_findSet_4 12 rfl rfl)
theorem dX4_findSet_108 : decode cX4_findSet 108 = .ok (.if_icmp .ge 30, 3) := dk_162 0 30 (dk_at dksX4_findSet_4 15 rfl rfl)
theorem dX4_findSet_111 : decode cX4_findSet 111 = .ok (.iload_n 3, 1) := dk_29 (dk_at dksX4_findSet_4 18 rfl rfl)
theorem dX4_findSet_112 : decode cX4_findSet 112 = .ok (.iload 5, 2) := dk_21 5 (dk_at dksX4_findSet_4 19 rfl rfl)
theorem dX4_findSet_114 : decode cX4_findSet 114 = .ok (.ishr, 1) := dk_122 (dk_at dksX4_findSet_4 21 rfl rfl)
theorem dX4_findSet_115 : decode cX4_findSet 115 = .ok (.iconst 1, 1) := dk_4 (dk_at dksX4_findSet_4 22 rfl rfl)
theorem dX4_findSet_116 : decode cX4_findSet 116 = .ok (.iand, 1) := dk_126 (dk_at dksX4_findSet_4 23 rfl rfl)
theorem dX4_findSet_117 : decode cX4_findSet 117 = .ok (.iconst 1, 1) := dk_4 (dk_at dksX4_findSet_5 0 rfl rfl)
theorem dX4_findSet_118 : decode cX4_findSet 118 = .ok (.if_icmp .ne 14, 3) := dk_160 0 14 (dk_at dksX4_findSet_5 1 rfl rfl)
theorem dX4_findSet_121 : decode cX4_findSet 121 = .ok (.aload_n 0, 1) := dk_42 (dk_at dksX4_findSet_5 4 rfl rfl)
theorem dX4_findSet_122 : decode cX4_findSet 122 = .ok (.aload_n 0, 1) := dk_42 (dk_at dksX4_findSet_5 5 rfl rfl)
theorem dX4_findSet_123 : decode cX4_findSet 123 = .ok (.getfield 77, 3) := dk_180 0 77 (dk_at dksX4_findSet_5 6 rfl rfl)
theorem dX4_findSet_126 : decode cX4_findSet 126 = .ok (.iload 5, 2) := dk_21 5 (dk_at dksX4_findSet_5 9 rfl rfl)
theorem dX4_findSet_128 : decode cX4_findSet 128 = .ok (.iaload, 1) := dk_46 (dk_at dksX4_findSet_5 11 rfl rfl)
theorem dX4_findSet_129 : decode cX4_findSet 129 = .ok (.invokevirtual 355, 3) := dk_182 1 99 (dk_at dksX4_findSet_5 12 rfl rfl)
theorem dX4_findSet_132 : decode cX4_findSet 132 = .ok (.iinc 5 1, 3) := dk_132 5 1 (dk_at dksX4_findSet_5 15 rfl rfl)
theorem dX4_findSet_135 : decode cX4_findSet 135 = .ok (.goto (-33), 3) := dk_167 255 223 (dk_at dksX4_findSet_5 18 rfl rfl)
theorem dX4_findSet_138 : decode cX4_findSet 138 = .ok (.aload_n 0, 1) := dk_42 (dk_at dksX4_findSet_5 21 rfl rfl)
theorem dX4_findSet_139 : decode cX4_findSet 139 = .ok (.invokevirtual 358, 3) := dk_182 1 102 (dk_at dksX4_findSet_6 0 rfl rfl)
theorem dX4_findSet_142 : decode cX4_findSet 142 = .ok (.ifCond .eq 14, 3) := dk_153 0 14 (dk_at dksX4_findSet_6 3 rfl rfl)
theorem dX4_findSet_145 : decode cX4_findSet 145 = .ok (.aload_n 0, 1) := dk_42 (dk_at dksX4_findSet_6 6 rfl rfl)
theorem dX4_findSet_146 : decode cX4_findSet 146 = .ok (.iload 4, 2) := dk_21 4 (dk_at dksX4_findSet_6 7 rfl rfl)
theorem dX4_findSet_148 : decode cX4_findSet 148 = .ok (.putfield 346, 3) := dk_181 1 90 (dk_at dksX4_findSet_6 9 rfl rfl)
theorem dX4_findSet_151 : decode cX4_findSet 151 = .ok (.aload_n 0, 1) := dk_42 (dk_at dksX4_findSet_6 12 rfl rfl)
theorem dX4_findSet_152 : decode cX4_findSet 152 = .ok (.iload_n 3, 1) := dk_29 (dk_at dksX4_findSet_6 13 rfl rfl)
theorem dX4_findSet_153 : decode cX4_findSet 153 = .ok (.putfield 349, 3) := dk_181 1 93 (dk_at dksX4_findSet_6 14 rfl rfl)
theorem dX4_findSet_156 : decode cX4_findSet 156 = .ok (.iconst 0, 1) := dk_3 (dk_at dksX4_findSet_6 17 rfl rfl)
theorem dX4_findSet_157 : decode cX4_findSet 157 = .ok (.istore 5, 2) := dk_54 5 (dk_at dksX4_findSet_6 18 rfl rfl)
theorem dX4_findSet_159 : decode cX4_findSet 159 = .ok (.iload 5, 2) := dk_21 5 (dk_at dksX4_findSet_6 20 rfl rfl)
theorem dX4_findSet_161 : decode cX4_findSet 161 = .ok (.aload_n 0, 1) := dk_42 (dk_at dksX4_findSet_6 22 rfl rfl)
theorem dX4_findSet_162 : decode cX4_findSet 162 = .ok (.getfield 334, 3) := dk_180 1 78 (dk_at dksX4_findSet_7 0 rfl rfl)
theorem dX4_findSet_165 : decode cX4_findSet 165 = .ok (.if_icmp .ge 30, 3) := dk_162 0 30 (dk_at dksX4_findSet_7 3 rfl rfl)
theorem dX4_findSet_168 : decode cX4_findSet 168 = .ok (.iload_n 3, 1) := dk_29 (dk_at dksX4_findSet_7 6 rfl rfl)
theorem dX4_findSet_169 : decode cX4_findSet 169 = .ok (.iload 5, 2) := dk_21 5 (dk_at dksX4_findSet_7 7 rfl rfl)
theorem dX4_findSet_171 : decode cX4_findSet 171 = .ok (.ishr, 1) := dk_122 (dk_at dksX4_findSet_7 9 rfl rfl)
theorem dX4_findSet_172 : decode cX4_findSet 172 = .ok (.iconst 1, 1) := dk_4 (dk_at dksX4_findSet_7 10 rfl rfl)
theorem dX4_findSet_173 : decode cX4_findSet 173 = .ok (.iand, 1) := dk_126 (dk_at dksX4_findSet_7 11 rfl rfl)
theorem dX4_findSet_174 : decode cX4_findSet 174 = .ok (.iconst 1, 1) := dk_4 (dk_at dksX4_findSet_7 12 rfl rfl)
theorem dX4_findSet_175 : decode cX4_findSet 175 = .ok (.if_icmp .ne 14, 3) := dk_160 0 14 (dk_at dksX4_findSet_7 13 rfl rfl)
theorem dX4_findSet_178 : decode cX4_findSet 178 = .ok (.aload_n 0, 1) := dk_42 (dk_at dksX4_findSet_7 16 rfl rfl)
theorem dX4_findSet_179 : decode cX4_findSet 179 = .ok (.aload_n 0, 1) := dk_42 (dk_at dksX4_findSet_7 17 rfl rfl)
theorem dX4_findSet_180 : decode cX4_findSet 180 = .ok (.getfield 77, 3) := dk_180 0 77 (dk_at dksX4_findSet_7 18 rfl rfl)
theorem dX4_findSet_183 : decode cX4_findSet 183 = .ok (.iload 5, 2) := dk_21 5 (dk_at dksX4_findSet_7 21 rfl rfl)
theorem dX4_findSet_185 : decode cX4_findSet 185 = .ok (.iaload, 1) := dk_46 (dk_at dksX4_findSet_7 23 rfl rfl)
theorem dX4_findSet_186 : decode cX4_findSet 186 = .ok (.invokevirtual 355, 3) := dk_182 1 99 (dk_at dksX4_findSet_8 0 rfl rfl)
theorem dX4_findSet_189 : decode cX4_findSet 189 = .ok (.iinc 5 1, 3) := dk_132 5 1 (dk_at dksX4_findSet_8 3 rfl rfl)
theorem dX4_findSet_192 : decode cX4_findSet 192 = .ok (.goto (-33), 3) := dk_167 255 223 (dk_at dksX4_findSet_8 6 rfl rfl)
theorem dX4_findSet_195 : decode cX4_findSet 195 = .ok (.iinc 3 1, 3) := dk_132 3 1 (dk_at dksX4_findSet_8 9 rfl rfl)
theorem dX4_findSet_198 : decode cX4_findSet 198 = .ok (.goto (-181), 3) := dk_167 255 75 (dk_at dksX4_findSet_8 12 rfl rfl)
theorem dX4_findSet_201 : decode cX4_findSet 201 = .ok (.return_, 1) := dk_177 (dk_at dksX4_findSet_8 15 rfl rfl)
abbrev cX4_costOf : ByteArray := prog_10_method_79_code
def yX4_costOf : MethodName := ⟨RX4, "costOf", "(I)I"⟩
def dkwX4_costOf_1 : List UInt8 := [27, 50, 4, 46, 50, 5, 46, 96, 16, 10, 108, 96, 172]
abbrev dktX4_costOf_1 : List UInt8 := dkwX4_costOf_1 ++ []
def dkwX4_costOf_0 : List UInt8 := [4, 42, 180, 0, 34, 42, 180, 0, 71, 27, 50, 3, 46, 50, 5, 46, 42, 180, 0, 34, 42, 180, 0, 71]
abbrev dktX4_costOf_0 : List UInt8 := dkwX4_costOf_0 ++ dktX4_costOf_1
theorem dksX4_costOf_0 : cX4_costOf.data.toList.drop 0 = dktX4_costOf_0 := by decide +kernel
theorem dksX4_costOf_1 : cX4_costOf.data.toList.drop 24 = dktX4_costOf_1 := dk_seg dksX4_costOf_0 24 rfl rfl
theorem dX4_costOf_0 : decode cX4_costOf 0 = .ok (.iconst 1, 1) := dk_4 (dk_at dksX4_costOf_0 0 rfl rfl)
theorem dX4_costOf_1 : decode cX4_costOf 1 = .ok (.aload_n 0, 1) := dk_42 (dk_at dksX4_costOf_0 1 rfl rfl)
theorem dX4_costOf_2 : decode cX4_costOf 2 = .ok (.getfield 34, 3) := dk_180 0 34 (dk_at dksX4_costOf_0 2 rfl rfl)
theorem dX4_costOf_5 : decode cX4_costOf 5 = .ok (.aload_n 0, 1) := dk_42 (dk_at dksX4_costOf_0 5 rfl rfl)
theorem dX4_costOf_6 : decode cX4_costOf 6 = .ok (.getfield 71, 3) := dk_180 0 71 (dk_at dksX4_costOf_0 6 rfl rfl)
theorem dX4_costOf_9 : decode cX4_costOf 9 = .ok (.iload_n 1, 1) := dk_27 (dk_at dksX4_costOf_0 9 rfl rfl)
theorem dX4_costOf_10 : decode cX4_costOf 10 = .ok (.aaload, 1) := dk_50 (dk_at dksX4_costOf_0 10 rfl rfl)
theorem dX4_costOf_11 : decode cX4_costOf 11 = .ok (.iconst 0, 1) := dk_3 (dk_at dksX4_costOf_0 11 rfl rfl)
theorem dX4_costOf_12 : decode cX4_costOf 12 = .ok (.iaload, 1) := dk_46 (dk_at dksX4_costOf_0 12 rfl rfl)
theorem dX4_costOf_13 : decode cX4_costOf 13 = .ok (.aaload, 1) := dk_50 (dk_at dksX4_costOf_0 13 rfl rfl)
theorem dX4_costOf_14 : decode cX4_costOf 14 = .ok (.iconst 2, 1) := dk_5 (dk_at dksX4_costOf_0 14 rfl rfl)
theorem dX4_costOf_15 : decode cX4_costOf 15 = .ok (.iaload, 1) := dk_46 (dk_at dksX4_costOf_0 15 rfl rfl)
theorem dX4_costOf_16 : decode cX4_costOf 16 = .ok (.aload_n 0, 1) := dk_42 (dk_at dksX4_costOf_0 16 rfl rfl)
theorem dX4_costOf_17 : decode cX4_costOf 17 = .ok (.getfield 34, 3) := dk_180 0 34 (dk_at dksX4_costOf_0 17 rfl rfl)
theorem dX4_costOf_20 : decode cX4_costOf 20 = .ok (.aload_n 0, 1) := dk_42 (dk_at dksX4_costOf_0 20 rfl rfl)
theorem dX4_costOf_21 : decode cX4_costOf 21 = .ok (.getfield 71, 3) := dk_180 0 71 (dk_at dksX4_costOf_0 21 rfl rfl)
theorem dX4_costOf_24 : decode cX4_costOf 24 = .ok (.iload_n 1, 1) := dk_27 (dk_at dksX4_costOf_1 0 rfl rfl)
theorem dX4_costOf_25 : decode cX4_costOf 25 = .ok (.aaload, 1) := dk_50 (dk_at dksX4_costOf_1 1 rfl rfl)
theorem dX4_costOf_26 : decode cX4_costOf 26 = .ok (.iconst 1, 1) := dk_4 (dk_at dksX4_costOf_1 2 rfl rfl)
theorem dX4_costOf_27 : decode cX4_costOf 27 = .ok (.iaload, 1) := dk_46 (dk_at dksX4_costOf_1 3 rfl rfl)
theorem dX4_costOf_28 : decode cX4_costOf 28 = .ok (.aaload, 1) := dk_50 (dk_at dksX4_costOf_1 4 rfl rfl)
theorem dX4_costOf_29 : decode cX4_costOf 29 = .ok (.iconst 2, 1) := dk_5 (dk_at dksX4_costOf_1 5 rfl rfl)
theorem dX4_costOf_30 : decode cX4_costOf 30 = .ok (.iaload, 1) := dk_46 (dk_at dksX4_costOf_1 6 rfl rfl)
theorem dX4_costOf_31 : decode cX4_costOf 31 = .ok (.iadd, 1) := dk_96 (dk_at dksX4_costOf_1 7 rfl rfl)
theorem dX4_costOf_32 : decode cX4_costOf 32 = .ok (.bipush 10, 2) := dk_16 10 (dk_at dksX4_costOf_1 8 rfl rfl)
theorem dX4_costOf_34 : decode cX4_costOf 34 = .ok (.idiv, 1) := dk_108 (dk_at dksX4_costOf_1 10 rfl rfl)
theorem dX4_costOf_35 : decode cX4_costOf 35 = .ok (.iadd, 1) := dk_96 (dk_at dksX4_costOf_1 11 rfl rfl)
theorem dX4_costOf_36 : decode cX4_costOf 36 = .ok (.ireturn, 1) := dk_172 (dk_at dksX4_costOf_1 12 rfl rfl)
abbrev cX4_flips : ByteArray := prog_10_method_78_code
def yX4_flips : MethodName := ⟨RX4, "flips", "(I)V"⟩
def dkwX4_flips_1 : List UInt8 := [130, 79, 177]
abbrev dktX4_flips_1 : List UInt8 := dkwX4_flips_1 ++ []
def dkwX4_flips_0 : List UInt8 := [42, 180, 0, 58, 42, 180, 0, 71, 27, 50, 3, 46, 92, 46, 4, 42, 180, 0, 71, 27, 50, 4, 46, 120]
abbrev dktX4_flips_0 : List UInt8 := dkwX4_flips_0 ++ dktX4_flips_1
theorem dksX4_flips_0 : cX4_flips.data.toList.drop 0 = dktX4_flips_0 := by decide +kernel
theorem dksX4_flips_1 : cX4_flips.data.toList.drop 24 = dktX4_flips_1 := dk_seg dksX4_flips_0 24 rfl rfl
theorem dX4_flips_0 : decode cX4_flips 0 = .ok (.aload_n 0, 1) := dk_42 (dk_at dksX4_flips_0 0 rfl rfl)
theorem dX4_flips_1 : decode cX4_flips 1 = .ok (.getfield 58, 3) := dk_180 0 58 (dk_at dksX4_flips_0 1 rfl rfl)
theorem dX4_flips_4 : decode cX4_flips 4 = .ok (.aload_n 0, 1) := dk_42 (dk_at dksX4_flips_0 4 rfl rfl)
theorem dX4_flips_5 : decode cX4_flips 5 = .ok (.getfield 71, 3) := dk_180 0 71 (dk_at dksX4_flips_0 5 rfl rfl)
theorem dX4_flips_8 : decode cX4_flips 8 = .ok (.iload_n 1, 1) := dk_27 (dk_at dksX4_flips_0 8 rfl rfl)
theorem dX4_flips_9 : decode cX4_flips 9 = .ok (.aaload, 1) := dk_50 (dk_at dksX4_flips_0 9 rfl rfl)
theorem dX4_flips_10 : decode cX4_flips 10 = .ok (.iconst 0, 1) := dk_3 (dk_at dksX4_flips_0 10 rfl rfl)
theorem dX4_flips_11 : decode cX4_flips 11 = .ok (.iaload, 1) := dk_46 (dk_at dksX4_flips_0 11 rfl rfl)
theorem dX4_flips_12 : decode cX4_flips 12 = .ok (.dup2, 1) := dk_92 (dk_at dksX4_flips_0 12 rfl rfl)
theorem dX4_flips_13 : decode cX4_flips 13 = .ok (.iaload, 1) := dk_46 (dk_at dksX4_flips_0 13 rfl rfl)
theorem dX4_flips_14 : decode cX4_flips 14 = .ok (.iconst 1, 1) := dk_4 (dk_at dksX4_flips_0 14 rfl rfl)
theorem dX4_flips_15 : decode cX4_flips 15 = .ok (.aload_n 0, 1) := dk_42 (dk_at dksX4_flips_0 15 rfl rfl)
theorem dX4_flips_16 : decode cX4_flips 16 = .ok (.getfield 71, 3) := dk_180 0 71 (dk_at dksX4_flips_0 16 rfl rfl)
theorem dX4_flips_19 : decode cX4_flips 19 = .ok (.iload_n 1, 1) := dk_27 (dk_at dksX4_flips_0 19 rfl rfl)
theorem dX4_flips_20 : decode cX4_flips 20 = .ok (.aaload, 1) := dk_50 (dk_at dksX4_flips_0 20 rfl rfl)
theorem dX4_flips_21 : decode cX4_flips 21 = .ok (.iconst 1, 1) := dk_4 (dk_at dksX4_flips_0 21 rfl rfl)
theorem dX4_flips_22 : decode cX4_flips 22 = .ok (.iaload, 1) := dk_46 (dk_at dksX4_flips_0 22 rfl rfl)
theorem dX4_flips_23 : decode cX4_flips 23 = .ok (.ishl, 1) := dk_120 (dk_at dksX4_flips_0 23 rfl rfl)
theorem dX4_flips_24 : decode cX4_flips 24 = .ok (.ixor, 1) := dk_130 (dk_at dksX4_flips_1 0 rfl rfl)
theorem dX4_flips_25 : decode cX4_flips 25 = .ok (.iastore, 1) := dk_79 (dk_at dksX4_flips_1 1 rfl rfl)
theorem dX4_flips_26 : decode cX4_flips 26 = .ok (.return_, 1) := dk_177 (dk_at dksX4_flips_1 2 rfl rfl)
abbrev cX4_isOpen : ByteArray := prog_10_method_70_code
def yX4_isOpen : MethodName := ⟨RX4, "isOpen", "()Z"⟩
def dkwX4_isOpen_1 : List UInt8 := [167, 0, 4, 3, 172]
abbrev dktX4_isOpen_1 : List UInt8 := dkwX4_isOpen_1 ++ []
def dkwX4_isOpen_0 : List UInt8 := [42, 182, 1, 75, 42, 180, 0, 20, 3, 46, 42, 180, 0, 20, 3, 46, 4, 100, 104, 160, 0, 7, 4]
abbrev dktX4_isOpen_0 : List UInt8 := dkwX4_isOpen_0 ++ dktX4_isOpen_1
theorem dksX4_isOpen_0 : cX4_isOpen.data.toList.drop 0 = dktX4_isOpen_0 := by decide +kernel
theorem dksX4_isOpen_1 : cX4_isOpen.data.toList.drop 23 = dktX4_isOpen_1 := dk_seg dksX4_isOpen_0 23 rfl rfl
theorem dX4_isOpen_0 : decode cX4_isOpen 0 = .ok (.aload_n 0, 1) := dk_42 (dk_at dksX4_isOpen_0 0 rfl rfl)
theorem dX4_isOpen_1 : decode cX4_isOpen 1 = .ok (.invokevirtual 331, 3) := dk_182 1 75 (dk_at dksX4_isOpen_0 1 rfl rfl)
theorem dX4_isOpen_4 : decode cX4_isOpen 4 = .ok (.aload_n 0, 1) := dk_42 (dk_at dksX4_isOpen_0 4 rfl rfl)
theorem dX4_isOpen_5 : decode cX4_isOpen 5 = .ok (.getfield 20, 3) := dk_180 0 20 (dk_at dksX4_isOpen_0 5 rfl rfl)
theorem dX4_isOpen_8 : decode cX4_isOpen 8 = .ok (.iconst 0, 1) := dk_3 (dk_at dksX4_isOpen_0 8 rfl rfl)
theorem dX4_isOpen_9 : decode cX4_isOpen 9 = .ok (.iaload, 1) := dk_46 (dk_at dksX4_isOpen_0 9 rfl rfl)
theorem dX4_isOpen_10 : decode cX4_isOpen 10 = .ok (.aload_n 0, 1) := dk_42 (dk_at dksX4_isOpen_0 10 rfl rfl)
theorem dX4_isOpen_11 : decode cX4_isOpen 11 = .ok (.getfield 20, 3) := dk_180 0 20 (dk_at dksX4_isOpen_0 11 rfl rfl)
theorem dX4_isOpen_14 : decode cX4_isOpen 14 = .ok (.iconst 0, 1) := dk_3 (dk_at dksX4_isOpen_0 14 rfl rfl)
theorem dX4_isOpen_15 : decode cX4_isOpen 15 = .ok (.iaload, 1) := dk_46 (dk_at dksX4_isOpen_0 15 rfl rfl)
theorem dX4_isOpen_16 : decode cX4_isOpen 16 = .ok (.iconst 1, 1) := dk_4 (dk_at dksX4_isOpen_0 16 rfl rfl)
theorem dX4_isOpen_17 : decode cX4_isOpen 17 = .ok (.isub, 1) := dk_100 (dk_at dksX4_isOpen_0 17 rfl rfl)
theorem dX4_isOpen_18 : decode cX4_isOpen 18 = .ok (.imul, 1) := dk_104 (dk_at dksX4_isOpen_0 18 rfl rfl)
theorem dX4_isOpen_19 : decode cX4_isOpen 19 = .ok (.if_icmp .ne 7, 3) := dk_160 0 7 (dk_at dksX4_isOpen_0 19 rfl rfl)
theorem dX4_isOpen_22 : decode cX4_isOpen 22 = .ok (.iconst 1, 1) := dk_4 (dk_at dksX4_isOpen_0 22 rfl rfl)
theorem dX4_isOpen_23 : decode cX4_isOpen 23 = .ok (.goto 4, 3) := dk_167 0 4 (dk_at dksX4_isOpen_1 0 rfl rfl)
theorem dX4_isOpen_26 : decode cX4_isOpen 26 = .ok (.iconst 0, 1) := dk_3 (dk_at dksX4_isOpen_1 3 rfl rfl)
theorem dX4_isOpen_27 : decode cX4_isOpen 27 = .ok (.ireturn, 1) := dk_172 (dk_at dksX4_isOpen_1 4 rfl rfl)
abbrev cX4_cheapest : ByteArray := prog_10_method_82_code
def yX4_cheapest : MethodName := ⟨RX4, "cheapest", "(II)I"⟩
def dkwX4_cheapest_2 : List UInt8 := [180, 1, 90, 167, 0, 7, 42, 180, 1, 93, 172]
abbrev dktX4_cheapest_2 : List UInt8 := dkwX4_cheapest_2 ++ []
def dkwX4_cheapest_1 : List UInt8 := [167, 0, 4, 3, 4, 182, 0, 227, 153, 0, 5, 3, 172, 42, 27, 4, 182, 1, 106, 28, 154, 0, 10, 42]
abbrev dktX4_cheapest_1 : List UInt8 := dkwX4_cheapest_1 ++ dktX4_cheapest_2
def dkwX4_cheapest_0 : List UInt8 := [42, 3, 181, 0, 131, 42, 42, 27, 182, 1, 25, 153, 0, 12, 28, 3, 4, 184, 0, 165, 154, 0, 7, 4]
abbrev dktX4_cheapest_0 : List UInt8 := dkwX4_cheapest_0 ++ dktX4_cheapest_1
theorem dksX4_cheapest_0 : cX4_cheapest.data.toList.drop 0 = dktX4_cheapest_0 := by decide +kernel
theorem dksX4_cheapest_1 : cX4_cheapest.data.toList.drop 24 = dktX4_cheapest_1 := dk_seg dksX4_cheapest_0 24 rfl rfl
theorem dksX4_cheapest_2 : cX4_cheapest.data.toList.drop 48 = dktX4_cheapest_2 := dk_seg dksX4_cheapest_1 24 rfl rfl
theorem dX4_cheapest_0 : decode cX4_cheapest 0 = .ok (.aload_n 0, 1) := dk_42 (dk_at dksX4_cheapest_0 0 rfl rfl)
theorem dX4_cheapest_1 : decode cX4_cheapest 1 = .ok (.iconst 0, 1) := dk_3 (dk_at dksX4_cheapest_0 1 rfl rfl)
theorem dX4_cheapest_2 : decode cX4_cheapest 2 = .ok (.putfield 131, 3) := dk_181 0 131 (dk_at dksX4_cheapest_0 2 rfl rfl)
theorem dX4_cheapest_5 : decode cX4_cheapest 5 = .ok (.aload_n 0, 1) := dk_42 (dk_at dksX4_cheapest_0 5 rfl rfl)
theorem dX4_cheapest_6 : decode cX4_cheapest 6 = .ok (.aload_n 0, 1) := dk_42 (dk_at dksX4_cheapest_0 6 rfl rfl)
theorem dX4_cheapest_7 : decode cX4_cheapest 7 = .ok (.iload_n 1, 1) := dk_27 (dk_at dksX4_cheapest_0 7 rfl rfl)
theorem dX4_cheapest_8 : decode cX4_cheapest 8 = .ok (.invokevirtual 281, 3) := dk_182 1 25 (dk_at dksX4_cheapest_0 8 rfl rfl)
theorem dX4_cheapest_11 : decode cX4_cheapest 11 = .ok (.ifCond .eq 12, 3) := dk_153 0 12 (dk_at dksX4_cheapest_0 11 rfl rfl)
theorem dX4_cheapest_14 : decode cX4_cheapest 14 = .ok (.iload_n 2, 1) := dk_28 (dk_at dksX4_cheapest_0 14 rfl rfl)
theorem dX4_cheapest_15 : decode cX4_cheapest 15 = .ok (.iconst 0, 1) := dk_3 (dk_at dksX4_cheapest_0 15 rfl rfl)
theorem dX4_cheapest_16 : decode cX4_cheapest 16 = .ok (.iconst 1, 1) := dk_4 (dk_at dksX4_cheapest_0 16 rfl rfl)
theorem dX4_cheapest_17 : decode cX4_cheapest 17 = .ok (.invokestatic 165, 3) := dk_184 0 165 (dk_at dksX4_cheapest_0 17 rfl rfl)
theorem dX4_cheapest_20 : decode cX4_cheapest 20 = .ok (.ifCond .ne 7, 3) := dk_154 0 7 (dk_at dksX4_cheapest_0 20 rfl rfl)
theorem dX4_cheapest_23 : decode cX4_cheapest 23 = .ok (.iconst 1, 1) := dk_4 (dk_at dksX4_cheapest_0 23 rfl rfl)
theorem dX4_cheapest_24 : decode cX4_cheapest 24 = .ok (.goto 4, 3) := dk_167 0 4 (dk_at dksX4_cheapest_1 0 rfl rfl)
theorem dX4_cheapest_27 : decode cX4_cheapest 27 = .ok (.iconst 0, 1) := dk_3 (dk_at dksX4_cheapest_1 3 rfl rfl)
theorem dX4_cheapest_28 : decode cX4_cheapest 28 = .ok (.iconst 1, 1) := dk_4 (dk_at dksX4_cheapest_1 4 rfl rfl)
theorem dX4_cheapest_29 : decode cX4_cheapest 29 = .ok (.invokevirtual 227, 3) := dk_182 0 227 (dk_at dksX4_cheapest_1 5 rfl rfl)
theorem dX4_cheapest_32 : decode cX4_cheapest 32 = .ok (.ifCond .eq 5, 3) := dk_153 0 5 (dk_at dksX4_cheapest_1 8 rfl rfl)
theorem dX4_cheapest_35 : decode cX4_cheapest 35 = .ok (.iconst 0, 1) := dk_3 (dk_at dksX4_cheapest_1 11 rfl rfl)
theorem dX4_cheapest_36 : decode cX4_cheapest 36 = .ok (.ireturn, 1) := dk_172 (dk_at dksX4_cheapest_1 12 rfl rfl)
theorem dX4_cheapest_37 : decode cX4_cheapest 37 = .ok (.aload_n 0, 1) := dk_42 (dk_at dksX4_cheapest_1 13 rfl rfl)
theorem dX4_cheapest_38 : decode cX4_cheapest 38 = .ok (.iload_n 1, 1) := dk_27 (dk_at dksX4_cheapest_1 14 rfl rfl)
theorem dX4_cheapest_39 : decode cX4_cheapest 39 = .ok (.iconst 1, 1) := dk_4 (dk_at dksX4_cheapest_1 15 rfl rfl)
theorem dX4_cheapest_40 : decode cX4_cheapest 40 = .ok (.invokevirtual 362, 3) := dk_182 1 106 (dk_at dksX4_cheapest_1 16 rfl rfl)
theorem dX4_cheapest_43 : decode cX4_cheapest 43 = .ok (.iload_n 2, 1) := dk_28 (dk_at dksX4_cheapest_1 19 rfl rfl)
theorem dX4_cheapest_44 : decode cX4_cheapest 44 = .ok (.ifCond .ne 10, 3) := dk_154 0 10 (dk_at dksX4_cheapest_1 20 rfl rfl)
theorem dX4_cheapest_47 : decode cX4_cheapest 47 = .ok (.aload_n 0, 1) := dk_42 (dk_at dksX4_cheapest_1 23 rfl rfl)
theorem dX4_cheapest_48 : decode cX4_cheapest 48 = .ok (.getfield 346, 3) := dk_180 1 90 (dk_at dksX4_cheapest_2 0 rfl rfl)
theorem dX4_cheapest_51 : decode cX4_cheapest 51 = .ok (.goto 7, 3) := dk_167 0 7 (dk_at dksX4_cheapest_2 3 rfl rfl)
theorem dX4_cheapest_54 : decode cX4_cheapest 54 = .ok (.aload_n 0, 1) := dk_42 (dk_at dksX4_cheapest_2 6 rfl rfl)
theorem dX4_cheapest_55 : decode cX4_cheapest 55 = .ok (.getfield 349, 3) := dk_180 1 93 (dk_at dksX4_cheapest_2 7 rfl rfl)
theorem dX4_cheapest_58 : decode cX4_cheapest 58 = .ok (.ireturn, 1) := dk_172 (dk_at dksX4_cheapest_2 10 rfl rfl)
abbrev cX4_exchange : ByteArray := prog_10_method_83_code
def yX4_exchange : MethodName := ⟨RX4, "exchange", "(II)I"⟩
def dkwX4_exchange_7 : List UInt8 := [132, 6, 1, 167, 255, 175, 132, 5, 1, 167, 255, 136, 28, 154, 0, 7, 29, 167, 0, 5, 21, 4, 172]
abbrev dktX4_exchange_7 : List UInt8 := dkwX4_exchange_7 ++ []
def dkwX4_exchange_6 : List UInt8 := [167, 0, 22, 17, 3, 232, 21, 5, 104, 42, 180, 0, 77, 21, 6, 46, 96, 62, 21, 7, 54, 4]
abbrev dktX4_exchange_6 : List UInt8 := dkwX4_exchange_6 ++ dktX4_exchange_7
def dkwX4_exchange_5 : List UInt8 := [21, 5, 182, 1, 99, 42, 42, 180, 0, 77, 21, 6, 46, 182, 1, 99, 21, 7, 21, 4, 163, 0, 6]
abbrev dktX4_exchange_5 : List UInt8 := dkwX4_exchange_5 ++ dktX4_exchange_6
def dkwX4_exchange_4 : List UInt8 := [21, 5, 182, 1, 99, 42, 42, 180, 0, 77, 21, 6, 46, 182, 1, 99, 42, 182, 1, 75, 54, 7, 42]
abbrev dktX4_exchange_4 : List UInt8 := dkwX4_exchange_4 ++ dktX4_exchange_5
def dkwX4_exchange_3 : List UInt8 := [21, 5, 182, 1, 84, 153, 0, 6, 167, 0, 90, 3, 54, 6, 21, 6, 42, 180, 1, 78, 162, 0, 78, 42]
abbrev dktX4_exchange_3 : List UInt8 := dkwX4_exchange_3 ++ dktX4_exchange_4
def dkwX4_exchange_2 : List UInt8 := [54, 4, 3, 54, 5, 21, 5, 42, 180, 1, 3, 162, 0, 117, 42, 21, 5, 182, 1, 81, 153, 0, 102, 42]
abbrev dktX4_exchange_2 : List UInt8 := dkwX4_exchange_2 ++ dktX4_exchange_3
def dkwX4_exchange_1 : List UInt8 := [167, 0, 4, 3, 4, 182, 0, 227, 153, 0, 5, 3, 172, 42, 27, 182, 1, 87, 2, 62, 42, 182, 1, 75]
abbrev dktX4_exchange_1 : List UInt8 := dkwX4_exchange_1 ++ dktX4_exchange_2
def dkwX4_exchange_0 : List UInt8 := [42, 3, 181, 0, 131, 42, 42, 27, 182, 1, 25, 153, 0, 12, 28, 3, 4, 184, 0, 165, 154, 0, 7, 4]
abbrev dktX4_exchange_0 : List UInt8 := dkwX4_exchange_0 ++ dktX4_exchange_1
theorem dksX4_exchange_0 : cX4_exchange.data.toList.drop 0 = dktX4_exchange_0 := by decide +kernel
theorem dksX4_exchange_1 : cX4_exchange.data.toList.drop 24 = dktX4_exchange_1 := dk_seg dksX4_exchange_0 24 rfl rfl
theorem dksX4_exchange_2 : cX4_exchange.data.toList.drop 48 = dktX4_exchange_2 := dk_seg dksX4_exchange_1 24 rfl rfl
theorem dksX4_exchange_3 : cX4_exchange.data.toList.drop 72 = dktX4_exchange_3 := dk_seg dksX4_exchange_2 24 rfl rfl
theorem dksX4_exchange_4 : cX4_exchange.data.toList.drop 96 = dktX4_exchange_4 := dk_seg dksX4_exchange_3 24 rfl rfl
theorem dksX4_exchange_5 : cX4_exchange.data.toList.drop 119 = dktX4_exchange_5 := dk_seg dksX4_exchange_4 23 rfl rfl
theorem dksX4_exchange_6 : cX4_exchange.data.toList.drop 142 = dktX4_exchange_6 := dk_seg dksX4_exchange_5 23 rfl rfl
theorem dksX4_exchange_7 : cX4_exchange.data.toList.drop 164 = dktX4_exchange_7 := dk_seg dksX4_exchange_6 22 rfl rfl
theorem dX4_exchange_0 : decode cX4_exchange 0 = .ok (.aload_n 0, 1) := dk_42 (dk_at dksX4_exchange_0 0 rfl rfl)
theorem dX4_exchange_1 : decode cX4_exchange 1 = .ok (.iconst 0, 1) := dk_3 (dk_at dksX4_exchange_0 1 rfl rfl)
theorem dX4_exchange_2 : decode cX4_exchange 2 = .ok (.putfield 131, 3) := dk_181 0 131 (dk_at dksX4_exchange_0 2 rfl rfl)
theorem dX4_exchange_5 : decode cX4_exchange 5 = .ok (.aload_n 0, 1) := dk_42 (dk_at dksX4_exchange_0 5 rfl rfl)
theorem dX4_exchange_6 : decode cX4_exchange 6 = .ok (.aload_n 0, 1) := dk_42 (dk_at dksX4_exchange_0 6 rfl rfl)
theorem dX4_exchange_7 : decode cX4_exchange 7 = .ok (.iload_n 1, 1) := dk_27 (dk_at dksX4_exchange_0 7 rfl rfl)
theorem dX4_exchange_8 : decode cX4_exchange 8 = .ok (.invokevirtual 281, 3) := dk_182 1 25 (dk_at dksX4_exchange_0 8 rfl rfl)
theorem dX4_exchange_11 : decode cX4_exchange 11 = .ok (.ifCond .eq 12, 3) := dk_153 0 12 (dk_at dksX4_exchange_0 11 rfl rfl)
theorem dX4_exchange_14 : decode cX4_exchange 14 = .ok (.iload_n 2, 1) := dk_28 (dk_at dksX4_exchange_0 14 rfl rfl)
theorem dX4_exchange_15 : decode cX4_exchange 15 = .ok (.iconst 0, 1) := dk_3 (dk_at dksX4_exchange_0 15 rfl rfl)
theorem dX4_exchange_16 : decode cX4_exchange 16 = .ok (.iconst 1, 1) := dk_4 (dk_at dksX4_exchange_0 16 rfl rfl)
theorem dX4_exchange_17 : decode cX4_exchange 17 = .ok (.invokestatic 165, 3) := dk_184 0 165 (dk_at dksX4_exchange_0 17 rfl rfl)
theorem dX4_exchange_20 : decode cX4_exchange 20 = .ok (.ifCond .ne 7, 3) := dk_154 0 7 (dk_at dksX4_exchange_0 20 rfl rfl)
theorem dX4_exchange_23 : decode cX4_exchange 23 = .ok (.iconst 1, 1) := dk_4 (dk_at dksX4_exchange_0 23 rfl rfl)
theorem dX4_exchange_24 : decode cX4_exchange 24 = .ok (.goto 4, 3) := dk_167 0 4 (dk_at dksX4_exchange_1 0 rfl rfl)
theorem dX4_exchange_27 : decode cX4_exchange 27 = .ok (.iconst 0, 1) := dk_3 (dk_at dksX4_exchange_1 3 rfl rfl)
theorem dX4_exchange_28 : decode cX4_exchange 28 = .ok (.iconst 1, 1) := dk_4 (dk_at dksX4_exchange_1 4 rfl rfl)
theorem dX4_exchange_29 : decode cX4_exchange 29 = .ok (.invokevirtual 227, 3) := dk_182 0 227 (dk_at dksX4_exchange_1 5 rfl rfl)
theorem dX4_exchange_32 : decode cX4_exchange 32 = .ok (.ifCond .eq 5, 3) := dk_153 0 5 (dk_at dksX4_exchange_1 8 rfl rfl)
theorem dX4_exchange_35 : decode cX4_exchange 35 = .ok (.iconst 0, 1) := dk_3 (dk_at dksX4_exchange_1 11 rfl rfl)
theorem dX4_exchange_36 : decode cX4_exchange 36 = .ok (.ireturn, 1) := dk_172 (dk_at dksX4_exchange_1 12 rfl rfl)
theorem dX4_exchange_37 : decode cX4_exchange 37 = .ok (.aload_n 0, 1) := dk_42 (dk_at dksX4_exchange_1 13 rfl rfl)
theorem dX4_exchange_38 : decode cX4_exchange 38 = .ok (.iload_n 1, 1) := dk_27 (dk_at dksX4_exchange_1 14 rfl rfl)
theorem dX4_exchange_39 : decode cX4_exchange 39 = .ok (.invokevirtual 343, 3) := dk_182 1 87 (dk_at dksX4_exchange_1 15 rfl rfl)
theorem dX4_exchange_42 : decode cX4_exchange 42 = .ok (.iconst (-1), 1) := dk_2 (dk_at dksX4_exchange_1 18 rfl rfl)
theorem dX4_exchange_43 : decode cX4_exchange 43 = .ok (.istore_n 3, 1) := dk_62 (dk_at dksX4_exchange_1 19 rfl rfl)
theorem dX4_exchange_44 : decode cX4_exchange 44 = .ok (.aload_n 0, 1) := dk_42 (dk_at dksX4_exchange_1 20 rfl rfl)
theorem dX4_exchange_45 : decode cX4_exchange 45 = .ok (.invokevirtual 331, 3) := dk_182 1 75 (dk_at dksX4_exchange_1 21 rfl rfl)
theorem dX4_exchange_48 : decode cX4_exchange 48 = .ok (.istore 4, 2) := dk_54 4 (dk_at dksX4_exchange_2 0 rfl rfl)
theorem dX4_exchange_50 : decode cX4_exchange 50 = .ok (.iconst 0, 1) := dk_3 (dk_at dksX4_exchange_2 2 rfl rfl)
theorem dX4_exchange_51 : decode cX4_exchange 51 = .ok (.istore 5, 2) := dk_54 5 (dk_at dksX4_exchange_2 3 rfl rfl)
theorem dX4_exchange_53 : decode cX4_exchange 53 = .ok (.iload 5, 2) := dk_21 5 (dk_at dksX4_exchange_2 5 rfl rfl)
theorem dX4_exchange_55 : decode cX4_exchange 55 = .ok (.aload_n 0, 1) := dk_42 (dk_at dksX4_exchange_2 7 rfl rfl)
theorem dX4_exchange_56 : decode cX4_exchange 56 = .ok (.getfield 259, 3) := dk_180 1 3 (dk_at dksX4_exchange_2 8 rfl rfl)
theorem dX4_exchange_59 : decode cX4_exchange 59 = .ok (.if_icmp .ge 117, 3) := dk_162 0 117 (dk_at dksX4_exchange_2 11 rfl rfl)
theorem dX4_exchange_62 : decode cX4_exchange 62 = .ok (.aload_n 0, 1) := dk_42 (dk_at dksX4_exchange_2 14 rfl rfl)
theorem dX4_exchange_63 : decode cX4_exchange 63 = .ok (.iload 5, 2) := dk_21 5 (dk_at dksX4_exchange_2 15 rfl rfl)
theorem dX4_exchange_65 : decode cX4_exchange 65 = .ok (.invokevirtual 337, 3) := dk_182 1 81 (dk_at dksX4_exchange_2 17 rfl rfl)
theorem dX4_exchange_68 : decode cX4_exchange 68 = .ok (.ifCond .eq 102, 3) := dk_153 0 102 (dk_at dksX4_exchange_2 20 rfl rfl)
theorem dX4_exchange_71 : decode cX4_exchange 71 = .ok (.aload_n 0, 1) := dk_42 (dk_at dksX4_exchange_2 23 rfl rfl)
theorem dX4_exchange_72 : decode cX4_exchange 72 = .ok (.iload 5, 2) := dk_21 5 (dk_at dksX4_exchange_3 0 rfl rfl)
theorem dX4_exchange_74 : decode cX4_exchange 74 = .ok (.invokevirtual 340, 3) := dk_182 1 84 (dk_at dksX4_exchange_3 2 rfl rfl)
theorem dX4_exchange_77 : decode cX4_exchange 77 = .ok (.ifCond .eq 6, 3) := dk_153 0 6 (dk_at dksX4_exchange_3 5 rfl rfl)
theorem dX4_exchange_80 : decode cX4_exchange 80 = .ok (.goto 90, 3) := dk_167 0 90 (dk_at dksX4_exchange_3 8 rfl rfl)
theorem dX4_exchange_83 : decode cX4_exchange 83 = .ok (.iconst 0, 1) := dk_3 (dk_at dksX4_exchange_3 11 rfl rfl)
theorem dX4_exchange_84 : decode cX4_exchange 84 = .ok (.istore 6, 2) := dk_54 6 (dk_at dksX4_exchange_3 12 rfl rfl)
theorem dX4_exchange_86 : decode cX4_exchange 86 = .ok (.iload 6, 2) := dk_21 6 (dk_at dksX4_exchange_3 14 rfl rfl)
theorem dX4_exchange_88 : decode cX4_exchange 88 = .ok (.aload_n 0, 1) := dk_42 (dk_at dksX4_exchange_3 16 rfl rfl)
theorem dX4_exchange_89 : decode cX4_exchange 89 = .ok (.getfield 334, 3) := dk_180 1 78 (dk_at dksX4_exchange_3 17 rfl rfl)
theorem dX4_exchange_92 : decode cX4_exchange 92 = .ok (.if_icmp .ge 78, 3) := dk_162 0 78 (dk_at dksX4_exchange_3 20 rfl rfl)
theorem dX4_exchange_95 : decode cX4_exchange 95 = .ok (.aload_n 0, 1) := dk_42 (dk_at dksX4_exchange_3 23 rfl rfl)
theorem dX4_exchange_96 : decode cX4_exchange 96 = .ok (.iload 5, 2) := dk_21 5 (dk_at dksX4_exchange_4 0 rfl rfl)
theorem dX4_exchange_98 : decode cX4_exchange 98 = .ok (.invokevirtual 355, 3) := dk_182 1 99 (dk_at dksX4_exchange_4 2 rfl rfl)
theorem dX4_exchange_101 : decode cX4_exchange 101 = .ok (.aload_n 0, 1) := dk_42 (dk_at dksX4_exchange_4 5 rfl rfl)
theorem dX4_exchange_102 : decode cX4_exchange 102 = .ok (.aload_n 0, 1) := dk_42 (dk_at dksX4_exchange_4 6 rfl rfl)
theorem dX4_exchange_103 : decode cX4_exchange 103 = .ok (.getfield 77, 3) := dk_180 0 77 (dk_at dksX4_exchange_4 7 rfl rfl)
theorem dX4_exchange_106 : decode cX4_exchange 106 = .ok (.iload 6, 2) := dk_21 6 (dk_at dksX4_exchange_4 10 rfl rfl)
theorem dX4_exchange_108 : decode cX4_exchange 108 = .ok (.iaload, 1) := dk_46 (dk_at dksX4_exchange_4 12 rfl rfl)
theorem dX4_exchange_109 : decode cX4_exchange 109 = .ok (.invokevirtual 355, 3) := dk_182 1 99 (dk_at dksX4_exchange_4 13 rfl rfl)
theorem dX4_exchange_112 : decode cX4_exchange 112 = .ok (.aload_n 0, 1) := dk_42 (dk_at dksX4_exchange_4 16 rfl rfl)
theorem dX4_exchange_113 : decode cX4_exchange 113 = .ok (.invokevirtual 331, 3) := dk_182 1 75 (dk_at dksX4_exchange_4 17 rfl rfl)
theorem dX4_exchange_116 : decode cX4_exchange 116 = .ok (.istore 7, 2) := dk_54 7 (dk_at dksX4_exchange_4 20 rfl rfl)
theorem dX4_exchange_118 : decode cX4_exchange 118 = .ok (.aload_n 0, 1) := dk_42 (dk_at dksX4_exchange_4 22 rfl rfl)
theorem dX4_exchange_119 : decode cX4_exchange 119 = .ok (.iload 5, 2) := dk_21 5 (dk_at dksX4_exchange_5 0 rfl rfl)
theorem dX4_exchange_121 : decode cX4_exchange 121 = .ok (.invokevirtual 355, 3) := dk_182 1 99 (dk_at dksX4_exchange_5 2 rfl rfl)
theorem dX4_exchange_124 : decode cX4_exchange 124 = .ok (.aload_n 0, 1) := dk_42 (dk_at dksX4_exchange_5 5 rfl rfl)
theorem dX4_exchange_125 : decode cX4_exchange 125 = .ok (.aload_n 0, 1) := dk_42 (dk_at dksX4_exchange_5 6 rfl rfl)
theorem dX4_exchange_126 : decode cX4_exchange 126 = .ok (.getfield 77, 3) := dk_180 0 77 (dk_at dksX4_exchange_5 7 rfl rfl)
theorem dX4_exchange_129 : decode cX4_exchange 129 = .ok (.iload 6, 2) := dk_21 6 (dk_at dksX4_exchange_5 10 rfl rfl)
theorem dX4_exchange_131 : decode cX4_exchange 131 = .ok (.iaload, 1) := dk_46 (dk_at dksX4_exchange_5 12 rfl rfl)
theorem dX4_exchange_132 : decode cX4_exchange 132 = .ok (.invokevirtual 355, 3) := dk_182 1 99 (dk_at dksX4_exchange_5 13 rfl rfl)
theorem dX4_exchange_135 : decode cX4_exchange 135 = .ok (.iload 7, 2) := dk_21 7 (dk_at dksX4_exchange_5 16 rfl rfl)
theorem dX4_exchange_137 : decode cX4_exchange 137 = .ok (.iload 4, 2) := dk_21 4 (dk_at dksX4_exchange_5 18 rfl rfl)
theorem dX4_exchange_139 : decode cX4_exchange 139 = .ok (.if_icmp .gt 6, 3) := dk_163 0 6 (dk_at dksX4_exchange_5 20 rfl rfl)
theorem dX4_exchange_142 : decode cX4_exchange 142 = .ok (.goto 22, 3) := dk_167 0 22 (dk_at dksX4_exchange_6 0 rfl rfl)
theorem dX4_exchange_145 : decode cX4_exchange 145 = .ok (.sipush 1000, 3) := dk_17 3 232 (dk_at dksX4_exchange_6 3 rfl rfl)
theorem dX4_exchange_148 : decode cX4_exchange 148 = .ok (.iload 5, 2) := dk_21 5 (dk_at dksX4_exchange_6 6 rfl rfl)
theorem dX4_exchange_150 : decode cX4_exchange 150 = .ok (.imul, 1) := dk_104 (dk_at dksX4_exchange_6 8 rfl rfl)
theorem dX4_exchange_151 : decode cX4_exchange 151 = .ok (.aload_n 0, 1) := dk_42 (dk_at dksX4_exchange_6 9 rfl rfl)
theorem dX4_exchange_152 : decode cX4_exchange 152 = .ok (.getfield 77, 3) := dk_180 0 77 (dk_at dksX4_exchange_6 10 rfl rfl)
theorem dX4_exchange_155 : decode cX4_exchange 155 = .ok (.iload 6, 2) := dk_21 6 (dk_at dksX4_exchange_6 13 rfl rfl)
theorem dX4_exchange_157 : decode cX4_exchange 157 = .ok (.iaload, 1) := dk_46 (dk_at dksX4_exchange_6 15 rfl rfl)
theorem dX4_exchange_158 : decode cX4_exchange 158 = .ok (.iadd, 1) := dk_96 (dk_at dksX4_exchange_6 16 rfl rfl)
theorem dX4_exchange_159 : decode cX4_exchange 159 = .ok (.istore_n 3, 1) := dk_62 (dk_at dksX4_exchange_6 17 rfl rfl)
theorem dX4_exchange_160 : decode cX4_exchange 160 = .ok (.iload 7, 2) := dk_21 7 (dk_at dksX4_exchange_6 18 rfl rfl)
theorem dX4_exchange_162 : decode cX4_exchange 162 = .ok (.istore 4, 2) := dk_54 4 (dk_at dksX4_exchange_6 20 rfl rfl)
theorem dX4_exchange_164 : decode cX4_exchange 164 = .ok (.iinc 6 1, 3) := dk_132 6 1 (dk_at dksX4_exchange_7 0 rfl rfl)
theorem dX4_exchange_167 : decode cX4_exchange 167 = .ok (.goto (-81), 3) := dk_167 255 175 (dk_at dksX4_exchange_7 3 rfl rfl)
theorem dX4_exchange_170 : decode cX4_exchange 170 = .ok (.iinc 5 1, 3) := dk_132 5 1 (dk_at dksX4_exchange_7 6 rfl rfl)
theorem dX4_exchange_173 : decode cX4_exchange 173 = .ok (.goto (-120), 3) := dk_167 255 136 (dk_at dksX4_exchange_7 9 rfl rfl)
theorem dX4_exchange_176 : decode cX4_exchange 176 = .ok (.iload_n 2, 1) := dk_28 (dk_at dksX4_exchange_7 12 rfl rfl)
theorem dX4_exchange_177 : decode cX4_exchange 177 = .ok (.ifCond .ne 7, 3) := dk_154 0 7 (dk_at dksX4_exchange_7 13 rfl rfl)
theorem dX4_exchange_180 : decode cX4_exchange 180 = .ok (.iload_n 3, 1) := dk_29 (dk_at dksX4_exchange_7 16 rfl rfl)
theorem dX4_exchange_181 : decode cX4_exchange 181 = .ok (.goto 5, 3) := dk_167 0 5 (dk_at dksX4_exchange_7 17 rfl rfl)
theorem dX4_exchange_184 : decode cX4_exchange 184 = .ok (.iload 4, 2) := dk_21 4 (dk_at dksX4_exchange_7 20 rfl rfl)
theorem dX4_exchange_186 : decode cX4_exchange 186 = .ok (.ireturn, 1) := dk_172 (dk_at dksX4_exchange_7 22 rfl rfl)
abbrev cX4_round : ByteArray := prog_10_method_85_code
def yX4_round : MethodName := ⟨RX4, "round", "(II)I"⟩
def dkwX4_round_14 : List UInt8 := [167, 255, 194, 21, 5, 19, 1, 38, 160, 0, 7, 2, 167, 0, 5, 21, 5, 172]
abbrev dktX4_round_14 : List UInt8 := dkwX4_round_14 ++ []
def dkwX4_round_13 : List UInt8 := [50, 21, 4, 46, 21, 5, 162, 0, 15, 42, 180, 0, 104, 21, 6, 50, 21, 4, 46, 54, 5, 132, 6, 1]
abbrev dktX4_round_13 : List UInt8 := dkwX4_round_13 ++ dktX4_round_14
def dkwX4_round_12 : List UInt8 := [21, 6, 182, 1, 6, 153, 0, 40, 42, 21, 6, 182, 0, 250, 27, 160, 0, 30, 42, 180, 0, 104, 21, 6]
abbrev dktX4_round_12 : List UInt8 := dkwX4_round_12 ++ dktX4_round_13
def dkwX4_round_11 : List UInt8 := [132, 6, 1, 167, 255, 186, 3, 54, 6, 21, 6, 5, 42, 180, 0, 20, 4, 46, 104, 162, 0, 55, 42]
abbrev dktX4_round_11 : List UInt8 := dkwX4_round_11 ++ dktX4_round_12
def dkwX4_round_10 : List UInt8 := [154, 0, 8, 21, 7, 153, 0, 7, 4, 167, 0, 4, 3, 54, 7, 132, 8, 1, 167, 255, 216, 167, 255, 202]
abbrev dktX4_round_10 : List UInt8 := dkwX4_round_10 ++ dktX4_round_11
def dkwX4_round_9 : List UInt8 := [21, 8, 5, 42, 180, 0, 20, 4, 46, 104, 162, 0, 33, 42, 21, 8, 21, 6, 29, 182, 1, 113]
abbrev dktX4_round_9 : List UInt8 := dkwX4_round_9 ++ dktX4_round_10
def dkwX4_round_8 : List UInt8 := [54, 6, 21, 6, 21, 4, 163, 0, 69, 4, 54, 7, 21, 7, 153, 0, 55, 3, 54, 7, 3, 54, 8]
abbrev dktX4_round_8 : List UInt8 := dkwX4_round_8 ++ dktX4_round_9
def dkwX4_round_7 : List UInt8 := [29, 182, 1, 110, 42, 21, 5, 182, 1, 39, 79, 132, 5, 1, 167, 255, 167, 19, 1, 38, 54, 5, 3]
abbrev dktX4_round_7 : List UInt8 := dkwX4_round_7 ++ dktX4_round_8
def dkwX4_round_6 : List UInt8 := [42, 21, 5, 182, 0, 253, 27, 160, 0, 28, 42, 180, 0, 104, 21, 5, 50, 42, 42, 21, 5, 182, 0, 250]
abbrev dktX4_round_6 : List UInt8 := dkwX4_round_6 ++ dktX4_round_7
def dkwX4_round_5 : List UInt8 := [21, 5, 50, 21, 6, 19, 1, 38, 79, 132, 6, 1, 167, 255, 233, 42, 21, 5, 182, 1, 6, 153, 0, 38]
abbrev dktX4_round_5 : List UInt8 := dkwX4_round_5 ++ dktX4_round_6
def dkwX4_round_4 : List UInt8 := [180, 0, 20, 4, 46, 104, 162, 0, 82, 3, 54, 6, 21, 6, 21, 4, 163, 0, 22, 42, 180, 0, 104]
abbrev dktX4_round_4 : List UInt8 := dkwX4_round_4 ++ dktX4_round_5
def dkwX4_round_3 : List UInt8 := [184, 0, 187, 120, 4, 100, 54, 4, 21, 4, 154, 0, 5, 3, 172, 3, 54, 5, 21, 5, 5, 42]
abbrev dktX4_round_3 : List UInt8 := dkwX4_round_3 ++ dktX4_round_4
def dkwX4_round_2 : List UInt8 := [3, 172, 42, 28, 182, 1, 54, 42, 180, 0, 20, 5, 46, 4, 27, 120, 2, 130, 126, 62, 4, 29]
abbrev dktX4_round_2 : List UInt8 := dkwX4_round_2 ++ dktX4_round_3
def dkwX4_round_1 : List UInt8 := [154, 0, 24, 42, 42, 28, 182, 1, 25, 154, 0, 7, 4, 167, 0, 4, 3, 5, 182, 0, 227, 153, 0, 5]
abbrev dktX4_round_1 : List UInt8 := dkwX4_round_1 ++ dktX4_round_2
def dkwX4_round_0 : List UInt8 := [42, 3, 181, 0, 131, 42, 42, 27, 182, 1, 51, 154, 0, 7, 4, 167, 0, 4, 3, 4, 182, 0, 227]
abbrev dktX4_round_0 : List UInt8 := dkwX4_round_0 ++ dktX4_round_1
theorem dksX4_round_0 : cX4_round.data.toList.drop 0 = dktX4_round_0 := by decide +kernel
theorem dksX4_round_1 : cX4_round.data.toList.drop 23 = dktX4_round_1 := dk_seg dksX4_round_0 23 rfl rfl
theorem dksX4_round_2 : cX4_round.data.toList.drop 47 = dktX4_round_2 := dk_seg dksX4_round_1 24 rfl rfl
theorem dksX4_round_3 : cX4_round.data.toList.drop 69 = dktX4_round_3 := dk_seg dksX4_round_2 22 rfl rfl
theorem dksX4_round_4 : cX4_round.data.toList.drop 91 = dktX4_round_4 := dk_seg dksX4_round_3 22 rfl rfl
theorem dksX4_round_5 : cX4_round.data.toList.drop 114 = dktX4_round_5 := dk_seg dksX4_round_4 23 rfl rfl
theorem dksX4_round_6 : cX4_round.data.toList.drop 138 = dktX4_round_6 := dk_seg dksX4_round_5 24 rfl rfl
theorem dksX4_round_7 : cX4_round.data.toList.drop 162 = dktX4_round_7 := dk_seg dksX4_round_6 24 rfl rfl
theorem dksX4_round_8 : cX4_round.data.toList.drop 185 = dktX4_round_8 := dk_seg dksX4_round_7 23 rfl rfl
theorem dksX4_round_9 : cX4_round.data.toList.drop 208 = dktX4_round_9 := dk_seg dksX4_round_8 23 rfl rfl
theorem dksX4_round_10 : cX4_round.data.toList.drop 230 = dktX4_round_10 := dk_seg dksX4_round_9 22 rfl rfl
theorem dksX4_round_11 : cX4_round.data.toList.drop 254 = dktX4_round_11 := dk_seg dksX4_round_10 24 rfl rfl
theorem dksX4_round_12 : cX4_round.data.toList.drop 277 = dktX4_round_12 := dk_seg dksX4_round_11 23 rfl rfl
theorem dksX4_round_13 : cX4_round.data.toList.drop 301 = dktX4_round_13 := dk_seg dksX4_round_12 24 rfl rfl
theorem dksX4_round_14 : cX4_round.data.toList.drop 325 = dktX4_round_14 := dk_seg dksX4_round_13 24 rfl rfl
theorem dX4_round_0 : decode cX4_round 0 = .ok (.aload_n 0, 1) := dk_42 (dk_at dksX4_round_0 0 rfl rfl)
theorem dX4_round_1 : decode cX4_round 1 = .ok (.iconst 0, 1) := dk_3 (dk_at dksX4_round_0 1 rfl rfl)
theorem dX4_round_2 : decode cX4_round 2 = .ok (.putfield 131, 3) := dk_181 0 131 (dk_at dksX4_round_0 2 rfl rfl)
theorem dX4_round_5 : decode cX4_round 5 = .ok (.aload_n 0, 1) := dk_42 (dk_at dksX4_round_0 5 rfl rfl)
theorem dX4_round_6 : decode cX4_round 6 = .ok (.aload_n 0, 1) := dk_42 (dk_at dksX4_round_0 6 rfl rfl)
theorem dX4_round_7 : decode cX4_round 7 = .ok (.iload_n 1, 1) := dk_27 (dk_at dksX4_round_0 7 rfl rfl)
theorem dX4_round_8 : decode cX4_round 8 = .ok (.invokevirtual 307, 3) := dk_182 1 51 (dk_at dksX4_round_0 8 rfl rfl)
theorem dX4_round_11 : decode cX4_round 11 = .ok (.ifCond .ne 7, 3) := dk_154 0 7 (dk_at dksX4_round_0 11 rfl rfl)
theorem dX4_round_14 : decode cX4_round 14 = .ok (.iconst 1, 1) := dk_4 (dk_at dksX4_round_0 14 rfl rfl)
theorem dX4_round_15 : decode cX4_round 15 = .ok (.goto 4, 3) := dk_167 0 4 (dk_at dksX4_round_0 15 rfl rfl)
theorem dX4_round_18 : decode cX4_round 18 = .ok (.iconst 0, 1) := dk_3 (dk_at dksX4_round_0 18 rfl rfl)
theorem dX4_round_19 : decode cX4_round 19 = .ok (.iconst 1, 1) := dk_4 (dk_at dksX4_round_0 19 rfl rfl)
theorem dX4_round_20 : decode cX4_round 20 = .ok (.invokevirtual 227, 3) := dk_182 0 227 (dk_at dksX4_round_0 20 rfl rfl)
theorem dX4_round_23 : decode cX4_round 23 = .ok (.ifCond .ne 24, 3) := dk_154 0 24 (dk_at dksX4_round_1 0 rfl rfl)
theorem dX4_round_26 : decode cX4_round 26 = .ok (.aload_n 0, 1) := dk_42 (dk_at dksX4_round_1 3 rfl rfl)
theorem dX4_round_27 : decode cX4_round 27 = .ok (.aload_n 0, 1) := dk_42 (dk_at dksX4_round_1 4 rfl rfl)
theorem dX4_round_28 : decode cX4_round 28 = .ok (.iload_n 2, 1) := dk_28 (dk_at dksX4_round_1 5 rfl rfl)
theorem dX4_round_29 : decode cX4_round 29 = .ok (.invokevirtual 281, 3) := dk_182 1 25 (dk_at dksX4_round_1 6 rfl rfl)
theorem dX4_round_32 : decode cX4_round 32 = .ok (.ifCond .ne 7, 3) := dk_154 0 7 (dk_at dksX4_round_1 9 rfl rfl)
theorem dX4_round_35 : decode cX4_round 35 = .ok (.iconst 1, 1) := dk_4 (dk_at dksX4_round_1 12 rfl rfl)
theorem dX4_round_36 : decode cX4_round 36 = .ok (.goto 4, 3) := dk_167 0 4 (dk_at dksX4_round_1 13 rfl rfl)
theorem dX4_round_39 : decode cX4_round 39 = .ok (.iconst 0, 1) := dk_3 (dk_at dksX4_round_1 16 rfl rfl)
theorem dX4_round_40 : decode cX4_round 40 = .ok (.iconst 2, 1) := dk_5 (dk_at dksX4_round_1 17 rfl rfl)
theorem dX4_round_41 : decode cX4_round 41 = .ok (.invokevirtual 227, 3) := dk_182 0 227 (dk_at dksX4_round_1 18 rfl rfl)
theorem dX4_round_44 : decode cX4_round 44 = .ok (.ifCond .eq 5, 3) := dk_153 0 5 (dk_at dksX4_round_1 21 rfl rfl)
theorem dX4_round_47 : decode cX4_round 47 = .ok (.iconst 0, 1) := dk_3 (dk_at dksX4_round_2 0 rfl rfl)
theorem dX4_round_48 : decode cX4_round 48 = .ok (.ireturn, 1) := dk_172 (dk_at dksX4_round_2 1 rfl rfl)
theorem dX4_round_49 : decode cX4_round 49 = .ok (.aload_n 0, 1) := dk_42 (dk_at dksX4_round_2 2 rfl rfl)
theorem dX4_round_50 : decode cX4_round 50 = .ok (.iload_n 2, 1) := dk_28 (dk_at dksX4_round_2 3 rfl rfl)
theorem dX4_round_51 : decode cX4_round 51 = .ok (.invokevirtual 310, 3) := dk_182 1 54 (dk_at dksX4_round_2 4 rfl rfl)
theorem dX4_round_54 : decode cX4_round 54 = .ok (.aload_n 0, 1) := dk_42 (dk_at dksX4_round_2 7 rfl rfl)
theorem dX4_round_55 : decode cX4_round 55 = .ok (.getfield 20, 3) := dk_180 0 20 (dk_at dksX4_round_2 8 rfl rfl)
theorem dX4_round_58 : decode cX4_round 58 = .ok (.iconst 2, 1) := dk_5 (dk_at dksX4_round_2 11 rfl rfl)
theorem dX4_round_59 : decode cX4_round 59 = .ok (.iaload, 1) := dk_46 (dk_at dksX4_round_2 12 rfl rfl)
theorem dX4_round_60 : decode cX4_round 60 = .ok (.iconst 1, 1) := dk_4 (dk_at dksX4_round_2 13 rfl rfl)
theorem dX4_round_61 : decode cX4_round 61 = .ok (.iload_n 1, 1) := dk_27 (dk_at dksX4_round_2 14 rfl rfl)
theorem dX4_round_62 : decode cX4_round 62 = .ok (.ishl, 1) := dk_120 (dk_at dksX4_round_2 15 rfl rfl)
theorem dX4_round_63 : decode cX4_round 63 = .ok (.iconst (-1), 1) := dk_2 (dk_at dksX4_round_2 16 rfl rfl)
theorem dX4_round_64 : decode cX4_round 64 = .ok (.ixor, 1) := dk_130 (dk_at dksX4_round_2 17 rfl rfl)
theorem dX4_round_65 : decode cX4_round 65 = .ok (.iand, 1) := dk_126 (dk_at dksX4_round_2 18 rfl rfl)
theorem dX4_round_66 : decode cX4_round 66 = .ok (.istore_n 3, 1) := dk_62 (dk_at dksX4_round_2 19 rfl rfl)
theorem dX4_round_67 : decode cX4_round 67 = .ok (.iconst 1, 1) := dk_4 (dk_at dksX4_round_2 20 rfl rfl)
theorem dX4_round_68 : decode cX4_round 68 = .ok (.iload_n 3, 1) := dk_29 (dk_at dksX4_round_2 21 rfl rfl)
theorem dX4_round_69 : decode cX4_round 69 = .ok (.invokestatic 187, 3) := dk_184 0 187 (dk_at dksX4_round_3 0 rfl rfl)
theorem dX4_round_72 : decode cX4_round 72 = .ok (.ishl, 1) := dk_120 (dk_at dksX4_round_3 3 rfl rfl)
theorem dX4_round_73 : decode cX4_round 73 = .ok (.iconst 1, 1) := dk_4 (dk_at dksX4_round_3 4 rfl rfl)
theorem dX4_round_74 : decode cX4_round 74 = .ok (.isub, 1) := dk_100 (dk_at dksX4_round_3 5 rfl rfl)
theorem dX4_round_75 : decode cX4_round 75 = .ok (.istore 4, 2) := dk_54 4 (dk_at dksX4_round_3 6 rfl rfl)
theorem dX4_round_77 : decode cX4_round 77 = .ok (.iload 4, 2) := dk_21 4 (dk_at dksX4_round_3 8 rfl rfl)
theorem dX4_round_79 : decode cX4_round 79 = .ok (.ifCond .ne 5, 3) := dk_154 0 5 (dk_at dksX4_round_3 10 rfl rfl)
theorem dX4_round_82 : decode cX4_round 82 = .ok (.iconst 0, 1) := dk_3 (dk_at dksX4_round_3 13 rfl rfl)
theorem dX4_round_83 : decode cX4_round 83 = .ok (.ireturn, 1) := dk_172 (dk_at dksX4_round_3 14 rfl rfl)
theorem dX4_round_84 : decode cX4_round 84 = .ok (.iconst 0, 1) := dk_3 (dk_at dksX4_round_3 15 rfl rfl)
theorem dX4_round_85 : decode cX4_round 85 = .ok (.istore 5, 2) := dk_54 5 (dk_at dksX4_round_3 16 rfl rfl)
theorem dX4_round_87 : decode cX4_round 87 = .ok (.iload 5, 2) := dk_21 5 (dk_at dksX4_round_3 18 rfl rfl)
theorem dX4_round_89 : decode cX4_round 89 = .ok (.iconst 2, 1) := dk_5 (dk_at dksX4_round_3 20 rfl rfl)
theorem dX4_round_90 : decode cX4_round 90 = .ok (.aload_n 0, 1) := dk_42 (dk_at dksX4_round_3 21 rfl rfl)
theorem dX4_round_91 : decode cX4_round 91 = .ok (.getfield 20, 3) := dk_180 0 20 (dk_at dksX4_round_4 0 rfl rfl)
theorem dX4_round_94 : decode cX4_round 94 = .ok (.iconst 1, 1) := dk_4 (dk_at dksX4_round_4 3 rfl rfl)
theorem dX4_round_95 : decode cX4_round 95 = .ok (.iaload, 1) := dk_46 (dk_at dksX4_round_4 4 rfl rfl)
theorem dX4_round_96 : decode cX4_round 96 = .ok (.imul, 1) := dk_104 (dk_at dksX4_round_4 5 rfl rfl)
theorem dX4_round_97 : decode cX4_round 97 = .ok (.if_icmp .ge 82, 3) := dk_162 0 82 (dk_at dksX4_round_4 6 rfl rfl)
theorem dX4_round_100 : decode cX4_round 100 = .ok (.iconst 0, 1) := dk_3 (dk_at dksX4_round_4 9 rfl rfl)
theorem dX4_round_101 : decode cX4_round 101 = .ok (.istore 6, 2) := dk_54 6 (dk_at dksX4_round_4 10 rfl rfl)
theorem dX4_round_103 : decode cX4_round 103 = .ok (.iload 6, 2) := dk_21 6 (dk_at dksX4_round_4 12 rfl rfl)
theorem dX4_round_105 : decode cX4_round 105 = .ok (.iload 4, 2) := dk_21 4 (dk_at dksX4_round_4 14 rfl rfl)
theorem dX4_round_107 : decode cX4_round 107 = .ok (.if_icmp .gt 22, 3) := dk_163 0 22 (dk_at dksX4_round_4 16 rfl rfl)
theorem dX4_round_110 : decode cX4_round 110 = .ok (.aload_n 0, 1) := dk_42 (dk_at dksX4_round_4 19 rfl rfl)
theorem dX4_round_111 : decode cX4_round 111 = .ok (.getfield 104, 3) := dk_180 0 104 (dk_at dksX4_round_4 20 rfl rfl)
theorem dX4_round_114 : decode cX4_round 114 = .ok (.iload 5, 2) := dk_21 5 (dk_at dksX4_round_5 0 rfl rfl)
theorem dX4_round_116 : decode cX4_round 116 = .ok (.aaload, 1) := dk_50 (dk_at dksX4_round_5 2 rfl rfl)
theorem dX4_round_117 : decode cX4_round 117 = .ok (.iload 6, 2) := dk_21 6 (dk_at dksX4_round_5 3 rfl rfl)
theorem dX4_round_119 : decode cX4_round 119 = .ok (.ldc_w 294, 3) := dk_19 1 38 (dk_at dksX4_round_5 5 rfl rfl)
theorem dX4_round_122 : decode cX4_round 122 = .ok (.iastore, 1) := dk_79 (dk_at dksX4_round_5 8 rfl rfl)
theorem dX4_round_123 : decode cX4_round 123 = .ok (.iinc 6 1, 3) := dk_132 6 1 (dk_at dksX4_round_5 9 rfl rfl)
theorem dX4_round_126 : decode cX4_round 126 = .ok (.goto (-23), 3) := dk_167 255 233 (dk_at dksX4_round_5 12 rfl rfl)
theorem dX4_round_129 : decode cX4_round 129 = .ok (.aload_n 0, 1) := dk_42 (dk_at dksX4_round_5 15 rfl rfl)
theorem dX4_round_130 : decode cX4_round 130 = .ok (.iload 5, 2) := dk_21 5 (dk_at dksX4_round_5 16 rfl rfl)
theorem dX4_round_132 : decode cX4_round 132 = .ok (.invokevirtual 262, 3) := dk_182 1 6 (dk_at dksX4_round_5 18 rfl rfl)
theorem dX4_round_135 : decode cX4_round 135 = .ok (.ifCond .eq 38, 3) := dk_153 0 38 (dk_at dksX4_round_5 21 rfl rfl)
theorem dX4_round_138 : decode cX4_round 138 = .ok (.aload_n 0, 1) := dk_42 (dk_at dksX4_round_6 0 rfl rfl)
theorem dX4_round_139 : decode cX4_round 139 = .ok (.iload 5, 2) := dk_21 5 (dk_at dksX4_round_6 1 rfl rfl)
theorem dX4_round_141 : decode cX4_round 141 = .ok (.invokevirtual 253, 3) := dk_182 0 253 (dk_at dksX4_round_6 3 rfl rfl)
theorem dX4_round_144 : decode cX4_round 144 = .ok (.iload_n 1, 1) := dk_27 (dk_at dksX4_round_6 6 rfl rfl)
theorem dX4_round_145 : decode cX4_round 145 = .ok (.if_icmp .ne 28, 3) := dk_160 0 28 (dk_at dksX4_round_6 7 rfl rfl)
theorem dX4_round_148 : decode cX4_round 148 = .ok (.aload_n 0, 1) := dk_42 (dk_at dksX4_round_6 10 rfl rfl)
theorem dX4_round_149 : decode cX4_round 149 = .ok (.getfield 104, 3) := dk_180 0 104 (dk_at dksX4_round_6 11 rfl rfl)
theorem dX4_round_152 : decode cX4_round 152 = .ok (.iload 5, 2) := dk_21 5 (dk_at dksX4_round_6 14 rfl rfl)
theorem dX4_round_154 : decode cX4_round 154 = .ok (.aaload, 1) := dk_50 (dk_at dksX4_round_6 16 rfl rfl)
theorem dX4_round_155 : decode cX4_round 155 = .ok (.aload_n 0, 1) := dk_42 (dk_at dksX4_round_6 17 rfl rfl)
theorem dX4_round_156 : decode cX4_round 156 = .ok (.aload_n 0, 1) := dk_42 (dk_at dksX4_round_6 18 rfl rfl)
theorem dX4_round_157 : decode cX4_round 157 = .ok (.iload 5, 2) := dk_21 5 (dk_at dksX4_round_6 19 rfl rfl)
theorem dX4_round_159 : decode cX4_round 159 = .ok (.invokevirtual 250, 3) := dk_182 0 250 (dk_at dksX4_round_6 21 rfl rfl)
theorem dX4_round_162 : decode cX4_round 162 = .ok (.iload_n 3, 1) := dk_29 (dk_at dksX4_round_7 0 rfl rfl)
theorem dX4_round_163 : decode cX4_round 163 = .ok (.invokevirtual 366, 3) := dk_182 1 110 (dk_at dksX4_round_7 1 rfl rfl)
theorem dX4_round_166 : decode cX4_round 166 = .ok (.aload_n 0, 1) := dk_42 (dk_at dksX4_round_7 4 rfl rfl)
theorem dX4_round_167 : decode cX4_round 167 = .ok (.iload 5, 2) := dk_21 5 (dk_at dksX4_round_7 5 rfl rfl)
theorem dX4_round_169 : decode cX4_round 169 = .ok (.invokevirtual 295, 3) := dk_182 1 39 (dk_at dksX4_round_7 7 rfl rfl)
theorem dX4_round_172 : decode cX4_round 172 = .ok (.iastore, 1) := dk_79 (dk_at dksX4_round_7 10 rfl rfl)
theorem dX4_round_173 : decode cX4_round 173 = .ok (.iinc 5 1, 3) := dk_132 5 1 (dk_at dksX4_round_7 11 rfl rfl)
theorem dX4_round_176 : decode cX4_round 176 = .ok (.goto (-89), 3) := dk_167 255 167 (dk_at dksX4_round_7 14 rfl rfl)
theorem dX4_round_179 : decode cX4_round 179 = .ok (.ldc_w 294, 3) := dk_19 1 38 (dk_at dksX4_round_7 17 rfl rfl)
theorem dX4_round_182 : decode cX4_round 182 = .ok (.istore 5, 2) := dk_54 5 (dk_at dksX4_round_7 20 rfl rfl)
theorem dX4_round_184 : decode cX4_round 184 = .ok (.iconst 0, 1) := dk_3 (dk_at dksX4_round_7 22 rfl rfl)
theorem dX4_round_185 : decode cX4_round 185 = .ok (.istore 6, 2) := dk_54 6 (dk_at dksX4_round_8 0 rfl rfl)
theorem dX4_round_187 : decode cX4_round 187 = .ok (.iload 6, 2) := dk_21 6 (dk_at dksX4_round_8 2 rfl rfl)
theorem dX4_round_189 : decode cX4_round 189 = .ok (.iload 4, 2) := dk_21 4 (dk_at dksX4_round_8 4 rfl rfl)
theorem dX4_round_191 : decode cX4_round 191 = .ok (.if_icmp .gt 69, 3) := dk_163 0 69 (dk_at dksX4_round_8 6 rfl rfl)
theorem dX4_round_194 : decode cX4_round 194 = .ok (.iconst 1, 1) := dk_4 (dk_at dksX4_round_8 9 rfl rfl)
theorem dX4_round_195 : decode cX4_round 195 = .ok (.istore 7, 2) := dk_54 7 (dk_at dksX4_round_8 10 rfl rfl)
theorem dX4_round_197 : decode cX4_round 197 = .ok (.iload 7, 2) := dk_21 7 (dk_at dksX4_round_8 12 rfl rfl)
theorem dX4_round_199 : decode cX4_round 199 = .ok (.ifCond .eq 55, 3) := dk_153 0 55 (dk_at dksX4_round_8 14 rfl rfl)
theorem dX4_round_202 : decode cX4_round 202 = .ok (.iconst 0, 1) := dk_3 (dk_at dksX4_round_8 17 rfl rfl)
theorem dX4_round_203 : decode cX4_round 203 = .ok (.istore 7, 2) := dk_54 7 (dk_at dksX4_round_8 18 rfl rfl)
theorem dX4_round_205 : decode cX4_round 205 = .ok (.iconst 0, 1) := dk_3 (dk_at dksX4_round_8 20 rfl rfl)
theorem dX4_round_206 : decode cX4_round 206 = .ok (.istore 8, 2) := dk_54 8 (dk_at dksX4_round_8 21 rfl rfl)
theorem dX4_round_208 : decode cX4_round 208 = .ok (.iload 8, 2) := dk_21 8 (dk_at dksX4_round_9 0 rfl rfl)
theorem dX4_round_210 : decode cX4_round 210 = .ok (.iconst 2, 1) := dk_5 (dk_at dksX4_round_9 2 rfl rfl)
theorem dX4_round_211 : decode cX4_round 211 = .ok (.aload_n 0, 1) := dk_42 (dk_at dksX4_round_9 3 rfl rfl)
theorem dX4_round_212 : decode cX4_round 212 = .ok (.getfield 20, 3) := dk_180 0 20 (dk_at dksX4_round_9 4 rfl rfl)
theorem dX4_round_215 : decode cX4_round 215 = .ok (.iconst 1, 1) := dk_4 (dk_at dksX4_round_9 7 rfl rfl)
theorem dX4_round_216 : decode cX4_round 216 = .ok (.iaload, 1) := dk_46 (dk_at dksX4_round_9 8 rfl rfl)
theorem dX4_round_217 : decode cX4_round 217 = .ok (.imul, 1) := dk_104 (dk_at dksX4_round_9 9 rfl rfl)
theorem dX4_round_218 : decode cX4_round 218 = .ok (.if_icmp .ge 33, 3) := dk_162 0 33 (dk_at dksX4_round_9 10 rfl rfl)
theorem dX4_round_221 : decode cX4_round 221 = .ok (.aload_n 0, 1) := dk_42 (dk_at dksX4_round_9 13 rfl rfl)
theorem dX4_round_222 : decode cX4_round 222 = .ok (.iload 8, 2) := dk_21 8 (dk_at dksX4_round_9 14 rfl rfl)
theorem dX4_round_224 : decode cX4_round 224 = .ok (.iload 6, 2) := dk_21 6 (dk_at dksX4_round_9 16 rfl rfl)
theorem dX4_round_226 : decode cX4_round 226 = .ok (.iload_n 3, 1) := dk_29 (dk_at dksX4_round_9 18 rfl rfl)
theorem dX4_round_227 : decode cX4_round 227 = .ok (.invokevirtual 369, 3) := dk_182 1 113 (dk_at dksX4_round_9 19 rfl rfl)
theorem dX4_round_230 : decode cX4_round 230 = .ok (.ifCond .ne 8, 3) := dk_154 0 8 (dk_at dksX4_round_10 0 rfl rfl)
theorem dX4_round_233 : decode cX4_round 233 = .ok (.iload 7, 2) := dk_21 7 (dk_at dksX4_round_10 3 rfl rfl)
theorem dX4_round_235 : decode cX4_round 235 = .ok (.ifCond .eq 7, 3) := dk_153 0 7 (dk_at dksX4_round_10 5 rfl rfl)
theorem dX4_round_238 : decode cX4_round 238 = .ok (.iconst 1, 1) := dk_4 (dk_at dksX4_round_10 8 rfl rfl)
theorem dX4_round_239 : decode cX4_round 239 = .ok (.goto 4, 3) := dk_167 0 4 (dk_at dksX4_round_10 9 rfl rfl)
theorem dX4_round_242 : decode cX4_round 242 = .ok (.iconst 0, 1) := dk_3 (dk_at dksX4_round_10 12 rfl rfl)
theorem dX4_round_243 : decode cX4_round 243 = .ok (.istore 7, 2) := dk_54 7 (dk_at dksX4_round_10 13 rfl rfl)
theorem dX4_round_245 : decode cX4_round 245 = .ok (.iinc 8 1, 3) := dk_132 8 1 (dk_at dksX4_round_10 15 rfl rfl)
theorem dX4_round_248 : decode cX4_round 248 = .ok (.goto (-40), 3) := dk_167 255 216 (dk_at dksX4_round_10 18 rfl rfl)
theorem dX4_round_251 : decode cX4_round 251 = .ok (.goto (-54), 3) := dk_167 255 202 (dk_at dksX4_round_10 21 rfl rfl)
theorem dX4_round_254 : decode cX4_round 254 = .ok (.iinc 6 1, 3) := dk_132 6 1 (dk_at dksX4_round_11 0 rfl rfl)
theorem dX4_round_257 : decode cX4_round 257 = .ok (.goto (-70), 3) := dk_167 255 186 (dk_at dksX4_round_11 3 rfl rfl)
theorem dX4_round_260 : decode cX4_round 260 = .ok (.iconst 0, 1) := dk_3 (dk_at dksX4_round_11 6 rfl rfl)
theorem dX4_round_261 : decode cX4_round 261 = .ok (.istore 6, 2) := dk_54 6 (dk_at dksX4_round_11 7 rfl rfl)
theorem dX4_round_263 : decode cX4_round 263 = .ok (.iload 6, 2) := dk_21 6 (dk_at dksX4_round_11 9 rfl rfl)
theorem dX4_round_265 : decode cX4_round 265 = .ok (.iconst 2, 1) := dk_5 (dk_at dksX4_round_11 11 rfl rfl)
theorem dX4_round_266 : decode cX4_round 266 = .ok (.aload_n 0, 1) := dk_42 (dk_at dksX4_round_11 12 rfl rfl)
theorem dX4_round_267 : decode cX4_round 267 = .ok (.getfield 20, 3) := dk_180 0 20 (dk_at dksX4_round_11 13 rfl rfl)
theorem dX4_round_270 : decode cX4_round 270 = .ok (.iconst 1, 1) := dk_4 (dk_at dksX4_round_11 16 rfl rfl)
theorem dX4_round_271 : decode cX4_round 271 = .ok (.iaload, 1) := dk_46 (dk_at dksX4_round_11 17 rfl rfl)
theorem dX4_round_272 : decode cX4_round 272 = .ok (.imul, 1) := dk_104 (dk_at dksX4_round_11 18 rfl rfl)
theorem dX4_round_273 : decode cX4_round 273 = .ok (.if_icmp .ge 55, 3) := dk_162 0 55 (dk_at dksX4_round_11 19 rfl rfl)
theorem dX4_round_276 : decode cX4_round 276 = .ok (.aload_n 0, 1) := dk_42 (dk_at dksX4_round_11 22 rfl rfl)
theorem dX4_round_277 : decode cX4_round 277 = .ok (.iload 6, 2) := dk_21 6 (dk_at dksX4_round_12 0 rfl rfl)
theorem dX4_round_279 : decode cX4_round 279 = .ok (.invokevirtual 262, 3) := dk_182 1 6 (dk_at dksX4_round_12 2 rfl rfl)
theorem dX4_round_282 : decode cX4_round 282 = .ok (.ifCond .eq 40, 3) := dk_153 0 40 (dk_at dksX4_round_12 5 rfl rfl)
theorem dX4_round_285 : decode cX4_round 285 = .ok (.aload_n 0, 1) := dk_42 (dk_at dksX4_round_12 8 rfl rfl)
theorem dX4_round_286 : decode cX4_round 286 = .ok (.iload 6, 2) := dk_21 6 (dk_at dksX4_round_12 9 rfl rfl)
theorem dX4_round_288 : decode cX4_round 288 = .ok (.invokevirtual 250, 3) := dk_182 0 250 (dk_at dksX4_round_12 11 rfl rfl)
theorem dX4_round_291 : decode cX4_round 291 = .ok (.iload_n 1, 1) := dk_27 (dk_at dksX4_round_12 14 rfl rfl)
theorem dX4_round_292 : decode cX4_round 292 = .ok (.if_icmp .ne 30, 3) := dk_160 0 30 (dk_at dksX4_round_12 15 rfl rfl)
theorem dX4_round_295 : decode cX4_round 295 = .ok (.aload_n 0, 1) := dk_42 (dk_at dksX4_round_12 18 rfl rfl)
theorem dX4_round_296 : decode cX4_round 296 = .ok (.getfield 104, 3) := dk_180 0 104 (dk_at dksX4_round_12 19 rfl rfl)
theorem dX4_round_299 : decode cX4_round 299 = .ok (.iload 6, 2) := dk_21 6 (dk_at dksX4_round_12 22 rfl rfl)
theorem dX4_round_301 : decode cX4_round 301 = .ok (.aaload, 1) := dk_50 (dk_at dksX4_round_13 0 rfl rfl)
theorem dX4_round_302 : decode cX4_round 302 = .ok (.iload 4, 2) := dk_21 4 (dk_at dksX4_round_13 1 rfl rfl)
theorem dX4_round_304 : decode cX4_round 304 = .ok (.iaload, 1) := dk_46 (dk_at dksX4_round_13 3 rfl rfl)
theorem dX4_round_305 : decode cX4_round 305 = .ok (.iload 5, 2) := dk_21 5 (dk_at dksX4_round_13 4 rfl rfl)
theorem dX4_round_307 : decode cX4_round 307 = .ok (.if_icmp .ge 15, 3) := dk_162 0 15 (dk_at dksX4_round_13 6 rfl rfl)
theorem dX4_round_310 : decode cX4_round 310 = .ok (.aload_n 0, 1) := dk_42 (dk_at dksX4_round_13 9 rfl rfl)
theorem dX4_round_311 : decode cX4_round 311 = .ok (.getfield 104, 3) := dk_180 0 104 (dk_at dksX4_round_13 10 rfl rfl)
theorem dX4_round_314 : decode cX4_round 314 = .ok (.iload 6, 2) := dk_21 6 (dk_at dksX4_round_13 13 rfl rfl)
theorem dX4_round_316 : decode cX4_round 316 = .ok (.aaload, 1) := dk_50 (dk_at dksX4_round_13 15 rfl rfl)
theorem dX4_round_317 : decode cX4_round 317 = .ok (.iload 4, 2) := dk_21 4 (dk_at dksX4_round_13 16 rfl rfl)
theorem dX4_round_319 : decode cX4_round 319 = .ok (.iaload, 1) := dk_46 (dk_at dksX4_round_13 18 rfl rfl)
theorem dX4_round_320 : decode cX4_round 320 = .ok (.istore 5, 2) := dk_54 5 (dk_at dksX4_round_13 19 rfl rfl)
theorem dX4_round_322 : decode cX4_round 322 = .ok (.iinc 6 1, 3) := dk_132 6 1 (dk_at dksX4_round_13 21 rfl rfl)
theorem dX4_round_325 : decode cX4_round 325 = .ok (.goto (-62), 3) := dk_167 255 194 (dk_at dksX4_round_14 0 rfl rfl)
theorem dX4_round_328 : decode cX4_round 328 = .ok (.iload 5, 2) := dk_21 5 (dk_at dksX4_round_14 3 rfl rfl)
theorem dX4_round_330 : decode cX4_round 330 = .ok (.ldc_w 294, 3) := dk_19 1 38 (dk_at dksX4_round_14 5 rfl rfl)
theorem dX4_round_333 : decode cX4_round 333 = .ok (.if_icmp .ne 7, 3) := dk_160 0 7 (dk_at dksX4_round_14 8 rfl rfl)
theorem dX4_round_336 : decode cX4_round 336 = .ok (.iconst (-1), 1) := dk_2 (dk_at dksX4_round_14 11 rfl rfl)
theorem dX4_round_337 : decode cX4_round 337 = .ok (.goto 5, 3) := dk_167 0 5 (dk_at dksX4_round_14 12 rfl rfl)
theorem dX4_round_340 : decode cX4_round 340 = .ok (.iload 5, 2) := dk_21 5 (dk_at dksX4_round_14 15 rfl rfl)
theorem dX4_round_342 : decode cX4_round 342 = .ok (.ireturn, 1) := dk_172 (dk_at dksX4_round_14 17 rfl rfl)
abbrev cX4_boxAt : ByteArray := prog_10_method_84_code
def yX4_boxAt : MethodName := ⟨RX4, "boxAt", "(II)I"⟩
def dkwX4_boxAt_1 : List UInt8 := [21, 4, 122, 4, 126, 96, 62, 132, 4, 1, 167, 255, 238, 4, 29, 120, 172]
abbrev dktX4_boxAt_1 : List UInt8 := dkwX4_boxAt_1 ++ []
def dkwX4_boxAt_0 : List UInt8 := [3, 62, 28, 27, 122, 4, 126, 154, 0, 5, 3, 172, 3, 54, 4, 21, 4, 27, 162, 0, 18, 29, 28]
abbrev dktX4_boxAt_0 : List UInt8 := dkwX4_boxAt_0 ++ dktX4_boxAt_1
theorem dksX4_boxAt_0 : cX4_boxAt.data.toList.drop 0 = dktX4_boxAt_0 := by decide +kernel
theorem dksX4_boxAt_1 : cX4_boxAt.data.toList.drop 23 = dktX4_boxAt_1 := dk_seg dksX4_boxAt_0 23 rfl rfl
theorem dX4_boxAt_0 : decode cX4_boxAt 0 = .ok (.iconst 0, 1) := dk_3 (dk_at dksX4_boxAt_0 0 rfl rfl)
theorem dX4_boxAt_1 : decode cX4_boxAt 1 = .ok (.istore_n 3, 1) := dk_62 (dk_at dksX4_boxAt_0 1 rfl rfl)
theorem dX4_boxAt_2 : decode cX4_boxAt 2 = .ok (.iload_n 2, 1) := dk_28 (dk_at dksX4_boxAt_0 2 rfl rfl)
theorem dX4_boxAt_3 : decode cX4_boxAt 3 = .ok (.iload_n 1, 1) := dk_27 (dk_at dksX4_boxAt_0 3 rfl rfl)
theorem dX4_boxAt_4 : decode cX4_boxAt 4 = .ok (.ishr, 1) := dk_122 (dk_at dksX4_boxAt_0 4 rfl rfl)
theorem dX4_boxAt_5 : decode cX4_boxAt 5 = .ok (.iconst 1, 1) := dk_4 (dk_at dksX4_boxAt_0 5 rfl rfl)
theorem dX4_boxAt_6 : decode cX4_boxAt 6 = .ok (.iand, 1) := dk_126 (dk_at dksX4_boxAt_0 6 rfl rfl)
theorem dX4_boxAt_7 : decode cX4_boxAt 7 = .ok (.ifCond .ne 5, 3) := dk_154 0 5 (dk_at dksX4_boxAt_0 7 rfl rfl)
theorem dX4_boxAt_10 : decode cX4_boxAt 10 = .ok (.iconst 0, 1) := dk_3 (dk_at dksX4_boxAt_0 10 rfl rfl)
theorem dX4_boxAt_11 : decode cX4_boxAt 11 = .ok (.ireturn, 1) := dk_172 (dk_at dksX4_boxAt_0 11 rfl rfl)
theorem dX4_boxAt_12 : decode cX4_boxAt 12 = .ok (.iconst 0, 1) := dk_3 (dk_at dksX4_boxAt_0 12 rfl rfl)
theorem dX4_boxAt_13 : decode cX4_boxAt 13 = .ok (.istore 4, 2) := dk_54 4 (dk_at dksX4_boxAt_0 13 rfl rfl)
theorem dX4_boxAt_15 : decode cX4_boxAt 15 = .ok (.iload 4, 2) := dk_21 4 (dk_at dksX4_boxAt_0 15 rfl rfl)
theorem dX4_boxAt_17 : decode cX4_boxAt 17 = .ok (.iload_n 1, 1) := dk_27 (dk_at dksX4_boxAt_0 17 rfl rfl)
theorem dX4_boxAt_18 : decode cX4_boxAt 18 = .ok (.if_icmp .ge 18, 3) := dk_162 0 18 (dk_at dksX4_boxAt_0 18 rfl rfl)
theorem dX4_boxAt_21 : decode cX4_boxAt 21 = .ok (.iload_n 3, 1) := dk_29 (dk_at dksX4_boxAt_0 21 rfl rfl)
theorem dX4_boxAt_22 : decode cX4_boxAt 22 = .ok (.iload_n 2, 1) := dk_28 (dk_at dksX4_boxAt_0 22 rfl rfl)
theorem dX4_boxAt_23 : decode cX4_boxAt 23 = .ok (.iload 4, 2) := dk_21 4 (dk_at dksX4_boxAt_1 0 rfl rfl)
theorem dX4_boxAt_25 : decode cX4_boxAt 25 = .ok (.ishr, 1) := dk_122 (dk_at dksX4_boxAt_1 2 rfl rfl)
theorem dX4_boxAt_26 : decode cX4_boxAt 26 = .ok (.iconst 1, 1) := dk_4 (dk_at dksX4_boxAt_1 3 rfl rfl)
theorem dX4_boxAt_27 : decode cX4_boxAt 27 = .ok (.iand, 1) := dk_126 (dk_at dksX4_boxAt_1 4 rfl rfl)
theorem dX4_boxAt_28 : decode cX4_boxAt 28 = .ok (.iadd, 1) := dk_96 (dk_at dksX4_boxAt_1 5 rfl rfl)
theorem dX4_boxAt_29 : decode cX4_boxAt 29 = .ok (.istore_n 3, 1) := dk_62 (dk_at dksX4_boxAt_1 6 rfl rfl)
theorem dX4_boxAt_30 : decode cX4_boxAt 30 = .ok (.iinc 4 1, 3) := dk_132 4 1 (dk_at dksX4_boxAt_1 7 rfl rfl)
theorem dX4_boxAt_33 : decode cX4_boxAt 33 = .ok (.goto (-18), 3) := dk_167 255 238 (dk_at dksX4_boxAt_1 10 rfl rfl)
theorem dX4_boxAt_36 : decode cX4_boxAt 36 = .ok (.iconst 1, 1) := dk_4 (dk_at dksX4_boxAt_1 13 rfl rfl)
theorem dX4_boxAt_37 : decode cX4_boxAt 37 = .ok (.iload_n 3, 1) := dk_29 (dk_at dksX4_boxAt_1 14 rfl rfl)
theorem dX4_boxAt_38 : decode cX4_boxAt 38 = .ok (.ishl, 1) := dk_120 (dk_at dksX4_boxAt_1 15 rfl rfl)
theorem dX4_boxAt_39 : decode cX4_boxAt 39 = .ok (.ireturn, 1) := dk_172 (dk_at dksX4_boxAt_1 16 rfl rfl)
abbrev cX4_spreads : ByteArray := prog_10_method_86_code
def yX4_spreads : MethodName := ⟨RX4, "spreads", "(III)Z"⟩
def dkwX4_spreads_6 : List UInt8 := [21, 4, 172]
abbrev dktX4_spreads_6 : List UInt8 := dkwX4_spreads_6 ++ []
def dkwX4_spreads_5 : List UInt8 := [21, 4, 154, 0, 9, 21, 6, 28, 160, 0, 7, 4, 167, 0, 4, 3, 54, 4, 132, 5, 1, 167, 255, 147]
abbrev dktX4_spreads_5 : List UInt8 := dkwX4_spreads_5 ++ dktX4_spreads_6
def dkwX4_spreads_4 : List UInt8 := [21, 5, 50, 21, 6, 46, 161, 0, 6, 167, 0, 33, 42, 180, 0, 104, 21, 5, 50, 21, 6, 21, 7, 79]
abbrev dktX4_spreads_4 : List UInt8 := dkwX4_spreads_4 ++ dktX4_spreads_5
def dkwX4_spreads_3 : List UInt8 := [42, 180, 0, 104, 27, 50, 28, 46, 42, 21, 5, 182, 1, 39, 96, 54, 7, 21, 7, 42, 180, 0, 104]
abbrev dktX4_spreads_3 : List UInt8 := dkwX4_spreads_3 ++ dktX4_spreads_4
def dkwX4_spreads_2 : List UInt8 := [182, 1, 42, 154, 0, 6, 167, 0, 83, 28, 42, 42, 21, 5, 182, 0, 250, 29, 182, 1, 110, 128, 54, 6]
abbrev dktX4_spreads_2 : List UInt8 := dkwX4_spreads_2 ++ dktX4_spreads_3
def dkwX4_spreads_1 : List UInt8 := [3, 54, 4, 3, 54, 5, 21, 5, 5, 42, 180, 0, 20, 4, 46, 104, 162, 0, 102, 42, 27, 21, 5]
abbrev dktX4_spreads_1 : List UInt8 := dkwX4_spreads_1 ++ dktX4_spreads_2
def dkwX4_spreads_0 : List UInt8 := [42, 27, 182, 1, 6, 153, 0, 17, 42, 180, 0, 104, 27, 50, 28, 46, 19, 1, 38, 160, 0, 5, 3, 172]
abbrev dktX4_spreads_0 : List UInt8 := dkwX4_spreads_0 ++ dktX4_spreads_1
theorem dksX4_spreads_0 : cX4_spreads.data.toList.drop 0 = dktX4_spreads_0 := by decide +kernel
theorem dksX4_spreads_1 : cX4_spreads.data.toList.drop 24 = dktX4_spreads_1 := dk_seg dksX4_spreads_0 24 rfl rfl
theorem dksX4_spreads_2 : cX4_spreads.data.toList.drop 47 = dktX4_spreads_2 := dk_seg dksX4_spreads_1 23 rfl rfl
theorem dksX4_spreads_3 : cX4_spreads.data.toList.drop 71 = dktX4_spreads_3 := dk_seg dksX4_spreads_2 24 rfl rfl
theorem dksX4_spreads_4 : cX4_spreads.data.toList.drop 94 = dktX4_spreads_4 := dk_seg dksX4_spreads_3 23 rfl rfl
theorem dksX4_spreads_5 : cX4_spreads.data.toList.drop 118 = dktX4_spreads_5 := dk_seg dksX4_spreads_4 24 rfl rfl
theorem dksX4_spreads_6 : cX4_spreads.data.toList.drop 142 = dktX4_spreads_6 := dk_seg dksX4_spreads_5 24 rfl rfl
theorem dX4_spreads_0 : decode cX4_spreads 0 = .ok (.aload_n 0, 1) := dk_42 (dk_at dksX4_spreads_0 0 rfl rfl)
theorem dX4_spreads_1 : decode cX4_spreads 1 = .ok (.iload_n 1, 1) := dk_27 (dk_at dksX4_spreads_0 1 rfl rfl)
theorem dX4_spreads_2 : decode cX4_spreads 2 = .ok (.invokevirtual 262, 3) := dk_182 1 6 (dk_at dksX4_spreads_0 2 rfl rfl)
theorem dX4_spreads_5 : decode cX4_spreads 5 = .ok (.ifCond .eq 17, 3) := dk_153 0 17 (dk_at dksX4_spreads_0 5 rfl rfl)
theorem dX4_spreads_8 : decode cX4_spreads 8 = .ok (.aload_n 0, 1) := dk_42 (dk_at dksX4_spreads_0 8 rfl rfl)
theorem dX4_spreads_9 : decode cX4_spreads 9 = .ok (.getfield 104, 3) := dk_180 0 104 (dk_at dksX4_spreads_0 9 rfl rfl)
theorem dX4_spreads_12 : decode cX4_spreads 12 = .ok (.iload_n 1, 1) := dk_27 (dk_at dksX4_spreads_0 12 rfl rfl)
theorem dX4_spreads_13 : decode cX4_spreads 13 = .ok (.aaload, 1) := dk_50 (dk_at dksX4_spreads_0 13 rfl rfl)
theorem dX4_spreads_14 : decode cX4_spreads 14 = .ok (.iload_n 2, 1) := dk_28 (dk_at dksX4_spreads_0 14 rfl rfl)
theorem dX4_spreads_15 : decode cX4_spreads 15 = .ok (.iaload, 1) := dk_46 (dk_at dksX4_spreads_0 15 rfl rfl)
theorem dX4_spreads_16 : decode cX4_spreads 16 = .ok (.ldc_w 294, 3) := dk_19 1 38 (dk_at dksX4_spreads_0 16 rfl rfl)
theorem dX4_spreads_19 : decode cX4_spreads 19 = .ok (.if_icmp .ne 5, 3) := dk_160 0 5 (dk_at dksX4_spreads_0 19 rfl rfl)
theorem dX4_spreads_22 : decode cX4_spreads 22 = .ok (.iconst 0, 1) := dk_3 (dk_at dksX4_spreads_0 22 rfl rfl)
theorem dX4_spreads_23 : decode cX4_spreads 23 = .ok (.ireturn, 1) := dk_172 (dk_at dksX4_spreads_0 23 rfl rfl)
theorem dX4_spreads_24 : decode cX4_spreads 24 = .ok (.iconst 0, 1) := dk_3 (dk_at dksX4_spreads_1 0 rfl rfl)
theorem dX4_spreads_25 : decode cX4_spreads 25 = .ok (.istore 4, 2) := dk_54 4 (dk_at dksX4_spreads_1 1 rfl rfl)
theorem dX4_spreads_27 : decode cX4_spreads 27 = .ok (.iconst 0, 1) := dk_3 (dk_at dksX4_spreads_1 3 rfl rfl)
theorem dX4_spreads_28 : decode cX4_spreads 28 = .ok (.istore 5, 2) := dk_54 5 (dk_at dksX4_spreads_1 4 rfl rfl)
theorem dX4_spreads_30 : decode cX4_spreads 30 = .ok (.iload 5, 2) := dk_21 5 (dk_at dksX4_spreads_1 6 rfl rfl)
theorem dX4_spreads_32 : decode cX4_spreads 32 = .ok (.iconst 2, 1) := dk_5 (dk_at dksX4_spreads_1 8 rfl rfl)
theorem dX4_spreads_33 : decode cX4_spreads 33 = .ok (.aload_n 0, 1) := dk_42 (dk_at dksX4_spreads_1 9 rfl rfl)
theorem dX4_spreads_34 : decode cX4_spreads 34 = .ok (.getfield 20, 3) := dk_180 0 20 (dk_at dksX4_spreads_1 10 rfl rfl)
theorem dX4_spreads_37 : decode cX4_spreads 37 = .ok (.iconst 1, 1) := dk_4 (dk_at dksX4_spreads_1 13 rfl rfl)
theorem dX4_spreads_38 : decode cX4_spreads 38 = .ok (.iaload, 1) := dk_46 (dk_at dksX4_spreads_1 14 rfl rfl)
theorem dX4_spreads_39 : decode cX4_spreads 39 = .ok (.imul, 1) := dk_104 (dk_at dksX4_spreads_1 15 rfl rfl)
theorem dX4_spreads_40 : decode cX4_spreads 40 = .ok (.if_icmp .ge 102, 3) := dk_162 0 102 (dk_at dksX4_spreads_1 16 rfl rfl)
theorem dX4_spreads_43 : decode cX4_spreads 43 = .ok (.aload_n 0, 1) := dk_42 (dk_at dksX4_spreads_1 19 rfl rfl)
theorem dX4_spreads_44 : decode cX4_spreads 44 = .ok (.iload_n 1, 1) := dk_27 (dk_at dksX4_spreads_1 20 rfl rfl)
theorem dX4_spreads_45 : decode cX4_spreads 45 = .ok (.iload 5, 2) := dk_21 5 (dk_at dksX4_spreads_1 21 rfl rfl)
theorem dX4_spreads_47 : decode cX4_spreads 47 = .ok (.invokevirtual 298, 3) := dk_182 1 42 (dk_at dksX4_spreads_2 0 rfl rfl)
theorem dX4_spreads_50 : decode cX4_spreads 50 = .ok (.ifCond .ne 6, 3) := dk_154 0 6 (dk_at dksX4_spreads_2 3 rfl rfl)
theorem dX4_spreads_53 : decode cX4_spreads 53 = .ok (.goto 83, 3) := dk_167 0 83 (dk_at dksX4_spreads_2 6 rfl rfl)
theorem dX4_spreads_56 : decode cX4_spreads 56 = .ok (.iload_n 2, 1) := dk_28 (dk_at dksX4_spreads_2 9 rfl rfl)
theorem dX4_spreads_57 : decode cX4_spreads 57 = .ok (.aload_n 0, 1) := dk_42 (dk_at dksX4_spreads_2 10 rfl rfl)
theorem dX4_spreads_58 : decode cX4_spreads 58 = .ok (.aload_n 0, 1) := dk_42 (dk_at dksX4_spreads_2 11 rfl rfl)
theorem dX4_spreads_59 : decode cX4_spreads 59 = .ok (.iload 5, 2) := dk_21 5 (dk_at dksX4_spreads_2 12 rfl rfl)
theorem dX4_spreads_61 : decode cX4_spreads 61 = .ok (.invokevirtual 250, 3) := dk_182 0 250 (dk_at dksX4_spreads_2 14 rfl rfl)
theorem dX4_spreads_64 : decode cX4_spreads 64 = .ok (.iload_n 3, 1) := dk_29 (dk_at dksX4_spreads_2 17 rfl rfl)
theorem dX4_spreads_65 : decode cX4_spreads 65 = .ok (.invokevirtual 366, 3) := dk_182 1 110 (dk_at dksX4_spreads_2 18 rfl rfl)
theorem dX4_spreads_68 : decode cX4_spreads 68 = .ok (.ior, 1) := dk_128 (dk_at dksX4_spreads_2 21 rfl rfl)
theorem dX4_spreads_69 : decode cX4_spreads 69 = .ok (.istore 6, 2) := dk_54 6 (dk_at dksX4_spreads_2 22 rfl rfl)
theorem dX4_spreads_71 : decode cX4_spreads 71 = .ok (.aload_n 0, 1) := dk_42 (dk_at dksX4_spreads_3 0 rfl rfl)
theorem dX4_spreads_72 : decode cX4_spreads 72 = .ok (.getfield 104, 3) := dk_180 0 104 (dk_at dksX4_spreads_3 1 rfl rfl)
theorem dX4_spreads_75 : decode cX4_spreads 75 = .ok (.iload_n 1, 1) := dk_27 (dk_at dksX4_spreads_3 4 rfl rfl)
theorem dX4_spreads_76 : decode cX4_spreads 76 = .ok (.aaload, 1) := dk_50 (dk_at dksX4_spreads_3 5 rfl rfl)
theorem dX4_spreads_77 : decode cX4_spreads 77 = .ok (.iload_n 2, 1) := dk_28 (dk_at dksX4_spreads_3 6 rfl rfl)
theorem dX4_spreads_78 : decode cX4_spreads 78 = .ok (.iaload, 1) := dk_46 (dk_at dksX4_spreads_3 7 rfl rfl)
theorem dX4_spreads_79 : decode cX4_spreads 79 = .ok (.aload_n 0, 1) := dk_42 (dk_at dksX4_spreads_3 8 rfl rfl)
theorem dX4_spreads_80 : decode cX4_spreads 80 = .ok (.iload 5, 2) := dk_21 5 (dk_at dksX4_spreads_3 9 rfl rfl)
theorem dX4_spreads_82 : decode cX4_spreads 82 = .ok (.invokevirtual 295, 3) := dk_182 1 39 (dk_at dksX4_spreads_3 11 rfl rfl)
theorem dX4_spreads_85 : decode cX4_spreads 85 = .ok (.iadd, 1) := dk_96 (dk_at dksX4_spreads_3 14 rfl rfl)
theorem dX4_spreads_86 : decode cX4_spreads 86 = .ok (.istore 7, 2) := dk_54 7 (dk_at dksX4_spreads_3 15 rfl rfl)
theorem dX4_spreads_88 : decode cX4_spreads 88 = .ok (.iload 7, 2) := dk_21 7 (dk_at dksX4_spreads_3 17 rfl rfl)
theorem dX4_spreads_90 : decode cX4_spreads 90 = .ok (.aload_n 0, 1) := dk_42 (dk_at dksX4_spreads_3 19 rfl rfl)
theorem dX4_spreads_91 : decode cX4_spreads 91 = .ok (.getfield 104, 3) := dk_180 0 104 (dk_at dksX4_spreads_3 20 rfl rfl)
theorem dX4_spreads_94 : decode cX4_spreads 94 = .ok (.iload 5, 2) := dk_21 5 (dk_at dksX4_spreads_4 0 rfl rfl)
theorem dX4_spreads_96 : decode cX4_spreads 96 = .ok (.aaload, 1) := dk_50 (dk_at dksX4_spreads_4 2 rfl rfl)
theorem dX4_spreads_97 : decode cX4_spreads 97 = .ok (.iload 6, 2) := dk_21 6 (dk_at dksX4_spreads_4 3 rfl rfl)
theorem dX4_spreads_99 : decode cX4_spreads 99 = .ok (.iaload, 1) := dk_46 (dk_at dksX4_spreads_4 5 rfl rfl)
theorem dX4_spreads_100 : decode cX4_spreads 100 = .ok (.if_icmp .lt 6, 3) := dk_161 0 6 (dk_at dksX4_spreads_4 6 rfl rfl)
theorem dX4_spreads_103 : decode cX4_spreads 103 = .ok (.goto 33, 3) := dk_167 0 33 (dk_at dksX4_spreads_4 9 rfl rfl)
theorem dX4_spreads_106 : decode cX4_spreads 106 = .ok (.aload_n 0, 1) := dk_42 (dk_at dksX4_spreads_4 12 rfl rfl)
theorem dX4_spreads_107 : decode cX4_spreads 107 = .ok (.getfield 104, 3) := dk_180 0 104 (dk_at dksX4_spreads_4 13 rfl rfl)
theorem dX4_spreads_110 : decode cX4_spreads 110 = .ok (.iload 5, 2) := dk_21 5 (dk_at dksX4_spreads_4 16 rfl rfl)
theorem dX4_spreads_112 : decode cX4_spreads 112 = .ok (.aaload, 1) := dk_50 (dk_at dksX4_spreads_4 18 rfl rfl)
theorem dX4_spreads_113 : decode cX4_spreads 113 = .ok (.iload 6, 2) := dk_21 6 (dk_at dksX4_spreads_4 19 rfl rfl)
theorem dX4_spreads_115 : decode cX4_spreads 115 = .ok (.iload 7, 2) := dk_21 7 (dk_at dksX4_spreads_4 21 rfl rfl)
theorem dX4_spreads_117 : decode cX4_spreads 117 = .ok (.iastore, 1) := dk_79 (dk_at dksX4_spreads_4 23 rfl rfl)
theorem dX4_spreads_118 : decode cX4_spreads 118 = .ok (.iload 4, 2) := dk_21 4 (dk_at dksX4_spreads_5 0 rfl rfl)
theorem dX4_spreads_120 : decode cX4_spreads 120 = .ok (.ifCond .ne 9, 3) := dk_154 0 9 (dk_at dksX4_spreads_5 2 rfl rfl)
theorem dX4_spreads_123 : decode cX4_spreads 123 = .ok (.iload 6, 2) := dk_21 6 (dk_at dksX4_spreads_5 5 rfl rfl)
theorem dX4_spreads_125 : decode cX4_spreads 125 = .ok (.iload_n 2, 1) := dk_28 (dk_at dksX4_spreads_5 7 rfl rfl)
theorem dX4_spreads_126 : decode cX4_spreads 126 = .ok (.if_icmp .ne 7, 3) := dk_160 0 7 (dk_at dksX4_spreads_5 8 rfl rfl)
theorem dX4_spreads_129 : decode cX4_spreads 129 = .ok (.iconst 1, 1) := dk_4 (dk_at dksX4_spreads_5 11 rfl rfl)
theorem dX4_spreads_130 : decode cX4_spreads 130 = .ok (.goto 4, 3) := dk_167 0 4 (dk_at dksX4_spreads_5 12 rfl rfl)
theorem dX4_spreads_133 : decode cX4_spreads 133 = .ok (.iconst 0, 1) := dk_3 (dk_at dksX4_spreads_5 15 rfl rfl)
theorem dX4_spreads_134 : decode cX4_spreads 134 = .ok (.istore 4, 2) := dk_54 4 (dk_at dksX4_spreads_5 16 rfl rfl)
theorem dX4_spreads_136 : decode cX4_spreads 136 = .ok (.iinc 5 1, 3) := dk_132 5 1 (dk_at dksX4_spreads_5 18 rfl rfl)
theorem dX4_spreads_139 : decode cX4_spreads 139 = .ok (.goto (-109), 3) := dk_167 255 147 (dk_at dksX4_spreads_5 21 rfl rfl)
theorem dX4_spreads_142 : decode cX4_spreads 142 = .ok (.iload 4, 2) := dk_21 4 (dk_at dksX4_spreads_6 0 rfl rfl)
theorem dX4_spreads_144 : decode cX4_spreads 144 = .ok (.ireturn, 1) := dk_172 (dk_at dksX4_spreads_6 2 rfl rfl)
abbrev cX4_bound : ByteArray := prog_10_method_87_code
def yX4_bound : MethodName := ⟨RX4, "bound", "(II)I"⟩
def dkwX4_bound_17 : List UInt8 := [160, 0, 7, 2, 167, 0, 10, 42, 180, 0, 113, 21, 5, 46, 172]
abbrev dktX4_bound_17 : List UInt8 := dkwX4_bound_17 ++ []
def dkwX4_bound_16 : List UInt8 := [79, 132, 8, 1, 167, 255, 143, 132, 6, 1, 167, 255, 120, 42, 180, 0, 113, 21, 5, 46, 19, 1, 38]
abbrev dktX4_bound_16 : List UInt8 := dkwX4_bound_16 ++ dktX4_bound_17
def dkwX4_bound_15 : List UInt8 := [21, 9, 42, 180, 0, 113, 21, 10, 46, 162, 0, 8, 21, 9, 167, 0, 10, 42, 180, 0, 113, 21, 10, 46]
abbrev dktX4_bound_15 : List UInt8 := dkwX4_bound_15 ++ dktX4_bound_16
def dkwX4_bound_14 : List UInt8 := [21, 7, 50, 21, 8, 46, 96, 54, 9, 21, 6, 4, 21, 8, 120, 128, 54, 10, 42, 180, 0, 113, 21, 10]
abbrev dktX4_bound_14 : List UInt8 := dkwX4_bound_14 ++ dktX4_bound_15
def dkwX4_bound_13 : List UInt8 := [21, 6, 46, 19, 1, 38, 160, 0, 6, 167, 0, 63, 42, 180, 0, 113, 21, 6, 46, 42, 180, 0, 110]
abbrev dktX4_bound_13 : List UInt8 := dkwX4_bound_13 ++ dktX4_bound_14
def dkwX4_bound_12 : List UInt8 := [4, 159, 0, 95, 42, 180, 0, 110, 21, 7, 50, 21, 8, 46, 19, 1, 38, 159, 0, 79, 42, 180, 0, 113]
abbrev dktX4_bound_12 : List UInt8 := dkwX4_bound_12 ++ dktX4_bound_13
def dkwX4_bound_11 : List UInt8 := [21, 6, 184, 0, 187, 54, 7, 3, 54, 8, 21, 8, 21, 4, 162, 0, 112, 21, 6, 21, 8, 122, 4, 126]
abbrev dktX4_bound_11 : List UInt8 := dkwX4_bound_11 ++ dktX4_bound_12
def dkwX4_bound_10 : List UInt8 := [167, 0, 6, 19, 1, 38, 79, 132, 6, 1, 167, 255, 227, 3, 54, 6, 21, 6, 21, 5, 162, 0, 135]
abbrev dktX4_bound_10 : List UInt8 := dkwX4_bound_10 ++ dktX4_bound_11
def dkwX4_bound_9 : List UInt8 := [54, 5, 3, 54, 6, 21, 6, 21, 5, 163, 0, 28, 42, 180, 0, 113, 21, 6, 21, 6, 154, 0, 7, 3]
abbrev dktX4_bound_9 : List UInt8 := dkwX4_bound_9 ++ dktX4_bound_10
def dkwX4_bound_8 : List UInt8 := [167, 0, 5, 21, 7, 79, 132, 6, 1, 167, 255, 191, 132, 5, 1, 167, 255, 175, 4, 21, 4, 120, 4, 100]
abbrev dktX4_bound_8 : List UInt8 := dkwX4_bound_8 ++ dktX4_bound_9
def dkwX4_bound_7 : List UInt8 := [182, 1, 57, 54, 7, 42, 180, 0, 110, 21, 5, 50, 21, 6, 21, 7, 2, 160, 0, 9, 19, 1, 38]
abbrev dktX4_bound_7 : List UInt8 := dkwX4_bound_7 ++ dktX4_bound_8
def dkwX4_bound_6 : List UInt8 := [21, 6, 160, 0, 7, 2, 167, 0, 21, 42, 42, 180, 0, 107, 21, 5, 46, 42, 180, 0, 107, 21, 6, 46]
abbrev dktX4_bound_6 : List UInt8 := dkwX4_bound_6 ++ dktX4_bound_7
def dkwX4_bound_5 : List UInt8 := [172, 3, 54, 5, 21, 5, 21, 4, 162, 0, 80, 3, 54, 6, 21, 6, 21, 4, 162, 0, 64, 21, 5]
abbrev dktX4_bound_5 : List UInt8 := dkwX4_bound_5 ++ dktX4_bound_6
def dkwX4_bound_4 : List UInt8 := [180, 0, 107, 21, 4, 21, 5, 79, 132, 4, 1, 132, 5, 1, 167, 255, 218, 21, 4, 4, 160, 0, 5, 3]
abbrev dktX4_bound_4 : List UInt8 := dkwX4_bound_4 ++ dktX4_bound_5
def dkwX4_bound_3 : List UInt8 := [21, 5, 42, 180, 0, 20, 3, 46, 162, 0, 33, 29, 21, 5, 122, 4, 126, 154, 0, 6, 167, 0, 15, 42]
abbrev dktX4_bound_3 : List UInt8 := dkwX4_bound_3 ++ dktX4_bound_4
def dkwX4_bound_2 : List UInt8 := [3, 172, 42, 28, 182, 1, 54, 42, 180, 0, 20, 5, 46, 4, 27, 120, 128, 62, 3, 54, 4, 3, 54, 5]
abbrev dktX4_bound_2 : List UInt8 := dkwX4_bound_2 ++ dktX4_bound_3
def dkwX4_bound_1 : List UInt8 := [154, 0, 24, 42, 42, 28, 182, 1, 25, 154, 0, 7, 4, 167, 0, 4, 3, 5, 182, 0, 227, 153, 0, 5]
abbrev dktX4_bound_1 : List UInt8 := dkwX4_bound_1 ++ dktX4_bound_2
def dkwX4_bound_0 : List UInt8 := [42, 3, 181, 0, 131, 42, 42, 27, 182, 1, 51, 154, 0, 7, 4, 167, 0, 4, 3, 4, 182, 0, 227]
abbrev dktX4_bound_0 : List UInt8 := dkwX4_bound_0 ++ dktX4_bound_1
theorem dksX4_bound_0 : cX4_bound.data.toList.drop 0 = dktX4_bound_0 := by decide +kernel
theorem dksX4_bound_1 : cX4_bound.data.toList.drop 23 = dktX4_bound_1 := dk_seg dksX4_bound_0 23 rfl rfl
theorem dksX4_bound_2 : cX4_bound.data.toList.drop 47 = dktX4_bound_2 := dk_seg dksX4_bound_1 24 rfl rfl
theorem dksX4_bound_3 : cX4_bound.data.toList.drop 71 = dktX4_bound_3 := dk_seg dksX4_bound_2 24 rfl rfl
theorem dksX4_bound_4 : cX4_bound.data.toList.drop 95 = dktX4_bound_4 := dk_seg dksX4_bound_3 24 rfl rfl
theorem dksX4_bound_5 : cX4_bound.data.toList.drop 119 = dktX4_bound_5 := dk_seg dksX4_bound_4 24 rfl rfl
theorem dksX4_bound_6 : cX4_bound.data.toList.drop 142 = dktX4_bound_6 := dk_seg dksX4_bound_5 23 rfl rfl
theorem dksX4_bound_7 : cX4_bound.data.toList.drop 166 = dktX4_bound_7 := dk_seg dksX4_bound_6 24 rfl rfl
theorem dksX4_bound_8 : cX4_bound.data.toList.drop 189 = dktX4_bound_8 := dk_seg dksX4_bound_7 23 rfl rfl
theorem dksX4_bound_9 : cX4_bound.data.toList.drop 213 = dktX4_bound_9 := dk_seg dksX4_bound_8 24 rfl rfl
theorem dksX4_bound_10 : cX4_bound.data.toList.drop 237 = dktX4_bound_10 := dk_seg dksX4_bound_9 24 rfl rfl
theorem dksX4_bound_11 : cX4_bound.data.toList.drop 260 = dktX4_bound_11 := dk_seg dksX4_bound_10 23 rfl rfl
theorem dksX4_bound_12 : cX4_bound.data.toList.drop 284 = dktX4_bound_12 := dk_seg dksX4_bound_11 24 rfl rfl
theorem dksX4_bound_13 : cX4_bound.data.toList.drop 308 = dktX4_bound_13 := dk_seg dksX4_bound_12 24 rfl rfl
theorem dksX4_bound_14 : cX4_bound.data.toList.drop 331 = dktX4_bound_14 := dk_seg dksX4_bound_13 23 rfl rfl
theorem dksX4_bound_15 : cX4_bound.data.toList.drop 355 = dktX4_bound_15 := dk_seg dksX4_bound_14 24 rfl rfl
theorem dksX4_bound_16 : cX4_bound.data.toList.drop 379 = dktX4_bound_16 := dk_seg dksX4_bound_15 24 rfl rfl
theorem dksX4_bound_17 : cX4_bound.data.toList.drop 402 = dktX4_bound_17 := dk_seg dksX4_bound_16 23 rfl rfl
theorem dX4_bound_0 : decode cX4_bound 0 = .ok (.aload_n 0, 1) := dk_42 (dk_at dksX4_bound_0 0 rfl rfl)
theorem dX4_bound_1 : decode cX4_bound 1 = .ok (.iconst 0, 1) := dk_3 (dk_at dksX4_bound_0 1 rfl rfl)
theorem dX4_bound_2 : decode cX4_bound 2 = .ok (.putfield 131, 3) := dk_181 0 131 (dk_at dksX4_bound_0 2 rfl rfl)
theorem dX4_bound_5 : decode cX4_bound 5 = .ok (.aload_n 0, 1) := dk_42 (dk_at dksX4_bound_0 5 rfl rfl)
theorem dX4_bound_6 : decode cX4_bound 6 = .ok (.aload_n 0, 1) := dk_42 (dk_at dksX4_bound_0 6 rfl rfl)
theorem dX4_bound_7 : decode cX4_bound 7 = .ok (.iload_n 1, 1) := dk_27 (dk_at dksX4_bound_0 7 rfl rfl)
theorem dX4_bound_8 : decode cX4_bound 8 = .ok (.invokevirtual 307, 3) := dk_182 1 51 (dk_at dksX4_bound_0 8 rfl rfl)
theorem dX4_bound_11 : decode cX4_bound 11 = .ok (.ifCond .ne 7, 3) := dk_154 0 7 (dk_at dksX4_bound_0 11 rfl rfl)
theorem dX4_bound_14 : decode cX4_bound 14 = .ok (.iconst 1, 1) := dk_4 (dk_at dksX4_bound_0 14 rfl rfl)
theorem dX4_bound_15 : decode cX4_bound 15 = .ok (.goto 4, 3) := dk_167 0 4 (dk_at dksX4_bound_0 15 rfl rfl)
theorem dX4_bound_18 : decode cX4_bound 18 = .ok (.iconst 0, 1) := dk_3 (dk_at dksX4_bound_0 18 rfl rfl)
theorem dX4_bound_19 : decode cX4_bound 19 = .ok (.iconst 1, 1) := dk_4 (dk_at dksX4_bound_0 19 rfl rfl)
theorem dX4_bound_20 : decode cX4_bound 20 = .ok (.invokevirtual 227, 3) := dk_182 0 227 (dk_at dksX4_bound_0 20 rfl rfl)
theorem dX4_bound_23 : decode cX4_bound 23 = .ok (.ifCond .ne 24, 3) := dk_154 0 24 (dk_at dksX4_bound_1 0 rfl rfl)
theorem dX4_bound_26 : decode cX4_bound 26 = .ok (.aload_n 0, 1) := dk_42 (dk_at dksX4_bound_1 3 rfl rfl)
theorem dX4_bound_27 : decode cX4_bound 27 = .ok (.aload_n 0, 1) := dk_42 (dk_at dksX4_bound_1 4 rfl rfl)
theorem dX4_bound_28 : decode cX4_bound 28 = .ok (.iload_n 2, 1) := dk_28 (dk_at dksX4_bound_1 5 rfl rfl)
theorem dX4_bound_29 : decode cX4_bound 29 = .ok (.invokevirtual 281, 3) := dk_182 1 25 (dk_at dksX4_bound_1 6 rfl rfl)
theorem dX4_bound_32 : decode cX4_bound 32 = .ok (.ifCond .ne 7, 3) := dk_154 0 7 (dk_at dksX4_bound_1 9 rfl rfl)
theorem dX4_bound_35 : decode cX4_bound 35 = .ok (.iconst 1, 1) := dk_4 (dk_at dksX4_bound_1 12 rfl rfl)
theorem dX4_bound_36 : decode cX4_bound 36 = .ok (.goto 4, 3) := dk_167 0 4 (dk_at dksX4_bound_1 13 rfl rfl)
theorem dX4_bound_39 : decode cX4_bound 39 = .ok (.iconst 0, 1) := dk_3 (dk_at dksX4_bound_1 16 rfl rfl)
theorem dX4_bound_40 : decode cX4_bound 40 = .ok (.iconst 2, 1) := dk_5 (dk_at dksX4_bound_1 17 rfl rfl)
theorem dX4_bound_41 : decode cX4_bound 41 = .ok (.invokevirtual 227, 3) := dk_182 0 227 (dk_at dksX4_bound_1 18 rfl rfl)
theorem dX4_bound_44 : decode cX4_bound 44 = .ok (.ifCond .eq 5, 3) := dk_153 0 5 (dk_at dksX4_bound_1 21 rfl rfl)
theorem dX4_bound_47 : decode cX4_bound 47 = .ok (.iconst 0, 1) := dk_3 (dk_at dksX4_bound_2 0 rfl rfl)
theorem dX4_bound_48 : decode cX4_bound 48 = .ok (.ireturn, 1) := dk_172 (dk_at dksX4_bound_2 1 rfl rfl)
theorem dX4_bound_49 : decode cX4_bound 49 = .ok (.aload_n 0, 1) := dk_42 (dk_at dksX4_bound_2 2 rfl rfl)
theorem dX4_bound_50 : decode cX4_bound 50 = .ok (.iload_n 2, 1) := dk_28 (dk_at dksX4_bound_2 3 rfl rfl)
theorem dX4_bound_51 : decode cX4_bound 51 = .ok (.invokevirtual 310, 3) := dk_182 1 54 (dk_at dksX4_bound_2 4 rfl rfl)
theorem dX4_bound_54 : decode cX4_bound 54 = .ok (.aload_n 0, 1) := dk_42 (dk_at dksX4_bound_2 7 rfl rfl)
theorem dX4_bound_55 : decode cX4_bound 55 = .ok (.getfield 20, 3) := dk_180 0 20 (dk_at dksX4_bound_2 8 rfl rfl)
theorem dX4_bound_58 : decode cX4_bound 58 = .ok (.iconst 2, 1) := dk_5 (dk_at dksX4_bound_2 11 rfl rfl)
theorem dX4_bound_59 : decode cX4_bound 59 = .ok (.iaload, 1) := dk_46 (dk_at dksX4_bound_2 12 rfl rfl)
theorem dX4_bound_60 : decode cX4_bound 60 = .ok (.iconst 1, 1) := dk_4 (dk_at dksX4_bound_2 13 rfl rfl)
theorem dX4_bound_61 : decode cX4_bound 61 = .ok (.iload_n 1, 1) := dk_27 (dk_at dksX4_bound_2 14 rfl rfl)
theorem dX4_bound_62 : decode cX4_bound 62 = .ok (.ishl, 1) := dk_120 (dk_at dksX4_bound_2 15 rfl rfl)
theorem dX4_bound_63 : decode cX4_bound 63 = .ok (.ior, 1) := dk_128 (dk_at dksX4_bound_2 16 rfl rfl)
theorem dX4_bound_64 : decode cX4_bound 64 = .ok (.istore_n 3, 1) := dk_62 (dk_at dksX4_bound_2 17 rfl rfl)
theorem dX4_bound_65 : decode cX4_bound 65 = .ok (.iconst 0, 1) := dk_3 (dk_at dksX4_bound_2 18 rfl rfl)
theorem dX4_bound_66 : decode cX4_bound 66 = .ok (.istore 4, 2) := dk_54 4 (dk_at dksX4_bound_2 19 rfl rfl)
theorem dX4_bound_68 : decode cX4_bound 68 = .ok (.iconst 0, 1) := dk_3 (dk_at dksX4_bound_2 21 rfl rfl)
theorem dX4_bound_69 : decode cX4_bound 69 = .ok (.istore 5, 2) := dk_54 5 (dk_at dksX4_bound_2 22 rfl rfl)
theorem dX4_bound_71 : decode cX4_bound 71 = .ok (.iload 5, 2) := dk_21 5 (dk_at dksX4_bound_3 0 rfl rfl)
theorem dX4_bound_73 : decode cX4_bound 73 = .ok (.aload_n 0, 1) := dk_42 (dk_at dksX4_bound_3 2 rfl rfl)
theorem dX4_bound_74 : decode cX4_bound 74 = .ok (.getfield 20, 3) := dk_180 0 20 (dk_at dksX4_bound_3 3 rfl rfl)
theorem dX4_bound_77 : decode cX4_bound 77 = .ok (.iconst 0, 1) := dk_3 (dk_at dksX4_bound_3 6 rfl rfl)
theorem dX4_bound_78 : decode cX4_bound 78 = .ok (.iaload, 1) := dk_46 (dk_at dksX4_bound_3 7 rfl rfl)
theorem dX4_bound_79 : decode cX4_bound 79 = .ok (.if_icmp .ge 33, 3) := dk_162 0 33 (dk_at dksX4_bound_3 8 rfl rfl)
theorem dX4_bound_82 : decode cX4_bound 82 = .ok (.iload_n 3, 1) := dk_29 (dk_at dksX4_bound_3 11 rfl rfl)
theorem dX4_bound_83 : decode cX4_bound 83 = .ok (.iload 5, 2) := dk_21 5 (dk_at dksX4_bound_3 12 rfl rfl)
theorem dX4_bound_85 : decode cX4_bound 85 = .ok (.ishr, 1) := dk_122 (dk_at dksX4_bound_3 14 rfl rfl)
theorem dX4_bound_86 : decode cX4_bound 86 = .ok (.iconst 1, 1) := dk_4 (dk_at dksX4_bound_3 15 rfl rfl)
theorem dX4_bound_87 : decode cX4_bound 87 = .ok (.iand, 1) := dk_126 (dk_at dksX4_bound_3 16 rfl rfl)
theorem dX4_bound_88 : decode cX4_bound 88 = .ok (.ifCond .ne 6, 3) := dk_154 0 6 (dk_at dksX4_bound_3 17 rfl rfl)
theorem dX4_bound_91 : decode cX4_bound 91 = .ok (.goto 15, 3) := dk_167 0 15 (dk_at dksX4_bound_3 20 rfl rfl)
theorem dX4_bound_94 : decode cX4_bound 94 = .ok (.aload_n 0, 1) := dk_42 (dk_at dksX4_bound_3 23 rfl rfl)
theorem dX4_bound_95 : decode cX4_bound 95 = .ok (.getfield 107, 3) := dk_180 0 107 (dk_at dksX4_bound_4 0 rfl rfl)
theorem dX4_bound_98 : decode cX4_bound 98 = .ok (.iload 4, 2) := dk_21 4 (dk_at dksX4_bound_4 3 rfl rfl)
theorem dX4_bound_100 : decode cX4_bound 100 = .ok (.iload 5, 2) := dk_21 5 (dk_at dksX4_bound_4 5 rfl rfl)
theorem dX4_bound_102 : decode cX4_bound 102 = .ok (.iastore, 1) := dk_79 (dk_at dksX4_bound_4 7 rfl rfl)
theorem dX4_bound_103 : decode cX4_bound 103 = .ok (.iinc 4 1, 3) := dk_132 4 1 (dk_at dksX4_bound_4 8 rfl rfl)
theorem dX4_bound_106 : decode cX4_bound 106 = .ok (.iinc 5 1, 3) := dk_132 5 1 (dk_at dksX4_bound_4 11 rfl rfl)
theorem dX4_bound_109 : decode cX4_bound 109 = .ok (.goto (-38), 3) := dk_167 255 218 (dk_at dksX4_bound_4 14 rfl rfl)
theorem dX4_bound_112 : decode cX4_bound 112 = .ok (.iload 4, 2) := dk_21 4 (dk_at dksX4_bound_4 17 rfl rfl)
theorem dX4_bound_114 : decode cX4_bound 114 = .ok (.iconst 1, 1) := dk_4 (dk_at dksX4_bound_4 19 rfl rfl)
theorem dX4_bound_115 : decode cX4_bound 115 = .ok (.if_icmp .ne 5, 3) := dk_160 0 5 (dk_at dksX4_bound_4 20 rfl rfl)
theorem dX4_bound_118 : decode cX4_bound 118 = .ok (.iconst 0, 1) := dk_3 (dk_at dksX4_bound_4 23 rfl rfl)
theorem dX4_bound_119 : decode cX4_bound 119 = .ok (.ireturn, 1) := dk_172 (dk_at dksX4_bound_5 0 rfl rfl)
theorem dX4_bound_120 : decode cX4_bound 120 = .ok (.iconst 0, 1) := dk_3 (dk_at dksX4_bound_5 1 rfl rfl)
theorem dX4_bound_121 : decode cX4_bound 121 = .ok (.istore 5, 2) := dk_54 5 (dk_at dksX4_bound_5 2 rfl rfl)
theorem dX4_bound_123 : decode cX4_bound 123 = .ok (.iload 5, 2) := dk_21 5 (dk_at dksX4_bound_5 4 rfl rfl)
theorem dX4_bound_125 : decode cX4_bound 125 = .ok (.iload 4, 2) := dk_21 4 (dk_at dksX4_bound_5 6 rfl rfl)
theorem dX4_bound_127 : decode cX4_bound 127 = .ok (.if_icmp .ge 80, 3) := dk_162 0 80 (dk_at dksX4_bound_5 8 rfl rfl)
theorem dX4_bound_130 : decode cX4_bound 130 = .ok (.iconst 0, 1) := dk_3 (dk_at dksX4_bound_5 11 rfl rfl)
theorem dX4_bound_131 : decode cX4_bound 131 = .ok (.istore 6, 2) := dk_54 6 (dk_at dksX4_bound_5 12 rfl rfl)
theorem dX4_bound_133 : decode cX4_bound 133 = .ok (.iload 6, 2) := dk_21 6 (dk_at dksX4_bound_5 14 rfl rfl)
theorem dX4_bound_135 : decode cX4_bound 135 = .ok (.iload 4, 2) := dk_21 4 (dk_at dksX4_bound_5 16 rfl rfl)
theorem dX4_bound_137 : decode cX4_bound 137 = .ok (.if_icmp .ge 64, 3) := dk_162 0 64 (dk_at dksX4_bound_5 18 rfl rfl)
theorem dX4_bound_140 : decode cX4_bound 140 = .ok (.iload 5, 2) := dk_21 5 (dk_at dksX4_bound_5 21 rfl rfl)
theorem dX4_bound_142 : decode cX4_bound 142 = .ok (.iload 6, 2) := dk_21 6 (dk_at dksX4_bound_6 0 rfl rfl)
theorem dX4_bound_144 : decode cX4_bound 144 = .ok (.if_icmp .ne 7, 3) := dk_160 0 7 (dk_at dksX4_bound_6 2 rfl rfl)
theorem dX4_bound_147 : decode cX4_bound 147 = .ok (.iconst (-1), 1) := dk_2 (dk_at dksX4_bound_6 5 rfl rfl)
theorem dX4_bound_148 : decode cX4_bound 148 = .ok (.goto 21, 3) := dk_167 0 21 (dk_at dksX4_bound_6 6 rfl rfl)
theorem dX4_bound_151 : decode cX4_bound 151 = .ok (.aload_n 0, 1) := dk_42 (dk_at dksX4_bound_6 9 rfl rfl)
theorem dX4_bound_152 : decode cX4_bound 152 = .ok (.aload_n 0, 1) := dk_42 (dk_at dksX4_bound_6 10 rfl rfl)
theorem dX4_bound_153 : decode cX4_bound 153 = .ok (.getfield 107, 3) := dk_180 0 107 (dk_at dksX4_bound_6 11 rfl rfl)
theorem dX4_bound_156 : decode cX4_bound 156 = .ok (.iload 5, 2) := dk_21 5 (dk_at dksX4_bound_6 14 rfl rfl)
theorem dX4_bound_158 : decode cX4_bound 158 = .ok (.iaload, 1) := dk_46 (dk_at dksX4_bound_6 16 rfl rfl)
theorem dX4_bound_159 : decode cX4_bound 159 = .ok (.aload_n 0, 1) := dk_42 (dk_at dksX4_bound_6 17 rfl rfl)
theorem dX4_bound_160 : decode cX4_bound 160 = .ok (.getfield 107, 3) := dk_180 0 107 (dk_at dksX4_bound_6 18 rfl rfl)
theorem dX4_bound_163 : decode cX4_bound 163 = .ok (.iload 6, 2) := dk_21 6 (dk_at dksX4_bound_6 21 rfl rfl)
theorem dX4_bound_165 : decode cX4_bound 165 = .ok (.iaload, 1) := dk_46 (dk_at dksX4_bound_6 23 rfl rfl)
theorem dX4_bound_166 : decode cX4_bound 166 = .ok (.invokevirtual 313, 3) := dk_182 1 57 (dk_at dksX4_bound_7 0 rfl rfl)
theorem dX4_bound_169 : decode cX4_bound 169 = .ok (.istore 7, 2) := dk_54 7 (dk_at dksX4_bound_7 3 rfl rfl)
theorem dX4_bound_171 : decode cX4_bound 171 = .ok (.aload_n 0, 1) := dk_42 (dk_at dksX4_bound_7 5 rfl rfl)
theorem dX4_bound_172 : decode cX4_bound 172 = .ok (.getfield 110, 3) := dk_180 0 110 (dk_at dksX4_bound_7 6 rfl rfl)
theorem dX4_bound_175 : decode cX4_bound 175 = .ok (.iload 5, 2) := dk_21 5 (dk_at dksX4_bound_7 9 rfl rfl)
theorem dX4_bound_177 : decode cX4_bound 177 = .ok (.aaload, 1) := dk_50 (dk_at dksX4_bound_7 11 rfl rfl)
theorem dX4_bound_178 : decode cX4_bound 178 = .ok (.iload 6, 2) := dk_21 6 (dk_at dksX4_bound_7 12 rfl rfl)
theorem dX4_bound_180 : decode cX4_bound 180 = .ok (.iload 7, 2) := dk_21 7 (dk_at dksX4_bound_7 14 rfl rfl)
theorem dX4_bound_182 : decode cX4_bound 182 = .ok (.iconst (-1), 1) := dk_2 (dk_at dksX4_bound_7 16 rfl rfl)
theorem dX4_bound_183 : decode cX4_bound 183 = .ok (.if_icmp .ne 9, 3) := dk_160 0 9 (dk_at dksX4_bound_7 17 rfl rfl)
theorem dX4_bound_186 : decode cX4_bound 186 = .ok (.ldc_w 294, 3) := dk_19 1 38 (dk_at dksX4_bound_7 20 rfl rfl)
theorem dX4_bound_189 : decode cX4_bound 189 = .ok (.goto 5, 3) := dk_167 0 5 (dk_at dksX4_bound_8 0 rfl rfl)
theorem dX4_bound_192 : decode cX4_bound 192 = .ok (.iload 7, 2) := dk_21 7 (dk_at dksX4_bound_8 3 rfl rfl)
theorem dX4_bound_194 : decode cX4_bound 194 = .ok (.iastore, 1) := dk_79 (dk_at dksX4_bound_8 5 rfl rfl)
theorem dX4_bound_195 : decode cX4_bound 195 = .ok (.iinc 6 1, 3) := dk_132 6 1 (dk_at dksX4_bound_8 6 rfl rfl)
theorem dX4_bound_198 : decode cX4_bound 198 = .ok (.goto (-65), 3) := dk_167 255 191 (dk_at dksX4_bound_8 9 rfl rfl)
theorem dX4_bound_201 : decode cX4_bound 201 = .ok (.iinc 5 1, 3) := dk_132 5 1 (dk_at dksX4_bound_8 12 rfl rfl)
theorem dX4_bound_204 : decode cX4_bound 204 = .ok (.goto (-81), 3) := dk_167 255 175 (dk_at dksX4_bound_8 15 rfl rfl)
theorem dX4_bound_207 : decode cX4_bound 207 = .ok (.iconst 1, 1) := dk_4 (dk_at dksX4_bound_8 18 rfl rfl)
theorem dX4_bound_208 : decode cX4_bound 208 = .ok (.iload 4, 2) := dk_21 4 (dk_at dksX4_bound_8 19 rfl rfl)
theorem dX4_bound_210 : decode cX4_bound 210 = .ok (.ishl, 1) := dk_120 (dk_at dksX4_bound_8 21 rfl rfl)
theorem dX4_bound_211 : decode cX4_bound 211 = .ok (.iconst 1, 1) := dk_4 (dk_at dksX4_bound_8 22 rfl rfl)
theorem dX4_bound_212 : decode cX4_bound 212 = .ok (.isub, 1) := dk_100 (dk_at dksX4_bound_8 23 rfl rfl)
theorem dX4_bound_213 : decode cX4_bound 213 = .ok (.istore 5, 2) := dk_54 5 (dk_at dksX4_bound_9 0 rfl rfl)
theorem dX4_bound_215 : decode cX4_bound 215 = .ok (.iconst 0, 1) := dk_3 (dk_at dksX4_bound_9 2 rfl rfl)
theorem dX4_bound_216 : decode cX4_bound 216 = .ok (.istore 6, 2) := dk_54 6 (dk_at dksX4_bound_9 3 rfl rfl)
theorem dX4_bound_218 : decode cX4_bound 218 = .ok (.iload 6, 2) := dk_21 6 (dk_at dksX4_bound_9 5 rfl rfl)
theorem dX4_bound_220 : decode cX4_bound 220 = .ok (.iload 5, 2) := dk_21 5 (dk_at dksX4_bound_9 7 rfl rfl)
theorem dX4_bound_222 : decode cX4_bound 222 = .ok (.if_icmp .gt 28, 3) := dk_163 0 28 (dk_at dksX4_bound_9 9 rfl rfl)
theorem dX4_bound_225 : decode cX4_bound 225 = .ok (.aload_n 0, 1) := dk_42 (dk_at dksX4_bound_9 12 rfl rfl)
theorem dX4_bound_226 : decode cX4_bound 226 = .ok (.getfield 113, 3) := dk_180 0 113 (dk_at dksX4_bound_9 13 rfl rfl)
theorem dX4_bound_229 : decode cX4_bound 229 = .ok (.iload 6, 2) := dk_21 6 (dk_at dksX4_bound_9 16 rfl rfl)
theorem dX4_bound_231 : decode cX4_bound 231 = .ok (.iload 6, 2) := dk_21 6 (dk_at dksX4_bound_9 18 rfl rfl)
theorem dX4_bound_233 : decode cX4_bound 233 = .ok (.ifCond .ne 7, 3) := dk_154 0 7 (dk_at dksX4_bound_9 20 rfl rfl)
theorem dX4_bound_236 : decode cX4_bound 236 = .ok (.iconst 0, 1) := dk_3 (dk_at dksX4_bound_9 23 rfl rfl)
theorem dX4_bound_237 : decode cX4_bound 237 = .ok (.goto 6, 3) := dk_167 0 6 (dk_at dksX4_bound_10 0 rfl rfl)
theorem dX4_bound_240 : decode cX4_bound 240 = .ok (.ldc_w 294, 3) := dk_19 1 38 (dk_at dksX4_bound_10 3 rfl rfl)
theorem dX4_bound_243 : decode cX4_bound 243 = .ok (.iastore, 1) := dk_79 (dk_at dksX4_bound_10 6 rfl rfl)
theorem dX4_bound_244 : decode cX4_bound 244 = .ok (.iinc 6 1, 3) := dk_132 6 1 (dk_at dksX4_bound_10 7 rfl rfl)
theorem dX4_bound_247 : decode cX4_bound 247 = .ok (.goto (-29), 3) := dk_167 255 227 (dk_at dksX4_bound_10 10 rfl rfl)
theorem dX4_bound_250 : decode cX4_bound 250 = .ok (.iconst 0, 1) := dk_3 (dk_at dksX4_bound_10 13 rfl rfl)
theorem dX4_bound_251 : decode cX4_bound 251 = .ok (.istore 6, 2) := dk_54 6 (dk_at dksX4_bound_10 14 rfl rfl)
theorem dX4_bound_253 : decode cX4_bound 253 = .ok (.iload 6, 2) := dk_21 6 (dk_at dksX4_bound_10 16 rfl rfl)
theorem dX4_bound_255 : decode cX4_bound 255 = .ok (.iload 5, 2) := dk_21 5 (dk_at dksX4_bound_10 18 rfl rfl)
theorem dX4_bound_257 : decode cX4_bound 257 = .ok (.if_icmp .ge 135, 3) := dk_162 0 135 (dk_at dksX4_bound_10 20 rfl rfl)
theorem dX4_bound_260 : decode cX4_bound 260 = .ok (.iload 6, 2) := dk_21 6 (dk_at dksX4_bound_11 0 rfl rfl)
theorem dX4_bound_262 : decode cX4_bound 262 = .ok (.invokestatic 187, 3) := dk_184 0 187 (dk_at dksX4_bound_11 2 rfl rfl)
theorem dX4_bound_265 : decode cX4_bound 265 = .ok (.istore 7, 2) := dk_54 7 (dk_at dksX4_bound_11 5 rfl rfl)
theorem dX4_bound_267 : decode cX4_bound 267 = .ok (.iconst 0, 1) := dk_3 (dk_at dksX4_bound_11 7 rfl rfl)
theorem dX4_bound_268 : decode cX4_bound 268 = .ok (.istore 8, 2) := dk_54 8 (dk_at dksX4_bound_11 8 rfl rfl)
theorem dX4_bound_270 : decode cX4_bound 270 = .ok (.iload 8, 2) := dk_21 8 (dk_at dksX4_bound_11 10 rfl rfl)
theorem dX4_bound_272 : decode cX4_bound 272 = .ok (.iload 4, 2) := dk_21 4 (dk_at dksX4_bound_11 12 rfl rfl)
theorem dX4_bound_274 : decode cX4_bound 274 = .ok (.if_icmp .ge 112, 3) := dk_162 0 112 (dk_at dksX4_bound_11 14 rfl rfl)
theorem dX4_bound_277 : decode cX4_bound 277 = .ok (.iload 6, 2) := dk_21 6 (dk_at dksX4_bound_11 17 rfl rfl)
theorem dX4_bound_279 : decode cX4_bound 279 = .ok (.iload 8, 2) := dk_21 8 (dk_at dksX4_bound_11 19 rfl rfl)
theorem dX4_bound_281 : decode cX4_bound 281 = .ok (.ishr, 1) := dk_122 (dk_at dksX4_bound_11 21 rfl rfl)
theorem dX4_bound_282 : decode cX4_bound 282 = .ok (.iconst 1, 1) := dk_4 (dk_at dksX4_bound_11 22 rfl rfl)
theorem dX4_bound_283 : decode cX4_bound 283 = .ok (.iand, 1) := dk_126 (dk_at dksX4_bound_11 23 rfl rfl)
theorem dX4_bound_284 : decode cX4_bound 284 = .ok (.iconst 1, 1) := dk_4 (dk_at dksX4_bound_12 0 rfl rfl)
theorem dX4_bound_285 : decode cX4_bound 285 = .ok (.if_icmp .eq 95, 3) := dk_159 0 95 (dk_at dksX4_bound_12 1 rfl rfl)
theorem dX4_bound_288 : decode cX4_bound 288 = .ok (.aload_n 0, 1) := dk_42 (dk_at dksX4_bound_12 4 rfl rfl)
theorem dX4_bound_289 : decode cX4_bound 289 = .ok (.getfield 110, 3) := dk_180 0 110 (dk_at dksX4_bound_12 5 rfl rfl)
theorem dX4_bound_292 : decode cX4_bound 292 = .ok (.iload 7, 2) := dk_21 7 (dk_at dksX4_bound_12 8 rfl rfl)
theorem dX4_bound_294 : decode cX4_bound 294 = .ok (.aaload, 1) := dk_50 (dk_at dksX4_bound_12 10 rfl rfl)
theorem dX4_bound_295 : decode cX4_bound 295 = .ok (.iload 8, 2) := dk_21 8 (dk_at dksX4_bound_12 11 rfl rfl)
theorem dX4_bound_297 : decode cX4_bound 297 = .ok (.iaload, 1) := dk_46 (dk_at dksX4_bound_12 13 rfl rfl)
theorem dX4_bound_298 : decode cX4_bound 298 = .ok (.ldc_w 294, 3) := dk_19 1 38 (dk_at dksX4_bound_12 14 rfl rfl)
theorem dX4_bound_301 : decode cX4_bound 301 = .ok (.if_icmp .eq 79, 3) := dk_159 0 79 (dk_at dksX4_bound_12 17 rfl rfl)
theorem dX4_bound_304 : decode cX4_bound 304 = .ok (.aload_n 0, 1) := dk_42 (dk_at dksX4_bound_12 20 rfl rfl)
theorem dX4_bound_305 : decode cX4_bound 305 = .ok (.getfield 113, 3) := dk_180 0 113 (dk_at dksX4_bound_12 21 rfl rfl)
theorem dX4_bound_308 : decode cX4_bound 308 = .ok (.iload 6, 2) := dk_21 6 (dk_at dksX4_bound_13 0 rfl rfl)
theorem dX4_bound_310 : decode cX4_bound 310 = .ok (.iaload, 1) := dk_46 (dk_at dksX4_bound_13 2 rfl rfl)
theorem dX4_bound_311 : decode cX4_bound 311 = .ok (.ldc_w 294, 3) := dk_19 1 38 (dk_at dksX4_bound_13 3 rfl rfl)
theorem dX4_bound_314 : decode cX4_bound 314 = .ok (.if_icmp .ne 6, 3) := dk_160 0 6 (dk_at dksX4_bound_13 6 rfl rfl)
theorem dX4_bound_317 : decode cX4_bound 317 = .ok (.goto 63, 3) := dk_167 0 63 (dk_at dksX4_bound_13 9 rfl rfl)
theorem dX4_bound_320 : decode cX4_bound 320 = .ok (.aload_n 0, 1) := dk_42 (dk_at dksX4_bound_13 12 rfl rfl)
theorem dX4_bound_321 : decode cX4_bound 321 = .ok (.getfield 113, 3) := dk_180 0 113 (dk_at dksX4_bound_13 13 rfl rfl)
theorem dX4_bound_324 : decode cX4_bound 324 = .ok (.iload 6, 2) := dk_21 6 (dk_at dksX4_bound_13 16 rfl rfl)
theorem dX4_bound_326 : decode cX4_bound 326 = .ok (.iaload, 1) := dk_46 (dk_at dksX4_bound_13 18 rfl rfl)
theorem dX4_bound_327 : decode cX4_bound 327 = .ok (.aload_n 0, 1) := dk_42 (dk_at dksX4_bound_13 19 rfl rfl)
theorem dX4_bound_328 : decode cX4_bound 328 = .ok (.getfield 110, 3) := dk_180 0 110 (dk_at dksX4_bound_13 20 rfl rfl)
theorem dX4_bound_331 : decode cX4_bound 331 = .ok (.iload 7, 2) := dk_21 7 (dk_at dksX4_bound_14 0 rfl rfl)
theorem dX4_bound_333 : decode cX4_bound 333 = .ok (.aaload, 1) := dk_50 (dk_at dksX4_bound_14 2 rfl rfl)
theorem dX4_bound_334 : decode cX4_bound 334 = .ok (.iload 8, 2) := dk_21 8 (dk_at dksX4_bound_14 3 rfl rfl)
theorem dX4_bound_336 : decode cX4_bound 336 = .ok (.iaload, 1) := dk_46 (dk_at dksX4_bound_14 5 rfl rfl)
theorem dX4_bound_337 : decode cX4_bound 337 = .ok (.iadd, 1) := dk_96 (dk_at dksX4_bound_14 6 rfl rfl)
theorem dX4_bound_338 : decode cX4_bound 338 = .ok (.istore 9, 2) := dk_54 9 (dk_at dksX4_bound_14 7 rfl rfl)
theorem dX4_bound_340 : decode cX4_bound 340 = .ok (.iload 6, 2) := dk_21 6 (dk_at dksX4_bound_14 9 rfl rfl)
theorem dX4_bound_342 : decode cX4_bound 342 = .ok (.iconst 1, 1) := dk_4 (dk_at dksX4_bound_14 11 rfl rfl)
theorem dX4_bound_343 : decode cX4_bound 343 = .ok (.iload 8, 2) := dk_21 8 (dk_at dksX4_bound_14 12 rfl rfl)
theorem dX4_bound_345 : decode cX4_bound 345 = .ok (.ishl, 1) := dk_120 (dk_at dksX4_bound_14 14 rfl rfl)
theorem dX4_bound_346 : decode cX4_bound 346 = .ok (.ior, 1) := dk_128 (dk_at dksX4_bound_14 15 rfl rfl)
theorem dX4_bound_347 : decode cX4_bound 347 = .ok (.istore 10, 2) := dk_54 10 (dk_at dksX4_bound_14 16 rfl rfl)
theorem dX4_bound_349 : decode cX4_bound 349 = .ok (.aload_n 0, 1) := dk_42 (dk_at dksX4_bound_14 18 rfl rfl)
theorem dX4_bound_350 : decode cX4_bound 350 = .ok (.getfield 113, 3) := dk_180 0 113 (dk_at dksX4_bound_14 19 rfl rfl)
theorem dX4_bound_353 : decode cX4_bound 353 = .ok (.iload 10, 2) := dk_21 10 (dk_at dksX4_bound_14 22 rfl rfl)
theorem dX4_bound_355 : decode cX4_bound 355 = .ok (.iload 9, 2) := dk_21 9 (dk_at dksX4_bound_15 0 rfl rfl)
theorem dX4_bound_357 : decode cX4_bound 357 = .ok (.aload_n 0, 1) := dk_42 (dk_at dksX4_bound_15 2 rfl rfl)
theorem dX4_bound_358 : decode cX4_bound 358 = .ok (.getfield 113, 3) := dk_180 0 113 (dk_at dksX4_bound_15 3 rfl rfl)
theorem dX4_bound_361 : decode cX4_bound 361 = .ok (.iload 10, 2) := dk_21 10 (dk_at dksX4_bound_15 6 rfl rfl)
theorem dX4_bound_363 : decode cX4_bound 363 = .ok (.iaload, 1) := dk_46 (dk_at dksX4_bound_15 8 rfl rfl)
theorem dX4_bound_364 : decode cX4_bound 364 = .ok (.if_icmp .ge 8, 3) := dk_162 0 8 (dk_at dksX4_bound_15 9 rfl rfl)
theorem dX4_bound_367 : decode cX4_bound 367 = .ok (.iload 9, 2) := dk_21 9 (dk_at dksX4_bound_15 12 rfl rfl)
theorem dX4_bound_369 : decode cX4_bound 369 = .ok (.goto 10, 3) := dk_167 0 10 (dk_at dksX4_bound_15 14 rfl rfl)
theorem dX4_bound_372 : decode cX4_bound 372 = .ok (.aload_n 0, 1) := dk_42 (dk_at dksX4_bound_15 17 rfl rfl)
theorem dX4_bound_373 : decode cX4_bound 373 = .ok (.getfield 113, 3) := dk_180 0 113 (dk_at dksX4_bound_15 18 rfl rfl)
theorem dX4_bound_376 : decode cX4_bound 376 = .ok (.iload 10, 2) := dk_21 10 (dk_at dksX4_bound_15 21 rfl rfl)
theorem dX4_bound_378 : decode cX4_bound 378 = .ok (.iaload, 1) := dk_46 (dk_at dksX4_bound_15 23 rfl rfl)
theorem dX4_bound_379 : decode cX4_bound 379 = .ok (.iastore, 1) := dk_79 (dk_at dksX4_bound_16 0 rfl rfl)
theorem dX4_bound_380 : decode cX4_bound 380 = .ok (.iinc 8 1, 3) := dk_132 8 1 (dk_at dksX4_bound_16 1 rfl rfl)
theorem dX4_bound_383 : decode cX4_bound 383 = .ok (.goto (-113), 3) := dk_167 255 143 (dk_at dksX4_bound_16 4 rfl rfl)
theorem dX4_bound_386 : decode cX4_bound 386 = .ok (.iinc 6 1, 3) := dk_132 6 1 (dk_at dksX4_bound_16 7 rfl rfl)
theorem dX4_bound_389 : decode cX4_bound 389 = .ok (.goto (-136), 3) := dk_167 255 120 (dk_at dksX4_bound_16 10 rfl rfl)
theorem dX4_bound_392 : decode cX4_bound 392 = .ok (.aload_n 0, 1) := dk_42 (dk_at dksX4_bound_16 13 rfl rfl)
theorem dX4_bound_393 : decode cX4_bound 393 = .ok (.getfield 113, 3) := dk_180 0 113 (dk_at dksX4_bound_16 14 rfl rfl)
theorem dX4_bound_396 : decode cX4_bound 396 = .ok (.iload 5, 2) := dk_21 5 (dk_at dksX4_bound_16 17 rfl rfl)
theorem dX4_bound_398 : decode cX4_bound 398 = .ok (.iaload, 1) := dk_46 (dk_at dksX4_bound_16 19 rfl rfl)
theorem dX4_bound_399 : decode cX4_bound 399 = .ok (.ldc_w 294, 3) := dk_19 1 38 (dk_at dksX4_bound_16 20 rfl rfl)
theorem dX4_bound_402 : decode cX4_bound 402 = .ok (.if_icmp .ne 7, 3) := dk_160 0 7 (dk_at dksX4_bound_17 0 rfl rfl)
theorem dX4_bound_405 : decode cX4_bound 405 = .ok (.iconst (-1), 1) := dk_2 (dk_at dksX4_bound_17 3 rfl rfl)
theorem dX4_bound_406 : decode cX4_bound 406 = .ok (.goto 10, 3) := dk_167 0 10 (dk_at dksX4_bound_17 4 rfl rfl)
theorem dX4_bound_409 : decode cX4_bound 409 = .ok (.aload_n 0, 1) := dk_42 (dk_at dksX4_bound_17 7 rfl rfl)
theorem dX4_bound_410 : decode cX4_bound 410 = .ok (.getfield 113, 3) := dk_180 0 113 (dk_at dksX4_bound_17 8 rfl rfl)
theorem dX4_bound_413 : decode cX4_bound 413 = .ok (.iload 5, 2) := dk_21 5 (dk_at dksX4_bound_17 11 rfl rfl)
theorem dX4_bound_415 : decode cX4_bound 415 = .ok (.iaload, 1) := dk_46 (dk_at dksX4_bound_17 13 rfl rfl)
theorem dX4_bound_416 : decode cX4_bound 416 = .ok (.ireturn, 1) := dk_172 (dk_at dksX4_bound_17 14 rfl rfl)
abbrev cX4_home : ByteArray := prog_10_method_93_code
def yX4_home : MethodName := ⟨RX4, "home", "(I)I"⟩
def dkwX4_home_1 : List UInt8 := [167, 0, 4, 3, 4, 182, 0, 227, 153, 0, 5, 3, 172, 42, 182, 1, 131, 42, 180, 0, 95, 27, 46, 172]
abbrev dktX4_home_1 : List UInt8 := dkwX4_home_1 ++ []
def dkwX4_home_0 : List UInt8 := [42, 3, 181, 0, 131, 42, 27, 3, 42, 180, 0, 20, 6, 46, 4, 100, 184, 0, 165, 154, 0, 7, 4]
abbrev dktX4_home_0 : List UInt8 := dkwX4_home_0 ++ dktX4_home_1
theorem dksX4_home_0 : cX4_home.data.toList.drop 0 = dktX4_home_0 := by decide +kernel
theorem dksX4_home_1 : cX4_home.data.toList.drop 23 = dktX4_home_1 := dk_seg dksX4_home_0 23 rfl rfl
theorem dX4_home_0 : decode cX4_home 0 = .ok (.aload_n 0, 1) := dk_42 (dk_at dksX4_home_0 0 rfl rfl)
theorem dX4_home_1 : decode cX4_home 1 = .ok (.iconst 0, 1) := dk_3 (dk_at dksX4_home_0 1 rfl rfl)
theorem dX4_home_2 : decode cX4_home 2 = .ok (.putfield 131, 3) := dk_181 0 131 (dk_at dksX4_home_0 2 rfl rfl)
theorem dX4_home_5 : decode cX4_home 5 = .ok (.aload_n 0, 1) := dk_42 (dk_at dksX4_home_0 5 rfl rfl)
theorem dX4_home_6 : decode cX4_home 6 = .ok (.iload_n 1, 1) := dk_27 (dk_at dksX4_home_0 6 rfl rfl)
theorem dX4_home_7 : decode cX4_home 7 = .ok (.iconst 0, 1) := dk_3 (dk_at dksX4_home_0 7 rfl rfl)
theorem dX4_home_8 : decode cX4_home 8 = .ok (.aload_n 0, 1) := dk_42 (dk_at dksX4_home_0 8 rfl rfl)
theorem dX4_home_9 : decode cX4_home 9 = .ok (.getfield 20, 3) := dk_180 0 20 (dk_at dksX4_home_0 9 rfl rfl)
theorem dX4_home_12 : decode cX4_home 12 = .ok (.iconst 3, 1) := dk_6 (dk_at dksX4_home_0 12 rfl rfl)
theorem dX4_home_13 : decode cX4_home 13 = .ok (.iaload, 1) := dk_46 (dk_at dksX4_home_0 13 rfl rfl)
theorem dX4_home_14 : decode cX4_home 14 = .ok (.iconst 1, 1) := dk_4 (dk_at dksX4_home_0 14 rfl rfl)
theorem dX4_home_15 : decode cX4_home 15 = .ok (.isub, 1) := dk_100 (dk_at dksX4_home_0 15 rfl rfl)
theorem dX4_home_16 : decode cX4_home 16 = .ok (.invokestatic 165, 3) := dk_184 0 165 (dk_at dksX4_home_0 16 rfl rfl)
theorem dX4_home_19 : decode cX4_home 19 = .ok (.ifCond .ne 7, 3) := dk_154 0 7 (dk_at dksX4_home_0 19 rfl rfl)
theorem dX4_home_22 : decode cX4_home 22 = .ok (.iconst 1, 1) := dk_4 (dk_at dksX4_home_0 22 rfl rfl)
theorem dX4_home_23 : decode cX4_home 23 = .ok (.goto 4, 3) := dk_167 0 4 (dk_at dksX4_home_1 0 rfl rfl)
theorem dX4_home_26 : decode cX4_home 26 = .ok (.iconst 0, 1) := dk_3 (dk_at dksX4_home_1 3 rfl rfl)
theorem dX4_home_27 : decode cX4_home 27 = .ok (.iconst 1, 1) := dk_4 (dk_at dksX4_home_1 4 rfl rfl)
theorem dX4_home_28 : decode cX4_home 28 = .ok (.invokevirtual 227, 3) := dk_182 0 227 (dk_at dksX4_home_1 5 rfl rfl)
theorem dX4_home_31 : decode cX4_home 31 = .ok (.ifCond .eq 5, 3) := dk_153 0 5 (dk_at dksX4_home_1 8 rfl rfl)
theorem dX4_home_34 : decode cX4_home 34 = .ok (.iconst 0, 1) := dk_3 (dk_at dksX4_home_1 11 rfl rfl)
theorem dX4_home_35 : decode cX4_home 35 = .ok (.ireturn, 1) := dk_172 (dk_at dksX4_home_1 12 rfl rfl)
theorem dX4_home_36 : decode cX4_home 36 = .ok (.aload_n 0, 1) := dk_42 (dk_at dksX4_home_1 13 rfl rfl)
theorem dX4_home_37 : decode cX4_home 37 = .ok (.invokevirtual 387, 3) := dk_182 1 131 (dk_at dksX4_home_1 14 rfl rfl)
theorem dX4_home_40 : decode cX4_home 40 = .ok (.aload_n 0, 1) := dk_42 (dk_at dksX4_home_1 17 rfl rfl)
theorem dX4_home_41 : decode cX4_home 41 = .ok (.getfield 95, 3) := dk_180 0 95 (dk_at dksX4_home_1 18 rfl rfl)
theorem dX4_home_44 : decode cX4_home 44 = .ok (.iload_n 1, 1) := dk_27 (dk_at dksX4_home_1 21 rfl rfl)
theorem dX4_home_45 : decode cX4_home 45 = .ok (.iaload, 1) := dk_46 (dk_at dksX4_home_1 22 rfl rfl)
theorem dX4_home_46 : decode cX4_home 46 = .ok (.ireturn, 1) := dk_172 (dk_at dksX4_home_1 23 rfl rfl)
abbrev cX4_runs : ByteArray := prog_10_method_89_code
def yX4_runs : MethodName := ⟨RX4, "runs", "()V"⟩
def dkwX4_runs_6 : List UInt8 := [181, 1, 119, 167, 255, 183, 177]
abbrev dktX4_runs_6 : List UInt8 := dkwX4_runs_6 ++ []
def dkwX4_runs_5 : List UInt8 := [162, 0, 17, 27, 42, 28, 182, 1, 125, 100, 60, 132, 2, 1, 167, 255, 235, 42, 89, 180, 1, 119, 4, 96]
abbrev dktX4_runs_5 : List UInt8 := dkwX4_runs_5 ++ dktX4_runs_6
def dkwX4_runs_4 : List UInt8 := [162, 0, 14, 42, 28, 182, 1, 122, 132, 2, 1, 167, 255, 238, 3, 61, 28, 42, 180, 0, 20, 3, 46]
abbrev dktX4_runs_4 : List UInt8 := dkwX4_runs_4 ++ dktX4_runs_5
def dkwX4_runs_3 : List UInt8 := [158, 0, 75, 42, 180, 1, 119, 17, 3, 231, 162, 0, 65, 3, 61, 28, 42, 180, 0, 20, 6, 46]
abbrev dktX4_runs_3 : List UInt8 := dkwX4_runs_3 ++ dktX4_runs_4
def dkwX4_runs_2 : List UInt8 := [158, 0, 7, 4, 167, 0, 4, 3, 96, 60, 132, 2, 1, 167, 255, 205, 42, 3, 181, 1, 119, 27]
abbrev dktX4_runs_2 : List UInt8 := dkwX4_runs_2 ++ dktX4_runs_3
def dkwX4_runs_1 : List UInt8 := [79, 42, 180, 0, 95, 28, 2, 79, 42, 180, 0, 98, 28, 3, 79, 27, 42, 180, 0, 83, 28, 46]
abbrev dktX4_runs_1 : List UInt8 := dkwX4_runs_1 ++ dktX4_runs_2
def dkwX4_runs_0 : List UInt8 := [42, 182, 1, 116, 3, 60, 3, 61, 28, 42, 180, 0, 20, 6, 46, 162, 0, 47, 42, 180, 0, 86, 28, 2]
abbrev dktX4_runs_0 : List UInt8 := dkwX4_runs_0 ++ dktX4_runs_1
theorem dksX4_runs_0 : cX4_runs.data.toList.drop 0 = dktX4_runs_0 := by decide +kernel
theorem dksX4_runs_1 : cX4_runs.data.toList.drop 24 = dktX4_runs_1 := dk_seg dksX4_runs_0 24 rfl rfl
theorem dksX4_runs_2 : cX4_runs.data.toList.drop 46 = dktX4_runs_2 := dk_seg dksX4_runs_1 22 rfl rfl
theorem dksX4_runs_3 : cX4_runs.data.toList.drop 68 = dktX4_runs_3 := dk_seg dksX4_runs_2 22 rfl rfl
theorem dksX4_runs_4 : cX4_runs.data.toList.drop 90 = dktX4_runs_4 := dk_seg dksX4_runs_3 22 rfl rfl
theorem dksX4_runs_5 : cX4_runs.data.toList.drop 113 = dktX4_runs_5 := dk_seg dksX4_runs_4 23 rfl rfl
theorem dksX4_runs_6 : cX4_runs.data.toList.drop 137 = dktX4_runs_6 := dk_seg dksX4_runs_5 24 rfl rfl
theorem dX4_runs_0 : decode cX4_runs 0 = .ok (.aload_n 0, 1) := dk_42 (dk_at dksX4_runs_0 0 rfl rfl)
theorem dX4_runs_1 : decode cX4_runs 1 = .ok (.invokevirtual 372, 3) := dk_182 1 116 (dk_at dksX4_runs_0 1 rfl rfl)
theorem dX4_runs_4 : decode cX4_runs 4 = .ok (.iconst 0, 1) := dk_3 (dk_at dksX4_runs_0 4 rfl rfl)
theorem dX4_runs_5 : decode cX4_runs 5 = .ok (.istore_n 1, 1) := dk_60 (dk_at dksX4_runs_0 5 rfl rfl)
theorem dX4_runs_6 : decode cX4_runs 6 = .ok (.iconst 0, 1) := dk_3 (dk_at dksX4_runs_0 6 rfl rfl)
theorem dX4_runs_7 : decode cX4_runs 7 = .ok (.istore_n 2, 1) := dk_61 (dk_at dksX4_runs_0 7 rfl rfl)
theorem dX4_runs_8 : decode cX4_runs 8 = .ok (.iload_n 2, 1) := dk_28 (dk_at dksX4_runs_0 8 rfl rfl)
theorem dX4_runs_9 : decode cX4_runs 9 = .ok (.aload_n 0, 1) := dk_42 (dk_at dksX4_runs_0 9 rfl rfl)
theorem dX4_runs_10 : decode cX4_runs 10 = .ok (.getfield 20, 3) := dk_180 0 20 (dk_at dksX4_runs_0 10 rfl rfl)
theorem dX4_runs_13 : decode cX4_runs 13 = .ok (.iconst 3, 1) := dk_6 (dk_at dksX4_runs_0 13 rfl rfl)
theorem dX4_runs_14 : decode cX4_runs 14 = .ok (.iaload, 1) := dk_46 (dk_at dksX4_runs_0 14 rfl rfl)
theorem dX4_runs_15 : decode cX4_runs 15 = .ok (.if_icmp .ge 47, 3) := dk_162 0 47 (dk_at dksX4_runs_0 15 rfl rfl)
theorem dX4_runs_18 : decode cX4_runs 18 = .ok (.aload_n 0, 1) := dk_42 (dk_at dksX4_runs_0 18 rfl rfl)
theorem dX4_runs_19 : decode cX4_runs 19 = .ok (.getfield 86, 3) := dk_180 0 86 (dk_at dksX4_runs_0 19 rfl rfl)
theorem dX4_runs_22 : decode cX4_runs 22 = .ok (.iload_n 2, 1) := dk_28 (dk_at dksX4_runs_0 22 rfl rfl)
theorem dX4_runs_23 : decode cX4_runs 23 = .ok (.iconst (-1), 1) := dk_2 (dk_at dksX4_runs_0 23 rfl rfl)
theorem dX4_runs_24 : decode cX4_runs 24 = .ok (.iastore, 1) := dk_79 (dk_at dksX4_runs_1 0 rfl rfl)
theorem dX4_runs_25 : decode cX4_runs 25 = .ok (.aload_n 0, 1) := dk_42 (dk_at dksX4_runs_1 1 rfl rfl)
theorem dX4_runs_26 : decode cX4_runs 26 = .ok (.getfield 95, 3) := dk_180 0 95 (dk_at dksX4_runs_1 2 rfl rfl)
theorem dX4_runs_29 : decode cX4_runs 29 = .ok (.iload_n 2, 1) := dk_28 (dk_at dksX4_runs_1 5 rfl rfl)
theorem dX4_runs_30 : decode cX4_runs 30 = .ok (.iconst (-1), 1) := dk_2 (dk_at dksX4_runs_1 6 rfl rfl)
theorem dX4_runs_31 : decode cX4_runs 31 = .ok (.iastore, 1) := dk_79 (dk_at dksX4_runs_1 7 rfl rfl)
theorem dX4_runs_32 : decode cX4_runs 32 = .ok (.aload_n 0, 1) := dk_42 (dk_at dksX4_runs_1 8 rfl rfl)
theorem dX4_runs_33 : decode cX4_runs 33 = .ok (.getfield 98, 3) := dk_180 0 98 (dk_at dksX4_runs_1 9 rfl rfl)
theorem dX4_runs_36 : decode cX4_runs 36 = .ok (.iload_n 2, 1) := dk_28 (dk_at dksX4_runs_1 12 rfl rfl)
theorem dX4_runs_37 : decode cX4_runs 37 = .ok (.iconst 0, 1) := dk_3 (dk_at dksX4_runs_1 13 rfl rfl)
theorem dX4_runs_38 : decode cX4_runs 38 = .ok (.iastore, 1) := dk_79 (dk_at dksX4_runs_1 14 rfl rfl)
theorem dX4_runs_39 : decode cX4_runs 39 = .ok (.iload_n 1, 1) := dk_27 (dk_at dksX4_runs_1 15 rfl rfl)
theorem dX4_runs_40 : decode cX4_runs 40 = .ok (.aload_n 0, 1) := dk_42 (dk_at dksX4_runs_1 16 rfl rfl)
theorem dX4_runs_41 : decode cX4_runs 41 = .ok (.getfield 83, 3) := dk_180 0 83 (dk_at dksX4_runs_1 17 rfl rfl)
theorem dX4_runs_44 : decode cX4_runs 44 = .ok (.iload_n 2, 1) := dk_28 (dk_at dksX4_runs_1 20 rfl rfl)
theorem dX4_runs_45 : decode cX4_runs 45 = .ok (.iaload, 1) := dk_46 (dk_at dksX4_runs_1 21 rfl rfl)
theorem dX4_runs_46 : decode cX4_runs 46 = .ok (.ifCond .le 7, 3) := dk_158 0 7 (dk_at dksX4_runs_2 0 rfl rfl)
theorem dX4_runs_49 : decode cX4_runs 49 = .ok (.iconst 1, 1) := dk_4 (dk_at dksX4_runs_2 3 rfl rfl)
theorem dX4_runs_50 : decode cX4_runs 50 = .ok (.goto 4, 3) := dk_167 0 4 (dk_at dksX4_runs_2 4 rfl rfl)
theorem dX4_runs_53 : decode cX4_runs 53 = .ok (.iconst 0, 1) := dk_3 (dk_at dksX4_runs_2 7 rfl rfl)
theorem dX4_runs_54 : decode cX4_runs 54 = .ok (.iadd, 1) := dk_96 (dk_at dksX4_runs_2 8 rfl rfl)
theorem dX4_runs_55 : decode cX4_runs 55 = .ok (.istore_n 1, 1) := dk_60 (dk_at dksX4_runs_2 9 rfl rfl)
theorem dX4_runs_56 : decode cX4_runs 56 = .ok (.iinc 2 1, 3) := dk_132 2 1 (dk_at dksX4_runs_2 10 rfl rfl)
theorem dX4_runs_59 : decode cX4_runs 59 = .ok (.goto (-51), 3) := dk_167 255 205 (dk_at dksX4_runs_2 13 rfl rfl)
theorem dX4_runs_62 : decode cX4_runs 62 = .ok (.aload_n 0, 1) := dk_42 (dk_at dksX4_runs_2 16 rfl rfl)
theorem dX4_runs_63 : decode cX4_runs 63 = .ok (.iconst 0, 1) := dk_3 (dk_at dksX4_runs_2 17 rfl rfl)
theorem dX4_runs_64 : decode cX4_runs 64 = .ok (.putfield 375, 3) := dk_181 1 119 (dk_at dksX4_runs_2 18 rfl rfl)
theorem dX4_runs_67 : decode cX4_runs 67 = .ok (.iload_n 1, 1) := dk_27 (dk_at dksX4_runs_2 21 rfl rfl)
theorem dX4_runs_68 : decode cX4_runs 68 = .ok (.ifCond .le 75, 3) := dk_158 0 75 (dk_at dksX4_runs_3 0 rfl rfl)
theorem dX4_runs_71 : decode cX4_runs 71 = .ok (.aload_n 0, 1) := dk_42 (dk_at dksX4_runs_3 3 rfl rfl)
theorem dX4_runs_72 : decode cX4_runs 72 = .ok (.getfield 375, 3) := dk_180 1 119 (dk_at dksX4_runs_3 4 rfl rfl)
theorem dX4_runs_75 : decode cX4_runs 75 = .ok (.sipush 999, 3) := dk_17 3 231 (dk_at dksX4_runs_3 7 rfl rfl)
theorem dX4_runs_78 : decode cX4_runs 78 = .ok (.if_icmp .ge 65, 3) := dk_162 0 65 (dk_at dksX4_runs_3 10 rfl rfl)
theorem dX4_runs_81 : decode cX4_runs 81 = .ok (.iconst 0, 1) := dk_3 (dk_at dksX4_runs_3 13 rfl rfl)
theorem dX4_runs_82 : decode cX4_runs 82 = .ok (.istore_n 2, 1) := dk_61 (dk_at dksX4_runs_3 14 rfl rfl)
theorem dX4_runs_83 : decode cX4_runs 83 = .ok (.iload_n 2, 1) := dk_28 (dk_at dksX4_runs_3 15 rfl rfl)
theorem dX4_runs_84 : decode cX4_runs 84 = .ok (.aload_n 0, 1) := dk_42 (dk_at dksX4_runs_3 16 rfl rfl)
theorem dX4_runs_85 : decode cX4_runs 85 = .ok (.getfield 20, 3) := dk_180 0 20 (dk_at dksX4_runs_3 17 rfl rfl)
theorem dX4_runs_88 : decode cX4_runs 88 = .ok (.iconst 3, 1) := dk_6 (dk_at dksX4_runs_3 20 rfl rfl)
theorem dX4_runs_89 : decode cX4_runs 89 = .ok (.iaload, 1) := dk_46 (dk_at dksX4_runs_3 21 rfl rfl)
theorem dX4_runs_90 : decode cX4_runs 90 = .ok (.if_icmp .ge 14, 3) := dk_162 0 14 (dk_at dksX4_runs_4 0 rfl rfl)
theorem dX4_runs_93 : decode cX4_runs 93 = .ok (.aload_n 0, 1) := dk_42 (dk_at dksX4_runs_4 3 rfl rfl)
theorem dX4_runs_94 : decode cX4_runs 94 = .ok (.iload_n 2, 1) := dk_28 (dk_at dksX4_runs_4 4 rfl rfl)
theorem dX4_runs_95 : decode cX4_runs 95 = .ok (.invokevirtual 378, 3) := dk_182 1 122 (dk_at dksX4_runs_4 5 rfl rfl)
theorem dX4_runs_98 : decode cX4_runs 98 = .ok (.iinc 2 1, 3) := dk_132 2 1 (dk_at dksX4_runs_4 8 rfl rfl)
theorem dX4_runs_101 : decode cX4_runs 101 = .ok (.goto (-18), 3) := dk_167 255 238 (dk_at dksX4_runs_4 11 rfl rfl)
theorem dX4_runs_104 : decode cX4_runs 104 = .ok (.iconst 0, 1) := dk_3 (dk_at dksX4_runs_4 14 rfl rfl)
theorem dX4_runs_105 : decode cX4_runs 105 = .ok (.istore_n 2, 1) := dk_61 (dk_at dksX4_runs_4 15 rfl rfl)
theorem dX4_runs_106 : decode cX4_runs 106 = .ok (.iload_n 2, 1) := dk_28 (dk_at dksX4_runs_4 16 rfl rfl)
theorem dX4_runs_107 : decode cX4_runs 107 = .ok (.aload_n 0, 1) := dk_42 (dk_at dksX4_runs_4 17 rfl rfl)
theorem dX4_runs_108 : decode cX4_runs 108 = .ok (.getfield 20, 3) := dk_180 0 20 (dk_at dksX4_runs_4 18 rfl rfl)
theorem dX4_runs_111 : decode cX4_runs 111 = .ok (.iconst 0, 1) := dk_3 (dk_at dksX4_runs_4 21 rfl rfl)
theorem dX4_runs_112 : decode cX4_runs 112 = .ok (.iaload, 1) := dk_46 (dk_at dksX4_runs_4 22 rfl rfl)
theorem dX4_runs_113 : decode cX4_runs 113 = .ok (.if_icmp .ge 17, 3) := dk_162 0 17 (dk_at dksX4_runs_5 0 rfl rfl)
theorem dX4_runs_116 : decode cX4_runs 116 = .ok (.iload_n 1, 1) := dk_27 (dk_at dksX4_runs_5 3 rfl rfl)
theorem dX4_runs_117 : decode cX4_runs 117 = .ok (.aload_n 0, 1) := dk_42 (dk_at dksX4_runs_5 4 rfl rfl)
theorem dX4_runs_118 : decode cX4_runs 118 = .ok (.iload_n 2, 1) := dk_28 (dk_at dksX4_runs_5 5 rfl rfl)
theorem dX4_runs_119 : decode cX4_runs 119 = .ok (.invokevirtual 381, 3) := dk_182 1 125 (dk_at dksX4_runs_5 6 rfl rfl)
theorem dX4_runs_122 : decode cX4_runs 122 = .ok (.isub, 1) := dk_100 (dk_at dksX4_runs_5 9 rfl rfl)
theorem dX4_runs_123 : decode cX4_runs 123 = .ok (.istore_n 1, 1) := dk_60 (dk_at dksX4_runs_5 10 rfl rfl)
theorem dX4_runs_124 : decode cX4_runs 124 = .ok (.iinc 2 1, 3) := dk_132 2 1 (dk_at dksX4_runs_5 11 rfl rfl)
theorem dX4_runs_127 : decode cX4_runs 127 = .ok (.goto (-21), 3) := dk_167 255 235 (dk_at dksX4_runs_5 14 rfl rfl)
theorem dX4_runs_130 : decode cX4_runs 130 = .ok (.aload_n 0, 1) := dk_42 (dk_at dksX4_runs_5 17 rfl rfl)
theorem dX4_runs_131 : decode cX4_runs 131 = .ok (.dup, 1) := dk_89 (dk_at dksX4_runs_5 18 rfl rfl)
theorem dX4_runs_132 : decode cX4_runs 132 = .ok (.getfield 375, 3) := dk_180 1 119 (dk_at dksX4_runs_5 19 rfl rfl)
theorem dX4_runs_135 : decode cX4_runs 135 = .ok (.iconst 1, 1) := dk_4 (dk_at dksX4_runs_5 22 rfl rfl)
theorem dX4_runs_136 : decode cX4_runs 136 = .ok (.iadd, 1) := dk_96 (dk_at dksX4_runs_5 23 rfl rfl)
theorem dX4_runs_137 : decode cX4_runs 137 = .ok (.putfield 375, 3) := dk_181 1 119 (dk_at dksX4_runs_6 0 rfl rfl)
theorem dX4_runs_140 : decode cX4_runs 140 = .ok (.goto (-73), 3) := dk_167 255 183 (dk_at dksX4_runs_6 3 rfl rfl)
theorem dX4_runs_143 : decode cX4_runs 143 = .ok (.return_, 1) := dk_177 (dk_at dksX4_runs_6 6 rfl rfl)
abbrev cX4_layRides : ByteArray := prog_10_method_88_code
def yX4_layRides : MethodName := ⟨RX4, "layRides", "()V"⟩
def dkwX4_layRides_4 : List UInt8 := [42, 28, 42, 180, 0, 40, 27, 50, 4, 46, 182, 1, 60, 61, 167, 255, 213, 132, 1, 1, 167, 255, 150, 177]
abbrev dktX4_layRides_4 : List UInt8 := dkwX4_layRides_4 ++ []
def dkwX4_layRides_3 : List UInt8 := [42, 180, 0, 80, 27, 50, 42, 180, 0, 83, 27, 46, 28, 79, 42, 180, 0, 83, 27, 92, 46, 4, 96, 79]
abbrev dktX4_layRides_3 : List UInt8 := dkwX4_layRides_3 ++ dktX4_layRides_4
def dkwX4_layRides_2 : List UInt8 := [160, 0, 6, 167, 0, 62, 42, 42, 180, 0, 40, 27, 50, 3, 46, 182, 1, 48, 61, 28, 2, 159, 0, 44]
abbrev dktX4_layRides_2 : List UInt8 := dkwX4_layRides_2 ++ dktX4_layRides_3
def dkwX4_layRides_1 : List UInt8 := [27, 3, 79, 42, 42, 180, 0, 40, 27, 50, 3, 46, 42, 180, 0, 40, 27, 50, 4, 46, 182, 1, 57, 2]
abbrev dktX4_layRides_1 : List UInt8 := dkwX4_layRides_1 ++ dktX4_layRides_2
def dkwX4_layRides_0 : List UInt8 := [42, 42, 180, 0, 238, 182, 1, 54, 3, 60, 27, 42, 180, 0, 20, 6, 46, 162, 0, 102, 42, 180, 0, 83]
abbrev dktX4_layRides_0 : List UInt8 := dkwX4_layRides_0 ++ dktX4_layRides_1
theorem dksX4_layRides_0 : cX4_layRides.data.toList.drop 0 = dktX4_layRides_0 := by decide +kernel
theorem dksX4_layRides_1 : cX4_layRides.data.toList.drop 24 = dktX4_layRides_1 := dk_seg dksX4_layRides_0 24 rfl rfl
theorem dksX4_layRides_2 : cX4_layRides.data.toList.drop 48 = dktX4_layRides_2 := dk_seg dksX4_layRides_1 24 rfl rfl
theorem dksX4_layRides_3 : cX4_layRides.data.toList.drop 72 = dktX4_layRides_3 := dk_seg dksX4_layRides_2 24 rfl rfl
theorem dksX4_layRides_4 : cX4_layRides.data.toList.drop 96 = dktX4_layRides_4 := dk_seg dksX4_layRides_3 24 rfl rfl
theorem dX4_layRides_0 : decode cX4_layRides 0 = .ok (.aload_n 0, 1) := dk_42 (dk_at dksX4_layRides_0 0 rfl rfl)
theorem dX4_layRides_1 : decode cX4_layRides 1 = .ok (.aload_n 0, 1) := dk_42 (dk_at dksX4_layRides_0 1 rfl rfl)
theorem dX4_layRides_2 : decode cX4_layRides 2 = .ok (.getfield 238, 3) := dk_180 0 238 (dk_at dksX4_layRides_0 2 rfl rfl)
theorem dX4_layRides_5 : decode cX4_layRides 5 = .ok (.invokevirtual 310, 3) := dk_182 1 54 (dk_at dksX4_layRides_0 5 rfl rfl)
theorem dX4_layRides_8 : decode cX4_layRides 8 = .ok (.iconst 0, 1) := dk_3 (dk_at dksX4_layRides_0 8 rfl rfl)
theorem dX4_layRides_9 : decode cX4_layRides 9 = .ok (.istore_n 1, 1) := dk_60 (dk_at dksX4_layRides_0 9 rfl rfl)
theorem dX4_layRides_10 : decode cX4_layRides 10 = .ok (.iload_n 1, 1) := dk_27 (dk_at dksX4_layRides_0 10 rfl rfl)
theorem dX4_layRides_11 : decode cX4_layRides 11 = .ok (.aload_n 0, 1) := dk_42 (dk_at dksX4_layRides_0 11 rfl rfl)
theorem dX4_layRides_12 : decode cX4_layRides 12 = .ok (.getfield 20, 3) := dk_180 0 20 (dk_at dksX4_layRides_0 12 rfl rfl)
theorem dX4_layRides_15 : decode cX4_layRides 15 = .ok (.iconst 3, 1) := dk_6 (dk_at dksX4_layRides_0 15 rfl rfl)
theorem dX4_layRides_16 : decode cX4_layRides 16 = .ok (.iaload, 1) := dk_46 (dk_at dksX4_layRides_0 16 rfl rfl)
theorem dX4_layRides_17 : decode cX4_layRides 17 = .ok (.if_icmp .ge 102, 3) := dk_162 0 102 (dk_at dksX4_layRides_0 17 rfl rfl)
theorem dX4_layRides_20 : decode cX4_layRides 20 = .ok (.aload_n 0, 1) := dk_42 (dk_at dksX4_layRides_0 20 rfl rfl)
theorem dX4_layRides_21 : decode cX4_layRides 21 = .ok (.getfield 83, 3) := dk_180 0 83 (dk_at dksX4_layRides_0 21 rfl rfl)
theorem dX4_layRides_24 : decode cX4_layRides 24 = .ok (.iload_n 1, 1) := dk_27 (dk_at dksX4_layRides_1 0 rfl rfl)
theorem dX4_layRides_25 : decode cX4_layRides 25 = .ok (.iconst 0, 1) := dk_3 (dk_at dksX4_layRides_1 1 rfl rfl)
theorem dX4_layRides_26 : decode cX4_layRides 26 = .ok (.iastore, 1) := dk_79 (dk_at dksX4_layRides_1 2 rfl rfl)
theorem dX4_layRides_27 : decode cX4_layRides 27 = .ok (.aload_n 0, 1) := dk_42 (dk_at dksX4_layRides_1 3 rfl rfl)
theorem dX4_layRides_28 : decode cX4_layRides 28 = .ok (.aload_n 0, 1) := dk_42 (dk_at dksX4_layRides_1 4 rfl rfl)
theorem dX4_layRides_29 : decode cX4_layRides 29 = .ok (.getfield 40, 3) := dk_180 0 40 (dk_at dksX4_layRides_1 5 rfl rfl)
theorem dX4_layRides_32 : decode cX4_layRides 32 = .ok (.iload_n 1, 1) := dk_27 (dk_at dksX4_layRides_1 8 rfl rfl)
theorem dX4_layRides_33 : decode cX4_layRides 33 = .ok (.aaload, 1) := dk_50 (dk_at dksX4_layRides_1 9 rfl rfl)
theorem dX4_layRides_34 : decode cX4_layRides 34 = .ok (.iconst 0, 1) := dk_3 (dk_at dksX4_layRides_1 10 rfl rfl)
theorem dX4_layRides_35 : decode cX4_layRides 35 = .ok (.iaload, 1) := dk_46 (dk_at dksX4_layRides_1 11 rfl rfl)
theorem dX4_layRides_36 : decode cX4_layRides 36 = .ok (.aload_n 0, 1) := dk_42 (dk_at dksX4_layRides_1 12 rfl rfl)
theorem dX4_layRides_37 : decode cX4_layRides 37 = .ok (.getfield 40, 3) := dk_180 0 40 (dk_at dksX4_layRides_1 13 rfl rfl)
theorem dX4_layRides_40 : decode cX4_layRides 40 = .ok (.iload_n 1, 1) := dk_27 (dk_at dksX4_layRides_1 16 rfl rfl)
theorem dX4_layRides_41 : decode cX4_layRides 41 = .ok (.aaload, 1) := dk_50 (dk_at dksX4_layRides_1 17 rfl rfl)
theorem dX4_layRides_42 : decode cX4_layRides 42 = .ok (.iconst 1, 1) := dk_4 (dk_at dksX4_layRides_1 18 rfl rfl)
theorem dX4_layRides_43 : decode cX4_layRides 43 = .ok (.iaload, 1) := dk_46 (dk_at dksX4_layRides_1 19 rfl rfl)
theorem dX4_layRides_44 : decode cX4_layRides 44 = .ok (.invokevirtual 313, 3) := dk_182 1 57 (dk_at dksX4_layRides_1 20 rfl rfl)
theorem dX4_layRides_47 : decode cX4_layRides 47 = .ok (.iconst (-1), 1) := dk_2 (dk_at dksX4_layRides_1 23 rfl rfl)
theorem dX4_layRides_48 : decode cX4_layRides 48 = .ok (.if_icmp .ne 6, 3) := dk_160 0 6 (dk_at dksX4_layRides_2 0 rfl rfl)
theorem dX4_layRides_51 : decode cX4_layRides 51 = .ok (.goto 62, 3) := dk_167 0 62 (dk_at dksX4_layRides_2 3 rfl rfl)
theorem dX4_layRides_54 : decode cX4_layRides 54 = .ok (.aload_n 0, 1) := dk_42 (dk_at dksX4_layRides_2 6 rfl rfl)
theorem dX4_layRides_55 : decode cX4_layRides 55 = .ok (.aload_n 0, 1) := dk_42 (dk_at dksX4_layRides_2 7 rfl rfl)
theorem dX4_layRides_56 : decode cX4_layRides 56 = .ok (.getfield 40, 3) := dk_180 0 40 (dk_at dksX4_layRides_2 8 rfl rfl)
theorem dX4_layRides_59 : decode cX4_layRides 59 = .ok (.iload_n 1, 1) := dk_27 (dk_at dksX4_layRides_2 11 rfl rfl)
theorem dX4_layRides_60 : decode cX4_layRides 60 = .ok (.aaload, 1) := dk_50 (dk_at dksX4_layRides_2 12 rfl rfl)
theorem dX4_layRides_61 : decode cX4_layRides 61 = .ok (.iconst 0, 1) := dk_3 (dk_at dksX4_layRides_2 13 rfl rfl)
theorem dX4_layRides_62 : decode cX4_layRides 62 = .ok (.iaload, 1) := dk_46 (dk_at dksX4_layRides_2 14 rfl rfl)
theorem dX4_layRides_63 : decode cX4_layRides 63 = .ok (.invokevirtual 304, 3) := dk_182 1 48 (dk_at dksX4_layRides_2 15 rfl rfl)
theorem dX4_layRides_66 : decode cX4_layRides 66 = .ok (.istore_n 2, 1) := dk_61 (dk_at dksX4_layRides_2 18 rfl rfl)
theorem dX4_layRides_67 : decode cX4_layRides 67 = .ok (.iload_n 2, 1) := dk_28 (dk_at dksX4_layRides_2 19 rfl rfl)
theorem dX4_layRides_68 : decode cX4_layRides 68 = .ok (.iconst (-1), 1) := dk_2 (dk_at dksX4_layRides_2 20 rfl rfl)
theorem dX4_layRides_69 : decode cX4_layRides 69 = .ok (.if_icmp .eq 44, 3) := dk_159 0 44 (dk_at dksX4_layRides_2 21 rfl rfl)
theorem dX4_layRides_72 : decode cX4_layRides 72 = .ok (.aload_n 0, 1) := dk_42 (dk_at dksX4_layRides_3 0 rfl rfl)
theorem dX4_layRides_73 : decode cX4_layRides 73 = .ok (.getfield 80, 3) := dk_180 0 80 (dk_at dksX4_layRides_3 1 rfl rfl)
theorem dX4_layRides_76 : decode cX4_layRides 76 = .ok (.iload_n 1, 1) := dk_27 (dk_at dksX4_layRides_3 4 rfl rfl)
theorem dX4_layRides_77 : decode cX4_layRides 77 = .ok (.aaload, 1) := dk_50 (dk_at dksX4_layRides_3 5 rfl rfl)
theorem dX4_layRides_78 : decode cX4_layRides 78 = .ok (.aload_n 0, 1) := dk_42 (dk_at dksX4_layRides_3 6 rfl rfl)
theorem dX4_layRides_79 : decode cX4_layRides 79 = .ok (.getfield 83, 3) := dk_180 0 83 (dk_at dksX4_layRides_3 7 rfl rfl)
theorem dX4_layRides_82 : decode cX4_layRides 82 = .ok (.iload_n 1, 1) := dk_27 (dk_at dksX4_layRides_3 10 rfl rfl)
theorem dX4_layRides_83 : decode cX4_layRides 83 = .ok (.iaload, 1) := dk_46 (dk_at dksX4_layRides_3 11 rfl rfl)
theorem dX4_layRides_84 : decode cX4_layRides 84 = .ok (.iload_n 2, 1) := dk_28 (dk_at dksX4_layRides_3 12 rfl rfl)
theorem dX4_layRides_85 : decode cX4_layRides 85 = .ok (.iastore, 1) := dk_79 (dk_at dksX4_layRides_3 13 rfl rfl)
theorem dX4_layRides_86 : decode cX4_layRides 86 = .ok (.aload_n 0, 1) := dk_42 (dk_at dksX4_layRides_3 14 rfl rfl)
theorem dX4_layRides_87 : decode cX4_layRides 87 = .ok (.getfield 83, 3) := dk_180 0 83 (dk_at dksX4_layRides_3 15 rfl rfl)
theorem dX4_layRides_90 : decode cX4_layRides 90 = .ok (.iload_n 1, 1) := dk_27 (dk_at dksX4_layRides_3 18 rfl rfl)
theorem dX4_layRides_91 : decode cX4_layRides 91 = .ok (.dup2, 1) := dk_92 (dk_at dksX4_layRides_3 19 rfl rfl)
theorem dX4_layRides_92 : decode cX4_layRides 92 = .ok (.iaload, 1) := dk_46 (dk_at dksX4_layRides_3 20 rfl rfl)
theorem dX4_layRides_93 : decode cX4_layRides 93 = .ok (.iconst 1, 1) := dk_4 (dk_at dksX4_layRides_3 21 rfl rfl)
theorem dX4_layRides_94 : decode cX4_layRides 94 = .ok (.iadd, 1) := dk_96 (dk_at dksX4_layRides_3 22 rfl rfl)
theorem dX4_layRides_95 : decode cX4_layRides 95 = .ok (.iastore, 1) := dk_79 (dk_at dksX4_layRides_3 23 rfl rfl)
theorem dX4_layRides_96 : decode cX4_layRides 96 = .ok (.aload_n 0, 1) := dk_42 (dk_at dksX4_layRides_4 0 rfl rfl)
theorem dX4_layRides_97 : decode cX4_layRides 97 = .ok (.iload_n 2, 1) := dk_28 (dk_at dksX4_layRides_4 1 rfl rfl)
theorem dX4_layRides_98 : decode cX4_layRides 98 = .ok (.aload_n 0, 1) := dk_42 (dk_at dksX4_layRides_4 2 rfl rfl)
theorem dX4_layRides_99 : decode cX4_layRides 99 = .ok (.getfield 40, 3) := dk_180 0 40 (dk_at dksX4_layRides_4 3 rfl rfl)
theorem dX4_layRides_102 : decode cX4_layRides 102 = .ok (.iload_n 1, 1) := dk_27 (dk_at dksX4_layRides_4 6 rfl rfl)
theorem dX4_layRides_103 : decode cX4_layRides 103 = .ok (.aaload, 1) := dk_50 (dk_at dksX4_layRides_4 7 rfl rfl)
theorem dX4_layRides_104 : decode cX4_layRides 104 = .ok (.iconst 1, 1) := dk_4 (dk_at dksX4_layRides_4 8 rfl rfl)
theorem dX4_layRides_105 : decode cX4_layRides 105 = .ok (.iaload, 1) := dk_46 (dk_at dksX4_layRides_4 9 rfl rfl)
theorem dX4_layRides_106 : decode cX4_layRides 106 = .ok (.invokevirtual 316, 3) := dk_182 1 60 (dk_at dksX4_layRides_4 10 rfl rfl)
theorem dX4_layRides_109 : decode cX4_layRides 109 = .ok (.istore_n 2, 1) := dk_61 (dk_at dksX4_layRides_4 13 rfl rfl)
theorem dX4_layRides_110 : decode cX4_layRides 110 = .ok (.goto (-43), 3) := dk_167 255 213 (dk_at dksX4_layRides_4 14 rfl rfl)
theorem dX4_layRides_113 : decode cX4_layRides 113 = .ok (.iinc 1 1, 3) := dk_132 1 1 (dk_at dksX4_layRides_4 17 rfl rfl)
theorem dX4_layRides_116 : decode cX4_layRides 116 = .ok (.goto (-106), 3) := dk_167 255 150 (dk_at dksX4_layRides_4 20 rfl rfl)
theorem dX4_layRides_119 : decode cX4_layRides 119 = .ok (.return_, 1) := dk_177 (dk_at dksX4_layRides_4 23 rfl rfl)
abbrev cX4_moves : ByteArray := prog_10_method_90_code
def yX4_moves : MethodName := ⟨RX4, "moves", "(I)V"⟩
def dkwX4_moves_4 : List UInt8 := [180, 0, 89, 27, 46, 154, 0, 13, 42, 180, 0, 92, 27, 42, 180, 1, 119, 79, 177]
abbrev dktX4_moves_4 : List UInt8 := dkwX4_moves_4 ++ []
def dkwX4_moves_3 : List UInt8 := [177, 42, 180, 0, 89, 27, 46, 154, 0, 4, 177, 42, 180, 0, 89, 27, 92, 46, 4, 100, 79, 42]
abbrev dktX4_moves_3 : List UInt8 := dkwX4_moves_3 ++ dktX4_moves_4
def dkwX4_moves_2 : List UInt8 := [180, 0, 86, 27, 3, 79, 42, 180, 0, 89, 27, 42, 42, 180, 0, 80, 27, 50, 3, 46, 182, 1, 39, 79]
abbrev dktX4_moves_2 : List UInt8 := dkwX4_moves_2 ++ dktX4_moves_3
def dkwX4_moves_1 : List UInt8 := [27, 46, 2, 160, 0, 45, 42, 180, 0, 40, 27, 50, 5, 46, 42, 180, 1, 119, 159, 0, 4, 177, 42]
abbrev dktX4_moves_1 : List UInt8 := dkwX4_moves_1 ++ dktX4_moves_2
def dkwX4_moves_0 : List UInt8 := [42, 180, 0, 83, 27, 46, 153, 0, 13, 42, 180, 0, 95, 27, 46, 2, 159, 0, 4, 177, 42, 180, 0, 86]
abbrev dktX4_moves_0 : List UInt8 := dkwX4_moves_0 ++ dktX4_moves_1
theorem dksX4_moves_0 : cX4_moves.data.toList.drop 0 = dktX4_moves_0 := by decide +kernel
theorem dksX4_moves_1 : cX4_moves.data.toList.drop 24 = dktX4_moves_1 := dk_seg dksX4_moves_0 24 rfl rfl
theorem dksX4_moves_2 : cX4_moves.data.toList.drop 47 = dktX4_moves_2 := dk_seg dksX4_moves_1 23 rfl rfl
theorem dksX4_moves_3 : cX4_moves.data.toList.drop 71 = dktX4_moves_3 := dk_seg dksX4_moves_2 24 rfl rfl
theorem dksX4_moves_4 : cX4_moves.data.toList.drop 93 = dktX4_moves_4 := dk_seg dksX4_moves_3 22 rfl rfl
theorem dX4_moves_0 : decode cX4_moves 0 = .ok (.aload_n 0, 1) := dk_42 (dk_at dksX4_moves_0 0 rfl rfl)
theorem dX4_moves_1 : decode cX4_moves 1 = .ok (.getfield 83, 3) := dk_180 0 83 (dk_at dksX4_moves_0 1 rfl rfl)
theorem dX4_moves_4 : decode cX4_moves 4 = .ok (.iload_n 1, 1) := dk_27 (dk_at dksX4_moves_0 4 rfl rfl)
theorem dX4_moves_5 : decode cX4_moves 5 = .ok (.iaload, 1) := dk_46 (dk_at dksX4_moves_0 5 rfl rfl)
theorem dX4_moves_6 : decode cX4_moves 6 = .ok (.ifCond .eq 13, 3) := dk_153 0 13 (dk_at dksX4_moves_0 6 rfl rfl)
theorem dX4_moves_9 : decode cX4_moves 9 = .ok (.aload_n 0, 1) := dk_42 (dk_at dksX4_moves_0 9 rfl rfl)
theorem dX4_moves_10 : decode cX4_moves 10 = .ok (.getfield 95, 3) := dk_180 0 95 (dk_at dksX4_moves_0 10 rfl rfl)
theorem dX4_moves_13 : decode cX4_moves 13 = .ok (.iload_n 1, 1) := dk_27 (dk_at dksX4_moves_0 13 rfl rfl)
theorem dX4_moves_14 : decode cX4_moves 14 = .ok (.iaload, 1) := dk_46 (dk_at dksX4_moves_0 14 rfl rfl)
theorem dX4_moves_15 : decode cX4_moves 15 = .ok (.iconst (-1), 1) := dk_2 (dk_at dksX4_moves_0 15 rfl rfl)
theorem dX4_moves_16 : decode cX4_moves 16 = .ok (.if_icmp .eq 4, 3) := dk_159 0 4 (dk_at dksX4_moves_0 16 rfl rfl)
theorem dX4_moves_19 : decode cX4_moves 19 = .ok (.return_, 1) := dk_177 (dk_at dksX4_moves_0 19 rfl rfl)
theorem dX4_moves_20 : decode cX4_moves 20 = .ok (.aload_n 0, 1) := dk_42 (dk_at dksX4_moves_0 20 rfl rfl)
theorem dX4_moves_21 : decode cX4_moves 21 = .ok (.getfield 86, 3) := dk_180 0 86 (dk_at dksX4_moves_0 21 rfl rfl)
theorem dX4_moves_24 : decode cX4_moves 24 = .ok (.iload_n 1, 1) := dk_27 (dk_at dksX4_moves_1 0 rfl rfl)
theorem dX4_moves_25 : decode cX4_moves 25 = .ok (.iaload, 1) := dk_46 (dk_at dksX4_moves_1 1 rfl rfl)
theorem dX4_moves_26 : decode cX4_moves 26 = .ok (.iconst (-1), 1) := dk_2 (dk_at dksX4_moves_1 2 rfl rfl)
theorem dX4_moves_27 : decode cX4_moves 27 = .ok (.if_icmp .ne 45, 3) := dk_160 0 45 (dk_at dksX4_moves_1 3 rfl rfl)
theorem dX4_moves_30 : decode cX4_moves 30 = .ok (.aload_n 0, 1) := dk_42 (dk_at dksX4_moves_1 6 rfl rfl)
theorem dX4_moves_31 : decode cX4_moves 31 = .ok (.getfield 40, 3) := dk_180 0 40 (dk_at dksX4_moves_1 7 rfl rfl)
theorem dX4_moves_34 : decode cX4_moves 34 = .ok (.iload_n 1, 1) := dk_27 (dk_at dksX4_moves_1 10 rfl rfl)
theorem dX4_moves_35 : decode cX4_moves 35 = .ok (.aaload, 1) := dk_50 (dk_at dksX4_moves_1 11 rfl rfl)
theorem dX4_moves_36 : decode cX4_moves 36 = .ok (.iconst 2, 1) := dk_5 (dk_at dksX4_moves_1 12 rfl rfl)
theorem dX4_moves_37 : decode cX4_moves 37 = .ok (.iaload, 1) := dk_46 (dk_at dksX4_moves_1 13 rfl rfl)
theorem dX4_moves_38 : decode cX4_moves 38 = .ok (.aload_n 0, 1) := dk_42 (dk_at dksX4_moves_1 14 rfl rfl)
theorem dX4_moves_39 : decode cX4_moves 39 = .ok (.getfield 375, 3) := dk_180 1 119 (dk_at dksX4_moves_1 15 rfl rfl)
theorem dX4_moves_42 : decode cX4_moves 42 = .ok (.if_icmp .eq 4, 3) := dk_159 0 4 (dk_at dksX4_moves_1 18 rfl rfl)
theorem dX4_moves_45 : decode cX4_moves 45 = .ok (.return_, 1) := dk_177 (dk_at dksX4_moves_1 21 rfl rfl)
theorem dX4_moves_46 : decode cX4_moves 46 = .ok (.aload_n 0, 1) := dk_42 (dk_at dksX4_moves_1 22 rfl rfl)
theorem dX4_moves_47 : decode cX4_moves 47 = .ok (.getfield 86, 3) := dk_180 0 86 (dk_at dksX4_moves_2 0 rfl rfl)
theorem dX4_moves_50 : decode cX4_moves 50 = .ok (.iload_n 1, 1) := dk_27 (dk_at dksX4_moves_2 3 rfl rfl)
theorem dX4_moves_51 : decode cX4_moves 51 = .ok (.iconst 0, 1) := dk_3 (dk_at dksX4_moves_2 4 rfl rfl)
theorem dX4_moves_52 : decode cX4_moves 52 = .ok (.iastore, 1) := dk_79 (dk_at dksX4_moves_2 5 rfl rfl)
theorem dX4_moves_53 : decode cX4_moves 53 = .ok (.aload_n 0, 1) := dk_42 (dk_at dksX4_moves_2 6 rfl rfl)
theorem dX4_moves_54 : decode cX4_moves 54 = .ok (.getfield 89, 3) := dk_180 0 89 (dk_at dksX4_moves_2 7 rfl rfl)
theorem dX4_moves_57 : decode cX4_moves 57 = .ok (.iload_n 1, 1) := dk_27 (dk_at dksX4_moves_2 10 rfl rfl)
theorem dX4_moves_58 : decode cX4_moves 58 = .ok (.aload_n 0, 1) := dk_42 (dk_at dksX4_moves_2 11 rfl rfl)
theorem dX4_moves_59 : decode cX4_moves 59 = .ok (.aload_n 0, 1) := dk_42 (dk_at dksX4_moves_2 12 rfl rfl)
theorem dX4_moves_60 : decode cX4_moves 60 = .ok (.getfield 80, 3) := dk_180 0 80 (dk_at dksX4_moves_2 13 rfl rfl)
theorem dX4_moves_63 : decode cX4_moves 63 = .ok (.iload_n 1, 1) := dk_27 (dk_at dksX4_moves_2 16 rfl rfl)
theorem dX4_moves_64 : decode cX4_moves 64 = .ok (.aaload, 1) := dk_50 (dk_at dksX4_moves_2 17 rfl rfl)
theorem dX4_moves_65 : decode cX4_moves 65 = .ok (.iconst 0, 1) := dk_3 (dk_at dksX4_moves_2 18 rfl rfl)
theorem dX4_moves_66 : decode cX4_moves 66 = .ok (.iaload, 1) := dk_46 (dk_at dksX4_moves_2 19 rfl rfl)
theorem dX4_moves_67 : decode cX4_moves 67 = .ok (.invokevirtual 295, 3) := dk_182 1 39 (dk_at dksX4_moves_2 20 rfl rfl)
theorem dX4_moves_70 : decode cX4_moves 70 = .ok (.iastore, 1) := dk_79 (dk_at dksX4_moves_2 23 rfl rfl)
theorem dX4_moves_71 : decode cX4_moves 71 = .ok (.return_, 1) := dk_177 (dk_at dksX4_moves_3 0 rfl rfl)
theorem dX4_moves_72 : decode cX4_moves 72 = .ok (.aload_n 0, 1) := dk_42 (dk_at dksX4_moves_3 1 rfl rfl)
theorem dX4_moves_73 : decode cX4_moves 73 = .ok (.getfield 89, 3) := dk_180 0 89 (dk_at dksX4_moves_3 2 rfl rfl)
theorem dX4_moves_76 : decode cX4_moves 76 = .ok (.iload_n 1, 1) := dk_27 (dk_at dksX4_moves_3 5 rfl rfl)
theorem dX4_moves_77 : decode cX4_moves 77 = .ok (.iaload, 1) := dk_46 (dk_at dksX4_moves_3 6 rfl rfl)
theorem dX4_moves_78 : decode cX4_moves 78 = .ok (.ifCond .ne 4, 3) := dk_154 0 4 (dk_at dksX4_moves_3 7 rfl rfl)
theorem dX4_moves_81 : decode cX4_moves 81 = .ok (.return_, 1) := dk_177 (dk_at dksX4_moves_3 10 rfl rfl)
theorem dX4_moves_82 : decode cX4_moves 82 = .ok (.aload_n 0, 1) := dk_42 (dk_at dksX4_moves_3 11 rfl rfl)
theorem dX4_moves_83 : decode cX4_moves 83 = .ok (.getfield 89, 3) := dk_180 0 89 (dk_at dksX4_moves_3 12 rfl rfl)
theorem dX4_moves_86 : decode cX4_moves 86 = .ok (.iload_n 1, 1) := dk_27 (dk_at dksX4_moves_3 15 rfl rfl)
theorem dX4_moves_87 : decode cX4_moves 87 = .ok (.dup2, 1) := dk_92 (dk_at dksX4_moves_3 16 rfl rfl)
theorem dX4_moves_88 : decode cX4_moves 88 = .ok (.iaload, 1) := dk_46 (dk_at dksX4_moves_3 17 rfl rfl)
theorem dX4_moves_89 : decode cX4_moves 89 = .ok (.iconst 1, 1) := dk_4 (dk_at dksX4_moves_3 18 rfl rfl)
theorem dX4_moves_90 : decode cX4_moves 90 = .ok (.isub, 1) := dk_100 (dk_at dksX4_moves_3 19 rfl rfl)
theorem dX4_moves_91 : decode cX4_moves 91 = .ok (.iastore, 1) := dk_79 (dk_at dksX4_moves_3 20 rfl rfl)
theorem dX4_moves_92 : decode cX4_moves 92 = .ok (.aload_n 0, 1) := dk_42 (dk_at dksX4_moves_3 21 rfl rfl)
theorem dX4_moves_93 : decode cX4_moves 93 = .ok (.getfield 89, 3) := dk_180 0 89 (dk_at dksX4_moves_4 0 rfl rfl)
theorem dX4_moves_96 : decode cX4_moves 96 = .ok (.iload_n 1, 1) := dk_27 (dk_at dksX4_moves_4 3 rfl rfl)
theorem dX4_moves_97 : decode cX4_moves 97 = .ok (.iaload, 1) := dk_46 (dk_at dksX4_moves_4 4 rfl rfl)
theorem dX4_moves_98 : decode cX4_moves 98 = .ok (.ifCond .ne 13, 3) := dk_154 0 13 (dk_at dksX4_moves_4 5 rfl rfl)
theorem dX4_moves_101 : decode cX4_moves 101 = .ok (.aload_n 0, 1) := dk_42 (dk_at dksX4_moves_4 8 rfl rfl)
theorem dX4_moves_102 : decode cX4_moves 102 = .ok (.getfield 92, 3) := dk_180 0 92 (dk_at dksX4_moves_4 9 rfl rfl)
theorem dX4_moves_105 : decode cX4_moves 105 = .ok (.iload_n 1, 1) := dk_27 (dk_at dksX4_moves_4 12 rfl rfl)
theorem dX4_moves_106 : decode cX4_moves 106 = .ok (.aload_n 0, 1) := dk_42 (dk_at dksX4_moves_4 13 rfl rfl)
theorem dX4_moves_107 : decode cX4_moves 107 = .ok (.getfield 375, 3) := dk_180 1 119 (dk_at dksX4_moves_4 14 rfl rfl)
theorem dX4_moves_110 : decode cX4_moves 110 = .ok (.iastore, 1) := dk_79 (dk_at dksX4_moves_4 17 rfl rfl)
theorem dX4_moves_111 : decode cX4_moves 111 = .ok (.return_, 1) := dk_177 (dk_at dksX4_moves_4 18 rfl rfl)
abbrev cX4_passes : ByteArray := prog_10_method_92_code
def yX4_passes : MethodName := ⟨RX4, "passes", "(I)I"⟩
def dkwX4_passes_6 : List UInt8 := [180, 0, 89, 28, 42, 42, 180, 0, 80, 28, 50, 42, 180, 0, 86, 28, 46, 46, 182, 1, 39, 79, 3, 172]
abbrev dktX4_passes_6 : List UInt8 := dkwX4_passes_6 ++ []
def dkwX4_passes_5 : List UInt8 := [180, 0, 95, 28, 42, 180, 1, 119, 79, 4, 172, 42, 180, 0, 86, 28, 92, 46, 4, 96, 79, 42]
abbrev dktX4_passes_5 : List UInt8 := dkwX4_passes_5 ++ dktX4_passes_6
def dkwX4_passes_4 : List UInt8 := [160, 0, 5, 3, 172, 42, 180, 0, 86, 28, 46, 42, 180, 0, 83, 28, 46, 4, 100, 160, 0, 15, 42]
abbrev dktX4_passes_4 : List UInt8 := dkwX4_passes_4 ++ dktX4_passes_5
def dkwX4_passes_3 : List UInt8 := [29, 28, 159, 0, 13, 42, 180, 0, 98, 29, 92, 46, 4, 96, 79, 132, 3, 1, 167, 255, 219, 28, 2]
abbrev dktX4_passes_3 : List UInt8 := dkwX4_passes_3 ++ dktX4_passes_4
def dkwX4_passes_2 : List UInt8 := [167, 255, 212, 3, 62, 29, 42, 180, 0, 20, 6, 46, 162, 0, 33, 42, 29, 27, 182, 1, 128, 153, 0, 18]
abbrev dktX4_passes_2 : List UInt8 := dkwX4_passes_2 ++ dktX4_passes_3
def dkwX4_passes_1 : List UInt8 := [2, 159, 0, 18, 42, 180, 0, 92, 29, 46, 42, 180, 0, 92, 28, 46, 162, 0, 5, 29, 61, 132, 3, 1]
abbrev dktX4_passes_1 : List UInt8 := dkwX4_passes_1 ++ dktX4_passes_2
def dkwX4_passes_0 : List UInt8 := [2, 61, 3, 62, 29, 42, 180, 0, 20, 6, 46, 162, 0, 40, 42, 29, 27, 182, 1, 128, 153, 0, 25, 28]
abbrev dktX4_passes_0 : List UInt8 := dkwX4_passes_0 ++ dktX4_passes_1
theorem dksX4_passes_0 : cX4_passes.data.toList.drop 0 = dktX4_passes_0 := by decide +kernel
theorem dksX4_passes_1 : cX4_passes.data.toList.drop 24 = dktX4_passes_1 := dk_seg dksX4_passes_0 24 rfl rfl
theorem dksX4_passes_2 : cX4_passes.data.toList.drop 48 = dktX4_passes_2 := dk_seg dksX4_passes_1 24 rfl rfl
theorem dksX4_passes_3 : cX4_passes.data.toList.drop 72 = dktX4_passes_3 := dk_seg dksX4_passes_2 24 rfl rfl
theorem dksX4_passes_4 : cX4_passes.data.toList.drop 95 = dktX4_passes_4 := dk_seg dksX4_passes_3 23 rfl rfl
theorem dksX4_passes_5 : cX4_passes.data.toList.drop 118 = dktX4_passes_5 := dk_seg dksX4_passes_4 23 rfl rfl
theorem dksX4_passes_6 : cX4_passes.data.toList.drop 140 = dktX4_passes_6 := dk_seg dksX4_passes_5 22 rfl rfl
theorem dX4_passes_0 : decode cX4_passes 0 = .ok (.iconst (-1), 1) := dk_2 (dk_at dksX4_passes_0 0 rfl rfl)
theorem dX4_passes_1 : decode cX4_passes 1 = .ok (.istore_n 2, 1) := dk_61 (dk_at dksX4_passes_0 1 rfl rfl)
theorem dX4_passes_2 : decode cX4_passes 2 = .ok (.iconst 0, 1) := dk_3 (dk_at dksX4_passes_0 2 rfl rfl)
theorem dX4_passes_3 : decode cX4_passes 3 = .ok (.istore_n 3, 1) := dk_62 (dk_at dksX4_passes_0 3 rfl rfl)
theorem dX4_passes_4 : decode cX4_passes 4 = .ok (.iload_n 3, 1) := dk_29 (dk_at dksX4_passes_0 4 rfl rfl)
theorem dX4_passes_5 : decode cX4_passes 5 = .ok (.aload_n 0, 1) := dk_42 (dk_at dksX4_passes_0 5 rfl rfl)
theorem dX4_passes_6 : decode cX4_passes 6 = .ok (.getfield 20, 3) := dk_180 0 20 (dk_at dksX4_passes_0 6 rfl rfl)
theorem dX4_passes_9 : decode cX4_passes 9 = .ok (.iconst 3, 1) := dk_6 (dk_at dksX4_passes_0 9 rfl rfl)
theorem dX4_passes_10 : decode cX4_passes 10 = .ok (.iaload, 1) := dk_46 (dk_at dksX4_passes_0 10 rfl rfl)
theorem dX4_passes_11 : decode cX4_passes 11 = .ok (.if_icmp .ge 40, 3) := dk_162 0 40 (dk_at dksX4_passes_0 11 rfl rfl)
theorem dX4_passes_14 : decode cX4_passes 14 = .ok (.aload_n 0, 1) := dk_42 (dk_at dksX4_passes_0 14 rfl rfl)
theorem dX4_passes_15 : decode cX4_passes 15 = .ok (.iload_n 3, 1) := dk_29 (dk_at dksX4_passes_0 15 rfl rfl)
theorem dX4_passes_16 : decode cX4_passes 16 = .ok (.iload_n 1, 1) := dk_27 (dk_at dksX4_passes_0 16 rfl rfl)
theorem dX4_passes_17 : decode cX4_passes 17 = .ok (.invokevirtual 384, 3) := dk_182 1 128 (dk_at dksX4_passes_0 17 rfl rfl)
theorem dX4_passes_20 : decode cX4_passes 20 = .ok (.ifCond .eq 25, 3) := dk_153 0 25 (dk_at dksX4_passes_0 20 rfl rfl)
theorem dX4_passes_23 : decode cX4_passes 23 = .ok (.iload_n 2, 1) := dk_28 (dk_at dksX4_passes_0 23 rfl rfl)
theorem dX4_passes_24 : decode cX4_passes 24 = .ok (.iconst (-1), 1) := dk_2 (dk_at dksX4_passes_1 0 rfl rfl)
theorem dX4_passes_25 : decode cX4_passes 25 = .ok (.if_icmp .eq 18, 3) := dk_159 0 18 (dk_at dksX4_passes_1 1 rfl rfl)
theorem dX4_passes_28 : decode cX4_passes 28 = .ok (.aload_n 0, 1) := dk_42 (dk_at dksX4_passes_1 4 rfl rfl)
theorem dX4_passes_29 : decode cX4_passes 29 = .ok (.getfield 92, 3) := dk_180 0 92 (dk_at dksX4_passes_1 5 rfl rfl)
theorem dX4_passes_32 : decode cX4_passes 32 = .ok (.iload_n 3, 1) := dk_29 (dk_at dksX4_passes_1 8 rfl rfl)
theorem dX4_passes_33 : decode cX4_passes 33 = .ok (.iaload, 1) := dk_46 (dk_at dksX4_passes_1 9 rfl rfl)
theorem dX4_passes_34 : decode cX4_passes 34 = .ok (.aload_n 0, 1) := dk_42 (dk_at dksX4_passes_1 10 rfl rfl)
theorem dX4_passes_35 : decode cX4_passes 35 = .ok (.getfield 92, 3) := dk_180 0 92 (dk_at dksX4_passes_1 11 rfl rfl)
theorem dX4_passes_38 : decode cX4_passes 38 = .ok (.iload_n 2, 1) := dk_28 (dk_at dksX4_passes_1 14 rfl rfl)
theorem dX4_passes_39 : decode cX4_passes 39 = .ok (.iaload, 1) := dk_46 (dk_at dksX4_passes_1 15 rfl rfl)
theorem dX4_passes_40 : decode cX4_passes 40 = .ok (.if_icmp .ge 5, 3) := dk_162 0 5 (dk_at dksX4_passes_1 16 rfl rfl)
theorem dX4_passes_43 : decode cX4_passes 43 = .ok (.iload_n 3, 1) := dk_29 (dk_at dksX4_passes_1 19 rfl rfl)
theorem dX4_passes_44 : decode cX4_passes 44 = .ok (.istore_n 2, 1) := dk_61 (dk_at dksX4_passes_1 20 rfl rfl)
theorem dX4_passes_45 : decode cX4_passes 45 = .ok (.iinc 3 1, 3) := dk_132 3 1 (dk_at dksX4_passes_1 21 rfl rfl)
theorem dX4_passes_48 : decode cX4_passes 48 = .ok (.goto (-44), 3) := dk_167 255 212 (dk_at dksX4_passes_2 0 rfl rfl)
theorem dX4_passes_51 : decode cX4_passes 51 = .ok (.iconst 0, 1) := dk_3 (dk_at dksX4_passes_2 3 rfl rfl)
theorem dX4_passes_52 : decode cX4_passes 52 = .ok (.istore_n 3, 1) := dk_62 (dk_at dksX4_passes_2 4 rfl rfl)
theorem dX4_passes_53 : decode cX4_passes 53 = .ok (.iload_n 3, 1) := dk_29 (dk_at dksX4_passes_2 5 rfl rfl)
theorem dX4_passes_54 : decode cX4_passes 54 = .ok (.aload_n 0, 1) := dk_42 (dk_at dksX4_passes_2 6 rfl rfl)
theorem dX4_passes_55 : decode cX4_passes 55 = .ok (.getfield 20, 3) := dk_180 0 20 (dk_at dksX4_passes_2 7 rfl rfl)
theorem dX4_passes_58 : decode cX4_passes 58 = .ok (.iconst 3, 1) := dk_6 (dk_at dksX4_passes_2 10 rfl rfl)
theorem dX4_passes_59 : decode cX4_passes 59 = .ok (.iaload, 1) := dk_46 (dk_at dksX4_passes_2 11 rfl rfl)
theorem dX4_passes_60 : decode cX4_passes 60 = .ok (.if_icmp .ge 33, 3) := dk_162 0 33 (dk_at dksX4_passes_2 12 rfl rfl)
theorem dX4_passes_63 : decode cX4_passes 63 = .ok (.aload_n 0, 1) := dk_42 (dk_at dksX4_passes_2 15 rfl rfl)
theorem dX4_passes_64 : decode cX4_passes 64 = .ok (.iload_n 3, 1) := dk_29 (dk_at dksX4_passes_2 16 rfl rfl)
theorem dX4_passes_65 : decode cX4_passes 65 = .ok (.iload_n 1, 1) := dk_27 (dk_at dksX4_passes_2 17 rfl rfl)
theorem dX4_passes_66 : decode cX4_passes 66 = .ok (.invokevirtual 384, 3) := dk_182 1 128 (dk_at dksX4_passes_2 18 rfl rfl)
theorem dX4_passes_69 : decode cX4_passes 69 = .ok (.ifCond .eq 18, 3) := dk_153 0 18 (dk_at dksX4_passes_2 21 rfl rfl)
theorem dX4_passes_72 : decode cX4_passes 72 = .ok (.iload_n 3, 1) := dk_29 (dk_at dksX4_passes_3 0 rfl rfl)
theorem dX4_passes_73 : decode cX4_passes 73 = .ok (.iload_n 2, 1) := dk_28 (dk_at dksX4_passes_3 1 rfl rfl)
theorem dX4_passes_74 : decode cX4_passes 74 = .ok (.if_icmp .eq 13, 3) := dk_159 0 13 (dk_at dksX4_passes_3 2 rfl rfl)
theorem dX4_passes_77 : decode cX4_passes 77 = .ok (.aload_n 0, 1) := dk_42 (dk_at dksX4_passes_3 5 rfl rfl)
theorem dX4_passes_78 : decode cX4_passes 78 = .ok (.getfield 98, 3) := dk_180 0 98 (dk_at dksX4_passes_3 6 rfl rfl)
theorem dX4_passes_81 : decode cX4_passes 81 = .ok (.iload_n 3, 1) := dk_29 (dk_at dksX4_passes_3 9 rfl rfl)
theorem dX4_passes_82 : decode cX4_passes 82 = .ok (.dup2, 1) := dk_92 (dk_at dksX4_passes_3 10 rfl rfl)
theorem dX4_passes_83 : decode cX4_passes 83 = .ok (.iaload, 1) := dk_46 (dk_at dksX4_passes_3 11 rfl rfl)
theorem dX4_passes_84 : decode cX4_passes 84 = .ok (.iconst 1, 1) := dk_4 (dk_at dksX4_passes_3 12 rfl rfl)
theorem dX4_passes_85 : decode cX4_passes 85 = .ok (.iadd, 1) := dk_96 (dk_at dksX4_passes_3 13 rfl rfl)
theorem dX4_passes_86 : decode cX4_passes 86 = .ok (.iastore, 1) := dk_79 (dk_at dksX4_passes_3 14 rfl rfl)
theorem dX4_passes_87 : decode cX4_passes 87 = .ok (.iinc 3 1, 3) := dk_132 3 1 (dk_at dksX4_passes_3 15 rfl rfl)
theorem dX4_passes_90 : decode cX4_passes 90 = .ok (.goto (-37), 3) := dk_167 255 219 (dk_at dksX4_passes_3 18 rfl rfl)
theorem dX4_passes_93 : decode cX4_passes 93 = .ok (.iload_n 2, 1) := dk_28 (dk_at dksX4_passes_3 21 rfl rfl)
theorem dX4_passes_94 : decode cX4_passes 94 = .ok (.iconst (-1), 1) := dk_2 (dk_at dksX4_passes_3 22 rfl rfl)
theorem dX4_passes_95 : decode cX4_passes 95 = .ok (.if_icmp .ne 5, 3) := dk_160 0 5 (dk_at dksX4_passes_4 0 rfl rfl)
theorem dX4_passes_98 : decode cX4_passes 98 = .ok (.iconst 0, 1) := dk_3 (dk_at dksX4_passes_4 3 rfl rfl)
theorem dX4_passes_99 : decode cX4_passes 99 = .ok (.ireturn, 1) := dk_172 (dk_at dksX4_passes_4 4 rfl rfl)
theorem dX4_passes_100 : decode cX4_passes 100 = .ok (.aload_n 0, 1) := dk_42 (dk_at dksX4_passes_4 5 rfl rfl)
theorem dX4_passes_101 : decode cX4_passes 101 = .ok (.getfield 86, 3) := dk_180 0 86 (dk_at dksX4_passes_4 6 rfl rfl)
theorem dX4_passes_104 : decode cX4_passes 104 = .ok (.iload_n 2, 1) := dk_28 (dk_at dksX4_passes_4 9 rfl rfl)
theorem dX4_passes_105 : decode cX4_passes 105 = .ok (.iaload, 1) := dk_46 (dk_at dksX4_passes_4 10 rfl rfl)
theorem dX4_passes_106 : decode cX4_passes 106 = .ok (.aload_n 0, 1) := dk_42 (dk_at dksX4_passes_4 11 rfl rfl)
theorem dX4_passes_107 : decode cX4_passes 107 = .ok (.getfield 83, 3) := dk_180 0 83 (dk_at dksX4_passes_4 12 rfl rfl)
theorem dX4_passes_110 : decode cX4_passes 110 = .ok (.iload_n 2, 1) := dk_28 (dk_at dksX4_passes_4 15 rfl rfl)
theorem dX4_passes_111 : decode cX4_passes 111 = .ok (.iaload, 1) := dk_46 (dk_at dksX4_passes_4 16 rfl rfl)
theorem dX4_passes_112 : decode cX4_passes 112 = .ok (.iconst 1, 1) := dk_4 (dk_at dksX4_passes_4 17 rfl rfl)
theorem dX4_passes_113 : decode cX4_passes 113 = .ok (.isub, 1) := dk_100 (dk_at dksX4_passes_4 18 rfl rfl)
theorem dX4_passes_114 : decode cX4_passes 114 = .ok (.if_icmp .ne 15, 3) := dk_160 0 15 (dk_at dksX4_passes_4 19 rfl rfl)
theorem dX4_passes_117 : decode cX4_passes 117 = .ok (.aload_n 0, 1) := dk_42 (dk_at dksX4_passes_4 22 rfl rfl)
theorem dX4_passes_118 : decode cX4_passes 118 = .ok (.getfield 95, 3) := dk_180 0 95 (dk_at dksX4_passes_5 0 rfl rfl)
theorem dX4_passes_121 : decode cX4_passes 121 = .ok (.iload_n 2, 1) := dk_28 (dk_at dksX4_passes_5 3 rfl rfl)
theorem dX4_passes_122 : decode cX4_passes 122 = .ok (.aload_n 0, 1) := dk_42 (dk_at dksX4_passes_5 4 rfl rfl)
theorem dX4_passes_123 : decode cX4_passes 123 = .ok (.getfield 375, 3) := dk_180 1 119 (dk_at dksX4_passes_5 5 rfl rfl)
theorem dX4_passes_126 : decode cX4_passes 126 = .ok (.iastore, 1) := dk_79 (dk_at dksX4_passes_5 8 rfl rfl)
theorem dX4_passes_127 : decode cX4_passes 127 = .ok (.iconst 1, 1) := dk_4 (dk_at dksX4_passes_5 9 rfl rfl)
theorem dX4_passes_128 : decode cX4_passes 128 = .ok (.ireturn, 1) := dk_172 (dk_at dksX4_passes_5 10 rfl rfl)
theorem dX4_passes_129 : decode cX4_passes 129 = .ok (.aload_n 0, 1) := dk_42 (dk_at dksX4_passes_5 11 rfl rfl)
theorem dX4_passes_130 : decode cX4_passes 130 = .ok (.getfield 86, 3) := dk_180 0 86 (dk_at dksX4_passes_5 12 rfl rfl)
theorem dX4_passes_133 : decode cX4_passes 133 = .ok (.iload_n 2, 1) := dk_28 (dk_at dksX4_passes_5 15 rfl rfl)
theorem dX4_passes_134 : decode cX4_passes 134 = .ok (.dup2, 1) := dk_92 (dk_at dksX4_passes_5 16 rfl rfl)
theorem dX4_passes_135 : decode cX4_passes 135 = .ok (.iaload, 1) := dk_46 (dk_at dksX4_passes_5 17 rfl rfl)
theorem dX4_passes_136 : decode cX4_passes 136 = .ok (.iconst 1, 1) := dk_4 (dk_at dksX4_passes_5 18 rfl rfl)
theorem dX4_passes_137 : decode cX4_passes 137 = .ok (.iadd, 1) := dk_96 (dk_at dksX4_passes_5 19 rfl rfl)
theorem dX4_passes_138 : decode cX4_passes 138 = .ok (.iastore, 1) := dk_79 (dk_at dksX4_passes_5 20 rfl rfl)
theorem dX4_passes_139 : decode cX4_passes 139 = .ok (.aload_n 0, 1) := dk_42 (dk_at dksX4_passes_5 21 rfl rfl)
theorem dX4_passes_140 : decode cX4_passes 140 = .ok (.getfield 89, 3) := dk_180 0 89 (dk_at dksX4_passes_6 0 rfl rfl)
theorem dX4_passes_143 : decode cX4_passes 143 = .ok (.iload_n 2, 1) := dk_28 (dk_at dksX4_passes_6 3 rfl rfl)
theorem dX4_passes_144 : decode cX4_passes 144 = .ok (.aload_n 0, 1) := dk_42 (dk_at dksX4_passes_6 4 rfl rfl)
theorem dX4_passes_145 : decode cX4_passes 145 = .ok (.aload_n 0, 1) := dk_42 (dk_at dksX4_passes_6 5 rfl rfl)
theorem dX4_passes_146 : decode cX4_passes 146 = .ok (.getfield 80, 3) := dk_180 0 80 (dk_at dksX4_passes_6 6 rfl rfl)
theorem dX4_passes_149 : decode cX4_passes 149 = .ok (.iload_n 2, 1) := dk_28 (dk_at dksX4_passes_6 9 rfl rfl)
theorem dX4_passes_150 : decode cX4_passes 150 = .ok (.aaload, 1) := dk_50 (dk_at dksX4_passes_6 10 rfl rfl)
theorem dX4_passes_151 : decode cX4_passes 151 = .ok (.aload_n 0, 1) := dk_42 (dk_at dksX4_passes_6 11 rfl rfl)
theorem dX4_passes_152 : decode cX4_passes 152 = .ok (.getfield 86, 3) := dk_180 0 86 (dk_at dksX4_passes_6 12 rfl rfl)
theorem dX4_passes_155 : decode cX4_passes 155 = .ok (.iload_n 2, 1) := dk_28 (dk_at dksX4_passes_6 15 rfl rfl)
theorem dX4_passes_156 : decode cX4_passes 156 = .ok (.iaload, 1) := dk_46 (dk_at dksX4_passes_6 16 rfl rfl)
theorem dX4_passes_157 : decode cX4_passes 157 = .ok (.iaload, 1) := dk_46 (dk_at dksX4_passes_6 17 rfl rfl)
theorem dX4_passes_158 : decode cX4_passes 158 = .ok (.invokevirtual 295, 3) := dk_182 1 39 (dk_at dksX4_passes_6 18 rfl rfl)
theorem dX4_passes_161 : decode cX4_passes 161 = .ok (.iastore, 1) := dk_79 (dk_at dksX4_passes_6 21 rfl rfl)
theorem dX4_passes_162 : decode cX4_passes 162 = .ok (.iconst 0, 1) := dk_3 (dk_at dksX4_passes_6 22 rfl rfl)
theorem dX4_passes_163 : decode cX4_passes 163 = .ok (.ireturn, 1) := dk_172 (dk_at dksX4_passes_6 23 rfl rfl)
abbrev cX4_isThere : ByteArray := prog_10_method_91_code
def yX4_isThere : MethodName := ⟨RX4, "isThere", "(II)Z"⟩
def dkwX4_isThere_2 : List UInt8 := [160, 0, 7, 4, 167, 0, 4, 3, 172]
abbrev dktX4_isThere_2 : List UInt8 := dkwX4_isThere_2 ++ []
def dkwX4_isThere_1 : List UInt8 := [27, 46, 154, 0, 28, 42, 42, 180, 0, 80, 27, 50, 42, 180, 0, 86, 27, 46, 46, 182, 0, 250, 28]
abbrev dktX4_isThere_1 : List UInt8 := dkwX4_isThere_1 ++ dktX4_isThere_2
def dkwX4_isThere_0 : List UInt8 := [42, 180, 0, 86, 27, 46, 2, 159, 0, 47, 42, 180, 0, 95, 27, 46, 2, 160, 0, 37, 42, 180, 0, 89]
abbrev dktX4_isThere_0 : List UInt8 := dkwX4_isThere_0 ++ dktX4_isThere_1
theorem dksX4_isThere_0 : cX4_isThere.data.toList.drop 0 = dktX4_isThere_0 := by decide +kernel
theorem dksX4_isThere_1 : cX4_isThere.data.toList.drop 24 = dktX4_isThere_1 := dk_seg dksX4_isThere_0 24 rfl rfl
theorem dksX4_isThere_2 : cX4_isThere.data.toList.drop 47 = dktX4_isThere_2 := dk_seg dksX4_isThere_1 23 rfl rfl
theorem dX4_isThere_0 : decode cX4_isThere 0 = .ok (.aload_n 0, 1) := dk_42 (dk_at dksX4_isThere_0 0 rfl rfl)
theorem dX4_isThere_1 : decode cX4_isThere 1 = .ok (.getfield 86, 3) := dk_180 0 86 (dk_at dksX4_isThere_0 1 rfl rfl)
theorem dX4_isThere_4 : decode cX4_isThere 4 = .ok (.iload_n 1, 1) := dk_27 (dk_at dksX4_isThere_0 4 rfl rfl)
theorem dX4_isThere_5 : decode cX4_isThere 5 = .ok (.iaload, 1) := dk_46 (dk_at dksX4_isThere_0 5 rfl rfl)
theorem dX4_isThere_6 : decode cX4_isThere 6 = .ok (.iconst (-1), 1) := dk_2 (dk_at dksX4_isThere_0 6 rfl rfl)
theorem dX4_isThere_7 : decode cX4_isThere 7 = .ok (.if_icmp .eq 47, 3) := dk_159 0 47 (dk_at dksX4_isThere_0 7 rfl rfl)
theorem dX4_isThere_10 : decode cX4_isThere 10 = .ok (.aload_n 0, 1) := dk_42 (dk_at dksX4_isThere_0 10 rfl rfl)
theorem dX4_isThere_11 : decode cX4_isThere 11 = .ok (.getfield 95, 3) := dk_180 0 95 (dk_at dksX4_isThere_0 11 rfl rfl)
theorem dX4_isThere_14 : decode cX4_isThere 14 = .ok (.iload_n 1, 1) := dk_27 (dk_at dksX4_isThere_0 14 rfl rfl)
theorem dX4_isThere_15 : decode cX4_isThere 15 = .ok (.iaload, 1) := dk_46 (dk_at dksX4_isThere_0 15 rfl rfl)
theorem dX4_isThere_16 : decode cX4_isThere 16 = .ok (.iconst (-1), 1) := dk_2 (dk_at dksX4_isThere_0 16 rfl rfl)
theorem dX4_isThere_17 : decode cX4_isThere 17 = .ok (.if_icmp .ne 37, 3) := dk_160 0 37 (dk_at dksX4_isThere_0 17 rfl rfl)
theorem dX4_isThere_20 : decode cX4_isThere 20 = .ok (.aload_n 0, 1) := dk_42 (dk_at dksX4_isThere_0 20 rfl rfl)
theorem dX4_isThere_21 : decode cX4_isThere 21 = .ok (.getfield 89, 3) := dk_180 0 89 (dk_at dksX4_isThere_0 21 rfl rfl)
theorem dX4_isThere_24 : decode cX4_isThere 24 = .ok (.iload_n 1, 1) := dk_27 (dk_at dksX4_isThere_1 0 rfl rfl)
theorem dX4_isThere_25 : decode cX4_isThere 25 = .ok (.iaload, 1) := dk_46 (dk_at dksX4_isThere_1 1 rfl rfl)
theorem dX4_isThere_26 : decode cX4_isThere 26 = .ok (.ifCond .ne 28, 3) := dk_154 0 28 (dk_at dksX4_isThere_1 2 rfl rfl)
theorem dX4_isThere_29 : decode cX4_isThere 29 = .ok (.aload_n 0, 1) := dk_42 (dk_at dksX4_isThere_1 5 rfl rfl)
theorem dX4_isThere_30 : decode cX4_isThere 30 = .ok (.aload_n 0, 1) := dk_42 (dk_at dksX4_isThere_1 6 rfl rfl)
theorem dX4_isThere_31 : decode cX4_isThere 31 = .ok (.getfield 80, 3) := dk_180 0 80 (dk_at dksX4_isThere_1 7 rfl rfl)
theorem dX4_isThere_34 : decode cX4_isThere 34 = .ok (.iload_n 1, 1) := dk_27 (dk_at dksX4_isThere_1 10 rfl rfl)
theorem dX4_isThere_35 : decode cX4_isThere 35 = .ok (.aaload, 1) := dk_50 (dk_at dksX4_isThere_1 11 rfl rfl)
theorem dX4_isThere_36 : decode cX4_isThere 36 = .ok (.aload_n 0, 1) := dk_42 (dk_at dksX4_isThere_1 12 rfl rfl)
theorem dX4_isThere_37 : decode cX4_isThere 37 = .ok (.getfield 86, 3) := dk_180 0 86 (dk_at dksX4_isThere_1 13 rfl rfl)
theorem dX4_isThere_40 : decode cX4_isThere 40 = .ok (.iload_n 1, 1) := dk_27 (dk_at dksX4_isThere_1 16 rfl rfl)
theorem dX4_isThere_41 : decode cX4_isThere 41 = .ok (.iaload, 1) := dk_46 (dk_at dksX4_isThere_1 17 rfl rfl)
theorem dX4_isThere_42 : decode cX4_isThere 42 = .ok (.iaload, 1) := dk_46 (dk_at dksX4_isThere_1 18 rfl rfl)
theorem dX4_isThere_43 : decode cX4_isThere 43 = .ok (.invokevirtual 250, 3) := dk_182 0 250 (dk_at dksX4_isThere_1 19 rfl rfl)
theorem dX4_isThere_46 : decode cX4_isThere 46 = .ok (.iload_n 2, 1) := dk_28 (dk_at dksX4_isThere_1 22 rfl rfl)
theorem dX4_isThere_47 : decode cX4_isThere 47 = .ok (.if_icmp .ne 7, 3) := dk_160 0 7 (dk_at dksX4_isThere_2 0 rfl rfl)
theorem dX4_isThere_50 : decode cX4_isThere 50 = .ok (.iconst 1, 1) := dk_4 (dk_at dksX4_isThere_2 3 rfl rfl)
theorem dX4_isThere_51 : decode cX4_isThere 51 = .ok (.goto 4, 3) := dk_167 0 4 (dk_at dksX4_isThere_2 4 rfl rfl)
theorem dX4_isThere_54 : decode cX4_isThere 54 = .ok (.iconst 0, 1) := dk_3 (dk_at dksX4_isThere_2 7 rfl rfl)
theorem dX4_isThere_55 : decode cX4_isThere 55 = .ok (.ireturn, 1) := dk_172 (dk_at dksX4_isThere_2 8 rfl rfl)
abbrev cX4_traffic : ByteArray := prog_10_method_94_code
def yX4_traffic : MethodName := ⟨RX4, "traffic", "(I)I"⟩
def dkwX4_traffic_6 : List UInt8 := [160, 0, 7, 28, 167, 0, 14, 27, 5, 160, 0, 7, 29, 167, 0, 5, 21, 4, 172]
abbrev dktX4_traffic_6 : List UInt8 := dkwX4_traffic_6 ++ []
def dkwX4_traffic_5 : List UInt8 := [21, 5, 54, 4, 132, 5, 1, 167, 255, 176, 27, 154, 0, 10, 42, 180, 1, 119, 167, 0, 23, 27, 4]
abbrev dktX4_traffic_5 : List UInt8 := dkwX4_traffic_5 ++ dktX4_traffic_6
def dkwX4_traffic_4 : List UInt8 := [21, 4, 2, 159, 0, 20, 42, 180, 0, 98, 21, 5, 46, 42, 180, 0, 98, 21, 4, 46, 164, 0, 7]
abbrev dktX4_traffic_4 : List UInt8 := dkwX4_traffic_4 ++ dktX4_traffic_5
def dkwX4_traffic_3 : List UInt8 := [4, 96, 61, 29, 42, 180, 0, 98, 21, 5, 46, 96, 62, 42, 180, 0, 98, 21, 5, 46, 158, 0, 30]
abbrev dktX4_traffic_3 : List UInt8 := dkwX4_traffic_3 ++ dktX4_traffic_4
def dkwX4_traffic_2 : List UInt8 := [180, 0, 20, 6, 46, 162, 0, 75, 28, 42, 180, 0, 95, 21, 5, 46, 2, 160, 0, 7, 3, 167, 0, 4]
abbrev dktX4_traffic_2 : List UInt8 := dkwX4_traffic_2 ++ dktX4_traffic_3
def dkwX4_traffic_1 : List UInt8 := [153, 0, 5, 3, 172, 42, 182, 1, 131, 3, 61, 3, 62, 2, 54, 4, 3, 54, 5, 21, 5, 42]
abbrev dktX4_traffic_1 : List UInt8 := dkwX4_traffic_1 ++ dktX4_traffic_2
def dkwX4_traffic_0 : List UInt8 := [42, 3, 181, 0, 131, 42, 27, 3, 6, 184, 0, 165, 154, 0, 7, 4, 167, 0, 4, 3, 4, 182, 0, 227]
abbrev dktX4_traffic_0 : List UInt8 := dkwX4_traffic_0 ++ dktX4_traffic_1
theorem dksX4_traffic_0 : cX4_traffic.data.toList.drop 0 = dktX4_traffic_0 := by decide +kernel
theorem dksX4_traffic_1 : cX4_traffic.data.toList.drop 24 = dktX4_traffic_1 := dk_seg dksX4_traffic_0 24 rfl rfl
theorem dksX4_traffic_2 : cX4_traffic.data.toList.drop 46 = dktX4_traffic_2 := dk_seg dksX4_traffic_1 22 rfl rfl
theorem dksX4_traffic_3 : cX4_traffic.data.toList.drop 70 = dktX4_traffic_3 := dk_seg dksX4_traffic_2 24 rfl rfl
theorem dksX4_traffic_4 : cX4_traffic.data.toList.drop 93 = dktX4_traffic_4 := dk_seg dksX4_traffic_3 23 rfl rfl
theorem dksX4_traffic_5 : cX4_traffic.data.toList.drop 116 = dktX4_traffic_5 := dk_seg dksX4_traffic_4 23 rfl rfl
theorem dksX4_traffic_6 : cX4_traffic.data.toList.drop 139 = dktX4_traffic_6 := dk_seg dksX4_traffic_5 23 rfl rfl
theorem dX4_traffic_0 : decode cX4_traffic 0 = .ok (.aload_n 0, 1) := dk_42 (dk_at dksX4_traffic_0 0 rfl rfl)
theorem dX4_traffic_1 : decode cX4_traffic 1 = .ok (.iconst 0, 1) := dk_3 (dk_at dksX4_traffic_0 1 rfl rfl)
theorem dX4_traffic_2 : decode cX4_traffic 2 = .ok (.putfield 131, 3) := dk_181 0 131 (dk_at dksX4_traffic_0 2 rfl rfl)
theorem dX4_traffic_5 : decode cX4_traffic 5 = .ok (.aload_n 0, 1) := dk_42 (dk_at dksX4_traffic_0 5 rfl rfl)
theorem dX4_traffic_6 : decode cX4_traffic 6 = .ok (.iload_n 1, 1) := dk_27 (dk_at dksX4_traffic_0 6 rfl rfl)
theorem dX4_traffic_7 : decode cX4_traffic 7 = .ok (.iconst 0, 1) := dk_3 (dk_at dksX4_traffic_0 7 rfl rfl)
theorem dX4_traffic_8 : decode cX4_traffic 8 = .ok (.iconst 3, 1) := dk_6 (dk_at dksX4_traffic_0 8 rfl rfl)
theorem dX4_traffic_9 : decode cX4_traffic 9 = .ok (.invokestatic 165, 3) := dk_184 0 165 (dk_at dksX4_traffic_0 9 rfl rfl)
theorem dX4_traffic_12 : decode cX4_traffic 12 = .ok (.ifCond .ne 7, 3) := dk_154 0 7 (dk_at dksX4_traffic_0 12 rfl rfl)
theorem dX4_traffic_15 : decode cX4_traffic 15 = .ok (.iconst 1, 1) := dk_4 (dk_at dksX4_traffic_0 15 rfl rfl)
theorem dX4_traffic_16 : decode cX4_traffic 16 = .ok (.goto 4, 3) := dk_167 0 4 (dk_at dksX4_traffic_0 16 rfl rfl)
theorem dX4_traffic_19 : decode cX4_traffic 19 = .ok (.iconst 0, 1) := dk_3 (dk_at dksX4_traffic_0 19 rfl rfl)
theorem dX4_traffic_20 : decode cX4_traffic 20 = .ok (.iconst 1, 1) := dk_4 (dk_at dksX4_traffic_0 20 rfl rfl)
theorem dX4_traffic_21 : decode cX4_traffic 21 = .ok (.invokevirtual 227, 3) := dk_182 0 227 (dk_at dksX4_traffic_0 21 rfl rfl)
theorem dX4_traffic_24 : decode cX4_traffic 24 = .ok (.ifCond .eq 5, 3) := dk_153 0 5 (dk_at dksX4_traffic_1 0 rfl rfl)
theorem dX4_traffic_27 : decode cX4_traffic 27 = .ok (.iconst 0, 1) := dk_3 (dk_at dksX4_traffic_1 3 rfl rfl)
theorem dX4_traffic_28 : decode cX4_traffic 28 = .ok (.ireturn, 1) := dk_172 (dk_at dksX4_traffic_1 4 rfl rfl)
theorem dX4_traffic_29 : decode cX4_traffic 29 = .ok (.aload_n 0, 1) := dk_42 (dk_at dksX4_traffic_1 5 rfl rfl)
theorem dX4_traffic_30 : decode cX4_traffic 30 = .ok (.invokevirtual 387, 3) := dk_182 1 131 (dk_at dksX4_traffic_1 6 rfl rfl)
theorem dX4_traffic_33 : decode cX4_traffic 33 = .ok (.iconst 0, 1) := dk_3 (dk_at dksX4_traffic_1 9 rfl rfl)
theorem dX4_traffic_34 : decode cX4_traffic 34 = .ok (.istore_n 2, 1) := dk_61 (dk_at dksX4_traffic_1 10 rfl rfl)
theorem dX4_traffic_35 : decode cX4_traffic 35 = .ok (.iconst 0, 1) := dk_3 (dk_at dksX4_traffic_1 11 rfl rfl)
theorem dX4_traffic_36 : decode cX4_traffic 36 = .ok (.istore_n 3, 1) := dk_62 (dk_at dksX4_traffic_1 12 rfl rfl)
theorem dX4_traffic_37 : decode cX4_traffic 37 = .ok (.iconst (-1), 1) := dk_2 (dk_at dksX4_traffic_1 13 rfl rfl)
theorem dX4_traffic_38 : decode cX4_traffic 38 = .ok (.istore 4, 2) := dk_54 4 (dk_at dksX4_traffic_1 14 rfl rfl)
theorem dX4_traffic_40 : decode cX4_traffic 40 = .ok (.iconst 0, 1) := dk_3 (dk_at dksX4_traffic_1 16 rfl rfl)
theorem dX4_traffic_41 : decode cX4_traffic 41 = .ok (.istore 5, 2) := dk_54 5 (dk_at dksX4_traffic_1 17 rfl rfl)
theorem dX4_traffic_43 : decode cX4_traffic 43 = .ok (.iload 5, 2) := dk_21 5 (dk_at dksX4_traffic_1 19 rfl rfl)
theorem dX4_traffic_45 : decode cX4_traffic 45 = .ok (.aload_n 0, 1) := dk_42 (dk_at dksX4_traffic_1 21 rfl rfl)
theorem dX4_traffic_46 : decode cX4_traffic 46 = .ok (.getfield 20, 3) := dk_180 0 20 (dk_at dksX4_traffic_2 0 rfl rfl)
theorem dX4_traffic_49 : decode cX4_traffic 49 = .ok (.iconst 3, 1) := dk_6 (dk_at dksX4_traffic_2 3 rfl rfl)
theorem dX4_traffic_50 : decode cX4_traffic 50 = .ok (.iaload, 1) := dk_46 (dk_at dksX4_traffic_2 4 rfl rfl)
theorem dX4_traffic_51 : decode cX4_traffic 51 = .ok (.if_icmp .ge 75, 3) := dk_162 0 75 (dk_at dksX4_traffic_2 5 rfl rfl)
theorem dX4_traffic_54 : decode cX4_traffic 54 = .ok (.iload_n 2, 1) := dk_28 (dk_at dksX4_traffic_2 8 rfl rfl)
theorem dX4_traffic_55 : decode cX4_traffic 55 = .ok (.aload_n 0, 1) := dk_42 (dk_at dksX4_traffic_2 9 rfl rfl)
theorem dX4_traffic_56 : decode cX4_traffic 56 = .ok (.getfield 95, 3) := dk_180 0 95 (dk_at dksX4_traffic_2 10 rfl rfl)
theorem dX4_traffic_59 : decode cX4_traffic 59 = .ok (.iload 5, 2) := dk_21 5 (dk_at dksX4_traffic_2 13 rfl rfl)
theorem dX4_traffic_61 : decode cX4_traffic 61 = .ok (.iaload, 1) := dk_46 (dk_at dksX4_traffic_2 15 rfl rfl)
theorem dX4_traffic_62 : decode cX4_traffic 62 = .ok (.iconst (-1), 1) := dk_2 (dk_at dksX4_traffic_2 16 rfl rfl)
theorem dX4_traffic_63 : decode cX4_traffic 63 = .ok (.if_icmp .ne 7, 3) := dk_160 0 7 (dk_at dksX4_traffic_2 17 rfl rfl)
theorem dX4_traffic_66 : decode cX4_traffic 66 = .ok (.iconst 0, 1) := dk_3 (dk_at dksX4_traffic_2 20 rfl rfl)
theorem dX4_traffic_67 : decode cX4_traffic 67 = .ok (.goto 4, 3) := dk_167 0 4 (dk_at dksX4_traffic_2 21 rfl rfl)
theorem dX4_traffic_70 : decode cX4_traffic 70 = .ok (.iconst 1, 1) := dk_4 (dk_at dksX4_traffic_3 0 rfl rfl)
theorem dX4_traffic_71 : decode cX4_traffic 71 = .ok (.iadd, 1) := dk_96 (dk_at dksX4_traffic_3 1 rfl rfl)
theorem dX4_traffic_72 : decode cX4_traffic 72 = .ok (.istore_n 2, 1) := dk_61 (dk_at dksX4_traffic_3 2 rfl rfl)
theorem dX4_traffic_73 : decode cX4_traffic 73 = .ok (.iload_n 3, 1) := dk_29 (dk_at dksX4_traffic_3 3 rfl rfl)
theorem dX4_traffic_74 : decode cX4_traffic 74 = .ok (.aload_n 0, 1) := dk_42 (dk_at dksX4_traffic_3 4 rfl rfl)
theorem dX4_traffic_75 : decode cX4_traffic 75 = .ok (.getfield 98, 3) := dk_180 0 98 (dk_at dksX4_traffic_3 5 rfl rfl)
theorem dX4_traffic_78 : decode cX4_traffic 78 = .ok (.iload 5, 2) := dk_21 5 (dk_at dksX4_traffic_3 8 rfl rfl)
theorem dX4_traffic_80 : decode cX4_traffic 80 = .ok (.iaload, 1) := dk_46 (dk_at dksX4_traffic_3 10 rfl rfl)
theorem dX4_traffic_81 : decode cX4_traffic 81 = .ok (.iadd, 1) := dk_96 (dk_at dksX4_traffic_3 11 rfl rfl)
theorem dX4_traffic_82 : decode cX4_traffic 82 = .ok (.istore_n 3, 1) := dk_62 (dk_at dksX4_traffic_3 12 rfl rfl)
theorem dX4_traffic_83 : decode cX4_traffic 83 = .ok (.aload_n 0, 1) := dk_42 (dk_at dksX4_traffic_3 13 rfl rfl)
theorem dX4_traffic_84 : decode cX4_traffic 84 = .ok (.getfield 98, 3) := dk_180 0 98 (dk_at dksX4_traffic_3 14 rfl rfl)
theorem dX4_traffic_87 : decode cX4_traffic 87 = .ok (.iload 5, 2) := dk_21 5 (dk_at dksX4_traffic_3 17 rfl rfl)
theorem dX4_traffic_89 : decode cX4_traffic 89 = .ok (.iaload, 1) := dk_46 (dk_at dksX4_traffic_3 19 rfl rfl)
theorem dX4_traffic_90 : decode cX4_traffic 90 = .ok (.ifCond .le 30, 3) := dk_158 0 30 (dk_at dksX4_traffic_3 20 rfl rfl)
theorem dX4_traffic_93 : decode cX4_traffic 93 = .ok (.iload 4, 2) := dk_21 4 (dk_at dksX4_traffic_4 0 rfl rfl)
theorem dX4_traffic_95 : decode cX4_traffic 95 = .ok (.iconst (-1), 1) := dk_2 (dk_at dksX4_traffic_4 2 rfl rfl)
theorem dX4_traffic_96 : decode cX4_traffic 96 = .ok (.if_icmp .eq 20, 3) := dk_159 0 20 (dk_at dksX4_traffic_4 3 rfl rfl)
theorem dX4_traffic_99 : decode cX4_traffic 99 = .ok (.aload_n 0, 1) := dk_42 (dk_at dksX4_traffic_4 6 rfl rfl)
theorem dX4_traffic_100 : decode cX4_traffic 100 = .ok (.getfield 98, 3) := dk_180 0 98 (dk_at dksX4_traffic_4 7 rfl rfl)
theorem dX4_traffic_103 : decode cX4_traffic 103 = .ok (.iload 5, 2) := dk_21 5 (dk_at dksX4_traffic_4 10 rfl rfl)
theorem dX4_traffic_105 : decode cX4_traffic 105 = .ok (.iaload, 1) := dk_46 (dk_at dksX4_traffic_4 12 rfl rfl)
theorem dX4_traffic_106 : decode cX4_traffic 106 = .ok (.aload_n 0, 1) := dk_42 (dk_at dksX4_traffic_4 13 rfl rfl)
theorem dX4_traffic_107 : decode cX4_traffic 107 = .ok (.getfield 98, 3) := dk_180 0 98 (dk_at dksX4_traffic_4 14 rfl rfl)
theorem dX4_traffic_110 : decode cX4_traffic 110 = .ok (.iload 4, 2) := dk_21 4 (dk_at dksX4_traffic_4 17 rfl rfl)
theorem dX4_traffic_112 : decode cX4_traffic 112 = .ok (.iaload, 1) := dk_46 (dk_at dksX4_traffic_4 19 rfl rfl)
theorem dX4_traffic_113 : decode cX4_traffic 113 = .ok (.if_icmp .le 7, 3) := dk_164 0 7 (dk_at dksX4_traffic_4 20 rfl rfl)
theorem dX4_traffic_116 : decode cX4_traffic 116 = .ok (.iload 5, 2) := dk_21 5 (dk_at dksX4_traffic_5 0 rfl rfl)
theorem dX4_traffic_118 : decode cX4_traffic 118 = .ok (.istore 4, 2) := dk_54 4 (dk_at dksX4_traffic_5 2 rfl rfl)
theorem dX4_traffic_120 : decode cX4_traffic 120 = .ok (.iinc 5 1, 3) := dk_132 5 1 (dk_at dksX4_traffic_5 4 rfl rfl)
theorem dX4_traffic_123 : decode cX4_traffic 123 = .ok (.goto (-80), 3) := dk_167 255 176 (dk_at dksX4_traffic_5 7 rfl rfl)
theorem dX4_traffic_126 : decode cX4_traffic 126 = .ok (.iload_n 1, 1) := dk_27 (dk_at dksX4_traffic_5 10 rfl rfl)
theorem dX4_traffic_127 : decode cX4_traffic 127 = .ok (.ifCond .ne 10, 3) := dk_154 0 10 (dk_at dksX4_traffic_5 11 rfl rfl)
theorem dX4_traffic_130 : decode cX4_traffic 130 = .ok (.aload_n 0, 1) := dk_42 (dk_at dksX4_traffic_5 14 rfl rfl)
theorem dX4_traffic_131 : decode cX4_traffic 131 = .ok (.getfield 375, 3) := dk_180 1 119 (dk_at dksX4_traffic_5 15 rfl rfl)
theorem dX4_traffic_134 : decode cX4_traffic 134 = .ok (.goto 23, 3) := dk_167 0 23 (dk_at dksX4_traffic_5 18 rfl rfl)
theorem dX4_traffic_137 : decode cX4_traffic 137 = .ok (.iload_n 1, 1) := dk_27 (dk_at dksX4_traffic_5 21 rfl rfl)
theorem dX4_traffic_138 : decode cX4_traffic 138 = .ok (.iconst 1, 1) := dk_4 (dk_at dksX4_traffic_5 22 rfl rfl)
theorem dX4_traffic_139 : decode cX4_traffic 139 = .ok (.if_icmp .ne 7, 3) := dk_160 0 7 (dk_at dksX4_traffic_6 0 rfl rfl)
theorem dX4_traffic_142 : decode cX4_traffic 142 = .ok (.iload_n 2, 1) := dk_28 (dk_at dksX4_traffic_6 3 rfl rfl)
theorem dX4_traffic_143 : decode cX4_traffic 143 = .ok (.goto 14, 3) := dk_167 0 14 (dk_at dksX4_traffic_6 4 rfl rfl)
theorem dX4_traffic_146 : decode cX4_traffic 146 = .ok (.iload_n 1, 1) := dk_27 (dk_at dksX4_traffic_6 7 rfl rfl)
theorem dX4_traffic_147 : decode cX4_traffic 147 = .ok (.iconst 2, 1) := dk_5 (dk_at dksX4_traffic_6 8 rfl rfl)
theorem dX4_traffic_148 : decode cX4_traffic 148 = .ok (.if_icmp .ne 7, 3) := dk_160 0 7 (dk_at dksX4_traffic_6 9 rfl rfl)
theorem dX4_traffic_151 : decode cX4_traffic 151 = .ok (.iload_n 3, 1) := dk_29 (dk_at dksX4_traffic_6 12 rfl rfl)
theorem dX4_traffic_152 : decode cX4_traffic 152 = .ok (.goto 5, 3) := dk_167 0 5 (dk_at dksX4_traffic_6 13 rfl rfl)
theorem dX4_traffic_155 : decode cX4_traffic 155 = .ok (.iload 4, 2) := dk_21 4 (dk_at dksX4_traffic_6 16 rfl rfl)
theorem dX4_traffic_157 : decode cX4_traffic 157 = .ok (.ireturn, 1) := dk_172 (dk_at dksX4_traffic_6 18 rfl rfl)
abbrev cX4_counts : ByteArray := prog_10_method_95_code
def yX4_counts : MethodName := ⟨RX4, "counts", "(I)I"⟩
def dkwX4_counts_4 : List UInt8 := [167, 255, 215, 28, 21, 4, 153, 0, 7, 4, 167, 0, 4, 3, 96, 61, 132, 3, 1, 167, 255, 180, 28, 172]
abbrev dktX4_counts_4 : List UInt8 := dkwX4_counts_4 ++ []
def dkwX4_counts_3 : List UInt8 := [180, 0, 80, 29, 50, 21, 5, 46, 5, 108, 27, 160, 0, 7, 4, 167, 0, 4, 3, 54, 4, 132, 5, 1]
abbrev dktX4_counts_3 : List UInt8 := dkwX4_counts_3 ++ dktX4_counts_4
def dkwX4_counts_2 : List UInt8 := [54, 4, 3, 54, 5, 21, 5, 42, 180, 0, 83, 29, 46, 162, 0, 36, 21, 4, 154, 0, 18, 42]
abbrev dktX4_counts_2 : List UInt8 := dkwX4_counts_2 ++ dktX4_counts_3
def dkwX4_counts_1 : List UInt8 := [153, 0, 5, 3, 172, 42, 182, 1, 116, 3, 61, 3, 62, 29, 42, 180, 0, 20, 6, 46, 162, 0, 72, 3]
abbrev dktX4_counts_1 : List UInt8 := dkwX4_counts_1 ++ dktX4_counts_2
def dkwX4_counts_0 : List UInt8 := [42, 3, 181, 0, 131, 42, 42, 27, 182, 1, 12, 154, 0, 7, 4, 167, 0, 4, 3, 4, 182, 0, 227]
abbrev dktX4_counts_0 : List UInt8 := dkwX4_counts_0 ++ dktX4_counts_1
theorem dksX4_counts_0 : cX4_counts.data.toList.drop 0 = dktX4_counts_0 := by decide +kernel
theorem dksX4_counts_1 : cX4_counts.data.toList.drop 23 = dktX4_counts_1 := dk_seg dksX4_counts_0 23 rfl rfl
theorem dksX4_counts_2 : cX4_counts.data.toList.drop 47 = dktX4_counts_2 := dk_seg dksX4_counts_1 24 rfl rfl
theorem dksX4_counts_3 : cX4_counts.data.toList.drop 69 = dktX4_counts_3 := dk_seg dksX4_counts_2 22 rfl rfl
theorem dksX4_counts_4 : cX4_counts.data.toList.drop 93 = dktX4_counts_4 := dk_seg dksX4_counts_3 24 rfl rfl
theorem dX4_counts_0 : decode cX4_counts 0 = .ok (.aload_n 0, 1) := dk_42 (dk_at dksX4_counts_0 0 rfl rfl)
theorem dX4_counts_1 : decode cX4_counts 1 = .ok (.iconst 0, 1) := dk_3 (dk_at dksX4_counts_0 1 rfl rfl)
theorem dX4_counts_2 : decode cX4_counts 2 = .ok (.putfield 131, 3) := dk_181 0 131 (dk_at dksX4_counts_0 2 rfl rfl)
theorem dX4_counts_5 : decode cX4_counts 5 = .ok (.aload_n 0, 1) := dk_42 (dk_at dksX4_counts_0 5 rfl rfl)
theorem dX4_counts_6 : decode cX4_counts 6 = .ok (.aload_n 0, 1) := dk_42 (dk_at dksX4_counts_0 6 rfl rfl)
theorem dX4_counts_7 : decode cX4_counts 7 = .ok (.iload_n 1, 1) := dk_27 (dk_at dksX4_counts_0 7 rfl rfl)
theorem dX4_counts_8 : decode cX4_counts 8 = .ok (.invokevirtual 268, 3) := dk_182 1 12 (dk_at dksX4_counts_0 8 rfl rfl)
theorem dX4_counts_11 : decode cX4_counts 11 = .ok (.ifCond .ne 7, 3) := dk_154 0 7 (dk_at dksX4_counts_0 11 rfl rfl)
theorem dX4_counts_14 : decode cX4_counts 14 = .ok (.iconst 1, 1) := dk_4 (dk_at dksX4_counts_0 14 rfl rfl)
theorem dX4_counts_15 : decode cX4_counts 15 = .ok (.goto 4, 3) := dk_167 0 4 (dk_at dksX4_counts_0 15 rfl rfl)
theorem dX4_counts_18 : decode cX4_counts 18 = .ok (.iconst 0, 1) := dk_3 (dk_at dksX4_counts_0 18 rfl rfl)
theorem dX4_counts_19 : decode cX4_counts 19 = .ok (.iconst 1, 1) := dk_4 (dk_at dksX4_counts_0 19 rfl rfl)
theorem dX4_counts_20 : decode cX4_counts 20 = .ok (.invokevirtual 227, 3) := dk_182 0 227 (dk_at dksX4_counts_0 20 rfl rfl)
theorem dX4_counts_23 : decode cX4_counts 23 = .ok (.ifCond .eq 5, 3) := dk_153 0 5 (dk_at dksX4_counts_1 0 rfl rfl)
theorem dX4_counts_26 : decode cX4_counts 26 = .ok (.iconst 0, 1) := dk_3 (dk_at dksX4_counts_1 3 rfl rfl)
theorem dX4_counts_27 : decode cX4_counts 27 = .ok (.ireturn, 1) := dk_172 (dk_at dksX4_counts_1 4 rfl rfl)
theorem dX4_counts_28 : decode cX4_counts 28 = .ok (.aload_n 0, 1) := dk_42 (dk_at dksX4_counts_1 5 rfl rfl)
theorem dX4_counts_29 : decode cX4_counts 29 = .ok (.invokevirtual 372, 3) := dk_182 1 116 (dk_at dksX4_counts_1 6 rfl rfl)
theorem dX4_counts_32 : decode cX4_counts 32 = .ok (.iconst 0, 1) := dk_3 (dk_at dksX4_counts_1 9 rfl rfl)
theorem dX4_counts_33 : decode cX4_counts 33 = .ok (.istore_n 2, 1) := dk_61 (dk_at dksX4_counts_1 10 rfl rfl)
theorem dX4_counts_34 : decode cX4_counts 34 = .ok (.iconst 0, 1) := dk_3 (dk_at dksX4_counts_1 11 rfl rfl)
theorem dX4_counts_35 : decode cX4_counts 35 = .ok (.istore_n 3, 1) := dk_62 (dk_at dksX4_counts_1 12 rfl rfl)
theorem dX4_counts_36 : decode cX4_counts 36 = .ok (.iload_n 3, 1) := dk_29 (dk_at dksX4_counts_1 13 rfl rfl)
theorem dX4_counts_37 : decode cX4_counts 37 = .ok (.aload_n 0, 1) := dk_42 (dk_at dksX4_counts_1 14 rfl rfl)
theorem dX4_counts_38 : decode cX4_counts 38 = .ok (.getfield 20, 3) := dk_180 0 20 (dk_at dksX4_counts_1 15 rfl rfl)
theorem dX4_counts_41 : decode cX4_counts 41 = .ok (.iconst 3, 1) := dk_6 (dk_at dksX4_counts_1 18 rfl rfl)
theorem dX4_counts_42 : decode cX4_counts 42 = .ok (.iaload, 1) := dk_46 (dk_at dksX4_counts_1 19 rfl rfl)
theorem dX4_counts_43 : decode cX4_counts 43 = .ok (.if_icmp .ge 72, 3) := dk_162 0 72 (dk_at dksX4_counts_1 20 rfl rfl)
theorem dX4_counts_46 : decode cX4_counts 46 = .ok (.iconst 0, 1) := dk_3 (dk_at dksX4_counts_1 23 rfl rfl)
theorem dX4_counts_47 : decode cX4_counts 47 = .ok (.istore 4, 2) := dk_54 4 (dk_at dksX4_counts_2 0 rfl rfl)
theorem dX4_counts_49 : decode cX4_counts 49 = .ok (.iconst 0, 1) := dk_3 (dk_at dksX4_counts_2 2 rfl rfl)
theorem dX4_counts_50 : decode cX4_counts 50 = .ok (.istore 5, 2) := dk_54 5 (dk_at dksX4_counts_2 3 rfl rfl)
theorem dX4_counts_52 : decode cX4_counts 52 = .ok (.iload 5, 2) := dk_21 5 (dk_at dksX4_counts_2 5 rfl rfl)
theorem dX4_counts_54 : decode cX4_counts 54 = .ok (.aload_n 0, 1) := dk_42 (dk_at dksX4_counts_2 7 rfl rfl)
theorem dX4_counts_55 : decode cX4_counts 55 = .ok (.getfield 83, 3) := dk_180 0 83 (dk_at dksX4_counts_2 8 rfl rfl)
theorem dX4_counts_58 : decode cX4_counts 58 = .ok (.iload_n 3, 1) := dk_29 (dk_at dksX4_counts_2 11 rfl rfl)
theorem dX4_counts_59 : decode cX4_counts 59 = .ok (.iaload, 1) := dk_46 (dk_at dksX4_counts_2 12 rfl rfl)
theorem dX4_counts_60 : decode cX4_counts 60 = .ok (.if_icmp .ge 36, 3) := dk_162 0 36 (dk_at dksX4_counts_2 13 rfl rfl)
theorem dX4_counts_63 : decode cX4_counts 63 = .ok (.iload 4, 2) := dk_21 4 (dk_at dksX4_counts_2 16 rfl rfl)
theorem dX4_counts_65 : decode cX4_counts 65 = .ok (.ifCond .ne 18, 3) := dk_154 0 18 (dk_at dksX4_counts_2 18 rfl rfl)
theorem dX4_counts_68 : decode cX4_counts 68 = .ok (.aload_n 0, 1) := dk_42 (dk_at dksX4_counts_2 21 rfl rfl)
theorem dX4_counts_69 : decode cX4_counts 69 = .ok (.getfield 80, 3) := dk_180 0 80 (dk_at dksX4_counts_3 0 rfl rfl)
theorem dX4_counts_72 : decode cX4_counts 72 = .ok (.iload_n 3, 1) := dk_29 (dk_at dksX4_counts_3 3 rfl rfl)
theorem dX4_counts_73 : decode cX4_counts 73 = .ok (.aaload, 1) := dk_50 (dk_at dksX4_counts_3 4 rfl rfl)
theorem dX4_counts_74 : decode cX4_counts 74 = .ok (.iload 5, 2) := dk_21 5 (dk_at dksX4_counts_3 5 rfl rfl)
theorem dX4_counts_76 : decode cX4_counts 76 = .ok (.iaload, 1) := dk_46 (dk_at dksX4_counts_3 7 rfl rfl)
theorem dX4_counts_77 : decode cX4_counts 77 = .ok (.iconst 2, 1) := dk_5 (dk_at dksX4_counts_3 8 rfl rfl)
theorem dX4_counts_78 : decode cX4_counts 78 = .ok (.idiv, 1) := dk_108 (dk_at dksX4_counts_3 9 rfl rfl)
theorem dX4_counts_79 : decode cX4_counts 79 = .ok (.iload_n 1, 1) := dk_27 (dk_at dksX4_counts_3 10 rfl rfl)
theorem dX4_counts_80 : decode cX4_counts 80 = .ok (.if_icmp .ne 7, 3) := dk_160 0 7 (dk_at dksX4_counts_3 11 rfl rfl)
theorem dX4_counts_83 : decode cX4_counts 83 = .ok (.iconst 1, 1) := dk_4 (dk_at dksX4_counts_3 14 rfl rfl)
theorem dX4_counts_84 : decode cX4_counts 84 = .ok (.goto 4, 3) := dk_167 0 4 (dk_at dksX4_counts_3 15 rfl rfl)
theorem dX4_counts_87 : decode cX4_counts 87 = .ok (.iconst 0, 1) := dk_3 (dk_at dksX4_counts_3 18 rfl rfl)
theorem dX4_counts_88 : decode cX4_counts 88 = .ok (.istore 4, 2) := dk_54 4 (dk_at dksX4_counts_3 19 rfl rfl)
theorem dX4_counts_90 : decode cX4_counts 90 = .ok (.iinc 5 1, 3) := dk_132 5 1 (dk_at dksX4_counts_3 21 rfl rfl)
theorem dX4_counts_93 : decode cX4_counts 93 = .ok (.goto (-41), 3) := dk_167 255 215 (dk_at dksX4_counts_4 0 rfl rfl)
theorem dX4_counts_96 : decode cX4_counts 96 = .ok (.iload_n 2, 1) := dk_28 (dk_at dksX4_counts_4 3 rfl rfl)
theorem dX4_counts_97 : decode cX4_counts 97 = .ok (.iload 4, 2) := dk_21 4 (dk_at dksX4_counts_4 4 rfl rfl)
theorem dX4_counts_99 : decode cX4_counts 99 = .ok (.ifCond .eq 7, 3) := dk_153 0 7 (dk_at dksX4_counts_4 6 rfl rfl)
theorem dX4_counts_102 : decode cX4_counts 102 = .ok (.iconst 1, 1) := dk_4 (dk_at dksX4_counts_4 9 rfl rfl)
theorem dX4_counts_103 : decode cX4_counts 103 = .ok (.goto 4, 3) := dk_167 0 4 (dk_at dksX4_counts_4 10 rfl rfl)
theorem dX4_counts_106 : decode cX4_counts 106 = .ok (.iconst 0, 1) := dk_3 (dk_at dksX4_counts_4 13 rfl rfl)
theorem dX4_counts_107 : decode cX4_counts 107 = .ok (.iadd, 1) := dk_96 (dk_at dksX4_counts_4 14 rfl rfl)
theorem dX4_counts_108 : decode cX4_counts 108 = .ok (.istore_n 2, 1) := dk_61 (dk_at dksX4_counts_4 15 rfl rfl)
theorem dX4_counts_109 : decode cX4_counts 109 = .ok (.iinc 3 1, 3) := dk_132 3 1 (dk_at dksX4_counts_4 16 rfl rfl)
theorem dX4_counts_112 : decode cX4_counts 112 = .ok (.goto (-76), 3) := dk_167 255 180 (dk_at dksX4_counts_4 19 rfl rfl)
theorem dX4_counts_115 : decode cX4_counts 115 = .ok (.iload_n 2, 1) := dk_28 (dk_at dksX4_counts_4 22 rfl rfl)
theorem dX4_counts_116 : decode cX4_counts 116 = .ok (.ireturn, 1) := dk_172 (dk_at dksX4_counts_4 23 rfl rfl)
abbrev cX4_tell : ByteArray := prog_10_method_96_code
def yX4_tell : MethodName := ⟨RX4, "tell", "(I)I"⟩
def dkwX4_tell_2 : List UInt8 := [27, 79, 42, 89, 180, 0, 241, 4, 96, 181, 0, 241, 42, 180, 0, 241, 172]
abbrev dktX4_tell_2 : List UInt8 := dkwX4_tell_2 ++ []
def dkwX4_tell_1 : List UInt8 := [153, 0, 5, 3, 172, 42, 180, 0, 241, 16, 12, 160, 0, 5, 2, 172, 42, 180, 0, 74, 42, 180, 0, 241]
abbrev dktX4_tell_1 : List UInt8 := dkwX4_tell_1 ++ dktX4_tell_2
def dkwX4_tell_0 : List UInt8 := [42, 3, 181, 0, 131, 42, 42, 27, 182, 1, 51, 154, 0, 7, 4, 167, 0, 4, 3, 4, 182, 0, 227]
abbrev dktX4_tell_0 : List UInt8 := dkwX4_tell_0 ++ dktX4_tell_1
theorem dksX4_tell_0 : cX4_tell.data.toList.drop 0 = dktX4_tell_0 := by decide +kernel
theorem dksX4_tell_1 : cX4_tell.data.toList.drop 23 = dktX4_tell_1 := dk_seg dksX4_tell_0 23 rfl rfl
theorem dksX4_tell_2 : cX4_tell.data.toList.drop 47 = dktX4_tell_2 := dk_seg dksX4_tell_1 24 rfl rfl
theorem dX4_tell_0 : decode cX4_tell 0 = .ok (.aload_n 0, 1) := dk_42 (dk_at dksX4_tell_0 0 rfl rfl)
theorem dX4_tell_1 : decode cX4_tell 1 = .ok (.iconst 0, 1) := dk_3 (dk_at dksX4_tell_0 1 rfl rfl)
theorem dX4_tell_2 : decode cX4_tell 2 = .ok (.putfield 131, 3) := dk_181 0 131 (dk_at dksX4_tell_0 2 rfl rfl)
theorem dX4_tell_5 : decode cX4_tell 5 = .ok (.aload_n 0, 1) := dk_42 (dk_at dksX4_tell_0 5 rfl rfl)
theorem dX4_tell_6 : decode cX4_tell 6 = .ok (.aload_n 0, 1) := dk_42 (dk_at dksX4_tell_0 6 rfl rfl)
theorem dX4_tell_7 : decode cX4_tell 7 = .ok (.iload_n 1, 1) := dk_27 (dk_at dksX4_tell_0 7 rfl rfl)
theorem dX4_tell_8 : decode cX4_tell 8 = .ok (.invokevirtual 307, 3) := dk_182 1 51 (dk_at dksX4_tell_0 8 rfl rfl)
theorem dX4_tell_11 : decode cX4_tell 11 = .ok (.ifCond .ne 7, 3) := dk_154 0 7 (dk_at dksX4_tell_0 11 rfl rfl)
theorem dX4_tell_14 : decode cX4_tell 14 = .ok (.iconst 1, 1) := dk_4 (dk_at dksX4_tell_0 14 rfl rfl)
theorem dX4_tell_15 : decode cX4_tell 15 = .ok (.goto 4, 3) := dk_167 0 4 (dk_at dksX4_tell_0 15 rfl rfl)
theorem dX4_tell_18 : decode cX4_tell 18 = .ok (.iconst 0, 1) := dk_3 (dk_at dksX4_tell_0 18 rfl rfl)
theorem dX4_tell_19 : decode cX4_tell 19 = .ok (.iconst 1, 1) := dk_4 (dk_at dksX4_tell_0 19 rfl rfl)
theorem dX4_tell_20 : decode cX4_tell 20 = .ok (.invokevirtual 227, 3) := dk_182 0 227 (dk_at dksX4_tell_0 20 rfl rfl)
theorem dX4_tell_23 : decode cX4_tell 23 = .ok (.ifCond .eq 5, 3) := dk_153 0 5 (dk_at dksX4_tell_1 0 rfl rfl)
theorem dX4_tell_26 : decode cX4_tell 26 = .ok (.iconst 0, 1) := dk_3 (dk_at dksX4_tell_1 3 rfl rfl)
theorem dX4_tell_27 : decode cX4_tell 27 = .ok (.ireturn, 1) := dk_172 (dk_at dksX4_tell_1 4 rfl rfl)
theorem dX4_tell_28 : decode cX4_tell 28 = .ok (.aload_n 0, 1) := dk_42 (dk_at dksX4_tell_1 5 rfl rfl)
theorem dX4_tell_29 : decode cX4_tell 29 = .ok (.getfield 241, 3) := dk_180 0 241 (dk_at dksX4_tell_1 6 rfl rfl)
theorem dX4_tell_32 : decode cX4_tell 32 = .ok (.bipush 12, 2) := dk_16 12 (dk_at dksX4_tell_1 9 rfl rfl)
theorem dX4_tell_34 : decode cX4_tell 34 = .ok (.if_icmp .ne 5, 3) := dk_160 0 5 (dk_at dksX4_tell_1 11 rfl rfl)
theorem dX4_tell_37 : decode cX4_tell 37 = .ok (.iconst (-1), 1) := dk_2 (dk_at dksX4_tell_1 14 rfl rfl)
theorem dX4_tell_38 : decode cX4_tell 38 = .ok (.ireturn, 1) := dk_172 (dk_at dksX4_tell_1 15 rfl rfl)
theorem dX4_tell_39 : decode cX4_tell 39 = .ok (.aload_n 0, 1) := dk_42 (dk_at dksX4_tell_1 16 rfl rfl)
theorem dX4_tell_40 : decode cX4_tell 40 = .ok (.getfield 74, 3) := dk_180 0 74 (dk_at dksX4_tell_1 17 rfl rfl)
theorem dX4_tell_43 : decode cX4_tell 43 = .ok (.aload_n 0, 1) := dk_42 (dk_at dksX4_tell_1 20 rfl rfl)
theorem dX4_tell_44 : decode cX4_tell 44 = .ok (.getfield 241, 3) := dk_180 0 241 (dk_at dksX4_tell_1 21 rfl rfl)
theorem dX4_tell_47 : decode cX4_tell 47 = .ok (.iload_n 1, 1) := dk_27 (dk_at dksX4_tell_2 0 rfl rfl)
theorem dX4_tell_48 : decode cX4_tell 48 = .ok (.iastore, 1) := dk_79 (dk_at dksX4_tell_2 1 rfl rfl)
theorem dX4_tell_49 : decode cX4_tell 49 = .ok (.aload_n 0, 1) := dk_42 (dk_at dksX4_tell_2 2 rfl rfl)
theorem dX4_tell_50 : decode cX4_tell 50 = .ok (.dup, 1) := dk_89 (dk_at dksX4_tell_2 3 rfl rfl)
theorem dX4_tell_51 : decode cX4_tell 51 = .ok (.getfield 241, 3) := dk_180 0 241 (dk_at dksX4_tell_2 4 rfl rfl)
theorem dX4_tell_54 : decode cX4_tell 54 = .ok (.iconst 1, 1) := dk_4 (dk_at dksX4_tell_2 7 rfl rfl)
theorem dX4_tell_55 : decode cX4_tell 55 = .ok (.iadd, 1) := dk_96 (dk_at dksX4_tell_2 8 rfl rfl)
theorem dX4_tell_56 : decode cX4_tell 56 = .ok (.putfield 241, 3) := dk_181 0 241 (dk_at dksX4_tell_2 9 rfl rfl)
theorem dX4_tell_59 : decode cX4_tell 59 = .ok (.aload_n 0, 1) := dk_42 (dk_at dksX4_tell_2 12 rfl rfl)
theorem dX4_tell_60 : decode cX4_tell 60 = .ok (.getfield 241, 3) := dk_180 0 241 (dk_at dksX4_tell_2 13 rfl rfl)
theorem dX4_tell_63 : decode cX4_tell 63 = .ok (.ireturn, 1) := dk_172 (dk_at dksX4_tell_2 16 rfl rfl)
abbrev cX4_forget : ByteArray := prog_10_method_97_code
def yX4_forget : MethodName := ⟨RX4, "forget", "()I"⟩
def dkwX4_forget_0 : List UInt8 := [42, 3, 181, 0, 131, 42, 180, 0, 241, 60, 42, 3, 181, 0, 241, 27, 172]
abbrev dktX4_forget_0 : List UInt8 := dkwX4_forget_0 ++ []
theorem dksX4_forget_0 : cX4_forget.data.toList.drop 0 = dktX4_forget_0 := by decide +kernel
theorem dX4_forget_0 : decode cX4_forget 0 = .ok (.aload_n 0, 1) := dk_42 (dk_at dksX4_forget_0 0 rfl rfl)
theorem dX4_forget_1 : decode cX4_forget 1 = .ok (.iconst 0, 1) := dk_3 (dk_at dksX4_forget_0 1 rfl rfl)
theorem dX4_forget_2 : decode cX4_forget 2 = .ok (.putfield 131, 3) := dk_181 0 131 (dk_at dksX4_forget_0 2 rfl rfl)
theorem dX4_forget_5 : decode cX4_forget 5 = .ok (.aload_n 0, 1) := dk_42 (dk_at dksX4_forget_0 5 rfl rfl)
theorem dX4_forget_6 : decode cX4_forget 6 = .ok (.getfield 241, 3) := dk_180 0 241 (dk_at dksX4_forget_0 6 rfl rfl)
theorem dX4_forget_9 : decode cX4_forget 9 = .ok (.istore_n 1, 1) := dk_60 (dk_at dksX4_forget_0 9 rfl rfl)
theorem dX4_forget_10 : decode cX4_forget 10 = .ok (.aload_n 0, 1) := dk_42 (dk_at dksX4_forget_0 10 rfl rfl)
theorem dX4_forget_11 : decode cX4_forget 11 = .ok (.iconst 0, 1) := dk_3 (dk_at dksX4_forget_0 11 rfl rfl)
theorem dX4_forget_12 : decode cX4_forget 12 = .ok (.putfield 241, 3) := dk_181 0 241 (dk_at dksX4_forget_0 12 rfl rfl)
theorem dX4_forget_15 : decode cX4_forget 15 = .ok (.iload_n 1, 1) := dk_27 (dk_at dksX4_forget_0 15 rfl rfl)
theorem dX4_forget_16 : decode cX4_forget 16 = .ok (.ireturn, 1) := dk_172 (dk_at dksX4_forget_0 16 rfl rfl)
abbrev cX4_breaks : ByteArray := prog_10_method_98_code
def yX4_breaks : MethodName := ⟨RX4, "breaks", "(II)J"⟩
def dkwX4_breaks_3 : List UInt8 := [28, 154, 0, 11, 42, 180, 1, 137, 133, 167, 0, 7, 42, 180, 1, 142, 173]
abbrev dktX4_breaks_3 : List UInt8 := dkwX4_breaks_3 ++ []
def dkwX4_breaks_2 : List UInt8 := [27, 182, 1, 19, 42, 182, 1, 134, 42, 180, 1, 137, 19, 1, 38, 160, 0, 9, 20, 1, 140, 167, 0, 19]
abbrev dktX4_breaks_2 : List UInt8 := dkwX4_breaks_2 ++ dktX4_breaks_3
def dkwX4_breaks_1 : List UInt8 := [167, 0, 4, 3, 4, 182, 0, 227, 153, 0, 5, 9, 173, 42, 180, 0, 241, 5, 162, 0, 5, 9, 173, 42]
abbrev dktX4_breaks_1 : List UInt8 := dkwX4_breaks_1 ++ dktX4_breaks_2
def dkwX4_breaks_0 : List UInt8 := [42, 3, 181, 0, 131, 42, 42, 27, 182, 1, 25, 153, 0, 12, 28, 3, 4, 184, 0, 165, 154, 0, 7, 4]
abbrev dktX4_breaks_0 : List UInt8 := dkwX4_breaks_0 ++ dktX4_breaks_1
theorem dksX4_breaks_0 : cX4_breaks.data.toList.drop 0 = dktX4_breaks_0 := by decide +kernel
theorem dksX4_breaks_1 : cX4_breaks.data.toList.drop 24 = dktX4_breaks_1 := dk_seg dksX4_breaks_0 24 rfl rfl
theorem dksX4_breaks_2 : cX4_breaks.data.toList.drop 48 = dktX4_breaks_2 := dk_seg dksX4_breaks_1 24 rfl rfl
theorem dksX4_breaks_3 : cX4_breaks.data.toList.drop 72 = dktX4_breaks_3 := dk_seg dksX4_breaks_2 24 rfl rfl
theorem dX4_breaks_0 : decode cX4_breaks 0 = .ok (.aload_n 0, 1) := dk_42 (dk_at dksX4_breaks_0 0 rfl rfl)
theorem dX4_breaks_1 : decode cX4_breaks 1 = .ok (.iconst 0, 1) := dk_3 (dk_at dksX4_breaks_0 1 rfl rfl)
theorem dX4_breaks_2 : decode cX4_breaks 2 = .ok (.putfield 131, 3) := dk_181 0 131 (dk_at dksX4_breaks_0 2 rfl rfl)
theorem dX4_breaks_5 : decode cX4_breaks 5 = .ok (.aload_n 0, 1) := dk_42 (dk_at dksX4_breaks_0 5 rfl rfl)
theorem dX4_breaks_6 : decode cX4_breaks 6 = .ok (.aload_n 0, 1) := dk_42 (dk_at dksX4_breaks_0 6 rfl rfl)
theorem dX4_breaks_7 : decode cX4_breaks 7 = .ok (.iload_n 1, 1) := dk_27 (dk_at dksX4_breaks_0 7 rfl rfl)
theorem dX4_breaks_8 : decode cX4_breaks 8 = .ok (.invokevirtual 281, 3) := dk_182 1 25 (dk_at dksX4_breaks_0 8 rfl rfl)
theorem dX4_breaks_11 : decode cX4_breaks 11 = .ok (.ifCond .eq 12, 3) := dk_153 0 12 (dk_at dksX4_breaks_0 11 rfl rfl)
theorem dX4_breaks_14 : decode cX4_breaks 14 = .ok (.iload_n 2, 1) := dk_28 (dk_at dksX4_breaks_0 14 rfl rfl)
theorem dX4_breaks_15 : decode cX4_breaks 15 = .ok (.iconst 0, 1) := dk_3 (dk_at dksX4_breaks_0 15 rfl rfl)
theorem dX4_breaks_16 : decode cX4_breaks 16 = .ok (.iconst 1, 1) := dk_4 (dk_at dksX4_breaks_0 16 rfl rfl)
theorem dX4_breaks_17 : decode cX4_breaks 17 = .ok (.invokestatic 165, 3) := dk_184 0 165 (dk_at dksX4_breaks_0 17 rfl rfl)
theorem dX4_breaks_20 : decode cX4_breaks 20 = .ok (.ifCond .ne 7, 3) := dk_154 0 7 (dk_at dksX4_breaks_0 20 rfl rfl)
theorem dX4_breaks_23 : decode cX4_breaks 23 = .ok (.iconst 1, 1) := dk_4 (dk_at dksX4_breaks_0 23 rfl rfl)
theorem dX4_breaks_24 : decode cX4_breaks 24 = .ok (.goto 4, 3) := dk_167 0 4 (dk_at dksX4_breaks_1 0 rfl rfl)
theorem dX4_breaks_27 : decode cX4_breaks 27 = .ok (.iconst 0, 1) := dk_3 (dk_at dksX4_breaks_1 3 rfl rfl)
theorem dX4_breaks_28 : decode cX4_breaks 28 = .ok (.iconst 1, 1) := dk_4 (dk_at dksX4_breaks_1 4 rfl rfl)
theorem dX4_breaks_29 : decode cX4_breaks 29 = .ok (.invokevirtual 227, 3) := dk_182 0 227 (dk_at dksX4_breaks_1 5 rfl rfl)
theorem dX4_breaks_32 : decode cX4_breaks 32 = .ok (.ifCond .eq 5, 3) := dk_153 0 5 (dk_at dksX4_breaks_1 8 rfl rfl)
theorem dX4_breaks_35 : decode cX4_breaks 35 = .ok (.lconst 0, 1) := dk_9 (dk_at dksX4_breaks_1 11 rfl rfl)
theorem dX4_breaks_36 : decode cX4_breaks 36 = .ok (.lreturn, 1) := dk_173 (dk_at dksX4_breaks_1 12 rfl rfl)
theorem dX4_breaks_37 : decode cX4_breaks 37 = .ok (.aload_n 0, 1) := dk_42 (dk_at dksX4_breaks_1 13 rfl rfl)
theorem dX4_breaks_38 : decode cX4_breaks 38 = .ok (.getfield 241, 3) := dk_180 0 241 (dk_at dksX4_breaks_1 14 rfl rfl)
theorem dX4_breaks_41 : decode cX4_breaks 41 = .ok (.iconst 2, 1) := dk_5 (dk_at dksX4_breaks_1 17 rfl rfl)
theorem dX4_breaks_42 : decode cX4_breaks 42 = .ok (.if_icmp .ge 5, 3) := dk_162 0 5 (dk_at dksX4_breaks_1 18 rfl rfl)
theorem dX4_breaks_45 : decode cX4_breaks 45 = .ok (.lconst 0, 1) := dk_9 (dk_at dksX4_breaks_1 21 rfl rfl)
theorem dX4_breaks_46 : decode cX4_breaks 46 = .ok (.lreturn, 1) := dk_173 (dk_at dksX4_breaks_1 22 rfl rfl)
theorem dX4_breaks_47 : decode cX4_breaks 47 = .ok (.aload_n 0, 1) := dk_42 (dk_at dksX4_breaks_1 23 rfl rfl)
theorem dX4_breaks_48 : decode cX4_breaks 48 = .ok (.iload_n 1, 1) := dk_27 (dk_at dksX4_breaks_2 0 rfl rfl)
theorem dX4_breaks_49 : decode cX4_breaks 49 = .ok (.invokevirtual 275, 3) := dk_182 1 19 (dk_at dksX4_breaks_2 1 rfl rfl)
theorem dX4_breaks_52 : decode cX4_breaks 52 = .ok (.aload_n 0, 1) := dk_42 (dk_at dksX4_breaks_2 4 rfl rfl)
theorem dX4_breaks_53 : decode cX4_breaks 53 = .ok (.invokevirtual 390, 3) := dk_182 1 134 (dk_at dksX4_breaks_2 5 rfl rfl)
theorem dX4_breaks_56 : decode cX4_breaks 56 = .ok (.aload_n 0, 1) := dk_42 (dk_at dksX4_breaks_2 8 rfl rfl)
theorem dX4_breaks_57 : decode cX4_breaks 57 = .ok (.getfield 393, 3) := dk_180 1 137 (dk_at dksX4_breaks_2 9 rfl rfl)
theorem dX4_breaks_60 : decode cX4_breaks 60 = .ok (.ldc_w 294, 3) := dk_19 1 38 (dk_at dksX4_breaks_2 12 rfl rfl)
theorem dX4_breaks_63 : decode cX4_breaks 63 = .ok (.if_icmp .ne 9, 3) := dk_160 0 9 (dk_at dksX4_breaks_2 15 rfl rfl)
theorem dX4_breaks_66 : decode cX4_breaks 66 = .ok (.ldc2_w 396, 3) := dk_20 1 140 (dk_at dksX4_breaks_2 18 rfl rfl)
theorem dX4_breaks_69 : decode cX4_breaks 69 = .ok (.goto 19, 3) := dk_167 0 19 (dk_at dksX4_breaks_2 21 rfl rfl)
theorem dX4_breaks_72 : decode cX4_breaks 72 = .ok (.iload_n 2, 1) := dk_28 (dk_at dksX4_breaks_3 0 rfl rfl)
theorem dX4_breaks_73 : decode cX4_breaks 73 = .ok (.ifCond .ne 11, 3) := dk_154 0 11 (dk_at dksX4_breaks_3 1 rfl rfl)
theorem dX4_breaks_76 : decode cX4_breaks 76 = .ok (.aload_n 0, 1) := dk_42 (dk_at dksX4_breaks_3 4 rfl rfl)
theorem dX4_breaks_77 : decode cX4_breaks 77 = .ok (.getfield 393, 3) := dk_180 1 137 (dk_at dksX4_breaks_3 5 rfl rfl)
theorem dX4_breaks_80 : decode cX4_breaks 80 = .ok (.i2l, 1) := dk_133 (dk_at dksX4_breaks_3 8 rfl rfl)
theorem dX4_breaks_81 : decode cX4_breaks 81 = .ok (.goto 7, 3) := dk_167 0 7 (dk_at dksX4_breaks_3 9 rfl rfl)
theorem dX4_breaks_84 : decode cX4_breaks 84 = .ok (.aload_n 0, 1) := dk_42 (dk_at dksX4_breaks_3 12 rfl rfl)
theorem dX4_breaks_85 : decode cX4_breaks 85 = .ok (.getfield 398, 3) := dk_180 1 142 (dk_at dksX4_breaks_3 13 rfl rfl)
theorem dX4_breaks_88 : decode cX4_breaks 88 = .ok (.lreturn, 1) := dk_173 (dk_at dksX4_breaks_3 16 rfl rfl)
abbrev cX4_findBreaks : ByteArray := prog_10_method_99_code
def yX4_findBreaks : MethodName := ⟨RX4, "findBreaks", "()V"⟩
def dkwX4_findBreaks_8 : List UInt8 := [181, 1, 137, 132, 1, 1, 167, 255, 166, 177]
abbrev dktX4_findBreaks_8 : List UInt8 := dkwX4_findBreaks_8 ++ []
def dkwX4_findBreaks_7 : List UInt8 := [167, 0, 14, 42, 180, 1, 142, 42, 180, 0, 122, 27, 47, 97, 181, 1, 142, 42, 42, 180, 0, 116, 27, 46]
abbrev dktX4_findBreaks_7 : List UInt8 := dkwX4_findBreaks_7 ++ dktX4_findBreaks_8
def dkwX4_findBreaks_6 : List UInt8 := [167, 0, 50, 42, 42, 180, 0, 116, 27, 46, 42, 180, 1, 137, 162, 0, 12, 42, 180, 0, 122, 27, 47]
abbrev dktX4_findBreaks_6 : List UInt8 := dkwX4_findBreaks_6 ++ dktX4_findBreaks_7
def dkwX4_findBreaks_5 : List UInt8 := [180, 0, 116, 27, 46, 42, 180, 1, 137, 163, 0, 65, 42, 180, 0, 116, 27, 46, 19, 1, 38, 160, 0, 6]
abbrev dktX4_findBreaks_5 : List UInt8 := dkwX4_findBreaks_5 ++ dktX4_findBreaks_6
def dkwX4_findBreaks_4 : List UInt8 := [181, 1, 137, 42, 9, 181, 1, 142, 3, 60, 27, 5, 42, 180, 0, 20, 4, 46, 104, 162, 0, 84, 42]
abbrev dktX4_findBreaks_4 : List UInt8 := dkwX4_findBreaks_4 ++ dktX4_findBreaks_5
def dkwX4_findBreaks_3 : List UInt8 := [180, 0, 125, 28, 47, 80, 132, 2, 1, 167, 255, 217, 132, 1, 1, 167, 255, 173, 42, 19, 1, 38]
abbrev dktX4_findBreaks_3 : List UInt8 := dkwX4_findBreaks_3 ++ dktX4_findBreaks_4
def dkwX4_findBreaks_2 : List UInt8 := [46, 104, 162, 0, 33, 42, 180, 0, 116, 28, 42, 180, 0, 119, 28, 46, 79, 42, 180, 0, 122, 28, 42]
abbrev dktX4_findBreaks_2 : List UInt8 := dkwX4_findBreaks_2 ++ dktX4_findBreaks_3
def dkwX4_findBreaks_1 : List UInt8 := [162, 0, 15, 42, 27, 28, 182, 1, 146, 132, 2, 1, 167, 255, 235, 3, 61, 28, 5, 42, 180, 0, 20, 4]
abbrev dktX4_findBreaks_1 : List UInt8 := dkwX4_findBreaks_1 ++ dktX4_findBreaks_2
def dkwX4_findBreaks_0 : List UInt8 := [3, 60, 27, 4, 96, 42, 180, 0, 241, 162, 0, 79, 3, 61, 28, 5, 42, 180, 0, 20, 4, 46, 104]
abbrev dktX4_findBreaks_0 : List UInt8 := dkwX4_findBreaks_0 ++ dktX4_findBreaks_1
theorem dksX4_findBreaks_0 : cX4_findBreaks.data.toList.drop 0 = dktX4_findBreaks_0 := by decide +kernel
theorem dksX4_findBreaks_1 : cX4_findBreaks.data.toList.drop 23 = dktX4_findBreaks_1 := dk_seg dksX4_findBreaks_0 23 rfl rfl
theorem dksX4_findBreaks_2 : cX4_findBreaks.data.toList.drop 47 = dktX4_findBreaks_2 := dk_seg dksX4_findBreaks_1 24 rfl rfl
theorem dksX4_findBreaks_3 : cX4_findBreaks.data.toList.drop 70 = dktX4_findBreaks_3 := dk_seg dksX4_findBreaks_2 23 rfl rfl
theorem dksX4_findBreaks_4 : cX4_findBreaks.data.toList.drop 92 = dktX4_findBreaks_4 := dk_seg dksX4_findBreaks_3 22 rfl rfl
theorem dksX4_findBreaks_5 : cX4_findBreaks.data.toList.drop 115 = dktX4_findBreaks_5 := dk_seg dksX4_findBreaks_4 23 rfl rfl
theorem dksX4_findBreaks_6 : cX4_findBreaks.data.toList.drop 139 = dktX4_findBreaks_6 := dk_seg dksX4_findBreaks_5 24 rfl rfl
theorem dksX4_findBreaks_7 : cX4_findBreaks.data.toList.drop 162 = dktX4_findBreaks_7 := dk_seg dksX4_findBreaks_6 23 rfl rfl
theorem dksX4_findBreaks_8 : cX4_findBreaks.data.toList.drop 186 = dktX4_findBreaks_8 := dk_seg dksX4_findBreaks_7 24 rfl rfl
theorem dX4_findBreaks_0 : decode cX4_findBreaks 0 = .ok (.iconst 0, 1) := dk_3 (dk_at dksX4_findBreaks_0 0 rfl rfl)
theorem dX4_findBreaks_1 : decode cX4_findBreaks 1 = .ok (.istore_n 1, 1) := dk_60 (dk_at dksX4_findBreaks_0 1 rfl rfl)
theorem dX4_findBreaks_2 : decode cX4_findBreaks 2 = .ok (.iload_n 1, 1) := dk_27 (dk_at dksX4_findBreaks_0 2 rfl rfl)
theorem dX4_findBreaks_3 : decode cX4_findBreaks 3 = .ok (.iconst 1, 1) := dk_4 (dk_at dksX4_findBreaks_0 3 rfl rfl)
theorem dX4_findBreaks_4 : decode cX4_findBreaks 4 = .ok (.iadd, 1) := dk_96 (dk_at dksX4_findBreaks_0 4 rfl rfl)
theorem dX4_findBreaks_5 : decode cX4_findBreaks 5 = .ok (.aload_n 0, 1) := dk_42 (dk_at dksX4_findBreaks_0 5 rfl rfl)
theorem dX4_findBreaks_6 : decode cX4_findBreaks 6 = .ok (.getfield 241, 3) := dk_180 0 241 (dk_at dksX4_findBreaks_0 6 rfl rfl)
theorem dX4_findBreaks_9 : decode cX4_findBreaks 9 = .ok (.if_icmp .ge 79, 3) := dk_162 0 79 (dk_at dksX4_findBreaks_0 9 rfl rfl)
theorem dX4_findBreaks_12 : decode cX4_findBreaks 12 = .ok (.iconst 0, 1) := dk_3 (dk_at dksX4_findBreaks_0 12 rfl rfl)
theorem dX4_findBreaks_13 : decode cX4_findBreaks 13 = .ok (.istore_n 2, 1) := dk_61 (dk_at dksX4_findBreaks_0 13 rfl rfl)
theorem dX4_findBreaks_14 : decode cX4_findBreaks 14 = .ok (.iload_n 2, 1) := dk_28 (dk_at dksX4_findBreaks_0 14 rfl rfl)
theorem dX4_findBreaks_15 : decode cX4_findBreaks 15 = .ok (.iconst 2, 1) := dk_5 (dk_at dksX4_findBreaks_0 15 rfl rfl)
theorem dX4_findBreaks_16 : decode cX4_findBreaks 16 = .ok (.aload_n 0, 1) := dk_42 (dk_at dksX4_findBreaks_0 16 rfl rfl)
theorem dX4_findBreaks_17 : decode cX4_findBreaks 17 = .ok (.getfield 20, 3) := dk_180 0 20 (dk_at dksX4_findBreaks_0 17 rfl rfl)
theorem dX4_findBreaks_20 : decode cX4_findBreaks 20 = .ok (.iconst 1, 1) := dk_4 (dk_at dksX4_findBreaks_0 20 rfl rfl)
theorem dX4_findBreaks_21 : decode cX4_findBreaks 21 = .ok (.iaload, 1) := dk_46 (dk_at dksX4_findBreaks_0 21 rfl rfl)
theorem dX4_findBreaks_22 : decode cX4_findBreaks 22 = .ok (.imul, 1) := dk_104 (dk_at dksX4_findBreaks_0 22 rfl rfl)
theorem dX4_findBreaks_23 : decode cX4_findBreaks 23 = .ok (.if_icmp .ge 15, 3) := dk_162 0 15 (dk_at dksX4_findBreaks_1 0 rfl rfl)
theorem dX4_findBreaks_26 : decode cX4_findBreaks 26 = .ok (.aload_n 0, 1) := dk_42 (dk_at dksX4_findBreaks_1 3 rfl rfl)
theorem dX4_findBreaks_27 : decode cX4_findBreaks 27 = .ok (.iload_n 1, 1) := dk_27 (dk_at dksX4_findBreaks_1 4 rfl rfl)
theorem dX4_findBreaks_28 : decode cX4_findBreaks 28 = .ok (.iload_n 2, 1) := dk_28 (dk_at dksX4_findBreaks_1 5 rfl rfl)
theorem dX4_findBreaks_29 : decode cX4_findBreaks 29 = .ok (.invokevirtual 402, 3) := dk_182 1 146 (dk_at dksX4_findBreaks_1 6 rfl rfl)
theorem dX4_findBreaks_32 : decode cX4_findBreaks 32 = .ok (.iinc 2 1, 3) := dk_132 2 1 (dk_at dksX4_findBreaks_1 9 rfl rfl)
theorem dX4_findBreaks_35 : decode cX4_findBreaks 35 = .ok (.goto (-21), 3) := dk_167 255 235 (dk_at dksX4_findBreaks_1 12 rfl rfl)
theorem dX4_findBreaks_38 : decode cX4_findBreaks 38 = .ok (.iconst 0, 1) := dk_3 (dk_at dksX4_findBreaks_1 15 rfl rfl)
theorem dX4_findBreaks_39 : decode cX4_findBreaks 39 = .ok (.istore_n 2, 1) := dk_61 (dk_at dksX4_findBreaks_1 16 rfl rfl)
theorem dX4_findBreaks_40 : decode cX4_findBreaks 40 = .ok (.iload_n 2, 1) := dk_28 (dk_at dksX4_findBreaks_1 17 rfl rfl)
theorem dX4_findBreaks_41 : decode cX4_findBreaks 41 = .ok (.iconst 2, 1) := dk_5 (dk_at dksX4_findBreaks_1 18 rfl rfl)
theorem dX4_findBreaks_42 : decode cX4_findBreaks 42 = .ok (.aload_n 0, 1) := dk_42 (dk_at dksX4_findBreaks_1 19 rfl rfl)
theorem dX4_findBreaks_43 : decode cX4_findBreaks 43 = .ok (.getfield 20, 3) := dk_180 0 20 (dk_at dksX4_findBreaks_1 20 rfl rfl)
theorem dX4_findBreaks_46 : decode cX4_findBreaks 46 = .ok (.iconst 1, 1) := dk_4 (dk_at dksX4_findBreaks_1 23 rfl rfl)
theorem dX4_findBreaks_47 : decode cX4_findBreaks 47 = .ok (.iaload, 1) := dk_46 (dk_at dksX4_findBreaks_2 0 rfl rfl)
theorem dX4_findBreaks_48 : decode cX4_findBreaks 48 = .ok (.imul, 1) := dk_104 (dk_at dksX4_findBreaks_2 1 rfl rfl)
theorem dX4_findBreaks_49 : decode cX4_findBreaks 49 = .ok (.if_icmp .ge 33, 3) := dk_162 0 33 (dk_at dksX4_findBreaks_2 2 rfl rfl)
theorem dX4_findBreaks_52 : decode cX4_findBreaks 52 = .ok (.aload_n 0, 1) := dk_42 (dk_at dksX4_findBreaks_2 5 rfl rfl)
theorem dX4_findBreaks_53 : decode cX4_findBreaks 53 = .ok (.getfield 116, 3) := dk_180 0 116 (dk_at dksX4_findBreaks_2 6 rfl rfl)
theorem dX4_findBreaks_56 : decode cX4_findBreaks 56 = .ok (.iload_n 2, 1) := dk_28 (dk_at dksX4_findBreaks_2 9 rfl rfl)
theorem dX4_findBreaks_57 : decode cX4_findBreaks 57 = .ok (.aload_n 0, 1) := dk_42 (dk_at dksX4_findBreaks_2 10 rfl rfl)
theorem dX4_findBreaks_58 : decode cX4_findBreaks 58 = .ok (.getfield 119, 3) := dk_180 0 119 (dk_at dksX4_findBreaks_2 11 rfl rfl)
theorem dX4_findBreaks_61 : decode cX4_findBreaks 61 = .ok (.iload_n 2, 1) := dk_28 (dk_at dksX4_findBreaks_2 14 rfl rfl)
theorem dX4_findBreaks_62 : decode cX4_findBreaks 62 = .ok (.iaload, 1) := dk_46 (dk_at dksX4_findBreaks_2 15 rfl rfl)
theorem dX4_findBreaks_63 : decode cX4_findBreaks 63 = .ok (.iastore, 1) := dk_79 (dk_at dksX4_findBreaks_2 16 rfl rfl)
theorem dX4_findBreaks_64 : decode cX4_findBreaks 64 = .ok (.aload_n 0, 1) := dk_42 (dk_at dksX4_findBreaks_2 17 rfl rfl)
theorem dX4_findBreaks_65 : decode cX4_findBreaks 65 = .ok (.getfield 122, 3) := dk_180 0 122 (dk_at dksX4_findBreaks_2 18 rfl rfl)
theorem dX4_findBreaks_68 : decode cX4_findBreaks 68 = .ok (.iload_n 2, 1) := dk_28 (dk_at dksX4_findBreaks_2 21 rfl rfl)
theorem dX4_findBreaks_69 : decode cX4_findBreaks 69 = .ok (.aload_n 0, 1) := dk_42 (dk_at dksX4_findBreaks_2 22 rfl rfl)
theorem dX4_findBreaks_70 : decode cX4_findBreaks 70 = .ok (.getfield 125, 3) := dk_180 0 125 (dk_at dksX4_findBreaks_3 0 rfl rfl)
theorem dX4_findBreaks_73 : decode cX4_findBreaks 73 = .ok (.iload_n 2, 1) := dk_28 (dk_at dksX4_findBreaks_3 3 rfl rfl)
theorem dX4_findBreaks_74 : decode cX4_findBreaks 74 = .ok (.laload, 1) := dk_47 (dk_at dksX4_findBreaks_3 4 rfl rfl)
theorem dX4_findBreaks_75 : decode cX4_findBreaks 75 = .ok (.lastore, 1) := dk_80 (dk_at dksX4_findBreaks_3 5 rfl rfl)
theorem dX4_findBreaks_76 : decode cX4_findBreaks 76 = .ok (.iinc 2 1, 3) := dk_132 2 1 (dk_at dksX4_findBreaks_3 6 rfl rfl)
theorem dX4_findBreaks_79 : decode cX4_findBreaks 79 = .ok (.goto (-39), 3) := dk_167 255 217 (dk_at dksX4_findBreaks_3 9 rfl rfl)
theorem dX4_findBreaks_82 : decode cX4_findBreaks 82 = .ok (.iinc 1 1, 3) := dk_132 1 1 (dk_at dksX4_findBreaks_3 12 rfl rfl)
theorem dX4_findBreaks_85 : decode cX4_findBreaks 85 = .ok (.goto (-83), 3) := dk_167 255 173 (dk_at dksX4_findBreaks_3 15 rfl rfl)
theorem dX4_findBreaks_88 : decode cX4_findBreaks 88 = .ok (.aload_n 0, 1) := dk_42 (dk_at dksX4_findBreaks_3 18 rfl rfl)
theorem dX4_findBreaks_89 : decode cX4_findBreaks 89 = .ok (.ldc_w 294, 3) := dk_19 1 38 (dk_at dksX4_findBreaks_3 19 rfl rfl)
theorem dX4_findBreaks_92 : decode cX4_findBreaks 92 = .ok (.putfield 393, 3) := dk_181 1 137 (dk_at dksX4_findBreaks_4 0 rfl rfl)
theorem dX4_findBreaks_95 : decode cX4_findBreaks 95 = .ok (.aload_n 0, 1) := dk_42 (dk_at dksX4_findBreaks_4 3 rfl rfl)
theorem dX4_findBreaks_96 : decode cX4_findBreaks 96 = .ok (.lconst 0, 1) := dk_9 (dk_at dksX4_findBreaks_4 4 rfl rfl)
theorem dX4_findBreaks_97 : decode cX4_findBreaks 97 = .ok (.putfield 398, 3) := dk_181 1 142 (dk_at dksX4_findBreaks_4 5 rfl rfl)
theorem dX4_findBreaks_100 : decode cX4_findBreaks 100 = .ok (.iconst 0, 1) := dk_3 (dk_at dksX4_findBreaks_4 8 rfl rfl)
theorem dX4_findBreaks_101 : decode cX4_findBreaks 101 = .ok (.istore_n 1, 1) := dk_60 (dk_at dksX4_findBreaks_4 9 rfl rfl)
theorem dX4_findBreaks_102 : decode cX4_findBreaks 102 = .ok (.iload_n 1, 1) := dk_27 (dk_at dksX4_findBreaks_4 10 rfl rfl)
theorem dX4_findBreaks_103 : decode cX4_findBreaks 103 = .ok (.iconst 2, 1) := dk_5 (dk_at dksX4_findBreaks_4 11 rfl rfl)
theorem dX4_findBreaks_104 : decode cX4_findBreaks 104 = .ok (.aload_n 0, 1) := dk_42 (dk_at dksX4_findBreaks_4 12 rfl rfl)
theorem dX4_findBreaks_105 : decode cX4_findBreaks 105 = .ok (.getfield 20, 3) := dk_180 0 20 (dk_at dksX4_findBreaks_4 13 rfl rfl)
theorem dX4_findBreaks_108 : decode cX4_findBreaks 108 = .ok (.iconst 1, 1) := dk_4 (dk_at dksX4_findBreaks_4 16 rfl rfl)
theorem dX4_findBreaks_109 : decode cX4_findBreaks 109 = .ok (.iaload, 1) := dk_46 (dk_at dksX4_findBreaks_4 17 rfl rfl)
theorem dX4_findBreaks_110 : decode cX4_findBreaks 110 = .ok (.imul, 1) := dk_104 (dk_at dksX4_findBreaks_4 18 rfl rfl)
theorem dX4_findBreaks_111 : decode cX4_findBreaks 111 = .ok (.if_icmp .ge 84, 3) := dk_162 0 84 (dk_at dksX4_findBreaks_4 19 rfl rfl)
theorem dX4_findBreaks_114 : decode cX4_findBreaks 114 = .ok (.aload_n 0, 1) := dk_42 (dk_at dksX4_findBreaks_4 22 rfl rfl)
theorem dX4_findBreaks_115 : decode cX4_findBreaks 115 = .ok (.getfield 116, 3) := dk_180 0 116 (dk_at dksX4_findBreaks_5 0 rfl rfl)
theorem dX4_findBreaks_118 : decode cX4_findBreaks 118 = .ok (.iload_n 1, 1) := dk_27 (dk_at dksX4_findBreaks_5 3 rfl rfl)
theorem dX4_findBreaks_119 : decode cX4_findBreaks 119 = .ok (.iaload, 1) := dk_46 (dk_at dksX4_findBreaks_5 4 rfl rfl)
theorem dX4_findBreaks_120 : decode cX4_findBreaks 120 = .ok (.aload_n 0, 1) := dk_42 (dk_at dksX4_findBreaks_5 5 rfl rfl)
theorem dX4_findBreaks_121 : decode cX4_findBreaks 121 = .ok (.getfield 393, 3) := dk_180 1 137 (dk_at dksX4_findBreaks_5 6 rfl rfl)
theorem dX4_findBreaks_124 : decode cX4_findBreaks 124 = .ok (.if_icmp .gt 65, 3) := dk_163 0 65 (dk_at dksX4_findBreaks_5 9 rfl rfl)
theorem dX4_findBreaks_127 : decode cX4_findBreaks 127 = .ok (.aload_n 0, 1) := dk_42 (dk_at dksX4_findBreaks_5 12 rfl rfl)
theorem dX4_findBreaks_128 : decode cX4_findBreaks 128 = .ok (.getfield 116, 3) := dk_180 0 116 (dk_at dksX4_findBreaks_5 13 rfl rfl)
theorem dX4_findBreaks_131 : decode cX4_findBreaks 131 = .ok (.iload_n 1, 1) := dk_27 (dk_at dksX4_findBreaks_5 16 rfl rfl)
theorem dX4_findBreaks_132 : decode cX4_findBreaks 132 = .ok (.iaload, 1) := dk_46 (dk_at dksX4_findBreaks_5 17 rfl rfl)
theorem dX4_findBreaks_133 : decode cX4_findBreaks 133 = .ok (.ldc_w 294, 3) := dk_19 1 38 (dk_at dksX4_findBreaks_5 18 rfl rfl)
theorem dX4_findBreaks_136 : decode cX4_findBreaks 136 = .ok (.if_icmp .ne 6, 3) := dk_160 0 6 (dk_at dksX4_findBreaks_5 21 rfl rfl)
theorem dX4_findBreaks_139 : decode cX4_findBreaks 139 = .ok (.goto 50, 3) := dk_167 0 50 (dk_at dksX4_findBreaks_6 0 rfl rfl)
theorem dX4_findBreaks_142 : decode cX4_findBreaks 142 = .ok (.aload_n 0, 1) := dk_42 (dk_at dksX4_findBreaks_6 3 rfl rfl)
theorem dX4_findBreaks_143 : decode cX4_findBreaks 143 = .ok (.aload_n 0, 1) := dk_42 (dk_at dksX4_findBreaks_6 4 rfl rfl)
theorem dX4_findBreaks_144 : decode cX4_findBreaks 144 = .ok (.getfield 116, 3) := dk_180 0 116 (dk_at dksX4_findBreaks_6 5 rfl rfl)
theorem dX4_findBreaks_147 : decode cX4_findBreaks 147 = .ok (.iload_n 1, 1) := dk_27 (dk_at dksX4_findBreaks_6 8 rfl rfl)
theorem dX4_findBreaks_148 : decode cX4_findBreaks 148 = .ok (.iaload, 1) := dk_46 (dk_at dksX4_findBreaks_6 9 rfl rfl)
theorem dX4_findBreaks_149 : decode cX4_findBreaks 149 = .ok (.aload_n 0, 1) := dk_42 (dk_at dksX4_findBreaks_6 10 rfl rfl)
theorem dX4_findBreaks_150 : decode cX4_findBreaks 150 = .ok (.getfield 393, 3) := dk_180 1 137 (dk_at dksX4_findBreaks_6 11 rfl rfl)
theorem dX4_findBreaks_153 : decode cX4_findBreaks 153 = .ok (.if_icmp .ge 12, 3) := dk_162 0 12 (dk_at dksX4_findBreaks_6 14 rfl rfl)
theorem dX4_findBreaks_156 : decode cX4_findBreaks 156 = .ok (.aload_n 0, 1) := dk_42 (dk_at dksX4_findBreaks_6 17 rfl rfl)
theorem dX4_findBreaks_157 : decode cX4_findBreaks 157 = .ok (.getfield 122, 3) := dk_180 0 122 (dk_at dksX4_findBreaks_6 18 rfl rfl)
theorem dX4_findBreaks_160 : decode cX4_findBreaks 160 = .ok (.iload_n 1, 1) := dk_27 (dk_at dksX4_findBreaks_6 21 rfl rfl)
theorem dX4_findBreaks_161 : decode cX4_findBreaks 161 = .ok (.laload, 1) := dk_47 (dk_at dksX4_findBreaks_6 22 rfl rfl)
theorem dX4_findBreaks_162 : decode cX4_findBreaks 162 = .ok (.goto 14, 3) := dk_167 0 14 (dk_at dksX4_findBreaks_7 0 rfl rfl)
theorem dX4_findBreaks_165 : decode cX4_findBreaks 165 = .ok (.aload_n 0, 1) := dk_42 (dk_at dksX4_findBreaks_7 3 rfl rfl)
theorem dX4_findBreaks_166 : decode cX4_findBreaks 166 = .ok (.getfield 398, 3) := dk_180 1 142 (dk_at dksX4_findBreaks_7 4 rfl rfl)
theorem dX4_findBreaks_169 : decode cX4_findBreaks 169 = .ok (.aload_n 0, 1) := dk_42 (dk_at dksX4_findBreaks_7 7 rfl rfl)
theorem dX4_findBreaks_170 : decode cX4_findBreaks 170 = .ok (.getfield 122, 3) := dk_180 0 122 (dk_at dksX4_findBreaks_7 8 rfl rfl)
theorem dX4_findBreaks_173 : decode cX4_findBreaks 173 = .ok (.iload_n 1, 1) := dk_27 (dk_at dksX4_findBreaks_7 11 rfl rfl)
theorem dX4_findBreaks_174 : decode cX4_findBreaks 174 = .ok (.laload, 1) := dk_47 (dk_at dksX4_findBreaks_7 12 rfl rfl)
theorem dX4_findBreaks_175 : decode cX4_findBreaks 175 = .ok (.ladd, 1) := dk_97 (dk_at dksX4_findBreaks_7 13 rfl rfl)
theorem dX4_findBreaks_176 : decode cX4_findBreaks 176 = .ok (.putfield 398, 3) := dk_181 1 142 (dk_at dksX4_findBreaks_7 14 rfl rfl)
theorem dX4_findBreaks_179 : decode cX4_findBreaks 179 = .ok (.aload_n 0, 1) := dk_42 (dk_at dksX4_findBreaks_7 17 rfl rfl)
theorem dX4_findBreaks_180 : decode cX4_findBreaks 180 = .ok (.aload_n 0, 1) := dk_42 (dk_at dksX4_findBreaks_7 18 rfl rfl)
theorem dX4_findBreaks_181 : decode cX4_findBreaks 181 = .ok (.getfield 116, 3) := dk_180 0 116 (dk_at dksX4_findBreaks_7 19 rfl rfl)
theorem dX4_findBreaks_184 : decode cX4_findBreaks 184 = .ok (.iload_n 1, 1) := dk_27 (dk_at dksX4_findBreaks_7 22 rfl rfl)
theorem dX4_findBreaks_185 : decode cX4_findBreaks 185 = .ok (.iaload, 1) := dk_46 (dk_at dksX4_findBreaks_7 23 rfl rfl)
theorem dX4_findBreaks_186 : decode cX4_findBreaks 186 = .ok (.putfield 393, 3) := dk_181 1 137 (dk_at dksX4_findBreaks_8 0 rfl rfl)
theorem dX4_findBreaks_189 : decode cX4_findBreaks 189 = .ok (.iinc 1 1, 3) := dk_132 1 1 (dk_at dksX4_findBreaks_8 3 rfl rfl)
theorem dX4_findBreaks_192 : decode cX4_findBreaks 192 = .ok (.goto (-90), 3) := dk_167 255 166 (dk_at dksX4_findBreaks_8 6 rfl rfl)
theorem dX4_findBreaks_195 : decode cX4_findBreaks 195 = .ok (.return_, 1) := dk_177 (dk_at dksX4_findBreaks_8 9 rfl rfl)
abbrev cX4_comes : ByteArray := prog_10_method_101_code
def yX4_comes : MethodName := ⟨RX4, "comes", "(II)V"⟩
def dkwX4_comes_9 : List UInt8 := [180, 0, 122, 29, 47, 97, 80, 42, 180, 0, 119, 28, 21, 5, 79, 132, 3, 1, 167, 255, 102, 177]
abbrev dktX4_comes_9 : List UInt8 := dkwX4_comes_9 ++ []
def dkwX4_comes_8 : List UInt8 := [180, 0, 119, 28, 46, 162, 0, 12, 42, 180, 0, 122, 29, 47, 167, 0, 16, 42, 180, 0, 125, 28, 47, 42]
abbrev dktX4_comes_8 : List UInt8 := dkwX4_comes_8 ++ dktX4_comes_9
def dkwX4_comes_7 : List UInt8 := [54, 5, 21, 5, 42, 180, 0, 119, 28, 46, 164, 0, 6, 167, 0, 50, 42, 180, 0, 125, 28, 21, 5, 42]
abbrev dktX4_comes_7 : List UInt8 := dkwX4_comes_7 ++ dktX4_comes_8
def dkwX4_comes_6 : List UInt8 := [160, 0, 6, 167, 0, 83, 42, 180, 0, 116, 29, 46, 21, 4, 153, 0, 7, 4, 167, 0, 4, 3, 96]
abbrev dktX4_comes_6 : List UInt8 := dkwX4_comes_6 ++ dktX4_comes_7
def dkwX4_comes_5 : List UInt8 := [54, 4, 21, 4, 153, 0, 26, 29, 5, 108, 42, 180, 0, 128, 160, 0, 16, 28, 5, 108, 42, 180, 1, 149]
abbrev dktX4_comes_5 : List UInt8 := dkwX4_comes_5 ++ dktX4_comes_6
def dkwX4_comes_4 : List UInt8 := [19, 1, 38, 160, 0, 6, 167, 0, 127, 42, 29, 28, 182, 1, 15, 154, 0, 7, 4, 167, 0, 4, 3]
abbrev dktX4_comes_4 : List UInt8 := dkwX4_comes_4 ++ dktX4_comes_5
def dkwX4_comes_3 : List UInt8 := [80, 177, 3, 62, 29, 5, 42, 180, 0, 20, 4, 46, 104, 162, 0, 148, 42, 180, 0, 116, 29, 46]
abbrev dktX4_comes_3 : List UInt8 := dkwX4_comes_3 ++ dktX4_comes_4
def dkwX4_comes_2 : List UInt8 := [4, 96, 46, 159, 0, 4, 177, 27, 154, 0, 18, 42, 180, 0, 119, 28, 3, 79, 42, 180, 0, 125, 28, 10]
abbrev dktX4_comes_2 : List UInt8 := dkwX4_comes_2 ++ dktX4_comes_3
def dkwX4_comes_1 : List UInt8 := [42, 28, 182, 0, 253, 42, 180, 0, 74, 27, 46, 160, 0, 19, 42, 28, 182, 0, 250, 42, 180, 0, 74, 27]
abbrev dktX4_comes_1 : List UInt8 := dkwX4_comes_1 ++ dktX4_comes_2
def dkwX4_comes_0 : List UInt8 := [42, 180, 0, 119, 28, 19, 1, 38, 79, 42, 180, 0, 125, 28, 9, 80, 42, 28, 182, 1, 6, 153, 0, 33]
abbrev dktX4_comes_0 : List UInt8 := dkwX4_comes_0 ++ dktX4_comes_1
theorem dksX4_comes_0 : cX4_comes.data.toList.drop 0 = dktX4_comes_0 := by decide +kernel
theorem dksX4_comes_1 : cX4_comes.data.toList.drop 24 = dktX4_comes_1 := dk_seg dksX4_comes_0 24 rfl rfl
theorem dksX4_comes_2 : cX4_comes.data.toList.drop 48 = dktX4_comes_2 := dk_seg dksX4_comes_1 24 rfl rfl
theorem dksX4_comes_3 : cX4_comes.data.toList.drop 72 = dktX4_comes_3 := dk_seg dksX4_comes_2 24 rfl rfl
theorem dksX4_comes_4 : cX4_comes.data.toList.drop 94 = dktX4_comes_4 := dk_seg dksX4_comes_3 22 rfl rfl
theorem dksX4_comes_5 : cX4_comes.data.toList.drop 117 = dktX4_comes_5 := dk_seg dksX4_comes_4 23 rfl rfl
theorem dksX4_comes_6 : cX4_comes.data.toList.drop 141 = dktX4_comes_6 := dk_seg dksX4_comes_5 24 rfl rfl
theorem dksX4_comes_7 : cX4_comes.data.toList.drop 164 = dktX4_comes_7 := dk_seg dksX4_comes_6 23 rfl rfl
theorem dksX4_comes_8 : cX4_comes.data.toList.drop 188 = dktX4_comes_8 := dk_seg dksX4_comes_7 24 rfl rfl
theorem dksX4_comes_9 : cX4_comes.data.toList.drop 212 = dktX4_comes_9 := dk_seg dksX4_comes_8 24 rfl rfl
theorem dX4_comes_0 : decode cX4_comes 0 = .ok (.aload_n 0, 1) := dk_42 (dk_at dksX4_comes_0 0 rfl rfl)
theorem dX4_comes_1 : decode cX4_comes 1 = .ok (.getfield 119, 3) := dk_180 0 119 (dk_at dksX4_comes_0 1 rfl rfl)
theorem dX4_comes_4 : decode cX4_comes 4 = .ok (.iload_n 2, 1) := dk_28 (dk_at dksX4_comes_0 4 rfl rfl)
theorem dX4_comes_5 : decode cX4_comes 5 = .ok (.ldc_w 294, 3) := dk_19 1 38 (dk_at dksX4_comes_0 5 rfl rfl)
theorem dX4_comes_8 : decode cX4_comes 8 = .ok (.iastore, 1) := dk_79 (dk_at dksX4_comes_0 8 rfl rfl)
theorem dX4_comes_9 : decode cX4_comes 9 = .ok (.aload_n 0, 1) := dk_42 (dk_at dksX4_comes_0 9 rfl rfl)
theorem dX4_comes_10 : decode cX4_comes 10 = .ok (.getfield 125, 3) := dk_180 0 125 (dk_at dksX4_comes_0 10 rfl rfl)
theorem dX4_comes_13 : decode cX4_comes 13 = .ok (.iload_n 2, 1) := dk_28 (dk_at dksX4_comes_0 13 rfl rfl)
theorem dX4_comes_14 : decode cX4_comes 14 = .ok (.lconst 0, 1) := dk_9 (dk_at dksX4_comes_0 14 rfl rfl)
theorem dX4_comes_15 : decode cX4_comes 15 = .ok (.lastore, 1) := dk_80 (dk_at dksX4_comes_0 15 rfl rfl)
theorem dX4_comes_16 : decode cX4_comes 16 = .ok (.aload_n 0, 1) := dk_42 (dk_at dksX4_comes_0 16 rfl rfl)
theorem dX4_comes_17 : decode cX4_comes 17 = .ok (.iload_n 2, 1) := dk_28 (dk_at dksX4_comes_0 17 rfl rfl)
theorem dX4_comes_18 : decode cX4_comes 18 = .ok (.invokevirtual 262, 3) := dk_182 1 6 (dk_at dksX4_comes_0 18 rfl rfl)
theorem dX4_comes_21 : decode cX4_comes 21 = .ok (.ifCond .eq 33, 3) := dk_153 0 33 (dk_at dksX4_comes_0 21 rfl rfl)
theorem dX4_comes_24 : decode cX4_comes 24 = .ok (.aload_n 0, 1) := dk_42 (dk_at dksX4_comes_1 0 rfl rfl)
theorem dX4_comes_25 : decode cX4_comes 25 = .ok (.iload_n 2, 1) := dk_28 (dk_at dksX4_comes_1 1 rfl rfl)
theorem dX4_comes_26 : decode cX4_comes 26 = .ok (.invokevirtual 253, 3) := dk_182 0 253 (dk_at dksX4_comes_1 2 rfl rfl)
theorem dX4_comes_29 : decode cX4_comes 29 = .ok (.aload_n 0, 1) := dk_42 (dk_at dksX4_comes_1 5 rfl rfl)
theorem dX4_comes_30 : decode cX4_comes 30 = .ok (.getfield 74, 3) := dk_180 0 74 (dk_at dksX4_comes_1 6 rfl rfl)
theorem dX4_comes_33 : decode cX4_comes 33 = .ok (.iload_n 1, 1) := dk_27 (dk_at dksX4_comes_1 9 rfl rfl)
theorem dX4_comes_34 : decode cX4_comes 34 = .ok (.iaload, 1) := dk_46 (dk_at dksX4_comes_1 10 rfl rfl)
theorem dX4_comes_35 : decode cX4_comes 35 = .ok (.if_icmp .ne 19, 3) := dk_160 0 19 (dk_at dksX4_comes_1 11 rfl rfl)
theorem dX4_comes_38 : decode cX4_comes 38 = .ok (.aload_n 0, 1) := dk_42 (dk_at dksX4_comes_1 14 rfl rfl)
theorem dX4_comes_39 : decode cX4_comes 39 = .ok (.iload_n 2, 1) := dk_28 (dk_at dksX4_comes_1 15 rfl rfl)
theorem dX4_comes_40 : decode cX4_comes 40 = .ok (.invokevirtual 250, 3) := dk_182 0 250 (dk_at dksX4_comes_1 16 rfl rfl)
theorem dX4_comes_43 : decode cX4_comes 43 = .ok (.aload_n 0, 1) := dk_42 (dk_at dksX4_comes_1 19 rfl rfl)
theorem dX4_comes_44 : decode cX4_comes 44 = .ok (.getfield 74, 3) := dk_180 0 74 (dk_at dksX4_comes_1 20 rfl rfl)
theorem dX4_comes_47 : decode cX4_comes 47 = .ok (.iload_n 1, 1) := dk_27 (dk_at dksX4_comes_1 23 rfl rfl)
theorem dX4_comes_48 : decode cX4_comes 48 = .ok (.iconst 1, 1) := dk_4 (dk_at dksX4_comes_2 0 rfl rfl)
theorem dX4_comes_49 : decode cX4_comes 49 = .ok (.iadd, 1) := dk_96 (dk_at dksX4_comes_2 1 rfl rfl)
theorem dX4_comes_50 : decode cX4_comes 50 = .ok (.iaload, 1) := dk_46 (dk_at dksX4_comes_2 2 rfl rfl)
theorem dX4_comes_51 : decode cX4_comes 51 = .ok (.if_icmp .eq 4, 3) := dk_159 0 4 (dk_at dksX4_comes_2 3 rfl rfl)
theorem dX4_comes_54 : decode cX4_comes 54 = .ok (.return_, 1) := dk_177 (dk_at dksX4_comes_2 6 rfl rfl)
theorem dX4_comes_55 : decode cX4_comes 55 = .ok (.iload_n 1, 1) := dk_27 (dk_at dksX4_comes_2 7 rfl rfl)
theorem dX4_comes_56 : decode cX4_comes 56 = .ok (.ifCond .ne 18, 3) := dk_154 0 18 (dk_at dksX4_comes_2 8 rfl rfl)
theorem dX4_comes_59 : decode cX4_comes 59 = .ok (.aload_n 0, 1) := dk_42 (dk_at dksX4_comes_2 11 rfl rfl)
theorem dX4_comes_60 : decode cX4_comes 60 = .ok (.getfield 119, 3) := dk_180 0 119 (dk_at dksX4_comes_2 12 rfl rfl)
theorem dX4_comes_63 : decode cX4_comes 63 = .ok (.iload_n 2, 1) := dk_28 (dk_at dksX4_comes_2 15 rfl rfl)
theorem dX4_comes_64 : decode cX4_comes 64 = .ok (.iconst 0, 1) := dk_3 (dk_at dksX4_comes_2 16 rfl rfl)
theorem dX4_comes_65 : decode cX4_comes 65 = .ok (.iastore, 1) := dk_79 (dk_at dksX4_comes_2 17 rfl rfl)
theorem dX4_comes_66 : decode cX4_comes 66 = .ok (.aload_n 0, 1) := dk_42 (dk_at dksX4_comes_2 18 rfl rfl)
theorem dX4_comes_67 : decode cX4_comes 67 = .ok (.getfield 125, 3) := dk_180 0 125 (dk_at dksX4_comes_2 19 rfl rfl)
theorem dX4_comes_70 : decode cX4_comes 70 = .ok (.iload_n 2, 1) := dk_28 (dk_at dksX4_comes_2 22 rfl rfl)
theorem dX4_comes_71 : decode cX4_comes 71 = .ok (.lconst 1, 1) := dk_10 (dk_at dksX4_comes_2 23 rfl rfl)
theorem dX4_comes_72 : decode cX4_comes 72 = .ok (.lastore, 1) := dk_80 (dk_at dksX4_comes_3 0 rfl rfl)
theorem dX4_comes_73 : decode cX4_comes 73 = .ok (.return_, 1) := dk_177 (dk_at dksX4_comes_3 1 rfl rfl)
theorem dX4_comes_74 : decode cX4_comes 74 = .ok (.iconst 0, 1) := dk_3 (dk_at dksX4_comes_3 2 rfl rfl)
theorem dX4_comes_75 : decode cX4_comes 75 = .ok (.istore_n 3, 1) := dk_62 (dk_at dksX4_comes_3 3 rfl rfl)
theorem dX4_comes_76 : decode cX4_comes 76 = .ok (.iload_n 3, 1) := dk_29 (dk_at dksX4_comes_3 4 rfl rfl)
theorem dX4_comes_77 : decode cX4_comes 77 = .ok (.iconst 2, 1) := dk_5 (dk_at dksX4_comes_3 5 rfl rfl)
theorem dX4_comes_78 : decode cX4_comes 78 = .ok (.aload_n 0, 1) := dk_42 (dk_at dksX4_comes_3 6 rfl rfl)
theorem dX4_comes_79 : decode cX4_comes 79 = .ok (.getfield 20, 3) := dk_180 0 20 (dk_at dksX4_comes_3 7 rfl rfl)
theorem dX4_comes_82 : decode cX4_comes 82 = .ok (.iconst 1, 1) := dk_4 (dk_at dksX4_comes_3 10 rfl rfl)
theorem dX4_comes_83 : decode cX4_comes 83 = .ok (.iaload, 1) := dk_46 (dk_at dksX4_comes_3 11 rfl rfl)
theorem dX4_comes_84 : decode cX4_comes 84 = .ok (.imul, 1) := dk_104 (dk_at dksX4_comes_3 12 rfl rfl)
theorem dX4_comes_85 : decode cX4_comes 85 = .ok (.if_icmp .ge 148, 3) := dk_162 0 148 (dk_at dksX4_comes_3 13 rfl rfl)
theorem dX4_comes_88 : decode cX4_comes 88 = .ok (.aload_n 0, 1) := dk_42 (dk_at dksX4_comes_3 16 rfl rfl)
theorem dX4_comes_89 : decode cX4_comes 89 = .ok (.getfield 116, 3) := dk_180 0 116 (dk_at dksX4_comes_3 17 rfl rfl)
theorem dX4_comes_92 : decode cX4_comes 92 = .ok (.iload_n 3, 1) := dk_29 (dk_at dksX4_comes_3 20 rfl rfl)
theorem dX4_comes_93 : decode cX4_comes 93 = .ok (.iaload, 1) := dk_46 (dk_at dksX4_comes_3 21 rfl rfl)
theorem dX4_comes_94 : decode cX4_comes 94 = .ok (.ldc_w 294, 3) := dk_19 1 38 (dk_at dksX4_comes_4 0 rfl rfl)
theorem dX4_comes_97 : decode cX4_comes 97 = .ok (.if_icmp .ne 6, 3) := dk_160 0 6 (dk_at dksX4_comes_4 3 rfl rfl)
theorem dX4_comes_100 : decode cX4_comes 100 = .ok (.goto 127, 3) := dk_167 0 127 (dk_at dksX4_comes_4 6 rfl rfl)
theorem dX4_comes_103 : decode cX4_comes 103 = .ok (.aload_n 0, 1) := dk_42 (dk_at dksX4_comes_4 9 rfl rfl)
theorem dX4_comes_104 : decode cX4_comes 104 = .ok (.iload_n 3, 1) := dk_29 (dk_at dksX4_comes_4 10 rfl rfl)
theorem dX4_comes_105 : decode cX4_comes 105 = .ok (.iload_n 2, 1) := dk_28 (dk_at dksX4_comes_4 11 rfl rfl)
theorem dX4_comes_106 : decode cX4_comes 106 = .ok (.invokevirtual 271, 3) := dk_182 1 15 (dk_at dksX4_comes_4 12 rfl rfl)
theorem dX4_comes_109 : decode cX4_comes 109 = .ok (.ifCond .ne 7, 3) := dk_154 0 7 (dk_at dksX4_comes_4 15 rfl rfl)
theorem dX4_comes_112 : decode cX4_comes 112 = .ok (.iconst 1, 1) := dk_4 (dk_at dksX4_comes_4 18 rfl rfl)
theorem dX4_comes_113 : decode cX4_comes 113 = .ok (.goto 4, 3) := dk_167 0 4 (dk_at dksX4_comes_4 19 rfl rfl)
theorem dX4_comes_116 : decode cX4_comes 116 = .ok (.iconst 0, 1) := dk_3 (dk_at dksX4_comes_4 22 rfl rfl)
theorem dX4_comes_117 : decode cX4_comes 117 = .ok (.istore 4, 2) := dk_54 4 (dk_at dksX4_comes_5 0 rfl rfl)
theorem dX4_comes_119 : decode cX4_comes 119 = .ok (.iload 4, 2) := dk_21 4 (dk_at dksX4_comes_5 2 rfl rfl)
theorem dX4_comes_121 : decode cX4_comes 121 = .ok (.ifCond .eq 26, 3) := dk_153 0 26 (dk_at dksX4_comes_5 4 rfl rfl)
theorem dX4_comes_124 : decode cX4_comes 124 = .ok (.iload_n 3, 1) := dk_29 (dk_at dksX4_comes_5 7 rfl rfl)
theorem dX4_comes_125 : decode cX4_comes 125 = .ok (.iconst 2, 1) := dk_5 (dk_at dksX4_comes_5 8 rfl rfl)
theorem dX4_comes_126 : decode cX4_comes 126 = .ok (.idiv, 1) := dk_108 (dk_at dksX4_comes_5 9 rfl rfl)
theorem dX4_comes_127 : decode cX4_comes 127 = .ok (.aload_n 0, 1) := dk_42 (dk_at dksX4_comes_5 10 rfl rfl)
theorem dX4_comes_128 : decode cX4_comes 128 = .ok (.getfield 128, 3) := dk_180 0 128 (dk_at dksX4_comes_5 11 rfl rfl)
theorem dX4_comes_131 : decode cX4_comes 131 = .ok (.if_icmp .ne 16, 3) := dk_160 0 16 (dk_at dksX4_comes_5 14 rfl rfl)
theorem dX4_comes_134 : decode cX4_comes 134 = .ok (.iload_n 2, 1) := dk_28 (dk_at dksX4_comes_5 17 rfl rfl)
theorem dX4_comes_135 : decode cX4_comes 135 = .ok (.iconst 2, 1) := dk_5 (dk_at dksX4_comes_5 18 rfl rfl)
theorem dX4_comes_136 : decode cX4_comes 136 = .ok (.idiv, 1) := dk_108 (dk_at dksX4_comes_5 19 rfl rfl)
theorem dX4_comes_137 : decode cX4_comes 137 = .ok (.aload_n 0, 1) := dk_42 (dk_at dksX4_comes_5 20 rfl rfl)
theorem dX4_comes_138 : decode cX4_comes 138 = .ok (.getfield 405, 3) := dk_180 1 149 (dk_at dksX4_comes_5 21 rfl rfl)
theorem dX4_comes_141 : decode cX4_comes 141 = .ok (.if_icmp .ne 6, 3) := dk_160 0 6 (dk_at dksX4_comes_6 0 rfl rfl)
theorem dX4_comes_144 : decode cX4_comes 144 = .ok (.goto 83, 3) := dk_167 0 83 (dk_at dksX4_comes_6 3 rfl rfl)
theorem dX4_comes_147 : decode cX4_comes 147 = .ok (.aload_n 0, 1) := dk_42 (dk_at dksX4_comes_6 6 rfl rfl)
theorem dX4_comes_148 : decode cX4_comes 148 = .ok (.getfield 116, 3) := dk_180 0 116 (dk_at dksX4_comes_6 7 rfl rfl)
theorem dX4_comes_151 : decode cX4_comes 151 = .ok (.iload_n 3, 1) := dk_29 (dk_at dksX4_comes_6 10 rfl rfl)
theorem dX4_comes_152 : decode cX4_comes 152 = .ok (.iaload, 1) := dk_46 (dk_at dksX4_comes_6 11 rfl rfl)
theorem dX4_comes_153 : decode cX4_comes 153 = .ok (.iload 4, 2) := dk_21 4 (dk_at dksX4_comes_6 12 rfl rfl)
theorem dX4_comes_155 : decode cX4_comes 155 = .ok (.ifCond .eq 7, 3) := dk_153 0 7 (dk_at dksX4_comes_6 14 rfl rfl)
theorem dX4_comes_158 : decode cX4_comes 158 = .ok (.iconst 1, 1) := dk_4 (dk_at dksX4_comes_6 17 rfl rfl)
theorem dX4_comes_159 : decode cX4_comes 159 = .ok (.goto 4, 3) := dk_167 0 4 (dk_at dksX4_comes_6 18 rfl rfl)
theorem dX4_comes_162 : decode cX4_comes 162 = .ok (.iconst 0, 1) := dk_3 (dk_at dksX4_comes_6 21 rfl rfl)
theorem dX4_comes_163 : decode cX4_comes 163 = .ok (.iadd, 1) := dk_96 (dk_at dksX4_comes_6 22 rfl rfl)
theorem dX4_comes_164 : decode cX4_comes 164 = .ok (.istore 5, 2) := dk_54 5 (dk_at dksX4_comes_7 0 rfl rfl)
theorem dX4_comes_166 : decode cX4_comes 166 = .ok (.iload 5, 2) := dk_21 5 (dk_at dksX4_comes_7 2 rfl rfl)
theorem dX4_comes_168 : decode cX4_comes 168 = .ok (.aload_n 0, 1) := dk_42 (dk_at dksX4_comes_7 4 rfl rfl)
theorem dX4_comes_169 : decode cX4_comes 169 = .ok (.getfield 119, 3) := dk_180 0 119 (dk_at dksX4_comes_7 5 rfl rfl)
theorem dX4_comes_172 : decode cX4_comes 172 = .ok (.iload_n 2, 1) := dk_28 (dk_at dksX4_comes_7 8 rfl rfl)
theorem dX4_comes_173 : decode cX4_comes 173 = .ok (.iaload, 1) := dk_46 (dk_at dksX4_comes_7 9 rfl rfl)
theorem dX4_comes_174 : decode cX4_comes 174 = .ok (.if_icmp .le 6, 3) := dk_164 0 6 (dk_at dksX4_comes_7 10 rfl rfl)
theorem dX4_comes_177 : decode cX4_comes 177 = .ok (.goto 50, 3) := dk_167 0 50 (dk_at dksX4_comes_7 13 rfl rfl)
theorem dX4_comes_180 : decode cX4_comes 180 = .ok (.aload_n 0, 1) := dk_42 (dk_at dksX4_comes_7 16 rfl rfl)
theorem dX4_comes_181 : decode cX4_comes 181 = .ok (.getfield 125, 3) := dk_180 0 125 (dk_at dksX4_comes_7 17 rfl rfl)
theorem dX4_comes_184 : decode cX4_comes 184 = .ok (.iload_n 2, 1) := dk_28 (dk_at dksX4_comes_7 20 rfl rfl)
theorem dX4_comes_185 : decode cX4_comes 185 = .ok (.iload 5, 2) := dk_21 5 (dk_at dksX4_comes_7 21 rfl rfl)
theorem dX4_comes_187 : decode cX4_comes 187 = .ok (.aload_n 0, 1) := dk_42 (dk_at dksX4_comes_7 23 rfl rfl)
theorem dX4_comes_188 : decode cX4_comes 188 = .ok (.getfield 119, 3) := dk_180 0 119 (dk_at dksX4_comes_8 0 rfl rfl)
theorem dX4_comes_191 : decode cX4_comes 191 = .ok (.iload_n 2, 1) := dk_28 (dk_at dksX4_comes_8 3 rfl rfl)
theorem dX4_comes_192 : decode cX4_comes 192 = .ok (.iaload, 1) := dk_46 (dk_at dksX4_comes_8 4 rfl rfl)
theorem dX4_comes_193 : decode cX4_comes 193 = .ok (.if_icmp .ge 12, 3) := dk_162 0 12 (dk_at dksX4_comes_8 5 rfl rfl)
theorem dX4_comes_196 : decode cX4_comes 196 = .ok (.aload_n 0, 1) := dk_42 (dk_at dksX4_comes_8 8 rfl rfl)
theorem dX4_comes_197 : decode cX4_comes 197 = .ok (.getfield 122, 3) := dk_180 0 122 (dk_at dksX4_comes_8 9 rfl rfl)
theorem dX4_comes_200 : decode cX4_comes 200 = .ok (.iload_n 3, 1) := dk_29 (dk_at dksX4_comes_8 12 rfl rfl)
theorem dX4_comes_201 : decode cX4_comes 201 = .ok (.laload, 1) := dk_47 (dk_at dksX4_comes_8 13 rfl rfl)
theorem dX4_comes_202 : decode cX4_comes 202 = .ok (.goto 16, 3) := dk_167 0 16 (dk_at dksX4_comes_8 14 rfl rfl)
theorem dX4_comes_205 : decode cX4_comes 205 = .ok (.aload_n 0, 1) := dk_42 (dk_at dksX4_comes_8 17 rfl rfl)
theorem dX4_comes_206 : decode cX4_comes 206 = .ok (.getfield 125, 3) := dk_180 0 125 (dk_at dksX4_comes_8 18 rfl rfl)
theorem dX4_comes_209 : decode cX4_comes 209 = .ok (.iload_n 2, 1) := dk_28 (dk_at dksX4_comes_8 21 rfl rfl)
theorem dX4_comes_210 : decode cX4_comes 210 = .ok (.laload, 1) := dk_47 (dk_at dksX4_comes_8 22 rfl rfl)
theorem dX4_comes_211 : decode cX4_comes 211 = .ok (.aload_n 0, 1) := dk_42 (dk_at dksX4_comes_8 23 rfl rfl)
theorem dX4_comes_212 : decode cX4_comes 212 = .ok (.getfield 122, 3) := dk_180 0 122 (dk_at dksX4_comes_9 0 rfl rfl)
theorem dX4_comes_215 : decode cX4_comes 215 = .ok (.iload_n 3, 1) := dk_29 (dk_at dksX4_comes_9 3 rfl rfl)
theorem dX4_comes_216 : decode cX4_comes 216 = .ok (.laload, 1) := dk_47 (dk_at dksX4_comes_9 4 rfl rfl)
theorem dX4_comes_217 : decode cX4_comes 217 = .ok (.ladd, 1) := dk_97 (dk_at dksX4_comes_9 5 rfl rfl)
theorem dX4_comes_218 : decode cX4_comes 218 = .ok (.lastore, 1) := dk_80 (dk_at dksX4_comes_9 6 rfl rfl)
theorem dX4_comes_219 : decode cX4_comes 219 = .ok (.aload_n 0, 1) := dk_42 (dk_at dksX4_comes_9 7 rfl rfl)
theorem dX4_comes_220 : decode cX4_comes 220 = .ok (.getfield 119, 3) := dk_180 0 119 (dk_at dksX4_comes_9 8 rfl rfl)
theorem dX4_comes_223 : decode cX4_comes 223 = .ok (.iload_n 2, 1) := dk_28 (dk_at dksX4_comes_9 11 rfl rfl)
theorem dX4_comes_224 : decode cX4_comes 224 = .ok (.iload 5, 2) := dk_21 5 (dk_at dksX4_comes_9 12 rfl rfl)
theorem dX4_comes_226 : decode cX4_comes 226 = .ok (.iastore, 1) := dk_79 (dk_at dksX4_comes_9 14 rfl rfl)
theorem dX4_comes_227 : decode cX4_comes 227 = .ok (.iinc 3 1, 3) := dk_132 3 1 (dk_at dksX4_comes_9 15 rfl rfl)
theorem dX4_comes_230 : decode cX4_comes 230 = .ok (.goto (-154), 3) := dk_167 255 102 (dk_at dksX4_comes_9 18 rfl rfl)
theorem dX4_comes_233 : decode cX4_comes 233 = .ok (.return_, 1) := dk_177 (dk_at dksX4_comes_9 21 rfl rfl)
abbrev cX4_sure : ByteArray := prog_10_method_100_code
def yX4_sure : MethodName := ⟨RX4, "sure", "(II)I"⟩
def dkwX4_sure_7 : List UInt8 := [54, 5, 132, 4, 255, 132, 6, 1, 167, 255, 162, 42, 2, 181, 0, 128, 21, 5, 172]
abbrev dktX4_sure_7 : List UInt8 := dkwX4_sure_7 ++ []
def dkwX4_sure_6 : List UInt8 := [167, 0, 29, 21, 4, 154, 0, 18, 16, 100, 42, 180, 0, 128, 104, 42, 180, 1, 149, 96, 167, 0, 4, 2]
abbrev dktX4_sure_6 : List UInt8 := dkwX4_sure_6 ++ dktX4_sure_7
def dkwX4_sure_5 : List UInt8 := [21, 6, 42, 180, 0, 20, 4, 46, 112, 181, 1, 149, 42, 182, 1, 134, 42, 180, 1, 137, 29, 160, 0, 6]
abbrev dktX4_sure_5 : List UInt8 := dkwX4_sure_5 ++ dktX4_sure_6
def dkwX4_sure_4 : List UInt8 := [162, 0, 82, 21, 5, 2, 160, 0, 76, 42, 21, 6, 42, 180, 0, 20, 4, 46, 108, 181, 0, 128, 42]
abbrev dktX4_sure_4 : List UInt8 := dkwX4_sure_4 ++ dktX4_sure_5
def dkwX4_sure_3 : List UInt8 := [156, 0, 5, 2, 172, 3, 54, 6, 21, 6, 42, 180, 0, 20, 4, 46, 42, 180, 0, 20, 4, 46, 104]
abbrev dktX4_sure_3 : List UInt8 := dkwX4_sure_3 ++ dktX4_sure_4
def dkwX4_sure_2 : List UInt8 := [42, 180, 1, 137, 62, 28, 54, 4, 2, 54, 5, 29, 19, 1, 38, 159, 0, 11, 29, 153, 0, 7, 28]
abbrev dktX4_sure_2 : List UInt8 := dkwX4_sure_2 ++ dktX4_sure_3
def dkwX4_sure_1 : List UInt8 := [153, 0, 5, 3, 172, 42, 180, 0, 241, 5, 162, 0, 5, 2, 172, 42, 27, 182, 1, 19, 42, 182, 1, 134]
abbrev dktX4_sure_1 : List UInt8 := dkwX4_sure_1 ++ dktX4_sure_2
def dkwX4_sure_0 : List UInt8 := [42, 3, 181, 0, 131, 42, 42, 27, 182, 1, 25, 154, 0, 7, 4, 167, 0, 4, 3, 4, 182, 0, 227]
abbrev dktX4_sure_0 : List UInt8 := dkwX4_sure_0 ++ dktX4_sure_1
theorem dksX4_sure_0 : cX4_sure.data.toList.drop 0 = dktX4_sure_0 := by decide +kernel
theorem dksX4_sure_1 : cX4_sure.data.toList.drop 23 = dktX4_sure_1 := dk_seg dksX4_sure_0 23 rfl rfl
theorem dksX4_sure_2 : cX4_sure.data.toList.drop 47 = dktX4_sure_2 := dk_seg dksX4_sure_1 24 rfl rfl
theorem dksX4_sure_3 : cX4_sure.data.toList.drop 70 = dktX4_sure_3 := dk_seg dksX4_sure_2 23 rfl rfl
theorem dksX4_sure_4 : cX4_sure.data.toList.drop 93 = dktX4_sure_4 := dk_seg dksX4_sure_3 23 rfl rfl
theorem dksX4_sure_5 : cX4_sure.data.toList.drop 116 = dktX4_sure_5 := dk_seg dksX4_sure_4 23 rfl rfl
theorem dksX4_sure_6 : cX4_sure.data.toList.drop 140 = dktX4_sure_6 := dk_seg dksX4_sure_5 24 rfl rfl
theorem dksX4_sure_7 : cX4_sure.data.toList.drop 164 = dktX4_sure_7 := dk_seg dksX4_sure_6 24 rfl rfl
theorem dX4_sure_0 : decode cX4_sure 0 = .ok (.aload_n 0, 1) := dk_42 (dk_at dksX4_sure_0 0 rfl rfl)
theorem dX4_sure_1 : decode cX4_sure 1 = .ok (.iconst 0, 1) := dk_3 (dk_at dksX4_sure_0 1 rfl rfl)
theorem dX4_sure_2 : decode cX4_sure 2 = .ok (.putfield 131, 3) := dk_181 0 131 (dk_at dksX4_sure_0 2 rfl rfl)
theorem dX4_sure_5 : decode cX4_sure 5 = .ok (.aload_n 0, 1) := dk_42 (dk_at dksX4_sure_0 5 rfl rfl)
theorem dX4_sure_6 : decode cX4_sure 6 = .ok (.aload_n 0, 1) := dk_42 (dk_at dksX4_sure_0 6 rfl rfl)
theorem dX4_sure_7 : decode cX4_sure 7 = .ok (.iload_n 1, 1) := dk_27 (dk_at dksX4_sure_0 7 rfl rfl)
theorem dX4_sure_8 : decode cX4_sure 8 = .ok (.invokevirtual 281, 3) := dk_182 1 25 (dk_at dksX4_sure_0 8 rfl rfl)
theorem dX4_sure_11 : decode cX4_sure 11 = .ok (.ifCond .ne 7, 3) := dk_154 0 7 (dk_at dksX4_sure_0 11 rfl rfl)
theorem dX4_sure_14 : decode cX4_sure 14 = .ok (.iconst 1, 1) := dk_4 (dk_at dksX4_sure_0 14 rfl rfl)
theorem dX4_sure_15 : decode cX4_sure 15 = .ok (.goto 4, 3) := dk_167 0 4 (dk_at dksX4_sure_0 15 rfl rfl)
theorem dX4_sure_18 : decode cX4_sure 18 = .ok (.iconst 0, 1) := dk_3 (dk_at dksX4_sure_0 18 rfl rfl)
theorem dX4_sure_19 : decode cX4_sure 19 = .ok (.iconst 1, 1) := dk_4 (dk_at dksX4_sure_0 19 rfl rfl)
theorem dX4_sure_20 : decode cX4_sure 20 = .ok (.invokevirtual 227, 3) := dk_182 0 227 (dk_at dksX4_sure_0 20 rfl rfl)
theorem dX4_sure_23 : decode cX4_sure 23 = .ok (.ifCond .eq 5, 3) := dk_153 0 5 (dk_at dksX4_sure_1 0 rfl rfl)
theorem dX4_sure_26 : decode cX4_sure 26 = .ok (.iconst 0, 1) := dk_3 (dk_at dksX4_sure_1 3 rfl rfl)
theorem dX4_sure_27 : decode cX4_sure 27 = .ok (.ireturn, 1) := dk_172 (dk_at dksX4_sure_1 4 rfl rfl)
theorem dX4_sure_28 : decode cX4_sure 28 = .ok (.aload_n 0, 1) := dk_42 (dk_at dksX4_sure_1 5 rfl rfl)
theorem dX4_sure_29 : decode cX4_sure 29 = .ok (.getfield 241, 3) := dk_180 0 241 (dk_at dksX4_sure_1 6 rfl rfl)
theorem dX4_sure_32 : decode cX4_sure 32 = .ok (.iconst 2, 1) := dk_5 (dk_at dksX4_sure_1 9 rfl rfl)
theorem dX4_sure_33 : decode cX4_sure 33 = .ok (.if_icmp .ge 5, 3) := dk_162 0 5 (dk_at dksX4_sure_1 10 rfl rfl)
theorem dX4_sure_36 : decode cX4_sure 36 = .ok (.iconst (-1), 1) := dk_2 (dk_at dksX4_sure_1 13 rfl rfl)
theorem dX4_sure_37 : decode cX4_sure 37 = .ok (.ireturn, 1) := dk_172 (dk_at dksX4_sure_1 14 rfl rfl)
theorem dX4_sure_38 : decode cX4_sure 38 = .ok (.aload_n 0, 1) := dk_42 (dk_at dksX4_sure_1 15 rfl rfl)
theorem dX4_sure_39 : decode cX4_sure 39 = .ok (.iload_n 1, 1) := dk_27 (dk_at dksX4_sure_1 16 rfl rfl)
theorem dX4_sure_40 : decode cX4_sure 40 = .ok (.invokevirtual 275, 3) := dk_182 1 19 (dk_at dksX4_sure_1 17 rfl rfl)
theorem dX4_sure_43 : decode cX4_sure 43 = .ok (.aload_n 0, 1) := dk_42 (dk_at dksX4_sure_1 20 rfl rfl)
theorem dX4_sure_44 : decode cX4_sure 44 = .ok (.invokevirtual 390, 3) := dk_182 1 134 (dk_at dksX4_sure_1 21 rfl rfl)
theorem dX4_sure_47 : decode cX4_sure 47 = .ok (.aload_n 0, 1) := dk_42 (dk_at dksX4_sure_2 0 rfl rfl)
theorem dX4_sure_48 : decode cX4_sure 48 = .ok (.getfield 393, 3) := dk_180 1 137 (dk_at dksX4_sure_2 1 rfl rfl)
theorem dX4_sure_51 : decode cX4_sure 51 = .ok (.istore_n 3, 1) := dk_62 (dk_at dksX4_sure_2 4 rfl rfl)
theorem dX4_sure_52 : decode cX4_sure 52 = .ok (.iload_n 2, 1) := dk_28 (dk_at dksX4_sure_2 5 rfl rfl)
theorem dX4_sure_53 : decode cX4_sure 53 = .ok (.istore 4, 2) := dk_54 4 (dk_at dksX4_sure_2 6 rfl rfl)
theorem dX4_sure_55 : decode cX4_sure 55 = .ok (.iconst (-1), 1) := dk_2 (dk_at dksX4_sure_2 8 rfl rfl)
theorem dX4_sure_56 : decode cX4_sure 56 = .ok (.istore 5, 2) := dk_54 5 (dk_at dksX4_sure_2 9 rfl rfl)
theorem dX4_sure_58 : decode cX4_sure 58 = .ok (.iload_n 3, 1) := dk_29 (dk_at dksX4_sure_2 11 rfl rfl)
theorem dX4_sure_59 : decode cX4_sure 59 = .ok (.ldc_w 294, 3) := dk_19 1 38 (dk_at dksX4_sure_2 12 rfl rfl)
theorem dX4_sure_62 : decode cX4_sure 62 = .ok (.if_icmp .eq 11, 3) := dk_159 0 11 (dk_at dksX4_sure_2 15 rfl rfl)
theorem dX4_sure_65 : decode cX4_sure 65 = .ok (.iload_n 3, 1) := dk_29 (dk_at dksX4_sure_2 18 rfl rfl)
theorem dX4_sure_66 : decode cX4_sure 66 = .ok (.ifCond .eq 7, 3) := dk_153 0 7 (dk_at dksX4_sure_2 19 rfl rfl)
theorem dX4_sure_69 : decode cX4_sure 69 = .ok (.iload_n 2, 1) := dk_28 (dk_at dksX4_sure_2 22 rfl rfl)
theorem dX4_sure_70 : decode cX4_sure 70 = .ok (.ifCond .ge 5, 3) := dk_156 0 5 (dk_at dksX4_sure_3 0 rfl rfl)
theorem dX4_sure_73 : decode cX4_sure 73 = .ok (.iconst (-1), 1) := dk_2 (dk_at dksX4_sure_3 3 rfl rfl)
theorem dX4_sure_74 : decode cX4_sure 74 = .ok (.ireturn, 1) := dk_172 (dk_at dksX4_sure_3 4 rfl rfl)
theorem dX4_sure_75 : decode cX4_sure 75 = .ok (.iconst 0, 1) := dk_3 (dk_at dksX4_sure_3 5 rfl rfl)
theorem dX4_sure_76 : decode cX4_sure 76 = .ok (.istore 6, 2) := dk_54 6 (dk_at dksX4_sure_3 6 rfl rfl)
theorem dX4_sure_78 : decode cX4_sure 78 = .ok (.iload 6, 2) := dk_21 6 (dk_at dksX4_sure_3 8 rfl rfl)
theorem dX4_sure_80 : decode cX4_sure 80 = .ok (.aload_n 0, 1) := dk_42 (dk_at dksX4_sure_3 10 rfl rfl)
theorem dX4_sure_81 : decode cX4_sure 81 = .ok (.getfield 20, 3) := dk_180 0 20 (dk_at dksX4_sure_3 11 rfl rfl)
theorem dX4_sure_84 : decode cX4_sure 84 = .ok (.iconst 1, 1) := dk_4 (dk_at dksX4_sure_3 14 rfl rfl)
theorem dX4_sure_85 : decode cX4_sure 85 = .ok (.iaload, 1) := dk_46 (dk_at dksX4_sure_3 15 rfl rfl)
theorem dX4_sure_86 : decode cX4_sure 86 = .ok (.aload_n 0, 1) := dk_42 (dk_at dksX4_sure_3 16 rfl rfl)
theorem dX4_sure_87 : decode cX4_sure 87 = .ok (.getfield 20, 3) := dk_180 0 20 (dk_at dksX4_sure_3 17 rfl rfl)
theorem dX4_sure_90 : decode cX4_sure 90 = .ok (.iconst 1, 1) := dk_4 (dk_at dksX4_sure_3 20 rfl rfl)
theorem dX4_sure_91 : decode cX4_sure 91 = .ok (.iaload, 1) := dk_46 (dk_at dksX4_sure_3 21 rfl rfl)
theorem dX4_sure_92 : decode cX4_sure 92 = .ok (.imul, 1) := dk_104 (dk_at dksX4_sure_3 22 rfl rfl)
theorem dX4_sure_93 : decode cX4_sure 93 = .ok (.if_icmp .ge 82, 3) := dk_162 0 82 (dk_at dksX4_sure_4 0 rfl rfl)
theorem dX4_sure_96 : decode cX4_sure 96 = .ok (.iload 5, 2) := dk_21 5 (dk_at dksX4_sure_4 3 rfl rfl)
theorem dX4_sure_98 : decode cX4_sure 98 = .ok (.iconst (-1), 1) := dk_2 (dk_at dksX4_sure_4 5 rfl rfl)
theorem dX4_sure_99 : decode cX4_sure 99 = .ok (.if_icmp .ne 76, 3) := dk_160 0 76 (dk_at dksX4_sure_4 6 rfl rfl)
theorem dX4_sure_102 : decode cX4_sure 102 = .ok (.aload_n 0, 1) := dk_42 (dk_at dksX4_sure_4 9 rfl rfl)
theorem dX4_sure_103 : decode cX4_sure 103 = .ok (.iload 6, 2) := dk_21 6 (dk_at dksX4_sure_4 10 rfl rfl)
theorem dX4_sure_105 : decode cX4_sure 105 = .ok (.aload_n 0, 1) := dk_42 (dk_at dksX4_sure_4 12 rfl rfl)
theorem dX4_sure_106 : decode cX4_sure 106 = .ok (.getfield 20, 3) := dk_180 0 20 (dk_at dksX4_sure_4 13 rfl rfl)
theorem dX4_sure_109 : decode cX4_sure 109 = .ok (.iconst 1, 1) := dk_4 (dk_at dksX4_sure_4 16 rfl rfl)
theorem dX4_sure_110 : decode cX4_sure 110 = .ok (.iaload, 1) := dk_46 (dk_at dksX4_sure_4 17 rfl rfl)
theorem dX4_sure_111 : decode cX4_sure 111 = .ok (.idiv, 1) := dk_108 (dk_at dksX4_sure_4 18 rfl rfl)
theorem dX4_sure_112 : decode cX4_sure 112 = .ok (.putfield 128, 3) := dk_181 0 128 (dk_at dksX4_sure_4 19 rfl rfl)
theorem dX4_sure_115 : decode cX4_sure 115 = .ok (.aload_n 0, 1) := dk_42 (dk_at dksX4_sure_4 22 rfl rfl)
theorem dX4_sure_116 : decode cX4_sure 116 = .ok (.iload 6, 2) := dk_21 6 (dk_at dksX4_sure_5 0 rfl rfl)
theorem dX4_sure_118 : decode cX4_sure 118 = .ok (.aload_n 0, 1) := dk_42 (dk_at dksX4_sure_5 2 rfl rfl)
theorem dX4_sure_119 : decode cX4_sure 119 = .ok (.getfield 20, 3) := dk_180 0 20 (dk_at dksX4_sure_5 3 rfl rfl)
theorem dX4_sure_122 : decode cX4_sure 122 = .ok (.iconst 1, 1) := dk_4 (dk_at dksX4_sure_5 6 rfl rfl)
theorem dX4_sure_123 : decode cX4_sure 123 = .ok (.iaload, 1) := dk_46 (dk_at dksX4_sure_5 7 rfl rfl)
theorem dX4_sure_124 : decode cX4_sure 124 = .ok (.irem, 1) := dk_112 (dk_at dksX4_sure_5 8 rfl rfl)
theorem dX4_sure_125 : decode cX4_sure 125 = .ok (.putfield 405, 3) := dk_181 1 149 (dk_at dksX4_sure_5 9 rfl rfl)
theorem dX4_sure_128 : decode cX4_sure 128 = .ok (.aload_n 0, 1) := dk_42 (dk_at dksX4_sure_5 12 rfl rfl)
theorem dX4_sure_129 : decode cX4_sure 129 = .ok (.invokevirtual 390, 3) := dk_182 1 134 (dk_at dksX4_sure_5 13 rfl rfl)
theorem dX4_sure_132 : decode cX4_sure 132 = .ok (.aload_n 0, 1) := dk_42 (dk_at dksX4_sure_5 16 rfl rfl)
theorem dX4_sure_133 : decode cX4_sure 133 = .ok (.getfield 393, 3) := dk_180 1 137 (dk_at dksX4_sure_5 17 rfl rfl)
theorem dX4_sure_136 : decode cX4_sure 136 = .ok (.iload_n 3, 1) := dk_29 (dk_at dksX4_sure_5 20 rfl rfl)
theorem dX4_sure_137 : decode cX4_sure 137 = .ok (.if_icmp .ne 6, 3) := dk_160 0 6 (dk_at dksX4_sure_5 21 rfl rfl)
theorem dX4_sure_140 : decode cX4_sure 140 = .ok (.goto 29, 3) := dk_167 0 29 (dk_at dksX4_sure_6 0 rfl rfl)
theorem dX4_sure_143 : decode cX4_sure 143 = .ok (.iload 4, 2) := dk_21 4 (dk_at dksX4_sure_6 3 rfl rfl)
theorem dX4_sure_145 : decode cX4_sure 145 = .ok (.ifCond .ne 18, 3) := dk_154 0 18 (dk_at dksX4_sure_6 5 rfl rfl)
theorem dX4_sure_148 : decode cX4_sure 148 = .ok (.bipush 100, 2) := dk_16 100 (dk_at dksX4_sure_6 8 rfl rfl)
theorem dX4_sure_150 : decode cX4_sure 150 = .ok (.aload_n 0, 1) := dk_42 (dk_at dksX4_sure_6 10 rfl rfl)
theorem dX4_sure_151 : decode cX4_sure 151 = .ok (.getfield 128, 3) := dk_180 0 128 (dk_at dksX4_sure_6 11 rfl rfl)
theorem dX4_sure_154 : decode cX4_sure 154 = .ok (.imul, 1) := dk_104 (dk_at dksX4_sure_6 14 rfl rfl)
theorem dX4_sure_155 : decode cX4_sure 155 = .ok (.aload_n 0, 1) := dk_42 (dk_at dksX4_sure_6 15 rfl rfl)
theorem dX4_sure_156 : decode cX4_sure 156 = .ok (.getfield 405, 3) := dk_180 1 149 (dk_at dksX4_sure_6 16 rfl rfl)
theorem dX4_sure_159 : decode cX4_sure 159 = .ok (.iadd, 1) := dk_96 (dk_at dksX4_sure_6 19 rfl rfl)
theorem dX4_sure_160 : decode cX4_sure 160 = .ok (.goto 4, 3) := dk_167 0 4 (dk_at dksX4_sure_6 20 rfl rfl)
theorem dX4_sure_163 : decode cX4_sure 163 = .ok (.iconst (-1), 1) := dk_2 (dk_at dksX4_sure_6 23 rfl rfl)
theorem dX4_sure_164 : decode cX4_sure 164 = .ok (.istore 5, 2) := dk_54 5 (dk_at dksX4_sure_7 0 rfl rfl)
theorem dX4_sure_166 : decode cX4_sure 166 = .ok (.iinc 4 (-1), 3) := dk_132 4 255 (dk_at dksX4_sure_7 2 rfl rfl)
theorem dX4_sure_169 : decode cX4_sure 169 = .ok (.iinc 6 1, 3) := dk_132 6 1 (dk_at dksX4_sure_7 5 rfl rfl)
theorem dX4_sure_172 : decode cX4_sure 172 = .ok (.goto (-94), 3) := dk_167 255 162 (dk_at dksX4_sure_7 8 rfl rfl)
theorem dX4_sure_175 : decode cX4_sure 175 = .ok (.aload_n 0, 1) := dk_42 (dk_at dksX4_sure_7 11 rfl rfl)
theorem dX4_sure_176 : decode cX4_sure 176 = .ok (.iconst (-1), 1) := dk_2 (dk_at dksX4_sure_7 12 rfl rfl)
theorem dX4_sure_177 : decode cX4_sure 177 = .ok (.putfield 128, 3) := dk_181 0 128 (dk_at dksX4_sure_7 13 rfl rfl)
theorem dX4_sure_180 : decode cX4_sure 180 = .ok (.iload 5, 2) := dk_21 5 (dk_at dksX4_sure_7 16 rfl rfl)
theorem dX4_sure_182 : decode cX4_sure 182 = .ok (.ireturn, 1) := dk_172 (dk_at dksX4_sure_7 18 rfl rfl)
abbrev cX4_cut : ByteArray := prog_10_method_102_code
def yX4_cut : MethodName := ⟨RX4, "cut", "(I)I"⟩
def dkwX4_cut_7 : List UInt8 := [21, 5, 153, 0, 8, 21, 4, 167, 0, 4, 29, 62, 132, 4, 1, 167, 255, 149, 29, 172]
abbrev dktX4_cut_7 : List UInt8 := dkwX4_cut_7 ++ []
def dkwX4_cut_6 : List UInt8 := [21, 6, 46, 21, 4, 2, 130, 126, 154, 0, 7, 4, 167, 0, 4, 3, 54, 5, 132, 6, 1, 167, 255, 208]
abbrev dktX4_cut_6 : List UInt8 := dkwX4_cut_6 ++ dktX4_cut_7
def dkwX4_cut_5 : List UInt8 := [180, 0, 20, 3, 46, 162, 0, 43, 21, 5, 153, 0, 38, 21, 4, 21, 6, 122, 4, 126, 153, 0, 15, 44]
abbrev dktX4_cut_5 : List UInt8 := dkwX4_cut_5 ++ dktX4_cut_6
def dkwX4_cut_4 : List UInt8 := [184, 0, 187, 29, 184, 0, 187, 162, 0, 7, 4, 167, 0, 4, 3, 54, 5, 3, 54, 6, 21, 6, 42]
abbrev dktX4_cut_4 : List UInt8 := dkwX4_cut_4 ++ dktX4_cut_5
def dkwX4_cut_3 : List UInt8 := [4, 54, 4, 21, 4, 4, 42, 180, 0, 20, 3, 46, 120, 4, 100, 162, 0, 98, 29, 153, 0, 15, 21, 4]
abbrev dktX4_cut_3 : List UInt8 := dkwX4_cut_3 ++ dktX4_cut_4
def dkwX4_cut_2 : List UInt8 := [180, 0, 20, 3, 46, 162, 0, 17, 44, 29, 42, 29, 182, 1, 63, 79, 132, 3, 1, 167, 255, 235, 3, 62]
abbrev dktX4_cut_2 : List UInt8 := dkwX4_cut_2 ++ dktX4_cut_3
def dkwX4_cut_1 : List UInt8 := [153, 0, 5, 3, 172, 42, 27, 182, 1, 54, 42, 182, 1, 66, 16, 16, 188, 10, 77, 3, 62, 29, 42]
abbrev dktX4_cut_1 : List UInt8 := dkwX4_cut_1 ++ dktX4_cut_2
def dkwX4_cut_0 : List UInt8 := [42, 3, 181, 0, 131, 42, 42, 27, 182, 1, 25, 154, 0, 7, 4, 167, 0, 4, 3, 4, 182, 0, 227]
abbrev dktX4_cut_0 : List UInt8 := dkwX4_cut_0 ++ dktX4_cut_1
theorem dksX4_cut_0 : cX4_cut.data.toList.drop 0 = dktX4_cut_0 := by decide +kernel
theorem dksX4_cut_1 : cX4_cut.data.toList.drop 23 = dktX4_cut_1 := dk_seg dksX4_cut_0 23 rfl rfl
theorem dksX4_cut_2 : cX4_cut.data.toList.drop 46 = dktX4_cut_2 := dk_seg dksX4_cut_1 23 rfl rfl
theorem dksX4_cut_3 : cX4_cut.data.toList.drop 70 = dktX4_cut_3 := dk_seg dksX4_cut_2 24 rfl rfl
theorem dksX4_cut_4 : cX4_cut.data.toList.drop 94 = dktX4_cut_4 := dk_seg dksX4_cut_3 24 rfl rfl
theorem dksX4_cut_5 : cX4_cut.data.toList.drop 117 = dktX4_cut_5 := dk_seg dksX4_cut_4 23 rfl rfl
theorem dksX4_cut_6 : cX4_cut.data.toList.drop 141 = dktX4_cut_6 := dk_seg dksX4_cut_5 24 rfl rfl
theorem dksX4_cut_7 : cX4_cut.data.toList.drop 165 = dktX4_cut_7 := dk_seg dksX4_cut_6 24 rfl rfl
theorem dX4_cut_0 : decode cX4_cut 0 = .ok (.aload_n 0, 1) := dk_42 (dk_at dksX4_cut_0 0 rfl rfl)
theorem dX4_cut_1 : decode cX4_cut 1 = .ok (.iconst 0, 1) := dk_3 (dk_at dksX4_cut_0 1 rfl rfl)
theorem dX4_cut_2 : decode cX4_cut 2 = .ok (.putfield 131, 3) := dk_181 0 131 (dk_at dksX4_cut_0 2 rfl rfl)
theorem dX4_cut_5 : decode cX4_cut 5 = .ok (.aload_n 0, 1) := dk_42 (dk_at dksX4_cut_0 5 rfl rfl)
theorem dX4_cut_6 : decode cX4_cut 6 = .ok (.aload_n 0, 1) := dk_42 (dk_at dksX4_cut_0 6 rfl rfl)
theorem dX4_cut_7 : decode cX4_cut 7 = .ok (.iload_n 1, 1) := dk_27 (dk_at dksX4_cut_0 7 rfl rfl)
theorem dX4_cut_8 : decode cX4_cut 8 = .ok (.invokevirtual 281, 3) := dk_182 1 25 (dk_at dksX4_cut_0 8 rfl rfl)
theorem dX4_cut_11 : decode cX4_cut 11 = .ok (.ifCond .ne 7, 3) := dk_154 0 7 (dk_at dksX4_cut_0 11 rfl rfl)
theorem dX4_cut_14 : decode cX4_cut 14 = .ok (.iconst 1, 1) := dk_4 (dk_at dksX4_cut_0 14 rfl rfl)
theorem dX4_cut_15 : decode cX4_cut 15 = .ok (.goto 4, 3) := dk_167 0 4 (dk_at dksX4_cut_0 15 rfl rfl)
theorem dX4_cut_18 : decode cX4_cut 18 = .ok (.iconst 0, 1) := dk_3 (dk_at dksX4_cut_0 18 rfl rfl)
theorem dX4_cut_19 : decode cX4_cut 19 = .ok (.iconst 1, 1) := dk_4 (dk_at dksX4_cut_0 19 rfl rfl)
theorem dX4_cut_20 : decode cX4_cut 20 = .ok (.invokevirtual 227, 3) := dk_182 0 227 (dk_at dksX4_cut_0 20 rfl rfl)
theorem dX4_cut_23 : decode cX4_cut 23 = .ok (.ifCond .eq 5, 3) := dk_153 0 5 (dk_at dksX4_cut_1 0 rfl rfl)
theorem dX4_cut_26 : decode cX4_cut 26 = .ok (.iconst 0, 1) := dk_3 (dk_at dksX4_cut_1 3 rfl rfl)
theorem dX4_cut_27 : decode cX4_cut 27 = .ok (.ireturn, 1) := dk_172 (dk_at dksX4_cut_1 4 rfl rfl)
theorem dX4_cut_28 : decode cX4_cut 28 = .ok (.aload_n 0, 1) := dk_42 (dk_at dksX4_cut_1 5 rfl rfl)
theorem dX4_cut_29 : decode cX4_cut 29 = .ok (.iload_n 1, 1) := dk_27 (dk_at dksX4_cut_1 6 rfl rfl)
theorem dX4_cut_30 : decode cX4_cut 30 = .ok (.invokevirtual 310, 3) := dk_182 1 54 (dk_at dksX4_cut_1 7 rfl rfl)
theorem dX4_cut_33 : decode cX4_cut 33 = .ok (.aload_n 0, 1) := dk_42 (dk_at dksX4_cut_1 10 rfl rfl)
theorem dX4_cut_34 : decode cX4_cut 34 = .ok (.invokevirtual 322, 3) := dk_182 1 66 (dk_at dksX4_cut_1 11 rfl rfl)
theorem dX4_cut_37 : decode cX4_cut 37 = .ok (.bipush 16, 2) := dk_16 16 (dk_at dksX4_cut_1 14 rfl rfl)
theorem dX4_cut_39 : decode cX4_cut 39 = .ok (.newarray .int, 2) := dk_188_10 (dk_at dksX4_cut_1 16 rfl rfl)
theorem dX4_cut_41 : decode cX4_cut 41 = .ok (.astore_n 2, 1) := dk_77 (dk_at dksX4_cut_1 18 rfl rfl)
theorem dX4_cut_42 : decode cX4_cut 42 = .ok (.iconst 0, 1) := dk_3 (dk_at dksX4_cut_1 19 rfl rfl)
theorem dX4_cut_43 : decode cX4_cut 43 = .ok (.istore_n 3, 1) := dk_62 (dk_at dksX4_cut_1 20 rfl rfl)
theorem dX4_cut_44 : decode cX4_cut 44 = .ok (.iload_n 3, 1) := dk_29 (dk_at dksX4_cut_1 21 rfl rfl)
theorem dX4_cut_45 : decode cX4_cut 45 = .ok (.aload_n 0, 1) := dk_42 (dk_at dksX4_cut_1 22 rfl rfl)
theorem dX4_cut_46 : decode cX4_cut 46 = .ok (.getfield 20, 3) := dk_180 0 20 (dk_at dksX4_cut_2 0 rfl rfl)
theorem dX4_cut_49 : decode cX4_cut 49 = .ok (.iconst 0, 1) := dk_3 (dk_at dksX4_cut_2 3 rfl rfl)
theorem dX4_cut_50 : decode cX4_cut 50 = .ok (.iaload, 1) := dk_46 (dk_at dksX4_cut_2 4 rfl rfl)
theorem dX4_cut_51 : decode cX4_cut 51 = .ok (.if_icmp .ge 17, 3) := dk_162 0 17 (dk_at dksX4_cut_2 5 rfl rfl)
theorem dX4_cut_54 : decode cX4_cut 54 = .ok (.aload_n 2, 1) := dk_44 (dk_at dksX4_cut_2 8 rfl rfl)
theorem dX4_cut_55 : decode cX4_cut 55 = .ok (.iload_n 3, 1) := dk_29 (dk_at dksX4_cut_2 9 rfl rfl)
theorem dX4_cut_56 : decode cX4_cut 56 = .ok (.aload_n 0, 1) := dk_42 (dk_at dksX4_cut_2 10 rfl rfl)
theorem dX4_cut_57 : decode cX4_cut 57 = .ok (.iload_n 3, 1) := dk_29 (dk_at dksX4_cut_2 11 rfl rfl)
theorem dX4_cut_58 : decode cX4_cut 58 = .ok (.invokevirtual 319, 3) := dk_182 1 63 (dk_at dksX4_cut_2 12 rfl rfl)
theorem dX4_cut_61 : decode cX4_cut 61 = .ok (.iastore, 1) := dk_79 (dk_at dksX4_cut_2 15 rfl rfl)
theorem dX4_cut_62 : decode cX4_cut 62 = .ok (.iinc 3 1, 3) := dk_132 3 1 (dk_at dksX4_cut_2 16 rfl rfl)
theorem dX4_cut_65 : decode cX4_cut 65 = .ok (.goto (-21), 3) := dk_167 255 235 (dk_at dksX4_cut_2 19 rfl rfl)
theorem dX4_cut_68 : decode cX4_cut 68 = .ok (.iconst 0, 1) := dk_3 (dk_at dksX4_cut_2 22 rfl rfl)
theorem dX4_cut_69 : decode cX4_cut 69 = .ok (.istore_n 3, 1) := dk_62 (dk_at dksX4_cut_2 23 rfl rfl)
theorem dX4_cut_70 : decode cX4_cut 70 = .ok (.iconst 1, 1) := dk_4 (dk_at dksX4_cut_3 0 rfl rfl)
theorem dX4_cut_71 : decode cX4_cut 71 = .ok (.istore 4, 2) := dk_54 4 (dk_at dksX4_cut_3 1 rfl rfl)
theorem dX4_cut_73 : decode cX4_cut 73 = .ok (.iload 4, 2) := dk_21 4 (dk_at dksX4_cut_3 3 rfl rfl)
theorem dX4_cut_75 : decode cX4_cut 75 = .ok (.iconst 1, 1) := dk_4 (dk_at dksX4_cut_3 5 rfl rfl)
theorem dX4_cut_76 : decode cX4_cut 76 = .ok (.aload_n 0, 1) := dk_42 (dk_at dksX4_cut_3 6 rfl rfl)
theorem dX4_cut_77 : decode cX4_cut 77 = .ok (.getfield 20, 3) := dk_180 0 20 (dk_at dksX4_cut_3 7 rfl rfl)
theorem dX4_cut_80 : decode cX4_cut 80 = .ok (.iconst 0, 1) := dk_3 (dk_at dksX4_cut_3 10 rfl rfl)
theorem dX4_cut_81 : decode cX4_cut 81 = .ok (.iaload, 1) := dk_46 (dk_at dksX4_cut_3 11 rfl rfl)
theorem dX4_cut_82 : decode cX4_cut 82 = .ok (.ishl, 1) := dk_120 (dk_at dksX4_cut_3 12 rfl rfl)
theorem dX4_cut_83 : decode cX4_cut 83 = .ok (.iconst 1, 1) := dk_4 (dk_at dksX4_cut_3 13 rfl rfl)
theorem dX4_cut_84 : decode cX4_cut 84 = .ok (.isub, 1) := dk_100 (dk_at dksX4_cut_3 14 rfl rfl)
theorem dX4_cut_85 : decode cX4_cut 85 = .ok (.if_icmp .ge 98, 3) := dk_162 0 98 (dk_at dksX4_cut_3 15 rfl rfl)
theorem dX4_cut_88 : decode cX4_cut 88 = .ok (.iload_n 3, 1) := dk_29 (dk_at dksX4_cut_3 18 rfl rfl)
theorem dX4_cut_89 : decode cX4_cut 89 = .ok (.ifCond .eq 15, 3) := dk_153 0 15 (dk_at dksX4_cut_3 19 rfl rfl)
theorem dX4_cut_92 : decode cX4_cut 92 = .ok (.iload 4, 2) := dk_21 4 (dk_at dksX4_cut_3 22 rfl rfl)
theorem dX4_cut_94 : decode cX4_cut 94 = .ok (.invokestatic 187, 3) := dk_184 0 187 (dk_at dksX4_cut_4 0 rfl rfl)
theorem dX4_cut_97 : decode cX4_cut 97 = .ok (.iload_n 3, 1) := dk_29 (dk_at dksX4_cut_4 3 rfl rfl)
theorem dX4_cut_98 : decode cX4_cut 98 = .ok (.invokestatic 187, 3) := dk_184 0 187 (dk_at dksX4_cut_4 4 rfl rfl)
theorem dX4_cut_101 : decode cX4_cut 101 = .ok (.if_icmp .ge 7, 3) := dk_162 0 7 (dk_at dksX4_cut_4 7 rfl rfl)
theorem dX4_cut_104 : decode cX4_cut 104 = .ok (.iconst 1, 1) := dk_4 (dk_at dksX4_cut_4 10 rfl rfl)
theorem dX4_cut_105 : decode cX4_cut 105 = .ok (.goto 4, 3) := dk_167 0 4 (dk_at dksX4_cut_4 11 rfl rfl)
theorem dX4_cut_108 : decode cX4_cut 108 = .ok (.iconst 0, 1) := dk_3 (dk_at dksX4_cut_4 14 rfl rfl)
theorem dX4_cut_109 : decode cX4_cut 109 = .ok (.istore 5, 2) := dk_54 5 (dk_at dksX4_cut_4 15 rfl rfl)
theorem dX4_cut_111 : decode cX4_cut 111 = .ok (.iconst 0, 1) := dk_3 (dk_at dksX4_cut_4 17 rfl rfl)
theorem dX4_cut_112 : decode cX4_cut 112 = .ok (.istore 6, 2) := dk_54 6 (dk_at dksX4_cut_4 18 rfl rfl)
theorem dX4_cut_114 : decode cX4_cut 114 = .ok (.iload 6, 2) := dk_21 6 (dk_at dksX4_cut_4 20 rfl rfl)
theorem dX4_cut_116 : decode cX4_cut 116 = .ok (.aload_n 0, 1) := dk_42 (dk_at dksX4_cut_4 22 rfl rfl)
theorem dX4_cut_117 : decode cX4_cut 117 = .ok (.getfield 20, 3) := dk_180 0 20 (dk_at dksX4_cut_5 0 rfl rfl)
theorem dX4_cut_120 : decode cX4_cut 120 = .ok (.iconst 0, 1) := dk_3 (dk_at dksX4_cut_5 3 rfl rfl)
theorem dX4_cut_121 : decode cX4_cut 121 = .ok (.iaload, 1) := dk_46 (dk_at dksX4_cut_5 4 rfl rfl)
theorem dX4_cut_122 : decode cX4_cut 122 = .ok (.if_icmp .ge 43, 3) := dk_162 0 43 (dk_at dksX4_cut_5 5 rfl rfl)
theorem dX4_cut_125 : decode cX4_cut 125 = .ok (.iload 5, 2) := dk_21 5 (dk_at dksX4_cut_5 8 rfl rfl)
theorem dX4_cut_127 : decode cX4_cut 127 = .ok (.ifCond .eq 38, 3) := dk_153 0 38 (dk_at dksX4_cut_5 10 rfl rfl)
theorem dX4_cut_130 : decode cX4_cut 130 = .ok (.iload 4, 2) := dk_21 4 (dk_at dksX4_cut_5 13 rfl rfl)
theorem dX4_cut_132 : decode cX4_cut 132 = .ok (.iload 6, 2) := dk_21 6 (dk_at dksX4_cut_5 15 rfl rfl)
theorem dX4_cut_134 : decode cX4_cut 134 = .ok (.ishr, 1) := dk_122 (dk_at dksX4_cut_5 17 rfl rfl)
theorem dX4_cut_135 : decode cX4_cut 135 = .ok (.iconst 1, 1) := dk_4 (dk_at dksX4_cut_5 18 rfl rfl)
theorem dX4_cut_136 : decode cX4_cut 136 = .ok (.iand, 1) := dk_126 (dk_at dksX4_cut_5 19 rfl rfl)
theorem dX4_cut_137 : decode cX4_cut 137 = .ok (.ifCond .eq 15, 3) := dk_153 0 15 (dk_at dksX4_cut_5 20 rfl rfl)
theorem dX4_cut_140 : decode cX4_cut 140 = .ok (.aload_n 2, 1) := dk_44 (dk_at dksX4_cut_5 23 rfl rfl)
theorem dX4_cut_141 : decode cX4_cut 141 = .ok (.iload 6, 2) := dk_21 6 (dk_at dksX4_cut_6 0 rfl rfl)
theorem dX4_cut_143 : decode cX4_cut 143 = .ok (.iaload, 1) := dk_46 (dk_at dksX4_cut_6 2 rfl rfl)
theorem dX4_cut_144 : decode cX4_cut 144 = .ok (.iload 4, 2) := dk_21 4 (dk_at dksX4_cut_6 3 rfl rfl)
theorem dX4_cut_146 : decode cX4_cut 146 = .ok (.iconst (-1), 1) := dk_2 (dk_at dksX4_cut_6 5 rfl rfl)
theorem dX4_cut_147 : decode cX4_cut 147 = .ok (.ixor, 1) := dk_130 (dk_at dksX4_cut_6 6 rfl rfl)
theorem dX4_cut_148 : decode cX4_cut 148 = .ok (.iand, 1) := dk_126 (dk_at dksX4_cut_6 7 rfl rfl)
theorem dX4_cut_149 : decode cX4_cut 149 = .ok (.ifCond .ne 7, 3) := dk_154 0 7 (dk_at dksX4_cut_6 8 rfl rfl)
theorem dX4_cut_152 : decode cX4_cut 152 = .ok (.iconst 1, 1) := dk_4 (dk_at dksX4_cut_6 11 rfl rfl)
theorem dX4_cut_153 : decode cX4_cut 153 = .ok (.goto 4, 3) := dk_167 0 4 (dk_at dksX4_cut_6 12 rfl rfl)
theorem dX4_cut_156 : decode cX4_cut 156 = .ok (.iconst 0, 1) := dk_3 (dk_at dksX4_cut_6 15 rfl rfl)
theorem dX4_cut_157 : decode cX4_cut 157 = .ok (.istore 5, 2) := dk_54 5 (dk_at dksX4_cut_6 16 rfl rfl)
theorem dX4_cut_159 : decode cX4_cut 159 = .ok (.iinc 6 1, 3) := dk_132 6 1 (dk_at dksX4_cut_6 18 rfl rfl)
theorem dX4_cut_162 : decode cX4_cut 162 = .ok (.goto (-48), 3) := dk_167 255 208 (dk_at dksX4_cut_6 21 rfl rfl)
theorem dX4_cut_165 : decode cX4_cut 165 = .ok (.iload 5, 2) := dk_21 5 (dk_at dksX4_cut_7 0 rfl rfl)
theorem dX4_cut_167 : decode cX4_cut 167 = .ok (.ifCond .eq 8, 3) := dk_153 0 8 (dk_at dksX4_cut_7 2 rfl rfl)
theorem dX4_cut_170 : decode cX4_cut 170 = .ok (.iload 4, 2) := dk_21 4 (dk_at dksX4_cut_7 5 rfl rfl)
theorem dX4_cut_172 : decode cX4_cut 172 = .ok (.goto 4, 3) := dk_167 0 4 (dk_at dksX4_cut_7 7 rfl rfl)
theorem dX4_cut_175 : decode cX4_cut 175 = .ok (.iload_n 3, 1) := dk_29 (dk_at dksX4_cut_7 10 rfl rfl)
theorem dX4_cut_176 : decode cX4_cut 176 = .ok (.istore_n 3, 1) := dk_62 (dk_at dksX4_cut_7 11 rfl rfl)
theorem dX4_cut_177 : decode cX4_cut 177 = .ok (.iinc 4 1, 3) := dk_132 4 1 (dk_at dksX4_cut_7 12 rfl rfl)
theorem dX4_cut_180 : decode cX4_cut 180 = .ok (.goto (-107), 3) := dk_167 255 149 (dk_at dksX4_cut_7 15 rfl rfl)
theorem dX4_cut_183 : decode cX4_cut 183 = .ok (.iload_n 3, 1) := dk_29 (dk_at dksX4_cut_7 18 rfl rfl)
theorem dX4_cut_184 : decode cX4_cut 184 = .ok (.ireturn, 1) := dk_172 (dk_at dksX4_cut_7 19 rfl rfl)
abbrev cX4_detour : ByteArray := prog_10_method_103_code
def yX4_detour : MethodName := ⟨RX4, "detour", "(III)I"⟩
def dkwX4_detour_7 : List UInt8 := [167, 255, 197, 132, 5, 1, 167, 255, 167, 21, 4, 42, 27, 28, 182, 1, 57, 100, 172]
abbrev dktX4_detour_7 : List UInt8 := dkwX4_detour_7 ++ []
def dkwX4_detour_6 : List UInt8 := [182, 1, 9, 158, 0, 17, 42, 180, 0, 61, 21, 5, 92, 47, 10, 21, 6, 121, 129, 80, 132, 6, 1]
abbrev dktX4_detour_6 : List UInt8 := dkwX4_detour_6 ++ dktX4_detour_7
def dkwX4_detour_5 : List UInt8 := [42, 21, 5, 182, 1, 6, 153, 0, 37, 42, 21, 6, 182, 1, 6, 153, 0, 28, 42, 21, 5, 21, 6]
abbrev dktX4_detour_5 : List UInt8 := dkwX4_detour_5 ++ dktX4_detour_6
def dkwX4_detour_4 : List UInt8 := [42, 180, 0, 61, 21, 5, 9, 80, 3, 54, 6, 21, 6, 5, 42, 180, 0, 20, 4, 46, 104, 162, 0, 52]
abbrev dktX4_detour_4 : List UInt8 := dkwX4_detour_4 ++ dktX4_detour_5
def dkwX4_detour_3 : List UInt8 := [21, 4, 2, 160, 0, 5, 2, 172, 3, 54, 5, 21, 5, 5, 42, 180, 0, 20, 4, 46, 104, 162, 0, 82]
abbrev dktX4_detour_3 : List UInt8 := dkwX4_detour_3 ++ dktX4_detour_4
def dkwX4_detour_2 : List UInt8 := [3, 5, 182, 0, 227, 153, 0, 5, 3, 172, 42, 29, 182, 1, 54, 42, 27, 28, 182, 1, 57, 54, 4]
abbrev dktX4_detour_2 : List UInt8 := dkwX4_detour_2 ++ dktX4_detour_3
def dkwX4_detour_1 : List UInt8 := [167, 0, 4, 3, 4, 182, 0, 227, 154, 0, 24, 42, 42, 29, 182, 1, 25, 154, 0, 7, 4, 167, 0, 4]
abbrev dktX4_detour_1 : List UInt8 := dkwX4_detour_1 ++ dktX4_detour_2
def dkwX4_detour_0 : List UInt8 := [42, 3, 181, 0, 131, 42, 42, 27, 182, 1, 51, 153, 0, 11, 42, 28, 182, 1, 51, 154, 0, 7, 4]
abbrev dktX4_detour_0 : List UInt8 := dkwX4_detour_0 ++ dktX4_detour_1
theorem dksX4_detour_0 : cX4_detour.data.toList.drop 0 = dktX4_detour_0 := by decide +kernel
theorem dksX4_detour_1 : cX4_detour.data.toList.drop 23 = dktX4_detour_1 := dk_seg dksX4_detour_0 23 rfl rfl
theorem dksX4_detour_2 : cX4_detour.data.toList.drop 47 = dktX4_detour_2 := dk_seg dksX4_detour_1 24 rfl rfl
theorem dksX4_detour_3 : cX4_detour.data.toList.drop 70 = dktX4_detour_3 := dk_seg dksX4_detour_2 23 rfl rfl
theorem dksX4_detour_4 : cX4_detour.data.toList.drop 94 = dktX4_detour_4 := dk_seg dksX4_detour_3 24 rfl rfl
theorem dksX4_detour_5 : cX4_detour.data.toList.drop 118 = dktX4_detour_5 := dk_seg dksX4_detour_4 24 rfl rfl
theorem dksX4_detour_6 : cX4_detour.data.toList.drop 141 = dktX4_detour_6 := dk_seg dksX4_detour_5 23 rfl rfl
theorem dksX4_detour_7 : cX4_detour.data.toList.drop 164 = dktX4_detour_7 := dk_seg dksX4_detour_6 23 rfl rfl
theorem dX4_detour_0 : decode cX4_detour 0 = .ok (.aload_n 0, 1) := dk_42 (dk_at dksX4_detour_0 0 rfl rfl)
theorem dX4_detour_1 : decode cX4_detour 1 = .ok (.iconst 0, 1) := dk_3 (dk_at dksX4_detour_0 1 rfl rfl)
theorem dX4_detour_2 : decode cX4_detour 2 = .ok (.putfield 131, 3) := dk_181 0 131 (dk_at dksX4_detour_0 2 rfl rfl)
theorem dX4_detour_5 : decode cX4_detour 5 = .ok (.aload_n 0, 1) := dk_42 (dk_at dksX4_detour_0 5 rfl rfl)
theorem dX4_detour_6 : decode cX4_detour 6 = .ok (.aload_n 0, 1) := dk_42 (dk_at dksX4_detour_0 6 rfl rfl)
theorem dX4_detour_7 : decode cX4_detour 7 = .ok (.iload_n 1, 1) := dk_27 (dk_at dksX4_detour_0 7 rfl rfl)
theorem dX4_detour_8 : decode cX4_detour 8 = .ok (.invokevirtual 307, 3) := dk_182 1 51 (dk_at dksX4_detour_0 8 rfl rfl)
theorem dX4_detour_11 : decode cX4_detour 11 = .ok (.ifCond .eq 11, 3) := dk_153 0 11 (dk_at dksX4_detour_0 11 rfl rfl)
theorem dX4_detour_14 : decode cX4_detour 14 = .ok (.aload_n 0, 1) := dk_42 (dk_at dksX4_detour_0 14 rfl rfl)
theorem dX4_detour_15 : decode cX4_detour 15 = .ok (.iload_n 2, 1) := dk_28 (dk_at dksX4_detour_0 15 rfl rfl)
theorem dX4_detour_16 : decode cX4_detour 16 = .ok (.invokevirtual 307, 3) := dk_182 1 51 (dk_at dksX4_detour_0 16 rfl rfl)
theorem dX4_detour_19 : decode cX4_detour 19 = .ok (.ifCond .ne 7, 3) := dk_154 0 7 (dk_at dksX4_detour_0 19 rfl rfl)
theorem dX4_detour_22 : decode cX4_detour 22 = .ok (.iconst 1, 1) := dk_4 (dk_at dksX4_detour_0 22 rfl rfl)
theorem dX4_detour_23 : decode cX4_detour 23 = .ok (.goto 4, 3) := dk_167 0 4 (dk_at dksX4_detour_1 0 rfl rfl)
theorem dX4_detour_26 : decode cX4_detour 26 = .ok (.iconst 0, 1) := dk_3 (dk_at dksX4_detour_1 3 rfl rfl)
theorem dX4_detour_27 : decode cX4_detour 27 = .ok (.iconst 1, 1) := dk_4 (dk_at dksX4_detour_1 4 rfl rfl)
theorem dX4_detour_28 : decode cX4_detour 28 = .ok (.invokevirtual 227, 3) := dk_182 0 227 (dk_at dksX4_detour_1 5 rfl rfl)
theorem dX4_detour_31 : decode cX4_detour 31 = .ok (.ifCond .ne 24, 3) := dk_154 0 24 (dk_at dksX4_detour_1 8 rfl rfl)
theorem dX4_detour_34 : decode cX4_detour 34 = .ok (.aload_n 0, 1) := dk_42 (dk_at dksX4_detour_1 11 rfl rfl)
theorem dX4_detour_35 : decode cX4_detour 35 = .ok (.aload_n 0, 1) := dk_42 (dk_at dksX4_detour_1 12 rfl rfl)
theorem dX4_detour_36 : decode cX4_detour 36 = .ok (.iload_n 3, 1) := dk_29 (dk_at dksX4_detour_1 13 rfl rfl)
theorem dX4_detour_37 : decode cX4_detour 37 = .ok (.invokevirtual 281, 3) := dk_182 1 25 (dk_at dksX4_detour_1 14 rfl rfl)
theorem dX4_detour_40 : decode cX4_detour 40 = .ok (.ifCond .ne 7, 3) := dk_154 0 7 (dk_at dksX4_detour_1 17 rfl rfl)
theorem dX4_detour_43 : decode cX4_detour 43 = .ok (.iconst 1, 1) := dk_4 (dk_at dksX4_detour_1 20 rfl rfl)
theorem dX4_detour_44 : decode cX4_detour 44 = .ok (.goto 4, 3) := dk_167 0 4 (dk_at dksX4_detour_1 21 rfl rfl)
theorem dX4_detour_47 : decode cX4_detour 47 = .ok (.iconst 0, 1) := dk_3 (dk_at dksX4_detour_2 0 rfl rfl)
theorem dX4_detour_48 : decode cX4_detour 48 = .ok (.iconst 2, 1) := dk_5 (dk_at dksX4_detour_2 1 rfl rfl)
theorem dX4_detour_49 : decode cX4_detour 49 = .ok (.invokevirtual 227, 3) := dk_182 0 227 (dk_at dksX4_detour_2 2 rfl rfl)
theorem dX4_detour_52 : decode cX4_detour 52 = .ok (.ifCond .eq 5, 3) := dk_153 0 5 (dk_at dksX4_detour_2 5 rfl rfl)
theorem dX4_detour_55 : decode cX4_detour 55 = .ok (.iconst 0, 1) := dk_3 (dk_at dksX4_detour_2 8 rfl rfl)
theorem dX4_detour_56 : decode cX4_detour 56 = .ok (.ireturn, 1) := dk_172 (dk_at dksX4_detour_2 9 rfl rfl)
theorem dX4_detour_57 : decode cX4_detour 57 = .ok (.aload_n 0, 1) := dk_42 (dk_at dksX4_detour_2 10 rfl rfl)
theorem dX4_detour_58 : decode cX4_detour 58 = .ok (.iload_n 3, 1) := dk_29 (dk_at dksX4_detour_2 11 rfl rfl)
theorem dX4_detour_59 : decode cX4_detour 59 = .ok (.invokevirtual 310, 3) := dk_182 1 54 (dk_at dksX4_detour_2 12 rfl rfl)
theorem dX4_detour_62 : decode cX4_detour 62 = .ok (.aload_n 0, 1) := dk_42 (dk_at dksX4_detour_2 15 rfl rfl)
theorem dX4_detour_63 : decode cX4_detour 63 = .ok (.iload_n 1, 1) := dk_27 (dk_at dksX4_detour_2 16 rfl rfl)
theorem dX4_detour_64 : decode cX4_detour 64 = .ok (.iload_n 2, 1) := dk_28 (dk_at dksX4_detour_2 17 rfl rfl)
theorem dX4_detour_65 : decode cX4_detour 65 = .ok (.invokevirtual 313, 3) := dk_182 1 57 (dk_at dksX4_detour_2 18 rfl rfl)
theorem dX4_detour_68 : decode cX4_detour 68 = .ok (.istore 4, 2) := dk_54 4 (dk_at dksX4_detour_2 21 rfl rfl)
theorem dX4_detour_70 : decode cX4_detour 70 = .ok (.iload 4, 2) := dk_21 4 (dk_at dksX4_detour_3 0 rfl rfl)
theorem dX4_detour_72 : decode cX4_detour 72 = .ok (.iconst (-1), 1) := dk_2 (dk_at dksX4_detour_3 2 rfl rfl)
theorem dX4_detour_73 : decode cX4_detour 73 = .ok (.if_icmp .ne 5, 3) := dk_160 0 5 (dk_at dksX4_detour_3 3 rfl rfl)
theorem dX4_detour_76 : decode cX4_detour 76 = .ok (.iconst (-1), 1) := dk_2 (dk_at dksX4_detour_3 6 rfl rfl)
theorem dX4_detour_77 : decode cX4_detour 77 = .ok (.ireturn, 1) := dk_172 (dk_at dksX4_detour_3 7 rfl rfl)
theorem dX4_detour_78 : decode cX4_detour 78 = .ok (.iconst 0, 1) := dk_3 (dk_at dksX4_detour_3 8 rfl rfl)
theorem dX4_detour_79 : decode cX4_detour 79 = .ok (.istore 5, 2) := dk_54 5 (dk_at dksX4_detour_3 9 rfl rfl)
theorem dX4_detour_81 : decode cX4_detour 81 = .ok (.iload 5, 2) := dk_21 5 (dk_at dksX4_detour_3 11 rfl rfl)
theorem dX4_detour_83 : decode cX4_detour 83 = .ok (.iconst 2, 1) := dk_5 (dk_at dksX4_detour_3 13 rfl rfl)
theorem dX4_detour_84 : decode cX4_detour 84 = .ok (.aload_n 0, 1) := dk_42 (dk_at dksX4_detour_3 14 rfl rfl)
theorem dX4_detour_85 : decode cX4_detour 85 = .ok (.getfield 20, 3) := dk_180 0 20 (dk_at dksX4_detour_3 15 rfl rfl)
theorem dX4_detour_88 : decode cX4_detour 88 = .ok (.iconst 1, 1) := dk_4 (dk_at dksX4_detour_3 18 rfl rfl)
theorem dX4_detour_89 : decode cX4_detour 89 = .ok (.iaload, 1) := dk_46 (dk_at dksX4_detour_3 19 rfl rfl)
theorem dX4_detour_90 : decode cX4_detour 90 = .ok (.imul, 1) := dk_104 (dk_at dksX4_detour_3 20 rfl rfl)
theorem dX4_detour_91 : decode cX4_detour 91 = .ok (.if_icmp .ge 82, 3) := dk_162 0 82 (dk_at dksX4_detour_3 21 rfl rfl)
theorem dX4_detour_94 : decode cX4_detour 94 = .ok (.aload_n 0, 1) := dk_42 (dk_at dksX4_detour_4 0 rfl rfl)
theorem dX4_detour_95 : decode cX4_detour 95 = .ok (.getfield 61, 3) := dk_180 0 61 (dk_at dksX4_detour_4 1 rfl rfl)
theorem dX4_detour_98 : decode cX4_detour 98 = .ok (.iload 5, 2) := dk_21 5 (dk_at dksX4_detour_4 4 rfl rfl)
theorem dX4_detour_100 : decode cX4_detour 100 = .ok (.lconst 0, 1) := dk_9 (dk_at dksX4_detour_4 6 rfl rfl)
theorem dX4_detour_101 : decode cX4_detour 101 = .ok (.lastore, 1) := dk_80 (dk_at dksX4_detour_4 7 rfl rfl)
theorem dX4_detour_102 : decode cX4_detour 102 = .ok (.iconst 0, 1) := dk_3 (dk_at dksX4_detour_4 8 rfl rfl)
theorem dX4_detour_103 : decode cX4_detour 103 = .ok (.istore 6, 2) := dk_54 6 (dk_at dksX4_detour_4 9 rfl rfl)
theorem dX4_detour_105 : decode cX4_detour 105 = .ok (.iload 6, 2) := dk_21 6 (dk_at dksX4_detour_4 11 rfl rfl)
theorem dX4_detour_107 : decode cX4_detour 107 = .ok (.iconst 2, 1) := dk_5 (dk_at dksX4_detour_4 13 rfl rfl)
theorem dX4_detour_108 : decode cX4_detour 108 = .ok (.aload_n 0, 1) := dk_42 (dk_at dksX4_detour_4 14 rfl rfl)
theorem dX4_detour_109 : decode cX4_detour 109 = .ok (.getfield 20, 3) := dk_180 0 20 (dk_at dksX4_detour_4 15 rfl rfl)
theorem dX4_detour_112 : decode cX4_detour 112 = .ok (.iconst 1, 1) := dk_4 (dk_at dksX4_detour_4 18 rfl rfl)
theorem dX4_detour_113 : decode cX4_detour 113 = .ok (.iaload, 1) := dk_46 (dk_at dksX4_detour_4 19 rfl rfl)
theorem dX4_detour_114 : decode cX4_detour 114 = .ok (.imul, 1) := dk_104 (dk_at dksX4_detour_4 20 rfl rfl)
theorem dX4_detour_115 : decode cX4_detour 115 = .ok (.if_icmp .ge 52, 3) := dk_162 0 52 (dk_at dksX4_detour_4 21 rfl rfl)
theorem dX4_detour_118 : decode cX4_detour 118 = .ok (.aload_n 0, 1) := dk_42 (dk_at dksX4_detour_5 0 rfl rfl)
theorem dX4_detour_119 : decode cX4_detour 119 = .ok (.iload 5, 2) := dk_21 5 (dk_at dksX4_detour_5 1 rfl rfl)
theorem dX4_detour_121 : decode cX4_detour 121 = .ok (.invokevirtual 262, 3) := dk_182 1 6 (dk_at dksX4_detour_5 3 rfl rfl)
theorem dX4_detour_124 : decode cX4_detour 124 = .ok (.ifCond .eq 37, 3) := dk_153 0 37 (dk_at dksX4_detour_5 6 rfl rfl)
theorem dX4_detour_127 : decode cX4_detour 127 = .ok (.aload_n 0, 1) := dk_42 (dk_at dksX4_detour_5 9 rfl rfl)
theorem dX4_detour_128 : decode cX4_detour 128 = .ok (.iload 6, 2) := dk_21 6 (dk_at dksX4_detour_5 10 rfl rfl)
theorem dX4_detour_130 : decode cX4_detour 130 = .ok (.invokevirtual 262, 3) := dk_182 1 6 (dk_at dksX4_detour_5 12 rfl rfl)
theorem dX4_detour_133 : decode cX4_detour 133 = .ok (.ifCond .eq 28, 3) := dk_153 0 28 (dk_at dksX4_detour_5 15 rfl rfl)
theorem dX4_detour_136 : decode cX4_detour 136 = .ok (.aload_n 0, 1) := dk_42 (dk_at dksX4_detour_5 18 rfl rfl)
theorem dX4_detour_137 : decode cX4_detour 137 = .ok (.iload 5, 2) := dk_21 5 (dk_at dksX4_detour_5 19 rfl rfl)
theorem dX4_detour_139 : decode cX4_detour 139 = .ok (.iload 6, 2) := dk_21 6 (dk_at dksX4_detour_5 21 rfl rfl)
theorem dX4_detour_141 : decode cX4_detour 141 = .ok (.invokevirtual 265, 3) := dk_182 1 9 (dk_at dksX4_detour_6 0 rfl rfl)
theorem dX4_detour_144 : decode cX4_detour 144 = .ok (.ifCond .le 17, 3) := dk_158 0 17 (dk_at dksX4_detour_6 3 rfl rfl)
theorem dX4_detour_147 : decode cX4_detour 147 = .ok (.aload_n 0, 1) := dk_42 (dk_at dksX4_detour_6 6 rfl rfl)
theorem dX4_detour_148 : decode cX4_detour 148 = .ok (.getfield 61, 3) := dk_180 0 61 (dk_at dksX4_detour_6 7 rfl rfl)
theorem dX4_detour_151 : decode cX4_detour 151 = .ok (.iload 5, 2) := dk_21 5 (dk_at dksX4_detour_6 10 rfl rfl)
theorem dX4_detour_153 : decode cX4_detour 153 = .ok (.dup2, 1) := dk_92 (dk_at dksX4_detour_6 12 rfl rfl)
theorem dX4_detour_154 : decode cX4_detour 154 = .ok (.laload, 1) := dk_47 (dk_at dksX4_detour_6 13 rfl rfl)
theorem dX4_detour_155 : decode cX4_detour 155 = .ok (.lconst 1, 1) := dk_10 (dk_at dksX4_detour_6 14 rfl rfl)
theorem dX4_detour_156 : decode cX4_detour 156 = .ok (.iload 6, 2) := dk_21 6 (dk_at dksX4_detour_6 15 rfl rfl)
theorem dX4_detour_158 : decode cX4_detour 158 = .ok (.lshl, 1) := dk_121 (dk_at dksX4_detour_6 17 rfl rfl)
theorem dX4_detour_159 : decode cX4_detour 159 = .ok (.lor, 1) := dk_129 (dk_at dksX4_detour_6 18 rfl rfl)
theorem dX4_detour_160 : decode cX4_detour 160 = .ok (.lastore, 1) := dk_80 (dk_at dksX4_detour_6 19 rfl rfl)
theorem dX4_detour_161 : decode cX4_detour 161 = .ok (.iinc 6 1, 3) := dk_132 6 1 (dk_at dksX4_detour_6 20 rfl rfl)
theorem dX4_detour_164 : decode cX4_detour 164 = .ok (.goto (-59), 3) := dk_167 255 197 (dk_at dksX4_detour_7 0 rfl rfl)
theorem dX4_detour_167 : decode cX4_detour 167 = .ok (.iinc 5 1, 3) := dk_132 5 1 (dk_at dksX4_detour_7 3 rfl rfl)
theorem dX4_detour_170 : decode cX4_detour 170 = .ok (.goto (-89), 3) := dk_167 255 167 (dk_at dksX4_detour_7 6 rfl rfl)
theorem dX4_detour_173 : decode cX4_detour 173 = .ok (.iload 4, 2) := dk_21 4 (dk_at dksX4_detour_7 9 rfl rfl)
theorem dX4_detour_175 : decode cX4_detour 175 = .ok (.aload_n 0, 1) := dk_42 (dk_at dksX4_detour_7 11 rfl rfl)
theorem dX4_detour_176 : decode cX4_detour 176 = .ok (.iload_n 1, 1) := dk_27 (dk_at dksX4_detour_7 12 rfl rfl)
theorem dX4_detour_177 : decode cX4_detour 177 = .ok (.iload_n 2, 1) := dk_28 (dk_at dksX4_detour_7 13 rfl rfl)
theorem dX4_detour_178 : decode cX4_detour 178 = .ok (.invokevirtual 313, 3) := dk_182 1 57 (dk_at dksX4_detour_7 14 rfl rfl)
theorem dX4_detour_181 : decode cX4_detour 181 = .ok (.isub, 1) := dk_100 (dk_at dksX4_detour_7 17 rfl rfl)
theorem dX4_detour_182 : decode cX4_detour 182 = .ok (.ireturn, 1) := dk_172 (dk_at dksX4_detour_7 18 rfl rfl)
abbrev cX4_gain : ByteArray := prog_10_method_105_code
def yX4_gain : MethodName := ⟨RX4, "gain", "(II)I"⟩
def dkwX4_gain_7 : List UInt8 := [172]
abbrev dktX4_gain_7 : List UInt8 := dkwX4_gain_7 ++ []
def dkwX4_gain_6 : List UInt8 := [54, 4, 42, 180, 1, 155, 54, 5, 132, 6, 1, 167, 255, 168, 28, 154, 0, 7, 29, 167, 0, 5, 21, 5]
abbrev dktX4_gain_6 : List UInt8 := dkwX4_gain_6 ++ dktX4_gain_7
def dkwX4_gain_5 : List UInt8 := [180, 1, 155, 21, 5, 161, 0, 6, 167, 0, 23, 42, 180, 0, 77, 21, 6, 46, 62, 42, 180, 1, 152]
abbrev dktX4_gain_5 : List UInt8 := dkwX4_gain_5 ++ dktX4_gain_6
def dkwX4_gain_4 : List UInt8 := [182, 1, 99, 42, 180, 1, 152, 21, 4, 161, 0, 44, 42, 180, 1, 152, 21, 4, 160, 0, 15, 42]
abbrev dktX4_gain_4 : List UInt8 := dkwX4_gain_4 ++ dktX4_gain_5
def dkwX4_gain_3 : List UInt8 := [42, 42, 180, 0, 77, 21, 6, 46, 182, 1, 99, 42, 182, 1, 158, 42, 42, 180, 0, 77, 21, 6, 46]
abbrev dktX4_gain_3 : List UInt8 := dkwX4_gain_3 ++ dktX4_gain_4
def dkwX4_gain_2 : List UInt8 := [42, 180, 1, 152, 54, 4, 42, 180, 1, 155, 54, 5, 3, 54, 6, 21, 6, 42, 180, 1, 78, 162, 0, 85]
abbrev dktX4_gain_2 : List UInt8 := dkwX4_gain_2 ++ dktX4_gain_3
def dkwX4_gain_1 : List UInt8 := [167, 0, 4, 3, 4, 182, 0, 227, 153, 0, 5, 3, 172, 42, 27, 182, 1, 87, 42, 182, 1, 158, 2, 62]
abbrev dktX4_gain_1 : List UInt8 := dkwX4_gain_1 ++ dktX4_gain_2
def dkwX4_gain_0 : List UInt8 := [42, 3, 181, 0, 131, 42, 42, 27, 182, 1, 25, 153, 0, 12, 28, 3, 4, 184, 0, 165, 154, 0, 7, 4]
abbrev dktX4_gain_0 : List UInt8 := dkwX4_gain_0 ++ dktX4_gain_1
theorem dksX4_gain_0 : cX4_gain.data.toList.drop 0 = dktX4_gain_0 := by decide +kernel
theorem dksX4_gain_1 : cX4_gain.data.toList.drop 24 = dktX4_gain_1 := dk_seg dksX4_gain_0 24 rfl rfl
theorem dksX4_gain_2 : cX4_gain.data.toList.drop 48 = dktX4_gain_2 := dk_seg dksX4_gain_1 24 rfl rfl
theorem dksX4_gain_3 : cX4_gain.data.toList.drop 72 = dktX4_gain_3 := dk_seg dksX4_gain_2 24 rfl rfl
theorem dksX4_gain_4 : cX4_gain.data.toList.drop 95 = dktX4_gain_4 := dk_seg dksX4_gain_3 23 rfl rfl
theorem dksX4_gain_5 : cX4_gain.data.toList.drop 117 = dktX4_gain_5 := dk_seg dksX4_gain_4 22 rfl rfl
theorem dksX4_gain_6 : cX4_gain.data.toList.drop 140 = dktX4_gain_6 := dk_seg dksX4_gain_5 23 rfl rfl
theorem dksX4_gain_7 : cX4_gain.data.toList.drop 164 = dktX4_gain_7 := dk_seg dksX4_gain_6 24 rfl rfl
theorem dX4_gain_0 : decode cX4_gain 0 = .ok (.aload_n 0, 1) := dk_42 (dk_at dksX4_gain_0 0 rfl rfl)
theorem dX4_gain_1 : decode cX4_gain 1 = .ok (.iconst 0, 1) := dk_3 (dk_at dksX4_gain_0 1 rfl rfl)
theorem dX4_gain_2 : decode cX4_gain 2 = .ok (.putfield 131, 3) := dk_181 0 131 (dk_at dksX4_gain_0 2 rfl rfl)
theorem dX4_gain_5 : decode cX4_gain 5 = .ok (.aload_n 0, 1) := dk_42 (dk_at dksX4_gain_0 5 rfl rfl)
theorem dX4_gain_6 : decode cX4_gain 6 = .ok (.aload_n 0, 1) := dk_42 (dk_at dksX4_gain_0 6 rfl rfl)
theorem dX4_gain_7 : decode cX4_gain 7 = .ok (.iload_n 1, 1) := dk_27 (dk_at dksX4_gain_0 7 rfl rfl)
theorem dX4_gain_8 : decode cX4_gain 8 = .ok (.invokevirtual 281, 3) := dk_182 1 25 (dk_at dksX4_gain_0 8 rfl rfl)
theorem dX4_gain_11 : decode cX4_gain 11 = .ok (.ifCond .eq 12, 3) := dk_153 0 12 (dk_at dksX4_gain_0 11 rfl rfl)
theorem dX4_gain_14 : decode cX4_gain 14 = .ok (.iload_n 2, 1) := dk_28 (dk_at dksX4_gain_0 14 rfl rfl)
theorem dX4_gain_15 : decode cX4_gain 15 = .ok (.iconst 0, 1) := dk_3 (dk_at dksX4_gain_0 15 rfl rfl)
theorem dX4_gain_16 : decode cX4_gain 16 = .ok (.iconst 1, 1) := dk_4 (dk_at dksX4_gain_0 16 rfl rfl)
theorem dX4_gain_17 : decode cX4_gain 17 = .ok (.invokestatic 165, 3) := dk_184 0 165 (dk_at dksX4_gain_0 17 rfl rfl)
theorem dX4_gain_20 : decode cX4_gain 20 = .ok (.ifCond .ne 7, 3) := dk_154 0 7 (dk_at dksX4_gain_0 20 rfl rfl)
theorem dX4_gain_23 : decode cX4_gain 23 = .ok (.iconst 1, 1) := dk_4 (dk_at dksX4_gain_0 23 rfl rfl)
theorem dX4_gain_24 : decode cX4_gain 24 = .ok (.goto 4, 3) := dk_167 0 4 (dk_at dksX4_gain_1 0 rfl rfl)
theorem dX4_gain_27 : decode cX4_gain 27 = .ok (.iconst 0, 1) := dk_3 (dk_at dksX4_gain_1 3 rfl rfl)
theorem dX4_gain_28 : decode cX4_gain 28 = .ok (.iconst 1, 1) := dk_4 (dk_at dksX4_gain_1 4 rfl rfl)
theorem dX4_gain_29 : decode cX4_gain 29 = .ok (.invokevirtual 227, 3) := dk_182 0 227 (dk_at dksX4_gain_1 5 rfl rfl)
theorem dX4_gain_32 : decode cX4_gain 32 = .ok (.ifCond .eq 5, 3) := dk_153 0 5 (dk_at dksX4_gain_1 8 rfl rfl)
theorem dX4_gain_35 : decode cX4_gain 35 = .ok (.iconst 0, 1) := dk_3 (dk_at dksX4_gain_1 11 rfl rfl)
theorem dX4_gain_36 : decode cX4_gain 36 = .ok (.ireturn, 1) := dk_172 (dk_at dksX4_gain_1 12 rfl rfl)
theorem dX4_gain_37 : decode cX4_gain 37 = .ok (.aload_n 0, 1) := dk_42 (dk_at dksX4_gain_1 13 rfl rfl)
theorem dX4_gain_38 : decode cX4_gain 38 = .ok (.iload_n 1, 1) := dk_27 (dk_at dksX4_gain_1 14 rfl rfl)
theorem dX4_gain_39 : decode cX4_gain 39 = .ok (.invokevirtual 343, 3) := dk_182 1 87 (dk_at dksX4_gain_1 15 rfl rfl)
theorem dX4_gain_42 : decode cX4_gain 42 = .ok (.aload_n 0, 1) := dk_42 (dk_at dksX4_gain_1 18 rfl rfl)
theorem dX4_gain_43 : decode cX4_gain 43 = .ok (.invokevirtual 414, 3) := dk_182 1 158 (dk_at dksX4_gain_1 19 rfl rfl)
theorem dX4_gain_46 : decode cX4_gain 46 = .ok (.iconst (-1), 1) := dk_2 (dk_at dksX4_gain_1 22 rfl rfl)
theorem dX4_gain_47 : decode cX4_gain 47 = .ok (.istore_n 3, 1) := dk_62 (dk_at dksX4_gain_1 23 rfl rfl)
theorem dX4_gain_48 : decode cX4_gain 48 = .ok (.aload_n 0, 1) := dk_42 (dk_at dksX4_gain_2 0 rfl rfl)
theorem dX4_gain_49 : decode cX4_gain 49 = .ok (.getfield 408, 3) := dk_180 1 152 (dk_at dksX4_gain_2 1 rfl rfl)
theorem dX4_gain_52 : decode cX4_gain 52 = .ok (.istore 4, 2) := dk_54 4 (dk_at dksX4_gain_2 4 rfl rfl)
theorem dX4_gain_54 : decode cX4_gain 54 = .ok (.aload_n 0, 1) := dk_42 (dk_at dksX4_gain_2 6 rfl rfl)
theorem dX4_gain_55 : decode cX4_gain 55 = .ok (.getfield 411, 3) := dk_180 1 155 (dk_at dksX4_gain_2 7 rfl rfl)
theorem dX4_gain_58 : decode cX4_gain 58 = .ok (.istore 5, 2) := dk_54 5 (dk_at dksX4_gain_2 10 rfl rfl)
theorem dX4_gain_60 : decode cX4_gain 60 = .ok (.iconst 0, 1) := dk_3 (dk_at dksX4_gain_2 12 rfl rfl)
theorem dX4_gain_61 : decode cX4_gain 61 = .ok (.istore 6, 2) := dk_54 6 (dk_at dksX4_gain_2 13 rfl rfl)
theorem dX4_gain_63 : decode cX4_gain 63 = .ok (.iload 6, 2) := dk_21 6 (dk_at dksX4_gain_2 15 rfl rfl)
theorem dX4_gain_65 : decode cX4_gain 65 = .ok (.aload_n 0, 1) := dk_42 (dk_at dksX4_gain_2 17 rfl rfl)
theorem dX4_gain_66 : decode cX4_gain 66 = .ok (.getfield 334, 3) := dk_180 1 78 (dk_at dksX4_gain_2 18 rfl rfl)
theorem dX4_gain_69 : decode cX4_gain 69 = .ok (.if_icmp .ge 85, 3) := dk_162 0 85 (dk_at dksX4_gain_2 21 rfl rfl)
theorem dX4_gain_72 : decode cX4_gain 72 = .ok (.aload_n 0, 1) := dk_42 (dk_at dksX4_gain_3 0 rfl rfl)
theorem dX4_gain_73 : decode cX4_gain 73 = .ok (.aload_n 0, 1) := dk_42 (dk_at dksX4_gain_3 1 rfl rfl)
theorem dX4_gain_74 : decode cX4_gain 74 = .ok (.getfield 77, 3) := dk_180 0 77 (dk_at dksX4_gain_3 2 rfl rfl)
theorem dX4_gain_77 : decode cX4_gain 77 = .ok (.iload 6, 2) := dk_21 6 (dk_at dksX4_gain_3 5 rfl rfl)
theorem dX4_gain_79 : decode cX4_gain 79 = .ok (.iaload, 1) := dk_46 (dk_at dksX4_gain_3 7 rfl rfl)
theorem dX4_gain_80 : decode cX4_gain 80 = .ok (.invokevirtual 355, 3) := dk_182 1 99 (dk_at dksX4_gain_3 8 rfl rfl)
theorem dX4_gain_83 : decode cX4_gain 83 = .ok (.aload_n 0, 1) := dk_42 (dk_at dksX4_gain_3 11 rfl rfl)
theorem dX4_gain_84 : decode cX4_gain 84 = .ok (.invokevirtual 414, 3) := dk_182 1 158 (dk_at dksX4_gain_3 12 rfl rfl)
theorem dX4_gain_87 : decode cX4_gain 87 = .ok (.aload_n 0, 1) := dk_42 (dk_at dksX4_gain_3 15 rfl rfl)
theorem dX4_gain_88 : decode cX4_gain 88 = .ok (.aload_n 0, 1) := dk_42 (dk_at dksX4_gain_3 16 rfl rfl)
theorem dX4_gain_89 : decode cX4_gain 89 = .ok (.getfield 77, 3) := dk_180 0 77 (dk_at dksX4_gain_3 17 rfl rfl)
theorem dX4_gain_92 : decode cX4_gain 92 = .ok (.iload 6, 2) := dk_21 6 (dk_at dksX4_gain_3 20 rfl rfl)
theorem dX4_gain_94 : decode cX4_gain 94 = .ok (.iaload, 1) := dk_46 (dk_at dksX4_gain_3 22 rfl rfl)
theorem dX4_gain_95 : decode cX4_gain 95 = .ok (.invokevirtual 355, 3) := dk_182 1 99 (dk_at dksX4_gain_4 0 rfl rfl)
theorem dX4_gain_98 : decode cX4_gain 98 = .ok (.aload_n 0, 1) := dk_42 (dk_at dksX4_gain_4 3 rfl rfl)
theorem dX4_gain_99 : decode cX4_gain 99 = .ok (.getfield 408, 3) := dk_180 1 152 (dk_at dksX4_gain_4 4 rfl rfl)
theorem dX4_gain_102 : decode cX4_gain 102 = .ok (.iload 4, 2) := dk_21 4 (dk_at dksX4_gain_4 7 rfl rfl)
theorem dX4_gain_104 : decode cX4_gain 104 = .ok (.if_icmp .lt 44, 3) := dk_161 0 44 (dk_at dksX4_gain_4 9 rfl rfl)
theorem dX4_gain_107 : decode cX4_gain 107 = .ok (.aload_n 0, 1) := dk_42 (dk_at dksX4_gain_4 12 rfl rfl)
theorem dX4_gain_108 : decode cX4_gain 108 = .ok (.getfield 408, 3) := dk_180 1 152 (dk_at dksX4_gain_4 13 rfl rfl)
theorem dX4_gain_111 : decode cX4_gain 111 = .ok (.iload 4, 2) := dk_21 4 (dk_at dksX4_gain_4 16 rfl rfl)
theorem dX4_gain_113 : decode cX4_gain 113 = .ok (.if_icmp .ne 15, 3) := dk_160 0 15 (dk_at dksX4_gain_4 18 rfl rfl)
theorem dX4_gain_116 : decode cX4_gain 116 = .ok (.aload_n 0, 1) := dk_42 (dk_at dksX4_gain_4 21 rfl rfl)
theorem dX4_gain_117 : decode cX4_gain 117 = .ok (.getfield 411, 3) := dk_180 1 155 (dk_at dksX4_gain_5 0 rfl rfl)
theorem dX4_gain_120 : decode cX4_gain 120 = .ok (.iload 5, 2) := dk_21 5 (dk_at dksX4_gain_5 3 rfl rfl)
theorem dX4_gain_122 : decode cX4_gain 122 = .ok (.if_icmp .lt 6, 3) := dk_161 0 6 (dk_at dksX4_gain_5 5 rfl rfl)
theorem dX4_gain_125 : decode cX4_gain 125 = .ok (.goto 23, 3) := dk_167 0 23 (dk_at dksX4_gain_5 8 rfl rfl)
theorem dX4_gain_128 : decode cX4_gain 128 = .ok (.aload_n 0, 1) := dk_42 (dk_at dksX4_gain_5 11 rfl rfl)
theorem dX4_gain_129 : decode cX4_gain 129 = .ok (.getfield 77, 3) := dk_180 0 77 (dk_at dksX4_gain_5 12 rfl rfl)
theorem dX4_gain_132 : decode cX4_gain 132 = .ok (.iload 6, 2) := dk_21 6 (dk_at dksX4_gain_5 15 rfl rfl)
theorem dX4_gain_134 : decode cX4_gain 134 = .ok (.iaload, 1) := dk_46 (dk_at dksX4_gain_5 17 rfl rfl)
theorem dX4_gain_135 : decode cX4_gain 135 = .ok (.istore_n 3, 1) := dk_62 (dk_at dksX4_gain_5 18 rfl rfl)
theorem dX4_gain_136 : decode cX4_gain 136 = .ok (.aload_n 0, 1) := dk_42 (dk_at dksX4_gain_5 19 rfl rfl)
theorem dX4_gain_137 : decode cX4_gain 137 = .ok (.getfield 408, 3) := dk_180 1 152 (dk_at dksX4_gain_5 20 rfl rfl)
theorem dX4_gain_140 : decode cX4_gain 140 = .ok (.istore 4, 2) := dk_54 4 (dk_at dksX4_gain_6 0 rfl rfl)
theorem dX4_gain_142 : decode cX4_gain 142 = .ok (.aload_n 0, 1) := dk_42 (dk_at dksX4_gain_6 2 rfl rfl)
theorem dX4_gain_143 : decode cX4_gain 143 = .ok (.getfield 411, 3) := dk_180 1 155 (dk_at dksX4_gain_6 3 rfl rfl)
theorem dX4_gain_146 : decode cX4_gain 146 = .ok (.istore 5, 2) := dk_54 5 (dk_at dksX4_gain_6 6 rfl rfl)
theorem dX4_gain_148 : decode cX4_gain 148 = .ok (.iinc 6 1, 3) := dk_132 6 1 (dk_at dksX4_gain_6 8 rfl rfl)
theorem dX4_gain_151 : decode cX4_gain 151 = .ok (.goto (-88), 3) := dk_167 255 168 (dk_at dksX4_gain_6 11 rfl rfl)
theorem dX4_gain_154 : decode cX4_gain 154 = .ok (.iload_n 2, 1) := dk_28 (dk_at dksX4_gain_6 14 rfl rfl)
theorem dX4_gain_155 : decode cX4_gain 155 = .ok (.ifCond .ne 7, 3) := dk_154 0 7 (dk_at dksX4_gain_6 15 rfl rfl)
theorem dX4_gain_158 : decode cX4_gain 158 = .ok (.iload_n 3, 1) := dk_29 (dk_at dksX4_gain_6 18 rfl rfl)
theorem dX4_gain_159 : decode cX4_gain 159 = .ok (.goto 5, 3) := dk_167 0 5 (dk_at dksX4_gain_6 19 rfl rfl)
theorem dX4_gain_162 : decode cX4_gain 162 = .ok (.iload 5, 2) := dk_21 5 (dk_at dksX4_gain_6 22 rfl rfl)
theorem dX4_gain_164 : decode cX4_gain 164 = .ok (.ireturn, 1) := dk_172 (dk_at dksX4_gain_7 0 rfl rfl)
abbrev cX4_sums : ByteArray := prog_10_method_104_code
def yX4_sums : MethodName := ⟨RX4, "sums", "()V"⟩
def dkwX4_sums_3 : List UInt8 := [28, 2, 160, 0, 7, 3, 167, 0, 4, 28, 96, 181, 1, 155, 132, 1, 1, 167, 255, 184, 177]
abbrev dktX4_sums_3 : List UInt8 := dkwX4_sums_3 ++ []
def dkwX4_sums_2 : List UInt8 := [42, 89, 180, 1, 152, 28, 2, 160, 0, 7, 3, 167, 0, 4, 4, 96, 181, 1, 152, 42, 89, 180, 1, 155]
abbrev dktX4_sums_2 : List UInt8 := dkwX4_sums_2 ++ dktX4_sums_3
def dkwX4_sums_1 : List UInt8 := [162, 0, 68, 42, 42, 180, 0, 40, 27, 50, 3, 46, 42, 180, 0, 40, 27, 50, 4, 46, 182, 1, 57, 61]
abbrev dktX4_sums_1 : List UInt8 := dkwX4_sums_1 ++ dktX4_sums_2
def dkwX4_sums_0 : List UInt8 := [42, 182, 1, 22, 42, 3, 181, 1, 152, 42, 3, 181, 1, 155, 3, 60, 27, 42, 180, 0, 20, 6, 46]
abbrev dktX4_sums_0 : List UInt8 := dkwX4_sums_0 ++ dktX4_sums_1
theorem dksX4_sums_0 : cX4_sums.data.toList.drop 0 = dktX4_sums_0 := by decide +kernel
theorem dksX4_sums_1 : cX4_sums.data.toList.drop 23 = dktX4_sums_1 := dk_seg dksX4_sums_0 23 rfl rfl
theorem dksX4_sums_2 : cX4_sums.data.toList.drop 47 = dktX4_sums_2 := dk_seg dksX4_sums_1 24 rfl rfl
theorem dksX4_sums_3 : cX4_sums.data.toList.drop 71 = dktX4_sums_3 := dk_seg dksX4_sums_2 24 rfl rfl
theorem dX4_sums_0 : decode cX4_sums 0 = .ok (.aload_n 0, 1) := dk_42 (dk_at dksX4_sums_0 0 rfl rfl)
theorem dX4_sums_1 : decode cX4_sums 1 = .ok (.invokevirtual 278, 3) := dk_182 1 22 (dk_at dksX4_sums_0 1 rfl rfl)
theorem dX4_sums_4 : decode cX4_sums 4 = .ok (.aload_n 0, 1) := dk_42 (dk_at dksX4_sums_0 4 rfl rfl)
theorem dX4_sums_5 : decode cX4_sums 5 = .ok (.iconst 0, 1) := dk_3 (dk_at dksX4_sums_0 5 rfl rfl)
theorem dX4_sums_6 : decode cX4_sums 6 = .ok (.putfield 408, 3) := dk_181 1 152 (dk_at dksX4_sums_0 6 rfl rfl)
theorem dX4_sums_9 : decode cX4_sums 9 = .ok (.aload_n 0, 1) := dk_42 (dk_at dksX4_sums_0 9 rfl rfl)
theorem dX4_sums_10 : decode cX4_sums 10 = .ok (.iconst 0, 1) := dk_3 (dk_at dksX4_sums_0 10 rfl rfl)
theorem dX4_sums_11 : decode cX4_sums 11 = .ok (.putfield 411, 3) := dk_181 1 155 (dk_at dksX4_sums_0 11 rfl rfl)
theorem dX4_sums_14 : decode cX4_sums 14 = .ok (.iconst 0, 1) := dk_3 (dk_at dksX4_sums_0 14 rfl rfl)
theorem dX4_sums_15 : decode cX4_sums 15 = .ok (.istore_n 1, 1) := dk_60 (dk_at dksX4_sums_0 15 rfl rfl)
theorem dX4_sums_16 : decode cX4_sums 16 = .ok (.iload_n 1, 1) := dk_27 (dk_at dksX4_sums_0 16 rfl rfl)
theorem dX4_sums_17 : decode cX4_sums 17 = .ok (.aload_n 0, 1) := dk_42 (dk_at dksX4_sums_0 17 rfl rfl)
theorem dX4_sums_18 : decode cX4_sums 18 = .ok (.getfield 20, 3) := dk_180 0 20 (dk_at dksX4_sums_0 18 rfl rfl)
theorem dX4_sums_21 : decode cX4_sums 21 = .ok (.iconst 3, 1) := dk_6 (dk_at dksX4_sums_0 21 rfl rfl)
theorem dX4_sums_22 : decode cX4_sums 22 = .ok (.iaload, 1) := dk_46 (dk_at dksX4_sums_0 22 rfl rfl)
theorem dX4_sums_23 : decode cX4_sums 23 = .ok (.if_icmp .ge 68, 3) := dk_162 0 68 (dk_at dksX4_sums_1 0 rfl rfl)
theorem dX4_sums_26 : decode cX4_sums 26 = .ok (.aload_n 0, 1) := dk_42 (dk_at dksX4_sums_1 3 rfl rfl)
theorem dX4_sums_27 : decode cX4_sums 27 = .ok (.aload_n 0, 1) := dk_42 (dk_at dksX4_sums_1 4 rfl rfl)
theorem dX4_sums_28 : decode cX4_sums 28 = .ok (.getfield 40, 3) := dk_180 0 40 (dk_at dksX4_sums_1 5 rfl rfl)
theorem dX4_sums_31 : decode cX4_sums 31 = .ok (.iload_n 1, 1) := dk_27 (dk_at dksX4_sums_1 8 rfl rfl)
theorem dX4_sums_32 : decode cX4_sums 32 = .ok (.aaload, 1) := dk_50 (dk_at dksX4_sums_1 9 rfl rfl)
theorem dX4_sums_33 : decode cX4_sums 33 = .ok (.iconst 0, 1) := dk_3 (dk_at dksX4_sums_1 10 rfl rfl)
theorem dX4_sums_34 : decode cX4_sums 34 = .ok (.iaload, 1) := dk_46 (dk_at dksX4_sums_1 11 rfl rfl)
theorem dX4_sums_35 : decode cX4_sums 35 = .ok (.aload_n 0, 1) := dk_42 (dk_at dksX4_sums_1 12 rfl rfl)
theorem dX4_sums_36 : decode cX4_sums 36 = .ok (.getfield 40, 3) := dk_180 0 40 (dk_at dksX4_sums_1 13 rfl rfl)
theorem dX4_sums_39 : decode cX4_sums 39 = .ok (.iload_n 1, 1) := dk_27 (dk_at dksX4_sums_1 16 rfl rfl)
theorem dX4_sums_40 : decode cX4_sums 40 = .ok (.aaload, 1) := dk_50 (dk_at dksX4_sums_1 17 rfl rfl)
theorem dX4_sums_41 : decode cX4_sums 41 = .ok (.iconst 1, 1) := dk_4 (dk_at dksX4_sums_1 18 rfl rfl)
theorem dX4_sums_42 : decode cX4_sums 42 = .ok (.iaload, 1) := dk_46 (dk_at dksX4_sums_1 19 rfl rfl)
theorem dX4_sums_43 : decode cX4_sums 43 = .ok (.invokevirtual 313, 3) := dk_182 1 57 (dk_at dksX4_sums_1 20 rfl rfl)
theorem dX4_sums_46 : decode cX4_sums 46 = .ok (.istore_n 2, 1) := dk_61 (dk_at dksX4_sums_1 23 rfl rfl)
theorem dX4_sums_47 : decode cX4_sums 47 = .ok (.aload_n 0, 1) := dk_42 (dk_at dksX4_sums_2 0 rfl rfl)
theorem dX4_sums_48 : decode cX4_sums 48 = .ok (.dup, 1) := dk_89 (dk_at dksX4_sums_2 1 rfl rfl)
theorem dX4_sums_49 : decode cX4_sums 49 = .ok (.getfield 408, 3) := dk_180 1 152 (dk_at dksX4_sums_2 2 rfl rfl)
theorem dX4_sums_52 : decode cX4_sums 52 = .ok (.iload_n 2, 1) := dk_28 (dk_at dksX4_sums_2 5 rfl rfl)
theorem dX4_sums_53 : decode cX4_sums 53 = .ok (.iconst (-1), 1) := dk_2 (dk_at dksX4_sums_2 6 rfl rfl)
theorem dX4_sums_54 : decode cX4_sums 54 = .ok (.if_icmp .ne 7, 3) := dk_160 0 7 (dk_at dksX4_sums_2 7 rfl rfl)
theorem dX4_sums_57 : decode cX4_sums 57 = .ok (.iconst 0, 1) := dk_3 (dk_at dksX4_sums_2 10 rfl rfl)
theorem dX4_sums_58 : decode cX4_sums 58 = .ok (.goto 4, 3) := dk_167 0 4 (dk_at dksX4_sums_2 11 rfl rfl)
theorem dX4_sums_61 : decode cX4_sums 61 = .ok (.iconst 1, 1) := dk_4 (dk_at dksX4_sums_2 14 rfl rfl)
theorem dX4_sums_62 : decode cX4_sums 62 = .ok (.iadd, 1) := dk_96 (dk_at dksX4_sums_2 15 rfl rfl)
theorem dX4_sums_63 : decode cX4_sums 63 = .ok (.putfield 408, 3) := dk_181 1 152 (dk_at dksX4_sums_2 16 rfl rfl)
theorem dX4_sums_66 : decode cX4_sums 66 = .ok (.aload_n 0, 1) := dk_42 (dk_at dksX4_sums_2 19 rfl rfl)
theorem dX4_sums_67 : decode cX4_sums 67 = .ok (.dup, 1) := dk_89 (dk_at dksX4_sums_2 20 rfl rfl)
theorem dX4_sums_68 : decode cX4_sums 68 = .ok (.getfield 411, 3) := dk_180 1 155 (dk_at dksX4_sums_2 21 rfl rfl)
theorem dX4_sums_71 : decode cX4_sums 71 = .ok (.iload_n 2, 1) := dk_28 (dk_at dksX4_sums_3 0 rfl rfl)
theorem dX4_sums_72 : decode cX4_sums 72 = .ok (.iconst (-1), 1) := dk_2 (dk_at dksX4_sums_3 1 rfl rfl)
theorem dX4_sums_73 : decode cX4_sums 73 = .ok (.if_icmp .ne 7, 3) := dk_160 0 7 (dk_at dksX4_sums_3 2 rfl rfl)
theorem dX4_sums_76 : decode cX4_sums 76 = .ok (.iconst 0, 1) := dk_3 (dk_at dksX4_sums_3 5 rfl rfl)
theorem dX4_sums_77 : decode cX4_sums 77 = .ok (.goto 4, 3) := dk_167 0 4 (dk_at dksX4_sums_3 6 rfl rfl)
theorem dX4_sums_80 : decode cX4_sums 80 = .ok (.iload_n 2, 1) := dk_28 (dk_at dksX4_sums_3 9 rfl rfl)
theorem dX4_sums_81 : decode cX4_sums 81 = .ok (.iadd, 1) := dk_96 (dk_at dksX4_sums_3 10 rfl rfl)
theorem dX4_sums_82 : decode cX4_sums 82 = .ok (.putfield 411, 3) := dk_181 1 155 (dk_at dksX4_sums_3 11 rfl rfl)
theorem dX4_sums_85 : decode cX4_sums 85 = .ok (.iinc 1 1, 3) := dk_132 1 1 (dk_at dksX4_sums_3 14 rfl rfl)
theorem dX4_sums_88 : decode cX4_sums 88 = .ok (.goto (-72), 3) := dk_167 255 184 (dk_at dksX4_sums_3 17 rfl rfl)
theorem dX4_sums_91 : decode cX4_sums 91 = .ok (.return_, 1) := dk_177 (dk_at dksX4_sums_3 20 rfl rfl)
abbrev cX4_baker : ByteArray := prog_10_method_106_code
def yX4_baker : MethodName := ⟨RX4, "baker", "(II)I"⟩
def dkwX4_baker_10 : List UInt8 := [28, 154, 0, 6, 21, 4, 172, 21, 4, 2, 160, 0, 7, 3, 167, 0, 7, 45, 21, 4, 46, 172]
abbrev dktX4_baker_10 : List UInt8 := dkwX4_baker_10 ++ []
def dkwX4_baker_9 : List UInt8 := [159, 0, 14, 45, 21, 5, 46, 45, 21, 4, 46, 164, 0, 7, 21, 5, 54, 4, 132, 5, 1, 167, 255, 214]
abbrev dktX4_baker_9 : List UInt8 := dkwX4_baker_9 ++ dktX4_baker_10
def dkwX4_baker_8 : List UInt8 := [3, 54, 5, 21, 5, 42, 180, 0, 20, 4, 46, 162, 0, 37, 45, 21, 5, 46, 158, 0, 24, 21, 4, 2]
abbrev dktX4_baker_8 : List UInt8 := dkwX4_baker_8 ++ dktX4_baker_9
def dkwX4_baker_7 : List UInt8 := [21, 7, 21, 8, 122, 4, 126, 96, 79, 132, 8, 1, 167, 255, 228, 132, 4, 1, 167, 255, 123, 2, 54, 4]
abbrev dktX4_baker_7 : List UInt8 := dkwX4_baker_7 ++ dktX4_baker_8
def dkwX4_baker_6 : List UInt8 := [54, 8, 167, 255, 229, 3, 54, 8, 21, 8, 42, 180, 0, 20, 4, 46, 162, 0, 23, 45, 21, 8, 92, 46]
abbrev dktX4_baker_6 : List UInt8 := dkwX4_baker_6 ++ dktX4_baker_7
def dkwX4_baker_5 : List UInt8 := [2, 159, 0, 27, 21, 7, 4, 21, 8, 5, 108, 120, 128, 54, 7, 42, 21, 8, 21, 6, 182, 1, 60]
abbrev dktX4_baker_5 : List UInt8 := dkwX4_baker_5 ++ dktX4_baker_6
def dkwX4_baker_4 : List UInt8 := [21, 5, 21, 6, 182, 1, 57, 4, 162, 0, 6, 167, 0, 75, 42, 21, 5, 182, 1, 48, 54, 8, 21, 8]
abbrev dktX4_baker_4 : List UInt8 := dkwX4_baker_4 ++ dktX4_baker_5
def dkwX4_baker_3 : List UInt8 := [180, 0, 20, 3, 46, 108, 54, 5, 21, 4, 42, 180, 0, 20, 3, 46, 112, 54, 6, 3, 54, 7, 42]
abbrev dktX4_baker_3 : List UInt8 := dkwX4_baker_3 ++ dktX4_baker_4
def dkwX4_baker_2 : List UInt8 := [54, 4, 21, 4, 42, 180, 0, 20, 3, 46, 42, 180, 0, 20, 3, 46, 104, 162, 0, 121, 21, 4, 42]
abbrev dktX4_baker_2 : List UInt8 := dkwX4_baker_2 ++ dktX4_baker_3
def dkwX4_baker_1 : List UInt8 := [167, 0, 4, 3, 4, 182, 0, 227, 153, 0, 5, 3, 172, 42, 27, 182, 1, 54, 16, 24, 188, 10, 78, 3]
abbrev dktX4_baker_1 : List UInt8 := dkwX4_baker_1 ++ dktX4_baker_2
def dkwX4_baker_0 : List UInt8 := [42, 3, 181, 0, 131, 42, 42, 27, 182, 1, 25, 153, 0, 12, 28, 3, 4, 184, 0, 165, 154, 0, 7, 4]
abbrev dktX4_baker_0 : List UInt8 := dkwX4_baker_0 ++ dktX4_baker_1
theorem dksX4_baker_0 : cX4_baker.data.toList.drop 0 = dktX4_baker_0 := by decide +kernel
theorem dksX4_baker_1 : cX4_baker.data.toList.drop 24 = dktX4_baker_1 := dk_seg dksX4_baker_0 24 rfl rfl
theorem dksX4_baker_2 : cX4_baker.data.toList.drop 48 = dktX4_baker_2 := dk_seg dksX4_baker_1 24 rfl rfl
theorem dksX4_baker_3 : cX4_baker.data.toList.drop 71 = dktX4_baker_3 := dk_seg dksX4_baker_2 23 rfl rfl
theorem dksX4_baker_4 : cX4_baker.data.toList.drop 94 = dktX4_baker_4 := dk_seg dksX4_baker_3 23 rfl rfl
theorem dksX4_baker_5 : cX4_baker.data.toList.drop 118 = dktX4_baker_5 := dk_seg dksX4_baker_4 24 rfl rfl
theorem dksX4_baker_6 : cX4_baker.data.toList.drop 141 = dktX4_baker_6 := dk_seg dksX4_baker_5 23 rfl rfl
theorem dksX4_baker_7 : cX4_baker.data.toList.drop 165 = dktX4_baker_7 := dk_seg dksX4_baker_6 24 rfl rfl
theorem dksX4_baker_8 : cX4_baker.data.toList.drop 189 = dktX4_baker_8 := dk_seg dksX4_baker_7 24 rfl rfl
theorem dksX4_baker_9 : cX4_baker.data.toList.drop 213 = dktX4_baker_9 := dk_seg dksX4_baker_8 24 rfl rfl
theorem dksX4_baker_10 : cX4_baker.data.toList.drop 237 = dktX4_baker_10 := dk_seg dksX4_baker_9 24 rfl rfl
theorem dX4_baker_0 : decode cX4_baker 0 = .ok (.aload_n 0, 1) := dk_42 (dk_at dksX4_baker_0 0 rfl rfl)
theorem dX4_baker_1 : decode cX4_baker 1 = .ok (.iconst 0, 1) := dk_3 (dk_at dksX4_baker_0 1 rfl rfl)
theorem dX4_baker_2 : decode cX4_baker 2 = .ok (.putfield 131, 3) := dk_181 0 131 (dk_at dksX4_baker_0 2 rfl rfl)
theorem dX4_baker_5 : decode cX4_baker 5 = .ok (.aload_n 0, 1) := dk_42 (dk_at dksX4_baker_0 5 rfl rfl)
theorem dX4_baker_6 : decode cX4_baker 6 = .ok (.aload_n 0, 1) := dk_42 (dk_at dksX4_baker_0 6 rfl rfl)
theorem dX4_baker_7 : decode cX4_baker 7 = .ok (.iload_n 1, 1) := dk_27 (dk_at dksX4_baker_0 7 rfl rfl)
theorem dX4_baker_8 : decode cX4_baker 8 = .ok (.invokevirtual 281, 3) := dk_182 1 25 (dk_at dksX4_baker_0 8 rfl rfl)
theorem dX4_baker_11 : decode cX4_baker 11 = .ok (.ifCond .eq 12, 3) := dk_153 0 12 (dk_at dksX4_baker_0 11 rfl rfl)
theorem dX4_baker_14 : decode cX4_baker 14 = .ok (.iload_n 2, 1) := dk_28 (dk_at dksX4_baker_0 14 rfl rfl)
theorem dX4_baker_15 : decode cX4_baker 15 = .ok (.iconst 0, 1) := dk_3 (dk_at dksX4_baker_0 15 rfl rfl)
theorem dX4_baker_16 : decode cX4_baker 16 = .ok (.iconst 1, 1) := dk_4 (dk_at dksX4_baker_0 16 rfl rfl)
theorem dX4_baker_17 : decode cX4_baker 17 = .ok (.invokestatic 165, 3) := dk_184 0 165 (dk_at dksX4_baker_0 17 rfl rfl)
theorem dX4_baker_20 : decode cX4_baker 20 = .ok (.ifCond .ne 7, 3) := dk_154 0 7 (dk_at dksX4_baker_0 20 rfl rfl)
theorem dX4_baker_23 : decode cX4_baker 23 = .ok (.iconst 1, 1) := dk_4 (dk_at dksX4_baker_0 23 rfl rfl)
theorem dX4_baker_24 : decode cX4_baker 24 = .ok (.goto 4, 3) := dk_167 0 4 (dk_at dksX4_baker_1 0 rfl rfl)
theorem dX4_baker_27 : decode cX4_baker 27 = .ok (.iconst 0, 1) := dk_3 (dk_at dksX4_baker_1 3 rfl rfl)
theorem dX4_baker_28 : decode cX4_baker 28 = .ok (.iconst 1, 1) := dk_4 (dk_at dksX4_baker_1 4 rfl rfl)
theorem dX4_baker_29 : decode cX4_baker 29 = .ok (.invokevirtual 227, 3) := dk_182 0 227 (dk_at dksX4_baker_1 5 rfl rfl)
theorem dX4_baker_32 : decode cX4_baker 32 = .ok (.ifCond .eq 5, 3) := dk_153 0 5 (dk_at dksX4_baker_1 8 rfl rfl)
theorem dX4_baker_35 : decode cX4_baker 35 = .ok (.iconst 0, 1) := dk_3 (dk_at dksX4_baker_1 11 rfl rfl)
theorem dX4_baker_36 : decode cX4_baker 36 = .ok (.ireturn, 1) := dk_172 (dk_at dksX4_baker_1 12 rfl rfl)
theorem dX4_baker_37 : decode cX4_baker 37 = .ok (.aload_n 0, 1) := dk_42 (dk_at dksX4_baker_1 13 rfl rfl)
theorem dX4_baker_38 : decode cX4_baker 38 = .ok (.iload_n 1, 1) := dk_27 (dk_at dksX4_baker_1 14 rfl rfl)
theorem dX4_baker_39 : decode cX4_baker 39 = .ok (.invokevirtual 310, 3) := dk_182 1 54 (dk_at dksX4_baker_1 15 rfl rfl)
theorem dX4_baker_42 : decode cX4_baker 42 = .ok (.bipush 24, 2) := dk_16 24 (dk_at dksX4_baker_1 18 rfl rfl)
theorem dX4_baker_44 : decode cX4_baker 44 = .ok (.newarray .int, 2) := dk_188_10 (dk_at dksX4_baker_1 20 rfl rfl)
theorem dX4_baker_46 : decode cX4_baker 46 = .ok (.astore_n 3, 1) := dk_78 (dk_at dksX4_baker_1 22 rfl rfl)
theorem dX4_baker_47 : decode cX4_baker 47 = .ok (.iconst 0, 1) := dk_3 (dk_at dksX4_baker_1 23 rfl rfl)
theorem dX4_baker_48 : decode cX4_baker 48 = .ok (.istore 4, 2) := dk_54 4 (dk_at dksX4_baker_2 0 rfl rfl)
theorem dX4_baker_50 : decode cX4_baker 50 = .ok (.iload 4, 2) := dk_21 4 (dk_at dksX4_baker_2 2 rfl rfl)
theorem dX4_baker_52 : decode cX4_baker 52 = .ok (.aload_n 0, 1) := dk_42 (dk_at dksX4_baker_2 4 rfl rfl)
theorem dX4_baker_53 : decode cX4_baker 53 = .ok (.getfield 20, 3) := dk_180 0 20 (dk_at dksX4_baker_2 5 rfl rfl)
theorem dX4_baker_56 : decode cX4_baker 56 = .ok (.iconst 0, 1) := dk_3 (dk_at dksX4_baker_2 8 rfl rfl)
theorem dX4_baker_57 : decode cX4_baker 57 = .ok (.iaload, 1) := dk_46 (dk_at dksX4_baker_2 9 rfl rfl)
theorem dX4_baker_58 : decode cX4_baker 58 = .ok (.aload_n 0, 1) := dk_42 (dk_at dksX4_baker_2 10 rfl rfl)
theorem dX4_baker_59 : decode cX4_baker 59 = .ok (.getfield 20, 3) := dk_180 0 20 (dk_at dksX4_baker_2 11 rfl rfl)
theorem dX4_baker_62 : decode cX4_baker 62 = .ok (.iconst 0, 1) := dk_3 (dk_at dksX4_baker_2 14 rfl rfl)
theorem dX4_baker_63 : decode cX4_baker 63 = .ok (.iaload, 1) := dk_46 (dk_at dksX4_baker_2 15 rfl rfl)
theorem dX4_baker_64 : decode cX4_baker 64 = .ok (.imul, 1) := dk_104 (dk_at dksX4_baker_2 16 rfl rfl)
theorem dX4_baker_65 : decode cX4_baker 65 = .ok (.if_icmp .ge 121, 3) := dk_162 0 121 (dk_at dksX4_baker_2 17 rfl rfl)
theorem dX4_baker_68 : decode cX4_baker 68 = .ok (.iload 4, 2) := dk_21 4 (dk_at dksX4_baker_2 20 rfl rfl)
theorem dX4_baker_70 : decode cX4_baker 70 = .ok (.aload_n 0, 1) := dk_42 (dk_at dksX4_baker_2 22 rfl rfl)
theorem dX4_baker_71 : decode cX4_baker 71 = .ok (.getfield 20, 3) := dk_180 0 20 (dk_at dksX4_baker_3 0 rfl rfl)
theorem dX4_baker_74 : decode cX4_baker 74 = .ok (.iconst 0, 1) := dk_3 (dk_at dksX4_baker_3 3 rfl rfl)
theorem dX4_baker_75 : decode cX4_baker 75 = .ok (.iaload, 1) := dk_46 (dk_at dksX4_baker_3 4 rfl rfl)
theorem dX4_baker_76 : decode cX4_baker 76 = .ok (.idiv, 1) := dk_108 (dk_at dksX4_baker_3 5 rfl rfl)
theorem dX4_baker_77 : decode cX4_baker 77 = .ok (.istore 5, 2) := dk_54 5 (dk_at dksX4_baker_3 6 rfl rfl)
theorem dX4_baker_79 : decode cX4_baker 79 = .ok (.iload 4, 2) := dk_21 4 (dk_at dksX4_baker_3 8 rfl rfl)
theorem dX4_baker_81 : decode cX4_baker 81 = .ok (.aload_n 0, 1) := dk_42 (dk_at dksX4_baker_3 10 rfl rfl)
theorem dX4_baker_82 : decode cX4_baker 82 = .ok (.getfield 20, 3) := dk_180 0 20 (dk_at dksX4_baker_3 11 rfl rfl)
theorem dX4_baker_85 : decode cX4_baker 85 = .ok (.iconst 0, 1) := dk_3 (dk_at dksX4_baker_3 14 rfl rfl)
theorem dX4_baker_86 : decode cX4_baker 86 = .ok (.iaload, 1) := dk_46 (dk_at dksX4_baker_3 15 rfl rfl)
theorem dX4_baker_87 : decode cX4_baker 87 = .ok (.irem, 1) := dk_112 (dk_at dksX4_baker_3 16 rfl rfl)
theorem dX4_baker_88 : decode cX4_baker 88 = .ok (.istore 6, 2) := dk_54 6 (dk_at dksX4_baker_3 17 rfl rfl)
theorem dX4_baker_90 : decode cX4_baker 90 = .ok (.iconst 0, 1) := dk_3 (dk_at dksX4_baker_3 19 rfl rfl)
theorem dX4_baker_91 : decode cX4_baker 91 = .ok (.istore 7, 2) := dk_54 7 (dk_at dksX4_baker_3 20 rfl rfl)
theorem dX4_baker_93 : decode cX4_baker 93 = .ok (.aload_n 0, 1) := dk_42 (dk_at dksX4_baker_3 22 rfl rfl)
theorem dX4_baker_94 : decode cX4_baker 94 = .ok (.iload 5, 2) := dk_21 5 (dk_at dksX4_baker_4 0 rfl rfl)
theorem dX4_baker_96 : decode cX4_baker 96 = .ok (.iload 6, 2) := dk_21 6 (dk_at dksX4_baker_4 2 rfl rfl)
theorem dX4_baker_98 : decode cX4_baker 98 = .ok (.invokevirtual 313, 3) := dk_182 1 57 (dk_at dksX4_baker_4 4 rfl rfl)
theorem dX4_baker_101 : decode cX4_baker 101 = .ok (.iconst 1, 1) := dk_4 (dk_at dksX4_baker_4 7 rfl rfl)
theorem dX4_baker_102 : decode cX4_baker 102 = .ok (.if_icmp .ge 6, 3) := dk_162 0 6 (dk_at dksX4_baker_4 8 rfl rfl)
theorem dX4_baker_105 : decode cX4_baker 105 = .ok (.goto 75, 3) := dk_167 0 75 (dk_at dksX4_baker_4 11 rfl rfl)
theorem dX4_baker_108 : decode cX4_baker 108 = .ok (.aload_n 0, 1) := dk_42 (dk_at dksX4_baker_4 14 rfl rfl)
theorem dX4_baker_109 : decode cX4_baker 109 = .ok (.iload 5, 2) := dk_21 5 (dk_at dksX4_baker_4 15 rfl rfl)
theorem dX4_baker_111 : decode cX4_baker 111 = .ok (.invokevirtual 304, 3) := dk_182 1 48 (dk_at dksX4_baker_4 17 rfl rfl)
theorem dX4_baker_114 : decode cX4_baker 114 = .ok (.istore 8, 2) := dk_54 8 (dk_at dksX4_baker_4 20 rfl rfl)
theorem dX4_baker_116 : decode cX4_baker 116 = .ok (.iload 8, 2) := dk_21 8 (dk_at dksX4_baker_4 22 rfl rfl)
theorem dX4_baker_118 : decode cX4_baker 118 = .ok (.iconst (-1), 1) := dk_2 (dk_at dksX4_baker_5 0 rfl rfl)
theorem dX4_baker_119 : decode cX4_baker 119 = .ok (.if_icmp .eq 27, 3) := dk_159 0 27 (dk_at dksX4_baker_5 1 rfl rfl)
theorem dX4_baker_122 : decode cX4_baker 122 = .ok (.iload 7, 2) := dk_21 7 (dk_at dksX4_baker_5 4 rfl rfl)
theorem dX4_baker_124 : decode cX4_baker 124 = .ok (.iconst 1, 1) := dk_4 (dk_at dksX4_baker_5 6 rfl rfl)
theorem dX4_baker_125 : decode cX4_baker 125 = .ok (.iload 8, 2) := dk_21 8 (dk_at dksX4_baker_5 7 rfl rfl)
theorem dX4_baker_127 : decode cX4_baker 127 = .ok (.iconst 2, 1) := dk_5 (dk_at dksX4_baker_5 9 rfl rfl)
theorem dX4_baker_128 : decode cX4_baker 128 = .ok (.idiv, 1) := dk_108 (dk_at dksX4_baker_5 10 rfl rfl)
theorem dX4_baker_129 : decode cX4_baker 129 = .ok (.ishl, 1) := dk_120 (dk_at dksX4_baker_5 11 rfl rfl)
theorem dX4_baker_130 : decode cX4_baker 130 = .ok (.ior, 1) := dk_128 (dk_at dksX4_baker_5 12 rfl rfl)
theorem dX4_baker_131 : decode cX4_baker 131 = .ok (.istore 7, 2) := dk_54 7 (dk_at dksX4_baker_5 13 rfl rfl)
theorem dX4_baker_133 : decode cX4_baker 133 = .ok (.aload_n 0, 1) := dk_42 (dk_at dksX4_baker_5 15 rfl rfl)
theorem dX4_baker_134 : decode cX4_baker 134 = .ok (.iload 8, 2) := dk_21 8 (dk_at dksX4_baker_5 16 rfl rfl)
theorem dX4_baker_136 : decode cX4_baker 136 = .ok (.iload 6, 2) := dk_21 6 (dk_at dksX4_baker_5 18 rfl rfl)
theorem dX4_baker_138 : decode cX4_baker 138 = .ok (.invokevirtual 316, 3) := dk_182 1 60 (dk_at dksX4_baker_5 20 rfl rfl)
theorem dX4_baker_141 : decode cX4_baker 141 = .ok (.istore 8, 2) := dk_54 8 (dk_at dksX4_baker_6 0 rfl rfl)
theorem dX4_baker_143 : decode cX4_baker 143 = .ok (.goto (-27), 3) := dk_167 255 229 (dk_at dksX4_baker_6 2 rfl rfl)
theorem dX4_baker_146 : decode cX4_baker 146 = .ok (.iconst 0, 1) := dk_3 (dk_at dksX4_baker_6 5 rfl rfl)
theorem dX4_baker_147 : decode cX4_baker 147 = .ok (.istore 8, 2) := dk_54 8 (dk_at dksX4_baker_6 6 rfl rfl)
theorem dX4_baker_149 : decode cX4_baker 149 = .ok (.iload 8, 2) := dk_21 8 (dk_at dksX4_baker_6 8 rfl rfl)
theorem dX4_baker_151 : decode cX4_baker 151 = .ok (.aload_n 0, 1) := dk_42 (dk_at dksX4_baker_6 10 rfl rfl)
theorem dX4_baker_152 : decode cX4_baker 152 = .ok (.getfield 20, 3) := dk_180 0 20 (dk_at dksX4_baker_6 11 rfl rfl)
theorem dX4_baker_155 : decode cX4_baker 155 = .ok (.iconst 1, 1) := dk_4 (dk_at dksX4_baker_6 14 rfl rfl)
theorem dX4_baker_156 : decode cX4_baker 156 = .ok (.iaload, 1) := dk_46 (dk_at dksX4_baker_6 15 rfl rfl)
theorem dX4_baker_157 : decode cX4_baker 157 = .ok (.if_icmp .ge 23, 3) := dk_162 0 23 (dk_at dksX4_baker_6 16 rfl rfl)
theorem dX4_baker_160 : decode cX4_baker 160 = .ok (.aload_n 3, 1) := dk_45 (dk_at dksX4_baker_6 19 rfl rfl)
theorem dX4_baker_161 : decode cX4_baker 161 = .ok (.iload 8, 2) := dk_21 8 (dk_at dksX4_baker_6 20 rfl rfl)
theorem dX4_baker_163 : decode cX4_baker 163 = .ok (.dup2, 1) := dk_92 (dk_at dksX4_baker_6 22 rfl rfl)
theorem dX4_baker_164 : decode cX4_baker 164 = .ok (.iaload, 1) := dk_46 (dk_at dksX4_baker_6 23 rfl rfl)
theorem dX4_baker_165 : decode cX4_baker 165 = .ok (.iload 7, 2) := dk_21 7 (dk_at dksX4_baker_7 0 rfl rfl)
theorem dX4_baker_167 : decode cX4_baker 167 = .ok (.iload 8, 2) := dk_21 8 (dk_at dksX4_baker_7 2 rfl rfl)
theorem dX4_baker_169 : decode cX4_baker 169 = .ok (.ishr, 1) := dk_122 (dk_at dksX4_baker_7 4 rfl rfl)
theorem dX4_baker_170 : decode cX4_baker 170 = .ok (.iconst 1, 1) := dk_4 (dk_at dksX4_baker_7 5 rfl rfl)
theorem dX4_baker_171 : decode cX4_baker 171 = .ok (.iand, 1) := dk_126 (dk_at dksX4_baker_7 6 rfl rfl)
theorem dX4_baker_172 : decode cX4_baker 172 = .ok (.iadd, 1) := dk_96 (dk_at dksX4_baker_7 7 rfl rfl)
theorem dX4_baker_173 : decode cX4_baker 173 = .ok (.iastore, 1) := dk_79 (dk_at dksX4_baker_7 8 rfl rfl)
theorem dX4_baker_174 : decode cX4_baker 174 = .ok (.iinc 8 1, 3) := dk_132 8 1 (dk_at dksX4_baker_7 9 rfl rfl)
theorem dX4_baker_177 : decode cX4_baker 177 = .ok (.goto (-28), 3) := dk_167 255 228 (dk_at dksX4_baker_7 12 rfl rfl)
theorem dX4_baker_180 : decode cX4_baker 180 = .ok (.iinc 4 1, 3) := dk_132 4 1 (dk_at dksX4_baker_7 15 rfl rfl)
theorem dX4_baker_183 : decode cX4_baker 183 = .ok (.goto (-133), 3) := dk_167 255 123 (dk_at dksX4_baker_7 18 rfl rfl)
theorem dX4_baker_186 : decode cX4_baker 186 = .ok (.iconst (-1), 1) := dk_2 (dk_at dksX4_baker_7 21 rfl rfl)
theorem dX4_baker_187 : decode cX4_baker 187 = .ok (.istore 4, 2) := dk_54 4 (dk_at dksX4_baker_7 22 rfl rfl)
theorem dX4_baker_189 : decode cX4_baker 189 = .ok (.iconst 0, 1) := dk_3 (dk_at dksX4_baker_8 0 rfl rfl)
theorem dX4_baker_190 : decode cX4_baker 190 = .ok (.istore 5, 2) := dk_54 5 (dk_at dksX4_baker_8 1 rfl rfl)
theorem dX4_baker_192 : decode cX4_baker 192 = .ok (.iload 5, 2) := dk_21 5 (dk_at dksX4_baker_8 3 rfl rfl)
theorem dX4_baker_194 : decode cX4_baker 194 = .ok (.aload_n 0, 1) := dk_42 (dk_at dksX4_baker_8 5 rfl rfl)
theorem dX4_baker_195 : decode cX4_baker 195 = .ok (.getfield 20, 3) := dk_180 0 20 (dk_at dksX4_baker_8 6 rfl rfl)
theorem dX4_baker_198 : decode cX4_baker 198 = .ok (.iconst 1, 1) := dk_4 (dk_at dksX4_baker_8 9 rfl rfl)
theorem dX4_baker_199 : decode cX4_baker 199 = .ok (.iaload, 1) := dk_46 (dk_at dksX4_baker_8 10 rfl rfl)
theorem dX4_baker_200 : decode cX4_baker 200 = .ok (.if_icmp .ge 37, 3) := dk_162 0 37 (dk_at dksX4_baker_8 11 rfl rfl)
theorem dX4_baker_203 : decode cX4_baker 203 = .ok (.aload_n 3, 1) := dk_45 (dk_at dksX4_baker_8 14 rfl rfl)
theorem dX4_baker_204 : decode cX4_baker 204 = .ok (.iload 5, 2) := dk_21 5 (dk_at dksX4_baker_8 15 rfl rfl)
theorem dX4_baker_206 : decode cX4_baker 206 = .ok (.iaload, 1) := dk_46 (dk_at dksX4_baker_8 17 rfl rfl)
theorem dX4_baker_207 : decode cX4_baker 207 = .ok (.ifCond .le 24, 3) := dk_158 0 24 (dk_at dksX4_baker_8 18 rfl rfl)
theorem dX4_baker_210 : decode cX4_baker 210 = .ok (.iload 4, 2) := dk_21 4 (dk_at dksX4_baker_8 21 rfl rfl)
theorem dX4_baker_212 : decode cX4_baker 212 = .ok (.iconst (-1), 1) := dk_2 (dk_at dksX4_baker_8 23 rfl rfl)
theorem dX4_baker_213 : decode cX4_baker 213 = .ok (.if_icmp .eq 14, 3) := dk_159 0 14 (dk_at dksX4_baker_9 0 rfl rfl)
theorem dX4_baker_216 : decode cX4_baker 216 = .ok (.aload_n 3, 1) := dk_45 (dk_at dksX4_baker_9 3 rfl rfl)
theorem dX4_baker_217 : decode cX4_baker 217 = .ok (.iload 5, 2) := dk_21 5 (dk_at dksX4_baker_9 4 rfl rfl)
theorem dX4_baker_219 : decode cX4_baker 219 = .ok (.iaload, 1) := dk_46 (dk_at dksX4_baker_9 6 rfl rfl)
theorem dX4_baker_220 : decode cX4_baker 220 = .ok (.aload_n 3, 1) := dk_45 (dk_at dksX4_baker_9 7 rfl rfl)
theorem dX4_baker_221 : decode cX4_baker 221 = .ok (.iload 4, 2) := dk_21 4 (dk_at dksX4_baker_9 8 rfl rfl)
theorem dX4_baker_223 : decode cX4_baker 223 = .ok (.iaload, 1) := dk_46 (dk_at dksX4_baker_9 10 rfl rfl)
theorem dX4_baker_224 : decode cX4_baker 224 = .ok (.if_icmp .le 7, 3) := dk_164 0 7 (dk_at dksX4_baker_9 11 rfl rfl)
theorem dX4_baker_227 : decode cX4_baker 227 = .ok (.iload 5, 2) := dk_21 5 (dk_at dksX4_baker_9 14 rfl rfl)
theorem dX4_baker_229 : decode cX4_baker 229 = .ok (.istore 4, 2) := dk_54 4 (dk_at dksX4_baker_9 16 rfl rfl)
theorem dX4_baker_231 : decode cX4_baker 231 = .ok (.iinc 5 1, 3) := dk_132 5 1 (dk_at dksX4_baker_9 18 rfl rfl)
theorem dX4_baker_234 : decode cX4_baker 234 = .ok (.goto (-42), 3) := dk_167 255 214 (dk_at dksX4_baker_9 21 rfl rfl)
theorem dX4_baker_237 : decode cX4_baker 237 = .ok (.iload_n 2, 1) := dk_28 (dk_at dksX4_baker_10 0 rfl rfl)
theorem dX4_baker_238 : decode cX4_baker 238 = .ok (.ifCond .ne 6, 3) := dk_154 0 6 (dk_at dksX4_baker_10 1 rfl rfl)
theorem dX4_baker_241 : decode cX4_baker 241 = .ok (.iload 4, 2) := dk_21 4 (dk_at dksX4_baker_10 4 rfl rfl)
theorem dX4_baker_243 : decode cX4_baker 243 = .ok (.ireturn, 1) := dk_172 (dk_at dksX4_baker_10 6 rfl rfl)
theorem dX4_baker_244 : decode cX4_baker 244 = .ok (.iload 4, 2) := dk_21 4 (dk_at dksX4_baker_10 7 rfl rfl)
theorem dX4_baker_246 : decode cX4_baker 246 = .ok (.iconst (-1), 1) := dk_2 (dk_at dksX4_baker_10 9 rfl rfl)
theorem dX4_baker_247 : decode cX4_baker 247 = .ok (.if_icmp .ne 7, 3) := dk_160 0 7 (dk_at dksX4_baker_10 10 rfl rfl)
theorem dX4_baker_250 : decode cX4_baker 250 = .ok (.iconst 0, 1) := dk_3 (dk_at dksX4_baker_10 13 rfl rfl)
theorem dX4_baker_251 : decode cX4_baker 251 = .ok (.goto 7, 3) := dk_167 0 7 (dk_at dksX4_baker_10 14 rfl rfl)
theorem dX4_baker_254 : decode cX4_baker 254 = .ok (.aload_n 3, 1) := dk_45 (dk_at dksX4_baker_10 17 rfl rfl)
theorem dX4_baker_255 : decode cX4_baker 255 = .ok (.iload 4, 2) := dk_21 4 (dk_at dksX4_baker_10 18 rfl rfl)
theorem dX4_baker_257 : decode cX4_baker 257 = .ok (.iaload, 1) := dk_46 (dk_at dksX4_baker_10 20 rfl rfl)
theorem dX4_baker_258 : decode cX4_baker 258 = .ok (.ireturn, 1) := dk_172 (dk_at dksX4_baker_10 21 rfl rfl)
abbrev cX4_image : ByteArray := prog_10_method_109_code
def yX4_image : MethodName := ⟨RX4, "image", "()I"⟩
def dkwX4_image_1 : List UInt8 := [50, 3, 182, 1, 168, 42, 89, 180, 0, 244, 4, 96, 181, 0, 244, 42, 180, 0, 244, 172]
abbrev dktX4_image_1 : List UInt8 := dkwX4_image_1 ++ []
def dkwX4_image_0 : List UInt8 := [42, 3, 181, 0, 131, 42, 180, 0, 244, 6, 160, 0, 5, 2, 172, 42, 42, 180, 0, 101, 42, 180, 0, 244]
abbrev dktX4_image_0 : List UInt8 := dkwX4_image_0 ++ dktX4_image_1
theorem dksX4_image_0 : cX4_image.data.toList.drop 0 = dktX4_image_0 := by decide +kernel
theorem dksX4_image_1 : cX4_image.data.toList.drop 24 = dktX4_image_1 := dk_seg dksX4_image_0 24 rfl rfl
theorem dX4_image_0 : decode cX4_image 0 = .ok (.aload_n 0, 1) := dk_42 (dk_at dksX4_image_0 0 rfl rfl)
theorem dX4_image_1 : decode cX4_image 1 = .ok (.iconst 0, 1) := dk_3 (dk_at dksX4_image_0 1 rfl rfl)
theorem dX4_image_2 : decode cX4_image 2 = .ok (.putfield 131, 3) := dk_181 0 131 (dk_at dksX4_image_0 2 rfl rfl)
theorem dX4_image_5 : decode cX4_image 5 = .ok (.aload_n 0, 1) := dk_42 (dk_at dksX4_image_0 5 rfl rfl)
theorem dX4_image_6 : decode cX4_image 6 = .ok (.getfield 244, 3) := dk_180 0 244 (dk_at dksX4_image_0 6 rfl rfl)
theorem dX4_image_9 : decode cX4_image 9 = .ok (.iconst 3, 1) := dk_6 (dk_at dksX4_image_0 9 rfl rfl)
theorem dX4_image_10 : decode cX4_image 10 = .ok (.if_icmp .ne 5, 3) := dk_160 0 5 (dk_at dksX4_image_0 10 rfl rfl)
theorem dX4_image_13 : decode cX4_image 13 = .ok (.iconst (-1), 1) := dk_2 (dk_at dksX4_image_0 13 rfl rfl)
theorem dX4_image_14 : decode cX4_image 14 = .ok (.ireturn, 1) := dk_172 (dk_at dksX4_image_0 14 rfl rfl)
theorem dX4_image_15 : decode cX4_image 15 = .ok (.aload_n 0, 1) := dk_42 (dk_at dksX4_image_0 15 rfl rfl)
theorem dX4_image_16 : decode cX4_image 16 = .ok (.aload_n 0, 1) := dk_42 (dk_at dksX4_image_0 16 rfl rfl)
theorem dX4_image_17 : decode cX4_image 17 = .ok (.getfield 101, 3) := dk_180 0 101 (dk_at dksX4_image_0 17 rfl rfl)
theorem dX4_image_20 : decode cX4_image 20 = .ok (.aload_n 0, 1) := dk_42 (dk_at dksX4_image_0 20 rfl rfl)
theorem dX4_image_21 : decode cX4_image 21 = .ok (.getfield 244, 3) := dk_180 0 244 (dk_at dksX4_image_0 21 rfl rfl)
theorem dX4_image_24 : decode cX4_image 24 = .ok (.aaload, 1) := dk_50 (dk_at dksX4_image_1 0 rfl rfl)
theorem dX4_image_25 : decode cX4_image 25 = .ok (.iconst 0, 1) := dk_3 (dk_at dksX4_image_1 1 rfl rfl)
theorem dX4_image_26 : decode cX4_image 26 = .ok (.invokevirtual 424, 3) := dk_182 1 168 (dk_at dksX4_image_1 2 rfl rfl)
theorem dX4_image_29 : decode cX4_image 29 = .ok (.aload_n 0, 1) := dk_42 (dk_at dksX4_image_1 5 rfl rfl)
theorem dX4_image_30 : decode cX4_image 30 = .ok (.dup, 1) := dk_89 (dk_at dksX4_image_1 6 rfl rfl)
theorem dX4_image_31 : decode cX4_image 31 = .ok (.getfield 244, 3) := dk_180 0 244 (dk_at dksX4_image_1 7 rfl rfl)
theorem dX4_image_34 : decode cX4_image 34 = .ok (.iconst 1, 1) := dk_4 (dk_at dksX4_image_1 10 rfl rfl)
theorem dX4_image_35 : decode cX4_image 35 = .ok (.iadd, 1) := dk_96 (dk_at dksX4_image_1 11 rfl rfl)
theorem dX4_image_36 : decode cX4_image 36 = .ok (.putfield 244, 3) := dk_181 0 244 (dk_at dksX4_image_1 12 rfl rfl)
theorem dX4_image_39 : decode cX4_image 39 = .ok (.aload_n 0, 1) := dk_42 (dk_at dksX4_image_1 15 rfl rfl)
theorem dX4_image_40 : decode cX4_image 40 = .ok (.getfield 244, 3) := dk_180 0 244 (dk_at dksX4_image_1 16 rfl rfl)
theorem dX4_image_43 : decode cX4_image 43 = .ok (.ireturn, 1) := dk_172 (dk_at dksX4_image_1 19 rfl rfl)
abbrev cX4_movesAll : ByteArray := prog_10_method_108_code
def yX4_movesAll : MethodName := ⟨RX4, "movesAll", "([IZ)V"⟩
def dkwX4_movesAll_6 : List UInt8 := [132, 3, 1, 167, 255, 181, 177]
abbrev dktX4_movesAll_6 : List UInt8 := dkwX4_movesAll_6 ++ []
def dkwX4_movesAll_5 : List UInt8 := [42, 43, 42, 180, 0, 52, 29, 50, 21, 4, 46, 28, 182, 1, 164, 79, 132, 4, 1, 167, 255, 198]
abbrev dktX4_movesAll_5 : List UInt8 := dkwX4_movesAll_5 ++ dktX4_movesAll_6
def dkwX4_movesAll_4 : List UInt8 := [42, 43, 42, 180, 0, 49, 29, 50, 21, 4, 46, 28, 182, 1, 164, 79, 42, 180, 0, 52, 29, 50, 21, 4]
abbrev dktX4_movesAll_4 : List UInt8 := dkwX4_movesAll_4 ++ dktX4_movesAll_5
def dkwX4_movesAll_3 : List UInt8 := [180, 0, 238, 163, 0, 73, 3, 54, 4, 21, 4, 16, 24, 162, 0, 57, 42, 180, 0, 49, 29, 50, 21, 4]
abbrev dktX4_movesAll_3 : List UInt8 := dkwX4_movesAll_3 ++ dktX4_movesAll_4
def dkwX4_movesAll_2 : List UInt8 := [43, 42, 180, 0, 74, 29, 46, 28, 182, 1, 164, 79, 132, 3, 1, 167, 255, 229, 3, 62, 29, 42]
abbrev dktX4_movesAll_2 : List UInt8 := dkwX4_movesAll_2 ++ dktX4_movesAll_3
def dkwX4_movesAll_1 : List UInt8 := [180, 0, 241, 28, 182, 1, 164, 181, 0, 241, 3, 62, 29, 16, 12, 162, 0, 27, 42, 180, 0, 74, 29, 42]
abbrev dktX4_movesAll_1 : List UInt8 := dkwX4_movesAll_1 ++ dktX4_movesAll_2
def dkwX4_movesAll_0 : List UInt8 := [42, 3, 181, 1, 161, 42, 42, 43, 42, 180, 0, 238, 28, 182, 1, 164, 181, 0, 238, 42, 42, 43, 42]
abbrev dktX4_movesAll_0 : List UInt8 := dkwX4_movesAll_0 ++ dktX4_movesAll_1
theorem dksX4_movesAll_0 : cX4_movesAll.data.toList.drop 0 = dktX4_movesAll_0 := by decide +kernel
theorem dksX4_movesAll_1 : cX4_movesAll.data.toList.drop 23 = dktX4_movesAll_1 := dk_seg dksX4_movesAll_0 23 rfl rfl
theorem dksX4_movesAll_2 : cX4_movesAll.data.toList.drop 47 = dktX4_movesAll_2 := dk_seg dksX4_movesAll_1 24 rfl rfl
theorem dksX4_movesAll_3 : cX4_movesAll.data.toList.drop 69 = dktX4_movesAll_3 := dk_seg dksX4_movesAll_2 22 rfl rfl
theorem dksX4_movesAll_4 : cX4_movesAll.data.toList.drop 93 = dktX4_movesAll_4 := dk_seg dksX4_movesAll_3 24 rfl rfl
theorem dksX4_movesAll_5 : cX4_movesAll.data.toList.drop 117 = dktX4_movesAll_5 := dk_seg dksX4_movesAll_4 24 rfl rfl
theorem dksX4_movesAll_6 : cX4_movesAll.data.toList.drop 139 = dktX4_movesAll_6 := dk_seg dksX4_movesAll_5 22 rfl rfl
theorem dX4_movesAll_0 : decode cX4_movesAll 0 = .ok (.aload_n 0, 1) := dk_42 (dk_at dksX4_movesAll_0 0 rfl rfl)
theorem dX4_movesAll_1 : decode cX4_movesAll 1 = .ok (.iconst 0, 1) := dk_3 (dk_at dksX4_movesAll_0 1 rfl rfl)
theorem dX4_movesAll_2 : decode cX4_movesAll 2 = .ok (.putfield 417, 3) := dk_181 1 161 (dk_at dksX4_movesAll_0 2 rfl rfl)
theorem dX4_movesAll_5 : decode cX4_movesAll 5 = .ok (.aload_n 0, 1) := dk_42 (dk_at dksX4_movesAll_0 5 rfl rfl)
theorem dX4_movesAll_6 : decode cX4_movesAll 6 = .ok (.aload_n 0, 1) := dk_42 (dk_at dksX4_movesAll_0 6 rfl rfl)
theorem dX4_movesAll_7 : decode cX4_movesAll 7 = .ok (.aload_n 1, 1) := dk_43 (dk_at dksX4_movesAll_0 7 rfl rfl)
theorem dX4_movesAll_8 : decode cX4_movesAll 8 = .ok (.aload_n 0, 1) := dk_42 (dk_at dksX4_movesAll_0 8 rfl rfl)
theorem dX4_movesAll_9 : decode cX4_movesAll 9 = .ok (.getfield 238, 3) := dk_180 0 238 (dk_at dksX4_movesAll_0 9 rfl rfl)
theorem dX4_movesAll_12 : decode cX4_movesAll 12 = .ok (.iload_n 2, 1) := dk_28 (dk_at dksX4_movesAll_0 12 rfl rfl)
theorem dX4_movesAll_13 : decode cX4_movesAll 13 = .ok (.invokevirtual 420, 3) := dk_182 1 164 (dk_at dksX4_movesAll_0 13 rfl rfl)
theorem dX4_movesAll_16 : decode cX4_movesAll 16 = .ok (.putfield 238, 3) := dk_181 0 238 (dk_at dksX4_movesAll_0 16 rfl rfl)
theorem dX4_movesAll_19 : decode cX4_movesAll 19 = .ok (.aload_n 0, 1) := dk_42 (dk_at dksX4_movesAll_0 19 rfl rfl)
theorem dX4_movesAll_20 : decode cX4_movesAll 20 = .ok (.aload_n 0, 1) := dk_42 (dk_at dksX4_movesAll_0 20 rfl rfl)
theorem dX4_movesAll_21 : decode cX4_movesAll 21 = .ok (.aload_n 1, 1) := dk_43 (dk_at dksX4_movesAll_0 21 rfl rfl)
theorem dX4_movesAll_22 : decode cX4_movesAll 22 = .ok (.aload_n 0, 1) := dk_42 (dk_at dksX4_movesAll_0 22 rfl rfl)
theorem dX4_movesAll_23 : decode cX4_movesAll 23 = .ok (.getfield 241, 3) := dk_180 0 241 (dk_at dksX4_movesAll_1 0 rfl rfl)
theorem dX4_movesAll_26 : decode cX4_movesAll 26 = .ok (.iload_n 2, 1) := dk_28 (dk_at dksX4_movesAll_1 3 rfl rfl)
theorem dX4_movesAll_27 : decode cX4_movesAll 27 = .ok (.invokevirtual 420, 3) := dk_182 1 164 (dk_at dksX4_movesAll_1 4 rfl rfl)
theorem dX4_movesAll_30 : decode cX4_movesAll 30 = .ok (.putfield 241, 3) := dk_181 0 241 (dk_at dksX4_movesAll_1 7 rfl rfl)
theorem dX4_movesAll_33 : decode cX4_movesAll 33 = .ok (.iconst 0, 1) := dk_3 (dk_at dksX4_movesAll_1 10 rfl rfl)
theorem dX4_movesAll_34 : decode cX4_movesAll 34 = .ok (.istore_n 3, 1) := dk_62 (dk_at dksX4_movesAll_1 11 rfl rfl)
theorem dX4_movesAll_35 : decode cX4_movesAll 35 = .ok (.iload_n 3, 1) := dk_29 (dk_at dksX4_movesAll_1 12 rfl rfl)
theorem dX4_movesAll_36 : decode cX4_movesAll 36 = .ok (.bipush 12, 2) := dk_16 12 (dk_at dksX4_movesAll_1 13 rfl rfl)
theorem dX4_movesAll_38 : decode cX4_movesAll 38 = .ok (.if_icmp .ge 27, 3) := dk_162 0 27 (dk_at dksX4_movesAll_1 15 rfl rfl)
theorem dX4_movesAll_41 : decode cX4_movesAll 41 = .ok (.aload_n 0, 1) := dk_42 (dk_at dksX4_movesAll_1 18 rfl rfl)
theorem dX4_movesAll_42 : decode cX4_movesAll 42 = .ok (.getfield 74, 3) := dk_180 0 74 (dk_at dksX4_movesAll_1 19 rfl rfl)
theorem dX4_movesAll_45 : decode cX4_movesAll 45 = .ok (.iload_n 3, 1) := dk_29 (dk_at dksX4_movesAll_1 22 rfl rfl)
theorem dX4_movesAll_46 : decode cX4_movesAll 46 = .ok (.aload_n 0, 1) := dk_42 (dk_at dksX4_movesAll_1 23 rfl rfl)
theorem dX4_movesAll_47 : decode cX4_movesAll 47 = .ok (.aload_n 1, 1) := dk_43 (dk_at dksX4_movesAll_2 0 rfl rfl)
theorem dX4_movesAll_48 : decode cX4_movesAll 48 = .ok (.aload_n 0, 1) := dk_42 (dk_at dksX4_movesAll_2 1 rfl rfl)
theorem dX4_movesAll_49 : decode cX4_movesAll 49 = .ok (.getfield 74, 3) := dk_180 0 74 (dk_at dksX4_movesAll_2 2 rfl rfl)
theorem dX4_movesAll_52 : decode cX4_movesAll 52 = .ok (.iload_n 3, 1) := dk_29 (dk_at dksX4_movesAll_2 5 rfl rfl)
theorem dX4_movesAll_53 : decode cX4_movesAll 53 = .ok (.iaload, 1) := dk_46 (dk_at dksX4_movesAll_2 6 rfl rfl)
theorem dX4_movesAll_54 : decode cX4_movesAll 54 = .ok (.iload_n 2, 1) := dk_28 (dk_at dksX4_movesAll_2 7 rfl rfl)
theorem dX4_movesAll_55 : decode cX4_movesAll 55 = .ok (.invokevirtual 420, 3) := dk_182 1 164 (dk_at dksX4_movesAll_2 8 rfl rfl)
theorem dX4_movesAll_58 : decode cX4_movesAll 58 = .ok (.iastore, 1) := dk_79 (dk_at dksX4_movesAll_2 11 rfl rfl)
theorem dX4_movesAll_59 : decode cX4_movesAll 59 = .ok (.iinc 3 1, 3) := dk_132 3 1 (dk_at dksX4_movesAll_2 12 rfl rfl)
theorem dX4_movesAll_62 : decode cX4_movesAll 62 = .ok (.goto (-27), 3) := dk_167 255 229 (dk_at dksX4_movesAll_2 15 rfl rfl)
theorem dX4_movesAll_65 : decode cX4_movesAll 65 = .ok (.iconst 0, 1) := dk_3 (dk_at dksX4_movesAll_2 18 rfl rfl)
theorem dX4_movesAll_66 : decode cX4_movesAll 66 = .ok (.istore_n 3, 1) := dk_62 (dk_at dksX4_movesAll_2 19 rfl rfl)
theorem dX4_movesAll_67 : decode cX4_movesAll 67 = .ok (.iload_n 3, 1) := dk_29 (dk_at dksX4_movesAll_2 20 rfl rfl)
theorem dX4_movesAll_68 : decode cX4_movesAll 68 = .ok (.aload_n 0, 1) := dk_42 (dk_at dksX4_movesAll_2 21 rfl rfl)
theorem dX4_movesAll_69 : decode cX4_movesAll 69 = .ok (.getfield 238, 3) := dk_180 0 238 (dk_at dksX4_movesAll_3 0 rfl rfl)
theorem dX4_movesAll_72 : decode cX4_movesAll 72 = .ok (.if_icmp .gt 73, 3) := dk_163 0 73 (dk_at dksX4_movesAll_3 3 rfl rfl)
theorem dX4_movesAll_75 : decode cX4_movesAll 75 = .ok (.iconst 0, 1) := dk_3 (dk_at dksX4_movesAll_3 6 rfl rfl)
theorem dX4_movesAll_76 : decode cX4_movesAll 76 = .ok (.istore 4, 2) := dk_54 4 (dk_at dksX4_movesAll_3 7 rfl rfl)
theorem dX4_movesAll_78 : decode cX4_movesAll 78 = .ok (.iload 4, 2) := dk_21 4 (dk_at dksX4_movesAll_3 9 rfl rfl)
theorem dX4_movesAll_80 : decode cX4_movesAll 80 = .ok (.bipush 24, 2) := dk_16 24 (dk_at dksX4_movesAll_3 11 rfl rfl)
theorem dX4_movesAll_82 : decode cX4_movesAll 82 = .ok (.if_icmp .ge 57, 3) := dk_162 0 57 (dk_at dksX4_movesAll_3 13 rfl rfl)
theorem dX4_movesAll_85 : decode cX4_movesAll 85 = .ok (.aload_n 0, 1) := dk_42 (dk_at dksX4_movesAll_3 16 rfl rfl)
theorem dX4_movesAll_86 : decode cX4_movesAll 86 = .ok (.getfield 49, 3) := dk_180 0 49 (dk_at dksX4_movesAll_3 17 rfl rfl)
theorem dX4_movesAll_89 : decode cX4_movesAll 89 = .ok (.iload_n 3, 1) := dk_29 (dk_at dksX4_movesAll_3 20 rfl rfl)
theorem dX4_movesAll_90 : decode cX4_movesAll 90 = .ok (.aaload, 1) := dk_50 (dk_at dksX4_movesAll_3 21 rfl rfl)
theorem dX4_movesAll_91 : decode cX4_movesAll 91 = .ok (.iload 4, 2) := dk_21 4 (dk_at dksX4_movesAll_3 22 rfl rfl)
theorem dX4_movesAll_93 : decode cX4_movesAll 93 = .ok (.aload_n 0, 1) := dk_42 (dk_at dksX4_movesAll_4 0 rfl rfl)
theorem dX4_movesAll_94 : decode cX4_movesAll 94 = .ok (.aload_n 1, 1) := dk_43 (dk_at dksX4_movesAll_4 1 rfl rfl)
theorem dX4_movesAll_95 : decode cX4_movesAll 95 = .ok (.aload_n 0, 1) := dk_42 (dk_at dksX4_movesAll_4 2 rfl rfl)
theorem dX4_movesAll_96 : decode cX4_movesAll 96 = .ok (.getfield 49, 3) := dk_180 0 49 (dk_at dksX4_movesAll_4 3 rfl rfl)
theorem dX4_movesAll_99 : decode cX4_movesAll 99 = .ok (.iload_n 3, 1) := dk_29 (dk_at dksX4_movesAll_4 6 rfl rfl)
theorem dX4_movesAll_100 : decode cX4_movesAll 100 = .ok (.aaload, 1) := dk_50 (dk_at dksX4_movesAll_4 7 rfl rfl)
theorem dX4_movesAll_101 : decode cX4_movesAll 101 = .ok (.iload 4, 2) := dk_21 4 (dk_at dksX4_movesAll_4 8 rfl rfl)
theorem dX4_movesAll_103 : decode cX4_movesAll 103 = .ok (.iaload, 1) := dk_46 (dk_at dksX4_movesAll_4 10 rfl rfl)
theorem dX4_movesAll_104 : decode cX4_movesAll 104 = .ok (.iload_n 2, 1) := dk_28 (dk_at dksX4_movesAll_4 11 rfl rfl)
theorem dX4_movesAll_105 : decode cX4_movesAll 105 = .ok (.invokevirtual 420, 3) := dk_182 1 164 (dk_at dksX4_movesAll_4 12 rfl rfl)
theorem dX4_movesAll_108 : decode cX4_movesAll 108 = .ok (.iastore, 1) := dk_79 (dk_at dksX4_movesAll_4 15 rfl rfl)
theorem dX4_movesAll_109 : decode cX4_movesAll 109 = .ok (.aload_n 0, 1) := dk_42 (dk_at dksX4_movesAll_4 16 rfl rfl)
theorem dX4_movesAll_110 : decode cX4_movesAll 110 = .ok (.getfield 52, 3) := dk_180 0 52 (dk_at dksX4_movesAll_4 17 rfl rfl)
theorem dX4_movesAll_113 : decode cX4_movesAll 113 = .ok (.iload_n 3, 1) := dk_29 (dk_at dksX4_movesAll_4 20 rfl rfl)
theorem dX4_movesAll_114 : decode cX4_movesAll 114 = .ok (.aaload, 1) := dk_50 (dk_at dksX4_movesAll_4 21 rfl rfl)
theorem dX4_movesAll_115 : decode cX4_movesAll 115 = .ok (.iload 4, 2) := dk_21 4 (dk_at dksX4_movesAll_4 22 rfl rfl)
theorem dX4_movesAll_117 : decode cX4_movesAll 117 = .ok (.aload_n 0, 1) := dk_42 (dk_at dksX4_movesAll_5 0 rfl rfl)
theorem dX4_movesAll_118 : decode cX4_movesAll 118 = .ok (.aload_n 1, 1) := dk_43 (dk_at dksX4_movesAll_5 1 rfl rfl)
theorem dX4_movesAll_119 : decode cX4_movesAll 119 = .ok (.aload_n 0, 1) := dk_42 (dk_at dksX4_movesAll_5 2 rfl rfl)
theorem dX4_movesAll_120 : decode cX4_movesAll 120 = .ok (.getfield 52, 3) := dk_180 0 52 (dk_at dksX4_movesAll_5 3 rfl rfl)
theorem dX4_movesAll_123 : decode cX4_movesAll 123 = .ok (.iload_n 3, 1) := dk_29 (dk_at dksX4_movesAll_5 6 rfl rfl)
theorem dX4_movesAll_124 : decode cX4_movesAll 124 = .ok (.aaload, 1) := dk_50 (dk_at dksX4_movesAll_5 7 rfl rfl)
theorem dX4_movesAll_125 : decode cX4_movesAll 125 = .ok (.iload 4, 2) := dk_21 4 (dk_at dksX4_movesAll_5 8 rfl rfl)
theorem dX4_movesAll_127 : decode cX4_movesAll 127 = .ok (.iaload, 1) := dk_46 (dk_at dksX4_movesAll_5 10 rfl rfl)
theorem dX4_movesAll_128 : decode cX4_movesAll 128 = .ok (.iload_n 2, 1) := dk_28 (dk_at dksX4_movesAll_5 11 rfl rfl)
theorem dX4_movesAll_129 : decode cX4_movesAll 129 = .ok (.invokevirtual 420, 3) := dk_182 1 164 (dk_at dksX4_movesAll_5 12 rfl rfl)
theorem dX4_movesAll_132 : decode cX4_movesAll 132 = .ok (.iastore, 1) := dk_79 (dk_at dksX4_movesAll_5 15 rfl rfl)
theorem dX4_movesAll_133 : decode cX4_movesAll 133 = .ok (.iinc 4 1, 3) := dk_132 4 1 (dk_at dksX4_movesAll_5 16 rfl rfl)
theorem dX4_movesAll_136 : decode cX4_movesAll 136 = .ok (.goto (-58), 3) := dk_167 255 198 (dk_at dksX4_movesAll_5 19 rfl rfl)
theorem dX4_movesAll_139 : decode cX4_movesAll 139 = .ok (.iinc 3 1, 3) := dk_132 3 1 (dk_at dksX4_movesAll_6 0 rfl rfl)
theorem dX4_movesAll_142 : decode cX4_movesAll 142 = .ok (.goto (-75), 3) := dk_167 255 181 (dk_at dksX4_movesAll_6 3 rfl rfl)
theorem dX4_movesAll_145 : decode cX4_movesAll 145 = .ok (.return_, 1) := dk_177 (dk_at dksX4_movesAll_6 6 rfl rfl)
abbrev cX4_puts : ByteArray := prog_10_method_107_code
def yX4_puts : MethodName := ⟨RX4, "puts", "([IIZ)I"⟩
def dkwX4_puts_1 : List UInt8 := [180, 1, 161, 4, 100, 46, 172]
abbrev dktX4_puts_1 : List UInt8 := dkwX4_puts_1 ++ []
def dkwX4_puts_0 : List UInt8 := [29, 154, 0, 10, 43, 42, 180, 1, 161, 28, 79, 42, 89, 180, 1, 161, 4, 96, 181, 1, 161, 43, 42]
abbrev dktX4_puts_0 : List UInt8 := dkwX4_puts_0 ++ dktX4_puts_1
theorem dksX4_puts_0 : cX4_puts.data.toList.drop 0 = dktX4_puts_0 := by decide +kernel
theorem dksX4_puts_1 : cX4_puts.data.toList.drop 23 = dktX4_puts_1 := dk_seg dksX4_puts_0 23 rfl rfl
theorem dX4_puts_0 : decode cX4_puts 0 = .ok (.iload_n 3, 1) := dk_29 (dk_at dksX4_puts_0 0 rfl rfl)
theorem dX4_puts_1 : decode cX4_puts 1 = .ok (.ifCond .ne 10, 3) := dk_154 0 10 (dk_at dksX4_puts_0 1 rfl rfl)
theorem dX4_puts_4 : decode cX4_puts 4 = .ok (.aload_n 1, 1) := dk_43 (dk_at dksX4_puts_0 4 rfl rfl)
theorem dX4_puts_5 : decode cX4_puts 5 = .ok (.aload_n 0, 1) := dk_42 (dk_at dksX4_puts_0 5 rfl rfl)
theorem dX4_puts_6 : decode cX4_puts 6 = .ok (.getfield 417, 3) := dk_180 1 161 (dk_at dksX4_puts_0 6 rfl rfl)
theorem dX4_puts_9 : decode cX4_puts 9 = .ok (.iload_n 2, 1) := dk_28 (dk_at dksX4_puts_0 9 rfl rfl)
theorem dX4_puts_10 : decode cX4_puts 10 = .ok (.iastore, 1) := dk_79 (dk_at dksX4_puts_0 10 rfl rfl)
theorem dX4_puts_11 : decode cX4_puts 11 = .ok (.aload_n 0, 1) := dk_42 (dk_at dksX4_puts_0 11 rfl rfl)
theorem dX4_puts_12 : decode cX4_puts 12 = .ok (.dup, 1) := dk_89 (dk_at dksX4_puts_0 12 rfl rfl)
theorem dX4_puts_13 : decode cX4_puts 13 = .ok (.getfield 417, 3) := dk_180 1 161 (dk_at dksX4_puts_0 13 rfl rfl)
theorem dX4_puts_16 : decode cX4_puts 16 = .ok (.iconst 1, 1) := dk_4 (dk_at dksX4_puts_0 16 rfl rfl)
theorem dX4_puts_17 : decode cX4_puts 17 = .ok (.iadd, 1) := dk_96 (dk_at dksX4_puts_0 17 rfl rfl)
theorem dX4_puts_18 : decode cX4_puts 18 = .ok (.putfield 417, 3) := dk_181 1 161 (dk_at dksX4_puts_0 18 rfl rfl)
theorem dX4_puts_21 : decode cX4_puts 21 = .ok (.aload_n 1, 1) := dk_43 (dk_at dksX4_puts_0 21 rfl rfl)
theorem dX4_puts_22 : decode cX4_puts 22 = .ok (.aload_n 0, 1) := dk_42 (dk_at dksX4_puts_0 22 rfl rfl)
theorem dX4_puts_23 : decode cX4_puts 23 = .ok (.getfield 417, 3) := dk_180 1 161 (dk_at dksX4_puts_1 0 rfl rfl)
theorem dX4_puts_26 : decode cX4_puts 26 = .ok (.iconst 1, 1) := dk_4 (dk_at dksX4_puts_1 3 rfl rfl)
theorem dX4_puts_27 : decode cX4_puts 27 = .ok (.isub, 1) := dk_100 (dk_at dksX4_puts_1 4 rfl rfl)
theorem dX4_puts_28 : decode cX4_puts 28 = .ok (.iaload, 1) := dk_46 (dk_at dksX4_puts_1 5 rfl rfl)
theorem dX4_puts_29 : decode cX4_puts 29 = .ok (.ireturn, 1) := dk_172 (dk_at dksX4_puts_1 6 rfl rfl)
abbrev cX4_restore : ByteArray := prog_10_method_110_code
def yX4_restore : MethodName := ⟨RX4, "restore", "()I"⟩
def dkwX4_restore_1 : List UInt8 := [42, 42, 180, 0, 101, 42, 180, 0, 244, 50, 4, 182, 1, 168, 42, 180, 0, 244, 172]
abbrev dktX4_restore_1 : List UInt8 := dkwX4_restore_1 ++ []
def dkwX4_restore_0 : List UInt8 := [42, 3, 181, 0, 131, 42, 180, 0, 244, 154, 0, 5, 2, 172, 42, 89, 180, 0, 244, 4, 100, 181, 0, 244]
abbrev dktX4_restore_0 : List UInt8 := dkwX4_restore_0 ++ dktX4_restore_1
theorem dksX4_restore_0 : cX4_restore.data.toList.drop 0 = dktX4_restore_0 := by decide +kernel
theorem dksX4_restore_1 : cX4_restore.data.toList.drop 24 = dktX4_restore_1 := dk_seg dksX4_restore_0 24 rfl rfl
theorem dX4_restore_0 : decode cX4_restore 0 = .ok (.aload_n 0, 1) := dk_42 (dk_at dksX4_restore_0 0 rfl rfl)
theorem dX4_restore_1 : decode cX4_restore 1 = .ok (.iconst 0, 1) := dk_3 (dk_at dksX4_restore_0 1 rfl rfl)
theorem dX4_restore_2 : decode cX4_restore 2 = .ok (.putfield 131, 3) := dk_181 0 131 (dk_at dksX4_restore_0 2 rfl rfl)
theorem dX4_restore_5 : decode cX4_restore 5 = .ok (.aload_n 0, 1) := dk_42 (dk_at dksX4_restore_0 5 rfl rfl)
theorem dX4_restore_6 : decode cX4_restore 6 = .ok (.getfield 244, 3) := dk_180 0 244 (dk_at dksX4_restore_0 6 rfl rfl)
theorem dX4_restore_9 : decode cX4_restore 9 = .ok (.ifCond .ne 5, 3) := dk_154 0 5 (dk_at dksX4_restore_0 9 rfl rfl)
theorem dX4_restore_12 : decode cX4_restore 12 = .ok (.iconst (-1), 1) := dk_2 (dk_at dksX4_restore_0 12 rfl rfl)
theorem dX4_restore_13 : decode cX4_restore 13 = .ok (.ireturn, 1) := dk_172 (dk_at dksX4_restore_0 13 rfl rfl)
theorem dX4_restore_14 : decode cX4_restore 14 = .ok (.aload_n 0, 1) := dk_42 (dk_at dksX4_restore_0 14 rfl rfl)
theorem dX4_restore_15 : decode cX4_restore 15 = .ok (.dup, 1) := dk_89 (dk_at dksX4_restore_0 15 rfl rfl)
theorem dX4_restore_16 : decode cX4_restore 16 = .ok (.getfield 244, 3) := dk_180 0 244 (dk_at dksX4_restore_0 16 rfl rfl)
theorem dX4_restore_19 : decode cX4_restore 19 = .ok (.iconst 1, 1) := dk_4 (dk_at dksX4_restore_0 19 rfl rfl)
theorem dX4_restore_20 : decode cX4_restore 20 = .ok (.isub, 1) := dk_100 (dk_at dksX4_restore_0 20 rfl rfl)
theorem dX4_restore_21 : decode cX4_restore 21 = .ok (.putfield 244, 3) := dk_181 0 244 (dk_at dksX4_restore_0 21 rfl rfl)
theorem dX4_restore_24 : decode cX4_restore 24 = .ok (.aload_n 0, 1) := dk_42 (dk_at dksX4_restore_1 0 rfl rfl)
theorem dX4_restore_25 : decode cX4_restore 25 = .ok (.aload_n 0, 1) := dk_42 (dk_at dksX4_restore_1 1 rfl rfl)
theorem dX4_restore_26 : decode cX4_restore 26 = .ok (.getfield 101, 3) := dk_180 0 101 (dk_at dksX4_restore_1 2 rfl rfl)
theorem dX4_restore_29 : decode cX4_restore 29 = .ok (.aload_n 0, 1) := dk_42 (dk_at dksX4_restore_1 5 rfl rfl)
theorem dX4_restore_30 : decode cX4_restore 30 = .ok (.getfield 244, 3) := dk_180 0 244 (dk_at dksX4_restore_1 6 rfl rfl)
theorem dX4_restore_33 : decode cX4_restore 33 = .ok (.aaload, 1) := dk_50 (dk_at dksX4_restore_1 9 rfl rfl)
theorem dX4_restore_34 : decode cX4_restore 34 = .ok (.iconst 1, 1) := dk_4 (dk_at dksX4_restore_1 10 rfl rfl)
theorem dX4_restore_35 : decode cX4_restore 35 = .ok (.invokevirtual 424, 3) := dk_182 1 168 (dk_at dksX4_restore_1 11 rfl rfl)
theorem dX4_restore_38 : decode cX4_restore 38 = .ok (.aload_n 0, 1) := dk_42 (dk_at dksX4_restore_1 14 rfl rfl)
theorem dX4_restore_39 : decode cX4_restore 39 = .ok (.getfield 244, 3) := dk_180 0 244 (dk_at dksX4_restore_1 15 rfl rfl)
theorem dX4_restore_42 : decode cX4_restore 42 = .ok (.ireturn, 1) := dk_172 (dk_at dksX4_restore_1 18 rfl rfl)
abbrev cX4_count : ByteArray := prog_10_method_111_code
def yX4_count : MethodName := ⟨RX4, "count", "(I)I"⟩
def dkwX4_count_1 : List UInt8 := [180, 0, 244, 167, 0, 16, 27, 5, 160, 0, 10, 42, 180, 0, 134, 167, 0, 4, 2, 172]
abbrev dktX4_count_1 : List UInt8 := dkwX4_count_1 ++ []
def dkwX4_count_0 : List UInt8 := [42, 3, 181, 0, 131, 27, 154, 0, 10, 42, 180, 0, 241, 167, 0, 28, 27, 4, 160, 0, 10, 42]
abbrev dktX4_count_0 : List UInt8 := dkwX4_count_0 ++ dktX4_count_1
theorem dksX4_count_0 : cX4_count.data.toList.drop 0 = dktX4_count_0 := by decide +kernel
theorem dksX4_count_1 : cX4_count.data.toList.drop 22 = dktX4_count_1 := dk_seg dksX4_count_0 22 rfl rfl
theorem dX4_count_0 : decode cX4_count 0 = .ok (.aload_n 0, 1) := dk_42 (dk_at dksX4_count_0 0 rfl rfl)
theorem dX4_count_1 : decode cX4_count 1 = .ok (.iconst 0, 1) := dk_3 (dk_at dksX4_count_0 1 rfl rfl)
theorem dX4_count_2 : decode cX4_count 2 = .ok (.putfield 131, 3) := dk_181 0 131 (dk_at dksX4_count_0 2 rfl rfl)
theorem dX4_count_5 : decode cX4_count 5 = .ok (.iload_n 1, 1) := dk_27 (dk_at dksX4_count_0 5 rfl rfl)
theorem dX4_count_6 : decode cX4_count 6 = .ok (.ifCond .ne 10, 3) := dk_154 0 10 (dk_at dksX4_count_0 6 rfl rfl)
theorem dX4_count_9 : decode cX4_count 9 = .ok (.aload_n 0, 1) := dk_42 (dk_at dksX4_count_0 9 rfl rfl)
theorem dX4_count_10 : decode cX4_count 10 = .ok (.getfield 241, 3) := dk_180 0 241 (dk_at dksX4_count_0 10 rfl rfl)
theorem dX4_count_13 : decode cX4_count 13 = .ok (.goto 28, 3) := dk_167 0 28 (dk_at dksX4_count_0 13 rfl rfl)
theorem dX4_count_16 : decode cX4_count 16 = .ok (.iload_n 1, 1) := dk_27 (dk_at dksX4_count_0 16 rfl rfl)
theorem dX4_count_17 : decode cX4_count 17 = .ok (.iconst 1, 1) := dk_4 (dk_at dksX4_count_0 17 rfl rfl)
theorem dX4_count_18 : decode cX4_count 18 = .ok (.if_icmp .ne 10, 3) := dk_160 0 10 (dk_at dksX4_count_0 18 rfl rfl)
theorem dX4_count_21 : decode cX4_count 21 = .ok (.aload_n 0, 1) := dk_42 (dk_at dksX4_count_0 21 rfl rfl)
theorem dX4_count_22 : decode cX4_count 22 = .ok (.getfield 244, 3) := dk_180 0 244 (dk_at dksX4_count_1 0 rfl rfl)
theorem dX4_count_25 : decode cX4_count 25 = .ok (.goto 16, 3) := dk_167 0 16 (dk_at dksX4_count_1 3 rfl rfl)
theorem dX4_count_28 : decode cX4_count 28 = .ok (.iload_n 1, 1) := dk_27 (dk_at dksX4_count_1 6 rfl rfl)
theorem dX4_count_29 : decode cX4_count 29 = .ok (.iconst 2, 1) := dk_5 (dk_at dksX4_count_1 7 rfl rfl)
theorem dX4_count_30 : decode cX4_count 30 = .ok (.if_icmp .ne 10, 3) := dk_160 0 10 (dk_at dksX4_count_1 8 rfl rfl)
theorem dX4_count_33 : decode cX4_count 33 = .ok (.aload_n 0, 1) := dk_42 (dk_at dksX4_count_1 11 rfl rfl)
theorem dX4_count_34 : decode cX4_count 34 = .ok (.getfield 134, 3) := dk_180 0 134 (dk_at dksX4_count_1 12 rfl rfl)
theorem dX4_count_37 : decode cX4_count 37 = .ok (.goto 4, 3) := dk_167 0 4 (dk_at dksX4_count_1 15 rfl rfl)
theorem dX4_count_40 : decode cX4_count 40 = .ok (.iconst (-1), 1) := dk_2 (dk_at dksX4_count_1 18 rfl rfl)
theorem dX4_count_41 : decode cX4_count 41 = .ok (.ireturn, 1) := dk_172 (dk_at dksX4_count_1 19 rfl rfl)
theorem q138 : (Jvm.Cond.initialized "RightTurnsModel") ∈ lw_all := lw_g (lw_at lw_m1 23 rfl) rfl
theorem q1020 : (Jvm.Cond.selects "RightTurnsModel" ({ cls := "java/lang/Object", name := "getClass", desc := "()Ljava/lang/Class;" } : Jvm.MethodName) ({ cls := "java/lang/Object", name := "getClass", desc := "()Ljava/lang/Class;" } : Jvm.MethodName)) ∈ lw_all := lw_g (lw_at lw_m4 185 rfl) rfl
theorem q1578 : (Jvm.Cond.instantiable "RightTurnsModel" (60 : Nat)) ∈ lw_all := lw_g (lw_at lw_m7 23 rfl) rfl
theorem q1580 : (Jvm.Cond.instanceMethod ({ cls := "RightTurnsModel", name := "<init>", desc := "()V" } : Jvm.MethodName)) ∈ lw_all := lw_g (lw_at lw_m7 25 rfl) rfl
theorem q1581 : (Jvm.Cond.code ({ cls := "RightTurnsModel", name := "<init>", desc := "()V" } : Jvm.MethodName) prog_10_method_1_code (1 : Nat) (Option.none : Option Jvm.ClassFile.FieldType)) ∈ lw_all := lw_g (lw_at lw_m7 26 rfl) rfl
theorem q1582 : (Jvm.Cond.methodLink "RightTurnsModel" (1 : Nat) ({ cls := "java/lang/Object", name := "<init>", desc := "()V" } : Jvm.MethodName)) ∈ lw_all := lw_g (lw_at lw_m7 27 rfl) rfl
theorem q1583 : (Jvm.Cond.classLink "RightTurnsModel" (23 : Nat) "[[I") ∈ lw_all := lw_g (lw_at lw_m7 28 rfl) rfl
theorem q1585 : (Jvm.Cond.fieldLink "RightTurnsModel" (131 : Nat) "RightTurnsModel" "thrown" "I") ∈ lw_all := lw_g (lw_at lw_m7 30 rfl) rfl
theorem q1586 : (Jvm.Cond.fieldLink "RightTurnsModel" (134 : Nat) "RightTurnsModel" "tape" "I") ∈ lw_all := lw_g (lw_at lw_m7 31 rfl) rfl
theorem q1587 : (Jvm.Cond.fieldLink "RightTurnsModel" (137 : Nat) "RightTurnsModel" "size" "I") ∈ lw_all := lw_g (lw_at lw_m7 32 rfl) rfl
theorem q1588 : (Jvm.Cond.fieldLink "RightTurnsModel" (9 : Nat) "RightTurnsModel" "place" "I") ∈ lw_all := lw_g (lw_at lw_m7 33 rfl) rfl
theorem q1589 : (Jvm.Cond.fieldLink "RightTurnsModel" (140 : Nat) "RightTurnsModel" "at" "I") ∈ lw_all := lw_g (lw_at lw_m7 34 rfl) rfl
theorem q1590 : (Jvm.Cond.fieldLink "RightTurnsModel" (147 : Nat) "RightTurnsModel" "fault" "I") ∈ lw_all := lw_g (lw_at lw_m7 35 rfl) rfl
theorem q1591 : (Jvm.Cond.fieldLink "RightTurnsModel" (150 : Nat) "RightTurnsModel" "faultAt" "I") ∈ lw_all := lw_g (lw_at lw_m7 36 rfl) rfl
theorem q1592 : (Jvm.Cond.fieldLink "RightTurnsModel" (184 : Nat) "RightTurnsModel" "clauses" "I") ∈ lw_all := lw_g (lw_at lw_m7 37 rfl) rfl
theorem q1593 : (Jvm.Cond.fieldLink "RightTurnsModel" (13 : Nat) "RightTurnsModel" "fed" "[I") ∈ lw_all := lw_g (lw_at lw_m7 38 rfl) rfl
theorem q1594 : (Jvm.Cond.fieldLink "RightTurnsModel" (17 : Nat) "RightTurnsModel" "readMany" "[I") ∈ lw_all := lw_g (lw_at lw_m7 39 rfl) rfl
theorem q1595 : (Jvm.Cond.fieldLink "RightTurnsModel" (20 : Nat) "RightTurnsModel" "many" "[I") ∈ lw_all := lw_g (lw_at lw_m7 40 rfl) rfl
theorem q1596 : (Jvm.Cond.fieldLink "RightTurnsModel" (25 : Nat) "RightTurnsModel" "readCorner" "[[I") ∈ lw_all := lw_g (lw_at lw_m7 41 rfl) rfl
theorem q1597 : (Jvm.Cond.fieldLink "RightTurnsModel" (28 : Nat) "RightTurnsModel" "corner" "[[I") ∈ lw_all := lw_g (lw_at lw_m7 42 rfl) rfl
theorem q1598 : (Jvm.Cond.fieldLink "RightTurnsModel" (31 : Nat) "RightTurnsModel" "readStreet" "[[I") ∈ lw_all := lw_g (lw_at lw_m7 43 rfl) rfl
theorem q1599 : (Jvm.Cond.fieldLink "RightTurnsModel" (34 : Nat) "RightTurnsModel" "street" "[[I") ∈ lw_all := lw_g (lw_at lw_m7 44 rfl) rfl
theorem q1600 : (Jvm.Cond.fieldLink "RightTurnsModel" (37 : Nat) "RightTurnsModel" "readRider" "[[I") ∈ lw_all := lw_g (lw_at lw_m7 45 rfl) rfl
theorem q1601 : (Jvm.Cond.fieldLink "RightTurnsModel" (40 : Nat) "RightTurnsModel" "rider" "[[I") ∈ lw_all := lw_g (lw_at lw_m7 46 rfl) rfl
theorem q1602 : (Jvm.Cond.fieldLink "RightTurnsModel" (43 : Nat) "RightTurnsModel" "readSign" "[I") ∈ lw_all := lw_g (lw_at lw_m7 47 rfl) rfl
theorem q1603 : (Jvm.Cond.fieldLink "RightTurnsModel" (46 : Nat) "RightTurnsModel" "readAllowed" "[I") ∈ lw_all := lw_g (lw_at lw_m7 48 rfl) rfl
theorem q1604 : (Jvm.Cond.fieldLink "RightTurnsModel" (238 : Nat) "RightTurnsModel" "time" "I") ∈ lw_all := lw_g (lw_at lw_m7 49 rfl) rfl
theorem q1605 : (Jvm.Cond.fieldLink "RightTurnsModel" (49 : Nat) "RightTurnsModel" "signs" "[[I") ∈ lw_all := lw_g (lw_at lw_m7 50 rfl) rfl
theorem q1606 : (Jvm.Cond.fieldLink "RightTurnsModel" (52 : Nat) "RightTurnsModel" "allowed" "[[I") ∈ lw_all := lw_g (lw_at lw_m7 51 rfl) rfl
theorem q1607 : (Jvm.Cond.fieldLink "RightTurnsModel" (55 : Nat) "RightTurnsModel" "signNow" "[I") ∈ lw_all := lw_g (lw_at lw_m7 52 rfl) rfl
theorem q1608 : (Jvm.Cond.fieldLink "RightTurnsModel" (58 : Nat) "RightTurnsModel" "allowedNow" "[I") ∈ lw_all := lw_g (lw_at lw_m7 53 rfl) rfl
theorem q1609 : (Jvm.Cond.fieldLink "RightTurnsModel" (61 : Nat) "RightTurnsModel" "follows" "[J") ∈ lw_all := lw_g (lw_at lw_m7 54 rfl) rfl
theorem q1610 : (Jvm.Cond.fieldLink "RightTurnsModel" (65 : Nat) "RightTurnsModel" "reaches" "[J") ∈ lw_all := lw_g (lw_at lw_m7 55 rfl) rfl
theorem q1611 : (Jvm.Cond.fieldLink "RightTurnsModel" (68 : Nat) "RightTurnsModel" "lengthFrom" "[I") ∈ lw_all := lw_g (lw_at lw_m7 56 rfl) rfl
theorem q1612 : (Jvm.Cond.fieldLink "RightTurnsModel" (259 : Nat) "RightTurnsModel" "lefts" "I") ∈ lw_all := lw_g (lw_at lw_m7 57 rfl) rfl
theorem q1613 : (Jvm.Cond.fieldLink "RightTurnsModel" (241 : Nat) "RightTurnsModel" "toldMany" "I") ∈ lw_all := lw_g (lw_at lw_m7 58 rfl) rfl
theorem q1614 : (Jvm.Cond.fieldLink "RightTurnsModel" (244 : Nat) "RightTurnsModel" "images" "I") ∈ lw_all := lw_g (lw_at lw_m7 59 rfl) rfl
theorem q1615 : (Jvm.Cond.fieldLink "RightTurnsModel" (71 : Nat) "RightTurnsModel" "left" "[[I") ∈ lw_all := lw_g (lw_at lw_m7 60 rfl) rfl
theorem q1616 : (Jvm.Cond.fieldLink "RightTurnsModel" (74 : Nat) "RightTurnsModel" "told" "[I") ∈ lw_all := lw_g (lw_at lw_m7 61 rfl) rfl
theorem q1617 : (Jvm.Cond.fieldLink "RightTurnsModel" (77 : Nat) "RightTurnsModel" "later" "[I") ∈ lw_all := lw_g (lw_at lw_m7 62 rfl) rfl
theorem q1618 : (Jvm.Cond.fieldLink "RightTurnsModel" (334 : Nat) "RightTurnsModel" "laters" "I") ∈ lw_all := lw_g (lw_at lw_m7 63 rfl) rfl
theorem q1619 : (Jvm.Cond.fieldLink "RightTurnsModel" (346 : Nat) "RightTurnsModel" "found" "I") ∈ lw_all := lw_g (lw_at lw_m7 64 rfl) rfl
theorem q1620 : (Jvm.Cond.fieldLink "RightTurnsModel" (349 : Nat) "RightTurnsModel" "foundBits" "I") ∈ lw_all := lw_g (lw_at lw_m7 65 rfl) rfl
theorem q1621 : (Jvm.Cond.fieldLink "RightTurnsModel" (80 : Nat) "RightTurnsModel" "path" "[[I") ∈ lw_all := lw_g (lw_at lw_m7 66 rfl) rfl
theorem q1622 : (Jvm.Cond.fieldLink "RightTurnsModel" (83 : Nat) "RightTurnsModel" "pathLong" "[I") ∈ lw_all := lw_g (lw_at lw_m7 67 rfl) rfl
theorem q1623 : (Jvm.Cond.fieldLink "RightTurnsModel" (86 : Nat) "RightTurnsModel" "on" "[I") ∈ lw_all := lw_g (lw_at lw_m7 68 rfl) rfl
theorem q1624 : (Jvm.Cond.fieldLink "RightTurnsModel" (89 : Nat) "RightTurnsModel" "toGo" "[I") ∈ lw_all := lw_g (lw_at lw_m7 69 rfl) rfl
theorem q1625 : (Jvm.Cond.fieldLink "RightTurnsModel" (92 : Nat) "RightTurnsModel" "came" "[I") ∈ lw_all := lw_g (lw_at lw_m7 70 rfl) rfl
theorem q1626 : (Jvm.Cond.fieldLink "RightTurnsModel" (95 : Nat) "RightTurnsModel" "homeAt" "[I") ∈ lw_all := lw_g (lw_at lw_m7 71 rfl) rfl
theorem q1627 : (Jvm.Cond.fieldLink "RightTurnsModel" (98 : Nat) "RightTurnsModel" "waits" "[I") ∈ lw_all := lw_g (lw_at lw_m7 72 rfl) rfl
theorem q1628 : (Jvm.Cond.fieldLink "RightTurnsModel" (375 : Nat) "RightTurnsModel" "rounds" "I") ∈ lw_all := lw_g (lw_at lw_m7 73 rfl) rfl
theorem q1629 : (Jvm.Cond.fieldLink "RightTurnsModel" (101 : Nat) "RightTurnsModel" "kept" "[[I") ∈ lw_all := lw_g (lw_at lw_m7 74 rfl) rfl
theorem q1630 : (Jvm.Cond.fieldLink "RightTurnsModel" (417 : Nat) "RightTurnsModel" "spot" "I") ∈ lw_all := lw_g (lw_at lw_m7 75 rfl) rfl
theorem q1631 : (Jvm.Cond.fieldLink "RightTurnsModel" (104 : Nat) "RightTurnsModel" "roundLeast" "[[I") ∈ lw_all := lw_g (lw_at lw_m7 76 rfl) rfl
theorem q1632 : (Jvm.Cond.fieldLink "RightTurnsModel" (107 : Nat) "RightTurnsModel" "node" "[I") ∈ lw_all := lw_g (lw_at lw_m7 77 rfl) rfl
theorem q1633 : (Jvm.Cond.fieldLink "RightTurnsModel" (110 : Nat) "RightTurnsModel" "far" "[[I") ∈ lw_all := lw_g (lw_at lw_m7 78 rfl) rfl
theorem q1634 : (Jvm.Cond.fieldLink "RightTurnsModel" (113 : Nat) "RightTurnsModel" "behind" "[I") ∈ lw_all := lw_g (lw_at lw_m7 79 rfl) rfl
theorem q1635 : (Jvm.Cond.fieldLink "RightTurnsModel" (116 : Nat) "RightTurnsModel" "few" "[I") ∈ lw_all := lw_g (lw_at lw_m7 80 rfl) rfl
theorem q1636 : (Jvm.Cond.fieldLink "RightTurnsModel" (119 : Nat) "RightTurnsModel" "fewNext" "[I") ∈ lw_all := lw_g (lw_at lw_m7 81 rfl) rfl
theorem q1637 : (Jvm.Cond.fieldLink "RightTurnsModel" (122 : Nat) "RightTurnsModel" "ways" "[J") ∈ lw_all := lw_g (lw_at lw_m7 82 rfl) rfl
theorem q1638 : (Jvm.Cond.fieldLink "RightTurnsModel" (125 : Nat) "RightTurnsModel" "waysNext" "[J") ∈ lw_all := lw_g (lw_at lw_m7 83 rfl) rfl
theorem q1639 : (Jvm.Cond.fieldLink "RightTurnsModel" (128 : Nat) "RightTurnsModel" "barS" "I") ∈ lw_all := lw_g (lw_at lw_m7 84 rfl) rfl
theorem q1640 : (Jvm.Cond.fieldLink "RightTurnsModel" (405 : Nat) "RightTurnsModel" "barT" "I") ∈ lw_all := lw_g (lw_at lw_m7 85 rfl) rfl
theorem q1641 : (Jvm.Cond.fieldLink "RightTurnsModel" (393 : Nat) "RightTurnsModel" "leastBreaks" "I") ∈ lw_all := lw_g (lw_at lw_m7 86 rfl) rfl
theorem q1642 : (Jvm.Cond.fieldLink "RightTurnsModel" (398 : Nat) "RightTurnsModel" "leastWays" "J") ∈ lw_all := lw_g (lw_at lw_m7 87 rfl) rfl
theorem q1643 : (Jvm.Cond.fieldLink "RightTurnsModel" (408 : Nat) "RightTurnsModel" "riding" "I") ∈ lw_all := lw_g (lw_at lw_m7 88 rfl) rfl
theorem q1644 : (Jvm.Cond.fieldLink "RightTurnsModel" (411 : Nat) "RightTurnsModel" "ridden" "I") ∈ lw_all := lw_g (lw_at lw_m7 89 rfl) rfl
theorem q1645 : (Jvm.Cond.lays "RightTurnsModel" "RightTurnsModel" "thrown" "I") ∈ lw_all := lw_g (lw_at lw_m7 90 rfl) rfl
theorem q1646 : (Jvm.Cond.soleField "RightTurnsModel" "thrown") ∈ lw_all := lw_g (lw_at lw_m7 91 rfl) rfl
theorem q1647 : (Jvm.Cond.lays "RightTurnsModel" "RightTurnsModel" "tape" "I") ∈ lw_all := lw_g (lw_at lw_m7 92 rfl) rfl
theorem q1648 : (Jvm.Cond.soleField "RightTurnsModel" "tape") ∈ lw_all := lw_g (lw_at lw_m7 93 rfl) rfl
theorem q1649 : (Jvm.Cond.lays "RightTurnsModel" "RightTurnsModel" "size" "I") ∈ lw_all := lw_g (lw_at lw_m7 94 rfl) rfl
theorem q1650 : (Jvm.Cond.soleField "RightTurnsModel" "size") ∈ lw_all := lw_g (lw_at lw_m7 95 rfl) rfl
theorem q1651 : (Jvm.Cond.lays "RightTurnsModel" "RightTurnsModel" "place" "I") ∈ lw_all := lw_g (lw_at lw_m7 96 rfl) rfl
theorem q1652 : (Jvm.Cond.soleField "RightTurnsModel" "place") ∈ lw_all := lw_g (lw_at lw_m7 97 rfl) rfl
theorem q1653 : (Jvm.Cond.lays "RightTurnsModel" "RightTurnsModel" "at" "I") ∈ lw_all := lw_g (lw_at lw_m7 98 rfl) rfl
theorem q1654 : (Jvm.Cond.soleField "RightTurnsModel" "at") ∈ lw_all := lw_g (lw_at lw_m7 99 rfl) rfl
theorem q1655 : (Jvm.Cond.lays "RightTurnsModel" "RightTurnsModel" "fault" "I") ∈ lw_all := lw_g (lw_at lw_m7 100 rfl) rfl
theorem q1656 : (Jvm.Cond.soleField "RightTurnsModel" "fault") ∈ lw_all := lw_g (lw_at lw_m7 101 rfl) rfl
theorem q1657 : (Jvm.Cond.lays "RightTurnsModel" "RightTurnsModel" "faultAt" "I") ∈ lw_all := lw_g (lw_at lw_m7 102 rfl) rfl
theorem q1658 : (Jvm.Cond.soleField "RightTurnsModel" "faultAt") ∈ lw_all := lw_g (lw_at lw_m7 103 rfl) rfl
theorem q1659 : (Jvm.Cond.lays "RightTurnsModel" "RightTurnsModel" "clauses" "I") ∈ lw_all := lw_g (lw_at lw_m7 104 rfl) rfl
theorem q1660 : (Jvm.Cond.soleField "RightTurnsModel" "clauses") ∈ lw_all := lw_g (lw_at lw_m7 105 rfl) rfl
theorem q1661 : (Jvm.Cond.laysFinal "RightTurnsModel" "RightTurnsModel" "fed" "[I") ∈ lw_all := lw_g (lw_at lw_m7 106 rfl) rfl
theorem q1662 : (Jvm.Cond.soleField "RightTurnsModel" "fed") ∈ lw_all := lw_g (lw_at lw_m7 107 rfl) rfl
theorem q1663 : (Jvm.Cond.laysFinal "RightTurnsModel" "RightTurnsModel" "readMany" "[I") ∈ lw_all := lw_g (lw_at lw_m7 108 rfl) rfl
theorem q1664 : (Jvm.Cond.soleField "RightTurnsModel" "readMany") ∈ lw_all := lw_g (lw_at lw_m7 109 rfl) rfl
theorem q1665 : (Jvm.Cond.laysFinal "RightTurnsModel" "RightTurnsModel" "many" "[I") ∈ lw_all := lw_g (lw_at lw_m7 110 rfl) rfl
theorem q1666 : (Jvm.Cond.soleField "RightTurnsModel" "many") ∈ lw_all := lw_g (lw_at lw_m7 111 rfl) rfl
theorem q1667 : (Jvm.Cond.laysFinal "RightTurnsModel" "RightTurnsModel" "readCorner" "[[I") ∈ lw_all := lw_g (lw_at lw_m7 112 rfl) rfl
theorem q1668 : (Jvm.Cond.soleField "RightTurnsModel" "readCorner") ∈ lw_all := lw_g (lw_at lw_m7 113 rfl) rfl
theorem q1669 : (Jvm.Cond.laysFinal "RightTurnsModel" "RightTurnsModel" "corner" "[[I") ∈ lw_all := lw_g (lw_at lw_m7 114 rfl) rfl
theorem q1670 : (Jvm.Cond.soleField "RightTurnsModel" "corner") ∈ lw_all := lw_g (lw_at lw_m7 115 rfl) rfl
theorem q1671 : (Jvm.Cond.laysFinal "RightTurnsModel" "RightTurnsModel" "readStreet" "[[I") ∈ lw_all := lw_g (lw_at lw_m7 116 rfl) rfl
theorem q1672 : (Jvm.Cond.soleField "RightTurnsModel" "readStreet") ∈ lw_all := lw_g (lw_at lw_m7 117 rfl) rfl
theorem q1673 : (Jvm.Cond.laysFinal "RightTurnsModel" "RightTurnsModel" "street" "[[I") ∈ lw_all := lw_g (lw_at lw_m7 118 rfl) rfl
theorem q1674 : (Jvm.Cond.soleField "RightTurnsModel" "street") ∈ lw_all := lw_g (lw_at lw_m7 119 rfl) rfl
theorem q1675 : (Jvm.Cond.laysFinal "RightTurnsModel" "RightTurnsModel" "readRider" "[[I") ∈ lw_all := lw_g (lw_at lw_m7 120 rfl) rfl
theorem q1676 : (Jvm.Cond.soleField "RightTurnsModel" "readRider") ∈ lw_all := lw_g (lw_at lw_m7 121 rfl) rfl
theorem q1677 : (Jvm.Cond.laysFinal "RightTurnsModel" "RightTurnsModel" "rider" "[[I") ∈ lw_all := lw_g (lw_at lw_m7 122 rfl) rfl
theorem q1678 : (Jvm.Cond.soleField "RightTurnsModel" "rider") ∈ lw_all := lw_g (lw_at lw_m7 123 rfl) rfl
theorem q1679 : (Jvm.Cond.laysFinal "RightTurnsModel" "RightTurnsModel" "readSign" "[I") ∈ lw_all := lw_g (lw_at lw_m7 124 rfl) rfl
theorem q1680 : (Jvm.Cond.soleField "RightTurnsModel" "readSign") ∈ lw_all := lw_g (lw_at lw_m7 125 rfl) rfl
theorem q1681 : (Jvm.Cond.laysFinal "RightTurnsModel" "RightTurnsModel" "readAllowed" "[I") ∈ lw_all := lw_g (lw_at lw_m7 126 rfl) rfl
theorem q1682 : (Jvm.Cond.soleField "RightTurnsModel" "readAllowed") ∈ lw_all := lw_g (lw_at lw_m7 127 rfl) rfl
theorem q1683 : (Jvm.Cond.lays "RightTurnsModel" "RightTurnsModel" "time" "I") ∈ lw_all := lw_g (lw_at lw_m7 128 rfl) rfl
theorem q1684 : (Jvm.Cond.soleField "RightTurnsModel" "time") ∈ lw_all := lw_g (lw_at lw_m7 129 rfl) rfl
theorem q1685 : (Jvm.Cond.laysFinal "RightTurnsModel" "RightTurnsModel" "signs" "[[I") ∈ lw_all := lw_g (lw_at lw_m7 130 rfl) rfl
theorem q1686 : (Jvm.Cond.soleField "RightTurnsModel" "signs") ∈ lw_all := lw_g (lw_at lw_m7 131 rfl) rfl
theorem q1687 : (Jvm.Cond.laysFinal "RightTurnsModel" "RightTurnsModel" "allowed" "[[I") ∈ lw_all := lw_g (lw_at lw_m7 132 rfl) rfl
theorem q1688 : (Jvm.Cond.soleField "RightTurnsModel" "allowed") ∈ lw_all := lw_g (lw_at lw_m7 133 rfl) rfl
theorem q1689 : (Jvm.Cond.laysFinal "RightTurnsModel" "RightTurnsModel" "signNow" "[I") ∈ lw_all := lw_g (lw_at lw_m7 134 rfl) rfl
theorem q1690 : (Jvm.Cond.soleField "RightTurnsModel" "signNow") ∈ lw_all := lw_g (lw_at lw_m7 135 rfl) rfl
theorem q1691 : (Jvm.Cond.laysFinal "RightTurnsModel" "RightTurnsModel" "allowedNow" "[I") ∈ lw_all := lw_g (lw_at lw_m7 136 rfl) rfl
theorem q1692 : (Jvm.Cond.soleField "RightTurnsModel" "allowedNow") ∈ lw_all := lw_g (lw_at lw_m7 137 rfl) rfl
theorem q1693 : (Jvm.Cond.laysFinal "RightTurnsModel" "RightTurnsModel" "follows" "[J") ∈ lw_all := lw_g (lw_at lw_m7 138 rfl) rfl
theorem q1694 : (Jvm.Cond.soleField "RightTurnsModel" "follows") ∈ lw_all := lw_g (lw_at lw_m7 139 rfl) rfl
theorem q1695 : (Jvm.Cond.laysFinal "RightTurnsModel" "RightTurnsModel" "reaches" "[J") ∈ lw_all := lw_g (lw_at lw_m7 140 rfl) rfl
theorem q1696 : (Jvm.Cond.soleField "RightTurnsModel" "reaches") ∈ lw_all := lw_g (lw_at lw_m7 141 rfl) rfl
theorem q1697 : (Jvm.Cond.laysFinal "RightTurnsModel" "RightTurnsModel" "lengthFrom" "[I") ∈ lw_all := lw_g (lw_at lw_m7 142 rfl) rfl
theorem q1698 : (Jvm.Cond.soleField "RightTurnsModel" "lengthFrom") ∈ lw_all := lw_g (lw_at lw_m7 143 rfl) rfl
theorem q1699 : (Jvm.Cond.lays "RightTurnsModel" "RightTurnsModel" "lefts" "I") ∈ lw_all := lw_g (lw_at lw_m7 144 rfl) rfl
theorem q1700 : (Jvm.Cond.soleField "RightTurnsModel" "lefts") ∈ lw_all := lw_g (lw_at lw_m7 145 rfl) rfl
theorem q1701 : (Jvm.Cond.lays "RightTurnsModel" "RightTurnsModel" "toldMany" "I") ∈ lw_all := lw_g (lw_at lw_m7 146 rfl) rfl
theorem q1702 : (Jvm.Cond.soleField "RightTurnsModel" "toldMany") ∈ lw_all := lw_g (lw_at lw_m7 147 rfl) rfl
theorem q1703 : (Jvm.Cond.lays "RightTurnsModel" "RightTurnsModel" "images" "I") ∈ lw_all := lw_g (lw_at lw_m7 148 rfl) rfl
theorem q1704 : (Jvm.Cond.soleField "RightTurnsModel" "images") ∈ lw_all := lw_g (lw_at lw_m7 149 rfl) rfl
theorem q1705 : (Jvm.Cond.laysFinal "RightTurnsModel" "RightTurnsModel" "left" "[[I") ∈ lw_all := lw_g (lw_at lw_m7 150 rfl) rfl
theorem q1706 : (Jvm.Cond.soleField "RightTurnsModel" "left") ∈ lw_all := lw_g (lw_at lw_m7 151 rfl) rfl
theorem q1707 : (Jvm.Cond.laysFinal "RightTurnsModel" "RightTurnsModel" "told" "[I") ∈ lw_all := lw_g (lw_at lw_m7 152 rfl) rfl
theorem q1708 : (Jvm.Cond.soleField "RightTurnsModel" "told") ∈ lw_all := lw_g (lw_at lw_m7 153 rfl) rfl
theorem q1709 : (Jvm.Cond.laysFinal "RightTurnsModel" "RightTurnsModel" "later" "[I") ∈ lw_all := lw_g (lw_at lw_m7 154 rfl) rfl
theorem q1710 : (Jvm.Cond.soleField "RightTurnsModel" "later") ∈ lw_all := lw_g (lw_at lw_m7 155 rfl) rfl
theorem q1711 : (Jvm.Cond.lays "RightTurnsModel" "RightTurnsModel" "laters" "I") ∈ lw_all := lw_g (lw_at lw_m7 156 rfl) rfl
theorem q1712 : (Jvm.Cond.soleField "RightTurnsModel" "laters") ∈ lw_all := lw_g (lw_at lw_m7 157 rfl) rfl
theorem q1713 : (Jvm.Cond.lays "RightTurnsModel" "RightTurnsModel" "found" "I") ∈ lw_all := lw_g (lw_at lw_m7 158 rfl) rfl
theorem q1714 : (Jvm.Cond.soleField "RightTurnsModel" "found") ∈ lw_all := lw_g (lw_at lw_m7 159 rfl) rfl
theorem q1715 : (Jvm.Cond.lays "RightTurnsModel" "RightTurnsModel" "foundBits" "I") ∈ lw_all := lw_g (lw_at lw_m7 160 rfl) rfl
theorem q1716 : (Jvm.Cond.soleField "RightTurnsModel" "foundBits") ∈ lw_all := lw_g (lw_at lw_m7 161 rfl) rfl
theorem q1717 : (Jvm.Cond.laysFinal "RightTurnsModel" "RightTurnsModel" "path" "[[I") ∈ lw_all := lw_g (lw_at lw_m7 162 rfl) rfl
theorem q1718 : (Jvm.Cond.soleField "RightTurnsModel" "path") ∈ lw_all := lw_g (lw_at lw_m7 163 rfl) rfl
theorem q1719 : (Jvm.Cond.laysFinal "RightTurnsModel" "RightTurnsModel" "pathLong" "[I") ∈ lw_all := lw_g (lw_at lw_m7 164 rfl) rfl
theorem q1720 : (Jvm.Cond.soleField "RightTurnsModel" "pathLong") ∈ lw_all := lw_g (lw_at lw_m7 165 rfl) rfl
theorem q1721 : (Jvm.Cond.laysFinal "RightTurnsModel" "RightTurnsModel" "on" "[I") ∈ lw_all := lw_g (lw_at lw_m7 166 rfl) rfl
theorem q1722 : (Jvm.Cond.soleField "RightTurnsModel" "on") ∈ lw_all := lw_g (lw_at lw_m7 167 rfl) rfl
theorem q1723 : (Jvm.Cond.laysFinal "RightTurnsModel" "RightTurnsModel" "toGo" "[I") ∈ lw_all := lw_g (lw_at lw_m7 168 rfl) rfl
theorem q1724 : (Jvm.Cond.soleField "RightTurnsModel" "toGo") ∈ lw_all := lw_g (lw_at lw_m7 169 rfl) rfl
theorem q1725 : (Jvm.Cond.laysFinal "RightTurnsModel" "RightTurnsModel" "came" "[I") ∈ lw_all := lw_g (lw_at lw_m7 170 rfl) rfl
theorem q1726 : (Jvm.Cond.soleField "RightTurnsModel" "came") ∈ lw_all := lw_g (lw_at lw_m7 171 rfl) rfl
theorem q1727 : (Jvm.Cond.laysFinal "RightTurnsModel" "RightTurnsModel" "homeAt" "[I") ∈ lw_all := lw_g (lw_at lw_m7 172 rfl) rfl
theorem q1728 : (Jvm.Cond.soleField "RightTurnsModel" "homeAt") ∈ lw_all := lw_g (lw_at lw_m7 173 rfl) rfl
theorem q1729 : (Jvm.Cond.laysFinal "RightTurnsModel" "RightTurnsModel" "waits" "[I") ∈ lw_all := lw_g (lw_at lw_m7 174 rfl) rfl
theorem q1730 : (Jvm.Cond.soleField "RightTurnsModel" "waits") ∈ lw_all := lw_g (lw_at lw_m7 175 rfl) rfl
theorem q1731 : (Jvm.Cond.lays "RightTurnsModel" "RightTurnsModel" "rounds" "I") ∈ lw_all := lw_g (lw_at lw_m7 176 rfl) rfl
theorem q1732 : (Jvm.Cond.soleField "RightTurnsModel" "rounds") ∈ lw_all := lw_g (lw_at lw_m7 177 rfl) rfl
theorem q1733 : (Jvm.Cond.laysFinal "RightTurnsModel" "RightTurnsModel" "kept" "[[I") ∈ lw_all := lw_g (lw_at lw_m7 178 rfl) rfl
theorem q1734 : (Jvm.Cond.soleField "RightTurnsModel" "kept") ∈ lw_all := lw_g (lw_at lw_m7 179 rfl) rfl
theorem q1735 : (Jvm.Cond.lays "RightTurnsModel" "RightTurnsModel" "spot" "I") ∈ lw_all := lw_g (lw_at lw_m7 180 rfl) rfl
theorem q1736 : (Jvm.Cond.soleField "RightTurnsModel" "spot") ∈ lw_all := lw_g (lw_at lw_m7 181 rfl) rfl
theorem q1737 : (Jvm.Cond.laysFinal "RightTurnsModel" "RightTurnsModel" "roundLeast" "[[I") ∈ lw_all := lw_g (lw_at lw_m7 182 rfl) rfl
theorem q1738 : (Jvm.Cond.soleField "RightTurnsModel" "roundLeast") ∈ lw_all := lw_g (lw_at lw_m7 183 rfl) rfl
theorem q1739 : (Jvm.Cond.laysFinal "RightTurnsModel" "RightTurnsModel" "node" "[I") ∈ lw_all := lw_g (lw_at lw_m7 184 rfl) rfl
theorem q1740 : (Jvm.Cond.soleField "RightTurnsModel" "node") ∈ lw_all := lw_g (lw_at lw_m7 185 rfl) rfl
theorem q1741 : (Jvm.Cond.laysFinal "RightTurnsModel" "RightTurnsModel" "far" "[[I") ∈ lw_all := lw_g (lw_at lw_m7 186 rfl) rfl
theorem q1742 : (Jvm.Cond.soleField "RightTurnsModel" "far") ∈ lw_all := lw_g (lw_at lw_m7 187 rfl) rfl
theorem q1743 : (Jvm.Cond.laysFinal "RightTurnsModel" "RightTurnsModel" "behind" "[I") ∈ lw_all := lw_g (lw_at lw_m7 188 rfl) rfl
theorem q1744 : (Jvm.Cond.soleField "RightTurnsModel" "behind") ∈ lw_all := lw_g (lw_at lw_m7 189 rfl) rfl
theorem q1745 : (Jvm.Cond.laysFinal "RightTurnsModel" "RightTurnsModel" "few" "[I") ∈ lw_all := lw_g (lw_at lw_m7 190 rfl) rfl
theorem q1746 : (Jvm.Cond.soleField "RightTurnsModel" "few") ∈ lw_all := lw_g (lw_at lw_m7 191 rfl) rfl
theorem q1747 : (Jvm.Cond.laysFinal "RightTurnsModel" "RightTurnsModel" "fewNext" "[I") ∈ lw_all := lw_g (lw_at lw_m7 192 rfl) rfl
theorem q1748 : (Jvm.Cond.soleField "RightTurnsModel" "fewNext") ∈ lw_all := lw_g (lw_at lw_m7 193 rfl) rfl
theorem q1749 : (Jvm.Cond.laysFinal "RightTurnsModel" "RightTurnsModel" "ways" "[J") ∈ lw_all := lw_g (lw_at lw_m7 194 rfl) rfl
theorem q1750 : (Jvm.Cond.soleField "RightTurnsModel" "ways") ∈ lw_all := lw_g (lw_at lw_m7 195 rfl) rfl
theorem q1751 : (Jvm.Cond.laysFinal "RightTurnsModel" "RightTurnsModel" "waysNext" "[J") ∈ lw_all := lw_g (lw_at lw_m7 196 rfl) rfl
theorem q1752 : (Jvm.Cond.soleField "RightTurnsModel" "waysNext") ∈ lw_all := lw_g (lw_at lw_m7 197 rfl) rfl
theorem q1753 : (Jvm.Cond.lays "RightTurnsModel" "RightTurnsModel" "barS" "I") ∈ lw_all := lw_g (lw_at lw_m7 198 rfl) rfl
theorem q1754 : (Jvm.Cond.soleField "RightTurnsModel" "barS") ∈ lw_all := lw_g (lw_at lw_m7 199 rfl) rfl
theorem q1755 : (Jvm.Cond.lays "RightTurnsModel" "RightTurnsModel" "barT" "I") ∈ lw_all := lw_g (lw_at lw_m7 200 rfl) rfl
theorem q1756 : (Jvm.Cond.soleField "RightTurnsModel" "barT") ∈ lw_all := lw_g (lw_at lw_m7 201 rfl) rfl
theorem q1757 : (Jvm.Cond.lays "RightTurnsModel" "RightTurnsModel" "leastBreaks" "I") ∈ lw_all := lw_g (lw_at lw_m7 202 rfl) rfl
theorem q1758 : (Jvm.Cond.soleField "RightTurnsModel" "leastBreaks") ∈ lw_all := lw_g (lw_at lw_m7 203 rfl) rfl
theorem q1759 : (Jvm.Cond.lays "RightTurnsModel" "RightTurnsModel" "leastWays" "J") ∈ lw_all := lw_g (lw_at lw_m7 204 rfl) rfl
theorem q1760 : (Jvm.Cond.soleField "RightTurnsModel" "leastWays") ∈ lw_all := lw_g (lw_at lw_m7 205 rfl) rfl
theorem q1761 : (Jvm.Cond.lays "RightTurnsModel" "RightTurnsModel" "riding" "I") ∈ lw_all := lw_g (lw_at lw_m7 206 rfl) rfl
theorem q1762 : (Jvm.Cond.soleField "RightTurnsModel" "riding") ∈ lw_all := lw_g (lw_at lw_m7 207 rfl) rfl
theorem q1763 : (Jvm.Cond.lays "RightTurnsModel" "RightTurnsModel" "ridden" "I") ∈ lw_all := lw_g (lw_at lw_m7 208 rfl) rfl
theorem q1764 : (Jvm.Cond.soleField "RightTurnsModel" "ridden") ∈ lw_all := lw_g (lw_at lw_m7 209 rfl) rfl
theorem q1765 : (Jvm.Cond.superclass "RightTurnsModel" "java/lang/Object") ∈ lw_all := lw_g (lw_at lw_m7 210 rfl) rfl
theorem q1767 : (Jvm.Cond.instanceMethod ({ cls := "RightTurnsModel", name := "thrown", desc := "()I" } : Jvm.MethodName)) ∈ lw_all := lw_g (lw_at lw_m7 212 rfl) rfl
theorem q1768 : (Jvm.Cond.selects "RightTurnsModel" ({ cls := "RightTurnsModel", name := "thrown", desc := "()I" } : Jvm.MethodName) ({ cls := "RightTurnsModel", name := "thrown", desc := "()I" } : Jvm.MethodName)) ∈ lw_all := lw_g (lw_at lw_m7 213 rfl) rfl
theorem q1769 : (Jvm.Cond.code ({ cls := "RightTurnsModel", name := "thrown", desc := "()I" } : Jvm.MethodName) prog_10_method_2_code (1 : Nat) (Option.some Jvm.ClassFile.FieldType.int)) ∈ lw_all := lw_g (lw_at lw_m7 214 rfl) rfl
theorem q1771 : (Jvm.Cond.instanceMethod ({ cls := "RightTurnsModel", name := "feed", desc := "(IIIII)I" } : Jvm.MethodName)) ∈ lw_all := lw_g (lw_at lw_m7 216 rfl) rfl
theorem q1772 : (Jvm.Cond.selects "RightTurnsModel" ({ cls := "RightTurnsModel", name := "feed", desc := "(IIIII)I" } : Jvm.MethodName) ({ cls := "RightTurnsModel", name := "feed", desc := "(IIIII)I" } : Jvm.MethodName)) ∈ lw_all := lw_g (lw_at lw_m7 217 rfl) rfl
theorem q1773 : (Jvm.Cond.code ({ cls := "RightTurnsModel", name := "feed", desc := "(IIIII)I" } : Jvm.MethodName) prog_10_method_5_code (8 : Nat) (Option.some Jvm.ClassFile.FieldType.int)) ∈ lw_all := lw_g (lw_at lw_m7 218 rfl) rfl
theorem q1775 : (Jvm.Cond.instanceMethod ({ cls := "RightTurnsModel", name := "town", desc := "(I)I" } : Jvm.MethodName)) ∈ lw_all := lw_g (lw_at lw_m7 220 rfl) rfl
theorem q1776 : (Jvm.Cond.selects "RightTurnsModel" ({ cls := "RightTurnsModel", name := "town", desc := "(I)I" } : Jvm.MethodName) ({ cls := "RightTurnsModel", name := "town", desc := "(I)I" } : Jvm.MethodName)) ∈ lw_all := lw_g (lw_at lw_m7 221 rfl) rfl
theorem q1777 : (Jvm.Cond.code ({ cls := "RightTurnsModel", name := "town", desc := "(I)I" } : Jvm.MethodName) prog_10_method_28_code (3 : Nat) (Option.some Jvm.ClassFile.FieldType.int)) ∈ lw_all := lw_g (lw_at lw_m7 222 rfl) rfl
theorem q1778 : (Jvm.Cond.methodLink "RightTurnsModel" (165 : Nat) ({ cls := "RightTurnsModel", name := "in", desc := "(III)Z" } : Jvm.MethodName)) ∈ lw_all := lw_g (lw_at lw_m7 223 rfl) rfl
theorem q1779 : (Jvm.Cond.static ({ cls := "RightTurnsModel", name := "in", desc := "(III)Z" } : Jvm.MethodName)) ∈ lw_all := lw_g (lw_at lw_m7 224 rfl) rfl
theorem q1780 : (Jvm.Cond.code ({ cls := "RightTurnsModel", name := "in", desc := "(III)Z" } : Jvm.MethodName) prog_10_method_4_code (3 : Nat) (Option.some Jvm.ClassFile.FieldType.boolean)) ∈ lw_all := lw_g (lw_at lw_m7 225 rfl) rfl
theorem q1781 : (Jvm.Cond.methodLink "RightTurnsModel" (227 : Nat) ({ cls := "RightTurnsModel", name := "bad", desc := "(ZI)Z" } : Jvm.MethodName)) ∈ lw_all := lw_g (lw_at lw_m7 226 rfl) rfl
theorem q1782 : (Jvm.Cond.privateMethod ({ cls := "RightTurnsModel", name := "bad", desc := "(ZI)Z" } : Jvm.MethodName)) ∈ lw_tbl := lw_at lw_m7 227 rfl
theorem q1783 : (Jvm.Cond.instanceMethod ({ cls := "RightTurnsModel", name := "bad", desc := "(ZI)Z" } : Jvm.MethodName)) ∈ lw_all := lw_g (lw_at lw_m7 228 rfl) rfl
theorem q1784 : (Jvm.Cond.code ({ cls := "RightTurnsModel", name := "bad", desc := "(ZI)Z" } : Jvm.MethodName) prog_10_method_3_code (3 : Nat) (Option.some Jvm.ClassFile.FieldType.boolean)) ∈ lw_all := lw_g (lw_at lw_m7 229 rfl) rfl
theorem q1785 : (Jvm.Cond.methodLink "RightTurnsModel" (153 : Nat) ({ cls := "RightTurnsModel", name := "blanks", desc := "()V" } : Jvm.MethodName)) ∈ lw_all := lw_g (lw_at lw_m7 230 rfl) rfl
theorem q1786 : (Jvm.Cond.privateMethod ({ cls := "RightTurnsModel", name := "blanks", desc := "()V" } : Jvm.MethodName)) ∈ lw_tbl := lw_at lw_m7 231 rfl
theorem q1787 : (Jvm.Cond.instanceMethod ({ cls := "RightTurnsModel", name := "blanks", desc := "()V" } : Jvm.MethodName)) ∈ lw_all := lw_g (lw_at lw_m7 232 rfl) rfl
theorem q1788 : (Jvm.Cond.code ({ cls := "RightTurnsModel", name := "blanks", desc := "()V" } : Jvm.MethodName) prog_10_method_7_code (1 : Nat) (Option.none : Option Jvm.ClassFile.FieldType)) ∈ lw_all := lw_g (lw_at lw_m7 233 rfl) rfl
theorem q1789 : (Jvm.Cond.methodLink "RightTurnsModel" (143 : Nat) ({ cls := "RightTurnsModel", name := "byteAt", desc := "(I)I" } : Jvm.MethodName)) ∈ lw_all := lw_g (lw_at lw_m7 234 rfl) rfl
theorem q1790 : (Jvm.Cond.privateMethod ({ cls := "RightTurnsModel", name := "byteAt", desc := "(I)I" } : Jvm.MethodName)) ∈ lw_tbl := lw_at lw_m7 235 rfl
theorem q1791 : (Jvm.Cond.instanceMethod ({ cls := "RightTurnsModel", name := "byteAt", desc := "(I)I" } : Jvm.MethodName)) ∈ lw_all := lw_g (lw_at lw_m7 236 rfl) rfl
theorem q1792 : (Jvm.Cond.code ({ cls := "RightTurnsModel", name := "byteAt", desc := "(I)I" } : Jvm.MethodName) prog_10_method_6_code (2 : Nat) (Option.some Jvm.ClassFile.FieldType.int)) ∈ lw_all := lw_g (lw_at lw_m7 237 rfl) rfl
theorem q1793 : (Jvm.Cond.methodLink "RightTurnsModel" (231 : Nat) ({ cls := "RightTurnsModel", name := "clause", desc := "()V" } : Jvm.MethodName)) ∈ lw_all := lw_g (lw_at lw_m7 238 rfl) rfl
theorem q1794 : (Jvm.Cond.privateMethod ({ cls := "RightTurnsModel", name := "clause", desc := "()V" } : Jvm.MethodName)) ∈ lw_tbl := lw_at lw_m7 239 rfl
theorem q1795 : (Jvm.Cond.instanceMethod ({ cls := "RightTurnsModel", name := "clause", desc := "()V" } : Jvm.MethodName)) ∈ lw_all := lw_g (lw_at lw_m8 0 rfl) rfl
theorem q1796 : (Jvm.Cond.code ({ cls := "RightTurnsModel", name := "clause", desc := "()V" } : Jvm.MethodName) prog_10_method_18_code (2 : Nat) (Option.none : Option Jvm.ClassFile.FieldType)) ∈ lw_all := lw_g (lw_at lw_m8 1 rfl) rfl
theorem q1797 : (Jvm.Cond.methodLink "RightTurnsModel" (181 : Nat) ({ cls := "RightTurnsModel", name := "kindHere", desc := "()I" } : Jvm.MethodName)) ∈ lw_all := lw_g (lw_at lw_m8 2 rfl) rfl
theorem q1798 : (Jvm.Cond.privateMethod ({ cls := "RightTurnsModel", name := "kindHere", desc := "()I" } : Jvm.MethodName)) ∈ lw_tbl := lw_at lw_m8 3 rfl
theorem q1799 : (Jvm.Cond.instanceMethod ({ cls := "RightTurnsModel", name := "kindHere", desc := "()I" } : Jvm.MethodName)) ∈ lw_all := lw_g (lw_at lw_m8 4 rfl) rfl
theorem q1800 : (Jvm.Cond.code ({ cls := "RightTurnsModel", name := "kindHere", desc := "()I" } : Jvm.MethodName) prog_10_method_16_code (1 : Nat) (Option.some Jvm.ClassFile.FieldType.int)) ∈ lw_all := lw_g (lw_at lw_m8 5 rfl) rfl
theorem q1801 : (Jvm.Cond.methodLink "RightTurnsModel" (177 : Nat) ({ cls := "RightTurnsModel", name := "isWord", desc := "(IIIIII)Z" } : Jvm.MethodName)) ∈ lw_all := lw_g (lw_at lw_m8 6 rfl) rfl
theorem q1802 : (Jvm.Cond.privateMethod ({ cls := "RightTurnsModel", name := "isWord", desc := "(IIIIII)Z" } : Jvm.MethodName)) ∈ lw_tbl := lw_at lw_m8 7 rfl
theorem q1803 : (Jvm.Cond.instanceMethod ({ cls := "RightTurnsModel", name := "isWord", desc := "(IIIIII)Z" } : Jvm.MethodName)) ∈ lw_all := lw_g (lw_at lw_m8 8 rfl) rfl
theorem q1804 : (Jvm.Cond.code ({ cls := "RightTurnsModel", name := "isWord", desc := "(IIIIII)Z" } : Jvm.MethodName) prog_10_method_13_code (7 : Nat) (Option.some Jvm.ClassFile.FieldType.boolean)) ∈ lw_all := lw_g (lw_at lw_m8 9 rfl) rfl
theorem q1805 : (Jvm.Cond.methodLink "RightTurnsModel" (169 : Nat) ({ cls := "RightTurnsModel", name := "wordHere", desc := "()I" } : Jvm.MethodName)) ∈ lw_all := lw_g (lw_at lw_m8 10 rfl) rfl
theorem q1806 : (Jvm.Cond.privateMethod ({ cls := "RightTurnsModel", name := "wordHere", desc := "()I" } : Jvm.MethodName)) ∈ lw_tbl := lw_at lw_m8 11 rfl
theorem q1807 : (Jvm.Cond.instanceMethod ({ cls := "RightTurnsModel", name := "wordHere", desc := "()I" } : Jvm.MethodName)) ∈ lw_all := lw_g (lw_at lw_m8 12 rfl) rfl
theorem q1808 : (Jvm.Cond.code ({ cls := "RightTurnsModel", name := "wordHere", desc := "()I" } : Jvm.MethodName) prog_10_method_11_code (3 : Nat) (Option.some Jvm.ClassFile.FieldType.int)) ∈ lw_all := lw_g (lw_at lw_m8 13 rfl) rfl
theorem q1809 : (Jvm.Cond.methodLink "RightTurnsModel" (173 : Nat) ({ cls := "RightTurnsModel", name := "named", desc := "(IIIIII)I" } : Jvm.MethodName)) ∈ lw_all := lw_g (lw_at lw_m8 14 rfl) rfl
theorem q1810 : (Jvm.Cond.static ({ cls := "RightTurnsModel", name := "named", desc := "(IIIIII)I" } : Jvm.MethodName)) ∈ lw_all := lw_g (lw_at lw_m8 15 rfl) rfl
theorem q1811 : (Jvm.Cond.code ({ cls := "RightTurnsModel", name := "named", desc := "(IIIIII)I" } : Jvm.MethodName) prog_10_method_12_code (7 : Nat) (Option.some Jvm.ClassFile.FieldType.int)) ∈ lw_all := lw_g (lw_at lw_m8 16 rfl) rfl
theorem q1812 : (Jvm.Cond.methodLink "RightTurnsModel" (160 : Nat) ({ cls := "RightTurnsModel", name := "wrong", desc := "(II)V" } : Jvm.MethodName)) ∈ lw_all := lw_g (lw_at lw_m8 17 rfl) rfl
theorem q1813 : (Jvm.Cond.privateMethod ({ cls := "RightTurnsModel", name := "wrong", desc := "(II)V" } : Jvm.MethodName)) ∈ lw_tbl := lw_at lw_m8 18 rfl
theorem q1814 : (Jvm.Cond.instanceMethod ({ cls := "RightTurnsModel", name := "wrong", desc := "(II)V" } : Jvm.MethodName)) ∈ lw_all := lw_g (lw_at lw_m8 19 rfl) rfl
theorem q1815 : (Jvm.Cond.code ({ cls := "RightTurnsModel", name := "wrong", desc := "(II)V" } : Jvm.MethodName) prog_10_method_8_code (3 : Nat) (Option.none : Option Jvm.ClassFile.FieldType)) ∈ lw_all := lw_g (lw_at lw_m8 20 rfl) rfl
theorem q1816 : (Jvm.Cond.methodLink "RightTurnsModel" (187 : Nat) ({ cls := "RightTurnsModel", name := "ones", desc := "(I)I" } : Jvm.MethodName)) ∈ lw_all := lw_g (lw_at lw_m8 21 rfl) rfl
theorem q1817 : (Jvm.Cond.static ({ cls := "RightTurnsModel", name := "ones", desc := "(I)I" } : Jvm.MethodName)) ∈ lw_all := lw_g (lw_at lw_m8 22 rfl) rfl
theorem q1818 : (Jvm.Cond.code ({ cls := "RightTurnsModel", name := "ones", desc := "(I)I" } : Jvm.MethodName) prog_10_method_17_code (3 : Nat) (Option.some Jvm.ClassFile.FieldType.int)) ∈ lw_all := lw_g (lw_at lw_m8 23 rfl) rfl
theorem q1819 : (Jvm.Cond.methodLink "RightTurnsModel" (190 : Nat) ({ cls := "RightTurnsModel", name := "skipWord", desc := "()V" } : Jvm.MethodName)) ∈ lw_all := lw_g (lw_at lw_m8 24 rfl) rfl
theorem q1820 : (Jvm.Cond.privateMethod ({ cls := "RightTurnsModel", name := "skipWord", desc := "()V" } : Jvm.MethodName)) ∈ lw_tbl := lw_at lw_m8 25 rfl
theorem q1821 : (Jvm.Cond.instanceMethod ({ cls := "RightTurnsModel", name := "skipWord", desc := "()V" } : Jvm.MethodName)) ∈ lw_all := lw_g (lw_at lw_m8 26 rfl) rfl
theorem q1822 : (Jvm.Cond.code ({ cls := "RightTurnsModel", name := "skipWord", desc := "()V" } : Jvm.MethodName) prog_10_method_14_code (1 : Nat) (Option.none : Option Jvm.ClassFile.FieldType)) ∈ lw_all := lw_g (lw_at lw_m8 27 rfl) rfl
theorem q1823 : (Jvm.Cond.methodLink "RightTurnsModel" (193 : Nat) ({ cls := "RightTurnsModel", name := "readsCorner", desc := "()V" } : Jvm.MethodName)) ∈ lw_all := lw_g (lw_at lw_m8 28 rfl) rfl
theorem q1824 : (Jvm.Cond.privateMethod ({ cls := "RightTurnsModel", name := "readsCorner", desc := "()V" } : Jvm.MethodName)) ∈ lw_tbl := lw_at lw_m8 29 rfl
theorem q1825 : (Jvm.Cond.instanceMethod ({ cls := "RightTurnsModel", name := "readsCorner", desc := "()V" } : Jvm.MethodName)) ∈ lw_all := lw_g (lw_at lw_m8 30 rfl) rfl
theorem q1826 : (Jvm.Cond.code ({ cls := "RightTurnsModel", name := "readsCorner", desc := "()V" } : Jvm.MethodName) prog_10_method_19_code (5 : Nat) (Option.none : Option Jvm.ClassFile.FieldType)) ∈ lw_all := lw_g (lw_at lw_m8 31 rfl) rfl
theorem q1827 : (Jvm.Cond.methodLink "RightTurnsModel" (216 : Nat) ({ cls := "RightTurnsModel", name := "number", desc := "(II)I" } : Jvm.MethodName)) ∈ lw_all := lw_g (lw_at lw_m8 32 rfl) rfl
theorem q1828 : (Jvm.Cond.privateMethod ({ cls := "RightTurnsModel", name := "number", desc := "(II)I" } : Jvm.MethodName)) ∈ lw_tbl := lw_at lw_m8 33 rfl
theorem q1829 : (Jvm.Cond.instanceMethod ({ cls := "RightTurnsModel", name := "number", desc := "(II)I" } : Jvm.MethodName)) ∈ lw_all := lw_g (lw_at lw_m8 34 rfl) rfl
theorem q1830 : (Jvm.Cond.code ({ cls := "RightTurnsModel", name := "number", desc := "(II)I" } : Jvm.MethodName) prog_10_method_10_code (5 : Nat) (Option.some Jvm.ClassFile.FieldType.int)) ∈ lw_all := lw_g (lw_at lw_m8 35 rfl) rfl
theorem q1831 : (Jvm.Cond.methodLink "RightTurnsModel" (156 : Nat) ({ cls := "RightTurnsModel", name := "isDigit", desc := "(I)Z" } : Jvm.MethodName)) ∈ lw_all := lw_g (lw_at lw_m8 36 rfl) rfl
theorem q1832 : (Jvm.Cond.static ({ cls := "RightTurnsModel", name := "isDigit", desc := "(I)Z" } : Jvm.MethodName)) ∈ lw_all := lw_g (lw_at lw_m8 37 rfl) rfl
theorem q1833 : (Jvm.Cond.code ({ cls := "RightTurnsModel", name := "isDigit", desc := "(I)Z" } : Jvm.MethodName) prog_10_method_9_code (1 : Nat) (Option.some Jvm.ClassFile.FieldType.boolean)) ∈ lw_all := lw_g (lw_at lw_m8 38 rfl) rfl
theorem q1834 : (Jvm.Cond.constant "RightTurnsModel" (164 : Nat) (100000 : Int32)) ∈ lw_all := lw_g (lw_at lw_m8 39 rfl) rfl
theorem q1835 : (Jvm.Cond.methodLink "RightTurnsModel" (196 : Nat) ({ cls := "RightTurnsModel", name := "readsStreet", desc := "()V" } : Jvm.MethodName)) ∈ lw_all := lw_g (lw_at lw_m8 40 rfl) rfl
theorem q1836 : (Jvm.Cond.privateMethod ({ cls := "RightTurnsModel", name := "readsStreet", desc := "()V" } : Jvm.MethodName)) ∈ lw_tbl := lw_at lw_m8 41 rfl
theorem q1837 : (Jvm.Cond.instanceMethod ({ cls := "RightTurnsModel", name := "readsStreet", desc := "()V" } : Jvm.MethodName)) ∈ lw_all := lw_g (lw_at lw_m8 42 rfl) rfl
theorem q1838 : (Jvm.Cond.code ({ cls := "RightTurnsModel", name := "readsStreet", desc := "()V" } : Jvm.MethodName) prog_10_method_21_code (5 : Nat) (Option.none : Option Jvm.ClassFile.FieldType)) ∈ lw_all := lw_g (lw_at lw_m8 43 rfl) rfl
theorem q1839 : (Jvm.Cond.methodLink "RightTurnsModel" (220 : Nat) ({ cls := "RightTurnsModel", name := "other", desc := "(II)I" } : Jvm.MethodName)) ∈ lw_all := lw_g (lw_at lw_m8 44 rfl) rfl
theorem q1840 : (Jvm.Cond.privateMethod ({ cls := "RightTurnsModel", name := "other", desc := "(II)I" } : Jvm.MethodName)) ∈ lw_tbl := lw_at lw_m8 45 rfl
theorem q1841 : (Jvm.Cond.instanceMethod ({ cls := "RightTurnsModel", name := "other", desc := "(II)I" } : Jvm.MethodName)) ∈ lw_all := lw_g (lw_at lw_m8 46 rfl) rfl
theorem q1842 : (Jvm.Cond.code ({ cls := "RightTurnsModel", name := "other", desc := "(II)I" } : Jvm.MethodName) prog_10_method_20_code (5 : Nat) (Option.some Jvm.ClassFile.FieldType.int)) ∈ lw_all := lw_g (lw_at lw_m8 47 rfl) rfl
theorem q1843 : (Jvm.Cond.methodLink "RightTurnsModel" (199 : Nat) ({ cls := "RightTurnsModel", name := "readsOne", desc := "()V" } : Jvm.MethodName)) ∈ lw_all := lw_g (lw_at lw_m8 48 rfl) rfl
theorem q1844 : (Jvm.Cond.privateMethod ({ cls := "RightTurnsModel", name := "readsOne", desc := "()V" } : Jvm.MethodName)) ∈ lw_tbl := lw_at lw_m8 49 rfl
theorem q1845 : (Jvm.Cond.instanceMethod ({ cls := "RightTurnsModel", name := "readsOne", desc := "()V" } : Jvm.MethodName)) ∈ lw_all := lw_g (lw_at lw_m8 50 rfl) rfl
theorem q1846 : (Jvm.Cond.code ({ cls := "RightTurnsModel", name := "readsOne", desc := "()V" } : Jvm.MethodName) prog_10_method_22_code (2 : Nat) (Option.none : Option Jvm.ClassFile.FieldType)) ∈ lw_all := lw_g (lw_at lw_m8 51 rfl) rfl
theorem q1847 : (Jvm.Cond.methodLink "RightTurnsModel" (202 : Nat) ({ cls := "RightTurnsModel", name := "readsTurn", desc := "([I)V" } : Jvm.MethodName)) ∈ lw_all := lw_g (lw_at lw_m8 52 rfl) rfl
theorem q1848 : (Jvm.Cond.privateMethod ({ cls := "RightTurnsModel", name := "readsTurn", desc := "([I)V" } : Jvm.MethodName)) ∈ lw_tbl := lw_at lw_m8 53 rfl
theorem q1849 : (Jvm.Cond.instanceMethod ({ cls := "RightTurnsModel", name := "readsTurn", desc := "([I)V" } : Jvm.MethodName)) ∈ lw_all := lw_g (lw_at lw_m8 54 rfl) rfl
theorem q1850 : (Jvm.Cond.code ({ cls := "RightTurnsModel", name := "readsTurn", desc := "([I)V" } : Jvm.MethodName) prog_10_method_24_code (5 : Nat) (Option.none : Option Jvm.ClassFile.FieldType)) ∈ lw_all := lw_g (lw_at lw_m8 55 rfl) rfl
theorem q1851 : (Jvm.Cond.methodLink "RightTurnsModel" (223 : Nat) ({ cls := "RightTurnsModel", name := "meet", desc := "([[III)Z" } : Jvm.MethodName)) ∈ lw_all := lw_g (lw_at lw_m8 56 rfl) rfl
theorem q1852 : (Jvm.Cond.static ({ cls := "RightTurnsModel", name := "meet", desc := "([[III)Z" } : Jvm.MethodName)) ∈ lw_all := lw_g (lw_at lw_m8 57 rfl) rfl
theorem q1853 : (Jvm.Cond.code ({ cls := "RightTurnsModel", name := "meet", desc := "([[III)Z" } : Jvm.MethodName) prog_10_method_23_code (3 : Nat) (Option.some Jvm.ClassFile.FieldType.boolean)) ∈ lw_all := lw_g (lw_at lw_m8 58 rfl) rfl
theorem q1854 : (Jvm.Cond.methodLink "RightTurnsModel" (206 : Nat) ({ cls := "RightTurnsModel", name := "readsBox", desc := "()V" } : Jvm.MethodName)) ∈ lw_all := lw_g (lw_at lw_m8 59 rfl) rfl
theorem q1855 : (Jvm.Cond.privateMethod ({ cls := "RightTurnsModel", name := "readsBox", desc := "()V" } : Jvm.MethodName)) ∈ lw_tbl := lw_at lw_m8 60 rfl
theorem q1856 : (Jvm.Cond.instanceMethod ({ cls := "RightTurnsModel", name := "readsBox", desc := "()V" } : Jvm.MethodName)) ∈ lw_all := lw_g (lw_at lw_m8 61 rfl) rfl
theorem q1857 : (Jvm.Cond.code ({ cls := "RightTurnsModel", name := "readsBox", desc := "()V" } : Jvm.MethodName) prog_10_method_25_code (2 : Nat) (Option.none : Option Jvm.ClassFile.FieldType)) ∈ lw_all := lw_g (lw_at lw_m8 62 rfl) rfl
theorem q1858 : (Jvm.Cond.methodLink "RightTurnsModel" (209 : Nat) ({ cls := "RightTurnsModel", name := "readsRider", desc := "()V" } : Jvm.MethodName)) ∈ lw_all := lw_g (lw_at lw_m8 63 rfl) rfl
theorem q1859 : (Jvm.Cond.privateMethod ({ cls := "RightTurnsModel", name := "readsRider", desc := "()V" } : Jvm.MethodName)) ∈ lw_tbl := lw_at lw_m8 64 rfl
theorem q1860 : (Jvm.Cond.instanceMethod ({ cls := "RightTurnsModel", name := "readsRider", desc := "()V" } : Jvm.MethodName)) ∈ lw_all := lw_g (lw_at lw_m8 65 rfl) rfl
theorem q1861 : (Jvm.Cond.code ({ cls := "RightTurnsModel", name := "readsRider", desc := "()V" } : Jvm.MethodName) prog_10_method_26_code (5 : Nat) (Option.none : Option Jvm.ClassFile.FieldType)) ∈ lw_all := lw_g (lw_at lw_m8 66 rfl) rfl
theorem q1862 : (Jvm.Cond.methodLink "RightTurnsModel" (212 : Nat) ({ cls := "RightTurnsModel", name := "closes", desc := "(I)V" } : Jvm.MethodName)) ∈ lw_all := lw_g (lw_at lw_m8 67 rfl) rfl
theorem q1863 : (Jvm.Cond.privateMethod ({ cls := "RightTurnsModel", name := "closes", desc := "(I)V" } : Jvm.MethodName)) ∈ lw_tbl := lw_at lw_m8 68 rfl
theorem q1864 : (Jvm.Cond.instanceMethod ({ cls := "RightTurnsModel", name := "closes", desc := "(I)V" } : Jvm.MethodName)) ∈ lw_all := lw_g (lw_at lw_m8 69 rfl) rfl
theorem q1865 : (Jvm.Cond.code ({ cls := "RightTurnsModel", name := "closes", desc := "(I)V" } : Jvm.MethodName) prog_10_method_15_code (2 : Nat) (Option.none : Option Jvm.ClassFile.FieldType)) ∈ lw_all := lw_g (lw_at lw_m8 70 rfl) rfl
theorem q1866 : (Jvm.Cond.methodLink "RightTurnsModel" (234 : Nat) ({ cls := "RightTurnsModel", name := "copies", desc := "([[I[[I)V" } : Jvm.MethodName)) ∈ lw_all := lw_g (lw_at lw_m8 71 rfl) rfl
theorem q1867 : (Jvm.Cond.static ({ cls := "RightTurnsModel", name := "copies", desc := "([[I[[I)V" } : Jvm.MethodName)) ∈ lw_all := lw_g (lw_at lw_m8 72 rfl) rfl
theorem q1868 : (Jvm.Cond.code ({ cls := "RightTurnsModel", name := "copies", desc := "([[I[[I)V" } : Jvm.MethodName) prog_10_method_27_code (4 : Nat) (Option.none : Option Jvm.ClassFile.FieldType)) ∈ lw_all := lw_g (lw_at lw_m8 73 rfl) rfl
theorem q1869 : (Jvm.Cond.methodLink "RightTurnsModel" (247 : Nat) ({ cls := "RightTurnsModel", name := "findLefts", desc := "()V" } : Jvm.MethodName)) ∈ lw_all := lw_g (lw_at lw_m8 74 rfl) rfl
theorem q1870 : (Jvm.Cond.privateMethod ({ cls := "RightTurnsModel", name := "findLefts", desc := "()V" } : Jvm.MethodName)) ∈ lw_tbl := lw_at lw_m8 75 rfl
theorem q1871 : (Jvm.Cond.instanceMethod ({ cls := "RightTurnsModel", name := "findLefts", desc := "()V" } : Jvm.MethodName)) ∈ lw_all := lw_g (lw_at lw_m8 76 rfl) rfl
theorem q1872 : (Jvm.Cond.code ({ cls := "RightTurnsModel", name := "findLefts", desc := "()V" } : Jvm.MethodName) prog_10_method_36_code (5 : Nat) (Option.none : Option Jvm.ClassFile.FieldType)) ∈ lw_all := lw_g (lw_at lw_m8 77 rfl) rfl
theorem q1873 : (Jvm.Cond.methodLink "RightTurnsModel" (262 : Nat) ({ cls := "RightTurnsModel", name := "isArc", desc := "(I)Z" } : Jvm.MethodName)) ∈ lw_all := lw_g (lw_at lw_m8 78 rfl) rfl
theorem q1874 : (Jvm.Cond.privateMethod ({ cls := "RightTurnsModel", name := "isArc", desc := "(I)Z" } : Jvm.MethodName)) ∈ lw_tbl := lw_at lw_m8 79 rfl
theorem q1875 : (Jvm.Cond.instanceMethod ({ cls := "RightTurnsModel", name := "isArc", desc := "(I)Z" } : Jvm.MethodName)) ∈ lw_all := lw_g (lw_at lw_m8 80 rfl) rfl
theorem q1876 : (Jvm.Cond.code ({ cls := "RightTurnsModel", name := "isArc", desc := "(I)Z" } : Jvm.MethodName) prog_10_method_30_code (2 : Nat) (Option.some Jvm.ClassFile.FieldType.boolean)) ∈ lw_all := lw_g (lw_at lw_m8 81 rfl) rfl
theorem q1877 : (Jvm.Cond.methodLink "RightTurnsModel" (265 : Nat) ({ cls := "RightTurnsModel", name := "turnOf", desc := "(II)I" } : Jvm.MethodName)) ∈ lw_all := lw_g (lw_at lw_m8 82 rfl) rfl
theorem q1878 : (Jvm.Cond.privateMethod ({ cls := "RightTurnsModel", name := "turnOf", desc := "(II)I" } : Jvm.MethodName)) ∈ lw_tbl := lw_at lw_m8 83 rfl
theorem q1879 : (Jvm.Cond.instanceMethod ({ cls := "RightTurnsModel", name := "turnOf", desc := "(II)I" } : Jvm.MethodName)) ∈ lw_all := lw_g (lw_at lw_m8 84 rfl) rfl
theorem q1880 : (Jvm.Cond.code ({ cls := "RightTurnsModel", name := "turnOf", desc := "(II)I" } : Jvm.MethodName) prog_10_method_35_code (4 : Nat) (Option.some Jvm.ClassFile.FieldType.int)) ∈ lw_all := lw_g (lw_at lw_m8 85 rfl) rfl
theorem q1881 : (Jvm.Cond.methodLink "RightTurnsModel" (250 : Nat) ({ cls := "RightTurnsModel", name := "endOf", desc := "(I)I" } : Jvm.MethodName)) ∈ lw_all := lw_g (lw_at lw_m8 86 rfl) rfl
theorem q1882 : (Jvm.Cond.privateMethod ({ cls := "RightTurnsModel", name := "endOf", desc := "(I)I" } : Jvm.MethodName)) ∈ lw_tbl := lw_at lw_m8 87 rfl
theorem q1883 : (Jvm.Cond.instanceMethod ({ cls := "RightTurnsModel", name := "endOf", desc := "(I)I" } : Jvm.MethodName)) ∈ lw_all := lw_g (lw_at lw_m8 88 rfl) rfl
theorem q1884 : (Jvm.Cond.code ({ cls := "RightTurnsModel", name := "endOf", desc := "(I)I" } : Jvm.MethodName) prog_10_method_32_code (2 : Nat) (Option.some Jvm.ClassFile.FieldType.int)) ∈ lw_all := lw_g (lw_at lw_m8 89 rfl) rfl
theorem q1885 : (Jvm.Cond.methodLink "RightTurnsModel" (253 : Nat) ({ cls := "RightTurnsModel", name := "beginOf", desc := "(I)I" } : Jvm.MethodName)) ∈ lw_all := lw_g (lw_at lw_m8 90 rfl) rfl
theorem q1886 : (Jvm.Cond.privateMethod ({ cls := "RightTurnsModel", name := "beginOf", desc := "(I)I" } : Jvm.MethodName)) ∈ lw_tbl := lw_at lw_m8 91 rfl
theorem q1887 : (Jvm.Cond.instanceMethod ({ cls := "RightTurnsModel", name := "beginOf", desc := "(I)I" } : Jvm.MethodName)) ∈ lw_all := lw_g (lw_at lw_m8 92 rfl) rfl
theorem q1888 : (Jvm.Cond.code ({ cls := "RightTurnsModel", name := "beginOf", desc := "(I)I" } : Jvm.MethodName) prog_10_method_31_code (2 : Nat) (Option.some Jvm.ClassFile.FieldType.int)) ∈ lw_all := lw_g (lw_at lw_m8 93 rfl) rfl
theorem q1889 : (Jvm.Cond.methodLink "RightTurnsModel" (256 : Nat) ({ cls := "RightTurnsModel", name := "wayOf", desc := "(II)I" } : Jvm.MethodName)) ∈ lw_all := lw_g (lw_at lw_m8 94 rfl) rfl
theorem q1890 : (Jvm.Cond.privateMethod ({ cls := "RightTurnsModel", name := "wayOf", desc := "(II)I" } : Jvm.MethodName)) ∈ lw_tbl := lw_at lw_m8 95 rfl
theorem q1891 : (Jvm.Cond.instanceMethod ({ cls := "RightTurnsModel", name := "wayOf", desc := "(II)I" } : Jvm.MethodName)) ∈ lw_all := lw_g (lw_at lw_m8 96 rfl) rfl
theorem q1892 : (Jvm.Cond.code ({ cls := "RightTurnsModel", name := "wayOf", desc := "(II)I" } : Jvm.MethodName) prog_10_method_34_code (3 : Nat) (Option.some Jvm.ClassFile.FieldType.int)) ∈ lw_all := lw_g (lw_at lw_m8 97 rfl) rfl
theorem q1894 : (Jvm.Cond.instanceMethod ({ cls := "RightTurnsModel", name := "fault", desc := "()I" } : Jvm.MethodName)) ∈ lw_all := lw_g (lw_at lw_m8 99 rfl) rfl
theorem q1895 : (Jvm.Cond.selects "RightTurnsModel" ({ cls := "RightTurnsModel", name := "fault", desc := "()I" } : Jvm.MethodName) ({ cls := "RightTurnsModel", name := "fault", desc := "()I" } : Jvm.MethodName)) ∈ lw_all := lw_g (lw_at lw_m8 100 rfl) rfl
theorem q1896 : (Jvm.Cond.code ({ cls := "RightTurnsModel", name := "fault", desc := "()I" } : Jvm.MethodName) prog_10_method_29_code (1 : Nat) (Option.some Jvm.ClassFile.FieldType.int)) ∈ lw_all := lw_g (lw_at lw_m8 101 rfl) rfl
theorem q1898 : (Jvm.Cond.instanceMethod ({ cls := "RightTurnsModel", name := "told", desc := "(I)I" } : Jvm.MethodName)) ∈ lw_all := lw_g (lw_at lw_m8 103 rfl) rfl
theorem q1899 : (Jvm.Cond.selects "RightTurnsModel" ({ cls := "RightTurnsModel", name := "told", desc := "(I)I" } : Jvm.MethodName) ({ cls := "RightTurnsModel", name := "told", desc := "(I)I" } : Jvm.MethodName)) ∈ lw_all := lw_g (lw_at lw_m8 104 rfl) rfl
theorem q1900 : (Jvm.Cond.code ({ cls := "RightTurnsModel", name := "told", desc := "(I)I" } : Jvm.MethodName) prog_10_method_37_code (2 : Nat) (Option.some Jvm.ClassFile.FieldType.int)) ∈ lw_all := lw_g (lw_at lw_m8 105 rfl) rfl
theorem q1902 : (Jvm.Cond.instanceMethod ({ cls := "RightTurnsModel", name := "street", desc := "(II)I" } : Jvm.MethodName)) ∈ lw_all := lw_g (lw_at lw_m8 107 rfl) rfl
theorem q1903 : (Jvm.Cond.selects "RightTurnsModel" ({ cls := "RightTurnsModel", name := "street", desc := "(II)I" } : Jvm.MethodName) ({ cls := "RightTurnsModel", name := "street", desc := "(II)I" } : Jvm.MethodName)) ∈ lw_all := lw_g (lw_at lw_m8 108 rfl) rfl
theorem q1904 : (Jvm.Cond.code ({ cls := "RightTurnsModel", name := "street", desc := "(II)I" } : Jvm.MethodName) prog_10_method_39_code (3 : Nat) (Option.some Jvm.ClassFile.FieldType.int)) ∈ lw_all := lw_g (lw_at lw_m8 109 rfl) rfl
theorem q1905 : (Jvm.Cond.methodLink "RightTurnsModel" (268 : Nat) ({ cls := "RightTurnsModel", name := "isStreet", desc := "(I)Z" } : Jvm.MethodName)) ∈ lw_all := lw_g (lw_at lw_m8 110 rfl) rfl
theorem q1906 : (Jvm.Cond.privateMethod ({ cls := "RightTurnsModel", name := "isStreet", desc := "(I)Z" } : Jvm.MethodName)) ∈ lw_tbl := lw_at lw_m8 111 rfl
theorem q1907 : (Jvm.Cond.instanceMethod ({ cls := "RightTurnsModel", name := "isStreet", desc := "(I)Z" } : Jvm.MethodName)) ∈ lw_all := lw_g (lw_at lw_m8 112 rfl) rfl
theorem q1908 : (Jvm.Cond.code ({ cls := "RightTurnsModel", name := "isStreet", desc := "(I)Z" } : Jvm.MethodName) prog_10_method_38_code (2 : Nat) (Option.some Jvm.ClassFile.FieldType.boolean)) ∈ lw_all := lw_g (lw_at lw_m8 113 rfl) rfl
theorem q1910 : (Jvm.Cond.instanceMethod ({ cls := "RightTurnsModel", name := "turn", desc := "(II)I" } : Jvm.MethodName)) ∈ lw_all := lw_g (lw_at lw_m8 115 rfl) rfl
theorem q1911 : (Jvm.Cond.selects "RightTurnsModel" ({ cls := "RightTurnsModel", name := "turn", desc := "(II)I" } : Jvm.MethodName) ({ cls := "RightTurnsModel", name := "turn", desc := "(II)I" } : Jvm.MethodName)) ∈ lw_all := lw_g (lw_at lw_m8 116 rfl) rfl
theorem q1912 : (Jvm.Cond.code ({ cls := "RightTurnsModel", name := "turn", desc := "(II)I" } : Jvm.MethodName) prog_10_method_40_code (3 : Nat) (Option.some Jvm.ClassFile.FieldType.int)) ∈ lw_all := lw_g (lw_at lw_m8 117 rfl) rfl
theorem q1914 : (Jvm.Cond.instanceMethod ({ cls := "RightTurnsModel", name := "may", desc := "(III)Z" } : Jvm.MethodName)) ∈ lw_all := lw_g (lw_at lw_m8 119 rfl) rfl
theorem q1915 : (Jvm.Cond.selects "RightTurnsModel" ({ cls := "RightTurnsModel", name := "may", desc := "(III)Z" } : Jvm.MethodName) ({ cls := "RightTurnsModel", name := "may", desc := "(III)Z" } : Jvm.MethodName)) ∈ lw_all := lw_g (lw_at lw_m8 120 rfl) rfl
theorem q1916 : (Jvm.Cond.code ({ cls := "RightTurnsModel", name := "may", desc := "(III)Z" } : Jvm.MethodName) prog_10_method_46_code (4 : Nat) (Option.some Jvm.ClassFile.FieldType.boolean)) ∈ lw_all := lw_g (lw_at lw_m8 121 rfl) rfl
theorem q1917 : (Jvm.Cond.methodLink "RightTurnsModel" (281 : Nat) ({ cls := "RightTurnsModel", name := "isTime", desc := "(I)Z" } : Jvm.MethodName)) ∈ lw_all := lw_g (lw_at lw_m8 122 rfl) rfl
theorem q1918 : (Jvm.Cond.privateMethod ({ cls := "RightTurnsModel", name := "isTime", desc := "(I)Z" } : Jvm.MethodName)) ∈ lw_tbl := lw_at lw_m8 123 rfl
theorem q1919 : (Jvm.Cond.instanceMethod ({ cls := "RightTurnsModel", name := "isTime", desc := "(I)Z" } : Jvm.MethodName)) ∈ lw_all := lw_g (lw_at lw_m8 124 rfl) rfl
theorem q1920 : (Jvm.Cond.code ({ cls := "RightTurnsModel", name := "isTime", desc := "(I)Z" } : Jvm.MethodName) prog_10_method_45_code (2 : Nat) (Option.some Jvm.ClassFile.FieldType.boolean)) ∈ lw_all := lw_g (lw_at lw_m8 125 rfl) rfl
theorem q1921 : (Jvm.Cond.methodLink "RightTurnsModel" (275 : Nat) ({ cls := "RightTurnsModel", name := "laysTime", desc := "(I)V" } : Jvm.MethodName)) ∈ lw_all := lw_g (lw_at lw_m8 126 rfl) rfl
theorem q1922 : (Jvm.Cond.privateMethod ({ cls := "RightTurnsModel", name := "laysTime", desc := "(I)V" } : Jvm.MethodName)) ∈ lw_tbl := lw_at lw_m8 127 rfl
theorem q1923 : (Jvm.Cond.instanceMethod ({ cls := "RightTurnsModel", name := "laysTime", desc := "(I)V" } : Jvm.MethodName)) ∈ lw_all := lw_g (lw_at lw_m8 128 rfl) rfl
theorem q1924 : (Jvm.Cond.code ({ cls := "RightTurnsModel", name := "laysTime", desc := "(I)V" } : Jvm.MethodName) prog_10_method_42_code (3 : Nat) (Option.none : Option Jvm.ClassFile.FieldType)) ∈ lw_all := lw_g (lw_at lw_m8 129 rfl) rfl
theorem q1925 : (Jvm.Cond.methodLink "RightTurnsModel" (271 : Nat) ({ cls := "RightTurnsModel", name := "mayNow", desc := "(II)Z" } : Jvm.MethodName)) ∈ lw_all := lw_g (lw_at lw_m8 130 rfl) rfl
theorem q1926 : (Jvm.Cond.privateMethod ({ cls := "RightTurnsModel", name := "mayNow", desc := "(II)Z" } : Jvm.MethodName)) ∈ lw_tbl := lw_at lw_m8 131 rfl
theorem q1927 : (Jvm.Cond.instanceMethod ({ cls := "RightTurnsModel", name := "mayNow", desc := "(II)Z" } : Jvm.MethodName)) ∈ lw_all := lw_g (lw_at lw_m8 132 rfl) rfl
theorem q1928 : (Jvm.Cond.code ({ cls := "RightTurnsModel", name := "mayNow", desc := "(II)Z" } : Jvm.MethodName) prog_10_method_41_code (5 : Nat) (Option.some Jvm.ClassFile.FieldType.boolean)) ∈ lw_all := lw_g (lw_at lw_m8 133 rfl) rfl
theorem q1930 : (Jvm.Cond.instanceMethod ({ cls := "RightTurnsModel", name := "sign", desc := "(IIZ)I" } : Jvm.MethodName)) ∈ lw_all := lw_g (lw_at lw_m8 135 rfl) rfl
theorem q1931 : (Jvm.Cond.selects "RightTurnsModel" ({ cls := "RightTurnsModel", name := "sign", desc := "(IIZ)I" } : Jvm.MethodName) ({ cls := "RightTurnsModel", name := "sign", desc := "(IIZ)I" } : Jvm.MethodName)) ∈ lw_all := lw_g (lw_at lw_m8 136 rfl) rfl
theorem q1932 : (Jvm.Cond.code ({ cls := "RightTurnsModel", name := "sign", desc := "(IIZ)I" } : Jvm.MethodName) prog_10_method_50_code (4 : Nat) (Option.some Jvm.ClassFile.FieldType.int)) ∈ lw_all := lw_g (lw_at lw_m8 137 rfl) rfl
theorem q1933 : (Jvm.Cond.methodLink "RightTurnsModel" (290 : Nat) ({ cls := "RightTurnsModel", name := "changesTo", desc := "([[IIIZ)I" } : Jvm.MethodName)) ∈ lw_all := lw_g (lw_at lw_m8 138 rfl) rfl
theorem q1934 : (Jvm.Cond.privateMethod ({ cls := "RightTurnsModel", name := "changesTo", desc := "([[IIIZ)I" } : Jvm.MethodName)) ∈ lw_tbl := lw_at lw_m8 139 rfl
theorem q1935 : (Jvm.Cond.instanceMethod ({ cls := "RightTurnsModel", name := "changesTo", desc := "([[IIIZ)I" } : Jvm.MethodName)) ∈ lw_all := lw_g (lw_at lw_m8 140 rfl) rfl
theorem q1936 : (Jvm.Cond.code ({ cls := "RightTurnsModel", name := "changesTo", desc := "([[IIIZ)I" } : Jvm.MethodName) prog_10_method_49_code (5 : Nat) (Option.some Jvm.ClassFile.FieldType.int)) ∈ lw_all := lw_g (lw_at lw_m8 141 rfl) rfl
theorem q1937 : (Jvm.Cond.methodLink "RightTurnsModel" (284 : Nat) ({ cls := "RightTurnsModel", name := "areStreets", desc := "(II)Z" } : Jvm.MethodName)) ∈ lw_all := lw_g (lw_at lw_m8 142 rfl) rfl
theorem q1938 : (Jvm.Cond.privateMethod ({ cls := "RightTurnsModel", name := "areStreets", desc := "(II)Z" } : Jvm.MethodName)) ∈ lw_tbl := lw_at lw_m8 143 rfl
theorem q1939 : (Jvm.Cond.instanceMethod ({ cls := "RightTurnsModel", name := "areStreets", desc := "(II)Z" } : Jvm.MethodName)) ∈ lw_all := lw_g (lw_at lw_m8 144 rfl) rfl
theorem q1940 : (Jvm.Cond.code ({ cls := "RightTurnsModel", name := "areStreets", desc := "(II)Z" } : Jvm.MethodName) prog_10_method_48_code (3 : Nat) (Option.some Jvm.ClassFile.FieldType.boolean)) ∈ lw_all := lw_g (lw_at lw_m8 145 rfl) rfl
theorem q1941 : (Jvm.Cond.methodLink "RightTurnsModel" (287 : Nat) ({ cls := "RightTurnsModel", name := "changes", desc := "()I" } : Jvm.MethodName)) ∈ lw_all := lw_g (lw_at lw_m8 146 rfl) rfl
theorem q1942 : (Jvm.Cond.privateMethod ({ cls := "RightTurnsModel", name := "changes", desc := "()I" } : Jvm.MethodName)) ∈ lw_tbl := lw_at lw_m8 147 rfl
theorem q1943 : (Jvm.Cond.instanceMethod ({ cls := "RightTurnsModel", name := "changes", desc := "()I" } : Jvm.MethodName)) ∈ lw_all := lw_g (lw_at lw_m8 148 rfl) rfl
theorem q1944 : (Jvm.Cond.code ({ cls := "RightTurnsModel", name := "changes", desc := "()I" } : Jvm.MethodName) prog_10_method_47_code (2 : Nat) (Option.some Jvm.ClassFile.FieldType.int)) ∈ lw_all := lw_g (lw_at lw_m8 149 rfl) rfl
theorem q1946 : (Jvm.Cond.instanceMethod ({ cls := "RightTurnsModel", name := "allow", desc := "(IIZ)I" } : Jvm.MethodName)) ∈ lw_all := lw_g (lw_at lw_m8 151 rfl) rfl
theorem q1947 : (Jvm.Cond.selects "RightTurnsModel" ({ cls := "RightTurnsModel", name := "allow", desc := "(IIZ)I" } : Jvm.MethodName) ({ cls := "RightTurnsModel", name := "allow", desc := "(IIZ)I" } : Jvm.MethodName)) ∈ lw_all := lw_g (lw_at lw_m8 152 rfl) rfl
theorem q1948 : (Jvm.Cond.code ({ cls := "RightTurnsModel", name := "allow", desc := "(IIZ)I" } : Jvm.MethodName) prog_10_method_51_code (4 : Nat) (Option.some Jvm.ClassFile.FieldType.int)) ∈ lw_all := lw_g (lw_at lw_m8 153 rfl) rfl
theorem q1950 : (Jvm.Cond.instanceMethod ({ cls := "RightTurnsModel", name := "back", desc := "(I)I" } : Jvm.MethodName)) ∈ lw_all := lw_g (lw_at lw_m8 155 rfl) rfl
theorem q1951 : (Jvm.Cond.selects "RightTurnsModel" ({ cls := "RightTurnsModel", name := "back", desc := "(I)I" } : Jvm.MethodName) ({ cls := "RightTurnsModel", name := "back", desc := "(I)I" } : Jvm.MethodName)) ∈ lw_all := lw_g (lw_at lw_m8 156 rfl) rfl
theorem q1952 : (Jvm.Cond.code ({ cls := "RightTurnsModel", name := "back", desc := "(I)I" } : Jvm.MethodName) prog_10_method_52_code (3 : Nat) (Option.some Jvm.ClassFile.FieldType.int)) ∈ lw_all := lw_g (lw_at lw_m8 157 rfl) rfl
theorem q1954 : (Jvm.Cond.instanceMethod ({ cls := "RightTurnsModel", name := "stands", desc := "(IIII)Z" } : Jvm.MethodName)) ∈ lw_all := lw_g (lw_at lw_m8 159 rfl) rfl
theorem q1955 : (Jvm.Cond.selects "RightTurnsModel" ({ cls := "RightTurnsModel", name := "stands", desc := "(IIII)Z" } : Jvm.MethodName) ({ cls := "RightTurnsModel", name := "stands", desc := "(IIII)Z" } : Jvm.MethodName)) ∈ lw_all := lw_g (lw_at lw_m8 160 rfl) rfl
theorem q1956 : (Jvm.Cond.code ({ cls := "RightTurnsModel", name := "stands", desc := "(IIII)Z" } : Jvm.MethodName) prog_10_method_53_code (5 : Nat) (Option.some Jvm.ClassFile.FieldType.boolean)) ∈ lw_all := lw_g (lw_at lw_m8 161 rfl) rfl
theorem q1958 : (Jvm.Cond.instanceMethod ({ cls := "RightTurnsModel", name := "ride", desc := "(III)I" } : Jvm.MethodName)) ∈ lw_all := lw_g (lw_at lw_m8 163 rfl) rfl
theorem q1959 : (Jvm.Cond.selects "RightTurnsModel" ({ cls := "RightTurnsModel", name := "ride", desc := "(III)I" } : Jvm.MethodName) ({ cls := "RightTurnsModel", name := "ride", desc := "(III)I" } : Jvm.MethodName)) ∈ lw_all := lw_g (lw_at lw_m8 164 rfl) rfl
theorem q1960 : (Jvm.Cond.code ({ cls := "RightTurnsModel", name := "ride", desc := "(III)I" } : Jvm.MethodName) prog_10_method_60_code (4 : Nat) (Option.some Jvm.ClassFile.FieldType.int)) ∈ lw_all := lw_g (lw_at lw_m8 165 rfl) rfl
theorem q1961 : (Jvm.Cond.methodLink "RightTurnsModel" (307 : Nat) ({ cls := "RightTurnsModel", name := "isCorner", desc := "(I)Z" } : Jvm.MethodName)) ∈ lw_all := lw_g (lw_at lw_m8 166 rfl) rfl
theorem q1962 : (Jvm.Cond.privateMethod ({ cls := "RightTurnsModel", name := "isCorner", desc := "(I)Z" } : Jvm.MethodName)) ∈ lw_tbl := lw_at lw_m8 167 rfl
theorem q1963 : (Jvm.Cond.instanceMethod ({ cls := "RightTurnsModel", name := "isCorner", desc := "(I)Z" } : Jvm.MethodName)) ∈ lw_all := lw_g (lw_at lw_m8 168 rfl) rfl
theorem q1964 : (Jvm.Cond.code ({ cls := "RightTurnsModel", name := "isCorner", desc := "(I)Z" } : Jvm.MethodName) prog_10_method_54_code (2 : Nat) (Option.some Jvm.ClassFile.FieldType.boolean)) ∈ lw_all := lw_g (lw_at lw_m8 169 rfl) rfl
theorem q1965 : (Jvm.Cond.methodLink "RightTurnsModel" (310 : Nat) ({ cls := "RightTurnsModel", name := "asks", desc := "(I)V" } : Jvm.MethodName)) ∈ lw_all := lw_g (lw_at lw_m8 170 rfl) rfl
theorem q1966 : (Jvm.Cond.privateMethod ({ cls := "RightTurnsModel", name := "asks", desc := "(I)V" } : Jvm.MethodName)) ∈ lw_tbl := lw_at lw_m8 171 rfl
theorem q1967 : (Jvm.Cond.instanceMethod ({ cls := "RightTurnsModel", name := "asks", desc := "(I)V" } : Jvm.MethodName)) ∈ lw_all := lw_g (lw_at lw_m8 172 rfl) rfl
theorem q1968 : (Jvm.Cond.code ({ cls := "RightTurnsModel", name := "asks", desc := "(I)V" } : Jvm.MethodName) prog_10_method_44_code (2 : Nat) (Option.none : Option Jvm.ClassFile.FieldType)) ∈ lw_all := lw_g (lw_at lw_m8 173 rfl) rfl
theorem q1969 : (Jvm.Cond.methodLink "RightTurnsModel" (278 : Nat) ({ cls := "RightTurnsModel", name := "layFollows", desc := "()V" } : Jvm.MethodName)) ∈ lw_all := lw_g (lw_at lw_m8 174 rfl) rfl
theorem q1970 : (Jvm.Cond.privateMethod ({ cls := "RightTurnsModel", name := "layFollows", desc := "()V" } : Jvm.MethodName)) ∈ lw_tbl := lw_at lw_m8 175 rfl
theorem q1971 : (Jvm.Cond.instanceMethod ({ cls := "RightTurnsModel", name := "layFollows", desc := "()V" } : Jvm.MethodName)) ∈ lw_all := lw_g (lw_at lw_m8 176 rfl) rfl
theorem q1972 : (Jvm.Cond.code ({ cls := "RightTurnsModel", name := "layFollows", desc := "()V" } : Jvm.MethodName) prog_10_method_43_code (3 : Nat) (Option.none : Option Jvm.ClassFile.FieldType)) ∈ lw_all := lw_g (lw_at lw_m8 177 rfl) rfl
theorem q1973 : (Jvm.Cond.methodLink "RightTurnsModel" (313 : Nat) ({ cls := "RightTurnsModel", name := "rideOf", desc := "(II)I" } : Jvm.MethodName)) ∈ lw_all := lw_g (lw_at lw_m8 178 rfl) rfl
theorem q1974 : (Jvm.Cond.privateMethod ({ cls := "RightTurnsModel", name := "rideOf", desc := "(II)I" } : Jvm.MethodName)) ∈ lw_tbl := lw_at lw_m8 179 rfl
theorem q1975 : (Jvm.Cond.instanceMethod ({ cls := "RightTurnsModel", name := "rideOf", desc := "(II)I" } : Jvm.MethodName)) ∈ lw_all := lw_g (lw_at lw_m8 180 rfl) rfl
theorem q1976 : (Jvm.Cond.code ({ cls := "RightTurnsModel", name := "rideOf", desc := "(II)I" } : Jvm.MethodName) prog_10_method_59_code (4 : Nat) (Option.some Jvm.ClassFile.FieldType.int)) ∈ lw_all := lw_g (lw_at lw_m8 181 rfl) rfl
theorem q1977 : (Jvm.Cond.methodLink "RightTurnsModel" (301 : Nat) ({ cls := "RightTurnsModel", name := "layLengths", desc := "(I)V" } : Jvm.MethodName)) ∈ lw_all := lw_g (lw_at lw_m8 182 rfl) rfl
theorem q1978 : (Jvm.Cond.privateMethod ({ cls := "RightTurnsModel", name := "layLengths", desc := "(I)V" } : Jvm.MethodName)) ∈ lw_tbl := lw_at lw_m8 183 rfl
theorem q1979 : (Jvm.Cond.instanceMethod ({ cls := "RightTurnsModel", name := "layLengths", desc := "(I)V" } : Jvm.MethodName)) ∈ lw_all := lw_g (lw_at lw_m8 184 rfl) rfl
theorem q1980 : (Jvm.Cond.code ({ cls := "RightTurnsModel", name := "layLengths", desc := "(I)V" } : Jvm.MethodName) prog_10_method_56_code (5 : Nat) (Option.none : Option Jvm.ClassFile.FieldType)) ∈ lw_all := lw_g (lw_at lw_m8 185 rfl) rfl
theorem q1981 : (Jvm.Cond.constant "RightTurnsModel" (294 : Nat) (1000000000 : Int32)) ∈ lw_all := lw_g (lw_at lw_m8 186 rfl) rfl
theorem q1982 : (Jvm.Cond.methodLink "RightTurnsModel" (295 : Nat) ({ cls := "RightTurnsModel", name := "longOf", desc := "(I)I" } : Jvm.MethodName)) ∈ lw_all := lw_g (lw_at lw_m8 187 rfl) rfl
theorem q1983 : (Jvm.Cond.privateMethod ({ cls := "RightTurnsModel", name := "longOf", desc := "(I)I" } : Jvm.MethodName)) ∈ lw_tbl := lw_at lw_m8 188 rfl
theorem q1984 : (Jvm.Cond.instanceMethod ({ cls := "RightTurnsModel", name := "longOf", desc := "(I)I" } : Jvm.MethodName)) ∈ lw_all := lw_g (lw_at lw_m8 189 rfl) rfl
theorem q1985 : (Jvm.Cond.code ({ cls := "RightTurnsModel", name := "longOf", desc := "(I)I" } : Jvm.MethodName) prog_10_method_33_code (2 : Nat) (Option.some Jvm.ClassFile.FieldType.int)) ∈ lw_all := lw_g (lw_at lw_m8 190 rfl) rfl
theorem q1986 : (Jvm.Cond.methodLink "RightTurnsModel" (298 : Nat) ({ cls := "RightTurnsModel", name := "isAfter", desc := "(II)Z" } : Jvm.MethodName)) ∈ lw_all := lw_g (lw_at lw_m8 191 rfl) rfl
theorem q1987 : (Jvm.Cond.privateMethod ({ cls := "RightTurnsModel", name := "isAfter", desc := "(II)Z" } : Jvm.MethodName)) ∈ lw_tbl := lw_at lw_m8 192 rfl
theorem q1988 : (Jvm.Cond.instanceMethod ({ cls := "RightTurnsModel", name := "isAfter", desc := "(II)Z" } : Jvm.MethodName)) ∈ lw_all := lw_g (lw_at lw_m8 193 rfl) rfl
theorem q1989 : (Jvm.Cond.code ({ cls := "RightTurnsModel", name := "isAfter", desc := "(II)Z" } : Jvm.MethodName) prog_10_method_55_code (3 : Nat) (Option.some Jvm.ClassFile.FieldType.boolean)) ∈ lw_all := lw_g (lw_at lw_m8 194 rfl) rfl
theorem q1990 : (Jvm.Cond.methodLink "RightTurnsModel" (304 : Nat) ({ cls := "RightTurnsModel", name := "firstArc", desc := "(I)I" } : Jvm.MethodName)) ∈ lw_all := lw_g (lw_at lw_m8 195 rfl) rfl
theorem q1991 : (Jvm.Cond.privateMethod ({ cls := "RightTurnsModel", name := "firstArc", desc := "(I)I" } : Jvm.MethodName)) ∈ lw_tbl := lw_at lw_m8 196 rfl
theorem q1992 : (Jvm.Cond.instanceMethod ({ cls := "RightTurnsModel", name := "firstArc", desc := "(I)I" } : Jvm.MethodName)) ∈ lw_all := lw_g (lw_at lw_m8 197 rfl) rfl
theorem q1993 : (Jvm.Cond.code ({ cls := "RightTurnsModel", name := "firstArc", desc := "(I)I" } : Jvm.MethodName) prog_10_method_57_code (4 : Nat) (Option.some Jvm.ClassFile.FieldType.int)) ∈ lw_all := lw_g (lw_at lw_m8 198 rfl) rfl
theorem q1995 : (Jvm.Cond.instanceMethod ({ cls := "RightTurnsModel", name := "step", desc := "(IIII)I" } : Jvm.MethodName)) ∈ lw_all := lw_g (lw_at lw_m8 200 rfl) rfl
theorem q1996 : (Jvm.Cond.selects "RightTurnsModel" ({ cls := "RightTurnsModel", name := "step", desc := "(IIII)I" } : Jvm.MethodName) ({ cls := "RightTurnsModel", name := "step", desc := "(IIII)I" } : Jvm.MethodName)) ∈ lw_all := lw_g (lw_at lw_m8 201 rfl) rfl
theorem q1997 : (Jvm.Cond.code ({ cls := "RightTurnsModel", name := "step", desc := "(IIII)I" } : Jvm.MethodName) prog_10_method_61_code (7 : Nat) (Option.some Jvm.ClassFile.FieldType.int)) ∈ lw_all := lw_g (lw_at lw_m8 202 rfl) rfl
theorem q1998 : (Jvm.Cond.methodLink "RightTurnsModel" (316 : Nat) ({ cls := "RightTurnsModel", name := "nextArc", desc := "(II)I" } : Jvm.MethodName)) ∈ lw_all := lw_g (lw_at lw_m8 203 rfl) rfl
theorem q1999 : (Jvm.Cond.privateMethod ({ cls := "RightTurnsModel", name := "nextArc", desc := "(II)I" } : Jvm.MethodName)) ∈ lw_tbl := lw_at lw_m8 204 rfl
theorem q2000 : (Jvm.Cond.instanceMethod ({ cls := "RightTurnsModel", name := "nextArc", desc := "(II)I" } : Jvm.MethodName)) ∈ lw_all := lw_g (lw_at lw_m8 205 rfl) rfl
theorem q2001 : (Jvm.Cond.code ({ cls := "RightTurnsModel", name := "nextArc", desc := "(II)I" } : Jvm.MethodName) prog_10_method_58_code (4 : Nat) (Option.some Jvm.ClassFile.FieldType.int)) ∈ lw_all := lw_g (lw_at lw_m8 206 rfl) rfl
theorem q2003 : (Jvm.Cond.instanceMethod ({ cls := "RightTurnsModel", name := "reach", desc := "(III)I" } : Jvm.MethodName)) ∈ lw_all := lw_g (lw_at lw_m8 208 rfl) rfl
theorem q2004 : (Jvm.Cond.selects "RightTurnsModel" ({ cls := "RightTurnsModel", name := "reach", desc := "(III)I" } : Jvm.MethodName) ({ cls := "RightTurnsModel", name := "reach", desc := "(III)I" } : Jvm.MethodName)) ∈ lw_all := lw_g (lw_at lw_m8 209 rfl) rfl
theorem q2005 : (Jvm.Cond.code ({ cls := "RightTurnsModel", name := "reach", desc := "(III)I" } : Jvm.MethodName) prog_10_method_65_code (4 : Nat) (Option.some Jvm.ClassFile.FieldType.int)) ∈ lw_all := lw_g (lw_at lw_m8 210 rfl) rfl
theorem q2006 : (Jvm.Cond.methodLink "RightTurnsModel" (322 : Nat) ({ cls := "RightTurnsModel", name := "layReaches", desc := "()V" } : Jvm.MethodName)) ∈ lw_all := lw_g (lw_at lw_m8 211 rfl) rfl
theorem q2007 : (Jvm.Cond.privateMethod ({ cls := "RightTurnsModel", name := "layReaches", desc := "()V" } : Jvm.MethodName)) ∈ lw_tbl := lw_at lw_m8 212 rfl
theorem q2008 : (Jvm.Cond.instanceMethod ({ cls := "RightTurnsModel", name := "layReaches", desc := "()V" } : Jvm.MethodName)) ∈ lw_all := lw_g (lw_at lw_m8 213 rfl) rfl
theorem q2009 : (Jvm.Cond.code ({ cls := "RightTurnsModel", name := "layReaches", desc := "()V" } : Jvm.MethodName) prog_10_method_62_code (3 : Nat) (Option.none : Option Jvm.ClassFile.FieldType)) ∈ lw_all := lw_g (lw_at lw_m8 214 rfl) rfl
theorem q2010 : (Jvm.Cond.methodLink "RightTurnsModel" (319 : Nat) ({ cls := "RightTurnsModel", name := "reachOf", desc := "(I)I" } : Jvm.MethodName)) ∈ lw_all := lw_g (lw_at lw_m8 215 rfl) rfl
theorem q2011 : (Jvm.Cond.privateMethod ({ cls := "RightTurnsModel", name := "reachOf", desc := "(I)I" } : Jvm.MethodName)) ∈ lw_tbl := lw_at lw_m8 216 rfl
theorem q2012 : (Jvm.Cond.instanceMethod ({ cls := "RightTurnsModel", name := "reachOf", desc := "(I)I" } : Jvm.MethodName)) ∈ lw_all := lw_g (lw_at lw_m8 217 rfl) rfl
theorem q2013 : (Jvm.Cond.code ({ cls := "RightTurnsModel", name := "reachOf", desc := "(I)I" } : Jvm.MethodName) prog_10_method_63_code (5 : Nat) (Option.some Jvm.ClassFile.FieldType.int)) ∈ lw_all := lw_g (lw_at lw_m8 218 rfl) rfl
theorem q2014 : (Jvm.Cond.methodLink "RightTurnsModel" (325 : Nat) ({ cls := "RightTurnsModel", name := "homeOf", desc := "(I)I" } : Jvm.MethodName)) ∈ lw_all := lw_g (lw_at lw_m8 219 rfl) rfl
theorem q2015 : (Jvm.Cond.privateMethod ({ cls := "RightTurnsModel", name := "homeOf", desc := "(I)I" } : Jvm.MethodName)) ∈ lw_tbl := lw_at lw_m8 220 rfl
theorem q2016 : (Jvm.Cond.instanceMethod ({ cls := "RightTurnsModel", name := "homeOf", desc := "(I)I" } : Jvm.MethodName)) ∈ lw_all := lw_g (lw_at lw_m8 221 rfl) rfl
theorem q2017 : (Jvm.Cond.code ({ cls := "RightTurnsModel", name := "homeOf", desc := "(I)I" } : Jvm.MethodName) prog_10_method_64_code (4 : Nat) (Option.some Jvm.ClassFile.FieldType.int)) ∈ lw_all := lw_g (lw_at lw_m8 222 rfl) rfl
theorem q2019 : (Jvm.Cond.instanceMethod ({ cls := "RightTurnsModel", name := "parts", desc := "(II)I" } : Jvm.MethodName)) ∈ lw_all := lw_g (lw_at lw_m8 224 rfl) rfl
theorem q2020 : (Jvm.Cond.selects "RightTurnsModel" ({ cls := "RightTurnsModel", name := "parts", desc := "(II)I" } : Jvm.MethodName) ({ cls := "RightTurnsModel", name := "parts", desc := "(II)I" } : Jvm.MethodName)) ∈ lw_all := lw_g (lw_at lw_m8 225 rfl) rfl
theorem q2021 : (Jvm.Cond.code ({ cls := "RightTurnsModel", name := "parts", desc := "(II)I" } : Jvm.MethodName) prog_10_method_67_code (9 : Nat) (Option.some Jvm.ClassFile.FieldType.int)) ∈ lw_all := lw_g (lw_at lw_m8 226 rfl) rfl
theorem q2022 : (Jvm.Cond.methodLink "RightTurnsModel" (328 : Nat) ({ cls := "RightTurnsModel", name := "areOne", desc := "(II)Z" } : Jvm.MethodName)) ∈ lw_all := lw_g (lw_at lw_m8 227 rfl) rfl
theorem q2023 : (Jvm.Cond.privateMethod ({ cls := "RightTurnsModel", name := "areOne", desc := "(II)Z" } : Jvm.MethodName)) ∈ lw_tbl := lw_at lw_m8 228 rfl
theorem q2024 : (Jvm.Cond.instanceMethod ({ cls := "RightTurnsModel", name := "areOne", desc := "(II)Z" } : Jvm.MethodName)) ∈ lw_all := lw_g (lw_at lw_m8 229 rfl) rfl
theorem q2025 : (Jvm.Cond.code ({ cls := "RightTurnsModel", name := "areOne", desc := "(II)Z" } : Jvm.MethodName) prog_10_method_66_code (3 : Nat) (Option.some Jvm.ClassFile.FieldType.boolean)) ∈ lw_all := lw_g (lw_at lw_m8 230 rfl) rfl
theorem q2027 : (Jvm.Cond.instanceMethod ({ cls := "RightTurnsModel", name := "together", desc := "(III)Z" } : Jvm.MethodName)) ∈ lw_all := lw_g (lw_at lw_m8 232 rfl) rfl
theorem q2028 : (Jvm.Cond.selects "RightTurnsModel" ({ cls := "RightTurnsModel", name := "together", desc := "(III)Z" } : Jvm.MethodName) ({ cls := "RightTurnsModel", name := "together", desc := "(III)Z" } : Jvm.MethodName)) ∈ lw_all := lw_g (lw_at lw_m8 233 rfl) rfl
theorem q2029 : (Jvm.Cond.code ({ cls := "RightTurnsModel", name := "together", desc := "(III)Z" } : Jvm.MethodName) prog_10_method_68_code (4 : Nat) (Option.some Jvm.ClassFile.FieldType.boolean)) ∈ lw_all := lw_g (lw_at lw_m8 234 rfl) rfl
theorem q2031 : (Jvm.Cond.instanceMethod ({ cls := "RightTurnsModel", name := "open", desc := "(II)I" } : Jvm.MethodName)) ∈ lw_all := lw_g (lw_at lw_m8 236 rfl) rfl
theorem q2032 : (Jvm.Cond.selects "RightTurnsModel" ({ cls := "RightTurnsModel", name := "open", desc := "(II)I" } : Jvm.MethodName) ({ cls := "RightTurnsModel", name := "open", desc := "(II)I" } : Jvm.MethodName)) ∈ lw_all := lw_g (lw_at lw_m8 237 rfl) rfl
theorem q2033 : (Jvm.Cond.code ({ cls := "RightTurnsModel", name := "open", desc := "(II)I" } : Jvm.MethodName) prog_10_method_71_code (4 : Nat) (Option.some Jvm.ClassFile.FieldType.int)) ∈ lw_all := lw_g (lw_at lw_m8 238 rfl) rfl
theorem q2034 : (Jvm.Cond.methodLink "RightTurnsModel" (331 : Nat) ({ cls := "RightTurnsModel", name := "pairs", desc := "()I" } : Jvm.MethodName)) ∈ lw_all := lw_g (lw_at lw_m8 239 rfl) rfl
theorem q2035 : (Jvm.Cond.privateMethod ({ cls := "RightTurnsModel", name := "pairs", desc := "()I" } : Jvm.MethodName)) ∈ lw_tbl := lw_at lw_m9 0 rfl
theorem q2036 : (Jvm.Cond.instanceMethod ({ cls := "RightTurnsModel", name := "pairs", desc := "()I" } : Jvm.MethodName)) ∈ lw_all := lw_g (lw_at lw_m9 1 rfl) rfl
theorem q2037 : (Jvm.Cond.code ({ cls := "RightTurnsModel", name := "pairs", desc := "()I" } : Jvm.MethodName) prog_10_method_69_code (3 : Nat) (Option.some Jvm.ClassFile.FieldType.int)) ∈ lw_all := lw_g (lw_at lw_m9 2 rfl) rfl
theorem q2039 : (Jvm.Cond.instanceMethod ({ cls := "RightTurnsModel", name := "since", desc := "(IIIZ)I" } : Jvm.MethodName)) ∈ lw_all := lw_g (lw_at lw_m9 4 rfl) rfl
theorem q2040 : (Jvm.Cond.selects "RightTurnsModel" ({ cls := "RightTurnsModel", name := "since", desc := "(IIIZ)I" } : Jvm.MethodName) ({ cls := "RightTurnsModel", name := "since", desc := "(IIIZ)I" } : Jvm.MethodName)) ∈ lw_all := lw_g (lw_at lw_m9 5 rfl) rfl
theorem q2041 : (Jvm.Cond.code ({ cls := "RightTurnsModel", name := "since", desc := "(IIIZ)I" } : Jvm.MethodName) prog_10_method_72_code (6 : Nat) (Option.some Jvm.ClassFile.FieldType.int)) ∈ lw_all := lw_g (lw_at lw_m9 6 rfl) rfl
theorem q2043 : (Jvm.Cond.instanceMethod ({ cls := "RightTurnsModel", name := "left", desc := "(I)I" } : Jvm.MethodName)) ∈ lw_all := lw_g (lw_at lw_m9 8 rfl) rfl
theorem q2044 : (Jvm.Cond.selects "RightTurnsModel" ({ cls := "RightTurnsModel", name := "left", desc := "(I)I" } : Jvm.MethodName) ({ cls := "RightTurnsModel", name := "left", desc := "(I)I" } : Jvm.MethodName)) ∈ lw_all := lw_g (lw_at lw_m9 9 rfl) rfl
theorem q2045 : (Jvm.Cond.code ({ cls := "RightTurnsModel", name := "left", desc := "(I)I" } : Jvm.MethodName) prog_10_method_73_code (2 : Nat) (Option.some Jvm.ClassFile.FieldType.int)) ∈ lw_all := lw_g (lw_at lw_m9 10 rfl) rfl
theorem q2047 : (Jvm.Cond.instanceMethod ({ cls := "RightTurnsModel", name := "candidates", desc := "(I)I" } : Jvm.MethodName)) ∈ lw_all := lw_g (lw_at lw_m9 12 rfl) rfl
theorem q2048 : (Jvm.Cond.selects "RightTurnsModel" ({ cls := "RightTurnsModel", name := "candidates", desc := "(I)I" } : Jvm.MethodName) ({ cls := "RightTurnsModel", name := "candidates", desc := "(I)I" } : Jvm.MethodName)) ∈ lw_all := lw_g (lw_at lw_m9 13 rfl) rfl
theorem q2049 : (Jvm.Cond.code ({ cls := "RightTurnsModel", name := "candidates", desc := "(I)I" } : Jvm.MethodName) prog_10_method_77_code (2 : Nat) (Option.some Jvm.ClassFile.FieldType.int)) ∈ lw_all := lw_g (lw_at lw_m9 14 rfl) rfl
theorem q2050 : (Jvm.Cond.methodLink "RightTurnsModel" (343 : Nat) ({ cls := "RightTurnsModel", name := "findLater", desc := "(I)V" } : Jvm.MethodName)) ∈ lw_all := lw_g (lw_at lw_m9 15 rfl) rfl
theorem q2051 : (Jvm.Cond.privateMethod ({ cls := "RightTurnsModel", name := "findLater", desc := "(I)V" } : Jvm.MethodName)) ∈ lw_tbl := lw_at lw_m9 16 rfl
theorem q2052 : (Jvm.Cond.instanceMethod ({ cls := "RightTurnsModel", name := "findLater", desc := "(I)V" } : Jvm.MethodName)) ∈ lw_all := lw_g (lw_at lw_m9 17 rfl) rfl
theorem q2053 : (Jvm.Cond.code ({ cls := "RightTurnsModel", name := "findLater", desc := "(I)V" } : Jvm.MethodName) prog_10_method_76_code (3 : Nat) (Option.none : Option Jvm.ClassFile.FieldType)) ∈ lw_all := lw_g (lw_at lw_m9 18 rfl) rfl
theorem q2054 : (Jvm.Cond.methodLink "RightTurnsModel" (337 : Nat) ({ cls := "RightTurnsModel", name := "isAllowed", desc := "(I)Z" } : Jvm.MethodName)) ∈ lw_all := lw_g (lw_at lw_m9 19 rfl) rfl
theorem q2055 : (Jvm.Cond.privateMethod ({ cls := "RightTurnsModel", name := "isAllowed", desc := "(I)Z" } : Jvm.MethodName)) ∈ lw_tbl := lw_at lw_m9 20 rfl
theorem q2056 : (Jvm.Cond.instanceMethod ({ cls := "RightTurnsModel", name := "isAllowed", desc := "(I)Z" } : Jvm.MethodName)) ∈ lw_all := lw_g (lw_at lw_m9 21 rfl) rfl
theorem q2057 : (Jvm.Cond.code ({ cls := "RightTurnsModel", name := "isAllowed", desc := "(I)Z" } : Jvm.MethodName) prog_10_method_74_code (2 : Nat) (Option.some Jvm.ClassFile.FieldType.boolean)) ∈ lw_all := lw_g (lw_at lw_m9 22 rfl) rfl
theorem q2058 : (Jvm.Cond.methodLink "RightTurnsModel" (340 : Nat) ({ cls := "RightTurnsModel", name := "isSigned", desc := "(I)Z" } : Jvm.MethodName)) ∈ lw_all := lw_g (lw_at lw_m9 23 rfl) rfl
theorem q2059 : (Jvm.Cond.privateMethod ({ cls := "RightTurnsModel", name := "isSigned", desc := "(I)Z" } : Jvm.MethodName)) ∈ lw_tbl := lw_at lw_m9 24 rfl
theorem q2060 : (Jvm.Cond.instanceMethod ({ cls := "RightTurnsModel", name := "isSigned", desc := "(I)Z" } : Jvm.MethodName)) ∈ lw_all := lw_g (lw_at lw_m9 25 rfl) rfl
theorem q2061 : (Jvm.Cond.code ({ cls := "RightTurnsModel", name := "isSigned", desc := "(I)Z" } : Jvm.MethodName) prog_10_method_75_code (2 : Nat) (Option.some Jvm.ClassFile.FieldType.boolean)) ∈ lw_all := lw_g (lw_at lw_m9 26 rfl) rfl
theorem q2063 : (Jvm.Cond.instanceMethod ({ cls := "RightTurnsModel", name := "fewest", desc := "(II)I" } : Jvm.MethodName)) ∈ lw_all := lw_g (lw_at lw_m9 28 rfl) rfl
theorem q2064 : (Jvm.Cond.selects "RightTurnsModel" ({ cls := "RightTurnsModel", name := "fewest", desc := "(II)I" } : Jvm.MethodName) ({ cls := "RightTurnsModel", name := "fewest", desc := "(II)I" } : Jvm.MethodName)) ∈ lw_all := lw_g (lw_at lw_m9 29 rfl) rfl
theorem q2065 : (Jvm.Cond.code ({ cls := "RightTurnsModel", name := "fewest", desc := "(II)I" } : Jvm.MethodName) prog_10_method_81_code (3 : Nat) (Option.some Jvm.ClassFile.FieldType.int)) ∈ lw_all := lw_g (lw_at lw_m9 30 rfl) rfl
theorem q2066 : (Jvm.Cond.methodLink "RightTurnsModel" (362 : Nat) ({ cls := "RightTurnsModel", name := "findSet", desc := "(IZ)V" } : Jvm.MethodName)) ∈ lw_all := lw_g (lw_at lw_m9 31 rfl) rfl
theorem q2067 : (Jvm.Cond.privateMethod ({ cls := "RightTurnsModel", name := "findSet", desc := "(IZ)V" } : Jvm.MethodName)) ∈ lw_tbl := lw_at lw_m9 32 rfl
theorem q2068 : (Jvm.Cond.instanceMethod ({ cls := "RightTurnsModel", name := "findSet", desc := "(IZ)V" } : Jvm.MethodName)) ∈ lw_all := lw_g (lw_at lw_m9 33 rfl) rfl
theorem q2069 : (Jvm.Cond.code ({ cls := "RightTurnsModel", name := "findSet", desc := "(IZ)V" } : Jvm.MethodName) prog_10_method_80_code (6 : Nat) (Option.none : Option Jvm.ClassFile.FieldType)) ∈ lw_all := lw_g (lw_at lw_m9 34 rfl) rfl
theorem q2070 : (Jvm.Cond.methodLink "RightTurnsModel" (352 : Nat) ({ cls := "RightTurnsModel", name := "costOf", desc := "(I)I" } : Jvm.MethodName)) ∈ lw_all := lw_g (lw_at lw_m9 35 rfl) rfl
theorem q2071 : (Jvm.Cond.privateMethod ({ cls := "RightTurnsModel", name := "costOf", desc := "(I)I" } : Jvm.MethodName)) ∈ lw_tbl := lw_at lw_m9 36 rfl
theorem q2072 : (Jvm.Cond.instanceMethod ({ cls := "RightTurnsModel", name := "costOf", desc := "(I)I" } : Jvm.MethodName)) ∈ lw_all := lw_g (lw_at lw_m9 37 rfl) rfl
theorem q2073 : (Jvm.Cond.code ({ cls := "RightTurnsModel", name := "costOf", desc := "(I)I" } : Jvm.MethodName) prog_10_method_79_code (2 : Nat) (Option.some Jvm.ClassFile.FieldType.int)) ∈ lw_all := lw_g (lw_at lw_m9 38 rfl) rfl
theorem q2074 : (Jvm.Cond.methodLink "RightTurnsModel" (355 : Nat) ({ cls := "RightTurnsModel", name := "flips", desc := "(I)V" } : Jvm.MethodName)) ∈ lw_all := lw_g (lw_at lw_m9 39 rfl) rfl
theorem q2075 : (Jvm.Cond.privateMethod ({ cls := "RightTurnsModel", name := "flips", desc := "(I)V" } : Jvm.MethodName)) ∈ lw_tbl := lw_at lw_m9 40 rfl
theorem q2076 : (Jvm.Cond.instanceMethod ({ cls := "RightTurnsModel", name := "flips", desc := "(I)V" } : Jvm.MethodName)) ∈ lw_all := lw_g (lw_at lw_m9 41 rfl) rfl
theorem q2077 : (Jvm.Cond.code ({ cls := "RightTurnsModel", name := "flips", desc := "(I)V" } : Jvm.MethodName) prog_10_method_78_code (2 : Nat) (Option.none : Option Jvm.ClassFile.FieldType)) ∈ lw_all := lw_g (lw_at lw_m9 42 rfl) rfl
theorem q2078 : (Jvm.Cond.methodLink "RightTurnsModel" (358 : Nat) ({ cls := "RightTurnsModel", name := "isOpen", desc := "()Z" } : Jvm.MethodName)) ∈ lw_all := lw_g (lw_at lw_m9 43 rfl) rfl
theorem q2079 : (Jvm.Cond.privateMethod ({ cls := "RightTurnsModel", name := "isOpen", desc := "()Z" } : Jvm.MethodName)) ∈ lw_tbl := lw_at lw_m9 44 rfl
theorem q2080 : (Jvm.Cond.instanceMethod ({ cls := "RightTurnsModel", name := "isOpen", desc := "()Z" } : Jvm.MethodName)) ∈ lw_all := lw_g (lw_at lw_m9 45 rfl) rfl
theorem q2081 : (Jvm.Cond.code ({ cls := "RightTurnsModel", name := "isOpen", desc := "()Z" } : Jvm.MethodName) prog_10_method_70_code (1 : Nat) (Option.some Jvm.ClassFile.FieldType.boolean)) ∈ lw_all := lw_g (lw_at lw_m9 46 rfl) rfl
theorem q2083 : (Jvm.Cond.instanceMethod ({ cls := "RightTurnsModel", name := "cheapest", desc := "(II)I" } : Jvm.MethodName)) ∈ lw_all := lw_g (lw_at lw_m9 48 rfl) rfl
theorem q2084 : (Jvm.Cond.selects "RightTurnsModel" ({ cls := "RightTurnsModel", name := "cheapest", desc := "(II)I" } : Jvm.MethodName) ({ cls := "RightTurnsModel", name := "cheapest", desc := "(II)I" } : Jvm.MethodName)) ∈ lw_all := lw_g (lw_at lw_m9 49 rfl) rfl
theorem q2085 : (Jvm.Cond.code ({ cls := "RightTurnsModel", name := "cheapest", desc := "(II)I" } : Jvm.MethodName) prog_10_method_82_code (3 : Nat) (Option.some Jvm.ClassFile.FieldType.int)) ∈ lw_all := lw_g (lw_at lw_m9 50 rfl) rfl
theorem q2087 : (Jvm.Cond.instanceMethod ({ cls := "RightTurnsModel", name := "exchange", desc := "(II)I" } : Jvm.MethodName)) ∈ lw_all := lw_g (lw_at lw_m9 52 rfl) rfl
theorem q2088 : (Jvm.Cond.selects "RightTurnsModel" ({ cls := "RightTurnsModel", name := "exchange", desc := "(II)I" } : Jvm.MethodName) ({ cls := "RightTurnsModel", name := "exchange", desc := "(II)I" } : Jvm.MethodName)) ∈ lw_all := lw_g (lw_at lw_m9 53 rfl) rfl
theorem q2089 : (Jvm.Cond.code ({ cls := "RightTurnsModel", name := "exchange", desc := "(II)I" } : Jvm.MethodName) prog_10_method_83_code (8 : Nat) (Option.some Jvm.ClassFile.FieldType.int)) ∈ lw_all := lw_g (lw_at lw_m9 54 rfl) rfl
theorem q2091 : (Jvm.Cond.instanceMethod ({ cls := "RightTurnsModel", name := "round", desc := "(II)I" } : Jvm.MethodName)) ∈ lw_all := lw_g (lw_at lw_m9 56 rfl) rfl
theorem q2092 : (Jvm.Cond.selects "RightTurnsModel" ({ cls := "RightTurnsModel", name := "round", desc := "(II)I" } : Jvm.MethodName) ({ cls := "RightTurnsModel", name := "round", desc := "(II)I" } : Jvm.MethodName)) ∈ lw_all := lw_g (lw_at lw_m9 57 rfl) rfl
theorem q2093 : (Jvm.Cond.code ({ cls := "RightTurnsModel", name := "round", desc := "(II)I" } : Jvm.MethodName) prog_10_method_85_code (9 : Nat) (Option.some Jvm.ClassFile.FieldType.int)) ∈ lw_all := lw_g (lw_at lw_m9 58 rfl) rfl
theorem q2094 : (Jvm.Cond.methodLink "RightTurnsModel" (366 : Nat) ({ cls := "RightTurnsModel", name := "boxAt", desc := "(II)I" } : Jvm.MethodName)) ∈ lw_all := lw_g (lw_at lw_m9 59 rfl) rfl
theorem q2095 : (Jvm.Cond.privateMethod ({ cls := "RightTurnsModel", name := "boxAt", desc := "(II)I" } : Jvm.MethodName)) ∈ lw_tbl := lw_at lw_m9 60 rfl
theorem q2096 : (Jvm.Cond.instanceMethod ({ cls := "RightTurnsModel", name := "boxAt", desc := "(II)I" } : Jvm.MethodName)) ∈ lw_all := lw_g (lw_at lw_m9 61 rfl) rfl
theorem q2097 : (Jvm.Cond.code ({ cls := "RightTurnsModel", name := "boxAt", desc := "(II)I" } : Jvm.MethodName) prog_10_method_84_code (5 : Nat) (Option.some Jvm.ClassFile.FieldType.int)) ∈ lw_all := lw_g (lw_at lw_m9 62 rfl) rfl
theorem q2098 : (Jvm.Cond.methodLink "RightTurnsModel" (369 : Nat) ({ cls := "RightTurnsModel", name := "spreads", desc := "(III)Z" } : Jvm.MethodName)) ∈ lw_all := lw_g (lw_at lw_m9 63 rfl) rfl
theorem q2099 : (Jvm.Cond.privateMethod ({ cls := "RightTurnsModel", name := "spreads", desc := "(III)Z" } : Jvm.MethodName)) ∈ lw_tbl := lw_at lw_m9 64 rfl
theorem q2100 : (Jvm.Cond.instanceMethod ({ cls := "RightTurnsModel", name := "spreads", desc := "(III)Z" } : Jvm.MethodName)) ∈ lw_all := lw_g (lw_at lw_m9 65 rfl) rfl
theorem q2101 : (Jvm.Cond.code ({ cls := "RightTurnsModel", name := "spreads", desc := "(III)Z" } : Jvm.MethodName) prog_10_method_86_code (8 : Nat) (Option.some Jvm.ClassFile.FieldType.boolean)) ∈ lw_all := lw_g (lw_at lw_m9 66 rfl) rfl
theorem q2103 : (Jvm.Cond.instanceMethod ({ cls := "RightTurnsModel", name := "bound", desc := "(II)I" } : Jvm.MethodName)) ∈ lw_all := lw_g (lw_at lw_m9 68 rfl) rfl
theorem q2104 : (Jvm.Cond.selects "RightTurnsModel" ({ cls := "RightTurnsModel", name := "bound", desc := "(II)I" } : Jvm.MethodName) ({ cls := "RightTurnsModel", name := "bound", desc := "(II)I" } : Jvm.MethodName)) ∈ lw_all := lw_g (lw_at lw_m9 69 rfl) rfl
theorem q2105 : (Jvm.Cond.code ({ cls := "RightTurnsModel", name := "bound", desc := "(II)I" } : Jvm.MethodName) prog_10_method_87_code (11 : Nat) (Option.some Jvm.ClassFile.FieldType.int)) ∈ lw_all := lw_g (lw_at lw_m9 70 rfl) rfl
theorem q2107 : (Jvm.Cond.instanceMethod ({ cls := "RightTurnsModel", name := "home", desc := "(I)I" } : Jvm.MethodName)) ∈ lw_all := lw_g (lw_at lw_m9 72 rfl) rfl
theorem q2108 : (Jvm.Cond.selects "RightTurnsModel" ({ cls := "RightTurnsModel", name := "home", desc := "(I)I" } : Jvm.MethodName) ({ cls := "RightTurnsModel", name := "home", desc := "(I)I" } : Jvm.MethodName)) ∈ lw_all := lw_g (lw_at lw_m9 73 rfl) rfl
theorem q2109 : (Jvm.Cond.code ({ cls := "RightTurnsModel", name := "home", desc := "(I)I" } : Jvm.MethodName) prog_10_method_93_code (2 : Nat) (Option.some Jvm.ClassFile.FieldType.int)) ∈ lw_all := lw_g (lw_at lw_m9 74 rfl) rfl
theorem q2110 : (Jvm.Cond.methodLink "RightTurnsModel" (387 : Nat) ({ cls := "RightTurnsModel", name := "runs", desc := "()V" } : Jvm.MethodName)) ∈ lw_all := lw_g (lw_at lw_m9 75 rfl) rfl
theorem q2111 : (Jvm.Cond.privateMethod ({ cls := "RightTurnsModel", name := "runs", desc := "()V" } : Jvm.MethodName)) ∈ lw_tbl := lw_at lw_m9 76 rfl
theorem q2112 : (Jvm.Cond.instanceMethod ({ cls := "RightTurnsModel", name := "runs", desc := "()V" } : Jvm.MethodName)) ∈ lw_all := lw_g (lw_at lw_m9 77 rfl) rfl
theorem q2113 : (Jvm.Cond.code ({ cls := "RightTurnsModel", name := "runs", desc := "()V" } : Jvm.MethodName) prog_10_method_89_code (3 : Nat) (Option.none : Option Jvm.ClassFile.FieldType)) ∈ lw_all := lw_g (lw_at lw_m9 78 rfl) rfl
theorem q2114 : (Jvm.Cond.methodLink "RightTurnsModel" (372 : Nat) ({ cls := "RightTurnsModel", name := "layRides", desc := "()V" } : Jvm.MethodName)) ∈ lw_all := lw_g (lw_at lw_m9 79 rfl) rfl
theorem q2115 : (Jvm.Cond.privateMethod ({ cls := "RightTurnsModel", name := "layRides", desc := "()V" } : Jvm.MethodName)) ∈ lw_tbl := lw_at lw_m9 80 rfl
theorem q2116 : (Jvm.Cond.instanceMethod ({ cls := "RightTurnsModel", name := "layRides", desc := "()V" } : Jvm.MethodName)) ∈ lw_all := lw_g (lw_at lw_m9 81 rfl) rfl
theorem q2117 : (Jvm.Cond.code ({ cls := "RightTurnsModel", name := "layRides", desc := "()V" } : Jvm.MethodName) prog_10_method_88_code (3 : Nat) (Option.none : Option Jvm.ClassFile.FieldType)) ∈ lw_all := lw_g (lw_at lw_m9 82 rfl) rfl
theorem q2118 : (Jvm.Cond.methodLink "RightTurnsModel" (378 : Nat) ({ cls := "RightTurnsModel", name := "moves", desc := "(I)V" } : Jvm.MethodName)) ∈ lw_all := lw_g (lw_at lw_m9 83 rfl) rfl
theorem q2119 : (Jvm.Cond.privateMethod ({ cls := "RightTurnsModel", name := "moves", desc := "(I)V" } : Jvm.MethodName)) ∈ lw_tbl := lw_at lw_m9 84 rfl
theorem q2120 : (Jvm.Cond.instanceMethod ({ cls := "RightTurnsModel", name := "moves", desc := "(I)V" } : Jvm.MethodName)) ∈ lw_all := lw_g (lw_at lw_m9 85 rfl) rfl
theorem q2121 : (Jvm.Cond.code ({ cls := "RightTurnsModel", name := "moves", desc := "(I)V" } : Jvm.MethodName) prog_10_method_90_code (2 : Nat) (Option.none : Option Jvm.ClassFile.FieldType)) ∈ lw_all := lw_g (lw_at lw_m9 86 rfl) rfl
theorem q2122 : (Jvm.Cond.methodLink "RightTurnsModel" (381 : Nat) ({ cls := "RightTurnsModel", name := "passes", desc := "(I)I" } : Jvm.MethodName)) ∈ lw_all := lw_g (lw_at lw_m9 87 rfl) rfl
theorem q2123 : (Jvm.Cond.privateMethod ({ cls := "RightTurnsModel", name := "passes", desc := "(I)I" } : Jvm.MethodName)) ∈ lw_tbl := lw_at lw_m9 88 rfl
theorem q2124 : (Jvm.Cond.instanceMethod ({ cls := "RightTurnsModel", name := "passes", desc := "(I)I" } : Jvm.MethodName)) ∈ lw_all := lw_g (lw_at lw_m9 89 rfl) rfl
theorem q2125 : (Jvm.Cond.code ({ cls := "RightTurnsModel", name := "passes", desc := "(I)I" } : Jvm.MethodName) prog_10_method_92_code (4 : Nat) (Option.some Jvm.ClassFile.FieldType.int)) ∈ lw_all := lw_g (lw_at lw_m9 90 rfl) rfl
theorem q2126 : (Jvm.Cond.methodLink "RightTurnsModel" (384 : Nat) ({ cls := "RightTurnsModel", name := "isThere", desc := "(II)Z" } : Jvm.MethodName)) ∈ lw_all := lw_g (lw_at lw_m9 91 rfl) rfl
theorem q2127 : (Jvm.Cond.privateMethod ({ cls := "RightTurnsModel", name := "isThere", desc := "(II)Z" } : Jvm.MethodName)) ∈ lw_tbl := lw_at lw_m9 92 rfl
theorem q2128 : (Jvm.Cond.instanceMethod ({ cls := "RightTurnsModel", name := "isThere", desc := "(II)Z" } : Jvm.MethodName)) ∈ lw_all := lw_g (lw_at lw_m9 93 rfl) rfl
theorem q2129 : (Jvm.Cond.code ({ cls := "RightTurnsModel", name := "isThere", desc := "(II)Z" } : Jvm.MethodName) prog_10_method_91_code (3 : Nat) (Option.some Jvm.ClassFile.FieldType.boolean)) ∈ lw_all := lw_g (lw_at lw_m9 94 rfl) rfl
theorem q2131 : (Jvm.Cond.instanceMethod ({ cls := "RightTurnsModel", name := "traffic", desc := "(I)I" } : Jvm.MethodName)) ∈ lw_all := lw_g (lw_at lw_m9 96 rfl) rfl
theorem q2132 : (Jvm.Cond.selects "RightTurnsModel" ({ cls := "RightTurnsModel", name := "traffic", desc := "(I)I" } : Jvm.MethodName) ({ cls := "RightTurnsModel", name := "traffic", desc := "(I)I" } : Jvm.MethodName)) ∈ lw_all := lw_g (lw_at lw_m9 97 rfl) rfl
theorem q2133 : (Jvm.Cond.code ({ cls := "RightTurnsModel", name := "traffic", desc := "(I)I" } : Jvm.MethodName) prog_10_method_94_code (6 : Nat) (Option.some Jvm.ClassFile.FieldType.int)) ∈ lw_all := lw_g (lw_at lw_m9 98 rfl) rfl
theorem q2135 : (Jvm.Cond.instanceMethod ({ cls := "RightTurnsModel", name := "counts", desc := "(I)I" } : Jvm.MethodName)) ∈ lw_all := lw_g (lw_at lw_m9 100 rfl) rfl
theorem q2136 : (Jvm.Cond.selects "RightTurnsModel" ({ cls := "RightTurnsModel", name := "counts", desc := "(I)I" } : Jvm.MethodName) ({ cls := "RightTurnsModel", name := "counts", desc := "(I)I" } : Jvm.MethodName)) ∈ lw_all := lw_g (lw_at lw_m9 101 rfl) rfl
theorem q2137 : (Jvm.Cond.code ({ cls := "RightTurnsModel", name := "counts", desc := "(I)I" } : Jvm.MethodName) prog_10_method_95_code (6 : Nat) (Option.some Jvm.ClassFile.FieldType.int)) ∈ lw_all := lw_g (lw_at lw_m9 102 rfl) rfl
theorem q2139 : (Jvm.Cond.instanceMethod ({ cls := "RightTurnsModel", name := "tell", desc := "(I)I" } : Jvm.MethodName)) ∈ lw_all := lw_g (lw_at lw_m9 104 rfl) rfl
theorem q2140 : (Jvm.Cond.selects "RightTurnsModel" ({ cls := "RightTurnsModel", name := "tell", desc := "(I)I" } : Jvm.MethodName) ({ cls := "RightTurnsModel", name := "tell", desc := "(I)I" } : Jvm.MethodName)) ∈ lw_all := lw_g (lw_at lw_m9 105 rfl) rfl
theorem q2141 : (Jvm.Cond.code ({ cls := "RightTurnsModel", name := "tell", desc := "(I)I" } : Jvm.MethodName) prog_10_method_96_code (2 : Nat) (Option.some Jvm.ClassFile.FieldType.int)) ∈ lw_all := lw_g (lw_at lw_m9 106 rfl) rfl
theorem q2143 : (Jvm.Cond.instanceMethod ({ cls := "RightTurnsModel", name := "forget", desc := "()I" } : Jvm.MethodName)) ∈ lw_all := lw_g (lw_at lw_m9 108 rfl) rfl
theorem q2144 : (Jvm.Cond.selects "RightTurnsModel" ({ cls := "RightTurnsModel", name := "forget", desc := "()I" } : Jvm.MethodName) ({ cls := "RightTurnsModel", name := "forget", desc := "()I" } : Jvm.MethodName)) ∈ lw_all := lw_g (lw_at lw_m9 109 rfl) rfl
theorem q2145 : (Jvm.Cond.code ({ cls := "RightTurnsModel", name := "forget", desc := "()I" } : Jvm.MethodName) prog_10_method_97_code (2 : Nat) (Option.some Jvm.ClassFile.FieldType.int)) ∈ lw_all := lw_g (lw_at lw_m9 110 rfl) rfl
theorem q2147 : (Jvm.Cond.instanceMethod ({ cls := "RightTurnsModel", name := "breaks", desc := "(II)J" } : Jvm.MethodName)) ∈ lw_all := lw_g (lw_at lw_m9 112 rfl) rfl
theorem q2148 : (Jvm.Cond.selects "RightTurnsModel" ({ cls := "RightTurnsModel", name := "breaks", desc := "(II)J" } : Jvm.MethodName) ({ cls := "RightTurnsModel", name := "breaks", desc := "(II)J" } : Jvm.MethodName)) ∈ lw_all := lw_g (lw_at lw_m9 113 rfl) rfl
theorem q2149 : (Jvm.Cond.code ({ cls := "RightTurnsModel", name := "breaks", desc := "(II)J" } : Jvm.MethodName) prog_10_method_98_code (3 : Nat) (Option.some Jvm.ClassFile.FieldType.long)) ∈ lw_all := lw_g (lw_at lw_m9 114 rfl) rfl
theorem q2150 : (Jvm.Cond.methodLink "RightTurnsModel" (390 : Nat) ({ cls := "RightTurnsModel", name := "findBreaks", desc := "()V" } : Jvm.MethodName)) ∈ lw_all := lw_g (lw_at lw_m9 115 rfl) rfl
theorem q2151 : (Jvm.Cond.privateMethod ({ cls := "RightTurnsModel", name := "findBreaks", desc := "()V" } : Jvm.MethodName)) ∈ lw_tbl := lw_at lw_m9 116 rfl
theorem q2152 : (Jvm.Cond.instanceMethod ({ cls := "RightTurnsModel", name := "findBreaks", desc := "()V" } : Jvm.MethodName)) ∈ lw_all := lw_g (lw_at lw_m9 117 rfl) rfl
theorem q2153 : (Jvm.Cond.code ({ cls := "RightTurnsModel", name := "findBreaks", desc := "()V" } : Jvm.MethodName) prog_10_method_99_code (3 : Nat) (Option.none : Option Jvm.ClassFile.FieldType)) ∈ lw_all := lw_g (lw_at lw_m9 118 rfl) rfl
theorem q2154 : (Jvm.Cond.methodLink "RightTurnsModel" (402 : Nat) ({ cls := "RightTurnsModel", name := "comes", desc := "(II)V" } : Jvm.MethodName)) ∈ lw_all := lw_g (lw_at lw_m9 119 rfl) rfl
theorem q2155 : (Jvm.Cond.privateMethod ({ cls := "RightTurnsModel", name := "comes", desc := "(II)V" } : Jvm.MethodName)) ∈ lw_tbl := lw_at lw_m9 120 rfl
theorem q2156 : (Jvm.Cond.instanceMethod ({ cls := "RightTurnsModel", name := "comes", desc := "(II)V" } : Jvm.MethodName)) ∈ lw_all := lw_g (lw_at lw_m9 121 rfl) rfl
theorem q2157 : (Jvm.Cond.code ({ cls := "RightTurnsModel", name := "comes", desc := "(II)V" } : Jvm.MethodName) prog_10_method_101_code (6 : Nat) (Option.none : Option Jvm.ClassFile.FieldType)) ∈ lw_all := lw_g (lw_at lw_m9 122 rfl) rfl
theorem q2158 : (Jvm.Cond.constantLong "RightTurnsModel" (396 : Nat) (-1 : Int64)) ∈ lw_all := lw_g (lw_at lw_m9 123 rfl) rfl
theorem q2160 : (Jvm.Cond.instanceMethod ({ cls := "RightTurnsModel", name := "sure", desc := "(II)I" } : Jvm.MethodName)) ∈ lw_all := lw_g (lw_at lw_m9 125 rfl) rfl
theorem q2161 : (Jvm.Cond.selects "RightTurnsModel" ({ cls := "RightTurnsModel", name := "sure", desc := "(II)I" } : Jvm.MethodName) ({ cls := "RightTurnsModel", name := "sure", desc := "(II)I" } : Jvm.MethodName)) ∈ lw_all := lw_g (lw_at lw_m9 126 rfl) rfl
theorem q2162 : (Jvm.Cond.code ({ cls := "RightTurnsModel", name := "sure", desc := "(II)I" } : Jvm.MethodName) prog_10_method_100_code (7 : Nat) (Option.some Jvm.ClassFile.FieldType.int)) ∈ lw_all := lw_g (lw_at lw_m9 127 rfl) rfl
theorem q2164 : (Jvm.Cond.instanceMethod ({ cls := "RightTurnsModel", name := "cut", desc := "(I)I" } : Jvm.MethodName)) ∈ lw_all := lw_g (lw_at lw_m9 129 rfl) rfl
theorem q2165 : (Jvm.Cond.selects "RightTurnsModel" ({ cls := "RightTurnsModel", name := "cut", desc := "(I)I" } : Jvm.MethodName) ({ cls := "RightTurnsModel", name := "cut", desc := "(I)I" } : Jvm.MethodName)) ∈ lw_all := lw_g (lw_at lw_m9 130 rfl) rfl
theorem q2166 : (Jvm.Cond.code ({ cls := "RightTurnsModel", name := "cut", desc := "(I)I" } : Jvm.MethodName) prog_10_method_102_code (7 : Nat) (Option.some Jvm.ClassFile.FieldType.int)) ∈ lw_all := lw_g (lw_at lw_m9 131 rfl) rfl
theorem q2168 : (Jvm.Cond.instanceMethod ({ cls := "RightTurnsModel", name := "detour", desc := "(III)I" } : Jvm.MethodName)) ∈ lw_all := lw_g (lw_at lw_m9 133 rfl) rfl
theorem q2169 : (Jvm.Cond.selects "RightTurnsModel" ({ cls := "RightTurnsModel", name := "detour", desc := "(III)I" } : Jvm.MethodName) ({ cls := "RightTurnsModel", name := "detour", desc := "(III)I" } : Jvm.MethodName)) ∈ lw_all := lw_g (lw_at lw_m9 134 rfl) rfl
theorem q2170 : (Jvm.Cond.code ({ cls := "RightTurnsModel", name := "detour", desc := "(III)I" } : Jvm.MethodName) prog_10_method_103_code (7 : Nat) (Option.some Jvm.ClassFile.FieldType.int)) ∈ lw_all := lw_g (lw_at lw_m9 135 rfl) rfl
theorem q2172 : (Jvm.Cond.instanceMethod ({ cls := "RightTurnsModel", name := "gain", desc := "(II)I" } : Jvm.MethodName)) ∈ lw_all := lw_g (lw_at lw_m9 137 rfl) rfl
theorem q2173 : (Jvm.Cond.selects "RightTurnsModel" ({ cls := "RightTurnsModel", name := "gain", desc := "(II)I" } : Jvm.MethodName) ({ cls := "RightTurnsModel", name := "gain", desc := "(II)I" } : Jvm.MethodName)) ∈ lw_all := lw_g (lw_at lw_m9 138 rfl) rfl
theorem q2174 : (Jvm.Cond.code ({ cls := "RightTurnsModel", name := "gain", desc := "(II)I" } : Jvm.MethodName) prog_10_method_105_code (7 : Nat) (Option.some Jvm.ClassFile.FieldType.int)) ∈ lw_all := lw_g (lw_at lw_m9 139 rfl) rfl
theorem q2175 : (Jvm.Cond.methodLink "RightTurnsModel" (414 : Nat) ({ cls := "RightTurnsModel", name := "sums", desc := "()V" } : Jvm.MethodName)) ∈ lw_all := lw_g (lw_at lw_m9 140 rfl) rfl
theorem q2176 : (Jvm.Cond.privateMethod ({ cls := "RightTurnsModel", name := "sums", desc := "()V" } : Jvm.MethodName)) ∈ lw_tbl := lw_at lw_m9 141 rfl
theorem q2177 : (Jvm.Cond.instanceMethod ({ cls := "RightTurnsModel", name := "sums", desc := "()V" } : Jvm.MethodName)) ∈ lw_all := lw_g (lw_at lw_m9 142 rfl) rfl
theorem q2178 : (Jvm.Cond.code ({ cls := "RightTurnsModel", name := "sums", desc := "()V" } : Jvm.MethodName) prog_10_method_104_code (3 : Nat) (Option.none : Option Jvm.ClassFile.FieldType)) ∈ lw_all := lw_g (lw_at lw_m9 143 rfl) rfl
theorem q2180 : (Jvm.Cond.instanceMethod ({ cls := "RightTurnsModel", name := "baker", desc := "(II)I" } : Jvm.MethodName)) ∈ lw_all := lw_g (lw_at lw_m9 145 rfl) rfl
theorem q2181 : (Jvm.Cond.selects "RightTurnsModel" ({ cls := "RightTurnsModel", name := "baker", desc := "(II)I" } : Jvm.MethodName) ({ cls := "RightTurnsModel", name := "baker", desc := "(II)I" } : Jvm.MethodName)) ∈ lw_all := lw_g (lw_at lw_m9 146 rfl) rfl
theorem q2182 : (Jvm.Cond.code ({ cls := "RightTurnsModel", name := "baker", desc := "(II)I" } : Jvm.MethodName) prog_10_method_106_code (9 : Nat) (Option.some Jvm.ClassFile.FieldType.int)) ∈ lw_all := lw_g (lw_at lw_m9 147 rfl) rfl
theorem q2184 : (Jvm.Cond.instanceMethod ({ cls := "RightTurnsModel", name := "image", desc := "()I" } : Jvm.MethodName)) ∈ lw_all := lw_g (lw_at lw_m9 149 rfl) rfl
theorem q2185 : (Jvm.Cond.selects "RightTurnsModel" ({ cls := "RightTurnsModel", name := "image", desc := "()I" } : Jvm.MethodName) ({ cls := "RightTurnsModel", name := "image", desc := "()I" } : Jvm.MethodName)) ∈ lw_all := lw_g (lw_at lw_m9 150 rfl) rfl
theorem q2186 : (Jvm.Cond.code ({ cls := "RightTurnsModel", name := "image", desc := "()I" } : Jvm.MethodName) prog_10_method_109_code (1 : Nat) (Option.some Jvm.ClassFile.FieldType.int)) ∈ lw_all := lw_g (lw_at lw_m9 151 rfl) rfl
theorem q2187 : (Jvm.Cond.methodLink "RightTurnsModel" (424 : Nat) ({ cls := "RightTurnsModel", name := "movesAll", desc := "([IZ)V" } : Jvm.MethodName)) ∈ lw_all := lw_g (lw_at lw_m9 152 rfl) rfl
theorem q2188 : (Jvm.Cond.privateMethod ({ cls := "RightTurnsModel", name := "movesAll", desc := "([IZ)V" } : Jvm.MethodName)) ∈ lw_tbl := lw_at lw_m9 153 rfl
theorem q2189 : (Jvm.Cond.instanceMethod ({ cls := "RightTurnsModel", name := "movesAll", desc := "([IZ)V" } : Jvm.MethodName)) ∈ lw_all := lw_g (lw_at lw_m9 154 rfl) rfl
theorem q2190 : (Jvm.Cond.code ({ cls := "RightTurnsModel", name := "movesAll", desc := "([IZ)V" } : Jvm.MethodName) prog_10_method_108_code (5 : Nat) (Option.none : Option Jvm.ClassFile.FieldType)) ∈ lw_all := lw_g (lw_at lw_m9 155 rfl) rfl
theorem q2191 : (Jvm.Cond.methodLink "RightTurnsModel" (420 : Nat) ({ cls := "RightTurnsModel", name := "puts", desc := "([IIZ)I" } : Jvm.MethodName)) ∈ lw_all := lw_g (lw_at lw_m9 156 rfl) rfl
theorem q2192 : (Jvm.Cond.privateMethod ({ cls := "RightTurnsModel", name := "puts", desc := "([IIZ)I" } : Jvm.MethodName)) ∈ lw_tbl := lw_at lw_m9 157 rfl
theorem q2193 : (Jvm.Cond.instanceMethod ({ cls := "RightTurnsModel", name := "puts", desc := "([IIZ)I" } : Jvm.MethodName)) ∈ lw_all := lw_g (lw_at lw_m9 158 rfl) rfl
theorem q2194 : (Jvm.Cond.code ({ cls := "RightTurnsModel", name := "puts", desc := "([IIZ)I" } : Jvm.MethodName) prog_10_method_107_code (4 : Nat) (Option.some Jvm.ClassFile.FieldType.int)) ∈ lw_all := lw_g (lw_at lw_m9 159 rfl) rfl
theorem q2196 : (Jvm.Cond.instanceMethod ({ cls := "RightTurnsModel", name := "restore", desc := "()I" } : Jvm.MethodName)) ∈ lw_all := lw_g (lw_at lw_m9 161 rfl) rfl
theorem q2197 : (Jvm.Cond.selects "RightTurnsModel" ({ cls := "RightTurnsModel", name := "restore", desc := "()I" } : Jvm.MethodName) ({ cls := "RightTurnsModel", name := "restore", desc := "()I" } : Jvm.MethodName)) ∈ lw_all := lw_g (lw_at lw_m9 162 rfl) rfl
theorem q2198 : (Jvm.Cond.code ({ cls := "RightTurnsModel", name := "restore", desc := "()I" } : Jvm.MethodName) prog_10_method_110_code (1 : Nat) (Option.some Jvm.ClassFile.FieldType.int)) ∈ lw_all := lw_g (lw_at lw_m9 163 rfl) rfl
theorem q2200 : (Jvm.Cond.instanceMethod ({ cls := "RightTurnsModel", name := "count", desc := "(I)I" } : Jvm.MethodName)) ∈ lw_all := lw_g (lw_at lw_m9 165 rfl) rfl
theorem q2201 : (Jvm.Cond.selects "RightTurnsModel" ({ cls := "RightTurnsModel", name := "count", desc := "(I)I" } : Jvm.MethodName) ({ cls := "RightTurnsModel", name := "count", desc := "(I)I" } : Jvm.MethodName)) ∈ lw_all := lw_g (lw_at lw_m9 166 rfl) rfl
theorem q2202 : (Jvm.Cond.code ({ cls := "RightTurnsModel", name := "count", desc := "(I)I" } : Jvm.MethodName) prog_10_method_111_code (2 : Nat) (Option.some Jvm.ClassFile.FieldType.int)) ∈ lw_all := lw_g (lw_at lw_m9 167 rfl) rfl
theorem q2222 : (Jvm.Cond.castable "RightTurnsModel" "java/lang/Object") ∈ lw_tbl := lw_at lw_m9 187 rfl
theorem in_X4 : ∀ w ∈ wsX40, w ∈ lw_all := lw_in wsX40 [1645, 1647, 1649, 1651, 1653, 1655, 1657, 1659, 1661, 1663, 1665, 1667, 1669, 1671, 1673, 1675, 1677, 1679, 1681, 1683, 1685, 1687, 1689, 1691, 1693, 1695, 1697, 1699, 1701, 1703, 1705, 1707, 1709, 1711, 1713, 1715, 1717, 1719, 1721, 1723, 1725, 1727, 1729, 1731, 1733, 1735, 1737, 1739, 1741, 1743, 1745, 1747, 1749, 1751, 1753, 1755, 1757, 1759, 1761, 1763] (by decide +kernel) (by decide +kernel)
