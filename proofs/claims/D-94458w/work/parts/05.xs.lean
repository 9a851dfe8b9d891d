/-! RightTurnsLaw -/
set_option maxRecDepth 100000
def RX0 : String := "RightTurnsLaw"
abbrev cX0_town : ByteArray := method_3_code
def yX0_town : MethodName := ⟨RX0, "town", "(LRightTurns;I[J)I"⟩
def dkwX0_town_0 : List UInt8 := [44, 3, 42, 27, 182, 0, 7, 133, 80, 167, 0, 6, 78, 4, 172, 3, 172]
abbrev dktX0_town_0 : List UInt8 := dkwX0_town_0 ++ []
theorem dksX0_town_0 : cX0_town.data.toList.drop 0 = dktX0_town_0 := by decide +kernel
theorem dX0_town_0 : decode cX0_town 0 = .ok (.aload_n 2, 1) := dk_44 (dk_at dksX0_town_0 0 rfl rfl)
theorem dX0_town_1 : decode cX0_town 1 = .ok (.iconst 0, 1) := dk_3 (dk_at dksX0_town_0 1 rfl rfl)
theorem dX0_town_2 : decode cX0_town 2 = .ok (.aload_n 0, 1) := dk_42 (dk_at dksX0_town_0 2 rfl rfl)
theorem dX0_town_3 : decode cX0_town 3 = .ok (.iload_n 1, 1) := dk_27 (dk_at dksX0_town_0 3 rfl rfl)
theorem dX0_town_4 : decode cX0_town 4 = .ok (.invokevirtual 7, 3) := dk_182 0 7 (dk_at dksX0_town_0 4 rfl rfl)
theorem dX0_town_7 : decode cX0_town 7 = .ok (.i2l, 1) := dk_133 (dk_at dksX0_town_0 7 rfl rfl)
theorem dX0_town_8 : decode cX0_town 8 = .ok (.lastore, 1) := dk_80 (dk_at dksX0_town_0 8 rfl rfl)
theorem dX0_town_9 : decode cX0_town 9 = .ok (.goto 6, 3) := dk_167 0 6 (dk_at dksX0_town_0 9 rfl rfl)
theorem dX0_town_12 : decode cX0_town 12 = .ok (.astore_n 3, 1) := dk_78 (dk_at dksX0_town_0 12 rfl rfl)
theorem dX0_town_13 : decode cX0_town 13 = .ok (.iconst 1, 1) := dk_4 (dk_at dksX0_town_0 13 rfl rfl)
theorem dX0_town_14 : decode cX0_town 14 = .ok (.ireturn, 1) := dk_172 (dk_at dksX0_town_0 14 rfl rfl)
theorem dX0_town_15 : decode cX0_town 15 = .ok (.iconst 0, 1) := dk_3 (dk_at dksX0_town_0 15 rfl rfl)
theorem dX0_town_16 : decode cX0_town 16 = .ok (.ireturn, 1) := dk_172 (dk_at dksX0_town_0 16 rfl rfl)
abbrev cX0_told : ByteArray := method_4_code
def yX0_told : MethodName := ⟨RX0, "told", "(LRightTurns;I[J)I"⟩
def dkwX0_told_0 : List UInt8 := [44, 3, 42, 27, 182, 0, 15, 133, 80, 167, 0, 6, 78, 4, 172, 3, 172]
abbrev dktX0_told_0 : List UInt8 := dkwX0_told_0 ++ []
theorem dksX0_told_0 : cX0_told.data.toList.drop 0 = dktX0_told_0 := by decide +kernel
theorem dX0_told_0 : decode cX0_told 0 = .ok (.aload_n 2, 1) := dk_44 (dk_at dksX0_told_0 0 rfl rfl)
theorem dX0_told_1 : decode cX0_told 1 = .ok (.iconst 0, 1) := dk_3 (dk_at dksX0_told_0 1 rfl rfl)
theorem dX0_told_2 : decode cX0_told 2 = .ok (.aload_n 0, 1) := dk_42 (dk_at dksX0_told_0 2 rfl rfl)
theorem dX0_told_3 : decode cX0_told 3 = .ok (.iload_n 1, 1) := dk_27 (dk_at dksX0_told_0 3 rfl rfl)
theorem dX0_told_4 : decode cX0_told 4 = .ok (.invokevirtual 15, 3) := dk_182 0 15 (dk_at dksX0_told_0 4 rfl rfl)
theorem dX0_told_7 : decode cX0_told 7 = .ok (.i2l, 1) := dk_133 (dk_at dksX0_told_0 7 rfl rfl)
theorem dX0_told_8 : decode cX0_told 8 = .ok (.lastore, 1) := dk_80 (dk_at dksX0_told_0 8 rfl rfl)
theorem dX0_told_9 : decode cX0_told 9 = .ok (.goto 6, 3) := dk_167 0 6 (dk_at dksX0_told_0 9 rfl rfl)
theorem dX0_told_12 : decode cX0_told 12 = .ok (.astore_n 3, 1) := dk_78 (dk_at dksX0_told_0 12 rfl rfl)
theorem dX0_told_13 : decode cX0_told 13 = .ok (.iconst 1, 1) := dk_4 (dk_at dksX0_told_0 13 rfl rfl)
theorem dX0_told_14 : decode cX0_told 14 = .ok (.ireturn, 1) := dk_172 (dk_at dksX0_told_0 14 rfl rfl)
theorem dX0_told_15 : decode cX0_told 15 = .ok (.iconst 0, 1) := dk_3 (dk_at dksX0_told_0 15 rfl rfl)
theorem dX0_told_16 : decode cX0_told 16 = .ok (.ireturn, 1) := dk_172 (dk_at dksX0_told_0 16 rfl rfl)
abbrev cX0_street : ByteArray := method_5_code
def yX0_street : MethodName := ⟨RX0, "street", "(LRightTurns;II[J)I"⟩
def dkwX0_street_0 : List UInt8 := [45, 3, 42, 27, 28, 182, 0, 18, 133, 80, 167, 0, 11, 58, 4, 4, 172, 58, 4, 5, 172, 3, 172]
abbrev dktX0_street_0 : List UInt8 := dkwX0_street_0 ++ []
theorem dksX0_street_0 : cX0_street.data.toList.drop 0 = dktX0_street_0 := by decide +kernel
theorem dX0_street_0 : decode cX0_street 0 = .ok (.aload_n 3, 1) := dk_45 (dk_at dksX0_street_0 0 rfl rfl)
theorem dX0_street_1 : decode cX0_street 1 = .ok (.iconst 0, 1) := dk_3 (dk_at dksX0_street_0 1 rfl rfl)
theorem dX0_street_2 : decode cX0_street 2 = .ok (.aload_n 0, 1) := dk_42 (dk_at dksX0_street_0 2 rfl rfl)
theorem dX0_street_3 : decode cX0_street 3 = .ok (.iload_n 1, 1) := dk_27 (dk_at dksX0_street_0 3 rfl rfl)
theorem dX0_street_4 : decode cX0_street 4 = .ok (.iload_n 2, 1) := dk_28 (dk_at dksX0_street_0 4 rfl rfl)
theorem dX0_street_5 : decode cX0_street 5 = .ok (.invokevirtual 18, 3) := dk_182 0 18 (dk_at dksX0_street_0 5 rfl rfl)
theorem dX0_street_8 : decode cX0_street 8 = .ok (.i2l, 1) := dk_133 (dk_at dksX0_street_0 8 rfl rfl)
theorem dX0_street_9 : decode cX0_street 9 = .ok (.lastore, 1) := dk_80 (dk_at dksX0_street_0 9 rfl rfl)
theorem dX0_street_10 : decode cX0_street 10 = .ok (.goto 11, 3) := dk_167 0 11 (dk_at dksX0_street_0 10 rfl rfl)
theorem dX0_street_13 : decode cX0_street 13 = .ok (.astore 4, 2) := dk_58 4 (dk_at dksX0_street_0 13 rfl rfl)
theorem dX0_street_15 : decode cX0_street 15 = .ok (.iconst 1, 1) := dk_4 (dk_at dksX0_street_0 15 rfl rfl)
theorem dX0_street_16 : decode cX0_street 16 = .ok (.ireturn, 1) := dk_172 (dk_at dksX0_street_0 16 rfl rfl)
theorem dX0_street_17 : decode cX0_street 17 = .ok (.astore 4, 2) := dk_58 4 (dk_at dksX0_street_0 17 rfl rfl)
theorem dX0_street_19 : decode cX0_street 19 = .ok (.iconst 2, 1) := dk_5 (dk_at dksX0_street_0 19 rfl rfl)
theorem dX0_street_20 : decode cX0_street 20 = .ok (.ireturn, 1) := dk_172 (dk_at dksX0_street_0 20 rfl rfl)
theorem dX0_street_21 : decode cX0_street 21 = .ok (.iconst 0, 1) := dk_3 (dk_at dksX0_street_0 21 rfl rfl)
theorem dX0_street_22 : decode cX0_street 22 = .ok (.ireturn, 1) := dk_172 (dk_at dksX0_street_0 22 rfl rfl)
abbrev cX0_turn : ByteArray := method_6_code
def yX0_turn : MethodName := ⟨RX0, "turn", "(LRightTurns;II[J)I"⟩
def dkwX0_turn_0 : List UInt8 := [45, 3, 42, 27, 28, 182, 0, 24, 133, 80, 167, 0, 7, 58, 4, 4, 172, 3, 172]
abbrev dktX0_turn_0 : List UInt8 := dkwX0_turn_0 ++ []
theorem dksX0_turn_0 : cX0_turn.data.toList.drop 0 = dktX0_turn_0 := by decide +kernel
theorem dX0_turn_0 : decode cX0_turn 0 = .ok (.aload_n 3, 1) := dk_45 (dk_at dksX0_turn_0 0 rfl rfl)
theorem dX0_turn_1 : decode cX0_turn 1 = .ok (.iconst 0, 1) := dk_3 (dk_at dksX0_turn_0 1 rfl rfl)
theorem dX0_turn_2 : decode cX0_turn 2 = .ok (.aload_n 0, 1) := dk_42 (dk_at dksX0_turn_0 2 rfl rfl)
theorem dX0_turn_3 : decode cX0_turn 3 = .ok (.iload_n 1, 1) := dk_27 (dk_at dksX0_turn_0 3 rfl rfl)
theorem dX0_turn_4 : decode cX0_turn 4 = .ok (.iload_n 2, 1) := dk_28 (dk_at dksX0_turn_0 4 rfl rfl)
theorem dX0_turn_5 : decode cX0_turn 5 = .ok (.invokevirtual 24, 3) := dk_182 0 24 (dk_at dksX0_turn_0 5 rfl rfl)
theorem dX0_turn_8 : decode cX0_turn 8 = .ok (.i2l, 1) := dk_133 (dk_at dksX0_turn_0 8 rfl rfl)
theorem dX0_turn_9 : decode cX0_turn 9 = .ok (.lastore, 1) := dk_80 (dk_at dksX0_turn_0 9 rfl rfl)
theorem dX0_turn_10 : decode cX0_turn 10 = .ok (.goto 7, 3) := dk_167 0 7 (dk_at dksX0_turn_0 10 rfl rfl)
theorem dX0_turn_13 : decode cX0_turn 13 = .ok (.astore 4, 2) := dk_58 4 (dk_at dksX0_turn_0 13 rfl rfl)
theorem dX0_turn_15 : decode cX0_turn 15 = .ok (.iconst 1, 1) := dk_4 (dk_at dksX0_turn_0 15 rfl rfl)
theorem dX0_turn_16 : decode cX0_turn 16 = .ok (.ireturn, 1) := dk_172 (dk_at dksX0_turn_0 16 rfl rfl)
theorem dX0_turn_17 : decode cX0_turn 17 = .ok (.iconst 0, 1) := dk_3 (dk_at dksX0_turn_0 17 rfl rfl)
theorem dX0_turn_18 : decode cX0_turn 18 = .ok (.ireturn, 1) := dk_172 (dk_at dksX0_turn_0 18 rfl rfl)
abbrev cX0_may : ByteArray := method_7_code
def yX0_may : MethodName := ⟨RX0, "may", "(LRightTurns;III[J)I"⟩
def dkwX0_may_1 : List UInt8 := [4, 172, 58, 5, 5, 172, 3, 172]
abbrev dktX0_may_1 : List UInt8 := dkwX0_may_1 ++ []
def dkwX0_may_0 : List UInt8 := [25, 4, 3, 42, 27, 28, 29, 182, 0, 27, 153, 0, 7, 10, 167, 0, 4, 9, 80, 167, 0, 11, 58, 5]
abbrev dktX0_may_0 : List UInt8 := dkwX0_may_0 ++ dktX0_may_1
theorem dksX0_may_0 : cX0_may.data.toList.drop 0 = dktX0_may_0 := by decide +kernel
theorem dksX0_may_1 : cX0_may.data.toList.drop 24 = dktX0_may_1 := dk_seg dksX0_may_0 24 rfl rfl
theorem dX0_may_0 : decode cX0_may 0 = .ok (.aload 4, 2) := dk_25 4 (dk_at dksX0_may_0 0 rfl rfl)
theorem dX0_may_2 : decode cX0_may 2 = .ok (.iconst 0, 1) := dk_3 (dk_at dksX0_may_0 2 rfl rfl)
theorem dX0_may_3 : decode cX0_may 3 = .ok (.aload_n 0, 1) := dk_42 (dk_at dksX0_may_0 3 rfl rfl)
theorem dX0_may_4 : decode cX0_may 4 = .ok (.iload_n 1, 1) := dk_27 (dk_at dksX0_may_0 4 rfl rfl)
theorem dX0_may_5 : decode cX0_may 5 = .ok (.iload_n 2, 1) := dk_28 (dk_at dksX0_may_0 5 rfl rfl)
theorem dX0_may_6 : decode cX0_may 6 = .ok (.iload_n 3, 1) := dk_29 (dk_at dksX0_may_0 6 rfl rfl)
theorem dX0_may_7 : decode cX0_may 7 = .ok (.invokevirtual 27, 3) := dk_182 0 27 (dk_at dksX0_may_0 7 rfl rfl)
theorem dX0_may_10 : decode cX0_may 10 = .ok (.ifCond .eq 7, 3) := dk_153 0 7 (dk_at dksX0_may_0 10 rfl rfl)
theorem dX0_may_13 : decode cX0_may 13 = .ok (.lconst 1, 1) := dk_10 (dk_at dksX0_may_0 13 rfl rfl)
theorem dX0_may_14 : decode cX0_may 14 = .ok (.goto 4, 3) := dk_167 0 4 (dk_at dksX0_may_0 14 rfl rfl)
theorem dX0_may_17 : decode cX0_may 17 = .ok (.lconst 0, 1) := dk_9 (dk_at dksX0_may_0 17 rfl rfl)
theorem dX0_may_18 : decode cX0_may 18 = .ok (.lastore, 1) := dk_80 (dk_at dksX0_may_0 18 rfl rfl)
theorem dX0_may_19 : decode cX0_may 19 = .ok (.goto 11, 3) := dk_167 0 11 (dk_at dksX0_may_0 19 rfl rfl)
theorem dX0_may_22 : decode cX0_may 22 = .ok (.astore 5, 2) := dk_58 5 (dk_at dksX0_may_0 22 rfl rfl)
theorem dX0_may_24 : decode cX0_may 24 = .ok (.iconst 1, 1) := dk_4 (dk_at dksX0_may_1 0 rfl rfl)
theorem dX0_may_25 : decode cX0_may 25 = .ok (.ireturn, 1) := dk_172 (dk_at dksX0_may_1 1 rfl rfl)
theorem dX0_may_26 : decode cX0_may 26 = .ok (.astore 5, 2) := dk_58 5 (dk_at dksX0_may_1 2 rfl rfl)
theorem dX0_may_28 : decode cX0_may 28 = .ok (.iconst 2, 1) := dk_5 (dk_at dksX0_may_1 4 rfl rfl)
theorem dX0_may_29 : decode cX0_may 29 = .ok (.ireturn, 1) := dk_172 (dk_at dksX0_may_1 5 rfl rfl)
theorem dX0_may_30 : decode cX0_may 30 = .ok (.iconst 0, 1) := dk_3 (dk_at dksX0_may_1 6 rfl rfl)
theorem dX0_may_31 : decode cX0_may 31 = .ok (.ireturn, 1) := dk_172 (dk_at dksX0_may_1 7 rfl rfl)
abbrev cX0_sign : ByteArray := method_8_code
def yX0_sign : MethodName := ⟨RX0, "sign", "(LRightTurns;IIZ[J)I"⟩
def dkwX0_sign_1 : List UInt8 := [172]
abbrev dktX0_sign_1 : List UInt8 := dkwX0_sign_1 ++ []
def dkwX0_sign_0 : List UInt8 := [25, 4, 3, 42, 27, 28, 29, 182, 0, 31, 133, 80, 167, 0, 11, 58, 5, 4, 172, 58, 5, 5, 172, 3]
abbrev dktX0_sign_0 : List UInt8 := dkwX0_sign_0 ++ dktX0_sign_1
theorem dksX0_sign_0 : cX0_sign.data.toList.drop 0 = dktX0_sign_0 := by decide +kernel
theorem dksX0_sign_1 : cX0_sign.data.toList.drop 24 = dktX0_sign_1 := dk_seg dksX0_sign_0 24 rfl rfl
theorem dX0_sign_0 : decode cX0_sign 0 = .ok (.aload 4, 2) := dk_25 4 (dk_at dksX0_sign_0 0 rfl rfl)
theorem dX0_sign_2 : decode cX0_sign 2 = .ok (.iconst 0, 1) := dk_3 (dk_at dksX0_sign_0 2 rfl rfl)
theorem dX0_sign_3 : decode cX0_sign 3 = .ok (.aload_n 0, 1) := dk_42 (dk_at dksX0_sign_0 3 rfl rfl)
theorem dX0_sign_4 : decode cX0_sign 4 = .ok (.iload_n 1, 1) := dk_27 (dk_at dksX0_sign_0 4 rfl rfl)
theorem dX0_sign_5 : decode cX0_sign 5 = .ok (.iload_n 2, 1) := dk_28 (dk_at dksX0_sign_0 5 rfl rfl)
theorem dX0_sign_6 : decode cX0_sign 6 = .ok (.iload_n 3, 1) := dk_29 (dk_at dksX0_sign_0 6 rfl rfl)
theorem dX0_sign_7 : decode cX0_sign 7 = .ok (.invokevirtual 31, 3) := dk_182 0 31 (dk_at dksX0_sign_0 7 rfl rfl)
theorem dX0_sign_10 : decode cX0_sign 10 = .ok (.i2l, 1) := dk_133 (dk_at dksX0_sign_0 10 rfl rfl)
theorem dX0_sign_11 : decode cX0_sign 11 = .ok (.lastore, 1) := dk_80 (dk_at dksX0_sign_0 11 rfl rfl)
theorem dX0_sign_12 : decode cX0_sign 12 = .ok (.goto 11, 3) := dk_167 0 11 (dk_at dksX0_sign_0 12 rfl rfl)
theorem dX0_sign_15 : decode cX0_sign 15 = .ok (.astore 5, 2) := dk_58 5 (dk_at dksX0_sign_0 15 rfl rfl)
theorem dX0_sign_17 : decode cX0_sign 17 = .ok (.iconst 1, 1) := dk_4 (dk_at dksX0_sign_0 17 rfl rfl)
theorem dX0_sign_18 : decode cX0_sign 18 = .ok (.ireturn, 1) := dk_172 (dk_at dksX0_sign_0 18 rfl rfl)
theorem dX0_sign_19 : decode cX0_sign 19 = .ok (.astore 5, 2) := dk_58 5 (dk_at dksX0_sign_0 19 rfl rfl)
theorem dX0_sign_21 : decode cX0_sign 21 = .ok (.iconst 2, 1) := dk_5 (dk_at dksX0_sign_0 21 rfl rfl)
theorem dX0_sign_22 : decode cX0_sign 22 = .ok (.ireturn, 1) := dk_172 (dk_at dksX0_sign_0 22 rfl rfl)
theorem dX0_sign_23 : decode cX0_sign 23 = .ok (.iconst 0, 1) := dk_3 (dk_at dksX0_sign_0 23 rfl rfl)
theorem dX0_sign_24 : decode cX0_sign 24 = .ok (.ireturn, 1) := dk_172 (dk_at dksX0_sign_1 0 rfl rfl)
abbrev cX0_allow : ByteArray := method_9_code
def yX0_allow : MethodName := ⟨RX0, "allow", "(LRightTurns;IIZ[J)I"⟩
def dkwX0_allow_1 : List UInt8 := [172]
abbrev dktX0_allow_1 : List UInt8 := dkwX0_allow_1 ++ []
def dkwX0_allow_0 : List UInt8 := [25, 4, 3, 42, 27, 28, 29, 182, 0, 35, 133, 80, 167, 0, 11, 58, 5, 4, 172, 58, 5, 5, 172, 3]
abbrev dktX0_allow_0 : List UInt8 := dkwX0_allow_0 ++ dktX0_allow_1
theorem dksX0_allow_0 : cX0_allow.data.toList.drop 0 = dktX0_allow_0 := by decide +kernel
theorem dksX0_allow_1 : cX0_allow.data.toList.drop 24 = dktX0_allow_1 := dk_seg dksX0_allow_0 24 rfl rfl
theorem dX0_allow_0 : decode cX0_allow 0 = .ok (.aload 4, 2) := dk_25 4 (dk_at dksX0_allow_0 0 rfl rfl)
theorem dX0_allow_2 : decode cX0_allow 2 = .ok (.iconst 0, 1) := dk_3 (dk_at dksX0_allow_0 2 rfl rfl)
theorem dX0_allow_3 : decode cX0_allow 3 = .ok (.aload_n 0, 1) := dk_42 (dk_at dksX0_allow_0 3 rfl rfl)
theorem dX0_allow_4 : decode cX0_allow 4 = .ok (.iload_n 1, 1) := dk_27 (dk_at dksX0_allow_0 4 rfl rfl)
theorem dX0_allow_5 : decode cX0_allow 5 = .ok (.iload_n 2, 1) := dk_28 (dk_at dksX0_allow_0 5 rfl rfl)
theorem dX0_allow_6 : decode cX0_allow 6 = .ok (.iload_n 3, 1) := dk_29 (dk_at dksX0_allow_0 6 rfl rfl)
theorem dX0_allow_7 : decode cX0_allow 7 = .ok (.invokevirtual 35, 3) := dk_182 0 35 (dk_at dksX0_allow_0 7 rfl rfl)
theorem dX0_allow_10 : decode cX0_allow 10 = .ok (.i2l, 1) := dk_133 (dk_at dksX0_allow_0 10 rfl rfl)
theorem dX0_allow_11 : decode cX0_allow 11 = .ok (.lastore, 1) := dk_80 (dk_at dksX0_allow_0 11 rfl rfl)
theorem dX0_allow_12 : decode cX0_allow 12 = .ok (.goto 11, 3) := dk_167 0 11 (dk_at dksX0_allow_0 12 rfl rfl)
theorem dX0_allow_15 : decode cX0_allow 15 = .ok (.astore 5, 2) := dk_58 5 (dk_at dksX0_allow_0 15 rfl rfl)
theorem dX0_allow_17 : decode cX0_allow 17 = .ok (.iconst 1, 1) := dk_4 (dk_at dksX0_allow_0 17 rfl rfl)
theorem dX0_allow_18 : decode cX0_allow 18 = .ok (.ireturn, 1) := dk_172 (dk_at dksX0_allow_0 18 rfl rfl)
theorem dX0_allow_19 : decode cX0_allow 19 = .ok (.astore 5, 2) := dk_58 5 (dk_at dksX0_allow_0 19 rfl rfl)
theorem dX0_allow_21 : decode cX0_allow 21 = .ok (.iconst 2, 1) := dk_5 (dk_at dksX0_allow_0 21 rfl rfl)
theorem dX0_allow_22 : decode cX0_allow 22 = .ok (.ireturn, 1) := dk_172 (dk_at dksX0_allow_0 22 rfl rfl)
theorem dX0_allow_23 : decode cX0_allow 23 = .ok (.iconst 0, 1) := dk_3 (dk_at dksX0_allow_0 23 rfl rfl)
theorem dX0_allow_24 : decode cX0_allow 24 = .ok (.ireturn, 1) := dk_172 (dk_at dksX0_allow_1 0 rfl rfl)
abbrev cX0_back : ByteArray := method_10_code
def yX0_back : MethodName := ⟨RX0, "back", "(LRightTurns;I[J)I"⟩
def dkwX0_back_0 : List UInt8 := [44, 3, 42, 27, 182, 0, 38, 133, 80, 167, 0, 6, 78, 4, 172, 3, 172]
abbrev dktX0_back_0 : List UInt8 := dkwX0_back_0 ++ []
theorem dksX0_back_0 : cX0_back.data.toList.drop 0 = dktX0_back_0 := by decide +kernel
theorem dX0_back_0 : decode cX0_back 0 = .ok (.aload_n 2, 1) := dk_44 (dk_at dksX0_back_0 0 rfl rfl)
theorem dX0_back_1 : decode cX0_back 1 = .ok (.iconst 0, 1) := dk_3 (dk_at dksX0_back_0 1 rfl rfl)
theorem dX0_back_2 : decode cX0_back 2 = .ok (.aload_n 0, 1) := dk_42 (dk_at dksX0_back_0 2 rfl rfl)
theorem dX0_back_3 : decode cX0_back 3 = .ok (.iload_n 1, 1) := dk_27 (dk_at dksX0_back_0 3 rfl rfl)
theorem dX0_back_4 : decode cX0_back 4 = .ok (.invokevirtual 38, 3) := dk_182 0 38 (dk_at dksX0_back_0 4 rfl rfl)
theorem dX0_back_7 : decode cX0_back 7 = .ok (.i2l, 1) := dk_133 (dk_at dksX0_back_0 7 rfl rfl)
theorem dX0_back_8 : decode cX0_back 8 = .ok (.lastore, 1) := dk_80 (dk_at dksX0_back_0 8 rfl rfl)
theorem dX0_back_9 : decode cX0_back 9 = .ok (.goto 6, 3) := dk_167 0 6 (dk_at dksX0_back_0 9 rfl rfl)
theorem dX0_back_12 : decode cX0_back 12 = .ok (.astore_n 3, 1) := dk_78 (dk_at dksX0_back_0 12 rfl rfl)
theorem dX0_back_13 : decode cX0_back 13 = .ok (.iconst 1, 1) := dk_4 (dk_at dksX0_back_0 13 rfl rfl)
theorem dX0_back_14 : decode cX0_back 14 = .ok (.ireturn, 1) := dk_172 (dk_at dksX0_back_0 14 rfl rfl)
theorem dX0_back_15 : decode cX0_back 15 = .ok (.iconst 0, 1) := dk_3 (dk_at dksX0_back_0 15 rfl rfl)
theorem dX0_back_16 : decode cX0_back 16 = .ok (.ireturn, 1) := dk_172 (dk_at dksX0_back_0 16 rfl rfl)
abbrev cX0_stands : ByteArray := method_11_code
def yX0_stands : MethodName := ⟨RX0, "stands", "(LRightTurns;IIII[J)I"⟩
def dkwX0_stands_1 : List UInt8 := [58, 6, 4, 172, 58, 6, 5, 172, 3, 172]
abbrev dktX0_stands_1 : List UInt8 := dkwX0_stands_1 ++ []
def dkwX0_stands_0 : List UInt8 := [25, 5, 3, 42, 27, 28, 29, 21, 4, 182, 0, 41, 153, 0, 7, 10, 167, 0, 4, 9, 80, 167, 0, 11]
abbrev dktX0_stands_0 : List UInt8 := dkwX0_stands_0 ++ dktX0_stands_1
theorem dksX0_stands_0 : cX0_stands.data.toList.drop 0 = dktX0_stands_0 := by decide +kernel
theorem dksX0_stands_1 : cX0_stands.data.toList.drop 24 = dktX0_stands_1 := dk_seg dksX0_stands_0 24 rfl rfl
theorem dX0_stands_0 : decode cX0_stands 0 = .ok (.aload 5, 2) := dk_25 5 (dk_at dksX0_stands_0 0 rfl rfl)
theorem dX0_stands_2 : decode cX0_stands 2 = .ok (.iconst 0, 1) := dk_3 (dk_at dksX0_stands_0 2 rfl rfl)
theorem dX0_stands_3 : decode cX0_stands 3 = .ok (.aload_n 0, 1) := dk_42 (dk_at dksX0_stands_0 3 rfl rfl)
theorem dX0_stands_4 : decode cX0_stands 4 = .ok (.iload_n 1, 1) := dk_27 (dk_at dksX0_stands_0 4 rfl rfl)
theorem dX0_stands_5 : decode cX0_stands 5 = .ok (.iload_n 2, 1) := dk_28 (dk_at dksX0_stands_0 5 rfl rfl)
theorem dX0_stands_6 : decode cX0_stands 6 = .ok (.iload_n 3, 1) := dk_29 (dk_at dksX0_stands_0 6 rfl rfl)
theorem dX0_stands_7 : decode cX0_stands 7 = .ok (.iload 4, 2) := dk_21 4 (dk_at dksX0_stands_0 7 rfl rfl)
theorem dX0_stands_9 : decode cX0_stands 9 = .ok (.invokevirtual 41, 3) := dk_182 0 41 (dk_at dksX0_stands_0 9 rfl rfl)
theorem dX0_stands_12 : decode cX0_stands 12 = .ok (.ifCond .eq 7, 3) := dk_153 0 7 (dk_at dksX0_stands_0 12 rfl rfl)
theorem dX0_stands_15 : decode cX0_stands 15 = .ok (.lconst 1, 1) := dk_10 (dk_at dksX0_stands_0 15 rfl rfl)
theorem dX0_stands_16 : decode cX0_stands 16 = .ok (.goto 4, 3) := dk_167 0 4 (dk_at dksX0_stands_0 16 rfl rfl)
theorem dX0_stands_19 : decode cX0_stands 19 = .ok (.lconst 0, 1) := dk_9 (dk_at dksX0_stands_0 19 rfl rfl)
theorem dX0_stands_20 : decode cX0_stands 20 = .ok (.lastore, 1) := dk_80 (dk_at dksX0_stands_0 20 rfl rfl)
theorem dX0_stands_21 : decode cX0_stands 21 = .ok (.goto 11, 3) := dk_167 0 11 (dk_at dksX0_stands_0 21 rfl rfl)
theorem dX0_stands_24 : decode cX0_stands 24 = .ok (.astore 6, 2) := dk_58 6 (dk_at dksX0_stands_1 0 rfl rfl)
theorem dX0_stands_26 : decode cX0_stands 26 = .ok (.iconst 1, 1) := dk_4 (dk_at dksX0_stands_1 2 rfl rfl)
theorem dX0_stands_27 : decode cX0_stands 27 = .ok (.ireturn, 1) := dk_172 (dk_at dksX0_stands_1 3 rfl rfl)
theorem dX0_stands_28 : decode cX0_stands 28 = .ok (.astore 6, 2) := dk_58 6 (dk_at dksX0_stands_1 4 rfl rfl)
theorem dX0_stands_30 : decode cX0_stands 30 = .ok (.iconst 2, 1) := dk_5 (dk_at dksX0_stands_1 6 rfl rfl)
theorem dX0_stands_31 : decode cX0_stands 31 = .ok (.ireturn, 1) := dk_172 (dk_at dksX0_stands_1 7 rfl rfl)
theorem dX0_stands_32 : decode cX0_stands 32 = .ok (.iconst 0, 1) := dk_3 (dk_at dksX0_stands_1 8 rfl rfl)
theorem dX0_stands_33 : decode cX0_stands 33 = .ok (.ireturn, 1) := dk_172 (dk_at dksX0_stands_1 9 rfl rfl)
abbrev cX0_ride : ByteArray := method_12_code
def yX0_ride : MethodName := ⟨RX0, "ride", "(LRightTurns;III[J)I"⟩
def dkwX0_ride_1 : List UInt8 := [172]
abbrev dktX0_ride_1 : List UInt8 := dkwX0_ride_1 ++ []
def dkwX0_ride_0 : List UInt8 := [25, 4, 3, 42, 27, 28, 29, 182, 0, 45, 133, 80, 167, 0, 11, 58, 5, 4, 172, 58, 5, 5, 172, 3]
abbrev dktX0_ride_0 : List UInt8 := dkwX0_ride_0 ++ dktX0_ride_1
theorem dksX0_ride_0 : cX0_ride.data.toList.drop 0 = dktX0_ride_0 := by decide +kernel
theorem dksX0_ride_1 : cX0_ride.data.toList.drop 24 = dktX0_ride_1 := dk_seg dksX0_ride_0 24 rfl rfl
theorem dX0_ride_0 : decode cX0_ride 0 = .ok (.aload 4, 2) := dk_25 4 (dk_at dksX0_ride_0 0 rfl rfl)
theorem dX0_ride_2 : decode cX0_ride 2 = .ok (.iconst 0, 1) := dk_3 (dk_at dksX0_ride_0 2 rfl rfl)
theorem dX0_ride_3 : decode cX0_ride 3 = .ok (.aload_n 0, 1) := dk_42 (dk_at dksX0_ride_0 3 rfl rfl)
theorem dX0_ride_4 : decode cX0_ride 4 = .ok (.iload_n 1, 1) := dk_27 (dk_at dksX0_ride_0 4 rfl rfl)
theorem dX0_ride_5 : decode cX0_ride 5 = .ok (.iload_n 2, 1) := dk_28 (dk_at dksX0_ride_0 5 rfl rfl)
theorem dX0_ride_6 : decode cX0_ride 6 = .ok (.iload_n 3, 1) := dk_29 (dk_at dksX0_ride_0 6 rfl rfl)
theorem dX0_ride_7 : decode cX0_ride 7 = .ok (.invokevirtual 45, 3) := dk_182 0 45 (dk_at dksX0_ride_0 7 rfl rfl)
theorem dX0_ride_10 : decode cX0_ride 10 = .ok (.i2l, 1) := dk_133 (dk_at dksX0_ride_0 10 rfl rfl)
theorem dX0_ride_11 : decode cX0_ride 11 = .ok (.lastore, 1) := dk_80 (dk_at dksX0_ride_0 11 rfl rfl)
theorem dX0_ride_12 : decode cX0_ride 12 = .ok (.goto 11, 3) := dk_167 0 11 (dk_at dksX0_ride_0 12 rfl rfl)
theorem dX0_ride_15 : decode cX0_ride 15 = .ok (.astore 5, 2) := dk_58 5 (dk_at dksX0_ride_0 15 rfl rfl)
theorem dX0_ride_17 : decode cX0_ride 17 = .ok (.iconst 1, 1) := dk_4 (dk_at dksX0_ride_0 17 rfl rfl)
theorem dX0_ride_18 : decode cX0_ride 18 = .ok (.ireturn, 1) := dk_172 (dk_at dksX0_ride_0 18 rfl rfl)
theorem dX0_ride_19 : decode cX0_ride 19 = .ok (.astore 5, 2) := dk_58 5 (dk_at dksX0_ride_0 19 rfl rfl)
theorem dX0_ride_21 : decode cX0_ride 21 = .ok (.iconst 2, 1) := dk_5 (dk_at dksX0_ride_0 21 rfl rfl)
theorem dX0_ride_22 : decode cX0_ride 22 = .ok (.ireturn, 1) := dk_172 (dk_at dksX0_ride_0 22 rfl rfl)
theorem dX0_ride_23 : decode cX0_ride 23 = .ok (.iconst 0, 1) := dk_3 (dk_at dksX0_ride_0 23 rfl rfl)
theorem dX0_ride_24 : decode cX0_ride 24 = .ok (.ireturn, 1) := dk_172 (dk_at dksX0_ride_1 0 rfl rfl)
abbrev cX0_step : ByteArray := method_13_code
def yX0_step : MethodName := ⟨RX0, "step", "(LRightTurns;IIII[J)I"⟩
def dkwX0_step_1 : List UInt8 := [172, 3, 172]
abbrev dktX0_step_1 : List UInt8 := dkwX0_step_1 ++ []
def dkwX0_step_0 : List UInt8 := [25, 5, 3, 42, 27, 28, 29, 21, 4, 182, 0, 51, 133, 80, 167, 0, 11, 58, 6, 4, 172, 58, 6, 5]
abbrev dktX0_step_0 : List UInt8 := dkwX0_step_0 ++ dktX0_step_1
theorem dksX0_step_0 : cX0_step.data.toList.drop 0 = dktX0_step_0 := by decide +kernel
theorem dksX0_step_1 : cX0_step.data.toList.drop 24 = dktX0_step_1 := dk_seg dksX0_step_0 24 rfl rfl
theorem dX0_step_0 : decode cX0_step 0 = .ok (.aload 5, 2) := dk_25 5 (dk_at dksX0_step_0 0 rfl rfl)
theorem dX0_step_2 : decode cX0_step 2 = .ok (.iconst 0, 1) := dk_3 (dk_at dksX0_step_0 2 rfl rfl)
theorem dX0_step_3 : decode cX0_step 3 = .ok (.aload_n 0, 1) := dk_42 (dk_at dksX0_step_0 3 rfl rfl)
theorem dX0_step_4 : decode cX0_step 4 = .ok (.iload_n 1, 1) := dk_27 (dk_at dksX0_step_0 4 rfl rfl)
theorem dX0_step_5 : decode cX0_step 5 = .ok (.iload_n 2, 1) := dk_28 (dk_at dksX0_step_0 5 rfl rfl)
theorem dX0_step_6 : decode cX0_step 6 = .ok (.iload_n 3, 1) := dk_29 (dk_at dksX0_step_0 6 rfl rfl)
theorem dX0_step_7 : decode cX0_step 7 = .ok (.iload 4, 2) := dk_21 4 (dk_at dksX0_step_0 7 rfl rfl)
theorem dX0_step_9 : decode cX0_step 9 = .ok (.invokevirtual 51, 3) := dk_182 0 51 (dk_at dksX0_step_0 9 rfl rfl)
theorem dX0_step_12 : decode cX0_step 12 = .ok (.i2l, 1) := dk_133 (dk_at dksX0_step_0 12 rfl rfl)
theorem dX0_step_13 : decode cX0_step 13 = .ok (.lastore, 1) := dk_80 (dk_at dksX0_step_0 13 rfl rfl)
theorem dX0_step_14 : decode cX0_step 14 = .ok (.goto 11, 3) := dk_167 0 11 (dk_at dksX0_step_0 14 rfl rfl)
theorem dX0_step_17 : decode cX0_step 17 = .ok (.astore 6, 2) := dk_58 6 (dk_at dksX0_step_0 17 rfl rfl)
theorem dX0_step_19 : decode cX0_step 19 = .ok (.iconst 1, 1) := dk_4 (dk_at dksX0_step_0 19 rfl rfl)
theorem dX0_step_20 : decode cX0_step 20 = .ok (.ireturn, 1) := dk_172 (dk_at dksX0_step_0 20 rfl rfl)
theorem dX0_step_21 : decode cX0_step 21 = .ok (.astore 6, 2) := dk_58 6 (dk_at dksX0_step_0 21 rfl rfl)
theorem dX0_step_23 : decode cX0_step 23 = .ok (.iconst 2, 1) := dk_5 (dk_at dksX0_step_0 23 rfl rfl)
theorem dX0_step_24 : decode cX0_step 24 = .ok (.ireturn, 1) := dk_172 (dk_at dksX0_step_1 0 rfl rfl)
theorem dX0_step_25 : decode cX0_step 25 = .ok (.iconst 0, 1) := dk_3 (dk_at dksX0_step_1 1 rfl rfl)
theorem dX0_step_26 : decode cX0_step 26 = .ok (.ireturn, 1) := dk_172 (dk_at dksX0_step_1 2 rfl rfl)
abbrev cX0_reach : ByteArray := method_14_code
def yX0_reach : MethodName := ⟨RX0, "reach", "(LRightTurns;III[J)I"⟩
def dkwX0_reach_1 : List UInt8 := [172]
abbrev dktX0_reach_1 : List UInt8 := dkwX0_reach_1 ++ []
def dkwX0_reach_0 : List UInt8 := [25, 4, 3, 42, 27, 28, 29, 182, 0, 55, 133, 80, 167, 0, 11, 58, 5, 4, 172, 58, 5, 5, 172, 3]
abbrev dktX0_reach_0 : List UInt8 := dkwX0_reach_0 ++ dktX0_reach_1
theorem dksX0_reach_0 : cX0_reach.data.toList.drop 0 = dktX0_reach_0 := by decide +kernel
theorem dksX0_reach_1 : cX0_reach.data.toList.drop 24 = dktX0_reach_1 := dk_seg dksX0_reach_0 24 rfl rfl
theorem dX0_reach_0 : decode cX0_reach 0 = .ok (.aload 4, 2) := dk_25 4 (dk_at dksX0_reach_0 0 rfl rfl)
theorem dX0_reach_2 : decode cX0_reach 2 = .ok (.iconst 0, 1) := dk_3 (dk_at dksX0_reach_0 2 rfl rfl)
theorem dX0_reach_3 : decode cX0_reach 3 = .ok (.aload_n 0, 1) := dk_42 (dk_at dksX0_reach_0 3 rfl rfl)
theorem dX0_reach_4 : decode cX0_reach 4 = .ok (.iload_n 1, 1) := dk_27 (dk_at dksX0_reach_0 4 rfl rfl)
theorem dX0_reach_5 : decode cX0_reach 5 = .ok (.iload_n 2, 1) := dk_28 (dk_at dksX0_reach_0 5 rfl rfl)
theorem dX0_reach_6 : decode cX0_reach 6 = .ok (.iload_n 3, 1) := dk_29 (dk_at dksX0_reach_0 6 rfl rfl)
theorem dX0_reach_7 : decode cX0_reach 7 = .ok (.invokevirtual 55, 3) := dk_182 0 55 (dk_at dksX0_reach_0 7 rfl rfl)
theorem dX0_reach_10 : decode cX0_reach 10 = .ok (.i2l, 1) := dk_133 (dk_at dksX0_reach_0 10 rfl rfl)
theorem dX0_reach_11 : decode cX0_reach 11 = .ok (.lastore, 1) := dk_80 (dk_at dksX0_reach_0 11 rfl rfl)
theorem dX0_reach_12 : decode cX0_reach 12 = .ok (.goto 11, 3) := dk_167 0 11 (dk_at dksX0_reach_0 12 rfl rfl)
theorem dX0_reach_15 : decode cX0_reach 15 = .ok (.astore 5, 2) := dk_58 5 (dk_at dksX0_reach_0 15 rfl rfl)
theorem dX0_reach_17 : decode cX0_reach 17 = .ok (.iconst 1, 1) := dk_4 (dk_at dksX0_reach_0 17 rfl rfl)
theorem dX0_reach_18 : decode cX0_reach 18 = .ok (.ireturn, 1) := dk_172 (dk_at dksX0_reach_0 18 rfl rfl)
theorem dX0_reach_19 : decode cX0_reach 19 = .ok (.astore 5, 2) := dk_58 5 (dk_at dksX0_reach_0 19 rfl rfl)
theorem dX0_reach_21 : decode cX0_reach 21 = .ok (.iconst 2, 1) := dk_5 (dk_at dksX0_reach_0 21 rfl rfl)
theorem dX0_reach_22 : decode cX0_reach 22 = .ok (.ireturn, 1) := dk_172 (dk_at dksX0_reach_0 22 rfl rfl)
theorem dX0_reach_23 : decode cX0_reach 23 = .ok (.iconst 0, 1) := dk_3 (dk_at dksX0_reach_0 23 rfl rfl)
theorem dX0_reach_24 : decode cX0_reach 24 = .ok (.ireturn, 1) := dk_172 (dk_at dksX0_reach_1 0 rfl rfl)
abbrev cX0_parts : ByteArray := method_15_code
def yX0_parts : MethodName := ⟨RX0, "parts", "(LRightTurns;II[J)I"⟩
def dkwX0_parts_0 : List UInt8 := [45, 3, 42, 27, 28, 182, 0, 58, 133, 80, 167, 0, 7, 58, 4, 4, 172, 3, 172]
abbrev dktX0_parts_0 : List UInt8 := dkwX0_parts_0 ++ []
theorem dksX0_parts_0 : cX0_parts.data.toList.drop 0 = dktX0_parts_0 := by decide +kernel
theorem dX0_parts_0 : decode cX0_parts 0 = .ok (.aload_n 3, 1) := dk_45 (dk_at dksX0_parts_0 0 rfl rfl)
theorem dX0_parts_1 : decode cX0_parts 1 = .ok (.iconst 0, 1) := dk_3 (dk_at dksX0_parts_0 1 rfl rfl)
theorem dX0_parts_2 : decode cX0_parts 2 = .ok (.aload_n 0, 1) := dk_42 (dk_at dksX0_parts_0 2 rfl rfl)
theorem dX0_parts_3 : decode cX0_parts 3 = .ok (.iload_n 1, 1) := dk_27 (dk_at dksX0_parts_0 3 rfl rfl)
theorem dX0_parts_4 : decode cX0_parts 4 = .ok (.iload_n 2, 1) := dk_28 (dk_at dksX0_parts_0 4 rfl rfl)
theorem dX0_parts_5 : decode cX0_parts 5 = .ok (.invokevirtual 58, 3) := dk_182 0 58 (dk_at dksX0_parts_0 5 rfl rfl)
theorem dX0_parts_8 : decode cX0_parts 8 = .ok (.i2l, 1) := dk_133 (dk_at dksX0_parts_0 8 rfl rfl)
theorem dX0_parts_9 : decode cX0_parts 9 = .ok (.lastore, 1) := dk_80 (dk_at dksX0_parts_0 9 rfl rfl)
theorem dX0_parts_10 : decode cX0_parts 10 = .ok (.goto 7, 3) := dk_167 0 7 (dk_at dksX0_parts_0 10 rfl rfl)
theorem dX0_parts_13 : decode cX0_parts 13 = .ok (.astore 4, 2) := dk_58 4 (dk_at dksX0_parts_0 13 rfl rfl)
theorem dX0_parts_15 : decode cX0_parts 15 = .ok (.iconst 1, 1) := dk_4 (dk_at dksX0_parts_0 15 rfl rfl)
theorem dX0_parts_16 : decode cX0_parts 16 = .ok (.ireturn, 1) := dk_172 (dk_at dksX0_parts_0 16 rfl rfl)
theorem dX0_parts_17 : decode cX0_parts 17 = .ok (.iconst 0, 1) := dk_3 (dk_at dksX0_parts_0 17 rfl rfl)
theorem dX0_parts_18 : decode cX0_parts 18 = .ok (.ireturn, 1) := dk_172 (dk_at dksX0_parts_0 18 rfl rfl)
abbrev cX0_together : ByteArray := method_16_code
def yX0_together : MethodName := ⟨RX0, "together", "(LRightTurns;III[J)I"⟩
def dkwX0_together_1 : List UInt8 := [4, 172, 58, 5, 5, 172, 3, 172]
abbrev dktX0_together_1 : List UInt8 := dkwX0_together_1 ++ []
def dkwX0_together_0 : List UInt8 := [25, 4, 3, 42, 27, 28, 29, 182, 0, 61, 153, 0, 7, 10, 167, 0, 4, 9, 80, 167, 0, 11, 58, 5]
abbrev dktX0_together_0 : List UInt8 := dkwX0_together_0 ++ dktX0_together_1
theorem dksX0_together_0 : cX0_together.data.toList.drop 0 = dktX0_together_0 := by decide +kernel
theorem dksX0_together_1 : cX0_together.data.toList.drop 24 = dktX0_together_1 := dk_seg dksX0_together_0 24 rfl rfl
theorem dX0_together_0 : decode cX0_together 0 = .ok (.aload 4, 2) := dk_25 4 (dk_at dksX0_together_0 0 rfl rfl)
theorem dX0_together_2 : decode cX0_together 2 = .ok (.iconst 0, 1) := dk_3 (dk_at dksX0_together_0 2 rfl rfl)
theorem dX0_together_3 : decode cX0_together 3 = .ok (.aload_n 0, 1) := dk_42 (dk_at dksX0_together_0 3 rfl rfl)
theorem dX0_together_4 : decode cX0_together 4 = .ok (.iload_n 1, 1) := dk_27 (dk_at dksX0_together_0 4 rfl rfl)
theorem dX0_together_5 : decode cX0_together 5 = .ok (.iload_n 2, 1) := dk_28 (dk_at dksX0_together_0 5 rfl rfl)
theorem dX0_together_6 : decode cX0_together 6 = .ok (.iload_n 3, 1) := dk_29 (dk_at dksX0_together_0 6 rfl rfl)
theorem dX0_together_7 : decode cX0_together 7 = .ok (.invokevirtual 61, 3) := dk_182 0 61 (dk_at dksX0_together_0 7 rfl rfl)
theorem dX0_together_10 : decode cX0_together 10 = .ok (.ifCond .eq 7, 3) := dk_153 0 7 (dk_at dksX0_together_0 10 rfl rfl)
theorem dX0_together_13 : decode cX0_together 13 = .ok (.lconst 1, 1) := dk_10 (dk_at dksX0_together_0 13 rfl rfl)
theorem dX0_together_14 : decode cX0_together 14 = .ok (.goto 4, 3) := dk_167 0 4 (dk_at dksX0_together_0 14 rfl rfl)
theorem dX0_together_17 : decode cX0_together 17 = .ok (.lconst 0, 1) := dk_9 (dk_at dksX0_together_0 17 rfl rfl)
theorem dX0_together_18 : decode cX0_together 18 = .ok (.lastore, 1) := dk_80 (dk_at dksX0_together_0 18 rfl rfl)
theorem dX0_together_19 : decode cX0_together 19 = .ok (.goto 11, 3) := dk_167 0 11 (dk_at dksX0_together_0 19 rfl rfl)
theorem dX0_together_22 : decode cX0_together 22 = .ok (.astore 5, 2) := dk_58 5 (dk_at dksX0_together_0 22 rfl rfl)
theorem dX0_together_24 : decode cX0_together 24 = .ok (.iconst 1, 1) := dk_4 (dk_at dksX0_together_1 0 rfl rfl)
theorem dX0_together_25 : decode cX0_together 25 = .ok (.ireturn, 1) := dk_172 (dk_at dksX0_together_1 1 rfl rfl)
theorem dX0_together_26 : decode cX0_together 26 = .ok (.astore 5, 2) := dk_58 5 (dk_at dksX0_together_1 2 rfl rfl)
theorem dX0_together_28 : decode cX0_together 28 = .ok (.iconst 2, 1) := dk_5 (dk_at dksX0_together_1 4 rfl rfl)
theorem dX0_together_29 : decode cX0_together 29 = .ok (.ireturn, 1) := dk_172 (dk_at dksX0_together_1 5 rfl rfl)
theorem dX0_together_30 : decode cX0_together 30 = .ok (.iconst 0, 1) := dk_3 (dk_at dksX0_together_1 6 rfl rfl)
theorem dX0_together_31 : decode cX0_together 31 = .ok (.ireturn, 1) := dk_172 (dk_at dksX0_together_1 7 rfl rfl)
abbrev cX0_open : ByteArray := method_17_code
def yX0_open : MethodName := ⟨RX0, "open", "(LRightTurns;II[J)I"⟩
def dkwX0_open_0 : List UInt8 := [45, 3, 42, 27, 28, 182, 0, 64, 133, 80, 167, 0, 7, 58, 4, 4, 172, 3, 172]
abbrev dktX0_open_0 : List UInt8 := dkwX0_open_0 ++ []
theorem dksX0_open_0 : cX0_open.data.toList.drop 0 = dktX0_open_0 := by decide +kernel
theorem dX0_open_0 : decode cX0_open 0 = .ok (.aload_n 3, 1) := dk_45 (dk_at dksX0_open_0 0 rfl rfl)
theorem dX0_open_1 : decode cX0_open 1 = .ok (.iconst 0, 1) := dk_3 (dk_at dksX0_open_0 1 rfl rfl)
theorem dX0_open_2 : decode cX0_open 2 = .ok (.aload_n 0, 1) := dk_42 (dk_at dksX0_open_0 2 rfl rfl)
theorem dX0_open_3 : decode cX0_open 3 = .ok (.iload_n 1, 1) := dk_27 (dk_at dksX0_open_0 3 rfl rfl)
theorem dX0_open_4 : decode cX0_open 4 = .ok (.iload_n 2, 1) := dk_28 (dk_at dksX0_open_0 4 rfl rfl)
theorem dX0_open_5 : decode cX0_open 5 = .ok (.invokevirtual 64, 3) := dk_182 0 64 (dk_at dksX0_open_0 5 rfl rfl)
theorem dX0_open_8 : decode cX0_open 8 = .ok (.i2l, 1) := dk_133 (dk_at dksX0_open_0 8 rfl rfl)
theorem dX0_open_9 : decode cX0_open 9 = .ok (.lastore, 1) := dk_80 (dk_at dksX0_open_0 9 rfl rfl)
theorem dX0_open_10 : decode cX0_open 10 = .ok (.goto 7, 3) := dk_167 0 7 (dk_at dksX0_open_0 10 rfl rfl)
theorem dX0_open_13 : decode cX0_open 13 = .ok (.astore 4, 2) := dk_58 4 (dk_at dksX0_open_0 13 rfl rfl)
theorem dX0_open_15 : decode cX0_open 15 = .ok (.iconst 1, 1) := dk_4 (dk_at dksX0_open_0 15 rfl rfl)
theorem dX0_open_16 : decode cX0_open 16 = .ok (.ireturn, 1) := dk_172 (dk_at dksX0_open_0 16 rfl rfl)
theorem dX0_open_17 : decode cX0_open 17 = .ok (.iconst 0, 1) := dk_3 (dk_at dksX0_open_0 17 rfl rfl)
theorem dX0_open_18 : decode cX0_open 18 = .ok (.ireturn, 1) := dk_172 (dk_at dksX0_open_0 18 rfl rfl)
abbrev cX0_since : ByteArray := method_18_code
def yX0_since : MethodName := ⟨RX0, "since", "(LRightTurns;IIIZ[J)I"⟩
def dkwX0_since_1 : List UInt8 := [172, 3, 172]
abbrev dktX0_since_1 : List UInt8 := dkwX0_since_1 ++ []
def dkwX0_since_0 : List UInt8 := [25, 5, 3, 42, 27, 28, 29, 21, 4, 182, 0, 67, 133, 80, 167, 0, 11, 58, 6, 4, 172, 58, 6, 5]
abbrev dktX0_since_0 : List UInt8 := dkwX0_since_0 ++ dktX0_since_1
theorem dksX0_since_0 : cX0_since.data.toList.drop 0 = dktX0_since_0 := by decide +kernel
theorem dksX0_since_1 : cX0_since.data.toList.drop 24 = dktX0_since_1 := dk_seg dksX0_since_0 24 rfl rfl
theorem dX0_since_0 : decode cX0_since 0 = .ok (.aload 5, 2) := dk_25 5 (dk_at dksX0_since_0 0 rfl rfl)
theorem dX0_since_2 : decode cX0_since 2 = .ok (.iconst 0, 1) := dk_3 (dk_at dksX0_since_0 2 rfl rfl)
theorem dX0_since_3 : decode cX0_since 3 = .ok (.aload_n 0, 1) := dk_42 (dk_at dksX0_since_0 3 rfl rfl)
theorem dX0_since_4 : decode cX0_since 4 = .ok (.iload_n 1, 1) := dk_27 (dk_at dksX0_since_0 4 rfl rfl)
theorem dX0_since_5 : decode cX0_since 5 = .ok (.iload_n 2, 1) := dk_28 (dk_at dksX0_since_0 5 rfl rfl)
theorem dX0_since_6 : decode cX0_since 6 = .ok (.iload_n 3, 1) := dk_29 (dk_at dksX0_since_0 6 rfl rfl)
theorem dX0_since_7 : decode cX0_since 7 = .ok (.iload 4, 2) := dk_21 4 (dk_at dksX0_since_0 7 rfl rfl)
theorem dX0_since_9 : decode cX0_since 9 = .ok (.invokevirtual 67, 3) := dk_182 0 67 (dk_at dksX0_since_0 9 rfl rfl)
theorem dX0_since_12 : decode cX0_since 12 = .ok (.i2l, 1) := dk_133 (dk_at dksX0_since_0 12 rfl rfl)
theorem dX0_since_13 : decode cX0_since 13 = .ok (.lastore, 1) := dk_80 (dk_at dksX0_since_0 13 rfl rfl)
theorem dX0_since_14 : decode cX0_since 14 = .ok (.goto 11, 3) := dk_167 0 11 (dk_at dksX0_since_0 14 rfl rfl)
theorem dX0_since_17 : decode cX0_since 17 = .ok (.astore 6, 2) := dk_58 6 (dk_at dksX0_since_0 17 rfl rfl)
theorem dX0_since_19 : decode cX0_since 19 = .ok (.iconst 1, 1) := dk_4 (dk_at dksX0_since_0 19 rfl rfl)
theorem dX0_since_20 : decode cX0_since 20 = .ok (.ireturn, 1) := dk_172 (dk_at dksX0_since_0 20 rfl rfl)
theorem dX0_since_21 : decode cX0_since 21 = .ok (.astore 6, 2) := dk_58 6 (dk_at dksX0_since_0 21 rfl rfl)
theorem dX0_since_23 : decode cX0_since 23 = .ok (.iconst 2, 1) := dk_5 (dk_at dksX0_since_0 23 rfl rfl)
theorem dX0_since_24 : decode cX0_since 24 = .ok (.ireturn, 1) := dk_172 (dk_at dksX0_since_1 0 rfl rfl)
theorem dX0_since_25 : decode cX0_since 25 = .ok (.iconst 0, 1) := dk_3 (dk_at dksX0_since_1 1 rfl rfl)
theorem dX0_since_26 : decode cX0_since 26 = .ok (.ireturn, 1) := dk_172 (dk_at dksX0_since_1 2 rfl rfl)
abbrev cX0_candidates : ByteArray := method_19_code
def yX0_candidates : MethodName := ⟨RX0, "candidates", "(LRightTurns;I[J)I"⟩
def dkwX0_candidates_0 : List UInt8 := [44, 3, 42, 27, 182, 0, 71, 133, 80, 167, 0, 6, 78, 4, 172, 3, 172]
abbrev dktX0_candidates_0 : List UInt8 := dkwX0_candidates_0 ++ []
theorem dksX0_candidates_0 : cX0_candidates.data.toList.drop 0 = dktX0_candidates_0 := by decide +kernel
theorem dX0_candidates_0 : decode cX0_candidates 0 = .ok (.aload_n 2, 1) := dk_44 (dk_at dksX0_candidates_0 0 rfl rfl)
theorem dX0_candidates_1 : decode cX0_candidates 1 = .ok (.iconst 0, 1) := dk_3 (dk_at dksX0_candidates_0 1 rfl rfl)
theorem dX0_candidates_2 : decode cX0_candidates 2 = .ok (.aload_n 0, 1) := dk_42 (dk_at dksX0_candidates_0 2 rfl rfl)
theorem dX0_candidates_3 : decode cX0_candidates 3 = .ok (.iload_n 1, 1) := dk_27 (dk_at dksX0_candidates_0 3 rfl rfl)
theorem dX0_candidates_4 : decode cX0_candidates 4 = .ok (.invokevirtual 71, 3) := dk_182 0 71 (dk_at dksX0_candidates_0 4 rfl rfl)
theorem dX0_candidates_7 : decode cX0_candidates 7 = .ok (.i2l, 1) := dk_133 (dk_at dksX0_candidates_0 7 rfl rfl)
theorem dX0_candidates_8 : decode cX0_candidates 8 = .ok (.lastore, 1) := dk_80 (dk_at dksX0_candidates_0 8 rfl rfl)
theorem dX0_candidates_9 : decode cX0_candidates 9 = .ok (.goto 6, 3) := dk_167 0 6 (dk_at dksX0_candidates_0 9 rfl rfl)
theorem dX0_candidates_12 : decode cX0_candidates 12 = .ok (.astore_n 3, 1) := dk_78 (dk_at dksX0_candidates_0 12 rfl rfl)
theorem dX0_candidates_13 : decode cX0_candidates 13 = .ok (.iconst 1, 1) := dk_4 (dk_at dksX0_candidates_0 13 rfl rfl)
theorem dX0_candidates_14 : decode cX0_candidates 14 = .ok (.ireturn, 1) := dk_172 (dk_at dksX0_candidates_0 14 rfl rfl)
theorem dX0_candidates_15 : decode cX0_candidates 15 = .ok (.iconst 0, 1) := dk_3 (dk_at dksX0_candidates_0 15 rfl rfl)
theorem dX0_candidates_16 : decode cX0_candidates 16 = .ok (.ireturn, 1) := dk_172 (dk_at dksX0_candidates_0 16 rfl rfl)
abbrev cX0_fewest : ByteArray := method_20_code
def yX0_fewest : MethodName := ⟨RX0, "fewest", "(LRightTurns;II[J)I"⟩
def dkwX0_fewest_0 : List UInt8 := [45, 3, 42, 27, 28, 182, 0, 74, 133, 80, 167, 0, 7, 58, 4, 4, 172, 3, 172]
abbrev dktX0_fewest_0 : List UInt8 := dkwX0_fewest_0 ++ []
theorem dksX0_fewest_0 : cX0_fewest.data.toList.drop 0 = dktX0_fewest_0 := by decide +kernel
theorem dX0_fewest_0 : decode cX0_fewest 0 = .ok (.aload_n 3, 1) := dk_45 (dk_at dksX0_fewest_0 0 rfl rfl)
theorem dX0_fewest_1 : decode cX0_fewest 1 = .ok (.iconst 0, 1) := dk_3 (dk_at dksX0_fewest_0 1 rfl rfl)
theorem dX0_fewest_2 : decode cX0_fewest 2 = .ok (.aload_n 0, 1) := dk_42 (dk_at dksX0_fewest_0 2 rfl rfl)
theorem dX0_fewest_3 : decode cX0_fewest 3 = .ok (.iload_n 1, 1) := dk_27 (dk_at dksX0_fewest_0 3 rfl rfl)
theorem dX0_fewest_4 : decode cX0_fewest 4 = .ok (.iload_n 2, 1) := dk_28 (dk_at dksX0_fewest_0 4 rfl rfl)
theorem dX0_fewest_5 : decode cX0_fewest 5 = .ok (.invokevirtual 74, 3) := dk_182 0 74 (dk_at dksX0_fewest_0 5 rfl rfl)
theorem dX0_fewest_8 : decode cX0_fewest 8 = .ok (.i2l, 1) := dk_133 (dk_at dksX0_fewest_0 8 rfl rfl)
theorem dX0_fewest_9 : decode cX0_fewest 9 = .ok (.lastore, 1) := dk_80 (dk_at dksX0_fewest_0 9 rfl rfl)
theorem dX0_fewest_10 : decode cX0_fewest 10 = .ok (.goto 7, 3) := dk_167 0 7 (dk_at dksX0_fewest_0 10 rfl rfl)
theorem dX0_fewest_13 : decode cX0_fewest 13 = .ok (.astore 4, 2) := dk_58 4 (dk_at dksX0_fewest_0 13 rfl rfl)
theorem dX0_fewest_15 : decode cX0_fewest 15 = .ok (.iconst 1, 1) := dk_4 (dk_at dksX0_fewest_0 15 rfl rfl)
theorem dX0_fewest_16 : decode cX0_fewest 16 = .ok (.ireturn, 1) := dk_172 (dk_at dksX0_fewest_0 16 rfl rfl)
theorem dX0_fewest_17 : decode cX0_fewest 17 = .ok (.iconst 0, 1) := dk_3 (dk_at dksX0_fewest_0 17 rfl rfl)
theorem dX0_fewest_18 : decode cX0_fewest 18 = .ok (.ireturn, 1) := dk_172 (dk_at dksX0_fewest_0 18 rfl rfl)
abbrev cX0_cheapest : ByteArray := method_21_code
def yX0_cheapest : MethodName := ⟨RX0, "cheapest", "(LRightTurns;II[J)I"⟩
def dkwX0_cheapest_0 : List UInt8 := [45, 3, 42, 27, 28, 182, 0, 77, 133, 80, 167, 0, 7, 58, 4, 4, 172, 3, 172]
abbrev dktX0_cheapest_0 : List UInt8 := dkwX0_cheapest_0 ++ []
theorem dksX0_cheapest_0 : cX0_cheapest.data.toList.drop 0 = dktX0_cheapest_0 := by decide +kernel
theorem dX0_cheapest_0 : decode cX0_cheapest 0 = .ok (.aload_n 3, 1) := dk_45 (dk_at dksX0_cheapest_0 0 rfl rfl)
theorem dX0_cheapest_1 : decode cX0_cheapest 1 = .ok (.iconst 0, 1) := dk_3 (dk_at dksX0_cheapest_0 1 rfl rfl)
theorem dX0_cheapest_2 : decode cX0_cheapest 2 = .ok (.aload_n 0, 1) := dk_42 (dk_at dksX0_cheapest_0 2 rfl rfl)
theorem dX0_cheapest_3 : decode cX0_cheapest 3 = .ok (.iload_n 1, 1) := dk_27 (dk_at dksX0_cheapest_0 3 rfl rfl)
theorem dX0_cheapest_4 : decode cX0_cheapest 4 = .ok (.iload_n 2, 1) := dk_28 (dk_at dksX0_cheapest_0 4 rfl rfl)
theorem dX0_cheapest_5 : decode cX0_cheapest 5 = .ok (.invokevirtual 77, 3) := dk_182 0 77 (dk_at dksX0_cheapest_0 5 rfl rfl)
theorem dX0_cheapest_8 : decode cX0_cheapest 8 = .ok (.i2l, 1) := dk_133 (dk_at dksX0_cheapest_0 8 rfl rfl)
theorem dX0_cheapest_9 : decode cX0_cheapest 9 = .ok (.lastore, 1) := dk_80 (dk_at dksX0_cheapest_0 9 rfl rfl)
theorem dX0_cheapest_10 : decode cX0_cheapest 10 = .ok (.goto 7, 3) := dk_167 0 7 (dk_at dksX0_cheapest_0 10 rfl rfl)
theorem dX0_cheapest_13 : decode cX0_cheapest 13 = .ok (.astore 4, 2) := dk_58 4 (dk_at dksX0_cheapest_0 13 rfl rfl)
theorem dX0_cheapest_15 : decode cX0_cheapest 15 = .ok (.iconst 1, 1) := dk_4 (dk_at dksX0_cheapest_0 15 rfl rfl)
theorem dX0_cheapest_16 : decode cX0_cheapest 16 = .ok (.ireturn, 1) := dk_172 (dk_at dksX0_cheapest_0 16 rfl rfl)
theorem dX0_cheapest_17 : decode cX0_cheapest 17 = .ok (.iconst 0, 1) := dk_3 (dk_at dksX0_cheapest_0 17 rfl rfl)
theorem dX0_cheapest_18 : decode cX0_cheapest 18 = .ok (.ireturn, 1) := dk_172 (dk_at dksX0_cheapest_0 18 rfl rfl)
abbrev cX0_exchange : ByteArray := method_22_code
def yX0_exchange : MethodName := ⟨RX0, "exchange", "(LRightTurns;II[J)I"⟩
def dkwX0_exchange_0 : List UInt8 := [45, 3, 42, 27, 28, 182, 0, 80, 133, 80, 167, 0, 7, 58, 4, 4, 172, 3, 172]
abbrev dktX0_exchange_0 : List UInt8 := dkwX0_exchange_0 ++ []
theorem dksX0_exchange_0 : cX0_exchange.data.toList.drop 0 = dktX0_exchange_0 := by decide +kernel
theorem dX0_exchange_0 : decode cX0_exchange 0 = .ok (.aload_n 3, 1) := dk_45 (dk_at dksX0_exchange_0 0 rfl rfl)
theorem dX0_exchange_1 : decode cX0_exchange 1 = .ok (.iconst 0, 1) := dk_3 (dk_at dksX0_exchange_0 1 rfl rfl)
theorem dX0_exchange_2 : decode cX0_exchange 2 = .ok (.aload_n 0, 1) := dk_42 (dk_at dksX0_exchange_0 2 rfl rfl)
theorem dX0_exchange_3 : decode cX0_exchange 3 = .ok (.iload_n 1, 1) := dk_27 (dk_at dksX0_exchange_0 3 rfl rfl)
theorem dX0_exchange_4 : decode cX0_exchange 4 = .ok (.iload_n 2, 1) := dk_28 (dk_at dksX0_exchange_0 4 rfl rfl)
theorem dX0_exchange_5 : decode cX0_exchange 5 = .ok (.invokevirtual 80, 3) := dk_182 0 80 (dk_at dksX0_exchange_0 5 rfl rfl)
theorem dX0_exchange_8 : decode cX0_exchange 8 = .ok (.i2l, 1) := dk_133 (dk_at dksX0_exchange_0 8 rfl rfl)
theorem dX0_exchange_9 : decode cX0_exchange 9 = .ok (.lastore, 1) := dk_80 (dk_at dksX0_exchange_0 9 rfl rfl)
theorem dX0_exchange_10 : decode cX0_exchange 10 = .ok (.goto 7, 3) := dk_167 0 7 (dk_at dksX0_exchange_0 10 rfl rfl)
theorem dX0_exchange_13 : decode cX0_exchange 13 = .ok (.astore 4, 2) := dk_58 4 (dk_at dksX0_exchange_0 13 rfl rfl)
theorem dX0_exchange_15 : decode cX0_exchange 15 = .ok (.iconst 1, 1) := dk_4 (dk_at dksX0_exchange_0 15 rfl rfl)
theorem dX0_exchange_16 : decode cX0_exchange 16 = .ok (.ireturn, 1) := dk_172 (dk_at dksX0_exchange_0 16 rfl rfl)
theorem dX0_exchange_17 : decode cX0_exchange 17 = .ok (.iconst 0, 1) := dk_3 (dk_at dksX0_exchange_0 17 rfl rfl)
theorem dX0_exchange_18 : decode cX0_exchange 18 = .ok (.ireturn, 1) := dk_172 (dk_at dksX0_exchange_0 18 rfl rfl)
abbrev cX0_round : ByteArray := method_23_code
def yX0_round : MethodName := ⟨RX0, "round", "(LRightTurns;II[J)I"⟩
def dkwX0_round_0 : List UInt8 := [45, 3, 42, 27, 28, 182, 0, 83, 133, 80, 167, 0, 11, 58, 4, 4, 172, 58, 4, 5, 172, 3, 172]
abbrev dktX0_round_0 : List UInt8 := dkwX0_round_0 ++ []
theorem dksX0_round_0 : cX0_round.data.toList.drop 0 = dktX0_round_0 := by decide +kernel
theorem dX0_round_0 : decode cX0_round 0 = .ok (.aload_n 3, 1) := dk_45 (dk_at dksX0_round_0 0 rfl rfl)
theorem dX0_round_1 : decode cX0_round 1 = .ok (.iconst 0, 1) := dk_3 (dk_at dksX0_round_0 1 rfl rfl)
theorem dX0_round_2 : decode cX0_round 2 = .ok (.aload_n 0, 1) := dk_42 (dk_at dksX0_round_0 2 rfl rfl)
theorem dX0_round_3 : decode cX0_round 3 = .ok (.iload_n 1, 1) := dk_27 (dk_at dksX0_round_0 3 rfl rfl)
theorem dX0_round_4 : decode cX0_round 4 = .ok (.iload_n 2, 1) := dk_28 (dk_at dksX0_round_0 4 rfl rfl)
theorem dX0_round_5 : decode cX0_round 5 = .ok (.invokevirtual 83, 3) := dk_182 0 83 (dk_at dksX0_round_0 5 rfl rfl)
theorem dX0_round_8 : decode cX0_round 8 = .ok (.i2l, 1) := dk_133 (dk_at dksX0_round_0 8 rfl rfl)
theorem dX0_round_9 : decode cX0_round 9 = .ok (.lastore, 1) := dk_80 (dk_at dksX0_round_0 9 rfl rfl)
theorem dX0_round_10 : decode cX0_round 10 = .ok (.goto 11, 3) := dk_167 0 11 (dk_at dksX0_round_0 10 rfl rfl)
theorem dX0_round_13 : decode cX0_round 13 = .ok (.astore 4, 2) := dk_58 4 (dk_at dksX0_round_0 13 rfl rfl)
theorem dX0_round_15 : decode cX0_round 15 = .ok (.iconst 1, 1) := dk_4 (dk_at dksX0_round_0 15 rfl rfl)
theorem dX0_round_16 : decode cX0_round 16 = .ok (.ireturn, 1) := dk_172 (dk_at dksX0_round_0 16 rfl rfl)
theorem dX0_round_17 : decode cX0_round 17 = .ok (.astore 4, 2) := dk_58 4 (dk_at dksX0_round_0 17 rfl rfl)
theorem dX0_round_19 : decode cX0_round 19 = .ok (.iconst 2, 1) := dk_5 (dk_at dksX0_round_0 19 rfl rfl)
theorem dX0_round_20 : decode cX0_round 20 = .ok (.ireturn, 1) := dk_172 (dk_at dksX0_round_0 20 rfl rfl)
theorem dX0_round_21 : decode cX0_round 21 = .ok (.iconst 0, 1) := dk_3 (dk_at dksX0_round_0 21 rfl rfl)
theorem dX0_round_22 : decode cX0_round 22 = .ok (.ireturn, 1) := dk_172 (dk_at dksX0_round_0 22 rfl rfl)
abbrev cX0_bound : ByteArray := method_24_code
def yX0_bound : MethodName := ⟨RX0, "bound", "(LRightTurns;II[J)I"⟩
def dkwX0_bound_0 : List UInt8 := [45, 3, 42, 27, 28, 182, 0, 86, 133, 80, 167, 0, 11, 58, 4, 4, 172, 58, 4, 5, 172, 3, 172]
abbrev dktX0_bound_0 : List UInt8 := dkwX0_bound_0 ++ []
theorem dksX0_bound_0 : cX0_bound.data.toList.drop 0 = dktX0_bound_0 := by decide +kernel
theorem dX0_bound_0 : decode cX0_bound 0 = .ok (.aload_n 3, 1) := dk_45 (dk_at dksX0_bound_0 0 rfl rfl)
theorem dX0_bound_1 : decode cX0_bound 1 = .ok (.iconst 0, 1) := dk_3 (dk_at dksX0_bound_0 1 rfl rfl)
theorem dX0_bound_2 : decode cX0_bound 2 = .ok (.aload_n 0, 1) := dk_42 (dk_at dksX0_bound_0 2 rfl rfl)
theorem dX0_bound_3 : decode cX0_bound 3 = .ok (.iload_n 1, 1) := dk_27 (dk_at dksX0_bound_0 3 rfl rfl)
theorem dX0_bound_4 : decode cX0_bound 4 = .ok (.iload_n 2, 1) := dk_28 (dk_at dksX0_bound_0 4 rfl rfl)
theorem dX0_bound_5 : decode cX0_bound 5 = .ok (.invokevirtual 86, 3) := dk_182 0 86 (dk_at dksX0_bound_0 5 rfl rfl)
theorem dX0_bound_8 : decode cX0_bound 8 = .ok (.i2l, 1) := dk_133 (dk_at dksX0_bound_0 8 rfl rfl)
theorem dX0_bound_9 : decode cX0_bound 9 = .ok (.lastore, 1) := dk_80 (dk_at dksX0_bound_0 9 rfl rfl)
theorem dX0_bound_10 : decode cX0_bound 10 = .ok (.goto 11, 3) := dk_167 0 11 (dk_at dksX0_bound_0 10 rfl rfl)
theorem dX0_bound_13 : decode cX0_bound 13 = .ok (.astore 4, 2) := dk_58 4 (dk_at dksX0_bound_0 13 rfl rfl)
theorem dX0_bound_15 : decode cX0_bound 15 = .ok (.iconst 1, 1) := dk_4 (dk_at dksX0_bound_0 15 rfl rfl)
theorem dX0_bound_16 : decode cX0_bound 16 = .ok (.ireturn, 1) := dk_172 (dk_at dksX0_bound_0 16 rfl rfl)
theorem dX0_bound_17 : decode cX0_bound 17 = .ok (.astore 4, 2) := dk_58 4 (dk_at dksX0_bound_0 17 rfl rfl)
theorem dX0_bound_19 : decode cX0_bound 19 = .ok (.iconst 2, 1) := dk_5 (dk_at dksX0_bound_0 19 rfl rfl)
theorem dX0_bound_20 : decode cX0_bound 20 = .ok (.ireturn, 1) := dk_172 (dk_at dksX0_bound_0 20 rfl rfl)
theorem dX0_bound_21 : decode cX0_bound 21 = .ok (.iconst 0, 1) := dk_3 (dk_at dksX0_bound_0 21 rfl rfl)
theorem dX0_bound_22 : decode cX0_bound 22 = .ok (.ireturn, 1) := dk_172 (dk_at dksX0_bound_0 22 rfl rfl)
abbrev cX0_home : ByteArray := method_25_code
def yX0_home : MethodName := ⟨RX0, "home", "(LRightTurns;I[J)I"⟩
def dkwX0_home_0 : List UInt8 := [44, 3, 42, 27, 182, 0, 89, 133, 80, 167, 0, 6, 78, 4, 172, 3, 172]
abbrev dktX0_home_0 : List UInt8 := dkwX0_home_0 ++ []
theorem dksX0_home_0 : cX0_home.data.toList.drop 0 = dktX0_home_0 := by decide +kernel
theorem dX0_home_0 : decode cX0_home 0 = .ok (.aload_n 2, 1) := dk_44 (dk_at dksX0_home_0 0 rfl rfl)
theorem dX0_home_1 : decode cX0_home 1 = .ok (.iconst 0, 1) := dk_3 (dk_at dksX0_home_0 1 rfl rfl)
theorem dX0_home_2 : decode cX0_home 2 = .ok (.aload_n 0, 1) := dk_42 (dk_at dksX0_home_0 2 rfl rfl)
theorem dX0_home_3 : decode cX0_home 3 = .ok (.iload_n 1, 1) := dk_27 (dk_at dksX0_home_0 3 rfl rfl)
theorem dX0_home_4 : decode cX0_home 4 = .ok (.invokevirtual 89, 3) := dk_182 0 89 (dk_at dksX0_home_0 4 rfl rfl)
theorem dX0_home_7 : decode cX0_home 7 = .ok (.i2l, 1) := dk_133 (dk_at dksX0_home_0 7 rfl rfl)
theorem dX0_home_8 : decode cX0_home 8 = .ok (.lastore, 1) := dk_80 (dk_at dksX0_home_0 8 rfl rfl)
theorem dX0_home_9 : decode cX0_home 9 = .ok (.goto 6, 3) := dk_167 0 6 (dk_at dksX0_home_0 9 rfl rfl)
theorem dX0_home_12 : decode cX0_home 12 = .ok (.astore_n 3, 1) := dk_78 (dk_at dksX0_home_0 12 rfl rfl)
theorem dX0_home_13 : decode cX0_home 13 = .ok (.iconst 1, 1) := dk_4 (dk_at dksX0_home_0 13 rfl rfl)
theorem dX0_home_14 : decode cX0_home 14 = .ok (.ireturn, 1) := dk_172 (dk_at dksX0_home_0 14 rfl rfl)
theorem dX0_home_15 : decode cX0_home 15 = .ok (.iconst 0, 1) := dk_3 (dk_at dksX0_home_0 15 rfl rfl)
theorem dX0_home_16 : decode cX0_home 16 = .ok (.ireturn, 1) := dk_172 (dk_at dksX0_home_0 16 rfl rfl)
abbrev cX0_traffic : ByteArray := method_26_code
def yX0_traffic : MethodName := ⟨RX0, "traffic", "(LRightTurns;I[J)I"⟩
def dkwX0_traffic_0 : List UInt8 := [44, 3, 42, 27, 182, 0, 92, 133, 80, 167, 0, 6, 78, 4, 172, 3, 172]
abbrev dktX0_traffic_0 : List UInt8 := dkwX0_traffic_0 ++ []
theorem dksX0_traffic_0 : cX0_traffic.data.toList.drop 0 = dktX0_traffic_0 := by decide +kernel
theorem dX0_traffic_0 : decode cX0_traffic 0 = .ok (.aload_n 2, 1) := dk_44 (dk_at dksX0_traffic_0 0 rfl rfl)
theorem dX0_traffic_1 : decode cX0_traffic 1 = .ok (.iconst 0, 1) := dk_3 (dk_at dksX0_traffic_0 1 rfl rfl)
theorem dX0_traffic_2 : decode cX0_traffic 2 = .ok (.aload_n 0, 1) := dk_42 (dk_at dksX0_traffic_0 2 rfl rfl)
theorem dX0_traffic_3 : decode cX0_traffic 3 = .ok (.iload_n 1, 1) := dk_27 (dk_at dksX0_traffic_0 3 rfl rfl)
theorem dX0_traffic_4 : decode cX0_traffic 4 = .ok (.invokevirtual 92, 3) := dk_182 0 92 (dk_at dksX0_traffic_0 4 rfl rfl)
theorem dX0_traffic_7 : decode cX0_traffic 7 = .ok (.i2l, 1) := dk_133 (dk_at dksX0_traffic_0 7 rfl rfl)
theorem dX0_traffic_8 : decode cX0_traffic 8 = .ok (.lastore, 1) := dk_80 (dk_at dksX0_traffic_0 8 rfl rfl)
theorem dX0_traffic_9 : decode cX0_traffic 9 = .ok (.goto 6, 3) := dk_167 0 6 (dk_at dksX0_traffic_0 9 rfl rfl)
theorem dX0_traffic_12 : decode cX0_traffic 12 = .ok (.astore_n 3, 1) := dk_78 (dk_at dksX0_traffic_0 12 rfl rfl)
theorem dX0_traffic_13 : decode cX0_traffic 13 = .ok (.iconst 1, 1) := dk_4 (dk_at dksX0_traffic_0 13 rfl rfl)
theorem dX0_traffic_14 : decode cX0_traffic 14 = .ok (.ireturn, 1) := dk_172 (dk_at dksX0_traffic_0 14 rfl rfl)
theorem dX0_traffic_15 : decode cX0_traffic 15 = .ok (.iconst 0, 1) := dk_3 (dk_at dksX0_traffic_0 15 rfl rfl)
theorem dX0_traffic_16 : decode cX0_traffic 16 = .ok (.ireturn, 1) := dk_172 (dk_at dksX0_traffic_0 16 rfl rfl)
abbrev cX0_counts : ByteArray := method_27_code
def yX0_counts : MethodName := ⟨RX0, "counts", "(LRightTurns;I[J)I"⟩
def dkwX0_counts_0 : List UInt8 := [44, 3, 42, 27, 182, 0, 95, 133, 80, 167, 0, 6, 78, 4, 172, 3, 172]
abbrev dktX0_counts_0 : List UInt8 := dkwX0_counts_0 ++ []
theorem dksX0_counts_0 : cX0_counts.data.toList.drop 0 = dktX0_counts_0 := by decide +kernel
theorem dX0_counts_0 : decode cX0_counts 0 = .ok (.aload_n 2, 1) := dk_44 (dk_at dksX0_counts_0 0 rfl rfl)
theorem dX0_counts_1 : decode cX0_counts 1 = .ok (.iconst 0, 1) := dk_3 (dk_at dksX0_counts_0 1 rfl rfl)
theorem dX0_counts_2 : decode cX0_counts 2 = .ok (.aload_n 0, 1) := dk_42 (dk_at dksX0_counts_0 2 rfl rfl)
theorem dX0_counts_3 : decode cX0_counts 3 = .ok (.iload_n 1, 1) := dk_27 (dk_at dksX0_counts_0 3 rfl rfl)
theorem dX0_counts_4 : decode cX0_counts 4 = .ok (.invokevirtual 95, 3) := dk_182 0 95 (dk_at dksX0_counts_0 4 rfl rfl)
theorem dX0_counts_7 : decode cX0_counts 7 = .ok (.i2l, 1) := dk_133 (dk_at dksX0_counts_0 7 rfl rfl)
theorem dX0_counts_8 : decode cX0_counts 8 = .ok (.lastore, 1) := dk_80 (dk_at dksX0_counts_0 8 rfl rfl)
theorem dX0_counts_9 : decode cX0_counts 9 = .ok (.goto 6, 3) := dk_167 0 6 (dk_at dksX0_counts_0 9 rfl rfl)
theorem dX0_counts_12 : decode cX0_counts 12 = .ok (.astore_n 3, 1) := dk_78 (dk_at dksX0_counts_0 12 rfl rfl)
theorem dX0_counts_13 : decode cX0_counts 13 = .ok (.iconst 1, 1) := dk_4 (dk_at dksX0_counts_0 13 rfl rfl)
theorem dX0_counts_14 : decode cX0_counts 14 = .ok (.ireturn, 1) := dk_172 (dk_at dksX0_counts_0 14 rfl rfl)
theorem dX0_counts_15 : decode cX0_counts 15 = .ok (.iconst 0, 1) := dk_3 (dk_at dksX0_counts_0 15 rfl rfl)
theorem dX0_counts_16 : decode cX0_counts 16 = .ok (.ireturn, 1) := dk_172 (dk_at dksX0_counts_0 16 rfl rfl)
abbrev cX0_tell : ByteArray := method_28_code
def yX0_tell : MethodName := ⟨RX0, "tell", "(LRightTurns;I[J)I"⟩
def dkwX0_tell_0 : List UInt8 := [44, 3, 42, 27, 182, 0, 98, 133, 80, 167, 0, 6, 78, 4, 172, 3, 172]
abbrev dktX0_tell_0 : List UInt8 := dkwX0_tell_0 ++ []
theorem dksX0_tell_0 : cX0_tell.data.toList.drop 0 = dktX0_tell_0 := by decide +kernel
theorem dX0_tell_0 : decode cX0_tell 0 = .ok (.aload_n 2, 1) := dk_44 (dk_at dksX0_tell_0 0 rfl rfl)
theorem dX0_tell_1 : decode cX0_tell 1 = .ok (.iconst 0, 1) := dk_3 (dk_at dksX0_tell_0 1 rfl rfl)
theorem dX0_tell_2 : decode cX0_tell 2 = .ok (.aload_n 0, 1) := dk_42 (dk_at dksX0_tell_0 2 rfl rfl)
theorem dX0_tell_3 : decode cX0_tell 3 = .ok (.iload_n 1, 1) := dk_27 (dk_at dksX0_tell_0 3 rfl rfl)
theorem dX0_tell_4 : decode cX0_tell 4 = .ok (.invokevirtual 98, 3) := dk_182 0 98 (dk_at dksX0_tell_0 4 rfl rfl)
theorem dX0_tell_7 : decode cX0_tell 7 = .ok (.i2l, 1) := dk_133 (dk_at dksX0_tell_0 7 rfl rfl)
theorem dX0_tell_8 : decode cX0_tell 8 = .ok (.lastore, 1) := dk_80 (dk_at dksX0_tell_0 8 rfl rfl)
theorem dX0_tell_9 : decode cX0_tell 9 = .ok (.goto 6, 3) := dk_167 0 6 (dk_at dksX0_tell_0 9 rfl rfl)
theorem dX0_tell_12 : decode cX0_tell 12 = .ok (.astore_n 3, 1) := dk_78 (dk_at dksX0_tell_0 12 rfl rfl)
theorem dX0_tell_13 : decode cX0_tell 13 = .ok (.iconst 1, 1) := dk_4 (dk_at dksX0_tell_0 13 rfl rfl)
theorem dX0_tell_14 : decode cX0_tell 14 = .ok (.ireturn, 1) := dk_172 (dk_at dksX0_tell_0 14 rfl rfl)
theorem dX0_tell_15 : decode cX0_tell 15 = .ok (.iconst 0, 1) := dk_3 (dk_at dksX0_tell_0 15 rfl rfl)
theorem dX0_tell_16 : decode cX0_tell 16 = .ok (.ireturn, 1) := dk_172 (dk_at dksX0_tell_0 16 rfl rfl)
abbrev cX0_breaks : ByteArray := method_29_code
def yX0_breaks : MethodName := ⟨RX0, "breaks", "(LRightTurns;II[J)I"⟩
def dkwX0_breaks_0 : List UInt8 := [45, 3, 42, 27, 28, 182, 0, 101, 80, 167, 0, 7, 58, 4, 4, 172, 3, 172]
abbrev dktX0_breaks_0 : List UInt8 := dkwX0_breaks_0 ++ []
theorem dksX0_breaks_0 : cX0_breaks.data.toList.drop 0 = dktX0_breaks_0 := by decide +kernel
theorem dX0_breaks_0 : decode cX0_breaks 0 = .ok (.aload_n 3, 1) := dk_45 (dk_at dksX0_breaks_0 0 rfl rfl)
theorem dX0_breaks_1 : decode cX0_breaks 1 = .ok (.iconst 0, 1) := dk_3 (dk_at dksX0_breaks_0 1 rfl rfl)
theorem dX0_breaks_2 : decode cX0_breaks 2 = .ok (.aload_n 0, 1) := dk_42 (dk_at dksX0_breaks_0 2 rfl rfl)
theorem dX0_breaks_3 : decode cX0_breaks 3 = .ok (.iload_n 1, 1) := dk_27 (dk_at dksX0_breaks_0 3 rfl rfl)
theorem dX0_breaks_4 : decode cX0_breaks 4 = .ok (.iload_n 2, 1) := dk_28 (dk_at dksX0_breaks_0 4 rfl rfl)
theorem dX0_breaks_5 : decode cX0_breaks 5 = .ok (.invokevirtual 101, 3) := dk_182 0 101 (dk_at dksX0_breaks_0 5 rfl rfl)
theorem dX0_breaks_8 : decode cX0_breaks 8 = .ok (.lastore, 1) := dk_80 (dk_at dksX0_breaks_0 8 rfl rfl)
theorem dX0_breaks_9 : decode cX0_breaks 9 = .ok (.goto 7, 3) := dk_167 0 7 (dk_at dksX0_breaks_0 9 rfl rfl)
theorem dX0_breaks_12 : decode cX0_breaks 12 = .ok (.astore 4, 2) := dk_58 4 (dk_at dksX0_breaks_0 12 rfl rfl)
theorem dX0_breaks_14 : decode cX0_breaks 14 = .ok (.iconst 1, 1) := dk_4 (dk_at dksX0_breaks_0 14 rfl rfl)
theorem dX0_breaks_15 : decode cX0_breaks 15 = .ok (.ireturn, 1) := dk_172 (dk_at dksX0_breaks_0 15 rfl rfl)
theorem dX0_breaks_16 : decode cX0_breaks 16 = .ok (.iconst 0, 1) := dk_3 (dk_at dksX0_breaks_0 16 rfl rfl)
theorem dX0_breaks_17 : decode cX0_breaks 17 = .ok (.ireturn, 1) := dk_172 (dk_at dksX0_breaks_0 17 rfl rfl)
abbrev cX0_cut : ByteArray := method_30_code
def yX0_cut : MethodName := ⟨RX0, "cut", "(LRightTurns;I[J)I"⟩
def dkwX0_cut_0 : List UInt8 := [44, 3, 42, 27, 182, 0, 105, 133, 80, 167, 0, 6, 78, 4, 172, 3, 172]
abbrev dktX0_cut_0 : List UInt8 := dkwX0_cut_0 ++ []
theorem dksX0_cut_0 : cX0_cut.data.toList.drop 0 = dktX0_cut_0 := by decide +kernel
theorem dX0_cut_0 : decode cX0_cut 0 = .ok (.aload_n 2, 1) := dk_44 (dk_at dksX0_cut_0 0 rfl rfl)
theorem dX0_cut_1 : decode cX0_cut 1 = .ok (.iconst 0, 1) := dk_3 (dk_at dksX0_cut_0 1 rfl rfl)
theorem dX0_cut_2 : decode cX0_cut 2 = .ok (.aload_n 0, 1) := dk_42 (dk_at dksX0_cut_0 2 rfl rfl)
theorem dX0_cut_3 : decode cX0_cut 3 = .ok (.iload_n 1, 1) := dk_27 (dk_at dksX0_cut_0 3 rfl rfl)
theorem dX0_cut_4 : decode cX0_cut 4 = .ok (.invokevirtual 105, 3) := dk_182 0 105 (dk_at dksX0_cut_0 4 rfl rfl)
theorem dX0_cut_7 : decode cX0_cut 7 = .ok (.i2l, 1) := dk_133 (dk_at dksX0_cut_0 7 rfl rfl)
theorem dX0_cut_8 : decode cX0_cut 8 = .ok (.lastore, 1) := dk_80 (dk_at dksX0_cut_0 8 rfl rfl)
theorem dX0_cut_9 : decode cX0_cut 9 = .ok (.goto 6, 3) := dk_167 0 6 (dk_at dksX0_cut_0 9 rfl rfl)
theorem dX0_cut_12 : decode cX0_cut 12 = .ok (.astore_n 3, 1) := dk_78 (dk_at dksX0_cut_0 12 rfl rfl)
theorem dX0_cut_13 : decode cX0_cut 13 = .ok (.iconst 1, 1) := dk_4 (dk_at dksX0_cut_0 13 rfl rfl)
theorem dX0_cut_14 : decode cX0_cut 14 = .ok (.ireturn, 1) := dk_172 (dk_at dksX0_cut_0 14 rfl rfl)
theorem dX0_cut_15 : decode cX0_cut 15 = .ok (.iconst 0, 1) := dk_3 (dk_at dksX0_cut_0 15 rfl rfl)
theorem dX0_cut_16 : decode cX0_cut 16 = .ok (.ireturn, 1) := dk_172 (dk_at dksX0_cut_0 16 rfl rfl)
abbrev cX0_sure : ByteArray := method_31_code
def yX0_sure : MethodName := ⟨RX0, "sure", "(LRightTurns;II[J)I"⟩
def dkwX0_sure_0 : List UInt8 := [45, 3, 42, 27, 28, 182, 0, 108, 133, 80, 167, 0, 7, 58, 4, 4, 172, 3, 172]
abbrev dktX0_sure_0 : List UInt8 := dkwX0_sure_0 ++ []
theorem dksX0_sure_0 : cX0_sure.data.toList.drop 0 = dktX0_sure_0 := by decide +kernel
theorem dX0_sure_0 : decode cX0_sure 0 = .ok (.aload_n 3, 1) := dk_45 (dk_at dksX0_sure_0 0 rfl rfl)
theorem dX0_sure_1 : decode cX0_sure 1 = .ok (.iconst 0, 1) := dk_3 (dk_at dksX0_sure_0 1 rfl rfl)
theorem dX0_sure_2 : decode cX0_sure 2 = .ok (.aload_n 0, 1) := dk_42 (dk_at dksX0_sure_0 2 rfl rfl)
theorem dX0_sure_3 : decode cX0_sure 3 = .ok (.iload_n 1, 1) := dk_27 (dk_at dksX0_sure_0 3 rfl rfl)
theorem dX0_sure_4 : decode cX0_sure 4 = .ok (.iload_n 2, 1) := dk_28 (dk_at dksX0_sure_0 4 rfl rfl)
theorem dX0_sure_5 : decode cX0_sure 5 = .ok (.invokevirtual 108, 3) := dk_182 0 108 (dk_at dksX0_sure_0 5 rfl rfl)
theorem dX0_sure_8 : decode cX0_sure 8 = .ok (.i2l, 1) := dk_133 (dk_at dksX0_sure_0 8 rfl rfl)
theorem dX0_sure_9 : decode cX0_sure 9 = .ok (.lastore, 1) := dk_80 (dk_at dksX0_sure_0 9 rfl rfl)
theorem dX0_sure_10 : decode cX0_sure 10 = .ok (.goto 7, 3) := dk_167 0 7 (dk_at dksX0_sure_0 10 rfl rfl)
theorem dX0_sure_13 : decode cX0_sure 13 = .ok (.astore 4, 2) := dk_58 4 (dk_at dksX0_sure_0 13 rfl rfl)
theorem dX0_sure_15 : decode cX0_sure 15 = .ok (.iconst 1, 1) := dk_4 (dk_at dksX0_sure_0 15 rfl rfl)
theorem dX0_sure_16 : decode cX0_sure 16 = .ok (.ireturn, 1) := dk_172 (dk_at dksX0_sure_0 16 rfl rfl)
theorem dX0_sure_17 : decode cX0_sure 17 = .ok (.iconst 0, 1) := dk_3 (dk_at dksX0_sure_0 17 rfl rfl)
theorem dX0_sure_18 : decode cX0_sure 18 = .ok (.ireturn, 1) := dk_172 (dk_at dksX0_sure_0 18 rfl rfl)
abbrev cX0_detour : ByteArray := method_32_code
def yX0_detour : MethodName := ⟨RX0, "detour", "(LRightTurns;III[J)I"⟩
def dkwX0_detour_1 : List UInt8 := [172]
abbrev dktX0_detour_1 : List UInt8 := dkwX0_detour_1 ++ []
def dkwX0_detour_0 : List UInt8 := [25, 4, 3, 42, 27, 28, 29, 182, 0, 111, 133, 80, 167, 0, 11, 58, 5, 4, 172, 58, 5, 5, 172, 3]
abbrev dktX0_detour_0 : List UInt8 := dkwX0_detour_0 ++ dktX0_detour_1
theorem dksX0_detour_0 : cX0_detour.data.toList.drop 0 = dktX0_detour_0 := by decide +kernel
theorem dksX0_detour_1 : cX0_detour.data.toList.drop 24 = dktX0_detour_1 := dk_seg dksX0_detour_0 24 rfl rfl
theorem dX0_detour_0 : decode cX0_detour 0 = .ok (.aload 4, 2) := dk_25 4 (dk_at dksX0_detour_0 0 rfl rfl)
theorem dX0_detour_2 : decode cX0_detour 2 = .ok (.iconst 0, 1) := dk_3 (dk_at dksX0_detour_0 2 rfl rfl)
theorem dX0_detour_3 : decode cX0_detour 3 = .ok (.aload_n 0, 1) := dk_42 (dk_at dksX0_detour_0 3 rfl rfl)
theorem dX0_detour_4 : decode cX0_detour 4 = .ok (.iload_n 1, 1) := dk_27 (dk_at dksX0_detour_0 4 rfl rfl)
theorem dX0_detour_5 : decode cX0_detour 5 = .ok (.iload_n 2, 1) := dk_28 (dk_at dksX0_detour_0 5 rfl rfl)
theorem dX0_detour_6 : decode cX0_detour 6 = .ok (.iload_n 3, 1) := dk_29 (dk_at dksX0_detour_0 6 rfl rfl)
theorem dX0_detour_7 : decode cX0_detour 7 = .ok (.invokevirtual 111, 3) := dk_182 0 111 (dk_at dksX0_detour_0 7 rfl rfl)
theorem dX0_detour_10 : decode cX0_detour 10 = .ok (.i2l, 1) := dk_133 (dk_at dksX0_detour_0 10 rfl rfl)
theorem dX0_detour_11 : decode cX0_detour 11 = .ok (.lastore, 1) := dk_80 (dk_at dksX0_detour_0 11 rfl rfl)
theorem dX0_detour_12 : decode cX0_detour 12 = .ok (.goto 11, 3) := dk_167 0 11 (dk_at dksX0_detour_0 12 rfl rfl)
theorem dX0_detour_15 : decode cX0_detour 15 = .ok (.astore 5, 2) := dk_58 5 (dk_at dksX0_detour_0 15 rfl rfl)
theorem dX0_detour_17 : decode cX0_detour 17 = .ok (.iconst 1, 1) := dk_4 (dk_at dksX0_detour_0 17 rfl rfl)
theorem dX0_detour_18 : decode cX0_detour 18 = .ok (.ireturn, 1) := dk_172 (dk_at dksX0_detour_0 18 rfl rfl)
theorem dX0_detour_19 : decode cX0_detour 19 = .ok (.astore 5, 2) := dk_58 5 (dk_at dksX0_detour_0 19 rfl rfl)
theorem dX0_detour_21 : decode cX0_detour 21 = .ok (.iconst 2, 1) := dk_5 (dk_at dksX0_detour_0 21 rfl rfl)
theorem dX0_detour_22 : decode cX0_detour 22 = .ok (.ireturn, 1) := dk_172 (dk_at dksX0_detour_0 22 rfl rfl)
theorem dX0_detour_23 : decode cX0_detour 23 = .ok (.iconst 0, 1) := dk_3 (dk_at dksX0_detour_0 23 rfl rfl)
theorem dX0_detour_24 : decode cX0_detour 24 = .ok (.ireturn, 1) := dk_172 (dk_at dksX0_detour_1 0 rfl rfl)
abbrev cX0_gain : ByteArray := method_33_code
def yX0_gain : MethodName := ⟨RX0, "gain", "(LRightTurns;II[J)I"⟩
def dkwX0_gain_0 : List UInt8 := [45, 3, 42, 27, 28, 182, 0, 114, 133, 80, 167, 0, 7, 58, 4, 4, 172, 3, 172]
abbrev dktX0_gain_0 : List UInt8 := dkwX0_gain_0 ++ []
theorem dksX0_gain_0 : cX0_gain.data.toList.drop 0 = dktX0_gain_0 := by decide +kernel
theorem dX0_gain_0 : decode cX0_gain 0 = .ok (.aload_n 3, 1) := dk_45 (dk_at dksX0_gain_0 0 rfl rfl)
theorem dX0_gain_1 : decode cX0_gain 1 = .ok (.iconst 0, 1) := dk_3 (dk_at dksX0_gain_0 1 rfl rfl)
theorem dX0_gain_2 : decode cX0_gain 2 = .ok (.aload_n 0, 1) := dk_42 (dk_at dksX0_gain_0 2 rfl rfl)
theorem dX0_gain_3 : decode cX0_gain 3 = .ok (.iload_n 1, 1) := dk_27 (dk_at dksX0_gain_0 3 rfl rfl)
theorem dX0_gain_4 : decode cX0_gain 4 = .ok (.iload_n 2, 1) := dk_28 (dk_at dksX0_gain_0 4 rfl rfl)
theorem dX0_gain_5 : decode cX0_gain 5 = .ok (.invokevirtual 114, 3) := dk_182 0 114 (dk_at dksX0_gain_0 5 rfl rfl)
theorem dX0_gain_8 : decode cX0_gain 8 = .ok (.i2l, 1) := dk_133 (dk_at dksX0_gain_0 8 rfl rfl)
theorem dX0_gain_9 : decode cX0_gain 9 = .ok (.lastore, 1) := dk_80 (dk_at dksX0_gain_0 9 rfl rfl)
theorem dX0_gain_10 : decode cX0_gain 10 = .ok (.goto 7, 3) := dk_167 0 7 (dk_at dksX0_gain_0 10 rfl rfl)
theorem dX0_gain_13 : decode cX0_gain 13 = .ok (.astore 4, 2) := dk_58 4 (dk_at dksX0_gain_0 13 rfl rfl)
theorem dX0_gain_15 : decode cX0_gain 15 = .ok (.iconst 1, 1) := dk_4 (dk_at dksX0_gain_0 15 rfl rfl)
theorem dX0_gain_16 : decode cX0_gain 16 = .ok (.ireturn, 1) := dk_172 (dk_at dksX0_gain_0 16 rfl rfl)
theorem dX0_gain_17 : decode cX0_gain 17 = .ok (.iconst 0, 1) := dk_3 (dk_at dksX0_gain_0 17 rfl rfl)
theorem dX0_gain_18 : decode cX0_gain 18 = .ok (.ireturn, 1) := dk_172 (dk_at dksX0_gain_0 18 rfl rfl)
abbrev cX0_baker : ByteArray := method_34_code
def yX0_baker : MethodName := ⟨RX0, "baker", "(LRightTurns;II[J)I"⟩
def dkwX0_baker_0 : List UInt8 := [45, 3, 42, 27, 28, 182, 0, 117, 133, 80, 167, 0, 7, 58, 4, 4, 172, 3, 172]
abbrev dktX0_baker_0 : List UInt8 := dkwX0_baker_0 ++ []
theorem dksX0_baker_0 : cX0_baker.data.toList.drop 0 = dktX0_baker_0 := by decide +kernel
theorem dX0_baker_0 : decode cX0_baker 0 = .ok (.aload_n 3, 1) := dk_45 (dk_at dksX0_baker_0 0 rfl rfl)
theorem dX0_baker_1 : decode cX0_baker 1 = .ok (.iconst 0, 1) := dk_3 (dk_at dksX0_baker_0 1 rfl rfl)
theorem dX0_baker_2 : decode cX0_baker 2 = .ok (.aload_n 0, 1) := dk_42 (dk_at dksX0_baker_0 2 rfl rfl)
theorem dX0_baker_3 : decode cX0_baker 3 = .ok (.iload_n 1, 1) := dk_27 (dk_at dksX0_baker_0 3 rfl rfl)
theorem dX0_baker_4 : decode cX0_baker 4 = .ok (.iload_n 2, 1) := dk_28 (dk_at dksX0_baker_0 4 rfl rfl)
theorem dX0_baker_5 : decode cX0_baker 5 = .ok (.invokevirtual 117, 3) := dk_182 0 117 (dk_at dksX0_baker_0 5 rfl rfl)
theorem dX0_baker_8 : decode cX0_baker 8 = .ok (.i2l, 1) := dk_133 (dk_at dksX0_baker_0 8 rfl rfl)
theorem dX0_baker_9 : decode cX0_baker 9 = .ok (.lastore, 1) := dk_80 (dk_at dksX0_baker_0 9 rfl rfl)
theorem dX0_baker_10 : decode cX0_baker 10 = .ok (.goto 7, 3) := dk_167 0 7 (dk_at dksX0_baker_0 10 rfl rfl)
theorem dX0_baker_13 : decode cX0_baker 13 = .ok (.astore 4, 2) := dk_58 4 (dk_at dksX0_baker_0 13 rfl rfl)
theorem dX0_baker_15 : decode cX0_baker 15 = .ok (.iconst 1, 1) := dk_4 (dk_at dksX0_baker_0 15 rfl rfl)
theorem dX0_baker_16 : decode cX0_baker 16 = .ok (.ireturn, 1) := dk_172 (dk_at dksX0_baker_0 16 rfl rfl)
theorem dX0_baker_17 : decode cX0_baker 17 = .ok (.iconst 0, 1) := dk_3 (dk_at dksX0_baker_0 17 rfl rfl)
theorem dX0_baker_18 : decode cX0_baker 18 = .ok (.ireturn, 1) := dk_172 (dk_at dksX0_baker_0 18 rfl rfl)
theorem q115 : (Jvm.Cond.initialized "RightTurnsLaw") ∈ lw_all := lw_g (lw_at lw_m1 0 rfl) rfl
theorem q148 : (Jvm.Cond.classLink "RightTurnsLaw" (8 : Nat) "RightTurns") ∈ lw_all := lw_g (lw_at lw_m1 33 rfl) rfl
theorem q150 : (Jvm.Cond.methodLink "RightTurnsLaw" (120 : Nat) ({ cls := "RightTurns", name := "<init>", desc := "()V" } : Jvm.MethodName)) ∈ lw_all := lw_g (lw_at lw_m1 35 rfl) rfl
theorem q704 : (Jvm.Cond.methodLink "RightTurnsLaw" (124 : Nat) ({ cls := "RightTurns", name := "feed", desc := "(IIIII)I" } : Jvm.MethodName)) ∈ lw_all := lw_g (lw_at lw_m3 109 rfl) rfl
theorem q712 : (Jvm.Cond.methodLink "RightTurnsLaw" (139 : Nat) ({ cls := "RightTurns", name := "fault", desc := "()I" } : Jvm.MethodName)) ∈ lw_all := lw_g (lw_at lw_m3 117 rfl) rfl
theorem q716 : (Jvm.Cond.methodLink "RightTurnsLaw" (193 : Nat) ({ cls := "RightTurns", name := "left", desc := "(I)I" } : Jvm.MethodName)) ∈ lw_all := lw_g (lw_at lw_m3 121 rfl) rfl
theorem q720 : (Jvm.Cond.methodLink "RightTurnsLaw" (227 : Nat) ({ cls := "RightTurns", name := "forget", desc := "()I" } : Jvm.MethodName)) ∈ lw_all := lw_g (lw_at lw_m3 125 rfl) rfl
theorem q724 : (Jvm.Cond.methodLink "RightTurnsLaw" (249 : Nat) ({ cls := "RightTurns", name := "image", desc := "()I" } : Jvm.MethodName)) ∈ lw_all := lw_g (lw_at lw_m3 129 rfl) rfl
theorem q733 : (Jvm.Cond.methodLink "RightTurnsLaw" (253 : Nat) ({ cls := "RightTurns", name := "restore", desc := "()I" } : Jvm.MethodName)) ∈ lw_all := lw_g (lw_at lw_m3 138 rfl) rfl
theorem q737 : (Jvm.Cond.methodLink "RightTurnsLaw" (257 : Nat) ({ cls := "RightTurns", name := "count", desc := "(I)I" } : Jvm.MethodName)) ∈ lw_all := lw_g (lw_at lw_m3 142 rfl) rfl
theorem q741 : (Jvm.Cond.methodLink "RightTurnsLaw" (129 : Nat) ({ cls := "RightTurnsLaw", name := "town", desc := "(LRightTurns;I[J)I" } : Jvm.MethodName)) ∈ lw_all := lw_g (lw_at lw_m3 146 rfl) rfl
theorem q742 : (Jvm.Cond.static ({ cls := "RightTurnsLaw", name := "town", desc := "(LRightTurns;I[J)I" } : Jvm.MethodName)) ∈ lw_all := lw_g (lw_at lw_m3 147 rfl) rfl
theorem q743 : (Jvm.Cond.codeWith ({ cls := "RightTurnsLaw", name := "town", desc := "(LRightTurns;I[J)I" } : Jvm.MethodName) method_3_code (4 : Nat) (Option.some Jvm.ClassFile.FieldType.int) [((0 : Nat), (9 : Nat), (12 : Nat), (13 : Nat))]) ∈ lw_all := lw_g (lw_at lw_m3 148 rfl) rfl
theorem q744 : (Jvm.Cond.classLink "RightTurnsLaw" (13 : Nat) "java/lang/IllegalArgumentException") ∈ lw_all := lw_g (lw_at lw_m3 149 rfl) rfl
theorem q745 : (Jvm.Cond.methodLink "RightTurnsLaw" (7 : Nat) ({ cls := "RightTurns", name := "town", desc := "(I)I" } : Jvm.MethodName)) ∈ lw_all := lw_g (lw_at lw_m3 150 rfl) rfl
theorem q1136 : (Jvm.Cond.methodLink "RightTurnsLaw" (143 : Nat) ({ cls := "RightTurnsLaw", name := "told", desc := "(LRightTurns;I[J)I" } : Jvm.MethodName)) ∈ lw_all := lw_g (lw_at lw_m5 61 rfl) rfl
theorem q1137 : (Jvm.Cond.static ({ cls := "RightTurnsLaw", name := "told", desc := "(LRightTurns;I[J)I" } : Jvm.MethodName)) ∈ lw_all := lw_g (lw_at lw_m5 62 rfl) rfl
theorem q1138 : (Jvm.Cond.codeWith ({ cls := "RightTurnsLaw", name := "told", desc := "(LRightTurns;I[J)I" } : Jvm.MethodName) method_4_code (4 : Nat) (Option.some Jvm.ClassFile.FieldType.int) [((0 : Nat), (9 : Nat), (12 : Nat), (13 : Nat))]) ∈ lw_all := lw_g (lw_at lw_m5 63 rfl) rfl
theorem q1139 : (Jvm.Cond.methodLink "RightTurnsLaw" (15 : Nat) ({ cls := "RightTurns", name := "told", desc := "(I)I" } : Jvm.MethodName)) ∈ lw_all := lw_g (lw_at lw_m5 64 rfl) rfl
theorem q1144 : (Jvm.Cond.methodLink "RightTurnsLaw" (146 : Nat) ({ cls := "RightTurnsLaw", name := "street", desc := "(LRightTurns;II[J)I" } : Jvm.MethodName)) ∈ lw_all := lw_g (lw_at lw_m5 69 rfl) rfl
theorem q1145 : (Jvm.Cond.static ({ cls := "RightTurnsLaw", name := "street", desc := "(LRightTurns;II[J)I" } : Jvm.MethodName)) ∈ lw_all := lw_g (lw_at lw_m5 70 rfl) rfl
theorem q1146 : (Jvm.Cond.codeWith ({ cls := "RightTurnsLaw", name := "street", desc := "(LRightTurns;II[J)I" } : Jvm.MethodName) method_5_code (5 : Nat) (Option.some Jvm.ClassFile.FieldType.int) [((0 : Nat), (10 : Nat), (13 : Nat), (22 : Nat)), ((0 : Nat), (10 : Nat), (17 : Nat), (13 : Nat))]) ∈ lw_all := lw_g (lw_at lw_m5 71 rfl) rfl
theorem q1147 : (Jvm.Cond.classLink "RightTurnsLaw" (22 : Nat) "java/util/NoSuchElementException") ∈ lw_all := lw_g (lw_at lw_m5 72 rfl) rfl
theorem q1148 : (Jvm.Cond.methodLink "RightTurnsLaw" (18 : Nat) ({ cls := "RightTurns", name := "street", desc := "(II)I" } : Jvm.MethodName)) ∈ lw_all := lw_g (lw_at lw_m5 73 rfl) rfl
theorem q1173 : (Jvm.Cond.methodLink "RightTurnsLaw" (150 : Nat) ({ cls := "RightTurnsLaw", name := "turn", desc := "(LRightTurns;II[J)I" } : Jvm.MethodName)) ∈ lw_all := lw_g (lw_at lw_m5 98 rfl) rfl
theorem q1174 : (Jvm.Cond.static ({ cls := "RightTurnsLaw", name := "turn", desc := "(LRightTurns;II[J)I" } : Jvm.MethodName)) ∈ lw_all := lw_g (lw_at lw_m5 99 rfl) rfl
theorem q1175 : (Jvm.Cond.codeWith ({ cls := "RightTurnsLaw", name := "turn", desc := "(LRightTurns;II[J)I" } : Jvm.MethodName) method_6_code (5 : Nat) (Option.some Jvm.ClassFile.FieldType.int) [((0 : Nat), (10 : Nat), (13 : Nat), (22 : Nat))]) ∈ lw_all := lw_g (lw_at lw_m5 100 rfl) rfl
theorem q1176 : (Jvm.Cond.methodLink "RightTurnsLaw" (24 : Nat) ({ cls := "RightTurns", name := "turn", desc := "(II)I" } : Jvm.MethodName)) ∈ lw_all := lw_g (lw_at lw_m5 101 rfl) rfl
theorem q1186 : (Jvm.Cond.methodLink "RightTurnsLaw" (153 : Nat) ({ cls := "RightTurnsLaw", name := "may", desc := "(LRightTurns;III[J)I" } : Jvm.MethodName)) ∈ lw_all := lw_g (lw_at lw_m5 111 rfl) rfl
theorem q1187 : (Jvm.Cond.static ({ cls := "RightTurnsLaw", name := "may", desc := "(LRightTurns;III[J)I" } : Jvm.MethodName)) ∈ lw_all := lw_g (lw_at lw_m5 112 rfl) rfl
theorem q1188 : (Jvm.Cond.codeWith ({ cls := "RightTurnsLaw", name := "may", desc := "(LRightTurns;III[J)I" } : Jvm.MethodName) method_7_code (6 : Nat) (Option.some Jvm.ClassFile.FieldType.int) [((0 : Nat), (19 : Nat), (22 : Nat), (22 : Nat)), ((0 : Nat), (19 : Nat), (26 : Nat), (13 : Nat))]) ∈ lw_all := lw_g (lw_at lw_m5 113 rfl) rfl
theorem q1189 : (Jvm.Cond.methodLink "RightTurnsLaw" (27 : Nat) ({ cls := "RightTurns", name := "may", desc := "(III)Z" } : Jvm.MethodName)) ∈ lw_all := lw_g (lw_at lw_m5 114 rfl) rfl
theorem q1209 : (Jvm.Cond.methodLink "RightTurnsLaw" (157 : Nat) ({ cls := "RightTurnsLaw", name := "sign", desc := "(LRightTurns;IIZ[J)I" } : Jvm.MethodName)) ∈ lw_all := lw_g (lw_at lw_m5 134 rfl) rfl
theorem q1210 : (Jvm.Cond.static ({ cls := "RightTurnsLaw", name := "sign", desc := "(LRightTurns;IIZ[J)I" } : Jvm.MethodName)) ∈ lw_all := lw_g (lw_at lw_m5 135 rfl) rfl
theorem q1211 : (Jvm.Cond.codeWith ({ cls := "RightTurnsLaw", name := "sign", desc := "(LRightTurns;IIZ[J)I" } : Jvm.MethodName) method_8_code (6 : Nat) (Option.some Jvm.ClassFile.FieldType.int) [((0 : Nat), (12 : Nat), (15 : Nat), (22 : Nat)), ((0 : Nat), (12 : Nat), (19 : Nat), (13 : Nat))]) ∈ lw_all := lw_g (lw_at lw_m5 136 rfl) rfl
theorem q1212 : (Jvm.Cond.methodLink "RightTurnsLaw" (31 : Nat) ({ cls := "RightTurns", name := "sign", desc := "(IIZ)I" } : Jvm.MethodName)) ∈ lw_all := lw_g (lw_at lw_m5 137 rfl) rfl
theorem q1225 : (Jvm.Cond.methodLink "RightTurnsLaw" (161 : Nat) ({ cls := "RightTurnsLaw", name := "allow", desc := "(LRightTurns;IIZ[J)I" } : Jvm.MethodName)) ∈ lw_all := lw_g (lw_at lw_m5 150 rfl) rfl
theorem q1226 : (Jvm.Cond.static ({ cls := "RightTurnsLaw", name := "allow", desc := "(LRightTurns;IIZ[J)I" } : Jvm.MethodName)) ∈ lw_all := lw_g (lw_at lw_m5 151 rfl) rfl
theorem q1227 : (Jvm.Cond.codeWith ({ cls := "RightTurnsLaw", name := "allow", desc := "(LRightTurns;IIZ[J)I" } : Jvm.MethodName) method_9_code (6 : Nat) (Option.some Jvm.ClassFile.FieldType.int) [((0 : Nat), (12 : Nat), (15 : Nat), (22 : Nat)), ((0 : Nat), (12 : Nat), (19 : Nat), (13 : Nat))]) ∈ lw_all := lw_g (lw_at lw_m5 152 rfl) rfl
theorem q1228 : (Jvm.Cond.methodLink "RightTurnsLaw" (35 : Nat) ({ cls := "RightTurns", name := "allow", desc := "(IIZ)I" } : Jvm.MethodName)) ∈ lw_all := lw_g (lw_at lw_m5 153 rfl) rfl
theorem q1232 : (Jvm.Cond.methodLink "RightTurnsLaw" (164 : Nat) ({ cls := "RightTurnsLaw", name := "back", desc := "(LRightTurns;I[J)I" } : Jvm.MethodName)) ∈ lw_all := lw_g (lw_at lw_m5 157 rfl) rfl
theorem q1233 : (Jvm.Cond.static ({ cls := "RightTurnsLaw", name := "back", desc := "(LRightTurns;I[J)I" } : Jvm.MethodName)) ∈ lw_all := lw_g (lw_at lw_m5 158 rfl) rfl
theorem q1234 : (Jvm.Cond.codeWith ({ cls := "RightTurnsLaw", name := "back", desc := "(LRightTurns;I[J)I" } : Jvm.MethodName) method_10_code (4 : Nat) (Option.some Jvm.ClassFile.FieldType.int) [((0 : Nat), (9 : Nat), (12 : Nat), (13 : Nat))]) ∈ lw_all := lw_g (lw_at lw_m5 159 rfl) rfl
theorem q1235 : (Jvm.Cond.methodLink "RightTurnsLaw" (38 : Nat) ({ cls := "RightTurns", name := "back", desc := "(I)I" } : Jvm.MethodName)) ∈ lw_all := lw_g (lw_at lw_m5 160 rfl) rfl
theorem q1239 : (Jvm.Cond.methodLink "RightTurnsLaw" (167 : Nat) ({ cls := "RightTurnsLaw", name := "stands", desc := "(LRightTurns;IIII[J)I" } : Jvm.MethodName)) ∈ lw_all := lw_g (lw_at lw_m5 164 rfl) rfl
theorem q1240 : (Jvm.Cond.static ({ cls := "RightTurnsLaw", name := "stands", desc := "(LRightTurns;IIII[J)I" } : Jvm.MethodName)) ∈ lw_all := lw_g (lw_at lw_m5 165 rfl) rfl
theorem q1241 : (Jvm.Cond.codeWith ({ cls := "RightTurnsLaw", name := "stands", desc := "(LRightTurns;IIII[J)I" } : Jvm.MethodName) method_11_code (7 : Nat) (Option.some Jvm.ClassFile.FieldType.int) [((0 : Nat), (21 : Nat), (24 : Nat), (22 : Nat)), ((0 : Nat), (21 : Nat), (28 : Nat), (13 : Nat))]) ∈ lw_all := lw_g (lw_at lw_m5 166 rfl) rfl
theorem q1242 : (Jvm.Cond.methodLink "RightTurnsLaw" (41 : Nat) ({ cls := "RightTurns", name := "stands", desc := "(IIII)Z" } : Jvm.MethodName)) ∈ lw_all := lw_g (lw_at lw_m5 167 rfl) rfl
theorem q1246 : (Jvm.Cond.methodLink "RightTurnsLaw" (171 : Nat) ({ cls := "RightTurnsLaw", name := "ride", desc := "(LRightTurns;III[J)I" } : Jvm.MethodName)) ∈ lw_all := lw_g (lw_at lw_m5 171 rfl) rfl
theorem q1247 : (Jvm.Cond.static ({ cls := "RightTurnsLaw", name := "ride", desc := "(LRightTurns;III[J)I" } : Jvm.MethodName)) ∈ lw_all := lw_g (lw_at lw_m5 172 rfl) rfl
theorem q1248 : (Jvm.Cond.codeWith ({ cls := "RightTurnsLaw", name := "ride", desc := "(LRightTurns;III[J)I" } : Jvm.MethodName) method_12_code (6 : Nat) (Option.some Jvm.ClassFile.FieldType.int) [((0 : Nat), (12 : Nat), (15 : Nat), (49 : Nat)), ((0 : Nat), (12 : Nat), (19 : Nat), (13 : Nat))]) ∈ lw_all := lw_g (lw_at lw_m5 173 rfl) rfl
theorem q1249 : (Jvm.Cond.classLink "RightTurnsLaw" (49 : Nat) "java/lang/IndexOutOfBoundsException") ∈ lw_all := lw_g (lw_at lw_m5 174 rfl) rfl
theorem q1268 : (Jvm.Cond.methodLink "RightTurnsLaw" (45 : Nat) ({ cls := "RightTurns", name := "ride", desc := "(III)I" } : Jvm.MethodName)) ∈ lw_all := lw_g (lw_at lw_m5 193 rfl) rfl
theorem q1312 : (Jvm.Cond.methodLink "RightTurnsLaw" (174 : Nat) ({ cls := "RightTurnsLaw", name := "step", desc := "(LRightTurns;IIII[J)I" } : Jvm.MethodName)) ∈ lw_all := lw_g (lw_at lw_m5 237 rfl) rfl
theorem q1313 : (Jvm.Cond.static ({ cls := "RightTurnsLaw", name := "step", desc := "(LRightTurns;IIII[J)I" } : Jvm.MethodName)) ∈ lw_all := lw_g (lw_at lw_m5 238 rfl) rfl
theorem q1314 : (Jvm.Cond.codeWith ({ cls := "RightTurnsLaw", name := "step", desc := "(LRightTurns;IIII[J)I" } : Jvm.MethodName) method_13_code (7 : Nat) (Option.some Jvm.ClassFile.FieldType.int) [((0 : Nat), (14 : Nat), (17 : Nat), (49 : Nat)), ((0 : Nat), (14 : Nat), (21 : Nat), (13 : Nat))]) ∈ lw_all := lw_g (lw_at lw_m5 239 rfl) rfl
theorem q1315 : (Jvm.Cond.methodLink "RightTurnsLaw" (51 : Nat) ({ cls := "RightTurns", name := "step", desc := "(IIII)I" } : Jvm.MethodName)) ∈ lw_all := lw_g (lw_at lw_m6 0 rfl) rfl
theorem q1327 : (Jvm.Cond.methodLink "RightTurnsLaw" (177 : Nat) ({ cls := "RightTurnsLaw", name := "reach", desc := "(LRightTurns;III[J)I" } : Jvm.MethodName)) ∈ lw_all := lw_g (lw_at lw_m6 12 rfl) rfl
theorem q1328 : (Jvm.Cond.static ({ cls := "RightTurnsLaw", name := "reach", desc := "(LRightTurns;III[J)I" } : Jvm.MethodName)) ∈ lw_all := lw_g (lw_at lw_m6 13 rfl) rfl
theorem q1329 : (Jvm.Cond.codeWith ({ cls := "RightTurnsLaw", name := "reach", desc := "(LRightTurns;III[J)I" } : Jvm.MethodName) method_14_code (6 : Nat) (Option.some Jvm.ClassFile.FieldType.int) [((0 : Nat), (12 : Nat), (15 : Nat), (49 : Nat)), ((0 : Nat), (12 : Nat), (19 : Nat), (13 : Nat))]) ∈ lw_all := lw_g (lw_at lw_m6 14 rfl) rfl
theorem q1330 : (Jvm.Cond.methodLink "RightTurnsLaw" (55 : Nat) ({ cls := "RightTurns", name := "reach", desc := "(III)I" } : Jvm.MethodName)) ∈ lw_all := lw_g (lw_at lw_m6 15 rfl) rfl
theorem q1346 : (Jvm.Cond.methodLink "RightTurnsLaw" (180 : Nat) ({ cls := "RightTurnsLaw", name := "parts", desc := "(LRightTurns;II[J)I" } : Jvm.MethodName)) ∈ lw_all := lw_g (lw_at lw_m6 31 rfl) rfl
theorem q1347 : (Jvm.Cond.static ({ cls := "RightTurnsLaw", name := "parts", desc := "(LRightTurns;II[J)I" } : Jvm.MethodName)) ∈ lw_all := lw_g (lw_at lw_m6 32 rfl) rfl
theorem q1348 : (Jvm.Cond.codeWith ({ cls := "RightTurnsLaw", name := "parts", desc := "(LRightTurns;II[J)I" } : Jvm.MethodName) method_15_code (5 : Nat) (Option.some Jvm.ClassFile.FieldType.int) [((0 : Nat), (10 : Nat), (13 : Nat), (13 : Nat))]) ∈ lw_all := lw_g (lw_at lw_m6 33 rfl) rfl
theorem q1349 : (Jvm.Cond.methodLink "RightTurnsLaw" (58 : Nat) ({ cls := "RightTurns", name := "parts", desc := "(II)I" } : Jvm.MethodName)) ∈ lw_all := lw_g (lw_at lw_m6 34 rfl) rfl
theorem q1362 : (Jvm.Cond.methodLink "RightTurnsLaw" (183 : Nat) ({ cls := "RightTurnsLaw", name := "together", desc := "(LRightTurns;III[J)I" } : Jvm.MethodName)) ∈ lw_all := lw_g (lw_at lw_m6 47 rfl) rfl
theorem q1363 : (Jvm.Cond.static ({ cls := "RightTurnsLaw", name := "together", desc := "(LRightTurns;III[J)I" } : Jvm.MethodName)) ∈ lw_all := lw_g (lw_at lw_m6 48 rfl) rfl
theorem q1364 : (Jvm.Cond.codeWith ({ cls := "RightTurnsLaw", name := "together", desc := "(LRightTurns;III[J)I" } : Jvm.MethodName) method_16_code (6 : Nat) (Option.some Jvm.ClassFile.FieldType.int) [((0 : Nat), (19 : Nat), (22 : Nat), (22 : Nat)), ((0 : Nat), (19 : Nat), (26 : Nat), (13 : Nat))]) ∈ lw_all := lw_g (lw_at lw_m6 49 rfl) rfl
theorem q1365 : (Jvm.Cond.methodLink "RightTurnsLaw" (61 : Nat) ({ cls := "RightTurns", name := "together", desc := "(III)Z" } : Jvm.MethodName)) ∈ lw_all := lw_g (lw_at lw_m6 50 rfl) rfl
theorem q1369 : (Jvm.Cond.methodLink "RightTurnsLaw" (186 : Nat) ({ cls := "RightTurnsLaw", name := "open", desc := "(LRightTurns;II[J)I" } : Jvm.MethodName)) ∈ lw_all := lw_g (lw_at lw_m6 54 rfl) rfl
theorem q1370 : (Jvm.Cond.static ({ cls := "RightTurnsLaw", name := "open", desc := "(LRightTurns;II[J)I" } : Jvm.MethodName)) ∈ lw_all := lw_g (lw_at lw_m6 55 rfl) rfl
theorem q1371 : (Jvm.Cond.codeWith ({ cls := "RightTurnsLaw", name := "open", desc := "(LRightTurns;II[J)I" } : Jvm.MethodName) method_17_code (5 : Nat) (Option.some Jvm.ClassFile.FieldType.int) [((0 : Nat), (10 : Nat), (13 : Nat), (13 : Nat))]) ∈ lw_all := lw_g (lw_at lw_m6 56 rfl) rfl
theorem q1372 : (Jvm.Cond.methodLink "RightTurnsLaw" (64 : Nat) ({ cls := "RightTurns", name := "open", desc := "(II)I" } : Jvm.MethodName)) ∈ lw_all := lw_g (lw_at lw_m6 57 rfl) rfl
theorem q1384 : (Jvm.Cond.methodLink "RightTurnsLaw" (189 : Nat) ({ cls := "RightTurnsLaw", name := "since", desc := "(LRightTurns;IIIZ[J)I" } : Jvm.MethodName)) ∈ lw_all := lw_g (lw_at lw_m6 69 rfl) rfl
theorem q1385 : (Jvm.Cond.static ({ cls := "RightTurnsLaw", name := "since", desc := "(LRightTurns;IIIZ[J)I" } : Jvm.MethodName)) ∈ lw_all := lw_g (lw_at lw_m6 70 rfl) rfl
theorem q1386 : (Jvm.Cond.codeWith ({ cls := "RightTurnsLaw", name := "since", desc := "(LRightTurns;IIIZ[J)I" } : Jvm.MethodName) method_18_code (7 : Nat) (Option.some Jvm.ClassFile.FieldType.int) [((0 : Nat), (14 : Nat), (17 : Nat), (49 : Nat)), ((0 : Nat), (14 : Nat), (21 : Nat), (13 : Nat))]) ∈ lw_all := lw_g (lw_at lw_m6 71 rfl) rfl
theorem q1387 : (Jvm.Cond.methodLink "RightTurnsLaw" (67 : Nat) ({ cls := "RightTurns", name := "since", desc := "(IIIZ)I" } : Jvm.MethodName)) ∈ lw_all := lw_g (lw_at lw_m6 72 rfl) rfl
theorem q1391 : (Jvm.Cond.methodLink "RightTurnsLaw" (197 : Nat) ({ cls := "RightTurnsLaw", name := "candidates", desc := "(LRightTurns;I[J)I" } : Jvm.MethodName)) ∈ lw_all := lw_g (lw_at lw_m6 76 rfl) rfl
theorem q1392 : (Jvm.Cond.static ({ cls := "RightTurnsLaw", name := "candidates", desc := "(LRightTurns;I[J)I" } : Jvm.MethodName)) ∈ lw_all := lw_g (lw_at lw_m6 77 rfl) rfl
theorem q1393 : (Jvm.Cond.codeWith ({ cls := "RightTurnsLaw", name := "candidates", desc := "(LRightTurns;I[J)I" } : Jvm.MethodName) method_19_code (4 : Nat) (Option.some Jvm.ClassFile.FieldType.int) [((0 : Nat), (9 : Nat), (12 : Nat), (13 : Nat))]) ∈ lw_all := lw_g (lw_at lw_m6 78 rfl) rfl
theorem q1394 : (Jvm.Cond.methodLink "RightTurnsLaw" (71 : Nat) ({ cls := "RightTurns", name := "candidates", desc := "(I)I" } : Jvm.MethodName)) ∈ lw_all := lw_g (lw_at lw_m6 79 rfl) rfl
theorem q1402 : (Jvm.Cond.methodLink "RightTurnsLaw" (200 : Nat) ({ cls := "RightTurnsLaw", name := "fewest", desc := "(LRightTurns;II[J)I" } : Jvm.MethodName)) ∈ lw_all := lw_g (lw_at lw_m6 87 rfl) rfl
theorem q1403 : (Jvm.Cond.static ({ cls := "RightTurnsLaw", name := "fewest", desc := "(LRightTurns;II[J)I" } : Jvm.MethodName)) ∈ lw_all := lw_g (lw_at lw_m6 88 rfl) rfl
theorem q1404 : (Jvm.Cond.codeWith ({ cls := "RightTurnsLaw", name := "fewest", desc := "(LRightTurns;II[J)I" } : Jvm.MethodName) method_20_code (5 : Nat) (Option.some Jvm.ClassFile.FieldType.int) [((0 : Nat), (10 : Nat), (13 : Nat), (13 : Nat))]) ∈ lw_all := lw_g (lw_at lw_m6 89 rfl) rfl
theorem q1405 : (Jvm.Cond.methodLink "RightTurnsLaw" (74 : Nat) ({ cls := "RightTurns", name := "fewest", desc := "(II)I" } : Jvm.MethodName)) ∈ lw_all := lw_g (lw_at lw_m6 90 rfl) rfl
theorem q1421 : (Jvm.Cond.methodLink "RightTurnsLaw" (203 : Nat) ({ cls := "RightTurnsLaw", name := "cheapest", desc := "(LRightTurns;II[J)I" } : Jvm.MethodName)) ∈ lw_all := lw_g (lw_at lw_m6 106 rfl) rfl
theorem q1422 : (Jvm.Cond.static ({ cls := "RightTurnsLaw", name := "cheapest", desc := "(LRightTurns;II[J)I" } : Jvm.MethodName)) ∈ lw_all := lw_g (lw_at lw_m6 107 rfl) rfl
theorem q1423 : (Jvm.Cond.codeWith ({ cls := "RightTurnsLaw", name := "cheapest", desc := "(LRightTurns;II[J)I" } : Jvm.MethodName) method_21_code (5 : Nat) (Option.some Jvm.ClassFile.FieldType.int) [((0 : Nat), (10 : Nat), (13 : Nat), (13 : Nat))]) ∈ lw_all := lw_g (lw_at lw_m6 108 rfl) rfl
theorem q1424 : (Jvm.Cond.methodLink "RightTurnsLaw" (77 : Nat) ({ cls := "RightTurns", name := "cheapest", desc := "(II)I" } : Jvm.MethodName)) ∈ lw_all := lw_g (lw_at lw_m6 109 rfl) rfl
theorem q1428 : (Jvm.Cond.methodLink "RightTurnsLaw" (206 : Nat) ({ cls := "RightTurnsLaw", name := "exchange", desc := "(LRightTurns;II[J)I" } : Jvm.MethodName)) ∈ lw_all := lw_g (lw_at lw_m6 113 rfl) rfl
theorem q1429 : (Jvm.Cond.static ({ cls := "RightTurnsLaw", name := "exchange", desc := "(LRightTurns;II[J)I" } : Jvm.MethodName)) ∈ lw_all := lw_g (lw_at lw_m6 114 rfl) rfl
theorem q1430 : (Jvm.Cond.codeWith ({ cls := "RightTurnsLaw", name := "exchange", desc := "(LRightTurns;II[J)I" } : Jvm.MethodName) method_22_code (5 : Nat) (Option.some Jvm.ClassFile.FieldType.int) [((0 : Nat), (10 : Nat), (13 : Nat), (13 : Nat))]) ∈ lw_all := lw_g (lw_at lw_m6 115 rfl) rfl
theorem q1431 : (Jvm.Cond.methodLink "RightTurnsLaw" (80 : Nat) ({ cls := "RightTurns", name := "exchange", desc := "(II)I" } : Jvm.MethodName)) ∈ lw_all := lw_g (lw_at lw_m6 116 rfl) rfl
theorem q1435 : (Jvm.Cond.methodLink "RightTurnsLaw" (209 : Nat) ({ cls := "RightTurnsLaw", name := "round", desc := "(LRightTurns;II[J)I" } : Jvm.MethodName)) ∈ lw_all := lw_g (lw_at lw_m6 120 rfl) rfl
theorem q1436 : (Jvm.Cond.static ({ cls := "RightTurnsLaw", name := "round", desc := "(LRightTurns;II[J)I" } : Jvm.MethodName)) ∈ lw_all := lw_g (lw_at lw_m6 121 rfl) rfl
theorem q1437 : (Jvm.Cond.codeWith ({ cls := "RightTurnsLaw", name := "round", desc := "(LRightTurns;II[J)I" } : Jvm.MethodName) method_23_code (5 : Nat) (Option.some Jvm.ClassFile.FieldType.int) [((0 : Nat), (10 : Nat), (13 : Nat), (49 : Nat)), ((0 : Nat), (10 : Nat), (17 : Nat), (13 : Nat))]) ∈ lw_all := lw_g (lw_at lw_m6 122 rfl) rfl
theorem q1438 : (Jvm.Cond.methodLink "RightTurnsLaw" (83 : Nat) ({ cls := "RightTurns", name := "round", desc := "(II)I" } : Jvm.MethodName)) ∈ lw_all := lw_g (lw_at lw_m6 123 rfl) rfl
theorem q1454 : (Jvm.Cond.methodLink "RightTurnsLaw" (212 : Nat) ({ cls := "RightTurnsLaw", name := "bound", desc := "(LRightTurns;II[J)I" } : Jvm.MethodName)) ∈ lw_all := lw_g (lw_at lw_m6 139 rfl) rfl
theorem q1455 : (Jvm.Cond.static ({ cls := "RightTurnsLaw", name := "bound", desc := "(LRightTurns;II[J)I" } : Jvm.MethodName)) ∈ lw_all := lw_g (lw_at lw_m6 140 rfl) rfl
theorem q1456 : (Jvm.Cond.codeWith ({ cls := "RightTurnsLaw", name := "bound", desc := "(LRightTurns;II[J)I" } : Jvm.MethodName) method_24_code (5 : Nat) (Option.some Jvm.ClassFile.FieldType.int) [((0 : Nat), (10 : Nat), (13 : Nat), (49 : Nat)), ((0 : Nat), (10 : Nat), (17 : Nat), (13 : Nat))]) ∈ lw_all := lw_g (lw_at lw_m6 141 rfl) rfl
theorem q1457 : (Jvm.Cond.methodLink "RightTurnsLaw" (86 : Nat) ({ cls := "RightTurns", name := "bound", desc := "(II)I" } : Jvm.MethodName)) ∈ lw_all := lw_g (lw_at lw_m6 142 rfl) rfl
theorem q1461 : (Jvm.Cond.methodLink "RightTurnsLaw" (215 : Nat) ({ cls := "RightTurnsLaw", name := "home", desc := "(LRightTurns;I[J)I" } : Jvm.MethodName)) ∈ lw_all := lw_g (lw_at lw_m6 146 rfl) rfl
theorem q1462 : (Jvm.Cond.static ({ cls := "RightTurnsLaw", name := "home", desc := "(LRightTurns;I[J)I" } : Jvm.MethodName)) ∈ lw_all := lw_g (lw_at lw_m6 147 rfl) rfl
theorem q1463 : (Jvm.Cond.codeWith ({ cls := "RightTurnsLaw", name := "home", desc := "(LRightTurns;I[J)I" } : Jvm.MethodName) method_25_code (4 : Nat) (Option.some Jvm.ClassFile.FieldType.int) [((0 : Nat), (9 : Nat), (12 : Nat), (13 : Nat))]) ∈ lw_all := lw_g (lw_at lw_m6 148 rfl) rfl
theorem q1464 : (Jvm.Cond.methodLink "RightTurnsLaw" (89 : Nat) ({ cls := "RightTurns", name := "home", desc := "(I)I" } : Jvm.MethodName)) ∈ lw_all := lw_g (lw_at lw_m6 149 rfl) rfl
theorem q1493 : (Jvm.Cond.methodLink "RightTurnsLaw" (218 : Nat) ({ cls := "RightTurnsLaw", name := "traffic", desc := "(LRightTurns;I[J)I" } : Jvm.MethodName)) ∈ lw_all := lw_g (lw_at lw_m6 178 rfl) rfl
theorem q1494 : (Jvm.Cond.static ({ cls := "RightTurnsLaw", name := "traffic", desc := "(LRightTurns;I[J)I" } : Jvm.MethodName)) ∈ lw_all := lw_g (lw_at lw_m6 179 rfl) rfl
theorem q1495 : (Jvm.Cond.codeWith ({ cls := "RightTurnsLaw", name := "traffic", desc := "(LRightTurns;I[J)I" } : Jvm.MethodName) method_26_code (4 : Nat) (Option.some Jvm.ClassFile.FieldType.int) [((0 : Nat), (9 : Nat), (12 : Nat), (13 : Nat))]) ∈ lw_all := lw_g (lw_at lw_m6 180 rfl) rfl
theorem q1496 : (Jvm.Cond.methodLink "RightTurnsLaw" (92 : Nat) ({ cls := "RightTurns", name := "traffic", desc := "(I)I" } : Jvm.MethodName)) ∈ lw_all := lw_g (lw_at lw_m6 181 rfl) rfl
theorem q1500 : (Jvm.Cond.methodLink "RightTurnsLaw" (221 : Nat) ({ cls := "RightTurnsLaw", name := "counts", desc := "(LRightTurns;I[J)I" } : Jvm.MethodName)) ∈ lw_all := lw_g (lw_at lw_m6 185 rfl) rfl
theorem q1501 : (Jvm.Cond.static ({ cls := "RightTurnsLaw", name := "counts", desc := "(LRightTurns;I[J)I" } : Jvm.MethodName)) ∈ lw_all := lw_g (lw_at lw_m6 186 rfl) rfl
theorem q1502 : (Jvm.Cond.codeWith ({ cls := "RightTurnsLaw", name := "counts", desc := "(LRightTurns;I[J)I" } : Jvm.MethodName) method_27_code (4 : Nat) (Option.some Jvm.ClassFile.FieldType.int) [((0 : Nat), (9 : Nat), (12 : Nat), (22 : Nat))]) ∈ lw_all := lw_g (lw_at lw_m6 187 rfl) rfl
theorem q1503 : (Jvm.Cond.methodLink "RightTurnsLaw" (95 : Nat) ({ cls := "RightTurns", name := "counts", desc := "(I)I" } : Jvm.MethodName)) ∈ lw_all := lw_g (lw_at lw_m6 188 rfl) rfl
theorem q1507 : (Jvm.Cond.methodLink "RightTurnsLaw" (224 : Nat) ({ cls := "RightTurnsLaw", name := "tell", desc := "(LRightTurns;I[J)I" } : Jvm.MethodName)) ∈ lw_all := lw_g (lw_at lw_m6 192 rfl) rfl
theorem q1508 : (Jvm.Cond.static ({ cls := "RightTurnsLaw", name := "tell", desc := "(LRightTurns;I[J)I" } : Jvm.MethodName)) ∈ lw_all := lw_g (lw_at lw_m6 193 rfl) rfl
theorem q1509 : (Jvm.Cond.codeWith ({ cls := "RightTurnsLaw", name := "tell", desc := "(LRightTurns;I[J)I" } : Jvm.MethodName) method_28_code (4 : Nat) (Option.some Jvm.ClassFile.FieldType.int) [((0 : Nat), (9 : Nat), (12 : Nat), (49 : Nat))]) ∈ lw_all := lw_g (lw_at lw_m6 194 rfl) rfl
theorem q1510 : (Jvm.Cond.methodLink "RightTurnsLaw" (98 : Nat) ({ cls := "RightTurns", name := "tell", desc := "(I)I" } : Jvm.MethodName)) ∈ lw_all := lw_g (lw_at lw_m6 195 rfl) rfl
theorem q1514 : (Jvm.Cond.methodLink "RightTurnsLaw" (231 : Nat) ({ cls := "RightTurnsLaw", name := "breaks", desc := "(LRightTurns;II[J)I" } : Jvm.MethodName)) ∈ lw_all := lw_g (lw_at lw_m6 199 rfl) rfl
theorem q1515 : (Jvm.Cond.static ({ cls := "RightTurnsLaw", name := "breaks", desc := "(LRightTurns;II[J)I" } : Jvm.MethodName)) ∈ lw_all := lw_g (lw_at lw_m6 200 rfl) rfl
theorem q1516 : (Jvm.Cond.codeWith ({ cls := "RightTurnsLaw", name := "breaks", desc := "(LRightTurns;II[J)I" } : Jvm.MethodName) method_29_code (5 : Nat) (Option.some Jvm.ClassFile.FieldType.int) [((0 : Nat), (9 : Nat), (12 : Nat), (13 : Nat))]) ∈ lw_all := lw_g (lw_at lw_m6 201 rfl) rfl
theorem q1517 : (Jvm.Cond.methodLink "RightTurnsLaw" (101 : Nat) ({ cls := "RightTurns", name := "breaks", desc := "(II)J" } : Jvm.MethodName)) ∈ lw_all := lw_g (lw_at lw_m6 202 rfl) rfl
theorem q1534 : (Jvm.Cond.methodLink "RightTurnsLaw" (234 : Nat) ({ cls := "RightTurnsLaw", name := "cut", desc := "(LRightTurns;I[J)I" } : Jvm.MethodName)) ∈ lw_all := lw_g (lw_at lw_m6 219 rfl) rfl
theorem q1535 : (Jvm.Cond.static ({ cls := "RightTurnsLaw", name := "cut", desc := "(LRightTurns;I[J)I" } : Jvm.MethodName)) ∈ lw_all := lw_g (lw_at lw_m6 220 rfl) rfl
theorem q1536 : (Jvm.Cond.codeWith ({ cls := "RightTurnsLaw", name := "cut", desc := "(LRightTurns;I[J)I" } : Jvm.MethodName) method_30_code (4 : Nat) (Option.some Jvm.ClassFile.FieldType.int) [((0 : Nat), (9 : Nat), (12 : Nat), (13 : Nat))]) ∈ lw_all := lw_g (lw_at lw_m6 221 rfl) rfl
theorem q1537 : (Jvm.Cond.methodLink "RightTurnsLaw" (105 : Nat) ({ cls := "RightTurns", name := "cut", desc := "(I)I" } : Jvm.MethodName)) ∈ lw_all := lw_g (lw_at lw_m6 222 rfl) rfl
theorem q1545 : (Jvm.Cond.methodLink "RightTurnsLaw" (237 : Nat) ({ cls := "RightTurnsLaw", name := "sure", desc := "(LRightTurns;II[J)I" } : Jvm.MethodName)) ∈ lw_all := lw_g (lw_at lw_m6 230 rfl) rfl
theorem q1546 : (Jvm.Cond.static ({ cls := "RightTurnsLaw", name := "sure", desc := "(LRightTurns;II[J)I" } : Jvm.MethodName)) ∈ lw_all := lw_g (lw_at lw_m6 231 rfl) rfl
theorem q1547 : (Jvm.Cond.codeWith ({ cls := "RightTurnsLaw", name := "sure", desc := "(LRightTurns;II[J)I" } : Jvm.MethodName) method_31_code (5 : Nat) (Option.some Jvm.ClassFile.FieldType.int) [((0 : Nat), (10 : Nat), (13 : Nat), (13 : Nat))]) ∈ lw_all := lw_g (lw_at lw_m6 232 rfl) rfl
theorem q1548 : (Jvm.Cond.methodLink "RightTurnsLaw" (108 : Nat) ({ cls := "RightTurns", name := "sure", desc := "(II)I" } : Jvm.MethodName)) ∈ lw_all := lw_g (lw_at lw_m6 233 rfl) rfl
theorem q1552 : (Jvm.Cond.methodLink "RightTurnsLaw" (240 : Nat) ({ cls := "RightTurnsLaw", name := "detour", desc := "(LRightTurns;III[J)I" } : Jvm.MethodName)) ∈ lw_all := lw_g (lw_at lw_m6 237 rfl) rfl
theorem q1553 : (Jvm.Cond.static ({ cls := "RightTurnsLaw", name := "detour", desc := "(LRightTurns;III[J)I" } : Jvm.MethodName)) ∈ lw_all := lw_g (lw_at lw_m6 238 rfl) rfl
theorem q1554 : (Jvm.Cond.codeWith ({ cls := "RightTurnsLaw", name := "detour", desc := "(LRightTurns;III[J)I" } : Jvm.MethodName) method_32_code (6 : Nat) (Option.some Jvm.ClassFile.FieldType.int) [((0 : Nat), (12 : Nat), (15 : Nat), (49 : Nat)), ((0 : Nat), (12 : Nat), (19 : Nat), (13 : Nat))]) ∈ lw_all := lw_g (lw_at lw_m6 239 rfl) rfl
theorem q1555 : (Jvm.Cond.methodLink "RightTurnsLaw" (111 : Nat) ({ cls := "RightTurns", name := "detour", desc := "(III)I" } : Jvm.MethodName)) ∈ lw_all := lw_g (lw_at lw_m7 0 rfl) rfl
theorem q1559 : (Jvm.Cond.methodLink "RightTurnsLaw" (243 : Nat) ({ cls := "RightTurnsLaw", name := "gain", desc := "(LRightTurns;II[J)I" } : Jvm.MethodName)) ∈ lw_all := lw_g (lw_at lw_m7 4 rfl) rfl
theorem q1560 : (Jvm.Cond.static ({ cls := "RightTurnsLaw", name := "gain", desc := "(LRightTurns;II[J)I" } : Jvm.MethodName)) ∈ lw_all := lw_g (lw_at lw_m7 5 rfl) rfl
theorem q1561 : (Jvm.Cond.codeWith ({ cls := "RightTurnsLaw", name := "gain", desc := "(LRightTurns;II[J)I" } : Jvm.MethodName) method_33_code (5 : Nat) (Option.some Jvm.ClassFile.FieldType.int) [((0 : Nat), (10 : Nat), (13 : Nat), (13 : Nat))]) ∈ lw_all := lw_g (lw_at lw_m7 6 rfl) rfl
theorem q1562 : (Jvm.Cond.methodLink "RightTurnsLaw" (114 : Nat) ({ cls := "RightTurns", name := "gain", desc := "(II)I" } : Jvm.MethodName)) ∈ lw_all := lw_g (lw_at lw_m7 7 rfl) rfl
theorem q1570 : (Jvm.Cond.methodLink "RightTurnsLaw" (246 : Nat) ({ cls := "RightTurnsLaw", name := "baker", desc := "(LRightTurns;II[J)I" } : Jvm.MethodName)) ∈ lw_all := lw_g (lw_at lw_m7 15 rfl) rfl
theorem q1571 : (Jvm.Cond.static ({ cls := "RightTurnsLaw", name := "baker", desc := "(LRightTurns;II[J)I" } : Jvm.MethodName)) ∈ lw_all := lw_g (lw_at lw_m7 16 rfl) rfl
theorem q1572 : (Jvm.Cond.codeWith ({ cls := "RightTurnsLaw", name := "baker", desc := "(LRightTurns;II[J)I" } : Jvm.MethodName) method_34_code (5 : Nat) (Option.some Jvm.ClassFile.FieldType.int) [((0 : Nat), (10 : Nat), (13 : Nat), (13 : Nat))]) ∈ lw_all := lw_g (lw_at lw_m7 17 rfl) rfl
theorem q1573 : (Jvm.Cond.methodLink "RightTurnsLaw" (117 : Nat) ({ cls := "RightTurns", name := "baker", desc := "(II)I" } : Jvm.MethodName)) ∈ lw_all := lw_g (lw_at lw_m7 18 rfl) rfl
theorem q1577 : (Jvm.Cond.classLink "RightTurnsLaw" (121 : Nat) "RightTurnsModel") ∈ lw_all := lw_g (lw_at lw_m7 22 rfl) rfl
theorem q1579 : (Jvm.Cond.methodLink "RightTurnsLaw" (123 : Nat) ({ cls := "RightTurnsModel", name := "<init>", desc := "()V" } : Jvm.MethodName)) ∈ lw_all := lw_g (lw_at lw_m7 24 rfl) rfl
theorem q1766 : (Jvm.Cond.methodLink "RightTurnsLaw" (135 : Nat) ({ cls := "RightTurnsModel", name := "thrown", desc := "()I" } : Jvm.MethodName)) ∈ lw_all := lw_g (lw_at lw_m7 211 rfl) rfl
theorem q1770 : (Jvm.Cond.methodLink "RightTurnsLaw" (128 : Nat) ({ cls := "RightTurnsModel", name := "feed", desc := "(IIIII)I" } : Jvm.MethodName)) ∈ lw_all := lw_g (lw_at lw_m7 215 rfl) rfl
theorem q1774 : (Jvm.Cond.methodLink "RightTurnsLaw" (134 : Nat) ({ cls := "RightTurnsModel", name := "town", desc := "(I)I" } : Jvm.MethodName)) ∈ lw_all := lw_g (lw_at lw_m7 219 rfl) rfl
theorem q1893 : (Jvm.Cond.methodLink "RightTurnsLaw" (142 : Nat) ({ cls := "RightTurnsModel", name := "fault", desc := "()I" } : Jvm.MethodName)) ∈ lw_all := lw_g (lw_at lw_m8 98 rfl) rfl
theorem q1897 : (Jvm.Cond.methodLink "RightTurnsLaw" (145 : Nat) ({ cls := "RightTurnsModel", name := "told", desc := "(I)I" } : Jvm.MethodName)) ∈ lw_all := lw_g (lw_at lw_m8 102 rfl) rfl
theorem q1901 : (Jvm.Cond.methodLink "RightTurnsLaw" (149 : Nat) ({ cls := "RightTurnsModel", name := "street", desc := "(II)I" } : Jvm.MethodName)) ∈ lw_all := lw_g (lw_at lw_m8 106 rfl) rfl
theorem q1909 : (Jvm.Cond.methodLink "RightTurnsLaw" (152 : Nat) ({ cls := "RightTurnsModel", name := "turn", desc := "(II)I" } : Jvm.MethodName)) ∈ lw_all := lw_g (lw_at lw_m8 114 rfl) rfl
theorem q1913 : (Jvm.Cond.methodLink "RightTurnsLaw" (156 : Nat) ({ cls := "RightTurnsModel", name := "may", desc := "(III)Z" } : Jvm.MethodName)) ∈ lw_all := lw_g (lw_at lw_m8 118 rfl) rfl
theorem q1929 : (Jvm.Cond.methodLink "RightTurnsLaw" (160 : Nat) ({ cls := "RightTurnsModel", name := "sign", desc := "(IIZ)I" } : Jvm.MethodName)) ∈ lw_all := lw_g (lw_at lw_m8 134 rfl) rfl
theorem q1945 : (Jvm.Cond.methodLink "RightTurnsLaw" (163 : Nat) ({ cls := "RightTurnsModel", name := "allow", desc := "(IIZ)I" } : Jvm.MethodName)) ∈ lw_all := lw_g (lw_at lw_m8 150 rfl) rfl
theorem q1949 : (Jvm.Cond.methodLink "RightTurnsLaw" (166 : Nat) ({ cls := "RightTurnsModel", name := "back", desc := "(I)I" } : Jvm.MethodName)) ∈ lw_all := lw_g (lw_at lw_m8 154 rfl) rfl
theorem q1953 : (Jvm.Cond.methodLink "RightTurnsLaw" (170 : Nat) ({ cls := "RightTurnsModel", name := "stands", desc := "(IIII)Z" } : Jvm.MethodName)) ∈ lw_all := lw_g (lw_at lw_m8 158 rfl) rfl
theorem q1957 : (Jvm.Cond.methodLink "RightTurnsLaw" (173 : Nat) ({ cls := "RightTurnsModel", name := "ride", desc := "(III)I" } : Jvm.MethodName)) ∈ lw_all := lw_g (lw_at lw_m8 162 rfl) rfl
theorem q1994 : (Jvm.Cond.methodLink "RightTurnsLaw" (176 : Nat) ({ cls := "RightTurnsModel", name := "step", desc := "(IIII)I" } : Jvm.MethodName)) ∈ lw_all := lw_g (lw_at lw_m8 199 rfl) rfl
theorem q2002 : (Jvm.Cond.methodLink "RightTurnsLaw" (179 : Nat) ({ cls := "RightTurnsModel", name := "reach", desc := "(III)I" } : Jvm.MethodName)) ∈ lw_all := lw_g (lw_at lw_m8 207 rfl) rfl
theorem q2018 : (Jvm.Cond.methodLink "RightTurnsLaw" (182 : Nat) ({ cls := "RightTurnsModel", name := "parts", desc := "(II)I" } : Jvm.MethodName)) ∈ lw_all := lw_g (lw_at lw_m8 223 rfl) rfl
theorem q2026 : (Jvm.Cond.methodLink "RightTurnsLaw" (185 : Nat) ({ cls := "RightTurnsModel", name := "together", desc := "(III)Z" } : Jvm.MethodName)) ∈ lw_all := lw_g (lw_at lw_m8 231 rfl) rfl
theorem q2030 : (Jvm.Cond.methodLink "RightTurnsLaw" (188 : Nat) ({ cls := "RightTurnsModel", name := "open", desc := "(II)I" } : Jvm.MethodName)) ∈ lw_all := lw_g (lw_at lw_m8 235 rfl) rfl
theorem q2038 : (Jvm.Cond.methodLink "RightTurnsLaw" (192 : Nat) ({ cls := "RightTurnsModel", name := "since", desc := "(IIIZ)I" } : Jvm.MethodName)) ∈ lw_all := lw_g (lw_at lw_m9 3 rfl) rfl
theorem q2042 : (Jvm.Cond.methodLink "RightTurnsLaw" (196 : Nat) ({ cls := "RightTurnsModel", name := "left", desc := "(I)I" } : Jvm.MethodName)) ∈ lw_all := lw_g (lw_at lw_m9 7 rfl) rfl
theorem q2046 : (Jvm.Cond.methodLink "RightTurnsLaw" (199 : Nat) ({ cls := "RightTurnsModel", name := "candidates", desc := "(I)I" } : Jvm.MethodName)) ∈ lw_all := lw_g (lw_at lw_m9 11 rfl) rfl
theorem q2062 : (Jvm.Cond.methodLink "RightTurnsLaw" (202 : Nat) ({ cls := "RightTurnsModel", name := "fewest", desc := "(II)I" } : Jvm.MethodName)) ∈ lw_all := lw_g (lw_at lw_m9 27 rfl) rfl
theorem q2082 : (Jvm.Cond.methodLink "RightTurnsLaw" (205 : Nat) ({ cls := "RightTurnsModel", name := "cheapest", desc := "(II)I" } : Jvm.MethodName)) ∈ lw_all := lw_g (lw_at lw_m9 47 rfl) rfl
theorem q2086 : (Jvm.Cond.methodLink "RightTurnsLaw" (208 : Nat) ({ cls := "RightTurnsModel", name := "exchange", desc := "(II)I" } : Jvm.MethodName)) ∈ lw_all := lw_g (lw_at lw_m9 51 rfl) rfl
theorem q2090 : (Jvm.Cond.methodLink "RightTurnsLaw" (211 : Nat) ({ cls := "RightTurnsModel", name := "round", desc := "(II)I" } : Jvm.MethodName)) ∈ lw_all := lw_g (lw_at lw_m9 55 rfl) rfl
theorem q2102 : (Jvm.Cond.methodLink "RightTurnsLaw" (214 : Nat) ({ cls := "RightTurnsModel", name := "bound", desc := "(II)I" } : Jvm.MethodName)) ∈ lw_all := lw_g (lw_at lw_m9 67 rfl) rfl
theorem q2106 : (Jvm.Cond.methodLink "RightTurnsLaw" (217 : Nat) ({ cls := "RightTurnsModel", name := "home", desc := "(I)I" } : Jvm.MethodName)) ∈ lw_all := lw_g (lw_at lw_m9 71 rfl) rfl
theorem q2130 : (Jvm.Cond.methodLink "RightTurnsLaw" (220 : Nat) ({ cls := "RightTurnsModel", name := "traffic", desc := "(I)I" } : Jvm.MethodName)) ∈ lw_all := lw_g (lw_at lw_m9 95 rfl) rfl
theorem q2134 : (Jvm.Cond.methodLink "RightTurnsLaw" (223 : Nat) ({ cls := "RightTurnsModel", name := "counts", desc := "(I)I" } : Jvm.MethodName)) ∈ lw_all := lw_g (lw_at lw_m9 99 rfl) rfl
theorem q2138 : (Jvm.Cond.methodLink "RightTurnsLaw" (226 : Nat) ({ cls := "RightTurnsModel", name := "tell", desc := "(I)I" } : Jvm.MethodName)) ∈ lw_all := lw_g (lw_at lw_m9 103 rfl) rfl
theorem q2142 : (Jvm.Cond.methodLink "RightTurnsLaw" (230 : Nat) ({ cls := "RightTurnsModel", name := "forget", desc := "()I" } : Jvm.MethodName)) ∈ lw_all := lw_g (lw_at lw_m9 107 rfl) rfl
theorem q2146 : (Jvm.Cond.methodLink "RightTurnsLaw" (233 : Nat) ({ cls := "RightTurnsModel", name := "breaks", desc := "(II)J" } : Jvm.MethodName)) ∈ lw_all := lw_g (lw_at lw_m9 111 rfl) rfl
theorem q2159 : (Jvm.Cond.methodLink "RightTurnsLaw" (239 : Nat) ({ cls := "RightTurnsModel", name := "sure", desc := "(II)I" } : Jvm.MethodName)) ∈ lw_all := lw_g (lw_at lw_m9 124 rfl) rfl
theorem q2163 : (Jvm.Cond.methodLink "RightTurnsLaw" (236 : Nat) ({ cls := "RightTurnsModel", name := "cut", desc := "(I)I" } : Jvm.MethodName)) ∈ lw_all := lw_g (lw_at lw_m9 128 rfl) rfl
theorem q2167 : (Jvm.Cond.methodLink "RightTurnsLaw" (242 : Nat) ({ cls := "RightTurnsModel", name := "detour", desc := "(III)I" } : Jvm.MethodName)) ∈ lw_all := lw_g (lw_at lw_m9 132 rfl) rfl
theorem q2171 : (Jvm.Cond.methodLink "RightTurnsLaw" (245 : Nat) ({ cls := "RightTurnsModel", name := "gain", desc := "(II)I" } : Jvm.MethodName)) ∈ lw_all := lw_g (lw_at lw_m9 136 rfl) rfl
theorem q2179 : (Jvm.Cond.methodLink "RightTurnsLaw" (248 : Nat) ({ cls := "RightTurnsModel", name := "baker", desc := "(II)I" } : Jvm.MethodName)) ∈ lw_all := lw_g (lw_at lw_m9 144 rfl) rfl
theorem q2183 : (Jvm.Cond.methodLink "RightTurnsLaw" (252 : Nat) ({ cls := "RightTurnsModel", name := "image", desc := "()I" } : Jvm.MethodName)) ∈ lw_all := lw_g (lw_at lw_m9 148 rfl) rfl
theorem q2195 : (Jvm.Cond.methodLink "RightTurnsLaw" (256 : Nat) ({ cls := "RightTurnsModel", name := "restore", desc := "()I" } : Jvm.MethodName)) ∈ lw_all := lw_g (lw_at lw_m9 160 rfl) rfl
theorem q2199 : (Jvm.Cond.methodLink "RightTurnsLaw" (260 : Nat) ({ cls := "RightTurnsModel", name := "count", desc := "(I)I" } : Jvm.MethodName)) ∈ lw_all := lw_g (lw_at lw_m9 164 rfl) rfl

/-! RightTurns$Town -/
set_option maxRecDepth 100000
def RX2 : String := "RightTurns$Town"
def TX2 : u_T := fun k => match k with
  | 0 => ("RightTurns$Town", "corners", "Ljava/util/ArrayList;", true)
  | 1 => ("RightTurns$Town", "streets", "Ljava/util/ArrayList;", true)
  | 2 => ("RightTurns$Town", "riders", "Ljava/util/ArrayList;", true)
  | 3 => ("RightTurns$Town", "signs", "[I", true)
  | 4 => ("RightTurns$Town", "allowed", "[I", true)
  | 5 => ("RightTurns$Town", "leftFrom", "[I", true)
  | 6 => ("RightTurns$Town", "leftTo", "[I", true)
  | 7 => ("RightTurns$Town", "boxes", "I", false)
  | 8 => ("RightTurns$Town", "lefts", "I", false)
  | _ => ("RightTurns$Town", "clauses", "I", false)
def tyX2 : Nat → FieldType := fun k => match k with
  | 0 => .object "java/util/ArrayList"
  | 1 => .object "java/util/ArrayList"
  | 2 => .object "java/util/ArrayList"
  | 3 => .array .int
  | 4 => .array .int
  | 5 => .array .int
  | 6 => .array .int
  | 7 => .int
  | 8 => .int
  | _ => .int
abbrev wsX20 : List Cond := u_ws RX2 TX2 10
theorem nmX2 : ∀ a, a < 10 → ∀ b, b < 10 → a ≠ b → (TX2 a).2.1 ≠ (TX2 b).2.1 := by decide +kernel
theorem tyX2_ok : ∀ k, k < 10 → parseFieldDescriptor (TX2 k).2.2.1 = some (tyX2 k) := by decide +kernel
abbrev cX2_init : ByteArray := prog_7_method_1_code
def yX2_init : MethodName := ⟨RX2, "<init>", "()V"⟩
def dkwX2_init_3 : List UInt8 := [188, 10, 181, 0, 36, 177]
abbrev dktX2_init_3 : List UInt8 := dkwX2_init_3 ++ []
def dkwX2_init_2 : List UInt8 := [181, 0, 26, 42, 16, 24, 188, 10, 181, 0, 30, 42, 17, 2, 64, 188, 10, 181, 0, 33, 42, 17, 2, 64]
abbrev dktX2_init_2 : List UInt8 := dkwX2_init_2 ++ dktX2_init_3
def dkwX2_init_1 : List UInt8 := [183, 0, 11, 181, 0, 20, 42, 187, 0, 9, 89, 4, 183, 0, 11, 181, 0, 23, 42, 16, 24, 188, 10]
abbrev dktX2_init_1 : List UInt8 := dkwX2_init_1 ++ dktX2_init_2
def dkwX2_init_0 : List UInt8 := [42, 183, 0, 3, 42, 187, 0, 9, 89, 5, 183, 0, 11, 181, 0, 14, 42, 187, 0, 9, 89, 5]
abbrev dktX2_init_0 : List UInt8 := dkwX2_init_0 ++ dktX2_init_1
theorem dksX2_init_0 : cX2_init.data.toList.drop 0 = dktX2_init_0 := by decide +kernel
theorem dksX2_init_1 : cX2_init.data.toList.drop 22 = dktX2_init_1 := dk_seg dksX2_init_0 22 rfl rfl
theorem dksX2_init_2 : cX2_init.data.toList.drop 45 = dktX2_init_2 := dk_seg dksX2_init_1 23 rfl rfl
theorem dksX2_init_3 : cX2_init.data.toList.drop 69 = dktX2_init_3 := dk_seg dksX2_init_2 24 rfl rfl
theorem dX2_init_0 : decode cX2_init 0 = .ok (.aload_n 0, 1) := dk_42 (dk_at dksX2_init_0 0 rfl rfl)
theorem dX2_init_1 : decode cX2_init 1 = .ok (.invokespecial 3, 3) := dk_183 0 3 (dk_at dksX2_init_0 1 rfl rfl)
theorem dX2_init_4 : decode cX2_init 4 = .ok (.aload_n 0, 1) := dk_42 (dk_at dksX2_init_0 4 rfl rfl)
theorem dX2_init_5 : decode cX2_init 5 = .ok (.new 9, 3) := dk_187 0 9 (dk_at dksX2_init_0 5 rfl rfl)
theorem dX2_init_8 : decode cX2_init 8 = .ok (.dup, 1) := dk_89 (dk_at dksX2_init_0 8 rfl rfl)
theorem dX2_init_9 : decode cX2_init 9 = .ok (.iconst 2, 1) := dk_5 (dk_at dksX2_init_0 9 rfl rfl)
theorem dX2_init_10 : decode cX2_init 10 = .ok (.invokespecial 11, 3) := dk_183 0 11 (dk_at dksX2_init_0 10 rfl rfl)
theorem dX2_init_13 : decode cX2_init 13 = .ok (.putfield 14, 3) := dk_181 0 14 (dk_at dksX2_init_0 13 rfl rfl)
theorem dX2_init_16 : decode cX2_init 16 = .ok (.aload_n 0, 1) := dk_42 (dk_at dksX2_init_0 16 rfl rfl)
theorem dX2_init_17 : decode cX2_init 17 = .ok (.new 9, 3) := dk_187 0 9 (dk_at dksX2_init_0 17 rfl rfl)
theorem dX2_init_20 : decode cX2_init 20 = .ok (.dup, 1) := dk_89 (dk_at dksX2_init_0 20 rfl rfl)
theorem dX2_init_21 : decode cX2_init 21 = .ok (.iconst 2, 1) := dk_5 (dk_at dksX2_init_0 21 rfl rfl)
theorem dX2_init_22 : decode cX2_init 22 = .ok (.invokespecial 11, 3) := dk_183 0 11 (dk_at dksX2_init_1 0 rfl rfl)
theorem dX2_init_25 : decode cX2_init 25 = .ok (.putfield 20, 3) := dk_181 0 20 (dk_at dksX2_init_1 3 rfl rfl)
theorem dX2_init_28 : decode cX2_init 28 = .ok (.aload_n 0, 1) := dk_42 (dk_at dksX2_init_1 6 rfl rfl)
theorem dX2_init_29 : decode cX2_init 29 = .ok (.new 9, 3) := dk_187 0 9 (dk_at dksX2_init_1 7 rfl rfl)
theorem dX2_init_32 : decode cX2_init 32 = .ok (.dup, 1) := dk_89 (dk_at dksX2_init_1 10 rfl rfl)
theorem dX2_init_33 : decode cX2_init 33 = .ok (.iconst 1, 1) := dk_4 (dk_at dksX2_init_1 11 rfl rfl)
theorem dX2_init_34 : decode cX2_init 34 = .ok (.invokespecial 11, 3) := dk_183 0 11 (dk_at dksX2_init_1 12 rfl rfl)
theorem dX2_init_37 : decode cX2_init 37 = .ok (.putfield 23, 3) := dk_181 0 23 (dk_at dksX2_init_1 15 rfl rfl)
theorem dX2_init_40 : decode cX2_init 40 = .ok (.aload_n 0, 1) := dk_42 (dk_at dksX2_init_1 18 rfl rfl)
theorem dX2_init_41 : decode cX2_init 41 = .ok (.bipush 24, 2) := dk_16 24 (dk_at dksX2_init_1 19 rfl rfl)
theorem dX2_init_43 : decode cX2_init 43 = .ok (.newarray .int, 2) := dk_188_10 (dk_at dksX2_init_1 21 rfl rfl)
theorem dX2_init_45 : decode cX2_init 45 = .ok (.putfield 26, 3) := dk_181 0 26 (dk_at dksX2_init_2 0 rfl rfl)
theorem dX2_init_48 : decode cX2_init 48 = .ok (.aload_n 0, 1) := dk_42 (dk_at dksX2_init_2 3 rfl rfl)
theorem dX2_init_49 : decode cX2_init 49 = .ok (.bipush 24, 2) := dk_16 24 (dk_at dksX2_init_2 4 rfl rfl)
theorem dX2_init_51 : decode cX2_init 51 = .ok (.newarray .int, 2) := dk_188_10 (dk_at dksX2_init_2 6 rfl rfl)
theorem dX2_init_53 : decode cX2_init 53 = .ok (.putfield 30, 3) := dk_181 0 30 (dk_at dksX2_init_2 8 rfl rfl)
theorem dX2_init_56 : decode cX2_init 56 = .ok (.aload_n 0, 1) := dk_42 (dk_at dksX2_init_2 11 rfl rfl)
theorem dX2_init_57 : decode cX2_init 57 = .ok (.sipush 576, 3) := dk_17 2 64 (dk_at dksX2_init_2 12 rfl rfl)
theorem dX2_init_60 : decode cX2_init 60 = .ok (.newarray .int, 2) := dk_188_10 (dk_at dksX2_init_2 15 rfl rfl)
theorem dX2_init_62 : decode cX2_init 62 = .ok (.putfield 33, 3) := dk_181 0 33 (dk_at dksX2_init_2 17 rfl rfl)
theorem dX2_init_65 : decode cX2_init 65 = .ok (.aload_n 0, 1) := dk_42 (dk_at dksX2_init_2 20 rfl rfl)
theorem dX2_init_66 : decode cX2_init 66 = .ok (.sipush 576, 3) := dk_17 2 64 (dk_at dksX2_init_2 21 rfl rfl)
theorem dX2_init_69 : decode cX2_init 69 = .ok (.newarray .int, 2) := dk_188_10 (dk_at dksX2_init_3 0 rfl rfl)
theorem dX2_init_71 : decode cX2_init 71 = .ok (.putfield 36, 3) := dk_181 0 36 (dk_at dksX2_init_3 2 rfl rfl)
theorem dX2_init_74 : decode cX2_init 74 = .ok (.return_, 1) := dk_177 (dk_at dksX2_init_3 5 rfl rfl)
abbrev cX2_looks : ByteArray := prog_7_method_9_code
def yX2_looks : MethodName := ⟨RX2, "looks", "()V"⟩
def dkwX2_looks_6 : List UInt8 := [181, 0, 93, 132, 2, 1, 167, 255, 124, 132, 1, 1, 167, 255, 105, 177]
abbrev dktX2_looks_6 : List UInt8 := dkwX2_looks_6 ++ []
def dkwX2_looks_5 : List UInt8 := [180, 0, 93, 27, 79, 42, 180, 0, 36, 42, 180, 0, 93, 28, 79, 42, 89, 180, 0, 93, 4, 96]
abbrev dktX2_looks_5 : List UInt8 := dkwX2_looks_5 ++ dktX2_looks_6
def dkwX2_looks_4 : List UInt8 := [4, 167, 0, 4, 3, 62, 132, 4, 1, 167, 255, 183, 29, 154, 0, 6, 167, 0, 33, 42, 180, 0, 33, 42]
abbrev dktX2_looks_4 : List UInt8 := dkwX2_looks_4 ++ dktX2_looks_5
def dkwX2_looks_3 : List UInt8 := [42, 5, 27, 104, 21, 4, 5, 108, 96, 5, 28, 104, 21, 4, 5, 112, 96, 182, 0, 89, 6, 160, 0, 7]
abbrev dktX2_looks_3 : List UInt8 := dkwX2_looks_3 ++ dktX2_looks_4
def dkwX2_looks_2 : List UInt8 := [5, 108, 96, 182, 0, 85, 153, 0, 46, 42, 5, 28, 104, 21, 4, 5, 112, 96, 182, 0, 85, 153, 0, 31]
abbrev dktX2_looks_2 : List UInt8 := dkwX2_looks_2 ++ dktX2_looks_3
def dkwX2_looks_1 : List UInt8 := [162, 0, 127, 3, 62, 3, 54, 4, 21, 4, 7, 162, 0, 73, 29, 154, 0, 57, 42, 5, 27, 104, 21, 4]
abbrev dktX2_looks_1 : List UInt8 := dkwX2_looks_1 ++ dktX2_looks_2
def dkwX2_looks_0 : List UInt8 := [3, 60, 27, 42, 180, 0, 20, 182, 0, 39, 162, 0, 146, 3, 61, 28, 42, 180, 0, 20, 182, 0, 39]
abbrev dktX2_looks_0 : List UInt8 := dkwX2_looks_0 ++ dktX2_looks_1
theorem dksX2_looks_0 : cX2_looks.data.toList.drop 0 = dktX2_looks_0 := by decide +kernel
theorem dksX2_looks_1 : cX2_looks.data.toList.drop 23 = dktX2_looks_1 := dk_seg dksX2_looks_0 23 rfl rfl
theorem dksX2_looks_2 : cX2_looks.data.toList.drop 47 = dktX2_looks_2 := dk_seg dksX2_looks_1 24 rfl rfl
theorem dksX2_looks_3 : cX2_looks.data.toList.drop 71 = dktX2_looks_3 := dk_seg dksX2_looks_2 24 rfl rfl
theorem dksX2_looks_4 : cX2_looks.data.toList.drop 95 = dktX2_looks_4 := dk_seg dksX2_looks_3 24 rfl rfl
theorem dksX2_looks_5 : cX2_looks.data.toList.drop 119 = dktX2_looks_5 := dk_seg dksX2_looks_4 24 rfl rfl
theorem dksX2_looks_6 : cX2_looks.data.toList.drop 141 = dktX2_looks_6 := dk_seg dksX2_looks_5 22 rfl rfl
theorem dX2_looks_0 : decode cX2_looks 0 = .ok (.iconst 0, 1) := dk_3 (dk_at dksX2_looks_0 0 rfl rfl)
theorem dX2_looks_1 : decode cX2_looks 1 = .ok (.istore_n 1, 1) := dk_60 (dk_at dksX2_looks_0 1 rfl rfl)
theorem dX2_looks_2 : decode cX2_looks 2 = .ok (.iload_n 1, 1) := dk_27 (dk_at dksX2_looks_0 2 rfl rfl)
theorem dX2_looks_3 : decode cX2_looks 3 = .ok (.aload_n 0, 1) := dk_42 (dk_at dksX2_looks_0 3 rfl rfl)
theorem dX2_looks_4 : decode cX2_looks 4 = .ok (.getfield 20, 3) := dk_180 0 20 (dk_at dksX2_looks_0 4 rfl rfl)
theorem dX2_looks_7 : decode cX2_looks 7 = .ok (.invokevirtual 39, 3) := dk_182 0 39 (dk_at dksX2_looks_0 7 rfl rfl)
theorem dX2_looks_10 : decode cX2_looks 10 = .ok (.if_icmp .ge 146, 3) := dk_162 0 146 (dk_at dksX2_looks_0 10 rfl rfl)
theorem dX2_looks_13 : decode cX2_looks 13 = .ok (.iconst 0, 1) := dk_3 (dk_at dksX2_looks_0 13 rfl rfl)
theorem dX2_looks_14 : decode cX2_looks 14 = .ok (.istore_n 2, 1) := dk_61 (dk_at dksX2_looks_0 14 rfl rfl)
theorem dX2_looks_15 : decode cX2_looks 15 = .ok (.iload_n 2, 1) := dk_28 (dk_at dksX2_looks_0 15 rfl rfl)
theorem dX2_looks_16 : decode cX2_looks 16 = .ok (.aload_n 0, 1) := dk_42 (dk_at dksX2_looks_0 16 rfl rfl)
theorem dX2_looks_17 : decode cX2_looks 17 = .ok (.getfield 20, 3) := dk_180 0 20 (dk_at dksX2_looks_0 17 rfl rfl)
theorem dX2_looks_20 : decode cX2_looks 20 = .ok (.invokevirtual 39, 3) := dk_182 0 39 (dk_at dksX2_looks_0 20 rfl rfl)
theorem dX2_looks_23 : decode cX2_looks 23 = .ok (.if_icmp .ge 127, 3) := dk_162 0 127 (dk_at dksX2_looks_1 0 rfl rfl)
theorem dX2_looks_26 : decode cX2_looks 26 = .ok (.iconst 0, 1) := dk_3 (dk_at dksX2_looks_1 3 rfl rfl)
theorem dX2_looks_27 : decode cX2_looks 27 = .ok (.istore_n 3, 1) := dk_62 (dk_at dksX2_looks_1 4 rfl rfl)
theorem dX2_looks_28 : decode cX2_looks 28 = .ok (.iconst 0, 1) := dk_3 (dk_at dksX2_looks_1 5 rfl rfl)
theorem dX2_looks_29 : decode cX2_looks 29 = .ok (.istore 4, 2) := dk_54 4 (dk_at dksX2_looks_1 6 rfl rfl)
theorem dX2_looks_31 : decode cX2_looks 31 = .ok (.iload 4, 2) := dk_21 4 (dk_at dksX2_looks_1 8 rfl rfl)
theorem dX2_looks_33 : decode cX2_looks 33 = .ok (.iconst 4, 1) := dk_7 (dk_at dksX2_looks_1 10 rfl rfl)
theorem dX2_looks_34 : decode cX2_looks 34 = .ok (.if_icmp .ge 73, 3) := dk_162 0 73 (dk_at dksX2_looks_1 11 rfl rfl)
theorem dX2_looks_37 : decode cX2_looks 37 = .ok (.iload_n 3, 1) := dk_29 (dk_at dksX2_looks_1 14 rfl rfl)
theorem dX2_looks_38 : decode cX2_looks 38 = .ok (.ifCond .ne 57, 3) := dk_154 0 57 (dk_at dksX2_looks_1 15 rfl rfl)
theorem dX2_looks_41 : decode cX2_looks 41 = .ok (.aload_n 0, 1) := dk_42 (dk_at dksX2_looks_1 18 rfl rfl)
theorem dX2_looks_42 : decode cX2_looks 42 = .ok (.iconst 2, 1) := dk_5 (dk_at dksX2_looks_1 19 rfl rfl)
theorem dX2_looks_43 : decode cX2_looks 43 = .ok (.iload_n 1, 1) := dk_27 (dk_at dksX2_looks_1 20 rfl rfl)
theorem dX2_looks_44 : decode cX2_looks 44 = .ok (.imul, 1) := dk_104 (dk_at dksX2_looks_1 21 rfl rfl)
theorem dX2_looks_45 : decode cX2_looks 45 = .ok (.iload 4, 2) := dk_21 4 (dk_at dksX2_looks_1 22 rfl rfl)
theorem dX2_looks_47 : decode cX2_looks 47 = .ok (.iconst 2, 1) := dk_5 (dk_at dksX2_looks_2 0 rfl rfl)
theorem dX2_looks_48 : decode cX2_looks 48 = .ok (.idiv, 1) := dk_108 (dk_at dksX2_looks_2 1 rfl rfl)
theorem dX2_looks_49 : decode cX2_looks 49 = .ok (.iadd, 1) := dk_96 (dk_at dksX2_looks_2 2 rfl rfl)
theorem dX2_looks_50 : decode cX2_looks 50 = .ok (.invokevirtual 85, 3) := dk_182 0 85 (dk_at dksX2_looks_2 3 rfl rfl)
theorem dX2_looks_53 : decode cX2_looks 53 = .ok (.ifCond .eq 46, 3) := dk_153 0 46 (dk_at dksX2_looks_2 6 rfl rfl)
theorem dX2_looks_56 : decode cX2_looks 56 = .ok (.aload_n 0, 1) := dk_42 (dk_at dksX2_looks_2 9 rfl rfl)
theorem dX2_looks_57 : decode cX2_looks 57 = .ok (.iconst 2, 1) := dk_5 (dk_at dksX2_looks_2 10 rfl rfl)
theorem dX2_looks_58 : decode cX2_looks 58 = .ok (.iload_n 2, 1) := dk_28 (dk_at dksX2_looks_2 11 rfl rfl)
theorem dX2_looks_59 : decode cX2_looks 59 = .ok (.imul, 1) := dk_104 (dk_at dksX2_looks_2 12 rfl rfl)
theorem dX2_looks_60 : decode cX2_looks 60 = .ok (.iload 4, 2) := dk_21 4 (dk_at dksX2_looks_2 13 rfl rfl)
theorem dX2_looks_62 : decode cX2_looks 62 = .ok (.iconst 2, 1) := dk_5 (dk_at dksX2_looks_2 15 rfl rfl)
theorem dX2_looks_63 : decode cX2_looks 63 = .ok (.irem, 1) := dk_112 (dk_at dksX2_looks_2 16 rfl rfl)
theorem dX2_looks_64 : decode cX2_looks 64 = .ok (.iadd, 1) := dk_96 (dk_at dksX2_looks_2 17 rfl rfl)
theorem dX2_looks_65 : decode cX2_looks 65 = .ok (.invokevirtual 85, 3) := dk_182 0 85 (dk_at dksX2_looks_2 18 rfl rfl)
theorem dX2_looks_68 : decode cX2_looks 68 = .ok (.ifCond .eq 31, 3) := dk_153 0 31 (dk_at dksX2_looks_2 21 rfl rfl)
theorem dX2_looks_71 : decode cX2_looks 71 = .ok (.aload_n 0, 1) := dk_42 (dk_at dksX2_looks_3 0 rfl rfl)
theorem dX2_looks_72 : decode cX2_looks 72 = .ok (.iconst 2, 1) := dk_5 (dk_at dksX2_looks_3 1 rfl rfl)
theorem dX2_looks_73 : decode cX2_looks 73 = .ok (.iload_n 1, 1) := dk_27 (dk_at dksX2_looks_3 2 rfl rfl)
theorem dX2_looks_74 : decode cX2_looks 74 = .ok (.imul, 1) := dk_104 (dk_at dksX2_looks_3 3 rfl rfl)
theorem dX2_looks_75 : decode cX2_looks 75 = .ok (.iload 4, 2) := dk_21 4 (dk_at dksX2_looks_3 4 rfl rfl)
theorem dX2_looks_77 : decode cX2_looks 77 = .ok (.iconst 2, 1) := dk_5 (dk_at dksX2_looks_3 6 rfl rfl)
theorem dX2_looks_78 : decode cX2_looks 78 = .ok (.idiv, 1) := dk_108 (dk_at dksX2_looks_3 7 rfl rfl)
theorem dX2_looks_79 : decode cX2_looks 79 = .ok (.iadd, 1) := dk_96 (dk_at dksX2_looks_3 8 rfl rfl)
theorem dX2_looks_80 : decode cX2_looks 80 = .ok (.iconst 2, 1) := dk_5 (dk_at dksX2_looks_3 9 rfl rfl)
theorem dX2_looks_81 : decode cX2_looks 81 = .ok (.iload_n 2, 1) := dk_28 (dk_at dksX2_looks_3 10 rfl rfl)
theorem dX2_looks_82 : decode cX2_looks 82 = .ok (.imul, 1) := dk_104 (dk_at dksX2_looks_3 11 rfl rfl)
theorem dX2_looks_83 : decode cX2_looks 83 = .ok (.iload 4, 2) := dk_21 4 (dk_at dksX2_looks_3 12 rfl rfl)
theorem dX2_looks_85 : decode cX2_looks 85 = .ok (.iconst 2, 1) := dk_5 (dk_at dksX2_looks_3 14 rfl rfl)
theorem dX2_looks_86 : decode cX2_looks 86 = .ok (.irem, 1) := dk_112 (dk_at dksX2_looks_3 15 rfl rfl)
theorem dX2_looks_87 : decode cX2_looks 87 = .ok (.iadd, 1) := dk_96 (dk_at dksX2_looks_3 16 rfl rfl)
theorem dX2_looks_88 : decode cX2_looks 88 = .ok (.invokevirtual 89, 3) := dk_182 0 89 (dk_at dksX2_looks_3 17 rfl rfl)
theorem dX2_looks_91 : decode cX2_looks 91 = .ok (.iconst 3, 1) := dk_6 (dk_at dksX2_looks_3 20 rfl rfl)
theorem dX2_looks_92 : decode cX2_looks 92 = .ok (.if_icmp .ne 7, 3) := dk_160 0 7 (dk_at dksX2_looks_3 21 rfl rfl)
theorem dX2_looks_95 : decode cX2_looks 95 = .ok (.iconst 1, 1) := dk_4 (dk_at dksX2_looks_4 0 rfl rfl)
theorem dX2_looks_96 : decode cX2_looks 96 = .ok (.goto 4, 3) := dk_167 0 4 (dk_at dksX2_looks_4 1 rfl rfl)
theorem dX2_looks_99 : decode cX2_looks 99 = .ok (.iconst 0, 1) := dk_3 (dk_at dksX2_looks_4 4 rfl rfl)
theorem dX2_looks_100 : decode cX2_looks 100 = .ok (.istore_n 3, 1) := dk_62 (dk_at dksX2_looks_4 5 rfl rfl)
theorem dX2_looks_101 : decode cX2_looks 101 = .ok (.iinc 4 1, 3) := dk_132 4 1 (dk_at dksX2_looks_4 6 rfl rfl)
theorem dX2_looks_104 : decode cX2_looks 104 = .ok (.goto (-73), 3) := dk_167 255 183 (dk_at dksX2_looks_4 9 rfl rfl)
theorem dX2_looks_107 : decode cX2_looks 107 = .ok (.iload_n 3, 1) := dk_29 (dk_at dksX2_looks_4 12 rfl rfl)
theorem dX2_looks_108 : decode cX2_looks 108 = .ok (.ifCond .ne 6, 3) := dk_154 0 6 (dk_at dksX2_looks_4 13 rfl rfl)
theorem dX2_looks_111 : decode cX2_looks 111 = .ok (.goto 33, 3) := dk_167 0 33 (dk_at dksX2_looks_4 16 rfl rfl)
theorem dX2_looks_114 : decode cX2_looks 114 = .ok (.aload_n 0, 1) := dk_42 (dk_at dksX2_looks_4 19 rfl rfl)
theorem dX2_looks_115 : decode cX2_looks 115 = .ok (.getfield 33, 3) := dk_180 0 33 (dk_at dksX2_looks_4 20 rfl rfl)
theorem dX2_looks_118 : decode cX2_looks 118 = .ok (.aload_n 0, 1) := dk_42 (dk_at dksX2_looks_4 23 rfl rfl)
theorem dX2_looks_119 : decode cX2_looks 119 = .ok (.getfield 93, 3) := dk_180 0 93 (dk_at dksX2_looks_5 0 rfl rfl)
theorem dX2_looks_122 : decode cX2_looks 122 = .ok (.iload_n 1, 1) := dk_27 (dk_at dksX2_looks_5 3 rfl rfl)
theorem dX2_looks_123 : decode cX2_looks 123 = .ok (.iastore, 1) := dk_79 (dk_at dksX2_looks_5 4 rfl rfl)
theorem dX2_looks_124 : decode cX2_looks 124 = .ok (.aload_n 0, 1) := dk_42 (dk_at dksX2_looks_5 5 rfl rfl)
theorem dX2_looks_125 : decode cX2_looks 125 = .ok (.getfield 36, 3) := dk_180 0 36 (dk_at dksX2_looks_5 6 rfl rfl)
theorem dX2_looks_128 : decode cX2_looks 128 = .ok (.aload_n 0, 1) := dk_42 (dk_at dksX2_looks_5 9 rfl rfl)
theorem dX2_looks_129 : decode cX2_looks 129 = .ok (.getfield 93, 3) := dk_180 0 93 (dk_at dksX2_looks_5 10 rfl rfl)
theorem dX2_looks_132 : decode cX2_looks 132 = .ok (.iload_n 2, 1) := dk_28 (dk_at dksX2_looks_5 13 rfl rfl)
theorem dX2_looks_133 : decode cX2_looks 133 = .ok (.iastore, 1) := dk_79 (dk_at dksX2_looks_5 14 rfl rfl)
theorem dX2_looks_134 : decode cX2_looks 134 = .ok (.aload_n 0, 1) := dk_42 (dk_at dksX2_looks_5 15 rfl rfl)
theorem dX2_looks_135 : decode cX2_looks 135 = .ok (.dup, 1) := dk_89 (dk_at dksX2_looks_5 16 rfl rfl)
theorem dX2_looks_136 : decode cX2_looks 136 = .ok (.getfield 93, 3) := dk_180 0 93 (dk_at dksX2_looks_5 17 rfl rfl)
theorem dX2_looks_139 : decode cX2_looks 139 = .ok (.iconst 1, 1) := dk_4 (dk_at dksX2_looks_5 20 rfl rfl)
theorem dX2_looks_140 : decode cX2_looks 140 = .ok (.iadd, 1) := dk_96 (dk_at dksX2_looks_5 21 rfl rfl)
theorem dX2_looks_141 : decode cX2_looks 141 = .ok (.putfield 93, 3) := dk_181 0 93 (dk_at dksX2_looks_6 0 rfl rfl)
theorem dX2_looks_144 : decode cX2_looks 144 = .ok (.iinc 2 1, 3) := dk_132 2 1 (dk_at dksX2_looks_6 3 rfl rfl)
theorem dX2_looks_147 : decode cX2_looks 147 = .ok (.goto (-132), 3) := dk_167 255 124 (dk_at dksX2_looks_6 6 rfl rfl)
theorem dX2_looks_150 : decode cX2_looks 150 = .ok (.iinc 1 1, 3) := dk_132 1 1 (dk_at dksX2_looks_6 9 rfl rfl)
theorem dX2_looks_153 : decode cX2_looks 153 = .ok (.goto (-151), 3) := dk_167 255 105 (dk_at dksX2_looks_6 12 rfl rfl)
theorem dX2_looks_156 : decode cX2_looks 156 = .ok (.return_, 1) := dk_177 (dk_at dksX2_looks_6 15 rfl rfl)
abbrev cX2_isArc : ByteArray := prog_7_method_4_code
def yX2_isArc : MethodName := ⟨RX2, "isArc", "(I)Z"⟩
def dkwX2_isArc_1 : List UInt8 := [180, 0, 56, 154, 0, 7, 4, 167, 0, 4, 3, 172]
abbrev dktX2_isArc_1 : List UInt8 := dkwX2_isArc_1 ++ []
def dkwX2_isArc_0 : List UInt8 := [27, 155, 0, 33, 27, 42, 182, 0, 49, 162, 0, 25, 27, 5, 112, 4, 160, 0, 14, 42, 27, 182, 0, 52]
abbrev dktX2_isArc_0 : List UInt8 := dkwX2_isArc_0 ++ dktX2_isArc_1
theorem dksX2_isArc_0 : cX2_isArc.data.toList.drop 0 = dktX2_isArc_0 := by decide +kernel
theorem dksX2_isArc_1 : cX2_isArc.data.toList.drop 24 = dktX2_isArc_1 := dk_seg dksX2_isArc_0 24 rfl rfl
theorem dX2_isArc_0 : decode cX2_isArc 0 = .ok (.iload_n 1, 1) := dk_27 (dk_at dksX2_isArc_0 0 rfl rfl)
theorem dX2_isArc_1 : decode cX2_isArc 1 = .ok (.ifCond .lt 33, 3) := dk_155 0 33 (dk_at dksX2_isArc_0 1 rfl rfl)
theorem dX2_isArc_4 : decode cX2_isArc 4 = .ok (.iload_n 1, 1) := dk_27 (dk_at dksX2_isArc_0 4 rfl rfl)
theorem dX2_isArc_5 : decode cX2_isArc 5 = .ok (.aload_n 0, 1) := dk_42 (dk_at dksX2_isArc_0 5 rfl rfl)
theorem dX2_isArc_6 : decode cX2_isArc 6 = .ok (.invokevirtual 49, 3) := dk_182 0 49 (dk_at dksX2_isArc_0 6 rfl rfl)
theorem dX2_isArc_9 : decode cX2_isArc 9 = .ok (.if_icmp .ge 25, 3) := dk_162 0 25 (dk_at dksX2_isArc_0 9 rfl rfl)
theorem dX2_isArc_12 : decode cX2_isArc 12 = .ok (.iload_n 1, 1) := dk_27 (dk_at dksX2_isArc_0 12 rfl rfl)
theorem dX2_isArc_13 : decode cX2_isArc 13 = .ok (.iconst 2, 1) := dk_5 (dk_at dksX2_isArc_0 13 rfl rfl)
theorem dX2_isArc_14 : decode cX2_isArc 14 = .ok (.irem, 1) := dk_112 (dk_at dksX2_isArc_0 14 rfl rfl)
theorem dX2_isArc_15 : decode cX2_isArc 15 = .ok (.iconst 1, 1) := dk_4 (dk_at dksX2_isArc_0 15 rfl rfl)
theorem dX2_isArc_16 : decode cX2_isArc 16 = .ok (.if_icmp .ne 14, 3) := dk_160 0 14 (dk_at dksX2_isArc_0 16 rfl rfl)
theorem dX2_isArc_19 : decode cX2_isArc 19 = .ok (.aload_n 0, 1) := dk_42 (dk_at dksX2_isArc_0 19 rfl rfl)
theorem dX2_isArc_20 : decode cX2_isArc 20 = .ok (.iload_n 1, 1) := dk_27 (dk_at dksX2_isArc_0 20 rfl rfl)
theorem dX2_isArc_21 : decode cX2_isArc 21 = .ok (.invokevirtual 52, 3) := dk_182 0 52 (dk_at dksX2_isArc_0 21 rfl rfl)
theorem dX2_isArc_24 : decode cX2_isArc 24 = .ok (.getfield 56, 3) := dk_180 0 56 (dk_at dksX2_isArc_1 0 rfl rfl)
theorem dX2_isArc_27 : decode cX2_isArc 27 = .ok (.ifCond .ne 7, 3) := dk_154 0 7 (dk_at dksX2_isArc_1 3 rfl rfl)
theorem dX2_isArc_30 : decode cX2_isArc 30 = .ok (.iconst 1, 1) := dk_4 (dk_at dksX2_isArc_1 6 rfl rfl)
theorem dX2_isArc_31 : decode cX2_isArc 31 = .ok (.goto 4, 3) := dk_167 0 4 (dk_at dksX2_isArc_1 7 rfl rfl)
theorem dX2_isArc_34 : decode cX2_isArc 34 = .ok (.iconst 0, 1) := dk_3 (dk_at dksX2_isArc_1 10 rfl rfl)
theorem dX2_isArc_35 : decode cX2_isArc 35 = .ok (.ireturn, 1) := dk_172 (dk_at dksX2_isArc_1 11 rfl rfl)
abbrev cX2_arcs : ByteArray := prog_7_method_2_code
def yX2_arcs : MethodName := ⟨RX2, "arcs", "()I"⟩
def dkwX2_arcs_0 : List UInt8 := [5, 42, 180, 0, 20, 182, 0, 39, 104, 172]
abbrev dktX2_arcs_0 : List UInt8 := dkwX2_arcs_0 ++ []
theorem dksX2_arcs_0 : cX2_arcs.data.toList.drop 0 = dktX2_arcs_0 := by decide +kernel
theorem dX2_arcs_0 : decode cX2_arcs 0 = .ok (.iconst 2, 1) := dk_5 (dk_at dksX2_arcs_0 0 rfl rfl)
theorem dX2_arcs_1 : decode cX2_arcs 1 = .ok (.aload_n 0, 1) := dk_42 (dk_at dksX2_arcs_0 1 rfl rfl)
theorem dX2_arcs_2 : decode cX2_arcs 2 = .ok (.getfield 20, 3) := dk_180 0 20 (dk_at dksX2_arcs_0 2 rfl rfl)
theorem dX2_arcs_5 : decode cX2_arcs 5 = .ok (.invokevirtual 39, 3) := dk_182 0 39 (dk_at dksX2_arcs_0 5 rfl rfl)
theorem dX2_arcs_8 : decode cX2_arcs 8 = .ok (.imul, 1) := dk_104 (dk_at dksX2_arcs_0 8 rfl rfl)
theorem dX2_arcs_9 : decode cX2_arcs 9 = .ok (.ireturn, 1) := dk_172 (dk_at dksX2_arcs_0 9 rfl rfl)
abbrev cX2_of : ByteArray := prog_7_method_3_code
def yX2_of : MethodName := ⟨RX2, "of", "(I)LRightTurns$Street;"⟩
def dkwX2_of_0 : List UInt8 := [42, 180, 0, 20, 27, 5, 108, 182, 0, 43, 192, 0, 47, 176]
abbrev dktX2_of_0 : List UInt8 := dkwX2_of_0 ++ []
theorem dksX2_of_0 : cX2_of.data.toList.drop 0 = dktX2_of_0 := by decide +kernel
theorem dX2_of_0 : decode cX2_of 0 = .ok (.aload_n 0, 1) := dk_42 (dk_at dksX2_of_0 0 rfl rfl)
theorem dX2_of_1 : decode cX2_of 1 = .ok (.getfield 20, 3) := dk_180 0 20 (dk_at dksX2_of_0 1 rfl rfl)
theorem dX2_of_4 : decode cX2_of 4 = .ok (.iload_n 1, 1) := dk_27 (dk_at dksX2_of_0 4 rfl rfl)
theorem dX2_of_5 : decode cX2_of 5 = .ok (.iconst 2, 1) := dk_5 (dk_at dksX2_of_0 5 rfl rfl)
theorem dX2_of_6 : decode cX2_of 6 = .ok (.idiv, 1) := dk_108 (dk_at dksX2_of_0 6 rfl rfl)
theorem dX2_of_7 : decode cX2_of 7 = .ok (.invokevirtual 43, 3) := dk_182 0 43 (dk_at dksX2_of_0 7 rfl rfl)
theorem dX2_of_10 : decode cX2_of 10 = .ok (.checkcast 47, 3) := dk_192 0 47 (dk_at dksX2_of_0 10 rfl rfl)
theorem dX2_of_13 : decode cX2_of 13 = .ok (.areturn, 1) := dk_176 (dk_at dksX2_of_0 13 rfl rfl)
abbrev cX2_turn : ByteArray := prog_7_method_8_code
def yX2_turn : MethodName := ⟨RX2, "turn", "(II)I"⟩
def dkwX2_turn_8 : List UInt8 := [167, 0, 13, 21, 7, 158, 0, 7, 5, 167, 0, 4, 3, 172]
abbrev dktX2_turn_8 : List UInt8 := dkwX2_turn_8 ++ []
def dkwX2_turn_7 : List UInt8 := [180, 0, 82, 100, 104, 96, 54, 7, 21, 6, 158, 0, 7, 6, 167, 0, 22, 21, 6, 156, 0, 7, 4]
abbrev dktX2_turn_7 : List UInt8 := dkwX2_turn_7 ++ dktX2_turn_8
def dkwX2_turn_6 : List UInt8 := [25, 4, 180, 0, 79, 100, 104, 25, 4, 180, 0, 82, 45, 180, 0, 82, 100, 25, 5, 180, 0, 82, 25, 4]
abbrev dktX2_turn_6 : List UInt8 := dkwX2_turn_6 ++ dktX2_turn_7
def dkwX2_turn_5 : List UInt8 := [180, 0, 79, 100, 104, 100, 54, 6, 25, 4, 180, 0, 79, 45, 180, 0, 79, 100, 25, 5, 180, 0, 79]
abbrev dktX2_turn_5 : List UInt8 := dkwX2_turn_5 ++ dktX2_turn_6
def dkwX2_turn_4 : List UInt8 := [180, 0, 82, 100, 104, 25, 4, 180, 0, 82, 45, 180, 0, 82, 100, 25, 5, 180, 0, 79, 25, 4]
abbrev dktX2_turn_4 : List UInt8 := dkwX2_turn_4 ++ dktX2_turn_5
def dkwX2_turn_3 : List UInt8 := [192, 0, 77, 58, 5, 25, 4, 180, 0, 79, 45, 180, 0, 79, 100, 25, 5, 180, 0, 82, 25, 4]
abbrev dktX2_turn_3 : List UInt8 := dkwX2_turn_3 ++ dktX2_turn_4
def dkwX2_turn_2 : List UInt8 := [182, 0, 70, 182, 0, 43, 192, 0, 77, 58, 4, 42, 180, 0, 14, 42, 28, 182, 0, 70, 182, 0, 43]
abbrev dktX2_turn_2 : List UInt8 := dkwX2_turn_2 ++ dktX2_turn_3
def dkwX2_turn_1 : List UInt8 := [3, 172, 42, 180, 0, 14, 42, 27, 182, 0, 74, 182, 0, 43, 192, 0, 77, 78, 42, 180, 0, 14, 42, 27]
abbrev dktX2_turn_1 : List UInt8 := dkwX2_turn_1 ++ dktX2_turn_2
def dkwX2_turn_0 : List UInt8 := [42, 27, 182, 0, 70, 42, 28, 182, 0, 74, 159, 0, 5, 2, 172, 27, 5, 108, 28, 5, 108, 160, 0, 5]
abbrev dktX2_turn_0 : List UInt8 := dkwX2_turn_0 ++ dktX2_turn_1
theorem dksX2_turn_0 : cX2_turn.data.toList.drop 0 = dktX2_turn_0 := by decide +kernel
theorem dksX2_turn_1 : cX2_turn.data.toList.drop 24 = dktX2_turn_1 := dk_seg dksX2_turn_0 24 rfl rfl
theorem dksX2_turn_2 : cX2_turn.data.toList.drop 48 = dktX2_turn_2 := dk_seg dksX2_turn_1 24 rfl rfl
theorem dksX2_turn_3 : cX2_turn.data.toList.drop 71 = dktX2_turn_3 := dk_seg dksX2_turn_2 23 rfl rfl
theorem dksX2_turn_4 : cX2_turn.data.toList.drop 93 = dktX2_turn_4 := dk_seg dksX2_turn_3 22 rfl rfl
theorem dksX2_turn_5 : cX2_turn.data.toList.drop 115 = dktX2_turn_5 := dk_seg dksX2_turn_4 22 rfl rfl
theorem dksX2_turn_6 : cX2_turn.data.toList.drop 138 = dktX2_turn_6 := dk_seg dksX2_turn_5 23 rfl rfl
theorem dksX2_turn_7 : cX2_turn.data.toList.drop 162 = dktX2_turn_7 := dk_seg dksX2_turn_6 24 rfl rfl
theorem dksX2_turn_8 : cX2_turn.data.toList.drop 185 = dktX2_turn_8 := dk_seg dksX2_turn_7 23 rfl rfl
theorem dX2_turn_0 : decode cX2_turn 0 = .ok (.aload_n 0, 1) := dk_42 (dk_at dksX2_turn_0 0 rfl rfl)
theorem dX2_turn_1 : decode cX2_turn 1 = .ok (.iload_n 1, 1) := dk_27 (dk_at dksX2_turn_0 1 rfl rfl)
theorem dX2_turn_2 : decode cX2_turn 2 = .ok (.invokevirtual 70, 3) := dk_182 0 70 (dk_at dksX2_turn_0 2 rfl rfl)
theorem dX2_turn_5 : decode cX2_turn 5 = .ok (.aload_n 0, 1) := dk_42 (dk_at dksX2_turn_0 5 rfl rfl)
theorem dX2_turn_6 : decode cX2_turn 6 = .ok (.iload_n 2, 1) := dk_28 (dk_at dksX2_turn_0 6 rfl rfl)
theorem dX2_turn_7 : decode cX2_turn 7 = .ok (.invokevirtual 74, 3) := dk_182 0 74 (dk_at dksX2_turn_0 7 rfl rfl)
theorem dX2_turn_10 : decode cX2_turn 10 = .ok (.if_icmp .eq 5, 3) := dk_159 0 5 (dk_at dksX2_turn_0 10 rfl rfl)
theorem dX2_turn_13 : decode cX2_turn 13 = .ok (.iconst (-1), 1) := dk_2 (dk_at dksX2_turn_0 13 rfl rfl)
theorem dX2_turn_14 : decode cX2_turn 14 = .ok (.ireturn, 1) := dk_172 (dk_at dksX2_turn_0 14 rfl rfl)
theorem dX2_turn_15 : decode cX2_turn 15 = .ok (.iload_n 1, 1) := dk_27 (dk_at dksX2_turn_0 15 rfl rfl)
theorem dX2_turn_16 : decode cX2_turn 16 = .ok (.iconst 2, 1) := dk_5 (dk_at dksX2_turn_0 16 rfl rfl)
theorem dX2_turn_17 : decode cX2_turn 17 = .ok (.idiv, 1) := dk_108 (dk_at dksX2_turn_0 17 rfl rfl)
theorem dX2_turn_18 : decode cX2_turn 18 = .ok (.iload_n 2, 1) := dk_28 (dk_at dksX2_turn_0 18 rfl rfl)
theorem dX2_turn_19 : decode cX2_turn 19 = .ok (.iconst 2, 1) := dk_5 (dk_at dksX2_turn_0 19 rfl rfl)
theorem dX2_turn_20 : decode cX2_turn 20 = .ok (.idiv, 1) := dk_108 (dk_at dksX2_turn_0 20 rfl rfl)
theorem dX2_turn_21 : decode cX2_turn 21 = .ok (.if_icmp .ne 5, 3) := dk_160 0 5 (dk_at dksX2_turn_0 21 rfl rfl)
theorem dX2_turn_24 : decode cX2_turn 24 = .ok (.iconst 0, 1) := dk_3 (dk_at dksX2_turn_1 0 rfl rfl)
theorem dX2_turn_25 : decode cX2_turn 25 = .ok (.ireturn, 1) := dk_172 (dk_at dksX2_turn_1 1 rfl rfl)
theorem dX2_turn_26 : decode cX2_turn 26 = .ok (.aload_n 0, 1) := dk_42 (dk_at dksX2_turn_1 2 rfl rfl)
theorem dX2_turn_27 : decode cX2_turn 27 = .ok (.getfield 14, 3) := dk_180 0 14 (dk_at dksX2_turn_1 3 rfl rfl)
theorem dX2_turn_30 : decode cX2_turn 30 = .ok (.aload_n 0, 1) := dk_42 (dk_at dksX2_turn_1 6 rfl rfl)
theorem dX2_turn_31 : decode cX2_turn 31 = .ok (.iload_n 1, 1) := dk_27 (dk_at dksX2_turn_1 7 rfl rfl)
theorem dX2_turn_32 : decode cX2_turn 32 = .ok (.invokevirtual 74, 3) := dk_182 0 74 (dk_at dksX2_turn_1 8 rfl rfl)
theorem dX2_turn_35 : decode cX2_turn 35 = .ok (.invokevirtual 43, 3) := dk_182 0 43 (dk_at dksX2_turn_1 11 rfl rfl)
theorem dX2_turn_38 : decode cX2_turn 38 = .ok (.checkcast 77, 3) := dk_192 0 77 (dk_at dksX2_turn_1 14 rfl rfl)
theorem dX2_turn_41 : decode cX2_turn 41 = .ok (.astore_n 3, 1) := dk_78 (dk_at dksX2_turn_1 17 rfl rfl)
theorem dX2_turn_42 : decode cX2_turn 42 = .ok (.aload_n 0, 1) := dk_42 (dk_at dksX2_turn_1 18 rfl rfl)
theorem dX2_turn_43 : decode cX2_turn 43 = .ok (.getfield 14, 3) := dk_180 0 14 (dk_at dksX2_turn_1 19 rfl rfl)
theorem dX2_turn_46 : decode cX2_turn 46 = .ok (.aload_n 0, 1) := dk_42 (dk_at dksX2_turn_1 22 rfl rfl)
theorem dX2_turn_47 : decode cX2_turn 47 = .ok (.iload_n 1, 1) := dk_27 (dk_at dksX2_turn_1 23 rfl rfl)
theorem dX2_turn_48 : decode cX2_turn 48 = .ok (.invokevirtual 70, 3) := dk_182 0 70 (dk_at dksX2_turn_2 0 rfl rfl)
theorem dX2_turn_51 : decode cX2_turn 51 = .ok (.invokevirtual 43, 3) := dk_182 0 43 (dk_at dksX2_turn_2 3 rfl rfl)
theorem dX2_turn_54 : decode cX2_turn 54 = .ok (.checkcast 77, 3) := dk_192 0 77 (dk_at dksX2_turn_2 6 rfl rfl)
theorem dX2_turn_57 : decode cX2_turn 57 = .ok (.astore 4, 2) := dk_58 4 (dk_at dksX2_turn_2 9 rfl rfl)
theorem dX2_turn_59 : decode cX2_turn 59 = .ok (.aload_n 0, 1) := dk_42 (dk_at dksX2_turn_2 11 rfl rfl)
theorem dX2_turn_60 : decode cX2_turn 60 = .ok (.getfield 14, 3) := dk_180 0 14 (dk_at dksX2_turn_2 12 rfl rfl)
theorem dX2_turn_63 : decode cX2_turn 63 = .ok (.aload_n 0, 1) := dk_42 (dk_at dksX2_turn_2 15 rfl rfl)
theorem dX2_turn_64 : decode cX2_turn 64 = .ok (.iload_n 2, 1) := dk_28 (dk_at dksX2_turn_2 16 rfl rfl)
theorem dX2_turn_65 : decode cX2_turn 65 = .ok (.invokevirtual 70, 3) := dk_182 0 70 (dk_at dksX2_turn_2 17 rfl rfl)
theorem dX2_turn_68 : decode cX2_turn 68 = .ok (.invokevirtual 43, 3) := dk_182 0 43 (dk_at dksX2_turn_2 20 rfl rfl)
theorem dX2_turn_71 : decode cX2_turn 71 = .ok (.checkcast 77, 3) := dk_192 0 77 (dk_at dksX2_turn_3 0 rfl rfl)
theorem dX2_turn_74 : decode cX2_turn 74 = .ok (.astore 5, 2) := dk_58 5 (dk_at dksX2_turn_3 3 rfl rfl)
theorem dX2_turn_76 : decode cX2_turn 76 = .ok (.aload 4, 2) := dk_25 4 (dk_at dksX2_turn_3 5 rfl rfl)
theorem dX2_turn_78 : decode cX2_turn 78 = .ok (.getfield 79, 3) := dk_180 0 79 (dk_at dksX2_turn_3 7 rfl rfl)
theorem dX2_turn_81 : decode cX2_turn 81 = .ok (.aload_n 3, 1) := dk_45 (dk_at dksX2_turn_3 10 rfl rfl)
theorem dX2_turn_82 : decode cX2_turn 82 = .ok (.getfield 79, 3) := dk_180 0 79 (dk_at dksX2_turn_3 11 rfl rfl)
theorem dX2_turn_85 : decode cX2_turn 85 = .ok (.isub, 1) := dk_100 (dk_at dksX2_turn_3 14 rfl rfl)
theorem dX2_turn_86 : decode cX2_turn 86 = .ok (.aload 5, 2) := dk_25 5 (dk_at dksX2_turn_3 15 rfl rfl)
theorem dX2_turn_88 : decode cX2_turn 88 = .ok (.getfield 82, 3) := dk_180 0 82 (dk_at dksX2_turn_3 17 rfl rfl)
theorem dX2_turn_91 : decode cX2_turn 91 = .ok (.aload 4, 2) := dk_25 4 (dk_at dksX2_turn_3 20 rfl rfl)
theorem dX2_turn_93 : decode cX2_turn 93 = .ok (.getfield 82, 3) := dk_180 0 82 (dk_at dksX2_turn_4 0 rfl rfl)
theorem dX2_turn_96 : decode cX2_turn 96 = .ok (.isub, 1) := dk_100 (dk_at dksX2_turn_4 3 rfl rfl)
theorem dX2_turn_97 : decode cX2_turn 97 = .ok (.imul, 1) := dk_104 (dk_at dksX2_turn_4 4 rfl rfl)
theorem dX2_turn_98 : decode cX2_turn 98 = .ok (.aload 4, 2) := dk_25 4 (dk_at dksX2_turn_4 5 rfl rfl)
theorem dX2_turn_100 : decode cX2_turn 100 = .ok (.getfield 82, 3) := dk_180 0 82 (dk_at dksX2_turn_4 7 rfl rfl)
theorem dX2_turn_103 : decode cX2_turn 103 = .ok (.aload_n 3, 1) := dk_45 (dk_at dksX2_turn_4 10 rfl rfl)
theorem dX2_turn_104 : decode cX2_turn 104 = .ok (.getfield 82, 3) := dk_180 0 82 (dk_at dksX2_turn_4 11 rfl rfl)
theorem dX2_turn_107 : decode cX2_turn 107 = .ok (.isub, 1) := dk_100 (dk_at dksX2_turn_4 14 rfl rfl)
theorem dX2_turn_108 : decode cX2_turn 108 = .ok (.aload 5, 2) := dk_25 5 (dk_at dksX2_turn_4 15 rfl rfl)
theorem dX2_turn_110 : decode cX2_turn 110 = .ok (.getfield 79, 3) := dk_180 0 79 (dk_at dksX2_turn_4 17 rfl rfl)
theorem dX2_turn_113 : decode cX2_turn 113 = .ok (.aload 4, 2) := dk_25 4 (dk_at dksX2_turn_4 20 rfl rfl)
theorem dX2_turn_115 : decode cX2_turn 115 = .ok (.getfield 79, 3) := dk_180 0 79 (dk_at dksX2_turn_5 0 rfl rfl)
theorem dX2_turn_118 : decode cX2_turn 118 = .ok (.isub, 1) := dk_100 (dk_at dksX2_turn_5 3 rfl rfl)
theorem dX2_turn_119 : decode cX2_turn 119 = .ok (.imul, 1) := dk_104 (dk_at dksX2_turn_5 4 rfl rfl)
theorem dX2_turn_120 : decode cX2_turn 120 = .ok (.isub, 1) := dk_100 (dk_at dksX2_turn_5 5 rfl rfl)
theorem dX2_turn_121 : decode cX2_turn 121 = .ok (.istore 6, 2) := dk_54 6 (dk_at dksX2_turn_5 6 rfl rfl)
theorem dX2_turn_123 : decode cX2_turn 123 = .ok (.aload 4, 2) := dk_25 4 (dk_at dksX2_turn_5 8 rfl rfl)
theorem dX2_turn_125 : decode cX2_turn 125 = .ok (.getfield 79, 3) := dk_180 0 79 (dk_at dksX2_turn_5 10 rfl rfl)
theorem dX2_turn_128 : decode cX2_turn 128 = .ok (.aload_n 3, 1) := dk_45 (dk_at dksX2_turn_5 13 rfl rfl)
theorem dX2_turn_129 : decode cX2_turn 129 = .ok (.getfield 79, 3) := dk_180 0 79 (dk_at dksX2_turn_5 14 rfl rfl)
theorem dX2_turn_132 : decode cX2_turn 132 = .ok (.isub, 1) := dk_100 (dk_at dksX2_turn_5 17 rfl rfl)
theorem dX2_turn_133 : decode cX2_turn 133 = .ok (.aload 5, 2) := dk_25 5 (dk_at dksX2_turn_5 18 rfl rfl)
theorem dX2_turn_135 : decode cX2_turn 135 = .ok (.getfield 79, 3) := dk_180 0 79 (dk_at dksX2_turn_5 20 rfl rfl)
theorem dX2_turn_138 : decode cX2_turn 138 = .ok (.aload 4, 2) := dk_25 4 (dk_at dksX2_turn_6 0 rfl rfl)
theorem dX2_turn_140 : decode cX2_turn 140 = .ok (.getfield 79, 3) := dk_180 0 79 (dk_at dksX2_turn_6 2 rfl rfl)
theorem dX2_turn_143 : decode cX2_turn 143 = .ok (.isub, 1) := dk_100 (dk_at dksX2_turn_6 5 rfl rfl)
theorem dX2_turn_144 : decode cX2_turn 144 = .ok (.imul, 1) := dk_104 (dk_at dksX2_turn_6 6 rfl rfl)
theorem dX2_turn_145 : decode cX2_turn 145 = .ok (.aload 4, 2) := dk_25 4 (dk_at dksX2_turn_6 7 rfl rfl)
theorem dX2_turn_147 : decode cX2_turn 147 = .ok (.getfield 82, 3) := dk_180 0 82 (dk_at dksX2_turn_6 9 rfl rfl)
theorem dX2_turn_150 : decode cX2_turn 150 = .ok (.aload_n 3, 1) := dk_45 (dk_at dksX2_turn_6 12 rfl rfl)
theorem dX2_turn_151 : decode cX2_turn 151 = .ok (.getfield 82, 3) := dk_180 0 82 (dk_at dksX2_turn_6 13 rfl rfl)
theorem dX2_turn_154 : decode cX2_turn 154 = .ok (.isub, 1) := dk_100 (dk_at dksX2_turn_6 16 rfl rfl)
theorem dX2_turn_155 : decode cX2_turn 155 = .ok (.aload 5, 2) := dk_25 5 (dk_at dksX2_turn_6 17 rfl rfl)
theorem dX2_turn_157 : decode cX2_turn 157 = .ok (.getfield 82, 3) := dk_180 0 82 (dk_at dksX2_turn_6 19 rfl rfl)
theorem dX2_turn_160 : decode cX2_turn 160 = .ok (.aload 4, 2) := dk_25 4 (dk_at dksX2_turn_6 22 rfl rfl)
theorem dX2_turn_162 : decode cX2_turn 162 = .ok (.getfield 82, 3) := dk_180 0 82 (dk_at dksX2_turn_7 0 rfl rfl)
theorem dX2_turn_165 : decode cX2_turn 165 = .ok (.isub, 1) := dk_100 (dk_at dksX2_turn_7 3 rfl rfl)
theorem dX2_turn_166 : decode cX2_turn 166 = .ok (.imul, 1) := dk_104 (dk_at dksX2_turn_7 4 rfl rfl)
theorem dX2_turn_167 : decode cX2_turn 167 = .ok (.iadd, 1) := dk_96 (dk_at dksX2_turn_7 5 rfl rfl)
theorem dX2_turn_168 : decode cX2_turn 168 = .ok (.istore 7, 2) := dk_54 7 (dk_at dksX2_turn_7 6 rfl rfl)
theorem dX2_turn_170 : decode cX2_turn 170 = .ok (.iload 6, 2) := dk_21 6 (dk_at dksX2_turn_7 8 rfl rfl)
theorem dX2_turn_172 : decode cX2_turn 172 = .ok (.ifCond .le 7, 3) := dk_158 0 7 (dk_at dksX2_turn_7 10 rfl rfl)
theorem dX2_turn_175 : decode cX2_turn 175 = .ok (.iconst 3, 1) := dk_6 (dk_at dksX2_turn_7 13 rfl rfl)
theorem dX2_turn_176 : decode cX2_turn 176 = .ok (.goto 22, 3) := dk_167 0 22 (dk_at dksX2_turn_7 14 rfl rfl)
theorem dX2_turn_179 : decode cX2_turn 179 = .ok (.iload 6, 2) := dk_21 6 (dk_at dksX2_turn_7 17 rfl rfl)
theorem dX2_turn_181 : decode cX2_turn 181 = .ok (.ifCond .ge 7, 3) := dk_156 0 7 (dk_at dksX2_turn_7 19 rfl rfl)
theorem dX2_turn_184 : decode cX2_turn 184 = .ok (.iconst 1, 1) := dk_4 (dk_at dksX2_turn_7 22 rfl rfl)
theorem dX2_turn_185 : decode cX2_turn 185 = .ok (.goto 13, 3) := dk_167 0 13 (dk_at dksX2_turn_8 0 rfl rfl)
theorem dX2_turn_188 : decode cX2_turn 188 = .ok (.iload 7, 2) := dk_21 7 (dk_at dksX2_turn_8 3 rfl rfl)
theorem dX2_turn_190 : decode cX2_turn 190 = .ok (.ifCond .le 7, 3) := dk_158 0 7 (dk_at dksX2_turn_8 5 rfl rfl)
theorem dX2_turn_193 : decode cX2_turn 193 = .ok (.iconst 2, 1) := dk_5 (dk_at dksX2_turn_8 8 rfl rfl)
theorem dX2_turn_194 : decode cX2_turn 194 = .ok (.goto 4, 3) := dk_167 0 4 (dk_at dksX2_turn_8 9 rfl rfl)
theorem dX2_turn_197 : decode cX2_turn 197 = .ok (.iconst 0, 1) := dk_3 (dk_at dksX2_turn_8 12 rfl rfl)
theorem dX2_turn_198 : decode cX2_turn 198 = .ok (.ireturn, 1) := dk_172 (dk_at dksX2_turn_8 13 rfl rfl)
abbrev cX2_end : ByteArray := prog_7_method_6_code
def yX2_end : MethodName := ⟨RX2, "end", "(I)I"⟩
def dkwX2_end_1 : List UInt8 := [180, 0, 60, 172]
abbrev dktX2_end_1 : List UInt8 := dkwX2_end_1 ++ []
def dkwX2_end_0 : List UInt8 := [27, 5, 112, 154, 0, 14, 42, 27, 182, 0, 52, 180, 0, 64, 167, 0, 11, 42, 27, 182, 0, 52]
abbrev dktX2_end_0 : List UInt8 := dkwX2_end_0 ++ dktX2_end_1
theorem dksX2_end_0 : cX2_end.data.toList.drop 0 = dktX2_end_0 := by decide +kernel
theorem dksX2_end_1 : cX2_end.data.toList.drop 22 = dktX2_end_1 := dk_seg dksX2_end_0 22 rfl rfl
theorem dX2_end_0 : decode cX2_end 0 = .ok (.iload_n 1, 1) := dk_27 (dk_at dksX2_end_0 0 rfl rfl)
theorem dX2_end_1 : decode cX2_end 1 = .ok (.iconst 2, 1) := dk_5 (dk_at dksX2_end_0 1 rfl rfl)
theorem dX2_end_2 : decode cX2_end 2 = .ok (.irem, 1) := dk_112 (dk_at dksX2_end_0 2 rfl rfl)
theorem dX2_end_3 : decode cX2_end 3 = .ok (.ifCond .ne 14, 3) := dk_154 0 14 (dk_at dksX2_end_0 3 rfl rfl)
theorem dX2_end_6 : decode cX2_end 6 = .ok (.aload_n 0, 1) := dk_42 (dk_at dksX2_end_0 6 rfl rfl)
theorem dX2_end_7 : decode cX2_end 7 = .ok (.iload_n 1, 1) := dk_27 (dk_at dksX2_end_0 7 rfl rfl)
theorem dX2_end_8 : decode cX2_end 8 = .ok (.invokevirtual 52, 3) := dk_182 0 52 (dk_at dksX2_end_0 8 rfl rfl)
theorem dX2_end_11 : decode cX2_end 11 = .ok (.getfield 64, 3) := dk_180 0 64 (dk_at dksX2_end_0 11 rfl rfl)
theorem dX2_end_14 : decode cX2_end 14 = .ok (.goto 11, 3) := dk_167 0 11 (dk_at dksX2_end_0 14 rfl rfl)
theorem dX2_end_17 : decode cX2_end 17 = .ok (.aload_n 0, 1) := dk_42 (dk_at dksX2_end_0 17 rfl rfl)
theorem dX2_end_18 : decode cX2_end 18 = .ok (.iload_n 1, 1) := dk_27 (dk_at dksX2_end_0 18 rfl rfl)
theorem dX2_end_19 : decode cX2_end 19 = .ok (.invokevirtual 52, 3) := dk_182 0 52 (dk_at dksX2_end_0 19 rfl rfl)
theorem dX2_end_22 : decode cX2_end 22 = .ok (.getfield 60, 3) := dk_180 0 60 (dk_at dksX2_end_1 0 rfl rfl)
theorem dX2_end_25 : decode cX2_end 25 = .ok (.ireturn, 1) := dk_172 (dk_at dksX2_end_1 3 rfl rfl)
abbrev cX2_begin : ByteArray := prog_7_method_5_code
def yX2_begin : MethodName := ⟨RX2, "begin", "(I)I"⟩
def dkwX2_begin_1 : List UInt8 := [180, 0, 64, 172]
abbrev dktX2_begin_1 : List UInt8 := dkwX2_begin_1 ++ []
def dkwX2_begin_0 : List UInt8 := [27, 5, 112, 154, 0, 14, 42, 27, 182, 0, 52, 180, 0, 60, 167, 0, 11, 42, 27, 182, 0, 52]
abbrev dktX2_begin_0 : List UInt8 := dkwX2_begin_0 ++ dktX2_begin_1
theorem dksX2_begin_0 : cX2_begin.data.toList.drop 0 = dktX2_begin_0 := by decide +kernel
theorem dksX2_begin_1 : cX2_begin.data.toList.drop 22 = dktX2_begin_1 := dk_seg dksX2_begin_0 22 rfl rfl
theorem dX2_begin_0 : decode cX2_begin 0 = .ok (.iload_n 1, 1) := dk_27 (dk_at dksX2_begin_0 0 rfl rfl)
theorem dX2_begin_1 : decode cX2_begin 1 = .ok (.iconst 2, 1) := dk_5 (dk_at dksX2_begin_0 1 rfl rfl)
theorem dX2_begin_2 : decode cX2_begin 2 = .ok (.irem, 1) := dk_112 (dk_at dksX2_begin_0 2 rfl rfl)
theorem dX2_begin_3 : decode cX2_begin 3 = .ok (.ifCond .ne 14, 3) := dk_154 0 14 (dk_at dksX2_begin_0 3 rfl rfl)
theorem dX2_begin_6 : decode cX2_begin 6 = .ok (.aload_n 0, 1) := dk_42 (dk_at dksX2_begin_0 6 rfl rfl)
theorem dX2_begin_7 : decode cX2_begin 7 = .ok (.iload_n 1, 1) := dk_27 (dk_at dksX2_begin_0 7 rfl rfl)
theorem dX2_begin_8 : decode cX2_begin 8 = .ok (.invokevirtual 52, 3) := dk_182 0 52 (dk_at dksX2_begin_0 8 rfl rfl)
theorem dX2_begin_11 : decode cX2_begin 11 = .ok (.getfield 60, 3) := dk_180 0 60 (dk_at dksX2_begin_0 11 rfl rfl)
theorem dX2_begin_14 : decode cX2_begin 14 = .ok (.goto 11, 3) := dk_167 0 11 (dk_at dksX2_begin_0 14 rfl rfl)
theorem dX2_begin_17 : decode cX2_begin 17 = .ok (.aload_n 0, 1) := dk_42 (dk_at dksX2_begin_0 17 rfl rfl)
theorem dX2_begin_18 : decode cX2_begin 18 = .ok (.iload_n 1, 1) := dk_27 (dk_at dksX2_begin_0 18 rfl rfl)
theorem dX2_begin_19 : decode cX2_begin 19 = .ok (.invokevirtual 52, 3) := dk_182 0 52 (dk_at dksX2_begin_0 19 rfl rfl)
theorem dX2_begin_22 : decode cX2_begin 22 = .ok (.getfield 64, 3) := dk_180 0 64 (dk_at dksX2_begin_1 0 rfl rfl)
theorem dX2_begin_25 : decode cX2_begin 25 = .ok (.ireturn, 1) := dk_172 (dk_at dksX2_begin_1 3 rfl rfl)
abbrev cX2_length : ByteArray := prog_7_method_7_code
def yX2_length : MethodName := ⟨RX2, "length", "(I)I"⟩
def dkwX2_length_0 : List UInt8 := [42, 27, 182, 0, 52, 180, 0, 67, 172]
abbrev dktX2_length_0 : List UInt8 := dkwX2_length_0 ++ []
theorem dksX2_length_0 : cX2_length.data.toList.drop 0 = dktX2_length_0 := by decide +kernel
theorem dX2_length_0 : decode cX2_length 0 = .ok (.aload_n 0, 1) := dk_42 (dk_at dksX2_length_0 0 rfl rfl)
theorem dX2_length_1 : decode cX2_length 1 = .ok (.iload_n 1, 1) := dk_27 (dk_at dksX2_length_0 1 rfl rfl)
theorem dX2_length_2 : decode cX2_length 2 = .ok (.invokevirtual 52, 3) := dk_182 0 52 (dk_at dksX2_length_0 2 rfl rfl)
theorem dX2_length_5 : decode cX2_length 5 = .ok (.getfield 67, 3) := dk_180 0 67 (dk_at dksX2_length_0 5 rfl rfl)
theorem dX2_length_8 : decode cX2_length 8 = .ok (.ireturn, 1) := dk_172 (dk_at dksX2_length_0 8 rfl rfl)
theorem q117 : (Jvm.Cond.initialized "RightTurns$Town") ∈ lw_all := lw_g (lw_at lw_m1 2 rfl) rfl
theorem q157 : (Jvm.Cond.instantiable "RightTurns$Town" (10 : Nat)) ∈ lw_all := lw_g (lw_at lw_m1 42 rfl) rfl
theorem q159 : (Jvm.Cond.instanceMethod ({ cls := "RightTurns$Town", name := "<init>", desc := "()V" } : Jvm.MethodName)) ∈ lw_all := lw_g (lw_at lw_m1 44 rfl) rfl
theorem q160 : (Jvm.Cond.code ({ cls := "RightTurns$Town", name := "<init>", desc := "()V" } : Jvm.MethodName) prog_7_method_1_code (1 : Nat) (Option.none : Option Jvm.ClassFile.FieldType)) ∈ lw_all := lw_g (lw_at lw_m1 45 rfl) rfl
theorem q161 : (Jvm.Cond.methodLink "RightTurns$Town" (3 : Nat) ({ cls := "java/lang/Object", name := "<init>", desc := "()V" } : Jvm.MethodName)) ∈ lw_all := lw_g (lw_at lw_m1 46 rfl) rfl
theorem q162 : (Jvm.Cond.classLink "RightTurns$Town" (9 : Nat) "java/util/ArrayList") ∈ lw_all := lw_g (lw_at lw_m1 47 rfl) rfl
theorem q164 : (Jvm.Cond.methodLink "RightTurns$Town" (11 : Nat) ({ cls := "java/util/ArrayList", name := "<init>", desc := "(I)V" } : Jvm.MethodName)) ∈ lw_all := lw_g (lw_at lw_m1 49 rfl) rfl
theorem q506 : (Jvm.Cond.fieldLink "RightTurns$Town" (14 : Nat) "RightTurns$Town" "corners" "Ljava/util/ArrayList;") ∈ lw_all := lw_g (lw_at lw_m2 151 rfl) rfl
theorem q509 : (Jvm.Cond.fieldLink "RightTurns$Town" (20 : Nat) "RightTurns$Town" "streets" "Ljava/util/ArrayList;") ∈ lw_all := lw_g (lw_at lw_m2 154 rfl) rfl
theorem q512 : (Jvm.Cond.fieldLink "RightTurns$Town" (23 : Nat) "RightTurns$Town" "riders" "Ljava/util/ArrayList;") ∈ lw_all := lw_g (lw_at lw_m2 157 rfl) rfl
theorem q515 : (Jvm.Cond.fieldLink "RightTurns$Town" (26 : Nat) "RightTurns$Town" "signs" "[I") ∈ lw_all := lw_g (lw_at lw_m2 160 rfl) rfl
theorem q518 : (Jvm.Cond.fieldLink "RightTurns$Town" (30 : Nat) "RightTurns$Town" "allowed" "[I") ∈ lw_all := lw_g (lw_at lw_m2 163 rfl) rfl
theorem q521 : (Jvm.Cond.fieldLink "RightTurns$Town" (33 : Nat) "RightTurns$Town" "leftFrom" "[I") ∈ lw_all := lw_g (lw_at lw_m2 166 rfl) rfl
theorem q523 : (Jvm.Cond.fieldLink "RightTurns$Town" (36 : Nat) "RightTurns$Town" "leftTo" "[I") ∈ lw_all := lw_g (lw_at lw_m2 168 rfl) rfl
theorem q527 : (Jvm.Cond.fieldLink "RightTurns$Town" (93 : Nat) "RightTurns$Town" "lefts" "I") ∈ lw_all := lw_g (lw_at lw_m2 172 rfl) rfl
theorem q530 : (Jvm.Cond.laysFinal "RightTurns$Town" "RightTurns$Town" "corners" "Ljava/util/ArrayList;") ∈ lw_all := lw_g (lw_at lw_m2 175 rfl) rfl
theorem q531 : (Jvm.Cond.soleField "RightTurns$Town" "corners") ∈ lw_all := lw_g (lw_at lw_m2 176 rfl) rfl
theorem q532 : (Jvm.Cond.laysFinal "RightTurns$Town" "RightTurns$Town" "streets" "Ljava/util/ArrayList;") ∈ lw_all := lw_g (lw_at lw_m2 177 rfl) rfl
theorem q533 : (Jvm.Cond.soleField "RightTurns$Town" "streets") ∈ lw_all := lw_g (lw_at lw_m2 178 rfl) rfl
theorem q534 : (Jvm.Cond.laysFinal "RightTurns$Town" "RightTurns$Town" "riders" "Ljava/util/ArrayList;") ∈ lw_all := lw_g (lw_at lw_m2 179 rfl) rfl
theorem q535 : (Jvm.Cond.soleField "RightTurns$Town" "riders") ∈ lw_all := lw_g (lw_at lw_m2 180 rfl) rfl
theorem q536 : (Jvm.Cond.laysFinal "RightTurns$Town" "RightTurns$Town" "signs" "[I") ∈ lw_all := lw_g (lw_at lw_m2 181 rfl) rfl
theorem q537 : (Jvm.Cond.soleField "RightTurns$Town" "signs") ∈ lw_all := lw_g (lw_at lw_m2 182 rfl) rfl
theorem q538 : (Jvm.Cond.laysFinal "RightTurns$Town" "RightTurns$Town" "allowed" "[I") ∈ lw_all := lw_g (lw_at lw_m2 183 rfl) rfl
theorem q539 : (Jvm.Cond.soleField "RightTurns$Town" "allowed") ∈ lw_all := lw_g (lw_at lw_m2 184 rfl) rfl
theorem q540 : (Jvm.Cond.laysFinal "RightTurns$Town" "RightTurns$Town" "leftFrom" "[I") ∈ lw_all := lw_g (lw_at lw_m2 185 rfl) rfl
theorem q541 : (Jvm.Cond.soleField "RightTurns$Town" "leftFrom") ∈ lw_all := lw_g (lw_at lw_m2 186 rfl) rfl
theorem q542 : (Jvm.Cond.laysFinal "RightTurns$Town" "RightTurns$Town" "leftTo" "[I") ∈ lw_all := lw_g (lw_at lw_m2 187 rfl) rfl
theorem q543 : (Jvm.Cond.soleField "RightTurns$Town" "leftTo") ∈ lw_all := lw_g (lw_at lw_m2 188 rfl) rfl
theorem q544 : (Jvm.Cond.lays "RightTurns$Town" "RightTurns$Town" "boxes" "I") ∈ lw_all := lw_g (lw_at lw_m2 189 rfl) rfl
theorem q545 : (Jvm.Cond.soleField "RightTurns$Town" "boxes") ∈ lw_all := lw_g (lw_at lw_m2 190 rfl) rfl
theorem q546 : (Jvm.Cond.lays "RightTurns$Town" "RightTurns$Town" "lefts" "I") ∈ lw_all := lw_g (lw_at lw_m2 191 rfl) rfl
theorem q547 : (Jvm.Cond.soleField "RightTurns$Town" "lefts") ∈ lw_all := lw_g (lw_at lw_m2 192 rfl) rfl
theorem q548 : (Jvm.Cond.lays "RightTurns$Town" "RightTurns$Town" "clauses" "I") ∈ lw_all := lw_g (lw_at lw_m2 193 rfl) rfl
theorem q549 : (Jvm.Cond.soleField "RightTurns$Town" "clauses") ∈ lw_all := lw_g (lw_at lw_m2 194 rfl) rfl
theorem q550 : (Jvm.Cond.superclass "RightTurns$Town" "java/lang/Object") ∈ lw_all := lw_g (lw_at lw_m2 195 rfl) rfl
theorem q977 : (Jvm.Cond.fieldLinkNest "RightTurns$Town" (79 : Nat) "RightTurns$Corner" "x" "I" "RightTurns") ∈ lw_tbl := lw_at lw_m4 142 rfl
theorem q980 : (Jvm.Cond.fieldLinkNest "RightTurns$Town" (82 : Nat) "RightTurns$Corner" "y" "I" "RightTurns") ∈ lw_tbl := lw_at lw_m4 145 rfl
theorem q1018 : (Jvm.Cond.selects "RightTurns$Town" ({ cls := "java/lang/Object", name := "getClass", desc := "()Ljava/lang/Class;" } : Jvm.MethodName) ({ cls := "java/lang/Object", name := "getClass", desc := "()Ljava/lang/Class;" } : Jvm.MethodName)) ∈ lw_all := lw_g (lw_at lw_m4 183 rfl) rfl
theorem q1047 : (Jvm.Cond.fieldLinkNest "RightTurns$Town" (60 : Nat) "RightTurns$Street" "from" "I" "RightTurns") ∈ lw_tbl := lw_at lw_m4 212 rfl
theorem q1050 : (Jvm.Cond.fieldLinkNest "RightTurns$Town" (64 : Nat) "RightTurns$Street" "to" "I" "RightTurns") ∈ lw_tbl := lw_at lw_m4 215 rfl
theorem q1053 : (Jvm.Cond.fieldLinkNest "RightTurns$Town" (67 : Nat) "RightTurns$Street" "length" "I" "RightTurns") ∈ lw_tbl := lw_at lw_m4 218 rfl
theorem q1055 : (Jvm.Cond.fieldLinkNest "RightTurns$Town" (56 : Nat) "RightTurns$Street" "one" "Z" "RightTurns") ∈ lw_tbl := lw_at lw_m4 220 rfl
theorem q1099 : (Jvm.Cond.instanceMethod ({ cls := "RightTurns$Town", name := "looks", desc := "()V" } : Jvm.MethodName)) ∈ lw_all := lw_g (lw_at lw_m5 24 rfl) rfl
theorem q1100 : (Jvm.Cond.selects "RightTurns$Town" ({ cls := "RightTurns$Town", name := "looks", desc := "()V" } : Jvm.MethodName) ({ cls := "RightTurns$Town", name := "looks", desc := "()V" } : Jvm.MethodName)) ∈ lw_all := lw_g (lw_at lw_m5 25 rfl) rfl
theorem q1101 : (Jvm.Cond.code ({ cls := "RightTurns$Town", name := "looks", desc := "()V" } : Jvm.MethodName) prog_7_method_9_code (5 : Nat) (Option.none : Option Jvm.ClassFile.FieldType)) ∈ lw_all := lw_g (lw_at lw_m5 26 rfl) rfl
theorem q1102 : (Jvm.Cond.methodLink "RightTurns$Town" (39 : Nat) ({ cls := "java/util/ArrayList", name := "size", desc := "()I" } : Jvm.MethodName)) ∈ lw_all := lw_g (lw_at lw_m5 27 rfl) rfl
theorem q1103 : (Jvm.Cond.methodLink "RightTurns$Town" (85 : Nat) ({ cls := "RightTurns$Town", name := "isArc", desc := "(I)Z" } : Jvm.MethodName)) ∈ lw_all := lw_g (lw_at lw_m5 28 rfl) rfl
theorem q1104 : (Jvm.Cond.instanceMethod ({ cls := "RightTurns$Town", name := "isArc", desc := "(I)Z" } : Jvm.MethodName)) ∈ lw_all := lw_g (lw_at lw_m5 29 rfl) rfl
theorem q1105 : (Jvm.Cond.selects "RightTurns$Town" ({ cls := "RightTurns$Town", name := "isArc", desc := "(I)Z" } : Jvm.MethodName) ({ cls := "RightTurns$Town", name := "isArc", desc := "(I)Z" } : Jvm.MethodName)) ∈ lw_all := lw_g (lw_at lw_m5 30 rfl) rfl
theorem q1106 : (Jvm.Cond.code ({ cls := "RightTurns$Town", name := "isArc", desc := "(I)Z" } : Jvm.MethodName) prog_7_method_4_code (2 : Nat) (Option.some Jvm.ClassFile.FieldType.boolean)) ∈ lw_all := lw_g (lw_at lw_m5 31 rfl) rfl
theorem q1107 : (Jvm.Cond.methodLink "RightTurns$Town" (49 : Nat) ({ cls := "RightTurns$Town", name := "arcs", desc := "()I" } : Jvm.MethodName)) ∈ lw_all := lw_g (lw_at lw_m5 32 rfl) rfl
theorem q1108 : (Jvm.Cond.instanceMethod ({ cls := "RightTurns$Town", name := "arcs", desc := "()I" } : Jvm.MethodName)) ∈ lw_all := lw_g (lw_at lw_m5 33 rfl) rfl
theorem q1109 : (Jvm.Cond.selects "RightTurns$Town" ({ cls := "RightTurns$Town", name := "arcs", desc := "()I" } : Jvm.MethodName) ({ cls := "RightTurns$Town", name := "arcs", desc := "()I" } : Jvm.MethodName)) ∈ lw_all := lw_g (lw_at lw_m5 34 rfl) rfl
theorem q1110 : (Jvm.Cond.code ({ cls := "RightTurns$Town", name := "arcs", desc := "()I" } : Jvm.MethodName) prog_7_method_2_code (1 : Nat) (Option.some Jvm.ClassFile.FieldType.int)) ∈ lw_all := lw_g (lw_at lw_m5 35 rfl) rfl
theorem q1111 : (Jvm.Cond.methodLink "RightTurns$Town" (52 : Nat) ({ cls := "RightTurns$Town", name := "of", desc := "(I)LRightTurns$Street;" } : Jvm.MethodName)) ∈ lw_all := lw_g (lw_at lw_m5 36 rfl) rfl
theorem q1112 : (Jvm.Cond.instanceMethod ({ cls := "RightTurns$Town", name := "of", desc := "(I)LRightTurns$Street;" } : Jvm.MethodName)) ∈ lw_all := lw_g (lw_at lw_m5 37 rfl) rfl
theorem q1113 : (Jvm.Cond.selects "RightTurns$Town" ({ cls := "RightTurns$Town", name := "of", desc := "(I)LRightTurns$Street;" } : Jvm.MethodName) ({ cls := "RightTurns$Town", name := "of", desc := "(I)LRightTurns$Street;" } : Jvm.MethodName)) ∈ lw_all := lw_g (lw_at lw_m5 38 rfl) rfl
theorem q1114 : (Jvm.Cond.code ({ cls := "RightTurns$Town", name := "of", desc := "(I)LRightTurns$Street;" } : Jvm.MethodName) prog_7_method_3_code (2 : Nat) (Option.some (Jvm.ClassFile.FieldType.object "RightTurns$Street"))) ∈ lw_all := lw_g (lw_at lw_m5 39 rfl) rfl
theorem q1115 : (Jvm.Cond.methodLink "RightTurns$Town" (43 : Nat) ({ cls := "java/util/ArrayList", name := "get", desc := "(I)Ljava/lang/Object;" } : Jvm.MethodName)) ∈ lw_all := lw_g (lw_at lw_m5 40 rfl) rfl
theorem q1116 : (Jvm.Cond.classLink "RightTurns$Town" (47 : Nat) "RightTurns$Street") ∈ lw_all := lw_g (lw_at lw_m5 41 rfl) rfl
theorem q1117 : (Jvm.Cond.methodLink "RightTurns$Town" (89 : Nat) ({ cls := "RightTurns$Town", name := "turn", desc := "(II)I" } : Jvm.MethodName)) ∈ lw_all := lw_g (lw_at lw_m5 42 rfl) rfl
theorem q1118 : (Jvm.Cond.instanceMethod ({ cls := "RightTurns$Town", name := "turn", desc := "(II)I" } : Jvm.MethodName)) ∈ lw_all := lw_g (lw_at lw_m5 43 rfl) rfl
theorem q1119 : (Jvm.Cond.selects "RightTurns$Town" ({ cls := "RightTurns$Town", name := "turn", desc := "(II)I" } : Jvm.MethodName) ({ cls := "RightTurns$Town", name := "turn", desc := "(II)I" } : Jvm.MethodName)) ∈ lw_all := lw_g (lw_at lw_m5 44 rfl) rfl
theorem q1120 : (Jvm.Cond.code ({ cls := "RightTurns$Town", name := "turn", desc := "(II)I" } : Jvm.MethodName) prog_7_method_8_code (8 : Nat) (Option.some Jvm.ClassFile.FieldType.int)) ∈ lw_all := lw_g (lw_at lw_m5 45 rfl) rfl
theorem q1121 : (Jvm.Cond.methodLink "RightTurns$Town" (70 : Nat) ({ cls := "RightTurns$Town", name := "end", desc := "(I)I" } : Jvm.MethodName)) ∈ lw_all := lw_g (lw_at lw_m5 46 rfl) rfl
theorem q1122 : (Jvm.Cond.instanceMethod ({ cls := "RightTurns$Town", name := "end", desc := "(I)I" } : Jvm.MethodName)) ∈ lw_all := lw_g (lw_at lw_m5 47 rfl) rfl
theorem q1123 : (Jvm.Cond.selects "RightTurns$Town" ({ cls := "RightTurns$Town", name := "end", desc := "(I)I" } : Jvm.MethodName) ({ cls := "RightTurns$Town", name := "end", desc := "(I)I" } : Jvm.MethodName)) ∈ lw_all := lw_g (lw_at lw_m5 48 rfl) rfl
theorem q1124 : (Jvm.Cond.code ({ cls := "RightTurns$Town", name := "end", desc := "(I)I" } : Jvm.MethodName) prog_7_method_6_code (2 : Nat) (Option.some Jvm.ClassFile.FieldType.int)) ∈ lw_all := lw_g (lw_at lw_m5 49 rfl) rfl
theorem q1125 : (Jvm.Cond.methodLink "RightTurns$Town" (74 : Nat) ({ cls := "RightTurns$Town", name := "begin", desc := "(I)I" } : Jvm.MethodName)) ∈ lw_all := lw_g (lw_at lw_m5 50 rfl) rfl
theorem q1126 : (Jvm.Cond.instanceMethod ({ cls := "RightTurns$Town", name := "begin", desc := "(I)I" } : Jvm.MethodName)) ∈ lw_all := lw_g (lw_at lw_m5 51 rfl) rfl
theorem q1127 : (Jvm.Cond.selects "RightTurns$Town" ({ cls := "RightTurns$Town", name := "begin", desc := "(I)I" } : Jvm.MethodName) ({ cls := "RightTurns$Town", name := "begin", desc := "(I)I" } : Jvm.MethodName)) ∈ lw_all := lw_g (lw_at lw_m5 52 rfl) rfl
theorem q1128 : (Jvm.Cond.code ({ cls := "RightTurns$Town", name := "begin", desc := "(I)I" } : Jvm.MethodName) prog_7_method_5_code (2 : Nat) (Option.some Jvm.ClassFile.FieldType.int)) ∈ lw_all := lw_g (lw_at lw_m5 53 rfl) rfl
theorem q1129 : (Jvm.Cond.classLink "RightTurns$Town" (77 : Nat) "RightTurns$Corner") ∈ lw_all := lw_g (lw_at lw_m5 54 rfl) rfl
theorem q1303 : (Jvm.Cond.instanceMethod ({ cls := "RightTurns$Town", name := "length", desc := "(I)I" } : Jvm.MethodName)) ∈ lw_all := lw_g (lw_at lw_m5 228 rfl) rfl
theorem q1304 : (Jvm.Cond.selects "RightTurns$Town" ({ cls := "RightTurns$Town", name := "length", desc := "(I)I" } : Jvm.MethodName) ({ cls := "RightTurns$Town", name := "length", desc := "(I)I" } : Jvm.MethodName)) ∈ lw_all := lw_g (lw_at lw_m5 229 rfl) rfl
theorem q1305 : (Jvm.Cond.code ({ cls := "RightTurns$Town", name := "length", desc := "(I)I" } : Jvm.MethodName) prog_7_method_7_code (2 : Nat) (Option.some Jvm.ClassFile.FieldType.int)) ∈ lw_all := lw_g (lw_at lw_m5 230 rfl) rfl
theorem q2217 : (Jvm.Cond.castable "RightTurns$Town" "java/lang/Object") ∈ lw_tbl := lw_at lw_m9 182 rfl
theorem in_X2 : ∀ w ∈ wsX20, w ∈ lw_all := lw_in wsX20 [530, 532, 534, 536, 538, 540, 542, 544, 546, 548] (by decide +kernel) (by decide +kernel)

/-! RightTurns$State -/
set_option maxRecDepth 100000
def RX3 : String := "RightTurns$State"
def TX3 : u_T := fun k => match k with
  | 0 => ("RightTurns$State", "signs", "[I", true)
  | 1 => ("RightTurns$State", "allowed", "[I", true)
  | 2 => ("RightTurns$State", "ride", "[I", true)
  | 3 => ("RightTurns$State", "time", "I", false)
  | _ => ("RightTurns$State", "told", "I", false)
def tyX3 : Nat → FieldType := fun k => match k with
  | 0 => .array .int
  | 1 => .array .int
  | 2 => .array .int
  | 3 => .int
  | _ => .int
abbrev wsX30 : List Cond := u_ws RX3 TX3 5
theorem nmX3 : ∀ a, a < 5 → ∀ b, b < 5 → a ≠ b → (TX3 a).2.1 ≠ (TX3 b).2.1 := by decide +kernel
theorem tyX3_ok : ∀ k, k < 5 → parseFieldDescriptor (TX3 k).2.2.1 = some (tyX3 k) := by decide +kernel
abbrev cX3_init : ByteArray := prog_5_method_1_code
def yX3_init : MethodName := ⟨RX3, "<init>", "()V"⟩
def dkwX3_init_1 : List UInt8 := [16, 12, 188, 10, 181, 0, 18, 177]
abbrev dktX3_init_1 : List UInt8 := dkwX3_init_1 ++ []
def dkwX3_init_0 : List UInt8 := [42, 183, 0, 3, 42, 17, 18, 216, 188, 10, 181, 0, 9, 42, 17, 18, 216, 188, 10, 181, 0, 15, 42]
abbrev dktX3_init_0 : List UInt8 := dkwX3_init_0 ++ dktX3_init_1
theorem dksX3_init_0 : cX3_init.data.toList.drop 0 = dktX3_init_0 := by decide +kernel
theorem dksX3_init_1 : cX3_init.data.toList.drop 23 = dktX3_init_1 := dk_seg dksX3_init_0 23 rfl rfl
theorem dX3_init_0 : decode cX3_init 0 = .ok (.aload_n 0, 1) := dk_42 (dk_at dksX3_init_0 0 rfl rfl)
theorem dX3_init_1 : decode cX3_init 1 = .ok (.invokespecial 3, 3) := dk_183 0 3 (dk_at dksX3_init_0 1 rfl rfl)
theorem dX3_init_4 : decode cX3_init 4 = .ok (.aload_n 0, 1) := dk_42 (dk_at dksX3_init_0 4 rfl rfl)
theorem dX3_init_5 : decode cX3_init 5 = .ok (.sipush 4824, 3) := dk_17 18 216 (dk_at dksX3_init_0 5 rfl rfl)
theorem dX3_init_8 : decode cX3_init 8 = .ok (.newarray .int, 2) := dk_188_10 (dk_at dksX3_init_0 8 rfl rfl)
theorem dX3_init_10 : decode cX3_init 10 = .ok (.putfield 9, 3) := dk_181 0 9 (dk_at dksX3_init_0 10 rfl rfl)
theorem dX3_init_13 : decode cX3_init 13 = .ok (.aload_n 0, 1) := dk_42 (dk_at dksX3_init_0 13 rfl rfl)
theorem dX3_init_14 : decode cX3_init 14 = .ok (.sipush 4824, 3) := dk_17 18 216 (dk_at dksX3_init_0 14 rfl rfl)
theorem dX3_init_17 : decode cX3_init 17 = .ok (.newarray .int, 2) := dk_188_10 (dk_at dksX3_init_0 17 rfl rfl)
theorem dX3_init_19 : decode cX3_init 19 = .ok (.putfield 15, 3) := dk_181 0 15 (dk_at dksX3_init_0 19 rfl rfl)
theorem dX3_init_22 : decode cX3_init 22 = .ok (.aload_n 0, 1) := dk_42 (dk_at dksX3_init_0 22 rfl rfl)
theorem dX3_init_23 : decode cX3_init 23 = .ok (.bipush 12, 2) := dk_16 12 (dk_at dksX3_init_1 0 rfl rfl)
theorem dX3_init_25 : decode cX3_init 25 = .ok (.newarray .int, 2) := dk_188_10 (dk_at dksX3_init_1 2 rfl rfl)
theorem dX3_init_27 : decode cX3_init 27 = .ok (.putfield 18, 3) := dk_181 0 18 (dk_at dksX3_init_1 4 rfl rfl)
theorem dX3_init_30 : decode cX3_init 30 = .ok (.return_, 1) := dk_177 (dk_at dksX3_init_1 7 rfl rfl)
abbrev cX3_become : ByteArray := prog_5_method_2_code
def yX3_become : MethodName := ⟨RX3, "become", "(LRightTurns$State;)V"⟩
def dkwX3_become_2 : List UInt8 := [184, 0, 21, 42, 43, 180, 0, 27, 181, 0, 27, 42, 43, 180, 0, 31, 181, 0, 31, 177]
abbrev dktX3_become_2 : List UInt8 := dkwX3_become_2 ++ []
def dkwX3_become_1 : List UInt8 := [180, 0, 15, 3, 42, 180, 0, 15, 190, 184, 0, 21, 43, 180, 0, 18, 3, 42, 180, 0, 18, 3, 16, 12]
abbrev dktX3_become_1 : List UInt8 := dkwX3_become_1 ++ dktX3_become_2
def dkwX3_become_0 : List UInt8 := [43, 180, 0, 9, 3, 42, 180, 0, 9, 3, 42, 180, 0, 9, 190, 184, 0, 21, 43, 180, 0, 15, 3, 42]
abbrev dktX3_become_0 : List UInt8 := dkwX3_become_0 ++ dktX3_become_1
theorem dksX3_become_0 : cX3_become.data.toList.drop 0 = dktX3_become_0 := by decide +kernel
theorem dksX3_become_1 : cX3_become.data.toList.drop 24 = dktX3_become_1 := dk_seg dksX3_become_0 24 rfl rfl
theorem dksX3_become_2 : cX3_become.data.toList.drop 48 = dktX3_become_2 := dk_seg dksX3_become_1 24 rfl rfl
theorem dX3_become_0 : decode cX3_become 0 = .ok (.aload_n 1, 1) := dk_43 (dk_at dksX3_become_0 0 rfl rfl)
theorem dX3_become_1 : decode cX3_become 1 = .ok (.getfield 9, 3) := dk_180 0 9 (dk_at dksX3_become_0 1 rfl rfl)
theorem dX3_become_4 : decode cX3_become 4 = .ok (.iconst 0, 1) := dk_3 (dk_at dksX3_become_0 4 rfl rfl)
theorem dX3_become_5 : decode cX3_become 5 = .ok (.aload_n 0, 1) := dk_42 (dk_at dksX3_become_0 5 rfl rfl)
theorem dX3_become_6 : decode cX3_become 6 = .ok (.getfield 9, 3) := dk_180 0 9 (dk_at dksX3_become_0 6 rfl rfl)
theorem dX3_become_9 : decode cX3_become 9 = .ok (.iconst 0, 1) := dk_3 (dk_at dksX3_become_0 9 rfl rfl)
theorem dX3_become_10 : decode cX3_become 10 = .ok (.aload_n 0, 1) := dk_42 (dk_at dksX3_become_0 10 rfl rfl)
theorem dX3_become_11 : decode cX3_become 11 = .ok (.getfield 9, 3) := dk_180 0 9 (dk_at dksX3_become_0 11 rfl rfl)
theorem dX3_become_14 : decode cX3_become 14 = .ok (.arraylength, 1) := dk_190 (dk_at dksX3_become_0 14 rfl rfl)
theorem dX3_become_15 : decode cX3_become 15 = .ok (.invokestatic 21, 3) := dk_184 0 21 (dk_at dksX3_become_0 15 rfl rfl)
theorem dX3_become_18 : decode cX3_become 18 = .ok (.aload_n 1, 1) := dk_43 (dk_at dksX3_become_0 18 rfl rfl)
theorem dX3_become_19 : decode cX3_become 19 = .ok (.getfield 15, 3) := dk_180 0 15 (dk_at dksX3_become_0 19 rfl rfl)
theorem dX3_become_22 : decode cX3_become 22 = .ok (.iconst 0, 1) := dk_3 (dk_at dksX3_become_0 22 rfl rfl)
theorem dX3_become_23 : decode cX3_become 23 = .ok (.aload_n 0, 1) := dk_42 (dk_at dksX3_become_0 23 rfl rfl)
theorem dX3_become_24 : decode cX3_become 24 = .ok (.getfield 15, 3) := dk_180 0 15 (dk_at dksX3_become_1 0 rfl rfl)
theorem dX3_become_27 : decode cX3_become 27 = .ok (.iconst 0, 1) := dk_3 (dk_at dksX3_become_1 3 rfl rfl)
theorem dX3_become_28 : decode cX3_become 28 = .ok (.aload_n 0, 1) := dk_42 (dk_at dksX3_become_1 4 rfl rfl)
theorem dX3_become_29 : decode cX3_become 29 = .ok (.getfield 15, 3) := dk_180 0 15 (dk_at dksX3_become_1 5 rfl rfl)
theorem dX3_become_32 : decode cX3_become 32 = .ok (.arraylength, 1) := dk_190 (dk_at dksX3_become_1 8 rfl rfl)
theorem dX3_become_33 : decode cX3_become 33 = .ok (.invokestatic 21, 3) := dk_184 0 21 (dk_at dksX3_become_1 9 rfl rfl)
theorem dX3_become_36 : decode cX3_become 36 = .ok (.aload_n 1, 1) := dk_43 (dk_at dksX3_become_1 12 rfl rfl)
theorem dX3_become_37 : decode cX3_become 37 = .ok (.getfield 18, 3) := dk_180 0 18 (dk_at dksX3_become_1 13 rfl rfl)
theorem dX3_become_40 : decode cX3_become 40 = .ok (.iconst 0, 1) := dk_3 (dk_at dksX3_become_1 16 rfl rfl)
theorem dX3_become_41 : decode cX3_become 41 = .ok (.aload_n 0, 1) := dk_42 (dk_at dksX3_become_1 17 rfl rfl)
theorem dX3_become_42 : decode cX3_become 42 = .ok (.getfield 18, 3) := dk_180 0 18 (dk_at dksX3_become_1 18 rfl rfl)
theorem dX3_become_45 : decode cX3_become 45 = .ok (.iconst 0, 1) := dk_3 (dk_at dksX3_become_1 21 rfl rfl)
theorem dX3_become_46 : decode cX3_become 46 = .ok (.bipush 12, 2) := dk_16 12 (dk_at dksX3_become_1 22 rfl rfl)
theorem dX3_become_48 : decode cX3_become 48 = .ok (.invokestatic 21, 3) := dk_184 0 21 (dk_at dksX3_become_2 0 rfl rfl)
theorem dX3_become_51 : decode cX3_become 51 = .ok (.aload_n 0, 1) := dk_42 (dk_at dksX3_become_2 3 rfl rfl)
theorem dX3_become_52 : decode cX3_become 52 = .ok (.aload_n 1, 1) := dk_43 (dk_at dksX3_become_2 4 rfl rfl)
theorem dX3_become_53 : decode cX3_become 53 = .ok (.getfield 27, 3) := dk_180 0 27 (dk_at dksX3_become_2 5 rfl rfl)
theorem dX3_become_56 : decode cX3_become 56 = .ok (.putfield 27, 3) := dk_181 0 27 (dk_at dksX3_become_2 8 rfl rfl)
theorem dX3_become_59 : decode cX3_become 59 = .ok (.aload_n 0, 1) := dk_42 (dk_at dksX3_become_2 11 rfl rfl)
theorem dX3_become_60 : decode cX3_become 60 = .ok (.aload_n 1, 1) := dk_43 (dk_at dksX3_become_2 12 rfl rfl)
theorem dX3_become_61 : decode cX3_become 61 = .ok (.getfield 31, 3) := dk_180 0 31 (dk_at dksX3_become_2 13 rfl rfl)
theorem dX3_become_64 : decode cX3_become 64 = .ok (.putfield 31, 3) := dk_181 0 31 (dk_at dksX3_become_2 16 rfl rfl)
theorem dX3_become_67 : decode cX3_become 67 = .ok (.return_, 1) := dk_177 (dk_at dksX3_become_2 19 rfl rfl)
abbrev cX3_isSigned : ByteArray := prog_5_method_4_code
def yX3_isSigned : MethodName := ⟨RX3, "isSigned", "(III)Z"⟩
def dkwX3_isSigned_1 : List UInt8 := [172]
abbrev dktX3_isSigned_1 : List UInt8 := dkwX3_isSigned_1 ++ []
def dkwX3_isSigned_0 : List UInt8 := [42, 180, 0, 9, 16, 24, 27, 104, 28, 96, 46, 29, 122, 4, 126, 4, 160, 0, 7, 4, 167, 0, 4, 3]
abbrev dktX3_isSigned_0 : List UInt8 := dkwX3_isSigned_0 ++ dktX3_isSigned_1
theorem dksX3_isSigned_0 : cX3_isSigned.data.toList.drop 0 = dktX3_isSigned_0 := by decide +kernel
theorem dksX3_isSigned_1 : cX3_isSigned.data.toList.drop 24 = dktX3_isSigned_1 := dk_seg dksX3_isSigned_0 24 rfl rfl
theorem dX3_isSigned_0 : decode cX3_isSigned 0 = .ok (.aload_n 0, 1) := dk_42 (dk_at dksX3_isSigned_0 0 rfl rfl)
theorem dX3_isSigned_1 : decode cX3_isSigned 1 = .ok (.getfield 9, 3) := dk_180 0 9 (dk_at dksX3_isSigned_0 1 rfl rfl)
theorem dX3_isSigned_4 : decode cX3_isSigned 4 = .ok (.bipush 24, 2) := dk_16 24 (dk_at dksX3_isSigned_0 4 rfl rfl)
theorem dX3_isSigned_6 : decode cX3_isSigned 6 = .ok (.iload_n 1, 1) := dk_27 (dk_at dksX3_isSigned_0 6 rfl rfl)
theorem dX3_isSigned_7 : decode cX3_isSigned 7 = .ok (.imul, 1) := dk_104 (dk_at dksX3_isSigned_0 7 rfl rfl)
theorem dX3_isSigned_8 : decode cX3_isSigned 8 = .ok (.iload_n 2, 1) := dk_28 (dk_at dksX3_isSigned_0 8 rfl rfl)
theorem dX3_isSigned_9 : decode cX3_isSigned 9 = .ok (.iadd, 1) := dk_96 (dk_at dksX3_isSigned_0 9 rfl rfl)
theorem dX3_isSigned_10 : decode cX3_isSigned 10 = .ok (.iaload, 1) := dk_46 (dk_at dksX3_isSigned_0 10 rfl rfl)
theorem dX3_isSigned_11 : decode cX3_isSigned 11 = .ok (.iload_n 3, 1) := dk_29 (dk_at dksX3_isSigned_0 11 rfl rfl)
theorem dX3_isSigned_12 : decode cX3_isSigned 12 = .ok (.ishr, 1) := dk_122 (dk_at dksX3_isSigned_0 12 rfl rfl)
theorem dX3_isSigned_13 : decode cX3_isSigned 13 = .ok (.iconst 1, 1) := dk_4 (dk_at dksX3_isSigned_0 13 rfl rfl)
theorem dX3_isSigned_14 : decode cX3_isSigned 14 = .ok (.iand, 1) := dk_126 (dk_at dksX3_isSigned_0 14 rfl rfl)
theorem dX3_isSigned_15 : decode cX3_isSigned 15 = .ok (.iconst 1, 1) := dk_4 (dk_at dksX3_isSigned_0 15 rfl rfl)
theorem dX3_isSigned_16 : decode cX3_isSigned 16 = .ok (.if_icmp .ne 7, 3) := dk_160 0 7 (dk_at dksX3_isSigned_0 16 rfl rfl)
theorem dX3_isSigned_19 : decode cX3_isSigned 19 = .ok (.iconst 1, 1) := dk_4 (dk_at dksX3_isSigned_0 19 rfl rfl)
theorem dX3_isSigned_20 : decode cX3_isSigned 20 = .ok (.goto 4, 3) := dk_167 0 4 (dk_at dksX3_isSigned_0 20 rfl rfl)
theorem dX3_isSigned_23 : decode cX3_isSigned 23 = .ok (.iconst 0, 1) := dk_3 (dk_at dksX3_isSigned_0 23 rfl rfl)
theorem dX3_isSigned_24 : decode cX3_isSigned 24 = .ok (.ireturn, 1) := dk_172 (dk_at dksX3_isSigned_1 0 rfl rfl)
abbrev cX3_isAllowed : ByteArray := prog_5_method_5_code
def yX3_isAllowed : MethodName := ⟨RX3, "isAllowed", "(III)Z"⟩
def dkwX3_isAllowed_1 : List UInt8 := [172]
abbrev dktX3_isAllowed_1 : List UInt8 := dkwX3_isAllowed_1 ++ []
def dkwX3_isAllowed_0 : List UInt8 := [42, 180, 0, 15, 16, 24, 27, 104, 28, 96, 46, 29, 122, 4, 126, 4, 160, 0, 7, 4, 167, 0, 4, 3]
abbrev dktX3_isAllowed_0 : List UInt8 := dkwX3_isAllowed_0 ++ dktX3_isAllowed_1
theorem dksX3_isAllowed_0 : cX3_isAllowed.data.toList.drop 0 = dktX3_isAllowed_0 := by decide +kernel
theorem dksX3_isAllowed_1 : cX3_isAllowed.data.toList.drop 24 = dktX3_isAllowed_1 := dk_seg dksX3_isAllowed_0 24 rfl rfl
theorem dX3_isAllowed_0 : decode cX3_isAllowed 0 = .ok (.aload_n 0, 1) := dk_42 (dk_at dksX3_isAllowed_0 0 rfl rfl)
theorem dX3_isAllowed_1 : decode cX3_isAllowed 1 = .ok (.getfield 15, 3) := dk_180 0 15 (dk_at dksX3_isAllowed_0 1 rfl rfl)
theorem dX3_isAllowed_4 : decode cX3_isAllowed 4 = .ok (.bipush 24, 2) := dk_16 24 (dk_at dksX3_isAllowed_0 4 rfl rfl)
theorem dX3_isAllowed_6 : decode cX3_isAllowed 6 = .ok (.iload_n 1, 1) := dk_27 (dk_at dksX3_isAllowed_0 6 rfl rfl)
theorem dX3_isAllowed_7 : decode cX3_isAllowed 7 = .ok (.imul, 1) := dk_104 (dk_at dksX3_isAllowed_0 7 rfl rfl)
theorem dX3_isAllowed_8 : decode cX3_isAllowed 8 = .ok (.iload_n 2, 1) := dk_28 (dk_at dksX3_isAllowed_0 8 rfl rfl)
theorem dX3_isAllowed_9 : decode cX3_isAllowed 9 = .ok (.iadd, 1) := dk_96 (dk_at dksX3_isAllowed_0 9 rfl rfl)
theorem dX3_isAllowed_10 : decode cX3_isAllowed 10 = .ok (.iaload, 1) := dk_46 (dk_at dksX3_isAllowed_0 10 rfl rfl)
theorem dX3_isAllowed_11 : decode cX3_isAllowed 11 = .ok (.iload_n 3, 1) := dk_29 (dk_at dksX3_isAllowed_0 11 rfl rfl)
theorem dX3_isAllowed_12 : decode cX3_isAllowed 12 = .ok (.ishr, 1) := dk_122 (dk_at dksX3_isAllowed_0 12 rfl rfl)
theorem dX3_isAllowed_13 : decode cX3_isAllowed 13 = .ok (.iconst 1, 1) := dk_4 (dk_at dksX3_isAllowed_0 13 rfl rfl)
theorem dX3_isAllowed_14 : decode cX3_isAllowed 14 = .ok (.iand, 1) := dk_126 (dk_at dksX3_isAllowed_0 14 rfl rfl)
theorem dX3_isAllowed_15 : decode cX3_isAllowed 15 = .ok (.iconst 1, 1) := dk_4 (dk_at dksX3_isAllowed_0 15 rfl rfl)
theorem dX3_isAllowed_16 : decode cX3_isAllowed 16 = .ok (.if_icmp .ne 7, 3) := dk_160 0 7 (dk_at dksX3_isAllowed_0 16 rfl rfl)
theorem dX3_isAllowed_19 : decode cX3_isAllowed 19 = .ok (.iconst 1, 1) := dk_4 (dk_at dksX3_isAllowed_0 19 rfl rfl)
theorem dX3_isAllowed_20 : decode cX3_isAllowed 20 = .ok (.goto 4, 3) := dk_167 0 4 (dk_at dksX3_isAllowed_0 20 rfl rfl)
theorem dX3_isAllowed_23 : decode cX3_isAllowed 23 = .ok (.iconst 0, 1) := dk_3 (dk_at dksX3_isAllowed_0 23 rfl rfl)
theorem dX3_isAllowed_24 : decode cX3_isAllowed 24 = .ok (.ireturn, 1) := dk_172 (dk_at dksX3_isAllowed_1 0 rfl rfl)
abbrev cX3_goesOn : ByteArray := prog_5_method_3_code
def yX3_goesOn : MethodName := ⟨RX3, "goesOn", "(I)V"⟩
def dkwX3_goesOn_2 : List UInt8 := [16, 24, 184, 0, 21, 42, 89, 180, 0, 27, 4, 96, 181, 0, 27, 177]
abbrev dktX3_goesOn_2 : List UInt8 := dkwX3_goesOn_2 ++ []
def dkwX3_goesOn_1 : List UInt8 := [184, 0, 21, 42, 180, 0, 15, 16, 24, 27, 104, 42, 180, 0, 15, 16, 24, 42, 180, 0, 27, 4, 96, 104]
abbrev dktX3_goesOn_1 : List UInt8 := dkwX3_goesOn_1 ++ dktX3_goesOn_2
def dkwX3_goesOn_0 : List UInt8 := [42, 180, 0, 9, 16, 24, 27, 104, 42, 180, 0, 9, 16, 24, 42, 180, 0, 27, 4, 96, 104, 16, 24]
abbrev dktX3_goesOn_0 : List UInt8 := dkwX3_goesOn_0 ++ dktX3_goesOn_1
theorem dksX3_goesOn_0 : cX3_goesOn.data.toList.drop 0 = dktX3_goesOn_0 := by decide +kernel
theorem dksX3_goesOn_1 : cX3_goesOn.data.toList.drop 23 = dktX3_goesOn_1 := dk_seg dksX3_goesOn_0 23 rfl rfl
theorem dksX3_goesOn_2 : cX3_goesOn.data.toList.drop 47 = dktX3_goesOn_2 := dk_seg dksX3_goesOn_1 24 rfl rfl
theorem dX3_goesOn_0 : decode cX3_goesOn 0 = .ok (.aload_n 0, 1) := dk_42 (dk_at dksX3_goesOn_0 0 rfl rfl)
theorem dX3_goesOn_1 : decode cX3_goesOn 1 = .ok (.getfield 9, 3) := dk_180 0 9 (dk_at dksX3_goesOn_0 1 rfl rfl)
theorem dX3_goesOn_4 : decode cX3_goesOn 4 = .ok (.bipush 24, 2) := dk_16 24 (dk_at dksX3_goesOn_0 4 rfl rfl)
theorem dX3_goesOn_6 : decode cX3_goesOn 6 = .ok (.iload_n 1, 1) := dk_27 (dk_at dksX3_goesOn_0 6 rfl rfl)
theorem dX3_goesOn_7 : decode cX3_goesOn 7 = .ok (.imul, 1) := dk_104 (dk_at dksX3_goesOn_0 7 rfl rfl)
theorem dX3_goesOn_8 : decode cX3_goesOn 8 = .ok (.aload_n 0, 1) := dk_42 (dk_at dksX3_goesOn_0 8 rfl rfl)
theorem dX3_goesOn_9 : decode cX3_goesOn 9 = .ok (.getfield 9, 3) := dk_180 0 9 (dk_at dksX3_goesOn_0 9 rfl rfl)
theorem dX3_goesOn_12 : decode cX3_goesOn 12 = .ok (.bipush 24, 2) := dk_16 24 (dk_at dksX3_goesOn_0 12 rfl rfl)
theorem dX3_goesOn_14 : decode cX3_goesOn 14 = .ok (.aload_n 0, 1) := dk_42 (dk_at dksX3_goesOn_0 14 rfl rfl)
theorem dX3_goesOn_15 : decode cX3_goesOn 15 = .ok (.getfield 27, 3) := dk_180 0 27 (dk_at dksX3_goesOn_0 15 rfl rfl)
theorem dX3_goesOn_18 : decode cX3_goesOn 18 = .ok (.iconst 1, 1) := dk_4 (dk_at dksX3_goesOn_0 18 rfl rfl)
theorem dX3_goesOn_19 : decode cX3_goesOn 19 = .ok (.iadd, 1) := dk_96 (dk_at dksX3_goesOn_0 19 rfl rfl)
theorem dX3_goesOn_20 : decode cX3_goesOn 20 = .ok (.imul, 1) := dk_104 (dk_at dksX3_goesOn_0 20 rfl rfl)
theorem dX3_goesOn_21 : decode cX3_goesOn 21 = .ok (.bipush 24, 2) := dk_16 24 (dk_at dksX3_goesOn_0 21 rfl rfl)
theorem dX3_goesOn_23 : decode cX3_goesOn 23 = .ok (.invokestatic 21, 3) := dk_184 0 21 (dk_at dksX3_goesOn_1 0 rfl rfl)
theorem dX3_goesOn_26 : decode cX3_goesOn 26 = .ok (.aload_n 0, 1) := dk_42 (dk_at dksX3_goesOn_1 3 rfl rfl)
theorem dX3_goesOn_27 : decode cX3_goesOn 27 = .ok (.getfield 15, 3) := dk_180 0 15 (dk_at dksX3_goesOn_1 4 rfl rfl)
theorem dX3_goesOn_30 : decode cX3_goesOn 30 = .ok (.bipush 24, 2) := dk_16 24 (dk_at dksX3_goesOn_1 7 rfl rfl)
theorem dX3_goesOn_32 : decode cX3_goesOn 32 = .ok (.iload_n 1, 1) := dk_27 (dk_at dksX3_goesOn_1 9 rfl rfl)
theorem dX3_goesOn_33 : decode cX3_goesOn 33 = .ok (.imul, 1) := dk_104 (dk_at dksX3_goesOn_1 10 rfl rfl)
theorem dX3_goesOn_34 : decode cX3_goesOn 34 = .ok (.aload_n 0, 1) := dk_42 (dk_at dksX3_goesOn_1 11 rfl rfl)
theorem dX3_goesOn_35 : decode cX3_goesOn 35 = .ok (.getfield 15, 3) := dk_180 0 15 (dk_at dksX3_goesOn_1 12 rfl rfl)
theorem dX3_goesOn_38 : decode cX3_goesOn 38 = .ok (.bipush 24, 2) := dk_16 24 (dk_at dksX3_goesOn_1 15 rfl rfl)
theorem dX3_goesOn_40 : decode cX3_goesOn 40 = .ok (.aload_n 0, 1) := dk_42 (dk_at dksX3_goesOn_1 17 rfl rfl)
theorem dX3_goesOn_41 : decode cX3_goesOn 41 = .ok (.getfield 27, 3) := dk_180 0 27 (dk_at dksX3_goesOn_1 18 rfl rfl)
theorem dX3_goesOn_44 : decode cX3_goesOn 44 = .ok (.iconst 1, 1) := dk_4 (dk_at dksX3_goesOn_1 21 rfl rfl)
theorem dX3_goesOn_45 : decode cX3_goesOn 45 = .ok (.iadd, 1) := dk_96 (dk_at dksX3_goesOn_1 22 rfl rfl)
theorem dX3_goesOn_46 : decode cX3_goesOn 46 = .ok (.imul, 1) := dk_104 (dk_at dksX3_goesOn_1 23 rfl rfl)
theorem dX3_goesOn_47 : decode cX3_goesOn 47 = .ok (.bipush 24, 2) := dk_16 24 (dk_at dksX3_goesOn_2 0 rfl rfl)
theorem dX3_goesOn_49 : decode cX3_goesOn 49 = .ok (.invokestatic 21, 3) := dk_184 0 21 (dk_at dksX3_goesOn_2 2 rfl rfl)
theorem dX3_goesOn_52 : decode cX3_goesOn 52 = .ok (.aload_n 0, 1) := dk_42 (dk_at dksX3_goesOn_2 5 rfl rfl)
theorem dX3_goesOn_53 : decode cX3_goesOn 53 = .ok (.dup, 1) := dk_89 (dk_at dksX3_goesOn_2 6 rfl rfl)
theorem dX3_goesOn_54 : decode cX3_goesOn 54 = .ok (.getfield 27, 3) := dk_180 0 27 (dk_at dksX3_goesOn_2 7 rfl rfl)
theorem dX3_goesOn_57 : decode cX3_goesOn 57 = .ok (.iconst 1, 1) := dk_4 (dk_at dksX3_goesOn_2 10 rfl rfl)
theorem dX3_goesOn_58 : decode cX3_goesOn 58 = .ok (.iadd, 1) := dk_96 (dk_at dksX3_goesOn_2 11 rfl rfl)
theorem dX3_goesOn_59 : decode cX3_goesOn 59 = .ok (.putfield 27, 3) := dk_181 0 27 (dk_at dksX3_goesOn_2 12 rfl rfl)
theorem dX3_goesOn_62 : decode cX3_goesOn 62 = .ok (.return_, 1) := dk_177 (dk_at dksX3_goesOn_2 15 rfl rfl)
theorem q137 : (Jvm.Cond.initialized "RightTurns$State") ∈ lw_all := lw_g (lw_at lw_m1 22 rfl) rfl
theorem q553 : (Jvm.Cond.instantiable "RightTurns$State" (5 : Nat)) ∈ lw_all := lw_g (lw_at lw_m2 198 rfl) rfl
theorem q555 : (Jvm.Cond.instanceMethod ({ cls := "RightTurns$State", name := "<init>", desc := "()V" } : Jvm.MethodName)) ∈ lw_all := lw_g (lw_at lw_m2 200 rfl) rfl
theorem q556 : (Jvm.Cond.code ({ cls := "RightTurns$State", name := "<init>", desc := "()V" } : Jvm.MethodName) prog_5_method_1_code (1 : Nat) (Option.none : Option Jvm.ClassFile.FieldType)) ∈ lw_all := lw_g (lw_at lw_m2 201 rfl) rfl
theorem q557 : (Jvm.Cond.methodLink "RightTurns$State" (3 : Nat) ({ cls := "java/lang/Object", name := "<init>", desc := "()V" } : Jvm.MethodName)) ∈ lw_all := lw_g (lw_at lw_m2 202 rfl) rfl
theorem q558 : (Jvm.Cond.fieldLink "RightTurns$State" (9 : Nat) "RightTurns$State" "signs" "[I") ∈ lw_all := lw_g (lw_at lw_m2 203 rfl) rfl
theorem q560 : (Jvm.Cond.fieldLink "RightTurns$State" (15 : Nat) "RightTurns$State" "allowed" "[I") ∈ lw_all := lw_g (lw_at lw_m2 205 rfl) rfl
theorem q562 : (Jvm.Cond.fieldLink "RightTurns$State" (18 : Nat) "RightTurns$State" "ride" "[I") ∈ lw_all := lw_g (lw_at lw_m2 207 rfl) rfl
theorem q564 : (Jvm.Cond.fieldLink "RightTurns$State" (27 : Nat) "RightTurns$State" "time" "I") ∈ lw_all := lw_g (lw_at lw_m2 209 rfl) rfl
theorem q566 : (Jvm.Cond.fieldLink "RightTurns$State" (31 : Nat) "RightTurns$State" "told" "I") ∈ lw_all := lw_g (lw_at lw_m2 211 rfl) rfl
theorem q568 : (Jvm.Cond.laysFinal "RightTurns$State" "RightTurns$State" "signs" "[I") ∈ lw_all := lw_g (lw_at lw_m2 213 rfl) rfl
theorem q569 : (Jvm.Cond.soleField "RightTurns$State" "signs") ∈ lw_all := lw_g (lw_at lw_m2 214 rfl) rfl
theorem q570 : (Jvm.Cond.laysFinal "RightTurns$State" "RightTurns$State" "allowed" "[I") ∈ lw_all := lw_g (lw_at lw_m2 215 rfl) rfl
theorem q571 : (Jvm.Cond.soleField "RightTurns$State" "allowed") ∈ lw_all := lw_g (lw_at lw_m2 216 rfl) rfl
theorem q572 : (Jvm.Cond.laysFinal "RightTurns$State" "RightTurns$State" "ride" "[I") ∈ lw_all := lw_g (lw_at lw_m2 217 rfl) rfl
theorem q573 : (Jvm.Cond.soleField "RightTurns$State" "ride") ∈ lw_all := lw_g (lw_at lw_m2 218 rfl) rfl
theorem q574 : (Jvm.Cond.lays "RightTurns$State" "RightTurns$State" "time" "I") ∈ lw_all := lw_g (lw_at lw_m2 219 rfl) rfl
theorem q575 : (Jvm.Cond.soleField "RightTurns$State" "time") ∈ lw_all := lw_g (lw_at lw_m2 220 rfl) rfl
theorem q576 : (Jvm.Cond.lays "RightTurns$State" "RightTurns$State" "told" "I") ∈ lw_all := lw_g (lw_at lw_m2 221 rfl) rfl
theorem q577 : (Jvm.Cond.soleField "RightTurns$State" "told") ∈ lw_all := lw_g (lw_at lw_m2 222 rfl) rfl
theorem q578 : (Jvm.Cond.superclass "RightTurns$State" "java/lang/Object") ∈ lw_all := lw_g (lw_at lw_m2 223 rfl) rfl
theorem q729 : (Jvm.Cond.instanceMethod ({ cls := "RightTurns$State", name := "become", desc := "(LRightTurns$State;)V" } : Jvm.MethodName)) ∈ lw_all := lw_g (lw_at lw_m3 134 rfl) rfl
theorem q730 : (Jvm.Cond.selects "RightTurns$State" ({ cls := "RightTurns$State", name := "become", desc := "(LRightTurns$State;)V" } : Jvm.MethodName) ({ cls := "RightTurns$State", name := "become", desc := "(LRightTurns$State;)V" } : Jvm.MethodName)) ∈ lw_all := lw_g (lw_at lw_m3 135 rfl) rfl
theorem q731 : (Jvm.Cond.code ({ cls := "RightTurns$State", name := "become", desc := "(LRightTurns$State;)V" } : Jvm.MethodName) prog_5_method_2_code (2 : Nat) (Option.none : Option Jvm.ClassFile.FieldType)) ∈ lw_all := lw_g (lw_at lw_m3 136 rfl) rfl
theorem q732 : (Jvm.Cond.methodLink "RightTurns$State" (21 : Nat) ({ cls := "java/lang/System", name := "arraycopy", desc := "(Ljava/lang/Object;ILjava/lang/Object;II)V" } : Jvm.MethodName)) ∈ lw_all := lw_g (lw_at lw_m3 137 rfl) rfl
theorem q1016 : (Jvm.Cond.selects "RightTurns$State" ({ cls := "java/lang/Object", name := "getClass", desc := "()Ljava/lang/Class;" } : Jvm.MethodName) ({ cls := "java/lang/Object", name := "getClass", desc := "()Ljava/lang/Class;" } : Jvm.MethodName)) ∈ lw_all := lw_g (lw_at lw_m4 181 rfl) rfl
theorem q1202 : (Jvm.Cond.instanceMethod ({ cls := "RightTurns$State", name := "isSigned", desc := "(III)Z" } : Jvm.MethodName)) ∈ lw_all := lw_g (lw_at lw_m5 127 rfl) rfl
theorem q1203 : (Jvm.Cond.selects "RightTurns$State" ({ cls := "RightTurns$State", name := "isSigned", desc := "(III)Z" } : Jvm.MethodName) ({ cls := "RightTurns$State", name := "isSigned", desc := "(III)Z" } : Jvm.MethodName)) ∈ lw_all := lw_g (lw_at lw_m5 128 rfl) rfl
theorem q1204 : (Jvm.Cond.code ({ cls := "RightTurns$State", name := "isSigned", desc := "(III)Z" } : Jvm.MethodName) prog_5_method_4_code (4 : Nat) (Option.some Jvm.ClassFile.FieldType.boolean)) ∈ lw_all := lw_g (lw_at lw_m5 129 rfl) rfl
theorem q1206 : (Jvm.Cond.instanceMethod ({ cls := "RightTurns$State", name := "isAllowed", desc := "(III)Z" } : Jvm.MethodName)) ∈ lw_all := lw_g (lw_at lw_m5 131 rfl) rfl
theorem q1207 : (Jvm.Cond.selects "RightTurns$State" ({ cls := "RightTurns$State", name := "isAllowed", desc := "(III)Z" } : Jvm.MethodName) ({ cls := "RightTurns$State", name := "isAllowed", desc := "(III)Z" } : Jvm.MethodName)) ∈ lw_all := lw_g (lw_at lw_m5 132 rfl) rfl
theorem q1208 : (Jvm.Cond.code ({ cls := "RightTurns$State", name := "isAllowed", desc := "(III)Z" } : Jvm.MethodName) prog_5_method_5_code (4 : Nat) (Option.some Jvm.ClassFile.FieldType.boolean)) ∈ lw_all := lw_g (lw_at lw_m5 133 rfl) rfl
theorem q1222 : (Jvm.Cond.instanceMethod ({ cls := "RightTurns$State", name := "goesOn", desc := "(I)V" } : Jvm.MethodName)) ∈ lw_all := lw_g (lw_at lw_m5 147 rfl) rfl
theorem q1223 : (Jvm.Cond.selects "RightTurns$State" ({ cls := "RightTurns$State", name := "goesOn", desc := "(I)V" } : Jvm.MethodName) ({ cls := "RightTurns$State", name := "goesOn", desc := "(I)V" } : Jvm.MethodName)) ∈ lw_all := lw_g (lw_at lw_m5 148 rfl) rfl
theorem q1224 : (Jvm.Cond.code ({ cls := "RightTurns$State", name := "goesOn", desc := "(I)V" } : Jvm.MethodName) prog_5_method_3_code (2 : Nat) (Option.none : Option Jvm.ClassFile.FieldType)) ∈ lw_all := lw_g (lw_at lw_m5 149 rfl) rfl
theorem q2215 : (Jvm.Cond.castable "RightTurns$State" "java/lang/Object") ∈ lw_tbl := lw_at lw_m9 180 rfl
theorem in_X3 : ∀ w ∈ wsX30, w ∈ lw_all := lw_in wsX30 [568, 570, 572, 574, 576] (by decide +kernel) (by decide +kernel)

/-! RightTurns$Reader -/
set_option maxRecDepth 100000
def RX5 : String := "RightTurns$Reader"
def TX5 : u_T := fun k => match k with
  | 0 => ("RightTurns$Reader", "text", "[B", true)
  | 1 => ("RightTurns$Reader", "size", "I", true)
  | 2 => ("RightTurns$Reader", "next", "I", false)
  | 3 => ("RightTurns$Reader", "from", "I", false)
  | _ => ("RightTurns$Reader", "t", "LRightTurns$Town;", true)
def tyX5 : Nat → FieldType := fun k => match k with
  | 0 => .array .byte
  | 1 => .int
  | 2 => .int
  | 3 => .int
  | _ => .object "RightTurns$Town"
abbrev wsX50 : List Cond := u_ws RX5 TX5 5
theorem nmX5 : ∀ a, a < 5 → ∀ b, b < 5 → a ≠ b → (TX5 a).2.1 ≠ (TX5 b).2.1 := by decide +kernel
theorem tyX5_ok : ∀ k, k < 5 → parseFieldDescriptor (TX5 k).2.2.1 = some (tyX5 k) := by decide +kernel
abbrev cX5_init : ByteArray := prog_3_method_1_code
def yX5_init : MethodName := ⟨RX5, "<init>", "([BI)V"⟩
def dkwX5_init_1 : List UInt8 := [181, 0, 22, 177]
abbrev dktX5_init_1 : List UInt8 := dkwX5_init_1 ++ []
def dkwX5_init_0 : List UInt8 := [42, 183, 0, 3, 42, 187, 0, 9, 89, 183, 0, 11, 181, 0, 12, 42, 43, 181, 0, 18, 42, 28]
abbrev dktX5_init_0 : List UInt8 := dkwX5_init_0 ++ dktX5_init_1
theorem dksX5_init_0 : cX5_init.data.toList.drop 0 = dktX5_init_0 := by decide +kernel
theorem dksX5_init_1 : cX5_init.data.toList.drop 22 = dktX5_init_1 := dk_seg dksX5_init_0 22 rfl rfl
theorem dX5_init_0 : decode cX5_init 0 = .ok (.aload_n 0, 1) := dk_42 (dk_at dksX5_init_0 0 rfl rfl)
theorem dX5_init_1 : decode cX5_init 1 = .ok (.invokespecial 3, 3) := dk_183 0 3 (dk_at dksX5_init_0 1 rfl rfl)
theorem dX5_init_4 : decode cX5_init 4 = .ok (.aload_n 0, 1) := dk_42 (dk_at dksX5_init_0 4 rfl rfl)
theorem dX5_init_5 : decode cX5_init 5 = .ok (.new 9, 3) := dk_187 0 9 (dk_at dksX5_init_0 5 rfl rfl)
theorem dX5_init_8 : decode cX5_init 8 = .ok (.dup, 1) := dk_89 (dk_at dksX5_init_0 8 rfl rfl)
theorem dX5_init_9 : decode cX5_init 9 = .ok (.invokespecial 11, 3) := dk_183 0 11 (dk_at dksX5_init_0 9 rfl rfl)
theorem dX5_init_12 : decode cX5_init 12 = .ok (.putfield 12, 3) := dk_181 0 12 (dk_at dksX5_init_0 12 rfl rfl)
theorem dX5_init_15 : decode cX5_init 15 = .ok (.aload_n 0, 1) := dk_42 (dk_at dksX5_init_0 15 rfl rfl)
theorem dX5_init_16 : decode cX5_init 16 = .ok (.aload_n 1, 1) := dk_43 (dk_at dksX5_init_0 16 rfl rfl)
theorem dX5_init_17 : decode cX5_init 17 = .ok (.putfield 18, 3) := dk_181 0 18 (dk_at dksX5_init_0 17 rfl rfl)
theorem dX5_init_20 : decode cX5_init 20 = .ok (.aload_n 0, 1) := dk_42 (dk_at dksX5_init_0 20 rfl rfl)
theorem dX5_init_21 : decode cX5_init 21 = .ok (.iload_n 2, 1) := dk_28 (dk_at dksX5_init_0 21 rfl rfl)
theorem dX5_init_22 : decode cX5_init 22 = .ok (.putfield 22, 3) := dk_181 0 22 (dk_at dksX5_init_1 0 rfl rfl)
theorem dX5_init_25 : decode cX5_init 25 = .ok (.return_, 1) := dk_177 (dk_at dksX5_init_1 3 rfl rfl)
abbrev cX5_reads : ByteArray := prog_3_method_10_code
def yX5_reads : MethodName := ⟨RX5, "reads", "()LRightTurns$Town;"⟩
def dkwX5_reads_2 : List UInt8 := [167, 255, 213, 42, 180, 0, 12, 182, 0, 93, 42, 180, 0, 12, 176]
abbrev dktX5_reads_2 : List UInt8 := dkwX5_reads_2 ++ []
def dkwX5_reads_1 : List UInt8 := [42, 16, 59, 182, 0, 86, 42, 180, 0, 12, 89, 180, 0, 90, 4, 96, 181, 0, 90, 42, 182, 0, 29, 87]
abbrev dktX5_reads_1 : List UInt8 := dkwX5_reads_1 ++ dktX5_reads_2
def dkwX5_reads_0 : List UInt8 := [42, 182, 0, 29, 87, 42, 180, 0, 26, 42, 180, 0, 22, 162, 0, 38, 42, 42, 182, 0, 79, 182, 0, 82]
abbrev dktX5_reads_0 : List UInt8 := dkwX5_reads_0 ++ dktX5_reads_1
theorem dksX5_reads_0 : cX5_reads.data.toList.drop 0 = dktX5_reads_0 := by decide +kernel
theorem dksX5_reads_1 : cX5_reads.data.toList.drop 24 = dktX5_reads_1 := dk_seg dksX5_reads_0 24 rfl rfl
theorem dksX5_reads_2 : cX5_reads.data.toList.drop 48 = dktX5_reads_2 := dk_seg dksX5_reads_1 24 rfl rfl
theorem dX5_reads_0 : decode cX5_reads 0 = .ok (.aload_n 0, 1) := dk_42 (dk_at dksX5_reads_0 0 rfl rfl)
theorem dX5_reads_1 : decode cX5_reads 1 = .ok (.invokevirtual 29, 3) := dk_182 0 29 (dk_at dksX5_reads_0 1 rfl rfl)
theorem dX5_reads_4 : decode cX5_reads 4 = .ok (.pop, 1) := dk_87 (dk_at dksX5_reads_0 4 rfl rfl)
theorem dX5_reads_5 : decode cX5_reads 5 = .ok (.aload_n 0, 1) := dk_42 (dk_at dksX5_reads_0 5 rfl rfl)
theorem dX5_reads_6 : decode cX5_reads 6 = .ok (.getfield 26, 3) := dk_180 0 26 (dk_at dksX5_reads_0 6 rfl rfl)
theorem dX5_reads_9 : decode cX5_reads 9 = .ok (.aload_n 0, 1) := dk_42 (dk_at dksX5_reads_0 9 rfl rfl)
theorem dX5_reads_10 : decode cX5_reads 10 = .ok (.getfield 22, 3) := dk_180 0 22 (dk_at dksX5_reads_0 10 rfl rfl)
theorem dX5_reads_13 : decode cX5_reads 13 = .ok (.if_icmp .ge 38, 3) := dk_162 0 38 (dk_at dksX5_reads_0 13 rfl rfl)
theorem dX5_reads_16 : decode cX5_reads 16 = .ok (.aload_n 0, 1) := dk_42 (dk_at dksX5_reads_0 16 rfl rfl)
theorem dX5_reads_17 : decode cX5_reads 17 = .ok (.aload_n 0, 1) := dk_42 (dk_at dksX5_reads_0 17 rfl rfl)
theorem dX5_reads_18 : decode cX5_reads 18 = .ok (.invokevirtual 79, 3) := dk_182 0 79 (dk_at dksX5_reads_0 18 rfl rfl)
theorem dX5_reads_21 : decode cX5_reads 21 = .ok (.invokevirtual 82, 3) := dk_182 0 82 (dk_at dksX5_reads_0 21 rfl rfl)
theorem dX5_reads_24 : decode cX5_reads 24 = .ok (.aload_n 0, 1) := dk_42 (dk_at dksX5_reads_1 0 rfl rfl)
theorem dX5_reads_25 : decode cX5_reads 25 = .ok (.bipush 59, 2) := dk_16 59 (dk_at dksX5_reads_1 1 rfl rfl)
theorem dX5_reads_27 : decode cX5_reads 27 = .ok (.invokevirtual 86, 3) := dk_182 0 86 (dk_at dksX5_reads_1 3 rfl rfl)
theorem dX5_reads_30 : decode cX5_reads 30 = .ok (.aload_n 0, 1) := dk_42 (dk_at dksX5_reads_1 6 rfl rfl)
theorem dX5_reads_31 : decode cX5_reads 31 = .ok (.getfield 12, 3) := dk_180 0 12 (dk_at dksX5_reads_1 7 rfl rfl)
theorem dX5_reads_34 : decode cX5_reads 34 = .ok (.dup, 1) := dk_89 (dk_at dksX5_reads_1 10 rfl rfl)
theorem dX5_reads_35 : decode cX5_reads 35 = .ok (.getfield 90, 3) := dk_180 0 90 (dk_at dksX5_reads_1 11 rfl rfl)
theorem dX5_reads_38 : decode cX5_reads 38 = .ok (.iconst 1, 1) := dk_4 (dk_at dksX5_reads_1 14 rfl rfl)
theorem dX5_reads_39 : decode cX5_reads 39 = .ok (.iadd, 1) := dk_96 (dk_at dksX5_reads_1 15 rfl rfl)
theorem dX5_reads_40 : decode cX5_reads 40 = .ok (.putfield 90, 3) := dk_181 0 90 (dk_at dksX5_reads_1 16 rfl rfl)
theorem dX5_reads_43 : decode cX5_reads 43 = .ok (.aload_n 0, 1) := dk_42 (dk_at dksX5_reads_1 19 rfl rfl)
theorem dX5_reads_44 : decode cX5_reads 44 = .ok (.invokevirtual 29, 3) := dk_182 0 29 (dk_at dksX5_reads_1 20 rfl rfl)
theorem dX5_reads_47 : decode cX5_reads 47 = .ok (.pop, 1) := dk_87 (dk_at dksX5_reads_1 23 rfl rfl)
theorem dX5_reads_48 : decode cX5_reads 48 = .ok (.goto (-43), 3) := dk_167 255 213 (dk_at dksX5_reads_2 0 rfl rfl)
theorem dX5_reads_51 : decode cX5_reads 51 = .ok (.aload_n 0, 1) := dk_42 (dk_at dksX5_reads_2 3 rfl rfl)
theorem dX5_reads_52 : decode cX5_reads 52 = .ok (.getfield 12, 3) := dk_180 0 12 (dk_at dksX5_reads_2 4 rfl rfl)
theorem dX5_reads_55 : decode cX5_reads 55 = .ok (.invokevirtual 93, 3) := dk_182 0 93 (dk_at dksX5_reads_2 7 rfl rfl)
theorem dX5_reads_58 : decode cX5_reads 58 = .ok (.aload_n 0, 1) := dk_42 (dk_at dksX5_reads_2 10 rfl rfl)
theorem dX5_reads_59 : decode cX5_reads 59 = .ok (.getfield 12, 3) := dk_180 0 12 (dk_at dksX5_reads_2 11 rfl rfl)
theorem dX5_reads_62 : decode cX5_reads 62 = .ok (.areturn, 1) := dk_176 (dk_at dksX5_reads_2 14 rfl rfl)
abbrev cX5_sign : ByteArray := prog_3_method_2_code
def yX5_sign : MethodName := ⟨RX5, "sign", "()I"⟩
def dkwX5_sign_2 : List UInt8 := [162, 0, 15, 42, 180, 0, 18, 42, 180, 0, 26, 51, 167, 0, 4, 3, 172]
abbrev dktX5_sign_2 : List UInt8 := dkwX5_sign_2 ++ []
def dkwX5_sign_1 : List UInt8 := [160, 0, 16, 42, 89, 180, 0, 26, 4, 96, 181, 0, 26, 167, 255, 221, 42, 180, 0, 26, 42, 180, 0, 22]
abbrev dktX5_sign_1 : List UInt8 := dkwX5_sign_1 ++ dktX5_sign_2
def dkwX5_sign_0 : List UInt8 := [42, 180, 0, 26, 42, 180, 0, 22, 162, 0, 30, 42, 180, 0, 18, 42, 180, 0, 26, 51, 16, 32]
abbrev dktX5_sign_0 : List UInt8 := dkwX5_sign_0 ++ dktX5_sign_1
theorem dksX5_sign_0 : cX5_sign.data.toList.drop 0 = dktX5_sign_0 := by decide +kernel
theorem dksX5_sign_1 : cX5_sign.data.toList.drop 22 = dktX5_sign_1 := dk_seg dksX5_sign_0 22 rfl rfl
theorem dksX5_sign_2 : cX5_sign.data.toList.drop 46 = dktX5_sign_2 := dk_seg dksX5_sign_1 24 rfl rfl
theorem dX5_sign_0 : decode cX5_sign 0 = .ok (.aload_n 0, 1) := dk_42 (dk_at dksX5_sign_0 0 rfl rfl)
theorem dX5_sign_1 : decode cX5_sign 1 = .ok (.getfield 26, 3) := dk_180 0 26 (dk_at dksX5_sign_0 1 rfl rfl)
theorem dX5_sign_4 : decode cX5_sign 4 = .ok (.aload_n 0, 1) := dk_42 (dk_at dksX5_sign_0 4 rfl rfl)
theorem dX5_sign_5 : decode cX5_sign 5 = .ok (.getfield 22, 3) := dk_180 0 22 (dk_at dksX5_sign_0 5 rfl rfl)
theorem dX5_sign_8 : decode cX5_sign 8 = .ok (.if_icmp .ge 30, 3) := dk_162 0 30 (dk_at dksX5_sign_0 8 rfl rfl)
theorem dX5_sign_11 : decode cX5_sign 11 = .ok (.aload_n 0, 1) := dk_42 (dk_at dksX5_sign_0 11 rfl rfl)
theorem dX5_sign_12 : decode cX5_sign 12 = .ok (.getfield 18, 3) := dk_180 0 18 (dk_at dksX5_sign_0 12 rfl rfl)
theorem dX5_sign_15 : decode cX5_sign 15 = .ok (.aload_n 0, 1) := dk_42 (dk_at dksX5_sign_0 15 rfl rfl)
theorem dX5_sign_16 : decode cX5_sign 16 = .ok (.getfield 26, 3) := dk_180 0 26 (dk_at dksX5_sign_0 16 rfl rfl)
theorem dX5_sign_19 : decode cX5_sign 19 = .ok (.baload, 1) := dk_51 (dk_at dksX5_sign_0 19 rfl rfl)
theorem dX5_sign_20 : decode cX5_sign 20 = .ok (.bipush 32, 2) := dk_16 32 (dk_at dksX5_sign_0 20 rfl rfl)
theorem dX5_sign_22 : decode cX5_sign 22 = .ok (.if_icmp .ne 16, 3) := dk_160 0 16 (dk_at dksX5_sign_1 0 rfl rfl)
theorem dX5_sign_25 : decode cX5_sign 25 = .ok (.aload_n 0, 1) := dk_42 (dk_at dksX5_sign_1 3 rfl rfl)
theorem dX5_sign_26 : decode cX5_sign 26 = .ok (.dup, 1) := dk_89 (dk_at dksX5_sign_1 4 rfl rfl)
theorem dX5_sign_27 : decode cX5_sign 27 = .ok (.getfield 26, 3) := dk_180 0 26 (dk_at dksX5_sign_1 5 rfl rfl)
theorem dX5_sign_30 : decode cX5_sign 30 = .ok (.iconst 1, 1) := dk_4 (dk_at dksX5_sign_1 8 rfl rfl)
theorem dX5_sign_31 : decode cX5_sign 31 = .ok (.iadd, 1) := dk_96 (dk_at dksX5_sign_1 9 rfl rfl)
theorem dX5_sign_32 : decode cX5_sign 32 = .ok (.putfield 26, 3) := dk_181 0 26 (dk_at dksX5_sign_1 10 rfl rfl)
theorem dX5_sign_35 : decode cX5_sign 35 = .ok (.goto (-35), 3) := dk_167 255 221 (dk_at dksX5_sign_1 13 rfl rfl)
theorem dX5_sign_38 : decode cX5_sign 38 = .ok (.aload_n 0, 1) := dk_42 (dk_at dksX5_sign_1 16 rfl rfl)
theorem dX5_sign_39 : decode cX5_sign 39 = .ok (.getfield 26, 3) := dk_180 0 26 (dk_at dksX5_sign_1 17 rfl rfl)
theorem dX5_sign_42 : decode cX5_sign 42 = .ok (.aload_n 0, 1) := dk_42 (dk_at dksX5_sign_1 20 rfl rfl)
theorem dX5_sign_43 : decode cX5_sign 43 = .ok (.getfield 22, 3) := dk_180 0 22 (dk_at dksX5_sign_1 21 rfl rfl)
theorem dX5_sign_46 : decode cX5_sign 46 = .ok (.if_icmp .ge 15, 3) := dk_162 0 15 (dk_at dksX5_sign_2 0 rfl rfl)
theorem dX5_sign_49 : decode cX5_sign 49 = .ok (.aload_n 0, 1) := dk_42 (dk_at dksX5_sign_2 3 rfl rfl)
theorem dX5_sign_50 : decode cX5_sign 50 = .ok (.getfield 18, 3) := dk_180 0 18 (dk_at dksX5_sign_2 4 rfl rfl)
theorem dX5_sign_53 : decode cX5_sign 53 = .ok (.aload_n 0, 1) := dk_42 (dk_at dksX5_sign_2 7 rfl rfl)
theorem dX5_sign_54 : decode cX5_sign 54 = .ok (.getfield 26, 3) := dk_180 0 26 (dk_at dksX5_sign_2 8 rfl rfl)
theorem dX5_sign_57 : decode cX5_sign 57 = .ok (.baload, 1) := dk_51 (dk_at dksX5_sign_2 11 rfl rfl)
theorem dX5_sign_58 : decode cX5_sign 58 = .ok (.goto 4, 3) := dk_167 0 4 (dk_at dksX5_sign_2 12 rfl rfl)
theorem dX5_sign_61 : decode cX5_sign 61 = .ok (.iconst 0, 1) := dk_3 (dk_at dksX5_sign_2 15 rfl rfl)
theorem dX5_sign_62 : decode cX5_sign 62 = .ok (.ireturn, 1) := dk_172 (dk_at dksX5_sign_2 16 rfl rfl)
abbrev cX5_word : ByteArray := prog_3_method_3_code
def yX5_word : MethodName := ⟨RX5, "word", "()Ljava/lang/String;"⟩
def dkwX5_word_3 : List UInt8 := [132, 2, 1, 167, 255, 202, 43, 182, 0, 43, 176]
abbrev dktX5_word_3 : List UInt8 := dkwX5_word_3 ++ []
def dkwX5_word_2 : List UInt8 := [163, 0, 30, 43, 182, 0, 36, 16, 7, 162, 0, 21, 43, 42, 180, 0, 18, 28, 51, 146, 182, 0, 39, 87]
abbrev dktX5_word_2 : List UInt8 := dkwX5_word_2 ++ dktX5_word_3
def dkwX5_word_1 : List UInt8 := [162, 0, 52, 42, 180, 0, 18, 28, 51, 16, 97, 161, 0, 41, 42, 180, 0, 18, 28, 51, 16, 122]
abbrev dktX5_word_1 : List UInt8 := dkwX5_word_1 ++ dktX5_word_2
def dkwX5_word_0 : List UInt8 := [42, 182, 0, 29, 87, 187, 0, 33, 89, 183, 0, 35, 76, 42, 180, 0, 26, 61, 28, 42, 180, 0, 22]
abbrev dktX5_word_0 : List UInt8 := dkwX5_word_0 ++ dktX5_word_1
theorem dksX5_word_0 : cX5_word.data.toList.drop 0 = dktX5_word_0 := by decide +kernel
theorem dksX5_word_1 : cX5_word.data.toList.drop 23 = dktX5_word_1 := dk_seg dksX5_word_0 23 rfl rfl
theorem dksX5_word_2 : cX5_word.data.toList.drop 45 = dktX5_word_2 := dk_seg dksX5_word_1 22 rfl rfl
theorem dksX5_word_3 : cX5_word.data.toList.drop 69 = dktX5_word_3 := dk_seg dksX5_word_2 24 rfl rfl
theorem dX5_word_0 : decode cX5_word 0 = .ok (.aload_n 0, 1) := dk_42 (dk_at dksX5_word_0 0 rfl rfl)
theorem dX5_word_1 : decode cX5_word 1 = .ok (.invokevirtual 29, 3) := dk_182 0 29 (dk_at dksX5_word_0 1 rfl rfl)
theorem dX5_word_4 : decode cX5_word 4 = .ok (.pop, 1) := dk_87 (dk_at dksX5_word_0 4 rfl rfl)
theorem dX5_word_5 : decode cX5_word 5 = .ok (.new 33, 3) := dk_187 0 33 (dk_at dksX5_word_0 5 rfl rfl)
theorem dX5_word_8 : decode cX5_word 8 = .ok (.dup, 1) := dk_89 (dk_at dksX5_word_0 8 rfl rfl)
theorem dX5_word_9 : decode cX5_word 9 = .ok (.invokespecial 35, 3) := dk_183 0 35 (dk_at dksX5_word_0 9 rfl rfl)
theorem dX5_word_12 : decode cX5_word 12 = .ok (.astore_n 1, 1) := dk_76 (dk_at dksX5_word_0 12 rfl rfl)
theorem dX5_word_13 : decode cX5_word 13 = .ok (.aload_n 0, 1) := dk_42 (dk_at dksX5_word_0 13 rfl rfl)
theorem dX5_word_14 : decode cX5_word 14 = .ok (.getfield 26, 3) := dk_180 0 26 (dk_at dksX5_word_0 14 rfl rfl)
theorem dX5_word_17 : decode cX5_word 17 = .ok (.istore_n 2, 1) := dk_61 (dk_at dksX5_word_0 17 rfl rfl)
theorem dX5_word_18 : decode cX5_word 18 = .ok (.iload_n 2, 1) := dk_28 (dk_at dksX5_word_0 18 rfl rfl)
theorem dX5_word_19 : decode cX5_word 19 = .ok (.aload_n 0, 1) := dk_42 (dk_at dksX5_word_0 19 rfl rfl)
theorem dX5_word_20 : decode cX5_word 20 = .ok (.getfield 22, 3) := dk_180 0 22 (dk_at dksX5_word_0 20 rfl rfl)
theorem dX5_word_23 : decode cX5_word 23 = .ok (.if_icmp .ge 52, 3) := dk_162 0 52 (dk_at dksX5_word_1 0 rfl rfl)
theorem dX5_word_26 : decode cX5_word 26 = .ok (.aload_n 0, 1) := dk_42 (dk_at dksX5_word_1 3 rfl rfl)
theorem dX5_word_27 : decode cX5_word 27 = .ok (.getfield 18, 3) := dk_180 0 18 (dk_at dksX5_word_1 4 rfl rfl)
theorem dX5_word_30 : decode cX5_word 30 = .ok (.iload_n 2, 1) := dk_28 (dk_at dksX5_word_1 7 rfl rfl)
theorem dX5_word_31 : decode cX5_word 31 = .ok (.baload, 1) := dk_51 (dk_at dksX5_word_1 8 rfl rfl)
theorem dX5_word_32 : decode cX5_word 32 = .ok (.bipush 97, 2) := dk_16 97 (dk_at dksX5_word_1 9 rfl rfl)
theorem dX5_word_34 : decode cX5_word 34 = .ok (.if_icmp .lt 41, 3) := dk_161 0 41 (dk_at dksX5_word_1 11 rfl rfl)
theorem dX5_word_37 : decode cX5_word 37 = .ok (.aload_n 0, 1) := dk_42 (dk_at dksX5_word_1 14 rfl rfl)
theorem dX5_word_38 : decode cX5_word 38 = .ok (.getfield 18, 3) := dk_180 0 18 (dk_at dksX5_word_1 15 rfl rfl)
theorem dX5_word_41 : decode cX5_word 41 = .ok (.iload_n 2, 1) := dk_28 (dk_at dksX5_word_1 18 rfl rfl)
theorem dX5_word_42 : decode cX5_word 42 = .ok (.baload, 1) := dk_51 (dk_at dksX5_word_1 19 rfl rfl)
theorem dX5_word_43 : decode cX5_word 43 = .ok (.bipush 122, 2) := dk_16 122 (dk_at dksX5_word_1 20 rfl rfl)
theorem dX5_word_45 : decode cX5_word 45 = .ok (.if_icmp .gt 30, 3) := dk_163 0 30 (dk_at dksX5_word_2 0 rfl rfl)
theorem dX5_word_48 : decode cX5_word 48 = .ok (.aload_n 1, 1) := dk_43 (dk_at dksX5_word_2 3 rfl rfl)
theorem dX5_word_49 : decode cX5_word 49 = .ok (.invokevirtual 36, 3) := dk_182 0 36 (dk_at dksX5_word_2 4 rfl rfl)
theorem dX5_word_52 : decode cX5_word 52 = .ok (.bipush 7, 2) := dk_16 7 (dk_at dksX5_word_2 7 rfl rfl)
theorem dX5_word_54 : decode cX5_word 54 = .ok (.if_icmp .ge 21, 3) := dk_162 0 21 (dk_at dksX5_word_2 9 rfl rfl)
theorem dX5_word_57 : decode cX5_word 57 = .ok (.aload_n 1, 1) := dk_43 (dk_at dksX5_word_2 12 rfl rfl)
theorem dX5_word_58 : decode cX5_word 58 = .ok (.aload_n 0, 1) := dk_42 (dk_at dksX5_word_2 13 rfl rfl)
theorem dX5_word_59 : decode cX5_word 59 = .ok (.getfield 18, 3) := dk_180 0 18 (dk_at dksX5_word_2 14 rfl rfl)
theorem dX5_word_62 : decode cX5_word 62 = .ok (.iload_n 2, 1) := dk_28 (dk_at dksX5_word_2 17 rfl rfl)
theorem dX5_word_63 : decode cX5_word 63 = .ok (.baload, 1) := dk_51 (dk_at dksX5_word_2 18 rfl rfl)
theorem dX5_word_64 : decode cX5_word 64 = .ok (.i2c, 1) := dk_146 (dk_at dksX5_word_2 19 rfl rfl)
theorem dX5_word_65 : decode cX5_word 65 = .ok (.invokevirtual 39, 3) := dk_182 0 39 (dk_at dksX5_word_2 20 rfl rfl)
theorem dX5_word_68 : decode cX5_word 68 = .ok (.pop, 1) := dk_87 (dk_at dksX5_word_2 23 rfl rfl)
theorem dX5_word_69 : decode cX5_word 69 = .ok (.iinc 2 1, 3) := dk_132 2 1 (dk_at dksX5_word_3 0 rfl rfl)
theorem dX5_word_72 : decode cX5_word 72 = .ok (.goto (-54), 3) := dk_167 255 202 (dk_at dksX5_word_3 3 rfl rfl)
theorem dX5_word_75 : decode cX5_word 75 = .ok (.aload_n 1, 1) := dk_43 (dk_at dksX5_word_3 6 rfl rfl)
theorem dX5_word_76 : decode cX5_word 76 = .ok (.invokevirtual 43, 3) := dk_182 0 43 (dk_at dksX5_word_3 7 rfl rfl)
theorem dX5_word_79 : decode cX5_word 79 = .ok (.areturn, 1) := dk_176 (dk_at dksX5_word_3 10 rfl rfl)
abbrev cX5_clause : ByteArray := prog_3_method_11_code
def yX5_clause : MethodName := ⟨RX5, "clause", "(Ljava/lang/String;)V"⟩
def dkwX5_clause_38 : List UInt8 := [21, 5, 21, 6, 42, 3, 16, 99, 182, 0, 73, 183, 0, 177, 182, 0, 149, 87, 177]
abbrev dktX5_clause_38 : List UInt8 := dkwX5_clause_38 ++ []
def dkwX5_clause_37 : List UInt8 := [21, 6, 159, 0, 7, 4, 167, 0, 4, 3, 182, 0, 144, 42, 180, 0, 12, 180, 0, 119, 187, 0, 175, 89]
abbrev dktX5_clause_37 : List UInt8 := dkwX5_clause_37 ++ dktX5_clause_38
def dkwX5_clause_36 : List UInt8 := [182, 0, 152, 120, 128, 181, 0, 122, 177, 42, 182, 0, 152, 54, 5, 42, 182, 0, 152, 54, 6, 42, 21, 5]
abbrev dktX5_clause_36 : List UInt8 := dkwX5_clause_36 ++ dktX5_clause_37
def dkwX5_clause_35 : List UInt8 := [180, 0, 172, 21, 5, 92, 46, 4, 21, 6, 120, 128, 79, 177, 42, 180, 0, 12, 89, 180, 0, 122, 4, 42]
abbrev dktX5_clause_35 : List UInt8 := dkwX5_clause_35 ++ dktX5_clause_36
def dkwX5_clause_34 : List UInt8 := [180, 0, 12, 180, 0, 168, 21, 5, 92, 46, 4, 21, 6, 120, 128, 79, 167, 0, 20, 42, 180, 0, 12]
abbrev dktX5_clause_34 : List UInt8 := dkwX5_clause_34 ++ dktX5_clause_35
def dkwX5_clause_33 : List UInt8 := [182, 0, 164, 153, 0, 7, 4, 167, 0, 4, 3, 182, 0, 144, 43, 18, 115, 182, 0, 103, 153, 0, 23, 42]
abbrev dktX5_clause_33 : List UInt8 := dkwX5_clause_33 ++ dktX5_clause_34
def dkwX5_clause_32 : List UInt8 := [21, 5, 182, 0, 132, 192, 0, 154, 42, 180, 0, 12, 180, 0, 76, 21, 6, 182, 0, 132, 192, 0, 154]
abbrev dktX5_clause_32 : List UInt8 := dkwX5_clause_32 ++ dktX5_clause_33
def dkwX5_clause_31 : List UInt8 := [54, 5, 42, 182, 0, 159, 54, 6, 42, 21, 5, 21, 6, 159, 0, 43, 42, 180, 0, 12, 180, 0, 76]
abbrev dktX5_clause_31 : List UInt8 := dkwX5_clause_31 ++ dktX5_clause_32
def dkwX5_clause_30 : List UInt8 := [42, 182, 0, 159, 182, 0, 132, 192, 0, 154, 58, 5, 25, 5, 4, 181, 0, 161, 177, 42, 182, 0, 159]
abbrev dktX5_clause_30 : List UInt8 := dkwX5_clause_30 ++ dktX5_clause_31
def dkwX5_clause_29 : List UInt8 := [21, 6, 42, 4, 16, 99, 182, 0, 73, 183, 0, 156, 182, 0, 149, 87, 177, 42, 180, 0, 12, 180, 0, 76]
abbrev dktX5_clause_29 : List UInt8 := dkwX5_clause_29 ++ dktX5_clause_30
def dkwX5_clause_28 : List UInt8 := [159, 0, 7, 4, 167, 0, 4, 3, 182, 0, 144, 42, 180, 0, 12, 180, 0, 76, 187, 0, 154, 89, 21, 5]
abbrev dktX5_clause_28 : List UInt8 := dkwX5_clause_28 ++ dktX5_clause_29
def dkwX5_clause_27 : List UInt8 := [182, 0, 149, 87, 177, 42, 182, 0, 152, 54, 5, 42, 182, 0, 152, 54, 6, 42, 21, 5, 21, 6]
abbrev dktX5_clause_27 : List UInt8 := dkwX5_clause_27 ++ dktX5_clause_28
def dkwX5_clause_26 : List UInt8 := [132, 7, 1, 167, 255, 183, 42, 180, 0, 12, 180, 0, 65, 187, 0, 136, 89, 21, 5, 21, 6, 183, 0, 148]
abbrev dktX5_clause_26 : List UInt8 := dkwX5_clause_26 ++ dktX5_clause_27
def dkwX5_clause_25 : List UInt8 := [182, 0, 132, 192, 0, 136, 180, 0, 141, 21, 6, 159, 0, 7, 4, 167, 0, 4, 3, 182, 0, 144]
abbrev dktX5_clause_25 : List UInt8 := dkwX5_clause_25 ++ dktX5_clause_26
def dkwX5_clause_24 : List UInt8 := [182, 0, 132, 192, 0, 136, 180, 0, 138, 21, 5, 160, 0, 26, 42, 180, 0, 12, 180, 0, 65, 21, 7]
abbrev dktX5_clause_24 : List UInt8 := dkwX5_clause_24 ++ dktX5_clause_25
def dkwX5_clause_23 : List UInt8 := [180, 0, 12, 180, 0, 65, 182, 0, 69, 162, 0, 64, 42, 42, 180, 0, 12, 180, 0, 65, 21, 7]
abbrev dktX5_clause_23 : List UInt8 := dkwX5_clause_23 ++ dktX5_clause_24
def dkwX5_clause_22 : List UInt8 := [42, 3, 16, 99, 182, 0, 73, 54, 5, 42, 3, 16, 99, 182, 0, 73, 54, 6, 3, 54, 7, 21, 7, 42]
abbrev dktX5_clause_22 : List UInt8 := dkwX5_clause_22 ++ dktX5_clause_23
def dkwX5_clause_21 : List UInt8 := [170, 0, 0, 0, 0, 1, 117, 0, 0, 0, 0, 0, 0, 0, 5, 0, 0, 0, 39, 0, 0, 0, 159, 0, 0, 0, 217, 0, 0, 0, 243, 0, 0, 0, 243, 0, 0, 1, 98]
abbrev dktX5_clause_21 : List UInt8 := dkwX5_clause_21 ++ dktX5_clause_22
def dkwX5_clause_20 : List UInt8 := [167, 0, 15, 45, 18, 111, 182, 0, 103, 153, 0, 6, 8, 54, 4, 21, 4]
abbrev dktX5_clause_20 : List UInt8 := dkwX5_clause_20 ++ dktX5_clause_21
def dkwX5_clause_19 : List UInt8 := [182, 0, 103, 153, 0, 36, 6, 54, 4, 167, 0, 30, 45, 18, 117, 182, 0, 103, 153, 0, 21, 7, 54, 4]
abbrev dktX5_clause_19 : List UInt8 := dkwX5_clause_19 ++ dktX5_clause_20
def dkwX5_clause_18 : List UInt8 := [4, 54, 4, 167, 0, 60, 45, 18, 113, 182, 0, 103, 153, 0, 51, 5, 54, 4, 167, 0, 45, 45, 18, 115]
abbrev dktX5_clause_18 : List UInt8 := dkwX5_clause_18 ++ dktX5_clause_19
def dkwX5_clause_17 : List UInt8 := [45, 18, 101, 182, 0, 103, 153, 0, 81, 3, 54, 4, 167, 0, 75, 45, 18, 107, 182, 0, 103, 153, 0, 66]
abbrev dktX5_clause_17 : List UInt8 := dkwX5_clause_17 ++ dktX5_clause_18
def dkwX5_clause_16 : List UInt8 := [171, 0, 0, 0, 144, 0, 0, 0, 6, 175, 65, 114, 85, 0, 0, 0, 57, 202, 213, 80, 3, 0, 0, 0, 72, 0, 0, 13, 193, 0, 0, 0, 102, 0, 1, 125, 203, 0, 0, 0, 132, 0, 1, 165, 101, 0, 0, 0, 117, 0, 1, 174, 102, 0, 0, 0, 87]
abbrev dktX5_clause_16 : List UInt8 := dkwX5_clause_16 ++ dktX5_clause_17
def dkwX5_clause_15 : List UInt8 := [182, 0, 131, 96, 181, 0, 26, 43, 78, 2, 54, 4, 45, 182, 0, 96]
abbrev dktX5_clause_15 : List UInt8 := dkwX5_clause_15 ++ dktX5_clause_16
def dkwX5_clause_14 : List UInt8 := [191, 28, 153, 0, 16, 187, 0, 47, 89, 6, 42, 180, 0, 26, 183, 0, 49, 191, 42, 89, 180, 0, 26, 43]
abbrev dktX5_clause_14 : List UInt8 := dkwX5_clause_14 ++ dktX5_clause_15
def dkwX5_clause_13 : List UInt8 := [184, 0, 125, 16, 10, 160, 0, 7, 4, 167, 0, 4, 3, 61, 167, 0, 11, 167, 0, 8, 42, 182, 0, 52]
abbrev dktX5_clause_13 : List UInt8 := dkwX5_clause_13 ++ dktX5_clause_14
def dkwX5_clause_12 : List UInt8 := [160, 0, 7, 4, 167, 0, 4, 3, 61, 167, 0, 39, 28, 154, 0, 18, 42, 180, 0, 12, 180, 0, 122]
abbrev dktX5_clause_12 : List UInt8 := dkwX5_clause_12 ++ dktX5_clause_13
def dkwX5_clause_11 : List UInt8 := [167, 0, 4, 3, 61, 167, 0, 67, 28, 154, 0, 18, 42, 180, 0, 12, 180, 0, 119, 182, 0, 69, 16, 12]
abbrev dktX5_clause_11 : List UInt8 := dkwX5_clause_11 ++ dktX5_clause_12
def dkwX5_clause_10 : List UInt8 := [61, 167, 0, 95, 28, 154, 0, 18, 42, 180, 0, 12, 180, 0, 76, 182, 0, 69, 16, 24, 160, 0, 7, 4]
abbrev dktX5_clause_10 : List UInt8 := dkwX5_clause_10 ++ dktX5_clause_11
def dkwX5_clause_9 : List UInt8 := [28, 154, 0, 18, 42, 180, 0, 12, 180, 0, 65, 182, 0, 69, 16, 16, 160, 0, 7, 4, 167, 0, 4, 3]
abbrev dktX5_clause_9 : List UInt8 := dkwX5_clause_9 ++ dktX5_clause_10
def dkwX5_clause_8 : List UInt8 := [170, 0, 0, 0, 0, 0, 158, 0, 0, 0, 0, 0, 0, 0, 6, 0, 0, 0, 43, 0, 0, 0, 71, 0, 0, 0, 99, 0, 0, 0, 127, 0, 0, 0, 155, 0, 0, 0, 155, 0, 0, 0, 155]
abbrev dktX5_clause_8 : List UInt8 := dkwX5_clause_8 ++ dktX5_clause_9
def dkwX5_clause_7 : List UInt8 := [153, 0, 7, 16, 6, 54, 4, 21, 4]
abbrev dktX5_clause_7 : List UInt8 := dkwX5_clause_7 ++ dktX5_clause_8
def dkwX5_clause_6 : List UInt8 := [167, 0, 31, 45, 18, 115, 182, 0, 103, 153, 0, 22, 8, 54, 4, 167, 0, 16, 45, 18, 117, 182, 0, 103]
abbrev dktX5_clause_6 : List UInt8 := dkwX5_clause_6 ++ dktX5_clause_7
def dkwX5_clause_5 : List UInt8 := [182, 0, 103, 153, 0, 52, 6, 54, 4, 167, 0, 46, 45, 18, 113, 182, 0, 103, 153, 0, 37, 7, 54, 4]
abbrev dktX5_clause_5 : List UInt8 := dkwX5_clause_5 ++ dktX5_clause_6
def dkwX5_clause_4 : List UInt8 := [4, 54, 4, 167, 0, 76, 45, 18, 109, 182, 0, 103, 153, 0, 67, 5, 54, 4, 167, 0, 61, 45, 18, 111]
abbrev dktX5_clause_4 : List UInt8 := dkwX5_clause_4 ++ dktX5_clause_5
def dkwX5_clause_3 : List UInt8 := [45, 18, 101, 182, 0, 103, 153, 0, 97, 3, 54, 4, 167, 0, 91, 45, 18, 107, 182, 0, 103, 153, 0, 82]
abbrev dktX5_clause_3 : List UInt8 := dkwX5_clause_3 ++ dktX5_clause_4
def dkwX5_clause_2 : List UInt8 := [171, 0, 0, 0, 168, 0, 0, 0, 7, 175, 65, 114, 85, 0, 0, 0, 65, 202, 213, 80, 3, 0, 0, 0, 80, 0, 0, 13, 193, 0, 0, 0, 140, 0, 1, 125, 203, 0, 0, 0, 110, 0, 1, 165, 101, 0, 0, 0, 155, 0, 1, 174, 102, 0, 0, 0, 125, 6, 119, 182, 122, 0, 0, 0, 95]
abbrev dktX5_clause_2 : List UInt8 := dkwX5_clause_2 ++ dktX5_clause_3
def dkwX5_clause_1 : List UInt8 := [182, 0, 96]
abbrev dktX5_clause_1 : List UInt8 := dkwX5_clause_1 ++ dktX5_clause_2
def dkwX5_clause_0 : List UInt8 := [42, 180, 0, 12, 180, 0, 90, 16, 60, 160, 0, 7, 4, 167, 0, 4, 3, 61, 43, 78, 2, 54, 4, 45]
abbrev dktX5_clause_0 : List UInt8 := dkwX5_clause_0 ++ dktX5_clause_1
theorem dksX5_clause_0 : cX5_clause.data.toList.drop 0 = dktX5_clause_0 := by decide +kernel
theorem dksX5_clause_1 : cX5_clause.data.toList.drop 24 = dktX5_clause_1 := dk_seg dksX5_clause_0 24 rfl rfl
theorem dksX5_clause_2 : cX5_clause.data.toList.drop 27 = dktX5_clause_2 := dk_seg dksX5_clause_1 3 rfl rfl
theorem dksX5_clause_3 : cX5_clause.data.toList.drop 92 = dktX5_clause_3 := dk_seg dksX5_clause_2 65 rfl rfl
theorem dksX5_clause_4 : cX5_clause.data.toList.drop 116 = dktX5_clause_4 := dk_seg dksX5_clause_3 24 rfl rfl
theorem dksX5_clause_5 : cX5_clause.data.toList.drop 140 = dktX5_clause_5 := dk_seg dksX5_clause_4 24 rfl rfl
theorem dksX5_clause_6 : cX5_clause.data.toList.drop 164 = dktX5_clause_6 := dk_seg dksX5_clause_5 24 rfl rfl
theorem dksX5_clause_7 : cX5_clause.data.toList.drop 188 = dktX5_clause_7 := dk_seg dksX5_clause_6 24 rfl rfl
theorem dksX5_clause_8 : cX5_clause.data.toList.drop 197 = dktX5_clause_8 := dk_seg dksX5_clause_7 9 rfl rfl
theorem dksX5_clause_9 : cX5_clause.data.toList.drop 240 = dktX5_clause_9 := dk_seg dksX5_clause_8 43 rfl rfl
theorem dksX5_clause_10 : cX5_clause.data.toList.drop 264 = dktX5_clause_10 := dk_seg dksX5_clause_9 24 rfl rfl
theorem dksX5_clause_11 : cX5_clause.data.toList.drop 288 = dktX5_clause_11 := dk_seg dksX5_clause_10 24 rfl rfl
theorem dksX5_clause_12 : cX5_clause.data.toList.drop 312 = dktX5_clause_12 := dk_seg dksX5_clause_11 24 rfl rfl
theorem dksX5_clause_13 : cX5_clause.data.toList.drop 335 = dktX5_clause_13 := dk_seg dksX5_clause_12 23 rfl rfl
theorem dksX5_clause_14 : cX5_clause.data.toList.drop 359 = dktX5_clause_14 := dk_seg dksX5_clause_13 24 rfl rfl
theorem dksX5_clause_15 : cX5_clause.data.toList.drop 383 = dktX5_clause_15 := dk_seg dksX5_clause_14 24 rfl rfl
theorem dksX5_clause_16 : cX5_clause.data.toList.drop 399 = dktX5_clause_16 := dk_seg dksX5_clause_15 16 rfl rfl
theorem dksX5_clause_17 : cX5_clause.data.toList.drop 456 = dktX5_clause_17 := dk_seg dksX5_clause_16 57 rfl rfl
theorem dksX5_clause_18 : cX5_clause.data.toList.drop 480 = dktX5_clause_18 := dk_seg dksX5_clause_17 24 rfl rfl
theorem dksX5_clause_19 : cX5_clause.data.toList.drop 504 = dktX5_clause_19 := dk_seg dksX5_clause_18 24 rfl rfl
theorem dksX5_clause_20 : cX5_clause.data.toList.drop 528 = dktX5_clause_20 := dk_seg dksX5_clause_19 24 rfl rfl
theorem dksX5_clause_21 : cX5_clause.data.toList.drop 545 = dktX5_clause_21 := dk_seg dksX5_clause_20 17 rfl rfl
theorem dksX5_clause_22 : cX5_clause.data.toList.drop 584 = dktX5_clause_22 := dk_seg dksX5_clause_21 39 rfl rfl
theorem dksX5_clause_23 : cX5_clause.data.toList.drop 608 = dktX5_clause_23 := dk_seg dksX5_clause_22 24 rfl rfl
theorem dksX5_clause_24 : cX5_clause.data.toList.drop 630 = dktX5_clause_24 := dk_seg dksX5_clause_23 22 rfl rfl
theorem dksX5_clause_25 : cX5_clause.data.toList.drop 653 = dktX5_clause_25 := dk_seg dksX5_clause_24 23 rfl rfl
theorem dksX5_clause_26 : cX5_clause.data.toList.drop 675 = dktX5_clause_26 := dk_seg dksX5_clause_25 22 rfl rfl
theorem dksX5_clause_27 : cX5_clause.data.toList.drop 699 = dktX5_clause_27 := dk_seg dksX5_clause_26 24 rfl rfl
theorem dksX5_clause_28 : cX5_clause.data.toList.drop 721 = dktX5_clause_28 := dk_seg dksX5_clause_27 22 rfl rfl
theorem dksX5_clause_29 : cX5_clause.data.toList.drop 745 = dktX5_clause_29 := dk_seg dksX5_clause_28 24 rfl rfl
theorem dksX5_clause_30 : cX5_clause.data.toList.drop 769 = dktX5_clause_30 := dk_seg dksX5_clause_29 24 rfl rfl
theorem dksX5_clause_31 : cX5_clause.data.toList.drop 792 = dktX5_clause_31 := dk_seg dksX5_clause_30 23 rfl rfl
theorem dksX5_clause_32 : cX5_clause.data.toList.drop 815 = dktX5_clause_32 := dk_seg dksX5_clause_31 23 rfl rfl
theorem dksX5_clause_33 : cX5_clause.data.toList.drop 838 = dktX5_clause_33 := dk_seg dksX5_clause_32 23 rfl rfl
theorem dksX5_clause_34 : cX5_clause.data.toList.drop 862 = dktX5_clause_34 := dk_seg dksX5_clause_33 24 rfl rfl
theorem dksX5_clause_35 : cX5_clause.data.toList.drop 885 = dktX5_clause_35 := dk_seg dksX5_clause_34 23 rfl rfl
theorem dksX5_clause_36 : cX5_clause.data.toList.drop 909 = dktX5_clause_36 := dk_seg dksX5_clause_35 24 rfl rfl
theorem dksX5_clause_37 : cX5_clause.data.toList.drop 933 = dktX5_clause_37 := dk_seg dksX5_clause_36 24 rfl rfl
theorem dksX5_clause_38 : cX5_clause.data.toList.drop 957 = dktX5_clause_38 := dk_seg dksX5_clause_37 24 rfl rfl
theorem dX5_clause_0 : decode cX5_clause 0 = .ok (.aload_n 0, 1) := dk_42 (dk_at dksX5_clause_0 0 rfl rfl)
theorem dX5_clause_1 : decode cX5_clause 1 = .ok (.getfield 12, 3) := dk_180 0 12 (dk_at dksX5_clause_0 1 rfl rfl)
theorem dX5_clause_4 : decode cX5_clause 4 = .ok (.getfield 90, 3) := dk_180 0 90 (dk_at dksX5_clause_0 4 rfl rfl)
theorem dX5_clause_7 : decode cX5_clause 7 = .ok (.bipush 60, 2) := dk_16 60 (dk_at dksX5_clause_0 7 rfl rfl)
theorem dX5_clause_9 : decode cX5_clause 9 = .ok (.if_icmp .ne 7, 3) := dk_160 0 7 (dk_at dksX5_clause_0 9 rfl rfl)
theorem dX5_clause_12 : decode cX5_clause 12 = .ok (.iconst 1, 1) := dk_4 (dk_at dksX5_clause_0 12 rfl rfl)
theorem dX5_clause_13 : decode cX5_clause 13 = .ok (.goto 4, 3) := dk_167 0 4 (dk_at dksX5_clause_0 13 rfl rfl)
theorem dX5_clause_16 : decode cX5_clause 16 = .ok (.iconst 0, 1) := dk_3 (dk_at dksX5_clause_0 16 rfl rfl)
theorem dX5_clause_17 : decode cX5_clause 17 = .ok (.istore_n 2, 1) := dk_61 (dk_at dksX5_clause_0 17 rfl rfl)
theorem dX5_clause_18 : decode cX5_clause 18 = .ok (.aload_n 1, 1) := dk_43 (dk_at dksX5_clause_0 18 rfl rfl)
theorem dX5_clause_19 : decode cX5_clause 19 = .ok (.astore_n 3, 1) := dk_78 (dk_at dksX5_clause_0 19 rfl rfl)
theorem dX5_clause_20 : decode cX5_clause 20 = .ok (.iconst (-1), 1) := dk_2 (dk_at dksX5_clause_0 20 rfl rfl)
theorem dX5_clause_21 : decode cX5_clause 21 = .ok (.istore 4, 2) := dk_54 4 (dk_at dksX5_clause_0 21 rfl rfl)
theorem dX5_clause_23 : decode cX5_clause 23 = .ok (.aload_n 3, 1) := dk_45 (dk_at dksX5_clause_0 23 rfl rfl)
theorem dX5_clause_24 : decode cX5_clause 24 = .ok (.invokevirtual 96, 3) := dk_182 0 96 (dk_at dksX5_clause_1 0 rfl rfl)
theorem dX5_clause_27 : decode cX5_clause 27 = .ok (.lookupswitch 168 #[(-1354665387, 65), (-891990013, 80), (3521, 140), (97739, 110), (107877, 155), (110182, 125), (108508794, 95)], 65) := by decide +kernel
theorem dX5_clause_92 : decode cX5_clause 92 = .ok (.aload_n 3, 1) := dk_45 (dk_at dksX5_clause_3 0 rfl rfl)
theorem dX5_clause_93 : decode cX5_clause 93 = .ok (.ldc 101, 2) := dk_18 101 (dk_at dksX5_clause_3 1 rfl rfl)
theorem dX5_clause_95 : decode cX5_clause 95 = .ok (.invokevirtual 103, 3) := dk_182 0 103 (dk_at dksX5_clause_3 3 rfl rfl)
theorem dX5_clause_98 : decode cX5_clause 98 = .ok (.ifCond .eq 97, 3) := dk_153 0 97 (dk_at dksX5_clause_3 6 rfl rfl)
theorem dX5_clause_101 : decode cX5_clause 101 = .ok (.iconst 0, 1) := dk_3 (dk_at dksX5_clause_3 9 rfl rfl)
theorem dX5_clause_102 : decode cX5_clause 102 = .ok (.istore 4, 2) := dk_54 4 (dk_at dksX5_clause_3 10 rfl rfl)
theorem dX5_clause_104 : decode cX5_clause 104 = .ok (.goto 91, 3) := dk_167 0 91 (dk_at dksX5_clause_3 12 rfl rfl)
theorem dX5_clause_107 : decode cX5_clause 107 = .ok (.aload_n 3, 1) := dk_45 (dk_at dksX5_clause_3 15 rfl rfl)
theorem dX5_clause_108 : decode cX5_clause 108 = .ok (.ldc 107, 2) := dk_18 107 (dk_at dksX5_clause_3 16 rfl rfl)
theorem dX5_clause_110 : decode cX5_clause 110 = .ok (.invokevirtual 103, 3) := dk_182 0 103 (dk_at dksX5_clause_3 18 rfl rfl)
theorem dX5_clause_113 : decode cX5_clause 113 = .ok (.ifCond .eq 82, 3) := dk_153 0 82 (dk_at dksX5_clause_3 21 rfl rfl)
theorem dX5_clause_116 : decode cX5_clause 116 = .ok (.iconst 1, 1) := dk_4 (dk_at dksX5_clause_4 0 rfl rfl)
theorem dX5_clause_117 : decode cX5_clause 117 = .ok (.istore 4, 2) := dk_54 4 (dk_at dksX5_clause_4 1 rfl rfl)
theorem dX5_clause_119 : decode cX5_clause 119 = .ok (.goto 76, 3) := dk_167 0 76 (dk_at dksX5_clause_4 3 rfl rfl)
theorem dX5_clause_122 : decode cX5_clause 122 = .ok (.aload_n 3, 1) := dk_45 (dk_at dksX5_clause_4 6 rfl rfl)
theorem dX5_clause_123 : decode cX5_clause 123 = .ok (.ldc 109, 2) := dk_18 109 (dk_at dksX5_clause_4 7 rfl rfl)
theorem dX5_clause_125 : decode cX5_clause 125 = .ok (.invokevirtual 103, 3) := dk_182 0 103 (dk_at dksX5_clause_4 9 rfl rfl)
theorem dX5_clause_128 : decode cX5_clause 128 = .ok (.ifCond .eq 67, 3) := dk_153 0 67 (dk_at dksX5_clause_4 12 rfl rfl)
theorem dX5_clause_131 : decode cX5_clause 131 = .ok (.iconst 2, 1) := dk_5 (dk_at dksX5_clause_4 15 rfl rfl)
theorem dX5_clause_132 : decode cX5_clause 132 = .ok (.istore 4, 2) := dk_54 4 (dk_at dksX5_clause_4 16 rfl rfl)
theorem dX5_clause_134 : decode cX5_clause 134 = .ok (.goto 61, 3) := dk_167 0 61 (dk_at dksX5_clause_4 18 rfl rfl)
theorem dX5_clause_137 : decode cX5_clause 137 = .ok (.aload_n 3, 1) := dk_45 (dk_at dksX5_clause_4 21 rfl rfl)
theorem dX5_clause_138 : decode cX5_clause 138 = .ok (.ldc 111, 2) := dk_18 111 (dk_at dksX5_clause_4 22 rfl rfl)
theorem dX5_clause_140 : decode cX5_clause 140 = .ok (.invokevirtual 103, 3) := dk_182 0 103 (dk_at dksX5_clause_5 0 rfl rfl)
theorem dX5_clause_143 : decode cX5_clause 143 = .ok (.ifCond .eq 52, 3) := dk_153 0 52 (dk_at dksX5_clause_5 3 rfl rfl)
theorem dX5_clause_146 : decode cX5_clause 146 = .ok (.iconst 3, 1) := dk_6 (dk_at dksX5_clause_5 6 rfl rfl)
theorem dX5_clause_147 : decode cX5_clause 147 = .ok (.istore 4, 2) := dk_54 4 (dk_at dksX5_clause_5 7 rfl rfl)
theorem dX5_clause_149 : decode cX5_clause 149 = .ok (.goto 46, 3) := dk_167 0 46 (dk_at dksX5_clause_5 9 rfl rfl)
theorem dX5_clause_152 : decode cX5_clause 152 = .ok (.aload_n 3, 1) := dk_45 (dk_at dksX5_clause_5 12 rfl rfl)
theorem dX5_clause_153 : decode cX5_clause 153 = .ok (.ldc 113, 2) := dk_18 113 (dk_at dksX5_clause_5 13 rfl rfl)
theorem dX5_clause_155 : decode cX5_clause 155 = .ok (.invokevirtual 103, 3) := dk_182 0 103 (dk_at dksX5_clause_5 15 rfl rfl)
theorem dX5_clause_158 : decode cX5_clause 158 = .ok (.ifCond .eq 37, 3) := dk_153 0 37 (dk_at dksX5_clause_5 18 rfl rfl)
theorem dX5_clause_161 : decode cX5_clause 161 = .ok (.iconst 4, 1) := dk_7 (dk_at dksX5_clause_5 21 rfl rfl)
theorem dX5_clause_162 : decode cX5_clause 162 = .ok (.istore 4, 2) := dk_54 4 (dk_at dksX5_clause_5 22 rfl rfl)
theorem dX5_clause_164 : decode cX5_clause 164 = .ok (.goto 31, 3) := dk_167 0 31 (dk_at dksX5_clause_6 0 rfl rfl)
theorem dX5_clause_167 : decode cX5_clause 167 = .ok (.aload_n 3, 1) := dk_45 (dk_at dksX5_clause_6 3 rfl rfl)
theorem dX5_clause_168 : decode cX5_clause 168 = .ok (.ldc 115, 2) := dk_18 115 (dk_at dksX5_clause_6 4 rfl rfl)
theorem dX5_clause_170 : decode cX5_clause 170 = .ok (.invokevirtual 103, 3) := dk_182 0 103 (dk_at dksX5_clause_6 6 rfl rfl)
theorem dX5_clause_173 : decode cX5_clause 173 = .ok (.ifCond .eq 22, 3) := dk_153 0 22 (dk_at dksX5_clause_6 9 rfl rfl)
theorem dX5_clause_176 : decode cX5_clause 176 = .ok (.iconst 5, 1) := dk_8 (dk_at dksX5_clause_6 12 rfl rfl)
theorem dX5_clause_177 : decode cX5_clause 177 = .ok (.istore 4, 2) := dk_54 4 (dk_at dksX5_clause_6 13 rfl rfl)
theorem dX5_clause_179 : decode cX5_clause 179 = .ok (.goto 16, 3) := dk_167 0 16 (dk_at dksX5_clause_6 15 rfl rfl)
theorem dX5_clause_182 : decode cX5_clause 182 = .ok (.aload_n 3, 1) := dk_45 (dk_at dksX5_clause_6 18 rfl rfl)
theorem dX5_clause_183 : decode cX5_clause 183 = .ok (.ldc 117, 2) := dk_18 117 (dk_at dksX5_clause_6 19 rfl rfl)
theorem dX5_clause_185 : decode cX5_clause 185 = .ok (.invokevirtual 103, 3) := dk_182 0 103 (dk_at dksX5_clause_6 21 rfl rfl)
theorem dX5_clause_188 : decode cX5_clause 188 = .ok (.ifCond .eq 7, 3) := dk_153 0 7 (dk_at dksX5_clause_7 0 rfl rfl)
theorem dX5_clause_191 : decode cX5_clause 191 = .ok (.bipush 6, 2) := dk_16 6 (dk_at dksX5_clause_7 3 rfl rfl)
theorem dX5_clause_193 : decode cX5_clause 193 = .ok (.istore 4, 2) := dk_54 4 (dk_at dksX5_clause_7 5 rfl rfl)
theorem dX5_clause_195 : decode cX5_clause 195 = .ok (.iload 4, 2) := dk_21 4 (dk_at dksX5_clause_7 7 rfl rfl)
theorem dX5_clause_197 : decode cX5_clause 197 = .ok (.tableswitch 158 0 6 #[43, 71, 99, 127, 155, 155, 155], 43) := by decide +kernel
theorem dX5_clause_240 : decode cX5_clause 240 = .ok (.iload_n 2, 1) := dk_28 (dk_at dksX5_clause_9 0 rfl rfl)
theorem dX5_clause_241 : decode cX5_clause 241 = .ok (.ifCond .ne 18, 3) := dk_154 0 18 (dk_at dksX5_clause_9 1 rfl rfl)
theorem dX5_clause_244 : decode cX5_clause 244 = .ok (.aload_n 0, 1) := dk_42 (dk_at dksX5_clause_9 4 rfl rfl)
theorem dX5_clause_245 : decode cX5_clause 245 = .ok (.getfield 12, 3) := dk_180 0 12 (dk_at dksX5_clause_9 5 rfl rfl)
theorem dX5_clause_248 : decode cX5_clause 248 = .ok (.getfield 65, 3) := dk_180 0 65 (dk_at dksX5_clause_9 8 rfl rfl)
theorem dX5_clause_251 : decode cX5_clause 251 = .ok (.invokevirtual 69, 3) := dk_182 0 69 (dk_at dksX5_clause_9 11 rfl rfl)
theorem dX5_clause_254 : decode cX5_clause 254 = .ok (.bipush 16, 2) := dk_16 16 (dk_at dksX5_clause_9 14 rfl rfl)
theorem dX5_clause_256 : decode cX5_clause 256 = .ok (.if_icmp .ne 7, 3) := dk_160 0 7 (dk_at dksX5_clause_9 16 rfl rfl)
theorem dX5_clause_259 : decode cX5_clause 259 = .ok (.iconst 1, 1) := dk_4 (dk_at dksX5_clause_9 19 rfl rfl)
theorem dX5_clause_260 : decode cX5_clause 260 = .ok (.goto 4, 3) := dk_167 0 4 (dk_at dksX5_clause_9 20 rfl rfl)
theorem dX5_clause_263 : decode cX5_clause 263 = .ok (.iconst 0, 1) := dk_3 (dk_at dksX5_clause_9 23 rfl rfl)
theorem dX5_clause_264 : decode cX5_clause 264 = .ok (.istore_n 2, 1) := dk_61 (dk_at dksX5_clause_10 0 rfl rfl)
theorem dX5_clause_265 : decode cX5_clause 265 = .ok (.goto 95, 3) := dk_167 0 95 (dk_at dksX5_clause_10 1 rfl rfl)
theorem dX5_clause_268 : decode cX5_clause 268 = .ok (.iload_n 2, 1) := dk_28 (dk_at dksX5_clause_10 4 rfl rfl)
theorem dX5_clause_269 : decode cX5_clause 269 = .ok (.ifCond .ne 18, 3) := dk_154 0 18 (dk_at dksX5_clause_10 5 rfl rfl)
theorem dX5_clause_272 : decode cX5_clause 272 = .ok (.aload_n 0, 1) := dk_42 (dk_at dksX5_clause_10 8 rfl rfl)
theorem dX5_clause_273 : decode cX5_clause 273 = .ok (.getfield 12, 3) := dk_180 0 12 (dk_at dksX5_clause_10 9 rfl rfl)
theorem dX5_clause_276 : decode cX5_clause 276 = .ok (.getfield 76, 3) := dk_180 0 76 (dk_at dksX5_clause_10 12 rfl rfl)
theorem dX5_clause_279 : decode cX5_clause 279 = .ok (.invokevirtual 69, 3) := dk_182 0 69 (dk_at dksX5_clause_10 15 rfl rfl)
theorem dX5_clause_282 : decode cX5_clause 282 = .ok (.bipush 24, 2) := dk_16 24 (dk_at dksX5_clause_10 18 rfl rfl)
theorem dX5_clause_284 : decode cX5_clause 284 = .ok (.if_icmp .ne 7, 3) := dk_160 0 7 (dk_at dksX5_clause_10 20 rfl rfl)
theorem dX5_clause_287 : decode cX5_clause 287 = .ok (.iconst 1, 1) := dk_4 (dk_at dksX5_clause_10 23 rfl rfl)
theorem dX5_clause_288 : decode cX5_clause 288 = .ok (.goto 4, 3) := dk_167 0 4 (dk_at dksX5_clause_11 0 rfl rfl)
theorem dX5_clause_291 : decode cX5_clause 291 = .ok (.iconst 0, 1) := dk_3 (dk_at dksX5_clause_11 3 rfl rfl)
theorem dX5_clause_292 : decode cX5_clause 292 = .ok (.istore_n 2, 1) := dk_61 (dk_at dksX5_clause_11 4 rfl rfl)
theorem dX5_clause_293 : decode cX5_clause 293 = .ok (.goto 67, 3) := dk_167 0 67 (dk_at dksX5_clause_11 5 rfl rfl)
theorem dX5_clause_296 : decode cX5_clause 296 = .ok (.iload_n 2, 1) := dk_28 (dk_at dksX5_clause_11 8 rfl rfl)
theorem dX5_clause_297 : decode cX5_clause 297 = .ok (.ifCond .ne 18, 3) := dk_154 0 18 (dk_at dksX5_clause_11 9 rfl rfl)
theorem dX5_clause_300 : decode cX5_clause 300 = .ok (.aload_n 0, 1) := dk_42 (dk_at dksX5_clause_11 12 rfl rfl)
theorem dX5_clause_301 : decode cX5_clause 301 = .ok (.getfield 12, 3) := dk_180 0 12 (dk_at dksX5_clause_11 13 rfl rfl)
theorem dX5_clause_304 : decode cX5_clause 304 = .ok (.getfield 119, 3) := dk_180 0 119 (dk_at dksX5_clause_11 16 rfl rfl)
theorem dX5_clause_307 : decode cX5_clause 307 = .ok (.invokevirtual 69, 3) := dk_182 0 69 (dk_at dksX5_clause_11 19 rfl rfl)
theorem dX5_clause_310 : decode cX5_clause 310 = .ok (.bipush 12, 2) := dk_16 12 (dk_at dksX5_clause_11 22 rfl rfl)
theorem dX5_clause_312 : decode cX5_clause 312 = .ok (.if_icmp .ne 7, 3) := dk_160 0 7 (dk_at dksX5_clause_12 0 rfl rfl)
theorem dX5_clause_315 : decode cX5_clause 315 = .ok (.iconst 1, 1) := dk_4 (dk_at dksX5_clause_12 3 rfl rfl)
theorem dX5_clause_316 : decode cX5_clause 316 = .ok (.goto 4, 3) := dk_167 0 4 (dk_at dksX5_clause_12 4 rfl rfl)
theorem dX5_clause_319 : decode cX5_clause 319 = .ok (.iconst 0, 1) := dk_3 (dk_at dksX5_clause_12 7 rfl rfl)
theorem dX5_clause_320 : decode cX5_clause 320 = .ok (.istore_n 2, 1) := dk_61 (dk_at dksX5_clause_12 8 rfl rfl)
theorem dX5_clause_321 : decode cX5_clause 321 = .ok (.goto 39, 3) := dk_167 0 39 (dk_at dksX5_clause_12 9 rfl rfl)
theorem dX5_clause_324 : decode cX5_clause 324 = .ok (.iload_n 2, 1) := dk_28 (dk_at dksX5_clause_12 12 rfl rfl)
theorem dX5_clause_325 : decode cX5_clause 325 = .ok (.ifCond .ne 18, 3) := dk_154 0 18 (dk_at dksX5_clause_12 13 rfl rfl)
theorem dX5_clause_328 : decode cX5_clause 328 = .ok (.aload_n 0, 1) := dk_42 (dk_at dksX5_clause_12 16 rfl rfl)
theorem dX5_clause_329 : decode cX5_clause 329 = .ok (.getfield 12, 3) := dk_180 0 12 (dk_at dksX5_clause_12 17 rfl rfl)
theorem dX5_clause_332 : decode cX5_clause 332 = .ok (.getfield 122, 3) := dk_180 0 122 (dk_at dksX5_clause_12 20 rfl rfl)
theorem dX5_clause_335 : decode cX5_clause 335 = .ok (.invokestatic 125, 3) := dk_184 0 125 (dk_at dksX5_clause_13 0 rfl rfl)
theorem dX5_clause_338 : decode cX5_clause 338 = .ok (.bipush 10, 2) := dk_16 10 (dk_at dksX5_clause_13 3 rfl rfl)
theorem dX5_clause_340 : decode cX5_clause 340 = .ok (.if_icmp .ne 7, 3) := dk_160 0 7 (dk_at dksX5_clause_13 5 rfl rfl)
theorem dX5_clause_343 : decode cX5_clause 343 = .ok (.iconst 1, 1) := dk_4 (dk_at dksX5_clause_13 8 rfl rfl)
theorem dX5_clause_344 : decode cX5_clause 344 = .ok (.goto 4, 3) := dk_167 0 4 (dk_at dksX5_clause_13 9 rfl rfl)
theorem dX5_clause_347 : decode cX5_clause 347 = .ok (.iconst 0, 1) := dk_3 (dk_at dksX5_clause_13 12 rfl rfl)
theorem dX5_clause_348 : decode cX5_clause 348 = .ok (.istore_n 2, 1) := dk_61 (dk_at dksX5_clause_13 13 rfl rfl)
theorem dX5_clause_349 : decode cX5_clause 349 = .ok (.goto 11, 3) := dk_167 0 11 (dk_at dksX5_clause_13 14 rfl rfl)
theorem dX5_clause_352 : decode cX5_clause 352 = .ok (.goto 8, 3) := dk_167 0 8 (dk_at dksX5_clause_13 17 rfl rfl)
theorem dX5_clause_355 : decode cX5_clause 355 = .ok (.aload_n 0, 1) := dk_42 (dk_at dksX5_clause_13 20 rfl rfl)
theorem dX5_clause_356 : decode cX5_clause 356 = .ok (.invokevirtual 52, 3) := dk_182 0 52 (dk_at dksX5_clause_13 21 rfl rfl)
theorem dX5_clause_359 : decode cX5_clause 359 = .ok (.athrow, 1) := dk_191 (dk_at dksX5_clause_14 0 rfl rfl)
theorem dX5_clause_360 : decode cX5_clause 360 = .ok (.iload_n 2, 1) := dk_28 (dk_at dksX5_clause_14 1 rfl rfl)
theorem dX5_clause_361 : decode cX5_clause 361 = .ok (.ifCond .eq 16, 3) := dk_153 0 16 (dk_at dksX5_clause_14 2 rfl rfl)
theorem dX5_clause_364 : decode cX5_clause 364 = .ok (.new 47, 3) := dk_187 0 47 (dk_at dksX5_clause_14 5 rfl rfl)
theorem dX5_clause_367 : decode cX5_clause 367 = .ok (.dup, 1) := dk_89 (dk_at dksX5_clause_14 8 rfl rfl)
theorem dX5_clause_368 : decode cX5_clause 368 = .ok (.iconst 3, 1) := dk_6 (dk_at dksX5_clause_14 9 rfl rfl)
theorem dX5_clause_369 : decode cX5_clause 369 = .ok (.aload_n 0, 1) := dk_42 (dk_at dksX5_clause_14 10 rfl rfl)
theorem dX5_clause_370 : decode cX5_clause 370 = .ok (.getfield 26, 3) := dk_180 0 26 (dk_at dksX5_clause_14 11 rfl rfl)
theorem dX5_clause_373 : decode cX5_clause 373 = .ok (.invokespecial 49, 3) := dk_183 0 49 (dk_at dksX5_clause_14 14 rfl rfl)
theorem dX5_clause_376 : decode cX5_clause 376 = .ok (.athrow, 1) := dk_191 (dk_at dksX5_clause_14 17 rfl rfl)
theorem dX5_clause_377 : decode cX5_clause 377 = .ok (.aload_n 0, 1) := dk_42 (dk_at dksX5_clause_14 18 rfl rfl)
theorem dX5_clause_378 : decode cX5_clause 378 = .ok (.dup, 1) := dk_89 (dk_at dksX5_clause_14 19 rfl rfl)
theorem dX5_clause_379 : decode cX5_clause 379 = .ok (.getfield 26, 3) := dk_180 0 26 (dk_at dksX5_clause_14 20 rfl rfl)
theorem dX5_clause_382 : decode cX5_clause 382 = .ok (.aload_n 1, 1) := dk_43 (dk_at dksX5_clause_14 23 rfl rfl)
theorem dX5_clause_383 : decode cX5_clause 383 = .ok (.invokevirtual 131, 3) := dk_182 0 131 (dk_at dksX5_clause_15 0 rfl rfl)
theorem dX5_clause_386 : decode cX5_clause 386 = .ok (.iadd, 1) := dk_96 (dk_at dksX5_clause_15 3 rfl rfl)
theorem dX5_clause_387 : decode cX5_clause 387 = .ok (.putfield 26, 3) := dk_181 0 26 (dk_at dksX5_clause_15 4 rfl rfl)
theorem dX5_clause_390 : decode cX5_clause 390 = .ok (.aload_n 1, 1) := dk_43 (dk_at dksX5_clause_15 7 rfl rfl)
theorem dX5_clause_391 : decode cX5_clause 391 = .ok (.astore_n 3, 1) := dk_78 (dk_at dksX5_clause_15 8 rfl rfl)
theorem dX5_clause_392 : decode cX5_clause 392 = .ok (.iconst (-1), 1) := dk_2 (dk_at dksX5_clause_15 9 rfl rfl)
theorem dX5_clause_393 : decode cX5_clause 393 = .ok (.istore 4, 2) := dk_54 4 (dk_at dksX5_clause_15 10 rfl rfl)
theorem dX5_clause_395 : decode cX5_clause 395 = .ok (.aload_n 3, 1) := dk_45 (dk_at dksX5_clause_15 12 rfl rfl)
theorem dX5_clause_396 : decode cX5_clause 396 = .ok (.invokevirtual 96, 3) := dk_182 0 96 (dk_at dksX5_clause_15 13 rfl rfl)
theorem dX5_clause_399 : decode cX5_clause 399 = .ok (.lookupswitch 144 #[(-1354665387, 57), (-891990013, 72), (3521, 102), (97739, 132), (107877, 117), (110182, 87)], 57) := by decide +kernel
theorem dX5_clause_456 : decode cX5_clause 456 = .ok (.aload_n 3, 1) := dk_45 (dk_at dksX5_clause_17 0 rfl rfl)
theorem dX5_clause_457 : decode cX5_clause 457 = .ok (.ldc 101, 2) := dk_18 101 (dk_at dksX5_clause_17 1 rfl rfl)
theorem dX5_clause_459 : decode cX5_clause 459 = .ok (.invokevirtual 103, 3) := dk_182 0 103 (dk_at dksX5_clause_17 3 rfl rfl)
theorem dX5_clause_462 : decode cX5_clause 462 = .ok (.ifCond .eq 81, 3) := dk_153 0 81 (dk_at dksX5_clause_17 6 rfl rfl)
theorem dX5_clause_465 : decode cX5_clause 465 = .ok (.iconst 0, 1) := dk_3 (dk_at dksX5_clause_17 9 rfl rfl)
theorem dX5_clause_466 : decode cX5_clause 466 = .ok (.istore 4, 2) := dk_54 4 (dk_at dksX5_clause_17 10 rfl rfl)
theorem dX5_clause_468 : decode cX5_clause 468 = .ok (.goto 75, 3) := dk_167 0 75 (dk_at dksX5_clause_17 12 rfl rfl)
theorem dX5_clause_471 : decode cX5_clause 471 = .ok (.aload_n 3, 1) := dk_45 (dk_at dksX5_clause_17 15 rfl rfl)
theorem dX5_clause_472 : decode cX5_clause 472 = .ok (.ldc 107, 2) := dk_18 107 (dk_at dksX5_clause_17 16 rfl rfl)
theorem dX5_clause_474 : decode cX5_clause 474 = .ok (.invokevirtual 103, 3) := dk_182 0 103 (dk_at dksX5_clause_17 18 rfl rfl)
theorem dX5_clause_477 : decode cX5_clause 477 = .ok (.ifCond .eq 66, 3) := dk_153 0 66 (dk_at dksX5_clause_17 21 rfl rfl)
theorem dX5_clause_480 : decode cX5_clause 480 = .ok (.iconst 1, 1) := dk_4 (dk_at dksX5_clause_18 0 rfl rfl)
theorem dX5_clause_481 : decode cX5_clause 481 = .ok (.istore 4, 2) := dk_54 4 (dk_at dksX5_clause_18 1 rfl rfl)
theorem dX5_clause_483 : decode cX5_clause 483 = .ok (.goto 60, 3) := dk_167 0 60 (dk_at dksX5_clause_18 3 rfl rfl)
theorem dX5_clause_486 : decode cX5_clause 486 = .ok (.aload_n 3, 1) := dk_45 (dk_at dksX5_clause_18 6 rfl rfl)
theorem dX5_clause_487 : decode cX5_clause 487 = .ok (.ldc 113, 2) := dk_18 113 (dk_at dksX5_clause_18 7 rfl rfl)
theorem dX5_clause_489 : decode cX5_clause 489 = .ok (.invokevirtual 103, 3) := dk_182 0 103 (dk_at dksX5_clause_18 9 rfl rfl)
theorem dX5_clause_492 : decode cX5_clause 492 = .ok (.ifCond .eq 51, 3) := dk_153 0 51 (dk_at dksX5_clause_18 12 rfl rfl)
theorem dX5_clause_495 : decode cX5_clause 495 = .ok (.iconst 2, 1) := dk_5 (dk_at dksX5_clause_18 15 rfl rfl)
theorem dX5_clause_496 : decode cX5_clause 496 = .ok (.istore 4, 2) := dk_54 4 (dk_at dksX5_clause_18 16 rfl rfl)
theorem dX5_clause_498 : decode cX5_clause 498 = .ok (.goto 45, 3) := dk_167 0 45 (dk_at dksX5_clause_18 18 rfl rfl)
theorem dX5_clause_501 : decode cX5_clause 501 = .ok (.aload_n 3, 1) := dk_45 (dk_at dksX5_clause_18 21 rfl rfl)
theorem dX5_clause_502 : decode cX5_clause 502 = .ok (.ldc 115, 2) := dk_18 115 (dk_at dksX5_clause_18 22 rfl rfl)
theorem dX5_clause_504 : decode cX5_clause 504 = .ok (.invokevirtual 103, 3) := dk_182 0 103 (dk_at dksX5_clause_19 0 rfl rfl)
theorem dX5_clause_507 : decode cX5_clause 507 = .ok (.ifCond .eq 36, 3) := dk_153 0 36 (dk_at dksX5_clause_19 3 rfl rfl)
theorem dX5_clause_510 : decode cX5_clause 510 = .ok (.iconst 3, 1) := dk_6 (dk_at dksX5_clause_19 6 rfl rfl)
theorem dX5_clause_511 : decode cX5_clause 511 = .ok (.istore 4, 2) := dk_54 4 (dk_at dksX5_clause_19 7 rfl rfl)
theorem dX5_clause_513 : decode cX5_clause 513 = .ok (.goto 30, 3) := dk_167 0 30 (dk_at dksX5_clause_19 9 rfl rfl)
theorem dX5_clause_516 : decode cX5_clause 516 = .ok (.aload_n 3, 1) := dk_45 (dk_at dksX5_clause_19 12 rfl rfl)
theorem dX5_clause_517 : decode cX5_clause 517 = .ok (.ldc 117, 2) := dk_18 117 (dk_at dksX5_clause_19 13 rfl rfl)
theorem dX5_clause_519 : decode cX5_clause 519 = .ok (.invokevirtual 103, 3) := dk_182 0 103 (dk_at dksX5_clause_19 15 rfl rfl)
theorem dX5_clause_522 : decode cX5_clause 522 = .ok (.ifCond .eq 21, 3) := dk_153 0 21 (dk_at dksX5_clause_19 18 rfl rfl)
theorem dX5_clause_525 : decode cX5_clause 525 = .ok (.iconst 4, 1) := dk_7 (dk_at dksX5_clause_19 21 rfl rfl)
theorem dX5_clause_526 : decode cX5_clause 526 = .ok (.istore 4, 2) := dk_54 4 (dk_at dksX5_clause_19 22 rfl rfl)
theorem dX5_clause_528 : decode cX5_clause 528 = .ok (.goto 15, 3) := dk_167 0 15 (dk_at dksX5_clause_20 0 rfl rfl)
theorem dX5_clause_531 : decode cX5_clause 531 = .ok (.aload_n 3, 1) := dk_45 (dk_at dksX5_clause_20 3 rfl rfl)
theorem dX5_clause_532 : decode cX5_clause 532 = .ok (.ldc 111, 2) := dk_18 111 (dk_at dksX5_clause_20 4 rfl rfl)
theorem dX5_clause_534 : decode cX5_clause 534 = .ok (.invokevirtual 103, 3) := dk_182 0 103 (dk_at dksX5_clause_20 6 rfl rfl)
theorem dX5_clause_537 : decode cX5_clause 537 = .ok (.ifCond .eq 6, 3) := dk_153 0 6 (dk_at dksX5_clause_20 9 rfl rfl)
theorem dX5_clause_540 : decode cX5_clause 540 = .ok (.iconst 5, 1) := dk_8 (dk_at dksX5_clause_20 12 rfl rfl)
theorem dX5_clause_541 : decode cX5_clause 541 = .ok (.istore 4, 2) := dk_54 4 (dk_at dksX5_clause_20 13 rfl rfl)
theorem dX5_clause_543 : decode cX5_clause 543 = .ok (.iload 4, 2) := dk_21 4 (dk_at dksX5_clause_20 15 rfl rfl)
theorem dX5_clause_545 : decode cX5_clause 545 = .ok (.tableswitch 373 0 5 #[39, 159, 217, 243, 243, 354], 39) := by decide +kernel
theorem dX5_clause_584 : decode cX5_clause 584 = .ok (.aload_n 0, 1) := dk_42 (dk_at dksX5_clause_22 0 rfl rfl)
theorem dX5_clause_585 : decode cX5_clause 585 = .ok (.iconst 0, 1) := dk_3 (dk_at dksX5_clause_22 1 rfl rfl)
theorem dX5_clause_586 : decode cX5_clause 586 = .ok (.bipush 99, 2) := dk_16 99 (dk_at dksX5_clause_22 2 rfl rfl)
theorem dX5_clause_588 : decode cX5_clause 588 = .ok (.invokevirtual 73, 3) := dk_182 0 73 (dk_at dksX5_clause_22 4 rfl rfl)
theorem dX5_clause_591 : decode cX5_clause 591 = .ok (.istore 5, 2) := dk_54 5 (dk_at dksX5_clause_22 7 rfl rfl)
theorem dX5_clause_593 : decode cX5_clause 593 = .ok (.aload_n 0, 1) := dk_42 (dk_at dksX5_clause_22 9 rfl rfl)
theorem dX5_clause_594 : decode cX5_clause 594 = .ok (.iconst 0, 1) := dk_3 (dk_at dksX5_clause_22 10 rfl rfl)
theorem dX5_clause_595 : decode cX5_clause 595 = .ok (.bipush 99, 2) := dk_16 99 (dk_at dksX5_clause_22 11 rfl rfl)
theorem dX5_clause_597 : decode cX5_clause 597 = .ok (.invokevirtual 73, 3) := dk_182 0 73 (dk_at dksX5_clause_22 13 rfl rfl)
theorem dX5_clause_600 : decode cX5_clause 600 = .ok (.istore 6, 2) := dk_54 6 (dk_at dksX5_clause_22 16 rfl rfl)
theorem dX5_clause_602 : decode cX5_clause 602 = .ok (.iconst 0, 1) := dk_3 (dk_at dksX5_clause_22 18 rfl rfl)
theorem dX5_clause_603 : decode cX5_clause 603 = .ok (.istore 7, 2) := dk_54 7 (dk_at dksX5_clause_22 19 rfl rfl)
theorem dX5_clause_605 : decode cX5_clause 605 = .ok (.iload 7, 2) := dk_21 7 (dk_at dksX5_clause_22 21 rfl rfl)
theorem dX5_clause_607 : decode cX5_clause 607 = .ok (.aload_n 0, 1) := dk_42 (dk_at dksX5_clause_22 23 rfl rfl)
theorem dX5_clause_608 : decode cX5_clause 608 = .ok (.getfield 12, 3) := dk_180 0 12 (dk_at dksX5_clause_23 0 rfl rfl)
theorem dX5_clause_611 : decode cX5_clause 611 = .ok (.getfield 65, 3) := dk_180 0 65 (dk_at dksX5_clause_23 3 rfl rfl)
theorem dX5_clause_614 : decode cX5_clause 614 = .ok (.invokevirtual 69, 3) := dk_182 0 69 (dk_at dksX5_clause_23 6 rfl rfl)
theorem dX5_clause_617 : decode cX5_clause 617 = .ok (.if_icmp .ge 64, 3) := dk_162 0 64 (dk_at dksX5_clause_23 9 rfl rfl)
theorem dX5_clause_620 : decode cX5_clause 620 = .ok (.aload_n 0, 1) := dk_42 (dk_at dksX5_clause_23 12 rfl rfl)
theorem dX5_clause_621 : decode cX5_clause 621 = .ok (.aload_n 0, 1) := dk_42 (dk_at dksX5_clause_23 13 rfl rfl)
theorem dX5_clause_622 : decode cX5_clause 622 = .ok (.getfield 12, 3) := dk_180 0 12 (dk_at dksX5_clause_23 14 rfl rfl)
theorem dX5_clause_625 : decode cX5_clause 625 = .ok (.getfield 65, 3) := dk_180 0 65 (dk_at dksX5_clause_23 17 rfl rfl)
theorem dX5_clause_628 : decode cX5_clause 628 = .ok (.iload 7, 2) := dk_21 7 (dk_at dksX5_clause_23 20 rfl rfl)
theorem dX5_clause_630 : decode cX5_clause 630 = .ok (.invokevirtual 132, 3) := dk_182 0 132 (dk_at dksX5_clause_24 0 rfl rfl)
theorem dX5_clause_633 : decode cX5_clause 633 = .ok (.checkcast 136, 3) := dk_192 0 136 (dk_at dksX5_clause_24 3 rfl rfl)
theorem dX5_clause_636 : decode cX5_clause 636 = .ok (.getfield 138, 3) := dk_180 0 138 (dk_at dksX5_clause_24 6 rfl rfl)
theorem dX5_clause_639 : decode cX5_clause 639 = .ok (.iload 5, 2) := dk_21 5 (dk_at dksX5_clause_24 9 rfl rfl)
theorem dX5_clause_641 : decode cX5_clause 641 = .ok (.if_icmp .ne 26, 3) := dk_160 0 26 (dk_at dksX5_clause_24 11 rfl rfl)
theorem dX5_clause_644 : decode cX5_clause 644 = .ok (.aload_n 0, 1) := dk_42 (dk_at dksX5_clause_24 14 rfl rfl)
theorem dX5_clause_645 : decode cX5_clause 645 = .ok (.getfield 12, 3) := dk_180 0 12 (dk_at dksX5_clause_24 15 rfl rfl)
theorem dX5_clause_648 : decode cX5_clause 648 = .ok (.getfield 65, 3) := dk_180 0 65 (dk_at dksX5_clause_24 18 rfl rfl)
theorem dX5_clause_651 : decode cX5_clause 651 = .ok (.iload 7, 2) := dk_21 7 (dk_at dksX5_clause_24 21 rfl rfl)
theorem dX5_clause_653 : decode cX5_clause 653 = .ok (.invokevirtual 132, 3) := dk_182 0 132 (dk_at dksX5_clause_25 0 rfl rfl)
theorem dX5_clause_656 : decode cX5_clause 656 = .ok (.checkcast 136, 3) := dk_192 0 136 (dk_at dksX5_clause_25 3 rfl rfl)
theorem dX5_clause_659 : decode cX5_clause 659 = .ok (.getfield 141, 3) := dk_180 0 141 (dk_at dksX5_clause_25 6 rfl rfl)
theorem dX5_clause_662 : decode cX5_clause 662 = .ok (.iload 6, 2) := dk_21 6 (dk_at dksX5_clause_25 9 rfl rfl)
theorem dX5_clause_664 : decode cX5_clause 664 = .ok (.if_icmp .eq 7, 3) := dk_159 0 7 (dk_at dksX5_clause_25 11 rfl rfl)
theorem dX5_clause_667 : decode cX5_clause 667 = .ok (.iconst 1, 1) := dk_4 (dk_at dksX5_clause_25 14 rfl rfl)
theorem dX5_clause_668 : decode cX5_clause 668 = .ok (.goto 4, 3) := dk_167 0 4 (dk_at dksX5_clause_25 15 rfl rfl)
theorem dX5_clause_671 : decode cX5_clause 671 = .ok (.iconst 0, 1) := dk_3 (dk_at dksX5_clause_25 18 rfl rfl)
theorem dX5_clause_672 : decode cX5_clause 672 = .ok (.invokevirtual 144, 3) := dk_182 0 144 (dk_at dksX5_clause_25 19 rfl rfl)
theorem dX5_clause_675 : decode cX5_clause 675 = .ok (.iinc 7 1, 3) := dk_132 7 1 (dk_at dksX5_clause_26 0 rfl rfl)
theorem dX5_clause_678 : decode cX5_clause 678 = .ok (.goto (-73), 3) := dk_167 255 183 (dk_at dksX5_clause_26 3 rfl rfl)
theorem dX5_clause_681 : decode cX5_clause 681 = .ok (.aload_n 0, 1) := dk_42 (dk_at dksX5_clause_26 6 rfl rfl)
theorem dX5_clause_682 : decode cX5_clause 682 = .ok (.getfield 12, 3) := dk_180 0 12 (dk_at dksX5_clause_26 7 rfl rfl)
theorem dX5_clause_685 : decode cX5_clause 685 = .ok (.getfield 65, 3) := dk_180 0 65 (dk_at dksX5_clause_26 10 rfl rfl)
theorem dX5_clause_688 : decode cX5_clause 688 = .ok (.new 136, 3) := dk_187 0 136 (dk_at dksX5_clause_26 13 rfl rfl)
theorem dX5_clause_691 : decode cX5_clause 691 = .ok (.dup, 1) := dk_89 (dk_at dksX5_clause_26 16 rfl rfl)
theorem dX5_clause_692 : decode cX5_clause 692 = .ok (.iload 5, 2) := dk_21 5 (dk_at dksX5_clause_26 17 rfl rfl)
theorem dX5_clause_694 : decode cX5_clause 694 = .ok (.iload 6, 2) := dk_21 6 (dk_at dksX5_clause_26 19 rfl rfl)
theorem dX5_clause_696 : decode cX5_clause 696 = .ok (.invokespecial 148, 3) := dk_183 0 148 (dk_at dksX5_clause_26 21 rfl rfl)
theorem dX5_clause_699 : decode cX5_clause 699 = .ok (.invokevirtual 149, 3) := dk_182 0 149 (dk_at dksX5_clause_27 0 rfl rfl)
theorem dX5_clause_702 : decode cX5_clause 702 = .ok (.pop, 1) := dk_87 (dk_at dksX5_clause_27 3 rfl rfl)
theorem dX5_clause_703 : decode cX5_clause 703 = .ok (.return_, 1) := dk_177 (dk_at dksX5_clause_27 4 rfl rfl)
theorem dX5_clause_704 : decode cX5_clause 704 = .ok (.aload_n 0, 1) := dk_42 (dk_at dksX5_clause_27 5 rfl rfl)
theorem dX5_clause_705 : decode cX5_clause 705 = .ok (.invokevirtual 152, 3) := dk_182 0 152 (dk_at dksX5_clause_27 6 rfl rfl)
theorem dX5_clause_708 : decode cX5_clause 708 = .ok (.istore 5, 2) := dk_54 5 (dk_at dksX5_clause_27 9 rfl rfl)
theorem dX5_clause_710 : decode cX5_clause 710 = .ok (.aload_n 0, 1) := dk_42 (dk_at dksX5_clause_27 11 rfl rfl)
theorem dX5_clause_711 : decode cX5_clause 711 = .ok (.invokevirtual 152, 3) := dk_182 0 152 (dk_at dksX5_clause_27 12 rfl rfl)
theorem dX5_clause_714 : decode cX5_clause 714 = .ok (.istore 6, 2) := dk_54 6 (dk_at dksX5_clause_27 15 rfl rfl)
theorem dX5_clause_716 : decode cX5_clause 716 = .ok (.aload_n 0, 1) := dk_42 (dk_at dksX5_clause_27 17 rfl rfl)
theorem dX5_clause_717 : decode cX5_clause 717 = .ok (.iload 5, 2) := dk_21 5 (dk_at dksX5_clause_27 18 rfl rfl)
theorem dX5_clause_719 : decode cX5_clause 719 = .ok (.iload 6, 2) := dk_21 6 (dk_at dksX5_clause_27 20 rfl rfl)
theorem dX5_clause_721 : decode cX5_clause 721 = .ok (.if_icmp .eq 7, 3) := dk_159 0 7 (dk_at dksX5_clause_28 0 rfl rfl)
theorem dX5_clause_724 : decode cX5_clause 724 = .ok (.iconst 1, 1) := dk_4 (dk_at dksX5_clause_28 3 rfl rfl)
theorem dX5_clause_725 : decode cX5_clause 725 = .ok (.goto 4, 3) := dk_167 0 4 (dk_at dksX5_clause_28 4 rfl rfl)
theorem dX5_clause_728 : decode cX5_clause 728 = .ok (.iconst 0, 1) := dk_3 (dk_at dksX5_clause_28 7 rfl rfl)
theorem dX5_clause_729 : decode cX5_clause 729 = .ok (.invokevirtual 144, 3) := dk_182 0 144 (dk_at dksX5_clause_28 8 rfl rfl)
theorem dX5_clause_732 : decode cX5_clause 732 = .ok (.aload_n 0, 1) := dk_42 (dk_at dksX5_clause_28 11 rfl rfl)
theorem dX5_clause_733 : decode cX5_clause 733 = .ok (.getfield 12, 3) := dk_180 0 12 (dk_at dksX5_clause_28 12 rfl rfl)
theorem dX5_clause_736 : decode cX5_clause 736 = .ok (.getfield 76, 3) := dk_180 0 76 (dk_at dksX5_clause_28 15 rfl rfl)
theorem dX5_clause_739 : decode cX5_clause 739 = .ok (.new 154, 3) := dk_187 0 154 (dk_at dksX5_clause_28 18 rfl rfl)
theorem dX5_clause_742 : decode cX5_clause 742 = .ok (.dup, 1) := dk_89 (dk_at dksX5_clause_28 21 rfl rfl)
theorem dX5_clause_743 : decode cX5_clause 743 = .ok (.iload 5, 2) := dk_21 5 (dk_at dksX5_clause_28 22 rfl rfl)
theorem dX5_clause_745 : decode cX5_clause 745 = .ok (.iload 6, 2) := dk_21 6 (dk_at dksX5_clause_29 0 rfl rfl)
theorem dX5_clause_747 : decode cX5_clause 747 = .ok (.aload_n 0, 1) := dk_42 (dk_at dksX5_clause_29 2 rfl rfl)
theorem dX5_clause_748 : decode cX5_clause 748 = .ok (.iconst 1, 1) := dk_4 (dk_at dksX5_clause_29 3 rfl rfl)
theorem dX5_clause_749 : decode cX5_clause 749 = .ok (.bipush 99, 2) := dk_16 99 (dk_at dksX5_clause_29 4 rfl rfl)
theorem dX5_clause_751 : decode cX5_clause 751 = .ok (.invokevirtual 73, 3) := dk_182 0 73 (dk_at dksX5_clause_29 6 rfl rfl)
theorem dX5_clause_754 : decode cX5_clause 754 = .ok (.invokespecial 156, 3) := dk_183 0 156 (dk_at dksX5_clause_29 9 rfl rfl)
theorem dX5_clause_757 : decode cX5_clause 757 = .ok (.invokevirtual 149, 3) := dk_182 0 149 (dk_at dksX5_clause_29 12 rfl rfl)
theorem dX5_clause_760 : decode cX5_clause 760 = .ok (.pop, 1) := dk_87 (dk_at dksX5_clause_29 15 rfl rfl)
theorem dX5_clause_761 : decode cX5_clause 761 = .ok (.return_, 1) := dk_177 (dk_at dksX5_clause_29 16 rfl rfl)
theorem dX5_clause_762 : decode cX5_clause 762 = .ok (.aload_n 0, 1) := dk_42 (dk_at dksX5_clause_29 17 rfl rfl)
theorem dX5_clause_763 : decode cX5_clause 763 = .ok (.getfield 12, 3) := dk_180 0 12 (dk_at dksX5_clause_29 18 rfl rfl)
theorem dX5_clause_766 : decode cX5_clause 766 = .ok (.getfield 76, 3) := dk_180 0 76 (dk_at dksX5_clause_29 21 rfl rfl)
theorem dX5_clause_769 : decode cX5_clause 769 = .ok (.aload_n 0, 1) := dk_42 (dk_at dksX5_clause_30 0 rfl rfl)
theorem dX5_clause_770 : decode cX5_clause 770 = .ok (.invokevirtual 159, 3) := dk_182 0 159 (dk_at dksX5_clause_30 1 rfl rfl)
theorem dX5_clause_773 : decode cX5_clause 773 = .ok (.invokevirtual 132, 3) := dk_182 0 132 (dk_at dksX5_clause_30 4 rfl rfl)
theorem dX5_clause_776 : decode cX5_clause 776 = .ok (.checkcast 154, 3) := dk_192 0 154 (dk_at dksX5_clause_30 7 rfl rfl)
theorem dX5_clause_779 : decode cX5_clause 779 = .ok (.astore 5, 2) := dk_58 5 (dk_at dksX5_clause_30 10 rfl rfl)
theorem dX5_clause_781 : decode cX5_clause 781 = .ok (.aload 5, 2) := dk_25 5 (dk_at dksX5_clause_30 12 rfl rfl)
theorem dX5_clause_783 : decode cX5_clause 783 = .ok (.iconst 1, 1) := dk_4 (dk_at dksX5_clause_30 14 rfl rfl)
theorem dX5_clause_784 : decode cX5_clause 784 = .ok (.putfield 161, 3) := dk_181 0 161 (dk_at dksX5_clause_30 15 rfl rfl)
theorem dX5_clause_787 : decode cX5_clause 787 = .ok (.return_, 1) := dk_177 (dk_at dksX5_clause_30 18 rfl rfl)
theorem dX5_clause_788 : decode cX5_clause 788 = .ok (.aload_n 0, 1) := dk_42 (dk_at dksX5_clause_30 19 rfl rfl)
theorem dX5_clause_789 : decode cX5_clause 789 = .ok (.invokevirtual 159, 3) := dk_182 0 159 (dk_at dksX5_clause_30 20 rfl rfl)
theorem dX5_clause_792 : decode cX5_clause 792 = .ok (.istore 5, 2) := dk_54 5 (dk_at dksX5_clause_31 0 rfl rfl)
theorem dX5_clause_794 : decode cX5_clause 794 = .ok (.aload_n 0, 1) := dk_42 (dk_at dksX5_clause_31 2 rfl rfl)
theorem dX5_clause_795 : decode cX5_clause 795 = .ok (.invokevirtual 159, 3) := dk_182 0 159 (dk_at dksX5_clause_31 3 rfl rfl)
theorem dX5_clause_798 : decode cX5_clause 798 = .ok (.istore 6, 2) := dk_54 6 (dk_at dksX5_clause_31 6 rfl rfl)
theorem dX5_clause_800 : decode cX5_clause 800 = .ok (.aload_n 0, 1) := dk_42 (dk_at dksX5_clause_31 8 rfl rfl)
theorem dX5_clause_801 : decode cX5_clause 801 = .ok (.iload 5, 2) := dk_21 5 (dk_at dksX5_clause_31 9 rfl rfl)
theorem dX5_clause_803 : decode cX5_clause 803 = .ok (.iload 6, 2) := dk_21 6 (dk_at dksX5_clause_31 11 rfl rfl)
theorem dX5_clause_805 : decode cX5_clause 805 = .ok (.if_icmp .eq 43, 3) := dk_159 0 43 (dk_at dksX5_clause_31 13 rfl rfl)
theorem dX5_clause_808 : decode cX5_clause 808 = .ok (.aload_n 0, 1) := dk_42 (dk_at dksX5_clause_31 16 rfl rfl)
theorem dX5_clause_809 : decode cX5_clause 809 = .ok (.getfield 12, 3) := dk_180 0 12 (dk_at dksX5_clause_31 17 rfl rfl)
theorem dX5_clause_812 : decode cX5_clause 812 = .ok (.getfield 76, 3) := dk_180 0 76 (dk_at dksX5_clause_31 20 rfl rfl)
theorem dX5_clause_815 : decode cX5_clause 815 = .ok (.iload 5, 2) := dk_21 5 (dk_at dksX5_clause_32 0 rfl rfl)
theorem dX5_clause_817 : decode cX5_clause 817 = .ok (.invokevirtual 132, 3) := dk_182 0 132 (dk_at dksX5_clause_32 2 rfl rfl)
theorem dX5_clause_820 : decode cX5_clause 820 = .ok (.checkcast 154, 3) := dk_192 0 154 (dk_at dksX5_clause_32 5 rfl rfl)
theorem dX5_clause_823 : decode cX5_clause 823 = .ok (.aload_n 0, 1) := dk_42 (dk_at dksX5_clause_32 8 rfl rfl)
theorem dX5_clause_824 : decode cX5_clause 824 = .ok (.getfield 12, 3) := dk_180 0 12 (dk_at dksX5_clause_32 9 rfl rfl)
theorem dX5_clause_827 : decode cX5_clause 827 = .ok (.getfield 76, 3) := dk_180 0 76 (dk_at dksX5_clause_32 12 rfl rfl)
theorem dX5_clause_830 : decode cX5_clause 830 = .ok (.iload 6, 2) := dk_21 6 (dk_at dksX5_clause_32 15 rfl rfl)
theorem dX5_clause_832 : decode cX5_clause 832 = .ok (.invokevirtual 132, 3) := dk_182 0 132 (dk_at dksX5_clause_32 17 rfl rfl)
theorem dX5_clause_835 : decode cX5_clause 835 = .ok (.checkcast 154, 3) := dk_192 0 154 (dk_at dksX5_clause_32 20 rfl rfl)
theorem dX5_clause_838 : decode cX5_clause 838 = .ok (.invokevirtual 164, 3) := dk_182 0 164 (dk_at dksX5_clause_33 0 rfl rfl)
theorem dX5_clause_841 : decode cX5_clause 841 = .ok (.ifCond .eq 7, 3) := dk_153 0 7 (dk_at dksX5_clause_33 3 rfl rfl)
theorem dX5_clause_844 : decode cX5_clause 844 = .ok (.iconst 1, 1) := dk_4 (dk_at dksX5_clause_33 6 rfl rfl)
theorem dX5_clause_845 : decode cX5_clause 845 = .ok (.goto 4, 3) := dk_167 0 4 (dk_at dksX5_clause_33 7 rfl rfl)
theorem dX5_clause_848 : decode cX5_clause 848 = .ok (.iconst 0, 1) := dk_3 (dk_at dksX5_clause_33 10 rfl rfl)
theorem dX5_clause_849 : decode cX5_clause 849 = .ok (.invokevirtual 144, 3) := dk_182 0 144 (dk_at dksX5_clause_33 11 rfl rfl)
theorem dX5_clause_852 : decode cX5_clause 852 = .ok (.aload_n 1, 1) := dk_43 (dk_at dksX5_clause_33 14 rfl rfl)
theorem dX5_clause_853 : decode cX5_clause 853 = .ok (.ldc 115, 2) := dk_18 115 (dk_at dksX5_clause_33 15 rfl rfl)
theorem dX5_clause_855 : decode cX5_clause 855 = .ok (.invokevirtual 103, 3) := dk_182 0 103 (dk_at dksX5_clause_33 17 rfl rfl)
theorem dX5_clause_858 : decode cX5_clause 858 = .ok (.ifCond .eq 23, 3) := dk_153 0 23 (dk_at dksX5_clause_33 20 rfl rfl)
theorem dX5_clause_861 : decode cX5_clause 861 = .ok (.aload_n 0, 1) := dk_42 (dk_at dksX5_clause_33 23 rfl rfl)
theorem dX5_clause_862 : decode cX5_clause 862 = .ok (.getfield 12, 3) := dk_180 0 12 (dk_at dksX5_clause_34 0 rfl rfl)
theorem dX5_clause_865 : decode cX5_clause 865 = .ok (.getfield 168, 3) := dk_180 0 168 (dk_at dksX5_clause_34 3 rfl rfl)
theorem dX5_clause_868 : decode cX5_clause 868 = .ok (.iload 5, 2) := dk_21 5 (dk_at dksX5_clause_34 6 rfl rfl)
theorem dX5_clause_870 : decode cX5_clause 870 = .ok (.dup2, 1) := dk_92 (dk_at dksX5_clause_34 8 rfl rfl)
theorem dX5_clause_871 : decode cX5_clause 871 = .ok (.iaload, 1) := dk_46 (dk_at dksX5_clause_34 9 rfl rfl)
theorem dX5_clause_872 : decode cX5_clause 872 = .ok (.iconst 1, 1) := dk_4 (dk_at dksX5_clause_34 10 rfl rfl)
theorem dX5_clause_873 : decode cX5_clause 873 = .ok (.iload 6, 2) := dk_21 6 (dk_at dksX5_clause_34 11 rfl rfl)
theorem dX5_clause_875 : decode cX5_clause 875 = .ok (.ishl, 1) := dk_120 (dk_at dksX5_clause_34 13 rfl rfl)
theorem dX5_clause_876 : decode cX5_clause 876 = .ok (.ior, 1) := dk_128 (dk_at dksX5_clause_34 14 rfl rfl)
theorem dX5_clause_877 : decode cX5_clause 877 = .ok (.iastore, 1) := dk_79 (dk_at dksX5_clause_34 15 rfl rfl)
theorem dX5_clause_878 : decode cX5_clause 878 = .ok (.goto 20, 3) := dk_167 0 20 (dk_at dksX5_clause_34 16 rfl rfl)
theorem dX5_clause_881 : decode cX5_clause 881 = .ok (.aload_n 0, 1) := dk_42 (dk_at dksX5_clause_34 19 rfl rfl)
theorem dX5_clause_882 : decode cX5_clause 882 = .ok (.getfield 12, 3) := dk_180 0 12 (dk_at dksX5_clause_34 20 rfl rfl)
theorem dX5_clause_885 : decode cX5_clause 885 = .ok (.getfield 172, 3) := dk_180 0 172 (dk_at dksX5_clause_35 0 rfl rfl)
theorem dX5_clause_888 : decode cX5_clause 888 = .ok (.iload 5, 2) := dk_21 5 (dk_at dksX5_clause_35 3 rfl rfl)
theorem dX5_clause_890 : decode cX5_clause 890 = .ok (.dup2, 1) := dk_92 (dk_at dksX5_clause_35 5 rfl rfl)
theorem dX5_clause_891 : decode cX5_clause 891 = .ok (.iaload, 1) := dk_46 (dk_at dksX5_clause_35 6 rfl rfl)
theorem dX5_clause_892 : decode cX5_clause 892 = .ok (.iconst 1, 1) := dk_4 (dk_at dksX5_clause_35 7 rfl rfl)
theorem dX5_clause_893 : decode cX5_clause 893 = .ok (.iload 6, 2) := dk_21 6 (dk_at dksX5_clause_35 8 rfl rfl)
theorem dX5_clause_895 : decode cX5_clause 895 = .ok (.ishl, 1) := dk_120 (dk_at dksX5_clause_35 10 rfl rfl)
theorem dX5_clause_896 : decode cX5_clause 896 = .ok (.ior, 1) := dk_128 (dk_at dksX5_clause_35 11 rfl rfl)
theorem dX5_clause_897 : decode cX5_clause 897 = .ok (.iastore, 1) := dk_79 (dk_at dksX5_clause_35 12 rfl rfl)
theorem dX5_clause_898 : decode cX5_clause 898 = .ok (.return_, 1) := dk_177 (dk_at dksX5_clause_35 13 rfl rfl)
theorem dX5_clause_899 : decode cX5_clause 899 = .ok (.aload_n 0, 1) := dk_42 (dk_at dksX5_clause_35 14 rfl rfl)
theorem dX5_clause_900 : decode cX5_clause 900 = .ok (.getfield 12, 3) := dk_180 0 12 (dk_at dksX5_clause_35 15 rfl rfl)
theorem dX5_clause_903 : decode cX5_clause 903 = .ok (.dup, 1) := dk_89 (dk_at dksX5_clause_35 18 rfl rfl)
theorem dX5_clause_904 : decode cX5_clause 904 = .ok (.getfield 122, 3) := dk_180 0 122 (dk_at dksX5_clause_35 19 rfl rfl)
theorem dX5_clause_907 : decode cX5_clause 907 = .ok (.iconst 1, 1) := dk_4 (dk_at dksX5_clause_35 22 rfl rfl)
theorem dX5_clause_908 : decode cX5_clause 908 = .ok (.aload_n 0, 1) := dk_42 (dk_at dksX5_clause_35 23 rfl rfl)
theorem dX5_clause_909 : decode cX5_clause 909 = .ok (.invokevirtual 152, 3) := dk_182 0 152 (dk_at dksX5_clause_36 0 rfl rfl)
theorem dX5_clause_912 : decode cX5_clause 912 = .ok (.ishl, 1) := dk_120 (dk_at dksX5_clause_36 3 rfl rfl)
theorem dX5_clause_913 : decode cX5_clause 913 = .ok (.ior, 1) := dk_128 (dk_at dksX5_clause_36 4 rfl rfl)
theorem dX5_clause_914 : decode cX5_clause 914 = .ok (.putfield 122, 3) := dk_181 0 122 (dk_at dksX5_clause_36 5 rfl rfl)
theorem dX5_clause_917 : decode cX5_clause 917 = .ok (.return_, 1) := dk_177 (dk_at dksX5_clause_36 8 rfl rfl)
theorem dX5_clause_918 : decode cX5_clause 918 = .ok (.aload_n 0, 1) := dk_42 (dk_at dksX5_clause_36 9 rfl rfl)
theorem dX5_clause_919 : decode cX5_clause 919 = .ok (.invokevirtual 152, 3) := dk_182 0 152 (dk_at dksX5_clause_36 10 rfl rfl)
theorem dX5_clause_922 : decode cX5_clause 922 = .ok (.istore 5, 2) := dk_54 5 (dk_at dksX5_clause_36 13 rfl rfl)
theorem dX5_clause_924 : decode cX5_clause 924 = .ok (.aload_n 0, 1) := dk_42 (dk_at dksX5_clause_36 15 rfl rfl)
theorem dX5_clause_925 : decode cX5_clause 925 = .ok (.invokevirtual 152, 3) := dk_182 0 152 (dk_at dksX5_clause_36 16 rfl rfl)
theorem dX5_clause_928 : decode cX5_clause 928 = .ok (.istore 6, 2) := dk_54 6 (dk_at dksX5_clause_36 19 rfl rfl)
theorem dX5_clause_930 : decode cX5_clause 930 = .ok (.aload_n 0, 1) := dk_42 (dk_at dksX5_clause_36 21 rfl rfl)
theorem dX5_clause_931 : decode cX5_clause 931 = .ok (.iload 5, 2) := dk_21 5 (dk_at dksX5_clause_36 22 rfl rfl)
theorem dX5_clause_933 : decode cX5_clause 933 = .ok (.iload 6, 2) := dk_21 6 (dk_at dksX5_clause_37 0 rfl rfl)
theorem dX5_clause_935 : decode cX5_clause 935 = .ok (.if_icmp .eq 7, 3) := dk_159 0 7 (dk_at dksX5_clause_37 2 rfl rfl)
theorem dX5_clause_938 : decode cX5_clause 938 = .ok (.iconst 1, 1) := dk_4 (dk_at dksX5_clause_37 5 rfl rfl)
theorem dX5_clause_939 : decode cX5_clause 939 = .ok (.goto 4, 3) := dk_167 0 4 (dk_at dksX5_clause_37 6 rfl rfl)
theorem dX5_clause_942 : decode cX5_clause 942 = .ok (.iconst 0, 1) := dk_3 (dk_at dksX5_clause_37 9 rfl rfl)
theorem dX5_clause_943 : decode cX5_clause 943 = .ok (.invokevirtual 144, 3) := dk_182 0 144 (dk_at dksX5_clause_37 10 rfl rfl)
theorem dX5_clause_946 : decode cX5_clause 946 = .ok (.aload_n 0, 1) := dk_42 (dk_at dksX5_clause_37 13 rfl rfl)
theorem dX5_clause_947 : decode cX5_clause 947 = .ok (.getfield 12, 3) := dk_180 0 12 (dk_at dksX5_clause_37 14 rfl rfl)
theorem dX5_clause_950 : decode cX5_clause 950 = .ok (.getfield 119, 3) := dk_180 0 119 (dk_at dksX5_clause_37 17 rfl rfl)
theorem dX5_clause_953 : decode cX5_clause 953 = .ok (.new 175, 3) := dk_187 0 175 (dk_at dksX5_clause_37 20 rfl rfl)
theorem dX5_clause_956 : decode cX5_clause 956 = .ok (.dup, 1) := dk_89 (dk_at dksX5_clause_37 23 rfl rfl)
theorem dX5_clause_957 : decode cX5_clause 957 = .ok (.iload 5, 2) := dk_21 5 (dk_at dksX5_clause_38 0 rfl rfl)
theorem dX5_clause_959 : decode cX5_clause 959 = .ok (.iload 6, 2) := dk_21 6 (dk_at dksX5_clause_38 2 rfl rfl)
theorem dX5_clause_961 : decode cX5_clause 961 = .ok (.aload_n 0, 1) := dk_42 (dk_at dksX5_clause_38 4 rfl rfl)
theorem dX5_clause_962 : decode cX5_clause 962 = .ok (.iconst 0, 1) := dk_3 (dk_at dksX5_clause_38 5 rfl rfl)
theorem dX5_clause_963 : decode cX5_clause 963 = .ok (.bipush 99, 2) := dk_16 99 (dk_at dksX5_clause_38 6 rfl rfl)
theorem dX5_clause_965 : decode cX5_clause 965 = .ok (.invokevirtual 73, 3) := dk_182 0 73 (dk_at dksX5_clause_38 8 rfl rfl)
theorem dX5_clause_968 : decode cX5_clause 968 = .ok (.invokespecial 177, 3) := dk_183 0 177 (dk_at dksX5_clause_38 11 rfl rfl)
theorem dX5_clause_971 : decode cX5_clause 971 = .ok (.invokevirtual 149, 3) := dk_182 0 149 (dk_at dksX5_clause_38 14 rfl rfl)
theorem dX5_clause_974 : decode cX5_clause 974 = .ok (.pop, 1) := dk_87 (dk_at dksX5_clause_38 17 rfl rfl)
theorem dX5_clause_975 : decode cX5_clause 975 = .ok (.return_, 1) := dk_177 (dk_at dksX5_clause_38 18 rfl rfl)
abbrev cX5_wrong : ByteArray := prog_3_method_4_code
def yX5_wrong : MethodName := ⟨RX5, "wrong", "()LRightTurns$Wrong;"⟩
def dkwX5_wrong_0 : List UInt8 := [187, 0, 47, 89, 4, 42, 180, 0, 26, 183, 0, 49, 176]
abbrev dktX5_wrong_0 : List UInt8 := dkwX5_wrong_0 ++ []
theorem dksX5_wrong_0 : cX5_wrong.data.toList.drop 0 = dktX5_wrong_0 := by decide +kernel
theorem dX5_wrong_0 : decode cX5_wrong 0 = .ok (.new 47, 3) := dk_187 0 47 (dk_at dksX5_wrong_0 0 rfl rfl)
theorem dX5_wrong_3 : decode cX5_wrong 3 = .ok (.dup, 1) := dk_89 (dk_at dksX5_wrong_0 3 rfl rfl)
theorem dX5_wrong_4 : decode cX5_wrong 4 = .ok (.iconst 1, 1) := dk_4 (dk_at dksX5_wrong_0 4 rfl rfl)
theorem dX5_wrong_5 : decode cX5_wrong 5 = .ok (.aload_n 0, 1) := dk_42 (dk_at dksX5_wrong_0 5 rfl rfl)
theorem dX5_wrong_6 : decode cX5_wrong 6 = .ok (.getfield 26, 3) := dk_180 0 26 (dk_at dksX5_wrong_0 6 rfl rfl)
theorem dX5_wrong_9 : decode cX5_wrong 9 = .ok (.invokespecial 49, 3) := dk_183 0 49 (dk_at dksX5_wrong_0 9 rfl rfl)
theorem dX5_wrong_12 : decode cX5_wrong 12 = .ok (.areturn, 1) := dk_176 (dk_at dksX5_wrong_0 12 rfl rfl)
abbrev cX5_number : ByteArray := prog_3_method_6_code
def yX5_number : MethodName := ⟨RX5, "number", "(II)I"⟩
def dkwX5_number_5 : List UInt8 := [164, 0, 16, 187, 0, 47, 89, 5, 42, 180, 0, 56, 183, 0, 49, 191, 21, 4, 172]
abbrev dktX5_number_5 : List UInt8 := dkwX5_number_5 ++ []
def dkwX5_number_4 : List UInt8 := [54, 4, 42, 89, 180, 0, 26, 4, 96, 181, 0, 26, 167, 255, 181, 21, 4, 27, 161, 0, 9, 21, 4, 28]
abbrev dktX5_number_4 : List UInt8 := dkwX5_number_4 ++ dktX5_number_5
def dkwX5_number_3 : List UInt8 := [16, 10, 21, 4, 104, 42, 180, 0, 18, 42, 180, 0, 26, 51, 96, 16, 48, 100, 17, 3, 232, 184, 0, 59]
abbrev dktX5_number_3 : List UInt8 := dkwX5_number_3 ++ dktX5_number_4
def dkwX5_number_2 : List UInt8 := [42, 180, 0, 26, 51, 16, 48, 161, 0, 56, 42, 180, 0, 18, 42, 180, 0, 26, 51, 16, 57, 163, 0, 42]
abbrev dktX5_number_2 : List UInt8 := dkwX5_number_2 ++ dktX5_number_3
def dkwX5_number_1 : List UInt8 := [180, 0, 26, 181, 0, 56, 3, 54, 4, 42, 180, 0, 26, 42, 180, 0, 22, 162, 0, 70, 42, 180, 0, 18]
abbrev dktX5_number_1 : List UInt8 := dkwX5_number_1 ++ dktX5_number_2
def dkwX5_number_0 : List UInt8 := [42, 182, 0, 29, 62, 29, 16, 48, 161, 0, 9, 29, 16, 57, 164, 0, 8, 42, 182, 0, 52, 191, 42, 42]
abbrev dktX5_number_0 : List UInt8 := dkwX5_number_0 ++ dktX5_number_1
theorem dksX5_number_0 : cX5_number.data.toList.drop 0 = dktX5_number_0 := by decide +kernel
theorem dksX5_number_1 : cX5_number.data.toList.drop 24 = dktX5_number_1 := dk_seg dksX5_number_0 24 rfl rfl
theorem dksX5_number_2 : cX5_number.data.toList.drop 48 = dktX5_number_2 := dk_seg dksX5_number_1 24 rfl rfl
theorem dksX5_number_3 : cX5_number.data.toList.drop 72 = dktX5_number_3 := dk_seg dksX5_number_2 24 rfl rfl
theorem dksX5_number_4 : cX5_number.data.toList.drop 96 = dktX5_number_4 := dk_seg dksX5_number_3 24 rfl rfl
theorem dksX5_number_5 : cX5_number.data.toList.drop 120 = dktX5_number_5 := dk_seg dksX5_number_4 24 rfl rfl
theorem dX5_number_0 : decode cX5_number 0 = .ok (.aload_n 0, 1) := dk_42 (dk_at dksX5_number_0 0 rfl rfl)
theorem dX5_number_1 : decode cX5_number 1 = .ok (.invokevirtual 29, 3) := dk_182 0 29 (dk_at dksX5_number_0 1 rfl rfl)
theorem dX5_number_4 : decode cX5_number 4 = .ok (.istore_n 3, 1) := dk_62 (dk_at dksX5_number_0 4 rfl rfl)
theorem dX5_number_5 : decode cX5_number 5 = .ok (.iload_n 3, 1) := dk_29 (dk_at dksX5_number_0 5 rfl rfl)
theorem dX5_number_6 : decode cX5_number 6 = .ok (.bipush 48, 2) := dk_16 48 (dk_at dksX5_number_0 6 rfl rfl)
theorem dX5_number_8 : decode cX5_number 8 = .ok (.if_icmp .lt 9, 3) := dk_161 0 9 (dk_at dksX5_number_0 8 rfl rfl)
theorem dX5_number_11 : decode cX5_number 11 = .ok (.iload_n 3, 1) := dk_29 (dk_at dksX5_number_0 11 rfl rfl)
theorem dX5_number_12 : decode cX5_number 12 = .ok (.bipush 57, 2) := dk_16 57 (dk_at dksX5_number_0 12 rfl rfl)
theorem dX5_number_14 : decode cX5_number 14 = .ok (.if_icmp .le 8, 3) := dk_164 0 8 (dk_at dksX5_number_0 14 rfl rfl)
theorem dX5_number_17 : decode cX5_number 17 = .ok (.aload_n 0, 1) := dk_42 (dk_at dksX5_number_0 17 rfl rfl)
theorem dX5_number_18 : decode cX5_number 18 = .ok (.invokevirtual 52, 3) := dk_182 0 52 (dk_at dksX5_number_0 18 rfl rfl)
theorem dX5_number_21 : decode cX5_number 21 = .ok (.athrow, 1) := dk_191 (dk_at dksX5_number_0 21 rfl rfl)
theorem dX5_number_22 : decode cX5_number 22 = .ok (.aload_n 0, 1) := dk_42 (dk_at dksX5_number_0 22 rfl rfl)
theorem dX5_number_23 : decode cX5_number 23 = .ok (.aload_n 0, 1) := dk_42 (dk_at dksX5_number_0 23 rfl rfl)
theorem dX5_number_24 : decode cX5_number 24 = .ok (.getfield 26, 3) := dk_180 0 26 (dk_at dksX5_number_1 0 rfl rfl)
theorem dX5_number_27 : decode cX5_number 27 = .ok (.putfield 56, 3) := dk_181 0 56 (dk_at dksX5_number_1 3 rfl rfl)
theorem dX5_number_30 : decode cX5_number 30 = .ok (.iconst 0, 1) := dk_3 (dk_at dksX5_number_1 6 rfl rfl)
theorem dX5_number_31 : decode cX5_number 31 = .ok (.istore 4, 2) := dk_54 4 (dk_at dksX5_number_1 7 rfl rfl)
theorem dX5_number_33 : decode cX5_number 33 = .ok (.aload_n 0, 1) := dk_42 (dk_at dksX5_number_1 9 rfl rfl)
theorem dX5_number_34 : decode cX5_number 34 = .ok (.getfield 26, 3) := dk_180 0 26 (dk_at dksX5_number_1 10 rfl rfl)
theorem dX5_number_37 : decode cX5_number 37 = .ok (.aload_n 0, 1) := dk_42 (dk_at dksX5_number_1 13 rfl rfl)
theorem dX5_number_38 : decode cX5_number 38 = .ok (.getfield 22, 3) := dk_180 0 22 (dk_at dksX5_number_1 14 rfl rfl)
theorem dX5_number_41 : decode cX5_number 41 = .ok (.if_icmp .ge 70, 3) := dk_162 0 70 (dk_at dksX5_number_1 17 rfl rfl)
theorem dX5_number_44 : decode cX5_number 44 = .ok (.aload_n 0, 1) := dk_42 (dk_at dksX5_number_1 20 rfl rfl)
theorem dX5_number_45 : decode cX5_number 45 = .ok (.getfield 18, 3) := dk_180 0 18 (dk_at dksX5_number_1 21 rfl rfl)
theorem dX5_number_48 : decode cX5_number 48 = .ok (.aload_n 0, 1) := dk_42 (dk_at dksX5_number_2 0 rfl rfl)
theorem dX5_number_49 : decode cX5_number 49 = .ok (.getfield 26, 3) := dk_180 0 26 (dk_at dksX5_number_2 1 rfl rfl)
theorem dX5_number_52 : decode cX5_number 52 = .ok (.baload, 1) := dk_51 (dk_at dksX5_number_2 4 rfl rfl)
theorem dX5_number_53 : decode cX5_number 53 = .ok (.bipush 48, 2) := dk_16 48 (dk_at dksX5_number_2 5 rfl rfl)
theorem dX5_number_55 : decode cX5_number 55 = .ok (.if_icmp .lt 56, 3) := dk_161 0 56 (dk_at dksX5_number_2 7 rfl rfl)
theorem dX5_number_58 : decode cX5_number 58 = .ok (.aload_n 0, 1) := dk_42 (dk_at dksX5_number_2 10 rfl rfl)
theorem dX5_number_59 : decode cX5_number 59 = .ok (.getfield 18, 3) := dk_180 0 18 (dk_at dksX5_number_2 11 rfl rfl)
theorem dX5_number_62 : decode cX5_number 62 = .ok (.aload_n 0, 1) := dk_42 (dk_at dksX5_number_2 14 rfl rfl)
theorem dX5_number_63 : decode cX5_number 63 = .ok (.getfield 26, 3) := dk_180 0 26 (dk_at dksX5_number_2 15 rfl rfl)
theorem dX5_number_66 : decode cX5_number 66 = .ok (.baload, 1) := dk_51 (dk_at dksX5_number_2 18 rfl rfl)
theorem dX5_number_67 : decode cX5_number 67 = .ok (.bipush 57, 2) := dk_16 57 (dk_at dksX5_number_2 19 rfl rfl)
theorem dX5_number_69 : decode cX5_number 69 = .ok (.if_icmp .gt 42, 3) := dk_163 0 42 (dk_at dksX5_number_2 21 rfl rfl)
theorem dX5_number_72 : decode cX5_number 72 = .ok (.bipush 10, 2) := dk_16 10 (dk_at dksX5_number_3 0 rfl rfl)
theorem dX5_number_74 : decode cX5_number 74 = .ok (.iload 4, 2) := dk_21 4 (dk_at dksX5_number_3 2 rfl rfl)
theorem dX5_number_76 : decode cX5_number 76 = .ok (.imul, 1) := dk_104 (dk_at dksX5_number_3 4 rfl rfl)
theorem dX5_number_77 : decode cX5_number 77 = .ok (.aload_n 0, 1) := dk_42 (dk_at dksX5_number_3 5 rfl rfl)
theorem dX5_number_78 : decode cX5_number 78 = .ok (.getfield 18, 3) := dk_180 0 18 (dk_at dksX5_number_3 6 rfl rfl)
theorem dX5_number_81 : decode cX5_number 81 = .ok (.aload_n 0, 1) := dk_42 (dk_at dksX5_number_3 9 rfl rfl)
theorem dX5_number_82 : decode cX5_number 82 = .ok (.getfield 26, 3) := dk_180 0 26 (dk_at dksX5_number_3 10 rfl rfl)
theorem dX5_number_85 : decode cX5_number 85 = .ok (.baload, 1) := dk_51 (dk_at dksX5_number_3 13 rfl rfl)
theorem dX5_number_86 : decode cX5_number 86 = .ok (.iadd, 1) := dk_96 (dk_at dksX5_number_3 14 rfl rfl)
theorem dX5_number_87 : decode cX5_number 87 = .ok (.bipush 48, 2) := dk_16 48 (dk_at dksX5_number_3 15 rfl rfl)
theorem dX5_number_89 : decode cX5_number 89 = .ok (.isub, 1) := dk_100 (dk_at dksX5_number_3 17 rfl rfl)
theorem dX5_number_90 : decode cX5_number 90 = .ok (.sipush 1000, 3) := dk_17 3 232 (dk_at dksX5_number_3 18 rfl rfl)
theorem dX5_number_93 : decode cX5_number 93 = .ok (.invokestatic 59, 3) := dk_184 0 59 (dk_at dksX5_number_3 21 rfl rfl)
theorem dX5_number_96 : decode cX5_number 96 = .ok (.istore 4, 2) := dk_54 4 (dk_at dksX5_number_4 0 rfl rfl)
theorem dX5_number_98 : decode cX5_number 98 = .ok (.aload_n 0, 1) := dk_42 (dk_at dksX5_number_4 2 rfl rfl)
theorem dX5_number_99 : decode cX5_number 99 = .ok (.dup, 1) := dk_89 (dk_at dksX5_number_4 3 rfl rfl)
theorem dX5_number_100 : decode cX5_number 100 = .ok (.getfield 26, 3) := dk_180 0 26 (dk_at dksX5_number_4 4 rfl rfl)
theorem dX5_number_103 : decode cX5_number 103 = .ok (.iconst 1, 1) := dk_4 (dk_at dksX5_number_4 7 rfl rfl)
theorem dX5_number_104 : decode cX5_number 104 = .ok (.iadd, 1) := dk_96 (dk_at dksX5_number_4 8 rfl rfl)
theorem dX5_number_105 : decode cX5_number 105 = .ok (.putfield 26, 3) := dk_181 0 26 (dk_at dksX5_number_4 9 rfl rfl)
theorem dX5_number_108 : decode cX5_number 108 = .ok (.goto (-75), 3) := dk_167 255 181 (dk_at dksX5_number_4 12 rfl rfl)
theorem dX5_number_111 : decode cX5_number 111 = .ok (.iload 4, 2) := dk_21 4 (dk_at dksX5_number_4 15 rfl rfl)
theorem dX5_number_113 : decode cX5_number 113 = .ok (.iload_n 1, 1) := dk_27 (dk_at dksX5_number_4 17 rfl rfl)
theorem dX5_number_114 : decode cX5_number 114 = .ok (.if_icmp .lt 9, 3) := dk_161 0 9 (dk_at dksX5_number_4 18 rfl rfl)
theorem dX5_number_117 : decode cX5_number 117 = .ok (.iload 4, 2) := dk_21 4 (dk_at dksX5_number_4 21 rfl rfl)
theorem dX5_number_119 : decode cX5_number 119 = .ok (.iload_n 2, 1) := dk_28 (dk_at dksX5_number_4 23 rfl rfl)
theorem dX5_number_120 : decode cX5_number 120 = .ok (.if_icmp .le 16, 3) := dk_164 0 16 (dk_at dksX5_number_5 0 rfl rfl)
theorem dX5_number_123 : decode cX5_number 123 = .ok (.new 47, 3) := dk_187 0 47 (dk_at dksX5_number_5 3 rfl rfl)
theorem dX5_number_126 : decode cX5_number 126 = .ok (.dup, 1) := dk_89 (dk_at dksX5_number_5 6 rfl rfl)
theorem dX5_number_127 : decode cX5_number 127 = .ok (.iconst 2, 1) := dk_5 (dk_at dksX5_number_5 7 rfl rfl)
theorem dX5_number_128 : decode cX5_number 128 = .ok (.aload_n 0, 1) := dk_42 (dk_at dksX5_number_5 8 rfl rfl)
theorem dX5_number_129 : decode cX5_number 129 = .ok (.getfield 56, 3) := dk_180 0 56 (dk_at dksX5_number_5 9 rfl rfl)
theorem dX5_number_132 : decode cX5_number 132 = .ok (.invokespecial 49, 3) := dk_183 0 49 (dk_at dksX5_number_5 12 rfl rfl)
theorem dX5_number_135 : decode cX5_number 135 = .ok (.athrow, 1) := dk_191 (dk_at dksX5_number_5 15 rfl rfl)
theorem dX5_number_136 : decode cX5_number 136 = .ok (.iload 4, 2) := dk_21 4 (dk_at dksX5_number_5 16 rfl rfl)
theorem dX5_number_138 : decode cX5_number 138 = .ok (.ireturn, 1) := dk_172 (dk_at dksX5_number_5 18 rfl rfl)
abbrev cX5_good : ByteArray := prog_3_method_7_code
def yX5_good : MethodName := ⟨RX5, "good", "(Z)V"⟩
def dkwX5_good_0 : List UInt8 := [27, 154, 0, 16, 187, 0, 47, 89, 5, 42, 180, 0, 56, 183, 0, 49, 191, 177]
abbrev dktX5_good_0 : List UInt8 := dkwX5_good_0 ++ []
theorem dksX5_good_0 : cX5_good.data.toList.drop 0 = dktX5_good_0 := by decide +kernel
theorem dX5_good_0 : decode cX5_good 0 = .ok (.iload_n 1, 1) := dk_27 (dk_at dksX5_good_0 0 rfl rfl)
theorem dX5_good_1 : decode cX5_good 1 = .ok (.ifCond .ne 16, 3) := dk_154 0 16 (dk_at dksX5_good_0 1 rfl rfl)
theorem dX5_good_4 : decode cX5_good 4 = .ok (.new 47, 3) := dk_187 0 47 (dk_at dksX5_good_0 4 rfl rfl)
theorem dX5_good_7 : decode cX5_good 7 = .ok (.dup, 1) := dk_89 (dk_at dksX5_good_0 7 rfl rfl)
theorem dX5_good_8 : decode cX5_good 8 = .ok (.iconst 2, 1) := dk_5 (dk_at dksX5_good_0 8 rfl rfl)
theorem dX5_good_9 : decode cX5_good 9 = .ok (.aload_n 0, 1) := dk_42 (dk_at dksX5_good_0 9 rfl rfl)
theorem dX5_good_10 : decode cX5_good 10 = .ok (.getfield 56, 3) := dk_180 0 56 (dk_at dksX5_good_0 10 rfl rfl)
theorem dX5_good_13 : decode cX5_good 13 = .ok (.invokespecial 49, 3) := dk_183 0 49 (dk_at dksX5_good_0 13 rfl rfl)
theorem dX5_good_16 : decode cX5_good 16 = .ok (.athrow, 1) := dk_191 (dk_at dksX5_good_0 16 rfl rfl)
theorem dX5_good_17 : decode cX5_good 17 = .ok (.return_, 1) := dk_177 (dk_at dksX5_good_0 17 rfl rfl)
abbrev cX5_corner : ByteArray := prog_3_method_8_code
def yX5_corner : MethodName := ⟨RX5, "corner", "()I"⟩
def dkwX5_corner_0 : List UInt8 := [42, 3, 42, 180, 0, 12, 180, 0, 65, 182, 0, 69, 4, 100, 182, 0, 73, 172]
abbrev dktX5_corner_0 : List UInt8 := dkwX5_corner_0 ++ []
theorem dksX5_corner_0 : cX5_corner.data.toList.drop 0 = dktX5_corner_0 := by decide +kernel
theorem dX5_corner_0 : decode cX5_corner 0 = .ok (.aload_n 0, 1) := dk_42 (dk_at dksX5_corner_0 0 rfl rfl)
theorem dX5_corner_1 : decode cX5_corner 1 = .ok (.iconst 0, 1) := dk_3 (dk_at dksX5_corner_0 1 rfl rfl)
theorem dX5_corner_2 : decode cX5_corner 2 = .ok (.aload_n 0, 1) := dk_42 (dk_at dksX5_corner_0 2 rfl rfl)
theorem dX5_corner_3 : decode cX5_corner 3 = .ok (.getfield 12, 3) := dk_180 0 12 (dk_at dksX5_corner_0 3 rfl rfl)
theorem dX5_corner_6 : decode cX5_corner 6 = .ok (.getfield 65, 3) := dk_180 0 65 (dk_at dksX5_corner_0 6 rfl rfl)
theorem dX5_corner_9 : decode cX5_corner 9 = .ok (.invokevirtual 69, 3) := dk_182 0 69 (dk_at dksX5_corner_0 9 rfl rfl)
theorem dX5_corner_12 : decode cX5_corner 12 = .ok (.iconst 1, 1) := dk_4 (dk_at dksX5_corner_0 12 rfl rfl)
theorem dX5_corner_13 : decode cX5_corner 13 = .ok (.isub, 1) := dk_100 (dk_at dksX5_corner_0 13 rfl rfl)
theorem dX5_corner_14 : decode cX5_corner 14 = .ok (.invokevirtual 73, 3) := dk_182 0 73 (dk_at dksX5_corner_0 14 rfl rfl)
theorem dX5_corner_17 : decode cX5_corner 17 = .ok (.ireturn, 1) := dk_172 (dk_at dksX5_corner_0 17 rfl rfl)
abbrev cX5_street : ByteArray := prog_3_method_9_code
def yX5_street : MethodName := ⟨RX5, "street", "()I"⟩
def dkwX5_street_0 : List UInt8 := [42, 3, 42, 180, 0, 12, 180, 0, 76, 182, 0, 69, 4, 100, 182, 0, 73, 172]
abbrev dktX5_street_0 : List UInt8 := dkwX5_street_0 ++ []
theorem dksX5_street_0 : cX5_street.data.toList.drop 0 = dktX5_street_0 := by decide +kernel
theorem dX5_street_0 : decode cX5_street 0 = .ok (.aload_n 0, 1) := dk_42 (dk_at dksX5_street_0 0 rfl rfl)
theorem dX5_street_1 : decode cX5_street 1 = .ok (.iconst 0, 1) := dk_3 (dk_at dksX5_street_0 1 rfl rfl)
theorem dX5_street_2 : decode cX5_street 2 = .ok (.aload_n 0, 1) := dk_42 (dk_at dksX5_street_0 2 rfl rfl)
theorem dX5_street_3 : decode cX5_street 3 = .ok (.getfield 12, 3) := dk_180 0 12 (dk_at dksX5_street_0 3 rfl rfl)
theorem dX5_street_6 : decode cX5_street 6 = .ok (.getfield 76, 3) := dk_180 0 76 (dk_at dksX5_street_0 6 rfl rfl)
theorem dX5_street_9 : decode cX5_street 9 = .ok (.invokevirtual 69, 3) := dk_182 0 69 (dk_at dksX5_street_0 9 rfl rfl)
theorem dX5_street_12 : decode cX5_street 12 = .ok (.iconst 1, 1) := dk_4 (dk_at dksX5_street_0 12 rfl rfl)
theorem dX5_street_13 : decode cX5_street 13 = .ok (.isub, 1) := dk_100 (dk_at dksX5_street_0 13 rfl rfl)
theorem dX5_street_14 : decode cX5_street 14 = .ok (.invokevirtual 73, 3) := dk_182 0 73 (dk_at dksX5_street_0 14 rfl rfl)
theorem dX5_street_17 : decode cX5_street 17 = .ok (.ireturn, 1) := dk_172 (dk_at dksX5_street_0 17 rfl rfl)
abbrev cX5_need : ByteArray := prog_3_method_5_code
def yX5_need : MethodName := ⟨RX5, "need", "(I)V"⟩
def dkwX5_need_0 : List UInt8 := [42, 182, 0, 29, 27, 159, 0, 8, 42, 182, 0, 52, 191, 42, 89, 180, 0, 26, 4, 96, 181, 0, 26, 177]
abbrev dktX5_need_0 : List UInt8 := dkwX5_need_0 ++ []
theorem dksX5_need_0 : cX5_need.data.toList.drop 0 = dktX5_need_0 := by decide +kernel
theorem dX5_need_0 : decode cX5_need 0 = .ok (.aload_n 0, 1) := dk_42 (dk_at dksX5_need_0 0 rfl rfl)
theorem dX5_need_1 : decode cX5_need 1 = .ok (.invokevirtual 29, 3) := dk_182 0 29 (dk_at dksX5_need_0 1 rfl rfl)
theorem dX5_need_4 : decode cX5_need 4 = .ok (.iload_n 1, 1) := dk_27 (dk_at dksX5_need_0 4 rfl rfl)
theorem dX5_need_5 : decode cX5_need 5 = .ok (.if_icmp .eq 8, 3) := dk_159 0 8 (dk_at dksX5_need_0 5 rfl rfl)
theorem dX5_need_8 : decode cX5_need 8 = .ok (.aload_n 0, 1) := dk_42 (dk_at dksX5_need_0 8 rfl rfl)
theorem dX5_need_9 : decode cX5_need 9 = .ok (.invokevirtual 52, 3) := dk_182 0 52 (dk_at dksX5_need_0 9 rfl rfl)
theorem dX5_need_12 : decode cX5_need 12 = .ok (.athrow, 1) := dk_191 (dk_at dksX5_need_0 12 rfl rfl)
theorem dX5_need_13 : decode cX5_need 13 = .ok (.aload_n 0, 1) := dk_42 (dk_at dksX5_need_0 13 rfl rfl)
theorem dX5_need_14 : decode cX5_need 14 = .ok (.dup, 1) := dk_89 (dk_at dksX5_need_0 14 rfl rfl)
theorem dX5_need_15 : decode cX5_need 15 = .ok (.getfield 26, 3) := dk_180 0 26 (dk_at dksX5_need_0 15 rfl rfl)
theorem dX5_need_18 : decode cX5_need 18 = .ok (.iconst 1, 1) := dk_4 (dk_at dksX5_need_0 18 rfl rfl)
theorem dX5_need_19 : decode cX5_need 19 = .ok (.iadd, 1) := dk_96 (dk_at dksX5_need_0 19 rfl rfl)
theorem dX5_need_20 : decode cX5_need 20 = .ok (.putfield 26, 3) := dk_181 0 26 (dk_at dksX5_need_0 20 rfl rfl)
theorem dX5_need_23 : decode cX5_need 23 = .ok (.return_, 1) := dk_177 (dk_at dksX5_need_0 23 rfl rfl)
theorem q139 : (Jvm.Cond.initialized "RightTurns$Reader") ∈ lw_all := lw_g (lw_at lw_m1 24 rfl) rfl
theorem q508 : (Jvm.Cond.fieldLinkNest "RightTurns$Reader" (65 : Nat) "RightTurns$Town" "corners" "Ljava/util/ArrayList;" "RightTurns") ∈ lw_tbl := lw_at lw_m2 153 rfl
theorem q511 : (Jvm.Cond.fieldLinkNest "RightTurns$Reader" (76 : Nat) "RightTurns$Town" "streets" "Ljava/util/ArrayList;" "RightTurns") ∈ lw_tbl := lw_at lw_m2 156 rfl
theorem q513 : (Jvm.Cond.fieldLinkNest "RightTurns$Reader" (119 : Nat) "RightTurns$Town" "riders" "Ljava/util/ArrayList;" "RightTurns") ∈ lw_tbl := lw_at lw_m2 158 rfl
theorem q517 : (Jvm.Cond.fieldLinkNest "RightTurns$Reader" (168 : Nat) "RightTurns$Town" "signs" "[I" "RightTurns") ∈ lw_tbl := lw_at lw_m2 162 rfl
theorem q520 : (Jvm.Cond.fieldLinkNest "RightTurns$Reader" (172 : Nat) "RightTurns$Town" "allowed" "[I" "RightTurns") ∈ lw_tbl := lw_at lw_m2 165 rfl
theorem q525 : (Jvm.Cond.fieldLinkNest "RightTurns$Reader" (122 : Nat) "RightTurns$Town" "boxes" "I" "RightTurns") ∈ lw_tbl := lw_at lw_m2 170 rfl
theorem q529 : (Jvm.Cond.fieldLinkNest "RightTurns$Reader" (90 : Nat) "RightTurns$Town" "clauses" "I" "RightTurns") ∈ lw_tbl := lw_at lw_m2 174 rfl
theorem q765 : (Jvm.Cond.instantiable "RightTurns$Reader" (5 : Nat)) ∈ lw_all := lw_g (lw_at lw_m3 170 rfl) rfl
theorem q767 : (Jvm.Cond.instanceMethod ({ cls := "RightTurns$Reader", name := "<init>", desc := "([BI)V" } : Jvm.MethodName)) ∈ lw_all := lw_g (lw_at lw_m3 172 rfl) rfl
theorem q768 : (Jvm.Cond.code ({ cls := "RightTurns$Reader", name := "<init>", desc := "([BI)V" } : Jvm.MethodName) prog_3_method_1_code (3 : Nat) (Option.none : Option Jvm.ClassFile.FieldType)) ∈ lw_all := lw_g (lw_at lw_m3 173 rfl) rfl
theorem q769 : (Jvm.Cond.methodLink "RightTurns$Reader" (3 : Nat) ({ cls := "java/lang/Object", name := "<init>", desc := "()V" } : Jvm.MethodName)) ∈ lw_all := lw_g (lw_at lw_m3 174 rfl) rfl
theorem q770 : (Jvm.Cond.classLink "RightTurns$Reader" (9 : Nat) "RightTurns$Town") ∈ lw_all := lw_g (lw_at lw_m3 175 rfl) rfl
theorem q771 : (Jvm.Cond.methodLinkNest "RightTurns$Reader" (11 : Nat) ({ cls := "RightTurns$Town", name := "<init>", desc := "()V" } : Jvm.MethodName) "RightTurns") ∈ lw_tbl := lw_at lw_m3 176 rfl
theorem q772 : (Jvm.Cond.fieldLink "RightTurns$Reader" (18 : Nat) "RightTurns$Reader" "text" "[B") ∈ lw_all := lw_g (lw_at lw_m3 177 rfl) rfl
theorem q773 : (Jvm.Cond.fieldLink "RightTurns$Reader" (22 : Nat) "RightTurns$Reader" "size" "I") ∈ lw_all := lw_g (lw_at lw_m3 178 rfl) rfl
theorem q774 : (Jvm.Cond.fieldLink "RightTurns$Reader" (26 : Nat) "RightTurns$Reader" "next" "I") ∈ lw_all := lw_g (lw_at lw_m3 179 rfl) rfl
theorem q775 : (Jvm.Cond.fieldLink "RightTurns$Reader" (56 : Nat) "RightTurns$Reader" "from" "I") ∈ lw_all := lw_g (lw_at lw_m3 180 rfl) rfl
theorem q776 : (Jvm.Cond.fieldLink "RightTurns$Reader" (12 : Nat) "RightTurns$Reader" "t" "LRightTurns$Town;") ∈ lw_all := lw_g (lw_at lw_m3 181 rfl) rfl
theorem q777 : (Jvm.Cond.laysFinal "RightTurns$Reader" "RightTurns$Reader" "text" "[B") ∈ lw_all := lw_g (lw_at lw_m3 182 rfl) rfl
theorem q778 : (Jvm.Cond.soleField "RightTurns$Reader" "text") ∈ lw_all := lw_g (lw_at lw_m3 183 rfl) rfl
theorem q779 : (Jvm.Cond.laysFinal "RightTurns$Reader" "RightTurns$Reader" "size" "I") ∈ lw_all := lw_g (lw_at lw_m3 184 rfl) rfl
theorem q780 : (Jvm.Cond.soleField "RightTurns$Reader" "size") ∈ lw_all := lw_g (lw_at lw_m3 185 rfl) rfl
theorem q781 : (Jvm.Cond.lays "RightTurns$Reader" "RightTurns$Reader" "next" "I") ∈ lw_all := lw_g (lw_at lw_m3 186 rfl) rfl
theorem q782 : (Jvm.Cond.soleField "RightTurns$Reader" "next") ∈ lw_all := lw_g (lw_at lw_m3 187 rfl) rfl
theorem q783 : (Jvm.Cond.lays "RightTurns$Reader" "RightTurns$Reader" "from" "I") ∈ lw_all := lw_g (lw_at lw_m3 188 rfl) rfl
theorem q784 : (Jvm.Cond.soleField "RightTurns$Reader" "from") ∈ lw_all := lw_g (lw_at lw_m3 189 rfl) rfl
theorem q785 : (Jvm.Cond.laysFinal "RightTurns$Reader" "RightTurns$Reader" "t" "LRightTurns$Town;") ∈ lw_all := lw_g (lw_at lw_m3 190 rfl) rfl
theorem q786 : (Jvm.Cond.soleField "RightTurns$Reader" "t") ∈ lw_all := lw_g (lw_at lw_m3 191 rfl) rfl
theorem q787 : (Jvm.Cond.superclass "RightTurns$Reader" "java/lang/Object") ∈ lw_all := lw_g (lw_at lw_m3 192 rfl) rfl
theorem q789 : (Jvm.Cond.instanceMethod ({ cls := "RightTurns$Reader", name := "reads", desc := "()LRightTurns$Town;" } : Jvm.MethodName)) ∈ lw_all := lw_g (lw_at lw_m3 194 rfl) rfl
theorem q790 : (Jvm.Cond.selects "RightTurns$Reader" ({ cls := "RightTurns$Reader", name := "reads", desc := "()LRightTurns$Town;" } : Jvm.MethodName) ({ cls := "RightTurns$Reader", name := "reads", desc := "()LRightTurns$Town;" } : Jvm.MethodName)) ∈ lw_all := lw_g (lw_at lw_m3 195 rfl) rfl
theorem q791 : (Jvm.Cond.code ({ cls := "RightTurns$Reader", name := "reads", desc := "()LRightTurns$Town;" } : Jvm.MethodName) prog_3_method_10_code (1 : Nat) (Option.some (Jvm.ClassFile.FieldType.object "RightTurns$Town"))) ∈ lw_all := lw_g (lw_at lw_m3 196 rfl) rfl
theorem q792 : (Jvm.Cond.methodLink "RightTurns$Reader" (29 : Nat) ({ cls := "RightTurns$Reader", name := "sign", desc := "()I" } : Jvm.MethodName)) ∈ lw_all := lw_g (lw_at lw_m3 197 rfl) rfl
theorem q793 : (Jvm.Cond.privateMethod ({ cls := "RightTurns$Reader", name := "sign", desc := "()I" } : Jvm.MethodName)) ∈ lw_tbl := lw_at lw_m3 198 rfl
theorem q794 : (Jvm.Cond.instanceMethod ({ cls := "RightTurns$Reader", name := "sign", desc := "()I" } : Jvm.MethodName)) ∈ lw_all := lw_g (lw_at lw_m3 199 rfl) rfl
theorem q795 : (Jvm.Cond.code ({ cls := "RightTurns$Reader", name := "sign", desc := "()I" } : Jvm.MethodName) prog_3_method_2_code (1 : Nat) (Option.some Jvm.ClassFile.FieldType.int)) ∈ lw_all := lw_g (lw_at lw_m3 200 rfl) rfl
theorem q796 : (Jvm.Cond.methodLink "RightTurns$Reader" (79 : Nat) ({ cls := "RightTurns$Reader", name := "word", desc := "()Ljava/lang/String;" } : Jvm.MethodName)) ∈ lw_all := lw_g (lw_at lw_m3 201 rfl) rfl
theorem q797 : (Jvm.Cond.privateMethod ({ cls := "RightTurns$Reader", name := "word", desc := "()Ljava/lang/String;" } : Jvm.MethodName)) ∈ lw_tbl := lw_at lw_m3 202 rfl
theorem q798 : (Jvm.Cond.instanceMethod ({ cls := "RightTurns$Reader", name := "word", desc := "()Ljava/lang/String;" } : Jvm.MethodName)) ∈ lw_all := lw_g (lw_at lw_m3 203 rfl) rfl
theorem q799 : (Jvm.Cond.code ({ cls := "RightTurns$Reader", name := "word", desc := "()Ljava/lang/String;" } : Jvm.MethodName) prog_3_method_3_code (3 : Nat) (Option.some (Jvm.ClassFile.FieldType.object "java/lang/String"))) ∈ lw_all := lw_g (lw_at lw_m3 204 rfl) rfl
theorem q800 : (Jvm.Cond.classLink "RightTurns$Reader" (33 : Nat) "java/lang/StringBuilder") ∈ lw_all := lw_g (lw_at lw_m3 205 rfl) rfl
theorem q801 : (Jvm.Cond.methodLink "RightTurns$Reader" (35 : Nat) ({ cls := "java/lang/StringBuilder", name := "<init>", desc := "()V" } : Jvm.MethodName)) ∈ lw_all := lw_g (lw_at lw_m3 206 rfl) rfl
theorem q802 : (Jvm.Cond.methodLink "RightTurns$Reader" (36 : Nat) ({ cls := "java/lang/StringBuilder", name := "length", desc := "()I" } : Jvm.MethodName)) ∈ lw_all := lw_g (lw_at lw_m3 207 rfl) rfl
theorem q803 : (Jvm.Cond.methodLink "RightTurns$Reader" (39 : Nat) ({ cls := "java/lang/StringBuilder", name := "append", desc := "(C)Ljava/lang/StringBuilder;" } : Jvm.MethodName)) ∈ lw_all := lw_g (lw_at lw_m3 208 rfl) rfl
theorem q825 : (Jvm.Cond.methodLink "RightTurns$Reader" (43 : Nat) ({ cls := "java/lang/StringBuilder", name := "toString", desc := "()Ljava/lang/String;" } : Jvm.MethodName)) ∈ lw_all := lw_g (lw_at lw_m3 230 rfl) rfl
theorem q826 : (Jvm.Cond.methodLink "RightTurns$Reader" (82 : Nat) ({ cls := "RightTurns$Reader", name := "clause", desc := "(Ljava/lang/String;)V" } : Jvm.MethodName)) ∈ lw_all := lw_g (lw_at lw_m3 231 rfl) rfl
theorem q827 : (Jvm.Cond.privateMethod ({ cls := "RightTurns$Reader", name := "clause", desc := "(Ljava/lang/String;)V" } : Jvm.MethodName)) ∈ lw_tbl := lw_at lw_m3 232 rfl
theorem q828 : (Jvm.Cond.instanceMethod ({ cls := "RightTurns$Reader", name := "clause", desc := "(Ljava/lang/String;)V" } : Jvm.MethodName)) ∈ lw_all := lw_g (lw_at lw_m3 233 rfl) rfl
theorem q829 : (Jvm.Cond.code ({ cls := "RightTurns$Reader", name := "clause", desc := "(Ljava/lang/String;)V" } : Jvm.MethodName) prog_3_method_11_code (8 : Nat) (Option.none : Option Jvm.ClassFile.FieldType)) ∈ lw_all := lw_g (lw_at lw_m3 234 rfl) rfl
theorem q830 : (Jvm.Cond.methodLink "RightTurns$Reader" (96 : Nat) ({ cls := "java/lang/String", name := "hashCode", desc := "()I" } : Jvm.MethodName)) ∈ lw_all := lw_g (lw_at lw_m3 235 rfl) rfl
theorem q891 : (Jvm.Cond.stringRef "RightTurns$Reader" (101 : Nat) "corner") ∈ lw_tbl := lw_at lw_m4 56 rfl
theorem q892 : (Jvm.Cond.methodLink "RightTurns$Reader" (103 : Nat) ({ cls := "java/lang/String", name := "equals", desc := "(Ljava/lang/Object;)Z" } : Jvm.MethodName)) ∈ lw_all := lw_g (lw_at lw_m4 57 rfl) rfl
theorem q900 : (Jvm.Cond.stringRef "RightTurns$Reader" (107 : Nat) "street") ∈ lw_tbl := lw_at lw_m4 65 rfl
theorem q901 : (Jvm.Cond.stringRef "RightTurns$Reader" (109 : Nat) "rider") ∈ lw_tbl := lw_at lw_m4 66 rfl
theorem q902 : (Jvm.Cond.stringRef "RightTurns$Reader" (111 : Nat) "box") ∈ lw_tbl := lw_at lw_m4 67 rfl
theorem q903 : (Jvm.Cond.stringRef "RightTurns$Reader" (113 : Nat) "one") ∈ lw_tbl := lw_at lw_m4 68 rfl
theorem q904 : (Jvm.Cond.stringRef "RightTurns$Reader" (115 : Nat) "no") ∈ lw_tbl := lw_at lw_m4 69 rfl
theorem q905 : (Jvm.Cond.stringRef "RightTurns$Reader" (117 : Nat) "may") ∈ lw_tbl := lw_at lw_m4 70 rfl
theorem q906 : (Jvm.Cond.methodLink "RightTurns$Reader" (69 : Nat) ({ cls := "java/util/ArrayList", name := "size", desc := "()I" } : Jvm.MethodName)) ∈ lw_all := lw_g (lw_at lw_m4 71 rfl) rfl
theorem q910 : (Jvm.Cond.methodLink "RightTurns$Reader" (125 : Nat) ({ cls := "java/lang/Integer", name := "bitCount", desc := "(I)I" } : Jvm.MethodName)) ∈ lw_all := lw_g (lw_at lw_m4 75 rfl) rfl
theorem q916 : (Jvm.Cond.methodLink "RightTurns$Reader" (52 : Nat) ({ cls := "RightTurns$Reader", name := "wrong", desc := "()LRightTurns$Wrong;" } : Jvm.MethodName)) ∈ lw_all := lw_g (lw_at lw_m4 81 rfl) rfl
theorem q917 : (Jvm.Cond.privateMethod ({ cls := "RightTurns$Reader", name := "wrong", desc := "()LRightTurns$Wrong;" } : Jvm.MethodName)) ∈ lw_tbl := lw_at lw_m4 82 rfl
theorem q918 : (Jvm.Cond.instanceMethod ({ cls := "RightTurns$Reader", name := "wrong", desc := "()LRightTurns$Wrong;" } : Jvm.MethodName)) ∈ lw_all := lw_g (lw_at lw_m4 83 rfl) rfl
theorem q919 : (Jvm.Cond.code ({ cls := "RightTurns$Reader", name := "wrong", desc := "()LRightTurns$Wrong;" } : Jvm.MethodName) prog_3_method_4_code (1 : Nat) (Option.some (Jvm.ClassFile.FieldType.object "RightTurns$Wrong"))) ∈ lw_all := lw_g (lw_at lw_m4 84 rfl) rfl
theorem q920 : (Jvm.Cond.classLink "RightTurns$Reader" (47 : Nat) "RightTurns$Wrong") ∈ lw_all := lw_g (lw_at lw_m4 85 rfl) rfl
theorem q929 : (Jvm.Cond.methodLink "RightTurns$Reader" (49 : Nat) ({ cls := "RightTurns$Wrong", name := "<init>", desc := "(II)V" } : Jvm.MethodName)) ∈ lw_all := lw_g (lw_at lw_m4 94 rfl) rfl
theorem q948 : (Jvm.Cond.methodLink "RightTurns$Reader" (131 : Nat) ({ cls := "java/lang/String", name := "length", desc := "()I" } : Jvm.MethodName)) ∈ lw_all := lw_g (lw_at lw_m4 113 rfl) rfl
theorem q949 : (Jvm.Cond.methodLink "RightTurns$Reader" (73 : Nat) ({ cls := "RightTurns$Reader", name := "number", desc := "(II)I" } : Jvm.MethodName)) ∈ lw_all := lw_g (lw_at lw_m4 114 rfl) rfl
theorem q950 : (Jvm.Cond.privateMethod ({ cls := "RightTurns$Reader", name := "number", desc := "(II)I" } : Jvm.MethodName)) ∈ lw_tbl := lw_at lw_m4 115 rfl
theorem q951 : (Jvm.Cond.instanceMethod ({ cls := "RightTurns$Reader", name := "number", desc := "(II)I" } : Jvm.MethodName)) ∈ lw_all := lw_g (lw_at lw_m4 116 rfl) rfl
theorem q952 : (Jvm.Cond.code ({ cls := "RightTurns$Reader", name := "number", desc := "(II)I" } : Jvm.MethodName) prog_3_method_6_code (5 : Nat) (Option.some Jvm.ClassFile.FieldType.int)) ∈ lw_all := lw_g (lw_at lw_m4 117 rfl) rfl
theorem q953 : (Jvm.Cond.methodLink "RightTurns$Reader" (59 : Nat) ({ cls := "java/lang/Math", name := "min", desc := "(II)I" } : Jvm.MethodName)) ∈ lw_all := lw_g (lw_at lw_m4 118 rfl) rfl
theorem q954 : (Jvm.Cond.methodLink "RightTurns$Reader" (132 : Nat) ({ cls := "java/util/ArrayList", name := "get", desc := "(I)Ljava/lang/Object;" } : Jvm.MethodName)) ∈ lw_all := lw_g (lw_at lw_m4 119 rfl) rfl
theorem q966 : (Jvm.Cond.classLink "RightTurns$Reader" (136 : Nat) "RightTurns$Corner") ∈ lw_all := lw_g (lw_at lw_m4 131 rfl) rfl
theorem q967 : (Jvm.Cond.methodLink "RightTurns$Reader" (144 : Nat) ({ cls := "RightTurns$Reader", name := "good", desc := "(Z)V" } : Jvm.MethodName)) ∈ lw_all := lw_g (lw_at lw_m4 132 rfl) rfl
theorem q968 : (Jvm.Cond.privateMethod ({ cls := "RightTurns$Reader", name := "good", desc := "(Z)V" } : Jvm.MethodName)) ∈ lw_tbl := lw_at lw_m4 133 rfl
theorem q969 : (Jvm.Cond.instanceMethod ({ cls := "RightTurns$Reader", name := "good", desc := "(Z)V" } : Jvm.MethodName)) ∈ lw_all := lw_g (lw_at lw_m4 134 rfl) rfl
theorem q970 : (Jvm.Cond.code ({ cls := "RightTurns$Reader", name := "good", desc := "(Z)V" } : Jvm.MethodName) prog_3_method_7_code (2 : Nat) (Option.none : Option Jvm.ClassFile.FieldType)) ∈ lw_all := lw_g (lw_at lw_m4 135 rfl) rfl
theorem q972 : (Jvm.Cond.methodLink "RightTurns$Reader" (148 : Nat) ({ cls := "RightTurns$Corner", name := "<init>", desc := "(II)V" } : Jvm.MethodName)) ∈ lw_all := lw_g (lw_at lw_m4 137 rfl) rfl
theorem q978 : (Jvm.Cond.fieldLinkNest "RightTurns$Reader" (138 : Nat) "RightTurns$Corner" "x" "I" "RightTurns") ∈ lw_tbl := lw_at lw_m4 143 rfl
theorem q981 : (Jvm.Cond.fieldLinkNest "RightTurns$Reader" (141 : Nat) "RightTurns$Corner" "y" "I" "RightTurns") ∈ lw_tbl := lw_at lw_m4 146 rfl
theorem q987 : (Jvm.Cond.methodLink "RightTurns$Reader" (149 : Nat) ({ cls := "java/util/ArrayList", name := "add", desc := "(Ljava/lang/Object;)Z" } : Jvm.MethodName)) ∈ lw_all := lw_g (lw_at lw_m4 152 rfl) rfl
theorem q1014 : (Jvm.Cond.selects "RightTurns$Reader" ({ cls := "java/lang/Object", name := "getClass", desc := "()Ljava/lang/Class;" } : Jvm.MethodName) ({ cls := "java/lang/Object", name := "getClass", desc := "()Ljava/lang/Class;" } : Jvm.MethodName)) ∈ lw_all := lw_g (lw_at lw_m4 179 rfl) rfl
theorem q1036 : (Jvm.Cond.methodLink "RightTurns$Reader" (152 : Nat) ({ cls := "RightTurns$Reader", name := "corner", desc := "()I" } : Jvm.MethodName)) ∈ lw_all := lw_g (lw_at lw_m4 201 rfl) rfl
theorem q1037 : (Jvm.Cond.privateMethod ({ cls := "RightTurns$Reader", name := "corner", desc := "()I" } : Jvm.MethodName)) ∈ lw_tbl := lw_at lw_m4 202 rfl
theorem q1038 : (Jvm.Cond.instanceMethod ({ cls := "RightTurns$Reader", name := "corner", desc := "()I" } : Jvm.MethodName)) ∈ lw_all := lw_g (lw_at lw_m4 203 rfl) rfl
theorem q1039 : (Jvm.Cond.code ({ cls := "RightTurns$Reader", name := "corner", desc := "()I" } : Jvm.MethodName) prog_3_method_8_code (1 : Nat) (Option.some Jvm.ClassFile.FieldType.int)) ∈ lw_all := lw_g (lw_at lw_m4 204 rfl) rfl
theorem q1040 : (Jvm.Cond.classLink "RightTurns$Reader" (154 : Nat) "RightTurns$Street") ∈ lw_all := lw_g (lw_at lw_m4 205 rfl) rfl
theorem q1042 : (Jvm.Cond.methodLink "RightTurns$Reader" (156 : Nat) ({ cls := "RightTurns$Street", name := "<init>", desc := "(III)V" } : Jvm.MethodName)) ∈ lw_all := lw_g (lw_at lw_m4 207 rfl) rfl
theorem q1056 : (Jvm.Cond.fieldLinkNest "RightTurns$Reader" (161 : Nat) "RightTurns$Street" "one" "Z" "RightTurns") ∈ lw_tbl := lw_at lw_m4 221 rfl
theorem q1067 : (Jvm.Cond.methodLink "RightTurns$Reader" (159 : Nat) ({ cls := "RightTurns$Reader", name := "street", desc := "()I" } : Jvm.MethodName)) ∈ lw_all := lw_g (lw_at lw_m4 232 rfl) rfl
theorem q1068 : (Jvm.Cond.privateMethod ({ cls := "RightTurns$Reader", name := "street", desc := "()I" } : Jvm.MethodName)) ∈ lw_tbl := lw_at lw_m4 233 rfl
theorem q1069 : (Jvm.Cond.instanceMethod ({ cls := "RightTurns$Reader", name := "street", desc := "()I" } : Jvm.MethodName)) ∈ lw_all := lw_g (lw_at lw_m4 234 rfl) rfl
theorem q1070 : (Jvm.Cond.code ({ cls := "RightTurns$Reader", name := "street", desc := "()I" } : Jvm.MethodName) prog_3_method_9_code (1 : Nat) (Option.some Jvm.ClassFile.FieldType.int)) ∈ lw_all := lw_g (lw_at lw_m4 235 rfl) rfl
theorem q1071 : (Jvm.Cond.methodLink "RightTurns$Reader" (164 : Nat) ({ cls := "RightTurns$Street", name := "meets", desc := "(LRightTurns$Street;)Z" } : Jvm.MethodName)) ∈ lw_all := lw_g (lw_at lw_m4 236 rfl) rfl
theorem q1075 : (Jvm.Cond.classLink "RightTurns$Reader" (175 : Nat) "RightTurns$Rider") ∈ lw_all := lw_g (lw_at lw_m5 0 rfl) rfl
theorem q1077 : (Jvm.Cond.methodLink "RightTurns$Reader" (177 : Nat) ({ cls := "RightTurns$Rider", name := "<init>", desc := "(III)V" } : Jvm.MethodName)) ∈ lw_all := lw_g (lw_at lw_m5 2 rfl) rfl
theorem q1094 : (Jvm.Cond.methodLink "RightTurns$Reader" (86 : Nat) ({ cls := "RightTurns$Reader", name := "need", desc := "(I)V" } : Jvm.MethodName)) ∈ lw_all := lw_g (lw_at lw_m5 19 rfl) rfl
theorem q1095 : (Jvm.Cond.privateMethod ({ cls := "RightTurns$Reader", name := "need", desc := "(I)V" } : Jvm.MethodName)) ∈ lw_tbl := lw_at lw_m5 20 rfl
theorem q1096 : (Jvm.Cond.instanceMethod ({ cls := "RightTurns$Reader", name := "need", desc := "(I)V" } : Jvm.MethodName)) ∈ lw_all := lw_g (lw_at lw_m5 21 rfl) rfl
theorem q1097 : (Jvm.Cond.code ({ cls := "RightTurns$Reader", name := "need", desc := "(I)V" } : Jvm.MethodName) prog_3_method_5_code (2 : Nat) (Option.none : Option Jvm.ClassFile.FieldType)) ∈ lw_all := lw_g (lw_at lw_m5 22 rfl) rfl
theorem q1098 : (Jvm.Cond.methodLink "RightTurns$Reader" (93 : Nat) ({ cls := "RightTurns$Town", name := "looks", desc := "()V" } : Jvm.MethodName)) ∈ lw_all := lw_g (lw_at lw_m5 23 rfl) rfl
theorem q2223 : (Jvm.Cond.castable "RightTurns$Reader" "java/lang/Object") ∈ lw_tbl := lw_at lw_m9 188 rfl
theorem in_X5 : ∀ w ∈ wsX50, w ∈ lw_all := lw_in wsX50 [777, 779, 781, 783, 785] (by decide +kernel) (by decide +kernel)

/-! RightTurns$Wrong -/
set_option maxRecDepth 100000
def RX6 : String := "RightTurns$Wrong"
def TX6 : u_T := fun k => match k with
  | 0 => ("java/lang/Throwable", "cause", "Ljava/lang/Throwable;", false)
  | 1 => ("java/lang/Throwable", "stackTrace", "[Ljava/lang/StackTraceElement;", false)
  | 2 => ("java/lang/Throwable", "suppressedExceptions", "Ljava/util/List;", false)
  | 3 => ("java/lang/Throwable", "detailMessage", "Ljava/lang/String;", false)
  | 4 => ("java/lang/Throwable", "backtrace", "Ljava/lang/Object;", false)
  | 5 => ("java/lang/Throwable", "depth", "I", false)
  | 6 => ("RightTurns$Wrong", "kind", "I", true)
  | _ => ("RightTurns$Wrong", "place", "I", true)
def tyX6 : Nat → FieldType := fun k => match k with
  | 0 => .object "java/lang/Throwable"
  | 1 => .array (.object "java/lang/StackTraceElement")
  | 2 => .object "java/util/List"
  | 3 => .object "java/lang/String"
  | 4 => .object "java/lang/Object"
  | 5 => .int
  | 6 => .int
  | _ => .int
abbrev wsX60 : List Cond := u_ws RX6 TX6 8
theorem nmX6 : ∀ a, a < 8 → ∀ b, b < 8 → a ≠ b → (TX6 a).2.1 ≠ (TX6 b).2.1 := by decide +kernel
theorem tyX6_ok : ∀ k, k < 8 → parseFieldDescriptor (TX6 k).2.2.1 = some (tyX6 k) := by decide +kernel
abbrev cX6_init : ByteArray := prog_8_method_1_code
def yX6_init : MethodName := ⟨RX6, "<init>", "(II)V"⟩
def dkwX6_init_0 : List UInt8 := [42, 1, 1, 3, 3, 183, 0, 1, 42, 27, 181, 0, 7, 42, 28, 181, 0, 13, 177]
abbrev dktX6_init_0 : List UInt8 := dkwX6_init_0 ++ []
theorem dksX6_init_0 : cX6_init.data.toList.drop 0 = dktX6_init_0 := by decide +kernel
theorem dX6_init_0 : decode cX6_init 0 = .ok (.aload_n 0, 1) := dk_42 (dk_at dksX6_init_0 0 rfl rfl)
theorem dX6_init_1 : decode cX6_init 1 = .ok (.aconst_null, 1) := dk_1 (dk_at dksX6_init_0 1 rfl rfl)
theorem dX6_init_2 : decode cX6_init 2 = .ok (.aconst_null, 1) := dk_1 (dk_at dksX6_init_0 2 rfl rfl)
theorem dX6_init_3 : decode cX6_init 3 = .ok (.iconst 0, 1) := dk_3 (dk_at dksX6_init_0 3 rfl rfl)
theorem dX6_init_4 : decode cX6_init 4 = .ok (.iconst 0, 1) := dk_3 (dk_at dksX6_init_0 4 rfl rfl)
theorem dX6_init_5 : decode cX6_init 5 = .ok (.invokespecial 1, 3) := dk_183 0 1 (dk_at dksX6_init_0 5 rfl rfl)
theorem dX6_init_8 : decode cX6_init 8 = .ok (.aload_n 0, 1) := dk_42 (dk_at dksX6_init_0 8 rfl rfl)
theorem dX6_init_9 : decode cX6_init 9 = .ok (.iload_n 1, 1) := dk_27 (dk_at dksX6_init_0 9 rfl rfl)
theorem dX6_init_10 : decode cX6_init 10 = .ok (.putfield 7, 3) := dk_181 0 7 (dk_at dksX6_init_0 10 rfl rfl)
theorem dX6_init_13 : decode cX6_init 13 = .ok (.aload_n 0, 1) := dk_42 (dk_at dksX6_init_0 13 rfl rfl)
theorem dX6_init_14 : decode cX6_init 14 = .ok (.iload_n 2, 1) := dk_28 (dk_at dksX6_init_0 14 rfl rfl)
theorem dX6_init_15 : decode cX6_init 15 = .ok (.putfield 13, 3) := dk_181 0 13 (dk_at dksX6_init_0 15 rfl rfl)
theorem dX6_init_18 : decode cX6_init 18 = .ok (.return_, 1) := dk_177 (dk_at dksX6_init_0 18 rfl rfl)
theorem q140 : (Jvm.Cond.initialized "RightTurns$Wrong") ∈ lw_all := lw_g (lw_at lw_m1 25 rfl) rfl
theorem q211 : (Jvm.Cond.selects "RightTurns$Wrong" ({ cls := "java/lang/Throwable", name := "fillInStackTrace", desc := "()Ljava/lang/Throwable;" } : Jvm.MethodName) ({ cls := "java/lang/Throwable", name := "fillInStackTrace", desc := "()Ljava/lang/Throwable;" } : Jvm.MethodName)) ∈ lw_all := lw_g (lw_at lw_m1 96 rfl) rfl
theorem q921 : (Jvm.Cond.instantiable "RightTurns$Wrong" (8 : Nat)) ∈ lw_all := lw_g (lw_at lw_m4 86 rfl) rfl
theorem q922 : (Jvm.Cond.castable "RightTurns$Wrong" "RightTurns$Wrong") ∈ lw_tbl := lw_at lw_m4 87 rfl
theorem q923 : (Jvm.Cond.selects "RightTurns$Wrong" ({ cls := "java/lang/Throwable", name := "fillInStackTrace", desc := "(I)Ljava/lang/Throwable;" } : Jvm.MethodName) ({ cls := "java/lang/Throwable", name := "fillInStackTrace", desc := "(I)Ljava/lang/Throwable;" } : Jvm.MethodName)) ∈ lw_all := lw_g (lw_at lw_m4 88 rfl) rfl
theorem q924 : (Jvm.Cond.lays "RightTurns$Wrong" "java/lang/Throwable" "cause" "Ljava/lang/Throwable;") ∈ lw_all := lw_g (lw_at lw_m4 89 rfl) rfl
theorem q925 : (Jvm.Cond.lays "RightTurns$Wrong" "java/lang/Throwable" "stackTrace" "[Ljava/lang/StackTraceElement;") ∈ lw_all := lw_g (lw_at lw_m4 90 rfl) rfl
theorem q926 : (Jvm.Cond.lays "RightTurns$Wrong" "java/lang/Throwable" "suppressedExceptions" "Ljava/util/List;") ∈ lw_all := lw_g (lw_at lw_m4 91 rfl) rfl
theorem q927 : (Jvm.Cond.lays "RightTurns$Wrong" "java/lang/Throwable" "detailMessage" "Ljava/lang/String;") ∈ lw_all := lw_g (lw_at lw_m4 92 rfl) rfl
theorem q928 : (Jvm.Cond.lays "RightTurns$Wrong" "java/lang/Throwable" "backtrace" "Ljava/lang/Object;") ∈ lw_all := lw_g (lw_at lw_m4 93 rfl) rfl
theorem q930 : (Jvm.Cond.instanceMethod ({ cls := "RightTurns$Wrong", name := "<init>", desc := "(II)V" } : Jvm.MethodName)) ∈ lw_all := lw_g (lw_at lw_m4 95 rfl) rfl
theorem q931 : (Jvm.Cond.code ({ cls := "RightTurns$Wrong", name := "<init>", desc := "(II)V" } : Jvm.MethodName) prog_8_method_1_code (3 : Nat) (Option.none : Option Jvm.ClassFile.FieldType)) ∈ lw_all := lw_g (lw_at lw_m4 96 rfl) rfl
theorem q932 : (Jvm.Cond.methodLink "RightTurns$Wrong" (1 : Nat) ({ cls := "java/lang/Exception", name := "<init>", desc := "(Ljava/lang/String;Ljava/lang/Throwable;ZZ)V" } : Jvm.MethodName)) ∈ lw_all := lw_g (lw_at lw_m4 97 rfl) rfl
theorem q938 : (Jvm.Cond.fieldLink "RightTurns$Wrong" (7 : Nat) "RightTurns$Wrong" "kind" "I") ∈ lw_all := lw_g (lw_at lw_m4 103 rfl) rfl
theorem q940 : (Jvm.Cond.fieldLink "RightTurns$Wrong" (13 : Nat) "RightTurns$Wrong" "place" "I") ∈ lw_all := lw_g (lw_at lw_m4 105 rfl) rfl
theorem q942 : (Jvm.Cond.laysFinal "RightTurns$Wrong" "RightTurns$Wrong" "kind" "I") ∈ lw_all := lw_g (lw_at lw_m4 107 rfl) rfl
theorem q943 : (Jvm.Cond.soleField "RightTurns$Wrong" "kind") ∈ lw_all := lw_g (lw_at lw_m4 108 rfl) rfl
theorem q944 : (Jvm.Cond.laysFinal "RightTurns$Wrong" "RightTurns$Wrong" "place" "I") ∈ lw_all := lw_g (lw_at lw_m4 109 rfl) rfl
theorem q945 : (Jvm.Cond.soleField "RightTurns$Wrong" "place") ∈ lw_all := lw_g (lw_at lw_m4 110 rfl) rfl
theorem q946 : (Jvm.Cond.lays "RightTurns$Wrong" "java/lang/Throwable" "depth" "I") ∈ lw_all := lw_g (lw_at lw_m4 111 rfl) rfl
theorem q947 : (Jvm.Cond.superclass "RightTurns$Wrong" "java/lang/Exception") ∈ lw_all := lw_g (lw_at lw_m4 112 rfl) rfl
theorem q1019 : (Jvm.Cond.selects "RightTurns$Wrong" ({ cls := "java/lang/Object", name := "getClass", desc := "()Ljava/lang/Class;" } : Jvm.MethodName) ({ cls := "java/lang/Object", name := "getClass", desc := "()Ljava/lang/Class;" } : Jvm.MethodName)) ∈ lw_all := lw_g (lw_at lw_m4 184 rfl) rfl
theorem q2225 : (Jvm.Cond.castable "RightTurns$Wrong" "java/lang/Object") ∈ lw_tbl := lw_at lw_m9 190 rfl
theorem in_X6 : ∀ w ∈ wsX60, w ∈ lw_all := lw_in wsX60 [924, 925, 926, 927, 928, 946, 942, 944] (by decide +kernel) (by decide +kernel)

/-! RightTurns$Corner -/
set_option maxRecDepth 100000
def RX7 : String := "RightTurns$Corner"
def TX7 : u_T := fun k => match k with
  | 0 => ("RightTurns$Corner", "x", "I", true)
  | _ => ("RightTurns$Corner", "y", "I", true)
def tyX7 : Nat → FieldType := fun k => match k with
  | 0 => .int
  | _ => .int
abbrev wsX70 : List Cond := u_ws RX7 TX7 2
theorem nmX7 : ∀ a, a < 2 → ∀ b, b < 2 → a ≠ b → (TX7 a).2.1 ≠ (TX7 b).2.1 := by decide +kernel
theorem tyX7_ok : ∀ k, k < 2 → parseFieldDescriptor (TX7 k).2.2.1 = some (tyX7 k) := by decide +kernel
abbrev cX7_init : ByteArray := prog_2_method_1_code
def yX7_init : MethodName := ⟨RX7, "<init>", "(II)V"⟩
def dkwX7_init_0 : List UInt8 := [42, 183, 0, 1, 42, 27, 181, 0, 7, 42, 28, 181, 0, 13, 177]
abbrev dktX7_init_0 : List UInt8 := dkwX7_init_0 ++ []
theorem dksX7_init_0 : cX7_init.data.toList.drop 0 = dktX7_init_0 := by decide +kernel
theorem dX7_init_0 : decode cX7_init 0 = .ok (.aload_n 0, 1) := dk_42 (dk_at dksX7_init_0 0 rfl rfl)
theorem dX7_init_1 : decode cX7_init 1 = .ok (.invokespecial 1, 3) := dk_183 0 1 (dk_at dksX7_init_0 1 rfl rfl)
theorem dX7_init_4 : decode cX7_init 4 = .ok (.aload_n 0, 1) := dk_42 (dk_at dksX7_init_0 4 rfl rfl)
theorem dX7_init_5 : decode cX7_init 5 = .ok (.iload_n 1, 1) := dk_27 (dk_at dksX7_init_0 5 rfl rfl)
theorem dX7_init_6 : decode cX7_init 6 = .ok (.putfield 7, 3) := dk_181 0 7 (dk_at dksX7_init_0 6 rfl rfl)
theorem dX7_init_9 : decode cX7_init 9 = .ok (.aload_n 0, 1) := dk_42 (dk_at dksX7_init_0 9 rfl rfl)
theorem dX7_init_10 : decode cX7_init 10 = .ok (.iload_n 2, 1) := dk_28 (dk_at dksX7_init_0 10 rfl rfl)
theorem dX7_init_11 : decode cX7_init 11 = .ok (.putfield 13, 3) := dk_181 0 13 (dk_at dksX7_init_0 11 rfl rfl)
theorem dX7_init_14 : decode cX7_init 14 = .ok (.return_, 1) := dk_177 (dk_at dksX7_init_0 14 rfl rfl)
theorem q142 : (Jvm.Cond.initialized "RightTurns$Corner") ∈ lw_all := lw_g (lw_at lw_m1 27 rfl) rfl
theorem q971 : (Jvm.Cond.instantiable "RightTurns$Corner" (2 : Nat)) ∈ lw_all := lw_g (lw_at lw_m4 136 rfl) rfl
theorem q973 : (Jvm.Cond.instanceMethod ({ cls := "RightTurns$Corner", name := "<init>", desc := "(II)V" } : Jvm.MethodName)) ∈ lw_all := lw_g (lw_at lw_m4 138 rfl) rfl
theorem q974 : (Jvm.Cond.code ({ cls := "RightTurns$Corner", name := "<init>", desc := "(II)V" } : Jvm.MethodName) prog_2_method_1_code (3 : Nat) (Option.none : Option Jvm.ClassFile.FieldType)) ∈ lw_all := lw_g (lw_at lw_m4 139 rfl) rfl
theorem q975 : (Jvm.Cond.methodLink "RightTurns$Corner" (1 : Nat) ({ cls := "java/lang/Object", name := "<init>", desc := "()V" } : Jvm.MethodName)) ∈ lw_all := lw_g (lw_at lw_m4 140 rfl) rfl
theorem q976 : (Jvm.Cond.fieldLink "RightTurns$Corner" (7 : Nat) "RightTurns$Corner" "x" "I") ∈ lw_all := lw_g (lw_at lw_m4 141 rfl) rfl
theorem q979 : (Jvm.Cond.fieldLink "RightTurns$Corner" (13 : Nat) "RightTurns$Corner" "y" "I") ∈ lw_all := lw_g (lw_at lw_m4 144 rfl) rfl
theorem q982 : (Jvm.Cond.laysFinal "RightTurns$Corner" "RightTurns$Corner" "x" "I") ∈ lw_all := lw_g (lw_at lw_m4 147 rfl) rfl
theorem q983 : (Jvm.Cond.soleField "RightTurns$Corner" "x") ∈ lw_all := lw_g (lw_at lw_m4 148 rfl) rfl
theorem q984 : (Jvm.Cond.laysFinal "RightTurns$Corner" "RightTurns$Corner" "y" "I") ∈ lw_all := lw_g (lw_at lw_m4 149 rfl) rfl
theorem q985 : (Jvm.Cond.soleField "RightTurns$Corner" "y") ∈ lw_all := lw_g (lw_at lw_m4 150 rfl) rfl
theorem q986 : (Jvm.Cond.superclass "RightTurns$Corner" "java/lang/Object") ∈ lw_all := lw_g (lw_at lw_m4 151 rfl) rfl
theorem q1013 : (Jvm.Cond.selects "RightTurns$Corner" ({ cls := "java/lang/Object", name := "getClass", desc := "()Ljava/lang/Class;" } : Jvm.MethodName) ({ cls := "java/lang/Object", name := "getClass", desc := "()Ljava/lang/Class;" } : Jvm.MethodName)) ∈ lw_all := lw_g (lw_at lw_m4 178 rfl) rfl
theorem q2226 : (Jvm.Cond.castable "RightTurns$Corner" "java/lang/Object") ∈ lw_tbl := lw_at lw_m9 191 rfl
theorem in_X7 : ∀ w ∈ wsX70, w ∈ lw_all := lw_in wsX70 [982, 984] (by decide +kernel) (by decide +kernel)

/-! RightTurns$Street -/
set_option maxRecDepth 100000
def RX8 : String := "RightTurns$Street"
def TX8 : u_T := fun k => match k with
  | 0 => ("RightTurns$Street", "from", "I", true)
  | 1 => ("RightTurns$Street", "to", "I", true)
  | 2 => ("RightTurns$Street", "length", "I", true)
  | _ => ("RightTurns$Street", "one", "Z", false)
def tyX8 : Nat → FieldType := fun k => match k with
  | 0 => .int
  | 1 => .int
  | 2 => .int
  | _ => .boolean
abbrev wsX80 : List Cond := u_ws RX8 TX8 4
theorem nmX8 : ∀ a, a < 4 → ∀ b, b < 4 → a ≠ b → (TX8 a).2.1 ≠ (TX8 b).2.1 := by decide +kernel
theorem tyX8_ok : ∀ k, k < 4 → parseFieldDescriptor (TX8 k).2.2.1 = some (tyX8 k) := by decide +kernel
abbrev cX8_init : ByteArray := prog_6_method_1_code
def yX8_init : MethodName := ⟨RX8, "<init>", "(III)V"⟩
def dkwX8_init_0 : List UInt8 := [42, 183, 0, 1, 42, 27, 181, 0, 7, 42, 28, 181, 0, 13, 42, 29, 181, 0, 16, 177]
abbrev dktX8_init_0 : List UInt8 := dkwX8_init_0 ++ []
theorem dksX8_init_0 : cX8_init.data.toList.drop 0 = dktX8_init_0 := by decide +kernel
theorem dX8_init_0 : decode cX8_init 0 = .ok (.aload_n 0, 1) := dk_42 (dk_at dksX8_init_0 0 rfl rfl)
theorem dX8_init_1 : decode cX8_init 1 = .ok (.invokespecial 1, 3) := dk_183 0 1 (dk_at dksX8_init_0 1 rfl rfl)
theorem dX8_init_4 : decode cX8_init 4 = .ok (.aload_n 0, 1) := dk_42 (dk_at dksX8_init_0 4 rfl rfl)
theorem dX8_init_5 : decode cX8_init 5 = .ok (.iload_n 1, 1) := dk_27 (dk_at dksX8_init_0 5 rfl rfl)
theorem dX8_init_6 : decode cX8_init 6 = .ok (.putfield 7, 3) := dk_181 0 7 (dk_at dksX8_init_0 6 rfl rfl)
theorem dX8_init_9 : decode cX8_init 9 = .ok (.aload_n 0, 1) := dk_42 (dk_at dksX8_init_0 9 rfl rfl)
theorem dX8_init_10 : decode cX8_init 10 = .ok (.iload_n 2, 1) := dk_28 (dk_at dksX8_init_0 10 rfl rfl)
theorem dX8_init_11 : decode cX8_init 11 = .ok (.putfield 13, 3) := dk_181 0 13 (dk_at dksX8_init_0 11 rfl rfl)
theorem dX8_init_14 : decode cX8_init 14 = .ok (.aload_n 0, 1) := dk_42 (dk_at dksX8_init_0 14 rfl rfl)
theorem dX8_init_15 : decode cX8_init 15 = .ok (.iload_n 3, 1) := dk_29 (dk_at dksX8_init_0 15 rfl rfl)
theorem dX8_init_16 : decode cX8_init 16 = .ok (.putfield 16, 3) := dk_181 0 16 (dk_at dksX8_init_0 16 rfl rfl)
theorem dX8_init_19 : decode cX8_init 19 = .ok (.return_, 1) := dk_177 (dk_at dksX8_init_0 19 rfl rfl)
abbrev cX8_meets : ByteArray := prog_6_method_2_code
def yX8_meets : MethodName := ⟨RX8, "meets", "(LRightTurns$Street;)Z"⟩
def dkwX8_meets_2 : List UInt8 := [167, 0, 4, 3, 172]
abbrev dktX8_meets_2 : List UInt8 := dkwX8_meets_2 ++ []
def dkwX8_meets_1 : List UInt8 := [180, 0, 13, 43, 180, 0, 7, 159, 0, 14, 42, 180, 0, 13, 43, 180, 0, 13, 160, 0, 7, 4]
abbrev dktX8_meets_1 : List UInt8 := dkwX8_meets_1 ++ dktX8_meets_2
def dkwX8_meets_0 : List UInt8 := [42, 180, 0, 7, 43, 180, 0, 7, 159, 0, 36, 42, 180, 0, 7, 43, 180, 0, 13, 159, 0, 25, 42]
abbrev dktX8_meets_0 : List UInt8 := dkwX8_meets_0 ++ dktX8_meets_1
theorem dksX8_meets_0 : cX8_meets.data.toList.drop 0 = dktX8_meets_0 := by decide +kernel
theorem dksX8_meets_1 : cX8_meets.data.toList.drop 23 = dktX8_meets_1 := dk_seg dksX8_meets_0 23 rfl rfl
theorem dksX8_meets_2 : cX8_meets.data.toList.drop 45 = dktX8_meets_2 := dk_seg dksX8_meets_1 22 rfl rfl
theorem dX8_meets_0 : decode cX8_meets 0 = .ok (.aload_n 0, 1) := dk_42 (dk_at dksX8_meets_0 0 rfl rfl)
theorem dX8_meets_1 : decode cX8_meets 1 = .ok (.getfield 7, 3) := dk_180 0 7 (dk_at dksX8_meets_0 1 rfl rfl)
theorem dX8_meets_4 : decode cX8_meets 4 = .ok (.aload_n 1, 1) := dk_43 (dk_at dksX8_meets_0 4 rfl rfl)
theorem dX8_meets_5 : decode cX8_meets 5 = .ok (.getfield 7, 3) := dk_180 0 7 (dk_at dksX8_meets_0 5 rfl rfl)
theorem dX8_meets_8 : decode cX8_meets 8 = .ok (.if_icmp .eq 36, 3) := dk_159 0 36 (dk_at dksX8_meets_0 8 rfl rfl)
theorem dX8_meets_11 : decode cX8_meets 11 = .ok (.aload_n 0, 1) := dk_42 (dk_at dksX8_meets_0 11 rfl rfl)
theorem dX8_meets_12 : decode cX8_meets 12 = .ok (.getfield 7, 3) := dk_180 0 7 (dk_at dksX8_meets_0 12 rfl rfl)
theorem dX8_meets_15 : decode cX8_meets 15 = .ok (.aload_n 1, 1) := dk_43 (dk_at dksX8_meets_0 15 rfl rfl)
theorem dX8_meets_16 : decode cX8_meets 16 = .ok (.getfield 13, 3) := dk_180 0 13 (dk_at dksX8_meets_0 16 rfl rfl)
theorem dX8_meets_19 : decode cX8_meets 19 = .ok (.if_icmp .eq 25, 3) := dk_159 0 25 (dk_at dksX8_meets_0 19 rfl rfl)
theorem dX8_meets_22 : decode cX8_meets 22 = .ok (.aload_n 0, 1) := dk_42 (dk_at dksX8_meets_0 22 rfl rfl)
theorem dX8_meets_23 : decode cX8_meets 23 = .ok (.getfield 13, 3) := dk_180 0 13 (dk_at dksX8_meets_1 0 rfl rfl)
theorem dX8_meets_26 : decode cX8_meets 26 = .ok (.aload_n 1, 1) := dk_43 (dk_at dksX8_meets_1 3 rfl rfl)
theorem dX8_meets_27 : decode cX8_meets 27 = .ok (.getfield 7, 3) := dk_180 0 7 (dk_at dksX8_meets_1 4 rfl rfl)
theorem dX8_meets_30 : decode cX8_meets 30 = .ok (.if_icmp .eq 14, 3) := dk_159 0 14 (dk_at dksX8_meets_1 7 rfl rfl)
theorem dX8_meets_33 : decode cX8_meets 33 = .ok (.aload_n 0, 1) := dk_42 (dk_at dksX8_meets_1 10 rfl rfl)
theorem dX8_meets_34 : decode cX8_meets 34 = .ok (.getfield 13, 3) := dk_180 0 13 (dk_at dksX8_meets_1 11 rfl rfl)
theorem dX8_meets_37 : decode cX8_meets 37 = .ok (.aload_n 1, 1) := dk_43 (dk_at dksX8_meets_1 14 rfl rfl)
theorem dX8_meets_38 : decode cX8_meets 38 = .ok (.getfield 13, 3) := dk_180 0 13 (dk_at dksX8_meets_1 15 rfl rfl)
theorem dX8_meets_41 : decode cX8_meets 41 = .ok (.if_icmp .ne 7, 3) := dk_160 0 7 (dk_at dksX8_meets_1 18 rfl rfl)
theorem dX8_meets_44 : decode cX8_meets 44 = .ok (.iconst 1, 1) := dk_4 (dk_at dksX8_meets_1 21 rfl rfl)
theorem dX8_meets_45 : decode cX8_meets 45 = .ok (.goto 4, 3) := dk_167 0 4 (dk_at dksX8_meets_2 0 rfl rfl)
theorem dX8_meets_48 : decode cX8_meets 48 = .ok (.iconst 0, 1) := dk_3 (dk_at dksX8_meets_2 3 rfl rfl)
theorem dX8_meets_49 : decode cX8_meets 49 = .ok (.ireturn, 1) := dk_172 (dk_at dksX8_meets_2 4 rfl rfl)
theorem q143 : (Jvm.Cond.initialized "RightTurns$Street") ∈ lw_all := lw_g (lw_at lw_m1 28 rfl) rfl
theorem q1017 : (Jvm.Cond.selects "RightTurns$Street" ({ cls := "java/lang/Object", name := "getClass", desc := "()Ljava/lang/Class;" } : Jvm.MethodName) ({ cls := "java/lang/Object", name := "getClass", desc := "()Ljava/lang/Class;" } : Jvm.MethodName)) ∈ lw_all := lw_g (lw_at lw_m4 182 rfl) rfl
theorem q1041 : (Jvm.Cond.instantiable "RightTurns$Street" (4 : Nat)) ∈ lw_all := lw_g (lw_at lw_m4 206 rfl) rfl
theorem q1043 : (Jvm.Cond.instanceMethod ({ cls := "RightTurns$Street", name := "<init>", desc := "(III)V" } : Jvm.MethodName)) ∈ lw_all := lw_g (lw_at lw_m4 208 rfl) rfl
theorem q1044 : (Jvm.Cond.code ({ cls := "RightTurns$Street", name := "<init>", desc := "(III)V" } : Jvm.MethodName) prog_6_method_1_code (4 : Nat) (Option.none : Option Jvm.ClassFile.FieldType)) ∈ lw_all := lw_g (lw_at lw_m4 209 rfl) rfl
theorem q1045 : (Jvm.Cond.methodLink "RightTurns$Street" (1 : Nat) ({ cls := "java/lang/Object", name := "<init>", desc := "()V" } : Jvm.MethodName)) ∈ lw_all := lw_g (lw_at lw_m4 210 rfl) rfl
theorem q1046 : (Jvm.Cond.fieldLink "RightTurns$Street" (7 : Nat) "RightTurns$Street" "from" "I") ∈ lw_all := lw_g (lw_at lw_m4 211 rfl) rfl
theorem q1049 : (Jvm.Cond.fieldLink "RightTurns$Street" (13 : Nat) "RightTurns$Street" "to" "I") ∈ lw_all := lw_g (lw_at lw_m4 214 rfl) rfl
theorem q1052 : (Jvm.Cond.fieldLink "RightTurns$Street" (16 : Nat) "RightTurns$Street" "length" "I") ∈ lw_all := lw_g (lw_at lw_m4 217 rfl) rfl
theorem q1058 : (Jvm.Cond.laysFinal "RightTurns$Street" "RightTurns$Street" "from" "I") ∈ lw_all := lw_g (lw_at lw_m4 223 rfl) rfl
theorem q1059 : (Jvm.Cond.soleField "RightTurns$Street" "from") ∈ lw_all := lw_g (lw_at lw_m4 224 rfl) rfl
theorem q1060 : (Jvm.Cond.laysFinal "RightTurns$Street" "RightTurns$Street" "to" "I") ∈ lw_all := lw_g (lw_at lw_m4 225 rfl) rfl
theorem q1061 : (Jvm.Cond.soleField "RightTurns$Street" "to") ∈ lw_all := lw_g (lw_at lw_m4 226 rfl) rfl
theorem q1062 : (Jvm.Cond.laysFinal "RightTurns$Street" "RightTurns$Street" "length" "I") ∈ lw_all := lw_g (lw_at lw_m4 227 rfl) rfl
theorem q1063 : (Jvm.Cond.soleField "RightTurns$Street" "length") ∈ lw_all := lw_g (lw_at lw_m4 228 rfl) rfl
theorem q1064 : (Jvm.Cond.lays "RightTurns$Street" "RightTurns$Street" "one" "Z") ∈ lw_all := lw_g (lw_at lw_m4 229 rfl) rfl
theorem q1065 : (Jvm.Cond.soleField "RightTurns$Street" "one") ∈ lw_all := lw_g (lw_at lw_m4 230 rfl) rfl
theorem q1066 : (Jvm.Cond.superclass "RightTurns$Street" "java/lang/Object") ∈ lw_all := lw_g (lw_at lw_m4 231 rfl) rfl
theorem q1072 : (Jvm.Cond.instanceMethod ({ cls := "RightTurns$Street", name := "meets", desc := "(LRightTurns$Street;)Z" } : Jvm.MethodName)) ∈ lw_all := lw_g (lw_at lw_m4 237 rfl) rfl
theorem q1073 : (Jvm.Cond.selects "RightTurns$Street" ({ cls := "RightTurns$Street", name := "meets", desc := "(LRightTurns$Street;)Z" } : Jvm.MethodName) ({ cls := "RightTurns$Street", name := "meets", desc := "(LRightTurns$Street;)Z" } : Jvm.MethodName)) ∈ lw_all := lw_g (lw_at lw_m4 238 rfl) rfl
theorem q1074 : (Jvm.Cond.code ({ cls := "RightTurns$Street", name := "meets", desc := "(LRightTurns$Street;)Z" } : Jvm.MethodName) prog_6_method_2_code (2 : Nat) (Option.some Jvm.ClassFile.FieldType.boolean)) ∈ lw_all := lw_g (lw_at lw_m4 239 rfl) rfl
theorem q2227 : (Jvm.Cond.castable "RightTurns$Street" "java/lang/Object") ∈ lw_tbl := lw_at lw_m9 192 rfl
theorem in_X8 : ∀ w ∈ wsX80, w ∈ lw_all := lw_in wsX80 [1058, 1060, 1062, 1064] (by decide +kernel) (by decide +kernel)

/-! RightTurns$Rider -/
set_option maxRecDepth 100000
def RX9 : String := "RightTurns$Rider"
def TX9 : u_T := fun k => match k with
  | 0 => ("RightTurns$Rider", "from", "I", true)
  | 1 => ("RightTurns$Rider", "to", "I", true)
  | _ => ("RightTurns$Rider", "begins", "I", true)
def tyX9 : Nat → FieldType := fun k => match k with
  | 0 => .int
  | 1 => .int
  | _ => .int
abbrev wsX90 : List Cond := u_ws RX9 TX9 3
theorem nmX9 : ∀ a, a < 3 → ∀ b, b < 3 → a ≠ b → (TX9 a).2.1 ≠ (TX9 b).2.1 := by decide +kernel
theorem tyX9_ok : ∀ k, k < 3 → parseFieldDescriptor (TX9 k).2.2.1 = some (tyX9 k) := by decide +kernel
abbrev cX9_init : ByteArray := prog_4_method_1_code
def yX9_init : MethodName := ⟨RX9, "<init>", "(III)V"⟩
def dkwX9_init_0 : List UInt8 := [42, 183, 0, 1, 42, 27, 181, 0, 7, 42, 28, 181, 0, 13, 42, 29, 181, 0, 16, 177]
abbrev dktX9_init_0 : List UInt8 := dkwX9_init_0 ++ []
theorem dksX9_init_0 : cX9_init.data.toList.drop 0 = dktX9_init_0 := by decide +kernel
theorem dX9_init_0 : decode cX9_init 0 = .ok (.aload_n 0, 1) := dk_42 (dk_at dksX9_init_0 0 rfl rfl)
theorem dX9_init_1 : decode cX9_init 1 = .ok (.invokespecial 1, 3) := dk_183 0 1 (dk_at dksX9_init_0 1 rfl rfl)
theorem dX9_init_4 : decode cX9_init 4 = .ok (.aload_n 0, 1) := dk_42 (dk_at dksX9_init_0 4 rfl rfl)
theorem dX9_init_5 : decode cX9_init 5 = .ok (.iload_n 1, 1) := dk_27 (dk_at dksX9_init_0 5 rfl rfl)
theorem dX9_init_6 : decode cX9_init 6 = .ok (.putfield 7, 3) := dk_181 0 7 (dk_at dksX9_init_0 6 rfl rfl)
theorem dX9_init_9 : decode cX9_init 9 = .ok (.aload_n 0, 1) := dk_42 (dk_at dksX9_init_0 9 rfl rfl)
theorem dX9_init_10 : decode cX9_init 10 = .ok (.iload_n 2, 1) := dk_28 (dk_at dksX9_init_0 10 rfl rfl)
theorem dX9_init_11 : decode cX9_init 11 = .ok (.putfield 13, 3) := dk_181 0 13 (dk_at dksX9_init_0 11 rfl rfl)
theorem dX9_init_14 : decode cX9_init 14 = .ok (.aload_n 0, 1) := dk_42 (dk_at dksX9_init_0 14 rfl rfl)
theorem dX9_init_15 : decode cX9_init 15 = .ok (.iload_n 3, 1) := dk_29 (dk_at dksX9_init_0 15 rfl rfl)
theorem dX9_init_16 : decode cX9_init 16 = .ok (.putfield 16, 3) := dk_181 0 16 (dk_at dksX9_init_0 16 rfl rfl)
theorem dX9_init_19 : decode cX9_init 19 = .ok (.return_, 1) := dk_177 (dk_at dksX9_init_0 19 rfl rfl)
theorem q144 : (Jvm.Cond.initialized "RightTurns$Rider") ∈ lw_all := lw_g (lw_at lw_m1 29 rfl) rfl
theorem q1015 : (Jvm.Cond.selects "RightTurns$Rider" ({ cls := "java/lang/Object", name := "getClass", desc := "()Ljava/lang/Class;" } : Jvm.MethodName) ({ cls := "java/lang/Object", name := "getClass", desc := "()Ljava/lang/Class;" } : Jvm.MethodName)) ∈ lw_all := lw_g (lw_at lw_m4 180 rfl) rfl
theorem q1076 : (Jvm.Cond.instantiable "RightTurns$Rider" (3 : Nat)) ∈ lw_all := lw_g (lw_at lw_m5 1 rfl) rfl
theorem q1078 : (Jvm.Cond.instanceMethod ({ cls := "RightTurns$Rider", name := "<init>", desc := "(III)V" } : Jvm.MethodName)) ∈ lw_all := lw_g (lw_at lw_m5 3 rfl) rfl
theorem q1079 : (Jvm.Cond.code ({ cls := "RightTurns$Rider", name := "<init>", desc := "(III)V" } : Jvm.MethodName) prog_4_method_1_code (4 : Nat) (Option.none : Option Jvm.ClassFile.FieldType)) ∈ lw_all := lw_g (lw_at lw_m5 4 rfl) rfl
theorem q1080 : (Jvm.Cond.methodLink "RightTurns$Rider" (1 : Nat) ({ cls := "java/lang/Object", name := "<init>", desc := "()V" } : Jvm.MethodName)) ∈ lw_all := lw_g (lw_at lw_m5 5 rfl) rfl
theorem q1081 : (Jvm.Cond.fieldLink "RightTurns$Rider" (7 : Nat) "RightTurns$Rider" "from" "I") ∈ lw_all := lw_g (lw_at lw_m5 6 rfl) rfl
theorem q1083 : (Jvm.Cond.fieldLink "RightTurns$Rider" (13 : Nat) "RightTurns$Rider" "to" "I") ∈ lw_all := lw_g (lw_at lw_m5 8 rfl) rfl
theorem q1085 : (Jvm.Cond.fieldLink "RightTurns$Rider" (16 : Nat) "RightTurns$Rider" "begins" "I") ∈ lw_all := lw_g (lw_at lw_m5 10 rfl) rfl
theorem q1087 : (Jvm.Cond.laysFinal "RightTurns$Rider" "RightTurns$Rider" "from" "I") ∈ lw_all := lw_g (lw_at lw_m5 12 rfl) rfl
theorem q1088 : (Jvm.Cond.soleField "RightTurns$Rider" "from") ∈ lw_all := lw_g (lw_at lw_m5 13 rfl) rfl
theorem q1089 : (Jvm.Cond.laysFinal "RightTurns$Rider" "RightTurns$Rider" "to" "I") ∈ lw_all := lw_g (lw_at lw_m5 14 rfl) rfl
theorem q1090 : (Jvm.Cond.soleField "RightTurns$Rider" "to") ∈ lw_all := lw_g (lw_at lw_m5 15 rfl) rfl
theorem q1091 : (Jvm.Cond.laysFinal "RightTurns$Rider" "RightTurns$Rider" "begins" "I") ∈ lw_all := lw_g (lw_at lw_m5 16 rfl) rfl
theorem q1092 : (Jvm.Cond.soleField "RightTurns$Rider" "begins") ∈ lw_all := lw_g (lw_at lw_m5 17 rfl) rfl
theorem q1093 : (Jvm.Cond.superclass "RightTurns$Rider" "java/lang/Object") ∈ lw_all := lw_g (lw_at lw_m5 18 rfl) rfl
theorem q2228 : (Jvm.Cond.castable "RightTurns$Rider" "java/lang/Object") ∈ lw_tbl := lw_at lw_m9 193 rfl
theorem in_X9 : ∀ w ∈ wsX90, w ∈ lw_all := lw_in wsX90 [1087, 1089, 1091] (by decide +kernel) (by decide +kernel)

theorem q288 : (Jvm.Cond.sameMethod "[B" "java/lang/Object" "clone" "()Ljava/lang/Object;") ∈ lw_all := lw_g (lw_at lw_m1 173 rfl) rfl
set_option maxRecDepth 100000
theorem q291 : (Jvm.Cond.selects "[B" ({ cls := "[B", name := "clone", desc := "()Ljava/lang/Object;" } : Jvm.MethodName) ({ cls := "java/lang/Object", name := "clone", desc := "()Ljava/lang/Object;" } : Jvm.MethodName)) ∈ lw_all := lw_g (lw_at lw_m1 176 rfl) rfl
theorem q292 : (Jvm.Cond.castable "[B" "java/lang/Cloneable") ∈ lw_tbl := lw_at lw_m1 177 rfl
theorem q2237 : (Jvm.Cond.castable "[B" "java/lang/Object") ∈ lw_tbl := lw_at lw_m9 202 rfl

theorem q2238 : (Jvm.Cond.castable "[I" "java/lang/Object") ∈ lw_tbl := lw_at lw_m9 203 rfl
set_option maxRecDepth 100000

theorem q2241 : (Jvm.Cond.castable "[J" "java/lang/Object") ∈ lw_tbl := lw_at lw_m9 206 rfl
set_option maxRecDepth 100000

theorem q2239 : (Jvm.Cond.castable "[LRightTurns$State;" "java/lang/Object") ∈ lw_tbl := lw_at lw_m9 204 rfl
set_option maxRecDepth 100000

theorem q2233 : (Jvm.Cond.sameMethod "[Ljava/lang/Object;" "java/lang/Object" "getClass" "()Ljava/lang/Class;") ∈ lw_all := lw_g (lw_at lw_m9 198 rfl) rfl
set_option maxRecDepth 100000
theorem q2234 : (Jvm.Cond.selects "[Ljava/lang/Object;" ({ cls := "java/lang/Object", name := "getClass", desc := "()Ljava/lang/Class;" } : Jvm.MethodName) ({ cls := "java/lang/Object", name := "getClass", desc := "()Ljava/lang/Class;" } : Jvm.MethodName)) ∈ lw_all := lw_g (lw_at lw_m9 199 rfl) rfl
theorem q2236 : (Jvm.Cond.castable "[Ljava/lang/Object;" "java/lang/Object") ∈ lw_tbl := lw_at lw_m9 201 rfl

theorem q2240 : (Jvm.Cond.castable "[Z" "java/lang/Object") ∈ lw_tbl := lw_at lw_m9 205 rfl
set_option maxRecDepth 100000

theorem q2242 : (Jvm.Cond.castable "[[I" "java/lang/Object") ∈ lw_tbl := lw_at lw_m9 207 rfl
set_option maxRecDepth 100000

theorem q135 : (Jvm.Cond.initialized "java/lang/Number") ∈ lw_all := lw_g (lw_at lw_m1 20 rfl) rfl
set_option maxRecDepth 100000

theorem q132 : (Jvm.Cond.initialized "java/lang/System") ∈ lw_all := lw_g (lw_at lw_m1 17 rfl) rfl
set_option maxRecDepth 100000
theorem q298 : (Jvm.Cond.static ({ cls := "java/lang/System", name := "arraycopy", desc := "(Ljava/lang/Object;ILjava/lang/Object;II)V" } : Jvm.MethodName)) ∈ lw_all := lw_g (lw_at lw_m1 183 rfl) rfl
theorem q299 : (Jvm.Cond.native ({ cls := "java/lang/System", name := "arraycopy", desc := "(Ljava/lang/Object;ILjava/lang/Object;II)V" } : Jvm.MethodName)) ∈ lw_all := lw_g (lw_at lw_m1 184 rfl) rfl

theorem q855 : (Jvm.Cond.interfaceMethod "jdk/internal/access/JavaLangAccess" "jdk/internal/access/JavaLangAccess" "getUTF16Char" "([BI)C") ∈ lw_tbl := lw_at lw_m4 20 rfl
set_option maxRecDepth 100000
theorem q856 : (Jvm.Cond.declares ({ cls := "jdk/internal/access/JavaLangAccess", name := "getUTF16Char", desc := "([BI)C" } : Jvm.MethodName)) ∈ lw_tbl := lw_at lw_m4 21 rfl

theorem q175 : (Jvm.Cond.arrayOver (Jvm.ClassFile.FieldType.object "java/lang/Object")) ∈ lw_tbl := lw_at lw_m1 60 rfl
set_option maxRecDepth 100000
theorem q252 : (Jvm.Cond.arrayClass Jvm.ClassFile.FieldType.byte) ∈ lw_all := lw_g (lw_at lw_m1 137 rfl) rfl
theorem q551 : (Jvm.Cond.arrayClass Jvm.ClassFile.FieldType.int) ∈ lw_all := lw_g (lw_at lw_m2 196 rfl) rfl
theorem q579 : (Jvm.Cond.arrayOver (Jvm.ClassFile.FieldType.object "RightTurns$State")) ∈ lw_tbl := lw_at lw_m2 224 rfl
theorem q702 : (Jvm.Cond.arrayClass Jvm.ClassFile.FieldType.boolean) ∈ lw_all := lw_g (lw_at lw_m3 107 rfl) rfl
theorem q703 : (Jvm.Cond.arrayClass Jvm.ClassFile.FieldType.long) ∈ lw_all := lw_g (lw_at lw_m3 108 rfl) rfl
theorem q1584 : (Jvm.Cond.arrayOver (Jvm.ClassFile.FieldType.array Jvm.ClassFile.FieldType.int)) ∈ lw_tbl := lw_at lw_m7 29 rfl
theorem q2243 : (Jvm.Cond.arrayClass Jvm.ClassFile.FieldType.char) ∈ lw_all := lw_g (lw_at lw_m9 208 rfl) rfl
theorem q2244 : (Jvm.Cond.arrayClass Jvm.ClassFile.FieldType.short) ∈ lw_all := lw_g (lw_at lw_m9 209 rfl) rfl
