/-! TallTowersLaw -/
set_option maxRecDepth 100000
def RX0 : String := "TallTowersLaw"
abbrev cX0_place : ByteArray := method_3_code
def yX0_place : MethodName := ⟨RX0, "place", "(LTallTowers;IIII[J)I"⟩
def dkwX0_place_1 : List UInt8 := [172, 3, 172]
abbrev dktX0_place_1 : List UInt8 := dkwX0_place_1 ++ []
def dkwX0_place_0 : List UInt8 := [25, 5, 3, 42, 27, 28, 29, 21, 4, 182, 0, 7, 133, 80, 167, 0, 11, 58, 6, 4, 172, 58, 6, 5]
abbrev dktX0_place_0 : List UInt8 := dkwX0_place_0 ++ dktX0_place_1
theorem dksX0_place_0 : cX0_place.data.toList.drop 0 = dktX0_place_0 := by decide +kernel
theorem dksX0_place_1 : cX0_place.data.toList.drop 24 = dktX0_place_1 := dk_seg dksX0_place_0 24 rfl rfl
theorem dX0_place_0 : decode cX0_place 0 = .ok (.aload 5, 2) := dk_25 5 (dk_at dksX0_place_0 0 rfl rfl)
theorem dX0_place_2 : decode cX0_place 2 = .ok (.iconst 0, 1) := dk_3 (dk_at dksX0_place_0 2 rfl rfl)
theorem dX0_place_3 : decode cX0_place 3 = .ok (.aload_n 0, 1) := dk_42 (dk_at dksX0_place_0 3 rfl rfl)
theorem dX0_place_4 : decode cX0_place 4 = .ok (.iload_n 1, 1) := dk_27 (dk_at dksX0_place_0 4 rfl rfl)
theorem dX0_place_5 : decode cX0_place 5 = .ok (.iload_n 2, 1) := dk_28 (dk_at dksX0_place_0 5 rfl rfl)
theorem dX0_place_6 : decode cX0_place 6 = .ok (.iload_n 3, 1) := dk_29 (dk_at dksX0_place_0 6 rfl rfl)
theorem dX0_place_7 : decode cX0_place 7 = .ok (.iload 4, 2) := dk_21 4 (dk_at dksX0_place_0 7 rfl rfl)
theorem dX0_place_9 : decode cX0_place 9 = .ok (.invokevirtual 7, 3) := dk_182 0 7 (dk_at dksX0_place_0 9 rfl rfl)
theorem dX0_place_12 : decode cX0_place 12 = .ok (.i2l, 1) := dk_133 (dk_at dksX0_place_0 12 rfl rfl)
theorem dX0_place_13 : decode cX0_place 13 = .ok (.lastore, 1) := dk_80 (dk_at dksX0_place_0 13 rfl rfl)
theorem dX0_place_14 : decode cX0_place 14 = .ok (.goto 11, 3) := dk_167 0 11 (dk_at dksX0_place_0 14 rfl rfl)
theorem dX0_place_17 : decode cX0_place 17 = .ok (.astore 6, 2) := dk_58 6 (dk_at dksX0_place_0 17 rfl rfl)
theorem dX0_place_19 : decode cX0_place 19 = .ok (.iconst 1, 1) := dk_4 (dk_at dksX0_place_0 19 rfl rfl)
theorem dX0_place_20 : decode cX0_place 20 = .ok (.ireturn, 1) := dk_172 (dk_at dksX0_place_0 20 rfl rfl)
theorem dX0_place_21 : decode cX0_place 21 = .ok (.astore 6, 2) := dk_58 6 (dk_at dksX0_place_0 21 rfl rfl)
theorem dX0_place_23 : decode cX0_place 23 = .ok (.iconst 2, 1) := dk_5 (dk_at dksX0_place_0 23 rfl rfl)
theorem dX0_place_24 : decode cX0_place 24 = .ok (.ireturn, 1) := dk_172 (dk_at dksX0_place_1 0 rfl rfl)
theorem dX0_place_25 : decode cX0_place 25 = .ok (.iconst 0, 1) := dk_3 (dk_at dksX0_place_1 1 rfl rfl)
theorem dX0_place_26 : decode cX0_place 26 = .ok (.ireturn, 1) := dk_172 (dk_at dksX0_place_1 2 rfl rfl)
abbrev cX0_sign : ByteArray := method_4_code
def yX0_sign : MethodName := ⟨RX0, "sign", "(LTallTowers;III[J)I"⟩
def dkwX0_sign_1 : List UInt8 := [58, 5, 6, 172, 3, 172]
abbrev dktX0_sign_1 : List UInt8 := dkwX0_sign_1 ++ []
def dkwX0_sign_0 : List UInt8 := [25, 4, 3, 42, 27, 28, 29, 182, 0, 17, 133, 80, 167, 0, 15, 58, 5, 4, 172, 58, 5, 5, 172]
abbrev dktX0_sign_0 : List UInt8 := dkwX0_sign_0 ++ dktX0_sign_1
theorem dksX0_sign_0 : cX0_sign.data.toList.drop 0 = dktX0_sign_0 := by decide +kernel
theorem dksX0_sign_1 : cX0_sign.data.toList.drop 23 = dktX0_sign_1 := dk_seg dksX0_sign_0 23 rfl rfl
theorem dX0_sign_0 : decode cX0_sign 0 = .ok (.aload 4, 2) := dk_25 4 (dk_at dksX0_sign_0 0 rfl rfl)
theorem dX0_sign_2 : decode cX0_sign 2 = .ok (.iconst 0, 1) := dk_3 (dk_at dksX0_sign_0 2 rfl rfl)
theorem dX0_sign_3 : decode cX0_sign 3 = .ok (.aload_n 0, 1) := dk_42 (dk_at dksX0_sign_0 3 rfl rfl)
theorem dX0_sign_4 : decode cX0_sign 4 = .ok (.iload_n 1, 1) := dk_27 (dk_at dksX0_sign_0 4 rfl rfl)
theorem dX0_sign_5 : decode cX0_sign 5 = .ok (.iload_n 2, 1) := dk_28 (dk_at dksX0_sign_0 5 rfl rfl)
theorem dX0_sign_6 : decode cX0_sign 6 = .ok (.iload_n 3, 1) := dk_29 (dk_at dksX0_sign_0 6 rfl rfl)
theorem dX0_sign_7 : decode cX0_sign 7 = .ok (.invokevirtual 17, 3) := dk_182 0 17 (dk_at dksX0_sign_0 7 rfl rfl)
theorem dX0_sign_10 : decode cX0_sign 10 = .ok (.i2l, 1) := dk_133 (dk_at dksX0_sign_0 10 rfl rfl)
theorem dX0_sign_11 : decode cX0_sign 11 = .ok (.lastore, 1) := dk_80 (dk_at dksX0_sign_0 11 rfl rfl)
theorem dX0_sign_12 : decode cX0_sign 12 = .ok (.goto 15, 3) := dk_167 0 15 (dk_at dksX0_sign_0 12 rfl rfl)
theorem dX0_sign_15 : decode cX0_sign 15 = .ok (.astore 5, 2) := dk_58 5 (dk_at dksX0_sign_0 15 rfl rfl)
theorem dX0_sign_17 : decode cX0_sign 17 = .ok (.iconst 1, 1) := dk_4 (dk_at dksX0_sign_0 17 rfl rfl)
theorem dX0_sign_18 : decode cX0_sign 18 = .ok (.ireturn, 1) := dk_172 (dk_at dksX0_sign_0 18 rfl rfl)
theorem dX0_sign_19 : decode cX0_sign 19 = .ok (.astore 5, 2) := dk_58 5 (dk_at dksX0_sign_0 19 rfl rfl)
theorem dX0_sign_21 : decode cX0_sign 21 = .ok (.iconst 2, 1) := dk_5 (dk_at dksX0_sign_0 21 rfl rfl)
theorem dX0_sign_22 : decode cX0_sign 22 = .ok (.ireturn, 1) := dk_172 (dk_at dksX0_sign_0 22 rfl rfl)
theorem dX0_sign_23 : decode cX0_sign 23 = .ok (.astore 5, 2) := dk_58 5 (dk_at dksX0_sign_1 0 rfl rfl)
theorem dX0_sign_25 : decode cX0_sign 25 = .ok (.iconst 3, 1) := dk_6 (dk_at dksX0_sign_1 2 rfl rfl)
theorem dX0_sign_26 : decode cX0_sign 26 = .ok (.ireturn, 1) := dk_172 (dk_at dksX0_sign_1 3 rfl rfl)
theorem dX0_sign_27 : decode cX0_sign 27 = .ok (.iconst 0, 1) := dk_3 (dk_at dksX0_sign_1 4 rfl rfl)
theorem dX0_sign_28 : decode cX0_sign 28 = .ok (.ireturn, 1) := dk_172 (dk_at dksX0_sign_1 5 rfl rfl)
abbrev cX0_lack : ByteArray := method_5_code
def yX0_lack : MethodName := ⟨RX0, "lack", "(LTallTowers;I[J)I"⟩
def dkwX0_lack_0 : List UInt8 := [44, 3, 42, 27, 182, 0, 23, 133, 80, 167, 0, 9, 78, 4, 172, 78, 5, 172, 3, 172]
abbrev dktX0_lack_0 : List UInt8 := dkwX0_lack_0 ++ []
theorem dksX0_lack_0 : cX0_lack.data.toList.drop 0 = dktX0_lack_0 := by decide +kernel
theorem dX0_lack_0 : decode cX0_lack 0 = .ok (.aload_n 2, 1) := dk_44 (dk_at dksX0_lack_0 0 rfl rfl)
theorem dX0_lack_1 : decode cX0_lack 1 = .ok (.iconst 0, 1) := dk_3 (dk_at dksX0_lack_0 1 rfl rfl)
theorem dX0_lack_2 : decode cX0_lack 2 = .ok (.aload_n 0, 1) := dk_42 (dk_at dksX0_lack_0 2 rfl rfl)
theorem dX0_lack_3 : decode cX0_lack 3 = .ok (.iload_n 1, 1) := dk_27 (dk_at dksX0_lack_0 3 rfl rfl)
theorem dX0_lack_4 : decode cX0_lack 4 = .ok (.invokevirtual 23, 3) := dk_182 0 23 (dk_at dksX0_lack_0 4 rfl rfl)
theorem dX0_lack_7 : decode cX0_lack 7 = .ok (.i2l, 1) := dk_133 (dk_at dksX0_lack_0 7 rfl rfl)
theorem dX0_lack_8 : decode cX0_lack 8 = .ok (.lastore, 1) := dk_80 (dk_at dksX0_lack_0 8 rfl rfl)
theorem dX0_lack_9 : decode cX0_lack 9 = .ok (.goto 9, 3) := dk_167 0 9 (dk_at dksX0_lack_0 9 rfl rfl)
theorem dX0_lack_12 : decode cX0_lack 12 = .ok (.astore_n 3, 1) := dk_78 (dk_at dksX0_lack_0 12 rfl rfl)
theorem dX0_lack_13 : decode cX0_lack 13 = .ok (.iconst 1, 1) := dk_4 (dk_at dksX0_lack_0 13 rfl rfl)
theorem dX0_lack_14 : decode cX0_lack 14 = .ok (.ireturn, 1) := dk_172 (dk_at dksX0_lack_0 14 rfl rfl)
theorem dX0_lack_15 : decode cX0_lack 15 = .ok (.astore_n 3, 1) := dk_78 (dk_at dksX0_lack_0 15 rfl rfl)
theorem dX0_lack_16 : decode cX0_lack 16 = .ok (.iconst 2, 1) := dk_5 (dk_at dksX0_lack_0 16 rfl rfl)
theorem dX0_lack_17 : decode cX0_lack 17 = .ok (.ireturn, 1) := dk_172 (dk_at dksX0_lack_0 17 rfl rfl)
theorem dX0_lack_18 : decode cX0_lack 18 = .ok (.iconst 0, 1) := dk_3 (dk_at dksX0_lack_0 18 rfl rfl)
theorem dX0_lack_19 : decode cX0_lack 19 = .ok (.ireturn, 1) := dk_172 (dk_at dksX0_lack_0 19 rfl rfl)
abbrev cX0_rules : ByteArray := method_6_code
def yX0_rules : MethodName := ⟨RX0, "rules", "(LTallTowers;III[J)I"⟩
def dkwX0_rules_1 : List UInt8 := [172]
abbrev dktX0_rules_1 : List UInt8 := dkwX0_rules_1 ++ []
def dkwX0_rules_0 : List UInt8 := [25, 4, 3, 42, 27, 28, 29, 182, 0, 27, 133, 80, 167, 0, 11, 58, 5, 4, 172, 58, 5, 5, 172, 3]
abbrev dktX0_rules_0 : List UInt8 := dkwX0_rules_0 ++ dktX0_rules_1
theorem dksX0_rules_0 : cX0_rules.data.toList.drop 0 = dktX0_rules_0 := by decide +kernel
theorem dksX0_rules_1 : cX0_rules.data.toList.drop 24 = dktX0_rules_1 := dk_seg dksX0_rules_0 24 rfl rfl
theorem dX0_rules_0 : decode cX0_rules 0 = .ok (.aload 4, 2) := dk_25 4 (dk_at dksX0_rules_0 0 rfl rfl)
theorem dX0_rules_2 : decode cX0_rules 2 = .ok (.iconst 0, 1) := dk_3 (dk_at dksX0_rules_0 2 rfl rfl)
theorem dX0_rules_3 : decode cX0_rules 3 = .ok (.aload_n 0, 1) := dk_42 (dk_at dksX0_rules_0 3 rfl rfl)
theorem dX0_rules_4 : decode cX0_rules 4 = .ok (.iload_n 1, 1) := dk_27 (dk_at dksX0_rules_0 4 rfl rfl)
theorem dX0_rules_5 : decode cX0_rules 5 = .ok (.iload_n 2, 1) := dk_28 (dk_at dksX0_rules_0 5 rfl rfl)
theorem dX0_rules_6 : decode cX0_rules 6 = .ok (.iload_n 3, 1) := dk_29 (dk_at dksX0_rules_0 6 rfl rfl)
theorem dX0_rules_7 : decode cX0_rules 7 = .ok (.invokevirtual 27, 3) := dk_182 0 27 (dk_at dksX0_rules_0 7 rfl rfl)
theorem dX0_rules_10 : decode cX0_rules 10 = .ok (.i2l, 1) := dk_133 (dk_at dksX0_rules_0 10 rfl rfl)
theorem dX0_rules_11 : decode cX0_rules 11 = .ok (.lastore, 1) := dk_80 (dk_at dksX0_rules_0 11 rfl rfl)
theorem dX0_rules_12 : decode cX0_rules 12 = .ok (.goto 11, 3) := dk_167 0 11 (dk_at dksX0_rules_0 12 rfl rfl)
theorem dX0_rules_15 : decode cX0_rules 15 = .ok (.astore 5, 2) := dk_58 5 (dk_at dksX0_rules_0 15 rfl rfl)
theorem dX0_rules_17 : decode cX0_rules 17 = .ok (.iconst 1, 1) := dk_4 (dk_at dksX0_rules_0 17 rfl rfl)
theorem dX0_rules_18 : decode cX0_rules 18 = .ok (.ireturn, 1) := dk_172 (dk_at dksX0_rules_0 18 rfl rfl)
theorem dX0_rules_19 : decode cX0_rules 19 = .ok (.astore 5, 2) := dk_58 5 (dk_at dksX0_rules_0 19 rfl rfl)
theorem dX0_rules_21 : decode cX0_rules 21 = .ok (.iconst 2, 1) := dk_5 (dk_at dksX0_rules_0 21 rfl rfl)
theorem dX0_rules_22 : decode cX0_rules 22 = .ok (.ireturn, 1) := dk_172 (dk_at dksX0_rules_0 22 rfl rfl)
theorem dX0_rules_23 : decode cX0_rules 23 = .ok (.iconst 0, 1) := dk_3 (dk_at dksX0_rules_0 23 rfl rfl)
theorem dX0_rules_24 : decode cX0_rules 24 = .ok (.ireturn, 1) := dk_172 (dk_at dksX0_rules_1 0 rfl rfl)
abbrev cX0_harm : ByteArray := method_7_code
def yX0_harm : MethodName := ⟨RX0, "harm", "(LTallTowers;IIII[J)I"⟩
def dkwX0_harm_1 : List UInt8 := [172, 3, 172]
abbrev dktX0_harm_1 : List UInt8 := dkwX0_harm_1 ++ []
def dkwX0_harm_0 : List UInt8 := [25, 5, 3, 42, 27, 28, 29, 21, 4, 182, 0, 30, 133, 80, 167, 0, 11, 58, 6, 4, 172, 58, 6, 5]
abbrev dktX0_harm_0 : List UInt8 := dkwX0_harm_0 ++ dktX0_harm_1
theorem dksX0_harm_0 : cX0_harm.data.toList.drop 0 = dktX0_harm_0 := by decide +kernel
theorem dksX0_harm_1 : cX0_harm.data.toList.drop 24 = dktX0_harm_1 := dk_seg dksX0_harm_0 24 rfl rfl
theorem dX0_harm_0 : decode cX0_harm 0 = .ok (.aload 5, 2) := dk_25 5 (dk_at dksX0_harm_0 0 rfl rfl)
theorem dX0_harm_2 : decode cX0_harm 2 = .ok (.iconst 0, 1) := dk_3 (dk_at dksX0_harm_0 2 rfl rfl)
theorem dX0_harm_3 : decode cX0_harm 3 = .ok (.aload_n 0, 1) := dk_42 (dk_at dksX0_harm_0 3 rfl rfl)
theorem dX0_harm_4 : decode cX0_harm 4 = .ok (.iload_n 1, 1) := dk_27 (dk_at dksX0_harm_0 4 rfl rfl)
theorem dX0_harm_5 : decode cX0_harm 5 = .ok (.iload_n 2, 1) := dk_28 (dk_at dksX0_harm_0 5 rfl rfl)
theorem dX0_harm_6 : decode cX0_harm 6 = .ok (.iload_n 3, 1) := dk_29 (dk_at dksX0_harm_0 6 rfl rfl)
theorem dX0_harm_7 : decode cX0_harm 7 = .ok (.iload 4, 2) := dk_21 4 (dk_at dksX0_harm_0 7 rfl rfl)
theorem dX0_harm_9 : decode cX0_harm 9 = .ok (.invokevirtual 30, 3) := dk_182 0 30 (dk_at dksX0_harm_0 9 rfl rfl)
theorem dX0_harm_12 : decode cX0_harm 12 = .ok (.i2l, 1) := dk_133 (dk_at dksX0_harm_0 12 rfl rfl)
theorem dX0_harm_13 : decode cX0_harm 13 = .ok (.lastore, 1) := dk_80 (dk_at dksX0_harm_0 13 rfl rfl)
theorem dX0_harm_14 : decode cX0_harm 14 = .ok (.goto 11, 3) := dk_167 0 11 (dk_at dksX0_harm_0 14 rfl rfl)
theorem dX0_harm_17 : decode cX0_harm 17 = .ok (.astore 6, 2) := dk_58 6 (dk_at dksX0_harm_0 17 rfl rfl)
theorem dX0_harm_19 : decode cX0_harm 19 = .ok (.iconst 1, 1) := dk_4 (dk_at dksX0_harm_0 19 rfl rfl)
theorem dX0_harm_20 : decode cX0_harm 20 = .ok (.ireturn, 1) := dk_172 (dk_at dksX0_harm_0 20 rfl rfl)
theorem dX0_harm_21 : decode cX0_harm 21 = .ok (.astore 6, 2) := dk_58 6 (dk_at dksX0_harm_0 21 rfl rfl)
theorem dX0_harm_23 : decode cX0_harm 23 = .ok (.iconst 2, 1) := dk_5 (dk_at dksX0_harm_0 23 rfl rfl)
theorem dX0_harm_24 : decode cX0_harm 24 = .ok (.ireturn, 1) := dk_172 (dk_at dksX0_harm_1 0 rfl rfl)
theorem dX0_harm_25 : decode cX0_harm 25 = .ok (.iconst 0, 1) := dk_3 (dk_at dksX0_harm_1 1 rfl rfl)
theorem dX0_harm_26 : decode cX0_harm 26 = .ok (.ireturn, 1) := dk_172 (dk_at dksX0_harm_1 2 rfl rfl)
abbrev cX0_grow : ByteArray := method_8_code
def yX0_grow : MethodName := ⟨RX0, "grow", "(LTallTowers;II[J)I"⟩
def dkwX0_grow_1 : List UInt8 := [3, 172]
abbrev dktX0_grow_1 : List UInt8 := dkwX0_grow_1 ++ []
def dkwX0_grow_0 : List UInt8 := [45, 3, 42, 27, 28, 182, 0, 33, 80, 167, 0, 15, 58, 4, 4, 172, 58, 4, 5, 172, 58, 4, 6, 172]
abbrev dktX0_grow_0 : List UInt8 := dkwX0_grow_0 ++ dktX0_grow_1
theorem dksX0_grow_0 : cX0_grow.data.toList.drop 0 = dktX0_grow_0 := by decide +kernel
theorem dksX0_grow_1 : cX0_grow.data.toList.drop 24 = dktX0_grow_1 := dk_seg dksX0_grow_0 24 rfl rfl
theorem dX0_grow_0 : decode cX0_grow 0 = .ok (.aload_n 3, 1) := dk_45 (dk_at dksX0_grow_0 0 rfl rfl)
theorem dX0_grow_1 : decode cX0_grow 1 = .ok (.iconst 0, 1) := dk_3 (dk_at dksX0_grow_0 1 rfl rfl)
theorem dX0_grow_2 : decode cX0_grow 2 = .ok (.aload_n 0, 1) := dk_42 (dk_at dksX0_grow_0 2 rfl rfl)
theorem dX0_grow_3 : decode cX0_grow 3 = .ok (.iload_n 1, 1) := dk_27 (dk_at dksX0_grow_0 3 rfl rfl)
theorem dX0_grow_4 : decode cX0_grow 4 = .ok (.iload_n 2, 1) := dk_28 (dk_at dksX0_grow_0 4 rfl rfl)
theorem dX0_grow_5 : decode cX0_grow 5 = .ok (.invokevirtual 33, 3) := dk_182 0 33 (dk_at dksX0_grow_0 5 rfl rfl)
theorem dX0_grow_8 : decode cX0_grow 8 = .ok (.lastore, 1) := dk_80 (dk_at dksX0_grow_0 8 rfl rfl)
theorem dX0_grow_9 : decode cX0_grow 9 = .ok (.goto 15, 3) := dk_167 0 15 (dk_at dksX0_grow_0 9 rfl rfl)
theorem dX0_grow_12 : decode cX0_grow 12 = .ok (.astore 4, 2) := dk_58 4 (dk_at dksX0_grow_0 12 rfl rfl)
theorem dX0_grow_14 : decode cX0_grow 14 = .ok (.iconst 1, 1) := dk_4 (dk_at dksX0_grow_0 14 rfl rfl)
theorem dX0_grow_15 : decode cX0_grow 15 = .ok (.ireturn, 1) := dk_172 (dk_at dksX0_grow_0 15 rfl rfl)
theorem dX0_grow_16 : decode cX0_grow 16 = .ok (.astore 4, 2) := dk_58 4 (dk_at dksX0_grow_0 16 rfl rfl)
theorem dX0_grow_18 : decode cX0_grow 18 = .ok (.iconst 2, 1) := dk_5 (dk_at dksX0_grow_0 18 rfl rfl)
theorem dX0_grow_19 : decode cX0_grow 19 = .ok (.ireturn, 1) := dk_172 (dk_at dksX0_grow_0 19 rfl rfl)
theorem dX0_grow_20 : decode cX0_grow 20 = .ok (.astore 4, 2) := dk_58 4 (dk_at dksX0_grow_0 20 rfl rfl)
theorem dX0_grow_22 : decode cX0_grow 22 = .ok (.iconst 3, 1) := dk_6 (dk_at dksX0_grow_0 22 rfl rfl)
theorem dX0_grow_23 : decode cX0_grow 23 = .ok (.ireturn, 1) := dk_172 (dk_at dksX0_grow_0 23 rfl rfl)
theorem dX0_grow_24 : decode cX0_grow 24 = .ok (.iconst 0, 1) := dk_3 (dk_at dksX0_grow_1 0 rfl rfl)
theorem dX0_grow_25 : decode cX0_grow 25 = .ok (.ireturn, 1) := dk_172 (dk_at dksX0_grow_1 1 rfl rfl)
abbrev cX0_settle : ByteArray := method_9_code
def yX0_settle : MethodName := ⟨RX0, "settle", "(LTallTowers;II[J)I"⟩
def dkwX0_settle_0 : List UInt8 := [45, 3, 42, 27, 28, 182, 0, 37, 133, 80, 167, 0, 11, 58, 4, 4, 172, 58, 4, 5, 172, 3, 172]
abbrev dktX0_settle_0 : List UInt8 := dkwX0_settle_0 ++ []
theorem dksX0_settle_0 : cX0_settle.data.toList.drop 0 = dktX0_settle_0 := by decide +kernel
theorem dX0_settle_0 : decode cX0_settle 0 = .ok (.aload_n 3, 1) := dk_45 (dk_at dksX0_settle_0 0 rfl rfl)
theorem dX0_settle_1 : decode cX0_settle 1 = .ok (.iconst 0, 1) := dk_3 (dk_at dksX0_settle_0 1 rfl rfl)
theorem dX0_settle_2 : decode cX0_settle 2 = .ok (.aload_n 0, 1) := dk_42 (dk_at dksX0_settle_0 2 rfl rfl)
theorem dX0_settle_3 : decode cX0_settle 3 = .ok (.iload_n 1, 1) := dk_27 (dk_at dksX0_settle_0 3 rfl rfl)
theorem dX0_settle_4 : decode cX0_settle 4 = .ok (.iload_n 2, 1) := dk_28 (dk_at dksX0_settle_0 4 rfl rfl)
theorem dX0_settle_5 : decode cX0_settle 5 = .ok (.invokevirtual 37, 3) := dk_182 0 37 (dk_at dksX0_settle_0 5 rfl rfl)
theorem dX0_settle_8 : decode cX0_settle 8 = .ok (.i2l, 1) := dk_133 (dk_at dksX0_settle_0 8 rfl rfl)
theorem dX0_settle_9 : decode cX0_settle 9 = .ok (.lastore, 1) := dk_80 (dk_at dksX0_settle_0 9 rfl rfl)
theorem dX0_settle_10 : decode cX0_settle 10 = .ok (.goto 11, 3) := dk_167 0 11 (dk_at dksX0_settle_0 10 rfl rfl)
theorem dX0_settle_13 : decode cX0_settle 13 = .ok (.astore 4, 2) := dk_58 4 (dk_at dksX0_settle_0 13 rfl rfl)
theorem dX0_settle_15 : decode cX0_settle 15 = .ok (.iconst 1, 1) := dk_4 (dk_at dksX0_settle_0 15 rfl rfl)
theorem dX0_settle_16 : decode cX0_settle 16 = .ok (.ireturn, 1) := dk_172 (dk_at dksX0_settle_0 16 rfl rfl)
theorem dX0_settle_17 : decode cX0_settle 17 = .ok (.astore 4, 2) := dk_58 4 (dk_at dksX0_settle_0 17 rfl rfl)
theorem dX0_settle_19 : decode cX0_settle 19 = .ok (.iconst 2, 1) := dk_5 (dk_at dksX0_settle_0 19 rfl rfl)
theorem dX0_settle_20 : decode cX0_settle 20 = .ok (.ireturn, 1) := dk_172 (dk_at dksX0_settle_0 20 rfl rfl)
theorem dX0_settle_21 : decode cX0_settle 21 = .ok (.iconst 0, 1) := dk_3 (dk_at dksX0_settle_0 21 rfl rfl)
theorem dX0_settle_22 : decode cX0_settle 22 = .ok (.ireturn, 1) := dk_172 (dk_at dksX0_settle_0 22 rfl rfl)
abbrev cX0_fall : ByteArray := method_10_code
def yX0_fall : MethodName := ⟨RX0, "fall", "(LTallTowers;I[J)I"⟩
def dkwX0_fall_0 : List UInt8 := [44, 3, 42, 27, 182, 0, 41, 133, 80, 167, 0, 9, 78, 4, 172, 78, 5, 172, 3, 172]
abbrev dktX0_fall_0 : List UInt8 := dkwX0_fall_0 ++ []
theorem dksX0_fall_0 : cX0_fall.data.toList.drop 0 = dktX0_fall_0 := by decide +kernel
theorem dX0_fall_0 : decode cX0_fall 0 = .ok (.aload_n 2, 1) := dk_44 (dk_at dksX0_fall_0 0 rfl rfl)
theorem dX0_fall_1 : decode cX0_fall 1 = .ok (.iconst 0, 1) := dk_3 (dk_at dksX0_fall_0 1 rfl rfl)
theorem dX0_fall_2 : decode cX0_fall 2 = .ok (.aload_n 0, 1) := dk_42 (dk_at dksX0_fall_0 2 rfl rfl)
theorem dX0_fall_3 : decode cX0_fall 3 = .ok (.iload_n 1, 1) := dk_27 (dk_at dksX0_fall_0 3 rfl rfl)
theorem dX0_fall_4 : decode cX0_fall 4 = .ok (.invokevirtual 41, 3) := dk_182 0 41 (dk_at dksX0_fall_0 4 rfl rfl)
theorem dX0_fall_7 : decode cX0_fall 7 = .ok (.i2l, 1) := dk_133 (dk_at dksX0_fall_0 7 rfl rfl)
theorem dX0_fall_8 : decode cX0_fall 8 = .ok (.lastore, 1) := dk_80 (dk_at dksX0_fall_0 8 rfl rfl)
theorem dX0_fall_9 : decode cX0_fall 9 = .ok (.goto 9, 3) := dk_167 0 9 (dk_at dksX0_fall_0 9 rfl rfl)
theorem dX0_fall_12 : decode cX0_fall 12 = .ok (.astore_n 3, 1) := dk_78 (dk_at dksX0_fall_0 12 rfl rfl)
theorem dX0_fall_13 : decode cX0_fall 13 = .ok (.iconst 1, 1) := dk_4 (dk_at dksX0_fall_0 13 rfl rfl)
theorem dX0_fall_14 : decode cX0_fall 14 = .ok (.ireturn, 1) := dk_172 (dk_at dksX0_fall_0 14 rfl rfl)
theorem dX0_fall_15 : decode cX0_fall 15 = .ok (.astore_n 3, 1) := dk_78 (dk_at dksX0_fall_0 15 rfl rfl)
theorem dX0_fall_16 : decode cX0_fall 16 = .ok (.iconst 2, 1) := dk_5 (dk_at dksX0_fall_0 16 rfl rfl)
theorem dX0_fall_17 : decode cX0_fall 17 = .ok (.ireturn, 1) := dk_172 (dk_at dksX0_fall_0 17 rfl rfl)
theorem dX0_fall_18 : decode cX0_fall 18 = .ok (.iconst 0, 1) := dk_3 (dk_at dksX0_fall_0 18 rfl rfl)
theorem dX0_fall_19 : decode cX0_fall 19 = .ok (.ireturn, 1) := dk_172 (dk_at dksX0_fall_0 19 rfl rfl)
abbrev cX0_reopen : ByteArray := method_11_code
def yX0_reopen : MethodName := ⟨RX0, "reopen", "(LTallTowers;I[J)I"⟩
def dkwX0_reopen_0 : List UInt8 := [44, 3, 42, 27, 182, 0, 44, 80, 167, 0, 9, 78, 4, 172, 78, 5, 172, 3, 172]
abbrev dktX0_reopen_0 : List UInt8 := dkwX0_reopen_0 ++ []
theorem dksX0_reopen_0 : cX0_reopen.data.toList.drop 0 = dktX0_reopen_0 := by decide +kernel
theorem dX0_reopen_0 : decode cX0_reopen 0 = .ok (.aload_n 2, 1) := dk_44 (dk_at dksX0_reopen_0 0 rfl rfl)
theorem dX0_reopen_1 : decode cX0_reopen 1 = .ok (.iconst 0, 1) := dk_3 (dk_at dksX0_reopen_0 1 rfl rfl)
theorem dX0_reopen_2 : decode cX0_reopen 2 = .ok (.aload_n 0, 1) := dk_42 (dk_at dksX0_reopen_0 2 rfl rfl)
theorem dX0_reopen_3 : decode cX0_reopen 3 = .ok (.iload_n 1, 1) := dk_27 (dk_at dksX0_reopen_0 3 rfl rfl)
theorem dX0_reopen_4 : decode cX0_reopen 4 = .ok (.invokevirtual 44, 3) := dk_182 0 44 (dk_at dksX0_reopen_0 4 rfl rfl)
theorem dX0_reopen_7 : decode cX0_reopen 7 = .ok (.lastore, 1) := dk_80 (dk_at dksX0_reopen_0 7 rfl rfl)
theorem dX0_reopen_8 : decode cX0_reopen 8 = .ok (.goto 9, 3) := dk_167 0 9 (dk_at dksX0_reopen_0 8 rfl rfl)
theorem dX0_reopen_11 : decode cX0_reopen 11 = .ok (.astore_n 3, 1) := dk_78 (dk_at dksX0_reopen_0 11 rfl rfl)
theorem dX0_reopen_12 : decode cX0_reopen 12 = .ok (.iconst 1, 1) := dk_4 (dk_at dksX0_reopen_0 12 rfl rfl)
theorem dX0_reopen_13 : decode cX0_reopen 13 = .ok (.ireturn, 1) := dk_172 (dk_at dksX0_reopen_0 13 rfl rfl)
theorem dX0_reopen_14 : decode cX0_reopen 14 = .ok (.astore_n 3, 1) := dk_78 (dk_at dksX0_reopen_0 14 rfl rfl)
theorem dX0_reopen_15 : decode cX0_reopen 15 = .ok (.iconst 2, 1) := dk_5 (dk_at dksX0_reopen_0 15 rfl rfl)
theorem dX0_reopen_16 : decode cX0_reopen 16 = .ok (.ireturn, 1) := dk_172 (dk_at dksX0_reopen_0 16 rfl rfl)
theorem dX0_reopen_17 : decode cX0_reopen 17 = .ok (.iconst 0, 1) := dk_3 (dk_at dksX0_reopen_0 17 rfl rfl)
theorem dX0_reopen_18 : decode cX0_reopen 18 = .ok (.ireturn, 1) := dk_172 (dk_at dksX0_reopen_0 18 rfl rfl)
abbrev cX0_told : ByteArray := method_12_code
def yX0_told : MethodName := ⟨RX0, "told", "(LTallTowers;I[J)I"⟩
def dkwX0_told_0 : List UInt8 := [44, 3, 42, 27, 182, 0, 48, 133, 80, 167, 0, 6, 78, 4, 172, 3, 172]
abbrev dktX0_told_0 : List UInt8 := dkwX0_told_0 ++ []
theorem dksX0_told_0 : cX0_told.data.toList.drop 0 = dktX0_told_0 := by decide +kernel
theorem dX0_told_0 : decode cX0_told 0 = .ok (.aload_n 2, 1) := dk_44 (dk_at dksX0_told_0 0 rfl rfl)
theorem dX0_told_1 : decode cX0_told 1 = .ok (.iconst 0, 1) := dk_3 (dk_at dksX0_told_0 1 rfl rfl)
theorem dX0_told_2 : decode cX0_told 2 = .ok (.aload_n 0, 1) := dk_42 (dk_at dksX0_told_0 2 rfl rfl)
theorem dX0_told_3 : decode cX0_told 3 = .ok (.iload_n 1, 1) := dk_27 (dk_at dksX0_told_0 3 rfl rfl)
theorem dX0_told_4 : decode cX0_told 4 = .ok (.invokevirtual 48, 3) := dk_182 0 48 (dk_at dksX0_told_0 4 rfl rfl)
theorem dX0_told_7 : decode cX0_told 7 = .ok (.i2l, 1) := dk_133 (dk_at dksX0_told_0 7 rfl rfl)
theorem dX0_told_8 : decode cX0_told 8 = .ok (.lastore, 1) := dk_80 (dk_at dksX0_told_0 8 rfl rfl)
theorem dX0_told_9 : decode cX0_told 9 = .ok (.goto 6, 3) := dk_167 0 6 (dk_at dksX0_told_0 9 rfl rfl)
theorem dX0_told_12 : decode cX0_told 12 = .ok (.astore_n 3, 1) := dk_78 (dk_at dksX0_told_0 12 rfl rfl)
theorem dX0_told_13 : decode cX0_told 13 = .ok (.iconst 1, 1) := dk_4 (dk_at dksX0_told_0 13 rfl rfl)
theorem dX0_told_14 : decode cX0_told 14 = .ok (.ireturn, 1) := dk_172 (dk_at dksX0_told_0 14 rfl rfl)
theorem dX0_told_15 : decode cX0_told 15 = .ok (.iconst 0, 1) := dk_3 (dk_at dksX0_told_0 15 rfl rfl)
theorem dX0_told_16 : decode cX0_told 16 = .ok (.ireturn, 1) := dk_172 (dk_at dksX0_told_0 16 rfl rfl)
abbrev cX0_event : ByteArray := method_13_code
def yX0_event : MethodName := ⟨RX0, "event", "(LTallTowers;II[J)I"⟩
def dkwX0_event_0 : List UInt8 := [45, 3, 42, 27, 28, 182, 0, 51, 133, 80, 167, 0, 11, 58, 4, 4, 172, 58, 4, 5, 172, 3, 172]
abbrev dktX0_event_0 : List UInt8 := dkwX0_event_0 ++ []
theorem dksX0_event_0 : cX0_event.data.toList.drop 0 = dktX0_event_0 := by decide +kernel
theorem dX0_event_0 : decode cX0_event 0 = .ok (.aload_n 3, 1) := dk_45 (dk_at dksX0_event_0 0 rfl rfl)
theorem dX0_event_1 : decode cX0_event 1 = .ok (.iconst 0, 1) := dk_3 (dk_at dksX0_event_0 1 rfl rfl)
theorem dX0_event_2 : decode cX0_event 2 = .ok (.aload_n 0, 1) := dk_42 (dk_at dksX0_event_0 2 rfl rfl)
theorem dX0_event_3 : decode cX0_event 3 = .ok (.iload_n 1, 1) := dk_27 (dk_at dksX0_event_0 3 rfl rfl)
theorem dX0_event_4 : decode cX0_event 4 = .ok (.iload_n 2, 1) := dk_28 (dk_at dksX0_event_0 4 rfl rfl)
theorem dX0_event_5 : decode cX0_event 5 = .ok (.invokevirtual 51, 3) := dk_182 0 51 (dk_at dksX0_event_0 5 rfl rfl)
theorem dX0_event_8 : decode cX0_event 8 = .ok (.i2l, 1) := dk_133 (dk_at dksX0_event_0 8 rfl rfl)
theorem dX0_event_9 : decode cX0_event 9 = .ok (.lastore, 1) := dk_80 (dk_at dksX0_event_0 9 rfl rfl)
theorem dX0_event_10 : decode cX0_event 10 = .ok (.goto 11, 3) := dk_167 0 11 (dk_at dksX0_event_0 10 rfl rfl)
theorem dX0_event_13 : decode cX0_event 13 = .ok (.astore 4, 2) := dk_58 4 (dk_at dksX0_event_0 13 rfl rfl)
theorem dX0_event_15 : decode cX0_event 15 = .ok (.iconst 1, 1) := dk_4 (dk_at dksX0_event_0 15 rfl rfl)
theorem dX0_event_16 : decode cX0_event 16 = .ok (.ireturn, 1) := dk_172 (dk_at dksX0_event_0 16 rfl rfl)
theorem dX0_event_17 : decode cX0_event 17 = .ok (.astore 4, 2) := dk_58 4 (dk_at dksX0_event_0 17 rfl rfl)
theorem dX0_event_19 : decode cX0_event 19 = .ok (.iconst 2, 1) := dk_5 (dk_at dksX0_event_0 19 rfl rfl)
theorem dX0_event_20 : decode cX0_event 20 = .ok (.ireturn, 1) := dk_172 (dk_at dksX0_event_0 20 rfl rfl)
theorem dX0_event_21 : decode cX0_event 21 = .ok (.iconst 0, 1) := dk_3 (dk_at dksX0_event_0 21 rfl rfl)
theorem dX0_event_22 : decode cX0_event 22 = .ok (.ireturn, 1) := dk_172 (dk_at dksX0_event_0 22 rfl rfl)
abbrev cX0_layer : ByteArray := method_14_code
def yX0_layer : MethodName := ⟨RX0, "layer", "(LTallTowers;II[J)I"⟩
def dkwX0_layer_0 : List UInt8 := [45, 3, 42, 27, 28, 182, 0, 54, 80, 167, 0, 11, 58, 4, 4, 172, 58, 4, 5, 172, 3, 172]
abbrev dktX0_layer_0 : List UInt8 := dkwX0_layer_0 ++ []
theorem dksX0_layer_0 : cX0_layer.data.toList.drop 0 = dktX0_layer_0 := by decide +kernel
theorem dX0_layer_0 : decode cX0_layer 0 = .ok (.aload_n 3, 1) := dk_45 (dk_at dksX0_layer_0 0 rfl rfl)
theorem dX0_layer_1 : decode cX0_layer 1 = .ok (.iconst 0, 1) := dk_3 (dk_at dksX0_layer_0 1 rfl rfl)
theorem dX0_layer_2 : decode cX0_layer 2 = .ok (.aload_n 0, 1) := dk_42 (dk_at dksX0_layer_0 2 rfl rfl)
theorem dX0_layer_3 : decode cX0_layer 3 = .ok (.iload_n 1, 1) := dk_27 (dk_at dksX0_layer_0 3 rfl rfl)
theorem dX0_layer_4 : decode cX0_layer 4 = .ok (.iload_n 2, 1) := dk_28 (dk_at dksX0_layer_0 4 rfl rfl)
theorem dX0_layer_5 : decode cX0_layer 5 = .ok (.invokevirtual 54, 3) := dk_182 0 54 (dk_at dksX0_layer_0 5 rfl rfl)
theorem dX0_layer_8 : decode cX0_layer 8 = .ok (.lastore, 1) := dk_80 (dk_at dksX0_layer_0 8 rfl rfl)
theorem dX0_layer_9 : decode cX0_layer 9 = .ok (.goto 11, 3) := dk_167 0 11 (dk_at dksX0_layer_0 9 rfl rfl)
theorem dX0_layer_12 : decode cX0_layer 12 = .ok (.astore 4, 2) := dk_58 4 (dk_at dksX0_layer_0 12 rfl rfl)
theorem dX0_layer_14 : decode cX0_layer 14 = .ok (.iconst 1, 1) := dk_4 (dk_at dksX0_layer_0 14 rfl rfl)
theorem dX0_layer_15 : decode cX0_layer 15 = .ok (.ireturn, 1) := dk_172 (dk_at dksX0_layer_0 15 rfl rfl)
theorem dX0_layer_16 : decode cX0_layer 16 = .ok (.astore 4, 2) := dk_58 4 (dk_at dksX0_layer_0 16 rfl rfl)
theorem dX0_layer_18 : decode cX0_layer 18 = .ok (.iconst 2, 1) := dk_5 (dk_at dksX0_layer_0 18 rfl rfl)
theorem dX0_layer_19 : decode cX0_layer 19 = .ok (.ireturn, 1) := dk_172 (dk_at dksX0_layer_0 19 rfl rfl)
theorem dX0_layer_20 : decode cX0_layer 20 = .ok (.iconst 0, 1) := dk_3 (dk_at dksX0_layer_0 20 rfl rfl)
theorem dX0_layer_21 : decode cX0_layer 21 = .ok (.ireturn, 1) := dk_172 (dk_at dksX0_layer_0 21 rfl rfl)
abbrev cX0_signed : ByteArray := method_15_code
def yX0_signed : MethodName := ⟨RX0, "signed", "(LTallTowers;III[J)I"⟩
def dkwX0_signed_0 : List UInt8 := [25, 4, 3, 42, 27, 28, 29, 182, 0, 57, 80, 167, 0, 11, 58, 5, 4, 172, 58, 5, 5, 172, 3, 172]
abbrev dktX0_signed_0 : List UInt8 := dkwX0_signed_0 ++ []
theorem dksX0_signed_0 : cX0_signed.data.toList.drop 0 = dktX0_signed_0 := by decide +kernel
theorem dX0_signed_0 : decode cX0_signed 0 = .ok (.aload 4, 2) := dk_25 4 (dk_at dksX0_signed_0 0 rfl rfl)
theorem dX0_signed_2 : decode cX0_signed 2 = .ok (.iconst 0, 1) := dk_3 (dk_at dksX0_signed_0 2 rfl rfl)
theorem dX0_signed_3 : decode cX0_signed 3 = .ok (.aload_n 0, 1) := dk_42 (dk_at dksX0_signed_0 3 rfl rfl)
theorem dX0_signed_4 : decode cX0_signed 4 = .ok (.iload_n 1, 1) := dk_27 (dk_at dksX0_signed_0 4 rfl rfl)
theorem dX0_signed_5 : decode cX0_signed 5 = .ok (.iload_n 2, 1) := dk_28 (dk_at dksX0_signed_0 5 rfl rfl)
theorem dX0_signed_6 : decode cX0_signed 6 = .ok (.iload_n 3, 1) := dk_29 (dk_at dksX0_signed_0 6 rfl rfl)
theorem dX0_signed_7 : decode cX0_signed 7 = .ok (.invokevirtual 57, 3) := dk_182 0 57 (dk_at dksX0_signed_0 7 rfl rfl)
theorem dX0_signed_10 : decode cX0_signed 10 = .ok (.lastore, 1) := dk_80 (dk_at dksX0_signed_0 10 rfl rfl)
theorem dX0_signed_11 : decode cX0_signed 11 = .ok (.goto 11, 3) := dk_167 0 11 (dk_at dksX0_signed_0 11 rfl rfl)
theorem dX0_signed_14 : decode cX0_signed 14 = .ok (.astore 5, 2) := dk_58 5 (dk_at dksX0_signed_0 14 rfl rfl)
theorem dX0_signed_16 : decode cX0_signed 16 = .ok (.iconst 1, 1) := dk_4 (dk_at dksX0_signed_0 16 rfl rfl)
theorem dX0_signed_17 : decode cX0_signed 17 = .ok (.ireturn, 1) := dk_172 (dk_at dksX0_signed_0 17 rfl rfl)
theorem dX0_signed_18 : decode cX0_signed 18 = .ok (.astore 5, 2) := dk_58 5 (dk_at dksX0_signed_0 18 rfl rfl)
theorem dX0_signed_20 : decode cX0_signed 20 = .ok (.iconst 2, 1) := dk_5 (dk_at dksX0_signed_0 20 rfl rfl)
theorem dX0_signed_21 : decode cX0_signed 21 = .ok (.ireturn, 1) := dk_172 (dk_at dksX0_signed_0 21 rfl rfl)
theorem dX0_signed_22 : decode cX0_signed 22 = .ok (.iconst 0, 1) := dk_3 (dk_at dksX0_signed_0 22 rfl rfl)
theorem dX0_signed_23 : decode cX0_signed 23 = .ok (.ireturn, 1) := dk_172 (dk_at dksX0_signed_0 23 rfl rfl)
abbrev cX0_year : ByteArray := method_16_code
def yX0_year : MethodName := ⟨RX0, "year", "(LTallTowers;II[J)I"⟩
def dkwX0_year_0 : List UInt8 := [45, 3, 42, 27, 28, 182, 0, 61, 80, 167, 0, 7, 58, 4, 4, 172, 3, 172]
abbrev dktX0_year_0 : List UInt8 := dkwX0_year_0 ++ []
theorem dksX0_year_0 : cX0_year.data.toList.drop 0 = dktX0_year_0 := by decide +kernel
theorem dX0_year_0 : decode cX0_year 0 = .ok (.aload_n 3, 1) := dk_45 (dk_at dksX0_year_0 0 rfl rfl)
theorem dX0_year_1 : decode cX0_year 1 = .ok (.iconst 0, 1) := dk_3 (dk_at dksX0_year_0 1 rfl rfl)
theorem dX0_year_2 : decode cX0_year 2 = .ok (.aload_n 0, 1) := dk_42 (dk_at dksX0_year_0 2 rfl rfl)
theorem dX0_year_3 : decode cX0_year 3 = .ok (.iload_n 1, 1) := dk_27 (dk_at dksX0_year_0 3 rfl rfl)
theorem dX0_year_4 : decode cX0_year 4 = .ok (.iload_n 2, 1) := dk_28 (dk_at dksX0_year_0 4 rfl rfl)
theorem dX0_year_5 : decode cX0_year 5 = .ok (.invokevirtual 61, 3) := dk_182 0 61 (dk_at dksX0_year_0 5 rfl rfl)
theorem dX0_year_8 : decode cX0_year 8 = .ok (.lastore, 1) := dk_80 (dk_at dksX0_year_0 8 rfl rfl)
theorem dX0_year_9 : decode cX0_year 9 = .ok (.goto 7, 3) := dk_167 0 7 (dk_at dksX0_year_0 9 rfl rfl)
theorem dX0_year_12 : decode cX0_year 12 = .ok (.astore 4, 2) := dk_58 4 (dk_at dksX0_year_0 12 rfl rfl)
theorem dX0_year_14 : decode cX0_year 14 = .ok (.iconst 1, 1) := dk_4 (dk_at dksX0_year_0 14 rfl rfl)
theorem dX0_year_15 : decode cX0_year 15 = .ok (.ireturn, 1) := dk_172 (dk_at dksX0_year_0 15 rfl rfl)
theorem dX0_year_16 : decode cX0_year 16 = .ok (.iconst 0, 1) := dk_3 (dk_at dksX0_year_0 16 rfl rfl)
theorem dX0_year_17 : decode cX0_year 17 = .ok (.ireturn, 1) := dk_172 (dk_at dksX0_year_0 17 rfl rfl)
abbrev cX0_at : ByteArray := method_17_code
def yX0_at : MethodName := ⟨RX0, "at", "(LTallTowers;II[J)I"⟩
def dkwX0_at_0 : List UInt8 := [45, 3, 42, 27, 28, 182, 0, 64, 133, 80, 167, 0, 7, 58, 4, 4, 172, 3, 172]
abbrev dktX0_at_0 : List UInt8 := dkwX0_at_0 ++ []
theorem dksX0_at_0 : cX0_at.data.toList.drop 0 = dktX0_at_0 := by decide +kernel
theorem dX0_at_0 : decode cX0_at 0 = .ok (.aload_n 3, 1) := dk_45 (dk_at dksX0_at_0 0 rfl rfl)
theorem dX0_at_1 : decode cX0_at 1 = .ok (.iconst 0, 1) := dk_3 (dk_at dksX0_at_0 1 rfl rfl)
theorem dX0_at_2 : decode cX0_at 2 = .ok (.aload_n 0, 1) := dk_42 (dk_at dksX0_at_0 2 rfl rfl)
theorem dX0_at_3 : decode cX0_at 3 = .ok (.iload_n 1, 1) := dk_27 (dk_at dksX0_at_0 3 rfl rfl)
theorem dX0_at_4 : decode cX0_at 4 = .ok (.iload_n 2, 1) := dk_28 (dk_at dksX0_at_0 4 rfl rfl)
theorem dX0_at_5 : decode cX0_at 5 = .ok (.invokevirtual 64, 3) := dk_182 0 64 (dk_at dksX0_at_0 5 rfl rfl)
theorem dX0_at_8 : decode cX0_at 8 = .ok (.i2l, 1) := dk_133 (dk_at dksX0_at_0 8 rfl rfl)
theorem dX0_at_9 : decode cX0_at 9 = .ok (.lastore, 1) := dk_80 (dk_at dksX0_at_0 9 rfl rfl)
theorem dX0_at_10 : decode cX0_at 10 = .ok (.goto 7, 3) := dk_167 0 7 (dk_at dksX0_at_0 10 rfl rfl)
theorem dX0_at_13 : decode cX0_at 13 = .ok (.astore 4, 2) := dk_58 4 (dk_at dksX0_at_0 13 rfl rfl)
theorem dX0_at_15 : decode cX0_at 15 = .ok (.iconst 1, 1) := dk_4 (dk_at dksX0_at_0 15 rfl rfl)
theorem dX0_at_16 : decode cX0_at 16 = .ok (.ireturn, 1) := dk_172 (dk_at dksX0_at_0 16 rfl rfl)
theorem dX0_at_17 : decode cX0_at 17 = .ok (.iconst 0, 1) := dk_3 (dk_at dksX0_at_0 17 rfl rfl)
theorem dX0_at_18 : decode cX0_at 18 = .ok (.ireturn, 1) := dk_172 (dk_at dksX0_at_0 18 rfl rfl)
abbrev cX0_rung : ByteArray := method_18_code
def yX0_rung : MethodName := ⟨RX0, "rung", "(LTallTowers;II[J)I"⟩
def dkwX0_rung_0 : List UInt8 := [45, 3, 42, 27, 28, 182, 0, 67, 133, 80, 167, 0, 7, 58, 4, 4, 172, 3, 172]
abbrev dktX0_rung_0 : List UInt8 := dkwX0_rung_0 ++ []
theorem dksX0_rung_0 : cX0_rung.data.toList.drop 0 = dktX0_rung_0 := by decide +kernel
theorem dX0_rung_0 : decode cX0_rung 0 = .ok (.aload_n 3, 1) := dk_45 (dk_at dksX0_rung_0 0 rfl rfl)
theorem dX0_rung_1 : decode cX0_rung 1 = .ok (.iconst 0, 1) := dk_3 (dk_at dksX0_rung_0 1 rfl rfl)
theorem dX0_rung_2 : decode cX0_rung 2 = .ok (.aload_n 0, 1) := dk_42 (dk_at dksX0_rung_0 2 rfl rfl)
theorem dX0_rung_3 : decode cX0_rung 3 = .ok (.iload_n 1, 1) := dk_27 (dk_at dksX0_rung_0 3 rfl rfl)
theorem dX0_rung_4 : decode cX0_rung 4 = .ok (.iload_n 2, 1) := dk_28 (dk_at dksX0_rung_0 4 rfl rfl)
theorem dX0_rung_5 : decode cX0_rung 5 = .ok (.invokevirtual 67, 3) := dk_182 0 67 (dk_at dksX0_rung_0 5 rfl rfl)
theorem dX0_rung_8 : decode cX0_rung 8 = .ok (.i2l, 1) := dk_133 (dk_at dksX0_rung_0 8 rfl rfl)
theorem dX0_rung_9 : decode cX0_rung 9 = .ok (.lastore, 1) := dk_80 (dk_at dksX0_rung_0 9 rfl rfl)
theorem dX0_rung_10 : decode cX0_rung 10 = .ok (.goto 7, 3) := dk_167 0 7 (dk_at dksX0_rung_0 10 rfl rfl)
theorem dX0_rung_13 : decode cX0_rung 13 = .ok (.astore 4, 2) := dk_58 4 (dk_at dksX0_rung_0 13 rfl rfl)
theorem dX0_rung_15 : decode cX0_rung 15 = .ok (.iconst 1, 1) := dk_4 (dk_at dksX0_rung_0 15 rfl rfl)
theorem dX0_rung_16 : decode cX0_rung 16 = .ok (.ireturn, 1) := dk_172 (dk_at dksX0_rung_0 16 rfl rfl)
theorem dX0_rung_17 : decode cX0_rung 17 = .ok (.iconst 0, 1) := dk_3 (dk_at dksX0_rung_0 17 rfl rfl)
theorem dX0_rung_18 : decode cX0_rung 18 = .ok (.ireturn, 1) := dk_172 (dk_at dksX0_rung_0 18 rfl rfl)
abbrev cX0_damage : ByteArray := method_19_code
def yX0_damage : MethodName := ⟨RX0, "damage", "(LTallTowers;II[J)I"⟩
def dkwX0_damage_0 : List UInt8 := [45, 3, 42, 27, 28, 182, 0, 70, 80, 167, 0, 11, 58, 4, 4, 172, 58, 4, 5, 172, 3, 172]
abbrev dktX0_damage_0 : List UInt8 := dkwX0_damage_0 ++ []
theorem dksX0_damage_0 : cX0_damage.data.toList.drop 0 = dktX0_damage_0 := by decide +kernel
theorem dX0_damage_0 : decode cX0_damage 0 = .ok (.aload_n 3, 1) := dk_45 (dk_at dksX0_damage_0 0 rfl rfl)
theorem dX0_damage_1 : decode cX0_damage 1 = .ok (.iconst 0, 1) := dk_3 (dk_at dksX0_damage_0 1 rfl rfl)
theorem dX0_damage_2 : decode cX0_damage 2 = .ok (.aload_n 0, 1) := dk_42 (dk_at dksX0_damage_0 2 rfl rfl)
theorem dX0_damage_3 : decode cX0_damage 3 = .ok (.iload_n 1, 1) := dk_27 (dk_at dksX0_damage_0 3 rfl rfl)
theorem dX0_damage_4 : decode cX0_damage 4 = .ok (.iload_n 2, 1) := dk_28 (dk_at dksX0_damage_0 4 rfl rfl)
theorem dX0_damage_5 : decode cX0_damage 5 = .ok (.invokevirtual 70, 3) := dk_182 0 70 (dk_at dksX0_damage_0 5 rfl rfl)
theorem dX0_damage_8 : decode cX0_damage 8 = .ok (.lastore, 1) := dk_80 (dk_at dksX0_damage_0 8 rfl rfl)
theorem dX0_damage_9 : decode cX0_damage 9 = .ok (.goto 11, 3) := dk_167 0 11 (dk_at dksX0_damage_0 9 rfl rfl)
theorem dX0_damage_12 : decode cX0_damage 12 = .ok (.astore 4, 2) := dk_58 4 (dk_at dksX0_damage_0 12 rfl rfl)
theorem dX0_damage_14 : decode cX0_damage 14 = .ok (.iconst 1, 1) := dk_4 (dk_at dksX0_damage_0 14 rfl rfl)
theorem dX0_damage_15 : decode cX0_damage 15 = .ok (.ireturn, 1) := dk_172 (dk_at dksX0_damage_0 15 rfl rfl)
theorem dX0_damage_16 : decode cX0_damage 16 = .ok (.astore 4, 2) := dk_58 4 (dk_at dksX0_damage_0 16 rfl rfl)
theorem dX0_damage_18 : decode cX0_damage 18 = .ok (.iconst 2, 1) := dk_5 (dk_at dksX0_damage_0 18 rfl rfl)
theorem dX0_damage_19 : decode cX0_damage 19 = .ok (.ireturn, 1) := dk_172 (dk_at dksX0_damage_0 19 rfl rfl)
theorem dX0_damage_20 : decode cX0_damage 20 = .ok (.iconst 0, 1) := dk_3 (dk_at dksX0_damage_0 20 rfl rfl)
theorem dX0_damage_21 : decode cX0_damage 21 = .ok (.ireturn, 1) := dk_172 (dk_at dksX0_damage_0 21 rfl rfl)
abbrev cX0_took : ByteArray := method_20_code
def yX0_took : MethodName := ⟨RX0, "took", "(LTallTowers;II[J)I"⟩
def dkwX0_took_0 : List UInt8 := [45, 3, 42, 27, 28, 182, 0, 73, 80, 167, 0, 7, 58, 4, 4, 172, 3, 172]
abbrev dktX0_took_0 : List UInt8 := dkwX0_took_0 ++ []
theorem dksX0_took_0 : cX0_took.data.toList.drop 0 = dktX0_took_0 := by decide +kernel
theorem dX0_took_0 : decode cX0_took 0 = .ok (.aload_n 3, 1) := dk_45 (dk_at dksX0_took_0 0 rfl rfl)
theorem dX0_took_1 : decode cX0_took 1 = .ok (.iconst 0, 1) := dk_3 (dk_at dksX0_took_0 1 rfl rfl)
theorem dX0_took_2 : decode cX0_took 2 = .ok (.aload_n 0, 1) := dk_42 (dk_at dksX0_took_0 2 rfl rfl)
theorem dX0_took_3 : decode cX0_took 3 = .ok (.iload_n 1, 1) := dk_27 (dk_at dksX0_took_0 3 rfl rfl)
theorem dX0_took_4 : decode cX0_took 4 = .ok (.iload_n 2, 1) := dk_28 (dk_at dksX0_took_0 4 rfl rfl)
theorem dX0_took_5 : decode cX0_took 5 = .ok (.invokevirtual 73, 3) := dk_182 0 73 (dk_at dksX0_took_0 5 rfl rfl)
theorem dX0_took_8 : decode cX0_took 8 = .ok (.lastore, 1) := dk_80 (dk_at dksX0_took_0 8 rfl rfl)
theorem dX0_took_9 : decode cX0_took 9 = .ok (.goto 7, 3) := dk_167 0 7 (dk_at dksX0_took_0 9 rfl rfl)
theorem dX0_took_12 : decode cX0_took 12 = .ok (.astore 4, 2) := dk_58 4 (dk_at dksX0_took_0 12 rfl rfl)
theorem dX0_took_14 : decode cX0_took 14 = .ok (.iconst 1, 1) := dk_4 (dk_at dksX0_took_0 14 rfl rfl)
theorem dX0_took_15 : decode cX0_took 15 = .ok (.ireturn, 1) := dk_172 (dk_at dksX0_took_0 15 rfl rfl)
theorem dX0_took_16 : decode cX0_took 16 = .ok (.iconst 0, 1) := dk_3 (dk_at dksX0_took_0 16 rfl rfl)
theorem dX0_took_17 : decode cX0_took 17 = .ok (.ireturn, 1) := dk_172 (dk_at dksX0_took_0 17 rfl rfl)
abbrev cX0_hole : ByteArray := method_21_code
def yX0_hole : MethodName := ⟨RX0, "hole", "(LTallTowers;II[J)I"⟩
def dkwX0_hole_0 : List UInt8 := [45, 3, 42, 27, 28, 182, 0, 76, 80, 167, 0, 7, 58, 4, 4, 172, 3, 172]
abbrev dktX0_hole_0 : List UInt8 := dkwX0_hole_0 ++ []
theorem dksX0_hole_0 : cX0_hole.data.toList.drop 0 = dktX0_hole_0 := by decide +kernel
theorem dX0_hole_0 : decode cX0_hole 0 = .ok (.aload_n 3, 1) := dk_45 (dk_at dksX0_hole_0 0 rfl rfl)
theorem dX0_hole_1 : decode cX0_hole 1 = .ok (.iconst 0, 1) := dk_3 (dk_at dksX0_hole_0 1 rfl rfl)
theorem dX0_hole_2 : decode cX0_hole 2 = .ok (.aload_n 0, 1) := dk_42 (dk_at dksX0_hole_0 2 rfl rfl)
theorem dX0_hole_3 : decode cX0_hole 3 = .ok (.iload_n 1, 1) := dk_27 (dk_at dksX0_hole_0 3 rfl rfl)
theorem dX0_hole_4 : decode cX0_hole 4 = .ok (.iload_n 2, 1) := dk_28 (dk_at dksX0_hole_0 4 rfl rfl)
theorem dX0_hole_5 : decode cX0_hole 5 = .ok (.invokevirtual 76, 3) := dk_182 0 76 (dk_at dksX0_hole_0 5 rfl rfl)
theorem dX0_hole_8 : decode cX0_hole 8 = .ok (.lastore, 1) := dk_80 (dk_at dksX0_hole_0 8 rfl rfl)
theorem dX0_hole_9 : decode cX0_hole 9 = .ok (.goto 7, 3) := dk_167 0 7 (dk_at dksX0_hole_0 9 rfl rfl)
theorem dX0_hole_12 : decode cX0_hole 12 = .ok (.astore 4, 2) := dk_58 4 (dk_at dksX0_hole_0 12 rfl rfl)
theorem dX0_hole_14 : decode cX0_hole 14 = .ok (.iconst 1, 1) := dk_4 (dk_at dksX0_hole_0 14 rfl rfl)
theorem dX0_hole_15 : decode cX0_hole 15 = .ok (.ireturn, 1) := dk_172 (dk_at dksX0_hole_0 15 rfl rfl)
theorem dX0_hole_16 : decode cX0_hole 16 = .ok (.iconst 0, 1) := dk_3 (dk_at dksX0_hole_0 16 rfl rfl)
theorem dX0_hole_17 : decode cX0_hole 17 = .ok (.ireturn, 1) := dk_172 (dk_at dksX0_hole_0 17 rfl rfl)
abbrev cX0_moved : ByteArray := method_22_code
def yX0_moved : MethodName := ⟨RX0, "moved", "(LTallTowers;II[J)I"⟩
def dkwX0_moved_0 : List UInt8 := [45, 3, 42, 27, 28, 182, 0, 79, 80, 167, 0, 7, 58, 4, 4, 172, 3, 172]
abbrev dktX0_moved_0 : List UInt8 := dkwX0_moved_0 ++ []
theorem dksX0_moved_0 : cX0_moved.data.toList.drop 0 = dktX0_moved_0 := by decide +kernel
theorem dX0_moved_0 : decode cX0_moved 0 = .ok (.aload_n 3, 1) := dk_45 (dk_at dksX0_moved_0 0 rfl rfl)
theorem dX0_moved_1 : decode cX0_moved 1 = .ok (.iconst 0, 1) := dk_3 (dk_at dksX0_moved_0 1 rfl rfl)
theorem dX0_moved_2 : decode cX0_moved 2 = .ok (.aload_n 0, 1) := dk_42 (dk_at dksX0_moved_0 2 rfl rfl)
theorem dX0_moved_3 : decode cX0_moved 3 = .ok (.iload_n 1, 1) := dk_27 (dk_at dksX0_moved_0 3 rfl rfl)
theorem dX0_moved_4 : decode cX0_moved 4 = .ok (.iload_n 2, 1) := dk_28 (dk_at dksX0_moved_0 4 rfl rfl)
theorem dX0_moved_5 : decode cX0_moved 5 = .ok (.invokevirtual 79, 3) := dk_182 0 79 (dk_at dksX0_moved_0 5 rfl rfl)
theorem dX0_moved_8 : decode cX0_moved 8 = .ok (.lastore, 1) := dk_80 (dk_at dksX0_moved_0 8 rfl rfl)
theorem dX0_moved_9 : decode cX0_moved 9 = .ok (.goto 7, 3) := dk_167 0 7 (dk_at dksX0_moved_0 9 rfl rfl)
theorem dX0_moved_12 : decode cX0_moved 12 = .ok (.astore 4, 2) := dk_58 4 (dk_at dksX0_moved_0 12 rfl rfl)
theorem dX0_moved_14 : decode cX0_moved 14 = .ok (.iconst 1, 1) := dk_4 (dk_at dksX0_moved_0 14 rfl rfl)
theorem dX0_moved_15 : decode cX0_moved 15 = .ok (.ireturn, 1) := dk_172 (dk_at dksX0_moved_0 15 rfl rfl)
theorem dX0_moved_16 : decode cX0_moved 16 = .ok (.iconst 0, 1) := dk_3 (dk_at dksX0_moved_0 16 rfl rfl)
theorem dX0_moved_17 : decode cX0_moved 17 = .ok (.ireturn, 1) := dk_172 (dk_at dksX0_moved_0 17 rfl rfl)
abbrev cX0_bears : ByteArray := method_23_code
def yX0_bears : MethodName := ⟨RX0, "bears", "(LTallTowers;II[J)I"⟩
def dkwX0_bears_0 : List UInt8 := [45, 3, 42, 27, 28, 182, 0, 82, 80, 167, 0, 11, 58, 4, 4, 172, 58, 4, 5, 172, 3, 172]
abbrev dktX0_bears_0 : List UInt8 := dkwX0_bears_0 ++ []
theorem dksX0_bears_0 : cX0_bears.data.toList.drop 0 = dktX0_bears_0 := by decide +kernel
theorem dX0_bears_0 : decode cX0_bears 0 = .ok (.aload_n 3, 1) := dk_45 (dk_at dksX0_bears_0 0 rfl rfl)
theorem dX0_bears_1 : decode cX0_bears 1 = .ok (.iconst 0, 1) := dk_3 (dk_at dksX0_bears_0 1 rfl rfl)
theorem dX0_bears_2 : decode cX0_bears 2 = .ok (.aload_n 0, 1) := dk_42 (dk_at dksX0_bears_0 2 rfl rfl)
theorem dX0_bears_3 : decode cX0_bears 3 = .ok (.iload_n 1, 1) := dk_27 (dk_at dksX0_bears_0 3 rfl rfl)
theorem dX0_bears_4 : decode cX0_bears 4 = .ok (.iload_n 2, 1) := dk_28 (dk_at dksX0_bears_0 4 rfl rfl)
theorem dX0_bears_5 : decode cX0_bears 5 = .ok (.invokevirtual 82, 3) := dk_182 0 82 (dk_at dksX0_bears_0 5 rfl rfl)
theorem dX0_bears_8 : decode cX0_bears 8 = .ok (.lastore, 1) := dk_80 (dk_at dksX0_bears_0 8 rfl rfl)
theorem dX0_bears_9 : decode cX0_bears 9 = .ok (.goto 11, 3) := dk_167 0 11 (dk_at dksX0_bears_0 9 rfl rfl)
theorem dX0_bears_12 : decode cX0_bears 12 = .ok (.astore 4, 2) := dk_58 4 (dk_at dksX0_bears_0 12 rfl rfl)
theorem dX0_bears_14 : decode cX0_bears 14 = .ok (.iconst 1, 1) := dk_4 (dk_at dksX0_bears_0 14 rfl rfl)
theorem dX0_bears_15 : decode cX0_bears 15 = .ok (.ireturn, 1) := dk_172 (dk_at dksX0_bears_0 15 rfl rfl)
theorem dX0_bears_16 : decode cX0_bears 16 = .ok (.astore 4, 2) := dk_58 4 (dk_at dksX0_bears_0 16 rfl rfl)
theorem dX0_bears_18 : decode cX0_bears 18 = .ok (.iconst 2, 1) := dk_5 (dk_at dksX0_bears_0 18 rfl rfl)
theorem dX0_bears_19 : decode cX0_bears 19 = .ok (.ireturn, 1) := dk_172 (dk_at dksX0_bears_0 19 rfl rfl)
theorem dX0_bears_20 : decode cX0_bears 20 = .ok (.iconst 0, 1) := dk_3 (dk_at dksX0_bears_0 20 rfl rfl)
theorem dX0_bears_21 : decode cX0_bears 21 = .ok (.ireturn, 1) := dk_172 (dk_at dksX0_bears_0 21 rfl rfl)
abbrev cX0_falls : ByteArray := method_24_code
def yX0_falls : MethodName := ⟨RX0, "falls", "(LTallTowers;II[J)I"⟩
def dkwX0_falls_0 : List UInt8 := [45, 3, 42, 27, 28, 182, 0, 85, 80, 167, 0, 11, 58, 4, 4, 172, 58, 4, 5, 172, 3, 172]
abbrev dktX0_falls_0 : List UInt8 := dkwX0_falls_0 ++ []
theorem dksX0_falls_0 : cX0_falls.data.toList.drop 0 = dktX0_falls_0 := by decide +kernel
theorem dX0_falls_0 : decode cX0_falls 0 = .ok (.aload_n 3, 1) := dk_45 (dk_at dksX0_falls_0 0 rfl rfl)
theorem dX0_falls_1 : decode cX0_falls 1 = .ok (.iconst 0, 1) := dk_3 (dk_at dksX0_falls_0 1 rfl rfl)
theorem dX0_falls_2 : decode cX0_falls 2 = .ok (.aload_n 0, 1) := dk_42 (dk_at dksX0_falls_0 2 rfl rfl)
theorem dX0_falls_3 : decode cX0_falls 3 = .ok (.iload_n 1, 1) := dk_27 (dk_at dksX0_falls_0 3 rfl rfl)
theorem dX0_falls_4 : decode cX0_falls 4 = .ok (.iload_n 2, 1) := dk_28 (dk_at dksX0_falls_0 4 rfl rfl)
theorem dX0_falls_5 : decode cX0_falls 5 = .ok (.invokevirtual 85, 3) := dk_182 0 85 (dk_at dksX0_falls_0 5 rfl rfl)
theorem dX0_falls_8 : decode cX0_falls 8 = .ok (.lastore, 1) := dk_80 (dk_at dksX0_falls_0 8 rfl rfl)
theorem dX0_falls_9 : decode cX0_falls 9 = .ok (.goto 11, 3) := dk_167 0 11 (dk_at dksX0_falls_0 9 rfl rfl)
theorem dX0_falls_12 : decode cX0_falls 12 = .ok (.astore 4, 2) := dk_58 4 (dk_at dksX0_falls_0 12 rfl rfl)
theorem dX0_falls_14 : decode cX0_falls 14 = .ok (.iconst 1, 1) := dk_4 (dk_at dksX0_falls_0 14 rfl rfl)
theorem dX0_falls_15 : decode cX0_falls 15 = .ok (.ireturn, 1) := dk_172 (dk_at dksX0_falls_0 15 rfl rfl)
theorem dX0_falls_16 : decode cX0_falls 16 = .ok (.astore 4, 2) := dk_58 4 (dk_at dksX0_falls_0 16 rfl rfl)
theorem dX0_falls_18 : decode cX0_falls 18 = .ok (.iconst 2, 1) := dk_5 (dk_at dksX0_falls_0 18 rfl rfl)
theorem dX0_falls_19 : decode cX0_falls 19 = .ok (.ireturn, 1) := dk_172 (dk_at dksX0_falls_0 19 rfl rfl)
theorem dX0_falls_20 : decode cX0_falls 20 = .ok (.iconst 0, 1) := dk_3 (dk_at dksX0_falls_0 20 rfl rfl)
theorem dX0_falls_21 : decode cX0_falls 21 = .ok (.ireturn, 1) := dk_172 (dk_at dksX0_falls_0 21 rfl rfl)
abbrev cX0_insurer : ByteArray := method_25_code
def yX0_insurer : MethodName := ⟨RX0, "insurer", "(LTallTowers;II[J)I"⟩
def dkwX0_insurer_0 : List UInt8 := [45, 3, 42, 27, 28, 182, 0, 88, 80, 167, 0, 7, 58, 4, 4, 172, 3, 172]
abbrev dktX0_insurer_0 : List UInt8 := dkwX0_insurer_0 ++ []
theorem dksX0_insurer_0 : cX0_insurer.data.toList.drop 0 = dktX0_insurer_0 := by decide +kernel
theorem dX0_insurer_0 : decode cX0_insurer 0 = .ok (.aload_n 3, 1) := dk_45 (dk_at dksX0_insurer_0 0 rfl rfl)
theorem dX0_insurer_1 : decode cX0_insurer 1 = .ok (.iconst 0, 1) := dk_3 (dk_at dksX0_insurer_0 1 rfl rfl)
theorem dX0_insurer_2 : decode cX0_insurer 2 = .ok (.aload_n 0, 1) := dk_42 (dk_at dksX0_insurer_0 2 rfl rfl)
theorem dX0_insurer_3 : decode cX0_insurer 3 = .ok (.iload_n 1, 1) := dk_27 (dk_at dksX0_insurer_0 3 rfl rfl)
theorem dX0_insurer_4 : decode cX0_insurer 4 = .ok (.iload_n 2, 1) := dk_28 (dk_at dksX0_insurer_0 4 rfl rfl)
theorem dX0_insurer_5 : decode cX0_insurer 5 = .ok (.invokevirtual 88, 3) := dk_182 0 88 (dk_at dksX0_insurer_0 5 rfl rfl)
theorem dX0_insurer_8 : decode cX0_insurer 8 = .ok (.lastore, 1) := dk_80 (dk_at dksX0_insurer_0 8 rfl rfl)
theorem dX0_insurer_9 : decode cX0_insurer 9 = .ok (.goto 7, 3) := dk_167 0 7 (dk_at dksX0_insurer_0 9 rfl rfl)
theorem dX0_insurer_12 : decode cX0_insurer 12 = .ok (.astore 4, 2) := dk_58 4 (dk_at dksX0_insurer_0 12 rfl rfl)
theorem dX0_insurer_14 : decode cX0_insurer 14 = .ok (.iconst 1, 1) := dk_4 (dk_at dksX0_insurer_0 14 rfl rfl)
theorem dX0_insurer_15 : decode cX0_insurer 15 = .ok (.ireturn, 1) := dk_172 (dk_at dksX0_insurer_0 15 rfl rfl)
theorem dX0_insurer_16 : decode cX0_insurer 16 = .ok (.iconst 0, 1) := dk_3 (dk_at dksX0_insurer_0 16 rfl rfl)
theorem dX0_insurer_17 : decode cX0_insurer 17 = .ok (.ireturn, 1) := dk_172 (dk_at dksX0_insurer_0 17 rfl rfl)
abbrev cX0_burden : ByteArray := method_26_code
def yX0_burden : MethodName := ⟨RX0, "burden", "(LTallTowers;I[J)I"⟩
def dkwX0_burden_0 : List UInt8 := [44, 3, 42, 27, 182, 0, 91, 80, 167, 0, 6, 78, 4, 172, 3, 172]
abbrev dktX0_burden_0 : List UInt8 := dkwX0_burden_0 ++ []
theorem dksX0_burden_0 : cX0_burden.data.toList.drop 0 = dktX0_burden_0 := by decide +kernel
theorem dX0_burden_0 : decode cX0_burden 0 = .ok (.aload_n 2, 1) := dk_44 (dk_at dksX0_burden_0 0 rfl rfl)
theorem dX0_burden_1 : decode cX0_burden 1 = .ok (.iconst 0, 1) := dk_3 (dk_at dksX0_burden_0 1 rfl rfl)
theorem dX0_burden_2 : decode cX0_burden 2 = .ok (.aload_n 0, 1) := dk_42 (dk_at dksX0_burden_0 2 rfl rfl)
theorem dX0_burden_3 : decode cX0_burden 3 = .ok (.iload_n 1, 1) := dk_27 (dk_at dksX0_burden_0 3 rfl rfl)
theorem dX0_burden_4 : decode cX0_burden 4 = .ok (.invokevirtual 91, 3) := dk_182 0 91 (dk_at dksX0_burden_0 4 rfl rfl)
theorem dX0_burden_7 : decode cX0_burden 7 = .ok (.lastore, 1) := dk_80 (dk_at dksX0_burden_0 7 rfl rfl)
theorem dX0_burden_8 : decode cX0_burden 8 = .ok (.goto 6, 3) := dk_167 0 6 (dk_at dksX0_burden_0 8 rfl rfl)
theorem dX0_burden_11 : decode cX0_burden 11 = .ok (.astore_n 3, 1) := dk_78 (dk_at dksX0_burden_0 11 rfl rfl)
theorem dX0_burden_12 : decode cX0_burden 12 = .ok (.iconst 1, 1) := dk_4 (dk_at dksX0_burden_0 12 rfl rfl)
theorem dX0_burden_13 : decode cX0_burden 13 = .ok (.ireturn, 1) := dk_172 (dk_at dksX0_burden_0 13 rfl rfl)
theorem dX0_burden_14 : decode cX0_burden 14 = .ok (.iconst 0, 1) := dk_3 (dk_at dksX0_burden_0 14 rfl rfl)
theorem dX0_burden_15 : decode cX0_burden 15 = .ok (.ireturn, 1) := dk_172 (dk_at dksX0_burden_0 15 rfl rfl)
abbrev cX0_rank : ByteArray := method_27_code
def yX0_rank : MethodName := ⟨RX0, "rank", "(LTallTowers;I[J)I"⟩
def dkwX0_rank_0 : List UInt8 := [44, 3, 42, 27, 182, 0, 94, 133, 80, 167, 0, 6, 78, 4, 172, 3, 172]
abbrev dktX0_rank_0 : List UInt8 := dkwX0_rank_0 ++ []
theorem dksX0_rank_0 : cX0_rank.data.toList.drop 0 = dktX0_rank_0 := by decide +kernel
theorem dX0_rank_0 : decode cX0_rank 0 = .ok (.aload_n 2, 1) := dk_44 (dk_at dksX0_rank_0 0 rfl rfl)
theorem dX0_rank_1 : decode cX0_rank 1 = .ok (.iconst 0, 1) := dk_3 (dk_at dksX0_rank_0 1 rfl rfl)
theorem dX0_rank_2 : decode cX0_rank 2 = .ok (.aload_n 0, 1) := dk_42 (dk_at dksX0_rank_0 2 rfl rfl)
theorem dX0_rank_3 : decode cX0_rank 3 = .ok (.iload_n 1, 1) := dk_27 (dk_at dksX0_rank_0 3 rfl rfl)
theorem dX0_rank_4 : decode cX0_rank 4 = .ok (.invokevirtual 94, 3) := dk_182 0 94 (dk_at dksX0_rank_0 4 rfl rfl)
theorem dX0_rank_7 : decode cX0_rank 7 = .ok (.i2l, 1) := dk_133 (dk_at dksX0_rank_0 7 rfl rfl)
theorem dX0_rank_8 : decode cX0_rank 8 = .ok (.lastore, 1) := dk_80 (dk_at dksX0_rank_0 8 rfl rfl)
theorem dX0_rank_9 : decode cX0_rank 9 = .ok (.goto 6, 3) := dk_167 0 6 (dk_at dksX0_rank_0 9 rfl rfl)
theorem dX0_rank_12 : decode cX0_rank 12 = .ok (.astore_n 3, 1) := dk_78 (dk_at dksX0_rank_0 12 rfl rfl)
theorem dX0_rank_13 : decode cX0_rank 13 = .ok (.iconst 1, 1) := dk_4 (dk_at dksX0_rank_0 13 rfl rfl)
theorem dX0_rank_14 : decode cX0_rank 14 = .ok (.ireturn, 1) := dk_172 (dk_at dksX0_rank_0 14 rfl rfl)
theorem dX0_rank_15 : decode cX0_rank 15 = .ok (.iconst 0, 1) := dk_3 (dk_at dksX0_rank_0 15 rfl rfl)
theorem dX0_rank_16 : decode cX0_rank 16 = .ok (.ireturn, 1) := dk_172 (dk_at dksX0_rank_0 16 rfl rfl)
abbrev cX0_offs : ByteArray := method_28_code
def yX0_offs : MethodName := ⟨RX0, "offs", "(LTallTowers;IIII[J)I"⟩
def dkwX0_offs_0 : List UInt8 := [25, 5, 3, 42, 27, 28, 29, 21, 4, 182, 0, 97, 133, 80, 167, 0, 7, 58, 6, 4, 172, 3, 172]
abbrev dktX0_offs_0 : List UInt8 := dkwX0_offs_0 ++ []
theorem dksX0_offs_0 : cX0_offs.data.toList.drop 0 = dktX0_offs_0 := by decide +kernel
theorem dX0_offs_0 : decode cX0_offs 0 = .ok (.aload 5, 2) := dk_25 5 (dk_at dksX0_offs_0 0 rfl rfl)
theorem dX0_offs_2 : decode cX0_offs 2 = .ok (.iconst 0, 1) := dk_3 (dk_at dksX0_offs_0 2 rfl rfl)
theorem dX0_offs_3 : decode cX0_offs 3 = .ok (.aload_n 0, 1) := dk_42 (dk_at dksX0_offs_0 3 rfl rfl)
theorem dX0_offs_4 : decode cX0_offs 4 = .ok (.iload_n 1, 1) := dk_27 (dk_at dksX0_offs_0 4 rfl rfl)
theorem dX0_offs_5 : decode cX0_offs 5 = .ok (.iload_n 2, 1) := dk_28 (dk_at dksX0_offs_0 5 rfl rfl)
theorem dX0_offs_6 : decode cX0_offs 6 = .ok (.iload_n 3, 1) := dk_29 (dk_at dksX0_offs_0 6 rfl rfl)
theorem dX0_offs_7 : decode cX0_offs 7 = .ok (.iload 4, 2) := dk_21 4 (dk_at dksX0_offs_0 7 rfl rfl)
theorem dX0_offs_9 : decode cX0_offs 9 = .ok (.invokevirtual 97, 3) := dk_182 0 97 (dk_at dksX0_offs_0 9 rfl rfl)
theorem dX0_offs_12 : decode cX0_offs 12 = .ok (.i2l, 1) := dk_133 (dk_at dksX0_offs_0 12 rfl rfl)
theorem dX0_offs_13 : decode cX0_offs 13 = .ok (.lastore, 1) := dk_80 (dk_at dksX0_offs_0 13 rfl rfl)
theorem dX0_offs_14 : decode cX0_offs 14 = .ok (.goto 7, 3) := dk_167 0 7 (dk_at dksX0_offs_0 14 rfl rfl)
theorem dX0_offs_17 : decode cX0_offs 17 = .ok (.astore 6, 2) := dk_58 6 (dk_at dksX0_offs_0 17 rfl rfl)
theorem dX0_offs_19 : decode cX0_offs 19 = .ok (.iconst 1, 1) := dk_4 (dk_at dksX0_offs_0 19 rfl rfl)
theorem dX0_offs_20 : decode cX0_offs 20 = .ok (.ireturn, 1) := dk_172 (dk_at dksX0_offs_0 20 rfl rfl)
theorem dX0_offs_21 : decode cX0_offs 21 = .ok (.iconst 0, 1) := dk_3 (dk_at dksX0_offs_0 21 rfl rfl)
theorem dX0_offs_22 : decode cX0_offs 22 = .ok (.ireturn, 1) := dk_172 (dk_at dksX0_offs_0 22 rfl rfl)
abbrev cX0_would : ByteArray := method_29_code
def yX0_would : MethodName := ⟨RX0, "would", "(LTallTowers;IIIII[J)I"⟩
def dkwX0_would_0 : List UInt8 := [25, 6, 3, 42, 27, 28, 29, 21, 4, 21, 5, 182, 0, 100, 80, 167, 0, 7, 58, 7, 4, 172, 3, 172]
abbrev dktX0_would_0 : List UInt8 := dkwX0_would_0 ++ []
theorem dksX0_would_0 : cX0_would.data.toList.drop 0 = dktX0_would_0 := by decide +kernel
theorem dX0_would_0 : decode cX0_would 0 = .ok (.aload 6, 2) := dk_25 6 (dk_at dksX0_would_0 0 rfl rfl)
theorem dX0_would_2 : decode cX0_would 2 = .ok (.iconst 0, 1) := dk_3 (dk_at dksX0_would_0 2 rfl rfl)
theorem dX0_would_3 : decode cX0_would 3 = .ok (.aload_n 0, 1) := dk_42 (dk_at dksX0_would_0 3 rfl rfl)
theorem dX0_would_4 : decode cX0_would 4 = .ok (.iload_n 1, 1) := dk_27 (dk_at dksX0_would_0 4 rfl rfl)
theorem dX0_would_5 : decode cX0_would 5 = .ok (.iload_n 2, 1) := dk_28 (dk_at dksX0_would_0 5 rfl rfl)
theorem dX0_would_6 : decode cX0_would 6 = .ok (.iload_n 3, 1) := dk_29 (dk_at dksX0_would_0 6 rfl rfl)
theorem dX0_would_7 : decode cX0_would 7 = .ok (.iload 4, 2) := dk_21 4 (dk_at dksX0_would_0 7 rfl rfl)
theorem dX0_would_9 : decode cX0_would 9 = .ok (.iload 5, 2) := dk_21 5 (dk_at dksX0_would_0 9 rfl rfl)
theorem dX0_would_11 : decode cX0_would 11 = .ok (.invokevirtual 100, 3) := dk_182 0 100 (dk_at dksX0_would_0 11 rfl rfl)
theorem dX0_would_14 : decode cX0_would 14 = .ok (.lastore, 1) := dk_80 (dk_at dksX0_would_0 14 rfl rfl)
theorem dX0_would_15 : decode cX0_would 15 = .ok (.goto 7, 3) := dk_167 0 7 (dk_at dksX0_would_0 15 rfl rfl)
theorem dX0_would_18 : decode cX0_would 18 = .ok (.astore 7, 2) := dk_58 7 (dk_at dksX0_would_0 18 rfl rfl)
theorem dX0_would_20 : decode cX0_would 20 = .ok (.iconst 1, 1) := dk_4 (dk_at dksX0_would_0 20 rfl rfl)
theorem dX0_would_21 : decode cX0_would 21 = .ok (.ireturn, 1) := dk_172 (dk_at dksX0_would_0 21 rfl rfl)
theorem dX0_would_22 : decode cX0_would 22 = .ok (.iconst 0, 1) := dk_3 (dk_at dksX0_would_0 22 rfl rfl)
theorem dX0_would_23 : decode cX0_would 23 = .ok (.ireturn, 1) := dk_172 (dk_at dksX0_would_0 23 rfl rfl)
abbrev cX0_takes : ByteArray := method_30_code
def yX0_takes : MethodName := ⟨RX0, "takes", "(LTallTowers;IIIII[J)I"⟩
def dkwX0_takes_1 : List UInt8 := [5, 172, 3, 172]
abbrev dktX0_takes_1 : List UInt8 := dkwX0_takes_1 ++ []
def dkwX0_takes_0 : List UInt8 := [25, 6, 3, 42, 27, 28, 29, 21, 4, 21, 5, 182, 0, 104, 80, 167, 0, 11, 58, 7, 4, 172, 58, 7]
abbrev dktX0_takes_0 : List UInt8 := dkwX0_takes_0 ++ dktX0_takes_1
theorem dksX0_takes_0 : cX0_takes.data.toList.drop 0 = dktX0_takes_0 := by decide +kernel
theorem dksX0_takes_1 : cX0_takes.data.toList.drop 24 = dktX0_takes_1 := dk_seg dksX0_takes_0 24 rfl rfl
theorem dX0_takes_0 : decode cX0_takes 0 = .ok (.aload 6, 2) := dk_25 6 (dk_at dksX0_takes_0 0 rfl rfl)
theorem dX0_takes_2 : decode cX0_takes 2 = .ok (.iconst 0, 1) := dk_3 (dk_at dksX0_takes_0 2 rfl rfl)
theorem dX0_takes_3 : decode cX0_takes 3 = .ok (.aload_n 0, 1) := dk_42 (dk_at dksX0_takes_0 3 rfl rfl)
theorem dX0_takes_4 : decode cX0_takes 4 = .ok (.iload_n 1, 1) := dk_27 (dk_at dksX0_takes_0 4 rfl rfl)
theorem dX0_takes_5 : decode cX0_takes 5 = .ok (.iload_n 2, 1) := dk_28 (dk_at dksX0_takes_0 5 rfl rfl)
theorem dX0_takes_6 : decode cX0_takes 6 = .ok (.iload_n 3, 1) := dk_29 (dk_at dksX0_takes_0 6 rfl rfl)
theorem dX0_takes_7 : decode cX0_takes 7 = .ok (.iload 4, 2) := dk_21 4 (dk_at dksX0_takes_0 7 rfl rfl)
theorem dX0_takes_9 : decode cX0_takes 9 = .ok (.iload 5, 2) := dk_21 5 (dk_at dksX0_takes_0 9 rfl rfl)
theorem dX0_takes_11 : decode cX0_takes 11 = .ok (.invokevirtual 104, 3) := dk_182 0 104 (dk_at dksX0_takes_0 11 rfl rfl)
theorem dX0_takes_14 : decode cX0_takes 14 = .ok (.lastore, 1) := dk_80 (dk_at dksX0_takes_0 14 rfl rfl)
theorem dX0_takes_15 : decode cX0_takes 15 = .ok (.goto 11, 3) := dk_167 0 11 (dk_at dksX0_takes_0 15 rfl rfl)
theorem dX0_takes_18 : decode cX0_takes 18 = .ok (.astore 7, 2) := dk_58 7 (dk_at dksX0_takes_0 18 rfl rfl)
theorem dX0_takes_20 : decode cX0_takes 20 = .ok (.iconst 1, 1) := dk_4 (dk_at dksX0_takes_0 20 rfl rfl)
theorem dX0_takes_21 : decode cX0_takes 21 = .ok (.ireturn, 1) := dk_172 (dk_at dksX0_takes_0 21 rfl rfl)
theorem dX0_takes_22 : decode cX0_takes 22 = .ok (.astore 7, 2) := dk_58 7 (dk_at dksX0_takes_0 22 rfl rfl)
theorem dX0_takes_24 : decode cX0_takes 24 = .ok (.iconst 2, 1) := dk_5 (dk_at dksX0_takes_1 0 rfl rfl)
theorem dX0_takes_25 : decode cX0_takes 25 = .ok (.ireturn, 1) := dk_172 (dk_at dksX0_takes_1 1 rfl rfl)
theorem dX0_takes_26 : decode cX0_takes 26 = .ok (.iconst 0, 1) := dk_3 (dk_at dksX0_takes_1 2 rfl rfl)
theorem dX0_takes_27 : decode cX0_takes 27 = .ok (.ireturn, 1) := dk_172 (dk_at dksX0_takes_1 3 rfl rfl)
abbrev cX0_drops : ByteArray := method_31_code
def yX0_drops : MethodName := ⟨RX0, "drops", "(LTallTowers;IIIII[J)I"⟩
def dkwX0_drops_0 : List UInt8 := [25, 6, 3, 42, 27, 28, 29, 21, 4, 21, 5, 182, 0, 107, 80, 167, 0, 7, 58, 7, 4, 172, 3, 172]
abbrev dktX0_drops_0 : List UInt8 := dkwX0_drops_0 ++ []
theorem dksX0_drops_0 : cX0_drops.data.toList.drop 0 = dktX0_drops_0 := by decide +kernel
theorem dX0_drops_0 : decode cX0_drops 0 = .ok (.aload 6, 2) := dk_25 6 (dk_at dksX0_drops_0 0 rfl rfl)
theorem dX0_drops_2 : decode cX0_drops 2 = .ok (.iconst 0, 1) := dk_3 (dk_at dksX0_drops_0 2 rfl rfl)
theorem dX0_drops_3 : decode cX0_drops 3 = .ok (.aload_n 0, 1) := dk_42 (dk_at dksX0_drops_0 3 rfl rfl)
theorem dX0_drops_4 : decode cX0_drops 4 = .ok (.iload_n 1, 1) := dk_27 (dk_at dksX0_drops_0 4 rfl rfl)
theorem dX0_drops_5 : decode cX0_drops 5 = .ok (.iload_n 2, 1) := dk_28 (dk_at dksX0_drops_0 5 rfl rfl)
theorem dX0_drops_6 : decode cX0_drops 6 = .ok (.iload_n 3, 1) := dk_29 (dk_at dksX0_drops_0 6 rfl rfl)
theorem dX0_drops_7 : decode cX0_drops 7 = .ok (.iload 4, 2) := dk_21 4 (dk_at dksX0_drops_0 7 rfl rfl)
theorem dX0_drops_9 : decode cX0_drops 9 = .ok (.iload 5, 2) := dk_21 5 (dk_at dksX0_drops_0 9 rfl rfl)
theorem dX0_drops_11 : decode cX0_drops 11 = .ok (.invokevirtual 107, 3) := dk_182 0 107 (dk_at dksX0_drops_0 11 rfl rfl)
theorem dX0_drops_14 : decode cX0_drops 14 = .ok (.lastore, 1) := dk_80 (dk_at dksX0_drops_0 14 rfl rfl)
theorem dX0_drops_15 : decode cX0_drops 15 = .ok (.goto 7, 3) := dk_167 0 7 (dk_at dksX0_drops_0 15 rfl rfl)
theorem dX0_drops_18 : decode cX0_drops 18 = .ok (.astore 7, 2) := dk_58 7 (dk_at dksX0_drops_0 18 rfl rfl)
theorem dX0_drops_20 : decode cX0_drops 20 = .ok (.iconst 1, 1) := dk_4 (dk_at dksX0_drops_0 20 rfl rfl)
theorem dX0_drops_21 : decode cX0_drops 21 = .ok (.ireturn, 1) := dk_172 (dk_at dksX0_drops_0 21 rfl rfl)
theorem dX0_drops_22 : decode cX0_drops 22 = .ok (.iconst 0, 1) := dk_3 (dk_at dksX0_drops_0 22 rfl rfl)
theorem dX0_drops_23 : decode cX0_drops 23 = .ok (.ireturn, 1) := dk_172 (dk_at dksX0_drops_0 23 rfl rfl)
abbrev cX0_share : ByteArray := method_32_code
def yX0_share : MethodName := ⟨RX0, "share", "(LTallTowers;IIIII[J)I"⟩
def dkwX0_share_0 : List UInt8 := [25, 6, 3, 42, 27, 28, 29, 21, 4, 21, 5, 182, 0, 110, 80, 167, 0, 7, 58, 7, 4, 172, 3, 172]
abbrev dktX0_share_0 : List UInt8 := dkwX0_share_0 ++ []
theorem dksX0_share_0 : cX0_share.data.toList.drop 0 = dktX0_share_0 := by decide +kernel
theorem dX0_share_0 : decode cX0_share 0 = .ok (.aload 6, 2) := dk_25 6 (dk_at dksX0_share_0 0 rfl rfl)
theorem dX0_share_2 : decode cX0_share 2 = .ok (.iconst 0, 1) := dk_3 (dk_at dksX0_share_0 2 rfl rfl)
theorem dX0_share_3 : decode cX0_share 3 = .ok (.aload_n 0, 1) := dk_42 (dk_at dksX0_share_0 3 rfl rfl)
theorem dX0_share_4 : decode cX0_share 4 = .ok (.iload_n 1, 1) := dk_27 (dk_at dksX0_share_0 4 rfl rfl)
theorem dX0_share_5 : decode cX0_share 5 = .ok (.iload_n 2, 1) := dk_28 (dk_at dksX0_share_0 5 rfl rfl)
theorem dX0_share_6 : decode cX0_share 6 = .ok (.iload_n 3, 1) := dk_29 (dk_at dksX0_share_0 6 rfl rfl)
theorem dX0_share_7 : decode cX0_share 7 = .ok (.iload 4, 2) := dk_21 4 (dk_at dksX0_share_0 7 rfl rfl)
theorem dX0_share_9 : decode cX0_share 9 = .ok (.iload 5, 2) := dk_21 5 (dk_at dksX0_share_0 9 rfl rfl)
theorem dX0_share_11 : decode cX0_share 11 = .ok (.invokevirtual 110, 3) := dk_182 0 110 (dk_at dksX0_share_0 11 rfl rfl)
theorem dX0_share_14 : decode cX0_share 14 = .ok (.lastore, 1) := dk_80 (dk_at dksX0_share_0 14 rfl rfl)
theorem dX0_share_15 : decode cX0_share 15 = .ok (.goto 7, 3) := dk_167 0 7 (dk_at dksX0_share_0 15 rfl rfl)
theorem dX0_share_18 : decode cX0_share 18 = .ok (.astore 7, 2) := dk_58 7 (dk_at dksX0_share_0 18 rfl rfl)
theorem dX0_share_20 : decode cX0_share 20 = .ok (.iconst 1, 1) := dk_4 (dk_at dksX0_share_0 20 rfl rfl)
theorem dX0_share_21 : decode cX0_share 21 = .ok (.ireturn, 1) := dk_172 (dk_at dksX0_share_0 21 rfl rfl)
theorem dX0_share_22 : decode cX0_share 22 = .ok (.iconst 0, 1) := dk_3 (dk_at dksX0_share_0 22 rfl rfl)
theorem dX0_share_23 : decode cX0_share 23 = .ok (.ireturn, 1) := dk_172 (dk_at dksX0_share_0 23 rfl rfl)
abbrev cX0_weight : ByteArray := method_33_code
def yX0_weight : MethodName := ⟨RX0, "weight", "(LTallTowers;IIII[J)I"⟩
def dkwX0_weight_0 : List UInt8 := [25, 5, 3, 42, 27, 28, 29, 21, 4, 182, 0, 113, 80, 167, 0, 7, 58, 6, 4, 172, 3, 172]
abbrev dktX0_weight_0 : List UInt8 := dkwX0_weight_0 ++ []
theorem dksX0_weight_0 : cX0_weight.data.toList.drop 0 = dktX0_weight_0 := by decide +kernel
theorem dX0_weight_0 : decode cX0_weight 0 = .ok (.aload 5, 2) := dk_25 5 (dk_at dksX0_weight_0 0 rfl rfl)
theorem dX0_weight_2 : decode cX0_weight 2 = .ok (.iconst 0, 1) := dk_3 (dk_at dksX0_weight_0 2 rfl rfl)
theorem dX0_weight_3 : decode cX0_weight 3 = .ok (.aload_n 0, 1) := dk_42 (dk_at dksX0_weight_0 3 rfl rfl)
theorem dX0_weight_4 : decode cX0_weight 4 = .ok (.iload_n 1, 1) := dk_27 (dk_at dksX0_weight_0 4 rfl rfl)
theorem dX0_weight_5 : decode cX0_weight 5 = .ok (.iload_n 2, 1) := dk_28 (dk_at dksX0_weight_0 5 rfl rfl)
theorem dX0_weight_6 : decode cX0_weight 6 = .ok (.iload_n 3, 1) := dk_29 (dk_at dksX0_weight_0 6 rfl rfl)
theorem dX0_weight_7 : decode cX0_weight 7 = .ok (.iload 4, 2) := dk_21 4 (dk_at dksX0_weight_0 7 rfl rfl)
theorem dX0_weight_9 : decode cX0_weight 9 = .ok (.invokevirtual 113, 3) := dk_182 0 113 (dk_at dksX0_weight_0 9 rfl rfl)
theorem dX0_weight_12 : decode cX0_weight 12 = .ok (.lastore, 1) := dk_80 (dk_at dksX0_weight_0 12 rfl rfl)
theorem dX0_weight_13 : decode cX0_weight 13 = .ok (.goto 7, 3) := dk_167 0 7 (dk_at dksX0_weight_0 13 rfl rfl)
theorem dX0_weight_16 : decode cX0_weight 16 = .ok (.astore 6, 2) := dk_58 6 (dk_at dksX0_weight_0 16 rfl rfl)
theorem dX0_weight_18 : decode cX0_weight 18 = .ok (.iconst 1, 1) := dk_4 (dk_at dksX0_weight_0 18 rfl rfl)
theorem dX0_weight_19 : decode cX0_weight 19 = .ok (.ireturn, 1) := dk_172 (dk_at dksX0_weight_0 19 rfl rfl)
theorem dX0_weight_20 : decode cX0_weight 20 = .ok (.iconst 0, 1) := dk_3 (dk_at dksX0_weight_0 20 rfl rfl)
theorem dX0_weight_21 : decode cX0_weight 21 = .ok (.ireturn, 1) := dk_172 (dk_at dksX0_weight_0 21 rfl rfl)
abbrev cX0_picks : ByteArray := method_34_code
def yX0_picks : MethodName := ⟨RX0, "picks", "(LTallTowers;IIII[J)I"⟩
def dkwX0_picks_0 : List UInt8 := [25, 5, 3, 42, 27, 28, 29, 21, 4, 182, 0, 117, 133, 80, 167, 0, 7, 58, 6, 4, 172, 3, 172]
abbrev dktX0_picks_0 : List UInt8 := dkwX0_picks_0 ++ []
theorem dksX0_picks_0 : cX0_picks.data.toList.drop 0 = dktX0_picks_0 := by decide +kernel
theorem dX0_picks_0 : decode cX0_picks 0 = .ok (.aload 5, 2) := dk_25 5 (dk_at dksX0_picks_0 0 rfl rfl)
theorem dX0_picks_2 : decode cX0_picks 2 = .ok (.iconst 0, 1) := dk_3 (dk_at dksX0_picks_0 2 rfl rfl)
theorem dX0_picks_3 : decode cX0_picks 3 = .ok (.aload_n 0, 1) := dk_42 (dk_at dksX0_picks_0 3 rfl rfl)
theorem dX0_picks_4 : decode cX0_picks 4 = .ok (.iload_n 1, 1) := dk_27 (dk_at dksX0_picks_0 4 rfl rfl)
theorem dX0_picks_5 : decode cX0_picks 5 = .ok (.iload_n 2, 1) := dk_28 (dk_at dksX0_picks_0 5 rfl rfl)
theorem dX0_picks_6 : decode cX0_picks 6 = .ok (.iload_n 3, 1) := dk_29 (dk_at dksX0_picks_0 6 rfl rfl)
theorem dX0_picks_7 : decode cX0_picks 7 = .ok (.iload 4, 2) := dk_21 4 (dk_at dksX0_picks_0 7 rfl rfl)
theorem dX0_picks_9 : decode cX0_picks 9 = .ok (.invokevirtual 117, 3) := dk_182 0 117 (dk_at dksX0_picks_0 9 rfl rfl)
theorem dX0_picks_12 : decode cX0_picks 12 = .ok (.i2l, 1) := dk_133 (dk_at dksX0_picks_0 12 rfl rfl)
theorem dX0_picks_13 : decode cX0_picks 13 = .ok (.lastore, 1) := dk_80 (dk_at dksX0_picks_0 13 rfl rfl)
theorem dX0_picks_14 : decode cX0_picks 14 = .ok (.goto 7, 3) := dk_167 0 7 (dk_at dksX0_picks_0 14 rfl rfl)
theorem dX0_picks_17 : decode cX0_picks 17 = .ok (.astore 6, 2) := dk_58 6 (dk_at dksX0_picks_0 17 rfl rfl)
theorem dX0_picks_19 : decode cX0_picks 19 = .ok (.iconst 1, 1) := dk_4 (dk_at dksX0_picks_0 19 rfl rfl)
theorem dX0_picks_20 : decode cX0_picks 20 = .ok (.ireturn, 1) := dk_172 (dk_at dksX0_picks_0 20 rfl rfl)
theorem dX0_picks_21 : decode cX0_picks 21 = .ok (.iconst 0, 1) := dk_3 (dk_at dksX0_picks_0 21 rfl rfl)
theorem dX0_picks_22 : decode cX0_picks 22 = .ok (.ireturn, 1) := dk_172 (dk_at dksX0_picks_0 22 rfl rfl)
abbrev cX0_other : ByteArray := method_35_code
def yX0_other : MethodName := ⟨RX0, "other", "(LTallTowers;IIII[J)I"⟩
def dkwX0_other_0 : List UInt8 := [25, 5, 3, 42, 27, 28, 29, 21, 4, 182, 0, 120, 80, 167, 0, 7, 58, 6, 4, 172, 3, 172]
abbrev dktX0_other_0 : List UInt8 := dkwX0_other_0 ++ []
theorem dksX0_other_0 : cX0_other.data.toList.drop 0 = dktX0_other_0 := by decide +kernel
theorem dX0_other_0 : decode cX0_other 0 = .ok (.aload 5, 2) := dk_25 5 (dk_at dksX0_other_0 0 rfl rfl)
theorem dX0_other_2 : decode cX0_other 2 = .ok (.iconst 0, 1) := dk_3 (dk_at dksX0_other_0 2 rfl rfl)
theorem dX0_other_3 : decode cX0_other 3 = .ok (.aload_n 0, 1) := dk_42 (dk_at dksX0_other_0 3 rfl rfl)
theorem dX0_other_4 : decode cX0_other 4 = .ok (.iload_n 1, 1) := dk_27 (dk_at dksX0_other_0 4 rfl rfl)
theorem dX0_other_5 : decode cX0_other 5 = .ok (.iload_n 2, 1) := dk_28 (dk_at dksX0_other_0 5 rfl rfl)
theorem dX0_other_6 : decode cX0_other 6 = .ok (.iload_n 3, 1) := dk_29 (dk_at dksX0_other_0 6 rfl rfl)
theorem dX0_other_7 : decode cX0_other 7 = .ok (.iload 4, 2) := dk_21 4 (dk_at dksX0_other_0 7 rfl rfl)
theorem dX0_other_9 : decode cX0_other 9 = .ok (.invokevirtual 120, 3) := dk_182 0 120 (dk_at dksX0_other_0 9 rfl rfl)
theorem dX0_other_12 : decode cX0_other 12 = .ok (.lastore, 1) := dk_80 (dk_at dksX0_other_0 12 rfl rfl)
theorem dX0_other_13 : decode cX0_other 13 = .ok (.goto 7, 3) := dk_167 0 7 (dk_at dksX0_other_0 13 rfl rfl)
theorem dX0_other_16 : decode cX0_other 16 = .ok (.astore 6, 2) := dk_58 6 (dk_at dksX0_other_0 16 rfl rfl)
theorem dX0_other_18 : decode cX0_other 18 = .ok (.iconst 1, 1) := dk_4 (dk_at dksX0_other_0 18 rfl rfl)
theorem dX0_other_19 : decode cX0_other 19 = .ok (.ireturn, 1) := dk_172 (dk_at dksX0_other_0 19 rfl rfl)
theorem dX0_other_20 : decode cX0_other 20 = .ok (.iconst 0, 1) := dk_3 (dk_at dksX0_other_0 20 rfl rfl)
theorem dX0_other_21 : decode cX0_other 21 = .ok (.ireturn, 1) := dk_172 (dk_at dksX0_other_0 21 rfl rfl)
abbrev cX0_best : ByteArray := method_36_code
def yX0_best : MethodName := ⟨RX0, "best", "(LTallTowers;II[J)I"⟩
def dkwX0_best_0 : List UInt8 := [45, 3, 42, 27, 28, 182, 0, 123, 80, 167, 0, 7, 58, 4, 4, 172, 3, 172]
abbrev dktX0_best_0 : List UInt8 := dkwX0_best_0 ++ []
theorem dksX0_best_0 : cX0_best.data.toList.drop 0 = dktX0_best_0 := by decide +kernel
theorem dX0_best_0 : decode cX0_best 0 = .ok (.aload_n 3, 1) := dk_45 (dk_at dksX0_best_0 0 rfl rfl)
theorem dX0_best_1 : decode cX0_best 1 = .ok (.iconst 0, 1) := dk_3 (dk_at dksX0_best_0 1 rfl rfl)
theorem dX0_best_2 : decode cX0_best 2 = .ok (.aload_n 0, 1) := dk_42 (dk_at dksX0_best_0 2 rfl rfl)
theorem dX0_best_3 : decode cX0_best 3 = .ok (.iload_n 1, 1) := dk_27 (dk_at dksX0_best_0 3 rfl rfl)
theorem dX0_best_4 : decode cX0_best 4 = .ok (.iload_n 2, 1) := dk_28 (dk_at dksX0_best_0 4 rfl rfl)
theorem dX0_best_5 : decode cX0_best 5 = .ok (.invokevirtual 123, 3) := dk_182 0 123 (dk_at dksX0_best_0 5 rfl rfl)
theorem dX0_best_8 : decode cX0_best 8 = .ok (.lastore, 1) := dk_80 (dk_at dksX0_best_0 8 rfl rfl)
theorem dX0_best_9 : decode cX0_best 9 = .ok (.goto 7, 3) := dk_167 0 7 (dk_at dksX0_best_0 9 rfl rfl)
theorem dX0_best_12 : decode cX0_best 12 = .ok (.astore 4, 2) := dk_58 4 (dk_at dksX0_best_0 12 rfl rfl)
theorem dX0_best_14 : decode cX0_best 14 = .ok (.iconst 1, 1) := dk_4 (dk_at dksX0_best_0 14 rfl rfl)
theorem dX0_best_15 : decode cX0_best 15 = .ok (.ireturn, 1) := dk_172 (dk_at dksX0_best_0 15 rfl rfl)
theorem dX0_best_16 : decode cX0_best 16 = .ok (.iconst 0, 1) := dk_3 (dk_at dksX0_best_0 16 rfl rfl)
theorem dX0_best_17 : decode cX0_best 17 = .ok (.ireturn, 1) := dk_172 (dk_at dksX0_best_0 17 rfl rfl)
abbrev cX0_without : ByteArray := method_37_code
def yX0_without : MethodName := ⟨RX0, "without", "(LTallTowers;II[J)I"⟩
def dkwX0_without_0 : List UInt8 := [45, 3, 42, 27, 28, 182, 0, 126, 80, 167, 0, 11, 58, 4, 4, 172, 58, 4, 5, 172, 3, 172]
abbrev dktX0_without_0 : List UInt8 := dkwX0_without_0 ++ []
theorem dksX0_without_0 : cX0_without.data.toList.drop 0 = dktX0_without_0 := by decide +kernel
theorem dX0_without_0 : decode cX0_without 0 = .ok (.aload_n 3, 1) := dk_45 (dk_at dksX0_without_0 0 rfl rfl)
theorem dX0_without_1 : decode cX0_without 1 = .ok (.iconst 0, 1) := dk_3 (dk_at dksX0_without_0 1 rfl rfl)
theorem dX0_without_2 : decode cX0_without 2 = .ok (.aload_n 0, 1) := dk_42 (dk_at dksX0_without_0 2 rfl rfl)
theorem dX0_without_3 : decode cX0_without 3 = .ok (.iload_n 1, 1) := dk_27 (dk_at dksX0_without_0 3 rfl rfl)
theorem dX0_without_4 : decode cX0_without 4 = .ok (.iload_n 2, 1) := dk_28 (dk_at dksX0_without_0 4 rfl rfl)
theorem dX0_without_5 : decode cX0_without 5 = .ok (.invokevirtual 126, 3) := dk_182 0 126 (dk_at dksX0_without_0 5 rfl rfl)
theorem dX0_without_8 : decode cX0_without 8 = .ok (.lastore, 1) := dk_80 (dk_at dksX0_without_0 8 rfl rfl)
theorem dX0_without_9 : decode cX0_without 9 = .ok (.goto 11, 3) := dk_167 0 11 (dk_at dksX0_without_0 9 rfl rfl)
theorem dX0_without_12 : decode cX0_without 12 = .ok (.astore 4, 2) := dk_58 4 (dk_at dksX0_without_0 12 rfl rfl)
theorem dX0_without_14 : decode cX0_without 14 = .ok (.iconst 1, 1) := dk_4 (dk_at dksX0_without_0 14 rfl rfl)
theorem dX0_without_15 : decode cX0_without 15 = .ok (.ireturn, 1) := dk_172 (dk_at dksX0_without_0 15 rfl rfl)
theorem dX0_without_16 : decode cX0_without 16 = .ok (.astore 4, 2) := dk_58 4 (dk_at dksX0_without_0 16 rfl rfl)
theorem dX0_without_18 : decode cX0_without 18 = .ok (.iconst 2, 1) := dk_5 (dk_at dksX0_without_0 18 rfl rfl)
theorem dX0_without_19 : decode cX0_without 19 = .ok (.ireturn, 1) := dk_172 (dk_at dksX0_without_0 19 rfl rfl)
theorem dX0_without_20 : decode cX0_without 20 = .ok (.iconst 0, 1) := dk_3 (dk_at dksX0_without_0 20 rfl rfl)
theorem dX0_without_21 : decode cX0_without 21 = .ok (.ireturn, 1) := dk_172 (dk_at dksX0_without_0 21 rfl rfl)
abbrev cX0_undone : ByteArray := method_38_code
def yX0_undone : MethodName := ⟨RX0, "undone", "(LTallTowers;I[J)I"⟩
def dkwX0_undone_0 : List UInt8 := [44, 3, 42, 27, 182, 0, 129, 133, 80, 167, 0, 6, 78, 4, 172, 3, 172]
abbrev dktX0_undone_0 : List UInt8 := dkwX0_undone_0 ++ []
theorem dksX0_undone_0 : cX0_undone.data.toList.drop 0 = dktX0_undone_0 := by decide +kernel
theorem dX0_undone_0 : decode cX0_undone 0 = .ok (.aload_n 2, 1) := dk_44 (dk_at dksX0_undone_0 0 rfl rfl)
theorem dX0_undone_1 : decode cX0_undone 1 = .ok (.iconst 0, 1) := dk_3 (dk_at dksX0_undone_0 1 rfl rfl)
theorem dX0_undone_2 : decode cX0_undone 2 = .ok (.aload_n 0, 1) := dk_42 (dk_at dksX0_undone_0 2 rfl rfl)
theorem dX0_undone_3 : decode cX0_undone 3 = .ok (.iload_n 1, 1) := dk_27 (dk_at dksX0_undone_0 3 rfl rfl)
theorem dX0_undone_4 : decode cX0_undone 4 = .ok (.invokevirtual 129, 3) := dk_182 0 129 (dk_at dksX0_undone_0 4 rfl rfl)
theorem dX0_undone_7 : decode cX0_undone 7 = .ok (.i2l, 1) := dk_133 (dk_at dksX0_undone_0 7 rfl rfl)
theorem dX0_undone_8 : decode cX0_undone 8 = .ok (.lastore, 1) := dk_80 (dk_at dksX0_undone_0 8 rfl rfl)
theorem dX0_undone_9 : decode cX0_undone 9 = .ok (.goto 6, 3) := dk_167 0 6 (dk_at dksX0_undone_0 9 rfl rfl)
theorem dX0_undone_12 : decode cX0_undone 12 = .ok (.astore_n 3, 1) := dk_78 (dk_at dksX0_undone_0 12 rfl rfl)
theorem dX0_undone_13 : decode cX0_undone 13 = .ok (.iconst 1, 1) := dk_4 (dk_at dksX0_undone_0 13 rfl rfl)
theorem dX0_undone_14 : decode cX0_undone 14 = .ok (.ireturn, 1) := dk_172 (dk_at dksX0_undone_0 14 rfl rfl)
theorem dX0_undone_15 : decode cX0_undone 15 = .ok (.iconst 0, 1) := dk_3 (dk_at dksX0_undone_0 15 rfl rfl)
theorem dX0_undone_16 : decode cX0_undone 16 = .ok (.ireturn, 1) := dk_172 (dk_at dksX0_undone_0 16 rfl rfl)
abbrev cX0_spared : ByteArray := method_39_code
def yX0_spared : MethodName := ⟨RX0, "spared", "(LTallTowers;I[J)I"⟩
def dkwX0_spared_0 : List UInt8 := [44, 3, 42, 27, 182, 0, 132, 80, 167, 0, 6, 78, 4, 172, 3, 172]
abbrev dktX0_spared_0 : List UInt8 := dkwX0_spared_0 ++ []
theorem dksX0_spared_0 : cX0_spared.data.toList.drop 0 = dktX0_spared_0 := by decide +kernel
theorem dX0_spared_0 : decode cX0_spared 0 = .ok (.aload_n 2, 1) := dk_44 (dk_at dksX0_spared_0 0 rfl rfl)
theorem dX0_spared_1 : decode cX0_spared 1 = .ok (.iconst 0, 1) := dk_3 (dk_at dksX0_spared_0 1 rfl rfl)
theorem dX0_spared_2 : decode cX0_spared 2 = .ok (.aload_n 0, 1) := dk_42 (dk_at dksX0_spared_0 2 rfl rfl)
theorem dX0_spared_3 : decode cX0_spared 3 = .ok (.iload_n 1, 1) := dk_27 (dk_at dksX0_spared_0 3 rfl rfl)
theorem dX0_spared_4 : decode cX0_spared 4 = .ok (.invokevirtual 132, 3) := dk_182 0 132 (dk_at dksX0_spared_0 4 rfl rfl)
theorem dX0_spared_7 : decode cX0_spared 7 = .ok (.lastore, 1) := dk_80 (dk_at dksX0_spared_0 7 rfl rfl)
theorem dX0_spared_8 : decode cX0_spared 8 = .ok (.goto 6, 3) := dk_167 0 6 (dk_at dksX0_spared_0 8 rfl rfl)
theorem dX0_spared_11 : decode cX0_spared 11 = .ok (.astore_n 3, 1) := dk_78 (dk_at dksX0_spared_0 11 rfl rfl)
theorem dX0_spared_12 : decode cX0_spared 12 = .ok (.iconst 1, 1) := dk_4 (dk_at dksX0_spared_0 12 rfl rfl)
theorem dX0_spared_13 : decode cX0_spared 13 = .ok (.ireturn, 1) := dk_172 (dk_at dksX0_spared_0 13 rfl rfl)
theorem dX0_spared_14 : decode cX0_spared 14 = .ok (.iconst 0, 1) := dk_3 (dk_at dksX0_spared_0 14 rfl rfl)
theorem dX0_spared_15 : decode cX0_spared 15 = .ok (.ireturn, 1) := dk_172 (dk_at dksX0_spared_0 15 rfl rfl)
abbrev cX0_shift : ByteArray := method_40_code
def yX0_shift : MethodName := ⟨RX0, "shift", "(LTallTowers;III[J)I"⟩
def dkwX0_shift_0 : List UInt8 := [25, 4, 3, 42, 27, 28, 29, 182, 0, 135, 80, 167, 0, 11, 58, 5, 4, 172, 58, 5, 5, 172, 3, 172]
abbrev dktX0_shift_0 : List UInt8 := dkwX0_shift_0 ++ []
theorem dksX0_shift_0 : cX0_shift.data.toList.drop 0 = dktX0_shift_0 := by decide +kernel
theorem dX0_shift_0 : decode cX0_shift 0 = .ok (.aload 4, 2) := dk_25 4 (dk_at dksX0_shift_0 0 rfl rfl)
theorem dX0_shift_2 : decode cX0_shift 2 = .ok (.iconst 0, 1) := dk_3 (dk_at dksX0_shift_0 2 rfl rfl)
theorem dX0_shift_3 : decode cX0_shift 3 = .ok (.aload_n 0, 1) := dk_42 (dk_at dksX0_shift_0 3 rfl rfl)
theorem dX0_shift_4 : decode cX0_shift 4 = .ok (.iload_n 1, 1) := dk_27 (dk_at dksX0_shift_0 4 rfl rfl)
theorem dX0_shift_5 : decode cX0_shift 5 = .ok (.iload_n 2, 1) := dk_28 (dk_at dksX0_shift_0 5 rfl rfl)
theorem dX0_shift_6 : decode cX0_shift 6 = .ok (.iload_n 3, 1) := dk_29 (dk_at dksX0_shift_0 6 rfl rfl)
theorem dX0_shift_7 : decode cX0_shift 7 = .ok (.invokevirtual 135, 3) := dk_182 0 135 (dk_at dksX0_shift_0 7 rfl rfl)
theorem dX0_shift_10 : decode cX0_shift 10 = .ok (.lastore, 1) := dk_80 (dk_at dksX0_shift_0 10 rfl rfl)
theorem dX0_shift_11 : decode cX0_shift 11 = .ok (.goto 11, 3) := dk_167 0 11 (dk_at dksX0_shift_0 11 rfl rfl)
theorem dX0_shift_14 : decode cX0_shift 14 = .ok (.astore 5, 2) := dk_58 5 (dk_at dksX0_shift_0 14 rfl rfl)
theorem dX0_shift_16 : decode cX0_shift 16 = .ok (.iconst 1, 1) := dk_4 (dk_at dksX0_shift_0 16 rfl rfl)
theorem dX0_shift_17 : decode cX0_shift 17 = .ok (.ireturn, 1) := dk_172 (dk_at dksX0_shift_0 17 rfl rfl)
theorem dX0_shift_18 : decode cX0_shift 18 = .ok (.astore 5, 2) := dk_58 5 (dk_at dksX0_shift_0 18 rfl rfl)
theorem dX0_shift_20 : decode cX0_shift 20 = .ok (.iconst 2, 1) := dk_5 (dk_at dksX0_shift_0 20 rfl rfl)
theorem dX0_shift_21 : decode cX0_shift 21 = .ok (.ireturn, 1) := dk_172 (dk_at dksX0_shift_0 21 rfl rfl)
theorem dX0_shift_22 : decode cX0_shift 22 = .ok (.iconst 0, 1) := dk_3 (dk_at dksX0_shift_0 22 rfl rfl)
theorem dX0_shift_23 : decode cX0_shift 23 = .ok (.ireturn, 1) := dk_172 (dk_at dksX0_shift_0 23 rfl rfl)
abbrev cX0_after : ByteArray := method_41_code
def yX0_after : MethodName := ⟨RX0, "after", "(LTallTowers;II[J)I"⟩
def dkwX0_after_0 : List UInt8 := [45, 3, 42, 27, 28, 182, 0, 138, 80, 167, 0, 11, 58, 4, 4, 172, 58, 4, 5, 172, 3, 172]
abbrev dktX0_after_0 : List UInt8 := dkwX0_after_0 ++ []
theorem dksX0_after_0 : cX0_after.data.toList.drop 0 = dktX0_after_0 := by decide +kernel
theorem dX0_after_0 : decode cX0_after 0 = .ok (.aload_n 3, 1) := dk_45 (dk_at dksX0_after_0 0 rfl rfl)
theorem dX0_after_1 : decode cX0_after 1 = .ok (.iconst 0, 1) := dk_3 (dk_at dksX0_after_0 1 rfl rfl)
theorem dX0_after_2 : decode cX0_after 2 = .ok (.aload_n 0, 1) := dk_42 (dk_at dksX0_after_0 2 rfl rfl)
theorem dX0_after_3 : decode cX0_after 3 = .ok (.iload_n 1, 1) := dk_27 (dk_at dksX0_after_0 3 rfl rfl)
theorem dX0_after_4 : decode cX0_after 4 = .ok (.iload_n 2, 1) := dk_28 (dk_at dksX0_after_0 4 rfl rfl)
theorem dX0_after_5 : decode cX0_after 5 = .ok (.invokevirtual 138, 3) := dk_182 0 138 (dk_at dksX0_after_0 5 rfl rfl)
theorem dX0_after_8 : decode cX0_after 8 = .ok (.lastore, 1) := dk_80 (dk_at dksX0_after_0 8 rfl rfl)
theorem dX0_after_9 : decode cX0_after 9 = .ok (.goto 11, 3) := dk_167 0 11 (dk_at dksX0_after_0 9 rfl rfl)
theorem dX0_after_12 : decode cX0_after 12 = .ok (.astore 4, 2) := dk_58 4 (dk_at dksX0_after_0 12 rfl rfl)
theorem dX0_after_14 : decode cX0_after 14 = .ok (.iconst 1, 1) := dk_4 (dk_at dksX0_after_0 14 rfl rfl)
theorem dX0_after_15 : decode cX0_after 15 = .ok (.ireturn, 1) := dk_172 (dk_at dksX0_after_0 15 rfl rfl)
theorem dX0_after_16 : decode cX0_after 16 = .ok (.astore 4, 2) := dk_58 4 (dk_at dksX0_after_0 16 rfl rfl)
theorem dX0_after_18 : decode cX0_after 18 = .ok (.iconst 2, 1) := dk_5 (dk_at dksX0_after_0 18 rfl rfl)
theorem dX0_after_19 : decode cX0_after 19 = .ok (.ireturn, 1) := dk_172 (dk_at dksX0_after_0 19 rfl rfl)
theorem dX0_after_20 : decode cX0_after 20 = .ok (.iconst 0, 1) := dk_3 (dk_at dksX0_after_0 20 rfl rfl)
theorem dX0_after_21 : decode cX0_after 21 = .ok (.ireturn, 1) := dk_172 (dk_at dksX0_after_0 21 rfl rfl)
abbrev cX0_usedUp : ByteArray := method_42_code
def yX0_usedUp : MethodName := ⟨RX0, "usedUp", "(LTallTowers;I[J)I"⟩
def dkwX0_usedUp_0 : List UInt8 := [44, 3, 42, 27, 182, 0, 141, 133, 80, 167, 0, 6, 78, 4, 172, 3, 172]
abbrev dktX0_usedUp_0 : List UInt8 := dkwX0_usedUp_0 ++ []
theorem dksX0_usedUp_0 : cX0_usedUp.data.toList.drop 0 = dktX0_usedUp_0 := by decide +kernel
theorem dX0_usedUp_0 : decode cX0_usedUp 0 = .ok (.aload_n 2, 1) := dk_44 (dk_at dksX0_usedUp_0 0 rfl rfl)
theorem dX0_usedUp_1 : decode cX0_usedUp 1 = .ok (.iconst 0, 1) := dk_3 (dk_at dksX0_usedUp_0 1 rfl rfl)
theorem dX0_usedUp_2 : decode cX0_usedUp 2 = .ok (.aload_n 0, 1) := dk_42 (dk_at dksX0_usedUp_0 2 rfl rfl)
theorem dX0_usedUp_3 : decode cX0_usedUp 3 = .ok (.iload_n 1, 1) := dk_27 (dk_at dksX0_usedUp_0 3 rfl rfl)
theorem dX0_usedUp_4 : decode cX0_usedUp 4 = .ok (.invokevirtual 141, 3) := dk_182 0 141 (dk_at dksX0_usedUp_0 4 rfl rfl)
theorem dX0_usedUp_7 : decode cX0_usedUp 7 = .ok (.i2l, 1) := dk_133 (dk_at dksX0_usedUp_0 7 rfl rfl)
theorem dX0_usedUp_8 : decode cX0_usedUp 8 = .ok (.lastore, 1) := dk_80 (dk_at dksX0_usedUp_0 8 rfl rfl)
theorem dX0_usedUp_9 : decode cX0_usedUp 9 = .ok (.goto 6, 3) := dk_167 0 6 (dk_at dksX0_usedUp_0 9 rfl rfl)
theorem dX0_usedUp_12 : decode cX0_usedUp 12 = .ok (.astore_n 3, 1) := dk_78 (dk_at dksX0_usedUp_0 12 rfl rfl)
theorem dX0_usedUp_13 : decode cX0_usedUp 13 = .ok (.iconst 1, 1) := dk_4 (dk_at dksX0_usedUp_0 13 rfl rfl)
theorem dX0_usedUp_14 : decode cX0_usedUp 14 = .ok (.ireturn, 1) := dk_172 (dk_at dksX0_usedUp_0 14 rfl rfl)
theorem dX0_usedUp_15 : decode cX0_usedUp 15 = .ok (.iconst 0, 1) := dk_3 (dk_at dksX0_usedUp_0 15 rfl rfl)
theorem dX0_usedUp_16 : decode cX0_usedUp 16 = .ok (.ireturn, 1) := dk_172 (dk_at dksX0_usedUp_0 16 rfl rfl)
abbrev cX0_heaviest : ByteArray := method_43_code
def yX0_heaviest : MethodName := ⟨RX0, "heaviest", "(LTallTowers;II[J)I"⟩
def dkwX0_heaviest_0 : List UInt8 := [45, 3, 42, 27, 28, 182, 0, 144, 80, 167, 0, 7, 58, 4, 4, 172, 3, 172]
abbrev dktX0_heaviest_0 : List UInt8 := dkwX0_heaviest_0 ++ []
theorem dksX0_heaviest_0 : cX0_heaviest.data.toList.drop 0 = dktX0_heaviest_0 := by decide +kernel
theorem dX0_heaviest_0 : decode cX0_heaviest 0 = .ok (.aload_n 3, 1) := dk_45 (dk_at dksX0_heaviest_0 0 rfl rfl)
theorem dX0_heaviest_1 : decode cX0_heaviest 1 = .ok (.iconst 0, 1) := dk_3 (dk_at dksX0_heaviest_0 1 rfl rfl)
theorem dX0_heaviest_2 : decode cX0_heaviest 2 = .ok (.aload_n 0, 1) := dk_42 (dk_at dksX0_heaviest_0 2 rfl rfl)
theorem dX0_heaviest_3 : decode cX0_heaviest 3 = .ok (.iload_n 1, 1) := dk_27 (dk_at dksX0_heaviest_0 3 rfl rfl)
theorem dX0_heaviest_4 : decode cX0_heaviest 4 = .ok (.iload_n 2, 1) := dk_28 (dk_at dksX0_heaviest_0 4 rfl rfl)
theorem dX0_heaviest_5 : decode cX0_heaviest 5 = .ok (.invokevirtual 144, 3) := dk_182 0 144 (dk_at dksX0_heaviest_0 5 rfl rfl)
theorem dX0_heaviest_8 : decode cX0_heaviest 8 = .ok (.lastore, 1) := dk_80 (dk_at dksX0_heaviest_0 8 rfl rfl)
theorem dX0_heaviest_9 : decode cX0_heaviest 9 = .ok (.goto 7, 3) := dk_167 0 7 (dk_at dksX0_heaviest_0 9 rfl rfl)
theorem dX0_heaviest_12 : decode cX0_heaviest 12 = .ok (.astore 4, 2) := dk_58 4 (dk_at dksX0_heaviest_0 12 rfl rfl)
theorem dX0_heaviest_14 : decode cX0_heaviest 14 = .ok (.iconst 1, 1) := dk_4 (dk_at dksX0_heaviest_0 14 rfl rfl)
theorem dX0_heaviest_15 : decode cX0_heaviest 15 = .ok (.ireturn, 1) := dk_172 (dk_at dksX0_heaviest_0 15 rfl rfl)
theorem dX0_heaviest_16 : decode cX0_heaviest 16 = .ok (.iconst 0, 1) := dk_3 (dk_at dksX0_heaviest_0 16 rfl rfl)
theorem dX0_heaviest_17 : decode cX0_heaviest 17 = .ok (.ireturn, 1) := dk_172 (dk_at dksX0_heaviest_0 17 rfl rfl)
abbrev cX0_cover : ByteArray := method_44_code
def yX0_cover : MethodName := ⟨RX0, "cover", "(LTallTowers;III[J)I"⟩
def dkwX0_cover_0 : List UInt8 := [25, 4, 3, 42, 27, 28, 29, 182, 0, 147, 133, 80, 167, 0, 7, 58, 5, 4, 172, 3, 172]
abbrev dktX0_cover_0 : List UInt8 := dkwX0_cover_0 ++ []
theorem dksX0_cover_0 : cX0_cover.data.toList.drop 0 = dktX0_cover_0 := by decide +kernel
theorem dX0_cover_0 : decode cX0_cover 0 = .ok (.aload 4, 2) := dk_25 4 (dk_at dksX0_cover_0 0 rfl rfl)
theorem dX0_cover_2 : decode cX0_cover 2 = .ok (.iconst 0, 1) := dk_3 (dk_at dksX0_cover_0 2 rfl rfl)
theorem dX0_cover_3 : decode cX0_cover 3 = .ok (.aload_n 0, 1) := dk_42 (dk_at dksX0_cover_0 3 rfl rfl)
theorem dX0_cover_4 : decode cX0_cover 4 = .ok (.iload_n 1, 1) := dk_27 (dk_at dksX0_cover_0 4 rfl rfl)
theorem dX0_cover_5 : decode cX0_cover 5 = .ok (.iload_n 2, 1) := dk_28 (dk_at dksX0_cover_0 5 rfl rfl)
theorem dX0_cover_6 : decode cX0_cover 6 = .ok (.iload_n 3, 1) := dk_29 (dk_at dksX0_cover_0 6 rfl rfl)
theorem dX0_cover_7 : decode cX0_cover 7 = .ok (.invokevirtual 147, 3) := dk_182 0 147 (dk_at dksX0_cover_0 7 rfl rfl)
theorem dX0_cover_10 : decode cX0_cover 10 = .ok (.i2l, 1) := dk_133 (dk_at dksX0_cover_0 10 rfl rfl)
theorem dX0_cover_11 : decode cX0_cover 11 = .ok (.lastore, 1) := dk_80 (dk_at dksX0_cover_0 11 rfl rfl)
theorem dX0_cover_12 : decode cX0_cover 12 = .ok (.goto 7, 3) := dk_167 0 7 (dk_at dksX0_cover_0 12 rfl rfl)
theorem dX0_cover_15 : decode cX0_cover 15 = .ok (.astore 5, 2) := dk_58 5 (dk_at dksX0_cover_0 15 rfl rfl)
theorem dX0_cover_17 : decode cX0_cover 17 = .ok (.iconst 1, 1) := dk_4 (dk_at dksX0_cover_0 17 rfl rfl)
theorem dX0_cover_18 : decode cX0_cover 18 = .ok (.ireturn, 1) := dk_172 (dk_at dksX0_cover_0 18 rfl rfl)
theorem dX0_cover_19 : decode cX0_cover 19 = .ok (.iconst 0, 1) := dk_3 (dk_at dksX0_cover_0 19 rfl rfl)
theorem dX0_cover_20 : decode cX0_cover 20 = .ok (.ireturn, 1) := dk_172 (dk_at dksX0_cover_0 20 rfl rfl)
abbrev cX0_reach : ByteArray := method_45_code
def yX0_reach : MethodName := ⟨RX0, "reach", "(LTallTowers;I[J)I"⟩
def dkwX0_reach_0 : List UInt8 := [44, 3, 42, 27, 182, 0, 150, 80, 167, 0, 6, 78, 4, 172, 3, 172]
abbrev dktX0_reach_0 : List UInt8 := dkwX0_reach_0 ++ []
theorem dksX0_reach_0 : cX0_reach.data.toList.drop 0 = dktX0_reach_0 := by decide +kernel
theorem dX0_reach_0 : decode cX0_reach 0 = .ok (.aload_n 2, 1) := dk_44 (dk_at dksX0_reach_0 0 rfl rfl)
theorem dX0_reach_1 : decode cX0_reach 1 = .ok (.iconst 0, 1) := dk_3 (dk_at dksX0_reach_0 1 rfl rfl)
theorem dX0_reach_2 : decode cX0_reach 2 = .ok (.aload_n 0, 1) := dk_42 (dk_at dksX0_reach_0 2 rfl rfl)
theorem dX0_reach_3 : decode cX0_reach 3 = .ok (.iload_n 1, 1) := dk_27 (dk_at dksX0_reach_0 3 rfl rfl)
theorem dX0_reach_4 : decode cX0_reach 4 = .ok (.invokevirtual 150, 3) := dk_182 0 150 (dk_at dksX0_reach_0 4 rfl rfl)
theorem dX0_reach_7 : decode cX0_reach 7 = .ok (.lastore, 1) := dk_80 (dk_at dksX0_reach_0 7 rfl rfl)
theorem dX0_reach_8 : decode cX0_reach 8 = .ok (.goto 6, 3) := dk_167 0 6 (dk_at dksX0_reach_0 8 rfl rfl)
theorem dX0_reach_11 : decode cX0_reach 11 = .ok (.astore_n 3, 1) := dk_78 (dk_at dksX0_reach_0 11 rfl rfl)
theorem dX0_reach_12 : decode cX0_reach 12 = .ok (.iconst 1, 1) := dk_4 (dk_at dksX0_reach_0 12 rfl rfl)
theorem dX0_reach_13 : decode cX0_reach 13 = .ok (.ireturn, 1) := dk_172 (dk_at dksX0_reach_0 13 rfl rfl)
theorem dX0_reach_14 : decode cX0_reach 14 = .ok (.iconst 0, 1) := dk_3 (dk_at dksX0_reach_0 14 rfl rfl)
theorem dX0_reach_15 : decode cX0_reach 15 = .ok (.ireturn, 1) := dk_172 (dk_at dksX0_reach_0 15 rfl rfl)
abbrev cX0_uneven : ByteArray := method_46_code
def yX0_uneven : MethodName := ⟨RX0, "uneven", "(LTallTowers;IIIII[J)I"⟩
def dkwX0_uneven_1 : List UInt8 := [5, 172, 3, 172]
abbrev dktX0_uneven_1 : List UInt8 := dkwX0_uneven_1 ++ []
def dkwX0_uneven_0 : List UInt8 := [25, 6, 3, 42, 27, 28, 29, 21, 4, 21, 5, 182, 0, 153, 80, 167, 0, 11, 58, 7, 4, 172, 58, 7]
abbrev dktX0_uneven_0 : List UInt8 := dkwX0_uneven_0 ++ dktX0_uneven_1
theorem dksX0_uneven_0 : cX0_uneven.data.toList.drop 0 = dktX0_uneven_0 := by decide +kernel
theorem dksX0_uneven_1 : cX0_uneven.data.toList.drop 24 = dktX0_uneven_1 := dk_seg dksX0_uneven_0 24 rfl rfl
theorem dX0_uneven_0 : decode cX0_uneven 0 = .ok (.aload 6, 2) := dk_25 6 (dk_at dksX0_uneven_0 0 rfl rfl)
theorem dX0_uneven_2 : decode cX0_uneven 2 = .ok (.iconst 0, 1) := dk_3 (dk_at dksX0_uneven_0 2 rfl rfl)
theorem dX0_uneven_3 : decode cX0_uneven 3 = .ok (.aload_n 0, 1) := dk_42 (dk_at dksX0_uneven_0 3 rfl rfl)
theorem dX0_uneven_4 : decode cX0_uneven 4 = .ok (.iload_n 1, 1) := dk_27 (dk_at dksX0_uneven_0 4 rfl rfl)
theorem dX0_uneven_5 : decode cX0_uneven 5 = .ok (.iload_n 2, 1) := dk_28 (dk_at dksX0_uneven_0 5 rfl rfl)
theorem dX0_uneven_6 : decode cX0_uneven 6 = .ok (.iload_n 3, 1) := dk_29 (dk_at dksX0_uneven_0 6 rfl rfl)
theorem dX0_uneven_7 : decode cX0_uneven 7 = .ok (.iload 4, 2) := dk_21 4 (dk_at dksX0_uneven_0 7 rfl rfl)
theorem dX0_uneven_9 : decode cX0_uneven 9 = .ok (.iload 5, 2) := dk_21 5 (dk_at dksX0_uneven_0 9 rfl rfl)
theorem dX0_uneven_11 : decode cX0_uneven 11 = .ok (.invokevirtual 153, 3) := dk_182 0 153 (dk_at dksX0_uneven_0 11 rfl rfl)
theorem dX0_uneven_14 : decode cX0_uneven 14 = .ok (.lastore, 1) := dk_80 (dk_at dksX0_uneven_0 14 rfl rfl)
theorem dX0_uneven_15 : decode cX0_uneven 15 = .ok (.goto 11, 3) := dk_167 0 11 (dk_at dksX0_uneven_0 15 rfl rfl)
theorem dX0_uneven_18 : decode cX0_uneven 18 = .ok (.astore 7, 2) := dk_58 7 (dk_at dksX0_uneven_0 18 rfl rfl)
theorem dX0_uneven_20 : decode cX0_uneven 20 = .ok (.iconst 1, 1) := dk_4 (dk_at dksX0_uneven_0 20 rfl rfl)
theorem dX0_uneven_21 : decode cX0_uneven 21 = .ok (.ireturn, 1) := dk_172 (dk_at dksX0_uneven_0 21 rfl rfl)
theorem dX0_uneven_22 : decode cX0_uneven 22 = .ok (.astore 7, 2) := dk_58 7 (dk_at dksX0_uneven_0 22 rfl rfl)
theorem dX0_uneven_24 : decode cX0_uneven 24 = .ok (.iconst 2, 1) := dk_5 (dk_at dksX0_uneven_1 0 rfl rfl)
theorem dX0_uneven_25 : decode cX0_uneven 25 = .ok (.ireturn, 1) := dk_172 (dk_at dksX0_uneven_1 1 rfl rfl)
theorem dX0_uneven_26 : decode cX0_uneven 26 = .ok (.iconst 0, 1) := dk_3 (dk_at dksX0_uneven_1 2 rfl rfl)
theorem dX0_uneven_27 : decode cX0_uneven 27 = .ok (.ireturn, 1) := dk_172 (dk_at dksX0_uneven_1 3 rfl rfl)
abbrev cX0_widest : ByteArray := method_47_code
def yX0_widest : MethodName := ⟨RX0, "widest", "(LTallTowers;II[J)I"⟩
def dkwX0_widest_0 : List UInt8 := [45, 3, 42, 27, 28, 182, 0, 156, 133, 80, 167, 0, 7, 58, 4, 4, 172, 3, 172]
abbrev dktX0_widest_0 : List UInt8 := dkwX0_widest_0 ++ []
theorem dksX0_widest_0 : cX0_widest.data.toList.drop 0 = dktX0_widest_0 := by decide +kernel
theorem dX0_widest_0 : decode cX0_widest 0 = .ok (.aload_n 3, 1) := dk_45 (dk_at dksX0_widest_0 0 rfl rfl)
theorem dX0_widest_1 : decode cX0_widest 1 = .ok (.iconst 0, 1) := dk_3 (dk_at dksX0_widest_0 1 rfl rfl)
theorem dX0_widest_2 : decode cX0_widest 2 = .ok (.aload_n 0, 1) := dk_42 (dk_at dksX0_widest_0 2 rfl rfl)
theorem dX0_widest_3 : decode cX0_widest 3 = .ok (.iload_n 1, 1) := dk_27 (dk_at dksX0_widest_0 3 rfl rfl)
theorem dX0_widest_4 : decode cX0_widest 4 = .ok (.iload_n 2, 1) := dk_28 (dk_at dksX0_widest_0 4 rfl rfl)
theorem dX0_widest_5 : decode cX0_widest 5 = .ok (.invokevirtual 156, 3) := dk_182 0 156 (dk_at dksX0_widest_0 5 rfl rfl)
theorem dX0_widest_8 : decode cX0_widest 8 = .ok (.i2l, 1) := dk_133 (dk_at dksX0_widest_0 8 rfl rfl)
theorem dX0_widest_9 : decode cX0_widest 9 = .ok (.lastore, 1) := dk_80 (dk_at dksX0_widest_0 9 rfl rfl)
theorem dX0_widest_10 : decode cX0_widest 10 = .ok (.goto 7, 3) := dk_167 0 7 (dk_at dksX0_widest_0 10 rfl rfl)
theorem dX0_widest_13 : decode cX0_widest 13 = .ok (.astore 4, 2) := dk_58 4 (dk_at dksX0_widest_0 13 rfl rfl)
theorem dX0_widest_15 : decode cX0_widest 15 = .ok (.iconst 1, 1) := dk_4 (dk_at dksX0_widest_0 15 rfl rfl)
theorem dX0_widest_16 : decode cX0_widest 16 = .ok (.ireturn, 1) := dk_172 (dk_at dksX0_widest_0 16 rfl rfl)
theorem dX0_widest_17 : decode cX0_widest 17 = .ok (.iconst 0, 1) := dk_3 (dk_at dksX0_widest_0 17 rfl rfl)
theorem dX0_widest_18 : decode cX0_widest 18 = .ok (.ireturn, 1) := dk_172 (dk_at dksX0_widest_0 18 rfl rfl)
abbrev cX0_strongest : ByteArray := method_48_code
def yX0_strongest : MethodName := ⟨RX0, "strongest", "(LTallTowers;I[J)I"⟩
def dkwX0_strongest_0 : List UInt8 := [44, 3, 42, 27, 182, 0, 159, 80, 167, 0, 6, 78, 4, 172, 3, 172]
abbrev dktX0_strongest_0 : List UInt8 := dkwX0_strongest_0 ++ []
theorem dksX0_strongest_0 : cX0_strongest.data.toList.drop 0 = dktX0_strongest_0 := by decide +kernel
theorem dX0_strongest_0 : decode cX0_strongest 0 = .ok (.aload_n 2, 1) := dk_44 (dk_at dksX0_strongest_0 0 rfl rfl)
theorem dX0_strongest_1 : decode cX0_strongest 1 = .ok (.iconst 0, 1) := dk_3 (dk_at dksX0_strongest_0 1 rfl rfl)
theorem dX0_strongest_2 : decode cX0_strongest 2 = .ok (.aload_n 0, 1) := dk_42 (dk_at dksX0_strongest_0 2 rfl rfl)
theorem dX0_strongest_3 : decode cX0_strongest 3 = .ok (.iload_n 1, 1) := dk_27 (dk_at dksX0_strongest_0 3 rfl rfl)
theorem dX0_strongest_4 : decode cX0_strongest 4 = .ok (.invokevirtual 159, 3) := dk_182 0 159 (dk_at dksX0_strongest_0 4 rfl rfl)
theorem dX0_strongest_7 : decode cX0_strongest 7 = .ok (.lastore, 1) := dk_80 (dk_at dksX0_strongest_0 7 rfl rfl)
theorem dX0_strongest_8 : decode cX0_strongest 8 = .ok (.goto 6, 3) := dk_167 0 6 (dk_at dksX0_strongest_0 8 rfl rfl)
theorem dX0_strongest_11 : decode cX0_strongest 11 = .ok (.astore_n 3, 1) := dk_78 (dk_at dksX0_strongest_0 11 rfl rfl)
theorem dX0_strongest_12 : decode cX0_strongest 12 = .ok (.iconst 1, 1) := dk_4 (dk_at dksX0_strongest_0 12 rfl rfl)
theorem dX0_strongest_13 : decode cX0_strongest 13 = .ok (.ireturn, 1) := dk_172 (dk_at dksX0_strongest_0 13 rfl rfl)
theorem dX0_strongest_14 : decode cX0_strongest 14 = .ok (.iconst 0, 1) := dk_3 (dk_at dksX0_strongest_0 14 rfl rfl)
theorem dX0_strongest_15 : decode cX0_strongest 15 = .ok (.ireturn, 1) := dk_172 (dk_at dksX0_strongest_0 15 rfl rfl)
abbrev cX0_holds : ByteArray := method_49_code
def yX0_holds : MethodName := ⟨RX0, "holds", "(LTallTowers;III[J)I"⟩
def dkwX0_holds_0 : List UInt8 := [25, 4, 3, 42, 27, 28, 29, 182, 0, 162, 133, 80, 167, 0, 7, 58, 5, 4, 172, 3, 172]
abbrev dktX0_holds_0 : List UInt8 := dkwX0_holds_0 ++ []
theorem dksX0_holds_0 : cX0_holds.data.toList.drop 0 = dktX0_holds_0 := by decide +kernel
theorem dX0_holds_0 : decode cX0_holds 0 = .ok (.aload 4, 2) := dk_25 4 (dk_at dksX0_holds_0 0 rfl rfl)
theorem dX0_holds_2 : decode cX0_holds 2 = .ok (.iconst 0, 1) := dk_3 (dk_at dksX0_holds_0 2 rfl rfl)
theorem dX0_holds_3 : decode cX0_holds 3 = .ok (.aload_n 0, 1) := dk_42 (dk_at dksX0_holds_0 3 rfl rfl)
theorem dX0_holds_4 : decode cX0_holds 4 = .ok (.iload_n 1, 1) := dk_27 (dk_at dksX0_holds_0 4 rfl rfl)
theorem dX0_holds_5 : decode cX0_holds 5 = .ok (.iload_n 2, 1) := dk_28 (dk_at dksX0_holds_0 5 rfl rfl)
theorem dX0_holds_6 : decode cX0_holds 6 = .ok (.iload_n 3, 1) := dk_29 (dk_at dksX0_holds_0 6 rfl rfl)
theorem dX0_holds_7 : decode cX0_holds 7 = .ok (.invokevirtual 162, 3) := dk_182 0 162 (dk_at dksX0_holds_0 7 rfl rfl)
theorem dX0_holds_10 : decode cX0_holds 10 = .ok (.i2l, 1) := dk_133 (dk_at dksX0_holds_0 10 rfl rfl)
theorem dX0_holds_11 : decode cX0_holds 11 = .ok (.lastore, 1) := dk_80 (dk_at dksX0_holds_0 11 rfl rfl)
theorem dX0_holds_12 : decode cX0_holds 12 = .ok (.goto 7, 3) := dk_167 0 7 (dk_at dksX0_holds_0 12 rfl rfl)
theorem dX0_holds_15 : decode cX0_holds 15 = .ok (.astore 5, 2) := dk_58 5 (dk_at dksX0_holds_0 15 rfl rfl)
theorem dX0_holds_17 : decode cX0_holds 17 = .ok (.iconst 1, 1) := dk_4 (dk_at dksX0_holds_0 17 rfl rfl)
theorem dX0_holds_18 : decode cX0_holds 18 = .ok (.ireturn, 1) := dk_172 (dk_at dksX0_holds_0 18 rfl rfl)
theorem dX0_holds_19 : decode cX0_holds 19 = .ok (.iconst 0, 1) := dk_3 (dk_at dksX0_holds_0 19 rfl rfl)
theorem dX0_holds_20 : decode cX0_holds 20 = .ok (.ireturn, 1) := dk_172 (dk_at dksX0_holds_0 20 rfl rfl)
theorem q126 : (Jvm.Cond.initialized "TallTowersLaw") ∈ lw_all := lw_g (lw_at lw_m1 0 rfl) rfl
theorem q160 : (Jvm.Cond.classLink "TallTowersLaw" (8 : Nat) "TallTowers") ∈ lw_all := lw_g (lw_at lw_m1 34 rfl) rfl
theorem q162 : (Jvm.Cond.methodLink "TallTowersLaw" (165 : Nat) ({ cls := "TallTowers", name := "<init>", desc := "()V" } : Jvm.MethodName)) ∈ lw_all := lw_g (lw_at lw_m1 36 rfl) rfl
theorem q920 : (Jvm.Cond.methodLink "TallTowersLaw" (206 : Nat) ({ cls := "TallTowers", name := "back", desc := "()I" } : Jvm.MethodName)) ∈ lw_all := lw_g (lw_at lw_m4 74 rfl) rfl
theorem q928 : (Jvm.Cond.methodLink "TallTowersLaw" (325 : Nat) ({ cls := "TallTowers", name := "spent", desc := "()J" } : Jvm.MethodName)) ∈ lw_all := lw_g (lw_at lw_m4 82 rfl) rfl
theorem q933 : (Jvm.Cond.methodLink "TallTowersLaw" (330 : Nat) ({ cls := "TallTowers", name := "status", desc := "(I)I" } : Jvm.MethodName)) ∈ lw_all := lw_g (lw_at lw_m4 87 rfl) rfl
theorem q937 : (Jvm.Cond.methodLink "TallTowersLaw" (169 : Nat) ({ cls := "TallTowersLaw", name := "place", desc := "(LTallTowers;IIII[J)I" } : Jvm.MethodName)) ∈ lw_all := lw_g (lw_at lw_m4 91 rfl) rfl
theorem q938 : (Jvm.Cond.static ({ cls := "TallTowersLaw", name := "place", desc := "(LTallTowers;IIII[J)I" } : Jvm.MethodName)) ∈ lw_all := lw_g (lw_at lw_m4 92 rfl) rfl
theorem q939 : (Jvm.Cond.codeWith ({ cls := "TallTowersLaw", name := "place", desc := "(LTallTowers;IIII[J)I" } : Jvm.MethodName) method_3_code (7 : Nat) (Option.some Jvm.ClassFile.FieldType.int) [((0 : Nat), (14 : Nat), (17 : Nat), (13 : Nat)), ((0 : Nat), (14 : Nat), (21 : Nat), (15 : Nat))]) ∈ lw_all := lw_g (lw_at lw_m4 93 rfl) rfl
theorem q940 : (Jvm.Cond.classLink "TallTowersLaw" (13 : Nat) "java/lang/IllegalArgumentException") ∈ lw_all := lw_g (lw_at lw_m4 94 rfl) rfl
theorem q941 : (Jvm.Cond.classLink "TallTowersLaw" (15 : Nat) "java/lang/IllegalStateException") ∈ lw_all := lw_g (lw_at lw_m4 95 rfl) rfl
theorem q942 : (Jvm.Cond.methodLink "TallTowersLaw" (7 : Nat) ({ cls := "TallTowers", name := "place", desc := "(IIII)I" } : Jvm.MethodName)) ∈ lw_all := lw_g (lw_at lw_m4 96 rfl) rfl
theorem q1014 : (Jvm.Cond.methodLink "TallTowersLaw" (179 : Nat) ({ cls := "TallTowersLaw", name := "sign", desc := "(LTallTowers;III[J)I" } : Jvm.MethodName)) ∈ lw_all := lw_g (lw_at lw_m4 168 rfl) rfl
theorem q1015 : (Jvm.Cond.static ({ cls := "TallTowersLaw", name := "sign", desc := "(LTallTowers;III[J)I" } : Jvm.MethodName)) ∈ lw_all := lw_g (lw_at lw_m4 169 rfl) rfl
theorem q1016 : (Jvm.Cond.codeWith ({ cls := "TallTowersLaw", name := "sign", desc := "(LTallTowers;III[J)I" } : Jvm.MethodName) method_4_code (6 : Nat) (Option.some Jvm.ClassFile.FieldType.int) [((0 : Nat), (12 : Nat), (15 : Nat), (21 : Nat)), ((0 : Nat), (12 : Nat), (19 : Nat), (13 : Nat)), ((0 : Nat), (12 : Nat), (23 : Nat), (15 : Nat))]) ∈ lw_all := lw_g (lw_at lw_m4 170 rfl) rfl
theorem q1017 : (Jvm.Cond.classLink "TallTowersLaw" (21 : Nat) "java/util/NoSuchElementException") ∈ lw_all := lw_g (lw_at lw_m4 171 rfl) rfl
theorem q1018 : (Jvm.Cond.methodLink "TallTowersLaw" (17 : Nat) ({ cls := "TallTowers", name := "sign", desc := "(III)I" } : Jvm.MethodName)) ∈ lw_all := lw_g (lw_at lw_m4 172 rfl) rfl
theorem q1068 : (Jvm.Cond.methodLink "TallTowersLaw" (183 : Nat) ({ cls := "TallTowersLaw", name := "lack", desc := "(LTallTowers;I[J)I" } : Jvm.MethodName)) ∈ lw_all := lw_g (lw_at lw_m4 222 rfl) rfl
theorem q1069 : (Jvm.Cond.static ({ cls := "TallTowersLaw", name := "lack", desc := "(LTallTowers;I[J)I" } : Jvm.MethodName)) ∈ lw_all := lw_g (lw_at lw_m4 223 rfl) rfl
theorem q1070 : (Jvm.Cond.codeWith ({ cls := "TallTowersLaw", name := "lack", desc := "(LTallTowers;I[J)I" } : Jvm.MethodName) method_5_code (4 : Nat) (Option.some Jvm.ClassFile.FieldType.int) [((0 : Nat), (9 : Nat), (12 : Nat), (13 : Nat)), ((0 : Nat), (9 : Nat), (15 : Nat), (15 : Nat))]) ∈ lw_all := lw_g (lw_at lw_m4 224 rfl) rfl
theorem q1071 : (Jvm.Cond.methodLink "TallTowersLaw" (23 : Nat) ({ cls := "TallTowers", name := "lack", desc := "(I)I" } : Jvm.MethodName)) ∈ lw_all := lw_g (lw_at lw_m4 225 rfl) rfl
theorem q1087 : (Jvm.Cond.methodLink "TallTowersLaw" (187 : Nat) ({ cls := "TallTowersLaw", name := "rules", desc := "(LTallTowers;III[J)I" } : Jvm.MethodName)) ∈ lw_all := lw_g (lw_at lw_m5 1 rfl) rfl
theorem q1088 : (Jvm.Cond.static ({ cls := "TallTowersLaw", name := "rules", desc := "(LTallTowers;III[J)I" } : Jvm.MethodName)) ∈ lw_all := lw_g (lw_at lw_m5 2 rfl) rfl
theorem q1089 : (Jvm.Cond.codeWith ({ cls := "TallTowersLaw", name := "rules", desc := "(LTallTowers;III[J)I" } : Jvm.MethodName) method_6_code (6 : Nat) (Option.some Jvm.ClassFile.FieldType.int) [((0 : Nat), (12 : Nat), (15 : Nat), (13 : Nat)), ((0 : Nat), (12 : Nat), (19 : Nat), (15 : Nat))]) ∈ lw_all := lw_g (lw_at lw_m5 3 rfl) rfl
theorem q1090 : (Jvm.Cond.methodLink "TallTowersLaw" (27 : Nat) ({ cls := "TallTowers", name := "rules", desc := "(III)I" } : Jvm.MethodName)) ∈ lw_all := lw_g (lw_at lw_m5 4 rfl) rfl
theorem q1104 : (Jvm.Cond.methodLink "TallTowersLaw" (190 : Nat) ({ cls := "TallTowersLaw", name := "harm", desc := "(LTallTowers;IIII[J)I" } : Jvm.MethodName)) ∈ lw_all := lw_g (lw_at lw_m5 18 rfl) rfl
theorem q1105 : (Jvm.Cond.static ({ cls := "TallTowersLaw", name := "harm", desc := "(LTallTowers;IIII[J)I" } : Jvm.MethodName)) ∈ lw_all := lw_g (lw_at lw_m5 19 rfl) rfl
theorem q1106 : (Jvm.Cond.codeWith ({ cls := "TallTowersLaw", name := "harm", desc := "(LTallTowers;IIII[J)I" } : Jvm.MethodName) method_7_code (7 : Nat) (Option.some Jvm.ClassFile.FieldType.int) [((0 : Nat), (14 : Nat), (17 : Nat), (13 : Nat)), ((0 : Nat), (14 : Nat), (21 : Nat), (15 : Nat))]) ∈ lw_all := lw_g (lw_at lw_m5 20 rfl) rfl
theorem q1107 : (Jvm.Cond.methodLink "TallTowersLaw" (30 : Nat) ({ cls := "TallTowers", name := "harm", desc := "(IIII)I" } : Jvm.MethodName)) ∈ lw_all := lw_g (lw_at lw_m5 21 rfl) rfl
theorem q1160 : (Jvm.Cond.methodLink "TallTowersLaw" (193 : Nat) ({ cls := "TallTowersLaw", name := "grow", desc := "(LTallTowers;II[J)I" } : Jvm.MethodName)) ∈ lw_all := lw_g (lw_at lw_m5 74 rfl) rfl
theorem q1161 : (Jvm.Cond.static ({ cls := "TallTowersLaw", name := "grow", desc := "(LTallTowers;II[J)I" } : Jvm.MethodName)) ∈ lw_all := lw_g (lw_at lw_m5 75 rfl) rfl
theorem q1162 : (Jvm.Cond.codeWith ({ cls := "TallTowersLaw", name := "grow", desc := "(LTallTowers;II[J)I" } : Jvm.MethodName) method_8_code (5 : Nat) (Option.some Jvm.ClassFile.FieldType.int) [((0 : Nat), (9 : Nat), (12 : Nat), (21 : Nat)), ((0 : Nat), (9 : Nat), (16 : Nat), (13 : Nat)), ((0 : Nat), (9 : Nat), (20 : Nat), (15 : Nat))]) ∈ lw_all := lw_g (lw_at lw_m5 76 rfl) rfl
theorem q1163 : (Jvm.Cond.methodLink "TallTowersLaw" (33 : Nat) ({ cls := "TallTowers", name := "grow", desc := "(II)J" } : Jvm.MethodName)) ∈ lw_all := lw_g (lw_at lw_m5 77 rfl) rfl
theorem q1183 : (Jvm.Cond.methodLink "TallTowersLaw" (197 : Nat) ({ cls := "TallTowersLaw", name := "settle", desc := "(LTallTowers;II[J)I" } : Jvm.MethodName)) ∈ lw_all := lw_g (lw_at lw_m5 97 rfl) rfl
theorem q1184 : (Jvm.Cond.static ({ cls := "TallTowersLaw", name := "settle", desc := "(LTallTowers;II[J)I" } : Jvm.MethodName)) ∈ lw_all := lw_g (lw_at lw_m5 98 rfl) rfl
theorem q1185 : (Jvm.Cond.codeWith ({ cls := "TallTowersLaw", name := "settle", desc := "(LTallTowers;II[J)I" } : Jvm.MethodName) method_9_code (5 : Nat) (Option.some Jvm.ClassFile.FieldType.int) [((0 : Nat), (10 : Nat), (13 : Nat), (13 : Nat)), ((0 : Nat), (10 : Nat), (17 : Nat), (15 : Nat))]) ∈ lw_all := lw_g (lw_at lw_m5 99 rfl) rfl
theorem q1186 : (Jvm.Cond.methodLink "TallTowersLaw" (37 : Nat) ({ cls := "TallTowers", name := "settle", desc := "(II)I" } : Jvm.MethodName)) ∈ lw_all := lw_g (lw_at lw_m5 100 rfl) rfl
theorem q1200 : (Jvm.Cond.methodLink "TallTowersLaw" (200 : Nat) ({ cls := "TallTowersLaw", name := "fall", desc := "(LTallTowers;I[J)I" } : Jvm.MethodName)) ∈ lw_all := lw_g (lw_at lw_m5 114 rfl) rfl
theorem q1201 : (Jvm.Cond.static ({ cls := "TallTowersLaw", name := "fall", desc := "(LTallTowers;I[J)I" } : Jvm.MethodName)) ∈ lw_all := lw_g (lw_at lw_m5 115 rfl) rfl
theorem q1202 : (Jvm.Cond.codeWith ({ cls := "TallTowersLaw", name := "fall", desc := "(LTallTowers;I[J)I" } : Jvm.MethodName) method_10_code (4 : Nat) (Option.some Jvm.ClassFile.FieldType.int) [((0 : Nat), (9 : Nat), (12 : Nat), (13 : Nat)), ((0 : Nat), (9 : Nat), (15 : Nat), (15 : Nat))]) ∈ lw_all := lw_g (lw_at lw_m5 116 rfl) rfl
theorem q1203 : (Jvm.Cond.methodLink "TallTowersLaw" (41 : Nat) ({ cls := "TallTowers", name := "fall", desc := "(I)I" } : Jvm.MethodName)) ∈ lw_all := lw_g (lw_at lw_m5 117 rfl) rfl
theorem q1209 : (Jvm.Cond.methodLink "TallTowersLaw" (203 : Nat) ({ cls := "TallTowersLaw", name := "reopen", desc := "(LTallTowers;I[J)I" } : Jvm.MethodName)) ∈ lw_all := lw_g (lw_at lw_m5 123 rfl) rfl
theorem q1210 : (Jvm.Cond.static ({ cls := "TallTowersLaw", name := "reopen", desc := "(LTallTowers;I[J)I" } : Jvm.MethodName)) ∈ lw_all := lw_g (lw_at lw_m5 124 rfl) rfl
theorem q1211 : (Jvm.Cond.codeWith ({ cls := "TallTowersLaw", name := "reopen", desc := "(LTallTowers;I[J)I" } : Jvm.MethodName) method_11_code (4 : Nat) (Option.some Jvm.ClassFile.FieldType.int) [((0 : Nat), (8 : Nat), (11 : Nat), (21 : Nat)), ((0 : Nat), (8 : Nat), (14 : Nat), (15 : Nat))]) ∈ lw_all := lw_g (lw_at lw_m5 125 rfl) rfl
theorem q1212 : (Jvm.Cond.methodLink "TallTowersLaw" (44 : Nat) ({ cls := "TallTowers", name := "reopen", desc := "(I)J" } : Jvm.MethodName)) ∈ lw_all := lw_g (lw_at lw_m5 126 rfl) rfl
theorem q1227 : (Jvm.Cond.methodLink "TallTowersLaw" (210 : Nat) ({ cls := "TallTowersLaw", name := "told", desc := "(LTallTowers;I[J)I" } : Jvm.MethodName)) ∈ lw_all := lw_g (lw_at lw_m5 141 rfl) rfl
theorem q1228 : (Jvm.Cond.static ({ cls := "TallTowersLaw", name := "told", desc := "(LTallTowers;I[J)I" } : Jvm.MethodName)) ∈ lw_all := lw_g (lw_at lw_m5 142 rfl) rfl
theorem q1229 : (Jvm.Cond.codeWith ({ cls := "TallTowersLaw", name := "told", desc := "(LTallTowers;I[J)I" } : Jvm.MethodName) method_12_code (4 : Nat) (Option.some Jvm.ClassFile.FieldType.int) [((0 : Nat), (9 : Nat), (12 : Nat), (13 : Nat))]) ∈ lw_all := lw_g (lw_at lw_m5 143 rfl) rfl
theorem q1230 : (Jvm.Cond.methodLink "TallTowersLaw" (48 : Nat) ({ cls := "TallTowers", name := "told", desc := "(I)I" } : Jvm.MethodName)) ∈ lw_all := lw_g (lw_at lw_m5 144 rfl) rfl
theorem q1243 : (Jvm.Cond.methodLink "TallTowersLaw" (213 : Nat) ({ cls := "TallTowersLaw", name := "event", desc := "(LTallTowers;II[J)I" } : Jvm.MethodName)) ∈ lw_all := lw_g (lw_at lw_m5 157 rfl) rfl
theorem q1244 : (Jvm.Cond.static ({ cls := "TallTowersLaw", name := "event", desc := "(LTallTowers;II[J)I" } : Jvm.MethodName)) ∈ lw_all := lw_g (lw_at lw_m5 158 rfl) rfl
theorem q1245 : (Jvm.Cond.codeWith ({ cls := "TallTowersLaw", name := "event", desc := "(LTallTowers;II[J)I" } : Jvm.MethodName) method_13_code (5 : Nat) (Option.some Jvm.ClassFile.FieldType.int) [((0 : Nat), (10 : Nat), (13 : Nat), (21 : Nat)), ((0 : Nat), (10 : Nat), (17 : Nat), (13 : Nat))]) ∈ lw_all := lw_g (lw_at lw_m5 159 rfl) rfl
theorem q1246 : (Jvm.Cond.methodLink "TallTowersLaw" (51 : Nat) ({ cls := "TallTowers", name := "event", desc := "(II)I" } : Jvm.MethodName)) ∈ lw_all := lw_g (lw_at lw_m5 160 rfl) rfl
theorem q1250 : (Jvm.Cond.methodLink "TallTowersLaw" (216 : Nat) ({ cls := "TallTowersLaw", name := "layer", desc := "(LTallTowers;II[J)I" } : Jvm.MethodName)) ∈ lw_all := lw_g (lw_at lw_m5 164 rfl) rfl
theorem q1251 : (Jvm.Cond.static ({ cls := "TallTowersLaw", name := "layer", desc := "(LTallTowers;II[J)I" } : Jvm.MethodName)) ∈ lw_all := lw_g (lw_at lw_m5 165 rfl) rfl
theorem q1252 : (Jvm.Cond.codeWith ({ cls := "TallTowersLaw", name := "layer", desc := "(LTallTowers;II[J)I" } : Jvm.MethodName) method_14_code (5 : Nat) (Option.some Jvm.ClassFile.FieldType.int) [((0 : Nat), (9 : Nat), (12 : Nat), (21 : Nat)), ((0 : Nat), (9 : Nat), (16 : Nat), (13 : Nat))]) ∈ lw_all := lw_g (lw_at lw_m5 166 rfl) rfl
theorem q1253 : (Jvm.Cond.methodLink "TallTowersLaw" (54 : Nat) ({ cls := "TallTowers", name := "layer", desc := "(II)J" } : Jvm.MethodName)) ∈ lw_all := lw_g (lw_at lw_m5 167 rfl) rfl
theorem q1262 : (Jvm.Cond.methodLink "TallTowersLaw" (219 : Nat) ({ cls := "TallTowersLaw", name := "signed", desc := "(LTallTowers;III[J)I" } : Jvm.MethodName)) ∈ lw_all := lw_g (lw_at lw_m5 176 rfl) rfl
theorem q1263 : (Jvm.Cond.static ({ cls := "TallTowersLaw", name := "signed", desc := "(LTallTowers;III[J)I" } : Jvm.MethodName)) ∈ lw_all := lw_g (lw_at lw_m5 177 rfl) rfl
theorem q1264 : (Jvm.Cond.codeWith ({ cls := "TallTowersLaw", name := "signed", desc := "(LTallTowers;III[J)I" } : Jvm.MethodName) method_15_code (6 : Nat) (Option.some Jvm.ClassFile.FieldType.int) [((0 : Nat), (11 : Nat), (14 : Nat), (21 : Nat)), ((0 : Nat), (11 : Nat), (18 : Nat), (13 : Nat))]) ∈ lw_all := lw_g (lw_at lw_m5 178 rfl) rfl
theorem q1265 : (Jvm.Cond.methodLink "TallTowersLaw" (57 : Nat) ({ cls := "TallTowers", name := "signed", desc := "(III)J" } : Jvm.MethodName)) ∈ lw_all := lw_g (lw_at lw_m5 179 rfl) rfl
theorem q1275 : (Jvm.Cond.methodLink "TallTowersLaw" (222 : Nat) ({ cls := "TallTowersLaw", name := "year", desc := "(LTallTowers;II[J)I" } : Jvm.MethodName)) ∈ lw_all := lw_g (lw_at lw_m5 189 rfl) rfl
theorem q1276 : (Jvm.Cond.static ({ cls := "TallTowersLaw", name := "year", desc := "(LTallTowers;II[J)I" } : Jvm.MethodName)) ∈ lw_all := lw_g (lw_at lw_m5 190 rfl) rfl
theorem q1277 : (Jvm.Cond.codeWith ({ cls := "TallTowersLaw", name := "year", desc := "(LTallTowers;II[J)I" } : Jvm.MethodName) method_16_code (5 : Nat) (Option.some Jvm.ClassFile.FieldType.int) [((0 : Nat), (9 : Nat), (12 : Nat), (13 : Nat))]) ∈ lw_all := lw_g (lw_at lw_m5 191 rfl) rfl
theorem q1278 : (Jvm.Cond.methodLink "TallTowersLaw" (61 : Nat) ({ cls := "TallTowers", name := "year", desc := "(II)J" } : Jvm.MethodName)) ∈ lw_all := lw_g (lw_at lw_m5 192 rfl) rfl
theorem q1300 : (Jvm.Cond.methodLink "TallTowersLaw" (225 : Nat) ({ cls := "TallTowersLaw", name := "at", desc := "(LTallTowers;II[J)I" } : Jvm.MethodName)) ∈ lw_all := lw_g (lw_at lw_m5 214 rfl) rfl
theorem q1301 : (Jvm.Cond.static ({ cls := "TallTowersLaw", name := "at", desc := "(LTallTowers;II[J)I" } : Jvm.MethodName)) ∈ lw_all := lw_g (lw_at lw_m5 215 rfl) rfl
theorem q1302 : (Jvm.Cond.codeWith ({ cls := "TallTowersLaw", name := "at", desc := "(LTallTowers;II[J)I" } : Jvm.MethodName) method_17_code (5 : Nat) (Option.some Jvm.ClassFile.FieldType.int) [((0 : Nat), (10 : Nat), (13 : Nat), (13 : Nat))]) ∈ lw_all := lw_g (lw_at lw_m5 216 rfl) rfl
theorem q1303 : (Jvm.Cond.methodLink "TallTowersLaw" (64 : Nat) ({ cls := "TallTowers", name := "at", desc := "(II)I" } : Jvm.MethodName)) ∈ lw_all := lw_g (lw_at lw_m5 217 rfl) rfl
theorem q1307 : (Jvm.Cond.methodLink "TallTowersLaw" (228 : Nat) ({ cls := "TallTowersLaw", name := "rung", desc := "(LTallTowers;II[J)I" } : Jvm.MethodName)) ∈ lw_all := lw_g (lw_at lw_m5 221 rfl) rfl
theorem q1308 : (Jvm.Cond.static ({ cls := "TallTowersLaw", name := "rung", desc := "(LTallTowers;II[J)I" } : Jvm.MethodName)) ∈ lw_all := lw_g (lw_at lw_m5 222 rfl) rfl
theorem q1309 : (Jvm.Cond.codeWith ({ cls := "TallTowersLaw", name := "rung", desc := "(LTallTowers;II[J)I" } : Jvm.MethodName) method_18_code (5 : Nat) (Option.some Jvm.ClassFile.FieldType.int) [((0 : Nat), (10 : Nat), (13 : Nat), (13 : Nat))]) ∈ lw_all := lw_g (lw_at lw_m5 223 rfl) rfl
theorem q1310 : (Jvm.Cond.methodLink "TallTowersLaw" (67 : Nat) ({ cls := "TallTowers", name := "rung", desc := "(II)I" } : Jvm.MethodName)) ∈ lw_all := lw_g (lw_at lw_m5 224 rfl) rfl
theorem q1314 : (Jvm.Cond.methodLink "TallTowersLaw" (231 : Nat) ({ cls := "TallTowersLaw", name := "damage", desc := "(LTallTowers;II[J)I" } : Jvm.MethodName)) ∈ lw_all := lw_g (lw_at lw_m5 228 rfl) rfl
theorem q1315 : (Jvm.Cond.static ({ cls := "TallTowersLaw", name := "damage", desc := "(LTallTowers;II[J)I" } : Jvm.MethodName)) ∈ lw_all := lw_g (lw_at lw_m5 229 rfl) rfl
theorem q1316 : (Jvm.Cond.codeWith ({ cls := "TallTowersLaw", name := "damage", desc := "(LTallTowers;II[J)I" } : Jvm.MethodName) method_19_code (5 : Nat) (Option.some Jvm.ClassFile.FieldType.int) [((0 : Nat), (9 : Nat), (12 : Nat), (21 : Nat)), ((0 : Nat), (9 : Nat), (16 : Nat), (13 : Nat))]) ∈ lw_all := lw_g (lw_at lw_m5 230 rfl) rfl
theorem q1317 : (Jvm.Cond.methodLink "TallTowersLaw" (70 : Nat) ({ cls := "TallTowers", name := "damage", desc := "(II)J" } : Jvm.MethodName)) ∈ lw_all := lw_g (lw_at lw_m5 231 rfl) rfl
theorem q1321 : (Jvm.Cond.methodLink "TallTowersLaw" (234 : Nat) ({ cls := "TallTowersLaw", name := "took", desc := "(LTallTowers;II[J)I" } : Jvm.MethodName)) ∈ lw_all := lw_g (lw_at lw_m5 235 rfl) rfl
theorem q1322 : (Jvm.Cond.static ({ cls := "TallTowersLaw", name := "took", desc := "(LTallTowers;II[J)I" } : Jvm.MethodName)) ∈ lw_all := lw_g (lw_at lw_m5 236 rfl) rfl
theorem q1323 : (Jvm.Cond.codeWith ({ cls := "TallTowersLaw", name := "took", desc := "(LTallTowers;II[J)I" } : Jvm.MethodName) method_20_code (5 : Nat) (Option.some Jvm.ClassFile.FieldType.int) [((0 : Nat), (9 : Nat), (12 : Nat), (21 : Nat))]) ∈ lw_all := lw_g (lw_at lw_m5 237 rfl) rfl
theorem q1324 : (Jvm.Cond.methodLink "TallTowersLaw" (73 : Nat) ({ cls := "TallTowers", name := "took", desc := "(II)J" } : Jvm.MethodName)) ∈ lw_all := lw_g (lw_at lw_m5 238 rfl) rfl
theorem q1328 : (Jvm.Cond.methodLink "TallTowersLaw" (237 : Nat) ({ cls := "TallTowersLaw", name := "hole", desc := "(LTallTowers;II[J)I" } : Jvm.MethodName)) ∈ lw_all := lw_g (lw_at lw_m6 2 rfl) rfl
theorem q1329 : (Jvm.Cond.static ({ cls := "TallTowersLaw", name := "hole", desc := "(LTallTowers;II[J)I" } : Jvm.MethodName)) ∈ lw_all := lw_g (lw_at lw_m6 3 rfl) rfl
theorem q1330 : (Jvm.Cond.codeWith ({ cls := "TallTowersLaw", name := "hole", desc := "(LTallTowers;II[J)I" } : Jvm.MethodName) method_21_code (5 : Nat) (Option.some Jvm.ClassFile.FieldType.int) [((0 : Nat), (9 : Nat), (12 : Nat), (21 : Nat))]) ∈ lw_all := lw_g (lw_at lw_m6 4 rfl) rfl
theorem q1331 : (Jvm.Cond.methodLink "TallTowersLaw" (76 : Nat) ({ cls := "TallTowers", name := "hole", desc := "(II)J" } : Jvm.MethodName)) ∈ lw_all := lw_g (lw_at lw_m6 5 rfl) rfl
theorem q1335 : (Jvm.Cond.methodLink "TallTowersLaw" (240 : Nat) ({ cls := "TallTowersLaw", name := "moved", desc := "(LTallTowers;II[J)I" } : Jvm.MethodName)) ∈ lw_all := lw_g (lw_at lw_m6 9 rfl) rfl
theorem q1336 : (Jvm.Cond.static ({ cls := "TallTowersLaw", name := "moved", desc := "(LTallTowers;II[J)I" } : Jvm.MethodName)) ∈ lw_all := lw_g (lw_at lw_m6 10 rfl) rfl
theorem q1337 : (Jvm.Cond.codeWith ({ cls := "TallTowersLaw", name := "moved", desc := "(LTallTowers;II[J)I" } : Jvm.MethodName) method_22_code (5 : Nat) (Option.some Jvm.ClassFile.FieldType.int) [((0 : Nat), (9 : Nat), (12 : Nat), (21 : Nat))]) ∈ lw_all := lw_g (lw_at lw_m6 11 rfl) rfl
theorem q1338 : (Jvm.Cond.methodLink "TallTowersLaw" (79 : Nat) ({ cls := "TallTowers", name := "moved", desc := "(II)J" } : Jvm.MethodName)) ∈ lw_all := lw_g (lw_at lw_m6 12 rfl) rfl
theorem q1342 : (Jvm.Cond.methodLink "TallTowersLaw" (243 : Nat) ({ cls := "TallTowersLaw", name := "bears", desc := "(LTallTowers;II[J)I" } : Jvm.MethodName)) ∈ lw_all := lw_g (lw_at lw_m6 16 rfl) rfl
theorem q1343 : (Jvm.Cond.static ({ cls := "TallTowersLaw", name := "bears", desc := "(LTallTowers;II[J)I" } : Jvm.MethodName)) ∈ lw_all := lw_g (lw_at lw_m6 17 rfl) rfl
theorem q1344 : (Jvm.Cond.codeWith ({ cls := "TallTowersLaw", name := "bears", desc := "(LTallTowers;II[J)I" } : Jvm.MethodName) method_23_code (5 : Nat) (Option.some Jvm.ClassFile.FieldType.int) [((0 : Nat), (9 : Nat), (12 : Nat), (21 : Nat)), ((0 : Nat), (9 : Nat), (16 : Nat), (13 : Nat))]) ∈ lw_all := lw_g (lw_at lw_m6 18 rfl) rfl
theorem q1345 : (Jvm.Cond.methodLink "TallTowersLaw" (82 : Nat) ({ cls := "TallTowers", name := "bears", desc := "(II)J" } : Jvm.MethodName)) ∈ lw_all := lw_g (lw_at lw_m6 19 rfl) rfl
theorem q1349 : (Jvm.Cond.methodLink "TallTowersLaw" (246 : Nat) ({ cls := "TallTowersLaw", name := "falls", desc := "(LTallTowers;II[J)I" } : Jvm.MethodName)) ∈ lw_all := lw_g (lw_at lw_m6 23 rfl) rfl
theorem q1350 : (Jvm.Cond.static ({ cls := "TallTowersLaw", name := "falls", desc := "(LTallTowers;II[J)I" } : Jvm.MethodName)) ∈ lw_all := lw_g (lw_at lw_m6 24 rfl) rfl
theorem q1351 : (Jvm.Cond.codeWith ({ cls := "TallTowersLaw", name := "falls", desc := "(LTallTowers;II[J)I" } : Jvm.MethodName) method_24_code (5 : Nat) (Option.some Jvm.ClassFile.FieldType.int) [((0 : Nat), (9 : Nat), (12 : Nat), (21 : Nat)), ((0 : Nat), (9 : Nat), (16 : Nat), (13 : Nat))]) ∈ lw_all := lw_g (lw_at lw_m6 25 rfl) rfl
theorem q1352 : (Jvm.Cond.methodLink "TallTowersLaw" (85 : Nat) ({ cls := "TallTowers", name := "falls", desc := "(II)J" } : Jvm.MethodName)) ∈ lw_all := lw_g (lw_at lw_m6 26 rfl) rfl
theorem q1356 : (Jvm.Cond.methodLink "TallTowersLaw" (249 : Nat) ({ cls := "TallTowersLaw", name := "insurer", desc := "(LTallTowers;II[J)I" } : Jvm.MethodName)) ∈ lw_all := lw_g (lw_at lw_m6 30 rfl) rfl
theorem q1357 : (Jvm.Cond.static ({ cls := "TallTowersLaw", name := "insurer", desc := "(LTallTowers;II[J)I" } : Jvm.MethodName)) ∈ lw_all := lw_g (lw_at lw_m6 31 rfl) rfl
theorem q1358 : (Jvm.Cond.codeWith ({ cls := "TallTowersLaw", name := "insurer", desc := "(LTallTowers;II[J)I" } : Jvm.MethodName) method_25_code (5 : Nat) (Option.some Jvm.ClassFile.FieldType.int) [((0 : Nat), (9 : Nat), (12 : Nat), (13 : Nat))]) ∈ lw_all := lw_g (lw_at lw_m6 32 rfl) rfl
theorem q1359 : (Jvm.Cond.methodLink "TallTowersLaw" (88 : Nat) ({ cls := "TallTowers", name := "insurer", desc := "(II)J" } : Jvm.MethodName)) ∈ lw_all := lw_g (lw_at lw_m6 33 rfl) rfl
theorem q1370 : (Jvm.Cond.methodLink "TallTowersLaw" (252 : Nat) ({ cls := "TallTowersLaw", name := "burden", desc := "(LTallTowers;I[J)I" } : Jvm.MethodName)) ∈ lw_all := lw_g (lw_at lw_m6 44 rfl) rfl
theorem q1371 : (Jvm.Cond.static ({ cls := "TallTowersLaw", name := "burden", desc := "(LTallTowers;I[J)I" } : Jvm.MethodName)) ∈ lw_all := lw_g (lw_at lw_m6 45 rfl) rfl
theorem q1372 : (Jvm.Cond.codeWith ({ cls := "TallTowersLaw", name := "burden", desc := "(LTallTowers;I[J)I" } : Jvm.MethodName) method_26_code (4 : Nat) (Option.some Jvm.ClassFile.FieldType.int) [((0 : Nat), (8 : Nat), (11 : Nat), (13 : Nat))]) ∈ lw_all := lw_g (lw_at lw_m6 46 rfl) rfl
theorem q1373 : (Jvm.Cond.methodLink "TallTowersLaw" (91 : Nat) ({ cls := "TallTowers", name := "burden", desc := "(I)J" } : Jvm.MethodName)) ∈ lw_all := lw_g (lw_at lw_m6 47 rfl) rfl
theorem q1377 : (Jvm.Cond.methodLink "TallTowersLaw" (255 : Nat) ({ cls := "TallTowersLaw", name := "rank", desc := "(LTallTowers;I[J)I" } : Jvm.MethodName)) ∈ lw_all := lw_g (lw_at lw_m6 51 rfl) rfl
theorem q1378 : (Jvm.Cond.static ({ cls := "TallTowersLaw", name := "rank", desc := "(LTallTowers;I[J)I" } : Jvm.MethodName)) ∈ lw_all := lw_g (lw_at lw_m6 52 rfl) rfl
theorem q1379 : (Jvm.Cond.codeWith ({ cls := "TallTowersLaw", name := "rank", desc := "(LTallTowers;I[J)I" } : Jvm.MethodName) method_27_code (4 : Nat) (Option.some Jvm.ClassFile.FieldType.int) [((0 : Nat), (9 : Nat), (12 : Nat), (13 : Nat))]) ∈ lw_all := lw_g (lw_at lw_m6 53 rfl) rfl
theorem q1380 : (Jvm.Cond.methodLink "TallTowersLaw" (94 : Nat) ({ cls := "TallTowers", name := "rank", desc := "(I)I" } : Jvm.MethodName)) ∈ lw_all := lw_g (lw_at lw_m6 54 rfl) rfl
theorem q1528 : (Jvm.Cond.methodLink "TallTowersLaw" (258 : Nat) ({ cls := "TallTowersLaw", name := "offs", desc := "(LTallTowers;IIII[J)I" } : Jvm.MethodName)) ∈ lw_all := lw_g (lw_at lw_m6 202 rfl) rfl
theorem q1529 : (Jvm.Cond.static ({ cls := "TallTowersLaw", name := "offs", desc := "(LTallTowers;IIII[J)I" } : Jvm.MethodName)) ∈ lw_all := lw_g (lw_at lw_m6 203 rfl) rfl
theorem q1530 : (Jvm.Cond.codeWith ({ cls := "TallTowersLaw", name := "offs", desc := "(LTallTowers;IIII[J)I" } : Jvm.MethodName) method_28_code (7 : Nat) (Option.some Jvm.ClassFile.FieldType.int) [((0 : Nat), (14 : Nat), (17 : Nat), (13 : Nat))]) ∈ lw_all := lw_g (lw_at lw_m6 204 rfl) rfl
theorem q1531 : (Jvm.Cond.methodLink "TallTowersLaw" (97 : Nat) ({ cls := "TallTowers", name := "offs", desc := "(IIII)I" } : Jvm.MethodName)) ∈ lw_all := lw_g (lw_at lw_m6 205 rfl) rfl
theorem q1542 : (Jvm.Cond.methodLink "TallTowersLaw" (261 : Nat) ({ cls := "TallTowersLaw", name := "would", desc := "(LTallTowers;IIIII[J)I" } : Jvm.MethodName)) ∈ lw_all := lw_g (lw_at lw_m6 216 rfl) rfl
theorem q1543 : (Jvm.Cond.static ({ cls := "TallTowersLaw", name := "would", desc := "(LTallTowers;IIIII[J)I" } : Jvm.MethodName)) ∈ lw_all := lw_g (lw_at lw_m6 217 rfl) rfl
theorem q1544 : (Jvm.Cond.codeWith ({ cls := "TallTowersLaw", name := "would", desc := "(LTallTowers;IIIII[J)I" } : Jvm.MethodName) method_29_code (8 : Nat) (Option.some Jvm.ClassFile.FieldType.int) [((0 : Nat), (15 : Nat), (18 : Nat), (13 : Nat))]) ∈ lw_all := lw_g (lw_at lw_m6 218 rfl) rfl
theorem q1545 : (Jvm.Cond.methodLink "TallTowersLaw" (100 : Nat) ({ cls := "TallTowers", name := "would", desc := "(IIIII)J" } : Jvm.MethodName)) ∈ lw_all := lw_g (lw_at lw_m6 219 rfl) rfl
theorem q1562 : (Jvm.Cond.methodLink "TallTowersLaw" (265 : Nat) ({ cls := "TallTowersLaw", name := "takes", desc := "(LTallTowers;IIIII[J)I" } : Jvm.MethodName)) ∈ lw_all := lw_g (lw_at lw_m6 236 rfl) rfl
theorem q1563 : (Jvm.Cond.static ({ cls := "TallTowersLaw", name := "takes", desc := "(LTallTowers;IIIII[J)I" } : Jvm.MethodName)) ∈ lw_all := lw_g (lw_at lw_m6 237 rfl) rfl
theorem q1564 : (Jvm.Cond.codeWith ({ cls := "TallTowersLaw", name := "takes", desc := "(LTallTowers;IIIII[J)I" } : Jvm.MethodName) method_30_code (8 : Nat) (Option.some Jvm.ClassFile.FieldType.int) [((0 : Nat), (15 : Nat), (18 : Nat), (21 : Nat)), ((0 : Nat), (15 : Nat), (22 : Nat), (13 : Nat))]) ∈ lw_all := lw_g (lw_at lw_m6 238 rfl) rfl
theorem q1565 : (Jvm.Cond.methodLink "TallTowersLaw" (104 : Nat) ({ cls := "TallTowers", name := "takes", desc := "(IIIII)J" } : Jvm.MethodName)) ∈ lw_all := lw_g (lw_at lw_m6 239 rfl) rfl
theorem q1569 : (Jvm.Cond.methodLink "TallTowersLaw" (268 : Nat) ({ cls := "TallTowersLaw", name := "drops", desc := "(LTallTowers;IIIII[J)I" } : Jvm.MethodName)) ∈ lw_all := lw_g (lw_at lw_m7 3 rfl) rfl
theorem q1570 : (Jvm.Cond.static ({ cls := "TallTowersLaw", name := "drops", desc := "(LTallTowers;IIIII[J)I" } : Jvm.MethodName)) ∈ lw_all := lw_g (lw_at lw_m7 4 rfl) rfl
theorem q1571 : (Jvm.Cond.codeWith ({ cls := "TallTowersLaw", name := "drops", desc := "(LTallTowers;IIIII[J)I" } : Jvm.MethodName) method_31_code (8 : Nat) (Option.some Jvm.ClassFile.FieldType.int) [((0 : Nat), (15 : Nat), (18 : Nat), (13 : Nat))]) ∈ lw_all := lw_g (lw_at lw_m7 5 rfl) rfl
theorem q1572 : (Jvm.Cond.methodLink "TallTowersLaw" (107 : Nat) ({ cls := "TallTowers", name := "drops", desc := "(IIIII)J" } : Jvm.MethodName)) ∈ lw_all := lw_g (lw_at lw_m7 6 rfl) rfl
theorem q1576 : (Jvm.Cond.methodLink "TallTowersLaw" (271 : Nat) ({ cls := "TallTowersLaw", name := "share", desc := "(LTallTowers;IIIII[J)I" } : Jvm.MethodName)) ∈ lw_all := lw_g (lw_at lw_m7 10 rfl) rfl
theorem q1577 : (Jvm.Cond.static ({ cls := "TallTowersLaw", name := "share", desc := "(LTallTowers;IIIII[J)I" } : Jvm.MethodName)) ∈ lw_all := lw_g (lw_at lw_m7 11 rfl) rfl
theorem q1578 : (Jvm.Cond.codeWith ({ cls := "TallTowersLaw", name := "share", desc := "(LTallTowers;IIIII[J)I" } : Jvm.MethodName) method_32_code (8 : Nat) (Option.some Jvm.ClassFile.FieldType.int) [((0 : Nat), (15 : Nat), (18 : Nat), (13 : Nat))]) ∈ lw_all := lw_g (lw_at lw_m7 12 rfl) rfl
theorem q1579 : (Jvm.Cond.methodLink "TallTowersLaw" (110 : Nat) ({ cls := "TallTowers", name := "share", desc := "(IIIII)J" } : Jvm.MethodName)) ∈ lw_all := lw_g (lw_at lw_m7 13 rfl) rfl
theorem q1585 : (Jvm.Cond.methodLink "TallTowersLaw" (274 : Nat) ({ cls := "TallTowersLaw", name := "weight", desc := "(LTallTowers;IIII[J)I" } : Jvm.MethodName)) ∈ lw_all := lw_g (lw_at lw_m7 19 rfl) rfl
theorem q1586 : (Jvm.Cond.static ({ cls := "TallTowersLaw", name := "weight", desc := "(LTallTowers;IIII[J)I" } : Jvm.MethodName)) ∈ lw_all := lw_g (lw_at lw_m7 20 rfl) rfl
theorem q1587 : (Jvm.Cond.codeWith ({ cls := "TallTowersLaw", name := "weight", desc := "(LTallTowers;IIII[J)I" } : Jvm.MethodName) method_33_code (7 : Nat) (Option.some Jvm.ClassFile.FieldType.int) [((0 : Nat), (13 : Nat), (16 : Nat), (13 : Nat))]) ∈ lw_all := lw_g (lw_at lw_m7 21 rfl) rfl
theorem q1588 : (Jvm.Cond.methodLink "TallTowersLaw" (113 : Nat) ({ cls := "TallTowers", name := "weight", desc := "(IIII)J" } : Jvm.MethodName)) ∈ lw_all := lw_g (lw_at lw_m7 22 rfl) rfl
theorem q1593 : (Jvm.Cond.methodLink "TallTowersLaw" (277 : Nat) ({ cls := "TallTowersLaw", name := "picks", desc := "(LTallTowers;IIII[J)I" } : Jvm.MethodName)) ∈ lw_all := lw_g (lw_at lw_m7 27 rfl) rfl
theorem q1594 : (Jvm.Cond.static ({ cls := "TallTowersLaw", name := "picks", desc := "(LTallTowers;IIII[J)I" } : Jvm.MethodName)) ∈ lw_all := lw_g (lw_at lw_m7 28 rfl) rfl
theorem q1595 : (Jvm.Cond.codeWith ({ cls := "TallTowersLaw", name := "picks", desc := "(LTallTowers;IIII[J)I" } : Jvm.MethodName) method_34_code (7 : Nat) (Option.some Jvm.ClassFile.FieldType.int) [((0 : Nat), (14 : Nat), (17 : Nat), (13 : Nat))]) ∈ lw_all := lw_g (lw_at lw_m7 29 rfl) rfl
theorem q1596 : (Jvm.Cond.methodLink "TallTowersLaw" (117 : Nat) ({ cls := "TallTowers", name := "picks", desc := "(IIII)I" } : Jvm.MethodName)) ∈ lw_all := lw_g (lw_at lw_m7 30 rfl) rfl
theorem q1609 : (Jvm.Cond.methodLink "TallTowersLaw" (280 : Nat) ({ cls := "TallTowersLaw", name := "other", desc := "(LTallTowers;IIII[J)I" } : Jvm.MethodName)) ∈ lw_all := lw_g (lw_at lw_m7 43 rfl) rfl
theorem q1610 : (Jvm.Cond.static ({ cls := "TallTowersLaw", name := "other", desc := "(LTallTowers;IIII[J)I" } : Jvm.MethodName)) ∈ lw_all := lw_g (lw_at lw_m7 44 rfl) rfl
theorem q1611 : (Jvm.Cond.codeWith ({ cls := "TallTowersLaw", name := "other", desc := "(LTallTowers;IIII[J)I" } : Jvm.MethodName) method_35_code (7 : Nat) (Option.some Jvm.ClassFile.FieldType.int) [((0 : Nat), (13 : Nat), (16 : Nat), (13 : Nat))]) ∈ lw_all := lw_g (lw_at lw_m7 45 rfl) rfl
theorem q1612 : (Jvm.Cond.methodLink "TallTowersLaw" (120 : Nat) ({ cls := "TallTowers", name := "other", desc := "(IIII)J" } : Jvm.MethodName)) ∈ lw_all := lw_g (lw_at lw_m7 46 rfl) rfl
theorem q1628 : (Jvm.Cond.methodLink "TallTowersLaw" (283 : Nat) ({ cls := "TallTowersLaw", name := "best", desc := "(LTallTowers;II[J)I" } : Jvm.MethodName)) ∈ lw_all := lw_g (lw_at lw_m7 62 rfl) rfl
theorem q1629 : (Jvm.Cond.static ({ cls := "TallTowersLaw", name := "best", desc := "(LTallTowers;II[J)I" } : Jvm.MethodName)) ∈ lw_all := lw_g (lw_at lw_m7 63 rfl) rfl
theorem q1630 : (Jvm.Cond.codeWith ({ cls := "TallTowersLaw", name := "best", desc := "(LTallTowers;II[J)I" } : Jvm.MethodName) method_36_code (5 : Nat) (Option.some Jvm.ClassFile.FieldType.int) [((0 : Nat), (9 : Nat), (12 : Nat), (13 : Nat))]) ∈ lw_all := lw_g (lw_at lw_m7 64 rfl) rfl
theorem q1631 : (Jvm.Cond.methodLink "TallTowersLaw" (123 : Nat) ({ cls := "TallTowers", name := "best", desc := "(II)J" } : Jvm.MethodName)) ∈ lw_all := lw_g (lw_at lw_m7 65 rfl) rfl
theorem q1635 : (Jvm.Cond.methodLink "TallTowersLaw" (286 : Nat) ({ cls := "TallTowersLaw", name := "without", desc := "(LTallTowers;II[J)I" } : Jvm.MethodName)) ∈ lw_all := lw_g (lw_at lw_m7 69 rfl) rfl
theorem q1636 : (Jvm.Cond.static ({ cls := "TallTowersLaw", name := "without", desc := "(LTallTowers;II[J)I" } : Jvm.MethodName)) ∈ lw_all := lw_g (lw_at lw_m7 70 rfl) rfl
theorem q1637 : (Jvm.Cond.codeWith ({ cls := "TallTowersLaw", name := "without", desc := "(LTallTowers;II[J)I" } : Jvm.MethodName) method_37_code (5 : Nat) (Option.some Jvm.ClassFile.FieldType.int) [((0 : Nat), (9 : Nat), (12 : Nat), (21 : Nat)), ((0 : Nat), (9 : Nat), (16 : Nat), (13 : Nat))]) ∈ lw_all := lw_g (lw_at lw_m7 71 rfl) rfl
theorem q1638 : (Jvm.Cond.methodLink "TallTowersLaw" (126 : Nat) ({ cls := "TallTowers", name := "without", desc := "(II)J" } : Jvm.MethodName)) ∈ lw_all := lw_g (lw_at lw_m7 72 rfl) rfl
theorem q1646 : (Jvm.Cond.methodLink "TallTowersLaw" (289 : Nat) ({ cls := "TallTowersLaw", name := "undone", desc := "(LTallTowers;I[J)I" } : Jvm.MethodName)) ∈ lw_all := lw_g (lw_at lw_m7 80 rfl) rfl
theorem q1647 : (Jvm.Cond.static ({ cls := "TallTowersLaw", name := "undone", desc := "(LTallTowers;I[J)I" } : Jvm.MethodName)) ∈ lw_all := lw_g (lw_at lw_m7 81 rfl) rfl
theorem q1648 : (Jvm.Cond.codeWith ({ cls := "TallTowersLaw", name := "undone", desc := "(LTallTowers;I[J)I" } : Jvm.MethodName) method_38_code (4 : Nat) (Option.some Jvm.ClassFile.FieldType.int) [((0 : Nat), (9 : Nat), (12 : Nat), (21 : Nat))]) ∈ lw_all := lw_g (lw_at lw_m7 82 rfl) rfl
theorem q1649 : (Jvm.Cond.methodLink "TallTowersLaw" (129 : Nat) ({ cls := "TallTowers", name := "undone", desc := "(I)I" } : Jvm.MethodName)) ∈ lw_all := lw_g (lw_at lw_m7 83 rfl) rfl
theorem q1653 : (Jvm.Cond.methodLink "TallTowersLaw" (292 : Nat) ({ cls := "TallTowersLaw", name := "spared", desc := "(LTallTowers;I[J)I" } : Jvm.MethodName)) ∈ lw_all := lw_g (lw_at lw_m7 87 rfl) rfl
theorem q1654 : (Jvm.Cond.static ({ cls := "TallTowersLaw", name := "spared", desc := "(LTallTowers;I[J)I" } : Jvm.MethodName)) ∈ lw_all := lw_g (lw_at lw_m7 88 rfl) rfl
theorem q1655 : (Jvm.Cond.codeWith ({ cls := "TallTowersLaw", name := "spared", desc := "(LTallTowers;I[J)I" } : Jvm.MethodName) method_39_code (4 : Nat) (Option.some Jvm.ClassFile.FieldType.int) [((0 : Nat), (8 : Nat), (11 : Nat), (13 : Nat))]) ∈ lw_all := lw_g (lw_at lw_m7 89 rfl) rfl
theorem q1656 : (Jvm.Cond.methodLink "TallTowersLaw" (132 : Nat) ({ cls := "TallTowers", name := "spared", desc := "(I)J" } : Jvm.MethodName)) ∈ lw_all := lw_g (lw_at lw_m7 90 rfl) rfl
theorem q1660 : (Jvm.Cond.methodLink "TallTowersLaw" (295 : Nat) ({ cls := "TallTowersLaw", name := "shift", desc := "(LTallTowers;III[J)I" } : Jvm.MethodName)) ∈ lw_all := lw_g (lw_at lw_m7 94 rfl) rfl
theorem q1661 : (Jvm.Cond.static ({ cls := "TallTowersLaw", name := "shift", desc := "(LTallTowers;III[J)I" } : Jvm.MethodName)) ∈ lw_all := lw_g (lw_at lw_m7 95 rfl) rfl
theorem q1662 : (Jvm.Cond.codeWith ({ cls := "TallTowersLaw", name := "shift", desc := "(LTallTowers;III[J)I" } : Jvm.MethodName) method_40_code (6 : Nat) (Option.some Jvm.ClassFile.FieldType.int) [((0 : Nat), (11 : Nat), (14 : Nat), (21 : Nat)), ((0 : Nat), (11 : Nat), (18 : Nat), (13 : Nat))]) ∈ lw_all := lw_g (lw_at lw_m7 96 rfl) rfl
theorem q1663 : (Jvm.Cond.methodLink "TallTowersLaw" (135 : Nat) ({ cls := "TallTowers", name := "shift", desc := "(III)J" } : Jvm.MethodName)) ∈ lw_all := lw_g (lw_at lw_m7 97 rfl) rfl
theorem q1667 : (Jvm.Cond.methodLink "TallTowersLaw" (298 : Nat) ({ cls := "TallTowersLaw", name := "after", desc := "(LTallTowers;II[J)I" } : Jvm.MethodName)) ∈ lw_all := lw_g (lw_at lw_m7 101 rfl) rfl
theorem q1668 : (Jvm.Cond.static ({ cls := "TallTowersLaw", name := "after", desc := "(LTallTowers;II[J)I" } : Jvm.MethodName)) ∈ lw_all := lw_g (lw_at lw_m7 102 rfl) rfl
theorem q1669 : (Jvm.Cond.codeWith ({ cls := "TallTowersLaw", name := "after", desc := "(LTallTowers;II[J)I" } : Jvm.MethodName) method_41_code (5 : Nat) (Option.some Jvm.ClassFile.FieldType.int) [((0 : Nat), (9 : Nat), (12 : Nat), (21 : Nat)), ((0 : Nat), (9 : Nat), (16 : Nat), (13 : Nat))]) ∈ lw_all := lw_g (lw_at lw_m7 103 rfl) rfl
theorem q1670 : (Jvm.Cond.methodLink "TallTowersLaw" (138 : Nat) ({ cls := "TallTowers", name := "after", desc := "(II)J" } : Jvm.MethodName)) ∈ lw_all := lw_g (lw_at lw_m7 104 rfl) rfl
theorem q1674 : (Jvm.Cond.methodLink "TallTowersLaw" (301 : Nat) ({ cls := "TallTowersLaw", name := "usedUp", desc := "(LTallTowers;I[J)I" } : Jvm.MethodName)) ∈ lw_all := lw_g (lw_at lw_m7 108 rfl) rfl
theorem q1675 : (Jvm.Cond.static ({ cls := "TallTowersLaw", name := "usedUp", desc := "(LTallTowers;I[J)I" } : Jvm.MethodName)) ∈ lw_all := lw_g (lw_at lw_m7 109 rfl) rfl
theorem q1676 : (Jvm.Cond.codeWith ({ cls := "TallTowersLaw", name := "usedUp", desc := "(LTallTowers;I[J)I" } : Jvm.MethodName) method_42_code (4 : Nat) (Option.some Jvm.ClassFile.FieldType.int) [((0 : Nat), (9 : Nat), (12 : Nat), (21 : Nat))]) ∈ lw_all := lw_g (lw_at lw_m7 110 rfl) rfl
theorem q1677 : (Jvm.Cond.methodLink "TallTowersLaw" (141 : Nat) ({ cls := "TallTowers", name := "usedUp", desc := "(I)I" } : Jvm.MethodName)) ∈ lw_all := lw_g (lw_at lw_m7 111 rfl) rfl
theorem q1681 : (Jvm.Cond.methodLink "TallTowersLaw" (304 : Nat) ({ cls := "TallTowersLaw", name := "heaviest", desc := "(LTallTowers;II[J)I" } : Jvm.MethodName)) ∈ lw_all := lw_g (lw_at lw_m7 115 rfl) rfl
theorem q1682 : (Jvm.Cond.static ({ cls := "TallTowersLaw", name := "heaviest", desc := "(LTallTowers;II[J)I" } : Jvm.MethodName)) ∈ lw_all := lw_g (lw_at lw_m7 116 rfl) rfl
theorem q1683 : (Jvm.Cond.codeWith ({ cls := "TallTowersLaw", name := "heaviest", desc := "(LTallTowers;II[J)I" } : Jvm.MethodName) method_43_code (5 : Nat) (Option.some Jvm.ClassFile.FieldType.int) [((0 : Nat), (9 : Nat), (12 : Nat), (13 : Nat))]) ∈ lw_all := lw_g (lw_at lw_m7 117 rfl) rfl
theorem q1684 : (Jvm.Cond.methodLink "TallTowersLaw" (144 : Nat) ({ cls := "TallTowers", name := "heaviest", desc := "(II)J" } : Jvm.MethodName)) ∈ lw_all := lw_g (lw_at lw_m7 118 rfl) rfl
theorem q1696 : (Jvm.Cond.methodLink "TallTowersLaw" (307 : Nat) ({ cls := "TallTowersLaw", name := "cover", desc := "(LTallTowers;III[J)I" } : Jvm.MethodName)) ∈ lw_all := lw_g (lw_at lw_m7 130 rfl) rfl
theorem q1697 : (Jvm.Cond.static ({ cls := "TallTowersLaw", name := "cover", desc := "(LTallTowers;III[J)I" } : Jvm.MethodName)) ∈ lw_all := lw_g (lw_at lw_m7 131 rfl) rfl
theorem q1698 : (Jvm.Cond.codeWith ({ cls := "TallTowersLaw", name := "cover", desc := "(LTallTowers;III[J)I" } : Jvm.MethodName) method_44_code (6 : Nat) (Option.some Jvm.ClassFile.FieldType.int) [((0 : Nat), (12 : Nat), (15 : Nat), (13 : Nat))]) ∈ lw_all := lw_g (lw_at lw_m7 132 rfl) rfl
theorem q1699 : (Jvm.Cond.methodLink "TallTowersLaw" (147 : Nat) ({ cls := "TallTowers", name := "cover", desc := "(III)I" } : Jvm.MethodName)) ∈ lw_all := lw_g (lw_at lw_m7 133 rfl) rfl
theorem q1707 : (Jvm.Cond.methodLink "TallTowersLaw" (310 : Nat) ({ cls := "TallTowersLaw", name := "reach", desc := "(LTallTowers;I[J)I" } : Jvm.MethodName)) ∈ lw_all := lw_g (lw_at lw_m7 141 rfl) rfl
theorem q1708 : (Jvm.Cond.static ({ cls := "TallTowersLaw", name := "reach", desc := "(LTallTowers;I[J)I" } : Jvm.MethodName)) ∈ lw_all := lw_g (lw_at lw_m7 142 rfl) rfl
theorem q1709 : (Jvm.Cond.codeWith ({ cls := "TallTowersLaw", name := "reach", desc := "(LTallTowers;I[J)I" } : Jvm.MethodName) method_45_code (4 : Nat) (Option.some Jvm.ClassFile.FieldType.int) [((0 : Nat), (8 : Nat), (11 : Nat), (21 : Nat))]) ∈ lw_all := lw_g (lw_at lw_m7 143 rfl) rfl
theorem q1710 : (Jvm.Cond.methodLink "TallTowersLaw" (150 : Nat) ({ cls := "TallTowers", name := "reach", desc := "(I)J" } : Jvm.MethodName)) ∈ lw_all := lw_g (lw_at lw_m7 144 rfl) rfl
theorem q1715 : (Jvm.Cond.methodLink "TallTowersLaw" (313 : Nat) ({ cls := "TallTowersLaw", name := "uneven", desc := "(LTallTowers;IIIII[J)I" } : Jvm.MethodName)) ∈ lw_all := lw_g (lw_at lw_m7 149 rfl) rfl
theorem q1716 : (Jvm.Cond.static ({ cls := "TallTowersLaw", name := "uneven", desc := "(LTallTowers;IIIII[J)I" } : Jvm.MethodName)) ∈ lw_all := lw_g (lw_at lw_m7 150 rfl) rfl
theorem q1717 : (Jvm.Cond.codeWith ({ cls := "TallTowersLaw", name := "uneven", desc := "(LTallTowers;IIIII[J)I" } : Jvm.MethodName) method_46_code (8 : Nat) (Option.some Jvm.ClassFile.FieldType.int) [((0 : Nat), (15 : Nat), (18 : Nat), (21 : Nat)), ((0 : Nat), (15 : Nat), (22 : Nat), (13 : Nat))]) ∈ lw_all := lw_g (lw_at lw_m7 151 rfl) rfl
theorem q1718 : (Jvm.Cond.methodLink "TallTowersLaw" (153 : Nat) ({ cls := "TallTowers", name := "uneven", desc := "(IIIII)J" } : Jvm.MethodName)) ∈ lw_all := lw_g (lw_at lw_m7 152 rfl) rfl
theorem q1726 : (Jvm.Cond.methodLink "TallTowersLaw" (316 : Nat) ({ cls := "TallTowersLaw", name := "widest", desc := "(LTallTowers;II[J)I" } : Jvm.MethodName)) ∈ lw_all := lw_g (lw_at lw_m7 160 rfl) rfl
theorem q1727 : (Jvm.Cond.static ({ cls := "TallTowersLaw", name := "widest", desc := "(LTallTowers;II[J)I" } : Jvm.MethodName)) ∈ lw_all := lw_g (lw_at lw_m7 161 rfl) rfl
theorem q1728 : (Jvm.Cond.codeWith ({ cls := "TallTowersLaw", name := "widest", desc := "(LTallTowers;II[J)I" } : Jvm.MethodName) method_47_code (5 : Nat) (Option.some Jvm.ClassFile.FieldType.int) [((0 : Nat), (10 : Nat), (13 : Nat), (13 : Nat))]) ∈ lw_all := lw_g (lw_at lw_m7 162 rfl) rfl
theorem q1729 : (Jvm.Cond.methodLink "TallTowersLaw" (156 : Nat) ({ cls := "TallTowers", name := "widest", desc := "(II)I" } : Jvm.MethodName)) ∈ lw_all := lw_g (lw_at lw_m7 163 rfl) rfl
theorem q1733 : (Jvm.Cond.methodLink "TallTowersLaw" (319 : Nat) ({ cls := "TallTowersLaw", name := "strongest", desc := "(LTallTowers;I[J)I" } : Jvm.MethodName)) ∈ lw_all := lw_g (lw_at lw_m7 167 rfl) rfl
theorem q1734 : (Jvm.Cond.static ({ cls := "TallTowersLaw", name := "strongest", desc := "(LTallTowers;I[J)I" } : Jvm.MethodName)) ∈ lw_all := lw_g (lw_at lw_m7 168 rfl) rfl
theorem q1735 : (Jvm.Cond.codeWith ({ cls := "TallTowersLaw", name := "strongest", desc := "(LTallTowers;I[J)I" } : Jvm.MethodName) method_48_code (4 : Nat) (Option.some Jvm.ClassFile.FieldType.int) [((0 : Nat), (8 : Nat), (11 : Nat), (13 : Nat))]) ∈ lw_all := lw_g (lw_at lw_m7 169 rfl) rfl
theorem q1736 : (Jvm.Cond.methodLink "TallTowersLaw" (159 : Nat) ({ cls := "TallTowers", name := "strongest", desc := "(I)J" } : Jvm.MethodName)) ∈ lw_all := lw_g (lw_at lw_m7 170 rfl) rfl
theorem q1742 : (Jvm.Cond.methodLink "TallTowersLaw" (322 : Nat) ({ cls := "TallTowersLaw", name := "holds", desc := "(LTallTowers;III[J)I" } : Jvm.MethodName)) ∈ lw_all := lw_g (lw_at lw_m7 176 rfl) rfl
theorem q1743 : (Jvm.Cond.static ({ cls := "TallTowersLaw", name := "holds", desc := "(LTallTowers;III[J)I" } : Jvm.MethodName)) ∈ lw_all := lw_g (lw_at lw_m7 177 rfl) rfl
theorem q1744 : (Jvm.Cond.codeWith ({ cls := "TallTowersLaw", name := "holds", desc := "(LTallTowers;III[J)I" } : Jvm.MethodName) method_49_code (6 : Nat) (Option.some Jvm.ClassFile.FieldType.int) [((0 : Nat), (12 : Nat), (15 : Nat), (13 : Nat))]) ∈ lw_all := lw_g (lw_at lw_m7 178 rfl) rfl
theorem q1745 : (Jvm.Cond.methodLink "TallTowersLaw" (162 : Nat) ({ cls := "TallTowers", name := "holds", desc := "(III)I" } : Jvm.MethodName)) ∈ lw_all := lw_g (lw_at lw_m7 179 rfl) rfl
theorem q1751 : (Jvm.Cond.methodLink "TallTowersLaw" (175 : Nat) ({ cls := "TallTowersModel", name := "thrown", desc := "()I" } : Jvm.MethodName)) ∈ lw_all := lw_g (lw_at lw_m7 185 rfl) rfl
theorem q1755 : (Jvm.Cond.classLink "TallTowersLaw" (166 : Nat) "TallTowersModel") ∈ lw_all := lw_g (lw_at lw_m7 189 rfl) rfl
theorem q1757 : (Jvm.Cond.methodLink "TallTowersLaw" (168 : Nat) ({ cls := "TallTowersModel", name := "<init>", desc := "()V" } : Jvm.MethodName)) ∈ lw_all := lw_g (lw_at lw_m7 191 rfl) rfl
theorem q1913 : (Jvm.Cond.methodLink "TallTowersLaw" (174 : Nat) ({ cls := "TallTowersModel", name := "place", desc := "(IIII)I" } : Jvm.MethodName)) ∈ lw_all := lw_g (lw_at lw_m8 107 rfl) rfl
theorem q2122 : (Jvm.Cond.methodLink "TallTowersLaw" (182 : Nat) ({ cls := "TallTowersModel", name := "sign", desc := "(III)I" } : Jvm.MethodName)) ∈ lw_all := lw_g (lw_at lw_m9 76 rfl) rfl
theorem q2140 : (Jvm.Cond.methodLink "TallTowersLaw" (186 : Nat) ({ cls := "TallTowersModel", name := "lack", desc := "(I)I" } : Jvm.MethodName)) ∈ lw_all := lw_g (lw_at lw_m9 94 rfl) rfl
theorem q2147 : (Jvm.Cond.methodLink "TallTowersLaw" (189 : Nat) ({ cls := "TallTowersModel", name := "rules", desc := "(III)I" } : Jvm.MethodName)) ∈ lw_all := lw_g (lw_at lw_m9 101 rfl) rfl
theorem q2155 : (Jvm.Cond.methodLink "TallTowersLaw" (192 : Nat) ({ cls := "TallTowersModel", name := "harm", desc := "(IIII)I" } : Jvm.MethodName)) ∈ lw_all := lw_g (lw_at lw_m9 109 rfl) rfl
theorem q2166 : (Jvm.Cond.methodLink "TallTowersLaw" (196 : Nat) ({ cls := "TallTowersModel", name := "grow", desc := "(II)J" } : Jvm.MethodName)) ∈ lw_all := lw_g (lw_at lw_m9 120 rfl) rfl
theorem q2179 : (Jvm.Cond.methodLink "TallTowersLaw" (205 : Nat) ({ cls := "TallTowersModel", name := "reopen", desc := "(I)J" } : Jvm.MethodName)) ∈ lw_all := lw_g (lw_at lw_m9 133 rfl) rfl
theorem q2183 : (Jvm.Cond.methodLink "TallTowersLaw" (199 : Nat) ({ cls := "TallTowersModel", name := "settle", desc := "(II)I" } : Jvm.MethodName)) ∈ lw_all := lw_g (lw_at lw_m9 137 rfl) rfl
theorem q2191 : (Jvm.Cond.methodLink "TallTowersLaw" (202 : Nat) ({ cls := "TallTowersModel", name := "fall", desc := "(I)I" } : Jvm.MethodName)) ∈ lw_all := lw_g (lw_at lw_m9 145 rfl) rfl
theorem q2195 : (Jvm.Cond.methodLink "TallTowersLaw" (209 : Nat) ({ cls := "TallTowersModel", name := "back", desc := "()I" } : Jvm.MethodName)) ∈ lw_all := lw_g (lw_at lw_m9 149 rfl) rfl
theorem q2219 : (Jvm.Cond.methodLink "TallTowersLaw" (212 : Nat) ({ cls := "TallTowersModel", name := "told", desc := "(I)I" } : Jvm.MethodName)) ∈ lw_all := lw_g (lw_at lw_m9 173 rfl) rfl
theorem q2231 : (Jvm.Cond.methodLink "TallTowersLaw" (215 : Nat) ({ cls := "TallTowersModel", name := "event", desc := "(II)I" } : Jvm.MethodName)) ∈ lw_all := lw_g (lw_at lw_m9 185 rfl) rfl
theorem q2239 : (Jvm.Cond.methodLink "TallTowersLaw" (218 : Nat) ({ cls := "TallTowersModel", name := "layer", desc := "(II)J" } : Jvm.MethodName)) ∈ lw_all := lw_g (lw_at lw_m9 193 rfl) rfl
theorem q2247 : (Jvm.Cond.methodLink "TallTowersLaw" (221 : Nat) ({ cls := "TallTowersModel", name := "signed", desc := "(III)J" } : Jvm.MethodName)) ∈ lw_all := lw_g (lw_at lw_m9 201 rfl) rfl
theorem q2252 : (Jvm.Cond.methodLink "TallTowersLaw" (224 : Nat) ({ cls := "TallTowersModel", name := "year", desc := "(II)J" } : Jvm.MethodName)) ∈ lw_all := lw_g (lw_at lw_m9 206 rfl) rfl
theorem q2261 : (Jvm.Cond.methodLink "TallTowersLaw" (227 : Nat) ({ cls := "TallTowersModel", name := "at", desc := "(II)I" } : Jvm.MethodName)) ∈ lw_all := lw_g (lw_at lw_m9 215 rfl) rfl
theorem q2272 : (Jvm.Cond.methodLink "TallTowersLaw" (230 : Nat) ({ cls := "TallTowersModel", name := "rung", desc := "(II)I" } : Jvm.MethodName)) ∈ lw_all := lw_g (lw_at lw_m9 226 rfl) rfl
theorem q2276 : (Jvm.Cond.methodLink "TallTowersLaw" (233 : Nat) ({ cls := "TallTowersModel", name := "damage", desc := "(II)J" } : Jvm.MethodName)) ∈ lw_all := lw_g (lw_at lw_m9 230 rfl) rfl
theorem q2281 : (Jvm.Cond.methodLink "TallTowersLaw" (236 : Nat) ({ cls := "TallTowersModel", name := "took", desc := "(II)J" } : Jvm.MethodName)) ∈ lw_all := lw_g (lw_at lw_m9 235 rfl) rfl
theorem q2289 : (Jvm.Cond.methodLink "TallTowersLaw" (239 : Nat) ({ cls := "TallTowersModel", name := "hole", desc := "(II)J" } : Jvm.MethodName)) ∈ lw_all := lw_g (lw_at lw_m10 3 rfl) rfl
theorem q2293 : (Jvm.Cond.methodLink "TallTowersLaw" (242 : Nat) ({ cls := "TallTowersModel", name := "moved", desc := "(II)J" } : Jvm.MethodName)) ∈ lw_all := lw_g (lw_at lw_m10 7 rfl) rfl
theorem q2297 : (Jvm.Cond.methodLink "TallTowersLaw" (245 : Nat) ({ cls := "TallTowersModel", name := "bears", desc := "(II)J" } : Jvm.MethodName)) ∈ lw_all := lw_g (lw_at lw_m10 11 rfl) rfl
theorem q2305 : (Jvm.Cond.methodLink "TallTowersLaw" (248 : Nat) ({ cls := "TallTowersModel", name := "falls", desc := "(II)J" } : Jvm.MethodName)) ∈ lw_all := lw_g (lw_at lw_m10 19 rfl) rfl
theorem q2309 : (Jvm.Cond.methodLink "TallTowersLaw" (251 : Nat) ({ cls := "TallTowersModel", name := "insurer", desc := "(II)J" } : Jvm.MethodName)) ∈ lw_all := lw_g (lw_at lw_m10 23 rfl) rfl
theorem q2325 : (Jvm.Cond.methodLink "TallTowersLaw" (254 : Nat) ({ cls := "TallTowersModel", name := "burden", desc := "(I)J" } : Jvm.MethodName)) ∈ lw_all := lw_g (lw_at lw_m10 39 rfl) rfl
theorem q2329 : (Jvm.Cond.methodLink "TallTowersLaw" (257 : Nat) ({ cls := "TallTowersModel", name := "rank", desc := "(I)I" } : Jvm.MethodName)) ∈ lw_all := lw_g (lw_at lw_m10 43 rfl) rfl
theorem q2333 : (Jvm.Cond.methodLink "TallTowersLaw" (260 : Nat) ({ cls := "TallTowersModel", name := "offs", desc := "(IIII)I" } : Jvm.MethodName)) ∈ lw_all := lw_g (lw_at lw_m10 47 rfl) rfl
theorem q2337 : (Jvm.Cond.methodLink "TallTowersLaw" (264 : Nat) ({ cls := "TallTowersModel", name := "would", desc := "(IIIII)J" } : Jvm.MethodName)) ∈ lw_all := lw_g (lw_at lw_m10 51 rfl) rfl
theorem q2349 : (Jvm.Cond.methodLink "TallTowersLaw" (267 : Nat) ({ cls := "TallTowersModel", name := "takes", desc := "(IIIII)J" } : Jvm.MethodName)) ∈ lw_all := lw_g (lw_at lw_m10 63 rfl) rfl
theorem q2353 : (Jvm.Cond.methodLink "TallTowersLaw" (270 : Nat) ({ cls := "TallTowersModel", name := "drops", desc := "(IIIII)J" } : Jvm.MethodName)) ∈ lw_all := lw_g (lw_at lw_m10 67 rfl) rfl
theorem q2357 : (Jvm.Cond.methodLink "TallTowersLaw" (273 : Nat) ({ cls := "TallTowersModel", name := "share", desc := "(IIIII)J" } : Jvm.MethodName)) ∈ lw_all := lw_g (lw_at lw_m10 71 rfl) rfl
theorem q2361 : (Jvm.Cond.methodLink "TallTowersLaw" (276 : Nat) ({ cls := "TallTowersModel", name := "weight", desc := "(IIII)J" } : Jvm.MethodName)) ∈ lw_all := lw_g (lw_at lw_m10 75 rfl) rfl
theorem q2365 : (Jvm.Cond.methodLink "TallTowersLaw" (279 : Nat) ({ cls := "TallTowersModel", name := "picks", desc := "(IIII)I" } : Jvm.MethodName)) ∈ lw_all := lw_g (lw_at lw_m10 79 rfl) rfl
theorem q2369 : (Jvm.Cond.methodLink "TallTowersLaw" (315 : Nat) ({ cls := "TallTowersModel", name := "uneven", desc := "(IIIII)J" } : Jvm.MethodName)) ∈ lw_all := lw_g (lw_at lw_m10 83 rfl) rfl
theorem q2373 : (Jvm.Cond.methodLink "TallTowersLaw" (282 : Nat) ({ cls := "TallTowersModel", name := "other", desc := "(IIII)J" } : Jvm.MethodName)) ∈ lw_all := lw_g (lw_at lw_m10 87 rfl) rfl
theorem q2385 : (Jvm.Cond.methodLink "TallTowersLaw" (285 : Nat) ({ cls := "TallTowersModel", name := "best", desc := "(II)J" } : Jvm.MethodName)) ∈ lw_all := lw_g (lw_at lw_m10 99 rfl) rfl
theorem q2389 : (Jvm.Cond.methodLink "TallTowersLaw" (288 : Nat) ({ cls := "TallTowersModel", name := "without", desc := "(II)J" } : Jvm.MethodName)) ∈ lw_all := lw_g (lw_at lw_m10 103 rfl) rfl
theorem q2401 : (Jvm.Cond.methodLink "TallTowersLaw" (291 : Nat) ({ cls := "TallTowersModel", name := "undone", desc := "(I)I" } : Jvm.MethodName)) ∈ lw_all := lw_g (lw_at lw_m10 115 rfl) rfl
theorem q2405 : (Jvm.Cond.methodLink "TallTowersLaw" (297 : Nat) ({ cls := "TallTowersModel", name := "shift", desc := "(III)J" } : Jvm.MethodName)) ∈ lw_all := lw_g (lw_at lw_m10 119 rfl) rfl
theorem q2409 : (Jvm.Cond.methodLink "TallTowersLaw" (300 : Nat) ({ cls := "TallTowersModel", name := "after", desc := "(II)J" } : Jvm.MethodName)) ∈ lw_all := lw_g (lw_at lw_m10 123 rfl) rfl
theorem q2413 : (Jvm.Cond.methodLink "TallTowersLaw" (303 : Nat) ({ cls := "TallTowersModel", name := "usedUp", desc := "(I)I" } : Jvm.MethodName)) ∈ lw_all := lw_g (lw_at lw_m10 127 rfl) rfl
theorem q2417 : (Jvm.Cond.methodLink "TallTowersLaw" (306 : Nat) ({ cls := "TallTowersModel", name := "heaviest", desc := "(II)J" } : Jvm.MethodName)) ∈ lw_all := lw_g (lw_at lw_m10 131 rfl) rfl
theorem q2425 : (Jvm.Cond.methodLink "TallTowersLaw" (294 : Nat) ({ cls := "TallTowersModel", name := "spared", desc := "(I)J" } : Jvm.MethodName)) ∈ lw_all := lw_g (lw_at lw_m10 139 rfl) rfl
theorem q2429 : (Jvm.Cond.methodLink "TallTowersLaw" (309 : Nat) ({ cls := "TallTowersModel", name := "cover", desc := "(III)I" } : Jvm.MethodName)) ∈ lw_all := lw_g (lw_at lw_m10 143 rfl) rfl
theorem q2433 : (Jvm.Cond.methodLink "TallTowersLaw" (312 : Nat) ({ cls := "TallTowersModel", name := "reach", desc := "(I)J" } : Jvm.MethodName)) ∈ lw_all := lw_g (lw_at lw_m10 147 rfl) rfl
theorem q2437 : (Jvm.Cond.methodLink "TallTowersLaw" (318 : Nat) ({ cls := "TallTowersModel", name := "widest", desc := "(II)I" } : Jvm.MethodName)) ∈ lw_all := lw_g (lw_at lw_m10 151 rfl) rfl
theorem q2441 : (Jvm.Cond.methodLink "TallTowersLaw" (321 : Nat) ({ cls := "TallTowersModel", name := "strongest", desc := "(I)J" } : Jvm.MethodName)) ∈ lw_all := lw_g (lw_at lw_m10 155 rfl) rfl
theorem q2445 : (Jvm.Cond.methodLink "TallTowersLaw" (324 : Nat) ({ cls := "TallTowersModel", name := "holds", desc := "(III)I" } : Jvm.MethodName)) ∈ lw_all := lw_g (lw_at lw_m10 159 rfl) rfl
theorem q2449 : (Jvm.Cond.methodLink "TallTowersLaw" (329 : Nat) ({ cls := "TallTowersModel", name := "spent", desc := "()J" } : Jvm.MethodName)) ∈ lw_all := lw_g (lw_at lw_m10 163 rfl) rfl
theorem q2453 : (Jvm.Cond.methodLink "TallTowersLaw" (333 : Nat) ({ cls := "TallTowersModel", name := "status", desc := "(I)I" } : Jvm.MethodName)) ∈ lw_all := lw_g (lw_at lw_m10 167 rfl) rfl
/-! the law's own entry -/
set_option maxRecDepth 100000
abbrev cL_law : ByteArray := code
def dkwL_law_151 : List UInt8 := [4, 172]
abbrev dktL_law_151 : List UInt8 := dkwL_law_151 ++ []
def dkwL_law_150 : List UInt8 := [182, 1, 74, 44, 42, 21, 4, 4, 96, 46, 182, 1, 77, 159, 0, 5, 3, 172, 132, 4, 6, 167, 241, 120]
abbrev dktL_law_150 : List UInt8 := dkwL_law_150 ++ dktL_law_151
def dkwL_law_149 : List UInt8 := [167, 0, 42, 43, 182, 1, 69, 44, 182, 1, 73, 148, 153, 0, 30, 3, 172, 43, 42, 21, 4, 4, 96, 46]
abbrev dktL_law_149 : List UInt8 := dkwL_law_149 ++ dktL_law_150
def dkwL_law_148 : List UInt8 := [159, 0, 5, 3, 172, 21, 5, 154, 0, 15, 45, 3, 47, 21, 6, 133, 148, 153, 0, 5, 3, 172]
abbrev dktL_law_148 : List UInt8 := dkwL_law_148 ++ dktL_law_149
def dkwL_law_147 : List UInt8 := [46, 42, 21, 4, 5, 96, 46, 42, 21, 4, 6, 96, 46, 182, 1, 68, 54, 6, 44, 182, 0, 175, 21, 5]
abbrev dktL_law_147 : List UInt8 := dkwL_law_147 ++ dktL_law_148
def dkwL_law_146 : List UInt8 := [42, 21, 4, 5, 96, 46, 42, 21, 4, 6, 96, 46, 45, 184, 1, 66, 54, 5, 44, 42, 21, 4, 4, 96]
abbrev dktL_law_146 : List UInt8 := dkwL_law_146 ++ dktL_law_147
def dkwL_law_145 : List UInt8 := [154, 0, 14, 45, 3, 47, 22, 6, 148, 153, 0, 5, 3, 172, 167, 0, 122, 43, 42, 21, 4, 4, 96, 46]
abbrev dktL_law_145 : List UInt8 := dkwL_law_145 ++ dktL_law_146
def dkwL_law_144 : List UInt8 := [21, 4, 4, 96, 46, 182, 1, 65, 55, 6, 44, 182, 0, 175, 21, 5, 159, 0, 5, 3, 172, 21, 5]
abbrev dktL_law_144 : List UInt8 := dkwL_law_144 ++ dktL_law_145
def dkwL_law_143 : List UInt8 := [148, 153, 0, 5, 3, 172, 167, 0, 177, 43, 42, 21, 4, 4, 96, 46, 45, 184, 1, 63, 54, 5, 44, 42]
abbrev dktL_law_143 : List UInt8 := dkwL_law_143 ++ dktL_law_144
def dkwL_law_142 : List UInt8 := [54, 6, 44, 182, 0, 175, 21, 5, 159, 0, 5, 3, 172, 21, 5, 154, 0, 15, 45, 3, 47, 21, 6, 133]
abbrev dktL_law_142 : List UInt8 := dkwL_law_142 ++ dktL_law_143
def dkwL_law_141 : List UInt8 := [46, 45, 184, 1, 60, 54, 5, 44, 42, 21, 4, 4, 96, 46, 42, 21, 4, 5, 96, 46, 182, 1, 62]
abbrev dktL_law_141 : List UInt8 := dkwL_law_141 ++ dktL_law_142
def dkwL_law_140 : List UInt8 := [47, 22, 6, 148, 153, 0, 5, 3, 172, 167, 0, 245, 43, 42, 21, 4, 4, 96, 46, 42, 21, 4, 5, 96]
abbrev dktL_law_140 : List UInt8 := dkwL_law_140 ++ dktL_law_141
def dkwL_law_139 : List UInt8 := [46, 182, 1, 59, 55, 6, 44, 182, 0, 175, 21, 5, 159, 0, 5, 3, 172, 21, 5, 154, 0, 14, 45, 3]
abbrev dktL_law_139 : List UInt8 := dkwL_law_139 ++ dktL_law_140
def dkwL_law_138 : List UInt8 := [46, 42, 21, 4, 5, 96, 46, 42, 21, 4, 6, 96, 46, 42, 21, 4, 7, 96, 46, 42, 21, 4, 8, 96]
abbrev dktL_law_138 : List UInt8 := dkwL_law_138 ++ dktL_law_139
def dkwL_law_137 : List UInt8 := [42, 21, 4, 7, 96, 46, 42, 21, 4, 8, 96, 46, 45, 184, 1, 57, 54, 5, 44, 42, 21, 4, 4, 96]
abbrev dktL_law_137 : List UInt8 := dkwL_law_137 ++ dktL_law_138
def dkwL_law_136 : List UInt8 := [3, 172, 167, 1, 92, 43, 42, 21, 4, 4, 96, 46, 42, 21, 4, 5, 96, 46, 42, 21, 4, 6, 96, 46]
abbrev dktL_law_136 : List UInt8 := dkwL_law_136 ++ dktL_law_137
def dkwL_law_135 : List UInt8 := [182, 0, 175, 21, 5, 159, 0, 5, 3, 172, 21, 5, 154, 0, 14, 45, 3, 47, 22, 6, 148, 153, 0, 5]
abbrev dktL_law_135 : List UInt8 := dkwL_law_135 ++ dktL_law_136
def dkwL_law_134 : List UInt8 := [21, 4, 4, 96, 46, 45, 184, 1, 54, 54, 5, 44, 42, 21, 4, 4, 96, 46, 182, 1, 56, 55, 6, 44]
abbrev dktL_law_134 : List UInt8 := dkwL_law_134 ++ dktL_law_135
def dkwL_law_133 : List UInt8 := [172, 21, 5, 154, 0, 15, 45, 3, 47, 21, 6, 133, 148, 153, 0, 5, 3, 172, 167, 1, 147, 43, 42]
abbrev dktL_law_133 : List UInt8 := dkwL_law_133 ++ dktL_law_134
def dkwL_law_132 : List UInt8 := [5, 96, 46, 42, 21, 4, 6, 96, 46, 182, 1, 53, 54, 6, 44, 182, 0, 175, 21, 5, 159, 0, 5, 3]
abbrev dktL_law_132 : List UInt8 := dkwL_law_132 ++ dktL_law_133
def dkwL_law_131 : List UInt8 := [96, 46, 42, 21, 4, 6, 96, 46, 45, 184, 1, 51, 54, 5, 44, 42, 21, 4, 4, 96, 46, 42, 21, 4]
abbrev dktL_law_131 : List UInt8 := dkwL_law_131 ++ dktL_law_132
def dkwL_law_130 : List UInt8 := [3, 47, 22, 6, 148, 153, 0, 5, 3, 172, 167, 1, 227, 43, 42, 21, 4, 4, 96, 46, 42, 21, 4, 5]
abbrev dktL_law_130 : List UInt8 := dkwL_law_130 ++ dktL_law_131
def dkwL_law_129 : List UInt8 := [96, 46, 182, 1, 50, 55, 6, 44, 182, 0, 175, 21, 5, 159, 0, 5, 3, 172, 21, 5, 154, 0, 14, 45]
abbrev dktL_law_129 : List UInt8 := dkwL_law_129 ++ dktL_law_130
def dkwL_law_128 : List UInt8 := [46, 42, 21, 4, 5, 96, 46, 45, 184, 1, 48, 54, 5, 44, 42, 21, 4, 4, 96, 46, 42, 21, 4, 5]
abbrev dktL_law_128 : List UInt8 := dkwL_law_128 ++ dktL_law_129
def dkwL_law_127 : List UInt8 := [154, 0, 15, 45, 3, 47, 21, 6, 133, 148, 153, 0, 5, 3, 172, 167, 2, 38, 43, 42, 21, 4, 4, 96]
abbrev dktL_law_127 : List UInt8 := dkwL_law_127 ++ dktL_law_128
def dkwL_law_126 : List UInt8 := [21, 4, 4, 96, 46, 182, 1, 47, 54, 6, 44, 182, 0, 175, 21, 5, 159, 0, 5, 3, 172, 21, 5]
abbrev dktL_law_126 : List UInt8 := dkwL_law_126 ++ dktL_law_127
def dkwL_law_125 : List UInt8 := [153, 0, 5, 3, 172, 167, 2, 94, 43, 42, 21, 4, 4, 96, 46, 45, 184, 1, 45, 54, 5, 44, 42]
abbrev dktL_law_125 : List UInt8 := dkwL_law_125 ++ dktL_law_126
def dkwL_law_124 : List UInt8 := [44, 182, 0, 175, 21, 5, 159, 0, 5, 3, 172, 21, 5, 154, 0, 14, 45, 3, 47, 22, 6, 148]
abbrev dktL_law_124 : List UInt8 := dkwL_law_124 ++ dktL_law_125
def dkwL_law_123 : List UInt8 := [45, 184, 1, 42, 54, 5, 44, 42, 21, 4, 4, 96, 46, 42, 21, 4, 5, 96, 46, 182, 1, 44, 55, 6]
abbrev dktL_law_123 : List UInt8 := dkwL_law_123 ++ dktL_law_124
def dkwL_law_122 : List UInt8 := [22, 6, 148, 153, 0, 5, 3, 172, 167, 2, 161, 43, 42, 21, 4, 4, 96, 46, 42, 21, 4, 5, 96, 46]
abbrev dktL_law_122 : List UInt8 := dkwL_law_122 ++ dktL_law_123
def dkwL_law_121 : List UInt8 := [182, 1, 41, 55, 6, 44, 182, 0, 175, 21, 5, 159, 0, 5, 3, 172, 21, 5, 154, 0, 14, 45, 3, 47]
abbrev dktL_law_121 : List UInt8 := dkwL_law_121 ++ dktL_law_122
def dkwL_law_120 : List UInt8 := [184, 1, 39, 54, 5, 44, 42, 21, 4, 4, 96, 46, 42, 21, 4, 5, 96, 46, 42, 21, 4, 6, 96, 46]
abbrev dktL_law_120 : List UInt8 := dkwL_law_120 ++ dktL_law_121
def dkwL_law_119 : List UInt8 := [167, 2, 240, 43, 42, 21, 4, 4, 96, 46, 42, 21, 4, 5, 96, 46, 42, 21, 4, 6, 96, 46, 45]
abbrev dktL_law_119 : List UInt8 := dkwL_law_119 ++ dktL_law_120
def dkwL_law_118 : List UInt8 := [21, 5, 159, 0, 5, 3, 172, 21, 5, 154, 0, 14, 45, 3, 47, 22, 6, 148, 153, 0, 5, 3, 172]
abbrev dktL_law_118 : List UInt8 := dkwL_law_118 ++ dktL_law_119
def dkwL_law_117 : List UInt8 := [46, 45, 184, 1, 36, 54, 5, 44, 42, 21, 4, 4, 96, 46, 182, 1, 38, 55, 6, 44, 182, 0, 175]
abbrev dktL_law_117 : List UInt8 := dkwL_law_117 ++ dktL_law_118
def dkwL_law_116 : List UInt8 := [154, 0, 15, 45, 3, 47, 21, 6, 133, 148, 153, 0, 5, 3, 172, 167, 3, 39, 43, 42, 21, 4, 4, 96]
abbrev dktL_law_116 : List UInt8 := dkwL_law_116 ++ dktL_law_117
def dkwL_law_115 : List UInt8 := [21, 4, 4, 96, 46, 182, 1, 35, 54, 6, 44, 182, 0, 175, 21, 5, 159, 0, 5, 3, 172, 21, 5]
abbrev dktL_law_115 : List UInt8 := dkwL_law_115 ++ dktL_law_116
def dkwL_law_114 : List UInt8 := [153, 0, 5, 3, 172, 167, 3, 95, 43, 42, 21, 4, 4, 96, 46, 45, 184, 1, 33, 54, 5, 44, 42]
abbrev dktL_law_114 : List UInt8 := dkwL_law_114 ++ dktL_law_115
def dkwL_law_113 : List UInt8 := [55, 6, 44, 182, 0, 175, 21, 5, 159, 0, 5, 3, 172, 21, 5, 154, 0, 14, 45, 3, 47, 22, 6, 148]
abbrev dktL_law_113 : List UInt8 := dkwL_law_113 ++ dktL_law_114
def dkwL_law_112 : List UInt8 := [46, 45, 184, 1, 30, 54, 5, 44, 42, 21, 4, 4, 96, 46, 42, 21, 4, 5, 96, 46, 182, 1, 32]
abbrev dktL_law_112 : List UInt8 := dkwL_law_112 ++ dktL_law_113
def dkwL_law_111 : List UInt8 := [47, 22, 6, 148, 153, 0, 5, 3, 172, 167, 3, 162, 43, 42, 21, 4, 4, 96, 46, 42, 21, 4, 5, 96]
abbrev dktL_law_111 : List UInt8 := dkwL_law_111 ++ dktL_law_112
def dkwL_law_110 : List UInt8 := [46, 182, 1, 29, 55, 6, 44, 182, 0, 175, 21, 5, 159, 0, 5, 3, 172, 21, 5, 154, 0, 14, 45, 3]
abbrev dktL_law_110 : List UInt8 := dkwL_law_110 ++ dktL_law_111
def dkwL_law_109 : List UInt8 := [42, 21, 4, 5, 96, 46, 45, 184, 1, 27, 54, 5, 44, 42, 21, 4, 4, 96, 46, 42, 21, 4, 5, 96]
abbrev dktL_law_109 : List UInt8 := dkwL_law_109 ++ dktL_law_110
def dkwL_law_108 : List UInt8 := [154, 0, 14, 45, 3, 47, 22, 6, 148, 153, 0, 5, 3, 172, 167, 3, 229, 43, 42, 21, 4, 4, 96, 46]
abbrev dktL_law_108 : List UInt8 := dkwL_law_108 ++ dktL_law_109
def dkwL_law_107 : List UInt8 := [42, 21, 4, 7, 96, 46, 182, 1, 26, 55, 6, 44, 182, 0, 175, 21, 5, 159, 0, 5, 3, 172, 21, 5]
abbrev dktL_law_107 : List UInt8 := dkwL_law_107 ++ dktL_law_108
def dkwL_law_106 : List UInt8 := [184, 1, 24, 54, 5, 44, 42, 21, 4, 4, 96, 46, 42, 21, 4, 5, 96, 46, 42, 21, 4, 6, 96, 46]
abbrev dktL_law_106 : List UInt8 := dkwL_law_106 ++ dktL_law_107
def dkwL_law_105 : List UInt8 := [4, 96, 46, 42, 21, 4, 5, 96, 46, 42, 21, 4, 6, 96, 46, 42, 21, 4, 7, 96, 46, 45]
abbrev dktL_law_105 : List UInt8 := dkwL_law_105 ++ dktL_law_106
def dkwL_law_104 : List UInt8 := [21, 5, 154, 0, 15, 45, 3, 47, 21, 6, 133, 148, 153, 0, 5, 3, 172, 167, 4, 64, 43, 42, 21, 4]
abbrev dktL_law_104 : List UInt8 := dkwL_law_104 ++ dktL_law_105
def dkwL_law_103 : List UInt8 := [96, 46, 42, 21, 4, 7, 96, 46, 182, 1, 23, 54, 6, 44, 182, 0, 175, 21, 5, 159, 0, 5, 3, 172]
abbrev dktL_law_103 : List UInt8 := dkwL_law_103 ++ dktL_law_104
def dkwL_law_102 : List UInt8 := [46, 45, 184, 1, 21, 54, 5, 44, 42, 21, 4, 4, 96, 46, 42, 21, 4, 5, 96, 46, 42, 21, 4, 6]
abbrev dktL_law_102 : List UInt8 := dkwL_law_102 ++ dktL_law_103
def dkwL_law_101 : List UInt8 := [43, 42, 21, 4, 4, 96, 46, 42, 21, 4, 5, 96, 46, 42, 21, 4, 6, 96, 46, 42, 21, 4, 7, 96]
abbrev dktL_law_101 : List UInt8 := dkwL_law_101 ++ dktL_law_102
def dkwL_law_100 : List UInt8 := [159, 0, 5, 3, 172, 21, 5, 154, 0, 14, 45, 3, 47, 22, 6, 148, 153, 0, 5, 3, 172, 167, 4, 156]
abbrev dktL_law_100 : List UInt8 := dkwL_law_100 ++ dktL_law_101
def dkwL_law_99 : List UInt8 := [42, 21, 4, 6, 96, 46, 42, 21, 4, 7, 96, 46, 182, 1, 20, 55, 6, 44, 182, 0, 175, 21, 5]
abbrev dktL_law_99 : List UInt8 := dkwL_law_99 ++ dktL_law_100
def dkwL_law_98 : List UInt8 := [21, 4, 7, 96, 46, 45, 184, 1, 18, 54, 5, 44, 42, 21, 4, 4, 96, 46, 42, 21, 4, 5, 96, 46]
abbrev dktL_law_98 : List UInt8 := dkwL_law_98 ++ dktL_law_99
def dkwL_law_97 : List UInt8 := [167, 4, 247, 43, 42, 21, 4, 4, 96, 46, 42, 21, 4, 5, 96, 46, 42, 21, 4, 6, 96, 46, 42]
abbrev dktL_law_97 : List UInt8 := dkwL_law_97 ++ dktL_law_98
def dkwL_law_96 : List UInt8 := [21, 5, 159, 0, 5, 3, 172, 21, 5, 154, 0, 14, 45, 3, 47, 22, 6, 148, 153, 0, 5, 3, 172]
abbrev dktL_law_96 : List UInt8 := dkwL_law_96 ++ dktL_law_97
def dkwL_law_95 : List UInt8 := [6, 96, 46, 42, 21, 4, 7, 96, 46, 42, 21, 4, 8, 96, 46, 182, 1, 17, 55, 6, 44, 182, 0, 175]
abbrev dktL_law_95 : List UInt8 := dkwL_law_95 ++ dktL_law_96
def dkwL_law_94 : List UInt8 := [96, 46, 45, 184, 1, 15, 54, 5, 44, 42, 21, 4, 4, 96, 46, 42, 21, 4, 5, 96, 46, 42, 21, 4]
abbrev dktL_law_94 : List UInt8 := dkwL_law_94 ++ dktL_law_95
def dkwL_law_93 : List UInt8 := [96, 46, 42, 21, 4, 5, 96, 46, 42, 21, 4, 6, 96, 46, 42, 21, 4, 7, 96, 46, 42, 21, 4, 8]
abbrev dktL_law_93 : List UInt8 := dkwL_law_93 ++ dktL_law_94
def dkwL_law_92 : List UInt8 := [21, 5, 154, 0, 14, 45, 3, 47, 22, 6, 148, 153, 0, 5, 3, 172, 167, 5, 94, 43, 42, 21, 4, 4]
abbrev dktL_law_92 : List UInt8 := dkwL_law_92 ++ dktL_law_93
def dkwL_law_91 : List UInt8 := [46, 42, 21, 4, 8, 96, 46, 182, 1, 14, 55, 6, 44, 182, 0, 175, 21, 5, 159, 0, 5, 3, 172]
abbrev dktL_law_91 : List UInt8 := dkwL_law_91 ++ dktL_law_92
def dkwL_law_90 : List UInt8 := [44, 42, 21, 4, 4, 96, 46, 42, 21, 4, 5, 96, 46, 42, 21, 4, 6, 96, 46, 42, 21, 4, 7, 96]
abbrev dktL_law_90 : List UInt8 := dkwL_law_90 ++ dktL_law_91
def dkwL_law_89 : List UInt8 := [42, 21, 4, 6, 96, 46, 42, 21, 4, 7, 96, 46, 42, 21, 4, 8, 96, 46, 45, 184, 1, 12, 54, 5]
abbrev dktL_law_89 : List UInt8 := dkwL_law_89 ++ dktL_law_90
def dkwL_law_88 : List UInt8 := [22, 6, 148, 153, 0, 5, 3, 172, 167, 5, 197, 43, 42, 21, 4, 4, 96, 46, 42, 21, 4, 5, 96, 46]
abbrev dktL_law_88 : List UInt8 := dkwL_law_88 ++ dktL_law_89
def dkwL_law_87 : List UInt8 := [182, 1, 11, 55, 6, 44, 182, 0, 175, 21, 5, 159, 0, 5, 3, 172, 21, 5, 154, 0, 14, 45, 3, 47]
abbrev dktL_law_87 : List UInt8 := dkwL_law_87 ++ dktL_law_88
def dkwL_law_86 : List UInt8 := [42, 21, 4, 5, 96, 46, 42, 21, 4, 6, 96, 46, 42, 21, 4, 7, 96, 46, 42, 21, 4, 8, 96, 46]
abbrev dktL_law_86 : List UInt8 := dkwL_law_86 ++ dktL_law_87
def dkwL_law_85 : List UInt8 := [21, 4, 7, 96, 46, 42, 21, 4, 8, 96, 46, 45, 184, 1, 9, 54, 5, 44, 42, 21, 4, 4, 96, 46]
abbrev dktL_law_85 : List UInt8 := dkwL_law_85 ++ dktL_law_86
def dkwL_law_84 : List UInt8 := [167, 6, 44, 43, 42, 21, 4, 4, 96, 46, 42, 21, 4, 5, 96, 46, 42, 21, 4, 6, 96, 46, 42]
abbrev dktL_law_84 : List UInt8 := dkwL_law_84 ++ dktL_law_85
def dkwL_law_83 : List UInt8 := [21, 5, 159, 0, 5, 3, 172, 21, 5, 154, 0, 14, 45, 3, 47, 22, 6, 148, 153, 0, 5, 3, 172]
abbrev dktL_law_83 : List UInt8 := dkwL_law_83 ++ dktL_law_84
def dkwL_law_82 : List UInt8 := [96, 46, 42, 21, 4, 7, 96, 46, 42, 21, 4, 8, 96, 46, 182, 1, 8, 55, 6, 44, 182, 0, 175]
abbrev dktL_law_82 : List UInt8 := dkwL_law_82 ++ dktL_law_83
def dkwL_law_81 : List UInt8 := [46, 45, 184, 1, 5, 54, 5, 44, 42, 21, 4, 4, 96, 46, 42, 21, 4, 5, 96, 46, 42, 21, 4, 6]
abbrev dktL_law_81 : List UInt8 := dkwL_law_81 ++ dktL_law_82
def dkwL_law_80 : List UInt8 := [46, 42, 21, 4, 5, 96, 46, 42, 21, 4, 6, 96, 46, 42, 21, 4, 7, 96, 46, 42, 21, 4, 8, 96]
abbrev dktL_law_80 : List UInt8 := dkwL_law_80 ++ dktL_law_81
def dkwL_law_79 : List UInt8 := [154, 0, 15, 45, 3, 47, 21, 6, 133, 148, 153, 0, 5, 3, 172, 167, 6, 147, 43, 42, 21, 4, 4, 96]
abbrev dktL_law_79 : List UInt8 := dkwL_law_79 ++ dktL_law_80
def dkwL_law_78 : List UInt8 := [42, 21, 4, 7, 96, 46, 182, 1, 4, 54, 6, 44, 182, 0, 175, 21, 5, 159, 0, 5, 3, 172, 21, 5]
abbrev dktL_law_78 : List UInt8 := dkwL_law_78 ++ dktL_law_79
def dkwL_law_77 : List UInt8 := [184, 1, 2, 54, 5, 44, 42, 21, 4, 4, 96, 46, 42, 21, 4, 5, 96, 46, 42, 21, 4, 6, 96, 46]
abbrev dktL_law_77 : List UInt8 := dkwL_law_77 ++ dktL_law_78
def dkwL_law_76 : List UInt8 := [21, 4, 4, 96, 46, 42, 21, 4, 5, 96, 46, 42, 21, 4, 6, 96, 46, 42, 21, 4, 7, 96, 46, 45]
abbrev dktL_law_76 : List UInt8 := dkwL_law_76 ++ dktL_law_77
def dkwL_law_75 : List UInt8 := [172, 21, 5, 154, 0, 15, 45, 3, 47, 21, 6, 133, 148, 153, 0, 5, 3, 172, 167, 6, 239, 43, 42]
abbrev dktL_law_75 : List UInt8 := dkwL_law_75 ++ dktL_law_76
def dkwL_law_74 : List UInt8 := [54, 5, 44, 42, 21, 4, 4, 96, 46, 182, 1, 1, 54, 6, 44, 182, 0, 175, 21, 5, 159, 0, 5, 3]
abbrev dktL_law_74 : List UInt8 := dkwL_law_74 ++ dktL_law_75
def dkwL_law_73 : List UInt8 := [47, 22, 6, 148, 153, 0, 5, 3, 172, 167, 7, 39, 43, 42, 21, 4, 4, 96, 46, 45, 184, 0, 255]
abbrev dktL_law_73 : List UInt8 := dkwL_law_73 ++ dktL_law_74
def dkwL_law_72 : List UInt8 := [46, 182, 0, 254, 55, 6, 44, 182, 0, 175, 21, 5, 159, 0, 5, 3, 172, 21, 5, 154, 0, 14, 45, 3]
abbrev dktL_law_72 : List UInt8 := dkwL_law_72 ++ dktL_law_73
def dkwL_law_71 : List UInt8 := [3, 172, 167, 7, 94, 43, 42, 21, 4, 4, 96, 46, 45, 184, 0, 252, 54, 5, 44, 42, 21, 4, 4, 96]
abbrev dktL_law_71 : List UInt8 := dkwL_law_71 ++ dktL_law_72
def dkwL_law_70 : List UInt8 := [182, 0, 175, 21, 5, 159, 0, 5, 3, 172, 21, 5, 154, 0, 14, 45, 3, 47, 22, 6, 148, 153, 0, 5]
abbrev dktL_law_70 : List UInt8 := dkwL_law_70 ++ dktL_law_71
def dkwL_law_69 : List UInt8 := [184, 0, 249, 54, 5, 44, 42, 21, 4, 4, 96, 46, 42, 21, 4, 5, 96, 46, 182, 0, 251, 55, 6, 44]
abbrev dktL_law_69 : List UInt8 := dkwL_law_69 ++ dktL_law_70
def dkwL_law_68 : List UInt8 := [153, 0, 5, 3, 172, 167, 7, 161, 43, 42, 21, 4, 4, 96, 46, 42, 21, 4, 5, 96, 46, 45]
abbrev dktL_law_68 : List UInt8 := dkwL_law_68 ++ dktL_law_69
def dkwL_law_67 : List UInt8 := [44, 182, 0, 175, 21, 5, 159, 0, 5, 3, 172, 21, 5, 154, 0, 14, 45, 3, 47, 22, 6, 148]
abbrev dktL_law_67 : List UInt8 := dkwL_law_67 ++ dktL_law_68
def dkwL_law_66 : List UInt8 := [45, 184, 0, 246, 54, 5, 44, 42, 21, 4, 4, 96, 46, 42, 21, 4, 5, 96, 46, 182, 0, 248, 55, 6]
abbrev dktL_law_66 : List UInt8 := dkwL_law_66 ++ dktL_law_67
def dkwL_law_65 : List UInt8 := [22, 6, 148, 153, 0, 5, 3, 172, 167, 7, 228, 43, 42, 21, 4, 4, 96, 46, 42, 21, 4, 5, 96, 46]
abbrev dktL_law_65 : List UInt8 := dkwL_law_65 ++ dktL_law_66
def dkwL_law_64 : List UInt8 := [182, 0, 245, 55, 6, 44, 182, 0, 175, 21, 5, 159, 0, 5, 3, 172, 21, 5, 154, 0, 14, 45, 3, 47]
abbrev dktL_law_64 : List UInt8 := dkwL_law_64 ++ dktL_law_65
def dkwL_law_63 : List UInt8 := [5, 96, 46, 45, 184, 0, 243, 54, 5, 44, 42, 21, 4, 4, 96, 46, 42, 21, 4, 5, 96, 46]
abbrev dktL_law_63 : List UInt8 := dkwL_law_63 ++ dktL_law_64
def dkwL_law_62 : List UInt8 := [45, 3, 47, 22, 6, 148, 153, 0, 5, 3, 172, 167, 8, 39, 43, 42, 21, 4, 4, 96, 46, 42, 21, 4]
abbrev dktL_law_62 : List UInt8 := dkwL_law_62 ++ dktL_law_63
def dkwL_law_61 : List UInt8 := [5, 96, 46, 182, 0, 242, 55, 6, 44, 182, 0, 175, 21, 5, 159, 0, 5, 3, 172, 21, 5, 154, 0, 14]
abbrev dktL_law_61 : List UInt8 := dkwL_law_61 ++ dktL_law_62
def dkwL_law_60 : List UInt8 := [96, 46, 42, 21, 4, 5, 96, 46, 45, 184, 0, 240, 54, 5, 44, 42, 21, 4, 4, 96, 46, 42, 21, 4]
abbrev dktL_law_60 : List UInt8 := dkwL_law_60 ++ dktL_law_61
def dkwL_law_59 : List UInt8 := [21, 5, 154, 0, 14, 45, 3, 47, 22, 6, 148, 153, 0, 5, 3, 172, 167, 8, 106, 43, 42, 21, 4, 4]
abbrev dktL_law_59 : List UInt8 := dkwL_law_59 ++ dktL_law_60
def dkwL_law_58 : List UInt8 := [96, 46, 42, 21, 4, 5, 96, 46, 182, 0, 239, 55, 6, 44, 182, 0, 175, 21, 5, 159, 0, 5, 3, 172]
abbrev dktL_law_58 : List UInt8 := dkwL_law_58 ++ dktL_law_59
def dkwL_law_57 : List UInt8 := [43, 42, 21, 4, 4, 96, 46, 42, 21, 4, 5, 96, 46, 45, 184, 0, 237, 54, 5, 44, 42, 21, 4, 4]
abbrev dktL_law_57 : List UInt8 := dkwL_law_57 ++ dktL_law_58
def dkwL_law_56 : List UInt8 := [159, 0, 5, 3, 172, 21, 5, 154, 0, 14, 45, 3, 47, 22, 6, 148, 153, 0, 5, 3, 172, 167, 8, 173]
abbrev dktL_law_56 : List UInt8 := dkwL_law_56 ++ dktL_law_57
def dkwL_law_55 : List UInt8 := [44, 42, 21, 4, 4, 96, 46, 42, 21, 4, 5, 96, 46, 182, 0, 236, 55, 6, 44, 182, 0, 175, 21, 5]
abbrev dktL_law_55 : List UInt8 := dkwL_law_55 ++ dktL_law_56
def dkwL_law_54 : List UInt8 := [3, 172, 167, 8, 240, 43, 42, 21, 4, 4, 96, 46, 42, 21, 4, 5, 96, 46, 45, 184, 0, 234, 54, 5]
abbrev dktL_law_54 : List UInt8 := dkwL_law_54 ++ dktL_law_55
def dkwL_law_53 : List UInt8 := [182, 0, 175, 21, 5, 159, 0, 5, 3, 172, 21, 5, 154, 0, 14, 45, 3, 47, 22, 6, 148, 153, 0, 5]
abbrev dktL_law_53 : List UInt8 := dkwL_law_53 ++ dktL_law_54
def dkwL_law_52 : List UInt8 := [184, 0, 231, 54, 5, 44, 42, 21, 4, 4, 96, 46, 42, 21, 4, 5, 96, 46, 182, 0, 233, 55, 6, 44]
abbrev dktL_law_52 : List UInt8 := dkwL_law_52 ++ dktL_law_53
def dkwL_law_51 : List UInt8 := [148, 153, 0, 5, 3, 172, 167, 9, 51, 43, 42, 21, 4, 4, 96, 46, 42, 21, 4, 5, 96, 46, 45]
abbrev dktL_law_51 : List UInt8 := dkwL_law_51 ++ dktL_law_52
def dkwL_law_50 : List UInt8 := [54, 6, 44, 182, 0, 175, 21, 5, 159, 0, 5, 3, 172, 21, 5, 154, 0, 15, 45, 3, 47, 21, 6, 133]
abbrev dktL_law_50 : List UInt8 := dkwL_law_50 ++ dktL_law_51
def dkwL_law_49 : List UInt8 := [46, 45, 184, 0, 228, 54, 5, 44, 42, 21, 4, 4, 96, 46, 42, 21, 4, 5, 96, 46, 182, 0, 230]
abbrev dktL_law_49 : List UInt8 := dkwL_law_49 ++ dktL_law_50
def dkwL_law_48 : List UInt8 := [21, 6, 133, 148, 153, 0, 5, 3, 172, 167, 9, 119, 43, 42, 21, 4, 4, 96, 46, 42, 21, 4, 5, 96]
abbrev dktL_law_48 : List UInt8 := dkwL_law_48 ++ dktL_law_49
def dkwL_law_47 : List UInt8 := [182, 0, 227, 54, 6, 44, 182, 0, 175, 21, 5, 159, 0, 5, 3, 172, 21, 5, 154, 0, 15, 45, 3, 47]
abbrev dktL_law_47 : List UInt8 := dkwL_law_47 ++ dktL_law_48
def dkwL_law_46 : List UInt8 := [5, 96, 46, 45, 184, 0, 225, 54, 5, 44, 42, 21, 4, 4, 96, 46, 42, 21, 4, 5, 96, 46]
abbrev dktL_law_46 : List UInt8 := dkwL_law_46 ++ dktL_law_47
def dkwL_law_45 : List UInt8 := [45, 3, 47, 22, 6, 148, 153, 0, 5, 3, 172, 167, 9, 187, 43, 42, 21, 4, 4, 96, 46, 42, 21, 4]
abbrev dktL_law_45 : List UInt8 := dkwL_law_45 ++ dktL_law_46
def dkwL_law_44 : List UInt8 := [5, 96, 46, 182, 0, 224, 55, 6, 44, 182, 0, 175, 21, 5, 159, 0, 5, 3, 172, 21, 5, 154, 0, 14]
abbrev dktL_law_44 : List UInt8 := dkwL_law_44 ++ dktL_law_45
def dkwL_law_43 : List UInt8 := [96, 46, 42, 21, 4, 5, 96, 46, 45, 184, 0, 222, 54, 5, 44, 42, 21, 4, 4, 96, 46, 42, 21, 4]
abbrev dktL_law_43 : List UInt8 := dkwL_law_43 ++ dktL_law_44
def dkwL_law_42 : List UInt8 := [21, 5, 154, 0, 14, 45, 3, 47, 22, 6, 148, 153, 0, 5, 3, 172, 167, 9, 254, 43, 42, 21, 4, 4]
abbrev dktL_law_42 : List UInt8 := dkwL_law_42 ++ dktL_law_43
def dkwL_law_41 : List UInt8 := [46, 42, 21, 4, 6, 96, 46, 182, 0, 221, 55, 6, 44, 182, 0, 175, 21, 5, 159, 0, 5, 3, 172]
abbrev dktL_law_41 : List UInt8 := dkwL_law_41 ++ dktL_law_42
def dkwL_law_40 : List UInt8 := [42, 21, 4, 6, 96, 46, 45, 184, 0, 219, 54, 5, 44, 42, 21, 4, 4, 96, 46, 42, 21, 4, 5, 96]
abbrev dktL_law_40 : List UInt8 := dkwL_law_40 ++ dktL_law_41
def dkwL_law_39 : List UInt8 := [22, 6, 148, 153, 0, 5, 3, 172, 167, 10, 77, 43, 42, 21, 4, 4, 96, 46, 42, 21, 4, 5, 96, 46]
abbrev dktL_law_39 : List UInt8 := dkwL_law_39 ++ dktL_law_40
def dkwL_law_38 : List UInt8 := [182, 0, 218, 55, 6, 44, 182, 0, 175, 21, 5, 159, 0, 5, 3, 172, 21, 5, 154, 0, 14, 45, 3, 47]
abbrev dktL_law_38 : List UInt8 := dkwL_law_38 ++ dktL_law_39
def dkwL_law_37 : List UInt8 := [5, 96, 46, 45, 184, 0, 216, 54, 5, 44, 42, 21, 4, 4, 96, 46, 42, 21, 4, 5, 96, 46]
abbrev dktL_law_37 : List UInt8 := dkwL_law_37 ++ dktL_law_38
def dkwL_law_36 : List UInt8 := [3, 47, 21, 6, 133, 148, 153, 0, 5, 3, 172, 167, 10, 144, 43, 42, 21, 4, 4, 96, 46, 42, 21, 4]
abbrev dktL_law_36 : List UInt8 := dkwL_law_36 ++ dktL_law_37
def dkwL_law_35 : List UInt8 := [96, 46, 182, 0, 215, 54, 6, 44, 182, 0, 175, 21, 5, 159, 0, 5, 3, 172, 21, 5, 154, 0, 15, 45]
abbrev dktL_law_35 : List UInt8 := dkwL_law_35 ++ dktL_law_36
def dkwL_law_34 : List UInt8 := [46, 42, 21, 4, 5, 96, 46, 45, 184, 0, 213, 54, 5, 44, 42, 21, 4, 4, 96, 46, 42, 21, 4, 5]
abbrev dktL_law_34 : List UInt8 := dkwL_law_34 ++ dktL_law_35
def dkwL_law_33 : List UInt8 := [154, 0, 15, 45, 3, 47, 21, 6, 133, 148, 153, 0, 5, 3, 172, 167, 10, 212, 43, 42, 21, 4, 4, 96]
abbrev dktL_law_33 : List UInt8 := dkwL_law_33 ++ dktL_law_34
def dkwL_law_32 : List UInt8 := [21, 4, 4, 96, 46, 182, 0, 212, 54, 6, 44, 182, 0, 175, 21, 5, 159, 0, 5, 3, 172, 21, 5]
abbrev dktL_law_32 : List UInt8 := dkwL_law_32 ++ dktL_law_33
def dkwL_law_31 : List UInt8 := [182, 0, 209, 159, 11, 14, 3, 172, 43, 42, 21, 4, 4, 96, 46, 45, 184, 0, 210, 54, 5, 44, 42]
abbrev dktL_law_31 : List UInt8 := dkwL_law_31 ++ dktL_law_32
def dkwL_law_30 : List UInt8 := [154, 0, 14, 45, 3, 47, 22, 6, 148, 153, 0, 5, 3, 172, 167, 11, 25, 43, 182, 0, 206, 44]
abbrev dktL_law_30 : List UInt8 := dkwL_law_30 ++ dktL_law_31
def dkwL_law_29 : List UInt8 := [21, 4, 4, 96, 46, 182, 0, 205, 55, 6, 44, 182, 0, 175, 21, 5, 159, 0, 5, 3, 172, 21, 5]
abbrev dktL_law_29 : List UInt8 := dkwL_law_29 ++ dktL_law_30
def dkwL_law_28 : List UInt8 := [153, 0, 5, 3, 172, 167, 11, 80, 43, 42, 21, 4, 4, 96, 46, 45, 184, 0, 203, 54, 5, 44, 42]
abbrev dktL_law_28 : List UInt8 := dkwL_law_28 ++ dktL_law_29
def dkwL_law_27 : List UInt8 := [182, 0, 175, 21, 5, 159, 0, 5, 3, 172, 21, 5, 154, 0, 15, 45, 3, 47, 21, 6, 133, 148]
abbrev dktL_law_27 : List UInt8 := dkwL_law_27 ++ dktL_law_28
def dkwL_law_26 : List UInt8 := [4, 96, 46, 45, 184, 0, 200, 54, 5, 44, 42, 21, 4, 4, 96, 46, 182, 0, 202, 54, 6, 44]
abbrev dktL_law_26 : List UInt8 := dkwL_law_26 ++ dktL_law_27
def dkwL_law_25 : List UInt8 := [21, 5, 154, 0, 15, 45, 3, 47, 21, 6, 133, 148, 153, 0, 5, 3, 172, 167, 11, 136, 43, 42, 21, 4]
abbrev dktL_law_25 : List UInt8 := dkwL_law_25 ++ dktL_law_26
def dkwL_law_24 : List UInt8 := [96, 46, 42, 21, 4, 5, 96, 46, 182, 0, 199, 54, 6, 44, 182, 0, 175, 21, 5, 159, 0, 5, 3, 172]
abbrev dktL_law_24 : List UInt8 := dkwL_law_24 ++ dktL_law_25
def dkwL_law_23 : List UInt8 := [43, 42, 21, 4, 4, 96, 46, 42, 21, 4, 5, 96, 46, 45, 184, 0, 197, 54, 5, 44, 42, 21, 4, 4]
abbrev dktL_law_23 : List UInt8 := dkwL_law_23 ++ dktL_law_24
def dkwL_law_22 : List UInt8 := [159, 0, 5, 3, 172, 21, 5, 154, 0, 14, 45, 3, 47, 22, 6, 148, 153, 0, 5, 3, 172, 167, 11, 204]
abbrev dktL_law_22 : List UInt8 := dkwL_law_22 ++ dktL_law_23
def dkwL_law_21 : List UInt8 := [21, 4, 4, 96, 46, 42, 21, 4, 5, 96, 46, 182, 0, 196, 55, 6, 44, 182, 0, 175, 21, 5]
abbrev dktL_law_21 : List UInt8 := dkwL_law_21 ++ dktL_law_22
def dkwL_law_20 : List UInt8 := [167, 12, 15, 43, 42, 21, 4, 4, 96, 46, 42, 21, 4, 5, 96, 46, 45, 184, 0, 193, 54, 5, 44, 42]
abbrev dktL_law_20 : List UInt8 := dkwL_law_20 ++ dktL_law_21
def dkwL_law_19 : List UInt8 := [159, 0, 5, 3, 172, 21, 5, 154, 0, 15, 45, 3, 47, 21, 6, 133, 148, 153, 0, 5, 3, 172]
abbrev dktL_law_19 : List UInt8 := dkwL_law_19 ++ dktL_law_20
def dkwL_law_18 : List UInt8 := [42, 21, 4, 6, 96, 46, 42, 21, 4, 7, 96, 46, 182, 0, 192, 54, 6, 44, 182, 0, 175, 21, 5]
abbrev dktL_law_18 : List UInt8 := dkwL_law_18 ++ dktL_law_19
def dkwL_law_17 : List UInt8 := [21, 4, 7, 96, 46, 45, 184, 0, 190, 54, 5, 44, 42, 21, 4, 4, 96, 46, 42, 21, 4, 5, 96, 46]
abbrev dktL_law_17 : List UInt8 := dkwL_law_17 ++ dktL_law_18
def dkwL_law_16 : List UInt8 := [167, 12, 107, 43, 42, 21, 4, 4, 96, 46, 42, 21, 4, 5, 96, 46, 42, 21, 4, 6, 96, 46, 42]
abbrev dktL_law_16 : List UInt8 := dkwL_law_16 ++ dktL_law_17
def dkwL_law_15 : List UInt8 := [21, 5, 159, 0, 5, 3, 172, 21, 5, 154, 0, 15, 45, 3, 47, 21, 6, 133, 148, 153, 0, 5, 3, 172]
abbrev dktL_law_15 : List UInt8 := dkwL_law_15 ++ dktL_law_16
def dkwL_law_14 : List UInt8 := [96, 46, 42, 21, 4, 5, 96, 46, 42, 21, 4, 6, 96, 46, 182, 0, 189, 54, 6, 44, 182, 0, 175]
abbrev dktL_law_14 : List UInt8 := dkwL_law_14 ++ dktL_law_15
def dkwL_law_13 : List UInt8 := [46, 42, 21, 4, 5, 96, 46, 42, 21, 4, 6, 96, 46, 45, 184, 0, 187, 54, 5, 44, 42, 21, 4, 4]
abbrev dktL_law_13 : List UInt8 := dkwL_law_13 ++ dktL_law_14
def dkwL_law_12 : List UInt8 := [154, 0, 15, 45, 3, 47, 21, 6, 133, 148, 153, 0, 5, 3, 172, 167, 12, 187, 43, 42, 21, 4, 4, 96]
abbrev dktL_law_12 : List UInt8 := dkwL_law_12 ++ dktL_law_13
def dkwL_law_11 : List UInt8 := [21, 4, 4, 96, 46, 182, 0, 186, 54, 6, 44, 182, 0, 175, 21, 5, 159, 0, 5, 3, 172, 21, 5]
abbrev dktL_law_11 : List UInt8 := dkwL_law_11 ++ dktL_law_12
def dkwL_law_10 : List UInt8 := [153, 0, 5, 3, 172, 167, 12, 243, 43, 42, 21, 4, 4, 96, 46, 45, 184, 0, 183, 54, 5, 44, 42]
abbrev dktL_law_10 : List UInt8 := dkwL_law_10 ++ dktL_law_11
def dkwL_law_9 : List UInt8 := [182, 0, 175, 21, 5, 159, 0, 5, 3, 172, 21, 5, 154, 0, 15, 45, 3, 47, 21, 6, 133, 148]
abbrev dktL_law_9 : List UInt8 := dkwL_law_9 ++ dktL_law_10
def dkwL_law_8 : List UInt8 := [21, 4, 4, 96, 46, 42, 21, 4, 5, 96, 46, 42, 21, 4, 6, 96, 46, 182, 0, 182, 54, 6, 44]
abbrev dktL_law_8 : List UInt8 := dkwL_law_8 ++ dktL_law_9
def dkwL_law_7 : List UInt8 := [4, 96, 46, 42, 21, 4, 5, 96, 46, 42, 21, 4, 6, 96, 46, 45, 184, 0, 179, 54, 5, 44, 42]
abbrev dktL_law_7 : List UInt8 := dkwL_law_7 ++ dktL_law_8
def dkwL_law_6 : List UInt8 := [21, 5, 154, 0, 15, 45, 3, 47, 21, 6, 133, 148, 153, 0, 5, 3, 172, 167, 13, 67, 43, 42, 21, 4]
abbrev dktL_law_6 : List UInt8 := dkwL_law_6 ++ dktL_law_7
def dkwL_law_5 : List UInt8 := [96, 46, 42, 21, 4, 7, 96, 46, 182, 0, 174, 54, 6, 44, 182, 0, 175, 21, 5, 159, 0, 5, 3, 172]
abbrev dktL_law_5 : List UInt8 := dkwL_law_5 ++ dktL_law_6
def dkwL_law_4 : List UInt8 := [46, 45, 184, 0, 169, 54, 5, 44, 42, 21, 4, 4, 96, 46, 42, 21, 4, 5, 96, 46, 42, 21, 4, 6]
abbrev dktL_law_4 : List UInt8 := dkwL_law_4 ++ dktL_law_5
def dkwL_law_3 : List UInt8 := [43, 42, 21, 4, 4, 96, 46, 42, 21, 4, 5, 96, 46, 42, 21, 4, 6, 96, 46, 42, 21, 4, 7, 96]
abbrev dktL_law_3 : List UInt8 := dkwL_law_3 ++ dktL_law_4
def dkwL_law_2 : List UInt8 := [170, 0, 0, 0, 0, 0, 14, 116, 0, 0, 0, 0, 0, 0, 0, 49, 0, 0, 0, 216, 0, 0, 1, 52, 0, 0, 1, 132, 0, 0, 1, 188, 0, 0, 2, 12, 0, 0, 2, 104, 0, 0, 2, 171, 0, 0, 2, 239, 0, 0, 3, 39, 0, 0, 3, 94, 0, 0, 3, 107, 0, 0, 3, 163, 0, 0, 3, 231, 0, 0, 4, 42, 0, 0, 4, 121, 0, 0, 4, 188, 0, 0, 5, 0, 0, 0, 5, 68, 0, 0, 5, 135, 0, 0, 5, 202, 0, 0, 6, 13, 0, 0, 6, 80, 0, 0, 6, 147, 0, 0, 6, 214, 0, 0, 7, 25, 0, 0, 7, 80, 0, 0, 7, 136, 0, 0, 7, 228, 0, 0, 8, 75, 0, 0, 8, 178, 0, 0, 9, 25, 0, 0, 9, 128, 0, 0, 9, 219, 0, 0, 10, 55, 0, 0, 10, 146, 0, 0, 10, 213, 0, 0, 11, 24, 0, 0, 11, 80, 0, 0, 11, 135, 0, 0, 11, 214, 0, 0, 12, 25, 0, 0, 12, 81, 0, 0, 12, 148, 0, 0, 12, 228, 0, 0, 13, 27, 0, 0, 13, 130, 0, 0, 13, 198, 0, 0, 13, 253, 0, 0, 14, 77, 0, 0, 14, 91]
abbrev dktL_law_2 : List UInt8 := dkwL_law_2 ++ dktL_law_3
def dkwL_law_1 : List UInt8 := [21, 4, 42, 190, 16, 6, 100, 163, 14, 132, 42, 21, 4, 46, 16, 63, 126]
abbrev dktL_law_1 : List UInt8 := dkwL_law_1 ++ dktL_law_2
def dkwL_law_0 : List UInt8 := [187, 0, 8, 89, 183, 0, 165, 76, 187, 0, 166, 89, 183, 0, 168, 77, 4, 188, 11, 78, 3, 54, 4]
abbrev dktL_law_0 : List UInt8 := dkwL_law_0 ++ dktL_law_1
theorem dksL_law_0 : cL_law.data.toList.drop 0 = dktL_law_0 := by decide +kernel
theorem dksL_law_1 : cL_law.data.toList.drop 23 = dktL_law_1 := dk_seg dksL_law_0 23 rfl rfl
theorem dksL_law_2 : cL_law.data.toList.drop 40 = dktL_law_2 := dk_seg dksL_law_1 17 rfl rfl
theorem dksL_law_3 : cL_law.data.toList.drop 256 = dktL_law_3 := dk_seg dksL_law_2 216 rfl rfl
theorem dksL_law_4 : cL_law.data.toList.drop 280 = dktL_law_4 := dk_seg dksL_law_3 24 rfl rfl
theorem dksL_law_5 : cL_law.data.toList.drop 304 = dktL_law_5 := dk_seg dksL_law_4 24 rfl rfl
theorem dksL_law_6 : cL_law.data.toList.drop 328 = dktL_law_6 := dk_seg dksL_law_5 24 rfl rfl
theorem dksL_law_7 : cL_law.data.toList.drop 352 = dktL_law_7 := dk_seg dksL_law_6 24 rfl rfl
theorem dksL_law_8 : cL_law.data.toList.drop 375 = dktL_law_8 := dk_seg dksL_law_7 23 rfl rfl
theorem dksL_law_9 : cL_law.data.toList.drop 398 = dktL_law_9 := dk_seg dksL_law_8 23 rfl rfl
theorem dksL_law_10 : cL_law.data.toList.drop 420 = dktL_law_10 := dk_seg dksL_law_9 22 rfl rfl
theorem dksL_law_11 : cL_law.data.toList.drop 443 = dktL_law_11 := dk_seg dksL_law_10 23 rfl rfl
theorem dksL_law_12 : cL_law.data.toList.drop 466 = dktL_law_12 := dk_seg dksL_law_11 23 rfl rfl
theorem dksL_law_13 : cL_law.data.toList.drop 490 = dktL_law_13 := dk_seg dksL_law_12 24 rfl rfl
theorem dksL_law_14 : cL_law.data.toList.drop 514 = dktL_law_14 := dk_seg dksL_law_13 24 rfl rfl
theorem dksL_law_15 : cL_law.data.toList.drop 537 = dktL_law_15 := dk_seg dksL_law_14 23 rfl rfl
theorem dksL_law_16 : cL_law.data.toList.drop 561 = dktL_law_16 := dk_seg dksL_law_15 24 rfl rfl
theorem dksL_law_17 : cL_law.data.toList.drop 584 = dktL_law_17 := dk_seg dksL_law_16 23 rfl rfl
theorem dksL_law_18 : cL_law.data.toList.drop 608 = dktL_law_18 := dk_seg dksL_law_17 24 rfl rfl
theorem dksL_law_19 : cL_law.data.toList.drop 631 = dktL_law_19 := dk_seg dksL_law_18 23 rfl rfl
theorem dksL_law_20 : cL_law.data.toList.drop 653 = dktL_law_20 := dk_seg dksL_law_19 22 rfl rfl
theorem dksL_law_21 : cL_law.data.toList.drop 677 = dktL_law_21 := dk_seg dksL_law_20 24 rfl rfl
theorem dksL_law_22 : cL_law.data.toList.drop 699 = dktL_law_22 := dk_seg dksL_law_21 22 rfl rfl
theorem dksL_law_23 : cL_law.data.toList.drop 723 = dktL_law_23 := dk_seg dksL_law_22 24 rfl rfl
theorem dksL_law_24 : cL_law.data.toList.drop 747 = dktL_law_24 := dk_seg dksL_law_23 24 rfl rfl
theorem dksL_law_25 : cL_law.data.toList.drop 771 = dktL_law_25 := dk_seg dksL_law_24 24 rfl rfl
theorem dksL_law_26 : cL_law.data.toList.drop 795 = dktL_law_26 := dk_seg dksL_law_25 24 rfl rfl
theorem dksL_law_27 : cL_law.data.toList.drop 817 = dktL_law_27 := dk_seg dksL_law_26 22 rfl rfl
theorem dksL_law_28 : cL_law.data.toList.drop 839 = dktL_law_28 := dk_seg dksL_law_27 22 rfl rfl
theorem dksL_law_29 : cL_law.data.toList.drop 862 = dktL_law_29 := dk_seg dksL_law_28 23 rfl rfl
theorem dksL_law_30 : cL_law.data.toList.drop 885 = dktL_law_30 := dk_seg dksL_law_29 23 rfl rfl
theorem dksL_law_31 : cL_law.data.toList.drop 907 = dktL_law_31 := dk_seg dksL_law_30 22 rfl rfl
theorem dksL_law_32 : cL_law.data.toList.drop 930 = dktL_law_32 := dk_seg dksL_law_31 23 rfl rfl
theorem dksL_law_33 : cL_law.data.toList.drop 953 = dktL_law_33 := dk_seg dksL_law_32 23 rfl rfl
theorem dksL_law_34 : cL_law.data.toList.drop 977 = dktL_law_34 := dk_seg dksL_law_33 24 rfl rfl
theorem dksL_law_35 : cL_law.data.toList.drop 1001 = dktL_law_35 := dk_seg dksL_law_34 24 rfl rfl
theorem dksL_law_36 : cL_law.data.toList.drop 1025 = dktL_law_36 := dk_seg dksL_law_35 24 rfl rfl
theorem dksL_law_37 : cL_law.data.toList.drop 1049 = dktL_law_37 := dk_seg dksL_law_36 24 rfl rfl
theorem dksL_law_38 : cL_law.data.toList.drop 1071 = dktL_law_38 := dk_seg dksL_law_37 22 rfl rfl
theorem dksL_law_39 : cL_law.data.toList.drop 1095 = dktL_law_39 := dk_seg dksL_law_38 24 rfl rfl
theorem dksL_law_40 : cL_law.data.toList.drop 1119 = dktL_law_40 := dk_seg dksL_law_39 24 rfl rfl
theorem dksL_law_41 : cL_law.data.toList.drop 1143 = dktL_law_41 := dk_seg dksL_law_40 24 rfl rfl
theorem dksL_law_42 : cL_law.data.toList.drop 1166 = dktL_law_42 := dk_seg dksL_law_41 23 rfl rfl
theorem dksL_law_43 : cL_law.data.toList.drop 1190 = dktL_law_43 := dk_seg dksL_law_42 24 rfl rfl
theorem dksL_law_44 : cL_law.data.toList.drop 1214 = dktL_law_44 := dk_seg dksL_law_43 24 rfl rfl
theorem dksL_law_45 : cL_law.data.toList.drop 1238 = dktL_law_45 := dk_seg dksL_law_44 24 rfl rfl
theorem dksL_law_46 : cL_law.data.toList.drop 1262 = dktL_law_46 := dk_seg dksL_law_45 24 rfl rfl
theorem dksL_law_47 : cL_law.data.toList.drop 1284 = dktL_law_47 := dk_seg dksL_law_46 22 rfl rfl
theorem dksL_law_48 : cL_law.data.toList.drop 1308 = dktL_law_48 := dk_seg dksL_law_47 24 rfl rfl
theorem dksL_law_49 : cL_law.data.toList.drop 1332 = dktL_law_49 := dk_seg dksL_law_48 24 rfl rfl
theorem dksL_law_50 : cL_law.data.toList.drop 1355 = dktL_law_50 := dk_seg dksL_law_49 23 rfl rfl
theorem dksL_law_51 : cL_law.data.toList.drop 1379 = dktL_law_51 := dk_seg dksL_law_50 24 rfl rfl
theorem dksL_law_52 : cL_law.data.toList.drop 1402 = dktL_law_52 := dk_seg dksL_law_51 23 rfl rfl
theorem dksL_law_53 : cL_law.data.toList.drop 1426 = dktL_law_53 := dk_seg dksL_law_52 24 rfl rfl
theorem dksL_law_54 : cL_law.data.toList.drop 1450 = dktL_law_54 := dk_seg dksL_law_53 24 rfl rfl
theorem dksL_law_55 : cL_law.data.toList.drop 1474 = dktL_law_55 := dk_seg dksL_law_54 24 rfl rfl
theorem dksL_law_56 : cL_law.data.toList.drop 1498 = dktL_law_56 := dk_seg dksL_law_55 24 rfl rfl
theorem dksL_law_57 : cL_law.data.toList.drop 1522 = dktL_law_57 := dk_seg dksL_law_56 24 rfl rfl
theorem dksL_law_58 : cL_law.data.toList.drop 1546 = dktL_law_58 := dk_seg dksL_law_57 24 rfl rfl
theorem dksL_law_59 : cL_law.data.toList.drop 1570 = dktL_law_59 := dk_seg dksL_law_58 24 rfl rfl
theorem dksL_law_60 : cL_law.data.toList.drop 1594 = dktL_law_60 := dk_seg dksL_law_59 24 rfl rfl
theorem dksL_law_61 : cL_law.data.toList.drop 1618 = dktL_law_61 := dk_seg dksL_law_60 24 rfl rfl
theorem dksL_law_62 : cL_law.data.toList.drop 1642 = dktL_law_62 := dk_seg dksL_law_61 24 rfl rfl
theorem dksL_law_63 : cL_law.data.toList.drop 1666 = dktL_law_63 := dk_seg dksL_law_62 24 rfl rfl
theorem dksL_law_64 : cL_law.data.toList.drop 1688 = dktL_law_64 := dk_seg dksL_law_63 22 rfl rfl
theorem dksL_law_65 : cL_law.data.toList.drop 1712 = dktL_law_65 := dk_seg dksL_law_64 24 rfl rfl
theorem dksL_law_66 : cL_law.data.toList.drop 1736 = dktL_law_66 := dk_seg dksL_law_65 24 rfl rfl
theorem dksL_law_67 : cL_law.data.toList.drop 1760 = dktL_law_67 := dk_seg dksL_law_66 24 rfl rfl
theorem dksL_law_68 : cL_law.data.toList.drop 1782 = dktL_law_68 := dk_seg dksL_law_67 22 rfl rfl
theorem dksL_law_69 : cL_law.data.toList.drop 1804 = dktL_law_69 := dk_seg dksL_law_68 22 rfl rfl
theorem dksL_law_70 : cL_law.data.toList.drop 1828 = dktL_law_70 := dk_seg dksL_law_69 24 rfl rfl
theorem dksL_law_71 : cL_law.data.toList.drop 1852 = dktL_law_71 := dk_seg dksL_law_70 24 rfl rfl
theorem dksL_law_72 : cL_law.data.toList.drop 1876 = dktL_law_72 := dk_seg dksL_law_71 24 rfl rfl
theorem dksL_law_73 : cL_law.data.toList.drop 1900 = dktL_law_73 := dk_seg dksL_law_72 24 rfl rfl
theorem dksL_law_74 : cL_law.data.toList.drop 1923 = dktL_law_74 := dk_seg dksL_law_73 23 rfl rfl
theorem dksL_law_75 : cL_law.data.toList.drop 1947 = dktL_law_75 := dk_seg dksL_law_74 24 rfl rfl
theorem dksL_law_76 : cL_law.data.toList.drop 1970 = dktL_law_76 := dk_seg dksL_law_75 23 rfl rfl
theorem dksL_law_77 : cL_law.data.toList.drop 1994 = dktL_law_77 := dk_seg dksL_law_76 24 rfl rfl
theorem dksL_law_78 : cL_law.data.toList.drop 2018 = dktL_law_78 := dk_seg dksL_law_77 24 rfl rfl
theorem dksL_law_79 : cL_law.data.toList.drop 2042 = dktL_law_79 := dk_seg dksL_law_78 24 rfl rfl
theorem dksL_law_80 : cL_law.data.toList.drop 2066 = dktL_law_80 := dk_seg dksL_law_79 24 rfl rfl
theorem dksL_law_81 : cL_law.data.toList.drop 2090 = dktL_law_81 := dk_seg dksL_law_80 24 rfl rfl
theorem dksL_law_82 : cL_law.data.toList.drop 2114 = dktL_law_82 := dk_seg dksL_law_81 24 rfl rfl
theorem dksL_law_83 : cL_law.data.toList.drop 2137 = dktL_law_83 := dk_seg dksL_law_82 23 rfl rfl
theorem dksL_law_84 : cL_law.data.toList.drop 2160 = dktL_law_84 := dk_seg dksL_law_83 23 rfl rfl
theorem dksL_law_85 : cL_law.data.toList.drop 2183 = dktL_law_85 := dk_seg dksL_law_84 23 rfl rfl
theorem dksL_law_86 : cL_law.data.toList.drop 2207 = dktL_law_86 := dk_seg dksL_law_85 24 rfl rfl
theorem dksL_law_87 : cL_law.data.toList.drop 2231 = dktL_law_87 := dk_seg dksL_law_86 24 rfl rfl
theorem dksL_law_88 : cL_law.data.toList.drop 2255 = dktL_law_88 := dk_seg dksL_law_87 24 rfl rfl
theorem dksL_law_89 : cL_law.data.toList.drop 2279 = dktL_law_89 := dk_seg dksL_law_88 24 rfl rfl
theorem dksL_law_90 : cL_law.data.toList.drop 2303 = dktL_law_90 := dk_seg dksL_law_89 24 rfl rfl
theorem dksL_law_91 : cL_law.data.toList.drop 2327 = dktL_law_91 := dk_seg dksL_law_90 24 rfl rfl
theorem dksL_law_92 : cL_law.data.toList.drop 2350 = dktL_law_92 := dk_seg dksL_law_91 23 rfl rfl
theorem dksL_law_93 : cL_law.data.toList.drop 2374 = dktL_law_93 := dk_seg dksL_law_92 24 rfl rfl
theorem dksL_law_94 : cL_law.data.toList.drop 2398 = dktL_law_94 := dk_seg dksL_law_93 24 rfl rfl
theorem dksL_law_95 : cL_law.data.toList.drop 2422 = dktL_law_95 := dk_seg dksL_law_94 24 rfl rfl
theorem dksL_law_96 : cL_law.data.toList.drop 2446 = dktL_law_96 := dk_seg dksL_law_95 24 rfl rfl
theorem dksL_law_97 : cL_law.data.toList.drop 2469 = dktL_law_97 := dk_seg dksL_law_96 23 rfl rfl
theorem dksL_law_98 : cL_law.data.toList.drop 2492 = dktL_law_98 := dk_seg dksL_law_97 23 rfl rfl
theorem dksL_law_99 : cL_law.data.toList.drop 2516 = dktL_law_99 := dk_seg dksL_law_98 24 rfl rfl
theorem dksL_law_100 : cL_law.data.toList.drop 2539 = dktL_law_100 := dk_seg dksL_law_99 23 rfl rfl
theorem dksL_law_101 : cL_law.data.toList.drop 2563 = dktL_law_101 := dk_seg dksL_law_100 24 rfl rfl
theorem dksL_law_102 : cL_law.data.toList.drop 2587 = dktL_law_102 := dk_seg dksL_law_101 24 rfl rfl
theorem dksL_law_103 : cL_law.data.toList.drop 2611 = dktL_law_103 := dk_seg dksL_law_102 24 rfl rfl
theorem dksL_law_104 : cL_law.data.toList.drop 2635 = dktL_law_104 := dk_seg dksL_law_103 24 rfl rfl
theorem dksL_law_105 : cL_law.data.toList.drop 2659 = dktL_law_105 := dk_seg dksL_law_104 24 rfl rfl
theorem dksL_law_106 : cL_law.data.toList.drop 2681 = dktL_law_106 := dk_seg dksL_law_105 22 rfl rfl
theorem dksL_law_107 : cL_law.data.toList.drop 2705 = dktL_law_107 := dk_seg dksL_law_106 24 rfl rfl
theorem dksL_law_108 : cL_law.data.toList.drop 2729 = dktL_law_108 := dk_seg dksL_law_107 24 rfl rfl
theorem dksL_law_109 : cL_law.data.toList.drop 2753 = dktL_law_109 := dk_seg dksL_law_108 24 rfl rfl
theorem dksL_law_110 : cL_law.data.toList.drop 2777 = dktL_law_110 := dk_seg dksL_law_109 24 rfl rfl
theorem dksL_law_111 : cL_law.data.toList.drop 2801 = dktL_law_111 := dk_seg dksL_law_110 24 rfl rfl
theorem dksL_law_112 : cL_law.data.toList.drop 2825 = dktL_law_112 := dk_seg dksL_law_111 24 rfl rfl
theorem dksL_law_113 : cL_law.data.toList.drop 2848 = dktL_law_113 := dk_seg dksL_law_112 23 rfl rfl
theorem dksL_law_114 : cL_law.data.toList.drop 2872 = dktL_law_114 := dk_seg dksL_law_113 24 rfl rfl
theorem dksL_law_115 : cL_law.data.toList.drop 2895 = dktL_law_115 := dk_seg dksL_law_114 23 rfl rfl
theorem dksL_law_116 : cL_law.data.toList.drop 2918 = dktL_law_116 := dk_seg dksL_law_115 23 rfl rfl
theorem dksL_law_117 : cL_law.data.toList.drop 2942 = dktL_law_117 := dk_seg dksL_law_116 24 rfl rfl
theorem dksL_law_118 : cL_law.data.toList.drop 2965 = dktL_law_118 := dk_seg dksL_law_117 23 rfl rfl
theorem dksL_law_119 : cL_law.data.toList.drop 2988 = dktL_law_119 := dk_seg dksL_law_118 23 rfl rfl
theorem dksL_law_120 : cL_law.data.toList.drop 3011 = dktL_law_120 := dk_seg dksL_law_119 23 rfl rfl
theorem dksL_law_121 : cL_law.data.toList.drop 3035 = dktL_law_121 := dk_seg dksL_law_120 24 rfl rfl
theorem dksL_law_122 : cL_law.data.toList.drop 3059 = dktL_law_122 := dk_seg dksL_law_121 24 rfl rfl
theorem dksL_law_123 : cL_law.data.toList.drop 3083 = dktL_law_123 := dk_seg dksL_law_122 24 rfl rfl
theorem dksL_law_124 : cL_law.data.toList.drop 3107 = dktL_law_124 := dk_seg dksL_law_123 24 rfl rfl
theorem dksL_law_125 : cL_law.data.toList.drop 3129 = dktL_law_125 := dk_seg dksL_law_124 22 rfl rfl
theorem dksL_law_126 : cL_law.data.toList.drop 3152 = dktL_law_126 := dk_seg dksL_law_125 23 rfl rfl
theorem dksL_law_127 : cL_law.data.toList.drop 3175 = dktL_law_127 := dk_seg dksL_law_126 23 rfl rfl
theorem dksL_law_128 : cL_law.data.toList.drop 3199 = dktL_law_128 := dk_seg dksL_law_127 24 rfl rfl
theorem dksL_law_129 : cL_law.data.toList.drop 3223 = dktL_law_129 := dk_seg dksL_law_128 24 rfl rfl
theorem dksL_law_130 : cL_law.data.toList.drop 3247 = dktL_law_130 := dk_seg dksL_law_129 24 rfl rfl
theorem dksL_law_131 : cL_law.data.toList.drop 3271 = dktL_law_131 := dk_seg dksL_law_130 24 rfl rfl
theorem dksL_law_132 : cL_law.data.toList.drop 3295 = dktL_law_132 := dk_seg dksL_law_131 24 rfl rfl
theorem dksL_law_133 : cL_law.data.toList.drop 3319 = dktL_law_133 := dk_seg dksL_law_132 24 rfl rfl
theorem dksL_law_134 : cL_law.data.toList.drop 3342 = dktL_law_134 := dk_seg dksL_law_133 23 rfl rfl
theorem dksL_law_135 : cL_law.data.toList.drop 3366 = dktL_law_135 := dk_seg dksL_law_134 24 rfl rfl
theorem dksL_law_136 : cL_law.data.toList.drop 3390 = dktL_law_136 := dk_seg dksL_law_135 24 rfl rfl
theorem dksL_law_137 : cL_law.data.toList.drop 3414 = dktL_law_137 := dk_seg dksL_law_136 24 rfl rfl
theorem dksL_law_138 : cL_law.data.toList.drop 3438 = dktL_law_138 := dk_seg dksL_law_137 24 rfl rfl
theorem dksL_law_139 : cL_law.data.toList.drop 3462 = dktL_law_139 := dk_seg dksL_law_138 24 rfl rfl
theorem dksL_law_140 : cL_law.data.toList.drop 3486 = dktL_law_140 := dk_seg dksL_law_139 24 rfl rfl
theorem dksL_law_141 : cL_law.data.toList.drop 3510 = dktL_law_141 := dk_seg dksL_law_140 24 rfl rfl
theorem dksL_law_142 : cL_law.data.toList.drop 3533 = dktL_law_142 := dk_seg dksL_law_141 23 rfl rfl
theorem dksL_law_143 : cL_law.data.toList.drop 3557 = dktL_law_143 := dk_seg dksL_law_142 24 rfl rfl
theorem dksL_law_144 : cL_law.data.toList.drop 3581 = dktL_law_144 := dk_seg dksL_law_143 24 rfl rfl
theorem dksL_law_145 : cL_law.data.toList.drop 3604 = dktL_law_145 := dk_seg dksL_law_144 23 rfl rfl
theorem dksL_law_146 : cL_law.data.toList.drop 3628 = dktL_law_146 := dk_seg dksL_law_145 24 rfl rfl
theorem dksL_law_147 : cL_law.data.toList.drop 3652 = dktL_law_147 := dk_seg dksL_law_146 24 rfl rfl
theorem dksL_law_148 : cL_law.data.toList.drop 3676 = dktL_law_148 := dk_seg dksL_law_147 24 rfl rfl
theorem dksL_law_149 : cL_law.data.toList.drop 3698 = dktL_law_149 := dk_seg dksL_law_148 22 rfl rfl
theorem dksL_law_150 : cL_law.data.toList.drop 3722 = dktL_law_150 := dk_seg dksL_law_149 24 rfl rfl
theorem dksL_law_151 : cL_law.data.toList.drop 3746 = dktL_law_151 := dk_seg dksL_law_150 24 rfl rfl
theorem dL_law_0 : decode cL_law 0 = .ok (.new 8, 3) := dk_187 0 8 (dk_at dksL_law_0 0 rfl rfl)
theorem dL_law_3 : decode cL_law 3 = .ok (.dup, 1) := dk_89 (dk_at dksL_law_0 3 rfl rfl)
theorem dL_law_4 : decode cL_law 4 = .ok (.invokespecial 165, 3) := dk_183 0 165 (dk_at dksL_law_0 4 rfl rfl)
theorem dL_law_7 : decode cL_law 7 = .ok (.astore_n 1, 1) := dk_76 (dk_at dksL_law_0 7 rfl rfl)
theorem dL_law_8 : decode cL_law 8 = .ok (.new 166, 3) := dk_187 0 166 (dk_at dksL_law_0 8 rfl rfl)
theorem dL_law_11 : decode cL_law 11 = .ok (.dup, 1) := dk_89 (dk_at dksL_law_0 11 rfl rfl)
theorem dL_law_12 : decode cL_law 12 = .ok (.invokespecial 168, 3) := dk_183 0 168 (dk_at dksL_law_0 12 rfl rfl)
theorem dL_law_15 : decode cL_law 15 = .ok (.astore_n 2, 1) := dk_77 (dk_at dksL_law_0 15 rfl rfl)
theorem dL_law_16 : decode cL_law 16 = .ok (.iconst 1, 1) := dk_4 (dk_at dksL_law_0 16 rfl rfl)
theorem dL_law_17 : decode cL_law 17 = .ok (.newarray .long, 2) := dk_188_11 (dk_at dksL_law_0 17 rfl rfl)
theorem dL_law_19 : decode cL_law 19 = .ok (.astore_n 3, 1) := dk_78 (dk_at dksL_law_0 19 rfl rfl)
theorem dL_law_20 : decode cL_law 20 = .ok (.iconst 0, 1) := dk_3 (dk_at dksL_law_0 20 rfl rfl)
theorem dL_law_21 : decode cL_law 21 = .ok (.istore 4, 2) := dk_54 4 (dk_at dksL_law_0 21 rfl rfl)
theorem dL_law_23 : decode cL_law 23 = .ok (.iload 4, 2) := dk_21 4 (dk_at dksL_law_1 0 rfl rfl)
theorem dL_law_25 : decode cL_law 25 = .ok (.aload_n 0, 1) := dk_42 (dk_at dksL_law_1 2 rfl rfl)
theorem dL_law_26 : decode cL_law 26 = .ok (.arraylength, 1) := dk_190 (dk_at dksL_law_1 3 rfl rfl)
theorem dL_law_27 : decode cL_law 27 = .ok (.bipush 6, 2) := dk_16 6 (dk_at dksL_law_1 4 rfl rfl)
theorem dL_law_29 : decode cL_law 29 = .ok (.isub, 1) := dk_100 (dk_at dksL_law_1 6 rfl rfl)
theorem dL_law_30 : decode cL_law 30 = .ok (.if_icmp .gt 3716, 3) := dk_163 14 132 (dk_at dksL_law_1 7 rfl rfl)
theorem dL_law_33 : decode cL_law 33 = .ok (.aload_n 0, 1) := dk_42 (dk_at dksL_law_1 10 rfl rfl)
theorem dL_law_34 : decode cL_law 34 = .ok (.iload 4, 2) := dk_21 4 (dk_at dksL_law_1 11 rfl rfl)
theorem dL_law_36 : decode cL_law 36 = .ok (.iaload, 1) := dk_46 (dk_at dksL_law_1 13 rfl rfl)
theorem dL_law_37 : decode cL_law 37 = .ok (.bipush 63, 2) := dk_16 63 (dk_at dksL_law_1 14 rfl rfl)
theorem dL_law_39 : decode cL_law 39 = .ok (.iand, 1) := dk_126 (dk_at dksL_law_1 16 rfl rfl)
theorem dL_law_40 : decode cL_law 40 = .ok (.tableswitch 3700 0 49 #[216, 308, 388, 444, 524, 616, 683, 751, 807, 862, 875, 931, 999, 1066, 1145, 1212, 1280, 1348, 1415, 1482, 1549, 1616, 1683, 1750, 1817, 1872, 1928, 2020, 2123, 2226, 2329, 2432, 2523, 2615, 2706, 2773, 2840, 2896, 2951, 3030, 3097, 3153, 3220, 3300, 3355, 3458, 3526, 3581, 3661, 3675], 216) := by decide +kernel
theorem dL_law_256 : decode cL_law 256 = .ok (.aload_n 1, 1) := dk_43 (dk_at dksL_law_3 0 rfl rfl)
theorem dL_law_257 : decode cL_law 257 = .ok (.aload_n 0, 1) := dk_42 (dk_at dksL_law_3 1 rfl rfl)
theorem dL_law_258 : decode cL_law 258 = .ok (.iload 4, 2) := dk_21 4 (dk_at dksL_law_3 2 rfl rfl)
theorem dL_law_260 : decode cL_law 260 = .ok (.iconst 1, 1) := dk_4 (dk_at dksL_law_3 4 rfl rfl)
theorem dL_law_261 : decode cL_law 261 = .ok (.iadd, 1) := dk_96 (dk_at dksL_law_3 5 rfl rfl)
theorem dL_law_262 : decode cL_law 262 = .ok (.iaload, 1) := dk_46 (dk_at dksL_law_3 6 rfl rfl)
theorem dL_law_263 : decode cL_law 263 = .ok (.aload_n 0, 1) := dk_42 (dk_at dksL_law_3 7 rfl rfl)
theorem dL_law_264 : decode cL_law 264 = .ok (.iload 4, 2) := dk_21 4 (dk_at dksL_law_3 8 rfl rfl)
theorem dL_law_266 : decode cL_law 266 = .ok (.iconst 2, 1) := dk_5 (dk_at dksL_law_3 10 rfl rfl)
theorem dL_law_267 : decode cL_law 267 = .ok (.iadd, 1) := dk_96 (dk_at dksL_law_3 11 rfl rfl)
theorem dL_law_268 : decode cL_law 268 = .ok (.iaload, 1) := dk_46 (dk_at dksL_law_3 12 rfl rfl)
theorem dL_law_269 : decode cL_law 269 = .ok (.aload_n 0, 1) := dk_42 (dk_at dksL_law_3 13 rfl rfl)
theorem dL_law_270 : decode cL_law 270 = .ok (.iload 4, 2) := dk_21 4 (dk_at dksL_law_3 14 rfl rfl)
theorem dL_law_272 : decode cL_law 272 = .ok (.iconst 3, 1) := dk_6 (dk_at dksL_law_3 16 rfl rfl)
theorem dL_law_273 : decode cL_law 273 = .ok (.iadd, 1) := dk_96 (dk_at dksL_law_3 17 rfl rfl)
theorem dL_law_274 : decode cL_law 274 = .ok (.iaload, 1) := dk_46 (dk_at dksL_law_3 18 rfl rfl)
theorem dL_law_275 : decode cL_law 275 = .ok (.aload_n 0, 1) := dk_42 (dk_at dksL_law_3 19 rfl rfl)
theorem dL_law_276 : decode cL_law 276 = .ok (.iload 4, 2) := dk_21 4 (dk_at dksL_law_3 20 rfl rfl)
theorem dL_law_278 : decode cL_law 278 = .ok (.iconst 4, 1) := dk_7 (dk_at dksL_law_3 22 rfl rfl)
theorem dL_law_279 : decode cL_law 279 = .ok (.iadd, 1) := dk_96 (dk_at dksL_law_3 23 rfl rfl)
theorem dL_law_280 : decode cL_law 280 = .ok (.iaload, 1) := dk_46 (dk_at dksL_law_4 0 rfl rfl)
theorem dL_law_281 : decode cL_law 281 = .ok (.aload_n 3, 1) := dk_45 (dk_at dksL_law_4 1 rfl rfl)
theorem dL_law_282 : decode cL_law 282 = .ok (.invokestatic 169, 3) := dk_184 0 169 (dk_at dksL_law_4 2 rfl rfl)
theorem dL_law_285 : decode cL_law 285 = .ok (.istore 5, 2) := dk_54 5 (dk_at dksL_law_4 5 rfl rfl)
theorem dL_law_287 : decode cL_law 287 = .ok (.aload_n 2, 1) := dk_44 (dk_at dksL_law_4 7 rfl rfl)
theorem dL_law_288 : decode cL_law 288 = .ok (.aload_n 0, 1) := dk_42 (dk_at dksL_law_4 8 rfl rfl)
theorem dL_law_289 : decode cL_law 289 = .ok (.iload 4, 2) := dk_21 4 (dk_at dksL_law_4 9 rfl rfl)
theorem dL_law_291 : decode cL_law 291 = .ok (.iconst 1, 1) := dk_4 (dk_at dksL_law_4 11 rfl rfl)
theorem dL_law_292 : decode cL_law 292 = .ok (.iadd, 1) := dk_96 (dk_at dksL_law_4 12 rfl rfl)
theorem dL_law_293 : decode cL_law 293 = .ok (.iaload, 1) := dk_46 (dk_at dksL_law_4 13 rfl rfl)
theorem dL_law_294 : decode cL_law 294 = .ok (.aload_n 0, 1) := dk_42 (dk_at dksL_law_4 14 rfl rfl)
theorem dL_law_295 : decode cL_law 295 = .ok (.iload 4, 2) := dk_21 4 (dk_at dksL_law_4 15 rfl rfl)
theorem dL_law_297 : decode cL_law 297 = .ok (.iconst 2, 1) := dk_5 (dk_at dksL_law_4 17 rfl rfl)
theorem dL_law_298 : decode cL_law 298 = .ok (.iadd, 1) := dk_96 (dk_at dksL_law_4 18 rfl rfl)
theorem dL_law_299 : decode cL_law 299 = .ok (.iaload, 1) := dk_46 (dk_at dksL_law_4 19 rfl rfl)
theorem dL_law_300 : decode cL_law 300 = .ok (.aload_n 0, 1) := dk_42 (dk_at dksL_law_4 20 rfl rfl)
theorem dL_law_301 : decode cL_law 301 = .ok (.iload 4, 2) := dk_21 4 (dk_at dksL_law_4 21 rfl rfl)
theorem dL_law_303 : decode cL_law 303 = .ok (.iconst 3, 1) := dk_6 (dk_at dksL_law_4 23 rfl rfl)
theorem dL_law_304 : decode cL_law 304 = .ok (.iadd, 1) := dk_96 (dk_at dksL_law_5 0 rfl rfl)
theorem dL_law_305 : decode cL_law 305 = .ok (.iaload, 1) := dk_46 (dk_at dksL_law_5 1 rfl rfl)
theorem dL_law_306 : decode cL_law 306 = .ok (.aload_n 0, 1) := dk_42 (dk_at dksL_law_5 2 rfl rfl)
theorem dL_law_307 : decode cL_law 307 = .ok (.iload 4, 2) := dk_21 4 (dk_at dksL_law_5 3 rfl rfl)
theorem dL_law_309 : decode cL_law 309 = .ok (.iconst 4, 1) := dk_7 (dk_at dksL_law_5 5 rfl rfl)
theorem dL_law_310 : decode cL_law 310 = .ok (.iadd, 1) := dk_96 (dk_at dksL_law_5 6 rfl rfl)
theorem dL_law_311 : decode cL_law 311 = .ok (.iaload, 1) := dk_46 (dk_at dksL_law_5 7 rfl rfl)
theorem dL_law_312 : decode cL_law 312 = .ok (.invokevirtual 174, 3) := dk_182 0 174 (dk_at dksL_law_5 8 rfl rfl)
theorem dL_law_315 : decode cL_law 315 = .ok (.istore 6, 2) := dk_54 6 (dk_at dksL_law_5 11 rfl rfl)
theorem dL_law_317 : decode cL_law 317 = .ok (.aload_n 2, 1) := dk_44 (dk_at dksL_law_5 13 rfl rfl)
theorem dL_law_318 : decode cL_law 318 = .ok (.invokevirtual 175, 3) := dk_182 0 175 (dk_at dksL_law_5 14 rfl rfl)
theorem dL_law_321 : decode cL_law 321 = .ok (.iload 5, 2) := dk_21 5 (dk_at dksL_law_5 17 rfl rfl)
theorem dL_law_323 : decode cL_law 323 = .ok (.if_icmp .eq 5, 3) := dk_159 0 5 (dk_at dksL_law_5 19 rfl rfl)
theorem dL_law_326 : decode cL_law 326 = .ok (.iconst 0, 1) := dk_3 (dk_at dksL_law_5 22 rfl rfl)
theorem dL_law_327 : decode cL_law 327 = .ok (.ireturn, 1) := dk_172 (dk_at dksL_law_5 23 rfl rfl)
theorem dL_law_328 : decode cL_law 328 = .ok (.iload 5, 2) := dk_21 5 (dk_at dksL_law_6 0 rfl rfl)
theorem dL_law_330 : decode cL_law 330 = .ok (.ifCond .ne 15, 3) := dk_154 0 15 (dk_at dksL_law_6 2 rfl rfl)
theorem dL_law_333 : decode cL_law 333 = .ok (.aload_n 3, 1) := dk_45 (dk_at dksL_law_6 5 rfl rfl)
theorem dL_law_334 : decode cL_law 334 = .ok (.iconst 0, 1) := dk_3 (dk_at dksL_law_6 6 rfl rfl)
theorem dL_law_335 : decode cL_law 335 = .ok (.laload, 1) := dk_47 (dk_at dksL_law_6 7 rfl rfl)
theorem dL_law_336 : decode cL_law 336 = .ok (.iload 6, 2) := dk_21 6 (dk_at dksL_law_6 8 rfl rfl)
theorem dL_law_338 : decode cL_law 338 = .ok (.i2l, 1) := dk_133 (dk_at dksL_law_6 10 rfl rfl)
theorem dL_law_339 : decode cL_law 339 = .ok (.lcmp, 1) := dk_148 (dk_at dksL_law_6 11 rfl rfl)
theorem dL_law_340 : decode cL_law 340 = .ok (.ifCond .eq 5, 3) := dk_153 0 5 (dk_at dksL_law_6 12 rfl rfl)
theorem dL_law_343 : decode cL_law 343 = .ok (.iconst 0, 1) := dk_3 (dk_at dksL_law_6 15 rfl rfl)
theorem dL_law_344 : decode cL_law 344 = .ok (.ireturn, 1) := dk_172 (dk_at dksL_law_6 16 rfl rfl)
theorem dL_law_345 : decode cL_law 345 = .ok (.goto 3395, 3) := dk_167 13 67 (dk_at dksL_law_6 17 rfl rfl)
theorem dL_law_348 : decode cL_law 348 = .ok (.aload_n 1, 1) := dk_43 (dk_at dksL_law_6 20 rfl rfl)
theorem dL_law_349 : decode cL_law 349 = .ok (.aload_n 0, 1) := dk_42 (dk_at dksL_law_6 21 rfl rfl)
theorem dL_law_350 : decode cL_law 350 = .ok (.iload 4, 2) := dk_21 4 (dk_at dksL_law_6 22 rfl rfl)
theorem dL_law_352 : decode cL_law 352 = .ok (.iconst 1, 1) := dk_4 (dk_at dksL_law_7 0 rfl rfl)
theorem dL_law_353 : decode cL_law 353 = .ok (.iadd, 1) := dk_96 (dk_at dksL_law_7 1 rfl rfl)
theorem dL_law_354 : decode cL_law 354 = .ok (.iaload, 1) := dk_46 (dk_at dksL_law_7 2 rfl rfl)
theorem dL_law_355 : decode cL_law 355 = .ok (.aload_n 0, 1) := dk_42 (dk_at dksL_law_7 3 rfl rfl)
theorem dL_law_356 : decode cL_law 356 = .ok (.iload 4, 2) := dk_21 4 (dk_at dksL_law_7 4 rfl rfl)
theorem dL_law_358 : decode cL_law 358 = .ok (.iconst 2, 1) := dk_5 (dk_at dksL_law_7 6 rfl rfl)
theorem dL_law_359 : decode cL_law 359 = .ok (.iadd, 1) := dk_96 (dk_at dksL_law_7 7 rfl rfl)
theorem dL_law_360 : decode cL_law 360 = .ok (.iaload, 1) := dk_46 (dk_at dksL_law_7 8 rfl rfl)
theorem dL_law_361 : decode cL_law 361 = .ok (.aload_n 0, 1) := dk_42 (dk_at dksL_law_7 9 rfl rfl)
theorem dL_law_362 : decode cL_law 362 = .ok (.iload 4, 2) := dk_21 4 (dk_at dksL_law_7 10 rfl rfl)
theorem dL_law_364 : decode cL_law 364 = .ok (.iconst 3, 1) := dk_6 (dk_at dksL_law_7 12 rfl rfl)
theorem dL_law_365 : decode cL_law 365 = .ok (.iadd, 1) := dk_96 (dk_at dksL_law_7 13 rfl rfl)
theorem dL_law_366 : decode cL_law 366 = .ok (.iaload, 1) := dk_46 (dk_at dksL_law_7 14 rfl rfl)
theorem dL_law_367 : decode cL_law 367 = .ok (.aload_n 3, 1) := dk_45 (dk_at dksL_law_7 15 rfl rfl)
theorem dL_law_368 : decode cL_law 368 = .ok (.invokestatic 179, 3) := dk_184 0 179 (dk_at dksL_law_7 16 rfl rfl)
theorem dL_law_371 : decode cL_law 371 = .ok (.istore 5, 2) := dk_54 5 (dk_at dksL_law_7 19 rfl rfl)
theorem dL_law_373 : decode cL_law 373 = .ok (.aload_n 2, 1) := dk_44 (dk_at dksL_law_7 21 rfl rfl)
theorem dL_law_374 : decode cL_law 374 = .ok (.aload_n 0, 1) := dk_42 (dk_at dksL_law_7 22 rfl rfl)
theorem dL_law_375 : decode cL_law 375 = .ok (.iload 4, 2) := dk_21 4 (dk_at dksL_law_8 0 rfl rfl)
theorem dL_law_377 : decode cL_law 377 = .ok (.iconst 1, 1) := dk_4 (dk_at dksL_law_8 2 rfl rfl)
theorem dL_law_378 : decode cL_law 378 = .ok (.iadd, 1) := dk_96 (dk_at dksL_law_8 3 rfl rfl)
theorem dL_law_379 : decode cL_law 379 = .ok (.iaload, 1) := dk_46 (dk_at dksL_law_8 4 rfl rfl)
theorem dL_law_380 : decode cL_law 380 = .ok (.aload_n 0, 1) := dk_42 (dk_at dksL_law_8 5 rfl rfl)
theorem dL_law_381 : decode cL_law 381 = .ok (.iload 4, 2) := dk_21 4 (dk_at dksL_law_8 6 rfl rfl)
theorem dL_law_383 : decode cL_law 383 = .ok (.iconst 2, 1) := dk_5 (dk_at dksL_law_8 8 rfl rfl)
theorem dL_law_384 : decode cL_law 384 = .ok (.iadd, 1) := dk_96 (dk_at dksL_law_8 9 rfl rfl)
theorem dL_law_385 : decode cL_law 385 = .ok (.iaload, 1) := dk_46 (dk_at dksL_law_8 10 rfl rfl)
theorem dL_law_386 : decode cL_law 386 = .ok (.aload_n 0, 1) := dk_42 (dk_at dksL_law_8 11 rfl rfl)
theorem dL_law_387 : decode cL_law 387 = .ok (.iload 4, 2) := dk_21 4 (dk_at dksL_law_8 12 rfl rfl)
theorem dL_law_389 : decode cL_law 389 = .ok (.iconst 3, 1) := dk_6 (dk_at dksL_law_8 14 rfl rfl)
theorem dL_law_390 : decode cL_law 390 = .ok (.iadd, 1) := dk_96 (dk_at dksL_law_8 15 rfl rfl)
theorem dL_law_391 : decode cL_law 391 = .ok (.iaload, 1) := dk_46 (dk_at dksL_law_8 16 rfl rfl)
theorem dL_law_392 : decode cL_law 392 = .ok (.invokevirtual 182, 3) := dk_182 0 182 (dk_at dksL_law_8 17 rfl rfl)
theorem dL_law_395 : decode cL_law 395 = .ok (.istore 6, 2) := dk_54 6 (dk_at dksL_law_8 20 rfl rfl)
theorem dL_law_397 : decode cL_law 397 = .ok (.aload_n 2, 1) := dk_44 (dk_at dksL_law_8 22 rfl rfl)
theorem dL_law_398 : decode cL_law 398 = .ok (.invokevirtual 175, 3) := dk_182 0 175 (dk_at dksL_law_9 0 rfl rfl)
theorem dL_law_401 : decode cL_law 401 = .ok (.iload 5, 2) := dk_21 5 (dk_at dksL_law_9 3 rfl rfl)
theorem dL_law_403 : decode cL_law 403 = .ok (.if_icmp .eq 5, 3) := dk_159 0 5 (dk_at dksL_law_9 5 rfl rfl)
theorem dL_law_406 : decode cL_law 406 = .ok (.iconst 0, 1) := dk_3 (dk_at dksL_law_9 8 rfl rfl)
theorem dL_law_407 : decode cL_law 407 = .ok (.ireturn, 1) := dk_172 (dk_at dksL_law_9 9 rfl rfl)
theorem dL_law_408 : decode cL_law 408 = .ok (.iload 5, 2) := dk_21 5 (dk_at dksL_law_9 10 rfl rfl)
theorem dL_law_410 : decode cL_law 410 = .ok (.ifCond .ne 15, 3) := dk_154 0 15 (dk_at dksL_law_9 12 rfl rfl)
theorem dL_law_413 : decode cL_law 413 = .ok (.aload_n 3, 1) := dk_45 (dk_at dksL_law_9 15 rfl rfl)
theorem dL_law_414 : decode cL_law 414 = .ok (.iconst 0, 1) := dk_3 (dk_at dksL_law_9 16 rfl rfl)
theorem dL_law_415 : decode cL_law 415 = .ok (.laload, 1) := dk_47 (dk_at dksL_law_9 17 rfl rfl)
theorem dL_law_416 : decode cL_law 416 = .ok (.iload 6, 2) := dk_21 6 (dk_at dksL_law_9 18 rfl rfl)
theorem dL_law_418 : decode cL_law 418 = .ok (.i2l, 1) := dk_133 (dk_at dksL_law_9 20 rfl rfl)
theorem dL_law_419 : decode cL_law 419 = .ok (.lcmp, 1) := dk_148 (dk_at dksL_law_9 21 rfl rfl)
theorem dL_law_420 : decode cL_law 420 = .ok (.ifCond .eq 5, 3) := dk_153 0 5 (dk_at dksL_law_10 0 rfl rfl)
theorem dL_law_423 : decode cL_law 423 = .ok (.iconst 0, 1) := dk_3 (dk_at dksL_law_10 3 rfl rfl)
theorem dL_law_424 : decode cL_law 424 = .ok (.ireturn, 1) := dk_172 (dk_at dksL_law_10 4 rfl rfl)
theorem dL_law_425 : decode cL_law 425 = .ok (.goto 3315, 3) := dk_167 12 243 (dk_at dksL_law_10 5 rfl rfl)
theorem dL_law_428 : decode cL_law 428 = .ok (.aload_n 1, 1) := dk_43 (dk_at dksL_law_10 8 rfl rfl)
theorem dL_law_429 : decode cL_law 429 = .ok (.aload_n 0, 1) := dk_42 (dk_at dksL_law_10 9 rfl rfl)
theorem dL_law_430 : decode cL_law 430 = .ok (.iload 4, 2) := dk_21 4 (dk_at dksL_law_10 10 rfl rfl)
theorem dL_law_432 : decode cL_law 432 = .ok (.iconst 1, 1) := dk_4 (dk_at dksL_law_10 12 rfl rfl)
theorem dL_law_433 : decode cL_law 433 = .ok (.iadd, 1) := dk_96 (dk_at dksL_law_10 13 rfl rfl)
theorem dL_law_434 : decode cL_law 434 = .ok (.iaload, 1) := dk_46 (dk_at dksL_law_10 14 rfl rfl)
theorem dL_law_435 : decode cL_law 435 = .ok (.aload_n 3, 1) := dk_45 (dk_at dksL_law_10 15 rfl rfl)
theorem dL_law_436 : decode cL_law 436 = .ok (.invokestatic 183, 3) := dk_184 0 183 (dk_at dksL_law_10 16 rfl rfl)
theorem dL_law_439 : decode cL_law 439 = .ok (.istore 5, 2) := dk_54 5 (dk_at dksL_law_10 19 rfl rfl)
theorem dL_law_441 : decode cL_law 441 = .ok (.aload_n 2, 1) := dk_44 (dk_at dksL_law_10 21 rfl rfl)
theorem dL_law_442 : decode cL_law 442 = .ok (.aload_n 0, 1) := dk_42 (dk_at dksL_law_10 22 rfl rfl)
theorem dL_law_443 : decode cL_law 443 = .ok (.iload 4, 2) := dk_21 4 (dk_at dksL_law_11 0 rfl rfl)
theorem dL_law_445 : decode cL_law 445 = .ok (.iconst 1, 1) := dk_4 (dk_at dksL_law_11 2 rfl rfl)
theorem dL_law_446 : decode cL_law 446 = .ok (.iadd, 1) := dk_96 (dk_at dksL_law_11 3 rfl rfl)
theorem dL_law_447 : decode cL_law 447 = .ok (.iaload, 1) := dk_46 (dk_at dksL_law_11 4 rfl rfl)
theorem dL_law_448 : decode cL_law 448 = .ok (.invokevirtual 186, 3) := dk_182 0 186 (dk_at dksL_law_11 5 rfl rfl)
theorem dL_law_451 : decode cL_law 451 = .ok (.istore 6, 2) := dk_54 6 (dk_at dksL_law_11 8 rfl rfl)
theorem dL_law_453 : decode cL_law 453 = .ok (.aload_n 2, 1) := dk_44 (dk_at dksL_law_11 10 rfl rfl)
theorem dL_law_454 : decode cL_law 454 = .ok (.invokevirtual 175, 3) := dk_182 0 175 (dk_at dksL_law_11 11 rfl rfl)
theorem dL_law_457 : decode cL_law 457 = .ok (.iload 5, 2) := dk_21 5 (dk_at dksL_law_11 14 rfl rfl)
theorem dL_law_459 : decode cL_law 459 = .ok (.if_icmp .eq 5, 3) := dk_159 0 5 (dk_at dksL_law_11 16 rfl rfl)
theorem dL_law_462 : decode cL_law 462 = .ok (.iconst 0, 1) := dk_3 (dk_at dksL_law_11 19 rfl rfl)
theorem dL_law_463 : decode cL_law 463 = .ok (.ireturn, 1) := dk_172 (dk_at dksL_law_11 20 rfl rfl)
theorem dL_law_464 : decode cL_law 464 = .ok (.iload 5, 2) := dk_21 5 (dk_at dksL_law_11 21 rfl rfl)
theorem dL_law_466 : decode cL_law 466 = .ok (.ifCond .ne 15, 3) := dk_154 0 15 (dk_at dksL_law_12 0 rfl rfl)
theorem dL_law_469 : decode cL_law 469 = .ok (.aload_n 3, 1) := dk_45 (dk_at dksL_law_12 3 rfl rfl)
theorem dL_law_470 : decode cL_law 470 = .ok (.iconst 0, 1) := dk_3 (dk_at dksL_law_12 4 rfl rfl)
theorem dL_law_471 : decode cL_law 471 = .ok (.laload, 1) := dk_47 (dk_at dksL_law_12 5 rfl rfl)
theorem dL_law_472 : decode cL_law 472 = .ok (.iload 6, 2) := dk_21 6 (dk_at dksL_law_12 6 rfl rfl)
theorem dL_law_474 : decode cL_law 474 = .ok (.i2l, 1) := dk_133 (dk_at dksL_law_12 8 rfl rfl)
theorem dL_law_475 : decode cL_law 475 = .ok (.lcmp, 1) := dk_148 (dk_at dksL_law_12 9 rfl rfl)
theorem dL_law_476 : decode cL_law 476 = .ok (.ifCond .eq 5, 3) := dk_153 0 5 (dk_at dksL_law_12 10 rfl rfl)
theorem dL_law_479 : decode cL_law 479 = .ok (.iconst 0, 1) := dk_3 (dk_at dksL_law_12 13 rfl rfl)
theorem dL_law_480 : decode cL_law 480 = .ok (.ireturn, 1) := dk_172 (dk_at dksL_law_12 14 rfl rfl)
theorem dL_law_481 : decode cL_law 481 = .ok (.goto 3259, 3) := dk_167 12 187 (dk_at dksL_law_12 15 rfl rfl)
theorem dL_law_484 : decode cL_law 484 = .ok (.aload_n 1, 1) := dk_43 (dk_at dksL_law_12 18 rfl rfl)
theorem dL_law_485 : decode cL_law 485 = .ok (.aload_n 0, 1) := dk_42 (dk_at dksL_law_12 19 rfl rfl)
theorem dL_law_486 : decode cL_law 486 = .ok (.iload 4, 2) := dk_21 4 (dk_at dksL_law_12 20 rfl rfl)
theorem dL_law_488 : decode cL_law 488 = .ok (.iconst 1, 1) := dk_4 (dk_at dksL_law_12 22 rfl rfl)
theorem dL_law_489 : decode cL_law 489 = .ok (.iadd, 1) := dk_96 (dk_at dksL_law_12 23 rfl rfl)
theorem dL_law_490 : decode cL_law 490 = .ok (.iaload, 1) := dk_46 (dk_at dksL_law_13 0 rfl rfl)
theorem dL_law_491 : decode cL_law 491 = .ok (.aload_n 0, 1) := dk_42 (dk_at dksL_law_13 1 rfl rfl)
theorem dL_law_492 : decode cL_law 492 = .ok (.iload 4, 2) := dk_21 4 (dk_at dksL_law_13 2 rfl rfl)
theorem dL_law_494 : decode cL_law 494 = .ok (.iconst 2, 1) := dk_5 (dk_at dksL_law_13 4 rfl rfl)
theorem dL_law_495 : decode cL_law 495 = .ok (.iadd, 1) := dk_96 (dk_at dksL_law_13 5 rfl rfl)
theorem dL_law_496 : decode cL_law 496 = .ok (.iaload, 1) := dk_46 (dk_at dksL_law_13 6 rfl rfl)
theorem dL_law_497 : decode cL_law 497 = .ok (.aload_n 0, 1) := dk_42 (dk_at dksL_law_13 7 rfl rfl)
theorem dL_law_498 : decode cL_law 498 = .ok (.iload 4, 2) := dk_21 4 (dk_at dksL_law_13 8 rfl rfl)
theorem dL_law_500 : decode cL_law 500 = .ok (.iconst 3, 1) := dk_6 (dk_at dksL_law_13 10 rfl rfl)
theorem dL_law_501 : decode cL_law 501 = .ok (.iadd, 1) := dk_96 (dk_at dksL_law_13 11 rfl rfl)
theorem dL_law_502 : decode cL_law 502 = .ok (.iaload, 1) := dk_46 (dk_at dksL_law_13 12 rfl rfl)
theorem dL_law_503 : decode cL_law 503 = .ok (.aload_n 3, 1) := dk_45 (dk_at dksL_law_13 13 rfl rfl)
theorem dL_law_504 : decode cL_law 504 = .ok (.invokestatic 187, 3) := dk_184 0 187 (dk_at dksL_law_13 14 rfl rfl)
theorem dL_law_507 : decode cL_law 507 = .ok (.istore 5, 2) := dk_54 5 (dk_at dksL_law_13 17 rfl rfl)
theorem dL_law_509 : decode cL_law 509 = .ok (.aload_n 2, 1) := dk_44 (dk_at dksL_law_13 19 rfl rfl)
theorem dL_law_510 : decode cL_law 510 = .ok (.aload_n 0, 1) := dk_42 (dk_at dksL_law_13 20 rfl rfl)
theorem dL_law_511 : decode cL_law 511 = .ok (.iload 4, 2) := dk_21 4 (dk_at dksL_law_13 21 rfl rfl)
theorem dL_law_513 : decode cL_law 513 = .ok (.iconst 1, 1) := dk_4 (dk_at dksL_law_13 23 rfl rfl)
theorem dL_law_514 : decode cL_law 514 = .ok (.iadd, 1) := dk_96 (dk_at dksL_law_14 0 rfl rfl)
theorem dL_law_515 : decode cL_law 515 = .ok (.iaload, 1) := dk_46 (dk_at dksL_law_14 1 rfl rfl)
theorem dL_law_516 : decode cL_law 516 = .ok (.aload_n 0, 1) := dk_42 (dk_at dksL_law_14 2 rfl rfl)
theorem dL_law_517 : decode cL_law 517 = .ok (.iload 4, 2) := dk_21 4 (dk_at dksL_law_14 3 rfl rfl)
theorem dL_law_519 : decode cL_law 519 = .ok (.iconst 2, 1) := dk_5 (dk_at dksL_law_14 5 rfl rfl)
theorem dL_law_520 : decode cL_law 520 = .ok (.iadd, 1) := dk_96 (dk_at dksL_law_14 6 rfl rfl)
theorem dL_law_521 : decode cL_law 521 = .ok (.iaload, 1) := dk_46 (dk_at dksL_law_14 7 rfl rfl)
theorem dL_law_522 : decode cL_law 522 = .ok (.aload_n 0, 1) := dk_42 (dk_at dksL_law_14 8 rfl rfl)
theorem dL_law_523 : decode cL_law 523 = .ok (.iload 4, 2) := dk_21 4 (dk_at dksL_law_14 9 rfl rfl)
theorem dL_law_525 : decode cL_law 525 = .ok (.iconst 3, 1) := dk_6 (dk_at dksL_law_14 11 rfl rfl)
theorem dL_law_526 : decode cL_law 526 = .ok (.iadd, 1) := dk_96 (dk_at dksL_law_14 12 rfl rfl)
theorem dL_law_527 : decode cL_law 527 = .ok (.iaload, 1) := dk_46 (dk_at dksL_law_14 13 rfl rfl)
theorem dL_law_528 : decode cL_law 528 = .ok (.invokevirtual 189, 3) := dk_182 0 189 (dk_at dksL_law_14 14 rfl rfl)
theorem dL_law_531 : decode cL_law 531 = .ok (.istore 6, 2) := dk_54 6 (dk_at dksL_law_14 17 rfl rfl)
theorem dL_law_533 : decode cL_law 533 = .ok (.aload_n 2, 1) := dk_44 (dk_at dksL_law_14 19 rfl rfl)
theorem dL_law_534 : decode cL_law 534 = .ok (.invokevirtual 175, 3) := dk_182 0 175 (dk_at dksL_law_14 20 rfl rfl)
theorem dL_law_537 : decode cL_law 537 = .ok (.iload 5, 2) := dk_21 5 (dk_at dksL_law_15 0 rfl rfl)
theorem dL_law_539 : decode cL_law 539 = .ok (.if_icmp .eq 5, 3) := dk_159 0 5 (dk_at dksL_law_15 2 rfl rfl)
theorem dL_law_542 : decode cL_law 542 = .ok (.iconst 0, 1) := dk_3 (dk_at dksL_law_15 5 rfl rfl)
theorem dL_law_543 : decode cL_law 543 = .ok (.ireturn, 1) := dk_172 (dk_at dksL_law_15 6 rfl rfl)
theorem dL_law_544 : decode cL_law 544 = .ok (.iload 5, 2) := dk_21 5 (dk_at dksL_law_15 7 rfl rfl)
theorem dL_law_546 : decode cL_law 546 = .ok (.ifCond .ne 15, 3) := dk_154 0 15 (dk_at dksL_law_15 9 rfl rfl)
theorem dL_law_549 : decode cL_law 549 = .ok (.aload_n 3, 1) := dk_45 (dk_at dksL_law_15 12 rfl rfl)
theorem dL_law_550 : decode cL_law 550 = .ok (.iconst 0, 1) := dk_3 (dk_at dksL_law_15 13 rfl rfl)
theorem dL_law_551 : decode cL_law 551 = .ok (.laload, 1) := dk_47 (dk_at dksL_law_15 14 rfl rfl)
theorem dL_law_552 : decode cL_law 552 = .ok (.iload 6, 2) := dk_21 6 (dk_at dksL_law_15 15 rfl rfl)
theorem dL_law_554 : decode cL_law 554 = .ok (.i2l, 1) := dk_133 (dk_at dksL_law_15 17 rfl rfl)
theorem dL_law_555 : decode cL_law 555 = .ok (.lcmp, 1) := dk_148 (dk_at dksL_law_15 18 rfl rfl)
theorem dL_law_556 : decode cL_law 556 = .ok (.ifCond .eq 5, 3) := dk_153 0 5 (dk_at dksL_law_15 19 rfl rfl)
theorem dL_law_559 : decode cL_law 559 = .ok (.iconst 0, 1) := dk_3 (dk_at dksL_law_15 22 rfl rfl)
theorem dL_law_560 : decode cL_law 560 = .ok (.ireturn, 1) := dk_172 (dk_at dksL_law_15 23 rfl rfl)
theorem dL_law_561 : decode cL_law 561 = .ok (.goto 3179, 3) := dk_167 12 107 (dk_at dksL_law_16 0 rfl rfl)
theorem dL_law_564 : decode cL_law 564 = .ok (.aload_n 1, 1) := dk_43 (dk_at dksL_law_16 3 rfl rfl)
theorem dL_law_565 : decode cL_law 565 = .ok (.aload_n 0, 1) := dk_42 (dk_at dksL_law_16 4 rfl rfl)
theorem dL_law_566 : decode cL_law 566 = .ok (.iload 4, 2) := dk_21 4 (dk_at dksL_law_16 5 rfl rfl)
theorem dL_law_568 : decode cL_law 568 = .ok (.iconst 1, 1) := dk_4 (dk_at dksL_law_16 7 rfl rfl)
theorem dL_law_569 : decode cL_law 569 = .ok (.iadd, 1) := dk_96 (dk_at dksL_law_16 8 rfl rfl)
theorem dL_law_570 : decode cL_law 570 = .ok (.iaload, 1) := dk_46 (dk_at dksL_law_16 9 rfl rfl)
theorem dL_law_571 : decode cL_law 571 = .ok (.aload_n 0, 1) := dk_42 (dk_at dksL_law_16 10 rfl rfl)
theorem dL_law_572 : decode cL_law 572 = .ok (.iload 4, 2) := dk_21 4 (dk_at dksL_law_16 11 rfl rfl)
theorem dL_law_574 : decode cL_law 574 = .ok (.iconst 2, 1) := dk_5 (dk_at dksL_law_16 13 rfl rfl)
theorem dL_law_575 : decode cL_law 575 = .ok (.iadd, 1) := dk_96 (dk_at dksL_law_16 14 rfl rfl)
theorem dL_law_576 : decode cL_law 576 = .ok (.iaload, 1) := dk_46 (dk_at dksL_law_16 15 rfl rfl)
theorem dL_law_577 : decode cL_law 577 = .ok (.aload_n 0, 1) := dk_42 (dk_at dksL_law_16 16 rfl rfl)
theorem dL_law_578 : decode cL_law 578 = .ok (.iload 4, 2) := dk_21 4 (dk_at dksL_law_16 17 rfl rfl)
theorem dL_law_580 : decode cL_law 580 = .ok (.iconst 3, 1) := dk_6 (dk_at dksL_law_16 19 rfl rfl)
theorem dL_law_581 : decode cL_law 581 = .ok (.iadd, 1) := dk_96 (dk_at dksL_law_16 20 rfl rfl)
theorem dL_law_582 : decode cL_law 582 = .ok (.iaload, 1) := dk_46 (dk_at dksL_law_16 21 rfl rfl)
theorem dL_law_583 : decode cL_law 583 = .ok (.aload_n 0, 1) := dk_42 (dk_at dksL_law_16 22 rfl rfl)
theorem dL_law_584 : decode cL_law 584 = .ok (.iload 4, 2) := dk_21 4 (dk_at dksL_law_17 0 rfl rfl)
theorem dL_law_586 : decode cL_law 586 = .ok (.iconst 4, 1) := dk_7 (dk_at dksL_law_17 2 rfl rfl)
theorem dL_law_587 : decode cL_law 587 = .ok (.iadd, 1) := dk_96 (dk_at dksL_law_17 3 rfl rfl)
theorem dL_law_588 : decode cL_law 588 = .ok (.iaload, 1) := dk_46 (dk_at dksL_law_17 4 rfl rfl)
theorem dL_law_589 : decode cL_law 589 = .ok (.aload_n 3, 1) := dk_45 (dk_at dksL_law_17 5 rfl rfl)
theorem dL_law_590 : decode cL_law 590 = .ok (.invokestatic 190, 3) := dk_184 0 190 (dk_at dksL_law_17 6 rfl rfl)
theorem dL_law_593 : decode cL_law 593 = .ok (.istore 5, 2) := dk_54 5 (dk_at dksL_law_17 9 rfl rfl)
theorem dL_law_595 : decode cL_law 595 = .ok (.aload_n 2, 1) := dk_44 (dk_at dksL_law_17 11 rfl rfl)
theorem dL_law_596 : decode cL_law 596 = .ok (.aload_n 0, 1) := dk_42 (dk_at dksL_law_17 12 rfl rfl)
theorem dL_law_597 : decode cL_law 597 = .ok (.iload 4, 2) := dk_21 4 (dk_at dksL_law_17 13 rfl rfl)
theorem dL_law_599 : decode cL_law 599 = .ok (.iconst 1, 1) := dk_4 (dk_at dksL_law_17 15 rfl rfl)
theorem dL_law_600 : decode cL_law 600 = .ok (.iadd, 1) := dk_96 (dk_at dksL_law_17 16 rfl rfl)
theorem dL_law_601 : decode cL_law 601 = .ok (.iaload, 1) := dk_46 (dk_at dksL_law_17 17 rfl rfl)
theorem dL_law_602 : decode cL_law 602 = .ok (.aload_n 0, 1) := dk_42 (dk_at dksL_law_17 18 rfl rfl)
theorem dL_law_603 : decode cL_law 603 = .ok (.iload 4, 2) := dk_21 4 (dk_at dksL_law_17 19 rfl rfl)
theorem dL_law_605 : decode cL_law 605 = .ok (.iconst 2, 1) := dk_5 (dk_at dksL_law_17 21 rfl rfl)
theorem dL_law_606 : decode cL_law 606 = .ok (.iadd, 1) := dk_96 (dk_at dksL_law_17 22 rfl rfl)
theorem dL_law_607 : decode cL_law 607 = .ok (.iaload, 1) := dk_46 (dk_at dksL_law_17 23 rfl rfl)
theorem dL_law_608 : decode cL_law 608 = .ok (.aload_n 0, 1) := dk_42 (dk_at dksL_law_18 0 rfl rfl)
theorem dL_law_609 : decode cL_law 609 = .ok (.iload 4, 2) := dk_21 4 (dk_at dksL_law_18 1 rfl rfl)
theorem dL_law_611 : decode cL_law 611 = .ok (.iconst 3, 1) := dk_6 (dk_at dksL_law_18 3 rfl rfl)
theorem dL_law_612 : decode cL_law 612 = .ok (.iadd, 1) := dk_96 (dk_at dksL_law_18 4 rfl rfl)
theorem dL_law_613 : decode cL_law 613 = .ok (.iaload, 1) := dk_46 (dk_at dksL_law_18 5 rfl rfl)
theorem dL_law_614 : decode cL_law 614 = .ok (.aload_n 0, 1) := dk_42 (dk_at dksL_law_18 6 rfl rfl)
theorem dL_law_615 : decode cL_law 615 = .ok (.iload 4, 2) := dk_21 4 (dk_at dksL_law_18 7 rfl rfl)
theorem dL_law_617 : decode cL_law 617 = .ok (.iconst 4, 1) := dk_7 (dk_at dksL_law_18 9 rfl rfl)
theorem dL_law_618 : decode cL_law 618 = .ok (.iadd, 1) := dk_96 (dk_at dksL_law_18 10 rfl rfl)
theorem dL_law_619 : decode cL_law 619 = .ok (.iaload, 1) := dk_46 (dk_at dksL_law_18 11 rfl rfl)
theorem dL_law_620 : decode cL_law 620 = .ok (.invokevirtual 192, 3) := dk_182 0 192 (dk_at dksL_law_18 12 rfl rfl)
theorem dL_law_623 : decode cL_law 623 = .ok (.istore 6, 2) := dk_54 6 (dk_at dksL_law_18 15 rfl rfl)
theorem dL_law_625 : decode cL_law 625 = .ok (.aload_n 2, 1) := dk_44 (dk_at dksL_law_18 17 rfl rfl)
theorem dL_law_626 : decode cL_law 626 = .ok (.invokevirtual 175, 3) := dk_182 0 175 (dk_at dksL_law_18 18 rfl rfl)
theorem dL_law_629 : decode cL_law 629 = .ok (.iload 5, 2) := dk_21 5 (dk_at dksL_law_18 21 rfl rfl)
theorem dL_law_631 : decode cL_law 631 = .ok (.if_icmp .eq 5, 3) := dk_159 0 5 (dk_at dksL_law_19 0 rfl rfl)
theorem dL_law_634 : decode cL_law 634 = .ok (.iconst 0, 1) := dk_3 (dk_at dksL_law_19 3 rfl rfl)
theorem dL_law_635 : decode cL_law 635 = .ok (.ireturn, 1) := dk_172 (dk_at dksL_law_19 4 rfl rfl)
theorem dL_law_636 : decode cL_law 636 = .ok (.iload 5, 2) := dk_21 5 (dk_at dksL_law_19 5 rfl rfl)
theorem dL_law_638 : decode cL_law 638 = .ok (.ifCond .ne 15, 3) := dk_154 0 15 (dk_at dksL_law_19 7 rfl rfl)
theorem dL_law_641 : decode cL_law 641 = .ok (.aload_n 3, 1) := dk_45 (dk_at dksL_law_19 10 rfl rfl)
theorem dL_law_642 : decode cL_law 642 = .ok (.iconst 0, 1) := dk_3 (dk_at dksL_law_19 11 rfl rfl)
theorem dL_law_643 : decode cL_law 643 = .ok (.laload, 1) := dk_47 (dk_at dksL_law_19 12 rfl rfl)
theorem dL_law_644 : decode cL_law 644 = .ok (.iload 6, 2) := dk_21 6 (dk_at dksL_law_19 13 rfl rfl)
theorem dL_law_646 : decode cL_law 646 = .ok (.i2l, 1) := dk_133 (dk_at dksL_law_19 15 rfl rfl)
theorem dL_law_647 : decode cL_law 647 = .ok (.lcmp, 1) := dk_148 (dk_at dksL_law_19 16 rfl rfl)
theorem dL_law_648 : decode cL_law 648 = .ok (.ifCond .eq 5, 3) := dk_153 0 5 (dk_at dksL_law_19 17 rfl rfl)
theorem dL_law_651 : decode cL_law 651 = .ok (.iconst 0, 1) := dk_3 (dk_at dksL_law_19 20 rfl rfl)
theorem dL_law_652 : decode cL_law 652 = .ok (.ireturn, 1) := dk_172 (dk_at dksL_law_19 21 rfl rfl)
theorem dL_law_653 : decode cL_law 653 = .ok (.goto 3087, 3) := dk_167 12 15 (dk_at dksL_law_20 0 rfl rfl)
theorem dL_law_656 : decode cL_law 656 = .ok (.aload_n 1, 1) := dk_43 (dk_at dksL_law_20 3 rfl rfl)
theorem dL_law_657 : decode cL_law 657 = .ok (.aload_n 0, 1) := dk_42 (dk_at dksL_law_20 4 rfl rfl)
theorem dL_law_658 : decode cL_law 658 = .ok (.iload 4, 2) := dk_21 4 (dk_at dksL_law_20 5 rfl rfl)
theorem dL_law_660 : decode cL_law 660 = .ok (.iconst 1, 1) := dk_4 (dk_at dksL_law_20 7 rfl rfl)
theorem dL_law_661 : decode cL_law 661 = .ok (.iadd, 1) := dk_96 (dk_at dksL_law_20 8 rfl rfl)
theorem dL_law_662 : decode cL_law 662 = .ok (.iaload, 1) := dk_46 (dk_at dksL_law_20 9 rfl rfl)
theorem dL_law_663 : decode cL_law 663 = .ok (.aload_n 0, 1) := dk_42 (dk_at dksL_law_20 10 rfl rfl)
theorem dL_law_664 : decode cL_law 664 = .ok (.iload 4, 2) := dk_21 4 (dk_at dksL_law_20 11 rfl rfl)
theorem dL_law_666 : decode cL_law 666 = .ok (.iconst 2, 1) := dk_5 (dk_at dksL_law_20 13 rfl rfl)
theorem dL_law_667 : decode cL_law 667 = .ok (.iadd, 1) := dk_96 (dk_at dksL_law_20 14 rfl rfl)
theorem dL_law_668 : decode cL_law 668 = .ok (.iaload, 1) := dk_46 (dk_at dksL_law_20 15 rfl rfl)
theorem dL_law_669 : decode cL_law 669 = .ok (.aload_n 3, 1) := dk_45 (dk_at dksL_law_20 16 rfl rfl)
theorem dL_law_670 : decode cL_law 670 = .ok (.invokestatic 193, 3) := dk_184 0 193 (dk_at dksL_law_20 17 rfl rfl)
theorem dL_law_673 : decode cL_law 673 = .ok (.istore 5, 2) := dk_54 5 (dk_at dksL_law_20 20 rfl rfl)
theorem dL_law_675 : decode cL_law 675 = .ok (.aload_n 2, 1) := dk_44 (dk_at dksL_law_20 22 rfl rfl)
theorem dL_law_676 : decode cL_law 676 = .ok (.aload_n 0, 1) := dk_42 (dk_at dksL_law_20 23 rfl rfl)
theorem dL_law_677 : decode cL_law 677 = .ok (.iload 4, 2) := dk_21 4 (dk_at dksL_law_21 0 rfl rfl)
theorem dL_law_679 : decode cL_law 679 = .ok (.iconst 1, 1) := dk_4 (dk_at dksL_law_21 2 rfl rfl)
theorem dL_law_680 : decode cL_law 680 = .ok (.iadd, 1) := dk_96 (dk_at dksL_law_21 3 rfl rfl)
theorem dL_law_681 : decode cL_law 681 = .ok (.iaload, 1) := dk_46 (dk_at dksL_law_21 4 rfl rfl)
theorem dL_law_682 : decode cL_law 682 = .ok (.aload_n 0, 1) := dk_42 (dk_at dksL_law_21 5 rfl rfl)
theorem dL_law_683 : decode cL_law 683 = .ok (.iload 4, 2) := dk_21 4 (dk_at dksL_law_21 6 rfl rfl)
theorem dL_law_685 : decode cL_law 685 = .ok (.iconst 2, 1) := dk_5 (dk_at dksL_law_21 8 rfl rfl)
theorem dL_law_686 : decode cL_law 686 = .ok (.iadd, 1) := dk_96 (dk_at dksL_law_21 9 rfl rfl)
theorem dL_law_687 : decode cL_law 687 = .ok (.iaload, 1) := dk_46 (dk_at dksL_law_21 10 rfl rfl)
theorem dL_law_688 : decode cL_law 688 = .ok (.invokevirtual 196, 3) := dk_182 0 196 (dk_at dksL_law_21 11 rfl rfl)
theorem dL_law_691 : decode cL_law 691 = .ok (.lstore 6, 2) := dk_55 6 (dk_at dksL_law_21 14 rfl rfl)
theorem dL_law_693 : decode cL_law 693 = .ok (.aload_n 2, 1) := dk_44 (dk_at dksL_law_21 16 rfl rfl)
theorem dL_law_694 : decode cL_law 694 = .ok (.invokevirtual 175, 3) := dk_182 0 175 (dk_at dksL_law_21 17 rfl rfl)
theorem dL_law_697 : decode cL_law 697 = .ok (.iload 5, 2) := dk_21 5 (dk_at dksL_law_21 20 rfl rfl)
theorem dL_law_699 : decode cL_law 699 = .ok (.if_icmp .eq 5, 3) := dk_159 0 5 (dk_at dksL_law_22 0 rfl rfl)
theorem dL_law_702 : decode cL_law 702 = .ok (.iconst 0, 1) := dk_3 (dk_at dksL_law_22 3 rfl rfl)
theorem dL_law_703 : decode cL_law 703 = .ok (.ireturn, 1) := dk_172 (dk_at dksL_law_22 4 rfl rfl)
theorem dL_law_704 : decode cL_law 704 = .ok (.iload 5, 2) := dk_21 5 (dk_at dksL_law_22 5 rfl rfl)
theorem dL_law_706 : decode cL_law 706 = .ok (.ifCond .ne 14, 3) := dk_154 0 14 (dk_at dksL_law_22 7 rfl rfl)
theorem dL_law_709 : decode cL_law 709 = .ok (.aload_n 3, 1) := dk_45 (dk_at dksL_law_22 10 rfl rfl)
theorem dL_law_710 : decode cL_law 710 = .ok (.iconst 0, 1) := dk_3 (dk_at dksL_law_22 11 rfl rfl)
theorem dL_law_711 : decode cL_law 711 = .ok (.laload, 1) := dk_47 (dk_at dksL_law_22 12 rfl rfl)
theorem dL_law_712 : decode cL_law 712 = .ok (.lload 6, 2) := dk_22 6 (dk_at dksL_law_22 13 rfl rfl)
theorem dL_law_714 : decode cL_law 714 = .ok (.lcmp, 1) := dk_148 (dk_at dksL_law_22 15 rfl rfl)
theorem dL_law_715 : decode cL_law 715 = .ok (.ifCond .eq 5, 3) := dk_153 0 5 (dk_at dksL_law_22 16 rfl rfl)
theorem dL_law_718 : decode cL_law 718 = .ok (.iconst 0, 1) := dk_3 (dk_at dksL_law_22 19 rfl rfl)
theorem dL_law_719 : decode cL_law 719 = .ok (.ireturn, 1) := dk_172 (dk_at dksL_law_22 20 rfl rfl)
theorem dL_law_720 : decode cL_law 720 = .ok (.goto 3020, 3) := dk_167 11 204 (dk_at dksL_law_22 21 rfl rfl)
theorem dL_law_723 : decode cL_law 723 = .ok (.aload_n 1, 1) := dk_43 (dk_at dksL_law_23 0 rfl rfl)
theorem dL_law_724 : decode cL_law 724 = .ok (.aload_n 0, 1) := dk_42 (dk_at dksL_law_23 1 rfl rfl)
theorem dL_law_725 : decode cL_law 725 = .ok (.iload 4, 2) := dk_21 4 (dk_at dksL_law_23 2 rfl rfl)
theorem dL_law_727 : decode cL_law 727 = .ok (.iconst 1, 1) := dk_4 (dk_at dksL_law_23 4 rfl rfl)
theorem dL_law_728 : decode cL_law 728 = .ok (.iadd, 1) := dk_96 (dk_at dksL_law_23 5 rfl rfl)
theorem dL_law_729 : decode cL_law 729 = .ok (.iaload, 1) := dk_46 (dk_at dksL_law_23 6 rfl rfl)
theorem dL_law_730 : decode cL_law 730 = .ok (.aload_n 0, 1) := dk_42 (dk_at dksL_law_23 7 rfl rfl)
theorem dL_law_731 : decode cL_law 731 = .ok (.iload 4, 2) := dk_21 4 (dk_at dksL_law_23 8 rfl rfl)
theorem dL_law_733 : decode cL_law 733 = .ok (.iconst 2, 1) := dk_5 (dk_at dksL_law_23 10 rfl rfl)
theorem dL_law_734 : decode cL_law 734 = .ok (.iadd, 1) := dk_96 (dk_at dksL_law_23 11 rfl rfl)
theorem dL_law_735 : decode cL_law 735 = .ok (.iaload, 1) := dk_46 (dk_at dksL_law_23 12 rfl rfl)
theorem dL_law_736 : decode cL_law 736 = .ok (.aload_n 3, 1) := dk_45 (dk_at dksL_law_23 13 rfl rfl)
theorem dL_law_737 : decode cL_law 737 = .ok (.invokestatic 197, 3) := dk_184 0 197 (dk_at dksL_law_23 14 rfl rfl)
theorem dL_law_740 : decode cL_law 740 = .ok (.istore 5, 2) := dk_54 5 (dk_at dksL_law_23 17 rfl rfl)
theorem dL_law_742 : decode cL_law 742 = .ok (.aload_n 2, 1) := dk_44 (dk_at dksL_law_23 19 rfl rfl)
theorem dL_law_743 : decode cL_law 743 = .ok (.aload_n 0, 1) := dk_42 (dk_at dksL_law_23 20 rfl rfl)
theorem dL_law_744 : decode cL_law 744 = .ok (.iload 4, 2) := dk_21 4 (dk_at dksL_law_23 21 rfl rfl)
theorem dL_law_746 : decode cL_law 746 = .ok (.iconst 1, 1) := dk_4 (dk_at dksL_law_23 23 rfl rfl)
theorem dL_law_747 : decode cL_law 747 = .ok (.iadd, 1) := dk_96 (dk_at dksL_law_24 0 rfl rfl)
theorem dL_law_748 : decode cL_law 748 = .ok (.iaload, 1) := dk_46 (dk_at dksL_law_24 1 rfl rfl)
theorem dL_law_749 : decode cL_law 749 = .ok (.aload_n 0, 1) := dk_42 (dk_at dksL_law_24 2 rfl rfl)
theorem dL_law_750 : decode cL_law 750 = .ok (.iload 4, 2) := dk_21 4 (dk_at dksL_law_24 3 rfl rfl)
theorem dL_law_752 : decode cL_law 752 = .ok (.iconst 2, 1) := dk_5 (dk_at dksL_law_24 5 rfl rfl)
theorem dL_law_753 : decode cL_law 753 = .ok (.iadd, 1) := dk_96 (dk_at dksL_law_24 6 rfl rfl)
theorem dL_law_754 : decode cL_law 754 = .ok (.iaload, 1) := dk_46 (dk_at dksL_law_24 7 rfl rfl)
theorem dL_law_755 : decode cL_law 755 = .ok (.invokevirtual 199, 3) := dk_182 0 199 (dk_at dksL_law_24 8 rfl rfl)
theorem dL_law_758 : decode cL_law 758 = .ok (.istore 6, 2) := dk_54 6 (dk_at dksL_law_24 11 rfl rfl)
theorem dL_law_760 : decode cL_law 760 = .ok (.aload_n 2, 1) := dk_44 (dk_at dksL_law_24 13 rfl rfl)
theorem dL_law_761 : decode cL_law 761 = .ok (.invokevirtual 175, 3) := dk_182 0 175 (dk_at dksL_law_24 14 rfl rfl)
theorem dL_law_764 : decode cL_law 764 = .ok (.iload 5, 2) := dk_21 5 (dk_at dksL_law_24 17 rfl rfl)
theorem dL_law_766 : decode cL_law 766 = .ok (.if_icmp .eq 5, 3) := dk_159 0 5 (dk_at dksL_law_24 19 rfl rfl)
theorem dL_law_769 : decode cL_law 769 = .ok (.iconst 0, 1) := dk_3 (dk_at dksL_law_24 22 rfl rfl)
theorem dL_law_770 : decode cL_law 770 = .ok (.ireturn, 1) := dk_172 (dk_at dksL_law_24 23 rfl rfl)
theorem dL_law_771 : decode cL_law 771 = .ok (.iload 5, 2) := dk_21 5 (dk_at dksL_law_25 0 rfl rfl)
theorem dL_law_773 : decode cL_law 773 = .ok (.ifCond .ne 15, 3) := dk_154 0 15 (dk_at dksL_law_25 2 rfl rfl)
theorem dL_law_776 : decode cL_law 776 = .ok (.aload_n 3, 1) := dk_45 (dk_at dksL_law_25 5 rfl rfl)
theorem dL_law_777 : decode cL_law 777 = .ok (.iconst 0, 1) := dk_3 (dk_at dksL_law_25 6 rfl rfl)
theorem dL_law_778 : decode cL_law 778 = .ok (.laload, 1) := dk_47 (dk_at dksL_law_25 7 rfl rfl)
theorem dL_law_779 : decode cL_law 779 = .ok (.iload 6, 2) := dk_21 6 (dk_at dksL_law_25 8 rfl rfl)
theorem dL_law_781 : decode cL_law 781 = .ok (.i2l, 1) := dk_133 (dk_at dksL_law_25 10 rfl rfl)
theorem dL_law_782 : decode cL_law 782 = .ok (.lcmp, 1) := dk_148 (dk_at dksL_law_25 11 rfl rfl)
theorem dL_law_783 : decode cL_law 783 = .ok (.ifCond .eq 5, 3) := dk_153 0 5 (dk_at dksL_law_25 12 rfl rfl)
theorem dL_law_786 : decode cL_law 786 = .ok (.iconst 0, 1) := dk_3 (dk_at dksL_law_25 15 rfl rfl)
theorem dL_law_787 : decode cL_law 787 = .ok (.ireturn, 1) := dk_172 (dk_at dksL_law_25 16 rfl rfl)
theorem dL_law_788 : decode cL_law 788 = .ok (.goto 2952, 3) := dk_167 11 136 (dk_at dksL_law_25 17 rfl rfl)
theorem dL_law_791 : decode cL_law 791 = .ok (.aload_n 1, 1) := dk_43 (dk_at dksL_law_25 20 rfl rfl)
theorem dL_law_792 : decode cL_law 792 = .ok (.aload_n 0, 1) := dk_42 (dk_at dksL_law_25 21 rfl rfl)
theorem dL_law_793 : decode cL_law 793 = .ok (.iload 4, 2) := dk_21 4 (dk_at dksL_law_25 22 rfl rfl)
theorem dL_law_795 : decode cL_law 795 = .ok (.iconst 1, 1) := dk_4 (dk_at dksL_law_26 0 rfl rfl)
theorem dL_law_796 : decode cL_law 796 = .ok (.iadd, 1) := dk_96 (dk_at dksL_law_26 1 rfl rfl)
theorem dL_law_797 : decode cL_law 797 = .ok (.iaload, 1) := dk_46 (dk_at dksL_law_26 2 rfl rfl)
theorem dL_law_798 : decode cL_law 798 = .ok (.aload_n 3, 1) := dk_45 (dk_at dksL_law_26 3 rfl rfl)
theorem dL_law_799 : decode cL_law 799 = .ok (.invokestatic 200, 3) := dk_184 0 200 (dk_at dksL_law_26 4 rfl rfl)
theorem dL_law_802 : decode cL_law 802 = .ok (.istore 5, 2) := dk_54 5 (dk_at dksL_law_26 7 rfl rfl)
theorem dL_law_804 : decode cL_law 804 = .ok (.aload_n 2, 1) := dk_44 (dk_at dksL_law_26 9 rfl rfl)
theorem dL_law_805 : decode cL_law 805 = .ok (.aload_n 0, 1) := dk_42 (dk_at dksL_law_26 10 rfl rfl)
theorem dL_law_806 : decode cL_law 806 = .ok (.iload 4, 2) := dk_21 4 (dk_at dksL_law_26 11 rfl rfl)
theorem dL_law_808 : decode cL_law 808 = .ok (.iconst 1, 1) := dk_4 (dk_at dksL_law_26 13 rfl rfl)
theorem dL_law_809 : decode cL_law 809 = .ok (.iadd, 1) := dk_96 (dk_at dksL_law_26 14 rfl rfl)
theorem dL_law_810 : decode cL_law 810 = .ok (.iaload, 1) := dk_46 (dk_at dksL_law_26 15 rfl rfl)
theorem dL_law_811 : decode cL_law 811 = .ok (.invokevirtual 202, 3) := dk_182 0 202 (dk_at dksL_law_26 16 rfl rfl)
theorem dL_law_814 : decode cL_law 814 = .ok (.istore 6, 2) := dk_54 6 (dk_at dksL_law_26 19 rfl rfl)
theorem dL_law_816 : decode cL_law 816 = .ok (.aload_n 2, 1) := dk_44 (dk_at dksL_law_26 21 rfl rfl)
theorem dL_law_817 : decode cL_law 817 = .ok (.invokevirtual 175, 3) := dk_182 0 175 (dk_at dksL_law_27 0 rfl rfl)
theorem dL_law_820 : decode cL_law 820 = .ok (.iload 5, 2) := dk_21 5 (dk_at dksL_law_27 3 rfl rfl)
theorem dL_law_822 : decode cL_law 822 = .ok (.if_icmp .eq 5, 3) := dk_159 0 5 (dk_at dksL_law_27 5 rfl rfl)
theorem dL_law_825 : decode cL_law 825 = .ok (.iconst 0, 1) := dk_3 (dk_at dksL_law_27 8 rfl rfl)
theorem dL_law_826 : decode cL_law 826 = .ok (.ireturn, 1) := dk_172 (dk_at dksL_law_27 9 rfl rfl)
theorem dL_law_827 : decode cL_law 827 = .ok (.iload 5, 2) := dk_21 5 (dk_at dksL_law_27 10 rfl rfl)
theorem dL_law_829 : decode cL_law 829 = .ok (.ifCond .ne 15, 3) := dk_154 0 15 (dk_at dksL_law_27 12 rfl rfl)
theorem dL_law_832 : decode cL_law 832 = .ok (.aload_n 3, 1) := dk_45 (dk_at dksL_law_27 15 rfl rfl)
theorem dL_law_833 : decode cL_law 833 = .ok (.iconst 0, 1) := dk_3 (dk_at dksL_law_27 16 rfl rfl)
theorem dL_law_834 : decode cL_law 834 = .ok (.laload, 1) := dk_47 (dk_at dksL_law_27 17 rfl rfl)
theorem dL_law_835 : decode cL_law 835 = .ok (.iload 6, 2) := dk_21 6 (dk_at dksL_law_27 18 rfl rfl)
theorem dL_law_837 : decode cL_law 837 = .ok (.i2l, 1) := dk_133 (dk_at dksL_law_27 20 rfl rfl)
theorem dL_law_838 : decode cL_law 838 = .ok (.lcmp, 1) := dk_148 (dk_at dksL_law_27 21 rfl rfl)
theorem dL_law_839 : decode cL_law 839 = .ok (.ifCond .eq 5, 3) := dk_153 0 5 (dk_at dksL_law_28 0 rfl rfl)
theorem dL_law_842 : decode cL_law 842 = .ok (.iconst 0, 1) := dk_3 (dk_at dksL_law_28 3 rfl rfl)
theorem dL_law_843 : decode cL_law 843 = .ok (.ireturn, 1) := dk_172 (dk_at dksL_law_28 4 rfl rfl)
theorem dL_law_844 : decode cL_law 844 = .ok (.goto 2896, 3) := dk_167 11 80 (dk_at dksL_law_28 5 rfl rfl)
theorem dL_law_847 : decode cL_law 847 = .ok (.aload_n 1, 1) := dk_43 (dk_at dksL_law_28 8 rfl rfl)
theorem dL_law_848 : decode cL_law 848 = .ok (.aload_n 0, 1) := dk_42 (dk_at dksL_law_28 9 rfl rfl)
theorem dL_law_849 : decode cL_law 849 = .ok (.iload 4, 2) := dk_21 4 (dk_at dksL_law_28 10 rfl rfl)
theorem dL_law_851 : decode cL_law 851 = .ok (.iconst 1, 1) := dk_4 (dk_at dksL_law_28 12 rfl rfl)
theorem dL_law_852 : decode cL_law 852 = .ok (.iadd, 1) := dk_96 (dk_at dksL_law_28 13 rfl rfl)
theorem dL_law_853 : decode cL_law 853 = .ok (.iaload, 1) := dk_46 (dk_at dksL_law_28 14 rfl rfl)
theorem dL_law_854 : decode cL_law 854 = .ok (.aload_n 3, 1) := dk_45 (dk_at dksL_law_28 15 rfl rfl)
theorem dL_law_855 : decode cL_law 855 = .ok (.invokestatic 203, 3) := dk_184 0 203 (dk_at dksL_law_28 16 rfl rfl)
theorem dL_law_858 : decode cL_law 858 = .ok (.istore 5, 2) := dk_54 5 (dk_at dksL_law_28 19 rfl rfl)
theorem dL_law_860 : decode cL_law 860 = .ok (.aload_n 2, 1) := dk_44 (dk_at dksL_law_28 21 rfl rfl)
theorem dL_law_861 : decode cL_law 861 = .ok (.aload_n 0, 1) := dk_42 (dk_at dksL_law_28 22 rfl rfl)
theorem dL_law_862 : decode cL_law 862 = .ok (.iload 4, 2) := dk_21 4 (dk_at dksL_law_29 0 rfl rfl)
theorem dL_law_864 : decode cL_law 864 = .ok (.iconst 1, 1) := dk_4 (dk_at dksL_law_29 2 rfl rfl)
theorem dL_law_865 : decode cL_law 865 = .ok (.iadd, 1) := dk_96 (dk_at dksL_law_29 3 rfl rfl)
theorem dL_law_866 : decode cL_law 866 = .ok (.iaload, 1) := dk_46 (dk_at dksL_law_29 4 rfl rfl)
theorem dL_law_867 : decode cL_law 867 = .ok (.invokevirtual 205, 3) := dk_182 0 205 (dk_at dksL_law_29 5 rfl rfl)
theorem dL_law_870 : decode cL_law 870 = .ok (.lstore 6, 2) := dk_55 6 (dk_at dksL_law_29 8 rfl rfl)
theorem dL_law_872 : decode cL_law 872 = .ok (.aload_n 2, 1) := dk_44 (dk_at dksL_law_29 10 rfl rfl)
theorem dL_law_873 : decode cL_law 873 = .ok (.invokevirtual 175, 3) := dk_182 0 175 (dk_at dksL_law_29 11 rfl rfl)
theorem dL_law_876 : decode cL_law 876 = .ok (.iload 5, 2) := dk_21 5 (dk_at dksL_law_29 14 rfl rfl)
theorem dL_law_878 : decode cL_law 878 = .ok (.if_icmp .eq 5, 3) := dk_159 0 5 (dk_at dksL_law_29 16 rfl rfl)
theorem dL_law_881 : decode cL_law 881 = .ok (.iconst 0, 1) := dk_3 (dk_at dksL_law_29 19 rfl rfl)
theorem dL_law_882 : decode cL_law 882 = .ok (.ireturn, 1) := dk_172 (dk_at dksL_law_29 20 rfl rfl)
theorem dL_law_883 : decode cL_law 883 = .ok (.iload 5, 2) := dk_21 5 (dk_at dksL_law_29 21 rfl rfl)
theorem dL_law_885 : decode cL_law 885 = .ok (.ifCond .ne 14, 3) := dk_154 0 14 (dk_at dksL_law_30 0 rfl rfl)
theorem dL_law_888 : decode cL_law 888 = .ok (.aload_n 3, 1) := dk_45 (dk_at dksL_law_30 3 rfl rfl)
theorem dL_law_889 : decode cL_law 889 = .ok (.iconst 0, 1) := dk_3 (dk_at dksL_law_30 4 rfl rfl)
theorem dL_law_890 : decode cL_law 890 = .ok (.laload, 1) := dk_47 (dk_at dksL_law_30 5 rfl rfl)
theorem dL_law_891 : decode cL_law 891 = .ok (.lload 6, 2) := dk_22 6 (dk_at dksL_law_30 6 rfl rfl)
theorem dL_law_893 : decode cL_law 893 = .ok (.lcmp, 1) := dk_148 (dk_at dksL_law_30 8 rfl rfl)
theorem dL_law_894 : decode cL_law 894 = .ok (.ifCond .eq 5, 3) := dk_153 0 5 (dk_at dksL_law_30 9 rfl rfl)
theorem dL_law_897 : decode cL_law 897 = .ok (.iconst 0, 1) := dk_3 (dk_at dksL_law_30 12 rfl rfl)
theorem dL_law_898 : decode cL_law 898 = .ok (.ireturn, 1) := dk_172 (dk_at dksL_law_30 13 rfl rfl)
theorem dL_law_899 : decode cL_law 899 = .ok (.goto 2841, 3) := dk_167 11 25 (dk_at dksL_law_30 14 rfl rfl)
theorem dL_law_902 : decode cL_law 902 = .ok (.aload_n 1, 1) := dk_43 (dk_at dksL_law_30 17 rfl rfl)
theorem dL_law_903 : decode cL_law 903 = .ok (.invokevirtual 206, 3) := dk_182 0 206 (dk_at dksL_law_30 18 rfl rfl)
theorem dL_law_906 : decode cL_law 906 = .ok (.aload_n 2, 1) := dk_44 (dk_at dksL_law_30 21 rfl rfl)
theorem dL_law_907 : decode cL_law 907 = .ok (.invokevirtual 209, 3) := dk_182 0 209 (dk_at dksL_law_31 0 rfl rfl)
theorem dL_law_910 : decode cL_law 910 = .ok (.if_icmp .eq 2830, 3) := dk_159 11 14 (dk_at dksL_law_31 3 rfl rfl)
theorem dL_law_913 : decode cL_law 913 = .ok (.iconst 0, 1) := dk_3 (dk_at dksL_law_31 6 rfl rfl)
theorem dL_law_914 : decode cL_law 914 = .ok (.ireturn, 1) := dk_172 (dk_at dksL_law_31 7 rfl rfl)
theorem dL_law_915 : decode cL_law 915 = .ok (.aload_n 1, 1) := dk_43 (dk_at dksL_law_31 8 rfl rfl)
theorem dL_law_916 : decode cL_law 916 = .ok (.aload_n 0, 1) := dk_42 (dk_at dksL_law_31 9 rfl rfl)
theorem dL_law_917 : decode cL_law 917 = .ok (.iload 4, 2) := dk_21 4 (dk_at dksL_law_31 10 rfl rfl)
theorem dL_law_919 : decode cL_law 919 = .ok (.iconst 1, 1) := dk_4 (dk_at dksL_law_31 12 rfl rfl)
theorem dL_law_920 : decode cL_law 920 = .ok (.iadd, 1) := dk_96 (dk_at dksL_law_31 13 rfl rfl)
theorem dL_law_921 : decode cL_law 921 = .ok (.iaload, 1) := dk_46 (dk_at dksL_law_31 14 rfl rfl)
theorem dL_law_922 : decode cL_law 922 = .ok (.aload_n 3, 1) := dk_45 (dk_at dksL_law_31 15 rfl rfl)
theorem dL_law_923 : decode cL_law 923 = .ok (.invokestatic 210, 3) := dk_184 0 210 (dk_at dksL_law_31 16 rfl rfl)
theorem dL_law_926 : decode cL_law 926 = .ok (.istore 5, 2) := dk_54 5 (dk_at dksL_law_31 19 rfl rfl)
theorem dL_law_928 : decode cL_law 928 = .ok (.aload_n 2, 1) := dk_44 (dk_at dksL_law_31 21 rfl rfl)
theorem dL_law_929 : decode cL_law 929 = .ok (.aload_n 0, 1) := dk_42 (dk_at dksL_law_31 22 rfl rfl)
theorem dL_law_930 : decode cL_law 930 = .ok (.iload 4, 2) := dk_21 4 (dk_at dksL_law_32 0 rfl rfl)
theorem dL_law_932 : decode cL_law 932 = .ok (.iconst 1, 1) := dk_4 (dk_at dksL_law_32 2 rfl rfl)
theorem dL_law_933 : decode cL_law 933 = .ok (.iadd, 1) := dk_96 (dk_at dksL_law_32 3 rfl rfl)
theorem dL_law_934 : decode cL_law 934 = .ok (.iaload, 1) := dk_46 (dk_at dksL_law_32 4 rfl rfl)
theorem dL_law_935 : decode cL_law 935 = .ok (.invokevirtual 212, 3) := dk_182 0 212 (dk_at dksL_law_32 5 rfl rfl)
theorem dL_law_938 : decode cL_law 938 = .ok (.istore 6, 2) := dk_54 6 (dk_at dksL_law_32 8 rfl rfl)
theorem dL_law_940 : decode cL_law 940 = .ok (.aload_n 2, 1) := dk_44 (dk_at dksL_law_32 10 rfl rfl)
theorem dL_law_941 : decode cL_law 941 = .ok (.invokevirtual 175, 3) := dk_182 0 175 (dk_at dksL_law_32 11 rfl rfl)
theorem dL_law_944 : decode cL_law 944 = .ok (.iload 5, 2) := dk_21 5 (dk_at dksL_law_32 14 rfl rfl)
theorem dL_law_946 : decode cL_law 946 = .ok (.if_icmp .eq 5, 3) := dk_159 0 5 (dk_at dksL_law_32 16 rfl rfl)
theorem dL_law_949 : decode cL_law 949 = .ok (.iconst 0, 1) := dk_3 (dk_at dksL_law_32 19 rfl rfl)
theorem dL_law_950 : decode cL_law 950 = .ok (.ireturn, 1) := dk_172 (dk_at dksL_law_32 20 rfl rfl)
theorem dL_law_951 : decode cL_law 951 = .ok (.iload 5, 2) := dk_21 5 (dk_at dksL_law_32 21 rfl rfl)
theorem dL_law_953 : decode cL_law 953 = .ok (.ifCond .ne 15, 3) := dk_154 0 15 (dk_at dksL_law_33 0 rfl rfl)
theorem dL_law_956 : decode cL_law 956 = .ok (.aload_n 3, 1) := dk_45 (dk_at dksL_law_33 3 rfl rfl)
theorem dL_law_957 : decode cL_law 957 = .ok (.iconst 0, 1) := dk_3 (dk_at dksL_law_33 4 rfl rfl)
theorem dL_law_958 : decode cL_law 958 = .ok (.laload, 1) := dk_47 (dk_at dksL_law_33 5 rfl rfl)
theorem dL_law_959 : decode cL_law 959 = .ok (.iload 6, 2) := dk_21 6 (dk_at dksL_law_33 6 rfl rfl)
theorem dL_law_961 : decode cL_law 961 = .ok (.i2l, 1) := dk_133 (dk_at dksL_law_33 8 rfl rfl)
theorem dL_law_962 : decode cL_law 962 = .ok (.lcmp, 1) := dk_148 (dk_at dksL_law_33 9 rfl rfl)
theorem dL_law_963 : decode cL_law 963 = .ok (.ifCond .eq 5, 3) := dk_153 0 5 (dk_at dksL_law_33 10 rfl rfl)
theorem dL_law_966 : decode cL_law 966 = .ok (.iconst 0, 1) := dk_3 (dk_at dksL_law_33 13 rfl rfl)
theorem dL_law_967 : decode cL_law 967 = .ok (.ireturn, 1) := dk_172 (dk_at dksL_law_33 14 rfl rfl)
theorem dL_law_968 : decode cL_law 968 = .ok (.goto 2772, 3) := dk_167 10 212 (dk_at dksL_law_33 15 rfl rfl)
theorem dL_law_971 : decode cL_law 971 = .ok (.aload_n 1, 1) := dk_43 (dk_at dksL_law_33 18 rfl rfl)
theorem dL_law_972 : decode cL_law 972 = .ok (.aload_n 0, 1) := dk_42 (dk_at dksL_law_33 19 rfl rfl)
theorem dL_law_973 : decode cL_law 973 = .ok (.iload 4, 2) := dk_21 4 (dk_at dksL_law_33 20 rfl rfl)
theorem dL_law_975 : decode cL_law 975 = .ok (.iconst 1, 1) := dk_4 (dk_at dksL_law_33 22 rfl rfl)
theorem dL_law_976 : decode cL_law 976 = .ok (.iadd, 1) := dk_96 (dk_at dksL_law_33 23 rfl rfl)
theorem dL_law_977 : decode cL_law 977 = .ok (.iaload, 1) := dk_46 (dk_at dksL_law_34 0 rfl rfl)
theorem dL_law_978 : decode cL_law 978 = .ok (.aload_n 0, 1) := dk_42 (dk_at dksL_law_34 1 rfl rfl)
theorem dL_law_979 : decode cL_law 979 = .ok (.iload 4, 2) := dk_21 4 (dk_at dksL_law_34 2 rfl rfl)
theorem dL_law_981 : decode cL_law 981 = .ok (.iconst 2, 1) := dk_5 (dk_at dksL_law_34 4 rfl rfl)
theorem dL_law_982 : decode cL_law 982 = .ok (.iadd, 1) := dk_96 (dk_at dksL_law_34 5 rfl rfl)
theorem dL_law_983 : decode cL_law 983 = .ok (.iaload, 1) := dk_46 (dk_at dksL_law_34 6 rfl rfl)
theorem dL_law_984 : decode cL_law 984 = .ok (.aload_n 3, 1) := dk_45 (dk_at dksL_law_34 7 rfl rfl)
theorem dL_law_985 : decode cL_law 985 = .ok (.invokestatic 213, 3) := dk_184 0 213 (dk_at dksL_law_34 8 rfl rfl)
theorem dL_law_988 : decode cL_law 988 = .ok (.istore 5, 2) := dk_54 5 (dk_at dksL_law_34 11 rfl rfl)
theorem dL_law_990 : decode cL_law 990 = .ok (.aload_n 2, 1) := dk_44 (dk_at dksL_law_34 13 rfl rfl)
theorem dL_law_991 : decode cL_law 991 = .ok (.aload_n 0, 1) := dk_42 (dk_at dksL_law_34 14 rfl rfl)
theorem dL_law_992 : decode cL_law 992 = .ok (.iload 4, 2) := dk_21 4 (dk_at dksL_law_34 15 rfl rfl)
theorem dL_law_994 : decode cL_law 994 = .ok (.iconst 1, 1) := dk_4 (dk_at dksL_law_34 17 rfl rfl)
theorem dL_law_995 : decode cL_law 995 = .ok (.iadd, 1) := dk_96 (dk_at dksL_law_34 18 rfl rfl)
theorem dL_law_996 : decode cL_law 996 = .ok (.iaload, 1) := dk_46 (dk_at dksL_law_34 19 rfl rfl)
theorem dL_law_997 : decode cL_law 997 = .ok (.aload_n 0, 1) := dk_42 (dk_at dksL_law_34 20 rfl rfl)
theorem dL_law_998 : decode cL_law 998 = .ok (.iload 4, 2) := dk_21 4 (dk_at dksL_law_34 21 rfl rfl)
theorem dL_law_1000 : decode cL_law 1000 = .ok (.iconst 2, 1) := dk_5 (dk_at dksL_law_34 23 rfl rfl)
theorem dL_law_1001 : decode cL_law 1001 = .ok (.iadd, 1) := dk_96 (dk_at dksL_law_35 0 rfl rfl)
theorem dL_law_1002 : decode cL_law 1002 = .ok (.iaload, 1) := dk_46 (dk_at dksL_law_35 1 rfl rfl)
theorem dL_law_1003 : decode cL_law 1003 = .ok (.invokevirtual 215, 3) := dk_182 0 215 (dk_at dksL_law_35 2 rfl rfl)
theorem dL_law_1006 : decode cL_law 1006 = .ok (.istore 6, 2) := dk_54 6 (dk_at dksL_law_35 5 rfl rfl)
theorem dL_law_1008 : decode cL_law 1008 = .ok (.aload_n 2, 1) := dk_44 (dk_at dksL_law_35 7 rfl rfl)
theorem dL_law_1009 : decode cL_law 1009 = .ok (.invokevirtual 175, 3) := dk_182 0 175 (dk_at dksL_law_35 8 rfl rfl)
theorem dL_law_1012 : decode cL_law 1012 = .ok (.iload 5, 2) := dk_21 5 (dk_at dksL_law_35 11 rfl rfl)
theorem dL_law_1014 : decode cL_law 1014 = .ok (.if_icmp .eq 5, 3) := dk_159 0 5 (dk_at dksL_law_35 13 rfl rfl)
theorem dL_law_1017 : decode cL_law 1017 = .ok (.iconst 0, 1) := dk_3 (dk_at dksL_law_35 16 rfl rfl)
theorem dL_law_1018 : decode cL_law 1018 = .ok (.ireturn, 1) := dk_172 (dk_at dksL_law_35 17 rfl rfl)
theorem dL_law_1019 : decode cL_law 1019 = .ok (.iload 5, 2) := dk_21 5 (dk_at dksL_law_35 18 rfl rfl)
theorem dL_law_1021 : decode cL_law 1021 = .ok (.ifCond .ne 15, 3) := dk_154 0 15 (dk_at dksL_law_35 20 rfl rfl)
theorem dL_law_1024 : decode cL_law 1024 = .ok (.aload_n 3, 1) := dk_45 (dk_at dksL_law_35 23 rfl rfl)
theorem dL_law_1025 : decode cL_law 1025 = .ok (.iconst 0, 1) := dk_3 (dk_at dksL_law_36 0 rfl rfl)
theorem dL_law_1026 : decode cL_law 1026 = .ok (.laload, 1) := dk_47 (dk_at dksL_law_36 1 rfl rfl)
theorem dL_law_1027 : decode cL_law 1027 = .ok (.iload 6, 2) := dk_21 6 (dk_at dksL_law_36 2 rfl rfl)
theorem dL_law_1029 : decode cL_law 1029 = .ok (.i2l, 1) := dk_133 (dk_at dksL_law_36 4 rfl rfl)
theorem dL_law_1030 : decode cL_law 1030 = .ok (.lcmp, 1) := dk_148 (dk_at dksL_law_36 5 rfl rfl)
theorem dL_law_1031 : decode cL_law 1031 = .ok (.ifCond .eq 5, 3) := dk_153 0 5 (dk_at dksL_law_36 6 rfl rfl)
theorem dL_law_1034 : decode cL_law 1034 = .ok (.iconst 0, 1) := dk_3 (dk_at dksL_law_36 9 rfl rfl)
theorem dL_law_1035 : decode cL_law 1035 = .ok (.ireturn, 1) := dk_172 (dk_at dksL_law_36 10 rfl rfl)
theorem dL_law_1036 : decode cL_law 1036 = .ok (.goto 2704, 3) := dk_167 10 144 (dk_at dksL_law_36 11 rfl rfl)
theorem dL_law_1039 : decode cL_law 1039 = .ok (.aload_n 1, 1) := dk_43 (dk_at dksL_law_36 14 rfl rfl)
theorem dL_law_1040 : decode cL_law 1040 = .ok (.aload_n 0, 1) := dk_42 (dk_at dksL_law_36 15 rfl rfl)
theorem dL_law_1041 : decode cL_law 1041 = .ok (.iload 4, 2) := dk_21 4 (dk_at dksL_law_36 16 rfl rfl)
theorem dL_law_1043 : decode cL_law 1043 = .ok (.iconst 1, 1) := dk_4 (dk_at dksL_law_36 18 rfl rfl)
theorem dL_law_1044 : decode cL_law 1044 = .ok (.iadd, 1) := dk_96 (dk_at dksL_law_36 19 rfl rfl)
theorem dL_law_1045 : decode cL_law 1045 = .ok (.iaload, 1) := dk_46 (dk_at dksL_law_36 20 rfl rfl)
theorem dL_law_1046 : decode cL_law 1046 = .ok (.aload_n 0, 1) := dk_42 (dk_at dksL_law_36 21 rfl rfl)
theorem dL_law_1047 : decode cL_law 1047 = .ok (.iload 4, 2) := dk_21 4 (dk_at dksL_law_36 22 rfl rfl)
theorem dL_law_1049 : decode cL_law 1049 = .ok (.iconst 2, 1) := dk_5 (dk_at dksL_law_37 0 rfl rfl)
theorem dL_law_1050 : decode cL_law 1050 = .ok (.iadd, 1) := dk_96 (dk_at dksL_law_37 1 rfl rfl)
theorem dL_law_1051 : decode cL_law 1051 = .ok (.iaload, 1) := dk_46 (dk_at dksL_law_37 2 rfl rfl)
theorem dL_law_1052 : decode cL_law 1052 = .ok (.aload_n 3, 1) := dk_45 (dk_at dksL_law_37 3 rfl rfl)
theorem dL_law_1053 : decode cL_law 1053 = .ok (.invokestatic 216, 3) := dk_184 0 216 (dk_at dksL_law_37 4 rfl rfl)
theorem dL_law_1056 : decode cL_law 1056 = .ok (.istore 5, 2) := dk_54 5 (dk_at dksL_law_37 7 rfl rfl)
theorem dL_law_1058 : decode cL_law 1058 = .ok (.aload_n 2, 1) := dk_44 (dk_at dksL_law_37 9 rfl rfl)
theorem dL_law_1059 : decode cL_law 1059 = .ok (.aload_n 0, 1) := dk_42 (dk_at dksL_law_37 10 rfl rfl)
theorem dL_law_1060 : decode cL_law 1060 = .ok (.iload 4, 2) := dk_21 4 (dk_at dksL_law_37 11 rfl rfl)
theorem dL_law_1062 : decode cL_law 1062 = .ok (.iconst 1, 1) := dk_4 (dk_at dksL_law_37 13 rfl rfl)
theorem dL_law_1063 : decode cL_law 1063 = .ok (.iadd, 1) := dk_96 (dk_at dksL_law_37 14 rfl rfl)
theorem dL_law_1064 : decode cL_law 1064 = .ok (.iaload, 1) := dk_46 (dk_at dksL_law_37 15 rfl rfl)
theorem dL_law_1065 : decode cL_law 1065 = .ok (.aload_n 0, 1) := dk_42 (dk_at dksL_law_37 16 rfl rfl)
theorem dL_law_1066 : decode cL_law 1066 = .ok (.iload 4, 2) := dk_21 4 (dk_at dksL_law_37 17 rfl rfl)
theorem dL_law_1068 : decode cL_law 1068 = .ok (.iconst 2, 1) := dk_5 (dk_at dksL_law_37 19 rfl rfl)
theorem dL_law_1069 : decode cL_law 1069 = .ok (.iadd, 1) := dk_96 (dk_at dksL_law_37 20 rfl rfl)
theorem dL_law_1070 : decode cL_law 1070 = .ok (.iaload, 1) := dk_46 (dk_at dksL_law_37 21 rfl rfl)
theorem dL_law_1071 : decode cL_law 1071 = .ok (.invokevirtual 218, 3) := dk_182 0 218 (dk_at dksL_law_38 0 rfl rfl)
theorem dL_law_1074 : decode cL_law 1074 = .ok (.lstore 6, 2) := dk_55 6 (dk_at dksL_law_38 3 rfl rfl)
theorem dL_law_1076 : decode cL_law 1076 = .ok (.aload_n 2, 1) := dk_44 (dk_at dksL_law_38 5 rfl rfl)
theorem dL_law_1077 : decode cL_law 1077 = .ok (.invokevirtual 175, 3) := dk_182 0 175 (dk_at dksL_law_38 6 rfl rfl)
theorem dL_law_1080 : decode cL_law 1080 = .ok (.iload 5, 2) := dk_21 5 (dk_at dksL_law_38 9 rfl rfl)
theorem dL_law_1082 : decode cL_law 1082 = .ok (.if_icmp .eq 5, 3) := dk_159 0 5 (dk_at dksL_law_38 11 rfl rfl)
theorem dL_law_1085 : decode cL_law 1085 = .ok (.iconst 0, 1) := dk_3 (dk_at dksL_law_38 14 rfl rfl)
theorem dL_law_1086 : decode cL_law 1086 = .ok (.ireturn, 1) := dk_172 (dk_at dksL_law_38 15 rfl rfl)
theorem dL_law_1087 : decode cL_law 1087 = .ok (.iload 5, 2) := dk_21 5 (dk_at dksL_law_38 16 rfl rfl)
theorem dL_law_1089 : decode cL_law 1089 = .ok (.ifCond .ne 14, 3) := dk_154 0 14 (dk_at dksL_law_38 18 rfl rfl)
theorem dL_law_1092 : decode cL_law 1092 = .ok (.aload_n 3, 1) := dk_45 (dk_at dksL_law_38 21 rfl rfl)
theorem dL_law_1093 : decode cL_law 1093 = .ok (.iconst 0, 1) := dk_3 (dk_at dksL_law_38 22 rfl rfl)
theorem dL_law_1094 : decode cL_law 1094 = .ok (.laload, 1) := dk_47 (dk_at dksL_law_38 23 rfl rfl)
theorem dL_law_1095 : decode cL_law 1095 = .ok (.lload 6, 2) := dk_22 6 (dk_at dksL_law_39 0 rfl rfl)
theorem dL_law_1097 : decode cL_law 1097 = .ok (.lcmp, 1) := dk_148 (dk_at dksL_law_39 2 rfl rfl)
theorem dL_law_1098 : decode cL_law 1098 = .ok (.ifCond .eq 5, 3) := dk_153 0 5 (dk_at dksL_law_39 3 rfl rfl)
theorem dL_law_1101 : decode cL_law 1101 = .ok (.iconst 0, 1) := dk_3 (dk_at dksL_law_39 6 rfl rfl)
theorem dL_law_1102 : decode cL_law 1102 = .ok (.ireturn, 1) := dk_172 (dk_at dksL_law_39 7 rfl rfl)
theorem dL_law_1103 : decode cL_law 1103 = .ok (.goto 2637, 3) := dk_167 10 77 (dk_at dksL_law_39 8 rfl rfl)
theorem dL_law_1106 : decode cL_law 1106 = .ok (.aload_n 1, 1) := dk_43 (dk_at dksL_law_39 11 rfl rfl)
theorem dL_law_1107 : decode cL_law 1107 = .ok (.aload_n 0, 1) := dk_42 (dk_at dksL_law_39 12 rfl rfl)
theorem dL_law_1108 : decode cL_law 1108 = .ok (.iload 4, 2) := dk_21 4 (dk_at dksL_law_39 13 rfl rfl)
theorem dL_law_1110 : decode cL_law 1110 = .ok (.iconst 1, 1) := dk_4 (dk_at dksL_law_39 15 rfl rfl)
theorem dL_law_1111 : decode cL_law 1111 = .ok (.iadd, 1) := dk_96 (dk_at dksL_law_39 16 rfl rfl)
theorem dL_law_1112 : decode cL_law 1112 = .ok (.iaload, 1) := dk_46 (dk_at dksL_law_39 17 rfl rfl)
theorem dL_law_1113 : decode cL_law 1113 = .ok (.aload_n 0, 1) := dk_42 (dk_at dksL_law_39 18 rfl rfl)
theorem dL_law_1114 : decode cL_law 1114 = .ok (.iload 4, 2) := dk_21 4 (dk_at dksL_law_39 19 rfl rfl)
theorem dL_law_1116 : decode cL_law 1116 = .ok (.iconst 2, 1) := dk_5 (dk_at dksL_law_39 21 rfl rfl)
theorem dL_law_1117 : decode cL_law 1117 = .ok (.iadd, 1) := dk_96 (dk_at dksL_law_39 22 rfl rfl)
theorem dL_law_1118 : decode cL_law 1118 = .ok (.iaload, 1) := dk_46 (dk_at dksL_law_39 23 rfl rfl)
theorem dL_law_1119 : decode cL_law 1119 = .ok (.aload_n 0, 1) := dk_42 (dk_at dksL_law_40 0 rfl rfl)
theorem dL_law_1120 : decode cL_law 1120 = .ok (.iload 4, 2) := dk_21 4 (dk_at dksL_law_40 1 rfl rfl)
theorem dL_law_1122 : decode cL_law 1122 = .ok (.iconst 3, 1) := dk_6 (dk_at dksL_law_40 3 rfl rfl)
theorem dL_law_1123 : decode cL_law 1123 = .ok (.iadd, 1) := dk_96 (dk_at dksL_law_40 4 rfl rfl)
theorem dL_law_1124 : decode cL_law 1124 = .ok (.iaload, 1) := dk_46 (dk_at dksL_law_40 5 rfl rfl)
theorem dL_law_1125 : decode cL_law 1125 = .ok (.aload_n 3, 1) := dk_45 (dk_at dksL_law_40 6 rfl rfl)
theorem dL_law_1126 : decode cL_law 1126 = .ok (.invokestatic 219, 3) := dk_184 0 219 (dk_at dksL_law_40 7 rfl rfl)
theorem dL_law_1129 : decode cL_law 1129 = .ok (.istore 5, 2) := dk_54 5 (dk_at dksL_law_40 10 rfl rfl)
theorem dL_law_1131 : decode cL_law 1131 = .ok (.aload_n 2, 1) := dk_44 (dk_at dksL_law_40 12 rfl rfl)
theorem dL_law_1132 : decode cL_law 1132 = .ok (.aload_n 0, 1) := dk_42 (dk_at dksL_law_40 13 rfl rfl)
theorem dL_law_1133 : decode cL_law 1133 = .ok (.iload 4, 2) := dk_21 4 (dk_at dksL_law_40 14 rfl rfl)
theorem dL_law_1135 : decode cL_law 1135 = .ok (.iconst 1, 1) := dk_4 (dk_at dksL_law_40 16 rfl rfl)
theorem dL_law_1136 : decode cL_law 1136 = .ok (.iadd, 1) := dk_96 (dk_at dksL_law_40 17 rfl rfl)
theorem dL_law_1137 : decode cL_law 1137 = .ok (.iaload, 1) := dk_46 (dk_at dksL_law_40 18 rfl rfl)
theorem dL_law_1138 : decode cL_law 1138 = .ok (.aload_n 0, 1) := dk_42 (dk_at dksL_law_40 19 rfl rfl)
theorem dL_law_1139 : decode cL_law 1139 = .ok (.iload 4, 2) := dk_21 4 (dk_at dksL_law_40 20 rfl rfl)
theorem dL_law_1141 : decode cL_law 1141 = .ok (.iconst 2, 1) := dk_5 (dk_at dksL_law_40 22 rfl rfl)
theorem dL_law_1142 : decode cL_law 1142 = .ok (.iadd, 1) := dk_96 (dk_at dksL_law_40 23 rfl rfl)
theorem dL_law_1143 : decode cL_law 1143 = .ok (.iaload, 1) := dk_46 (dk_at dksL_law_41 0 rfl rfl)
theorem dL_law_1144 : decode cL_law 1144 = .ok (.aload_n 0, 1) := dk_42 (dk_at dksL_law_41 1 rfl rfl)
theorem dL_law_1145 : decode cL_law 1145 = .ok (.iload 4, 2) := dk_21 4 (dk_at dksL_law_41 2 rfl rfl)
theorem dL_law_1147 : decode cL_law 1147 = .ok (.iconst 3, 1) := dk_6 (dk_at dksL_law_41 4 rfl rfl)
theorem dL_law_1148 : decode cL_law 1148 = .ok (.iadd, 1) := dk_96 (dk_at dksL_law_41 5 rfl rfl)
theorem dL_law_1149 : decode cL_law 1149 = .ok (.iaload, 1) := dk_46 (dk_at dksL_law_41 6 rfl rfl)
theorem dL_law_1150 : decode cL_law 1150 = .ok (.invokevirtual 221, 3) := dk_182 0 221 (dk_at dksL_law_41 7 rfl rfl)
theorem dL_law_1153 : decode cL_law 1153 = .ok (.lstore 6, 2) := dk_55 6 (dk_at dksL_law_41 10 rfl rfl)
theorem dL_law_1155 : decode cL_law 1155 = .ok (.aload_n 2, 1) := dk_44 (dk_at dksL_law_41 12 rfl rfl)
theorem dL_law_1156 : decode cL_law 1156 = .ok (.invokevirtual 175, 3) := dk_182 0 175 (dk_at dksL_law_41 13 rfl rfl)
theorem dL_law_1159 : decode cL_law 1159 = .ok (.iload 5, 2) := dk_21 5 (dk_at dksL_law_41 16 rfl rfl)
theorem dL_law_1161 : decode cL_law 1161 = .ok (.if_icmp .eq 5, 3) := dk_159 0 5 (dk_at dksL_law_41 18 rfl rfl)
theorem dL_law_1164 : decode cL_law 1164 = .ok (.iconst 0, 1) := dk_3 (dk_at dksL_law_41 21 rfl rfl)
theorem dL_law_1165 : decode cL_law 1165 = .ok (.ireturn, 1) := dk_172 (dk_at dksL_law_41 22 rfl rfl)
theorem dL_law_1166 : decode cL_law 1166 = .ok (.iload 5, 2) := dk_21 5 (dk_at dksL_law_42 0 rfl rfl)
theorem dL_law_1168 : decode cL_law 1168 = .ok (.ifCond .ne 14, 3) := dk_154 0 14 (dk_at dksL_law_42 2 rfl rfl)
theorem dL_law_1171 : decode cL_law 1171 = .ok (.aload_n 3, 1) := dk_45 (dk_at dksL_law_42 5 rfl rfl)
theorem dL_law_1172 : decode cL_law 1172 = .ok (.iconst 0, 1) := dk_3 (dk_at dksL_law_42 6 rfl rfl)
theorem dL_law_1173 : decode cL_law 1173 = .ok (.laload, 1) := dk_47 (dk_at dksL_law_42 7 rfl rfl)
theorem dL_law_1174 : decode cL_law 1174 = .ok (.lload 6, 2) := dk_22 6 (dk_at dksL_law_42 8 rfl rfl)
theorem dL_law_1176 : decode cL_law 1176 = .ok (.lcmp, 1) := dk_148 (dk_at dksL_law_42 10 rfl rfl)
theorem dL_law_1177 : decode cL_law 1177 = .ok (.ifCond .eq 5, 3) := dk_153 0 5 (dk_at dksL_law_42 11 rfl rfl)
theorem dL_law_1180 : decode cL_law 1180 = .ok (.iconst 0, 1) := dk_3 (dk_at dksL_law_42 14 rfl rfl)
theorem dL_law_1181 : decode cL_law 1181 = .ok (.ireturn, 1) := dk_172 (dk_at dksL_law_42 15 rfl rfl)
theorem dL_law_1182 : decode cL_law 1182 = .ok (.goto 2558, 3) := dk_167 9 254 (dk_at dksL_law_42 16 rfl rfl)
theorem dL_law_1185 : decode cL_law 1185 = .ok (.aload_n 1, 1) := dk_43 (dk_at dksL_law_42 19 rfl rfl)
theorem dL_law_1186 : decode cL_law 1186 = .ok (.aload_n 0, 1) := dk_42 (dk_at dksL_law_42 20 rfl rfl)
theorem dL_law_1187 : decode cL_law 1187 = .ok (.iload 4, 2) := dk_21 4 (dk_at dksL_law_42 21 rfl rfl)
theorem dL_law_1189 : decode cL_law 1189 = .ok (.iconst 1, 1) := dk_4 (dk_at dksL_law_42 23 rfl rfl)
theorem dL_law_1190 : decode cL_law 1190 = .ok (.iadd, 1) := dk_96 (dk_at dksL_law_43 0 rfl rfl)
theorem dL_law_1191 : decode cL_law 1191 = .ok (.iaload, 1) := dk_46 (dk_at dksL_law_43 1 rfl rfl)
theorem dL_law_1192 : decode cL_law 1192 = .ok (.aload_n 0, 1) := dk_42 (dk_at dksL_law_43 2 rfl rfl)
theorem dL_law_1193 : decode cL_law 1193 = .ok (.iload 4, 2) := dk_21 4 (dk_at dksL_law_43 3 rfl rfl)
theorem dL_law_1195 : decode cL_law 1195 = .ok (.iconst 2, 1) := dk_5 (dk_at dksL_law_43 5 rfl rfl)
theorem dL_law_1196 : decode cL_law 1196 = .ok (.iadd, 1) := dk_96 (dk_at dksL_law_43 6 rfl rfl)
theorem dL_law_1197 : decode cL_law 1197 = .ok (.iaload, 1) := dk_46 (dk_at dksL_law_43 7 rfl rfl)
theorem dL_law_1198 : decode cL_law 1198 = .ok (.aload_n 3, 1) := dk_45 (dk_at dksL_law_43 8 rfl rfl)
theorem dL_law_1199 : decode cL_law 1199 = .ok (.invokestatic 222, 3) := dk_184 0 222 (dk_at dksL_law_43 9 rfl rfl)
theorem dL_law_1202 : decode cL_law 1202 = .ok (.istore 5, 2) := dk_54 5 (dk_at dksL_law_43 12 rfl rfl)
theorem dL_law_1204 : decode cL_law 1204 = .ok (.aload_n 2, 1) := dk_44 (dk_at dksL_law_43 14 rfl rfl)
theorem dL_law_1205 : decode cL_law 1205 = .ok (.aload_n 0, 1) := dk_42 (dk_at dksL_law_43 15 rfl rfl)
theorem dL_law_1206 : decode cL_law 1206 = .ok (.iload 4, 2) := dk_21 4 (dk_at dksL_law_43 16 rfl rfl)
theorem dL_law_1208 : decode cL_law 1208 = .ok (.iconst 1, 1) := dk_4 (dk_at dksL_law_43 18 rfl rfl)
theorem dL_law_1209 : decode cL_law 1209 = .ok (.iadd, 1) := dk_96 (dk_at dksL_law_43 19 rfl rfl)
theorem dL_law_1210 : decode cL_law 1210 = .ok (.iaload, 1) := dk_46 (dk_at dksL_law_43 20 rfl rfl)
theorem dL_law_1211 : decode cL_law 1211 = .ok (.aload_n 0, 1) := dk_42 (dk_at dksL_law_43 21 rfl rfl)
theorem dL_law_1212 : decode cL_law 1212 = .ok (.iload 4, 2) := dk_21 4 (dk_at dksL_law_43 22 rfl rfl)
theorem dL_law_1214 : decode cL_law 1214 = .ok (.iconst 2, 1) := dk_5 (dk_at dksL_law_44 0 rfl rfl)
theorem dL_law_1215 : decode cL_law 1215 = .ok (.iadd, 1) := dk_96 (dk_at dksL_law_44 1 rfl rfl)
theorem dL_law_1216 : decode cL_law 1216 = .ok (.iaload, 1) := dk_46 (dk_at dksL_law_44 2 rfl rfl)
theorem dL_law_1217 : decode cL_law 1217 = .ok (.invokevirtual 224, 3) := dk_182 0 224 (dk_at dksL_law_44 3 rfl rfl)
theorem dL_law_1220 : decode cL_law 1220 = .ok (.lstore 6, 2) := dk_55 6 (dk_at dksL_law_44 6 rfl rfl)
theorem dL_law_1222 : decode cL_law 1222 = .ok (.aload_n 2, 1) := dk_44 (dk_at dksL_law_44 8 rfl rfl)
theorem dL_law_1223 : decode cL_law 1223 = .ok (.invokevirtual 175, 3) := dk_182 0 175 (dk_at dksL_law_44 9 rfl rfl)
theorem dL_law_1226 : decode cL_law 1226 = .ok (.iload 5, 2) := dk_21 5 (dk_at dksL_law_44 12 rfl rfl)
theorem dL_law_1228 : decode cL_law 1228 = .ok (.if_icmp .eq 5, 3) := dk_159 0 5 (dk_at dksL_law_44 14 rfl rfl)
theorem dL_law_1231 : decode cL_law 1231 = .ok (.iconst 0, 1) := dk_3 (dk_at dksL_law_44 17 rfl rfl)
theorem dL_law_1232 : decode cL_law 1232 = .ok (.ireturn, 1) := dk_172 (dk_at dksL_law_44 18 rfl rfl)
theorem dL_law_1233 : decode cL_law 1233 = .ok (.iload 5, 2) := dk_21 5 (dk_at dksL_law_44 19 rfl rfl)
theorem dL_law_1235 : decode cL_law 1235 = .ok (.ifCond .ne 14, 3) := dk_154 0 14 (dk_at dksL_law_44 21 rfl rfl)
theorem dL_law_1238 : decode cL_law 1238 = .ok (.aload_n 3, 1) := dk_45 (dk_at dksL_law_45 0 rfl rfl)
theorem dL_law_1239 : decode cL_law 1239 = .ok (.iconst 0, 1) := dk_3 (dk_at dksL_law_45 1 rfl rfl)
theorem dL_law_1240 : decode cL_law 1240 = .ok (.laload, 1) := dk_47 (dk_at dksL_law_45 2 rfl rfl)
theorem dL_law_1241 : decode cL_law 1241 = .ok (.lload 6, 2) := dk_22 6 (dk_at dksL_law_45 3 rfl rfl)
theorem dL_law_1243 : decode cL_law 1243 = .ok (.lcmp, 1) := dk_148 (dk_at dksL_law_45 5 rfl rfl)
theorem dL_law_1244 : decode cL_law 1244 = .ok (.ifCond .eq 5, 3) := dk_153 0 5 (dk_at dksL_law_45 6 rfl rfl)
theorem dL_law_1247 : decode cL_law 1247 = .ok (.iconst 0, 1) := dk_3 (dk_at dksL_law_45 9 rfl rfl)
theorem dL_law_1248 : decode cL_law 1248 = .ok (.ireturn, 1) := dk_172 (dk_at dksL_law_45 10 rfl rfl)
theorem dL_law_1249 : decode cL_law 1249 = .ok (.goto 2491, 3) := dk_167 9 187 (dk_at dksL_law_45 11 rfl rfl)
theorem dL_law_1252 : decode cL_law 1252 = .ok (.aload_n 1, 1) := dk_43 (dk_at dksL_law_45 14 rfl rfl)
theorem dL_law_1253 : decode cL_law 1253 = .ok (.aload_n 0, 1) := dk_42 (dk_at dksL_law_45 15 rfl rfl)
theorem dL_law_1254 : decode cL_law 1254 = .ok (.iload 4, 2) := dk_21 4 (dk_at dksL_law_45 16 rfl rfl)
theorem dL_law_1256 : decode cL_law 1256 = .ok (.iconst 1, 1) := dk_4 (dk_at dksL_law_45 18 rfl rfl)
theorem dL_law_1257 : decode cL_law 1257 = .ok (.iadd, 1) := dk_96 (dk_at dksL_law_45 19 rfl rfl)
theorem dL_law_1258 : decode cL_law 1258 = .ok (.iaload, 1) := dk_46 (dk_at dksL_law_45 20 rfl rfl)
theorem dL_law_1259 : decode cL_law 1259 = .ok (.aload_n 0, 1) := dk_42 (dk_at dksL_law_45 21 rfl rfl)
theorem dL_law_1260 : decode cL_law 1260 = .ok (.iload 4, 2) := dk_21 4 (dk_at dksL_law_45 22 rfl rfl)
theorem dL_law_1262 : decode cL_law 1262 = .ok (.iconst 2, 1) := dk_5 (dk_at dksL_law_46 0 rfl rfl)
theorem dL_law_1263 : decode cL_law 1263 = .ok (.iadd, 1) := dk_96 (dk_at dksL_law_46 1 rfl rfl)
theorem dL_law_1264 : decode cL_law 1264 = .ok (.iaload, 1) := dk_46 (dk_at dksL_law_46 2 rfl rfl)
theorem dL_law_1265 : decode cL_law 1265 = .ok (.aload_n 3, 1) := dk_45 (dk_at dksL_law_46 3 rfl rfl)
theorem dL_law_1266 : decode cL_law 1266 = .ok (.invokestatic 225, 3) := dk_184 0 225 (dk_at dksL_law_46 4 rfl rfl)
theorem dL_law_1269 : decode cL_law 1269 = .ok (.istore 5, 2) := dk_54 5 (dk_at dksL_law_46 7 rfl rfl)
theorem dL_law_1271 : decode cL_law 1271 = .ok (.aload_n 2, 1) := dk_44 (dk_at dksL_law_46 9 rfl rfl)
theorem dL_law_1272 : decode cL_law 1272 = .ok (.aload_n 0, 1) := dk_42 (dk_at dksL_law_46 10 rfl rfl)
theorem dL_law_1273 : decode cL_law 1273 = .ok (.iload 4, 2) := dk_21 4 (dk_at dksL_law_46 11 rfl rfl)
theorem dL_law_1275 : decode cL_law 1275 = .ok (.iconst 1, 1) := dk_4 (dk_at dksL_law_46 13 rfl rfl)
theorem dL_law_1276 : decode cL_law 1276 = .ok (.iadd, 1) := dk_96 (dk_at dksL_law_46 14 rfl rfl)
theorem dL_law_1277 : decode cL_law 1277 = .ok (.iaload, 1) := dk_46 (dk_at dksL_law_46 15 rfl rfl)
theorem dL_law_1278 : decode cL_law 1278 = .ok (.aload_n 0, 1) := dk_42 (dk_at dksL_law_46 16 rfl rfl)
theorem dL_law_1279 : decode cL_law 1279 = .ok (.iload 4, 2) := dk_21 4 (dk_at dksL_law_46 17 rfl rfl)
theorem dL_law_1281 : decode cL_law 1281 = .ok (.iconst 2, 1) := dk_5 (dk_at dksL_law_46 19 rfl rfl)
theorem dL_law_1282 : decode cL_law 1282 = .ok (.iadd, 1) := dk_96 (dk_at dksL_law_46 20 rfl rfl)
theorem dL_law_1283 : decode cL_law 1283 = .ok (.iaload, 1) := dk_46 (dk_at dksL_law_46 21 rfl rfl)
theorem dL_law_1284 : decode cL_law 1284 = .ok (.invokevirtual 227, 3) := dk_182 0 227 (dk_at dksL_law_47 0 rfl rfl)
theorem dL_law_1287 : decode cL_law 1287 = .ok (.istore 6, 2) := dk_54 6 (dk_at dksL_law_47 3 rfl rfl)
theorem dL_law_1289 : decode cL_law 1289 = .ok (.aload_n 2, 1) := dk_44 (dk_at dksL_law_47 5 rfl rfl)
theorem dL_law_1290 : decode cL_law 1290 = .ok (.invokevirtual 175, 3) := dk_182 0 175 (dk_at dksL_law_47 6 rfl rfl)
theorem dL_law_1293 : decode cL_law 1293 = .ok (.iload 5, 2) := dk_21 5 (dk_at dksL_law_47 9 rfl rfl)
theorem dL_law_1295 : decode cL_law 1295 = .ok (.if_icmp .eq 5, 3) := dk_159 0 5 (dk_at dksL_law_47 11 rfl rfl)
theorem dL_law_1298 : decode cL_law 1298 = .ok (.iconst 0, 1) := dk_3 (dk_at dksL_law_47 14 rfl rfl)
theorem dL_law_1299 : decode cL_law 1299 = .ok (.ireturn, 1) := dk_172 (dk_at dksL_law_47 15 rfl rfl)
theorem dL_law_1300 : decode cL_law 1300 = .ok (.iload 5, 2) := dk_21 5 (dk_at dksL_law_47 16 rfl rfl)
theorem dL_law_1302 : decode cL_law 1302 = .ok (.ifCond .ne 15, 3) := dk_154 0 15 (dk_at dksL_law_47 18 rfl rfl)
theorem dL_law_1305 : decode cL_law 1305 = .ok (.aload_n 3, 1) := dk_45 (dk_at dksL_law_47 21 rfl rfl)
theorem dL_law_1306 : decode cL_law 1306 = .ok (.iconst 0, 1) := dk_3 (dk_at dksL_law_47 22 rfl rfl)
theorem dL_law_1307 : decode cL_law 1307 = .ok (.laload, 1) := dk_47 (dk_at dksL_law_47 23 rfl rfl)
theorem dL_law_1308 : decode cL_law 1308 = .ok (.iload 6, 2) := dk_21 6 (dk_at dksL_law_48 0 rfl rfl)
theorem dL_law_1310 : decode cL_law 1310 = .ok (.i2l, 1) := dk_133 (dk_at dksL_law_48 2 rfl rfl)
theorem dL_law_1311 : decode cL_law 1311 = .ok (.lcmp, 1) := dk_148 (dk_at dksL_law_48 3 rfl rfl)
theorem dL_law_1312 : decode cL_law 1312 = .ok (.ifCond .eq 5, 3) := dk_153 0 5 (dk_at dksL_law_48 4 rfl rfl)
theorem dL_law_1315 : decode cL_law 1315 = .ok (.iconst 0, 1) := dk_3 (dk_at dksL_law_48 7 rfl rfl)
theorem dL_law_1316 : decode cL_law 1316 = .ok (.ireturn, 1) := dk_172 (dk_at dksL_law_48 8 rfl rfl)
theorem dL_law_1317 : decode cL_law 1317 = .ok (.goto 2423, 3) := dk_167 9 119 (dk_at dksL_law_48 9 rfl rfl)
theorem dL_law_1320 : decode cL_law 1320 = .ok (.aload_n 1, 1) := dk_43 (dk_at dksL_law_48 12 rfl rfl)
theorem dL_law_1321 : decode cL_law 1321 = .ok (.aload_n 0, 1) := dk_42 (dk_at dksL_law_48 13 rfl rfl)
theorem dL_law_1322 : decode cL_law 1322 = .ok (.iload 4, 2) := dk_21 4 (dk_at dksL_law_48 14 rfl rfl)
theorem dL_law_1324 : decode cL_law 1324 = .ok (.iconst 1, 1) := dk_4 (dk_at dksL_law_48 16 rfl rfl)
theorem dL_law_1325 : decode cL_law 1325 = .ok (.iadd, 1) := dk_96 (dk_at dksL_law_48 17 rfl rfl)
theorem dL_law_1326 : decode cL_law 1326 = .ok (.iaload, 1) := dk_46 (dk_at dksL_law_48 18 rfl rfl)
theorem dL_law_1327 : decode cL_law 1327 = .ok (.aload_n 0, 1) := dk_42 (dk_at dksL_law_48 19 rfl rfl)
theorem dL_law_1328 : decode cL_law 1328 = .ok (.iload 4, 2) := dk_21 4 (dk_at dksL_law_48 20 rfl rfl)
theorem dL_law_1330 : decode cL_law 1330 = .ok (.iconst 2, 1) := dk_5 (dk_at dksL_law_48 22 rfl rfl)
theorem dL_law_1331 : decode cL_law 1331 = .ok (.iadd, 1) := dk_96 (dk_at dksL_law_48 23 rfl rfl)
theorem dL_law_1332 : decode cL_law 1332 = .ok (.iaload, 1) := dk_46 (dk_at dksL_law_49 0 rfl rfl)
theorem dL_law_1333 : decode cL_law 1333 = .ok (.aload_n 3, 1) := dk_45 (dk_at dksL_law_49 1 rfl rfl)
theorem dL_law_1334 : decode cL_law 1334 = .ok (.invokestatic 228, 3) := dk_184 0 228 (dk_at dksL_law_49 2 rfl rfl)
theorem dL_law_1337 : decode cL_law 1337 = .ok (.istore 5, 2) := dk_54 5 (dk_at dksL_law_49 5 rfl rfl)
theorem dL_law_1339 : decode cL_law 1339 = .ok (.aload_n 2, 1) := dk_44 (dk_at dksL_law_49 7 rfl rfl)
theorem dL_law_1340 : decode cL_law 1340 = .ok (.aload_n 0, 1) := dk_42 (dk_at dksL_law_49 8 rfl rfl)
theorem dL_law_1341 : decode cL_law 1341 = .ok (.iload 4, 2) := dk_21 4 (dk_at dksL_law_49 9 rfl rfl)
theorem dL_law_1343 : decode cL_law 1343 = .ok (.iconst 1, 1) := dk_4 (dk_at dksL_law_49 11 rfl rfl)
theorem dL_law_1344 : decode cL_law 1344 = .ok (.iadd, 1) := dk_96 (dk_at dksL_law_49 12 rfl rfl)
theorem dL_law_1345 : decode cL_law 1345 = .ok (.iaload, 1) := dk_46 (dk_at dksL_law_49 13 rfl rfl)
theorem dL_law_1346 : decode cL_law 1346 = .ok (.aload_n 0, 1) := dk_42 (dk_at dksL_law_49 14 rfl rfl)
theorem dL_law_1347 : decode cL_law 1347 = .ok (.iload 4, 2) := dk_21 4 (dk_at dksL_law_49 15 rfl rfl)
theorem dL_law_1349 : decode cL_law 1349 = .ok (.iconst 2, 1) := dk_5 (dk_at dksL_law_49 17 rfl rfl)
theorem dL_law_1350 : decode cL_law 1350 = .ok (.iadd, 1) := dk_96 (dk_at dksL_law_49 18 rfl rfl)
theorem dL_law_1351 : decode cL_law 1351 = .ok (.iaload, 1) := dk_46 (dk_at dksL_law_49 19 rfl rfl)
theorem dL_law_1352 : decode cL_law 1352 = .ok (.invokevirtual 230, 3) := dk_182 0 230 (dk_at dksL_law_49 20 rfl rfl)
theorem dL_law_1355 : decode cL_law 1355 = .ok (.istore 6, 2) := dk_54 6 (dk_at dksL_law_50 0 rfl rfl)
theorem dL_law_1357 : decode cL_law 1357 = .ok (.aload_n 2, 1) := dk_44 (dk_at dksL_law_50 2 rfl rfl)
theorem dL_law_1358 : decode cL_law 1358 = .ok (.invokevirtual 175, 3) := dk_182 0 175 (dk_at dksL_law_50 3 rfl rfl)
theorem dL_law_1361 : decode cL_law 1361 = .ok (.iload 5, 2) := dk_21 5 (dk_at dksL_law_50 6 rfl rfl)
theorem dL_law_1363 : decode cL_law 1363 = .ok (.if_icmp .eq 5, 3) := dk_159 0 5 (dk_at dksL_law_50 8 rfl rfl)
theorem dL_law_1366 : decode cL_law 1366 = .ok (.iconst 0, 1) := dk_3 (dk_at dksL_law_50 11 rfl rfl)
theorem dL_law_1367 : decode cL_law 1367 = .ok (.ireturn, 1) := dk_172 (dk_at dksL_law_50 12 rfl rfl)
theorem dL_law_1368 : decode cL_law 1368 = .ok (.iload 5, 2) := dk_21 5 (dk_at dksL_law_50 13 rfl rfl)
theorem dL_law_1370 : decode cL_law 1370 = .ok (.ifCond .ne 15, 3) := dk_154 0 15 (dk_at dksL_law_50 15 rfl rfl)
theorem dL_law_1373 : decode cL_law 1373 = .ok (.aload_n 3, 1) := dk_45 (dk_at dksL_law_50 18 rfl rfl)
theorem dL_law_1374 : decode cL_law 1374 = .ok (.iconst 0, 1) := dk_3 (dk_at dksL_law_50 19 rfl rfl)
theorem dL_law_1375 : decode cL_law 1375 = .ok (.laload, 1) := dk_47 (dk_at dksL_law_50 20 rfl rfl)
theorem dL_law_1376 : decode cL_law 1376 = .ok (.iload 6, 2) := dk_21 6 (dk_at dksL_law_50 21 rfl rfl)
theorem dL_law_1378 : decode cL_law 1378 = .ok (.i2l, 1) := dk_133 (dk_at dksL_law_50 23 rfl rfl)
theorem dL_law_1379 : decode cL_law 1379 = .ok (.lcmp, 1) := dk_148 (dk_at dksL_law_51 0 rfl rfl)
theorem dL_law_1380 : decode cL_law 1380 = .ok (.ifCond .eq 5, 3) := dk_153 0 5 (dk_at dksL_law_51 1 rfl rfl)
theorem dL_law_1383 : decode cL_law 1383 = .ok (.iconst 0, 1) := dk_3 (dk_at dksL_law_51 4 rfl rfl)
theorem dL_law_1384 : decode cL_law 1384 = .ok (.ireturn, 1) := dk_172 (dk_at dksL_law_51 5 rfl rfl)
theorem dL_law_1385 : decode cL_law 1385 = .ok (.goto 2355, 3) := dk_167 9 51 (dk_at dksL_law_51 6 rfl rfl)
theorem dL_law_1388 : decode cL_law 1388 = .ok (.aload_n 1, 1) := dk_43 (dk_at dksL_law_51 9 rfl rfl)
theorem dL_law_1389 : decode cL_law 1389 = .ok (.aload_n 0, 1) := dk_42 (dk_at dksL_law_51 10 rfl rfl)
theorem dL_law_1390 : decode cL_law 1390 = .ok (.iload 4, 2) := dk_21 4 (dk_at dksL_law_51 11 rfl rfl)
theorem dL_law_1392 : decode cL_law 1392 = .ok (.iconst 1, 1) := dk_4 (dk_at dksL_law_51 13 rfl rfl)
theorem dL_law_1393 : decode cL_law 1393 = .ok (.iadd, 1) := dk_96 (dk_at dksL_law_51 14 rfl rfl)
theorem dL_law_1394 : decode cL_law 1394 = .ok (.iaload, 1) := dk_46 (dk_at dksL_law_51 15 rfl rfl)
theorem dL_law_1395 : decode cL_law 1395 = .ok (.aload_n 0, 1) := dk_42 (dk_at dksL_law_51 16 rfl rfl)
theorem dL_law_1396 : decode cL_law 1396 = .ok (.iload 4, 2) := dk_21 4 (dk_at dksL_law_51 17 rfl rfl)
theorem dL_law_1398 : decode cL_law 1398 = .ok (.iconst 2, 1) := dk_5 (dk_at dksL_law_51 19 rfl rfl)
theorem dL_law_1399 : decode cL_law 1399 = .ok (.iadd, 1) := dk_96 (dk_at dksL_law_51 20 rfl rfl)
theorem dL_law_1400 : decode cL_law 1400 = .ok (.iaload, 1) := dk_46 (dk_at dksL_law_51 21 rfl rfl)
theorem dL_law_1401 : decode cL_law 1401 = .ok (.aload_n 3, 1) := dk_45 (dk_at dksL_law_51 22 rfl rfl)
theorem dL_law_1402 : decode cL_law 1402 = .ok (.invokestatic 231, 3) := dk_184 0 231 (dk_at dksL_law_52 0 rfl rfl)
theorem dL_law_1405 : decode cL_law 1405 = .ok (.istore 5, 2) := dk_54 5 (dk_at dksL_law_52 3 rfl rfl)
theorem dL_law_1407 : decode cL_law 1407 = .ok (.aload_n 2, 1) := dk_44 (dk_at dksL_law_52 5 rfl rfl)
theorem dL_law_1408 : decode cL_law 1408 = .ok (.aload_n 0, 1) := dk_42 (dk_at dksL_law_52 6 rfl rfl)
theorem dL_law_1409 : decode cL_law 1409 = .ok (.iload 4, 2) := dk_21 4 (dk_at dksL_law_52 7 rfl rfl)
theorem dL_law_1411 : decode cL_law 1411 = .ok (.iconst 1, 1) := dk_4 (dk_at dksL_law_52 9 rfl rfl)
theorem dL_law_1412 : decode cL_law 1412 = .ok (.iadd, 1) := dk_96 (dk_at dksL_law_52 10 rfl rfl)
theorem dL_law_1413 : decode cL_law 1413 = .ok (.iaload, 1) := dk_46 (dk_at dksL_law_52 11 rfl rfl)
theorem dL_law_1414 : decode cL_law 1414 = .ok (.aload_n 0, 1) := dk_42 (dk_at dksL_law_52 12 rfl rfl)
theorem dL_law_1415 : decode cL_law 1415 = .ok (.iload 4, 2) := dk_21 4 (dk_at dksL_law_52 13 rfl rfl)
theorem dL_law_1417 : decode cL_law 1417 = .ok (.iconst 2, 1) := dk_5 (dk_at dksL_law_52 15 rfl rfl)
theorem dL_law_1418 : decode cL_law 1418 = .ok (.iadd, 1) := dk_96 (dk_at dksL_law_52 16 rfl rfl)
theorem dL_law_1419 : decode cL_law 1419 = .ok (.iaload, 1) := dk_46 (dk_at dksL_law_52 17 rfl rfl)
theorem dL_law_1420 : decode cL_law 1420 = .ok (.invokevirtual 233, 3) := dk_182 0 233 (dk_at dksL_law_52 18 rfl rfl)
theorem dL_law_1423 : decode cL_law 1423 = .ok (.lstore 6, 2) := dk_55 6 (dk_at dksL_law_52 21 rfl rfl)
theorem dL_law_1425 : decode cL_law 1425 = .ok (.aload_n 2, 1) := dk_44 (dk_at dksL_law_52 23 rfl rfl)
theorem dL_law_1426 : decode cL_law 1426 = .ok (.invokevirtual 175, 3) := dk_182 0 175 (dk_at dksL_law_53 0 rfl rfl)
theorem dL_law_1429 : decode cL_law 1429 = .ok (.iload 5, 2) := dk_21 5 (dk_at dksL_law_53 3 rfl rfl)
theorem dL_law_1431 : decode cL_law 1431 = .ok (.if_icmp .eq 5, 3) := dk_159 0 5 (dk_at dksL_law_53 5 rfl rfl)
theorem dL_law_1434 : decode cL_law 1434 = .ok (.iconst 0, 1) := dk_3 (dk_at dksL_law_53 8 rfl rfl)
theorem dL_law_1435 : decode cL_law 1435 = .ok (.ireturn, 1) := dk_172 (dk_at dksL_law_53 9 rfl rfl)
theorem dL_law_1436 : decode cL_law 1436 = .ok (.iload 5, 2) := dk_21 5 (dk_at dksL_law_53 10 rfl rfl)
theorem dL_law_1438 : decode cL_law 1438 = .ok (.ifCond .ne 14, 3) := dk_154 0 14 (dk_at dksL_law_53 12 rfl rfl)
theorem dL_law_1441 : decode cL_law 1441 = .ok (.aload_n 3, 1) := dk_45 (dk_at dksL_law_53 15 rfl rfl)
theorem dL_law_1442 : decode cL_law 1442 = .ok (.iconst 0, 1) := dk_3 (dk_at dksL_law_53 16 rfl rfl)
theorem dL_law_1443 : decode cL_law 1443 = .ok (.laload, 1) := dk_47 (dk_at dksL_law_53 17 rfl rfl)
theorem dL_law_1444 : decode cL_law 1444 = .ok (.lload 6, 2) := dk_22 6 (dk_at dksL_law_53 18 rfl rfl)
theorem dL_law_1446 : decode cL_law 1446 = .ok (.lcmp, 1) := dk_148 (dk_at dksL_law_53 20 rfl rfl)
theorem dL_law_1447 : decode cL_law 1447 = .ok (.ifCond .eq 5, 3) := dk_153 0 5 (dk_at dksL_law_53 21 rfl rfl)
theorem dL_law_1450 : decode cL_law 1450 = .ok (.iconst 0, 1) := dk_3 (dk_at dksL_law_54 0 rfl rfl)
theorem dL_law_1451 : decode cL_law 1451 = .ok (.ireturn, 1) := dk_172 (dk_at dksL_law_54 1 rfl rfl)
theorem dL_law_1452 : decode cL_law 1452 = .ok (.goto 2288, 3) := dk_167 8 240 (dk_at dksL_law_54 2 rfl rfl)
theorem dL_law_1455 : decode cL_law 1455 = .ok (.aload_n 1, 1) := dk_43 (dk_at dksL_law_54 5 rfl rfl)
theorem dL_law_1456 : decode cL_law 1456 = .ok (.aload_n 0, 1) := dk_42 (dk_at dksL_law_54 6 rfl rfl)
theorem dL_law_1457 : decode cL_law 1457 = .ok (.iload 4, 2) := dk_21 4 (dk_at dksL_law_54 7 rfl rfl)
theorem dL_law_1459 : decode cL_law 1459 = .ok (.iconst 1, 1) := dk_4 (dk_at dksL_law_54 9 rfl rfl)
theorem dL_law_1460 : decode cL_law 1460 = .ok (.iadd, 1) := dk_96 (dk_at dksL_law_54 10 rfl rfl)
theorem dL_law_1461 : decode cL_law 1461 = .ok (.iaload, 1) := dk_46 (dk_at dksL_law_54 11 rfl rfl)
theorem dL_law_1462 : decode cL_law 1462 = .ok (.aload_n 0, 1) := dk_42 (dk_at dksL_law_54 12 rfl rfl)
theorem dL_law_1463 : decode cL_law 1463 = .ok (.iload 4, 2) := dk_21 4 (dk_at dksL_law_54 13 rfl rfl)
theorem dL_law_1465 : decode cL_law 1465 = .ok (.iconst 2, 1) := dk_5 (dk_at dksL_law_54 15 rfl rfl)
theorem dL_law_1466 : decode cL_law 1466 = .ok (.iadd, 1) := dk_96 (dk_at dksL_law_54 16 rfl rfl)
theorem dL_law_1467 : decode cL_law 1467 = .ok (.iaload, 1) := dk_46 (dk_at dksL_law_54 17 rfl rfl)
theorem dL_law_1468 : decode cL_law 1468 = .ok (.aload_n 3, 1) := dk_45 (dk_at dksL_law_54 18 rfl rfl)
theorem dL_law_1469 : decode cL_law 1469 = .ok (.invokestatic 234, 3) := dk_184 0 234 (dk_at dksL_law_54 19 rfl rfl)
theorem dL_law_1472 : decode cL_law 1472 = .ok (.istore 5, 2) := dk_54 5 (dk_at dksL_law_54 22 rfl rfl)
theorem dL_law_1474 : decode cL_law 1474 = .ok (.aload_n 2, 1) := dk_44 (dk_at dksL_law_55 0 rfl rfl)
theorem dL_law_1475 : decode cL_law 1475 = .ok (.aload_n 0, 1) := dk_42 (dk_at dksL_law_55 1 rfl rfl)
theorem dL_law_1476 : decode cL_law 1476 = .ok (.iload 4, 2) := dk_21 4 (dk_at dksL_law_55 2 rfl rfl)
theorem dL_law_1478 : decode cL_law 1478 = .ok (.iconst 1, 1) := dk_4 (dk_at dksL_law_55 4 rfl rfl)
theorem dL_law_1479 : decode cL_law 1479 = .ok (.iadd, 1) := dk_96 (dk_at dksL_law_55 5 rfl rfl)
theorem dL_law_1480 : decode cL_law 1480 = .ok (.iaload, 1) := dk_46 (dk_at dksL_law_55 6 rfl rfl)
theorem dL_law_1481 : decode cL_law 1481 = .ok (.aload_n 0, 1) := dk_42 (dk_at dksL_law_55 7 rfl rfl)
theorem dL_law_1482 : decode cL_law 1482 = .ok (.iload 4, 2) := dk_21 4 (dk_at dksL_law_55 8 rfl rfl)
theorem dL_law_1484 : decode cL_law 1484 = .ok (.iconst 2, 1) := dk_5 (dk_at dksL_law_55 10 rfl rfl)
theorem dL_law_1485 : decode cL_law 1485 = .ok (.iadd, 1) := dk_96 (dk_at dksL_law_55 11 rfl rfl)
theorem dL_law_1486 : decode cL_law 1486 = .ok (.iaload, 1) := dk_46 (dk_at dksL_law_55 12 rfl rfl)
theorem dL_law_1487 : decode cL_law 1487 = .ok (.invokevirtual 236, 3) := dk_182 0 236 (dk_at dksL_law_55 13 rfl rfl)
theorem dL_law_1490 : decode cL_law 1490 = .ok (.lstore 6, 2) := dk_55 6 (dk_at dksL_law_55 16 rfl rfl)
theorem dL_law_1492 : decode cL_law 1492 = .ok (.aload_n 2, 1) := dk_44 (dk_at dksL_law_55 18 rfl rfl)
theorem dL_law_1493 : decode cL_law 1493 = .ok (.invokevirtual 175, 3) := dk_182 0 175 (dk_at dksL_law_55 19 rfl rfl)
theorem dL_law_1496 : decode cL_law 1496 = .ok (.iload 5, 2) := dk_21 5 (dk_at dksL_law_55 22 rfl rfl)
theorem dL_law_1498 : decode cL_law 1498 = .ok (.if_icmp .eq 5, 3) := dk_159 0 5 (dk_at dksL_law_56 0 rfl rfl)
theorem dL_law_1501 : decode cL_law 1501 = .ok (.iconst 0, 1) := dk_3 (dk_at dksL_law_56 3 rfl rfl)
theorem dL_law_1502 : decode cL_law 1502 = .ok (.ireturn, 1) := dk_172 (dk_at dksL_law_56 4 rfl rfl)
theorem dL_law_1503 : decode cL_law 1503 = .ok (.iload 5, 2) := dk_21 5 (dk_at dksL_law_56 5 rfl rfl)
theorem dL_law_1505 : decode cL_law 1505 = .ok (.ifCond .ne 14, 3) := dk_154 0 14 (dk_at dksL_law_56 7 rfl rfl)
theorem dL_law_1508 : decode cL_law 1508 = .ok (.aload_n 3, 1) := dk_45 (dk_at dksL_law_56 10 rfl rfl)
theorem dL_law_1509 : decode cL_law 1509 = .ok (.iconst 0, 1) := dk_3 (dk_at dksL_law_56 11 rfl rfl)
theorem dL_law_1510 : decode cL_law 1510 = .ok (.laload, 1) := dk_47 (dk_at dksL_law_56 12 rfl rfl)
theorem dL_law_1511 : decode cL_law 1511 = .ok (.lload 6, 2) := dk_22 6 (dk_at dksL_law_56 13 rfl rfl)
theorem dL_law_1513 : decode cL_law 1513 = .ok (.lcmp, 1) := dk_148 (dk_at dksL_law_56 15 rfl rfl)
theorem dL_law_1514 : decode cL_law 1514 = .ok (.ifCond .eq 5, 3) := dk_153 0 5 (dk_at dksL_law_56 16 rfl rfl)
theorem dL_law_1517 : decode cL_law 1517 = .ok (.iconst 0, 1) := dk_3 (dk_at dksL_law_56 19 rfl rfl)
theorem dL_law_1518 : decode cL_law 1518 = .ok (.ireturn, 1) := dk_172 (dk_at dksL_law_56 20 rfl rfl)
theorem dL_law_1519 : decode cL_law 1519 = .ok (.goto 2221, 3) := dk_167 8 173 (dk_at dksL_law_56 21 rfl rfl)
theorem dL_law_1522 : decode cL_law 1522 = .ok (.aload_n 1, 1) := dk_43 (dk_at dksL_law_57 0 rfl rfl)
theorem dL_law_1523 : decode cL_law 1523 = .ok (.aload_n 0, 1) := dk_42 (dk_at dksL_law_57 1 rfl rfl)
theorem dL_law_1524 : decode cL_law 1524 = .ok (.iload 4, 2) := dk_21 4 (dk_at dksL_law_57 2 rfl rfl)
theorem dL_law_1526 : decode cL_law 1526 = .ok (.iconst 1, 1) := dk_4 (dk_at dksL_law_57 4 rfl rfl)
theorem dL_law_1527 : decode cL_law 1527 = .ok (.iadd, 1) := dk_96 (dk_at dksL_law_57 5 rfl rfl)
theorem dL_law_1528 : decode cL_law 1528 = .ok (.iaload, 1) := dk_46 (dk_at dksL_law_57 6 rfl rfl)
theorem dL_law_1529 : decode cL_law 1529 = .ok (.aload_n 0, 1) := dk_42 (dk_at dksL_law_57 7 rfl rfl)
theorem dL_law_1530 : decode cL_law 1530 = .ok (.iload 4, 2) := dk_21 4 (dk_at dksL_law_57 8 rfl rfl)
theorem dL_law_1532 : decode cL_law 1532 = .ok (.iconst 2, 1) := dk_5 (dk_at dksL_law_57 10 rfl rfl)
theorem dL_law_1533 : decode cL_law 1533 = .ok (.iadd, 1) := dk_96 (dk_at dksL_law_57 11 rfl rfl)
theorem dL_law_1534 : decode cL_law 1534 = .ok (.iaload, 1) := dk_46 (dk_at dksL_law_57 12 rfl rfl)
theorem dL_law_1535 : decode cL_law 1535 = .ok (.aload_n 3, 1) := dk_45 (dk_at dksL_law_57 13 rfl rfl)
theorem dL_law_1536 : decode cL_law 1536 = .ok (.invokestatic 237, 3) := dk_184 0 237 (dk_at dksL_law_57 14 rfl rfl)
theorem dL_law_1539 : decode cL_law 1539 = .ok (.istore 5, 2) := dk_54 5 (dk_at dksL_law_57 17 rfl rfl)
theorem dL_law_1541 : decode cL_law 1541 = .ok (.aload_n 2, 1) := dk_44 (dk_at dksL_law_57 19 rfl rfl)
theorem dL_law_1542 : decode cL_law 1542 = .ok (.aload_n 0, 1) := dk_42 (dk_at dksL_law_57 20 rfl rfl)
theorem dL_law_1543 : decode cL_law 1543 = .ok (.iload 4, 2) := dk_21 4 (dk_at dksL_law_57 21 rfl rfl)
theorem dL_law_1545 : decode cL_law 1545 = .ok (.iconst 1, 1) := dk_4 (dk_at dksL_law_57 23 rfl rfl)
theorem dL_law_1546 : decode cL_law 1546 = .ok (.iadd, 1) := dk_96 (dk_at dksL_law_58 0 rfl rfl)
theorem dL_law_1547 : decode cL_law 1547 = .ok (.iaload, 1) := dk_46 (dk_at dksL_law_58 1 rfl rfl)
theorem dL_law_1548 : decode cL_law 1548 = .ok (.aload_n 0, 1) := dk_42 (dk_at dksL_law_58 2 rfl rfl)
theorem dL_law_1549 : decode cL_law 1549 = .ok (.iload 4, 2) := dk_21 4 (dk_at dksL_law_58 3 rfl rfl)
theorem dL_law_1551 : decode cL_law 1551 = .ok (.iconst 2, 1) := dk_5 (dk_at dksL_law_58 5 rfl rfl)
theorem dL_law_1552 : decode cL_law 1552 = .ok (.iadd, 1) := dk_96 (dk_at dksL_law_58 6 rfl rfl)
theorem dL_law_1553 : decode cL_law 1553 = .ok (.iaload, 1) := dk_46 (dk_at dksL_law_58 7 rfl rfl)
theorem dL_law_1554 : decode cL_law 1554 = .ok (.invokevirtual 239, 3) := dk_182 0 239 (dk_at dksL_law_58 8 rfl rfl)
theorem dL_law_1557 : decode cL_law 1557 = .ok (.lstore 6, 2) := dk_55 6 (dk_at dksL_law_58 11 rfl rfl)
theorem dL_law_1559 : decode cL_law 1559 = .ok (.aload_n 2, 1) := dk_44 (dk_at dksL_law_58 13 rfl rfl)
theorem dL_law_1560 : decode cL_law 1560 = .ok (.invokevirtual 175, 3) := dk_182 0 175 (dk_at dksL_law_58 14 rfl rfl)
theorem dL_law_1563 : decode cL_law 1563 = .ok (.iload 5, 2) := dk_21 5 (dk_at dksL_law_58 17 rfl rfl)
theorem dL_law_1565 : decode cL_law 1565 = .ok (.if_icmp .eq 5, 3) := dk_159 0 5 (dk_at dksL_law_58 19 rfl rfl)
theorem dL_law_1568 : decode cL_law 1568 = .ok (.iconst 0, 1) := dk_3 (dk_at dksL_law_58 22 rfl rfl)
theorem dL_law_1569 : decode cL_law 1569 = .ok (.ireturn, 1) := dk_172 (dk_at dksL_law_58 23 rfl rfl)
theorem dL_law_1570 : decode cL_law 1570 = .ok (.iload 5, 2) := dk_21 5 (dk_at dksL_law_59 0 rfl rfl)
theorem dL_law_1572 : decode cL_law 1572 = .ok (.ifCond .ne 14, 3) := dk_154 0 14 (dk_at dksL_law_59 2 rfl rfl)
theorem dL_law_1575 : decode cL_law 1575 = .ok (.aload_n 3, 1) := dk_45 (dk_at dksL_law_59 5 rfl rfl)
theorem dL_law_1576 : decode cL_law 1576 = .ok (.iconst 0, 1) := dk_3 (dk_at dksL_law_59 6 rfl rfl)
theorem dL_law_1577 : decode cL_law 1577 = .ok (.laload, 1) := dk_47 (dk_at dksL_law_59 7 rfl rfl)
theorem dL_law_1578 : decode cL_law 1578 = .ok (.lload 6, 2) := dk_22 6 (dk_at dksL_law_59 8 rfl rfl)
theorem dL_law_1580 : decode cL_law 1580 = .ok (.lcmp, 1) := dk_148 (dk_at dksL_law_59 10 rfl rfl)
theorem dL_law_1581 : decode cL_law 1581 = .ok (.ifCond .eq 5, 3) := dk_153 0 5 (dk_at dksL_law_59 11 rfl rfl)
theorem dL_law_1584 : decode cL_law 1584 = .ok (.iconst 0, 1) := dk_3 (dk_at dksL_law_59 14 rfl rfl)
theorem dL_law_1585 : decode cL_law 1585 = .ok (.ireturn, 1) := dk_172 (dk_at dksL_law_59 15 rfl rfl)
theorem dL_law_1586 : decode cL_law 1586 = .ok (.goto 2154, 3) := dk_167 8 106 (dk_at dksL_law_59 16 rfl rfl)
theorem dL_law_1589 : decode cL_law 1589 = .ok (.aload_n 1, 1) := dk_43 (dk_at dksL_law_59 19 rfl rfl)
theorem dL_law_1590 : decode cL_law 1590 = .ok (.aload_n 0, 1) := dk_42 (dk_at dksL_law_59 20 rfl rfl)
theorem dL_law_1591 : decode cL_law 1591 = .ok (.iload 4, 2) := dk_21 4 (dk_at dksL_law_59 21 rfl rfl)
theorem dL_law_1593 : decode cL_law 1593 = .ok (.iconst 1, 1) := dk_4 (dk_at dksL_law_59 23 rfl rfl)
theorem dL_law_1594 : decode cL_law 1594 = .ok (.iadd, 1) := dk_96 (dk_at dksL_law_60 0 rfl rfl)
theorem dL_law_1595 : decode cL_law 1595 = .ok (.iaload, 1) := dk_46 (dk_at dksL_law_60 1 rfl rfl)
theorem dL_law_1596 : decode cL_law 1596 = .ok (.aload_n 0, 1) := dk_42 (dk_at dksL_law_60 2 rfl rfl)
theorem dL_law_1597 : decode cL_law 1597 = .ok (.iload 4, 2) := dk_21 4 (dk_at dksL_law_60 3 rfl rfl)
theorem dL_law_1599 : decode cL_law 1599 = .ok (.iconst 2, 1) := dk_5 (dk_at dksL_law_60 5 rfl rfl)
theorem dL_law_1600 : decode cL_law 1600 = .ok (.iadd, 1) := dk_96 (dk_at dksL_law_60 6 rfl rfl)
theorem dL_law_1601 : decode cL_law 1601 = .ok (.iaload, 1) := dk_46 (dk_at dksL_law_60 7 rfl rfl)
theorem dL_law_1602 : decode cL_law 1602 = .ok (.aload_n 3, 1) := dk_45 (dk_at dksL_law_60 8 rfl rfl)
theorem dL_law_1603 : decode cL_law 1603 = .ok (.invokestatic 240, 3) := dk_184 0 240 (dk_at dksL_law_60 9 rfl rfl)
theorem dL_law_1606 : decode cL_law 1606 = .ok (.istore 5, 2) := dk_54 5 (dk_at dksL_law_60 12 rfl rfl)
theorem dL_law_1608 : decode cL_law 1608 = .ok (.aload_n 2, 1) := dk_44 (dk_at dksL_law_60 14 rfl rfl)
theorem dL_law_1609 : decode cL_law 1609 = .ok (.aload_n 0, 1) := dk_42 (dk_at dksL_law_60 15 rfl rfl)
theorem dL_law_1610 : decode cL_law 1610 = .ok (.iload 4, 2) := dk_21 4 (dk_at dksL_law_60 16 rfl rfl)
theorem dL_law_1612 : decode cL_law 1612 = .ok (.iconst 1, 1) := dk_4 (dk_at dksL_law_60 18 rfl rfl)
theorem dL_law_1613 : decode cL_law 1613 = .ok (.iadd, 1) := dk_96 (dk_at dksL_law_60 19 rfl rfl)
theorem dL_law_1614 : decode cL_law 1614 = .ok (.iaload, 1) := dk_46 (dk_at dksL_law_60 20 rfl rfl)
theorem dL_law_1615 : decode cL_law 1615 = .ok (.aload_n 0, 1) := dk_42 (dk_at dksL_law_60 21 rfl rfl)
theorem dL_law_1616 : decode cL_law 1616 = .ok (.iload 4, 2) := dk_21 4 (dk_at dksL_law_60 22 rfl rfl)
theorem dL_law_1618 : decode cL_law 1618 = .ok (.iconst 2, 1) := dk_5 (dk_at dksL_law_61 0 rfl rfl)
theorem dL_law_1619 : decode cL_law 1619 = .ok (.iadd, 1) := dk_96 (dk_at dksL_law_61 1 rfl rfl)
theorem dL_law_1620 : decode cL_law 1620 = .ok (.iaload, 1) := dk_46 (dk_at dksL_law_61 2 rfl rfl)
theorem dL_law_1621 : decode cL_law 1621 = .ok (.invokevirtual 242, 3) := dk_182 0 242 (dk_at dksL_law_61 3 rfl rfl)
theorem dL_law_1624 : decode cL_law 1624 = .ok (.lstore 6, 2) := dk_55 6 (dk_at dksL_law_61 6 rfl rfl)
theorem dL_law_1626 : decode cL_law 1626 = .ok (.aload_n 2, 1) := dk_44 (dk_at dksL_law_61 8 rfl rfl)
theorem dL_law_1627 : decode cL_law 1627 = .ok (.invokevirtual 175, 3) := dk_182 0 175 (dk_at dksL_law_61 9 rfl rfl)
theorem dL_law_1630 : decode cL_law 1630 = .ok (.iload 5, 2) := dk_21 5 (dk_at dksL_law_61 12 rfl rfl)
theorem dL_law_1632 : decode cL_law 1632 = .ok (.if_icmp .eq 5, 3) := dk_159 0 5 (dk_at dksL_law_61 14 rfl rfl)
theorem dL_law_1635 : decode cL_law 1635 = .ok (.iconst 0, 1) := dk_3 (dk_at dksL_law_61 17 rfl rfl)
theorem dL_law_1636 : decode cL_law 1636 = .ok (.ireturn, 1) := dk_172 (dk_at dksL_law_61 18 rfl rfl)
theorem dL_law_1637 : decode cL_law 1637 = .ok (.iload 5, 2) := dk_21 5 (dk_at dksL_law_61 19 rfl rfl)
theorem dL_law_1639 : decode cL_law 1639 = .ok (.ifCond .ne 14, 3) := dk_154 0 14 (dk_at dksL_law_61 21 rfl rfl)
theorem dL_law_1642 : decode cL_law 1642 = .ok (.aload_n 3, 1) := dk_45 (dk_at dksL_law_62 0 rfl rfl)
theorem dL_law_1643 : decode cL_law 1643 = .ok (.iconst 0, 1) := dk_3 (dk_at dksL_law_62 1 rfl rfl)
theorem dL_law_1644 : decode cL_law 1644 = .ok (.laload, 1) := dk_47 (dk_at dksL_law_62 2 rfl rfl)
theorem dL_law_1645 : decode cL_law 1645 = .ok (.lload 6, 2) := dk_22 6 (dk_at dksL_law_62 3 rfl rfl)
theorem dL_law_1647 : decode cL_law 1647 = .ok (.lcmp, 1) := dk_148 (dk_at dksL_law_62 5 rfl rfl)
theorem dL_law_1648 : decode cL_law 1648 = .ok (.ifCond .eq 5, 3) := dk_153 0 5 (dk_at dksL_law_62 6 rfl rfl)
theorem dL_law_1651 : decode cL_law 1651 = .ok (.iconst 0, 1) := dk_3 (dk_at dksL_law_62 9 rfl rfl)
theorem dL_law_1652 : decode cL_law 1652 = .ok (.ireturn, 1) := dk_172 (dk_at dksL_law_62 10 rfl rfl)
theorem dL_law_1653 : decode cL_law 1653 = .ok (.goto 2087, 3) := dk_167 8 39 (dk_at dksL_law_62 11 rfl rfl)
theorem dL_law_1656 : decode cL_law 1656 = .ok (.aload_n 1, 1) := dk_43 (dk_at dksL_law_62 14 rfl rfl)
theorem dL_law_1657 : decode cL_law 1657 = .ok (.aload_n 0, 1) := dk_42 (dk_at dksL_law_62 15 rfl rfl)
theorem dL_law_1658 : decode cL_law 1658 = .ok (.iload 4, 2) := dk_21 4 (dk_at dksL_law_62 16 rfl rfl)
theorem dL_law_1660 : decode cL_law 1660 = .ok (.iconst 1, 1) := dk_4 (dk_at dksL_law_62 18 rfl rfl)
theorem dL_law_1661 : decode cL_law 1661 = .ok (.iadd, 1) := dk_96 (dk_at dksL_law_62 19 rfl rfl)
theorem dL_law_1662 : decode cL_law 1662 = .ok (.iaload, 1) := dk_46 (dk_at dksL_law_62 20 rfl rfl)
theorem dL_law_1663 : decode cL_law 1663 = .ok (.aload_n 0, 1) := dk_42 (dk_at dksL_law_62 21 rfl rfl)
theorem dL_law_1664 : decode cL_law 1664 = .ok (.iload 4, 2) := dk_21 4 (dk_at dksL_law_62 22 rfl rfl)
theorem dL_law_1666 : decode cL_law 1666 = .ok (.iconst 2, 1) := dk_5 (dk_at dksL_law_63 0 rfl rfl)
theorem dL_law_1667 : decode cL_law 1667 = .ok (.iadd, 1) := dk_96 (dk_at dksL_law_63 1 rfl rfl)
theorem dL_law_1668 : decode cL_law 1668 = .ok (.iaload, 1) := dk_46 (dk_at dksL_law_63 2 rfl rfl)
theorem dL_law_1669 : decode cL_law 1669 = .ok (.aload_n 3, 1) := dk_45 (dk_at dksL_law_63 3 rfl rfl)
theorem dL_law_1670 : decode cL_law 1670 = .ok (.invokestatic 243, 3) := dk_184 0 243 (dk_at dksL_law_63 4 rfl rfl)
theorem dL_law_1673 : decode cL_law 1673 = .ok (.istore 5, 2) := dk_54 5 (dk_at dksL_law_63 7 rfl rfl)
theorem dL_law_1675 : decode cL_law 1675 = .ok (.aload_n 2, 1) := dk_44 (dk_at dksL_law_63 9 rfl rfl)
theorem dL_law_1676 : decode cL_law 1676 = .ok (.aload_n 0, 1) := dk_42 (dk_at dksL_law_63 10 rfl rfl)
theorem dL_law_1677 : decode cL_law 1677 = .ok (.iload 4, 2) := dk_21 4 (dk_at dksL_law_63 11 rfl rfl)
theorem dL_law_1679 : decode cL_law 1679 = .ok (.iconst 1, 1) := dk_4 (dk_at dksL_law_63 13 rfl rfl)
theorem dL_law_1680 : decode cL_law 1680 = .ok (.iadd, 1) := dk_96 (dk_at dksL_law_63 14 rfl rfl)
theorem dL_law_1681 : decode cL_law 1681 = .ok (.iaload, 1) := dk_46 (dk_at dksL_law_63 15 rfl rfl)
theorem dL_law_1682 : decode cL_law 1682 = .ok (.aload_n 0, 1) := dk_42 (dk_at dksL_law_63 16 rfl rfl)
theorem dL_law_1683 : decode cL_law 1683 = .ok (.iload 4, 2) := dk_21 4 (dk_at dksL_law_63 17 rfl rfl)
theorem dL_law_1685 : decode cL_law 1685 = .ok (.iconst 2, 1) := dk_5 (dk_at dksL_law_63 19 rfl rfl)
theorem dL_law_1686 : decode cL_law 1686 = .ok (.iadd, 1) := dk_96 (dk_at dksL_law_63 20 rfl rfl)
theorem dL_law_1687 : decode cL_law 1687 = .ok (.iaload, 1) := dk_46 (dk_at dksL_law_63 21 rfl rfl)
theorem dL_law_1688 : decode cL_law 1688 = .ok (.invokevirtual 245, 3) := dk_182 0 245 (dk_at dksL_law_64 0 rfl rfl)
theorem dL_law_1691 : decode cL_law 1691 = .ok (.lstore 6, 2) := dk_55 6 (dk_at dksL_law_64 3 rfl rfl)
theorem dL_law_1693 : decode cL_law 1693 = .ok (.aload_n 2, 1) := dk_44 (dk_at dksL_law_64 5 rfl rfl)
theorem dL_law_1694 : decode cL_law 1694 = .ok (.invokevirtual 175, 3) := dk_182 0 175 (dk_at dksL_law_64 6 rfl rfl)
theorem dL_law_1697 : decode cL_law 1697 = .ok (.iload 5, 2) := dk_21 5 (dk_at dksL_law_64 9 rfl rfl)
theorem dL_law_1699 : decode cL_law 1699 = .ok (.if_icmp .eq 5, 3) := dk_159 0 5 (dk_at dksL_law_64 11 rfl rfl)
theorem dL_law_1702 : decode cL_law 1702 = .ok (.iconst 0, 1) := dk_3 (dk_at dksL_law_64 14 rfl rfl)
theorem dL_law_1703 : decode cL_law 1703 = .ok (.ireturn, 1) := dk_172 (dk_at dksL_law_64 15 rfl rfl)
theorem dL_law_1704 : decode cL_law 1704 = .ok (.iload 5, 2) := dk_21 5 (dk_at dksL_law_64 16 rfl rfl)
theorem dL_law_1706 : decode cL_law 1706 = .ok (.ifCond .ne 14, 3) := dk_154 0 14 (dk_at dksL_law_64 18 rfl rfl)
theorem dL_law_1709 : decode cL_law 1709 = .ok (.aload_n 3, 1) := dk_45 (dk_at dksL_law_64 21 rfl rfl)
theorem dL_law_1710 : decode cL_law 1710 = .ok (.iconst 0, 1) := dk_3 (dk_at dksL_law_64 22 rfl rfl)
theorem dL_law_1711 : decode cL_law 1711 = .ok (.laload, 1) := dk_47 (dk_at dksL_law_64 23 rfl rfl)
theorem dL_law_1712 : decode cL_law 1712 = .ok (.lload 6, 2) := dk_22 6 (dk_at dksL_law_65 0 rfl rfl)
theorem dL_law_1714 : decode cL_law 1714 = .ok (.lcmp, 1) := dk_148 (dk_at dksL_law_65 2 rfl rfl)
theorem dL_law_1715 : decode cL_law 1715 = .ok (.ifCond .eq 5, 3) := dk_153 0 5 (dk_at dksL_law_65 3 rfl rfl)
theorem dL_law_1718 : decode cL_law 1718 = .ok (.iconst 0, 1) := dk_3 (dk_at dksL_law_65 6 rfl rfl)
theorem dL_law_1719 : decode cL_law 1719 = .ok (.ireturn, 1) := dk_172 (dk_at dksL_law_65 7 rfl rfl)
theorem dL_law_1720 : decode cL_law 1720 = .ok (.goto 2020, 3) := dk_167 7 228 (dk_at dksL_law_65 8 rfl rfl)
theorem dL_law_1723 : decode cL_law 1723 = .ok (.aload_n 1, 1) := dk_43 (dk_at dksL_law_65 11 rfl rfl)
theorem dL_law_1724 : decode cL_law 1724 = .ok (.aload_n 0, 1) := dk_42 (dk_at dksL_law_65 12 rfl rfl)
theorem dL_law_1725 : decode cL_law 1725 = .ok (.iload 4, 2) := dk_21 4 (dk_at dksL_law_65 13 rfl rfl)
theorem dL_law_1727 : decode cL_law 1727 = .ok (.iconst 1, 1) := dk_4 (dk_at dksL_law_65 15 rfl rfl)
theorem dL_law_1728 : decode cL_law 1728 = .ok (.iadd, 1) := dk_96 (dk_at dksL_law_65 16 rfl rfl)
theorem dL_law_1729 : decode cL_law 1729 = .ok (.iaload, 1) := dk_46 (dk_at dksL_law_65 17 rfl rfl)
theorem dL_law_1730 : decode cL_law 1730 = .ok (.aload_n 0, 1) := dk_42 (dk_at dksL_law_65 18 rfl rfl)
theorem dL_law_1731 : decode cL_law 1731 = .ok (.iload 4, 2) := dk_21 4 (dk_at dksL_law_65 19 rfl rfl)
theorem dL_law_1733 : decode cL_law 1733 = .ok (.iconst 2, 1) := dk_5 (dk_at dksL_law_65 21 rfl rfl)
theorem dL_law_1734 : decode cL_law 1734 = .ok (.iadd, 1) := dk_96 (dk_at dksL_law_65 22 rfl rfl)
theorem dL_law_1735 : decode cL_law 1735 = .ok (.iaload, 1) := dk_46 (dk_at dksL_law_65 23 rfl rfl)
theorem dL_law_1736 : decode cL_law 1736 = .ok (.aload_n 3, 1) := dk_45 (dk_at dksL_law_66 0 rfl rfl)
theorem dL_law_1737 : decode cL_law 1737 = .ok (.invokestatic 246, 3) := dk_184 0 246 (dk_at dksL_law_66 1 rfl rfl)
theorem dL_law_1740 : decode cL_law 1740 = .ok (.istore 5, 2) := dk_54 5 (dk_at dksL_law_66 4 rfl rfl)
theorem dL_law_1742 : decode cL_law 1742 = .ok (.aload_n 2, 1) := dk_44 (dk_at dksL_law_66 6 rfl rfl)
theorem dL_law_1743 : decode cL_law 1743 = .ok (.aload_n 0, 1) := dk_42 (dk_at dksL_law_66 7 rfl rfl)
theorem dL_law_1744 : decode cL_law 1744 = .ok (.iload 4, 2) := dk_21 4 (dk_at dksL_law_66 8 rfl rfl)
theorem dL_law_1746 : decode cL_law 1746 = .ok (.iconst 1, 1) := dk_4 (dk_at dksL_law_66 10 rfl rfl)
theorem dL_law_1747 : decode cL_law 1747 = .ok (.iadd, 1) := dk_96 (dk_at dksL_law_66 11 rfl rfl)
theorem dL_law_1748 : decode cL_law 1748 = .ok (.iaload, 1) := dk_46 (dk_at dksL_law_66 12 rfl rfl)
theorem dL_law_1749 : decode cL_law 1749 = .ok (.aload_n 0, 1) := dk_42 (dk_at dksL_law_66 13 rfl rfl)
theorem dL_law_1750 : decode cL_law 1750 = .ok (.iload 4, 2) := dk_21 4 (dk_at dksL_law_66 14 rfl rfl)
theorem dL_law_1752 : decode cL_law 1752 = .ok (.iconst 2, 1) := dk_5 (dk_at dksL_law_66 16 rfl rfl)
theorem dL_law_1753 : decode cL_law 1753 = .ok (.iadd, 1) := dk_96 (dk_at dksL_law_66 17 rfl rfl)
theorem dL_law_1754 : decode cL_law 1754 = .ok (.iaload, 1) := dk_46 (dk_at dksL_law_66 18 rfl rfl)
theorem dL_law_1755 : decode cL_law 1755 = .ok (.invokevirtual 248, 3) := dk_182 0 248 (dk_at dksL_law_66 19 rfl rfl)
theorem dL_law_1758 : decode cL_law 1758 = .ok (.lstore 6, 2) := dk_55 6 (dk_at dksL_law_66 22 rfl rfl)
theorem dL_law_1760 : decode cL_law 1760 = .ok (.aload_n 2, 1) := dk_44 (dk_at dksL_law_67 0 rfl rfl)
theorem dL_law_1761 : decode cL_law 1761 = .ok (.invokevirtual 175, 3) := dk_182 0 175 (dk_at dksL_law_67 1 rfl rfl)
theorem dL_law_1764 : decode cL_law 1764 = .ok (.iload 5, 2) := dk_21 5 (dk_at dksL_law_67 4 rfl rfl)
theorem dL_law_1766 : decode cL_law 1766 = .ok (.if_icmp .eq 5, 3) := dk_159 0 5 (dk_at dksL_law_67 6 rfl rfl)
theorem dL_law_1769 : decode cL_law 1769 = .ok (.iconst 0, 1) := dk_3 (dk_at dksL_law_67 9 rfl rfl)
theorem dL_law_1770 : decode cL_law 1770 = .ok (.ireturn, 1) := dk_172 (dk_at dksL_law_67 10 rfl rfl)
theorem dL_law_1771 : decode cL_law 1771 = .ok (.iload 5, 2) := dk_21 5 (dk_at dksL_law_67 11 rfl rfl)
theorem dL_law_1773 : decode cL_law 1773 = .ok (.ifCond .ne 14, 3) := dk_154 0 14 (dk_at dksL_law_67 13 rfl rfl)
theorem dL_law_1776 : decode cL_law 1776 = .ok (.aload_n 3, 1) := dk_45 (dk_at dksL_law_67 16 rfl rfl)
theorem dL_law_1777 : decode cL_law 1777 = .ok (.iconst 0, 1) := dk_3 (dk_at dksL_law_67 17 rfl rfl)
theorem dL_law_1778 : decode cL_law 1778 = .ok (.laload, 1) := dk_47 (dk_at dksL_law_67 18 rfl rfl)
theorem dL_law_1779 : decode cL_law 1779 = .ok (.lload 6, 2) := dk_22 6 (dk_at dksL_law_67 19 rfl rfl)
theorem dL_law_1781 : decode cL_law 1781 = .ok (.lcmp, 1) := dk_148 (dk_at dksL_law_67 21 rfl rfl)
theorem dL_law_1782 : decode cL_law 1782 = .ok (.ifCond .eq 5, 3) := dk_153 0 5 (dk_at dksL_law_68 0 rfl rfl)
theorem dL_law_1785 : decode cL_law 1785 = .ok (.iconst 0, 1) := dk_3 (dk_at dksL_law_68 3 rfl rfl)
theorem dL_law_1786 : decode cL_law 1786 = .ok (.ireturn, 1) := dk_172 (dk_at dksL_law_68 4 rfl rfl)
theorem dL_law_1787 : decode cL_law 1787 = .ok (.goto 1953, 3) := dk_167 7 161 (dk_at dksL_law_68 5 rfl rfl)
theorem dL_law_1790 : decode cL_law 1790 = .ok (.aload_n 1, 1) := dk_43 (dk_at dksL_law_68 8 rfl rfl)
theorem dL_law_1791 : decode cL_law 1791 = .ok (.aload_n 0, 1) := dk_42 (dk_at dksL_law_68 9 rfl rfl)
theorem dL_law_1792 : decode cL_law 1792 = .ok (.iload 4, 2) := dk_21 4 (dk_at dksL_law_68 10 rfl rfl)
theorem dL_law_1794 : decode cL_law 1794 = .ok (.iconst 1, 1) := dk_4 (dk_at dksL_law_68 12 rfl rfl)
theorem dL_law_1795 : decode cL_law 1795 = .ok (.iadd, 1) := dk_96 (dk_at dksL_law_68 13 rfl rfl)
theorem dL_law_1796 : decode cL_law 1796 = .ok (.iaload, 1) := dk_46 (dk_at dksL_law_68 14 rfl rfl)
theorem dL_law_1797 : decode cL_law 1797 = .ok (.aload_n 0, 1) := dk_42 (dk_at dksL_law_68 15 rfl rfl)
theorem dL_law_1798 : decode cL_law 1798 = .ok (.iload 4, 2) := dk_21 4 (dk_at dksL_law_68 16 rfl rfl)
theorem dL_law_1800 : decode cL_law 1800 = .ok (.iconst 2, 1) := dk_5 (dk_at dksL_law_68 18 rfl rfl)
theorem dL_law_1801 : decode cL_law 1801 = .ok (.iadd, 1) := dk_96 (dk_at dksL_law_68 19 rfl rfl)
theorem dL_law_1802 : decode cL_law 1802 = .ok (.iaload, 1) := dk_46 (dk_at dksL_law_68 20 rfl rfl)
theorem dL_law_1803 : decode cL_law 1803 = .ok (.aload_n 3, 1) := dk_45 (dk_at dksL_law_68 21 rfl rfl)
theorem dL_law_1804 : decode cL_law 1804 = .ok (.invokestatic 249, 3) := dk_184 0 249 (dk_at dksL_law_69 0 rfl rfl)
theorem dL_law_1807 : decode cL_law 1807 = .ok (.istore 5, 2) := dk_54 5 (dk_at dksL_law_69 3 rfl rfl)
theorem dL_law_1809 : decode cL_law 1809 = .ok (.aload_n 2, 1) := dk_44 (dk_at dksL_law_69 5 rfl rfl)
theorem dL_law_1810 : decode cL_law 1810 = .ok (.aload_n 0, 1) := dk_42 (dk_at dksL_law_69 6 rfl rfl)
theorem dL_law_1811 : decode cL_law 1811 = .ok (.iload 4, 2) := dk_21 4 (dk_at dksL_law_69 7 rfl rfl)
theorem dL_law_1813 : decode cL_law 1813 = .ok (.iconst 1, 1) := dk_4 (dk_at dksL_law_69 9 rfl rfl)
theorem dL_law_1814 : decode cL_law 1814 = .ok (.iadd, 1) := dk_96 (dk_at dksL_law_69 10 rfl rfl)
theorem dL_law_1815 : decode cL_law 1815 = .ok (.iaload, 1) := dk_46 (dk_at dksL_law_69 11 rfl rfl)
theorem dL_law_1816 : decode cL_law 1816 = .ok (.aload_n 0, 1) := dk_42 (dk_at dksL_law_69 12 rfl rfl)
theorem dL_law_1817 : decode cL_law 1817 = .ok (.iload 4, 2) := dk_21 4 (dk_at dksL_law_69 13 rfl rfl)
theorem dL_law_1819 : decode cL_law 1819 = .ok (.iconst 2, 1) := dk_5 (dk_at dksL_law_69 15 rfl rfl)
theorem dL_law_1820 : decode cL_law 1820 = .ok (.iadd, 1) := dk_96 (dk_at dksL_law_69 16 rfl rfl)
theorem dL_law_1821 : decode cL_law 1821 = .ok (.iaload, 1) := dk_46 (dk_at dksL_law_69 17 rfl rfl)
theorem dL_law_1822 : decode cL_law 1822 = .ok (.invokevirtual 251, 3) := dk_182 0 251 (dk_at dksL_law_69 18 rfl rfl)
theorem dL_law_1825 : decode cL_law 1825 = .ok (.lstore 6, 2) := dk_55 6 (dk_at dksL_law_69 21 rfl rfl)
theorem dL_law_1827 : decode cL_law 1827 = .ok (.aload_n 2, 1) := dk_44 (dk_at dksL_law_69 23 rfl rfl)
theorem dL_law_1828 : decode cL_law 1828 = .ok (.invokevirtual 175, 3) := dk_182 0 175 (dk_at dksL_law_70 0 rfl rfl)
theorem dL_law_1831 : decode cL_law 1831 = .ok (.iload 5, 2) := dk_21 5 (dk_at dksL_law_70 3 rfl rfl)
theorem dL_law_1833 : decode cL_law 1833 = .ok (.if_icmp .eq 5, 3) := dk_159 0 5 (dk_at dksL_law_70 5 rfl rfl)
theorem dL_law_1836 : decode cL_law 1836 = .ok (.iconst 0, 1) := dk_3 (dk_at dksL_law_70 8 rfl rfl)
theorem dL_law_1837 : decode cL_law 1837 = .ok (.ireturn, 1) := dk_172 (dk_at dksL_law_70 9 rfl rfl)
theorem dL_law_1838 : decode cL_law 1838 = .ok (.iload 5, 2) := dk_21 5 (dk_at dksL_law_70 10 rfl rfl)
theorem dL_law_1840 : decode cL_law 1840 = .ok (.ifCond .ne 14, 3) := dk_154 0 14 (dk_at dksL_law_70 12 rfl rfl)
theorem dL_law_1843 : decode cL_law 1843 = .ok (.aload_n 3, 1) := dk_45 (dk_at dksL_law_70 15 rfl rfl)
theorem dL_law_1844 : decode cL_law 1844 = .ok (.iconst 0, 1) := dk_3 (dk_at dksL_law_70 16 rfl rfl)
theorem dL_law_1845 : decode cL_law 1845 = .ok (.laload, 1) := dk_47 (dk_at dksL_law_70 17 rfl rfl)
theorem dL_law_1846 : decode cL_law 1846 = .ok (.lload 6, 2) := dk_22 6 (dk_at dksL_law_70 18 rfl rfl)
theorem dL_law_1848 : decode cL_law 1848 = .ok (.lcmp, 1) := dk_148 (dk_at dksL_law_70 20 rfl rfl)
theorem dL_law_1849 : decode cL_law 1849 = .ok (.ifCond .eq 5, 3) := dk_153 0 5 (dk_at dksL_law_70 21 rfl rfl)
theorem dL_law_1852 : decode cL_law 1852 = .ok (.iconst 0, 1) := dk_3 (dk_at dksL_law_71 0 rfl rfl)
theorem dL_law_1853 : decode cL_law 1853 = .ok (.ireturn, 1) := dk_172 (dk_at dksL_law_71 1 rfl rfl)
theorem dL_law_1854 : decode cL_law 1854 = .ok (.goto 1886, 3) := dk_167 7 94 (dk_at dksL_law_71 2 rfl rfl)
theorem dL_law_1857 : decode cL_law 1857 = .ok (.aload_n 1, 1) := dk_43 (dk_at dksL_law_71 5 rfl rfl)
theorem dL_law_1858 : decode cL_law 1858 = .ok (.aload_n 0, 1) := dk_42 (dk_at dksL_law_71 6 rfl rfl)
theorem dL_law_1859 : decode cL_law 1859 = .ok (.iload 4, 2) := dk_21 4 (dk_at dksL_law_71 7 rfl rfl)
theorem dL_law_1861 : decode cL_law 1861 = .ok (.iconst 1, 1) := dk_4 (dk_at dksL_law_71 9 rfl rfl)
theorem dL_law_1862 : decode cL_law 1862 = .ok (.iadd, 1) := dk_96 (dk_at dksL_law_71 10 rfl rfl)
theorem dL_law_1863 : decode cL_law 1863 = .ok (.iaload, 1) := dk_46 (dk_at dksL_law_71 11 rfl rfl)
theorem dL_law_1864 : decode cL_law 1864 = .ok (.aload_n 3, 1) := dk_45 (dk_at dksL_law_71 12 rfl rfl)
theorem dL_law_1865 : decode cL_law 1865 = .ok (.invokestatic 252, 3) := dk_184 0 252 (dk_at dksL_law_71 13 rfl rfl)
theorem dL_law_1868 : decode cL_law 1868 = .ok (.istore 5, 2) := dk_54 5 (dk_at dksL_law_71 16 rfl rfl)
theorem dL_law_1870 : decode cL_law 1870 = .ok (.aload_n 2, 1) := dk_44 (dk_at dksL_law_71 18 rfl rfl)
theorem dL_law_1871 : decode cL_law 1871 = .ok (.aload_n 0, 1) := dk_42 (dk_at dksL_law_71 19 rfl rfl)
theorem dL_law_1872 : decode cL_law 1872 = .ok (.iload 4, 2) := dk_21 4 (dk_at dksL_law_71 20 rfl rfl)
theorem dL_law_1874 : decode cL_law 1874 = .ok (.iconst 1, 1) := dk_4 (dk_at dksL_law_71 22 rfl rfl)
theorem dL_law_1875 : decode cL_law 1875 = .ok (.iadd, 1) := dk_96 (dk_at dksL_law_71 23 rfl rfl)
theorem dL_law_1876 : decode cL_law 1876 = .ok (.iaload, 1) := dk_46 (dk_at dksL_law_72 0 rfl rfl)
theorem dL_law_1877 : decode cL_law 1877 = .ok (.invokevirtual 254, 3) := dk_182 0 254 (dk_at dksL_law_72 1 rfl rfl)
theorem dL_law_1880 : decode cL_law 1880 = .ok (.lstore 6, 2) := dk_55 6 (dk_at dksL_law_72 4 rfl rfl)
theorem dL_law_1882 : decode cL_law 1882 = .ok (.aload_n 2, 1) := dk_44 (dk_at dksL_law_72 6 rfl rfl)
theorem dL_law_1883 : decode cL_law 1883 = .ok (.invokevirtual 175, 3) := dk_182 0 175 (dk_at dksL_law_72 7 rfl rfl)
theorem dL_law_1886 : decode cL_law 1886 = .ok (.iload 5, 2) := dk_21 5 (dk_at dksL_law_72 10 rfl rfl)
theorem dL_law_1888 : decode cL_law 1888 = .ok (.if_icmp .eq 5, 3) := dk_159 0 5 (dk_at dksL_law_72 12 rfl rfl)
theorem dL_law_1891 : decode cL_law 1891 = .ok (.iconst 0, 1) := dk_3 (dk_at dksL_law_72 15 rfl rfl)
theorem dL_law_1892 : decode cL_law 1892 = .ok (.ireturn, 1) := dk_172 (dk_at dksL_law_72 16 rfl rfl)
theorem dL_law_1893 : decode cL_law 1893 = .ok (.iload 5, 2) := dk_21 5 (dk_at dksL_law_72 17 rfl rfl)
theorem dL_law_1895 : decode cL_law 1895 = .ok (.ifCond .ne 14, 3) := dk_154 0 14 (dk_at dksL_law_72 19 rfl rfl)
theorem dL_law_1898 : decode cL_law 1898 = .ok (.aload_n 3, 1) := dk_45 (dk_at dksL_law_72 22 rfl rfl)
theorem dL_law_1899 : decode cL_law 1899 = .ok (.iconst 0, 1) := dk_3 (dk_at dksL_law_72 23 rfl rfl)
theorem dL_law_1900 : decode cL_law 1900 = .ok (.laload, 1) := dk_47 (dk_at dksL_law_73 0 rfl rfl)
theorem dL_law_1901 : decode cL_law 1901 = .ok (.lload 6, 2) := dk_22 6 (dk_at dksL_law_73 1 rfl rfl)
theorem dL_law_1903 : decode cL_law 1903 = .ok (.lcmp, 1) := dk_148 (dk_at dksL_law_73 3 rfl rfl)
theorem dL_law_1904 : decode cL_law 1904 = .ok (.ifCond .eq 5, 3) := dk_153 0 5 (dk_at dksL_law_73 4 rfl rfl)
theorem dL_law_1907 : decode cL_law 1907 = .ok (.iconst 0, 1) := dk_3 (dk_at dksL_law_73 7 rfl rfl)
theorem dL_law_1908 : decode cL_law 1908 = .ok (.ireturn, 1) := dk_172 (dk_at dksL_law_73 8 rfl rfl)
theorem dL_law_1909 : decode cL_law 1909 = .ok (.goto 1831, 3) := dk_167 7 39 (dk_at dksL_law_73 9 rfl rfl)
theorem dL_law_1912 : decode cL_law 1912 = .ok (.aload_n 1, 1) := dk_43 (dk_at dksL_law_73 12 rfl rfl)
theorem dL_law_1913 : decode cL_law 1913 = .ok (.aload_n 0, 1) := dk_42 (dk_at dksL_law_73 13 rfl rfl)
theorem dL_law_1914 : decode cL_law 1914 = .ok (.iload 4, 2) := dk_21 4 (dk_at dksL_law_73 14 rfl rfl)
theorem dL_law_1916 : decode cL_law 1916 = .ok (.iconst 1, 1) := dk_4 (dk_at dksL_law_73 16 rfl rfl)
theorem dL_law_1917 : decode cL_law 1917 = .ok (.iadd, 1) := dk_96 (dk_at dksL_law_73 17 rfl rfl)
theorem dL_law_1918 : decode cL_law 1918 = .ok (.iaload, 1) := dk_46 (dk_at dksL_law_73 18 rfl rfl)
theorem dL_law_1919 : decode cL_law 1919 = .ok (.aload_n 3, 1) := dk_45 (dk_at dksL_law_73 19 rfl rfl)
theorem dL_law_1920 : decode cL_law 1920 = .ok (.invokestatic 255, 3) := dk_184 0 255 (dk_at dksL_law_73 20 rfl rfl)
theorem dL_law_1923 : decode cL_law 1923 = .ok (.istore 5, 2) := dk_54 5 (dk_at dksL_law_74 0 rfl rfl)
theorem dL_law_1925 : decode cL_law 1925 = .ok (.aload_n 2, 1) := dk_44 (dk_at dksL_law_74 2 rfl rfl)
theorem dL_law_1926 : decode cL_law 1926 = .ok (.aload_n 0, 1) := dk_42 (dk_at dksL_law_74 3 rfl rfl)
theorem dL_law_1927 : decode cL_law 1927 = .ok (.iload 4, 2) := dk_21 4 (dk_at dksL_law_74 4 rfl rfl)
theorem dL_law_1929 : decode cL_law 1929 = .ok (.iconst 1, 1) := dk_4 (dk_at dksL_law_74 6 rfl rfl)
theorem dL_law_1930 : decode cL_law 1930 = .ok (.iadd, 1) := dk_96 (dk_at dksL_law_74 7 rfl rfl)
theorem dL_law_1931 : decode cL_law 1931 = .ok (.iaload, 1) := dk_46 (dk_at dksL_law_74 8 rfl rfl)
theorem dL_law_1932 : decode cL_law 1932 = .ok (.invokevirtual 257, 3) := dk_182 1 1 (dk_at dksL_law_74 9 rfl rfl)
theorem dL_law_1935 : decode cL_law 1935 = .ok (.istore 6, 2) := dk_54 6 (dk_at dksL_law_74 12 rfl rfl)
theorem dL_law_1937 : decode cL_law 1937 = .ok (.aload_n 2, 1) := dk_44 (dk_at dksL_law_74 14 rfl rfl)
theorem dL_law_1938 : decode cL_law 1938 = .ok (.invokevirtual 175, 3) := dk_182 0 175 (dk_at dksL_law_74 15 rfl rfl)
theorem dL_law_1941 : decode cL_law 1941 = .ok (.iload 5, 2) := dk_21 5 (dk_at dksL_law_74 18 rfl rfl)
theorem dL_law_1943 : decode cL_law 1943 = .ok (.if_icmp .eq 5, 3) := dk_159 0 5 (dk_at dksL_law_74 20 rfl rfl)
theorem dL_law_1946 : decode cL_law 1946 = .ok (.iconst 0, 1) := dk_3 (dk_at dksL_law_74 23 rfl rfl)
theorem dL_law_1947 : decode cL_law 1947 = .ok (.ireturn, 1) := dk_172 (dk_at dksL_law_75 0 rfl rfl)
theorem dL_law_1948 : decode cL_law 1948 = .ok (.iload 5, 2) := dk_21 5 (dk_at dksL_law_75 1 rfl rfl)
theorem dL_law_1950 : decode cL_law 1950 = .ok (.ifCond .ne 15, 3) := dk_154 0 15 (dk_at dksL_law_75 3 rfl rfl)
theorem dL_law_1953 : decode cL_law 1953 = .ok (.aload_n 3, 1) := dk_45 (dk_at dksL_law_75 6 rfl rfl)
theorem dL_law_1954 : decode cL_law 1954 = .ok (.iconst 0, 1) := dk_3 (dk_at dksL_law_75 7 rfl rfl)
theorem dL_law_1955 : decode cL_law 1955 = .ok (.laload, 1) := dk_47 (dk_at dksL_law_75 8 rfl rfl)
theorem dL_law_1956 : decode cL_law 1956 = .ok (.iload 6, 2) := dk_21 6 (dk_at dksL_law_75 9 rfl rfl)
theorem dL_law_1958 : decode cL_law 1958 = .ok (.i2l, 1) := dk_133 (dk_at dksL_law_75 11 rfl rfl)
theorem dL_law_1959 : decode cL_law 1959 = .ok (.lcmp, 1) := dk_148 (dk_at dksL_law_75 12 rfl rfl)
theorem dL_law_1960 : decode cL_law 1960 = .ok (.ifCond .eq 5, 3) := dk_153 0 5 (dk_at dksL_law_75 13 rfl rfl)
theorem dL_law_1963 : decode cL_law 1963 = .ok (.iconst 0, 1) := dk_3 (dk_at dksL_law_75 16 rfl rfl)
theorem dL_law_1964 : decode cL_law 1964 = .ok (.ireturn, 1) := dk_172 (dk_at dksL_law_75 17 rfl rfl)
theorem dL_law_1965 : decode cL_law 1965 = .ok (.goto 1775, 3) := dk_167 6 239 (dk_at dksL_law_75 18 rfl rfl)
theorem dL_law_1968 : decode cL_law 1968 = .ok (.aload_n 1, 1) := dk_43 (dk_at dksL_law_75 21 rfl rfl)
theorem dL_law_1969 : decode cL_law 1969 = .ok (.aload_n 0, 1) := dk_42 (dk_at dksL_law_75 22 rfl rfl)
theorem dL_law_1970 : decode cL_law 1970 = .ok (.iload 4, 2) := dk_21 4 (dk_at dksL_law_76 0 rfl rfl)
theorem dL_law_1972 : decode cL_law 1972 = .ok (.iconst 1, 1) := dk_4 (dk_at dksL_law_76 2 rfl rfl)
theorem dL_law_1973 : decode cL_law 1973 = .ok (.iadd, 1) := dk_96 (dk_at dksL_law_76 3 rfl rfl)
theorem dL_law_1974 : decode cL_law 1974 = .ok (.iaload, 1) := dk_46 (dk_at dksL_law_76 4 rfl rfl)
theorem dL_law_1975 : decode cL_law 1975 = .ok (.aload_n 0, 1) := dk_42 (dk_at dksL_law_76 5 rfl rfl)
theorem dL_law_1976 : decode cL_law 1976 = .ok (.iload 4, 2) := dk_21 4 (dk_at dksL_law_76 6 rfl rfl)
theorem dL_law_1978 : decode cL_law 1978 = .ok (.iconst 2, 1) := dk_5 (dk_at dksL_law_76 8 rfl rfl)
theorem dL_law_1979 : decode cL_law 1979 = .ok (.iadd, 1) := dk_96 (dk_at dksL_law_76 9 rfl rfl)
theorem dL_law_1980 : decode cL_law 1980 = .ok (.iaload, 1) := dk_46 (dk_at dksL_law_76 10 rfl rfl)
theorem dL_law_1981 : decode cL_law 1981 = .ok (.aload_n 0, 1) := dk_42 (dk_at dksL_law_76 11 rfl rfl)
theorem dL_law_1982 : decode cL_law 1982 = .ok (.iload 4, 2) := dk_21 4 (dk_at dksL_law_76 12 rfl rfl)
theorem dL_law_1984 : decode cL_law 1984 = .ok (.iconst 3, 1) := dk_6 (dk_at dksL_law_76 14 rfl rfl)
theorem dL_law_1985 : decode cL_law 1985 = .ok (.iadd, 1) := dk_96 (dk_at dksL_law_76 15 rfl rfl)
theorem dL_law_1986 : decode cL_law 1986 = .ok (.iaload, 1) := dk_46 (dk_at dksL_law_76 16 rfl rfl)
theorem dL_law_1987 : decode cL_law 1987 = .ok (.aload_n 0, 1) := dk_42 (dk_at dksL_law_76 17 rfl rfl)
theorem dL_law_1988 : decode cL_law 1988 = .ok (.iload 4, 2) := dk_21 4 (dk_at dksL_law_76 18 rfl rfl)
theorem dL_law_1990 : decode cL_law 1990 = .ok (.iconst 4, 1) := dk_7 (dk_at dksL_law_76 20 rfl rfl)
theorem dL_law_1991 : decode cL_law 1991 = .ok (.iadd, 1) := dk_96 (dk_at dksL_law_76 21 rfl rfl)
theorem dL_law_1992 : decode cL_law 1992 = .ok (.iaload, 1) := dk_46 (dk_at dksL_law_76 22 rfl rfl)
theorem dL_law_1993 : decode cL_law 1993 = .ok (.aload_n 3, 1) := dk_45 (dk_at dksL_law_76 23 rfl rfl)
theorem dL_law_1994 : decode cL_law 1994 = .ok (.invokestatic 258, 3) := dk_184 1 2 (dk_at dksL_law_77 0 rfl rfl)
theorem dL_law_1997 : decode cL_law 1997 = .ok (.istore 5, 2) := dk_54 5 (dk_at dksL_law_77 3 rfl rfl)
theorem dL_law_1999 : decode cL_law 1999 = .ok (.aload_n 2, 1) := dk_44 (dk_at dksL_law_77 5 rfl rfl)
theorem dL_law_2000 : decode cL_law 2000 = .ok (.aload_n 0, 1) := dk_42 (dk_at dksL_law_77 6 rfl rfl)
theorem dL_law_2001 : decode cL_law 2001 = .ok (.iload 4, 2) := dk_21 4 (dk_at dksL_law_77 7 rfl rfl)
theorem dL_law_2003 : decode cL_law 2003 = .ok (.iconst 1, 1) := dk_4 (dk_at dksL_law_77 9 rfl rfl)
theorem dL_law_2004 : decode cL_law 2004 = .ok (.iadd, 1) := dk_96 (dk_at dksL_law_77 10 rfl rfl)
theorem dL_law_2005 : decode cL_law 2005 = .ok (.iaload, 1) := dk_46 (dk_at dksL_law_77 11 rfl rfl)
theorem dL_law_2006 : decode cL_law 2006 = .ok (.aload_n 0, 1) := dk_42 (dk_at dksL_law_77 12 rfl rfl)
theorem dL_law_2007 : decode cL_law 2007 = .ok (.iload 4, 2) := dk_21 4 (dk_at dksL_law_77 13 rfl rfl)
theorem dL_law_2009 : decode cL_law 2009 = .ok (.iconst 2, 1) := dk_5 (dk_at dksL_law_77 15 rfl rfl)
theorem dL_law_2010 : decode cL_law 2010 = .ok (.iadd, 1) := dk_96 (dk_at dksL_law_77 16 rfl rfl)
theorem dL_law_2011 : decode cL_law 2011 = .ok (.iaload, 1) := dk_46 (dk_at dksL_law_77 17 rfl rfl)
theorem dL_law_2012 : decode cL_law 2012 = .ok (.aload_n 0, 1) := dk_42 (dk_at dksL_law_77 18 rfl rfl)
theorem dL_law_2013 : decode cL_law 2013 = .ok (.iload 4, 2) := dk_21 4 (dk_at dksL_law_77 19 rfl rfl)
theorem dL_law_2015 : decode cL_law 2015 = .ok (.iconst 3, 1) := dk_6 (dk_at dksL_law_77 21 rfl rfl)
theorem dL_law_2016 : decode cL_law 2016 = .ok (.iadd, 1) := dk_96 (dk_at dksL_law_77 22 rfl rfl)
theorem dL_law_2017 : decode cL_law 2017 = .ok (.iaload, 1) := dk_46 (dk_at dksL_law_77 23 rfl rfl)
theorem dL_law_2018 : decode cL_law 2018 = .ok (.aload_n 0, 1) := dk_42 (dk_at dksL_law_78 0 rfl rfl)
theorem dL_law_2019 : decode cL_law 2019 = .ok (.iload 4, 2) := dk_21 4 (dk_at dksL_law_78 1 rfl rfl)
theorem dL_law_2021 : decode cL_law 2021 = .ok (.iconst 4, 1) := dk_7 (dk_at dksL_law_78 3 rfl rfl)
theorem dL_law_2022 : decode cL_law 2022 = .ok (.iadd, 1) := dk_96 (dk_at dksL_law_78 4 rfl rfl)
theorem dL_law_2023 : decode cL_law 2023 = .ok (.iaload, 1) := dk_46 (dk_at dksL_law_78 5 rfl rfl)
theorem dL_law_2024 : decode cL_law 2024 = .ok (.invokevirtual 260, 3) := dk_182 1 4 (dk_at dksL_law_78 6 rfl rfl)
theorem dL_law_2027 : decode cL_law 2027 = .ok (.istore 6, 2) := dk_54 6 (dk_at dksL_law_78 9 rfl rfl)
theorem dL_law_2029 : decode cL_law 2029 = .ok (.aload_n 2, 1) := dk_44 (dk_at dksL_law_78 11 rfl rfl)
theorem dL_law_2030 : decode cL_law 2030 = .ok (.invokevirtual 175, 3) := dk_182 0 175 (dk_at dksL_law_78 12 rfl rfl)
theorem dL_law_2033 : decode cL_law 2033 = .ok (.iload 5, 2) := dk_21 5 (dk_at dksL_law_78 15 rfl rfl)
theorem dL_law_2035 : decode cL_law 2035 = .ok (.if_icmp .eq 5, 3) := dk_159 0 5 (dk_at dksL_law_78 17 rfl rfl)
theorem dL_law_2038 : decode cL_law 2038 = .ok (.iconst 0, 1) := dk_3 (dk_at dksL_law_78 20 rfl rfl)
theorem dL_law_2039 : decode cL_law 2039 = .ok (.ireturn, 1) := dk_172 (dk_at dksL_law_78 21 rfl rfl)
theorem dL_law_2040 : decode cL_law 2040 = .ok (.iload 5, 2) := dk_21 5 (dk_at dksL_law_78 22 rfl rfl)
theorem dL_law_2042 : decode cL_law 2042 = .ok (.ifCond .ne 15, 3) := dk_154 0 15 (dk_at dksL_law_79 0 rfl rfl)
theorem dL_law_2045 : decode cL_law 2045 = .ok (.aload_n 3, 1) := dk_45 (dk_at dksL_law_79 3 rfl rfl)
theorem dL_law_2046 : decode cL_law 2046 = .ok (.iconst 0, 1) := dk_3 (dk_at dksL_law_79 4 rfl rfl)
theorem dL_law_2047 : decode cL_law 2047 = .ok (.laload, 1) := dk_47 (dk_at dksL_law_79 5 rfl rfl)
theorem dL_law_2048 : decode cL_law 2048 = .ok (.iload 6, 2) := dk_21 6 (dk_at dksL_law_79 6 rfl rfl)
theorem dL_law_2050 : decode cL_law 2050 = .ok (.i2l, 1) := dk_133 (dk_at dksL_law_79 8 rfl rfl)
theorem dL_law_2051 : decode cL_law 2051 = .ok (.lcmp, 1) := dk_148 (dk_at dksL_law_79 9 rfl rfl)
theorem dL_law_2052 : decode cL_law 2052 = .ok (.ifCond .eq 5, 3) := dk_153 0 5 (dk_at dksL_law_79 10 rfl rfl)
theorem dL_law_2055 : decode cL_law 2055 = .ok (.iconst 0, 1) := dk_3 (dk_at dksL_law_79 13 rfl rfl)
theorem dL_law_2056 : decode cL_law 2056 = .ok (.ireturn, 1) := dk_172 (dk_at dksL_law_79 14 rfl rfl)
theorem dL_law_2057 : decode cL_law 2057 = .ok (.goto 1683, 3) := dk_167 6 147 (dk_at dksL_law_79 15 rfl rfl)
theorem dL_law_2060 : decode cL_law 2060 = .ok (.aload_n 1, 1) := dk_43 (dk_at dksL_law_79 18 rfl rfl)
theorem dL_law_2061 : decode cL_law 2061 = .ok (.aload_n 0, 1) := dk_42 (dk_at dksL_law_79 19 rfl rfl)
theorem dL_law_2062 : decode cL_law 2062 = .ok (.iload 4, 2) := dk_21 4 (dk_at dksL_law_79 20 rfl rfl)
theorem dL_law_2064 : decode cL_law 2064 = .ok (.iconst 1, 1) := dk_4 (dk_at dksL_law_79 22 rfl rfl)
theorem dL_law_2065 : decode cL_law 2065 = .ok (.iadd, 1) := dk_96 (dk_at dksL_law_79 23 rfl rfl)
theorem dL_law_2066 : decode cL_law 2066 = .ok (.iaload, 1) := dk_46 (dk_at dksL_law_80 0 rfl rfl)
theorem dL_law_2067 : decode cL_law 2067 = .ok (.aload_n 0, 1) := dk_42 (dk_at dksL_law_80 1 rfl rfl)
theorem dL_law_2068 : decode cL_law 2068 = .ok (.iload 4, 2) := dk_21 4 (dk_at dksL_law_80 2 rfl rfl)
theorem dL_law_2070 : decode cL_law 2070 = .ok (.iconst 2, 1) := dk_5 (dk_at dksL_law_80 4 rfl rfl)
theorem dL_law_2071 : decode cL_law 2071 = .ok (.iadd, 1) := dk_96 (dk_at dksL_law_80 5 rfl rfl)
theorem dL_law_2072 : decode cL_law 2072 = .ok (.iaload, 1) := dk_46 (dk_at dksL_law_80 6 rfl rfl)
theorem dL_law_2073 : decode cL_law 2073 = .ok (.aload_n 0, 1) := dk_42 (dk_at dksL_law_80 7 rfl rfl)
theorem dL_law_2074 : decode cL_law 2074 = .ok (.iload 4, 2) := dk_21 4 (dk_at dksL_law_80 8 rfl rfl)
theorem dL_law_2076 : decode cL_law 2076 = .ok (.iconst 3, 1) := dk_6 (dk_at dksL_law_80 10 rfl rfl)
theorem dL_law_2077 : decode cL_law 2077 = .ok (.iadd, 1) := dk_96 (dk_at dksL_law_80 11 rfl rfl)
theorem dL_law_2078 : decode cL_law 2078 = .ok (.iaload, 1) := dk_46 (dk_at dksL_law_80 12 rfl rfl)
theorem dL_law_2079 : decode cL_law 2079 = .ok (.aload_n 0, 1) := dk_42 (dk_at dksL_law_80 13 rfl rfl)
theorem dL_law_2080 : decode cL_law 2080 = .ok (.iload 4, 2) := dk_21 4 (dk_at dksL_law_80 14 rfl rfl)
theorem dL_law_2082 : decode cL_law 2082 = .ok (.iconst 4, 1) := dk_7 (dk_at dksL_law_80 16 rfl rfl)
theorem dL_law_2083 : decode cL_law 2083 = .ok (.iadd, 1) := dk_96 (dk_at dksL_law_80 17 rfl rfl)
theorem dL_law_2084 : decode cL_law 2084 = .ok (.iaload, 1) := dk_46 (dk_at dksL_law_80 18 rfl rfl)
theorem dL_law_2085 : decode cL_law 2085 = .ok (.aload_n 0, 1) := dk_42 (dk_at dksL_law_80 19 rfl rfl)
theorem dL_law_2086 : decode cL_law 2086 = .ok (.iload 4, 2) := dk_21 4 (dk_at dksL_law_80 20 rfl rfl)
theorem dL_law_2088 : decode cL_law 2088 = .ok (.iconst 5, 1) := dk_8 (dk_at dksL_law_80 22 rfl rfl)
theorem dL_law_2089 : decode cL_law 2089 = .ok (.iadd, 1) := dk_96 (dk_at dksL_law_80 23 rfl rfl)
theorem dL_law_2090 : decode cL_law 2090 = .ok (.iaload, 1) := dk_46 (dk_at dksL_law_81 0 rfl rfl)
theorem dL_law_2091 : decode cL_law 2091 = .ok (.aload_n 3, 1) := dk_45 (dk_at dksL_law_81 1 rfl rfl)
theorem dL_law_2092 : decode cL_law 2092 = .ok (.invokestatic 261, 3) := dk_184 1 5 (dk_at dksL_law_81 2 rfl rfl)
theorem dL_law_2095 : decode cL_law 2095 = .ok (.istore 5, 2) := dk_54 5 (dk_at dksL_law_81 5 rfl rfl)
theorem dL_law_2097 : decode cL_law 2097 = .ok (.aload_n 2, 1) := dk_44 (dk_at dksL_law_81 7 rfl rfl)
theorem dL_law_2098 : decode cL_law 2098 = .ok (.aload_n 0, 1) := dk_42 (dk_at dksL_law_81 8 rfl rfl)
theorem dL_law_2099 : decode cL_law 2099 = .ok (.iload 4, 2) := dk_21 4 (dk_at dksL_law_81 9 rfl rfl)
theorem dL_law_2101 : decode cL_law 2101 = .ok (.iconst 1, 1) := dk_4 (dk_at dksL_law_81 11 rfl rfl)
theorem dL_law_2102 : decode cL_law 2102 = .ok (.iadd, 1) := dk_96 (dk_at dksL_law_81 12 rfl rfl)
theorem dL_law_2103 : decode cL_law 2103 = .ok (.iaload, 1) := dk_46 (dk_at dksL_law_81 13 rfl rfl)
theorem dL_law_2104 : decode cL_law 2104 = .ok (.aload_n 0, 1) := dk_42 (dk_at dksL_law_81 14 rfl rfl)
theorem dL_law_2105 : decode cL_law 2105 = .ok (.iload 4, 2) := dk_21 4 (dk_at dksL_law_81 15 rfl rfl)
theorem dL_law_2107 : decode cL_law 2107 = .ok (.iconst 2, 1) := dk_5 (dk_at dksL_law_81 17 rfl rfl)
theorem dL_law_2108 : decode cL_law 2108 = .ok (.iadd, 1) := dk_96 (dk_at dksL_law_81 18 rfl rfl)
theorem dL_law_2109 : decode cL_law 2109 = .ok (.iaload, 1) := dk_46 (dk_at dksL_law_81 19 rfl rfl)
theorem dL_law_2110 : decode cL_law 2110 = .ok (.aload_n 0, 1) := dk_42 (dk_at dksL_law_81 20 rfl rfl)
theorem dL_law_2111 : decode cL_law 2111 = .ok (.iload 4, 2) := dk_21 4 (dk_at dksL_law_81 21 rfl rfl)
theorem dL_law_2113 : decode cL_law 2113 = .ok (.iconst 3, 1) := dk_6 (dk_at dksL_law_81 23 rfl rfl)
theorem dL_law_2114 : decode cL_law 2114 = .ok (.iadd, 1) := dk_96 (dk_at dksL_law_82 0 rfl rfl)
theorem dL_law_2115 : decode cL_law 2115 = .ok (.iaload, 1) := dk_46 (dk_at dksL_law_82 1 rfl rfl)
theorem dL_law_2116 : decode cL_law 2116 = .ok (.aload_n 0, 1) := dk_42 (dk_at dksL_law_82 2 rfl rfl)
theorem dL_law_2117 : decode cL_law 2117 = .ok (.iload 4, 2) := dk_21 4 (dk_at dksL_law_82 3 rfl rfl)
theorem dL_law_2119 : decode cL_law 2119 = .ok (.iconst 4, 1) := dk_7 (dk_at dksL_law_82 5 rfl rfl)
theorem dL_law_2120 : decode cL_law 2120 = .ok (.iadd, 1) := dk_96 (dk_at dksL_law_82 6 rfl rfl)
theorem dL_law_2121 : decode cL_law 2121 = .ok (.iaload, 1) := dk_46 (dk_at dksL_law_82 7 rfl rfl)
theorem dL_law_2122 : decode cL_law 2122 = .ok (.aload_n 0, 1) := dk_42 (dk_at dksL_law_82 8 rfl rfl)
theorem dL_law_2123 : decode cL_law 2123 = .ok (.iload 4, 2) := dk_21 4 (dk_at dksL_law_82 9 rfl rfl)
theorem dL_law_2125 : decode cL_law 2125 = .ok (.iconst 5, 1) := dk_8 (dk_at dksL_law_82 11 rfl rfl)
theorem dL_law_2126 : decode cL_law 2126 = .ok (.iadd, 1) := dk_96 (dk_at dksL_law_82 12 rfl rfl)
theorem dL_law_2127 : decode cL_law 2127 = .ok (.iaload, 1) := dk_46 (dk_at dksL_law_82 13 rfl rfl)
theorem dL_law_2128 : decode cL_law 2128 = .ok (.invokevirtual 264, 3) := dk_182 1 8 (dk_at dksL_law_82 14 rfl rfl)
theorem dL_law_2131 : decode cL_law 2131 = .ok (.lstore 6, 2) := dk_55 6 (dk_at dksL_law_82 17 rfl rfl)
theorem dL_law_2133 : decode cL_law 2133 = .ok (.aload_n 2, 1) := dk_44 (dk_at dksL_law_82 19 rfl rfl)
theorem dL_law_2134 : decode cL_law 2134 = .ok (.invokevirtual 175, 3) := dk_182 0 175 (dk_at dksL_law_82 20 rfl rfl)
theorem dL_law_2137 : decode cL_law 2137 = .ok (.iload 5, 2) := dk_21 5 (dk_at dksL_law_83 0 rfl rfl)
theorem dL_law_2139 : decode cL_law 2139 = .ok (.if_icmp .eq 5, 3) := dk_159 0 5 (dk_at dksL_law_83 2 rfl rfl)
theorem dL_law_2142 : decode cL_law 2142 = .ok (.iconst 0, 1) := dk_3 (dk_at dksL_law_83 5 rfl rfl)
theorem dL_law_2143 : decode cL_law 2143 = .ok (.ireturn, 1) := dk_172 (dk_at dksL_law_83 6 rfl rfl)
theorem dL_law_2144 : decode cL_law 2144 = .ok (.iload 5, 2) := dk_21 5 (dk_at dksL_law_83 7 rfl rfl)
theorem dL_law_2146 : decode cL_law 2146 = .ok (.ifCond .ne 14, 3) := dk_154 0 14 (dk_at dksL_law_83 9 rfl rfl)
theorem dL_law_2149 : decode cL_law 2149 = .ok (.aload_n 3, 1) := dk_45 (dk_at dksL_law_83 12 rfl rfl)
theorem dL_law_2150 : decode cL_law 2150 = .ok (.iconst 0, 1) := dk_3 (dk_at dksL_law_83 13 rfl rfl)
theorem dL_law_2151 : decode cL_law 2151 = .ok (.laload, 1) := dk_47 (dk_at dksL_law_83 14 rfl rfl)
theorem dL_law_2152 : decode cL_law 2152 = .ok (.lload 6, 2) := dk_22 6 (dk_at dksL_law_83 15 rfl rfl)
theorem dL_law_2154 : decode cL_law 2154 = .ok (.lcmp, 1) := dk_148 (dk_at dksL_law_83 17 rfl rfl)
theorem dL_law_2155 : decode cL_law 2155 = .ok (.ifCond .eq 5, 3) := dk_153 0 5 (dk_at dksL_law_83 18 rfl rfl)
theorem dL_law_2158 : decode cL_law 2158 = .ok (.iconst 0, 1) := dk_3 (dk_at dksL_law_83 21 rfl rfl)
theorem dL_law_2159 : decode cL_law 2159 = .ok (.ireturn, 1) := dk_172 (dk_at dksL_law_83 22 rfl rfl)
theorem dL_law_2160 : decode cL_law 2160 = .ok (.goto 1580, 3) := dk_167 6 44 (dk_at dksL_law_84 0 rfl rfl)
theorem dL_law_2163 : decode cL_law 2163 = .ok (.aload_n 1, 1) := dk_43 (dk_at dksL_law_84 3 rfl rfl)
theorem dL_law_2164 : decode cL_law 2164 = .ok (.aload_n 0, 1) := dk_42 (dk_at dksL_law_84 4 rfl rfl)
theorem dL_law_2165 : decode cL_law 2165 = .ok (.iload 4, 2) := dk_21 4 (dk_at dksL_law_84 5 rfl rfl)
theorem dL_law_2167 : decode cL_law 2167 = .ok (.iconst 1, 1) := dk_4 (dk_at dksL_law_84 7 rfl rfl)
theorem dL_law_2168 : decode cL_law 2168 = .ok (.iadd, 1) := dk_96 (dk_at dksL_law_84 8 rfl rfl)
theorem dL_law_2169 : decode cL_law 2169 = .ok (.iaload, 1) := dk_46 (dk_at dksL_law_84 9 rfl rfl)
theorem dL_law_2170 : decode cL_law 2170 = .ok (.aload_n 0, 1) := dk_42 (dk_at dksL_law_84 10 rfl rfl)
theorem dL_law_2171 : decode cL_law 2171 = .ok (.iload 4, 2) := dk_21 4 (dk_at dksL_law_84 11 rfl rfl)
theorem dL_law_2173 : decode cL_law 2173 = .ok (.iconst 2, 1) := dk_5 (dk_at dksL_law_84 13 rfl rfl)
theorem dL_law_2174 : decode cL_law 2174 = .ok (.iadd, 1) := dk_96 (dk_at dksL_law_84 14 rfl rfl)
theorem dL_law_2175 : decode cL_law 2175 = .ok (.iaload, 1) := dk_46 (dk_at dksL_law_84 15 rfl rfl)
theorem dL_law_2176 : decode cL_law 2176 = .ok (.aload_n 0, 1) := dk_42 (dk_at dksL_law_84 16 rfl rfl)
theorem dL_law_2177 : decode cL_law 2177 = .ok (.iload 4, 2) := dk_21 4 (dk_at dksL_law_84 17 rfl rfl)
theorem dL_law_2179 : decode cL_law 2179 = .ok (.iconst 3, 1) := dk_6 (dk_at dksL_law_84 19 rfl rfl)
theorem dL_law_2180 : decode cL_law 2180 = .ok (.iadd, 1) := dk_96 (dk_at dksL_law_84 20 rfl rfl)
theorem dL_law_2181 : decode cL_law 2181 = .ok (.iaload, 1) := dk_46 (dk_at dksL_law_84 21 rfl rfl)
theorem dL_law_2182 : decode cL_law 2182 = .ok (.aload_n 0, 1) := dk_42 (dk_at dksL_law_84 22 rfl rfl)
theorem dL_law_2183 : decode cL_law 2183 = .ok (.iload 4, 2) := dk_21 4 (dk_at dksL_law_85 0 rfl rfl)
theorem dL_law_2185 : decode cL_law 2185 = .ok (.iconst 4, 1) := dk_7 (dk_at dksL_law_85 2 rfl rfl)
theorem dL_law_2186 : decode cL_law 2186 = .ok (.iadd, 1) := dk_96 (dk_at dksL_law_85 3 rfl rfl)
theorem dL_law_2187 : decode cL_law 2187 = .ok (.iaload, 1) := dk_46 (dk_at dksL_law_85 4 rfl rfl)
theorem dL_law_2188 : decode cL_law 2188 = .ok (.aload_n 0, 1) := dk_42 (dk_at dksL_law_85 5 rfl rfl)
theorem dL_law_2189 : decode cL_law 2189 = .ok (.iload 4, 2) := dk_21 4 (dk_at dksL_law_85 6 rfl rfl)
theorem dL_law_2191 : decode cL_law 2191 = .ok (.iconst 5, 1) := dk_8 (dk_at dksL_law_85 8 rfl rfl)
theorem dL_law_2192 : decode cL_law 2192 = .ok (.iadd, 1) := dk_96 (dk_at dksL_law_85 9 rfl rfl)
theorem dL_law_2193 : decode cL_law 2193 = .ok (.iaload, 1) := dk_46 (dk_at dksL_law_85 10 rfl rfl)
theorem dL_law_2194 : decode cL_law 2194 = .ok (.aload_n 3, 1) := dk_45 (dk_at dksL_law_85 11 rfl rfl)
theorem dL_law_2195 : decode cL_law 2195 = .ok (.invokestatic 265, 3) := dk_184 1 9 (dk_at dksL_law_85 12 rfl rfl)
theorem dL_law_2198 : decode cL_law 2198 = .ok (.istore 5, 2) := dk_54 5 (dk_at dksL_law_85 15 rfl rfl)
theorem dL_law_2200 : decode cL_law 2200 = .ok (.aload_n 2, 1) := dk_44 (dk_at dksL_law_85 17 rfl rfl)
theorem dL_law_2201 : decode cL_law 2201 = .ok (.aload_n 0, 1) := dk_42 (dk_at dksL_law_85 18 rfl rfl)
theorem dL_law_2202 : decode cL_law 2202 = .ok (.iload 4, 2) := dk_21 4 (dk_at dksL_law_85 19 rfl rfl)
theorem dL_law_2204 : decode cL_law 2204 = .ok (.iconst 1, 1) := dk_4 (dk_at dksL_law_85 21 rfl rfl)
theorem dL_law_2205 : decode cL_law 2205 = .ok (.iadd, 1) := dk_96 (dk_at dksL_law_85 22 rfl rfl)
theorem dL_law_2206 : decode cL_law 2206 = .ok (.iaload, 1) := dk_46 (dk_at dksL_law_85 23 rfl rfl)
theorem dL_law_2207 : decode cL_law 2207 = .ok (.aload_n 0, 1) := dk_42 (dk_at dksL_law_86 0 rfl rfl)
theorem dL_law_2208 : decode cL_law 2208 = .ok (.iload 4, 2) := dk_21 4 (dk_at dksL_law_86 1 rfl rfl)
theorem dL_law_2210 : decode cL_law 2210 = .ok (.iconst 2, 1) := dk_5 (dk_at dksL_law_86 3 rfl rfl)
theorem dL_law_2211 : decode cL_law 2211 = .ok (.iadd, 1) := dk_96 (dk_at dksL_law_86 4 rfl rfl)
theorem dL_law_2212 : decode cL_law 2212 = .ok (.iaload, 1) := dk_46 (dk_at dksL_law_86 5 rfl rfl)
theorem dL_law_2213 : decode cL_law 2213 = .ok (.aload_n 0, 1) := dk_42 (dk_at dksL_law_86 6 rfl rfl)
theorem dL_law_2214 : decode cL_law 2214 = .ok (.iload 4, 2) := dk_21 4 (dk_at dksL_law_86 7 rfl rfl)
theorem dL_law_2216 : decode cL_law 2216 = .ok (.iconst 3, 1) := dk_6 (dk_at dksL_law_86 9 rfl rfl)
theorem dL_law_2217 : decode cL_law 2217 = .ok (.iadd, 1) := dk_96 (dk_at dksL_law_86 10 rfl rfl)
theorem dL_law_2218 : decode cL_law 2218 = .ok (.iaload, 1) := dk_46 (dk_at dksL_law_86 11 rfl rfl)
theorem dL_law_2219 : decode cL_law 2219 = .ok (.aload_n 0, 1) := dk_42 (dk_at dksL_law_86 12 rfl rfl)
theorem dL_law_2220 : decode cL_law 2220 = .ok (.iload 4, 2) := dk_21 4 (dk_at dksL_law_86 13 rfl rfl)
theorem dL_law_2222 : decode cL_law 2222 = .ok (.iconst 4, 1) := dk_7 (dk_at dksL_law_86 15 rfl rfl)
theorem dL_law_2223 : decode cL_law 2223 = .ok (.iadd, 1) := dk_96 (dk_at dksL_law_86 16 rfl rfl)
theorem dL_law_2224 : decode cL_law 2224 = .ok (.iaload, 1) := dk_46 (dk_at dksL_law_86 17 rfl rfl)
theorem dL_law_2225 : decode cL_law 2225 = .ok (.aload_n 0, 1) := dk_42 (dk_at dksL_law_86 18 rfl rfl)
theorem dL_law_2226 : decode cL_law 2226 = .ok (.iload 4, 2) := dk_21 4 (dk_at dksL_law_86 19 rfl rfl)
theorem dL_law_2228 : decode cL_law 2228 = .ok (.iconst 5, 1) := dk_8 (dk_at dksL_law_86 21 rfl rfl)
theorem dL_law_2229 : decode cL_law 2229 = .ok (.iadd, 1) := dk_96 (dk_at dksL_law_86 22 rfl rfl)
theorem dL_law_2230 : decode cL_law 2230 = .ok (.iaload, 1) := dk_46 (dk_at dksL_law_86 23 rfl rfl)
theorem dL_law_2231 : decode cL_law 2231 = .ok (.invokevirtual 267, 3) := dk_182 1 11 (dk_at dksL_law_87 0 rfl rfl)
theorem dL_law_2234 : decode cL_law 2234 = .ok (.lstore 6, 2) := dk_55 6 (dk_at dksL_law_87 3 rfl rfl)
theorem dL_law_2236 : decode cL_law 2236 = .ok (.aload_n 2, 1) := dk_44 (dk_at dksL_law_87 5 rfl rfl)
theorem dL_law_2237 : decode cL_law 2237 = .ok (.invokevirtual 175, 3) := dk_182 0 175 (dk_at dksL_law_87 6 rfl rfl)
theorem dL_law_2240 : decode cL_law 2240 = .ok (.iload 5, 2) := dk_21 5 (dk_at dksL_law_87 9 rfl rfl)
theorem dL_law_2242 : decode cL_law 2242 = .ok (.if_icmp .eq 5, 3) := dk_159 0 5 (dk_at dksL_law_87 11 rfl rfl)
theorem dL_law_2245 : decode cL_law 2245 = .ok (.iconst 0, 1) := dk_3 (dk_at dksL_law_87 14 rfl rfl)
theorem dL_law_2246 : decode cL_law 2246 = .ok (.ireturn, 1) := dk_172 (dk_at dksL_law_87 15 rfl rfl)
theorem dL_law_2247 : decode cL_law 2247 = .ok (.iload 5, 2) := dk_21 5 (dk_at dksL_law_87 16 rfl rfl)
theorem dL_law_2249 : decode cL_law 2249 = .ok (.ifCond .ne 14, 3) := dk_154 0 14 (dk_at dksL_law_87 18 rfl rfl)
theorem dL_law_2252 : decode cL_law 2252 = .ok (.aload_n 3, 1) := dk_45 (dk_at dksL_law_87 21 rfl rfl)
theorem dL_law_2253 : decode cL_law 2253 = .ok (.iconst 0, 1) := dk_3 (dk_at dksL_law_87 22 rfl rfl)
theorem dL_law_2254 : decode cL_law 2254 = .ok (.laload, 1) := dk_47 (dk_at dksL_law_87 23 rfl rfl)
theorem dL_law_2255 : decode cL_law 2255 = .ok (.lload 6, 2) := dk_22 6 (dk_at dksL_law_88 0 rfl rfl)
theorem dL_law_2257 : decode cL_law 2257 = .ok (.lcmp, 1) := dk_148 (dk_at dksL_law_88 2 rfl rfl)
theorem dL_law_2258 : decode cL_law 2258 = .ok (.ifCond .eq 5, 3) := dk_153 0 5 (dk_at dksL_law_88 3 rfl rfl)
theorem dL_law_2261 : decode cL_law 2261 = .ok (.iconst 0, 1) := dk_3 (dk_at dksL_law_88 6 rfl rfl)
theorem dL_law_2262 : decode cL_law 2262 = .ok (.ireturn, 1) := dk_172 (dk_at dksL_law_88 7 rfl rfl)
theorem dL_law_2263 : decode cL_law 2263 = .ok (.goto 1477, 3) := dk_167 5 197 (dk_at dksL_law_88 8 rfl rfl)
theorem dL_law_2266 : decode cL_law 2266 = .ok (.aload_n 1, 1) := dk_43 (dk_at dksL_law_88 11 rfl rfl)
theorem dL_law_2267 : decode cL_law 2267 = .ok (.aload_n 0, 1) := dk_42 (dk_at dksL_law_88 12 rfl rfl)
theorem dL_law_2268 : decode cL_law 2268 = .ok (.iload 4, 2) := dk_21 4 (dk_at dksL_law_88 13 rfl rfl)
theorem dL_law_2270 : decode cL_law 2270 = .ok (.iconst 1, 1) := dk_4 (dk_at dksL_law_88 15 rfl rfl)
theorem dL_law_2271 : decode cL_law 2271 = .ok (.iadd, 1) := dk_96 (dk_at dksL_law_88 16 rfl rfl)
theorem dL_law_2272 : decode cL_law 2272 = .ok (.iaload, 1) := dk_46 (dk_at dksL_law_88 17 rfl rfl)
theorem dL_law_2273 : decode cL_law 2273 = .ok (.aload_n 0, 1) := dk_42 (dk_at dksL_law_88 18 rfl rfl)
theorem dL_law_2274 : decode cL_law 2274 = .ok (.iload 4, 2) := dk_21 4 (dk_at dksL_law_88 19 rfl rfl)
theorem dL_law_2276 : decode cL_law 2276 = .ok (.iconst 2, 1) := dk_5 (dk_at dksL_law_88 21 rfl rfl)
theorem dL_law_2277 : decode cL_law 2277 = .ok (.iadd, 1) := dk_96 (dk_at dksL_law_88 22 rfl rfl)
theorem dL_law_2278 : decode cL_law 2278 = .ok (.iaload, 1) := dk_46 (dk_at dksL_law_88 23 rfl rfl)
theorem dL_law_2279 : decode cL_law 2279 = .ok (.aload_n 0, 1) := dk_42 (dk_at dksL_law_89 0 rfl rfl)
theorem dL_law_2280 : decode cL_law 2280 = .ok (.iload 4, 2) := dk_21 4 (dk_at dksL_law_89 1 rfl rfl)
theorem dL_law_2282 : decode cL_law 2282 = .ok (.iconst 3, 1) := dk_6 (dk_at dksL_law_89 3 rfl rfl)
theorem dL_law_2283 : decode cL_law 2283 = .ok (.iadd, 1) := dk_96 (dk_at dksL_law_89 4 rfl rfl)
theorem dL_law_2284 : decode cL_law 2284 = .ok (.iaload, 1) := dk_46 (dk_at dksL_law_89 5 rfl rfl)
theorem dL_law_2285 : decode cL_law 2285 = .ok (.aload_n 0, 1) := dk_42 (dk_at dksL_law_89 6 rfl rfl)
theorem dL_law_2286 : decode cL_law 2286 = .ok (.iload 4, 2) := dk_21 4 (dk_at dksL_law_89 7 rfl rfl)
theorem dL_law_2288 : decode cL_law 2288 = .ok (.iconst 4, 1) := dk_7 (dk_at dksL_law_89 9 rfl rfl)
theorem dL_law_2289 : decode cL_law 2289 = .ok (.iadd, 1) := dk_96 (dk_at dksL_law_89 10 rfl rfl)
theorem dL_law_2290 : decode cL_law 2290 = .ok (.iaload, 1) := dk_46 (dk_at dksL_law_89 11 rfl rfl)
theorem dL_law_2291 : decode cL_law 2291 = .ok (.aload_n 0, 1) := dk_42 (dk_at dksL_law_89 12 rfl rfl)
theorem dL_law_2292 : decode cL_law 2292 = .ok (.iload 4, 2) := dk_21 4 (dk_at dksL_law_89 13 rfl rfl)
theorem dL_law_2294 : decode cL_law 2294 = .ok (.iconst 5, 1) := dk_8 (dk_at dksL_law_89 15 rfl rfl)
theorem dL_law_2295 : decode cL_law 2295 = .ok (.iadd, 1) := dk_96 (dk_at dksL_law_89 16 rfl rfl)
theorem dL_law_2296 : decode cL_law 2296 = .ok (.iaload, 1) := dk_46 (dk_at dksL_law_89 17 rfl rfl)
theorem dL_law_2297 : decode cL_law 2297 = .ok (.aload_n 3, 1) := dk_45 (dk_at dksL_law_89 18 rfl rfl)
theorem dL_law_2298 : decode cL_law 2298 = .ok (.invokestatic 268, 3) := dk_184 1 12 (dk_at dksL_law_89 19 rfl rfl)
theorem dL_law_2301 : decode cL_law 2301 = .ok (.istore 5, 2) := dk_54 5 (dk_at dksL_law_89 22 rfl rfl)
theorem dL_law_2303 : decode cL_law 2303 = .ok (.aload_n 2, 1) := dk_44 (dk_at dksL_law_90 0 rfl rfl)
theorem dL_law_2304 : decode cL_law 2304 = .ok (.aload_n 0, 1) := dk_42 (dk_at dksL_law_90 1 rfl rfl)
theorem dL_law_2305 : decode cL_law 2305 = .ok (.iload 4, 2) := dk_21 4 (dk_at dksL_law_90 2 rfl rfl)
theorem dL_law_2307 : decode cL_law 2307 = .ok (.iconst 1, 1) := dk_4 (dk_at dksL_law_90 4 rfl rfl)
theorem dL_law_2308 : decode cL_law 2308 = .ok (.iadd, 1) := dk_96 (dk_at dksL_law_90 5 rfl rfl)
theorem dL_law_2309 : decode cL_law 2309 = .ok (.iaload, 1) := dk_46 (dk_at dksL_law_90 6 rfl rfl)
theorem dL_law_2310 : decode cL_law 2310 = .ok (.aload_n 0, 1) := dk_42 (dk_at dksL_law_90 7 rfl rfl)
theorem dL_law_2311 : decode cL_law 2311 = .ok (.iload 4, 2) := dk_21 4 (dk_at dksL_law_90 8 rfl rfl)
theorem dL_law_2313 : decode cL_law 2313 = .ok (.iconst 2, 1) := dk_5 (dk_at dksL_law_90 10 rfl rfl)
theorem dL_law_2314 : decode cL_law 2314 = .ok (.iadd, 1) := dk_96 (dk_at dksL_law_90 11 rfl rfl)
theorem dL_law_2315 : decode cL_law 2315 = .ok (.iaload, 1) := dk_46 (dk_at dksL_law_90 12 rfl rfl)
theorem dL_law_2316 : decode cL_law 2316 = .ok (.aload_n 0, 1) := dk_42 (dk_at dksL_law_90 13 rfl rfl)
theorem dL_law_2317 : decode cL_law 2317 = .ok (.iload 4, 2) := dk_21 4 (dk_at dksL_law_90 14 rfl rfl)
theorem dL_law_2319 : decode cL_law 2319 = .ok (.iconst 3, 1) := dk_6 (dk_at dksL_law_90 16 rfl rfl)
theorem dL_law_2320 : decode cL_law 2320 = .ok (.iadd, 1) := dk_96 (dk_at dksL_law_90 17 rfl rfl)
theorem dL_law_2321 : decode cL_law 2321 = .ok (.iaload, 1) := dk_46 (dk_at dksL_law_90 18 rfl rfl)
theorem dL_law_2322 : decode cL_law 2322 = .ok (.aload_n 0, 1) := dk_42 (dk_at dksL_law_90 19 rfl rfl)
theorem dL_law_2323 : decode cL_law 2323 = .ok (.iload 4, 2) := dk_21 4 (dk_at dksL_law_90 20 rfl rfl)
theorem dL_law_2325 : decode cL_law 2325 = .ok (.iconst 4, 1) := dk_7 (dk_at dksL_law_90 22 rfl rfl)
theorem dL_law_2326 : decode cL_law 2326 = .ok (.iadd, 1) := dk_96 (dk_at dksL_law_90 23 rfl rfl)
theorem dL_law_2327 : decode cL_law 2327 = .ok (.iaload, 1) := dk_46 (dk_at dksL_law_91 0 rfl rfl)
theorem dL_law_2328 : decode cL_law 2328 = .ok (.aload_n 0, 1) := dk_42 (dk_at dksL_law_91 1 rfl rfl)
theorem dL_law_2329 : decode cL_law 2329 = .ok (.iload 4, 2) := dk_21 4 (dk_at dksL_law_91 2 rfl rfl)
theorem dL_law_2331 : decode cL_law 2331 = .ok (.iconst 5, 1) := dk_8 (dk_at dksL_law_91 4 rfl rfl)
theorem dL_law_2332 : decode cL_law 2332 = .ok (.iadd, 1) := dk_96 (dk_at dksL_law_91 5 rfl rfl)
theorem dL_law_2333 : decode cL_law 2333 = .ok (.iaload, 1) := dk_46 (dk_at dksL_law_91 6 rfl rfl)
theorem dL_law_2334 : decode cL_law 2334 = .ok (.invokevirtual 270, 3) := dk_182 1 14 (dk_at dksL_law_91 7 rfl rfl)
theorem dL_law_2337 : decode cL_law 2337 = .ok (.lstore 6, 2) := dk_55 6 (dk_at dksL_law_91 10 rfl rfl)
theorem dL_law_2339 : decode cL_law 2339 = .ok (.aload_n 2, 1) := dk_44 (dk_at dksL_law_91 12 rfl rfl)
theorem dL_law_2340 : decode cL_law 2340 = .ok (.invokevirtual 175, 3) := dk_182 0 175 (dk_at dksL_law_91 13 rfl rfl)
theorem dL_law_2343 : decode cL_law 2343 = .ok (.iload 5, 2) := dk_21 5 (dk_at dksL_law_91 16 rfl rfl)
theorem dL_law_2345 : decode cL_law 2345 = .ok (.if_icmp .eq 5, 3) := dk_159 0 5 (dk_at dksL_law_91 18 rfl rfl)
theorem dL_law_2348 : decode cL_law 2348 = .ok (.iconst 0, 1) := dk_3 (dk_at dksL_law_91 21 rfl rfl)
theorem dL_law_2349 : decode cL_law 2349 = .ok (.ireturn, 1) := dk_172 (dk_at dksL_law_91 22 rfl rfl)
theorem dL_law_2350 : decode cL_law 2350 = .ok (.iload 5, 2) := dk_21 5 (dk_at dksL_law_92 0 rfl rfl)
theorem dL_law_2352 : decode cL_law 2352 = .ok (.ifCond .ne 14, 3) := dk_154 0 14 (dk_at dksL_law_92 2 rfl rfl)
theorem dL_law_2355 : decode cL_law 2355 = .ok (.aload_n 3, 1) := dk_45 (dk_at dksL_law_92 5 rfl rfl)
theorem dL_law_2356 : decode cL_law 2356 = .ok (.iconst 0, 1) := dk_3 (dk_at dksL_law_92 6 rfl rfl)
theorem dL_law_2357 : decode cL_law 2357 = .ok (.laload, 1) := dk_47 (dk_at dksL_law_92 7 rfl rfl)
theorem dL_law_2358 : decode cL_law 2358 = .ok (.lload 6, 2) := dk_22 6 (dk_at dksL_law_92 8 rfl rfl)
theorem dL_law_2360 : decode cL_law 2360 = .ok (.lcmp, 1) := dk_148 (dk_at dksL_law_92 10 rfl rfl)
theorem dL_law_2361 : decode cL_law 2361 = .ok (.ifCond .eq 5, 3) := dk_153 0 5 (dk_at dksL_law_92 11 rfl rfl)
theorem dL_law_2364 : decode cL_law 2364 = .ok (.iconst 0, 1) := dk_3 (dk_at dksL_law_92 14 rfl rfl)
theorem dL_law_2365 : decode cL_law 2365 = .ok (.ireturn, 1) := dk_172 (dk_at dksL_law_92 15 rfl rfl)
theorem dL_law_2366 : decode cL_law 2366 = .ok (.goto 1374, 3) := dk_167 5 94 (dk_at dksL_law_92 16 rfl rfl)
theorem dL_law_2369 : decode cL_law 2369 = .ok (.aload_n 1, 1) := dk_43 (dk_at dksL_law_92 19 rfl rfl)
theorem dL_law_2370 : decode cL_law 2370 = .ok (.aload_n 0, 1) := dk_42 (dk_at dksL_law_92 20 rfl rfl)
theorem dL_law_2371 : decode cL_law 2371 = .ok (.iload 4, 2) := dk_21 4 (dk_at dksL_law_92 21 rfl rfl)
theorem dL_law_2373 : decode cL_law 2373 = .ok (.iconst 1, 1) := dk_4 (dk_at dksL_law_92 23 rfl rfl)
theorem dL_law_2374 : decode cL_law 2374 = .ok (.iadd, 1) := dk_96 (dk_at dksL_law_93 0 rfl rfl)
theorem dL_law_2375 : decode cL_law 2375 = .ok (.iaload, 1) := dk_46 (dk_at dksL_law_93 1 rfl rfl)
theorem dL_law_2376 : decode cL_law 2376 = .ok (.aload_n 0, 1) := dk_42 (dk_at dksL_law_93 2 rfl rfl)
theorem dL_law_2377 : decode cL_law 2377 = .ok (.iload 4, 2) := dk_21 4 (dk_at dksL_law_93 3 rfl rfl)
theorem dL_law_2379 : decode cL_law 2379 = .ok (.iconst 2, 1) := dk_5 (dk_at dksL_law_93 5 rfl rfl)
theorem dL_law_2380 : decode cL_law 2380 = .ok (.iadd, 1) := dk_96 (dk_at dksL_law_93 6 rfl rfl)
theorem dL_law_2381 : decode cL_law 2381 = .ok (.iaload, 1) := dk_46 (dk_at dksL_law_93 7 rfl rfl)
theorem dL_law_2382 : decode cL_law 2382 = .ok (.aload_n 0, 1) := dk_42 (dk_at dksL_law_93 8 rfl rfl)
theorem dL_law_2383 : decode cL_law 2383 = .ok (.iload 4, 2) := dk_21 4 (dk_at dksL_law_93 9 rfl rfl)
theorem dL_law_2385 : decode cL_law 2385 = .ok (.iconst 3, 1) := dk_6 (dk_at dksL_law_93 11 rfl rfl)
theorem dL_law_2386 : decode cL_law 2386 = .ok (.iadd, 1) := dk_96 (dk_at dksL_law_93 12 rfl rfl)
theorem dL_law_2387 : decode cL_law 2387 = .ok (.iaload, 1) := dk_46 (dk_at dksL_law_93 13 rfl rfl)
theorem dL_law_2388 : decode cL_law 2388 = .ok (.aload_n 0, 1) := dk_42 (dk_at dksL_law_93 14 rfl rfl)
theorem dL_law_2389 : decode cL_law 2389 = .ok (.iload 4, 2) := dk_21 4 (dk_at dksL_law_93 15 rfl rfl)
theorem dL_law_2391 : decode cL_law 2391 = .ok (.iconst 4, 1) := dk_7 (dk_at dksL_law_93 17 rfl rfl)
theorem dL_law_2392 : decode cL_law 2392 = .ok (.iadd, 1) := dk_96 (dk_at dksL_law_93 18 rfl rfl)
theorem dL_law_2393 : decode cL_law 2393 = .ok (.iaload, 1) := dk_46 (dk_at dksL_law_93 19 rfl rfl)
theorem dL_law_2394 : decode cL_law 2394 = .ok (.aload_n 0, 1) := dk_42 (dk_at dksL_law_93 20 rfl rfl)
theorem dL_law_2395 : decode cL_law 2395 = .ok (.iload 4, 2) := dk_21 4 (dk_at dksL_law_93 21 rfl rfl)
theorem dL_law_2397 : decode cL_law 2397 = .ok (.iconst 5, 1) := dk_8 (dk_at dksL_law_93 23 rfl rfl)
theorem dL_law_2398 : decode cL_law 2398 = .ok (.iadd, 1) := dk_96 (dk_at dksL_law_94 0 rfl rfl)
theorem dL_law_2399 : decode cL_law 2399 = .ok (.iaload, 1) := dk_46 (dk_at dksL_law_94 1 rfl rfl)
theorem dL_law_2400 : decode cL_law 2400 = .ok (.aload_n 3, 1) := dk_45 (dk_at dksL_law_94 2 rfl rfl)
theorem dL_law_2401 : decode cL_law 2401 = .ok (.invokestatic 271, 3) := dk_184 1 15 (dk_at dksL_law_94 3 rfl rfl)
theorem dL_law_2404 : decode cL_law 2404 = .ok (.istore 5, 2) := dk_54 5 (dk_at dksL_law_94 6 rfl rfl)
theorem dL_law_2406 : decode cL_law 2406 = .ok (.aload_n 2, 1) := dk_44 (dk_at dksL_law_94 8 rfl rfl)
theorem dL_law_2407 : decode cL_law 2407 = .ok (.aload_n 0, 1) := dk_42 (dk_at dksL_law_94 9 rfl rfl)
theorem dL_law_2408 : decode cL_law 2408 = .ok (.iload 4, 2) := dk_21 4 (dk_at dksL_law_94 10 rfl rfl)
theorem dL_law_2410 : decode cL_law 2410 = .ok (.iconst 1, 1) := dk_4 (dk_at dksL_law_94 12 rfl rfl)
theorem dL_law_2411 : decode cL_law 2411 = .ok (.iadd, 1) := dk_96 (dk_at dksL_law_94 13 rfl rfl)
theorem dL_law_2412 : decode cL_law 2412 = .ok (.iaload, 1) := dk_46 (dk_at dksL_law_94 14 rfl rfl)
theorem dL_law_2413 : decode cL_law 2413 = .ok (.aload_n 0, 1) := dk_42 (dk_at dksL_law_94 15 rfl rfl)
theorem dL_law_2414 : decode cL_law 2414 = .ok (.iload 4, 2) := dk_21 4 (dk_at dksL_law_94 16 rfl rfl)
theorem dL_law_2416 : decode cL_law 2416 = .ok (.iconst 2, 1) := dk_5 (dk_at dksL_law_94 18 rfl rfl)
theorem dL_law_2417 : decode cL_law 2417 = .ok (.iadd, 1) := dk_96 (dk_at dksL_law_94 19 rfl rfl)
theorem dL_law_2418 : decode cL_law 2418 = .ok (.iaload, 1) := dk_46 (dk_at dksL_law_94 20 rfl rfl)
theorem dL_law_2419 : decode cL_law 2419 = .ok (.aload_n 0, 1) := dk_42 (dk_at dksL_law_94 21 rfl rfl)
theorem dL_law_2420 : decode cL_law 2420 = .ok (.iload 4, 2) := dk_21 4 (dk_at dksL_law_94 22 rfl rfl)
theorem dL_law_2422 : decode cL_law 2422 = .ok (.iconst 3, 1) := dk_6 (dk_at dksL_law_95 0 rfl rfl)
theorem dL_law_2423 : decode cL_law 2423 = .ok (.iadd, 1) := dk_96 (dk_at dksL_law_95 1 rfl rfl)
theorem dL_law_2424 : decode cL_law 2424 = .ok (.iaload, 1) := dk_46 (dk_at dksL_law_95 2 rfl rfl)
theorem dL_law_2425 : decode cL_law 2425 = .ok (.aload_n 0, 1) := dk_42 (dk_at dksL_law_95 3 rfl rfl)
theorem dL_law_2426 : decode cL_law 2426 = .ok (.iload 4, 2) := dk_21 4 (dk_at dksL_law_95 4 rfl rfl)
theorem dL_law_2428 : decode cL_law 2428 = .ok (.iconst 4, 1) := dk_7 (dk_at dksL_law_95 6 rfl rfl)
theorem dL_law_2429 : decode cL_law 2429 = .ok (.iadd, 1) := dk_96 (dk_at dksL_law_95 7 rfl rfl)
theorem dL_law_2430 : decode cL_law 2430 = .ok (.iaload, 1) := dk_46 (dk_at dksL_law_95 8 rfl rfl)
theorem dL_law_2431 : decode cL_law 2431 = .ok (.aload_n 0, 1) := dk_42 (dk_at dksL_law_95 9 rfl rfl)
theorem dL_law_2432 : decode cL_law 2432 = .ok (.iload 4, 2) := dk_21 4 (dk_at dksL_law_95 10 rfl rfl)
theorem dL_law_2434 : decode cL_law 2434 = .ok (.iconst 5, 1) := dk_8 (dk_at dksL_law_95 12 rfl rfl)
theorem dL_law_2435 : decode cL_law 2435 = .ok (.iadd, 1) := dk_96 (dk_at dksL_law_95 13 rfl rfl)
theorem dL_law_2436 : decode cL_law 2436 = .ok (.iaload, 1) := dk_46 (dk_at dksL_law_95 14 rfl rfl)
theorem dL_law_2437 : decode cL_law 2437 = .ok (.invokevirtual 273, 3) := dk_182 1 17 (dk_at dksL_law_95 15 rfl rfl)
theorem dL_law_2440 : decode cL_law 2440 = .ok (.lstore 6, 2) := dk_55 6 (dk_at dksL_law_95 18 rfl rfl)
theorem dL_law_2442 : decode cL_law 2442 = .ok (.aload_n 2, 1) := dk_44 (dk_at dksL_law_95 20 rfl rfl)
theorem dL_law_2443 : decode cL_law 2443 = .ok (.invokevirtual 175, 3) := dk_182 0 175 (dk_at dksL_law_95 21 rfl rfl)
theorem dL_law_2446 : decode cL_law 2446 = .ok (.iload 5, 2) := dk_21 5 (dk_at dksL_law_96 0 rfl rfl)
theorem dL_law_2448 : decode cL_law 2448 = .ok (.if_icmp .eq 5, 3) := dk_159 0 5 (dk_at dksL_law_96 2 rfl rfl)
theorem dL_law_2451 : decode cL_law 2451 = .ok (.iconst 0, 1) := dk_3 (dk_at dksL_law_96 5 rfl rfl)
theorem dL_law_2452 : decode cL_law 2452 = .ok (.ireturn, 1) := dk_172 (dk_at dksL_law_96 6 rfl rfl)
theorem dL_law_2453 : decode cL_law 2453 = .ok (.iload 5, 2) := dk_21 5 (dk_at dksL_law_96 7 rfl rfl)
theorem dL_law_2455 : decode cL_law 2455 = .ok (.ifCond .ne 14, 3) := dk_154 0 14 (dk_at dksL_law_96 9 rfl rfl)
theorem dL_law_2458 : decode cL_law 2458 = .ok (.aload_n 3, 1) := dk_45 (dk_at dksL_law_96 12 rfl rfl)
theorem dL_law_2459 : decode cL_law 2459 = .ok (.iconst 0, 1) := dk_3 (dk_at dksL_law_96 13 rfl rfl)
theorem dL_law_2460 : decode cL_law 2460 = .ok (.laload, 1) := dk_47 (dk_at dksL_law_96 14 rfl rfl)
theorem dL_law_2461 : decode cL_law 2461 = .ok (.lload 6, 2) := dk_22 6 (dk_at dksL_law_96 15 rfl rfl)
theorem dL_law_2463 : decode cL_law 2463 = .ok (.lcmp, 1) := dk_148 (dk_at dksL_law_96 17 rfl rfl)
theorem dL_law_2464 : decode cL_law 2464 = .ok (.ifCond .eq 5, 3) := dk_153 0 5 (dk_at dksL_law_96 18 rfl rfl)
theorem dL_law_2467 : decode cL_law 2467 = .ok (.iconst 0, 1) := dk_3 (dk_at dksL_law_96 21 rfl rfl)
theorem dL_law_2468 : decode cL_law 2468 = .ok (.ireturn, 1) := dk_172 (dk_at dksL_law_96 22 rfl rfl)
theorem dL_law_2469 : decode cL_law 2469 = .ok (.goto 1271, 3) := dk_167 4 247 (dk_at dksL_law_97 0 rfl rfl)
theorem dL_law_2472 : decode cL_law 2472 = .ok (.aload_n 1, 1) := dk_43 (dk_at dksL_law_97 3 rfl rfl)
theorem dL_law_2473 : decode cL_law 2473 = .ok (.aload_n 0, 1) := dk_42 (dk_at dksL_law_97 4 rfl rfl)
theorem dL_law_2474 : decode cL_law 2474 = .ok (.iload 4, 2) := dk_21 4 (dk_at dksL_law_97 5 rfl rfl)
theorem dL_law_2476 : decode cL_law 2476 = .ok (.iconst 1, 1) := dk_4 (dk_at dksL_law_97 7 rfl rfl)
theorem dL_law_2477 : decode cL_law 2477 = .ok (.iadd, 1) := dk_96 (dk_at dksL_law_97 8 rfl rfl)
theorem dL_law_2478 : decode cL_law 2478 = .ok (.iaload, 1) := dk_46 (dk_at dksL_law_97 9 rfl rfl)
theorem dL_law_2479 : decode cL_law 2479 = .ok (.aload_n 0, 1) := dk_42 (dk_at dksL_law_97 10 rfl rfl)
theorem dL_law_2480 : decode cL_law 2480 = .ok (.iload 4, 2) := dk_21 4 (dk_at dksL_law_97 11 rfl rfl)
theorem dL_law_2482 : decode cL_law 2482 = .ok (.iconst 2, 1) := dk_5 (dk_at dksL_law_97 13 rfl rfl)
theorem dL_law_2483 : decode cL_law 2483 = .ok (.iadd, 1) := dk_96 (dk_at dksL_law_97 14 rfl rfl)
theorem dL_law_2484 : decode cL_law 2484 = .ok (.iaload, 1) := dk_46 (dk_at dksL_law_97 15 rfl rfl)
theorem dL_law_2485 : decode cL_law 2485 = .ok (.aload_n 0, 1) := dk_42 (dk_at dksL_law_97 16 rfl rfl)
theorem dL_law_2486 : decode cL_law 2486 = .ok (.iload 4, 2) := dk_21 4 (dk_at dksL_law_97 17 rfl rfl)
theorem dL_law_2488 : decode cL_law 2488 = .ok (.iconst 3, 1) := dk_6 (dk_at dksL_law_97 19 rfl rfl)
theorem dL_law_2489 : decode cL_law 2489 = .ok (.iadd, 1) := dk_96 (dk_at dksL_law_97 20 rfl rfl)
theorem dL_law_2490 : decode cL_law 2490 = .ok (.iaload, 1) := dk_46 (dk_at dksL_law_97 21 rfl rfl)
theorem dL_law_2491 : decode cL_law 2491 = .ok (.aload_n 0, 1) := dk_42 (dk_at dksL_law_97 22 rfl rfl)
theorem dL_law_2492 : decode cL_law 2492 = .ok (.iload 4, 2) := dk_21 4 (dk_at dksL_law_98 0 rfl rfl)
theorem dL_law_2494 : decode cL_law 2494 = .ok (.iconst 4, 1) := dk_7 (dk_at dksL_law_98 2 rfl rfl)
theorem dL_law_2495 : decode cL_law 2495 = .ok (.iadd, 1) := dk_96 (dk_at dksL_law_98 3 rfl rfl)
theorem dL_law_2496 : decode cL_law 2496 = .ok (.iaload, 1) := dk_46 (dk_at dksL_law_98 4 rfl rfl)
theorem dL_law_2497 : decode cL_law 2497 = .ok (.aload_n 3, 1) := dk_45 (dk_at dksL_law_98 5 rfl rfl)
theorem dL_law_2498 : decode cL_law 2498 = .ok (.invokestatic 274, 3) := dk_184 1 18 (dk_at dksL_law_98 6 rfl rfl)
theorem dL_law_2501 : decode cL_law 2501 = .ok (.istore 5, 2) := dk_54 5 (dk_at dksL_law_98 9 rfl rfl)
theorem dL_law_2503 : decode cL_law 2503 = .ok (.aload_n 2, 1) := dk_44 (dk_at dksL_law_98 11 rfl rfl)
theorem dL_law_2504 : decode cL_law 2504 = .ok (.aload_n 0, 1) := dk_42 (dk_at dksL_law_98 12 rfl rfl)
theorem dL_law_2505 : decode cL_law 2505 = .ok (.iload 4, 2) := dk_21 4 (dk_at dksL_law_98 13 rfl rfl)
theorem dL_law_2507 : decode cL_law 2507 = .ok (.iconst 1, 1) := dk_4 (dk_at dksL_law_98 15 rfl rfl)
theorem dL_law_2508 : decode cL_law 2508 = .ok (.iadd, 1) := dk_96 (dk_at dksL_law_98 16 rfl rfl)
theorem dL_law_2509 : decode cL_law 2509 = .ok (.iaload, 1) := dk_46 (dk_at dksL_law_98 17 rfl rfl)
theorem dL_law_2510 : decode cL_law 2510 = .ok (.aload_n 0, 1) := dk_42 (dk_at dksL_law_98 18 rfl rfl)
theorem dL_law_2511 : decode cL_law 2511 = .ok (.iload 4, 2) := dk_21 4 (dk_at dksL_law_98 19 rfl rfl)
theorem dL_law_2513 : decode cL_law 2513 = .ok (.iconst 2, 1) := dk_5 (dk_at dksL_law_98 21 rfl rfl)
theorem dL_law_2514 : decode cL_law 2514 = .ok (.iadd, 1) := dk_96 (dk_at dksL_law_98 22 rfl rfl)
theorem dL_law_2515 : decode cL_law 2515 = .ok (.iaload, 1) := dk_46 (dk_at dksL_law_98 23 rfl rfl)
theorem dL_law_2516 : decode cL_law 2516 = .ok (.aload_n 0, 1) := dk_42 (dk_at dksL_law_99 0 rfl rfl)
theorem dL_law_2517 : decode cL_law 2517 = .ok (.iload 4, 2) := dk_21 4 (dk_at dksL_law_99 1 rfl rfl)
theorem dL_law_2519 : decode cL_law 2519 = .ok (.iconst 3, 1) := dk_6 (dk_at dksL_law_99 3 rfl rfl)
theorem dL_law_2520 : decode cL_law 2520 = .ok (.iadd, 1) := dk_96 (dk_at dksL_law_99 4 rfl rfl)
theorem dL_law_2521 : decode cL_law 2521 = .ok (.iaload, 1) := dk_46 (dk_at dksL_law_99 5 rfl rfl)
theorem dL_law_2522 : decode cL_law 2522 = .ok (.aload_n 0, 1) := dk_42 (dk_at dksL_law_99 6 rfl rfl)
theorem dL_law_2523 : decode cL_law 2523 = .ok (.iload 4, 2) := dk_21 4 (dk_at dksL_law_99 7 rfl rfl)
theorem dL_law_2525 : decode cL_law 2525 = .ok (.iconst 4, 1) := dk_7 (dk_at dksL_law_99 9 rfl rfl)
theorem dL_law_2526 : decode cL_law 2526 = .ok (.iadd, 1) := dk_96 (dk_at dksL_law_99 10 rfl rfl)
theorem dL_law_2527 : decode cL_law 2527 = .ok (.iaload, 1) := dk_46 (dk_at dksL_law_99 11 rfl rfl)
theorem dL_law_2528 : decode cL_law 2528 = .ok (.invokevirtual 276, 3) := dk_182 1 20 (dk_at dksL_law_99 12 rfl rfl)
theorem dL_law_2531 : decode cL_law 2531 = .ok (.lstore 6, 2) := dk_55 6 (dk_at dksL_law_99 15 rfl rfl)
theorem dL_law_2533 : decode cL_law 2533 = .ok (.aload_n 2, 1) := dk_44 (dk_at dksL_law_99 17 rfl rfl)
theorem dL_law_2534 : decode cL_law 2534 = .ok (.invokevirtual 175, 3) := dk_182 0 175 (dk_at dksL_law_99 18 rfl rfl)
theorem dL_law_2537 : decode cL_law 2537 = .ok (.iload 5, 2) := dk_21 5 (dk_at dksL_law_99 21 rfl rfl)
theorem dL_law_2539 : decode cL_law 2539 = .ok (.if_icmp .eq 5, 3) := dk_159 0 5 (dk_at dksL_law_100 0 rfl rfl)
theorem dL_law_2542 : decode cL_law 2542 = .ok (.iconst 0, 1) := dk_3 (dk_at dksL_law_100 3 rfl rfl)
theorem dL_law_2543 : decode cL_law 2543 = .ok (.ireturn, 1) := dk_172 (dk_at dksL_law_100 4 rfl rfl)
theorem dL_law_2544 : decode cL_law 2544 = .ok (.iload 5, 2) := dk_21 5 (dk_at dksL_law_100 5 rfl rfl)
theorem dL_law_2546 : decode cL_law 2546 = .ok (.ifCond .ne 14, 3) := dk_154 0 14 (dk_at dksL_law_100 7 rfl rfl)
theorem dL_law_2549 : decode cL_law 2549 = .ok (.aload_n 3, 1) := dk_45 (dk_at dksL_law_100 10 rfl rfl)
theorem dL_law_2550 : decode cL_law 2550 = .ok (.iconst 0, 1) := dk_3 (dk_at dksL_law_100 11 rfl rfl)
theorem dL_law_2551 : decode cL_law 2551 = .ok (.laload, 1) := dk_47 (dk_at dksL_law_100 12 rfl rfl)
theorem dL_law_2552 : decode cL_law 2552 = .ok (.lload 6, 2) := dk_22 6 (dk_at dksL_law_100 13 rfl rfl)
theorem dL_law_2554 : decode cL_law 2554 = .ok (.lcmp, 1) := dk_148 (dk_at dksL_law_100 15 rfl rfl)
theorem dL_law_2555 : decode cL_law 2555 = .ok (.ifCond .eq 5, 3) := dk_153 0 5 (dk_at dksL_law_100 16 rfl rfl)
theorem dL_law_2558 : decode cL_law 2558 = .ok (.iconst 0, 1) := dk_3 (dk_at dksL_law_100 19 rfl rfl)
theorem dL_law_2559 : decode cL_law 2559 = .ok (.ireturn, 1) := dk_172 (dk_at dksL_law_100 20 rfl rfl)
theorem dL_law_2560 : decode cL_law 2560 = .ok (.goto 1180, 3) := dk_167 4 156 (dk_at dksL_law_100 21 rfl rfl)
theorem dL_law_2563 : decode cL_law 2563 = .ok (.aload_n 1, 1) := dk_43 (dk_at dksL_law_101 0 rfl rfl)
theorem dL_law_2564 : decode cL_law 2564 = .ok (.aload_n 0, 1) := dk_42 (dk_at dksL_law_101 1 rfl rfl)
theorem dL_law_2565 : decode cL_law 2565 = .ok (.iload 4, 2) := dk_21 4 (dk_at dksL_law_101 2 rfl rfl)
theorem dL_law_2567 : decode cL_law 2567 = .ok (.iconst 1, 1) := dk_4 (dk_at dksL_law_101 4 rfl rfl)
theorem dL_law_2568 : decode cL_law 2568 = .ok (.iadd, 1) := dk_96 (dk_at dksL_law_101 5 rfl rfl)
theorem dL_law_2569 : decode cL_law 2569 = .ok (.iaload, 1) := dk_46 (dk_at dksL_law_101 6 rfl rfl)
theorem dL_law_2570 : decode cL_law 2570 = .ok (.aload_n 0, 1) := dk_42 (dk_at dksL_law_101 7 rfl rfl)
theorem dL_law_2571 : decode cL_law 2571 = .ok (.iload 4, 2) := dk_21 4 (dk_at dksL_law_101 8 rfl rfl)
theorem dL_law_2573 : decode cL_law 2573 = .ok (.iconst 2, 1) := dk_5 (dk_at dksL_law_101 10 rfl rfl)
theorem dL_law_2574 : decode cL_law 2574 = .ok (.iadd, 1) := dk_96 (dk_at dksL_law_101 11 rfl rfl)
theorem dL_law_2575 : decode cL_law 2575 = .ok (.iaload, 1) := dk_46 (dk_at dksL_law_101 12 rfl rfl)
theorem dL_law_2576 : decode cL_law 2576 = .ok (.aload_n 0, 1) := dk_42 (dk_at dksL_law_101 13 rfl rfl)
theorem dL_law_2577 : decode cL_law 2577 = .ok (.iload 4, 2) := dk_21 4 (dk_at dksL_law_101 14 rfl rfl)
theorem dL_law_2579 : decode cL_law 2579 = .ok (.iconst 3, 1) := dk_6 (dk_at dksL_law_101 16 rfl rfl)
theorem dL_law_2580 : decode cL_law 2580 = .ok (.iadd, 1) := dk_96 (dk_at dksL_law_101 17 rfl rfl)
theorem dL_law_2581 : decode cL_law 2581 = .ok (.iaload, 1) := dk_46 (dk_at dksL_law_101 18 rfl rfl)
theorem dL_law_2582 : decode cL_law 2582 = .ok (.aload_n 0, 1) := dk_42 (dk_at dksL_law_101 19 rfl rfl)
theorem dL_law_2583 : decode cL_law 2583 = .ok (.iload 4, 2) := dk_21 4 (dk_at dksL_law_101 20 rfl rfl)
theorem dL_law_2585 : decode cL_law 2585 = .ok (.iconst 4, 1) := dk_7 (dk_at dksL_law_101 22 rfl rfl)
theorem dL_law_2586 : decode cL_law 2586 = .ok (.iadd, 1) := dk_96 (dk_at dksL_law_101 23 rfl rfl)
theorem dL_law_2587 : decode cL_law 2587 = .ok (.iaload, 1) := dk_46 (dk_at dksL_law_102 0 rfl rfl)
theorem dL_law_2588 : decode cL_law 2588 = .ok (.aload_n 3, 1) := dk_45 (dk_at dksL_law_102 1 rfl rfl)
theorem dL_law_2589 : decode cL_law 2589 = .ok (.invokestatic 277, 3) := dk_184 1 21 (dk_at dksL_law_102 2 rfl rfl)
theorem dL_law_2592 : decode cL_law 2592 = .ok (.istore 5, 2) := dk_54 5 (dk_at dksL_law_102 5 rfl rfl)
theorem dL_law_2594 : decode cL_law 2594 = .ok (.aload_n 2, 1) := dk_44 (dk_at dksL_law_102 7 rfl rfl)
theorem dL_law_2595 : decode cL_law 2595 = .ok (.aload_n 0, 1) := dk_42 (dk_at dksL_law_102 8 rfl rfl)
theorem dL_law_2596 : decode cL_law 2596 = .ok (.iload 4, 2) := dk_21 4 (dk_at dksL_law_102 9 rfl rfl)
theorem dL_law_2598 : decode cL_law 2598 = .ok (.iconst 1, 1) := dk_4 (dk_at dksL_law_102 11 rfl rfl)
theorem dL_law_2599 : decode cL_law 2599 = .ok (.iadd, 1) := dk_96 (dk_at dksL_law_102 12 rfl rfl)
theorem dL_law_2600 : decode cL_law 2600 = .ok (.iaload, 1) := dk_46 (dk_at dksL_law_102 13 rfl rfl)
theorem dL_law_2601 : decode cL_law 2601 = .ok (.aload_n 0, 1) := dk_42 (dk_at dksL_law_102 14 rfl rfl)
theorem dL_law_2602 : decode cL_law 2602 = .ok (.iload 4, 2) := dk_21 4 (dk_at dksL_law_102 15 rfl rfl)
theorem dL_law_2604 : decode cL_law 2604 = .ok (.iconst 2, 1) := dk_5 (dk_at dksL_law_102 17 rfl rfl)
theorem dL_law_2605 : decode cL_law 2605 = .ok (.iadd, 1) := dk_96 (dk_at dksL_law_102 18 rfl rfl)
theorem dL_law_2606 : decode cL_law 2606 = .ok (.iaload, 1) := dk_46 (dk_at dksL_law_102 19 rfl rfl)
theorem dL_law_2607 : decode cL_law 2607 = .ok (.aload_n 0, 1) := dk_42 (dk_at dksL_law_102 20 rfl rfl)
theorem dL_law_2608 : decode cL_law 2608 = .ok (.iload 4, 2) := dk_21 4 (dk_at dksL_law_102 21 rfl rfl)
theorem dL_law_2610 : decode cL_law 2610 = .ok (.iconst 3, 1) := dk_6 (dk_at dksL_law_102 23 rfl rfl)
theorem dL_law_2611 : decode cL_law 2611 = .ok (.iadd, 1) := dk_96 (dk_at dksL_law_103 0 rfl rfl)
theorem dL_law_2612 : decode cL_law 2612 = .ok (.iaload, 1) := dk_46 (dk_at dksL_law_103 1 rfl rfl)
theorem dL_law_2613 : decode cL_law 2613 = .ok (.aload_n 0, 1) := dk_42 (dk_at dksL_law_103 2 rfl rfl)
theorem dL_law_2614 : decode cL_law 2614 = .ok (.iload 4, 2) := dk_21 4 (dk_at dksL_law_103 3 rfl rfl)
theorem dL_law_2616 : decode cL_law 2616 = .ok (.iconst 4, 1) := dk_7 (dk_at dksL_law_103 5 rfl rfl)
theorem dL_law_2617 : decode cL_law 2617 = .ok (.iadd, 1) := dk_96 (dk_at dksL_law_103 6 rfl rfl)
theorem dL_law_2618 : decode cL_law 2618 = .ok (.iaload, 1) := dk_46 (dk_at dksL_law_103 7 rfl rfl)
theorem dL_law_2619 : decode cL_law 2619 = .ok (.invokevirtual 279, 3) := dk_182 1 23 (dk_at dksL_law_103 8 rfl rfl)
theorem dL_law_2622 : decode cL_law 2622 = .ok (.istore 6, 2) := dk_54 6 (dk_at dksL_law_103 11 rfl rfl)
theorem dL_law_2624 : decode cL_law 2624 = .ok (.aload_n 2, 1) := dk_44 (dk_at dksL_law_103 13 rfl rfl)
theorem dL_law_2625 : decode cL_law 2625 = .ok (.invokevirtual 175, 3) := dk_182 0 175 (dk_at dksL_law_103 14 rfl rfl)
theorem dL_law_2628 : decode cL_law 2628 = .ok (.iload 5, 2) := dk_21 5 (dk_at dksL_law_103 17 rfl rfl)
theorem dL_law_2630 : decode cL_law 2630 = .ok (.if_icmp .eq 5, 3) := dk_159 0 5 (dk_at dksL_law_103 19 rfl rfl)
theorem dL_law_2633 : decode cL_law 2633 = .ok (.iconst 0, 1) := dk_3 (dk_at dksL_law_103 22 rfl rfl)
theorem dL_law_2634 : decode cL_law 2634 = .ok (.ireturn, 1) := dk_172 (dk_at dksL_law_103 23 rfl rfl)
theorem dL_law_2635 : decode cL_law 2635 = .ok (.iload 5, 2) := dk_21 5 (dk_at dksL_law_104 0 rfl rfl)
theorem dL_law_2637 : decode cL_law 2637 = .ok (.ifCond .ne 15, 3) := dk_154 0 15 (dk_at dksL_law_104 2 rfl rfl)
theorem dL_law_2640 : decode cL_law 2640 = .ok (.aload_n 3, 1) := dk_45 (dk_at dksL_law_104 5 rfl rfl)
theorem dL_law_2641 : decode cL_law 2641 = .ok (.iconst 0, 1) := dk_3 (dk_at dksL_law_104 6 rfl rfl)
theorem dL_law_2642 : decode cL_law 2642 = .ok (.laload, 1) := dk_47 (dk_at dksL_law_104 7 rfl rfl)
theorem dL_law_2643 : decode cL_law 2643 = .ok (.iload 6, 2) := dk_21 6 (dk_at dksL_law_104 8 rfl rfl)
theorem dL_law_2645 : decode cL_law 2645 = .ok (.i2l, 1) := dk_133 (dk_at dksL_law_104 10 rfl rfl)
theorem dL_law_2646 : decode cL_law 2646 = .ok (.lcmp, 1) := dk_148 (dk_at dksL_law_104 11 rfl rfl)
theorem dL_law_2647 : decode cL_law 2647 = .ok (.ifCond .eq 5, 3) := dk_153 0 5 (dk_at dksL_law_104 12 rfl rfl)
theorem dL_law_2650 : decode cL_law 2650 = .ok (.iconst 0, 1) := dk_3 (dk_at dksL_law_104 15 rfl rfl)
theorem dL_law_2651 : decode cL_law 2651 = .ok (.ireturn, 1) := dk_172 (dk_at dksL_law_104 16 rfl rfl)
theorem dL_law_2652 : decode cL_law 2652 = .ok (.goto 1088, 3) := dk_167 4 64 (dk_at dksL_law_104 17 rfl rfl)
theorem dL_law_2655 : decode cL_law 2655 = .ok (.aload_n 1, 1) := dk_43 (dk_at dksL_law_104 20 rfl rfl)
theorem dL_law_2656 : decode cL_law 2656 = .ok (.aload_n 0, 1) := dk_42 (dk_at dksL_law_104 21 rfl rfl)
theorem dL_law_2657 : decode cL_law 2657 = .ok (.iload 4, 2) := dk_21 4 (dk_at dksL_law_104 22 rfl rfl)
theorem dL_law_2659 : decode cL_law 2659 = .ok (.iconst 1, 1) := dk_4 (dk_at dksL_law_105 0 rfl rfl)
theorem dL_law_2660 : decode cL_law 2660 = .ok (.iadd, 1) := dk_96 (dk_at dksL_law_105 1 rfl rfl)
theorem dL_law_2661 : decode cL_law 2661 = .ok (.iaload, 1) := dk_46 (dk_at dksL_law_105 2 rfl rfl)
theorem dL_law_2662 : decode cL_law 2662 = .ok (.aload_n 0, 1) := dk_42 (dk_at dksL_law_105 3 rfl rfl)
theorem dL_law_2663 : decode cL_law 2663 = .ok (.iload 4, 2) := dk_21 4 (dk_at dksL_law_105 4 rfl rfl)
theorem dL_law_2665 : decode cL_law 2665 = .ok (.iconst 2, 1) := dk_5 (dk_at dksL_law_105 6 rfl rfl)
theorem dL_law_2666 : decode cL_law 2666 = .ok (.iadd, 1) := dk_96 (dk_at dksL_law_105 7 rfl rfl)
theorem dL_law_2667 : decode cL_law 2667 = .ok (.iaload, 1) := dk_46 (dk_at dksL_law_105 8 rfl rfl)
theorem dL_law_2668 : decode cL_law 2668 = .ok (.aload_n 0, 1) := dk_42 (dk_at dksL_law_105 9 rfl rfl)
theorem dL_law_2669 : decode cL_law 2669 = .ok (.iload 4, 2) := dk_21 4 (dk_at dksL_law_105 10 rfl rfl)
theorem dL_law_2671 : decode cL_law 2671 = .ok (.iconst 3, 1) := dk_6 (dk_at dksL_law_105 12 rfl rfl)
theorem dL_law_2672 : decode cL_law 2672 = .ok (.iadd, 1) := dk_96 (dk_at dksL_law_105 13 rfl rfl)
theorem dL_law_2673 : decode cL_law 2673 = .ok (.iaload, 1) := dk_46 (dk_at dksL_law_105 14 rfl rfl)
theorem dL_law_2674 : decode cL_law 2674 = .ok (.aload_n 0, 1) := dk_42 (dk_at dksL_law_105 15 rfl rfl)
theorem dL_law_2675 : decode cL_law 2675 = .ok (.iload 4, 2) := dk_21 4 (dk_at dksL_law_105 16 rfl rfl)
theorem dL_law_2677 : decode cL_law 2677 = .ok (.iconst 4, 1) := dk_7 (dk_at dksL_law_105 18 rfl rfl)
theorem dL_law_2678 : decode cL_law 2678 = .ok (.iadd, 1) := dk_96 (dk_at dksL_law_105 19 rfl rfl)
theorem dL_law_2679 : decode cL_law 2679 = .ok (.iaload, 1) := dk_46 (dk_at dksL_law_105 20 rfl rfl)
theorem dL_law_2680 : decode cL_law 2680 = .ok (.aload_n 3, 1) := dk_45 (dk_at dksL_law_105 21 rfl rfl)
theorem dL_law_2681 : decode cL_law 2681 = .ok (.invokestatic 280, 3) := dk_184 1 24 (dk_at dksL_law_106 0 rfl rfl)
theorem dL_law_2684 : decode cL_law 2684 = .ok (.istore 5, 2) := dk_54 5 (dk_at dksL_law_106 3 rfl rfl)
theorem dL_law_2686 : decode cL_law 2686 = .ok (.aload_n 2, 1) := dk_44 (dk_at dksL_law_106 5 rfl rfl)
theorem dL_law_2687 : decode cL_law 2687 = .ok (.aload_n 0, 1) := dk_42 (dk_at dksL_law_106 6 rfl rfl)
theorem dL_law_2688 : decode cL_law 2688 = .ok (.iload 4, 2) := dk_21 4 (dk_at dksL_law_106 7 rfl rfl)
theorem dL_law_2690 : decode cL_law 2690 = .ok (.iconst 1, 1) := dk_4 (dk_at dksL_law_106 9 rfl rfl)
theorem dL_law_2691 : decode cL_law 2691 = .ok (.iadd, 1) := dk_96 (dk_at dksL_law_106 10 rfl rfl)
theorem dL_law_2692 : decode cL_law 2692 = .ok (.iaload, 1) := dk_46 (dk_at dksL_law_106 11 rfl rfl)
theorem dL_law_2693 : decode cL_law 2693 = .ok (.aload_n 0, 1) := dk_42 (dk_at dksL_law_106 12 rfl rfl)
theorem dL_law_2694 : decode cL_law 2694 = .ok (.iload 4, 2) := dk_21 4 (dk_at dksL_law_106 13 rfl rfl)
theorem dL_law_2696 : decode cL_law 2696 = .ok (.iconst 2, 1) := dk_5 (dk_at dksL_law_106 15 rfl rfl)
theorem dL_law_2697 : decode cL_law 2697 = .ok (.iadd, 1) := dk_96 (dk_at dksL_law_106 16 rfl rfl)
theorem dL_law_2698 : decode cL_law 2698 = .ok (.iaload, 1) := dk_46 (dk_at dksL_law_106 17 rfl rfl)
theorem dL_law_2699 : decode cL_law 2699 = .ok (.aload_n 0, 1) := dk_42 (dk_at dksL_law_106 18 rfl rfl)
theorem dL_law_2700 : decode cL_law 2700 = .ok (.iload 4, 2) := dk_21 4 (dk_at dksL_law_106 19 rfl rfl)
theorem dL_law_2702 : decode cL_law 2702 = .ok (.iconst 3, 1) := dk_6 (dk_at dksL_law_106 21 rfl rfl)
theorem dL_law_2703 : decode cL_law 2703 = .ok (.iadd, 1) := dk_96 (dk_at dksL_law_106 22 rfl rfl)
theorem dL_law_2704 : decode cL_law 2704 = .ok (.iaload, 1) := dk_46 (dk_at dksL_law_106 23 rfl rfl)
theorem dL_law_2705 : decode cL_law 2705 = .ok (.aload_n 0, 1) := dk_42 (dk_at dksL_law_107 0 rfl rfl)
theorem dL_law_2706 : decode cL_law 2706 = .ok (.iload 4, 2) := dk_21 4 (dk_at dksL_law_107 1 rfl rfl)
theorem dL_law_2708 : decode cL_law 2708 = .ok (.iconst 4, 1) := dk_7 (dk_at dksL_law_107 3 rfl rfl)
theorem dL_law_2709 : decode cL_law 2709 = .ok (.iadd, 1) := dk_96 (dk_at dksL_law_107 4 rfl rfl)
theorem dL_law_2710 : decode cL_law 2710 = .ok (.iaload, 1) := dk_46 (dk_at dksL_law_107 5 rfl rfl)
theorem dL_law_2711 : decode cL_law 2711 = .ok (.invokevirtual 282, 3) := dk_182 1 26 (dk_at dksL_law_107 6 rfl rfl)
theorem dL_law_2714 : decode cL_law 2714 = .ok (.lstore 6, 2) := dk_55 6 (dk_at dksL_law_107 9 rfl rfl)
theorem dL_law_2716 : decode cL_law 2716 = .ok (.aload_n 2, 1) := dk_44 (dk_at dksL_law_107 11 rfl rfl)
theorem dL_law_2717 : decode cL_law 2717 = .ok (.invokevirtual 175, 3) := dk_182 0 175 (dk_at dksL_law_107 12 rfl rfl)
theorem dL_law_2720 : decode cL_law 2720 = .ok (.iload 5, 2) := dk_21 5 (dk_at dksL_law_107 15 rfl rfl)
theorem dL_law_2722 : decode cL_law 2722 = .ok (.if_icmp .eq 5, 3) := dk_159 0 5 (dk_at dksL_law_107 17 rfl rfl)
theorem dL_law_2725 : decode cL_law 2725 = .ok (.iconst 0, 1) := dk_3 (dk_at dksL_law_107 20 rfl rfl)
theorem dL_law_2726 : decode cL_law 2726 = .ok (.ireturn, 1) := dk_172 (dk_at dksL_law_107 21 rfl rfl)
theorem dL_law_2727 : decode cL_law 2727 = .ok (.iload 5, 2) := dk_21 5 (dk_at dksL_law_107 22 rfl rfl)
theorem dL_law_2729 : decode cL_law 2729 = .ok (.ifCond .ne 14, 3) := dk_154 0 14 (dk_at dksL_law_108 0 rfl rfl)
theorem dL_law_2732 : decode cL_law 2732 = .ok (.aload_n 3, 1) := dk_45 (dk_at dksL_law_108 3 rfl rfl)
theorem dL_law_2733 : decode cL_law 2733 = .ok (.iconst 0, 1) := dk_3 (dk_at dksL_law_108 4 rfl rfl)
theorem dL_law_2734 : decode cL_law 2734 = .ok (.laload, 1) := dk_47 (dk_at dksL_law_108 5 rfl rfl)
theorem dL_law_2735 : decode cL_law 2735 = .ok (.lload 6, 2) := dk_22 6 (dk_at dksL_law_108 6 rfl rfl)
theorem dL_law_2737 : decode cL_law 2737 = .ok (.lcmp, 1) := dk_148 (dk_at dksL_law_108 8 rfl rfl)
theorem dL_law_2738 : decode cL_law 2738 = .ok (.ifCond .eq 5, 3) := dk_153 0 5 (dk_at dksL_law_108 9 rfl rfl)
theorem dL_law_2741 : decode cL_law 2741 = .ok (.iconst 0, 1) := dk_3 (dk_at dksL_law_108 12 rfl rfl)
theorem dL_law_2742 : decode cL_law 2742 = .ok (.ireturn, 1) := dk_172 (dk_at dksL_law_108 13 rfl rfl)
theorem dL_law_2743 : decode cL_law 2743 = .ok (.goto 997, 3) := dk_167 3 229 (dk_at dksL_law_108 14 rfl rfl)
theorem dL_law_2746 : decode cL_law 2746 = .ok (.aload_n 1, 1) := dk_43 (dk_at dksL_law_108 17 rfl rfl)
theorem dL_law_2747 : decode cL_law 2747 = .ok (.aload_n 0, 1) := dk_42 (dk_at dksL_law_108 18 rfl rfl)
theorem dL_law_2748 : decode cL_law 2748 = .ok (.iload 4, 2) := dk_21 4 (dk_at dksL_law_108 19 rfl rfl)
theorem dL_law_2750 : decode cL_law 2750 = .ok (.iconst 1, 1) := dk_4 (dk_at dksL_law_108 21 rfl rfl)
theorem dL_law_2751 : decode cL_law 2751 = .ok (.iadd, 1) := dk_96 (dk_at dksL_law_108 22 rfl rfl)
theorem dL_law_2752 : decode cL_law 2752 = .ok (.iaload, 1) := dk_46 (dk_at dksL_law_108 23 rfl rfl)
theorem dL_law_2753 : decode cL_law 2753 = .ok (.aload_n 0, 1) := dk_42 (dk_at dksL_law_109 0 rfl rfl)
theorem dL_law_2754 : decode cL_law 2754 = .ok (.iload 4, 2) := dk_21 4 (dk_at dksL_law_109 1 rfl rfl)
theorem dL_law_2756 : decode cL_law 2756 = .ok (.iconst 2, 1) := dk_5 (dk_at dksL_law_109 3 rfl rfl)
theorem dL_law_2757 : decode cL_law 2757 = .ok (.iadd, 1) := dk_96 (dk_at dksL_law_109 4 rfl rfl)
theorem dL_law_2758 : decode cL_law 2758 = .ok (.iaload, 1) := dk_46 (dk_at dksL_law_109 5 rfl rfl)
theorem dL_law_2759 : decode cL_law 2759 = .ok (.aload_n 3, 1) := dk_45 (dk_at dksL_law_109 6 rfl rfl)
theorem dL_law_2760 : decode cL_law 2760 = .ok (.invokestatic 283, 3) := dk_184 1 27 (dk_at dksL_law_109 7 rfl rfl)
theorem dL_law_2763 : decode cL_law 2763 = .ok (.istore 5, 2) := dk_54 5 (dk_at dksL_law_109 10 rfl rfl)
theorem dL_law_2765 : decode cL_law 2765 = .ok (.aload_n 2, 1) := dk_44 (dk_at dksL_law_109 12 rfl rfl)
theorem dL_law_2766 : decode cL_law 2766 = .ok (.aload_n 0, 1) := dk_42 (dk_at dksL_law_109 13 rfl rfl)
theorem dL_law_2767 : decode cL_law 2767 = .ok (.iload 4, 2) := dk_21 4 (dk_at dksL_law_109 14 rfl rfl)
theorem dL_law_2769 : decode cL_law 2769 = .ok (.iconst 1, 1) := dk_4 (dk_at dksL_law_109 16 rfl rfl)
theorem dL_law_2770 : decode cL_law 2770 = .ok (.iadd, 1) := dk_96 (dk_at dksL_law_109 17 rfl rfl)
theorem dL_law_2771 : decode cL_law 2771 = .ok (.iaload, 1) := dk_46 (dk_at dksL_law_109 18 rfl rfl)
theorem dL_law_2772 : decode cL_law 2772 = .ok (.aload_n 0, 1) := dk_42 (dk_at dksL_law_109 19 rfl rfl)
theorem dL_law_2773 : decode cL_law 2773 = .ok (.iload 4, 2) := dk_21 4 (dk_at dksL_law_109 20 rfl rfl)
theorem dL_law_2775 : decode cL_law 2775 = .ok (.iconst 2, 1) := dk_5 (dk_at dksL_law_109 22 rfl rfl)
theorem dL_law_2776 : decode cL_law 2776 = .ok (.iadd, 1) := dk_96 (dk_at dksL_law_109 23 rfl rfl)
theorem dL_law_2777 : decode cL_law 2777 = .ok (.iaload, 1) := dk_46 (dk_at dksL_law_110 0 rfl rfl)
theorem dL_law_2778 : decode cL_law 2778 = .ok (.invokevirtual 285, 3) := dk_182 1 29 (dk_at dksL_law_110 1 rfl rfl)
theorem dL_law_2781 : decode cL_law 2781 = .ok (.lstore 6, 2) := dk_55 6 (dk_at dksL_law_110 4 rfl rfl)
theorem dL_law_2783 : decode cL_law 2783 = .ok (.aload_n 2, 1) := dk_44 (dk_at dksL_law_110 6 rfl rfl)
theorem dL_law_2784 : decode cL_law 2784 = .ok (.invokevirtual 175, 3) := dk_182 0 175 (dk_at dksL_law_110 7 rfl rfl)
theorem dL_law_2787 : decode cL_law 2787 = .ok (.iload 5, 2) := dk_21 5 (dk_at dksL_law_110 10 rfl rfl)
theorem dL_law_2789 : decode cL_law 2789 = .ok (.if_icmp .eq 5, 3) := dk_159 0 5 (dk_at dksL_law_110 12 rfl rfl)
theorem dL_law_2792 : decode cL_law 2792 = .ok (.iconst 0, 1) := dk_3 (dk_at dksL_law_110 15 rfl rfl)
theorem dL_law_2793 : decode cL_law 2793 = .ok (.ireturn, 1) := dk_172 (dk_at dksL_law_110 16 rfl rfl)
theorem dL_law_2794 : decode cL_law 2794 = .ok (.iload 5, 2) := dk_21 5 (dk_at dksL_law_110 17 rfl rfl)
theorem dL_law_2796 : decode cL_law 2796 = .ok (.ifCond .ne 14, 3) := dk_154 0 14 (dk_at dksL_law_110 19 rfl rfl)
theorem dL_law_2799 : decode cL_law 2799 = .ok (.aload_n 3, 1) := dk_45 (dk_at dksL_law_110 22 rfl rfl)
theorem dL_law_2800 : decode cL_law 2800 = .ok (.iconst 0, 1) := dk_3 (dk_at dksL_law_110 23 rfl rfl)
theorem dL_law_2801 : decode cL_law 2801 = .ok (.laload, 1) := dk_47 (dk_at dksL_law_111 0 rfl rfl)
theorem dL_law_2802 : decode cL_law 2802 = .ok (.lload 6, 2) := dk_22 6 (dk_at dksL_law_111 1 rfl rfl)
theorem dL_law_2804 : decode cL_law 2804 = .ok (.lcmp, 1) := dk_148 (dk_at dksL_law_111 3 rfl rfl)
theorem dL_law_2805 : decode cL_law 2805 = .ok (.ifCond .eq 5, 3) := dk_153 0 5 (dk_at dksL_law_111 4 rfl rfl)
theorem dL_law_2808 : decode cL_law 2808 = .ok (.iconst 0, 1) := dk_3 (dk_at dksL_law_111 7 rfl rfl)
theorem dL_law_2809 : decode cL_law 2809 = .ok (.ireturn, 1) := dk_172 (dk_at dksL_law_111 8 rfl rfl)
theorem dL_law_2810 : decode cL_law 2810 = .ok (.goto 930, 3) := dk_167 3 162 (dk_at dksL_law_111 9 rfl rfl)
theorem dL_law_2813 : decode cL_law 2813 = .ok (.aload_n 1, 1) := dk_43 (dk_at dksL_law_111 12 rfl rfl)
theorem dL_law_2814 : decode cL_law 2814 = .ok (.aload_n 0, 1) := dk_42 (dk_at dksL_law_111 13 rfl rfl)
theorem dL_law_2815 : decode cL_law 2815 = .ok (.iload 4, 2) := dk_21 4 (dk_at dksL_law_111 14 rfl rfl)
theorem dL_law_2817 : decode cL_law 2817 = .ok (.iconst 1, 1) := dk_4 (dk_at dksL_law_111 16 rfl rfl)
theorem dL_law_2818 : decode cL_law 2818 = .ok (.iadd, 1) := dk_96 (dk_at dksL_law_111 17 rfl rfl)
theorem dL_law_2819 : decode cL_law 2819 = .ok (.iaload, 1) := dk_46 (dk_at dksL_law_111 18 rfl rfl)
theorem dL_law_2820 : decode cL_law 2820 = .ok (.aload_n 0, 1) := dk_42 (dk_at dksL_law_111 19 rfl rfl)
theorem dL_law_2821 : decode cL_law 2821 = .ok (.iload 4, 2) := dk_21 4 (dk_at dksL_law_111 20 rfl rfl)
theorem dL_law_2823 : decode cL_law 2823 = .ok (.iconst 2, 1) := dk_5 (dk_at dksL_law_111 22 rfl rfl)
theorem dL_law_2824 : decode cL_law 2824 = .ok (.iadd, 1) := dk_96 (dk_at dksL_law_111 23 rfl rfl)
theorem dL_law_2825 : decode cL_law 2825 = .ok (.iaload, 1) := dk_46 (dk_at dksL_law_112 0 rfl rfl)
theorem dL_law_2826 : decode cL_law 2826 = .ok (.aload_n 3, 1) := dk_45 (dk_at dksL_law_112 1 rfl rfl)
theorem dL_law_2827 : decode cL_law 2827 = .ok (.invokestatic 286, 3) := dk_184 1 30 (dk_at dksL_law_112 2 rfl rfl)
theorem dL_law_2830 : decode cL_law 2830 = .ok (.istore 5, 2) := dk_54 5 (dk_at dksL_law_112 5 rfl rfl)
theorem dL_law_2832 : decode cL_law 2832 = .ok (.aload_n 2, 1) := dk_44 (dk_at dksL_law_112 7 rfl rfl)
theorem dL_law_2833 : decode cL_law 2833 = .ok (.aload_n 0, 1) := dk_42 (dk_at dksL_law_112 8 rfl rfl)
theorem dL_law_2834 : decode cL_law 2834 = .ok (.iload 4, 2) := dk_21 4 (dk_at dksL_law_112 9 rfl rfl)
theorem dL_law_2836 : decode cL_law 2836 = .ok (.iconst 1, 1) := dk_4 (dk_at dksL_law_112 11 rfl rfl)
theorem dL_law_2837 : decode cL_law 2837 = .ok (.iadd, 1) := dk_96 (dk_at dksL_law_112 12 rfl rfl)
theorem dL_law_2838 : decode cL_law 2838 = .ok (.iaload, 1) := dk_46 (dk_at dksL_law_112 13 rfl rfl)
theorem dL_law_2839 : decode cL_law 2839 = .ok (.aload_n 0, 1) := dk_42 (dk_at dksL_law_112 14 rfl rfl)
theorem dL_law_2840 : decode cL_law 2840 = .ok (.iload 4, 2) := dk_21 4 (dk_at dksL_law_112 15 rfl rfl)
theorem dL_law_2842 : decode cL_law 2842 = .ok (.iconst 2, 1) := dk_5 (dk_at dksL_law_112 17 rfl rfl)
theorem dL_law_2843 : decode cL_law 2843 = .ok (.iadd, 1) := dk_96 (dk_at dksL_law_112 18 rfl rfl)
theorem dL_law_2844 : decode cL_law 2844 = .ok (.iaload, 1) := dk_46 (dk_at dksL_law_112 19 rfl rfl)
theorem dL_law_2845 : decode cL_law 2845 = .ok (.invokevirtual 288, 3) := dk_182 1 32 (dk_at dksL_law_112 20 rfl rfl)
theorem dL_law_2848 : decode cL_law 2848 = .ok (.lstore 6, 2) := dk_55 6 (dk_at dksL_law_113 0 rfl rfl)
theorem dL_law_2850 : decode cL_law 2850 = .ok (.aload_n 2, 1) := dk_44 (dk_at dksL_law_113 2 rfl rfl)
theorem dL_law_2851 : decode cL_law 2851 = .ok (.invokevirtual 175, 3) := dk_182 0 175 (dk_at dksL_law_113 3 rfl rfl)
theorem dL_law_2854 : decode cL_law 2854 = .ok (.iload 5, 2) := dk_21 5 (dk_at dksL_law_113 6 rfl rfl)
theorem dL_law_2856 : decode cL_law 2856 = .ok (.if_icmp .eq 5, 3) := dk_159 0 5 (dk_at dksL_law_113 8 rfl rfl)
theorem dL_law_2859 : decode cL_law 2859 = .ok (.iconst 0, 1) := dk_3 (dk_at dksL_law_113 11 rfl rfl)
theorem dL_law_2860 : decode cL_law 2860 = .ok (.ireturn, 1) := dk_172 (dk_at dksL_law_113 12 rfl rfl)
theorem dL_law_2861 : decode cL_law 2861 = .ok (.iload 5, 2) := dk_21 5 (dk_at dksL_law_113 13 rfl rfl)
theorem dL_law_2863 : decode cL_law 2863 = .ok (.ifCond .ne 14, 3) := dk_154 0 14 (dk_at dksL_law_113 15 rfl rfl)
theorem dL_law_2866 : decode cL_law 2866 = .ok (.aload_n 3, 1) := dk_45 (dk_at dksL_law_113 18 rfl rfl)
theorem dL_law_2867 : decode cL_law 2867 = .ok (.iconst 0, 1) := dk_3 (dk_at dksL_law_113 19 rfl rfl)
theorem dL_law_2868 : decode cL_law 2868 = .ok (.laload, 1) := dk_47 (dk_at dksL_law_113 20 rfl rfl)
theorem dL_law_2869 : decode cL_law 2869 = .ok (.lload 6, 2) := dk_22 6 (dk_at dksL_law_113 21 rfl rfl)
theorem dL_law_2871 : decode cL_law 2871 = .ok (.lcmp, 1) := dk_148 (dk_at dksL_law_113 23 rfl rfl)
theorem dL_law_2872 : decode cL_law 2872 = .ok (.ifCond .eq 5, 3) := dk_153 0 5 (dk_at dksL_law_114 0 rfl rfl)
theorem dL_law_2875 : decode cL_law 2875 = .ok (.iconst 0, 1) := dk_3 (dk_at dksL_law_114 3 rfl rfl)
theorem dL_law_2876 : decode cL_law 2876 = .ok (.ireturn, 1) := dk_172 (dk_at dksL_law_114 4 rfl rfl)
theorem dL_law_2877 : decode cL_law 2877 = .ok (.goto 863, 3) := dk_167 3 95 (dk_at dksL_law_114 5 rfl rfl)
theorem dL_law_2880 : decode cL_law 2880 = .ok (.aload_n 1, 1) := dk_43 (dk_at dksL_law_114 8 rfl rfl)
theorem dL_law_2881 : decode cL_law 2881 = .ok (.aload_n 0, 1) := dk_42 (dk_at dksL_law_114 9 rfl rfl)
theorem dL_law_2882 : decode cL_law 2882 = .ok (.iload 4, 2) := dk_21 4 (dk_at dksL_law_114 10 rfl rfl)
theorem dL_law_2884 : decode cL_law 2884 = .ok (.iconst 1, 1) := dk_4 (dk_at dksL_law_114 12 rfl rfl)
theorem dL_law_2885 : decode cL_law 2885 = .ok (.iadd, 1) := dk_96 (dk_at dksL_law_114 13 rfl rfl)
theorem dL_law_2886 : decode cL_law 2886 = .ok (.iaload, 1) := dk_46 (dk_at dksL_law_114 14 rfl rfl)
theorem dL_law_2887 : decode cL_law 2887 = .ok (.aload_n 3, 1) := dk_45 (dk_at dksL_law_114 15 rfl rfl)
theorem dL_law_2888 : decode cL_law 2888 = .ok (.invokestatic 289, 3) := dk_184 1 33 (dk_at dksL_law_114 16 rfl rfl)
theorem dL_law_2891 : decode cL_law 2891 = .ok (.istore 5, 2) := dk_54 5 (dk_at dksL_law_114 19 rfl rfl)
theorem dL_law_2893 : decode cL_law 2893 = .ok (.aload_n 2, 1) := dk_44 (dk_at dksL_law_114 21 rfl rfl)
theorem dL_law_2894 : decode cL_law 2894 = .ok (.aload_n 0, 1) := dk_42 (dk_at dksL_law_114 22 rfl rfl)
theorem dL_law_2895 : decode cL_law 2895 = .ok (.iload 4, 2) := dk_21 4 (dk_at dksL_law_115 0 rfl rfl)
theorem dL_law_2897 : decode cL_law 2897 = .ok (.iconst 1, 1) := dk_4 (dk_at dksL_law_115 2 rfl rfl)
theorem dL_law_2898 : decode cL_law 2898 = .ok (.iadd, 1) := dk_96 (dk_at dksL_law_115 3 rfl rfl)
theorem dL_law_2899 : decode cL_law 2899 = .ok (.iaload, 1) := dk_46 (dk_at dksL_law_115 4 rfl rfl)
theorem dL_law_2900 : decode cL_law 2900 = .ok (.invokevirtual 291, 3) := dk_182 1 35 (dk_at dksL_law_115 5 rfl rfl)
theorem dL_law_2903 : decode cL_law 2903 = .ok (.istore 6, 2) := dk_54 6 (dk_at dksL_law_115 8 rfl rfl)
theorem dL_law_2905 : decode cL_law 2905 = .ok (.aload_n 2, 1) := dk_44 (dk_at dksL_law_115 10 rfl rfl)
theorem dL_law_2906 : decode cL_law 2906 = .ok (.invokevirtual 175, 3) := dk_182 0 175 (dk_at dksL_law_115 11 rfl rfl)
theorem dL_law_2909 : decode cL_law 2909 = .ok (.iload 5, 2) := dk_21 5 (dk_at dksL_law_115 14 rfl rfl)
theorem dL_law_2911 : decode cL_law 2911 = .ok (.if_icmp .eq 5, 3) := dk_159 0 5 (dk_at dksL_law_115 16 rfl rfl)
theorem dL_law_2914 : decode cL_law 2914 = .ok (.iconst 0, 1) := dk_3 (dk_at dksL_law_115 19 rfl rfl)
theorem dL_law_2915 : decode cL_law 2915 = .ok (.ireturn, 1) := dk_172 (dk_at dksL_law_115 20 rfl rfl)
theorem dL_law_2916 : decode cL_law 2916 = .ok (.iload 5, 2) := dk_21 5 (dk_at dksL_law_115 21 rfl rfl)
theorem dL_law_2918 : decode cL_law 2918 = .ok (.ifCond .ne 15, 3) := dk_154 0 15 (dk_at dksL_law_116 0 rfl rfl)
theorem dL_law_2921 : decode cL_law 2921 = .ok (.aload_n 3, 1) := dk_45 (dk_at dksL_law_116 3 rfl rfl)
theorem dL_law_2922 : decode cL_law 2922 = .ok (.iconst 0, 1) := dk_3 (dk_at dksL_law_116 4 rfl rfl)
theorem dL_law_2923 : decode cL_law 2923 = .ok (.laload, 1) := dk_47 (dk_at dksL_law_116 5 rfl rfl)
theorem dL_law_2924 : decode cL_law 2924 = .ok (.iload 6, 2) := dk_21 6 (dk_at dksL_law_116 6 rfl rfl)
theorem dL_law_2926 : decode cL_law 2926 = .ok (.i2l, 1) := dk_133 (dk_at dksL_law_116 8 rfl rfl)
theorem dL_law_2927 : decode cL_law 2927 = .ok (.lcmp, 1) := dk_148 (dk_at dksL_law_116 9 rfl rfl)
theorem dL_law_2928 : decode cL_law 2928 = .ok (.ifCond .eq 5, 3) := dk_153 0 5 (dk_at dksL_law_116 10 rfl rfl)
theorem dL_law_2931 : decode cL_law 2931 = .ok (.iconst 0, 1) := dk_3 (dk_at dksL_law_116 13 rfl rfl)
theorem dL_law_2932 : decode cL_law 2932 = .ok (.ireturn, 1) := dk_172 (dk_at dksL_law_116 14 rfl rfl)
theorem dL_law_2933 : decode cL_law 2933 = .ok (.goto 807, 3) := dk_167 3 39 (dk_at dksL_law_116 15 rfl rfl)
theorem dL_law_2936 : decode cL_law 2936 = .ok (.aload_n 1, 1) := dk_43 (dk_at dksL_law_116 18 rfl rfl)
theorem dL_law_2937 : decode cL_law 2937 = .ok (.aload_n 0, 1) := dk_42 (dk_at dksL_law_116 19 rfl rfl)
theorem dL_law_2938 : decode cL_law 2938 = .ok (.iload 4, 2) := dk_21 4 (dk_at dksL_law_116 20 rfl rfl)
theorem dL_law_2940 : decode cL_law 2940 = .ok (.iconst 1, 1) := dk_4 (dk_at dksL_law_116 22 rfl rfl)
theorem dL_law_2941 : decode cL_law 2941 = .ok (.iadd, 1) := dk_96 (dk_at dksL_law_116 23 rfl rfl)
theorem dL_law_2942 : decode cL_law 2942 = .ok (.iaload, 1) := dk_46 (dk_at dksL_law_117 0 rfl rfl)
theorem dL_law_2943 : decode cL_law 2943 = .ok (.aload_n 3, 1) := dk_45 (dk_at dksL_law_117 1 rfl rfl)
theorem dL_law_2944 : decode cL_law 2944 = .ok (.invokestatic 292, 3) := dk_184 1 36 (dk_at dksL_law_117 2 rfl rfl)
theorem dL_law_2947 : decode cL_law 2947 = .ok (.istore 5, 2) := dk_54 5 (dk_at dksL_law_117 5 rfl rfl)
theorem dL_law_2949 : decode cL_law 2949 = .ok (.aload_n 2, 1) := dk_44 (dk_at dksL_law_117 7 rfl rfl)
theorem dL_law_2950 : decode cL_law 2950 = .ok (.aload_n 0, 1) := dk_42 (dk_at dksL_law_117 8 rfl rfl)
theorem dL_law_2951 : decode cL_law 2951 = .ok (.iload 4, 2) := dk_21 4 (dk_at dksL_law_117 9 rfl rfl)
theorem dL_law_2953 : decode cL_law 2953 = .ok (.iconst 1, 1) := dk_4 (dk_at dksL_law_117 11 rfl rfl)
theorem dL_law_2954 : decode cL_law 2954 = .ok (.iadd, 1) := dk_96 (dk_at dksL_law_117 12 rfl rfl)
theorem dL_law_2955 : decode cL_law 2955 = .ok (.iaload, 1) := dk_46 (dk_at dksL_law_117 13 rfl rfl)
theorem dL_law_2956 : decode cL_law 2956 = .ok (.invokevirtual 294, 3) := dk_182 1 38 (dk_at dksL_law_117 14 rfl rfl)
theorem dL_law_2959 : decode cL_law 2959 = .ok (.lstore 6, 2) := dk_55 6 (dk_at dksL_law_117 17 rfl rfl)
theorem dL_law_2961 : decode cL_law 2961 = .ok (.aload_n 2, 1) := dk_44 (dk_at dksL_law_117 19 rfl rfl)
theorem dL_law_2962 : decode cL_law 2962 = .ok (.invokevirtual 175, 3) := dk_182 0 175 (dk_at dksL_law_117 20 rfl rfl)
theorem dL_law_2965 : decode cL_law 2965 = .ok (.iload 5, 2) := dk_21 5 (dk_at dksL_law_118 0 rfl rfl)
theorem dL_law_2967 : decode cL_law 2967 = .ok (.if_icmp .eq 5, 3) := dk_159 0 5 (dk_at dksL_law_118 2 rfl rfl)
theorem dL_law_2970 : decode cL_law 2970 = .ok (.iconst 0, 1) := dk_3 (dk_at dksL_law_118 5 rfl rfl)
theorem dL_law_2971 : decode cL_law 2971 = .ok (.ireturn, 1) := dk_172 (dk_at dksL_law_118 6 rfl rfl)
theorem dL_law_2972 : decode cL_law 2972 = .ok (.iload 5, 2) := dk_21 5 (dk_at dksL_law_118 7 rfl rfl)
theorem dL_law_2974 : decode cL_law 2974 = .ok (.ifCond .ne 14, 3) := dk_154 0 14 (dk_at dksL_law_118 9 rfl rfl)
theorem dL_law_2977 : decode cL_law 2977 = .ok (.aload_n 3, 1) := dk_45 (dk_at dksL_law_118 12 rfl rfl)
theorem dL_law_2978 : decode cL_law 2978 = .ok (.iconst 0, 1) := dk_3 (dk_at dksL_law_118 13 rfl rfl)
theorem dL_law_2979 : decode cL_law 2979 = .ok (.laload, 1) := dk_47 (dk_at dksL_law_118 14 rfl rfl)
theorem dL_law_2980 : decode cL_law 2980 = .ok (.lload 6, 2) := dk_22 6 (dk_at dksL_law_118 15 rfl rfl)
theorem dL_law_2982 : decode cL_law 2982 = .ok (.lcmp, 1) := dk_148 (dk_at dksL_law_118 17 rfl rfl)
theorem dL_law_2983 : decode cL_law 2983 = .ok (.ifCond .eq 5, 3) := dk_153 0 5 (dk_at dksL_law_118 18 rfl rfl)
theorem dL_law_2986 : decode cL_law 2986 = .ok (.iconst 0, 1) := dk_3 (dk_at dksL_law_118 21 rfl rfl)
theorem dL_law_2987 : decode cL_law 2987 = .ok (.ireturn, 1) := dk_172 (dk_at dksL_law_118 22 rfl rfl)
theorem dL_law_2988 : decode cL_law 2988 = .ok (.goto 752, 3) := dk_167 2 240 (dk_at dksL_law_119 0 rfl rfl)
theorem dL_law_2991 : decode cL_law 2991 = .ok (.aload_n 1, 1) := dk_43 (dk_at dksL_law_119 3 rfl rfl)
theorem dL_law_2992 : decode cL_law 2992 = .ok (.aload_n 0, 1) := dk_42 (dk_at dksL_law_119 4 rfl rfl)
theorem dL_law_2993 : decode cL_law 2993 = .ok (.iload 4, 2) := dk_21 4 (dk_at dksL_law_119 5 rfl rfl)
theorem dL_law_2995 : decode cL_law 2995 = .ok (.iconst 1, 1) := dk_4 (dk_at dksL_law_119 7 rfl rfl)
theorem dL_law_2996 : decode cL_law 2996 = .ok (.iadd, 1) := dk_96 (dk_at dksL_law_119 8 rfl rfl)
theorem dL_law_2997 : decode cL_law 2997 = .ok (.iaload, 1) := dk_46 (dk_at dksL_law_119 9 rfl rfl)
theorem dL_law_2998 : decode cL_law 2998 = .ok (.aload_n 0, 1) := dk_42 (dk_at dksL_law_119 10 rfl rfl)
theorem dL_law_2999 : decode cL_law 2999 = .ok (.iload 4, 2) := dk_21 4 (dk_at dksL_law_119 11 rfl rfl)
theorem dL_law_3001 : decode cL_law 3001 = .ok (.iconst 2, 1) := dk_5 (dk_at dksL_law_119 13 rfl rfl)
theorem dL_law_3002 : decode cL_law 3002 = .ok (.iadd, 1) := dk_96 (dk_at dksL_law_119 14 rfl rfl)
theorem dL_law_3003 : decode cL_law 3003 = .ok (.iaload, 1) := dk_46 (dk_at dksL_law_119 15 rfl rfl)
theorem dL_law_3004 : decode cL_law 3004 = .ok (.aload_n 0, 1) := dk_42 (dk_at dksL_law_119 16 rfl rfl)
theorem dL_law_3005 : decode cL_law 3005 = .ok (.iload 4, 2) := dk_21 4 (dk_at dksL_law_119 17 rfl rfl)
theorem dL_law_3007 : decode cL_law 3007 = .ok (.iconst 3, 1) := dk_6 (dk_at dksL_law_119 19 rfl rfl)
theorem dL_law_3008 : decode cL_law 3008 = .ok (.iadd, 1) := dk_96 (dk_at dksL_law_119 20 rfl rfl)
theorem dL_law_3009 : decode cL_law 3009 = .ok (.iaload, 1) := dk_46 (dk_at dksL_law_119 21 rfl rfl)
theorem dL_law_3010 : decode cL_law 3010 = .ok (.aload_n 3, 1) := dk_45 (dk_at dksL_law_119 22 rfl rfl)
theorem dL_law_3011 : decode cL_law 3011 = .ok (.invokestatic 295, 3) := dk_184 1 39 (dk_at dksL_law_120 0 rfl rfl)
theorem dL_law_3014 : decode cL_law 3014 = .ok (.istore 5, 2) := dk_54 5 (dk_at dksL_law_120 3 rfl rfl)
theorem dL_law_3016 : decode cL_law 3016 = .ok (.aload_n 2, 1) := dk_44 (dk_at dksL_law_120 5 rfl rfl)
theorem dL_law_3017 : decode cL_law 3017 = .ok (.aload_n 0, 1) := dk_42 (dk_at dksL_law_120 6 rfl rfl)
theorem dL_law_3018 : decode cL_law 3018 = .ok (.iload 4, 2) := dk_21 4 (dk_at dksL_law_120 7 rfl rfl)
theorem dL_law_3020 : decode cL_law 3020 = .ok (.iconst 1, 1) := dk_4 (dk_at dksL_law_120 9 rfl rfl)
theorem dL_law_3021 : decode cL_law 3021 = .ok (.iadd, 1) := dk_96 (dk_at dksL_law_120 10 rfl rfl)
theorem dL_law_3022 : decode cL_law 3022 = .ok (.iaload, 1) := dk_46 (dk_at dksL_law_120 11 rfl rfl)
theorem dL_law_3023 : decode cL_law 3023 = .ok (.aload_n 0, 1) := dk_42 (dk_at dksL_law_120 12 rfl rfl)
theorem dL_law_3024 : decode cL_law 3024 = .ok (.iload 4, 2) := dk_21 4 (dk_at dksL_law_120 13 rfl rfl)
theorem dL_law_3026 : decode cL_law 3026 = .ok (.iconst 2, 1) := dk_5 (dk_at dksL_law_120 15 rfl rfl)
theorem dL_law_3027 : decode cL_law 3027 = .ok (.iadd, 1) := dk_96 (dk_at dksL_law_120 16 rfl rfl)
theorem dL_law_3028 : decode cL_law 3028 = .ok (.iaload, 1) := dk_46 (dk_at dksL_law_120 17 rfl rfl)
theorem dL_law_3029 : decode cL_law 3029 = .ok (.aload_n 0, 1) := dk_42 (dk_at dksL_law_120 18 rfl rfl)
theorem dL_law_3030 : decode cL_law 3030 = .ok (.iload 4, 2) := dk_21 4 (dk_at dksL_law_120 19 rfl rfl)
theorem dL_law_3032 : decode cL_law 3032 = .ok (.iconst 3, 1) := dk_6 (dk_at dksL_law_120 21 rfl rfl)
theorem dL_law_3033 : decode cL_law 3033 = .ok (.iadd, 1) := dk_96 (dk_at dksL_law_120 22 rfl rfl)
theorem dL_law_3034 : decode cL_law 3034 = .ok (.iaload, 1) := dk_46 (dk_at dksL_law_120 23 rfl rfl)
theorem dL_law_3035 : decode cL_law 3035 = .ok (.invokevirtual 297, 3) := dk_182 1 41 (dk_at dksL_law_121 0 rfl rfl)
theorem dL_law_3038 : decode cL_law 3038 = .ok (.lstore 6, 2) := dk_55 6 (dk_at dksL_law_121 3 rfl rfl)
theorem dL_law_3040 : decode cL_law 3040 = .ok (.aload_n 2, 1) := dk_44 (dk_at dksL_law_121 5 rfl rfl)
theorem dL_law_3041 : decode cL_law 3041 = .ok (.invokevirtual 175, 3) := dk_182 0 175 (dk_at dksL_law_121 6 rfl rfl)
theorem dL_law_3044 : decode cL_law 3044 = .ok (.iload 5, 2) := dk_21 5 (dk_at dksL_law_121 9 rfl rfl)
theorem dL_law_3046 : decode cL_law 3046 = .ok (.if_icmp .eq 5, 3) := dk_159 0 5 (dk_at dksL_law_121 11 rfl rfl)
theorem dL_law_3049 : decode cL_law 3049 = .ok (.iconst 0, 1) := dk_3 (dk_at dksL_law_121 14 rfl rfl)
theorem dL_law_3050 : decode cL_law 3050 = .ok (.ireturn, 1) := dk_172 (dk_at dksL_law_121 15 rfl rfl)
theorem dL_law_3051 : decode cL_law 3051 = .ok (.iload 5, 2) := dk_21 5 (dk_at dksL_law_121 16 rfl rfl)
theorem dL_law_3053 : decode cL_law 3053 = .ok (.ifCond .ne 14, 3) := dk_154 0 14 (dk_at dksL_law_121 18 rfl rfl)
theorem dL_law_3056 : decode cL_law 3056 = .ok (.aload_n 3, 1) := dk_45 (dk_at dksL_law_121 21 rfl rfl)
theorem dL_law_3057 : decode cL_law 3057 = .ok (.iconst 0, 1) := dk_3 (dk_at dksL_law_121 22 rfl rfl)
theorem dL_law_3058 : decode cL_law 3058 = .ok (.laload, 1) := dk_47 (dk_at dksL_law_121 23 rfl rfl)
theorem dL_law_3059 : decode cL_law 3059 = .ok (.lload 6, 2) := dk_22 6 (dk_at dksL_law_122 0 rfl rfl)
theorem dL_law_3061 : decode cL_law 3061 = .ok (.lcmp, 1) := dk_148 (dk_at dksL_law_122 2 rfl rfl)
theorem dL_law_3062 : decode cL_law 3062 = .ok (.ifCond .eq 5, 3) := dk_153 0 5 (dk_at dksL_law_122 3 rfl rfl)
theorem dL_law_3065 : decode cL_law 3065 = .ok (.iconst 0, 1) := dk_3 (dk_at dksL_law_122 6 rfl rfl)
theorem dL_law_3066 : decode cL_law 3066 = .ok (.ireturn, 1) := dk_172 (dk_at dksL_law_122 7 rfl rfl)
theorem dL_law_3067 : decode cL_law 3067 = .ok (.goto 673, 3) := dk_167 2 161 (dk_at dksL_law_122 8 rfl rfl)
theorem dL_law_3070 : decode cL_law 3070 = .ok (.aload_n 1, 1) := dk_43 (dk_at dksL_law_122 11 rfl rfl)
theorem dL_law_3071 : decode cL_law 3071 = .ok (.aload_n 0, 1) := dk_42 (dk_at dksL_law_122 12 rfl rfl)
theorem dL_law_3072 : decode cL_law 3072 = .ok (.iload 4, 2) := dk_21 4 (dk_at dksL_law_122 13 rfl rfl)
theorem dL_law_3074 : decode cL_law 3074 = .ok (.iconst 1, 1) := dk_4 (dk_at dksL_law_122 15 rfl rfl)
theorem dL_law_3075 : decode cL_law 3075 = .ok (.iadd, 1) := dk_96 (dk_at dksL_law_122 16 rfl rfl)
theorem dL_law_3076 : decode cL_law 3076 = .ok (.iaload, 1) := dk_46 (dk_at dksL_law_122 17 rfl rfl)
theorem dL_law_3077 : decode cL_law 3077 = .ok (.aload_n 0, 1) := dk_42 (dk_at dksL_law_122 18 rfl rfl)
theorem dL_law_3078 : decode cL_law 3078 = .ok (.iload 4, 2) := dk_21 4 (dk_at dksL_law_122 19 rfl rfl)
theorem dL_law_3080 : decode cL_law 3080 = .ok (.iconst 2, 1) := dk_5 (dk_at dksL_law_122 21 rfl rfl)
theorem dL_law_3081 : decode cL_law 3081 = .ok (.iadd, 1) := dk_96 (dk_at dksL_law_122 22 rfl rfl)
theorem dL_law_3082 : decode cL_law 3082 = .ok (.iaload, 1) := dk_46 (dk_at dksL_law_122 23 rfl rfl)
theorem dL_law_3083 : decode cL_law 3083 = .ok (.aload_n 3, 1) := dk_45 (dk_at dksL_law_123 0 rfl rfl)
theorem dL_law_3084 : decode cL_law 3084 = .ok (.invokestatic 298, 3) := dk_184 1 42 (dk_at dksL_law_123 1 rfl rfl)
theorem dL_law_3087 : decode cL_law 3087 = .ok (.istore 5, 2) := dk_54 5 (dk_at dksL_law_123 4 rfl rfl)
theorem dL_law_3089 : decode cL_law 3089 = .ok (.aload_n 2, 1) := dk_44 (dk_at dksL_law_123 6 rfl rfl)
theorem dL_law_3090 : decode cL_law 3090 = .ok (.aload_n 0, 1) := dk_42 (dk_at dksL_law_123 7 rfl rfl)
theorem dL_law_3091 : decode cL_law 3091 = .ok (.iload 4, 2) := dk_21 4 (dk_at dksL_law_123 8 rfl rfl)
theorem dL_law_3093 : decode cL_law 3093 = .ok (.iconst 1, 1) := dk_4 (dk_at dksL_law_123 10 rfl rfl)
theorem dL_law_3094 : decode cL_law 3094 = .ok (.iadd, 1) := dk_96 (dk_at dksL_law_123 11 rfl rfl)
theorem dL_law_3095 : decode cL_law 3095 = .ok (.iaload, 1) := dk_46 (dk_at dksL_law_123 12 rfl rfl)
theorem dL_law_3096 : decode cL_law 3096 = .ok (.aload_n 0, 1) := dk_42 (dk_at dksL_law_123 13 rfl rfl)
theorem dL_law_3097 : decode cL_law 3097 = .ok (.iload 4, 2) := dk_21 4 (dk_at dksL_law_123 14 rfl rfl)
theorem dL_law_3099 : decode cL_law 3099 = .ok (.iconst 2, 1) := dk_5 (dk_at dksL_law_123 16 rfl rfl)
theorem dL_law_3100 : decode cL_law 3100 = .ok (.iadd, 1) := dk_96 (dk_at dksL_law_123 17 rfl rfl)
theorem dL_law_3101 : decode cL_law 3101 = .ok (.iaload, 1) := dk_46 (dk_at dksL_law_123 18 rfl rfl)
theorem dL_law_3102 : decode cL_law 3102 = .ok (.invokevirtual 300, 3) := dk_182 1 44 (dk_at dksL_law_123 19 rfl rfl)
theorem dL_law_3105 : decode cL_law 3105 = .ok (.lstore 6, 2) := dk_55 6 (dk_at dksL_law_123 22 rfl rfl)
theorem dL_law_3107 : decode cL_law 3107 = .ok (.aload_n 2, 1) := dk_44 (dk_at dksL_law_124 0 rfl rfl)
theorem dL_law_3108 : decode cL_law 3108 = .ok (.invokevirtual 175, 3) := dk_182 0 175 (dk_at dksL_law_124 1 rfl rfl)
theorem dL_law_3111 : decode cL_law 3111 = .ok (.iload 5, 2) := dk_21 5 (dk_at dksL_law_124 4 rfl rfl)
theorem dL_law_3113 : decode cL_law 3113 = .ok (.if_icmp .eq 5, 3) := dk_159 0 5 (dk_at dksL_law_124 6 rfl rfl)
theorem dL_law_3116 : decode cL_law 3116 = .ok (.iconst 0, 1) := dk_3 (dk_at dksL_law_124 9 rfl rfl)
theorem dL_law_3117 : decode cL_law 3117 = .ok (.ireturn, 1) := dk_172 (dk_at dksL_law_124 10 rfl rfl)
theorem dL_law_3118 : decode cL_law 3118 = .ok (.iload 5, 2) := dk_21 5 (dk_at dksL_law_124 11 rfl rfl)
theorem dL_law_3120 : decode cL_law 3120 = .ok (.ifCond .ne 14, 3) := dk_154 0 14 (dk_at dksL_law_124 13 rfl rfl)
theorem dL_law_3123 : decode cL_law 3123 = .ok (.aload_n 3, 1) := dk_45 (dk_at dksL_law_124 16 rfl rfl)
theorem dL_law_3124 : decode cL_law 3124 = .ok (.iconst 0, 1) := dk_3 (dk_at dksL_law_124 17 rfl rfl)
theorem dL_law_3125 : decode cL_law 3125 = .ok (.laload, 1) := dk_47 (dk_at dksL_law_124 18 rfl rfl)
theorem dL_law_3126 : decode cL_law 3126 = .ok (.lload 6, 2) := dk_22 6 (dk_at dksL_law_124 19 rfl rfl)
theorem dL_law_3128 : decode cL_law 3128 = .ok (.lcmp, 1) := dk_148 (dk_at dksL_law_124 21 rfl rfl)
theorem dL_law_3129 : decode cL_law 3129 = .ok (.ifCond .eq 5, 3) := dk_153 0 5 (dk_at dksL_law_125 0 rfl rfl)
theorem dL_law_3132 : decode cL_law 3132 = .ok (.iconst 0, 1) := dk_3 (dk_at dksL_law_125 3 rfl rfl)
theorem dL_law_3133 : decode cL_law 3133 = .ok (.ireturn, 1) := dk_172 (dk_at dksL_law_125 4 rfl rfl)
theorem dL_law_3134 : decode cL_law 3134 = .ok (.goto 606, 3) := dk_167 2 94 (dk_at dksL_law_125 5 rfl rfl)
theorem dL_law_3137 : decode cL_law 3137 = .ok (.aload_n 1, 1) := dk_43 (dk_at dksL_law_125 8 rfl rfl)
theorem dL_law_3138 : decode cL_law 3138 = .ok (.aload_n 0, 1) := dk_42 (dk_at dksL_law_125 9 rfl rfl)
theorem dL_law_3139 : decode cL_law 3139 = .ok (.iload 4, 2) := dk_21 4 (dk_at dksL_law_125 10 rfl rfl)
theorem dL_law_3141 : decode cL_law 3141 = .ok (.iconst 1, 1) := dk_4 (dk_at dksL_law_125 12 rfl rfl)
theorem dL_law_3142 : decode cL_law 3142 = .ok (.iadd, 1) := dk_96 (dk_at dksL_law_125 13 rfl rfl)
theorem dL_law_3143 : decode cL_law 3143 = .ok (.iaload, 1) := dk_46 (dk_at dksL_law_125 14 rfl rfl)
theorem dL_law_3144 : decode cL_law 3144 = .ok (.aload_n 3, 1) := dk_45 (dk_at dksL_law_125 15 rfl rfl)
theorem dL_law_3145 : decode cL_law 3145 = .ok (.invokestatic 301, 3) := dk_184 1 45 (dk_at dksL_law_125 16 rfl rfl)
theorem dL_law_3148 : decode cL_law 3148 = .ok (.istore 5, 2) := dk_54 5 (dk_at dksL_law_125 19 rfl rfl)
theorem dL_law_3150 : decode cL_law 3150 = .ok (.aload_n 2, 1) := dk_44 (dk_at dksL_law_125 21 rfl rfl)
theorem dL_law_3151 : decode cL_law 3151 = .ok (.aload_n 0, 1) := dk_42 (dk_at dksL_law_125 22 rfl rfl)
theorem dL_law_3152 : decode cL_law 3152 = .ok (.iload 4, 2) := dk_21 4 (dk_at dksL_law_126 0 rfl rfl)
theorem dL_law_3154 : decode cL_law 3154 = .ok (.iconst 1, 1) := dk_4 (dk_at dksL_law_126 2 rfl rfl)
theorem dL_law_3155 : decode cL_law 3155 = .ok (.iadd, 1) := dk_96 (dk_at dksL_law_126 3 rfl rfl)
theorem dL_law_3156 : decode cL_law 3156 = .ok (.iaload, 1) := dk_46 (dk_at dksL_law_126 4 rfl rfl)
theorem dL_law_3157 : decode cL_law 3157 = .ok (.invokevirtual 303, 3) := dk_182 1 47 (dk_at dksL_law_126 5 rfl rfl)
theorem dL_law_3160 : decode cL_law 3160 = .ok (.istore 6, 2) := dk_54 6 (dk_at dksL_law_126 8 rfl rfl)
theorem dL_law_3162 : decode cL_law 3162 = .ok (.aload_n 2, 1) := dk_44 (dk_at dksL_law_126 10 rfl rfl)
theorem dL_law_3163 : decode cL_law 3163 = .ok (.invokevirtual 175, 3) := dk_182 0 175 (dk_at dksL_law_126 11 rfl rfl)
theorem dL_law_3166 : decode cL_law 3166 = .ok (.iload 5, 2) := dk_21 5 (dk_at dksL_law_126 14 rfl rfl)
theorem dL_law_3168 : decode cL_law 3168 = .ok (.if_icmp .eq 5, 3) := dk_159 0 5 (dk_at dksL_law_126 16 rfl rfl)
theorem dL_law_3171 : decode cL_law 3171 = .ok (.iconst 0, 1) := dk_3 (dk_at dksL_law_126 19 rfl rfl)
theorem dL_law_3172 : decode cL_law 3172 = .ok (.ireturn, 1) := dk_172 (dk_at dksL_law_126 20 rfl rfl)
theorem dL_law_3173 : decode cL_law 3173 = .ok (.iload 5, 2) := dk_21 5 (dk_at dksL_law_126 21 rfl rfl)
theorem dL_law_3175 : decode cL_law 3175 = .ok (.ifCond .ne 15, 3) := dk_154 0 15 (dk_at dksL_law_127 0 rfl rfl)
theorem dL_law_3178 : decode cL_law 3178 = .ok (.aload_n 3, 1) := dk_45 (dk_at dksL_law_127 3 rfl rfl)
theorem dL_law_3179 : decode cL_law 3179 = .ok (.iconst 0, 1) := dk_3 (dk_at dksL_law_127 4 rfl rfl)
theorem dL_law_3180 : decode cL_law 3180 = .ok (.laload, 1) := dk_47 (dk_at dksL_law_127 5 rfl rfl)
theorem dL_law_3181 : decode cL_law 3181 = .ok (.iload 6, 2) := dk_21 6 (dk_at dksL_law_127 6 rfl rfl)
theorem dL_law_3183 : decode cL_law 3183 = .ok (.i2l, 1) := dk_133 (dk_at dksL_law_127 8 rfl rfl)
theorem dL_law_3184 : decode cL_law 3184 = .ok (.lcmp, 1) := dk_148 (dk_at dksL_law_127 9 rfl rfl)
theorem dL_law_3185 : decode cL_law 3185 = .ok (.ifCond .eq 5, 3) := dk_153 0 5 (dk_at dksL_law_127 10 rfl rfl)
theorem dL_law_3188 : decode cL_law 3188 = .ok (.iconst 0, 1) := dk_3 (dk_at dksL_law_127 13 rfl rfl)
theorem dL_law_3189 : decode cL_law 3189 = .ok (.ireturn, 1) := dk_172 (dk_at dksL_law_127 14 rfl rfl)
theorem dL_law_3190 : decode cL_law 3190 = .ok (.goto 550, 3) := dk_167 2 38 (dk_at dksL_law_127 15 rfl rfl)
theorem dL_law_3193 : decode cL_law 3193 = .ok (.aload_n 1, 1) := dk_43 (dk_at dksL_law_127 18 rfl rfl)
theorem dL_law_3194 : decode cL_law 3194 = .ok (.aload_n 0, 1) := dk_42 (dk_at dksL_law_127 19 rfl rfl)
theorem dL_law_3195 : decode cL_law 3195 = .ok (.iload 4, 2) := dk_21 4 (dk_at dksL_law_127 20 rfl rfl)
theorem dL_law_3197 : decode cL_law 3197 = .ok (.iconst 1, 1) := dk_4 (dk_at dksL_law_127 22 rfl rfl)
theorem dL_law_3198 : decode cL_law 3198 = .ok (.iadd, 1) := dk_96 (dk_at dksL_law_127 23 rfl rfl)
theorem dL_law_3199 : decode cL_law 3199 = .ok (.iaload, 1) := dk_46 (dk_at dksL_law_128 0 rfl rfl)
theorem dL_law_3200 : decode cL_law 3200 = .ok (.aload_n 0, 1) := dk_42 (dk_at dksL_law_128 1 rfl rfl)
theorem dL_law_3201 : decode cL_law 3201 = .ok (.iload 4, 2) := dk_21 4 (dk_at dksL_law_128 2 rfl rfl)
theorem dL_law_3203 : decode cL_law 3203 = .ok (.iconst 2, 1) := dk_5 (dk_at dksL_law_128 4 rfl rfl)
theorem dL_law_3204 : decode cL_law 3204 = .ok (.iadd, 1) := dk_96 (dk_at dksL_law_128 5 rfl rfl)
theorem dL_law_3205 : decode cL_law 3205 = .ok (.iaload, 1) := dk_46 (dk_at dksL_law_128 6 rfl rfl)
theorem dL_law_3206 : decode cL_law 3206 = .ok (.aload_n 3, 1) := dk_45 (dk_at dksL_law_128 7 rfl rfl)
theorem dL_law_3207 : decode cL_law 3207 = .ok (.invokestatic 304, 3) := dk_184 1 48 (dk_at dksL_law_128 8 rfl rfl)
theorem dL_law_3210 : decode cL_law 3210 = .ok (.istore 5, 2) := dk_54 5 (dk_at dksL_law_128 11 rfl rfl)
theorem dL_law_3212 : decode cL_law 3212 = .ok (.aload_n 2, 1) := dk_44 (dk_at dksL_law_128 13 rfl rfl)
theorem dL_law_3213 : decode cL_law 3213 = .ok (.aload_n 0, 1) := dk_42 (dk_at dksL_law_128 14 rfl rfl)
theorem dL_law_3214 : decode cL_law 3214 = .ok (.iload 4, 2) := dk_21 4 (dk_at dksL_law_128 15 rfl rfl)
theorem dL_law_3216 : decode cL_law 3216 = .ok (.iconst 1, 1) := dk_4 (dk_at dksL_law_128 17 rfl rfl)
theorem dL_law_3217 : decode cL_law 3217 = .ok (.iadd, 1) := dk_96 (dk_at dksL_law_128 18 rfl rfl)
theorem dL_law_3218 : decode cL_law 3218 = .ok (.iaload, 1) := dk_46 (dk_at dksL_law_128 19 rfl rfl)
theorem dL_law_3219 : decode cL_law 3219 = .ok (.aload_n 0, 1) := dk_42 (dk_at dksL_law_128 20 rfl rfl)
theorem dL_law_3220 : decode cL_law 3220 = .ok (.iload 4, 2) := dk_21 4 (dk_at dksL_law_128 21 rfl rfl)
theorem dL_law_3222 : decode cL_law 3222 = .ok (.iconst 2, 1) := dk_5 (dk_at dksL_law_128 23 rfl rfl)
theorem dL_law_3223 : decode cL_law 3223 = .ok (.iadd, 1) := dk_96 (dk_at dksL_law_129 0 rfl rfl)
theorem dL_law_3224 : decode cL_law 3224 = .ok (.iaload, 1) := dk_46 (dk_at dksL_law_129 1 rfl rfl)
theorem dL_law_3225 : decode cL_law 3225 = .ok (.invokevirtual 306, 3) := dk_182 1 50 (dk_at dksL_law_129 2 rfl rfl)
theorem dL_law_3228 : decode cL_law 3228 = .ok (.lstore 6, 2) := dk_55 6 (dk_at dksL_law_129 5 rfl rfl)
theorem dL_law_3230 : decode cL_law 3230 = .ok (.aload_n 2, 1) := dk_44 (dk_at dksL_law_129 7 rfl rfl)
theorem dL_law_3231 : decode cL_law 3231 = .ok (.invokevirtual 175, 3) := dk_182 0 175 (dk_at dksL_law_129 8 rfl rfl)
theorem dL_law_3234 : decode cL_law 3234 = .ok (.iload 5, 2) := dk_21 5 (dk_at dksL_law_129 11 rfl rfl)
theorem dL_law_3236 : decode cL_law 3236 = .ok (.if_icmp .eq 5, 3) := dk_159 0 5 (dk_at dksL_law_129 13 rfl rfl)
theorem dL_law_3239 : decode cL_law 3239 = .ok (.iconst 0, 1) := dk_3 (dk_at dksL_law_129 16 rfl rfl)
theorem dL_law_3240 : decode cL_law 3240 = .ok (.ireturn, 1) := dk_172 (dk_at dksL_law_129 17 rfl rfl)
theorem dL_law_3241 : decode cL_law 3241 = .ok (.iload 5, 2) := dk_21 5 (dk_at dksL_law_129 18 rfl rfl)
theorem dL_law_3243 : decode cL_law 3243 = .ok (.ifCond .ne 14, 3) := dk_154 0 14 (dk_at dksL_law_129 20 rfl rfl)
theorem dL_law_3246 : decode cL_law 3246 = .ok (.aload_n 3, 1) := dk_45 (dk_at dksL_law_129 23 rfl rfl)
theorem dL_law_3247 : decode cL_law 3247 = .ok (.iconst 0, 1) := dk_3 (dk_at dksL_law_130 0 rfl rfl)
theorem dL_law_3248 : decode cL_law 3248 = .ok (.laload, 1) := dk_47 (dk_at dksL_law_130 1 rfl rfl)
theorem dL_law_3249 : decode cL_law 3249 = .ok (.lload 6, 2) := dk_22 6 (dk_at dksL_law_130 2 rfl rfl)
theorem dL_law_3251 : decode cL_law 3251 = .ok (.lcmp, 1) := dk_148 (dk_at dksL_law_130 4 rfl rfl)
theorem dL_law_3252 : decode cL_law 3252 = .ok (.ifCond .eq 5, 3) := dk_153 0 5 (dk_at dksL_law_130 5 rfl rfl)
theorem dL_law_3255 : decode cL_law 3255 = .ok (.iconst 0, 1) := dk_3 (dk_at dksL_law_130 8 rfl rfl)
theorem dL_law_3256 : decode cL_law 3256 = .ok (.ireturn, 1) := dk_172 (dk_at dksL_law_130 9 rfl rfl)
theorem dL_law_3257 : decode cL_law 3257 = .ok (.goto 483, 3) := dk_167 1 227 (dk_at dksL_law_130 10 rfl rfl)
theorem dL_law_3260 : decode cL_law 3260 = .ok (.aload_n 1, 1) := dk_43 (dk_at dksL_law_130 13 rfl rfl)
theorem dL_law_3261 : decode cL_law 3261 = .ok (.aload_n 0, 1) := dk_42 (dk_at dksL_law_130 14 rfl rfl)
theorem dL_law_3262 : decode cL_law 3262 = .ok (.iload 4, 2) := dk_21 4 (dk_at dksL_law_130 15 rfl rfl)
theorem dL_law_3264 : decode cL_law 3264 = .ok (.iconst 1, 1) := dk_4 (dk_at dksL_law_130 17 rfl rfl)
theorem dL_law_3265 : decode cL_law 3265 = .ok (.iadd, 1) := dk_96 (dk_at dksL_law_130 18 rfl rfl)
theorem dL_law_3266 : decode cL_law 3266 = .ok (.iaload, 1) := dk_46 (dk_at dksL_law_130 19 rfl rfl)
theorem dL_law_3267 : decode cL_law 3267 = .ok (.aload_n 0, 1) := dk_42 (dk_at dksL_law_130 20 rfl rfl)
theorem dL_law_3268 : decode cL_law 3268 = .ok (.iload 4, 2) := dk_21 4 (dk_at dksL_law_130 21 rfl rfl)
theorem dL_law_3270 : decode cL_law 3270 = .ok (.iconst 2, 1) := dk_5 (dk_at dksL_law_130 23 rfl rfl)
theorem dL_law_3271 : decode cL_law 3271 = .ok (.iadd, 1) := dk_96 (dk_at dksL_law_131 0 rfl rfl)
theorem dL_law_3272 : decode cL_law 3272 = .ok (.iaload, 1) := dk_46 (dk_at dksL_law_131 1 rfl rfl)
theorem dL_law_3273 : decode cL_law 3273 = .ok (.aload_n 0, 1) := dk_42 (dk_at dksL_law_131 2 rfl rfl)
theorem dL_law_3274 : decode cL_law 3274 = .ok (.iload 4, 2) := dk_21 4 (dk_at dksL_law_131 3 rfl rfl)
theorem dL_law_3276 : decode cL_law 3276 = .ok (.iconst 3, 1) := dk_6 (dk_at dksL_law_131 5 rfl rfl)
theorem dL_law_3277 : decode cL_law 3277 = .ok (.iadd, 1) := dk_96 (dk_at dksL_law_131 6 rfl rfl)
theorem dL_law_3278 : decode cL_law 3278 = .ok (.iaload, 1) := dk_46 (dk_at dksL_law_131 7 rfl rfl)
theorem dL_law_3279 : decode cL_law 3279 = .ok (.aload_n 3, 1) := dk_45 (dk_at dksL_law_131 8 rfl rfl)
theorem dL_law_3280 : decode cL_law 3280 = .ok (.invokestatic 307, 3) := dk_184 1 51 (dk_at dksL_law_131 9 rfl rfl)
theorem dL_law_3283 : decode cL_law 3283 = .ok (.istore 5, 2) := dk_54 5 (dk_at dksL_law_131 12 rfl rfl)
theorem dL_law_3285 : decode cL_law 3285 = .ok (.aload_n 2, 1) := dk_44 (dk_at dksL_law_131 14 rfl rfl)
theorem dL_law_3286 : decode cL_law 3286 = .ok (.aload_n 0, 1) := dk_42 (dk_at dksL_law_131 15 rfl rfl)
theorem dL_law_3287 : decode cL_law 3287 = .ok (.iload 4, 2) := dk_21 4 (dk_at dksL_law_131 16 rfl rfl)
theorem dL_law_3289 : decode cL_law 3289 = .ok (.iconst 1, 1) := dk_4 (dk_at dksL_law_131 18 rfl rfl)
theorem dL_law_3290 : decode cL_law 3290 = .ok (.iadd, 1) := dk_96 (dk_at dksL_law_131 19 rfl rfl)
theorem dL_law_3291 : decode cL_law 3291 = .ok (.iaload, 1) := dk_46 (dk_at dksL_law_131 20 rfl rfl)
theorem dL_law_3292 : decode cL_law 3292 = .ok (.aload_n 0, 1) := dk_42 (dk_at dksL_law_131 21 rfl rfl)
theorem dL_law_3293 : decode cL_law 3293 = .ok (.iload 4, 2) := dk_21 4 (dk_at dksL_law_131 22 rfl rfl)
theorem dL_law_3295 : decode cL_law 3295 = .ok (.iconst 2, 1) := dk_5 (dk_at dksL_law_132 0 rfl rfl)
theorem dL_law_3296 : decode cL_law 3296 = .ok (.iadd, 1) := dk_96 (dk_at dksL_law_132 1 rfl rfl)
theorem dL_law_3297 : decode cL_law 3297 = .ok (.iaload, 1) := dk_46 (dk_at dksL_law_132 2 rfl rfl)
theorem dL_law_3298 : decode cL_law 3298 = .ok (.aload_n 0, 1) := dk_42 (dk_at dksL_law_132 3 rfl rfl)
theorem dL_law_3299 : decode cL_law 3299 = .ok (.iload 4, 2) := dk_21 4 (dk_at dksL_law_132 4 rfl rfl)
theorem dL_law_3301 : decode cL_law 3301 = .ok (.iconst 3, 1) := dk_6 (dk_at dksL_law_132 6 rfl rfl)
theorem dL_law_3302 : decode cL_law 3302 = .ok (.iadd, 1) := dk_96 (dk_at dksL_law_132 7 rfl rfl)
theorem dL_law_3303 : decode cL_law 3303 = .ok (.iaload, 1) := dk_46 (dk_at dksL_law_132 8 rfl rfl)
theorem dL_law_3304 : decode cL_law 3304 = .ok (.invokevirtual 309, 3) := dk_182 1 53 (dk_at dksL_law_132 9 rfl rfl)
theorem dL_law_3307 : decode cL_law 3307 = .ok (.istore 6, 2) := dk_54 6 (dk_at dksL_law_132 12 rfl rfl)
theorem dL_law_3309 : decode cL_law 3309 = .ok (.aload_n 2, 1) := dk_44 (dk_at dksL_law_132 14 rfl rfl)
theorem dL_law_3310 : decode cL_law 3310 = .ok (.invokevirtual 175, 3) := dk_182 0 175 (dk_at dksL_law_132 15 rfl rfl)
theorem dL_law_3313 : decode cL_law 3313 = .ok (.iload 5, 2) := dk_21 5 (dk_at dksL_law_132 18 rfl rfl)
theorem dL_law_3315 : decode cL_law 3315 = .ok (.if_icmp .eq 5, 3) := dk_159 0 5 (dk_at dksL_law_132 20 rfl rfl)
theorem dL_law_3318 : decode cL_law 3318 = .ok (.iconst 0, 1) := dk_3 (dk_at dksL_law_132 23 rfl rfl)
theorem dL_law_3319 : decode cL_law 3319 = .ok (.ireturn, 1) := dk_172 (dk_at dksL_law_133 0 rfl rfl)
theorem dL_law_3320 : decode cL_law 3320 = .ok (.iload 5, 2) := dk_21 5 (dk_at dksL_law_133 1 rfl rfl)
theorem dL_law_3322 : decode cL_law 3322 = .ok (.ifCond .ne 15, 3) := dk_154 0 15 (dk_at dksL_law_133 3 rfl rfl)
theorem dL_law_3325 : decode cL_law 3325 = .ok (.aload_n 3, 1) := dk_45 (dk_at dksL_law_133 6 rfl rfl)
theorem dL_law_3326 : decode cL_law 3326 = .ok (.iconst 0, 1) := dk_3 (dk_at dksL_law_133 7 rfl rfl)
theorem dL_law_3327 : decode cL_law 3327 = .ok (.laload, 1) := dk_47 (dk_at dksL_law_133 8 rfl rfl)
theorem dL_law_3328 : decode cL_law 3328 = .ok (.iload 6, 2) := dk_21 6 (dk_at dksL_law_133 9 rfl rfl)
theorem dL_law_3330 : decode cL_law 3330 = .ok (.i2l, 1) := dk_133 (dk_at dksL_law_133 11 rfl rfl)
theorem dL_law_3331 : decode cL_law 3331 = .ok (.lcmp, 1) := dk_148 (dk_at dksL_law_133 12 rfl rfl)
theorem dL_law_3332 : decode cL_law 3332 = .ok (.ifCond .eq 5, 3) := dk_153 0 5 (dk_at dksL_law_133 13 rfl rfl)
theorem dL_law_3335 : decode cL_law 3335 = .ok (.iconst 0, 1) := dk_3 (dk_at dksL_law_133 16 rfl rfl)
theorem dL_law_3336 : decode cL_law 3336 = .ok (.ireturn, 1) := dk_172 (dk_at dksL_law_133 17 rfl rfl)
theorem dL_law_3337 : decode cL_law 3337 = .ok (.goto 403, 3) := dk_167 1 147 (dk_at dksL_law_133 18 rfl rfl)
theorem dL_law_3340 : decode cL_law 3340 = .ok (.aload_n 1, 1) := dk_43 (dk_at dksL_law_133 21 rfl rfl)
theorem dL_law_3341 : decode cL_law 3341 = .ok (.aload_n 0, 1) := dk_42 (dk_at dksL_law_133 22 rfl rfl)
theorem dL_law_3342 : decode cL_law 3342 = .ok (.iload 4, 2) := dk_21 4 (dk_at dksL_law_134 0 rfl rfl)
theorem dL_law_3344 : decode cL_law 3344 = .ok (.iconst 1, 1) := dk_4 (dk_at dksL_law_134 2 rfl rfl)
theorem dL_law_3345 : decode cL_law 3345 = .ok (.iadd, 1) := dk_96 (dk_at dksL_law_134 3 rfl rfl)
theorem dL_law_3346 : decode cL_law 3346 = .ok (.iaload, 1) := dk_46 (dk_at dksL_law_134 4 rfl rfl)
theorem dL_law_3347 : decode cL_law 3347 = .ok (.aload_n 3, 1) := dk_45 (dk_at dksL_law_134 5 rfl rfl)
theorem dL_law_3348 : decode cL_law 3348 = .ok (.invokestatic 310, 3) := dk_184 1 54 (dk_at dksL_law_134 6 rfl rfl)
theorem dL_law_3351 : decode cL_law 3351 = .ok (.istore 5, 2) := dk_54 5 (dk_at dksL_law_134 9 rfl rfl)
theorem dL_law_3353 : decode cL_law 3353 = .ok (.aload_n 2, 1) := dk_44 (dk_at dksL_law_134 11 rfl rfl)
theorem dL_law_3354 : decode cL_law 3354 = .ok (.aload_n 0, 1) := dk_42 (dk_at dksL_law_134 12 rfl rfl)
theorem dL_law_3355 : decode cL_law 3355 = .ok (.iload 4, 2) := dk_21 4 (dk_at dksL_law_134 13 rfl rfl)
theorem dL_law_3357 : decode cL_law 3357 = .ok (.iconst 1, 1) := dk_4 (dk_at dksL_law_134 15 rfl rfl)
theorem dL_law_3358 : decode cL_law 3358 = .ok (.iadd, 1) := dk_96 (dk_at dksL_law_134 16 rfl rfl)
theorem dL_law_3359 : decode cL_law 3359 = .ok (.iaload, 1) := dk_46 (dk_at dksL_law_134 17 rfl rfl)
theorem dL_law_3360 : decode cL_law 3360 = .ok (.invokevirtual 312, 3) := dk_182 1 56 (dk_at dksL_law_134 18 rfl rfl)
theorem dL_law_3363 : decode cL_law 3363 = .ok (.lstore 6, 2) := dk_55 6 (dk_at dksL_law_134 21 rfl rfl)
theorem dL_law_3365 : decode cL_law 3365 = .ok (.aload_n 2, 1) := dk_44 (dk_at dksL_law_134 23 rfl rfl)
theorem dL_law_3366 : decode cL_law 3366 = .ok (.invokevirtual 175, 3) := dk_182 0 175 (dk_at dksL_law_135 0 rfl rfl)
theorem dL_law_3369 : decode cL_law 3369 = .ok (.iload 5, 2) := dk_21 5 (dk_at dksL_law_135 3 rfl rfl)
theorem dL_law_3371 : decode cL_law 3371 = .ok (.if_icmp .eq 5, 3) := dk_159 0 5 (dk_at dksL_law_135 5 rfl rfl)
theorem dL_law_3374 : decode cL_law 3374 = .ok (.iconst 0, 1) := dk_3 (dk_at dksL_law_135 8 rfl rfl)
theorem dL_law_3375 : decode cL_law 3375 = .ok (.ireturn, 1) := dk_172 (dk_at dksL_law_135 9 rfl rfl)
theorem dL_law_3376 : decode cL_law 3376 = .ok (.iload 5, 2) := dk_21 5 (dk_at dksL_law_135 10 rfl rfl)
theorem dL_law_3378 : decode cL_law 3378 = .ok (.ifCond .ne 14, 3) := dk_154 0 14 (dk_at dksL_law_135 12 rfl rfl)
theorem dL_law_3381 : decode cL_law 3381 = .ok (.aload_n 3, 1) := dk_45 (dk_at dksL_law_135 15 rfl rfl)
theorem dL_law_3382 : decode cL_law 3382 = .ok (.iconst 0, 1) := dk_3 (dk_at dksL_law_135 16 rfl rfl)
theorem dL_law_3383 : decode cL_law 3383 = .ok (.laload, 1) := dk_47 (dk_at dksL_law_135 17 rfl rfl)
theorem dL_law_3384 : decode cL_law 3384 = .ok (.lload 6, 2) := dk_22 6 (dk_at dksL_law_135 18 rfl rfl)
theorem dL_law_3386 : decode cL_law 3386 = .ok (.lcmp, 1) := dk_148 (dk_at dksL_law_135 20 rfl rfl)
theorem dL_law_3387 : decode cL_law 3387 = .ok (.ifCond .eq 5, 3) := dk_153 0 5 (dk_at dksL_law_135 21 rfl rfl)
theorem dL_law_3390 : decode cL_law 3390 = .ok (.iconst 0, 1) := dk_3 (dk_at dksL_law_136 0 rfl rfl)
theorem dL_law_3391 : decode cL_law 3391 = .ok (.ireturn, 1) := dk_172 (dk_at dksL_law_136 1 rfl rfl)
theorem dL_law_3392 : decode cL_law 3392 = .ok (.goto 348, 3) := dk_167 1 92 (dk_at dksL_law_136 2 rfl rfl)
theorem dL_law_3395 : decode cL_law 3395 = .ok (.aload_n 1, 1) := dk_43 (dk_at dksL_law_136 5 rfl rfl)
theorem dL_law_3396 : decode cL_law 3396 = .ok (.aload_n 0, 1) := dk_42 (dk_at dksL_law_136 6 rfl rfl)
theorem dL_law_3397 : decode cL_law 3397 = .ok (.iload 4, 2) := dk_21 4 (dk_at dksL_law_136 7 rfl rfl)
theorem dL_law_3399 : decode cL_law 3399 = .ok (.iconst 1, 1) := dk_4 (dk_at dksL_law_136 9 rfl rfl)
theorem dL_law_3400 : decode cL_law 3400 = .ok (.iadd, 1) := dk_96 (dk_at dksL_law_136 10 rfl rfl)
theorem dL_law_3401 : decode cL_law 3401 = .ok (.iaload, 1) := dk_46 (dk_at dksL_law_136 11 rfl rfl)
theorem dL_law_3402 : decode cL_law 3402 = .ok (.aload_n 0, 1) := dk_42 (dk_at dksL_law_136 12 rfl rfl)
theorem dL_law_3403 : decode cL_law 3403 = .ok (.iload 4, 2) := dk_21 4 (dk_at dksL_law_136 13 rfl rfl)
theorem dL_law_3405 : decode cL_law 3405 = .ok (.iconst 2, 1) := dk_5 (dk_at dksL_law_136 15 rfl rfl)
theorem dL_law_3406 : decode cL_law 3406 = .ok (.iadd, 1) := dk_96 (dk_at dksL_law_136 16 rfl rfl)
theorem dL_law_3407 : decode cL_law 3407 = .ok (.iaload, 1) := dk_46 (dk_at dksL_law_136 17 rfl rfl)
theorem dL_law_3408 : decode cL_law 3408 = .ok (.aload_n 0, 1) := dk_42 (dk_at dksL_law_136 18 rfl rfl)
theorem dL_law_3409 : decode cL_law 3409 = .ok (.iload 4, 2) := dk_21 4 (dk_at dksL_law_136 19 rfl rfl)
theorem dL_law_3411 : decode cL_law 3411 = .ok (.iconst 3, 1) := dk_6 (dk_at dksL_law_136 21 rfl rfl)
theorem dL_law_3412 : decode cL_law 3412 = .ok (.iadd, 1) := dk_96 (dk_at dksL_law_136 22 rfl rfl)
theorem dL_law_3413 : decode cL_law 3413 = .ok (.iaload, 1) := dk_46 (dk_at dksL_law_136 23 rfl rfl)
theorem dL_law_3414 : decode cL_law 3414 = .ok (.aload_n 0, 1) := dk_42 (dk_at dksL_law_137 0 rfl rfl)
theorem dL_law_3415 : decode cL_law 3415 = .ok (.iload 4, 2) := dk_21 4 (dk_at dksL_law_137 1 rfl rfl)
theorem dL_law_3417 : decode cL_law 3417 = .ok (.iconst 4, 1) := dk_7 (dk_at dksL_law_137 3 rfl rfl)
theorem dL_law_3418 : decode cL_law 3418 = .ok (.iadd, 1) := dk_96 (dk_at dksL_law_137 4 rfl rfl)
theorem dL_law_3419 : decode cL_law 3419 = .ok (.iaload, 1) := dk_46 (dk_at dksL_law_137 5 rfl rfl)
theorem dL_law_3420 : decode cL_law 3420 = .ok (.aload_n 0, 1) := dk_42 (dk_at dksL_law_137 6 rfl rfl)
theorem dL_law_3421 : decode cL_law 3421 = .ok (.iload 4, 2) := dk_21 4 (dk_at dksL_law_137 7 rfl rfl)
theorem dL_law_3423 : decode cL_law 3423 = .ok (.iconst 5, 1) := dk_8 (dk_at dksL_law_137 9 rfl rfl)
theorem dL_law_3424 : decode cL_law 3424 = .ok (.iadd, 1) := dk_96 (dk_at dksL_law_137 10 rfl rfl)
theorem dL_law_3425 : decode cL_law 3425 = .ok (.iaload, 1) := dk_46 (dk_at dksL_law_137 11 rfl rfl)
theorem dL_law_3426 : decode cL_law 3426 = .ok (.aload_n 3, 1) := dk_45 (dk_at dksL_law_137 12 rfl rfl)
theorem dL_law_3427 : decode cL_law 3427 = .ok (.invokestatic 313, 3) := dk_184 1 57 (dk_at dksL_law_137 13 rfl rfl)
theorem dL_law_3430 : decode cL_law 3430 = .ok (.istore 5, 2) := dk_54 5 (dk_at dksL_law_137 16 rfl rfl)
theorem dL_law_3432 : decode cL_law 3432 = .ok (.aload_n 2, 1) := dk_44 (dk_at dksL_law_137 18 rfl rfl)
theorem dL_law_3433 : decode cL_law 3433 = .ok (.aload_n 0, 1) := dk_42 (dk_at dksL_law_137 19 rfl rfl)
theorem dL_law_3434 : decode cL_law 3434 = .ok (.iload 4, 2) := dk_21 4 (dk_at dksL_law_137 20 rfl rfl)
theorem dL_law_3436 : decode cL_law 3436 = .ok (.iconst 1, 1) := dk_4 (dk_at dksL_law_137 22 rfl rfl)
theorem dL_law_3437 : decode cL_law 3437 = .ok (.iadd, 1) := dk_96 (dk_at dksL_law_137 23 rfl rfl)
theorem dL_law_3438 : decode cL_law 3438 = .ok (.iaload, 1) := dk_46 (dk_at dksL_law_138 0 rfl rfl)
theorem dL_law_3439 : decode cL_law 3439 = .ok (.aload_n 0, 1) := dk_42 (dk_at dksL_law_138 1 rfl rfl)
theorem dL_law_3440 : decode cL_law 3440 = .ok (.iload 4, 2) := dk_21 4 (dk_at dksL_law_138 2 rfl rfl)
theorem dL_law_3442 : decode cL_law 3442 = .ok (.iconst 2, 1) := dk_5 (dk_at dksL_law_138 4 rfl rfl)
theorem dL_law_3443 : decode cL_law 3443 = .ok (.iadd, 1) := dk_96 (dk_at dksL_law_138 5 rfl rfl)
theorem dL_law_3444 : decode cL_law 3444 = .ok (.iaload, 1) := dk_46 (dk_at dksL_law_138 6 rfl rfl)
theorem dL_law_3445 : decode cL_law 3445 = .ok (.aload_n 0, 1) := dk_42 (dk_at dksL_law_138 7 rfl rfl)
theorem dL_law_3446 : decode cL_law 3446 = .ok (.iload 4, 2) := dk_21 4 (dk_at dksL_law_138 8 rfl rfl)
theorem dL_law_3448 : decode cL_law 3448 = .ok (.iconst 3, 1) := dk_6 (dk_at dksL_law_138 10 rfl rfl)
theorem dL_law_3449 : decode cL_law 3449 = .ok (.iadd, 1) := dk_96 (dk_at dksL_law_138 11 rfl rfl)
theorem dL_law_3450 : decode cL_law 3450 = .ok (.iaload, 1) := dk_46 (dk_at dksL_law_138 12 rfl rfl)
theorem dL_law_3451 : decode cL_law 3451 = .ok (.aload_n 0, 1) := dk_42 (dk_at dksL_law_138 13 rfl rfl)
theorem dL_law_3452 : decode cL_law 3452 = .ok (.iload 4, 2) := dk_21 4 (dk_at dksL_law_138 14 rfl rfl)
theorem dL_law_3454 : decode cL_law 3454 = .ok (.iconst 4, 1) := dk_7 (dk_at dksL_law_138 16 rfl rfl)
theorem dL_law_3455 : decode cL_law 3455 = .ok (.iadd, 1) := dk_96 (dk_at dksL_law_138 17 rfl rfl)
theorem dL_law_3456 : decode cL_law 3456 = .ok (.iaload, 1) := dk_46 (dk_at dksL_law_138 18 rfl rfl)
theorem dL_law_3457 : decode cL_law 3457 = .ok (.aload_n 0, 1) := dk_42 (dk_at dksL_law_138 19 rfl rfl)
theorem dL_law_3458 : decode cL_law 3458 = .ok (.iload 4, 2) := dk_21 4 (dk_at dksL_law_138 20 rfl rfl)
theorem dL_law_3460 : decode cL_law 3460 = .ok (.iconst 5, 1) := dk_8 (dk_at dksL_law_138 22 rfl rfl)
theorem dL_law_3461 : decode cL_law 3461 = .ok (.iadd, 1) := dk_96 (dk_at dksL_law_138 23 rfl rfl)
theorem dL_law_3462 : decode cL_law 3462 = .ok (.iaload, 1) := dk_46 (dk_at dksL_law_139 0 rfl rfl)
theorem dL_law_3463 : decode cL_law 3463 = .ok (.invokevirtual 315, 3) := dk_182 1 59 (dk_at dksL_law_139 1 rfl rfl)
theorem dL_law_3466 : decode cL_law 3466 = .ok (.lstore 6, 2) := dk_55 6 (dk_at dksL_law_139 4 rfl rfl)
theorem dL_law_3468 : decode cL_law 3468 = .ok (.aload_n 2, 1) := dk_44 (dk_at dksL_law_139 6 rfl rfl)
theorem dL_law_3469 : decode cL_law 3469 = .ok (.invokevirtual 175, 3) := dk_182 0 175 (dk_at dksL_law_139 7 rfl rfl)
theorem dL_law_3472 : decode cL_law 3472 = .ok (.iload 5, 2) := dk_21 5 (dk_at dksL_law_139 10 rfl rfl)
theorem dL_law_3474 : decode cL_law 3474 = .ok (.if_icmp .eq 5, 3) := dk_159 0 5 (dk_at dksL_law_139 12 rfl rfl)
theorem dL_law_3477 : decode cL_law 3477 = .ok (.iconst 0, 1) := dk_3 (dk_at dksL_law_139 15 rfl rfl)
theorem dL_law_3478 : decode cL_law 3478 = .ok (.ireturn, 1) := dk_172 (dk_at dksL_law_139 16 rfl rfl)
theorem dL_law_3479 : decode cL_law 3479 = .ok (.iload 5, 2) := dk_21 5 (dk_at dksL_law_139 17 rfl rfl)
theorem dL_law_3481 : decode cL_law 3481 = .ok (.ifCond .ne 14, 3) := dk_154 0 14 (dk_at dksL_law_139 19 rfl rfl)
theorem dL_law_3484 : decode cL_law 3484 = .ok (.aload_n 3, 1) := dk_45 (dk_at dksL_law_139 22 rfl rfl)
theorem dL_law_3485 : decode cL_law 3485 = .ok (.iconst 0, 1) := dk_3 (dk_at dksL_law_139 23 rfl rfl)
theorem dL_law_3486 : decode cL_law 3486 = .ok (.laload, 1) := dk_47 (dk_at dksL_law_140 0 rfl rfl)
theorem dL_law_3487 : decode cL_law 3487 = .ok (.lload 6, 2) := dk_22 6 (dk_at dksL_law_140 1 rfl rfl)
theorem dL_law_3489 : decode cL_law 3489 = .ok (.lcmp, 1) := dk_148 (dk_at dksL_law_140 3 rfl rfl)
theorem dL_law_3490 : decode cL_law 3490 = .ok (.ifCond .eq 5, 3) := dk_153 0 5 (dk_at dksL_law_140 4 rfl rfl)
theorem dL_law_3493 : decode cL_law 3493 = .ok (.iconst 0, 1) := dk_3 (dk_at dksL_law_140 7 rfl rfl)
theorem dL_law_3494 : decode cL_law 3494 = .ok (.ireturn, 1) := dk_172 (dk_at dksL_law_140 8 rfl rfl)
theorem dL_law_3495 : decode cL_law 3495 = .ok (.goto 245, 3) := dk_167 0 245 (dk_at dksL_law_140 9 rfl rfl)
theorem dL_law_3498 : decode cL_law 3498 = .ok (.aload_n 1, 1) := dk_43 (dk_at dksL_law_140 12 rfl rfl)
theorem dL_law_3499 : decode cL_law 3499 = .ok (.aload_n 0, 1) := dk_42 (dk_at dksL_law_140 13 rfl rfl)
theorem dL_law_3500 : decode cL_law 3500 = .ok (.iload 4, 2) := dk_21 4 (dk_at dksL_law_140 14 rfl rfl)
theorem dL_law_3502 : decode cL_law 3502 = .ok (.iconst 1, 1) := dk_4 (dk_at dksL_law_140 16 rfl rfl)
theorem dL_law_3503 : decode cL_law 3503 = .ok (.iadd, 1) := dk_96 (dk_at dksL_law_140 17 rfl rfl)
theorem dL_law_3504 : decode cL_law 3504 = .ok (.iaload, 1) := dk_46 (dk_at dksL_law_140 18 rfl rfl)
theorem dL_law_3505 : decode cL_law 3505 = .ok (.aload_n 0, 1) := dk_42 (dk_at dksL_law_140 19 rfl rfl)
theorem dL_law_3506 : decode cL_law 3506 = .ok (.iload 4, 2) := dk_21 4 (dk_at dksL_law_140 20 rfl rfl)
theorem dL_law_3508 : decode cL_law 3508 = .ok (.iconst 2, 1) := dk_5 (dk_at dksL_law_140 22 rfl rfl)
theorem dL_law_3509 : decode cL_law 3509 = .ok (.iadd, 1) := dk_96 (dk_at dksL_law_140 23 rfl rfl)
theorem dL_law_3510 : decode cL_law 3510 = .ok (.iaload, 1) := dk_46 (dk_at dksL_law_141 0 rfl rfl)
theorem dL_law_3511 : decode cL_law 3511 = .ok (.aload_n 3, 1) := dk_45 (dk_at dksL_law_141 1 rfl rfl)
theorem dL_law_3512 : decode cL_law 3512 = .ok (.invokestatic 316, 3) := dk_184 1 60 (dk_at dksL_law_141 2 rfl rfl)
theorem dL_law_3515 : decode cL_law 3515 = .ok (.istore 5, 2) := dk_54 5 (dk_at dksL_law_141 5 rfl rfl)
theorem dL_law_3517 : decode cL_law 3517 = .ok (.aload_n 2, 1) := dk_44 (dk_at dksL_law_141 7 rfl rfl)
theorem dL_law_3518 : decode cL_law 3518 = .ok (.aload_n 0, 1) := dk_42 (dk_at dksL_law_141 8 rfl rfl)
theorem dL_law_3519 : decode cL_law 3519 = .ok (.iload 4, 2) := dk_21 4 (dk_at dksL_law_141 9 rfl rfl)
theorem dL_law_3521 : decode cL_law 3521 = .ok (.iconst 1, 1) := dk_4 (dk_at dksL_law_141 11 rfl rfl)
theorem dL_law_3522 : decode cL_law 3522 = .ok (.iadd, 1) := dk_96 (dk_at dksL_law_141 12 rfl rfl)
theorem dL_law_3523 : decode cL_law 3523 = .ok (.iaload, 1) := dk_46 (dk_at dksL_law_141 13 rfl rfl)
theorem dL_law_3524 : decode cL_law 3524 = .ok (.aload_n 0, 1) := dk_42 (dk_at dksL_law_141 14 rfl rfl)
theorem dL_law_3525 : decode cL_law 3525 = .ok (.iload 4, 2) := dk_21 4 (dk_at dksL_law_141 15 rfl rfl)
theorem dL_law_3527 : decode cL_law 3527 = .ok (.iconst 2, 1) := dk_5 (dk_at dksL_law_141 17 rfl rfl)
theorem dL_law_3528 : decode cL_law 3528 = .ok (.iadd, 1) := dk_96 (dk_at dksL_law_141 18 rfl rfl)
theorem dL_law_3529 : decode cL_law 3529 = .ok (.iaload, 1) := dk_46 (dk_at dksL_law_141 19 rfl rfl)
theorem dL_law_3530 : decode cL_law 3530 = .ok (.invokevirtual 318, 3) := dk_182 1 62 (dk_at dksL_law_141 20 rfl rfl)
theorem dL_law_3533 : decode cL_law 3533 = .ok (.istore 6, 2) := dk_54 6 (dk_at dksL_law_142 0 rfl rfl)
theorem dL_law_3535 : decode cL_law 3535 = .ok (.aload_n 2, 1) := dk_44 (dk_at dksL_law_142 2 rfl rfl)
theorem dL_law_3536 : decode cL_law 3536 = .ok (.invokevirtual 175, 3) := dk_182 0 175 (dk_at dksL_law_142 3 rfl rfl)
theorem dL_law_3539 : decode cL_law 3539 = .ok (.iload 5, 2) := dk_21 5 (dk_at dksL_law_142 6 rfl rfl)
theorem dL_law_3541 : decode cL_law 3541 = .ok (.if_icmp .eq 5, 3) := dk_159 0 5 (dk_at dksL_law_142 8 rfl rfl)
theorem dL_law_3544 : decode cL_law 3544 = .ok (.iconst 0, 1) := dk_3 (dk_at dksL_law_142 11 rfl rfl)
theorem dL_law_3545 : decode cL_law 3545 = .ok (.ireturn, 1) := dk_172 (dk_at dksL_law_142 12 rfl rfl)
theorem dL_law_3546 : decode cL_law 3546 = .ok (.iload 5, 2) := dk_21 5 (dk_at dksL_law_142 13 rfl rfl)
theorem dL_law_3548 : decode cL_law 3548 = .ok (.ifCond .ne 15, 3) := dk_154 0 15 (dk_at dksL_law_142 15 rfl rfl)
theorem dL_law_3551 : decode cL_law 3551 = .ok (.aload_n 3, 1) := dk_45 (dk_at dksL_law_142 18 rfl rfl)
theorem dL_law_3552 : decode cL_law 3552 = .ok (.iconst 0, 1) := dk_3 (dk_at dksL_law_142 19 rfl rfl)
theorem dL_law_3553 : decode cL_law 3553 = .ok (.laload, 1) := dk_47 (dk_at dksL_law_142 20 rfl rfl)
theorem dL_law_3554 : decode cL_law 3554 = .ok (.iload 6, 2) := dk_21 6 (dk_at dksL_law_142 21 rfl rfl)
theorem dL_law_3556 : decode cL_law 3556 = .ok (.i2l, 1) := dk_133 (dk_at dksL_law_142 23 rfl rfl)
theorem dL_law_3557 : decode cL_law 3557 = .ok (.lcmp, 1) := dk_148 (dk_at dksL_law_143 0 rfl rfl)
theorem dL_law_3558 : decode cL_law 3558 = .ok (.ifCond .eq 5, 3) := dk_153 0 5 (dk_at dksL_law_143 1 rfl rfl)
theorem dL_law_3561 : decode cL_law 3561 = .ok (.iconst 0, 1) := dk_3 (dk_at dksL_law_143 4 rfl rfl)
theorem dL_law_3562 : decode cL_law 3562 = .ok (.ireturn, 1) := dk_172 (dk_at dksL_law_143 5 rfl rfl)
theorem dL_law_3563 : decode cL_law 3563 = .ok (.goto 177, 3) := dk_167 0 177 (dk_at dksL_law_143 6 rfl rfl)
theorem dL_law_3566 : decode cL_law 3566 = .ok (.aload_n 1, 1) := dk_43 (dk_at dksL_law_143 9 rfl rfl)
theorem dL_law_3567 : decode cL_law 3567 = .ok (.aload_n 0, 1) := dk_42 (dk_at dksL_law_143 10 rfl rfl)
theorem dL_law_3568 : decode cL_law 3568 = .ok (.iload 4, 2) := dk_21 4 (dk_at dksL_law_143 11 rfl rfl)
theorem dL_law_3570 : decode cL_law 3570 = .ok (.iconst 1, 1) := dk_4 (dk_at dksL_law_143 13 rfl rfl)
theorem dL_law_3571 : decode cL_law 3571 = .ok (.iadd, 1) := dk_96 (dk_at dksL_law_143 14 rfl rfl)
theorem dL_law_3572 : decode cL_law 3572 = .ok (.iaload, 1) := dk_46 (dk_at dksL_law_143 15 rfl rfl)
theorem dL_law_3573 : decode cL_law 3573 = .ok (.aload_n 3, 1) := dk_45 (dk_at dksL_law_143 16 rfl rfl)
theorem dL_law_3574 : decode cL_law 3574 = .ok (.invokestatic 319, 3) := dk_184 1 63 (dk_at dksL_law_143 17 rfl rfl)
theorem dL_law_3577 : decode cL_law 3577 = .ok (.istore 5, 2) := dk_54 5 (dk_at dksL_law_143 20 rfl rfl)
theorem dL_law_3579 : decode cL_law 3579 = .ok (.aload_n 2, 1) := dk_44 (dk_at dksL_law_143 22 rfl rfl)
theorem dL_law_3580 : decode cL_law 3580 = .ok (.aload_n 0, 1) := dk_42 (dk_at dksL_law_143 23 rfl rfl)
theorem dL_law_3581 : decode cL_law 3581 = .ok (.iload 4, 2) := dk_21 4 (dk_at dksL_law_144 0 rfl rfl)
theorem dL_law_3583 : decode cL_law 3583 = .ok (.iconst 1, 1) := dk_4 (dk_at dksL_law_144 2 rfl rfl)
theorem dL_law_3584 : decode cL_law 3584 = .ok (.iadd, 1) := dk_96 (dk_at dksL_law_144 3 rfl rfl)
theorem dL_law_3585 : decode cL_law 3585 = .ok (.iaload, 1) := dk_46 (dk_at dksL_law_144 4 rfl rfl)
theorem dL_law_3586 : decode cL_law 3586 = .ok (.invokevirtual 321, 3) := dk_182 1 65 (dk_at dksL_law_144 5 rfl rfl)
theorem dL_law_3589 : decode cL_law 3589 = .ok (.lstore 6, 2) := dk_55 6 (dk_at dksL_law_144 8 rfl rfl)
theorem dL_law_3591 : decode cL_law 3591 = .ok (.aload_n 2, 1) := dk_44 (dk_at dksL_law_144 10 rfl rfl)
theorem dL_law_3592 : decode cL_law 3592 = .ok (.invokevirtual 175, 3) := dk_182 0 175 (dk_at dksL_law_144 11 rfl rfl)
theorem dL_law_3595 : decode cL_law 3595 = .ok (.iload 5, 2) := dk_21 5 (dk_at dksL_law_144 14 rfl rfl)
theorem dL_law_3597 : decode cL_law 3597 = .ok (.if_icmp .eq 5, 3) := dk_159 0 5 (dk_at dksL_law_144 16 rfl rfl)
theorem dL_law_3600 : decode cL_law 3600 = .ok (.iconst 0, 1) := dk_3 (dk_at dksL_law_144 19 rfl rfl)
theorem dL_law_3601 : decode cL_law 3601 = .ok (.ireturn, 1) := dk_172 (dk_at dksL_law_144 20 rfl rfl)
theorem dL_law_3602 : decode cL_law 3602 = .ok (.iload 5, 2) := dk_21 5 (dk_at dksL_law_144 21 rfl rfl)
theorem dL_law_3604 : decode cL_law 3604 = .ok (.ifCond .ne 14, 3) := dk_154 0 14 (dk_at dksL_law_145 0 rfl rfl)
theorem dL_law_3607 : decode cL_law 3607 = .ok (.aload_n 3, 1) := dk_45 (dk_at dksL_law_145 3 rfl rfl)
theorem dL_law_3608 : decode cL_law 3608 = .ok (.iconst 0, 1) := dk_3 (dk_at dksL_law_145 4 rfl rfl)
theorem dL_law_3609 : decode cL_law 3609 = .ok (.laload, 1) := dk_47 (dk_at dksL_law_145 5 rfl rfl)
theorem dL_law_3610 : decode cL_law 3610 = .ok (.lload 6, 2) := dk_22 6 (dk_at dksL_law_145 6 rfl rfl)
theorem dL_law_3612 : decode cL_law 3612 = .ok (.lcmp, 1) := dk_148 (dk_at dksL_law_145 8 rfl rfl)
theorem dL_law_3613 : decode cL_law 3613 = .ok (.ifCond .eq 5, 3) := dk_153 0 5 (dk_at dksL_law_145 9 rfl rfl)
theorem dL_law_3616 : decode cL_law 3616 = .ok (.iconst 0, 1) := dk_3 (dk_at dksL_law_145 12 rfl rfl)
theorem dL_law_3617 : decode cL_law 3617 = .ok (.ireturn, 1) := dk_172 (dk_at dksL_law_145 13 rfl rfl)
theorem dL_law_3618 : decode cL_law 3618 = .ok (.goto 122, 3) := dk_167 0 122 (dk_at dksL_law_145 14 rfl rfl)
theorem dL_law_3621 : decode cL_law 3621 = .ok (.aload_n 1, 1) := dk_43 (dk_at dksL_law_145 17 rfl rfl)
theorem dL_law_3622 : decode cL_law 3622 = .ok (.aload_n 0, 1) := dk_42 (dk_at dksL_law_145 18 rfl rfl)
theorem dL_law_3623 : decode cL_law 3623 = .ok (.iload 4, 2) := dk_21 4 (dk_at dksL_law_145 19 rfl rfl)
theorem dL_law_3625 : decode cL_law 3625 = .ok (.iconst 1, 1) := dk_4 (dk_at dksL_law_145 21 rfl rfl)
theorem dL_law_3626 : decode cL_law 3626 = .ok (.iadd, 1) := dk_96 (dk_at dksL_law_145 22 rfl rfl)
theorem dL_law_3627 : decode cL_law 3627 = .ok (.iaload, 1) := dk_46 (dk_at dksL_law_145 23 rfl rfl)
theorem dL_law_3628 : decode cL_law 3628 = .ok (.aload_n 0, 1) := dk_42 (dk_at dksL_law_146 0 rfl rfl)
theorem dL_law_3629 : decode cL_law 3629 = .ok (.iload 4, 2) := dk_21 4 (dk_at dksL_law_146 1 rfl rfl)
theorem dL_law_3631 : decode cL_law 3631 = .ok (.iconst 2, 1) := dk_5 (dk_at dksL_law_146 3 rfl rfl)
theorem dL_law_3632 : decode cL_law 3632 = .ok (.iadd, 1) := dk_96 (dk_at dksL_law_146 4 rfl rfl)
theorem dL_law_3633 : decode cL_law 3633 = .ok (.iaload, 1) := dk_46 (dk_at dksL_law_146 5 rfl rfl)
theorem dL_law_3634 : decode cL_law 3634 = .ok (.aload_n 0, 1) := dk_42 (dk_at dksL_law_146 6 rfl rfl)
theorem dL_law_3635 : decode cL_law 3635 = .ok (.iload 4, 2) := dk_21 4 (dk_at dksL_law_146 7 rfl rfl)
theorem dL_law_3637 : decode cL_law 3637 = .ok (.iconst 3, 1) := dk_6 (dk_at dksL_law_146 9 rfl rfl)
theorem dL_law_3638 : decode cL_law 3638 = .ok (.iadd, 1) := dk_96 (dk_at dksL_law_146 10 rfl rfl)
theorem dL_law_3639 : decode cL_law 3639 = .ok (.iaload, 1) := dk_46 (dk_at dksL_law_146 11 rfl rfl)
theorem dL_law_3640 : decode cL_law 3640 = .ok (.aload_n 3, 1) := dk_45 (dk_at dksL_law_146 12 rfl rfl)
theorem dL_law_3641 : decode cL_law 3641 = .ok (.invokestatic 322, 3) := dk_184 1 66 (dk_at dksL_law_146 13 rfl rfl)
theorem dL_law_3644 : decode cL_law 3644 = .ok (.istore 5, 2) := dk_54 5 (dk_at dksL_law_146 16 rfl rfl)
theorem dL_law_3646 : decode cL_law 3646 = .ok (.aload_n 2, 1) := dk_44 (dk_at dksL_law_146 18 rfl rfl)
theorem dL_law_3647 : decode cL_law 3647 = .ok (.aload_n 0, 1) := dk_42 (dk_at dksL_law_146 19 rfl rfl)
theorem dL_law_3648 : decode cL_law 3648 = .ok (.iload 4, 2) := dk_21 4 (dk_at dksL_law_146 20 rfl rfl)
theorem dL_law_3650 : decode cL_law 3650 = .ok (.iconst 1, 1) := dk_4 (dk_at dksL_law_146 22 rfl rfl)
theorem dL_law_3651 : decode cL_law 3651 = .ok (.iadd, 1) := dk_96 (dk_at dksL_law_146 23 rfl rfl)
theorem dL_law_3652 : decode cL_law 3652 = .ok (.iaload, 1) := dk_46 (dk_at dksL_law_147 0 rfl rfl)
theorem dL_law_3653 : decode cL_law 3653 = .ok (.aload_n 0, 1) := dk_42 (dk_at dksL_law_147 1 rfl rfl)
theorem dL_law_3654 : decode cL_law 3654 = .ok (.iload 4, 2) := dk_21 4 (dk_at dksL_law_147 2 rfl rfl)
theorem dL_law_3656 : decode cL_law 3656 = .ok (.iconst 2, 1) := dk_5 (dk_at dksL_law_147 4 rfl rfl)
theorem dL_law_3657 : decode cL_law 3657 = .ok (.iadd, 1) := dk_96 (dk_at dksL_law_147 5 rfl rfl)
theorem dL_law_3658 : decode cL_law 3658 = .ok (.iaload, 1) := dk_46 (dk_at dksL_law_147 6 rfl rfl)
theorem dL_law_3659 : decode cL_law 3659 = .ok (.aload_n 0, 1) := dk_42 (dk_at dksL_law_147 7 rfl rfl)
theorem dL_law_3660 : decode cL_law 3660 = .ok (.iload 4, 2) := dk_21 4 (dk_at dksL_law_147 8 rfl rfl)
theorem dL_law_3662 : decode cL_law 3662 = .ok (.iconst 3, 1) := dk_6 (dk_at dksL_law_147 10 rfl rfl)
theorem dL_law_3663 : decode cL_law 3663 = .ok (.iadd, 1) := dk_96 (dk_at dksL_law_147 11 rfl rfl)
theorem dL_law_3664 : decode cL_law 3664 = .ok (.iaload, 1) := dk_46 (dk_at dksL_law_147 12 rfl rfl)
theorem dL_law_3665 : decode cL_law 3665 = .ok (.invokevirtual 324, 3) := dk_182 1 68 (dk_at dksL_law_147 13 rfl rfl)
theorem dL_law_3668 : decode cL_law 3668 = .ok (.istore 6, 2) := dk_54 6 (dk_at dksL_law_147 16 rfl rfl)
theorem dL_law_3670 : decode cL_law 3670 = .ok (.aload_n 2, 1) := dk_44 (dk_at dksL_law_147 18 rfl rfl)
theorem dL_law_3671 : decode cL_law 3671 = .ok (.invokevirtual 175, 3) := dk_182 0 175 (dk_at dksL_law_147 19 rfl rfl)
theorem dL_law_3674 : decode cL_law 3674 = .ok (.iload 5, 2) := dk_21 5 (dk_at dksL_law_147 22 rfl rfl)
theorem dL_law_3676 : decode cL_law 3676 = .ok (.if_icmp .eq 5, 3) := dk_159 0 5 (dk_at dksL_law_148 0 rfl rfl)
theorem dL_law_3679 : decode cL_law 3679 = .ok (.iconst 0, 1) := dk_3 (dk_at dksL_law_148 3 rfl rfl)
theorem dL_law_3680 : decode cL_law 3680 = .ok (.ireturn, 1) := dk_172 (dk_at dksL_law_148 4 rfl rfl)
theorem dL_law_3681 : decode cL_law 3681 = .ok (.iload 5, 2) := dk_21 5 (dk_at dksL_law_148 5 rfl rfl)
theorem dL_law_3683 : decode cL_law 3683 = .ok (.ifCond .ne 15, 3) := dk_154 0 15 (dk_at dksL_law_148 7 rfl rfl)
theorem dL_law_3686 : decode cL_law 3686 = .ok (.aload_n 3, 1) := dk_45 (dk_at dksL_law_148 10 rfl rfl)
theorem dL_law_3687 : decode cL_law 3687 = .ok (.iconst 0, 1) := dk_3 (dk_at dksL_law_148 11 rfl rfl)
theorem dL_law_3688 : decode cL_law 3688 = .ok (.laload, 1) := dk_47 (dk_at dksL_law_148 12 rfl rfl)
theorem dL_law_3689 : decode cL_law 3689 = .ok (.iload 6, 2) := dk_21 6 (dk_at dksL_law_148 13 rfl rfl)
theorem dL_law_3691 : decode cL_law 3691 = .ok (.i2l, 1) := dk_133 (dk_at dksL_law_148 15 rfl rfl)
theorem dL_law_3692 : decode cL_law 3692 = .ok (.lcmp, 1) := dk_148 (dk_at dksL_law_148 16 rfl rfl)
theorem dL_law_3693 : decode cL_law 3693 = .ok (.ifCond .eq 5, 3) := dk_153 0 5 (dk_at dksL_law_148 17 rfl rfl)
theorem dL_law_3696 : decode cL_law 3696 = .ok (.iconst 0, 1) := dk_3 (dk_at dksL_law_148 20 rfl rfl)
theorem dL_law_3697 : decode cL_law 3697 = .ok (.ireturn, 1) := dk_172 (dk_at dksL_law_148 21 rfl rfl)
theorem dL_law_3698 : decode cL_law 3698 = .ok (.goto 42, 3) := dk_167 0 42 (dk_at dksL_law_149 0 rfl rfl)
theorem dL_law_3701 : decode cL_law 3701 = .ok (.aload_n 1, 1) := dk_43 (dk_at dksL_law_149 3 rfl rfl)
theorem dL_law_3702 : decode cL_law 3702 = .ok (.invokevirtual 325, 3) := dk_182 1 69 (dk_at dksL_law_149 4 rfl rfl)
theorem dL_law_3705 : decode cL_law 3705 = .ok (.aload_n 2, 1) := dk_44 (dk_at dksL_law_149 7 rfl rfl)
theorem dL_law_3706 : decode cL_law 3706 = .ok (.invokevirtual 329, 3) := dk_182 1 73 (dk_at dksL_law_149 8 rfl rfl)
theorem dL_law_3709 : decode cL_law 3709 = .ok (.lcmp, 1) := dk_148 (dk_at dksL_law_149 11 rfl rfl)
theorem dL_law_3710 : decode cL_law 3710 = .ok (.ifCond .eq 30, 3) := dk_153 0 30 (dk_at dksL_law_149 12 rfl rfl)
theorem dL_law_3713 : decode cL_law 3713 = .ok (.iconst 0, 1) := dk_3 (dk_at dksL_law_149 15 rfl rfl)
theorem dL_law_3714 : decode cL_law 3714 = .ok (.ireturn, 1) := dk_172 (dk_at dksL_law_149 16 rfl rfl)
theorem dL_law_3715 : decode cL_law 3715 = .ok (.aload_n 1, 1) := dk_43 (dk_at dksL_law_149 17 rfl rfl)
theorem dL_law_3716 : decode cL_law 3716 = .ok (.aload_n 0, 1) := dk_42 (dk_at dksL_law_149 18 rfl rfl)
theorem dL_law_3717 : decode cL_law 3717 = .ok (.iload 4, 2) := dk_21 4 (dk_at dksL_law_149 19 rfl rfl)
theorem dL_law_3719 : decode cL_law 3719 = .ok (.iconst 1, 1) := dk_4 (dk_at dksL_law_149 21 rfl rfl)
theorem dL_law_3720 : decode cL_law 3720 = .ok (.iadd, 1) := dk_96 (dk_at dksL_law_149 22 rfl rfl)
theorem dL_law_3721 : decode cL_law 3721 = .ok (.iaload, 1) := dk_46 (dk_at dksL_law_149 23 rfl rfl)
theorem dL_law_3722 : decode cL_law 3722 = .ok (.invokevirtual 330, 3) := dk_182 1 74 (dk_at dksL_law_150 0 rfl rfl)
theorem dL_law_3725 : decode cL_law 3725 = .ok (.aload_n 2, 1) := dk_44 (dk_at dksL_law_150 3 rfl rfl)
theorem dL_law_3726 : decode cL_law 3726 = .ok (.aload_n 0, 1) := dk_42 (dk_at dksL_law_150 4 rfl rfl)
theorem dL_law_3727 : decode cL_law 3727 = .ok (.iload 4, 2) := dk_21 4 (dk_at dksL_law_150 5 rfl rfl)
theorem dL_law_3729 : decode cL_law 3729 = .ok (.iconst 1, 1) := dk_4 (dk_at dksL_law_150 7 rfl rfl)
theorem dL_law_3730 : decode cL_law 3730 = .ok (.iadd, 1) := dk_96 (dk_at dksL_law_150 8 rfl rfl)
theorem dL_law_3731 : decode cL_law 3731 = .ok (.iaload, 1) := dk_46 (dk_at dksL_law_150 9 rfl rfl)
theorem dL_law_3732 : decode cL_law 3732 = .ok (.invokevirtual 333, 3) := dk_182 1 77 (dk_at dksL_law_150 10 rfl rfl)
theorem dL_law_3735 : decode cL_law 3735 = .ok (.if_icmp .eq 5, 3) := dk_159 0 5 (dk_at dksL_law_150 13 rfl rfl)
theorem dL_law_3738 : decode cL_law 3738 = .ok (.iconst 0, 1) := dk_3 (dk_at dksL_law_150 16 rfl rfl)
theorem dL_law_3739 : decode cL_law 3739 = .ok (.ireturn, 1) := dk_172 (dk_at dksL_law_150 17 rfl rfl)
theorem dL_law_3740 : decode cL_law 3740 = .ok (.iinc 4 6, 3) := dk_132 4 6 (dk_at dksL_law_150 18 rfl rfl)
theorem dL_law_3743 : decode cL_law 3743 = .ok (.goto (-3720), 3) := dk_167 241 120 (dk_at dksL_law_150 21 rfl rfl)
theorem dL_law_3746 : decode cL_law 3746 = .ok (.iconst 1, 1) := dk_4 (dk_at dksL_law_151 0 rfl rfl)
theorem dL_law_3747 : decode cL_law 3747 = .ok (.ireturn, 1) := dk_172 (dk_at dksL_law_151 1 rfl rfl)
