/-! TallTowers -/
set_option maxRecDepth 100000
def RX1 : String := "TallTowers"
def TX1 : u_T := fun k => match k with
  | 0 => ("TallTowers", "now", "LTallTowers$World;", true)
  | 1 => ("TallTowers", "then", "LTallTowers$World;", true)
  | 2 => ("TallTowers", "asIf", "LTallTowers$Harm;", true)
  | 3 => ("TallTowers", "events", "[LTallTowers$Event;", true)
  | 4 => ("TallTowers", "holders", "[LTallTowers$Holder;", true)
  | 5 => ("TallTowers", "ranks", "Ljava/util/TreeSet;", true)
  | 6 => ("TallTowers", "refused", "[I", true)
  | 7 => ("TallTowers", "many", "I", false)
  | _ => ("TallTowers", "leftOut", "I", false)
def tyX1 : Nat → FieldType := fun k => match k with
  | 0 => .object "TallTowers$World"
  | 1 => .object "TallTowers$World"
  | 2 => .object "TallTowers$Harm"
  | 3 => .array (.object "TallTowers$Event")
  | 4 => .array (.object "TallTowers$Holder")
  | 5 => .object "java/util/TreeSet"
  | 6 => .array .int
  | 7 => .int
  | _ => .int
abbrev wsX10 : List Cond := u_ws RX1 TX1 9
theorem nmX1 : ∀ a, a < 9 → ∀ b, b < 9 → a ≠ b → (TX1 a).2.1 ≠ (TX1 b).2.1 := by decide +kernel
theorem tyX1_ok : ∀ k, k < 9 → parseFieldDescriptor (TX1 k).2.2.1 = some (tyX1 k) := by decide +kernel
abbrev cX1_init : ByteArray := prog_1_method_2_code
def yX1_init : MethodName := ⟨RX1, "<init>", "()V"⟩
def dkwX1_init_4 : List UInt8 := [187, 0, 32, 89, 27, 183, 0, 52, 83, 132, 1, 1, 167, 255, 233, 177]
abbrev dktX1_init_4 : List UInt8 := dkwX1_init_4 ++ []
def dkwX1_init_3 : List UInt8 := [181, 0, 45, 42, 180, 0, 10, 182, 0, 49, 3, 60, 27, 16, 10, 162, 0, 23, 42, 180, 0, 34, 27]
abbrev dktX1_init_3 : List UInt8 := dkwX1_init_3 ++ dktX1_init_4
def dkwX1_init_2 : List UInt8 := [42, 16, 10, 189, 0, 32, 181, 0, 34, 42, 187, 0, 38, 89, 183, 0, 40, 181, 0, 41, 42, 6, 188, 10]
abbrev dktX1_init_2 : List UInt8 := dkwX1_init_2 ++ dktX1_init_3
def dkwX1_init_1 : List UInt8 := [181, 0, 16, 42, 187, 0, 19, 89, 183, 0, 21, 181, 0, 22, 42, 17, 0, 160, 189, 0, 26, 181, 0, 28]
abbrev dktX1_init_1 : List UInt8 := dkwX1_init_1 ++ dktX1_init_2
def dkwX1_init_0 : List UInt8 := [42, 183, 0, 1, 42, 187, 0, 7, 89, 183, 0, 9, 181, 0, 10, 42, 187, 0, 7, 89, 183, 0, 9]
abbrev dktX1_init_0 : List UInt8 := dkwX1_init_0 ++ dktX1_init_1
theorem dksX1_init_0 : cX1_init.data.toList.drop 0 = dktX1_init_0 := by decide +kernel
theorem dksX1_init_1 : cX1_init.data.toList.drop 23 = dktX1_init_1 := dk_seg dksX1_init_0 23 rfl rfl
theorem dksX1_init_2 : cX1_init.data.toList.drop 47 = dktX1_init_2 := dk_seg dksX1_init_1 24 rfl rfl
theorem dksX1_init_3 : cX1_init.data.toList.drop 71 = dktX1_init_3 := dk_seg dksX1_init_2 24 rfl rfl
theorem dksX1_init_4 : cX1_init.data.toList.drop 94 = dktX1_init_4 := dk_seg dksX1_init_3 23 rfl rfl
theorem dX1_init_0 : decode cX1_init 0 = .ok (.aload_n 0, 1) := dk_42 (dk_at dksX1_init_0 0 rfl rfl)
theorem dX1_init_1 : decode cX1_init 1 = .ok (.invokespecial 1, 3) := dk_183 0 1 (dk_at dksX1_init_0 1 rfl rfl)
theorem dX1_init_4 : decode cX1_init 4 = .ok (.aload_n 0, 1) := dk_42 (dk_at dksX1_init_0 4 rfl rfl)
theorem dX1_init_5 : decode cX1_init 5 = .ok (.new 7, 3) := dk_187 0 7 (dk_at dksX1_init_0 5 rfl rfl)
theorem dX1_init_8 : decode cX1_init 8 = .ok (.dup, 1) := dk_89 (dk_at dksX1_init_0 8 rfl rfl)
theorem dX1_init_9 : decode cX1_init 9 = .ok (.invokespecial 9, 3) := dk_183 0 9 (dk_at dksX1_init_0 9 rfl rfl)
theorem dX1_init_12 : decode cX1_init 12 = .ok (.putfield 10, 3) := dk_181 0 10 (dk_at dksX1_init_0 12 rfl rfl)
theorem dX1_init_15 : decode cX1_init 15 = .ok (.aload_n 0, 1) := dk_42 (dk_at dksX1_init_0 15 rfl rfl)
theorem dX1_init_16 : decode cX1_init 16 = .ok (.new 7, 3) := dk_187 0 7 (dk_at dksX1_init_0 16 rfl rfl)
theorem dX1_init_19 : decode cX1_init 19 = .ok (.dup, 1) := dk_89 (dk_at dksX1_init_0 19 rfl rfl)
theorem dX1_init_20 : decode cX1_init 20 = .ok (.invokespecial 9, 3) := dk_183 0 9 (dk_at dksX1_init_0 20 rfl rfl)
theorem dX1_init_23 : decode cX1_init 23 = .ok (.putfield 16, 3) := dk_181 0 16 (dk_at dksX1_init_1 0 rfl rfl)
theorem dX1_init_26 : decode cX1_init 26 = .ok (.aload_n 0, 1) := dk_42 (dk_at dksX1_init_1 3 rfl rfl)
theorem dX1_init_27 : decode cX1_init 27 = .ok (.new 19, 3) := dk_187 0 19 (dk_at dksX1_init_1 4 rfl rfl)
theorem dX1_init_30 : decode cX1_init 30 = .ok (.dup, 1) := dk_89 (dk_at dksX1_init_1 7 rfl rfl)
theorem dX1_init_31 : decode cX1_init 31 = .ok (.invokespecial 21, 3) := dk_183 0 21 (dk_at dksX1_init_1 8 rfl rfl)
theorem dX1_init_34 : decode cX1_init 34 = .ok (.putfield 22, 3) := dk_181 0 22 (dk_at dksX1_init_1 11 rfl rfl)
theorem dX1_init_37 : decode cX1_init 37 = .ok (.aload_n 0, 1) := dk_42 (dk_at dksX1_init_1 14 rfl rfl)
theorem dX1_init_38 : decode cX1_init 38 = .ok (.sipush 160, 3) := dk_17 0 160 (dk_at dksX1_init_1 15 rfl rfl)
theorem dX1_init_41 : decode cX1_init 41 = .ok (.anewarray 26, 3) := dk_189 0 26 (dk_at dksX1_init_1 18 rfl rfl)
theorem dX1_init_44 : decode cX1_init 44 = .ok (.putfield 28, 3) := dk_181 0 28 (dk_at dksX1_init_1 21 rfl rfl)
theorem dX1_init_47 : decode cX1_init 47 = .ok (.aload_n 0, 1) := dk_42 (dk_at dksX1_init_2 0 rfl rfl)
theorem dX1_init_48 : decode cX1_init 48 = .ok (.bipush 10, 2) := dk_16 10 (dk_at dksX1_init_2 1 rfl rfl)
theorem dX1_init_50 : decode cX1_init 50 = .ok (.anewarray 32, 3) := dk_189 0 32 (dk_at dksX1_init_2 3 rfl rfl)
theorem dX1_init_53 : decode cX1_init 53 = .ok (.putfield 34, 3) := dk_181 0 34 (dk_at dksX1_init_2 6 rfl rfl)
theorem dX1_init_56 : decode cX1_init 56 = .ok (.aload_n 0, 1) := dk_42 (dk_at dksX1_init_2 9 rfl rfl)
theorem dX1_init_57 : decode cX1_init 57 = .ok (.new 38, 3) := dk_187 0 38 (dk_at dksX1_init_2 10 rfl rfl)
theorem dX1_init_60 : decode cX1_init 60 = .ok (.dup, 1) := dk_89 (dk_at dksX1_init_2 13 rfl rfl)
theorem dX1_init_61 : decode cX1_init 61 = .ok (.invokespecial 40, 3) := dk_183 0 40 (dk_at dksX1_init_2 14 rfl rfl)
theorem dX1_init_64 : decode cX1_init 64 = .ok (.putfield 41, 3) := dk_181 0 41 (dk_at dksX1_init_2 17 rfl rfl)
theorem dX1_init_67 : decode cX1_init 67 = .ok (.aload_n 0, 1) := dk_42 (dk_at dksX1_init_2 20 rfl rfl)
theorem dX1_init_68 : decode cX1_init 68 = .ok (.iconst 3, 1) := dk_6 (dk_at dksX1_init_2 21 rfl rfl)
theorem dX1_init_69 : decode cX1_init 69 = .ok (.newarray .int, 2) := dk_188_10 (dk_at dksX1_init_2 22 rfl rfl)
theorem dX1_init_71 : decode cX1_init 71 = .ok (.putfield 45, 3) := dk_181 0 45 (dk_at dksX1_init_3 0 rfl rfl)
theorem dX1_init_74 : decode cX1_init 74 = .ok (.aload_n 0, 1) := dk_42 (dk_at dksX1_init_3 3 rfl rfl)
theorem dX1_init_75 : decode cX1_init 75 = .ok (.getfield 10, 3) := dk_180 0 10 (dk_at dksX1_init_3 4 rfl rfl)
theorem dX1_init_78 : decode cX1_init 78 = .ok (.invokevirtual 49, 3) := dk_182 0 49 (dk_at dksX1_init_3 7 rfl rfl)
theorem dX1_init_81 : decode cX1_init 81 = .ok (.iconst 0, 1) := dk_3 (dk_at dksX1_init_3 10 rfl rfl)
theorem dX1_init_82 : decode cX1_init 82 = .ok (.istore_n 1, 1) := dk_60 (dk_at dksX1_init_3 11 rfl rfl)
theorem dX1_init_83 : decode cX1_init 83 = .ok (.iload_n 1, 1) := dk_27 (dk_at dksX1_init_3 12 rfl rfl)
theorem dX1_init_84 : decode cX1_init 84 = .ok (.bipush 10, 2) := dk_16 10 (dk_at dksX1_init_3 13 rfl rfl)
theorem dX1_init_86 : decode cX1_init 86 = .ok (.if_icmp .ge 23, 3) := dk_162 0 23 (dk_at dksX1_init_3 15 rfl rfl)
theorem dX1_init_89 : decode cX1_init 89 = .ok (.aload_n 0, 1) := dk_42 (dk_at dksX1_init_3 18 rfl rfl)
theorem dX1_init_90 : decode cX1_init 90 = .ok (.getfield 34, 3) := dk_180 0 34 (dk_at dksX1_init_3 19 rfl rfl)
theorem dX1_init_93 : decode cX1_init 93 = .ok (.iload_n 1, 1) := dk_27 (dk_at dksX1_init_3 22 rfl rfl)
theorem dX1_init_94 : decode cX1_init 94 = .ok (.new 32, 3) := dk_187 0 32 (dk_at dksX1_init_4 0 rfl rfl)
theorem dX1_init_97 : decode cX1_init 97 = .ok (.dup, 1) := dk_89 (dk_at dksX1_init_4 3 rfl rfl)
theorem dX1_init_98 : decode cX1_init 98 = .ok (.iload_n 1, 1) := dk_27 (dk_at dksX1_init_4 4 rfl rfl)
theorem dX1_init_99 : decode cX1_init 99 = .ok (.invokespecial 52, 3) := dk_183 0 52 (dk_at dksX1_init_4 5 rfl rfl)
theorem dX1_init_102 : decode cX1_init 102 = .ok (.aastore, 1) := dk_83 (dk_at dksX1_init_4 8 rfl rfl)
theorem dX1_init_103 : decode cX1_init 103 = .ok (.iinc 1 1, 3) := dk_132 1 1 (dk_at dksX1_init_4 9 rfl rfl)
theorem dX1_init_106 : decode cX1_init 106 = .ok (.goto (-23), 3) := dk_167 255 233 (dk_at dksX1_init_4 12 rfl rfl)
theorem dX1_init_109 : decode cX1_init 109 = .ok (.return_, 1) := dk_177 (dk_at dksX1_init_4 15 rfl rfl)
abbrev cX1_shares : ByteArray := prog_1_method_1_code
def yX1_shares : MethodName := ⟨RX1, "shares", "(J[J[J)V"⟩
def dkwX1_shares_6 : List UInt8 := [80, 22, 6, 10, 101, 55, 6, 132, 8, 1, 167, 255, 213, 177]
abbrev dktX1_shares_6 : List UInt8 := dkwX1_shares_6 ++ []
def dkwX1_shares_5 : List UInt8 := [9, 148, 158, 0, 35, 44, 21, 8, 47, 9, 148, 154, 0, 6, 167, 0, 17, 45, 21, 8, 92, 47, 10, 97]
abbrev dktX1_shares_5 : List UInt8 := dkwX1_shares_5 ++ dktX1_shares_6
def dkwX1_shares_4 : List UInt8 := [21, 8, 47, 101, 55, 6, 132, 8, 1, 167, 255, 200, 3, 54, 8, 21, 8, 44, 190, 162, 0, 42, 22, 6]
abbrev dktX1_shares_4 : List UInt8 := dkwX1_shares_4 ++ dktX1_shares_5
def dkwX1_shares_3 : List UInt8 := [109, 44, 21, 8, 47, 105, 30, 22, 4, 113, 44, 21, 8, 47, 105, 22, 4, 109, 97, 80, 22, 6, 45]
abbrev dktX1_shares_3 : List UInt8 := dkwX1_shares_3 ++ dktX1_shares_4
def dkwX1_shares_2 : List UInt8 := [21, 8, 44, 190, 162, 0, 55, 45, 21, 8, 22, 4, 9, 148, 154, 0, 7, 9, 167, 0, 25, 30, 22, 4]
abbrev dktX1_shares_2 : List UInt8 := dkwX1_shares_2 ++ dktX1_shares_3
def dkwX1_shares_1 : List UInt8 := [25, 8, 21, 10, 47, 55, 11, 22, 4, 22, 11, 97, 55, 4, 132, 10, 1, 167, 255, 232, 3, 54, 8]
abbrev dktX1_shares_1 : List UInt8 := dkwX1_shares_1 ++ dktX1_shares_2
def dkwX1_shares_0 : List UInt8 := [9, 55, 4, 30, 55, 6, 44, 58, 8, 25, 8, 190, 54, 9, 3, 54, 10, 21, 10, 21, 9, 162, 0, 23]
abbrev dktX1_shares_0 : List UInt8 := dkwX1_shares_0 ++ dktX1_shares_1
theorem dksX1_shares_0 : cX1_shares.data.toList.drop 0 = dktX1_shares_0 := by decide +kernel
theorem dksX1_shares_1 : cX1_shares.data.toList.drop 24 = dktX1_shares_1 := dk_seg dksX1_shares_0 24 rfl rfl
theorem dksX1_shares_2 : cX1_shares.data.toList.drop 47 = dktX1_shares_2 := dk_seg dksX1_shares_1 23 rfl rfl
theorem dksX1_shares_3 : cX1_shares.data.toList.drop 71 = dktX1_shares_3 := dk_seg dksX1_shares_2 24 rfl rfl
theorem dksX1_shares_4 : cX1_shares.data.toList.drop 94 = dktX1_shares_4 := dk_seg dksX1_shares_3 23 rfl rfl
theorem dksX1_shares_5 : cX1_shares.data.toList.drop 118 = dktX1_shares_5 := dk_seg dksX1_shares_4 24 rfl rfl
theorem dksX1_shares_6 : cX1_shares.data.toList.drop 142 = dktX1_shares_6 := dk_seg dksX1_shares_5 24 rfl rfl
theorem dX1_shares_0 : decode cX1_shares 0 = .ok (.lconst 0, 1) := dk_9 (dk_at dksX1_shares_0 0 rfl rfl)
theorem dX1_shares_1 : decode cX1_shares 1 = .ok (.lstore 4, 2) := dk_55 4 (dk_at dksX1_shares_0 1 rfl rfl)
theorem dX1_shares_3 : decode cX1_shares 3 = .ok (.lload_n 0, 1) := dk_30 (dk_at dksX1_shares_0 3 rfl rfl)
theorem dX1_shares_4 : decode cX1_shares 4 = .ok (.lstore 6, 2) := dk_55 6 (dk_at dksX1_shares_0 4 rfl rfl)
theorem dX1_shares_6 : decode cX1_shares 6 = .ok (.aload_n 2, 1) := dk_44 (dk_at dksX1_shares_0 6 rfl rfl)
theorem dX1_shares_7 : decode cX1_shares 7 = .ok (.astore 8, 2) := dk_58 8 (dk_at dksX1_shares_0 7 rfl rfl)
theorem dX1_shares_9 : decode cX1_shares 9 = .ok (.aload 8, 2) := dk_25 8 (dk_at dksX1_shares_0 9 rfl rfl)
theorem dX1_shares_11 : decode cX1_shares 11 = .ok (.arraylength, 1) := dk_190 (dk_at dksX1_shares_0 11 rfl rfl)
theorem dX1_shares_12 : decode cX1_shares 12 = .ok (.istore 9, 2) := dk_54 9 (dk_at dksX1_shares_0 12 rfl rfl)
theorem dX1_shares_14 : decode cX1_shares 14 = .ok (.iconst 0, 1) := dk_3 (dk_at dksX1_shares_0 14 rfl rfl)
theorem dX1_shares_15 : decode cX1_shares 15 = .ok (.istore 10, 2) := dk_54 10 (dk_at dksX1_shares_0 15 rfl rfl)
theorem dX1_shares_17 : decode cX1_shares 17 = .ok (.iload 10, 2) := dk_21 10 (dk_at dksX1_shares_0 17 rfl rfl)
theorem dX1_shares_19 : decode cX1_shares 19 = .ok (.iload 9, 2) := dk_21 9 (dk_at dksX1_shares_0 19 rfl rfl)
theorem dX1_shares_21 : decode cX1_shares 21 = .ok (.if_icmp .ge 23, 3) := dk_162 0 23 (dk_at dksX1_shares_0 21 rfl rfl)
theorem dX1_shares_24 : decode cX1_shares 24 = .ok (.aload 8, 2) := dk_25 8 (dk_at dksX1_shares_1 0 rfl rfl)
theorem dX1_shares_26 : decode cX1_shares 26 = .ok (.iload 10, 2) := dk_21 10 (dk_at dksX1_shares_1 2 rfl rfl)
theorem dX1_shares_28 : decode cX1_shares 28 = .ok (.laload, 1) := dk_47 (dk_at dksX1_shares_1 4 rfl rfl)
theorem dX1_shares_29 : decode cX1_shares 29 = .ok (.lstore 11, 2) := dk_55 11 (dk_at dksX1_shares_1 5 rfl rfl)
theorem dX1_shares_31 : decode cX1_shares 31 = .ok (.lload 4, 2) := dk_22 4 (dk_at dksX1_shares_1 7 rfl rfl)
theorem dX1_shares_33 : decode cX1_shares 33 = .ok (.lload 11, 2) := dk_22 11 (dk_at dksX1_shares_1 9 rfl rfl)
theorem dX1_shares_35 : decode cX1_shares 35 = .ok (.ladd, 1) := dk_97 (dk_at dksX1_shares_1 11 rfl rfl)
theorem dX1_shares_36 : decode cX1_shares 36 = .ok (.lstore 4, 2) := dk_55 4 (dk_at dksX1_shares_1 12 rfl rfl)
theorem dX1_shares_38 : decode cX1_shares 38 = .ok (.iinc 10 1, 3) := dk_132 10 1 (dk_at dksX1_shares_1 14 rfl rfl)
theorem dX1_shares_41 : decode cX1_shares 41 = .ok (.goto (-24), 3) := dk_167 255 232 (dk_at dksX1_shares_1 17 rfl rfl)
theorem dX1_shares_44 : decode cX1_shares 44 = .ok (.iconst 0, 1) := dk_3 (dk_at dksX1_shares_1 20 rfl rfl)
theorem dX1_shares_45 : decode cX1_shares 45 = .ok (.istore 8, 2) := dk_54 8 (dk_at dksX1_shares_1 21 rfl rfl)
theorem dX1_shares_47 : decode cX1_shares 47 = .ok (.iload 8, 2) := dk_21 8 (dk_at dksX1_shares_2 0 rfl rfl)
theorem dX1_shares_49 : decode cX1_shares 49 = .ok (.aload_n 2, 1) := dk_44 (dk_at dksX1_shares_2 2 rfl rfl)
theorem dX1_shares_50 : decode cX1_shares 50 = .ok (.arraylength, 1) := dk_190 (dk_at dksX1_shares_2 3 rfl rfl)
theorem dX1_shares_51 : decode cX1_shares 51 = .ok (.if_icmp .ge 55, 3) := dk_162 0 55 (dk_at dksX1_shares_2 4 rfl rfl)
theorem dX1_shares_54 : decode cX1_shares 54 = .ok (.aload_n 3, 1) := dk_45 (dk_at dksX1_shares_2 7 rfl rfl)
theorem dX1_shares_55 : decode cX1_shares 55 = .ok (.iload 8, 2) := dk_21 8 (dk_at dksX1_shares_2 8 rfl rfl)
theorem dX1_shares_57 : decode cX1_shares 57 = .ok (.lload 4, 2) := dk_22 4 (dk_at dksX1_shares_2 10 rfl rfl)
theorem dX1_shares_59 : decode cX1_shares 59 = .ok (.lconst 0, 1) := dk_9 (dk_at dksX1_shares_2 12 rfl rfl)
theorem dX1_shares_60 : decode cX1_shares 60 = .ok (.lcmp, 1) := dk_148 (dk_at dksX1_shares_2 13 rfl rfl)
theorem dX1_shares_61 : decode cX1_shares 61 = .ok (.ifCond .ne 7, 3) := dk_154 0 7 (dk_at dksX1_shares_2 14 rfl rfl)
theorem dX1_shares_64 : decode cX1_shares 64 = .ok (.lconst 0, 1) := dk_9 (dk_at dksX1_shares_2 17 rfl rfl)
theorem dX1_shares_65 : decode cX1_shares 65 = .ok (.goto 25, 3) := dk_167 0 25 (dk_at dksX1_shares_2 18 rfl rfl)
theorem dX1_shares_68 : decode cX1_shares 68 = .ok (.lload_n 0, 1) := dk_30 (dk_at dksX1_shares_2 21 rfl rfl)
theorem dX1_shares_69 : decode cX1_shares 69 = .ok (.lload 4, 2) := dk_22 4 (dk_at dksX1_shares_2 22 rfl rfl)
theorem dX1_shares_71 : decode cX1_shares 71 = .ok (.ldiv, 1) := dk_109 (dk_at dksX1_shares_3 0 rfl rfl)
theorem dX1_shares_72 : decode cX1_shares 72 = .ok (.aload_n 2, 1) := dk_44 (dk_at dksX1_shares_3 1 rfl rfl)
theorem dX1_shares_73 : decode cX1_shares 73 = .ok (.iload 8, 2) := dk_21 8 (dk_at dksX1_shares_3 2 rfl rfl)
theorem dX1_shares_75 : decode cX1_shares 75 = .ok (.laload, 1) := dk_47 (dk_at dksX1_shares_3 4 rfl rfl)
theorem dX1_shares_76 : decode cX1_shares 76 = .ok (.lmul, 1) := dk_105 (dk_at dksX1_shares_3 5 rfl rfl)
theorem dX1_shares_77 : decode cX1_shares 77 = .ok (.lload_n 0, 1) := dk_30 (dk_at dksX1_shares_3 6 rfl rfl)
theorem dX1_shares_78 : decode cX1_shares 78 = .ok (.lload 4, 2) := dk_22 4 (dk_at dksX1_shares_3 7 rfl rfl)
theorem dX1_shares_80 : decode cX1_shares 80 = .ok (.lrem, 1) := dk_113 (dk_at dksX1_shares_3 9 rfl rfl)
theorem dX1_shares_81 : decode cX1_shares 81 = .ok (.aload_n 2, 1) := dk_44 (dk_at dksX1_shares_3 10 rfl rfl)
theorem dX1_shares_82 : decode cX1_shares 82 = .ok (.iload 8, 2) := dk_21 8 (dk_at dksX1_shares_3 11 rfl rfl)
theorem dX1_shares_84 : decode cX1_shares 84 = .ok (.laload, 1) := dk_47 (dk_at dksX1_shares_3 13 rfl rfl)
theorem dX1_shares_85 : decode cX1_shares 85 = .ok (.lmul, 1) := dk_105 (dk_at dksX1_shares_3 14 rfl rfl)
theorem dX1_shares_86 : decode cX1_shares 86 = .ok (.lload 4, 2) := dk_22 4 (dk_at dksX1_shares_3 15 rfl rfl)
theorem dX1_shares_88 : decode cX1_shares 88 = .ok (.ldiv, 1) := dk_109 (dk_at dksX1_shares_3 17 rfl rfl)
theorem dX1_shares_89 : decode cX1_shares 89 = .ok (.ladd, 1) := dk_97 (dk_at dksX1_shares_3 18 rfl rfl)
theorem dX1_shares_90 : decode cX1_shares 90 = .ok (.lastore, 1) := dk_80 (dk_at dksX1_shares_3 19 rfl rfl)
theorem dX1_shares_91 : decode cX1_shares 91 = .ok (.lload 6, 2) := dk_22 6 (dk_at dksX1_shares_3 20 rfl rfl)
theorem dX1_shares_93 : decode cX1_shares 93 = .ok (.aload_n 3, 1) := dk_45 (dk_at dksX1_shares_3 22 rfl rfl)
theorem dX1_shares_94 : decode cX1_shares 94 = .ok (.iload 8, 2) := dk_21 8 (dk_at dksX1_shares_4 0 rfl rfl)
theorem dX1_shares_96 : decode cX1_shares 96 = .ok (.laload, 1) := dk_47 (dk_at dksX1_shares_4 2 rfl rfl)
theorem dX1_shares_97 : decode cX1_shares 97 = .ok (.lsub, 1) := dk_101 (dk_at dksX1_shares_4 3 rfl rfl)
theorem dX1_shares_98 : decode cX1_shares 98 = .ok (.lstore 6, 2) := dk_55 6 (dk_at dksX1_shares_4 4 rfl rfl)
theorem dX1_shares_100 : decode cX1_shares 100 = .ok (.iinc 8 1, 3) := dk_132 8 1 (dk_at dksX1_shares_4 6 rfl rfl)
theorem dX1_shares_103 : decode cX1_shares 103 = .ok (.goto (-56), 3) := dk_167 255 200 (dk_at dksX1_shares_4 9 rfl rfl)
theorem dX1_shares_106 : decode cX1_shares 106 = .ok (.iconst 0, 1) := dk_3 (dk_at dksX1_shares_4 12 rfl rfl)
theorem dX1_shares_107 : decode cX1_shares 107 = .ok (.istore 8, 2) := dk_54 8 (dk_at dksX1_shares_4 13 rfl rfl)
theorem dX1_shares_109 : decode cX1_shares 109 = .ok (.iload 8, 2) := dk_21 8 (dk_at dksX1_shares_4 15 rfl rfl)
theorem dX1_shares_111 : decode cX1_shares 111 = .ok (.aload_n 2, 1) := dk_44 (dk_at dksX1_shares_4 17 rfl rfl)
theorem dX1_shares_112 : decode cX1_shares 112 = .ok (.arraylength, 1) := dk_190 (dk_at dksX1_shares_4 18 rfl rfl)
theorem dX1_shares_113 : decode cX1_shares 113 = .ok (.if_icmp .ge 42, 3) := dk_162 0 42 (dk_at dksX1_shares_4 19 rfl rfl)
theorem dX1_shares_116 : decode cX1_shares 116 = .ok (.lload 6, 2) := dk_22 6 (dk_at dksX1_shares_4 22 rfl rfl)
theorem dX1_shares_118 : decode cX1_shares 118 = .ok (.lconst 0, 1) := dk_9 (dk_at dksX1_shares_5 0 rfl rfl)
theorem dX1_shares_119 : decode cX1_shares 119 = .ok (.lcmp, 1) := dk_148 (dk_at dksX1_shares_5 1 rfl rfl)
theorem dX1_shares_120 : decode cX1_shares 120 = .ok (.ifCond .le 35, 3) := dk_158 0 35 (dk_at dksX1_shares_5 2 rfl rfl)
theorem dX1_shares_123 : decode cX1_shares 123 = .ok (.aload_n 2, 1) := dk_44 (dk_at dksX1_shares_5 5 rfl rfl)
theorem dX1_shares_124 : decode cX1_shares 124 = .ok (.iload 8, 2) := dk_21 8 (dk_at dksX1_shares_5 6 rfl rfl)
theorem dX1_shares_126 : decode cX1_shares 126 = .ok (.laload, 1) := dk_47 (dk_at dksX1_shares_5 8 rfl rfl)
theorem dX1_shares_127 : decode cX1_shares 127 = .ok (.lconst 0, 1) := dk_9 (dk_at dksX1_shares_5 9 rfl rfl)
theorem dX1_shares_128 : decode cX1_shares 128 = .ok (.lcmp, 1) := dk_148 (dk_at dksX1_shares_5 10 rfl rfl)
theorem dX1_shares_129 : decode cX1_shares 129 = .ok (.ifCond .ne 6, 3) := dk_154 0 6 (dk_at dksX1_shares_5 11 rfl rfl)
theorem dX1_shares_132 : decode cX1_shares 132 = .ok (.goto 17, 3) := dk_167 0 17 (dk_at dksX1_shares_5 14 rfl rfl)
theorem dX1_shares_135 : decode cX1_shares 135 = .ok (.aload_n 3, 1) := dk_45 (dk_at dksX1_shares_5 17 rfl rfl)
theorem dX1_shares_136 : decode cX1_shares 136 = .ok (.iload 8, 2) := dk_21 8 (dk_at dksX1_shares_5 18 rfl rfl)
theorem dX1_shares_138 : decode cX1_shares 138 = .ok (.dup2, 1) := dk_92 (dk_at dksX1_shares_5 20 rfl rfl)
theorem dX1_shares_139 : decode cX1_shares 139 = .ok (.laload, 1) := dk_47 (dk_at dksX1_shares_5 21 rfl rfl)
theorem dX1_shares_140 : decode cX1_shares 140 = .ok (.lconst 1, 1) := dk_10 (dk_at dksX1_shares_5 22 rfl rfl)
theorem dX1_shares_141 : decode cX1_shares 141 = .ok (.ladd, 1) := dk_97 (dk_at dksX1_shares_5 23 rfl rfl)
theorem dX1_shares_142 : decode cX1_shares 142 = .ok (.lastore, 1) := dk_80 (dk_at dksX1_shares_6 0 rfl rfl)
theorem dX1_shares_143 : decode cX1_shares 143 = .ok (.lload 6, 2) := dk_22 6 (dk_at dksX1_shares_6 1 rfl rfl)
theorem dX1_shares_145 : decode cX1_shares 145 = .ok (.lconst 1, 1) := dk_10 (dk_at dksX1_shares_6 3 rfl rfl)
theorem dX1_shares_146 : decode cX1_shares 146 = .ok (.lsub, 1) := dk_101 (dk_at dksX1_shares_6 4 rfl rfl)
theorem dX1_shares_147 : decode cX1_shares 147 = .ok (.lstore 6, 2) := dk_55 6 (dk_at dksX1_shares_6 5 rfl rfl)
theorem dX1_shares_149 : decode cX1_shares 149 = .ok (.iinc 8 1, 3) := dk_132 8 1 (dk_at dksX1_shares_6 7 rfl rfl)
theorem dX1_shares_152 : decode cX1_shares 152 = .ok (.goto (-43), 3) := dk_167 255 213 (dk_at dksX1_shares_6 10 rfl rfl)
theorem dX1_shares_155 : decode cX1_shares 155 = .ok (.return_, 1) := dk_177 (dk_at dksX1_shares_6 13 rfl rfl)
abbrev cX1_back : ByteArray := prog_1_method_23_code
def yX1_back : MethodName := ⟨RX1, "back", "()I"⟩
def dkwX1_back_2 : List UInt8 := [180, 0, 10, 185, 0, 96, 2, 0, 87, 132, 1, 1, 167, 255, 226, 42, 180, 0, 93, 172]
abbrev dktX1_back_2 : List UInt8 := dkwX1_back_2 ++ []
def dkwX1_back_1 : List UInt8 := [182, 0, 49, 3, 60, 27, 42, 180, 0, 93, 162, 0, 28, 42, 180, 0, 28, 27, 50, 180, 0, 178, 42]
abbrev dktX1_back_1 : List UInt8 := dkwX1_back_1 ++ dktX1_back_2
def dkwX1_back_0 : List UInt8 := [42, 180, 0, 93, 154, 0, 5, 2, 172, 42, 89, 180, 0, 93, 4, 100, 181, 0, 93, 42, 180, 0, 10]
abbrev dktX1_back_0 : List UInt8 := dkwX1_back_0 ++ dktX1_back_1
theorem dksX1_back_0 : cX1_back.data.toList.drop 0 = dktX1_back_0 := by decide +kernel
theorem dksX1_back_1 : cX1_back.data.toList.drop 23 = dktX1_back_1 := dk_seg dksX1_back_0 23 rfl rfl
theorem dksX1_back_2 : cX1_back.data.toList.drop 46 = dktX1_back_2 := dk_seg dksX1_back_1 23 rfl rfl
theorem dX1_back_0 : decode cX1_back 0 = .ok (.aload_n 0, 1) := dk_42 (dk_at dksX1_back_0 0 rfl rfl)
theorem dX1_back_1 : decode cX1_back 1 = .ok (.getfield 93, 3) := dk_180 0 93 (dk_at dksX1_back_0 1 rfl rfl)
theorem dX1_back_4 : decode cX1_back 4 = .ok (.ifCond .ne 5, 3) := dk_154 0 5 (dk_at dksX1_back_0 4 rfl rfl)
theorem dX1_back_7 : decode cX1_back 7 = .ok (.iconst (-1), 1) := dk_2 (dk_at dksX1_back_0 7 rfl rfl)
theorem dX1_back_8 : decode cX1_back 8 = .ok (.ireturn, 1) := dk_172 (dk_at dksX1_back_0 8 rfl rfl)
theorem dX1_back_9 : decode cX1_back 9 = .ok (.aload_n 0, 1) := dk_42 (dk_at dksX1_back_0 9 rfl rfl)
theorem dX1_back_10 : decode cX1_back 10 = .ok (.dup, 1) := dk_89 (dk_at dksX1_back_0 10 rfl rfl)
theorem dX1_back_11 : decode cX1_back 11 = .ok (.getfield 93, 3) := dk_180 0 93 (dk_at dksX1_back_0 11 rfl rfl)
theorem dX1_back_14 : decode cX1_back 14 = .ok (.iconst 1, 1) := dk_4 (dk_at dksX1_back_0 14 rfl rfl)
theorem dX1_back_15 : decode cX1_back 15 = .ok (.isub, 1) := dk_100 (dk_at dksX1_back_0 15 rfl rfl)
theorem dX1_back_16 : decode cX1_back 16 = .ok (.putfield 93, 3) := dk_181 0 93 (dk_at dksX1_back_0 16 rfl rfl)
theorem dX1_back_19 : decode cX1_back 19 = .ok (.aload_n 0, 1) := dk_42 (dk_at dksX1_back_0 19 rfl rfl)
theorem dX1_back_20 : decode cX1_back 20 = .ok (.getfield 10, 3) := dk_180 0 10 (dk_at dksX1_back_0 20 rfl rfl)
theorem dX1_back_23 : decode cX1_back 23 = .ok (.invokevirtual 49, 3) := dk_182 0 49 (dk_at dksX1_back_1 0 rfl rfl)
theorem dX1_back_26 : decode cX1_back 26 = .ok (.iconst 0, 1) := dk_3 (dk_at dksX1_back_1 3 rfl rfl)
theorem dX1_back_27 : decode cX1_back 27 = .ok (.istore_n 1, 1) := dk_60 (dk_at dksX1_back_1 4 rfl rfl)
theorem dX1_back_28 : decode cX1_back 28 = .ok (.iload_n 1, 1) := dk_27 (dk_at dksX1_back_1 5 rfl rfl)
theorem dX1_back_29 : decode cX1_back 29 = .ok (.aload_n 0, 1) := dk_42 (dk_at dksX1_back_1 6 rfl rfl)
theorem dX1_back_30 : decode cX1_back 30 = .ok (.getfield 93, 3) := dk_180 0 93 (dk_at dksX1_back_1 7 rfl rfl)
theorem dX1_back_33 : decode cX1_back 33 = .ok (.if_icmp .ge 28, 3) := dk_162 0 28 (dk_at dksX1_back_1 10 rfl rfl)
theorem dX1_back_36 : decode cX1_back 36 = .ok (.aload_n 0, 1) := dk_42 (dk_at dksX1_back_1 13 rfl rfl)
theorem dX1_back_37 : decode cX1_back 37 = .ok (.getfield 28, 3) := dk_180 0 28 (dk_at dksX1_back_1 14 rfl rfl)
theorem dX1_back_40 : decode cX1_back 40 = .ok (.iload_n 1, 1) := dk_27 (dk_at dksX1_back_1 17 rfl rfl)
theorem dX1_back_41 : decode cX1_back 41 = .ok (.aaload, 1) := dk_50 (dk_at dksX1_back_1 18 rfl rfl)
theorem dX1_back_42 : decode cX1_back 42 = .ok (.getfield 178, 3) := dk_180 0 178 (dk_at dksX1_back_1 19 rfl rfl)
theorem dX1_back_45 : decode cX1_back 45 = .ok (.aload_n 0, 1) := dk_42 (dk_at dksX1_back_1 22 rfl rfl)
theorem dX1_back_46 : decode cX1_back 46 = .ok (.getfield 10, 3) := dk_180 0 10 (dk_at dksX1_back_2 0 rfl rfl)
theorem dX1_back_49 : decode cX1_back 49 = .ok (.invokeinterface 96 2, 5) := by decide +kernel
theorem dX1_back_54 : decode cX1_back 54 = .ok (.pop, 1) := dk_87 (dk_at dksX1_back_2 8 rfl rfl)
theorem dX1_back_55 : decode cX1_back 55 = .ok (.iinc 1 1, 3) := dk_132 1 1 (dk_at dksX1_back_2 9 rfl rfl)
theorem dX1_back_58 : decode cX1_back 58 = .ok (.goto (-30), 3) := dk_167 255 226 (dk_at dksX1_back_2 12 rfl rfl)
theorem dX1_back_61 : decode cX1_back 61 = .ok (.aload_n 0, 1) := dk_42 (dk_at dksX1_back_2 15 rfl rfl)
theorem dX1_back_62 : decode cX1_back 62 = .ok (.getfield 93, 3) := dk_180 0 93 (dk_at dksX1_back_2 16 rfl rfl)
theorem dX1_back_65 : decode cX1_back 65 = .ok (.ireturn, 1) := dk_172 (dk_at dksX1_back_2 19 rfl rfl)
abbrev cX1_spent : ByteArray := prog_1_method_73_code
def yX1_spent : MethodName := ⟨RX1, "spent", "()J"⟩
def dkwX1_spent_1 : List UInt8 := [182, 0, 220, 9, 148, 154, 0, 9, 31, 10, 29, 121, 129, 64, 132, 3, 1, 167, 255, 219, 31, 173]
abbrev dktX1_spent_1 : List UInt8 := dkwX1_spent_1 ++ []
def dkwX1_spent_0 : List UInt8 := [9, 64, 3, 62, 29, 42, 180, 0, 10, 180, 0, 58, 162, 0, 32, 42, 180, 0, 10, 180, 0, 66, 29, 50]
abbrev dktX1_spent_0 : List UInt8 := dkwX1_spent_0 ++ dktX1_spent_1
theorem dksX1_spent_0 : cX1_spent.data.toList.drop 0 = dktX1_spent_0 := by decide +kernel
theorem dksX1_spent_1 : cX1_spent.data.toList.drop 24 = dktX1_spent_1 := dk_seg dksX1_spent_0 24 rfl rfl
theorem dX1_spent_0 : decode cX1_spent 0 = .ok (.lconst 0, 1) := dk_9 (dk_at dksX1_spent_0 0 rfl rfl)
theorem dX1_spent_1 : decode cX1_spent 1 = .ok (.lstore_n 1, 1) := dk_64 (dk_at dksX1_spent_0 1 rfl rfl)
theorem dX1_spent_2 : decode cX1_spent 2 = .ok (.iconst 0, 1) := dk_3 (dk_at dksX1_spent_0 2 rfl rfl)
theorem dX1_spent_3 : decode cX1_spent 3 = .ok (.istore_n 3, 1) := dk_62 (dk_at dksX1_spent_0 3 rfl rfl)
theorem dX1_spent_4 : decode cX1_spent 4 = .ok (.iload_n 3, 1) := dk_29 (dk_at dksX1_spent_0 4 rfl rfl)
theorem dX1_spent_5 : decode cX1_spent 5 = .ok (.aload_n 0, 1) := dk_42 (dk_at dksX1_spent_0 5 rfl rfl)
theorem dX1_spent_6 : decode cX1_spent 6 = .ok (.getfield 10, 3) := dk_180 0 10 (dk_at dksX1_spent_0 6 rfl rfl)
theorem dX1_spent_9 : decode cX1_spent 9 = .ok (.getfield 58, 3) := dk_180 0 58 (dk_at dksX1_spent_0 9 rfl rfl)
theorem dX1_spent_12 : decode cX1_spent 12 = .ok (.if_icmp .ge 32, 3) := dk_162 0 32 (dk_at dksX1_spent_0 12 rfl rfl)
theorem dX1_spent_15 : decode cX1_spent 15 = .ok (.aload_n 0, 1) := dk_42 (dk_at dksX1_spent_0 15 rfl rfl)
theorem dX1_spent_16 : decode cX1_spent 16 = .ok (.getfield 10, 3) := dk_180 0 10 (dk_at dksX1_spent_0 16 rfl rfl)
theorem dX1_spent_19 : decode cX1_spent 19 = .ok (.getfield 66, 3) := dk_180 0 66 (dk_at dksX1_spent_0 19 rfl rfl)
theorem dX1_spent_22 : decode cX1_spent 22 = .ok (.iload_n 3, 1) := dk_29 (dk_at dksX1_spent_0 22 rfl rfl)
theorem dX1_spent_23 : decode cX1_spent 23 = .ok (.aaload, 1) := dk_50 (dk_at dksX1_spent_0 23 rfl rfl)
theorem dX1_spent_24 : decode cX1_spent 24 = .ok (.invokevirtual 220, 3) := dk_182 0 220 (dk_at dksX1_spent_1 0 rfl rfl)
theorem dX1_spent_27 : decode cX1_spent 27 = .ok (.lconst 0, 1) := dk_9 (dk_at dksX1_spent_1 3 rfl rfl)
theorem dX1_spent_28 : decode cX1_spent 28 = .ok (.lcmp, 1) := dk_148 (dk_at dksX1_spent_1 4 rfl rfl)
theorem dX1_spent_29 : decode cX1_spent 29 = .ok (.ifCond .ne 9, 3) := dk_154 0 9 (dk_at dksX1_spent_1 5 rfl rfl)
theorem dX1_spent_32 : decode cX1_spent 32 = .ok (.lload_n 1, 1) := dk_31 (dk_at dksX1_spent_1 8 rfl rfl)
theorem dX1_spent_33 : decode cX1_spent 33 = .ok (.lconst 1, 1) := dk_10 (dk_at dksX1_spent_1 9 rfl rfl)
theorem dX1_spent_34 : decode cX1_spent 34 = .ok (.iload_n 3, 1) := dk_29 (dk_at dksX1_spent_1 10 rfl rfl)
theorem dX1_spent_35 : decode cX1_spent 35 = .ok (.lshl, 1) := dk_121 (dk_at dksX1_spent_1 11 rfl rfl)
theorem dX1_spent_36 : decode cX1_spent 36 = .ok (.lor, 1) := dk_129 (dk_at dksX1_spent_1 12 rfl rfl)
theorem dX1_spent_37 : decode cX1_spent 37 = .ok (.lstore_n 1, 1) := dk_64 (dk_at dksX1_spent_1 13 rfl rfl)
theorem dX1_spent_38 : decode cX1_spent 38 = .ok (.iinc 3 1, 3) := dk_132 3 1 (dk_at dksX1_spent_1 14 rfl rfl)
theorem dX1_spent_41 : decode cX1_spent 41 = .ok (.goto (-37), 3) := dk_167 255 219 (dk_at dksX1_spent_1 17 rfl rfl)
theorem dX1_spent_44 : decode cX1_spent 44 = .ok (.lload_n 1, 1) := dk_31 (dk_at dksX1_spent_1 20 rfl rfl)
theorem dX1_spent_45 : decode cX1_spent 45 = .ok (.lreturn, 1) := dk_173 (dk_at dksX1_spent_1 21 rfl rfl)
abbrev cX1_status : ByteArray := prog_1_method_74_code
def yX1_status : MethodName := ⟨RX1, "status", "(I)I"⟩
def dkwX1_status_0 : List UInt8 := [27, 155, 0, 8, 27, 5, 164, 0, 7, 2, 167, 0, 9, 42, 180, 0, 45, 27, 46, 172]
abbrev dktX1_status_0 : List UInt8 := dkwX1_status_0 ++ []
theorem dksX1_status_0 : cX1_status.data.toList.drop 0 = dktX1_status_0 := by decide +kernel
theorem dX1_status_0 : decode cX1_status 0 = .ok (.iload_n 1, 1) := dk_27 (dk_at dksX1_status_0 0 rfl rfl)
theorem dX1_status_1 : decode cX1_status 1 = .ok (.ifCond .lt 8, 3) := dk_155 0 8 (dk_at dksX1_status_0 1 rfl rfl)
theorem dX1_status_4 : decode cX1_status 4 = .ok (.iload_n 1, 1) := dk_27 (dk_at dksX1_status_0 4 rfl rfl)
theorem dX1_status_5 : decode cX1_status 5 = .ok (.iconst 2, 1) := dk_5 (dk_at dksX1_status_0 5 rfl rfl)
theorem dX1_status_6 : decode cX1_status 6 = .ok (.if_icmp .le 7, 3) := dk_164 0 7 (dk_at dksX1_status_0 6 rfl rfl)
theorem dX1_status_9 : decode cX1_status 9 = .ok (.iconst (-1), 1) := dk_2 (dk_at dksX1_status_0 9 rfl rfl)
theorem dX1_status_10 : decode cX1_status 10 = .ok (.goto 9, 3) := dk_167 0 9 (dk_at dksX1_status_0 10 rfl rfl)
theorem dX1_status_13 : decode cX1_status 13 = .ok (.aload_n 0, 1) := dk_42 (dk_at dksX1_status_0 13 rfl rfl)
theorem dX1_status_14 : decode cX1_status 14 = .ok (.getfield 45, 3) := dk_180 0 45 (dk_at dksX1_status_0 14 rfl rfl)
theorem dX1_status_17 : decode cX1_status 17 = .ok (.iload_n 1, 1) := dk_27 (dk_at dksX1_status_0 17 rfl rfl)
theorem dX1_status_18 : decode cX1_status 18 = .ok (.iaload, 1) := dk_46 (dk_at dksX1_status_0 18 rfl rfl)
theorem dX1_status_19 : decode cX1_status 19 = .ok (.ireturn, 1) := dk_172 (dk_at dksX1_status_0 19 rfl rfl)
abbrev cX1_place : ByteArray := prog_1_method_14_code
def yX1_place : MethodName := ⟨RX1, "place", "(IIII)I"⟩
def dkwX1_place_2 : List UInt8 := [21, 4, 186, 0, 111, 0, 0, 182, 0, 114, 21, 5, 172]
abbrev dktX1_place_2 : List UInt8 := dkwX1_place_2 ++ []
def dkwX1_place_1 : List UInt8 := [4, 7, 182, 0, 80, 42, 180, 0, 10, 180, 0, 58, 54, 5, 42, 3, 21, 5, 21, 5, 27, 28, 29]
abbrev dktX1_place_1 : List UInt8 := dkwX1_place_1 ++ dktX1_place_2
def dkwX1_place_0 : List UInt8 := [42, 27, 182, 0, 84, 42, 28, 3, 18, 109, 182, 0, 80, 42, 29, 4, 18, 110, 182, 0, 80, 42, 21, 4]
abbrev dktX1_place_0 : List UInt8 := dkwX1_place_0 ++ dktX1_place_1
theorem dksX1_place_0 : cX1_place.data.toList.drop 0 = dktX1_place_0 := by decide +kernel
theorem dksX1_place_1 : cX1_place.data.toList.drop 24 = dktX1_place_1 := dk_seg dksX1_place_0 24 rfl rfl
theorem dksX1_place_2 : cX1_place.data.toList.drop 47 = dktX1_place_2 := dk_seg dksX1_place_1 23 rfl rfl
theorem dX1_place_0 : decode cX1_place 0 = .ok (.aload_n 0, 1) := dk_42 (dk_at dksX1_place_0 0 rfl rfl)
theorem dX1_place_1 : decode cX1_place 1 = .ok (.iload_n 1, 1) := dk_27 (dk_at dksX1_place_0 1 rfl rfl)
theorem dX1_place_2 : decode cX1_place 2 = .ok (.invokevirtual 84, 3) := dk_182 0 84 (dk_at dksX1_place_0 2 rfl rfl)
theorem dX1_place_5 : decode cX1_place 5 = .ok (.aload_n 0, 1) := dk_42 (dk_at dksX1_place_0 5 rfl rfl)
theorem dX1_place_6 : decode cX1_place 6 = .ok (.iload_n 2, 1) := dk_28 (dk_at dksX1_place_0 6 rfl rfl)
theorem dX1_place_7 : decode cX1_place 7 = .ok (.iconst 0, 1) := dk_3 (dk_at dksX1_place_0 7 rfl rfl)
theorem dX1_place_8 : decode cX1_place 8 = .ok (.ldc 109, 2) := dk_18 109 (dk_at dksX1_place_0 8 rfl rfl)
theorem dX1_place_10 : decode cX1_place 10 = .ok (.invokevirtual 80, 3) := dk_182 0 80 (dk_at dksX1_place_0 10 rfl rfl)
theorem dX1_place_13 : decode cX1_place 13 = .ok (.aload_n 0, 1) := dk_42 (dk_at dksX1_place_0 13 rfl rfl)
theorem dX1_place_14 : decode cX1_place 14 = .ok (.iload_n 3, 1) := dk_29 (dk_at dksX1_place_0 14 rfl rfl)
theorem dX1_place_15 : decode cX1_place 15 = .ok (.iconst 1, 1) := dk_4 (dk_at dksX1_place_0 15 rfl rfl)
theorem dX1_place_16 : decode cX1_place 16 = .ok (.ldc 110, 2) := dk_18 110 (dk_at dksX1_place_0 16 rfl rfl)
theorem dX1_place_18 : decode cX1_place 18 = .ok (.invokevirtual 80, 3) := dk_182 0 80 (dk_at dksX1_place_0 18 rfl rfl)
theorem dX1_place_21 : decode cX1_place 21 = .ok (.aload_n 0, 1) := dk_42 (dk_at dksX1_place_0 21 rfl rfl)
theorem dX1_place_22 : decode cX1_place 22 = .ok (.iload 4, 2) := dk_21 4 (dk_at dksX1_place_0 22 rfl rfl)
theorem dX1_place_24 : decode cX1_place 24 = .ok (.iconst 1, 1) := dk_4 (dk_at dksX1_place_1 0 rfl rfl)
theorem dX1_place_25 : decode cX1_place 25 = .ok (.iconst 4, 1) := dk_7 (dk_at dksX1_place_1 1 rfl rfl)
theorem dX1_place_26 : decode cX1_place 26 = .ok (.invokevirtual 80, 3) := dk_182 0 80 (dk_at dksX1_place_1 2 rfl rfl)
theorem dX1_place_29 : decode cX1_place 29 = .ok (.aload_n 0, 1) := dk_42 (dk_at dksX1_place_1 5 rfl rfl)
theorem dX1_place_30 : decode cX1_place 30 = .ok (.getfield 10, 3) := dk_180 0 10 (dk_at dksX1_place_1 6 rfl rfl)
theorem dX1_place_33 : decode cX1_place 33 = .ok (.getfield 58, 3) := dk_180 0 58 (dk_at dksX1_place_1 9 rfl rfl)
theorem dX1_place_36 : decode cX1_place 36 = .ok (.istore 5, 2) := dk_54 5 (dk_at dksX1_place_1 12 rfl rfl)
theorem dX1_place_38 : decode cX1_place 38 = .ok (.aload_n 0, 1) := dk_42 (dk_at dksX1_place_1 14 rfl rfl)
theorem dX1_place_39 : decode cX1_place 39 = .ok (.iconst 0, 1) := dk_3 (dk_at dksX1_place_1 15 rfl rfl)
theorem dX1_place_40 : decode cX1_place 40 = .ok (.iload 5, 2) := dk_21 5 (dk_at dksX1_place_1 16 rfl rfl)
theorem dX1_place_42 : decode cX1_place 42 = .ok (.iload 5, 2) := dk_21 5 (dk_at dksX1_place_1 18 rfl rfl)
theorem dX1_place_44 : decode cX1_place 44 = .ok (.iload_n 1, 1) := dk_27 (dk_at dksX1_place_1 20 rfl rfl)
theorem dX1_place_45 : decode cX1_place 45 = .ok (.iload_n 2, 1) := dk_28 (dk_at dksX1_place_1 21 rfl rfl)
theorem dX1_place_46 : decode cX1_place 46 = .ok (.iload_n 3, 1) := dk_29 (dk_at dksX1_place_1 22 rfl rfl)
theorem dX1_place_47 : decode cX1_place 47 = .ok (.iload 4, 2) := dk_21 4 (dk_at dksX1_place_2 0 rfl rfl)
theorem dX1_place_49 : decode cX1_place 49 = .ok (.invokedynamic 111, 5) := by decide +kernel
theorem dX1_place_54 : decode cX1_place 54 = .ok (.invokevirtual 114, 3) := dk_182 0 114 (dk_at dksX1_place_2 7 rfl rfl)
theorem dX1_place_57 : decode cX1_place 57 = .ok (.iload 5, 2) := dk_21 5 (dk_at dksX1_place_2 10 rfl rfl)
theorem dX1_place_59 : decode cX1_place 59 = .ok (.ireturn, 1) := dk_172 (dk_at dksX1_place_2 12 rfl rfl)
abbrev cX1_yearOf : ByteArray := prog_1_method_7_code
def yX1_yearOf : MethodName := ⟨RX1, "yearOf", "(I)V"⟩
def dkwX1_yearOf_0 : List UInt8 := [42, 27, 3, 16, 11, 182, 0, 80, 177]
abbrev dktX1_yearOf_0 : List UInt8 := dkwX1_yearOf_0 ++ []
theorem dksX1_yearOf_0 : cX1_yearOf.data.toList.drop 0 = dktX1_yearOf_0 := by decide +kernel
theorem dX1_yearOf_0 : decode cX1_yearOf 0 = .ok (.aload_n 0, 1) := dk_42 (dk_at dksX1_yearOf_0 0 rfl rfl)
theorem dX1_yearOf_1 : decode cX1_yearOf 1 = .ok (.iload_n 1, 1) := dk_27 (dk_at dksX1_yearOf_0 1 rfl rfl)
theorem dX1_yearOf_2 : decode cX1_yearOf 2 = .ok (.iconst 0, 1) := dk_3 (dk_at dksX1_yearOf_0 2 rfl rfl)
theorem dX1_yearOf_3 : decode cX1_yearOf 3 = .ok (.bipush 11, 2) := dk_16 11 (dk_at dksX1_yearOf_0 3 rfl rfl)
theorem dX1_yearOf_5 : decode cX1_yearOf 5 = .ok (.invokevirtual 80, 3) := dk_182 0 80 (dk_at dksX1_yearOf_0 5 rfl rfl)
theorem dX1_yearOf_8 : decode cX1_yearOf 8 = .ok (.return_, 1) := dk_177 (dk_at dksX1_yearOf_0 8 rfl rfl)
abbrev cX1_within : ByteArray := prog_1_method_6_code
def yX1_within : MethodName := ⟨RX1, "within", "(III)V"⟩
def dkwX1_within_1 : List UInt8 := [89, 183, 0, 79, 191]
abbrev dktX1_within_1 : List UInt8 := dkwX1_within_1 ++ []
def dkwX1_within_0 : List UInt8 := [27, 28, 161, 0, 9, 27, 29, 163, 0, 4, 177, 42, 180, 0, 45, 4, 92, 46, 4, 96, 79, 187, 0, 77]
abbrev dktX1_within_0 : List UInt8 := dkwX1_within_0 ++ dktX1_within_1
theorem dksX1_within_0 : cX1_within.data.toList.drop 0 = dktX1_within_0 := by decide +kernel
theorem dksX1_within_1 : cX1_within.data.toList.drop 24 = dktX1_within_1 := dk_seg dksX1_within_0 24 rfl rfl
theorem dX1_within_0 : decode cX1_within 0 = .ok (.iload_n 1, 1) := dk_27 (dk_at dksX1_within_0 0 rfl rfl)
theorem dX1_within_1 : decode cX1_within 1 = .ok (.iload_n 2, 1) := dk_28 (dk_at dksX1_within_0 1 rfl rfl)
theorem dX1_within_2 : decode cX1_within 2 = .ok (.if_icmp .lt 9, 3) := dk_161 0 9 (dk_at dksX1_within_0 2 rfl rfl)
theorem dX1_within_5 : decode cX1_within 5 = .ok (.iload_n 1, 1) := dk_27 (dk_at dksX1_within_0 5 rfl rfl)
theorem dX1_within_6 : decode cX1_within 6 = .ok (.iload_n 3, 1) := dk_29 (dk_at dksX1_within_0 6 rfl rfl)
theorem dX1_within_7 : decode cX1_within 7 = .ok (.if_icmp .gt 4, 3) := dk_163 0 4 (dk_at dksX1_within_0 7 rfl rfl)
theorem dX1_within_10 : decode cX1_within 10 = .ok (.return_, 1) := dk_177 (dk_at dksX1_within_0 10 rfl rfl)
theorem dX1_within_11 : decode cX1_within 11 = .ok (.aload_n 0, 1) := dk_42 (dk_at dksX1_within_0 11 rfl rfl)
theorem dX1_within_12 : decode cX1_within 12 = .ok (.getfield 45, 3) := dk_180 0 45 (dk_at dksX1_within_0 12 rfl rfl)
theorem dX1_within_15 : decode cX1_within 15 = .ok (.iconst 1, 1) := dk_4 (dk_at dksX1_within_0 15 rfl rfl)
theorem dX1_within_16 : decode cX1_within 16 = .ok (.dup2, 1) := dk_92 (dk_at dksX1_within_0 16 rfl rfl)
theorem dX1_within_17 : decode cX1_within 17 = .ok (.iaload, 1) := dk_46 (dk_at dksX1_within_0 17 rfl rfl)
theorem dX1_within_18 : decode cX1_within 18 = .ok (.iconst 1, 1) := dk_4 (dk_at dksX1_within_0 18 rfl rfl)
theorem dX1_within_19 : decode cX1_within 19 = .ok (.iadd, 1) := dk_96 (dk_at dksX1_within_0 19 rfl rfl)
theorem dX1_within_20 : decode cX1_within 20 = .ok (.iastore, 1) := dk_79 (dk_at dksX1_within_0 20 rfl rfl)
theorem dX1_within_21 : decode cX1_within 21 = .ok (.new 77, 3) := dk_187 0 77 (dk_at dksX1_within_0 21 rfl rfl)
theorem dX1_within_24 : decode cX1_within 24 = .ok (.dup, 1) := dk_89 (dk_at dksX1_within_1 0 rfl rfl)
theorem dX1_within_25 : decode cX1_within 25 = .ok (.invokespecial 79, 3) := dk_183 0 79 (dk_at dksX1_within_1 1 rfl rfl)
theorem dX1_within_28 : decode cX1_within 28 = .ok (.athrow, 1) := dk_191 (dk_at dksX1_within_1 4 rfl rfl)
abbrev cX1_lambda_place_0 : ByteArray := prog_1_method_90_code
def yX1_lambda_place_0 : MethodName := ⟨RX1, "lambda$place$0", "(IIIIILTallTowers$World;)Z"⟩
def dkwX1_lambda_place_0_0 : List UInt8 := [25, 5, 26, 27, 28, 29, 21, 4, 182, 1, 222, 172]
abbrev dktX1_lambda_place_0_0 : List UInt8 := dkwX1_lambda_place_0_0 ++ []
theorem dksX1_lambda_place_0_0 : cX1_lambda_place_0.data.toList.drop 0 = dktX1_lambda_place_0_0 := by decide +kernel
theorem dX1_lambda_place_0_0 : decode cX1_lambda_place_0 0 = .ok (.aload 5, 2) := dk_25 5 (dk_at dksX1_lambda_place_0_0 0 rfl rfl)
theorem dX1_lambda_place_0_2 : decode cX1_lambda_place_0 2 = .ok (.iload_n 0, 1) := dk_26 (dk_at dksX1_lambda_place_0_0 2 rfl rfl)
theorem dX1_lambda_place_0_3 : decode cX1_lambda_place_0 3 = .ok (.iload_n 1, 1) := dk_27 (dk_at dksX1_lambda_place_0_0 3 rfl rfl)
theorem dX1_lambda_place_0_4 : decode cX1_lambda_place_0 4 = .ok (.iload_n 2, 1) := dk_28 (dk_at dksX1_lambda_place_0_0 4 rfl rfl)
theorem dX1_lambda_place_0_5 : decode cX1_lambda_place_0 5 = .ok (.iload_n 3, 1) := dk_29 (dk_at dksX1_lambda_place_0_0 5 rfl rfl)
theorem dX1_lambda_place_0_6 : decode cX1_lambda_place_0 6 = .ok (.iload 4, 2) := dk_21 4 (dk_at dksX1_lambda_place_0_0 6 rfl rfl)
theorem dX1_lambda_place_0_8 : decode cX1_lambda_place_0 8 = .ok (.invokevirtual 478, 3) := dk_182 1 222 (dk_at dksX1_lambda_place_0_0 8 rfl rfl)
theorem dX1_lambda_place_0_11 : decode cX1_lambda_place_0 11 = .ok (.ireturn, 1) := dk_172 (dk_at dksX1_lambda_place_0_0 11 rfl rfl)
abbrev cX1_done : ByteArray := prog_1_method_13_code
def yX1_done : MethodName := ⟨RX1, "done", "(IILTallTowers$Deed;)V"⟩
def dkwX1_done_2 : List UInt8 := [187, 0, 26, 89, 27, 28, 45, 183, 0, 106, 83, 177]
abbrev dktX1_done_2 : List UInt8 := dkwX1_done_2 ++ []
def dkwX1_done_1 : List UInt8 := [4, 167, 0, 4, 3, 182, 0, 102, 42, 180, 0, 28, 42, 89, 180, 0, 93, 90, 4, 96, 181, 0, 93]
abbrev dktX1_done_1 : List UInt8 := dkwX1_done_1 ++ dktX1_done_2
def dkwX1_done_0 : List UInt8 := [42, 42, 180, 0, 93, 17, 0, 160, 162, 0, 20, 45, 42, 180, 0, 10, 185, 0, 96, 2, 0, 153, 0, 7]
abbrev dktX1_done_0 : List UInt8 := dkwX1_done_0 ++ dktX1_done_1
theorem dksX1_done_0 : cX1_done.data.toList.drop 0 = dktX1_done_0 := by decide +kernel
theorem dksX1_done_1 : cX1_done.data.toList.drop 24 = dktX1_done_1 := dk_seg dksX1_done_0 24 rfl rfl
theorem dksX1_done_2 : cX1_done.data.toList.drop 47 = dktX1_done_2 := dk_seg dksX1_done_1 23 rfl rfl
theorem dX1_done_0 : decode cX1_done 0 = .ok (.aload_n 0, 1) := dk_42 (dk_at dksX1_done_0 0 rfl rfl)
theorem dX1_done_1 : decode cX1_done 1 = .ok (.aload_n 0, 1) := dk_42 (dk_at dksX1_done_0 1 rfl rfl)
theorem dX1_done_2 : decode cX1_done 2 = .ok (.getfield 93, 3) := dk_180 0 93 (dk_at dksX1_done_0 2 rfl rfl)
theorem dX1_done_5 : decode cX1_done 5 = .ok (.sipush 160, 3) := dk_17 0 160 (dk_at dksX1_done_0 5 rfl rfl)
theorem dX1_done_8 : decode cX1_done 8 = .ok (.if_icmp .ge 20, 3) := dk_162 0 20 (dk_at dksX1_done_0 8 rfl rfl)
theorem dX1_done_11 : decode cX1_done 11 = .ok (.aload_n 3, 1) := dk_45 (dk_at dksX1_done_0 11 rfl rfl)
theorem dX1_done_12 : decode cX1_done 12 = .ok (.aload_n 0, 1) := dk_42 (dk_at dksX1_done_0 12 rfl rfl)
theorem dX1_done_13 : decode cX1_done 13 = .ok (.getfield 10, 3) := dk_180 0 10 (dk_at dksX1_done_0 13 rfl rfl)
theorem dX1_done_16 : decode cX1_done 16 = .ok (.invokeinterface 96 2, 5) := by decide +kernel
theorem dX1_done_21 : decode cX1_done 21 = .ok (.ifCond .eq 7, 3) := dk_153 0 7 (dk_at dksX1_done_0 21 rfl rfl)
theorem dX1_done_24 : decode cX1_done 24 = .ok (.iconst 1, 1) := dk_4 (dk_at dksX1_done_1 0 rfl rfl)
theorem dX1_done_25 : decode cX1_done 25 = .ok (.goto 4, 3) := dk_167 0 4 (dk_at dksX1_done_1 1 rfl rfl)
theorem dX1_done_28 : decode cX1_done 28 = .ok (.iconst 0, 1) := dk_3 (dk_at dksX1_done_1 4 rfl rfl)
theorem dX1_done_29 : decode cX1_done 29 = .ok (.invokevirtual 102, 3) := dk_182 0 102 (dk_at dksX1_done_1 5 rfl rfl)
theorem dX1_done_32 : decode cX1_done 32 = .ok (.aload_n 0, 1) := dk_42 (dk_at dksX1_done_1 8 rfl rfl)
theorem dX1_done_33 : decode cX1_done 33 = .ok (.getfield 28, 3) := dk_180 0 28 (dk_at dksX1_done_1 9 rfl rfl)
theorem dX1_done_36 : decode cX1_done 36 = .ok (.aload_n 0, 1) := dk_42 (dk_at dksX1_done_1 12 rfl rfl)
theorem dX1_done_37 : decode cX1_done 37 = .ok (.dup, 1) := dk_89 (dk_at dksX1_done_1 13 rfl rfl)
theorem dX1_done_38 : decode cX1_done 38 = .ok (.getfield 93, 3) := dk_180 0 93 (dk_at dksX1_done_1 14 rfl rfl)
theorem dX1_done_41 : decode cX1_done 41 = .ok (.dup_x1, 1) := dk_90 (dk_at dksX1_done_1 17 rfl rfl)
theorem dX1_done_42 : decode cX1_done 42 = .ok (.iconst 1, 1) := dk_4 (dk_at dksX1_done_1 18 rfl rfl)
theorem dX1_done_43 : decode cX1_done 43 = .ok (.iadd, 1) := dk_96 (dk_at dksX1_done_1 19 rfl rfl)
theorem dX1_done_44 : decode cX1_done 44 = .ok (.putfield 93, 3) := dk_181 0 93 (dk_at dksX1_done_1 20 rfl rfl)
theorem dX1_done_47 : decode cX1_done 47 = .ok (.new 26, 3) := dk_187 0 26 (dk_at dksX1_done_2 0 rfl rfl)
theorem dX1_done_50 : decode cX1_done 50 = .ok (.dup, 1) := dk_89 (dk_at dksX1_done_2 3 rfl rfl)
theorem dX1_done_51 : decode cX1_done 51 = .ok (.iload_n 1, 1) := dk_27 (dk_at dksX1_done_2 4 rfl rfl)
theorem dX1_done_52 : decode cX1_done 52 = .ok (.iload_n 2, 1) := dk_28 (dk_at dksX1_done_2 5 rfl rfl)
theorem dX1_done_53 : decode cX1_done 53 = .ok (.aload_n 3, 1) := dk_45 (dk_at dksX1_done_2 6 rfl rfl)
theorem dX1_done_54 : decode cX1_done 54 = .ok (.invokespecial 106, 3) := dk_183 0 106 (dk_at dksX1_done_2 7 rfl rfl)
theorem dX1_done_57 : decode cX1_done 57 = .ok (.aastore, 1) := dk_83 (dk_at dksX1_done_2 10 rfl rfl)
theorem dX1_done_58 : decode cX1_done 58 = .ok (.return_, 1) := dk_177 (dk_at dksX1_done_2 11 rfl rfl)
abbrev cX1_has : ByteArray := prog_1_method_12_code
def yX1_has : MethodName := ⟨RX1, "has", "(Z)V"⟩
def dkwX1_has_0 : List UInt8 := [27, 153, 0, 4, 177, 42, 180, 0, 45, 5, 92, 46, 4, 96, 79, 187, 0, 90, 89, 183, 0, 92, 191]
abbrev dktX1_has_0 : List UInt8 := dkwX1_has_0 ++ []
theorem dksX1_has_0 : cX1_has.data.toList.drop 0 = dktX1_has_0 := by decide +kernel
theorem dX1_has_0 : decode cX1_has 0 = .ok (.iload_n 1, 1) := dk_27 (dk_at dksX1_has_0 0 rfl rfl)
theorem dX1_has_1 : decode cX1_has 1 = .ok (.ifCond .eq 4, 3) := dk_153 0 4 (dk_at dksX1_has_0 1 rfl rfl)
theorem dX1_has_4 : decode cX1_has 4 = .ok (.return_, 1) := dk_177 (dk_at dksX1_has_0 4 rfl rfl)
theorem dX1_has_5 : decode cX1_has 5 = .ok (.aload_n 0, 1) := dk_42 (dk_at dksX1_has_0 5 rfl rfl)
theorem dX1_has_6 : decode cX1_has 6 = .ok (.getfield 45, 3) := dk_180 0 45 (dk_at dksX1_has_0 6 rfl rfl)
theorem dX1_has_9 : decode cX1_has 9 = .ok (.iconst 2, 1) := dk_5 (dk_at dksX1_has_0 9 rfl rfl)
theorem dX1_has_10 : decode cX1_has 10 = .ok (.dup2, 1) := dk_92 (dk_at dksX1_has_0 10 rfl rfl)
theorem dX1_has_11 : decode cX1_has 11 = .ok (.iaload, 1) := dk_46 (dk_at dksX1_has_0 11 rfl rfl)
theorem dX1_has_12 : decode cX1_has 12 = .ok (.iconst 1, 1) := dk_4 (dk_at dksX1_has_0 12 rfl rfl)
theorem dX1_has_13 : decode cX1_has 13 = .ok (.iadd, 1) := dk_96 (dk_at dksX1_has_0 13 rfl rfl)
theorem dX1_has_14 : decode cX1_has 14 = .ok (.iastore, 1) := dk_79 (dk_at dksX1_has_0 14 rfl rfl)
theorem dX1_has_15 : decode cX1_has 15 = .ok (.new 90, 3) := dk_187 0 90 (dk_at dksX1_has_0 15 rfl rfl)
theorem dX1_has_18 : decode cX1_has 18 = .ok (.dup, 1) := dk_89 (dk_at dksX1_has_0 18 rfl rfl)
theorem dX1_has_19 : decode cX1_has 19 = .ok (.invokespecial 92, 3) := dk_183 0 92 (dk_at dksX1_has_0 19 rfl rfl)
theorem dX1_has_22 : decode cX1_has 22 = .ok (.athrow, 1) := dk_191 (dk_at dksX1_has_0 22 rfl rfl)
abbrev cX1_sign : ByteArray := prog_1_method_15_code
def yX1_sign : MethodName := ⟨RX1, "sign", "(III)I"⟩
def dkwX1_sign_1 : List UInt8 := [28, 29, 186, 0, 124, 0, 0, 182, 0, 114, 16, 10, 25, 4, 182, 0, 127, 100, 172]
abbrev dktX1_sign_1 : List UInt8 := dkwX1_sign_1 ++ []
def dkwX1_sign_0 : List UInt8 := [42, 27, 182, 0, 117, 58, 4, 42, 28, 182, 0, 121, 42, 29, 4, 16, 10, 182, 0, 80, 42, 4, 27, 27]
abbrev dktX1_sign_0 : List UInt8 := dkwX1_sign_0 ++ dktX1_sign_1
theorem dksX1_sign_0 : cX1_sign.data.toList.drop 0 = dktX1_sign_0 := by decide +kernel
theorem dksX1_sign_1 : cX1_sign.data.toList.drop 24 = dktX1_sign_1 := dk_seg dksX1_sign_0 24 rfl rfl
theorem dX1_sign_0 : decode cX1_sign 0 = .ok (.aload_n 0, 1) := dk_42 (dk_at dksX1_sign_0 0 rfl rfl)
theorem dX1_sign_1 : decode cX1_sign 1 = .ok (.iload_n 1, 1) := dk_27 (dk_at dksX1_sign_0 1 rfl rfl)
theorem dX1_sign_2 : decode cX1_sign 2 = .ok (.invokevirtual 117, 3) := dk_182 0 117 (dk_at dksX1_sign_0 2 rfl rfl)
theorem dX1_sign_5 : decode cX1_sign 5 = .ok (.astore 4, 2) := dk_58 4 (dk_at dksX1_sign_0 5 rfl rfl)
theorem dX1_sign_7 : decode cX1_sign 7 = .ok (.aload_n 0, 1) := dk_42 (dk_at dksX1_sign_0 7 rfl rfl)
theorem dX1_sign_8 : decode cX1_sign 8 = .ok (.iload_n 2, 1) := dk_28 (dk_at dksX1_sign_0 8 rfl rfl)
theorem dX1_sign_9 : decode cX1_sign 9 = .ok (.invokevirtual 121, 3) := dk_182 0 121 (dk_at dksX1_sign_0 9 rfl rfl)
theorem dX1_sign_12 : decode cX1_sign 12 = .ok (.aload_n 0, 1) := dk_42 (dk_at dksX1_sign_0 12 rfl rfl)
theorem dX1_sign_13 : decode cX1_sign 13 = .ok (.iload_n 3, 1) := dk_29 (dk_at dksX1_sign_0 13 rfl rfl)
theorem dX1_sign_14 : decode cX1_sign 14 = .ok (.iconst 1, 1) := dk_4 (dk_at dksX1_sign_0 14 rfl rfl)
theorem dX1_sign_15 : decode cX1_sign 15 = .ok (.bipush 10, 2) := dk_16 10 (dk_at dksX1_sign_0 15 rfl rfl)
theorem dX1_sign_17 : decode cX1_sign 17 = .ok (.invokevirtual 80, 3) := dk_182 0 80 (dk_at dksX1_sign_0 17 rfl rfl)
theorem dX1_sign_20 : decode cX1_sign 20 = .ok (.aload_n 0, 1) := dk_42 (dk_at dksX1_sign_0 20 rfl rfl)
theorem dX1_sign_21 : decode cX1_sign 21 = .ok (.iconst 1, 1) := dk_4 (dk_at dksX1_sign_0 21 rfl rfl)
theorem dX1_sign_22 : decode cX1_sign 22 = .ok (.iload_n 1, 1) := dk_27 (dk_at dksX1_sign_0 22 rfl rfl)
theorem dX1_sign_23 : decode cX1_sign 23 = .ok (.iload_n 1, 1) := dk_27 (dk_at dksX1_sign_0 23 rfl rfl)
theorem dX1_sign_24 : decode cX1_sign 24 = .ok (.iload_n 2, 1) := dk_28 (dk_at dksX1_sign_1 0 rfl rfl)
theorem dX1_sign_25 : decode cX1_sign 25 = .ok (.iload_n 3, 1) := dk_29 (dk_at dksX1_sign_1 1 rfl rfl)
theorem dX1_sign_26 : decode cX1_sign 26 = .ok (.invokedynamic 124, 5) := by decide +kernel
theorem dX1_sign_31 : decode cX1_sign 31 = .ok (.invokevirtual 114, 3) := dk_182 0 114 (dk_at dksX1_sign_1 7 rfl rfl)
theorem dX1_sign_34 : decode cX1_sign 34 = .ok (.bipush 10, 2) := dk_16 10 (dk_at dksX1_sign_1 10 rfl rfl)
theorem dX1_sign_36 : decode cX1_sign 36 = .ok (.aload 4, 2) := dk_25 4 (dk_at dksX1_sign_1 12 rfl rfl)
theorem dX1_sign_38 : decode cX1_sign 38 = .ok (.invokevirtual 127, 3) := dk_182 0 127 (dk_at dksX1_sign_1 14 rfl rfl)
theorem dX1_sign_41 : decode cX1_sign 41 = .ok (.isub, 1) := dk_100 (dk_at dksX1_sign_1 17 rfl rfl)
theorem dX1_sign_42 : decode cX1_sign 42 = .ok (.ireturn, 1) := dk_172 (dk_at dksX1_sign_1 18 rfl rfl)
abbrev cX1_layerOf : ByteArray := prog_1_method_4_code
def yX1_layerOf : MethodName := ⟨RX1, "layerOf", "(I)LTallTowers$Layer;"⟩
def dkwX1_layerOf_0 : List UInt8 := [42, 27, 42, 180, 0, 10, 180, 0, 58, 182, 0, 62, 42, 180, 0, 10, 180, 0, 66, 27, 50, 176]
abbrev dktX1_layerOf_0 : List UInt8 := dkwX1_layerOf_0 ++ []
theorem dksX1_layerOf_0 : cX1_layerOf.data.toList.drop 0 = dktX1_layerOf_0 := by decide +kernel
theorem dX1_layerOf_0 : decode cX1_layerOf 0 = .ok (.aload_n 0, 1) := dk_42 (dk_at dksX1_layerOf_0 0 rfl rfl)
theorem dX1_layerOf_1 : decode cX1_layerOf 1 = .ok (.iload_n 1, 1) := dk_27 (dk_at dksX1_layerOf_0 1 rfl rfl)
theorem dX1_layerOf_2 : decode cX1_layerOf 2 = .ok (.aload_n 0, 1) := dk_42 (dk_at dksX1_layerOf_0 2 rfl rfl)
theorem dX1_layerOf_3 : decode cX1_layerOf 3 = .ok (.getfield 10, 3) := dk_180 0 10 (dk_at dksX1_layerOf_0 3 rfl rfl)
theorem dX1_layerOf_6 : decode cX1_layerOf 6 = .ok (.getfield 58, 3) := dk_180 0 58 (dk_at dksX1_layerOf_0 6 rfl rfl)
theorem dX1_layerOf_9 : decode cX1_layerOf 9 = .ok (.invokevirtual 62, 3) := dk_182 0 62 (dk_at dksX1_layerOf_0 9 rfl rfl)
theorem dX1_layerOf_12 : decode cX1_layerOf 12 = .ok (.aload_n 0, 1) := dk_42 (dk_at dksX1_layerOf_0 12 rfl rfl)
theorem dX1_layerOf_13 : decode cX1_layerOf 13 = .ok (.getfield 10, 3) := dk_180 0 10 (dk_at dksX1_layerOf_0 13 rfl rfl)
theorem dX1_layerOf_16 : decode cX1_layerOf 16 = .ok (.getfield 66, 3) := dk_180 0 66 (dk_at dksX1_layerOf_0 16 rfl rfl)
theorem dX1_layerOf_19 : decode cX1_layerOf 19 = .ok (.iload_n 1, 1) := dk_27 (dk_at dksX1_layerOf_0 19 rfl rfl)
theorem dX1_layerOf_20 : decode cX1_layerOf 20 = .ok (.aaload, 1) := dk_50 (dk_at dksX1_layerOf_0 20 rfl rfl)
theorem dX1_layerOf_21 : decode cX1_layerOf 21 = .ok (.areturn, 1) := dk_176 (dk_at dksX1_layerOf_0 21 rfl rfl)
abbrev cX1_oneOf : ByteArray := prog_1_method_3_code
def yX1_oneOf : MethodName := ⟨RX1, "oneOf", "(II)V"⟩
def dkwX1_oneOf_1 : List UInt8 := [183, 0, 57, 191]
abbrev dktX1_oneOf_1 : List UInt8 := dkwX1_oneOf_1 ++ []
def dkwX1_oneOf_0 : List UInt8 := [27, 155, 0, 9, 27, 28, 162, 0, 4, 177, 42, 180, 0, 45, 3, 92, 46, 4, 96, 79, 187, 0, 55, 89]
abbrev dktX1_oneOf_0 : List UInt8 := dkwX1_oneOf_0 ++ dktX1_oneOf_1
theorem dksX1_oneOf_0 : cX1_oneOf.data.toList.drop 0 = dktX1_oneOf_0 := by decide +kernel
theorem dksX1_oneOf_1 : cX1_oneOf.data.toList.drop 24 = dktX1_oneOf_1 := dk_seg dksX1_oneOf_0 24 rfl rfl
theorem dX1_oneOf_0 : decode cX1_oneOf 0 = .ok (.iload_n 1, 1) := dk_27 (dk_at dksX1_oneOf_0 0 rfl rfl)
theorem dX1_oneOf_1 : decode cX1_oneOf 1 = .ok (.ifCond .lt 9, 3) := dk_155 0 9 (dk_at dksX1_oneOf_0 1 rfl rfl)
theorem dX1_oneOf_4 : decode cX1_oneOf 4 = .ok (.iload_n 1, 1) := dk_27 (dk_at dksX1_oneOf_0 4 rfl rfl)
theorem dX1_oneOf_5 : decode cX1_oneOf 5 = .ok (.iload_n 2, 1) := dk_28 (dk_at dksX1_oneOf_0 5 rfl rfl)
theorem dX1_oneOf_6 : decode cX1_oneOf 6 = .ok (.if_icmp .ge 4, 3) := dk_162 0 4 (dk_at dksX1_oneOf_0 6 rfl rfl)
theorem dX1_oneOf_9 : decode cX1_oneOf 9 = .ok (.return_, 1) := dk_177 (dk_at dksX1_oneOf_0 9 rfl rfl)
theorem dX1_oneOf_10 : decode cX1_oneOf 10 = .ok (.aload_n 0, 1) := dk_42 (dk_at dksX1_oneOf_0 10 rfl rfl)
theorem dX1_oneOf_11 : decode cX1_oneOf 11 = .ok (.getfield 45, 3) := dk_180 0 45 (dk_at dksX1_oneOf_0 11 rfl rfl)
theorem dX1_oneOf_14 : decode cX1_oneOf 14 = .ok (.iconst 0, 1) := dk_3 (dk_at dksX1_oneOf_0 14 rfl rfl)
theorem dX1_oneOf_15 : decode cX1_oneOf 15 = .ok (.dup2, 1) := dk_92 (dk_at dksX1_oneOf_0 15 rfl rfl)
theorem dX1_oneOf_16 : decode cX1_oneOf 16 = .ok (.iaload, 1) := dk_46 (dk_at dksX1_oneOf_0 16 rfl rfl)
theorem dX1_oneOf_17 : decode cX1_oneOf 17 = .ok (.iconst 1, 1) := dk_4 (dk_at dksX1_oneOf_0 17 rfl rfl)
theorem dX1_oneOf_18 : decode cX1_oneOf 18 = .ok (.iadd, 1) := dk_96 (dk_at dksX1_oneOf_0 18 rfl rfl)
theorem dX1_oneOf_19 : decode cX1_oneOf 19 = .ok (.iastore, 1) := dk_79 (dk_at dksX1_oneOf_0 19 rfl rfl)
theorem dX1_oneOf_20 : decode cX1_oneOf 20 = .ok (.new 55, 3) := dk_187 0 55 (dk_at dksX1_oneOf_0 20 rfl rfl)
theorem dX1_oneOf_23 : decode cX1_oneOf 23 = .ok (.dup, 1) := dk_89 (dk_at dksX1_oneOf_0 23 rfl rfl)
theorem dX1_oneOf_24 : decode cX1_oneOf 24 = .ok (.invokespecial 57, 3) := dk_183 0 57 (dk_at dksX1_oneOf_1 0 rfl rfl)
theorem dX1_oneOf_27 : decode cX1_oneOf 27 = .ok (.athrow, 1) := dk_191 (dk_at dksX1_oneOf_1 3 rfl rfl)
abbrev cX1_insurerOf : ByteArray := prog_1_method_8_code
def yX1_insurerOf : MethodName := ⟨RX1, "insurerOf", "(I)V"⟩
def dkwX1_insurerOf_0 : List UInt8 := [42, 27, 3, 16, 9, 182, 0, 80, 177]
abbrev dktX1_insurerOf_0 : List UInt8 := dkwX1_insurerOf_0 ++ []
theorem dksX1_insurerOf_0 : cX1_insurerOf.data.toList.drop 0 = dktX1_insurerOf_0 := by decide +kernel
theorem dX1_insurerOf_0 : decode cX1_insurerOf 0 = .ok (.aload_n 0, 1) := dk_42 (dk_at dksX1_insurerOf_0 0 rfl rfl)
theorem dX1_insurerOf_1 : decode cX1_insurerOf 1 = .ok (.iload_n 1, 1) := dk_27 (dk_at dksX1_insurerOf_0 1 rfl rfl)
theorem dX1_insurerOf_2 : decode cX1_insurerOf 2 = .ok (.iconst 0, 1) := dk_3 (dk_at dksX1_insurerOf_0 2 rfl rfl)
theorem dX1_insurerOf_3 : decode cX1_insurerOf 3 = .ok (.bipush 9, 2) := dk_16 9 (dk_at dksX1_insurerOf_0 3 rfl rfl)
theorem dX1_insurerOf_5 : decode cX1_insurerOf 5 = .ok (.invokevirtual 80, 3) := dk_182 0 80 (dk_at dksX1_insurerOf_0 5 rfl rfl)
theorem dX1_insurerOf_8 : decode cX1_insurerOf 8 = .ok (.return_, 1) := dk_177 (dk_at dksX1_insurerOf_0 8 rfl rfl)
abbrev cX1_lambda_sign_1 : ByteArray := prog_1_method_89_code
def yX1_lambda_sign_1 : MethodName := ⟨RX1, "lambda$sign$1", "(IIILTallTowers$World;)Z"⟩
def dkwX1_lambda_sign_1_0 : List UInt8 := [45, 26, 27, 28, 182, 1, 219, 172]
abbrev dktX1_lambda_sign_1_0 : List UInt8 := dkwX1_lambda_sign_1_0 ++ []
theorem dksX1_lambda_sign_1_0 : cX1_lambda_sign_1.data.toList.drop 0 = dktX1_lambda_sign_1_0 := by decide +kernel
theorem dX1_lambda_sign_1_0 : decode cX1_lambda_sign_1 0 = .ok (.aload_n 3, 1) := dk_45 (dk_at dksX1_lambda_sign_1_0 0 rfl rfl)
theorem dX1_lambda_sign_1_1 : decode cX1_lambda_sign_1 1 = .ok (.iload_n 0, 1) := dk_26 (dk_at dksX1_lambda_sign_1_0 1 rfl rfl)
theorem dX1_lambda_sign_1_2 : decode cX1_lambda_sign_1 2 = .ok (.iload_n 1, 1) := dk_27 (dk_at dksX1_lambda_sign_1_0 2 rfl rfl)
theorem dX1_lambda_sign_1_3 : decode cX1_lambda_sign_1 3 = .ok (.iload_n 2, 1) := dk_28 (dk_at dksX1_lambda_sign_1_0 3 rfl rfl)
theorem dX1_lambda_sign_1_4 : decode cX1_lambda_sign_1 4 = .ok (.invokevirtual 475, 3) := dk_182 1 219 (dk_at dksX1_lambda_sign_1_0 4 rfl rfl)
theorem dX1_lambda_sign_1_7 : decode cX1_lambda_sign_1 7 = .ok (.ireturn, 1) := dk_172 (dk_at dksX1_lambda_sign_1_0 7 rfl rfl)
abbrev cX1_lack : ByteArray := prog_1_method_16_code
def yX1_lack : MethodName := ⟨RX1, "lack", "(I)I"⟩
def dkwX1_lack_1 : List UInt8 := [184, 0, 139, 172]
abbrev dktX1_lack_1 : List UInt8 := dkwX1_lack_1 ++ []
def dkwX1_lack_0 : List UInt8 := [42, 27, 182, 0, 84, 42, 5, 27, 27, 186, 0, 133, 0, 0, 182, 0, 114, 42, 180, 0, 10, 180, 0, 136]
abbrev dktX1_lack_0 : List UInt8 := dkwX1_lack_0 ++ dktX1_lack_1
theorem dksX1_lack_0 : cX1_lack.data.toList.drop 0 = dktX1_lack_0 := by decide +kernel
theorem dksX1_lack_1 : cX1_lack.data.toList.drop 24 = dktX1_lack_1 := dk_seg dksX1_lack_0 24 rfl rfl
theorem dX1_lack_0 : decode cX1_lack 0 = .ok (.aload_n 0, 1) := dk_42 (dk_at dksX1_lack_0 0 rfl rfl)
theorem dX1_lack_1 : decode cX1_lack 1 = .ok (.iload_n 1, 1) := dk_27 (dk_at dksX1_lack_0 1 rfl rfl)
theorem dX1_lack_2 : decode cX1_lack 2 = .ok (.invokevirtual 84, 3) := dk_182 0 84 (dk_at dksX1_lack_0 2 rfl rfl)
theorem dX1_lack_5 : decode cX1_lack 5 = .ok (.aload_n 0, 1) := dk_42 (dk_at dksX1_lack_0 5 rfl rfl)
theorem dX1_lack_6 : decode cX1_lack 6 = .ok (.iconst 2, 1) := dk_5 (dk_at dksX1_lack_0 6 rfl rfl)
theorem dX1_lack_7 : decode cX1_lack 7 = .ok (.iload_n 1, 1) := dk_27 (dk_at dksX1_lack_0 7 rfl rfl)
theorem dX1_lack_8 : decode cX1_lack 8 = .ok (.iload_n 1, 1) := dk_27 (dk_at dksX1_lack_0 8 rfl rfl)
theorem dX1_lack_9 : decode cX1_lack 9 = .ok (.invokedynamic 133, 5) := by decide +kernel
theorem dX1_lack_14 : decode cX1_lack 14 = .ok (.invokevirtual 114, 3) := dk_182 0 114 (dk_at dksX1_lack_0 14 rfl rfl)
theorem dX1_lack_17 : decode cX1_lack 17 = .ok (.aload_n 0, 1) := dk_42 (dk_at dksX1_lack_0 17 rfl rfl)
theorem dX1_lack_18 : decode cX1_lack 18 = .ok (.getfield 10, 3) := dk_180 0 10 (dk_at dksX1_lack_0 18 rfl rfl)
theorem dX1_lack_21 : decode cX1_lack 21 = .ok (.getfield 136, 3) := dk_180 0 136 (dk_at dksX1_lack_0 21 rfl rfl)
theorem dX1_lack_24 : decode cX1_lack 24 = .ok (.invokestatic 139, 3) := dk_184 0 139 (dk_at dksX1_lack_1 0 rfl rfl)
theorem dX1_lack_27 : decode cX1_lack 27 = .ok (.ireturn, 1) := dk_172 (dk_at dksX1_lack_1 3 rfl rfl)
abbrev cX1_lambda_lack_2 : ByteArray := prog_1_method_88_code
def yX1_lambda_lack_2 : MethodName := ⟨RX1, "lambda$lack$2", "(ILTallTowers$World;)Z"⟩
def dkwX1_lambda_lack_2_0 : List UInt8 := [43, 26, 182, 1, 216, 172]
abbrev dktX1_lambda_lack_2_0 : List UInt8 := dkwX1_lambda_lack_2_0 ++ []
theorem dksX1_lambda_lack_2_0 : cX1_lambda_lack_2.data.toList.drop 0 = dktX1_lambda_lack_2_0 := by decide +kernel
theorem dX1_lambda_lack_2_0 : decode cX1_lambda_lack_2 0 = .ok (.aload_n 1, 1) := dk_43 (dk_at dksX1_lambda_lack_2_0 0 rfl rfl)
theorem dX1_lambda_lack_2_1 : decode cX1_lambda_lack_2 1 = .ok (.iload_n 0, 1) := dk_26 (dk_at dksX1_lambda_lack_2_0 1 rfl rfl)
theorem dX1_lambda_lack_2_2 : decode cX1_lambda_lack_2 2 = .ok (.invokevirtual 472, 3) := dk_182 1 216 (dk_at dksX1_lambda_lack_2_0 2 rfl rfl)
theorem dX1_lambda_lack_2_5 : decode cX1_lambda_lack_2 5 = .ok (.ireturn, 1) := dk_172 (dk_at dksX1_lambda_lack_2_0 5 rfl rfl)
abbrev cX1_rules : ByteArray := prog_1_method_17_code
def yX1_rules : MethodName := ⟨RX1, "rules", "(III)I"⟩
def dkwX1_rules_2 : List UInt8 := [28, 29, 186, 0, 155, 0, 0, 182, 0, 114, 4, 172]
abbrev dktX1_rules_2 : List UInt8 := dkwX1_rules_2 ++ []
def dkwX1_rules_1 : List UInt8 := [180, 0, 149, 28, 160, 0, 16, 42, 180, 0, 10, 180, 0, 152, 29, 160, 0, 5, 3, 172, 42, 6, 27, 27]
abbrev dktX1_rules_1 : List UInt8 := dkwX1_rules_1 ++ dktX1_rules_2
def dkwX1_rules_0 : List UInt8 := [42, 27, 28, 29, 182, 0, 143, 42, 180, 0, 10, 180, 0, 146, 27, 160, 0, 27, 42, 180, 0, 10]
abbrev dktX1_rules_0 : List UInt8 := dkwX1_rules_0 ++ dktX1_rules_1
theorem dksX1_rules_0 : cX1_rules.data.toList.drop 0 = dktX1_rules_0 := by decide +kernel
theorem dksX1_rules_1 : cX1_rules.data.toList.drop 22 = dktX1_rules_1 := dk_seg dksX1_rules_0 22 rfl rfl
theorem dksX1_rules_2 : cX1_rules.data.toList.drop 46 = dktX1_rules_2 := dk_seg dksX1_rules_1 24 rfl rfl
theorem dX1_rules_0 : decode cX1_rules 0 = .ok (.aload_n 0, 1) := dk_42 (dk_at dksX1_rules_0 0 rfl rfl)
theorem dX1_rules_1 : decode cX1_rules 1 = .ok (.iload_n 1, 1) := dk_27 (dk_at dksX1_rules_0 1 rfl rfl)
theorem dX1_rules_2 : decode cX1_rules 2 = .ok (.iload_n 2, 1) := dk_28 (dk_at dksX1_rules_0 2 rfl rfl)
theorem dX1_rules_3 : decode cX1_rules 3 = .ok (.iload_n 3, 1) := dk_29 (dk_at dksX1_rules_0 3 rfl rfl)
theorem dX1_rules_4 : decode cX1_rules 4 = .ok (.invokevirtual 143, 3) := dk_182 0 143 (dk_at dksX1_rules_0 4 rfl rfl)
theorem dX1_rules_7 : decode cX1_rules 7 = .ok (.aload_n 0, 1) := dk_42 (dk_at dksX1_rules_0 7 rfl rfl)
theorem dX1_rules_8 : decode cX1_rules 8 = .ok (.getfield 10, 3) := dk_180 0 10 (dk_at dksX1_rules_0 8 rfl rfl)
theorem dX1_rules_11 : decode cX1_rules 11 = .ok (.getfield 146, 3) := dk_180 0 146 (dk_at dksX1_rules_0 11 rfl rfl)
theorem dX1_rules_14 : decode cX1_rules 14 = .ok (.iload_n 1, 1) := dk_27 (dk_at dksX1_rules_0 14 rfl rfl)
theorem dX1_rules_15 : decode cX1_rules 15 = .ok (.if_icmp .ne 27, 3) := dk_160 0 27 (dk_at dksX1_rules_0 15 rfl rfl)
theorem dX1_rules_18 : decode cX1_rules 18 = .ok (.aload_n 0, 1) := dk_42 (dk_at dksX1_rules_0 18 rfl rfl)
theorem dX1_rules_19 : decode cX1_rules 19 = .ok (.getfield 10, 3) := dk_180 0 10 (dk_at dksX1_rules_0 19 rfl rfl)
theorem dX1_rules_22 : decode cX1_rules 22 = .ok (.getfield 149, 3) := dk_180 0 149 (dk_at dksX1_rules_1 0 rfl rfl)
theorem dX1_rules_25 : decode cX1_rules 25 = .ok (.iload_n 2, 1) := dk_28 (dk_at dksX1_rules_1 3 rfl rfl)
theorem dX1_rules_26 : decode cX1_rules 26 = .ok (.if_icmp .ne 16, 3) := dk_160 0 16 (dk_at dksX1_rules_1 4 rfl rfl)
theorem dX1_rules_29 : decode cX1_rules 29 = .ok (.aload_n 0, 1) := dk_42 (dk_at dksX1_rules_1 7 rfl rfl)
theorem dX1_rules_30 : decode cX1_rules 30 = .ok (.getfield 10, 3) := dk_180 0 10 (dk_at dksX1_rules_1 8 rfl rfl)
theorem dX1_rules_33 : decode cX1_rules 33 = .ok (.getfield 152, 3) := dk_180 0 152 (dk_at dksX1_rules_1 11 rfl rfl)
theorem dX1_rules_36 : decode cX1_rules 36 = .ok (.iload_n 3, 1) := dk_29 (dk_at dksX1_rules_1 14 rfl rfl)
theorem dX1_rules_37 : decode cX1_rules 37 = .ok (.if_icmp .ne 5, 3) := dk_160 0 5 (dk_at dksX1_rules_1 15 rfl rfl)
theorem dX1_rules_40 : decode cX1_rules 40 = .ok (.iconst 0, 1) := dk_3 (dk_at dksX1_rules_1 18 rfl rfl)
theorem dX1_rules_41 : decode cX1_rules 41 = .ok (.ireturn, 1) := dk_172 (dk_at dksX1_rules_1 19 rfl rfl)
theorem dX1_rules_42 : decode cX1_rules 42 = .ok (.aload_n 0, 1) := dk_42 (dk_at dksX1_rules_1 20 rfl rfl)
theorem dX1_rules_43 : decode cX1_rules 43 = .ok (.iconst 3, 1) := dk_6 (dk_at dksX1_rules_1 21 rfl rfl)
theorem dX1_rules_44 : decode cX1_rules 44 = .ok (.iload_n 1, 1) := dk_27 (dk_at dksX1_rules_1 22 rfl rfl)
theorem dX1_rules_45 : decode cX1_rules 45 = .ok (.iload_n 1, 1) := dk_27 (dk_at dksX1_rules_1 23 rfl rfl)
theorem dX1_rules_46 : decode cX1_rules 46 = .ok (.iload_n 2, 1) := dk_28 (dk_at dksX1_rules_2 0 rfl rfl)
theorem dX1_rules_47 : decode cX1_rules 47 = .ok (.iload_n 3, 1) := dk_29 (dk_at dksX1_rules_2 1 rfl rfl)
theorem dX1_rules_48 : decode cX1_rules 48 = .ok (.invokedynamic 155, 5) := by decide +kernel
theorem dX1_rules_53 : decode cX1_rules 53 = .ok (.invokevirtual 114, 3) := dk_182 0 114 (dk_at dksX1_rules_2 7 rfl rfl)
theorem dX1_rules_56 : decode cX1_rules 56 = .ok (.iconst 1, 1) := dk_4 (dk_at dksX1_rules_2 10 rfl rfl)
theorem dX1_rules_57 : decode cX1_rules 57 = .ok (.ireturn, 1) := dk_172 (dk_at dksX1_rules_2 11 rfl rfl)
abbrev cX1_rulesOf : ByteArray := prog_1_method_9_code
def yX1_rulesOf : MethodName := ⟨RX1, "rulesOf", "(III)V"⟩
def dkwX1_rulesOf_0 : List UInt8 := [42, 27, 3, 6, 182, 0, 80, 42, 28, 3, 6, 182, 0, 80, 42, 29, 3, 6, 182, 0, 80, 177]
abbrev dktX1_rulesOf_0 : List UInt8 := dkwX1_rulesOf_0 ++ []
theorem dksX1_rulesOf_0 : cX1_rulesOf.data.toList.drop 0 = dktX1_rulesOf_0 := by decide +kernel
theorem dX1_rulesOf_0 : decode cX1_rulesOf 0 = .ok (.aload_n 0, 1) := dk_42 (dk_at dksX1_rulesOf_0 0 rfl rfl)
theorem dX1_rulesOf_1 : decode cX1_rulesOf 1 = .ok (.iload_n 1, 1) := dk_27 (dk_at dksX1_rulesOf_0 1 rfl rfl)
theorem dX1_rulesOf_2 : decode cX1_rulesOf 2 = .ok (.iconst 0, 1) := dk_3 (dk_at dksX1_rulesOf_0 2 rfl rfl)
theorem dX1_rulesOf_3 : decode cX1_rulesOf 3 = .ok (.iconst 3, 1) := dk_6 (dk_at dksX1_rulesOf_0 3 rfl rfl)
theorem dX1_rulesOf_4 : decode cX1_rulesOf 4 = .ok (.invokevirtual 80, 3) := dk_182 0 80 (dk_at dksX1_rulesOf_0 4 rfl rfl)
theorem dX1_rulesOf_7 : decode cX1_rulesOf 7 = .ok (.aload_n 0, 1) := dk_42 (dk_at dksX1_rulesOf_0 7 rfl rfl)
theorem dX1_rulesOf_8 : decode cX1_rulesOf 8 = .ok (.iload_n 2, 1) := dk_28 (dk_at dksX1_rulesOf_0 8 rfl rfl)
theorem dX1_rulesOf_9 : decode cX1_rulesOf 9 = .ok (.iconst 0, 1) := dk_3 (dk_at dksX1_rulesOf_0 9 rfl rfl)
theorem dX1_rulesOf_10 : decode cX1_rulesOf 10 = .ok (.iconst 3, 1) := dk_6 (dk_at dksX1_rulesOf_0 10 rfl rfl)
theorem dX1_rulesOf_11 : decode cX1_rulesOf 11 = .ok (.invokevirtual 80, 3) := dk_182 0 80 (dk_at dksX1_rulesOf_0 11 rfl rfl)
theorem dX1_rulesOf_14 : decode cX1_rulesOf 14 = .ok (.aload_n 0, 1) := dk_42 (dk_at dksX1_rulesOf_0 14 rfl rfl)
theorem dX1_rulesOf_15 : decode cX1_rulesOf 15 = .ok (.iload_n 3, 1) := dk_29 (dk_at dksX1_rulesOf_0 15 rfl rfl)
theorem dX1_rulesOf_16 : decode cX1_rulesOf 16 = .ok (.iconst 0, 1) := dk_3 (dk_at dksX1_rulesOf_0 16 rfl rfl)
theorem dX1_rulesOf_17 : decode cX1_rulesOf 17 = .ok (.iconst 3, 1) := dk_6 (dk_at dksX1_rulesOf_0 17 rfl rfl)
theorem dX1_rulesOf_18 : decode cX1_rulesOf 18 = .ok (.invokevirtual 80, 3) := dk_182 0 80 (dk_at dksX1_rulesOf_0 18 rfl rfl)
theorem dX1_rulesOf_21 : decode cX1_rulesOf 21 = .ok (.return_, 1) := dk_177 (dk_at dksX1_rulesOf_0 21 rfl rfl)
abbrev cX1_lambda_rules_3 : ByteArray := prog_1_method_87_code
def yX1_lambda_rules_3 : MethodName := ⟨RX1, "lambda$rules$3", "(IIILTallTowers$World;)Z"⟩
def dkwX1_lambda_rules_3_0 : List UInt8 := [45, 26, 27, 28, 182, 1, 213, 172]
abbrev dktX1_lambda_rules_3_0 : List UInt8 := dkwX1_lambda_rules_3_0 ++ []
theorem dksX1_lambda_rules_3_0 : cX1_lambda_rules_3.data.toList.drop 0 = dktX1_lambda_rules_3_0 := by decide +kernel
theorem dX1_lambda_rules_3_0 : decode cX1_lambda_rules_3 0 = .ok (.aload_n 3, 1) := dk_45 (dk_at dksX1_lambda_rules_3_0 0 rfl rfl)
theorem dX1_lambda_rules_3_1 : decode cX1_lambda_rules_3 1 = .ok (.iload_n 0, 1) := dk_26 (dk_at dksX1_lambda_rules_3_0 1 rfl rfl)
theorem dX1_lambda_rules_3_2 : decode cX1_lambda_rules_3 2 = .ok (.iload_n 1, 1) := dk_27 (dk_at dksX1_lambda_rules_3_0 2 rfl rfl)
theorem dX1_lambda_rules_3_3 : decode cX1_lambda_rules_3 3 = .ok (.iload_n 2, 1) := dk_28 (dk_at dksX1_lambda_rules_3_0 3 rfl rfl)
theorem dX1_lambda_rules_3_4 : decode cX1_lambda_rules_3 4 = .ok (.invokevirtual 469, 3) := dk_182 1 213 (dk_at dksX1_lambda_rules_3_0 4 rfl rfl)
theorem dX1_lambda_rules_3_7 : decode cX1_lambda_rules_3 7 = .ok (.ireturn, 1) := dk_172 (dk_at dksX1_lambda_rules_3_0 7 rfl rfl)
abbrev cX1_harm : ByteArray := prog_1_method_18_code
def yX1_harm : MethodName := ⟨RX1, "harm", "(IIII)I"⟩
def dkwX1_harm_1 : List UInt8 := [54, 5, 42, 7, 21, 5, 21, 5, 27, 28, 29, 21, 4, 186, 0, 160, 0, 0, 182, 0, 114, 21, 5, 172]
abbrev dktX1_harm_1 : List UInt8 := dkwX1_harm_1 ++ []
def dkwX1_harm_0 : List UInt8 := [42, 27, 28, 29, 182, 0, 156, 42, 21, 4, 4, 18, 159, 182, 0, 80, 42, 180, 0, 10, 180, 0, 70]
abbrev dktX1_harm_0 : List UInt8 := dkwX1_harm_0 ++ dktX1_harm_1
theorem dksX1_harm_0 : cX1_harm.data.toList.drop 0 = dktX1_harm_0 := by decide +kernel
theorem dksX1_harm_1 : cX1_harm.data.toList.drop 23 = dktX1_harm_1 := dk_seg dksX1_harm_0 23 rfl rfl
theorem dX1_harm_0 : decode cX1_harm 0 = .ok (.aload_n 0, 1) := dk_42 (dk_at dksX1_harm_0 0 rfl rfl)
theorem dX1_harm_1 : decode cX1_harm 1 = .ok (.iload_n 1, 1) := dk_27 (dk_at dksX1_harm_0 1 rfl rfl)
theorem dX1_harm_2 : decode cX1_harm 2 = .ok (.iload_n 2, 1) := dk_28 (dk_at dksX1_harm_0 2 rfl rfl)
theorem dX1_harm_3 : decode cX1_harm 3 = .ok (.iload_n 3, 1) := dk_29 (dk_at dksX1_harm_0 3 rfl rfl)
theorem dX1_harm_4 : decode cX1_harm 4 = .ok (.invokevirtual 156, 3) := dk_182 0 156 (dk_at dksX1_harm_0 4 rfl rfl)
theorem dX1_harm_7 : decode cX1_harm 7 = .ok (.aload_n 0, 1) := dk_42 (dk_at dksX1_harm_0 7 rfl rfl)
theorem dX1_harm_8 : decode cX1_harm 8 = .ok (.iload 4, 2) := dk_21 4 (dk_at dksX1_harm_0 8 rfl rfl)
theorem dX1_harm_10 : decode cX1_harm 10 = .ok (.iconst 1, 1) := dk_4 (dk_at dksX1_harm_0 10 rfl rfl)
theorem dX1_harm_11 : decode cX1_harm 11 = .ok (.ldc 159, 2) := dk_18 159 (dk_at dksX1_harm_0 11 rfl rfl)
theorem dX1_harm_13 : decode cX1_harm 13 = .ok (.invokevirtual 80, 3) := dk_182 0 80 (dk_at dksX1_harm_0 13 rfl rfl)
theorem dX1_harm_16 : decode cX1_harm 16 = .ok (.aload_n 0, 1) := dk_42 (dk_at dksX1_harm_0 16 rfl rfl)
theorem dX1_harm_17 : decode cX1_harm 17 = .ok (.getfield 10, 3) := dk_180 0 10 (dk_at dksX1_harm_0 17 rfl rfl)
theorem dX1_harm_20 : decode cX1_harm 20 = .ok (.getfield 70, 3) := dk_180 0 70 (dk_at dksX1_harm_0 20 rfl rfl)
theorem dX1_harm_23 : decode cX1_harm 23 = .ok (.istore 5, 2) := dk_54 5 (dk_at dksX1_harm_1 0 rfl rfl)
theorem dX1_harm_25 : decode cX1_harm 25 = .ok (.aload_n 0, 1) := dk_42 (dk_at dksX1_harm_1 2 rfl rfl)
theorem dX1_harm_26 : decode cX1_harm 26 = .ok (.iconst 4, 1) := dk_7 (dk_at dksX1_harm_1 3 rfl rfl)
theorem dX1_harm_27 : decode cX1_harm 27 = .ok (.iload 5, 2) := dk_21 5 (dk_at dksX1_harm_1 4 rfl rfl)
theorem dX1_harm_29 : decode cX1_harm 29 = .ok (.iload 5, 2) := dk_21 5 (dk_at dksX1_harm_1 6 rfl rfl)
theorem dX1_harm_31 : decode cX1_harm 31 = .ok (.iload_n 1, 1) := dk_27 (dk_at dksX1_harm_1 8 rfl rfl)
theorem dX1_harm_32 : decode cX1_harm 32 = .ok (.iload_n 2, 1) := dk_28 (dk_at dksX1_harm_1 9 rfl rfl)
theorem dX1_harm_33 : decode cX1_harm 33 = .ok (.iload_n 3, 1) := dk_29 (dk_at dksX1_harm_1 10 rfl rfl)
theorem dX1_harm_34 : decode cX1_harm 34 = .ok (.iload 4, 2) := dk_21 4 (dk_at dksX1_harm_1 11 rfl rfl)
theorem dX1_harm_36 : decode cX1_harm 36 = .ok (.invokedynamic 160, 5) := by decide +kernel
theorem dX1_harm_41 : decode cX1_harm 41 = .ok (.invokevirtual 114, 3) := dk_182 0 114 (dk_at dksX1_harm_1 18 rfl rfl)
theorem dX1_harm_44 : decode cX1_harm 44 = .ok (.iload 5, 2) := dk_21 5 (dk_at dksX1_harm_1 21 rfl rfl)
theorem dX1_harm_46 : decode cX1_harm 46 = .ok (.ireturn, 1) := dk_172 (dk_at dksX1_harm_1 23 rfl rfl)
abbrev cX1_spanOf : ByteArray := prog_1_method_10_code
def yX1_spanOf : MethodName := ⟨RX1, "spanOf", "(III)V"⟩
def dkwX1_spanOf_0 : List UInt8 := [42, 27, 182, 0, 84, 42, 28, 27, 16, 11, 182, 0, 80, 42, 29, 28, 16, 11, 182, 0, 80, 177]
abbrev dktX1_spanOf_0 : List UInt8 := dkwX1_spanOf_0 ++ []
theorem dksX1_spanOf_0 : cX1_spanOf.data.toList.drop 0 = dktX1_spanOf_0 := by decide +kernel
theorem dX1_spanOf_0 : decode cX1_spanOf 0 = .ok (.aload_n 0, 1) := dk_42 (dk_at dksX1_spanOf_0 0 rfl rfl)
theorem dX1_spanOf_1 : decode cX1_spanOf 1 = .ok (.iload_n 1, 1) := dk_27 (dk_at dksX1_spanOf_0 1 rfl rfl)
theorem dX1_spanOf_2 : decode cX1_spanOf 2 = .ok (.invokevirtual 84, 3) := dk_182 0 84 (dk_at dksX1_spanOf_0 2 rfl rfl)
theorem dX1_spanOf_5 : decode cX1_spanOf 5 = .ok (.aload_n 0, 1) := dk_42 (dk_at dksX1_spanOf_0 5 rfl rfl)
theorem dX1_spanOf_6 : decode cX1_spanOf 6 = .ok (.iload_n 2, 1) := dk_28 (dk_at dksX1_spanOf_0 6 rfl rfl)
theorem dX1_spanOf_7 : decode cX1_spanOf 7 = .ok (.iload_n 1, 1) := dk_27 (dk_at dksX1_spanOf_0 7 rfl rfl)
theorem dX1_spanOf_8 : decode cX1_spanOf 8 = .ok (.bipush 11, 2) := dk_16 11 (dk_at dksX1_spanOf_0 8 rfl rfl)
theorem dX1_spanOf_10 : decode cX1_spanOf 10 = .ok (.invokevirtual 80, 3) := dk_182 0 80 (dk_at dksX1_spanOf_0 10 rfl rfl)
theorem dX1_spanOf_13 : decode cX1_spanOf 13 = .ok (.aload_n 0, 1) := dk_42 (dk_at dksX1_spanOf_0 13 rfl rfl)
theorem dX1_spanOf_14 : decode cX1_spanOf 14 = .ok (.iload_n 3, 1) := dk_29 (dk_at dksX1_spanOf_0 14 rfl rfl)
theorem dX1_spanOf_15 : decode cX1_spanOf 15 = .ok (.iload_n 2, 1) := dk_28 (dk_at dksX1_spanOf_0 15 rfl rfl)
theorem dX1_spanOf_16 : decode cX1_spanOf 16 = .ok (.bipush 11, 2) := dk_16 11 (dk_at dksX1_spanOf_0 16 rfl rfl)
theorem dX1_spanOf_18 : decode cX1_spanOf 18 = .ok (.invokevirtual 80, 3) := dk_182 0 80 (dk_at dksX1_spanOf_0 18 rfl rfl)
theorem dX1_spanOf_21 : decode cX1_spanOf 21 = .ok (.return_, 1) := dk_177 (dk_at dksX1_spanOf_0 21 rfl rfl)
abbrev cX1_lambda_harm_4 : ByteArray := prog_1_method_86_code
def yX1_lambda_harm_4 : MethodName := ⟨RX1, "lambda$harm$4", "(IIIIILTallTowers$World;)Z"⟩
def dkwX1_lambda_harm_4_0 : List UInt8 := [25, 5, 26, 27, 28, 29, 21, 4, 182, 1, 209, 172]
abbrev dktX1_lambda_harm_4_0 : List UInt8 := dkwX1_lambda_harm_4_0 ++ []
theorem dksX1_lambda_harm_4_0 : cX1_lambda_harm_4.data.toList.drop 0 = dktX1_lambda_harm_4_0 := by decide +kernel
theorem dX1_lambda_harm_4_0 : decode cX1_lambda_harm_4 0 = .ok (.aload 5, 2) := dk_25 5 (dk_at dksX1_lambda_harm_4_0 0 rfl rfl)
theorem dX1_lambda_harm_4_2 : decode cX1_lambda_harm_4 2 = .ok (.iload_n 0, 1) := dk_26 (dk_at dksX1_lambda_harm_4_0 2 rfl rfl)
theorem dX1_lambda_harm_4_3 : decode cX1_lambda_harm_4 3 = .ok (.iload_n 1, 1) := dk_27 (dk_at dksX1_lambda_harm_4_0 3 rfl rfl)
theorem dX1_lambda_harm_4_4 : decode cX1_lambda_harm_4 4 = .ok (.iload_n 2, 1) := dk_28 (dk_at dksX1_lambda_harm_4_0 4 rfl rfl)
theorem dX1_lambda_harm_4_5 : decode cX1_lambda_harm_4 5 = .ok (.iload_n 3, 1) := dk_29 (dk_at dksX1_lambda_harm_4_0 5 rfl rfl)
theorem dX1_lambda_harm_4_6 : decode cX1_lambda_harm_4 6 = .ok (.iload 4, 2) := dk_21 4 (dk_at dksX1_lambda_harm_4_0 6 rfl rfl)
theorem dX1_lambda_harm_4_8 : decode cX1_lambda_harm_4 8 = .ok (.invokevirtual 465, 3) := dk_182 1 209 (dk_at dksX1_lambda_harm_4_0 8 rfl rfl)
theorem dX1_lambda_harm_4_11 : decode cX1_lambda_harm_4 11 = .ok (.ireturn, 1) := dk_172 (dk_at dksX1_lambda_harm_4_0 11 rfl rfl)
abbrev cX1_grow : ByteArray := prog_1_method_19_code
def yX1_grow : MethodName := ⟨RX1, "grow", "(II)J"⟩
def dkwX1_grow_1 : List UInt8 := [27, 28, 186, 0, 169, 0, 0, 182, 0, 114, 45, 3, 182, 0, 165, 22, 4, 101, 173]
abbrev dktX1_grow_1 : List UInt8 := dkwX1_grow_1 ++ []
def dkwX1_grow_0 : List UInt8 := [42, 27, 182, 0, 161, 78, 42, 28, 4, 18, 159, 182, 0, 80, 45, 3, 182, 0, 165, 55, 4, 42, 8, 27]
abbrev dktX1_grow_0 : List UInt8 := dkwX1_grow_0 ++ dktX1_grow_1
theorem dksX1_grow_0 : cX1_grow.data.toList.drop 0 = dktX1_grow_0 := by decide +kernel
theorem dksX1_grow_1 : cX1_grow.data.toList.drop 24 = dktX1_grow_1 := dk_seg dksX1_grow_0 24 rfl rfl
theorem dX1_grow_0 : decode cX1_grow 0 = .ok (.aload_n 0, 1) := dk_42 (dk_at dksX1_grow_0 0 rfl rfl)
theorem dX1_grow_1 : decode cX1_grow 1 = .ok (.iload_n 1, 1) := dk_27 (dk_at dksX1_grow_0 1 rfl rfl)
theorem dX1_grow_2 : decode cX1_grow 2 = .ok (.invokevirtual 161, 3) := dk_182 0 161 (dk_at dksX1_grow_0 2 rfl rfl)
theorem dX1_grow_5 : decode cX1_grow 5 = .ok (.astore_n 3, 1) := dk_78 (dk_at dksX1_grow_0 5 rfl rfl)
theorem dX1_grow_6 : decode cX1_grow 6 = .ok (.aload_n 0, 1) := dk_42 (dk_at dksX1_grow_0 6 rfl rfl)
theorem dX1_grow_7 : decode cX1_grow 7 = .ok (.iload_n 2, 1) := dk_28 (dk_at dksX1_grow_0 7 rfl rfl)
theorem dX1_grow_8 : decode cX1_grow 8 = .ok (.iconst 1, 1) := dk_4 (dk_at dksX1_grow_0 8 rfl rfl)
theorem dX1_grow_9 : decode cX1_grow 9 = .ok (.ldc 159, 2) := dk_18 159 (dk_at dksX1_grow_0 9 rfl rfl)
theorem dX1_grow_11 : decode cX1_grow 11 = .ok (.invokevirtual 80, 3) := dk_182 0 80 (dk_at dksX1_grow_0 11 rfl rfl)
theorem dX1_grow_14 : decode cX1_grow 14 = .ok (.aload_n 3, 1) := dk_45 (dk_at dksX1_grow_0 14 rfl rfl)
theorem dX1_grow_15 : decode cX1_grow 15 = .ok (.iconst 0, 1) := dk_3 (dk_at dksX1_grow_0 15 rfl rfl)
theorem dX1_grow_16 : decode cX1_grow 16 = .ok (.invokevirtual 165, 3) := dk_182 0 165 (dk_at dksX1_grow_0 16 rfl rfl)
theorem dX1_grow_19 : decode cX1_grow 19 = .ok (.lstore 4, 2) := dk_55 4 (dk_at dksX1_grow_0 19 rfl rfl)
theorem dX1_grow_21 : decode cX1_grow 21 = .ok (.aload_n 0, 1) := dk_42 (dk_at dksX1_grow_0 21 rfl rfl)
theorem dX1_grow_22 : decode cX1_grow 22 = .ok (.iconst 5, 1) := dk_8 (dk_at dksX1_grow_0 22 rfl rfl)
theorem dX1_grow_23 : decode cX1_grow 23 = .ok (.iload_n 1, 1) := dk_27 (dk_at dksX1_grow_0 23 rfl rfl)
theorem dX1_grow_24 : decode cX1_grow 24 = .ok (.iload_n 1, 1) := dk_27 (dk_at dksX1_grow_1 0 rfl rfl)
theorem dX1_grow_25 : decode cX1_grow 25 = .ok (.iload_n 2, 1) := dk_28 (dk_at dksX1_grow_1 1 rfl rfl)
theorem dX1_grow_26 : decode cX1_grow 26 = .ok (.invokedynamic 169, 5) := by decide +kernel
theorem dX1_grow_31 : decode cX1_grow 31 = .ok (.invokevirtual 114, 3) := dk_182 0 114 (dk_at dksX1_grow_1 7 rfl rfl)
theorem dX1_grow_34 : decode cX1_grow 34 = .ok (.aload_n 3, 1) := dk_45 (dk_at dksX1_grow_1 10 rfl rfl)
theorem dX1_grow_35 : decode cX1_grow 35 = .ok (.iconst 0, 1) := dk_3 (dk_at dksX1_grow_1 11 rfl rfl)
theorem dX1_grow_36 : decode cX1_grow 36 = .ok (.invokevirtual 165, 3) := dk_182 0 165 (dk_at dksX1_grow_1 12 rfl rfl)
theorem dX1_grow_39 : decode cX1_grow 39 = .ok (.lload 4, 2) := dk_22 4 (dk_at dksX1_grow_1 15 rfl rfl)
theorem dX1_grow_41 : decode cX1_grow 41 = .ok (.lsub, 1) := dk_101 (dk_at dksX1_grow_1 17 rfl rfl)
theorem dX1_grow_42 : decode cX1_grow 42 = .ok (.lreturn, 1) := dk_173 (dk_at dksX1_grow_1 18 rfl rfl)
abbrev cX1_harmOf : ByteArray := prog_1_method_5_code
def yX1_harmOf : MethodName := ⟨RX1, "harmOf", "(I)LTallTowers$Harm;"⟩
def dkwX1_harmOf_0 : List UInt8 := [42, 27, 42, 180, 0, 10, 180, 0, 70, 182, 0, 62, 42, 180, 0, 10, 180, 0, 73, 27, 50, 176]
abbrev dktX1_harmOf_0 : List UInt8 := dkwX1_harmOf_0 ++ []
theorem dksX1_harmOf_0 : cX1_harmOf.data.toList.drop 0 = dktX1_harmOf_0 := by decide +kernel
theorem dX1_harmOf_0 : decode cX1_harmOf 0 = .ok (.aload_n 0, 1) := dk_42 (dk_at dksX1_harmOf_0 0 rfl rfl)
theorem dX1_harmOf_1 : decode cX1_harmOf 1 = .ok (.iload_n 1, 1) := dk_27 (dk_at dksX1_harmOf_0 1 rfl rfl)
theorem dX1_harmOf_2 : decode cX1_harmOf 2 = .ok (.aload_n 0, 1) := dk_42 (dk_at dksX1_harmOf_0 2 rfl rfl)
theorem dX1_harmOf_3 : decode cX1_harmOf 3 = .ok (.getfield 10, 3) := dk_180 0 10 (dk_at dksX1_harmOf_0 3 rfl rfl)
theorem dX1_harmOf_6 : decode cX1_harmOf 6 = .ok (.getfield 70, 3) := dk_180 0 70 (dk_at dksX1_harmOf_0 6 rfl rfl)
theorem dX1_harmOf_9 : decode cX1_harmOf 9 = .ok (.invokevirtual 62, 3) := dk_182 0 62 (dk_at dksX1_harmOf_0 9 rfl rfl)
theorem dX1_harmOf_12 : decode cX1_harmOf 12 = .ok (.aload_n 0, 1) := dk_42 (dk_at dksX1_harmOf_0 12 rfl rfl)
theorem dX1_harmOf_13 : decode cX1_harmOf 13 = .ok (.getfield 10, 3) := dk_180 0 10 (dk_at dksX1_harmOf_0 13 rfl rfl)
theorem dX1_harmOf_16 : decode cX1_harmOf 16 = .ok (.getfield 73, 3) := dk_180 0 73 (dk_at dksX1_harmOf_0 16 rfl rfl)
theorem dX1_harmOf_19 : decode cX1_harmOf 19 = .ok (.iload_n 1, 1) := dk_27 (dk_at dksX1_harmOf_0 19 rfl rfl)
theorem dX1_harmOf_20 : decode cX1_harmOf 20 = .ok (.aaload, 1) := dk_50 (dk_at dksX1_harmOf_0 20 rfl rfl)
theorem dX1_harmOf_21 : decode cX1_harmOf 21 = .ok (.areturn, 1) := dk_176 (dk_at dksX1_harmOf_0 21 rfl rfl)
abbrev cX1_lambda_grow_5 : ByteArray := prog_1_method_85_code
def yX1_lambda_grow_5 : MethodName := ⟨RX1, "lambda$grow$5", "(IILTallTowers$World;)Z"⟩
def dkwX1_lambda_grow_5_0 : List UInt8 := [44, 26, 27, 182, 1, 205, 172]
abbrev dktX1_lambda_grow_5_0 : List UInt8 := dkwX1_lambda_grow_5_0 ++ []
theorem dksX1_lambda_grow_5_0 : cX1_lambda_grow_5.data.toList.drop 0 = dktX1_lambda_grow_5_0 := by decide +kernel
theorem dX1_lambda_grow_5_0 : decode cX1_lambda_grow_5 0 = .ok (.aload_n 2, 1) := dk_44 (dk_at dksX1_lambda_grow_5_0 0 rfl rfl)
theorem dX1_lambda_grow_5_1 : decode cX1_lambda_grow_5 1 = .ok (.iload_n 0, 1) := dk_26 (dk_at dksX1_lambda_grow_5_0 1 rfl rfl)
theorem dX1_lambda_grow_5_2 : decode cX1_lambda_grow_5 2 = .ok (.iload_n 1, 1) := dk_27 (dk_at dksX1_lambda_grow_5_0 2 rfl rfl)
theorem dX1_lambda_grow_5_3 : decode cX1_lambda_grow_5 3 = .ok (.invokevirtual 461, 3) := dk_182 1 205 (dk_at dksX1_lambda_grow_5_0 3 rfl rfl)
theorem dX1_lambda_grow_5_6 : decode cX1_lambda_grow_5 6 = .ok (.ireturn, 1) := dk_172 (dk_at dksX1_lambda_grow_5_0 6 rfl rfl)
abbrev cX1_settle : ByteArray := prog_1_method_20_code
def yX1_settle : MethodName := ⟨RX1, "settle", "(II)I"⟩
def dkwX1_settle_1 : List UInt8 := [186, 0, 172, 0, 0, 182, 0, 114, 42, 180, 0, 10, 4, 182, 0, 173, 184, 0, 139, 172]
abbrev dktX1_settle_1 : List UInt8 := dkwX1_settle_1 ++ []
def dkwX1_settle_0 : List UInt8 := [42, 27, 4, 16, 9, 182, 0, 80, 42, 28, 3, 18, 159, 182, 0, 80, 42, 16, 6, 27, 27, 28]
abbrev dktX1_settle_0 : List UInt8 := dkwX1_settle_0 ++ dktX1_settle_1
theorem dksX1_settle_0 : cX1_settle.data.toList.drop 0 = dktX1_settle_0 := by decide +kernel
theorem dksX1_settle_1 : cX1_settle.data.toList.drop 22 = dktX1_settle_1 := dk_seg dksX1_settle_0 22 rfl rfl
theorem dX1_settle_0 : decode cX1_settle 0 = .ok (.aload_n 0, 1) := dk_42 (dk_at dksX1_settle_0 0 rfl rfl)
theorem dX1_settle_1 : decode cX1_settle 1 = .ok (.iload_n 1, 1) := dk_27 (dk_at dksX1_settle_0 1 rfl rfl)
theorem dX1_settle_2 : decode cX1_settle 2 = .ok (.iconst 1, 1) := dk_4 (dk_at dksX1_settle_0 2 rfl rfl)
theorem dX1_settle_3 : decode cX1_settle 3 = .ok (.bipush 9, 2) := dk_16 9 (dk_at dksX1_settle_0 3 rfl rfl)
theorem dX1_settle_5 : decode cX1_settle 5 = .ok (.invokevirtual 80, 3) := dk_182 0 80 (dk_at dksX1_settle_0 5 rfl rfl)
theorem dX1_settle_8 : decode cX1_settle 8 = .ok (.aload_n 0, 1) := dk_42 (dk_at dksX1_settle_0 8 rfl rfl)
theorem dX1_settle_9 : decode cX1_settle 9 = .ok (.iload_n 2, 1) := dk_28 (dk_at dksX1_settle_0 9 rfl rfl)
theorem dX1_settle_10 : decode cX1_settle 10 = .ok (.iconst 0, 1) := dk_3 (dk_at dksX1_settle_0 10 rfl rfl)
theorem dX1_settle_11 : decode cX1_settle 11 = .ok (.ldc 159, 2) := dk_18 159 (dk_at dksX1_settle_0 11 rfl rfl)
theorem dX1_settle_13 : decode cX1_settle 13 = .ok (.invokevirtual 80, 3) := dk_182 0 80 (dk_at dksX1_settle_0 13 rfl rfl)
theorem dX1_settle_16 : decode cX1_settle 16 = .ok (.aload_n 0, 1) := dk_42 (dk_at dksX1_settle_0 16 rfl rfl)
theorem dX1_settle_17 : decode cX1_settle 17 = .ok (.bipush 6, 2) := dk_16 6 (dk_at dksX1_settle_0 17 rfl rfl)
theorem dX1_settle_19 : decode cX1_settle 19 = .ok (.iload_n 1, 1) := dk_27 (dk_at dksX1_settle_0 19 rfl rfl)
theorem dX1_settle_20 : decode cX1_settle 20 = .ok (.iload_n 1, 1) := dk_27 (dk_at dksX1_settle_0 20 rfl rfl)
theorem dX1_settle_21 : decode cX1_settle 21 = .ok (.iload_n 2, 1) := dk_28 (dk_at dksX1_settle_0 21 rfl rfl)
theorem dX1_settle_22 : decode cX1_settle 22 = .ok (.invokedynamic 172, 5) := by decide +kernel
theorem dX1_settle_27 : decode cX1_settle 27 = .ok (.invokevirtual 114, 3) := dk_182 0 114 (dk_at dksX1_settle_1 5 rfl rfl)
theorem dX1_settle_30 : decode cX1_settle 30 = .ok (.aload_n 0, 1) := dk_42 (dk_at dksX1_settle_1 8 rfl rfl)
theorem dX1_settle_31 : decode cX1_settle 31 = .ok (.getfield 10, 3) := dk_180 0 10 (dk_at dksX1_settle_1 9 rfl rfl)
theorem dX1_settle_34 : decode cX1_settle 34 = .ok (.iconst 1, 1) := dk_4 (dk_at dksX1_settle_1 12 rfl rfl)
theorem dX1_settle_35 : decode cX1_settle 35 = .ok (.invokevirtual 173, 3) := dk_182 0 173 (dk_at dksX1_settle_1 13 rfl rfl)
theorem dX1_settle_38 : decode cX1_settle 38 = .ok (.invokestatic 139, 3) := dk_184 0 139 (dk_at dksX1_settle_1 16 rfl rfl)
theorem dX1_settle_41 : decode cX1_settle 41 = .ok (.ireturn, 1) := dk_172 (dk_at dksX1_settle_1 19 rfl rfl)
abbrev cX1_lambda_settle_6 : ByteArray := prog_1_method_84_code
def yX1_lambda_settle_6 : MethodName := ⟨RX1, "lambda$settle$6", "(IILTallTowers$World;)Z"⟩
def dkwX1_lambda_settle_6_0 : List UInt8 := [44, 26, 4, 27, 182, 1, 201, 172]
abbrev dktX1_lambda_settle_6_0 : List UInt8 := dkwX1_lambda_settle_6_0 ++ []
theorem dksX1_lambda_settle_6_0 : cX1_lambda_settle_6.data.toList.drop 0 = dktX1_lambda_settle_6_0 := by decide +kernel
theorem dX1_lambda_settle_6_0 : decode cX1_lambda_settle_6 0 = .ok (.aload_n 2, 1) := dk_44 (dk_at dksX1_lambda_settle_6_0 0 rfl rfl)
theorem dX1_lambda_settle_6_1 : decode cX1_lambda_settle_6 1 = .ok (.iload_n 0, 1) := dk_26 (dk_at dksX1_lambda_settle_6_0 1 rfl rfl)
theorem dX1_lambda_settle_6_2 : decode cX1_lambda_settle_6 2 = .ok (.iconst 1, 1) := dk_4 (dk_at dksX1_lambda_settle_6_0 2 rfl rfl)
theorem dX1_lambda_settle_6_3 : decode cX1_lambda_settle_6 3 = .ok (.iload_n 1, 1) := dk_27 (dk_at dksX1_lambda_settle_6_0 3 rfl rfl)
theorem dX1_lambda_settle_6_4 : decode cX1_lambda_settle_6 4 = .ok (.invokevirtual 457, 3) := dk_182 1 201 (dk_at dksX1_lambda_settle_6_0 4 rfl rfl)
theorem dX1_lambda_settle_6_7 : decode cX1_lambda_settle_6 7 = .ok (.ireturn, 1) := dk_172 (dk_at dksX1_lambda_settle_6_0 7 rfl rfl)
abbrev cX1_fall : ByteArray := prog_1_method_21_code
def yX1_fall : MethodName := ⟨RX1, "fall", "(I)I"⟩
def dkwX1_fall_1 : List UInt8 := [180, 0, 10, 5, 182, 0, 173, 184, 0, 139, 172]
abbrev dktX1_fall_1 : List UInt8 := dkwX1_fall_1 ++ []
def dkwX1_fall_0 : List UInt8 := [42, 27, 4, 16, 9, 182, 0, 80, 42, 16, 7, 27, 27, 186, 0, 176, 0, 0, 182, 0, 114, 42]
abbrev dktX1_fall_0 : List UInt8 := dkwX1_fall_0 ++ dktX1_fall_1
theorem dksX1_fall_0 : cX1_fall.data.toList.drop 0 = dktX1_fall_0 := by decide +kernel
theorem dksX1_fall_1 : cX1_fall.data.toList.drop 22 = dktX1_fall_1 := dk_seg dksX1_fall_0 22 rfl rfl
theorem dX1_fall_0 : decode cX1_fall 0 = .ok (.aload_n 0, 1) := dk_42 (dk_at dksX1_fall_0 0 rfl rfl)
theorem dX1_fall_1 : decode cX1_fall 1 = .ok (.iload_n 1, 1) := dk_27 (dk_at dksX1_fall_0 1 rfl rfl)
theorem dX1_fall_2 : decode cX1_fall 2 = .ok (.iconst 1, 1) := dk_4 (dk_at dksX1_fall_0 2 rfl rfl)
theorem dX1_fall_3 : decode cX1_fall 3 = .ok (.bipush 9, 2) := dk_16 9 (dk_at dksX1_fall_0 3 rfl rfl)
theorem dX1_fall_5 : decode cX1_fall 5 = .ok (.invokevirtual 80, 3) := dk_182 0 80 (dk_at dksX1_fall_0 5 rfl rfl)
theorem dX1_fall_8 : decode cX1_fall 8 = .ok (.aload_n 0, 1) := dk_42 (dk_at dksX1_fall_0 8 rfl rfl)
theorem dX1_fall_9 : decode cX1_fall 9 = .ok (.bipush 7, 2) := dk_16 7 (dk_at dksX1_fall_0 9 rfl rfl)
theorem dX1_fall_11 : decode cX1_fall 11 = .ok (.iload_n 1, 1) := dk_27 (dk_at dksX1_fall_0 11 rfl rfl)
theorem dX1_fall_12 : decode cX1_fall 12 = .ok (.iload_n 1, 1) := dk_27 (dk_at dksX1_fall_0 12 rfl rfl)
theorem dX1_fall_13 : decode cX1_fall 13 = .ok (.invokedynamic 176, 5) := by decide +kernel
theorem dX1_fall_18 : decode cX1_fall 18 = .ok (.invokevirtual 114, 3) := dk_182 0 114 (dk_at dksX1_fall_0 18 rfl rfl)
theorem dX1_fall_21 : decode cX1_fall 21 = .ok (.aload_n 0, 1) := dk_42 (dk_at dksX1_fall_0 21 rfl rfl)
theorem dX1_fall_22 : decode cX1_fall 22 = .ok (.getfield 10, 3) := dk_180 0 10 (dk_at dksX1_fall_1 0 rfl rfl)
theorem dX1_fall_25 : decode cX1_fall 25 = .ok (.iconst 2, 1) := dk_5 (dk_at dksX1_fall_1 3 rfl rfl)
theorem dX1_fall_26 : decode cX1_fall 26 = .ok (.invokevirtual 173, 3) := dk_182 0 173 (dk_at dksX1_fall_1 4 rfl rfl)
theorem dX1_fall_29 : decode cX1_fall 29 = .ok (.invokestatic 139, 3) := dk_184 0 139 (dk_at dksX1_fall_1 7 rfl rfl)
theorem dX1_fall_32 : decode cX1_fall 32 = .ok (.ireturn, 1) := dk_172 (dk_at dksX1_fall_1 10 rfl rfl)
abbrev cX1_lambda_fall_7 : ByteArray := prog_1_method_83_code
def yX1_lambda_fall_7 : MethodName := ⟨RX1, "lambda$fall$7", "(ILTallTowers$World;)Z"⟩
def dkwX1_lambda_fall_7_0 : List UInt8 := [43, 26, 5, 3, 182, 1, 201, 172]
abbrev dktX1_lambda_fall_7_0 : List UInt8 := dkwX1_lambda_fall_7_0 ++ []
theorem dksX1_lambda_fall_7_0 : cX1_lambda_fall_7.data.toList.drop 0 = dktX1_lambda_fall_7_0 := by decide +kernel
theorem dX1_lambda_fall_7_0 : decode cX1_lambda_fall_7 0 = .ok (.aload_n 1, 1) := dk_43 (dk_at dksX1_lambda_fall_7_0 0 rfl rfl)
theorem dX1_lambda_fall_7_1 : decode cX1_lambda_fall_7 1 = .ok (.iload_n 0, 1) := dk_26 (dk_at dksX1_lambda_fall_7_0 1 rfl rfl)
theorem dX1_lambda_fall_7_2 : decode cX1_lambda_fall_7 2 = .ok (.iconst 2, 1) := dk_5 (dk_at dksX1_lambda_fall_7_0 2 rfl rfl)
theorem dX1_lambda_fall_7_3 : decode cX1_lambda_fall_7 3 = .ok (.iconst 0, 1) := dk_3 (dk_at dksX1_lambda_fall_7_0 3 rfl rfl)
theorem dX1_lambda_fall_7_4 : decode cX1_lambda_fall_7 4 = .ok (.invokevirtual 457, 3) := dk_182 1 201 (dk_at dksX1_lambda_fall_7_0 4 rfl rfl)
theorem dX1_lambda_fall_7_7 : decode cX1_lambda_fall_7 7 = .ok (.ireturn, 1) := dk_172 (dk_at dksX1_lambda_fall_7_0 7 rfl rfl)
abbrev cX1_reopen : ByteArray := prog_1_method_22_code
def yX1_reopen : MethodName := ⟨RX1, "reopen", "(I)J"⟩
def dkwX1_reopen_1 : List UInt8 := [182, 0, 114, 44, 3, 182, 0, 165, 33, 101, 173]
abbrev dktX1_reopen_1 : List UInt8 := dkwX1_reopen_1 ++ []
def dkwX1_reopen_0 : List UInt8 := [42, 27, 182, 0, 161, 77, 44, 3, 182, 0, 165, 66, 42, 16, 8, 27, 27, 186, 0, 177, 0, 0]
abbrev dktX1_reopen_0 : List UInt8 := dkwX1_reopen_0 ++ dktX1_reopen_1
theorem dksX1_reopen_0 : cX1_reopen.data.toList.drop 0 = dktX1_reopen_0 := by decide +kernel
theorem dksX1_reopen_1 : cX1_reopen.data.toList.drop 22 = dktX1_reopen_1 := dk_seg dksX1_reopen_0 22 rfl rfl
theorem dX1_reopen_0 : decode cX1_reopen 0 = .ok (.aload_n 0, 1) := dk_42 (dk_at dksX1_reopen_0 0 rfl rfl)
theorem dX1_reopen_1 : decode cX1_reopen 1 = .ok (.iload_n 1, 1) := dk_27 (dk_at dksX1_reopen_0 1 rfl rfl)
theorem dX1_reopen_2 : decode cX1_reopen 2 = .ok (.invokevirtual 161, 3) := dk_182 0 161 (dk_at dksX1_reopen_0 2 rfl rfl)
theorem dX1_reopen_5 : decode cX1_reopen 5 = .ok (.astore_n 2, 1) := dk_77 (dk_at dksX1_reopen_0 5 rfl rfl)
theorem dX1_reopen_6 : decode cX1_reopen 6 = .ok (.aload_n 2, 1) := dk_44 (dk_at dksX1_reopen_0 6 rfl rfl)
theorem dX1_reopen_7 : decode cX1_reopen 7 = .ok (.iconst 0, 1) := dk_3 (dk_at dksX1_reopen_0 7 rfl rfl)
theorem dX1_reopen_8 : decode cX1_reopen 8 = .ok (.invokevirtual 165, 3) := dk_182 0 165 (dk_at dksX1_reopen_0 8 rfl rfl)
theorem dX1_reopen_11 : decode cX1_reopen 11 = .ok (.lstore_n 3, 1) := dk_66 (dk_at dksX1_reopen_0 11 rfl rfl)
theorem dX1_reopen_12 : decode cX1_reopen 12 = .ok (.aload_n 0, 1) := dk_42 (dk_at dksX1_reopen_0 12 rfl rfl)
theorem dX1_reopen_13 : decode cX1_reopen 13 = .ok (.bipush 8, 2) := dk_16 8 (dk_at dksX1_reopen_0 13 rfl rfl)
theorem dX1_reopen_15 : decode cX1_reopen 15 = .ok (.iload_n 1, 1) := dk_27 (dk_at dksX1_reopen_0 15 rfl rfl)
theorem dX1_reopen_16 : decode cX1_reopen 16 = .ok (.iload_n 1, 1) := dk_27 (dk_at dksX1_reopen_0 16 rfl rfl)
theorem dX1_reopen_17 : decode cX1_reopen 17 = .ok (.invokedynamic 177, 5) := by decide +kernel
theorem dX1_reopen_22 : decode cX1_reopen 22 = .ok (.invokevirtual 114, 3) := dk_182 0 114 (dk_at dksX1_reopen_1 0 rfl rfl)
theorem dX1_reopen_25 : decode cX1_reopen 25 = .ok (.aload_n 2, 1) := dk_44 (dk_at dksX1_reopen_1 3 rfl rfl)
theorem dX1_reopen_26 : decode cX1_reopen 26 = .ok (.iconst 0, 1) := dk_3 (dk_at dksX1_reopen_1 4 rfl rfl)
theorem dX1_reopen_27 : decode cX1_reopen 27 = .ok (.invokevirtual 165, 3) := dk_182 0 165 (dk_at dksX1_reopen_1 5 rfl rfl)
theorem dX1_reopen_30 : decode cX1_reopen 30 = .ok (.lload_n 3, 1) := dk_33 (dk_at dksX1_reopen_1 8 rfl rfl)
theorem dX1_reopen_31 : decode cX1_reopen 31 = .ok (.lsub, 1) := dk_101 (dk_at dksX1_reopen_1 9 rfl rfl)
theorem dX1_reopen_32 : decode cX1_reopen 32 = .ok (.lreturn, 1) := dk_173 (dk_at dksX1_reopen_1 10 rfl rfl)
abbrev cX1_lambda_reopen_8 : ByteArray := prog_1_method_82_code
def yX1_lambda_reopen_8 : MethodName := ⟨RX1, "lambda$reopen$8", "(ILTallTowers$World;)Z"⟩
def dkwX1_lambda_reopen_8_0 : List UInt8 := [43, 26, 182, 1, 198, 172]
abbrev dktX1_lambda_reopen_8_0 : List UInt8 := dkwX1_lambda_reopen_8_0 ++ []
theorem dksX1_lambda_reopen_8_0 : cX1_lambda_reopen_8.data.toList.drop 0 = dktX1_lambda_reopen_8_0 := by decide +kernel
theorem dX1_lambda_reopen_8_0 : decode cX1_lambda_reopen_8 0 = .ok (.aload_n 1, 1) := dk_43 (dk_at dksX1_lambda_reopen_8_0 0 rfl rfl)
theorem dX1_lambda_reopen_8_1 : decode cX1_lambda_reopen_8 1 = .ok (.iload_n 0, 1) := dk_26 (dk_at dksX1_lambda_reopen_8_0 1 rfl rfl)
theorem dX1_lambda_reopen_8_2 : decode cX1_lambda_reopen_8 2 = .ok (.invokevirtual 454, 3) := dk_182 1 198 (dk_at dksX1_lambda_reopen_8_0 2 rfl rfl)
theorem dX1_lambda_reopen_8_5 : decode cX1_lambda_reopen_8 5 = .ok (.ireturn, 1) := dk_172 (dk_at dksX1_lambda_reopen_8_0 5 rfl rfl)
abbrev cX1_told : ByteArray := prog_1_method_26_code
def yX1_told : MethodName := ⟨RX1, "told", "(I)I"⟩
def dkwX1_told_5 : List UInt8 := [42, 182, 0, 195, 172]
abbrev dktX1_told_5 : List UInt8 := dkwX1_told_5 ++ []
def dkwX1_told_4 : List UInt8 := [180, 0, 10, 180, 0, 136, 172, 42, 182, 0, 192, 172, 42, 180, 0, 10, 27, 16, 7, 100, 182, 0, 173, 172]
abbrev dktX1_told_4 : List UInt8 := dkwX1_told_4 ++ dktX1_told_5
def dkwX1_told_3 : List UInt8 := [180, 0, 10, 180, 0, 146, 172, 42, 180, 0, 10, 180, 0, 149, 172, 42, 180, 0, 10, 180, 0, 152, 172, 42]
abbrev dktX1_told_3 : List UInt8 := dkwX1_told_3 ++ dktX1_told_4
def dkwX1_told_2 : List UInt8 := [42, 180, 0, 10, 180, 0, 58, 172, 42, 180, 0, 10, 180, 0, 70, 172, 42, 180, 0, 93, 172, 42]
abbrev dktX1_told_2 : List UInt8 := dkwX1_told_2 ++ dktX1_told_3
def dkwX1_told_1 : List UInt8 := [170, 0, 0, 0, 0, 0, 125, 0, 0, 0, 0, 0, 0, 0, 9, 0, 0, 0, 55, 0, 0, 0, 63, 0, 0, 0, 71, 0, 0, 0, 76, 0, 0, 0, 84, 0, 0, 0, 92, 0, 0, 0, 100, 0, 0, 0, 108, 0, 0, 0, 113, 0, 0, 0, 113]
abbrev dktX1_told_1 : List UInt8 := dkwX1_told_1 ++ dktX1_told_2
def dkwX1_told_0 : List UInt8 := [42, 27, 3, 16, 10, 182, 0, 80, 27]
abbrev dktX1_told_0 : List UInt8 := dkwX1_told_0 ++ dktX1_told_1
theorem dksX1_told_0 : cX1_told.data.toList.drop 0 = dktX1_told_0 := by decide +kernel
theorem dksX1_told_1 : cX1_told.data.toList.drop 9 = dktX1_told_1 := dk_seg dksX1_told_0 9 rfl rfl
theorem dksX1_told_2 : cX1_told.data.toList.drop 64 = dktX1_told_2 := dk_seg dksX1_told_1 55 rfl rfl
theorem dksX1_told_3 : cX1_told.data.toList.drop 86 = dktX1_told_3 := dk_seg dksX1_told_2 22 rfl rfl
theorem dksX1_told_4 : cX1_told.data.toList.drop 110 = dktX1_told_4 := dk_seg dksX1_told_3 24 rfl rfl
theorem dksX1_told_5 : cX1_told.data.toList.drop 134 = dktX1_told_5 := dk_seg dksX1_told_4 24 rfl rfl
theorem dX1_told_0 : decode cX1_told 0 = .ok (.aload_n 0, 1) := dk_42 (dk_at dksX1_told_0 0 rfl rfl)
theorem dX1_told_1 : decode cX1_told 1 = .ok (.iload_n 1, 1) := dk_27 (dk_at dksX1_told_0 1 rfl rfl)
theorem dX1_told_2 : decode cX1_told 2 = .ok (.iconst 0, 1) := dk_3 (dk_at dksX1_told_0 2 rfl rfl)
theorem dX1_told_3 : decode cX1_told 3 = .ok (.bipush 10, 2) := dk_16 10 (dk_at dksX1_told_0 3 rfl rfl)
theorem dX1_told_5 : decode cX1_told 5 = .ok (.invokevirtual 80, 3) := dk_182 0 80 (dk_at dksX1_told_0 5 rfl rfl)
theorem dX1_told_8 : decode cX1_told 8 = .ok (.iload_n 1, 1) := dk_27 (dk_at dksX1_told_0 8 rfl rfl)
theorem dX1_told_9 : decode cX1_told 9 = .ok (.tableswitch 125 0 9 #[55, 63, 71, 76, 84, 92, 100, 108, 113, 113], 55) := by decide +kernel
theorem dX1_told_64 : decode cX1_told 64 = .ok (.aload_n 0, 1) := dk_42 (dk_at dksX1_told_2 0 rfl rfl)
theorem dX1_told_65 : decode cX1_told 65 = .ok (.getfield 10, 3) := dk_180 0 10 (dk_at dksX1_told_2 1 rfl rfl)
theorem dX1_told_68 : decode cX1_told 68 = .ok (.getfield 58, 3) := dk_180 0 58 (dk_at dksX1_told_2 4 rfl rfl)
theorem dX1_told_71 : decode cX1_told 71 = .ok (.ireturn, 1) := dk_172 (dk_at dksX1_told_2 7 rfl rfl)
theorem dX1_told_72 : decode cX1_told 72 = .ok (.aload_n 0, 1) := dk_42 (dk_at dksX1_told_2 8 rfl rfl)
theorem dX1_told_73 : decode cX1_told 73 = .ok (.getfield 10, 3) := dk_180 0 10 (dk_at dksX1_told_2 9 rfl rfl)
theorem dX1_told_76 : decode cX1_told 76 = .ok (.getfield 70, 3) := dk_180 0 70 (dk_at dksX1_told_2 12 rfl rfl)
theorem dX1_told_79 : decode cX1_told 79 = .ok (.ireturn, 1) := dk_172 (dk_at dksX1_told_2 15 rfl rfl)
theorem dX1_told_80 : decode cX1_told 80 = .ok (.aload_n 0, 1) := dk_42 (dk_at dksX1_told_2 16 rfl rfl)
theorem dX1_told_81 : decode cX1_told 81 = .ok (.getfield 93, 3) := dk_180 0 93 (dk_at dksX1_told_2 17 rfl rfl)
theorem dX1_told_84 : decode cX1_told 84 = .ok (.ireturn, 1) := dk_172 (dk_at dksX1_told_2 20 rfl rfl)
theorem dX1_told_85 : decode cX1_told 85 = .ok (.aload_n 0, 1) := dk_42 (dk_at dksX1_told_2 21 rfl rfl)
theorem dX1_told_86 : decode cX1_told 86 = .ok (.getfield 10, 3) := dk_180 0 10 (dk_at dksX1_told_3 0 rfl rfl)
theorem dX1_told_89 : decode cX1_told 89 = .ok (.getfield 146, 3) := dk_180 0 146 (dk_at dksX1_told_3 3 rfl rfl)
theorem dX1_told_92 : decode cX1_told 92 = .ok (.ireturn, 1) := dk_172 (dk_at dksX1_told_3 6 rfl rfl)
theorem dX1_told_93 : decode cX1_told 93 = .ok (.aload_n 0, 1) := dk_42 (dk_at dksX1_told_3 7 rfl rfl)
theorem dX1_told_94 : decode cX1_told 94 = .ok (.getfield 10, 3) := dk_180 0 10 (dk_at dksX1_told_3 8 rfl rfl)
theorem dX1_told_97 : decode cX1_told 97 = .ok (.getfield 149, 3) := dk_180 0 149 (dk_at dksX1_told_3 11 rfl rfl)
theorem dX1_told_100 : decode cX1_told 100 = .ok (.ireturn, 1) := dk_172 (dk_at dksX1_told_3 14 rfl rfl)
theorem dX1_told_101 : decode cX1_told 101 = .ok (.aload_n 0, 1) := dk_42 (dk_at dksX1_told_3 15 rfl rfl)
theorem dX1_told_102 : decode cX1_told 102 = .ok (.getfield 10, 3) := dk_180 0 10 (dk_at dksX1_told_3 16 rfl rfl)
theorem dX1_told_105 : decode cX1_told 105 = .ok (.getfield 152, 3) := dk_180 0 152 (dk_at dksX1_told_3 19 rfl rfl)
theorem dX1_told_108 : decode cX1_told 108 = .ok (.ireturn, 1) := dk_172 (dk_at dksX1_told_3 22 rfl rfl)
theorem dX1_told_109 : decode cX1_told 109 = .ok (.aload_n 0, 1) := dk_42 (dk_at dksX1_told_3 23 rfl rfl)
theorem dX1_told_110 : decode cX1_told 110 = .ok (.getfield 10, 3) := dk_180 0 10 (dk_at dksX1_told_4 0 rfl rfl)
theorem dX1_told_113 : decode cX1_told 113 = .ok (.getfield 136, 3) := dk_180 0 136 (dk_at dksX1_told_4 3 rfl rfl)
theorem dX1_told_116 : decode cX1_told 116 = .ok (.ireturn, 1) := dk_172 (dk_at dksX1_told_4 6 rfl rfl)
theorem dX1_told_117 : decode cX1_told 117 = .ok (.aload_n 0, 1) := dk_42 (dk_at dksX1_told_4 7 rfl rfl)
theorem dX1_told_118 : decode cX1_told 118 = .ok (.invokevirtual 192, 3) := dk_182 0 192 (dk_at dksX1_told_4 8 rfl rfl)
theorem dX1_told_121 : decode cX1_told 121 = .ok (.ireturn, 1) := dk_172 (dk_at dksX1_told_4 11 rfl rfl)
theorem dX1_told_122 : decode cX1_told 122 = .ok (.aload_n 0, 1) := dk_42 (dk_at dksX1_told_4 12 rfl rfl)
theorem dX1_told_123 : decode cX1_told 123 = .ok (.getfield 10, 3) := dk_180 0 10 (dk_at dksX1_told_4 13 rfl rfl)
theorem dX1_told_126 : decode cX1_told 126 = .ok (.iload_n 1, 1) := dk_27 (dk_at dksX1_told_4 16 rfl rfl)
theorem dX1_told_127 : decode cX1_told 127 = .ok (.bipush 7, 2) := dk_16 7 (dk_at dksX1_told_4 17 rfl rfl)
theorem dX1_told_129 : decode cX1_told 129 = .ok (.isub, 1) := dk_100 (dk_at dksX1_told_4 19 rfl rfl)
theorem dX1_told_130 : decode cX1_told 130 = .ok (.invokevirtual 173, 3) := dk_182 0 173 (dk_at dksX1_told_4 20 rfl rfl)
theorem dX1_told_133 : decode cX1_told 133 = .ok (.ireturn, 1) := dk_172 (dk_at dksX1_told_4 23 rfl rfl)
theorem dX1_told_134 : decode cX1_told 134 = .ok (.aload_n 0, 1) := dk_42 (dk_at dksX1_told_5 0 rfl rfl)
theorem dX1_told_135 : decode cX1_told 135 = .ok (.invokevirtual 195, 3) := dk_182 0 195 (dk_at dksX1_told_5 1 rfl rfl)
theorem dX1_told_138 : decode cX1_told 138 = .ok (.ireturn, 1) := dk_172 (dk_at dksX1_told_5 4 rfl rfl)
abbrev cX1_gaps : ByteArray := prog_1_method_24_code
def yX1_gaps : MethodName := ⟨RX1, "gaps", "()I"⟩
def dkwX1_gaps_1 : List UInt8 := [120, 128, 60, 132, 2, 1, 167, 255, 230, 27, 172]
abbrev dktX1_gaps_1 : List UInt8 := dkwX1_gaps_1 ++ []
def dkwX1_gaps_0 : List UInt8 := [3, 60, 3, 61, 28, 16, 12, 162, 0, 26, 42, 180, 0, 10, 28, 182, 0, 182, 153, 0, 9, 27, 4, 28]
abbrev dktX1_gaps_0 : List UInt8 := dkwX1_gaps_0 ++ dktX1_gaps_1
theorem dksX1_gaps_0 : cX1_gaps.data.toList.drop 0 = dktX1_gaps_0 := by decide +kernel
theorem dksX1_gaps_1 : cX1_gaps.data.toList.drop 24 = dktX1_gaps_1 := dk_seg dksX1_gaps_0 24 rfl rfl
theorem dX1_gaps_0 : decode cX1_gaps 0 = .ok (.iconst 0, 1) := dk_3 (dk_at dksX1_gaps_0 0 rfl rfl)
theorem dX1_gaps_1 : decode cX1_gaps 1 = .ok (.istore_n 1, 1) := dk_60 (dk_at dksX1_gaps_0 1 rfl rfl)
theorem dX1_gaps_2 : decode cX1_gaps 2 = .ok (.iconst 0, 1) := dk_3 (dk_at dksX1_gaps_0 2 rfl rfl)
theorem dX1_gaps_3 : decode cX1_gaps 3 = .ok (.istore_n 2, 1) := dk_61 (dk_at dksX1_gaps_0 3 rfl rfl)
theorem dX1_gaps_4 : decode cX1_gaps 4 = .ok (.iload_n 2, 1) := dk_28 (dk_at dksX1_gaps_0 4 rfl rfl)
theorem dX1_gaps_5 : decode cX1_gaps 5 = .ok (.bipush 12, 2) := dk_16 12 (dk_at dksX1_gaps_0 5 rfl rfl)
theorem dX1_gaps_7 : decode cX1_gaps 7 = .ok (.if_icmp .ge 26, 3) := dk_162 0 26 (dk_at dksX1_gaps_0 7 rfl rfl)
theorem dX1_gaps_10 : decode cX1_gaps 10 = .ok (.aload_n 0, 1) := dk_42 (dk_at dksX1_gaps_0 10 rfl rfl)
theorem dX1_gaps_11 : decode cX1_gaps 11 = .ok (.getfield 10, 3) := dk_180 0 10 (dk_at dksX1_gaps_0 11 rfl rfl)
theorem dX1_gaps_14 : decode cX1_gaps 14 = .ok (.iload_n 2, 1) := dk_28 (dk_at dksX1_gaps_0 14 rfl rfl)
theorem dX1_gaps_15 : decode cX1_gaps 15 = .ok (.invokevirtual 182, 3) := dk_182 0 182 (dk_at dksX1_gaps_0 15 rfl rfl)
theorem dX1_gaps_18 : decode cX1_gaps 18 = .ok (.ifCond .eq 9, 3) := dk_153 0 9 (dk_at dksX1_gaps_0 18 rfl rfl)
theorem dX1_gaps_21 : decode cX1_gaps 21 = .ok (.iload_n 1, 1) := dk_27 (dk_at dksX1_gaps_0 21 rfl rfl)
theorem dX1_gaps_22 : decode cX1_gaps 22 = .ok (.iconst 1, 1) := dk_4 (dk_at dksX1_gaps_0 22 rfl rfl)
theorem dX1_gaps_23 : decode cX1_gaps 23 = .ok (.iload_n 2, 1) := dk_28 (dk_at dksX1_gaps_0 23 rfl rfl)
theorem dX1_gaps_24 : decode cX1_gaps 24 = .ok (.ishl, 1) := dk_120 (dk_at dksX1_gaps_1 0 rfl rfl)
theorem dX1_gaps_25 : decode cX1_gaps 25 = .ok (.ior, 1) := dk_128 (dk_at dksX1_gaps_1 1 rfl rfl)
theorem dX1_gaps_26 : decode cX1_gaps 26 = .ok (.istore_n 1, 1) := dk_60 (dk_at dksX1_gaps_1 2 rfl rfl)
theorem dX1_gaps_27 : decode cX1_gaps 27 = .ok (.iinc 2 1, 3) := dk_132 2 1 (dk_at dksX1_gaps_1 3 rfl rfl)
theorem dX1_gaps_30 : decode cX1_gaps 30 = .ok (.goto (-26), 3) := dk_167 255 230 (dk_at dksX1_gaps_1 6 rfl rfl)
theorem dX1_gaps_33 : decode cX1_gaps 33 = .ok (.iload_n 1, 1) := dk_27 (dk_at dksX1_gaps_1 9 rfl rfl)
theorem dX1_gaps_34 : decode cX1_gaps 34 = .ok (.ireturn, 1) := dk_172 (dk_at dksX1_gaps_1 10 rfl rfl)
abbrev cX1_signing : ByteArray := prog_1_method_25_code
def yX1_signing : MethodName := ⟨RX1, "signing", "()I"⟩
def dkwX1_signing_2 : List UInt8 := [180, 0, 189, 29, 46, 120, 128, 60, 132, 3, 1, 167, 255, 218, 132, 2, 1, 167, 255, 199, 27, 172]
abbrev dktX1_signing_2 : List UInt8 := dkwX1_signing_2 ++ []
def dkwX1_signing_1 : List UInt8 := [180, 0, 66, 28, 50, 180, 0, 186, 162, 0, 28, 27, 4, 42, 180, 0, 10, 180, 0, 66, 28, 50]
abbrev dktX1_signing_1 : List UInt8 := dkwX1_signing_1 ++ dktX1_signing_2
def dkwX1_signing_0 : List UInt8 := [3, 60, 3, 61, 28, 42, 180, 0, 10, 180, 0, 58, 162, 0, 52, 3, 62, 29, 42, 180, 0, 10]
abbrev dktX1_signing_0 : List UInt8 := dkwX1_signing_0 ++ dktX1_signing_1
theorem dksX1_signing_0 : cX1_signing.data.toList.drop 0 = dktX1_signing_0 := by decide +kernel
theorem dksX1_signing_1 : cX1_signing.data.toList.drop 22 = dktX1_signing_1 := dk_seg dksX1_signing_0 22 rfl rfl
theorem dksX1_signing_2 : cX1_signing.data.toList.drop 44 = dktX1_signing_2 := dk_seg dksX1_signing_1 22 rfl rfl
theorem dX1_signing_0 : decode cX1_signing 0 = .ok (.iconst 0, 1) := dk_3 (dk_at dksX1_signing_0 0 rfl rfl)
theorem dX1_signing_1 : decode cX1_signing 1 = .ok (.istore_n 1, 1) := dk_60 (dk_at dksX1_signing_0 1 rfl rfl)
theorem dX1_signing_2 : decode cX1_signing 2 = .ok (.iconst 0, 1) := dk_3 (dk_at dksX1_signing_0 2 rfl rfl)
theorem dX1_signing_3 : decode cX1_signing 3 = .ok (.istore_n 2, 1) := dk_61 (dk_at dksX1_signing_0 3 rfl rfl)
theorem dX1_signing_4 : decode cX1_signing 4 = .ok (.iload_n 2, 1) := dk_28 (dk_at dksX1_signing_0 4 rfl rfl)
theorem dX1_signing_5 : decode cX1_signing 5 = .ok (.aload_n 0, 1) := dk_42 (dk_at dksX1_signing_0 5 rfl rfl)
theorem dX1_signing_6 : decode cX1_signing 6 = .ok (.getfield 10, 3) := dk_180 0 10 (dk_at dksX1_signing_0 6 rfl rfl)
theorem dX1_signing_9 : decode cX1_signing 9 = .ok (.getfield 58, 3) := dk_180 0 58 (dk_at dksX1_signing_0 9 rfl rfl)
theorem dX1_signing_12 : decode cX1_signing 12 = .ok (.if_icmp .ge 52, 3) := dk_162 0 52 (dk_at dksX1_signing_0 12 rfl rfl)
theorem dX1_signing_15 : decode cX1_signing 15 = .ok (.iconst 0, 1) := dk_3 (dk_at dksX1_signing_0 15 rfl rfl)
theorem dX1_signing_16 : decode cX1_signing 16 = .ok (.istore_n 3, 1) := dk_62 (dk_at dksX1_signing_0 16 rfl rfl)
theorem dX1_signing_17 : decode cX1_signing 17 = .ok (.iload_n 3, 1) := dk_29 (dk_at dksX1_signing_0 17 rfl rfl)
theorem dX1_signing_18 : decode cX1_signing 18 = .ok (.aload_n 0, 1) := dk_42 (dk_at dksX1_signing_0 18 rfl rfl)
theorem dX1_signing_19 : decode cX1_signing 19 = .ok (.getfield 10, 3) := dk_180 0 10 (dk_at dksX1_signing_0 19 rfl rfl)
theorem dX1_signing_22 : decode cX1_signing 22 = .ok (.getfield 66, 3) := dk_180 0 66 (dk_at dksX1_signing_1 0 rfl rfl)
theorem dX1_signing_25 : decode cX1_signing 25 = .ok (.iload_n 2, 1) := dk_28 (dk_at dksX1_signing_1 3 rfl rfl)
theorem dX1_signing_26 : decode cX1_signing 26 = .ok (.aaload, 1) := dk_50 (dk_at dksX1_signing_1 4 rfl rfl)
theorem dX1_signing_27 : decode cX1_signing 27 = .ok (.getfield 186, 3) := dk_180 0 186 (dk_at dksX1_signing_1 5 rfl rfl)
theorem dX1_signing_30 : decode cX1_signing 30 = .ok (.if_icmp .ge 28, 3) := dk_162 0 28 (dk_at dksX1_signing_1 8 rfl rfl)
theorem dX1_signing_33 : decode cX1_signing 33 = .ok (.iload_n 1, 1) := dk_27 (dk_at dksX1_signing_1 11 rfl rfl)
theorem dX1_signing_34 : decode cX1_signing 34 = .ok (.iconst 1, 1) := dk_4 (dk_at dksX1_signing_1 12 rfl rfl)
theorem dX1_signing_35 : decode cX1_signing 35 = .ok (.aload_n 0, 1) := dk_42 (dk_at dksX1_signing_1 13 rfl rfl)
theorem dX1_signing_36 : decode cX1_signing 36 = .ok (.getfield 10, 3) := dk_180 0 10 (dk_at dksX1_signing_1 14 rfl rfl)
theorem dX1_signing_39 : decode cX1_signing 39 = .ok (.getfield 66, 3) := dk_180 0 66 (dk_at dksX1_signing_1 17 rfl rfl)
theorem dX1_signing_42 : decode cX1_signing 42 = .ok (.iload_n 2, 1) := dk_28 (dk_at dksX1_signing_1 20 rfl rfl)
theorem dX1_signing_43 : decode cX1_signing 43 = .ok (.aaload, 1) := dk_50 (dk_at dksX1_signing_1 21 rfl rfl)
theorem dX1_signing_44 : decode cX1_signing 44 = .ok (.getfield 189, 3) := dk_180 0 189 (dk_at dksX1_signing_2 0 rfl rfl)
theorem dX1_signing_47 : decode cX1_signing 47 = .ok (.iload_n 3, 1) := dk_29 (dk_at dksX1_signing_2 3 rfl rfl)
theorem dX1_signing_48 : decode cX1_signing 48 = .ok (.iaload, 1) := dk_46 (dk_at dksX1_signing_2 4 rfl rfl)
theorem dX1_signing_49 : decode cX1_signing 49 = .ok (.ishl, 1) := dk_120 (dk_at dksX1_signing_2 5 rfl rfl)
theorem dX1_signing_50 : decode cX1_signing 50 = .ok (.ior, 1) := dk_128 (dk_at dksX1_signing_2 6 rfl rfl)
theorem dX1_signing_51 : decode cX1_signing 51 = .ok (.istore_n 1, 1) := dk_60 (dk_at dksX1_signing_2 7 rfl rfl)
theorem dX1_signing_52 : decode cX1_signing 52 = .ok (.iinc 3 1, 3) := dk_132 3 1 (dk_at dksX1_signing_2 8 rfl rfl)
theorem dX1_signing_55 : decode cX1_signing 55 = .ok (.goto (-38), 3) := dk_167 255 218 (dk_at dksX1_signing_2 11 rfl rfl)
theorem dX1_signing_58 : decode cX1_signing 58 = .ok (.iinc 2 1, 3) := dk_132 2 1 (dk_at dksX1_signing_2 14 rfl rfl)
theorem dX1_signing_61 : decode cX1_signing 61 = .ok (.goto (-57), 3) := dk_167 255 199 (dk_at dksX1_signing_2 17 rfl rfl)
theorem dX1_signing_64 : decode cX1_signing 64 = .ok (.iload_n 1, 1) := dk_27 (dk_at dksX1_signing_2 20 rfl rfl)
theorem dX1_signing_65 : decode cX1_signing 65 = .ok (.ireturn, 1) := dk_172 (dk_at dksX1_signing_2 21 rfl rfl)
abbrev cX1_event : ByteArray := prog_1_method_27_code
def yX1_event : MethodName := ⟨RX1, "event", "(II)I"⟩
def dkwX1_event_1 : List UInt8 := [27, 50, 180, 0, 198, 167, 0, 12, 42, 180, 0, 28, 27, 50, 180, 0, 201, 172]
abbrev dktX1_event_1 : List UInt8 := dkwX1_event_1 ++ []
def dkwX1_event_0 : List UInt8 := [42, 27, 42, 180, 0, 93, 182, 0, 62, 42, 28, 3, 4, 182, 0, 80, 28, 154, 0, 15, 42, 180, 0, 28]
abbrev dktX1_event_0 : List UInt8 := dkwX1_event_0 ++ dktX1_event_1
theorem dksX1_event_0 : cX1_event.data.toList.drop 0 = dktX1_event_0 := by decide +kernel
theorem dksX1_event_1 : cX1_event.data.toList.drop 24 = dktX1_event_1 := dk_seg dksX1_event_0 24 rfl rfl
theorem dX1_event_0 : decode cX1_event 0 = .ok (.aload_n 0, 1) := dk_42 (dk_at dksX1_event_0 0 rfl rfl)
theorem dX1_event_1 : decode cX1_event 1 = .ok (.iload_n 1, 1) := dk_27 (dk_at dksX1_event_0 1 rfl rfl)
theorem dX1_event_2 : decode cX1_event 2 = .ok (.aload_n 0, 1) := dk_42 (dk_at dksX1_event_0 2 rfl rfl)
theorem dX1_event_3 : decode cX1_event 3 = .ok (.getfield 93, 3) := dk_180 0 93 (dk_at dksX1_event_0 3 rfl rfl)
theorem dX1_event_6 : decode cX1_event 6 = .ok (.invokevirtual 62, 3) := dk_182 0 62 (dk_at dksX1_event_0 6 rfl rfl)
theorem dX1_event_9 : decode cX1_event 9 = .ok (.aload_n 0, 1) := dk_42 (dk_at dksX1_event_0 9 rfl rfl)
theorem dX1_event_10 : decode cX1_event 10 = .ok (.iload_n 2, 1) := dk_28 (dk_at dksX1_event_0 10 rfl rfl)
theorem dX1_event_11 : decode cX1_event 11 = .ok (.iconst 0, 1) := dk_3 (dk_at dksX1_event_0 11 rfl rfl)
theorem dX1_event_12 : decode cX1_event 12 = .ok (.iconst 1, 1) := dk_4 (dk_at dksX1_event_0 12 rfl rfl)
theorem dX1_event_13 : decode cX1_event 13 = .ok (.invokevirtual 80, 3) := dk_182 0 80 (dk_at dksX1_event_0 13 rfl rfl)
theorem dX1_event_16 : decode cX1_event 16 = .ok (.iload_n 2, 1) := dk_28 (dk_at dksX1_event_0 16 rfl rfl)
theorem dX1_event_17 : decode cX1_event 17 = .ok (.ifCond .ne 15, 3) := dk_154 0 15 (dk_at dksX1_event_0 17 rfl rfl)
theorem dX1_event_20 : decode cX1_event 20 = .ok (.aload_n 0, 1) := dk_42 (dk_at dksX1_event_0 20 rfl rfl)
theorem dX1_event_21 : decode cX1_event 21 = .ok (.getfield 28, 3) := dk_180 0 28 (dk_at dksX1_event_0 21 rfl rfl)
theorem dX1_event_24 : decode cX1_event 24 = .ok (.iload_n 1, 1) := dk_27 (dk_at dksX1_event_1 0 rfl rfl)
theorem dX1_event_25 : decode cX1_event 25 = .ok (.aaload, 1) := dk_50 (dk_at dksX1_event_1 1 rfl rfl)
theorem dX1_event_26 : decode cX1_event 26 = .ok (.getfield 198, 3) := dk_180 0 198 (dk_at dksX1_event_1 2 rfl rfl)
theorem dX1_event_29 : decode cX1_event 29 = .ok (.goto 12, 3) := dk_167 0 12 (dk_at dksX1_event_1 5 rfl rfl)
theorem dX1_event_32 : decode cX1_event 32 = .ok (.aload_n 0, 1) := dk_42 (dk_at dksX1_event_1 8 rfl rfl)
theorem dX1_event_33 : decode cX1_event 33 = .ok (.getfield 28, 3) := dk_180 0 28 (dk_at dksX1_event_1 9 rfl rfl)
theorem dX1_event_36 : decode cX1_event 36 = .ok (.iload_n 1, 1) := dk_27 (dk_at dksX1_event_1 12 rfl rfl)
theorem dX1_event_37 : decode cX1_event 37 = .ok (.aaload, 1) := dk_50 (dk_at dksX1_event_1 13 rfl rfl)
theorem dX1_event_38 : decode cX1_event 38 = .ok (.getfield 201, 3) := dk_180 0 201 (dk_at dksX1_event_1 14 rfl rfl)
theorem dX1_event_41 : decode cX1_event 41 = .ok (.ireturn, 1) := dk_172 (dk_at dksX1_event_1 17 rfl rfl)
abbrev cX1_layer : ByteArray := prog_1_method_28_code
def yX1_layer : MethodName := ⟨RX1, "layer", "(II)J"⟩
def dkwX1_layer_5 : List UInt8 := [180, 0, 10, 45, 182, 0, 224, 133, 173, 45, 182, 0, 220, 9, 148, 154, 0, 7, 10, 167, 0, 4, 9, 173]
abbrev dktX1_layer_5 : List UInt8 := dkwX1_layer_5 ++ []
def dkwX1_layer_4 : List UInt8 := [182, 0, 224, 182, 0, 228, 133, 173, 45, 180, 0, 186, 133, 173, 16, 10, 45, 182, 0, 127, 100, 133, 173, 42]
abbrev dktX1_layer_4 : List UInt8 := dkwX1_layer_4 ++ dktX1_layer_5
def dkwX1_layer_3 : List UInt8 := [45, 180, 0, 216, 173, 45, 182, 0, 220, 173, 42, 180, 0, 10, 45, 180, 0, 204, 42, 180, 0, 10, 45]
abbrev dktX1_layer_3 : List UInt8 := dkwX1_layer_3 ++ dktX1_layer_4
def dkwX1_layer_2 : List UInt8 := [45, 180, 0, 204, 133, 173, 45, 180, 0, 207, 133, 173, 45, 180, 0, 210, 133, 173, 45, 180, 0, 213, 133, 173]
abbrev dktX1_layer_2 : List UInt8 := dkwX1_layer_2 ++ dktX1_layer_3
def dkwX1_layer_1 : List UInt8 := [170, 0, 0, 0, 133, 0, 0, 0, 0, 0, 0, 0, 9, 0, 0, 0, 53, 0, 0, 0, 59, 0, 0, 0, 65, 0, 0, 0, 71, 0, 0, 0, 77, 0, 0, 0, 82, 0, 0, 0, 87, 0, 0, 0, 108, 0, 0, 0, 114, 0, 0, 0, 123]
abbrev dktX1_layer_1 : List UInt8 := dkwX1_layer_1 ++ dktX1_layer_2
def dkwX1_layer_0 : List UInt8 := [42, 27, 182, 0, 117, 78, 42, 28, 3, 16, 10, 182, 0, 80, 28]
abbrev dktX1_layer_0 : List UInt8 := dkwX1_layer_0 ++ dktX1_layer_1
theorem dksX1_layer_0 : cX1_layer.data.toList.drop 0 = dktX1_layer_0 := by decide +kernel
theorem dksX1_layer_1 : cX1_layer.data.toList.drop 15 = dktX1_layer_1 := dk_seg dksX1_layer_0 15 rfl rfl
theorem dksX1_layer_2 : cX1_layer.data.toList.drop 68 = dktX1_layer_2 := dk_seg dksX1_layer_1 53 rfl rfl
theorem dksX1_layer_3 : cX1_layer.data.toList.drop 92 = dktX1_layer_3 := dk_seg dksX1_layer_2 24 rfl rfl
theorem dksX1_layer_4 : cX1_layer.data.toList.drop 115 = dktX1_layer_4 := dk_seg dksX1_layer_3 23 rfl rfl
theorem dksX1_layer_5 : cX1_layer.data.toList.drop 139 = dktX1_layer_5 := dk_seg dksX1_layer_4 24 rfl rfl
theorem dX1_layer_0 : decode cX1_layer 0 = .ok (.aload_n 0, 1) := dk_42 (dk_at dksX1_layer_0 0 rfl rfl)
theorem dX1_layer_1 : decode cX1_layer 1 = .ok (.iload_n 1, 1) := dk_27 (dk_at dksX1_layer_0 1 rfl rfl)
theorem dX1_layer_2 : decode cX1_layer 2 = .ok (.invokevirtual 117, 3) := dk_182 0 117 (dk_at dksX1_layer_0 2 rfl rfl)
theorem dX1_layer_5 : decode cX1_layer 5 = .ok (.astore_n 3, 1) := dk_78 (dk_at dksX1_layer_0 5 rfl rfl)
theorem dX1_layer_6 : decode cX1_layer 6 = .ok (.aload_n 0, 1) := dk_42 (dk_at dksX1_layer_0 6 rfl rfl)
theorem dX1_layer_7 : decode cX1_layer 7 = .ok (.iload_n 2, 1) := dk_28 (dk_at dksX1_layer_0 7 rfl rfl)
theorem dX1_layer_8 : decode cX1_layer 8 = .ok (.iconst 0, 1) := dk_3 (dk_at dksX1_layer_0 8 rfl rfl)
theorem dX1_layer_9 : decode cX1_layer 9 = .ok (.bipush 10, 2) := dk_16 10 (dk_at dksX1_layer_0 9 rfl rfl)
theorem dX1_layer_11 : decode cX1_layer 11 = .ok (.invokevirtual 80, 3) := dk_182 0 80 (dk_at dksX1_layer_0 11 rfl rfl)
theorem dX1_layer_14 : decode cX1_layer 14 = .ok (.iload_n 2, 1) := dk_28 (dk_at dksX1_layer_0 14 rfl rfl)
theorem dX1_layer_15 : decode cX1_layer 15 = .ok (.tableswitch 133 0 9 #[53, 59, 65, 71, 77, 82, 87, 108, 114, 123], 53) := by decide +kernel
theorem dX1_layer_68 : decode cX1_layer 68 = .ok (.aload_n 3, 1) := dk_45 (dk_at dksX1_layer_2 0 rfl rfl)
theorem dX1_layer_69 : decode cX1_layer 69 = .ok (.getfield 204, 3) := dk_180 0 204 (dk_at dksX1_layer_2 1 rfl rfl)
theorem dX1_layer_72 : decode cX1_layer 72 = .ok (.i2l, 1) := dk_133 (dk_at dksX1_layer_2 4 rfl rfl)
theorem dX1_layer_73 : decode cX1_layer 73 = .ok (.lreturn, 1) := dk_173 (dk_at dksX1_layer_2 5 rfl rfl)
theorem dX1_layer_74 : decode cX1_layer 74 = .ok (.aload_n 3, 1) := dk_45 (dk_at dksX1_layer_2 6 rfl rfl)
theorem dX1_layer_75 : decode cX1_layer 75 = .ok (.getfield 207, 3) := dk_180 0 207 (dk_at dksX1_layer_2 7 rfl rfl)
theorem dX1_layer_78 : decode cX1_layer 78 = .ok (.i2l, 1) := dk_133 (dk_at dksX1_layer_2 10 rfl rfl)
theorem dX1_layer_79 : decode cX1_layer 79 = .ok (.lreturn, 1) := dk_173 (dk_at dksX1_layer_2 11 rfl rfl)
theorem dX1_layer_80 : decode cX1_layer 80 = .ok (.aload_n 3, 1) := dk_45 (dk_at dksX1_layer_2 12 rfl rfl)
theorem dX1_layer_81 : decode cX1_layer 81 = .ok (.getfield 210, 3) := dk_180 0 210 (dk_at dksX1_layer_2 13 rfl rfl)
theorem dX1_layer_84 : decode cX1_layer 84 = .ok (.i2l, 1) := dk_133 (dk_at dksX1_layer_2 16 rfl rfl)
theorem dX1_layer_85 : decode cX1_layer 85 = .ok (.lreturn, 1) := dk_173 (dk_at dksX1_layer_2 17 rfl rfl)
theorem dX1_layer_86 : decode cX1_layer 86 = .ok (.aload_n 3, 1) := dk_45 (dk_at dksX1_layer_2 18 rfl rfl)
theorem dX1_layer_87 : decode cX1_layer 87 = .ok (.getfield 213, 3) := dk_180 0 213 (dk_at dksX1_layer_2 19 rfl rfl)
theorem dX1_layer_90 : decode cX1_layer 90 = .ok (.i2l, 1) := dk_133 (dk_at dksX1_layer_2 22 rfl rfl)
theorem dX1_layer_91 : decode cX1_layer 91 = .ok (.lreturn, 1) := dk_173 (dk_at dksX1_layer_2 23 rfl rfl)
theorem dX1_layer_92 : decode cX1_layer 92 = .ok (.aload_n 3, 1) := dk_45 (dk_at dksX1_layer_3 0 rfl rfl)
theorem dX1_layer_93 : decode cX1_layer 93 = .ok (.getfield 216, 3) := dk_180 0 216 (dk_at dksX1_layer_3 1 rfl rfl)
theorem dX1_layer_96 : decode cX1_layer 96 = .ok (.lreturn, 1) := dk_173 (dk_at dksX1_layer_3 4 rfl rfl)
theorem dX1_layer_97 : decode cX1_layer 97 = .ok (.aload_n 3, 1) := dk_45 (dk_at dksX1_layer_3 5 rfl rfl)
theorem dX1_layer_98 : decode cX1_layer 98 = .ok (.invokevirtual 220, 3) := dk_182 0 220 (dk_at dksX1_layer_3 6 rfl rfl)
theorem dX1_layer_101 : decode cX1_layer 101 = .ok (.lreturn, 1) := dk_173 (dk_at dksX1_layer_3 9 rfl rfl)
theorem dX1_layer_102 : decode cX1_layer 102 = .ok (.aload_n 0, 1) := dk_42 (dk_at dksX1_layer_3 10 rfl rfl)
theorem dX1_layer_103 : decode cX1_layer 103 = .ok (.getfield 10, 3) := dk_180 0 10 (dk_at dksX1_layer_3 11 rfl rfl)
theorem dX1_layer_106 : decode cX1_layer 106 = .ok (.aload_n 3, 1) := dk_45 (dk_at dksX1_layer_3 14 rfl rfl)
theorem dX1_layer_107 : decode cX1_layer 107 = .ok (.getfield 204, 3) := dk_180 0 204 (dk_at dksX1_layer_3 15 rfl rfl)
theorem dX1_layer_110 : decode cX1_layer 110 = .ok (.aload_n 0, 1) := dk_42 (dk_at dksX1_layer_3 18 rfl rfl)
theorem dX1_layer_111 : decode cX1_layer 111 = .ok (.getfield 10, 3) := dk_180 0 10 (dk_at dksX1_layer_3 19 rfl rfl)
theorem dX1_layer_114 : decode cX1_layer 114 = .ok (.aload_n 3, 1) := dk_45 (dk_at dksX1_layer_3 22 rfl rfl)
theorem dX1_layer_115 : decode cX1_layer 115 = .ok (.invokevirtual 224, 3) := dk_182 0 224 (dk_at dksX1_layer_4 0 rfl rfl)
theorem dX1_layer_118 : decode cX1_layer 118 = .ok (.invokevirtual 228, 3) := dk_182 0 228 (dk_at dksX1_layer_4 3 rfl rfl)
theorem dX1_layer_121 : decode cX1_layer 121 = .ok (.i2l, 1) := dk_133 (dk_at dksX1_layer_4 6 rfl rfl)
theorem dX1_layer_122 : decode cX1_layer 122 = .ok (.lreturn, 1) := dk_173 (dk_at dksX1_layer_4 7 rfl rfl)
theorem dX1_layer_123 : decode cX1_layer 123 = .ok (.aload_n 3, 1) := dk_45 (dk_at dksX1_layer_4 8 rfl rfl)
theorem dX1_layer_124 : decode cX1_layer 124 = .ok (.getfield 186, 3) := dk_180 0 186 (dk_at dksX1_layer_4 9 rfl rfl)
theorem dX1_layer_127 : decode cX1_layer 127 = .ok (.i2l, 1) := dk_133 (dk_at dksX1_layer_4 12 rfl rfl)
theorem dX1_layer_128 : decode cX1_layer 128 = .ok (.lreturn, 1) := dk_173 (dk_at dksX1_layer_4 13 rfl rfl)
theorem dX1_layer_129 : decode cX1_layer 129 = .ok (.bipush 10, 2) := dk_16 10 (dk_at dksX1_layer_4 14 rfl rfl)
theorem dX1_layer_131 : decode cX1_layer 131 = .ok (.aload_n 3, 1) := dk_45 (dk_at dksX1_layer_4 16 rfl rfl)
theorem dX1_layer_132 : decode cX1_layer 132 = .ok (.invokevirtual 127, 3) := dk_182 0 127 (dk_at dksX1_layer_4 17 rfl rfl)
theorem dX1_layer_135 : decode cX1_layer 135 = .ok (.isub, 1) := dk_100 (dk_at dksX1_layer_4 20 rfl rfl)
theorem dX1_layer_136 : decode cX1_layer 136 = .ok (.i2l, 1) := dk_133 (dk_at dksX1_layer_4 21 rfl rfl)
theorem dX1_layer_137 : decode cX1_layer 137 = .ok (.lreturn, 1) := dk_173 (dk_at dksX1_layer_4 22 rfl rfl)
theorem dX1_layer_138 : decode cX1_layer 138 = .ok (.aload_n 0, 1) := dk_42 (dk_at dksX1_layer_4 23 rfl rfl)
theorem dX1_layer_139 : decode cX1_layer 139 = .ok (.getfield 10, 3) := dk_180 0 10 (dk_at dksX1_layer_5 0 rfl rfl)
theorem dX1_layer_142 : decode cX1_layer 142 = .ok (.aload_n 3, 1) := dk_45 (dk_at dksX1_layer_5 3 rfl rfl)
theorem dX1_layer_143 : decode cX1_layer 143 = .ok (.invokevirtual 224, 3) := dk_182 0 224 (dk_at dksX1_layer_5 4 rfl rfl)
theorem dX1_layer_146 : decode cX1_layer 146 = .ok (.i2l, 1) := dk_133 (dk_at dksX1_layer_5 7 rfl rfl)
theorem dX1_layer_147 : decode cX1_layer 147 = .ok (.lreturn, 1) := dk_173 (dk_at dksX1_layer_5 8 rfl rfl)
theorem dX1_layer_148 : decode cX1_layer 148 = .ok (.aload_n 3, 1) := dk_45 (dk_at dksX1_layer_5 9 rfl rfl)
theorem dX1_layer_149 : decode cX1_layer 149 = .ok (.invokevirtual 220, 3) := dk_182 0 220 (dk_at dksX1_layer_5 10 rfl rfl)
theorem dX1_layer_152 : decode cX1_layer 152 = .ok (.lconst 0, 1) := dk_9 (dk_at dksX1_layer_5 13 rfl rfl)
theorem dX1_layer_153 : decode cX1_layer 153 = .ok (.lcmp, 1) := dk_148 (dk_at dksX1_layer_5 14 rfl rfl)
theorem dX1_layer_154 : decode cX1_layer 154 = .ok (.ifCond .ne 7, 3) := dk_154 0 7 (dk_at dksX1_layer_5 15 rfl rfl)
theorem dX1_layer_157 : decode cX1_layer 157 = .ok (.lconst 1, 1) := dk_10 (dk_at dksX1_layer_5 18 rfl rfl)
theorem dX1_layer_158 : decode cX1_layer 158 = .ok (.goto 4, 3) := dk_167 0 4 (dk_at dksX1_layer_5 19 rfl rfl)
theorem dX1_layer_161 : decode cX1_layer 161 = .ok (.lconst 0, 1) := dk_9 (dk_at dksX1_layer_5 22 rfl rfl)
theorem dX1_layer_162 : decode cX1_layer 162 = .ok (.lreturn, 1) := dk_173 (dk_at dksX1_layer_5 23 rfl rfl)
abbrev cX1_signed : ByteArray := prog_1_method_29_code
def yX1_signed : MethodName := ⟨RX1, "signed", "(III)J"⟩
def dkwX1_signed_3 : List UInt8 := [28, 47, 173]
abbrev dktX1_signed_3 : List UInt8 := dkwX1_signed_3 ++ []
def dkwX1_signed_2 : List UInt8 := [167, 0, 26, 29, 4, 160, 0, 14, 25, 4, 180, 0, 236, 28, 46, 133, 167, 0, 10, 25, 4, 180, 0, 239]
abbrev dktX1_signed_2 : List UInt8 := dkwX1_signed_2 ++ dktX1_signed_3
def dkwX1_signed_1 : List UInt8 := [180, 0, 186, 161, 0, 9, 20, 0, 234, 167, 0, 41, 29, 154, 0, 14, 25, 4, 180, 0, 189, 28, 46, 133]
abbrev dktX1_signed_1 : List UInt8 := dkwX1_signed_1 ++ dktX1_signed_2
def dkwX1_signed_0 : List UInt8 := [42, 27, 182, 0, 117, 58, 4, 42, 28, 182, 0, 232, 42, 29, 3, 5, 182, 0, 80, 28, 25, 4]
abbrev dktX1_signed_0 : List UInt8 := dkwX1_signed_0 ++ dktX1_signed_1
theorem dksX1_signed_0 : cX1_signed.data.toList.drop 0 = dktX1_signed_0 := by decide +kernel
theorem dksX1_signed_1 : cX1_signed.data.toList.drop 22 = dktX1_signed_1 := dk_seg dksX1_signed_0 22 rfl rfl
theorem dksX1_signed_2 : cX1_signed.data.toList.drop 46 = dktX1_signed_2 := dk_seg dksX1_signed_1 24 rfl rfl
theorem dksX1_signed_3 : cX1_signed.data.toList.drop 70 = dktX1_signed_3 := dk_seg dksX1_signed_2 24 rfl rfl
theorem dX1_signed_0 : decode cX1_signed 0 = .ok (.aload_n 0, 1) := dk_42 (dk_at dksX1_signed_0 0 rfl rfl)
theorem dX1_signed_1 : decode cX1_signed 1 = .ok (.iload_n 1, 1) := dk_27 (dk_at dksX1_signed_0 1 rfl rfl)
theorem dX1_signed_2 : decode cX1_signed 2 = .ok (.invokevirtual 117, 3) := dk_182 0 117 (dk_at dksX1_signed_0 2 rfl rfl)
theorem dX1_signed_5 : decode cX1_signed 5 = .ok (.astore 4, 2) := dk_58 4 (dk_at dksX1_signed_0 5 rfl rfl)
theorem dX1_signed_7 : decode cX1_signed 7 = .ok (.aload_n 0, 1) := dk_42 (dk_at dksX1_signed_0 7 rfl rfl)
theorem dX1_signed_8 : decode cX1_signed 8 = .ok (.iload_n 2, 1) := dk_28 (dk_at dksX1_signed_0 8 rfl rfl)
theorem dX1_signed_9 : decode cX1_signed 9 = .ok (.invokevirtual 232, 3) := dk_182 0 232 (dk_at dksX1_signed_0 9 rfl rfl)
theorem dX1_signed_12 : decode cX1_signed 12 = .ok (.aload_n 0, 1) := dk_42 (dk_at dksX1_signed_0 12 rfl rfl)
theorem dX1_signed_13 : decode cX1_signed 13 = .ok (.iload_n 3, 1) := dk_29 (dk_at dksX1_signed_0 13 rfl rfl)
theorem dX1_signed_14 : decode cX1_signed 14 = .ok (.iconst 0, 1) := dk_3 (dk_at dksX1_signed_0 14 rfl rfl)
theorem dX1_signed_15 : decode cX1_signed 15 = .ok (.iconst 2, 1) := dk_5 (dk_at dksX1_signed_0 15 rfl rfl)
theorem dX1_signed_16 : decode cX1_signed 16 = .ok (.invokevirtual 80, 3) := dk_182 0 80 (dk_at dksX1_signed_0 16 rfl rfl)
theorem dX1_signed_19 : decode cX1_signed 19 = .ok (.iload_n 2, 1) := dk_28 (dk_at dksX1_signed_0 19 rfl rfl)
theorem dX1_signed_20 : decode cX1_signed 20 = .ok (.aload 4, 2) := dk_25 4 (dk_at dksX1_signed_0 20 rfl rfl)
theorem dX1_signed_22 : decode cX1_signed 22 = .ok (.getfield 186, 3) := dk_180 0 186 (dk_at dksX1_signed_1 0 rfl rfl)
theorem dX1_signed_25 : decode cX1_signed 25 = .ok (.if_icmp .lt 9, 3) := dk_161 0 9 (dk_at dksX1_signed_1 3 rfl rfl)
theorem dX1_signed_28 : decode cX1_signed 28 = .ok (.ldc2_w 234, 3) := dk_20 0 234 (dk_at dksX1_signed_1 6 rfl rfl)
theorem dX1_signed_31 : decode cX1_signed 31 = .ok (.goto 41, 3) := dk_167 0 41 (dk_at dksX1_signed_1 9 rfl rfl)
theorem dX1_signed_34 : decode cX1_signed 34 = .ok (.iload_n 3, 1) := dk_29 (dk_at dksX1_signed_1 12 rfl rfl)
theorem dX1_signed_35 : decode cX1_signed 35 = .ok (.ifCond .ne 14, 3) := dk_154 0 14 (dk_at dksX1_signed_1 13 rfl rfl)
theorem dX1_signed_38 : decode cX1_signed 38 = .ok (.aload 4, 2) := dk_25 4 (dk_at dksX1_signed_1 16 rfl rfl)
theorem dX1_signed_40 : decode cX1_signed 40 = .ok (.getfield 189, 3) := dk_180 0 189 (dk_at dksX1_signed_1 18 rfl rfl)
theorem dX1_signed_43 : decode cX1_signed 43 = .ok (.iload_n 2, 1) := dk_28 (dk_at dksX1_signed_1 21 rfl rfl)
theorem dX1_signed_44 : decode cX1_signed 44 = .ok (.iaload, 1) := dk_46 (dk_at dksX1_signed_1 22 rfl rfl)
theorem dX1_signed_45 : decode cX1_signed 45 = .ok (.i2l, 1) := dk_133 (dk_at dksX1_signed_1 23 rfl rfl)
theorem dX1_signed_46 : decode cX1_signed 46 = .ok (.goto 26, 3) := dk_167 0 26 (dk_at dksX1_signed_2 0 rfl rfl)
theorem dX1_signed_49 : decode cX1_signed 49 = .ok (.iload_n 3, 1) := dk_29 (dk_at dksX1_signed_2 3 rfl rfl)
theorem dX1_signed_50 : decode cX1_signed 50 = .ok (.iconst 1, 1) := dk_4 (dk_at dksX1_signed_2 4 rfl rfl)
theorem dX1_signed_51 : decode cX1_signed 51 = .ok (.if_icmp .ne 14, 3) := dk_160 0 14 (dk_at dksX1_signed_2 5 rfl rfl)
theorem dX1_signed_54 : decode cX1_signed 54 = .ok (.aload 4, 2) := dk_25 4 (dk_at dksX1_signed_2 8 rfl rfl)
theorem dX1_signed_56 : decode cX1_signed 56 = .ok (.getfield 236, 3) := dk_180 0 236 (dk_at dksX1_signed_2 10 rfl rfl)
theorem dX1_signed_59 : decode cX1_signed 59 = .ok (.iload_n 2, 1) := dk_28 (dk_at dksX1_signed_2 13 rfl rfl)
theorem dX1_signed_60 : decode cX1_signed 60 = .ok (.iaload, 1) := dk_46 (dk_at dksX1_signed_2 14 rfl rfl)
theorem dX1_signed_61 : decode cX1_signed 61 = .ok (.i2l, 1) := dk_133 (dk_at dksX1_signed_2 15 rfl rfl)
theorem dX1_signed_62 : decode cX1_signed 62 = .ok (.goto 10, 3) := dk_167 0 10 (dk_at dksX1_signed_2 16 rfl rfl)
theorem dX1_signed_65 : decode cX1_signed 65 = .ok (.aload 4, 2) := dk_25 4 (dk_at dksX1_signed_2 19 rfl rfl)
theorem dX1_signed_67 : decode cX1_signed 67 = .ok (.getfield 239, 3) := dk_180 0 239 (dk_at dksX1_signed_2 21 rfl rfl)
theorem dX1_signed_70 : decode cX1_signed 70 = .ok (.iload_n 2, 1) := dk_28 (dk_at dksX1_signed_3 0 rfl rfl)
theorem dX1_signed_71 : decode cX1_signed 71 = .ok (.laload, 1) := dk_47 (dk_at dksX1_signed_3 1 rfl rfl)
theorem dX1_signed_72 : decode cX1_signed 72 = .ok (.lreturn, 1) := dk_173 (dk_at dksX1_signed_3 2 rfl rfl)
abbrev cX1_placeOf : ByteArray := prog_1_method_11_code
def yX1_placeOf : MethodName := ⟨RX1, "placeOf", "(I)V"⟩
def dkwX1_placeOf_0 : List UInt8 := [42, 27, 3, 18, 89, 182, 0, 80, 177]
abbrev dktX1_placeOf_0 : List UInt8 := dkwX1_placeOf_0 ++ []
theorem dksX1_placeOf_0 : cX1_placeOf.data.toList.drop 0 = dktX1_placeOf_0 := by decide +kernel
theorem dX1_placeOf_0 : decode cX1_placeOf 0 = .ok (.aload_n 0, 1) := dk_42 (dk_at dksX1_placeOf_0 0 rfl rfl)
theorem dX1_placeOf_1 : decode cX1_placeOf 1 = .ok (.iload_n 1, 1) := dk_27 (dk_at dksX1_placeOf_0 1 rfl rfl)
theorem dX1_placeOf_2 : decode cX1_placeOf 2 = .ok (.iconst 0, 1) := dk_3 (dk_at dksX1_placeOf_0 2 rfl rfl)
theorem dX1_placeOf_3 : decode cX1_placeOf 3 = .ok (.ldc 89, 2) := dk_18 89 (dk_at dksX1_placeOf_0 3 rfl rfl)
theorem dX1_placeOf_5 : decode cX1_placeOf 5 = .ok (.invokevirtual 80, 3) := dk_182 0 80 (dk_at dksX1_placeOf_0 5 rfl rfl)
theorem dX1_placeOf_8 : decode cX1_placeOf 8 = .ok (.return_, 1) := dk_177 (dk_at dksX1_placeOf_0 8 rfl rfl)
abbrev cX1_year : ByteArray := prog_1_method_31_code
def yX1_year : MethodName := ⟨RX1, "year", "(II)J"⟩
def dkwX1_year_7 : List UInt8 := [186, 1, 11, 0, 0, 182, 1, 5, 173]
abbrev dktX1_year_7 : List UInt8 := dkwX1_year_7 ++ []
def dkwX1_year_6 : List UInt8 := [186, 1, 9, 0, 0, 182, 1, 5, 101, 173, 42, 27, 186, 1, 10, 0, 0, 182, 1, 5, 173, 42, 27]
abbrev dktX1_year_6 : List UInt8 := dkwX1_year_6 ++ dktX1_year_7
def dkwX1_year_5 : List UInt8 := [167, 0, 29, 42, 180, 0, 10, 27, 29, 4, 100, 182, 0, 245, 182, 0, 255, 133, 42, 27]
abbrev dktX1_year_5 : List UInt8 := dkwX1_year_5 ++ dktX1_year_6
def dkwX1_year_4 : List UInt8 := [182, 0, 245, 182, 0, 255, 133, 173, 42, 27, 186, 1, 2, 0, 0, 182, 1, 5, 173, 29, 154, 0, 7, 9]
abbrev dktX1_year_4 : List UInt8 := dkwX1_year_4 ++ dktX1_year_5
def dkwX1_year_3 : List UInt8 := [180, 0, 207, 133, 173, 29, 154, 0, 9, 20, 0, 234, 167, 0, 18, 42, 180, 0, 10, 27, 29, 4, 100]
abbrev dktX1_year_3 : List UInt8 := dkwX1_year_3 ++ dktX1_year_4
def dkwX1_year_2 : List UInt8 := [29, 133, 173, 29, 154, 0, 9, 20, 0, 234, 167, 0, 16, 42, 180, 0, 10, 27, 3, 182, 0, 245]
abbrev dktX1_year_2 : List UInt8 := dkwX1_year_2 ++ dktX1_year_3
def dkwX1_year_1 : List UInt8 := [170, 0, 0, 0, 0, 0, 0, 150, 0, 0, 0, 0, 0, 0, 0, 5, 0, 0, 0, 40, 0, 0, 0, 43, 0, 0, 0, 67, 0, 0, 0, 93, 0, 0, 0, 104, 0, 0, 0, 139]
abbrev dktX1_year_1 : List UInt8 := dkwX1_year_1 ++ dktX1_year_2
def dkwX1_year_0 : List UInt8 := [42, 27, 182, 0, 84, 42, 28, 3, 16, 6, 182, 0, 80, 42, 180, 0, 10, 180, 0, 243, 27, 46, 62, 28]
abbrev dktX1_year_0 : List UInt8 := dkwX1_year_0 ++ dktX1_year_1
theorem dksX1_year_0 : cX1_year.data.toList.drop 0 = dktX1_year_0 := by decide +kernel
theorem dksX1_year_1 : cX1_year.data.toList.drop 24 = dktX1_year_1 := dk_seg dksX1_year_0 24 rfl rfl
theorem dksX1_year_2 : cX1_year.data.toList.drop 64 = dktX1_year_2 := dk_seg dksX1_year_1 40 rfl rfl
theorem dksX1_year_3 : cX1_year.data.toList.drop 86 = dktX1_year_3 := dk_seg dksX1_year_2 22 rfl rfl
theorem dksX1_year_4 : cX1_year.data.toList.drop 109 = dktX1_year_4 := dk_seg dksX1_year_3 23 rfl rfl
theorem dksX1_year_5 : cX1_year.data.toList.drop 133 = dktX1_year_5 := dk_seg dksX1_year_4 24 rfl rfl
theorem dksX1_year_6 : cX1_year.data.toList.drop 153 = dktX1_year_6 := dk_seg dksX1_year_5 20 rfl rfl
theorem dksX1_year_7 : cX1_year.data.toList.drop 176 = dktX1_year_7 := dk_seg dksX1_year_6 23 rfl rfl
theorem dX1_year_0 : decode cX1_year 0 = .ok (.aload_n 0, 1) := dk_42 (dk_at dksX1_year_0 0 rfl rfl)
theorem dX1_year_1 : decode cX1_year 1 = .ok (.iload_n 1, 1) := dk_27 (dk_at dksX1_year_0 1 rfl rfl)
theorem dX1_year_2 : decode cX1_year 2 = .ok (.invokevirtual 84, 3) := dk_182 0 84 (dk_at dksX1_year_0 2 rfl rfl)
theorem dX1_year_5 : decode cX1_year 5 = .ok (.aload_n 0, 1) := dk_42 (dk_at dksX1_year_0 5 rfl rfl)
theorem dX1_year_6 : decode cX1_year 6 = .ok (.iload_n 2, 1) := dk_28 (dk_at dksX1_year_0 6 rfl rfl)
theorem dX1_year_7 : decode cX1_year 7 = .ok (.iconst 0, 1) := dk_3 (dk_at dksX1_year_0 7 rfl rfl)
theorem dX1_year_8 : decode cX1_year 8 = .ok (.bipush 6, 2) := dk_16 6 (dk_at dksX1_year_0 8 rfl rfl)
theorem dX1_year_10 : decode cX1_year 10 = .ok (.invokevirtual 80, 3) := dk_182 0 80 (dk_at dksX1_year_0 10 rfl rfl)
theorem dX1_year_13 : decode cX1_year 13 = .ok (.aload_n 0, 1) := dk_42 (dk_at dksX1_year_0 13 rfl rfl)
theorem dX1_year_14 : decode cX1_year 14 = .ok (.getfield 10, 3) := dk_180 0 10 (dk_at dksX1_year_0 14 rfl rfl)
theorem dX1_year_17 : decode cX1_year 17 = .ok (.getfield 243, 3) := dk_180 0 243 (dk_at dksX1_year_0 17 rfl rfl)
theorem dX1_year_20 : decode cX1_year 20 = .ok (.iload_n 1, 1) := dk_27 (dk_at dksX1_year_0 20 rfl rfl)
theorem dX1_year_21 : decode cX1_year 21 = .ok (.iaload, 1) := dk_46 (dk_at dksX1_year_0 21 rfl rfl)
theorem dX1_year_22 : decode cX1_year 22 = .ok (.istore_n 3, 1) := dk_62 (dk_at dksX1_year_0 22 rfl rfl)
theorem dX1_year_23 : decode cX1_year 23 = .ok (.iload_n 2, 1) := dk_28 (dk_at dksX1_year_0 23 rfl rfl)
theorem dX1_year_24 : decode cX1_year 24 = .ok (.tableswitch 150 0 5 #[40, 43, 67, 93, 104, 139], 40) := by decide +kernel
theorem dX1_year_64 : decode cX1_year 64 = .ok (.iload_n 3, 1) := dk_29 (dk_at dksX1_year_2 0 rfl rfl)
theorem dX1_year_65 : decode cX1_year 65 = .ok (.i2l, 1) := dk_133 (dk_at dksX1_year_2 1 rfl rfl)
theorem dX1_year_66 : decode cX1_year 66 = .ok (.lreturn, 1) := dk_173 (dk_at dksX1_year_2 2 rfl rfl)
theorem dX1_year_67 : decode cX1_year 67 = .ok (.iload_n 3, 1) := dk_29 (dk_at dksX1_year_2 3 rfl rfl)
theorem dX1_year_68 : decode cX1_year 68 = .ok (.ifCond .ne 9, 3) := dk_154 0 9 (dk_at dksX1_year_2 4 rfl rfl)
theorem dX1_year_71 : decode cX1_year 71 = .ok (.ldc2_w 234, 3) := dk_20 0 234 (dk_at dksX1_year_2 7 rfl rfl)
theorem dX1_year_74 : decode cX1_year 74 = .ok (.goto 16, 3) := dk_167 0 16 (dk_at dksX1_year_2 10 rfl rfl)
theorem dX1_year_77 : decode cX1_year 77 = .ok (.aload_n 0, 1) := dk_42 (dk_at dksX1_year_2 13 rfl rfl)
theorem dX1_year_78 : decode cX1_year 78 = .ok (.getfield 10, 3) := dk_180 0 10 (dk_at dksX1_year_2 14 rfl rfl)
theorem dX1_year_81 : decode cX1_year 81 = .ok (.iload_n 1, 1) := dk_27 (dk_at dksX1_year_2 17 rfl rfl)
theorem dX1_year_82 : decode cX1_year 82 = .ok (.iconst 0, 1) := dk_3 (dk_at dksX1_year_2 18 rfl rfl)
theorem dX1_year_83 : decode cX1_year 83 = .ok (.invokevirtual 245, 3) := dk_182 0 245 (dk_at dksX1_year_2 19 rfl rfl)
theorem dX1_year_86 : decode cX1_year 86 = .ok (.getfield 207, 3) := dk_180 0 207 (dk_at dksX1_year_3 0 rfl rfl)
theorem dX1_year_89 : decode cX1_year 89 = .ok (.i2l, 1) := dk_133 (dk_at dksX1_year_3 3 rfl rfl)
theorem dX1_year_90 : decode cX1_year 90 = .ok (.lreturn, 1) := dk_173 (dk_at dksX1_year_3 4 rfl rfl)
theorem dX1_year_91 : decode cX1_year 91 = .ok (.iload_n 3, 1) := dk_29 (dk_at dksX1_year_3 5 rfl rfl)
theorem dX1_year_92 : decode cX1_year 92 = .ok (.ifCond .ne 9, 3) := dk_154 0 9 (dk_at dksX1_year_3 6 rfl rfl)
theorem dX1_year_95 : decode cX1_year 95 = .ok (.ldc2_w 234, 3) := dk_20 0 234 (dk_at dksX1_year_3 9 rfl rfl)
theorem dX1_year_98 : decode cX1_year 98 = .ok (.goto 18, 3) := dk_167 0 18 (dk_at dksX1_year_3 12 rfl rfl)
theorem dX1_year_101 : decode cX1_year 101 = .ok (.aload_n 0, 1) := dk_42 (dk_at dksX1_year_3 15 rfl rfl)
theorem dX1_year_102 : decode cX1_year 102 = .ok (.getfield 10, 3) := dk_180 0 10 (dk_at dksX1_year_3 16 rfl rfl)
theorem dX1_year_105 : decode cX1_year 105 = .ok (.iload_n 1, 1) := dk_27 (dk_at dksX1_year_3 19 rfl rfl)
theorem dX1_year_106 : decode cX1_year 106 = .ok (.iload_n 3, 1) := dk_29 (dk_at dksX1_year_3 20 rfl rfl)
theorem dX1_year_107 : decode cX1_year 107 = .ok (.iconst 1, 1) := dk_4 (dk_at dksX1_year_3 21 rfl rfl)
theorem dX1_year_108 : decode cX1_year 108 = .ok (.isub, 1) := dk_100 (dk_at dksX1_year_3 22 rfl rfl)
theorem dX1_year_109 : decode cX1_year 109 = .ok (.invokevirtual 245, 3) := dk_182 0 245 (dk_at dksX1_year_4 0 rfl rfl)
theorem dX1_year_112 : decode cX1_year 112 = .ok (.invokevirtual 255, 3) := dk_182 0 255 (dk_at dksX1_year_4 3 rfl rfl)
theorem dX1_year_115 : decode cX1_year 115 = .ok (.i2l, 1) := dk_133 (dk_at dksX1_year_4 6 rfl rfl)
theorem dX1_year_116 : decode cX1_year 116 = .ok (.lreturn, 1) := dk_173 (dk_at dksX1_year_4 7 rfl rfl)
theorem dX1_year_117 : decode cX1_year 117 = .ok (.aload_n 0, 1) := dk_42 (dk_at dksX1_year_4 8 rfl rfl)
theorem dX1_year_118 : decode cX1_year 118 = .ok (.iload_n 1, 1) := dk_27 (dk_at dksX1_year_4 9 rfl rfl)
theorem dX1_year_119 : decode cX1_year 119 = .ok (.invokedynamic 258, 5) := by decide +kernel
theorem dX1_year_124 : decode cX1_year 124 = .ok (.invokevirtual 261, 3) := dk_182 1 5 (dk_at dksX1_year_4 15 rfl rfl)
theorem dX1_year_127 : decode cX1_year 127 = .ok (.lreturn, 1) := dk_173 (dk_at dksX1_year_4 18 rfl rfl)
theorem dX1_year_128 : decode cX1_year 128 = .ok (.iload_n 3, 1) := dk_29 (dk_at dksX1_year_4 19 rfl rfl)
theorem dX1_year_129 : decode cX1_year 129 = .ok (.ifCond .ne 7, 3) := dk_154 0 7 (dk_at dksX1_year_4 20 rfl rfl)
theorem dX1_year_132 : decode cX1_year 132 = .ok (.lconst 0, 1) := dk_9 (dk_at dksX1_year_4 23 rfl rfl)
theorem dX1_year_133 : decode cX1_year 133 = .ok (.goto 29, 3) := dk_167 0 29 (dk_at dksX1_year_5 0 rfl rfl)
theorem dX1_year_136 : decode cX1_year 136 = .ok (.aload_n 0, 1) := dk_42 (dk_at dksX1_year_5 3 rfl rfl)
theorem dX1_year_137 : decode cX1_year 137 = .ok (.getfield 10, 3) := dk_180 0 10 (dk_at dksX1_year_5 4 rfl rfl)
theorem dX1_year_140 : decode cX1_year 140 = .ok (.iload_n 1, 1) := dk_27 (dk_at dksX1_year_5 7 rfl rfl)
theorem dX1_year_141 : decode cX1_year 141 = .ok (.iload_n 3, 1) := dk_29 (dk_at dksX1_year_5 8 rfl rfl)
theorem dX1_year_142 : decode cX1_year 142 = .ok (.iconst 1, 1) := dk_4 (dk_at dksX1_year_5 9 rfl rfl)
theorem dX1_year_143 : decode cX1_year 143 = .ok (.isub, 1) := dk_100 (dk_at dksX1_year_5 10 rfl rfl)
theorem dX1_year_144 : decode cX1_year 144 = .ok (.invokevirtual 245, 3) := dk_182 0 245 (dk_at dksX1_year_5 11 rfl rfl)
theorem dX1_year_147 : decode cX1_year 147 = .ok (.invokevirtual 255, 3) := dk_182 0 255 (dk_at dksX1_year_5 14 rfl rfl)
theorem dX1_year_150 : decode cX1_year 150 = .ok (.i2l, 1) := dk_133 (dk_at dksX1_year_5 17 rfl rfl)
theorem dX1_year_151 : decode cX1_year 151 = .ok (.aload_n 0, 1) := dk_42 (dk_at dksX1_year_5 18 rfl rfl)
theorem dX1_year_152 : decode cX1_year 152 = .ok (.iload_n 1, 1) := dk_27 (dk_at dksX1_year_5 19 rfl rfl)
theorem dX1_year_153 : decode cX1_year 153 = .ok (.invokedynamic 265, 5) := by decide +kernel
theorem dX1_year_158 : decode cX1_year 158 = .ok (.invokevirtual 261, 3) := dk_182 1 5 (dk_at dksX1_year_6 5 rfl rfl)
theorem dX1_year_161 : decode cX1_year 161 = .ok (.lsub, 1) := dk_101 (dk_at dksX1_year_6 8 rfl rfl)
theorem dX1_year_162 : decode cX1_year 162 = .ok (.lreturn, 1) := dk_173 (dk_at dksX1_year_6 9 rfl rfl)
theorem dX1_year_163 : decode cX1_year 163 = .ok (.aload_n 0, 1) := dk_42 (dk_at dksX1_year_6 10 rfl rfl)
theorem dX1_year_164 : decode cX1_year 164 = .ok (.iload_n 1, 1) := dk_27 (dk_at dksX1_year_6 11 rfl rfl)
theorem dX1_year_165 : decode cX1_year 165 = .ok (.invokedynamic 266, 5) := by decide +kernel
theorem dX1_year_170 : decode cX1_year 170 = .ok (.invokevirtual 261, 3) := dk_182 1 5 (dk_at dksX1_year_6 17 rfl rfl)
theorem dX1_year_173 : decode cX1_year 173 = .ok (.lreturn, 1) := dk_173 (dk_at dksX1_year_6 20 rfl rfl)
theorem dX1_year_174 : decode cX1_year 174 = .ok (.aload_n 0, 1) := dk_42 (dk_at dksX1_year_6 21 rfl rfl)
theorem dX1_year_175 : decode cX1_year 175 = .ok (.iload_n 1, 1) := dk_27 (dk_at dksX1_year_6 22 rfl rfl)
theorem dX1_year_176 : decode cX1_year 176 = .ok (.invokedynamic 267, 5) := by decide +kernel
theorem dX1_year_181 : decode cX1_year 181 = .ok (.invokevirtual 261, 3) := dk_182 1 5 (dk_at dksX1_year_7 5 rfl rfl)
theorem dX1_year_184 : decode cX1_year 184 = .ok (.lreturn, 1) := dk_173 (dk_at dksX1_year_7 8 rfl rfl)
abbrev cX1_lambda_year_9 : ByteArray := prog_1_method_81_code
def yX1_lambda_year_9 : MethodName := ⟨RX1, "lambda$year$9", "(LTallTowers$Layer;)J"⟩
def dkwX1_lambda_year_9_0 : List UInt8 := [42, 180, 0, 210, 133, 173]
abbrev dktX1_lambda_year_9_0 : List UInt8 := dkwX1_lambda_year_9_0 ++ []
theorem dksX1_lambda_year_9_0 : cX1_lambda_year_9.data.toList.drop 0 = dktX1_lambda_year_9_0 := by decide +kernel
theorem dX1_lambda_year_9_0 : decode cX1_lambda_year_9 0 = .ok (.aload_n 0, 1) := dk_42 (dk_at dksX1_lambda_year_9_0 0 rfl rfl)
theorem dX1_lambda_year_9_1 : decode cX1_lambda_year_9 1 = .ok (.getfield 210, 3) := dk_180 0 210 (dk_at dksX1_lambda_year_9_0 1 rfl rfl)
theorem dX1_lambda_year_9_4 : decode cX1_lambda_year_9 4 = .ok (.i2l, 1) := dk_133 (dk_at dksX1_lambda_year_9_0 4 rfl rfl)
theorem dX1_lambda_year_9_5 : decode cX1_lambda_year_9 5 = .ok (.lreturn, 1) := dk_173 (dk_at dksX1_lambda_year_9_0 5 rfl rfl)
abbrev cX1_sum : ByteArray := prog_1_method_30_code
def yX1_sum : MethodName := ⟨RX1, "sum", "(ILTallTowers$Asked;)J"⟩
def dkwX1_sum_1 : List UInt8 := [180, 0, 10, 27, 21, 5, 182, 0, 245, 185, 0, 249, 2, 0, 97, 66, 132, 5, 1, 167, 255, 220, 33, 173]
abbrev dktX1_sum_1 : List UInt8 := dkwX1_sum_1 ++ []
def dkwX1_sum_0 : List UInt8 := [9, 66, 3, 54, 5, 21, 5, 42, 180, 0, 10, 180, 0, 243, 27, 46, 162, 0, 28, 33, 44, 42]
abbrev dktX1_sum_0 : List UInt8 := dkwX1_sum_0 ++ dktX1_sum_1
theorem dksX1_sum_0 : cX1_sum.data.toList.drop 0 = dktX1_sum_0 := by decide +kernel
theorem dksX1_sum_1 : cX1_sum.data.toList.drop 22 = dktX1_sum_1 := dk_seg dksX1_sum_0 22 rfl rfl
theorem dX1_sum_0 : decode cX1_sum 0 = .ok (.lconst 0, 1) := dk_9 (dk_at dksX1_sum_0 0 rfl rfl)
theorem dX1_sum_1 : decode cX1_sum 1 = .ok (.lstore_n 3, 1) := dk_66 (dk_at dksX1_sum_0 1 rfl rfl)
theorem dX1_sum_2 : decode cX1_sum 2 = .ok (.iconst 0, 1) := dk_3 (dk_at dksX1_sum_0 2 rfl rfl)
theorem dX1_sum_3 : decode cX1_sum 3 = .ok (.istore 5, 2) := dk_54 5 (dk_at dksX1_sum_0 3 rfl rfl)
theorem dX1_sum_5 : decode cX1_sum 5 = .ok (.iload 5, 2) := dk_21 5 (dk_at dksX1_sum_0 5 rfl rfl)
theorem dX1_sum_7 : decode cX1_sum 7 = .ok (.aload_n 0, 1) := dk_42 (dk_at dksX1_sum_0 7 rfl rfl)
theorem dX1_sum_8 : decode cX1_sum 8 = .ok (.getfield 10, 3) := dk_180 0 10 (dk_at dksX1_sum_0 8 rfl rfl)
theorem dX1_sum_11 : decode cX1_sum 11 = .ok (.getfield 243, 3) := dk_180 0 243 (dk_at dksX1_sum_0 11 rfl rfl)
theorem dX1_sum_14 : decode cX1_sum 14 = .ok (.iload_n 1, 1) := dk_27 (dk_at dksX1_sum_0 14 rfl rfl)
theorem dX1_sum_15 : decode cX1_sum 15 = .ok (.iaload, 1) := dk_46 (dk_at dksX1_sum_0 15 rfl rfl)
theorem dX1_sum_16 : decode cX1_sum 16 = .ok (.if_icmp .ge 28, 3) := dk_162 0 28 (dk_at dksX1_sum_0 16 rfl rfl)
theorem dX1_sum_19 : decode cX1_sum 19 = .ok (.lload_n 3, 1) := dk_33 (dk_at dksX1_sum_0 19 rfl rfl)
theorem dX1_sum_20 : decode cX1_sum 20 = .ok (.aload_n 2, 1) := dk_44 (dk_at dksX1_sum_0 20 rfl rfl)
theorem dX1_sum_21 : decode cX1_sum 21 = .ok (.aload_n 0, 1) := dk_42 (dk_at dksX1_sum_0 21 rfl rfl)
theorem dX1_sum_22 : decode cX1_sum 22 = .ok (.getfield 10, 3) := dk_180 0 10 (dk_at dksX1_sum_1 0 rfl rfl)
theorem dX1_sum_25 : decode cX1_sum 25 = .ok (.iload_n 1, 1) := dk_27 (dk_at dksX1_sum_1 3 rfl rfl)
theorem dX1_sum_26 : decode cX1_sum 26 = .ok (.iload 5, 2) := dk_21 5 (dk_at dksX1_sum_1 4 rfl rfl)
theorem dX1_sum_28 : decode cX1_sum 28 = .ok (.invokevirtual 245, 3) := dk_182 0 245 (dk_at dksX1_sum_1 6 rfl rfl)
theorem dX1_sum_31 : decode cX1_sum 31 = .ok (.invokeinterface 249 2, 5) := by decide +kernel
theorem dX1_sum_36 : decode cX1_sum 36 = .ok (.ladd, 1) := dk_97 (dk_at dksX1_sum_1 14 rfl rfl)
theorem dX1_sum_37 : decode cX1_sum 37 = .ok (.lstore_n 3, 1) := dk_66 (dk_at dksX1_sum_1 15 rfl rfl)
theorem dX1_sum_38 : decode cX1_sum 38 = .ok (.iinc 5 1, 3) := dk_132 5 1 (dk_at dksX1_sum_1 16 rfl rfl)
theorem dX1_sum_41 : decode cX1_sum 41 = .ok (.goto (-36), 3) := dk_167 255 220 (dk_at dksX1_sum_1 19 rfl rfl)
theorem dX1_sum_44 : decode cX1_sum 44 = .ok (.lload_n 3, 1) := dk_33 (dk_at dksX1_sum_1 22 rfl rfl)
theorem dX1_sum_45 : decode cX1_sum 45 = .ok (.lreturn, 1) := dk_173 (dk_at dksX1_sum_1 23 rfl rfl)
abbrev cX1_lambda_year_10 : ByteArray := prog_1_method_80_code
def yX1_lambda_year_10 : MethodName := ⟨RX1, "lambda$year$10", "(LTallTowers$Layer;)J"⟩
def dkwX1_lambda_year_10_0 : List UInt8 := [42, 180, 0, 210, 133, 173]
abbrev dktX1_lambda_year_10_0 : List UInt8 := dkwX1_lambda_year_10_0 ++ []
theorem dksX1_lambda_year_10_0 : cX1_lambda_year_10.data.toList.drop 0 = dktX1_lambda_year_10_0 := by decide +kernel
theorem dX1_lambda_year_10_0 : decode cX1_lambda_year_10 0 = .ok (.aload_n 0, 1) := dk_42 (dk_at dksX1_lambda_year_10_0 0 rfl rfl)
theorem dX1_lambda_year_10_1 : decode cX1_lambda_year_10 1 = .ok (.getfield 210, 3) := dk_180 0 210 (dk_at dksX1_lambda_year_10_0 1 rfl rfl)
theorem dX1_lambda_year_10_4 : decode cX1_lambda_year_10 4 = .ok (.i2l, 1) := dk_133 (dk_at dksX1_lambda_year_10_0 4 rfl rfl)
theorem dX1_lambda_year_10_5 : decode cX1_lambda_year_10 5 = .ok (.lreturn, 1) := dk_173 (dk_at dksX1_lambda_year_10_0 5 rfl rfl)
abbrev cX1_lambda_year_11 : ByteArray := prog_1_method_79_code
def yX1_lambda_year_11 : MethodName := ⟨RX1, "lambda$year$11", "(LTallTowers$Layer;)J"⟩
theorem dX1_lambda_year_11_0 : decode cX1_lambda_year_11 0 = .ok (.aload_n 0, 1) := by decide +kernel
theorem dX1_lambda_year_11_1 : decode cX1_lambda_year_11 1 = .ok (.getfield 216, 3) := by decide +kernel
theorem dX1_lambda_year_11_4 : decode cX1_lambda_year_11 4 = .ok (.lreturn, 1) := by decide +kernel
abbrev cX1_lambda_year_12 : ByteArray := prog_1_method_78_code
def yX1_lambda_year_12 : MethodName := ⟨RX1, "lambda$year$12", "(LTallTowers$Layer;)J"⟩
theorem dX1_lambda_year_12_0 : decode cX1_lambda_year_12 0 = .ok (.aload_n 0, 1) := by decide +kernel
theorem dX1_lambda_year_12_1 : decode cX1_lambda_year_12 1 = .ok (.invokevirtual 220, 3) := by decide +kernel
theorem dX1_lambda_year_12_4 : decode cX1_lambda_year_12 4 = .ok (.lreturn, 1) := by decide +kernel
abbrev cX1_at : ByteArray := prog_1_method_32_code
def yX1_at : MethodName := ⟨RX1, "at", "(II)I"⟩
def dkwX1_at_3 : List UInt8 := [167, 255, 201, 16, 254, 172]
abbrev dktX1_at_3 : List UInt8 := dkwX1_at_3 ++ []
def dkwX1_at_2 : List UInt8 := [28, 25, 4, 180, 0, 207, 162, 0, 7, 2, 167, 0, 8, 25, 4, 180, 1, 12, 172, 132, 3, 1]
abbrev dktX1_at_2 : List UInt8 := dkwX1_at_2 ++ dktX1_at_3
def dkwX1_at_1 : List UInt8 := [46, 162, 0, 48, 42, 180, 0, 10, 27, 29, 182, 0, 245, 58, 4, 28, 25, 4, 182, 0, 255, 162, 0, 22]
abbrev dktX1_at_1 : List UInt8 := dkwX1_at_1 ++ dktX1_at_2
def dkwX1_at_0 : List UInt8 := [42, 27, 182, 0, 84, 42, 28, 3, 18, 159, 182, 0, 80, 3, 62, 29, 42, 180, 0, 10, 180, 0, 243, 27]
abbrev dktX1_at_0 : List UInt8 := dkwX1_at_0 ++ dktX1_at_1
theorem dksX1_at_0 : cX1_at.data.toList.drop 0 = dktX1_at_0 := by decide +kernel
theorem dksX1_at_1 : cX1_at.data.toList.drop 24 = dktX1_at_1 := dk_seg dksX1_at_0 24 rfl rfl
theorem dksX1_at_2 : cX1_at.data.toList.drop 48 = dktX1_at_2 := dk_seg dksX1_at_1 24 rfl rfl
theorem dksX1_at_3 : cX1_at.data.toList.drop 70 = dktX1_at_3 := dk_seg dksX1_at_2 22 rfl rfl
theorem dX1_at_0 : decode cX1_at 0 = .ok (.aload_n 0, 1) := dk_42 (dk_at dksX1_at_0 0 rfl rfl)
theorem dX1_at_1 : decode cX1_at 1 = .ok (.iload_n 1, 1) := dk_27 (dk_at dksX1_at_0 1 rfl rfl)
theorem dX1_at_2 : decode cX1_at 2 = .ok (.invokevirtual 84, 3) := dk_182 0 84 (dk_at dksX1_at_0 2 rfl rfl)
theorem dX1_at_5 : decode cX1_at 5 = .ok (.aload_n 0, 1) := dk_42 (dk_at dksX1_at_0 5 rfl rfl)
theorem dX1_at_6 : decode cX1_at 6 = .ok (.iload_n 2, 1) := dk_28 (dk_at dksX1_at_0 6 rfl rfl)
theorem dX1_at_7 : decode cX1_at 7 = .ok (.iconst 0, 1) := dk_3 (dk_at dksX1_at_0 7 rfl rfl)
theorem dX1_at_8 : decode cX1_at 8 = .ok (.ldc 159, 2) := dk_18 159 (dk_at dksX1_at_0 8 rfl rfl)
theorem dX1_at_10 : decode cX1_at 10 = .ok (.invokevirtual 80, 3) := dk_182 0 80 (dk_at dksX1_at_0 10 rfl rfl)
theorem dX1_at_13 : decode cX1_at 13 = .ok (.iconst 0, 1) := dk_3 (dk_at dksX1_at_0 13 rfl rfl)
theorem dX1_at_14 : decode cX1_at 14 = .ok (.istore_n 3, 1) := dk_62 (dk_at dksX1_at_0 14 rfl rfl)
theorem dX1_at_15 : decode cX1_at 15 = .ok (.iload_n 3, 1) := dk_29 (dk_at dksX1_at_0 15 rfl rfl)
theorem dX1_at_16 : decode cX1_at 16 = .ok (.aload_n 0, 1) := dk_42 (dk_at dksX1_at_0 16 rfl rfl)
theorem dX1_at_17 : decode cX1_at 17 = .ok (.getfield 10, 3) := dk_180 0 10 (dk_at dksX1_at_0 17 rfl rfl)
theorem dX1_at_20 : decode cX1_at 20 = .ok (.getfield 243, 3) := dk_180 0 243 (dk_at dksX1_at_0 20 rfl rfl)
theorem dX1_at_23 : decode cX1_at 23 = .ok (.iload_n 1, 1) := dk_27 (dk_at dksX1_at_0 23 rfl rfl)
theorem dX1_at_24 : decode cX1_at 24 = .ok (.iaload, 1) := dk_46 (dk_at dksX1_at_1 0 rfl rfl)
theorem dX1_at_25 : decode cX1_at 25 = .ok (.if_icmp .ge 48, 3) := dk_162 0 48 (dk_at dksX1_at_1 1 rfl rfl)
theorem dX1_at_28 : decode cX1_at 28 = .ok (.aload_n 0, 1) := dk_42 (dk_at dksX1_at_1 4 rfl rfl)
theorem dX1_at_29 : decode cX1_at 29 = .ok (.getfield 10, 3) := dk_180 0 10 (dk_at dksX1_at_1 5 rfl rfl)
theorem dX1_at_32 : decode cX1_at 32 = .ok (.iload_n 1, 1) := dk_27 (dk_at dksX1_at_1 8 rfl rfl)
theorem dX1_at_33 : decode cX1_at 33 = .ok (.iload_n 3, 1) := dk_29 (dk_at dksX1_at_1 9 rfl rfl)
theorem dX1_at_34 : decode cX1_at 34 = .ok (.invokevirtual 245, 3) := dk_182 0 245 (dk_at dksX1_at_1 10 rfl rfl)
theorem dX1_at_37 : decode cX1_at 37 = .ok (.astore 4, 2) := dk_58 4 (dk_at dksX1_at_1 13 rfl rfl)
theorem dX1_at_39 : decode cX1_at 39 = .ok (.iload_n 2, 1) := dk_28 (dk_at dksX1_at_1 15 rfl rfl)
theorem dX1_at_40 : decode cX1_at 40 = .ok (.aload 4, 2) := dk_25 4 (dk_at dksX1_at_1 16 rfl rfl)
theorem dX1_at_42 : decode cX1_at 42 = .ok (.invokevirtual 255, 3) := dk_182 0 255 (dk_at dksX1_at_1 18 rfl rfl)
theorem dX1_at_45 : decode cX1_at 45 = .ok (.if_icmp .ge 22, 3) := dk_162 0 22 (dk_at dksX1_at_1 21 rfl rfl)
theorem dX1_at_48 : decode cX1_at 48 = .ok (.iload_n 2, 1) := dk_28 (dk_at dksX1_at_2 0 rfl rfl)
theorem dX1_at_49 : decode cX1_at 49 = .ok (.aload 4, 2) := dk_25 4 (dk_at dksX1_at_2 1 rfl rfl)
theorem dX1_at_51 : decode cX1_at 51 = .ok (.getfield 207, 3) := dk_180 0 207 (dk_at dksX1_at_2 3 rfl rfl)
theorem dX1_at_54 : decode cX1_at 54 = .ok (.if_icmp .ge 7, 3) := dk_162 0 7 (dk_at dksX1_at_2 6 rfl rfl)
theorem dX1_at_57 : decode cX1_at 57 = .ok (.iconst (-1), 1) := dk_2 (dk_at dksX1_at_2 9 rfl rfl)
theorem dX1_at_58 : decode cX1_at 58 = .ok (.goto 8, 3) := dk_167 0 8 (dk_at dksX1_at_2 10 rfl rfl)
theorem dX1_at_61 : decode cX1_at 61 = .ok (.aload 4, 2) := dk_25 4 (dk_at dksX1_at_2 13 rfl rfl)
theorem dX1_at_63 : decode cX1_at 63 = .ok (.getfield 268, 3) := dk_180 1 12 (dk_at dksX1_at_2 15 rfl rfl)
theorem dX1_at_66 : decode cX1_at 66 = .ok (.ireturn, 1) := dk_172 (dk_at dksX1_at_2 18 rfl rfl)
theorem dX1_at_67 : decode cX1_at 67 = .ok (.iinc 3 1, 3) := dk_132 3 1 (dk_at dksX1_at_2 19 rfl rfl)
theorem dX1_at_70 : decode cX1_at 70 = .ok (.goto (-55), 3) := dk_167 255 201 (dk_at dksX1_at_3 0 rfl rfl)
theorem dX1_at_73 : decode cX1_at 73 = .ok (.bipush (-2), 2) := dk_16 254 (dk_at dksX1_at_3 3 rfl rfl)
theorem dX1_at_75 : decode cX1_at 75 = .ok (.ireturn, 1) := dk_172 (dk_at dksX1_at_3 5 rfl rfl)
abbrev cX1_rung : ByteArray := prog_1_method_33_code
def yX1_rung : MethodName := ⟨RX1, "rung", "(II)I"⟩
def dkwX1_rung_1 : List UInt8 := [180, 0, 10, 180, 1, 15, 27, 50, 28, 46, 167, 0, 4, 2, 172]
abbrev dktX1_rung_1 : List UInt8 := dkwX1_rung_1 ++ []
def dkwX1_rung_0 : List UInt8 := [42, 27, 182, 0, 84, 42, 28, 182, 0, 232, 28, 42, 180, 0, 10, 180, 0, 243, 27, 46, 162, 0, 17, 42]
abbrev dktX1_rung_0 : List UInt8 := dkwX1_rung_0 ++ dktX1_rung_1
theorem dksX1_rung_0 : cX1_rung.data.toList.drop 0 = dktX1_rung_0 := by decide +kernel
theorem dksX1_rung_1 : cX1_rung.data.toList.drop 24 = dktX1_rung_1 := dk_seg dksX1_rung_0 24 rfl rfl
theorem dX1_rung_0 : decode cX1_rung 0 = .ok (.aload_n 0, 1) := dk_42 (dk_at dksX1_rung_0 0 rfl rfl)
theorem dX1_rung_1 : decode cX1_rung 1 = .ok (.iload_n 1, 1) := dk_27 (dk_at dksX1_rung_0 1 rfl rfl)
theorem dX1_rung_2 : decode cX1_rung 2 = .ok (.invokevirtual 84, 3) := dk_182 0 84 (dk_at dksX1_rung_0 2 rfl rfl)
theorem dX1_rung_5 : decode cX1_rung 5 = .ok (.aload_n 0, 1) := dk_42 (dk_at dksX1_rung_0 5 rfl rfl)
theorem dX1_rung_6 : decode cX1_rung 6 = .ok (.iload_n 2, 1) := dk_28 (dk_at dksX1_rung_0 6 rfl rfl)
theorem dX1_rung_7 : decode cX1_rung 7 = .ok (.invokevirtual 232, 3) := dk_182 0 232 (dk_at dksX1_rung_0 7 rfl rfl)
theorem dX1_rung_10 : decode cX1_rung 10 = .ok (.iload_n 2, 1) := dk_28 (dk_at dksX1_rung_0 10 rfl rfl)
theorem dX1_rung_11 : decode cX1_rung 11 = .ok (.aload_n 0, 1) := dk_42 (dk_at dksX1_rung_0 11 rfl rfl)
theorem dX1_rung_12 : decode cX1_rung 12 = .ok (.getfield 10, 3) := dk_180 0 10 (dk_at dksX1_rung_0 12 rfl rfl)
theorem dX1_rung_15 : decode cX1_rung 15 = .ok (.getfield 243, 3) := dk_180 0 243 (dk_at dksX1_rung_0 15 rfl rfl)
theorem dX1_rung_18 : decode cX1_rung 18 = .ok (.iload_n 1, 1) := dk_27 (dk_at dksX1_rung_0 18 rfl rfl)
theorem dX1_rung_19 : decode cX1_rung 19 = .ok (.iaload, 1) := dk_46 (dk_at dksX1_rung_0 19 rfl rfl)
theorem dX1_rung_20 : decode cX1_rung 20 = .ok (.if_icmp .ge 17, 3) := dk_162 0 17 (dk_at dksX1_rung_0 20 rfl rfl)
theorem dX1_rung_23 : decode cX1_rung 23 = .ok (.aload_n 0, 1) := dk_42 (dk_at dksX1_rung_0 23 rfl rfl)
theorem dX1_rung_24 : decode cX1_rung 24 = .ok (.getfield 10, 3) := dk_180 0 10 (dk_at dksX1_rung_1 0 rfl rfl)
theorem dX1_rung_27 : decode cX1_rung 27 = .ok (.getfield 271, 3) := dk_180 1 15 (dk_at dksX1_rung_1 3 rfl rfl)
theorem dX1_rung_30 : decode cX1_rung 30 = .ok (.iload_n 1, 1) := dk_27 (dk_at dksX1_rung_1 6 rfl rfl)
theorem dX1_rung_31 : decode cX1_rung 31 = .ok (.aaload, 1) := dk_50 (dk_at dksX1_rung_1 7 rfl rfl)
theorem dX1_rung_32 : decode cX1_rung 32 = .ok (.iload_n 2, 1) := dk_28 (dk_at dksX1_rung_1 8 rfl rfl)
theorem dX1_rung_33 : decode cX1_rung 33 = .ok (.iaload, 1) := dk_46 (dk_at dksX1_rung_1 9 rfl rfl)
theorem dX1_rung_34 : decode cX1_rung 34 = .ok (.goto 4, 3) := dk_167 0 4 (dk_at dksX1_rung_1 10 rfl rfl)
theorem dX1_rung_37 : decode cX1_rung 37 = .ok (.iconst (-1), 1) := dk_2 (dk_at dksX1_rung_1 13 rfl rfl)
theorem dX1_rung_38 : decode cX1_rung 38 = .ok (.ireturn, 1) := dk_172 (dk_at dksX1_rung_1 14 rfl rfl)
abbrev cX1_damage : ByteArray := prog_1_method_34_code
def yX1_damage : MethodName := ⟨RX1, "damage", "(II)J"⟩
def dkwX1_damage_3 : List UInt8 := [3, 182, 0, 165, 173, 45, 180, 1, 31, 133, 173]
abbrev dktX1_damage_3 : List UInt8 := dkwX1_damage_3 ++ []
def dkwX1_damage_2 : List UInt8 := [45, 180, 1, 19, 133, 173, 45, 180, 1, 22, 133, 173, 45, 180, 1, 25, 133, 173, 45, 180, 1, 28, 173, 45]
abbrev dktX1_damage_2 : List UInt8 := dkwX1_damage_2 ++ dktX1_damage_3
def dkwX1_damage_1 : List UInt8 := [170, 0, 0, 0, 0, 63, 0, 0, 0, 0, 0, 0, 0, 4, 0, 0, 0, 34, 0, 0, 0, 40, 0, 0, 0, 46, 0, 0, 0, 52, 0, 0, 0, 57]
abbrev dktX1_damage_1 : List UInt8 := dkwX1_damage_1 ++ dktX1_damage_2
def dkwX1_damage_0 : List UInt8 := [42, 27, 182, 0, 161, 78, 42, 28, 3, 8, 182, 0, 80, 28]
abbrev dktX1_damage_0 : List UInt8 := dkwX1_damage_0 ++ dktX1_damage_1
theorem dksX1_damage_0 : cX1_damage.data.toList.drop 0 = dktX1_damage_0 := by decide +kernel
theorem dksX1_damage_1 : cX1_damage.data.toList.drop 14 = dktX1_damage_1 := dk_seg dksX1_damage_0 14 rfl rfl
theorem dksX1_damage_2 : cX1_damage.data.toList.drop 48 = dktX1_damage_2 := dk_seg dksX1_damage_1 34 rfl rfl
theorem dksX1_damage_3 : cX1_damage.data.toList.drop 72 = dktX1_damage_3 := dk_seg dksX1_damage_2 24 rfl rfl
theorem dX1_damage_0 : decode cX1_damage 0 = .ok (.aload_n 0, 1) := dk_42 (dk_at dksX1_damage_0 0 rfl rfl)
theorem dX1_damage_1 : decode cX1_damage 1 = .ok (.iload_n 1, 1) := dk_27 (dk_at dksX1_damage_0 1 rfl rfl)
theorem dX1_damage_2 : decode cX1_damage 2 = .ok (.invokevirtual 161, 3) := dk_182 0 161 (dk_at dksX1_damage_0 2 rfl rfl)
theorem dX1_damage_5 : decode cX1_damage 5 = .ok (.astore_n 3, 1) := dk_78 (dk_at dksX1_damage_0 5 rfl rfl)
theorem dX1_damage_6 : decode cX1_damage 6 = .ok (.aload_n 0, 1) := dk_42 (dk_at dksX1_damage_0 6 rfl rfl)
theorem dX1_damage_7 : decode cX1_damage 7 = .ok (.iload_n 2, 1) := dk_28 (dk_at dksX1_damage_0 7 rfl rfl)
theorem dX1_damage_8 : decode cX1_damage 8 = .ok (.iconst 0, 1) := dk_3 (dk_at dksX1_damage_0 8 rfl rfl)
theorem dX1_damage_9 : decode cX1_damage 9 = .ok (.iconst 5, 1) := dk_8 (dk_at dksX1_damage_0 9 rfl rfl)
theorem dX1_damage_10 : decode cX1_damage 10 = .ok (.invokevirtual 80, 3) := dk_182 0 80 (dk_at dksX1_damage_0 10 rfl rfl)
theorem dX1_damage_13 : decode cX1_damage 13 = .ok (.iload_n 2, 1) := dk_28 (dk_at dksX1_damage_0 13 rfl rfl)
theorem dX1_damage_14 : decode cX1_damage 14 = .ok (.tableswitch 63 0 4 #[34, 40, 46, 52, 57], 34) := by decide +kernel
theorem dX1_damage_48 : decode cX1_damage 48 = .ok (.aload_n 3, 1) := dk_45 (dk_at dksX1_damage_2 0 rfl rfl)
theorem dX1_damage_49 : decode cX1_damage 49 = .ok (.getfield 275, 3) := dk_180 1 19 (dk_at dksX1_damage_2 1 rfl rfl)
theorem dX1_damage_52 : decode cX1_damage 52 = .ok (.i2l, 1) := dk_133 (dk_at dksX1_damage_2 4 rfl rfl)
theorem dX1_damage_53 : decode cX1_damage 53 = .ok (.lreturn, 1) := dk_173 (dk_at dksX1_damage_2 5 rfl rfl)
theorem dX1_damage_54 : decode cX1_damage 54 = .ok (.aload_n 3, 1) := dk_45 (dk_at dksX1_damage_2 6 rfl rfl)
theorem dX1_damage_55 : decode cX1_damage 55 = .ok (.getfield 278, 3) := dk_180 1 22 (dk_at dksX1_damage_2 7 rfl rfl)
theorem dX1_damage_58 : decode cX1_damage 58 = .ok (.i2l, 1) := dk_133 (dk_at dksX1_damage_2 10 rfl rfl)
theorem dX1_damage_59 : decode cX1_damage 59 = .ok (.lreturn, 1) := dk_173 (dk_at dksX1_damage_2 11 rfl rfl)
theorem dX1_damage_60 : decode cX1_damage 60 = .ok (.aload_n 3, 1) := dk_45 (dk_at dksX1_damage_2 12 rfl rfl)
theorem dX1_damage_61 : decode cX1_damage 61 = .ok (.getfield 281, 3) := dk_180 1 25 (dk_at dksX1_damage_2 13 rfl rfl)
theorem dX1_damage_64 : decode cX1_damage 64 = .ok (.i2l, 1) := dk_133 (dk_at dksX1_damage_2 16 rfl rfl)
theorem dX1_damage_65 : decode cX1_damage 65 = .ok (.lreturn, 1) := dk_173 (dk_at dksX1_damage_2 17 rfl rfl)
theorem dX1_damage_66 : decode cX1_damage 66 = .ok (.aload_n 3, 1) := dk_45 (dk_at dksX1_damage_2 18 rfl rfl)
theorem dX1_damage_67 : decode cX1_damage 67 = .ok (.getfield 284, 3) := dk_180 1 28 (dk_at dksX1_damage_2 19 rfl rfl)
theorem dX1_damage_70 : decode cX1_damage 70 = .ok (.lreturn, 1) := dk_173 (dk_at dksX1_damage_2 22 rfl rfl)
theorem dX1_damage_71 : decode cX1_damage 71 = .ok (.aload_n 3, 1) := dk_45 (dk_at dksX1_damage_2 23 rfl rfl)
theorem dX1_damage_72 : decode cX1_damage 72 = .ok (.iconst 0, 1) := dk_3 (dk_at dksX1_damage_3 0 rfl rfl)
theorem dX1_damage_73 : decode cX1_damage 73 = .ok (.invokevirtual 165, 3) := dk_182 0 165 (dk_at dksX1_damage_3 1 rfl rfl)
theorem dX1_damage_76 : decode cX1_damage 76 = .ok (.lreturn, 1) := dk_173 (dk_at dksX1_damage_3 4 rfl rfl)
theorem dX1_damage_77 : decode cX1_damage 77 = .ok (.aload_n 3, 1) := dk_45 (dk_at dksX1_damage_3 5 rfl rfl)
theorem dX1_damage_78 : decode cX1_damage 78 = .ok (.getfield 287, 3) := dk_180 1 31 (dk_at dksX1_damage_3 6 rfl rfl)
theorem dX1_damage_81 : decode cX1_damage 81 = .ok (.i2l, 1) := dk_133 (dk_at dksX1_damage_3 9 rfl rfl)
theorem dX1_damage_82 : decode cX1_damage 82 = .ok (.lreturn, 1) := dk_173 (dk_at dksX1_damage_3 10 rfl rfl)
abbrev cX1_took : ByteArray := prog_1_method_35_code
def yX1_took : MethodName := ⟨RX1, "took", "(II)J"⟩
def dkwX1_took_0 : List UInt8 := [42, 27, 182, 0, 161, 180, 1, 34, 42, 28, 182, 0, 117, 180, 1, 12, 47, 173]
abbrev dktX1_took_0 : List UInt8 := dkwX1_took_0 ++ []
theorem dksX1_took_0 : cX1_took.data.toList.drop 0 = dktX1_took_0 := by decide +kernel
theorem dX1_took_0 : decode cX1_took 0 = .ok (.aload_n 0, 1) := dk_42 (dk_at dksX1_took_0 0 rfl rfl)
theorem dX1_took_1 : decode cX1_took 1 = .ok (.iload_n 1, 1) := dk_27 (dk_at dksX1_took_0 1 rfl rfl)
theorem dX1_took_2 : decode cX1_took 2 = .ok (.invokevirtual 161, 3) := dk_182 0 161 (dk_at dksX1_took_0 2 rfl rfl)
theorem dX1_took_5 : decode cX1_took 5 = .ok (.getfield 290, 3) := dk_180 1 34 (dk_at dksX1_took_0 5 rfl rfl)
theorem dX1_took_8 : decode cX1_took 8 = .ok (.aload_n 0, 1) := dk_42 (dk_at dksX1_took_0 8 rfl rfl)
theorem dX1_took_9 : decode cX1_took 9 = .ok (.iload_n 2, 1) := dk_28 (dk_at dksX1_took_0 9 rfl rfl)
theorem dX1_took_10 : decode cX1_took 10 = .ok (.invokevirtual 117, 3) := dk_182 0 117 (dk_at dksX1_took_0 10 rfl rfl)
theorem dX1_took_13 : decode cX1_took 13 = .ok (.getfield 268, 3) := dk_180 1 12 (dk_at dksX1_took_0 13 rfl rfl)
theorem dX1_took_16 : decode cX1_took 16 = .ok (.laload, 1) := dk_47 (dk_at dksX1_took_0 16 rfl rfl)
theorem dX1_took_17 : decode cX1_took 17 = .ok (.lreturn, 1) := dk_173 (dk_at dksX1_took_0 17 rfl rfl)
abbrev cX1_hole : ByteArray := prog_1_method_36_code
def yX1_hole : MethodName := ⟨RX1, "hole", "(II)J"⟩
def dkwX1_hole_0 : List UInt8 := [42, 27, 182, 0, 161, 180, 1, 37, 42, 28, 182, 0, 117, 180, 1, 12, 47, 173]
abbrev dktX1_hole_0 : List UInt8 := dkwX1_hole_0 ++ []
theorem dksX1_hole_0 : cX1_hole.data.toList.drop 0 = dktX1_hole_0 := by decide +kernel
theorem dX1_hole_0 : decode cX1_hole 0 = .ok (.aload_n 0, 1) := dk_42 (dk_at dksX1_hole_0 0 rfl rfl)
theorem dX1_hole_1 : decode cX1_hole 1 = .ok (.iload_n 1, 1) := dk_27 (dk_at dksX1_hole_0 1 rfl rfl)
theorem dX1_hole_2 : decode cX1_hole 2 = .ok (.invokevirtual 161, 3) := dk_182 0 161 (dk_at dksX1_hole_0 2 rfl rfl)
theorem dX1_hole_5 : decode cX1_hole 5 = .ok (.getfield 293, 3) := dk_180 1 37 (dk_at dksX1_hole_0 5 rfl rfl)
theorem dX1_hole_8 : decode cX1_hole 8 = .ok (.aload_n 0, 1) := dk_42 (dk_at dksX1_hole_0 8 rfl rfl)
theorem dX1_hole_9 : decode cX1_hole 9 = .ok (.iload_n 2, 1) := dk_28 (dk_at dksX1_hole_0 9 rfl rfl)
theorem dX1_hole_10 : decode cX1_hole 10 = .ok (.invokevirtual 117, 3) := dk_182 0 117 (dk_at dksX1_hole_0 10 rfl rfl)
theorem dX1_hole_13 : decode cX1_hole 13 = .ok (.getfield 268, 3) := dk_180 1 12 (dk_at dksX1_hole_0 13 rfl rfl)
theorem dX1_hole_16 : decode cX1_hole 16 = .ok (.laload, 1) := dk_47 (dk_at dksX1_hole_0 16 rfl rfl)
theorem dX1_hole_17 : decode cX1_hole 17 = .ok (.lreturn, 1) := dk_173 (dk_at dksX1_hole_0 17 rfl rfl)
abbrev cX1_moved : ByteArray := prog_1_method_37_code
def yX1_moved : MethodName := ⟨RX1, "moved", "(II)J"⟩
def dkwX1_moved_0 : List UInt8 := [42, 27, 182, 0, 161, 180, 1, 40, 42, 28, 182, 0, 117, 180, 1, 12, 47, 173]
abbrev dktX1_moved_0 : List UInt8 := dkwX1_moved_0 ++ []
theorem dksX1_moved_0 : cX1_moved.data.toList.drop 0 = dktX1_moved_0 := by decide +kernel
theorem dX1_moved_0 : decode cX1_moved 0 = .ok (.aload_n 0, 1) := dk_42 (dk_at dksX1_moved_0 0 rfl rfl)
theorem dX1_moved_1 : decode cX1_moved 1 = .ok (.iload_n 1, 1) := dk_27 (dk_at dksX1_moved_0 1 rfl rfl)
theorem dX1_moved_2 : decode cX1_moved 2 = .ok (.invokevirtual 161, 3) := dk_182 0 161 (dk_at dksX1_moved_0 2 rfl rfl)
theorem dX1_moved_5 : decode cX1_moved 5 = .ok (.getfield 296, 3) := dk_180 1 40 (dk_at dksX1_moved_0 5 rfl rfl)
theorem dX1_moved_8 : decode cX1_moved 8 = .ok (.aload_n 0, 1) := dk_42 (dk_at dksX1_moved_0 8 rfl rfl)
theorem dX1_moved_9 : decode cX1_moved 9 = .ok (.iload_n 2, 1) := dk_28 (dk_at dksX1_moved_0 9 rfl rfl)
theorem dX1_moved_10 : decode cX1_moved 10 = .ok (.invokevirtual 117, 3) := dk_182 0 117 (dk_at dksX1_moved_0 10 rfl rfl)
theorem dX1_moved_13 : decode cX1_moved 13 = .ok (.getfield 268, 3) := dk_180 1 12 (dk_at dksX1_moved_0 13 rfl rfl)
theorem dX1_moved_16 : decode cX1_moved 16 = .ok (.laload, 1) := dk_47 (dk_at dksX1_moved_0 16 rfl rfl)
theorem dX1_moved_17 : decode cX1_moved 17 = .ok (.lreturn, 1) := dk_173 (dk_at dksX1_moved_0 17 rfl rfl)
abbrev cX1_bears : ByteArray := prog_1_method_38_code
def yX1_bears : MethodName := ⟨RX1, "bears", "(II)J"⟩
def dkwX1_bears_0 : List UInt8 := [42, 27, 182, 0, 161, 78, 42, 28, 182, 0, 121, 45, 28, 182, 0, 165, 173]
abbrev dktX1_bears_0 : List UInt8 := dkwX1_bears_0 ++ []
theorem dksX1_bears_0 : cX1_bears.data.toList.drop 0 = dktX1_bears_0 := by decide +kernel
theorem dX1_bears_0 : decode cX1_bears 0 = .ok (.aload_n 0, 1) := dk_42 (dk_at dksX1_bears_0 0 rfl rfl)
theorem dX1_bears_1 : decode cX1_bears 1 = .ok (.iload_n 1, 1) := dk_27 (dk_at dksX1_bears_0 1 rfl rfl)
theorem dX1_bears_2 : decode cX1_bears 2 = .ok (.invokevirtual 161, 3) := dk_182 0 161 (dk_at dksX1_bears_0 2 rfl rfl)
theorem dX1_bears_5 : decode cX1_bears 5 = .ok (.astore_n 3, 1) := dk_78 (dk_at dksX1_bears_0 5 rfl rfl)
theorem dX1_bears_6 : decode cX1_bears 6 = .ok (.aload_n 0, 1) := dk_42 (dk_at dksX1_bears_0 6 rfl rfl)
theorem dX1_bears_7 : decode cX1_bears 7 = .ok (.iload_n 2, 1) := dk_28 (dk_at dksX1_bears_0 7 rfl rfl)
theorem dX1_bears_8 : decode cX1_bears 8 = .ok (.invokevirtual 121, 3) := dk_182 0 121 (dk_at dksX1_bears_0 8 rfl rfl)
theorem dX1_bears_11 : decode cX1_bears 11 = .ok (.aload_n 3, 1) := dk_45 (dk_at dksX1_bears_0 11 rfl rfl)
theorem dX1_bears_12 : decode cX1_bears 12 = .ok (.iload_n 2, 1) := dk_28 (dk_at dksX1_bears_0 12 rfl rfl)
theorem dX1_bears_13 : decode cX1_bears 13 = .ok (.invokevirtual 165, 3) := dk_182 0 165 (dk_at dksX1_bears_0 13 rfl rfl)
theorem dX1_bears_16 : decode cX1_bears 16 = .ok (.lreturn, 1) := dk_173 (dk_at dksX1_bears_0 16 rfl rfl)
abbrev cX1_falls : ByteArray := prog_1_method_39_code
def yX1_falls : MethodName := ⟨RX1, "falls", "(II)J"⟩
def dkwX1_falls_0 : List UInt8 := [42, 27, 182, 0, 161, 78, 42, 28, 3, 16, 6, 182, 0, 80, 45, 180, 1, 43, 28, 47, 173]
abbrev dktX1_falls_0 : List UInt8 := dkwX1_falls_0 ++ []
theorem dksX1_falls_0 : cX1_falls.data.toList.drop 0 = dktX1_falls_0 := by decide +kernel
theorem dX1_falls_0 : decode cX1_falls 0 = .ok (.aload_n 0, 1) := dk_42 (dk_at dksX1_falls_0 0 rfl rfl)
theorem dX1_falls_1 : decode cX1_falls 1 = .ok (.iload_n 1, 1) := dk_27 (dk_at dksX1_falls_0 1 rfl rfl)
theorem dX1_falls_2 : decode cX1_falls 2 = .ok (.invokevirtual 161, 3) := dk_182 0 161 (dk_at dksX1_falls_0 2 rfl rfl)
theorem dX1_falls_5 : decode cX1_falls 5 = .ok (.astore_n 3, 1) := dk_78 (dk_at dksX1_falls_0 5 rfl rfl)
theorem dX1_falls_6 : decode cX1_falls 6 = .ok (.aload_n 0, 1) := dk_42 (dk_at dksX1_falls_0 6 rfl rfl)
theorem dX1_falls_7 : decode cX1_falls 7 = .ok (.iload_n 2, 1) := dk_28 (dk_at dksX1_falls_0 7 rfl rfl)
theorem dX1_falls_8 : decode cX1_falls 8 = .ok (.iconst 0, 1) := dk_3 (dk_at dksX1_falls_0 8 rfl rfl)
theorem dX1_falls_9 : decode cX1_falls 9 = .ok (.bipush 6, 2) := dk_16 6 (dk_at dksX1_falls_0 9 rfl rfl)
theorem dX1_falls_11 : decode cX1_falls 11 = .ok (.invokevirtual 80, 3) := dk_182 0 80 (dk_at dksX1_falls_0 11 rfl rfl)
theorem dX1_falls_14 : decode cX1_falls 14 = .ok (.aload_n 3, 1) := dk_45 (dk_at dksX1_falls_0 14 rfl rfl)
theorem dX1_falls_15 : decode cX1_falls 15 = .ok (.getfield 299, 3) := dk_180 1 43 (dk_at dksX1_falls_0 15 rfl rfl)
theorem dX1_falls_18 : decode cX1_falls 18 = .ok (.iload_n 2, 1) := dk_28 (dk_at dksX1_falls_0 18 rfl rfl)
theorem dX1_falls_19 : decode cX1_falls 19 = .ok (.laload, 1) := dk_47 (dk_at dksX1_falls_0 19 rfl rfl)
theorem dX1_falls_20 : decode cX1_falls 20 = .ok (.lreturn, 1) := dk_173 (dk_at dksX1_falls_0 20 rfl rfl)
abbrev cX1_insurer : ByteArray := prog_1_method_40_code
def yX1_insurer : MethodName := ⟨RX1, "insurer", "(II)J"⟩
def dkwX1_insurer_9 : List UInt8 := [66, 132, 5, 1, 167, 255, 205, 33, 173]
abbrev dktX1_insurer_9 : List UInt8 := dkwX1_insurer_9 ++ []
def dkwX1_insurer_8 : List UInt8 := [182, 0, 220, 42, 180, 0, 10, 180, 0, 66, 21, 5, 50, 27, 182, 1, 55, 133, 105, 20, 1, 58, 109, 97]
abbrev dktX1_insurer_8 : List UInt8 := dkwX1_insurer_8 ++ dktX1_insurer_9
def dkwX1_insurer_7 : List UInt8 := [21, 5, 42, 180, 0, 10, 180, 0, 58, 162, 0, 45, 33, 42, 180, 0, 10, 180, 0, 66, 21, 5, 50]
abbrev dktX1_insurer_7 : List UInt8 := dkwX1_insurer_7 ++ dktX1_insurer_8
def dkwX1_insurer_6 : List UInt8 := [182, 1, 55, 158, 0, 7, 10, 167, 0, 4, 9, 97, 66, 132, 5, 1, 167, 255, 216, 33, 173, 3, 54, 5]
abbrev dktX1_insurer_6 : List UInt8 := dkwX1_insurer_6 ++ dktX1_insurer_7
def dkwX1_insurer_5 : List UInt8 := [21, 5, 42, 180, 0, 10, 180, 0, 58, 162, 0, 34, 33, 42, 180, 0, 10, 180, 0, 66, 21, 5, 50, 27]
abbrev dktX1_insurer_5 : List UInt8 := dkwX1_insurer_5 ++ dktX1_insurer_6
def dkwX1_insurer_4 : List UInt8 := [180, 1, 52, 21, 5, 47, 167, 0, 4, 9, 97, 66, 132, 5, 1, 167, 255, 219, 33, 173, 3, 54, 5]
abbrev dktX1_insurer_4 : List UInt8 := dkwX1_insurer_4 ++ dktX1_insurer_5
def dkwX1_insurer_3 : List UInt8 := [21, 5, 16, 10, 162, 0, 36, 33, 27, 153, 0, 9, 21, 5, 27, 160, 0, 16, 42, 180, 0, 10]
abbrev dktX1_insurer_3 : List UInt8 := dkwX1_insurer_3 ++ dktX1_insurer_4
def dkwX1_insurer_2 : List UInt8 := [42, 180, 0, 10, 27, 182, 1, 46, 173, 42, 180, 0, 10, 180, 1, 49, 27, 46, 133, 173, 4, 54, 5]
abbrev dktX1_insurer_2 : List UInt8 := dkwX1_insurer_2 ++ dktX1_insurer_3
def dkwX1_insurer_1 : List UInt8 := [170, 0, 0, 0, 142, 0, 0, 0, 0, 0, 0, 0, 3, 0, 0, 0, 29, 0, 0, 0, 38, 0, 0, 0, 49, 0, 0, 0, 94]
abbrev dktX1_insurer_1 : List UInt8 := dkwX1_insurer_1 ++ dktX1_insurer_2
def dkwX1_insurer_0 : List UInt8 := [42, 27, 182, 0, 121, 42, 28, 3, 7, 182, 0, 80, 9, 66, 28]
abbrev dktX1_insurer_0 : List UInt8 := dkwX1_insurer_0 ++ dktX1_insurer_1
theorem dksX1_insurer_0 : cX1_insurer.data.toList.drop 0 = dktX1_insurer_0 := by decide +kernel
theorem dksX1_insurer_1 : cX1_insurer.data.toList.drop 15 = dktX1_insurer_1 := dk_seg dksX1_insurer_0 15 rfl rfl
theorem dksX1_insurer_2 : cX1_insurer.data.toList.drop 44 = dktX1_insurer_2 := dk_seg dksX1_insurer_1 29 rfl rfl
theorem dksX1_insurer_3 : cX1_insurer.data.toList.drop 67 = dktX1_insurer_3 := dk_seg dksX1_insurer_2 23 rfl rfl
theorem dksX1_insurer_4 : cX1_insurer.data.toList.drop 89 = dktX1_insurer_4 := dk_seg dksX1_insurer_3 22 rfl rfl
theorem dksX1_insurer_5 : cX1_insurer.data.toList.drop 112 = dktX1_insurer_5 := dk_seg dksX1_insurer_4 23 rfl rfl
theorem dksX1_insurer_6 : cX1_insurer.data.toList.drop 136 = dktX1_insurer_6 := dk_seg dksX1_insurer_5 24 rfl rfl
theorem dksX1_insurer_7 : cX1_insurer.data.toList.drop 160 = dktX1_insurer_7 := dk_seg dksX1_insurer_6 24 rfl rfl
theorem dksX1_insurer_8 : cX1_insurer.data.toList.drop 183 = dktX1_insurer_8 := dk_seg dksX1_insurer_7 23 rfl rfl
theorem dksX1_insurer_9 : cX1_insurer.data.toList.drop 207 = dktX1_insurer_9 := dk_seg dksX1_insurer_8 24 rfl rfl
theorem dX1_insurer_0 : decode cX1_insurer 0 = .ok (.aload_n 0, 1) := dk_42 (dk_at dksX1_insurer_0 0 rfl rfl)
theorem dX1_insurer_1 : decode cX1_insurer 1 = .ok (.iload_n 1, 1) := dk_27 (dk_at dksX1_insurer_0 1 rfl rfl)
theorem dX1_insurer_2 : decode cX1_insurer 2 = .ok (.invokevirtual 121, 3) := dk_182 0 121 (dk_at dksX1_insurer_0 2 rfl rfl)
theorem dX1_insurer_5 : decode cX1_insurer 5 = .ok (.aload_n 0, 1) := dk_42 (dk_at dksX1_insurer_0 5 rfl rfl)
theorem dX1_insurer_6 : decode cX1_insurer 6 = .ok (.iload_n 2, 1) := dk_28 (dk_at dksX1_insurer_0 6 rfl rfl)
theorem dX1_insurer_7 : decode cX1_insurer 7 = .ok (.iconst 0, 1) := dk_3 (dk_at dksX1_insurer_0 7 rfl rfl)
theorem dX1_insurer_8 : decode cX1_insurer 8 = .ok (.iconst 4, 1) := dk_7 (dk_at dksX1_insurer_0 8 rfl rfl)
theorem dX1_insurer_9 : decode cX1_insurer 9 = .ok (.invokevirtual 80, 3) := dk_182 0 80 (dk_at dksX1_insurer_0 9 rfl rfl)
theorem dX1_insurer_12 : decode cX1_insurer 12 = .ok (.lconst 0, 1) := dk_9 (dk_at dksX1_insurer_0 12 rfl rfl)
theorem dX1_insurer_13 : decode cX1_insurer 13 = .ok (.lstore_n 3, 1) := dk_66 (dk_at dksX1_insurer_0 13 rfl rfl)
theorem dX1_insurer_14 : decode cX1_insurer 14 = .ok (.iload_n 2, 1) := dk_28 (dk_at dksX1_insurer_0 14 rfl rfl)
theorem dX1_insurer_15 : decode cX1_insurer 15 = .ok (.tableswitch 142 0 3 #[29, 38, 49, 94], 29) := by decide +kernel
theorem dX1_insurer_44 : decode cX1_insurer 44 = .ok (.aload_n 0, 1) := dk_42 (dk_at dksX1_insurer_2 0 rfl rfl)
theorem dX1_insurer_45 : decode cX1_insurer 45 = .ok (.getfield 10, 3) := dk_180 0 10 (dk_at dksX1_insurer_2 1 rfl rfl)
theorem dX1_insurer_48 : decode cX1_insurer 48 = .ok (.iload_n 1, 1) := dk_27 (dk_at dksX1_insurer_2 4 rfl rfl)
theorem dX1_insurer_49 : decode cX1_insurer 49 = .ok (.invokevirtual 302, 3) := dk_182 1 46 (dk_at dksX1_insurer_2 5 rfl rfl)
theorem dX1_insurer_52 : decode cX1_insurer 52 = .ok (.lreturn, 1) := dk_173 (dk_at dksX1_insurer_2 8 rfl rfl)
theorem dX1_insurer_53 : decode cX1_insurer 53 = .ok (.aload_n 0, 1) := dk_42 (dk_at dksX1_insurer_2 9 rfl rfl)
theorem dX1_insurer_54 : decode cX1_insurer 54 = .ok (.getfield 10, 3) := dk_180 0 10 (dk_at dksX1_insurer_2 10 rfl rfl)
theorem dX1_insurer_57 : decode cX1_insurer 57 = .ok (.getfield 305, 3) := dk_180 1 49 (dk_at dksX1_insurer_2 13 rfl rfl)
theorem dX1_insurer_60 : decode cX1_insurer 60 = .ok (.iload_n 1, 1) := dk_27 (dk_at dksX1_insurer_2 16 rfl rfl)
theorem dX1_insurer_61 : decode cX1_insurer 61 = .ok (.iaload, 1) := dk_46 (dk_at dksX1_insurer_2 17 rfl rfl)
theorem dX1_insurer_62 : decode cX1_insurer 62 = .ok (.i2l, 1) := dk_133 (dk_at dksX1_insurer_2 18 rfl rfl)
theorem dX1_insurer_63 : decode cX1_insurer 63 = .ok (.lreturn, 1) := dk_173 (dk_at dksX1_insurer_2 19 rfl rfl)
theorem dX1_insurer_64 : decode cX1_insurer 64 = .ok (.iconst 1, 1) := dk_4 (dk_at dksX1_insurer_2 20 rfl rfl)
theorem dX1_insurer_65 : decode cX1_insurer 65 = .ok (.istore 5, 2) := dk_54 5 (dk_at dksX1_insurer_2 21 rfl rfl)
theorem dX1_insurer_67 : decode cX1_insurer 67 = .ok (.iload 5, 2) := dk_21 5 (dk_at dksX1_insurer_3 0 rfl rfl)
theorem dX1_insurer_69 : decode cX1_insurer 69 = .ok (.bipush 10, 2) := dk_16 10 (dk_at dksX1_insurer_3 2 rfl rfl)
theorem dX1_insurer_71 : decode cX1_insurer 71 = .ok (.if_icmp .ge 36, 3) := dk_162 0 36 (dk_at dksX1_insurer_3 4 rfl rfl)
theorem dX1_insurer_74 : decode cX1_insurer 74 = .ok (.lload_n 3, 1) := dk_33 (dk_at dksX1_insurer_3 7 rfl rfl)
theorem dX1_insurer_75 : decode cX1_insurer 75 = .ok (.iload_n 1, 1) := dk_27 (dk_at dksX1_insurer_3 8 rfl rfl)
theorem dX1_insurer_76 : decode cX1_insurer 76 = .ok (.ifCond .eq 9, 3) := dk_153 0 9 (dk_at dksX1_insurer_3 9 rfl rfl)
theorem dX1_insurer_79 : decode cX1_insurer 79 = .ok (.iload 5, 2) := dk_21 5 (dk_at dksX1_insurer_3 12 rfl rfl)
theorem dX1_insurer_81 : decode cX1_insurer 81 = .ok (.iload_n 1, 1) := dk_27 (dk_at dksX1_insurer_3 14 rfl rfl)
theorem dX1_insurer_82 : decode cX1_insurer 82 = .ok (.if_icmp .ne 16, 3) := dk_160 0 16 (dk_at dksX1_insurer_3 15 rfl rfl)
theorem dX1_insurer_85 : decode cX1_insurer 85 = .ok (.aload_n 0, 1) := dk_42 (dk_at dksX1_insurer_3 18 rfl rfl)
theorem dX1_insurer_86 : decode cX1_insurer 86 = .ok (.getfield 10, 3) := dk_180 0 10 (dk_at dksX1_insurer_3 19 rfl rfl)
theorem dX1_insurer_89 : decode cX1_insurer 89 = .ok (.getfield 308, 3) := dk_180 1 52 (dk_at dksX1_insurer_4 0 rfl rfl)
theorem dX1_insurer_92 : decode cX1_insurer 92 = .ok (.iload 5, 2) := dk_21 5 (dk_at dksX1_insurer_4 3 rfl rfl)
theorem dX1_insurer_94 : decode cX1_insurer 94 = .ok (.laload, 1) := dk_47 (dk_at dksX1_insurer_4 5 rfl rfl)
theorem dX1_insurer_95 : decode cX1_insurer 95 = .ok (.goto 4, 3) := dk_167 0 4 (dk_at dksX1_insurer_4 6 rfl rfl)
theorem dX1_insurer_98 : decode cX1_insurer 98 = .ok (.lconst 0, 1) := dk_9 (dk_at dksX1_insurer_4 9 rfl rfl)
theorem dX1_insurer_99 : decode cX1_insurer 99 = .ok (.ladd, 1) := dk_97 (dk_at dksX1_insurer_4 10 rfl rfl)
theorem dX1_insurer_100 : decode cX1_insurer 100 = .ok (.lstore_n 3, 1) := dk_66 (dk_at dksX1_insurer_4 11 rfl rfl)
theorem dX1_insurer_101 : decode cX1_insurer 101 = .ok (.iinc 5 1, 3) := dk_132 5 1 (dk_at dksX1_insurer_4 12 rfl rfl)
theorem dX1_insurer_104 : decode cX1_insurer 104 = .ok (.goto (-37), 3) := dk_167 255 219 (dk_at dksX1_insurer_4 15 rfl rfl)
theorem dX1_insurer_107 : decode cX1_insurer 107 = .ok (.lload_n 3, 1) := dk_33 (dk_at dksX1_insurer_4 18 rfl rfl)
theorem dX1_insurer_108 : decode cX1_insurer 108 = .ok (.lreturn, 1) := dk_173 (dk_at dksX1_insurer_4 19 rfl rfl)
theorem dX1_insurer_109 : decode cX1_insurer 109 = .ok (.iconst 0, 1) := dk_3 (dk_at dksX1_insurer_4 20 rfl rfl)
theorem dX1_insurer_110 : decode cX1_insurer 110 = .ok (.istore 5, 2) := dk_54 5 (dk_at dksX1_insurer_4 21 rfl rfl)
theorem dX1_insurer_112 : decode cX1_insurer 112 = .ok (.iload 5, 2) := dk_21 5 (dk_at dksX1_insurer_5 0 rfl rfl)
theorem dX1_insurer_114 : decode cX1_insurer 114 = .ok (.aload_n 0, 1) := dk_42 (dk_at dksX1_insurer_5 2 rfl rfl)
theorem dX1_insurer_115 : decode cX1_insurer 115 = .ok (.getfield 10, 3) := dk_180 0 10 (dk_at dksX1_insurer_5 3 rfl rfl)
theorem dX1_insurer_118 : decode cX1_insurer 118 = .ok (.getfield 58, 3) := dk_180 0 58 (dk_at dksX1_insurer_5 6 rfl rfl)
theorem dX1_insurer_121 : decode cX1_insurer 121 = .ok (.if_icmp .ge 34, 3) := dk_162 0 34 (dk_at dksX1_insurer_5 9 rfl rfl)
theorem dX1_insurer_124 : decode cX1_insurer 124 = .ok (.lload_n 3, 1) := dk_33 (dk_at dksX1_insurer_5 12 rfl rfl)
theorem dX1_insurer_125 : decode cX1_insurer 125 = .ok (.aload_n 0, 1) := dk_42 (dk_at dksX1_insurer_5 13 rfl rfl)
theorem dX1_insurer_126 : decode cX1_insurer 126 = .ok (.getfield 10, 3) := dk_180 0 10 (dk_at dksX1_insurer_5 14 rfl rfl)
theorem dX1_insurer_129 : decode cX1_insurer 129 = .ok (.getfield 66, 3) := dk_180 0 66 (dk_at dksX1_insurer_5 17 rfl rfl)
theorem dX1_insurer_132 : decode cX1_insurer 132 = .ok (.iload 5, 2) := dk_21 5 (dk_at dksX1_insurer_5 20 rfl rfl)
theorem dX1_insurer_134 : decode cX1_insurer 134 = .ok (.aaload, 1) := dk_50 (dk_at dksX1_insurer_5 22 rfl rfl)
theorem dX1_insurer_135 : decode cX1_insurer 135 = .ok (.iload_n 1, 1) := dk_27 (dk_at dksX1_insurer_5 23 rfl rfl)
theorem dX1_insurer_136 : decode cX1_insurer 136 = .ok (.invokevirtual 311, 3) := dk_182 1 55 (dk_at dksX1_insurer_6 0 rfl rfl)
theorem dX1_insurer_139 : decode cX1_insurer 139 = .ok (.ifCond .le 7, 3) := dk_158 0 7 (dk_at dksX1_insurer_6 3 rfl rfl)
theorem dX1_insurer_142 : decode cX1_insurer 142 = .ok (.lconst 1, 1) := dk_10 (dk_at dksX1_insurer_6 6 rfl rfl)
theorem dX1_insurer_143 : decode cX1_insurer 143 = .ok (.goto 4, 3) := dk_167 0 4 (dk_at dksX1_insurer_6 7 rfl rfl)
theorem dX1_insurer_146 : decode cX1_insurer 146 = .ok (.lconst 0, 1) := dk_9 (dk_at dksX1_insurer_6 10 rfl rfl)
theorem dX1_insurer_147 : decode cX1_insurer 147 = .ok (.ladd, 1) := dk_97 (dk_at dksX1_insurer_6 11 rfl rfl)
theorem dX1_insurer_148 : decode cX1_insurer 148 = .ok (.lstore_n 3, 1) := dk_66 (dk_at dksX1_insurer_6 12 rfl rfl)
theorem dX1_insurer_149 : decode cX1_insurer 149 = .ok (.iinc 5 1, 3) := dk_132 5 1 (dk_at dksX1_insurer_6 13 rfl rfl)
theorem dX1_insurer_152 : decode cX1_insurer 152 = .ok (.goto (-40), 3) := dk_167 255 216 (dk_at dksX1_insurer_6 16 rfl rfl)
theorem dX1_insurer_155 : decode cX1_insurer 155 = .ok (.lload_n 3, 1) := dk_33 (dk_at dksX1_insurer_6 19 rfl rfl)
theorem dX1_insurer_156 : decode cX1_insurer 156 = .ok (.lreturn, 1) := dk_173 (dk_at dksX1_insurer_6 20 rfl rfl)
theorem dX1_insurer_157 : decode cX1_insurer 157 = .ok (.iconst 0, 1) := dk_3 (dk_at dksX1_insurer_6 21 rfl rfl)
theorem dX1_insurer_158 : decode cX1_insurer 158 = .ok (.istore 5, 2) := dk_54 5 (dk_at dksX1_insurer_6 22 rfl rfl)
theorem dX1_insurer_160 : decode cX1_insurer 160 = .ok (.iload 5, 2) := dk_21 5 (dk_at dksX1_insurer_7 0 rfl rfl)
theorem dX1_insurer_162 : decode cX1_insurer 162 = .ok (.aload_n 0, 1) := dk_42 (dk_at dksX1_insurer_7 2 rfl rfl)
theorem dX1_insurer_163 : decode cX1_insurer 163 = .ok (.getfield 10, 3) := dk_180 0 10 (dk_at dksX1_insurer_7 3 rfl rfl)
theorem dX1_insurer_166 : decode cX1_insurer 166 = .ok (.getfield 58, 3) := dk_180 0 58 (dk_at dksX1_insurer_7 6 rfl rfl)
theorem dX1_insurer_169 : decode cX1_insurer 169 = .ok (.if_icmp .ge 45, 3) := dk_162 0 45 (dk_at dksX1_insurer_7 9 rfl rfl)
theorem dX1_insurer_172 : decode cX1_insurer 172 = .ok (.lload_n 3, 1) := dk_33 (dk_at dksX1_insurer_7 12 rfl rfl)
theorem dX1_insurer_173 : decode cX1_insurer 173 = .ok (.aload_n 0, 1) := dk_42 (dk_at dksX1_insurer_7 13 rfl rfl)
theorem dX1_insurer_174 : decode cX1_insurer 174 = .ok (.getfield 10, 3) := dk_180 0 10 (dk_at dksX1_insurer_7 14 rfl rfl)
theorem dX1_insurer_177 : decode cX1_insurer 177 = .ok (.getfield 66, 3) := dk_180 0 66 (dk_at dksX1_insurer_7 17 rfl rfl)
theorem dX1_insurer_180 : decode cX1_insurer 180 = .ok (.iload 5, 2) := dk_21 5 (dk_at dksX1_insurer_7 20 rfl rfl)
theorem dX1_insurer_182 : decode cX1_insurer 182 = .ok (.aaload, 1) := dk_50 (dk_at dksX1_insurer_7 22 rfl rfl)
theorem dX1_insurer_183 : decode cX1_insurer 183 = .ok (.invokevirtual 220, 3) := dk_182 0 220 (dk_at dksX1_insurer_8 0 rfl rfl)
theorem dX1_insurer_186 : decode cX1_insurer 186 = .ok (.aload_n 0, 1) := dk_42 (dk_at dksX1_insurer_8 3 rfl rfl)
theorem dX1_insurer_187 : decode cX1_insurer 187 = .ok (.getfield 10, 3) := dk_180 0 10 (dk_at dksX1_insurer_8 4 rfl rfl)
theorem dX1_insurer_190 : decode cX1_insurer 190 = .ok (.getfield 66, 3) := dk_180 0 66 (dk_at dksX1_insurer_8 7 rfl rfl)
theorem dX1_insurer_193 : decode cX1_insurer 193 = .ok (.iload 5, 2) := dk_21 5 (dk_at dksX1_insurer_8 10 rfl rfl)
theorem dX1_insurer_195 : decode cX1_insurer 195 = .ok (.aaload, 1) := dk_50 (dk_at dksX1_insurer_8 12 rfl rfl)
theorem dX1_insurer_196 : decode cX1_insurer 196 = .ok (.iload_n 1, 1) := dk_27 (dk_at dksX1_insurer_8 13 rfl rfl)
theorem dX1_insurer_197 : decode cX1_insurer 197 = .ok (.invokevirtual 311, 3) := dk_182 1 55 (dk_at dksX1_insurer_8 14 rfl rfl)
theorem dX1_insurer_200 : decode cX1_insurer 200 = .ok (.i2l, 1) := dk_133 (dk_at dksX1_insurer_8 17 rfl rfl)
theorem dX1_insurer_201 : decode cX1_insurer 201 = .ok (.lmul, 1) := dk_105 (dk_at dksX1_insurer_8 18 rfl rfl)
theorem dX1_insurer_202 : decode cX1_insurer 202 = .ok (.ldc2_w 314, 3) := dk_20 1 58 (dk_at dksX1_insurer_8 19 rfl rfl)
theorem dX1_insurer_205 : decode cX1_insurer 205 = .ok (.ldiv, 1) := dk_109 (dk_at dksX1_insurer_8 22 rfl rfl)
theorem dX1_insurer_206 : decode cX1_insurer 206 = .ok (.ladd, 1) := dk_97 (dk_at dksX1_insurer_8 23 rfl rfl)
theorem dX1_insurer_207 : decode cX1_insurer 207 = .ok (.lstore_n 3, 1) := dk_66 (dk_at dksX1_insurer_9 0 rfl rfl)
theorem dX1_insurer_208 : decode cX1_insurer 208 = .ok (.iinc 5 1, 3) := dk_132 5 1 (dk_at dksX1_insurer_9 1 rfl rfl)
theorem dX1_insurer_211 : decode cX1_insurer 211 = .ok (.goto (-51), 3) := dk_167 255 205 (dk_at dksX1_insurer_9 4 rfl rfl)
theorem dX1_insurer_214 : decode cX1_insurer 214 = .ok (.lload_n 3, 1) := dk_33 (dk_at dksX1_insurer_9 7 rfl rfl)
theorem dX1_insurer_215 : decode cX1_insurer 215 = .ok (.lreturn, 1) := dk_173 (dk_at dksX1_insurer_9 8 rfl rfl)
abbrev cX1_burden : ByteArray := prog_1_method_41_code
def yX1_burden : MethodName := ⟨RX1, "burden", "(I)J"⟩
def dkwX1_burden_2 : List UInt8 := [167, 255, 223, 32, 173]
abbrev dktX1_burden_2 : List UInt8 := dkwX1_burden_2 ++ []
def dkwX1_burden_1 : List UInt8 := [162, 0, 27, 32, 42, 180, 0, 10, 180, 0, 73, 21, 4, 50, 180, 1, 43, 27, 47, 97, 65, 132, 4, 1]
abbrev dktX1_burden_1 : List UInt8 := dkwX1_burden_1 ++ dktX1_burden_2
def dkwX1_burden_0 : List UInt8 := [42, 27, 3, 16, 6, 182, 0, 80, 9, 65, 3, 54, 4, 21, 4, 42, 180, 0, 10, 180, 0, 70]
abbrev dktX1_burden_0 : List UInt8 := dkwX1_burden_0 ++ dktX1_burden_1
theorem dksX1_burden_0 : cX1_burden.data.toList.drop 0 = dktX1_burden_0 := by decide +kernel
theorem dksX1_burden_1 : cX1_burden.data.toList.drop 22 = dktX1_burden_1 := dk_seg dksX1_burden_0 22 rfl rfl
theorem dksX1_burden_2 : cX1_burden.data.toList.drop 46 = dktX1_burden_2 := dk_seg dksX1_burden_1 24 rfl rfl
theorem dX1_burden_0 : decode cX1_burden 0 = .ok (.aload_n 0, 1) := dk_42 (dk_at dksX1_burden_0 0 rfl rfl)
theorem dX1_burden_1 : decode cX1_burden 1 = .ok (.iload_n 1, 1) := dk_27 (dk_at dksX1_burden_0 1 rfl rfl)
theorem dX1_burden_2 : decode cX1_burden 2 = .ok (.iconst 0, 1) := dk_3 (dk_at dksX1_burden_0 2 rfl rfl)
theorem dX1_burden_3 : decode cX1_burden 3 = .ok (.bipush 6, 2) := dk_16 6 (dk_at dksX1_burden_0 3 rfl rfl)
theorem dX1_burden_5 : decode cX1_burden 5 = .ok (.invokevirtual 80, 3) := dk_182 0 80 (dk_at dksX1_burden_0 5 rfl rfl)
theorem dX1_burden_8 : decode cX1_burden 8 = .ok (.lconst 0, 1) := dk_9 (dk_at dksX1_burden_0 8 rfl rfl)
theorem dX1_burden_9 : decode cX1_burden 9 = .ok (.lstore_n 2, 1) := dk_65 (dk_at dksX1_burden_0 9 rfl rfl)
theorem dX1_burden_10 : decode cX1_burden 10 = .ok (.iconst 0, 1) := dk_3 (dk_at dksX1_burden_0 10 rfl rfl)
theorem dX1_burden_11 : decode cX1_burden 11 = .ok (.istore 4, 2) := dk_54 4 (dk_at dksX1_burden_0 11 rfl rfl)
theorem dX1_burden_13 : decode cX1_burden 13 = .ok (.iload 4, 2) := dk_21 4 (dk_at dksX1_burden_0 13 rfl rfl)
theorem dX1_burden_15 : decode cX1_burden 15 = .ok (.aload_n 0, 1) := dk_42 (dk_at dksX1_burden_0 15 rfl rfl)
theorem dX1_burden_16 : decode cX1_burden 16 = .ok (.getfield 10, 3) := dk_180 0 10 (dk_at dksX1_burden_0 16 rfl rfl)
theorem dX1_burden_19 : decode cX1_burden 19 = .ok (.getfield 70, 3) := dk_180 0 70 (dk_at dksX1_burden_0 19 rfl rfl)
theorem dX1_burden_22 : decode cX1_burden 22 = .ok (.if_icmp .ge 27, 3) := dk_162 0 27 (dk_at dksX1_burden_1 0 rfl rfl)
theorem dX1_burden_25 : decode cX1_burden 25 = .ok (.lload_n 2, 1) := dk_32 (dk_at dksX1_burden_1 3 rfl rfl)
theorem dX1_burden_26 : decode cX1_burden 26 = .ok (.aload_n 0, 1) := dk_42 (dk_at dksX1_burden_1 4 rfl rfl)
theorem dX1_burden_27 : decode cX1_burden 27 = .ok (.getfield 10, 3) := dk_180 0 10 (dk_at dksX1_burden_1 5 rfl rfl)
theorem dX1_burden_30 : decode cX1_burden 30 = .ok (.getfield 73, 3) := dk_180 0 73 (dk_at dksX1_burden_1 8 rfl rfl)
theorem dX1_burden_33 : decode cX1_burden 33 = .ok (.iload 4, 2) := dk_21 4 (dk_at dksX1_burden_1 11 rfl rfl)
theorem dX1_burden_35 : decode cX1_burden 35 = .ok (.aaload, 1) := dk_50 (dk_at dksX1_burden_1 13 rfl rfl)
theorem dX1_burden_36 : decode cX1_burden 36 = .ok (.getfield 299, 3) := dk_180 1 43 (dk_at dksX1_burden_1 14 rfl rfl)
theorem dX1_burden_39 : decode cX1_burden 39 = .ok (.iload_n 1, 1) := dk_27 (dk_at dksX1_burden_1 17 rfl rfl)
theorem dX1_burden_40 : decode cX1_burden 40 = .ok (.laload, 1) := dk_47 (dk_at dksX1_burden_1 18 rfl rfl)
theorem dX1_burden_41 : decode cX1_burden 41 = .ok (.ladd, 1) := dk_97 (dk_at dksX1_burden_1 19 rfl rfl)
theorem dX1_burden_42 : decode cX1_burden 42 = .ok (.lstore_n 2, 1) := dk_65 (dk_at dksX1_burden_1 20 rfl rfl)
theorem dX1_burden_43 : decode cX1_burden 43 = .ok (.iinc 4 1, 3) := dk_132 4 1 (dk_at dksX1_burden_1 21 rfl rfl)
theorem dX1_burden_46 : decode cX1_burden 46 = .ok (.goto (-33), 3) := dk_167 255 223 (dk_at dksX1_burden_2 0 rfl rfl)
theorem dX1_burden_49 : decode cX1_burden 49 = .ok (.lload_n 2, 1) := dk_32 (dk_at dksX1_burden_2 3 rfl rfl)
theorem dX1_burden_50 : decode cX1_burden 50 = .ok (.lreturn, 1) := dk_173 (dk_at dksX1_burden_2 4 rfl rfl)
abbrev cX1_rank : ByteArray := prog_1_method_42_code
def yX1_rank : MethodName := ⟨RX1, "rank", "(I)I"⟩
def dkwX1_rank_4 : List UInt8 := [182, 1, 74, 192, 0, 32, 77, 132, 3, 1, 167, 255, 236, 44, 180, 1, 63, 172]
abbrev dktX1_rank_4 : List UInt8 := dkwX1_rank_4 ++ []
def dkwX1_rank_3 : List UInt8 := [180, 0, 41, 182, 1, 71, 192, 0, 32, 77, 3, 62, 29, 27, 162, 0, 21, 42, 180, 0, 41, 44]
abbrev dktX1_rank_3 : List UInt8 := dkwX1_rank_3 ++ dktX1_rank_4
def dkwX1_rank_2 : List UInt8 := [182, 1, 46, 181, 1, 64, 42, 180, 0, 41, 25, 5, 182, 1, 67, 87, 132, 4, 1, 167, 255, 214, 42]
abbrev dktX1_rank_2 : List UInt8 := dkwX1_rank_2 ++ dktX1_rank_3
def dkwX1_rank_1 : List UInt8 := [21, 4, 29, 162, 0, 42, 44, 21, 4, 50, 58, 5, 25, 5, 42, 180, 0, 10, 25, 5, 180, 1, 63]
abbrev dktX1_rank_1 : List UInt8 := dkwX1_rank_1 ++ dktX1_rank_2
def dkwX1_rank_0 : List UInt8 := [42, 27, 182, 0, 121, 42, 180, 0, 41, 182, 1, 60, 42, 180, 0, 34, 77, 44, 190, 62, 3, 54, 4]
abbrev dktX1_rank_0 : List UInt8 := dkwX1_rank_0 ++ dktX1_rank_1
theorem dksX1_rank_0 : cX1_rank.data.toList.drop 0 = dktX1_rank_0 := by decide +kernel
theorem dksX1_rank_1 : cX1_rank.data.toList.drop 23 = dktX1_rank_1 := dk_seg dksX1_rank_0 23 rfl rfl
theorem dksX1_rank_2 : cX1_rank.data.toList.drop 46 = dktX1_rank_2 := dk_seg dksX1_rank_1 23 rfl rfl
theorem dksX1_rank_3 : cX1_rank.data.toList.drop 69 = dktX1_rank_3 := dk_seg dksX1_rank_2 23 rfl rfl
theorem dksX1_rank_4 : cX1_rank.data.toList.drop 91 = dktX1_rank_4 := dk_seg dksX1_rank_3 22 rfl rfl
theorem dX1_rank_0 : decode cX1_rank 0 = .ok (.aload_n 0, 1) := dk_42 (dk_at dksX1_rank_0 0 rfl rfl)
theorem dX1_rank_1 : decode cX1_rank 1 = .ok (.iload_n 1, 1) := dk_27 (dk_at dksX1_rank_0 1 rfl rfl)
theorem dX1_rank_2 : decode cX1_rank 2 = .ok (.invokevirtual 121, 3) := dk_182 0 121 (dk_at dksX1_rank_0 2 rfl rfl)
theorem dX1_rank_5 : decode cX1_rank 5 = .ok (.aload_n 0, 1) := dk_42 (dk_at dksX1_rank_0 5 rfl rfl)
theorem dX1_rank_6 : decode cX1_rank 6 = .ok (.getfield 41, 3) := dk_180 0 41 (dk_at dksX1_rank_0 6 rfl rfl)
theorem dX1_rank_9 : decode cX1_rank 9 = .ok (.invokevirtual 316, 3) := dk_182 1 60 (dk_at dksX1_rank_0 9 rfl rfl)
theorem dX1_rank_12 : decode cX1_rank 12 = .ok (.aload_n 0, 1) := dk_42 (dk_at dksX1_rank_0 12 rfl rfl)
theorem dX1_rank_13 : decode cX1_rank 13 = .ok (.getfield 34, 3) := dk_180 0 34 (dk_at dksX1_rank_0 13 rfl rfl)
theorem dX1_rank_16 : decode cX1_rank 16 = .ok (.astore_n 2, 1) := dk_77 (dk_at dksX1_rank_0 16 rfl rfl)
theorem dX1_rank_17 : decode cX1_rank 17 = .ok (.aload_n 2, 1) := dk_44 (dk_at dksX1_rank_0 17 rfl rfl)
theorem dX1_rank_18 : decode cX1_rank 18 = .ok (.arraylength, 1) := dk_190 (dk_at dksX1_rank_0 18 rfl rfl)
theorem dX1_rank_19 : decode cX1_rank 19 = .ok (.istore_n 3, 1) := dk_62 (dk_at dksX1_rank_0 19 rfl rfl)
theorem dX1_rank_20 : decode cX1_rank 20 = .ok (.iconst 0, 1) := dk_3 (dk_at dksX1_rank_0 20 rfl rfl)
theorem dX1_rank_21 : decode cX1_rank 21 = .ok (.istore 4, 2) := dk_54 4 (dk_at dksX1_rank_0 21 rfl rfl)
theorem dX1_rank_23 : decode cX1_rank 23 = .ok (.iload 4, 2) := dk_21 4 (dk_at dksX1_rank_1 0 rfl rfl)
theorem dX1_rank_25 : decode cX1_rank 25 = .ok (.iload_n 3, 1) := dk_29 (dk_at dksX1_rank_1 2 rfl rfl)
theorem dX1_rank_26 : decode cX1_rank 26 = .ok (.if_icmp .ge 42, 3) := dk_162 0 42 (dk_at dksX1_rank_1 3 rfl rfl)
theorem dX1_rank_29 : decode cX1_rank 29 = .ok (.aload_n 2, 1) := dk_44 (dk_at dksX1_rank_1 6 rfl rfl)
theorem dX1_rank_30 : decode cX1_rank 30 = .ok (.iload 4, 2) := dk_21 4 (dk_at dksX1_rank_1 7 rfl rfl)
theorem dX1_rank_32 : decode cX1_rank 32 = .ok (.aaload, 1) := dk_50 (dk_at dksX1_rank_1 9 rfl rfl)
theorem dX1_rank_33 : decode cX1_rank 33 = .ok (.astore 5, 2) := dk_58 5 (dk_at dksX1_rank_1 10 rfl rfl)
theorem dX1_rank_35 : decode cX1_rank 35 = .ok (.aload 5, 2) := dk_25 5 (dk_at dksX1_rank_1 12 rfl rfl)
theorem dX1_rank_37 : decode cX1_rank 37 = .ok (.aload_n 0, 1) := dk_42 (dk_at dksX1_rank_1 14 rfl rfl)
theorem dX1_rank_38 : decode cX1_rank 38 = .ok (.getfield 10, 3) := dk_180 0 10 (dk_at dksX1_rank_1 15 rfl rfl)
theorem dX1_rank_41 : decode cX1_rank 41 = .ok (.aload 5, 2) := dk_25 5 (dk_at dksX1_rank_1 18 rfl rfl)
theorem dX1_rank_43 : decode cX1_rank 43 = .ok (.getfield 319, 3) := dk_180 1 63 (dk_at dksX1_rank_1 20 rfl rfl)
theorem dX1_rank_46 : decode cX1_rank 46 = .ok (.invokevirtual 302, 3) := dk_182 1 46 (dk_at dksX1_rank_2 0 rfl rfl)
theorem dX1_rank_49 : decode cX1_rank 49 = .ok (.putfield 320, 3) := dk_181 1 64 (dk_at dksX1_rank_2 3 rfl rfl)
theorem dX1_rank_52 : decode cX1_rank 52 = .ok (.aload_n 0, 1) := dk_42 (dk_at dksX1_rank_2 6 rfl rfl)
theorem dX1_rank_53 : decode cX1_rank 53 = .ok (.getfield 41, 3) := dk_180 0 41 (dk_at dksX1_rank_2 7 rfl rfl)
theorem dX1_rank_56 : decode cX1_rank 56 = .ok (.aload 5, 2) := dk_25 5 (dk_at dksX1_rank_2 10 rfl rfl)
theorem dX1_rank_58 : decode cX1_rank 58 = .ok (.invokevirtual 323, 3) := dk_182 1 67 (dk_at dksX1_rank_2 12 rfl rfl)
theorem dX1_rank_61 : decode cX1_rank 61 = .ok (.pop, 1) := dk_87 (dk_at dksX1_rank_2 15 rfl rfl)
theorem dX1_rank_62 : decode cX1_rank 62 = .ok (.iinc 4 1, 3) := dk_132 4 1 (dk_at dksX1_rank_2 16 rfl rfl)
theorem dX1_rank_65 : decode cX1_rank 65 = .ok (.goto (-42), 3) := dk_167 255 214 (dk_at dksX1_rank_2 19 rfl rfl)
theorem dX1_rank_68 : decode cX1_rank 68 = .ok (.aload_n 0, 1) := dk_42 (dk_at dksX1_rank_2 22 rfl rfl)
theorem dX1_rank_69 : decode cX1_rank 69 = .ok (.getfield 41, 3) := dk_180 0 41 (dk_at dksX1_rank_3 0 rfl rfl)
theorem dX1_rank_72 : decode cX1_rank 72 = .ok (.invokevirtual 327, 3) := dk_182 1 71 (dk_at dksX1_rank_3 3 rfl rfl)
theorem dX1_rank_75 : decode cX1_rank 75 = .ok (.checkcast 32, 3) := dk_192 0 32 (dk_at dksX1_rank_3 6 rfl rfl)
theorem dX1_rank_78 : decode cX1_rank 78 = .ok (.astore_n 2, 1) := dk_77 (dk_at dksX1_rank_3 9 rfl rfl)
theorem dX1_rank_79 : decode cX1_rank 79 = .ok (.iconst 0, 1) := dk_3 (dk_at dksX1_rank_3 10 rfl rfl)
theorem dX1_rank_80 : decode cX1_rank 80 = .ok (.istore_n 3, 1) := dk_62 (dk_at dksX1_rank_3 11 rfl rfl)
theorem dX1_rank_81 : decode cX1_rank 81 = .ok (.iload_n 3, 1) := dk_29 (dk_at dksX1_rank_3 12 rfl rfl)
theorem dX1_rank_82 : decode cX1_rank 82 = .ok (.iload_n 1, 1) := dk_27 (dk_at dksX1_rank_3 13 rfl rfl)
theorem dX1_rank_83 : decode cX1_rank 83 = .ok (.if_icmp .ge 21, 3) := dk_162 0 21 (dk_at dksX1_rank_3 14 rfl rfl)
theorem dX1_rank_86 : decode cX1_rank 86 = .ok (.aload_n 0, 1) := dk_42 (dk_at dksX1_rank_3 17 rfl rfl)
theorem dX1_rank_87 : decode cX1_rank 87 = .ok (.getfield 41, 3) := dk_180 0 41 (dk_at dksX1_rank_3 18 rfl rfl)
theorem dX1_rank_90 : decode cX1_rank 90 = .ok (.aload_n 2, 1) := dk_44 (dk_at dksX1_rank_3 21 rfl rfl)
theorem dX1_rank_91 : decode cX1_rank 91 = .ok (.invokevirtual 330, 3) := dk_182 1 74 (dk_at dksX1_rank_4 0 rfl rfl)
theorem dX1_rank_94 : decode cX1_rank 94 = .ok (.checkcast 32, 3) := dk_192 0 32 (dk_at dksX1_rank_4 3 rfl rfl)
theorem dX1_rank_97 : decode cX1_rank 97 = .ok (.astore_n 2, 1) := dk_77 (dk_at dksX1_rank_4 6 rfl rfl)
theorem dX1_rank_98 : decode cX1_rank 98 = .ok (.iinc 3 1, 3) := dk_132 3 1 (dk_at dksX1_rank_4 7 rfl rfl)
theorem dX1_rank_101 : decode cX1_rank 101 = .ok (.goto (-20), 3) := dk_167 255 236 (dk_at dksX1_rank_4 10 rfl rfl)
theorem dX1_rank_104 : decode cX1_rank 104 = .ok (.aload_n 2, 1) := dk_44 (dk_at dksX1_rank_4 13 rfl rfl)
theorem dX1_rank_105 : decode cX1_rank 105 = .ok (.getfield 319, 3) := dk_180 1 63 (dk_at dksX1_rank_4 14 rfl rfl)
theorem dX1_rank_108 : decode cX1_rank 108 = .ok (.ireturn, 1) := dk_172 (dk_at dksX1_rank_4 17 rfl rfl)
abbrev cX1_offs : ByteArray := prog_1_method_44_code
def yX1_offs : MethodName := ⟨RX1, "offs", "(IIII)I"⟩
def dkwX1_offs_1 : List UInt8 := [182, 1, 86, 172]
abbrev dktX1_offs_1 : List UInt8 := dkwX1_offs_1 ++ []
def dkwX1_offs_0 : List UInt8 := [42, 27, 28, 29, 182, 0, 156, 42, 21, 4, 3, 6, 182, 0, 80, 42, 27, 28, 29, 182, 1, 82, 21, 4]
abbrev dktX1_offs_0 : List UInt8 := dkwX1_offs_0 ++ dktX1_offs_1
theorem dksX1_offs_0 : cX1_offs.data.toList.drop 0 = dktX1_offs_0 := by decide +kernel
theorem dksX1_offs_1 : cX1_offs.data.toList.drop 24 = dktX1_offs_1 := dk_seg dksX1_offs_0 24 rfl rfl
theorem dX1_offs_0 : decode cX1_offs 0 = .ok (.aload_n 0, 1) := dk_42 (dk_at dksX1_offs_0 0 rfl rfl)
theorem dX1_offs_1 : decode cX1_offs 1 = .ok (.iload_n 1, 1) := dk_27 (dk_at dksX1_offs_0 1 rfl rfl)
theorem dX1_offs_2 : decode cX1_offs 2 = .ok (.iload_n 2, 1) := dk_28 (dk_at dksX1_offs_0 2 rfl rfl)
theorem dX1_offs_3 : decode cX1_offs 3 = .ok (.iload_n 3, 1) := dk_29 (dk_at dksX1_offs_0 3 rfl rfl)
theorem dX1_offs_4 : decode cX1_offs 4 = .ok (.invokevirtual 156, 3) := dk_182 0 156 (dk_at dksX1_offs_0 4 rfl rfl)
theorem dX1_offs_7 : decode cX1_offs 7 = .ok (.aload_n 0, 1) := dk_42 (dk_at dksX1_offs_0 7 rfl rfl)
theorem dX1_offs_8 : decode cX1_offs 8 = .ok (.iload 4, 2) := dk_21 4 (dk_at dksX1_offs_0 8 rfl rfl)
theorem dX1_offs_10 : decode cX1_offs 10 = .ok (.iconst 0, 1) := dk_3 (dk_at dksX1_offs_0 10 rfl rfl)
theorem dX1_offs_11 : decode cX1_offs 11 = .ok (.iconst 3, 1) := dk_6 (dk_at dksX1_offs_0 11 rfl rfl)
theorem dX1_offs_12 : decode cX1_offs 12 = .ok (.invokevirtual 80, 3) := dk_182 0 80 (dk_at dksX1_offs_0 12 rfl rfl)
theorem dX1_offs_15 : decode cX1_offs 15 = .ok (.aload_n 0, 1) := dk_42 (dk_at dksX1_offs_0 15 rfl rfl)
theorem dX1_offs_16 : decode cX1_offs 16 = .ok (.iload_n 1, 1) := dk_27 (dk_at dksX1_offs_0 16 rfl rfl)
theorem dX1_offs_17 : decode cX1_offs 17 = .ok (.iload_n 2, 1) := dk_28 (dk_at dksX1_offs_0 17 rfl rfl)
theorem dX1_offs_18 : decode cX1_offs 18 = .ok (.iload_n 3, 1) := dk_29 (dk_at dksX1_offs_0 18 rfl rfl)
theorem dX1_offs_19 : decode cX1_offs 19 = .ok (.invokevirtual 338, 3) := dk_182 1 82 (dk_at dksX1_offs_0 19 rfl rfl)
theorem dX1_offs_22 : decode cX1_offs 22 = .ok (.iload 4, 2) := dk_21 4 (dk_at dksX1_offs_0 22 rfl rfl)
theorem dX1_offs_24 : decode cX1_offs 24 = .ok (.invokevirtual 342, 3) := dk_182 1 86 (dk_at dksX1_offs_1 0 rfl rfl)
theorem dX1_offs_27 : decode cX1_offs 27 = .ok (.ireturn, 1) := dk_172 (dk_at dksX1_offs_1 3 rfl rfl)
abbrev cX1_asIfBy : ByteArray := prog_1_method_43_code
def yX1_asIfBy : MethodName := ⟨RX1, "asIfBy", "(III)LTallTowers$Harm;"⟩
def dkwX1_asIfBy_0 : List UInt8 := [42, 180, 0, 22, 182, 1, 78, 42, 180, 0, 22, 27, 28, 29, 182, 1, 79, 42, 180, 0, 22, 176]
abbrev dktX1_asIfBy_0 : List UInt8 := dkwX1_asIfBy_0 ++ []
theorem dksX1_asIfBy_0 : cX1_asIfBy.data.toList.drop 0 = dktX1_asIfBy_0 := by decide +kernel
theorem dX1_asIfBy_0 : decode cX1_asIfBy 0 = .ok (.aload_n 0, 1) := dk_42 (dk_at dksX1_asIfBy_0 0 rfl rfl)
theorem dX1_asIfBy_1 : decode cX1_asIfBy 1 = .ok (.getfield 22, 3) := dk_180 0 22 (dk_at dksX1_asIfBy_0 1 rfl rfl)
theorem dX1_asIfBy_4 : decode cX1_asIfBy 4 = .ok (.invokevirtual 334, 3) := dk_182 1 78 (dk_at dksX1_asIfBy_0 4 rfl rfl)
theorem dX1_asIfBy_7 : decode cX1_asIfBy 7 = .ok (.aload_n 0, 1) := dk_42 (dk_at dksX1_asIfBy_0 7 rfl rfl)
theorem dX1_asIfBy_8 : decode cX1_asIfBy 8 = .ok (.getfield 22, 3) := dk_180 0 22 (dk_at dksX1_asIfBy_0 8 rfl rfl)
theorem dX1_asIfBy_11 : decode cX1_asIfBy 11 = .ok (.iload_n 1, 1) := dk_27 (dk_at dksX1_asIfBy_0 11 rfl rfl)
theorem dX1_asIfBy_12 : decode cX1_asIfBy 12 = .ok (.iload_n 2, 1) := dk_28 (dk_at dksX1_asIfBy_0 12 rfl rfl)
theorem dX1_asIfBy_13 : decode cX1_asIfBy 13 = .ok (.iload_n 3, 1) := dk_29 (dk_at dksX1_asIfBy_0 13 rfl rfl)
theorem dX1_asIfBy_14 : decode cX1_asIfBy 14 = .ok (.invokevirtual 335, 3) := dk_182 1 79 (dk_at dksX1_asIfBy_0 14 rfl rfl)
theorem dX1_asIfBy_17 : decode cX1_asIfBy 17 = .ok (.aload_n 0, 1) := dk_42 (dk_at dksX1_asIfBy_0 17 rfl rfl)
theorem dX1_asIfBy_18 : decode cX1_asIfBy 18 = .ok (.getfield 22, 3) := dk_180 0 22 (dk_at dksX1_asIfBy_0 18 rfl rfl)
theorem dX1_asIfBy_21 : decode cX1_asIfBy 21 = .ok (.areturn, 1) := dk_176 (dk_at dksX1_asIfBy_0 21 rfl rfl)
abbrev cX1_would : ByteArray := prog_1_method_47_code
def yX1_would : MethodName := ⟨RX1, "would", "(IIIII)J"⟩
def dkwX1_would_1 : List UInt8 := [21, 5, 182, 1, 101, 173]
abbrev dktX1_would_1 : List UInt8 := dkwX1_would_1 ++ []
def dkwX1_would_0 : List UInt8 := [42, 27, 28, 29, 21, 4, 182, 1, 93, 42, 21, 5, 182, 0, 121, 42, 27, 28, 29, 21, 4, 182, 1, 97]
abbrev dktX1_would_0 : List UInt8 := dkwX1_would_0 ++ dktX1_would_1
theorem dksX1_would_0 : cX1_would.data.toList.drop 0 = dktX1_would_0 := by decide +kernel
theorem dksX1_would_1 : cX1_would.data.toList.drop 24 = dktX1_would_1 := dk_seg dksX1_would_0 24 rfl rfl
theorem dX1_would_0 : decode cX1_would 0 = .ok (.aload_n 0, 1) := dk_42 (dk_at dksX1_would_0 0 rfl rfl)
theorem dX1_would_1 : decode cX1_would 1 = .ok (.iload_n 1, 1) := dk_27 (dk_at dksX1_would_0 1 rfl rfl)
theorem dX1_would_2 : decode cX1_would 2 = .ok (.iload_n 2, 1) := dk_28 (dk_at dksX1_would_0 2 rfl rfl)
theorem dX1_would_3 : decode cX1_would 3 = .ok (.iload_n 3, 1) := dk_29 (dk_at dksX1_would_0 3 rfl rfl)
theorem dX1_would_4 : decode cX1_would 4 = .ok (.iload 4, 2) := dk_21 4 (dk_at dksX1_would_0 4 rfl rfl)
theorem dX1_would_6 : decode cX1_would 6 = .ok (.invokevirtual 349, 3) := dk_182 1 93 (dk_at dksX1_would_0 6 rfl rfl)
theorem dX1_would_9 : decode cX1_would 9 = .ok (.aload_n 0, 1) := dk_42 (dk_at dksX1_would_0 9 rfl rfl)
theorem dX1_would_10 : decode cX1_would 10 = .ok (.iload 5, 2) := dk_21 5 (dk_at dksX1_would_0 10 rfl rfl)
theorem dX1_would_12 : decode cX1_would 12 = .ok (.invokevirtual 121, 3) := dk_182 0 121 (dk_at dksX1_would_0 12 rfl rfl)
theorem dX1_would_15 : decode cX1_would 15 = .ok (.aload_n 0, 1) := dk_42 (dk_at dksX1_would_0 15 rfl rfl)
theorem dX1_would_16 : decode cX1_would 16 = .ok (.iload_n 1, 1) := dk_27 (dk_at dksX1_would_0 16 rfl rfl)
theorem dX1_would_17 : decode cX1_would 17 = .ok (.iload_n 2, 1) := dk_28 (dk_at dksX1_would_0 17 rfl rfl)
theorem dX1_would_18 : decode cX1_would 18 = .ok (.iload_n 3, 1) := dk_29 (dk_at dksX1_would_0 18 rfl rfl)
theorem dX1_would_19 : decode cX1_would 19 = .ok (.iload 4, 2) := dk_21 4 (dk_at dksX1_would_0 19 rfl rfl)
theorem dX1_would_21 : decode cX1_would 21 = .ok (.invokevirtual 353, 3) := dk_182 1 97 (dk_at dksX1_would_0 21 rfl rfl)
theorem dX1_would_24 : decode cX1_would 24 = .ok (.iload 5, 2) := dk_21 5 (dk_at dksX1_would_1 0 rfl rfl)
theorem dX1_would_26 : decode cX1_would 26 = .ok (.invokevirtual 357, 3) := dk_182 1 101 (dk_at dksX1_would_1 2 rfl rfl)
theorem dX1_would_29 : decode cX1_would 29 = .ok (.lreturn, 1) := dk_173 (dk_at dksX1_would_1 5 rfl rfl)
abbrev cX1_lossOf : ByteArray := prog_1_method_46_code
def yX1_lossOf : MethodName := ⟨RX1, "lossOf", "(IIII)V"⟩
def dkwX1_lossOf_0 : List UInt8 := [42, 27, 28, 29, 182, 0, 156, 42, 21, 4, 4, 18, 159, 182, 0, 80, 177]
abbrev dktX1_lossOf_0 : List UInt8 := dkwX1_lossOf_0 ++ []
theorem dksX1_lossOf_0 : cX1_lossOf.data.toList.drop 0 = dktX1_lossOf_0 := by decide +kernel
theorem dX1_lossOf_0 : decode cX1_lossOf 0 = .ok (.aload_n 0, 1) := dk_42 (dk_at dksX1_lossOf_0 0 rfl rfl)
theorem dX1_lossOf_1 : decode cX1_lossOf 1 = .ok (.iload_n 1, 1) := dk_27 (dk_at dksX1_lossOf_0 1 rfl rfl)
theorem dX1_lossOf_2 : decode cX1_lossOf 2 = .ok (.iload_n 2, 1) := dk_28 (dk_at dksX1_lossOf_0 2 rfl rfl)
theorem dX1_lossOf_3 : decode cX1_lossOf 3 = .ok (.iload_n 3, 1) := dk_29 (dk_at dksX1_lossOf_0 3 rfl rfl)
theorem dX1_lossOf_4 : decode cX1_lossOf 4 = .ok (.invokevirtual 156, 3) := dk_182 0 156 (dk_at dksX1_lossOf_0 4 rfl rfl)
theorem dX1_lossOf_7 : decode cX1_lossOf 7 = .ok (.aload_n 0, 1) := dk_42 (dk_at dksX1_lossOf_0 7 rfl rfl)
theorem dX1_lossOf_8 : decode cX1_lossOf 8 = .ok (.iload 4, 2) := dk_21 4 (dk_at dksX1_lossOf_0 8 rfl rfl)
theorem dX1_lossOf_10 : decode cX1_lossOf 10 = .ok (.iconst 1, 1) := dk_4 (dk_at dksX1_lossOf_0 10 rfl rfl)
theorem dX1_lossOf_11 : decode cX1_lossOf 11 = .ok (.ldc 159, 2) := dk_18 159 (dk_at dksX1_lossOf_0 11 rfl rfl)
theorem dX1_lossOf_13 : decode cX1_lossOf 13 = .ok (.invokevirtual 80, 3) := dk_182 0 80 (dk_at dksX1_lossOf_0 13 rfl rfl)
theorem dX1_lossOf_16 : decode cX1_lossOf 16 = .ok (.return_, 1) := dk_177 (dk_at dksX1_lossOf_0 16 rfl rfl)
abbrev cX1_asIfTold : ByteArray := prog_1_method_45_code
def yX1_asIfTold : MethodName := ⟨RX1, "asIfTold", "(IIII)LTallTowers$Flow;"⟩
def dkwX1_asIfTold_0 : List UInt8 := [42, 180, 0, 10, 42, 27, 28, 29, 182, 1, 82, 21, 4, 133, 182, 1, 89, 176]
abbrev dktX1_asIfTold_0 : List UInt8 := dkwX1_asIfTold_0 ++ []
theorem dksX1_asIfTold_0 : cX1_asIfTold.data.toList.drop 0 = dktX1_asIfTold_0 := by decide +kernel
theorem dX1_asIfTold_0 : decode cX1_asIfTold 0 = .ok (.aload_n 0, 1) := dk_42 (dk_at dksX1_asIfTold_0 0 rfl rfl)
theorem dX1_asIfTold_1 : decode cX1_asIfTold 1 = .ok (.getfield 10, 3) := dk_180 0 10 (dk_at dksX1_asIfTold_0 1 rfl rfl)
theorem dX1_asIfTold_4 : decode cX1_asIfTold 4 = .ok (.aload_n 0, 1) := dk_42 (dk_at dksX1_asIfTold_0 4 rfl rfl)
theorem dX1_asIfTold_5 : decode cX1_asIfTold 5 = .ok (.iload_n 1, 1) := dk_27 (dk_at dksX1_asIfTold_0 5 rfl rfl)
theorem dX1_asIfTold_6 : decode cX1_asIfTold 6 = .ok (.iload_n 2, 1) := dk_28 (dk_at dksX1_asIfTold_0 6 rfl rfl)
theorem dX1_asIfTold_7 : decode cX1_asIfTold 7 = .ok (.iload_n 3, 1) := dk_29 (dk_at dksX1_asIfTold_0 7 rfl rfl)
theorem dX1_asIfTold_8 : decode cX1_asIfTold 8 = .ok (.invokevirtual 338, 3) := dk_182 1 82 (dk_at dksX1_asIfTold_0 8 rfl rfl)
theorem dX1_asIfTold_11 : decode cX1_asIfTold 11 = .ok (.iload 4, 2) := dk_21 4 (dk_at dksX1_asIfTold_0 11 rfl rfl)
theorem dX1_asIfTold_13 : decode cX1_asIfTold 13 = .ok (.i2l, 1) := dk_133 (dk_at dksX1_asIfTold_0 13 rfl rfl)
theorem dX1_asIfTold_14 : decode cX1_asIfTold 14 = .ok (.invokevirtual 345, 3) := dk_182 1 89 (dk_at dksX1_asIfTold_0 14 rfl rfl)
theorem dX1_asIfTold_17 : decode cX1_asIfTold 17 = .ok (.areturn, 1) := dk_176 (dk_at dksX1_asIfTold_0 17 rfl rfl)
abbrev cX1_takes : ByteArray := prog_1_method_48_code
def yX1_takes : MethodName := ⟨RX1, "takes", "(IIIII)J"⟩
def dkwX1_takes_1 : List UInt8 := [182, 1, 97, 180, 1, 104, 21, 5, 47, 173]
abbrev dktX1_takes_1 : List UInt8 := dkwX1_takes_1 ++ []
def dkwX1_takes_0 : List UInt8 := [42, 21, 5, 182, 0, 117, 87, 42, 27, 28, 29, 21, 4, 182, 1, 93, 42, 27, 28, 29, 21, 4]
abbrev dktX1_takes_0 : List UInt8 := dkwX1_takes_0 ++ dktX1_takes_1
theorem dksX1_takes_0 : cX1_takes.data.toList.drop 0 = dktX1_takes_0 := by decide +kernel
theorem dksX1_takes_1 : cX1_takes.data.toList.drop 22 = dktX1_takes_1 := dk_seg dksX1_takes_0 22 rfl rfl
theorem dX1_takes_0 : decode cX1_takes 0 = .ok (.aload_n 0, 1) := dk_42 (dk_at dksX1_takes_0 0 rfl rfl)
theorem dX1_takes_1 : decode cX1_takes 1 = .ok (.iload 5, 2) := dk_21 5 (dk_at dksX1_takes_0 1 rfl rfl)
theorem dX1_takes_3 : decode cX1_takes 3 = .ok (.invokevirtual 117, 3) := dk_182 0 117 (dk_at dksX1_takes_0 3 rfl rfl)
theorem dX1_takes_6 : decode cX1_takes 6 = .ok (.pop, 1) := dk_87 (dk_at dksX1_takes_0 6 rfl rfl)
theorem dX1_takes_7 : decode cX1_takes 7 = .ok (.aload_n 0, 1) := dk_42 (dk_at dksX1_takes_0 7 rfl rfl)
theorem dX1_takes_8 : decode cX1_takes 8 = .ok (.iload_n 1, 1) := dk_27 (dk_at dksX1_takes_0 8 rfl rfl)
theorem dX1_takes_9 : decode cX1_takes 9 = .ok (.iload_n 2, 1) := dk_28 (dk_at dksX1_takes_0 9 rfl rfl)
theorem dX1_takes_10 : decode cX1_takes 10 = .ok (.iload_n 3, 1) := dk_29 (dk_at dksX1_takes_0 10 rfl rfl)
theorem dX1_takes_11 : decode cX1_takes 11 = .ok (.iload 4, 2) := dk_21 4 (dk_at dksX1_takes_0 11 rfl rfl)
theorem dX1_takes_13 : decode cX1_takes 13 = .ok (.invokevirtual 349, 3) := dk_182 1 93 (dk_at dksX1_takes_0 13 rfl rfl)
theorem dX1_takes_16 : decode cX1_takes 16 = .ok (.aload_n 0, 1) := dk_42 (dk_at dksX1_takes_0 16 rfl rfl)
theorem dX1_takes_17 : decode cX1_takes 17 = .ok (.iload_n 1, 1) := dk_27 (dk_at dksX1_takes_0 17 rfl rfl)
theorem dX1_takes_18 : decode cX1_takes 18 = .ok (.iload_n 2, 1) := dk_28 (dk_at dksX1_takes_0 18 rfl rfl)
theorem dX1_takes_19 : decode cX1_takes 19 = .ok (.iload_n 3, 1) := dk_29 (dk_at dksX1_takes_0 19 rfl rfl)
theorem dX1_takes_20 : decode cX1_takes 20 = .ok (.iload 4, 2) := dk_21 4 (dk_at dksX1_takes_0 20 rfl rfl)
theorem dX1_takes_22 : decode cX1_takes 22 = .ok (.invokevirtual 353, 3) := dk_182 1 97 (dk_at dksX1_takes_1 0 rfl rfl)
theorem dX1_takes_25 : decode cX1_takes 25 = .ok (.getfield 360, 3) := dk_180 1 104 (dk_at dksX1_takes_1 3 rfl rfl)
theorem dX1_takes_28 : decode cX1_takes 28 = .ok (.iload 5, 2) := dk_21 5 (dk_at dksX1_takes_1 6 rfl rfl)
theorem dX1_takes_30 : decode cX1_takes 30 = .ok (.laload, 1) := dk_47 (dk_at dksX1_takes_1 8 rfl rfl)
theorem dX1_takes_31 : decode cX1_takes 31 = .ok (.lreturn, 1) := dk_173 (dk_at dksX1_takes_1 9 rfl rfl)
abbrev cX1_drops : ByteArray := prog_1_method_49_code
def yX1_drops : MethodName := ⟨RX1, "drops", "(IIIII)J"⟩
def dkwX1_drops_1 : List UInt8 := [182, 1, 97, 180, 1, 105, 21, 5, 47, 173]
abbrev dktX1_drops_1 : List UInt8 := dkwX1_drops_1 ++ []
def dkwX1_drops_0 : List UInt8 := [42, 27, 28, 29, 21, 4, 182, 1, 93, 42, 21, 5, 3, 16, 6, 182, 0, 80, 42, 27, 28, 29, 21, 4]
abbrev dktX1_drops_0 : List UInt8 := dkwX1_drops_0 ++ dktX1_drops_1
theorem dksX1_drops_0 : cX1_drops.data.toList.drop 0 = dktX1_drops_0 := by decide +kernel
theorem dksX1_drops_1 : cX1_drops.data.toList.drop 24 = dktX1_drops_1 := dk_seg dksX1_drops_0 24 rfl rfl
theorem dX1_drops_0 : decode cX1_drops 0 = .ok (.aload_n 0, 1) := dk_42 (dk_at dksX1_drops_0 0 rfl rfl)
theorem dX1_drops_1 : decode cX1_drops 1 = .ok (.iload_n 1, 1) := dk_27 (dk_at dksX1_drops_0 1 rfl rfl)
theorem dX1_drops_2 : decode cX1_drops 2 = .ok (.iload_n 2, 1) := dk_28 (dk_at dksX1_drops_0 2 rfl rfl)
theorem dX1_drops_3 : decode cX1_drops 3 = .ok (.iload_n 3, 1) := dk_29 (dk_at dksX1_drops_0 3 rfl rfl)
theorem dX1_drops_4 : decode cX1_drops 4 = .ok (.iload 4, 2) := dk_21 4 (dk_at dksX1_drops_0 4 rfl rfl)
theorem dX1_drops_6 : decode cX1_drops 6 = .ok (.invokevirtual 349, 3) := dk_182 1 93 (dk_at dksX1_drops_0 6 rfl rfl)
theorem dX1_drops_9 : decode cX1_drops 9 = .ok (.aload_n 0, 1) := dk_42 (dk_at dksX1_drops_0 9 rfl rfl)
theorem dX1_drops_10 : decode cX1_drops 10 = .ok (.iload 5, 2) := dk_21 5 (dk_at dksX1_drops_0 10 rfl rfl)
theorem dX1_drops_12 : decode cX1_drops 12 = .ok (.iconst 0, 1) := dk_3 (dk_at dksX1_drops_0 12 rfl rfl)
theorem dX1_drops_13 : decode cX1_drops 13 = .ok (.bipush 6, 2) := dk_16 6 (dk_at dksX1_drops_0 13 rfl rfl)
theorem dX1_drops_15 : decode cX1_drops 15 = .ok (.invokevirtual 80, 3) := dk_182 0 80 (dk_at dksX1_drops_0 15 rfl rfl)
theorem dX1_drops_18 : decode cX1_drops 18 = .ok (.aload_n 0, 1) := dk_42 (dk_at dksX1_drops_0 18 rfl rfl)
theorem dX1_drops_19 : decode cX1_drops 19 = .ok (.iload_n 1, 1) := dk_27 (dk_at dksX1_drops_0 19 rfl rfl)
theorem dX1_drops_20 : decode cX1_drops 20 = .ok (.iload_n 2, 1) := dk_28 (dk_at dksX1_drops_0 20 rfl rfl)
theorem dX1_drops_21 : decode cX1_drops 21 = .ok (.iload_n 3, 1) := dk_29 (dk_at dksX1_drops_0 21 rfl rfl)
theorem dX1_drops_22 : decode cX1_drops 22 = .ok (.iload 4, 2) := dk_21 4 (dk_at dksX1_drops_0 22 rfl rfl)
theorem dX1_drops_24 : decode cX1_drops 24 = .ok (.invokevirtual 353, 3) := dk_182 1 97 (dk_at dksX1_drops_1 0 rfl rfl)
theorem dX1_drops_27 : decode cX1_drops 27 = .ok (.getfield 361, 3) := dk_180 1 105 (dk_at dksX1_drops_1 3 rfl rfl)
theorem dX1_drops_30 : decode cX1_drops 30 = .ok (.iload 5, 2) := dk_21 5 (dk_at dksX1_drops_1 6 rfl rfl)
theorem dX1_drops_32 : decode cX1_drops 32 = .ok (.laload, 1) := dk_47 (dk_at dksX1_drops_1 8 rfl rfl)
theorem dX1_drops_33 : decode cX1_drops 33 = .ok (.lreturn, 1) := dk_173 (dk_at dksX1_drops_1 9 rfl rfl)
abbrev cX1_share : ByteArray := prog_1_method_50_code
def yX1_share : MethodName := ⟨RX1, "share", "(IIIII)J"⟩
def dkwX1_share_2 : List UInt8 := [184, 1, 116, 42, 180, 0, 10, 180, 1, 113, 21, 5, 47, 173]
abbrev dktX1_share_2 : List UInt8 := dkwX1_share_2 ++ []
def dkwX1_share_1 : List UInt8 := [182, 1, 82, 182, 1, 106, 21, 4, 133, 42, 180, 0, 10, 180, 1, 110, 42, 180, 0, 10, 180, 1, 113]
abbrev dktX1_share_1 : List UInt8 := dkwX1_share_1 ++ dktX1_share_2
def dkwX1_share_0 : List UInt8 := [42, 27, 28, 29, 21, 4, 182, 1, 93, 42, 21, 5, 182, 0, 84, 42, 180, 0, 10, 42, 27, 28, 29]
abbrev dktX1_share_0 : List UInt8 := dkwX1_share_0 ++ dktX1_share_1
theorem dksX1_share_0 : cX1_share.data.toList.drop 0 = dktX1_share_0 := by decide +kernel
theorem dksX1_share_1 : cX1_share.data.toList.drop 23 = dktX1_share_1 := dk_seg dksX1_share_0 23 rfl rfl
theorem dksX1_share_2 : cX1_share.data.toList.drop 46 = dktX1_share_2 := dk_seg dksX1_share_1 23 rfl rfl
theorem dX1_share_0 : decode cX1_share 0 = .ok (.aload_n 0, 1) := dk_42 (dk_at dksX1_share_0 0 rfl rfl)
theorem dX1_share_1 : decode cX1_share 1 = .ok (.iload_n 1, 1) := dk_27 (dk_at dksX1_share_0 1 rfl rfl)
theorem dX1_share_2 : decode cX1_share 2 = .ok (.iload_n 2, 1) := dk_28 (dk_at dksX1_share_0 2 rfl rfl)
theorem dX1_share_3 : decode cX1_share 3 = .ok (.iload_n 3, 1) := dk_29 (dk_at dksX1_share_0 3 rfl rfl)
theorem dX1_share_4 : decode cX1_share 4 = .ok (.iload 4, 2) := dk_21 4 (dk_at dksX1_share_0 4 rfl rfl)
theorem dX1_share_6 : decode cX1_share 6 = .ok (.invokevirtual 349, 3) := dk_182 1 93 (dk_at dksX1_share_0 6 rfl rfl)
theorem dX1_share_9 : decode cX1_share 9 = .ok (.aload_n 0, 1) := dk_42 (dk_at dksX1_share_0 9 rfl rfl)
theorem dX1_share_10 : decode cX1_share 10 = .ok (.iload 5, 2) := dk_21 5 (dk_at dksX1_share_0 10 rfl rfl)
theorem dX1_share_12 : decode cX1_share 12 = .ok (.invokevirtual 84, 3) := dk_182 0 84 (dk_at dksX1_share_0 12 rfl rfl)
theorem dX1_share_15 : decode cX1_share 15 = .ok (.aload_n 0, 1) := dk_42 (dk_at dksX1_share_0 15 rfl rfl)
theorem dX1_share_16 : decode cX1_share 16 = .ok (.getfield 10, 3) := dk_180 0 10 (dk_at dksX1_share_0 16 rfl rfl)
theorem dX1_share_19 : decode cX1_share 19 = .ok (.aload_n 0, 1) := dk_42 (dk_at dksX1_share_0 19 rfl rfl)
theorem dX1_share_20 : decode cX1_share 20 = .ok (.iload_n 1, 1) := dk_27 (dk_at dksX1_share_0 20 rfl rfl)
theorem dX1_share_21 : decode cX1_share 21 = .ok (.iload_n 2, 1) := dk_28 (dk_at dksX1_share_0 21 rfl rfl)
theorem dX1_share_22 : decode cX1_share 22 = .ok (.iload_n 3, 1) := dk_29 (dk_at dksX1_share_0 22 rfl rfl)
theorem dX1_share_23 : decode cX1_share 23 = .ok (.invokevirtual 338, 3) := dk_182 1 82 (dk_at dksX1_share_1 0 rfl rfl)
theorem dX1_share_26 : decode cX1_share 26 = .ok (.invokevirtual 362, 3) := dk_182 1 106 (dk_at dksX1_share_1 3 rfl rfl)
theorem dX1_share_29 : decode cX1_share 29 = .ok (.iload 4, 2) := dk_21 4 (dk_at dksX1_share_1 6 rfl rfl)
theorem dX1_share_31 : decode cX1_share 31 = .ok (.i2l, 1) := dk_133 (dk_at dksX1_share_1 8 rfl rfl)
theorem dX1_share_32 : decode cX1_share 32 = .ok (.aload_n 0, 1) := dk_42 (dk_at dksX1_share_1 9 rfl rfl)
theorem dX1_share_33 : decode cX1_share 33 = .ok (.getfield 10, 3) := dk_180 0 10 (dk_at dksX1_share_1 10 rfl rfl)
theorem dX1_share_36 : decode cX1_share 36 = .ok (.getfield 366, 3) := dk_180 1 110 (dk_at dksX1_share_1 13 rfl rfl)
theorem dX1_share_39 : decode cX1_share 39 = .ok (.aload_n 0, 1) := dk_42 (dk_at dksX1_share_1 16 rfl rfl)
theorem dX1_share_40 : decode cX1_share 40 = .ok (.getfield 10, 3) := dk_180 0 10 (dk_at dksX1_share_1 17 rfl rfl)
theorem dX1_share_43 : decode cX1_share 43 = .ok (.getfield 369, 3) := dk_180 1 113 (dk_at dksX1_share_1 20 rfl rfl)
theorem dX1_share_46 : decode cX1_share 46 = .ok (.invokestatic 372, 3) := dk_184 1 116 (dk_at dksX1_share_2 0 rfl rfl)
theorem dX1_share_49 : decode cX1_share 49 = .ok (.aload_n 0, 1) := dk_42 (dk_at dksX1_share_2 3 rfl rfl)
theorem dX1_share_50 : decode cX1_share 50 = .ok (.getfield 10, 3) := dk_180 0 10 (dk_at dksX1_share_2 4 rfl rfl)
theorem dX1_share_53 : decode cX1_share 53 = .ok (.getfield 369, 3) := dk_180 1 113 (dk_at dksX1_share_2 7 rfl rfl)
theorem dX1_share_56 : decode cX1_share 56 = .ok (.iload 5, 2) := dk_21 5 (dk_at dksX1_share_2 10 rfl rfl)
theorem dX1_share_58 : decode cX1_share 58 = .ok (.laload, 1) := dk_47 (dk_at dksX1_share_2 12 rfl rfl)
theorem dX1_share_59 : decode cX1_share 59 = .ok (.lreturn, 1) := dk_173 (dk_at dksX1_share_2 13 rfl rfl)
abbrev cX1_weight : ByteArray := prog_1_method_51_code
def yX1_weight : MethodName := ⟨RX1, "weight", "(IIII)J"⟩
def dkwX1_weight_1 : List UInt8 := [182, 1, 120, 42, 180, 0, 10, 180, 1, 110, 21, 4, 47, 173]
abbrev dktX1_weight_1 : List UInt8 := dkwX1_weight_1 ++ []
def dkwX1_weight_0 : List UInt8 := [42, 27, 28, 29, 182, 0, 156, 42, 21, 4, 182, 0, 84, 42, 180, 0, 10, 42, 27, 28, 29, 182, 1, 82]
abbrev dktX1_weight_0 : List UInt8 := dkwX1_weight_0 ++ dktX1_weight_1
theorem dksX1_weight_0 : cX1_weight.data.toList.drop 0 = dktX1_weight_0 := by decide +kernel
theorem dksX1_weight_1 : cX1_weight.data.toList.drop 24 = dktX1_weight_1 := dk_seg dksX1_weight_0 24 rfl rfl
theorem dX1_weight_0 : decode cX1_weight 0 = .ok (.aload_n 0, 1) := dk_42 (dk_at dksX1_weight_0 0 rfl rfl)
theorem dX1_weight_1 : decode cX1_weight 1 = .ok (.iload_n 1, 1) := dk_27 (dk_at dksX1_weight_0 1 rfl rfl)
theorem dX1_weight_2 : decode cX1_weight 2 = .ok (.iload_n 2, 1) := dk_28 (dk_at dksX1_weight_0 2 rfl rfl)
theorem dX1_weight_3 : decode cX1_weight 3 = .ok (.iload_n 3, 1) := dk_29 (dk_at dksX1_weight_0 3 rfl rfl)
theorem dX1_weight_4 : decode cX1_weight 4 = .ok (.invokevirtual 156, 3) := dk_182 0 156 (dk_at dksX1_weight_0 4 rfl rfl)
theorem dX1_weight_7 : decode cX1_weight 7 = .ok (.aload_n 0, 1) := dk_42 (dk_at dksX1_weight_0 7 rfl rfl)
theorem dX1_weight_8 : decode cX1_weight 8 = .ok (.iload 4, 2) := dk_21 4 (dk_at dksX1_weight_0 8 rfl rfl)
theorem dX1_weight_10 : decode cX1_weight 10 = .ok (.invokevirtual 84, 3) := dk_182 0 84 (dk_at dksX1_weight_0 10 rfl rfl)
theorem dX1_weight_13 : decode cX1_weight 13 = .ok (.aload_n 0, 1) := dk_42 (dk_at dksX1_weight_0 13 rfl rfl)
theorem dX1_weight_14 : decode cX1_weight 14 = .ok (.getfield 10, 3) := dk_180 0 10 (dk_at dksX1_weight_0 14 rfl rfl)
theorem dX1_weight_17 : decode cX1_weight 17 = .ok (.aload_n 0, 1) := dk_42 (dk_at dksX1_weight_0 17 rfl rfl)
theorem dX1_weight_18 : decode cX1_weight 18 = .ok (.iload_n 1, 1) := dk_27 (dk_at dksX1_weight_0 18 rfl rfl)
theorem dX1_weight_19 : decode cX1_weight 19 = .ok (.iload_n 2, 1) := dk_28 (dk_at dksX1_weight_0 19 rfl rfl)
theorem dX1_weight_20 : decode cX1_weight 20 = .ok (.iload_n 3, 1) := dk_29 (dk_at dksX1_weight_0 20 rfl rfl)
theorem dX1_weight_21 : decode cX1_weight 21 = .ok (.invokevirtual 338, 3) := dk_182 1 82 (dk_at dksX1_weight_0 21 rfl rfl)
theorem dX1_weight_24 : decode cX1_weight 24 = .ok (.invokevirtual 376, 3) := dk_182 1 120 (dk_at dksX1_weight_1 0 rfl rfl)
theorem dX1_weight_27 : decode cX1_weight 27 = .ok (.aload_n 0, 1) := dk_42 (dk_at dksX1_weight_1 3 rfl rfl)
theorem dX1_weight_28 : decode cX1_weight 28 = .ok (.getfield 10, 3) := dk_180 0 10 (dk_at dksX1_weight_1 4 rfl rfl)
theorem dX1_weight_31 : decode cX1_weight 31 = .ok (.getfield 366, 3) := dk_180 1 110 (dk_at dksX1_weight_1 7 rfl rfl)
theorem dX1_weight_34 : decode cX1_weight 34 = .ok (.iload 4, 2) := dk_21 4 (dk_at dksX1_weight_1 10 rfl rfl)
theorem dX1_weight_36 : decode cX1_weight 36 = .ok (.laload, 1) := dk_47 (dk_at dksX1_weight_1 12 rfl rfl)
theorem dX1_weight_37 : decode cX1_weight 37 = .ok (.lreturn, 1) := dk_173 (dk_at dksX1_weight_1 13 rfl rfl)
abbrev cX1_picks : ByteArray := prog_1_method_52_code
def yX1_picks : MethodName := ⟨RX1, "picks", "(IIII)I"⟩
def dkwX1_picks_4 : List UInt8 := [182, 1, 143, 192, 1, 146, 180, 1, 148, 172]
abbrev dktX1_picks_4 : List UInt8 := dkwX1_picks_4 ++ []
def dkwX1_picks_3 : List UInt8 := [42, 180, 0, 10, 180, 1, 132, 182, 1, 140, 87, 132, 5, 1, 167, 255, 235, 42, 180, 0, 10, 180, 1, 132]
abbrev dktX1_picks_3 : List UInt8 := dkwX1_picks_3 ++ dktX1_picks_4
def dkwX1_picks_2 : List UInt8 := [180, 0, 10, 180, 1, 132, 182, 1, 136, 161, 0, 5, 2, 172, 3, 54, 5, 21, 5, 21, 4, 162, 0, 20]
abbrev dktX1_picks_2 : List UInt8 := dkwX1_picks_2 ++ dktX1_picks_3
def dkwX1_picks_1 : List UInt8 := [180, 0, 10, 42, 27, 28, 29, 182, 1, 82, 42, 180, 0, 10, 180, 1, 123, 182, 1, 128, 21, 4, 42]
abbrev dktX1_picks_1 : List UInt8 := dkwX1_picks_1 ++ dktX1_picks_2
def dkwX1_picks_0 : List UInt8 := [42, 27, 28, 29, 182, 0, 156, 42, 21, 4, 182, 0, 232, 42, 180, 0, 10, 180, 1, 123, 182, 1, 127, 42]
abbrev dktX1_picks_0 : List UInt8 := dkwX1_picks_0 ++ dktX1_picks_1
theorem dksX1_picks_0 : cX1_picks.data.toList.drop 0 = dktX1_picks_0 := by decide +kernel
theorem dksX1_picks_1 : cX1_picks.data.toList.drop 24 = dktX1_picks_1 := dk_seg dksX1_picks_0 24 rfl rfl
theorem dksX1_picks_2 : cX1_picks.data.toList.drop 47 = dktX1_picks_2 := dk_seg dksX1_picks_1 23 rfl rfl
theorem dksX1_picks_3 : cX1_picks.data.toList.drop 71 = dktX1_picks_3 := dk_seg dksX1_picks_2 24 rfl rfl
theorem dksX1_picks_4 : cX1_picks.data.toList.drop 95 = dktX1_picks_4 := dk_seg dksX1_picks_3 24 rfl rfl
theorem dX1_picks_0 : decode cX1_picks 0 = .ok (.aload_n 0, 1) := dk_42 (dk_at dksX1_picks_0 0 rfl rfl)
theorem dX1_picks_1 : decode cX1_picks 1 = .ok (.iload_n 1, 1) := dk_27 (dk_at dksX1_picks_0 1 rfl rfl)
theorem dX1_picks_2 : decode cX1_picks 2 = .ok (.iload_n 2, 1) := dk_28 (dk_at dksX1_picks_0 2 rfl rfl)
theorem dX1_picks_3 : decode cX1_picks 3 = .ok (.iload_n 3, 1) := dk_29 (dk_at dksX1_picks_0 3 rfl rfl)
theorem dX1_picks_4 : decode cX1_picks 4 = .ok (.invokevirtual 156, 3) := dk_182 0 156 (dk_at dksX1_picks_0 4 rfl rfl)
theorem dX1_picks_7 : decode cX1_picks 7 = .ok (.aload_n 0, 1) := dk_42 (dk_at dksX1_picks_0 7 rfl rfl)
theorem dX1_picks_8 : decode cX1_picks 8 = .ok (.iload 4, 2) := dk_21 4 (dk_at dksX1_picks_0 8 rfl rfl)
theorem dX1_picks_10 : decode cX1_picks 10 = .ok (.invokevirtual 232, 3) := dk_182 0 232 (dk_at dksX1_picks_0 10 rfl rfl)
theorem dX1_picks_13 : decode cX1_picks 13 = .ok (.aload_n 0, 1) := dk_42 (dk_at dksX1_picks_0 13 rfl rfl)
theorem dX1_picks_14 : decode cX1_picks 14 = .ok (.getfield 10, 3) := dk_180 0 10 (dk_at dksX1_picks_0 14 rfl rfl)
theorem dX1_picks_17 : decode cX1_picks 17 = .ok (.getfield 379, 3) := dk_180 1 123 (dk_at dksX1_picks_0 17 rfl rfl)
theorem dX1_picks_20 : decode cX1_picks 20 = .ok (.invokevirtual 383, 3) := dk_182 1 127 (dk_at dksX1_picks_0 20 rfl rfl)
theorem dX1_picks_23 : decode cX1_picks 23 = .ok (.aload_n 0, 1) := dk_42 (dk_at dksX1_picks_0 23 rfl rfl)
theorem dX1_picks_24 : decode cX1_picks 24 = .ok (.getfield 10, 3) := dk_180 0 10 (dk_at dksX1_picks_1 0 rfl rfl)
theorem dX1_picks_27 : decode cX1_picks 27 = .ok (.aload_n 0, 1) := dk_42 (dk_at dksX1_picks_1 3 rfl rfl)
theorem dX1_picks_28 : decode cX1_picks 28 = .ok (.iload_n 1, 1) := dk_27 (dk_at dksX1_picks_1 4 rfl rfl)
theorem dX1_picks_29 : decode cX1_picks 29 = .ok (.iload_n 2, 1) := dk_28 (dk_at dksX1_picks_1 5 rfl rfl)
theorem dX1_picks_30 : decode cX1_picks 30 = .ok (.iload_n 3, 1) := dk_29 (dk_at dksX1_picks_1 6 rfl rfl)
theorem dX1_picks_31 : decode cX1_picks 31 = .ok (.invokevirtual 338, 3) := dk_182 1 82 (dk_at dksX1_picks_1 7 rfl rfl)
theorem dX1_picks_34 : decode cX1_picks 34 = .ok (.aload_n 0, 1) := dk_42 (dk_at dksX1_picks_1 10 rfl rfl)
theorem dX1_picks_35 : decode cX1_picks 35 = .ok (.getfield 10, 3) := dk_180 0 10 (dk_at dksX1_picks_1 11 rfl rfl)
theorem dX1_picks_38 : decode cX1_picks 38 = .ok (.getfield 379, 3) := dk_180 1 123 (dk_at dksX1_picks_1 14 rfl rfl)
theorem dX1_picks_41 : decode cX1_picks 41 = .ok (.invokevirtual 384, 3) := dk_182 1 128 (dk_at dksX1_picks_1 17 rfl rfl)
theorem dX1_picks_44 : decode cX1_picks 44 = .ok (.iload 4, 2) := dk_21 4 (dk_at dksX1_picks_1 20 rfl rfl)
theorem dX1_picks_46 : decode cX1_picks 46 = .ok (.aload_n 0, 1) := dk_42 (dk_at dksX1_picks_1 22 rfl rfl)
theorem dX1_picks_47 : decode cX1_picks 47 = .ok (.getfield 10, 3) := dk_180 0 10 (dk_at dksX1_picks_2 0 rfl rfl)
theorem dX1_picks_50 : decode cX1_picks 50 = .ok (.getfield 388, 3) := dk_180 1 132 (dk_at dksX1_picks_2 3 rfl rfl)
theorem dX1_picks_53 : decode cX1_picks 53 = .ok (.invokevirtual 392, 3) := dk_182 1 136 (dk_at dksX1_picks_2 6 rfl rfl)
theorem dX1_picks_56 : decode cX1_picks 56 = .ok (.if_icmp .lt 5, 3) := dk_161 0 5 (dk_at dksX1_picks_2 9 rfl rfl)
theorem dX1_picks_59 : decode cX1_picks 59 = .ok (.iconst (-1), 1) := dk_2 (dk_at dksX1_picks_2 12 rfl rfl)
theorem dX1_picks_60 : decode cX1_picks 60 = .ok (.ireturn, 1) := dk_172 (dk_at dksX1_picks_2 13 rfl rfl)
theorem dX1_picks_61 : decode cX1_picks 61 = .ok (.iconst 0, 1) := dk_3 (dk_at dksX1_picks_2 14 rfl rfl)
theorem dX1_picks_62 : decode cX1_picks 62 = .ok (.istore 5, 2) := dk_54 5 (dk_at dksX1_picks_2 15 rfl rfl)
theorem dX1_picks_64 : decode cX1_picks 64 = .ok (.iload 5, 2) := dk_21 5 (dk_at dksX1_picks_2 17 rfl rfl)
theorem dX1_picks_66 : decode cX1_picks 66 = .ok (.iload 4, 2) := dk_21 4 (dk_at dksX1_picks_2 19 rfl rfl)
theorem dX1_picks_68 : decode cX1_picks 68 = .ok (.if_icmp .ge 20, 3) := dk_162 0 20 (dk_at dksX1_picks_2 21 rfl rfl)
theorem dX1_picks_71 : decode cX1_picks 71 = .ok (.aload_n 0, 1) := dk_42 (dk_at dksX1_picks_3 0 rfl rfl)
theorem dX1_picks_72 : decode cX1_picks 72 = .ok (.getfield 10, 3) := dk_180 0 10 (dk_at dksX1_picks_3 1 rfl rfl)
theorem dX1_picks_75 : decode cX1_picks 75 = .ok (.getfield 388, 3) := dk_180 1 132 (dk_at dksX1_picks_3 4 rfl rfl)
theorem dX1_picks_78 : decode cX1_picks 78 = .ok (.invokevirtual 396, 3) := dk_182 1 140 (dk_at dksX1_picks_3 7 rfl rfl)
theorem dX1_picks_81 : decode cX1_picks 81 = .ok (.pop, 1) := dk_87 (dk_at dksX1_picks_3 10 rfl rfl)
theorem dX1_picks_82 : decode cX1_picks 82 = .ok (.iinc 5 1, 3) := dk_132 5 1 (dk_at dksX1_picks_3 11 rfl rfl)
theorem dX1_picks_85 : decode cX1_picks 85 = .ok (.goto (-21), 3) := dk_167 255 235 (dk_at dksX1_picks_3 14 rfl rfl)
theorem dX1_picks_88 : decode cX1_picks 88 = .ok (.aload_n 0, 1) := dk_42 (dk_at dksX1_picks_3 17 rfl rfl)
theorem dX1_picks_89 : decode cX1_picks 89 = .ok (.getfield 10, 3) := dk_180 0 10 (dk_at dksX1_picks_3 18 rfl rfl)
theorem dX1_picks_92 : decode cX1_picks 92 = .ok (.getfield 388, 3) := dk_180 1 132 (dk_at dksX1_picks_3 21 rfl rfl)
theorem dX1_picks_95 : decode cX1_picks 95 = .ok (.invokevirtual 399, 3) := dk_182 1 143 (dk_at dksX1_picks_4 0 rfl rfl)
theorem dX1_picks_98 : decode cX1_picks 98 = .ok (.checkcast 402, 3) := dk_192 1 146 (dk_at dksX1_picks_4 3 rfl rfl)
theorem dX1_picks_101 : decode cX1_picks 101 = .ok (.getfield 404, 3) := dk_180 1 148 (dk_at dksX1_picks_4 6 rfl rfl)
theorem dX1_picks_104 : decode cX1_picks 104 = .ok (.ireturn, 1) := dk_172 (dk_at dksX1_picks_4 9 rfl rfl)
abbrev cX1_other : ByteArray := prog_1_method_56_code
def yX1_other : MethodName := ⟨RX1, "other", "(IIII)J"⟩
def dkwX1_other_0 : List UInt8 := [42, 27, 28, 29, 182, 0, 143, 42, 21, 4, 182, 0, 121, 42, 27, 28, 29, 21, 4, 182, 1, 159, 173]
abbrev dktX1_other_0 : List UInt8 := dkwX1_other_0 ++ []
theorem dksX1_other_0 : cX1_other.data.toList.drop 0 = dktX1_other_0 := by decide +kernel
theorem dX1_other_0 : decode cX1_other 0 = .ok (.aload_n 0, 1) := dk_42 (dk_at dksX1_other_0 0 rfl rfl)
theorem dX1_other_1 : decode cX1_other 1 = .ok (.iload_n 1, 1) := dk_27 (dk_at dksX1_other_0 1 rfl rfl)
theorem dX1_other_2 : decode cX1_other 2 = .ok (.iload_n 2, 1) := dk_28 (dk_at dksX1_other_0 2 rfl rfl)
theorem dX1_other_3 : decode cX1_other 3 = .ok (.iload_n 3, 1) := dk_29 (dk_at dksX1_other_0 3 rfl rfl)
theorem dX1_other_4 : decode cX1_other 4 = .ok (.invokevirtual 143, 3) := dk_182 0 143 (dk_at dksX1_other_0 4 rfl rfl)
theorem dX1_other_7 : decode cX1_other 7 = .ok (.aload_n 0, 1) := dk_42 (dk_at dksX1_other_0 7 rfl rfl)
theorem dX1_other_8 : decode cX1_other 8 = .ok (.iload 4, 2) := dk_21 4 (dk_at dksX1_other_0 8 rfl rfl)
theorem dX1_other_10 : decode cX1_other 10 = .ok (.invokevirtual 121, 3) := dk_182 0 121 (dk_at dksX1_other_0 10 rfl rfl)
theorem dX1_other_13 : decode cX1_other 13 = .ok (.aload_n 0, 1) := dk_42 (dk_at dksX1_other_0 13 rfl rfl)
theorem dX1_other_14 : decode cX1_other 14 = .ok (.iload_n 1, 1) := dk_27 (dk_at dksX1_other_0 14 rfl rfl)
theorem dX1_other_15 : decode cX1_other 15 = .ok (.iload_n 2, 1) := dk_28 (dk_at dksX1_other_0 15 rfl rfl)
theorem dX1_other_16 : decode cX1_other 16 = .ok (.iload_n 3, 1) := dk_29 (dk_at dksX1_other_0 16 rfl rfl)
theorem dX1_other_17 : decode cX1_other 17 = .ok (.iload 4, 2) := dk_21 4 (dk_at dksX1_other_0 17 rfl rfl)
theorem dX1_other_19 : decode cX1_other 19 = .ok (.invokevirtual 415, 3) := dk_182 1 159 (dk_at dksX1_other_0 19 rfl rfl)
theorem dX1_other_22 : decode cX1_other 22 = .ok (.lreturn, 1) := dk_173 (dk_at dksX1_other_0 22 rfl rfl)
abbrev cX1_goneBy : ByteArray := prog_1_method_54_code
def yX1_goneBy : MethodName := ⟨RX1, "goneBy", "(IIII)J"⟩
def dkwX1_goneBy_1 : List UInt8 := [182, 1, 46, 173]
abbrev dktX1_goneBy_1 : List UInt8 := dkwX1_goneBy_1 ++ []
def dkwX1_goneBy_0 : List UInt8 := [42, 180, 0, 16, 182, 0, 49, 42, 180, 0, 16, 27, 28, 29, 182, 1, 152, 42, 2, 182, 1, 155, 21, 4]
abbrev dktX1_goneBy_0 : List UInt8 := dkwX1_goneBy_0 ++ dktX1_goneBy_1
theorem dksX1_goneBy_0 : cX1_goneBy.data.toList.drop 0 = dktX1_goneBy_0 := by decide +kernel
theorem dksX1_goneBy_1 : cX1_goneBy.data.toList.drop 24 = dktX1_goneBy_1 := dk_seg dksX1_goneBy_0 24 rfl rfl
theorem dX1_goneBy_0 : decode cX1_goneBy 0 = .ok (.aload_n 0, 1) := dk_42 (dk_at dksX1_goneBy_0 0 rfl rfl)
theorem dX1_goneBy_1 : decode cX1_goneBy 1 = .ok (.getfield 16, 3) := dk_180 0 16 (dk_at dksX1_goneBy_0 1 rfl rfl)
theorem dX1_goneBy_4 : decode cX1_goneBy 4 = .ok (.invokevirtual 49, 3) := dk_182 0 49 (dk_at dksX1_goneBy_0 4 rfl rfl)
theorem dX1_goneBy_7 : decode cX1_goneBy 7 = .ok (.aload_n 0, 1) := dk_42 (dk_at dksX1_goneBy_0 7 rfl rfl)
theorem dX1_goneBy_8 : decode cX1_goneBy 8 = .ok (.getfield 16, 3) := dk_180 0 16 (dk_at dksX1_goneBy_0 8 rfl rfl)
theorem dX1_goneBy_11 : decode cX1_goneBy 11 = .ok (.iload_n 1, 1) := dk_27 (dk_at dksX1_goneBy_0 11 rfl rfl)
theorem dX1_goneBy_12 : decode cX1_goneBy 12 = .ok (.iload_n 2, 1) := dk_28 (dk_at dksX1_goneBy_0 12 rfl rfl)
theorem dX1_goneBy_13 : decode cX1_goneBy 13 = .ok (.iload_n 3, 1) := dk_29 (dk_at dksX1_goneBy_0 13 rfl rfl)
theorem dX1_goneBy_14 : decode cX1_goneBy 14 = .ok (.invokevirtual 408, 3) := dk_182 1 152 (dk_at dksX1_goneBy_0 14 rfl rfl)
theorem dX1_goneBy_17 : decode cX1_goneBy 17 = .ok (.aload_n 0, 1) := dk_42 (dk_at dksX1_goneBy_0 17 rfl rfl)
theorem dX1_goneBy_18 : decode cX1_goneBy 18 = .ok (.iconst (-1), 1) := dk_2 (dk_at dksX1_goneBy_0 18 rfl rfl)
theorem dX1_goneBy_19 : decode cX1_goneBy 19 = .ok (.invokevirtual 411, 3) := dk_182 1 155 (dk_at dksX1_goneBy_0 19 rfl rfl)
theorem dX1_goneBy_22 : decode cX1_goneBy 22 = .ok (.iload 4, 2) := dk_21 4 (dk_at dksX1_goneBy_0 22 rfl rfl)
theorem dX1_goneBy_24 : decode cX1_goneBy 24 = .ok (.invokevirtual 302, 3) := dk_182 1 46 (dk_at dksX1_goneBy_1 0 rfl rfl)
theorem dX1_goneBy_27 : decode cX1_goneBy 27 = .ok (.lreturn, 1) := dk_173 (dk_at dksX1_goneBy_1 3 rfl rfl)
abbrev cX1_gone : ByteArray := prog_1_method_53_code
def yX1_gone : MethodName := ⟨RX1, "gone", "(I)LTallTowers$World;"⟩
def dkwX1_gone_2 : List UInt8 := [181, 1, 149, 132, 2, 1, 167, 255, 209, 42, 180, 0, 16, 176]
abbrev dktX1_gone_2 : List UInt8 := dkwX1_gone_2 ++ []
def dkwX1_gone_1 : List UInt8 := [28, 50, 180, 0, 178, 42, 180, 0, 16, 185, 0, 96, 2, 0, 154, 0, 13, 42, 89, 180, 1, 149, 4, 96]
abbrev dktX1_gone_1 : List UInt8 := dkwX1_gone_1 ++ dktX1_gone_2
def dkwX1_gone_0 : List UInt8 := [42, 3, 181, 1, 149, 3, 61, 28, 42, 180, 0, 93, 162, 0, 45, 28, 27, 159, 0, 34, 42, 180, 0, 28]
abbrev dktX1_gone_0 : List UInt8 := dkwX1_gone_0 ++ dktX1_gone_1
theorem dksX1_gone_0 : cX1_gone.data.toList.drop 0 = dktX1_gone_0 := by decide +kernel
theorem dksX1_gone_1 : cX1_gone.data.toList.drop 24 = dktX1_gone_1 := dk_seg dksX1_gone_0 24 rfl rfl
theorem dksX1_gone_2 : cX1_gone.data.toList.drop 48 = dktX1_gone_2 := dk_seg dksX1_gone_1 24 rfl rfl
theorem dX1_gone_0 : decode cX1_gone 0 = .ok (.aload_n 0, 1) := dk_42 (dk_at dksX1_gone_0 0 rfl rfl)
theorem dX1_gone_1 : decode cX1_gone 1 = .ok (.iconst 0, 1) := dk_3 (dk_at dksX1_gone_0 1 rfl rfl)
theorem dX1_gone_2 : decode cX1_gone 2 = .ok (.putfield 405, 3) := dk_181 1 149 (dk_at dksX1_gone_0 2 rfl rfl)
theorem dX1_gone_5 : decode cX1_gone 5 = .ok (.iconst 0, 1) := dk_3 (dk_at dksX1_gone_0 5 rfl rfl)
theorem dX1_gone_6 : decode cX1_gone 6 = .ok (.istore_n 2, 1) := dk_61 (dk_at dksX1_gone_0 6 rfl rfl)
theorem dX1_gone_7 : decode cX1_gone 7 = .ok (.iload_n 2, 1) := dk_28 (dk_at dksX1_gone_0 7 rfl rfl)
theorem dX1_gone_8 : decode cX1_gone 8 = .ok (.aload_n 0, 1) := dk_42 (dk_at dksX1_gone_0 8 rfl rfl)
theorem dX1_gone_9 : decode cX1_gone 9 = .ok (.getfield 93, 3) := dk_180 0 93 (dk_at dksX1_gone_0 9 rfl rfl)
theorem dX1_gone_12 : decode cX1_gone 12 = .ok (.if_icmp .ge 45, 3) := dk_162 0 45 (dk_at dksX1_gone_0 12 rfl rfl)
theorem dX1_gone_15 : decode cX1_gone 15 = .ok (.iload_n 2, 1) := dk_28 (dk_at dksX1_gone_0 15 rfl rfl)
theorem dX1_gone_16 : decode cX1_gone 16 = .ok (.iload_n 1, 1) := dk_27 (dk_at dksX1_gone_0 16 rfl rfl)
theorem dX1_gone_17 : decode cX1_gone 17 = .ok (.if_icmp .eq 34, 3) := dk_159 0 34 (dk_at dksX1_gone_0 17 rfl rfl)
theorem dX1_gone_20 : decode cX1_gone 20 = .ok (.aload_n 0, 1) := dk_42 (dk_at dksX1_gone_0 20 rfl rfl)
theorem dX1_gone_21 : decode cX1_gone 21 = .ok (.getfield 28, 3) := dk_180 0 28 (dk_at dksX1_gone_0 21 rfl rfl)
theorem dX1_gone_24 : decode cX1_gone 24 = .ok (.iload_n 2, 1) := dk_28 (dk_at dksX1_gone_1 0 rfl rfl)
theorem dX1_gone_25 : decode cX1_gone 25 = .ok (.aaload, 1) := dk_50 (dk_at dksX1_gone_1 1 rfl rfl)
theorem dX1_gone_26 : decode cX1_gone 26 = .ok (.getfield 178, 3) := dk_180 0 178 (dk_at dksX1_gone_1 2 rfl rfl)
theorem dX1_gone_29 : decode cX1_gone 29 = .ok (.aload_n 0, 1) := dk_42 (dk_at dksX1_gone_1 5 rfl rfl)
theorem dX1_gone_30 : decode cX1_gone 30 = .ok (.getfield 16, 3) := dk_180 0 16 (dk_at dksX1_gone_1 6 rfl rfl)
theorem dX1_gone_33 : decode cX1_gone 33 = .ok (.invokeinterface 96 2, 5) := by decide +kernel
theorem dX1_gone_38 : decode cX1_gone 38 = .ok (.ifCond .ne 13, 3) := dk_154 0 13 (dk_at dksX1_gone_1 14 rfl rfl)
theorem dX1_gone_41 : decode cX1_gone 41 = .ok (.aload_n 0, 1) := dk_42 (dk_at dksX1_gone_1 17 rfl rfl)
theorem dX1_gone_42 : decode cX1_gone 42 = .ok (.dup, 1) := dk_89 (dk_at dksX1_gone_1 18 rfl rfl)
theorem dX1_gone_43 : decode cX1_gone 43 = .ok (.getfield 405, 3) := dk_180 1 149 (dk_at dksX1_gone_1 19 rfl rfl)
theorem dX1_gone_46 : decode cX1_gone 46 = .ok (.iconst 1, 1) := dk_4 (dk_at dksX1_gone_1 22 rfl rfl)
theorem dX1_gone_47 : decode cX1_gone 47 = .ok (.iadd, 1) := dk_96 (dk_at dksX1_gone_1 23 rfl rfl)
theorem dX1_gone_48 : decode cX1_gone 48 = .ok (.putfield 405, 3) := dk_181 1 149 (dk_at dksX1_gone_2 0 rfl rfl)
theorem dX1_gone_51 : decode cX1_gone 51 = .ok (.iinc 2 1, 3) := dk_132 2 1 (dk_at dksX1_gone_2 3 rfl rfl)
theorem dX1_gone_54 : decode cX1_gone 54 = .ok (.goto (-47), 3) := dk_167 255 209 (dk_at dksX1_gone_2 6 rfl rfl)
theorem dX1_gone_57 : decode cX1_gone 57 = .ok (.aload_n 0, 1) := dk_42 (dk_at dksX1_gone_2 9 rfl rfl)
theorem dX1_gone_58 : decode cX1_gone 58 = .ok (.getfield 16, 3) := dk_180 0 16 (dk_at dksX1_gone_2 10 rfl rfl)
theorem dX1_gone_61 : decode cX1_gone 61 = .ok (.areturn, 1) := dk_176 (dk_at dksX1_gone_2 13 rfl rfl)
abbrev cX1_best : ByteArray := prog_1_method_57_code
def yX1_best : MethodName := ⟨RX1, "best", "(II)J"⟩
def dkwX1_best_5 : List UInt8 := [22, 4, 173]
abbrev dktX1_best_5 : List UInt8 := dkwX1_best_5 ++ []
def dkwX1_best_4 : List UInt8 := [160, 0, 12, 29, 7, 108, 7, 112, 133, 167, 0, 17, 28, 5, 160, 0, 10, 29, 7, 112, 133, 167, 0, 5]
abbrev dktX1_best_4 : List UInt8 := dkwX1_best_4 ++ dktX1_best_5
def dkwX1_best_3 : List UInt8 := [55, 4, 132, 6, 1, 167, 255, 201, 28, 154, 0, 11, 29, 16, 16, 108, 133, 167, 0, 31, 28, 4]
abbrev dktX1_best_3 : List UInt8 := dkwX1_best_3 ++ dktX1_best_4
def dkwX1_best_2 : List UInt8 := [55, 7, 21, 6, 158, 0, 14, 22, 7, 22, 4, 148, 155, 0, 6, 167, 0, 10, 21, 6, 62, 22, 7]
abbrev dktX1_best_2 : List UInt8 := dkwX1_best_2 ++ dktX1_best_3
def dkwX1_best_1 : List UInt8 := [162, 0, 54, 42, 21, 6, 16, 16, 108, 21, 6, 7, 108, 7, 112, 21, 6, 7, 112, 27, 182, 1, 159]
abbrev dktX1_best_1 : List UInt8 := dkwX1_best_1 ++ dktX1_best_2
def dkwX1_best_0 : List UInt8 := [42, 27, 182, 0, 121, 42, 28, 3, 6, 182, 0, 80, 3, 62, 9, 55, 4, 3, 54, 6, 21, 6, 16, 64]
abbrev dktX1_best_0 : List UInt8 := dkwX1_best_0 ++ dktX1_best_1
theorem dksX1_best_0 : cX1_best.data.toList.drop 0 = dktX1_best_0 := by decide +kernel
theorem dksX1_best_1 : cX1_best.data.toList.drop 24 = dktX1_best_1 := dk_seg dksX1_best_0 24 rfl rfl
theorem dksX1_best_2 : cX1_best.data.toList.drop 47 = dktX1_best_2 := dk_seg dksX1_best_1 23 rfl rfl
theorem dksX1_best_3 : cX1_best.data.toList.drop 70 = dktX1_best_3 := dk_seg dksX1_best_2 23 rfl rfl
theorem dksX1_best_4 : cX1_best.data.toList.drop 92 = dktX1_best_4 := dk_seg dksX1_best_3 22 rfl rfl
theorem dksX1_best_5 : cX1_best.data.toList.drop 116 = dktX1_best_5 := dk_seg dksX1_best_4 24 rfl rfl
theorem dX1_best_0 : decode cX1_best 0 = .ok (.aload_n 0, 1) := dk_42 (dk_at dksX1_best_0 0 rfl rfl)
theorem dX1_best_1 : decode cX1_best 1 = .ok (.iload_n 1, 1) := dk_27 (dk_at dksX1_best_0 1 rfl rfl)
theorem dX1_best_2 : decode cX1_best 2 = .ok (.invokevirtual 121, 3) := dk_182 0 121 (dk_at dksX1_best_0 2 rfl rfl)
theorem dX1_best_5 : decode cX1_best 5 = .ok (.aload_n 0, 1) := dk_42 (dk_at dksX1_best_0 5 rfl rfl)
theorem dX1_best_6 : decode cX1_best 6 = .ok (.iload_n 2, 1) := dk_28 (dk_at dksX1_best_0 6 rfl rfl)
theorem dX1_best_7 : decode cX1_best 7 = .ok (.iconst 0, 1) := dk_3 (dk_at dksX1_best_0 7 rfl rfl)
theorem dX1_best_8 : decode cX1_best 8 = .ok (.iconst 3, 1) := dk_6 (dk_at dksX1_best_0 8 rfl rfl)
theorem dX1_best_9 : decode cX1_best 9 = .ok (.invokevirtual 80, 3) := dk_182 0 80 (dk_at dksX1_best_0 9 rfl rfl)
theorem dX1_best_12 : decode cX1_best 12 = .ok (.iconst 0, 1) := dk_3 (dk_at dksX1_best_0 12 rfl rfl)
theorem dX1_best_13 : decode cX1_best 13 = .ok (.istore_n 3, 1) := dk_62 (dk_at dksX1_best_0 13 rfl rfl)
theorem dX1_best_14 : decode cX1_best 14 = .ok (.lconst 0, 1) := dk_9 (dk_at dksX1_best_0 14 rfl rfl)
theorem dX1_best_15 : decode cX1_best 15 = .ok (.lstore 4, 2) := dk_55 4 (dk_at dksX1_best_0 15 rfl rfl)
theorem dX1_best_17 : decode cX1_best 17 = .ok (.iconst 0, 1) := dk_3 (dk_at dksX1_best_0 17 rfl rfl)
theorem dX1_best_18 : decode cX1_best 18 = .ok (.istore 6, 2) := dk_54 6 (dk_at dksX1_best_0 18 rfl rfl)
theorem dX1_best_20 : decode cX1_best 20 = .ok (.iload 6, 2) := dk_21 6 (dk_at dksX1_best_0 20 rfl rfl)
theorem dX1_best_22 : decode cX1_best 22 = .ok (.bipush 64, 2) := dk_16 64 (dk_at dksX1_best_0 22 rfl rfl)
theorem dX1_best_24 : decode cX1_best 24 = .ok (.if_icmp .ge 54, 3) := dk_162 0 54 (dk_at dksX1_best_1 0 rfl rfl)
theorem dX1_best_27 : decode cX1_best 27 = .ok (.aload_n 0, 1) := dk_42 (dk_at dksX1_best_1 3 rfl rfl)
theorem dX1_best_28 : decode cX1_best 28 = .ok (.iload 6, 2) := dk_21 6 (dk_at dksX1_best_1 4 rfl rfl)
theorem dX1_best_30 : decode cX1_best 30 = .ok (.bipush 16, 2) := dk_16 16 (dk_at dksX1_best_1 6 rfl rfl)
theorem dX1_best_32 : decode cX1_best 32 = .ok (.idiv, 1) := dk_108 (dk_at dksX1_best_1 8 rfl rfl)
theorem dX1_best_33 : decode cX1_best 33 = .ok (.iload 6, 2) := dk_21 6 (dk_at dksX1_best_1 9 rfl rfl)
theorem dX1_best_35 : decode cX1_best 35 = .ok (.iconst 4, 1) := dk_7 (dk_at dksX1_best_1 11 rfl rfl)
theorem dX1_best_36 : decode cX1_best 36 = .ok (.idiv, 1) := dk_108 (dk_at dksX1_best_1 12 rfl rfl)
theorem dX1_best_37 : decode cX1_best 37 = .ok (.iconst 4, 1) := dk_7 (dk_at dksX1_best_1 13 rfl rfl)
theorem dX1_best_38 : decode cX1_best 38 = .ok (.irem, 1) := dk_112 (dk_at dksX1_best_1 14 rfl rfl)
theorem dX1_best_39 : decode cX1_best 39 = .ok (.iload 6, 2) := dk_21 6 (dk_at dksX1_best_1 15 rfl rfl)
theorem dX1_best_41 : decode cX1_best 41 = .ok (.iconst 4, 1) := dk_7 (dk_at dksX1_best_1 17 rfl rfl)
theorem dX1_best_42 : decode cX1_best 42 = .ok (.irem, 1) := dk_112 (dk_at dksX1_best_1 18 rfl rfl)
theorem dX1_best_43 : decode cX1_best 43 = .ok (.iload_n 1, 1) := dk_27 (dk_at dksX1_best_1 19 rfl rfl)
theorem dX1_best_44 : decode cX1_best 44 = .ok (.invokevirtual 415, 3) := dk_182 1 159 (dk_at dksX1_best_1 20 rfl rfl)
theorem dX1_best_47 : decode cX1_best 47 = .ok (.lstore 7, 2) := dk_55 7 (dk_at dksX1_best_2 0 rfl rfl)
theorem dX1_best_49 : decode cX1_best 49 = .ok (.iload 6, 2) := dk_21 6 (dk_at dksX1_best_2 2 rfl rfl)
theorem dX1_best_51 : decode cX1_best 51 = .ok (.ifCond .le 14, 3) := dk_158 0 14 (dk_at dksX1_best_2 4 rfl rfl)
theorem dX1_best_54 : decode cX1_best 54 = .ok (.lload 7, 2) := dk_22 7 (dk_at dksX1_best_2 7 rfl rfl)
theorem dX1_best_56 : decode cX1_best 56 = .ok (.lload 4, 2) := dk_22 4 (dk_at dksX1_best_2 9 rfl rfl)
theorem dX1_best_58 : decode cX1_best 58 = .ok (.lcmp, 1) := dk_148 (dk_at dksX1_best_2 11 rfl rfl)
theorem dX1_best_59 : decode cX1_best 59 = .ok (.ifCond .lt 6, 3) := dk_155 0 6 (dk_at dksX1_best_2 12 rfl rfl)
theorem dX1_best_62 : decode cX1_best 62 = .ok (.goto 10, 3) := dk_167 0 10 (dk_at dksX1_best_2 15 rfl rfl)
theorem dX1_best_65 : decode cX1_best 65 = .ok (.iload 6, 2) := dk_21 6 (dk_at dksX1_best_2 18 rfl rfl)
theorem dX1_best_67 : decode cX1_best 67 = .ok (.istore_n 3, 1) := dk_62 (dk_at dksX1_best_2 20 rfl rfl)
theorem dX1_best_68 : decode cX1_best 68 = .ok (.lload 7, 2) := dk_22 7 (dk_at dksX1_best_2 21 rfl rfl)
theorem dX1_best_70 : decode cX1_best 70 = .ok (.lstore 4, 2) := dk_55 4 (dk_at dksX1_best_3 0 rfl rfl)
theorem dX1_best_72 : decode cX1_best 72 = .ok (.iinc 6 1, 3) := dk_132 6 1 (dk_at dksX1_best_3 2 rfl rfl)
theorem dX1_best_75 : decode cX1_best 75 = .ok (.goto (-55), 3) := dk_167 255 201 (dk_at dksX1_best_3 5 rfl rfl)
theorem dX1_best_78 : decode cX1_best 78 = .ok (.iload_n 2, 1) := dk_28 (dk_at dksX1_best_3 8 rfl rfl)
theorem dX1_best_79 : decode cX1_best 79 = .ok (.ifCond .ne 11, 3) := dk_154 0 11 (dk_at dksX1_best_3 9 rfl rfl)
theorem dX1_best_82 : decode cX1_best 82 = .ok (.iload_n 3, 1) := dk_29 (dk_at dksX1_best_3 12 rfl rfl)
theorem dX1_best_83 : decode cX1_best 83 = .ok (.bipush 16, 2) := dk_16 16 (dk_at dksX1_best_3 13 rfl rfl)
theorem dX1_best_85 : decode cX1_best 85 = .ok (.idiv, 1) := dk_108 (dk_at dksX1_best_3 15 rfl rfl)
theorem dX1_best_86 : decode cX1_best 86 = .ok (.i2l, 1) := dk_133 (dk_at dksX1_best_3 16 rfl rfl)
theorem dX1_best_87 : decode cX1_best 87 = .ok (.goto 31, 3) := dk_167 0 31 (dk_at dksX1_best_3 17 rfl rfl)
theorem dX1_best_90 : decode cX1_best 90 = .ok (.iload_n 2, 1) := dk_28 (dk_at dksX1_best_3 20 rfl rfl)
theorem dX1_best_91 : decode cX1_best 91 = .ok (.iconst 1, 1) := dk_4 (dk_at dksX1_best_3 21 rfl rfl)
theorem dX1_best_92 : decode cX1_best 92 = .ok (.if_icmp .ne 12, 3) := dk_160 0 12 (dk_at dksX1_best_4 0 rfl rfl)
theorem dX1_best_95 : decode cX1_best 95 = .ok (.iload_n 3, 1) := dk_29 (dk_at dksX1_best_4 3 rfl rfl)
theorem dX1_best_96 : decode cX1_best 96 = .ok (.iconst 4, 1) := dk_7 (dk_at dksX1_best_4 4 rfl rfl)
theorem dX1_best_97 : decode cX1_best 97 = .ok (.idiv, 1) := dk_108 (dk_at dksX1_best_4 5 rfl rfl)
theorem dX1_best_98 : decode cX1_best 98 = .ok (.iconst 4, 1) := dk_7 (dk_at dksX1_best_4 6 rfl rfl)
theorem dX1_best_99 : decode cX1_best 99 = .ok (.irem, 1) := dk_112 (dk_at dksX1_best_4 7 rfl rfl)
theorem dX1_best_100 : decode cX1_best 100 = .ok (.i2l, 1) := dk_133 (dk_at dksX1_best_4 8 rfl rfl)
theorem dX1_best_101 : decode cX1_best 101 = .ok (.goto 17, 3) := dk_167 0 17 (dk_at dksX1_best_4 9 rfl rfl)
theorem dX1_best_104 : decode cX1_best 104 = .ok (.iload_n 2, 1) := dk_28 (dk_at dksX1_best_4 12 rfl rfl)
theorem dX1_best_105 : decode cX1_best 105 = .ok (.iconst 2, 1) := dk_5 (dk_at dksX1_best_4 13 rfl rfl)
theorem dX1_best_106 : decode cX1_best 106 = .ok (.if_icmp .ne 10, 3) := dk_160 0 10 (dk_at dksX1_best_4 14 rfl rfl)
theorem dX1_best_109 : decode cX1_best 109 = .ok (.iload_n 3, 1) := dk_29 (dk_at dksX1_best_4 17 rfl rfl)
theorem dX1_best_110 : decode cX1_best 110 = .ok (.iconst 4, 1) := dk_7 (dk_at dksX1_best_4 18 rfl rfl)
theorem dX1_best_111 : decode cX1_best 111 = .ok (.irem, 1) := dk_112 (dk_at dksX1_best_4 19 rfl rfl)
theorem dX1_best_112 : decode cX1_best 112 = .ok (.i2l, 1) := dk_133 (dk_at dksX1_best_4 20 rfl rfl)
theorem dX1_best_113 : decode cX1_best 113 = .ok (.goto 5, 3) := dk_167 0 5 (dk_at dksX1_best_4 21 rfl rfl)
theorem dX1_best_116 : decode cX1_best 116 = .ok (.lload 4, 2) := dk_22 4 (dk_at dksX1_best_5 0 rfl rfl)
theorem dX1_best_118 : decode cX1_best 118 = .ok (.lreturn, 1) := dk_173 (dk_at dksX1_best_5 2 rfl rfl)
abbrev cX1_without : ByteArray := prog_1_method_58_code
def yX1_without : MethodName := ⟨RX1, "without", "(II)J"⟩
def dkwX1_without_0 : List UInt8 := [42, 27, 42, 180, 0, 93, 182, 0, 62, 42, 28, 182, 0, 121, 42, 27, 28, 182, 1, 163, 173]
abbrev dktX1_without_0 : List UInt8 := dkwX1_without_0 ++ []
theorem dksX1_without_0 : cX1_without.data.toList.drop 0 = dktX1_without_0 := by decide +kernel
theorem dX1_without_0 : decode cX1_without 0 = .ok (.aload_n 0, 1) := dk_42 (dk_at dksX1_without_0 0 rfl rfl)
theorem dX1_without_1 : decode cX1_without 1 = .ok (.iload_n 1, 1) := dk_27 (dk_at dksX1_without_0 1 rfl rfl)
theorem dX1_without_2 : decode cX1_without 2 = .ok (.aload_n 0, 1) := dk_42 (dk_at dksX1_without_0 2 rfl rfl)
theorem dX1_without_3 : decode cX1_without 3 = .ok (.getfield 93, 3) := dk_180 0 93 (dk_at dksX1_without_0 3 rfl rfl)
theorem dX1_without_6 : decode cX1_without 6 = .ok (.invokevirtual 62, 3) := dk_182 0 62 (dk_at dksX1_without_0 6 rfl rfl)
theorem dX1_without_9 : decode cX1_without 9 = .ok (.aload_n 0, 1) := dk_42 (dk_at dksX1_without_0 9 rfl rfl)
theorem dX1_without_10 : decode cX1_without 10 = .ok (.iload_n 2, 1) := dk_28 (dk_at dksX1_without_0 10 rfl rfl)
theorem dX1_without_11 : decode cX1_without 11 = .ok (.invokevirtual 121, 3) := dk_182 0 121 (dk_at dksX1_without_0 11 rfl rfl)
theorem dX1_without_14 : decode cX1_without 14 = .ok (.aload_n 0, 1) := dk_42 (dk_at dksX1_without_0 14 rfl rfl)
theorem dX1_without_15 : decode cX1_without 15 = .ok (.iload_n 1, 1) := dk_27 (dk_at dksX1_without_0 15 rfl rfl)
theorem dX1_without_16 : decode cX1_without 16 = .ok (.iload_n 2, 1) := dk_28 (dk_at dksX1_without_0 16 rfl rfl)
theorem dX1_without_17 : decode cX1_without 17 = .ok (.invokevirtual 419, 3) := dk_182 1 163 (dk_at dksX1_without_0 17 rfl rfl)
theorem dX1_without_20 : decode cX1_without 20 = .ok (.lreturn, 1) := dk_173 (dk_at dksX1_without_0 20 rfl rfl)
abbrev cX1_goneWithout : ByteArray := prog_1_method_55_code
def yX1_goneWithout : MethodName := ⟨RX1, "goneWithout", "(II)J"⟩
def dkwX1_goneWithout_0 : List UInt8 := [42, 180, 0, 16, 182, 0, 49, 42, 27, 182, 1, 155, 28, 182, 1, 46, 173]
abbrev dktX1_goneWithout_0 : List UInt8 := dkwX1_goneWithout_0 ++ []
theorem dksX1_goneWithout_0 : cX1_goneWithout.data.toList.drop 0 = dktX1_goneWithout_0 := by decide +kernel
theorem dX1_goneWithout_0 : decode cX1_goneWithout 0 = .ok (.aload_n 0, 1) := dk_42 (dk_at dksX1_goneWithout_0 0 rfl rfl)
theorem dX1_goneWithout_1 : decode cX1_goneWithout 1 = .ok (.getfield 16, 3) := dk_180 0 16 (dk_at dksX1_goneWithout_0 1 rfl rfl)
theorem dX1_goneWithout_4 : decode cX1_goneWithout 4 = .ok (.invokevirtual 49, 3) := dk_182 0 49 (dk_at dksX1_goneWithout_0 4 rfl rfl)
theorem dX1_goneWithout_7 : decode cX1_goneWithout 7 = .ok (.aload_n 0, 1) := dk_42 (dk_at dksX1_goneWithout_0 7 rfl rfl)
theorem dX1_goneWithout_8 : decode cX1_goneWithout 8 = .ok (.iload_n 1, 1) := dk_27 (dk_at dksX1_goneWithout_0 8 rfl rfl)
theorem dX1_goneWithout_9 : decode cX1_goneWithout 9 = .ok (.invokevirtual 411, 3) := dk_182 1 155 (dk_at dksX1_goneWithout_0 9 rfl rfl)
theorem dX1_goneWithout_12 : decode cX1_goneWithout 12 = .ok (.iload_n 2, 1) := dk_28 (dk_at dksX1_goneWithout_0 12 rfl rfl)
theorem dX1_goneWithout_13 : decode cX1_goneWithout 13 = .ok (.invokevirtual 302, 3) := dk_182 1 46 (dk_at dksX1_goneWithout_0 13 rfl rfl)
theorem dX1_goneWithout_16 : decode cX1_goneWithout 16 = .ok (.lreturn, 1) := dk_173 (dk_at dksX1_goneWithout_0 16 rfl rfl)
abbrev cX1_undone : ByteArray := prog_1_method_59_code
def yX1_undone : MethodName := ⟨RX1, "undone", "(I)I"⟩
def dkwX1_undone_0 : List UInt8 := [42, 27, 42, 180, 0, 93, 182, 0, 62, 42, 27, 3, 182, 1, 163, 88, 42, 180, 1, 149, 172]
abbrev dktX1_undone_0 : List UInt8 := dkwX1_undone_0 ++ []
theorem dksX1_undone_0 : cX1_undone.data.toList.drop 0 = dktX1_undone_0 := by decide +kernel
theorem dX1_undone_0 : decode cX1_undone 0 = .ok (.aload_n 0, 1) := dk_42 (dk_at dksX1_undone_0 0 rfl rfl)
theorem dX1_undone_1 : decode cX1_undone 1 = .ok (.iload_n 1, 1) := dk_27 (dk_at dksX1_undone_0 1 rfl rfl)
theorem dX1_undone_2 : decode cX1_undone 2 = .ok (.aload_n 0, 1) := dk_42 (dk_at dksX1_undone_0 2 rfl rfl)
theorem dX1_undone_3 : decode cX1_undone 3 = .ok (.getfield 93, 3) := dk_180 0 93 (dk_at dksX1_undone_0 3 rfl rfl)
theorem dX1_undone_6 : decode cX1_undone 6 = .ok (.invokevirtual 62, 3) := dk_182 0 62 (dk_at dksX1_undone_0 6 rfl rfl)
theorem dX1_undone_9 : decode cX1_undone 9 = .ok (.aload_n 0, 1) := dk_42 (dk_at dksX1_undone_0 9 rfl rfl)
theorem dX1_undone_10 : decode cX1_undone 10 = .ok (.iload_n 1, 1) := dk_27 (dk_at dksX1_undone_0 10 rfl rfl)
theorem dX1_undone_11 : decode cX1_undone 11 = .ok (.iconst 0, 1) := dk_3 (dk_at dksX1_undone_0 11 rfl rfl)
theorem dX1_undone_12 : decode cX1_undone 12 = .ok (.invokevirtual 419, 3) := dk_182 1 163 (dk_at dksX1_undone_0 12 rfl rfl)
theorem dX1_undone_15 : decode cX1_undone 15 = .ok (.pop2, 1) := dk_88 (dk_at dksX1_undone_0 15 rfl rfl)
theorem dX1_undone_16 : decode cX1_undone 16 = .ok (.aload_n 0, 1) := dk_42 (dk_at dksX1_undone_0 16 rfl rfl)
theorem dX1_undone_17 : decode cX1_undone 17 = .ok (.getfield 405, 3) := dk_180 1 149 (dk_at dksX1_undone_0 17 rfl rfl)
theorem dX1_undone_20 : decode cX1_undone 20 = .ok (.ireturn, 1) := dk_172 (dk_at dksX1_undone_0 20 rfl rfl)
abbrev cX1_spared : ByteArray := prog_1_method_60_code
def yX1_spared : MethodName := ⟨RX1, "spared", "(I)J"⟩
def dkwX1_spared_3 : List UInt8 := [101, 42, 180, 0, 10, 180, 1, 52, 27, 47, 101, 173]
abbrev dktX1_spared_3 : List UInt8 := dkwX1_spared_3 ++ []
def dkwX1_spared_2 : List UInt8 := [27, 159, 0, 9, 132, 2, 1, 167, 255, 226, 42, 28, 27, 182, 1, 163, 42, 180, 0, 10, 27, 182, 1, 46]
abbrev dktX1_spared_2 : List UInt8 := dkwX1_spared_2 ++ dktX1_spared_3
def dkwX1_spared_1 : List UInt8 := [61, 42, 180, 0, 28, 28, 50, 180, 0, 198, 16, 6, 160, 0, 16, 42, 180, 0, 28, 28, 50, 180, 0, 201]
abbrev dktX1_spared_1 : List UInt8 := dkwX1_spared_1 ++ dktX1_spared_2
def dkwX1_spared_0 : List UInt8 := [42, 27, 4, 16, 9, 182, 0, 80, 42, 180, 0, 10, 180, 1, 49, 27, 46, 4, 159, 0, 5, 9, 173, 3]
abbrev dktX1_spared_0 : List UInt8 := dkwX1_spared_0 ++ dktX1_spared_1
theorem dksX1_spared_0 : cX1_spared.data.toList.drop 0 = dktX1_spared_0 := by decide +kernel
theorem dksX1_spared_1 : cX1_spared.data.toList.drop 24 = dktX1_spared_1 := dk_seg dksX1_spared_0 24 rfl rfl
theorem dksX1_spared_2 : cX1_spared.data.toList.drop 48 = dktX1_spared_2 := dk_seg dksX1_spared_1 24 rfl rfl
theorem dksX1_spared_3 : cX1_spared.data.toList.drop 72 = dktX1_spared_3 := dk_seg dksX1_spared_2 24 rfl rfl
theorem dX1_spared_0 : decode cX1_spared 0 = .ok (.aload_n 0, 1) := dk_42 (dk_at dksX1_spared_0 0 rfl rfl)
theorem dX1_spared_1 : decode cX1_spared 1 = .ok (.iload_n 1, 1) := dk_27 (dk_at dksX1_spared_0 1 rfl rfl)
theorem dX1_spared_2 : decode cX1_spared 2 = .ok (.iconst 1, 1) := dk_4 (dk_at dksX1_spared_0 2 rfl rfl)
theorem dX1_spared_3 : decode cX1_spared 3 = .ok (.bipush 9, 2) := dk_16 9 (dk_at dksX1_spared_0 3 rfl rfl)
theorem dX1_spared_5 : decode cX1_spared 5 = .ok (.invokevirtual 80, 3) := dk_182 0 80 (dk_at dksX1_spared_0 5 rfl rfl)
theorem dX1_spared_8 : decode cX1_spared 8 = .ok (.aload_n 0, 1) := dk_42 (dk_at dksX1_spared_0 8 rfl rfl)
theorem dX1_spared_9 : decode cX1_spared 9 = .ok (.getfield 10, 3) := dk_180 0 10 (dk_at dksX1_spared_0 9 rfl rfl)
theorem dX1_spared_12 : decode cX1_spared 12 = .ok (.getfield 305, 3) := dk_180 1 49 (dk_at dksX1_spared_0 12 rfl rfl)
theorem dX1_spared_15 : decode cX1_spared 15 = .ok (.iload_n 1, 1) := dk_27 (dk_at dksX1_spared_0 15 rfl rfl)
theorem dX1_spared_16 : decode cX1_spared 16 = .ok (.iaload, 1) := dk_46 (dk_at dksX1_spared_0 16 rfl rfl)
theorem dX1_spared_17 : decode cX1_spared 17 = .ok (.iconst 1, 1) := dk_4 (dk_at dksX1_spared_0 17 rfl rfl)
theorem dX1_spared_18 : decode cX1_spared 18 = .ok (.if_icmp .eq 5, 3) := dk_159 0 5 (dk_at dksX1_spared_0 18 rfl rfl)
theorem dX1_spared_21 : decode cX1_spared 21 = .ok (.lconst 0, 1) := dk_9 (dk_at dksX1_spared_0 21 rfl rfl)
theorem dX1_spared_22 : decode cX1_spared 22 = .ok (.lreturn, 1) := dk_173 (dk_at dksX1_spared_0 22 rfl rfl)
theorem dX1_spared_23 : decode cX1_spared 23 = .ok (.iconst 0, 1) := dk_3 (dk_at dksX1_spared_0 23 rfl rfl)
theorem dX1_spared_24 : decode cX1_spared 24 = .ok (.istore_n 2, 1) := dk_61 (dk_at dksX1_spared_1 0 rfl rfl)
theorem dX1_spared_25 : decode cX1_spared 25 = .ok (.aload_n 0, 1) := dk_42 (dk_at dksX1_spared_1 1 rfl rfl)
theorem dX1_spared_26 : decode cX1_spared 26 = .ok (.getfield 28, 3) := dk_180 0 28 (dk_at dksX1_spared_1 2 rfl rfl)
theorem dX1_spared_29 : decode cX1_spared 29 = .ok (.iload_n 2, 1) := dk_28 (dk_at dksX1_spared_1 5 rfl rfl)
theorem dX1_spared_30 : decode cX1_spared 30 = .ok (.aaload, 1) := dk_50 (dk_at dksX1_spared_1 6 rfl rfl)
theorem dX1_spared_31 : decode cX1_spared 31 = .ok (.getfield 198, 3) := dk_180 0 198 (dk_at dksX1_spared_1 7 rfl rfl)
theorem dX1_spared_34 : decode cX1_spared 34 = .ok (.bipush 6, 2) := dk_16 6 (dk_at dksX1_spared_1 10 rfl rfl)
theorem dX1_spared_36 : decode cX1_spared 36 = .ok (.if_icmp .ne 16, 3) := dk_160 0 16 (dk_at dksX1_spared_1 12 rfl rfl)
theorem dX1_spared_39 : decode cX1_spared 39 = .ok (.aload_n 0, 1) := dk_42 (dk_at dksX1_spared_1 15 rfl rfl)
theorem dX1_spared_40 : decode cX1_spared 40 = .ok (.getfield 28, 3) := dk_180 0 28 (dk_at dksX1_spared_1 16 rfl rfl)
theorem dX1_spared_43 : decode cX1_spared 43 = .ok (.iload_n 2, 1) := dk_28 (dk_at dksX1_spared_1 19 rfl rfl)
theorem dX1_spared_44 : decode cX1_spared 44 = .ok (.aaload, 1) := dk_50 (dk_at dksX1_spared_1 20 rfl rfl)
theorem dX1_spared_45 : decode cX1_spared 45 = .ok (.getfield 201, 3) := dk_180 0 201 (dk_at dksX1_spared_1 21 rfl rfl)
theorem dX1_spared_48 : decode cX1_spared 48 = .ok (.iload_n 1, 1) := dk_27 (dk_at dksX1_spared_2 0 rfl rfl)
theorem dX1_spared_49 : decode cX1_spared 49 = .ok (.if_icmp .eq 9, 3) := dk_159 0 9 (dk_at dksX1_spared_2 1 rfl rfl)
theorem dX1_spared_52 : decode cX1_spared 52 = .ok (.iinc 2 1, 3) := dk_132 2 1 (dk_at dksX1_spared_2 4 rfl rfl)
theorem dX1_spared_55 : decode cX1_spared 55 = .ok (.goto (-30), 3) := dk_167 255 226 (dk_at dksX1_spared_2 7 rfl rfl)
theorem dX1_spared_58 : decode cX1_spared 58 = .ok (.aload_n 0, 1) := dk_42 (dk_at dksX1_spared_2 10 rfl rfl)
theorem dX1_spared_59 : decode cX1_spared 59 = .ok (.iload_n 2, 1) := dk_28 (dk_at dksX1_spared_2 11 rfl rfl)
theorem dX1_spared_60 : decode cX1_spared 60 = .ok (.iload_n 1, 1) := dk_27 (dk_at dksX1_spared_2 12 rfl rfl)
theorem dX1_spared_61 : decode cX1_spared 61 = .ok (.invokevirtual 419, 3) := dk_182 1 163 (dk_at dksX1_spared_2 13 rfl rfl)
theorem dX1_spared_64 : decode cX1_spared 64 = .ok (.aload_n 0, 1) := dk_42 (dk_at dksX1_spared_2 16 rfl rfl)
theorem dX1_spared_65 : decode cX1_spared 65 = .ok (.getfield 10, 3) := dk_180 0 10 (dk_at dksX1_spared_2 17 rfl rfl)
theorem dX1_spared_68 : decode cX1_spared 68 = .ok (.iload_n 1, 1) := dk_27 (dk_at dksX1_spared_2 20 rfl rfl)
theorem dX1_spared_69 : decode cX1_spared 69 = .ok (.invokevirtual 302, 3) := dk_182 1 46 (dk_at dksX1_spared_2 21 rfl rfl)
theorem dX1_spared_72 : decode cX1_spared 72 = .ok (.lsub, 1) := dk_101 (dk_at dksX1_spared_3 0 rfl rfl)
theorem dX1_spared_73 : decode cX1_spared 73 = .ok (.aload_n 0, 1) := dk_42 (dk_at dksX1_spared_3 1 rfl rfl)
theorem dX1_spared_74 : decode cX1_spared 74 = .ok (.getfield 10, 3) := dk_180 0 10 (dk_at dksX1_spared_3 2 rfl rfl)
theorem dX1_spared_77 : decode cX1_spared 77 = .ok (.getfield 308, 3) := dk_180 1 52 (dk_at dksX1_spared_3 5 rfl rfl)
theorem dX1_spared_80 : decode cX1_spared 80 = .ok (.iload_n 1, 1) := dk_27 (dk_at dksX1_spared_3 8 rfl rfl)
theorem dX1_spared_81 : decode cX1_spared 81 = .ok (.laload, 1) := dk_47 (dk_at dksX1_spared_3 9 rfl rfl)
theorem dX1_spared_82 : decode cX1_spared 82 = .ok (.lsub, 1) := dk_101 (dk_at dksX1_spared_3 10 rfl rfl)
theorem dX1_spared_83 : decode cX1_spared 83 = .ok (.lreturn, 1) := dk_173 (dk_at dksX1_spared_3 11 rfl rfl)
abbrev cX1_shift : ByteArray := prog_1_method_61_code
def yX1_shift : MethodName := ⟨RX1, "shift", "(III)J"⟩
def dkwX1_shift_4 : List UInt8 := [180, 0, 16, 185, 0, 96, 2, 0, 87, 132, 4, 1, 167, 255, 184, 42, 180, 0, 16, 29, 182, 1, 46, 173]
abbrev dktX1_shift_4 : List UInt8 := dkwX1_shift_4 ++ []
def dkwX1_shift_3 : List UInt8 := [42, 180, 0, 93, 162, 0, 29, 21, 4, 27, 159, 0, 23, 42, 180, 0, 28, 21, 4, 50, 180, 0, 178, 42]
abbrev dktX1_shift_3 : List UInt8 := dkwX1_shift_3 ++ dktX1_shift_4
def dkwX1_shift_2 : List UInt8 := [160, 0, 22, 42, 180, 0, 28, 27, 50, 180, 0, 178, 42, 180, 0, 16, 185, 0, 96, 2, 0, 87, 21, 4]
abbrev dktX1_shift_2 : List UInt8 := dkwX1_shift_2 ++ dktX1_shift_3
def dkwX1_shift_1 : List UInt8 := [42, 180, 0, 16, 182, 0, 49, 3, 54, 4, 21, 4, 42, 180, 0, 93, 163, 0, 69, 21, 4, 28]
abbrev dktX1_shift_1 : List UInt8 := dkwX1_shift_1 ++ dktX1_shift_2
def dkwX1_shift_0 : List UInt8 := [42, 27, 42, 180, 0, 93, 182, 0, 62, 42, 28, 3, 42, 180, 0, 93, 182, 0, 80, 42, 29, 182, 0, 121]
abbrev dktX1_shift_0 : List UInt8 := dkwX1_shift_0 ++ dktX1_shift_1
theorem dksX1_shift_0 : cX1_shift.data.toList.drop 0 = dktX1_shift_0 := by decide +kernel
theorem dksX1_shift_1 : cX1_shift.data.toList.drop 24 = dktX1_shift_1 := dk_seg dksX1_shift_0 24 rfl rfl
theorem dksX1_shift_2 : cX1_shift.data.toList.drop 46 = dktX1_shift_2 := dk_seg dksX1_shift_1 22 rfl rfl
theorem dksX1_shift_3 : cX1_shift.data.toList.drop 70 = dktX1_shift_3 := dk_seg dksX1_shift_2 24 rfl rfl
theorem dksX1_shift_4 : cX1_shift.data.toList.drop 94 = dktX1_shift_4 := dk_seg dksX1_shift_3 24 rfl rfl
theorem dX1_shift_0 : decode cX1_shift 0 = .ok (.aload_n 0, 1) := dk_42 (dk_at dksX1_shift_0 0 rfl rfl)
theorem dX1_shift_1 : decode cX1_shift 1 = .ok (.iload_n 1, 1) := dk_27 (dk_at dksX1_shift_0 1 rfl rfl)
theorem dX1_shift_2 : decode cX1_shift 2 = .ok (.aload_n 0, 1) := dk_42 (dk_at dksX1_shift_0 2 rfl rfl)
theorem dX1_shift_3 : decode cX1_shift 3 = .ok (.getfield 93, 3) := dk_180 0 93 (dk_at dksX1_shift_0 3 rfl rfl)
theorem dX1_shift_6 : decode cX1_shift 6 = .ok (.invokevirtual 62, 3) := dk_182 0 62 (dk_at dksX1_shift_0 6 rfl rfl)
theorem dX1_shift_9 : decode cX1_shift 9 = .ok (.aload_n 0, 1) := dk_42 (dk_at dksX1_shift_0 9 rfl rfl)
theorem dX1_shift_10 : decode cX1_shift 10 = .ok (.iload_n 2, 1) := dk_28 (dk_at dksX1_shift_0 10 rfl rfl)
theorem dX1_shift_11 : decode cX1_shift 11 = .ok (.iconst 0, 1) := dk_3 (dk_at dksX1_shift_0 11 rfl rfl)
theorem dX1_shift_12 : decode cX1_shift 12 = .ok (.aload_n 0, 1) := dk_42 (dk_at dksX1_shift_0 12 rfl rfl)
theorem dX1_shift_13 : decode cX1_shift 13 = .ok (.getfield 93, 3) := dk_180 0 93 (dk_at dksX1_shift_0 13 rfl rfl)
theorem dX1_shift_16 : decode cX1_shift 16 = .ok (.invokevirtual 80, 3) := dk_182 0 80 (dk_at dksX1_shift_0 16 rfl rfl)
theorem dX1_shift_19 : decode cX1_shift 19 = .ok (.aload_n 0, 1) := dk_42 (dk_at dksX1_shift_0 19 rfl rfl)
theorem dX1_shift_20 : decode cX1_shift 20 = .ok (.iload_n 3, 1) := dk_29 (dk_at dksX1_shift_0 20 rfl rfl)
theorem dX1_shift_21 : decode cX1_shift 21 = .ok (.invokevirtual 121, 3) := dk_182 0 121 (dk_at dksX1_shift_0 21 rfl rfl)
theorem dX1_shift_24 : decode cX1_shift 24 = .ok (.aload_n 0, 1) := dk_42 (dk_at dksX1_shift_1 0 rfl rfl)
theorem dX1_shift_25 : decode cX1_shift 25 = .ok (.getfield 16, 3) := dk_180 0 16 (dk_at dksX1_shift_1 1 rfl rfl)
theorem dX1_shift_28 : decode cX1_shift 28 = .ok (.invokevirtual 49, 3) := dk_182 0 49 (dk_at dksX1_shift_1 4 rfl rfl)
theorem dX1_shift_31 : decode cX1_shift 31 = .ok (.iconst 0, 1) := dk_3 (dk_at dksX1_shift_1 7 rfl rfl)
theorem dX1_shift_32 : decode cX1_shift 32 = .ok (.istore 4, 2) := dk_54 4 (dk_at dksX1_shift_1 8 rfl rfl)
theorem dX1_shift_34 : decode cX1_shift 34 = .ok (.iload 4, 2) := dk_21 4 (dk_at dksX1_shift_1 10 rfl rfl)
theorem dX1_shift_36 : decode cX1_shift 36 = .ok (.aload_n 0, 1) := dk_42 (dk_at dksX1_shift_1 12 rfl rfl)
theorem dX1_shift_37 : decode cX1_shift 37 = .ok (.getfield 93, 3) := dk_180 0 93 (dk_at dksX1_shift_1 13 rfl rfl)
theorem dX1_shift_40 : decode cX1_shift 40 = .ok (.if_icmp .gt 69, 3) := dk_163 0 69 (dk_at dksX1_shift_1 16 rfl rfl)
theorem dX1_shift_43 : decode cX1_shift 43 = .ok (.iload 4, 2) := dk_21 4 (dk_at dksX1_shift_1 19 rfl rfl)
theorem dX1_shift_45 : decode cX1_shift 45 = .ok (.iload_n 2, 1) := dk_28 (dk_at dksX1_shift_1 21 rfl rfl)
theorem dX1_shift_46 : decode cX1_shift 46 = .ok (.if_icmp .ne 22, 3) := dk_160 0 22 (dk_at dksX1_shift_2 0 rfl rfl)
theorem dX1_shift_49 : decode cX1_shift 49 = .ok (.aload_n 0, 1) := dk_42 (dk_at dksX1_shift_2 3 rfl rfl)
theorem dX1_shift_50 : decode cX1_shift 50 = .ok (.getfield 28, 3) := dk_180 0 28 (dk_at dksX1_shift_2 4 rfl rfl)
theorem dX1_shift_53 : decode cX1_shift 53 = .ok (.iload_n 1, 1) := dk_27 (dk_at dksX1_shift_2 7 rfl rfl)
theorem dX1_shift_54 : decode cX1_shift 54 = .ok (.aaload, 1) := dk_50 (dk_at dksX1_shift_2 8 rfl rfl)
theorem dX1_shift_55 : decode cX1_shift 55 = .ok (.getfield 178, 3) := dk_180 0 178 (dk_at dksX1_shift_2 9 rfl rfl)
theorem dX1_shift_58 : decode cX1_shift 58 = .ok (.aload_n 0, 1) := dk_42 (dk_at dksX1_shift_2 12 rfl rfl)
theorem dX1_shift_59 : decode cX1_shift 59 = .ok (.getfield 16, 3) := dk_180 0 16 (dk_at dksX1_shift_2 13 rfl rfl)
theorem dX1_shift_62 : decode cX1_shift 62 = .ok (.invokeinterface 96 2, 5) := by decide +kernel
theorem dX1_shift_67 : decode cX1_shift 67 = .ok (.pop, 1) := dk_87 (dk_at dksX1_shift_2 21 rfl rfl)
theorem dX1_shift_68 : decode cX1_shift 68 = .ok (.iload 4, 2) := dk_21 4 (dk_at dksX1_shift_2 22 rfl rfl)
theorem dX1_shift_70 : decode cX1_shift 70 = .ok (.aload_n 0, 1) := dk_42 (dk_at dksX1_shift_3 0 rfl rfl)
theorem dX1_shift_71 : decode cX1_shift 71 = .ok (.getfield 93, 3) := dk_180 0 93 (dk_at dksX1_shift_3 1 rfl rfl)
theorem dX1_shift_74 : decode cX1_shift 74 = .ok (.if_icmp .ge 29, 3) := dk_162 0 29 (dk_at dksX1_shift_3 4 rfl rfl)
theorem dX1_shift_77 : decode cX1_shift 77 = .ok (.iload 4, 2) := dk_21 4 (dk_at dksX1_shift_3 7 rfl rfl)
theorem dX1_shift_79 : decode cX1_shift 79 = .ok (.iload_n 1, 1) := dk_27 (dk_at dksX1_shift_3 9 rfl rfl)
theorem dX1_shift_80 : decode cX1_shift 80 = .ok (.if_icmp .eq 23, 3) := dk_159 0 23 (dk_at dksX1_shift_3 10 rfl rfl)
theorem dX1_shift_83 : decode cX1_shift 83 = .ok (.aload_n 0, 1) := dk_42 (dk_at dksX1_shift_3 13 rfl rfl)
theorem dX1_shift_84 : decode cX1_shift 84 = .ok (.getfield 28, 3) := dk_180 0 28 (dk_at dksX1_shift_3 14 rfl rfl)
theorem dX1_shift_87 : decode cX1_shift 87 = .ok (.iload 4, 2) := dk_21 4 (dk_at dksX1_shift_3 17 rfl rfl)
theorem dX1_shift_89 : decode cX1_shift 89 = .ok (.aaload, 1) := dk_50 (dk_at dksX1_shift_3 19 rfl rfl)
theorem dX1_shift_90 : decode cX1_shift 90 = .ok (.getfield 178, 3) := dk_180 0 178 (dk_at dksX1_shift_3 20 rfl rfl)
theorem dX1_shift_93 : decode cX1_shift 93 = .ok (.aload_n 0, 1) := dk_42 (dk_at dksX1_shift_3 23 rfl rfl)
theorem dX1_shift_94 : decode cX1_shift 94 = .ok (.getfield 16, 3) := dk_180 0 16 (dk_at dksX1_shift_4 0 rfl rfl)
theorem dX1_shift_97 : decode cX1_shift 97 = .ok (.invokeinterface 96 2, 5) := by decide +kernel
theorem dX1_shift_102 : decode cX1_shift 102 = .ok (.pop, 1) := dk_87 (dk_at dksX1_shift_4 8 rfl rfl)
theorem dX1_shift_103 : decode cX1_shift 103 = .ok (.iinc 4 1, 3) := dk_132 4 1 (dk_at dksX1_shift_4 9 rfl rfl)
theorem dX1_shift_106 : decode cX1_shift 106 = .ok (.goto (-72), 3) := dk_167 255 184 (dk_at dksX1_shift_4 12 rfl rfl)
theorem dX1_shift_109 : decode cX1_shift 109 = .ok (.aload_n 0, 1) := dk_42 (dk_at dksX1_shift_4 15 rfl rfl)
theorem dX1_shift_110 : decode cX1_shift 110 = .ok (.getfield 16, 3) := dk_180 0 16 (dk_at dksX1_shift_4 16 rfl rfl)
theorem dX1_shift_113 : decode cX1_shift 113 = .ok (.iload_n 3, 1) := dk_29 (dk_at dksX1_shift_4 19 rfl rfl)
theorem dX1_shift_114 : decode cX1_shift 114 = .ok (.invokevirtual 302, 3) := dk_182 1 46 (dk_at dksX1_shift_4 20 rfl rfl)
theorem dX1_shift_117 : decode cX1_shift 117 = .ok (.lreturn, 1) := dk_173 (dk_at dksX1_shift_4 23 rfl rfl)
abbrev cX1_after : ByteArray := prog_1_method_62_code
def yX1_after : MethodName := ⟨RX1, "after", "(II)J"⟩
def dkwX1_after_2 : List UInt8 := [132, 3, 1, 167, 255, 229, 42, 180, 0, 16, 28, 182, 1, 46, 173]
abbrev dktX1_after_2 : List UInt8 := dkwX1_after_2 ++ []
def dkwX1_after_1 : List UInt8 := [27, 163, 0, 28, 42, 180, 0, 28, 29, 50, 180, 0, 178, 42, 180, 0, 16, 185, 0, 96, 2, 0, 87]
abbrev dktX1_after_1 : List UInt8 := dkwX1_after_1 ++ dktX1_after_2
def dkwX1_after_0 : List UInt8 := [42, 27, 42, 180, 0, 93, 182, 0, 62, 42, 28, 182, 0, 121, 42, 180, 0, 16, 182, 0, 49, 3, 62, 29]
abbrev dktX1_after_0 : List UInt8 := dkwX1_after_0 ++ dktX1_after_1
theorem dksX1_after_0 : cX1_after.data.toList.drop 0 = dktX1_after_0 := by decide +kernel
theorem dksX1_after_1 : cX1_after.data.toList.drop 24 = dktX1_after_1 := dk_seg dksX1_after_0 24 rfl rfl
theorem dksX1_after_2 : cX1_after.data.toList.drop 47 = dktX1_after_2 := dk_seg dksX1_after_1 23 rfl rfl
theorem dX1_after_0 : decode cX1_after 0 = .ok (.aload_n 0, 1) := dk_42 (dk_at dksX1_after_0 0 rfl rfl)
theorem dX1_after_1 : decode cX1_after 1 = .ok (.iload_n 1, 1) := dk_27 (dk_at dksX1_after_0 1 rfl rfl)
theorem dX1_after_2 : decode cX1_after 2 = .ok (.aload_n 0, 1) := dk_42 (dk_at dksX1_after_0 2 rfl rfl)
theorem dX1_after_3 : decode cX1_after 3 = .ok (.getfield 93, 3) := dk_180 0 93 (dk_at dksX1_after_0 3 rfl rfl)
theorem dX1_after_6 : decode cX1_after 6 = .ok (.invokevirtual 62, 3) := dk_182 0 62 (dk_at dksX1_after_0 6 rfl rfl)
theorem dX1_after_9 : decode cX1_after 9 = .ok (.aload_n 0, 1) := dk_42 (dk_at dksX1_after_0 9 rfl rfl)
theorem dX1_after_10 : decode cX1_after 10 = .ok (.iload_n 2, 1) := dk_28 (dk_at dksX1_after_0 10 rfl rfl)
theorem dX1_after_11 : decode cX1_after 11 = .ok (.invokevirtual 121, 3) := dk_182 0 121 (dk_at dksX1_after_0 11 rfl rfl)
theorem dX1_after_14 : decode cX1_after 14 = .ok (.aload_n 0, 1) := dk_42 (dk_at dksX1_after_0 14 rfl rfl)
theorem dX1_after_15 : decode cX1_after 15 = .ok (.getfield 16, 3) := dk_180 0 16 (dk_at dksX1_after_0 15 rfl rfl)
theorem dX1_after_18 : decode cX1_after 18 = .ok (.invokevirtual 49, 3) := dk_182 0 49 (dk_at dksX1_after_0 18 rfl rfl)
theorem dX1_after_21 : decode cX1_after 21 = .ok (.iconst 0, 1) := dk_3 (dk_at dksX1_after_0 21 rfl rfl)
theorem dX1_after_22 : decode cX1_after 22 = .ok (.istore_n 3, 1) := dk_62 (dk_at dksX1_after_0 22 rfl rfl)
theorem dX1_after_23 : decode cX1_after 23 = .ok (.iload_n 3, 1) := dk_29 (dk_at dksX1_after_0 23 rfl rfl)
theorem dX1_after_24 : decode cX1_after 24 = .ok (.iload_n 1, 1) := dk_27 (dk_at dksX1_after_1 0 rfl rfl)
theorem dX1_after_25 : decode cX1_after 25 = .ok (.if_icmp .gt 28, 3) := dk_163 0 28 (dk_at dksX1_after_1 1 rfl rfl)
theorem dX1_after_28 : decode cX1_after 28 = .ok (.aload_n 0, 1) := dk_42 (dk_at dksX1_after_1 4 rfl rfl)
theorem dX1_after_29 : decode cX1_after 29 = .ok (.getfield 28, 3) := dk_180 0 28 (dk_at dksX1_after_1 5 rfl rfl)
theorem dX1_after_32 : decode cX1_after 32 = .ok (.iload_n 3, 1) := dk_29 (dk_at dksX1_after_1 8 rfl rfl)
theorem dX1_after_33 : decode cX1_after 33 = .ok (.aaload, 1) := dk_50 (dk_at dksX1_after_1 9 rfl rfl)
theorem dX1_after_34 : decode cX1_after 34 = .ok (.getfield 178, 3) := dk_180 0 178 (dk_at dksX1_after_1 10 rfl rfl)
theorem dX1_after_37 : decode cX1_after 37 = .ok (.aload_n 0, 1) := dk_42 (dk_at dksX1_after_1 13 rfl rfl)
theorem dX1_after_38 : decode cX1_after 38 = .ok (.getfield 16, 3) := dk_180 0 16 (dk_at dksX1_after_1 14 rfl rfl)
theorem dX1_after_41 : decode cX1_after 41 = .ok (.invokeinterface 96 2, 5) := by decide +kernel
theorem dX1_after_46 : decode cX1_after 46 = .ok (.pop, 1) := dk_87 (dk_at dksX1_after_1 22 rfl rfl)
theorem dX1_after_47 : decode cX1_after 47 = .ok (.iinc 3 1, 3) := dk_132 3 1 (dk_at dksX1_after_2 0 rfl rfl)
theorem dX1_after_50 : decode cX1_after 50 = .ok (.goto (-27), 3) := dk_167 255 229 (dk_at dksX1_after_2 3 rfl rfl)
theorem dX1_after_53 : decode cX1_after 53 = .ok (.aload_n 0, 1) := dk_42 (dk_at dksX1_after_2 6 rfl rfl)
theorem dX1_after_54 : decode cX1_after 54 = .ok (.getfield 16, 3) := dk_180 0 16 (dk_at dksX1_after_2 7 rfl rfl)
theorem dX1_after_57 : decode cX1_after 57 = .ok (.iload_n 2, 1) := dk_28 (dk_at dksX1_after_2 10 rfl rfl)
theorem dX1_after_58 : decode cX1_after 58 = .ok (.invokevirtual 302, 3) := dk_182 1 46 (dk_at dksX1_after_2 11 rfl rfl)
theorem dX1_after_61 : decode cX1_after 61 = .ok (.lreturn, 1) := dk_173 (dk_at dksX1_after_2 14 rfl rfl)
abbrev cX1_usedUp : ByteArray := prog_1_method_63_code
def yX1_usedUp : MethodName := ⟨RX1, "usedUp", "(I)I"⟩
def dkwX1_usedUp_3 : List UInt8 := [148, 154, 0, 5, 28, 172, 132, 2, 1, 167, 255, 192, 2, 172]
abbrev dktX1_usedUp_3 : List UInt8 := dkwX1_usedUp_3 ++ []
def dkwX1_usedUp_2 : List UInt8 := [180, 0, 66, 27, 50, 180, 1, 167, 153, 0, 22, 42, 180, 0, 16, 180, 0, 66, 27, 50, 182, 0, 220, 9]
abbrev dktX1_usedUp_2 : List UInt8 := dkwX1_usedUp_2 ++ dktX1_usedUp_3
def dkwX1_usedUp_1 : List UInt8 := [180, 0, 28, 28, 50, 180, 0, 178, 42, 180, 0, 16, 185, 0, 96, 2, 0, 87, 42, 180, 0, 16]
abbrev dktX1_usedUp_1 : List UInt8 := dkwX1_usedUp_1 ++ dktX1_usedUp_2
def dkwX1_usedUp_0 : List UInt8 := [42, 27, 182, 0, 117, 87, 42, 180, 0, 16, 182, 0, 49, 3, 61, 28, 42, 180, 0, 93, 162, 0, 62, 42]
abbrev dktX1_usedUp_0 : List UInt8 := dkwX1_usedUp_0 ++ dktX1_usedUp_1
theorem dksX1_usedUp_0 : cX1_usedUp.data.toList.drop 0 = dktX1_usedUp_0 := by decide +kernel
theorem dksX1_usedUp_1 : cX1_usedUp.data.toList.drop 24 = dktX1_usedUp_1 := dk_seg dksX1_usedUp_0 24 rfl rfl
theorem dksX1_usedUp_2 : cX1_usedUp.data.toList.drop 46 = dktX1_usedUp_2 := dk_seg dksX1_usedUp_1 22 rfl rfl
theorem dksX1_usedUp_3 : cX1_usedUp.data.toList.drop 70 = dktX1_usedUp_3 := dk_seg dksX1_usedUp_2 24 rfl rfl
theorem dX1_usedUp_0 : decode cX1_usedUp 0 = .ok (.aload_n 0, 1) := dk_42 (dk_at dksX1_usedUp_0 0 rfl rfl)
theorem dX1_usedUp_1 : decode cX1_usedUp 1 = .ok (.iload_n 1, 1) := dk_27 (dk_at dksX1_usedUp_0 1 rfl rfl)
theorem dX1_usedUp_2 : decode cX1_usedUp 2 = .ok (.invokevirtual 117, 3) := dk_182 0 117 (dk_at dksX1_usedUp_0 2 rfl rfl)
theorem dX1_usedUp_5 : decode cX1_usedUp 5 = .ok (.pop, 1) := dk_87 (dk_at dksX1_usedUp_0 5 rfl rfl)
theorem dX1_usedUp_6 : decode cX1_usedUp 6 = .ok (.aload_n 0, 1) := dk_42 (dk_at dksX1_usedUp_0 6 rfl rfl)
theorem dX1_usedUp_7 : decode cX1_usedUp 7 = .ok (.getfield 16, 3) := dk_180 0 16 (dk_at dksX1_usedUp_0 7 rfl rfl)
theorem dX1_usedUp_10 : decode cX1_usedUp 10 = .ok (.invokevirtual 49, 3) := dk_182 0 49 (dk_at dksX1_usedUp_0 10 rfl rfl)
theorem dX1_usedUp_13 : decode cX1_usedUp 13 = .ok (.iconst 0, 1) := dk_3 (dk_at dksX1_usedUp_0 13 rfl rfl)
theorem dX1_usedUp_14 : decode cX1_usedUp 14 = .ok (.istore_n 2, 1) := dk_61 (dk_at dksX1_usedUp_0 14 rfl rfl)
theorem dX1_usedUp_15 : decode cX1_usedUp 15 = .ok (.iload_n 2, 1) := dk_28 (dk_at dksX1_usedUp_0 15 rfl rfl)
theorem dX1_usedUp_16 : decode cX1_usedUp 16 = .ok (.aload_n 0, 1) := dk_42 (dk_at dksX1_usedUp_0 16 rfl rfl)
theorem dX1_usedUp_17 : decode cX1_usedUp 17 = .ok (.getfield 93, 3) := dk_180 0 93 (dk_at dksX1_usedUp_0 17 rfl rfl)
theorem dX1_usedUp_20 : decode cX1_usedUp 20 = .ok (.if_icmp .ge 62, 3) := dk_162 0 62 (dk_at dksX1_usedUp_0 20 rfl rfl)
theorem dX1_usedUp_23 : decode cX1_usedUp 23 = .ok (.aload_n 0, 1) := dk_42 (dk_at dksX1_usedUp_0 23 rfl rfl)
theorem dX1_usedUp_24 : decode cX1_usedUp 24 = .ok (.getfield 28, 3) := dk_180 0 28 (dk_at dksX1_usedUp_1 0 rfl rfl)
theorem dX1_usedUp_27 : decode cX1_usedUp 27 = .ok (.iload_n 2, 1) := dk_28 (dk_at dksX1_usedUp_1 3 rfl rfl)
theorem dX1_usedUp_28 : decode cX1_usedUp 28 = .ok (.aaload, 1) := dk_50 (dk_at dksX1_usedUp_1 4 rfl rfl)
theorem dX1_usedUp_29 : decode cX1_usedUp 29 = .ok (.getfield 178, 3) := dk_180 0 178 (dk_at dksX1_usedUp_1 5 rfl rfl)
theorem dX1_usedUp_32 : decode cX1_usedUp 32 = .ok (.aload_n 0, 1) := dk_42 (dk_at dksX1_usedUp_1 8 rfl rfl)
theorem dX1_usedUp_33 : decode cX1_usedUp 33 = .ok (.getfield 16, 3) := dk_180 0 16 (dk_at dksX1_usedUp_1 9 rfl rfl)
theorem dX1_usedUp_36 : decode cX1_usedUp 36 = .ok (.invokeinterface 96 2, 5) := by decide +kernel
theorem dX1_usedUp_41 : decode cX1_usedUp 41 = .ok (.pop, 1) := dk_87 (dk_at dksX1_usedUp_1 17 rfl rfl)
theorem dX1_usedUp_42 : decode cX1_usedUp 42 = .ok (.aload_n 0, 1) := dk_42 (dk_at dksX1_usedUp_1 18 rfl rfl)
theorem dX1_usedUp_43 : decode cX1_usedUp 43 = .ok (.getfield 16, 3) := dk_180 0 16 (dk_at dksX1_usedUp_1 19 rfl rfl)
theorem dX1_usedUp_46 : decode cX1_usedUp 46 = .ok (.getfield 66, 3) := dk_180 0 66 (dk_at dksX1_usedUp_2 0 rfl rfl)
theorem dX1_usedUp_49 : decode cX1_usedUp 49 = .ok (.iload_n 1, 1) := dk_27 (dk_at dksX1_usedUp_2 3 rfl rfl)
theorem dX1_usedUp_50 : decode cX1_usedUp 50 = .ok (.aaload, 1) := dk_50 (dk_at dksX1_usedUp_2 4 rfl rfl)
theorem dX1_usedUp_51 : decode cX1_usedUp 51 = .ok (.getfield 423, 3) := dk_180 1 167 (dk_at dksX1_usedUp_2 5 rfl rfl)
theorem dX1_usedUp_54 : decode cX1_usedUp 54 = .ok (.ifCond .eq 22, 3) := dk_153 0 22 (dk_at dksX1_usedUp_2 8 rfl rfl)
theorem dX1_usedUp_57 : decode cX1_usedUp 57 = .ok (.aload_n 0, 1) := dk_42 (dk_at dksX1_usedUp_2 11 rfl rfl)
theorem dX1_usedUp_58 : decode cX1_usedUp 58 = .ok (.getfield 16, 3) := dk_180 0 16 (dk_at dksX1_usedUp_2 12 rfl rfl)
theorem dX1_usedUp_61 : decode cX1_usedUp 61 = .ok (.getfield 66, 3) := dk_180 0 66 (dk_at dksX1_usedUp_2 15 rfl rfl)
theorem dX1_usedUp_64 : decode cX1_usedUp 64 = .ok (.iload_n 1, 1) := dk_27 (dk_at dksX1_usedUp_2 18 rfl rfl)
theorem dX1_usedUp_65 : decode cX1_usedUp 65 = .ok (.aaload, 1) := dk_50 (dk_at dksX1_usedUp_2 19 rfl rfl)
theorem dX1_usedUp_66 : decode cX1_usedUp 66 = .ok (.invokevirtual 220, 3) := dk_182 0 220 (dk_at dksX1_usedUp_2 20 rfl rfl)
theorem dX1_usedUp_69 : decode cX1_usedUp 69 = .ok (.lconst 0, 1) := dk_9 (dk_at dksX1_usedUp_2 23 rfl rfl)
theorem dX1_usedUp_70 : decode cX1_usedUp 70 = .ok (.lcmp, 1) := dk_148 (dk_at dksX1_usedUp_3 0 rfl rfl)
theorem dX1_usedUp_71 : decode cX1_usedUp 71 = .ok (.ifCond .ne 5, 3) := dk_154 0 5 (dk_at dksX1_usedUp_3 1 rfl rfl)
theorem dX1_usedUp_74 : decode cX1_usedUp 74 = .ok (.iload_n 2, 1) := dk_28 (dk_at dksX1_usedUp_3 4 rfl rfl)
theorem dX1_usedUp_75 : decode cX1_usedUp 75 = .ok (.ireturn, 1) := dk_172 (dk_at dksX1_usedUp_3 5 rfl rfl)
theorem dX1_usedUp_76 : decode cX1_usedUp 76 = .ok (.iinc 2 1, 3) := dk_132 2 1 (dk_at dksX1_usedUp_3 6 rfl rfl)
theorem dX1_usedUp_79 : decode cX1_usedUp 79 = .ok (.goto (-64), 3) := dk_167 255 192 (dk_at dksX1_usedUp_3 9 rfl rfl)
theorem dX1_usedUp_82 : decode cX1_usedUp 82 = .ok (.iconst (-1), 1) := dk_2 (dk_at dksX1_usedUp_3 12 rfl rfl)
theorem dX1_usedUp_83 : decode cX1_usedUp 83 = .ok (.ireturn, 1) := dk_172 (dk_at dksX1_usedUp_3 13 rfl rfl)
abbrev cX1_heaviest : ByteArray := prog_1_method_66_code
def yX1_heaviest : MethodName := ⟨RX1, "heaviest", "(II)J"⟩
def dkwX1_heaviest_3 : List UInt8 := [28, 154, 0, 8, 29, 133, 167, 0, 5, 22, 4, 173]
abbrev dktX1_heaviest_3 : List UInt8 := dkwX1_heaviest_3 ++ []
def dkwX1_heaviest_2 : List UInt8 := [22, 7, 22, 4, 148, 155, 0, 6, 167, 0, 10, 21, 6, 62, 22, 7, 55, 4, 132, 6, 1, 167, 255, 209]
abbrev dktX1_heaviest_2 : List UInt8 := dkwX1_heaviest_2 ++ dktX1_heaviest_3
def dkwX1_heaviest_1 : List UInt8 := [180, 0, 10, 180, 0, 70, 162, 0, 41, 42, 21, 6, 27, 182, 1, 175, 55, 7, 29, 2, 159, 0, 14]
abbrev dktX1_heaviest_1 : List UInt8 := dkwX1_heaviest_1 ++ dktX1_heaviest_2
def dkwX1_heaviest_0 : List UInt8 := [42, 27, 182, 0, 121, 42, 28, 3, 4, 182, 0, 80, 2, 62, 9, 55, 4, 3, 54, 6, 21, 6, 42]
abbrev dktX1_heaviest_0 : List UInt8 := dkwX1_heaviest_0 ++ dktX1_heaviest_1
theorem dksX1_heaviest_0 : cX1_heaviest.data.toList.drop 0 = dktX1_heaviest_0 := by decide +kernel
theorem dksX1_heaviest_1 : cX1_heaviest.data.toList.drop 23 = dktX1_heaviest_1 := dk_seg dksX1_heaviest_0 23 rfl rfl
theorem dksX1_heaviest_2 : cX1_heaviest.data.toList.drop 46 = dktX1_heaviest_2 := dk_seg dksX1_heaviest_1 23 rfl rfl
theorem dksX1_heaviest_3 : cX1_heaviest.data.toList.drop 70 = dktX1_heaviest_3 := dk_seg dksX1_heaviest_2 24 rfl rfl
theorem dX1_heaviest_0 : decode cX1_heaviest 0 = .ok (.aload_n 0, 1) := dk_42 (dk_at dksX1_heaviest_0 0 rfl rfl)
theorem dX1_heaviest_1 : decode cX1_heaviest 1 = .ok (.iload_n 1, 1) := dk_27 (dk_at dksX1_heaviest_0 1 rfl rfl)
theorem dX1_heaviest_2 : decode cX1_heaviest 2 = .ok (.invokevirtual 121, 3) := dk_182 0 121 (dk_at dksX1_heaviest_0 2 rfl rfl)
theorem dX1_heaviest_5 : decode cX1_heaviest 5 = .ok (.aload_n 0, 1) := dk_42 (dk_at dksX1_heaviest_0 5 rfl rfl)
theorem dX1_heaviest_6 : decode cX1_heaviest 6 = .ok (.iload_n 2, 1) := dk_28 (dk_at dksX1_heaviest_0 6 rfl rfl)
theorem dX1_heaviest_7 : decode cX1_heaviest 7 = .ok (.iconst 0, 1) := dk_3 (dk_at dksX1_heaviest_0 7 rfl rfl)
theorem dX1_heaviest_8 : decode cX1_heaviest 8 = .ok (.iconst 1, 1) := dk_4 (dk_at dksX1_heaviest_0 8 rfl rfl)
theorem dX1_heaviest_9 : decode cX1_heaviest 9 = .ok (.invokevirtual 80, 3) := dk_182 0 80 (dk_at dksX1_heaviest_0 9 rfl rfl)
theorem dX1_heaviest_12 : decode cX1_heaviest 12 = .ok (.iconst (-1), 1) := dk_2 (dk_at dksX1_heaviest_0 12 rfl rfl)
theorem dX1_heaviest_13 : decode cX1_heaviest 13 = .ok (.istore_n 3, 1) := dk_62 (dk_at dksX1_heaviest_0 13 rfl rfl)
theorem dX1_heaviest_14 : decode cX1_heaviest 14 = .ok (.lconst 0, 1) := dk_9 (dk_at dksX1_heaviest_0 14 rfl rfl)
theorem dX1_heaviest_15 : decode cX1_heaviest 15 = .ok (.lstore 4, 2) := dk_55 4 (dk_at dksX1_heaviest_0 15 rfl rfl)
theorem dX1_heaviest_17 : decode cX1_heaviest 17 = .ok (.iconst 0, 1) := dk_3 (dk_at dksX1_heaviest_0 17 rfl rfl)
theorem dX1_heaviest_18 : decode cX1_heaviest 18 = .ok (.istore 6, 2) := dk_54 6 (dk_at dksX1_heaviest_0 18 rfl rfl)
theorem dX1_heaviest_20 : decode cX1_heaviest 20 = .ok (.iload 6, 2) := dk_21 6 (dk_at dksX1_heaviest_0 20 rfl rfl)
theorem dX1_heaviest_22 : decode cX1_heaviest 22 = .ok (.aload_n 0, 1) := dk_42 (dk_at dksX1_heaviest_0 22 rfl rfl)
theorem dX1_heaviest_23 : decode cX1_heaviest 23 = .ok (.getfield 10, 3) := dk_180 0 10 (dk_at dksX1_heaviest_1 0 rfl rfl)
theorem dX1_heaviest_26 : decode cX1_heaviest 26 = .ok (.getfield 70, 3) := dk_180 0 70 (dk_at dksX1_heaviest_1 3 rfl rfl)
theorem dX1_heaviest_29 : decode cX1_heaviest 29 = .ok (.if_icmp .ge 41, 3) := dk_162 0 41 (dk_at dksX1_heaviest_1 6 rfl rfl)
theorem dX1_heaviest_32 : decode cX1_heaviest 32 = .ok (.aload_n 0, 1) := dk_42 (dk_at dksX1_heaviest_1 9 rfl rfl)
theorem dX1_heaviest_33 : decode cX1_heaviest 33 = .ok (.iload 6, 2) := dk_21 6 (dk_at dksX1_heaviest_1 10 rfl rfl)
theorem dX1_heaviest_35 : decode cX1_heaviest 35 = .ok (.iload_n 1, 1) := dk_27 (dk_at dksX1_heaviest_1 12 rfl rfl)
theorem dX1_heaviest_36 : decode cX1_heaviest 36 = .ok (.invokevirtual 431, 3) := dk_182 1 175 (dk_at dksX1_heaviest_1 13 rfl rfl)
theorem dX1_heaviest_39 : decode cX1_heaviest 39 = .ok (.lstore 7, 2) := dk_55 7 (dk_at dksX1_heaviest_1 16 rfl rfl)
theorem dX1_heaviest_41 : decode cX1_heaviest 41 = .ok (.iload_n 3, 1) := dk_29 (dk_at dksX1_heaviest_1 18 rfl rfl)
theorem dX1_heaviest_42 : decode cX1_heaviest 42 = .ok (.iconst (-1), 1) := dk_2 (dk_at dksX1_heaviest_1 19 rfl rfl)
theorem dX1_heaviest_43 : decode cX1_heaviest 43 = .ok (.if_icmp .eq 14, 3) := dk_159 0 14 (dk_at dksX1_heaviest_1 20 rfl rfl)
theorem dX1_heaviest_46 : decode cX1_heaviest 46 = .ok (.lload 7, 2) := dk_22 7 (dk_at dksX1_heaviest_2 0 rfl rfl)
theorem dX1_heaviest_48 : decode cX1_heaviest 48 = .ok (.lload 4, 2) := dk_22 4 (dk_at dksX1_heaviest_2 2 rfl rfl)
theorem dX1_heaviest_50 : decode cX1_heaviest 50 = .ok (.lcmp, 1) := dk_148 (dk_at dksX1_heaviest_2 4 rfl rfl)
theorem dX1_heaviest_51 : decode cX1_heaviest 51 = .ok (.ifCond .lt 6, 3) := dk_155 0 6 (dk_at dksX1_heaviest_2 5 rfl rfl)
theorem dX1_heaviest_54 : decode cX1_heaviest 54 = .ok (.goto 10, 3) := dk_167 0 10 (dk_at dksX1_heaviest_2 8 rfl rfl)
theorem dX1_heaviest_57 : decode cX1_heaviest 57 = .ok (.iload 6, 2) := dk_21 6 (dk_at dksX1_heaviest_2 11 rfl rfl)
theorem dX1_heaviest_59 : decode cX1_heaviest 59 = .ok (.istore_n 3, 1) := dk_62 (dk_at dksX1_heaviest_2 13 rfl rfl)
theorem dX1_heaviest_60 : decode cX1_heaviest 60 = .ok (.lload 7, 2) := dk_22 7 (dk_at dksX1_heaviest_2 14 rfl rfl)
theorem dX1_heaviest_62 : decode cX1_heaviest 62 = .ok (.lstore 4, 2) := dk_55 4 (dk_at dksX1_heaviest_2 16 rfl rfl)
theorem dX1_heaviest_64 : decode cX1_heaviest 64 = .ok (.iinc 6 1, 3) := dk_132 6 1 (dk_at dksX1_heaviest_2 18 rfl rfl)
theorem dX1_heaviest_67 : decode cX1_heaviest 67 = .ok (.goto (-47), 3) := dk_167 255 209 (dk_at dksX1_heaviest_2 21 rfl rfl)
theorem dX1_heaviest_70 : decode cX1_heaviest 70 = .ok (.iload_n 2, 1) := dk_28 (dk_at dksX1_heaviest_3 0 rfl rfl)
theorem dX1_heaviest_71 : decode cX1_heaviest 71 = .ok (.ifCond .ne 8, 3) := dk_154 0 8 (dk_at dksX1_heaviest_3 1 rfl rfl)
theorem dX1_heaviest_74 : decode cX1_heaviest 74 = .ok (.iload_n 3, 1) := dk_29 (dk_at dksX1_heaviest_3 4 rfl rfl)
theorem dX1_heaviest_75 : decode cX1_heaviest 75 = .ok (.i2l, 1) := dk_133 (dk_at dksX1_heaviest_3 5 rfl rfl)
theorem dX1_heaviest_76 : decode cX1_heaviest 76 = .ok (.goto 5, 3) := dk_167 0 5 (dk_at dksX1_heaviest_3 6 rfl rfl)
theorem dX1_heaviest_79 : decode cX1_heaviest 79 = .ok (.lload 4, 2) := dk_22 4 (dk_at dksX1_heaviest_3 9 rfl rfl)
theorem dX1_heaviest_81 : decode cX1_heaviest 81 = .ok (.lreturn, 1) := dk_173 (dk_at dksX1_heaviest_3 11 rfl rfl)
abbrev cX1_goneWithoutHarm : ByteArray := prog_1_method_65_code
def yX1_goneWithoutHarm : MethodName := ⟨RX1, "goneWithoutHarm", "(II)J"⟩
def dkwX1_goneWithoutHarm_2 : List UInt8 := [185, 0, 96, 2, 0, 87, 132, 3, 1, 167, 255, 212, 42, 180, 0, 16, 28, 182, 1, 46, 173]
abbrev dktX1_goneWithoutHarm_2 : List UInt8 := dkwX1_goneWithoutHarm_2 ++ []
def dkwX1_goneWithoutHarm_1 : List UInt8 := [27, 182, 1, 171, 154, 0, 22, 42, 180, 0, 28, 29, 50, 180, 0, 178, 42, 180, 0, 16]
abbrev dktX1_goneWithoutHarm_1 : List UInt8 := dkwX1_goneWithoutHarm_1 ++ dktX1_goneWithoutHarm_2
def dkwX1_goneWithoutHarm_0 : List UInt8 := [42, 180, 0, 16, 182, 0, 49, 3, 62, 29, 42, 180, 0, 93, 162, 0, 42, 42, 42, 180, 0, 28, 29, 50]
abbrev dktX1_goneWithoutHarm_0 : List UInt8 := dkwX1_goneWithoutHarm_0 ++ dktX1_goneWithoutHarm_1
theorem dksX1_goneWithoutHarm_0 : cX1_goneWithoutHarm.data.toList.drop 0 = dktX1_goneWithoutHarm_0 := by decide +kernel
theorem dksX1_goneWithoutHarm_1 : cX1_goneWithoutHarm.data.toList.drop 24 = dktX1_goneWithoutHarm_1 := dk_seg dksX1_goneWithoutHarm_0 24 rfl rfl
theorem dksX1_goneWithoutHarm_2 : cX1_goneWithoutHarm.data.toList.drop 44 = dktX1_goneWithoutHarm_2 := dk_seg dksX1_goneWithoutHarm_1 20 rfl rfl
theorem dX1_goneWithoutHarm_0 : decode cX1_goneWithoutHarm 0 = .ok (.aload_n 0, 1) := dk_42 (dk_at dksX1_goneWithoutHarm_0 0 rfl rfl)
theorem dX1_goneWithoutHarm_1 : decode cX1_goneWithoutHarm 1 = .ok (.getfield 16, 3) := dk_180 0 16 (dk_at dksX1_goneWithoutHarm_0 1 rfl rfl)
theorem dX1_goneWithoutHarm_4 : decode cX1_goneWithoutHarm 4 = .ok (.invokevirtual 49, 3) := dk_182 0 49 (dk_at dksX1_goneWithoutHarm_0 4 rfl rfl)
theorem dX1_goneWithoutHarm_7 : decode cX1_goneWithoutHarm 7 = .ok (.iconst 0, 1) := dk_3 (dk_at dksX1_goneWithoutHarm_0 7 rfl rfl)
theorem dX1_goneWithoutHarm_8 : decode cX1_goneWithoutHarm 8 = .ok (.istore_n 3, 1) := dk_62 (dk_at dksX1_goneWithoutHarm_0 8 rfl rfl)
theorem dX1_goneWithoutHarm_9 : decode cX1_goneWithoutHarm 9 = .ok (.iload_n 3, 1) := dk_29 (dk_at dksX1_goneWithoutHarm_0 9 rfl rfl)
theorem dX1_goneWithoutHarm_10 : decode cX1_goneWithoutHarm 10 = .ok (.aload_n 0, 1) := dk_42 (dk_at dksX1_goneWithoutHarm_0 10 rfl rfl)
theorem dX1_goneWithoutHarm_11 : decode cX1_goneWithoutHarm 11 = .ok (.getfield 93, 3) := dk_180 0 93 (dk_at dksX1_goneWithoutHarm_0 11 rfl rfl)
theorem dX1_goneWithoutHarm_14 : decode cX1_goneWithoutHarm 14 = .ok (.if_icmp .ge 42, 3) := dk_162 0 42 (dk_at dksX1_goneWithoutHarm_0 14 rfl rfl)
theorem dX1_goneWithoutHarm_17 : decode cX1_goneWithoutHarm 17 = .ok (.aload_n 0, 1) := dk_42 (dk_at dksX1_goneWithoutHarm_0 17 rfl rfl)
theorem dX1_goneWithoutHarm_18 : decode cX1_goneWithoutHarm 18 = .ok (.aload_n 0, 1) := dk_42 (dk_at dksX1_goneWithoutHarm_0 18 rfl rfl)
theorem dX1_goneWithoutHarm_19 : decode cX1_goneWithoutHarm 19 = .ok (.getfield 28, 3) := dk_180 0 28 (dk_at dksX1_goneWithoutHarm_0 19 rfl rfl)
theorem dX1_goneWithoutHarm_22 : decode cX1_goneWithoutHarm 22 = .ok (.iload_n 3, 1) := dk_29 (dk_at dksX1_goneWithoutHarm_0 22 rfl rfl)
theorem dX1_goneWithoutHarm_23 : decode cX1_goneWithoutHarm 23 = .ok (.aaload, 1) := dk_50 (dk_at dksX1_goneWithoutHarm_0 23 rfl rfl)
theorem dX1_goneWithoutHarm_24 : decode cX1_goneWithoutHarm 24 = .ok (.iload_n 1, 1) := dk_27 (dk_at dksX1_goneWithoutHarm_1 0 rfl rfl)
theorem dX1_goneWithoutHarm_25 : decode cX1_goneWithoutHarm 25 = .ok (.invokevirtual 427, 3) := dk_182 1 171 (dk_at dksX1_goneWithoutHarm_1 1 rfl rfl)
theorem dX1_goneWithoutHarm_28 : decode cX1_goneWithoutHarm 28 = .ok (.ifCond .ne 22, 3) := dk_154 0 22 (dk_at dksX1_goneWithoutHarm_1 4 rfl rfl)
theorem dX1_goneWithoutHarm_31 : decode cX1_goneWithoutHarm 31 = .ok (.aload_n 0, 1) := dk_42 (dk_at dksX1_goneWithoutHarm_1 7 rfl rfl)
theorem dX1_goneWithoutHarm_32 : decode cX1_goneWithoutHarm 32 = .ok (.getfield 28, 3) := dk_180 0 28 (dk_at dksX1_goneWithoutHarm_1 8 rfl rfl)
theorem dX1_goneWithoutHarm_35 : decode cX1_goneWithoutHarm 35 = .ok (.iload_n 3, 1) := dk_29 (dk_at dksX1_goneWithoutHarm_1 11 rfl rfl)
theorem dX1_goneWithoutHarm_36 : decode cX1_goneWithoutHarm 36 = .ok (.aaload, 1) := dk_50 (dk_at dksX1_goneWithoutHarm_1 12 rfl rfl)
theorem dX1_goneWithoutHarm_37 : decode cX1_goneWithoutHarm 37 = .ok (.getfield 178, 3) := dk_180 0 178 (dk_at dksX1_goneWithoutHarm_1 13 rfl rfl)
theorem dX1_goneWithoutHarm_40 : decode cX1_goneWithoutHarm 40 = .ok (.aload_n 0, 1) := dk_42 (dk_at dksX1_goneWithoutHarm_1 16 rfl rfl)
theorem dX1_goneWithoutHarm_41 : decode cX1_goneWithoutHarm 41 = .ok (.getfield 16, 3) := dk_180 0 16 (dk_at dksX1_goneWithoutHarm_1 17 rfl rfl)
theorem dX1_goneWithoutHarm_44 : decode cX1_goneWithoutHarm 44 = .ok (.invokeinterface 96 2, 5) := by decide +kernel
theorem dX1_goneWithoutHarm_49 : decode cX1_goneWithoutHarm 49 = .ok (.pop, 1) := dk_87 (dk_at dksX1_goneWithoutHarm_2 5 rfl rfl)
theorem dX1_goneWithoutHarm_50 : decode cX1_goneWithoutHarm 50 = .ok (.iinc 3 1, 3) := dk_132 3 1 (dk_at dksX1_goneWithoutHarm_2 6 rfl rfl)
theorem dX1_goneWithoutHarm_53 : decode cX1_goneWithoutHarm 53 = .ok (.goto (-44), 3) := dk_167 255 212 (dk_at dksX1_goneWithoutHarm_2 9 rfl rfl)
theorem dX1_goneWithoutHarm_56 : decode cX1_goneWithoutHarm 56 = .ok (.aload_n 0, 1) := dk_42 (dk_at dksX1_goneWithoutHarm_2 12 rfl rfl)
theorem dX1_goneWithoutHarm_57 : decode cX1_goneWithoutHarm 57 = .ok (.getfield 16, 3) := dk_180 0 16 (dk_at dksX1_goneWithoutHarm_2 13 rfl rfl)
theorem dX1_goneWithoutHarm_60 : decode cX1_goneWithoutHarm 60 = .ok (.iload_n 2, 1) := dk_28 (dk_at dksX1_goneWithoutHarm_2 16 rfl rfl)
theorem dX1_goneWithoutHarm_61 : decode cX1_goneWithoutHarm 61 = .ok (.invokevirtual 302, 3) := dk_182 1 46 (dk_at dksX1_goneWithoutHarm_2 17 rfl rfl)
theorem dX1_goneWithoutHarm_64 : decode cX1_goneWithoutHarm 64 = .ok (.lreturn, 1) := dk_173 (dk_at dksX1_goneWithoutHarm_2 20 rfl rfl)
abbrev cX1_isOf : ByteArray := prog_1_method_64_code
def yX1_isOf : MethodName := ⟨RX1, "isOf", "(LTallTowers$Event;I)Z"⟩
def dkwX1_isOf_1 : List UInt8 := [43, 180, 0, 198, 16, 8, 160, 0, 7, 4, 167, 0, 4, 3, 172]
abbrev dktX1_isOf_1 : List UInt8 := dkwX1_isOf_1 ++ []
def dkwX1_isOf_0 : List UInt8 := [43, 180, 0, 201, 28, 160, 0, 32, 43, 180, 0, 198, 7, 159, 0, 20, 43, 180, 0, 198, 8, 159, 0, 12]
abbrev dktX1_isOf_0 : List UInt8 := dkwX1_isOf_0 ++ dktX1_isOf_1
theorem dksX1_isOf_0 : cX1_isOf.data.toList.drop 0 = dktX1_isOf_0 := by decide +kernel
theorem dksX1_isOf_1 : cX1_isOf.data.toList.drop 24 = dktX1_isOf_1 := dk_seg dksX1_isOf_0 24 rfl rfl
theorem dX1_isOf_0 : decode cX1_isOf 0 = .ok (.aload_n 1, 1) := dk_43 (dk_at dksX1_isOf_0 0 rfl rfl)
theorem dX1_isOf_1 : decode cX1_isOf 1 = .ok (.getfield 201, 3) := dk_180 0 201 (dk_at dksX1_isOf_0 1 rfl rfl)
theorem dX1_isOf_4 : decode cX1_isOf 4 = .ok (.iload_n 2, 1) := dk_28 (dk_at dksX1_isOf_0 4 rfl rfl)
theorem dX1_isOf_5 : decode cX1_isOf 5 = .ok (.if_icmp .ne 32, 3) := dk_160 0 32 (dk_at dksX1_isOf_0 5 rfl rfl)
theorem dX1_isOf_8 : decode cX1_isOf 8 = .ok (.aload_n 1, 1) := dk_43 (dk_at dksX1_isOf_0 8 rfl rfl)
theorem dX1_isOf_9 : decode cX1_isOf 9 = .ok (.getfield 198, 3) := dk_180 0 198 (dk_at dksX1_isOf_0 9 rfl rfl)
theorem dX1_isOf_12 : decode cX1_isOf 12 = .ok (.iconst 4, 1) := dk_7 (dk_at dksX1_isOf_0 12 rfl rfl)
theorem dX1_isOf_13 : decode cX1_isOf 13 = .ok (.if_icmp .eq 20, 3) := dk_159 0 20 (dk_at dksX1_isOf_0 13 rfl rfl)
theorem dX1_isOf_16 : decode cX1_isOf 16 = .ok (.aload_n 1, 1) := dk_43 (dk_at dksX1_isOf_0 16 rfl rfl)
theorem dX1_isOf_17 : decode cX1_isOf 17 = .ok (.getfield 198, 3) := dk_180 0 198 (dk_at dksX1_isOf_0 17 rfl rfl)
theorem dX1_isOf_20 : decode cX1_isOf 20 = .ok (.iconst 5, 1) := dk_8 (dk_at dksX1_isOf_0 20 rfl rfl)
theorem dX1_isOf_21 : decode cX1_isOf 21 = .ok (.if_icmp .eq 12, 3) := dk_159 0 12 (dk_at dksX1_isOf_0 21 rfl rfl)
theorem dX1_isOf_24 : decode cX1_isOf 24 = .ok (.aload_n 1, 1) := dk_43 (dk_at dksX1_isOf_1 0 rfl rfl)
theorem dX1_isOf_25 : decode cX1_isOf 25 = .ok (.getfield 198, 3) := dk_180 0 198 (dk_at dksX1_isOf_1 1 rfl rfl)
theorem dX1_isOf_28 : decode cX1_isOf 28 = .ok (.bipush 8, 2) := dk_16 8 (dk_at dksX1_isOf_1 4 rfl rfl)
theorem dX1_isOf_30 : decode cX1_isOf 30 = .ok (.if_icmp .ne 7, 3) := dk_160 0 7 (dk_at dksX1_isOf_1 6 rfl rfl)
theorem dX1_isOf_33 : decode cX1_isOf 33 = .ok (.iconst 1, 1) := dk_4 (dk_at dksX1_isOf_1 9 rfl rfl)
theorem dX1_isOf_34 : decode cX1_isOf 34 = .ok (.goto 4, 3) := dk_167 0 4 (dk_at dksX1_isOf_1 10 rfl rfl)
theorem dX1_isOf_37 : decode cX1_isOf 37 = .ok (.iconst 0, 1) := dk_3 (dk_at dksX1_isOf_1 13 rfl rfl)
theorem dX1_isOf_38 : decode cX1_isOf 38 = .ok (.ireturn, 1) := dk_172 (dk_at dksX1_isOf_1 14 rfl rfl)
abbrev cX1_cover : ByteArray := prog_1_method_67_code
def yX1_cover : MethodName := ⟨RX1, "cover", "(III)I"⟩
def dkwX1_cover_1 : List UInt8 := [28, 186, 1, 178, 0, 0, 182, 1, 5, 136, 172]
abbrev dktX1_cover_1 : List UInt8 := dkwX1_cover_1 ++ []
def dkwX1_cover_0 : List UInt8 := [42, 27, 182, 0, 84, 42, 28, 3, 18, 159, 182, 0, 80, 42, 29, 28, 18, 159, 182, 0, 80, 42, 27, 29]
abbrev dktX1_cover_0 : List UInt8 := dkwX1_cover_0 ++ dktX1_cover_1
theorem dksX1_cover_0 : cX1_cover.data.toList.drop 0 = dktX1_cover_0 := by decide +kernel
theorem dksX1_cover_1 : cX1_cover.data.toList.drop 24 = dktX1_cover_1 := dk_seg dksX1_cover_0 24 rfl rfl
theorem dX1_cover_0 : decode cX1_cover 0 = .ok (.aload_n 0, 1) := dk_42 (dk_at dksX1_cover_0 0 rfl rfl)
theorem dX1_cover_1 : decode cX1_cover 1 = .ok (.iload_n 1, 1) := dk_27 (dk_at dksX1_cover_0 1 rfl rfl)
theorem dX1_cover_2 : decode cX1_cover 2 = .ok (.invokevirtual 84, 3) := dk_182 0 84 (dk_at dksX1_cover_0 2 rfl rfl)
theorem dX1_cover_5 : decode cX1_cover 5 = .ok (.aload_n 0, 1) := dk_42 (dk_at dksX1_cover_0 5 rfl rfl)
theorem dX1_cover_6 : decode cX1_cover 6 = .ok (.iload_n 2, 1) := dk_28 (dk_at dksX1_cover_0 6 rfl rfl)
theorem dX1_cover_7 : decode cX1_cover 7 = .ok (.iconst 0, 1) := dk_3 (dk_at dksX1_cover_0 7 rfl rfl)
theorem dX1_cover_8 : decode cX1_cover 8 = .ok (.ldc 159, 2) := dk_18 159 (dk_at dksX1_cover_0 8 rfl rfl)
theorem dX1_cover_10 : decode cX1_cover 10 = .ok (.invokevirtual 80, 3) := dk_182 0 80 (dk_at dksX1_cover_0 10 rfl rfl)
theorem dX1_cover_13 : decode cX1_cover 13 = .ok (.aload_n 0, 1) := dk_42 (dk_at dksX1_cover_0 13 rfl rfl)
theorem dX1_cover_14 : decode cX1_cover 14 = .ok (.iload_n 3, 1) := dk_29 (dk_at dksX1_cover_0 14 rfl rfl)
theorem dX1_cover_15 : decode cX1_cover 15 = .ok (.iload_n 2, 1) := dk_28 (dk_at dksX1_cover_0 15 rfl rfl)
theorem dX1_cover_16 : decode cX1_cover 16 = .ok (.ldc 159, 2) := dk_18 159 (dk_at dksX1_cover_0 16 rfl rfl)
theorem dX1_cover_18 : decode cX1_cover 18 = .ok (.invokevirtual 80, 3) := dk_182 0 80 (dk_at dksX1_cover_0 18 rfl rfl)
theorem dX1_cover_21 : decode cX1_cover 21 = .ok (.aload_n 0, 1) := dk_42 (dk_at dksX1_cover_0 21 rfl rfl)
theorem dX1_cover_22 : decode cX1_cover 22 = .ok (.iload_n 1, 1) := dk_27 (dk_at dksX1_cover_0 22 rfl rfl)
theorem dX1_cover_23 : decode cX1_cover 23 = .ok (.iload_n 3, 1) := dk_29 (dk_at dksX1_cover_0 23 rfl rfl)
theorem dX1_cover_24 : decode cX1_cover 24 = .ok (.iload_n 2, 1) := dk_28 (dk_at dksX1_cover_1 0 rfl rfl)
theorem dX1_cover_25 : decode cX1_cover 25 = .ok (.invokedynamic 434, 5) := by decide +kernel
theorem dX1_cover_30 : decode cX1_cover 30 = .ok (.invokevirtual 261, 3) := dk_182 1 5 (dk_at dksX1_cover_1 6 rfl rfl)
theorem dX1_cover_33 : decode cX1_cover 33 = .ok (.l2i, 1) := dk_136 (dk_at dksX1_cover_1 9 rfl rfl)
theorem dX1_cover_34 : decode cX1_cover 34 = .ok (.ireturn, 1) := dk_172 (dk_at dksX1_cover_1 10 rfl rfl)
abbrev cX1_lambda_cover_13 : ByteArray := prog_1_method_77_code
def yX1_lambda_cover_13 : MethodName := ⟨RX1, "lambda$cover$13", "(IILTallTowers$Layer;)J"⟩
def dkwX1_lambda_cover_13_0 : List UInt8 := [3, 44, 182, 0, 255, 26, 184, 1, 193, 44, 180, 0, 207, 27, 184, 1, 195, 100, 184, 1, 195, 133, 173]
abbrev dktX1_lambda_cover_13_0 : List UInt8 := dkwX1_lambda_cover_13_0 ++ []
theorem dksX1_lambda_cover_13_0 : cX1_lambda_cover_13.data.toList.drop 0 = dktX1_lambda_cover_13_0 := by decide +kernel
theorem dX1_lambda_cover_13_0 : decode cX1_lambda_cover_13 0 = .ok (.iconst 0, 1) := dk_3 (dk_at dksX1_lambda_cover_13_0 0 rfl rfl)
theorem dX1_lambda_cover_13_1 : decode cX1_lambda_cover_13 1 = .ok (.aload_n 2, 1) := dk_44 (dk_at dksX1_lambda_cover_13_0 1 rfl rfl)
theorem dX1_lambda_cover_13_2 : decode cX1_lambda_cover_13 2 = .ok (.invokevirtual 255, 3) := dk_182 0 255 (dk_at dksX1_lambda_cover_13_0 2 rfl rfl)
theorem dX1_lambda_cover_13_5 : decode cX1_lambda_cover_13 5 = .ok (.iload_n 0, 1) := dk_26 (dk_at dksX1_lambda_cover_13_0 5 rfl rfl)
theorem dX1_lambda_cover_13_6 : decode cX1_lambda_cover_13 6 = .ok (.invokestatic 449, 3) := dk_184 1 193 (dk_at dksX1_lambda_cover_13_0 6 rfl rfl)
theorem dX1_lambda_cover_13_9 : decode cX1_lambda_cover_13 9 = .ok (.aload_n 2, 1) := dk_44 (dk_at dksX1_lambda_cover_13_0 9 rfl rfl)
theorem dX1_lambda_cover_13_10 : decode cX1_lambda_cover_13 10 = .ok (.getfield 207, 3) := dk_180 0 207 (dk_at dksX1_lambda_cover_13_0 10 rfl rfl)
theorem dX1_lambda_cover_13_13 : decode cX1_lambda_cover_13 13 = .ok (.iload_n 1, 1) := dk_27 (dk_at dksX1_lambda_cover_13_0 13 rfl rfl)
theorem dX1_lambda_cover_13_14 : decode cX1_lambda_cover_13 14 = .ok (.invokestatic 451, 3) := dk_184 1 195 (dk_at dksX1_lambda_cover_13_0 14 rfl rfl)
theorem dX1_lambda_cover_13_17 : decode cX1_lambda_cover_13 17 = .ok (.isub, 1) := dk_100 (dk_at dksX1_lambda_cover_13_0 17 rfl rfl)
theorem dX1_lambda_cover_13_18 : decode cX1_lambda_cover_13 18 = .ok (.invokestatic 451, 3) := dk_184 1 195 (dk_at dksX1_lambda_cover_13_0 18 rfl rfl)
theorem dX1_lambda_cover_13_21 : decode cX1_lambda_cover_13 21 = .ok (.i2l, 1) := dk_133 (dk_at dksX1_lambda_cover_13_0 21 rfl rfl)
theorem dX1_lambda_cover_13_22 : decode cX1_lambda_cover_13 22 = .ok (.lreturn, 1) := dk_173 (dk_at dksX1_lambda_cover_13_0 22 rfl rfl)
abbrev cX1_reach : ByteArray := prog_1_method_68_code
def yX1_reach : MethodName := ⟨RX1, "reach", "(I)J"⟩
def dkwX1_reach_4 : List UInt8 := [132, 5, 1, 167, 255, 183, 33, 173]
abbrev dktX1_reach_4 : List UInt8 := dkwX1_reach_4 ++ []
def dkwX1_reach_3 : List UInt8 := [166, 0, 7, 9, 167, 0, 17, 25, 6, 180, 0, 210, 133, 25, 6, 182, 0, 220, 184, 1, 181, 97, 97, 66]
abbrev dktX1_reach_3 : List UInt8 := dkwX1_reach_3 ++ dktX1_reach_4
def dkwX1_reach_2 : List UInt8 := [182, 0, 245, 58, 6, 33, 42, 180, 0, 10, 44, 180, 0, 204, 21, 5, 182, 0, 228, 133, 25, 6, 44]
abbrev dktX1_reach_2 : List UInt8 := dkwX1_reach_2 ++ dktX1_reach_3
def dkwX1_reach_1 : List UInt8 := [21, 5, 42, 180, 0, 10, 44, 182, 0, 224, 163, 0, 66, 42, 180, 0, 10, 44, 180, 0, 204, 21, 5]
abbrev dktX1_reach_1 : List UInt8 := dkwX1_reach_1 ++ dktX1_reach_2
def dkwX1_reach_0 : List UInt8 := [42, 27, 182, 0, 117, 77, 44, 182, 0, 220, 9, 148, 154, 0, 7, 20, 0, 234, 173, 10, 66, 3, 54, 5]
abbrev dktX1_reach_0 : List UInt8 := dkwX1_reach_0 ++ dktX1_reach_1
theorem dksX1_reach_0 : cX1_reach.data.toList.drop 0 = dktX1_reach_0 := by decide +kernel
theorem dksX1_reach_1 : cX1_reach.data.toList.drop 24 = dktX1_reach_1 := dk_seg dksX1_reach_0 24 rfl rfl
theorem dksX1_reach_2 : cX1_reach.data.toList.drop 47 = dktX1_reach_2 := dk_seg dksX1_reach_1 23 rfl rfl
theorem dksX1_reach_3 : cX1_reach.data.toList.drop 70 = dktX1_reach_3 := dk_seg dksX1_reach_2 23 rfl rfl
theorem dksX1_reach_4 : cX1_reach.data.toList.drop 94 = dktX1_reach_4 := dk_seg dksX1_reach_3 24 rfl rfl
theorem dX1_reach_0 : decode cX1_reach 0 = .ok (.aload_n 0, 1) := dk_42 (dk_at dksX1_reach_0 0 rfl rfl)
theorem dX1_reach_1 : decode cX1_reach 1 = .ok (.iload_n 1, 1) := dk_27 (dk_at dksX1_reach_0 1 rfl rfl)
theorem dX1_reach_2 : decode cX1_reach 2 = .ok (.invokevirtual 117, 3) := dk_182 0 117 (dk_at dksX1_reach_0 2 rfl rfl)
theorem dX1_reach_5 : decode cX1_reach 5 = .ok (.astore_n 2, 1) := dk_77 (dk_at dksX1_reach_0 5 rfl rfl)
theorem dX1_reach_6 : decode cX1_reach 6 = .ok (.aload_n 2, 1) := dk_44 (dk_at dksX1_reach_0 6 rfl rfl)
theorem dX1_reach_7 : decode cX1_reach 7 = .ok (.invokevirtual 220, 3) := dk_182 0 220 (dk_at dksX1_reach_0 7 rfl rfl)
theorem dX1_reach_10 : decode cX1_reach 10 = .ok (.lconst 0, 1) := dk_9 (dk_at dksX1_reach_0 10 rfl rfl)
theorem dX1_reach_11 : decode cX1_reach 11 = .ok (.lcmp, 1) := dk_148 (dk_at dksX1_reach_0 11 rfl rfl)
theorem dX1_reach_12 : decode cX1_reach 12 = .ok (.ifCond .ne 7, 3) := dk_154 0 7 (dk_at dksX1_reach_0 12 rfl rfl)
theorem dX1_reach_15 : decode cX1_reach 15 = .ok (.ldc2_w 234, 3) := dk_20 0 234 (dk_at dksX1_reach_0 15 rfl rfl)
theorem dX1_reach_18 : decode cX1_reach 18 = .ok (.lreturn, 1) := dk_173 (dk_at dksX1_reach_0 18 rfl rfl)
theorem dX1_reach_19 : decode cX1_reach 19 = .ok (.lconst 1, 1) := dk_10 (dk_at dksX1_reach_0 19 rfl rfl)
theorem dX1_reach_20 : decode cX1_reach 20 = .ok (.lstore_n 3, 1) := dk_66 (dk_at dksX1_reach_0 20 rfl rfl)
theorem dX1_reach_21 : decode cX1_reach 21 = .ok (.iconst 0, 1) := dk_3 (dk_at dksX1_reach_0 21 rfl rfl)
theorem dX1_reach_22 : decode cX1_reach 22 = .ok (.istore 5, 2) := dk_54 5 (dk_at dksX1_reach_0 22 rfl rfl)
theorem dX1_reach_24 : decode cX1_reach 24 = .ok (.iload 5, 2) := dk_21 5 (dk_at dksX1_reach_1 0 rfl rfl)
theorem dX1_reach_26 : decode cX1_reach 26 = .ok (.aload_n 0, 1) := dk_42 (dk_at dksX1_reach_1 2 rfl rfl)
theorem dX1_reach_27 : decode cX1_reach 27 = .ok (.getfield 10, 3) := dk_180 0 10 (dk_at dksX1_reach_1 3 rfl rfl)
theorem dX1_reach_30 : decode cX1_reach 30 = .ok (.aload_n 2, 1) := dk_44 (dk_at dksX1_reach_1 6 rfl rfl)
theorem dX1_reach_31 : decode cX1_reach 31 = .ok (.invokevirtual 224, 3) := dk_182 0 224 (dk_at dksX1_reach_1 7 rfl rfl)
theorem dX1_reach_34 : decode cX1_reach 34 = .ok (.if_icmp .gt 66, 3) := dk_163 0 66 (dk_at dksX1_reach_1 10 rfl rfl)
theorem dX1_reach_37 : decode cX1_reach 37 = .ok (.aload_n 0, 1) := dk_42 (dk_at dksX1_reach_1 13 rfl rfl)
theorem dX1_reach_38 : decode cX1_reach 38 = .ok (.getfield 10, 3) := dk_180 0 10 (dk_at dksX1_reach_1 14 rfl rfl)
theorem dX1_reach_41 : decode cX1_reach 41 = .ok (.aload_n 2, 1) := dk_44 (dk_at dksX1_reach_1 17 rfl rfl)
theorem dX1_reach_42 : decode cX1_reach 42 = .ok (.getfield 204, 3) := dk_180 0 204 (dk_at dksX1_reach_1 18 rfl rfl)
theorem dX1_reach_45 : decode cX1_reach 45 = .ok (.iload 5, 2) := dk_21 5 (dk_at dksX1_reach_1 21 rfl rfl)
theorem dX1_reach_47 : decode cX1_reach 47 = .ok (.invokevirtual 245, 3) := dk_182 0 245 (dk_at dksX1_reach_2 0 rfl rfl)
theorem dX1_reach_50 : decode cX1_reach 50 = .ok (.astore 6, 2) := dk_58 6 (dk_at dksX1_reach_2 3 rfl rfl)
theorem dX1_reach_52 : decode cX1_reach 52 = .ok (.lload_n 3, 1) := dk_33 (dk_at dksX1_reach_2 5 rfl rfl)
theorem dX1_reach_53 : decode cX1_reach 53 = .ok (.aload_n 0, 1) := dk_42 (dk_at dksX1_reach_2 6 rfl rfl)
theorem dX1_reach_54 : decode cX1_reach 54 = .ok (.getfield 10, 3) := dk_180 0 10 (dk_at dksX1_reach_2 7 rfl rfl)
theorem dX1_reach_57 : decode cX1_reach 57 = .ok (.aload_n 2, 1) := dk_44 (dk_at dksX1_reach_2 10 rfl rfl)
theorem dX1_reach_58 : decode cX1_reach 58 = .ok (.getfield 204, 3) := dk_180 0 204 (dk_at dksX1_reach_2 11 rfl rfl)
theorem dX1_reach_61 : decode cX1_reach 61 = .ok (.iload 5, 2) := dk_21 5 (dk_at dksX1_reach_2 14 rfl rfl)
theorem dX1_reach_63 : decode cX1_reach 63 = .ok (.invokevirtual 228, 3) := dk_182 0 228 (dk_at dksX1_reach_2 16 rfl rfl)
theorem dX1_reach_66 : decode cX1_reach 66 = .ok (.i2l, 1) := dk_133 (dk_at dksX1_reach_2 19 rfl rfl)
theorem dX1_reach_67 : decode cX1_reach 67 = .ok (.aload 6, 2) := dk_25 6 (dk_at dksX1_reach_2 20 rfl rfl)
theorem dX1_reach_69 : decode cX1_reach 69 = .ok (.aload_n 2, 1) := dk_44 (dk_at dksX1_reach_2 22 rfl rfl)
theorem dX1_reach_70 : decode cX1_reach 70 = .ok (.if_acmp .ne 7, 3) := dk_166 0 7 (dk_at dksX1_reach_3 0 rfl rfl)
theorem dX1_reach_73 : decode cX1_reach 73 = .ok (.lconst 0, 1) := dk_9 (dk_at dksX1_reach_3 3 rfl rfl)
theorem dX1_reach_74 : decode cX1_reach 74 = .ok (.goto 17, 3) := dk_167 0 17 (dk_at dksX1_reach_3 4 rfl rfl)
theorem dX1_reach_77 : decode cX1_reach 77 = .ok (.aload 6, 2) := dk_25 6 (dk_at dksX1_reach_3 7 rfl rfl)
theorem dX1_reach_79 : decode cX1_reach 79 = .ok (.getfield 210, 3) := dk_180 0 210 (dk_at dksX1_reach_3 9 rfl rfl)
theorem dX1_reach_82 : decode cX1_reach 82 = .ok (.i2l, 1) := dk_133 (dk_at dksX1_reach_3 12 rfl rfl)
theorem dX1_reach_83 : decode cX1_reach 83 = .ok (.aload 6, 2) := dk_25 6 (dk_at dksX1_reach_3 13 rfl rfl)
theorem dX1_reach_85 : decode cX1_reach 85 = .ok (.invokevirtual 220, 3) := dk_182 0 220 (dk_at dksX1_reach_3 15 rfl rfl)
theorem dX1_reach_88 : decode cX1_reach 88 = .ok (.invokestatic 437, 3) := dk_184 1 181 (dk_at dksX1_reach_3 18 rfl rfl)
theorem dX1_reach_91 : decode cX1_reach 91 = .ok (.ladd, 1) := dk_97 (dk_at dksX1_reach_3 21 rfl rfl)
theorem dX1_reach_92 : decode cX1_reach 92 = .ok (.ladd, 1) := dk_97 (dk_at dksX1_reach_3 22 rfl rfl)
theorem dX1_reach_93 : decode cX1_reach 93 = .ok (.lstore_n 3, 1) := dk_66 (dk_at dksX1_reach_3 23 rfl rfl)
theorem dX1_reach_94 : decode cX1_reach 94 = .ok (.iinc 5 1, 3) := dk_132 5 1 (dk_at dksX1_reach_4 0 rfl rfl)
theorem dX1_reach_97 : decode cX1_reach 97 = .ok (.goto (-73), 3) := dk_167 255 183 (dk_at dksX1_reach_4 3 rfl rfl)
theorem dX1_reach_100 : decode cX1_reach 100 = .ok (.lload_n 3, 1) := dk_33 (dk_at dksX1_reach_4 6 rfl rfl)
theorem dX1_reach_101 : decode cX1_reach 101 = .ok (.lreturn, 1) := dk_173 (dk_at dksX1_reach_4 7 rfl rfl)
abbrev cX1_uneven : ByteArray := prog_1_method_69_code
def yX1_uneven : MethodName := ⟨RX1, "uneven", "(IIIII)J"⟩
def dkwX1_uneven_1 : List UInt8 := [182, 1, 82, 21, 4, 133, 21, 5, 182, 1, 187, 173]
abbrev dktX1_uneven_1 : List UInt8 := dkwX1_uneven_1 ++ []
def dkwX1_uneven_0 : List UInt8 := [42, 21, 5, 182, 0, 117, 87, 42, 27, 28, 29, 21, 4, 182, 1, 93, 42, 180, 0, 10, 42, 27, 28, 29]
abbrev dktX1_uneven_0 : List UInt8 := dkwX1_uneven_0 ++ dktX1_uneven_1
theorem dksX1_uneven_0 : cX1_uneven.data.toList.drop 0 = dktX1_uneven_0 := by decide +kernel
theorem dksX1_uneven_1 : cX1_uneven.data.toList.drop 24 = dktX1_uneven_1 := dk_seg dksX1_uneven_0 24 rfl rfl
theorem dX1_uneven_0 : decode cX1_uneven 0 = .ok (.aload_n 0, 1) := dk_42 (dk_at dksX1_uneven_0 0 rfl rfl)
theorem dX1_uneven_1 : decode cX1_uneven 1 = .ok (.iload 5, 2) := dk_21 5 (dk_at dksX1_uneven_0 1 rfl rfl)
theorem dX1_uneven_3 : decode cX1_uneven 3 = .ok (.invokevirtual 117, 3) := dk_182 0 117 (dk_at dksX1_uneven_0 3 rfl rfl)
theorem dX1_uneven_6 : decode cX1_uneven 6 = .ok (.pop, 1) := dk_87 (dk_at dksX1_uneven_0 6 rfl rfl)
theorem dX1_uneven_7 : decode cX1_uneven 7 = .ok (.aload_n 0, 1) := dk_42 (dk_at dksX1_uneven_0 7 rfl rfl)
theorem dX1_uneven_8 : decode cX1_uneven 8 = .ok (.iload_n 1, 1) := dk_27 (dk_at dksX1_uneven_0 8 rfl rfl)
theorem dX1_uneven_9 : decode cX1_uneven 9 = .ok (.iload_n 2, 1) := dk_28 (dk_at dksX1_uneven_0 9 rfl rfl)
theorem dX1_uneven_10 : decode cX1_uneven 10 = .ok (.iload_n 3, 1) := dk_29 (dk_at dksX1_uneven_0 10 rfl rfl)
theorem dX1_uneven_11 : decode cX1_uneven 11 = .ok (.iload 4, 2) := dk_21 4 (dk_at dksX1_uneven_0 11 rfl rfl)
theorem dX1_uneven_13 : decode cX1_uneven 13 = .ok (.invokevirtual 349, 3) := dk_182 1 93 (dk_at dksX1_uneven_0 13 rfl rfl)
theorem dX1_uneven_16 : decode cX1_uneven 16 = .ok (.aload_n 0, 1) := dk_42 (dk_at dksX1_uneven_0 16 rfl rfl)
theorem dX1_uneven_17 : decode cX1_uneven 17 = .ok (.getfield 10, 3) := dk_180 0 10 (dk_at dksX1_uneven_0 17 rfl rfl)
theorem dX1_uneven_20 : decode cX1_uneven 20 = .ok (.aload_n 0, 1) := dk_42 (dk_at dksX1_uneven_0 20 rfl rfl)
theorem dX1_uneven_21 : decode cX1_uneven 21 = .ok (.iload_n 1, 1) := dk_27 (dk_at dksX1_uneven_0 21 rfl rfl)
theorem dX1_uneven_22 : decode cX1_uneven 22 = .ok (.iload_n 2, 1) := dk_28 (dk_at dksX1_uneven_0 22 rfl rfl)
theorem dX1_uneven_23 : decode cX1_uneven 23 = .ok (.iload_n 3, 1) := dk_29 (dk_at dksX1_uneven_0 23 rfl rfl)
theorem dX1_uneven_24 : decode cX1_uneven 24 = .ok (.invokevirtual 338, 3) := dk_182 1 82 (dk_at dksX1_uneven_1 0 rfl rfl)
theorem dX1_uneven_27 : decode cX1_uneven 27 = .ok (.iload 4, 2) := dk_21 4 (dk_at dksX1_uneven_1 3 rfl rfl)
theorem dX1_uneven_29 : decode cX1_uneven 29 = .ok (.i2l, 1) := dk_133 (dk_at dksX1_uneven_1 5 rfl rfl)
theorem dX1_uneven_30 : decode cX1_uneven 30 = .ok (.iload 5, 2) := dk_21 5 (dk_at dksX1_uneven_1 6 rfl rfl)
theorem dX1_uneven_32 : decode cX1_uneven 32 = .ok (.invokevirtual 443, 3) := dk_182 1 187 (dk_at dksX1_uneven_1 8 rfl rfl)
theorem dX1_uneven_35 : decode cX1_uneven 35 = .ok (.lreturn, 1) := dk_173 (dk_at dksX1_uneven_1 11 rfl rfl)
abbrev cX1_widest : ByteArray := prog_1_method_70_code
def yX1_widest : MethodName := ⟨RX1, "widest", "(II)I"⟩
def dkwX1_widest_3 : List UInt8 := [21, 5, 182, 0, 228, 54, 4, 132, 5, 1, 167, 255, 196, 28, 154, 0, 7, 29, 167, 0, 5, 21, 4, 172]
abbrev dktX1_widest_3 : List UInt8 := dkwX1_widest_3 ++ []
def dkwX1_widest_2 : List UInt8 := [163, 0, 6, 167, 0, 28, 42, 180, 0, 10, 180, 1, 15, 27, 50, 21, 5, 46, 62, 42, 180, 0, 10, 27]
abbrev dktX1_widest_2 : List UInt8 := dkwX1_widest_2 ++ dktX1_widest_3
def dkwX1_widest_1 : List UInt8 := [180, 0, 10, 180, 0, 243, 27, 46, 162, 0, 52, 42, 180, 0, 10, 27, 21, 5, 182, 0, 228, 21, 4]
abbrev dktX1_widest_1 : List UInt8 := dkwX1_widest_1 ++ dktX1_widest_2
def dkwX1_widest_0 : List UInt8 := [42, 27, 182, 0, 84, 42, 28, 3, 4, 182, 0, 80, 2, 62, 3, 54, 4, 3, 54, 5, 21, 5, 42]
abbrev dktX1_widest_0 : List UInt8 := dkwX1_widest_0 ++ dktX1_widest_1
theorem dksX1_widest_0 : cX1_widest.data.toList.drop 0 = dktX1_widest_0 := by decide +kernel
theorem dksX1_widest_1 : cX1_widest.data.toList.drop 23 = dktX1_widest_1 := dk_seg dksX1_widest_0 23 rfl rfl
theorem dksX1_widest_2 : cX1_widest.data.toList.drop 46 = dktX1_widest_2 := dk_seg dksX1_widest_1 23 rfl rfl
theorem dksX1_widest_3 : cX1_widest.data.toList.drop 70 = dktX1_widest_3 := dk_seg dksX1_widest_2 24 rfl rfl
theorem dX1_widest_0 : decode cX1_widest 0 = .ok (.aload_n 0, 1) := dk_42 (dk_at dksX1_widest_0 0 rfl rfl)
theorem dX1_widest_1 : decode cX1_widest 1 = .ok (.iload_n 1, 1) := dk_27 (dk_at dksX1_widest_0 1 rfl rfl)
theorem dX1_widest_2 : decode cX1_widest 2 = .ok (.invokevirtual 84, 3) := dk_182 0 84 (dk_at dksX1_widest_0 2 rfl rfl)
theorem dX1_widest_5 : decode cX1_widest 5 = .ok (.aload_n 0, 1) := dk_42 (dk_at dksX1_widest_0 5 rfl rfl)
theorem dX1_widest_6 : decode cX1_widest 6 = .ok (.iload_n 2, 1) := dk_28 (dk_at dksX1_widest_0 6 rfl rfl)
theorem dX1_widest_7 : decode cX1_widest 7 = .ok (.iconst 0, 1) := dk_3 (dk_at dksX1_widest_0 7 rfl rfl)
theorem dX1_widest_8 : decode cX1_widest 8 = .ok (.iconst 1, 1) := dk_4 (dk_at dksX1_widest_0 8 rfl rfl)
theorem dX1_widest_9 : decode cX1_widest 9 = .ok (.invokevirtual 80, 3) := dk_182 0 80 (dk_at dksX1_widest_0 9 rfl rfl)
theorem dX1_widest_12 : decode cX1_widest 12 = .ok (.iconst (-1), 1) := dk_2 (dk_at dksX1_widest_0 12 rfl rfl)
theorem dX1_widest_13 : decode cX1_widest 13 = .ok (.istore_n 3, 1) := dk_62 (dk_at dksX1_widest_0 13 rfl rfl)
theorem dX1_widest_14 : decode cX1_widest 14 = .ok (.iconst 0, 1) := dk_3 (dk_at dksX1_widest_0 14 rfl rfl)
theorem dX1_widest_15 : decode cX1_widest 15 = .ok (.istore 4, 2) := dk_54 4 (dk_at dksX1_widest_0 15 rfl rfl)
theorem dX1_widest_17 : decode cX1_widest 17 = .ok (.iconst 0, 1) := dk_3 (dk_at dksX1_widest_0 17 rfl rfl)
theorem dX1_widest_18 : decode cX1_widest 18 = .ok (.istore 5, 2) := dk_54 5 (dk_at dksX1_widest_0 18 rfl rfl)
theorem dX1_widest_20 : decode cX1_widest 20 = .ok (.iload 5, 2) := dk_21 5 (dk_at dksX1_widest_0 20 rfl rfl)
theorem dX1_widest_22 : decode cX1_widest 22 = .ok (.aload_n 0, 1) := dk_42 (dk_at dksX1_widest_0 22 rfl rfl)
theorem dX1_widest_23 : decode cX1_widest 23 = .ok (.getfield 10, 3) := dk_180 0 10 (dk_at dksX1_widest_1 0 rfl rfl)
theorem dX1_widest_26 : decode cX1_widest 26 = .ok (.getfield 243, 3) := dk_180 0 243 (dk_at dksX1_widest_1 3 rfl rfl)
theorem dX1_widest_29 : decode cX1_widest 29 = .ok (.iload_n 1, 1) := dk_27 (dk_at dksX1_widest_1 6 rfl rfl)
theorem dX1_widest_30 : decode cX1_widest 30 = .ok (.iaload, 1) := dk_46 (dk_at dksX1_widest_1 7 rfl rfl)
theorem dX1_widest_31 : decode cX1_widest 31 = .ok (.if_icmp .ge 52, 3) := dk_162 0 52 (dk_at dksX1_widest_1 8 rfl rfl)
theorem dX1_widest_34 : decode cX1_widest 34 = .ok (.aload_n 0, 1) := dk_42 (dk_at dksX1_widest_1 11 rfl rfl)
theorem dX1_widest_35 : decode cX1_widest 35 = .ok (.getfield 10, 3) := dk_180 0 10 (dk_at dksX1_widest_1 12 rfl rfl)
theorem dX1_widest_38 : decode cX1_widest 38 = .ok (.iload_n 1, 1) := dk_27 (dk_at dksX1_widest_1 15 rfl rfl)
theorem dX1_widest_39 : decode cX1_widest 39 = .ok (.iload 5, 2) := dk_21 5 (dk_at dksX1_widest_1 16 rfl rfl)
theorem dX1_widest_41 : decode cX1_widest 41 = .ok (.invokevirtual 228, 3) := dk_182 0 228 (dk_at dksX1_widest_1 18 rfl rfl)
theorem dX1_widest_44 : decode cX1_widest 44 = .ok (.iload 4, 2) := dk_21 4 (dk_at dksX1_widest_1 21 rfl rfl)
theorem dX1_widest_46 : decode cX1_widest 46 = .ok (.if_icmp .gt 6, 3) := dk_163 0 6 (dk_at dksX1_widest_2 0 rfl rfl)
theorem dX1_widest_49 : decode cX1_widest 49 = .ok (.goto 28, 3) := dk_167 0 28 (dk_at dksX1_widest_2 3 rfl rfl)
theorem dX1_widest_52 : decode cX1_widest 52 = .ok (.aload_n 0, 1) := dk_42 (dk_at dksX1_widest_2 6 rfl rfl)
theorem dX1_widest_53 : decode cX1_widest 53 = .ok (.getfield 10, 3) := dk_180 0 10 (dk_at dksX1_widest_2 7 rfl rfl)
theorem dX1_widest_56 : decode cX1_widest 56 = .ok (.getfield 271, 3) := dk_180 1 15 (dk_at dksX1_widest_2 10 rfl rfl)
theorem dX1_widest_59 : decode cX1_widest 59 = .ok (.iload_n 1, 1) := dk_27 (dk_at dksX1_widest_2 13 rfl rfl)
theorem dX1_widest_60 : decode cX1_widest 60 = .ok (.aaload, 1) := dk_50 (dk_at dksX1_widest_2 14 rfl rfl)
theorem dX1_widest_61 : decode cX1_widest 61 = .ok (.iload 5, 2) := dk_21 5 (dk_at dksX1_widest_2 15 rfl rfl)
theorem dX1_widest_63 : decode cX1_widest 63 = .ok (.iaload, 1) := dk_46 (dk_at dksX1_widest_2 17 rfl rfl)
theorem dX1_widest_64 : decode cX1_widest 64 = .ok (.istore_n 3, 1) := dk_62 (dk_at dksX1_widest_2 18 rfl rfl)
theorem dX1_widest_65 : decode cX1_widest 65 = .ok (.aload_n 0, 1) := dk_42 (dk_at dksX1_widest_2 19 rfl rfl)
theorem dX1_widest_66 : decode cX1_widest 66 = .ok (.getfield 10, 3) := dk_180 0 10 (dk_at dksX1_widest_2 20 rfl rfl)
theorem dX1_widest_69 : decode cX1_widest 69 = .ok (.iload_n 1, 1) := dk_27 (dk_at dksX1_widest_2 23 rfl rfl)
theorem dX1_widest_70 : decode cX1_widest 70 = .ok (.iload 5, 2) := dk_21 5 (dk_at dksX1_widest_3 0 rfl rfl)
theorem dX1_widest_72 : decode cX1_widest 72 = .ok (.invokevirtual 228, 3) := dk_182 0 228 (dk_at dksX1_widest_3 2 rfl rfl)
theorem dX1_widest_75 : decode cX1_widest 75 = .ok (.istore 4, 2) := dk_54 4 (dk_at dksX1_widest_3 5 rfl rfl)
theorem dX1_widest_77 : decode cX1_widest 77 = .ok (.iinc 5 1, 3) := dk_132 5 1 (dk_at dksX1_widest_3 7 rfl rfl)
theorem dX1_widest_80 : decode cX1_widest 80 = .ok (.goto (-60), 3) := dk_167 255 196 (dk_at dksX1_widest_3 10 rfl rfl)
theorem dX1_widest_83 : decode cX1_widest 83 = .ok (.iload_n 2, 1) := dk_28 (dk_at dksX1_widest_3 13 rfl rfl)
theorem dX1_widest_84 : decode cX1_widest 84 = .ok (.ifCond .ne 7, 3) := dk_154 0 7 (dk_at dksX1_widest_3 14 rfl rfl)
theorem dX1_widest_87 : decode cX1_widest 87 = .ok (.iload_n 3, 1) := dk_29 (dk_at dksX1_widest_3 17 rfl rfl)
theorem dX1_widest_88 : decode cX1_widest 88 = .ok (.goto 5, 3) := dk_167 0 5 (dk_at dksX1_widest_3 18 rfl rfl)
theorem dX1_widest_91 : decode cX1_widest 91 = .ok (.iload 4, 2) := dk_21 4 (dk_at dksX1_widest_3 21 rfl rfl)
theorem dX1_widest_93 : decode cX1_widest 93 = .ok (.ireturn, 1) := dk_172 (dk_at dksX1_widest_3 23 rfl rfl)
abbrev cX1_strongest : ByteArray := prog_1_method_71_code
def yX1_strongest : MethodName := ⟨RX1, "strongest", "(I)J"⟩
def dkwX1_strongest_2 : List UInt8 := [22, 6, 66, 132, 5, 1, 167, 255, 217, 27, 154, 0, 8, 28, 133, 167, 0, 4, 33, 173]
abbrev dktX1_strongest_2 : List UInt8 := dkwX1_strongest_2 ++ []
def dkwX1_strongest_1 : List UInt8 := [186, 1, 191, 0, 0, 182, 1, 5, 55, 6, 22, 6, 33, 148, 157, 0, 6, 167, 0, 9, 21, 5, 61]
abbrev dktX1_strongest_1 : List UInt8 := dkwX1_strongest_1 ++ dktX1_strongest_2
def dkwX1_strongest_0 : List UInt8 := [42, 27, 3, 4, 182, 0, 80, 2, 61, 9, 66, 3, 54, 5, 21, 5, 16, 12, 162, 0, 38, 42, 21, 5]
abbrev dktX1_strongest_0 : List UInt8 := dkwX1_strongest_0 ++ dktX1_strongest_1
theorem dksX1_strongest_0 : cX1_strongest.data.toList.drop 0 = dktX1_strongest_0 := by decide +kernel
theorem dksX1_strongest_1 : cX1_strongest.data.toList.drop 24 = dktX1_strongest_1 := dk_seg dksX1_strongest_0 24 rfl rfl
theorem dksX1_strongest_2 : cX1_strongest.data.toList.drop 47 = dktX1_strongest_2 := dk_seg dksX1_strongest_1 23 rfl rfl
theorem dX1_strongest_0 : decode cX1_strongest 0 = .ok (.aload_n 0, 1) := dk_42 (dk_at dksX1_strongest_0 0 rfl rfl)
theorem dX1_strongest_1 : decode cX1_strongest 1 = .ok (.iload_n 1, 1) := dk_27 (dk_at dksX1_strongest_0 1 rfl rfl)
theorem dX1_strongest_2 : decode cX1_strongest 2 = .ok (.iconst 0, 1) := dk_3 (dk_at dksX1_strongest_0 2 rfl rfl)
theorem dX1_strongest_3 : decode cX1_strongest 3 = .ok (.iconst 1, 1) := dk_4 (dk_at dksX1_strongest_0 3 rfl rfl)
theorem dX1_strongest_4 : decode cX1_strongest 4 = .ok (.invokevirtual 80, 3) := dk_182 0 80 (dk_at dksX1_strongest_0 4 rfl rfl)
theorem dX1_strongest_7 : decode cX1_strongest 7 = .ok (.iconst (-1), 1) := dk_2 (dk_at dksX1_strongest_0 7 rfl rfl)
theorem dX1_strongest_8 : decode cX1_strongest 8 = .ok (.istore_n 2, 1) := dk_61 (dk_at dksX1_strongest_0 8 rfl rfl)
theorem dX1_strongest_9 : decode cX1_strongest 9 = .ok (.lconst 0, 1) := dk_9 (dk_at dksX1_strongest_0 9 rfl rfl)
theorem dX1_strongest_10 : decode cX1_strongest 10 = .ok (.lstore_n 3, 1) := dk_66 (dk_at dksX1_strongest_0 10 rfl rfl)
theorem dX1_strongest_11 : decode cX1_strongest 11 = .ok (.iconst 0, 1) := dk_3 (dk_at dksX1_strongest_0 11 rfl rfl)
theorem dX1_strongest_12 : decode cX1_strongest 12 = .ok (.istore 5, 2) := dk_54 5 (dk_at dksX1_strongest_0 12 rfl rfl)
theorem dX1_strongest_14 : decode cX1_strongest 14 = .ok (.iload 5, 2) := dk_21 5 (dk_at dksX1_strongest_0 14 rfl rfl)
theorem dX1_strongest_16 : decode cX1_strongest 16 = .ok (.bipush 12, 2) := dk_16 12 (dk_at dksX1_strongest_0 16 rfl rfl)
theorem dX1_strongest_18 : decode cX1_strongest 18 = .ok (.if_icmp .ge 38, 3) := dk_162 0 38 (dk_at dksX1_strongest_0 18 rfl rfl)
theorem dX1_strongest_21 : decode cX1_strongest 21 = .ok (.aload_n 0, 1) := dk_42 (dk_at dksX1_strongest_0 21 rfl rfl)
theorem dX1_strongest_22 : decode cX1_strongest 22 = .ok (.iload 5, 2) := dk_21 5 (dk_at dksX1_strongest_0 22 rfl rfl)
theorem dX1_strongest_24 : decode cX1_strongest 24 = .ok (.invokedynamic 447, 5) := by decide +kernel
theorem dX1_strongest_29 : decode cX1_strongest 29 = .ok (.invokevirtual 261, 3) := dk_182 1 5 (dk_at dksX1_strongest_1 5 rfl rfl)
theorem dX1_strongest_32 : decode cX1_strongest 32 = .ok (.lstore 6, 2) := dk_55 6 (dk_at dksX1_strongest_1 8 rfl rfl)
theorem dX1_strongest_34 : decode cX1_strongest 34 = .ok (.lload 6, 2) := dk_22 6 (dk_at dksX1_strongest_1 10 rfl rfl)
theorem dX1_strongest_36 : decode cX1_strongest 36 = .ok (.lload_n 3, 1) := dk_33 (dk_at dksX1_strongest_1 12 rfl rfl)
theorem dX1_strongest_37 : decode cX1_strongest 37 = .ok (.lcmp, 1) := dk_148 (dk_at dksX1_strongest_1 13 rfl rfl)
theorem dX1_strongest_38 : decode cX1_strongest 38 = .ok (.ifCond .gt 6, 3) := dk_157 0 6 (dk_at dksX1_strongest_1 14 rfl rfl)
theorem dX1_strongest_41 : decode cX1_strongest 41 = .ok (.goto 9, 3) := dk_167 0 9 (dk_at dksX1_strongest_1 17 rfl rfl)
theorem dX1_strongest_44 : decode cX1_strongest 44 = .ok (.iload 5, 2) := dk_21 5 (dk_at dksX1_strongest_1 20 rfl rfl)
theorem dX1_strongest_46 : decode cX1_strongest 46 = .ok (.istore_n 2, 1) := dk_61 (dk_at dksX1_strongest_1 22 rfl rfl)
theorem dX1_strongest_47 : decode cX1_strongest 47 = .ok (.lload 6, 2) := dk_22 6 (dk_at dksX1_strongest_2 0 rfl rfl)
theorem dX1_strongest_49 : decode cX1_strongest 49 = .ok (.lstore_n 3, 1) := dk_66 (dk_at dksX1_strongest_2 2 rfl rfl)
theorem dX1_strongest_50 : decode cX1_strongest 50 = .ok (.iinc 5 1, 3) := dk_132 5 1 (dk_at dksX1_strongest_2 3 rfl rfl)
theorem dX1_strongest_53 : decode cX1_strongest 53 = .ok (.goto (-39), 3) := dk_167 255 217 (dk_at dksX1_strongest_2 6 rfl rfl)
theorem dX1_strongest_56 : decode cX1_strongest 56 = .ok (.iload_n 1, 1) := dk_27 (dk_at dksX1_strongest_2 9 rfl rfl)
theorem dX1_strongest_57 : decode cX1_strongest 57 = .ok (.ifCond .ne 8, 3) := dk_154 0 8 (dk_at dksX1_strongest_2 10 rfl rfl)
theorem dX1_strongest_60 : decode cX1_strongest 60 = .ok (.iload_n 2, 1) := dk_28 (dk_at dksX1_strongest_2 13 rfl rfl)
theorem dX1_strongest_61 : decode cX1_strongest 61 = .ok (.i2l, 1) := dk_133 (dk_at dksX1_strongest_2 14 rfl rfl)
theorem dX1_strongest_62 : decode cX1_strongest 62 = .ok (.goto 4, 3) := dk_167 0 4 (dk_at dksX1_strongest_2 15 rfl rfl)
theorem dX1_strongest_65 : decode cX1_strongest 65 = .ok (.lload_n 3, 1) := dk_33 (dk_at dksX1_strongest_2 18 rfl rfl)
theorem dX1_strongest_66 : decode cX1_strongest 66 = .ok (.lreturn, 1) := dk_173 (dk_at dksX1_strongest_2 19 rfl rfl)
abbrev cX1_lambda_strongest_14 : ByteArray := prog_1_method_76_code
def yX1_lambda_strongest_14 : MethodName := ⟨RX1, "lambda$strongest$14", "(LTallTowers$Layer;)J"⟩
theorem dX1_lambda_strongest_14_0 : decode cX1_lambda_strongest_14 0 = .ok (.aload_n 0, 1) := by decide +kernel
theorem dX1_lambda_strongest_14_1 : decode cX1_lambda_strongest_14 1 = .ok (.invokevirtual 220, 3) := by decide +kernel
theorem dX1_lambda_strongest_14_4 : decode cX1_lambda_strongest_14 4 = .ok (.lreturn, 1) := by decide +kernel
abbrev cX1_holds : ByteArray := prog_1_method_72_code
def yX1_holds : MethodName := ⟨RX1, "holds", "(III)I"⟩
def dkwX1_holds_1 : List UInt8 := [186, 1, 192, 0, 0, 182, 1, 5, 136, 172]
abbrev dktX1_holds_1 : List UInt8 := dkwX1_holds_1 ++ []
def dkwX1_holds_0 : List UInt8 := [42, 27, 182, 0, 121, 42, 28, 182, 0, 84, 42, 29, 3, 18, 159, 182, 0, 80, 42, 28, 29, 27]
abbrev dktX1_holds_0 : List UInt8 := dkwX1_holds_0 ++ dktX1_holds_1
theorem dksX1_holds_0 : cX1_holds.data.toList.drop 0 = dktX1_holds_0 := by decide +kernel
theorem dksX1_holds_1 : cX1_holds.data.toList.drop 22 = dktX1_holds_1 := dk_seg dksX1_holds_0 22 rfl rfl
theorem dX1_holds_0 : decode cX1_holds 0 = .ok (.aload_n 0, 1) := dk_42 (dk_at dksX1_holds_0 0 rfl rfl)
theorem dX1_holds_1 : decode cX1_holds 1 = .ok (.iload_n 1, 1) := dk_27 (dk_at dksX1_holds_0 1 rfl rfl)
theorem dX1_holds_2 : decode cX1_holds 2 = .ok (.invokevirtual 121, 3) := dk_182 0 121 (dk_at dksX1_holds_0 2 rfl rfl)
theorem dX1_holds_5 : decode cX1_holds 5 = .ok (.aload_n 0, 1) := dk_42 (dk_at dksX1_holds_0 5 rfl rfl)
theorem dX1_holds_6 : decode cX1_holds 6 = .ok (.iload_n 2, 1) := dk_28 (dk_at dksX1_holds_0 6 rfl rfl)
theorem dX1_holds_7 : decode cX1_holds 7 = .ok (.invokevirtual 84, 3) := dk_182 0 84 (dk_at dksX1_holds_0 7 rfl rfl)
theorem dX1_holds_10 : decode cX1_holds 10 = .ok (.aload_n 0, 1) := dk_42 (dk_at dksX1_holds_0 10 rfl rfl)
theorem dX1_holds_11 : decode cX1_holds 11 = .ok (.iload_n 3, 1) := dk_29 (dk_at dksX1_holds_0 11 rfl rfl)
theorem dX1_holds_12 : decode cX1_holds 12 = .ok (.iconst 0, 1) := dk_3 (dk_at dksX1_holds_0 12 rfl rfl)
theorem dX1_holds_13 : decode cX1_holds 13 = .ok (.ldc 159, 2) := dk_18 159 (dk_at dksX1_holds_0 13 rfl rfl)
theorem dX1_holds_15 : decode cX1_holds 15 = .ok (.invokevirtual 80, 3) := dk_182 0 80 (dk_at dksX1_holds_0 15 rfl rfl)
theorem dX1_holds_18 : decode cX1_holds 18 = .ok (.aload_n 0, 1) := dk_42 (dk_at dksX1_holds_0 18 rfl rfl)
theorem dX1_holds_19 : decode cX1_holds 19 = .ok (.iload_n 2, 1) := dk_28 (dk_at dksX1_holds_0 19 rfl rfl)
theorem dX1_holds_20 : decode cX1_holds 20 = .ok (.iload_n 3, 1) := dk_29 (dk_at dksX1_holds_0 20 rfl rfl)
theorem dX1_holds_21 : decode cX1_holds 21 = .ok (.iload_n 1, 1) := dk_27 (dk_at dksX1_holds_0 21 rfl rfl)
theorem dX1_holds_22 : decode cX1_holds 22 = .ok (.invokedynamic 448, 5) := by decide +kernel
theorem dX1_holds_27 : decode cX1_holds 27 = .ok (.invokevirtual 261, 3) := dk_182 1 5 (dk_at dksX1_holds_1 5 rfl rfl)
theorem dX1_holds_30 : decode cX1_holds 30 = .ok (.l2i, 1) := dk_136 (dk_at dksX1_holds_1 8 rfl rfl)
theorem dX1_holds_31 : decode cX1_holds 31 = .ok (.ireturn, 1) := dk_172 (dk_at dksX1_holds_1 9 rfl rfl)
abbrev cX1_lambda_holds_15 : ByteArray := prog_1_method_75_code
def yX1_lambda_holds_15 : MethodName := ⟨RX1, "lambda$holds$15", "(IILTallTowers$Layer;)J"⟩
def dkwX1_lambda_holds_15_1 : List UInt8 := [167, 0, 4, 9, 173]
abbrev dktX1_lambda_holds_15_1 : List UInt8 := dkwX1_lambda_holds_15_1 ++ []
def dkwX1_lambda_holds_15_0 : List UInt8 := [44, 180, 0, 207, 26, 163, 0, 20, 26, 44, 182, 0, 255, 162, 0, 12, 44, 27, 182, 1, 55, 133]
abbrev dktX1_lambda_holds_15_0 : List UInt8 := dkwX1_lambda_holds_15_0 ++ dktX1_lambda_holds_15_1
theorem dksX1_lambda_holds_15_0 : cX1_lambda_holds_15.data.toList.drop 0 = dktX1_lambda_holds_15_0 := by decide +kernel
theorem dksX1_lambda_holds_15_1 : cX1_lambda_holds_15.data.toList.drop 22 = dktX1_lambda_holds_15_1 := dk_seg dksX1_lambda_holds_15_0 22 rfl rfl
theorem dX1_lambda_holds_15_0 : decode cX1_lambda_holds_15 0 = .ok (.aload_n 2, 1) := dk_44 (dk_at dksX1_lambda_holds_15_0 0 rfl rfl)
theorem dX1_lambda_holds_15_1 : decode cX1_lambda_holds_15 1 = .ok (.getfield 207, 3) := dk_180 0 207 (dk_at dksX1_lambda_holds_15_0 1 rfl rfl)
theorem dX1_lambda_holds_15_4 : decode cX1_lambda_holds_15 4 = .ok (.iload_n 0, 1) := dk_26 (dk_at dksX1_lambda_holds_15_0 4 rfl rfl)
theorem dX1_lambda_holds_15_5 : decode cX1_lambda_holds_15 5 = .ok (.if_icmp .gt 20, 3) := dk_163 0 20 (dk_at dksX1_lambda_holds_15_0 5 rfl rfl)
theorem dX1_lambda_holds_15_8 : decode cX1_lambda_holds_15 8 = .ok (.iload_n 0, 1) := dk_26 (dk_at dksX1_lambda_holds_15_0 8 rfl rfl)
theorem dX1_lambda_holds_15_9 : decode cX1_lambda_holds_15 9 = .ok (.aload_n 2, 1) := dk_44 (dk_at dksX1_lambda_holds_15_0 9 rfl rfl)
theorem dX1_lambda_holds_15_10 : decode cX1_lambda_holds_15 10 = .ok (.invokevirtual 255, 3) := dk_182 0 255 (dk_at dksX1_lambda_holds_15_0 10 rfl rfl)
theorem dX1_lambda_holds_15_13 : decode cX1_lambda_holds_15 13 = .ok (.if_icmp .ge 12, 3) := dk_162 0 12 (dk_at dksX1_lambda_holds_15_0 13 rfl rfl)
theorem dX1_lambda_holds_15_16 : decode cX1_lambda_holds_15 16 = .ok (.aload_n 2, 1) := dk_44 (dk_at dksX1_lambda_holds_15_0 16 rfl rfl)
theorem dX1_lambda_holds_15_17 : decode cX1_lambda_holds_15 17 = .ok (.iload_n 1, 1) := dk_27 (dk_at dksX1_lambda_holds_15_0 17 rfl rfl)
theorem dX1_lambda_holds_15_18 : decode cX1_lambda_holds_15 18 = .ok (.invokevirtual 311, 3) := dk_182 1 55 (dk_at dksX1_lambda_holds_15_0 18 rfl rfl)
theorem dX1_lambda_holds_15_21 : decode cX1_lambda_holds_15 21 = .ok (.i2l, 1) := dk_133 (dk_at dksX1_lambda_holds_15_0 21 rfl rfl)
theorem dX1_lambda_holds_15_22 : decode cX1_lambda_holds_15 22 = .ok (.goto 4, 3) := dk_167 0 4 (dk_at dksX1_lambda_holds_15_1 0 rfl rfl)
theorem dX1_lambda_holds_15_25 : decode cX1_lambda_holds_15 25 = .ok (.lconst 0, 1) := dk_9 (dk_at dksX1_lambda_holds_15_1 3 rfl rfl)
theorem dX1_lambda_holds_15_26 : decode cX1_lambda_holds_15 26 = .ok (.lreturn, 1) := dk_173 (dk_at dksX1_lambda_holds_15_1 4 rfl rfl)
theorem q127 : (Jvm.Cond.initialized "TallTowers") ∈ lw_all := lw_g (lw_at lw_m1 1 rfl) rfl
theorem q161 : (Jvm.Cond.instantiable "TallTowers" (9 : Nat)) ∈ lw_all := lw_g (lw_at lw_m1 35 rfl) rfl
theorem q163 : (Jvm.Cond.instanceMethod ({ cls := "TallTowers", name := "<init>", desc := "()V" } : Jvm.MethodName)) ∈ lw_all := lw_g (lw_at lw_m1 37 rfl) rfl
theorem q164 : (Jvm.Cond.code ({ cls := "TallTowers", name := "<init>", desc := "()V" } : Jvm.MethodName) prog_1_method_2_code (2 : Nat) (Option.none : Option Jvm.ClassFile.FieldType)) ∈ lw_all := lw_g (lw_at lw_m1 38 rfl) rfl
theorem q165 : (Jvm.Cond.methodLink "TallTowers" (1 : Nat) ({ cls := "java/lang/Object", name := "<init>", desc := "()V" } : Jvm.MethodName)) ∈ lw_all := lw_g (lw_at lw_m1 39 rfl) rfl
theorem q168 : (Jvm.Cond.classLink "TallTowers" (7 : Nat) "TallTowers$World") ∈ lw_all := lw_g (lw_at lw_m1 42 rfl) rfl
theorem q170 : (Jvm.Cond.methodLink "TallTowers" (9 : Nat) ({ cls := "TallTowers$World", name := "<init>", desc := "()V" } : Jvm.MethodName)) ∈ lw_all := lw_g (lw_at lw_m1 44 rfl) rfl
theorem q298 : (Jvm.Cond.fieldLink "TallTowers" (290 : Nat) "TallTowers$Harm" "takes" "[J") ∈ lw_all := lw_g (lw_at lw_m1 172 rfl) rfl
theorem q299 : (Jvm.Cond.fieldLink "TallTowers" (360 : Nat) "TallTowers$Flow" "takes" "[J") ∈ lw_all := lw_g (lw_at lw_m1 173 rfl) rfl
theorem q304 : (Jvm.Cond.fieldLink "TallTowers" (293 : Nat) "TallTowers$Harm" "through" "[J") ∈ lw_all := lw_g (lw_at lw_m1 178 rfl) rfl
theorem q307 : (Jvm.Cond.fieldLink "TallTowers" (296 : Nat) "TallTowers$Harm" "moved" "[J") ∈ lw_all := lw_g (lw_at lw_m1 181 rfl) rfl
theorem q317 : (Jvm.Cond.fieldLink "TallTowers" (299 : Nat) "TallTowers$Harm" "falls" "[J") ∈ lw_all := lw_g (lw_at lw_m1 191 rfl) rfl
theorem q319 : (Jvm.Cond.fieldLink "TallTowers" (361 : Nat) "TallTowers$Flow" "falls" "[J") ∈ lw_all := lw_g (lw_at lw_m1 193 rfl) rfl
theorem q339 : (Jvm.Cond.fieldLinkNest "TallTowers" (189 : Nat) "TallTowers$Layer" "who" "[I" "TallTowers") ∈ lw_tbl := lw_at lw_m1 213 rfl
theorem q342 : (Jvm.Cond.fieldLinkNest "TallTowers" (236 : Nat) "TallTowers$Layer" "tenths" "[I" "TallTowers") ∈ lw_tbl := lw_at lw_m1 216 rfl
theorem q345 : (Jvm.Cond.fieldLinkNest "TallTowers" (239 : Nat) "TallTowers$Layer" "had" "[J" "TallTowers") ∈ lw_tbl := lw_at lw_m1 219 rfl
theorem q349 : (Jvm.Cond.fieldLinkNest "TallTowers" (268 : Nat) "TallTowers$Layer" "number" "I" "TallTowers") ∈ lw_tbl := lw_at lw_m1 223 rfl
theorem q352 : (Jvm.Cond.fieldLinkNest "TallTowers" (204 : Nat) "TallTowers$Layer" "year" "I" "TallTowers") ∈ lw_tbl := lw_at lw_m1 226 rfl
theorem q355 : (Jvm.Cond.fieldLinkNest "TallTowers" (207 : Nat) "TallTowers$Layer" "from" "I" "TallTowers") ∈ lw_tbl := lw_at lw_m1 229 rfl
theorem q358 : (Jvm.Cond.fieldLinkNest "TallTowers" (210 : Nat) "TallTowers$Layer" "size" "I" "TallTowers") ∈ lw_tbl := lw_at lw_m1 232 rfl
theorem q360 : (Jvm.Cond.fieldLinkNest "TallTowers" (213 : Nat) "TallTowers$Layer" "times" "I" "TallTowers") ∈ lw_tbl := lw_at lw_m1 234 rfl
theorem q363 : (Jvm.Cond.fieldLinkNest "TallTowers" (186 : Nat) "TallTowers$Layer" "signers" "I" "TallTowers") ∈ lw_tbl := lw_at lw_m1 237 rfl
theorem q366 : (Jvm.Cond.fieldLinkNest "TallTowers" (216 : Nat) "TallTowers$Layer" "used" "J" "TallTowers") ∈ lw_tbl := lw_at lw_m2 0 rfl
theorem q369 : (Jvm.Cond.fieldLinkNest "TallTowers" (423 : Nat) "TallTowers$Layer" "isThere" "Z" "TallTowers") ∈ lw_tbl := lw_at lw_m2 3 rfl
theorem q399 : (Jvm.Cond.fieldLinkNest "TallTowers" (275 : Nat) "TallTowers$Harm" "first" "I" "TallTowers") ∈ lw_tbl := lw_at lw_m2 33 rfl
theorem q401 : (Jvm.Cond.fieldLinkNest "TallTowers" (278 : Nat) "TallTowers$Harm" "last" "I" "TallTowers") ∈ lw_tbl := lw_at lw_m2 35 rfl
theorem q403 : (Jvm.Cond.fieldLinkNest "TallTowers" (281 : Nat) "TallTowers$Harm" "shown" "I" "TallTowers") ∈ lw_tbl := lw_at lw_m2 37 rfl
theorem q405 : (Jvm.Cond.fieldLinkNest "TallTowers" (287 : Nat) "TallTowers$Harm" "grew" "I" "TallTowers") ∈ lw_tbl := lw_at lw_m2 39 rfl
theorem q408 : (Jvm.Cond.fieldLinkNest "TallTowers" (284 : Nat) "TallTowers$Harm" "loss" "J" "TallTowers") ∈ lw_tbl := lw_at lw_m2 42 rfl
theorem q439 : (Jvm.Cond.fieldLinkNest "TallTowers" (404 : Nat) "TallTowers$Tower" "year" "I" "TallTowers") ∈ lw_tbl := lw_at lw_m2 73 rfl
theorem q478 : (Jvm.Cond.static ({ cls := "TallTowers", name := "shares", desc := "(J[J[J)V" } : Jvm.MethodName)) ∈ lw_all := lw_g (lw_at lw_m2 112 rfl) rfl
theorem q479 : (Jvm.Cond.code ({ cls := "TallTowers", name := "shares", desc := "(J[J[J)V" } : Jvm.MethodName) prog_1_method_1_code (13 : Nat) (Option.none : Option Jvm.ClassFile.FieldType)) ∈ lw_all := lw_g (lw_at lw_m2 113 rfl) rfl
theorem q589 : (Jvm.Cond.selects "TallTowers" ({ cls := "java/lang/Object", name := "getClass", desc := "()Ljava/lang/Class;" } : Jvm.MethodName) ({ cls := "java/lang/Object", name := "getClass", desc := "()Ljava/lang/Class;" } : Jvm.MethodName)) ∈ lw_all := lw_g (lw_at lw_m2 223 rfl) rfl
theorem q727 : (Jvm.Cond.fieldLinkNest "TallTowers" (66 : Nat) "TallTowers$World" "layers" "[LTallTowers$Layer;" "TallTowers") ∈ lw_tbl := lw_at lw_m3 121 rfl
theorem q729 : (Jvm.Cond.fieldLinkNest "TallTowers" (73 : Nat) "TallTowers$World" "harms" "[LTallTowers$Harm;" "TallTowers") ∈ lw_tbl := lw_at lw_m3 123 rfl
theorem q731 : (Jvm.Cond.fieldLinkNest "TallTowers" (271 : Nat) "TallTowers$World" "rungs" "[[I" "TallTowers") ∈ lw_tbl := lw_at lw_m3 125 rfl
theorem q733 : (Jvm.Cond.fieldLinkNest "TallTowers" (243 : Nat) "TallTowers$World" "many" "[I" "TallTowers") ∈ lw_tbl := lw_at lw_m3 127 rfl
theorem q735 : (Jvm.Cond.fieldLinkNest "TallTowers" (305 : Nat) "TallTowers$World" "status" "[I" "TallTowers") ∈ lw_tbl := lw_at lw_m3 129 rfl
theorem q737 : (Jvm.Cond.fieldLinkNest "TallTowers" (308 : Nat) "TallTowers$World" "cash" "[J" "TallTowers") ∈ lw_tbl := lw_at lw_m3 131 rfl
theorem q739 : (Jvm.Cond.fieldLinkNest "TallTowers" (366 : Nat) "TallTowers$World" "weights" "[J" "TallTowers") ∈ lw_tbl := lw_at lw_m3 133 rfl
theorem q741 : (Jvm.Cond.fieldLinkNest "TallTowers" (369 : Nat) "TallTowers$World" "sums" "[J" "TallTowers") ∈ lw_tbl := lw_at lw_m3 135 rfl
theorem q748 : (Jvm.Cond.fieldLinkNest "TallTowers" (388 : Nat) "TallTowers$World" "queue" "Ljava/util/PriorityQueue;" "TallTowers") ∈ lw_tbl := lw_at lw_m3 142 rfl
theorem q751 : (Jvm.Cond.fieldLinkNest "TallTowers" (379 : Nat) "TallTowers$World" "flow" "LTallTowers$Flow;" "TallTowers") ∈ lw_tbl := lw_at lw_m3 145 rfl
theorem q754 : (Jvm.Cond.fieldLinkNest "TallTowers" (136 : Nat) "TallTowers$World" "lacking" "I" "TallTowers") ∈ lw_tbl := lw_at lw_m3 148 rfl
theorem q756 : (Jvm.Cond.fieldLinkNest "TallTowers" (146 : Nat) "TallTowers$World" "trigger" "I" "TallTowers") ∈ lw_tbl := lw_at lw_m3 150 rfl
theorem q758 : (Jvm.Cond.fieldLinkNest "TallTowers" (149 : Nat) "TallTowers$World" "spread" "I" "TallTowers") ∈ lw_tbl := lw_at lw_m3 152 rfl
theorem q760 : (Jvm.Cond.fieldLinkNest "TallTowers" (152 : Nat) "TallTowers$World" "pick" "I" "TallTowers") ∈ lw_tbl := lw_at lw_m3 154 rfl
theorem q762 : (Jvm.Cond.fieldLinkNest "TallTowers" (58 : Nat) "TallTowers$World" "placed" "I" "TallTowers") ∈ lw_tbl := lw_at lw_m3 156 rfl
theorem q764 : (Jvm.Cond.fieldLinkNest "TallTowers" (70 : Nat) "TallTowers$World" "harmed" "I" "TallTowers") ∈ lw_tbl := lw_at lw_m3 158 rfl
theorem q815 : (Jvm.Cond.classLink "TallTowers" (19 : Nat) "TallTowers$Harm") ∈ lw_all := lw_g (lw_at lw_m3 209 rfl) rfl
theorem q816 : (Jvm.Cond.methodLinkNest "TallTowers" (21 : Nat) ({ cls := "TallTowers$Harm", name := "<init>", desc := "()V" } : Jvm.MethodName) "TallTowers") ∈ lw_tbl := lw_at lw_m3 210 rfl
theorem q817 : (Jvm.Cond.classLink "TallTowers" (26 : Nat) "TallTowers$Event") ∈ lw_all := lw_g (lw_at lw_m3 211 rfl) rfl
theorem q819 : (Jvm.Cond.classLink "TallTowers" (32 : Nat) "TallTowers$Holder") ∈ lw_all := lw_g (lw_at lw_m3 213 rfl) rfl
theorem q821 : (Jvm.Cond.classLink "TallTowers" (38 : Nat) "java/util/TreeSet") ∈ lw_all := lw_g (lw_at lw_m3 215 rfl) rfl
theorem q823 : (Jvm.Cond.methodLink "TallTowers" (40 : Nat) ({ cls := "java/util/TreeSet", name := "<init>", desc := "()V" } : Jvm.MethodName)) ∈ lw_all := lw_g (lw_at lw_m3 217 rfl) rfl
theorem q869 : (Jvm.Cond.methodLink "TallTowers" (49 : Nat) ({ cls := "TallTowers$World", name := "begins", desc := "()V" } : Jvm.MethodName)) ∈ lw_all := lw_g (lw_at lw_m4 23 rfl) rfl
theorem q879 : (Jvm.Cond.methodLink "TallTowers" (52 : Nat) ({ cls := "TallTowers$Holder", name := "<init>", desc := "(I)V" } : Jvm.MethodName)) ∈ lw_all := lw_g (lw_at lw_m4 33 rfl) rfl
theorem q884 : (Jvm.Cond.fieldLinkNest "TallTowers" (319 : Nat) "TallTowers$Holder" "number" "I" "TallTowers") ∈ lw_tbl := lw_at lw_m4 38 rfl
theorem q886 : (Jvm.Cond.fieldLinkNest "TallTowers" (320 : Nat) "TallTowers$Holder" "bears" "J" "TallTowers") ∈ lw_tbl := lw_at lw_m4 40 rfl
theorem q892 : (Jvm.Cond.fieldLink "TallTowers" (10 : Nat) "TallTowers" "now" "LTallTowers$World;") ∈ lw_all := lw_g (lw_at lw_m4 46 rfl) rfl
theorem q893 : (Jvm.Cond.fieldLink "TallTowers" (16 : Nat) "TallTowers" "then" "LTallTowers$World;") ∈ lw_all := lw_g (lw_at lw_m4 47 rfl) rfl
theorem q894 : (Jvm.Cond.fieldLink "TallTowers" (22 : Nat) "TallTowers" "asIf" "LTallTowers$Harm;") ∈ lw_all := lw_g (lw_at lw_m4 48 rfl) rfl
theorem q895 : (Jvm.Cond.fieldLink "TallTowers" (28 : Nat) "TallTowers" "events" "[LTallTowers$Event;") ∈ lw_all := lw_g (lw_at lw_m4 49 rfl) rfl
theorem q896 : (Jvm.Cond.fieldLink "TallTowers" (34 : Nat) "TallTowers" "holders" "[LTallTowers$Holder;") ∈ lw_all := lw_g (lw_at lw_m4 50 rfl) rfl
theorem q897 : (Jvm.Cond.fieldLink "TallTowers" (41 : Nat) "TallTowers" "ranks" "Ljava/util/TreeSet;") ∈ lw_all := lw_g (lw_at lw_m4 51 rfl) rfl
theorem q898 : (Jvm.Cond.fieldLink "TallTowers" (45 : Nat) "TallTowers" "refused" "[I") ∈ lw_all := lw_g (lw_at lw_m4 52 rfl) rfl
theorem q899 : (Jvm.Cond.fieldLink "TallTowers" (93 : Nat) "TallTowers" "many" "I") ∈ lw_all := lw_g (lw_at lw_m4 53 rfl) rfl
theorem q900 : (Jvm.Cond.fieldLink "TallTowers" (405 : Nat) "TallTowers" "leftOut" "I") ∈ lw_all := lw_g (lw_at lw_m4 54 rfl) rfl
theorem q901 : (Jvm.Cond.laysFinal "TallTowers" "TallTowers" "now" "LTallTowers$World;") ∈ lw_all := lw_g (lw_at lw_m4 55 rfl) rfl
theorem q902 : (Jvm.Cond.soleField "TallTowers" "now") ∈ lw_all := lw_g (lw_at lw_m4 56 rfl) rfl
theorem q903 : (Jvm.Cond.laysFinal "TallTowers" "TallTowers" "then" "LTallTowers$World;") ∈ lw_all := lw_g (lw_at lw_m4 57 rfl) rfl
theorem q904 : (Jvm.Cond.soleField "TallTowers" "then") ∈ lw_all := lw_g (lw_at lw_m4 58 rfl) rfl
theorem q905 : (Jvm.Cond.laysFinal "TallTowers" "TallTowers" "asIf" "LTallTowers$Harm;") ∈ lw_all := lw_g (lw_at lw_m4 59 rfl) rfl
theorem q906 : (Jvm.Cond.soleField "TallTowers" "asIf") ∈ lw_all := lw_g (lw_at lw_m4 60 rfl) rfl
theorem q907 : (Jvm.Cond.laysFinal "TallTowers" "TallTowers" "events" "[LTallTowers$Event;") ∈ lw_all := lw_g (lw_at lw_m4 61 rfl) rfl
theorem q908 : (Jvm.Cond.soleField "TallTowers" "events") ∈ lw_all := lw_g (lw_at lw_m4 62 rfl) rfl
theorem q909 : (Jvm.Cond.laysFinal "TallTowers" "TallTowers" "holders" "[LTallTowers$Holder;") ∈ lw_all := lw_g (lw_at lw_m4 63 rfl) rfl
theorem q910 : (Jvm.Cond.soleField "TallTowers" "holders") ∈ lw_all := lw_g (lw_at lw_m4 64 rfl) rfl
theorem q911 : (Jvm.Cond.laysFinal "TallTowers" "TallTowers" "ranks" "Ljava/util/TreeSet;") ∈ lw_all := lw_g (lw_at lw_m4 65 rfl) rfl
theorem q912 : (Jvm.Cond.soleField "TallTowers" "ranks") ∈ lw_all := lw_g (lw_at lw_m4 66 rfl) rfl
theorem q913 : (Jvm.Cond.laysFinal "TallTowers" "TallTowers" "refused" "[I") ∈ lw_all := lw_g (lw_at lw_m4 67 rfl) rfl
theorem q914 : (Jvm.Cond.soleField "TallTowers" "refused") ∈ lw_all := lw_g (lw_at lw_m4 68 rfl) rfl
theorem q915 : (Jvm.Cond.lays "TallTowers" "TallTowers" "many" "I") ∈ lw_all := lw_g (lw_at lw_m4 69 rfl) rfl
theorem q916 : (Jvm.Cond.soleField "TallTowers" "many") ∈ lw_all := lw_g (lw_at lw_m4 70 rfl) rfl
theorem q917 : (Jvm.Cond.lays "TallTowers" "TallTowers" "leftOut" "I") ∈ lw_all := lw_g (lw_at lw_m4 71 rfl) rfl
theorem q918 : (Jvm.Cond.soleField "TallTowers" "leftOut") ∈ lw_all := lw_g (lw_at lw_m4 72 rfl) rfl
theorem q919 : (Jvm.Cond.superclass "TallTowers" "java/lang/Object") ∈ lw_all := lw_g (lw_at lw_m4 73 rfl) rfl
theorem q921 : (Jvm.Cond.instanceMethod ({ cls := "TallTowers", name := "back", desc := "()I" } : Jvm.MethodName)) ∈ lw_all := lw_g (lw_at lw_m4 75 rfl) rfl
theorem q922 : (Jvm.Cond.selects "TallTowers" ({ cls := "TallTowers", name := "back", desc := "()I" } : Jvm.MethodName) ({ cls := "TallTowers", name := "back", desc := "()I" } : Jvm.MethodName)) ∈ lw_all := lw_g (lw_at lw_m4 76 rfl) rfl
theorem q923 : (Jvm.Cond.code ({ cls := "TallTowers", name := "back", desc := "()I" } : Jvm.MethodName) prog_1_method_23_code (2 : Nat) (Option.some Jvm.ClassFile.FieldType.int)) ∈ lw_all := lw_g (lw_at lw_m4 77 rfl) rfl
theorem q924 : (Jvm.Cond.interfaceEntry "TallTowers" (96 : Nat)) ∈ lw_tbl := lw_at lw_m4 78 rfl
theorem q925 : (Jvm.Cond.methodLink "TallTowers" (96 : Nat) ({ cls := "TallTowers$Deed", name := "on", desc := "(LTallTowers$World;)Z" } : Jvm.MethodName)) ∈ lw_all := lw_g (lw_at lw_m4 79 rfl) rfl
theorem q929 : (Jvm.Cond.instanceMethod ({ cls := "TallTowers", name := "spent", desc := "()J" } : Jvm.MethodName)) ∈ lw_all := lw_g (lw_at lw_m4 83 rfl) rfl
theorem q930 : (Jvm.Cond.selects "TallTowers" ({ cls := "TallTowers", name := "spent", desc := "()J" } : Jvm.MethodName) ({ cls := "TallTowers", name := "spent", desc := "()J" } : Jvm.MethodName)) ∈ lw_all := lw_g (lw_at lw_m4 84 rfl) rfl
theorem q931 : (Jvm.Cond.code ({ cls := "TallTowers", name := "spent", desc := "()J" } : Jvm.MethodName) prog_1_method_73_code (4 : Nat) (Option.some Jvm.ClassFile.FieldType.long)) ∈ lw_all := lw_g (lw_at lw_m4 85 rfl) rfl
theorem q932 : (Jvm.Cond.methodLink "TallTowers" (220 : Nat) ({ cls := "TallTowers$Layer", name := "left", desc := "()J" } : Jvm.MethodName)) ∈ lw_all := lw_g (lw_at lw_m4 86 rfl) rfl
theorem q934 : (Jvm.Cond.instanceMethod ({ cls := "TallTowers", name := "status", desc := "(I)I" } : Jvm.MethodName)) ∈ lw_all := lw_g (lw_at lw_m4 88 rfl) rfl
theorem q935 : (Jvm.Cond.selects "TallTowers" ({ cls := "TallTowers", name := "status", desc := "(I)I" } : Jvm.MethodName) ({ cls := "TallTowers", name := "status", desc := "(I)I" } : Jvm.MethodName)) ∈ lw_all := lw_g (lw_at lw_m4 89 rfl) rfl
theorem q936 : (Jvm.Cond.code ({ cls := "TallTowers", name := "status", desc := "(I)I" } : Jvm.MethodName) prog_1_method_74_code (2 : Nat) (Option.some Jvm.ClassFile.FieldType.int)) ∈ lw_all := lw_g (lw_at lw_m4 90 rfl) rfl
theorem q943 : (Jvm.Cond.instanceMethod ({ cls := "TallTowers", name := "place", desc := "(IIII)I" } : Jvm.MethodName)) ∈ lw_all := lw_g (lw_at lw_m4 97 rfl) rfl
theorem q944 : (Jvm.Cond.selects "TallTowers" ({ cls := "TallTowers", name := "place", desc := "(IIII)I" } : Jvm.MethodName) ({ cls := "TallTowers", name := "place", desc := "(IIII)I" } : Jvm.MethodName)) ∈ lw_all := lw_g (lw_at lw_m4 98 rfl) rfl
theorem q945 : (Jvm.Cond.code ({ cls := "TallTowers", name := "place", desc := "(IIII)I" } : Jvm.MethodName) prog_1_method_14_code (6 : Nat) (Option.some Jvm.ClassFile.FieldType.int)) ∈ lw_all := lw_g (lw_at lw_m4 99 rfl) rfl
theorem q946 : (Jvm.Cond.methodLink "TallTowers" (84 : Nat) ({ cls := "TallTowers", name := "yearOf", desc := "(I)V" } : Jvm.MethodName)) ∈ lw_all := lw_g (lw_at lw_m4 100 rfl) rfl
theorem q947 : (Jvm.Cond.privateMethod ({ cls := "TallTowers", name := "yearOf", desc := "(I)V" } : Jvm.MethodName)) ∈ lw_tbl := lw_at lw_m4 101 rfl
theorem q948 : (Jvm.Cond.instanceMethod ({ cls := "TallTowers", name := "yearOf", desc := "(I)V" } : Jvm.MethodName)) ∈ lw_all := lw_g (lw_at lw_m4 102 rfl) rfl
theorem q949 : (Jvm.Cond.code ({ cls := "TallTowers", name := "yearOf", desc := "(I)V" } : Jvm.MethodName) prog_1_method_7_code (2 : Nat) (Option.none : Option Jvm.ClassFile.FieldType)) ∈ lw_all := lw_g (lw_at lw_m4 103 rfl) rfl
theorem q950 : (Jvm.Cond.methodLink "TallTowers" (80 : Nat) ({ cls := "TallTowers", name := "within", desc := "(III)V" } : Jvm.MethodName)) ∈ lw_all := lw_g (lw_at lw_m4 104 rfl) rfl
theorem q951 : (Jvm.Cond.privateMethod ({ cls := "TallTowers", name := "within", desc := "(III)V" } : Jvm.MethodName)) ∈ lw_tbl := lw_at lw_m4 105 rfl
theorem q952 : (Jvm.Cond.instanceMethod ({ cls := "TallTowers", name := "within", desc := "(III)V" } : Jvm.MethodName)) ∈ lw_all := lw_g (lw_at lw_m4 106 rfl) rfl
theorem q953 : (Jvm.Cond.code ({ cls := "TallTowers", name := "within", desc := "(III)V" } : Jvm.MethodName) prog_1_method_6_code (4 : Nat) (Option.none : Option Jvm.ClassFile.FieldType)) ∈ lw_all := lw_g (lw_at lw_m4 107 rfl) rfl
theorem q954 : (Jvm.Cond.classLink "TallTowers" (77 : Nat) "java/lang/IllegalArgumentException") ∈ lw_all := lw_g (lw_at lw_m4 108 rfl) rfl
theorem q955 : (Jvm.Cond.methodLink "TallTowers" (79 : Nat) ({ cls := "java/lang/IllegalArgumentException", name := "<init>", desc := "()V" } : Jvm.MethodName)) ∈ lw_all := lw_g (lw_at lw_m4 109 rfl) rfl
theorem q956 : (Jvm.Cond.constant "TallTowers" (109 : Nat) (900000000 : Int32)) ∈ lw_all := lw_g (lw_at lw_m4 110 rfl) rfl
theorem q957 : (Jvm.Cond.constant "TallTowers" (110 : Nat) (100000000 : Int32)) ∈ lw_all := lw_g (lw_at lw_m4 111 rfl) rfl
theorem q958 : (Jvm.Cond.static ({ cls := "TallTowers", name := "lambda$place$0", desc := "(IIIIILTallTowers$World;)Z" } : Jvm.MethodName)) ∈ lw_all := lw_g (lw_at lw_m4 112 rfl) rfl
theorem q959 : (Jvm.Cond.code ({ cls := "TallTowers", name := "lambda$place$0", desc := "(IIIIILTallTowers$World;)Z" } : Jvm.MethodName) prog_1_method_90_code (6 : Nat) (Option.some Jvm.ClassFile.FieldType.boolean)) ∈ lw_all := lw_g (lw_at lw_m4 113 rfl) rfl
theorem q960 : (Jvm.Cond.methodLink "TallTowers" (478 : Nat) ({ cls := "TallTowers$World", name := "places", desc := "(IIIII)Z" } : Jvm.MethodName)) ∈ lw_all := lw_g (lw_at lw_m4 114 rfl) rfl
theorem q973 : (Jvm.Cond.methodLink "TallTowers" (114 : Nat) ({ cls := "TallTowers", name := "done", desc := "(IILTallTowers$Deed;)V" } : Jvm.MethodName)) ∈ lw_all := lw_g (lw_at lw_m4 127 rfl) rfl
theorem q974 : (Jvm.Cond.privateMethod ({ cls := "TallTowers", name := "done", desc := "(IILTallTowers$Deed;)V" } : Jvm.MethodName)) ∈ lw_tbl := lw_at lw_m4 128 rfl
theorem q975 : (Jvm.Cond.instanceMethod ({ cls := "TallTowers", name := "done", desc := "(IILTallTowers$Deed;)V" } : Jvm.MethodName)) ∈ lw_all := lw_g (lw_at lw_m4 129 rfl) rfl
theorem q976 : (Jvm.Cond.code ({ cls := "TallTowers", name := "done", desc := "(IILTallTowers$Deed;)V" } : Jvm.MethodName) prog_1_method_13_code (4 : Nat) (Option.none : Option Jvm.ClassFile.FieldType)) ∈ lw_all := lw_g (lw_at lw_m4 130 rfl) rfl
theorem q977 : (Jvm.Cond.methodLink "TallTowers" (102 : Nat) ({ cls := "TallTowers", name := "has", desc := "(Z)V" } : Jvm.MethodName)) ∈ lw_all := lw_g (lw_at lw_m4 131 rfl) rfl
theorem q978 : (Jvm.Cond.privateMethod ({ cls := "TallTowers", name := "has", desc := "(Z)V" } : Jvm.MethodName)) ∈ lw_tbl := lw_at lw_m4 132 rfl
theorem q979 : (Jvm.Cond.instanceMethod ({ cls := "TallTowers", name := "has", desc := "(Z)V" } : Jvm.MethodName)) ∈ lw_all := lw_g (lw_at lw_m4 133 rfl) rfl
theorem q980 : (Jvm.Cond.code ({ cls := "TallTowers", name := "has", desc := "(Z)V" } : Jvm.MethodName) prog_1_method_12_code (2 : Nat) (Option.none : Option Jvm.ClassFile.FieldType)) ∈ lw_all := lw_g (lw_at lw_m4 134 rfl) rfl
theorem q981 : (Jvm.Cond.classLink "TallTowers" (90 : Nat) "java/lang/IllegalStateException") ∈ lw_all := lw_g (lw_at lw_m4 135 rfl) rfl
theorem q990 : (Jvm.Cond.methodLink "TallTowers" (92 : Nat) ({ cls := "java/lang/IllegalStateException", name := "<init>", desc := "()V" } : Jvm.MethodName)) ∈ lw_all := lw_g (lw_at lw_m4 144 rfl) rfl
theorem q997 : (Jvm.Cond.methodLink "TallTowers" (106 : Nat) ({ cls := "TallTowers$Event", name := "<init>", desc := "(IILTallTowers$Deed;)V" } : Jvm.MethodName)) ∈ lw_all := lw_g (lw_at lw_m4 151 rfl) rfl
theorem q1002 : (Jvm.Cond.fieldLinkNest "TallTowers" (198 : Nat) "TallTowers$Event" "kind" "I" "TallTowers") ∈ lw_tbl := lw_at lw_m4 156 rfl
theorem q1004 : (Jvm.Cond.fieldLinkNest "TallTowers" (201 : Nat) "TallTowers$Event" "about" "I" "TallTowers") ∈ lw_tbl := lw_at lw_m4 158 rfl
theorem q1006 : (Jvm.Cond.fieldLinkNest "TallTowers" (178 : Nat) "TallTowers$Event" "deed" "LTallTowers$Deed;" "TallTowers") ∈ lw_tbl := lw_at lw_m4 160 rfl
theorem q1019 : (Jvm.Cond.instanceMethod ({ cls := "TallTowers", name := "sign", desc := "(III)I" } : Jvm.MethodName)) ∈ lw_all := lw_g (lw_at lw_m4 173 rfl) rfl
theorem q1020 : (Jvm.Cond.selects "TallTowers" ({ cls := "TallTowers", name := "sign", desc := "(III)I" } : Jvm.MethodName) ({ cls := "TallTowers", name := "sign", desc := "(III)I" } : Jvm.MethodName)) ∈ lw_all := lw_g (lw_at lw_m4 174 rfl) rfl
theorem q1021 : (Jvm.Cond.code ({ cls := "TallTowers", name := "sign", desc := "(III)I" } : Jvm.MethodName) prog_1_method_15_code (5 : Nat) (Option.some Jvm.ClassFile.FieldType.int)) ∈ lw_all := lw_g (lw_at lw_m4 175 rfl) rfl
theorem q1022 : (Jvm.Cond.methodLink "TallTowers" (117 : Nat) ({ cls := "TallTowers", name := "layerOf", desc := "(I)LTallTowers$Layer;" } : Jvm.MethodName)) ∈ lw_all := lw_g (lw_at lw_m4 176 rfl) rfl
theorem q1023 : (Jvm.Cond.privateMethod ({ cls := "TallTowers", name := "layerOf", desc := "(I)LTallTowers$Layer;" } : Jvm.MethodName)) ∈ lw_tbl := lw_at lw_m4 177 rfl
theorem q1024 : (Jvm.Cond.instanceMethod ({ cls := "TallTowers", name := "layerOf", desc := "(I)LTallTowers$Layer;" } : Jvm.MethodName)) ∈ lw_all := lw_g (lw_at lw_m4 178 rfl) rfl
theorem q1025 : (Jvm.Cond.code ({ cls := "TallTowers", name := "layerOf", desc := "(I)LTallTowers$Layer;" } : Jvm.MethodName) prog_1_method_4_code (2 : Nat) (Option.some (Jvm.ClassFile.FieldType.object "TallTowers$Layer"))) ∈ lw_all := lw_g (lw_at lw_m4 179 rfl) rfl
theorem q1026 : (Jvm.Cond.methodLink "TallTowers" (62 : Nat) ({ cls := "TallTowers", name := "oneOf", desc := "(II)V" } : Jvm.MethodName)) ∈ lw_all := lw_g (lw_at lw_m4 180 rfl) rfl
theorem q1027 : (Jvm.Cond.privateMethod ({ cls := "TallTowers", name := "oneOf", desc := "(II)V" } : Jvm.MethodName)) ∈ lw_tbl := lw_at lw_m4 181 rfl
theorem q1028 : (Jvm.Cond.instanceMethod ({ cls := "TallTowers", name := "oneOf", desc := "(II)V" } : Jvm.MethodName)) ∈ lw_all := lw_g (lw_at lw_m4 182 rfl) rfl
theorem q1029 : (Jvm.Cond.code ({ cls := "TallTowers", name := "oneOf", desc := "(II)V" } : Jvm.MethodName) prog_1_method_3_code (3 : Nat) (Option.none : Option Jvm.ClassFile.FieldType)) ∈ lw_all := lw_g (lw_at lw_m4 183 rfl) rfl
theorem q1030 : (Jvm.Cond.classLink "TallTowers" (55 : Nat) "java/util/NoSuchElementException") ∈ lw_all := lw_g (lw_at lw_m4 184 rfl) rfl
theorem q1039 : (Jvm.Cond.methodLink "TallTowers" (57 : Nat) ({ cls := "java/util/NoSuchElementException", name := "<init>", desc := "()V" } : Jvm.MethodName)) ∈ lw_all := lw_g (lw_at lw_m4 193 rfl) rfl
theorem q1045 : (Jvm.Cond.methodLink "TallTowers" (121 : Nat) ({ cls := "TallTowers", name := "insurerOf", desc := "(I)V" } : Jvm.MethodName)) ∈ lw_all := lw_g (lw_at lw_m4 199 rfl) rfl
theorem q1046 : (Jvm.Cond.privateMethod ({ cls := "TallTowers", name := "insurerOf", desc := "(I)V" } : Jvm.MethodName)) ∈ lw_tbl := lw_at lw_m4 200 rfl
theorem q1047 : (Jvm.Cond.instanceMethod ({ cls := "TallTowers", name := "insurerOf", desc := "(I)V" } : Jvm.MethodName)) ∈ lw_all := lw_g (lw_at lw_m4 201 rfl) rfl
theorem q1048 : (Jvm.Cond.code ({ cls := "TallTowers", name := "insurerOf", desc := "(I)V" } : Jvm.MethodName) prog_1_method_8_code (2 : Nat) (Option.none : Option Jvm.ClassFile.FieldType)) ∈ lw_all := lw_g (lw_at lw_m4 202 rfl) rfl
theorem q1049 : (Jvm.Cond.static ({ cls := "TallTowers", name := "lambda$sign$1", desc := "(IIILTallTowers$World;)Z" } : Jvm.MethodName)) ∈ lw_all := lw_g (lw_at lw_m4 203 rfl) rfl
theorem q1050 : (Jvm.Cond.code ({ cls := "TallTowers", name := "lambda$sign$1", desc := "(IIILTallTowers$World;)Z" } : Jvm.MethodName) prog_1_method_89_code (4 : Nat) (Option.some Jvm.ClassFile.FieldType.boolean)) ∈ lw_all := lw_g (lw_at lw_m4 204 rfl) rfl
theorem q1051 : (Jvm.Cond.methodLink "TallTowers" (475 : Nat) ({ cls := "TallTowers$World", name := "signs", desc := "(III)Z" } : Jvm.MethodName)) ∈ lw_all := lw_g (lw_at lw_m4 205 rfl) rfl
theorem q1067 : (Jvm.Cond.methodLink "TallTowers" (127 : Nat) ({ cls := "TallTowers$Layer", name := "allTenths", desc := "()I" } : Jvm.MethodName)) ∈ lw_all := lw_g (lw_at lw_m4 221 rfl) rfl
theorem q1072 : (Jvm.Cond.instanceMethod ({ cls := "TallTowers", name := "lack", desc := "(I)I" } : Jvm.MethodName)) ∈ lw_all := lw_g (lw_at lw_m4 226 rfl) rfl
theorem q1073 : (Jvm.Cond.selects "TallTowers" ({ cls := "TallTowers", name := "lack", desc := "(I)I" } : Jvm.MethodName) ({ cls := "TallTowers", name := "lack", desc := "(I)I" } : Jvm.MethodName)) ∈ lw_all := lw_g (lw_at lw_m4 227 rfl) rfl
theorem q1074 : (Jvm.Cond.code ({ cls := "TallTowers", name := "lack", desc := "(I)I" } : Jvm.MethodName) prog_1_method_16_code (2 : Nat) (Option.some Jvm.ClassFile.FieldType.int)) ∈ lw_all := lw_g (lw_at lw_m4 228 rfl) rfl
theorem q1075 : (Jvm.Cond.static ({ cls := "TallTowers", name := "lambda$lack$2", desc := "(ILTallTowers$World;)Z" } : Jvm.MethodName)) ∈ lw_all := lw_g (lw_at lw_m4 229 rfl) rfl
theorem q1076 : (Jvm.Cond.code ({ cls := "TallTowers", name := "lambda$lack$2", desc := "(ILTallTowers$World;)Z" } : Jvm.MethodName) prog_1_method_88_code (2 : Nat) (Option.some Jvm.ClassFile.FieldType.boolean)) ∈ lw_all := lw_g (lw_at lw_m4 230 rfl) rfl
theorem q1077 : (Jvm.Cond.methodLink "TallTowers" (472 : Nat) ({ cls := "TallTowers$World", name := "goesWithout", desc := "(I)Z" } : Jvm.MethodName)) ∈ lw_all := lw_g (lw_at lw_m4 231 rfl) rfl
theorem q1081 : (Jvm.Cond.methodLink "TallTowers" (139 : Nat) ({ cls := "java/lang/Integer", name := "bitCount", desc := "(I)I" } : Jvm.MethodName)) ∈ lw_all := lw_g (lw_at lw_m4 235 rfl) rfl
theorem q1091 : (Jvm.Cond.instanceMethod ({ cls := "TallTowers", name := "rules", desc := "(III)I" } : Jvm.MethodName)) ∈ lw_all := lw_g (lw_at lw_m5 5 rfl) rfl
theorem q1092 : (Jvm.Cond.selects "TallTowers" ({ cls := "TallTowers", name := "rules", desc := "(III)I" } : Jvm.MethodName) ({ cls := "TallTowers", name := "rules", desc := "(III)I" } : Jvm.MethodName)) ∈ lw_all := lw_g (lw_at lw_m5 6 rfl) rfl
theorem q1093 : (Jvm.Cond.code ({ cls := "TallTowers", name := "rules", desc := "(III)I" } : Jvm.MethodName) prog_1_method_17_code (4 : Nat) (Option.some Jvm.ClassFile.FieldType.int)) ∈ lw_all := lw_g (lw_at lw_m5 7 rfl) rfl
theorem q1094 : (Jvm.Cond.methodLink "TallTowers" (143 : Nat) ({ cls := "TallTowers", name := "rulesOf", desc := "(III)V" } : Jvm.MethodName)) ∈ lw_all := lw_g (lw_at lw_m5 8 rfl) rfl
theorem q1095 : (Jvm.Cond.privateMethod ({ cls := "TallTowers", name := "rulesOf", desc := "(III)V" } : Jvm.MethodName)) ∈ lw_tbl := lw_at lw_m5 9 rfl
theorem q1096 : (Jvm.Cond.instanceMethod ({ cls := "TallTowers", name := "rulesOf", desc := "(III)V" } : Jvm.MethodName)) ∈ lw_all := lw_g (lw_at lw_m5 10 rfl) rfl
theorem q1097 : (Jvm.Cond.code ({ cls := "TallTowers", name := "rulesOf", desc := "(III)V" } : Jvm.MethodName) prog_1_method_9_code (4 : Nat) (Option.none : Option Jvm.ClassFile.FieldType)) ∈ lw_all := lw_g (lw_at lw_m5 11 rfl) rfl
theorem q1098 : (Jvm.Cond.static ({ cls := "TallTowers", name := "lambda$rules$3", desc := "(IIILTallTowers$World;)Z" } : Jvm.MethodName)) ∈ lw_all := lw_g (lw_at lw_m5 12 rfl) rfl
theorem q1099 : (Jvm.Cond.code ({ cls := "TallTowers", name := "lambda$rules$3", desc := "(IIILTallTowers$World;)Z" } : Jvm.MethodName) prog_1_method_87_code (4 : Nat) (Option.some Jvm.ClassFile.FieldType.boolean)) ∈ lw_all := lw_g (lw_at lw_m5 13 rfl) rfl
theorem q1100 : (Jvm.Cond.methodLink "TallTowers" (469 : Nat) ({ cls := "TallTowers$World", name := "rulesBy", desc := "(III)Z" } : Jvm.MethodName)) ∈ lw_all := lw_g (lw_at lw_m5 14 rfl) rfl
theorem q1108 : (Jvm.Cond.instanceMethod ({ cls := "TallTowers", name := "harm", desc := "(IIII)I" } : Jvm.MethodName)) ∈ lw_all := lw_g (lw_at lw_m5 22 rfl) rfl
theorem q1109 : (Jvm.Cond.selects "TallTowers" ({ cls := "TallTowers", name := "harm", desc := "(IIII)I" } : Jvm.MethodName) ({ cls := "TallTowers", name := "harm", desc := "(IIII)I" } : Jvm.MethodName)) ∈ lw_all := lw_g (lw_at lw_m5 23 rfl) rfl
theorem q1110 : (Jvm.Cond.code ({ cls := "TallTowers", name := "harm", desc := "(IIII)I" } : Jvm.MethodName) prog_1_method_18_code (6 : Nat) (Option.some Jvm.ClassFile.FieldType.int)) ∈ lw_all := lw_g (lw_at lw_m5 24 rfl) rfl
theorem q1111 : (Jvm.Cond.methodLink "TallTowers" (156 : Nat) ({ cls := "TallTowers", name := "spanOf", desc := "(III)V" } : Jvm.MethodName)) ∈ lw_all := lw_g (lw_at lw_m5 25 rfl) rfl
theorem q1112 : (Jvm.Cond.privateMethod ({ cls := "TallTowers", name := "spanOf", desc := "(III)V" } : Jvm.MethodName)) ∈ lw_tbl := lw_at lw_m5 26 rfl
theorem q1113 : (Jvm.Cond.instanceMethod ({ cls := "TallTowers", name := "spanOf", desc := "(III)V" } : Jvm.MethodName)) ∈ lw_all := lw_g (lw_at lw_m5 27 rfl) rfl
theorem q1114 : (Jvm.Cond.code ({ cls := "TallTowers", name := "spanOf", desc := "(III)V" } : Jvm.MethodName) prog_1_method_10_code (4 : Nat) (Option.none : Option Jvm.ClassFile.FieldType)) ∈ lw_all := lw_g (lw_at lw_m5 28 rfl) rfl
theorem q1115 : (Jvm.Cond.constant "TallTowers" (159 : Nat) (1000000000 : Int32)) ∈ lw_all := lw_g (lw_at lw_m5 29 rfl) rfl
theorem q1116 : (Jvm.Cond.static ({ cls := "TallTowers", name := "lambda$harm$4", desc := "(IIIIILTallTowers$World;)Z" } : Jvm.MethodName)) ∈ lw_all := lw_g (lw_at lw_m5 30 rfl) rfl
theorem q1117 : (Jvm.Cond.code ({ cls := "TallTowers", name := "lambda$harm$4", desc := "(IIIIILTallTowers$World;)Z" } : Jvm.MethodName) prog_1_method_86_code (6 : Nat) (Option.some Jvm.ClassFile.FieldType.boolean)) ∈ lw_all := lw_g (lw_at lw_m5 31 rfl) rfl
theorem q1118 : (Jvm.Cond.methodLink "TallTowers" (465 : Nat) ({ cls := "TallTowers$World", name := "isHarmed", desc := "(IIIII)Z" } : Jvm.MethodName)) ∈ lw_all := lw_g (lw_at lw_m5 32 rfl) rfl
theorem q1164 : (Jvm.Cond.instanceMethod ({ cls := "TallTowers", name := "grow", desc := "(II)J" } : Jvm.MethodName)) ∈ lw_all := lw_g (lw_at lw_m5 78 rfl) rfl
theorem q1165 : (Jvm.Cond.selects "TallTowers" ({ cls := "TallTowers", name := "grow", desc := "(II)J" } : Jvm.MethodName) ({ cls := "TallTowers", name := "grow", desc := "(II)J" } : Jvm.MethodName)) ∈ lw_all := lw_g (lw_at lw_m5 79 rfl) rfl
theorem q1166 : (Jvm.Cond.code ({ cls := "TallTowers", name := "grow", desc := "(II)J" } : Jvm.MethodName) prog_1_method_19_code (6 : Nat) (Option.some Jvm.ClassFile.FieldType.long)) ∈ lw_all := lw_g (lw_at lw_m5 80 rfl) rfl
theorem q1167 : (Jvm.Cond.methodLink "TallTowers" (161 : Nat) ({ cls := "TallTowers", name := "harmOf", desc := "(I)LTallTowers$Harm;" } : Jvm.MethodName)) ∈ lw_all := lw_g (lw_at lw_m5 81 rfl) rfl
theorem q1168 : (Jvm.Cond.privateMethod ({ cls := "TallTowers", name := "harmOf", desc := "(I)LTallTowers$Harm;" } : Jvm.MethodName)) ∈ lw_tbl := lw_at lw_m5 82 rfl
theorem q1169 : (Jvm.Cond.instanceMethod ({ cls := "TallTowers", name := "harmOf", desc := "(I)LTallTowers$Harm;" } : Jvm.MethodName)) ∈ lw_all := lw_g (lw_at lw_m5 83 rfl) rfl
theorem q1170 : (Jvm.Cond.code ({ cls := "TallTowers", name := "harmOf", desc := "(I)LTallTowers$Harm;" } : Jvm.MethodName) prog_1_method_5_code (2 : Nat) (Option.some (Jvm.ClassFile.FieldType.object "TallTowers$Harm"))) ∈ lw_all := lw_g (lw_at lw_m5 84 rfl) rfl
theorem q1171 : (Jvm.Cond.methodLink "TallTowers" (165 : Nat) ({ cls := "TallTowers$Harm", name := "borne", desc := "(I)J" } : Jvm.MethodName)) ∈ lw_all := lw_g (lw_at lw_m5 85 rfl) rfl
theorem q1177 : (Jvm.Cond.static ({ cls := "TallTowers", name := "lambda$grow$5", desc := "(IILTallTowers$World;)Z" } : Jvm.MethodName)) ∈ lw_all := lw_g (lw_at lw_m5 91 rfl) rfl
theorem q1178 : (Jvm.Cond.code ({ cls := "TallTowers", name := "lambda$grow$5", desc := "(IILTallTowers$World;)Z" } : Jvm.MethodName) prog_1_method_85_code (3 : Nat) (Option.some Jvm.ClassFile.FieldType.boolean)) ∈ lw_all := lw_g (lw_at lw_m5 92 rfl) rfl
theorem q1179 : (Jvm.Cond.methodLink "TallTowers" (461 : Nat) ({ cls := "TallTowers$World", name := "grows", desc := "(II)Z" } : Jvm.MethodName)) ∈ lw_all := lw_g (lw_at lw_m5 93 rfl) rfl
theorem q1187 : (Jvm.Cond.instanceMethod ({ cls := "TallTowers", name := "settle", desc := "(II)I" } : Jvm.MethodName)) ∈ lw_all := lw_g (lw_at lw_m5 101 rfl) rfl
theorem q1188 : (Jvm.Cond.selects "TallTowers" ({ cls := "TallTowers", name := "settle", desc := "(II)I" } : Jvm.MethodName) ({ cls := "TallTowers", name := "settle", desc := "(II)I" } : Jvm.MethodName)) ∈ lw_all := lw_g (lw_at lw_m5 102 rfl) rfl
theorem q1189 : (Jvm.Cond.code ({ cls := "TallTowers", name := "settle", desc := "(II)I" } : Jvm.MethodName) prog_1_method_20_code (3 : Nat) (Option.some Jvm.ClassFile.FieldType.int)) ∈ lw_all := lw_g (lw_at lw_m5 103 rfl) rfl
theorem q1190 : (Jvm.Cond.static ({ cls := "TallTowers", name := "lambda$settle$6", desc := "(IILTallTowers$World;)Z" } : Jvm.MethodName)) ∈ lw_all := lw_g (lw_at lw_m5 104 rfl) rfl
theorem q1191 : (Jvm.Cond.code ({ cls := "TallTowers", name := "lambda$settle$6", desc := "(IILTallTowers$World;)Z" } : Jvm.MethodName) prog_1_method_84_code (3 : Nat) (Option.some Jvm.ClassFile.FieldType.boolean)) ∈ lw_all := lw_g (lw_at lw_m5 105 rfl) rfl
theorem q1192 : (Jvm.Cond.methodLink "TallTowers" (457 : Nat) ({ cls := "TallTowers$World", name := "turns", desc := "(III)Z" } : Jvm.MethodName)) ∈ lw_all := lw_g (lw_at lw_m5 106 rfl) rfl
theorem q1196 : (Jvm.Cond.methodLink "TallTowers" (173 : Nat) ({ cls := "TallTowers$World", name := "inStatus", desc := "(I)I" } : Jvm.MethodName)) ∈ lw_all := lw_g (lw_at lw_m5 110 rfl) rfl
theorem q1204 : (Jvm.Cond.instanceMethod ({ cls := "TallTowers", name := "fall", desc := "(I)I" } : Jvm.MethodName)) ∈ lw_all := lw_g (lw_at lw_m5 118 rfl) rfl
theorem q1205 : (Jvm.Cond.selects "TallTowers" ({ cls := "TallTowers", name := "fall", desc := "(I)I" } : Jvm.MethodName) ({ cls := "TallTowers", name := "fall", desc := "(I)I" } : Jvm.MethodName)) ∈ lw_all := lw_g (lw_at lw_m5 119 rfl) rfl
theorem q1206 : (Jvm.Cond.code ({ cls := "TallTowers", name := "fall", desc := "(I)I" } : Jvm.MethodName) prog_1_method_21_code (2 : Nat) (Option.some Jvm.ClassFile.FieldType.int)) ∈ lw_all := lw_g (lw_at lw_m5 120 rfl) rfl
theorem q1207 : (Jvm.Cond.static ({ cls := "TallTowers", name := "lambda$fall$7", desc := "(ILTallTowers$World;)Z" } : Jvm.MethodName)) ∈ lw_all := lw_g (lw_at lw_m5 121 rfl) rfl
theorem q1208 : (Jvm.Cond.code ({ cls := "TallTowers", name := "lambda$fall$7", desc := "(ILTallTowers$World;)Z" } : Jvm.MethodName) prog_1_method_83_code (2 : Nat) (Option.some Jvm.ClassFile.FieldType.boolean)) ∈ lw_all := lw_g (lw_at lw_m5 122 rfl) rfl
theorem q1213 : (Jvm.Cond.instanceMethod ({ cls := "TallTowers", name := "reopen", desc := "(I)J" } : Jvm.MethodName)) ∈ lw_all := lw_g (lw_at lw_m5 127 rfl) rfl
theorem q1214 : (Jvm.Cond.selects "TallTowers" ({ cls := "TallTowers", name := "reopen", desc := "(I)J" } : Jvm.MethodName) ({ cls := "TallTowers", name := "reopen", desc := "(I)J" } : Jvm.MethodName)) ∈ lw_all := lw_g (lw_at lw_m5 128 rfl) rfl
theorem q1215 : (Jvm.Cond.code ({ cls := "TallTowers", name := "reopen", desc := "(I)J" } : Jvm.MethodName) prog_1_method_22_code (5 : Nat) (Option.some Jvm.ClassFile.FieldType.long)) ∈ lw_all := lw_g (lw_at lw_m5 129 rfl) rfl
theorem q1216 : (Jvm.Cond.static ({ cls := "TallTowers", name := "lambda$reopen$8", desc := "(ILTallTowers$World;)Z" } : Jvm.MethodName)) ∈ lw_all := lw_g (lw_at lw_m5 130 rfl) rfl
theorem q1217 : (Jvm.Cond.code ({ cls := "TallTowers", name := "lambda$reopen$8", desc := "(ILTallTowers$World;)Z" } : Jvm.MethodName) prog_1_method_82_code (2 : Nat) (Option.some Jvm.ClassFile.FieldType.boolean)) ∈ lw_all := lw_g (lw_at lw_m5 131 rfl) rfl
theorem q1218 : (Jvm.Cond.methodLink "TallTowers" (454 : Nat) ({ cls := "TallTowers$World", name := "opensAgain", desc := "(I)Z" } : Jvm.MethodName)) ∈ lw_all := lw_g (lw_at lw_m5 132 rfl) rfl
theorem q1231 : (Jvm.Cond.instanceMethod ({ cls := "TallTowers", name := "told", desc := "(I)I" } : Jvm.MethodName)) ∈ lw_all := lw_g (lw_at lw_m5 145 rfl) rfl
theorem q1232 : (Jvm.Cond.selects "TallTowers" ({ cls := "TallTowers", name := "told", desc := "(I)I" } : Jvm.MethodName) ({ cls := "TallTowers", name := "told", desc := "(I)I" } : Jvm.MethodName)) ∈ lw_all := lw_g (lw_at lw_m5 146 rfl) rfl
theorem q1233 : (Jvm.Cond.code ({ cls := "TallTowers", name := "told", desc := "(I)I" } : Jvm.MethodName) prog_1_method_26_code (2 : Nat) (Option.some Jvm.ClassFile.FieldType.int)) ∈ lw_all := lw_g (lw_at lw_m5 147 rfl) rfl
theorem q1234 : (Jvm.Cond.methodLink "TallTowers" (192 : Nat) ({ cls := "TallTowers", name := "gaps", desc := "()I" } : Jvm.MethodName)) ∈ lw_all := lw_g (lw_at lw_m5 148 rfl) rfl
theorem q1235 : (Jvm.Cond.privateMethod ({ cls := "TallTowers", name := "gaps", desc := "()I" } : Jvm.MethodName)) ∈ lw_tbl := lw_at lw_m5 149 rfl
theorem q1236 : (Jvm.Cond.instanceMethod ({ cls := "TallTowers", name := "gaps", desc := "()I" } : Jvm.MethodName)) ∈ lw_all := lw_g (lw_at lw_m5 150 rfl) rfl
theorem q1237 : (Jvm.Cond.code ({ cls := "TallTowers", name := "gaps", desc := "()I" } : Jvm.MethodName) prog_1_method_24_code (3 : Nat) (Option.some Jvm.ClassFile.FieldType.int)) ∈ lw_all := lw_g (lw_at lw_m5 151 rfl) rfl
theorem q1238 : (Jvm.Cond.methodLink "TallTowers" (182 : Nat) ({ cls := "TallTowers$World", name := "isGap", desc := "(I)Z" } : Jvm.MethodName)) ∈ lw_all := lw_g (lw_at lw_m5 152 rfl) rfl
theorem q1239 : (Jvm.Cond.methodLink "TallTowers" (195 : Nat) ({ cls := "TallTowers", name := "signing", desc := "()I" } : Jvm.MethodName)) ∈ lw_all := lw_g (lw_at lw_m5 153 rfl) rfl
theorem q1240 : (Jvm.Cond.privateMethod ({ cls := "TallTowers", name := "signing", desc := "()I" } : Jvm.MethodName)) ∈ lw_tbl := lw_at lw_m5 154 rfl
theorem q1241 : (Jvm.Cond.instanceMethod ({ cls := "TallTowers", name := "signing", desc := "()I" } : Jvm.MethodName)) ∈ lw_all := lw_g (lw_at lw_m5 155 rfl) rfl
theorem q1242 : (Jvm.Cond.code ({ cls := "TallTowers", name := "signing", desc := "()I" } : Jvm.MethodName) prog_1_method_25_code (4 : Nat) (Option.some Jvm.ClassFile.FieldType.int)) ∈ lw_all := lw_g (lw_at lw_m5 156 rfl) rfl
theorem q1247 : (Jvm.Cond.instanceMethod ({ cls := "TallTowers", name := "event", desc := "(II)I" } : Jvm.MethodName)) ∈ lw_all := lw_g (lw_at lw_m5 161 rfl) rfl
theorem q1248 : (Jvm.Cond.selects "TallTowers" ({ cls := "TallTowers", name := "event", desc := "(II)I" } : Jvm.MethodName) ({ cls := "TallTowers", name := "event", desc := "(II)I" } : Jvm.MethodName)) ∈ lw_all := lw_g (lw_at lw_m5 162 rfl) rfl
theorem q1249 : (Jvm.Cond.code ({ cls := "TallTowers", name := "event", desc := "(II)I" } : Jvm.MethodName) prog_1_method_27_code (3 : Nat) (Option.some Jvm.ClassFile.FieldType.int)) ∈ lw_all := lw_g (lw_at lw_m5 163 rfl) rfl
theorem q1254 : (Jvm.Cond.instanceMethod ({ cls := "TallTowers", name := "layer", desc := "(II)J" } : Jvm.MethodName)) ∈ lw_all := lw_g (lw_at lw_m5 168 rfl) rfl
theorem q1255 : (Jvm.Cond.selects "TallTowers" ({ cls := "TallTowers", name := "layer", desc := "(II)J" } : Jvm.MethodName) ({ cls := "TallTowers", name := "layer", desc := "(II)J" } : Jvm.MethodName)) ∈ lw_all := lw_g (lw_at lw_m5 169 rfl) rfl
theorem q1256 : (Jvm.Cond.code ({ cls := "TallTowers", name := "layer", desc := "(II)J" } : Jvm.MethodName) prog_1_method_28_code (4 : Nat) (Option.some Jvm.ClassFile.FieldType.long)) ∈ lw_all := lw_g (lw_at lw_m5 170 rfl) rfl
theorem q1257 : (Jvm.Cond.methodLink "TallTowers" (224 : Nat) ({ cls := "TallTowers$World", name := "placeOf", desc := "(LTallTowers$Layer;)I" } : Jvm.MethodName)) ∈ lw_all := lw_g (lw_at lw_m5 171 rfl) rfl
theorem q1261 : (Jvm.Cond.methodLink "TallTowers" (228 : Nat) ({ cls := "TallTowers$World", name := "holeOf", desc := "(II)I" } : Jvm.MethodName)) ∈ lw_all := lw_g (lw_at lw_m5 175 rfl) rfl
theorem q1266 : (Jvm.Cond.instanceMethod ({ cls := "TallTowers", name := "signed", desc := "(III)J" } : Jvm.MethodName)) ∈ lw_all := lw_g (lw_at lw_m5 180 rfl) rfl
theorem q1267 : (Jvm.Cond.selects "TallTowers" ({ cls := "TallTowers", name := "signed", desc := "(III)J" } : Jvm.MethodName) ({ cls := "TallTowers", name := "signed", desc := "(III)J" } : Jvm.MethodName)) ∈ lw_all := lw_g (lw_at lw_m5 181 rfl) rfl
theorem q1268 : (Jvm.Cond.code ({ cls := "TallTowers", name := "signed", desc := "(III)J" } : Jvm.MethodName) prog_1_method_29_code (5 : Nat) (Option.some Jvm.ClassFile.FieldType.long)) ∈ lw_all := lw_g (lw_at lw_m5 182 rfl) rfl
theorem q1269 : (Jvm.Cond.methodLink "TallTowers" (232 : Nat) ({ cls := "TallTowers", name := "placeOf", desc := "(I)V" } : Jvm.MethodName)) ∈ lw_all := lw_g (lw_at lw_m5 183 rfl) rfl
theorem q1270 : (Jvm.Cond.privateMethod ({ cls := "TallTowers", name := "placeOf", desc := "(I)V" } : Jvm.MethodName)) ∈ lw_tbl := lw_at lw_m5 184 rfl
theorem q1271 : (Jvm.Cond.instanceMethod ({ cls := "TallTowers", name := "placeOf", desc := "(I)V" } : Jvm.MethodName)) ∈ lw_all := lw_g (lw_at lw_m5 185 rfl) rfl
theorem q1272 : (Jvm.Cond.code ({ cls := "TallTowers", name := "placeOf", desc := "(I)V" } : Jvm.MethodName) prog_1_method_11_code (2 : Nat) (Option.none : Option Jvm.ClassFile.FieldType)) ∈ lw_all := lw_g (lw_at lw_m5 186 rfl) rfl
theorem q1273 : (Jvm.Cond.constant "TallTowers" (89 : Nat) (2147483647 : Int32)) ∈ lw_all := lw_g (lw_at lw_m5 187 rfl) rfl
theorem q1274 : (Jvm.Cond.constantLong "TallTowers" (234 : Nat) (-1 : Int64)) ∈ lw_all := lw_g (lw_at lw_m5 188 rfl) rfl
theorem q1279 : (Jvm.Cond.instanceMethod ({ cls := "TallTowers", name := "year", desc := "(II)J" } : Jvm.MethodName)) ∈ lw_all := lw_g (lw_at lw_m5 193 rfl) rfl
theorem q1280 : (Jvm.Cond.selects "TallTowers" ({ cls := "TallTowers", name := "year", desc := "(II)J" } : Jvm.MethodName) ({ cls := "TallTowers", name := "year", desc := "(II)J" } : Jvm.MethodName)) ∈ lw_all := lw_g (lw_at lw_m5 194 rfl) rfl
theorem q1281 : (Jvm.Cond.code ({ cls := "TallTowers", name := "year", desc := "(II)J" } : Jvm.MethodName) prog_1_method_31_code (4 : Nat) (Option.some Jvm.ClassFile.FieldType.long)) ∈ lw_all := lw_g (lw_at lw_m5 195 rfl) rfl
theorem q1282 : (Jvm.Cond.methodLink "TallTowers" (245 : Nat) ({ cls := "TallTowers$World", name := "layerAt", desc := "(II)LTallTowers$Layer;" } : Jvm.MethodName)) ∈ lw_all := lw_g (lw_at lw_m5 196 rfl) rfl
theorem q1283 : (Jvm.Cond.methodLink "TallTowers" (255 : Nat) ({ cls := "TallTowers$Layer", name := "top", desc := "()I" } : Jvm.MethodName)) ∈ lw_all := lw_g (lw_at lw_m5 197 rfl) rfl
theorem q1284 : (Jvm.Cond.static ({ cls := "TallTowers", name := "lambda$year$9", desc := "(LTallTowers$Layer;)J" } : Jvm.MethodName)) ∈ lw_all := lw_g (lw_at lw_m5 198 rfl) rfl
theorem q1285 : (Jvm.Cond.code ({ cls := "TallTowers", name := "lambda$year$9", desc := "(LTallTowers$Layer;)J" } : Jvm.MethodName) prog_1_method_81_code (1 : Nat) (Option.some Jvm.ClassFile.FieldType.long)) ∈ lw_all := lw_g (lw_at lw_m5 199 rfl) rfl
theorem q1286 : (Jvm.Cond.methodLink "TallTowers" (261 : Nat) ({ cls := "TallTowers", name := "sum", desc := "(ILTallTowers$Asked;)J" } : Jvm.MethodName)) ∈ lw_all := lw_g (lw_at lw_m5 200 rfl) rfl
theorem q1287 : (Jvm.Cond.privateMethod ({ cls := "TallTowers", name := "sum", desc := "(ILTallTowers$Asked;)J" } : Jvm.MethodName)) ∈ lw_tbl := lw_at lw_m5 201 rfl
theorem q1288 : (Jvm.Cond.instanceMethod ({ cls := "TallTowers", name := "sum", desc := "(ILTallTowers$Asked;)J" } : Jvm.MethodName)) ∈ lw_all := lw_g (lw_at lw_m5 202 rfl) rfl
theorem q1289 : (Jvm.Cond.code ({ cls := "TallTowers", name := "sum", desc := "(ILTallTowers$Asked;)J" } : Jvm.MethodName) prog_1_method_30_code (6 : Nat) (Option.some Jvm.ClassFile.FieldType.long)) ∈ lw_all := lw_g (lw_at lw_m5 203 rfl) rfl
theorem q1290 : (Jvm.Cond.interfaceEntry "TallTowers" (249 : Nat)) ∈ lw_tbl := lw_at lw_m5 204 rfl
theorem q1291 : (Jvm.Cond.methodLink "TallTowers" (249 : Nat) ({ cls := "TallTowers$Asked", name := "told", desc := "(LTallTowers$Layer;)J" } : Jvm.MethodName)) ∈ lw_all := lw_g (lw_at lw_m5 205 rfl) rfl
theorem q1294 : (Jvm.Cond.static ({ cls := "TallTowers", name := "lambda$year$10", desc := "(LTallTowers$Layer;)J" } : Jvm.MethodName)) ∈ lw_all := lw_g (lw_at lw_m5 208 rfl) rfl
theorem q1295 : (Jvm.Cond.code ({ cls := "TallTowers", name := "lambda$year$10", desc := "(LTallTowers$Layer;)J" } : Jvm.MethodName) prog_1_method_80_code (1 : Nat) (Option.some Jvm.ClassFile.FieldType.long)) ∈ lw_all := lw_g (lw_at lw_m5 209 rfl) rfl
theorem q1296 : (Jvm.Cond.static ({ cls := "TallTowers", name := "lambda$year$11", desc := "(LTallTowers$Layer;)J" } : Jvm.MethodName)) ∈ lw_all := lw_g (lw_at lw_m5 210 rfl) rfl
theorem q1297 : (Jvm.Cond.code ({ cls := "TallTowers", name := "lambda$year$11", desc := "(LTallTowers$Layer;)J" } : Jvm.MethodName) prog_1_method_79_code (1 : Nat) (Option.some Jvm.ClassFile.FieldType.long)) ∈ lw_all := lw_g (lw_at lw_m5 211 rfl) rfl
theorem q1298 : (Jvm.Cond.static ({ cls := "TallTowers", name := "lambda$year$12", desc := "(LTallTowers$Layer;)J" } : Jvm.MethodName)) ∈ lw_all := lw_g (lw_at lw_m5 212 rfl) rfl
theorem q1299 : (Jvm.Cond.code ({ cls := "TallTowers", name := "lambda$year$12", desc := "(LTallTowers$Layer;)J" } : Jvm.MethodName) prog_1_method_78_code (1 : Nat) (Option.some Jvm.ClassFile.FieldType.long)) ∈ lw_all := lw_g (lw_at lw_m5 213 rfl) rfl
theorem q1304 : (Jvm.Cond.instanceMethod ({ cls := "TallTowers", name := "at", desc := "(II)I" } : Jvm.MethodName)) ∈ lw_all := lw_g (lw_at lw_m5 218 rfl) rfl
theorem q1305 : (Jvm.Cond.selects "TallTowers" ({ cls := "TallTowers", name := "at", desc := "(II)I" } : Jvm.MethodName) ({ cls := "TallTowers", name := "at", desc := "(II)I" } : Jvm.MethodName)) ∈ lw_all := lw_g (lw_at lw_m5 219 rfl) rfl
theorem q1306 : (Jvm.Cond.code ({ cls := "TallTowers", name := "at", desc := "(II)I" } : Jvm.MethodName) prog_1_method_32_code (5 : Nat) (Option.some Jvm.ClassFile.FieldType.int)) ∈ lw_all := lw_g (lw_at lw_m5 220 rfl) rfl
theorem q1311 : (Jvm.Cond.instanceMethod ({ cls := "TallTowers", name := "rung", desc := "(II)I" } : Jvm.MethodName)) ∈ lw_all := lw_g (lw_at lw_m5 225 rfl) rfl
theorem q1312 : (Jvm.Cond.selects "TallTowers" ({ cls := "TallTowers", name := "rung", desc := "(II)I" } : Jvm.MethodName) ({ cls := "TallTowers", name := "rung", desc := "(II)I" } : Jvm.MethodName)) ∈ lw_all := lw_g (lw_at lw_m5 226 rfl) rfl
theorem q1313 : (Jvm.Cond.code ({ cls := "TallTowers", name := "rung", desc := "(II)I" } : Jvm.MethodName) prog_1_method_33_code (3 : Nat) (Option.some Jvm.ClassFile.FieldType.int)) ∈ lw_all := lw_g (lw_at lw_m5 227 rfl) rfl
theorem q1318 : (Jvm.Cond.instanceMethod ({ cls := "TallTowers", name := "damage", desc := "(II)J" } : Jvm.MethodName)) ∈ lw_all := lw_g (lw_at lw_m5 232 rfl) rfl
theorem q1319 : (Jvm.Cond.selects "TallTowers" ({ cls := "TallTowers", name := "damage", desc := "(II)J" } : Jvm.MethodName) ({ cls := "TallTowers", name := "damage", desc := "(II)J" } : Jvm.MethodName)) ∈ lw_all := lw_g (lw_at lw_m5 233 rfl) rfl
theorem q1320 : (Jvm.Cond.code ({ cls := "TallTowers", name := "damage", desc := "(II)J" } : Jvm.MethodName) prog_1_method_34_code (4 : Nat) (Option.some Jvm.ClassFile.FieldType.long)) ∈ lw_all := lw_g (lw_at lw_m5 234 rfl) rfl
theorem q1325 : (Jvm.Cond.instanceMethod ({ cls := "TallTowers", name := "took", desc := "(II)J" } : Jvm.MethodName)) ∈ lw_all := lw_g (lw_at lw_m5 239 rfl) rfl
theorem q1326 : (Jvm.Cond.selects "TallTowers" ({ cls := "TallTowers", name := "took", desc := "(II)J" } : Jvm.MethodName) ({ cls := "TallTowers", name := "took", desc := "(II)J" } : Jvm.MethodName)) ∈ lw_all := lw_g (lw_at lw_m6 0 rfl) rfl
theorem q1327 : (Jvm.Cond.code ({ cls := "TallTowers", name := "took", desc := "(II)J" } : Jvm.MethodName) prog_1_method_35_code (3 : Nat) (Option.some Jvm.ClassFile.FieldType.long)) ∈ lw_all := lw_g (lw_at lw_m6 1 rfl) rfl
theorem q1332 : (Jvm.Cond.instanceMethod ({ cls := "TallTowers", name := "hole", desc := "(II)J" } : Jvm.MethodName)) ∈ lw_all := lw_g (lw_at lw_m6 6 rfl) rfl
theorem q1333 : (Jvm.Cond.selects "TallTowers" ({ cls := "TallTowers", name := "hole", desc := "(II)J" } : Jvm.MethodName) ({ cls := "TallTowers", name := "hole", desc := "(II)J" } : Jvm.MethodName)) ∈ lw_all := lw_g (lw_at lw_m6 7 rfl) rfl
theorem q1334 : (Jvm.Cond.code ({ cls := "TallTowers", name := "hole", desc := "(II)J" } : Jvm.MethodName) prog_1_method_36_code (3 : Nat) (Option.some Jvm.ClassFile.FieldType.long)) ∈ lw_all := lw_g (lw_at lw_m6 8 rfl) rfl
theorem q1339 : (Jvm.Cond.instanceMethod ({ cls := "TallTowers", name := "moved", desc := "(II)J" } : Jvm.MethodName)) ∈ lw_all := lw_g (lw_at lw_m6 13 rfl) rfl
theorem q1340 : (Jvm.Cond.selects "TallTowers" ({ cls := "TallTowers", name := "moved", desc := "(II)J" } : Jvm.MethodName) ({ cls := "TallTowers", name := "moved", desc := "(II)J" } : Jvm.MethodName)) ∈ lw_all := lw_g (lw_at lw_m6 14 rfl) rfl
theorem q1341 : (Jvm.Cond.code ({ cls := "TallTowers", name := "moved", desc := "(II)J" } : Jvm.MethodName) prog_1_method_37_code (3 : Nat) (Option.some Jvm.ClassFile.FieldType.long)) ∈ lw_all := lw_g (lw_at lw_m6 15 rfl) rfl
theorem q1346 : (Jvm.Cond.instanceMethod ({ cls := "TallTowers", name := "bears", desc := "(II)J" } : Jvm.MethodName)) ∈ lw_all := lw_g (lw_at lw_m6 20 rfl) rfl
theorem q1347 : (Jvm.Cond.selects "TallTowers" ({ cls := "TallTowers", name := "bears", desc := "(II)J" } : Jvm.MethodName) ({ cls := "TallTowers", name := "bears", desc := "(II)J" } : Jvm.MethodName)) ∈ lw_all := lw_g (lw_at lw_m6 21 rfl) rfl
theorem q1348 : (Jvm.Cond.code ({ cls := "TallTowers", name := "bears", desc := "(II)J" } : Jvm.MethodName) prog_1_method_38_code (4 : Nat) (Option.some Jvm.ClassFile.FieldType.long)) ∈ lw_all := lw_g (lw_at lw_m6 22 rfl) rfl
theorem q1353 : (Jvm.Cond.instanceMethod ({ cls := "TallTowers", name := "falls", desc := "(II)J" } : Jvm.MethodName)) ∈ lw_all := lw_g (lw_at lw_m6 27 rfl) rfl
theorem q1354 : (Jvm.Cond.selects "TallTowers" ({ cls := "TallTowers", name := "falls", desc := "(II)J" } : Jvm.MethodName) ({ cls := "TallTowers", name := "falls", desc := "(II)J" } : Jvm.MethodName)) ∈ lw_all := lw_g (lw_at lw_m6 28 rfl) rfl
theorem q1355 : (Jvm.Cond.code ({ cls := "TallTowers", name := "falls", desc := "(II)J" } : Jvm.MethodName) prog_1_method_39_code (4 : Nat) (Option.some Jvm.ClassFile.FieldType.long)) ∈ lw_all := lw_g (lw_at lw_m6 29 rfl) rfl
theorem q1360 : (Jvm.Cond.instanceMethod ({ cls := "TallTowers", name := "insurer", desc := "(II)J" } : Jvm.MethodName)) ∈ lw_all := lw_g (lw_at lw_m6 34 rfl) rfl
theorem q1361 : (Jvm.Cond.selects "TallTowers" ({ cls := "TallTowers", name := "insurer", desc := "(II)J" } : Jvm.MethodName) ({ cls := "TallTowers", name := "insurer", desc := "(II)J" } : Jvm.MethodName)) ∈ lw_all := lw_g (lw_at lw_m6 35 rfl) rfl
theorem q1362 : (Jvm.Cond.code ({ cls := "TallTowers", name := "insurer", desc := "(II)J" } : Jvm.MethodName) prog_1_method_40_code (6 : Nat) (Option.some Jvm.ClassFile.FieldType.long)) ∈ lw_all := lw_g (lw_at lw_m6 36 rfl) rfl
theorem q1363 : (Jvm.Cond.methodLink "TallTowers" (302 : Nat) ({ cls := "TallTowers$World", name := "borneBy", desc := "(I)J" } : Jvm.MethodName)) ∈ lw_all := lw_g (lw_at lw_m6 37 rfl) rfl
theorem q1368 : (Jvm.Cond.methodLink "TallTowers" (311 : Nat) ({ cls := "TallTowers$Layer", name := "tenthsOf", desc := "(I)I" } : Jvm.MethodName)) ∈ lw_all := lw_g (lw_at lw_m6 42 rfl) rfl
theorem q1369 : (Jvm.Cond.constantLong "TallTowers" (314 : Nat) (10 : Int64)) ∈ lw_all := lw_g (lw_at lw_m6 43 rfl) rfl
theorem q1374 : (Jvm.Cond.instanceMethod ({ cls := "TallTowers", name := "burden", desc := "(I)J" } : Jvm.MethodName)) ∈ lw_all := lw_g (lw_at lw_m6 48 rfl) rfl
theorem q1375 : (Jvm.Cond.selects "TallTowers" ({ cls := "TallTowers", name := "burden", desc := "(I)J" } : Jvm.MethodName) ({ cls := "TallTowers", name := "burden", desc := "(I)J" } : Jvm.MethodName)) ∈ lw_all := lw_g (lw_at lw_m6 49 rfl) rfl
theorem q1376 : (Jvm.Cond.code ({ cls := "TallTowers", name := "burden", desc := "(I)J" } : Jvm.MethodName) prog_1_method_41_code (5 : Nat) (Option.some Jvm.ClassFile.FieldType.long)) ∈ lw_all := lw_g (lw_at lw_m6 50 rfl) rfl
theorem q1381 : (Jvm.Cond.instanceMethod ({ cls := "TallTowers", name := "rank", desc := "(I)I" } : Jvm.MethodName)) ∈ lw_all := lw_g (lw_at lw_m6 55 rfl) rfl
theorem q1382 : (Jvm.Cond.selects "TallTowers" ({ cls := "TallTowers", name := "rank", desc := "(I)I" } : Jvm.MethodName) ({ cls := "TallTowers", name := "rank", desc := "(I)I" } : Jvm.MethodName)) ∈ lw_all := lw_g (lw_at lw_m6 56 rfl) rfl
theorem q1383 : (Jvm.Cond.code ({ cls := "TallTowers", name := "rank", desc := "(I)I" } : Jvm.MethodName) prog_1_method_42_code (6 : Nat) (Option.some Jvm.ClassFile.FieldType.int)) ∈ lw_all := lw_g (lw_at lw_m6 57 rfl) rfl
theorem q1384 : (Jvm.Cond.methodLink "TallTowers" (316 : Nat) ({ cls := "java/util/TreeSet", name := "clear", desc := "()V" } : Jvm.MethodName)) ∈ lw_all := lw_g (lw_at lw_m6 58 rfl) rfl
theorem q1395 : (Jvm.Cond.methodLink "TallTowers" (323 : Nat) ({ cls := "java/util/TreeSet", name := "add", desc := "(Ljava/lang/Object;)Z" } : Jvm.MethodName)) ∈ lw_all := lw_g (lw_at lw_m6 69 rfl) rfl
theorem q1488 : (Jvm.Cond.methodLink "TallTowers" (327 : Nat) ({ cls := "java/util/TreeSet", name := "first", desc := "()Ljava/lang/Object;" } : Jvm.MethodName)) ∈ lw_all := lw_g (lw_at lw_m6 162 rfl) rfl
theorem q1508 : (Jvm.Cond.methodLink "TallTowers" (330 : Nat) ({ cls := "java/util/TreeSet", name := "higher", desc := "(Ljava/lang/Object;)Ljava/lang/Object;" } : Jvm.MethodName)) ∈ lw_all := lw_g (lw_at lw_m6 182 rfl) rfl
theorem q1532 : (Jvm.Cond.instanceMethod ({ cls := "TallTowers", name := "offs", desc := "(IIII)I" } : Jvm.MethodName)) ∈ lw_all := lw_g (lw_at lw_m6 206 rfl) rfl
theorem q1533 : (Jvm.Cond.selects "TallTowers" ({ cls := "TallTowers", name := "offs", desc := "(IIII)I" } : Jvm.MethodName) ({ cls := "TallTowers", name := "offs", desc := "(IIII)I" } : Jvm.MethodName)) ∈ lw_all := lw_g (lw_at lw_m6 207 rfl) rfl
theorem q1534 : (Jvm.Cond.code ({ cls := "TallTowers", name := "offs", desc := "(IIII)I" } : Jvm.MethodName) prog_1_method_44_code (5 : Nat) (Option.some Jvm.ClassFile.FieldType.int)) ∈ lw_all := lw_g (lw_at lw_m6 208 rfl) rfl
theorem q1535 : (Jvm.Cond.methodLink "TallTowers" (338 : Nat) ({ cls := "TallTowers", name := "asIfBy", desc := "(III)LTallTowers$Harm;" } : Jvm.MethodName)) ∈ lw_all := lw_g (lw_at lw_m6 209 rfl) rfl
theorem q1536 : (Jvm.Cond.privateMethod ({ cls := "TallTowers", name := "asIfBy", desc := "(III)LTallTowers$Harm;" } : Jvm.MethodName)) ∈ lw_tbl := lw_at lw_m6 210 rfl
theorem q1537 : (Jvm.Cond.instanceMethod ({ cls := "TallTowers", name := "asIfBy", desc := "(III)LTallTowers$Harm;" } : Jvm.MethodName)) ∈ lw_all := lw_g (lw_at lw_m6 211 rfl) rfl
theorem q1538 : (Jvm.Cond.code ({ cls := "TallTowers", name := "asIfBy", desc := "(III)LTallTowers$Harm;" } : Jvm.MethodName) prog_1_method_43_code (4 : Nat) (Option.some (Jvm.ClassFile.FieldType.object "TallTowers$Harm"))) ∈ lw_all := lw_g (lw_at lw_m6 212 rfl) rfl
theorem q1539 : (Jvm.Cond.methodLink "TallTowers" (334 : Nat) ({ cls := "TallTowers$Harm", name := "begins", desc := "()V" } : Jvm.MethodName)) ∈ lw_all := lw_g (lw_at lw_m6 213 rfl) rfl
theorem q1540 : (Jvm.Cond.methodLink "TallTowers" (335 : Nat) ({ cls := "TallTowers$Harm", name := "goesOn", desc := "(III)V" } : Jvm.MethodName)) ∈ lw_all := lw_g (lw_at lw_m6 214 rfl) rfl
theorem q1541 : (Jvm.Cond.methodLink "TallTowers" (342 : Nat) ({ cls := "TallTowers$Harm", name := "setOff", desc := "(I)I" } : Jvm.MethodName)) ∈ lw_all := lw_g (lw_at lw_m6 215 rfl) rfl
theorem q1546 : (Jvm.Cond.instanceMethod ({ cls := "TallTowers", name := "would", desc := "(IIIII)J" } : Jvm.MethodName)) ∈ lw_all := lw_g (lw_at lw_m6 220 rfl) rfl
theorem q1547 : (Jvm.Cond.selects "TallTowers" ({ cls := "TallTowers", name := "would", desc := "(IIIII)J" } : Jvm.MethodName) ({ cls := "TallTowers", name := "would", desc := "(IIIII)J" } : Jvm.MethodName)) ∈ lw_all := lw_g (lw_at lw_m6 221 rfl) rfl
theorem q1548 : (Jvm.Cond.code ({ cls := "TallTowers", name := "would", desc := "(IIIII)J" } : Jvm.MethodName) prog_1_method_47_code (6 : Nat) (Option.some Jvm.ClassFile.FieldType.long)) ∈ lw_all := lw_g (lw_at lw_m6 222 rfl) rfl
theorem q1549 : (Jvm.Cond.methodLink "TallTowers" (349 : Nat) ({ cls := "TallTowers", name := "lossOf", desc := "(IIII)V" } : Jvm.MethodName)) ∈ lw_all := lw_g (lw_at lw_m6 223 rfl) rfl
theorem q1550 : (Jvm.Cond.privateMethod ({ cls := "TallTowers", name := "lossOf", desc := "(IIII)V" } : Jvm.MethodName)) ∈ lw_tbl := lw_at lw_m6 224 rfl
theorem q1551 : (Jvm.Cond.instanceMethod ({ cls := "TallTowers", name := "lossOf", desc := "(IIII)V" } : Jvm.MethodName)) ∈ lw_all := lw_g (lw_at lw_m6 225 rfl) rfl
theorem q1552 : (Jvm.Cond.code ({ cls := "TallTowers", name := "lossOf", desc := "(IIII)V" } : Jvm.MethodName) prog_1_method_46_code (5 : Nat) (Option.none : Option Jvm.ClassFile.FieldType)) ∈ lw_all := lw_g (lw_at lw_m6 226 rfl) rfl
theorem q1553 : (Jvm.Cond.methodLink "TallTowers" (353 : Nat) ({ cls := "TallTowers", name := "asIfTold", desc := "(IIII)LTallTowers$Flow;" } : Jvm.MethodName)) ∈ lw_all := lw_g (lw_at lw_m6 227 rfl) rfl
theorem q1554 : (Jvm.Cond.privateMethod ({ cls := "TallTowers", name := "asIfTold", desc := "(IIII)LTallTowers$Flow;" } : Jvm.MethodName)) ∈ lw_tbl := lw_at lw_m6 228 rfl
theorem q1555 : (Jvm.Cond.instanceMethod ({ cls := "TallTowers", name := "asIfTold", desc := "(IIII)LTallTowers$Flow;" } : Jvm.MethodName)) ∈ lw_all := lw_g (lw_at lw_m6 229 rfl) rfl
theorem q1556 : (Jvm.Cond.code ({ cls := "TallTowers", name := "asIfTold", desc := "(IIII)LTallTowers$Flow;" } : Jvm.MethodName) prog_1_method_45_code (5 : Nat) (Option.some (Jvm.ClassFile.FieldType.object "TallTowers$Flow"))) ∈ lw_all := lw_g (lw_at lw_m6 230 rfl) rfl
theorem q1557 : (Jvm.Cond.methodLink "TallTowers" (345 : Nat) ({ cls := "TallTowers$World", name := "flows", desc := "(LTallTowers$Harm;J)LTallTowers$Flow;" } : Jvm.MethodName)) ∈ lw_all := lw_g (lw_at lw_m6 231 rfl) rfl
theorem q1558 : (Jvm.Cond.methodLink "TallTowers" (357 : Nat) ({ cls := "TallTowers$Flow", name := "borne", desc := "(I)J" } : Jvm.MethodName)) ∈ lw_all := lw_g (lw_at lw_m6 232 rfl) rfl
theorem q1566 : (Jvm.Cond.instanceMethod ({ cls := "TallTowers", name := "takes", desc := "(IIIII)J" } : Jvm.MethodName)) ∈ lw_all := lw_g (lw_at lw_m7 0 rfl) rfl
theorem q1567 : (Jvm.Cond.selects "TallTowers" ({ cls := "TallTowers", name := "takes", desc := "(IIIII)J" } : Jvm.MethodName) ({ cls := "TallTowers", name := "takes", desc := "(IIIII)J" } : Jvm.MethodName)) ∈ lw_all := lw_g (lw_at lw_m7 1 rfl) rfl
theorem q1568 : (Jvm.Cond.code ({ cls := "TallTowers", name := "takes", desc := "(IIIII)J" } : Jvm.MethodName) prog_1_method_48_code (6 : Nat) (Option.some Jvm.ClassFile.FieldType.long)) ∈ lw_all := lw_g (lw_at lw_m7 2 rfl) rfl
theorem q1573 : (Jvm.Cond.instanceMethod ({ cls := "TallTowers", name := "drops", desc := "(IIIII)J" } : Jvm.MethodName)) ∈ lw_all := lw_g (lw_at lw_m7 7 rfl) rfl
theorem q1574 : (Jvm.Cond.selects "TallTowers" ({ cls := "TallTowers", name := "drops", desc := "(IIIII)J" } : Jvm.MethodName) ({ cls := "TallTowers", name := "drops", desc := "(IIIII)J" } : Jvm.MethodName)) ∈ lw_all := lw_g (lw_at lw_m7 8 rfl) rfl
theorem q1575 : (Jvm.Cond.code ({ cls := "TallTowers", name := "drops", desc := "(IIIII)J" } : Jvm.MethodName) prog_1_method_49_code (6 : Nat) (Option.some Jvm.ClassFile.FieldType.long)) ∈ lw_all := lw_g (lw_at lw_m7 9 rfl) rfl
theorem q1580 : (Jvm.Cond.instanceMethod ({ cls := "TallTowers", name := "share", desc := "(IIIII)J" } : Jvm.MethodName)) ∈ lw_all := lw_g (lw_at lw_m7 14 rfl) rfl
theorem q1581 : (Jvm.Cond.selects "TallTowers" ({ cls := "TallTowers", name := "share", desc := "(IIIII)J" } : Jvm.MethodName) ({ cls := "TallTowers", name := "share", desc := "(IIIII)J" } : Jvm.MethodName)) ∈ lw_all := lw_g (lw_at lw_m7 15 rfl) rfl
theorem q1582 : (Jvm.Cond.code ({ cls := "TallTowers", name := "share", desc := "(IIIII)J" } : Jvm.MethodName) prog_1_method_50_code (6 : Nat) (Option.some Jvm.ClassFile.FieldType.long)) ∈ lw_all := lw_g (lw_at lw_m7 16 rfl) rfl
theorem q1583 : (Jvm.Cond.methodLink "TallTowers" (362 : Nat) ({ cls := "TallTowers$World", name := "weighsByTime", desc := "(LTallTowers$Harm;)V" } : Jvm.MethodName)) ∈ lw_all := lw_g (lw_at lw_m7 17 rfl) rfl
theorem q1584 : (Jvm.Cond.methodLink "TallTowers" (372 : Nat) ({ cls := "TallTowers", name := "shares", desc := "(J[J[J)V" } : Jvm.MethodName)) ∈ lw_all := lw_g (lw_at lw_m7 18 rfl) rfl
theorem q1589 : (Jvm.Cond.instanceMethod ({ cls := "TallTowers", name := "weight", desc := "(IIII)J" } : Jvm.MethodName)) ∈ lw_all := lw_g (lw_at lw_m7 23 rfl) rfl
theorem q1590 : (Jvm.Cond.selects "TallTowers" ({ cls := "TallTowers", name := "weight", desc := "(IIII)J" } : Jvm.MethodName) ({ cls := "TallTowers", name := "weight", desc := "(IIII)J" } : Jvm.MethodName)) ∈ lw_all := lw_g (lw_at lw_m7 24 rfl) rfl
theorem q1591 : (Jvm.Cond.code ({ cls := "TallTowers", name := "weight", desc := "(IIII)J" } : Jvm.MethodName) prog_1_method_51_code (5 : Nat) (Option.some Jvm.ClassFile.FieldType.long)) ∈ lw_all := lw_g (lw_at lw_m7 25 rfl) rfl
theorem q1592 : (Jvm.Cond.methodLink "TallTowers" (376 : Nat) ({ cls := "TallTowers$World", name := "weighsBySizes", desc := "(LTallTowers$Harm;)V" } : Jvm.MethodName)) ∈ lw_all := lw_g (lw_at lw_m7 26 rfl) rfl
theorem q1597 : (Jvm.Cond.instanceMethod ({ cls := "TallTowers", name := "picks", desc := "(IIII)I" } : Jvm.MethodName)) ∈ lw_all := lw_g (lw_at lw_m7 31 rfl) rfl
theorem q1598 : (Jvm.Cond.selects "TallTowers" ({ cls := "TallTowers", name := "picks", desc := "(IIII)I" } : Jvm.MethodName) ({ cls := "TallTowers", name := "picks", desc := "(IIII)I" } : Jvm.MethodName)) ∈ lw_all := lw_g (lw_at lw_m7 32 rfl) rfl
theorem q1599 : (Jvm.Cond.code ({ cls := "TallTowers", name := "picks", desc := "(IIII)I" } : Jvm.MethodName) prog_1_method_52_code (6 : Nat) (Option.some Jvm.ClassFile.FieldType.int)) ∈ lw_all := lw_g (lw_at lw_m7 33 rfl) rfl
theorem q1600 : (Jvm.Cond.methodLink "TallTowers" (383 : Nat) ({ cls := "TallTowers$Flow", name := "begins", desc := "()V" } : Jvm.MethodName)) ∈ lw_all := lw_g (lw_at lw_m7 34 rfl) rfl
theorem q1601 : (Jvm.Cond.methodLink "TallTowers" (384 : Nat) ({ cls := "TallTowers$World", name := "lines", desc := "(LTallTowers$Harm;LTallTowers$Flow;)V" } : Jvm.MethodName)) ∈ lw_all := lw_g (lw_at lw_m7 35 rfl) rfl
theorem q1602 : (Jvm.Cond.methodLink "TallTowers" (392 : Nat) ({ cls := "java/util/PriorityQueue", name := "size", desc := "()I" } : Jvm.MethodName)) ∈ lw_all := lw_g (lw_at lw_m7 36 rfl) rfl
theorem q1603 : (Jvm.Cond.methodLink "TallTowers" (396 : Nat) ({ cls := "java/util/PriorityQueue", name := "poll", desc := "()Ljava/lang/Object;" } : Jvm.MethodName)) ∈ lw_all := lw_g (lw_at lw_m7 37 rfl) rfl
theorem q1604 : (Jvm.Cond.methodLink "TallTowers" (399 : Nat) ({ cls := "java/util/PriorityQueue", name := "peek", desc := "()Ljava/lang/Object;" } : Jvm.MethodName)) ∈ lw_all := lw_g (lw_at lw_m7 38 rfl) rfl
theorem q1608 : (Jvm.Cond.classLink "TallTowers" (402 : Nat) "TallTowers$Tower") ∈ lw_all := lw_g (lw_at lw_m7 42 rfl) rfl
theorem q1613 : (Jvm.Cond.instanceMethod ({ cls := "TallTowers", name := "other", desc := "(IIII)J" } : Jvm.MethodName)) ∈ lw_all := lw_g (lw_at lw_m7 47 rfl) rfl
theorem q1614 : (Jvm.Cond.selects "TallTowers" ({ cls := "TallTowers", name := "other", desc := "(IIII)J" } : Jvm.MethodName) ({ cls := "TallTowers", name := "other", desc := "(IIII)J" } : Jvm.MethodName)) ∈ lw_all := lw_g (lw_at lw_m7 48 rfl) rfl
theorem q1615 : (Jvm.Cond.code ({ cls := "TallTowers", name := "other", desc := "(IIII)J" } : Jvm.MethodName) prog_1_method_56_code (5 : Nat) (Option.some Jvm.ClassFile.FieldType.long)) ∈ lw_all := lw_g (lw_at lw_m7 49 rfl) rfl
theorem q1616 : (Jvm.Cond.methodLink "TallTowers" (415 : Nat) ({ cls := "TallTowers", name := "goneBy", desc := "(IIII)J" } : Jvm.MethodName)) ∈ lw_all := lw_g (lw_at lw_m7 50 rfl) rfl
theorem q1617 : (Jvm.Cond.privateMethod ({ cls := "TallTowers", name := "goneBy", desc := "(IIII)J" } : Jvm.MethodName)) ∈ lw_tbl := lw_at lw_m7 51 rfl
theorem q1618 : (Jvm.Cond.instanceMethod ({ cls := "TallTowers", name := "goneBy", desc := "(IIII)J" } : Jvm.MethodName)) ∈ lw_all := lw_g (lw_at lw_m7 52 rfl) rfl
theorem q1619 : (Jvm.Cond.code ({ cls := "TallTowers", name := "goneBy", desc := "(IIII)J" } : Jvm.MethodName) prog_1_method_54_code (5 : Nat) (Option.some Jvm.ClassFile.FieldType.long)) ∈ lw_all := lw_g (lw_at lw_m7 53 rfl) rfl
theorem q1620 : (Jvm.Cond.methodLink "TallTowers" (408 : Nat) ({ cls := "TallTowers$World", name := "holdsTo", desc := "(III)V" } : Jvm.MethodName)) ∈ lw_all := lw_g (lw_at lw_m7 54 rfl) rfl
theorem q1624 : (Jvm.Cond.methodLink "TallTowers" (411 : Nat) ({ cls := "TallTowers", name := "gone", desc := "(I)LTallTowers$World;" } : Jvm.MethodName)) ∈ lw_all := lw_g (lw_at lw_m7 58 rfl) rfl
theorem q1625 : (Jvm.Cond.privateMethod ({ cls := "TallTowers", name := "gone", desc := "(I)LTallTowers$World;" } : Jvm.MethodName)) ∈ lw_tbl := lw_at lw_m7 59 rfl
theorem q1626 : (Jvm.Cond.instanceMethod ({ cls := "TallTowers", name := "gone", desc := "(I)LTallTowers$World;" } : Jvm.MethodName)) ∈ lw_all := lw_g (lw_at lw_m7 60 rfl) rfl
theorem q1627 : (Jvm.Cond.code ({ cls := "TallTowers", name := "gone", desc := "(I)LTallTowers$World;" } : Jvm.MethodName) prog_1_method_53_code (3 : Nat) (Option.some (Jvm.ClassFile.FieldType.object "TallTowers$World"))) ∈ lw_all := lw_g (lw_at lw_m7 61 rfl) rfl
theorem q1632 : (Jvm.Cond.instanceMethod ({ cls := "TallTowers", name := "best", desc := "(II)J" } : Jvm.MethodName)) ∈ lw_all := lw_g (lw_at lw_m7 66 rfl) rfl
theorem q1633 : (Jvm.Cond.selects "TallTowers" ({ cls := "TallTowers", name := "best", desc := "(II)J" } : Jvm.MethodName) ({ cls := "TallTowers", name := "best", desc := "(II)J" } : Jvm.MethodName)) ∈ lw_all := lw_g (lw_at lw_m7 67 rfl) rfl
theorem q1634 : (Jvm.Cond.code ({ cls := "TallTowers", name := "best", desc := "(II)J" } : Jvm.MethodName) prog_1_method_57_code (9 : Nat) (Option.some Jvm.ClassFile.FieldType.long)) ∈ lw_all := lw_g (lw_at lw_m7 68 rfl) rfl
theorem q1639 : (Jvm.Cond.instanceMethod ({ cls := "TallTowers", name := "without", desc := "(II)J" } : Jvm.MethodName)) ∈ lw_all := lw_g (lw_at lw_m7 73 rfl) rfl
theorem q1640 : (Jvm.Cond.selects "TallTowers" ({ cls := "TallTowers", name := "without", desc := "(II)J" } : Jvm.MethodName) ({ cls := "TallTowers", name := "without", desc := "(II)J" } : Jvm.MethodName)) ∈ lw_all := lw_g (lw_at lw_m7 74 rfl) rfl
theorem q1641 : (Jvm.Cond.code ({ cls := "TallTowers", name := "without", desc := "(II)J" } : Jvm.MethodName) prog_1_method_58_code (3 : Nat) (Option.some Jvm.ClassFile.FieldType.long)) ∈ lw_all := lw_g (lw_at lw_m7 75 rfl) rfl
theorem q1642 : (Jvm.Cond.methodLink "TallTowers" (419 : Nat) ({ cls := "TallTowers", name := "goneWithout", desc := "(II)J" } : Jvm.MethodName)) ∈ lw_all := lw_g (lw_at lw_m7 76 rfl) rfl
theorem q1643 : (Jvm.Cond.privateMethod ({ cls := "TallTowers", name := "goneWithout", desc := "(II)J" } : Jvm.MethodName)) ∈ lw_tbl := lw_at lw_m7 77 rfl
theorem q1644 : (Jvm.Cond.instanceMethod ({ cls := "TallTowers", name := "goneWithout", desc := "(II)J" } : Jvm.MethodName)) ∈ lw_all := lw_g (lw_at lw_m7 78 rfl) rfl
theorem q1645 : (Jvm.Cond.code ({ cls := "TallTowers", name := "goneWithout", desc := "(II)J" } : Jvm.MethodName) prog_1_method_55_code (3 : Nat) (Option.some Jvm.ClassFile.FieldType.long)) ∈ lw_all := lw_g (lw_at lw_m7 79 rfl) rfl
theorem q1650 : (Jvm.Cond.instanceMethod ({ cls := "TallTowers", name := "undone", desc := "(I)I" } : Jvm.MethodName)) ∈ lw_all := lw_g (lw_at lw_m7 84 rfl) rfl
theorem q1651 : (Jvm.Cond.selects "TallTowers" ({ cls := "TallTowers", name := "undone", desc := "(I)I" } : Jvm.MethodName) ({ cls := "TallTowers", name := "undone", desc := "(I)I" } : Jvm.MethodName)) ∈ lw_all := lw_g (lw_at lw_m7 85 rfl) rfl
theorem q1652 : (Jvm.Cond.code ({ cls := "TallTowers", name := "undone", desc := "(I)I" } : Jvm.MethodName) prog_1_method_59_code (2 : Nat) (Option.some Jvm.ClassFile.FieldType.int)) ∈ lw_all := lw_g (lw_at lw_m7 86 rfl) rfl
theorem q1657 : (Jvm.Cond.instanceMethod ({ cls := "TallTowers", name := "spared", desc := "(I)J" } : Jvm.MethodName)) ∈ lw_all := lw_g (lw_at lw_m7 91 rfl) rfl
theorem q1658 : (Jvm.Cond.selects "TallTowers" ({ cls := "TallTowers", name := "spared", desc := "(I)J" } : Jvm.MethodName) ({ cls := "TallTowers", name := "spared", desc := "(I)J" } : Jvm.MethodName)) ∈ lw_all := lw_g (lw_at lw_m7 92 rfl) rfl
theorem q1659 : (Jvm.Cond.code ({ cls := "TallTowers", name := "spared", desc := "(I)J" } : Jvm.MethodName) prog_1_method_60_code (3 : Nat) (Option.some Jvm.ClassFile.FieldType.long)) ∈ lw_all := lw_g (lw_at lw_m7 93 rfl) rfl
theorem q1664 : (Jvm.Cond.instanceMethod ({ cls := "TallTowers", name := "shift", desc := "(III)J" } : Jvm.MethodName)) ∈ lw_all := lw_g (lw_at lw_m7 98 rfl) rfl
theorem q1665 : (Jvm.Cond.selects "TallTowers" ({ cls := "TallTowers", name := "shift", desc := "(III)J" } : Jvm.MethodName) ({ cls := "TallTowers", name := "shift", desc := "(III)J" } : Jvm.MethodName)) ∈ lw_all := lw_g (lw_at lw_m7 99 rfl) rfl
theorem q1666 : (Jvm.Cond.code ({ cls := "TallTowers", name := "shift", desc := "(III)J" } : Jvm.MethodName) prog_1_method_61_code (5 : Nat) (Option.some Jvm.ClassFile.FieldType.long)) ∈ lw_all := lw_g (lw_at lw_m7 100 rfl) rfl
theorem q1671 : (Jvm.Cond.instanceMethod ({ cls := "TallTowers", name := "after", desc := "(II)J" } : Jvm.MethodName)) ∈ lw_all := lw_g (lw_at lw_m7 105 rfl) rfl
theorem q1672 : (Jvm.Cond.selects "TallTowers" ({ cls := "TallTowers", name := "after", desc := "(II)J" } : Jvm.MethodName) ({ cls := "TallTowers", name := "after", desc := "(II)J" } : Jvm.MethodName)) ∈ lw_all := lw_g (lw_at lw_m7 106 rfl) rfl
theorem q1673 : (Jvm.Cond.code ({ cls := "TallTowers", name := "after", desc := "(II)J" } : Jvm.MethodName) prog_1_method_62_code (4 : Nat) (Option.some Jvm.ClassFile.FieldType.long)) ∈ lw_all := lw_g (lw_at lw_m7 107 rfl) rfl
theorem q1678 : (Jvm.Cond.instanceMethod ({ cls := "TallTowers", name := "usedUp", desc := "(I)I" } : Jvm.MethodName)) ∈ lw_all := lw_g (lw_at lw_m7 112 rfl) rfl
theorem q1679 : (Jvm.Cond.selects "TallTowers" ({ cls := "TallTowers", name := "usedUp", desc := "(I)I" } : Jvm.MethodName) ({ cls := "TallTowers", name := "usedUp", desc := "(I)I" } : Jvm.MethodName)) ∈ lw_all := lw_g (lw_at lw_m7 113 rfl) rfl
theorem q1680 : (Jvm.Cond.code ({ cls := "TallTowers", name := "usedUp", desc := "(I)I" } : Jvm.MethodName) prog_1_method_63_code (3 : Nat) (Option.some Jvm.ClassFile.FieldType.int)) ∈ lw_all := lw_g (lw_at lw_m7 114 rfl) rfl
theorem q1685 : (Jvm.Cond.instanceMethod ({ cls := "TallTowers", name := "heaviest", desc := "(II)J" } : Jvm.MethodName)) ∈ lw_all := lw_g (lw_at lw_m7 119 rfl) rfl
theorem q1686 : (Jvm.Cond.selects "TallTowers" ({ cls := "TallTowers", name := "heaviest", desc := "(II)J" } : Jvm.MethodName) ({ cls := "TallTowers", name := "heaviest", desc := "(II)J" } : Jvm.MethodName)) ∈ lw_all := lw_g (lw_at lw_m7 120 rfl) rfl
theorem q1687 : (Jvm.Cond.code ({ cls := "TallTowers", name := "heaviest", desc := "(II)J" } : Jvm.MethodName) prog_1_method_66_code (9 : Nat) (Option.some Jvm.ClassFile.FieldType.long)) ∈ lw_all := lw_g (lw_at lw_m7 121 rfl) rfl
theorem q1688 : (Jvm.Cond.methodLink "TallTowers" (431 : Nat) ({ cls := "TallTowers", name := "goneWithoutHarm", desc := "(II)J" } : Jvm.MethodName)) ∈ lw_all := lw_g (lw_at lw_m7 122 rfl) rfl
theorem q1689 : (Jvm.Cond.privateMethod ({ cls := "TallTowers", name := "goneWithoutHarm", desc := "(II)J" } : Jvm.MethodName)) ∈ lw_tbl := lw_at lw_m7 123 rfl
theorem q1690 : (Jvm.Cond.instanceMethod ({ cls := "TallTowers", name := "goneWithoutHarm", desc := "(II)J" } : Jvm.MethodName)) ∈ lw_all := lw_g (lw_at lw_m7 124 rfl) rfl
theorem q1691 : (Jvm.Cond.code ({ cls := "TallTowers", name := "goneWithoutHarm", desc := "(II)J" } : Jvm.MethodName) prog_1_method_65_code (4 : Nat) (Option.some Jvm.ClassFile.FieldType.long)) ∈ lw_all := lw_g (lw_at lw_m7 125 rfl) rfl
theorem q1692 : (Jvm.Cond.methodLink "TallTowers" (427 : Nat) ({ cls := "TallTowers", name := "isOf", desc := "(LTallTowers$Event;I)Z" } : Jvm.MethodName)) ∈ lw_all := lw_g (lw_at lw_m7 126 rfl) rfl
theorem q1693 : (Jvm.Cond.privateMethod ({ cls := "TallTowers", name := "isOf", desc := "(LTallTowers$Event;I)Z" } : Jvm.MethodName)) ∈ lw_tbl := lw_at lw_m7 127 rfl
theorem q1694 : (Jvm.Cond.instanceMethod ({ cls := "TallTowers", name := "isOf", desc := "(LTallTowers$Event;I)Z" } : Jvm.MethodName)) ∈ lw_all := lw_g (lw_at lw_m7 128 rfl) rfl
theorem q1695 : (Jvm.Cond.code ({ cls := "TallTowers", name := "isOf", desc := "(LTallTowers$Event;I)Z" } : Jvm.MethodName) prog_1_method_64_code (3 : Nat) (Option.some Jvm.ClassFile.FieldType.boolean)) ∈ lw_all := lw_g (lw_at lw_m7 129 rfl) rfl
theorem q1700 : (Jvm.Cond.instanceMethod ({ cls := "TallTowers", name := "cover", desc := "(III)I" } : Jvm.MethodName)) ∈ lw_all := lw_g (lw_at lw_m7 134 rfl) rfl
theorem q1701 : (Jvm.Cond.selects "TallTowers" ({ cls := "TallTowers", name := "cover", desc := "(III)I" } : Jvm.MethodName) ({ cls := "TallTowers", name := "cover", desc := "(III)I" } : Jvm.MethodName)) ∈ lw_all := lw_g (lw_at lw_m7 135 rfl) rfl
theorem q1702 : (Jvm.Cond.code ({ cls := "TallTowers", name := "cover", desc := "(III)I" } : Jvm.MethodName) prog_1_method_67_code (4 : Nat) (Option.some Jvm.ClassFile.FieldType.int)) ∈ lw_all := lw_g (lw_at lw_m7 136 rfl) rfl
theorem q1703 : (Jvm.Cond.static ({ cls := "TallTowers", name := "lambda$cover$13", desc := "(IILTallTowers$Layer;)J" } : Jvm.MethodName)) ∈ lw_all := lw_g (lw_at lw_m7 137 rfl) rfl
theorem q1704 : (Jvm.Cond.code ({ cls := "TallTowers", name := "lambda$cover$13", desc := "(IILTallTowers$Layer;)J" } : Jvm.MethodName) prog_1_method_77_code (3 : Nat) (Option.some Jvm.ClassFile.FieldType.long)) ∈ lw_all := lw_g (lw_at lw_m7 138 rfl) rfl
theorem q1705 : (Jvm.Cond.methodLink "TallTowers" (449 : Nat) ({ cls := "java/lang/Math", name := "min", desc := "(II)I" } : Jvm.MethodName)) ∈ lw_all := lw_g (lw_at lw_m7 139 rfl) rfl
theorem q1706 : (Jvm.Cond.methodLink "TallTowers" (451 : Nat) ({ cls := "java/lang/Math", name := "max", desc := "(II)I" } : Jvm.MethodName)) ∈ lw_all := lw_g (lw_at lw_m7 140 rfl) rfl
theorem q1711 : (Jvm.Cond.instanceMethod ({ cls := "TallTowers", name := "reach", desc := "(I)J" } : Jvm.MethodName)) ∈ lw_all := lw_g (lw_at lw_m7 145 rfl) rfl
theorem q1712 : (Jvm.Cond.selects "TallTowers" ({ cls := "TallTowers", name := "reach", desc := "(I)J" } : Jvm.MethodName) ({ cls := "TallTowers", name := "reach", desc := "(I)J" } : Jvm.MethodName)) ∈ lw_all := lw_g (lw_at lw_m7 146 rfl) rfl
theorem q1713 : (Jvm.Cond.code ({ cls := "TallTowers", name := "reach", desc := "(I)J" } : Jvm.MethodName) prog_1_method_68_code (7 : Nat) (Option.some Jvm.ClassFile.FieldType.long)) ∈ lw_all := lw_g (lw_at lw_m7 147 rfl) rfl
theorem q1714 : (Jvm.Cond.methodLink "TallTowers" (437 : Nat) ({ cls := "java/lang/Math", name := "min", desc := "(JJ)J" } : Jvm.MethodName)) ∈ lw_all := lw_g (lw_at lw_m7 148 rfl) rfl
theorem q1719 : (Jvm.Cond.instanceMethod ({ cls := "TallTowers", name := "uneven", desc := "(IIIII)J" } : Jvm.MethodName)) ∈ lw_all := lw_g (lw_at lw_m7 153 rfl) rfl
theorem q1720 : (Jvm.Cond.selects "TallTowers" ({ cls := "TallTowers", name := "uneven", desc := "(IIIII)J" } : Jvm.MethodName) ({ cls := "TallTowers", name := "uneven", desc := "(IIIII)J" } : Jvm.MethodName)) ∈ lw_all := lw_g (lw_at lw_m7 154 rfl) rfl
theorem q1721 : (Jvm.Cond.code ({ cls := "TallTowers", name := "uneven", desc := "(IIIII)J" } : Jvm.MethodName) prog_1_method_69_code (6 : Nat) (Option.some Jvm.ClassFile.FieldType.long)) ∈ lw_all := lw_g (lw_at lw_m7 155 rfl) rfl
theorem q1722 : (Jvm.Cond.methodLink "TallTowers" (443 : Nat) ({ cls := "TallTowers$World", name := "paidLessFair", desc := "(LTallTowers$Harm;JI)J" } : Jvm.MethodName)) ∈ lw_all := lw_g (lw_at lw_m7 156 rfl) rfl
theorem q1730 : (Jvm.Cond.instanceMethod ({ cls := "TallTowers", name := "widest", desc := "(II)I" } : Jvm.MethodName)) ∈ lw_all := lw_g (lw_at lw_m7 164 rfl) rfl
theorem q1731 : (Jvm.Cond.selects "TallTowers" ({ cls := "TallTowers", name := "widest", desc := "(II)I" } : Jvm.MethodName) ({ cls := "TallTowers", name := "widest", desc := "(II)I" } : Jvm.MethodName)) ∈ lw_all := lw_g (lw_at lw_m7 165 rfl) rfl
theorem q1732 : (Jvm.Cond.code ({ cls := "TallTowers", name := "widest", desc := "(II)I" } : Jvm.MethodName) prog_1_method_70_code (6 : Nat) (Option.some Jvm.ClassFile.FieldType.int)) ∈ lw_all := lw_g (lw_at lw_m7 166 rfl) rfl
theorem q1737 : (Jvm.Cond.instanceMethod ({ cls := "TallTowers", name := "strongest", desc := "(I)J" } : Jvm.MethodName)) ∈ lw_all := lw_g (lw_at lw_m7 171 rfl) rfl
theorem q1738 : (Jvm.Cond.selects "TallTowers" ({ cls := "TallTowers", name := "strongest", desc := "(I)J" } : Jvm.MethodName) ({ cls := "TallTowers", name := "strongest", desc := "(I)J" } : Jvm.MethodName)) ∈ lw_all := lw_g (lw_at lw_m7 172 rfl) rfl
theorem q1739 : (Jvm.Cond.code ({ cls := "TallTowers", name := "strongest", desc := "(I)J" } : Jvm.MethodName) prog_1_method_71_code (8 : Nat) (Option.some Jvm.ClassFile.FieldType.long)) ∈ lw_all := lw_g (lw_at lw_m7 173 rfl) rfl
theorem q1740 : (Jvm.Cond.static ({ cls := "TallTowers", name := "lambda$strongest$14", desc := "(LTallTowers$Layer;)J" } : Jvm.MethodName)) ∈ lw_all := lw_g (lw_at lw_m7 174 rfl) rfl
theorem q1741 : (Jvm.Cond.code ({ cls := "TallTowers", name := "lambda$strongest$14", desc := "(LTallTowers$Layer;)J" } : Jvm.MethodName) prog_1_method_76_code (1 : Nat) (Option.some Jvm.ClassFile.FieldType.long)) ∈ lw_all := lw_g (lw_at lw_m7 175 rfl) rfl
theorem q1746 : (Jvm.Cond.instanceMethod ({ cls := "TallTowers", name := "holds", desc := "(III)I" } : Jvm.MethodName)) ∈ lw_all := lw_g (lw_at lw_m7 180 rfl) rfl
theorem q1747 : (Jvm.Cond.selects "TallTowers" ({ cls := "TallTowers", name := "holds", desc := "(III)I" } : Jvm.MethodName) ({ cls := "TallTowers", name := "holds", desc := "(III)I" } : Jvm.MethodName)) ∈ lw_all := lw_g (lw_at lw_m7 181 rfl) rfl
theorem q1748 : (Jvm.Cond.code ({ cls := "TallTowers", name := "holds", desc := "(III)I" } : Jvm.MethodName) prog_1_method_72_code (4 : Nat) (Option.some Jvm.ClassFile.FieldType.int)) ∈ lw_all := lw_g (lw_at lw_m7 182 rfl) rfl
theorem q1749 : (Jvm.Cond.static ({ cls := "TallTowers", name := "lambda$holds$15", desc := "(IILTallTowers$Layer;)J" } : Jvm.MethodName)) ∈ lw_all := lw_g (lw_at lw_m7 183 rfl) rfl
theorem q1750 : (Jvm.Cond.code ({ cls := "TallTowers", name := "lambda$holds$15", desc := "(IILTallTowers$Layer;)J" } : Jvm.MethodName) prog_1_method_75_code (3 : Nat) (Option.some Jvm.ClassFile.FieldType.long)) ∈ lw_all := lw_g (lw_at lw_m7 184 rfl) rfl
theorem q2467 : (Jvm.Cond.castable "TallTowers" "java/lang/Object") ∈ lw_tbl := lw_at lw_m10 181 rfl
theorem in_X1 : ∀ w ∈ wsX10, w ∈ lw_all := lw_in wsX10 [901, 903, 905, 907, 909, 911, 913, 915, 917] (by decide +kernel) (by decide +kernel)
