/-! TallTowersModel -/
set_option maxRecDepth 100000
def RX11 : String := "TallTowersModel"
def TX11 : u_T := fun k => match k with
  | 0 => ("TallTowersModel", "thrown", "I", false)
  | 1 => ("TallTowersModel", "refused", "[I", true)
  | 2 => ("TallTowersModel", "kind", "[I", true)
  | 3 => ("TallTowersModel", "made", "[I", true)
  | 4 => ("TallTowersModel", "told", "[I", true)
  | 5 => ("TallTowersModel", "many", "I", false)
  | 6 => ("TallTowersModel", "isLayer", "[Z", true)
  | 7 => ("TallTowersModel", "isHarm", "[Z", true)
  | 8 => ("TallTowersModel", "yearOf", "[I", true)
  | 9 => ("TallTowersModel", "from", "[I", true)
  | 10 => ("TallTowersModel", "size", "[I", true)
  | 11 => ("TallTowersModel", "times", "[I", true)
  | 12 => ("TallTowersModel", "signed", "[I", true)
  | 13 => ("TallTowersModel", "signer", "[I", true)
  | 14 => ("TallTowersModel", "tenths", "[I", true)
  | 15 => ("TallTowersModel", "used", "[J", true)
  | 16 => ("TallTowersModel", "first", "[I", true)
  | 17 => ("TallTowersModel", "last", "[I", true)
  | 18 => ("TallTowersModel", "shown", "[I", true)
  | 19 => ("TallTowersModel", "grew", "[I", true)
  | 20 => ("TallTowersModel", "loss", "[J", true)
  | 21 => ("TallTowersModel", "took", "[J", true)
  | 22 => ("TallTowersModel", "through", "[J", true)
  | 23 => ("TallTowersModel", "moves", "[J", true)
  | 24 => ("TallTowersModel", "had", "[I", true)
  | 25 => ("TallTowersModel", "bore", "[J", true)
  | 26 => ("TallTowersModel", "fell", "[J", true)
  | 27 => ("TallTowersModel", "stands", "[I", true)
  | 28 => ("TallTowersModel", "cash", "[I", true)
  | 29 => ("TallTowersModel", "lacks", "I", false)
  | 30 => ("TallTowersModel", "trigger", "I", false)
  | 31 => ("TallTowersModel", "spread", "I", false)
  | 32 => ("TallTowersModel", "pick", "I", false)
  | 33 => ("TallTowersModel", "rungs", "[I", true)
  | 34 => ("TallTowersModel", "heights", "[I", true)
  | 35 => ("TallTowersModel", "holes", "[I", true)
  | 36 => ("TallTowersModel", "weights", "[J", true)
  | 37 => ("TallTowersModel", "parts", "[J", true)
  | 38 => ("TallTowersModel", "takes", "[J", true)
  | 39 => ("TallTowersModel", "fair", "[J", true)
  | 40 => ("TallTowersModel", "portions", "[J", true)
  | 41 => ("TallTowersModel", "order", "[I", true)
  | 42 => ("TallTowersModel", "usedWas", "[J", true)
  | 43 => ("TallTowersModel", "tookWas", "[J", true)
  | 44 => ("TallTowersModel", "throughWas", "[J", true)
  | 45 => ("TallTowersModel", "fellWas", "[J", true)
  | 46 => ("TallTowersModel", "gets", "[J", true)
  | 47 => ("TallTowersModel", "rooms", "[J", true)
  | 48 => ("TallTowersModel", "isRuled", "Z", false)
  | _ => ("TallTowersModel", "undoneMany", "I", false)
def tyX11 : Nat → FieldType := fun k => match k with
  | 0 => .int
  | 1 => .array .int
  | 2 => .array .int
  | 3 => .array .int
  | 4 => .array .int
  | 5 => .int
  | 6 => .array .boolean
  | 7 => .array .boolean
  | 8 => .array .int
  | 9 => .array .int
  | 10 => .array .int
  | 11 => .array .int
  | 12 => .array .int
  | 13 => .array .int
  | 14 => .array .int
  | 15 => .array .long
  | 16 => .array .int
  | 17 => .array .int
  | 18 => .array .int
  | 19 => .array .int
  | 20 => .array .long
  | 21 => .array .long
  | 22 => .array .long
  | 23 => .array .long
  | 24 => .array .int
  | 25 => .array .long
  | 26 => .array .long
  | 27 => .array .int
  | 28 => .array .int
  | 29 => .int
  | 30 => .int
  | 31 => .int
  | 32 => .int
  | 33 => .array .int
  | 34 => .array .int
  | 35 => .array .int
  | 36 => .array .long
  | 37 => .array .long
  | 38 => .array .long
  | 39 => .array .long
  | 40 => .array .long
  | 41 => .array .int
  | 42 => .array .long
  | 43 => .array .long
  | 44 => .array .long
  | 45 => .array .long
  | 46 => .array .long
  | 47 => .array .long
  | 48 => .boolean
  | _ => .int
abbrev wsX110 : List Cond := u_ws RX11 TX11 50
set_option maxRecDepth 100000 in
theorem nmX11 : ∀ a, a < 50 → ∀ b, b < 50 → a ≠ b → (TX11 a).2.1 ≠ (TX11 b).2.1 := by decide +kernel
set_option maxRecDepth 100000 in
theorem tyX11_ok : ∀ k, k < 50 → parseFieldDescriptor (TX11 k).2.2.1 = some (tyX11 k) := by decide +kernel
abbrev cX11_thrown : ByteArray := prog_16_method_1_code
def yX11_thrown : MethodName := ⟨RX11, "thrown", "()I"⟩
theorem dX11_thrown_0 : decode cX11_thrown 0 = .ok (.aload_n 0, 1) := by decide +kernel
theorem dX11_thrown_1 : decode cX11_thrown 1 = .ok (.getfield 1, 3) := by decide +kernel
theorem dX11_thrown_4 : decode cX11_thrown 4 = .ok (.ireturn, 1) := by decide +kernel
abbrev cX11_init : ByteArray := prog_16_method_8_code
def yX11_init : MethodName := ⟨RX11, "<init>", "()V"⟩
def dkwX11_init_14 : List UInt8 := [181, 0, 136, 42, 16, 40, 188, 11, 181, 0, 139, 42, 16, 12, 188, 11, 181, 0, 142, 177]
abbrev dktX11_init_14 : List UInt8 := dkwX11_init_14 ++ []
def dkwX11_init_13 : List UInt8 := [181, 0, 127, 42, 16, 40, 188, 11, 181, 0, 130, 42, 16, 40, 188, 11, 181, 0, 133, 42, 16, 7, 188, 11]
abbrev dktX11_init_13 : List UInt8 := dkwX11_init_13 ++ dktX11_init_14
def dkwX11_init_12 : List UInt8 := [181, 0, 118, 42, 16, 12, 188, 11, 181, 0, 121, 42, 16, 12, 188, 10, 181, 0, 124, 42, 16, 40, 188, 11]
abbrev dktX11_init_12 : List UInt8 := dkwX11_init_12 ++ dktX11_init_13
def dkwX11_init_11 : List UInt8 := [181, 0, 109, 42, 16, 40, 188, 11, 181, 0, 112, 42, 16, 40, 188, 11, 181, 0, 115, 42, 16, 40, 188, 11]
abbrev dktX11_init_11 : List UInt8 := dkwX11_init_11 ++ dktX11_init_12
def dkwX11_init_10 : List UInt8 := [181, 0, 100, 42, 16, 12, 188, 10, 181, 0, 103, 42, 16, 40, 188, 10, 181, 0, 106, 42, 16, 40, 188, 11]
abbrev dktX11_init_10 : List UInt8 := dkwX11_init_10 ++ dktX11_init_11
def dkwX11_init_9 : List UInt8 := [181, 0, 91, 42, 16, 10, 188, 10, 181, 0, 94, 42, 16, 10, 188, 10, 181, 0, 97, 42, 16, 72, 188, 10]
abbrev dktX11_init_9 : List UInt8 := dkwX11_init_9 ++ dktX11_init_10
def dkwX11_init_8 : List UInt8 := [17, 15, 160, 188, 10, 181, 0, 85, 42, 17, 0, 250, 188, 11, 181, 0, 88, 42, 17, 0, 175, 188, 11]
abbrev dktX11_init_8 : List UInt8 := dkwX11_init_8 ++ dktX11_init_9
def dkwX11_init_7 : List UInt8 := [188, 11, 181, 0, 76, 42, 17, 3, 232, 188, 11, 181, 0, 79, 42, 17, 3, 232, 188, 11, 181, 0, 82, 42]
abbrev dktX11_init_7 : List UInt8 := dkwX11_init_7 ++ dktX11_init_8
def dkwX11_init_6 : List UInt8 := [181, 0, 67, 42, 16, 25, 188, 10, 181, 0, 70, 42, 16, 25, 188, 11, 181, 0, 73, 42, 17, 3, 232]
abbrev dktX11_init_6 : List UInt8 := dkwX11_init_6 ++ dktX11_init_7
def dkwX11_init_5 : List UInt8 := [181, 0, 57, 42, 16, 25, 188, 10, 181, 0, 61, 42, 16, 25, 188, 10, 181, 0, 64, 42, 16, 25, 188, 10]
abbrev dktX11_init_5 : List UInt8 := dkwX11_init_5 ++ dktX11_init_6
def dkwX11_init_4 : List UInt8 := [17, 0, 160, 188, 10, 181, 0, 51, 42, 17, 0, 160, 188, 10, 181, 0, 54, 42, 16, 40, 188, 11]
abbrev dktX11_init_4 : List UInt8 := dkwX11_init_4 ++ dktX11_init_5
def dkwX11_init_3 : List UInt8 := [16, 40, 188, 10, 181, 0, 42, 42, 16, 40, 188, 10, 181, 0, 45, 42, 16, 40, 188, 10, 181, 0, 48, 42]
abbrev dktX11_init_3 : List UInt8 := dkwX11_init_3 ++ dktX11_init_4
def dkwX11_init_2 : List UInt8 := [16, 25, 188, 4, 181, 0, 33, 42, 16, 40, 188, 10, 181, 0, 36, 42, 16, 40, 188, 10, 181, 0, 39, 42]
abbrev dktX11_init_2 : List UInt8 := dkwX11_init_2 ++ dktX11_init_3
def dkwX11_init_1 : List UInt8 := [188, 10, 181, 0, 20, 42, 17, 2, 128, 188, 10, 181, 0, 11, 42, 16, 40, 188, 4, 181, 0, 29, 42]
abbrev dktX11_init_1 : List UInt8 := dkwX11_init_1 ++ dktX11_init_2
def dkwX11_init_0 : List UInt8 := [42, 183, 0, 23, 42, 6, 188, 10, 181, 0, 7, 42, 17, 0, 160, 188, 10, 181, 0, 14, 42, 17, 0, 160]
abbrev dktX11_init_0 : List UInt8 := dkwX11_init_0 ++ dktX11_init_1
theorem dksX11_init_0 : cX11_init.data.toList.drop 0 = dktX11_init_0 := by decide +kernel
theorem dksX11_init_1 : cX11_init.data.toList.drop 24 = dktX11_init_1 := dk_seg dksX11_init_0 24 rfl rfl
theorem dksX11_init_2 : cX11_init.data.toList.drop 47 = dktX11_init_2 := dk_seg dksX11_init_1 23 rfl rfl
theorem dksX11_init_3 : cX11_init.data.toList.drop 71 = dktX11_init_3 := dk_seg dksX11_init_2 24 rfl rfl
theorem dksX11_init_4 : cX11_init.data.toList.drop 95 = dktX11_init_4 := dk_seg dksX11_init_3 24 rfl rfl
theorem dksX11_init_5 : cX11_init.data.toList.drop 117 = dktX11_init_5 := dk_seg dksX11_init_4 22 rfl rfl
theorem dksX11_init_6 : cX11_init.data.toList.drop 141 = dktX11_init_6 := dk_seg dksX11_init_5 24 rfl rfl
theorem dksX11_init_7 : cX11_init.data.toList.drop 164 = dktX11_init_7 := dk_seg dksX11_init_6 23 rfl rfl
theorem dksX11_init_8 : cX11_init.data.toList.drop 188 = dktX11_init_8 := dk_seg dksX11_init_7 24 rfl rfl
theorem dksX11_init_9 : cX11_init.data.toList.drop 211 = dktX11_init_9 := dk_seg dksX11_init_8 23 rfl rfl
theorem dksX11_init_10 : cX11_init.data.toList.drop 235 = dktX11_init_10 := dk_seg dksX11_init_9 24 rfl rfl
theorem dksX11_init_11 : cX11_init.data.toList.drop 259 = dktX11_init_11 := dk_seg dksX11_init_10 24 rfl rfl
theorem dksX11_init_12 : cX11_init.data.toList.drop 283 = dktX11_init_12 := dk_seg dksX11_init_11 24 rfl rfl
theorem dksX11_init_13 : cX11_init.data.toList.drop 307 = dktX11_init_13 := dk_seg dksX11_init_12 24 rfl rfl
theorem dksX11_init_14 : cX11_init.data.toList.drop 331 = dktX11_init_14 := dk_seg dksX11_init_13 24 rfl rfl
theorem dX11_init_0 : decode cX11_init 0 = .ok (.aload_n 0, 1) := dk_42 (dk_at dksX11_init_0 0 rfl rfl)
theorem dX11_init_1 : decode cX11_init 1 = .ok (.invokespecial 23, 3) := dk_183 0 23 (dk_at dksX11_init_0 1 rfl rfl)
theorem dX11_init_4 : decode cX11_init 4 = .ok (.aload_n 0, 1) := dk_42 (dk_at dksX11_init_0 4 rfl rfl)
theorem dX11_init_5 : decode cX11_init 5 = .ok (.iconst 3, 1) := dk_6 (dk_at dksX11_init_0 5 rfl rfl)
theorem dX11_init_6 : decode cX11_init 6 = .ok (.newarray .int, 2) := dk_188_10 (dk_at dksX11_init_0 6 rfl rfl)
theorem dX11_init_8 : decode cX11_init 8 = .ok (.putfield 7, 3) := dk_181 0 7 (dk_at dksX11_init_0 8 rfl rfl)
theorem dX11_init_11 : decode cX11_init 11 = .ok (.aload_n 0, 1) := dk_42 (dk_at dksX11_init_0 11 rfl rfl)
theorem dX11_init_12 : decode cX11_init 12 = .ok (.sipush 160, 3) := dk_17 0 160 (dk_at dksX11_init_0 12 rfl rfl)
theorem dX11_init_15 : decode cX11_init 15 = .ok (.newarray .int, 2) := dk_188_10 (dk_at dksX11_init_0 15 rfl rfl)
theorem dX11_init_17 : decode cX11_init 17 = .ok (.putfield 14, 3) := dk_181 0 14 (dk_at dksX11_init_0 17 rfl rfl)
theorem dX11_init_20 : decode cX11_init 20 = .ok (.aload_n 0, 1) := dk_42 (dk_at dksX11_init_0 20 rfl rfl)
theorem dX11_init_21 : decode cX11_init 21 = .ok (.sipush 160, 3) := dk_17 0 160 (dk_at dksX11_init_0 21 rfl rfl)
theorem dX11_init_24 : decode cX11_init 24 = .ok (.newarray .int, 2) := dk_188_10 (dk_at dksX11_init_1 0 rfl rfl)
theorem dX11_init_26 : decode cX11_init 26 = .ok (.putfield 20, 3) := dk_181 0 20 (dk_at dksX11_init_1 2 rfl rfl)
theorem dX11_init_29 : decode cX11_init 29 = .ok (.aload_n 0, 1) := dk_42 (dk_at dksX11_init_1 5 rfl rfl)
theorem dX11_init_30 : decode cX11_init 30 = .ok (.sipush 640, 3) := dk_17 2 128 (dk_at dksX11_init_1 6 rfl rfl)
theorem dX11_init_33 : decode cX11_init 33 = .ok (.newarray .int, 2) := dk_188_10 (dk_at dksX11_init_1 9 rfl rfl)
theorem dX11_init_35 : decode cX11_init 35 = .ok (.putfield 11, 3) := dk_181 0 11 (dk_at dksX11_init_1 11 rfl rfl)
theorem dX11_init_38 : decode cX11_init 38 = .ok (.aload_n 0, 1) := dk_42 (dk_at dksX11_init_1 14 rfl rfl)
theorem dX11_init_39 : decode cX11_init 39 = .ok (.bipush 40, 2) := dk_16 40 (dk_at dksX11_init_1 15 rfl rfl)
theorem dX11_init_41 : decode cX11_init 41 = .ok (.newarray .boolean, 2) := dk_188_4 (dk_at dksX11_init_1 17 rfl rfl)
theorem dX11_init_43 : decode cX11_init 43 = .ok (.putfield 29, 3) := dk_181 0 29 (dk_at dksX11_init_1 19 rfl rfl)
theorem dX11_init_46 : decode cX11_init 46 = .ok (.aload_n 0, 1) := dk_42 (dk_at dksX11_init_1 22 rfl rfl)
theorem dX11_init_47 : decode cX11_init 47 = .ok (.bipush 25, 2) := dk_16 25 (dk_at dksX11_init_2 0 rfl rfl)
theorem dX11_init_49 : decode cX11_init 49 = .ok (.newarray .boolean, 2) := dk_188_4 (dk_at dksX11_init_2 2 rfl rfl)
theorem dX11_init_51 : decode cX11_init 51 = .ok (.putfield 33, 3) := dk_181 0 33 (dk_at dksX11_init_2 4 rfl rfl)
theorem dX11_init_54 : decode cX11_init 54 = .ok (.aload_n 0, 1) := dk_42 (dk_at dksX11_init_2 7 rfl rfl)
theorem dX11_init_55 : decode cX11_init 55 = .ok (.bipush 40, 2) := dk_16 40 (dk_at dksX11_init_2 8 rfl rfl)
theorem dX11_init_57 : decode cX11_init 57 = .ok (.newarray .int, 2) := dk_188_10 (dk_at dksX11_init_2 10 rfl rfl)
theorem dX11_init_59 : decode cX11_init 59 = .ok (.putfield 36, 3) := dk_181 0 36 (dk_at dksX11_init_2 12 rfl rfl)
theorem dX11_init_62 : decode cX11_init 62 = .ok (.aload_n 0, 1) := dk_42 (dk_at dksX11_init_2 15 rfl rfl)
theorem dX11_init_63 : decode cX11_init 63 = .ok (.bipush 40, 2) := dk_16 40 (dk_at dksX11_init_2 16 rfl rfl)
theorem dX11_init_65 : decode cX11_init 65 = .ok (.newarray .int, 2) := dk_188_10 (dk_at dksX11_init_2 18 rfl rfl)
theorem dX11_init_67 : decode cX11_init 67 = .ok (.putfield 39, 3) := dk_181 0 39 (dk_at dksX11_init_2 20 rfl rfl)
theorem dX11_init_70 : decode cX11_init 70 = .ok (.aload_n 0, 1) := dk_42 (dk_at dksX11_init_2 23 rfl rfl)
theorem dX11_init_71 : decode cX11_init 71 = .ok (.bipush 40, 2) := dk_16 40 (dk_at dksX11_init_3 0 rfl rfl)
theorem dX11_init_73 : decode cX11_init 73 = .ok (.newarray .int, 2) := dk_188_10 (dk_at dksX11_init_3 2 rfl rfl)
theorem dX11_init_75 : decode cX11_init 75 = .ok (.putfield 42, 3) := dk_181 0 42 (dk_at dksX11_init_3 4 rfl rfl)
theorem dX11_init_78 : decode cX11_init 78 = .ok (.aload_n 0, 1) := dk_42 (dk_at dksX11_init_3 7 rfl rfl)
theorem dX11_init_79 : decode cX11_init 79 = .ok (.bipush 40, 2) := dk_16 40 (dk_at dksX11_init_3 8 rfl rfl)
theorem dX11_init_81 : decode cX11_init 81 = .ok (.newarray .int, 2) := dk_188_10 (dk_at dksX11_init_3 10 rfl rfl)
theorem dX11_init_83 : decode cX11_init 83 = .ok (.putfield 45, 3) := dk_181 0 45 (dk_at dksX11_init_3 12 rfl rfl)
theorem dX11_init_86 : decode cX11_init 86 = .ok (.aload_n 0, 1) := dk_42 (dk_at dksX11_init_3 15 rfl rfl)
theorem dX11_init_87 : decode cX11_init 87 = .ok (.bipush 40, 2) := dk_16 40 (dk_at dksX11_init_3 16 rfl rfl)
theorem dX11_init_89 : decode cX11_init 89 = .ok (.newarray .int, 2) := dk_188_10 (dk_at dksX11_init_3 18 rfl rfl)
theorem dX11_init_91 : decode cX11_init 91 = .ok (.putfield 48, 3) := dk_181 0 48 (dk_at dksX11_init_3 20 rfl rfl)
theorem dX11_init_94 : decode cX11_init 94 = .ok (.aload_n 0, 1) := dk_42 (dk_at dksX11_init_3 23 rfl rfl)
theorem dX11_init_95 : decode cX11_init 95 = .ok (.sipush 160, 3) := dk_17 0 160 (dk_at dksX11_init_4 0 rfl rfl)
theorem dX11_init_98 : decode cX11_init 98 = .ok (.newarray .int, 2) := dk_188_10 (dk_at dksX11_init_4 3 rfl rfl)
theorem dX11_init_100 : decode cX11_init 100 = .ok (.putfield 51, 3) := dk_181 0 51 (dk_at dksX11_init_4 5 rfl rfl)
theorem dX11_init_103 : decode cX11_init 103 = .ok (.aload_n 0, 1) := dk_42 (dk_at dksX11_init_4 8 rfl rfl)
theorem dX11_init_104 : decode cX11_init 104 = .ok (.sipush 160, 3) := dk_17 0 160 (dk_at dksX11_init_4 9 rfl rfl)
theorem dX11_init_107 : decode cX11_init 107 = .ok (.newarray .int, 2) := dk_188_10 (dk_at dksX11_init_4 12 rfl rfl)
theorem dX11_init_109 : decode cX11_init 109 = .ok (.putfield 54, 3) := dk_181 0 54 (dk_at dksX11_init_4 14 rfl rfl)
theorem dX11_init_112 : decode cX11_init 112 = .ok (.aload_n 0, 1) := dk_42 (dk_at dksX11_init_4 17 rfl rfl)
theorem dX11_init_113 : decode cX11_init 113 = .ok (.bipush 40, 2) := dk_16 40 (dk_at dksX11_init_4 18 rfl rfl)
theorem dX11_init_115 : decode cX11_init 115 = .ok (.newarray .long, 2) := dk_188_11 (dk_at dksX11_init_4 20 rfl rfl)
theorem dX11_init_117 : decode cX11_init 117 = .ok (.putfield 57, 3) := dk_181 0 57 (dk_at dksX11_init_5 0 rfl rfl)
theorem dX11_init_120 : decode cX11_init 120 = .ok (.aload_n 0, 1) := dk_42 (dk_at dksX11_init_5 3 rfl rfl)
theorem dX11_init_121 : decode cX11_init 121 = .ok (.bipush 25, 2) := dk_16 25 (dk_at dksX11_init_5 4 rfl rfl)
theorem dX11_init_123 : decode cX11_init 123 = .ok (.newarray .int, 2) := dk_188_10 (dk_at dksX11_init_5 6 rfl rfl)
theorem dX11_init_125 : decode cX11_init 125 = .ok (.putfield 61, 3) := dk_181 0 61 (dk_at dksX11_init_5 8 rfl rfl)
theorem dX11_init_128 : decode cX11_init 128 = .ok (.aload_n 0, 1) := dk_42 (dk_at dksX11_init_5 11 rfl rfl)
theorem dX11_init_129 : decode cX11_init 129 = .ok (.bipush 25, 2) := dk_16 25 (dk_at dksX11_init_5 12 rfl rfl)
theorem dX11_init_131 : decode cX11_init 131 = .ok (.newarray .int, 2) := dk_188_10 (dk_at dksX11_init_5 14 rfl rfl)
theorem dX11_init_133 : decode cX11_init 133 = .ok (.putfield 64, 3) := dk_181 0 64 (dk_at dksX11_init_5 16 rfl rfl)
theorem dX11_init_136 : decode cX11_init 136 = .ok (.aload_n 0, 1) := dk_42 (dk_at dksX11_init_5 19 rfl rfl)
theorem dX11_init_137 : decode cX11_init 137 = .ok (.bipush 25, 2) := dk_16 25 (dk_at dksX11_init_5 20 rfl rfl)
theorem dX11_init_139 : decode cX11_init 139 = .ok (.newarray .int, 2) := dk_188_10 (dk_at dksX11_init_5 22 rfl rfl)
theorem dX11_init_141 : decode cX11_init 141 = .ok (.putfield 67, 3) := dk_181 0 67 (dk_at dksX11_init_6 0 rfl rfl)
theorem dX11_init_144 : decode cX11_init 144 = .ok (.aload_n 0, 1) := dk_42 (dk_at dksX11_init_6 3 rfl rfl)
theorem dX11_init_145 : decode cX11_init 145 = .ok (.bipush 25, 2) := dk_16 25 (dk_at dksX11_init_6 4 rfl rfl)
theorem dX11_init_147 : decode cX11_init 147 = .ok (.newarray .int, 2) := dk_188_10 (dk_at dksX11_init_6 6 rfl rfl)
theorem dX11_init_149 : decode cX11_init 149 = .ok (.putfield 70, 3) := dk_181 0 70 (dk_at dksX11_init_6 8 rfl rfl)
theorem dX11_init_152 : decode cX11_init 152 = .ok (.aload_n 0, 1) := dk_42 (dk_at dksX11_init_6 11 rfl rfl)
theorem dX11_init_153 : decode cX11_init 153 = .ok (.bipush 25, 2) := dk_16 25 (dk_at dksX11_init_6 12 rfl rfl)
theorem dX11_init_155 : decode cX11_init 155 = .ok (.newarray .long, 2) := dk_188_11 (dk_at dksX11_init_6 14 rfl rfl)
theorem dX11_init_157 : decode cX11_init 157 = .ok (.putfield 73, 3) := dk_181 0 73 (dk_at dksX11_init_6 16 rfl rfl)
theorem dX11_init_160 : decode cX11_init 160 = .ok (.aload_n 0, 1) := dk_42 (dk_at dksX11_init_6 19 rfl rfl)
theorem dX11_init_161 : decode cX11_init 161 = .ok (.sipush 1000, 3) := dk_17 3 232 (dk_at dksX11_init_6 20 rfl rfl)
theorem dX11_init_164 : decode cX11_init 164 = .ok (.newarray .long, 2) := dk_188_11 (dk_at dksX11_init_7 0 rfl rfl)
theorem dX11_init_166 : decode cX11_init 166 = .ok (.putfield 76, 3) := dk_181 0 76 (dk_at dksX11_init_7 2 rfl rfl)
theorem dX11_init_169 : decode cX11_init 169 = .ok (.aload_n 0, 1) := dk_42 (dk_at dksX11_init_7 5 rfl rfl)
theorem dX11_init_170 : decode cX11_init 170 = .ok (.sipush 1000, 3) := dk_17 3 232 (dk_at dksX11_init_7 6 rfl rfl)
theorem dX11_init_173 : decode cX11_init 173 = .ok (.newarray .long, 2) := dk_188_11 (dk_at dksX11_init_7 9 rfl rfl)
theorem dX11_init_175 : decode cX11_init 175 = .ok (.putfield 79, 3) := dk_181 0 79 (dk_at dksX11_init_7 11 rfl rfl)
theorem dX11_init_178 : decode cX11_init 178 = .ok (.aload_n 0, 1) := dk_42 (dk_at dksX11_init_7 14 rfl rfl)
theorem dX11_init_179 : decode cX11_init 179 = .ok (.sipush 1000, 3) := dk_17 3 232 (dk_at dksX11_init_7 15 rfl rfl)
theorem dX11_init_182 : decode cX11_init 182 = .ok (.newarray .long, 2) := dk_188_11 (dk_at dksX11_init_7 18 rfl rfl)
theorem dX11_init_184 : decode cX11_init 184 = .ok (.putfield 82, 3) := dk_181 0 82 (dk_at dksX11_init_7 20 rfl rfl)
theorem dX11_init_187 : decode cX11_init 187 = .ok (.aload_n 0, 1) := dk_42 (dk_at dksX11_init_7 23 rfl rfl)
theorem dX11_init_188 : decode cX11_init 188 = .ok (.sipush 4000, 3) := dk_17 15 160 (dk_at dksX11_init_8 0 rfl rfl)
theorem dX11_init_191 : decode cX11_init 191 = .ok (.newarray .int, 2) := dk_188_10 (dk_at dksX11_init_8 3 rfl rfl)
theorem dX11_init_193 : decode cX11_init 193 = .ok (.putfield 85, 3) := dk_181 0 85 (dk_at dksX11_init_8 5 rfl rfl)
theorem dX11_init_196 : decode cX11_init 196 = .ok (.aload_n 0, 1) := dk_42 (dk_at dksX11_init_8 8 rfl rfl)
theorem dX11_init_197 : decode cX11_init 197 = .ok (.sipush 250, 3) := dk_17 0 250 (dk_at dksX11_init_8 9 rfl rfl)
theorem dX11_init_200 : decode cX11_init 200 = .ok (.newarray .long, 2) := dk_188_11 (dk_at dksX11_init_8 12 rfl rfl)
theorem dX11_init_202 : decode cX11_init 202 = .ok (.putfield 88, 3) := dk_181 0 88 (dk_at dksX11_init_8 14 rfl rfl)
theorem dX11_init_205 : decode cX11_init 205 = .ok (.aload_n 0, 1) := dk_42 (dk_at dksX11_init_8 17 rfl rfl)
theorem dX11_init_206 : decode cX11_init 206 = .ok (.sipush 175, 3) := dk_17 0 175 (dk_at dksX11_init_8 18 rfl rfl)
theorem dX11_init_209 : decode cX11_init 209 = .ok (.newarray .long, 2) := dk_188_11 (dk_at dksX11_init_8 21 rfl rfl)
theorem dX11_init_211 : decode cX11_init 211 = .ok (.putfield 91, 3) := dk_181 0 91 (dk_at dksX11_init_9 0 rfl rfl)
theorem dX11_init_214 : decode cX11_init 214 = .ok (.aload_n 0, 1) := dk_42 (dk_at dksX11_init_9 3 rfl rfl)
theorem dX11_init_215 : decode cX11_init 215 = .ok (.bipush 10, 2) := dk_16 10 (dk_at dksX11_init_9 4 rfl rfl)
theorem dX11_init_217 : decode cX11_init 217 = .ok (.newarray .int, 2) := dk_188_10 (dk_at dksX11_init_9 6 rfl rfl)
theorem dX11_init_219 : decode cX11_init 219 = .ok (.putfield 94, 3) := dk_181 0 94 (dk_at dksX11_init_9 8 rfl rfl)
theorem dX11_init_222 : decode cX11_init 222 = .ok (.aload_n 0, 1) := dk_42 (dk_at dksX11_init_9 11 rfl rfl)
theorem dX11_init_223 : decode cX11_init 223 = .ok (.bipush 10, 2) := dk_16 10 (dk_at dksX11_init_9 12 rfl rfl)
theorem dX11_init_225 : decode cX11_init 225 = .ok (.newarray .int, 2) := dk_188_10 (dk_at dksX11_init_9 14 rfl rfl)
theorem dX11_init_227 : decode cX11_init 227 = .ok (.putfield 97, 3) := dk_181 0 97 (dk_at dksX11_init_9 16 rfl rfl)
theorem dX11_init_230 : decode cX11_init 230 = .ok (.aload_n 0, 1) := dk_42 (dk_at dksX11_init_9 19 rfl rfl)
theorem dX11_init_231 : decode cX11_init 231 = .ok (.bipush 72, 2) := dk_16 72 (dk_at dksX11_init_9 20 rfl rfl)
theorem dX11_init_233 : decode cX11_init 233 = .ok (.newarray .int, 2) := dk_188_10 (dk_at dksX11_init_9 22 rfl rfl)
theorem dX11_init_235 : decode cX11_init 235 = .ok (.putfield 100, 3) := dk_181 0 100 (dk_at dksX11_init_10 0 rfl rfl)
theorem dX11_init_238 : decode cX11_init 238 = .ok (.aload_n 0, 1) := dk_42 (dk_at dksX11_init_10 3 rfl rfl)
theorem dX11_init_239 : decode cX11_init 239 = .ok (.bipush 12, 2) := dk_16 12 (dk_at dksX11_init_10 4 rfl rfl)
theorem dX11_init_241 : decode cX11_init 241 = .ok (.newarray .int, 2) := dk_188_10 (dk_at dksX11_init_10 6 rfl rfl)
theorem dX11_init_243 : decode cX11_init 243 = .ok (.putfield 103, 3) := dk_181 0 103 (dk_at dksX11_init_10 8 rfl rfl)
theorem dX11_init_246 : decode cX11_init 246 = .ok (.aload_n 0, 1) := dk_42 (dk_at dksX11_init_10 11 rfl rfl)
theorem dX11_init_247 : decode cX11_init 247 = .ok (.bipush 40, 2) := dk_16 40 (dk_at dksX11_init_10 12 rfl rfl)
theorem dX11_init_249 : decode cX11_init 249 = .ok (.newarray .int, 2) := dk_188_10 (dk_at dksX11_init_10 14 rfl rfl)
theorem dX11_init_251 : decode cX11_init 251 = .ok (.putfield 106, 3) := dk_181 0 106 (dk_at dksX11_init_10 16 rfl rfl)
theorem dX11_init_254 : decode cX11_init 254 = .ok (.aload_n 0, 1) := dk_42 (dk_at dksX11_init_10 19 rfl rfl)
theorem dX11_init_255 : decode cX11_init 255 = .ok (.bipush 40, 2) := dk_16 40 (dk_at dksX11_init_10 20 rfl rfl)
theorem dX11_init_257 : decode cX11_init 257 = .ok (.newarray .long, 2) := dk_188_11 (dk_at dksX11_init_10 22 rfl rfl)
theorem dX11_init_259 : decode cX11_init 259 = .ok (.putfield 109, 3) := dk_181 0 109 (dk_at dksX11_init_11 0 rfl rfl)
theorem dX11_init_262 : decode cX11_init 262 = .ok (.aload_n 0, 1) := dk_42 (dk_at dksX11_init_11 3 rfl rfl)
theorem dX11_init_263 : decode cX11_init 263 = .ok (.bipush 40, 2) := dk_16 40 (dk_at dksX11_init_11 4 rfl rfl)
theorem dX11_init_265 : decode cX11_init 265 = .ok (.newarray .long, 2) := dk_188_11 (dk_at dksX11_init_11 6 rfl rfl)
theorem dX11_init_267 : decode cX11_init 267 = .ok (.putfield 112, 3) := dk_181 0 112 (dk_at dksX11_init_11 8 rfl rfl)
theorem dX11_init_270 : decode cX11_init 270 = .ok (.aload_n 0, 1) := dk_42 (dk_at dksX11_init_11 11 rfl rfl)
theorem dX11_init_271 : decode cX11_init 271 = .ok (.bipush 40, 2) := dk_16 40 (dk_at dksX11_init_11 12 rfl rfl)
theorem dX11_init_273 : decode cX11_init 273 = .ok (.newarray .long, 2) := dk_188_11 (dk_at dksX11_init_11 14 rfl rfl)
theorem dX11_init_275 : decode cX11_init 275 = .ok (.putfield 115, 3) := dk_181 0 115 (dk_at dksX11_init_11 16 rfl rfl)
theorem dX11_init_278 : decode cX11_init 278 = .ok (.aload_n 0, 1) := dk_42 (dk_at dksX11_init_11 19 rfl rfl)
theorem dX11_init_279 : decode cX11_init 279 = .ok (.bipush 40, 2) := dk_16 40 (dk_at dksX11_init_11 20 rfl rfl)
theorem dX11_init_281 : decode cX11_init 281 = .ok (.newarray .long, 2) := dk_188_11 (dk_at dksX11_init_11 22 rfl rfl)
theorem dX11_init_283 : decode cX11_init 283 = .ok (.putfield 118, 3) := dk_181 0 118 (dk_at dksX11_init_12 0 rfl rfl)
theorem dX11_init_286 : decode cX11_init 286 = .ok (.aload_n 0, 1) := dk_42 (dk_at dksX11_init_12 3 rfl rfl)
theorem dX11_init_287 : decode cX11_init 287 = .ok (.bipush 12, 2) := dk_16 12 (dk_at dksX11_init_12 4 rfl rfl)
theorem dX11_init_289 : decode cX11_init 289 = .ok (.newarray .long, 2) := dk_188_11 (dk_at dksX11_init_12 6 rfl rfl)
theorem dX11_init_291 : decode cX11_init 291 = .ok (.putfield 121, 3) := dk_181 0 121 (dk_at dksX11_init_12 8 rfl rfl)
theorem dX11_init_294 : decode cX11_init 294 = .ok (.aload_n 0, 1) := dk_42 (dk_at dksX11_init_12 11 rfl rfl)
theorem dX11_init_295 : decode cX11_init 295 = .ok (.bipush 12, 2) := dk_16 12 (dk_at dksX11_init_12 12 rfl rfl)
theorem dX11_init_297 : decode cX11_init 297 = .ok (.newarray .int, 2) := dk_188_10 (dk_at dksX11_init_12 14 rfl rfl)
theorem dX11_init_299 : decode cX11_init 299 = .ok (.putfield 124, 3) := dk_181 0 124 (dk_at dksX11_init_12 16 rfl rfl)
theorem dX11_init_302 : decode cX11_init 302 = .ok (.aload_n 0, 1) := dk_42 (dk_at dksX11_init_12 19 rfl rfl)
theorem dX11_init_303 : decode cX11_init 303 = .ok (.bipush 40, 2) := dk_16 40 (dk_at dksX11_init_12 20 rfl rfl)
theorem dX11_init_305 : decode cX11_init 305 = .ok (.newarray .long, 2) := dk_188_11 (dk_at dksX11_init_12 22 rfl rfl)
theorem dX11_init_307 : decode cX11_init 307 = .ok (.putfield 127, 3) := dk_181 0 127 (dk_at dksX11_init_13 0 rfl rfl)
theorem dX11_init_310 : decode cX11_init 310 = .ok (.aload_n 0, 1) := dk_42 (dk_at dksX11_init_13 3 rfl rfl)
theorem dX11_init_311 : decode cX11_init 311 = .ok (.bipush 40, 2) := dk_16 40 (dk_at dksX11_init_13 4 rfl rfl)
theorem dX11_init_313 : decode cX11_init 313 = .ok (.newarray .long, 2) := dk_188_11 (dk_at dksX11_init_13 6 rfl rfl)
theorem dX11_init_315 : decode cX11_init 315 = .ok (.putfield 130, 3) := dk_181 0 130 (dk_at dksX11_init_13 8 rfl rfl)
theorem dX11_init_318 : decode cX11_init 318 = .ok (.aload_n 0, 1) := dk_42 (dk_at dksX11_init_13 11 rfl rfl)
theorem dX11_init_319 : decode cX11_init 319 = .ok (.bipush 40, 2) := dk_16 40 (dk_at dksX11_init_13 12 rfl rfl)
theorem dX11_init_321 : decode cX11_init 321 = .ok (.newarray .long, 2) := dk_188_11 (dk_at dksX11_init_13 14 rfl rfl)
theorem dX11_init_323 : decode cX11_init 323 = .ok (.putfield 133, 3) := dk_181 0 133 (dk_at dksX11_init_13 16 rfl rfl)
theorem dX11_init_326 : decode cX11_init 326 = .ok (.aload_n 0, 1) := dk_42 (dk_at dksX11_init_13 19 rfl rfl)
theorem dX11_init_327 : decode cX11_init 327 = .ok (.bipush 7, 2) := dk_16 7 (dk_at dksX11_init_13 20 rfl rfl)
theorem dX11_init_329 : decode cX11_init 329 = .ok (.newarray .long, 2) := dk_188_11 (dk_at dksX11_init_13 22 rfl rfl)
theorem dX11_init_331 : decode cX11_init 331 = .ok (.putfield 136, 3) := dk_181 0 136 (dk_at dksX11_init_14 0 rfl rfl)
theorem dX11_init_334 : decode cX11_init 334 = .ok (.aload_n 0, 1) := dk_42 (dk_at dksX11_init_14 3 rfl rfl)
theorem dX11_init_335 : decode cX11_init 335 = .ok (.bipush 40, 2) := dk_16 40 (dk_at dksX11_init_14 4 rfl rfl)
theorem dX11_init_337 : decode cX11_init 337 = .ok (.newarray .long, 2) := dk_188_11 (dk_at dksX11_init_14 6 rfl rfl)
theorem dX11_init_339 : decode cX11_init 339 = .ok (.putfield 139, 3) := dk_181 0 139 (dk_at dksX11_init_14 8 rfl rfl)
theorem dX11_init_342 : decode cX11_init 342 = .ok (.aload_n 0, 1) := dk_42 (dk_at dksX11_init_14 11 rfl rfl)
theorem dX11_init_343 : decode cX11_init 343 = .ok (.bipush 12, 2) := dk_16 12 (dk_at dksX11_init_14 12 rfl rfl)
theorem dX11_init_345 : decode cX11_init 345 = .ok (.newarray .long, 2) := dk_188_11 (dk_at dksX11_init_14 14 rfl rfl)
theorem dX11_init_347 : decode cX11_init 347 = .ok (.putfield 142, 3) := dk_181 0 142 (dk_at dksX11_init_14 16 rfl rfl)
theorem dX11_init_350 : decode cX11_init 350 = .ok (.return_, 1) := dk_177 (dk_at dksX11_init_14 19 rfl rfl)
abbrev cX11_place : ByteArray := prog_16_method_65_code
def yX11_place : MethodName := ⟨RX11, "place", "(IIII)I"⟩
def dkwX11_place_6 : List UInt8 := [100, 182, 1, 75, 21, 6, 172]
abbrev dktX11_place_6 : List UInt8 := dkwX11_place_6 ++ []
def dkwX11_place_5 : List UInt8 := [3, 182, 1, 106, 54, 6, 42, 3, 27, 28, 29, 21, 4, 21, 6, 182, 1, 112, 42, 42, 180, 0, 17, 4]
abbrev dktX11_place_5 : List UInt8 := dkwX11_place_5 ++ dktX11_place_6
def dkwX11_place_4 : List UInt8 := [4, 167, 0, 4, 3, 5, 5, 182, 1, 90, 153, 0, 11, 42, 5, 182, 1, 109, 154, 0, 5, 3, 172, 42]
abbrev dktX11_place_4 : List UInt8 := dkwX11_place_4 ++ dktX11_place_5
def dkwX11_place_3 : List UInt8 := [153, 0, 45, 42, 42, 3, 182, 1, 106, 16, 40, 162, 0, 17, 42, 27, 28, 29, 182, 1, 36, 153, 0, 7]
abbrev dktX11_place_3 : List UInt8 := dkwX11_place_3 ++ dktX11_place_4
def dkwX11_place_2 : List UInt8 := [20, 1, 104, 184, 1, 96, 153, 0, 7, 4, 167, 0, 4, 3, 54, 5, 42, 21, 5, 4, 4, 182, 1, 90]
abbrev dktX11_place_2 : List UInt8 := dkwX11_place_2 ++ dktX11_place_3
def dkwX11_place_1 : List UInt8 := [184, 1, 96, 153, 0, 32, 29, 133, 10, 20, 1, 102, 184, 1, 96, 153, 0, 20, 21, 4, 133, 10]
abbrev dktX11_place_1 : List UInt8 := dkwX11_place_1 ++ dktX11_place_2
def dkwX11_place_0 : List UInt8 := [42, 3, 181, 0, 1, 27, 133, 9, 20, 1, 94, 184, 1, 96, 153, 0, 44, 28, 133, 9, 20, 1, 100]
abbrev dktX11_place_0 : List UInt8 := dkwX11_place_0 ++ dktX11_place_1
theorem dksX11_place_0 : cX11_place.data.toList.drop 0 = dktX11_place_0 := by decide +kernel
theorem dksX11_place_1 : cX11_place.data.toList.drop 23 = dktX11_place_1 := dk_seg dksX11_place_0 23 rfl rfl
theorem dksX11_place_2 : cX11_place.data.toList.drop 45 = dktX11_place_2 := dk_seg dksX11_place_1 22 rfl rfl
theorem dksX11_place_3 : cX11_place.data.toList.drop 69 = dktX11_place_3 := dk_seg dksX11_place_2 24 rfl rfl
theorem dksX11_place_4 : cX11_place.data.toList.drop 93 = dktX11_place_4 := dk_seg dksX11_place_3 24 rfl rfl
theorem dksX11_place_5 : cX11_place.data.toList.drop 117 = dktX11_place_5 := dk_seg dksX11_place_4 24 rfl rfl
theorem dksX11_place_6 : cX11_place.data.toList.drop 141 = dktX11_place_6 := dk_seg dksX11_place_5 24 rfl rfl
theorem dX11_place_0 : decode cX11_place 0 = .ok (.aload_n 0, 1) := dk_42 (dk_at dksX11_place_0 0 rfl rfl)
theorem dX11_place_1 : decode cX11_place 1 = .ok (.iconst 0, 1) := dk_3 (dk_at dksX11_place_0 1 rfl rfl)
theorem dX11_place_2 : decode cX11_place 2 = .ok (.putfield 1, 3) := dk_181 0 1 (dk_at dksX11_place_0 2 rfl rfl)
theorem dX11_place_5 : decode cX11_place 5 = .ok (.iload_n 1, 1) := dk_27 (dk_at dksX11_place_0 5 rfl rfl)
theorem dX11_place_6 : decode cX11_place 6 = .ok (.i2l, 1) := dk_133 (dk_at dksX11_place_0 6 rfl rfl)
theorem dX11_place_7 : decode cX11_place 7 = .ok (.lconst 0, 1) := dk_9 (dk_at dksX11_place_0 7 rfl rfl)
theorem dX11_place_8 : decode cX11_place 8 = .ok (.ldc2_w 350, 3) := dk_20 1 94 (dk_at dksX11_place_0 8 rfl rfl)
theorem dX11_place_11 : decode cX11_place 11 = .ok (.invokestatic 352, 3) := dk_184 1 96 (dk_at dksX11_place_0 11 rfl rfl)
theorem dX11_place_14 : decode cX11_place 14 = .ok (.ifCond .eq 44, 3) := dk_153 0 44 (dk_at dksX11_place_0 14 rfl rfl)
theorem dX11_place_17 : decode cX11_place 17 = .ok (.iload_n 2, 1) := dk_28 (dk_at dksX11_place_0 17 rfl rfl)
theorem dX11_place_18 : decode cX11_place 18 = .ok (.i2l, 1) := dk_133 (dk_at dksX11_place_0 18 rfl rfl)
theorem dX11_place_19 : decode cX11_place 19 = .ok (.lconst 0, 1) := dk_9 (dk_at dksX11_place_0 19 rfl rfl)
theorem dX11_place_20 : decode cX11_place 20 = .ok (.ldc2_w 356, 3) := dk_20 1 100 (dk_at dksX11_place_0 20 rfl rfl)
theorem dX11_place_23 : decode cX11_place 23 = .ok (.invokestatic 352, 3) := dk_184 1 96 (dk_at dksX11_place_1 0 rfl rfl)
theorem dX11_place_26 : decode cX11_place 26 = .ok (.ifCond .eq 32, 3) := dk_153 0 32 (dk_at dksX11_place_1 3 rfl rfl)
theorem dX11_place_29 : decode cX11_place 29 = .ok (.iload_n 3, 1) := dk_29 (dk_at dksX11_place_1 6 rfl rfl)
theorem dX11_place_30 : decode cX11_place 30 = .ok (.i2l, 1) := dk_133 (dk_at dksX11_place_1 7 rfl rfl)
theorem dX11_place_31 : decode cX11_place 31 = .ok (.lconst 1, 1) := dk_10 (dk_at dksX11_place_1 8 rfl rfl)
theorem dX11_place_32 : decode cX11_place 32 = .ok (.ldc2_w 358, 3) := dk_20 1 102 (dk_at dksX11_place_1 9 rfl rfl)
theorem dX11_place_35 : decode cX11_place 35 = .ok (.invokestatic 352, 3) := dk_184 1 96 (dk_at dksX11_place_1 12 rfl rfl)
theorem dX11_place_38 : decode cX11_place 38 = .ok (.ifCond .eq 20, 3) := dk_153 0 20 (dk_at dksX11_place_1 15 rfl rfl)
theorem dX11_place_41 : decode cX11_place 41 = .ok (.iload 4, 2) := dk_21 4 (dk_at dksX11_place_1 18 rfl rfl)
theorem dX11_place_43 : decode cX11_place 43 = .ok (.i2l, 1) := dk_133 (dk_at dksX11_place_1 20 rfl rfl)
theorem dX11_place_44 : decode cX11_place 44 = .ok (.lconst 1, 1) := dk_10 (dk_at dksX11_place_1 21 rfl rfl)
theorem dX11_place_45 : decode cX11_place 45 = .ok (.ldc2_w 360, 3) := dk_20 1 104 (dk_at dksX11_place_2 0 rfl rfl)
theorem dX11_place_48 : decode cX11_place 48 = .ok (.invokestatic 352, 3) := dk_184 1 96 (dk_at dksX11_place_2 3 rfl rfl)
theorem dX11_place_51 : decode cX11_place 51 = .ok (.ifCond .eq 7, 3) := dk_153 0 7 (dk_at dksX11_place_2 6 rfl rfl)
theorem dX11_place_54 : decode cX11_place 54 = .ok (.iconst 1, 1) := dk_4 (dk_at dksX11_place_2 9 rfl rfl)
theorem dX11_place_55 : decode cX11_place 55 = .ok (.goto 4, 3) := dk_167 0 4 (dk_at dksX11_place_2 10 rfl rfl)
theorem dX11_place_58 : decode cX11_place 58 = .ok (.iconst 0, 1) := dk_3 (dk_at dksX11_place_2 13 rfl rfl)
theorem dX11_place_59 : decode cX11_place 59 = .ok (.istore 5, 2) := dk_54 5 (dk_at dksX11_place_2 14 rfl rfl)
theorem dX11_place_61 : decode cX11_place 61 = .ok (.aload_n 0, 1) := dk_42 (dk_at dksX11_place_2 16 rfl rfl)
theorem dX11_place_62 : decode cX11_place 62 = .ok (.iload 5, 2) := dk_21 5 (dk_at dksX11_place_2 17 rfl rfl)
theorem dX11_place_64 : decode cX11_place 64 = .ok (.iconst 1, 1) := dk_4 (dk_at dksX11_place_2 19 rfl rfl)
theorem dX11_place_65 : decode cX11_place 65 = .ok (.iconst 1, 1) := dk_4 (dk_at dksX11_place_2 20 rfl rfl)
theorem dX11_place_66 : decode cX11_place 66 = .ok (.invokevirtual 346, 3) := dk_182 1 90 (dk_at dksX11_place_2 21 rfl rfl)
theorem dX11_place_69 : decode cX11_place 69 = .ok (.ifCond .eq 45, 3) := dk_153 0 45 (dk_at dksX11_place_3 0 rfl rfl)
theorem dX11_place_72 : decode cX11_place 72 = .ok (.aload_n 0, 1) := dk_42 (dk_at dksX11_place_3 3 rfl rfl)
theorem dX11_place_73 : decode cX11_place 73 = .ok (.aload_n 0, 1) := dk_42 (dk_at dksX11_place_3 4 rfl rfl)
theorem dX11_place_74 : decode cX11_place 74 = .ok (.iconst 0, 1) := dk_3 (dk_at dksX11_place_3 5 rfl rfl)
theorem dX11_place_75 : decode cX11_place 75 = .ok (.invokevirtual 362, 3) := dk_182 1 106 (dk_at dksX11_place_3 6 rfl rfl)
theorem dX11_place_78 : decode cX11_place 78 = .ok (.bipush 40, 2) := dk_16 40 (dk_at dksX11_place_3 9 rfl rfl)
theorem dX11_place_80 : decode cX11_place 80 = .ok (.if_icmp .ge 17, 3) := dk_162 0 17 (dk_at dksX11_place_3 11 rfl rfl)
theorem dX11_place_83 : decode cX11_place 83 = .ok (.aload_n 0, 1) := dk_42 (dk_at dksX11_place_3 14 rfl rfl)
theorem dX11_place_84 : decode cX11_place 84 = .ok (.iload_n 1, 1) := dk_27 (dk_at dksX11_place_3 15 rfl rfl)
theorem dX11_place_85 : decode cX11_place 85 = .ok (.iload_n 2, 1) := dk_28 (dk_at dksX11_place_3 16 rfl rfl)
theorem dX11_place_86 : decode cX11_place 86 = .ok (.iload_n 3, 1) := dk_29 (dk_at dksX11_place_3 17 rfl rfl)
theorem dX11_place_87 : decode cX11_place 87 = .ok (.invokevirtual 292, 3) := dk_182 1 36 (dk_at dksX11_place_3 18 rfl rfl)
theorem dX11_place_90 : decode cX11_place 90 = .ok (.ifCond .eq 7, 3) := dk_153 0 7 (dk_at dksX11_place_3 21 rfl rfl)
theorem dX11_place_93 : decode cX11_place 93 = .ok (.iconst 1, 1) := dk_4 (dk_at dksX11_place_4 0 rfl rfl)
theorem dX11_place_94 : decode cX11_place 94 = .ok (.goto 4, 3) := dk_167 0 4 (dk_at dksX11_place_4 1 rfl rfl)
theorem dX11_place_97 : decode cX11_place 97 = .ok (.iconst 0, 1) := dk_3 (dk_at dksX11_place_4 4 rfl rfl)
theorem dX11_place_98 : decode cX11_place 98 = .ok (.iconst 2, 1) := dk_5 (dk_at dksX11_place_4 5 rfl rfl)
theorem dX11_place_99 : decode cX11_place 99 = .ok (.iconst 2, 1) := dk_5 (dk_at dksX11_place_4 6 rfl rfl)
theorem dX11_place_100 : decode cX11_place 100 = .ok (.invokevirtual 346, 3) := dk_182 1 90 (dk_at dksX11_place_4 7 rfl rfl)
theorem dX11_place_103 : decode cX11_place 103 = .ok (.ifCond .eq 11, 3) := dk_153 0 11 (dk_at dksX11_place_4 10 rfl rfl)
theorem dX11_place_106 : decode cX11_place 106 = .ok (.aload_n 0, 1) := dk_42 (dk_at dksX11_place_4 13 rfl rfl)
theorem dX11_place_107 : decode cX11_place 107 = .ok (.iconst 2, 1) := dk_5 (dk_at dksX11_place_4 14 rfl rfl)
theorem dX11_place_108 : decode cX11_place 108 = .ok (.invokevirtual 365, 3) := dk_182 1 109 (dk_at dksX11_place_4 15 rfl rfl)
theorem dX11_place_111 : decode cX11_place 111 = .ok (.ifCond .ne 5, 3) := dk_154 0 5 (dk_at dksX11_place_4 18 rfl rfl)
theorem dX11_place_114 : decode cX11_place 114 = .ok (.iconst 0, 1) := dk_3 (dk_at dksX11_place_4 21 rfl rfl)
theorem dX11_place_115 : decode cX11_place 115 = .ok (.ireturn, 1) := dk_172 (dk_at dksX11_place_4 22 rfl rfl)
theorem dX11_place_116 : decode cX11_place 116 = .ok (.aload_n 0, 1) := dk_42 (dk_at dksX11_place_4 23 rfl rfl)
theorem dX11_place_117 : decode cX11_place 117 = .ok (.iconst 0, 1) := dk_3 (dk_at dksX11_place_5 0 rfl rfl)
theorem dX11_place_118 : decode cX11_place 118 = .ok (.invokevirtual 362, 3) := dk_182 1 106 (dk_at dksX11_place_5 1 rfl rfl)
theorem dX11_place_121 : decode cX11_place 121 = .ok (.istore 6, 2) := dk_54 6 (dk_at dksX11_place_5 4 rfl rfl)
theorem dX11_place_123 : decode cX11_place 123 = .ok (.aload_n 0, 1) := dk_42 (dk_at dksX11_place_5 6 rfl rfl)
theorem dX11_place_124 : decode cX11_place 124 = .ok (.iconst 0, 1) := dk_3 (dk_at dksX11_place_5 7 rfl rfl)
theorem dX11_place_125 : decode cX11_place 125 = .ok (.iload_n 1, 1) := dk_27 (dk_at dksX11_place_5 8 rfl rfl)
theorem dX11_place_126 : decode cX11_place 126 = .ok (.iload_n 2, 1) := dk_28 (dk_at dksX11_place_5 9 rfl rfl)
theorem dX11_place_127 : decode cX11_place 127 = .ok (.iload_n 3, 1) := dk_29 (dk_at dksX11_place_5 10 rfl rfl)
theorem dX11_place_128 : decode cX11_place 128 = .ok (.iload 4, 2) := dk_21 4 (dk_at dksX11_place_5 11 rfl rfl)
theorem dX11_place_130 : decode cX11_place 130 = .ok (.iload 6, 2) := dk_21 6 (dk_at dksX11_place_5 13 rfl rfl)
theorem dX11_place_132 : decode cX11_place 132 = .ok (.invokevirtual 368, 3) := dk_182 1 112 (dk_at dksX11_place_5 15 rfl rfl)
theorem dX11_place_135 : decode cX11_place 135 = .ok (.aload_n 0, 1) := dk_42 (dk_at dksX11_place_5 18 rfl rfl)
theorem dX11_place_136 : decode cX11_place 136 = .ok (.aload_n 0, 1) := dk_42 (dk_at dksX11_place_5 19 rfl rfl)
theorem dX11_place_137 : decode cX11_place 137 = .ok (.getfield 17, 3) := dk_180 0 17 (dk_at dksX11_place_5 20 rfl rfl)
theorem dX11_place_140 : decode cX11_place 140 = .ok (.iconst 1, 1) := dk_4 (dk_at dksX11_place_5 23 rfl rfl)
theorem dX11_place_141 : decode cX11_place 141 = .ok (.isub, 1) := dk_100 (dk_at dksX11_place_6 0 rfl rfl)
theorem dX11_place_142 : decode cX11_place 142 = .ok (.invokevirtual 331, 3) := dk_182 1 75 (dk_at dksX11_place_6 1 rfl rfl)
theorem dX11_place_145 : decode cX11_place 145 = .ok (.iload 6, 2) := dk_21 6 (dk_at dksX11_place_6 4 rfl rfl)
theorem dX11_place_147 : decode cX11_place 147 = .ok (.ireturn, 1) := dk_172 (dk_at dksX11_place_6 6 rfl rfl)
abbrev cX11_within : ByteArray := prog_16_method_3_code
def yX11_within : MethodName := ⟨RX11, "within", "(JJJ)Z"⟩
def dkwX11_within_0 : List UInt8 := [30, 32, 148, 155, 0, 14, 30, 22, 4, 148, 157, 0, 7, 4, 167, 0, 4, 3, 172]
abbrev dktX11_within_0 : List UInt8 := dkwX11_within_0 ++ []
theorem dksX11_within_0 : cX11_within.data.toList.drop 0 = dktX11_within_0 := by decide +kernel
theorem dX11_within_0 : decode cX11_within 0 = .ok (.lload_n 0, 1) := dk_30 (dk_at dksX11_within_0 0 rfl rfl)
theorem dX11_within_1 : decode cX11_within 1 = .ok (.lload_n 2, 1) := dk_32 (dk_at dksX11_within_0 1 rfl rfl)
theorem dX11_within_2 : decode cX11_within 2 = .ok (.lcmp, 1) := dk_148 (dk_at dksX11_within_0 2 rfl rfl)
theorem dX11_within_3 : decode cX11_within 3 = .ok (.ifCond .lt 14, 3) := dk_155 0 14 (dk_at dksX11_within_0 3 rfl rfl)
theorem dX11_within_6 : decode cX11_within 6 = .ok (.lload_n 0, 1) := dk_30 (dk_at dksX11_within_0 6 rfl rfl)
theorem dX11_within_7 : decode cX11_within 7 = .ok (.lload 4, 2) := dk_22 4 (dk_at dksX11_within_0 7 rfl rfl)
theorem dX11_within_9 : decode cX11_within 9 = .ok (.lcmp, 1) := dk_148 (dk_at dksX11_within_0 9 rfl rfl)
theorem dX11_within_10 : decode cX11_within 10 = .ok (.ifCond .gt 7, 3) := dk_157 0 7 (dk_at dksX11_within_0 10 rfl rfl)
theorem dX11_within_13 : decode cX11_within 13 = .ok (.iconst 1, 1) := dk_4 (dk_at dksX11_within_0 13 rfl rfl)
theorem dX11_within_14 : decode cX11_within 14 = .ok (.goto 4, 3) := dk_167 0 4 (dk_at dksX11_within_0 14 rfl rfl)
theorem dX11_within_17 : decode cX11_within 17 = .ok (.iconst 0, 1) := dk_3 (dk_at dksX11_within_0 17 rfl rfl)
theorem dX11_within_18 : decode cX11_within 18 = .ok (.ireturn, 1) := dk_172 (dk_at dksX11_within_0 18 rfl rfl)
abbrev cX11_needs : ByteArray := prog_16_method_2_code
def yX11_needs : MethodName := ⟨RX11, "needs", "(ZII)Z"⟩
def dkwX11_needs_1 : List UInt8 := [96, 79, 42, 180, 0, 1, 154, 0, 7, 4, 167, 0, 4, 3, 172]
abbrev dktX11_needs_1 : List UInt8 := dkwX11_needs_1 ++ []
def dkwX11_needs_0 : List UInt8 := [27, 154, 0, 25, 42, 180, 0, 1, 154, 0, 18, 42, 28, 181, 0, 1, 42, 180, 0, 7, 29, 92, 46, 4]
abbrev dktX11_needs_0 : List UInt8 := dkwX11_needs_0 ++ dktX11_needs_1
theorem dksX11_needs_0 : cX11_needs.data.toList.drop 0 = dktX11_needs_0 := by decide +kernel
theorem dksX11_needs_1 : cX11_needs.data.toList.drop 24 = dktX11_needs_1 := dk_seg dksX11_needs_0 24 rfl rfl
theorem dX11_needs_0 : decode cX11_needs 0 = .ok (.iload_n 1, 1) := dk_27 (dk_at dksX11_needs_0 0 rfl rfl)
theorem dX11_needs_1 : decode cX11_needs 1 = .ok (.ifCond .ne 25, 3) := dk_154 0 25 (dk_at dksX11_needs_0 1 rfl rfl)
theorem dX11_needs_4 : decode cX11_needs 4 = .ok (.aload_n 0, 1) := dk_42 (dk_at dksX11_needs_0 4 rfl rfl)
theorem dX11_needs_5 : decode cX11_needs 5 = .ok (.getfield 1, 3) := dk_180 0 1 (dk_at dksX11_needs_0 5 rfl rfl)
theorem dX11_needs_8 : decode cX11_needs 8 = .ok (.ifCond .ne 18, 3) := dk_154 0 18 (dk_at dksX11_needs_0 8 rfl rfl)
theorem dX11_needs_11 : decode cX11_needs 11 = .ok (.aload_n 0, 1) := dk_42 (dk_at dksX11_needs_0 11 rfl rfl)
theorem dX11_needs_12 : decode cX11_needs 12 = .ok (.iload_n 2, 1) := dk_28 (dk_at dksX11_needs_0 12 rfl rfl)
theorem dX11_needs_13 : decode cX11_needs 13 = .ok (.putfield 1, 3) := dk_181 0 1 (dk_at dksX11_needs_0 13 rfl rfl)
theorem dX11_needs_16 : decode cX11_needs 16 = .ok (.aload_n 0, 1) := dk_42 (dk_at dksX11_needs_0 16 rfl rfl)
theorem dX11_needs_17 : decode cX11_needs 17 = .ok (.getfield 7, 3) := dk_180 0 7 (dk_at dksX11_needs_0 17 rfl rfl)
theorem dX11_needs_20 : decode cX11_needs 20 = .ok (.iload_n 3, 1) := dk_29 (dk_at dksX11_needs_0 20 rfl rfl)
theorem dX11_needs_21 : decode cX11_needs 21 = .ok (.dup2, 1) := dk_92 (dk_at dksX11_needs_0 21 rfl rfl)
theorem dX11_needs_22 : decode cX11_needs 22 = .ok (.iaload, 1) := dk_46 (dk_at dksX11_needs_0 22 rfl rfl)
theorem dX11_needs_23 : decode cX11_needs 23 = .ok (.iconst 1, 1) := dk_4 (dk_at dksX11_needs_0 23 rfl rfl)
theorem dX11_needs_24 : decode cX11_needs 24 = .ok (.iadd, 1) := dk_96 (dk_at dksX11_needs_1 0 rfl rfl)
theorem dX11_needs_25 : decode cX11_needs 25 = .ok (.iastore, 1) := dk_79 (dk_at dksX11_needs_1 1 rfl rfl)
theorem dX11_needs_26 : decode cX11_needs 26 = .ok (.aload_n 0, 1) := dk_42 (dk_at dksX11_needs_1 2 rfl rfl)
theorem dX11_needs_27 : decode cX11_needs 27 = .ok (.getfield 1, 3) := dk_180 0 1 (dk_at dksX11_needs_1 3 rfl rfl)
theorem dX11_needs_30 : decode cX11_needs 30 = .ok (.ifCond .ne 7, 3) := dk_154 0 7 (dk_at dksX11_needs_1 6 rfl rfl)
theorem dX11_needs_33 : decode cX11_needs 33 = .ok (.iconst 1, 1) := dk_4 (dk_at dksX11_needs_1 9 rfl rfl)
theorem dX11_needs_34 : decode cX11_needs 34 = .ok (.goto 4, 3) := dk_167 0 4 (dk_at dksX11_needs_1 10 rfl rfl)
theorem dX11_needs_37 : decode cX11_needs 37 = .ok (.iconst 0, 1) := dk_3 (dk_at dksX11_needs_1 13 rfl rfl)
theorem dX11_needs_38 : decode cX11_needs 38 = .ok (.ireturn, 1) := dk_172 (dk_at dksX11_needs_1 14 rfl rfl)
abbrev cX11_eventsOf : ByteArray := prog_16_method_7_code
def yX11_eventsOf : MethodName := ⟨RX11, "eventsOf", "(I)I"⟩
def dkwX11_eventsOf_1 : List UInt8 := [167, 0, 4, 3, 96, 61, 132, 3, 1, 167, 255, 227, 28, 172]
abbrev dktX11_eventsOf_1 : List UInt8 := dkwX11_eventsOf_1 ++ []
def dkwX11_eventsOf_0 : List UInt8 := [3, 61, 3, 62, 29, 42, 180, 0, 17, 162, 0, 27, 28, 42, 180, 0, 14, 29, 46, 27, 160, 0, 7, 4]
abbrev dktX11_eventsOf_0 : List UInt8 := dkwX11_eventsOf_0 ++ dktX11_eventsOf_1
theorem dksX11_eventsOf_0 : cX11_eventsOf.data.toList.drop 0 = dktX11_eventsOf_0 := by decide +kernel
theorem dksX11_eventsOf_1 : cX11_eventsOf.data.toList.drop 24 = dktX11_eventsOf_1 := dk_seg dksX11_eventsOf_0 24 rfl rfl
theorem dX11_eventsOf_0 : decode cX11_eventsOf 0 = .ok (.iconst 0, 1) := dk_3 (dk_at dksX11_eventsOf_0 0 rfl rfl)
theorem dX11_eventsOf_1 : decode cX11_eventsOf 1 = .ok (.istore_n 2, 1) := dk_61 (dk_at dksX11_eventsOf_0 1 rfl rfl)
theorem dX11_eventsOf_2 : decode cX11_eventsOf 2 = .ok (.iconst 0, 1) := dk_3 (dk_at dksX11_eventsOf_0 2 rfl rfl)
theorem dX11_eventsOf_3 : decode cX11_eventsOf 3 = .ok (.istore_n 3, 1) := dk_62 (dk_at dksX11_eventsOf_0 3 rfl rfl)
theorem dX11_eventsOf_4 : decode cX11_eventsOf 4 = .ok (.iload_n 3, 1) := dk_29 (dk_at dksX11_eventsOf_0 4 rfl rfl)
theorem dX11_eventsOf_5 : decode cX11_eventsOf 5 = .ok (.aload_n 0, 1) := dk_42 (dk_at dksX11_eventsOf_0 5 rfl rfl)
theorem dX11_eventsOf_6 : decode cX11_eventsOf 6 = .ok (.getfield 17, 3) := dk_180 0 17 (dk_at dksX11_eventsOf_0 6 rfl rfl)
theorem dX11_eventsOf_9 : decode cX11_eventsOf 9 = .ok (.if_icmp .ge 27, 3) := dk_162 0 27 (dk_at dksX11_eventsOf_0 9 rfl rfl)
theorem dX11_eventsOf_12 : decode cX11_eventsOf 12 = .ok (.iload_n 2, 1) := dk_28 (dk_at dksX11_eventsOf_0 12 rfl rfl)
theorem dX11_eventsOf_13 : decode cX11_eventsOf 13 = .ok (.aload_n 0, 1) := dk_42 (dk_at dksX11_eventsOf_0 13 rfl rfl)
theorem dX11_eventsOf_14 : decode cX11_eventsOf 14 = .ok (.getfield 14, 3) := dk_180 0 14 (dk_at dksX11_eventsOf_0 14 rfl rfl)
theorem dX11_eventsOf_17 : decode cX11_eventsOf 17 = .ok (.iload_n 3, 1) := dk_29 (dk_at dksX11_eventsOf_0 17 rfl rfl)
theorem dX11_eventsOf_18 : decode cX11_eventsOf 18 = .ok (.iaload, 1) := dk_46 (dk_at dksX11_eventsOf_0 18 rfl rfl)
theorem dX11_eventsOf_19 : decode cX11_eventsOf 19 = .ok (.iload_n 1, 1) := dk_27 (dk_at dksX11_eventsOf_0 19 rfl rfl)
theorem dX11_eventsOf_20 : decode cX11_eventsOf 20 = .ok (.if_icmp .ne 7, 3) := dk_160 0 7 (dk_at dksX11_eventsOf_0 20 rfl rfl)
theorem dX11_eventsOf_23 : decode cX11_eventsOf 23 = .ok (.iconst 1, 1) := dk_4 (dk_at dksX11_eventsOf_0 23 rfl rfl)
theorem dX11_eventsOf_24 : decode cX11_eventsOf 24 = .ok (.goto 4, 3) := dk_167 0 4 (dk_at dksX11_eventsOf_1 0 rfl rfl)
theorem dX11_eventsOf_27 : decode cX11_eventsOf 27 = .ok (.iconst 0, 1) := dk_3 (dk_at dksX11_eventsOf_1 3 rfl rfl)
theorem dX11_eventsOf_28 : decode cX11_eventsOf 28 = .ok (.iadd, 1) := dk_96 (dk_at dksX11_eventsOf_1 4 rfl rfl)
theorem dX11_eventsOf_29 : decode cX11_eventsOf 29 = .ok (.istore_n 2, 1) := dk_61 (dk_at dksX11_eventsOf_1 5 rfl rfl)
theorem dX11_eventsOf_30 : decode cX11_eventsOf 30 = .ok (.iinc 3 1, 3) := dk_132 3 1 (dk_at dksX11_eventsOf_1 6 rfl rfl)
theorem dX11_eventsOf_33 : decode cX11_eventsOf 33 = .ok (.goto (-29), 3) := dk_167 255 227 (dk_at dksX11_eventsOf_1 9 rfl rfl)
theorem dX11_eventsOf_36 : decode cX11_eventsOf 36 = .ok (.iload_n 2, 1) := dk_28 (dk_at dksX11_eventsOf_1 12 rfl rfl)
theorem dX11_eventsOf_37 : decode cX11_eventsOf 37 = .ok (.ireturn, 1) := dk_172 (dk_at dksX11_eventsOf_1 13 rfl rfl)
abbrev cX11_canPlace : ByteArray := prog_16_method_48_code
def yX11_canPlace : MethodName := ⟨RX11, "canPlace", "(III)Z"⟩
def dkwX11_canPlace_3 : List UInt8 := [4, 172]
abbrev dktX11_canPlace_3 : List UInt8 := dkwX11_canPlace_3 ++ []
def dkwX11_canPlace_2 : List UInt8 := [162, 0, 18, 42, 180, 0, 39, 21, 4, 46, 28, 29, 96, 162, 0, 5, 3, 172, 132, 4, 1, 167, 255, 211]
abbrev dktX11_canPlace_2 : List UInt8 := dkwX11_canPlace_2 ++ dktX11_canPlace_3
def dkwX11_canPlace_1 : List UInt8 := [21, 4, 16, 40, 162, 0, 44, 42, 21, 4, 27, 182, 1, 27, 153, 0, 28, 28, 42, 21, 4, 182, 0, 165]
abbrev dktX11_canPlace_1 : List UInt8 := dkwX11_canPlace_1 ++ dktX11_canPlace_2
def dkwX11_canPlace_0 : List UInt8 := [42, 27, 182, 0, 201, 154, 0, 13, 42, 27, 182, 0, 169, 16, 6, 160, 0, 5, 3, 172, 3, 54, 4]
abbrev dktX11_canPlace_0 : List UInt8 := dkwX11_canPlace_0 ++ dktX11_canPlace_1
theorem dksX11_canPlace_0 : cX11_canPlace.data.toList.drop 0 = dktX11_canPlace_0 := by decide +kernel
theorem dksX11_canPlace_1 : cX11_canPlace.data.toList.drop 23 = dktX11_canPlace_1 := dk_seg dksX11_canPlace_0 23 rfl rfl
theorem dksX11_canPlace_2 : cX11_canPlace.data.toList.drop 47 = dktX11_canPlace_2 := dk_seg dksX11_canPlace_1 24 rfl rfl
theorem dksX11_canPlace_3 : cX11_canPlace.data.toList.drop 71 = dktX11_canPlace_3 := dk_seg dksX11_canPlace_2 24 rfl rfl
theorem dX11_canPlace_0 : decode cX11_canPlace 0 = .ok (.aload_n 0, 1) := dk_42 (dk_at dksX11_canPlace_0 0 rfl rfl)
theorem dX11_canPlace_1 : decode cX11_canPlace 1 = .ok (.iload_n 1, 1) := dk_27 (dk_at dksX11_canPlace_0 1 rfl rfl)
theorem dX11_canPlace_2 : decode cX11_canPlace 2 = .ok (.invokevirtual 201, 3) := dk_182 0 201 (dk_at dksX11_canPlace_0 2 rfl rfl)
theorem dX11_canPlace_5 : decode cX11_canPlace 5 = .ok (.ifCond .ne 13, 3) := dk_154 0 13 (dk_at dksX11_canPlace_0 5 rfl rfl)
theorem dX11_canPlace_8 : decode cX11_canPlace 8 = .ok (.aload_n 0, 1) := dk_42 (dk_at dksX11_canPlace_0 8 rfl rfl)
theorem dX11_canPlace_9 : decode cX11_canPlace 9 = .ok (.iload_n 1, 1) := dk_27 (dk_at dksX11_canPlace_0 9 rfl rfl)
theorem dX11_canPlace_10 : decode cX11_canPlace 10 = .ok (.invokevirtual 169, 3) := dk_182 0 169 (dk_at dksX11_canPlace_0 10 rfl rfl)
theorem dX11_canPlace_13 : decode cX11_canPlace 13 = .ok (.bipush 6, 2) := dk_16 6 (dk_at dksX11_canPlace_0 13 rfl rfl)
theorem dX11_canPlace_15 : decode cX11_canPlace 15 = .ok (.if_icmp .ne 5, 3) := dk_160 0 5 (dk_at dksX11_canPlace_0 15 rfl rfl)
theorem dX11_canPlace_18 : decode cX11_canPlace 18 = .ok (.iconst 0, 1) := dk_3 (dk_at dksX11_canPlace_0 18 rfl rfl)
theorem dX11_canPlace_19 : decode cX11_canPlace 19 = .ok (.ireturn, 1) := dk_172 (dk_at dksX11_canPlace_0 19 rfl rfl)
theorem dX11_canPlace_20 : decode cX11_canPlace 20 = .ok (.iconst 0, 1) := dk_3 (dk_at dksX11_canPlace_0 20 rfl rfl)
theorem dX11_canPlace_21 : decode cX11_canPlace 21 = .ok (.istore 4, 2) := dk_54 4 (dk_at dksX11_canPlace_0 21 rfl rfl)
theorem dX11_canPlace_23 : decode cX11_canPlace 23 = .ok (.iload 4, 2) := dk_21 4 (dk_at dksX11_canPlace_1 0 rfl rfl)
theorem dX11_canPlace_25 : decode cX11_canPlace 25 = .ok (.bipush 40, 2) := dk_16 40 (dk_at dksX11_canPlace_1 2 rfl rfl)
theorem dX11_canPlace_27 : decode cX11_canPlace 27 = .ok (.if_icmp .ge 44, 3) := dk_162 0 44 (dk_at dksX11_canPlace_1 4 rfl rfl)
theorem dX11_canPlace_30 : decode cX11_canPlace 30 = .ok (.aload_n 0, 1) := dk_42 (dk_at dksX11_canPlace_1 7 rfl rfl)
theorem dX11_canPlace_31 : decode cX11_canPlace 31 = .ok (.iload 4, 2) := dk_21 4 (dk_at dksX11_canPlace_1 8 rfl rfl)
theorem dX11_canPlace_33 : decode cX11_canPlace 33 = .ok (.iload_n 1, 1) := dk_27 (dk_at dksX11_canPlace_1 10 rfl rfl)
theorem dX11_canPlace_34 : decode cX11_canPlace 34 = .ok (.invokevirtual 283, 3) := dk_182 1 27 (dk_at dksX11_canPlace_1 11 rfl rfl)
theorem dX11_canPlace_37 : decode cX11_canPlace 37 = .ok (.ifCond .eq 28, 3) := dk_153 0 28 (dk_at dksX11_canPlace_1 14 rfl rfl)
theorem dX11_canPlace_40 : decode cX11_canPlace 40 = .ok (.iload_n 2, 1) := dk_28 (dk_at dksX11_canPlace_1 17 rfl rfl)
theorem dX11_canPlace_41 : decode cX11_canPlace 41 = .ok (.aload_n 0, 1) := dk_42 (dk_at dksX11_canPlace_1 18 rfl rfl)
theorem dX11_canPlace_42 : decode cX11_canPlace 42 = .ok (.iload 4, 2) := dk_21 4 (dk_at dksX11_canPlace_1 19 rfl rfl)
theorem dX11_canPlace_44 : decode cX11_canPlace 44 = .ok (.invokevirtual 165, 3) := dk_182 0 165 (dk_at dksX11_canPlace_1 21 rfl rfl)
theorem dX11_canPlace_47 : decode cX11_canPlace 47 = .ok (.if_icmp .ge 18, 3) := dk_162 0 18 (dk_at dksX11_canPlace_2 0 rfl rfl)
theorem dX11_canPlace_50 : decode cX11_canPlace 50 = .ok (.aload_n 0, 1) := dk_42 (dk_at dksX11_canPlace_2 3 rfl rfl)
theorem dX11_canPlace_51 : decode cX11_canPlace 51 = .ok (.getfield 39, 3) := dk_180 0 39 (dk_at dksX11_canPlace_2 4 rfl rfl)
theorem dX11_canPlace_54 : decode cX11_canPlace 54 = .ok (.iload 4, 2) := dk_21 4 (dk_at dksX11_canPlace_2 7 rfl rfl)
theorem dX11_canPlace_56 : decode cX11_canPlace 56 = .ok (.iaload, 1) := dk_46 (dk_at dksX11_canPlace_2 9 rfl rfl)
theorem dX11_canPlace_57 : decode cX11_canPlace 57 = .ok (.iload_n 2, 1) := dk_28 (dk_at dksX11_canPlace_2 10 rfl rfl)
theorem dX11_canPlace_58 : decode cX11_canPlace 58 = .ok (.iload_n 3, 1) := dk_29 (dk_at dksX11_canPlace_2 11 rfl rfl)
theorem dX11_canPlace_59 : decode cX11_canPlace 59 = .ok (.iadd, 1) := dk_96 (dk_at dksX11_canPlace_2 12 rfl rfl)
theorem dX11_canPlace_60 : decode cX11_canPlace 60 = .ok (.if_icmp .ge 5, 3) := dk_162 0 5 (dk_at dksX11_canPlace_2 13 rfl rfl)
theorem dX11_canPlace_63 : decode cX11_canPlace 63 = .ok (.iconst 0, 1) := dk_3 (dk_at dksX11_canPlace_2 16 rfl rfl)
theorem dX11_canPlace_64 : decode cX11_canPlace 64 = .ok (.ireturn, 1) := dk_172 (dk_at dksX11_canPlace_2 17 rfl rfl)
theorem dX11_canPlace_65 : decode cX11_canPlace 65 = .ok (.iinc 4 1, 3) := dk_132 4 1 (dk_at dksX11_canPlace_2 18 rfl rfl)
theorem dX11_canPlace_68 : decode cX11_canPlace 68 = .ok (.goto (-45), 3) := dk_167 255 211 (dk_at dksX11_canPlace_2 21 rfl rfl)
theorem dX11_canPlace_71 : decode cX11_canPlace 71 = .ok (.iconst 1, 1) := dk_4 (dk_at dksX11_canPlace_3 0 rfl rfl)
theorem dX11_canPlace_72 : decode cX11_canPlace 72 = .ok (.ireturn, 1) := dk_172 (dk_at dksX11_canPlace_3 1 rfl rfl)
abbrev cX11_isLacking : ByteArray := prog_16_method_25_code
def yX11_isLacking : MethodName := ⟨RX11, "isLacking", "(I)Z"⟩
def dkwX11_isLacking_0 : List UInt8 := [42, 180, 0, 149, 27, 122, 4, 126, 4, 160, 0, 7, 4, 167, 0, 4, 3, 172]
abbrev dktX11_isLacking_0 : List UInt8 := dkwX11_isLacking_0 ++ []
theorem dksX11_isLacking_0 : cX11_isLacking.data.toList.drop 0 = dktX11_isLacking_0 := by decide +kernel
theorem dX11_isLacking_0 : decode cX11_isLacking 0 = .ok (.aload_n 0, 1) := dk_42 (dk_at dksX11_isLacking_0 0 rfl rfl)
theorem dX11_isLacking_1 : decode cX11_isLacking 1 = .ok (.getfield 149, 3) := dk_180 0 149 (dk_at dksX11_isLacking_0 1 rfl rfl)
theorem dX11_isLacking_4 : decode cX11_isLacking 4 = .ok (.iload_n 1, 1) := dk_27 (dk_at dksX11_isLacking_0 4 rfl rfl)
theorem dX11_isLacking_5 : decode cX11_isLacking 5 = .ok (.ishr, 1) := dk_122 (dk_at dksX11_isLacking_0 5 rfl rfl)
theorem dX11_isLacking_6 : decode cX11_isLacking 6 = .ok (.iconst 1, 1) := dk_4 (dk_at dksX11_isLacking_0 6 rfl rfl)
theorem dX11_isLacking_7 : decode cX11_isLacking 7 = .ok (.iand, 1) := dk_126 (dk_at dksX11_isLacking_0 7 rfl rfl)
theorem dX11_isLacking_8 : decode cX11_isLacking 8 = .ok (.iconst 1, 1) := dk_4 (dk_at dksX11_isLacking_0 8 rfl rfl)
theorem dX11_isLacking_9 : decode cX11_isLacking 9 = .ok (.if_icmp .ne 7, 3) := dk_160 0 7 (dk_at dksX11_isLacking_0 9 rfl rfl)
theorem dX11_isLacking_12 : decode cX11_isLacking 12 = .ok (.iconst 1, 1) := dk_4 (dk_at dksX11_isLacking_0 12 rfl rfl)
theorem dX11_isLacking_13 : decode cX11_isLacking 13 = .ok (.goto 4, 3) := dk_167 0 4 (dk_at dksX11_isLacking_0 13 rfl rfl)
theorem dX11_isLacking_16 : decode cX11_isLacking 16 = .ok (.iconst 0, 1) := dk_3 (dk_at dksX11_isLacking_0 16 rfl rfl)
theorem dX11_isLacking_17 : decode cX11_isLacking 17 = .ok (.ireturn, 1) := dk_172 (dk_at dksX11_isLacking_0 17 rfl rfl)
abbrev cX11_layersOf : ByteArray := prog_16_method_15_code
def yX11_layersOf : MethodName := ⟨RX11, "layersOf", "(I)I"⟩
def dkwX11_layersOf_0 : List UInt8 := [42, 180, 0, 103, 27, 46, 172]
abbrev dktX11_layersOf_0 : List UInt8 := dkwX11_layersOf_0 ++ []
theorem dksX11_layersOf_0 : cX11_layersOf.data.toList.drop 0 = dktX11_layersOf_0 := by decide +kernel
theorem dX11_layersOf_0 : decode cX11_layersOf 0 = .ok (.aload_n 0, 1) := dk_42 (dk_at dksX11_layersOf_0 0 rfl rfl)
theorem dX11_layersOf_1 : decode cX11_layersOf 1 = .ok (.getfield 103, 3) := dk_180 0 103 (dk_at dksX11_layersOf_0 1 rfl rfl)
theorem dX11_layersOf_4 : decode cX11_layersOf 4 = .ok (.iload_n 1, 1) := dk_27 (dk_at dksX11_layersOf_0 4 rfl rfl)
theorem dX11_layersOf_5 : decode cX11_layersOf 5 = .ok (.iaload, 1) := dk_46 (dk_at dksX11_layersOf_0 5 rfl rfl)
theorem dX11_layersOf_6 : decode cX11_layersOf 6 = .ok (.ireturn, 1) := dk_172 (dk_at dksX11_layersOf_0 6 rfl rfl)
abbrev cX11_isIn : ByteArray := prog_16_method_11_code
def yX11_isIn : MethodName := ⟨RX11, "isIn", "(II)Z"⟩
def dkwX11_isIn_1 : List UInt8 := [172]
abbrev dktX11_isIn_1 : List UInt8 := dkwX11_isIn_1 ++ []
def dkwX11_isIn_0 : List UInt8 := [42, 180, 0, 29, 27, 51, 153, 0, 17, 42, 180, 0, 36, 27, 46, 28, 160, 0, 7, 4, 167, 0, 4, 3]
abbrev dktX11_isIn_0 : List UInt8 := dkwX11_isIn_0 ++ dktX11_isIn_1
theorem dksX11_isIn_0 : cX11_isIn.data.toList.drop 0 = dktX11_isIn_0 := by decide +kernel
theorem dksX11_isIn_1 : cX11_isIn.data.toList.drop 24 = dktX11_isIn_1 := dk_seg dksX11_isIn_0 24 rfl rfl
theorem dX11_isIn_0 : decode cX11_isIn 0 = .ok (.aload_n 0, 1) := dk_42 (dk_at dksX11_isIn_0 0 rfl rfl)
theorem dX11_isIn_1 : decode cX11_isIn 1 = .ok (.getfield 29, 3) := dk_180 0 29 (dk_at dksX11_isIn_0 1 rfl rfl)
theorem dX11_isIn_4 : decode cX11_isIn 4 = .ok (.iload_n 1, 1) := dk_27 (dk_at dksX11_isIn_0 4 rfl rfl)
theorem dX11_isIn_5 : decode cX11_isIn 5 = .ok (.baload, 1) := dk_51 (dk_at dksX11_isIn_0 5 rfl rfl)
theorem dX11_isIn_6 : decode cX11_isIn 6 = .ok (.ifCond .eq 17, 3) := dk_153 0 17 (dk_at dksX11_isIn_0 6 rfl rfl)
theorem dX11_isIn_9 : decode cX11_isIn 9 = .ok (.aload_n 0, 1) := dk_42 (dk_at dksX11_isIn_0 9 rfl rfl)
theorem dX11_isIn_10 : decode cX11_isIn 10 = .ok (.getfield 36, 3) := dk_180 0 36 (dk_at dksX11_isIn_0 10 rfl rfl)
theorem dX11_isIn_13 : decode cX11_isIn 13 = .ok (.iload_n 1, 1) := dk_27 (dk_at dksX11_isIn_0 13 rfl rfl)
theorem dX11_isIn_14 : decode cX11_isIn 14 = .ok (.iaload, 1) := dk_46 (dk_at dksX11_isIn_0 14 rfl rfl)
theorem dX11_isIn_15 : decode cX11_isIn 15 = .ok (.iload_n 2, 1) := dk_28 (dk_at dksX11_isIn_0 15 rfl rfl)
theorem dX11_isIn_16 : decode cX11_isIn 16 = .ok (.if_icmp .ne 7, 3) := dk_160 0 7 (dk_at dksX11_isIn_0 16 rfl rfl)
theorem dX11_isIn_19 : decode cX11_isIn 19 = .ok (.iconst 1, 1) := dk_4 (dk_at dksX11_isIn_0 19 rfl rfl)
theorem dX11_isIn_20 : decode cX11_isIn 20 = .ok (.goto 4, 3) := dk_167 0 4 (dk_at dksX11_isIn_0 20 rfl rfl)
theorem dX11_isIn_23 : decode cX11_isIn 23 = .ok (.iconst 0, 1) := dk_3 (dk_at dksX11_isIn_0 23 rfl rfl)
theorem dX11_isIn_24 : decode cX11_isIn 24 = .ok (.ireturn, 1) := dk_172 (dk_at dksX11_isIn_1 0 rfl rfl)
abbrev cX11_top : ByteArray := prog_16_method_12_code
def yX11_top : MethodName := ⟨RX11, "top", "(I)I"⟩
def dkwX11_top_0 : List UInt8 := [42, 180, 0, 39, 27, 46, 42, 180, 0, 42, 27, 46, 96, 172]
abbrev dktX11_top_0 : List UInt8 := dkwX11_top_0 ++ []
theorem dksX11_top_0 : cX11_top.data.toList.drop 0 = dktX11_top_0 := by decide +kernel
theorem dX11_top_0 : decode cX11_top 0 = .ok (.aload_n 0, 1) := dk_42 (dk_at dksX11_top_0 0 rfl rfl)
theorem dX11_top_1 : decode cX11_top 1 = .ok (.getfield 39, 3) := dk_180 0 39 (dk_at dksX11_top_0 1 rfl rfl)
theorem dX11_top_4 : decode cX11_top 4 = .ok (.iload_n 1, 1) := dk_27 (dk_at dksX11_top_0 4 rfl rfl)
theorem dX11_top_5 : decode cX11_top 5 = .ok (.iaload, 1) := dk_46 (dk_at dksX11_top_0 5 rfl rfl)
theorem dX11_top_6 : decode cX11_top 6 = .ok (.aload_n 0, 1) := dk_42 (dk_at dksX11_top_0 6 rfl rfl)
theorem dX11_top_7 : decode cX11_top 7 = .ok (.getfield 42, 3) := dk_180 0 42 (dk_at dksX11_top_0 7 rfl rfl)
theorem dX11_top_10 : decode cX11_top 10 = .ok (.iload_n 1, 1) := dk_27 (dk_at dksX11_top_0 10 rfl rfl)
theorem dX11_top_11 : decode cX11_top 11 = .ok (.iaload, 1) := dk_46 (dk_at dksX11_top_0 11 rfl rfl)
theorem dX11_top_12 : decode cX11_top 12 = .ok (.iadd, 1) := dk_96 (dk_at dksX11_top_0 12 rfl rfl)
theorem dX11_top_13 : decode cX11_top 13 = .ok (.ireturn, 1) := dk_172 (dk_at dksX11_top_0 13 rfl rfl)
abbrev cX11_hasRoom : ByteArray := prog_16_method_64_code
def yX11_hasRoom : MethodName := ⟨RX11, "hasRoom", "(I)Z"⟩
def dkwX11_hasRoom_0 : List UInt8 := [42, 42, 180, 0, 17, 17, 0, 160, 162, 0, 7, 4, 167, 0, 4, 3, 27, 5, 182, 1, 90, 172]
abbrev dktX11_hasRoom_0 : List UInt8 := dkwX11_hasRoom_0 ++ []
theorem dksX11_hasRoom_0 : cX11_hasRoom.data.toList.drop 0 = dktX11_hasRoom_0 := by decide +kernel
theorem dX11_hasRoom_0 : decode cX11_hasRoom 0 = .ok (.aload_n 0, 1) := dk_42 (dk_at dksX11_hasRoom_0 0 rfl rfl)
theorem dX11_hasRoom_1 : decode cX11_hasRoom 1 = .ok (.aload_n 0, 1) := dk_42 (dk_at dksX11_hasRoom_0 1 rfl rfl)
theorem dX11_hasRoom_2 : decode cX11_hasRoom 2 = .ok (.getfield 17, 3) := dk_180 0 17 (dk_at dksX11_hasRoom_0 2 rfl rfl)
theorem dX11_hasRoom_5 : decode cX11_hasRoom 5 = .ok (.sipush 160, 3) := dk_17 0 160 (dk_at dksX11_hasRoom_0 5 rfl rfl)
theorem dX11_hasRoom_8 : decode cX11_hasRoom 8 = .ok (.if_icmp .ge 7, 3) := dk_162 0 7 (dk_at dksX11_hasRoom_0 8 rfl rfl)
theorem dX11_hasRoom_11 : decode cX11_hasRoom 11 = .ok (.iconst 1, 1) := dk_4 (dk_at dksX11_hasRoom_0 11 rfl rfl)
theorem dX11_hasRoom_12 : decode cX11_hasRoom 12 = .ok (.goto 4, 3) := dk_167 0 4 (dk_at dksX11_hasRoom_0 12 rfl rfl)
theorem dX11_hasRoom_15 : decode cX11_hasRoom 15 = .ok (.iconst 0, 1) := dk_3 (dk_at dksX11_hasRoom_0 15 rfl rfl)
theorem dX11_hasRoom_16 : decode cX11_hasRoom 16 = .ok (.iload_n 1, 1) := dk_27 (dk_at dksX11_hasRoom_0 16 rfl rfl)
theorem dX11_hasRoom_17 : decode cX11_hasRoom 17 = .ok (.iconst 2, 1) := dk_5 (dk_at dksX11_hasRoom_0 17 rfl rfl)
theorem dX11_hasRoom_18 : decode cX11_hasRoom 18 = .ok (.invokevirtual 346, 3) := dk_182 1 90 (dk_at dksX11_hasRoom_0 18 rfl rfl)
theorem dX11_hasRoom_21 : decode cX11_hasRoom 21 = .ok (.ireturn, 1) := dk_172 (dk_at dksX11_hasRoom_0 21 rfl rfl)
abbrev cX11_notes : ByteArray := prog_16_method_6_code
def yX11_notes : MethodName := ⟨RX11, "notes", "(IIIIII)V"⟩
def dkwX11_notes_3 : List UInt8 := [180, 0, 17, 21, 6, 79, 42, 89, 180, 0, 17, 4, 96, 181, 0, 17, 177]
abbrev dktX11_notes_3 : List UInt8 := dkwX11_notes_3 ++ []
def dkwX11_notes_2 : List UInt8 := [96, 21, 4, 79, 42, 180, 0, 11, 7, 42, 180, 0, 17, 104, 6, 96, 21, 5, 79, 42, 180, 0, 20, 42]
abbrev dktX11_notes_2 : List UInt8 := dkwX11_notes_2 ++ dktX11_notes_3
def dkwX11_notes_1 : List UInt8 := [180, 0, 11, 7, 42, 180, 0, 17, 104, 4, 96, 29, 79, 42, 180, 0, 11, 7, 42, 180, 0, 17, 104, 5]
abbrev dktX11_notes_1 : List UInt8 := dkwX11_notes_1 ++ dktX11_notes_2
def dkwX11_notes_0 : List UInt8 := [42, 180, 0, 14, 42, 180, 0, 17, 27, 79, 42, 180, 0, 11, 7, 42, 180, 0, 17, 104, 28, 79, 42]
abbrev dktX11_notes_0 : List UInt8 := dkwX11_notes_0 ++ dktX11_notes_1
theorem dksX11_notes_0 : cX11_notes.data.toList.drop 0 = dktX11_notes_0 := by decide +kernel
theorem dksX11_notes_1 : cX11_notes.data.toList.drop 23 = dktX11_notes_1 := dk_seg dksX11_notes_0 23 rfl rfl
theorem dksX11_notes_2 : cX11_notes.data.toList.drop 47 = dktX11_notes_2 := dk_seg dksX11_notes_1 24 rfl rfl
theorem dksX11_notes_3 : cX11_notes.data.toList.drop 71 = dktX11_notes_3 := dk_seg dksX11_notes_2 24 rfl rfl
theorem dX11_notes_0 : decode cX11_notes 0 = .ok (.aload_n 0, 1) := dk_42 (dk_at dksX11_notes_0 0 rfl rfl)
theorem dX11_notes_1 : decode cX11_notes 1 = .ok (.getfield 14, 3) := dk_180 0 14 (dk_at dksX11_notes_0 1 rfl rfl)
theorem dX11_notes_4 : decode cX11_notes 4 = .ok (.aload_n 0, 1) := dk_42 (dk_at dksX11_notes_0 4 rfl rfl)
theorem dX11_notes_5 : decode cX11_notes 5 = .ok (.getfield 17, 3) := dk_180 0 17 (dk_at dksX11_notes_0 5 rfl rfl)
theorem dX11_notes_8 : decode cX11_notes 8 = .ok (.iload_n 1, 1) := dk_27 (dk_at dksX11_notes_0 8 rfl rfl)
theorem dX11_notes_9 : decode cX11_notes 9 = .ok (.iastore, 1) := dk_79 (dk_at dksX11_notes_0 9 rfl rfl)
theorem dX11_notes_10 : decode cX11_notes 10 = .ok (.aload_n 0, 1) := dk_42 (dk_at dksX11_notes_0 10 rfl rfl)
theorem dX11_notes_11 : decode cX11_notes 11 = .ok (.getfield 11, 3) := dk_180 0 11 (dk_at dksX11_notes_0 11 rfl rfl)
theorem dX11_notes_14 : decode cX11_notes 14 = .ok (.iconst 4, 1) := dk_7 (dk_at dksX11_notes_0 14 rfl rfl)
theorem dX11_notes_15 : decode cX11_notes 15 = .ok (.aload_n 0, 1) := dk_42 (dk_at dksX11_notes_0 15 rfl rfl)
theorem dX11_notes_16 : decode cX11_notes 16 = .ok (.getfield 17, 3) := dk_180 0 17 (dk_at dksX11_notes_0 16 rfl rfl)
theorem dX11_notes_19 : decode cX11_notes 19 = .ok (.imul, 1) := dk_104 (dk_at dksX11_notes_0 19 rfl rfl)
theorem dX11_notes_20 : decode cX11_notes 20 = .ok (.iload_n 2, 1) := dk_28 (dk_at dksX11_notes_0 20 rfl rfl)
theorem dX11_notes_21 : decode cX11_notes 21 = .ok (.iastore, 1) := dk_79 (dk_at dksX11_notes_0 21 rfl rfl)
theorem dX11_notes_22 : decode cX11_notes 22 = .ok (.aload_n 0, 1) := dk_42 (dk_at dksX11_notes_0 22 rfl rfl)
theorem dX11_notes_23 : decode cX11_notes 23 = .ok (.getfield 11, 3) := dk_180 0 11 (dk_at dksX11_notes_1 0 rfl rfl)
theorem dX11_notes_26 : decode cX11_notes 26 = .ok (.iconst 4, 1) := dk_7 (dk_at dksX11_notes_1 3 rfl rfl)
theorem dX11_notes_27 : decode cX11_notes 27 = .ok (.aload_n 0, 1) := dk_42 (dk_at dksX11_notes_1 4 rfl rfl)
theorem dX11_notes_28 : decode cX11_notes 28 = .ok (.getfield 17, 3) := dk_180 0 17 (dk_at dksX11_notes_1 5 rfl rfl)
theorem dX11_notes_31 : decode cX11_notes 31 = .ok (.imul, 1) := dk_104 (dk_at dksX11_notes_1 8 rfl rfl)
theorem dX11_notes_32 : decode cX11_notes 32 = .ok (.iconst 1, 1) := dk_4 (dk_at dksX11_notes_1 9 rfl rfl)
theorem dX11_notes_33 : decode cX11_notes 33 = .ok (.iadd, 1) := dk_96 (dk_at dksX11_notes_1 10 rfl rfl)
theorem dX11_notes_34 : decode cX11_notes 34 = .ok (.iload_n 3, 1) := dk_29 (dk_at dksX11_notes_1 11 rfl rfl)
theorem dX11_notes_35 : decode cX11_notes 35 = .ok (.iastore, 1) := dk_79 (dk_at dksX11_notes_1 12 rfl rfl)
theorem dX11_notes_36 : decode cX11_notes 36 = .ok (.aload_n 0, 1) := dk_42 (dk_at dksX11_notes_1 13 rfl rfl)
theorem dX11_notes_37 : decode cX11_notes 37 = .ok (.getfield 11, 3) := dk_180 0 11 (dk_at dksX11_notes_1 14 rfl rfl)
theorem dX11_notes_40 : decode cX11_notes 40 = .ok (.iconst 4, 1) := dk_7 (dk_at dksX11_notes_1 17 rfl rfl)
theorem dX11_notes_41 : decode cX11_notes 41 = .ok (.aload_n 0, 1) := dk_42 (dk_at dksX11_notes_1 18 rfl rfl)
theorem dX11_notes_42 : decode cX11_notes 42 = .ok (.getfield 17, 3) := dk_180 0 17 (dk_at dksX11_notes_1 19 rfl rfl)
theorem dX11_notes_45 : decode cX11_notes 45 = .ok (.imul, 1) := dk_104 (dk_at dksX11_notes_1 22 rfl rfl)
theorem dX11_notes_46 : decode cX11_notes 46 = .ok (.iconst 2, 1) := dk_5 (dk_at dksX11_notes_1 23 rfl rfl)
theorem dX11_notes_47 : decode cX11_notes 47 = .ok (.iadd, 1) := dk_96 (dk_at dksX11_notes_2 0 rfl rfl)
theorem dX11_notes_48 : decode cX11_notes 48 = .ok (.iload 4, 2) := dk_21 4 (dk_at dksX11_notes_2 1 rfl rfl)
theorem dX11_notes_50 : decode cX11_notes 50 = .ok (.iastore, 1) := dk_79 (dk_at dksX11_notes_2 3 rfl rfl)
theorem dX11_notes_51 : decode cX11_notes 51 = .ok (.aload_n 0, 1) := dk_42 (dk_at dksX11_notes_2 4 rfl rfl)
theorem dX11_notes_52 : decode cX11_notes 52 = .ok (.getfield 11, 3) := dk_180 0 11 (dk_at dksX11_notes_2 5 rfl rfl)
theorem dX11_notes_55 : decode cX11_notes 55 = .ok (.iconst 4, 1) := dk_7 (dk_at dksX11_notes_2 8 rfl rfl)
theorem dX11_notes_56 : decode cX11_notes 56 = .ok (.aload_n 0, 1) := dk_42 (dk_at dksX11_notes_2 9 rfl rfl)
theorem dX11_notes_57 : decode cX11_notes 57 = .ok (.getfield 17, 3) := dk_180 0 17 (dk_at dksX11_notes_2 10 rfl rfl)
theorem dX11_notes_60 : decode cX11_notes 60 = .ok (.imul, 1) := dk_104 (dk_at dksX11_notes_2 13 rfl rfl)
theorem dX11_notes_61 : decode cX11_notes 61 = .ok (.iconst 3, 1) := dk_6 (dk_at dksX11_notes_2 14 rfl rfl)
theorem dX11_notes_62 : decode cX11_notes 62 = .ok (.iadd, 1) := dk_96 (dk_at dksX11_notes_2 15 rfl rfl)
theorem dX11_notes_63 : decode cX11_notes 63 = .ok (.iload 5, 2) := dk_21 5 (dk_at dksX11_notes_2 16 rfl rfl)
theorem dX11_notes_65 : decode cX11_notes 65 = .ok (.iastore, 1) := dk_79 (dk_at dksX11_notes_2 18 rfl rfl)
theorem dX11_notes_66 : decode cX11_notes 66 = .ok (.aload_n 0, 1) := dk_42 (dk_at dksX11_notes_2 19 rfl rfl)
theorem dX11_notes_67 : decode cX11_notes 67 = .ok (.getfield 20, 3) := dk_180 0 20 (dk_at dksX11_notes_2 20 rfl rfl)
theorem dX11_notes_70 : decode cX11_notes 70 = .ok (.aload_n 0, 1) := dk_42 (dk_at dksX11_notes_2 23 rfl rfl)
theorem dX11_notes_71 : decode cX11_notes 71 = .ok (.getfield 17, 3) := dk_180 0 17 (dk_at dksX11_notes_3 0 rfl rfl)
theorem dX11_notes_74 : decode cX11_notes 74 = .ok (.iload 6, 2) := dk_21 6 (dk_at dksX11_notes_3 3 rfl rfl)
theorem dX11_notes_76 : decode cX11_notes 76 = .ok (.iastore, 1) := dk_79 (dk_at dksX11_notes_3 5 rfl rfl)
theorem dX11_notes_77 : decode cX11_notes 77 = .ok (.aload_n 0, 1) := dk_42 (dk_at dksX11_notes_3 6 rfl rfl)
theorem dX11_notes_78 : decode cX11_notes 78 = .ok (.dup, 1) := dk_89 (dk_at dksX11_notes_3 7 rfl rfl)
theorem dX11_notes_79 : decode cX11_notes 79 = .ok (.getfield 17, 3) := dk_180 0 17 (dk_at dksX11_notes_3 8 rfl rfl)
theorem dX11_notes_82 : decode cX11_notes 82 = .ok (.iconst 1, 1) := dk_4 (dk_at dksX11_notes_3 11 rfl rfl)
theorem dX11_notes_83 : decode cX11_notes 83 = .ok (.iadd, 1) := dk_96 (dk_at dksX11_notes_3 12 rfl rfl)
theorem dX11_notes_84 : decode cX11_notes 84 = .ok (.putfield 17, 3) := dk_181 0 17 (dk_at dksX11_notes_3 13 rfl rfl)
theorem dX11_notes_87 : decode cX11_notes 87 = .ok (.return_, 1) := dk_177 (dk_at dksX11_notes_3 16 rfl rfl)
abbrev cX11_does : ByteArray := prog_16_method_52_code
def yX11_does : MethodName := ⟨RX11, "does", "(I)V"⟩
def dkwX11_does_7 : List UInt8 := [167, 0, 18, 42, 180, 0, 94, 28, 5, 79, 167, 0, 8, 42, 28, 182, 1, 63, 177]
abbrev dktX11_does_7 : List UInt8 := dkwX11_does_7 ++ []
def dkwX11_does_6 : List UInt8 := [167, 0, 40, 42, 180, 0, 94, 28, 4, 79, 42, 180, 0, 97, 28, 42, 27, 4, 182, 1, 33, 79]
abbrev dktX11_does_6 : List UInt8 := dkwX11_does_6 ++ dktX11_does_7
def dkwX11_does_5 : List UInt8 := [167, 0, 62, 42, 27, 182, 1, 57, 167, 0, 54, 42, 28, 42, 27, 4, 182, 1, 33, 182, 1, 60]
abbrev dktX11_does_5 : List UInt8 := dkwX11_does_5 ++ dktX11_does_6
def dkwX11_does_4 : List UInt8 := [180, 1, 50, 154, 0, 82, 42, 28, 42, 27, 4, 182, 1, 33, 42, 27, 5, 182, 1, 33, 182, 1, 54]
abbrev dktX11_does_4 : List UInt8 := dkwX11_does_4 ++ dktX11_does_5
def dkwX11_does_3 : List UInt8 := [182, 1, 46, 167, 0, 104, 42, 89, 180, 0, 149, 4, 28, 120, 128, 181, 0, 149, 167, 0, 89, 42]
abbrev dktX11_does_3 : List UInt8 := dkwX11_does_3 ++ dktX11_does_4
def dkwX11_does_2 : List UInt8 := [42, 27, 182, 1, 43, 167, 0, 124, 42, 28, 42, 27, 4, 182, 1, 33, 42, 27, 5, 182, 1, 33]
abbrev dktX11_does_2 : List UInt8 := dkwX11_does_2 ++ dktX11_does_3
def dkwX11_does_1 : List UInt8 := [170, 0, 0, 0, 0, 0, 171, 0, 0, 0, 0, 0, 0, 0, 7, 0, 0, 0, 47, 0, 0, 0, 55, 0, 0, 0, 75, 0, 0, 0, 90, 0, 0, 0, 117, 0, 0, 0, 125, 0, 0, 0, 139, 0, 0, 0, 161]
abbrev dktX11_does_1 : List UInt8 := dkwX11_does_1 ++ dktX11_does_2
def dkwX11_does_0 : List UInt8 := [42, 27, 3, 182, 1, 33, 61, 42, 180, 0, 14, 27, 46]
abbrev dktX11_does_0 : List UInt8 := dkwX11_does_0 ++ dktX11_does_1
theorem dksX11_does_0 : cX11_does.data.toList.drop 0 = dktX11_does_0 := by decide +kernel
theorem dksX11_does_1 : cX11_does.data.toList.drop 13 = dktX11_does_1 := dk_seg dksX11_does_0 13 rfl rfl
theorem dksX11_does_2 : cX11_does.data.toList.drop 60 = dktX11_does_2 := dk_seg dksX11_does_1 47 rfl rfl
theorem dksX11_does_3 : cX11_does.data.toList.drop 82 = dktX11_does_3 := dk_seg dksX11_does_2 22 rfl rfl
theorem dksX11_does_4 : cX11_does.data.toList.drop 104 = dktX11_does_4 := dk_seg dksX11_does_3 22 rfl rfl
theorem dksX11_does_5 : cX11_does.data.toList.drop 127 = dktX11_does_5 := dk_seg dksX11_does_4 23 rfl rfl
theorem dksX11_does_6 : cX11_does.data.toList.drop 149 = dktX11_does_6 := dk_seg dksX11_does_5 22 rfl rfl
theorem dksX11_does_7 : cX11_does.data.toList.drop 171 = dktX11_does_7 := dk_seg dksX11_does_6 22 rfl rfl
theorem dX11_does_0 : decode cX11_does 0 = .ok (.aload_n 0, 1) := dk_42 (dk_at dksX11_does_0 0 rfl rfl)
theorem dX11_does_1 : decode cX11_does 1 = .ok (.iload_n 1, 1) := dk_27 (dk_at dksX11_does_0 1 rfl rfl)
theorem dX11_does_2 : decode cX11_does 2 = .ok (.iconst 0, 1) := dk_3 (dk_at dksX11_does_0 2 rfl rfl)
theorem dX11_does_3 : decode cX11_does 3 = .ok (.invokevirtual 289, 3) := dk_182 1 33 (dk_at dksX11_does_0 3 rfl rfl)
theorem dX11_does_6 : decode cX11_does 6 = .ok (.istore_n 2, 1) := dk_61 (dk_at dksX11_does_0 6 rfl rfl)
theorem dX11_does_7 : decode cX11_does 7 = .ok (.aload_n 0, 1) := dk_42 (dk_at dksX11_does_0 7 rfl rfl)
theorem dX11_does_8 : decode cX11_does 8 = .ok (.getfield 14, 3) := dk_180 0 14 (dk_at dksX11_does_0 8 rfl rfl)
theorem dX11_does_11 : decode cX11_does 11 = .ok (.iload_n 1, 1) := dk_27 (dk_at dksX11_does_0 11 rfl rfl)
theorem dX11_does_12 : decode cX11_does 12 = .ok (.iaload, 1) := dk_46 (dk_at dksX11_does_0 12 rfl rfl)
theorem dX11_does_13 : decode cX11_does 13 = .ok (.tableswitch 171 0 7 #[47, 55, 75, 90, 117, 125, 139, 161], 47) := by decide +kernel
theorem dX11_does_60 : decode cX11_does 60 = .ok (.aload_n 0, 1) := dk_42 (dk_at dksX11_does_2 0 rfl rfl)
theorem dX11_does_61 : decode cX11_does 61 = .ok (.iload_n 1, 1) := dk_27 (dk_at dksX11_does_2 1 rfl rfl)
theorem dX11_does_62 : decode cX11_does 62 = .ok (.invokevirtual 299, 3) := dk_182 1 43 (dk_at dksX11_does_2 2 rfl rfl)
theorem dX11_does_65 : decode cX11_does 65 = .ok (.goto 124, 3) := dk_167 0 124 (dk_at dksX11_does_2 5 rfl rfl)
theorem dX11_does_68 : decode cX11_does 68 = .ok (.aload_n 0, 1) := dk_42 (dk_at dksX11_does_2 8 rfl rfl)
theorem dX11_does_69 : decode cX11_does 69 = .ok (.iload_n 2, 1) := dk_28 (dk_at dksX11_does_2 9 rfl rfl)
theorem dX11_does_70 : decode cX11_does 70 = .ok (.aload_n 0, 1) := dk_42 (dk_at dksX11_does_2 10 rfl rfl)
theorem dX11_does_71 : decode cX11_does 71 = .ok (.iload_n 1, 1) := dk_27 (dk_at dksX11_does_2 11 rfl rfl)
theorem dX11_does_72 : decode cX11_does 72 = .ok (.iconst 1, 1) := dk_4 (dk_at dksX11_does_2 12 rfl rfl)
theorem dX11_does_73 : decode cX11_does 73 = .ok (.invokevirtual 289, 3) := dk_182 1 33 (dk_at dksX11_does_2 13 rfl rfl)
theorem dX11_does_76 : decode cX11_does 76 = .ok (.aload_n 0, 1) := dk_42 (dk_at dksX11_does_2 16 rfl rfl)
theorem dX11_does_77 : decode cX11_does 77 = .ok (.iload_n 1, 1) := dk_27 (dk_at dksX11_does_2 17 rfl rfl)
theorem dX11_does_78 : decode cX11_does 78 = .ok (.iconst 2, 1) := dk_5 (dk_at dksX11_does_2 18 rfl rfl)
theorem dX11_does_79 : decode cX11_does 79 = .ok (.invokevirtual 289, 3) := dk_182 1 33 (dk_at dksX11_does_2 19 rfl rfl)
theorem dX11_does_82 : decode cX11_does 82 = .ok (.invokevirtual 302, 3) := dk_182 1 46 (dk_at dksX11_does_3 0 rfl rfl)
theorem dX11_does_85 : decode cX11_does 85 = .ok (.goto 104, 3) := dk_167 0 104 (dk_at dksX11_does_3 3 rfl rfl)
theorem dX11_does_88 : decode cX11_does 88 = .ok (.aload_n 0, 1) := dk_42 (dk_at dksX11_does_3 6 rfl rfl)
theorem dX11_does_89 : decode cX11_does 89 = .ok (.dup, 1) := dk_89 (dk_at dksX11_does_3 7 rfl rfl)
theorem dX11_does_90 : decode cX11_does 90 = .ok (.getfield 149, 3) := dk_180 0 149 (dk_at dksX11_does_3 8 rfl rfl)
theorem dX11_does_93 : decode cX11_does 93 = .ok (.iconst 1, 1) := dk_4 (dk_at dksX11_does_3 11 rfl rfl)
theorem dX11_does_94 : decode cX11_does 94 = .ok (.iload_n 2, 1) := dk_28 (dk_at dksX11_does_3 12 rfl rfl)
theorem dX11_does_95 : decode cX11_does 95 = .ok (.ishl, 1) := dk_120 (dk_at dksX11_does_3 13 rfl rfl)
theorem dX11_does_96 : decode cX11_does 96 = .ok (.ior, 1) := dk_128 (dk_at dksX11_does_3 14 rfl rfl)
theorem dX11_does_97 : decode cX11_does 97 = .ok (.putfield 149, 3) := dk_181 0 149 (dk_at dksX11_does_3 15 rfl rfl)
theorem dX11_does_100 : decode cX11_does 100 = .ok (.goto 89, 3) := dk_167 0 89 (dk_at dksX11_does_3 18 rfl rfl)
theorem dX11_does_103 : decode cX11_does 103 = .ok (.aload_n 0, 1) := dk_42 (dk_at dksX11_does_3 21 rfl rfl)
theorem dX11_does_104 : decode cX11_does 104 = .ok (.getfield 306, 3) := dk_180 1 50 (dk_at dksX11_does_4 0 rfl rfl)
theorem dX11_does_107 : decode cX11_does 107 = .ok (.ifCond .ne 82, 3) := dk_154 0 82 (dk_at dksX11_does_4 3 rfl rfl)
theorem dX11_does_110 : decode cX11_does 110 = .ok (.aload_n 0, 1) := dk_42 (dk_at dksX11_does_4 6 rfl rfl)
theorem dX11_does_111 : decode cX11_does 111 = .ok (.iload_n 2, 1) := dk_28 (dk_at dksX11_does_4 7 rfl rfl)
theorem dX11_does_112 : decode cX11_does 112 = .ok (.aload_n 0, 1) := dk_42 (dk_at dksX11_does_4 8 rfl rfl)
theorem dX11_does_113 : decode cX11_does 113 = .ok (.iload_n 1, 1) := dk_27 (dk_at dksX11_does_4 9 rfl rfl)
theorem dX11_does_114 : decode cX11_does 114 = .ok (.iconst 1, 1) := dk_4 (dk_at dksX11_does_4 10 rfl rfl)
theorem dX11_does_115 : decode cX11_does 115 = .ok (.invokevirtual 289, 3) := dk_182 1 33 (dk_at dksX11_does_4 11 rfl rfl)
theorem dX11_does_118 : decode cX11_does 118 = .ok (.aload_n 0, 1) := dk_42 (dk_at dksX11_does_4 14 rfl rfl)
theorem dX11_does_119 : decode cX11_does 119 = .ok (.iload_n 1, 1) := dk_27 (dk_at dksX11_does_4 15 rfl rfl)
theorem dX11_does_120 : decode cX11_does 120 = .ok (.iconst 2, 1) := dk_5 (dk_at dksX11_does_4 16 rfl rfl)
theorem dX11_does_121 : decode cX11_does 121 = .ok (.invokevirtual 289, 3) := dk_182 1 33 (dk_at dksX11_does_4 17 rfl rfl)
theorem dX11_does_124 : decode cX11_does 124 = .ok (.invokevirtual 310, 3) := dk_182 1 54 (dk_at dksX11_does_4 20 rfl rfl)
theorem dX11_does_127 : decode cX11_does 127 = .ok (.goto 62, 3) := dk_167 0 62 (dk_at dksX11_does_5 0 rfl rfl)
theorem dX11_does_130 : decode cX11_does 130 = .ok (.aload_n 0, 1) := dk_42 (dk_at dksX11_does_5 3 rfl rfl)
theorem dX11_does_131 : decode cX11_does 131 = .ok (.iload_n 1, 1) := dk_27 (dk_at dksX11_does_5 4 rfl rfl)
theorem dX11_does_132 : decode cX11_does 132 = .ok (.invokevirtual 313, 3) := dk_182 1 57 (dk_at dksX11_does_5 5 rfl rfl)
theorem dX11_does_135 : decode cX11_does 135 = .ok (.goto 54, 3) := dk_167 0 54 (dk_at dksX11_does_5 8 rfl rfl)
theorem dX11_does_138 : decode cX11_does 138 = .ok (.aload_n 0, 1) := dk_42 (dk_at dksX11_does_5 11 rfl rfl)
theorem dX11_does_139 : decode cX11_does 139 = .ok (.iload_n 2, 1) := dk_28 (dk_at dksX11_does_5 12 rfl rfl)
theorem dX11_does_140 : decode cX11_does 140 = .ok (.aload_n 0, 1) := dk_42 (dk_at dksX11_does_5 13 rfl rfl)
theorem dX11_does_141 : decode cX11_does 141 = .ok (.iload_n 1, 1) := dk_27 (dk_at dksX11_does_5 14 rfl rfl)
theorem dX11_does_142 : decode cX11_does 142 = .ok (.iconst 1, 1) := dk_4 (dk_at dksX11_does_5 15 rfl rfl)
theorem dX11_does_143 : decode cX11_does 143 = .ok (.invokevirtual 289, 3) := dk_182 1 33 (dk_at dksX11_does_5 16 rfl rfl)
theorem dX11_does_146 : decode cX11_does 146 = .ok (.invokevirtual 316, 3) := dk_182 1 60 (dk_at dksX11_does_5 19 rfl rfl)
theorem dX11_does_149 : decode cX11_does 149 = .ok (.goto 40, 3) := dk_167 0 40 (dk_at dksX11_does_6 0 rfl rfl)
theorem dX11_does_152 : decode cX11_does 152 = .ok (.aload_n 0, 1) := dk_42 (dk_at dksX11_does_6 3 rfl rfl)
theorem dX11_does_153 : decode cX11_does 153 = .ok (.getfield 94, 3) := dk_180 0 94 (dk_at dksX11_does_6 4 rfl rfl)
theorem dX11_does_156 : decode cX11_does 156 = .ok (.iload_n 2, 1) := dk_28 (dk_at dksX11_does_6 7 rfl rfl)
theorem dX11_does_157 : decode cX11_does 157 = .ok (.iconst 1, 1) := dk_4 (dk_at dksX11_does_6 8 rfl rfl)
theorem dX11_does_158 : decode cX11_does 158 = .ok (.iastore, 1) := dk_79 (dk_at dksX11_does_6 9 rfl rfl)
theorem dX11_does_159 : decode cX11_does 159 = .ok (.aload_n 0, 1) := dk_42 (dk_at dksX11_does_6 10 rfl rfl)
theorem dX11_does_160 : decode cX11_does 160 = .ok (.getfield 97, 3) := dk_180 0 97 (dk_at dksX11_does_6 11 rfl rfl)
theorem dX11_does_163 : decode cX11_does 163 = .ok (.iload_n 2, 1) := dk_28 (dk_at dksX11_does_6 14 rfl rfl)
theorem dX11_does_164 : decode cX11_does 164 = .ok (.aload_n 0, 1) := dk_42 (dk_at dksX11_does_6 15 rfl rfl)
theorem dX11_does_165 : decode cX11_does 165 = .ok (.iload_n 1, 1) := dk_27 (dk_at dksX11_does_6 16 rfl rfl)
theorem dX11_does_166 : decode cX11_does 166 = .ok (.iconst 1, 1) := dk_4 (dk_at dksX11_does_6 17 rfl rfl)
theorem dX11_does_167 : decode cX11_does 167 = .ok (.invokevirtual 289, 3) := dk_182 1 33 (dk_at dksX11_does_6 18 rfl rfl)
theorem dX11_does_170 : decode cX11_does 170 = .ok (.iastore, 1) := dk_79 (dk_at dksX11_does_6 21 rfl rfl)
theorem dX11_does_171 : decode cX11_does 171 = .ok (.goto 18, 3) := dk_167 0 18 (dk_at dksX11_does_7 0 rfl rfl)
theorem dX11_does_174 : decode cX11_does 174 = .ok (.aload_n 0, 1) := dk_42 (dk_at dksX11_does_7 3 rfl rfl)
theorem dX11_does_175 : decode cX11_does 175 = .ok (.getfield 94, 3) := dk_180 0 94 (dk_at dksX11_does_7 4 rfl rfl)
theorem dX11_does_178 : decode cX11_does 178 = .ok (.iload_n 2, 1) := dk_28 (dk_at dksX11_does_7 7 rfl rfl)
theorem dX11_does_179 : decode cX11_does 179 = .ok (.iconst 2, 1) := dk_5 (dk_at dksX11_does_7 8 rfl rfl)
theorem dX11_does_180 : decode cX11_does 180 = .ok (.iastore, 1) := dk_79 (dk_at dksX11_does_7 9 rfl rfl)
theorem dX11_does_181 : decode cX11_does 181 = .ok (.goto 8, 3) := dk_167 0 8 (dk_at dksX11_does_7 10 rfl rfl)
theorem dX11_does_184 : decode cX11_does 184 = .ok (.aload_n 0, 1) := dk_42 (dk_at dksX11_does_7 13 rfl rfl)
theorem dX11_does_185 : decode cX11_does 185 = .ok (.iload_n 2, 1) := dk_28 (dk_at dksX11_does_7 14 rfl rfl)
theorem dX11_does_186 : decode cX11_does 186 = .ok (.invokevirtual 319, 3) := dk_182 1 63 (dk_at dksX11_does_7 15 rfl rfl)
theorem dX11_does_189 : decode cX11_does 189 = .ok (.return_, 1) := dk_177 (dk_at dksX11_does_7 18 rfl rfl)
abbrev cX11_tell : ByteArray := prog_16_method_5_code
def yX11_tell : MethodName := ⟨RX11, "tell", "(II)I"⟩
def dkwX11_tell_0 : List UInt8 := [42, 180, 0, 11, 7, 27, 104, 28, 96, 46, 172]
abbrev dktX11_tell_0 : List UInt8 := dkwX11_tell_0 ++ []
theorem dksX11_tell_0 : cX11_tell.data.toList.drop 0 = dktX11_tell_0 := by decide +kernel
theorem dX11_tell_0 : decode cX11_tell 0 = .ok (.aload_n 0, 1) := dk_42 (dk_at dksX11_tell_0 0 rfl rfl)
theorem dX11_tell_1 : decode cX11_tell 1 = .ok (.getfield 11, 3) := dk_180 0 11 (dk_at dksX11_tell_0 1 rfl rfl)
theorem dX11_tell_4 : decode cX11_tell 4 = .ok (.iconst 4, 1) := dk_7 (dk_at dksX11_tell_0 4 rfl rfl)
theorem dX11_tell_5 : decode cX11_tell 5 = .ok (.iload_n 1, 1) := dk_27 (dk_at dksX11_tell_0 5 rfl rfl)
theorem dX11_tell_6 : decode cX11_tell 6 = .ok (.imul, 1) := dk_104 (dk_at dksX11_tell_0 6 rfl rfl)
theorem dX11_tell_7 : decode cX11_tell 7 = .ok (.iload_n 2, 1) := dk_28 (dk_at dksX11_tell_0 7 rfl rfl)
theorem dX11_tell_8 : decode cX11_tell 8 = .ok (.iadd, 1) := dk_96 (dk_at dksX11_tell_0 8 rfl rfl)
theorem dX11_tell_9 : decode cX11_tell 9 = .ok (.iaload, 1) := dk_46 (dk_at dksX11_tell_0 9 rfl rfl)
theorem dX11_tell_10 : decode cX11_tell 10 = .ok (.ireturn, 1) := dk_172 (dk_at dksX11_tell_0 10 rfl rfl)
abbrev cX11_places : ByteArray := prog_16_method_54_code
def yX11_places : MethodName := ⟨RX11, "places", "(I)V"⟩
def dkwX11_places_2 : List UInt8 := [182, 1, 33, 79, 42, 180, 0, 45, 28, 42, 27, 6, 182, 1, 33, 79, 42, 28, 182, 1, 66, 177]
abbrev dktX11_places_2 : List UInt8 := dkwX11_places_2 ++ []
def dkwX11_places_1 : List UInt8 := [182, 1, 33, 79, 42, 180, 0, 39, 28, 42, 27, 4, 182, 1, 33, 79, 42, 180, 0, 42, 28, 42, 27, 5]
abbrev dktX11_places_1 : List UInt8 := dkwX11_places_1 ++ dktX11_places_2
def dkwX11_places_0 : List UInt8 := [42, 180, 0, 20, 27, 46, 61, 42, 180, 0, 29, 28, 4, 84, 42, 180, 0, 36, 28, 42, 27, 3]
abbrev dktX11_places_0 : List UInt8 := dkwX11_places_0 ++ dktX11_places_1
theorem dksX11_places_0 : cX11_places.data.toList.drop 0 = dktX11_places_0 := by decide +kernel
theorem dksX11_places_1 : cX11_places.data.toList.drop 22 = dktX11_places_1 := dk_seg dksX11_places_0 22 rfl rfl
theorem dksX11_places_2 : cX11_places.data.toList.drop 46 = dktX11_places_2 := dk_seg dksX11_places_1 24 rfl rfl
theorem dX11_places_0 : decode cX11_places 0 = .ok (.aload_n 0, 1) := dk_42 (dk_at dksX11_places_0 0 rfl rfl)
theorem dX11_places_1 : decode cX11_places 1 = .ok (.getfield 20, 3) := dk_180 0 20 (dk_at dksX11_places_0 1 rfl rfl)
theorem dX11_places_4 : decode cX11_places 4 = .ok (.iload_n 1, 1) := dk_27 (dk_at dksX11_places_0 4 rfl rfl)
theorem dX11_places_5 : decode cX11_places 5 = .ok (.iaload, 1) := dk_46 (dk_at dksX11_places_0 5 rfl rfl)
theorem dX11_places_6 : decode cX11_places 6 = .ok (.istore_n 2, 1) := dk_61 (dk_at dksX11_places_0 6 rfl rfl)
theorem dX11_places_7 : decode cX11_places 7 = .ok (.aload_n 0, 1) := dk_42 (dk_at dksX11_places_0 7 rfl rfl)
theorem dX11_places_8 : decode cX11_places 8 = .ok (.getfield 29, 3) := dk_180 0 29 (dk_at dksX11_places_0 8 rfl rfl)
theorem dX11_places_11 : decode cX11_places 11 = .ok (.iload_n 2, 1) := dk_28 (dk_at dksX11_places_0 11 rfl rfl)
theorem dX11_places_12 : decode cX11_places 12 = .ok (.iconst 1, 1) := dk_4 (dk_at dksX11_places_0 12 rfl rfl)
theorem dX11_places_13 : decode cX11_places 13 = .ok (.bastore, 1) := dk_84 (dk_at dksX11_places_0 13 rfl rfl)
theorem dX11_places_14 : decode cX11_places 14 = .ok (.aload_n 0, 1) := dk_42 (dk_at dksX11_places_0 14 rfl rfl)
theorem dX11_places_15 : decode cX11_places 15 = .ok (.getfield 36, 3) := dk_180 0 36 (dk_at dksX11_places_0 15 rfl rfl)
theorem dX11_places_18 : decode cX11_places 18 = .ok (.iload_n 2, 1) := dk_28 (dk_at dksX11_places_0 18 rfl rfl)
theorem dX11_places_19 : decode cX11_places 19 = .ok (.aload_n 0, 1) := dk_42 (dk_at dksX11_places_0 19 rfl rfl)
theorem dX11_places_20 : decode cX11_places 20 = .ok (.iload_n 1, 1) := dk_27 (dk_at dksX11_places_0 20 rfl rfl)
theorem dX11_places_21 : decode cX11_places 21 = .ok (.iconst 0, 1) := dk_3 (dk_at dksX11_places_0 21 rfl rfl)
theorem dX11_places_22 : decode cX11_places 22 = .ok (.invokevirtual 289, 3) := dk_182 1 33 (dk_at dksX11_places_1 0 rfl rfl)
theorem dX11_places_25 : decode cX11_places 25 = .ok (.iastore, 1) := dk_79 (dk_at dksX11_places_1 3 rfl rfl)
theorem dX11_places_26 : decode cX11_places 26 = .ok (.aload_n 0, 1) := dk_42 (dk_at dksX11_places_1 4 rfl rfl)
theorem dX11_places_27 : decode cX11_places 27 = .ok (.getfield 39, 3) := dk_180 0 39 (dk_at dksX11_places_1 5 rfl rfl)
theorem dX11_places_30 : decode cX11_places 30 = .ok (.iload_n 2, 1) := dk_28 (dk_at dksX11_places_1 8 rfl rfl)
theorem dX11_places_31 : decode cX11_places 31 = .ok (.aload_n 0, 1) := dk_42 (dk_at dksX11_places_1 9 rfl rfl)
theorem dX11_places_32 : decode cX11_places 32 = .ok (.iload_n 1, 1) := dk_27 (dk_at dksX11_places_1 10 rfl rfl)
theorem dX11_places_33 : decode cX11_places 33 = .ok (.iconst 1, 1) := dk_4 (dk_at dksX11_places_1 11 rfl rfl)
theorem dX11_places_34 : decode cX11_places 34 = .ok (.invokevirtual 289, 3) := dk_182 1 33 (dk_at dksX11_places_1 12 rfl rfl)
theorem dX11_places_37 : decode cX11_places 37 = .ok (.iastore, 1) := dk_79 (dk_at dksX11_places_1 15 rfl rfl)
theorem dX11_places_38 : decode cX11_places 38 = .ok (.aload_n 0, 1) := dk_42 (dk_at dksX11_places_1 16 rfl rfl)
theorem dX11_places_39 : decode cX11_places 39 = .ok (.getfield 42, 3) := dk_180 0 42 (dk_at dksX11_places_1 17 rfl rfl)
theorem dX11_places_42 : decode cX11_places 42 = .ok (.iload_n 2, 1) := dk_28 (dk_at dksX11_places_1 20 rfl rfl)
theorem dX11_places_43 : decode cX11_places 43 = .ok (.aload_n 0, 1) := dk_42 (dk_at dksX11_places_1 21 rfl rfl)
theorem dX11_places_44 : decode cX11_places 44 = .ok (.iload_n 1, 1) := dk_27 (dk_at dksX11_places_1 22 rfl rfl)
theorem dX11_places_45 : decode cX11_places 45 = .ok (.iconst 2, 1) := dk_5 (dk_at dksX11_places_1 23 rfl rfl)
theorem dX11_places_46 : decode cX11_places 46 = .ok (.invokevirtual 289, 3) := dk_182 1 33 (dk_at dksX11_places_2 0 rfl rfl)
theorem dX11_places_49 : decode cX11_places 49 = .ok (.iastore, 1) := dk_79 (dk_at dksX11_places_2 3 rfl rfl)
theorem dX11_places_50 : decode cX11_places 50 = .ok (.aload_n 0, 1) := dk_42 (dk_at dksX11_places_2 4 rfl rfl)
theorem dX11_places_51 : decode cX11_places 51 = .ok (.getfield 45, 3) := dk_180 0 45 (dk_at dksX11_places_2 5 rfl rfl)
theorem dX11_places_54 : decode cX11_places 54 = .ok (.iload_n 2, 1) := dk_28 (dk_at dksX11_places_2 8 rfl rfl)
theorem dX11_places_55 : decode cX11_places 55 = .ok (.aload_n 0, 1) := dk_42 (dk_at dksX11_places_2 9 rfl rfl)
theorem dX11_places_56 : decode cX11_places 56 = .ok (.iload_n 1, 1) := dk_27 (dk_at dksX11_places_2 10 rfl rfl)
theorem dX11_places_57 : decode cX11_places 57 = .ok (.iconst 3, 1) := dk_6 (dk_at dksX11_places_2 11 rfl rfl)
theorem dX11_places_58 : decode cX11_places 58 = .ok (.invokevirtual 289, 3) := dk_182 1 33 (dk_at dksX11_places_2 12 rfl rfl)
theorem dX11_places_61 : decode cX11_places 61 = .ok (.iastore, 1) := dk_79 (dk_at dksX11_places_2 15 rfl rfl)
theorem dX11_places_62 : decode cX11_places 62 = .ok (.aload_n 0, 1) := dk_42 (dk_at dksX11_places_2 16 rfl rfl)
theorem dX11_places_63 : decode cX11_places 63 = .ok (.iload_n 2, 1) := dk_28 (dk_at dksX11_places_2 17 rfl rfl)
theorem dX11_places_64 : decode cX11_places 64 = .ok (.invokevirtual 322, 3) := dk_182 1 66 (dk_at dksX11_places_2 18 rfl rfl)
theorem dX11_places_67 : decode cX11_places 67 = .ok (.return_, 1) := dk_177 (dk_at dksX11_places_2 21 rfl rfl)
abbrev cX11_stacks : ByteArray := prog_16_method_16_code
def yX11_stacks : MethodName := ⟨RX11, "stacks", "(I)V"⟩
def dkwX11_stacks_6 : List UInt8 := [182, 0, 161, 182, 0, 165, 54, 4, 132, 3, 1, 167, 255, 206, 177]
abbrev dktX11_stacks_6 : List UInt8 := dkwX11_stacks_6 ++ []
def dkwX11_stacks_5 : List UInt8 := [28, 29, 182, 0, 161, 42, 180, 0, 39, 42, 28, 29, 182, 0, 161, 46, 21, 4, 100, 79, 42, 42, 28, 29]
abbrev dktX11_stacks_5 : List UInt8 := dkwX11_stacks_5 ++ dktX11_stacks_6
def dkwX11_stacks_4 : List UInt8 := [46, 4, 96, 79, 3, 54, 4, 3, 62, 29, 42, 180, 0, 103, 28, 46, 162, 0, 46, 42, 180, 0, 106, 42]
abbrev dktX11_stacks_4 : List UInt8 := dkwX11_stacks_4 ++ dktX11_stacks_5
def dkwX11_stacks_3 : List UInt8 := [132, 3, 255, 167, 255, 198, 42, 180, 0, 100, 16, 6, 28, 104, 29, 96, 27, 79, 42, 180, 0, 103, 28, 92]
abbrev dktX11_stacks_3 : List UInt8 := dkwX11_stacks_3 ++ dktX11_stacks_4
def dkwX11_stacks_2 : List UInt8 := [180, 0, 100, 16, 6, 28, 104, 29, 96, 42, 180, 0, 100, 16, 6, 28, 104, 29, 96, 4, 100, 46, 79]
abbrev dktX11_stacks_2 : List UInt8 := dkwX11_stacks_2 ++ dktX11_stacks_3
def dkwX11_stacks_1 : List UInt8 := [180, 0, 100, 16, 6, 28, 104, 29, 96, 4, 100, 46, 46, 42, 180, 0, 39, 27, 46, 164, 0, 33, 42]
abbrev dktX11_stacks_1 : List UInt8 := dkwX11_stacks_1 ++ dktX11_stacks_2
def dkwX11_stacks_0 : List UInt8 := [42, 180, 0, 36, 27, 46, 61, 42, 180, 0, 103, 28, 46, 62, 29, 158, 0, 60, 42, 180, 0, 39, 42]
abbrev dktX11_stacks_0 : List UInt8 := dkwX11_stacks_0 ++ dktX11_stacks_1
theorem dksX11_stacks_0 : cX11_stacks.data.toList.drop 0 = dktX11_stacks_0 := by decide +kernel
theorem dksX11_stacks_1 : cX11_stacks.data.toList.drop 23 = dktX11_stacks_1 := dk_seg dksX11_stacks_0 23 rfl rfl
theorem dksX11_stacks_2 : cX11_stacks.data.toList.drop 46 = dktX11_stacks_2 := dk_seg dksX11_stacks_1 23 rfl rfl
theorem dksX11_stacks_3 : cX11_stacks.data.toList.drop 69 = dktX11_stacks_3 := dk_seg dksX11_stacks_2 23 rfl rfl
theorem dksX11_stacks_4 : cX11_stacks.data.toList.drop 93 = dktX11_stacks_4 := dk_seg dksX11_stacks_3 24 rfl rfl
theorem dksX11_stacks_5 : cX11_stacks.data.toList.drop 117 = dktX11_stacks_5 := dk_seg dksX11_stacks_4 24 rfl rfl
theorem dksX11_stacks_6 : cX11_stacks.data.toList.drop 141 = dktX11_stacks_6 := dk_seg dksX11_stacks_5 24 rfl rfl
theorem dX11_stacks_0 : decode cX11_stacks 0 = .ok (.aload_n 0, 1) := dk_42 (dk_at dksX11_stacks_0 0 rfl rfl)
theorem dX11_stacks_1 : decode cX11_stacks 1 = .ok (.getfield 36, 3) := dk_180 0 36 (dk_at dksX11_stacks_0 1 rfl rfl)
theorem dX11_stacks_4 : decode cX11_stacks 4 = .ok (.iload_n 1, 1) := dk_27 (dk_at dksX11_stacks_0 4 rfl rfl)
theorem dX11_stacks_5 : decode cX11_stacks 5 = .ok (.iaload, 1) := dk_46 (dk_at dksX11_stacks_0 5 rfl rfl)
theorem dX11_stacks_6 : decode cX11_stacks 6 = .ok (.istore_n 2, 1) := dk_61 (dk_at dksX11_stacks_0 6 rfl rfl)
theorem dX11_stacks_7 : decode cX11_stacks 7 = .ok (.aload_n 0, 1) := dk_42 (dk_at dksX11_stacks_0 7 rfl rfl)
theorem dX11_stacks_8 : decode cX11_stacks 8 = .ok (.getfield 103, 3) := dk_180 0 103 (dk_at dksX11_stacks_0 8 rfl rfl)
theorem dX11_stacks_11 : decode cX11_stacks 11 = .ok (.iload_n 2, 1) := dk_28 (dk_at dksX11_stacks_0 11 rfl rfl)
theorem dX11_stacks_12 : decode cX11_stacks 12 = .ok (.iaload, 1) := dk_46 (dk_at dksX11_stacks_0 12 rfl rfl)
theorem dX11_stacks_13 : decode cX11_stacks 13 = .ok (.istore_n 3, 1) := dk_62 (dk_at dksX11_stacks_0 13 rfl rfl)
theorem dX11_stacks_14 : decode cX11_stacks 14 = .ok (.iload_n 3, 1) := dk_29 (dk_at dksX11_stacks_0 14 rfl rfl)
theorem dX11_stacks_15 : decode cX11_stacks 15 = .ok (.ifCond .le 60, 3) := dk_158 0 60 (dk_at dksX11_stacks_0 15 rfl rfl)
theorem dX11_stacks_18 : decode cX11_stacks 18 = .ok (.aload_n 0, 1) := dk_42 (dk_at dksX11_stacks_0 18 rfl rfl)
theorem dX11_stacks_19 : decode cX11_stacks 19 = .ok (.getfield 39, 3) := dk_180 0 39 (dk_at dksX11_stacks_0 19 rfl rfl)
theorem dX11_stacks_22 : decode cX11_stacks 22 = .ok (.aload_n 0, 1) := dk_42 (dk_at dksX11_stacks_0 22 rfl rfl)
theorem dX11_stacks_23 : decode cX11_stacks 23 = .ok (.getfield 100, 3) := dk_180 0 100 (dk_at dksX11_stacks_1 0 rfl rfl)
theorem dX11_stacks_26 : decode cX11_stacks 26 = .ok (.bipush 6, 2) := dk_16 6 (dk_at dksX11_stacks_1 3 rfl rfl)
theorem dX11_stacks_28 : decode cX11_stacks 28 = .ok (.iload_n 2, 1) := dk_28 (dk_at dksX11_stacks_1 5 rfl rfl)
theorem dX11_stacks_29 : decode cX11_stacks 29 = .ok (.imul, 1) := dk_104 (dk_at dksX11_stacks_1 6 rfl rfl)
theorem dX11_stacks_30 : decode cX11_stacks 30 = .ok (.iload_n 3, 1) := dk_29 (dk_at dksX11_stacks_1 7 rfl rfl)
theorem dX11_stacks_31 : decode cX11_stacks 31 = .ok (.iadd, 1) := dk_96 (dk_at dksX11_stacks_1 8 rfl rfl)
theorem dX11_stacks_32 : decode cX11_stacks 32 = .ok (.iconst 1, 1) := dk_4 (dk_at dksX11_stacks_1 9 rfl rfl)
theorem dX11_stacks_33 : decode cX11_stacks 33 = .ok (.isub, 1) := dk_100 (dk_at dksX11_stacks_1 10 rfl rfl)
theorem dX11_stacks_34 : decode cX11_stacks 34 = .ok (.iaload, 1) := dk_46 (dk_at dksX11_stacks_1 11 rfl rfl)
theorem dX11_stacks_35 : decode cX11_stacks 35 = .ok (.iaload, 1) := dk_46 (dk_at dksX11_stacks_1 12 rfl rfl)
theorem dX11_stacks_36 : decode cX11_stacks 36 = .ok (.aload_n 0, 1) := dk_42 (dk_at dksX11_stacks_1 13 rfl rfl)
theorem dX11_stacks_37 : decode cX11_stacks 37 = .ok (.getfield 39, 3) := dk_180 0 39 (dk_at dksX11_stacks_1 14 rfl rfl)
theorem dX11_stacks_40 : decode cX11_stacks 40 = .ok (.iload_n 1, 1) := dk_27 (dk_at dksX11_stacks_1 17 rfl rfl)
theorem dX11_stacks_41 : decode cX11_stacks 41 = .ok (.iaload, 1) := dk_46 (dk_at dksX11_stacks_1 18 rfl rfl)
theorem dX11_stacks_42 : decode cX11_stacks 42 = .ok (.if_icmp .le 33, 3) := dk_164 0 33 (dk_at dksX11_stacks_1 19 rfl rfl)
theorem dX11_stacks_45 : decode cX11_stacks 45 = .ok (.aload_n 0, 1) := dk_42 (dk_at dksX11_stacks_1 22 rfl rfl)
theorem dX11_stacks_46 : decode cX11_stacks 46 = .ok (.getfield 100, 3) := dk_180 0 100 (dk_at dksX11_stacks_2 0 rfl rfl)
theorem dX11_stacks_49 : decode cX11_stacks 49 = .ok (.bipush 6, 2) := dk_16 6 (dk_at dksX11_stacks_2 3 rfl rfl)
theorem dX11_stacks_51 : decode cX11_stacks 51 = .ok (.iload_n 2, 1) := dk_28 (dk_at dksX11_stacks_2 5 rfl rfl)
theorem dX11_stacks_52 : decode cX11_stacks 52 = .ok (.imul, 1) := dk_104 (dk_at dksX11_stacks_2 6 rfl rfl)
theorem dX11_stacks_53 : decode cX11_stacks 53 = .ok (.iload_n 3, 1) := dk_29 (dk_at dksX11_stacks_2 7 rfl rfl)
theorem dX11_stacks_54 : decode cX11_stacks 54 = .ok (.iadd, 1) := dk_96 (dk_at dksX11_stacks_2 8 rfl rfl)
theorem dX11_stacks_55 : decode cX11_stacks 55 = .ok (.aload_n 0, 1) := dk_42 (dk_at dksX11_stacks_2 9 rfl rfl)
theorem dX11_stacks_56 : decode cX11_stacks 56 = .ok (.getfield 100, 3) := dk_180 0 100 (dk_at dksX11_stacks_2 10 rfl rfl)
theorem dX11_stacks_59 : decode cX11_stacks 59 = .ok (.bipush 6, 2) := dk_16 6 (dk_at dksX11_stacks_2 13 rfl rfl)
theorem dX11_stacks_61 : decode cX11_stacks 61 = .ok (.iload_n 2, 1) := dk_28 (dk_at dksX11_stacks_2 15 rfl rfl)
theorem dX11_stacks_62 : decode cX11_stacks 62 = .ok (.imul, 1) := dk_104 (dk_at dksX11_stacks_2 16 rfl rfl)
theorem dX11_stacks_63 : decode cX11_stacks 63 = .ok (.iload_n 3, 1) := dk_29 (dk_at dksX11_stacks_2 17 rfl rfl)
theorem dX11_stacks_64 : decode cX11_stacks 64 = .ok (.iadd, 1) := dk_96 (dk_at dksX11_stacks_2 18 rfl rfl)
theorem dX11_stacks_65 : decode cX11_stacks 65 = .ok (.iconst 1, 1) := dk_4 (dk_at dksX11_stacks_2 19 rfl rfl)
theorem dX11_stacks_66 : decode cX11_stacks 66 = .ok (.isub, 1) := dk_100 (dk_at dksX11_stacks_2 20 rfl rfl)
theorem dX11_stacks_67 : decode cX11_stacks 67 = .ok (.iaload, 1) := dk_46 (dk_at dksX11_stacks_2 21 rfl rfl)
theorem dX11_stacks_68 : decode cX11_stacks 68 = .ok (.iastore, 1) := dk_79 (dk_at dksX11_stacks_2 22 rfl rfl)
theorem dX11_stacks_69 : decode cX11_stacks 69 = .ok (.iinc 3 (-1), 3) := dk_132 3 255 (dk_at dksX11_stacks_3 0 rfl rfl)
theorem dX11_stacks_72 : decode cX11_stacks 72 = .ok (.goto (-58), 3) := dk_167 255 198 (dk_at dksX11_stacks_3 3 rfl rfl)
theorem dX11_stacks_75 : decode cX11_stacks 75 = .ok (.aload_n 0, 1) := dk_42 (dk_at dksX11_stacks_3 6 rfl rfl)
theorem dX11_stacks_76 : decode cX11_stacks 76 = .ok (.getfield 100, 3) := dk_180 0 100 (dk_at dksX11_stacks_3 7 rfl rfl)
theorem dX11_stacks_79 : decode cX11_stacks 79 = .ok (.bipush 6, 2) := dk_16 6 (dk_at dksX11_stacks_3 10 rfl rfl)
theorem dX11_stacks_81 : decode cX11_stacks 81 = .ok (.iload_n 2, 1) := dk_28 (dk_at dksX11_stacks_3 12 rfl rfl)
theorem dX11_stacks_82 : decode cX11_stacks 82 = .ok (.imul, 1) := dk_104 (dk_at dksX11_stacks_3 13 rfl rfl)
theorem dX11_stacks_83 : decode cX11_stacks 83 = .ok (.iload_n 3, 1) := dk_29 (dk_at dksX11_stacks_3 14 rfl rfl)
theorem dX11_stacks_84 : decode cX11_stacks 84 = .ok (.iadd, 1) := dk_96 (dk_at dksX11_stacks_3 15 rfl rfl)
theorem dX11_stacks_85 : decode cX11_stacks 85 = .ok (.iload_n 1, 1) := dk_27 (dk_at dksX11_stacks_3 16 rfl rfl)
theorem dX11_stacks_86 : decode cX11_stacks 86 = .ok (.iastore, 1) := dk_79 (dk_at dksX11_stacks_3 17 rfl rfl)
theorem dX11_stacks_87 : decode cX11_stacks 87 = .ok (.aload_n 0, 1) := dk_42 (dk_at dksX11_stacks_3 18 rfl rfl)
theorem dX11_stacks_88 : decode cX11_stacks 88 = .ok (.getfield 103, 3) := dk_180 0 103 (dk_at dksX11_stacks_3 19 rfl rfl)
theorem dX11_stacks_91 : decode cX11_stacks 91 = .ok (.iload_n 2, 1) := dk_28 (dk_at dksX11_stacks_3 22 rfl rfl)
theorem dX11_stacks_92 : decode cX11_stacks 92 = .ok (.dup2, 1) := dk_92 (dk_at dksX11_stacks_3 23 rfl rfl)
theorem dX11_stacks_93 : decode cX11_stacks 93 = .ok (.iaload, 1) := dk_46 (dk_at dksX11_stacks_4 0 rfl rfl)
theorem dX11_stacks_94 : decode cX11_stacks 94 = .ok (.iconst 1, 1) := dk_4 (dk_at dksX11_stacks_4 1 rfl rfl)
theorem dX11_stacks_95 : decode cX11_stacks 95 = .ok (.iadd, 1) := dk_96 (dk_at dksX11_stacks_4 2 rfl rfl)
theorem dX11_stacks_96 : decode cX11_stacks 96 = .ok (.iastore, 1) := dk_79 (dk_at dksX11_stacks_4 3 rfl rfl)
theorem dX11_stacks_97 : decode cX11_stacks 97 = .ok (.iconst 0, 1) := dk_3 (dk_at dksX11_stacks_4 4 rfl rfl)
theorem dX11_stacks_98 : decode cX11_stacks 98 = .ok (.istore 4, 2) := dk_54 4 (dk_at dksX11_stacks_4 5 rfl rfl)
theorem dX11_stacks_100 : decode cX11_stacks 100 = .ok (.iconst 0, 1) := dk_3 (dk_at dksX11_stacks_4 7 rfl rfl)
theorem dX11_stacks_101 : decode cX11_stacks 101 = .ok (.istore_n 3, 1) := dk_62 (dk_at dksX11_stacks_4 8 rfl rfl)
theorem dX11_stacks_102 : decode cX11_stacks 102 = .ok (.iload_n 3, 1) := dk_29 (dk_at dksX11_stacks_4 9 rfl rfl)
theorem dX11_stacks_103 : decode cX11_stacks 103 = .ok (.aload_n 0, 1) := dk_42 (dk_at dksX11_stacks_4 10 rfl rfl)
theorem dX11_stacks_104 : decode cX11_stacks 104 = .ok (.getfield 103, 3) := dk_180 0 103 (dk_at dksX11_stacks_4 11 rfl rfl)
theorem dX11_stacks_107 : decode cX11_stacks 107 = .ok (.iload_n 2, 1) := dk_28 (dk_at dksX11_stacks_4 14 rfl rfl)
theorem dX11_stacks_108 : decode cX11_stacks 108 = .ok (.iaload, 1) := dk_46 (dk_at dksX11_stacks_4 15 rfl rfl)
theorem dX11_stacks_109 : decode cX11_stacks 109 = .ok (.if_icmp .ge 46, 3) := dk_162 0 46 (dk_at dksX11_stacks_4 16 rfl rfl)
theorem dX11_stacks_112 : decode cX11_stacks 112 = .ok (.aload_n 0, 1) := dk_42 (dk_at dksX11_stacks_4 19 rfl rfl)
theorem dX11_stacks_113 : decode cX11_stacks 113 = .ok (.getfield 106, 3) := dk_180 0 106 (dk_at dksX11_stacks_4 20 rfl rfl)
theorem dX11_stacks_116 : decode cX11_stacks 116 = .ok (.aload_n 0, 1) := dk_42 (dk_at dksX11_stacks_4 23 rfl rfl)
theorem dX11_stacks_117 : decode cX11_stacks 117 = .ok (.iload_n 2, 1) := dk_28 (dk_at dksX11_stacks_5 0 rfl rfl)
theorem dX11_stacks_118 : decode cX11_stacks 118 = .ok (.iload_n 3, 1) := dk_29 (dk_at dksX11_stacks_5 1 rfl rfl)
theorem dX11_stacks_119 : decode cX11_stacks 119 = .ok (.invokevirtual 161, 3) := dk_182 0 161 (dk_at dksX11_stacks_5 2 rfl rfl)
theorem dX11_stacks_122 : decode cX11_stacks 122 = .ok (.aload_n 0, 1) := dk_42 (dk_at dksX11_stacks_5 5 rfl rfl)
theorem dX11_stacks_123 : decode cX11_stacks 123 = .ok (.getfield 39, 3) := dk_180 0 39 (dk_at dksX11_stacks_5 6 rfl rfl)
theorem dX11_stacks_126 : decode cX11_stacks 126 = .ok (.aload_n 0, 1) := dk_42 (dk_at dksX11_stacks_5 9 rfl rfl)
theorem dX11_stacks_127 : decode cX11_stacks 127 = .ok (.iload_n 2, 1) := dk_28 (dk_at dksX11_stacks_5 10 rfl rfl)
theorem dX11_stacks_128 : decode cX11_stacks 128 = .ok (.iload_n 3, 1) := dk_29 (dk_at dksX11_stacks_5 11 rfl rfl)
theorem dX11_stacks_129 : decode cX11_stacks 129 = .ok (.invokevirtual 161, 3) := dk_182 0 161 (dk_at dksX11_stacks_5 12 rfl rfl)
theorem dX11_stacks_132 : decode cX11_stacks 132 = .ok (.iaload, 1) := dk_46 (dk_at dksX11_stacks_5 15 rfl rfl)
theorem dX11_stacks_133 : decode cX11_stacks 133 = .ok (.iload 4, 2) := dk_21 4 (dk_at dksX11_stacks_5 16 rfl rfl)
theorem dX11_stacks_135 : decode cX11_stacks 135 = .ok (.isub, 1) := dk_100 (dk_at dksX11_stacks_5 18 rfl rfl)
theorem dX11_stacks_136 : decode cX11_stacks 136 = .ok (.iastore, 1) := dk_79 (dk_at dksX11_stacks_5 19 rfl rfl)
theorem dX11_stacks_137 : decode cX11_stacks 137 = .ok (.aload_n 0, 1) := dk_42 (dk_at dksX11_stacks_5 20 rfl rfl)
theorem dX11_stacks_138 : decode cX11_stacks 138 = .ok (.aload_n 0, 1) := dk_42 (dk_at dksX11_stacks_5 21 rfl rfl)
theorem dX11_stacks_139 : decode cX11_stacks 139 = .ok (.iload_n 2, 1) := dk_28 (dk_at dksX11_stacks_5 22 rfl rfl)
theorem dX11_stacks_140 : decode cX11_stacks 140 = .ok (.iload_n 3, 1) := dk_29 (dk_at dksX11_stacks_5 23 rfl rfl)
theorem dX11_stacks_141 : decode cX11_stacks 141 = .ok (.invokevirtual 161, 3) := dk_182 0 161 (dk_at dksX11_stacks_6 0 rfl rfl)
theorem dX11_stacks_144 : decode cX11_stacks 144 = .ok (.invokevirtual 165, 3) := dk_182 0 165 (dk_at dksX11_stacks_6 3 rfl rfl)
theorem dX11_stacks_147 : decode cX11_stacks 147 = .ok (.istore 4, 2) := dk_54 4 (dk_at dksX11_stacks_6 6 rfl rfl)
theorem dX11_stacks_149 : decode cX11_stacks 149 = .ok (.iinc 3 1, 3) := dk_132 3 1 (dk_at dksX11_stacks_6 8 rfl rfl)
theorem dX11_stacks_152 : decode cX11_stacks 152 = .ok (.goto (-50), 3) := dk_167 255 206 (dk_at dksX11_stacks_6 11 rfl rfl)
theorem dX11_stacks_155 : decode cX11_stacks 155 = .ok (.return_, 1) := dk_177 (dk_at dksX11_stacks_6 14 rfl rfl)
abbrev cX11_rungOf : ByteArray := prog_16_method_14_code
def yX11_rungOf : MethodName := ⟨RX11, "rungOf", "(II)I"⟩
def dkwX11_rungOf_1 : List UInt8 := [2, 172]
abbrev dktX11_rungOf_1 : List UInt8 := dkwX11_rungOf_1 ++ []
def dkwX11_rungOf_0 : List UInt8 := [28, 42, 180, 0, 103, 27, 46, 162, 0, 17, 42, 180, 0, 100, 16, 6, 27, 104, 28, 96, 46, 167, 0, 4]
abbrev dktX11_rungOf_0 : List UInt8 := dkwX11_rungOf_0 ++ dktX11_rungOf_1
theorem dksX11_rungOf_0 : cX11_rungOf.data.toList.drop 0 = dktX11_rungOf_0 := by decide +kernel
theorem dksX11_rungOf_1 : cX11_rungOf.data.toList.drop 24 = dktX11_rungOf_1 := dk_seg dksX11_rungOf_0 24 rfl rfl
theorem dX11_rungOf_0 : decode cX11_rungOf 0 = .ok (.iload_n 2, 1) := dk_28 (dk_at dksX11_rungOf_0 0 rfl rfl)
theorem dX11_rungOf_1 : decode cX11_rungOf 1 = .ok (.aload_n 0, 1) := dk_42 (dk_at dksX11_rungOf_0 1 rfl rfl)
theorem dX11_rungOf_2 : decode cX11_rungOf 2 = .ok (.getfield 103, 3) := dk_180 0 103 (dk_at dksX11_rungOf_0 2 rfl rfl)
theorem dX11_rungOf_5 : decode cX11_rungOf 5 = .ok (.iload_n 1, 1) := dk_27 (dk_at dksX11_rungOf_0 5 rfl rfl)
theorem dX11_rungOf_6 : decode cX11_rungOf 6 = .ok (.iaload, 1) := dk_46 (dk_at dksX11_rungOf_0 6 rfl rfl)
theorem dX11_rungOf_7 : decode cX11_rungOf 7 = .ok (.if_icmp .ge 17, 3) := dk_162 0 17 (dk_at dksX11_rungOf_0 7 rfl rfl)
theorem dX11_rungOf_10 : decode cX11_rungOf 10 = .ok (.aload_n 0, 1) := dk_42 (dk_at dksX11_rungOf_0 10 rfl rfl)
theorem dX11_rungOf_11 : decode cX11_rungOf 11 = .ok (.getfield 100, 3) := dk_180 0 100 (dk_at dksX11_rungOf_0 11 rfl rfl)
theorem dX11_rungOf_14 : decode cX11_rungOf 14 = .ok (.bipush 6, 2) := dk_16 6 (dk_at dksX11_rungOf_0 14 rfl rfl)
theorem dX11_rungOf_16 : decode cX11_rungOf 16 = .ok (.iload_n 1, 1) := dk_27 (dk_at dksX11_rungOf_0 16 rfl rfl)
theorem dX11_rungOf_17 : decode cX11_rungOf 17 = .ok (.imul, 1) := dk_104 (dk_at dksX11_rungOf_0 17 rfl rfl)
theorem dX11_rungOf_18 : decode cX11_rungOf 18 = .ok (.iload_n 2, 1) := dk_28 (dk_at dksX11_rungOf_0 18 rfl rfl)
theorem dX11_rungOf_19 : decode cX11_rungOf 19 = .ok (.iadd, 1) := dk_96 (dk_at dksX11_rungOf_0 19 rfl rfl)
theorem dX11_rungOf_20 : decode cX11_rungOf 20 = .ok (.iaload, 1) := dk_46 (dk_at dksX11_rungOf_0 20 rfl rfl)
theorem dX11_rungOf_21 : decode cX11_rungOf 21 = .ok (.goto 4, 3) := dk_167 0 4 (dk_at dksX11_rungOf_0 21 rfl rfl)
theorem dX11_rungOf_24 : decode cX11_rungOf 24 = .ok (.iconst (-1), 1) := dk_2 (dk_at dksX11_rungOf_1 0 rfl rfl)
theorem dX11_rungOf_25 : decode cX11_rungOf 25 = .ok (.ireturn, 1) := dk_172 (dk_at dksX11_rungOf_1 1 rfl rfl)
abbrev cX11_signs : ByteArray := prog_16_method_55_code
def yX11_signs : MethodName := ⟨RX11, "signs", "(III)V"⟩
def dkwX11_signs_1 : List UInt8 := [180, 0, 48, 27, 46, 96, 29, 79, 42, 180, 0, 48, 27, 92, 46, 4, 96, 79, 177]
abbrev dktX11_signs_1 : List UInt8 := dkwX11_signs_1 ++ []
def dkwX11_signs_0 : List UInt8 := [42, 180, 0, 51, 7, 27, 104, 42, 180, 0, 48, 27, 46, 96, 28, 79, 42, 180, 0, 54, 7, 27, 104, 42]
abbrev dktX11_signs_0 : List UInt8 := dkwX11_signs_0 ++ dktX11_signs_1
theorem dksX11_signs_0 : cX11_signs.data.toList.drop 0 = dktX11_signs_0 := by decide +kernel
theorem dksX11_signs_1 : cX11_signs.data.toList.drop 24 = dktX11_signs_1 := dk_seg dksX11_signs_0 24 rfl rfl
theorem dX11_signs_0 : decode cX11_signs 0 = .ok (.aload_n 0, 1) := dk_42 (dk_at dksX11_signs_0 0 rfl rfl)
theorem dX11_signs_1 : decode cX11_signs 1 = .ok (.getfield 51, 3) := dk_180 0 51 (dk_at dksX11_signs_0 1 rfl rfl)
theorem dX11_signs_4 : decode cX11_signs 4 = .ok (.iconst 4, 1) := dk_7 (dk_at dksX11_signs_0 4 rfl rfl)
theorem dX11_signs_5 : decode cX11_signs 5 = .ok (.iload_n 1, 1) := dk_27 (dk_at dksX11_signs_0 5 rfl rfl)
theorem dX11_signs_6 : decode cX11_signs 6 = .ok (.imul, 1) := dk_104 (dk_at dksX11_signs_0 6 rfl rfl)
theorem dX11_signs_7 : decode cX11_signs 7 = .ok (.aload_n 0, 1) := dk_42 (dk_at dksX11_signs_0 7 rfl rfl)
theorem dX11_signs_8 : decode cX11_signs 8 = .ok (.getfield 48, 3) := dk_180 0 48 (dk_at dksX11_signs_0 8 rfl rfl)
theorem dX11_signs_11 : decode cX11_signs 11 = .ok (.iload_n 1, 1) := dk_27 (dk_at dksX11_signs_0 11 rfl rfl)
theorem dX11_signs_12 : decode cX11_signs 12 = .ok (.iaload, 1) := dk_46 (dk_at dksX11_signs_0 12 rfl rfl)
theorem dX11_signs_13 : decode cX11_signs 13 = .ok (.iadd, 1) := dk_96 (dk_at dksX11_signs_0 13 rfl rfl)
theorem dX11_signs_14 : decode cX11_signs 14 = .ok (.iload_n 2, 1) := dk_28 (dk_at dksX11_signs_0 14 rfl rfl)
theorem dX11_signs_15 : decode cX11_signs 15 = .ok (.iastore, 1) := dk_79 (dk_at dksX11_signs_0 15 rfl rfl)
theorem dX11_signs_16 : decode cX11_signs 16 = .ok (.aload_n 0, 1) := dk_42 (dk_at dksX11_signs_0 16 rfl rfl)
theorem dX11_signs_17 : decode cX11_signs 17 = .ok (.getfield 54, 3) := dk_180 0 54 (dk_at dksX11_signs_0 17 rfl rfl)
theorem dX11_signs_20 : decode cX11_signs 20 = .ok (.iconst 4, 1) := dk_7 (dk_at dksX11_signs_0 20 rfl rfl)
theorem dX11_signs_21 : decode cX11_signs 21 = .ok (.iload_n 1, 1) := dk_27 (dk_at dksX11_signs_0 21 rfl rfl)
theorem dX11_signs_22 : decode cX11_signs 22 = .ok (.imul, 1) := dk_104 (dk_at dksX11_signs_0 22 rfl rfl)
theorem dX11_signs_23 : decode cX11_signs 23 = .ok (.aload_n 0, 1) := dk_42 (dk_at dksX11_signs_0 23 rfl rfl)
theorem dX11_signs_24 : decode cX11_signs 24 = .ok (.getfield 48, 3) := dk_180 0 48 (dk_at dksX11_signs_1 0 rfl rfl)
theorem dX11_signs_27 : decode cX11_signs 27 = .ok (.iload_n 1, 1) := dk_27 (dk_at dksX11_signs_1 3 rfl rfl)
theorem dX11_signs_28 : decode cX11_signs 28 = .ok (.iaload, 1) := dk_46 (dk_at dksX11_signs_1 4 rfl rfl)
theorem dX11_signs_29 : decode cX11_signs 29 = .ok (.iadd, 1) := dk_96 (dk_at dksX11_signs_1 5 rfl rfl)
theorem dX11_signs_30 : decode cX11_signs 30 = .ok (.iload_n 3, 1) := dk_29 (dk_at dksX11_signs_1 6 rfl rfl)
theorem dX11_signs_31 : decode cX11_signs 31 = .ok (.iastore, 1) := dk_79 (dk_at dksX11_signs_1 7 rfl rfl)
theorem dX11_signs_32 : decode cX11_signs 32 = .ok (.aload_n 0, 1) := dk_42 (dk_at dksX11_signs_1 8 rfl rfl)
theorem dX11_signs_33 : decode cX11_signs 33 = .ok (.getfield 48, 3) := dk_180 0 48 (dk_at dksX11_signs_1 9 rfl rfl)
theorem dX11_signs_36 : decode cX11_signs 36 = .ok (.iload_n 1, 1) := dk_27 (dk_at dksX11_signs_1 12 rfl rfl)
theorem dX11_signs_37 : decode cX11_signs 37 = .ok (.dup2, 1) := dk_92 (dk_at dksX11_signs_1 13 rfl rfl)
theorem dX11_signs_38 : decode cX11_signs 38 = .ok (.iaload, 1) := dk_46 (dk_at dksX11_signs_1 14 rfl rfl)
theorem dX11_signs_39 : decode cX11_signs 39 = .ok (.iconst 1, 1) := dk_4 (dk_at dksX11_signs_1 15 rfl rfl)
theorem dX11_signs_40 : decode cX11_signs 40 = .ok (.iadd, 1) := dk_96 (dk_at dksX11_signs_1 16 rfl rfl)
theorem dX11_signs_41 : decode cX11_signs 41 = .ok (.iastore, 1) := dk_79 (dk_at dksX11_signs_1 17 rfl rfl)
theorem dX11_signs_42 : decode cX11_signs 42 = .ok (.return_, 1) := dk_177 (dk_at dksX11_signs_1 18 rfl rfl)
abbrev cX11_rulesAre : ByteArray := prog_16_method_53_code
def yX11_rulesAre : MethodName := ⟨RX11, "rulesAre", "(III)V"⟩
def dkwX11_rulesAre_0 : List UInt8 := [42, 27, 181, 0, 152, 42, 28, 181, 0, 155, 42, 29, 181, 0, 158, 177]
abbrev dktX11_rulesAre_0 : List UInt8 := dkwX11_rulesAre_0 ++ []
theorem dksX11_rulesAre_0 : cX11_rulesAre.data.toList.drop 0 = dktX11_rulesAre_0 := by decide +kernel
theorem dX11_rulesAre_0 : decode cX11_rulesAre 0 = .ok (.aload_n 0, 1) := dk_42 (dk_at dksX11_rulesAre_0 0 rfl rfl)
theorem dX11_rulesAre_1 : decode cX11_rulesAre 1 = .ok (.iload_n 1, 1) := dk_27 (dk_at dksX11_rulesAre_0 1 rfl rfl)
theorem dX11_rulesAre_2 : decode cX11_rulesAre 2 = .ok (.putfield 152, 3) := dk_181 0 152 (dk_at dksX11_rulesAre_0 2 rfl rfl)
theorem dX11_rulesAre_5 : decode cX11_rulesAre 5 = .ok (.aload_n 0, 1) := dk_42 (dk_at dksX11_rulesAre_0 5 rfl rfl)
theorem dX11_rulesAre_6 : decode cX11_rulesAre 6 = .ok (.iload_n 2, 1) := dk_28 (dk_at dksX11_rulesAre_0 6 rfl rfl)
theorem dX11_rulesAre_7 : decode cX11_rulesAre 7 = .ok (.putfield 155, 3) := dk_181 0 155 (dk_at dksX11_rulesAre_0 7 rfl rfl)
theorem dX11_rulesAre_10 : decode cX11_rulesAre 10 = .ok (.aload_n 0, 1) := dk_42 (dk_at dksX11_rulesAre_0 10 rfl rfl)
theorem dX11_rulesAre_11 : decode cX11_rulesAre 11 = .ok (.iload_n 3, 1) := dk_29 (dk_at dksX11_rulesAre_0 11 rfl rfl)
theorem dX11_rulesAre_12 : decode cX11_rulesAre 12 = .ok (.putfield 158, 3) := dk_181 0 158 (dk_at dksX11_rulesAre_0 12 rfl rfl)
theorem dX11_rulesAre_15 : decode cX11_rulesAre 15 = .ok (.return_, 1) := dk_177 (dk_at dksX11_rulesAre_0 15 rfl rfl)
abbrev cX11_harms : ByteArray := prog_16_method_56_code
def yX11_harms : MethodName := ⟨RX11, "harms", "(I)V"⟩
def dkwX11_harms_3 : List UInt8 := [47, 182, 1, 69, 177]
abbrev dktX11_harms_3 : List UInt8 := dkwX11_harms_3 ++ []
def dkwX11_harms_2 : List UInt8 := [182, 1, 33, 79, 42, 180, 0, 73, 28, 42, 27, 6, 182, 1, 33, 133, 80, 42, 28, 42, 180, 0, 73, 28]
abbrev dktX11_harms_2 : List UInt8 := dkwX11_harms_2 ++ dktX11_harms_3
def dkwX11_harms_1 : List UInt8 := [182, 1, 33, 79, 42, 180, 0, 64, 28, 42, 27, 4, 182, 1, 33, 79, 42, 180, 0, 67, 28, 42, 27, 5]
abbrev dktX11_harms_1 : List UInt8 := dkwX11_harms_1 ++ dktX11_harms_2
def dkwX11_harms_0 : List UInt8 := [42, 180, 0, 20, 27, 46, 61, 42, 180, 0, 33, 28, 4, 84, 42, 180, 0, 61, 28, 42, 27, 3]
abbrev dktX11_harms_0 : List UInt8 := dkwX11_harms_0 ++ dktX11_harms_1
theorem dksX11_harms_0 : cX11_harms.data.toList.drop 0 = dktX11_harms_0 := by decide +kernel
theorem dksX11_harms_1 : cX11_harms.data.toList.drop 22 = dktX11_harms_1 := dk_seg dksX11_harms_0 22 rfl rfl
theorem dksX11_harms_2 : cX11_harms.data.toList.drop 46 = dktX11_harms_2 := dk_seg dksX11_harms_1 24 rfl rfl
theorem dksX11_harms_3 : cX11_harms.data.toList.drop 70 = dktX11_harms_3 := dk_seg dksX11_harms_2 24 rfl rfl
theorem dX11_harms_0 : decode cX11_harms 0 = .ok (.aload_n 0, 1) := dk_42 (dk_at dksX11_harms_0 0 rfl rfl)
theorem dX11_harms_1 : decode cX11_harms 1 = .ok (.getfield 20, 3) := dk_180 0 20 (dk_at dksX11_harms_0 1 rfl rfl)
theorem dX11_harms_4 : decode cX11_harms 4 = .ok (.iload_n 1, 1) := dk_27 (dk_at dksX11_harms_0 4 rfl rfl)
theorem dX11_harms_5 : decode cX11_harms 5 = .ok (.iaload, 1) := dk_46 (dk_at dksX11_harms_0 5 rfl rfl)
theorem dX11_harms_6 : decode cX11_harms 6 = .ok (.istore_n 2, 1) := dk_61 (dk_at dksX11_harms_0 6 rfl rfl)
theorem dX11_harms_7 : decode cX11_harms 7 = .ok (.aload_n 0, 1) := dk_42 (dk_at dksX11_harms_0 7 rfl rfl)
theorem dX11_harms_8 : decode cX11_harms 8 = .ok (.getfield 33, 3) := dk_180 0 33 (dk_at dksX11_harms_0 8 rfl rfl)
theorem dX11_harms_11 : decode cX11_harms 11 = .ok (.iload_n 2, 1) := dk_28 (dk_at dksX11_harms_0 11 rfl rfl)
theorem dX11_harms_12 : decode cX11_harms 12 = .ok (.iconst 1, 1) := dk_4 (dk_at dksX11_harms_0 12 rfl rfl)
theorem dX11_harms_13 : decode cX11_harms 13 = .ok (.bastore, 1) := dk_84 (dk_at dksX11_harms_0 13 rfl rfl)
theorem dX11_harms_14 : decode cX11_harms 14 = .ok (.aload_n 0, 1) := dk_42 (dk_at dksX11_harms_0 14 rfl rfl)
theorem dX11_harms_15 : decode cX11_harms 15 = .ok (.getfield 61, 3) := dk_180 0 61 (dk_at dksX11_harms_0 15 rfl rfl)
theorem dX11_harms_18 : decode cX11_harms 18 = .ok (.iload_n 2, 1) := dk_28 (dk_at dksX11_harms_0 18 rfl rfl)
theorem dX11_harms_19 : decode cX11_harms 19 = .ok (.aload_n 0, 1) := dk_42 (dk_at dksX11_harms_0 19 rfl rfl)
theorem dX11_harms_20 : decode cX11_harms 20 = .ok (.iload_n 1, 1) := dk_27 (dk_at dksX11_harms_0 20 rfl rfl)
theorem dX11_harms_21 : decode cX11_harms 21 = .ok (.iconst 0, 1) := dk_3 (dk_at dksX11_harms_0 21 rfl rfl)
theorem dX11_harms_22 : decode cX11_harms 22 = .ok (.invokevirtual 289, 3) := dk_182 1 33 (dk_at dksX11_harms_1 0 rfl rfl)
theorem dX11_harms_25 : decode cX11_harms 25 = .ok (.iastore, 1) := dk_79 (dk_at dksX11_harms_1 3 rfl rfl)
theorem dX11_harms_26 : decode cX11_harms 26 = .ok (.aload_n 0, 1) := dk_42 (dk_at dksX11_harms_1 4 rfl rfl)
theorem dX11_harms_27 : decode cX11_harms 27 = .ok (.getfield 64, 3) := dk_180 0 64 (dk_at dksX11_harms_1 5 rfl rfl)
theorem dX11_harms_30 : decode cX11_harms 30 = .ok (.iload_n 2, 1) := dk_28 (dk_at dksX11_harms_1 8 rfl rfl)
theorem dX11_harms_31 : decode cX11_harms 31 = .ok (.aload_n 0, 1) := dk_42 (dk_at dksX11_harms_1 9 rfl rfl)
theorem dX11_harms_32 : decode cX11_harms 32 = .ok (.iload_n 1, 1) := dk_27 (dk_at dksX11_harms_1 10 rfl rfl)
theorem dX11_harms_33 : decode cX11_harms 33 = .ok (.iconst 1, 1) := dk_4 (dk_at dksX11_harms_1 11 rfl rfl)
theorem dX11_harms_34 : decode cX11_harms 34 = .ok (.invokevirtual 289, 3) := dk_182 1 33 (dk_at dksX11_harms_1 12 rfl rfl)
theorem dX11_harms_37 : decode cX11_harms 37 = .ok (.iastore, 1) := dk_79 (dk_at dksX11_harms_1 15 rfl rfl)
theorem dX11_harms_38 : decode cX11_harms 38 = .ok (.aload_n 0, 1) := dk_42 (dk_at dksX11_harms_1 16 rfl rfl)
theorem dX11_harms_39 : decode cX11_harms 39 = .ok (.getfield 67, 3) := dk_180 0 67 (dk_at dksX11_harms_1 17 rfl rfl)
theorem dX11_harms_42 : decode cX11_harms 42 = .ok (.iload_n 2, 1) := dk_28 (dk_at dksX11_harms_1 20 rfl rfl)
theorem dX11_harms_43 : decode cX11_harms 43 = .ok (.aload_n 0, 1) := dk_42 (dk_at dksX11_harms_1 21 rfl rfl)
theorem dX11_harms_44 : decode cX11_harms 44 = .ok (.iload_n 1, 1) := dk_27 (dk_at dksX11_harms_1 22 rfl rfl)
theorem dX11_harms_45 : decode cX11_harms 45 = .ok (.iconst 2, 1) := dk_5 (dk_at dksX11_harms_1 23 rfl rfl)
theorem dX11_harms_46 : decode cX11_harms 46 = .ok (.invokevirtual 289, 3) := dk_182 1 33 (dk_at dksX11_harms_2 0 rfl rfl)
theorem dX11_harms_49 : decode cX11_harms 49 = .ok (.iastore, 1) := dk_79 (dk_at dksX11_harms_2 3 rfl rfl)
theorem dX11_harms_50 : decode cX11_harms 50 = .ok (.aload_n 0, 1) := dk_42 (dk_at dksX11_harms_2 4 rfl rfl)
theorem dX11_harms_51 : decode cX11_harms 51 = .ok (.getfield 73, 3) := dk_180 0 73 (dk_at dksX11_harms_2 5 rfl rfl)
theorem dX11_harms_54 : decode cX11_harms 54 = .ok (.iload_n 2, 1) := dk_28 (dk_at dksX11_harms_2 8 rfl rfl)
theorem dX11_harms_55 : decode cX11_harms 55 = .ok (.aload_n 0, 1) := dk_42 (dk_at dksX11_harms_2 9 rfl rfl)
theorem dX11_harms_56 : decode cX11_harms 56 = .ok (.iload_n 1, 1) := dk_27 (dk_at dksX11_harms_2 10 rfl rfl)
theorem dX11_harms_57 : decode cX11_harms 57 = .ok (.iconst 3, 1) := dk_6 (dk_at dksX11_harms_2 11 rfl rfl)
theorem dX11_harms_58 : decode cX11_harms 58 = .ok (.invokevirtual 289, 3) := dk_182 1 33 (dk_at dksX11_harms_2 12 rfl rfl)
theorem dX11_harms_61 : decode cX11_harms 61 = .ok (.i2l, 1) := dk_133 (dk_at dksX11_harms_2 15 rfl rfl)
theorem dX11_harms_62 : decode cX11_harms 62 = .ok (.lastore, 1) := dk_80 (dk_at dksX11_harms_2 16 rfl rfl)
theorem dX11_harms_63 : decode cX11_harms 63 = .ok (.aload_n 0, 1) := dk_42 (dk_at dksX11_harms_2 17 rfl rfl)
theorem dX11_harms_64 : decode cX11_harms 64 = .ok (.iload_n 2, 1) := dk_28 (dk_at dksX11_harms_2 18 rfl rfl)
theorem dX11_harms_65 : decode cX11_harms 65 = .ok (.aload_n 0, 1) := dk_42 (dk_at dksX11_harms_2 19 rfl rfl)
theorem dX11_harms_66 : decode cX11_harms 66 = .ok (.getfield 73, 3) := dk_180 0 73 (dk_at dksX11_harms_2 20 rfl rfl)
theorem dX11_harms_69 : decode cX11_harms 69 = .ok (.iload_n 2, 1) := dk_28 (dk_at dksX11_harms_2 23 rfl rfl)
theorem dX11_harms_70 : decode cX11_harms 70 = .ok (.laload, 1) := dk_47 (dk_at dksX11_harms_3 0 rfl rfl)
theorem dX11_harms_71 : decode cX11_harms 71 = .ok (.invokevirtual 325, 3) := dk_182 1 69 (dk_at dksX11_harms_3 1 rfl rfl)
theorem dX11_harms_74 : decode cX11_harms 74 = .ok (.return_, 1) := dk_177 (dk_at dksX11_harms_3 4 rfl rfl)
abbrev cX11_spreads : ByteArray := prog_16_method_44_code
def yX11_spreads : MethodName := ⟨RX11, "spreads", "(IJ)V"⟩
def dkwX11_spreads_5 : List UInt8 := [158, 0, 10, 42, 27, 21, 4, 182, 1, 17, 132, 4, 1, 167, 255, 227, 177]
abbrev dktX11_spreads_5 : List UInt8 := dkwX11_spreads_5 ++ []
def dkwX11_spreads_4 : List UInt8 := [182, 0, 234, 3, 54, 4, 21, 4, 16, 40, 162, 0, 28, 42, 180, 0, 115, 21, 4, 47, 9, 148]
abbrev dktX11_spreads_4 : List UInt8 := dkwX11_spreads_4 ++ dktX11_spreads_5
def dkwX11_spreads_3 : List UInt8 := [180, 0, 155, 154, 0, 11, 42, 27, 182, 0, 231, 167, 0, 8, 42, 27, 182, 1, 14, 42, 27, 32]
abbrev dktX11_spreads_3 : List UInt8 := dkwX11_spreads_3 ++ dktX11_spreads_4
def dkwX11_spreads_2 : List UInt8 := [182, 1, 8, 167, 0, 46, 42, 180, 0, 155, 6, 160, 0, 12, 42, 27, 32, 182, 1, 11, 167, 0, 29, 42]
abbrev dktX11_spreads_2 : List UInt8 := dkwX11_spreads_2 ++ dktX11_spreads_3
def dkwX11_spreads_1 : List UInt8 := [42, 180, 0, 155, 5, 160, 0, 23, 42, 27, 32, 182, 1, 2, 42, 27, 32, 182, 1, 5, 42, 27]
abbrev dktX11_spreads_1 : List UInt8 := dkwX11_spreads_1 ++ dktX11_spreads_2
def dkwX11_spreads_0 : List UInt8 := [3, 54, 4, 21, 4, 16, 40, 162, 0, 17, 42, 180, 0, 115, 21, 4, 9, 80, 132, 4, 1, 167, 255, 238]
abbrev dktX11_spreads_0 : List UInt8 := dkwX11_spreads_0 ++ dktX11_spreads_1
theorem dksX11_spreads_0 : cX11_spreads.data.toList.drop 0 = dktX11_spreads_0 := by decide +kernel
theorem dksX11_spreads_1 : cX11_spreads.data.toList.drop 24 = dktX11_spreads_1 := dk_seg dksX11_spreads_0 24 rfl rfl
theorem dksX11_spreads_2 : cX11_spreads.data.toList.drop 46 = dktX11_spreads_2 := dk_seg dksX11_spreads_1 22 rfl rfl
theorem dksX11_spreads_3 : cX11_spreads.data.toList.drop 70 = dktX11_spreads_3 := dk_seg dksX11_spreads_2 24 rfl rfl
theorem dksX11_spreads_4 : cX11_spreads.data.toList.drop 92 = dktX11_spreads_4 := dk_seg dksX11_spreads_3 22 rfl rfl
theorem dksX11_spreads_5 : cX11_spreads.data.toList.drop 114 = dktX11_spreads_5 := dk_seg dksX11_spreads_4 22 rfl rfl
theorem dX11_spreads_0 : decode cX11_spreads 0 = .ok (.iconst 0, 1) := dk_3 (dk_at dksX11_spreads_0 0 rfl rfl)
theorem dX11_spreads_1 : decode cX11_spreads 1 = .ok (.istore 4, 2) := dk_54 4 (dk_at dksX11_spreads_0 1 rfl rfl)
theorem dX11_spreads_3 : decode cX11_spreads 3 = .ok (.iload 4, 2) := dk_21 4 (dk_at dksX11_spreads_0 3 rfl rfl)
theorem dX11_spreads_5 : decode cX11_spreads 5 = .ok (.bipush 40, 2) := dk_16 40 (dk_at dksX11_spreads_0 5 rfl rfl)
theorem dX11_spreads_7 : decode cX11_spreads 7 = .ok (.if_icmp .ge 17, 3) := dk_162 0 17 (dk_at dksX11_spreads_0 7 rfl rfl)
theorem dX11_spreads_10 : decode cX11_spreads 10 = .ok (.aload_n 0, 1) := dk_42 (dk_at dksX11_spreads_0 10 rfl rfl)
theorem dX11_spreads_11 : decode cX11_spreads 11 = .ok (.getfield 115, 3) := dk_180 0 115 (dk_at dksX11_spreads_0 11 rfl rfl)
theorem dX11_spreads_14 : decode cX11_spreads 14 = .ok (.iload 4, 2) := dk_21 4 (dk_at dksX11_spreads_0 14 rfl rfl)
theorem dX11_spreads_16 : decode cX11_spreads 16 = .ok (.lconst 0, 1) := dk_9 (dk_at dksX11_spreads_0 16 rfl rfl)
theorem dX11_spreads_17 : decode cX11_spreads 17 = .ok (.lastore, 1) := dk_80 (dk_at dksX11_spreads_0 17 rfl rfl)
theorem dX11_spreads_18 : decode cX11_spreads 18 = .ok (.iinc 4 1, 3) := dk_132 4 1 (dk_at dksX11_spreads_0 18 rfl rfl)
theorem dX11_spreads_21 : decode cX11_spreads 21 = .ok (.goto (-18), 3) := dk_167 255 238 (dk_at dksX11_spreads_0 21 rfl rfl)
theorem dX11_spreads_24 : decode cX11_spreads 24 = .ok (.aload_n 0, 1) := dk_42 (dk_at dksX11_spreads_1 0 rfl rfl)
theorem dX11_spreads_25 : decode cX11_spreads 25 = .ok (.getfield 155, 3) := dk_180 0 155 (dk_at dksX11_spreads_1 1 rfl rfl)
theorem dX11_spreads_28 : decode cX11_spreads 28 = .ok (.iconst 2, 1) := dk_5 (dk_at dksX11_spreads_1 4 rfl rfl)
theorem dX11_spreads_29 : decode cX11_spreads 29 = .ok (.if_icmp .ne 23, 3) := dk_160 0 23 (dk_at dksX11_spreads_1 5 rfl rfl)
theorem dX11_spreads_32 : decode cX11_spreads 32 = .ok (.aload_n 0, 1) := dk_42 (dk_at dksX11_spreads_1 8 rfl rfl)
theorem dX11_spreads_33 : decode cX11_spreads 33 = .ok (.iload_n 1, 1) := dk_27 (dk_at dksX11_spreads_1 9 rfl rfl)
theorem dX11_spreads_34 : decode cX11_spreads 34 = .ok (.lload_n 2, 1) := dk_32 (dk_at dksX11_spreads_1 10 rfl rfl)
theorem dX11_spreads_35 : decode cX11_spreads 35 = .ok (.invokevirtual 258, 3) := dk_182 1 2 (dk_at dksX11_spreads_1 11 rfl rfl)
theorem dX11_spreads_38 : decode cX11_spreads 38 = .ok (.aload_n 0, 1) := dk_42 (dk_at dksX11_spreads_1 14 rfl rfl)
theorem dX11_spreads_39 : decode cX11_spreads 39 = .ok (.iload_n 1, 1) := dk_27 (dk_at dksX11_spreads_1 15 rfl rfl)
theorem dX11_spreads_40 : decode cX11_spreads 40 = .ok (.lload_n 2, 1) := dk_32 (dk_at dksX11_spreads_1 16 rfl rfl)
theorem dX11_spreads_41 : decode cX11_spreads 41 = .ok (.invokevirtual 261, 3) := dk_182 1 5 (dk_at dksX11_spreads_1 17 rfl rfl)
theorem dX11_spreads_44 : decode cX11_spreads 44 = .ok (.aload_n 0, 1) := dk_42 (dk_at dksX11_spreads_1 20 rfl rfl)
theorem dX11_spreads_45 : decode cX11_spreads 45 = .ok (.iload_n 1, 1) := dk_27 (dk_at dksX11_spreads_1 21 rfl rfl)
theorem dX11_spreads_46 : decode cX11_spreads 46 = .ok (.invokevirtual 264, 3) := dk_182 1 8 (dk_at dksX11_spreads_2 0 rfl rfl)
theorem dX11_spreads_49 : decode cX11_spreads 49 = .ok (.goto 46, 3) := dk_167 0 46 (dk_at dksX11_spreads_2 3 rfl rfl)
theorem dX11_spreads_52 : decode cX11_spreads 52 = .ok (.aload_n 0, 1) := dk_42 (dk_at dksX11_spreads_2 6 rfl rfl)
theorem dX11_spreads_53 : decode cX11_spreads 53 = .ok (.getfield 155, 3) := dk_180 0 155 (dk_at dksX11_spreads_2 7 rfl rfl)
theorem dX11_spreads_56 : decode cX11_spreads 56 = .ok (.iconst 3, 1) := dk_6 (dk_at dksX11_spreads_2 10 rfl rfl)
theorem dX11_spreads_57 : decode cX11_spreads 57 = .ok (.if_icmp .ne 12, 3) := dk_160 0 12 (dk_at dksX11_spreads_2 11 rfl rfl)
theorem dX11_spreads_60 : decode cX11_spreads 60 = .ok (.aload_n 0, 1) := dk_42 (dk_at dksX11_spreads_2 14 rfl rfl)
theorem dX11_spreads_61 : decode cX11_spreads 61 = .ok (.iload_n 1, 1) := dk_27 (dk_at dksX11_spreads_2 15 rfl rfl)
theorem dX11_spreads_62 : decode cX11_spreads 62 = .ok (.lload_n 2, 1) := dk_32 (dk_at dksX11_spreads_2 16 rfl rfl)
theorem dX11_spreads_63 : decode cX11_spreads 63 = .ok (.invokevirtual 267, 3) := dk_182 1 11 (dk_at dksX11_spreads_2 17 rfl rfl)
theorem dX11_spreads_66 : decode cX11_spreads 66 = .ok (.goto 29, 3) := dk_167 0 29 (dk_at dksX11_spreads_2 20 rfl rfl)
theorem dX11_spreads_69 : decode cX11_spreads 69 = .ok (.aload_n 0, 1) := dk_42 (dk_at dksX11_spreads_2 23 rfl rfl)
theorem dX11_spreads_70 : decode cX11_spreads 70 = .ok (.getfield 155, 3) := dk_180 0 155 (dk_at dksX11_spreads_3 0 rfl rfl)
theorem dX11_spreads_73 : decode cX11_spreads 73 = .ok (.ifCond .ne 11, 3) := dk_154 0 11 (dk_at dksX11_spreads_3 3 rfl rfl)
theorem dX11_spreads_76 : decode cX11_spreads 76 = .ok (.aload_n 0, 1) := dk_42 (dk_at dksX11_spreads_3 6 rfl rfl)
theorem dX11_spreads_77 : decode cX11_spreads 77 = .ok (.iload_n 1, 1) := dk_27 (dk_at dksX11_spreads_3 7 rfl rfl)
theorem dX11_spreads_78 : decode cX11_spreads 78 = .ok (.invokevirtual 231, 3) := dk_182 0 231 (dk_at dksX11_spreads_3 8 rfl rfl)
theorem dX11_spreads_81 : decode cX11_spreads 81 = .ok (.goto 8, 3) := dk_167 0 8 (dk_at dksX11_spreads_3 11 rfl rfl)
theorem dX11_spreads_84 : decode cX11_spreads 84 = .ok (.aload_n 0, 1) := dk_42 (dk_at dksX11_spreads_3 14 rfl rfl)
theorem dX11_spreads_85 : decode cX11_spreads 85 = .ok (.iload_n 1, 1) := dk_27 (dk_at dksX11_spreads_3 15 rfl rfl)
theorem dX11_spreads_86 : decode cX11_spreads 86 = .ok (.invokevirtual 270, 3) := dk_182 1 14 (dk_at dksX11_spreads_3 16 rfl rfl)
theorem dX11_spreads_89 : decode cX11_spreads 89 = .ok (.aload_n 0, 1) := dk_42 (dk_at dksX11_spreads_3 19 rfl rfl)
theorem dX11_spreads_90 : decode cX11_spreads 90 = .ok (.iload_n 1, 1) := dk_27 (dk_at dksX11_spreads_3 20 rfl rfl)
theorem dX11_spreads_91 : decode cX11_spreads 91 = .ok (.lload_n 2, 1) := dk_32 (dk_at dksX11_spreads_3 21 rfl rfl)
theorem dX11_spreads_92 : decode cX11_spreads 92 = .ok (.invokevirtual 234, 3) := dk_182 0 234 (dk_at dksX11_spreads_4 0 rfl rfl)
theorem dX11_spreads_95 : decode cX11_spreads 95 = .ok (.iconst 0, 1) := dk_3 (dk_at dksX11_spreads_4 3 rfl rfl)
theorem dX11_spreads_96 : decode cX11_spreads 96 = .ok (.istore 4, 2) := dk_54 4 (dk_at dksX11_spreads_4 4 rfl rfl)
theorem dX11_spreads_98 : decode cX11_spreads 98 = .ok (.iload 4, 2) := dk_21 4 (dk_at dksX11_spreads_4 6 rfl rfl)
theorem dX11_spreads_100 : decode cX11_spreads 100 = .ok (.bipush 40, 2) := dk_16 40 (dk_at dksX11_spreads_4 8 rfl rfl)
theorem dX11_spreads_102 : decode cX11_spreads 102 = .ok (.if_icmp .ge 28, 3) := dk_162 0 28 (dk_at dksX11_spreads_4 10 rfl rfl)
theorem dX11_spreads_105 : decode cX11_spreads 105 = .ok (.aload_n 0, 1) := dk_42 (dk_at dksX11_spreads_4 13 rfl rfl)
theorem dX11_spreads_106 : decode cX11_spreads 106 = .ok (.getfield 115, 3) := dk_180 0 115 (dk_at dksX11_spreads_4 14 rfl rfl)
theorem dX11_spreads_109 : decode cX11_spreads 109 = .ok (.iload 4, 2) := dk_21 4 (dk_at dksX11_spreads_4 17 rfl rfl)
theorem dX11_spreads_111 : decode cX11_spreads 111 = .ok (.laload, 1) := dk_47 (dk_at dksX11_spreads_4 19 rfl rfl)
theorem dX11_spreads_112 : decode cX11_spreads 112 = .ok (.lconst 0, 1) := dk_9 (dk_at dksX11_spreads_4 20 rfl rfl)
theorem dX11_spreads_113 : decode cX11_spreads 113 = .ok (.lcmp, 1) := dk_148 (dk_at dksX11_spreads_4 21 rfl rfl)
theorem dX11_spreads_114 : decode cX11_spreads 114 = .ok (.ifCond .le 10, 3) := dk_158 0 10 (dk_at dksX11_spreads_5 0 rfl rfl)
theorem dX11_spreads_117 : decode cX11_spreads 117 = .ok (.aload_n 0, 1) := dk_42 (dk_at dksX11_spreads_5 3 rfl rfl)
theorem dX11_spreads_118 : decode cX11_spreads 118 = .ok (.iload_n 1, 1) := dk_27 (dk_at dksX11_spreads_5 4 rfl rfl)
theorem dX11_spreads_119 : decode cX11_spreads 119 = .ok (.iload 4, 2) := dk_21 4 (dk_at dksX11_spreads_5 5 rfl rfl)
theorem dX11_spreads_121 : decode cX11_spreads 121 = .ok (.invokevirtual 273, 3) := dk_182 1 17 (dk_at dksX11_spreads_5 7 rfl rfl)
theorem dX11_spreads_124 : decode cX11_spreads 124 = .ok (.iinc 4 1, 3) := dk_132 4 1 (dk_at dksX11_spreads_5 10 rfl rfl)
theorem dX11_spreads_127 : decode cX11_spreads 127 = .ok (.goto (-29), 3) := dk_167 255 227 (dk_at dksX11_spreads_5 13 rfl rfl)
theorem dX11_spreads_130 : decode cX11_spreads 130 = .ok (.return_, 1) := dk_177 (dk_at dksX11_spreads_5 16 rfl rfl)
abbrev cX11_laysFair : ByteArray := prog_16_method_37_code
def yX11_laysFair : MethodName := ⟨RX11, "laysFair", "(IJ)V"⟩
def dkwX11_laysFair_2 : List UInt8 := [27, 182, 0, 238, 177]
abbrev dktX11_laysFair_2 : List UInt8 := dkwX11_laysFair_2 ++ []
def dkwX11_laysFair_1 : List UInt8 := [162, 0, 23, 42, 180, 0, 118, 21, 4, 42, 180, 0, 115, 21, 4, 47, 80, 132, 4, 1, 167, 255, 232, 42]
abbrev dktX11_laysFair_1 : List UInt8 := dkwX11_laysFair_1 ++ dktX11_laysFair_2
def dkwX11_laysFair_0 : List UInt8 := [42, 27, 182, 0, 228, 42, 27, 182, 0, 231, 42, 27, 32, 182, 0, 234, 3, 54, 4, 21, 4, 16, 40]
abbrev dktX11_laysFair_0 : List UInt8 := dkwX11_laysFair_0 ++ dktX11_laysFair_1
theorem dksX11_laysFair_0 : cX11_laysFair.data.toList.drop 0 = dktX11_laysFair_0 := by decide +kernel
theorem dksX11_laysFair_1 : cX11_laysFair.data.toList.drop 23 = dktX11_laysFair_1 := dk_seg dksX11_laysFair_0 23 rfl rfl
theorem dksX11_laysFair_2 : cX11_laysFair.data.toList.drop 47 = dktX11_laysFair_2 := dk_seg dksX11_laysFair_1 24 rfl rfl
theorem dX11_laysFair_0 : decode cX11_laysFair 0 = .ok (.aload_n 0, 1) := dk_42 (dk_at dksX11_laysFair_0 0 rfl rfl)
theorem dX11_laysFair_1 : decode cX11_laysFair 1 = .ok (.iload_n 1, 1) := dk_27 (dk_at dksX11_laysFair_0 1 rfl rfl)
theorem dX11_laysFair_2 : decode cX11_laysFair 2 = .ok (.invokevirtual 228, 3) := dk_182 0 228 (dk_at dksX11_laysFair_0 2 rfl rfl)
theorem dX11_laysFair_5 : decode cX11_laysFair 5 = .ok (.aload_n 0, 1) := dk_42 (dk_at dksX11_laysFair_0 5 rfl rfl)
theorem dX11_laysFair_6 : decode cX11_laysFair 6 = .ok (.iload_n 1, 1) := dk_27 (dk_at dksX11_laysFair_0 6 rfl rfl)
theorem dX11_laysFair_7 : decode cX11_laysFair 7 = .ok (.invokevirtual 231, 3) := dk_182 0 231 (dk_at dksX11_laysFair_0 7 rfl rfl)
theorem dX11_laysFair_10 : decode cX11_laysFair 10 = .ok (.aload_n 0, 1) := dk_42 (dk_at dksX11_laysFair_0 10 rfl rfl)
theorem dX11_laysFair_11 : decode cX11_laysFair 11 = .ok (.iload_n 1, 1) := dk_27 (dk_at dksX11_laysFair_0 11 rfl rfl)
theorem dX11_laysFair_12 : decode cX11_laysFair 12 = .ok (.lload_n 2, 1) := dk_32 (dk_at dksX11_laysFair_0 12 rfl rfl)
theorem dX11_laysFair_13 : decode cX11_laysFair 13 = .ok (.invokevirtual 234, 3) := dk_182 0 234 (dk_at dksX11_laysFair_0 13 rfl rfl)
theorem dX11_laysFair_16 : decode cX11_laysFair 16 = .ok (.iconst 0, 1) := dk_3 (dk_at dksX11_laysFair_0 16 rfl rfl)
theorem dX11_laysFair_17 : decode cX11_laysFair 17 = .ok (.istore 4, 2) := dk_54 4 (dk_at dksX11_laysFair_0 17 rfl rfl)
theorem dX11_laysFair_19 : decode cX11_laysFair 19 = .ok (.iload 4, 2) := dk_21 4 (dk_at dksX11_laysFair_0 19 rfl rfl)
theorem dX11_laysFair_21 : decode cX11_laysFair 21 = .ok (.bipush 40, 2) := dk_16 40 (dk_at dksX11_laysFair_0 21 rfl rfl)
theorem dX11_laysFair_23 : decode cX11_laysFair 23 = .ok (.if_icmp .ge 23, 3) := dk_162 0 23 (dk_at dksX11_laysFair_1 0 rfl rfl)
theorem dX11_laysFair_26 : decode cX11_laysFair 26 = .ok (.aload_n 0, 1) := dk_42 (dk_at dksX11_laysFair_1 3 rfl rfl)
theorem dX11_laysFair_27 : decode cX11_laysFair 27 = .ok (.getfield 118, 3) := dk_180 0 118 (dk_at dksX11_laysFair_1 4 rfl rfl)
theorem dX11_laysFair_30 : decode cX11_laysFair 30 = .ok (.iload 4, 2) := dk_21 4 (dk_at dksX11_laysFair_1 7 rfl rfl)
theorem dX11_laysFair_32 : decode cX11_laysFair 32 = .ok (.aload_n 0, 1) := dk_42 (dk_at dksX11_laysFair_1 9 rfl rfl)
theorem dX11_laysFair_33 : decode cX11_laysFair 33 = .ok (.getfield 115, 3) := dk_180 0 115 (dk_at dksX11_laysFair_1 10 rfl rfl)
theorem dX11_laysFair_36 : decode cX11_laysFair 36 = .ok (.iload 4, 2) := dk_21 4 (dk_at dksX11_laysFair_1 13 rfl rfl)
theorem dX11_laysFair_38 : decode cX11_laysFair 38 = .ok (.laload, 1) := dk_47 (dk_at dksX11_laysFair_1 15 rfl rfl)
theorem dX11_laysFair_39 : decode cX11_laysFair 39 = .ok (.lastore, 1) := dk_80 (dk_at dksX11_laysFair_1 16 rfl rfl)
theorem dX11_laysFair_40 : decode cX11_laysFair 40 = .ok (.iinc 4 1, 3) := dk_132 4 1 (dk_at dksX11_laysFair_1 17 rfl rfl)
theorem dX11_laysFair_43 : decode cX11_laysFair 43 = .ok (.goto (-24), 3) := dk_167 255 232 (dk_at dksX11_laysFair_1 20 rfl rfl)
theorem dX11_laysFair_46 : decode cX11_laysFair 46 = .ok (.aload_n 0, 1) := dk_42 (dk_at dksX11_laysFair_1 23 rfl rfl)
theorem dX11_laysFair_47 : decode cX11_laysFair 47 = .ok (.iload_n 1, 1) := dk_27 (dk_at dksX11_laysFair_2 0 rfl rfl)
theorem dX11_laysFair_48 : decode cX11_laysFair 48 = .ok (.invokevirtual 238, 3) := dk_182 0 238 (dk_at dksX11_laysFair_2 1 rfl rfl)
theorem dX11_laysFair_51 : decode cX11_laysFair 51 = .ok (.return_, 1) := dk_177 (dk_at dksX11_laysFair_2 4 rfl rfl)
abbrev cX11_laysAside : ByteArray := prog_16_method_35_code
def yX11_laysAside : MethodName := ⟨RX11, "laysAside", "(I)V"⟩
def dkwX11_laysAside_3 : List UInt8 := [28, 42, 180, 0, 91, 16, 7, 27, 104, 28, 96, 47, 80, 132, 2, 1, 167, 255, 230, 177]
abbrev dktX11_laysAside_3 : List UInt8 := dkwX11_laysAside_3 ++ []
def dkwX11_laysAside_2 : List UInt8 := [27, 104, 28, 96, 47, 80, 132, 2, 1, 167, 255, 201, 3, 61, 28, 16, 7, 162, 0, 26, 42, 180, 0, 136]
abbrev dktX11_laysAside_2 : List UInt8 := dkwX11_laysAside_2 ++ dktX11_laysAside_3
def dkwX11_laysAside_1 : List UInt8 := [28, 42, 180, 0, 76, 16, 40, 27, 104, 28, 96, 47, 80, 42, 180, 0, 133, 28, 42, 180, 0, 79, 16, 40]
abbrev dktX11_laysAside_1 : List UInt8 := dkwX11_laysAside_1 ++ dktX11_laysAside_2
def dkwX11_laysAside_0 : List UInt8 := [3, 61, 28, 16, 40, 162, 0, 55, 42, 180, 0, 127, 28, 42, 180, 0, 57, 28, 47, 80, 42, 180, 0, 130]
abbrev dktX11_laysAside_0 : List UInt8 := dkwX11_laysAside_0 ++ dktX11_laysAside_1
theorem dksX11_laysAside_0 : cX11_laysAside.data.toList.drop 0 = dktX11_laysAside_0 := by decide +kernel
theorem dksX11_laysAside_1 : cX11_laysAside.data.toList.drop 24 = dktX11_laysAside_1 := dk_seg dksX11_laysAside_0 24 rfl rfl
theorem dksX11_laysAside_2 : cX11_laysAside.data.toList.drop 48 = dktX11_laysAside_2 := dk_seg dksX11_laysAside_1 24 rfl rfl
theorem dksX11_laysAside_3 : cX11_laysAside.data.toList.drop 72 = dktX11_laysAside_3 := dk_seg dksX11_laysAside_2 24 rfl rfl
theorem dX11_laysAside_0 : decode cX11_laysAside 0 = .ok (.iconst 0, 1) := dk_3 (dk_at dksX11_laysAside_0 0 rfl rfl)
theorem dX11_laysAside_1 : decode cX11_laysAside 1 = .ok (.istore_n 2, 1) := dk_61 (dk_at dksX11_laysAside_0 1 rfl rfl)
theorem dX11_laysAside_2 : decode cX11_laysAside 2 = .ok (.iload_n 2, 1) := dk_28 (dk_at dksX11_laysAside_0 2 rfl rfl)
theorem dX11_laysAside_3 : decode cX11_laysAside 3 = .ok (.bipush 40, 2) := dk_16 40 (dk_at dksX11_laysAside_0 3 rfl rfl)
theorem dX11_laysAside_5 : decode cX11_laysAside 5 = .ok (.if_icmp .ge 55, 3) := dk_162 0 55 (dk_at dksX11_laysAside_0 5 rfl rfl)
theorem dX11_laysAside_8 : decode cX11_laysAside 8 = .ok (.aload_n 0, 1) := dk_42 (dk_at dksX11_laysAside_0 8 rfl rfl)
theorem dX11_laysAside_9 : decode cX11_laysAside 9 = .ok (.getfield 127, 3) := dk_180 0 127 (dk_at dksX11_laysAside_0 9 rfl rfl)
theorem dX11_laysAside_12 : decode cX11_laysAside 12 = .ok (.iload_n 2, 1) := dk_28 (dk_at dksX11_laysAside_0 12 rfl rfl)
theorem dX11_laysAside_13 : decode cX11_laysAside 13 = .ok (.aload_n 0, 1) := dk_42 (dk_at dksX11_laysAside_0 13 rfl rfl)
theorem dX11_laysAside_14 : decode cX11_laysAside 14 = .ok (.getfield 57, 3) := dk_180 0 57 (dk_at dksX11_laysAside_0 14 rfl rfl)
theorem dX11_laysAside_17 : decode cX11_laysAside 17 = .ok (.iload_n 2, 1) := dk_28 (dk_at dksX11_laysAside_0 17 rfl rfl)
theorem dX11_laysAside_18 : decode cX11_laysAside 18 = .ok (.laload, 1) := dk_47 (dk_at dksX11_laysAside_0 18 rfl rfl)
theorem dX11_laysAside_19 : decode cX11_laysAside 19 = .ok (.lastore, 1) := dk_80 (dk_at dksX11_laysAside_0 19 rfl rfl)
theorem dX11_laysAside_20 : decode cX11_laysAside 20 = .ok (.aload_n 0, 1) := dk_42 (dk_at dksX11_laysAside_0 20 rfl rfl)
theorem dX11_laysAside_21 : decode cX11_laysAside 21 = .ok (.getfield 130, 3) := dk_180 0 130 (dk_at dksX11_laysAside_0 21 rfl rfl)
theorem dX11_laysAside_24 : decode cX11_laysAside 24 = .ok (.iload_n 2, 1) := dk_28 (dk_at dksX11_laysAside_1 0 rfl rfl)
theorem dX11_laysAside_25 : decode cX11_laysAside 25 = .ok (.aload_n 0, 1) := dk_42 (dk_at dksX11_laysAside_1 1 rfl rfl)
theorem dX11_laysAside_26 : decode cX11_laysAside 26 = .ok (.getfield 76, 3) := dk_180 0 76 (dk_at dksX11_laysAside_1 2 rfl rfl)
theorem dX11_laysAside_29 : decode cX11_laysAside 29 = .ok (.bipush 40, 2) := dk_16 40 (dk_at dksX11_laysAside_1 5 rfl rfl)
theorem dX11_laysAside_31 : decode cX11_laysAside 31 = .ok (.iload_n 1, 1) := dk_27 (dk_at dksX11_laysAside_1 7 rfl rfl)
theorem dX11_laysAside_32 : decode cX11_laysAside 32 = .ok (.imul, 1) := dk_104 (dk_at dksX11_laysAside_1 8 rfl rfl)
theorem dX11_laysAside_33 : decode cX11_laysAside 33 = .ok (.iload_n 2, 1) := dk_28 (dk_at dksX11_laysAside_1 9 rfl rfl)
theorem dX11_laysAside_34 : decode cX11_laysAside 34 = .ok (.iadd, 1) := dk_96 (dk_at dksX11_laysAside_1 10 rfl rfl)
theorem dX11_laysAside_35 : decode cX11_laysAside 35 = .ok (.laload, 1) := dk_47 (dk_at dksX11_laysAside_1 11 rfl rfl)
theorem dX11_laysAside_36 : decode cX11_laysAside 36 = .ok (.lastore, 1) := dk_80 (dk_at dksX11_laysAside_1 12 rfl rfl)
theorem dX11_laysAside_37 : decode cX11_laysAside 37 = .ok (.aload_n 0, 1) := dk_42 (dk_at dksX11_laysAside_1 13 rfl rfl)
theorem dX11_laysAside_38 : decode cX11_laysAside 38 = .ok (.getfield 133, 3) := dk_180 0 133 (dk_at dksX11_laysAside_1 14 rfl rfl)
theorem dX11_laysAside_41 : decode cX11_laysAside 41 = .ok (.iload_n 2, 1) := dk_28 (dk_at dksX11_laysAside_1 17 rfl rfl)
theorem dX11_laysAside_42 : decode cX11_laysAside 42 = .ok (.aload_n 0, 1) := dk_42 (dk_at dksX11_laysAside_1 18 rfl rfl)
theorem dX11_laysAside_43 : decode cX11_laysAside 43 = .ok (.getfield 79, 3) := dk_180 0 79 (dk_at dksX11_laysAside_1 19 rfl rfl)
theorem dX11_laysAside_46 : decode cX11_laysAside 46 = .ok (.bipush 40, 2) := dk_16 40 (dk_at dksX11_laysAside_1 22 rfl rfl)
theorem dX11_laysAside_48 : decode cX11_laysAside 48 = .ok (.iload_n 1, 1) := dk_27 (dk_at dksX11_laysAside_2 0 rfl rfl)
theorem dX11_laysAside_49 : decode cX11_laysAside 49 = .ok (.imul, 1) := dk_104 (dk_at dksX11_laysAside_2 1 rfl rfl)
theorem dX11_laysAside_50 : decode cX11_laysAside 50 = .ok (.iload_n 2, 1) := dk_28 (dk_at dksX11_laysAside_2 2 rfl rfl)
theorem dX11_laysAside_51 : decode cX11_laysAside 51 = .ok (.iadd, 1) := dk_96 (dk_at dksX11_laysAside_2 3 rfl rfl)
theorem dX11_laysAside_52 : decode cX11_laysAside 52 = .ok (.laload, 1) := dk_47 (dk_at dksX11_laysAside_2 4 rfl rfl)
theorem dX11_laysAside_53 : decode cX11_laysAside 53 = .ok (.lastore, 1) := dk_80 (dk_at dksX11_laysAside_2 5 rfl rfl)
theorem dX11_laysAside_54 : decode cX11_laysAside 54 = .ok (.iinc 2 1, 3) := dk_132 2 1 (dk_at dksX11_laysAside_2 6 rfl rfl)
theorem dX11_laysAside_57 : decode cX11_laysAside 57 = .ok (.goto (-55), 3) := dk_167 255 201 (dk_at dksX11_laysAside_2 9 rfl rfl)
theorem dX11_laysAside_60 : decode cX11_laysAside 60 = .ok (.iconst 0, 1) := dk_3 (dk_at dksX11_laysAside_2 12 rfl rfl)
theorem dX11_laysAside_61 : decode cX11_laysAside 61 = .ok (.istore_n 2, 1) := dk_61 (dk_at dksX11_laysAside_2 13 rfl rfl)
theorem dX11_laysAside_62 : decode cX11_laysAside 62 = .ok (.iload_n 2, 1) := dk_28 (dk_at dksX11_laysAside_2 14 rfl rfl)
theorem dX11_laysAside_63 : decode cX11_laysAside 63 = .ok (.bipush 7, 2) := dk_16 7 (dk_at dksX11_laysAside_2 15 rfl rfl)
theorem dX11_laysAside_65 : decode cX11_laysAside 65 = .ok (.if_icmp .ge 26, 3) := dk_162 0 26 (dk_at dksX11_laysAside_2 17 rfl rfl)
theorem dX11_laysAside_68 : decode cX11_laysAside 68 = .ok (.aload_n 0, 1) := dk_42 (dk_at dksX11_laysAside_2 20 rfl rfl)
theorem dX11_laysAside_69 : decode cX11_laysAside 69 = .ok (.getfield 136, 3) := dk_180 0 136 (dk_at dksX11_laysAside_2 21 rfl rfl)
theorem dX11_laysAside_72 : decode cX11_laysAside 72 = .ok (.iload_n 2, 1) := dk_28 (dk_at dksX11_laysAside_3 0 rfl rfl)
theorem dX11_laysAside_73 : decode cX11_laysAside 73 = .ok (.aload_n 0, 1) := dk_42 (dk_at dksX11_laysAside_3 1 rfl rfl)
theorem dX11_laysAside_74 : decode cX11_laysAside 74 = .ok (.getfield 91, 3) := dk_180 0 91 (dk_at dksX11_laysAside_3 2 rfl rfl)
theorem dX11_laysAside_77 : decode cX11_laysAside 77 = .ok (.bipush 7, 2) := dk_16 7 (dk_at dksX11_laysAside_3 5 rfl rfl)
theorem dX11_laysAside_79 : decode cX11_laysAside 79 = .ok (.iload_n 1, 1) := dk_27 (dk_at dksX11_laysAside_3 7 rfl rfl)
theorem dX11_laysAside_80 : decode cX11_laysAside 80 = .ok (.imul, 1) := dk_104 (dk_at dksX11_laysAside_3 8 rfl rfl)
theorem dX11_laysAside_81 : decode cX11_laysAside 81 = .ok (.iload_n 2, 1) := dk_28 (dk_at dksX11_laysAside_3 9 rfl rfl)
theorem dX11_laysAside_82 : decode cX11_laysAside 82 = .ok (.iadd, 1) := dk_96 (dk_at dksX11_laysAside_3 10 rfl rfl)
theorem dX11_laysAside_83 : decode cX11_laysAside 83 = .ok (.laload, 1) := dk_47 (dk_at dksX11_laysAside_3 11 rfl rfl)
theorem dX11_laysAside_84 : decode cX11_laysAside 84 = .ok (.lastore, 1) := dk_80 (dk_at dksX11_laysAside_3 12 rfl rfl)
theorem dX11_laysAside_85 : decode cX11_laysAside 85 = .ok (.iinc 2 1, 3) := dk_132 2 1 (dk_at dksX11_laysAside_3 13 rfl rfl)
theorem dX11_laysAside_88 : decode cX11_laysAside 88 = .ok (.goto (-26), 3) := dk_167 255 230 (dk_at dksX11_laysAside_3 16 rfl rfl)
theorem dX11_laysAside_91 : decode cX11_laysAside 91 = .ok (.return_, 1) := dk_177 (dk_at dksX11_laysAside_3 19 rfl rfl)
abbrev cX11_laysLike : ByteArray := prog_16_method_29_code
def yX11_laysLike : MethodName := ⟨RX11, "laysLike", "(I)V"⟩
def dkwX11_laysLike_1 : List UInt8 := [182, 0, 201, 154, 0, 7, 10, 167, 0, 4, 9, 80, 132, 2, 1, 167, 255, 219, 177]
abbrev dktX11_laysLike_1 : List UInt8 := dkwX11_laysLike_1 ++ []
def dkwX11_laysLike_0 : List UInt8 := [3, 61, 28, 16, 12, 162, 0, 37, 42, 180, 0, 109, 28, 42, 27, 28, 182, 0, 197, 153, 0, 15, 42, 28]
abbrev dktX11_laysLike_0 : List UInt8 := dkwX11_laysLike_0 ++ dktX11_laysLike_1
theorem dksX11_laysLike_0 : cX11_laysLike.data.toList.drop 0 = dktX11_laysLike_0 := by decide +kernel
theorem dksX11_laysLike_1 : cX11_laysLike.data.toList.drop 24 = dktX11_laysLike_1 := dk_seg dksX11_laysLike_0 24 rfl rfl
theorem dX11_laysLike_0 : decode cX11_laysLike 0 = .ok (.iconst 0, 1) := dk_3 (dk_at dksX11_laysLike_0 0 rfl rfl)
theorem dX11_laysLike_1 : decode cX11_laysLike 1 = .ok (.istore_n 2, 1) := dk_61 (dk_at dksX11_laysLike_0 1 rfl rfl)
theorem dX11_laysLike_2 : decode cX11_laysLike 2 = .ok (.iload_n 2, 1) := dk_28 (dk_at dksX11_laysLike_0 2 rfl rfl)
theorem dX11_laysLike_3 : decode cX11_laysLike 3 = .ok (.bipush 12, 2) := dk_16 12 (dk_at dksX11_laysLike_0 3 rfl rfl)
theorem dX11_laysLike_5 : decode cX11_laysLike 5 = .ok (.if_icmp .ge 37, 3) := dk_162 0 37 (dk_at dksX11_laysLike_0 5 rfl rfl)
theorem dX11_laysLike_8 : decode cX11_laysLike 8 = .ok (.aload_n 0, 1) := dk_42 (dk_at dksX11_laysLike_0 8 rfl rfl)
theorem dX11_laysLike_9 : decode cX11_laysLike 9 = .ok (.getfield 109, 3) := dk_180 0 109 (dk_at dksX11_laysLike_0 9 rfl rfl)
theorem dX11_laysLike_12 : decode cX11_laysLike 12 = .ok (.iload_n 2, 1) := dk_28 (dk_at dksX11_laysLike_0 12 rfl rfl)
theorem dX11_laysLike_13 : decode cX11_laysLike 13 = .ok (.aload_n 0, 1) := dk_42 (dk_at dksX11_laysLike_0 13 rfl rfl)
theorem dX11_laysLike_14 : decode cX11_laysLike 14 = .ok (.iload_n 1, 1) := dk_27 (dk_at dksX11_laysLike_0 14 rfl rfl)
theorem dX11_laysLike_15 : decode cX11_laysLike 15 = .ok (.iload_n 2, 1) := dk_28 (dk_at dksX11_laysLike_0 15 rfl rfl)
theorem dX11_laysLike_16 : decode cX11_laysLike 16 = .ok (.invokevirtual 197, 3) := dk_182 0 197 (dk_at dksX11_laysLike_0 16 rfl rfl)
theorem dX11_laysLike_19 : decode cX11_laysLike 19 = .ok (.ifCond .eq 15, 3) := dk_153 0 15 (dk_at dksX11_laysLike_0 19 rfl rfl)
theorem dX11_laysLike_22 : decode cX11_laysLike 22 = .ok (.aload_n 0, 1) := dk_42 (dk_at dksX11_laysLike_0 22 rfl rfl)
theorem dX11_laysLike_23 : decode cX11_laysLike 23 = .ok (.iload_n 2, 1) := dk_28 (dk_at dksX11_laysLike_0 23 rfl rfl)
theorem dX11_laysLike_24 : decode cX11_laysLike 24 = .ok (.invokevirtual 201, 3) := dk_182 0 201 (dk_at dksX11_laysLike_1 0 rfl rfl)
theorem dX11_laysLike_27 : decode cX11_laysLike 27 = .ok (.ifCond .ne 7, 3) := dk_154 0 7 (dk_at dksX11_laysLike_1 3 rfl rfl)
theorem dX11_laysLike_30 : decode cX11_laysLike 30 = .ok (.lconst 1, 1) := dk_10 (dk_at dksX11_laysLike_1 6 rfl rfl)
theorem dX11_laysLike_31 : decode cX11_laysLike 31 = .ok (.goto 4, 3) := dk_167 0 4 (dk_at dksX11_laysLike_1 7 rfl rfl)
theorem dX11_laysLike_34 : decode cX11_laysLike 34 = .ok (.lconst 0, 1) := dk_9 (dk_at dksX11_laysLike_1 10 rfl rfl)
theorem dX11_laysLike_35 : decode cX11_laysLike 35 = .ok (.lastore, 1) := dk_80 (dk_at dksX11_laysLike_1 11 rfl rfl)
theorem dX11_laysLike_36 : decode cX11_laysLike 36 = .ok (.iinc 2 1, 3) := dk_132 2 1 (dk_at dksX11_laysLike_1 12 rfl rfl)
theorem dX11_laysLike_39 : decode cX11_laysLike 39 = .ok (.goto (-37), 3) := dk_167 255 219 (dk_at dksX11_laysLike_1 15 rfl rfl)
theorem dX11_laysLike_42 : decode cX11_laysLike 42 = .ok (.return_, 1) := dk_177 (dk_at dksX11_laysLike_1 18 rfl rfl)
abbrev cX11_isOff : ByteArray := prog_16_method_24_code
def yX11_isOff : MethodName := ⟨RX11, "isOff", "(II)Z"⟩
def dkwX11_isOff_1 : List UInt8 := [182, 0, 190, 28, 122, 4, 126, 4, 160, 0, 7, 4, 167, 0, 4, 3, 172]
abbrev dktX11_isOff_1 : List UInt8 := dkwX11_isOff_1 ++ []
def dkwX11_isOff_0 : List UInt8 := [42, 42, 180, 0, 61, 27, 46, 42, 180, 0, 64, 27, 46, 42, 180, 0, 67, 27, 46, 42, 180, 0, 152]
abbrev dktX11_isOff_0 : List UInt8 := dkwX11_isOff_0 ++ dktX11_isOff_1
theorem dksX11_isOff_0 : cX11_isOff.data.toList.drop 0 = dktX11_isOff_0 := by decide +kernel
theorem dksX11_isOff_1 : cX11_isOff.data.toList.drop 23 = dktX11_isOff_1 := dk_seg dksX11_isOff_0 23 rfl rfl
theorem dX11_isOff_0 : decode cX11_isOff 0 = .ok (.aload_n 0, 1) := dk_42 (dk_at dksX11_isOff_0 0 rfl rfl)
theorem dX11_isOff_1 : decode cX11_isOff 1 = .ok (.aload_n 0, 1) := dk_42 (dk_at dksX11_isOff_0 1 rfl rfl)
theorem dX11_isOff_2 : decode cX11_isOff 2 = .ok (.getfield 61, 3) := dk_180 0 61 (dk_at dksX11_isOff_0 2 rfl rfl)
theorem dX11_isOff_5 : decode cX11_isOff 5 = .ok (.iload_n 1, 1) := dk_27 (dk_at dksX11_isOff_0 5 rfl rfl)
theorem dX11_isOff_6 : decode cX11_isOff 6 = .ok (.iaload, 1) := dk_46 (dk_at dksX11_isOff_0 6 rfl rfl)
theorem dX11_isOff_7 : decode cX11_isOff 7 = .ok (.aload_n 0, 1) := dk_42 (dk_at dksX11_isOff_0 7 rfl rfl)
theorem dX11_isOff_8 : decode cX11_isOff 8 = .ok (.getfield 64, 3) := dk_180 0 64 (dk_at dksX11_isOff_0 8 rfl rfl)
theorem dX11_isOff_11 : decode cX11_isOff 11 = .ok (.iload_n 1, 1) := dk_27 (dk_at dksX11_isOff_0 11 rfl rfl)
theorem dX11_isOff_12 : decode cX11_isOff 12 = .ok (.iaload, 1) := dk_46 (dk_at dksX11_isOff_0 12 rfl rfl)
theorem dX11_isOff_13 : decode cX11_isOff 13 = .ok (.aload_n 0, 1) := dk_42 (dk_at dksX11_isOff_0 13 rfl rfl)
theorem dX11_isOff_14 : decode cX11_isOff 14 = .ok (.getfield 67, 3) := dk_180 0 67 (dk_at dksX11_isOff_0 14 rfl rfl)
theorem dX11_isOff_17 : decode cX11_isOff 17 = .ok (.iload_n 1, 1) := dk_27 (dk_at dksX11_isOff_0 17 rfl rfl)
theorem dX11_isOff_18 : decode cX11_isOff 18 = .ok (.iaload, 1) := dk_46 (dk_at dksX11_isOff_0 18 rfl rfl)
theorem dX11_isOff_19 : decode cX11_isOff 19 = .ok (.aload_n 0, 1) := dk_42 (dk_at dksX11_isOff_0 19 rfl rfl)
theorem dX11_isOff_20 : decode cX11_isOff 20 = .ok (.getfield 152, 3) := dk_180 0 152 (dk_at dksX11_isOff_0 20 rfl rfl)
theorem dX11_isOff_23 : decode cX11_isOff 23 = .ok (.invokevirtual 190, 3) := dk_182 0 190 (dk_at dksX11_isOff_1 0 rfl rfl)
theorem dX11_isOff_26 : decode cX11_isOff 26 = .ok (.iload_n 2, 1) := dk_28 (dk_at dksX11_isOff_1 3 rfl rfl)
theorem dX11_isOff_27 : decode cX11_isOff 27 = .ok (.ishr, 1) := dk_122 (dk_at dksX11_isOff_1 4 rfl rfl)
theorem dX11_isOff_28 : decode cX11_isOff 28 = .ok (.iconst 1, 1) := dk_4 (dk_at dksX11_isOff_1 5 rfl rfl)
theorem dX11_isOff_29 : decode cX11_isOff 29 = .ok (.iand, 1) := dk_126 (dk_at dksX11_isOff_1 6 rfl rfl)
theorem dX11_isOff_30 : decode cX11_isOff 30 = .ok (.iconst 1, 1) := dk_4 (dk_at dksX11_isOff_1 7 rfl rfl)
theorem dX11_isOff_31 : decode cX11_isOff 31 = .ok (.if_icmp .ne 7, 3) := dk_160 0 7 (dk_at dksX11_isOff_1 8 rfl rfl)
theorem dX11_isOff_34 : decode cX11_isOff 34 = .ok (.iconst 1, 1) := dk_4 (dk_at dksX11_isOff_1 11 rfl rfl)
theorem dX11_isOff_35 : decode cX11_isOff 35 = .ok (.goto 4, 3) := dk_167 0 4 (dk_at dksX11_isOff_1 12 rfl rfl)
theorem dX11_isOff_38 : decode cX11_isOff 38 = .ok (.iconst 0, 1) := dk_3 (dk_at dksX11_isOff_1 15 rfl rfl)
theorem dX11_isOff_39 : decode cX11_isOff 39 = .ok (.ireturn, 1) := dk_172 (dk_at dksX11_isOff_1 16 rfl rfl)
abbrev cX11_offsBy : ByteArray := prog_16_method_23_code
def yX11_offsBy : MethodName := ⟨RX11, "offsBy", "(IIII)I"⟩
def dkwX11_offsBy_3 : List UInt8 := [153, 0, 10, 4, 21, 6, 120, 167, 0, 4, 3, 128, 54, 5, 132, 6, 1, 167, 255, 175, 21, 5, 172]
abbrev dktX11_offsBy_3 : List UInt8 := dkwX11_offsBy_3 ++ []
def dkwX11_offsBy_2 : List UInt8 := [21, 6, 28, 164, 0, 9, 21, 6, 29, 160, 0, 7, 4, 167, 0, 4, 3, 54, 7, 21, 5, 21, 7]
abbrev dktX11_offsBy_2 : List UInt8 := dkwX11_offsBy_2 ++ dktX11_offsBy_3
def dkwX11_offsBy_1 : List UInt8 := [21, 6, 29, 159, 0, 32, 21, 4, 154, 0, 9, 21, 6, 28, 164, 0, 21, 21, 4, 6, 160, 0, 19]
abbrev dktX11_offsBy_1 : List UInt8 := dkwX11_offsBy_1 ++ dktX11_offsBy_2
def dkwX11_offsBy_0 : List UInt8 := [3, 54, 5, 27, 54, 6, 21, 6, 29, 163, 0, 81, 21, 4, 5, 159, 0, 44, 21, 4, 4, 160, 0, 9]
abbrev dktX11_offsBy_0 : List UInt8 := dkwX11_offsBy_0 ++ dktX11_offsBy_1
theorem dksX11_offsBy_0 : cX11_offsBy.data.toList.drop 0 = dktX11_offsBy_0 := by decide +kernel
theorem dksX11_offsBy_1 : cX11_offsBy.data.toList.drop 24 = dktX11_offsBy_1 := dk_seg dksX11_offsBy_0 24 rfl rfl
theorem dksX11_offsBy_2 : cX11_offsBy.data.toList.drop 47 = dktX11_offsBy_2 := dk_seg dksX11_offsBy_1 23 rfl rfl
theorem dksX11_offsBy_3 : cX11_offsBy.data.toList.drop 70 = dktX11_offsBy_3 := dk_seg dksX11_offsBy_2 23 rfl rfl
theorem dX11_offsBy_0 : decode cX11_offsBy 0 = .ok (.iconst 0, 1) := dk_3 (dk_at dksX11_offsBy_0 0 rfl rfl)
theorem dX11_offsBy_1 : decode cX11_offsBy 1 = .ok (.istore 5, 2) := dk_54 5 (dk_at dksX11_offsBy_0 1 rfl rfl)
theorem dX11_offsBy_3 : decode cX11_offsBy 3 = .ok (.iload_n 1, 1) := dk_27 (dk_at dksX11_offsBy_0 3 rfl rfl)
theorem dX11_offsBy_4 : decode cX11_offsBy 4 = .ok (.istore 6, 2) := dk_54 6 (dk_at dksX11_offsBy_0 4 rfl rfl)
theorem dX11_offsBy_6 : decode cX11_offsBy 6 = .ok (.iload 6, 2) := dk_21 6 (dk_at dksX11_offsBy_0 6 rfl rfl)
theorem dX11_offsBy_8 : decode cX11_offsBy 8 = .ok (.iload_n 3, 1) := dk_29 (dk_at dksX11_offsBy_0 8 rfl rfl)
theorem dX11_offsBy_9 : decode cX11_offsBy 9 = .ok (.if_icmp .gt 81, 3) := dk_163 0 81 (dk_at dksX11_offsBy_0 9 rfl rfl)
theorem dX11_offsBy_12 : decode cX11_offsBy 12 = .ok (.iload 4, 2) := dk_21 4 (dk_at dksX11_offsBy_0 12 rfl rfl)
theorem dX11_offsBy_14 : decode cX11_offsBy 14 = .ok (.iconst 2, 1) := dk_5 (dk_at dksX11_offsBy_0 14 rfl rfl)
theorem dX11_offsBy_15 : decode cX11_offsBy 15 = .ok (.if_icmp .eq 44, 3) := dk_159 0 44 (dk_at dksX11_offsBy_0 15 rfl rfl)
theorem dX11_offsBy_18 : decode cX11_offsBy 18 = .ok (.iload 4, 2) := dk_21 4 (dk_at dksX11_offsBy_0 18 rfl rfl)
theorem dX11_offsBy_20 : decode cX11_offsBy 20 = .ok (.iconst 1, 1) := dk_4 (dk_at dksX11_offsBy_0 20 rfl rfl)
theorem dX11_offsBy_21 : decode cX11_offsBy 21 = .ok (.if_icmp .ne 9, 3) := dk_160 0 9 (dk_at dksX11_offsBy_0 21 rfl rfl)
theorem dX11_offsBy_24 : decode cX11_offsBy 24 = .ok (.iload 6, 2) := dk_21 6 (dk_at dksX11_offsBy_1 0 rfl rfl)
theorem dX11_offsBy_26 : decode cX11_offsBy 26 = .ok (.iload_n 3, 1) := dk_29 (dk_at dksX11_offsBy_1 2 rfl rfl)
theorem dX11_offsBy_27 : decode cX11_offsBy 27 = .ok (.if_icmp .eq 32, 3) := dk_159 0 32 (dk_at dksX11_offsBy_1 3 rfl rfl)
theorem dX11_offsBy_30 : decode cX11_offsBy 30 = .ok (.iload 4, 2) := dk_21 4 (dk_at dksX11_offsBy_1 6 rfl rfl)
theorem dX11_offsBy_32 : decode cX11_offsBy 32 = .ok (.ifCond .ne 9, 3) := dk_154 0 9 (dk_at dksX11_offsBy_1 8 rfl rfl)
theorem dX11_offsBy_35 : decode cX11_offsBy 35 = .ok (.iload 6, 2) := dk_21 6 (dk_at dksX11_offsBy_1 11 rfl rfl)
theorem dX11_offsBy_37 : decode cX11_offsBy 37 = .ok (.iload_n 2, 1) := dk_28 (dk_at dksX11_offsBy_1 13 rfl rfl)
theorem dX11_offsBy_38 : decode cX11_offsBy 38 = .ok (.if_icmp .le 21, 3) := dk_164 0 21 (dk_at dksX11_offsBy_1 14 rfl rfl)
theorem dX11_offsBy_41 : decode cX11_offsBy 41 = .ok (.iload 4, 2) := dk_21 4 (dk_at dksX11_offsBy_1 17 rfl rfl)
theorem dX11_offsBy_43 : decode cX11_offsBy 43 = .ok (.iconst 3, 1) := dk_6 (dk_at dksX11_offsBy_1 19 rfl rfl)
theorem dX11_offsBy_44 : decode cX11_offsBy 44 = .ok (.if_icmp .ne 19, 3) := dk_160 0 19 (dk_at dksX11_offsBy_1 20 rfl rfl)
theorem dX11_offsBy_47 : decode cX11_offsBy 47 = .ok (.iload 6, 2) := dk_21 6 (dk_at dksX11_offsBy_2 0 rfl rfl)
theorem dX11_offsBy_49 : decode cX11_offsBy 49 = .ok (.iload_n 2, 1) := dk_28 (dk_at dksX11_offsBy_2 2 rfl rfl)
theorem dX11_offsBy_50 : decode cX11_offsBy 50 = .ok (.if_icmp .le 9, 3) := dk_164 0 9 (dk_at dksX11_offsBy_2 3 rfl rfl)
theorem dX11_offsBy_53 : decode cX11_offsBy 53 = .ok (.iload 6, 2) := dk_21 6 (dk_at dksX11_offsBy_2 6 rfl rfl)
theorem dX11_offsBy_55 : decode cX11_offsBy 55 = .ok (.iload_n 3, 1) := dk_29 (dk_at dksX11_offsBy_2 8 rfl rfl)
theorem dX11_offsBy_56 : decode cX11_offsBy 56 = .ok (.if_icmp .ne 7, 3) := dk_160 0 7 (dk_at dksX11_offsBy_2 9 rfl rfl)
theorem dX11_offsBy_59 : decode cX11_offsBy 59 = .ok (.iconst 1, 1) := dk_4 (dk_at dksX11_offsBy_2 12 rfl rfl)
theorem dX11_offsBy_60 : decode cX11_offsBy 60 = .ok (.goto 4, 3) := dk_167 0 4 (dk_at dksX11_offsBy_2 13 rfl rfl)
theorem dX11_offsBy_63 : decode cX11_offsBy 63 = .ok (.iconst 0, 1) := dk_3 (dk_at dksX11_offsBy_2 16 rfl rfl)
theorem dX11_offsBy_64 : decode cX11_offsBy 64 = .ok (.istore 7, 2) := dk_54 7 (dk_at dksX11_offsBy_2 17 rfl rfl)
theorem dX11_offsBy_66 : decode cX11_offsBy 66 = .ok (.iload 5, 2) := dk_21 5 (dk_at dksX11_offsBy_2 19 rfl rfl)
theorem dX11_offsBy_68 : decode cX11_offsBy 68 = .ok (.iload 7, 2) := dk_21 7 (dk_at dksX11_offsBy_2 21 rfl rfl)
theorem dX11_offsBy_70 : decode cX11_offsBy 70 = .ok (.ifCond .eq 10, 3) := dk_153 0 10 (dk_at dksX11_offsBy_3 0 rfl rfl)
theorem dX11_offsBy_73 : decode cX11_offsBy 73 = .ok (.iconst 1, 1) := dk_4 (dk_at dksX11_offsBy_3 3 rfl rfl)
theorem dX11_offsBy_74 : decode cX11_offsBy 74 = .ok (.iload 6, 2) := dk_21 6 (dk_at dksX11_offsBy_3 4 rfl rfl)
theorem dX11_offsBy_76 : decode cX11_offsBy 76 = .ok (.ishl, 1) := dk_120 (dk_at dksX11_offsBy_3 6 rfl rfl)
theorem dX11_offsBy_77 : decode cX11_offsBy 77 = .ok (.goto 4, 3) := dk_167 0 4 (dk_at dksX11_offsBy_3 7 rfl rfl)
theorem dX11_offsBy_80 : decode cX11_offsBy 80 = .ok (.iconst 0, 1) := dk_3 (dk_at dksX11_offsBy_3 10 rfl rfl)
theorem dX11_offsBy_81 : decode cX11_offsBy 81 = .ok (.ior, 1) := dk_128 (dk_at dksX11_offsBy_3 11 rfl rfl)
theorem dX11_offsBy_82 : decode cX11_offsBy 82 = .ok (.istore 5, 2) := dk_54 5 (dk_at dksX11_offsBy_3 12 rfl rfl)
theorem dX11_offsBy_84 : decode cX11_offsBy 84 = .ok (.iinc 6 1, 3) := dk_132 6 1 (dk_at dksX11_offsBy_3 14 rfl rfl)
theorem dX11_offsBy_87 : decode cX11_offsBy 87 = .ok (.goto (-81), 3) := dk_167 255 175 (dk_at dksX11_offsBy_3 17 rfl rfl)
theorem dX11_offsBy_90 : decode cX11_offsBy 90 = .ok (.iload 5, 2) := dk_21 5 (dk_at dksX11_offsBy_3 20 rfl rfl)
theorem dX11_offsBy_92 : decode cX11_offsBy 92 = .ok (.ireturn, 1) := dk_172 (dk_at dksX11_offsBy_3 22 rfl rfl)
abbrev cX11_byShares : ByteArray := prog_16_method_31_code
def yX11_byShares : MethodName := ⟨RX11, "byShares", "(IJ)V"⟩
def dkwX11_byShares_6 : List UInt8 := [21, 4, 47, 182, 0, 215, 97, 80, 132, 4, 1, 167, 255, 170, 177]
abbrev dktX11_byShares_6 : List UInt8 := dkwX11_byShares_6 ++ []
def dkwX11_byShares_5 : List UInt8 := [167, 0, 31, 42, 180, 0, 91, 16, 7, 27, 104, 5, 96, 92, 47, 42, 27, 21, 4, 42, 180, 0, 121]
abbrev dktX11_byShares_5 : List UInt8 := dkwX11_byShares_5 ++ dktX11_byShares_6
def dkwX11_byShares_4 : List UInt8 := [153, 0, 27, 42, 180, 0, 91, 16, 7, 27, 104, 6, 96, 92, 47, 42, 180, 0, 121, 21, 4, 47, 97, 80]
abbrev dktX11_byShares_4 : List UInt8 := dkwX11_byShares_4 ++ dktX11_byShares_5
def dkwX11_byShares_3 : List UInt8 := [162, 0, 85, 42, 180, 0, 121, 21, 4, 47, 9, 148, 154, 0, 6, 167, 0, 64, 42, 21, 4, 182, 0, 205]
abbrev dktX11_byShares_3 : List UInt8 := dkwX11_byShares_3 ++ dktX11_byShares_4
def dkwX11_byShares_2 : List UInt8 := [21, 4, 42, 180, 0, 112, 21, 4, 47, 80, 132, 4, 1, 167, 255, 232, 3, 54, 4, 21, 4, 16, 12]
abbrev dktX11_byShares_2 : List UInt8 := dkwX11_byShares_2 ++ dktX11_byShares_3
def dkwX11_byShares_1 : List UInt8 := [97, 80, 177, 42, 32, 16, 12, 182, 0, 211, 3, 54, 4, 21, 4, 16, 12, 162, 0, 23, 42, 180, 0, 121]
abbrev dktX11_byShares_1 : List UInt8 := dkwX11_byShares_1 ++ dktX11_byShares_2
def dkwX11_byShares_0 : List UInt8 := [42, 16, 12, 182, 0, 194, 9, 148, 154, 0, 19, 42, 180, 0, 91, 16, 7, 27, 104, 6, 96, 92, 47, 32]
abbrev dktX11_byShares_0 : List UInt8 := dkwX11_byShares_0 ++ dktX11_byShares_1
theorem dksX11_byShares_0 : cX11_byShares.data.toList.drop 0 = dktX11_byShares_0 := by decide +kernel
theorem dksX11_byShares_1 : cX11_byShares.data.toList.drop 24 = dktX11_byShares_1 := dk_seg dksX11_byShares_0 24 rfl rfl
theorem dksX11_byShares_2 : cX11_byShares.data.toList.drop 48 = dktX11_byShares_2 := dk_seg dksX11_byShares_1 24 rfl rfl
theorem dksX11_byShares_3 : cX11_byShares.data.toList.drop 71 = dktX11_byShares_3 := dk_seg dksX11_byShares_2 23 rfl rfl
theorem dksX11_byShares_4 : cX11_byShares.data.toList.drop 95 = dktX11_byShares_4 := dk_seg dksX11_byShares_3 24 rfl rfl
theorem dksX11_byShares_5 : cX11_byShares.data.toList.drop 119 = dktX11_byShares_5 := dk_seg dksX11_byShares_4 24 rfl rfl
theorem dksX11_byShares_6 : cX11_byShares.data.toList.drop 142 = dktX11_byShares_6 := dk_seg dksX11_byShares_5 23 rfl rfl
theorem dX11_byShares_0 : decode cX11_byShares 0 = .ok (.aload_n 0, 1) := dk_42 (dk_at dksX11_byShares_0 0 rfl rfl)
theorem dX11_byShares_1 : decode cX11_byShares 1 = .ok (.bipush 12, 2) := dk_16 12 (dk_at dksX11_byShares_0 1 rfl rfl)
theorem dX11_byShares_3 : decode cX11_byShares 3 = .ok (.invokevirtual 194, 3) := dk_182 0 194 (dk_at dksX11_byShares_0 3 rfl rfl)
theorem dX11_byShares_6 : decode cX11_byShares 6 = .ok (.lconst 0, 1) := dk_9 (dk_at dksX11_byShares_0 6 rfl rfl)
theorem dX11_byShares_7 : decode cX11_byShares 7 = .ok (.lcmp, 1) := dk_148 (dk_at dksX11_byShares_0 7 rfl rfl)
theorem dX11_byShares_8 : decode cX11_byShares 8 = .ok (.ifCond .ne 19, 3) := dk_154 0 19 (dk_at dksX11_byShares_0 8 rfl rfl)
theorem dX11_byShares_11 : decode cX11_byShares 11 = .ok (.aload_n 0, 1) := dk_42 (dk_at dksX11_byShares_0 11 rfl rfl)
theorem dX11_byShares_12 : decode cX11_byShares 12 = .ok (.getfield 91, 3) := dk_180 0 91 (dk_at dksX11_byShares_0 12 rfl rfl)
theorem dX11_byShares_15 : decode cX11_byShares 15 = .ok (.bipush 7, 2) := dk_16 7 (dk_at dksX11_byShares_0 15 rfl rfl)
theorem dX11_byShares_17 : decode cX11_byShares 17 = .ok (.iload_n 1, 1) := dk_27 (dk_at dksX11_byShares_0 17 rfl rfl)
theorem dX11_byShares_18 : decode cX11_byShares 18 = .ok (.imul, 1) := dk_104 (dk_at dksX11_byShares_0 18 rfl rfl)
theorem dX11_byShares_19 : decode cX11_byShares 19 = .ok (.iconst 3, 1) := dk_6 (dk_at dksX11_byShares_0 19 rfl rfl)
theorem dX11_byShares_20 : decode cX11_byShares 20 = .ok (.iadd, 1) := dk_96 (dk_at dksX11_byShares_0 20 rfl rfl)
theorem dX11_byShares_21 : decode cX11_byShares 21 = .ok (.dup2, 1) := dk_92 (dk_at dksX11_byShares_0 21 rfl rfl)
theorem dX11_byShares_22 : decode cX11_byShares 22 = .ok (.laload, 1) := dk_47 (dk_at dksX11_byShares_0 22 rfl rfl)
theorem dX11_byShares_23 : decode cX11_byShares 23 = .ok (.lload_n 2, 1) := dk_32 (dk_at dksX11_byShares_0 23 rfl rfl)
theorem dX11_byShares_24 : decode cX11_byShares 24 = .ok (.ladd, 1) := dk_97 (dk_at dksX11_byShares_1 0 rfl rfl)
theorem dX11_byShares_25 : decode cX11_byShares 25 = .ok (.lastore, 1) := dk_80 (dk_at dksX11_byShares_1 1 rfl rfl)
theorem dX11_byShares_26 : decode cX11_byShares 26 = .ok (.return_, 1) := dk_177 (dk_at dksX11_byShares_1 2 rfl rfl)
theorem dX11_byShares_27 : decode cX11_byShares 27 = .ok (.aload_n 0, 1) := dk_42 (dk_at dksX11_byShares_1 3 rfl rfl)
theorem dX11_byShares_28 : decode cX11_byShares 28 = .ok (.lload_n 2, 1) := dk_32 (dk_at dksX11_byShares_1 4 rfl rfl)
theorem dX11_byShares_29 : decode cX11_byShares 29 = .ok (.bipush 12, 2) := dk_16 12 (dk_at dksX11_byShares_1 5 rfl rfl)
theorem dX11_byShares_31 : decode cX11_byShares 31 = .ok (.invokevirtual 211, 3) := dk_182 0 211 (dk_at dksX11_byShares_1 7 rfl rfl)
theorem dX11_byShares_34 : decode cX11_byShares 34 = .ok (.iconst 0, 1) := dk_3 (dk_at dksX11_byShares_1 10 rfl rfl)
theorem dX11_byShares_35 : decode cX11_byShares 35 = .ok (.istore 4, 2) := dk_54 4 (dk_at dksX11_byShares_1 11 rfl rfl)
theorem dX11_byShares_37 : decode cX11_byShares 37 = .ok (.iload 4, 2) := dk_21 4 (dk_at dksX11_byShares_1 13 rfl rfl)
theorem dX11_byShares_39 : decode cX11_byShares 39 = .ok (.bipush 12, 2) := dk_16 12 (dk_at dksX11_byShares_1 15 rfl rfl)
theorem dX11_byShares_41 : decode cX11_byShares 41 = .ok (.if_icmp .ge 23, 3) := dk_162 0 23 (dk_at dksX11_byShares_1 17 rfl rfl)
theorem dX11_byShares_44 : decode cX11_byShares 44 = .ok (.aload_n 0, 1) := dk_42 (dk_at dksX11_byShares_1 20 rfl rfl)
theorem dX11_byShares_45 : decode cX11_byShares 45 = .ok (.getfield 121, 3) := dk_180 0 121 (dk_at dksX11_byShares_1 21 rfl rfl)
theorem dX11_byShares_48 : decode cX11_byShares 48 = .ok (.iload 4, 2) := dk_21 4 (dk_at dksX11_byShares_2 0 rfl rfl)
theorem dX11_byShares_50 : decode cX11_byShares 50 = .ok (.aload_n 0, 1) := dk_42 (dk_at dksX11_byShares_2 2 rfl rfl)
theorem dX11_byShares_51 : decode cX11_byShares 51 = .ok (.getfield 112, 3) := dk_180 0 112 (dk_at dksX11_byShares_2 3 rfl rfl)
theorem dX11_byShares_54 : decode cX11_byShares 54 = .ok (.iload 4, 2) := dk_21 4 (dk_at dksX11_byShares_2 6 rfl rfl)
theorem dX11_byShares_56 : decode cX11_byShares 56 = .ok (.laload, 1) := dk_47 (dk_at dksX11_byShares_2 8 rfl rfl)
theorem dX11_byShares_57 : decode cX11_byShares 57 = .ok (.lastore, 1) := dk_80 (dk_at dksX11_byShares_2 9 rfl rfl)
theorem dX11_byShares_58 : decode cX11_byShares 58 = .ok (.iinc 4 1, 3) := dk_132 4 1 (dk_at dksX11_byShares_2 10 rfl rfl)
theorem dX11_byShares_61 : decode cX11_byShares 61 = .ok (.goto (-24), 3) := dk_167 255 232 (dk_at dksX11_byShares_2 13 rfl rfl)
theorem dX11_byShares_64 : decode cX11_byShares 64 = .ok (.iconst 0, 1) := dk_3 (dk_at dksX11_byShares_2 16 rfl rfl)
theorem dX11_byShares_65 : decode cX11_byShares 65 = .ok (.istore 4, 2) := dk_54 4 (dk_at dksX11_byShares_2 17 rfl rfl)
theorem dX11_byShares_67 : decode cX11_byShares 67 = .ok (.iload 4, 2) := dk_21 4 (dk_at dksX11_byShares_2 19 rfl rfl)
theorem dX11_byShares_69 : decode cX11_byShares 69 = .ok (.bipush 12, 2) := dk_16 12 (dk_at dksX11_byShares_2 21 rfl rfl)
theorem dX11_byShares_71 : decode cX11_byShares 71 = .ok (.if_icmp .ge 85, 3) := dk_162 0 85 (dk_at dksX11_byShares_3 0 rfl rfl)
theorem dX11_byShares_74 : decode cX11_byShares 74 = .ok (.aload_n 0, 1) := dk_42 (dk_at dksX11_byShares_3 3 rfl rfl)
theorem dX11_byShares_75 : decode cX11_byShares 75 = .ok (.getfield 121, 3) := dk_180 0 121 (dk_at dksX11_byShares_3 4 rfl rfl)
theorem dX11_byShares_78 : decode cX11_byShares 78 = .ok (.iload 4, 2) := dk_21 4 (dk_at dksX11_byShares_3 7 rfl rfl)
theorem dX11_byShares_80 : decode cX11_byShares 80 = .ok (.laload, 1) := dk_47 (dk_at dksX11_byShares_3 9 rfl rfl)
theorem dX11_byShares_81 : decode cX11_byShares 81 = .ok (.lconst 0, 1) := dk_9 (dk_at dksX11_byShares_3 10 rfl rfl)
theorem dX11_byShares_82 : decode cX11_byShares 82 = .ok (.lcmp, 1) := dk_148 (dk_at dksX11_byShares_3 11 rfl rfl)
theorem dX11_byShares_83 : decode cX11_byShares 83 = .ok (.ifCond .ne 6, 3) := dk_154 0 6 (dk_at dksX11_byShares_3 12 rfl rfl)
theorem dX11_byShares_86 : decode cX11_byShares 86 = .ok (.goto 64, 3) := dk_167 0 64 (dk_at dksX11_byShares_3 15 rfl rfl)
theorem dX11_byShares_89 : decode cX11_byShares 89 = .ok (.aload_n 0, 1) := dk_42 (dk_at dksX11_byShares_3 18 rfl rfl)
theorem dX11_byShares_90 : decode cX11_byShares 90 = .ok (.iload 4, 2) := dk_21 4 (dk_at dksX11_byShares_3 19 rfl rfl)
theorem dX11_byShares_92 : decode cX11_byShares 92 = .ok (.invokevirtual 205, 3) := dk_182 0 205 (dk_at dksX11_byShares_3 21 rfl rfl)
theorem dX11_byShares_95 : decode cX11_byShares 95 = .ok (.ifCond .eq 27, 3) := dk_153 0 27 (dk_at dksX11_byShares_4 0 rfl rfl)
theorem dX11_byShares_98 : decode cX11_byShares 98 = .ok (.aload_n 0, 1) := dk_42 (dk_at dksX11_byShares_4 3 rfl rfl)
theorem dX11_byShares_99 : decode cX11_byShares 99 = .ok (.getfield 91, 3) := dk_180 0 91 (dk_at dksX11_byShares_4 4 rfl rfl)
theorem dX11_byShares_102 : decode cX11_byShares 102 = .ok (.bipush 7, 2) := dk_16 7 (dk_at dksX11_byShares_4 7 rfl rfl)
theorem dX11_byShares_104 : decode cX11_byShares 104 = .ok (.iload_n 1, 1) := dk_27 (dk_at dksX11_byShares_4 9 rfl rfl)
theorem dX11_byShares_105 : decode cX11_byShares 105 = .ok (.imul, 1) := dk_104 (dk_at dksX11_byShares_4 10 rfl rfl)
theorem dX11_byShares_106 : decode cX11_byShares 106 = .ok (.iconst 3, 1) := dk_6 (dk_at dksX11_byShares_4 11 rfl rfl)
theorem dX11_byShares_107 : decode cX11_byShares 107 = .ok (.iadd, 1) := dk_96 (dk_at dksX11_byShares_4 12 rfl rfl)
theorem dX11_byShares_108 : decode cX11_byShares 108 = .ok (.dup2, 1) := dk_92 (dk_at dksX11_byShares_4 13 rfl rfl)
theorem dX11_byShares_109 : decode cX11_byShares 109 = .ok (.laload, 1) := dk_47 (dk_at dksX11_byShares_4 14 rfl rfl)
theorem dX11_byShares_110 : decode cX11_byShares 110 = .ok (.aload_n 0, 1) := dk_42 (dk_at dksX11_byShares_4 15 rfl rfl)
theorem dX11_byShares_111 : decode cX11_byShares 111 = .ok (.getfield 121, 3) := dk_180 0 121 (dk_at dksX11_byShares_4 16 rfl rfl)
theorem dX11_byShares_114 : decode cX11_byShares 114 = .ok (.iload 4, 2) := dk_21 4 (dk_at dksX11_byShares_4 19 rfl rfl)
theorem dX11_byShares_116 : decode cX11_byShares 116 = .ok (.laload, 1) := dk_47 (dk_at dksX11_byShares_4 21 rfl rfl)
theorem dX11_byShares_117 : decode cX11_byShares 117 = .ok (.ladd, 1) := dk_97 (dk_at dksX11_byShares_4 22 rfl rfl)
theorem dX11_byShares_118 : decode cX11_byShares 118 = .ok (.lastore, 1) := dk_80 (dk_at dksX11_byShares_4 23 rfl rfl)
theorem dX11_byShares_119 : decode cX11_byShares 119 = .ok (.goto 31, 3) := dk_167 0 31 (dk_at dksX11_byShares_5 0 rfl rfl)
theorem dX11_byShares_122 : decode cX11_byShares 122 = .ok (.aload_n 0, 1) := dk_42 (dk_at dksX11_byShares_5 3 rfl rfl)
theorem dX11_byShares_123 : decode cX11_byShares 123 = .ok (.getfield 91, 3) := dk_180 0 91 (dk_at dksX11_byShares_5 4 rfl rfl)
theorem dX11_byShares_126 : decode cX11_byShares 126 = .ok (.bipush 7, 2) := dk_16 7 (dk_at dksX11_byShares_5 7 rfl rfl)
theorem dX11_byShares_128 : decode cX11_byShares 128 = .ok (.iload_n 1, 1) := dk_27 (dk_at dksX11_byShares_5 9 rfl rfl)
theorem dX11_byShares_129 : decode cX11_byShares 129 = .ok (.imul, 1) := dk_104 (dk_at dksX11_byShares_5 10 rfl rfl)
theorem dX11_byShares_130 : decode cX11_byShares 130 = .ok (.iconst 2, 1) := dk_5 (dk_at dksX11_byShares_5 11 rfl rfl)
theorem dX11_byShares_131 : decode cX11_byShares 131 = .ok (.iadd, 1) := dk_96 (dk_at dksX11_byShares_5 12 rfl rfl)
theorem dX11_byShares_132 : decode cX11_byShares 132 = .ok (.dup2, 1) := dk_92 (dk_at dksX11_byShares_5 13 rfl rfl)
theorem dX11_byShares_133 : decode cX11_byShares 133 = .ok (.laload, 1) := dk_47 (dk_at dksX11_byShares_5 14 rfl rfl)
theorem dX11_byShares_134 : decode cX11_byShares 134 = .ok (.aload_n 0, 1) := dk_42 (dk_at dksX11_byShares_5 15 rfl rfl)
theorem dX11_byShares_135 : decode cX11_byShares 135 = .ok (.iload_n 1, 1) := dk_27 (dk_at dksX11_byShares_5 16 rfl rfl)
theorem dX11_byShares_136 : decode cX11_byShares 136 = .ok (.iload 4, 2) := dk_21 4 (dk_at dksX11_byShares_5 17 rfl rfl)
theorem dX11_byShares_138 : decode cX11_byShares 138 = .ok (.aload_n 0, 1) := dk_42 (dk_at dksX11_byShares_5 19 rfl rfl)
theorem dX11_byShares_139 : decode cX11_byShares 139 = .ok (.getfield 121, 3) := dk_180 0 121 (dk_at dksX11_byShares_5 20 rfl rfl)
theorem dX11_byShares_142 : decode cX11_byShares 142 = .ok (.iload 4, 2) := dk_21 4 (dk_at dksX11_byShares_6 0 rfl rfl)
theorem dX11_byShares_144 : decode cX11_byShares 144 = .ok (.laload, 1) := dk_47 (dk_at dksX11_byShares_6 2 rfl rfl)
theorem dX11_byShares_145 : decode cX11_byShares 145 = .ok (.invokevirtual 215, 3) := dk_182 0 215 (dk_at dksX11_byShares_6 3 rfl rfl)
theorem dX11_byShares_148 : decode cX11_byShares 148 = .ok (.ladd, 1) := dk_97 (dk_at dksX11_byShares_6 6 rfl rfl)
theorem dX11_byShares_149 : decode cX11_byShares 149 = .ok (.lastore, 1) := dk_80 (dk_at dksX11_byShares_6 7 rfl rfl)
theorem dX11_byShares_150 : decode cX11_byShares 150 = .ok (.iinc 4 1, 3) := dk_132 4 1 (dk_at dksX11_byShares_6 8 rfl rfl)
theorem dX11_byShares_153 : decode cX11_byShares 153 = .ok (.goto (-86), 3) := dk_167 255 170 (dk_at dksX11_byShares_6 11 rfl rfl)
theorem dX11_byShares_156 : decode cX11_byShares 156 = .ok (.return_, 1) := dk_177 (dk_at dksX11_byShares_6 14 rfl rfl)
abbrev cX11_weightSum : ByteArray := prog_16_method_26_code
def yX11_weightSum : MethodName := ⟨RX11, "weightSum", "(I)J"⟩
def dkwX11_weightSum_1 : List UInt8 := [167, 255, 237, 32, 173]
abbrev dktX11_weightSum_1 : List UInt8 := dkwX11_weightSum_1 ++ []
def dkwX11_weightSum_0 : List UInt8 := [9, 65, 3, 54, 4, 21, 4, 27, 162, 0, 19, 32, 42, 180, 0, 109, 21, 4, 47, 97, 65, 132, 4, 1]
abbrev dktX11_weightSum_0 : List UInt8 := dkwX11_weightSum_0 ++ dktX11_weightSum_1
theorem dksX11_weightSum_0 : cX11_weightSum.data.toList.drop 0 = dktX11_weightSum_0 := by decide +kernel
theorem dksX11_weightSum_1 : cX11_weightSum.data.toList.drop 24 = dktX11_weightSum_1 := dk_seg dksX11_weightSum_0 24 rfl rfl
theorem dX11_weightSum_0 : decode cX11_weightSum 0 = .ok (.lconst 0, 1) := dk_9 (dk_at dksX11_weightSum_0 0 rfl rfl)
theorem dX11_weightSum_1 : decode cX11_weightSum 1 = .ok (.lstore_n 2, 1) := dk_65 (dk_at dksX11_weightSum_0 1 rfl rfl)
theorem dX11_weightSum_2 : decode cX11_weightSum 2 = .ok (.iconst 0, 1) := dk_3 (dk_at dksX11_weightSum_0 2 rfl rfl)
theorem dX11_weightSum_3 : decode cX11_weightSum 3 = .ok (.istore 4, 2) := dk_54 4 (dk_at dksX11_weightSum_0 3 rfl rfl)
theorem dX11_weightSum_5 : decode cX11_weightSum 5 = .ok (.iload 4, 2) := dk_21 4 (dk_at dksX11_weightSum_0 5 rfl rfl)
theorem dX11_weightSum_7 : decode cX11_weightSum 7 = .ok (.iload_n 1, 1) := dk_27 (dk_at dksX11_weightSum_0 7 rfl rfl)
theorem dX11_weightSum_8 : decode cX11_weightSum 8 = .ok (.if_icmp .ge 19, 3) := dk_162 0 19 (dk_at dksX11_weightSum_0 8 rfl rfl)
theorem dX11_weightSum_11 : decode cX11_weightSum 11 = .ok (.lload_n 2, 1) := dk_32 (dk_at dksX11_weightSum_0 11 rfl rfl)
theorem dX11_weightSum_12 : decode cX11_weightSum 12 = .ok (.aload_n 0, 1) := dk_42 (dk_at dksX11_weightSum_0 12 rfl rfl)
theorem dX11_weightSum_13 : decode cX11_weightSum 13 = .ok (.getfield 109, 3) := dk_180 0 109 (dk_at dksX11_weightSum_0 13 rfl rfl)
theorem dX11_weightSum_16 : decode cX11_weightSum 16 = .ok (.iload 4, 2) := dk_21 4 (dk_at dksX11_weightSum_0 16 rfl rfl)
theorem dX11_weightSum_18 : decode cX11_weightSum 18 = .ok (.laload, 1) := dk_47 (dk_at dksX11_weightSum_0 18 rfl rfl)
theorem dX11_weightSum_19 : decode cX11_weightSum 19 = .ok (.ladd, 1) := dk_97 (dk_at dksX11_weightSum_0 19 rfl rfl)
theorem dX11_weightSum_20 : decode cX11_weightSum 20 = .ok (.lstore_n 2, 1) := dk_65 (dk_at dksX11_weightSum_0 20 rfl rfl)
theorem dX11_weightSum_21 : decode cX11_weightSum 21 = .ok (.iinc 4 1, 3) := dk_132 4 1 (dk_at dksX11_weightSum_0 21 rfl rfl)
theorem dX11_weightSum_24 : decode cX11_weightSum 24 = .ok (.goto (-19), 3) := dk_167 255 237 (dk_at dksX11_weightSum_1 0 rfl rfl)
theorem dX11_weightSum_27 : decode cX11_weightSum 27 = .ok (.lload_n 2, 1) := dk_32 (dk_at dksX11_weightSum_1 3 rfl rfl)
theorem dX11_weightSum_28 : decode cX11_weightSum 28 = .ok (.lreturn, 1) := dk_173 (dk_at dksX11_weightSum_1 4 rfl rfl)
abbrev cX11_shares : ByteArray := prog_16_method_27_code
def yX11_shares : MethodName := ⟨RX11, "shares", "(JI)V"⟩
def dkwX11_shares_5 : List UInt8 := [10, 101, 55, 6, 132, 8, 1, 167, 255, 208, 177]
abbrev dktX11_shares_5 : List UInt8 := dkwX11_shares_5 ++ []
def dkwX11_shares_4 : List UInt8 := [21, 8, 47, 9, 148, 154, 0, 6, 167, 0, 20, 42, 180, 0, 112, 21, 8, 92, 47, 10, 97, 80, 22, 6]
abbrev dktX11_shares_4 : List UInt8 := dkwX11_shares_4 ++ dktX11_shares_5
def dkwX11_shares_3 : List UInt8 := [167, 255, 200, 3, 54, 8, 21, 8, 29, 162, 0, 48, 22, 6, 9, 148, 153, 0, 35, 42, 180, 0, 109]
abbrev dktX11_shares_3 : List UInt8 := dkwX11_shares_3 ++ dktX11_shares_4
def dkwX11_shares_2 : List UInt8 := [47, 105, 22, 4, 109, 97, 80, 22, 6, 42, 180, 0, 112, 21, 8, 47, 101, 55, 6, 132, 8, 1]
abbrev dktX11_shares_2 : List UInt8 := dkwX11_shares_2 ++ dktX11_shares_3
def dkwX11_shares_1 : List UInt8 := [21, 8, 31, 22, 4, 109, 42, 180, 0, 109, 21, 8, 47, 105, 31, 22, 4, 113, 42, 180, 0, 109, 21, 8]
abbrev dktX11_shares_1 : List UInt8 := dkwX11_shares_1 ++ dktX11_shares_2
def dkwX11_shares_0 : List UInt8 := [42, 29, 182, 0, 194, 55, 4, 31, 55, 6, 3, 54, 8, 21, 8, 29, 162, 0, 56, 42, 180, 0, 112]
abbrev dktX11_shares_0 : List UInt8 := dkwX11_shares_0 ++ dktX11_shares_1
theorem dksX11_shares_0 : cX11_shares.data.toList.drop 0 = dktX11_shares_0 := by decide +kernel
theorem dksX11_shares_1 : cX11_shares.data.toList.drop 23 = dktX11_shares_1 := dk_seg dksX11_shares_0 23 rfl rfl
theorem dksX11_shares_2 : cX11_shares.data.toList.drop 47 = dktX11_shares_2 := dk_seg dksX11_shares_1 24 rfl rfl
theorem dksX11_shares_3 : cX11_shares.data.toList.drop 69 = dktX11_shares_3 := dk_seg dksX11_shares_2 22 rfl rfl
theorem dksX11_shares_4 : cX11_shares.data.toList.drop 92 = dktX11_shares_4 := dk_seg dksX11_shares_3 23 rfl rfl
theorem dksX11_shares_5 : cX11_shares.data.toList.drop 116 = dktX11_shares_5 := dk_seg dksX11_shares_4 24 rfl rfl
theorem dX11_shares_0 : decode cX11_shares 0 = .ok (.aload_n 0, 1) := dk_42 (dk_at dksX11_shares_0 0 rfl rfl)
theorem dX11_shares_1 : decode cX11_shares 1 = .ok (.iload_n 3, 1) := dk_29 (dk_at dksX11_shares_0 1 rfl rfl)
theorem dX11_shares_2 : decode cX11_shares 2 = .ok (.invokevirtual 194, 3) := dk_182 0 194 (dk_at dksX11_shares_0 2 rfl rfl)
theorem dX11_shares_5 : decode cX11_shares 5 = .ok (.lstore 4, 2) := dk_55 4 (dk_at dksX11_shares_0 5 rfl rfl)
theorem dX11_shares_7 : decode cX11_shares 7 = .ok (.lload_n 1, 1) := dk_31 (dk_at dksX11_shares_0 7 rfl rfl)
theorem dX11_shares_8 : decode cX11_shares 8 = .ok (.lstore 6, 2) := dk_55 6 (dk_at dksX11_shares_0 8 rfl rfl)
theorem dX11_shares_10 : decode cX11_shares 10 = .ok (.iconst 0, 1) := dk_3 (dk_at dksX11_shares_0 10 rfl rfl)
theorem dX11_shares_11 : decode cX11_shares 11 = .ok (.istore 8, 2) := dk_54 8 (dk_at dksX11_shares_0 11 rfl rfl)
theorem dX11_shares_13 : decode cX11_shares 13 = .ok (.iload 8, 2) := dk_21 8 (dk_at dksX11_shares_0 13 rfl rfl)
theorem dX11_shares_15 : decode cX11_shares 15 = .ok (.iload_n 3, 1) := dk_29 (dk_at dksX11_shares_0 15 rfl rfl)
theorem dX11_shares_16 : decode cX11_shares 16 = .ok (.if_icmp .ge 56, 3) := dk_162 0 56 (dk_at dksX11_shares_0 16 rfl rfl)
theorem dX11_shares_19 : decode cX11_shares 19 = .ok (.aload_n 0, 1) := dk_42 (dk_at dksX11_shares_0 19 rfl rfl)
theorem dX11_shares_20 : decode cX11_shares 20 = .ok (.getfield 112, 3) := dk_180 0 112 (dk_at dksX11_shares_0 20 rfl rfl)
theorem dX11_shares_23 : decode cX11_shares 23 = .ok (.iload 8, 2) := dk_21 8 (dk_at dksX11_shares_1 0 rfl rfl)
theorem dX11_shares_25 : decode cX11_shares 25 = .ok (.lload_n 1, 1) := dk_31 (dk_at dksX11_shares_1 2 rfl rfl)
theorem dX11_shares_26 : decode cX11_shares 26 = .ok (.lload 4, 2) := dk_22 4 (dk_at dksX11_shares_1 3 rfl rfl)
theorem dX11_shares_28 : decode cX11_shares 28 = .ok (.ldiv, 1) := dk_109 (dk_at dksX11_shares_1 5 rfl rfl)
theorem dX11_shares_29 : decode cX11_shares 29 = .ok (.aload_n 0, 1) := dk_42 (dk_at dksX11_shares_1 6 rfl rfl)
theorem dX11_shares_30 : decode cX11_shares 30 = .ok (.getfield 109, 3) := dk_180 0 109 (dk_at dksX11_shares_1 7 rfl rfl)
theorem dX11_shares_33 : decode cX11_shares 33 = .ok (.iload 8, 2) := dk_21 8 (dk_at dksX11_shares_1 10 rfl rfl)
theorem dX11_shares_35 : decode cX11_shares 35 = .ok (.laload, 1) := dk_47 (dk_at dksX11_shares_1 12 rfl rfl)
theorem dX11_shares_36 : decode cX11_shares 36 = .ok (.lmul, 1) := dk_105 (dk_at dksX11_shares_1 13 rfl rfl)
theorem dX11_shares_37 : decode cX11_shares 37 = .ok (.lload_n 1, 1) := dk_31 (dk_at dksX11_shares_1 14 rfl rfl)
theorem dX11_shares_38 : decode cX11_shares 38 = .ok (.lload 4, 2) := dk_22 4 (dk_at dksX11_shares_1 15 rfl rfl)
theorem dX11_shares_40 : decode cX11_shares 40 = .ok (.lrem, 1) := dk_113 (dk_at dksX11_shares_1 17 rfl rfl)
theorem dX11_shares_41 : decode cX11_shares 41 = .ok (.aload_n 0, 1) := dk_42 (dk_at dksX11_shares_1 18 rfl rfl)
theorem dX11_shares_42 : decode cX11_shares 42 = .ok (.getfield 109, 3) := dk_180 0 109 (dk_at dksX11_shares_1 19 rfl rfl)
theorem dX11_shares_45 : decode cX11_shares 45 = .ok (.iload 8, 2) := dk_21 8 (dk_at dksX11_shares_1 22 rfl rfl)
theorem dX11_shares_47 : decode cX11_shares 47 = .ok (.laload, 1) := dk_47 (dk_at dksX11_shares_2 0 rfl rfl)
theorem dX11_shares_48 : decode cX11_shares 48 = .ok (.lmul, 1) := dk_105 (dk_at dksX11_shares_2 1 rfl rfl)
theorem dX11_shares_49 : decode cX11_shares 49 = .ok (.lload 4, 2) := dk_22 4 (dk_at dksX11_shares_2 2 rfl rfl)
theorem dX11_shares_51 : decode cX11_shares 51 = .ok (.ldiv, 1) := dk_109 (dk_at dksX11_shares_2 4 rfl rfl)
theorem dX11_shares_52 : decode cX11_shares 52 = .ok (.ladd, 1) := dk_97 (dk_at dksX11_shares_2 5 rfl rfl)
theorem dX11_shares_53 : decode cX11_shares 53 = .ok (.lastore, 1) := dk_80 (dk_at dksX11_shares_2 6 rfl rfl)
theorem dX11_shares_54 : decode cX11_shares 54 = .ok (.lload 6, 2) := dk_22 6 (dk_at dksX11_shares_2 7 rfl rfl)
theorem dX11_shares_56 : decode cX11_shares 56 = .ok (.aload_n 0, 1) := dk_42 (dk_at dksX11_shares_2 9 rfl rfl)
theorem dX11_shares_57 : decode cX11_shares 57 = .ok (.getfield 112, 3) := dk_180 0 112 (dk_at dksX11_shares_2 10 rfl rfl)
theorem dX11_shares_60 : decode cX11_shares 60 = .ok (.iload 8, 2) := dk_21 8 (dk_at dksX11_shares_2 13 rfl rfl)
theorem dX11_shares_62 : decode cX11_shares 62 = .ok (.laload, 1) := dk_47 (dk_at dksX11_shares_2 15 rfl rfl)
theorem dX11_shares_63 : decode cX11_shares 63 = .ok (.lsub, 1) := dk_101 (dk_at dksX11_shares_2 16 rfl rfl)
theorem dX11_shares_64 : decode cX11_shares 64 = .ok (.lstore 6, 2) := dk_55 6 (dk_at dksX11_shares_2 17 rfl rfl)
theorem dX11_shares_66 : decode cX11_shares 66 = .ok (.iinc 8 1, 3) := dk_132 8 1 (dk_at dksX11_shares_2 19 rfl rfl)
theorem dX11_shares_69 : decode cX11_shares 69 = .ok (.goto (-56), 3) := dk_167 255 200 (dk_at dksX11_shares_3 0 rfl rfl)
theorem dX11_shares_72 : decode cX11_shares 72 = .ok (.iconst 0, 1) := dk_3 (dk_at dksX11_shares_3 3 rfl rfl)
theorem dX11_shares_73 : decode cX11_shares 73 = .ok (.istore 8, 2) := dk_54 8 (dk_at dksX11_shares_3 4 rfl rfl)
theorem dX11_shares_75 : decode cX11_shares 75 = .ok (.iload 8, 2) := dk_21 8 (dk_at dksX11_shares_3 6 rfl rfl)
theorem dX11_shares_77 : decode cX11_shares 77 = .ok (.iload_n 3, 1) := dk_29 (dk_at dksX11_shares_3 8 rfl rfl)
theorem dX11_shares_78 : decode cX11_shares 78 = .ok (.if_icmp .ge 48, 3) := dk_162 0 48 (dk_at dksX11_shares_3 9 rfl rfl)
theorem dX11_shares_81 : decode cX11_shares 81 = .ok (.lload 6, 2) := dk_22 6 (dk_at dksX11_shares_3 12 rfl rfl)
theorem dX11_shares_83 : decode cX11_shares 83 = .ok (.lconst 0, 1) := dk_9 (dk_at dksX11_shares_3 14 rfl rfl)
theorem dX11_shares_84 : decode cX11_shares 84 = .ok (.lcmp, 1) := dk_148 (dk_at dksX11_shares_3 15 rfl rfl)
theorem dX11_shares_85 : decode cX11_shares 85 = .ok (.ifCond .eq 35, 3) := dk_153 0 35 (dk_at dksX11_shares_3 16 rfl rfl)
theorem dX11_shares_88 : decode cX11_shares 88 = .ok (.aload_n 0, 1) := dk_42 (dk_at dksX11_shares_3 19 rfl rfl)
theorem dX11_shares_89 : decode cX11_shares 89 = .ok (.getfield 109, 3) := dk_180 0 109 (dk_at dksX11_shares_3 20 rfl rfl)
theorem dX11_shares_92 : decode cX11_shares 92 = .ok (.iload 8, 2) := dk_21 8 (dk_at dksX11_shares_4 0 rfl rfl)
theorem dX11_shares_94 : decode cX11_shares 94 = .ok (.laload, 1) := dk_47 (dk_at dksX11_shares_4 2 rfl rfl)
theorem dX11_shares_95 : decode cX11_shares 95 = .ok (.lconst 0, 1) := dk_9 (dk_at dksX11_shares_4 3 rfl rfl)
theorem dX11_shares_96 : decode cX11_shares 96 = .ok (.lcmp, 1) := dk_148 (dk_at dksX11_shares_4 4 rfl rfl)
theorem dX11_shares_97 : decode cX11_shares 97 = .ok (.ifCond .ne 6, 3) := dk_154 0 6 (dk_at dksX11_shares_4 5 rfl rfl)
theorem dX11_shares_100 : decode cX11_shares 100 = .ok (.goto 20, 3) := dk_167 0 20 (dk_at dksX11_shares_4 8 rfl rfl)
theorem dX11_shares_103 : decode cX11_shares 103 = .ok (.aload_n 0, 1) := dk_42 (dk_at dksX11_shares_4 11 rfl rfl)
theorem dX11_shares_104 : decode cX11_shares 104 = .ok (.getfield 112, 3) := dk_180 0 112 (dk_at dksX11_shares_4 12 rfl rfl)
theorem dX11_shares_107 : decode cX11_shares 107 = .ok (.iload 8, 2) := dk_21 8 (dk_at dksX11_shares_4 15 rfl rfl)
theorem dX11_shares_109 : decode cX11_shares 109 = .ok (.dup2, 1) := dk_92 (dk_at dksX11_shares_4 17 rfl rfl)
theorem dX11_shares_110 : decode cX11_shares 110 = .ok (.laload, 1) := dk_47 (dk_at dksX11_shares_4 18 rfl rfl)
theorem dX11_shares_111 : decode cX11_shares 111 = .ok (.lconst 1, 1) := dk_10 (dk_at dksX11_shares_4 19 rfl rfl)
theorem dX11_shares_112 : decode cX11_shares 112 = .ok (.ladd, 1) := dk_97 (dk_at dksX11_shares_4 20 rfl rfl)
theorem dX11_shares_113 : decode cX11_shares 113 = .ok (.lastore, 1) := dk_80 (dk_at dksX11_shares_4 21 rfl rfl)
theorem dX11_shares_114 : decode cX11_shares 114 = .ok (.lload 6, 2) := dk_22 6 (dk_at dksX11_shares_4 22 rfl rfl)
theorem dX11_shares_116 : decode cX11_shares 116 = .ok (.lconst 1, 1) := dk_10 (dk_at dksX11_shares_5 0 rfl rfl)
theorem dX11_shares_117 : decode cX11_shares 117 = .ok (.lsub, 1) := dk_101 (dk_at dksX11_shares_5 1 rfl rfl)
theorem dX11_shares_118 : decode cX11_shares 118 = .ok (.lstore 6, 2) := dk_55 6 (dk_at dksX11_shares_5 2 rfl rfl)
theorem dX11_shares_120 : decode cX11_shares 120 = .ok (.iinc 8 1, 3) := dk_132 8 1 (dk_at dksX11_shares_5 4 rfl rfl)
theorem dX11_shares_123 : decode cX11_shares 123 = .ok (.goto (-48), 3) := dk_167 255 208 (dk_at dksX11_shares_5 7 rfl rfl)
theorem dX11_shares_126 : decode cX11_shares 126 = .ok (.return_, 1) := dk_177 (dk_at dksX11_shares_5 10 rfl rfl)
abbrev cX11_isGap : ByteArray := prog_16_method_17_code
def yX11_isGap : MethodName := ⟨RX11, "isGap", "(I)Z"⟩
def dkwX11_isGap_0 : List UInt8 := [42, 27, 182, 0, 169, 154, 0, 7, 4, 167, 0, 4, 3, 172]
abbrev dktX11_isGap_0 : List UInt8 := dkwX11_isGap_0 ++ []
theorem dksX11_isGap_0 : cX11_isGap.data.toList.drop 0 = dktX11_isGap_0 := by decide +kernel
theorem dX11_isGap_0 : decode cX11_isGap 0 = .ok (.aload_n 0, 1) := dk_42 (dk_at dksX11_isGap_0 0 rfl rfl)
theorem dX11_isGap_1 : decode cX11_isGap 1 = .ok (.iload_n 1, 1) := dk_27 (dk_at dksX11_isGap_0 1 rfl rfl)
theorem dX11_isGap_2 : decode cX11_isGap 2 = .ok (.invokevirtual 169, 3) := dk_182 0 169 (dk_at dksX11_isGap_0 2 rfl rfl)
theorem dX11_isGap_5 : decode cX11_isGap 5 = .ok (.ifCond .ne 7, 3) := dk_154 0 7 (dk_at dksX11_isGap_0 5 rfl rfl)
theorem dX11_isGap_8 : decode cX11_isGap 8 = .ok (.iconst 1, 1) := dk_4 (dk_at dksX11_isGap_0 8 rfl rfl)
theorem dX11_isGap_9 : decode cX11_isGap 9 = .ok (.goto 4, 3) := dk_167 0 4 (dk_at dksX11_isGap_0 9 rfl rfl)
theorem dX11_isGap_12 : decode cX11_isGap 12 = .ok (.iconst 0, 1) := dk_3 (dk_at dksX11_isGap_0 12 rfl rfl)
theorem dX11_isGap_13 : decode cX11_isGap 13 = .ok (.ireturn, 1) := dk_172 (dk_at dksX11_isGap_0 13 rfl rfl)
abbrev cX11_fills : ByteArray := prog_16_method_28_code
def yX11_fills : MethodName := ⟨RX11, "fills", "(IIJ)J"⟩
def dkwX11_fills_6 : List UInt8 := [132, 7, 1, 167, 255, 118, 22, 5, 173]
abbrev dktX11_fills_6 : List UInt8 := dkwX11_fills_6 ++ []
def dkwX11_fills_5 : List UInt8 := [22, 11, 97, 80, 42, 180, 0, 115, 21, 8, 92, 47, 22, 11, 97, 80, 22, 5, 22, 11, 101, 55, 5]
abbrev dktX11_fills_5 : List UInt8 := dkwX11_fills_5 ++ dktX11_fills_6
def dkwX11_fills_4 : List UInt8 := [180, 0, 76, 16, 40, 27, 104, 21, 8, 96, 92, 47, 22, 11, 97, 80, 42, 180, 0, 57, 21, 8, 92, 47]
abbrev dktX11_fills_4 : List UInt8 := dkwX11_fills_4 ++ dktX11_fills_5
def dkwX11_fills_3 : List UInt8 := [80, 22, 5, 22, 9, 101, 55, 5, 22, 5, 42, 27, 21, 8, 182, 0, 183, 184, 0, 179, 55, 11, 42]
abbrev dktX11_fills_3 : List UInt8 := dkwX11_fills_3 ++ dktX11_fills_4
def dkwX11_fills_2 : List UInt8 := [21, 8, 96, 92, 47, 22, 9, 97, 80, 42, 180, 0, 91, 16, 7, 27, 104, 4, 96, 92, 47, 22, 9, 97]
abbrev dktX11_fills_2 : List UInt8 := dkwX11_fills_2 ++ dktX11_fills_3
def dkwX11_fills_1 : List UInt8 := [54, 8, 22, 5, 42, 27, 21, 8, 182, 0, 187, 184, 0, 179, 55, 9, 42, 180, 0, 79, 16, 40, 27, 104]
abbrev dktX11_fills_1 : List UInt8 := dkwX11_fills_1 ++ dktX11_fills_2
def dkwX11_fills_0 : List UInt8 := [33, 55, 5, 3, 54, 7, 21, 7, 42, 28, 182, 0, 169, 162, 0, 134, 42, 28, 21, 7, 182, 0, 161]
abbrev dktX11_fills_0 : List UInt8 := dkwX11_fills_0 ++ dktX11_fills_1
theorem dksX11_fills_0 : cX11_fills.data.toList.drop 0 = dktX11_fills_0 := by decide +kernel
theorem dksX11_fills_1 : cX11_fills.data.toList.drop 23 = dktX11_fills_1 := dk_seg dksX11_fills_0 23 rfl rfl
theorem dksX11_fills_2 : cX11_fills.data.toList.drop 47 = dktX11_fills_2 := dk_seg dksX11_fills_1 24 rfl rfl
theorem dksX11_fills_3 : cX11_fills.data.toList.drop 71 = dktX11_fills_3 := dk_seg dksX11_fills_2 24 rfl rfl
theorem dksX11_fills_4 : cX11_fills.data.toList.drop 94 = dktX11_fills_4 := dk_seg dksX11_fills_3 23 rfl rfl
theorem dksX11_fills_5 : cX11_fills.data.toList.drop 118 = dktX11_fills_5 := dk_seg dksX11_fills_4 24 rfl rfl
theorem dksX11_fills_6 : cX11_fills.data.toList.drop 141 = dktX11_fills_6 := dk_seg dksX11_fills_5 23 rfl rfl
theorem dX11_fills_0 : decode cX11_fills 0 = .ok (.lload_n 3, 1) := dk_33 (dk_at dksX11_fills_0 0 rfl rfl)
theorem dX11_fills_1 : decode cX11_fills 1 = .ok (.lstore 5, 2) := dk_55 5 (dk_at dksX11_fills_0 1 rfl rfl)
theorem dX11_fills_3 : decode cX11_fills 3 = .ok (.iconst 0, 1) := dk_3 (dk_at dksX11_fills_0 3 rfl rfl)
theorem dX11_fills_4 : decode cX11_fills 4 = .ok (.istore 7, 2) := dk_54 7 (dk_at dksX11_fills_0 4 rfl rfl)
theorem dX11_fills_6 : decode cX11_fills 6 = .ok (.iload 7, 2) := dk_21 7 (dk_at dksX11_fills_0 6 rfl rfl)
theorem dX11_fills_8 : decode cX11_fills 8 = .ok (.aload_n 0, 1) := dk_42 (dk_at dksX11_fills_0 8 rfl rfl)
theorem dX11_fills_9 : decode cX11_fills 9 = .ok (.iload_n 2, 1) := dk_28 (dk_at dksX11_fills_0 9 rfl rfl)
theorem dX11_fills_10 : decode cX11_fills 10 = .ok (.invokevirtual 169, 3) := dk_182 0 169 (dk_at dksX11_fills_0 10 rfl rfl)
theorem dX11_fills_13 : decode cX11_fills 13 = .ok (.if_icmp .ge 134, 3) := dk_162 0 134 (dk_at dksX11_fills_0 13 rfl rfl)
theorem dX11_fills_16 : decode cX11_fills 16 = .ok (.aload_n 0, 1) := dk_42 (dk_at dksX11_fills_0 16 rfl rfl)
theorem dX11_fills_17 : decode cX11_fills 17 = .ok (.iload_n 2, 1) := dk_28 (dk_at dksX11_fills_0 17 rfl rfl)
theorem dX11_fills_18 : decode cX11_fills 18 = .ok (.iload 7, 2) := dk_21 7 (dk_at dksX11_fills_0 18 rfl rfl)
theorem dX11_fills_20 : decode cX11_fills 20 = .ok (.invokevirtual 161, 3) := dk_182 0 161 (dk_at dksX11_fills_0 20 rfl rfl)
theorem dX11_fills_23 : decode cX11_fills 23 = .ok (.istore 8, 2) := dk_54 8 (dk_at dksX11_fills_1 0 rfl rfl)
theorem dX11_fills_25 : decode cX11_fills 25 = .ok (.lload 5, 2) := dk_22 5 (dk_at dksX11_fills_1 2 rfl rfl)
theorem dX11_fills_27 : decode cX11_fills 27 = .ok (.aload_n 0, 1) := dk_42 (dk_at dksX11_fills_1 4 rfl rfl)
theorem dX11_fills_28 : decode cX11_fills 28 = .ok (.iload_n 1, 1) := dk_27 (dk_at dksX11_fills_1 5 rfl rfl)
theorem dX11_fills_29 : decode cX11_fills 29 = .ok (.iload 8, 2) := dk_21 8 (dk_at dksX11_fills_1 6 rfl rfl)
theorem dX11_fills_31 : decode cX11_fills 31 = .ok (.invokevirtual 187, 3) := dk_182 0 187 (dk_at dksX11_fills_1 8 rfl rfl)
theorem dX11_fills_34 : decode cX11_fills 34 = .ok (.invokestatic 179, 3) := dk_184 0 179 (dk_at dksX11_fills_1 11 rfl rfl)
theorem dX11_fills_37 : decode cX11_fills 37 = .ok (.lstore 9, 2) := dk_55 9 (dk_at dksX11_fills_1 14 rfl rfl)
theorem dX11_fills_39 : decode cX11_fills 39 = .ok (.aload_n 0, 1) := dk_42 (dk_at dksX11_fills_1 16 rfl rfl)
theorem dX11_fills_40 : decode cX11_fills 40 = .ok (.getfield 79, 3) := dk_180 0 79 (dk_at dksX11_fills_1 17 rfl rfl)
theorem dX11_fills_43 : decode cX11_fills 43 = .ok (.bipush 40, 2) := dk_16 40 (dk_at dksX11_fills_1 20 rfl rfl)
theorem dX11_fills_45 : decode cX11_fills 45 = .ok (.iload_n 1, 1) := dk_27 (dk_at dksX11_fills_1 22 rfl rfl)
theorem dX11_fills_46 : decode cX11_fills 46 = .ok (.imul, 1) := dk_104 (dk_at dksX11_fills_1 23 rfl rfl)
theorem dX11_fills_47 : decode cX11_fills 47 = .ok (.iload 8, 2) := dk_21 8 (dk_at dksX11_fills_2 0 rfl rfl)
theorem dX11_fills_49 : decode cX11_fills 49 = .ok (.iadd, 1) := dk_96 (dk_at dksX11_fills_2 2 rfl rfl)
theorem dX11_fills_50 : decode cX11_fills 50 = .ok (.dup2, 1) := dk_92 (dk_at dksX11_fills_2 3 rfl rfl)
theorem dX11_fills_51 : decode cX11_fills 51 = .ok (.laload, 1) := dk_47 (dk_at dksX11_fills_2 4 rfl rfl)
theorem dX11_fills_52 : decode cX11_fills 52 = .ok (.lload 9, 2) := dk_22 9 (dk_at dksX11_fills_2 5 rfl rfl)
theorem dX11_fills_54 : decode cX11_fills 54 = .ok (.ladd, 1) := dk_97 (dk_at dksX11_fills_2 7 rfl rfl)
theorem dX11_fills_55 : decode cX11_fills 55 = .ok (.lastore, 1) := dk_80 (dk_at dksX11_fills_2 8 rfl rfl)
theorem dX11_fills_56 : decode cX11_fills 56 = .ok (.aload_n 0, 1) := dk_42 (dk_at dksX11_fills_2 9 rfl rfl)
theorem dX11_fills_57 : decode cX11_fills 57 = .ok (.getfield 91, 3) := dk_180 0 91 (dk_at dksX11_fills_2 10 rfl rfl)
theorem dX11_fills_60 : decode cX11_fills 60 = .ok (.bipush 7, 2) := dk_16 7 (dk_at dksX11_fills_2 13 rfl rfl)
theorem dX11_fills_62 : decode cX11_fills 62 = .ok (.iload_n 1, 1) := dk_27 (dk_at dksX11_fills_2 15 rfl rfl)
theorem dX11_fills_63 : decode cX11_fills 63 = .ok (.imul, 1) := dk_104 (dk_at dksX11_fills_2 16 rfl rfl)
theorem dX11_fills_64 : decode cX11_fills 64 = .ok (.iconst 1, 1) := dk_4 (dk_at dksX11_fills_2 17 rfl rfl)
theorem dX11_fills_65 : decode cX11_fills 65 = .ok (.iadd, 1) := dk_96 (dk_at dksX11_fills_2 18 rfl rfl)
theorem dX11_fills_66 : decode cX11_fills 66 = .ok (.dup2, 1) := dk_92 (dk_at dksX11_fills_2 19 rfl rfl)
theorem dX11_fills_67 : decode cX11_fills 67 = .ok (.laload, 1) := dk_47 (dk_at dksX11_fills_2 20 rfl rfl)
theorem dX11_fills_68 : decode cX11_fills 68 = .ok (.lload 9, 2) := dk_22 9 (dk_at dksX11_fills_2 21 rfl rfl)
theorem dX11_fills_70 : decode cX11_fills 70 = .ok (.ladd, 1) := dk_97 (dk_at dksX11_fills_2 23 rfl rfl)
theorem dX11_fills_71 : decode cX11_fills 71 = .ok (.lastore, 1) := dk_80 (dk_at dksX11_fills_3 0 rfl rfl)
theorem dX11_fills_72 : decode cX11_fills 72 = .ok (.lload 5, 2) := dk_22 5 (dk_at dksX11_fills_3 1 rfl rfl)
theorem dX11_fills_74 : decode cX11_fills 74 = .ok (.lload 9, 2) := dk_22 9 (dk_at dksX11_fills_3 3 rfl rfl)
theorem dX11_fills_76 : decode cX11_fills 76 = .ok (.lsub, 1) := dk_101 (dk_at dksX11_fills_3 5 rfl rfl)
theorem dX11_fills_77 : decode cX11_fills 77 = .ok (.lstore 5, 2) := dk_55 5 (dk_at dksX11_fills_3 6 rfl rfl)
theorem dX11_fills_79 : decode cX11_fills 79 = .ok (.lload 5, 2) := dk_22 5 (dk_at dksX11_fills_3 8 rfl rfl)
theorem dX11_fills_81 : decode cX11_fills 81 = .ok (.aload_n 0, 1) := dk_42 (dk_at dksX11_fills_3 10 rfl rfl)
theorem dX11_fills_82 : decode cX11_fills 82 = .ok (.iload_n 1, 1) := dk_27 (dk_at dksX11_fills_3 11 rfl rfl)
theorem dX11_fills_83 : decode cX11_fills 83 = .ok (.iload 8, 2) := dk_21 8 (dk_at dksX11_fills_3 12 rfl rfl)
theorem dX11_fills_85 : decode cX11_fills 85 = .ok (.invokevirtual 183, 3) := dk_182 0 183 (dk_at dksX11_fills_3 14 rfl rfl)
theorem dX11_fills_88 : decode cX11_fills 88 = .ok (.invokestatic 179, 3) := dk_184 0 179 (dk_at dksX11_fills_3 17 rfl rfl)
theorem dX11_fills_91 : decode cX11_fills 91 = .ok (.lstore 11, 2) := dk_55 11 (dk_at dksX11_fills_3 20 rfl rfl)
theorem dX11_fills_93 : decode cX11_fills 93 = .ok (.aload_n 0, 1) := dk_42 (dk_at dksX11_fills_3 22 rfl rfl)
theorem dX11_fills_94 : decode cX11_fills 94 = .ok (.getfield 76, 3) := dk_180 0 76 (dk_at dksX11_fills_4 0 rfl rfl)
theorem dX11_fills_97 : decode cX11_fills 97 = .ok (.bipush 40, 2) := dk_16 40 (dk_at dksX11_fills_4 3 rfl rfl)
theorem dX11_fills_99 : decode cX11_fills 99 = .ok (.iload_n 1, 1) := dk_27 (dk_at dksX11_fills_4 5 rfl rfl)
theorem dX11_fills_100 : decode cX11_fills 100 = .ok (.imul, 1) := dk_104 (dk_at dksX11_fills_4 6 rfl rfl)
theorem dX11_fills_101 : decode cX11_fills 101 = .ok (.iload 8, 2) := dk_21 8 (dk_at dksX11_fills_4 7 rfl rfl)
theorem dX11_fills_103 : decode cX11_fills 103 = .ok (.iadd, 1) := dk_96 (dk_at dksX11_fills_4 9 rfl rfl)
theorem dX11_fills_104 : decode cX11_fills 104 = .ok (.dup2, 1) := dk_92 (dk_at dksX11_fills_4 10 rfl rfl)
theorem dX11_fills_105 : decode cX11_fills 105 = .ok (.laload, 1) := dk_47 (dk_at dksX11_fills_4 11 rfl rfl)
theorem dX11_fills_106 : decode cX11_fills 106 = .ok (.lload 11, 2) := dk_22 11 (dk_at dksX11_fills_4 12 rfl rfl)
theorem dX11_fills_108 : decode cX11_fills 108 = .ok (.ladd, 1) := dk_97 (dk_at dksX11_fills_4 14 rfl rfl)
theorem dX11_fills_109 : decode cX11_fills 109 = .ok (.lastore, 1) := dk_80 (dk_at dksX11_fills_4 15 rfl rfl)
theorem dX11_fills_110 : decode cX11_fills 110 = .ok (.aload_n 0, 1) := dk_42 (dk_at dksX11_fills_4 16 rfl rfl)
theorem dX11_fills_111 : decode cX11_fills 111 = .ok (.getfield 57, 3) := dk_180 0 57 (dk_at dksX11_fills_4 17 rfl rfl)
theorem dX11_fills_114 : decode cX11_fills 114 = .ok (.iload 8, 2) := dk_21 8 (dk_at dksX11_fills_4 20 rfl rfl)
theorem dX11_fills_116 : decode cX11_fills 116 = .ok (.dup2, 1) := dk_92 (dk_at dksX11_fills_4 22 rfl rfl)
theorem dX11_fills_117 : decode cX11_fills 117 = .ok (.laload, 1) := dk_47 (dk_at dksX11_fills_4 23 rfl rfl)
theorem dX11_fills_118 : decode cX11_fills 118 = .ok (.lload 11, 2) := dk_22 11 (dk_at dksX11_fills_5 0 rfl rfl)
theorem dX11_fills_120 : decode cX11_fills 120 = .ok (.ladd, 1) := dk_97 (dk_at dksX11_fills_5 2 rfl rfl)
theorem dX11_fills_121 : decode cX11_fills 121 = .ok (.lastore, 1) := dk_80 (dk_at dksX11_fills_5 3 rfl rfl)
theorem dX11_fills_122 : decode cX11_fills 122 = .ok (.aload_n 0, 1) := dk_42 (dk_at dksX11_fills_5 4 rfl rfl)
theorem dX11_fills_123 : decode cX11_fills 123 = .ok (.getfield 115, 3) := dk_180 0 115 (dk_at dksX11_fills_5 5 rfl rfl)
theorem dX11_fills_126 : decode cX11_fills 126 = .ok (.iload 8, 2) := dk_21 8 (dk_at dksX11_fills_5 8 rfl rfl)
theorem dX11_fills_128 : decode cX11_fills 128 = .ok (.dup2, 1) := dk_92 (dk_at dksX11_fills_5 10 rfl rfl)
theorem dX11_fills_129 : decode cX11_fills 129 = .ok (.laload, 1) := dk_47 (dk_at dksX11_fills_5 11 rfl rfl)
theorem dX11_fills_130 : decode cX11_fills 130 = .ok (.lload 11, 2) := dk_22 11 (dk_at dksX11_fills_5 12 rfl rfl)
theorem dX11_fills_132 : decode cX11_fills 132 = .ok (.ladd, 1) := dk_97 (dk_at dksX11_fills_5 14 rfl rfl)
theorem dX11_fills_133 : decode cX11_fills 133 = .ok (.lastore, 1) := dk_80 (dk_at dksX11_fills_5 15 rfl rfl)
theorem dX11_fills_134 : decode cX11_fills 134 = .ok (.lload 5, 2) := dk_22 5 (dk_at dksX11_fills_5 16 rfl rfl)
theorem dX11_fills_136 : decode cX11_fills 136 = .ok (.lload 11, 2) := dk_22 11 (dk_at dksX11_fills_5 18 rfl rfl)
theorem dX11_fills_138 : decode cX11_fills 138 = .ok (.lsub, 1) := dk_101 (dk_at dksX11_fills_5 20 rfl rfl)
theorem dX11_fills_139 : decode cX11_fills 139 = .ok (.lstore 5, 2) := dk_55 5 (dk_at dksX11_fills_5 21 rfl rfl)
theorem dX11_fills_141 : decode cX11_fills 141 = .ok (.iinc 7 1, 3) := dk_132 7 1 (dk_at dksX11_fills_6 0 rfl rfl)
theorem dX11_fills_144 : decode cX11_fills 144 = .ok (.goto (-138), 3) := dk_167 255 118 (dk_at dksX11_fills_6 3 rfl rfl)
theorem dX11_fills_147 : decode cX11_fills 147 = .ok (.lload 5, 2) := dk_22 5 (dk_at dksX11_fills_6 6 rfl rfl)
theorem dX11_fills_149 : decode cX11_fills 149 = .ok (.lreturn, 1) := dk_173 (dk_at dksX11_fills_6 8 rfl rfl)
abbrev cX11_holeLeft : ByteArray := prog_16_method_19_code
def yX11_holeLeft : MethodName := ⟨RX11, "holeLeft", "(II)J"⟩
def dkwX11_holeLeft_1 : List UInt8 := [158, 0, 7, 33, 167, 0, 4, 9, 173]
abbrev dktX11_holeLeft_1 : List UInt8 := dkwX11_holeLeft_1 ++ []
def dkwX11_holeLeft_0 : List UInt8 := [42, 28, 182, 0, 172, 133, 42, 180, 0, 79, 16, 40, 27, 104, 28, 96, 47, 101, 66, 33, 9, 148]
abbrev dktX11_holeLeft_0 : List UInt8 := dkwX11_holeLeft_0 ++ dktX11_holeLeft_1
theorem dksX11_holeLeft_0 : cX11_holeLeft.data.toList.drop 0 = dktX11_holeLeft_0 := by decide +kernel
theorem dksX11_holeLeft_1 : cX11_holeLeft.data.toList.drop 22 = dktX11_holeLeft_1 := dk_seg dksX11_holeLeft_0 22 rfl rfl
theorem dX11_holeLeft_0 : decode cX11_holeLeft 0 = .ok (.aload_n 0, 1) := dk_42 (dk_at dksX11_holeLeft_0 0 rfl rfl)
theorem dX11_holeLeft_1 : decode cX11_holeLeft 1 = .ok (.iload_n 2, 1) := dk_28 (dk_at dksX11_holeLeft_0 1 rfl rfl)
theorem dX11_holeLeft_2 : decode cX11_holeLeft 2 = .ok (.invokevirtual 172, 3) := dk_182 0 172 (dk_at dksX11_holeLeft_0 2 rfl rfl)
theorem dX11_holeLeft_5 : decode cX11_holeLeft 5 = .ok (.i2l, 1) := dk_133 (dk_at dksX11_holeLeft_0 5 rfl rfl)
theorem dX11_holeLeft_6 : decode cX11_holeLeft 6 = .ok (.aload_n 0, 1) := dk_42 (dk_at dksX11_holeLeft_0 6 rfl rfl)
theorem dX11_holeLeft_7 : decode cX11_holeLeft 7 = .ok (.getfield 79, 3) := dk_180 0 79 (dk_at dksX11_holeLeft_0 7 rfl rfl)
theorem dX11_holeLeft_10 : decode cX11_holeLeft 10 = .ok (.bipush 40, 2) := dk_16 40 (dk_at dksX11_holeLeft_0 10 rfl rfl)
theorem dX11_holeLeft_12 : decode cX11_holeLeft 12 = .ok (.iload_n 1, 1) := dk_27 (dk_at dksX11_holeLeft_0 12 rfl rfl)
theorem dX11_holeLeft_13 : decode cX11_holeLeft 13 = .ok (.imul, 1) := dk_104 (dk_at dksX11_holeLeft_0 13 rfl rfl)
theorem dX11_holeLeft_14 : decode cX11_holeLeft 14 = .ok (.iload_n 2, 1) := dk_28 (dk_at dksX11_holeLeft_0 14 rfl rfl)
theorem dX11_holeLeft_15 : decode cX11_holeLeft 15 = .ok (.iadd, 1) := dk_96 (dk_at dksX11_holeLeft_0 15 rfl rfl)
theorem dX11_holeLeft_16 : decode cX11_holeLeft 16 = .ok (.laload, 1) := dk_47 (dk_at dksX11_holeLeft_0 16 rfl rfl)
theorem dX11_holeLeft_17 : decode cX11_holeLeft 17 = .ok (.lsub, 1) := dk_101 (dk_at dksX11_holeLeft_0 17 rfl rfl)
theorem dX11_holeLeft_18 : decode cX11_holeLeft 18 = .ok (.lstore_n 3, 1) := dk_66 (dk_at dksX11_holeLeft_0 18 rfl rfl)
theorem dX11_holeLeft_19 : decode cX11_holeLeft 19 = .ok (.lload_n 3, 1) := dk_33 (dk_at dksX11_holeLeft_0 19 rfl rfl)
theorem dX11_holeLeft_20 : decode cX11_holeLeft 20 = .ok (.lconst 0, 1) := dk_9 (dk_at dksX11_holeLeft_0 20 rfl rfl)
theorem dX11_holeLeft_21 : decode cX11_holeLeft 21 = .ok (.lcmp, 1) := dk_148 (dk_at dksX11_holeLeft_0 21 rfl rfl)
theorem dX11_holeLeft_22 : decode cX11_holeLeft 22 = .ok (.ifCond .le 7, 3) := dk_158 0 7 (dk_at dksX11_holeLeft_1 0 rfl rfl)
theorem dX11_holeLeft_25 : decode cX11_holeLeft 25 = .ok (.lload_n 3, 1) := dk_33 (dk_at dksX11_holeLeft_1 3 rfl rfl)
theorem dX11_holeLeft_26 : decode cX11_holeLeft 26 = .ok (.goto 4, 3) := dk_167 0 4 (dk_at dksX11_holeLeft_1 4 rfl rfl)
theorem dX11_holeLeft_29 : decode cX11_holeLeft 29 = .ok (.lconst 0, 1) := dk_9 (dk_at dksX11_holeLeft_1 7 rfl rfl)
theorem dX11_holeLeft_30 : decode cX11_holeLeft 30 = .ok (.lreturn, 1) := dk_173 (dk_at dksX11_holeLeft_1 8 rfl rfl)
abbrev cX11_holeOf : ByteArray := prog_16_method_18_code
def yX11_holeOf : MethodName := ⟨RX11, "holeOf", "(I)I"⟩
def dkwX11_holeOf_0 : List UInt8 := [42, 180, 0, 106, 27, 46, 172]
abbrev dktX11_holeOf_0 : List UInt8 := dkwX11_holeOf_0 ++ []
theorem dksX11_holeOf_0 : cX11_holeOf.data.toList.drop 0 = dktX11_holeOf_0 := by decide +kernel
theorem dX11_holeOf_0 : decode cX11_holeOf 0 = .ok (.aload_n 0, 1) := dk_42 (dk_at dksX11_holeOf_0 0 rfl rfl)
theorem dX11_holeOf_1 : decode cX11_holeOf 1 = .ok (.getfield 106, 3) := dk_180 0 106 (dk_at dksX11_holeOf_0 1 rfl rfl)
theorem dX11_holeOf_4 : decode cX11_holeOf 4 = .ok (.iload_n 1, 1) := dk_27 (dk_at dksX11_holeOf_0 4 rfl rfl)
theorem dX11_holeOf_5 : decode cX11_holeOf 5 = .ok (.iaload, 1) := dk_46 (dk_at dksX11_holeOf_0 5 rfl rfl)
theorem dX11_holeOf_6 : decode cX11_holeOf 6 = .ok (.ireturn, 1) := dk_172 (dk_at dksX11_holeOf_0 6 rfl rfl)
abbrev cX11_least : ByteArray := prog_16_method_4_code
def yX11_least : MethodName := ⟨RX11, "least", "(JJ)J"⟩
def dkwX11_least_0 : List UInt8 := [30, 32, 148, 156, 0, 7, 30, 167, 0, 4, 32, 173]
abbrev dktX11_least_0 : List UInt8 := dkwX11_least_0 ++ []
theorem dksX11_least_0 : cX11_least.data.toList.drop 0 = dktX11_least_0 := by decide +kernel
theorem dX11_least_0 : decode cX11_least 0 = .ok (.lload_n 0, 1) := dk_30 (dk_at dksX11_least_0 0 rfl rfl)
theorem dX11_least_1 : decode cX11_least 1 = .ok (.lload_n 2, 1) := dk_32 (dk_at dksX11_least_0 1 rfl rfl)
theorem dX11_least_2 : decode cX11_least 2 = .ok (.lcmp, 1) := dk_148 (dk_at dksX11_least_0 2 rfl rfl)
theorem dX11_least_3 : decode cX11_least 3 = .ok (.ifCond .ge 7, 3) := dk_156 0 7 (dk_at dksX11_least_0 3 rfl rfl)
theorem dX11_least_6 : decode cX11_least 6 = .ok (.lload_n 0, 1) := dk_30 (dk_at dksX11_least_0 6 rfl rfl)
theorem dX11_least_7 : decode cX11_least 7 = .ok (.goto 4, 3) := dk_167 0 4 (dk_at dksX11_least_0 7 rfl rfl)
theorem dX11_least_10 : decode cX11_least 10 = .ok (.lload_n 2, 1) := dk_32 (dk_at dksX11_least_0 10 rfl rfl)
theorem dX11_least_11 : decode cX11_least 11 = .ok (.lreturn, 1) := dk_173 (dk_at dksX11_least_0 11 rfl rfl)
abbrev cX11_canTake : ByteArray := prog_16_method_20_code
def yX11_canTake : MethodName := ⟨RX11, "canTake", "(II)J"⟩
def dkwX11_canTake_1 : List UInt8 := [184, 0, 179, 173]
abbrev dktX11_canTake_1 : List UInt8 := dkwX11_canTake_1 ++ []
def dkwX11_canTake_0 : List UInt8 := [42, 180, 0, 42, 28, 46, 133, 42, 180, 0, 76, 16, 40, 27, 104, 28, 96, 47, 101, 42, 28, 182, 0, 175]
abbrev dktX11_canTake_0 : List UInt8 := dkwX11_canTake_0 ++ dktX11_canTake_1
theorem dksX11_canTake_0 : cX11_canTake.data.toList.drop 0 = dktX11_canTake_0 := by decide +kernel
theorem dksX11_canTake_1 : cX11_canTake.data.toList.drop 24 = dktX11_canTake_1 := dk_seg dksX11_canTake_0 24 rfl rfl
theorem dX11_canTake_0 : decode cX11_canTake 0 = .ok (.aload_n 0, 1) := dk_42 (dk_at dksX11_canTake_0 0 rfl rfl)
theorem dX11_canTake_1 : decode cX11_canTake 1 = .ok (.getfield 42, 3) := dk_180 0 42 (dk_at dksX11_canTake_0 1 rfl rfl)
theorem dX11_canTake_4 : decode cX11_canTake 4 = .ok (.iload_n 2, 1) := dk_28 (dk_at dksX11_canTake_0 4 rfl rfl)
theorem dX11_canTake_5 : decode cX11_canTake 5 = .ok (.iaload, 1) := dk_46 (dk_at dksX11_canTake_0 5 rfl rfl)
theorem dX11_canTake_6 : decode cX11_canTake 6 = .ok (.i2l, 1) := dk_133 (dk_at dksX11_canTake_0 6 rfl rfl)
theorem dX11_canTake_7 : decode cX11_canTake 7 = .ok (.aload_n 0, 1) := dk_42 (dk_at dksX11_canTake_0 7 rfl rfl)
theorem dX11_canTake_8 : decode cX11_canTake 8 = .ok (.getfield 76, 3) := dk_180 0 76 (dk_at dksX11_canTake_0 8 rfl rfl)
theorem dX11_canTake_11 : decode cX11_canTake 11 = .ok (.bipush 40, 2) := dk_16 40 (dk_at dksX11_canTake_0 11 rfl rfl)
theorem dX11_canTake_13 : decode cX11_canTake 13 = .ok (.iload_n 1, 1) := dk_27 (dk_at dksX11_canTake_0 13 rfl rfl)
theorem dX11_canTake_14 : decode cX11_canTake 14 = .ok (.imul, 1) := dk_104 (dk_at dksX11_canTake_0 14 rfl rfl)
theorem dX11_canTake_15 : decode cX11_canTake 15 = .ok (.iload_n 2, 1) := dk_28 (dk_at dksX11_canTake_0 15 rfl rfl)
theorem dX11_canTake_16 : decode cX11_canTake 16 = .ok (.iadd, 1) := dk_96 (dk_at dksX11_canTake_0 16 rfl rfl)
theorem dX11_canTake_17 : decode cX11_canTake 17 = .ok (.laload, 1) := dk_47 (dk_at dksX11_canTake_0 17 rfl rfl)
theorem dX11_canTake_18 : decode cX11_canTake 18 = .ok (.lsub, 1) := dk_101 (dk_at dksX11_canTake_0 18 rfl rfl)
theorem dX11_canTake_19 : decode cX11_canTake 19 = .ok (.aload_n 0, 1) := dk_42 (dk_at dksX11_canTake_0 19 rfl rfl)
theorem dX11_canTake_20 : decode cX11_canTake 20 = .ok (.iload_n 2, 1) := dk_28 (dk_at dksX11_canTake_0 20 rfl rfl)
theorem dX11_canTake_21 : decode cX11_canTake 21 = .ok (.invokevirtual 175, 3) := dk_182 0 175 (dk_at dksX11_canTake_0 21 rfl rfl)
theorem dX11_canTake_24 : decode cX11_canTake 24 = .ok (.invokestatic 179, 3) := dk_184 0 179 (dk_at dksX11_canTake_1 0 rfl rfl)
theorem dX11_canTake_27 : decode cX11_canTake 27 = .ok (.lreturn, 1) := dk_173 (dk_at dksX11_canTake_1 3 rfl rfl)
abbrev cX11_left : ByteArray := prog_16_method_13_code
def yX11_left : MethodName := ⟨RX11, "left", "(I)J"⟩
def dkwX11_left_0 : List UInt8 := [42, 180, 0, 42, 27, 46, 133, 42, 180, 0, 45, 27, 46, 133, 105, 42, 180, 0, 57, 27, 47, 101, 173]
abbrev dktX11_left_0 : List UInt8 := dkwX11_left_0 ++ []
theorem dksX11_left_0 : cX11_left.data.toList.drop 0 = dktX11_left_0 := by decide +kernel
theorem dX11_left_0 : decode cX11_left 0 = .ok (.aload_n 0, 1) := dk_42 (dk_at dksX11_left_0 0 rfl rfl)
theorem dX11_left_1 : decode cX11_left 1 = .ok (.getfield 42, 3) := dk_180 0 42 (dk_at dksX11_left_0 1 rfl rfl)
theorem dX11_left_4 : decode cX11_left 4 = .ok (.iload_n 1, 1) := dk_27 (dk_at dksX11_left_0 4 rfl rfl)
theorem dX11_left_5 : decode cX11_left 5 = .ok (.iaload, 1) := dk_46 (dk_at dksX11_left_0 5 rfl rfl)
theorem dX11_left_6 : decode cX11_left 6 = .ok (.i2l, 1) := dk_133 (dk_at dksX11_left_0 6 rfl rfl)
theorem dX11_left_7 : decode cX11_left 7 = .ok (.aload_n 0, 1) := dk_42 (dk_at dksX11_left_0 7 rfl rfl)
theorem dX11_left_8 : decode cX11_left 8 = .ok (.getfield 45, 3) := dk_180 0 45 (dk_at dksX11_left_0 8 rfl rfl)
theorem dX11_left_11 : decode cX11_left 11 = .ok (.iload_n 1, 1) := dk_27 (dk_at dksX11_left_0 11 rfl rfl)
theorem dX11_left_12 : decode cX11_left 12 = .ok (.iaload, 1) := dk_46 (dk_at dksX11_left_0 12 rfl rfl)
theorem dX11_left_13 : decode cX11_left 13 = .ok (.i2l, 1) := dk_133 (dk_at dksX11_left_0 13 rfl rfl)
theorem dX11_left_14 : decode cX11_left 14 = .ok (.lmul, 1) := dk_105 (dk_at dksX11_left_0 14 rfl rfl)
theorem dX11_left_15 : decode cX11_left 15 = .ok (.aload_n 0, 1) := dk_42 (dk_at dksX11_left_0 15 rfl rfl)
theorem dX11_left_16 : decode cX11_left 16 = .ok (.getfield 57, 3) := dk_180 0 57 (dk_at dksX11_left_0 16 rfl rfl)
theorem dX11_left_19 : decode cX11_left 19 = .ok (.iload_n 1, 1) := dk_27 (dk_at dksX11_left_0 19 rfl rfl)
theorem dX11_left_20 : decode cX11_left 20 = .ok (.laload, 1) := dk_47 (dk_at dksX11_left_0 20 rfl rfl)
theorem dX11_left_21 : decode cX11_left 21 = .ok (.lsub, 1) := dk_101 (dk_at dksX11_left_0 21 rfl rfl)
theorem dX11_left_22 : decode cX11_left 22 = .ok (.lreturn, 1) := dk_173 (dk_at dksX11_left_0 22 rfl rfl)
abbrev cX11_laysBack : ByteArray := prog_16_method_36_code
def yX11_laysBack : MethodName := ⟨RX11, "laysBack", "(I)V"⟩
def dkwX11_laysBack_4 : List UInt8 := [167, 255, 230, 177]
abbrev dktX11_laysBack_4 : List UInt8 := dkwX11_laysBack_4 ++ []
def dkwX11_laysBack_3 : List UInt8 := [162, 0, 26, 42, 180, 0, 91, 16, 7, 27, 104, 28, 96, 42, 180, 0, 136, 28, 47, 80, 132, 2, 1]
abbrev dktX11_laysBack_3 : List UInt8 := dkwX11_laysBack_3 ++ dktX11_laysBack_4
def dkwX11_laysBack_2 : List UInt8 := [180, 0, 133, 28, 47, 80, 42, 180, 0, 115, 28, 9, 80, 132, 2, 1, 167, 255, 194, 3, 61, 28, 16, 7]
abbrev dktX11_laysBack_2 : List UInt8 := dkwX11_laysBack_2 ++ dktX11_laysBack_3
def dkwX11_laysBack_1 : List UInt8 := [16, 40, 27, 104, 28, 96, 42, 180, 0, 130, 28, 47, 80, 42, 180, 0, 79, 16, 40, 27, 104, 28, 96, 42]
abbrev dktX11_laysBack_1 : List UInt8 := dkwX11_laysBack_1 ++ dktX11_laysBack_2
def dkwX11_laysBack_0 : List UInt8 := [3, 61, 28, 16, 40, 162, 0, 62, 42, 180, 0, 57, 28, 42, 180, 0, 127, 28, 47, 80, 42, 180, 0, 76]
abbrev dktX11_laysBack_0 : List UInt8 := dkwX11_laysBack_0 ++ dktX11_laysBack_1
theorem dksX11_laysBack_0 : cX11_laysBack.data.toList.drop 0 = dktX11_laysBack_0 := by decide +kernel
theorem dksX11_laysBack_1 : cX11_laysBack.data.toList.drop 24 = dktX11_laysBack_1 := dk_seg dksX11_laysBack_0 24 rfl rfl
theorem dksX11_laysBack_2 : cX11_laysBack.data.toList.drop 48 = dktX11_laysBack_2 := dk_seg dksX11_laysBack_1 24 rfl rfl
theorem dksX11_laysBack_3 : cX11_laysBack.data.toList.drop 72 = dktX11_laysBack_3 := dk_seg dksX11_laysBack_2 24 rfl rfl
theorem dksX11_laysBack_4 : cX11_laysBack.data.toList.drop 95 = dktX11_laysBack_4 := dk_seg dksX11_laysBack_3 23 rfl rfl
theorem dX11_laysBack_0 : decode cX11_laysBack 0 = .ok (.iconst 0, 1) := dk_3 (dk_at dksX11_laysBack_0 0 rfl rfl)
theorem dX11_laysBack_1 : decode cX11_laysBack 1 = .ok (.istore_n 2, 1) := dk_61 (dk_at dksX11_laysBack_0 1 rfl rfl)
theorem dX11_laysBack_2 : decode cX11_laysBack 2 = .ok (.iload_n 2, 1) := dk_28 (dk_at dksX11_laysBack_0 2 rfl rfl)
theorem dX11_laysBack_3 : decode cX11_laysBack 3 = .ok (.bipush 40, 2) := dk_16 40 (dk_at dksX11_laysBack_0 3 rfl rfl)
theorem dX11_laysBack_5 : decode cX11_laysBack 5 = .ok (.if_icmp .ge 62, 3) := dk_162 0 62 (dk_at dksX11_laysBack_0 5 rfl rfl)
theorem dX11_laysBack_8 : decode cX11_laysBack 8 = .ok (.aload_n 0, 1) := dk_42 (dk_at dksX11_laysBack_0 8 rfl rfl)
theorem dX11_laysBack_9 : decode cX11_laysBack 9 = .ok (.getfield 57, 3) := dk_180 0 57 (dk_at dksX11_laysBack_0 9 rfl rfl)
theorem dX11_laysBack_12 : decode cX11_laysBack 12 = .ok (.iload_n 2, 1) := dk_28 (dk_at dksX11_laysBack_0 12 rfl rfl)
theorem dX11_laysBack_13 : decode cX11_laysBack 13 = .ok (.aload_n 0, 1) := dk_42 (dk_at dksX11_laysBack_0 13 rfl rfl)
theorem dX11_laysBack_14 : decode cX11_laysBack 14 = .ok (.getfield 127, 3) := dk_180 0 127 (dk_at dksX11_laysBack_0 14 rfl rfl)
theorem dX11_laysBack_17 : decode cX11_laysBack 17 = .ok (.iload_n 2, 1) := dk_28 (dk_at dksX11_laysBack_0 17 rfl rfl)
theorem dX11_laysBack_18 : decode cX11_laysBack 18 = .ok (.laload, 1) := dk_47 (dk_at dksX11_laysBack_0 18 rfl rfl)
theorem dX11_laysBack_19 : decode cX11_laysBack 19 = .ok (.lastore, 1) := dk_80 (dk_at dksX11_laysBack_0 19 rfl rfl)
theorem dX11_laysBack_20 : decode cX11_laysBack 20 = .ok (.aload_n 0, 1) := dk_42 (dk_at dksX11_laysBack_0 20 rfl rfl)
theorem dX11_laysBack_21 : decode cX11_laysBack 21 = .ok (.getfield 76, 3) := dk_180 0 76 (dk_at dksX11_laysBack_0 21 rfl rfl)
theorem dX11_laysBack_24 : decode cX11_laysBack 24 = .ok (.bipush 40, 2) := dk_16 40 (dk_at dksX11_laysBack_1 0 rfl rfl)
theorem dX11_laysBack_26 : decode cX11_laysBack 26 = .ok (.iload_n 1, 1) := dk_27 (dk_at dksX11_laysBack_1 2 rfl rfl)
theorem dX11_laysBack_27 : decode cX11_laysBack 27 = .ok (.imul, 1) := dk_104 (dk_at dksX11_laysBack_1 3 rfl rfl)
theorem dX11_laysBack_28 : decode cX11_laysBack 28 = .ok (.iload_n 2, 1) := dk_28 (dk_at dksX11_laysBack_1 4 rfl rfl)
theorem dX11_laysBack_29 : decode cX11_laysBack 29 = .ok (.iadd, 1) := dk_96 (dk_at dksX11_laysBack_1 5 rfl rfl)
theorem dX11_laysBack_30 : decode cX11_laysBack 30 = .ok (.aload_n 0, 1) := dk_42 (dk_at dksX11_laysBack_1 6 rfl rfl)
theorem dX11_laysBack_31 : decode cX11_laysBack 31 = .ok (.getfield 130, 3) := dk_180 0 130 (dk_at dksX11_laysBack_1 7 rfl rfl)
theorem dX11_laysBack_34 : decode cX11_laysBack 34 = .ok (.iload_n 2, 1) := dk_28 (dk_at dksX11_laysBack_1 10 rfl rfl)
theorem dX11_laysBack_35 : decode cX11_laysBack 35 = .ok (.laload, 1) := dk_47 (dk_at dksX11_laysBack_1 11 rfl rfl)
theorem dX11_laysBack_36 : decode cX11_laysBack 36 = .ok (.lastore, 1) := dk_80 (dk_at dksX11_laysBack_1 12 rfl rfl)
theorem dX11_laysBack_37 : decode cX11_laysBack 37 = .ok (.aload_n 0, 1) := dk_42 (dk_at dksX11_laysBack_1 13 rfl rfl)
theorem dX11_laysBack_38 : decode cX11_laysBack 38 = .ok (.getfield 79, 3) := dk_180 0 79 (dk_at dksX11_laysBack_1 14 rfl rfl)
theorem dX11_laysBack_41 : decode cX11_laysBack 41 = .ok (.bipush 40, 2) := dk_16 40 (dk_at dksX11_laysBack_1 17 rfl rfl)
theorem dX11_laysBack_43 : decode cX11_laysBack 43 = .ok (.iload_n 1, 1) := dk_27 (dk_at dksX11_laysBack_1 19 rfl rfl)
theorem dX11_laysBack_44 : decode cX11_laysBack 44 = .ok (.imul, 1) := dk_104 (dk_at dksX11_laysBack_1 20 rfl rfl)
theorem dX11_laysBack_45 : decode cX11_laysBack 45 = .ok (.iload_n 2, 1) := dk_28 (dk_at dksX11_laysBack_1 21 rfl rfl)
theorem dX11_laysBack_46 : decode cX11_laysBack 46 = .ok (.iadd, 1) := dk_96 (dk_at dksX11_laysBack_1 22 rfl rfl)
theorem dX11_laysBack_47 : decode cX11_laysBack 47 = .ok (.aload_n 0, 1) := dk_42 (dk_at dksX11_laysBack_1 23 rfl rfl)
theorem dX11_laysBack_48 : decode cX11_laysBack 48 = .ok (.getfield 133, 3) := dk_180 0 133 (dk_at dksX11_laysBack_2 0 rfl rfl)
theorem dX11_laysBack_51 : decode cX11_laysBack 51 = .ok (.iload_n 2, 1) := dk_28 (dk_at dksX11_laysBack_2 3 rfl rfl)
theorem dX11_laysBack_52 : decode cX11_laysBack 52 = .ok (.laload, 1) := dk_47 (dk_at dksX11_laysBack_2 4 rfl rfl)
theorem dX11_laysBack_53 : decode cX11_laysBack 53 = .ok (.lastore, 1) := dk_80 (dk_at dksX11_laysBack_2 5 rfl rfl)
theorem dX11_laysBack_54 : decode cX11_laysBack 54 = .ok (.aload_n 0, 1) := dk_42 (dk_at dksX11_laysBack_2 6 rfl rfl)
theorem dX11_laysBack_55 : decode cX11_laysBack 55 = .ok (.getfield 115, 3) := dk_180 0 115 (dk_at dksX11_laysBack_2 7 rfl rfl)
theorem dX11_laysBack_58 : decode cX11_laysBack 58 = .ok (.iload_n 2, 1) := dk_28 (dk_at dksX11_laysBack_2 10 rfl rfl)
theorem dX11_laysBack_59 : decode cX11_laysBack 59 = .ok (.lconst 0, 1) := dk_9 (dk_at dksX11_laysBack_2 11 rfl rfl)
theorem dX11_laysBack_60 : decode cX11_laysBack 60 = .ok (.lastore, 1) := dk_80 (dk_at dksX11_laysBack_2 12 rfl rfl)
theorem dX11_laysBack_61 : decode cX11_laysBack 61 = .ok (.iinc 2 1, 3) := dk_132 2 1 (dk_at dksX11_laysBack_2 13 rfl rfl)
theorem dX11_laysBack_64 : decode cX11_laysBack 64 = .ok (.goto (-62), 3) := dk_167 255 194 (dk_at dksX11_laysBack_2 16 rfl rfl)
theorem dX11_laysBack_67 : decode cX11_laysBack 67 = .ok (.iconst 0, 1) := dk_3 (dk_at dksX11_laysBack_2 19 rfl rfl)
theorem dX11_laysBack_68 : decode cX11_laysBack 68 = .ok (.istore_n 2, 1) := dk_61 (dk_at dksX11_laysBack_2 20 rfl rfl)
theorem dX11_laysBack_69 : decode cX11_laysBack 69 = .ok (.iload_n 2, 1) := dk_28 (dk_at dksX11_laysBack_2 21 rfl rfl)
theorem dX11_laysBack_70 : decode cX11_laysBack 70 = .ok (.bipush 7, 2) := dk_16 7 (dk_at dksX11_laysBack_2 22 rfl rfl)
theorem dX11_laysBack_72 : decode cX11_laysBack 72 = .ok (.if_icmp .ge 26, 3) := dk_162 0 26 (dk_at dksX11_laysBack_3 0 rfl rfl)
theorem dX11_laysBack_75 : decode cX11_laysBack 75 = .ok (.aload_n 0, 1) := dk_42 (dk_at dksX11_laysBack_3 3 rfl rfl)
theorem dX11_laysBack_76 : decode cX11_laysBack 76 = .ok (.getfield 91, 3) := dk_180 0 91 (dk_at dksX11_laysBack_3 4 rfl rfl)
theorem dX11_laysBack_79 : decode cX11_laysBack 79 = .ok (.bipush 7, 2) := dk_16 7 (dk_at dksX11_laysBack_3 7 rfl rfl)
theorem dX11_laysBack_81 : decode cX11_laysBack 81 = .ok (.iload_n 1, 1) := dk_27 (dk_at dksX11_laysBack_3 9 rfl rfl)
theorem dX11_laysBack_82 : decode cX11_laysBack 82 = .ok (.imul, 1) := dk_104 (dk_at dksX11_laysBack_3 10 rfl rfl)
theorem dX11_laysBack_83 : decode cX11_laysBack 83 = .ok (.iload_n 2, 1) := dk_28 (dk_at dksX11_laysBack_3 11 rfl rfl)
theorem dX11_laysBack_84 : decode cX11_laysBack 84 = .ok (.iadd, 1) := dk_96 (dk_at dksX11_laysBack_3 12 rfl rfl)
theorem dX11_laysBack_85 : decode cX11_laysBack 85 = .ok (.aload_n 0, 1) := dk_42 (dk_at dksX11_laysBack_3 13 rfl rfl)
theorem dX11_laysBack_86 : decode cX11_laysBack 86 = .ok (.getfield 136, 3) := dk_180 0 136 (dk_at dksX11_laysBack_3 14 rfl rfl)
theorem dX11_laysBack_89 : decode cX11_laysBack 89 = .ok (.iload_n 2, 1) := dk_28 (dk_at dksX11_laysBack_3 17 rfl rfl)
theorem dX11_laysBack_90 : decode cX11_laysBack 90 = .ok (.laload, 1) := dk_47 (dk_at dksX11_laysBack_3 18 rfl rfl)
theorem dX11_laysBack_91 : decode cX11_laysBack 91 = .ok (.lastore, 1) := dk_80 (dk_at dksX11_laysBack_3 19 rfl rfl)
theorem dX11_laysBack_92 : decode cX11_laysBack 92 = .ok (.iinc 2 1, 3) := dk_132 2 1 (dk_at dksX11_laysBack_3 20 rfl rfl)
theorem dX11_laysBack_95 : decode cX11_laysBack 95 = .ok (.goto (-26), 3) := dk_167 255 230 (dk_at dksX11_laysBack_4 0 rfl rfl)
theorem dX11_laysBack_98 : decode cX11_laysBack 98 = .ok (.return_, 1) := dk_177 (dk_at dksX11_laysBack_4 3 rfl rfl)
abbrev cX11_byFull : ByteArray := prog_16_method_34_code
def yX11_byFull : MethodName := ⟨RX11, "byFull", "(IJ)V"⟩
def dkwX11_byFull_4 : List UInt8 := [96, 92, 47, 22, 5, 97, 80, 177]
abbrev dktX11_byFull_4 : List UInt8 := dkwX11_byFull_4 ++ []
def dkwX11_byFull_3 : List UInt8 := [132, 7, 1, 167, 255, 230, 42, 180, 0, 91, 16, 7, 27, 104, 21, 4, 154, 0, 7, 6, 167, 0, 4, 5]
abbrev dktX11_byFull_3 : List UInt8 := dkwX11_byFull_3 ++ dktX11_byFull_4
def dkwX11_byFull_2 : List UInt8 := [21, 7, 21, 4, 162, 0, 25, 42, 27, 42, 180, 0, 124, 21, 7, 46, 22, 5, 182, 0, 215, 55, 5]
abbrev dktX11_byFull_2 : List UInt8 := dkwX11_byFull_2 ++ dktX11_byFull_3
def dkwX11_byFull_1 : List UInt8 := [21, 5, 79, 132, 4, 1, 42, 27, 21, 4, 182, 0, 225, 54, 5, 167, 255, 229, 32, 55, 5, 3, 54, 7]
abbrev dktX11_byFull_1 : List UInt8 := dkwX11_byFull_1 ++ dktX11_byFull_2
def dkwX11_byFull_0 : List UInt8 := [3, 54, 4, 42, 27, 3, 182, 0, 225, 54, 5, 21, 5, 2, 159, 0, 27, 42, 180, 0, 124, 21, 4]
abbrev dktX11_byFull_0 : List UInt8 := dkwX11_byFull_0 ++ dktX11_byFull_1
theorem dksX11_byFull_0 : cX11_byFull.data.toList.drop 0 = dktX11_byFull_0 := by decide +kernel
theorem dksX11_byFull_1 : cX11_byFull.data.toList.drop 23 = dktX11_byFull_1 := dk_seg dksX11_byFull_0 23 rfl rfl
theorem dksX11_byFull_2 : cX11_byFull.data.toList.drop 47 = dktX11_byFull_2 := dk_seg dksX11_byFull_1 24 rfl rfl
theorem dksX11_byFull_3 : cX11_byFull.data.toList.drop 70 = dktX11_byFull_3 := dk_seg dksX11_byFull_2 23 rfl rfl
theorem dksX11_byFull_4 : cX11_byFull.data.toList.drop 94 = dktX11_byFull_4 := dk_seg dksX11_byFull_3 24 rfl rfl
theorem dX11_byFull_0 : decode cX11_byFull 0 = .ok (.iconst 0, 1) := dk_3 (dk_at dksX11_byFull_0 0 rfl rfl)
theorem dX11_byFull_1 : decode cX11_byFull 1 = .ok (.istore 4, 2) := dk_54 4 (dk_at dksX11_byFull_0 1 rfl rfl)
theorem dX11_byFull_3 : decode cX11_byFull 3 = .ok (.aload_n 0, 1) := dk_42 (dk_at dksX11_byFull_0 3 rfl rfl)
theorem dX11_byFull_4 : decode cX11_byFull 4 = .ok (.iload_n 1, 1) := dk_27 (dk_at dksX11_byFull_0 4 rfl rfl)
theorem dX11_byFull_5 : decode cX11_byFull 5 = .ok (.iconst 0, 1) := dk_3 (dk_at dksX11_byFull_0 5 rfl rfl)
theorem dX11_byFull_6 : decode cX11_byFull 6 = .ok (.invokevirtual 225, 3) := dk_182 0 225 (dk_at dksX11_byFull_0 6 rfl rfl)
theorem dX11_byFull_9 : decode cX11_byFull 9 = .ok (.istore 5, 2) := dk_54 5 (dk_at dksX11_byFull_0 9 rfl rfl)
theorem dX11_byFull_11 : decode cX11_byFull 11 = .ok (.iload 5, 2) := dk_21 5 (dk_at dksX11_byFull_0 11 rfl rfl)
theorem dX11_byFull_13 : decode cX11_byFull 13 = .ok (.iconst (-1), 1) := dk_2 (dk_at dksX11_byFull_0 13 rfl rfl)
theorem dX11_byFull_14 : decode cX11_byFull 14 = .ok (.if_icmp .eq 27, 3) := dk_159 0 27 (dk_at dksX11_byFull_0 14 rfl rfl)
theorem dX11_byFull_17 : decode cX11_byFull 17 = .ok (.aload_n 0, 1) := dk_42 (dk_at dksX11_byFull_0 17 rfl rfl)
theorem dX11_byFull_18 : decode cX11_byFull 18 = .ok (.getfield 124, 3) := dk_180 0 124 (dk_at dksX11_byFull_0 18 rfl rfl)
theorem dX11_byFull_21 : decode cX11_byFull 21 = .ok (.iload 4, 2) := dk_21 4 (dk_at dksX11_byFull_0 21 rfl rfl)
theorem dX11_byFull_23 : decode cX11_byFull 23 = .ok (.iload 5, 2) := dk_21 5 (dk_at dksX11_byFull_1 0 rfl rfl)
theorem dX11_byFull_25 : decode cX11_byFull 25 = .ok (.iastore, 1) := dk_79 (dk_at dksX11_byFull_1 2 rfl rfl)
theorem dX11_byFull_26 : decode cX11_byFull 26 = .ok (.iinc 4 1, 3) := dk_132 4 1 (dk_at dksX11_byFull_1 3 rfl rfl)
theorem dX11_byFull_29 : decode cX11_byFull 29 = .ok (.aload_n 0, 1) := dk_42 (dk_at dksX11_byFull_1 6 rfl rfl)
theorem dX11_byFull_30 : decode cX11_byFull 30 = .ok (.iload_n 1, 1) := dk_27 (dk_at dksX11_byFull_1 7 rfl rfl)
theorem dX11_byFull_31 : decode cX11_byFull 31 = .ok (.iload 4, 2) := dk_21 4 (dk_at dksX11_byFull_1 8 rfl rfl)
theorem dX11_byFull_33 : decode cX11_byFull 33 = .ok (.invokevirtual 225, 3) := dk_182 0 225 (dk_at dksX11_byFull_1 10 rfl rfl)
theorem dX11_byFull_36 : decode cX11_byFull 36 = .ok (.istore 5, 2) := dk_54 5 (dk_at dksX11_byFull_1 13 rfl rfl)
theorem dX11_byFull_38 : decode cX11_byFull 38 = .ok (.goto (-27), 3) := dk_167 255 229 (dk_at dksX11_byFull_1 15 rfl rfl)
theorem dX11_byFull_41 : decode cX11_byFull 41 = .ok (.lload_n 2, 1) := dk_32 (dk_at dksX11_byFull_1 18 rfl rfl)
theorem dX11_byFull_42 : decode cX11_byFull 42 = .ok (.lstore 5, 2) := dk_55 5 (dk_at dksX11_byFull_1 19 rfl rfl)
theorem dX11_byFull_44 : decode cX11_byFull 44 = .ok (.iconst 0, 1) := dk_3 (dk_at dksX11_byFull_1 21 rfl rfl)
theorem dX11_byFull_45 : decode cX11_byFull 45 = .ok (.istore 7, 2) := dk_54 7 (dk_at dksX11_byFull_1 22 rfl rfl)
theorem dX11_byFull_47 : decode cX11_byFull 47 = .ok (.iload 7, 2) := dk_21 7 (dk_at dksX11_byFull_2 0 rfl rfl)
theorem dX11_byFull_49 : decode cX11_byFull 49 = .ok (.iload 4, 2) := dk_21 4 (dk_at dksX11_byFull_2 2 rfl rfl)
theorem dX11_byFull_51 : decode cX11_byFull 51 = .ok (.if_icmp .ge 25, 3) := dk_162 0 25 (dk_at dksX11_byFull_2 4 rfl rfl)
theorem dX11_byFull_54 : decode cX11_byFull 54 = .ok (.aload_n 0, 1) := dk_42 (dk_at dksX11_byFull_2 7 rfl rfl)
theorem dX11_byFull_55 : decode cX11_byFull 55 = .ok (.iload_n 1, 1) := dk_27 (dk_at dksX11_byFull_2 8 rfl rfl)
theorem dX11_byFull_56 : decode cX11_byFull 56 = .ok (.aload_n 0, 1) := dk_42 (dk_at dksX11_byFull_2 9 rfl rfl)
theorem dX11_byFull_57 : decode cX11_byFull 57 = .ok (.getfield 124, 3) := dk_180 0 124 (dk_at dksX11_byFull_2 10 rfl rfl)
theorem dX11_byFull_60 : decode cX11_byFull 60 = .ok (.iload 7, 2) := dk_21 7 (dk_at dksX11_byFull_2 13 rfl rfl)
theorem dX11_byFull_62 : decode cX11_byFull 62 = .ok (.iaload, 1) := dk_46 (dk_at dksX11_byFull_2 15 rfl rfl)
theorem dX11_byFull_63 : decode cX11_byFull 63 = .ok (.lload 5, 2) := dk_22 5 (dk_at dksX11_byFull_2 16 rfl rfl)
theorem dX11_byFull_65 : decode cX11_byFull 65 = .ok (.invokevirtual 215, 3) := dk_182 0 215 (dk_at dksX11_byFull_2 18 rfl rfl)
theorem dX11_byFull_68 : decode cX11_byFull 68 = .ok (.lstore 5, 2) := dk_55 5 (dk_at dksX11_byFull_2 21 rfl rfl)
theorem dX11_byFull_70 : decode cX11_byFull 70 = .ok (.iinc 7 1, 3) := dk_132 7 1 (dk_at dksX11_byFull_3 0 rfl rfl)
theorem dX11_byFull_73 : decode cX11_byFull 73 = .ok (.goto (-26), 3) := dk_167 255 230 (dk_at dksX11_byFull_3 3 rfl rfl)
theorem dX11_byFull_76 : decode cX11_byFull 76 = .ok (.aload_n 0, 1) := dk_42 (dk_at dksX11_byFull_3 6 rfl rfl)
theorem dX11_byFull_77 : decode cX11_byFull 77 = .ok (.getfield 91, 3) := dk_180 0 91 (dk_at dksX11_byFull_3 7 rfl rfl)
theorem dX11_byFull_80 : decode cX11_byFull 80 = .ok (.bipush 7, 2) := dk_16 7 (dk_at dksX11_byFull_3 10 rfl rfl)
theorem dX11_byFull_82 : decode cX11_byFull 82 = .ok (.iload_n 1, 1) := dk_27 (dk_at dksX11_byFull_3 12 rfl rfl)
theorem dX11_byFull_83 : decode cX11_byFull 83 = .ok (.imul, 1) := dk_104 (dk_at dksX11_byFull_3 13 rfl rfl)
theorem dX11_byFull_84 : decode cX11_byFull 84 = .ok (.iload 4, 2) := dk_21 4 (dk_at dksX11_byFull_3 14 rfl rfl)
theorem dX11_byFull_86 : decode cX11_byFull 86 = .ok (.ifCond .ne 7, 3) := dk_154 0 7 (dk_at dksX11_byFull_3 16 rfl rfl)
theorem dX11_byFull_89 : decode cX11_byFull 89 = .ok (.iconst 3, 1) := dk_6 (dk_at dksX11_byFull_3 19 rfl rfl)
theorem dX11_byFull_90 : decode cX11_byFull 90 = .ok (.goto 4, 3) := dk_167 0 4 (dk_at dksX11_byFull_3 20 rfl rfl)
theorem dX11_byFull_93 : decode cX11_byFull 93 = .ok (.iconst 2, 1) := dk_5 (dk_at dksX11_byFull_3 23 rfl rfl)
theorem dX11_byFull_94 : decode cX11_byFull 94 = .ok (.iadd, 1) := dk_96 (dk_at dksX11_byFull_4 0 rfl rfl)
theorem dX11_byFull_95 : decode cX11_byFull 95 = .ok (.dup2, 1) := dk_92 (dk_at dksX11_byFull_4 1 rfl rfl)
theorem dX11_byFull_96 : decode cX11_byFull 96 = .ok (.laload, 1) := dk_47 (dk_at dksX11_byFull_4 2 rfl rfl)
theorem dX11_byFull_97 : decode cX11_byFull 97 = .ok (.lload 5, 2) := dk_22 5 (dk_at dksX11_byFull_4 3 rfl rfl)
theorem dX11_byFull_99 : decode cX11_byFull 99 = .ok (.ladd, 1) := dk_97 (dk_at dksX11_byFull_4 5 rfl rfl)
theorem dX11_byFull_100 : decode cX11_byFull 100 = .ok (.lastore, 1) := dk_80 (dk_at dksX11_byFull_4 6 rfl rfl)
theorem dX11_byFull_101 : decode cX11_byFull 101 = .ok (.return_, 1) := dk_177 (dk_at dksX11_byFull_4 7 rfl rfl)
abbrev cX11_picked : ByteArray := prog_16_method_33_code
def yX11_picked : MethodName := ⟨RX11, "picked", "(II)I"⟩
def dkwX11_picked_6 : List UInt8 := [167, 255, 122, 2, 172]
abbrev dktX11_picked_6 : List UInt8 := dkwX11_picked_6 ++ []
def dkwX11_picked_5 : List UInt8 := [167, 0, 4, 3, 96, 54, 4, 132, 5, 1, 167, 255, 168, 21, 4, 28, 160, 0, 5, 29, 172, 132, 3, 1]
abbrev dktX11_picked_5 : List UInt8 := dkwX11_picked_5 ++ dktX11_picked_6
def dkwX11_picked_4 : List UInt8 := [21, 5, 182, 0, 222, 42, 27, 29, 182, 0, 222, 148, 154, 0, 13, 21, 5, 29, 162, 0, 7, 4]
abbrev dktX11_picked_4 : List UInt8 := dkwX11_picked_4 ++ dktX11_picked_5
def dkwX11_picked_3 : List UInt8 := [167, 0, 53, 21, 4, 42, 27, 21, 5, 182, 0, 222, 42, 27, 29, 182, 0, 222, 148, 155, 0, 26, 42, 27]
abbrev dktX11_picked_3 : List UInt8 := dkwX11_picked_3 ++ dktX11_picked_4
def dkwX11_picked_2 : List UInt8 := [159, 0, 75, 42, 27, 21, 5, 182, 0, 197, 153, 0, 65, 42, 21, 5, 182, 0, 205, 153, 0, 6]
abbrev dktX11_picked_2 : List UInt8 := dkwX11_picked_2 ++ dktX11_picked_3
def dkwX11_picked_1 : List UInt8 := [153, 0, 6, 167, 0, 108, 3, 54, 4, 3, 54, 5, 21, 5, 16, 12, 162, 0, 87, 21, 5, 29]
abbrev dktX11_picked_1 : List UInt8 := dkwX11_picked_1 ++ dktX11_picked_2
def dkwX11_picked_0 : List UInt8 := [3, 62, 29, 16, 12, 162, 0, 134, 42, 27, 29, 182, 0, 197, 153, 0, 119, 42, 29, 182, 0, 205]
abbrev dktX11_picked_0 : List UInt8 := dkwX11_picked_0 ++ dktX11_picked_1
theorem dksX11_picked_0 : cX11_picked.data.toList.drop 0 = dktX11_picked_0 := by decide +kernel
theorem dksX11_picked_1 : cX11_picked.data.toList.drop 22 = dktX11_picked_1 := dk_seg dksX11_picked_0 22 rfl rfl
theorem dksX11_picked_2 : cX11_picked.data.toList.drop 44 = dktX11_picked_2 := dk_seg dksX11_picked_1 22 rfl rfl
theorem dksX11_picked_3 : cX11_picked.data.toList.drop 66 = dktX11_picked_3 := dk_seg dksX11_picked_2 22 rfl rfl
theorem dksX11_picked_4 : cX11_picked.data.toList.drop 90 = dktX11_picked_4 := dk_seg dksX11_picked_3 24 rfl rfl
theorem dksX11_picked_5 : cX11_picked.data.toList.drop 112 = dktX11_picked_5 := dk_seg dksX11_picked_4 22 rfl rfl
theorem dksX11_picked_6 : cX11_picked.data.toList.drop 136 = dktX11_picked_6 := dk_seg dksX11_picked_5 24 rfl rfl
theorem dX11_picked_0 : decode cX11_picked 0 = .ok (.iconst 0, 1) := dk_3 (dk_at dksX11_picked_0 0 rfl rfl)
theorem dX11_picked_1 : decode cX11_picked 1 = .ok (.istore_n 3, 1) := dk_62 (dk_at dksX11_picked_0 1 rfl rfl)
theorem dX11_picked_2 : decode cX11_picked 2 = .ok (.iload_n 3, 1) := dk_29 (dk_at dksX11_picked_0 2 rfl rfl)
theorem dX11_picked_3 : decode cX11_picked 3 = .ok (.bipush 12, 2) := dk_16 12 (dk_at dksX11_picked_0 3 rfl rfl)
theorem dX11_picked_5 : decode cX11_picked 5 = .ok (.if_icmp .ge 134, 3) := dk_162 0 134 (dk_at dksX11_picked_0 5 rfl rfl)
theorem dX11_picked_8 : decode cX11_picked 8 = .ok (.aload_n 0, 1) := dk_42 (dk_at dksX11_picked_0 8 rfl rfl)
theorem dX11_picked_9 : decode cX11_picked 9 = .ok (.iload_n 1, 1) := dk_27 (dk_at dksX11_picked_0 9 rfl rfl)
theorem dX11_picked_10 : decode cX11_picked 10 = .ok (.iload_n 3, 1) := dk_29 (dk_at dksX11_picked_0 10 rfl rfl)
theorem dX11_picked_11 : decode cX11_picked 11 = .ok (.invokevirtual 197, 3) := dk_182 0 197 (dk_at dksX11_picked_0 11 rfl rfl)
theorem dX11_picked_14 : decode cX11_picked 14 = .ok (.ifCond .eq 119, 3) := dk_153 0 119 (dk_at dksX11_picked_0 14 rfl rfl)
theorem dX11_picked_17 : decode cX11_picked 17 = .ok (.aload_n 0, 1) := dk_42 (dk_at dksX11_picked_0 17 rfl rfl)
theorem dX11_picked_18 : decode cX11_picked 18 = .ok (.iload_n 3, 1) := dk_29 (dk_at dksX11_picked_0 18 rfl rfl)
theorem dX11_picked_19 : decode cX11_picked 19 = .ok (.invokevirtual 205, 3) := dk_182 0 205 (dk_at dksX11_picked_0 19 rfl rfl)
theorem dX11_picked_22 : decode cX11_picked 22 = .ok (.ifCond .eq 6, 3) := dk_153 0 6 (dk_at dksX11_picked_1 0 rfl rfl)
theorem dX11_picked_25 : decode cX11_picked 25 = .ok (.goto 108, 3) := dk_167 0 108 (dk_at dksX11_picked_1 3 rfl rfl)
theorem dX11_picked_28 : decode cX11_picked 28 = .ok (.iconst 0, 1) := dk_3 (dk_at dksX11_picked_1 6 rfl rfl)
theorem dX11_picked_29 : decode cX11_picked 29 = .ok (.istore 4, 2) := dk_54 4 (dk_at dksX11_picked_1 7 rfl rfl)
theorem dX11_picked_31 : decode cX11_picked 31 = .ok (.iconst 0, 1) := dk_3 (dk_at dksX11_picked_1 9 rfl rfl)
theorem dX11_picked_32 : decode cX11_picked 32 = .ok (.istore 5, 2) := dk_54 5 (dk_at dksX11_picked_1 10 rfl rfl)
theorem dX11_picked_34 : decode cX11_picked 34 = .ok (.iload 5, 2) := dk_21 5 (dk_at dksX11_picked_1 12 rfl rfl)
theorem dX11_picked_36 : decode cX11_picked 36 = .ok (.bipush 12, 2) := dk_16 12 (dk_at dksX11_picked_1 14 rfl rfl)
theorem dX11_picked_38 : decode cX11_picked 38 = .ok (.if_icmp .ge 87, 3) := dk_162 0 87 (dk_at dksX11_picked_1 16 rfl rfl)
theorem dX11_picked_41 : decode cX11_picked 41 = .ok (.iload 5, 2) := dk_21 5 (dk_at dksX11_picked_1 19 rfl rfl)
theorem dX11_picked_43 : decode cX11_picked 43 = .ok (.iload_n 3, 1) := dk_29 (dk_at dksX11_picked_1 21 rfl rfl)
theorem dX11_picked_44 : decode cX11_picked 44 = .ok (.if_icmp .eq 75, 3) := dk_159 0 75 (dk_at dksX11_picked_2 0 rfl rfl)
theorem dX11_picked_47 : decode cX11_picked 47 = .ok (.aload_n 0, 1) := dk_42 (dk_at dksX11_picked_2 3 rfl rfl)
theorem dX11_picked_48 : decode cX11_picked 48 = .ok (.iload_n 1, 1) := dk_27 (dk_at dksX11_picked_2 4 rfl rfl)
theorem dX11_picked_49 : decode cX11_picked 49 = .ok (.iload 5, 2) := dk_21 5 (dk_at dksX11_picked_2 5 rfl rfl)
theorem dX11_picked_51 : decode cX11_picked 51 = .ok (.invokevirtual 197, 3) := dk_182 0 197 (dk_at dksX11_picked_2 7 rfl rfl)
theorem dX11_picked_54 : decode cX11_picked 54 = .ok (.ifCond .eq 65, 3) := dk_153 0 65 (dk_at dksX11_picked_2 10 rfl rfl)
theorem dX11_picked_57 : decode cX11_picked 57 = .ok (.aload_n 0, 1) := dk_42 (dk_at dksX11_picked_2 13 rfl rfl)
theorem dX11_picked_58 : decode cX11_picked 58 = .ok (.iload 5, 2) := dk_21 5 (dk_at dksX11_picked_2 14 rfl rfl)
theorem dX11_picked_60 : decode cX11_picked 60 = .ok (.invokevirtual 205, 3) := dk_182 0 205 (dk_at dksX11_picked_2 16 rfl rfl)
theorem dX11_picked_63 : decode cX11_picked 63 = .ok (.ifCond .eq 6, 3) := dk_153 0 6 (dk_at dksX11_picked_2 19 rfl rfl)
theorem dX11_picked_66 : decode cX11_picked 66 = .ok (.goto 53, 3) := dk_167 0 53 (dk_at dksX11_picked_3 0 rfl rfl)
theorem dX11_picked_69 : decode cX11_picked 69 = .ok (.iload 4, 2) := dk_21 4 (dk_at dksX11_picked_3 3 rfl rfl)
theorem dX11_picked_71 : decode cX11_picked 71 = .ok (.aload_n 0, 1) := dk_42 (dk_at dksX11_picked_3 5 rfl rfl)
theorem dX11_picked_72 : decode cX11_picked 72 = .ok (.iload_n 1, 1) := dk_27 (dk_at dksX11_picked_3 6 rfl rfl)
theorem dX11_picked_73 : decode cX11_picked 73 = .ok (.iload 5, 2) := dk_21 5 (dk_at dksX11_picked_3 7 rfl rfl)
theorem dX11_picked_75 : decode cX11_picked 75 = .ok (.invokevirtual 222, 3) := dk_182 0 222 (dk_at dksX11_picked_3 9 rfl rfl)
theorem dX11_picked_78 : decode cX11_picked 78 = .ok (.aload_n 0, 1) := dk_42 (dk_at dksX11_picked_3 12 rfl rfl)
theorem dX11_picked_79 : decode cX11_picked 79 = .ok (.iload_n 1, 1) := dk_27 (dk_at dksX11_picked_3 13 rfl rfl)
theorem dX11_picked_80 : decode cX11_picked 80 = .ok (.iload_n 3, 1) := dk_29 (dk_at dksX11_picked_3 14 rfl rfl)
theorem dX11_picked_81 : decode cX11_picked 81 = .ok (.invokevirtual 222, 3) := dk_182 0 222 (dk_at dksX11_picked_3 15 rfl rfl)
theorem dX11_picked_84 : decode cX11_picked 84 = .ok (.lcmp, 1) := dk_148 (dk_at dksX11_picked_3 18 rfl rfl)
theorem dX11_picked_85 : decode cX11_picked 85 = .ok (.ifCond .lt 26, 3) := dk_155 0 26 (dk_at dksX11_picked_3 19 rfl rfl)
theorem dX11_picked_88 : decode cX11_picked 88 = .ok (.aload_n 0, 1) := dk_42 (dk_at dksX11_picked_3 22 rfl rfl)
theorem dX11_picked_89 : decode cX11_picked 89 = .ok (.iload_n 1, 1) := dk_27 (dk_at dksX11_picked_3 23 rfl rfl)
theorem dX11_picked_90 : decode cX11_picked 90 = .ok (.iload 5, 2) := dk_21 5 (dk_at dksX11_picked_4 0 rfl rfl)
theorem dX11_picked_92 : decode cX11_picked 92 = .ok (.invokevirtual 222, 3) := dk_182 0 222 (dk_at dksX11_picked_4 2 rfl rfl)
theorem dX11_picked_95 : decode cX11_picked 95 = .ok (.aload_n 0, 1) := dk_42 (dk_at dksX11_picked_4 5 rfl rfl)
theorem dX11_picked_96 : decode cX11_picked 96 = .ok (.iload_n 1, 1) := dk_27 (dk_at dksX11_picked_4 6 rfl rfl)
theorem dX11_picked_97 : decode cX11_picked 97 = .ok (.iload_n 3, 1) := dk_29 (dk_at dksX11_picked_4 7 rfl rfl)
theorem dX11_picked_98 : decode cX11_picked 98 = .ok (.invokevirtual 222, 3) := dk_182 0 222 (dk_at dksX11_picked_4 8 rfl rfl)
theorem dX11_picked_101 : decode cX11_picked 101 = .ok (.lcmp, 1) := dk_148 (dk_at dksX11_picked_4 11 rfl rfl)
theorem dX11_picked_102 : decode cX11_picked 102 = .ok (.ifCond .ne 13, 3) := dk_154 0 13 (dk_at dksX11_picked_4 12 rfl rfl)
theorem dX11_picked_105 : decode cX11_picked 105 = .ok (.iload 5, 2) := dk_21 5 (dk_at dksX11_picked_4 15 rfl rfl)
theorem dX11_picked_107 : decode cX11_picked 107 = .ok (.iload_n 3, 1) := dk_29 (dk_at dksX11_picked_4 17 rfl rfl)
theorem dX11_picked_108 : decode cX11_picked 108 = .ok (.if_icmp .ge 7, 3) := dk_162 0 7 (dk_at dksX11_picked_4 18 rfl rfl)
theorem dX11_picked_111 : decode cX11_picked 111 = .ok (.iconst 1, 1) := dk_4 (dk_at dksX11_picked_4 21 rfl rfl)
theorem dX11_picked_112 : decode cX11_picked 112 = .ok (.goto 4, 3) := dk_167 0 4 (dk_at dksX11_picked_5 0 rfl rfl)
theorem dX11_picked_115 : decode cX11_picked 115 = .ok (.iconst 0, 1) := dk_3 (dk_at dksX11_picked_5 3 rfl rfl)
theorem dX11_picked_116 : decode cX11_picked 116 = .ok (.iadd, 1) := dk_96 (dk_at dksX11_picked_5 4 rfl rfl)
theorem dX11_picked_117 : decode cX11_picked 117 = .ok (.istore 4, 2) := dk_54 4 (dk_at dksX11_picked_5 5 rfl rfl)
theorem dX11_picked_119 : decode cX11_picked 119 = .ok (.iinc 5 1, 3) := dk_132 5 1 (dk_at dksX11_picked_5 7 rfl rfl)
theorem dX11_picked_122 : decode cX11_picked 122 = .ok (.goto (-88), 3) := dk_167 255 168 (dk_at dksX11_picked_5 10 rfl rfl)
theorem dX11_picked_125 : decode cX11_picked 125 = .ok (.iload 4, 2) := dk_21 4 (dk_at dksX11_picked_5 13 rfl rfl)
theorem dX11_picked_127 : decode cX11_picked 127 = .ok (.iload_n 2, 1) := dk_28 (dk_at dksX11_picked_5 15 rfl rfl)
theorem dX11_picked_128 : decode cX11_picked 128 = .ok (.if_icmp .ne 5, 3) := dk_160 0 5 (dk_at dksX11_picked_5 16 rfl rfl)
theorem dX11_picked_131 : decode cX11_picked 131 = .ok (.iload_n 3, 1) := dk_29 (dk_at dksX11_picked_5 19 rfl rfl)
theorem dX11_picked_132 : decode cX11_picked 132 = .ok (.ireturn, 1) := dk_172 (dk_at dksX11_picked_5 20 rfl rfl)
theorem dX11_picked_133 : decode cX11_picked 133 = .ok (.iinc 3 1, 3) := dk_132 3 1 (dk_at dksX11_picked_5 21 rfl rfl)
theorem dX11_picked_136 : decode cX11_picked 136 = .ok (.goto (-134), 3) := dk_167 255 122 (dk_at dksX11_picked_6 0 rfl rfl)
theorem dX11_picked_139 : decode cX11_picked 139 = .ok (.iconst (-1), 1) := dk_2 (dk_at dksX11_picked_6 3 rfl rfl)
theorem dX11_picked_140 : decode cX11_picked 140 = .ok (.ireturn, 1) := dk_172 (dk_at dksX11_picked_6 4 rfl rfl)
abbrev cX11_rankOf : ByteArray := prog_16_method_32_code
def yX11_rankOf : MethodName := ⟨RX11, "rankOf", "(II)J"⟩
def dkwX11_rankOf_2 : List UInt8 := [167, 0, 5, 28, 133, 173]
abbrev dktX11_rankOf_2 : List UInt8 := dkwX11_rankOf_2 ++ []
def dkwX11_rankOf_1 : List UInt8 := [180, 0, 39, 42, 28, 3, 182, 0, 161, 46, 133, 173, 42, 180, 0, 158, 4, 160, 0, 9, 28, 116, 133]
abbrev dktX11_rankOf_1 : List UInt8 := dkwX11_rankOf_1 ++ dktX11_rankOf_2
def dkwX11_rankOf_0 : List UInt8 := [42, 180, 0, 158, 154, 0, 11, 42, 27, 28, 182, 0, 219, 117, 173, 42, 180, 0, 158, 5, 160, 0, 16, 42]
abbrev dktX11_rankOf_0 : List UInt8 := dkwX11_rankOf_0 ++ dktX11_rankOf_1
theorem dksX11_rankOf_0 : cX11_rankOf.data.toList.drop 0 = dktX11_rankOf_0 := by decide +kernel
theorem dksX11_rankOf_1 : cX11_rankOf.data.toList.drop 24 = dktX11_rankOf_1 := dk_seg dksX11_rankOf_0 24 rfl rfl
theorem dksX11_rankOf_2 : cX11_rankOf.data.toList.drop 47 = dktX11_rankOf_2 := dk_seg dksX11_rankOf_1 23 rfl rfl
theorem dX11_rankOf_0 : decode cX11_rankOf 0 = .ok (.aload_n 0, 1) := dk_42 (dk_at dksX11_rankOf_0 0 rfl rfl)
theorem dX11_rankOf_1 : decode cX11_rankOf 1 = .ok (.getfield 158, 3) := dk_180 0 158 (dk_at dksX11_rankOf_0 1 rfl rfl)
theorem dX11_rankOf_4 : decode cX11_rankOf 4 = .ok (.ifCond .ne 11, 3) := dk_154 0 11 (dk_at dksX11_rankOf_0 4 rfl rfl)
theorem dX11_rankOf_7 : decode cX11_rankOf 7 = .ok (.aload_n 0, 1) := dk_42 (dk_at dksX11_rankOf_0 7 rfl rfl)
theorem dX11_rankOf_8 : decode cX11_rankOf 8 = .ok (.iload_n 1, 1) := dk_27 (dk_at dksX11_rankOf_0 8 rfl rfl)
theorem dX11_rankOf_9 : decode cX11_rankOf 9 = .ok (.iload_n 2, 1) := dk_28 (dk_at dksX11_rankOf_0 9 rfl rfl)
theorem dX11_rankOf_10 : decode cX11_rankOf 10 = .ok (.invokevirtual 219, 3) := dk_182 0 219 (dk_at dksX11_rankOf_0 10 rfl rfl)
theorem dX11_rankOf_13 : decode cX11_rankOf 13 = .ok (.lneg, 1) := dk_117 (dk_at dksX11_rankOf_0 13 rfl rfl)
theorem dX11_rankOf_14 : decode cX11_rankOf 14 = .ok (.lreturn, 1) := dk_173 (dk_at dksX11_rankOf_0 14 rfl rfl)
theorem dX11_rankOf_15 : decode cX11_rankOf 15 = .ok (.aload_n 0, 1) := dk_42 (dk_at dksX11_rankOf_0 15 rfl rfl)
theorem dX11_rankOf_16 : decode cX11_rankOf 16 = .ok (.getfield 158, 3) := dk_180 0 158 (dk_at dksX11_rankOf_0 16 rfl rfl)
theorem dX11_rankOf_19 : decode cX11_rankOf 19 = .ok (.iconst 2, 1) := dk_5 (dk_at dksX11_rankOf_0 19 rfl rfl)
theorem dX11_rankOf_20 : decode cX11_rankOf 20 = .ok (.if_icmp .ne 16, 3) := dk_160 0 16 (dk_at dksX11_rankOf_0 20 rfl rfl)
theorem dX11_rankOf_23 : decode cX11_rankOf 23 = .ok (.aload_n 0, 1) := dk_42 (dk_at dksX11_rankOf_0 23 rfl rfl)
theorem dX11_rankOf_24 : decode cX11_rankOf 24 = .ok (.getfield 39, 3) := dk_180 0 39 (dk_at dksX11_rankOf_1 0 rfl rfl)
theorem dX11_rankOf_27 : decode cX11_rankOf 27 = .ok (.aload_n 0, 1) := dk_42 (dk_at dksX11_rankOf_1 3 rfl rfl)
theorem dX11_rankOf_28 : decode cX11_rankOf 28 = .ok (.iload_n 2, 1) := dk_28 (dk_at dksX11_rankOf_1 4 rfl rfl)
theorem dX11_rankOf_29 : decode cX11_rankOf 29 = .ok (.iconst 0, 1) := dk_3 (dk_at dksX11_rankOf_1 5 rfl rfl)
theorem dX11_rankOf_30 : decode cX11_rankOf 30 = .ok (.invokevirtual 161, 3) := dk_182 0 161 (dk_at dksX11_rankOf_1 6 rfl rfl)
theorem dX11_rankOf_33 : decode cX11_rankOf 33 = .ok (.iaload, 1) := dk_46 (dk_at dksX11_rankOf_1 9 rfl rfl)
theorem dX11_rankOf_34 : decode cX11_rankOf 34 = .ok (.i2l, 1) := dk_133 (dk_at dksX11_rankOf_1 10 rfl rfl)
theorem dX11_rankOf_35 : decode cX11_rankOf 35 = .ok (.lreturn, 1) := dk_173 (dk_at dksX11_rankOf_1 11 rfl rfl)
theorem dX11_rankOf_36 : decode cX11_rankOf 36 = .ok (.aload_n 0, 1) := dk_42 (dk_at dksX11_rankOf_1 12 rfl rfl)
theorem dX11_rankOf_37 : decode cX11_rankOf 37 = .ok (.getfield 158, 3) := dk_180 0 158 (dk_at dksX11_rankOf_1 13 rfl rfl)
theorem dX11_rankOf_40 : decode cX11_rankOf 40 = .ok (.iconst 1, 1) := dk_4 (dk_at dksX11_rankOf_1 16 rfl rfl)
theorem dX11_rankOf_41 : decode cX11_rankOf 41 = .ok (.if_icmp .ne 9, 3) := dk_160 0 9 (dk_at dksX11_rankOf_1 17 rfl rfl)
theorem dX11_rankOf_44 : decode cX11_rankOf 44 = .ok (.iload_n 2, 1) := dk_28 (dk_at dksX11_rankOf_1 20 rfl rfl)
theorem dX11_rankOf_45 : decode cX11_rankOf 45 = .ok (.ineg, 1) := dk_116 (dk_at dksX11_rankOf_1 21 rfl rfl)
theorem dX11_rankOf_46 : decode cX11_rankOf 46 = .ok (.i2l, 1) := dk_133 (dk_at dksX11_rankOf_1 22 rfl rfl)
theorem dX11_rankOf_47 : decode cX11_rankOf 47 = .ok (.goto 5, 3) := dk_167 0 5 (dk_at dksX11_rankOf_2 0 rfl rfl)
theorem dX11_rankOf_50 : decode cX11_rankOf 50 = .ok (.iload_n 2, 1) := dk_28 (dk_at dksX11_rankOf_2 3 rfl rfl)
theorem dX11_rankOf_51 : decode cX11_rankOf 51 = .ok (.i2l, 1) := dk_133 (dk_at dksX11_rankOf_2 4 rfl rfl)
theorem dX11_rankOf_52 : decode cX11_rankOf 52 = .ok (.lreturn, 1) := dk_173 (dk_at dksX11_rankOf_2 5 rfl rfl)
abbrev cX11_roomOf : ByteArray := prog_16_method_21_code
def yX11_roomOf : MethodName := ⟨RX11, "roomOf", "(II)J"⟩
def dkwX11_roomOf_2 : List UInt8 := [167, 255, 215, 33, 173]
abbrev dktX11_roomOf_2 : List UInt8 := dkwX11_roomOf_2 ++ []
def dkwX11_roomOf_1 : List UInt8 := [182, 0, 161, 182, 0, 183, 42, 27, 42, 28, 21, 5, 182, 0, 161, 182, 0, 187, 97, 97, 66, 132, 5, 1]
abbrev dktX11_roomOf_1 : List UInt8 := dkwX11_roomOf_1 ++ dktX11_roomOf_2
def dkwX11_roomOf_0 : List UInt8 := [9, 66, 3, 54, 5, 21, 5, 42, 28, 182, 0, 169, 162, 0, 37, 33, 42, 27, 42, 28, 21, 5]
abbrev dktX11_roomOf_0 : List UInt8 := dkwX11_roomOf_0 ++ dktX11_roomOf_1
theorem dksX11_roomOf_0 : cX11_roomOf.data.toList.drop 0 = dktX11_roomOf_0 := by decide +kernel
theorem dksX11_roomOf_1 : cX11_roomOf.data.toList.drop 22 = dktX11_roomOf_1 := dk_seg dksX11_roomOf_0 22 rfl rfl
theorem dksX11_roomOf_2 : cX11_roomOf.data.toList.drop 46 = dktX11_roomOf_2 := dk_seg dksX11_roomOf_1 24 rfl rfl
theorem dX11_roomOf_0 : decode cX11_roomOf 0 = .ok (.lconst 0, 1) := dk_9 (dk_at dksX11_roomOf_0 0 rfl rfl)
theorem dX11_roomOf_1 : decode cX11_roomOf 1 = .ok (.lstore_n 3, 1) := dk_66 (dk_at dksX11_roomOf_0 1 rfl rfl)
theorem dX11_roomOf_2 : decode cX11_roomOf 2 = .ok (.iconst 0, 1) := dk_3 (dk_at dksX11_roomOf_0 2 rfl rfl)
theorem dX11_roomOf_3 : decode cX11_roomOf 3 = .ok (.istore 5, 2) := dk_54 5 (dk_at dksX11_roomOf_0 3 rfl rfl)
theorem dX11_roomOf_5 : decode cX11_roomOf 5 = .ok (.iload 5, 2) := dk_21 5 (dk_at dksX11_roomOf_0 5 rfl rfl)
theorem dX11_roomOf_7 : decode cX11_roomOf 7 = .ok (.aload_n 0, 1) := dk_42 (dk_at dksX11_roomOf_0 7 rfl rfl)
theorem dX11_roomOf_8 : decode cX11_roomOf 8 = .ok (.iload_n 2, 1) := dk_28 (dk_at dksX11_roomOf_0 8 rfl rfl)
theorem dX11_roomOf_9 : decode cX11_roomOf 9 = .ok (.invokevirtual 169, 3) := dk_182 0 169 (dk_at dksX11_roomOf_0 9 rfl rfl)
theorem dX11_roomOf_12 : decode cX11_roomOf 12 = .ok (.if_icmp .ge 37, 3) := dk_162 0 37 (dk_at dksX11_roomOf_0 12 rfl rfl)
theorem dX11_roomOf_15 : decode cX11_roomOf 15 = .ok (.lload_n 3, 1) := dk_33 (dk_at dksX11_roomOf_0 15 rfl rfl)
theorem dX11_roomOf_16 : decode cX11_roomOf 16 = .ok (.aload_n 0, 1) := dk_42 (dk_at dksX11_roomOf_0 16 rfl rfl)
theorem dX11_roomOf_17 : decode cX11_roomOf 17 = .ok (.iload_n 1, 1) := dk_27 (dk_at dksX11_roomOf_0 17 rfl rfl)
theorem dX11_roomOf_18 : decode cX11_roomOf 18 = .ok (.aload_n 0, 1) := dk_42 (dk_at dksX11_roomOf_0 18 rfl rfl)
theorem dX11_roomOf_19 : decode cX11_roomOf 19 = .ok (.iload_n 2, 1) := dk_28 (dk_at dksX11_roomOf_0 19 rfl rfl)
theorem dX11_roomOf_20 : decode cX11_roomOf 20 = .ok (.iload 5, 2) := dk_21 5 (dk_at dksX11_roomOf_0 20 rfl rfl)
theorem dX11_roomOf_22 : decode cX11_roomOf 22 = .ok (.invokevirtual 161, 3) := dk_182 0 161 (dk_at dksX11_roomOf_1 0 rfl rfl)
theorem dX11_roomOf_25 : decode cX11_roomOf 25 = .ok (.invokevirtual 183, 3) := dk_182 0 183 (dk_at dksX11_roomOf_1 3 rfl rfl)
theorem dX11_roomOf_28 : decode cX11_roomOf 28 = .ok (.aload_n 0, 1) := dk_42 (dk_at dksX11_roomOf_1 6 rfl rfl)
theorem dX11_roomOf_29 : decode cX11_roomOf 29 = .ok (.iload_n 1, 1) := dk_27 (dk_at dksX11_roomOf_1 7 rfl rfl)
theorem dX11_roomOf_30 : decode cX11_roomOf 30 = .ok (.aload_n 0, 1) := dk_42 (dk_at dksX11_roomOf_1 8 rfl rfl)
theorem dX11_roomOf_31 : decode cX11_roomOf 31 = .ok (.iload_n 2, 1) := dk_28 (dk_at dksX11_roomOf_1 9 rfl rfl)
theorem dX11_roomOf_32 : decode cX11_roomOf 32 = .ok (.iload 5, 2) := dk_21 5 (dk_at dksX11_roomOf_1 10 rfl rfl)
theorem dX11_roomOf_34 : decode cX11_roomOf 34 = .ok (.invokevirtual 161, 3) := dk_182 0 161 (dk_at dksX11_roomOf_1 12 rfl rfl)
theorem dX11_roomOf_37 : decode cX11_roomOf 37 = .ok (.invokevirtual 187, 3) := dk_182 0 187 (dk_at dksX11_roomOf_1 15 rfl rfl)
theorem dX11_roomOf_40 : decode cX11_roomOf 40 = .ok (.ladd, 1) := dk_97 (dk_at dksX11_roomOf_1 18 rfl rfl)
theorem dX11_roomOf_41 : decode cX11_roomOf 41 = .ok (.ladd, 1) := dk_97 (dk_at dksX11_roomOf_1 19 rfl rfl)
theorem dX11_roomOf_42 : decode cX11_roomOf 42 = .ok (.lstore_n 3, 1) := dk_66 (dk_at dksX11_roomOf_1 20 rfl rfl)
theorem dX11_roomOf_43 : decode cX11_roomOf 43 = .ok (.iinc 5 1, 3) := dk_132 5 1 (dk_at dksX11_roomOf_1 21 rfl rfl)
theorem dX11_roomOf_46 : decode cX11_roomOf 46 = .ok (.goto (-41), 3) := dk_167 255 215 (dk_at dksX11_roomOf_2 0 rfl rfl)
theorem dX11_roomOf_49 : decode cX11_roomOf 49 = .ok (.lload_n 3, 1) := dk_33 (dk_at dksX11_roomOf_2 3 rfl rfl)
theorem dX11_roomOf_50 : decode cX11_roomOf 50 = .ok (.lreturn, 1) := dk_173 (dk_at dksX11_roomOf_2 4 rfl rfl)
abbrev cX11_contributes : ByteArray := prog_16_method_39_code
def yX11_contributes : MethodName := ⟨RX11, "contributes", "(I)V"⟩
def dkwX11_contributes_7 : List UInt8 := [92, 47, 22, 9, 97, 80, 132, 8, 1, 167, 255, 171, 177]
abbrev dktX11_contributes_7 : List UInt8 := dkwX11_contributes_7 ++ []
def dkwX11_contributes_6 : List UInt8 := [16, 40, 27, 104, 21, 8, 96, 92, 47, 22, 9, 97, 80, 42, 180, 0, 82, 16, 40, 27, 104, 21, 8, 96]
abbrev dktX11_contributes_6 : List UInt8 := dkwX11_contributes_6 ++ dktX11_contributes_7
def dkwX11_contributes_5 : List UInt8 := [21, 8, 92, 47, 22, 9, 97, 80, 42, 180, 0, 57, 21, 8, 92, 47, 22, 9, 97, 80, 42, 180, 0, 76]
abbrev dktX11_contributes_5 : List UInt8 := dkwX11_contributes_5 ++ dktX11_contributes_6
def dkwX11_contributes_4 : List UInt8 := [162, 0, 84, 42, 180, 0, 112, 21, 8, 47, 42, 180, 0, 139, 21, 8, 47, 101, 55, 9, 42, 180, 0, 115]
abbrev dktX11_contributes_4 : List UInt8 := dkwX11_contributes_4 ++ dktX11_contributes_5
def dkwX11_contributes_3 : List UInt8 := [167, 255, 232, 42, 2, 182, 0, 241, 88, 42, 22, 6, 16, 40, 182, 0, 211, 3, 54, 8, 21, 8, 16, 40]
abbrev dktX11_contributes_3 : List UInt8 := dkwX11_contributes_3 ++ dktX11_contributes_4
def dkwX11_contributes_2 : List UInt8 := [16, 40, 162, 0, 23, 42, 180, 0, 139, 21, 8, 42, 180, 0, 112, 21, 8, 47, 80, 132, 8, 1]
abbrev dktX11_contributes_2 : List UInt8 := dkwX11_contributes_2 ++ dktX11_contributes_3
def dkwX11_contributes_1 : List UInt8 := [148, 154, 0, 4, 177, 42, 4, 182, 0, 241, 88, 42, 22, 6, 16, 40, 182, 0, 211, 3, 54, 8, 21, 8]
abbrev dktX11_contributes_1 : List UInt8 := dkwX11_contributes_1 ++ dktX11_contributes_2
def dkwX11_contributes_0 : List UInt8 := [42, 4, 182, 0, 241, 65, 42, 2, 182, 0, 241, 55, 4, 32, 22, 4, 184, 0, 179, 55, 6, 22, 6, 9]
abbrev dktX11_contributes_0 : List UInt8 := dkwX11_contributes_0 ++ dktX11_contributes_1
theorem dksX11_contributes_0 : cX11_contributes.data.toList.drop 0 = dktX11_contributes_0 := by decide +kernel
theorem dksX11_contributes_1 : cX11_contributes.data.toList.drop 24 = dktX11_contributes_1 := dk_seg dksX11_contributes_0 24 rfl rfl
theorem dksX11_contributes_2 : cX11_contributes.data.toList.drop 48 = dktX11_contributes_2 := dk_seg dksX11_contributes_1 24 rfl rfl
theorem dksX11_contributes_3 : cX11_contributes.data.toList.drop 70 = dktX11_contributes_3 := dk_seg dksX11_contributes_2 22 rfl rfl
theorem dksX11_contributes_4 : cX11_contributes.data.toList.drop 94 = dktX11_contributes_4 := dk_seg dksX11_contributes_3 24 rfl rfl
theorem dksX11_contributes_5 : cX11_contributes.data.toList.drop 118 = dktX11_contributes_5 := dk_seg dksX11_contributes_4 24 rfl rfl
theorem dksX11_contributes_6 : cX11_contributes.data.toList.drop 142 = dktX11_contributes_6 := dk_seg dksX11_contributes_5 24 rfl rfl
theorem dksX11_contributes_7 : cX11_contributes.data.toList.drop 166 = dktX11_contributes_7 := dk_seg dksX11_contributes_6 24 rfl rfl
theorem dX11_contributes_0 : decode cX11_contributes 0 = .ok (.aload_n 0, 1) := dk_42 (dk_at dksX11_contributes_0 0 rfl rfl)
theorem dX11_contributes_1 : decode cX11_contributes 1 = .ok (.iconst 1, 1) := dk_4 (dk_at dksX11_contributes_0 1 rfl rfl)
theorem dX11_contributes_2 : decode cX11_contributes 2 = .ok (.invokevirtual 241, 3) := dk_182 0 241 (dk_at dksX11_contributes_0 2 rfl rfl)
theorem dX11_contributes_5 : decode cX11_contributes 5 = .ok (.lstore_n 2, 1) := dk_65 (dk_at dksX11_contributes_0 5 rfl rfl)
theorem dX11_contributes_6 : decode cX11_contributes 6 = .ok (.aload_n 0, 1) := dk_42 (dk_at dksX11_contributes_0 6 rfl rfl)
theorem dX11_contributes_7 : decode cX11_contributes 7 = .ok (.iconst (-1), 1) := dk_2 (dk_at dksX11_contributes_0 7 rfl rfl)
theorem dX11_contributes_8 : decode cX11_contributes 8 = .ok (.invokevirtual 241, 3) := dk_182 0 241 (dk_at dksX11_contributes_0 8 rfl rfl)
theorem dX11_contributes_11 : decode cX11_contributes 11 = .ok (.lstore 4, 2) := dk_55 4 (dk_at dksX11_contributes_0 11 rfl rfl)
theorem dX11_contributes_13 : decode cX11_contributes 13 = .ok (.lload_n 2, 1) := dk_32 (dk_at dksX11_contributes_0 13 rfl rfl)
theorem dX11_contributes_14 : decode cX11_contributes 14 = .ok (.lload 4, 2) := dk_22 4 (dk_at dksX11_contributes_0 14 rfl rfl)
theorem dX11_contributes_16 : decode cX11_contributes 16 = .ok (.invokestatic 179, 3) := dk_184 0 179 (dk_at dksX11_contributes_0 16 rfl rfl)
theorem dX11_contributes_19 : decode cX11_contributes 19 = .ok (.lstore 6, 2) := dk_55 6 (dk_at dksX11_contributes_0 19 rfl rfl)
theorem dX11_contributes_21 : decode cX11_contributes 21 = .ok (.lload 6, 2) := dk_22 6 (dk_at dksX11_contributes_0 21 rfl rfl)
theorem dX11_contributes_23 : decode cX11_contributes 23 = .ok (.lconst 0, 1) := dk_9 (dk_at dksX11_contributes_0 23 rfl rfl)
theorem dX11_contributes_24 : decode cX11_contributes 24 = .ok (.lcmp, 1) := dk_148 (dk_at dksX11_contributes_1 0 rfl rfl)
theorem dX11_contributes_25 : decode cX11_contributes 25 = .ok (.ifCond .ne 4, 3) := dk_154 0 4 (dk_at dksX11_contributes_1 1 rfl rfl)
theorem dX11_contributes_28 : decode cX11_contributes 28 = .ok (.return_, 1) := dk_177 (dk_at dksX11_contributes_1 4 rfl rfl)
theorem dX11_contributes_29 : decode cX11_contributes 29 = .ok (.aload_n 0, 1) := dk_42 (dk_at dksX11_contributes_1 5 rfl rfl)
theorem dX11_contributes_30 : decode cX11_contributes 30 = .ok (.iconst 1, 1) := dk_4 (dk_at dksX11_contributes_1 6 rfl rfl)
theorem dX11_contributes_31 : decode cX11_contributes 31 = .ok (.invokevirtual 241, 3) := dk_182 0 241 (dk_at dksX11_contributes_1 7 rfl rfl)
theorem dX11_contributes_34 : decode cX11_contributes 34 = .ok (.pop2, 1) := dk_88 (dk_at dksX11_contributes_1 10 rfl rfl)
theorem dX11_contributes_35 : decode cX11_contributes 35 = .ok (.aload_n 0, 1) := dk_42 (dk_at dksX11_contributes_1 11 rfl rfl)
theorem dX11_contributes_36 : decode cX11_contributes 36 = .ok (.lload 6, 2) := dk_22 6 (dk_at dksX11_contributes_1 12 rfl rfl)
theorem dX11_contributes_38 : decode cX11_contributes 38 = .ok (.bipush 40, 2) := dk_16 40 (dk_at dksX11_contributes_1 14 rfl rfl)
theorem dX11_contributes_40 : decode cX11_contributes 40 = .ok (.invokevirtual 211, 3) := dk_182 0 211 (dk_at dksX11_contributes_1 16 rfl rfl)
theorem dX11_contributes_43 : decode cX11_contributes 43 = .ok (.iconst 0, 1) := dk_3 (dk_at dksX11_contributes_1 19 rfl rfl)
theorem dX11_contributes_44 : decode cX11_contributes 44 = .ok (.istore 8, 2) := dk_54 8 (dk_at dksX11_contributes_1 20 rfl rfl)
theorem dX11_contributes_46 : decode cX11_contributes 46 = .ok (.iload 8, 2) := dk_21 8 (dk_at dksX11_contributes_1 22 rfl rfl)
theorem dX11_contributes_48 : decode cX11_contributes 48 = .ok (.bipush 40, 2) := dk_16 40 (dk_at dksX11_contributes_2 0 rfl rfl)
theorem dX11_contributes_50 : decode cX11_contributes 50 = .ok (.if_icmp .ge 23, 3) := dk_162 0 23 (dk_at dksX11_contributes_2 2 rfl rfl)
theorem dX11_contributes_53 : decode cX11_contributes 53 = .ok (.aload_n 0, 1) := dk_42 (dk_at dksX11_contributes_2 5 rfl rfl)
theorem dX11_contributes_54 : decode cX11_contributes 54 = .ok (.getfield 139, 3) := dk_180 0 139 (dk_at dksX11_contributes_2 6 rfl rfl)
theorem dX11_contributes_57 : decode cX11_contributes 57 = .ok (.iload 8, 2) := dk_21 8 (dk_at dksX11_contributes_2 9 rfl rfl)
theorem dX11_contributes_59 : decode cX11_contributes 59 = .ok (.aload_n 0, 1) := dk_42 (dk_at dksX11_contributes_2 11 rfl rfl)
theorem dX11_contributes_60 : decode cX11_contributes 60 = .ok (.getfield 112, 3) := dk_180 0 112 (dk_at dksX11_contributes_2 12 rfl rfl)
theorem dX11_contributes_63 : decode cX11_contributes 63 = .ok (.iload 8, 2) := dk_21 8 (dk_at dksX11_contributes_2 15 rfl rfl)
theorem dX11_contributes_65 : decode cX11_contributes 65 = .ok (.laload, 1) := dk_47 (dk_at dksX11_contributes_2 17 rfl rfl)
theorem dX11_contributes_66 : decode cX11_contributes 66 = .ok (.lastore, 1) := dk_80 (dk_at dksX11_contributes_2 18 rfl rfl)
theorem dX11_contributes_67 : decode cX11_contributes 67 = .ok (.iinc 8 1, 3) := dk_132 8 1 (dk_at dksX11_contributes_2 19 rfl rfl)
theorem dX11_contributes_70 : decode cX11_contributes 70 = .ok (.goto (-24), 3) := dk_167 255 232 (dk_at dksX11_contributes_3 0 rfl rfl)
theorem dX11_contributes_73 : decode cX11_contributes 73 = .ok (.aload_n 0, 1) := dk_42 (dk_at dksX11_contributes_3 3 rfl rfl)
theorem dX11_contributes_74 : decode cX11_contributes 74 = .ok (.iconst (-1), 1) := dk_2 (dk_at dksX11_contributes_3 4 rfl rfl)
theorem dX11_contributes_75 : decode cX11_contributes 75 = .ok (.invokevirtual 241, 3) := dk_182 0 241 (dk_at dksX11_contributes_3 5 rfl rfl)
theorem dX11_contributes_78 : decode cX11_contributes 78 = .ok (.pop2, 1) := dk_88 (dk_at dksX11_contributes_3 8 rfl rfl)
theorem dX11_contributes_79 : decode cX11_contributes 79 = .ok (.aload_n 0, 1) := dk_42 (dk_at dksX11_contributes_3 9 rfl rfl)
theorem dX11_contributes_80 : decode cX11_contributes 80 = .ok (.lload 6, 2) := dk_22 6 (dk_at dksX11_contributes_3 10 rfl rfl)
theorem dX11_contributes_82 : decode cX11_contributes 82 = .ok (.bipush 40, 2) := dk_16 40 (dk_at dksX11_contributes_3 12 rfl rfl)
theorem dX11_contributes_84 : decode cX11_contributes 84 = .ok (.invokevirtual 211, 3) := dk_182 0 211 (dk_at dksX11_contributes_3 14 rfl rfl)
theorem dX11_contributes_87 : decode cX11_contributes 87 = .ok (.iconst 0, 1) := dk_3 (dk_at dksX11_contributes_3 17 rfl rfl)
theorem dX11_contributes_88 : decode cX11_contributes 88 = .ok (.istore 8, 2) := dk_54 8 (dk_at dksX11_contributes_3 18 rfl rfl)
theorem dX11_contributes_90 : decode cX11_contributes 90 = .ok (.iload 8, 2) := dk_21 8 (dk_at dksX11_contributes_3 20 rfl rfl)
theorem dX11_contributes_92 : decode cX11_contributes 92 = .ok (.bipush 40, 2) := dk_16 40 (dk_at dksX11_contributes_3 22 rfl rfl)
theorem dX11_contributes_94 : decode cX11_contributes 94 = .ok (.if_icmp .ge 84, 3) := dk_162 0 84 (dk_at dksX11_contributes_4 0 rfl rfl)
theorem dX11_contributes_97 : decode cX11_contributes 97 = .ok (.aload_n 0, 1) := dk_42 (dk_at dksX11_contributes_4 3 rfl rfl)
theorem dX11_contributes_98 : decode cX11_contributes 98 = .ok (.getfield 112, 3) := dk_180 0 112 (dk_at dksX11_contributes_4 4 rfl rfl)
theorem dX11_contributes_101 : decode cX11_contributes 101 = .ok (.iload 8, 2) := dk_21 8 (dk_at dksX11_contributes_4 7 rfl rfl)
theorem dX11_contributes_103 : decode cX11_contributes 103 = .ok (.laload, 1) := dk_47 (dk_at dksX11_contributes_4 9 rfl rfl)
theorem dX11_contributes_104 : decode cX11_contributes 104 = .ok (.aload_n 0, 1) := dk_42 (dk_at dksX11_contributes_4 10 rfl rfl)
theorem dX11_contributes_105 : decode cX11_contributes 105 = .ok (.getfield 139, 3) := dk_180 0 139 (dk_at dksX11_contributes_4 11 rfl rfl)
theorem dX11_contributes_108 : decode cX11_contributes 108 = .ok (.iload 8, 2) := dk_21 8 (dk_at dksX11_contributes_4 14 rfl rfl)
theorem dX11_contributes_110 : decode cX11_contributes 110 = .ok (.laload, 1) := dk_47 (dk_at dksX11_contributes_4 16 rfl rfl)
theorem dX11_contributes_111 : decode cX11_contributes 111 = .ok (.lsub, 1) := dk_101 (dk_at dksX11_contributes_4 17 rfl rfl)
theorem dX11_contributes_112 : decode cX11_contributes 112 = .ok (.lstore 9, 2) := dk_55 9 (dk_at dksX11_contributes_4 18 rfl rfl)
theorem dX11_contributes_114 : decode cX11_contributes 114 = .ok (.aload_n 0, 1) := dk_42 (dk_at dksX11_contributes_4 20 rfl rfl)
theorem dX11_contributes_115 : decode cX11_contributes 115 = .ok (.getfield 115, 3) := dk_180 0 115 (dk_at dksX11_contributes_4 21 rfl rfl)
theorem dX11_contributes_118 : decode cX11_contributes 118 = .ok (.iload 8, 2) := dk_21 8 (dk_at dksX11_contributes_5 0 rfl rfl)
theorem dX11_contributes_120 : decode cX11_contributes 120 = .ok (.dup2, 1) := dk_92 (dk_at dksX11_contributes_5 2 rfl rfl)
theorem dX11_contributes_121 : decode cX11_contributes 121 = .ok (.laload, 1) := dk_47 (dk_at dksX11_contributes_5 3 rfl rfl)
theorem dX11_contributes_122 : decode cX11_contributes 122 = .ok (.lload 9, 2) := dk_22 9 (dk_at dksX11_contributes_5 4 rfl rfl)
theorem dX11_contributes_124 : decode cX11_contributes 124 = .ok (.ladd, 1) := dk_97 (dk_at dksX11_contributes_5 6 rfl rfl)
theorem dX11_contributes_125 : decode cX11_contributes 125 = .ok (.lastore, 1) := dk_80 (dk_at dksX11_contributes_5 7 rfl rfl)
theorem dX11_contributes_126 : decode cX11_contributes 126 = .ok (.aload_n 0, 1) := dk_42 (dk_at dksX11_contributes_5 8 rfl rfl)
theorem dX11_contributes_127 : decode cX11_contributes 127 = .ok (.getfield 57, 3) := dk_180 0 57 (dk_at dksX11_contributes_5 9 rfl rfl)
theorem dX11_contributes_130 : decode cX11_contributes 130 = .ok (.iload 8, 2) := dk_21 8 (dk_at dksX11_contributes_5 12 rfl rfl)
theorem dX11_contributes_132 : decode cX11_contributes 132 = .ok (.dup2, 1) := dk_92 (dk_at dksX11_contributes_5 14 rfl rfl)
theorem dX11_contributes_133 : decode cX11_contributes 133 = .ok (.laload, 1) := dk_47 (dk_at dksX11_contributes_5 15 rfl rfl)
theorem dX11_contributes_134 : decode cX11_contributes 134 = .ok (.lload 9, 2) := dk_22 9 (dk_at dksX11_contributes_5 16 rfl rfl)
theorem dX11_contributes_136 : decode cX11_contributes 136 = .ok (.ladd, 1) := dk_97 (dk_at dksX11_contributes_5 18 rfl rfl)
theorem dX11_contributes_137 : decode cX11_contributes 137 = .ok (.lastore, 1) := dk_80 (dk_at dksX11_contributes_5 19 rfl rfl)
theorem dX11_contributes_138 : decode cX11_contributes 138 = .ok (.aload_n 0, 1) := dk_42 (dk_at dksX11_contributes_5 20 rfl rfl)
theorem dX11_contributes_139 : decode cX11_contributes 139 = .ok (.getfield 76, 3) := dk_180 0 76 (dk_at dksX11_contributes_5 21 rfl rfl)
theorem dX11_contributes_142 : decode cX11_contributes 142 = .ok (.bipush 40, 2) := dk_16 40 (dk_at dksX11_contributes_6 0 rfl rfl)
theorem dX11_contributes_144 : decode cX11_contributes 144 = .ok (.iload_n 1, 1) := dk_27 (dk_at dksX11_contributes_6 2 rfl rfl)
theorem dX11_contributes_145 : decode cX11_contributes 145 = .ok (.imul, 1) := dk_104 (dk_at dksX11_contributes_6 3 rfl rfl)
theorem dX11_contributes_146 : decode cX11_contributes 146 = .ok (.iload 8, 2) := dk_21 8 (dk_at dksX11_contributes_6 4 rfl rfl)
theorem dX11_contributes_148 : decode cX11_contributes 148 = .ok (.iadd, 1) := dk_96 (dk_at dksX11_contributes_6 6 rfl rfl)
theorem dX11_contributes_149 : decode cX11_contributes 149 = .ok (.dup2, 1) := dk_92 (dk_at dksX11_contributes_6 7 rfl rfl)
theorem dX11_contributes_150 : decode cX11_contributes 150 = .ok (.laload, 1) := dk_47 (dk_at dksX11_contributes_6 8 rfl rfl)
theorem dX11_contributes_151 : decode cX11_contributes 151 = .ok (.lload 9, 2) := dk_22 9 (dk_at dksX11_contributes_6 9 rfl rfl)
theorem dX11_contributes_153 : decode cX11_contributes 153 = .ok (.ladd, 1) := dk_97 (dk_at dksX11_contributes_6 11 rfl rfl)
theorem dX11_contributes_154 : decode cX11_contributes 154 = .ok (.lastore, 1) := dk_80 (dk_at dksX11_contributes_6 12 rfl rfl)
theorem dX11_contributes_155 : decode cX11_contributes 155 = .ok (.aload_n 0, 1) := dk_42 (dk_at dksX11_contributes_6 13 rfl rfl)
theorem dX11_contributes_156 : decode cX11_contributes 156 = .ok (.getfield 82, 3) := dk_180 0 82 (dk_at dksX11_contributes_6 14 rfl rfl)
theorem dX11_contributes_159 : decode cX11_contributes 159 = .ok (.bipush 40, 2) := dk_16 40 (dk_at dksX11_contributes_6 17 rfl rfl)
theorem dX11_contributes_161 : decode cX11_contributes 161 = .ok (.iload_n 1, 1) := dk_27 (dk_at dksX11_contributes_6 19 rfl rfl)
theorem dX11_contributes_162 : decode cX11_contributes 162 = .ok (.imul, 1) := dk_104 (dk_at dksX11_contributes_6 20 rfl rfl)
theorem dX11_contributes_163 : decode cX11_contributes 163 = .ok (.iload 8, 2) := dk_21 8 (dk_at dksX11_contributes_6 21 rfl rfl)
theorem dX11_contributes_165 : decode cX11_contributes 165 = .ok (.iadd, 1) := dk_96 (dk_at dksX11_contributes_6 23 rfl rfl)
theorem dX11_contributes_166 : decode cX11_contributes 166 = .ok (.dup2, 1) := dk_92 (dk_at dksX11_contributes_7 0 rfl rfl)
theorem dX11_contributes_167 : decode cX11_contributes 167 = .ok (.laload, 1) := dk_47 (dk_at dksX11_contributes_7 1 rfl rfl)
theorem dX11_contributes_168 : decode cX11_contributes 168 = .ok (.lload 9, 2) := dk_22 9 (dk_at dksX11_contributes_7 2 rfl rfl)
theorem dX11_contributes_170 : decode cX11_contributes 170 = .ok (.ladd, 1) := dk_97 (dk_at dksX11_contributes_7 4 rfl rfl)
theorem dX11_contributes_171 : decode cX11_contributes 171 = .ok (.lastore, 1) := dk_80 (dk_at dksX11_contributes_7 5 rfl rfl)
theorem dX11_contributes_172 : decode cX11_contributes 172 = .ok (.iinc 8 1, 3) := dk_132 8 1 (dk_at dksX11_contributes_7 6 rfl rfl)
theorem dX11_contributes_175 : decode cX11_contributes 175 = .ok (.goto (-85), 3) := dk_167 255 171 (dk_at dksX11_contributes_7 9 rfl rfl)
theorem dX11_contributes_178 : decode cX11_contributes 178 = .ok (.return_, 1) := dk_177 (dk_at dksX11_contributes_7 12 rfl rfl)
abbrev cX11_laysUnlike : ByteArray := prog_16_method_38_code
def yX11_laysUnlike : MethodName := ⟨RX11, "laysUnlike", "(I)J"⟩
def dkwX11_laysUnlike_3 : List UInt8 := [173]
abbrev dktX11_laysUnlike_3 : List UInt8 := dkwX11_laysUnlike_3 ++ []
def dkwX11_laysUnlike_2 : List UInt8 := [22, 5, 167, 0, 4, 9, 80, 32, 42, 180, 0, 109, 21, 4, 47, 97, 65, 132, 4, 1, 167, 255, 196, 32]
abbrev dktX11_laysUnlike_2 : List UInt8 := dkwX11_laysUnlike_2 ++ dktX11_laysUnlike_3
def dkwX11_laysUnlike_1 : List UInt8 := [180, 0, 118, 21, 4, 47, 101, 105, 55, 5, 42, 180, 0, 109, 21, 4, 22, 5, 9, 148, 158, 0, 8]
abbrev dktX11_laysUnlike_1 : List UInt8 := dkwX11_laysUnlike_1 ++ dktX11_laysUnlike_2
def dkwX11_laysUnlike_0 : List UInt8 := [9, 65, 3, 54, 4, 21, 4, 16, 40, 162, 0, 59, 27, 133, 42, 180, 0, 115, 21, 4, 47, 42]
abbrev dktX11_laysUnlike_0 : List UInt8 := dkwX11_laysUnlike_0 ++ dktX11_laysUnlike_1
theorem dksX11_laysUnlike_0 : cX11_laysUnlike.data.toList.drop 0 = dktX11_laysUnlike_0 := by decide +kernel
theorem dksX11_laysUnlike_1 : cX11_laysUnlike.data.toList.drop 22 = dktX11_laysUnlike_1 := dk_seg dksX11_laysUnlike_0 22 rfl rfl
theorem dksX11_laysUnlike_2 : cX11_laysUnlike.data.toList.drop 45 = dktX11_laysUnlike_2 := dk_seg dksX11_laysUnlike_1 23 rfl rfl
theorem dksX11_laysUnlike_3 : cX11_laysUnlike.data.toList.drop 69 = dktX11_laysUnlike_3 := dk_seg dksX11_laysUnlike_2 24 rfl rfl
theorem dX11_laysUnlike_0 : decode cX11_laysUnlike 0 = .ok (.lconst 0, 1) := dk_9 (dk_at dksX11_laysUnlike_0 0 rfl rfl)
theorem dX11_laysUnlike_1 : decode cX11_laysUnlike 1 = .ok (.lstore_n 2, 1) := dk_65 (dk_at dksX11_laysUnlike_0 1 rfl rfl)
theorem dX11_laysUnlike_2 : decode cX11_laysUnlike 2 = .ok (.iconst 0, 1) := dk_3 (dk_at dksX11_laysUnlike_0 2 rfl rfl)
theorem dX11_laysUnlike_3 : decode cX11_laysUnlike 3 = .ok (.istore 4, 2) := dk_54 4 (dk_at dksX11_laysUnlike_0 3 rfl rfl)
theorem dX11_laysUnlike_5 : decode cX11_laysUnlike 5 = .ok (.iload 4, 2) := dk_21 4 (dk_at dksX11_laysUnlike_0 5 rfl rfl)
theorem dX11_laysUnlike_7 : decode cX11_laysUnlike 7 = .ok (.bipush 40, 2) := dk_16 40 (dk_at dksX11_laysUnlike_0 7 rfl rfl)
theorem dX11_laysUnlike_9 : decode cX11_laysUnlike 9 = .ok (.if_icmp .ge 59, 3) := dk_162 0 59 (dk_at dksX11_laysUnlike_0 9 rfl rfl)
theorem dX11_laysUnlike_12 : decode cX11_laysUnlike 12 = .ok (.iload_n 1, 1) := dk_27 (dk_at dksX11_laysUnlike_0 12 rfl rfl)
theorem dX11_laysUnlike_13 : decode cX11_laysUnlike 13 = .ok (.i2l, 1) := dk_133 (dk_at dksX11_laysUnlike_0 13 rfl rfl)
theorem dX11_laysUnlike_14 : decode cX11_laysUnlike 14 = .ok (.aload_n 0, 1) := dk_42 (dk_at dksX11_laysUnlike_0 14 rfl rfl)
theorem dX11_laysUnlike_15 : decode cX11_laysUnlike 15 = .ok (.getfield 115, 3) := dk_180 0 115 (dk_at dksX11_laysUnlike_0 15 rfl rfl)
theorem dX11_laysUnlike_18 : decode cX11_laysUnlike 18 = .ok (.iload 4, 2) := dk_21 4 (dk_at dksX11_laysUnlike_0 18 rfl rfl)
theorem dX11_laysUnlike_20 : decode cX11_laysUnlike 20 = .ok (.laload, 1) := dk_47 (dk_at dksX11_laysUnlike_0 20 rfl rfl)
theorem dX11_laysUnlike_21 : decode cX11_laysUnlike 21 = .ok (.aload_n 0, 1) := dk_42 (dk_at dksX11_laysUnlike_0 21 rfl rfl)
theorem dX11_laysUnlike_22 : decode cX11_laysUnlike 22 = .ok (.getfield 118, 3) := dk_180 0 118 (dk_at dksX11_laysUnlike_1 0 rfl rfl)
theorem dX11_laysUnlike_25 : decode cX11_laysUnlike 25 = .ok (.iload 4, 2) := dk_21 4 (dk_at dksX11_laysUnlike_1 3 rfl rfl)
theorem dX11_laysUnlike_27 : decode cX11_laysUnlike 27 = .ok (.laload, 1) := dk_47 (dk_at dksX11_laysUnlike_1 5 rfl rfl)
theorem dX11_laysUnlike_28 : decode cX11_laysUnlike 28 = .ok (.lsub, 1) := dk_101 (dk_at dksX11_laysUnlike_1 6 rfl rfl)
theorem dX11_laysUnlike_29 : decode cX11_laysUnlike 29 = .ok (.lmul, 1) := dk_105 (dk_at dksX11_laysUnlike_1 7 rfl rfl)
theorem dX11_laysUnlike_30 : decode cX11_laysUnlike 30 = .ok (.lstore 5, 2) := dk_55 5 (dk_at dksX11_laysUnlike_1 8 rfl rfl)
theorem dX11_laysUnlike_32 : decode cX11_laysUnlike 32 = .ok (.aload_n 0, 1) := dk_42 (dk_at dksX11_laysUnlike_1 10 rfl rfl)
theorem dX11_laysUnlike_33 : decode cX11_laysUnlike 33 = .ok (.getfield 109, 3) := dk_180 0 109 (dk_at dksX11_laysUnlike_1 11 rfl rfl)
theorem dX11_laysUnlike_36 : decode cX11_laysUnlike 36 = .ok (.iload 4, 2) := dk_21 4 (dk_at dksX11_laysUnlike_1 14 rfl rfl)
theorem dX11_laysUnlike_38 : decode cX11_laysUnlike 38 = .ok (.lload 5, 2) := dk_22 5 (dk_at dksX11_laysUnlike_1 16 rfl rfl)
theorem dX11_laysUnlike_40 : decode cX11_laysUnlike 40 = .ok (.lconst 0, 1) := dk_9 (dk_at dksX11_laysUnlike_1 18 rfl rfl)
theorem dX11_laysUnlike_41 : decode cX11_laysUnlike 41 = .ok (.lcmp, 1) := dk_148 (dk_at dksX11_laysUnlike_1 19 rfl rfl)
theorem dX11_laysUnlike_42 : decode cX11_laysUnlike 42 = .ok (.ifCond .le 8, 3) := dk_158 0 8 (dk_at dksX11_laysUnlike_1 20 rfl rfl)
theorem dX11_laysUnlike_45 : decode cX11_laysUnlike 45 = .ok (.lload 5, 2) := dk_22 5 (dk_at dksX11_laysUnlike_2 0 rfl rfl)
theorem dX11_laysUnlike_47 : decode cX11_laysUnlike 47 = .ok (.goto 4, 3) := dk_167 0 4 (dk_at dksX11_laysUnlike_2 2 rfl rfl)
theorem dX11_laysUnlike_50 : decode cX11_laysUnlike 50 = .ok (.lconst 0, 1) := dk_9 (dk_at dksX11_laysUnlike_2 5 rfl rfl)
theorem dX11_laysUnlike_51 : decode cX11_laysUnlike 51 = .ok (.lastore, 1) := dk_80 (dk_at dksX11_laysUnlike_2 6 rfl rfl)
theorem dX11_laysUnlike_52 : decode cX11_laysUnlike 52 = .ok (.lload_n 2, 1) := dk_32 (dk_at dksX11_laysUnlike_2 7 rfl rfl)
theorem dX11_laysUnlike_53 : decode cX11_laysUnlike 53 = .ok (.aload_n 0, 1) := dk_42 (dk_at dksX11_laysUnlike_2 8 rfl rfl)
theorem dX11_laysUnlike_54 : decode cX11_laysUnlike 54 = .ok (.getfield 109, 3) := dk_180 0 109 (dk_at dksX11_laysUnlike_2 9 rfl rfl)
theorem dX11_laysUnlike_57 : decode cX11_laysUnlike 57 = .ok (.iload 4, 2) := dk_21 4 (dk_at dksX11_laysUnlike_2 12 rfl rfl)
theorem dX11_laysUnlike_59 : decode cX11_laysUnlike 59 = .ok (.laload, 1) := dk_47 (dk_at dksX11_laysUnlike_2 14 rfl rfl)
theorem dX11_laysUnlike_60 : decode cX11_laysUnlike 60 = .ok (.ladd, 1) := dk_97 (dk_at dksX11_laysUnlike_2 15 rfl rfl)
theorem dX11_laysUnlike_61 : decode cX11_laysUnlike 61 = .ok (.lstore_n 2, 1) := dk_65 (dk_at dksX11_laysUnlike_2 16 rfl rfl)
theorem dX11_laysUnlike_62 : decode cX11_laysUnlike 62 = .ok (.iinc 4 1, 3) := dk_132 4 1 (dk_at dksX11_laysUnlike_2 17 rfl rfl)
theorem dX11_laysUnlike_65 : decode cX11_laysUnlike 65 = .ok (.goto (-60), 3) := dk_167 255 196 (dk_at dksX11_laysUnlike_2 20 rfl rfl)
theorem dX11_laysUnlike_68 : decode cX11_laysUnlike 68 = .ok (.lload_n 2, 1) := dk_32 (dk_at dksX11_laysUnlike_2 23 rfl rfl)
theorem dX11_laysUnlike_69 : decode cX11_laysUnlike 69 = .ok (.lreturn, 1) := dk_173 (dk_at dksX11_laysUnlike_3 0 rfl rfl)
abbrev cX11_byLevel : ByteArray := prog_16_method_41_code
def yX11_byLevel : MethodName := ⟨RX11, "byLevel", "(IJ)V"⟩
def dkwX11_byLevel_12 : List UInt8 := [21, 8, 154, 0, 7, 6, 167, 0, 4, 5, 96, 92, 47, 22, 9, 97, 80, 177]
abbrev dktX11_byLevel_12 : List UInt8 := dkwX11_byLevel_12 ++ []
def dkwX11_byLevel_11 : List UInt8 := [180, 0, 121, 21, 11, 47, 182, 0, 215, 88, 132, 11, 1, 167, 255, 219, 42, 180, 0, 91, 16, 7, 27, 104]
abbrev dktX11_byLevel_11 : List UInt8 := dkwX11_byLevel_11 ++ dktX11_byLevel_12
def dkwX11_byLevel_10 : List UInt8 := [16, 12, 162, 0, 36, 42, 180, 0, 121, 21, 11, 47, 9, 148, 158, 0, 18, 42, 27, 21, 11, 42]
abbrev dktX11_byLevel_10 : List UInt8 := dkwX11_byLevel_10 ++ dktX11_byLevel_11
def dkwX11_byLevel_9 : List UInt8 := [21, 11, 92, 47, 10, 97, 80, 22, 9, 10, 101, 55, 9, 132, 11, 1, 167, 255, 154, 3, 54, 11, 21, 11]
abbrev dktX11_byLevel_9 : List UInt8 := dkwX11_byLevel_9 ++ dktX11_byLevel_10
def dkwX11_byLevel_8 : List UInt8 := [153, 0, 36, 42, 180, 0, 142, 21, 11, 47, 22, 4, 148, 157, 0, 6, 167, 0, 20, 42, 180, 0, 121]
abbrev dktX11_byLevel_8 : List UInt8 := dkwX11_byLevel_8 ++ dktX11_byLevel_9
def dkwX11_byLevel_7 : List UInt8 := [180, 0, 121, 21, 11, 22, 4, 42, 180, 0, 142, 21, 11, 47, 184, 0, 179, 80, 22, 9, 9, 148]
abbrev dktX11_byLevel_7 : List UInt8 := dkwX11_byLevel_7 ++ dktX11_byLevel_8
def dkwX11_byLevel_6 : List UInt8 := [21, 11, 182, 0, 197, 153, 0, 77, 42, 21, 11, 182, 0, 205, 153, 0, 6, 167, 0, 65, 132, 8, 1, 42]
abbrev dktX11_byLevel_6 : List UInt8 := dkwX11_byLevel_6 ++ dktX11_byLevel_7
def dkwX11_byLevel_5 : List UInt8 := [101, 55, 9, 3, 54, 11, 21, 11, 16, 12, 162, 0, 101, 42, 180, 0, 121, 21, 11, 9, 80, 42, 27]
abbrev dktX11_byLevel_5 : List UInt8 := dkwX11_byLevel_5 ++ dktX11_byLevel_6
def dkwX11_byLevel_4 : List UInt8 := [55, 4, 167, 0, 9, 22, 8, 10, 101, 55, 6, 167, 255, 211, 3, 54, 8, 32, 42, 22, 4, 182, 0, 248]
abbrev dktX11_byLevel_4 : List UInt8 := dkwX11_byLevel_4 ++ dktX11_byLevel_5
def dkwX11_byLevel_3 : List UInt8 := [22, 6, 97, 10, 97, 20, 0, 246, 109, 55, 8, 42, 22, 8, 182, 0, 248, 32, 148, 157, 0, 10, 22, 8]
abbrev dktX11_byLevel_3 : List UInt8 := dkwX11_byLevel_3 ++ dktX11_byLevel_4
def dkwX11_byLevel_2 : List UInt8 := [132, 4, 1, 167, 255, 209, 9, 55, 4, 20, 0, 244, 55, 6, 22, 4, 22, 6, 148, 156, 0, 43, 22, 4]
abbrev dktX11_byLevel_2 : List UInt8 := dkwX11_byLevel_2 ++ dktX11_byLevel_3
def dkwX11_byLevel_1 : List UInt8 := [153, 0, 22, 42, 21, 4, 182, 0, 205, 154, 0, 13, 42, 27, 21, 4, 182, 0, 219, 167, 0, 4, 9, 80]
abbrev dktX11_byLevel_1 : List UInt8 := dkwX11_byLevel_1 ++ dktX11_byLevel_2
def dkwX11_byLevel_0 : List UInt8 := [3, 54, 4, 21, 4, 16, 12, 162, 0, 46, 42, 180, 0, 142, 21, 4, 42, 27, 21, 4, 182, 0, 197]
abbrev dktX11_byLevel_0 : List UInt8 := dkwX11_byLevel_0 ++ dktX11_byLevel_1
theorem dksX11_byLevel_0 : cX11_byLevel.data.toList.drop 0 = dktX11_byLevel_0 := by decide +kernel
theorem dksX11_byLevel_1 : cX11_byLevel.data.toList.drop 23 = dktX11_byLevel_1 := dk_seg dksX11_byLevel_0 23 rfl rfl
theorem dksX11_byLevel_2 : cX11_byLevel.data.toList.drop 47 = dktX11_byLevel_2 := dk_seg dksX11_byLevel_1 24 rfl rfl
theorem dksX11_byLevel_3 : cX11_byLevel.data.toList.drop 71 = dktX11_byLevel_3 := dk_seg dksX11_byLevel_2 24 rfl rfl
theorem dksX11_byLevel_4 : cX11_byLevel.data.toList.drop 95 = dktX11_byLevel_4 := dk_seg dksX11_byLevel_3 24 rfl rfl
theorem dksX11_byLevel_5 : cX11_byLevel.data.toList.drop 119 = dktX11_byLevel_5 := dk_seg dksX11_byLevel_4 24 rfl rfl
theorem dksX11_byLevel_6 : cX11_byLevel.data.toList.drop 142 = dktX11_byLevel_6 := dk_seg dksX11_byLevel_5 23 rfl rfl
theorem dksX11_byLevel_7 : cX11_byLevel.data.toList.drop 166 = dktX11_byLevel_7 := dk_seg dksX11_byLevel_6 24 rfl rfl
theorem dksX11_byLevel_8 : cX11_byLevel.data.toList.drop 188 = dktX11_byLevel_8 := dk_seg dksX11_byLevel_7 22 rfl rfl
theorem dksX11_byLevel_9 : cX11_byLevel.data.toList.drop 211 = dktX11_byLevel_9 := dk_seg dksX11_byLevel_8 23 rfl rfl
theorem dksX11_byLevel_10 : cX11_byLevel.data.toList.drop 235 = dktX11_byLevel_10 := dk_seg dksX11_byLevel_9 24 rfl rfl
theorem dksX11_byLevel_11 : cX11_byLevel.data.toList.drop 257 = dktX11_byLevel_11 := dk_seg dksX11_byLevel_10 22 rfl rfl
theorem dksX11_byLevel_12 : cX11_byLevel.data.toList.drop 281 = dktX11_byLevel_12 := dk_seg dksX11_byLevel_11 24 rfl rfl
theorem dX11_byLevel_0 : decode cX11_byLevel 0 = .ok (.iconst 0, 1) := dk_3 (dk_at dksX11_byLevel_0 0 rfl rfl)
theorem dX11_byLevel_1 : decode cX11_byLevel 1 = .ok (.istore 4, 2) := dk_54 4 (dk_at dksX11_byLevel_0 1 rfl rfl)
theorem dX11_byLevel_3 : decode cX11_byLevel 3 = .ok (.iload 4, 2) := dk_21 4 (dk_at dksX11_byLevel_0 3 rfl rfl)
theorem dX11_byLevel_5 : decode cX11_byLevel 5 = .ok (.bipush 12, 2) := dk_16 12 (dk_at dksX11_byLevel_0 5 rfl rfl)
theorem dX11_byLevel_7 : decode cX11_byLevel 7 = .ok (.if_icmp .ge 46, 3) := dk_162 0 46 (dk_at dksX11_byLevel_0 7 rfl rfl)
theorem dX11_byLevel_10 : decode cX11_byLevel 10 = .ok (.aload_n 0, 1) := dk_42 (dk_at dksX11_byLevel_0 10 rfl rfl)
theorem dX11_byLevel_11 : decode cX11_byLevel 11 = .ok (.getfield 142, 3) := dk_180 0 142 (dk_at dksX11_byLevel_0 11 rfl rfl)
theorem dX11_byLevel_14 : decode cX11_byLevel 14 = .ok (.iload 4, 2) := dk_21 4 (dk_at dksX11_byLevel_0 14 rfl rfl)
theorem dX11_byLevel_16 : decode cX11_byLevel 16 = .ok (.aload_n 0, 1) := dk_42 (dk_at dksX11_byLevel_0 16 rfl rfl)
theorem dX11_byLevel_17 : decode cX11_byLevel 17 = .ok (.iload_n 1, 1) := dk_27 (dk_at dksX11_byLevel_0 17 rfl rfl)
theorem dX11_byLevel_18 : decode cX11_byLevel 18 = .ok (.iload 4, 2) := dk_21 4 (dk_at dksX11_byLevel_0 18 rfl rfl)
theorem dX11_byLevel_20 : decode cX11_byLevel 20 = .ok (.invokevirtual 197, 3) := dk_182 0 197 (dk_at dksX11_byLevel_0 20 rfl rfl)
theorem dX11_byLevel_23 : decode cX11_byLevel 23 = .ok (.ifCond .eq 22, 3) := dk_153 0 22 (dk_at dksX11_byLevel_1 0 rfl rfl)
theorem dX11_byLevel_26 : decode cX11_byLevel 26 = .ok (.aload_n 0, 1) := dk_42 (dk_at dksX11_byLevel_1 3 rfl rfl)
theorem dX11_byLevel_27 : decode cX11_byLevel 27 = .ok (.iload 4, 2) := dk_21 4 (dk_at dksX11_byLevel_1 4 rfl rfl)
theorem dX11_byLevel_29 : decode cX11_byLevel 29 = .ok (.invokevirtual 205, 3) := dk_182 0 205 (dk_at dksX11_byLevel_1 6 rfl rfl)
theorem dX11_byLevel_32 : decode cX11_byLevel 32 = .ok (.ifCond .ne 13, 3) := dk_154 0 13 (dk_at dksX11_byLevel_1 9 rfl rfl)
theorem dX11_byLevel_35 : decode cX11_byLevel 35 = .ok (.aload_n 0, 1) := dk_42 (dk_at dksX11_byLevel_1 12 rfl rfl)
theorem dX11_byLevel_36 : decode cX11_byLevel 36 = .ok (.iload_n 1, 1) := dk_27 (dk_at dksX11_byLevel_1 13 rfl rfl)
theorem dX11_byLevel_37 : decode cX11_byLevel 37 = .ok (.iload 4, 2) := dk_21 4 (dk_at dksX11_byLevel_1 14 rfl rfl)
theorem dX11_byLevel_39 : decode cX11_byLevel 39 = .ok (.invokevirtual 219, 3) := dk_182 0 219 (dk_at dksX11_byLevel_1 16 rfl rfl)
theorem dX11_byLevel_42 : decode cX11_byLevel 42 = .ok (.goto 4, 3) := dk_167 0 4 (dk_at dksX11_byLevel_1 19 rfl rfl)
theorem dX11_byLevel_45 : decode cX11_byLevel 45 = .ok (.lconst 0, 1) := dk_9 (dk_at dksX11_byLevel_1 22 rfl rfl)
theorem dX11_byLevel_46 : decode cX11_byLevel 46 = .ok (.lastore, 1) := dk_80 (dk_at dksX11_byLevel_1 23 rfl rfl)
theorem dX11_byLevel_47 : decode cX11_byLevel 47 = .ok (.iinc 4 1, 3) := dk_132 4 1 (dk_at dksX11_byLevel_2 0 rfl rfl)
theorem dX11_byLevel_50 : decode cX11_byLevel 50 = .ok (.goto (-47), 3) := dk_167 255 209 (dk_at dksX11_byLevel_2 3 rfl rfl)
theorem dX11_byLevel_53 : decode cX11_byLevel 53 = .ok (.lconst 0, 1) := dk_9 (dk_at dksX11_byLevel_2 6 rfl rfl)
theorem dX11_byLevel_54 : decode cX11_byLevel 54 = .ok (.lstore 4, 2) := dk_55 4 (dk_at dksX11_byLevel_2 7 rfl rfl)
theorem dX11_byLevel_56 : decode cX11_byLevel 56 = .ok (.ldc2_w 244, 3) := dk_20 0 244 (dk_at dksX11_byLevel_2 9 rfl rfl)
theorem dX11_byLevel_59 : decode cX11_byLevel 59 = .ok (.lstore 6, 2) := dk_55 6 (dk_at dksX11_byLevel_2 12 rfl rfl)
theorem dX11_byLevel_61 : decode cX11_byLevel 61 = .ok (.lload 4, 2) := dk_22 4 (dk_at dksX11_byLevel_2 14 rfl rfl)
theorem dX11_byLevel_63 : decode cX11_byLevel 63 = .ok (.lload 6, 2) := dk_22 6 (dk_at dksX11_byLevel_2 16 rfl rfl)
theorem dX11_byLevel_65 : decode cX11_byLevel 65 = .ok (.lcmp, 1) := dk_148 (dk_at dksX11_byLevel_2 18 rfl rfl)
theorem dX11_byLevel_66 : decode cX11_byLevel 66 = .ok (.ifCond .ge 43, 3) := dk_156 0 43 (dk_at dksX11_byLevel_2 19 rfl rfl)
theorem dX11_byLevel_69 : decode cX11_byLevel 69 = .ok (.lload 4, 2) := dk_22 4 (dk_at dksX11_byLevel_2 22 rfl rfl)
theorem dX11_byLevel_71 : decode cX11_byLevel 71 = .ok (.lload 6, 2) := dk_22 6 (dk_at dksX11_byLevel_3 0 rfl rfl)
theorem dX11_byLevel_73 : decode cX11_byLevel 73 = .ok (.ladd, 1) := dk_97 (dk_at dksX11_byLevel_3 2 rfl rfl)
theorem dX11_byLevel_74 : decode cX11_byLevel 74 = .ok (.lconst 1, 1) := dk_10 (dk_at dksX11_byLevel_3 3 rfl rfl)
theorem dX11_byLevel_75 : decode cX11_byLevel 75 = .ok (.ladd, 1) := dk_97 (dk_at dksX11_byLevel_3 4 rfl rfl)
theorem dX11_byLevel_76 : decode cX11_byLevel 76 = .ok (.ldc2_w 246, 3) := dk_20 0 246 (dk_at dksX11_byLevel_3 5 rfl rfl)
theorem dX11_byLevel_79 : decode cX11_byLevel 79 = .ok (.ldiv, 1) := dk_109 (dk_at dksX11_byLevel_3 8 rfl rfl)
theorem dX11_byLevel_80 : decode cX11_byLevel 80 = .ok (.lstore 8, 2) := dk_55 8 (dk_at dksX11_byLevel_3 9 rfl rfl)
theorem dX11_byLevel_82 : decode cX11_byLevel 82 = .ok (.aload_n 0, 1) := dk_42 (dk_at dksX11_byLevel_3 11 rfl rfl)
theorem dX11_byLevel_83 : decode cX11_byLevel 83 = .ok (.lload 8, 2) := dk_22 8 (dk_at dksX11_byLevel_3 12 rfl rfl)
theorem dX11_byLevel_85 : decode cX11_byLevel 85 = .ok (.invokevirtual 248, 3) := dk_182 0 248 (dk_at dksX11_byLevel_3 14 rfl rfl)
theorem dX11_byLevel_88 : decode cX11_byLevel 88 = .ok (.lload_n 2, 1) := dk_32 (dk_at dksX11_byLevel_3 17 rfl rfl)
theorem dX11_byLevel_89 : decode cX11_byLevel 89 = .ok (.lcmp, 1) := dk_148 (dk_at dksX11_byLevel_3 18 rfl rfl)
theorem dX11_byLevel_90 : decode cX11_byLevel 90 = .ok (.ifCond .gt 10, 3) := dk_157 0 10 (dk_at dksX11_byLevel_3 19 rfl rfl)
theorem dX11_byLevel_93 : decode cX11_byLevel 93 = .ok (.lload 8, 2) := dk_22 8 (dk_at dksX11_byLevel_3 22 rfl rfl)
theorem dX11_byLevel_95 : decode cX11_byLevel 95 = .ok (.lstore 4, 2) := dk_55 4 (dk_at dksX11_byLevel_4 0 rfl rfl)
theorem dX11_byLevel_97 : decode cX11_byLevel 97 = .ok (.goto 9, 3) := dk_167 0 9 (dk_at dksX11_byLevel_4 2 rfl rfl)
theorem dX11_byLevel_100 : decode cX11_byLevel 100 = .ok (.lload 8, 2) := dk_22 8 (dk_at dksX11_byLevel_4 5 rfl rfl)
theorem dX11_byLevel_102 : decode cX11_byLevel 102 = .ok (.lconst 1, 1) := dk_10 (dk_at dksX11_byLevel_4 7 rfl rfl)
theorem dX11_byLevel_103 : decode cX11_byLevel 103 = .ok (.lsub, 1) := dk_101 (dk_at dksX11_byLevel_4 8 rfl rfl)
theorem dX11_byLevel_104 : decode cX11_byLevel 104 = .ok (.lstore 6, 2) := dk_55 6 (dk_at dksX11_byLevel_4 9 rfl rfl)
theorem dX11_byLevel_106 : decode cX11_byLevel 106 = .ok (.goto (-45), 3) := dk_167 255 211 (dk_at dksX11_byLevel_4 11 rfl rfl)
theorem dX11_byLevel_109 : decode cX11_byLevel 109 = .ok (.iconst 0, 1) := dk_3 (dk_at dksX11_byLevel_4 14 rfl rfl)
theorem dX11_byLevel_110 : decode cX11_byLevel 110 = .ok (.istore 8, 2) := dk_54 8 (dk_at dksX11_byLevel_4 15 rfl rfl)
theorem dX11_byLevel_112 : decode cX11_byLevel 112 = .ok (.lload_n 2, 1) := dk_32 (dk_at dksX11_byLevel_4 17 rfl rfl)
theorem dX11_byLevel_113 : decode cX11_byLevel 113 = .ok (.aload_n 0, 1) := dk_42 (dk_at dksX11_byLevel_4 18 rfl rfl)
theorem dX11_byLevel_114 : decode cX11_byLevel 114 = .ok (.lload 4, 2) := dk_22 4 (dk_at dksX11_byLevel_4 19 rfl rfl)
theorem dX11_byLevel_116 : decode cX11_byLevel 116 = .ok (.invokevirtual 248, 3) := dk_182 0 248 (dk_at dksX11_byLevel_4 21 rfl rfl)
theorem dX11_byLevel_119 : decode cX11_byLevel 119 = .ok (.lsub, 1) := dk_101 (dk_at dksX11_byLevel_5 0 rfl rfl)
theorem dX11_byLevel_120 : decode cX11_byLevel 120 = .ok (.lstore 9, 2) := dk_55 9 (dk_at dksX11_byLevel_5 1 rfl rfl)
theorem dX11_byLevel_122 : decode cX11_byLevel 122 = .ok (.iconst 0, 1) := dk_3 (dk_at dksX11_byLevel_5 3 rfl rfl)
theorem dX11_byLevel_123 : decode cX11_byLevel 123 = .ok (.istore 11, 2) := dk_54 11 (dk_at dksX11_byLevel_5 4 rfl rfl)
theorem dX11_byLevel_125 : decode cX11_byLevel 125 = .ok (.iload 11, 2) := dk_21 11 (dk_at dksX11_byLevel_5 6 rfl rfl)
theorem dX11_byLevel_127 : decode cX11_byLevel 127 = .ok (.bipush 12, 2) := dk_16 12 (dk_at dksX11_byLevel_5 8 rfl rfl)
theorem dX11_byLevel_129 : decode cX11_byLevel 129 = .ok (.if_icmp .ge 101, 3) := dk_162 0 101 (dk_at dksX11_byLevel_5 10 rfl rfl)
theorem dX11_byLevel_132 : decode cX11_byLevel 132 = .ok (.aload_n 0, 1) := dk_42 (dk_at dksX11_byLevel_5 13 rfl rfl)
theorem dX11_byLevel_133 : decode cX11_byLevel 133 = .ok (.getfield 121, 3) := dk_180 0 121 (dk_at dksX11_byLevel_5 14 rfl rfl)
theorem dX11_byLevel_136 : decode cX11_byLevel 136 = .ok (.iload 11, 2) := dk_21 11 (dk_at dksX11_byLevel_5 17 rfl rfl)
theorem dX11_byLevel_138 : decode cX11_byLevel 138 = .ok (.lconst 0, 1) := dk_9 (dk_at dksX11_byLevel_5 19 rfl rfl)
theorem dX11_byLevel_139 : decode cX11_byLevel 139 = .ok (.lastore, 1) := dk_80 (dk_at dksX11_byLevel_5 20 rfl rfl)
theorem dX11_byLevel_140 : decode cX11_byLevel 140 = .ok (.aload_n 0, 1) := dk_42 (dk_at dksX11_byLevel_5 21 rfl rfl)
theorem dX11_byLevel_141 : decode cX11_byLevel 141 = .ok (.iload_n 1, 1) := dk_27 (dk_at dksX11_byLevel_5 22 rfl rfl)
theorem dX11_byLevel_142 : decode cX11_byLevel 142 = .ok (.iload 11, 2) := dk_21 11 (dk_at dksX11_byLevel_6 0 rfl rfl)
theorem dX11_byLevel_144 : decode cX11_byLevel 144 = .ok (.invokevirtual 197, 3) := dk_182 0 197 (dk_at dksX11_byLevel_6 2 rfl rfl)
theorem dX11_byLevel_147 : decode cX11_byLevel 147 = .ok (.ifCond .eq 77, 3) := dk_153 0 77 (dk_at dksX11_byLevel_6 5 rfl rfl)
theorem dX11_byLevel_150 : decode cX11_byLevel 150 = .ok (.aload_n 0, 1) := dk_42 (dk_at dksX11_byLevel_6 8 rfl rfl)
theorem dX11_byLevel_151 : decode cX11_byLevel 151 = .ok (.iload 11, 2) := dk_21 11 (dk_at dksX11_byLevel_6 9 rfl rfl)
theorem dX11_byLevel_153 : decode cX11_byLevel 153 = .ok (.invokevirtual 205, 3) := dk_182 0 205 (dk_at dksX11_byLevel_6 11 rfl rfl)
theorem dX11_byLevel_156 : decode cX11_byLevel 156 = .ok (.ifCond .eq 6, 3) := dk_153 0 6 (dk_at dksX11_byLevel_6 14 rfl rfl)
theorem dX11_byLevel_159 : decode cX11_byLevel 159 = .ok (.goto 65, 3) := dk_167 0 65 (dk_at dksX11_byLevel_6 17 rfl rfl)
theorem dX11_byLevel_162 : decode cX11_byLevel 162 = .ok (.iinc 8 1, 3) := dk_132 8 1 (dk_at dksX11_byLevel_6 20 rfl rfl)
theorem dX11_byLevel_165 : decode cX11_byLevel 165 = .ok (.aload_n 0, 1) := dk_42 (dk_at dksX11_byLevel_6 23 rfl rfl)
theorem dX11_byLevel_166 : decode cX11_byLevel 166 = .ok (.getfield 121, 3) := dk_180 0 121 (dk_at dksX11_byLevel_7 0 rfl rfl)
theorem dX11_byLevel_169 : decode cX11_byLevel 169 = .ok (.iload 11, 2) := dk_21 11 (dk_at dksX11_byLevel_7 3 rfl rfl)
theorem dX11_byLevel_171 : decode cX11_byLevel 171 = .ok (.lload 4, 2) := dk_22 4 (dk_at dksX11_byLevel_7 5 rfl rfl)
theorem dX11_byLevel_173 : decode cX11_byLevel 173 = .ok (.aload_n 0, 1) := dk_42 (dk_at dksX11_byLevel_7 7 rfl rfl)
theorem dX11_byLevel_174 : decode cX11_byLevel 174 = .ok (.getfield 142, 3) := dk_180 0 142 (dk_at dksX11_byLevel_7 8 rfl rfl)
theorem dX11_byLevel_177 : decode cX11_byLevel 177 = .ok (.iload 11, 2) := dk_21 11 (dk_at dksX11_byLevel_7 11 rfl rfl)
theorem dX11_byLevel_179 : decode cX11_byLevel 179 = .ok (.laload, 1) := dk_47 (dk_at dksX11_byLevel_7 13 rfl rfl)
theorem dX11_byLevel_180 : decode cX11_byLevel 180 = .ok (.invokestatic 179, 3) := dk_184 0 179 (dk_at dksX11_byLevel_7 14 rfl rfl)
theorem dX11_byLevel_183 : decode cX11_byLevel 183 = .ok (.lastore, 1) := dk_80 (dk_at dksX11_byLevel_7 17 rfl rfl)
theorem dX11_byLevel_184 : decode cX11_byLevel 184 = .ok (.lload 9, 2) := dk_22 9 (dk_at dksX11_byLevel_7 18 rfl rfl)
theorem dX11_byLevel_186 : decode cX11_byLevel 186 = .ok (.lconst 0, 1) := dk_9 (dk_at dksX11_byLevel_7 20 rfl rfl)
theorem dX11_byLevel_187 : decode cX11_byLevel 187 = .ok (.lcmp, 1) := dk_148 (dk_at dksX11_byLevel_7 21 rfl rfl)
theorem dX11_byLevel_188 : decode cX11_byLevel 188 = .ok (.ifCond .eq 36, 3) := dk_153 0 36 (dk_at dksX11_byLevel_8 0 rfl rfl)
theorem dX11_byLevel_191 : decode cX11_byLevel 191 = .ok (.aload_n 0, 1) := dk_42 (dk_at dksX11_byLevel_8 3 rfl rfl)
theorem dX11_byLevel_192 : decode cX11_byLevel 192 = .ok (.getfield 142, 3) := dk_180 0 142 (dk_at dksX11_byLevel_8 4 rfl rfl)
theorem dX11_byLevel_195 : decode cX11_byLevel 195 = .ok (.iload 11, 2) := dk_21 11 (dk_at dksX11_byLevel_8 7 rfl rfl)
theorem dX11_byLevel_197 : decode cX11_byLevel 197 = .ok (.laload, 1) := dk_47 (dk_at dksX11_byLevel_8 9 rfl rfl)
theorem dX11_byLevel_198 : decode cX11_byLevel 198 = .ok (.lload 4, 2) := dk_22 4 (dk_at dksX11_byLevel_8 10 rfl rfl)
theorem dX11_byLevel_200 : decode cX11_byLevel 200 = .ok (.lcmp, 1) := dk_148 (dk_at dksX11_byLevel_8 12 rfl rfl)
theorem dX11_byLevel_201 : decode cX11_byLevel 201 = .ok (.ifCond .gt 6, 3) := dk_157 0 6 (dk_at dksX11_byLevel_8 13 rfl rfl)
theorem dX11_byLevel_204 : decode cX11_byLevel 204 = .ok (.goto 20, 3) := dk_167 0 20 (dk_at dksX11_byLevel_8 16 rfl rfl)
theorem dX11_byLevel_207 : decode cX11_byLevel 207 = .ok (.aload_n 0, 1) := dk_42 (dk_at dksX11_byLevel_8 19 rfl rfl)
theorem dX11_byLevel_208 : decode cX11_byLevel 208 = .ok (.getfield 121, 3) := dk_180 0 121 (dk_at dksX11_byLevel_8 20 rfl rfl)
theorem dX11_byLevel_211 : decode cX11_byLevel 211 = .ok (.iload 11, 2) := dk_21 11 (dk_at dksX11_byLevel_9 0 rfl rfl)
theorem dX11_byLevel_213 : decode cX11_byLevel 213 = .ok (.dup2, 1) := dk_92 (dk_at dksX11_byLevel_9 2 rfl rfl)
theorem dX11_byLevel_214 : decode cX11_byLevel 214 = .ok (.laload, 1) := dk_47 (dk_at dksX11_byLevel_9 3 rfl rfl)
theorem dX11_byLevel_215 : decode cX11_byLevel 215 = .ok (.lconst 1, 1) := dk_10 (dk_at dksX11_byLevel_9 4 rfl rfl)
theorem dX11_byLevel_216 : decode cX11_byLevel 216 = .ok (.ladd, 1) := dk_97 (dk_at dksX11_byLevel_9 5 rfl rfl)
theorem dX11_byLevel_217 : decode cX11_byLevel 217 = .ok (.lastore, 1) := dk_80 (dk_at dksX11_byLevel_9 6 rfl rfl)
theorem dX11_byLevel_218 : decode cX11_byLevel 218 = .ok (.lload 9, 2) := dk_22 9 (dk_at dksX11_byLevel_9 7 rfl rfl)
theorem dX11_byLevel_220 : decode cX11_byLevel 220 = .ok (.lconst 1, 1) := dk_10 (dk_at dksX11_byLevel_9 9 rfl rfl)
theorem dX11_byLevel_221 : decode cX11_byLevel 221 = .ok (.lsub, 1) := dk_101 (dk_at dksX11_byLevel_9 10 rfl rfl)
theorem dX11_byLevel_222 : decode cX11_byLevel 222 = .ok (.lstore 9, 2) := dk_55 9 (dk_at dksX11_byLevel_9 11 rfl rfl)
theorem dX11_byLevel_224 : decode cX11_byLevel 224 = .ok (.iinc 11 1, 3) := dk_132 11 1 (dk_at dksX11_byLevel_9 13 rfl rfl)
theorem dX11_byLevel_227 : decode cX11_byLevel 227 = .ok (.goto (-102), 3) := dk_167 255 154 (dk_at dksX11_byLevel_9 16 rfl rfl)
theorem dX11_byLevel_230 : decode cX11_byLevel 230 = .ok (.iconst 0, 1) := dk_3 (dk_at dksX11_byLevel_9 19 rfl rfl)
theorem dX11_byLevel_231 : decode cX11_byLevel 231 = .ok (.istore 11, 2) := dk_54 11 (dk_at dksX11_byLevel_9 20 rfl rfl)
theorem dX11_byLevel_233 : decode cX11_byLevel 233 = .ok (.iload 11, 2) := dk_21 11 (dk_at dksX11_byLevel_9 22 rfl rfl)
theorem dX11_byLevel_235 : decode cX11_byLevel 235 = .ok (.bipush 12, 2) := dk_16 12 (dk_at dksX11_byLevel_10 0 rfl rfl)
theorem dX11_byLevel_237 : decode cX11_byLevel 237 = .ok (.if_icmp .ge 36, 3) := dk_162 0 36 (dk_at dksX11_byLevel_10 2 rfl rfl)
theorem dX11_byLevel_240 : decode cX11_byLevel 240 = .ok (.aload_n 0, 1) := dk_42 (dk_at dksX11_byLevel_10 5 rfl rfl)
theorem dX11_byLevel_241 : decode cX11_byLevel 241 = .ok (.getfield 121, 3) := dk_180 0 121 (dk_at dksX11_byLevel_10 6 rfl rfl)
theorem dX11_byLevel_244 : decode cX11_byLevel 244 = .ok (.iload 11, 2) := dk_21 11 (dk_at dksX11_byLevel_10 9 rfl rfl)
theorem dX11_byLevel_246 : decode cX11_byLevel 246 = .ok (.laload, 1) := dk_47 (dk_at dksX11_byLevel_10 11 rfl rfl)
theorem dX11_byLevel_247 : decode cX11_byLevel 247 = .ok (.lconst 0, 1) := dk_9 (dk_at dksX11_byLevel_10 12 rfl rfl)
theorem dX11_byLevel_248 : decode cX11_byLevel 248 = .ok (.lcmp, 1) := dk_148 (dk_at dksX11_byLevel_10 13 rfl rfl)
theorem dX11_byLevel_249 : decode cX11_byLevel 249 = .ok (.ifCond .le 18, 3) := dk_158 0 18 (dk_at dksX11_byLevel_10 14 rfl rfl)
theorem dX11_byLevel_252 : decode cX11_byLevel 252 = .ok (.aload_n 0, 1) := dk_42 (dk_at dksX11_byLevel_10 17 rfl rfl)
theorem dX11_byLevel_253 : decode cX11_byLevel 253 = .ok (.iload_n 1, 1) := dk_27 (dk_at dksX11_byLevel_10 18 rfl rfl)
theorem dX11_byLevel_254 : decode cX11_byLevel 254 = .ok (.iload 11, 2) := dk_21 11 (dk_at dksX11_byLevel_10 19 rfl rfl)
theorem dX11_byLevel_256 : decode cX11_byLevel 256 = .ok (.aload_n 0, 1) := dk_42 (dk_at dksX11_byLevel_10 21 rfl rfl)
theorem dX11_byLevel_257 : decode cX11_byLevel 257 = .ok (.getfield 121, 3) := dk_180 0 121 (dk_at dksX11_byLevel_11 0 rfl rfl)
theorem dX11_byLevel_260 : decode cX11_byLevel 260 = .ok (.iload 11, 2) := dk_21 11 (dk_at dksX11_byLevel_11 3 rfl rfl)
theorem dX11_byLevel_262 : decode cX11_byLevel 262 = .ok (.laload, 1) := dk_47 (dk_at dksX11_byLevel_11 5 rfl rfl)
theorem dX11_byLevel_263 : decode cX11_byLevel 263 = .ok (.invokevirtual 215, 3) := dk_182 0 215 (dk_at dksX11_byLevel_11 6 rfl rfl)
theorem dX11_byLevel_266 : decode cX11_byLevel 266 = .ok (.pop2, 1) := dk_88 (dk_at dksX11_byLevel_11 9 rfl rfl)
theorem dX11_byLevel_267 : decode cX11_byLevel 267 = .ok (.iinc 11 1, 3) := dk_132 11 1 (dk_at dksX11_byLevel_11 10 rfl rfl)
theorem dX11_byLevel_270 : decode cX11_byLevel 270 = .ok (.goto (-37), 3) := dk_167 255 219 (dk_at dksX11_byLevel_11 13 rfl rfl)
theorem dX11_byLevel_273 : decode cX11_byLevel 273 = .ok (.aload_n 0, 1) := dk_42 (dk_at dksX11_byLevel_11 16 rfl rfl)
theorem dX11_byLevel_274 : decode cX11_byLevel 274 = .ok (.getfield 91, 3) := dk_180 0 91 (dk_at dksX11_byLevel_11 17 rfl rfl)
theorem dX11_byLevel_277 : decode cX11_byLevel 277 = .ok (.bipush 7, 2) := dk_16 7 (dk_at dksX11_byLevel_11 20 rfl rfl)
theorem dX11_byLevel_279 : decode cX11_byLevel 279 = .ok (.iload_n 1, 1) := dk_27 (dk_at dksX11_byLevel_11 22 rfl rfl)
theorem dX11_byLevel_280 : decode cX11_byLevel 280 = .ok (.imul, 1) := dk_104 (dk_at dksX11_byLevel_11 23 rfl rfl)
theorem dX11_byLevel_281 : decode cX11_byLevel 281 = .ok (.iload 8, 2) := dk_21 8 (dk_at dksX11_byLevel_12 0 rfl rfl)
theorem dX11_byLevel_283 : decode cX11_byLevel 283 = .ok (.ifCond .ne 7, 3) := dk_154 0 7 (dk_at dksX11_byLevel_12 2 rfl rfl)
theorem dX11_byLevel_286 : decode cX11_byLevel 286 = .ok (.iconst 3, 1) := dk_6 (dk_at dksX11_byLevel_12 5 rfl rfl)
theorem dX11_byLevel_287 : decode cX11_byLevel 287 = .ok (.goto 4, 3) := dk_167 0 4 (dk_at dksX11_byLevel_12 6 rfl rfl)
theorem dX11_byLevel_290 : decode cX11_byLevel 290 = .ok (.iconst 2, 1) := dk_5 (dk_at dksX11_byLevel_12 9 rfl rfl)
theorem dX11_byLevel_291 : decode cX11_byLevel 291 = .ok (.iadd, 1) := dk_96 (dk_at dksX11_byLevel_12 10 rfl rfl)
theorem dX11_byLevel_292 : decode cX11_byLevel 292 = .ok (.dup2, 1) := dk_92 (dk_at dksX11_byLevel_12 11 rfl rfl)
theorem dX11_byLevel_293 : decode cX11_byLevel 293 = .ok (.laload, 1) := dk_47 (dk_at dksX11_byLevel_12 12 rfl rfl)
theorem dX11_byLevel_294 : decode cX11_byLevel 294 = .ok (.lload 9, 2) := dk_22 9 (dk_at dksX11_byLevel_12 13 rfl rfl)
theorem dX11_byLevel_296 : decode cX11_byLevel 296 = .ok (.ladd, 1) := dk_97 (dk_at dksX11_byLevel_12 15 rfl rfl)
theorem dX11_byLevel_297 : decode cX11_byLevel 297 = .ok (.lastore, 1) := dk_80 (dk_at dksX11_byLevel_12 16 rfl rfl)
theorem dX11_byLevel_298 : decode cX11_byLevel 298 = .ok (.return_, 1) := dk_177 (dk_at dksX11_byLevel_12 17 rfl rfl)
abbrev cX11_levelled : ByteArray := prog_16_method_40_code
def yX11_levelled : MethodName := ⟨RX11, "levelled", "(J)J"⟩
def dkwX11_levelled_1 : List UInt8 := [97, 66, 132, 5, 1, 167, 255, 232, 33, 173]
abbrev dktX11_levelled_1 : List UInt8 := dkwX11_levelled_1 ++ []
def dkwX11_levelled_0 : List UInt8 := [9, 66, 3, 54, 5, 21, 5, 16, 12, 162, 0, 23, 33, 31, 42, 180, 0, 142, 21, 5, 47, 184, 0, 179]
abbrev dktX11_levelled_0 : List UInt8 := dkwX11_levelled_0 ++ dktX11_levelled_1
theorem dksX11_levelled_0 : cX11_levelled.data.toList.drop 0 = dktX11_levelled_0 := by decide +kernel
theorem dksX11_levelled_1 : cX11_levelled.data.toList.drop 24 = dktX11_levelled_1 := dk_seg dksX11_levelled_0 24 rfl rfl
theorem dX11_levelled_0 : decode cX11_levelled 0 = .ok (.lconst 0, 1) := dk_9 (dk_at dksX11_levelled_0 0 rfl rfl)
theorem dX11_levelled_1 : decode cX11_levelled 1 = .ok (.lstore_n 3, 1) := dk_66 (dk_at dksX11_levelled_0 1 rfl rfl)
theorem dX11_levelled_2 : decode cX11_levelled 2 = .ok (.iconst 0, 1) := dk_3 (dk_at dksX11_levelled_0 2 rfl rfl)
theorem dX11_levelled_3 : decode cX11_levelled 3 = .ok (.istore 5, 2) := dk_54 5 (dk_at dksX11_levelled_0 3 rfl rfl)
theorem dX11_levelled_5 : decode cX11_levelled 5 = .ok (.iload 5, 2) := dk_21 5 (dk_at dksX11_levelled_0 5 rfl rfl)
theorem dX11_levelled_7 : decode cX11_levelled 7 = .ok (.bipush 12, 2) := dk_16 12 (dk_at dksX11_levelled_0 7 rfl rfl)
theorem dX11_levelled_9 : decode cX11_levelled 9 = .ok (.if_icmp .ge 23, 3) := dk_162 0 23 (dk_at dksX11_levelled_0 9 rfl rfl)
theorem dX11_levelled_12 : decode cX11_levelled 12 = .ok (.lload_n 3, 1) := dk_33 (dk_at dksX11_levelled_0 12 rfl rfl)
theorem dX11_levelled_13 : decode cX11_levelled 13 = .ok (.lload_n 1, 1) := dk_31 (dk_at dksX11_levelled_0 13 rfl rfl)
theorem dX11_levelled_14 : decode cX11_levelled 14 = .ok (.aload_n 0, 1) := dk_42 (dk_at dksX11_levelled_0 14 rfl rfl)
theorem dX11_levelled_15 : decode cX11_levelled 15 = .ok (.getfield 142, 3) := dk_180 0 142 (dk_at dksX11_levelled_0 15 rfl rfl)
theorem dX11_levelled_18 : decode cX11_levelled 18 = .ok (.iload 5, 2) := dk_21 5 (dk_at dksX11_levelled_0 18 rfl rfl)
theorem dX11_levelled_20 : decode cX11_levelled 20 = .ok (.laload, 1) := dk_47 (dk_at dksX11_levelled_0 20 rfl rfl)
theorem dX11_levelled_21 : decode cX11_levelled 21 = .ok (.invokestatic 179, 3) := dk_184 0 179 (dk_at dksX11_levelled_0 21 rfl rfl)
theorem dX11_levelled_24 : decode cX11_levelled 24 = .ok (.ladd, 1) := dk_97 (dk_at dksX11_levelled_1 0 rfl rfl)
theorem dX11_levelled_25 : decode cX11_levelled 25 = .ok (.lstore_n 3, 1) := dk_66 (dk_at dksX11_levelled_1 1 rfl rfl)
theorem dX11_levelled_26 : decode cX11_levelled 26 = .ok (.iinc 5 1, 3) := dk_132 5 1 (dk_at dksX11_levelled_1 2 rfl rfl)
theorem dX11_levelled_29 : decode cX11_levelled 29 = .ok (.goto (-24), 3) := dk_167 255 232 (dk_at dksX11_levelled_1 5 rfl rfl)
theorem dX11_levelled_32 : decode cX11_levelled 32 = .ok (.lload_n 3, 1) := dk_33 (dk_at dksX11_levelled_1 8 rfl rfl)
theorem dX11_levelled_33 : decode cX11_levelled 33 = .ok (.lreturn, 1) := dk_173 (dk_at dksX11_levelled_1 9 rfl rfl)
abbrev cX11_laysSizes : ByteArray := prog_16_method_30_code
def yX11_laysSizes : MethodName := ⟨RX11, "laysSizes", "(I)V"⟩
def dkwX11_laysSizes_6 : List UInt8 := [21, 4, 133, 109, 167, 0, 9, 42, 21, 5, 182, 0, 208, 80, 132, 5, 1, 167, 255, 184, 177]
abbrev dktX11_laysSizes_6 : List UInt8 := dkwX11_laysSizes_6 ++ []
def dkwX11_laysSizes_5 : List UInt8 := [9, 167, 0, 35, 21, 4, 154, 0, 7, 10, 167, 0, 26, 42, 21, 5, 182, 0, 205, 153, 0, 11, 32]
abbrev dktX11_laysSizes_5 : List UInt8 := dkwX11_laysSizes_5 ++ dktX11_laysSizes_6
def dkwX11_laysSizes_4 : List UInt8 := [180, 0, 109, 21, 5, 42, 27, 21, 5, 182, 0, 197, 153, 0, 12, 42, 21, 5, 182, 0, 201, 153, 0, 7]
abbrev dktX11_laysSizes_4 : List UInt8 := dkwX11_laysSizes_4 ++ dktX11_laysSizes_5
def dkwX11_laysSizes_3 : List UInt8 := [167, 0, 4, 9, 97, 65, 132, 5, 1, 167, 255, 187, 3, 54, 5, 21, 5, 16, 12, 162, 0, 71, 42]
abbrev dktX11_laysSizes_3 : List UInt8 := dkwX11_laysSizes_3 ++ dktX11_laysSizes_4
def dkwX11_laysSizes_2 : List UInt8 := [153, 0, 7, 4, 167, 0, 4, 3, 96, 54, 4, 32, 21, 6, 153, 0, 12, 42, 21, 5, 182, 0, 208]
abbrev dktX11_laysSizes_2 : List UInt8 := dkwX11_laysSizes_2 ++ dktX11_laysSizes_3
def dkwX11_laysSizes_1 : List UInt8 := [153, 0, 16, 42, 21, 5, 182, 0, 205, 154, 0, 7, 4, 167, 0, 4, 3, 54, 6, 21, 4, 21, 6]
abbrev dktX11_laysSizes_1 : List UInt8 := dkwX11_laysSizes_1 ++ dktX11_laysSizes_2
def dkwX11_laysSizes_0 : List UInt8 := [9, 65, 3, 54, 4, 3, 54, 5, 21, 5, 16, 12, 162, 0, 68, 42, 27, 21, 5, 182, 0, 197]
abbrev dktX11_laysSizes_0 : List UInt8 := dkwX11_laysSizes_0 ++ dktX11_laysSizes_1
theorem dksX11_laysSizes_0 : cX11_laysSizes.data.toList.drop 0 = dktX11_laysSizes_0 := by decide +kernel
theorem dksX11_laysSizes_1 : cX11_laysSizes.data.toList.drop 22 = dktX11_laysSizes_1 := dk_seg dksX11_laysSizes_0 22 rfl rfl
theorem dksX11_laysSizes_2 : cX11_laysSizes.data.toList.drop 45 = dktX11_laysSizes_2 := dk_seg dksX11_laysSizes_1 23 rfl rfl
theorem dksX11_laysSizes_3 : cX11_laysSizes.data.toList.drop 68 = dktX11_laysSizes_3 := dk_seg dksX11_laysSizes_2 23 rfl rfl
theorem dksX11_laysSizes_4 : cX11_laysSizes.data.toList.drop 91 = dktX11_laysSizes_4 := dk_seg dksX11_laysSizes_3 23 rfl rfl
theorem dksX11_laysSizes_5 : cX11_laysSizes.data.toList.drop 115 = dktX11_laysSizes_5 := dk_seg dksX11_laysSizes_4 24 rfl rfl
theorem dksX11_laysSizes_6 : cX11_laysSizes.data.toList.drop 138 = dktX11_laysSizes_6 := dk_seg dksX11_laysSizes_5 23 rfl rfl
theorem dX11_laysSizes_0 : decode cX11_laysSizes 0 = .ok (.lconst 0, 1) := dk_9 (dk_at dksX11_laysSizes_0 0 rfl rfl)
theorem dX11_laysSizes_1 : decode cX11_laysSizes 1 = .ok (.lstore_n 2, 1) := dk_65 (dk_at dksX11_laysSizes_0 1 rfl rfl)
theorem dX11_laysSizes_2 : decode cX11_laysSizes 2 = .ok (.iconst 0, 1) := dk_3 (dk_at dksX11_laysSizes_0 2 rfl rfl)
theorem dX11_laysSizes_3 : decode cX11_laysSizes 3 = .ok (.istore 4, 2) := dk_54 4 (dk_at dksX11_laysSizes_0 3 rfl rfl)
theorem dX11_laysSizes_5 : decode cX11_laysSizes 5 = .ok (.iconst 0, 1) := dk_3 (dk_at dksX11_laysSizes_0 5 rfl rfl)
theorem dX11_laysSizes_6 : decode cX11_laysSizes 6 = .ok (.istore 5, 2) := dk_54 5 (dk_at dksX11_laysSizes_0 6 rfl rfl)
theorem dX11_laysSizes_8 : decode cX11_laysSizes 8 = .ok (.iload 5, 2) := dk_21 5 (dk_at dksX11_laysSizes_0 8 rfl rfl)
theorem dX11_laysSizes_10 : decode cX11_laysSizes 10 = .ok (.bipush 12, 2) := dk_16 12 (dk_at dksX11_laysSizes_0 10 rfl rfl)
theorem dX11_laysSizes_12 : decode cX11_laysSizes 12 = .ok (.if_icmp .ge 68, 3) := dk_162 0 68 (dk_at dksX11_laysSizes_0 12 rfl rfl)
theorem dX11_laysSizes_15 : decode cX11_laysSizes 15 = .ok (.aload_n 0, 1) := dk_42 (dk_at dksX11_laysSizes_0 15 rfl rfl)
theorem dX11_laysSizes_16 : decode cX11_laysSizes 16 = .ok (.iload_n 1, 1) := dk_27 (dk_at dksX11_laysSizes_0 16 rfl rfl)
theorem dX11_laysSizes_17 : decode cX11_laysSizes 17 = .ok (.iload 5, 2) := dk_21 5 (dk_at dksX11_laysSizes_0 17 rfl rfl)
theorem dX11_laysSizes_19 : decode cX11_laysSizes 19 = .ok (.invokevirtual 197, 3) := dk_182 0 197 (dk_at dksX11_laysSizes_0 19 rfl rfl)
theorem dX11_laysSizes_22 : decode cX11_laysSizes 22 = .ok (.ifCond .eq 16, 3) := dk_153 0 16 (dk_at dksX11_laysSizes_1 0 rfl rfl)
theorem dX11_laysSizes_25 : decode cX11_laysSizes 25 = .ok (.aload_n 0, 1) := dk_42 (dk_at dksX11_laysSizes_1 3 rfl rfl)
theorem dX11_laysSizes_26 : decode cX11_laysSizes 26 = .ok (.iload 5, 2) := dk_21 5 (dk_at dksX11_laysSizes_1 4 rfl rfl)
theorem dX11_laysSizes_28 : decode cX11_laysSizes 28 = .ok (.invokevirtual 205, 3) := dk_182 0 205 (dk_at dksX11_laysSizes_1 6 rfl rfl)
theorem dX11_laysSizes_31 : decode cX11_laysSizes 31 = .ok (.ifCond .ne 7, 3) := dk_154 0 7 (dk_at dksX11_laysSizes_1 9 rfl rfl)
theorem dX11_laysSizes_34 : decode cX11_laysSizes 34 = .ok (.iconst 1, 1) := dk_4 (dk_at dksX11_laysSizes_1 12 rfl rfl)
theorem dX11_laysSizes_35 : decode cX11_laysSizes 35 = .ok (.goto 4, 3) := dk_167 0 4 (dk_at dksX11_laysSizes_1 13 rfl rfl)
theorem dX11_laysSizes_38 : decode cX11_laysSizes 38 = .ok (.iconst 0, 1) := dk_3 (dk_at dksX11_laysSizes_1 16 rfl rfl)
theorem dX11_laysSizes_39 : decode cX11_laysSizes 39 = .ok (.istore 6, 2) := dk_54 6 (dk_at dksX11_laysSizes_1 17 rfl rfl)
theorem dX11_laysSizes_41 : decode cX11_laysSizes 41 = .ok (.iload 4, 2) := dk_21 4 (dk_at dksX11_laysSizes_1 19 rfl rfl)
theorem dX11_laysSizes_43 : decode cX11_laysSizes 43 = .ok (.iload 6, 2) := dk_21 6 (dk_at dksX11_laysSizes_1 21 rfl rfl)
theorem dX11_laysSizes_45 : decode cX11_laysSizes 45 = .ok (.ifCond .eq 7, 3) := dk_153 0 7 (dk_at dksX11_laysSizes_2 0 rfl rfl)
theorem dX11_laysSizes_48 : decode cX11_laysSizes 48 = .ok (.iconst 1, 1) := dk_4 (dk_at dksX11_laysSizes_2 3 rfl rfl)
theorem dX11_laysSizes_49 : decode cX11_laysSizes 49 = .ok (.goto 4, 3) := dk_167 0 4 (dk_at dksX11_laysSizes_2 4 rfl rfl)
theorem dX11_laysSizes_52 : decode cX11_laysSizes 52 = .ok (.iconst 0, 1) := dk_3 (dk_at dksX11_laysSizes_2 7 rfl rfl)
theorem dX11_laysSizes_53 : decode cX11_laysSizes 53 = .ok (.iadd, 1) := dk_96 (dk_at dksX11_laysSizes_2 8 rfl rfl)
theorem dX11_laysSizes_54 : decode cX11_laysSizes 54 = .ok (.istore 4, 2) := dk_54 4 (dk_at dksX11_laysSizes_2 9 rfl rfl)
theorem dX11_laysSizes_56 : decode cX11_laysSizes 56 = .ok (.lload_n 2, 1) := dk_32 (dk_at dksX11_laysSizes_2 11 rfl rfl)
theorem dX11_laysSizes_57 : decode cX11_laysSizes 57 = .ok (.iload 6, 2) := dk_21 6 (dk_at dksX11_laysSizes_2 12 rfl rfl)
theorem dX11_laysSizes_59 : decode cX11_laysSizes 59 = .ok (.ifCond .eq 12, 3) := dk_153 0 12 (dk_at dksX11_laysSizes_2 14 rfl rfl)
theorem dX11_laysSizes_62 : decode cX11_laysSizes 62 = .ok (.aload_n 0, 1) := dk_42 (dk_at dksX11_laysSizes_2 17 rfl rfl)
theorem dX11_laysSizes_63 : decode cX11_laysSizes 63 = .ok (.iload 5, 2) := dk_21 5 (dk_at dksX11_laysSizes_2 18 rfl rfl)
theorem dX11_laysSizes_65 : decode cX11_laysSizes 65 = .ok (.invokevirtual 208, 3) := dk_182 0 208 (dk_at dksX11_laysSizes_2 20 rfl rfl)
theorem dX11_laysSizes_68 : decode cX11_laysSizes 68 = .ok (.goto 4, 3) := dk_167 0 4 (dk_at dksX11_laysSizes_3 0 rfl rfl)
theorem dX11_laysSizes_71 : decode cX11_laysSizes 71 = .ok (.lconst 0, 1) := dk_9 (dk_at dksX11_laysSizes_3 3 rfl rfl)
theorem dX11_laysSizes_72 : decode cX11_laysSizes 72 = .ok (.ladd, 1) := dk_97 (dk_at dksX11_laysSizes_3 4 rfl rfl)
theorem dX11_laysSizes_73 : decode cX11_laysSizes 73 = .ok (.lstore_n 2, 1) := dk_65 (dk_at dksX11_laysSizes_3 5 rfl rfl)
theorem dX11_laysSizes_74 : decode cX11_laysSizes 74 = .ok (.iinc 5 1, 3) := dk_132 5 1 (dk_at dksX11_laysSizes_3 6 rfl rfl)
theorem dX11_laysSizes_77 : decode cX11_laysSizes 77 = .ok (.goto (-69), 3) := dk_167 255 187 (dk_at dksX11_laysSizes_3 9 rfl rfl)
theorem dX11_laysSizes_80 : decode cX11_laysSizes 80 = .ok (.iconst 0, 1) := dk_3 (dk_at dksX11_laysSizes_3 12 rfl rfl)
theorem dX11_laysSizes_81 : decode cX11_laysSizes 81 = .ok (.istore 5, 2) := dk_54 5 (dk_at dksX11_laysSizes_3 13 rfl rfl)
theorem dX11_laysSizes_83 : decode cX11_laysSizes 83 = .ok (.iload 5, 2) := dk_21 5 (dk_at dksX11_laysSizes_3 15 rfl rfl)
theorem dX11_laysSizes_85 : decode cX11_laysSizes 85 = .ok (.bipush 12, 2) := dk_16 12 (dk_at dksX11_laysSizes_3 17 rfl rfl)
theorem dX11_laysSizes_87 : decode cX11_laysSizes 87 = .ok (.if_icmp .ge 71, 3) := dk_162 0 71 (dk_at dksX11_laysSizes_3 19 rfl rfl)
theorem dX11_laysSizes_90 : decode cX11_laysSizes 90 = .ok (.aload_n 0, 1) := dk_42 (dk_at dksX11_laysSizes_3 22 rfl rfl)
theorem dX11_laysSizes_91 : decode cX11_laysSizes 91 = .ok (.getfield 109, 3) := dk_180 0 109 (dk_at dksX11_laysSizes_4 0 rfl rfl)
theorem dX11_laysSizes_94 : decode cX11_laysSizes 94 = .ok (.iload 5, 2) := dk_21 5 (dk_at dksX11_laysSizes_4 3 rfl rfl)
theorem dX11_laysSizes_96 : decode cX11_laysSizes 96 = .ok (.aload_n 0, 1) := dk_42 (dk_at dksX11_laysSizes_4 5 rfl rfl)
theorem dX11_laysSizes_97 : decode cX11_laysSizes 97 = .ok (.iload_n 1, 1) := dk_27 (dk_at dksX11_laysSizes_4 6 rfl rfl)
theorem dX11_laysSizes_98 : decode cX11_laysSizes 98 = .ok (.iload 5, 2) := dk_21 5 (dk_at dksX11_laysSizes_4 7 rfl rfl)
theorem dX11_laysSizes_100 : decode cX11_laysSizes 100 = .ok (.invokevirtual 197, 3) := dk_182 0 197 (dk_at dksX11_laysSizes_4 9 rfl rfl)
theorem dX11_laysSizes_103 : decode cX11_laysSizes 103 = .ok (.ifCond .eq 12, 3) := dk_153 0 12 (dk_at dksX11_laysSizes_4 12 rfl rfl)
theorem dX11_laysSizes_106 : decode cX11_laysSizes 106 = .ok (.aload_n 0, 1) := dk_42 (dk_at dksX11_laysSizes_4 15 rfl rfl)
theorem dX11_laysSizes_107 : decode cX11_laysSizes 107 = .ok (.iload 5, 2) := dk_21 5 (dk_at dksX11_laysSizes_4 16 rfl rfl)
theorem dX11_laysSizes_109 : decode cX11_laysSizes 109 = .ok (.invokevirtual 201, 3) := dk_182 0 201 (dk_at dksX11_laysSizes_4 18 rfl rfl)
theorem dX11_laysSizes_112 : decode cX11_laysSizes 112 = .ok (.ifCond .eq 7, 3) := dk_153 0 7 (dk_at dksX11_laysSizes_4 21 rfl rfl)
theorem dX11_laysSizes_115 : decode cX11_laysSizes 115 = .ok (.lconst 0, 1) := dk_9 (dk_at dksX11_laysSizes_5 0 rfl rfl)
theorem dX11_laysSizes_116 : decode cX11_laysSizes 116 = .ok (.goto 35, 3) := dk_167 0 35 (dk_at dksX11_laysSizes_5 1 rfl rfl)
theorem dX11_laysSizes_119 : decode cX11_laysSizes 119 = .ok (.iload 4, 2) := dk_21 4 (dk_at dksX11_laysSizes_5 4 rfl rfl)
theorem dX11_laysSizes_121 : decode cX11_laysSizes 121 = .ok (.ifCond .ne 7, 3) := dk_154 0 7 (dk_at dksX11_laysSizes_5 6 rfl rfl)
theorem dX11_laysSizes_124 : decode cX11_laysSizes 124 = .ok (.lconst 1, 1) := dk_10 (dk_at dksX11_laysSizes_5 9 rfl rfl)
theorem dX11_laysSizes_125 : decode cX11_laysSizes 125 = .ok (.goto 26, 3) := dk_167 0 26 (dk_at dksX11_laysSizes_5 10 rfl rfl)
theorem dX11_laysSizes_128 : decode cX11_laysSizes 128 = .ok (.aload_n 0, 1) := dk_42 (dk_at dksX11_laysSizes_5 13 rfl rfl)
theorem dX11_laysSizes_129 : decode cX11_laysSizes 129 = .ok (.iload 5, 2) := dk_21 5 (dk_at dksX11_laysSizes_5 14 rfl rfl)
theorem dX11_laysSizes_131 : decode cX11_laysSizes 131 = .ok (.invokevirtual 205, 3) := dk_182 0 205 (dk_at dksX11_laysSizes_5 16 rfl rfl)
theorem dX11_laysSizes_134 : decode cX11_laysSizes 134 = .ok (.ifCond .eq 11, 3) := dk_153 0 11 (dk_at dksX11_laysSizes_5 19 rfl rfl)
theorem dX11_laysSizes_137 : decode cX11_laysSizes 137 = .ok (.lload_n 2, 1) := dk_32 (dk_at dksX11_laysSizes_5 22 rfl rfl)
theorem dX11_laysSizes_138 : decode cX11_laysSizes 138 = .ok (.iload 4, 2) := dk_21 4 (dk_at dksX11_laysSizes_6 0 rfl rfl)
theorem dX11_laysSizes_140 : decode cX11_laysSizes 140 = .ok (.i2l, 1) := dk_133 (dk_at dksX11_laysSizes_6 2 rfl rfl)
theorem dX11_laysSizes_141 : decode cX11_laysSizes 141 = .ok (.ldiv, 1) := dk_109 (dk_at dksX11_laysSizes_6 3 rfl rfl)
theorem dX11_laysSizes_142 : decode cX11_laysSizes 142 = .ok (.goto 9, 3) := dk_167 0 9 (dk_at dksX11_laysSizes_6 4 rfl rfl)
theorem dX11_laysSizes_145 : decode cX11_laysSizes 145 = .ok (.aload_n 0, 1) := dk_42 (dk_at dksX11_laysSizes_6 7 rfl rfl)
theorem dX11_laysSizes_146 : decode cX11_laysSizes 146 = .ok (.iload 5, 2) := dk_21 5 (dk_at dksX11_laysSizes_6 8 rfl rfl)
theorem dX11_laysSizes_148 : decode cX11_laysSizes 148 = .ok (.invokevirtual 208, 3) := dk_182 0 208 (dk_at dksX11_laysSizes_6 10 rfl rfl)
theorem dX11_laysSizes_151 : decode cX11_laysSizes 151 = .ok (.lastore, 1) := dk_80 (dk_at dksX11_laysSizes_6 13 rfl rfl)
theorem dX11_laysSizes_152 : decode cX11_laysSizes 152 = .ok (.iinc 5 1, 3) := dk_132 5 1 (dk_at dksX11_laysSizes_6 14 rfl rfl)
theorem dX11_laysSizes_155 : decode cX11_laysSizes 155 = .ok (.goto (-72), 3) := dk_167 255 184 (dk_at dksX11_laysSizes_6 17 rfl rfl)
theorem dX11_laysSizes_158 : decode cX11_laysSizes 158 = .ok (.return_, 1) := dk_177 (dk_at dksX11_laysSizes_6 20 rfl rfl)
abbrev cX11_sizesOf : ByteArray := prog_16_method_22_code
def yX11_sizesOf : MethodName := ⟨RX11, "sizesOf", "(I)J"⟩
def dkwX11_sizesOf_1 : List UInt8 := [182, 0, 161, 46, 133, 97, 65, 132, 4, 1, 167, 255, 227, 32, 173]
abbrev dktX11_sizesOf_1 : List UInt8 := dkwX11_sizesOf_1 ++ []
def dkwX11_sizesOf_0 : List UInt8 := [9, 65, 3, 54, 4, 21, 4, 42, 27, 182, 0, 169, 162, 0, 25, 32, 42, 180, 0, 42, 42, 27, 21, 4]
abbrev dktX11_sizesOf_0 : List UInt8 := dkwX11_sizesOf_0 ++ dktX11_sizesOf_1
theorem dksX11_sizesOf_0 : cX11_sizesOf.data.toList.drop 0 = dktX11_sizesOf_0 := by decide +kernel
theorem dksX11_sizesOf_1 : cX11_sizesOf.data.toList.drop 24 = dktX11_sizesOf_1 := dk_seg dksX11_sizesOf_0 24 rfl rfl
theorem dX11_sizesOf_0 : decode cX11_sizesOf 0 = .ok (.lconst 0, 1) := dk_9 (dk_at dksX11_sizesOf_0 0 rfl rfl)
theorem dX11_sizesOf_1 : decode cX11_sizesOf 1 = .ok (.lstore_n 2, 1) := dk_65 (dk_at dksX11_sizesOf_0 1 rfl rfl)
theorem dX11_sizesOf_2 : decode cX11_sizesOf 2 = .ok (.iconst 0, 1) := dk_3 (dk_at dksX11_sizesOf_0 2 rfl rfl)
theorem dX11_sizesOf_3 : decode cX11_sizesOf 3 = .ok (.istore 4, 2) := dk_54 4 (dk_at dksX11_sizesOf_0 3 rfl rfl)
theorem dX11_sizesOf_5 : decode cX11_sizesOf 5 = .ok (.iload 4, 2) := dk_21 4 (dk_at dksX11_sizesOf_0 5 rfl rfl)
theorem dX11_sizesOf_7 : decode cX11_sizesOf 7 = .ok (.aload_n 0, 1) := dk_42 (dk_at dksX11_sizesOf_0 7 rfl rfl)
theorem dX11_sizesOf_8 : decode cX11_sizesOf 8 = .ok (.iload_n 1, 1) := dk_27 (dk_at dksX11_sizesOf_0 8 rfl rfl)
theorem dX11_sizesOf_9 : decode cX11_sizesOf 9 = .ok (.invokevirtual 169, 3) := dk_182 0 169 (dk_at dksX11_sizesOf_0 9 rfl rfl)
theorem dX11_sizesOf_12 : decode cX11_sizesOf 12 = .ok (.if_icmp .ge 25, 3) := dk_162 0 25 (dk_at dksX11_sizesOf_0 12 rfl rfl)
theorem dX11_sizesOf_15 : decode cX11_sizesOf 15 = .ok (.lload_n 2, 1) := dk_32 (dk_at dksX11_sizesOf_0 15 rfl rfl)
theorem dX11_sizesOf_16 : decode cX11_sizesOf 16 = .ok (.aload_n 0, 1) := dk_42 (dk_at dksX11_sizesOf_0 16 rfl rfl)
theorem dX11_sizesOf_17 : decode cX11_sizesOf 17 = .ok (.getfield 42, 3) := dk_180 0 42 (dk_at dksX11_sizesOf_0 17 rfl rfl)
theorem dX11_sizesOf_20 : decode cX11_sizesOf 20 = .ok (.aload_n 0, 1) := dk_42 (dk_at dksX11_sizesOf_0 20 rfl rfl)
theorem dX11_sizesOf_21 : decode cX11_sizesOf 21 = .ok (.iload_n 1, 1) := dk_27 (dk_at dksX11_sizesOf_0 21 rfl rfl)
theorem dX11_sizesOf_22 : decode cX11_sizesOf 22 = .ok (.iload 4, 2) := dk_21 4 (dk_at dksX11_sizesOf_0 22 rfl rfl)
theorem dX11_sizesOf_24 : decode cX11_sizesOf 24 = .ok (.invokevirtual 161, 3) := dk_182 0 161 (dk_at dksX11_sizesOf_1 0 rfl rfl)
theorem dX11_sizesOf_27 : decode cX11_sizesOf 27 = .ok (.iaload, 1) := dk_46 (dk_at dksX11_sizesOf_1 3 rfl rfl)
theorem dX11_sizesOf_28 : decode cX11_sizesOf 28 = .ok (.i2l, 1) := dk_133 (dk_at dksX11_sizesOf_1 4 rfl rfl)
theorem dX11_sizesOf_29 : decode cX11_sizesOf 29 = .ok (.ladd, 1) := dk_97 (dk_at dksX11_sizesOf_1 5 rfl rfl)
theorem dX11_sizesOf_30 : decode cX11_sizesOf 30 = .ok (.lstore_n 2, 1) := dk_65 (dk_at dksX11_sizesOf_1 6 rfl rfl)
theorem dX11_sizesOf_31 : decode cX11_sizesOf 31 = .ok (.iinc 4 1, 3) := dk_132 4 1 (dk_at dksX11_sizesOf_1 7 rfl rfl)
theorem dX11_sizesOf_34 : decode cX11_sizesOf 34 = .ok (.goto (-29), 3) := dk_167 255 227 (dk_at dksX11_sizesOf_1 10 rfl rfl)
theorem dX11_sizesOf_37 : decode cX11_sizesOf 37 = .ok (.lload_n 2, 1) := dk_32 (dk_at dksX11_sizesOf_1 13 rfl rfl)
theorem dX11_sizesOf_38 : decode cX11_sizesOf 38 = .ok (.lreturn, 1) := dk_173 (dk_at dksX11_sizesOf_1 14 rfl rfl)
abbrev cX11_splits : ByteArray := prog_16_method_43_code
def yX11_splits : MethodName := ⟨RX11, "splits", "(II)V"⟩
def dkwX11_splits_12 : List UInt8 := [167, 255, 81, 42, 27, 7, 42, 180, 0, 115, 28, 47, 22, 4, 101, 182, 0, 254, 177]
abbrev dktX11_splits_12 : List UInt8 := dkwX11_splits_12 ++ []
def dkwX11_splits_11 : List UInt8 := [180, 0, 94, 21, 11, 46, 4, 160, 0, 7, 8, 167, 0, 5, 16, 6, 22, 9, 182, 0, 254, 132, 8, 1]
abbrev dktX11_splits_11 : List UInt8 := dkwX11_splits_11 ++ dktX11_splits_12
def dkwX11_splits_10 : List UInt8 := [180, 0, 88, 16, 10, 27, 104, 21, 11, 96, 92, 47, 22, 9, 97, 80, 167, 0, 27, 42, 27, 42]
abbrev dktX11_splits_10 : List UInt8 := dkwX11_splits_10 ++ dktX11_splits_11
def dkwX11_splits_9 : List UInt8 := [42, 27, 3, 22, 9, 182, 0, 254, 167, 0, 57, 42, 180, 0, 94, 21, 11, 46, 154, 0, 23, 42]
abbrev dktX11_splits_9 : List UInt8 := dkwX11_splits_9 ++ dktX11_splits_10
def dkwX11_splits_8 : List UInt8 := [17, 0, 160, 27, 104, 7, 28, 104, 96, 21, 8, 96, 92, 46, 22, 9, 136, 96, 79, 21, 11, 154, 0, 14]
abbrev dktX11_splits_8 : List UInt8 := dkwX11_splits_8 ++ dktX11_splits_9
def dkwX11_splits_7 : List UInt8 := [167, 0, 4, 9, 101, 55, 6, 42, 180, 0, 51, 7, 28, 104, 21, 8, 96, 46, 54, 11, 42, 180, 0, 85]
abbrev dktX11_splits_7 : List UInt8 := dkwX11_splits_7 ++ dktX11_splits_8
def dkwX11_splits_6 : List UInt8 := [9, 148, 158, 0, 7, 10, 167, 0, 4, 9, 97, 55, 9, 22, 6, 22, 6, 9, 148, 158, 0, 7, 10]
abbrev dktX11_splits_6 : List UInt8 := dkwX11_splits_6 ++ dktX11_splits_7
def dkwX11_splits_5 : List UInt8 := [180, 0, 115, 28, 47, 42, 180, 0, 54, 7, 28, 104, 21, 8, 96, 46, 133, 105, 20, 0, 252, 109, 22, 6]
abbrev dktX11_splits_5 : List UInt8 := dkwX11_splits_5 ++ dktX11_splits_6
def dkwX11_splits_4 : List UInt8 := [55, 6, 132, 8, 1, 167, 255, 214, 3, 54, 8, 21, 8, 42, 180, 0, 48, 28, 46, 162, 0, 170, 42]
abbrev dktX11_splits_4 : List UInt8 := dkwX11_splits_4 ++ dktX11_splits_5
def dkwX11_splits_3 : List UInt8 := [180, 0, 115, 28, 47, 42, 180, 0, 54, 7, 28, 104, 21, 8, 96, 46, 133, 105, 20, 0, 252, 109, 101]
abbrev dktX11_splits_3 : List UInt8 := dkwX11_splits_3 ++ dktX11_splits_4
def dkwX11_splits_2 : List UInt8 := [109, 55, 4, 22, 4, 55, 6, 3, 54, 8, 21, 8, 42, 180, 0, 48, 28, 46, 162, 0, 37, 22, 6, 42]
abbrev dktX11_splits_2 : List UInt8 := dkwX11_splits_2 ++ dktX11_splits_3
def dkwX11_splits_1 : List UInt8 := [21, 4, 96, 46, 96, 62, 132, 4, 1, 167, 255, 228, 42, 180, 0, 115, 28, 47, 29, 133, 105, 20, 0, 252]
abbrev dktX11_splits_1 : List UInt8 := dkwX11_splits_1 ++ dktX11_splits_2
def dkwX11_splits_0 : List UInt8 := [3, 62, 3, 54, 4, 21, 4, 42, 180, 0, 48, 28, 46, 162, 0, 23, 29, 42, 180, 0, 54, 7, 28, 104]
abbrev dktX11_splits_0 : List UInt8 := dkwX11_splits_0 ++ dktX11_splits_1
theorem dksX11_splits_0 : cX11_splits.data.toList.drop 0 = dktX11_splits_0 := by decide +kernel
theorem dksX11_splits_1 : cX11_splits.data.toList.drop 24 = dktX11_splits_1 := dk_seg dksX11_splits_0 24 rfl rfl
theorem dksX11_splits_2 : cX11_splits.data.toList.drop 48 = dktX11_splits_2 := dk_seg dksX11_splits_1 24 rfl rfl
theorem dksX11_splits_3 : cX11_splits.data.toList.drop 72 = dktX11_splits_3 := dk_seg dksX11_splits_2 24 rfl rfl
theorem dksX11_splits_4 : cX11_splits.data.toList.drop 95 = dktX11_splits_4 := dk_seg dksX11_splits_3 23 rfl rfl
theorem dksX11_splits_5 : cX11_splits.data.toList.drop 118 = dktX11_splits_5 := dk_seg dksX11_splits_4 23 rfl rfl
theorem dksX11_splits_6 : cX11_splits.data.toList.drop 142 = dktX11_splits_6 := dk_seg dksX11_splits_5 24 rfl rfl
theorem dksX11_splits_7 : cX11_splits.data.toList.drop 165 = dktX11_splits_7 := dk_seg dksX11_splits_6 23 rfl rfl
theorem dksX11_splits_8 : cX11_splits.data.toList.drop 189 = dktX11_splits_8 := dk_seg dksX11_splits_7 24 rfl rfl
theorem dksX11_splits_9 : cX11_splits.data.toList.drop 213 = dktX11_splits_9 := dk_seg dksX11_splits_8 24 rfl rfl
theorem dksX11_splits_10 : cX11_splits.data.toList.drop 235 = dktX11_splits_10 := dk_seg dksX11_splits_9 22 rfl rfl
theorem dksX11_splits_11 : cX11_splits.data.toList.drop 257 = dktX11_splits_11 := dk_seg dksX11_splits_10 22 rfl rfl
theorem dksX11_splits_12 : cX11_splits.data.toList.drop 281 = dktX11_splits_12 := dk_seg dksX11_splits_11 24 rfl rfl
theorem dX11_splits_0 : decode cX11_splits 0 = .ok (.iconst 0, 1) := dk_3 (dk_at dksX11_splits_0 0 rfl rfl)
theorem dX11_splits_1 : decode cX11_splits 1 = .ok (.istore_n 3, 1) := dk_62 (dk_at dksX11_splits_0 1 rfl rfl)
theorem dX11_splits_2 : decode cX11_splits 2 = .ok (.iconst 0, 1) := dk_3 (dk_at dksX11_splits_0 2 rfl rfl)
theorem dX11_splits_3 : decode cX11_splits 3 = .ok (.istore 4, 2) := dk_54 4 (dk_at dksX11_splits_0 3 rfl rfl)
theorem dX11_splits_5 : decode cX11_splits 5 = .ok (.iload 4, 2) := dk_21 4 (dk_at dksX11_splits_0 5 rfl rfl)
theorem dX11_splits_7 : decode cX11_splits 7 = .ok (.aload_n 0, 1) := dk_42 (dk_at dksX11_splits_0 7 rfl rfl)
theorem dX11_splits_8 : decode cX11_splits 8 = .ok (.getfield 48, 3) := dk_180 0 48 (dk_at dksX11_splits_0 8 rfl rfl)
theorem dX11_splits_11 : decode cX11_splits 11 = .ok (.iload_n 2, 1) := dk_28 (dk_at dksX11_splits_0 11 rfl rfl)
theorem dX11_splits_12 : decode cX11_splits 12 = .ok (.iaload, 1) := dk_46 (dk_at dksX11_splits_0 12 rfl rfl)
theorem dX11_splits_13 : decode cX11_splits 13 = .ok (.if_icmp .ge 23, 3) := dk_162 0 23 (dk_at dksX11_splits_0 13 rfl rfl)
theorem dX11_splits_16 : decode cX11_splits 16 = .ok (.iload_n 3, 1) := dk_29 (dk_at dksX11_splits_0 16 rfl rfl)
theorem dX11_splits_17 : decode cX11_splits 17 = .ok (.aload_n 0, 1) := dk_42 (dk_at dksX11_splits_0 17 rfl rfl)
theorem dX11_splits_18 : decode cX11_splits 18 = .ok (.getfield 54, 3) := dk_180 0 54 (dk_at dksX11_splits_0 18 rfl rfl)
theorem dX11_splits_21 : decode cX11_splits 21 = .ok (.iconst 4, 1) := dk_7 (dk_at dksX11_splits_0 21 rfl rfl)
theorem dX11_splits_22 : decode cX11_splits 22 = .ok (.iload_n 2, 1) := dk_28 (dk_at dksX11_splits_0 22 rfl rfl)
theorem dX11_splits_23 : decode cX11_splits 23 = .ok (.imul, 1) := dk_104 (dk_at dksX11_splits_0 23 rfl rfl)
theorem dX11_splits_24 : decode cX11_splits 24 = .ok (.iload 4, 2) := dk_21 4 (dk_at dksX11_splits_1 0 rfl rfl)
theorem dX11_splits_26 : decode cX11_splits 26 = .ok (.iadd, 1) := dk_96 (dk_at dksX11_splits_1 2 rfl rfl)
theorem dX11_splits_27 : decode cX11_splits 27 = .ok (.iaload, 1) := dk_46 (dk_at dksX11_splits_1 3 rfl rfl)
theorem dX11_splits_28 : decode cX11_splits 28 = .ok (.iadd, 1) := dk_96 (dk_at dksX11_splits_1 4 rfl rfl)
theorem dX11_splits_29 : decode cX11_splits 29 = .ok (.istore_n 3, 1) := dk_62 (dk_at dksX11_splits_1 5 rfl rfl)
theorem dX11_splits_30 : decode cX11_splits 30 = .ok (.iinc 4 1, 3) := dk_132 4 1 (dk_at dksX11_splits_1 6 rfl rfl)
theorem dX11_splits_33 : decode cX11_splits 33 = .ok (.goto (-28), 3) := dk_167 255 228 (dk_at dksX11_splits_1 9 rfl rfl)
theorem dX11_splits_36 : decode cX11_splits 36 = .ok (.aload_n 0, 1) := dk_42 (dk_at dksX11_splits_1 12 rfl rfl)
theorem dX11_splits_37 : decode cX11_splits 37 = .ok (.getfield 115, 3) := dk_180 0 115 (dk_at dksX11_splits_1 13 rfl rfl)
theorem dX11_splits_40 : decode cX11_splits 40 = .ok (.iload_n 2, 1) := dk_28 (dk_at dksX11_splits_1 16 rfl rfl)
theorem dX11_splits_41 : decode cX11_splits 41 = .ok (.laload, 1) := dk_47 (dk_at dksX11_splits_1 17 rfl rfl)
theorem dX11_splits_42 : decode cX11_splits 42 = .ok (.iload_n 3, 1) := dk_29 (dk_at dksX11_splits_1 18 rfl rfl)
theorem dX11_splits_43 : decode cX11_splits 43 = .ok (.i2l, 1) := dk_133 (dk_at dksX11_splits_1 19 rfl rfl)
theorem dX11_splits_44 : decode cX11_splits 44 = .ok (.lmul, 1) := dk_105 (dk_at dksX11_splits_1 20 rfl rfl)
theorem dX11_splits_45 : decode cX11_splits 45 = .ok (.ldc2_w 252, 3) := dk_20 0 252 (dk_at dksX11_splits_1 21 rfl rfl)
theorem dX11_splits_48 : decode cX11_splits 48 = .ok (.ldiv, 1) := dk_109 (dk_at dksX11_splits_2 0 rfl rfl)
theorem dX11_splits_49 : decode cX11_splits 49 = .ok (.lstore 4, 2) := dk_55 4 (dk_at dksX11_splits_2 1 rfl rfl)
theorem dX11_splits_51 : decode cX11_splits 51 = .ok (.lload 4, 2) := dk_22 4 (dk_at dksX11_splits_2 3 rfl rfl)
theorem dX11_splits_53 : decode cX11_splits 53 = .ok (.lstore 6, 2) := dk_55 6 (dk_at dksX11_splits_2 5 rfl rfl)
theorem dX11_splits_55 : decode cX11_splits 55 = .ok (.iconst 0, 1) := dk_3 (dk_at dksX11_splits_2 7 rfl rfl)
theorem dX11_splits_56 : decode cX11_splits 56 = .ok (.istore 8, 2) := dk_54 8 (dk_at dksX11_splits_2 8 rfl rfl)
theorem dX11_splits_58 : decode cX11_splits 58 = .ok (.iload 8, 2) := dk_21 8 (dk_at dksX11_splits_2 10 rfl rfl)
theorem dX11_splits_60 : decode cX11_splits 60 = .ok (.aload_n 0, 1) := dk_42 (dk_at dksX11_splits_2 12 rfl rfl)
theorem dX11_splits_61 : decode cX11_splits 61 = .ok (.getfield 48, 3) := dk_180 0 48 (dk_at dksX11_splits_2 13 rfl rfl)
theorem dX11_splits_64 : decode cX11_splits 64 = .ok (.iload_n 2, 1) := dk_28 (dk_at dksX11_splits_2 16 rfl rfl)
theorem dX11_splits_65 : decode cX11_splits 65 = .ok (.iaload, 1) := dk_46 (dk_at dksX11_splits_2 17 rfl rfl)
theorem dX11_splits_66 : decode cX11_splits 66 = .ok (.if_icmp .ge 37, 3) := dk_162 0 37 (dk_at dksX11_splits_2 18 rfl rfl)
theorem dX11_splits_69 : decode cX11_splits 69 = .ok (.lload 6, 2) := dk_22 6 (dk_at dksX11_splits_2 21 rfl rfl)
theorem dX11_splits_71 : decode cX11_splits 71 = .ok (.aload_n 0, 1) := dk_42 (dk_at dksX11_splits_2 23 rfl rfl)
theorem dX11_splits_72 : decode cX11_splits 72 = .ok (.getfield 115, 3) := dk_180 0 115 (dk_at dksX11_splits_3 0 rfl rfl)
theorem dX11_splits_75 : decode cX11_splits 75 = .ok (.iload_n 2, 1) := dk_28 (dk_at dksX11_splits_3 3 rfl rfl)
theorem dX11_splits_76 : decode cX11_splits 76 = .ok (.laload, 1) := dk_47 (dk_at dksX11_splits_3 4 rfl rfl)
theorem dX11_splits_77 : decode cX11_splits 77 = .ok (.aload_n 0, 1) := dk_42 (dk_at dksX11_splits_3 5 rfl rfl)
theorem dX11_splits_78 : decode cX11_splits 78 = .ok (.getfield 54, 3) := dk_180 0 54 (dk_at dksX11_splits_3 6 rfl rfl)
theorem dX11_splits_81 : decode cX11_splits 81 = .ok (.iconst 4, 1) := dk_7 (dk_at dksX11_splits_3 9 rfl rfl)
theorem dX11_splits_82 : decode cX11_splits 82 = .ok (.iload_n 2, 1) := dk_28 (dk_at dksX11_splits_3 10 rfl rfl)
theorem dX11_splits_83 : decode cX11_splits 83 = .ok (.imul, 1) := dk_104 (dk_at dksX11_splits_3 11 rfl rfl)
theorem dX11_splits_84 : decode cX11_splits 84 = .ok (.iload 8, 2) := dk_21 8 (dk_at dksX11_splits_3 12 rfl rfl)
theorem dX11_splits_86 : decode cX11_splits 86 = .ok (.iadd, 1) := dk_96 (dk_at dksX11_splits_3 14 rfl rfl)
theorem dX11_splits_87 : decode cX11_splits 87 = .ok (.iaload, 1) := dk_46 (dk_at dksX11_splits_3 15 rfl rfl)
theorem dX11_splits_88 : decode cX11_splits 88 = .ok (.i2l, 1) := dk_133 (dk_at dksX11_splits_3 16 rfl rfl)
theorem dX11_splits_89 : decode cX11_splits 89 = .ok (.lmul, 1) := dk_105 (dk_at dksX11_splits_3 17 rfl rfl)
theorem dX11_splits_90 : decode cX11_splits 90 = .ok (.ldc2_w 252, 3) := dk_20 0 252 (dk_at dksX11_splits_3 18 rfl rfl)
theorem dX11_splits_93 : decode cX11_splits 93 = .ok (.ldiv, 1) := dk_109 (dk_at dksX11_splits_3 21 rfl rfl)
theorem dX11_splits_94 : decode cX11_splits 94 = .ok (.lsub, 1) := dk_101 (dk_at dksX11_splits_3 22 rfl rfl)
theorem dX11_splits_95 : decode cX11_splits 95 = .ok (.lstore 6, 2) := dk_55 6 (dk_at dksX11_splits_4 0 rfl rfl)
theorem dX11_splits_97 : decode cX11_splits 97 = .ok (.iinc 8 1, 3) := dk_132 8 1 (dk_at dksX11_splits_4 2 rfl rfl)
theorem dX11_splits_100 : decode cX11_splits 100 = .ok (.goto (-42), 3) := dk_167 255 214 (dk_at dksX11_splits_4 5 rfl rfl)
theorem dX11_splits_103 : decode cX11_splits 103 = .ok (.iconst 0, 1) := dk_3 (dk_at dksX11_splits_4 8 rfl rfl)
theorem dX11_splits_104 : decode cX11_splits 104 = .ok (.istore 8, 2) := dk_54 8 (dk_at dksX11_splits_4 9 rfl rfl)
theorem dX11_splits_106 : decode cX11_splits 106 = .ok (.iload 8, 2) := dk_21 8 (dk_at dksX11_splits_4 11 rfl rfl)
theorem dX11_splits_108 : decode cX11_splits 108 = .ok (.aload_n 0, 1) := dk_42 (dk_at dksX11_splits_4 13 rfl rfl)
theorem dX11_splits_109 : decode cX11_splits 109 = .ok (.getfield 48, 3) := dk_180 0 48 (dk_at dksX11_splits_4 14 rfl rfl)
theorem dX11_splits_112 : decode cX11_splits 112 = .ok (.iload_n 2, 1) := dk_28 (dk_at dksX11_splits_4 17 rfl rfl)
theorem dX11_splits_113 : decode cX11_splits 113 = .ok (.iaload, 1) := dk_46 (dk_at dksX11_splits_4 18 rfl rfl)
theorem dX11_splits_114 : decode cX11_splits 114 = .ok (.if_icmp .ge 170, 3) := dk_162 0 170 (dk_at dksX11_splits_4 19 rfl rfl)
theorem dX11_splits_117 : decode cX11_splits 117 = .ok (.aload_n 0, 1) := dk_42 (dk_at dksX11_splits_4 22 rfl rfl)
theorem dX11_splits_118 : decode cX11_splits 118 = .ok (.getfield 115, 3) := dk_180 0 115 (dk_at dksX11_splits_5 0 rfl rfl)
theorem dX11_splits_121 : decode cX11_splits 121 = .ok (.iload_n 2, 1) := dk_28 (dk_at dksX11_splits_5 3 rfl rfl)
theorem dX11_splits_122 : decode cX11_splits 122 = .ok (.laload, 1) := dk_47 (dk_at dksX11_splits_5 4 rfl rfl)
theorem dX11_splits_123 : decode cX11_splits 123 = .ok (.aload_n 0, 1) := dk_42 (dk_at dksX11_splits_5 5 rfl rfl)
theorem dX11_splits_124 : decode cX11_splits 124 = .ok (.getfield 54, 3) := dk_180 0 54 (dk_at dksX11_splits_5 6 rfl rfl)
theorem dX11_splits_127 : decode cX11_splits 127 = .ok (.iconst 4, 1) := dk_7 (dk_at dksX11_splits_5 9 rfl rfl)
theorem dX11_splits_128 : decode cX11_splits 128 = .ok (.iload_n 2, 1) := dk_28 (dk_at dksX11_splits_5 10 rfl rfl)
theorem dX11_splits_129 : decode cX11_splits 129 = .ok (.imul, 1) := dk_104 (dk_at dksX11_splits_5 11 rfl rfl)
theorem dX11_splits_130 : decode cX11_splits 130 = .ok (.iload 8, 2) := dk_21 8 (dk_at dksX11_splits_5 12 rfl rfl)
theorem dX11_splits_132 : decode cX11_splits 132 = .ok (.iadd, 1) := dk_96 (dk_at dksX11_splits_5 14 rfl rfl)
theorem dX11_splits_133 : decode cX11_splits 133 = .ok (.iaload, 1) := dk_46 (dk_at dksX11_splits_5 15 rfl rfl)
theorem dX11_splits_134 : decode cX11_splits 134 = .ok (.i2l, 1) := dk_133 (dk_at dksX11_splits_5 16 rfl rfl)
theorem dX11_splits_135 : decode cX11_splits 135 = .ok (.lmul, 1) := dk_105 (dk_at dksX11_splits_5 17 rfl rfl)
theorem dX11_splits_136 : decode cX11_splits 136 = .ok (.ldc2_w 252, 3) := dk_20 0 252 (dk_at dksX11_splits_5 18 rfl rfl)
theorem dX11_splits_139 : decode cX11_splits 139 = .ok (.ldiv, 1) := dk_109 (dk_at dksX11_splits_5 21 rfl rfl)
theorem dX11_splits_140 : decode cX11_splits 140 = .ok (.lload 6, 2) := dk_22 6 (dk_at dksX11_splits_5 22 rfl rfl)
theorem dX11_splits_142 : decode cX11_splits 142 = .ok (.lconst 0, 1) := dk_9 (dk_at dksX11_splits_6 0 rfl rfl)
theorem dX11_splits_143 : decode cX11_splits 143 = .ok (.lcmp, 1) := dk_148 (dk_at dksX11_splits_6 1 rfl rfl)
theorem dX11_splits_144 : decode cX11_splits 144 = .ok (.ifCond .le 7, 3) := dk_158 0 7 (dk_at dksX11_splits_6 2 rfl rfl)
theorem dX11_splits_147 : decode cX11_splits 147 = .ok (.lconst 1, 1) := dk_10 (dk_at dksX11_splits_6 5 rfl rfl)
theorem dX11_splits_148 : decode cX11_splits 148 = .ok (.goto 4, 3) := dk_167 0 4 (dk_at dksX11_splits_6 6 rfl rfl)
theorem dX11_splits_151 : decode cX11_splits 151 = .ok (.lconst 0, 1) := dk_9 (dk_at dksX11_splits_6 9 rfl rfl)
theorem dX11_splits_152 : decode cX11_splits 152 = .ok (.ladd, 1) := dk_97 (dk_at dksX11_splits_6 10 rfl rfl)
theorem dX11_splits_153 : decode cX11_splits 153 = .ok (.lstore 9, 2) := dk_55 9 (dk_at dksX11_splits_6 11 rfl rfl)
theorem dX11_splits_155 : decode cX11_splits 155 = .ok (.lload 6, 2) := dk_22 6 (dk_at dksX11_splits_6 13 rfl rfl)
theorem dX11_splits_157 : decode cX11_splits 157 = .ok (.lload 6, 2) := dk_22 6 (dk_at dksX11_splits_6 15 rfl rfl)
theorem dX11_splits_159 : decode cX11_splits 159 = .ok (.lconst 0, 1) := dk_9 (dk_at dksX11_splits_6 17 rfl rfl)
theorem dX11_splits_160 : decode cX11_splits 160 = .ok (.lcmp, 1) := dk_148 (dk_at dksX11_splits_6 18 rfl rfl)
theorem dX11_splits_161 : decode cX11_splits 161 = .ok (.ifCond .le 7, 3) := dk_158 0 7 (dk_at dksX11_splits_6 19 rfl rfl)
theorem dX11_splits_164 : decode cX11_splits 164 = .ok (.lconst 1, 1) := dk_10 (dk_at dksX11_splits_6 22 rfl rfl)
theorem dX11_splits_165 : decode cX11_splits 165 = .ok (.goto 4, 3) := dk_167 0 4 (dk_at dksX11_splits_7 0 rfl rfl)
theorem dX11_splits_168 : decode cX11_splits 168 = .ok (.lconst 0, 1) := dk_9 (dk_at dksX11_splits_7 3 rfl rfl)
theorem dX11_splits_169 : decode cX11_splits 169 = .ok (.lsub, 1) := dk_101 (dk_at dksX11_splits_7 4 rfl rfl)
theorem dX11_splits_170 : decode cX11_splits 170 = .ok (.lstore 6, 2) := dk_55 6 (dk_at dksX11_splits_7 5 rfl rfl)
theorem dX11_splits_172 : decode cX11_splits 172 = .ok (.aload_n 0, 1) := dk_42 (dk_at dksX11_splits_7 7 rfl rfl)
theorem dX11_splits_173 : decode cX11_splits 173 = .ok (.getfield 51, 3) := dk_180 0 51 (dk_at dksX11_splits_7 8 rfl rfl)
theorem dX11_splits_176 : decode cX11_splits 176 = .ok (.iconst 4, 1) := dk_7 (dk_at dksX11_splits_7 11 rfl rfl)
theorem dX11_splits_177 : decode cX11_splits 177 = .ok (.iload_n 2, 1) := dk_28 (dk_at dksX11_splits_7 12 rfl rfl)
theorem dX11_splits_178 : decode cX11_splits 178 = .ok (.imul, 1) := dk_104 (dk_at dksX11_splits_7 13 rfl rfl)
theorem dX11_splits_179 : decode cX11_splits 179 = .ok (.iload 8, 2) := dk_21 8 (dk_at dksX11_splits_7 14 rfl rfl)
theorem dX11_splits_181 : decode cX11_splits 181 = .ok (.iadd, 1) := dk_96 (dk_at dksX11_splits_7 16 rfl rfl)
theorem dX11_splits_182 : decode cX11_splits 182 = .ok (.iaload, 1) := dk_46 (dk_at dksX11_splits_7 17 rfl rfl)
theorem dX11_splits_183 : decode cX11_splits 183 = .ok (.istore 11, 2) := dk_54 11 (dk_at dksX11_splits_7 18 rfl rfl)
theorem dX11_splits_185 : decode cX11_splits 185 = .ok (.aload_n 0, 1) := dk_42 (dk_at dksX11_splits_7 20 rfl rfl)
theorem dX11_splits_186 : decode cX11_splits 186 = .ok (.getfield 85, 3) := dk_180 0 85 (dk_at dksX11_splits_7 21 rfl rfl)
theorem dX11_splits_189 : decode cX11_splits 189 = .ok (.sipush 160, 3) := dk_17 0 160 (dk_at dksX11_splits_8 0 rfl rfl)
theorem dX11_splits_192 : decode cX11_splits 192 = .ok (.iload_n 1, 1) := dk_27 (dk_at dksX11_splits_8 3 rfl rfl)
theorem dX11_splits_193 : decode cX11_splits 193 = .ok (.imul, 1) := dk_104 (dk_at dksX11_splits_8 4 rfl rfl)
theorem dX11_splits_194 : decode cX11_splits 194 = .ok (.iconst 4, 1) := dk_7 (dk_at dksX11_splits_8 5 rfl rfl)
theorem dX11_splits_195 : decode cX11_splits 195 = .ok (.iload_n 2, 1) := dk_28 (dk_at dksX11_splits_8 6 rfl rfl)
theorem dX11_splits_196 : decode cX11_splits 196 = .ok (.imul, 1) := dk_104 (dk_at dksX11_splits_8 7 rfl rfl)
theorem dX11_splits_197 : decode cX11_splits 197 = .ok (.iadd, 1) := dk_96 (dk_at dksX11_splits_8 8 rfl rfl)
theorem dX11_splits_198 : decode cX11_splits 198 = .ok (.iload 8, 2) := dk_21 8 (dk_at dksX11_splits_8 9 rfl rfl)
theorem dX11_splits_200 : decode cX11_splits 200 = .ok (.iadd, 1) := dk_96 (dk_at dksX11_splits_8 11 rfl rfl)
theorem dX11_splits_201 : decode cX11_splits 201 = .ok (.dup2, 1) := dk_92 (dk_at dksX11_splits_8 12 rfl rfl)
theorem dX11_splits_202 : decode cX11_splits 202 = .ok (.iaload, 1) := dk_46 (dk_at dksX11_splits_8 13 rfl rfl)
theorem dX11_splits_203 : decode cX11_splits 203 = .ok (.lload 9, 2) := dk_22 9 (dk_at dksX11_splits_8 14 rfl rfl)
theorem dX11_splits_205 : decode cX11_splits 205 = .ok (.l2i, 1) := dk_136 (dk_at dksX11_splits_8 16 rfl rfl)
theorem dX11_splits_206 : decode cX11_splits 206 = .ok (.iadd, 1) := dk_96 (dk_at dksX11_splits_8 17 rfl rfl)
theorem dX11_splits_207 : decode cX11_splits 207 = .ok (.iastore, 1) := dk_79 (dk_at dksX11_splits_8 18 rfl rfl)
theorem dX11_splits_208 : decode cX11_splits 208 = .ok (.iload 11, 2) := dk_21 11 (dk_at dksX11_splits_8 19 rfl rfl)
theorem dX11_splits_210 : decode cX11_splits 210 = .ok (.ifCond .ne 14, 3) := dk_154 0 14 (dk_at dksX11_splits_8 21 rfl rfl)
theorem dX11_splits_213 : decode cX11_splits 213 = .ok (.aload_n 0, 1) := dk_42 (dk_at dksX11_splits_9 0 rfl rfl)
theorem dX11_splits_214 : decode cX11_splits 214 = .ok (.iload_n 1, 1) := dk_27 (dk_at dksX11_splits_9 1 rfl rfl)
theorem dX11_splits_215 : decode cX11_splits 215 = .ok (.iconst 0, 1) := dk_3 (dk_at dksX11_splits_9 2 rfl rfl)
theorem dX11_splits_216 : decode cX11_splits 216 = .ok (.lload 9, 2) := dk_22 9 (dk_at dksX11_splits_9 3 rfl rfl)
theorem dX11_splits_218 : decode cX11_splits 218 = .ok (.invokevirtual 254, 3) := dk_182 0 254 (dk_at dksX11_splits_9 5 rfl rfl)
theorem dX11_splits_221 : decode cX11_splits 221 = .ok (.goto 57, 3) := dk_167 0 57 (dk_at dksX11_splits_9 8 rfl rfl)
theorem dX11_splits_224 : decode cX11_splits 224 = .ok (.aload_n 0, 1) := dk_42 (dk_at dksX11_splits_9 11 rfl rfl)
theorem dX11_splits_225 : decode cX11_splits 225 = .ok (.getfield 94, 3) := dk_180 0 94 (dk_at dksX11_splits_9 12 rfl rfl)
theorem dX11_splits_228 : decode cX11_splits 228 = .ok (.iload 11, 2) := dk_21 11 (dk_at dksX11_splits_9 15 rfl rfl)
theorem dX11_splits_230 : decode cX11_splits 230 = .ok (.iaload, 1) := dk_46 (dk_at dksX11_splits_9 17 rfl rfl)
theorem dX11_splits_231 : decode cX11_splits 231 = .ok (.ifCond .ne 23, 3) := dk_154 0 23 (dk_at dksX11_splits_9 18 rfl rfl)
theorem dX11_splits_234 : decode cX11_splits 234 = .ok (.aload_n 0, 1) := dk_42 (dk_at dksX11_splits_9 21 rfl rfl)
theorem dX11_splits_235 : decode cX11_splits 235 = .ok (.getfield 88, 3) := dk_180 0 88 (dk_at dksX11_splits_10 0 rfl rfl)
theorem dX11_splits_238 : decode cX11_splits 238 = .ok (.bipush 10, 2) := dk_16 10 (dk_at dksX11_splits_10 3 rfl rfl)
theorem dX11_splits_240 : decode cX11_splits 240 = .ok (.iload_n 1, 1) := dk_27 (dk_at dksX11_splits_10 5 rfl rfl)
theorem dX11_splits_241 : decode cX11_splits 241 = .ok (.imul, 1) := dk_104 (dk_at dksX11_splits_10 6 rfl rfl)
theorem dX11_splits_242 : decode cX11_splits 242 = .ok (.iload 11, 2) := dk_21 11 (dk_at dksX11_splits_10 7 rfl rfl)
theorem dX11_splits_244 : decode cX11_splits 244 = .ok (.iadd, 1) := dk_96 (dk_at dksX11_splits_10 9 rfl rfl)
theorem dX11_splits_245 : decode cX11_splits 245 = .ok (.dup2, 1) := dk_92 (dk_at dksX11_splits_10 10 rfl rfl)
theorem dX11_splits_246 : decode cX11_splits 246 = .ok (.laload, 1) := dk_47 (dk_at dksX11_splits_10 11 rfl rfl)
theorem dX11_splits_247 : decode cX11_splits 247 = .ok (.lload 9, 2) := dk_22 9 (dk_at dksX11_splits_10 12 rfl rfl)
theorem dX11_splits_249 : decode cX11_splits 249 = .ok (.ladd, 1) := dk_97 (dk_at dksX11_splits_10 14 rfl rfl)
theorem dX11_splits_250 : decode cX11_splits 250 = .ok (.lastore, 1) := dk_80 (dk_at dksX11_splits_10 15 rfl rfl)
theorem dX11_splits_251 : decode cX11_splits 251 = .ok (.goto 27, 3) := dk_167 0 27 (dk_at dksX11_splits_10 16 rfl rfl)
theorem dX11_splits_254 : decode cX11_splits 254 = .ok (.aload_n 0, 1) := dk_42 (dk_at dksX11_splits_10 19 rfl rfl)
theorem dX11_splits_255 : decode cX11_splits 255 = .ok (.iload_n 1, 1) := dk_27 (dk_at dksX11_splits_10 20 rfl rfl)
theorem dX11_splits_256 : decode cX11_splits 256 = .ok (.aload_n 0, 1) := dk_42 (dk_at dksX11_splits_10 21 rfl rfl)
theorem dX11_splits_257 : decode cX11_splits 257 = .ok (.getfield 94, 3) := dk_180 0 94 (dk_at dksX11_splits_11 0 rfl rfl)
theorem dX11_splits_260 : decode cX11_splits 260 = .ok (.iload 11, 2) := dk_21 11 (dk_at dksX11_splits_11 3 rfl rfl)
theorem dX11_splits_262 : decode cX11_splits 262 = .ok (.iaload, 1) := dk_46 (dk_at dksX11_splits_11 5 rfl rfl)
theorem dX11_splits_263 : decode cX11_splits 263 = .ok (.iconst 1, 1) := dk_4 (dk_at dksX11_splits_11 6 rfl rfl)
theorem dX11_splits_264 : decode cX11_splits 264 = .ok (.if_icmp .ne 7, 3) := dk_160 0 7 (dk_at dksX11_splits_11 7 rfl rfl)
theorem dX11_splits_267 : decode cX11_splits 267 = .ok (.iconst 5, 1) := dk_8 (dk_at dksX11_splits_11 10 rfl rfl)
theorem dX11_splits_268 : decode cX11_splits 268 = .ok (.goto 5, 3) := dk_167 0 5 (dk_at dksX11_splits_11 11 rfl rfl)
theorem dX11_splits_271 : decode cX11_splits 271 = .ok (.bipush 6, 2) := dk_16 6 (dk_at dksX11_splits_11 14 rfl rfl)
theorem dX11_splits_273 : decode cX11_splits 273 = .ok (.lload 9, 2) := dk_22 9 (dk_at dksX11_splits_11 16 rfl rfl)
theorem dX11_splits_275 : decode cX11_splits 275 = .ok (.invokevirtual 254, 3) := dk_182 0 254 (dk_at dksX11_splits_11 18 rfl rfl)
theorem dX11_splits_278 : decode cX11_splits 278 = .ok (.iinc 8 1, 3) := dk_132 8 1 (dk_at dksX11_splits_11 21 rfl rfl)
theorem dX11_splits_281 : decode cX11_splits 281 = .ok (.goto (-175), 3) := dk_167 255 81 (dk_at dksX11_splits_12 0 rfl rfl)
theorem dX11_splits_284 : decode cX11_splits 284 = .ok (.aload_n 0, 1) := dk_42 (dk_at dksX11_splits_12 3 rfl rfl)
theorem dX11_splits_285 : decode cX11_splits 285 = .ok (.iload_n 1, 1) := dk_27 (dk_at dksX11_splits_12 4 rfl rfl)
theorem dX11_splits_286 : decode cX11_splits 286 = .ok (.iconst 4, 1) := dk_7 (dk_at dksX11_splits_12 5 rfl rfl)
theorem dX11_splits_287 : decode cX11_splits 287 = .ok (.aload_n 0, 1) := dk_42 (dk_at dksX11_splits_12 6 rfl rfl)
theorem dX11_splits_288 : decode cX11_splits 288 = .ok (.getfield 115, 3) := dk_180 0 115 (dk_at dksX11_splits_12 7 rfl rfl)
theorem dX11_splits_291 : decode cX11_splits 291 = .ok (.iload_n 2, 1) := dk_28 (dk_at dksX11_splits_12 10 rfl rfl)
theorem dX11_splits_292 : decode cX11_splits 292 = .ok (.laload, 1) := dk_47 (dk_at dksX11_splits_12 11 rfl rfl)
theorem dX11_splits_293 : decode cX11_splits 293 = .ok (.lload 4, 2) := dk_22 4 (dk_at dksX11_splits_12 12 rfl rfl)
theorem dX11_splits_295 : decode cX11_splits 295 = .ok (.lsub, 1) := dk_101 (dk_at dksX11_splits_12 14 rfl rfl)
theorem dX11_splits_296 : decode cX11_splits 296 = .ok (.invokevirtual 254, 3) := dk_182 0 254 (dk_at dksX11_splits_12 15 rfl rfl)
theorem dX11_splits_299 : decode cX11_splits 299 = .ok (.return_, 1) := dk_177 (dk_at dksX11_splits_12 18 rfl rfl)
abbrev cX11_fallsOn : ByteArray := prog_16_method_42_code
def yX11_fallsOn : MethodName := ⟨RX11, "fallsOn", "(IIJ)V"⟩
def dkwX11_fallsOn_0 : List UInt8 := [42, 180, 0, 91, 16, 7, 27, 104, 28, 96, 92, 47, 33, 97, 80, 177]
abbrev dktX11_fallsOn_0 : List UInt8 := dkwX11_fallsOn_0 ++ []
theorem dksX11_fallsOn_0 : cX11_fallsOn.data.toList.drop 0 = dktX11_fallsOn_0 := by decide +kernel
theorem dX11_fallsOn_0 : decode cX11_fallsOn 0 = .ok (.aload_n 0, 1) := dk_42 (dk_at dksX11_fallsOn_0 0 rfl rfl)
theorem dX11_fallsOn_1 : decode cX11_fallsOn 1 = .ok (.getfield 91, 3) := dk_180 0 91 (dk_at dksX11_fallsOn_0 1 rfl rfl)
theorem dX11_fallsOn_4 : decode cX11_fallsOn 4 = .ok (.bipush 7, 2) := dk_16 7 (dk_at dksX11_fallsOn_0 4 rfl rfl)
theorem dX11_fallsOn_6 : decode cX11_fallsOn 6 = .ok (.iload_n 1, 1) := dk_27 (dk_at dksX11_fallsOn_0 6 rfl rfl)
theorem dX11_fallsOn_7 : decode cX11_fallsOn 7 = .ok (.imul, 1) := dk_104 (dk_at dksX11_fallsOn_0 7 rfl rfl)
theorem dX11_fallsOn_8 : decode cX11_fallsOn 8 = .ok (.iload_n 2, 1) := dk_28 (dk_at dksX11_fallsOn_0 8 rfl rfl)
theorem dX11_fallsOn_9 : decode cX11_fallsOn 9 = .ok (.iadd, 1) := dk_96 (dk_at dksX11_fallsOn_0 9 rfl rfl)
theorem dX11_fallsOn_10 : decode cX11_fallsOn 10 = .ok (.dup2, 1) := dk_92 (dk_at dksX11_fallsOn_0 10 rfl rfl)
theorem dX11_fallsOn_11 : decode cX11_fallsOn 11 = .ok (.laload, 1) := dk_47 (dk_at dksX11_fallsOn_0 11 rfl rfl)
theorem dX11_fallsOn_12 : decode cX11_fallsOn 12 = .ok (.lload_n 3, 1) := dk_33 (dk_at dksX11_fallsOn_0 12 rfl rfl)
theorem dX11_fallsOn_13 : decode cX11_fallsOn 13 = .ok (.ladd, 1) := dk_97 (dk_at dksX11_fallsOn_0 13 rfl rfl)
theorem dX11_fallsOn_14 : decode cX11_fallsOn 14 = .ok (.lastore, 1) := dk_80 (dk_at dksX11_fallsOn_0 14 rfl rfl)
theorem dX11_fallsOn_15 : decode cX11_fallsOn 15 = .ok (.return_, 1) := dk_177 (dk_at dksX11_fallsOn_0 15 rfl rfl)
abbrev cX11_grows : ByteArray := prog_16_method_57_code
def yX11_grows : MethodName := ⟨RX11, "grows", "(II)V"⟩
def dkwX11_grows_1 : List UInt8 := [133, 182, 1, 69, 177]
abbrev dktX11_grows_1 : List UInt8 := dkwX11_grows_1 ++ []
def dkwX11_grows_0 : List UInt8 := [42, 180, 0, 73, 27, 92, 47, 28, 133, 97, 80, 42, 180, 0, 70, 27, 92, 46, 4, 96, 79, 42, 27, 28]
abbrev dktX11_grows_0 : List UInt8 := dkwX11_grows_0 ++ dktX11_grows_1
theorem dksX11_grows_0 : cX11_grows.data.toList.drop 0 = dktX11_grows_0 := by decide +kernel
theorem dksX11_grows_1 : cX11_grows.data.toList.drop 24 = dktX11_grows_1 := dk_seg dksX11_grows_0 24 rfl rfl
theorem dX11_grows_0 : decode cX11_grows 0 = .ok (.aload_n 0, 1) := dk_42 (dk_at dksX11_grows_0 0 rfl rfl)
theorem dX11_grows_1 : decode cX11_grows 1 = .ok (.getfield 73, 3) := dk_180 0 73 (dk_at dksX11_grows_0 1 rfl rfl)
theorem dX11_grows_4 : decode cX11_grows 4 = .ok (.iload_n 1, 1) := dk_27 (dk_at dksX11_grows_0 4 rfl rfl)
theorem dX11_grows_5 : decode cX11_grows 5 = .ok (.dup2, 1) := dk_92 (dk_at dksX11_grows_0 5 rfl rfl)
theorem dX11_grows_6 : decode cX11_grows 6 = .ok (.laload, 1) := dk_47 (dk_at dksX11_grows_0 6 rfl rfl)
theorem dX11_grows_7 : decode cX11_grows 7 = .ok (.iload_n 2, 1) := dk_28 (dk_at dksX11_grows_0 7 rfl rfl)
theorem dX11_grows_8 : decode cX11_grows 8 = .ok (.i2l, 1) := dk_133 (dk_at dksX11_grows_0 8 rfl rfl)
theorem dX11_grows_9 : decode cX11_grows 9 = .ok (.ladd, 1) := dk_97 (dk_at dksX11_grows_0 9 rfl rfl)
theorem dX11_grows_10 : decode cX11_grows 10 = .ok (.lastore, 1) := dk_80 (dk_at dksX11_grows_0 10 rfl rfl)
theorem dX11_grows_11 : decode cX11_grows 11 = .ok (.aload_n 0, 1) := dk_42 (dk_at dksX11_grows_0 11 rfl rfl)
theorem dX11_grows_12 : decode cX11_grows 12 = .ok (.getfield 70, 3) := dk_180 0 70 (dk_at dksX11_grows_0 12 rfl rfl)
theorem dX11_grows_15 : decode cX11_grows 15 = .ok (.iload_n 1, 1) := dk_27 (dk_at dksX11_grows_0 15 rfl rfl)
theorem dX11_grows_16 : decode cX11_grows 16 = .ok (.dup2, 1) := dk_92 (dk_at dksX11_grows_0 16 rfl rfl)
theorem dX11_grows_17 : decode cX11_grows 17 = .ok (.iaload, 1) := dk_46 (dk_at dksX11_grows_0 17 rfl rfl)
theorem dX11_grows_18 : decode cX11_grows 18 = .ok (.iconst 1, 1) := dk_4 (dk_at dksX11_grows_0 18 rfl rfl)
theorem dX11_grows_19 : decode cX11_grows 19 = .ok (.iadd, 1) := dk_96 (dk_at dksX11_grows_0 19 rfl rfl)
theorem dX11_grows_20 : decode cX11_grows 20 = .ok (.iastore, 1) := dk_79 (dk_at dksX11_grows_0 20 rfl rfl)
theorem dX11_grows_21 : decode cX11_grows 21 = .ok (.aload_n 0, 1) := dk_42 (dk_at dksX11_grows_0 21 rfl rfl)
theorem dX11_grows_22 : decode cX11_grows 22 = .ok (.iload_n 1, 1) := dk_27 (dk_at dksX11_grows_0 22 rfl rfl)
theorem dX11_grows_23 : decode cX11_grows 23 = .ok (.iload_n 2, 1) := dk_28 (dk_at dksX11_grows_0 23 rfl rfl)
theorem dX11_grows_24 : decode cX11_grows 24 = .ok (.i2l, 1) := dk_133 (dk_at dksX11_grows_1 0 rfl rfl)
theorem dX11_grows_25 : decode cX11_grows 25 = .ok (.invokevirtual 325, 3) := dk_182 1 69 (dk_at dksX11_grows_1 1 rfl rfl)
theorem dX11_grows_28 : decode cX11_grows 28 = .ok (.return_, 1) := dk_177 (dk_at dksX11_grows_1 4 rfl rfl)
abbrev cX11_reopens : ByteArray := prog_16_method_58_code
def yX11_reopens : MethodName := ⟨RX11, "reopens", "(I)V"⟩
def dkwX11_reopens_2 : List UInt8 := [182, 1, 69, 177]
abbrev dktX11_reopens_2 : List UInt8 := dkwX11_reopens_2 ++ []
def dkwX11_reopens_1 : List UInt8 := [96, 47, 101, 80, 132, 2, 1, 167, 255, 227, 42, 27, 182, 0, 145, 42, 27, 42, 180, 0, 73, 27, 47]
abbrev dktX11_reopens_1 : List UInt8 := dkwX11_reopens_1 ++ dktX11_reopens_2
def dkwX11_reopens_0 : List UInt8 := [3, 61, 28, 16, 40, 162, 0, 29, 42, 180, 0, 57, 28, 92, 47, 42, 180, 0, 76, 16, 40, 27, 104, 28]
abbrev dktX11_reopens_0 : List UInt8 := dkwX11_reopens_0 ++ dktX11_reopens_1
theorem dksX11_reopens_0 : cX11_reopens.data.toList.drop 0 = dktX11_reopens_0 := by decide +kernel
theorem dksX11_reopens_1 : cX11_reopens.data.toList.drop 24 = dktX11_reopens_1 := dk_seg dksX11_reopens_0 24 rfl rfl
theorem dksX11_reopens_2 : cX11_reopens.data.toList.drop 47 = dktX11_reopens_2 := dk_seg dksX11_reopens_1 23 rfl rfl
theorem dX11_reopens_0 : decode cX11_reopens 0 = .ok (.iconst 0, 1) := dk_3 (dk_at dksX11_reopens_0 0 rfl rfl)
theorem dX11_reopens_1 : decode cX11_reopens 1 = .ok (.istore_n 2, 1) := dk_61 (dk_at dksX11_reopens_0 1 rfl rfl)
theorem dX11_reopens_2 : decode cX11_reopens 2 = .ok (.iload_n 2, 1) := dk_28 (dk_at dksX11_reopens_0 2 rfl rfl)
theorem dX11_reopens_3 : decode cX11_reopens 3 = .ok (.bipush 40, 2) := dk_16 40 (dk_at dksX11_reopens_0 3 rfl rfl)
theorem dX11_reopens_5 : decode cX11_reopens 5 = .ok (.if_icmp .ge 29, 3) := dk_162 0 29 (dk_at dksX11_reopens_0 5 rfl rfl)
theorem dX11_reopens_8 : decode cX11_reopens 8 = .ok (.aload_n 0, 1) := dk_42 (dk_at dksX11_reopens_0 8 rfl rfl)
theorem dX11_reopens_9 : decode cX11_reopens 9 = .ok (.getfield 57, 3) := dk_180 0 57 (dk_at dksX11_reopens_0 9 rfl rfl)
theorem dX11_reopens_12 : decode cX11_reopens 12 = .ok (.iload_n 2, 1) := dk_28 (dk_at dksX11_reopens_0 12 rfl rfl)
theorem dX11_reopens_13 : decode cX11_reopens 13 = .ok (.dup2, 1) := dk_92 (dk_at dksX11_reopens_0 13 rfl rfl)
theorem dX11_reopens_14 : decode cX11_reopens 14 = .ok (.laload, 1) := dk_47 (dk_at dksX11_reopens_0 14 rfl rfl)
theorem dX11_reopens_15 : decode cX11_reopens 15 = .ok (.aload_n 0, 1) := dk_42 (dk_at dksX11_reopens_0 15 rfl rfl)
theorem dX11_reopens_16 : decode cX11_reopens 16 = .ok (.getfield 76, 3) := dk_180 0 76 (dk_at dksX11_reopens_0 16 rfl rfl)
theorem dX11_reopens_19 : decode cX11_reopens 19 = .ok (.bipush 40, 2) := dk_16 40 (dk_at dksX11_reopens_0 19 rfl rfl)
theorem dX11_reopens_21 : decode cX11_reopens 21 = .ok (.iload_n 1, 1) := dk_27 (dk_at dksX11_reopens_0 21 rfl rfl)
theorem dX11_reopens_22 : decode cX11_reopens 22 = .ok (.imul, 1) := dk_104 (dk_at dksX11_reopens_0 22 rfl rfl)
theorem dX11_reopens_23 : decode cX11_reopens 23 = .ok (.iload_n 2, 1) := dk_28 (dk_at dksX11_reopens_0 23 rfl rfl)
theorem dX11_reopens_24 : decode cX11_reopens 24 = .ok (.iadd, 1) := dk_96 (dk_at dksX11_reopens_1 0 rfl rfl)
theorem dX11_reopens_25 : decode cX11_reopens 25 = .ok (.laload, 1) := dk_47 (dk_at dksX11_reopens_1 1 rfl rfl)
theorem dX11_reopens_26 : decode cX11_reopens 26 = .ok (.lsub, 1) := dk_101 (dk_at dksX11_reopens_1 2 rfl rfl)
theorem dX11_reopens_27 : decode cX11_reopens 27 = .ok (.lastore, 1) := dk_80 (dk_at dksX11_reopens_1 3 rfl rfl)
theorem dX11_reopens_28 : decode cX11_reopens 28 = .ok (.iinc 2 1, 3) := dk_132 2 1 (dk_at dksX11_reopens_1 4 rfl rfl)
theorem dX11_reopens_31 : decode cX11_reopens 31 = .ok (.goto (-29), 3) := dk_167 255 227 (dk_at dksX11_reopens_1 7 rfl rfl)
theorem dX11_reopens_34 : decode cX11_reopens 34 = .ok (.aload_n 0, 1) := dk_42 (dk_at dksX11_reopens_1 10 rfl rfl)
theorem dX11_reopens_35 : decode cX11_reopens 35 = .ok (.iload_n 1, 1) := dk_27 (dk_at dksX11_reopens_1 11 rfl rfl)
theorem dX11_reopens_36 : decode cX11_reopens 36 = .ok (.invokevirtual 145, 3) := dk_182 0 145 (dk_at dksX11_reopens_1 12 rfl rfl)
theorem dX11_reopens_39 : decode cX11_reopens 39 = .ok (.aload_n 0, 1) := dk_42 (dk_at dksX11_reopens_1 15 rfl rfl)
theorem dX11_reopens_40 : decode cX11_reopens 40 = .ok (.iload_n 1, 1) := dk_27 (dk_at dksX11_reopens_1 16 rfl rfl)
theorem dX11_reopens_41 : decode cX11_reopens 41 = .ok (.aload_n 0, 1) := dk_42 (dk_at dksX11_reopens_1 17 rfl rfl)
theorem dX11_reopens_42 : decode cX11_reopens 42 = .ok (.getfield 73, 3) := dk_180 0 73 (dk_at dksX11_reopens_1 18 rfl rfl)
theorem dX11_reopens_45 : decode cX11_reopens 45 = .ok (.iload_n 1, 1) := dk_27 (dk_at dksX11_reopens_1 21 rfl rfl)
theorem dX11_reopens_46 : decode cX11_reopens 46 = .ok (.laload, 1) := dk_47 (dk_at dksX11_reopens_1 22 rfl rfl)
theorem dX11_reopens_47 : decode cX11_reopens 47 = .ok (.invokevirtual 325, 3) := dk_182 1 69 (dk_at dksX11_reopens_2 0 rfl rfl)
theorem dX11_reopens_50 : decode cX11_reopens 50 = .ok (.return_, 1) := dk_177 (dk_at dksX11_reopens_2 3 rfl rfl)
abbrev cX11_clearsHarm : ByteArray := prog_16_method_9_code
def yX11_clearsHarm : MethodName := ⟨RX11, "clearsHarm", "(I)V"⟩
def dkwX11_clearsHarm_5 : List UInt8 := [104, 28, 96, 9, 80, 132, 2, 1, 167, 255, 235, 177]
abbrev dktX11_clearsHarm_5 : List UInt8 := dkwX11_clearsHarm_5 ++ []
def dkwX11_clearsHarm_4 : List UInt8 := [96, 9, 80, 132, 2, 1, 167, 255, 235, 3, 61, 28, 16, 7, 162, 0, 21, 42, 180, 0, 91, 16, 7, 27]
abbrev dktX11_clearsHarm_4 : List UInt8 := dkwX11_clearsHarm_4 ++ dktX11_clearsHarm_5
def dkwX11_clearsHarm_3 : List UInt8 := [79, 132, 2, 1, 167, 255, 233, 3, 61, 28, 16, 10, 162, 0, 21, 42, 180, 0, 88, 16, 10, 27, 104, 28]
abbrev dktX11_clearsHarm_3 : List UInt8 := dkwX11_clearsHarm_3 ++ dktX11_clearsHarm_4
def dkwX11_clearsHarm_2 : List UInt8 := [167, 255, 211, 3, 61, 28, 17, 0, 160, 162, 0, 22, 42, 180, 0, 85, 17, 0, 160, 27, 104, 28, 96, 3]
abbrev dktX11_clearsHarm_2 : List UInt8 := dkwX11_clearsHarm_2 ++ dktX11_clearsHarm_3
def dkwX11_clearsHarm_1 : List UInt8 := [16, 40, 27, 104, 28, 96, 9, 80, 42, 180, 0, 82, 16, 40, 27, 104, 28, 96, 9, 80, 132, 2, 1]
abbrev dktX11_clearsHarm_1 : List UInt8 := dkwX11_clearsHarm_1 ++ dktX11_clearsHarm_2
def dkwX11_clearsHarm_0 : List UInt8 := [3, 61, 28, 16, 40, 162, 0, 45, 42, 180, 0, 76, 16, 40, 27, 104, 28, 96, 9, 80, 42, 180, 0, 79]
abbrev dktX11_clearsHarm_0 : List UInt8 := dkwX11_clearsHarm_0 ++ dktX11_clearsHarm_1
theorem dksX11_clearsHarm_0 : cX11_clearsHarm.data.toList.drop 0 = dktX11_clearsHarm_0 := by decide +kernel
theorem dksX11_clearsHarm_1 : cX11_clearsHarm.data.toList.drop 24 = dktX11_clearsHarm_1 := dk_seg dksX11_clearsHarm_0 24 rfl rfl
theorem dksX11_clearsHarm_2 : cX11_clearsHarm.data.toList.drop 47 = dktX11_clearsHarm_2 := dk_seg dksX11_clearsHarm_1 23 rfl rfl
theorem dksX11_clearsHarm_3 : cX11_clearsHarm.data.toList.drop 71 = dktX11_clearsHarm_3 := dk_seg dksX11_clearsHarm_2 24 rfl rfl
theorem dksX11_clearsHarm_4 : cX11_clearsHarm.data.toList.drop 95 = dktX11_clearsHarm_4 := dk_seg dksX11_clearsHarm_3 24 rfl rfl
theorem dksX11_clearsHarm_5 : cX11_clearsHarm.data.toList.drop 119 = dktX11_clearsHarm_5 := dk_seg dksX11_clearsHarm_4 24 rfl rfl
theorem dX11_clearsHarm_0 : decode cX11_clearsHarm 0 = .ok (.iconst 0, 1) := dk_3 (dk_at dksX11_clearsHarm_0 0 rfl rfl)
theorem dX11_clearsHarm_1 : decode cX11_clearsHarm 1 = .ok (.istore_n 2, 1) := dk_61 (dk_at dksX11_clearsHarm_0 1 rfl rfl)
theorem dX11_clearsHarm_2 : decode cX11_clearsHarm 2 = .ok (.iload_n 2, 1) := dk_28 (dk_at dksX11_clearsHarm_0 2 rfl rfl)
theorem dX11_clearsHarm_3 : decode cX11_clearsHarm 3 = .ok (.bipush 40, 2) := dk_16 40 (dk_at dksX11_clearsHarm_0 3 rfl rfl)
theorem dX11_clearsHarm_5 : decode cX11_clearsHarm 5 = .ok (.if_icmp .ge 45, 3) := dk_162 0 45 (dk_at dksX11_clearsHarm_0 5 rfl rfl)
theorem dX11_clearsHarm_8 : decode cX11_clearsHarm 8 = .ok (.aload_n 0, 1) := dk_42 (dk_at dksX11_clearsHarm_0 8 rfl rfl)
theorem dX11_clearsHarm_9 : decode cX11_clearsHarm 9 = .ok (.getfield 76, 3) := dk_180 0 76 (dk_at dksX11_clearsHarm_0 9 rfl rfl)
theorem dX11_clearsHarm_12 : decode cX11_clearsHarm 12 = .ok (.bipush 40, 2) := dk_16 40 (dk_at dksX11_clearsHarm_0 12 rfl rfl)
theorem dX11_clearsHarm_14 : decode cX11_clearsHarm 14 = .ok (.iload_n 1, 1) := dk_27 (dk_at dksX11_clearsHarm_0 14 rfl rfl)
theorem dX11_clearsHarm_15 : decode cX11_clearsHarm 15 = .ok (.imul, 1) := dk_104 (dk_at dksX11_clearsHarm_0 15 rfl rfl)
theorem dX11_clearsHarm_16 : decode cX11_clearsHarm 16 = .ok (.iload_n 2, 1) := dk_28 (dk_at dksX11_clearsHarm_0 16 rfl rfl)
theorem dX11_clearsHarm_17 : decode cX11_clearsHarm 17 = .ok (.iadd, 1) := dk_96 (dk_at dksX11_clearsHarm_0 17 rfl rfl)
theorem dX11_clearsHarm_18 : decode cX11_clearsHarm 18 = .ok (.lconst 0, 1) := dk_9 (dk_at dksX11_clearsHarm_0 18 rfl rfl)
theorem dX11_clearsHarm_19 : decode cX11_clearsHarm 19 = .ok (.lastore, 1) := dk_80 (dk_at dksX11_clearsHarm_0 19 rfl rfl)
theorem dX11_clearsHarm_20 : decode cX11_clearsHarm 20 = .ok (.aload_n 0, 1) := dk_42 (dk_at dksX11_clearsHarm_0 20 rfl rfl)
theorem dX11_clearsHarm_21 : decode cX11_clearsHarm 21 = .ok (.getfield 79, 3) := dk_180 0 79 (dk_at dksX11_clearsHarm_0 21 rfl rfl)
theorem dX11_clearsHarm_24 : decode cX11_clearsHarm 24 = .ok (.bipush 40, 2) := dk_16 40 (dk_at dksX11_clearsHarm_1 0 rfl rfl)
theorem dX11_clearsHarm_26 : decode cX11_clearsHarm 26 = .ok (.iload_n 1, 1) := dk_27 (dk_at dksX11_clearsHarm_1 2 rfl rfl)
theorem dX11_clearsHarm_27 : decode cX11_clearsHarm 27 = .ok (.imul, 1) := dk_104 (dk_at dksX11_clearsHarm_1 3 rfl rfl)
theorem dX11_clearsHarm_28 : decode cX11_clearsHarm 28 = .ok (.iload_n 2, 1) := dk_28 (dk_at dksX11_clearsHarm_1 4 rfl rfl)
theorem dX11_clearsHarm_29 : decode cX11_clearsHarm 29 = .ok (.iadd, 1) := dk_96 (dk_at dksX11_clearsHarm_1 5 rfl rfl)
theorem dX11_clearsHarm_30 : decode cX11_clearsHarm 30 = .ok (.lconst 0, 1) := dk_9 (dk_at dksX11_clearsHarm_1 6 rfl rfl)
theorem dX11_clearsHarm_31 : decode cX11_clearsHarm 31 = .ok (.lastore, 1) := dk_80 (dk_at dksX11_clearsHarm_1 7 rfl rfl)
theorem dX11_clearsHarm_32 : decode cX11_clearsHarm 32 = .ok (.aload_n 0, 1) := dk_42 (dk_at dksX11_clearsHarm_1 8 rfl rfl)
theorem dX11_clearsHarm_33 : decode cX11_clearsHarm 33 = .ok (.getfield 82, 3) := dk_180 0 82 (dk_at dksX11_clearsHarm_1 9 rfl rfl)
theorem dX11_clearsHarm_36 : decode cX11_clearsHarm 36 = .ok (.bipush 40, 2) := dk_16 40 (dk_at dksX11_clearsHarm_1 12 rfl rfl)
theorem dX11_clearsHarm_38 : decode cX11_clearsHarm 38 = .ok (.iload_n 1, 1) := dk_27 (dk_at dksX11_clearsHarm_1 14 rfl rfl)
theorem dX11_clearsHarm_39 : decode cX11_clearsHarm 39 = .ok (.imul, 1) := dk_104 (dk_at dksX11_clearsHarm_1 15 rfl rfl)
theorem dX11_clearsHarm_40 : decode cX11_clearsHarm 40 = .ok (.iload_n 2, 1) := dk_28 (dk_at dksX11_clearsHarm_1 16 rfl rfl)
theorem dX11_clearsHarm_41 : decode cX11_clearsHarm 41 = .ok (.iadd, 1) := dk_96 (dk_at dksX11_clearsHarm_1 17 rfl rfl)
theorem dX11_clearsHarm_42 : decode cX11_clearsHarm 42 = .ok (.lconst 0, 1) := dk_9 (dk_at dksX11_clearsHarm_1 18 rfl rfl)
theorem dX11_clearsHarm_43 : decode cX11_clearsHarm 43 = .ok (.lastore, 1) := dk_80 (dk_at dksX11_clearsHarm_1 19 rfl rfl)
theorem dX11_clearsHarm_44 : decode cX11_clearsHarm 44 = .ok (.iinc 2 1, 3) := dk_132 2 1 (dk_at dksX11_clearsHarm_1 20 rfl rfl)
theorem dX11_clearsHarm_47 : decode cX11_clearsHarm 47 = .ok (.goto (-45), 3) := dk_167 255 211 (dk_at dksX11_clearsHarm_2 0 rfl rfl)
theorem dX11_clearsHarm_50 : decode cX11_clearsHarm 50 = .ok (.iconst 0, 1) := dk_3 (dk_at dksX11_clearsHarm_2 3 rfl rfl)
theorem dX11_clearsHarm_51 : decode cX11_clearsHarm 51 = .ok (.istore_n 2, 1) := dk_61 (dk_at dksX11_clearsHarm_2 4 rfl rfl)
theorem dX11_clearsHarm_52 : decode cX11_clearsHarm 52 = .ok (.iload_n 2, 1) := dk_28 (dk_at dksX11_clearsHarm_2 5 rfl rfl)
theorem dX11_clearsHarm_53 : decode cX11_clearsHarm 53 = .ok (.sipush 160, 3) := dk_17 0 160 (dk_at dksX11_clearsHarm_2 6 rfl rfl)
theorem dX11_clearsHarm_56 : decode cX11_clearsHarm 56 = .ok (.if_icmp .ge 22, 3) := dk_162 0 22 (dk_at dksX11_clearsHarm_2 9 rfl rfl)
theorem dX11_clearsHarm_59 : decode cX11_clearsHarm 59 = .ok (.aload_n 0, 1) := dk_42 (dk_at dksX11_clearsHarm_2 12 rfl rfl)
theorem dX11_clearsHarm_60 : decode cX11_clearsHarm 60 = .ok (.getfield 85, 3) := dk_180 0 85 (dk_at dksX11_clearsHarm_2 13 rfl rfl)
theorem dX11_clearsHarm_63 : decode cX11_clearsHarm 63 = .ok (.sipush 160, 3) := dk_17 0 160 (dk_at dksX11_clearsHarm_2 16 rfl rfl)
theorem dX11_clearsHarm_66 : decode cX11_clearsHarm 66 = .ok (.iload_n 1, 1) := dk_27 (dk_at dksX11_clearsHarm_2 19 rfl rfl)
theorem dX11_clearsHarm_67 : decode cX11_clearsHarm 67 = .ok (.imul, 1) := dk_104 (dk_at dksX11_clearsHarm_2 20 rfl rfl)
theorem dX11_clearsHarm_68 : decode cX11_clearsHarm 68 = .ok (.iload_n 2, 1) := dk_28 (dk_at dksX11_clearsHarm_2 21 rfl rfl)
theorem dX11_clearsHarm_69 : decode cX11_clearsHarm 69 = .ok (.iadd, 1) := dk_96 (dk_at dksX11_clearsHarm_2 22 rfl rfl)
theorem dX11_clearsHarm_70 : decode cX11_clearsHarm 70 = .ok (.iconst 0, 1) := dk_3 (dk_at dksX11_clearsHarm_2 23 rfl rfl)
theorem dX11_clearsHarm_71 : decode cX11_clearsHarm 71 = .ok (.iastore, 1) := dk_79 (dk_at dksX11_clearsHarm_3 0 rfl rfl)
theorem dX11_clearsHarm_72 : decode cX11_clearsHarm 72 = .ok (.iinc 2 1, 3) := dk_132 2 1 (dk_at dksX11_clearsHarm_3 1 rfl rfl)
theorem dX11_clearsHarm_75 : decode cX11_clearsHarm 75 = .ok (.goto (-23), 3) := dk_167 255 233 (dk_at dksX11_clearsHarm_3 4 rfl rfl)
theorem dX11_clearsHarm_78 : decode cX11_clearsHarm 78 = .ok (.iconst 0, 1) := dk_3 (dk_at dksX11_clearsHarm_3 7 rfl rfl)
theorem dX11_clearsHarm_79 : decode cX11_clearsHarm 79 = .ok (.istore_n 2, 1) := dk_61 (dk_at dksX11_clearsHarm_3 8 rfl rfl)
theorem dX11_clearsHarm_80 : decode cX11_clearsHarm 80 = .ok (.iload_n 2, 1) := dk_28 (dk_at dksX11_clearsHarm_3 9 rfl rfl)
theorem dX11_clearsHarm_81 : decode cX11_clearsHarm 81 = .ok (.bipush 10, 2) := dk_16 10 (dk_at dksX11_clearsHarm_3 10 rfl rfl)
theorem dX11_clearsHarm_83 : decode cX11_clearsHarm 83 = .ok (.if_icmp .ge 21, 3) := dk_162 0 21 (dk_at dksX11_clearsHarm_3 12 rfl rfl)
theorem dX11_clearsHarm_86 : decode cX11_clearsHarm 86 = .ok (.aload_n 0, 1) := dk_42 (dk_at dksX11_clearsHarm_3 15 rfl rfl)
theorem dX11_clearsHarm_87 : decode cX11_clearsHarm 87 = .ok (.getfield 88, 3) := dk_180 0 88 (dk_at dksX11_clearsHarm_3 16 rfl rfl)
theorem dX11_clearsHarm_90 : decode cX11_clearsHarm 90 = .ok (.bipush 10, 2) := dk_16 10 (dk_at dksX11_clearsHarm_3 19 rfl rfl)
theorem dX11_clearsHarm_92 : decode cX11_clearsHarm 92 = .ok (.iload_n 1, 1) := dk_27 (dk_at dksX11_clearsHarm_3 21 rfl rfl)
theorem dX11_clearsHarm_93 : decode cX11_clearsHarm 93 = .ok (.imul, 1) := dk_104 (dk_at dksX11_clearsHarm_3 22 rfl rfl)
theorem dX11_clearsHarm_94 : decode cX11_clearsHarm 94 = .ok (.iload_n 2, 1) := dk_28 (dk_at dksX11_clearsHarm_3 23 rfl rfl)
theorem dX11_clearsHarm_95 : decode cX11_clearsHarm 95 = .ok (.iadd, 1) := dk_96 (dk_at dksX11_clearsHarm_4 0 rfl rfl)
theorem dX11_clearsHarm_96 : decode cX11_clearsHarm 96 = .ok (.lconst 0, 1) := dk_9 (dk_at dksX11_clearsHarm_4 1 rfl rfl)
theorem dX11_clearsHarm_97 : decode cX11_clearsHarm 97 = .ok (.lastore, 1) := dk_80 (dk_at dksX11_clearsHarm_4 2 rfl rfl)
theorem dX11_clearsHarm_98 : decode cX11_clearsHarm 98 = .ok (.iinc 2 1, 3) := dk_132 2 1 (dk_at dksX11_clearsHarm_4 3 rfl rfl)
theorem dX11_clearsHarm_101 : decode cX11_clearsHarm 101 = .ok (.goto (-21), 3) := dk_167 255 235 (dk_at dksX11_clearsHarm_4 6 rfl rfl)
theorem dX11_clearsHarm_104 : decode cX11_clearsHarm 104 = .ok (.iconst 0, 1) := dk_3 (dk_at dksX11_clearsHarm_4 9 rfl rfl)
theorem dX11_clearsHarm_105 : decode cX11_clearsHarm 105 = .ok (.istore_n 2, 1) := dk_61 (dk_at dksX11_clearsHarm_4 10 rfl rfl)
theorem dX11_clearsHarm_106 : decode cX11_clearsHarm 106 = .ok (.iload_n 2, 1) := dk_28 (dk_at dksX11_clearsHarm_4 11 rfl rfl)
theorem dX11_clearsHarm_107 : decode cX11_clearsHarm 107 = .ok (.bipush 7, 2) := dk_16 7 (dk_at dksX11_clearsHarm_4 12 rfl rfl)
theorem dX11_clearsHarm_109 : decode cX11_clearsHarm 109 = .ok (.if_icmp .ge 21, 3) := dk_162 0 21 (dk_at dksX11_clearsHarm_4 14 rfl rfl)
theorem dX11_clearsHarm_112 : decode cX11_clearsHarm 112 = .ok (.aload_n 0, 1) := dk_42 (dk_at dksX11_clearsHarm_4 17 rfl rfl)
theorem dX11_clearsHarm_113 : decode cX11_clearsHarm 113 = .ok (.getfield 91, 3) := dk_180 0 91 (dk_at dksX11_clearsHarm_4 18 rfl rfl)
theorem dX11_clearsHarm_116 : decode cX11_clearsHarm 116 = .ok (.bipush 7, 2) := dk_16 7 (dk_at dksX11_clearsHarm_4 21 rfl rfl)
theorem dX11_clearsHarm_118 : decode cX11_clearsHarm 118 = .ok (.iload_n 1, 1) := dk_27 (dk_at dksX11_clearsHarm_4 23 rfl rfl)
theorem dX11_clearsHarm_119 : decode cX11_clearsHarm 119 = .ok (.imul, 1) := dk_104 (dk_at dksX11_clearsHarm_5 0 rfl rfl)
theorem dX11_clearsHarm_120 : decode cX11_clearsHarm 120 = .ok (.iload_n 2, 1) := dk_28 (dk_at dksX11_clearsHarm_5 1 rfl rfl)
theorem dX11_clearsHarm_121 : decode cX11_clearsHarm 121 = .ok (.iadd, 1) := dk_96 (dk_at dksX11_clearsHarm_5 2 rfl rfl)
theorem dX11_clearsHarm_122 : decode cX11_clearsHarm 122 = .ok (.lconst 0, 1) := dk_9 (dk_at dksX11_clearsHarm_5 3 rfl rfl)
theorem dX11_clearsHarm_123 : decode cX11_clearsHarm 123 = .ok (.lastore, 1) := dk_80 (dk_at dksX11_clearsHarm_5 4 rfl rfl)
theorem dX11_clearsHarm_124 : decode cX11_clearsHarm 124 = .ok (.iinc 2 1, 3) := dk_132 2 1 (dk_at dksX11_clearsHarm_5 5 rfl rfl)
theorem dX11_clearsHarm_127 : decode cX11_clearsHarm 127 = .ok (.goto (-21), 3) := dk_167 255 235 (dk_at dksX11_clearsHarm_5 8 rfl rfl)
theorem dX11_clearsHarm_130 : decode cX11_clearsHarm 130 = .ok (.return_, 1) := dk_177 (dk_at dksX11_clearsHarm_5 11 rfl rfl)
abbrev cX11_sign : ByteArray := prog_16_method_67_code
def yX11_sign : MethodName := ⟨RX11, "sign", "(III)I"⟩
def dkwX11_sign_4 : List UInt8 := [100, 182, 1, 75, 16, 10, 42, 27, 182, 1, 30, 100, 172]
abbrev dktX11_sign_4 : List UInt8 := dkwX11_sign_4 ++ []
def dkwX11_sign_3 : List UInt8 := [182, 1, 109, 154, 0, 5, 3, 172, 42, 4, 27, 28, 29, 3, 2, 182, 1, 112, 42, 42, 180, 0, 17, 4]
abbrev dktX11_sign_3 : List UInt8 := dkwX11_sign_3 ++ dktX11_sign_4
def dkwX11_sign_2 : List UInt8 := [182, 1, 90, 153, 0, 27, 42, 42, 27, 28, 29, 182, 1, 40, 6, 5, 182, 1, 90, 153, 0, 11, 42, 6]
abbrev dktX11_sign_2 : List UInt8 := dkwX11_sign_2 ++ dktX11_sign_3
def dkwX11_sign_1 : List UInt8 := [153, 0, 19, 29, 133, 10, 20, 0, 252, 184, 1, 96, 153, 0, 7, 4, 167, 0, 4, 3, 5, 4]
abbrev dktX11_sign_1 : List UInt8 := dkwX11_sign_1 ++ dktX11_sign_2
def dkwX11_sign_0 : List UInt8 := [42, 3, 181, 0, 1, 42, 27, 4, 182, 1, 118, 153, 0, 65, 42, 28, 133, 9, 20, 1, 121, 184, 1, 96]
abbrev dktX11_sign_0 : List UInt8 := dkwX11_sign_0 ++ dktX11_sign_1
theorem dksX11_sign_0 : cX11_sign.data.toList.drop 0 = dktX11_sign_0 := by decide +kernel
theorem dksX11_sign_1 : cX11_sign.data.toList.drop 24 = dktX11_sign_1 := dk_seg dksX11_sign_0 24 rfl rfl
theorem dksX11_sign_2 : cX11_sign.data.toList.drop 46 = dktX11_sign_2 := dk_seg dksX11_sign_1 22 rfl rfl
theorem dksX11_sign_3 : cX11_sign.data.toList.drop 70 = dktX11_sign_3 := dk_seg dksX11_sign_2 24 rfl rfl
theorem dksX11_sign_4 : cX11_sign.data.toList.drop 94 = dktX11_sign_4 := dk_seg dksX11_sign_3 24 rfl rfl
theorem dX11_sign_0 : decode cX11_sign 0 = .ok (.aload_n 0, 1) := dk_42 (dk_at dksX11_sign_0 0 rfl rfl)
theorem dX11_sign_1 : decode cX11_sign 1 = .ok (.iconst 0, 1) := dk_3 (dk_at dksX11_sign_0 1 rfl rfl)
theorem dX11_sign_2 : decode cX11_sign 2 = .ok (.putfield 1, 3) := dk_181 0 1 (dk_at dksX11_sign_0 2 rfl rfl)
theorem dX11_sign_5 : decode cX11_sign 5 = .ok (.aload_n 0, 1) := dk_42 (dk_at dksX11_sign_0 5 rfl rfl)
theorem dX11_sign_6 : decode cX11_sign 6 = .ok (.iload_n 1, 1) := dk_27 (dk_at dksX11_sign_0 6 rfl rfl)
theorem dX11_sign_7 : decode cX11_sign 7 = .ok (.iconst 1, 1) := dk_4 (dk_at dksX11_sign_0 7 rfl rfl)
theorem dX11_sign_8 : decode cX11_sign 8 = .ok (.invokevirtual 374, 3) := dk_182 1 118 (dk_at dksX11_sign_0 8 rfl rfl)
theorem dX11_sign_11 : decode cX11_sign 11 = .ok (.ifCond .eq 65, 3) := dk_153 0 65 (dk_at dksX11_sign_0 11 rfl rfl)
theorem dX11_sign_14 : decode cX11_sign 14 = .ok (.aload_n 0, 1) := dk_42 (dk_at dksX11_sign_0 14 rfl rfl)
theorem dX11_sign_15 : decode cX11_sign 15 = .ok (.iload_n 2, 1) := dk_28 (dk_at dksX11_sign_0 15 rfl rfl)
theorem dX11_sign_16 : decode cX11_sign 16 = .ok (.i2l, 1) := dk_133 (dk_at dksX11_sign_0 16 rfl rfl)
theorem dX11_sign_17 : decode cX11_sign 17 = .ok (.lconst 0, 1) := dk_9 (dk_at dksX11_sign_0 17 rfl rfl)
theorem dX11_sign_18 : decode cX11_sign 18 = .ok (.ldc2_w 377, 3) := dk_20 1 121 (dk_at dksX11_sign_0 18 rfl rfl)
theorem dX11_sign_21 : decode cX11_sign 21 = .ok (.invokestatic 352, 3) := dk_184 1 96 (dk_at dksX11_sign_0 21 rfl rfl)
theorem dX11_sign_24 : decode cX11_sign 24 = .ok (.ifCond .eq 19, 3) := dk_153 0 19 (dk_at dksX11_sign_1 0 rfl rfl)
theorem dX11_sign_27 : decode cX11_sign 27 = .ok (.iload_n 3, 1) := dk_29 (dk_at dksX11_sign_1 3 rfl rfl)
theorem dX11_sign_28 : decode cX11_sign 28 = .ok (.i2l, 1) := dk_133 (dk_at dksX11_sign_1 4 rfl rfl)
theorem dX11_sign_29 : decode cX11_sign 29 = .ok (.lconst 1, 1) := dk_10 (dk_at dksX11_sign_1 5 rfl rfl)
theorem dX11_sign_30 : decode cX11_sign 30 = .ok (.ldc2_w 252, 3) := dk_20 0 252 (dk_at dksX11_sign_1 6 rfl rfl)
theorem dX11_sign_33 : decode cX11_sign 33 = .ok (.invokestatic 352, 3) := dk_184 1 96 (dk_at dksX11_sign_1 9 rfl rfl)
theorem dX11_sign_36 : decode cX11_sign 36 = .ok (.ifCond .eq 7, 3) := dk_153 0 7 (dk_at dksX11_sign_1 12 rfl rfl)
theorem dX11_sign_39 : decode cX11_sign 39 = .ok (.iconst 1, 1) := dk_4 (dk_at dksX11_sign_1 15 rfl rfl)
theorem dX11_sign_40 : decode cX11_sign 40 = .ok (.goto 4, 3) := dk_167 0 4 (dk_at dksX11_sign_1 16 rfl rfl)
theorem dX11_sign_43 : decode cX11_sign 43 = .ok (.iconst 0, 1) := dk_3 (dk_at dksX11_sign_1 19 rfl rfl)
theorem dX11_sign_44 : decode cX11_sign 44 = .ok (.iconst 2, 1) := dk_5 (dk_at dksX11_sign_1 20 rfl rfl)
theorem dX11_sign_45 : decode cX11_sign 45 = .ok (.iconst 1, 1) := dk_4 (dk_at dksX11_sign_1 21 rfl rfl)
theorem dX11_sign_46 : decode cX11_sign 46 = .ok (.invokevirtual 346, 3) := dk_182 1 90 (dk_at dksX11_sign_2 0 rfl rfl)
theorem dX11_sign_49 : decode cX11_sign 49 = .ok (.ifCond .eq 27, 3) := dk_153 0 27 (dk_at dksX11_sign_2 3 rfl rfl)
theorem dX11_sign_52 : decode cX11_sign 52 = .ok (.aload_n 0, 1) := dk_42 (dk_at dksX11_sign_2 6 rfl rfl)
theorem dX11_sign_53 : decode cX11_sign 53 = .ok (.aload_n 0, 1) := dk_42 (dk_at dksX11_sign_2 7 rfl rfl)
theorem dX11_sign_54 : decode cX11_sign 54 = .ok (.iload_n 1, 1) := dk_27 (dk_at dksX11_sign_2 8 rfl rfl)
theorem dX11_sign_55 : decode cX11_sign 55 = .ok (.iload_n 2, 1) := dk_28 (dk_at dksX11_sign_2 9 rfl rfl)
theorem dX11_sign_56 : decode cX11_sign 56 = .ok (.iload_n 3, 1) := dk_29 (dk_at dksX11_sign_2 10 rfl rfl)
theorem dX11_sign_57 : decode cX11_sign 57 = .ok (.invokevirtual 296, 3) := dk_182 1 40 (dk_at dksX11_sign_2 11 rfl rfl)
theorem dX11_sign_60 : decode cX11_sign 60 = .ok (.iconst 3, 1) := dk_6 (dk_at dksX11_sign_2 14 rfl rfl)
theorem dX11_sign_61 : decode cX11_sign 61 = .ok (.iconst 2, 1) := dk_5 (dk_at dksX11_sign_2 15 rfl rfl)
theorem dX11_sign_62 : decode cX11_sign 62 = .ok (.invokevirtual 346, 3) := dk_182 1 90 (dk_at dksX11_sign_2 16 rfl rfl)
theorem dX11_sign_65 : decode cX11_sign 65 = .ok (.ifCond .eq 11, 3) := dk_153 0 11 (dk_at dksX11_sign_2 19 rfl rfl)
theorem dX11_sign_68 : decode cX11_sign 68 = .ok (.aload_n 0, 1) := dk_42 (dk_at dksX11_sign_2 22 rfl rfl)
theorem dX11_sign_69 : decode cX11_sign 69 = .ok (.iconst 3, 1) := dk_6 (dk_at dksX11_sign_2 23 rfl rfl)
theorem dX11_sign_70 : decode cX11_sign 70 = .ok (.invokevirtual 365, 3) := dk_182 1 109 (dk_at dksX11_sign_3 0 rfl rfl)
theorem dX11_sign_73 : decode cX11_sign 73 = .ok (.ifCond .ne 5, 3) := dk_154 0 5 (dk_at dksX11_sign_3 3 rfl rfl)
theorem dX11_sign_76 : decode cX11_sign 76 = .ok (.iconst 0, 1) := dk_3 (dk_at dksX11_sign_3 6 rfl rfl)
theorem dX11_sign_77 : decode cX11_sign 77 = .ok (.ireturn, 1) := dk_172 (dk_at dksX11_sign_3 7 rfl rfl)
theorem dX11_sign_78 : decode cX11_sign 78 = .ok (.aload_n 0, 1) := dk_42 (dk_at dksX11_sign_3 8 rfl rfl)
theorem dX11_sign_79 : decode cX11_sign 79 = .ok (.iconst 1, 1) := dk_4 (dk_at dksX11_sign_3 9 rfl rfl)
theorem dX11_sign_80 : decode cX11_sign 80 = .ok (.iload_n 1, 1) := dk_27 (dk_at dksX11_sign_3 10 rfl rfl)
theorem dX11_sign_81 : decode cX11_sign 81 = .ok (.iload_n 2, 1) := dk_28 (dk_at dksX11_sign_3 11 rfl rfl)
theorem dX11_sign_82 : decode cX11_sign 82 = .ok (.iload_n 3, 1) := dk_29 (dk_at dksX11_sign_3 12 rfl rfl)
theorem dX11_sign_83 : decode cX11_sign 83 = .ok (.iconst 0, 1) := dk_3 (dk_at dksX11_sign_3 13 rfl rfl)
theorem dX11_sign_84 : decode cX11_sign 84 = .ok (.iconst (-1), 1) := dk_2 (dk_at dksX11_sign_3 14 rfl rfl)
theorem dX11_sign_85 : decode cX11_sign 85 = .ok (.invokevirtual 368, 3) := dk_182 1 112 (dk_at dksX11_sign_3 15 rfl rfl)
theorem dX11_sign_88 : decode cX11_sign 88 = .ok (.aload_n 0, 1) := dk_42 (dk_at dksX11_sign_3 18 rfl rfl)
theorem dX11_sign_89 : decode cX11_sign 89 = .ok (.aload_n 0, 1) := dk_42 (dk_at dksX11_sign_3 19 rfl rfl)
theorem dX11_sign_90 : decode cX11_sign 90 = .ok (.getfield 17, 3) := dk_180 0 17 (dk_at dksX11_sign_3 20 rfl rfl)
theorem dX11_sign_93 : decode cX11_sign 93 = .ok (.iconst 1, 1) := dk_4 (dk_at dksX11_sign_3 23 rfl rfl)
theorem dX11_sign_94 : decode cX11_sign 94 = .ok (.isub, 1) := dk_100 (dk_at dksX11_sign_4 0 rfl rfl)
theorem dX11_sign_95 : decode cX11_sign 95 = .ok (.invokevirtual 331, 3) := dk_182 1 75 (dk_at dksX11_sign_4 1 rfl rfl)
theorem dX11_sign_98 : decode cX11_sign 98 = .ok (.bipush 10, 2) := dk_16 10 (dk_at dksX11_sign_4 4 rfl rfl)
theorem dX11_sign_100 : decode cX11_sign 100 = .ok (.aload_n 0, 1) := dk_42 (dk_at dksX11_sign_4 6 rfl rfl)
theorem dX11_sign_101 : decode cX11_sign 101 = .ok (.iload_n 1, 1) := dk_27 (dk_at dksX11_sign_4 7 rfl rfl)
theorem dX11_sign_102 : decode cX11_sign 102 = .ok (.invokevirtual 286, 3) := dk_182 1 30 (dk_at dksX11_sign_4 8 rfl rfl)
theorem dX11_sign_105 : decode cX11_sign 105 = .ok (.isub, 1) := dk_100 (dk_at dksX11_sign_4 11 rfl rfl)
theorem dX11_sign_106 : decode cX11_sign 106 = .ok (.ireturn, 1) := dk_172 (dk_at dksX11_sign_4 12 rfl rfl)
abbrev cX11_isOne : ByteArray := prog_16_method_66_code
def yX11_isOne : MethodName := ⟨RX11, "isOne", "(II)Z"⟩
def dkwX11_isOne_1 : List UInt8 := [167, 0, 4, 3, 28, 3, 182, 1, 90, 172]
abbrev dktX11_isOne_1 : List UInt8 := dkwX11_isOne_1 ++ []
def dkwX11_isOne_0 : List UInt8 := [42, 27, 133, 9, 20, 1, 116, 184, 1, 96, 153, 0, 16, 42, 180, 0, 29, 27, 51, 153, 0, 7, 4]
abbrev dktX11_isOne_0 : List UInt8 := dkwX11_isOne_0 ++ dktX11_isOne_1
theorem dksX11_isOne_0 : cX11_isOne.data.toList.drop 0 = dktX11_isOne_0 := by decide +kernel
theorem dksX11_isOne_1 : cX11_isOne.data.toList.drop 23 = dktX11_isOne_1 := dk_seg dksX11_isOne_0 23 rfl rfl
theorem dX11_isOne_0 : decode cX11_isOne 0 = .ok (.aload_n 0, 1) := dk_42 (dk_at dksX11_isOne_0 0 rfl rfl)
theorem dX11_isOne_1 : decode cX11_isOne 1 = .ok (.iload_n 1, 1) := dk_27 (dk_at dksX11_isOne_0 1 rfl rfl)
theorem dX11_isOne_2 : decode cX11_isOne 2 = .ok (.i2l, 1) := dk_133 (dk_at dksX11_isOne_0 2 rfl rfl)
theorem dX11_isOne_3 : decode cX11_isOne 3 = .ok (.lconst 0, 1) := dk_9 (dk_at dksX11_isOne_0 3 rfl rfl)
theorem dX11_isOne_4 : decode cX11_isOne 4 = .ok (.ldc2_w 372, 3) := dk_20 1 116 (dk_at dksX11_isOne_0 4 rfl rfl)
theorem dX11_isOne_7 : decode cX11_isOne 7 = .ok (.invokestatic 352, 3) := dk_184 1 96 (dk_at dksX11_isOne_0 7 rfl rfl)
theorem dX11_isOne_10 : decode cX11_isOne 10 = .ok (.ifCond .eq 16, 3) := dk_153 0 16 (dk_at dksX11_isOne_0 10 rfl rfl)
theorem dX11_isOne_13 : decode cX11_isOne 13 = .ok (.aload_n 0, 1) := dk_42 (dk_at dksX11_isOne_0 13 rfl rfl)
theorem dX11_isOne_14 : decode cX11_isOne 14 = .ok (.getfield 29, 3) := dk_180 0 29 (dk_at dksX11_isOne_0 14 rfl rfl)
theorem dX11_isOne_17 : decode cX11_isOne 17 = .ok (.iload_n 1, 1) := dk_27 (dk_at dksX11_isOne_0 17 rfl rfl)
theorem dX11_isOne_18 : decode cX11_isOne 18 = .ok (.baload, 1) := dk_51 (dk_at dksX11_isOne_0 18 rfl rfl)
theorem dX11_isOne_19 : decode cX11_isOne 19 = .ok (.ifCond .eq 7, 3) := dk_153 0 7 (dk_at dksX11_isOne_0 19 rfl rfl)
theorem dX11_isOne_22 : decode cX11_isOne 22 = .ok (.iconst 1, 1) := dk_4 (dk_at dksX11_isOne_0 22 rfl rfl)
theorem dX11_isOne_23 : decode cX11_isOne 23 = .ok (.goto 4, 3) := dk_167 0 4 (dk_at dksX11_isOne_1 0 rfl rfl)
theorem dX11_isOne_26 : decode cX11_isOne 26 = .ok (.iconst 0, 1) := dk_3 (dk_at dksX11_isOne_1 3 rfl rfl)
theorem dX11_isOne_27 : decode cX11_isOne 27 = .ok (.iload_n 2, 1) := dk_28 (dk_at dksX11_isOne_1 4 rfl rfl)
theorem dX11_isOne_28 : decode cX11_isOne 28 = .ok (.iconst 0, 1) := dk_3 (dk_at dksX11_isOne_1 5 rfl rfl)
theorem dX11_isOne_29 : decode cX11_isOne 29 = .ok (.invokevirtual 346, 3) := dk_182 1 90 (dk_at dksX11_isOne_1 6 rfl rfl)
theorem dX11_isOne_32 : decode cX11_isOne 32 = .ok (.ireturn, 1) := dk_172 (dk_at dksX11_isOne_1 9 rfl rfl)
abbrev cX11_canSign : ByteArray := prog_16_method_50_code
def yX11_canSign : MethodName := ⟨RX11, "canSign", "(III)Z"⟩
def dkwX11_canSign_3 : List UInt8 := [160, 0, 5, 3, 172, 132, 4, 1, 167, 255, 225, 4, 172]
abbrev dktX11_canSign_3 : List UInt8 := dkwX11_canSign_3 ++ []
def dkwX11_canSign_2 : List UInt8 := [21, 4, 42, 180, 0, 48, 27, 46, 162, 0, 26, 42, 180, 0, 51, 7, 27, 104, 21, 4, 96, 46, 28]
abbrev dktX11_canSign_2 : List UInt8 := dkwX11_canSign_2 ++ dktX11_canSign_3
def dkwX11_canSign_1 : List UInt8 := [29, 96, 16, 10, 163, 0, 14, 42, 180, 0, 57, 27, 47, 9, 148, 158, 0, 5, 3, 172, 3, 54, 4]
abbrev dktX11_canSign_1 : List UInt8 := dkwX11_canSign_1 ++ dktX11_canSign_2
def dkwX11_canSign_0 : List UInt8 := [42, 180, 0, 29, 27, 51, 153, 0, 36, 42, 180, 0, 48, 27, 46, 7, 159, 0, 26, 42, 27, 182, 1, 30]
abbrev dktX11_canSign_0 : List UInt8 := dkwX11_canSign_0 ++ dktX11_canSign_1
theorem dksX11_canSign_0 : cX11_canSign.data.toList.drop 0 = dktX11_canSign_0 := by decide +kernel
theorem dksX11_canSign_1 : cX11_canSign.data.toList.drop 24 = dktX11_canSign_1 := dk_seg dksX11_canSign_0 24 rfl rfl
theorem dksX11_canSign_2 : cX11_canSign.data.toList.drop 47 = dktX11_canSign_2 := dk_seg dksX11_canSign_1 23 rfl rfl
theorem dksX11_canSign_3 : cX11_canSign.data.toList.drop 70 = dktX11_canSign_3 := dk_seg dksX11_canSign_2 23 rfl rfl
theorem dX11_canSign_0 : decode cX11_canSign 0 = .ok (.aload_n 0, 1) := dk_42 (dk_at dksX11_canSign_0 0 rfl rfl)
theorem dX11_canSign_1 : decode cX11_canSign 1 = .ok (.getfield 29, 3) := dk_180 0 29 (dk_at dksX11_canSign_0 1 rfl rfl)
theorem dX11_canSign_4 : decode cX11_canSign 4 = .ok (.iload_n 1, 1) := dk_27 (dk_at dksX11_canSign_0 4 rfl rfl)
theorem dX11_canSign_5 : decode cX11_canSign 5 = .ok (.baload, 1) := dk_51 (dk_at dksX11_canSign_0 5 rfl rfl)
theorem dX11_canSign_6 : decode cX11_canSign 6 = .ok (.ifCond .eq 36, 3) := dk_153 0 36 (dk_at dksX11_canSign_0 6 rfl rfl)
theorem dX11_canSign_9 : decode cX11_canSign 9 = .ok (.aload_n 0, 1) := dk_42 (dk_at dksX11_canSign_0 9 rfl rfl)
theorem dX11_canSign_10 : decode cX11_canSign 10 = .ok (.getfield 48, 3) := dk_180 0 48 (dk_at dksX11_canSign_0 10 rfl rfl)
theorem dX11_canSign_13 : decode cX11_canSign 13 = .ok (.iload_n 1, 1) := dk_27 (dk_at dksX11_canSign_0 13 rfl rfl)
theorem dX11_canSign_14 : decode cX11_canSign 14 = .ok (.iaload, 1) := dk_46 (dk_at dksX11_canSign_0 14 rfl rfl)
theorem dX11_canSign_15 : decode cX11_canSign 15 = .ok (.iconst 4, 1) := dk_7 (dk_at dksX11_canSign_0 15 rfl rfl)
theorem dX11_canSign_16 : decode cX11_canSign 16 = .ok (.if_icmp .eq 26, 3) := dk_159 0 26 (dk_at dksX11_canSign_0 16 rfl rfl)
theorem dX11_canSign_19 : decode cX11_canSign 19 = .ok (.aload_n 0, 1) := dk_42 (dk_at dksX11_canSign_0 19 rfl rfl)
theorem dX11_canSign_20 : decode cX11_canSign 20 = .ok (.iload_n 1, 1) := dk_27 (dk_at dksX11_canSign_0 20 rfl rfl)
theorem dX11_canSign_21 : decode cX11_canSign 21 = .ok (.invokevirtual 286, 3) := dk_182 1 30 (dk_at dksX11_canSign_0 21 rfl rfl)
theorem dX11_canSign_24 : decode cX11_canSign 24 = .ok (.iload_n 3, 1) := dk_29 (dk_at dksX11_canSign_1 0 rfl rfl)
theorem dX11_canSign_25 : decode cX11_canSign 25 = .ok (.iadd, 1) := dk_96 (dk_at dksX11_canSign_1 1 rfl rfl)
theorem dX11_canSign_26 : decode cX11_canSign 26 = .ok (.bipush 10, 2) := dk_16 10 (dk_at dksX11_canSign_1 2 rfl rfl)
theorem dX11_canSign_28 : decode cX11_canSign 28 = .ok (.if_icmp .gt 14, 3) := dk_163 0 14 (dk_at dksX11_canSign_1 4 rfl rfl)
theorem dX11_canSign_31 : decode cX11_canSign 31 = .ok (.aload_n 0, 1) := dk_42 (dk_at dksX11_canSign_1 7 rfl rfl)
theorem dX11_canSign_32 : decode cX11_canSign 32 = .ok (.getfield 57, 3) := dk_180 0 57 (dk_at dksX11_canSign_1 8 rfl rfl)
theorem dX11_canSign_35 : decode cX11_canSign 35 = .ok (.iload_n 1, 1) := dk_27 (dk_at dksX11_canSign_1 11 rfl rfl)
theorem dX11_canSign_36 : decode cX11_canSign 36 = .ok (.laload, 1) := dk_47 (dk_at dksX11_canSign_1 12 rfl rfl)
theorem dX11_canSign_37 : decode cX11_canSign 37 = .ok (.lconst 0, 1) := dk_9 (dk_at dksX11_canSign_1 13 rfl rfl)
theorem dX11_canSign_38 : decode cX11_canSign 38 = .ok (.lcmp, 1) := dk_148 (dk_at dksX11_canSign_1 14 rfl rfl)
theorem dX11_canSign_39 : decode cX11_canSign 39 = .ok (.ifCond .le 5, 3) := dk_158 0 5 (dk_at dksX11_canSign_1 15 rfl rfl)
theorem dX11_canSign_42 : decode cX11_canSign 42 = .ok (.iconst 0, 1) := dk_3 (dk_at dksX11_canSign_1 18 rfl rfl)
theorem dX11_canSign_43 : decode cX11_canSign 43 = .ok (.ireturn, 1) := dk_172 (dk_at dksX11_canSign_1 19 rfl rfl)
theorem dX11_canSign_44 : decode cX11_canSign 44 = .ok (.iconst 0, 1) := dk_3 (dk_at dksX11_canSign_1 20 rfl rfl)
theorem dX11_canSign_45 : decode cX11_canSign 45 = .ok (.istore 4, 2) := dk_54 4 (dk_at dksX11_canSign_1 21 rfl rfl)
theorem dX11_canSign_47 : decode cX11_canSign 47 = .ok (.iload 4, 2) := dk_21 4 (dk_at dksX11_canSign_2 0 rfl rfl)
theorem dX11_canSign_49 : decode cX11_canSign 49 = .ok (.aload_n 0, 1) := dk_42 (dk_at dksX11_canSign_2 2 rfl rfl)
theorem dX11_canSign_50 : decode cX11_canSign 50 = .ok (.getfield 48, 3) := dk_180 0 48 (dk_at dksX11_canSign_2 3 rfl rfl)
theorem dX11_canSign_53 : decode cX11_canSign 53 = .ok (.iload_n 1, 1) := dk_27 (dk_at dksX11_canSign_2 6 rfl rfl)
theorem dX11_canSign_54 : decode cX11_canSign 54 = .ok (.iaload, 1) := dk_46 (dk_at dksX11_canSign_2 7 rfl rfl)
theorem dX11_canSign_55 : decode cX11_canSign 55 = .ok (.if_icmp .ge 26, 3) := dk_162 0 26 (dk_at dksX11_canSign_2 8 rfl rfl)
theorem dX11_canSign_58 : decode cX11_canSign 58 = .ok (.aload_n 0, 1) := dk_42 (dk_at dksX11_canSign_2 11 rfl rfl)
theorem dX11_canSign_59 : decode cX11_canSign 59 = .ok (.getfield 51, 3) := dk_180 0 51 (dk_at dksX11_canSign_2 12 rfl rfl)
theorem dX11_canSign_62 : decode cX11_canSign 62 = .ok (.iconst 4, 1) := dk_7 (dk_at dksX11_canSign_2 15 rfl rfl)
theorem dX11_canSign_63 : decode cX11_canSign 63 = .ok (.iload_n 1, 1) := dk_27 (dk_at dksX11_canSign_2 16 rfl rfl)
theorem dX11_canSign_64 : decode cX11_canSign 64 = .ok (.imul, 1) := dk_104 (dk_at dksX11_canSign_2 17 rfl rfl)
theorem dX11_canSign_65 : decode cX11_canSign 65 = .ok (.iload 4, 2) := dk_21 4 (dk_at dksX11_canSign_2 18 rfl rfl)
theorem dX11_canSign_67 : decode cX11_canSign 67 = .ok (.iadd, 1) := dk_96 (dk_at dksX11_canSign_2 20 rfl rfl)
theorem dX11_canSign_68 : decode cX11_canSign 68 = .ok (.iaload, 1) := dk_46 (dk_at dksX11_canSign_2 21 rfl rfl)
theorem dX11_canSign_69 : decode cX11_canSign 69 = .ok (.iload_n 2, 1) := dk_28 (dk_at dksX11_canSign_2 22 rfl rfl)
theorem dX11_canSign_70 : decode cX11_canSign 70 = .ok (.if_icmp .ne 5, 3) := dk_160 0 5 (dk_at dksX11_canSign_3 0 rfl rfl)
theorem dX11_canSign_73 : decode cX11_canSign 73 = .ok (.iconst 0, 1) := dk_3 (dk_at dksX11_canSign_3 3 rfl rfl)
theorem dX11_canSign_74 : decode cX11_canSign 74 = .ok (.ireturn, 1) := dk_172 (dk_at dksX11_canSign_3 4 rfl rfl)
theorem dX11_canSign_75 : decode cX11_canSign 75 = .ok (.iinc 4 1, 3) := dk_132 4 1 (dk_at dksX11_canSign_3 5 rfl rfl)
theorem dX11_canSign_78 : decode cX11_canSign 78 = .ok (.goto (-31), 3) := dk_167 255 225 (dk_at dksX11_canSign_3 8 rfl rfl)
theorem dX11_canSign_81 : decode cX11_canSign 81 = .ok (.iconst 1, 1) := dk_4 (dk_at dksX11_canSign_3 11 rfl rfl)
theorem dX11_canSign_82 : decode cX11_canSign 82 = .ok (.ireturn, 1) := dk_172 (dk_at dksX11_canSign_3 12 rfl rfl)
abbrev cX11_signedTenths : ByteArray := prog_16_method_49_code
def yX11_signedTenths : MethodName := ⟨RX11, "signedTenths", "(I)I"⟩
def dkwX11_signedTenths_1 : List UInt8 := [46, 96, 61, 132, 3, 1, 167, 255, 230, 28, 172]
abbrev dktX11_signedTenths_1 : List UInt8 := dkwX11_signedTenths_1 ++ []
def dkwX11_signedTenths_0 : List UInt8 := [3, 61, 3, 62, 29, 42, 180, 0, 48, 27, 46, 162, 0, 22, 28, 42, 180, 0, 54, 7, 27, 104, 29, 96]
abbrev dktX11_signedTenths_0 : List UInt8 := dkwX11_signedTenths_0 ++ dktX11_signedTenths_1
theorem dksX11_signedTenths_0 : cX11_signedTenths.data.toList.drop 0 = dktX11_signedTenths_0 := by decide +kernel
theorem dksX11_signedTenths_1 : cX11_signedTenths.data.toList.drop 24 = dktX11_signedTenths_1 := dk_seg dksX11_signedTenths_0 24 rfl rfl
theorem dX11_signedTenths_0 : decode cX11_signedTenths 0 = .ok (.iconst 0, 1) := dk_3 (dk_at dksX11_signedTenths_0 0 rfl rfl)
theorem dX11_signedTenths_1 : decode cX11_signedTenths 1 = .ok (.istore_n 2, 1) := dk_61 (dk_at dksX11_signedTenths_0 1 rfl rfl)
theorem dX11_signedTenths_2 : decode cX11_signedTenths 2 = .ok (.iconst 0, 1) := dk_3 (dk_at dksX11_signedTenths_0 2 rfl rfl)
theorem dX11_signedTenths_3 : decode cX11_signedTenths 3 = .ok (.istore_n 3, 1) := dk_62 (dk_at dksX11_signedTenths_0 3 rfl rfl)
theorem dX11_signedTenths_4 : decode cX11_signedTenths 4 = .ok (.iload_n 3, 1) := dk_29 (dk_at dksX11_signedTenths_0 4 rfl rfl)
theorem dX11_signedTenths_5 : decode cX11_signedTenths 5 = .ok (.aload_n 0, 1) := dk_42 (dk_at dksX11_signedTenths_0 5 rfl rfl)
theorem dX11_signedTenths_6 : decode cX11_signedTenths 6 = .ok (.getfield 48, 3) := dk_180 0 48 (dk_at dksX11_signedTenths_0 6 rfl rfl)
theorem dX11_signedTenths_9 : decode cX11_signedTenths 9 = .ok (.iload_n 1, 1) := dk_27 (dk_at dksX11_signedTenths_0 9 rfl rfl)
theorem dX11_signedTenths_10 : decode cX11_signedTenths 10 = .ok (.iaload, 1) := dk_46 (dk_at dksX11_signedTenths_0 10 rfl rfl)
theorem dX11_signedTenths_11 : decode cX11_signedTenths 11 = .ok (.if_icmp .ge 22, 3) := dk_162 0 22 (dk_at dksX11_signedTenths_0 11 rfl rfl)
theorem dX11_signedTenths_14 : decode cX11_signedTenths 14 = .ok (.iload_n 2, 1) := dk_28 (dk_at dksX11_signedTenths_0 14 rfl rfl)
theorem dX11_signedTenths_15 : decode cX11_signedTenths 15 = .ok (.aload_n 0, 1) := dk_42 (dk_at dksX11_signedTenths_0 15 rfl rfl)
theorem dX11_signedTenths_16 : decode cX11_signedTenths 16 = .ok (.getfield 54, 3) := dk_180 0 54 (dk_at dksX11_signedTenths_0 16 rfl rfl)
theorem dX11_signedTenths_19 : decode cX11_signedTenths 19 = .ok (.iconst 4, 1) := dk_7 (dk_at dksX11_signedTenths_0 19 rfl rfl)
theorem dX11_signedTenths_20 : decode cX11_signedTenths 20 = .ok (.iload_n 1, 1) := dk_27 (dk_at dksX11_signedTenths_0 20 rfl rfl)
theorem dX11_signedTenths_21 : decode cX11_signedTenths 21 = .ok (.imul, 1) := dk_104 (dk_at dksX11_signedTenths_0 21 rfl rfl)
theorem dX11_signedTenths_22 : decode cX11_signedTenths 22 = .ok (.iload_n 3, 1) := dk_29 (dk_at dksX11_signedTenths_0 22 rfl rfl)
theorem dX11_signedTenths_23 : decode cX11_signedTenths 23 = .ok (.iadd, 1) := dk_96 (dk_at dksX11_signedTenths_0 23 rfl rfl)
theorem dX11_signedTenths_24 : decode cX11_signedTenths 24 = .ok (.iaload, 1) := dk_46 (dk_at dksX11_signedTenths_1 0 rfl rfl)
theorem dX11_signedTenths_25 : decode cX11_signedTenths 25 = .ok (.iadd, 1) := dk_96 (dk_at dksX11_signedTenths_1 1 rfl rfl)
theorem dX11_signedTenths_26 : decode cX11_signedTenths 26 = .ok (.istore_n 2, 1) := dk_61 (dk_at dksX11_signedTenths_1 2 rfl rfl)
theorem dX11_signedTenths_27 : decode cX11_signedTenths 27 = .ok (.iinc 3 1, 3) := dk_132 3 1 (dk_at dksX11_signedTenths_1 3 rfl rfl)
theorem dX11_signedTenths_30 : decode cX11_signedTenths 30 = .ok (.goto (-26), 3) := dk_167 255 230 (dk_at dksX11_signedTenths_1 6 rfl rfl)
theorem dX11_signedTenths_33 : decode cX11_signedTenths 33 = .ok (.iload_n 2, 1) := dk_28 (dk_at dksX11_signedTenths_1 9 rfl rfl)
theorem dX11_signedTenths_34 : decode cX11_signedTenths 34 = .ok (.ireturn, 1) := dk_172 (dk_at dksX11_signedTenths_1 10 rfl rfl)
abbrev cX11_lack : ByteArray := prog_16_method_69_code
def yX11_lack : MethodName := ⟨RX11, "lack", "(I)I"⟩
def dkwX11_lack_3 : List UInt8 := [182, 1, 112, 42, 42, 180, 0, 17, 4, 100, 182, 1, 75, 42, 180, 0, 149, 184, 1, 123, 172]
abbrev dktX11_lack_3 : List UInt8 := dkwX11_lack_3 ++ []
def dkwX11_lack_2 : List UInt8 := [182, 1, 90, 153, 0, 11, 42, 5, 182, 1, 109, 154, 0, 5, 3, 172, 42, 5, 27, 3, 3, 3, 2]
abbrev dktX11_lack_2 : List UInt8 := dkwX11_lack_2 ++ dktX11_lack_3
def dkwX11_lack_1 : List UInt8 := [42, 27, 182, 0, 201, 154, 0, 15, 42, 27, 182, 0, 205, 153, 0, 7, 4, 167, 0, 4, 3, 5, 5]
abbrev dktX11_lack_1 : List UInt8 := dkwX11_lack_1 ++ dktX11_lack_2
def dkwX11_lack_0 : List UInt8 := [42, 3, 181, 0, 1, 42, 27, 133, 9, 20, 1, 94, 184, 1, 96, 4, 4, 182, 1, 90, 153, 0, 41, 42]
abbrev dktX11_lack_0 : List UInt8 := dkwX11_lack_0 ++ dktX11_lack_1
theorem dksX11_lack_0 : cX11_lack.data.toList.drop 0 = dktX11_lack_0 := by decide +kernel
theorem dksX11_lack_1 : cX11_lack.data.toList.drop 24 = dktX11_lack_1 := dk_seg dksX11_lack_0 24 rfl rfl
theorem dksX11_lack_2 : cX11_lack.data.toList.drop 47 = dktX11_lack_2 := dk_seg dksX11_lack_1 23 rfl rfl
theorem dksX11_lack_3 : cX11_lack.data.toList.drop 70 = dktX11_lack_3 := dk_seg dksX11_lack_2 23 rfl rfl
theorem dX11_lack_0 : decode cX11_lack 0 = .ok (.aload_n 0, 1) := dk_42 (dk_at dksX11_lack_0 0 rfl rfl)
theorem dX11_lack_1 : decode cX11_lack 1 = .ok (.iconst 0, 1) := dk_3 (dk_at dksX11_lack_0 1 rfl rfl)
theorem dX11_lack_2 : decode cX11_lack 2 = .ok (.putfield 1, 3) := dk_181 0 1 (dk_at dksX11_lack_0 2 rfl rfl)
theorem dX11_lack_5 : decode cX11_lack 5 = .ok (.aload_n 0, 1) := dk_42 (dk_at dksX11_lack_0 5 rfl rfl)
theorem dX11_lack_6 : decode cX11_lack 6 = .ok (.iload_n 1, 1) := dk_27 (dk_at dksX11_lack_0 6 rfl rfl)
theorem dX11_lack_7 : decode cX11_lack 7 = .ok (.i2l, 1) := dk_133 (dk_at dksX11_lack_0 7 rfl rfl)
theorem dX11_lack_8 : decode cX11_lack 8 = .ok (.lconst 0, 1) := dk_9 (dk_at dksX11_lack_0 8 rfl rfl)
theorem dX11_lack_9 : decode cX11_lack 9 = .ok (.ldc2_w 350, 3) := dk_20 1 94 (dk_at dksX11_lack_0 9 rfl rfl)
theorem dX11_lack_12 : decode cX11_lack 12 = .ok (.invokestatic 352, 3) := dk_184 1 96 (dk_at dksX11_lack_0 12 rfl rfl)
theorem dX11_lack_15 : decode cX11_lack 15 = .ok (.iconst 1, 1) := dk_4 (dk_at dksX11_lack_0 15 rfl rfl)
theorem dX11_lack_16 : decode cX11_lack 16 = .ok (.iconst 1, 1) := dk_4 (dk_at dksX11_lack_0 16 rfl rfl)
theorem dX11_lack_17 : decode cX11_lack 17 = .ok (.invokevirtual 346, 3) := dk_182 1 90 (dk_at dksX11_lack_0 17 rfl rfl)
theorem dX11_lack_20 : decode cX11_lack 20 = .ok (.ifCond .eq 41, 3) := dk_153 0 41 (dk_at dksX11_lack_0 20 rfl rfl)
theorem dX11_lack_23 : decode cX11_lack 23 = .ok (.aload_n 0, 1) := dk_42 (dk_at dksX11_lack_0 23 rfl rfl)
theorem dX11_lack_24 : decode cX11_lack 24 = .ok (.aload_n 0, 1) := dk_42 (dk_at dksX11_lack_1 0 rfl rfl)
theorem dX11_lack_25 : decode cX11_lack 25 = .ok (.iload_n 1, 1) := dk_27 (dk_at dksX11_lack_1 1 rfl rfl)
theorem dX11_lack_26 : decode cX11_lack 26 = .ok (.invokevirtual 201, 3) := dk_182 0 201 (dk_at dksX11_lack_1 2 rfl rfl)
theorem dX11_lack_29 : decode cX11_lack 29 = .ok (.ifCond .ne 15, 3) := dk_154 0 15 (dk_at dksX11_lack_1 5 rfl rfl)
theorem dX11_lack_32 : decode cX11_lack 32 = .ok (.aload_n 0, 1) := dk_42 (dk_at dksX11_lack_1 8 rfl rfl)
theorem dX11_lack_33 : decode cX11_lack 33 = .ok (.iload_n 1, 1) := dk_27 (dk_at dksX11_lack_1 9 rfl rfl)
theorem dX11_lack_34 : decode cX11_lack 34 = .ok (.invokevirtual 205, 3) := dk_182 0 205 (dk_at dksX11_lack_1 10 rfl rfl)
theorem dX11_lack_37 : decode cX11_lack 37 = .ok (.ifCond .eq 7, 3) := dk_153 0 7 (dk_at dksX11_lack_1 13 rfl rfl)
theorem dX11_lack_40 : decode cX11_lack 40 = .ok (.iconst 1, 1) := dk_4 (dk_at dksX11_lack_1 16 rfl rfl)
theorem dX11_lack_41 : decode cX11_lack 41 = .ok (.goto 4, 3) := dk_167 0 4 (dk_at dksX11_lack_1 17 rfl rfl)
theorem dX11_lack_44 : decode cX11_lack 44 = .ok (.iconst 0, 1) := dk_3 (dk_at dksX11_lack_1 20 rfl rfl)
theorem dX11_lack_45 : decode cX11_lack 45 = .ok (.iconst 2, 1) := dk_5 (dk_at dksX11_lack_1 21 rfl rfl)
theorem dX11_lack_46 : decode cX11_lack 46 = .ok (.iconst 2, 1) := dk_5 (dk_at dksX11_lack_1 22 rfl rfl)
theorem dX11_lack_47 : decode cX11_lack 47 = .ok (.invokevirtual 346, 3) := dk_182 1 90 (dk_at dksX11_lack_2 0 rfl rfl)
theorem dX11_lack_50 : decode cX11_lack 50 = .ok (.ifCond .eq 11, 3) := dk_153 0 11 (dk_at dksX11_lack_2 3 rfl rfl)
theorem dX11_lack_53 : decode cX11_lack 53 = .ok (.aload_n 0, 1) := dk_42 (dk_at dksX11_lack_2 6 rfl rfl)
theorem dX11_lack_54 : decode cX11_lack 54 = .ok (.iconst 2, 1) := dk_5 (dk_at dksX11_lack_2 7 rfl rfl)
theorem dX11_lack_55 : decode cX11_lack 55 = .ok (.invokevirtual 365, 3) := dk_182 1 109 (dk_at dksX11_lack_2 8 rfl rfl)
theorem dX11_lack_58 : decode cX11_lack 58 = .ok (.ifCond .ne 5, 3) := dk_154 0 5 (dk_at dksX11_lack_2 11 rfl rfl)
theorem dX11_lack_61 : decode cX11_lack 61 = .ok (.iconst 0, 1) := dk_3 (dk_at dksX11_lack_2 14 rfl rfl)
theorem dX11_lack_62 : decode cX11_lack 62 = .ok (.ireturn, 1) := dk_172 (dk_at dksX11_lack_2 15 rfl rfl)
theorem dX11_lack_63 : decode cX11_lack 63 = .ok (.aload_n 0, 1) := dk_42 (dk_at dksX11_lack_2 16 rfl rfl)
theorem dX11_lack_64 : decode cX11_lack 64 = .ok (.iconst 2, 1) := dk_5 (dk_at dksX11_lack_2 17 rfl rfl)
theorem dX11_lack_65 : decode cX11_lack 65 = .ok (.iload_n 1, 1) := dk_27 (dk_at dksX11_lack_2 18 rfl rfl)
theorem dX11_lack_66 : decode cX11_lack 66 = .ok (.iconst 0, 1) := dk_3 (dk_at dksX11_lack_2 19 rfl rfl)
theorem dX11_lack_67 : decode cX11_lack 67 = .ok (.iconst 0, 1) := dk_3 (dk_at dksX11_lack_2 20 rfl rfl)
theorem dX11_lack_68 : decode cX11_lack 68 = .ok (.iconst 0, 1) := dk_3 (dk_at dksX11_lack_2 21 rfl rfl)
theorem dX11_lack_69 : decode cX11_lack 69 = .ok (.iconst (-1), 1) := dk_2 (dk_at dksX11_lack_2 22 rfl rfl)
theorem dX11_lack_70 : decode cX11_lack 70 = .ok (.invokevirtual 368, 3) := dk_182 1 112 (dk_at dksX11_lack_3 0 rfl rfl)
theorem dX11_lack_73 : decode cX11_lack 73 = .ok (.aload_n 0, 1) := dk_42 (dk_at dksX11_lack_3 3 rfl rfl)
theorem dX11_lack_74 : decode cX11_lack 74 = .ok (.aload_n 0, 1) := dk_42 (dk_at dksX11_lack_3 4 rfl rfl)
theorem dX11_lack_75 : decode cX11_lack 75 = .ok (.getfield 17, 3) := dk_180 0 17 (dk_at dksX11_lack_3 5 rfl rfl)
theorem dX11_lack_78 : decode cX11_lack 78 = .ok (.iconst 1, 1) := dk_4 (dk_at dksX11_lack_3 8 rfl rfl)
theorem dX11_lack_79 : decode cX11_lack 79 = .ok (.isub, 1) := dk_100 (dk_at dksX11_lack_3 9 rfl rfl)
theorem dX11_lack_80 : decode cX11_lack 80 = .ok (.invokevirtual 331, 3) := dk_182 1 75 (dk_at dksX11_lack_3 10 rfl rfl)
theorem dX11_lack_83 : decode cX11_lack 83 = .ok (.aload_n 0, 1) := dk_42 (dk_at dksX11_lack_3 13 rfl rfl)
theorem dX11_lack_84 : decode cX11_lack 84 = .ok (.getfield 149, 3) := dk_180 0 149 (dk_at dksX11_lack_3 14 rfl rfl)
theorem dX11_lack_87 : decode cX11_lack 87 = .ok (.invokestatic 379, 3) := dk_184 1 123 (dk_at dksX11_lack_3 17 rfl rfl)
theorem dX11_lack_90 : decode cX11_lack 90 = .ok (.ireturn, 1) := dk_172 (dk_at dksX11_lack_3 20 rfl rfl)
abbrev cX11_bits : ByteArray := prog_16_method_68_code
def yX11_bits : MethodName := ⟨RX11, "bits", "(I)I"⟩
def dkwX11_bits_0 : List UInt8 := [3, 60, 26, 61, 28, 153, 0, 15, 132, 1, 1, 28, 28, 4, 100, 126, 61, 167, 255, 243, 27, 172]
abbrev dktX11_bits_0 : List UInt8 := dkwX11_bits_0 ++ []
theorem dksX11_bits_0 : cX11_bits.data.toList.drop 0 = dktX11_bits_0 := by decide +kernel
theorem dX11_bits_0 : decode cX11_bits 0 = .ok (.iconst 0, 1) := dk_3 (dk_at dksX11_bits_0 0 rfl rfl)
theorem dX11_bits_1 : decode cX11_bits 1 = .ok (.istore_n 1, 1) := dk_60 (dk_at dksX11_bits_0 1 rfl rfl)
theorem dX11_bits_2 : decode cX11_bits 2 = .ok (.iload_n 0, 1) := dk_26 (dk_at dksX11_bits_0 2 rfl rfl)
theorem dX11_bits_3 : decode cX11_bits 3 = .ok (.istore_n 2, 1) := dk_61 (dk_at dksX11_bits_0 3 rfl rfl)
theorem dX11_bits_4 : decode cX11_bits 4 = .ok (.iload_n 2, 1) := dk_28 (dk_at dksX11_bits_0 4 rfl rfl)
theorem dX11_bits_5 : decode cX11_bits 5 = .ok (.ifCond .eq 15, 3) := dk_153 0 15 (dk_at dksX11_bits_0 5 rfl rfl)
theorem dX11_bits_8 : decode cX11_bits 8 = .ok (.iinc 1 1, 3) := dk_132 1 1 (dk_at dksX11_bits_0 8 rfl rfl)
theorem dX11_bits_11 : decode cX11_bits 11 = .ok (.iload_n 2, 1) := dk_28 (dk_at dksX11_bits_0 11 rfl rfl)
theorem dX11_bits_12 : decode cX11_bits 12 = .ok (.iload_n 2, 1) := dk_28 (dk_at dksX11_bits_0 12 rfl rfl)
theorem dX11_bits_13 : decode cX11_bits 13 = .ok (.iconst 1, 1) := dk_4 (dk_at dksX11_bits_0 13 rfl rfl)
theorem dX11_bits_14 : decode cX11_bits 14 = .ok (.isub, 1) := dk_100 (dk_at dksX11_bits_0 14 rfl rfl)
theorem dX11_bits_15 : decode cX11_bits 15 = .ok (.iand, 1) := dk_126 (dk_at dksX11_bits_0 15 rfl rfl)
theorem dX11_bits_16 : decode cX11_bits 16 = .ok (.istore_n 2, 1) := dk_61 (dk_at dksX11_bits_0 16 rfl rfl)
theorem dX11_bits_17 : decode cX11_bits 17 = .ok (.goto (-13), 3) := dk_167 255 243 (dk_at dksX11_bits_0 17 rfl rfl)
theorem dX11_bits_20 : decode cX11_bits 20 = .ok (.iload_n 1, 1) := dk_27 (dk_at dksX11_bits_0 20 rfl rfl)
theorem dX11_bits_21 : decode cX11_bits 21 = .ok (.ireturn, 1) := dk_172 (dk_at dksX11_bits_0 21 rfl rfl)
abbrev cX11_rules : ByteArray := prog_16_method_71_code
def yX11_rules : MethodName := ⟨RX11, "rules", "(III)I"⟩
def dkwX11_rules_3 : List UInt8 := [100, 182, 1, 75, 4, 172]
abbrev dktX11_rules_3 : List UInt8 := dkwX11_rules_3 ++ []
def dkwX11_rules_2 : List UInt8 := [182, 1, 109, 154, 0, 5, 3, 172, 42, 6, 27, 28, 29, 3, 2, 182, 1, 112, 42, 42, 180, 0, 17, 4]
abbrev dktX11_rules_2 : List UInt8 := dkwX11_rules_2 ++ dktX11_rules_3
def dkwX11_rules_1 : List UInt8 := [180, 0, 152, 160, 0, 19, 28, 42, 180, 0, 155, 160, 0, 11, 29, 42, 180, 0, 158, 159, 0, 11, 42, 5]
abbrev dktX11_rules_1 : List UInt8 := dkwX11_rules_1 ++ dktX11_rules_2
def dkwX11_rules_0 : List UInt8 := [42, 3, 181, 0, 1, 42, 27, 28, 29, 184, 1, 128, 4, 4, 182, 1, 90, 154, 0, 5, 3, 172, 27, 42]
abbrev dktX11_rules_0 : List UInt8 := dkwX11_rules_0 ++ dktX11_rules_1
theorem dksX11_rules_0 : cX11_rules.data.toList.drop 0 = dktX11_rules_0 := by decide +kernel
theorem dksX11_rules_1 : cX11_rules.data.toList.drop 24 = dktX11_rules_1 := dk_seg dksX11_rules_0 24 rfl rfl
theorem dksX11_rules_2 : cX11_rules.data.toList.drop 48 = dktX11_rules_2 := dk_seg dksX11_rules_1 24 rfl rfl
theorem dksX11_rules_3 : cX11_rules.data.toList.drop 72 = dktX11_rules_3 := dk_seg dksX11_rules_2 24 rfl rfl
theorem dX11_rules_0 : decode cX11_rules 0 = .ok (.aload_n 0, 1) := dk_42 (dk_at dksX11_rules_0 0 rfl rfl)
theorem dX11_rules_1 : decode cX11_rules 1 = .ok (.iconst 0, 1) := dk_3 (dk_at dksX11_rules_0 1 rfl rfl)
theorem dX11_rules_2 : decode cX11_rules 2 = .ok (.putfield 1, 3) := dk_181 0 1 (dk_at dksX11_rules_0 2 rfl rfl)
theorem dX11_rules_5 : decode cX11_rules 5 = .ok (.aload_n 0, 1) := dk_42 (dk_at dksX11_rules_0 5 rfl rfl)
theorem dX11_rules_6 : decode cX11_rules 6 = .ok (.iload_n 1, 1) := dk_27 (dk_at dksX11_rules_0 6 rfl rfl)
theorem dX11_rules_7 : decode cX11_rules 7 = .ok (.iload_n 2, 1) := dk_28 (dk_at dksX11_rules_0 7 rfl rfl)
theorem dX11_rules_8 : decode cX11_rules 8 = .ok (.iload_n 3, 1) := dk_29 (dk_at dksX11_rules_0 8 rfl rfl)
theorem dX11_rules_9 : decode cX11_rules 9 = .ok (.invokestatic 384, 3) := dk_184 1 128 (dk_at dksX11_rules_0 9 rfl rfl)
theorem dX11_rules_12 : decode cX11_rules 12 = .ok (.iconst 1, 1) := dk_4 (dk_at dksX11_rules_0 12 rfl rfl)
theorem dX11_rules_13 : decode cX11_rules 13 = .ok (.iconst 1, 1) := dk_4 (dk_at dksX11_rules_0 13 rfl rfl)
theorem dX11_rules_14 : decode cX11_rules 14 = .ok (.invokevirtual 346, 3) := dk_182 1 90 (dk_at dksX11_rules_0 14 rfl rfl)
theorem dX11_rules_17 : decode cX11_rules 17 = .ok (.ifCond .ne 5, 3) := dk_154 0 5 (dk_at dksX11_rules_0 17 rfl rfl)
theorem dX11_rules_20 : decode cX11_rules 20 = .ok (.iconst 0, 1) := dk_3 (dk_at dksX11_rules_0 20 rfl rfl)
theorem dX11_rules_21 : decode cX11_rules 21 = .ok (.ireturn, 1) := dk_172 (dk_at dksX11_rules_0 21 rfl rfl)
theorem dX11_rules_22 : decode cX11_rules 22 = .ok (.iload_n 1, 1) := dk_27 (dk_at dksX11_rules_0 22 rfl rfl)
theorem dX11_rules_23 : decode cX11_rules 23 = .ok (.aload_n 0, 1) := dk_42 (dk_at dksX11_rules_0 23 rfl rfl)
theorem dX11_rules_24 : decode cX11_rules 24 = .ok (.getfield 152, 3) := dk_180 0 152 (dk_at dksX11_rules_1 0 rfl rfl)
theorem dX11_rules_27 : decode cX11_rules 27 = .ok (.if_icmp .ne 19, 3) := dk_160 0 19 (dk_at dksX11_rules_1 3 rfl rfl)
theorem dX11_rules_30 : decode cX11_rules 30 = .ok (.iload_n 2, 1) := dk_28 (dk_at dksX11_rules_1 6 rfl rfl)
theorem dX11_rules_31 : decode cX11_rules 31 = .ok (.aload_n 0, 1) := dk_42 (dk_at dksX11_rules_1 7 rfl rfl)
theorem dX11_rules_32 : decode cX11_rules 32 = .ok (.getfield 155, 3) := dk_180 0 155 (dk_at dksX11_rules_1 8 rfl rfl)
theorem dX11_rules_35 : decode cX11_rules 35 = .ok (.if_icmp .ne 11, 3) := dk_160 0 11 (dk_at dksX11_rules_1 11 rfl rfl)
theorem dX11_rules_38 : decode cX11_rules 38 = .ok (.iload_n 3, 1) := dk_29 (dk_at dksX11_rules_1 14 rfl rfl)
theorem dX11_rules_39 : decode cX11_rules 39 = .ok (.aload_n 0, 1) := dk_42 (dk_at dksX11_rules_1 15 rfl rfl)
theorem dX11_rules_40 : decode cX11_rules 40 = .ok (.getfield 158, 3) := dk_180 0 158 (dk_at dksX11_rules_1 16 rfl rfl)
theorem dX11_rules_43 : decode cX11_rules 43 = .ok (.if_icmp .eq 11, 3) := dk_159 0 11 (dk_at dksX11_rules_1 19 rfl rfl)
theorem dX11_rules_46 : decode cX11_rules 46 = .ok (.aload_n 0, 1) := dk_42 (dk_at dksX11_rules_1 22 rfl rfl)
theorem dX11_rules_47 : decode cX11_rules 47 = .ok (.iconst 2, 1) := dk_5 (dk_at dksX11_rules_1 23 rfl rfl)
theorem dX11_rules_48 : decode cX11_rules 48 = .ok (.invokevirtual 365, 3) := dk_182 1 109 (dk_at dksX11_rules_2 0 rfl rfl)
theorem dX11_rules_51 : decode cX11_rules 51 = .ok (.ifCond .ne 5, 3) := dk_154 0 5 (dk_at dksX11_rules_2 3 rfl rfl)
theorem dX11_rules_54 : decode cX11_rules 54 = .ok (.iconst 0, 1) := dk_3 (dk_at dksX11_rules_2 6 rfl rfl)
theorem dX11_rules_55 : decode cX11_rules 55 = .ok (.ireturn, 1) := dk_172 (dk_at dksX11_rules_2 7 rfl rfl)
theorem dX11_rules_56 : decode cX11_rules 56 = .ok (.aload_n 0, 1) := dk_42 (dk_at dksX11_rules_2 8 rfl rfl)
theorem dX11_rules_57 : decode cX11_rules 57 = .ok (.iconst 3, 1) := dk_6 (dk_at dksX11_rules_2 9 rfl rfl)
theorem dX11_rules_58 : decode cX11_rules 58 = .ok (.iload_n 1, 1) := dk_27 (dk_at dksX11_rules_2 10 rfl rfl)
theorem dX11_rules_59 : decode cX11_rules 59 = .ok (.iload_n 2, 1) := dk_28 (dk_at dksX11_rules_2 11 rfl rfl)
theorem dX11_rules_60 : decode cX11_rules 60 = .ok (.iload_n 3, 1) := dk_29 (dk_at dksX11_rules_2 12 rfl rfl)
theorem dX11_rules_61 : decode cX11_rules 61 = .ok (.iconst 0, 1) := dk_3 (dk_at dksX11_rules_2 13 rfl rfl)
theorem dX11_rules_62 : decode cX11_rules 62 = .ok (.iconst (-1), 1) := dk_2 (dk_at dksX11_rules_2 14 rfl rfl)
theorem dX11_rules_63 : decode cX11_rules 63 = .ok (.invokevirtual 368, 3) := dk_182 1 112 (dk_at dksX11_rules_2 15 rfl rfl)
theorem dX11_rules_66 : decode cX11_rules 66 = .ok (.aload_n 0, 1) := dk_42 (dk_at dksX11_rules_2 18 rfl rfl)
theorem dX11_rules_67 : decode cX11_rules 67 = .ok (.aload_n 0, 1) := dk_42 (dk_at dksX11_rules_2 19 rfl rfl)
theorem dX11_rules_68 : decode cX11_rules 68 = .ok (.getfield 17, 3) := dk_180 0 17 (dk_at dksX11_rules_2 20 rfl rfl)
theorem dX11_rules_71 : decode cX11_rules 71 = .ok (.iconst 1, 1) := dk_4 (dk_at dksX11_rules_2 23 rfl rfl)
theorem dX11_rules_72 : decode cX11_rules 72 = .ok (.isub, 1) := dk_100 (dk_at dksX11_rules_3 0 rfl rfl)
theorem dX11_rules_73 : decode cX11_rules 73 = .ok (.invokevirtual 331, 3) := dk_182 1 75 (dk_at dksX11_rules_3 1 rfl rfl)
theorem dX11_rules_76 : decode cX11_rules 76 = .ok (.iconst 1, 1) := dk_4 (dk_at dksX11_rules_3 4 rfl rfl)
theorem dX11_rules_77 : decode cX11_rules 77 = .ok (.ireturn, 1) := dk_172 (dk_at dksX11_rules_3 5 rfl rfl)
abbrev cX11_areRules : ByteArray := prog_16_method_70_code
def yX11_areRules : MethodName := ⟨RX11, "areRules", "(III)Z"⟩
def dkwX11_areRules_1 : List UInt8 := [28, 133, 9, 20, 1, 126, 184, 1, 96, 153, 0, 7, 4, 167, 0, 4, 3, 172]
abbrev dktX11_areRules_1 : List UInt8 := dkwX11_areRules_1 ++ []
def dkwX11_areRules_0 : List UInt8 := [26, 133, 9, 20, 1, 126, 184, 1, 96, 153, 0, 31, 27, 133, 9, 20, 1, 126, 184, 1, 96, 153, 0, 19]
abbrev dktX11_areRules_0 : List UInt8 := dkwX11_areRules_0 ++ dktX11_areRules_1
theorem dksX11_areRules_0 : cX11_areRules.data.toList.drop 0 = dktX11_areRules_0 := by decide +kernel
theorem dksX11_areRules_1 : cX11_areRules.data.toList.drop 24 = dktX11_areRules_1 := dk_seg dksX11_areRules_0 24 rfl rfl
theorem dX11_areRules_0 : decode cX11_areRules 0 = .ok (.iload_n 0, 1) := dk_26 (dk_at dksX11_areRules_0 0 rfl rfl)
theorem dX11_areRules_1 : decode cX11_areRules 1 = .ok (.i2l, 1) := dk_133 (dk_at dksX11_areRules_0 1 rfl rfl)
theorem dX11_areRules_2 : decode cX11_areRules 2 = .ok (.lconst 0, 1) := dk_9 (dk_at dksX11_areRules_0 2 rfl rfl)
theorem dX11_areRules_3 : decode cX11_areRules 3 = .ok (.ldc2_w 382, 3) := dk_20 1 126 (dk_at dksX11_areRules_0 3 rfl rfl)
theorem dX11_areRules_6 : decode cX11_areRules 6 = .ok (.invokestatic 352, 3) := dk_184 1 96 (dk_at dksX11_areRules_0 6 rfl rfl)
theorem dX11_areRules_9 : decode cX11_areRules 9 = .ok (.ifCond .eq 31, 3) := dk_153 0 31 (dk_at dksX11_areRules_0 9 rfl rfl)
theorem dX11_areRules_12 : decode cX11_areRules 12 = .ok (.iload_n 1, 1) := dk_27 (dk_at dksX11_areRules_0 12 rfl rfl)
theorem dX11_areRules_13 : decode cX11_areRules 13 = .ok (.i2l, 1) := dk_133 (dk_at dksX11_areRules_0 13 rfl rfl)
theorem dX11_areRules_14 : decode cX11_areRules 14 = .ok (.lconst 0, 1) := dk_9 (dk_at dksX11_areRules_0 14 rfl rfl)
theorem dX11_areRules_15 : decode cX11_areRules 15 = .ok (.ldc2_w 382, 3) := dk_20 1 126 (dk_at dksX11_areRules_0 15 rfl rfl)
theorem dX11_areRules_18 : decode cX11_areRules 18 = .ok (.invokestatic 352, 3) := dk_184 1 96 (dk_at dksX11_areRules_0 18 rfl rfl)
theorem dX11_areRules_21 : decode cX11_areRules 21 = .ok (.ifCond .eq 19, 3) := dk_153 0 19 (dk_at dksX11_areRules_0 21 rfl rfl)
theorem dX11_areRules_24 : decode cX11_areRules 24 = .ok (.iload_n 2, 1) := dk_28 (dk_at dksX11_areRules_1 0 rfl rfl)
theorem dX11_areRules_25 : decode cX11_areRules 25 = .ok (.i2l, 1) := dk_133 (dk_at dksX11_areRules_1 1 rfl rfl)
theorem dX11_areRules_26 : decode cX11_areRules 26 = .ok (.lconst 0, 1) := dk_9 (dk_at dksX11_areRules_1 2 rfl rfl)
theorem dX11_areRules_27 : decode cX11_areRules 27 = .ok (.ldc2_w 382, 3) := dk_20 1 126 (dk_at dksX11_areRules_1 3 rfl rfl)
theorem dX11_areRules_30 : decode cX11_areRules 30 = .ok (.invokestatic 352, 3) := dk_184 1 96 (dk_at dksX11_areRules_1 6 rfl rfl)
theorem dX11_areRules_33 : decode cX11_areRules 33 = .ok (.ifCond .eq 7, 3) := dk_153 0 7 (dk_at dksX11_areRules_1 9 rfl rfl)
theorem dX11_areRules_36 : decode cX11_areRules 36 = .ok (.iconst 1, 1) := dk_4 (dk_at dksX11_areRules_1 12 rfl rfl)
theorem dX11_areRules_37 : decode cX11_areRules 37 = .ok (.goto 4, 3) := dk_167 0 4 (dk_at dksX11_areRules_1 13 rfl rfl)
theorem dX11_areRules_40 : decode cX11_areRules 40 = .ok (.iconst 0, 1) := dk_3 (dk_at dksX11_areRules_1 16 rfl rfl)
theorem dX11_areRules_41 : decode cX11_areRules 41 = .ok (.ireturn, 1) := dk_172 (dk_at dksX11_areRules_1 17 rfl rfl)
abbrev cX11_harm : ByteArray := prog_16_method_74_code
def yX11_harm : MethodName := ⟨RX11, "harm", "(IIII)I"⟩
def dkwX11_harm_4 : List UInt8 := [182, 1, 75, 21, 5, 172]
abbrev dktX11_harm_4 : List UInt8 := dkwX11_harm_4 ++ []
def dkwX11_harm_3 : List UInt8 := [182, 1, 106, 54, 5, 42, 7, 27, 28, 29, 21, 4, 21, 5, 182, 1, 112, 42, 42, 180, 0, 17, 4, 100]
abbrev dktX11_harm_3 : List UInt8 := dkwX11_harm_3 ++ dktX11_harm_4
def dkwX11_harm_2 : List UInt8 := [167, 0, 4, 3, 5, 5, 182, 1, 90, 153, 0, 11, 42, 5, 182, 1, 109, 154, 0, 5, 3, 172, 42, 7]
abbrev dktX11_harm_2 : List UInt8 := dkwX11_harm_2 ++ dktX11_harm_3
def dkwX11_harm_1 : List UInt8 := [167, 0, 4, 3, 4, 4, 182, 1, 90, 153, 0, 35, 42, 42, 7, 182, 1, 106, 16, 24, 162, 0, 7, 4]
abbrev dktX11_harm_1 : List UInt8 := dkwX11_harm_1 ++ dktX11_harm_2
def dkwX11_harm_0 : List UInt8 := [42, 3, 181, 0, 1, 42, 27, 28, 29, 184, 1, 133, 153, 0, 15, 21, 4, 184, 1, 136, 153, 0, 7, 4]
abbrev dktX11_harm_0 : List UInt8 := dkwX11_harm_0 ++ dktX11_harm_1
theorem dksX11_harm_0 : cX11_harm.data.toList.drop 0 = dktX11_harm_0 := by decide +kernel
theorem dksX11_harm_1 : cX11_harm.data.toList.drop 24 = dktX11_harm_1 := dk_seg dksX11_harm_0 24 rfl rfl
theorem dksX11_harm_2 : cX11_harm.data.toList.drop 48 = dktX11_harm_2 := dk_seg dksX11_harm_1 24 rfl rfl
theorem dksX11_harm_3 : cX11_harm.data.toList.drop 72 = dktX11_harm_3 := dk_seg dksX11_harm_2 24 rfl rfl
theorem dksX11_harm_4 : cX11_harm.data.toList.drop 96 = dktX11_harm_4 := dk_seg dksX11_harm_3 24 rfl rfl
theorem dX11_harm_0 : decode cX11_harm 0 = .ok (.aload_n 0, 1) := dk_42 (dk_at dksX11_harm_0 0 rfl rfl)
theorem dX11_harm_1 : decode cX11_harm 1 = .ok (.iconst 0, 1) := dk_3 (dk_at dksX11_harm_0 1 rfl rfl)
theorem dX11_harm_2 : decode cX11_harm 2 = .ok (.putfield 1, 3) := dk_181 0 1 (dk_at dksX11_harm_0 2 rfl rfl)
theorem dX11_harm_5 : decode cX11_harm 5 = .ok (.aload_n 0, 1) := dk_42 (dk_at dksX11_harm_0 5 rfl rfl)
theorem dX11_harm_6 : decode cX11_harm 6 = .ok (.iload_n 1, 1) := dk_27 (dk_at dksX11_harm_0 6 rfl rfl)
theorem dX11_harm_7 : decode cX11_harm 7 = .ok (.iload_n 2, 1) := dk_28 (dk_at dksX11_harm_0 7 rfl rfl)
theorem dX11_harm_8 : decode cX11_harm 8 = .ok (.iload_n 3, 1) := dk_29 (dk_at dksX11_harm_0 8 rfl rfl)
theorem dX11_harm_9 : decode cX11_harm 9 = .ok (.invokestatic 389, 3) := dk_184 1 133 (dk_at dksX11_harm_0 9 rfl rfl)
theorem dX11_harm_12 : decode cX11_harm 12 = .ok (.ifCond .eq 15, 3) := dk_153 0 15 (dk_at dksX11_harm_0 12 rfl rfl)
theorem dX11_harm_15 : decode cX11_harm 15 = .ok (.iload 4, 2) := dk_21 4 (dk_at dksX11_harm_0 15 rfl rfl)
theorem dX11_harm_17 : decode cX11_harm 17 = .ok (.invokestatic 392, 3) := dk_184 1 136 (dk_at dksX11_harm_0 17 rfl rfl)
theorem dX11_harm_20 : decode cX11_harm 20 = .ok (.ifCond .eq 7, 3) := dk_153 0 7 (dk_at dksX11_harm_0 20 rfl rfl)
theorem dX11_harm_23 : decode cX11_harm 23 = .ok (.iconst 1, 1) := dk_4 (dk_at dksX11_harm_0 23 rfl rfl)
theorem dX11_harm_24 : decode cX11_harm 24 = .ok (.goto 4, 3) := dk_167 0 4 (dk_at dksX11_harm_1 0 rfl rfl)
theorem dX11_harm_27 : decode cX11_harm 27 = .ok (.iconst 0, 1) := dk_3 (dk_at dksX11_harm_1 3 rfl rfl)
theorem dX11_harm_28 : decode cX11_harm 28 = .ok (.iconst 1, 1) := dk_4 (dk_at dksX11_harm_1 4 rfl rfl)
theorem dX11_harm_29 : decode cX11_harm 29 = .ok (.iconst 1, 1) := dk_4 (dk_at dksX11_harm_1 5 rfl rfl)
theorem dX11_harm_30 : decode cX11_harm 30 = .ok (.invokevirtual 346, 3) := dk_182 1 90 (dk_at dksX11_harm_1 6 rfl rfl)
theorem dX11_harm_33 : decode cX11_harm 33 = .ok (.ifCond .eq 35, 3) := dk_153 0 35 (dk_at dksX11_harm_1 9 rfl rfl)
theorem dX11_harm_36 : decode cX11_harm 36 = .ok (.aload_n 0, 1) := dk_42 (dk_at dksX11_harm_1 12 rfl rfl)
theorem dX11_harm_37 : decode cX11_harm 37 = .ok (.aload_n 0, 1) := dk_42 (dk_at dksX11_harm_1 13 rfl rfl)
theorem dX11_harm_38 : decode cX11_harm 38 = .ok (.iconst 4, 1) := dk_7 (dk_at dksX11_harm_1 14 rfl rfl)
theorem dX11_harm_39 : decode cX11_harm 39 = .ok (.invokevirtual 362, 3) := dk_182 1 106 (dk_at dksX11_harm_1 15 rfl rfl)
theorem dX11_harm_42 : decode cX11_harm 42 = .ok (.bipush 24, 2) := dk_16 24 (dk_at dksX11_harm_1 18 rfl rfl)
theorem dX11_harm_44 : decode cX11_harm 44 = .ok (.if_icmp .ge 7, 3) := dk_162 0 7 (dk_at dksX11_harm_1 20 rfl rfl)
theorem dX11_harm_47 : decode cX11_harm 47 = .ok (.iconst 1, 1) := dk_4 (dk_at dksX11_harm_1 23 rfl rfl)
theorem dX11_harm_48 : decode cX11_harm 48 = .ok (.goto 4, 3) := dk_167 0 4 (dk_at dksX11_harm_2 0 rfl rfl)
theorem dX11_harm_51 : decode cX11_harm 51 = .ok (.iconst 0, 1) := dk_3 (dk_at dksX11_harm_2 3 rfl rfl)
theorem dX11_harm_52 : decode cX11_harm 52 = .ok (.iconst 2, 1) := dk_5 (dk_at dksX11_harm_2 4 rfl rfl)
theorem dX11_harm_53 : decode cX11_harm 53 = .ok (.iconst 2, 1) := dk_5 (dk_at dksX11_harm_2 5 rfl rfl)
theorem dX11_harm_54 : decode cX11_harm 54 = .ok (.invokevirtual 346, 3) := dk_182 1 90 (dk_at dksX11_harm_2 6 rfl rfl)
theorem dX11_harm_57 : decode cX11_harm 57 = .ok (.ifCond .eq 11, 3) := dk_153 0 11 (dk_at dksX11_harm_2 9 rfl rfl)
theorem dX11_harm_60 : decode cX11_harm 60 = .ok (.aload_n 0, 1) := dk_42 (dk_at dksX11_harm_2 12 rfl rfl)
theorem dX11_harm_61 : decode cX11_harm 61 = .ok (.iconst 2, 1) := dk_5 (dk_at dksX11_harm_2 13 rfl rfl)
theorem dX11_harm_62 : decode cX11_harm 62 = .ok (.invokevirtual 365, 3) := dk_182 1 109 (dk_at dksX11_harm_2 14 rfl rfl)
theorem dX11_harm_65 : decode cX11_harm 65 = .ok (.ifCond .ne 5, 3) := dk_154 0 5 (dk_at dksX11_harm_2 17 rfl rfl)
theorem dX11_harm_68 : decode cX11_harm 68 = .ok (.iconst 0, 1) := dk_3 (dk_at dksX11_harm_2 20 rfl rfl)
theorem dX11_harm_69 : decode cX11_harm 69 = .ok (.ireturn, 1) := dk_172 (dk_at dksX11_harm_2 21 rfl rfl)
theorem dX11_harm_70 : decode cX11_harm 70 = .ok (.aload_n 0, 1) := dk_42 (dk_at dksX11_harm_2 22 rfl rfl)
theorem dX11_harm_71 : decode cX11_harm 71 = .ok (.iconst 4, 1) := dk_7 (dk_at dksX11_harm_2 23 rfl rfl)
theorem dX11_harm_72 : decode cX11_harm 72 = .ok (.invokevirtual 362, 3) := dk_182 1 106 (dk_at dksX11_harm_3 0 rfl rfl)
theorem dX11_harm_75 : decode cX11_harm 75 = .ok (.istore 5, 2) := dk_54 5 (dk_at dksX11_harm_3 3 rfl rfl)
theorem dX11_harm_77 : decode cX11_harm 77 = .ok (.aload_n 0, 1) := dk_42 (dk_at dksX11_harm_3 5 rfl rfl)
theorem dX11_harm_78 : decode cX11_harm 78 = .ok (.iconst 4, 1) := dk_7 (dk_at dksX11_harm_3 6 rfl rfl)
theorem dX11_harm_79 : decode cX11_harm 79 = .ok (.iload_n 1, 1) := dk_27 (dk_at dksX11_harm_3 7 rfl rfl)
theorem dX11_harm_80 : decode cX11_harm 80 = .ok (.iload_n 2, 1) := dk_28 (dk_at dksX11_harm_3 8 rfl rfl)
theorem dX11_harm_81 : decode cX11_harm 81 = .ok (.iload_n 3, 1) := dk_29 (dk_at dksX11_harm_3 9 rfl rfl)
theorem dX11_harm_82 : decode cX11_harm 82 = .ok (.iload 4, 2) := dk_21 4 (dk_at dksX11_harm_3 10 rfl rfl)
theorem dX11_harm_84 : decode cX11_harm 84 = .ok (.iload 5, 2) := dk_21 5 (dk_at dksX11_harm_3 12 rfl rfl)
theorem dX11_harm_86 : decode cX11_harm 86 = .ok (.invokevirtual 368, 3) := dk_182 1 112 (dk_at dksX11_harm_3 14 rfl rfl)
theorem dX11_harm_89 : decode cX11_harm 89 = .ok (.aload_n 0, 1) := dk_42 (dk_at dksX11_harm_3 17 rfl rfl)
theorem dX11_harm_90 : decode cX11_harm 90 = .ok (.aload_n 0, 1) := dk_42 (dk_at dksX11_harm_3 18 rfl rfl)
theorem dX11_harm_91 : decode cX11_harm 91 = .ok (.getfield 17, 3) := dk_180 0 17 (dk_at dksX11_harm_3 19 rfl rfl)
theorem dX11_harm_94 : decode cX11_harm 94 = .ok (.iconst 1, 1) := dk_4 (dk_at dksX11_harm_3 22 rfl rfl)
theorem dX11_harm_95 : decode cX11_harm 95 = .ok (.isub, 1) := dk_100 (dk_at dksX11_harm_3 23 rfl rfl)
theorem dX11_harm_96 : decode cX11_harm 96 = .ok (.invokevirtual 331, 3) := dk_182 1 75 (dk_at dksX11_harm_4 0 rfl rfl)
theorem dX11_harm_99 : decode cX11_harm 99 = .ok (.iload 5, 2) := dk_21 5 (dk_at dksX11_harm_4 3 rfl rfl)
theorem dX11_harm_101 : decode cX11_harm 101 = .ok (.ireturn, 1) := dk_172 (dk_at dksX11_harm_4 5 rfl rfl)
abbrev cX11_areYears : ByteArray := prog_16_method_72_code
def yX11_areYears : MethodName := ⟨RX11, "areYears", "(III)Z"⟩
def dkwX11_areYears_1 : List UInt8 := [3, 172]
abbrev dktX11_areYears_1 : List UInt8 := dkwX11_areYears_1 ++ []
def dkwX11_areYears_0 : List UInt8 := [26, 155, 0, 23, 26, 27, 163, 0, 18, 27, 28, 163, 0, 13, 28, 16, 12, 162, 0, 7, 4, 167, 0, 4]
abbrev dktX11_areYears_0 : List UInt8 := dkwX11_areYears_0 ++ dktX11_areYears_1
theorem dksX11_areYears_0 : cX11_areYears.data.toList.drop 0 = dktX11_areYears_0 := by decide +kernel
theorem dksX11_areYears_1 : cX11_areYears.data.toList.drop 24 = dktX11_areYears_1 := dk_seg dksX11_areYears_0 24 rfl rfl
theorem dX11_areYears_0 : decode cX11_areYears 0 = .ok (.iload_n 0, 1) := dk_26 (dk_at dksX11_areYears_0 0 rfl rfl)
theorem dX11_areYears_1 : decode cX11_areYears 1 = .ok (.ifCond .lt 23, 3) := dk_155 0 23 (dk_at dksX11_areYears_0 1 rfl rfl)
theorem dX11_areYears_4 : decode cX11_areYears 4 = .ok (.iload_n 0, 1) := dk_26 (dk_at dksX11_areYears_0 4 rfl rfl)
theorem dX11_areYears_5 : decode cX11_areYears 5 = .ok (.iload_n 1, 1) := dk_27 (dk_at dksX11_areYears_0 5 rfl rfl)
theorem dX11_areYears_6 : decode cX11_areYears 6 = .ok (.if_icmp .gt 18, 3) := dk_163 0 18 (dk_at dksX11_areYears_0 6 rfl rfl)
theorem dX11_areYears_9 : decode cX11_areYears 9 = .ok (.iload_n 1, 1) := dk_27 (dk_at dksX11_areYears_0 9 rfl rfl)
theorem dX11_areYears_10 : decode cX11_areYears 10 = .ok (.iload_n 2, 1) := dk_28 (dk_at dksX11_areYears_0 10 rfl rfl)
theorem dX11_areYears_11 : decode cX11_areYears 11 = .ok (.if_icmp .gt 13, 3) := dk_163 0 13 (dk_at dksX11_areYears_0 11 rfl rfl)
theorem dX11_areYears_14 : decode cX11_areYears 14 = .ok (.iload_n 2, 1) := dk_28 (dk_at dksX11_areYears_0 14 rfl rfl)
theorem dX11_areYears_15 : decode cX11_areYears 15 = .ok (.bipush 12, 2) := dk_16 12 (dk_at dksX11_areYears_0 15 rfl rfl)
theorem dX11_areYears_17 : decode cX11_areYears 17 = .ok (.if_icmp .ge 7, 3) := dk_162 0 7 (dk_at dksX11_areYears_0 17 rfl rfl)
theorem dX11_areYears_20 : decode cX11_areYears 20 = .ok (.iconst 1, 1) := dk_4 (dk_at dksX11_areYears_0 20 rfl rfl)
theorem dX11_areYears_21 : decode cX11_areYears 21 = .ok (.goto 4, 3) := dk_167 0 4 (dk_at dksX11_areYears_0 21 rfl rfl)
theorem dX11_areYears_24 : decode cX11_areYears 24 = .ok (.iconst 0, 1) := dk_3 (dk_at dksX11_areYears_1 0 rfl rfl)
theorem dX11_areYears_25 : decode cX11_areYears 25 = .ok (.ireturn, 1) := dk_172 (dk_at dksX11_areYears_1 1 rfl rfl)
abbrev cX11_isLoss : ByteArray := prog_16_method_73_code
def yX11_isLoss : MethodName := ⟨RX11, "isLoss", "(I)Z"⟩
def dkwX11_isLoss_0 : List UInt8 := [26, 133, 10, 20, 1, 131, 184, 1, 96, 172]
abbrev dktX11_isLoss_0 : List UInt8 := dkwX11_isLoss_0 ++ []
theorem dksX11_isLoss_0 : cX11_isLoss.data.toList.drop 0 = dktX11_isLoss_0 := by decide +kernel
theorem dX11_isLoss_0 : decode cX11_isLoss 0 = .ok (.iload_n 0, 1) := dk_26 (dk_at dksX11_isLoss_0 0 rfl rfl)
theorem dX11_isLoss_1 : decode cX11_isLoss 1 = .ok (.i2l, 1) := dk_133 (dk_at dksX11_isLoss_0 1 rfl rfl)
theorem dX11_isLoss_2 : decode cX11_isLoss 2 = .ok (.lconst 1, 1) := dk_10 (dk_at dksX11_isLoss_0 2 rfl rfl)
theorem dX11_isLoss_3 : decode cX11_isLoss 3 = .ok (.ldc2_w 387, 3) := dk_20 1 131 (dk_at dksX11_isLoss_0 3 rfl rfl)
theorem dX11_isLoss_6 : decode cX11_isLoss 6 = .ok (.invokestatic 352, 3) := dk_184 1 96 (dk_at dksX11_isLoss_0 6 rfl rfl)
theorem dX11_isLoss_9 : decode cX11_isLoss 9 = .ok (.ireturn, 1) := dk_172 (dk_at dksX11_isLoss_0 9 rfl rfl)
abbrev cX11_grow : ByteArray := prog_16_method_76_code
def yX11_grow : MethodName := ⟨RX11, "grow", "(II)J"⟩
def dkwX11_grow_2 : List UInt8 := [3, 2, 182, 1, 112, 42, 42, 180, 0, 17, 4, 100, 182, 1, 75, 42, 27, 182, 1, 21, 33, 101, 173]
abbrev dktX11_grow_2 : List UInt8 := dkwX11_grow_2 ++ []
def dkwX11_grow_1 : List UInt8 := [153, 0, 11, 42, 6, 182, 1, 109, 154, 0, 5, 9, 173, 42, 27, 182, 1, 21, 66, 42, 8, 27, 28, 3]
abbrev dktX11_grow_1 : List UInt8 := dkwX11_grow_1 ++ dktX11_grow_2
def dkwX11_grow_0 : List UInt8 := [42, 3, 181, 0, 1, 42, 27, 182, 1, 141, 153, 0, 24, 42, 28, 184, 1, 136, 5, 4, 182, 1, 90]
abbrev dktX11_grow_0 : List UInt8 := dkwX11_grow_0 ++ dktX11_grow_1
theorem dksX11_grow_0 : cX11_grow.data.toList.drop 0 = dktX11_grow_0 := by decide +kernel
theorem dksX11_grow_1 : cX11_grow.data.toList.drop 23 = dktX11_grow_1 := dk_seg dksX11_grow_0 23 rfl rfl
theorem dksX11_grow_2 : cX11_grow.data.toList.drop 47 = dktX11_grow_2 := dk_seg dksX11_grow_1 24 rfl rfl
theorem dX11_grow_0 : decode cX11_grow 0 = .ok (.aload_n 0, 1) := dk_42 (dk_at dksX11_grow_0 0 rfl rfl)
theorem dX11_grow_1 : decode cX11_grow 1 = .ok (.iconst 0, 1) := dk_3 (dk_at dksX11_grow_0 1 rfl rfl)
theorem dX11_grow_2 : decode cX11_grow 2 = .ok (.putfield 1, 3) := dk_181 0 1 (dk_at dksX11_grow_0 2 rfl rfl)
theorem dX11_grow_5 : decode cX11_grow 5 = .ok (.aload_n 0, 1) := dk_42 (dk_at dksX11_grow_0 5 rfl rfl)
theorem dX11_grow_6 : decode cX11_grow 6 = .ok (.iload_n 1, 1) := dk_27 (dk_at dksX11_grow_0 6 rfl rfl)
theorem dX11_grow_7 : decode cX11_grow 7 = .ok (.invokevirtual 397, 3) := dk_182 1 141 (dk_at dksX11_grow_0 7 rfl rfl)
theorem dX11_grow_10 : decode cX11_grow 10 = .ok (.ifCond .eq 24, 3) := dk_153 0 24 (dk_at dksX11_grow_0 10 rfl rfl)
theorem dX11_grow_13 : decode cX11_grow 13 = .ok (.aload_n 0, 1) := dk_42 (dk_at dksX11_grow_0 13 rfl rfl)
theorem dX11_grow_14 : decode cX11_grow 14 = .ok (.iload_n 2, 1) := dk_28 (dk_at dksX11_grow_0 14 rfl rfl)
theorem dX11_grow_15 : decode cX11_grow 15 = .ok (.invokestatic 392, 3) := dk_184 1 136 (dk_at dksX11_grow_0 15 rfl rfl)
theorem dX11_grow_18 : decode cX11_grow 18 = .ok (.iconst 2, 1) := dk_5 (dk_at dksX11_grow_0 18 rfl rfl)
theorem dX11_grow_19 : decode cX11_grow 19 = .ok (.iconst 1, 1) := dk_4 (dk_at dksX11_grow_0 19 rfl rfl)
theorem dX11_grow_20 : decode cX11_grow 20 = .ok (.invokevirtual 346, 3) := dk_182 1 90 (dk_at dksX11_grow_0 20 rfl rfl)
theorem dX11_grow_23 : decode cX11_grow 23 = .ok (.ifCond .eq 11, 3) := dk_153 0 11 (dk_at dksX11_grow_1 0 rfl rfl)
theorem dX11_grow_26 : decode cX11_grow 26 = .ok (.aload_n 0, 1) := dk_42 (dk_at dksX11_grow_1 3 rfl rfl)
theorem dX11_grow_27 : decode cX11_grow 27 = .ok (.iconst 3, 1) := dk_6 (dk_at dksX11_grow_1 4 rfl rfl)
theorem dX11_grow_28 : decode cX11_grow 28 = .ok (.invokevirtual 365, 3) := dk_182 1 109 (dk_at dksX11_grow_1 5 rfl rfl)
theorem dX11_grow_31 : decode cX11_grow 31 = .ok (.ifCond .ne 5, 3) := dk_154 0 5 (dk_at dksX11_grow_1 8 rfl rfl)
theorem dX11_grow_34 : decode cX11_grow 34 = .ok (.lconst 0, 1) := dk_9 (dk_at dksX11_grow_1 11 rfl rfl)
theorem dX11_grow_35 : decode cX11_grow 35 = .ok (.lreturn, 1) := dk_173 (dk_at dksX11_grow_1 12 rfl rfl)
theorem dX11_grow_36 : decode cX11_grow 36 = .ok (.aload_n 0, 1) := dk_42 (dk_at dksX11_grow_1 13 rfl rfl)
theorem dX11_grow_37 : decode cX11_grow 37 = .ok (.iload_n 1, 1) := dk_27 (dk_at dksX11_grow_1 14 rfl rfl)
theorem dX11_grow_38 : decode cX11_grow 38 = .ok (.invokevirtual 277, 3) := dk_182 1 21 (dk_at dksX11_grow_1 15 rfl rfl)
theorem dX11_grow_41 : decode cX11_grow 41 = .ok (.lstore_n 3, 1) := dk_66 (dk_at dksX11_grow_1 18 rfl rfl)
theorem dX11_grow_42 : decode cX11_grow 42 = .ok (.aload_n 0, 1) := dk_42 (dk_at dksX11_grow_1 19 rfl rfl)
theorem dX11_grow_43 : decode cX11_grow 43 = .ok (.iconst 5, 1) := dk_8 (dk_at dksX11_grow_1 20 rfl rfl)
theorem dX11_grow_44 : decode cX11_grow 44 = .ok (.iload_n 1, 1) := dk_27 (dk_at dksX11_grow_1 21 rfl rfl)
theorem dX11_grow_45 : decode cX11_grow 45 = .ok (.iload_n 2, 1) := dk_28 (dk_at dksX11_grow_1 22 rfl rfl)
theorem dX11_grow_46 : decode cX11_grow 46 = .ok (.iconst 0, 1) := dk_3 (dk_at dksX11_grow_1 23 rfl rfl)
theorem dX11_grow_47 : decode cX11_grow 47 = .ok (.iconst 0, 1) := dk_3 (dk_at dksX11_grow_2 0 rfl rfl)
theorem dX11_grow_48 : decode cX11_grow 48 = .ok (.iconst (-1), 1) := dk_2 (dk_at dksX11_grow_2 1 rfl rfl)
theorem dX11_grow_49 : decode cX11_grow 49 = .ok (.invokevirtual 368, 3) := dk_182 1 112 (dk_at dksX11_grow_2 2 rfl rfl)
theorem dX11_grow_52 : decode cX11_grow 52 = .ok (.aload_n 0, 1) := dk_42 (dk_at dksX11_grow_2 5 rfl rfl)
theorem dX11_grow_53 : decode cX11_grow 53 = .ok (.aload_n 0, 1) := dk_42 (dk_at dksX11_grow_2 6 rfl rfl)
theorem dX11_grow_54 : decode cX11_grow 54 = .ok (.getfield 17, 3) := dk_180 0 17 (dk_at dksX11_grow_2 7 rfl rfl)
theorem dX11_grow_57 : decode cX11_grow 57 = .ok (.iconst 1, 1) := dk_4 (dk_at dksX11_grow_2 10 rfl rfl)
theorem dX11_grow_58 : decode cX11_grow 58 = .ok (.isub, 1) := dk_100 (dk_at dksX11_grow_2 11 rfl rfl)
theorem dX11_grow_59 : decode cX11_grow 59 = .ok (.invokevirtual 331, 3) := dk_182 1 75 (dk_at dksX11_grow_2 12 rfl rfl)
theorem dX11_grow_62 : decode cX11_grow 62 = .ok (.aload_n 0, 1) := dk_42 (dk_at dksX11_grow_2 15 rfl rfl)
theorem dX11_grow_63 : decode cX11_grow 63 = .ok (.iload_n 1, 1) := dk_27 (dk_at dksX11_grow_2 16 rfl rfl)
theorem dX11_grow_64 : decode cX11_grow 64 = .ok (.invokevirtual 277, 3) := dk_182 1 21 (dk_at dksX11_grow_2 17 rfl rfl)
theorem dX11_grow_67 : decode cX11_grow 67 = .ok (.lload_n 3, 1) := dk_33 (dk_at dksX11_grow_2 20 rfl rfl)
theorem dX11_grow_68 : decode cX11_grow 68 = .ok (.lsub, 1) := dk_101 (dk_at dksX11_grow_2 21 rfl rfl)
theorem dX11_grow_69 : decode cX11_grow 69 = .ok (.lreturn, 1) := dk_173 (dk_at dksX11_grow_2 22 rfl rfl)
abbrev cX11_isHarmOne : ByteArray := prog_16_method_75_code
def yX11_isHarmOne : MethodName := ⟨RX11, "isHarmOne", "(I)Z"⟩
def dkwX11_isHarmOne_1 : List UInt8 := [167, 0, 4, 3, 4, 3, 182, 1, 90, 172]
abbrev dktX11_isHarmOne_1 : List UInt8 := dkwX11_isHarmOne_1 ++ []
def dkwX11_isHarmOne_0 : List UInt8 := [42, 27, 133, 9, 20, 1, 139, 184, 1, 96, 153, 0, 16, 42, 180, 0, 33, 27, 51, 153, 0, 7, 4]
abbrev dktX11_isHarmOne_0 : List UInt8 := dkwX11_isHarmOne_0 ++ dktX11_isHarmOne_1
theorem dksX11_isHarmOne_0 : cX11_isHarmOne.data.toList.drop 0 = dktX11_isHarmOne_0 := by decide +kernel
theorem dksX11_isHarmOne_1 : cX11_isHarmOne.data.toList.drop 23 = dktX11_isHarmOne_1 := dk_seg dksX11_isHarmOne_0 23 rfl rfl
theorem dX11_isHarmOne_0 : decode cX11_isHarmOne 0 = .ok (.aload_n 0, 1) := dk_42 (dk_at dksX11_isHarmOne_0 0 rfl rfl)
theorem dX11_isHarmOne_1 : decode cX11_isHarmOne 1 = .ok (.iload_n 1, 1) := dk_27 (dk_at dksX11_isHarmOne_0 1 rfl rfl)
theorem dX11_isHarmOne_2 : decode cX11_isHarmOne 2 = .ok (.i2l, 1) := dk_133 (dk_at dksX11_isHarmOne_0 2 rfl rfl)
theorem dX11_isHarmOne_3 : decode cX11_isHarmOne 3 = .ok (.lconst 0, 1) := dk_9 (dk_at dksX11_isHarmOne_0 3 rfl rfl)
theorem dX11_isHarmOne_4 : decode cX11_isHarmOne 4 = .ok (.ldc2_w 395, 3) := dk_20 1 139 (dk_at dksX11_isHarmOne_0 4 rfl rfl)
theorem dX11_isHarmOne_7 : decode cX11_isHarmOne 7 = .ok (.invokestatic 352, 3) := dk_184 1 96 (dk_at dksX11_isHarmOne_0 7 rfl rfl)
theorem dX11_isHarmOne_10 : decode cX11_isHarmOne 10 = .ok (.ifCond .eq 16, 3) := dk_153 0 16 (dk_at dksX11_isHarmOne_0 10 rfl rfl)
theorem dX11_isHarmOne_13 : decode cX11_isHarmOne 13 = .ok (.aload_n 0, 1) := dk_42 (dk_at dksX11_isHarmOne_0 13 rfl rfl)
theorem dX11_isHarmOne_14 : decode cX11_isHarmOne 14 = .ok (.getfield 33, 3) := dk_180 0 33 (dk_at dksX11_isHarmOne_0 14 rfl rfl)
theorem dX11_isHarmOne_17 : decode cX11_isHarmOne 17 = .ok (.iload_n 1, 1) := dk_27 (dk_at dksX11_isHarmOne_0 17 rfl rfl)
theorem dX11_isHarmOne_18 : decode cX11_isHarmOne 18 = .ok (.baload, 1) := dk_51 (dk_at dksX11_isHarmOne_0 18 rfl rfl)
theorem dX11_isHarmOne_19 : decode cX11_isHarmOne 19 = .ok (.ifCond .eq 7, 3) := dk_153 0 7 (dk_at dksX11_isHarmOne_0 19 rfl rfl)
theorem dX11_isHarmOne_22 : decode cX11_isHarmOne 22 = .ok (.iconst 1, 1) := dk_4 (dk_at dksX11_isHarmOne_0 22 rfl rfl)
theorem dX11_isHarmOne_23 : decode cX11_isHarmOne 23 = .ok (.goto 4, 3) := dk_167 0 4 (dk_at dksX11_isHarmOne_1 0 rfl rfl)
theorem dX11_isHarmOne_26 : decode cX11_isHarmOne 26 = .ok (.iconst 0, 1) := dk_3 (dk_at dksX11_isHarmOne_1 3 rfl rfl)
theorem dX11_isHarmOne_27 : decode cX11_isHarmOne 27 = .ok (.iconst 1, 1) := dk_4 (dk_at dksX11_isHarmOne_1 4 rfl rfl)
theorem dX11_isHarmOne_28 : decode cX11_isHarmOne 28 = .ok (.iconst 0, 1) := dk_3 (dk_at dksX11_isHarmOne_1 5 rfl rfl)
theorem dX11_isHarmOne_29 : decode cX11_isHarmOne 29 = .ok (.invokevirtual 346, 3) := dk_182 1 90 (dk_at dksX11_isHarmOne_1 6 rfl rfl)
theorem dX11_isHarmOne_32 : decode cX11_isHarmOne 32 = .ok (.ireturn, 1) := dk_172 (dk_at dksX11_isHarmOne_1 9 rfl rfl)
abbrev cX11_insuredOf : ByteArray := prog_16_method_45_code
def yX11_insuredOf : MethodName := ⟨RX11, "insuredOf", "(I)J"⟩
def dkwX11_insuredOf_1 : List UInt8 := [47, 97, 65, 132, 4, 1, 167, 255, 231, 32, 173]
abbrev dktX11_insuredOf_1 : List UInt8 := dkwX11_insuredOf_1 ++ []
def dkwX11_insuredOf_0 : List UInt8 := [9, 65, 3, 54, 4, 21, 4, 16, 7, 162, 0, 24, 32, 42, 180, 0, 91, 16, 7, 27, 104, 21, 4, 96]
abbrev dktX11_insuredOf_0 : List UInt8 := dkwX11_insuredOf_0 ++ dktX11_insuredOf_1
theorem dksX11_insuredOf_0 : cX11_insuredOf.data.toList.drop 0 = dktX11_insuredOf_0 := by decide +kernel
theorem dksX11_insuredOf_1 : cX11_insuredOf.data.toList.drop 24 = dktX11_insuredOf_1 := dk_seg dksX11_insuredOf_0 24 rfl rfl
theorem dX11_insuredOf_0 : decode cX11_insuredOf 0 = .ok (.lconst 0, 1) := dk_9 (dk_at dksX11_insuredOf_0 0 rfl rfl)
theorem dX11_insuredOf_1 : decode cX11_insuredOf 1 = .ok (.lstore_n 2, 1) := dk_65 (dk_at dksX11_insuredOf_0 1 rfl rfl)
theorem dX11_insuredOf_2 : decode cX11_insuredOf 2 = .ok (.iconst 0, 1) := dk_3 (dk_at dksX11_insuredOf_0 2 rfl rfl)
theorem dX11_insuredOf_3 : decode cX11_insuredOf 3 = .ok (.istore 4, 2) := dk_54 4 (dk_at dksX11_insuredOf_0 3 rfl rfl)
theorem dX11_insuredOf_5 : decode cX11_insuredOf 5 = .ok (.iload 4, 2) := dk_21 4 (dk_at dksX11_insuredOf_0 5 rfl rfl)
theorem dX11_insuredOf_7 : decode cX11_insuredOf 7 = .ok (.bipush 7, 2) := dk_16 7 (dk_at dksX11_insuredOf_0 7 rfl rfl)
theorem dX11_insuredOf_9 : decode cX11_insuredOf 9 = .ok (.if_icmp .ge 24, 3) := dk_162 0 24 (dk_at dksX11_insuredOf_0 9 rfl rfl)
theorem dX11_insuredOf_12 : decode cX11_insuredOf 12 = .ok (.lload_n 2, 1) := dk_32 (dk_at dksX11_insuredOf_0 12 rfl rfl)
theorem dX11_insuredOf_13 : decode cX11_insuredOf 13 = .ok (.aload_n 0, 1) := dk_42 (dk_at dksX11_insuredOf_0 13 rfl rfl)
theorem dX11_insuredOf_14 : decode cX11_insuredOf 14 = .ok (.getfield 91, 3) := dk_180 0 91 (dk_at dksX11_insuredOf_0 14 rfl rfl)
theorem dX11_insuredOf_17 : decode cX11_insuredOf 17 = .ok (.bipush 7, 2) := dk_16 7 (dk_at dksX11_insuredOf_0 17 rfl rfl)
theorem dX11_insuredOf_19 : decode cX11_insuredOf 19 = .ok (.iload_n 1, 1) := dk_27 (dk_at dksX11_insuredOf_0 19 rfl rfl)
theorem dX11_insuredOf_20 : decode cX11_insuredOf 20 = .ok (.imul, 1) := dk_104 (dk_at dksX11_insuredOf_0 20 rfl rfl)
theorem dX11_insuredOf_21 : decode cX11_insuredOf 21 = .ok (.iload 4, 2) := dk_21 4 (dk_at dksX11_insuredOf_0 21 rfl rfl)
theorem dX11_insuredOf_23 : decode cX11_insuredOf 23 = .ok (.iadd, 1) := dk_96 (dk_at dksX11_insuredOf_0 23 rfl rfl)
theorem dX11_insuredOf_24 : decode cX11_insuredOf 24 = .ok (.laload, 1) := dk_47 (dk_at dksX11_insuredOf_1 0 rfl rfl)
theorem dX11_insuredOf_25 : decode cX11_insuredOf 25 = .ok (.ladd, 1) := dk_97 (dk_at dksX11_insuredOf_1 1 rfl rfl)
theorem dX11_insuredOf_26 : decode cX11_insuredOf 26 = .ok (.lstore_n 2, 1) := dk_65 (dk_at dksX11_insuredOf_1 2 rfl rfl)
theorem dX11_insuredOf_27 : decode cX11_insuredOf 27 = .ok (.iinc 4 1, 3) := dk_132 4 1 (dk_at dksX11_insuredOf_1 3 rfl rfl)
theorem dX11_insuredOf_30 : decode cX11_insuredOf 30 = .ok (.goto (-25), 3) := dk_167 255 231 (dk_at dksX11_insuredOf_1 6 rfl rfl)
theorem dX11_insuredOf_33 : decode cX11_insuredOf 33 = .ok (.lload_n 2, 1) := dk_32 (dk_at dksX11_insuredOf_1 9 rfl rfl)
theorem dX11_insuredOf_34 : decode cX11_insuredOf 34 = .ok (.lreturn, 1) := dk_173 (dk_at dksX11_insuredOf_1 10 rfl rfl)
abbrev cX11_reopen : ByteArray := prog_16_method_77_code
def yX11_reopen : MethodName := ⟨RX11, "reopen", "(I)J"⟩
def dkwX11_reopen_2 : List UInt8 := [182, 1, 75, 42, 27, 182, 1, 21, 32, 101, 173]
abbrev dktX11_reopen_2 : List UInt8 := dkwX11_reopen_2 ++ []
def dkwX11_reopen_1 : List UInt8 := [27, 182, 1, 21, 65, 42, 16, 8, 27, 3, 3, 3, 2, 182, 1, 112, 42, 42, 180, 0, 17, 4, 100]
abbrev dktX11_reopen_1 : List UInt8 := dkwX11_reopen_1 ++ dktX11_reopen_2
def dkwX11_reopen_0 : List UInt8 := [42, 3, 181, 0, 1, 42, 27, 182, 1, 141, 153, 0, 11, 42, 5, 182, 1, 109, 154, 0, 5, 9, 173, 42]
abbrev dktX11_reopen_0 : List UInt8 := dkwX11_reopen_0 ++ dktX11_reopen_1
theorem dksX11_reopen_0 : cX11_reopen.data.toList.drop 0 = dktX11_reopen_0 := by decide +kernel
theorem dksX11_reopen_1 : cX11_reopen.data.toList.drop 24 = dktX11_reopen_1 := dk_seg dksX11_reopen_0 24 rfl rfl
theorem dksX11_reopen_2 : cX11_reopen.data.toList.drop 47 = dktX11_reopen_2 := dk_seg dksX11_reopen_1 23 rfl rfl
theorem dX11_reopen_0 : decode cX11_reopen 0 = .ok (.aload_n 0, 1) := dk_42 (dk_at dksX11_reopen_0 0 rfl rfl)
theorem dX11_reopen_1 : decode cX11_reopen 1 = .ok (.iconst 0, 1) := dk_3 (dk_at dksX11_reopen_0 1 rfl rfl)
theorem dX11_reopen_2 : decode cX11_reopen 2 = .ok (.putfield 1, 3) := dk_181 0 1 (dk_at dksX11_reopen_0 2 rfl rfl)
theorem dX11_reopen_5 : decode cX11_reopen 5 = .ok (.aload_n 0, 1) := dk_42 (dk_at dksX11_reopen_0 5 rfl rfl)
theorem dX11_reopen_6 : decode cX11_reopen 6 = .ok (.iload_n 1, 1) := dk_27 (dk_at dksX11_reopen_0 6 rfl rfl)
theorem dX11_reopen_7 : decode cX11_reopen 7 = .ok (.invokevirtual 397, 3) := dk_182 1 141 (dk_at dksX11_reopen_0 7 rfl rfl)
theorem dX11_reopen_10 : decode cX11_reopen 10 = .ok (.ifCond .eq 11, 3) := dk_153 0 11 (dk_at dksX11_reopen_0 10 rfl rfl)
theorem dX11_reopen_13 : decode cX11_reopen 13 = .ok (.aload_n 0, 1) := dk_42 (dk_at dksX11_reopen_0 13 rfl rfl)
theorem dX11_reopen_14 : decode cX11_reopen 14 = .ok (.iconst 2, 1) := dk_5 (dk_at dksX11_reopen_0 14 rfl rfl)
theorem dX11_reopen_15 : decode cX11_reopen 15 = .ok (.invokevirtual 365, 3) := dk_182 1 109 (dk_at dksX11_reopen_0 15 rfl rfl)
theorem dX11_reopen_18 : decode cX11_reopen 18 = .ok (.ifCond .ne 5, 3) := dk_154 0 5 (dk_at dksX11_reopen_0 18 rfl rfl)
theorem dX11_reopen_21 : decode cX11_reopen 21 = .ok (.lconst 0, 1) := dk_9 (dk_at dksX11_reopen_0 21 rfl rfl)
theorem dX11_reopen_22 : decode cX11_reopen 22 = .ok (.lreturn, 1) := dk_173 (dk_at dksX11_reopen_0 22 rfl rfl)
theorem dX11_reopen_23 : decode cX11_reopen 23 = .ok (.aload_n 0, 1) := dk_42 (dk_at dksX11_reopen_0 23 rfl rfl)
theorem dX11_reopen_24 : decode cX11_reopen 24 = .ok (.iload_n 1, 1) := dk_27 (dk_at dksX11_reopen_1 0 rfl rfl)
theorem dX11_reopen_25 : decode cX11_reopen 25 = .ok (.invokevirtual 277, 3) := dk_182 1 21 (dk_at dksX11_reopen_1 1 rfl rfl)
theorem dX11_reopen_28 : decode cX11_reopen 28 = .ok (.lstore_n 2, 1) := dk_65 (dk_at dksX11_reopen_1 4 rfl rfl)
theorem dX11_reopen_29 : decode cX11_reopen 29 = .ok (.aload_n 0, 1) := dk_42 (dk_at dksX11_reopen_1 5 rfl rfl)
theorem dX11_reopen_30 : decode cX11_reopen 30 = .ok (.bipush 8, 2) := dk_16 8 (dk_at dksX11_reopen_1 6 rfl rfl)
theorem dX11_reopen_32 : decode cX11_reopen 32 = .ok (.iload_n 1, 1) := dk_27 (dk_at dksX11_reopen_1 8 rfl rfl)
theorem dX11_reopen_33 : decode cX11_reopen 33 = .ok (.iconst 0, 1) := dk_3 (dk_at dksX11_reopen_1 9 rfl rfl)
theorem dX11_reopen_34 : decode cX11_reopen 34 = .ok (.iconst 0, 1) := dk_3 (dk_at dksX11_reopen_1 10 rfl rfl)
theorem dX11_reopen_35 : decode cX11_reopen 35 = .ok (.iconst 0, 1) := dk_3 (dk_at dksX11_reopen_1 11 rfl rfl)
theorem dX11_reopen_36 : decode cX11_reopen 36 = .ok (.iconst (-1), 1) := dk_2 (dk_at dksX11_reopen_1 12 rfl rfl)
theorem dX11_reopen_37 : decode cX11_reopen 37 = .ok (.invokevirtual 368, 3) := dk_182 1 112 (dk_at dksX11_reopen_1 13 rfl rfl)
theorem dX11_reopen_40 : decode cX11_reopen 40 = .ok (.aload_n 0, 1) := dk_42 (dk_at dksX11_reopen_1 16 rfl rfl)
theorem dX11_reopen_41 : decode cX11_reopen 41 = .ok (.aload_n 0, 1) := dk_42 (dk_at dksX11_reopen_1 17 rfl rfl)
theorem dX11_reopen_42 : decode cX11_reopen 42 = .ok (.getfield 17, 3) := dk_180 0 17 (dk_at dksX11_reopen_1 18 rfl rfl)
theorem dX11_reopen_45 : decode cX11_reopen 45 = .ok (.iconst 1, 1) := dk_4 (dk_at dksX11_reopen_1 21 rfl rfl)
theorem dX11_reopen_46 : decode cX11_reopen 46 = .ok (.isub, 1) := dk_100 (dk_at dksX11_reopen_1 22 rfl rfl)
theorem dX11_reopen_47 : decode cX11_reopen 47 = .ok (.invokevirtual 331, 3) := dk_182 1 75 (dk_at dksX11_reopen_2 0 rfl rfl)
theorem dX11_reopen_50 : decode cX11_reopen 50 = .ok (.aload_n 0, 1) := dk_42 (dk_at dksX11_reopen_2 3 rfl rfl)
theorem dX11_reopen_51 : decode cX11_reopen 51 = .ok (.iload_n 1, 1) := dk_27 (dk_at dksX11_reopen_2 4 rfl rfl)
theorem dX11_reopen_52 : decode cX11_reopen 52 = .ok (.invokevirtual 277, 3) := dk_182 1 21 (dk_at dksX11_reopen_2 5 rfl rfl)
theorem dX11_reopen_55 : decode cX11_reopen 55 = .ok (.lload_n 2, 1) := dk_32 (dk_at dksX11_reopen_2 8 rfl rfl)
theorem dX11_reopen_56 : decode cX11_reopen 56 = .ok (.lsub, 1) := dk_101 (dk_at dksX11_reopen_2 9 rfl rfl)
theorem dX11_reopen_57 : decode cX11_reopen 57 = .ok (.lreturn, 1) := dk_173 (dk_at dksX11_reopen_2 10 rfl rfl)
abbrev cX11_settle : ByteArray := prog_16_method_79_code
def yX11_settle : MethodName := ⟨RX11, "settle", "(II)I"⟩
def dkwX11_settle_4 : List UInt8 := [182, 1, 75, 42, 4, 182, 1, 144, 172]
abbrev dktX11_settle_4 : List UInt8 := dkwX11_settle_4 ++ []
def dkwX11_settle_3 : List UInt8 := [154, 0, 5, 3, 172, 42, 16, 6, 27, 28, 3, 3, 2, 182, 1, 112, 42, 42, 180, 0, 17, 4, 100]
abbrev dktX11_settle_3 : List UInt8 := dkwX11_settle_3 ++ dktX11_settle_4
def dkwX11_settle_2 : List UInt8 := [27, 46, 154, 0, 7, 4, 167, 0, 4, 3, 5, 5, 182, 1, 90, 153, 0, 11, 42, 5, 182, 1, 109]
abbrev dktX11_settle_2 : List UInt8 := dkwX11_settle_2 ++ dktX11_settle_3
def dkwX11_settle_1 : List UInt8 := [184, 1, 96, 153, 0, 7, 4, 167, 0, 4, 3, 4, 4, 182, 1, 90, 153, 0, 34, 42, 42, 180, 0, 94]
abbrev dktX11_settle_1 : List UInt8 := dkwX11_settle_1 ++ dktX11_settle_2
def dkwX11_settle_0 : List UInt8 := [42, 3, 181, 0, 1, 42, 27, 133, 10, 20, 1, 121, 184, 1, 96, 153, 0, 19, 28, 133, 9, 20, 1, 131]
abbrev dktX11_settle_0 : List UInt8 := dkwX11_settle_0 ++ dktX11_settle_1
theorem dksX11_settle_0 : cX11_settle.data.toList.drop 0 = dktX11_settle_0 := by decide +kernel
theorem dksX11_settle_1 : cX11_settle.data.toList.drop 24 = dktX11_settle_1 := dk_seg dksX11_settle_0 24 rfl rfl
theorem dksX11_settle_2 : cX11_settle.data.toList.drop 48 = dktX11_settle_2 := dk_seg dksX11_settle_1 24 rfl rfl
theorem dksX11_settle_3 : cX11_settle.data.toList.drop 71 = dktX11_settle_3 := dk_seg dksX11_settle_2 23 rfl rfl
theorem dksX11_settle_4 : cX11_settle.data.toList.drop 94 = dktX11_settle_4 := dk_seg dksX11_settle_3 23 rfl rfl
theorem dX11_settle_0 : decode cX11_settle 0 = .ok (.aload_n 0, 1) := dk_42 (dk_at dksX11_settle_0 0 rfl rfl)
theorem dX11_settle_1 : decode cX11_settle 1 = .ok (.iconst 0, 1) := dk_3 (dk_at dksX11_settle_0 1 rfl rfl)
theorem dX11_settle_2 : decode cX11_settle 2 = .ok (.putfield 1, 3) := dk_181 0 1 (dk_at dksX11_settle_0 2 rfl rfl)
theorem dX11_settle_5 : decode cX11_settle 5 = .ok (.aload_n 0, 1) := dk_42 (dk_at dksX11_settle_0 5 rfl rfl)
theorem dX11_settle_6 : decode cX11_settle 6 = .ok (.iload_n 1, 1) := dk_27 (dk_at dksX11_settle_0 6 rfl rfl)
theorem dX11_settle_7 : decode cX11_settle 7 = .ok (.i2l, 1) := dk_133 (dk_at dksX11_settle_0 7 rfl rfl)
theorem dX11_settle_8 : decode cX11_settle 8 = .ok (.lconst 1, 1) := dk_10 (dk_at dksX11_settle_0 8 rfl rfl)
theorem dX11_settle_9 : decode cX11_settle 9 = .ok (.ldc2_w 377, 3) := dk_20 1 121 (dk_at dksX11_settle_0 9 rfl rfl)
theorem dX11_settle_12 : decode cX11_settle 12 = .ok (.invokestatic 352, 3) := dk_184 1 96 (dk_at dksX11_settle_0 12 rfl rfl)
theorem dX11_settle_15 : decode cX11_settle 15 = .ok (.ifCond .eq 19, 3) := dk_153 0 19 (dk_at dksX11_settle_0 15 rfl rfl)
theorem dX11_settle_18 : decode cX11_settle 18 = .ok (.iload_n 2, 1) := dk_28 (dk_at dksX11_settle_0 18 rfl rfl)
theorem dX11_settle_19 : decode cX11_settle 19 = .ok (.i2l, 1) := dk_133 (dk_at dksX11_settle_0 19 rfl rfl)
theorem dX11_settle_20 : decode cX11_settle 20 = .ok (.lconst 0, 1) := dk_9 (dk_at dksX11_settle_0 20 rfl rfl)
theorem dX11_settle_21 : decode cX11_settle 21 = .ok (.ldc2_w 387, 3) := dk_20 1 131 (dk_at dksX11_settle_0 21 rfl rfl)
theorem dX11_settle_24 : decode cX11_settle 24 = .ok (.invokestatic 352, 3) := dk_184 1 96 (dk_at dksX11_settle_1 0 rfl rfl)
theorem dX11_settle_27 : decode cX11_settle 27 = .ok (.ifCond .eq 7, 3) := dk_153 0 7 (dk_at dksX11_settle_1 3 rfl rfl)
theorem dX11_settle_30 : decode cX11_settle 30 = .ok (.iconst 1, 1) := dk_4 (dk_at dksX11_settle_1 6 rfl rfl)
theorem dX11_settle_31 : decode cX11_settle 31 = .ok (.goto 4, 3) := dk_167 0 4 (dk_at dksX11_settle_1 7 rfl rfl)
theorem dX11_settle_34 : decode cX11_settle 34 = .ok (.iconst 0, 1) := dk_3 (dk_at dksX11_settle_1 10 rfl rfl)
theorem dX11_settle_35 : decode cX11_settle 35 = .ok (.iconst 1, 1) := dk_4 (dk_at dksX11_settle_1 11 rfl rfl)
theorem dX11_settle_36 : decode cX11_settle 36 = .ok (.iconst 1, 1) := dk_4 (dk_at dksX11_settle_1 12 rfl rfl)
theorem dX11_settle_37 : decode cX11_settle 37 = .ok (.invokevirtual 346, 3) := dk_182 1 90 (dk_at dksX11_settle_1 13 rfl rfl)
theorem dX11_settle_40 : decode cX11_settle 40 = .ok (.ifCond .eq 34, 3) := dk_153 0 34 (dk_at dksX11_settle_1 16 rfl rfl)
theorem dX11_settle_43 : decode cX11_settle 43 = .ok (.aload_n 0, 1) := dk_42 (dk_at dksX11_settle_1 19 rfl rfl)
theorem dX11_settle_44 : decode cX11_settle 44 = .ok (.aload_n 0, 1) := dk_42 (dk_at dksX11_settle_1 20 rfl rfl)
theorem dX11_settle_45 : decode cX11_settle 45 = .ok (.getfield 94, 3) := dk_180 0 94 (dk_at dksX11_settle_1 21 rfl rfl)
theorem dX11_settle_48 : decode cX11_settle 48 = .ok (.iload_n 1, 1) := dk_27 (dk_at dksX11_settle_2 0 rfl rfl)
theorem dX11_settle_49 : decode cX11_settle 49 = .ok (.iaload, 1) := dk_46 (dk_at dksX11_settle_2 1 rfl rfl)
theorem dX11_settle_50 : decode cX11_settle 50 = .ok (.ifCond .ne 7, 3) := dk_154 0 7 (dk_at dksX11_settle_2 2 rfl rfl)
theorem dX11_settle_53 : decode cX11_settle 53 = .ok (.iconst 1, 1) := dk_4 (dk_at dksX11_settle_2 5 rfl rfl)
theorem dX11_settle_54 : decode cX11_settle 54 = .ok (.goto 4, 3) := dk_167 0 4 (dk_at dksX11_settle_2 6 rfl rfl)
theorem dX11_settle_57 : decode cX11_settle 57 = .ok (.iconst 0, 1) := dk_3 (dk_at dksX11_settle_2 9 rfl rfl)
theorem dX11_settle_58 : decode cX11_settle 58 = .ok (.iconst 2, 1) := dk_5 (dk_at dksX11_settle_2 10 rfl rfl)
theorem dX11_settle_59 : decode cX11_settle 59 = .ok (.iconst 2, 1) := dk_5 (dk_at dksX11_settle_2 11 rfl rfl)
theorem dX11_settle_60 : decode cX11_settle 60 = .ok (.invokevirtual 346, 3) := dk_182 1 90 (dk_at dksX11_settle_2 12 rfl rfl)
theorem dX11_settle_63 : decode cX11_settle 63 = .ok (.ifCond .eq 11, 3) := dk_153 0 11 (dk_at dksX11_settle_2 15 rfl rfl)
theorem dX11_settle_66 : decode cX11_settle 66 = .ok (.aload_n 0, 1) := dk_42 (dk_at dksX11_settle_2 18 rfl rfl)
theorem dX11_settle_67 : decode cX11_settle 67 = .ok (.iconst 2, 1) := dk_5 (dk_at dksX11_settle_2 19 rfl rfl)
theorem dX11_settle_68 : decode cX11_settle 68 = .ok (.invokevirtual 365, 3) := dk_182 1 109 (dk_at dksX11_settle_2 20 rfl rfl)
theorem dX11_settle_71 : decode cX11_settle 71 = .ok (.ifCond .ne 5, 3) := dk_154 0 5 (dk_at dksX11_settle_3 0 rfl rfl)
theorem dX11_settle_74 : decode cX11_settle 74 = .ok (.iconst 0, 1) := dk_3 (dk_at dksX11_settle_3 3 rfl rfl)
theorem dX11_settle_75 : decode cX11_settle 75 = .ok (.ireturn, 1) := dk_172 (dk_at dksX11_settle_3 4 rfl rfl)
theorem dX11_settle_76 : decode cX11_settle 76 = .ok (.aload_n 0, 1) := dk_42 (dk_at dksX11_settle_3 5 rfl rfl)
theorem dX11_settle_77 : decode cX11_settle 77 = .ok (.bipush 6, 2) := dk_16 6 (dk_at dksX11_settle_3 6 rfl rfl)
theorem dX11_settle_79 : decode cX11_settle 79 = .ok (.iload_n 1, 1) := dk_27 (dk_at dksX11_settle_3 8 rfl rfl)
theorem dX11_settle_80 : decode cX11_settle 80 = .ok (.iload_n 2, 1) := dk_28 (dk_at dksX11_settle_3 9 rfl rfl)
theorem dX11_settle_81 : decode cX11_settle 81 = .ok (.iconst 0, 1) := dk_3 (dk_at dksX11_settle_3 10 rfl rfl)
theorem dX11_settle_82 : decode cX11_settle 82 = .ok (.iconst 0, 1) := dk_3 (dk_at dksX11_settle_3 11 rfl rfl)
theorem dX11_settle_83 : decode cX11_settle 83 = .ok (.iconst (-1), 1) := dk_2 (dk_at dksX11_settle_3 12 rfl rfl)
theorem dX11_settle_84 : decode cX11_settle 84 = .ok (.invokevirtual 368, 3) := dk_182 1 112 (dk_at dksX11_settle_3 13 rfl rfl)
theorem dX11_settle_87 : decode cX11_settle 87 = .ok (.aload_n 0, 1) := dk_42 (dk_at dksX11_settle_3 16 rfl rfl)
theorem dX11_settle_88 : decode cX11_settle 88 = .ok (.aload_n 0, 1) := dk_42 (dk_at dksX11_settle_3 17 rfl rfl)
theorem dX11_settle_89 : decode cX11_settle 89 = .ok (.getfield 17, 3) := dk_180 0 17 (dk_at dksX11_settle_3 18 rfl rfl)
theorem dX11_settle_92 : decode cX11_settle 92 = .ok (.iconst 1, 1) := dk_4 (dk_at dksX11_settle_3 21 rfl rfl)
theorem dX11_settle_93 : decode cX11_settle 93 = .ok (.isub, 1) := dk_100 (dk_at dksX11_settle_3 22 rfl rfl)
theorem dX11_settle_94 : decode cX11_settle 94 = .ok (.invokevirtual 331, 3) := dk_182 1 75 (dk_at dksX11_settle_4 0 rfl rfl)
theorem dX11_settle_97 : decode cX11_settle 97 = .ok (.aload_n 0, 1) := dk_42 (dk_at dksX11_settle_4 3 rfl rfl)
theorem dX11_settle_98 : decode cX11_settle 98 = .ok (.iconst 1, 1) := dk_4 (dk_at dksX11_settle_4 4 rfl rfl)
theorem dX11_settle_99 : decode cX11_settle 99 = .ok (.invokevirtual 400, 3) := dk_182 1 144 (dk_at dksX11_settle_4 5 rfl rfl)
theorem dX11_settle_102 : decode cX11_settle 102 = .ok (.ireturn, 1) := dk_172 (dk_at dksX11_settle_4 8 rfl rfl)
abbrev cX11_standing : ByteArray := prog_16_method_78_code
def yX11_standing : MethodName := ⟨RX11, "standing", "(I)I"⟩
def dkwX11_standing_1 : List UInt8 := [167, 0, 4, 3, 96, 61, 132, 3, 1, 167, 255, 229, 28, 172]
abbrev dktX11_standing_1 : List UInt8 := dkwX11_standing_1 ++ []
def dkwX11_standing_0 : List UInt8 := [3, 61, 4, 62, 29, 16, 10, 162, 0, 27, 28, 42, 180, 0, 94, 29, 46, 27, 160, 0, 7, 4]
abbrev dktX11_standing_0 : List UInt8 := dkwX11_standing_0 ++ dktX11_standing_1
theorem dksX11_standing_0 : cX11_standing.data.toList.drop 0 = dktX11_standing_0 := by decide +kernel
theorem dksX11_standing_1 : cX11_standing.data.toList.drop 22 = dktX11_standing_1 := dk_seg dksX11_standing_0 22 rfl rfl
theorem dX11_standing_0 : decode cX11_standing 0 = .ok (.iconst 0, 1) := dk_3 (dk_at dksX11_standing_0 0 rfl rfl)
theorem dX11_standing_1 : decode cX11_standing 1 = .ok (.istore_n 2, 1) := dk_61 (dk_at dksX11_standing_0 1 rfl rfl)
theorem dX11_standing_2 : decode cX11_standing 2 = .ok (.iconst 1, 1) := dk_4 (dk_at dksX11_standing_0 2 rfl rfl)
theorem dX11_standing_3 : decode cX11_standing 3 = .ok (.istore_n 3, 1) := dk_62 (dk_at dksX11_standing_0 3 rfl rfl)
theorem dX11_standing_4 : decode cX11_standing 4 = .ok (.iload_n 3, 1) := dk_29 (dk_at dksX11_standing_0 4 rfl rfl)
theorem dX11_standing_5 : decode cX11_standing 5 = .ok (.bipush 10, 2) := dk_16 10 (dk_at dksX11_standing_0 5 rfl rfl)
theorem dX11_standing_7 : decode cX11_standing 7 = .ok (.if_icmp .ge 27, 3) := dk_162 0 27 (dk_at dksX11_standing_0 7 rfl rfl)
theorem dX11_standing_10 : decode cX11_standing 10 = .ok (.iload_n 2, 1) := dk_28 (dk_at dksX11_standing_0 10 rfl rfl)
theorem dX11_standing_11 : decode cX11_standing 11 = .ok (.aload_n 0, 1) := dk_42 (dk_at dksX11_standing_0 11 rfl rfl)
theorem dX11_standing_12 : decode cX11_standing 12 = .ok (.getfield 94, 3) := dk_180 0 94 (dk_at dksX11_standing_0 12 rfl rfl)
theorem dX11_standing_15 : decode cX11_standing 15 = .ok (.iload_n 3, 1) := dk_29 (dk_at dksX11_standing_0 15 rfl rfl)
theorem dX11_standing_16 : decode cX11_standing 16 = .ok (.iaload, 1) := dk_46 (dk_at dksX11_standing_0 16 rfl rfl)
theorem dX11_standing_17 : decode cX11_standing 17 = .ok (.iload_n 1, 1) := dk_27 (dk_at dksX11_standing_0 17 rfl rfl)
theorem dX11_standing_18 : decode cX11_standing 18 = .ok (.if_icmp .ne 7, 3) := dk_160 0 7 (dk_at dksX11_standing_0 18 rfl rfl)
theorem dX11_standing_21 : decode cX11_standing 21 = .ok (.iconst 1, 1) := dk_4 (dk_at dksX11_standing_0 21 rfl rfl)
theorem dX11_standing_22 : decode cX11_standing 22 = .ok (.goto 4, 3) := dk_167 0 4 (dk_at dksX11_standing_1 0 rfl rfl)
theorem dX11_standing_25 : decode cX11_standing 25 = .ok (.iconst 0, 1) := dk_3 (dk_at dksX11_standing_1 3 rfl rfl)
theorem dX11_standing_26 : decode cX11_standing 26 = .ok (.iadd, 1) := dk_96 (dk_at dksX11_standing_1 4 rfl rfl)
theorem dX11_standing_27 : decode cX11_standing 27 = .ok (.istore_n 2, 1) := dk_61 (dk_at dksX11_standing_1 5 rfl rfl)
theorem dX11_standing_28 : decode cX11_standing 28 = .ok (.iinc 3 1, 3) := dk_132 3 1 (dk_at dksX11_standing_1 6 rfl rfl)
theorem dX11_standing_31 : decode cX11_standing 31 = .ok (.goto (-27), 3) := dk_167 255 229 (dk_at dksX11_standing_1 9 rfl rfl)
theorem dX11_standing_34 : decode cX11_standing 34 = .ok (.iload_n 2, 1) := dk_28 (dk_at dksX11_standing_1 12 rfl rfl)
theorem dX11_standing_35 : decode cX11_standing 35 = .ok (.ireturn, 1) := dk_172 (dk_at dksX11_standing_1 13 rfl rfl)
abbrev cX11_fall : ByteArray := prog_16_method_80_code
def yX11_fall : MethodName := ⟨RX11, "fall", "(I)I"⟩
def dkwX11_fall_3 : List UInt8 := [4, 100, 182, 1, 75, 42, 5, 182, 1, 144, 172]
abbrev dktX11_fall_3 : List UInt8 := dkwX11_fall_3 ++ []
def dkwX11_fall_2 : List UInt8 := [182, 1, 109, 154, 0, 5, 3, 172, 42, 16, 7, 27, 3, 3, 3, 2, 182, 1, 112, 42, 42, 180, 0, 17]
abbrev dktX11_fall_2 : List UInt8 := dkwX11_fall_2 ++ dktX11_fall_3
def dkwX11_fall_1 : List UInt8 := [42, 180, 0, 94, 27, 46, 154, 0, 7, 4, 167, 0, 4, 3, 5, 5, 182, 1, 90, 153, 0, 11, 42, 5]
abbrev dktX11_fall_1 : List UInt8 := dkwX11_fall_1 ++ dktX11_fall_2
def dkwX11_fall_0 : List UInt8 := [42, 3, 181, 0, 1, 42, 27, 133, 10, 20, 1, 121, 184, 1, 96, 4, 4, 182, 1, 90, 153, 0, 34, 42]
abbrev dktX11_fall_0 : List UInt8 := dkwX11_fall_0 ++ dktX11_fall_1
theorem dksX11_fall_0 : cX11_fall.data.toList.drop 0 = dktX11_fall_0 := by decide +kernel
theorem dksX11_fall_1 : cX11_fall.data.toList.drop 24 = dktX11_fall_1 := dk_seg dksX11_fall_0 24 rfl rfl
theorem dksX11_fall_2 : cX11_fall.data.toList.drop 48 = dktX11_fall_2 := dk_seg dksX11_fall_1 24 rfl rfl
theorem dksX11_fall_3 : cX11_fall.data.toList.drop 72 = dktX11_fall_3 := dk_seg dksX11_fall_2 24 rfl rfl
theorem dX11_fall_0 : decode cX11_fall 0 = .ok (.aload_n 0, 1) := dk_42 (dk_at dksX11_fall_0 0 rfl rfl)
theorem dX11_fall_1 : decode cX11_fall 1 = .ok (.iconst 0, 1) := dk_3 (dk_at dksX11_fall_0 1 rfl rfl)
theorem dX11_fall_2 : decode cX11_fall 2 = .ok (.putfield 1, 3) := dk_181 0 1 (dk_at dksX11_fall_0 2 rfl rfl)
theorem dX11_fall_5 : decode cX11_fall 5 = .ok (.aload_n 0, 1) := dk_42 (dk_at dksX11_fall_0 5 rfl rfl)
theorem dX11_fall_6 : decode cX11_fall 6 = .ok (.iload_n 1, 1) := dk_27 (dk_at dksX11_fall_0 6 rfl rfl)
theorem dX11_fall_7 : decode cX11_fall 7 = .ok (.i2l, 1) := dk_133 (dk_at dksX11_fall_0 7 rfl rfl)
theorem dX11_fall_8 : decode cX11_fall 8 = .ok (.lconst 1, 1) := dk_10 (dk_at dksX11_fall_0 8 rfl rfl)
theorem dX11_fall_9 : decode cX11_fall 9 = .ok (.ldc2_w 377, 3) := dk_20 1 121 (dk_at dksX11_fall_0 9 rfl rfl)
theorem dX11_fall_12 : decode cX11_fall 12 = .ok (.invokestatic 352, 3) := dk_184 1 96 (dk_at dksX11_fall_0 12 rfl rfl)
theorem dX11_fall_15 : decode cX11_fall 15 = .ok (.iconst 1, 1) := dk_4 (dk_at dksX11_fall_0 15 rfl rfl)
theorem dX11_fall_16 : decode cX11_fall 16 = .ok (.iconst 1, 1) := dk_4 (dk_at dksX11_fall_0 16 rfl rfl)
theorem dX11_fall_17 : decode cX11_fall 17 = .ok (.invokevirtual 346, 3) := dk_182 1 90 (dk_at dksX11_fall_0 17 rfl rfl)
theorem dX11_fall_20 : decode cX11_fall 20 = .ok (.ifCond .eq 34, 3) := dk_153 0 34 (dk_at dksX11_fall_0 20 rfl rfl)
theorem dX11_fall_23 : decode cX11_fall 23 = .ok (.aload_n 0, 1) := dk_42 (dk_at dksX11_fall_0 23 rfl rfl)
theorem dX11_fall_24 : decode cX11_fall 24 = .ok (.aload_n 0, 1) := dk_42 (dk_at dksX11_fall_1 0 rfl rfl)
theorem dX11_fall_25 : decode cX11_fall 25 = .ok (.getfield 94, 3) := dk_180 0 94 (dk_at dksX11_fall_1 1 rfl rfl)
theorem dX11_fall_28 : decode cX11_fall 28 = .ok (.iload_n 1, 1) := dk_27 (dk_at dksX11_fall_1 4 rfl rfl)
theorem dX11_fall_29 : decode cX11_fall 29 = .ok (.iaload, 1) := dk_46 (dk_at dksX11_fall_1 5 rfl rfl)
theorem dX11_fall_30 : decode cX11_fall 30 = .ok (.ifCond .ne 7, 3) := dk_154 0 7 (dk_at dksX11_fall_1 6 rfl rfl)
theorem dX11_fall_33 : decode cX11_fall 33 = .ok (.iconst 1, 1) := dk_4 (dk_at dksX11_fall_1 9 rfl rfl)
theorem dX11_fall_34 : decode cX11_fall 34 = .ok (.goto 4, 3) := dk_167 0 4 (dk_at dksX11_fall_1 10 rfl rfl)
theorem dX11_fall_37 : decode cX11_fall 37 = .ok (.iconst 0, 1) := dk_3 (dk_at dksX11_fall_1 13 rfl rfl)
theorem dX11_fall_38 : decode cX11_fall 38 = .ok (.iconst 2, 1) := dk_5 (dk_at dksX11_fall_1 14 rfl rfl)
theorem dX11_fall_39 : decode cX11_fall 39 = .ok (.iconst 2, 1) := dk_5 (dk_at dksX11_fall_1 15 rfl rfl)
theorem dX11_fall_40 : decode cX11_fall 40 = .ok (.invokevirtual 346, 3) := dk_182 1 90 (dk_at dksX11_fall_1 16 rfl rfl)
theorem dX11_fall_43 : decode cX11_fall 43 = .ok (.ifCond .eq 11, 3) := dk_153 0 11 (dk_at dksX11_fall_1 19 rfl rfl)
theorem dX11_fall_46 : decode cX11_fall 46 = .ok (.aload_n 0, 1) := dk_42 (dk_at dksX11_fall_1 22 rfl rfl)
theorem dX11_fall_47 : decode cX11_fall 47 = .ok (.iconst 2, 1) := dk_5 (dk_at dksX11_fall_1 23 rfl rfl)
theorem dX11_fall_48 : decode cX11_fall 48 = .ok (.invokevirtual 365, 3) := dk_182 1 109 (dk_at dksX11_fall_2 0 rfl rfl)
theorem dX11_fall_51 : decode cX11_fall 51 = .ok (.ifCond .ne 5, 3) := dk_154 0 5 (dk_at dksX11_fall_2 3 rfl rfl)
theorem dX11_fall_54 : decode cX11_fall 54 = .ok (.iconst 0, 1) := dk_3 (dk_at dksX11_fall_2 6 rfl rfl)
theorem dX11_fall_55 : decode cX11_fall 55 = .ok (.ireturn, 1) := dk_172 (dk_at dksX11_fall_2 7 rfl rfl)
theorem dX11_fall_56 : decode cX11_fall 56 = .ok (.aload_n 0, 1) := dk_42 (dk_at dksX11_fall_2 8 rfl rfl)
theorem dX11_fall_57 : decode cX11_fall 57 = .ok (.bipush 7, 2) := dk_16 7 (dk_at dksX11_fall_2 9 rfl rfl)
theorem dX11_fall_59 : decode cX11_fall 59 = .ok (.iload_n 1, 1) := dk_27 (dk_at dksX11_fall_2 11 rfl rfl)
theorem dX11_fall_60 : decode cX11_fall 60 = .ok (.iconst 0, 1) := dk_3 (dk_at dksX11_fall_2 12 rfl rfl)
theorem dX11_fall_61 : decode cX11_fall 61 = .ok (.iconst 0, 1) := dk_3 (dk_at dksX11_fall_2 13 rfl rfl)
theorem dX11_fall_62 : decode cX11_fall 62 = .ok (.iconst 0, 1) := dk_3 (dk_at dksX11_fall_2 14 rfl rfl)
theorem dX11_fall_63 : decode cX11_fall 63 = .ok (.iconst (-1), 1) := dk_2 (dk_at dksX11_fall_2 15 rfl rfl)
theorem dX11_fall_64 : decode cX11_fall 64 = .ok (.invokevirtual 368, 3) := dk_182 1 112 (dk_at dksX11_fall_2 16 rfl rfl)
theorem dX11_fall_67 : decode cX11_fall 67 = .ok (.aload_n 0, 1) := dk_42 (dk_at dksX11_fall_2 19 rfl rfl)
theorem dX11_fall_68 : decode cX11_fall 68 = .ok (.aload_n 0, 1) := dk_42 (dk_at dksX11_fall_2 20 rfl rfl)
theorem dX11_fall_69 : decode cX11_fall 69 = .ok (.getfield 17, 3) := dk_180 0 17 (dk_at dksX11_fall_2 21 rfl rfl)
theorem dX11_fall_72 : decode cX11_fall 72 = .ok (.iconst 1, 1) := dk_4 (dk_at dksX11_fall_3 0 rfl rfl)
theorem dX11_fall_73 : decode cX11_fall 73 = .ok (.isub, 1) := dk_100 (dk_at dksX11_fall_3 1 rfl rfl)
theorem dX11_fall_74 : decode cX11_fall 74 = .ok (.invokevirtual 331, 3) := dk_182 1 75 (dk_at dksX11_fall_3 2 rfl rfl)
theorem dX11_fall_77 : decode cX11_fall 77 = .ok (.aload_n 0, 1) := dk_42 (dk_at dksX11_fall_3 5 rfl rfl)
theorem dX11_fall_78 : decode cX11_fall 78 = .ok (.iconst 2, 1) := dk_5 (dk_at dksX11_fall_3 6 rfl rfl)
theorem dX11_fall_79 : decode cX11_fall 79 = .ok (.invokevirtual 400, 3) := dk_182 1 144 (dk_at dksX11_fall_3 7 rfl rfl)
theorem dX11_fall_82 : decode cX11_fall 82 = .ok (.ireturn, 1) := dk_172 (dk_at dksX11_fall_3 10 rfl rfl)
abbrev cX11_back : ByteArray := prog_16_method_81_code
def yX11_back : MethodName := ⟨RX11, "back", "()I"⟩
def dkwX11_back_1 : List UInt8 := [42, 182, 1, 147, 42, 180, 0, 17, 172]
abbrev dktX11_back_1 : List UInt8 := dkwX11_back_1 ++ []
def dkwX11_back_0 : List UInt8 := [42, 3, 181, 0, 1, 42, 180, 0, 17, 154, 0, 5, 2, 172, 42, 89, 180, 0, 17, 4, 100, 181, 0, 17]
abbrev dktX11_back_0 : List UInt8 := dkwX11_back_0 ++ dktX11_back_1
theorem dksX11_back_0 : cX11_back.data.toList.drop 0 = dktX11_back_0 := by decide +kernel
theorem dksX11_back_1 : cX11_back.data.toList.drop 24 = dktX11_back_1 := dk_seg dksX11_back_0 24 rfl rfl
theorem dX11_back_0 : decode cX11_back 0 = .ok (.aload_n 0, 1) := dk_42 (dk_at dksX11_back_0 0 rfl rfl)
theorem dX11_back_1 : decode cX11_back 1 = .ok (.iconst 0, 1) := dk_3 (dk_at dksX11_back_0 1 rfl rfl)
theorem dX11_back_2 : decode cX11_back 2 = .ok (.putfield 1, 3) := dk_181 0 1 (dk_at dksX11_back_0 2 rfl rfl)
theorem dX11_back_5 : decode cX11_back 5 = .ok (.aload_n 0, 1) := dk_42 (dk_at dksX11_back_0 5 rfl rfl)
theorem dX11_back_6 : decode cX11_back 6 = .ok (.getfield 17, 3) := dk_180 0 17 (dk_at dksX11_back_0 6 rfl rfl)
theorem dX11_back_9 : decode cX11_back 9 = .ok (.ifCond .ne 5, 3) := dk_154 0 5 (dk_at dksX11_back_0 9 rfl rfl)
theorem dX11_back_12 : decode cX11_back 12 = .ok (.iconst (-1), 1) := dk_2 (dk_at dksX11_back_0 12 rfl rfl)
theorem dX11_back_13 : decode cX11_back 13 = .ok (.ireturn, 1) := dk_172 (dk_at dksX11_back_0 13 rfl rfl)
theorem dX11_back_14 : decode cX11_back 14 = .ok (.aload_n 0, 1) := dk_42 (dk_at dksX11_back_0 14 rfl rfl)
theorem dX11_back_15 : decode cX11_back 15 = .ok (.dup, 1) := dk_89 (dk_at dksX11_back_0 15 rfl rfl)
theorem dX11_back_16 : decode cX11_back 16 = .ok (.getfield 17, 3) := dk_180 0 17 (dk_at dksX11_back_0 16 rfl rfl)
theorem dX11_back_19 : decode cX11_back 19 = .ok (.iconst 1, 1) := dk_4 (dk_at dksX11_back_0 19 rfl rfl)
theorem dX11_back_20 : decode cX11_back 20 = .ok (.isub, 1) := dk_100 (dk_at dksX11_back_0 20 rfl rfl)
theorem dX11_back_21 : decode cX11_back 21 = .ok (.putfield 17, 3) := dk_181 0 17 (dk_at dksX11_back_0 21 rfl rfl)
theorem dX11_back_24 : decode cX11_back 24 = .ok (.aload_n 0, 1) := dk_42 (dk_at dksX11_back_1 0 rfl rfl)
theorem dX11_back_25 : decode cX11_back 25 = .ok (.invokevirtual 403, 3) := dk_182 1 147 (dk_at dksX11_back_1 1 rfl rfl)
theorem dX11_back_28 : decode cX11_back 28 = .ok (.aload_n 0, 1) := dk_42 (dk_at dksX11_back_1 4 rfl rfl)
theorem dX11_back_29 : decode cX11_back 29 = .ok (.getfield 17, 3) := dk_180 0 17 (dk_at dksX11_back_1 5 rfl rfl)
theorem dX11_back_32 : decode cX11_back 32 = .ok (.ireturn, 1) := dk_172 (dk_at dksX11_back_1 8 rfl rfl)
abbrev cX11_goesOver : ByteArray := prog_16_method_61_code
def yX11_goesOver : MethodName := ⟨RX11, "goesOver", "()V"⟩
def dkwX11_goesOver_1 : List UInt8 := [167, 255, 240, 177]
abbrev dktX11_goesOver_1 : List UInt8 := dkwX11_goesOver_1 ++ []
def dkwX11_goesOver_0 : List UInt8 := [42, 182, 1, 84, 3, 60, 27, 42, 180, 0, 17, 162, 0, 14, 42, 27, 182, 1, 87, 132, 1, 1]
abbrev dktX11_goesOver_0 : List UInt8 := dkwX11_goesOver_0 ++ dktX11_goesOver_1
theorem dksX11_goesOver_0 : cX11_goesOver.data.toList.drop 0 = dktX11_goesOver_0 := by decide +kernel
theorem dksX11_goesOver_1 : cX11_goesOver.data.toList.drop 22 = dktX11_goesOver_1 := dk_seg dksX11_goesOver_0 22 rfl rfl
theorem dX11_goesOver_0 : decode cX11_goesOver 0 = .ok (.aload_n 0, 1) := dk_42 (dk_at dksX11_goesOver_0 0 rfl rfl)
theorem dX11_goesOver_1 : decode cX11_goesOver 1 = .ok (.invokevirtual 340, 3) := dk_182 1 84 (dk_at dksX11_goesOver_0 1 rfl rfl)
theorem dX11_goesOver_4 : decode cX11_goesOver 4 = .ok (.iconst 0, 1) := dk_3 (dk_at dksX11_goesOver_0 4 rfl rfl)
theorem dX11_goesOver_5 : decode cX11_goesOver 5 = .ok (.istore_n 1, 1) := dk_60 (dk_at dksX11_goesOver_0 5 rfl rfl)
theorem dX11_goesOver_6 : decode cX11_goesOver 6 = .ok (.iload_n 1, 1) := dk_27 (dk_at dksX11_goesOver_0 6 rfl rfl)
theorem dX11_goesOver_7 : decode cX11_goesOver 7 = .ok (.aload_n 0, 1) := dk_42 (dk_at dksX11_goesOver_0 7 rfl rfl)
theorem dX11_goesOver_8 : decode cX11_goesOver 8 = .ok (.getfield 17, 3) := dk_180 0 17 (dk_at dksX11_goesOver_0 8 rfl rfl)
theorem dX11_goesOver_11 : decode cX11_goesOver 11 = .ok (.if_icmp .ge 14, 3) := dk_162 0 14 (dk_at dksX11_goesOver_0 11 rfl rfl)
theorem dX11_goesOver_14 : decode cX11_goesOver 14 = .ok (.aload_n 0, 1) := dk_42 (dk_at dksX11_goesOver_0 14 rfl rfl)
theorem dX11_goesOver_15 : decode cX11_goesOver 15 = .ok (.iload_n 1, 1) := dk_27 (dk_at dksX11_goesOver_0 15 rfl rfl)
theorem dX11_goesOver_16 : decode cX11_goesOver 16 = .ok (.invokevirtual 343, 3) := dk_182 1 87 (dk_at dksX11_goesOver_0 16 rfl rfl)
theorem dX11_goesOver_19 : decode cX11_goesOver 19 = .ok (.iinc 1 1, 3) := dk_132 1 1 (dk_at dksX11_goesOver_0 19 rfl rfl)
theorem dX11_goesOver_22 : decode cX11_goesOver 22 = .ok (.goto (-16), 3) := dk_167 255 240 (dk_at dksX11_goesOver_1 0 rfl rfl)
theorem dX11_goesOver_25 : decode cX11_goesOver 25 = .ok (.return_, 1) := dk_177 (dk_at dksX11_goesOver_1 3 rfl rfl)
abbrev cX11_begins : ByteArray := prog_16_method_60_code
def yX11_begins : MethodName := ⟨RX11, "begins", "()V"⟩
def dkwX11_begins_0 : List UInt8 := [42, 182, 1, 81, 42, 3, 181, 1, 78, 177]
abbrev dktX11_begins_0 : List UInt8 := dkwX11_begins_0 ++ []
theorem dksX11_begins_0 : cX11_begins.data.toList.drop 0 = dktX11_begins_0 := by decide +kernel
theorem dX11_begins_0 : decode cX11_begins 0 = .ok (.aload_n 0, 1) := dk_42 (dk_at dksX11_begins_0 0 rfl rfl)
theorem dX11_begins_1 : decode cX11_begins 1 = .ok (.invokevirtual 337, 3) := dk_182 1 81 (dk_at dksX11_begins_0 1 rfl rfl)
theorem dX11_begins_4 : decode cX11_begins 4 = .ok (.aload_n 0, 1) := dk_42 (dk_at dksX11_begins_0 4 rfl rfl)
theorem dX11_begins_5 : decode cX11_begins 5 = .ok (.iconst 0, 1) := dk_3 (dk_at dksX11_begins_0 5 rfl rfl)
theorem dX11_begins_6 : decode cX11_begins 6 = .ok (.putfield 334, 3) := dk_181 1 78 (dk_at dksX11_begins_0 6 rfl rfl)
theorem dX11_begins_9 : decode cX11_begins 9 = .ok (.return_, 1) := dk_177 (dk_at dksX11_begins_0 9 rfl rfl)
abbrev cX11_clears : ByteArray := prog_16_method_10_code
def yX11_clears : MethodName := ⟨RX11, "clears", "()V"⟩
def dkwX11_clears_6 : List UInt8 := [42, 3, 181, 0, 158, 177]
abbrev dktX11_clears_6 : List UInt8 := dkwX11_clears_6 ++ []
def dkwX11_clears_5 : List UInt8 := [27, 3, 79, 132, 1, 1, 167, 255, 240, 42, 3, 181, 0, 149, 42, 3, 181, 0, 152, 42, 3, 181, 0, 155]
abbrev dktX11_clears_5 : List UInt8 := dkwX11_clears_5 ++ dktX11_clears_6
def dkwX11_clears_4 : List UInt8 := [180, 0, 97, 27, 3, 79, 132, 1, 1, 167, 255, 233, 3, 60, 27, 16, 12, 162, 0, 16, 42, 180, 0, 103]
abbrev dktX11_clears_4 : List UInt8 := dkwX11_clears_4 ++ dktX11_clears_5
def dkwX11_clears_3 : List UInt8 := [132, 1, 1, 167, 255, 221, 3, 60, 27, 16, 10, 162, 0, 23, 42, 180, 0, 94, 27, 3, 79, 42]
abbrev dktX11_clears_3 : List UInt8 := dkwX11_clears_3 ++ dktX11_clears_4
def dkwX11_clears_2 : List UInt8 := [27, 3, 84, 42, 180, 0, 70, 27, 3, 79, 42, 180, 0, 73, 27, 9, 80, 42, 27, 182, 0, 145]
abbrev dktX11_clears_2 : List UInt8 := dkwX11_clears_2 ++ dktX11_clears_3
def dkwX11_clears_1 : List UInt8 := [180, 0, 57, 27, 9, 80, 132, 1, 1, 167, 255, 226, 3, 60, 27, 16, 24, 163, 0, 35, 42, 180, 0, 33]
abbrev dktX11_clears_1 : List UInt8 := dkwX11_clears_1 ++ dktX11_clears_2
def dkwX11_clears_0 : List UInt8 := [3, 60, 27, 16, 40, 162, 0, 30, 42, 180, 0, 29, 27, 3, 84, 42, 180, 0, 48, 27, 3, 79, 42]
abbrev dktX11_clears_0 : List UInt8 := dkwX11_clears_0 ++ dktX11_clears_1
theorem dksX11_clears_0 : cX11_clears.data.toList.drop 0 = dktX11_clears_0 := by decide +kernel
theorem dksX11_clears_1 : cX11_clears.data.toList.drop 23 = dktX11_clears_1 := dk_seg dksX11_clears_0 23 rfl rfl
theorem dksX11_clears_2 : cX11_clears.data.toList.drop 47 = dktX11_clears_2 := dk_seg dksX11_clears_1 24 rfl rfl
theorem dksX11_clears_3 : cX11_clears.data.toList.drop 69 = dktX11_clears_3 := dk_seg dksX11_clears_2 22 rfl rfl
theorem dksX11_clears_4 : cX11_clears.data.toList.drop 91 = dktX11_clears_4 := dk_seg dksX11_clears_3 22 rfl rfl
theorem dksX11_clears_5 : cX11_clears.data.toList.drop 115 = dktX11_clears_5 := dk_seg dksX11_clears_4 24 rfl rfl
theorem dksX11_clears_6 : cX11_clears.data.toList.drop 139 = dktX11_clears_6 := dk_seg dksX11_clears_5 24 rfl rfl
theorem dX11_clears_0 : decode cX11_clears 0 = .ok (.iconst 0, 1) := dk_3 (dk_at dksX11_clears_0 0 rfl rfl)
theorem dX11_clears_1 : decode cX11_clears 1 = .ok (.istore_n 1, 1) := dk_60 (dk_at dksX11_clears_0 1 rfl rfl)
theorem dX11_clears_2 : decode cX11_clears 2 = .ok (.iload_n 1, 1) := dk_27 (dk_at dksX11_clears_0 2 rfl rfl)
theorem dX11_clears_3 : decode cX11_clears 3 = .ok (.bipush 40, 2) := dk_16 40 (dk_at dksX11_clears_0 3 rfl rfl)
theorem dX11_clears_5 : decode cX11_clears 5 = .ok (.if_icmp .ge 30, 3) := dk_162 0 30 (dk_at dksX11_clears_0 5 rfl rfl)
theorem dX11_clears_8 : decode cX11_clears 8 = .ok (.aload_n 0, 1) := dk_42 (dk_at dksX11_clears_0 8 rfl rfl)
theorem dX11_clears_9 : decode cX11_clears 9 = .ok (.getfield 29, 3) := dk_180 0 29 (dk_at dksX11_clears_0 9 rfl rfl)
theorem dX11_clears_12 : decode cX11_clears 12 = .ok (.iload_n 1, 1) := dk_27 (dk_at dksX11_clears_0 12 rfl rfl)
theorem dX11_clears_13 : decode cX11_clears 13 = .ok (.iconst 0, 1) := dk_3 (dk_at dksX11_clears_0 13 rfl rfl)
theorem dX11_clears_14 : decode cX11_clears 14 = .ok (.bastore, 1) := dk_84 (dk_at dksX11_clears_0 14 rfl rfl)
theorem dX11_clears_15 : decode cX11_clears 15 = .ok (.aload_n 0, 1) := dk_42 (dk_at dksX11_clears_0 15 rfl rfl)
theorem dX11_clears_16 : decode cX11_clears 16 = .ok (.getfield 48, 3) := dk_180 0 48 (dk_at dksX11_clears_0 16 rfl rfl)
theorem dX11_clears_19 : decode cX11_clears 19 = .ok (.iload_n 1, 1) := dk_27 (dk_at dksX11_clears_0 19 rfl rfl)
theorem dX11_clears_20 : decode cX11_clears 20 = .ok (.iconst 0, 1) := dk_3 (dk_at dksX11_clears_0 20 rfl rfl)
theorem dX11_clears_21 : decode cX11_clears 21 = .ok (.iastore, 1) := dk_79 (dk_at dksX11_clears_0 21 rfl rfl)
theorem dX11_clears_22 : decode cX11_clears 22 = .ok (.aload_n 0, 1) := dk_42 (dk_at dksX11_clears_0 22 rfl rfl)
theorem dX11_clears_23 : decode cX11_clears 23 = .ok (.getfield 57, 3) := dk_180 0 57 (dk_at dksX11_clears_1 0 rfl rfl)
theorem dX11_clears_26 : decode cX11_clears 26 = .ok (.iload_n 1, 1) := dk_27 (dk_at dksX11_clears_1 3 rfl rfl)
theorem dX11_clears_27 : decode cX11_clears 27 = .ok (.lconst 0, 1) := dk_9 (dk_at dksX11_clears_1 4 rfl rfl)
theorem dX11_clears_28 : decode cX11_clears 28 = .ok (.lastore, 1) := dk_80 (dk_at dksX11_clears_1 5 rfl rfl)
theorem dX11_clears_29 : decode cX11_clears 29 = .ok (.iinc 1 1, 3) := dk_132 1 1 (dk_at dksX11_clears_1 6 rfl rfl)
theorem dX11_clears_32 : decode cX11_clears 32 = .ok (.goto (-30), 3) := dk_167 255 226 (dk_at dksX11_clears_1 9 rfl rfl)
theorem dX11_clears_35 : decode cX11_clears 35 = .ok (.iconst 0, 1) := dk_3 (dk_at dksX11_clears_1 12 rfl rfl)
theorem dX11_clears_36 : decode cX11_clears 36 = .ok (.istore_n 1, 1) := dk_60 (dk_at dksX11_clears_1 13 rfl rfl)
theorem dX11_clears_37 : decode cX11_clears 37 = .ok (.iload_n 1, 1) := dk_27 (dk_at dksX11_clears_1 14 rfl rfl)
theorem dX11_clears_38 : decode cX11_clears 38 = .ok (.bipush 24, 2) := dk_16 24 (dk_at dksX11_clears_1 15 rfl rfl)
theorem dX11_clears_40 : decode cX11_clears 40 = .ok (.if_icmp .gt 35, 3) := dk_163 0 35 (dk_at dksX11_clears_1 17 rfl rfl)
theorem dX11_clears_43 : decode cX11_clears 43 = .ok (.aload_n 0, 1) := dk_42 (dk_at dksX11_clears_1 20 rfl rfl)
theorem dX11_clears_44 : decode cX11_clears 44 = .ok (.getfield 33, 3) := dk_180 0 33 (dk_at dksX11_clears_1 21 rfl rfl)
theorem dX11_clears_47 : decode cX11_clears 47 = .ok (.iload_n 1, 1) := dk_27 (dk_at dksX11_clears_2 0 rfl rfl)
theorem dX11_clears_48 : decode cX11_clears 48 = .ok (.iconst 0, 1) := dk_3 (dk_at dksX11_clears_2 1 rfl rfl)
theorem dX11_clears_49 : decode cX11_clears 49 = .ok (.bastore, 1) := dk_84 (dk_at dksX11_clears_2 2 rfl rfl)
theorem dX11_clears_50 : decode cX11_clears 50 = .ok (.aload_n 0, 1) := dk_42 (dk_at dksX11_clears_2 3 rfl rfl)
theorem dX11_clears_51 : decode cX11_clears 51 = .ok (.getfield 70, 3) := dk_180 0 70 (dk_at dksX11_clears_2 4 rfl rfl)
theorem dX11_clears_54 : decode cX11_clears 54 = .ok (.iload_n 1, 1) := dk_27 (dk_at dksX11_clears_2 7 rfl rfl)
theorem dX11_clears_55 : decode cX11_clears 55 = .ok (.iconst 0, 1) := dk_3 (dk_at dksX11_clears_2 8 rfl rfl)
theorem dX11_clears_56 : decode cX11_clears 56 = .ok (.iastore, 1) := dk_79 (dk_at dksX11_clears_2 9 rfl rfl)
theorem dX11_clears_57 : decode cX11_clears 57 = .ok (.aload_n 0, 1) := dk_42 (dk_at dksX11_clears_2 10 rfl rfl)
theorem dX11_clears_58 : decode cX11_clears 58 = .ok (.getfield 73, 3) := dk_180 0 73 (dk_at dksX11_clears_2 11 rfl rfl)
theorem dX11_clears_61 : decode cX11_clears 61 = .ok (.iload_n 1, 1) := dk_27 (dk_at dksX11_clears_2 14 rfl rfl)
theorem dX11_clears_62 : decode cX11_clears 62 = .ok (.lconst 0, 1) := dk_9 (dk_at dksX11_clears_2 15 rfl rfl)
theorem dX11_clears_63 : decode cX11_clears 63 = .ok (.lastore, 1) := dk_80 (dk_at dksX11_clears_2 16 rfl rfl)
theorem dX11_clears_64 : decode cX11_clears 64 = .ok (.aload_n 0, 1) := dk_42 (dk_at dksX11_clears_2 17 rfl rfl)
theorem dX11_clears_65 : decode cX11_clears 65 = .ok (.iload_n 1, 1) := dk_27 (dk_at dksX11_clears_2 18 rfl rfl)
theorem dX11_clears_66 : decode cX11_clears 66 = .ok (.invokevirtual 145, 3) := dk_182 0 145 (dk_at dksX11_clears_2 19 rfl rfl)
theorem dX11_clears_69 : decode cX11_clears 69 = .ok (.iinc 1 1, 3) := dk_132 1 1 (dk_at dksX11_clears_3 0 rfl rfl)
theorem dX11_clears_72 : decode cX11_clears 72 = .ok (.goto (-35), 3) := dk_167 255 221 (dk_at dksX11_clears_3 3 rfl rfl)
theorem dX11_clears_75 : decode cX11_clears 75 = .ok (.iconst 0, 1) := dk_3 (dk_at dksX11_clears_3 6 rfl rfl)
theorem dX11_clears_76 : decode cX11_clears 76 = .ok (.istore_n 1, 1) := dk_60 (dk_at dksX11_clears_3 7 rfl rfl)
theorem dX11_clears_77 : decode cX11_clears 77 = .ok (.iload_n 1, 1) := dk_27 (dk_at dksX11_clears_3 8 rfl rfl)
theorem dX11_clears_78 : decode cX11_clears 78 = .ok (.bipush 10, 2) := dk_16 10 (dk_at dksX11_clears_3 9 rfl rfl)
theorem dX11_clears_80 : decode cX11_clears 80 = .ok (.if_icmp .ge 23, 3) := dk_162 0 23 (dk_at dksX11_clears_3 11 rfl rfl)
theorem dX11_clears_83 : decode cX11_clears 83 = .ok (.aload_n 0, 1) := dk_42 (dk_at dksX11_clears_3 14 rfl rfl)
theorem dX11_clears_84 : decode cX11_clears 84 = .ok (.getfield 94, 3) := dk_180 0 94 (dk_at dksX11_clears_3 15 rfl rfl)
theorem dX11_clears_87 : decode cX11_clears 87 = .ok (.iload_n 1, 1) := dk_27 (dk_at dksX11_clears_3 18 rfl rfl)
theorem dX11_clears_88 : decode cX11_clears 88 = .ok (.iconst 0, 1) := dk_3 (dk_at dksX11_clears_3 19 rfl rfl)
theorem dX11_clears_89 : decode cX11_clears 89 = .ok (.iastore, 1) := dk_79 (dk_at dksX11_clears_3 20 rfl rfl)
theorem dX11_clears_90 : decode cX11_clears 90 = .ok (.aload_n 0, 1) := dk_42 (dk_at dksX11_clears_3 21 rfl rfl)
theorem dX11_clears_91 : decode cX11_clears 91 = .ok (.getfield 97, 3) := dk_180 0 97 (dk_at dksX11_clears_4 0 rfl rfl)
theorem dX11_clears_94 : decode cX11_clears 94 = .ok (.iload_n 1, 1) := dk_27 (dk_at dksX11_clears_4 3 rfl rfl)
theorem dX11_clears_95 : decode cX11_clears 95 = .ok (.iconst 0, 1) := dk_3 (dk_at dksX11_clears_4 4 rfl rfl)
theorem dX11_clears_96 : decode cX11_clears 96 = .ok (.iastore, 1) := dk_79 (dk_at dksX11_clears_4 5 rfl rfl)
theorem dX11_clears_97 : decode cX11_clears 97 = .ok (.iinc 1 1, 3) := dk_132 1 1 (dk_at dksX11_clears_4 6 rfl rfl)
theorem dX11_clears_100 : decode cX11_clears 100 = .ok (.goto (-23), 3) := dk_167 255 233 (dk_at dksX11_clears_4 9 rfl rfl)
theorem dX11_clears_103 : decode cX11_clears 103 = .ok (.iconst 0, 1) := dk_3 (dk_at dksX11_clears_4 12 rfl rfl)
theorem dX11_clears_104 : decode cX11_clears 104 = .ok (.istore_n 1, 1) := dk_60 (dk_at dksX11_clears_4 13 rfl rfl)
theorem dX11_clears_105 : decode cX11_clears 105 = .ok (.iload_n 1, 1) := dk_27 (dk_at dksX11_clears_4 14 rfl rfl)
theorem dX11_clears_106 : decode cX11_clears 106 = .ok (.bipush 12, 2) := dk_16 12 (dk_at dksX11_clears_4 15 rfl rfl)
theorem dX11_clears_108 : decode cX11_clears 108 = .ok (.if_icmp .ge 16, 3) := dk_162 0 16 (dk_at dksX11_clears_4 17 rfl rfl)
theorem dX11_clears_111 : decode cX11_clears 111 = .ok (.aload_n 0, 1) := dk_42 (dk_at dksX11_clears_4 20 rfl rfl)
theorem dX11_clears_112 : decode cX11_clears 112 = .ok (.getfield 103, 3) := dk_180 0 103 (dk_at dksX11_clears_4 21 rfl rfl)
theorem dX11_clears_115 : decode cX11_clears 115 = .ok (.iload_n 1, 1) := dk_27 (dk_at dksX11_clears_5 0 rfl rfl)
theorem dX11_clears_116 : decode cX11_clears 116 = .ok (.iconst 0, 1) := dk_3 (dk_at dksX11_clears_5 1 rfl rfl)
theorem dX11_clears_117 : decode cX11_clears 117 = .ok (.iastore, 1) := dk_79 (dk_at dksX11_clears_5 2 rfl rfl)
theorem dX11_clears_118 : decode cX11_clears 118 = .ok (.iinc 1 1, 3) := dk_132 1 1 (dk_at dksX11_clears_5 3 rfl rfl)
theorem dX11_clears_121 : decode cX11_clears 121 = .ok (.goto (-16), 3) := dk_167 255 240 (dk_at dksX11_clears_5 6 rfl rfl)
theorem dX11_clears_124 : decode cX11_clears 124 = .ok (.aload_n 0, 1) := dk_42 (dk_at dksX11_clears_5 9 rfl rfl)
theorem dX11_clears_125 : decode cX11_clears 125 = .ok (.iconst 0, 1) := dk_3 (dk_at dksX11_clears_5 10 rfl rfl)
theorem dX11_clears_126 : decode cX11_clears 126 = .ok (.putfield 149, 3) := dk_181 0 149 (dk_at dksX11_clears_5 11 rfl rfl)
theorem dX11_clears_129 : decode cX11_clears 129 = .ok (.aload_n 0, 1) := dk_42 (dk_at dksX11_clears_5 14 rfl rfl)
theorem dX11_clears_130 : decode cX11_clears 130 = .ok (.iconst 0, 1) := dk_3 (dk_at dksX11_clears_5 15 rfl rfl)
theorem dX11_clears_131 : decode cX11_clears 131 = .ok (.putfield 152, 3) := dk_181 0 152 (dk_at dksX11_clears_5 16 rfl rfl)
theorem dX11_clears_134 : decode cX11_clears 134 = .ok (.aload_n 0, 1) := dk_42 (dk_at dksX11_clears_5 19 rfl rfl)
theorem dX11_clears_135 : decode cX11_clears 135 = .ok (.iconst 0, 1) := dk_3 (dk_at dksX11_clears_5 20 rfl rfl)
theorem dX11_clears_136 : decode cX11_clears 136 = .ok (.putfield 155, 3) := dk_181 0 155 (dk_at dksX11_clears_5 21 rfl rfl)
theorem dX11_clears_139 : decode cX11_clears 139 = .ok (.aload_n 0, 1) := dk_42 (dk_at dksX11_clears_6 0 rfl rfl)
theorem dX11_clears_140 : decode cX11_clears 140 = .ok (.iconst 0, 1) := dk_3 (dk_at dksX11_clears_6 1 rfl rfl)
theorem dX11_clears_141 : decode cX11_clears 141 = .ok (.putfield 158, 3) := dk_181 0 158 (dk_at dksX11_clears_6 2 rfl rfl)
theorem dX11_clears_144 : decode cX11_clears 144 = .ok (.return_, 1) := dk_177 (dk_at dksX11_clears_6 5 rfl rfl)
abbrev cX11_goes : ByteArray := prog_16_method_59_code
def yX11_goes : MethodName := ⟨RX11, "goes", "(I)V"⟩
def dkwX11_goes_1 : List UInt8 := [181, 1, 78, 177]
abbrev dktX11_goes_1 : List UInt8 := dkwX11_goes_1 ++ []
def dkwX11_goes_0 : List UInt8 := [42, 27, 182, 1, 72, 153, 0, 11, 42, 27, 182, 1, 75, 167, 0, 13, 42, 89, 180, 1, 78, 4, 96]
abbrev dktX11_goes_0 : List UInt8 := dkwX11_goes_0 ++ dktX11_goes_1
theorem dksX11_goes_0 : cX11_goes.data.toList.drop 0 = dktX11_goes_0 := by decide +kernel
theorem dksX11_goes_1 : cX11_goes.data.toList.drop 23 = dktX11_goes_1 := dk_seg dksX11_goes_0 23 rfl rfl
theorem dX11_goes_0 : decode cX11_goes 0 = .ok (.aload_n 0, 1) := dk_42 (dk_at dksX11_goes_0 0 rfl rfl)
theorem dX11_goes_1 : decode cX11_goes 1 = .ok (.iload_n 1, 1) := dk_27 (dk_at dksX11_goes_0 1 rfl rfl)
theorem dX11_goes_2 : decode cX11_goes 2 = .ok (.invokevirtual 328, 3) := dk_182 1 72 (dk_at dksX11_goes_0 2 rfl rfl)
theorem dX11_goes_5 : decode cX11_goes 5 = .ok (.ifCond .eq 11, 3) := dk_153 0 11 (dk_at dksX11_goes_0 5 rfl rfl)
theorem dX11_goes_8 : decode cX11_goes 8 = .ok (.aload_n 0, 1) := dk_42 (dk_at dksX11_goes_0 8 rfl rfl)
theorem dX11_goes_9 : decode cX11_goes 9 = .ok (.iload_n 1, 1) := dk_27 (dk_at dksX11_goes_0 9 rfl rfl)
theorem dX11_goes_10 : decode cX11_goes 10 = .ok (.invokevirtual 331, 3) := dk_182 1 75 (dk_at dksX11_goes_0 10 rfl rfl)
theorem dX11_goes_13 : decode cX11_goes 13 = .ok (.goto 13, 3) := dk_167 0 13 (dk_at dksX11_goes_0 13 rfl rfl)
theorem dX11_goes_16 : decode cX11_goes 16 = .ok (.aload_n 0, 1) := dk_42 (dk_at dksX11_goes_0 16 rfl rfl)
theorem dX11_goes_17 : decode cX11_goes 17 = .ok (.dup, 1) := dk_89 (dk_at dksX11_goes_0 17 rfl rfl)
theorem dX11_goes_18 : decode cX11_goes 18 = .ok (.getfield 334, 3) := dk_180 1 78 (dk_at dksX11_goes_0 18 rfl rfl)
theorem dX11_goes_21 : decode cX11_goes 21 = .ok (.iconst 1, 1) := dk_4 (dk_at dksX11_goes_0 21 rfl rfl)
theorem dX11_goes_22 : decode cX11_goes 22 = .ok (.iadd, 1) := dk_96 (dk_at dksX11_goes_0 22 rfl rfl)
theorem dX11_goes_23 : decode cX11_goes 23 = .ok (.putfield 334, 3) := dk_181 1 78 (dk_at dksX11_goes_1 0 rfl rfl)
theorem dX11_goes_26 : decode cX11_goes 26 = .ok (.return_, 1) := dk_177 (dk_at dksX11_goes_1 3 rfl rfl)
abbrev cX11_can : ByteArray := prog_16_method_51_code
def yX11_can : MethodName := ⟨RX11, "can", "(I)Z"⟩
def dkwX11_can_6 : List UInt8 := [3, 182, 1, 33, 46, 154, 0, 7, 4, 167, 0, 4, 3, 172, 4, 172]
abbrev dktX11_can_6 : List UInt8 := dkwX11_can_6 ++ []
def dkwX11_can_5 : List UInt8 := [4, 167, 0, 4, 3, 172, 42, 180, 0, 33, 42, 27, 3, 182, 1, 33, 51, 172, 42, 180, 0, 94, 42, 27]
abbrev dktX11_can_5 : List UInt8 := dkwX11_can_5 ++ dktX11_can_6
def dkwX11_can_4 : List UInt8 := [27, 3, 182, 1, 33, 182, 0, 201, 154, 0, 20, 42, 42, 27, 3, 182, 1, 33, 182, 0, 205, 153, 0, 7]
abbrev dktX11_can_4 : List UInt8 := dkwX11_can_4 ++ dktX11_can_5
def dkwX11_can_3 : List UInt8 := [42, 27, 3, 182, 1, 33, 42, 27, 4, 182, 1, 33, 42, 27, 5, 182, 1, 33, 182, 1, 40, 172, 42, 42]
abbrev dktX11_can_3 : List UInt8 := dkwX11_can_3 ++ dktX11_can_4
def dkwX11_can_2 : List UInt8 := [42, 42, 27, 3, 182, 1, 33, 42, 27, 4, 182, 1, 33, 42, 27, 5, 182, 1, 33, 182, 1, 36, 172, 42]
abbrev dktX11_can_2 : List UInt8 := dkwX11_can_2 ++ dktX11_can_3
def dkwX11_can_1 : List UInt8 := [170, 0, 0, 0, 0, 160, 0, 0, 0, 0, 0, 0, 0, 8, 0, 0, 0, 50, 0, 0, 0, 73, 0, 0, 0, 96, 0, 0, 0, 160, 0, 0, 0, 160, 0, 0, 0, 128, 0, 0, 0, 140, 0, 0, 0, 140, 0, 0, 0, 128]
abbrev dktX11_can_1 : List UInt8 := dkwX11_can_1 ++ dktX11_can_2
def dkwX11_can_0 : List UInt8 := [42, 180, 0, 14, 27, 46]
abbrev dktX11_can_0 : List UInt8 := dkwX11_can_0 ++ dktX11_can_1
theorem dksX11_can_0 : cX11_can.data.toList.drop 0 = dktX11_can_0 := by decide +kernel
theorem dksX11_can_1 : cX11_can.data.toList.drop 6 = dktX11_can_1 := dk_seg dksX11_can_0 6 rfl rfl
theorem dksX11_can_2 : cX11_can.data.toList.drop 56 = dktX11_can_2 := dk_seg dksX11_can_1 50 rfl rfl
theorem dksX11_can_3 : cX11_can.data.toList.drop 80 = dktX11_can_3 := dk_seg dksX11_can_2 24 rfl rfl
theorem dksX11_can_4 : cX11_can.data.toList.drop 104 = dktX11_can_4 := dk_seg dksX11_can_3 24 rfl rfl
theorem dksX11_can_5 : cX11_can.data.toList.drop 128 = dktX11_can_5 := dk_seg dksX11_can_4 24 rfl rfl
theorem dksX11_can_6 : cX11_can.data.toList.drop 152 = dktX11_can_6 := dk_seg dksX11_can_5 24 rfl rfl
theorem dX11_can_0 : decode cX11_can 0 = .ok (.aload_n 0, 1) := dk_42 (dk_at dksX11_can_0 0 rfl rfl)
theorem dX11_can_1 : decode cX11_can 1 = .ok (.getfield 14, 3) := dk_180 0 14 (dk_at dksX11_can_0 1 rfl rfl)
theorem dX11_can_4 : decode cX11_can 4 = .ok (.iload_n 1, 1) := dk_27 (dk_at dksX11_can_0 4 rfl rfl)
theorem dX11_can_5 : decode cX11_can 5 = .ok (.iaload, 1) := dk_46 (dk_at dksX11_can_0 5 rfl rfl)
theorem dX11_can_6 : decode cX11_can 6 = .ok (.tableswitch 160 0 8 #[50, 73, 96, 160, 160, 128, 140, 140, 128], 50) := by decide +kernel
theorem dX11_can_56 : decode cX11_can 56 = .ok (.aload_n 0, 1) := dk_42 (dk_at dksX11_can_2 0 rfl rfl)
theorem dX11_can_57 : decode cX11_can 57 = .ok (.aload_n 0, 1) := dk_42 (dk_at dksX11_can_2 1 rfl rfl)
theorem dX11_can_58 : decode cX11_can 58 = .ok (.iload_n 1, 1) := dk_27 (dk_at dksX11_can_2 2 rfl rfl)
theorem dX11_can_59 : decode cX11_can 59 = .ok (.iconst 0, 1) := dk_3 (dk_at dksX11_can_2 3 rfl rfl)
theorem dX11_can_60 : decode cX11_can 60 = .ok (.invokevirtual 289, 3) := dk_182 1 33 (dk_at dksX11_can_2 4 rfl rfl)
theorem dX11_can_63 : decode cX11_can 63 = .ok (.aload_n 0, 1) := dk_42 (dk_at dksX11_can_2 7 rfl rfl)
theorem dX11_can_64 : decode cX11_can 64 = .ok (.iload_n 1, 1) := dk_27 (dk_at dksX11_can_2 8 rfl rfl)
theorem dX11_can_65 : decode cX11_can 65 = .ok (.iconst 1, 1) := dk_4 (dk_at dksX11_can_2 9 rfl rfl)
theorem dX11_can_66 : decode cX11_can 66 = .ok (.invokevirtual 289, 3) := dk_182 1 33 (dk_at dksX11_can_2 10 rfl rfl)
theorem dX11_can_69 : decode cX11_can 69 = .ok (.aload_n 0, 1) := dk_42 (dk_at dksX11_can_2 13 rfl rfl)
theorem dX11_can_70 : decode cX11_can 70 = .ok (.iload_n 1, 1) := dk_27 (dk_at dksX11_can_2 14 rfl rfl)
theorem dX11_can_71 : decode cX11_can 71 = .ok (.iconst 2, 1) := dk_5 (dk_at dksX11_can_2 15 rfl rfl)
theorem dX11_can_72 : decode cX11_can 72 = .ok (.invokevirtual 289, 3) := dk_182 1 33 (dk_at dksX11_can_2 16 rfl rfl)
theorem dX11_can_75 : decode cX11_can 75 = .ok (.invokevirtual 292, 3) := dk_182 1 36 (dk_at dksX11_can_2 19 rfl rfl)
theorem dX11_can_78 : decode cX11_can 78 = .ok (.ireturn, 1) := dk_172 (dk_at dksX11_can_2 22 rfl rfl)
theorem dX11_can_79 : decode cX11_can 79 = .ok (.aload_n 0, 1) := dk_42 (dk_at dksX11_can_2 23 rfl rfl)
theorem dX11_can_80 : decode cX11_can 80 = .ok (.aload_n 0, 1) := dk_42 (dk_at dksX11_can_3 0 rfl rfl)
theorem dX11_can_81 : decode cX11_can 81 = .ok (.iload_n 1, 1) := dk_27 (dk_at dksX11_can_3 1 rfl rfl)
theorem dX11_can_82 : decode cX11_can 82 = .ok (.iconst 0, 1) := dk_3 (dk_at dksX11_can_3 2 rfl rfl)
theorem dX11_can_83 : decode cX11_can 83 = .ok (.invokevirtual 289, 3) := dk_182 1 33 (dk_at dksX11_can_3 3 rfl rfl)
theorem dX11_can_86 : decode cX11_can 86 = .ok (.aload_n 0, 1) := dk_42 (dk_at dksX11_can_3 6 rfl rfl)
theorem dX11_can_87 : decode cX11_can 87 = .ok (.iload_n 1, 1) := dk_27 (dk_at dksX11_can_3 7 rfl rfl)
theorem dX11_can_88 : decode cX11_can 88 = .ok (.iconst 1, 1) := dk_4 (dk_at dksX11_can_3 8 rfl rfl)
theorem dX11_can_89 : decode cX11_can 89 = .ok (.invokevirtual 289, 3) := dk_182 1 33 (dk_at dksX11_can_3 9 rfl rfl)
theorem dX11_can_92 : decode cX11_can 92 = .ok (.aload_n 0, 1) := dk_42 (dk_at dksX11_can_3 12 rfl rfl)
theorem dX11_can_93 : decode cX11_can 93 = .ok (.iload_n 1, 1) := dk_27 (dk_at dksX11_can_3 13 rfl rfl)
theorem dX11_can_94 : decode cX11_can 94 = .ok (.iconst 2, 1) := dk_5 (dk_at dksX11_can_3 14 rfl rfl)
theorem dX11_can_95 : decode cX11_can 95 = .ok (.invokevirtual 289, 3) := dk_182 1 33 (dk_at dksX11_can_3 15 rfl rfl)
theorem dX11_can_98 : decode cX11_can 98 = .ok (.invokevirtual 296, 3) := dk_182 1 40 (dk_at dksX11_can_3 18 rfl rfl)
theorem dX11_can_101 : decode cX11_can 101 = .ok (.ireturn, 1) := dk_172 (dk_at dksX11_can_3 21 rfl rfl)
theorem dX11_can_102 : decode cX11_can 102 = .ok (.aload_n 0, 1) := dk_42 (dk_at dksX11_can_3 22 rfl rfl)
theorem dX11_can_103 : decode cX11_can 103 = .ok (.aload_n 0, 1) := dk_42 (dk_at dksX11_can_3 23 rfl rfl)
theorem dX11_can_104 : decode cX11_can 104 = .ok (.iload_n 1, 1) := dk_27 (dk_at dksX11_can_4 0 rfl rfl)
theorem dX11_can_105 : decode cX11_can 105 = .ok (.iconst 0, 1) := dk_3 (dk_at dksX11_can_4 1 rfl rfl)
theorem dX11_can_106 : decode cX11_can 106 = .ok (.invokevirtual 289, 3) := dk_182 1 33 (dk_at dksX11_can_4 2 rfl rfl)
theorem dX11_can_109 : decode cX11_can 109 = .ok (.invokevirtual 201, 3) := dk_182 0 201 (dk_at dksX11_can_4 5 rfl rfl)
theorem dX11_can_112 : decode cX11_can 112 = .ok (.ifCond .ne 20, 3) := dk_154 0 20 (dk_at dksX11_can_4 8 rfl rfl)
theorem dX11_can_115 : decode cX11_can 115 = .ok (.aload_n 0, 1) := dk_42 (dk_at dksX11_can_4 11 rfl rfl)
theorem dX11_can_116 : decode cX11_can 116 = .ok (.aload_n 0, 1) := dk_42 (dk_at dksX11_can_4 12 rfl rfl)
theorem dX11_can_117 : decode cX11_can 117 = .ok (.iload_n 1, 1) := dk_27 (dk_at dksX11_can_4 13 rfl rfl)
theorem dX11_can_118 : decode cX11_can 118 = .ok (.iconst 0, 1) := dk_3 (dk_at dksX11_can_4 14 rfl rfl)
theorem dX11_can_119 : decode cX11_can 119 = .ok (.invokevirtual 289, 3) := dk_182 1 33 (dk_at dksX11_can_4 15 rfl rfl)
theorem dX11_can_122 : decode cX11_can 122 = .ok (.invokevirtual 205, 3) := dk_182 0 205 (dk_at dksX11_can_4 18 rfl rfl)
theorem dX11_can_125 : decode cX11_can 125 = .ok (.ifCond .eq 7, 3) := dk_153 0 7 (dk_at dksX11_can_4 21 rfl rfl)
theorem dX11_can_128 : decode cX11_can 128 = .ok (.iconst 1, 1) := dk_4 (dk_at dksX11_can_5 0 rfl rfl)
theorem dX11_can_129 : decode cX11_can 129 = .ok (.goto 4, 3) := dk_167 0 4 (dk_at dksX11_can_5 1 rfl rfl)
theorem dX11_can_132 : decode cX11_can 132 = .ok (.iconst 0, 1) := dk_3 (dk_at dksX11_can_5 4 rfl rfl)
theorem dX11_can_133 : decode cX11_can 133 = .ok (.ireturn, 1) := dk_172 (dk_at dksX11_can_5 5 rfl rfl)
theorem dX11_can_134 : decode cX11_can 134 = .ok (.aload_n 0, 1) := dk_42 (dk_at dksX11_can_5 6 rfl rfl)
theorem dX11_can_135 : decode cX11_can 135 = .ok (.getfield 33, 3) := dk_180 0 33 (dk_at dksX11_can_5 7 rfl rfl)
theorem dX11_can_138 : decode cX11_can 138 = .ok (.aload_n 0, 1) := dk_42 (dk_at dksX11_can_5 10 rfl rfl)
theorem dX11_can_139 : decode cX11_can 139 = .ok (.iload_n 1, 1) := dk_27 (dk_at dksX11_can_5 11 rfl rfl)
theorem dX11_can_140 : decode cX11_can 140 = .ok (.iconst 0, 1) := dk_3 (dk_at dksX11_can_5 12 rfl rfl)
theorem dX11_can_141 : decode cX11_can 141 = .ok (.invokevirtual 289, 3) := dk_182 1 33 (dk_at dksX11_can_5 13 rfl rfl)
theorem dX11_can_144 : decode cX11_can 144 = .ok (.baload, 1) := dk_51 (dk_at dksX11_can_5 16 rfl rfl)
theorem dX11_can_145 : decode cX11_can 145 = .ok (.ireturn, 1) := dk_172 (dk_at dksX11_can_5 17 rfl rfl)
theorem dX11_can_146 : decode cX11_can 146 = .ok (.aload_n 0, 1) := dk_42 (dk_at dksX11_can_5 18 rfl rfl)
theorem dX11_can_147 : decode cX11_can 147 = .ok (.getfield 94, 3) := dk_180 0 94 (dk_at dksX11_can_5 19 rfl rfl)
theorem dX11_can_150 : decode cX11_can 150 = .ok (.aload_n 0, 1) := dk_42 (dk_at dksX11_can_5 22 rfl rfl)
theorem dX11_can_151 : decode cX11_can 151 = .ok (.iload_n 1, 1) := dk_27 (dk_at dksX11_can_5 23 rfl rfl)
theorem dX11_can_152 : decode cX11_can 152 = .ok (.iconst 0, 1) := dk_3 (dk_at dksX11_can_6 0 rfl rfl)
theorem dX11_can_153 : decode cX11_can 153 = .ok (.invokevirtual 289, 3) := dk_182 1 33 (dk_at dksX11_can_6 1 rfl rfl)
theorem dX11_can_156 : decode cX11_can 156 = .ok (.iaload, 1) := dk_46 (dk_at dksX11_can_6 4 rfl rfl)
theorem dX11_can_157 : decode cX11_can 157 = .ok (.ifCond .ne 7, 3) := dk_154 0 7 (dk_at dksX11_can_6 5 rfl rfl)
theorem dX11_can_160 : decode cX11_can 160 = .ok (.iconst 1, 1) := dk_4 (dk_at dksX11_can_6 8 rfl rfl)
theorem dX11_can_161 : decode cX11_can 161 = .ok (.goto 4, 3) := dk_167 0 4 (dk_at dksX11_can_6 9 rfl rfl)
theorem dX11_can_164 : decode cX11_can 164 = .ok (.iconst 0, 1) := dk_3 (dk_at dksX11_can_6 12 rfl rfl)
theorem dX11_can_165 : decode cX11_can 165 = .ok (.ireturn, 1) := dk_172 (dk_at dksX11_can_6 13 rfl rfl)
theorem dX11_can_166 : decode cX11_can 166 = .ok (.iconst 1, 1) := dk_4 (dk_at dksX11_can_6 14 rfl rfl)
theorem dX11_can_167 : decode cX11_can 167 = .ok (.ireturn, 1) := dk_172 (dk_at dksX11_can_6 15 rfl rfl)
abbrev cX11_told : ByteArray := prog_16_method_84_code
def yX11_told : MethodName := ⟨RX11, "told", "(I)I"⟩
def dkwX11_told_7 : List UInt8 := [61, 132, 3, 1, 167, 255, 229, 28, 172]
abbrev dktX11_told_7 : List UInt8 := dkwX11_told_7 ++ []
def dkwX11_told_6 : List UInt8 := [62, 29, 16, 12, 162, 0, 27, 28, 42, 29, 182, 0, 205, 153, 0, 9, 4, 29, 120, 167, 0, 4, 3, 128]
abbrev dktX11_told_6 : List UInt8 := dkwX11_told_6 ++ dktX11_told_7
def dkwX11_told_5 : List UInt8 := [16, 7, 164, 0, 19, 42, 27, 16, 8, 160, 0, 7, 4, 167, 0, 4, 5, 182, 1, 154, 172, 3, 61, 3]
abbrev dktX11_told_5 : List UInt8 := dkwX11_told_5 ++ dktX11_told_6
def dkwX11_told_4 : List UInt8 := [180, 0, 155, 167, 0, 7, 42, 180, 0, 158, 172, 27, 16, 6, 160, 0, 8, 42, 180, 0, 149, 172, 27]
abbrev dktX11_told_4 : List UInt8 := dkwX11_told_4 ++ dktX11_told_5
def dkwX11_told_3 : List UInt8 := [27, 16, 6, 162, 0, 32, 27, 6, 160, 0, 10, 42, 180, 0, 152, 167, 0, 19, 27, 7, 160, 0, 10, 42]
abbrev dktX11_told_3 : List UInt8 := dkwX11_told_3 ++ dktX11_told_4
def dkwX11_told_2 : List UInt8 := [182, 1, 106, 167, 0, 20, 27, 4, 160, 0, 11, 42, 7, 182, 1, 106, 167, 0, 7, 42, 180, 0, 17, 172]
abbrev dktX11_told_2 : List UInt8 := dkwX11_told_2 ++ dktX11_told_3
def dkwX11_told_1 : List UInt8 := [172, 27, 16, 10, 160, 0, 8, 42, 182, 1, 150, 172, 27, 6, 162, 0, 33, 27, 154, 0, 11, 42, 3]
abbrev dktX11_told_1 : List UInt8 := dkwX11_told_1 ++ dktX11_told_2
def dkwX11_told_0 : List UInt8 := [42, 3, 181, 0, 1, 42, 27, 133, 9, 20, 0, 252, 184, 1, 96, 4, 4, 182, 1, 90, 154, 0, 5, 3]
abbrev dktX11_told_0 : List UInt8 := dkwX11_told_0 ++ dktX11_told_1
theorem dksX11_told_0 : cX11_told.data.toList.drop 0 = dktX11_told_0 := by decide +kernel
theorem dksX11_told_1 : cX11_told.data.toList.drop 24 = dktX11_told_1 := dk_seg dksX11_told_0 24 rfl rfl
theorem dksX11_told_2 : cX11_told.data.toList.drop 47 = dktX11_told_2 := dk_seg dksX11_told_1 23 rfl rfl
theorem dksX11_told_3 : cX11_told.data.toList.drop 71 = dktX11_told_3 := dk_seg dksX11_told_2 24 rfl rfl
theorem dksX11_told_4 : cX11_told.data.toList.drop 95 = dktX11_told_4 := dk_seg dksX11_told_3 24 rfl rfl
theorem dksX11_told_5 : cX11_told.data.toList.drop 118 = dktX11_told_5 := dk_seg dksX11_told_4 23 rfl rfl
theorem dksX11_told_6 : cX11_told.data.toList.drop 142 = dktX11_told_6 := dk_seg dksX11_told_5 24 rfl rfl
theorem dksX11_told_7 : cX11_told.data.toList.drop 166 = dktX11_told_7 := dk_seg dksX11_told_6 24 rfl rfl
theorem dX11_told_0 : decode cX11_told 0 = .ok (.aload_n 0, 1) := dk_42 (dk_at dksX11_told_0 0 rfl rfl)
theorem dX11_told_1 : decode cX11_told 1 = .ok (.iconst 0, 1) := dk_3 (dk_at dksX11_told_0 1 rfl rfl)
theorem dX11_told_2 : decode cX11_told 2 = .ok (.putfield 1, 3) := dk_181 0 1 (dk_at dksX11_told_0 2 rfl rfl)
theorem dX11_told_5 : decode cX11_told 5 = .ok (.aload_n 0, 1) := dk_42 (dk_at dksX11_told_0 5 rfl rfl)
theorem dX11_told_6 : decode cX11_told 6 = .ok (.iload_n 1, 1) := dk_27 (dk_at dksX11_told_0 6 rfl rfl)
theorem dX11_told_7 : decode cX11_told 7 = .ok (.i2l, 1) := dk_133 (dk_at dksX11_told_0 7 rfl rfl)
theorem dX11_told_8 : decode cX11_told 8 = .ok (.lconst 0, 1) := dk_9 (dk_at dksX11_told_0 8 rfl rfl)
theorem dX11_told_9 : decode cX11_told 9 = .ok (.ldc2_w 252, 3) := dk_20 0 252 (dk_at dksX11_told_0 9 rfl rfl)
theorem dX11_told_12 : decode cX11_told 12 = .ok (.invokestatic 352, 3) := dk_184 1 96 (dk_at dksX11_told_0 12 rfl rfl)
theorem dX11_told_15 : decode cX11_told 15 = .ok (.iconst 1, 1) := dk_4 (dk_at dksX11_told_0 15 rfl rfl)
theorem dX11_told_16 : decode cX11_told 16 = .ok (.iconst 1, 1) := dk_4 (dk_at dksX11_told_0 16 rfl rfl)
theorem dX11_told_17 : decode cX11_told 17 = .ok (.invokevirtual 346, 3) := dk_182 1 90 (dk_at dksX11_told_0 17 rfl rfl)
theorem dX11_told_20 : decode cX11_told 20 = .ok (.ifCond .ne 5, 3) := dk_154 0 5 (dk_at dksX11_told_0 20 rfl rfl)
theorem dX11_told_23 : decode cX11_told 23 = .ok (.iconst 0, 1) := dk_3 (dk_at dksX11_told_0 23 rfl rfl)
theorem dX11_told_24 : decode cX11_told 24 = .ok (.ireturn, 1) := dk_172 (dk_at dksX11_told_1 0 rfl rfl)
theorem dX11_told_25 : decode cX11_told 25 = .ok (.iload_n 1, 1) := dk_27 (dk_at dksX11_told_1 1 rfl rfl)
theorem dX11_told_26 : decode cX11_told 26 = .ok (.bipush 10, 2) := dk_16 10 (dk_at dksX11_told_1 2 rfl rfl)
theorem dX11_told_28 : decode cX11_told 28 = .ok (.if_icmp .ne 8, 3) := dk_160 0 8 (dk_at dksX11_told_1 4 rfl rfl)
theorem dX11_told_31 : decode cX11_told 31 = .ok (.aload_n 0, 1) := dk_42 (dk_at dksX11_told_1 7 rfl rfl)
theorem dX11_told_32 : decode cX11_told 32 = .ok (.invokevirtual 406, 3) := dk_182 1 150 (dk_at dksX11_told_1 8 rfl rfl)
theorem dX11_told_35 : decode cX11_told 35 = .ok (.ireturn, 1) := dk_172 (dk_at dksX11_told_1 11 rfl rfl)
theorem dX11_told_36 : decode cX11_told 36 = .ok (.iload_n 1, 1) := dk_27 (dk_at dksX11_told_1 12 rfl rfl)
theorem dX11_told_37 : decode cX11_told 37 = .ok (.iconst 3, 1) := dk_6 (dk_at dksX11_told_1 13 rfl rfl)
theorem dX11_told_38 : decode cX11_told 38 = .ok (.if_icmp .ge 33, 3) := dk_162 0 33 (dk_at dksX11_told_1 14 rfl rfl)
theorem dX11_told_41 : decode cX11_told 41 = .ok (.iload_n 1, 1) := dk_27 (dk_at dksX11_told_1 17 rfl rfl)
theorem dX11_told_42 : decode cX11_told 42 = .ok (.ifCond .ne 11, 3) := dk_154 0 11 (dk_at dksX11_told_1 18 rfl rfl)
theorem dX11_told_45 : decode cX11_told 45 = .ok (.aload_n 0, 1) := dk_42 (dk_at dksX11_told_1 21 rfl rfl)
theorem dX11_told_46 : decode cX11_told 46 = .ok (.iconst 0, 1) := dk_3 (dk_at dksX11_told_1 22 rfl rfl)
theorem dX11_told_47 : decode cX11_told 47 = .ok (.invokevirtual 362, 3) := dk_182 1 106 (dk_at dksX11_told_2 0 rfl rfl)
theorem dX11_told_50 : decode cX11_told 50 = .ok (.goto 20, 3) := dk_167 0 20 (dk_at dksX11_told_2 3 rfl rfl)
theorem dX11_told_53 : decode cX11_told 53 = .ok (.iload_n 1, 1) := dk_27 (dk_at dksX11_told_2 6 rfl rfl)
theorem dX11_told_54 : decode cX11_told 54 = .ok (.iconst 1, 1) := dk_4 (dk_at dksX11_told_2 7 rfl rfl)
theorem dX11_told_55 : decode cX11_told 55 = .ok (.if_icmp .ne 11, 3) := dk_160 0 11 (dk_at dksX11_told_2 8 rfl rfl)
theorem dX11_told_58 : decode cX11_told 58 = .ok (.aload_n 0, 1) := dk_42 (dk_at dksX11_told_2 11 rfl rfl)
theorem dX11_told_59 : decode cX11_told 59 = .ok (.iconst 4, 1) := dk_7 (dk_at dksX11_told_2 12 rfl rfl)
theorem dX11_told_60 : decode cX11_told 60 = .ok (.invokevirtual 362, 3) := dk_182 1 106 (dk_at dksX11_told_2 13 rfl rfl)
theorem dX11_told_63 : decode cX11_told 63 = .ok (.goto 7, 3) := dk_167 0 7 (dk_at dksX11_told_2 16 rfl rfl)
theorem dX11_told_66 : decode cX11_told 66 = .ok (.aload_n 0, 1) := dk_42 (dk_at dksX11_told_2 19 rfl rfl)
theorem dX11_told_67 : decode cX11_told 67 = .ok (.getfield 17, 3) := dk_180 0 17 (dk_at dksX11_told_2 20 rfl rfl)
theorem dX11_told_70 : decode cX11_told 70 = .ok (.ireturn, 1) := dk_172 (dk_at dksX11_told_2 23 rfl rfl)
theorem dX11_told_71 : decode cX11_told 71 = .ok (.iload_n 1, 1) := dk_27 (dk_at dksX11_told_3 0 rfl rfl)
theorem dX11_told_72 : decode cX11_told 72 = .ok (.bipush 6, 2) := dk_16 6 (dk_at dksX11_told_3 1 rfl rfl)
theorem dX11_told_74 : decode cX11_told 74 = .ok (.if_icmp .ge 32, 3) := dk_162 0 32 (dk_at dksX11_told_3 3 rfl rfl)
theorem dX11_told_77 : decode cX11_told 77 = .ok (.iload_n 1, 1) := dk_27 (dk_at dksX11_told_3 6 rfl rfl)
theorem dX11_told_78 : decode cX11_told 78 = .ok (.iconst 3, 1) := dk_6 (dk_at dksX11_told_3 7 rfl rfl)
theorem dX11_told_79 : decode cX11_told 79 = .ok (.if_icmp .ne 10, 3) := dk_160 0 10 (dk_at dksX11_told_3 8 rfl rfl)
theorem dX11_told_82 : decode cX11_told 82 = .ok (.aload_n 0, 1) := dk_42 (dk_at dksX11_told_3 11 rfl rfl)
theorem dX11_told_83 : decode cX11_told 83 = .ok (.getfield 152, 3) := dk_180 0 152 (dk_at dksX11_told_3 12 rfl rfl)
theorem dX11_told_86 : decode cX11_told 86 = .ok (.goto 19, 3) := dk_167 0 19 (dk_at dksX11_told_3 15 rfl rfl)
theorem dX11_told_89 : decode cX11_told 89 = .ok (.iload_n 1, 1) := dk_27 (dk_at dksX11_told_3 18 rfl rfl)
theorem dX11_told_90 : decode cX11_told 90 = .ok (.iconst 4, 1) := dk_7 (dk_at dksX11_told_3 19 rfl rfl)
theorem dX11_told_91 : decode cX11_told 91 = .ok (.if_icmp .ne 10, 3) := dk_160 0 10 (dk_at dksX11_told_3 20 rfl rfl)
theorem dX11_told_94 : decode cX11_told 94 = .ok (.aload_n 0, 1) := dk_42 (dk_at dksX11_told_3 23 rfl rfl)
theorem dX11_told_95 : decode cX11_told 95 = .ok (.getfield 155, 3) := dk_180 0 155 (dk_at dksX11_told_4 0 rfl rfl)
theorem dX11_told_98 : decode cX11_told 98 = .ok (.goto 7, 3) := dk_167 0 7 (dk_at dksX11_told_4 3 rfl rfl)
theorem dX11_told_101 : decode cX11_told 101 = .ok (.aload_n 0, 1) := dk_42 (dk_at dksX11_told_4 6 rfl rfl)
theorem dX11_told_102 : decode cX11_told 102 = .ok (.getfield 158, 3) := dk_180 0 158 (dk_at dksX11_told_4 7 rfl rfl)
theorem dX11_told_105 : decode cX11_told 105 = .ok (.ireturn, 1) := dk_172 (dk_at dksX11_told_4 10 rfl rfl)
theorem dX11_told_106 : decode cX11_told 106 = .ok (.iload_n 1, 1) := dk_27 (dk_at dksX11_told_4 11 rfl rfl)
theorem dX11_told_107 : decode cX11_told 107 = .ok (.bipush 6, 2) := dk_16 6 (dk_at dksX11_told_4 12 rfl rfl)
theorem dX11_told_109 : decode cX11_told 109 = .ok (.if_icmp .ne 8, 3) := dk_160 0 8 (dk_at dksX11_told_4 14 rfl rfl)
theorem dX11_told_112 : decode cX11_told 112 = .ok (.aload_n 0, 1) := dk_42 (dk_at dksX11_told_4 17 rfl rfl)
theorem dX11_told_113 : decode cX11_told 113 = .ok (.getfield 149, 3) := dk_180 0 149 (dk_at dksX11_told_4 18 rfl rfl)
theorem dX11_told_116 : decode cX11_told 116 = .ok (.ireturn, 1) := dk_172 (dk_at dksX11_told_4 21 rfl rfl)
theorem dX11_told_117 : decode cX11_told 117 = .ok (.iload_n 1, 1) := dk_27 (dk_at dksX11_told_4 22 rfl rfl)
theorem dX11_told_118 : decode cX11_told 118 = .ok (.bipush 7, 2) := dk_16 7 (dk_at dksX11_told_5 0 rfl rfl)
theorem dX11_told_120 : decode cX11_told 120 = .ok (.if_icmp .le 19, 3) := dk_164 0 19 (dk_at dksX11_told_5 2 rfl rfl)
theorem dX11_told_123 : decode cX11_told 123 = .ok (.aload_n 0, 1) := dk_42 (dk_at dksX11_told_5 5 rfl rfl)
theorem dX11_told_124 : decode cX11_told 124 = .ok (.iload_n 1, 1) := dk_27 (dk_at dksX11_told_5 6 rfl rfl)
theorem dX11_told_125 : decode cX11_told 125 = .ok (.bipush 8, 2) := dk_16 8 (dk_at dksX11_told_5 7 rfl rfl)
theorem dX11_told_127 : decode cX11_told 127 = .ok (.if_icmp .ne 7, 3) := dk_160 0 7 (dk_at dksX11_told_5 9 rfl rfl)
theorem dX11_told_130 : decode cX11_told 130 = .ok (.iconst 1, 1) := dk_4 (dk_at dksX11_told_5 12 rfl rfl)
theorem dX11_told_131 : decode cX11_told 131 = .ok (.goto 4, 3) := dk_167 0 4 (dk_at dksX11_told_5 13 rfl rfl)
theorem dX11_told_134 : decode cX11_told 134 = .ok (.iconst 2, 1) := dk_5 (dk_at dksX11_told_5 16 rfl rfl)
theorem dX11_told_135 : decode cX11_told 135 = .ok (.invokevirtual 410, 3) := dk_182 1 154 (dk_at dksX11_told_5 17 rfl rfl)
theorem dX11_told_138 : decode cX11_told 138 = .ok (.ireturn, 1) := dk_172 (dk_at dksX11_told_5 20 rfl rfl)
theorem dX11_told_139 : decode cX11_told 139 = .ok (.iconst 0, 1) := dk_3 (dk_at dksX11_told_5 21 rfl rfl)
theorem dX11_told_140 : decode cX11_told 140 = .ok (.istore_n 2, 1) := dk_61 (dk_at dksX11_told_5 22 rfl rfl)
theorem dX11_told_141 : decode cX11_told 141 = .ok (.iconst 0, 1) := dk_3 (dk_at dksX11_told_5 23 rfl rfl)
theorem dX11_told_142 : decode cX11_told 142 = .ok (.istore_n 3, 1) := dk_62 (dk_at dksX11_told_6 0 rfl rfl)
theorem dX11_told_143 : decode cX11_told 143 = .ok (.iload_n 3, 1) := dk_29 (dk_at dksX11_told_6 1 rfl rfl)
theorem dX11_told_144 : decode cX11_told 144 = .ok (.bipush 12, 2) := dk_16 12 (dk_at dksX11_told_6 2 rfl rfl)
theorem dX11_told_146 : decode cX11_told 146 = .ok (.if_icmp .ge 27, 3) := dk_162 0 27 (dk_at dksX11_told_6 4 rfl rfl)
theorem dX11_told_149 : decode cX11_told 149 = .ok (.iload_n 2, 1) := dk_28 (dk_at dksX11_told_6 7 rfl rfl)
theorem dX11_told_150 : decode cX11_told 150 = .ok (.aload_n 0, 1) := dk_42 (dk_at dksX11_told_6 8 rfl rfl)
theorem dX11_told_151 : decode cX11_told 151 = .ok (.iload_n 3, 1) := dk_29 (dk_at dksX11_told_6 9 rfl rfl)
theorem dX11_told_152 : decode cX11_told 152 = .ok (.invokevirtual 205, 3) := dk_182 0 205 (dk_at dksX11_told_6 10 rfl rfl)
theorem dX11_told_155 : decode cX11_told 155 = .ok (.ifCond .eq 9, 3) := dk_153 0 9 (dk_at dksX11_told_6 13 rfl rfl)
theorem dX11_told_158 : decode cX11_told 158 = .ok (.iconst 1, 1) := dk_4 (dk_at dksX11_told_6 16 rfl rfl)
theorem dX11_told_159 : decode cX11_told 159 = .ok (.iload_n 3, 1) := dk_29 (dk_at dksX11_told_6 17 rfl rfl)
theorem dX11_told_160 : decode cX11_told 160 = .ok (.ishl, 1) := dk_120 (dk_at dksX11_told_6 18 rfl rfl)
theorem dX11_told_161 : decode cX11_told 161 = .ok (.goto 4, 3) := dk_167 0 4 (dk_at dksX11_told_6 19 rfl rfl)
theorem dX11_told_164 : decode cX11_told 164 = .ok (.iconst 0, 1) := dk_3 (dk_at dksX11_told_6 22 rfl rfl)
theorem dX11_told_165 : decode cX11_told 165 = .ok (.ior, 1) := dk_128 (dk_at dksX11_told_6 23 rfl rfl)
theorem dX11_told_166 : decode cX11_told 166 = .ok (.istore_n 2, 1) := dk_61 (dk_at dksX11_told_7 0 rfl rfl)
theorem dX11_told_167 : decode cX11_told 167 = .ok (.iinc 3 1, 3) := dk_132 3 1 (dk_at dksX11_told_7 1 rfl rfl)
theorem dX11_told_170 : decode cX11_told 170 = .ok (.goto (-27), 3) := dk_167 255 229 (dk_at dksX11_told_7 4 rfl rfl)
theorem dX11_told_173 : decode cX11_told 173 = .ok (.iload_n 2, 1) := dk_28 (dk_at dksX11_told_7 7 rfl rfl)
theorem dX11_told_174 : decode cX11_told 174 = .ok (.ireturn, 1) := dk_172 (dk_at dksX11_told_7 8 rfl rfl)
abbrev cX11_signersBits : ByteArray := prog_16_method_83_code
def yX11_signersBits : MethodName := ⟨RX11, "signersBits", "()I"⟩
def dkwX11_signersBits_2 : List UInt8 := [132, 3, 1, 167, 255, 219, 132, 2, 1, 167, 255, 205, 27, 172]
abbrev dktX11_signersBits_2 : List UInt8 := dkwX11_signersBits_2 ++ []
def dkwX11_signersBits_1 : List UInt8 := [180, 0, 48, 28, 46, 162, 0, 24, 27, 4, 42, 180, 0, 51, 7, 28, 104, 29, 96, 46, 120, 128, 60]
abbrev dktX11_signersBits_1 : List UInt8 := dkwX11_signersBits_1 ++ dktX11_signersBits_2
def dkwX11_signersBits_0 : List UInt8 := [3, 60, 3, 61, 28, 16, 40, 162, 0, 51, 3, 62, 42, 180, 0, 29, 28, 51, 153, 0, 34, 29, 42]
abbrev dktX11_signersBits_0 : List UInt8 := dkwX11_signersBits_0 ++ dktX11_signersBits_1
theorem dksX11_signersBits_0 : cX11_signersBits.data.toList.drop 0 = dktX11_signersBits_0 := by decide +kernel
theorem dksX11_signersBits_1 : cX11_signersBits.data.toList.drop 23 = dktX11_signersBits_1 := dk_seg dksX11_signersBits_0 23 rfl rfl
theorem dksX11_signersBits_2 : cX11_signersBits.data.toList.drop 46 = dktX11_signersBits_2 := dk_seg dksX11_signersBits_1 23 rfl rfl
theorem dX11_signersBits_0 : decode cX11_signersBits 0 = .ok (.iconst 0, 1) := dk_3 (dk_at dksX11_signersBits_0 0 rfl rfl)
theorem dX11_signersBits_1 : decode cX11_signersBits 1 = .ok (.istore_n 1, 1) := dk_60 (dk_at dksX11_signersBits_0 1 rfl rfl)
theorem dX11_signersBits_2 : decode cX11_signersBits 2 = .ok (.iconst 0, 1) := dk_3 (dk_at dksX11_signersBits_0 2 rfl rfl)
theorem dX11_signersBits_3 : decode cX11_signersBits 3 = .ok (.istore_n 2, 1) := dk_61 (dk_at dksX11_signersBits_0 3 rfl rfl)
theorem dX11_signersBits_4 : decode cX11_signersBits 4 = .ok (.iload_n 2, 1) := dk_28 (dk_at dksX11_signersBits_0 4 rfl rfl)
theorem dX11_signersBits_5 : decode cX11_signersBits 5 = .ok (.bipush 40, 2) := dk_16 40 (dk_at dksX11_signersBits_0 5 rfl rfl)
theorem dX11_signersBits_7 : decode cX11_signersBits 7 = .ok (.if_icmp .ge 51, 3) := dk_162 0 51 (dk_at dksX11_signersBits_0 7 rfl rfl)
theorem dX11_signersBits_10 : decode cX11_signersBits 10 = .ok (.iconst 0, 1) := dk_3 (dk_at dksX11_signersBits_0 10 rfl rfl)
theorem dX11_signersBits_11 : decode cX11_signersBits 11 = .ok (.istore_n 3, 1) := dk_62 (dk_at dksX11_signersBits_0 11 rfl rfl)
theorem dX11_signersBits_12 : decode cX11_signersBits 12 = .ok (.aload_n 0, 1) := dk_42 (dk_at dksX11_signersBits_0 12 rfl rfl)
theorem dX11_signersBits_13 : decode cX11_signersBits 13 = .ok (.getfield 29, 3) := dk_180 0 29 (dk_at dksX11_signersBits_0 13 rfl rfl)
theorem dX11_signersBits_16 : decode cX11_signersBits 16 = .ok (.iload_n 2, 1) := dk_28 (dk_at dksX11_signersBits_0 16 rfl rfl)
theorem dX11_signersBits_17 : decode cX11_signersBits 17 = .ok (.baload, 1) := dk_51 (dk_at dksX11_signersBits_0 17 rfl rfl)
theorem dX11_signersBits_18 : decode cX11_signersBits 18 = .ok (.ifCond .eq 34, 3) := dk_153 0 34 (dk_at dksX11_signersBits_0 18 rfl rfl)
theorem dX11_signersBits_21 : decode cX11_signersBits 21 = .ok (.iload_n 3, 1) := dk_29 (dk_at dksX11_signersBits_0 21 rfl rfl)
theorem dX11_signersBits_22 : decode cX11_signersBits 22 = .ok (.aload_n 0, 1) := dk_42 (dk_at dksX11_signersBits_0 22 rfl rfl)
theorem dX11_signersBits_23 : decode cX11_signersBits 23 = .ok (.getfield 48, 3) := dk_180 0 48 (dk_at dksX11_signersBits_1 0 rfl rfl)
theorem dX11_signersBits_26 : decode cX11_signersBits 26 = .ok (.iload_n 2, 1) := dk_28 (dk_at dksX11_signersBits_1 3 rfl rfl)
theorem dX11_signersBits_27 : decode cX11_signersBits 27 = .ok (.iaload, 1) := dk_46 (dk_at dksX11_signersBits_1 4 rfl rfl)
theorem dX11_signersBits_28 : decode cX11_signersBits 28 = .ok (.if_icmp .ge 24, 3) := dk_162 0 24 (dk_at dksX11_signersBits_1 5 rfl rfl)
theorem dX11_signersBits_31 : decode cX11_signersBits 31 = .ok (.iload_n 1, 1) := dk_27 (dk_at dksX11_signersBits_1 8 rfl rfl)
theorem dX11_signersBits_32 : decode cX11_signersBits 32 = .ok (.iconst 1, 1) := dk_4 (dk_at dksX11_signersBits_1 9 rfl rfl)
theorem dX11_signersBits_33 : decode cX11_signersBits 33 = .ok (.aload_n 0, 1) := dk_42 (dk_at dksX11_signersBits_1 10 rfl rfl)
theorem dX11_signersBits_34 : decode cX11_signersBits 34 = .ok (.getfield 51, 3) := dk_180 0 51 (dk_at dksX11_signersBits_1 11 rfl rfl)
theorem dX11_signersBits_37 : decode cX11_signersBits 37 = .ok (.iconst 4, 1) := dk_7 (dk_at dksX11_signersBits_1 14 rfl rfl)
theorem dX11_signersBits_38 : decode cX11_signersBits 38 = .ok (.iload_n 2, 1) := dk_28 (dk_at dksX11_signersBits_1 15 rfl rfl)
theorem dX11_signersBits_39 : decode cX11_signersBits 39 = .ok (.imul, 1) := dk_104 (dk_at dksX11_signersBits_1 16 rfl rfl)
theorem dX11_signersBits_40 : decode cX11_signersBits 40 = .ok (.iload_n 3, 1) := dk_29 (dk_at dksX11_signersBits_1 17 rfl rfl)
theorem dX11_signersBits_41 : decode cX11_signersBits 41 = .ok (.iadd, 1) := dk_96 (dk_at dksX11_signersBits_1 18 rfl rfl)
theorem dX11_signersBits_42 : decode cX11_signersBits 42 = .ok (.iaload, 1) := dk_46 (dk_at dksX11_signersBits_1 19 rfl rfl)
theorem dX11_signersBits_43 : decode cX11_signersBits 43 = .ok (.ishl, 1) := dk_120 (dk_at dksX11_signersBits_1 20 rfl rfl)
theorem dX11_signersBits_44 : decode cX11_signersBits 44 = .ok (.ior, 1) := dk_128 (dk_at dksX11_signersBits_1 21 rfl rfl)
theorem dX11_signersBits_45 : decode cX11_signersBits 45 = .ok (.istore_n 1, 1) := dk_60 (dk_at dksX11_signersBits_1 22 rfl rfl)
theorem dX11_signersBits_46 : decode cX11_signersBits 46 = .ok (.iinc 3 1, 3) := dk_132 3 1 (dk_at dksX11_signersBits_2 0 rfl rfl)
theorem dX11_signersBits_49 : decode cX11_signersBits 49 = .ok (.goto (-37), 3) := dk_167 255 219 (dk_at dksX11_signersBits_2 3 rfl rfl)
theorem dX11_signersBits_52 : decode cX11_signersBits 52 = .ok (.iinc 2 1, 3) := dk_132 2 1 (dk_at dksX11_signersBits_2 6 rfl rfl)
theorem dX11_signersBits_55 : decode cX11_signersBits 55 = .ok (.goto (-51), 3) := dk_167 255 205 (dk_at dksX11_signersBits_2 9 rfl rfl)
theorem dX11_signersBits_58 : decode cX11_signersBits 58 = .ok (.iload_n 1, 1) := dk_27 (dk_at dksX11_signersBits_2 12 rfl rfl)
theorem dX11_signersBits_59 : decode cX11_signersBits 59 = .ok (.ireturn, 1) := dk_172 (dk_at dksX11_signersBits_2 13 rfl rfl)
abbrev cX11_standingBits : ByteArray := prog_16_method_82_code
def yX11_standingBits : MethodName := ⟨RX11, "standingBits", "(I)I"⟩
def dkwX11_standingBits_1 : List UInt8 := [167, 0, 4, 3, 128, 61, 132, 3, 1, 167, 255, 227, 28, 172]
abbrev dktX11_standingBits_1 : List UInt8 := dkwX11_standingBits_1 ++ []
def dkwX11_standingBits_0 : List UInt8 := [3, 61, 4, 62, 29, 16, 10, 162, 0, 29, 28, 42, 180, 0, 94, 29, 46, 27, 160, 0, 9, 4, 29, 120]
abbrev dktX11_standingBits_0 : List UInt8 := dkwX11_standingBits_0 ++ dktX11_standingBits_1
theorem dksX11_standingBits_0 : cX11_standingBits.data.toList.drop 0 = dktX11_standingBits_0 := by decide +kernel
theorem dksX11_standingBits_1 : cX11_standingBits.data.toList.drop 24 = dktX11_standingBits_1 := dk_seg dksX11_standingBits_0 24 rfl rfl
theorem dX11_standingBits_0 : decode cX11_standingBits 0 = .ok (.iconst 0, 1) := dk_3 (dk_at dksX11_standingBits_0 0 rfl rfl)
theorem dX11_standingBits_1 : decode cX11_standingBits 1 = .ok (.istore_n 2, 1) := dk_61 (dk_at dksX11_standingBits_0 1 rfl rfl)
theorem dX11_standingBits_2 : decode cX11_standingBits 2 = .ok (.iconst 1, 1) := dk_4 (dk_at dksX11_standingBits_0 2 rfl rfl)
theorem dX11_standingBits_3 : decode cX11_standingBits 3 = .ok (.istore_n 3, 1) := dk_62 (dk_at dksX11_standingBits_0 3 rfl rfl)
theorem dX11_standingBits_4 : decode cX11_standingBits 4 = .ok (.iload_n 3, 1) := dk_29 (dk_at dksX11_standingBits_0 4 rfl rfl)
theorem dX11_standingBits_5 : decode cX11_standingBits 5 = .ok (.bipush 10, 2) := dk_16 10 (dk_at dksX11_standingBits_0 5 rfl rfl)
theorem dX11_standingBits_7 : decode cX11_standingBits 7 = .ok (.if_icmp .ge 29, 3) := dk_162 0 29 (dk_at dksX11_standingBits_0 7 rfl rfl)
theorem dX11_standingBits_10 : decode cX11_standingBits 10 = .ok (.iload_n 2, 1) := dk_28 (dk_at dksX11_standingBits_0 10 rfl rfl)
theorem dX11_standingBits_11 : decode cX11_standingBits 11 = .ok (.aload_n 0, 1) := dk_42 (dk_at dksX11_standingBits_0 11 rfl rfl)
theorem dX11_standingBits_12 : decode cX11_standingBits 12 = .ok (.getfield 94, 3) := dk_180 0 94 (dk_at dksX11_standingBits_0 12 rfl rfl)
theorem dX11_standingBits_15 : decode cX11_standingBits 15 = .ok (.iload_n 3, 1) := dk_29 (dk_at dksX11_standingBits_0 15 rfl rfl)
theorem dX11_standingBits_16 : decode cX11_standingBits 16 = .ok (.iaload, 1) := dk_46 (dk_at dksX11_standingBits_0 16 rfl rfl)
theorem dX11_standingBits_17 : decode cX11_standingBits 17 = .ok (.iload_n 1, 1) := dk_27 (dk_at dksX11_standingBits_0 17 rfl rfl)
theorem dX11_standingBits_18 : decode cX11_standingBits 18 = .ok (.if_icmp .ne 9, 3) := dk_160 0 9 (dk_at dksX11_standingBits_0 18 rfl rfl)
theorem dX11_standingBits_21 : decode cX11_standingBits 21 = .ok (.iconst 1, 1) := dk_4 (dk_at dksX11_standingBits_0 21 rfl rfl)
theorem dX11_standingBits_22 : decode cX11_standingBits 22 = .ok (.iload_n 3, 1) := dk_29 (dk_at dksX11_standingBits_0 22 rfl rfl)
theorem dX11_standingBits_23 : decode cX11_standingBits 23 = .ok (.ishl, 1) := dk_120 (dk_at dksX11_standingBits_0 23 rfl rfl)
theorem dX11_standingBits_24 : decode cX11_standingBits 24 = .ok (.goto 4, 3) := dk_167 0 4 (dk_at dksX11_standingBits_1 0 rfl rfl)
theorem dX11_standingBits_27 : decode cX11_standingBits 27 = .ok (.iconst 0, 1) := dk_3 (dk_at dksX11_standingBits_1 3 rfl rfl)
theorem dX11_standingBits_28 : decode cX11_standingBits 28 = .ok (.ior, 1) := dk_128 (dk_at dksX11_standingBits_1 4 rfl rfl)
theorem dX11_standingBits_29 : decode cX11_standingBits 29 = .ok (.istore_n 2, 1) := dk_61 (dk_at dksX11_standingBits_1 5 rfl rfl)
theorem dX11_standingBits_30 : decode cX11_standingBits 30 = .ok (.iinc 3 1, 3) := dk_132 3 1 (dk_at dksX11_standingBits_1 6 rfl rfl)
theorem dX11_standingBits_33 : decode cX11_standingBits 33 = .ok (.goto (-29), 3) := dk_167 255 227 (dk_at dksX11_standingBits_1 9 rfl rfl)
theorem dX11_standingBits_36 : decode cX11_standingBits 36 = .ok (.iload_n 2, 1) := dk_28 (dk_at dksX11_standingBits_1 12 rfl rfl)
theorem dX11_standingBits_37 : decode cX11_standingBits 37 = .ok (.ireturn, 1) := dk_172 (dk_at dksX11_standingBits_1 13 rfl rfl)
abbrev cX11_event : ByteArray := prog_16_method_86_code
def yX11_event : MethodName := ⟨RX11, "event", "(II)I"⟩
def dkwX11_event_3 : List UInt8 := [27, 3, 182, 1, 33, 172]
abbrev dktX11_event_3 : List UInt8 := dkwX11_event_3 ++ []
def dkwX11_event_2 : List UInt8 := [46, 153, 0, 13, 42, 180, 0, 14, 27, 46, 7, 160, 0, 12, 42, 180, 0, 20, 27, 46, 167, 0, 9, 42]
abbrev dktX11_event_2 : List UInt8 := dkwX11_event_2 ++ dktX11_event_3
def dkwX11_event_1 : List UInt8 := [182, 1, 90, 154, 0, 5, 3, 172, 28, 154, 0, 10, 42, 180, 0, 14, 27, 46, 172, 42, 180, 0, 14, 27]
abbrev dktX11_event_1 : List UInt8 := dkwX11_event_1 ++ dktX11_event_2
def dkwX11_event_0 : List UInt8 := [42, 3, 181, 0, 1, 42, 27, 182, 1, 157, 153, 0, 19, 42, 28, 133, 9, 10, 184, 1, 96, 5, 4]
abbrev dktX11_event_0 : List UInt8 := dkwX11_event_0 ++ dktX11_event_1
theorem dksX11_event_0 : cX11_event.data.toList.drop 0 = dktX11_event_0 := by decide +kernel
theorem dksX11_event_1 : cX11_event.data.toList.drop 23 = dktX11_event_1 := dk_seg dksX11_event_0 23 rfl rfl
theorem dksX11_event_2 : cX11_event.data.toList.drop 47 = dktX11_event_2 := dk_seg dksX11_event_1 24 rfl rfl
theorem dksX11_event_3 : cX11_event.data.toList.drop 71 = dktX11_event_3 := dk_seg dksX11_event_2 24 rfl rfl
theorem dX11_event_0 : decode cX11_event 0 = .ok (.aload_n 0, 1) := dk_42 (dk_at dksX11_event_0 0 rfl rfl)
theorem dX11_event_1 : decode cX11_event 1 = .ok (.iconst 0, 1) := dk_3 (dk_at dksX11_event_0 1 rfl rfl)
theorem dX11_event_2 : decode cX11_event 2 = .ok (.putfield 1, 3) := dk_181 0 1 (dk_at dksX11_event_0 2 rfl rfl)
theorem dX11_event_5 : decode cX11_event 5 = .ok (.aload_n 0, 1) := dk_42 (dk_at dksX11_event_0 5 rfl rfl)
theorem dX11_event_6 : decode cX11_event 6 = .ok (.iload_n 1, 1) := dk_27 (dk_at dksX11_event_0 6 rfl rfl)
theorem dX11_event_7 : decode cX11_event 7 = .ok (.invokevirtual 413, 3) := dk_182 1 157 (dk_at dksX11_event_0 7 rfl rfl)
theorem dX11_event_10 : decode cX11_event 10 = .ok (.ifCond .eq 19, 3) := dk_153 0 19 (dk_at dksX11_event_0 10 rfl rfl)
theorem dX11_event_13 : decode cX11_event 13 = .ok (.aload_n 0, 1) := dk_42 (dk_at dksX11_event_0 13 rfl rfl)
theorem dX11_event_14 : decode cX11_event 14 = .ok (.iload_n 2, 1) := dk_28 (dk_at dksX11_event_0 14 rfl rfl)
theorem dX11_event_15 : decode cX11_event 15 = .ok (.i2l, 1) := dk_133 (dk_at dksX11_event_0 15 rfl rfl)
theorem dX11_event_16 : decode cX11_event 16 = .ok (.lconst 0, 1) := dk_9 (dk_at dksX11_event_0 16 rfl rfl)
theorem dX11_event_17 : decode cX11_event 17 = .ok (.lconst 1, 1) := dk_10 (dk_at dksX11_event_0 17 rfl rfl)
theorem dX11_event_18 : decode cX11_event 18 = .ok (.invokestatic 352, 3) := dk_184 1 96 (dk_at dksX11_event_0 18 rfl rfl)
theorem dX11_event_21 : decode cX11_event 21 = .ok (.iconst 2, 1) := dk_5 (dk_at dksX11_event_0 21 rfl rfl)
theorem dX11_event_22 : decode cX11_event 22 = .ok (.iconst 1, 1) := dk_4 (dk_at dksX11_event_0 22 rfl rfl)
theorem dX11_event_23 : decode cX11_event 23 = .ok (.invokevirtual 346, 3) := dk_182 1 90 (dk_at dksX11_event_1 0 rfl rfl)
theorem dX11_event_26 : decode cX11_event 26 = .ok (.ifCond .ne 5, 3) := dk_154 0 5 (dk_at dksX11_event_1 3 rfl rfl)
theorem dX11_event_29 : decode cX11_event 29 = .ok (.iconst 0, 1) := dk_3 (dk_at dksX11_event_1 6 rfl rfl)
theorem dX11_event_30 : decode cX11_event 30 = .ok (.ireturn, 1) := dk_172 (dk_at dksX11_event_1 7 rfl rfl)
theorem dX11_event_31 : decode cX11_event 31 = .ok (.iload_n 2, 1) := dk_28 (dk_at dksX11_event_1 8 rfl rfl)
theorem dX11_event_32 : decode cX11_event 32 = .ok (.ifCond .ne 10, 3) := dk_154 0 10 (dk_at dksX11_event_1 9 rfl rfl)
theorem dX11_event_35 : decode cX11_event 35 = .ok (.aload_n 0, 1) := dk_42 (dk_at dksX11_event_1 12 rfl rfl)
theorem dX11_event_36 : decode cX11_event 36 = .ok (.getfield 14, 3) := dk_180 0 14 (dk_at dksX11_event_1 13 rfl rfl)
theorem dX11_event_39 : decode cX11_event 39 = .ok (.iload_n 1, 1) := dk_27 (dk_at dksX11_event_1 16 rfl rfl)
theorem dX11_event_40 : decode cX11_event 40 = .ok (.iaload, 1) := dk_46 (dk_at dksX11_event_1 17 rfl rfl)
theorem dX11_event_41 : decode cX11_event 41 = .ok (.ireturn, 1) := dk_172 (dk_at dksX11_event_1 18 rfl rfl)
theorem dX11_event_42 : decode cX11_event 42 = .ok (.aload_n 0, 1) := dk_42 (dk_at dksX11_event_1 19 rfl rfl)
theorem dX11_event_43 : decode cX11_event 43 = .ok (.getfield 14, 3) := dk_180 0 14 (dk_at dksX11_event_1 20 rfl rfl)
theorem dX11_event_46 : decode cX11_event 46 = .ok (.iload_n 1, 1) := dk_27 (dk_at dksX11_event_1 23 rfl rfl)
theorem dX11_event_47 : decode cX11_event 47 = .ok (.iaload, 1) := dk_46 (dk_at dksX11_event_2 0 rfl rfl)
theorem dX11_event_48 : decode cX11_event 48 = .ok (.ifCond .eq 13, 3) := dk_153 0 13 (dk_at dksX11_event_2 1 rfl rfl)
theorem dX11_event_51 : decode cX11_event 51 = .ok (.aload_n 0, 1) := dk_42 (dk_at dksX11_event_2 4 rfl rfl)
theorem dX11_event_52 : decode cX11_event 52 = .ok (.getfield 14, 3) := dk_180 0 14 (dk_at dksX11_event_2 5 rfl rfl)
theorem dX11_event_55 : decode cX11_event 55 = .ok (.iload_n 1, 1) := dk_27 (dk_at dksX11_event_2 8 rfl rfl)
theorem dX11_event_56 : decode cX11_event 56 = .ok (.iaload, 1) := dk_46 (dk_at dksX11_event_2 9 rfl rfl)
theorem dX11_event_57 : decode cX11_event 57 = .ok (.iconst 4, 1) := dk_7 (dk_at dksX11_event_2 10 rfl rfl)
theorem dX11_event_58 : decode cX11_event 58 = .ok (.if_icmp .ne 12, 3) := dk_160 0 12 (dk_at dksX11_event_2 11 rfl rfl)
theorem dX11_event_61 : decode cX11_event 61 = .ok (.aload_n 0, 1) := dk_42 (dk_at dksX11_event_2 14 rfl rfl)
theorem dX11_event_62 : decode cX11_event 62 = .ok (.getfield 20, 3) := dk_180 0 20 (dk_at dksX11_event_2 15 rfl rfl)
theorem dX11_event_65 : decode cX11_event 65 = .ok (.iload_n 1, 1) := dk_27 (dk_at dksX11_event_2 18 rfl rfl)
theorem dX11_event_66 : decode cX11_event 66 = .ok (.iaload, 1) := dk_46 (dk_at dksX11_event_2 19 rfl rfl)
theorem dX11_event_67 : decode cX11_event 67 = .ok (.goto 9, 3) := dk_167 0 9 (dk_at dksX11_event_2 20 rfl rfl)
theorem dX11_event_70 : decode cX11_event 70 = .ok (.aload_n 0, 1) := dk_42 (dk_at dksX11_event_2 23 rfl rfl)
theorem dX11_event_71 : decode cX11_event 71 = .ok (.iload_n 1, 1) := dk_27 (dk_at dksX11_event_3 0 rfl rfl)
theorem dX11_event_72 : decode cX11_event 72 = .ok (.iconst 0, 1) := dk_3 (dk_at dksX11_event_3 1 rfl rfl)
theorem dX11_event_73 : decode cX11_event 73 = .ok (.invokevirtual 289, 3) := dk_182 1 33 (dk_at dksX11_event_3 2 rfl rfl)
theorem dX11_event_76 : decode cX11_event 76 = .ok (.ireturn, 1) := dk_172 (dk_at dksX11_event_3 5 rfl rfl)
abbrev cX11_isEvent : ByteArray := prog_16_method_85_code
def yX11_isEvent : MethodName := ⟨RX11, "isEvent", "(I)Z"⟩
def dkwX11_isEvent_0 : List UInt8 := [42, 27, 133, 9, 42, 180, 0, 17, 4, 100, 133, 184, 1, 96, 4, 3, 182, 1, 90, 172]
abbrev dktX11_isEvent_0 : List UInt8 := dkwX11_isEvent_0 ++ []
theorem dksX11_isEvent_0 : cX11_isEvent.data.toList.drop 0 = dktX11_isEvent_0 := by decide +kernel
theorem dX11_isEvent_0 : decode cX11_isEvent 0 = .ok (.aload_n 0, 1) := dk_42 (dk_at dksX11_isEvent_0 0 rfl rfl)
theorem dX11_isEvent_1 : decode cX11_isEvent 1 = .ok (.iload_n 1, 1) := dk_27 (dk_at dksX11_isEvent_0 1 rfl rfl)
theorem dX11_isEvent_2 : decode cX11_isEvent 2 = .ok (.i2l, 1) := dk_133 (dk_at dksX11_isEvent_0 2 rfl rfl)
theorem dX11_isEvent_3 : decode cX11_isEvent 3 = .ok (.lconst 0, 1) := dk_9 (dk_at dksX11_isEvent_0 3 rfl rfl)
theorem dX11_isEvent_4 : decode cX11_isEvent 4 = .ok (.aload_n 0, 1) := dk_42 (dk_at dksX11_isEvent_0 4 rfl rfl)
theorem dX11_isEvent_5 : decode cX11_isEvent 5 = .ok (.getfield 17, 3) := dk_180 0 17 (dk_at dksX11_isEvent_0 5 rfl rfl)
theorem dX11_isEvent_8 : decode cX11_isEvent 8 = .ok (.iconst 1, 1) := dk_4 (dk_at dksX11_isEvent_0 8 rfl rfl)
theorem dX11_isEvent_9 : decode cX11_isEvent 9 = .ok (.isub, 1) := dk_100 (dk_at dksX11_isEvent_0 9 rfl rfl)
theorem dX11_isEvent_10 : decode cX11_isEvent 10 = .ok (.i2l, 1) := dk_133 (dk_at dksX11_isEvent_0 10 rfl rfl)
theorem dX11_isEvent_11 : decode cX11_isEvent 11 = .ok (.invokestatic 352, 3) := dk_184 1 96 (dk_at dksX11_isEvent_0 11 rfl rfl)
theorem dX11_isEvent_14 : decode cX11_isEvent 14 = .ok (.iconst 1, 1) := dk_4 (dk_at dksX11_isEvent_0 14 rfl rfl)
theorem dX11_isEvent_15 : decode cX11_isEvent 15 = .ok (.iconst 0, 1) := dk_3 (dk_at dksX11_isEvent_0 15 rfl rfl)
theorem dX11_isEvent_16 : decode cX11_isEvent 16 = .ok (.invokevirtual 346, 3) := dk_182 1 90 (dk_at dksX11_isEvent_0 16 rfl rfl)
theorem dX11_isEvent_19 : decode cX11_isEvent 19 = .ok (.ireturn, 1) := dk_172 (dk_at dksX11_isEvent_0 19 rfl rfl)
abbrev cX11_layer : ByteArray := prog_16_method_88_code
def yX11_layer : MethodName := ⟨RX11, "layer", "(II)J"⟩
def dkwX11_layer_8 : List UInt8 := [167, 0, 4, 9, 173]
abbrev dktX11_layer_8 : List UInt8 := dkwX11_layer_8 ++ []
def dkwX11_layer_7 : List UInt8 := [160, 0, 12, 42, 27, 182, 1, 160, 133, 167, 0, 18, 42, 27, 182, 0, 175, 9, 148, 154, 0, 7, 10]
abbrev dktX11_layer_7 : List UInt8 := dkwX11_layer_7 ++ dktX11_layer_8
def dkwX11_layer_6 : List UInt8 := [46, 133, 173, 28, 16, 8, 160, 0, 15, 16, 10, 42, 27, 182, 1, 30, 100, 133, 167, 0, 33, 28, 16, 9]
abbrev dktX11_layer_6 : List UInt8 := dkwX11_layer_6 ++ dktX11_layer_7
def dkwX11_layer_5 : List UInt8 := [182, 0, 175, 167, 0, 9, 42, 27, 182, 0, 172, 133, 173, 28, 16, 7, 160, 0, 11, 42, 180, 0, 48, 27]
abbrev dktX11_layer_5 : List UInt8 := dkwX11_layer_5 ++ dktX11_layer_6
def dkwX11_layer_4 : List UInt8 := [162, 0, 37, 28, 7, 160, 0, 12, 42, 180, 0, 57, 27, 47, 167, 0, 22, 28, 8, 160, 0, 11, 42, 27]
abbrev dktX11_layer_4 : List UInt8 := dkwX11_layer_4 ++ dktX11_layer_5
def dkwX11_layer_3 : List UInt8 := [160, 0, 13, 42, 180, 0, 42, 27, 46, 133, 167, 0, 10, 42, 180, 0, 45, 27, 46, 133, 173, 28, 16, 7]
abbrev dktX11_layer_3 : List UInt8 := dkwX11_layer_3 ++ dktX11_layer_4
def dkwX11_layer_2 : List UInt8 := [46, 133, 167, 0, 40, 28, 4, 160, 0, 13, 42, 180, 0, 39, 27, 46, 133, 167, 0, 25, 28, 5]
abbrev dktX11_layer_2 : List UInt8 := dkwX11_layer_2 ++ dktX11_layer_3
def dkwX11_layer_1 : List UInt8 := [5, 4, 182, 1, 90, 154, 0, 5, 9, 173, 28, 7, 162, 0, 55, 28, 154, 0, 13, 42, 180, 0, 36, 27]
abbrev dktX11_layer_1 : List UInt8 := dkwX11_layer_1 ++ dktX11_layer_2
def dkwX11_layer_0 : List UInt8 := [42, 3, 181, 0, 1, 42, 27, 4, 182, 1, 118, 153, 0, 21, 42, 28, 133, 9, 20, 0, 252, 184, 1, 96]
abbrev dktX11_layer_0 : List UInt8 := dkwX11_layer_0 ++ dktX11_layer_1
theorem dksX11_layer_0 : cX11_layer.data.toList.drop 0 = dktX11_layer_0 := by decide +kernel
theorem dksX11_layer_1 : cX11_layer.data.toList.drop 24 = dktX11_layer_1 := dk_seg dksX11_layer_0 24 rfl rfl
theorem dksX11_layer_2 : cX11_layer.data.toList.drop 48 = dktX11_layer_2 := dk_seg dksX11_layer_1 24 rfl rfl
theorem dksX11_layer_3 : cX11_layer.data.toList.drop 70 = dktX11_layer_3 := dk_seg dksX11_layer_2 22 rfl rfl
theorem dksX11_layer_4 : cX11_layer.data.toList.drop 94 = dktX11_layer_4 := dk_seg dksX11_layer_3 24 rfl rfl
theorem dksX11_layer_5 : cX11_layer.data.toList.drop 118 = dktX11_layer_5 := dk_seg dksX11_layer_4 24 rfl rfl
theorem dksX11_layer_6 : cX11_layer.data.toList.drop 142 = dktX11_layer_6 := dk_seg dksX11_layer_5 24 rfl rfl
theorem dksX11_layer_7 : cX11_layer.data.toList.drop 166 = dktX11_layer_7 := dk_seg dksX11_layer_6 24 rfl rfl
theorem dksX11_layer_8 : cX11_layer.data.toList.drop 189 = dktX11_layer_8 := dk_seg dksX11_layer_7 23 rfl rfl
theorem dX11_layer_0 : decode cX11_layer 0 = .ok (.aload_n 0, 1) := dk_42 (dk_at dksX11_layer_0 0 rfl rfl)
theorem dX11_layer_1 : decode cX11_layer 1 = .ok (.iconst 0, 1) := dk_3 (dk_at dksX11_layer_0 1 rfl rfl)
theorem dX11_layer_2 : decode cX11_layer 2 = .ok (.putfield 1, 3) := dk_181 0 1 (dk_at dksX11_layer_0 2 rfl rfl)
theorem dX11_layer_5 : decode cX11_layer 5 = .ok (.aload_n 0, 1) := dk_42 (dk_at dksX11_layer_0 5 rfl rfl)
theorem dX11_layer_6 : decode cX11_layer 6 = .ok (.iload_n 1, 1) := dk_27 (dk_at dksX11_layer_0 6 rfl rfl)
theorem dX11_layer_7 : decode cX11_layer 7 = .ok (.iconst 1, 1) := dk_4 (dk_at dksX11_layer_0 7 rfl rfl)
theorem dX11_layer_8 : decode cX11_layer 8 = .ok (.invokevirtual 374, 3) := dk_182 1 118 (dk_at dksX11_layer_0 8 rfl rfl)
theorem dX11_layer_11 : decode cX11_layer 11 = .ok (.ifCond .eq 21, 3) := dk_153 0 21 (dk_at dksX11_layer_0 11 rfl rfl)
theorem dX11_layer_14 : decode cX11_layer 14 = .ok (.aload_n 0, 1) := dk_42 (dk_at dksX11_layer_0 14 rfl rfl)
theorem dX11_layer_15 : decode cX11_layer 15 = .ok (.iload_n 2, 1) := dk_28 (dk_at dksX11_layer_0 15 rfl rfl)
theorem dX11_layer_16 : decode cX11_layer 16 = .ok (.i2l, 1) := dk_133 (dk_at dksX11_layer_0 16 rfl rfl)
theorem dX11_layer_17 : decode cX11_layer 17 = .ok (.lconst 0, 1) := dk_9 (dk_at dksX11_layer_0 17 rfl rfl)
theorem dX11_layer_18 : decode cX11_layer 18 = .ok (.ldc2_w 252, 3) := dk_20 0 252 (dk_at dksX11_layer_0 18 rfl rfl)
theorem dX11_layer_21 : decode cX11_layer 21 = .ok (.invokestatic 352, 3) := dk_184 1 96 (dk_at dksX11_layer_0 21 rfl rfl)
theorem dX11_layer_24 : decode cX11_layer 24 = .ok (.iconst 2, 1) := dk_5 (dk_at dksX11_layer_1 0 rfl rfl)
theorem dX11_layer_25 : decode cX11_layer 25 = .ok (.iconst 1, 1) := dk_4 (dk_at dksX11_layer_1 1 rfl rfl)
theorem dX11_layer_26 : decode cX11_layer 26 = .ok (.invokevirtual 346, 3) := dk_182 1 90 (dk_at dksX11_layer_1 2 rfl rfl)
theorem dX11_layer_29 : decode cX11_layer 29 = .ok (.ifCond .ne 5, 3) := dk_154 0 5 (dk_at dksX11_layer_1 5 rfl rfl)
theorem dX11_layer_32 : decode cX11_layer 32 = .ok (.lconst 0, 1) := dk_9 (dk_at dksX11_layer_1 8 rfl rfl)
theorem dX11_layer_33 : decode cX11_layer 33 = .ok (.lreturn, 1) := dk_173 (dk_at dksX11_layer_1 9 rfl rfl)
theorem dX11_layer_34 : decode cX11_layer 34 = .ok (.iload_n 2, 1) := dk_28 (dk_at dksX11_layer_1 10 rfl rfl)
theorem dX11_layer_35 : decode cX11_layer 35 = .ok (.iconst 4, 1) := dk_7 (dk_at dksX11_layer_1 11 rfl rfl)
theorem dX11_layer_36 : decode cX11_layer 36 = .ok (.if_icmp .ge 55, 3) := dk_162 0 55 (dk_at dksX11_layer_1 12 rfl rfl)
theorem dX11_layer_39 : decode cX11_layer 39 = .ok (.iload_n 2, 1) := dk_28 (dk_at dksX11_layer_1 15 rfl rfl)
theorem dX11_layer_40 : decode cX11_layer 40 = .ok (.ifCond .ne 13, 3) := dk_154 0 13 (dk_at dksX11_layer_1 16 rfl rfl)
theorem dX11_layer_43 : decode cX11_layer 43 = .ok (.aload_n 0, 1) := dk_42 (dk_at dksX11_layer_1 19 rfl rfl)
theorem dX11_layer_44 : decode cX11_layer 44 = .ok (.getfield 36, 3) := dk_180 0 36 (dk_at dksX11_layer_1 20 rfl rfl)
theorem dX11_layer_47 : decode cX11_layer 47 = .ok (.iload_n 1, 1) := dk_27 (dk_at dksX11_layer_1 23 rfl rfl)
theorem dX11_layer_48 : decode cX11_layer 48 = .ok (.iaload, 1) := dk_46 (dk_at dksX11_layer_2 0 rfl rfl)
theorem dX11_layer_49 : decode cX11_layer 49 = .ok (.i2l, 1) := dk_133 (dk_at dksX11_layer_2 1 rfl rfl)
theorem dX11_layer_50 : decode cX11_layer 50 = .ok (.goto 40, 3) := dk_167 0 40 (dk_at dksX11_layer_2 2 rfl rfl)
theorem dX11_layer_53 : decode cX11_layer 53 = .ok (.iload_n 2, 1) := dk_28 (dk_at dksX11_layer_2 5 rfl rfl)
theorem dX11_layer_54 : decode cX11_layer 54 = .ok (.iconst 1, 1) := dk_4 (dk_at dksX11_layer_2 6 rfl rfl)
theorem dX11_layer_55 : decode cX11_layer 55 = .ok (.if_icmp .ne 13, 3) := dk_160 0 13 (dk_at dksX11_layer_2 7 rfl rfl)
theorem dX11_layer_58 : decode cX11_layer 58 = .ok (.aload_n 0, 1) := dk_42 (dk_at dksX11_layer_2 10 rfl rfl)
theorem dX11_layer_59 : decode cX11_layer 59 = .ok (.getfield 39, 3) := dk_180 0 39 (dk_at dksX11_layer_2 11 rfl rfl)
theorem dX11_layer_62 : decode cX11_layer 62 = .ok (.iload_n 1, 1) := dk_27 (dk_at dksX11_layer_2 14 rfl rfl)
theorem dX11_layer_63 : decode cX11_layer 63 = .ok (.iaload, 1) := dk_46 (dk_at dksX11_layer_2 15 rfl rfl)
theorem dX11_layer_64 : decode cX11_layer 64 = .ok (.i2l, 1) := dk_133 (dk_at dksX11_layer_2 16 rfl rfl)
theorem dX11_layer_65 : decode cX11_layer 65 = .ok (.goto 25, 3) := dk_167 0 25 (dk_at dksX11_layer_2 17 rfl rfl)
theorem dX11_layer_68 : decode cX11_layer 68 = .ok (.iload_n 2, 1) := dk_28 (dk_at dksX11_layer_2 20 rfl rfl)
theorem dX11_layer_69 : decode cX11_layer 69 = .ok (.iconst 2, 1) := dk_5 (dk_at dksX11_layer_2 21 rfl rfl)
theorem dX11_layer_70 : decode cX11_layer 70 = .ok (.if_icmp .ne 13, 3) := dk_160 0 13 (dk_at dksX11_layer_3 0 rfl rfl)
theorem dX11_layer_73 : decode cX11_layer 73 = .ok (.aload_n 0, 1) := dk_42 (dk_at dksX11_layer_3 3 rfl rfl)
theorem dX11_layer_74 : decode cX11_layer 74 = .ok (.getfield 42, 3) := dk_180 0 42 (dk_at dksX11_layer_3 4 rfl rfl)
theorem dX11_layer_77 : decode cX11_layer 77 = .ok (.iload_n 1, 1) := dk_27 (dk_at dksX11_layer_3 7 rfl rfl)
theorem dX11_layer_78 : decode cX11_layer 78 = .ok (.iaload, 1) := dk_46 (dk_at dksX11_layer_3 8 rfl rfl)
theorem dX11_layer_79 : decode cX11_layer 79 = .ok (.i2l, 1) := dk_133 (dk_at dksX11_layer_3 9 rfl rfl)
theorem dX11_layer_80 : decode cX11_layer 80 = .ok (.goto 10, 3) := dk_167 0 10 (dk_at dksX11_layer_3 10 rfl rfl)
theorem dX11_layer_83 : decode cX11_layer 83 = .ok (.aload_n 0, 1) := dk_42 (dk_at dksX11_layer_3 13 rfl rfl)
theorem dX11_layer_84 : decode cX11_layer 84 = .ok (.getfield 45, 3) := dk_180 0 45 (dk_at dksX11_layer_3 14 rfl rfl)
theorem dX11_layer_87 : decode cX11_layer 87 = .ok (.iload_n 1, 1) := dk_27 (dk_at dksX11_layer_3 17 rfl rfl)
theorem dX11_layer_88 : decode cX11_layer 88 = .ok (.iaload, 1) := dk_46 (dk_at dksX11_layer_3 18 rfl rfl)
theorem dX11_layer_89 : decode cX11_layer 89 = .ok (.i2l, 1) := dk_133 (dk_at dksX11_layer_3 19 rfl rfl)
theorem dX11_layer_90 : decode cX11_layer 90 = .ok (.lreturn, 1) := dk_173 (dk_at dksX11_layer_3 20 rfl rfl)
theorem dX11_layer_91 : decode cX11_layer 91 = .ok (.iload_n 2, 1) := dk_28 (dk_at dksX11_layer_3 21 rfl rfl)
theorem dX11_layer_92 : decode cX11_layer 92 = .ok (.bipush 7, 2) := dk_16 7 (dk_at dksX11_layer_3 22 rfl rfl)
theorem dX11_layer_94 : decode cX11_layer 94 = .ok (.if_icmp .ge 37, 3) := dk_162 0 37 (dk_at dksX11_layer_4 0 rfl rfl)
theorem dX11_layer_97 : decode cX11_layer 97 = .ok (.iload_n 2, 1) := dk_28 (dk_at dksX11_layer_4 3 rfl rfl)
theorem dX11_layer_98 : decode cX11_layer 98 = .ok (.iconst 4, 1) := dk_7 (dk_at dksX11_layer_4 4 rfl rfl)
theorem dX11_layer_99 : decode cX11_layer 99 = .ok (.if_icmp .ne 12, 3) := dk_160 0 12 (dk_at dksX11_layer_4 5 rfl rfl)
theorem dX11_layer_102 : decode cX11_layer 102 = .ok (.aload_n 0, 1) := dk_42 (dk_at dksX11_layer_4 8 rfl rfl)
theorem dX11_layer_103 : decode cX11_layer 103 = .ok (.getfield 57, 3) := dk_180 0 57 (dk_at dksX11_layer_4 9 rfl rfl)
theorem dX11_layer_106 : decode cX11_layer 106 = .ok (.iload_n 1, 1) := dk_27 (dk_at dksX11_layer_4 12 rfl rfl)
theorem dX11_layer_107 : decode cX11_layer 107 = .ok (.laload, 1) := dk_47 (dk_at dksX11_layer_4 13 rfl rfl)
theorem dX11_layer_108 : decode cX11_layer 108 = .ok (.goto 22, 3) := dk_167 0 22 (dk_at dksX11_layer_4 14 rfl rfl)
theorem dX11_layer_111 : decode cX11_layer 111 = .ok (.iload_n 2, 1) := dk_28 (dk_at dksX11_layer_4 17 rfl rfl)
theorem dX11_layer_112 : decode cX11_layer 112 = .ok (.iconst 5, 1) := dk_8 (dk_at dksX11_layer_4 18 rfl rfl)
theorem dX11_layer_113 : decode cX11_layer 113 = .ok (.if_icmp .ne 11, 3) := dk_160 0 11 (dk_at dksX11_layer_4 19 rfl rfl)
theorem dX11_layer_116 : decode cX11_layer 116 = .ok (.aload_n 0, 1) := dk_42 (dk_at dksX11_layer_4 22 rfl rfl)
theorem dX11_layer_117 : decode cX11_layer 117 = .ok (.iload_n 1, 1) := dk_27 (dk_at dksX11_layer_4 23 rfl rfl)
theorem dX11_layer_118 : decode cX11_layer 118 = .ok (.invokevirtual 175, 3) := dk_182 0 175 (dk_at dksX11_layer_5 0 rfl rfl)
theorem dX11_layer_121 : decode cX11_layer 121 = .ok (.goto 9, 3) := dk_167 0 9 (dk_at dksX11_layer_5 3 rfl rfl)
theorem dX11_layer_124 : decode cX11_layer 124 = .ok (.aload_n 0, 1) := dk_42 (dk_at dksX11_layer_5 6 rfl rfl)
theorem dX11_layer_125 : decode cX11_layer 125 = .ok (.iload_n 1, 1) := dk_27 (dk_at dksX11_layer_5 7 rfl rfl)
theorem dX11_layer_126 : decode cX11_layer 126 = .ok (.invokevirtual 172, 3) := dk_182 0 172 (dk_at dksX11_layer_5 8 rfl rfl)
theorem dX11_layer_129 : decode cX11_layer 129 = .ok (.i2l, 1) := dk_133 (dk_at dksX11_layer_5 11 rfl rfl)
theorem dX11_layer_130 : decode cX11_layer 130 = .ok (.lreturn, 1) := dk_173 (dk_at dksX11_layer_5 12 rfl rfl)
theorem dX11_layer_131 : decode cX11_layer 131 = .ok (.iload_n 2, 1) := dk_28 (dk_at dksX11_layer_5 13 rfl rfl)
theorem dX11_layer_132 : decode cX11_layer 132 = .ok (.bipush 7, 2) := dk_16 7 (dk_at dksX11_layer_5 14 rfl rfl)
theorem dX11_layer_134 : decode cX11_layer 134 = .ok (.if_icmp .ne 11, 3) := dk_160 0 11 (dk_at dksX11_layer_5 16 rfl rfl)
theorem dX11_layer_137 : decode cX11_layer 137 = .ok (.aload_n 0, 1) := dk_42 (dk_at dksX11_layer_5 19 rfl rfl)
theorem dX11_layer_138 : decode cX11_layer 138 = .ok (.getfield 48, 3) := dk_180 0 48 (dk_at dksX11_layer_5 20 rfl rfl)
theorem dX11_layer_141 : decode cX11_layer 141 = .ok (.iload_n 1, 1) := dk_27 (dk_at dksX11_layer_5 23 rfl rfl)
theorem dX11_layer_142 : decode cX11_layer 142 = .ok (.iaload, 1) := dk_46 (dk_at dksX11_layer_6 0 rfl rfl)
theorem dX11_layer_143 : decode cX11_layer 143 = .ok (.i2l, 1) := dk_133 (dk_at dksX11_layer_6 1 rfl rfl)
theorem dX11_layer_144 : decode cX11_layer 144 = .ok (.lreturn, 1) := dk_173 (dk_at dksX11_layer_6 2 rfl rfl)
theorem dX11_layer_145 : decode cX11_layer 145 = .ok (.iload_n 2, 1) := dk_28 (dk_at dksX11_layer_6 3 rfl rfl)
theorem dX11_layer_146 : decode cX11_layer 146 = .ok (.bipush 8, 2) := dk_16 8 (dk_at dksX11_layer_6 4 rfl rfl)
theorem dX11_layer_148 : decode cX11_layer 148 = .ok (.if_icmp .ne 15, 3) := dk_160 0 15 (dk_at dksX11_layer_6 6 rfl rfl)
theorem dX11_layer_151 : decode cX11_layer 151 = .ok (.bipush 10, 2) := dk_16 10 (dk_at dksX11_layer_6 9 rfl rfl)
theorem dX11_layer_153 : decode cX11_layer 153 = .ok (.aload_n 0, 1) := dk_42 (dk_at dksX11_layer_6 11 rfl rfl)
theorem dX11_layer_154 : decode cX11_layer 154 = .ok (.iload_n 1, 1) := dk_27 (dk_at dksX11_layer_6 12 rfl rfl)
theorem dX11_layer_155 : decode cX11_layer 155 = .ok (.invokevirtual 286, 3) := dk_182 1 30 (dk_at dksX11_layer_6 13 rfl rfl)
theorem dX11_layer_158 : decode cX11_layer 158 = .ok (.isub, 1) := dk_100 (dk_at dksX11_layer_6 16 rfl rfl)
theorem dX11_layer_159 : decode cX11_layer 159 = .ok (.i2l, 1) := dk_133 (dk_at dksX11_layer_6 17 rfl rfl)
theorem dX11_layer_160 : decode cX11_layer 160 = .ok (.goto 33, 3) := dk_167 0 33 (dk_at dksX11_layer_6 18 rfl rfl)
theorem dX11_layer_163 : decode cX11_layer 163 = .ok (.iload_n 2, 1) := dk_28 (dk_at dksX11_layer_6 21 rfl rfl)
theorem dX11_layer_164 : decode cX11_layer 164 = .ok (.bipush 9, 2) := dk_16 9 (dk_at dksX11_layer_6 22 rfl rfl)
theorem dX11_layer_166 : decode cX11_layer 166 = .ok (.if_icmp .ne 12, 3) := dk_160 0 12 (dk_at dksX11_layer_7 0 rfl rfl)
theorem dX11_layer_169 : decode cX11_layer 169 = .ok (.aload_n 0, 1) := dk_42 (dk_at dksX11_layer_7 3 rfl rfl)
theorem dX11_layer_170 : decode cX11_layer 170 = .ok (.iload_n 1, 1) := dk_27 (dk_at dksX11_layer_7 4 rfl rfl)
theorem dX11_layer_171 : decode cX11_layer 171 = .ok (.invokevirtual 416, 3) := dk_182 1 160 (dk_at dksX11_layer_7 5 rfl rfl)
theorem dX11_layer_174 : decode cX11_layer 174 = .ok (.i2l, 1) := dk_133 (dk_at dksX11_layer_7 8 rfl rfl)
theorem dX11_layer_175 : decode cX11_layer 175 = .ok (.goto 18, 3) := dk_167 0 18 (dk_at dksX11_layer_7 9 rfl rfl)
theorem dX11_layer_178 : decode cX11_layer 178 = .ok (.aload_n 0, 1) := dk_42 (dk_at dksX11_layer_7 12 rfl rfl)
theorem dX11_layer_179 : decode cX11_layer 179 = .ok (.iload_n 1, 1) := dk_27 (dk_at dksX11_layer_7 13 rfl rfl)
theorem dX11_layer_180 : decode cX11_layer 180 = .ok (.invokevirtual 175, 3) := dk_182 0 175 (dk_at dksX11_layer_7 14 rfl rfl)
theorem dX11_layer_183 : decode cX11_layer 183 = .ok (.lconst 0, 1) := dk_9 (dk_at dksX11_layer_7 17 rfl rfl)
theorem dX11_layer_184 : decode cX11_layer 184 = .ok (.lcmp, 1) := dk_148 (dk_at dksX11_layer_7 18 rfl rfl)
theorem dX11_layer_185 : decode cX11_layer 185 = .ok (.ifCond .ne 7, 3) := dk_154 0 7 (dk_at dksX11_layer_7 19 rfl rfl)
theorem dX11_layer_188 : decode cX11_layer 188 = .ok (.lconst 1, 1) := dk_10 (dk_at dksX11_layer_7 22 rfl rfl)
theorem dX11_layer_189 : decode cX11_layer 189 = .ok (.goto 4, 3) := dk_167 0 4 (dk_at dksX11_layer_8 0 rfl rfl)
theorem dX11_layer_192 : decode cX11_layer 192 = .ok (.lconst 0, 1) := dk_9 (dk_at dksX11_layer_8 3 rfl rfl)
theorem dX11_layer_193 : decode cX11_layer 193 = .ok (.lreturn, 1) := dk_173 (dk_at dksX11_layer_8 4 rfl rfl)
abbrev cX11_rungAt : ByteArray := prog_16_method_87_code
def yX11_rungAt : MethodName := ⟨RX11, "rungAt", "(I)I"⟩
def dkwX11_rungAt_1 : List UInt8 := [172]
abbrev dktX11_rungAt_1 : List UInt8 := dkwX11_rungAt_1 ++ []
def dkwX11_rungAt_0 : List UInt8 := [3, 61, 42, 42, 180, 0, 36, 27, 46, 28, 182, 0, 161, 27, 159, 0, 9, 132, 2, 1, 167, 255, 238, 28]
abbrev dktX11_rungAt_0 : List UInt8 := dkwX11_rungAt_0 ++ dktX11_rungAt_1
theorem dksX11_rungAt_0 : cX11_rungAt.data.toList.drop 0 = dktX11_rungAt_0 := by decide +kernel
theorem dksX11_rungAt_1 : cX11_rungAt.data.toList.drop 24 = dktX11_rungAt_1 := dk_seg dksX11_rungAt_0 24 rfl rfl
theorem dX11_rungAt_0 : decode cX11_rungAt 0 = .ok (.iconst 0, 1) := dk_3 (dk_at dksX11_rungAt_0 0 rfl rfl)
theorem dX11_rungAt_1 : decode cX11_rungAt 1 = .ok (.istore_n 2, 1) := dk_61 (dk_at dksX11_rungAt_0 1 rfl rfl)
theorem dX11_rungAt_2 : decode cX11_rungAt 2 = .ok (.aload_n 0, 1) := dk_42 (dk_at dksX11_rungAt_0 2 rfl rfl)
theorem dX11_rungAt_3 : decode cX11_rungAt 3 = .ok (.aload_n 0, 1) := dk_42 (dk_at dksX11_rungAt_0 3 rfl rfl)
theorem dX11_rungAt_4 : decode cX11_rungAt 4 = .ok (.getfield 36, 3) := dk_180 0 36 (dk_at dksX11_rungAt_0 4 rfl rfl)
theorem dX11_rungAt_7 : decode cX11_rungAt 7 = .ok (.iload_n 1, 1) := dk_27 (dk_at dksX11_rungAt_0 7 rfl rfl)
theorem dX11_rungAt_8 : decode cX11_rungAt 8 = .ok (.iaload, 1) := dk_46 (dk_at dksX11_rungAt_0 8 rfl rfl)
theorem dX11_rungAt_9 : decode cX11_rungAt 9 = .ok (.iload_n 2, 1) := dk_28 (dk_at dksX11_rungAt_0 9 rfl rfl)
theorem dX11_rungAt_10 : decode cX11_rungAt 10 = .ok (.invokevirtual 161, 3) := dk_182 0 161 (dk_at dksX11_rungAt_0 10 rfl rfl)
theorem dX11_rungAt_13 : decode cX11_rungAt 13 = .ok (.iload_n 1, 1) := dk_27 (dk_at dksX11_rungAt_0 13 rfl rfl)
theorem dX11_rungAt_14 : decode cX11_rungAt 14 = .ok (.if_icmp .eq 9, 3) := dk_159 0 9 (dk_at dksX11_rungAt_0 14 rfl rfl)
theorem dX11_rungAt_17 : decode cX11_rungAt 17 = .ok (.iinc 2 1, 3) := dk_132 2 1 (dk_at dksX11_rungAt_0 17 rfl rfl)
theorem dX11_rungAt_20 : decode cX11_rungAt 20 = .ok (.goto (-18), 3) := dk_167 255 238 (dk_at dksX11_rungAt_0 20 rfl rfl)
theorem dX11_rungAt_23 : decode cX11_rungAt 23 = .ok (.iload_n 2, 1) := dk_28 (dk_at dksX11_rungAt_0 23 rfl rfl)
theorem dX11_rungAt_24 : decode cX11_rungAt 24 = .ok (.ireturn, 1) := dk_172 (dk_at dksX11_rungAt_1 0 rfl rfl)
abbrev cX11_signed : ByteArray := prog_16_method_89_code
def yX11_signed : MethodName := ⟨RX11, "signed", "(III)J"⟩
def dkwX11_signed_5 : List UInt8 := [21, 6, 104, 7, 27, 104, 96, 28, 96, 46, 133, 97, 55, 4, 132, 6, 1, 167, 255, 223, 22, 4, 173]
abbrev dktX11_signed_5 : List UInt8 := dkwX11_signed_5 ++ []
def dkwX11_signed_4 : List UInt8 := [173, 9, 55, 4, 3, 54, 6, 21, 6, 16, 24, 162, 0, 32, 22, 4, 42, 180, 0, 85, 17, 0, 160]
abbrev dktX11_signed_4 : List UInt8 := dkwX11_signed_4 ++ dktX11_signed_5
def dkwX11_signed_3 : List UInt8 := [180, 0, 51, 7, 27, 104, 28, 96, 46, 133, 167, 0, 14, 42, 180, 0, 54, 7, 27, 104, 28, 96, 46, 133]
abbrev dktX11_signed_3 : List UInt8 := dkwX11_signed_3 ++ dktX11_signed_4
def dkwX11_signed_2 : List UInt8 := [28, 42, 180, 0, 48, 27, 46, 161, 0, 7, 20, 1, 163, 173, 29, 5, 162, 0, 33, 29, 154, 0, 17, 42]
abbrev dktX11_signed_2 : List UInt8 := dkwX11_signed_2 ++ dktX11_signed_3
def dkwX11_signed_1 : List UInt8 := [20, 0, 246, 184, 1, 96, 153, 0, 7, 4, 167, 0, 4, 3, 5, 4, 182, 1, 90, 154, 0, 5, 9, 173]
abbrev dktX11_signed_1 : List UInt8 := dkwX11_signed_1 ++ dktX11_signed_2
def dkwX11_signed_0 : List UInt8 := [42, 3, 181, 0, 1, 42, 27, 4, 182, 1, 118, 153, 0, 33, 42, 28, 155, 0, 19, 29, 133, 9]
abbrev dktX11_signed_0 : List UInt8 := dkwX11_signed_0 ++ dktX11_signed_1
theorem dksX11_signed_0 : cX11_signed.data.toList.drop 0 = dktX11_signed_0 := by decide +kernel
theorem dksX11_signed_1 : cX11_signed.data.toList.drop 22 = dktX11_signed_1 := dk_seg dksX11_signed_0 22 rfl rfl
theorem dksX11_signed_2 : cX11_signed.data.toList.drop 46 = dktX11_signed_2 := dk_seg dksX11_signed_1 24 rfl rfl
theorem dksX11_signed_3 : cX11_signed.data.toList.drop 70 = dktX11_signed_3 := dk_seg dksX11_signed_2 24 rfl rfl
theorem dksX11_signed_4 : cX11_signed.data.toList.drop 94 = dktX11_signed_4 := dk_seg dksX11_signed_3 24 rfl rfl
theorem dksX11_signed_5 : cX11_signed.data.toList.drop 117 = dktX11_signed_5 := dk_seg dksX11_signed_4 23 rfl rfl
theorem dX11_signed_0 : decode cX11_signed 0 = .ok (.aload_n 0, 1) := dk_42 (dk_at dksX11_signed_0 0 rfl rfl)
theorem dX11_signed_1 : decode cX11_signed 1 = .ok (.iconst 0, 1) := dk_3 (dk_at dksX11_signed_0 1 rfl rfl)
theorem dX11_signed_2 : decode cX11_signed 2 = .ok (.putfield 1, 3) := dk_181 0 1 (dk_at dksX11_signed_0 2 rfl rfl)
theorem dX11_signed_5 : decode cX11_signed 5 = .ok (.aload_n 0, 1) := dk_42 (dk_at dksX11_signed_0 5 rfl rfl)
theorem dX11_signed_6 : decode cX11_signed 6 = .ok (.iload_n 1, 1) := dk_27 (dk_at dksX11_signed_0 6 rfl rfl)
theorem dX11_signed_7 : decode cX11_signed 7 = .ok (.iconst 1, 1) := dk_4 (dk_at dksX11_signed_0 7 rfl rfl)
theorem dX11_signed_8 : decode cX11_signed 8 = .ok (.invokevirtual 374, 3) := dk_182 1 118 (dk_at dksX11_signed_0 8 rfl rfl)
theorem dX11_signed_11 : decode cX11_signed 11 = .ok (.ifCond .eq 33, 3) := dk_153 0 33 (dk_at dksX11_signed_0 11 rfl rfl)
theorem dX11_signed_14 : decode cX11_signed 14 = .ok (.aload_n 0, 1) := dk_42 (dk_at dksX11_signed_0 14 rfl rfl)
theorem dX11_signed_15 : decode cX11_signed 15 = .ok (.iload_n 2, 1) := dk_28 (dk_at dksX11_signed_0 15 rfl rfl)
theorem dX11_signed_16 : decode cX11_signed 16 = .ok (.ifCond .lt 19, 3) := dk_155 0 19 (dk_at dksX11_signed_0 16 rfl rfl)
theorem dX11_signed_19 : decode cX11_signed 19 = .ok (.iload_n 3, 1) := dk_29 (dk_at dksX11_signed_0 19 rfl rfl)
theorem dX11_signed_20 : decode cX11_signed 20 = .ok (.i2l, 1) := dk_133 (dk_at dksX11_signed_0 20 rfl rfl)
theorem dX11_signed_21 : decode cX11_signed 21 = .ok (.lconst 0, 1) := dk_9 (dk_at dksX11_signed_0 21 rfl rfl)
theorem dX11_signed_22 : decode cX11_signed 22 = .ok (.ldc2_w 246, 3) := dk_20 0 246 (dk_at dksX11_signed_1 0 rfl rfl)
theorem dX11_signed_25 : decode cX11_signed 25 = .ok (.invokestatic 352, 3) := dk_184 1 96 (dk_at dksX11_signed_1 3 rfl rfl)
theorem dX11_signed_28 : decode cX11_signed 28 = .ok (.ifCond .eq 7, 3) := dk_153 0 7 (dk_at dksX11_signed_1 6 rfl rfl)
theorem dX11_signed_31 : decode cX11_signed 31 = .ok (.iconst 1, 1) := dk_4 (dk_at dksX11_signed_1 9 rfl rfl)
theorem dX11_signed_32 : decode cX11_signed 32 = .ok (.goto 4, 3) := dk_167 0 4 (dk_at dksX11_signed_1 10 rfl rfl)
theorem dX11_signed_35 : decode cX11_signed 35 = .ok (.iconst 0, 1) := dk_3 (dk_at dksX11_signed_1 13 rfl rfl)
theorem dX11_signed_36 : decode cX11_signed 36 = .ok (.iconst 2, 1) := dk_5 (dk_at dksX11_signed_1 14 rfl rfl)
theorem dX11_signed_37 : decode cX11_signed 37 = .ok (.iconst 1, 1) := dk_4 (dk_at dksX11_signed_1 15 rfl rfl)
theorem dX11_signed_38 : decode cX11_signed 38 = .ok (.invokevirtual 346, 3) := dk_182 1 90 (dk_at dksX11_signed_1 16 rfl rfl)
theorem dX11_signed_41 : decode cX11_signed 41 = .ok (.ifCond .ne 5, 3) := dk_154 0 5 (dk_at dksX11_signed_1 19 rfl rfl)
theorem dX11_signed_44 : decode cX11_signed 44 = .ok (.lconst 0, 1) := dk_9 (dk_at dksX11_signed_1 22 rfl rfl)
theorem dX11_signed_45 : decode cX11_signed 45 = .ok (.lreturn, 1) := dk_173 (dk_at dksX11_signed_1 23 rfl rfl)
theorem dX11_signed_46 : decode cX11_signed 46 = .ok (.iload_n 2, 1) := dk_28 (dk_at dksX11_signed_2 0 rfl rfl)
theorem dX11_signed_47 : decode cX11_signed 47 = .ok (.aload_n 0, 1) := dk_42 (dk_at dksX11_signed_2 1 rfl rfl)
theorem dX11_signed_48 : decode cX11_signed 48 = .ok (.getfield 48, 3) := dk_180 0 48 (dk_at dksX11_signed_2 2 rfl rfl)
theorem dX11_signed_51 : decode cX11_signed 51 = .ok (.iload_n 1, 1) := dk_27 (dk_at dksX11_signed_2 5 rfl rfl)
theorem dX11_signed_52 : decode cX11_signed 52 = .ok (.iaload, 1) := dk_46 (dk_at dksX11_signed_2 6 rfl rfl)
theorem dX11_signed_53 : decode cX11_signed 53 = .ok (.if_icmp .lt 7, 3) := dk_161 0 7 (dk_at dksX11_signed_2 7 rfl rfl)
theorem dX11_signed_56 : decode cX11_signed 56 = .ok (.ldc2_w 419, 3) := dk_20 1 163 (dk_at dksX11_signed_2 10 rfl rfl)
theorem dX11_signed_59 : decode cX11_signed 59 = .ok (.lreturn, 1) := dk_173 (dk_at dksX11_signed_2 13 rfl rfl)
theorem dX11_signed_60 : decode cX11_signed 60 = .ok (.iload_n 3, 1) := dk_29 (dk_at dksX11_signed_2 14 rfl rfl)
theorem dX11_signed_61 : decode cX11_signed 61 = .ok (.iconst 2, 1) := dk_5 (dk_at dksX11_signed_2 15 rfl rfl)
theorem dX11_signed_62 : decode cX11_signed 62 = .ok (.if_icmp .ge 33, 3) := dk_162 0 33 (dk_at dksX11_signed_2 16 rfl rfl)
theorem dX11_signed_65 : decode cX11_signed 65 = .ok (.iload_n 3, 1) := dk_29 (dk_at dksX11_signed_2 19 rfl rfl)
theorem dX11_signed_66 : decode cX11_signed 66 = .ok (.ifCond .ne 17, 3) := dk_154 0 17 (dk_at dksX11_signed_2 20 rfl rfl)
theorem dX11_signed_69 : decode cX11_signed 69 = .ok (.aload_n 0, 1) := dk_42 (dk_at dksX11_signed_2 23 rfl rfl)
theorem dX11_signed_70 : decode cX11_signed 70 = .ok (.getfield 51, 3) := dk_180 0 51 (dk_at dksX11_signed_3 0 rfl rfl)
theorem dX11_signed_73 : decode cX11_signed 73 = .ok (.iconst 4, 1) := dk_7 (dk_at dksX11_signed_3 3 rfl rfl)
theorem dX11_signed_74 : decode cX11_signed 74 = .ok (.iload_n 1, 1) := dk_27 (dk_at dksX11_signed_3 4 rfl rfl)
theorem dX11_signed_75 : decode cX11_signed 75 = .ok (.imul, 1) := dk_104 (dk_at dksX11_signed_3 5 rfl rfl)
theorem dX11_signed_76 : decode cX11_signed 76 = .ok (.iload_n 2, 1) := dk_28 (dk_at dksX11_signed_3 6 rfl rfl)
theorem dX11_signed_77 : decode cX11_signed 77 = .ok (.iadd, 1) := dk_96 (dk_at dksX11_signed_3 7 rfl rfl)
theorem dX11_signed_78 : decode cX11_signed 78 = .ok (.iaload, 1) := dk_46 (dk_at dksX11_signed_3 8 rfl rfl)
theorem dX11_signed_79 : decode cX11_signed 79 = .ok (.i2l, 1) := dk_133 (dk_at dksX11_signed_3 9 rfl rfl)
theorem dX11_signed_80 : decode cX11_signed 80 = .ok (.goto 14, 3) := dk_167 0 14 (dk_at dksX11_signed_3 10 rfl rfl)
theorem dX11_signed_83 : decode cX11_signed 83 = .ok (.aload_n 0, 1) := dk_42 (dk_at dksX11_signed_3 13 rfl rfl)
theorem dX11_signed_84 : decode cX11_signed 84 = .ok (.getfield 54, 3) := dk_180 0 54 (dk_at dksX11_signed_3 14 rfl rfl)
theorem dX11_signed_87 : decode cX11_signed 87 = .ok (.iconst 4, 1) := dk_7 (dk_at dksX11_signed_3 17 rfl rfl)
theorem dX11_signed_88 : decode cX11_signed 88 = .ok (.iload_n 1, 1) := dk_27 (dk_at dksX11_signed_3 18 rfl rfl)
theorem dX11_signed_89 : decode cX11_signed 89 = .ok (.imul, 1) := dk_104 (dk_at dksX11_signed_3 19 rfl rfl)
theorem dX11_signed_90 : decode cX11_signed 90 = .ok (.iload_n 2, 1) := dk_28 (dk_at dksX11_signed_3 20 rfl rfl)
theorem dX11_signed_91 : decode cX11_signed 91 = .ok (.iadd, 1) := dk_96 (dk_at dksX11_signed_3 21 rfl rfl)
theorem dX11_signed_92 : decode cX11_signed 92 = .ok (.iaload, 1) := dk_46 (dk_at dksX11_signed_3 22 rfl rfl)
theorem dX11_signed_93 : decode cX11_signed 93 = .ok (.i2l, 1) := dk_133 (dk_at dksX11_signed_3 23 rfl rfl)
theorem dX11_signed_94 : decode cX11_signed 94 = .ok (.lreturn, 1) := dk_173 (dk_at dksX11_signed_4 0 rfl rfl)
theorem dX11_signed_95 : decode cX11_signed 95 = .ok (.lconst 0, 1) := dk_9 (dk_at dksX11_signed_4 1 rfl rfl)
theorem dX11_signed_96 : decode cX11_signed 96 = .ok (.lstore 4, 2) := dk_55 4 (dk_at dksX11_signed_4 2 rfl rfl)
theorem dX11_signed_98 : decode cX11_signed 98 = .ok (.iconst 0, 1) := dk_3 (dk_at dksX11_signed_4 4 rfl rfl)
theorem dX11_signed_99 : decode cX11_signed 99 = .ok (.istore 6, 2) := dk_54 6 (dk_at dksX11_signed_4 5 rfl rfl)
theorem dX11_signed_101 : decode cX11_signed 101 = .ok (.iload 6, 2) := dk_21 6 (dk_at dksX11_signed_4 7 rfl rfl)
theorem dX11_signed_103 : decode cX11_signed 103 = .ok (.bipush 24, 2) := dk_16 24 (dk_at dksX11_signed_4 9 rfl rfl)
theorem dX11_signed_105 : decode cX11_signed 105 = .ok (.if_icmp .ge 32, 3) := dk_162 0 32 (dk_at dksX11_signed_4 11 rfl rfl)
theorem dX11_signed_108 : decode cX11_signed 108 = .ok (.lload 4, 2) := dk_22 4 (dk_at dksX11_signed_4 14 rfl rfl)
theorem dX11_signed_110 : decode cX11_signed 110 = .ok (.aload_n 0, 1) := dk_42 (dk_at dksX11_signed_4 16 rfl rfl)
theorem dX11_signed_111 : decode cX11_signed 111 = .ok (.getfield 85, 3) := dk_180 0 85 (dk_at dksX11_signed_4 17 rfl rfl)
theorem dX11_signed_114 : decode cX11_signed 114 = .ok (.sipush 160, 3) := dk_17 0 160 (dk_at dksX11_signed_4 20 rfl rfl)
theorem dX11_signed_117 : decode cX11_signed 117 = .ok (.iload 6, 2) := dk_21 6 (dk_at dksX11_signed_5 0 rfl rfl)
theorem dX11_signed_119 : decode cX11_signed 119 = .ok (.imul, 1) := dk_104 (dk_at dksX11_signed_5 2 rfl rfl)
theorem dX11_signed_120 : decode cX11_signed 120 = .ok (.iconst 4, 1) := dk_7 (dk_at dksX11_signed_5 3 rfl rfl)
theorem dX11_signed_121 : decode cX11_signed 121 = .ok (.iload_n 1, 1) := dk_27 (dk_at dksX11_signed_5 4 rfl rfl)
theorem dX11_signed_122 : decode cX11_signed 122 = .ok (.imul, 1) := dk_104 (dk_at dksX11_signed_5 5 rfl rfl)
theorem dX11_signed_123 : decode cX11_signed 123 = .ok (.iadd, 1) := dk_96 (dk_at dksX11_signed_5 6 rfl rfl)
theorem dX11_signed_124 : decode cX11_signed 124 = .ok (.iload_n 2, 1) := dk_28 (dk_at dksX11_signed_5 7 rfl rfl)
theorem dX11_signed_125 : decode cX11_signed 125 = .ok (.iadd, 1) := dk_96 (dk_at dksX11_signed_5 8 rfl rfl)
theorem dX11_signed_126 : decode cX11_signed 126 = .ok (.iaload, 1) := dk_46 (dk_at dksX11_signed_5 9 rfl rfl)
theorem dX11_signed_127 : decode cX11_signed 127 = .ok (.i2l, 1) := dk_133 (dk_at dksX11_signed_5 10 rfl rfl)
theorem dX11_signed_128 : decode cX11_signed 128 = .ok (.ladd, 1) := dk_97 (dk_at dksX11_signed_5 11 rfl rfl)
theorem dX11_signed_129 : decode cX11_signed 129 = .ok (.lstore 4, 2) := dk_55 4 (dk_at dksX11_signed_5 12 rfl rfl)
theorem dX11_signed_131 : decode cX11_signed 131 = .ok (.iinc 6 1, 3) := dk_132 6 1 (dk_at dksX11_signed_5 14 rfl rfl)
theorem dX11_signed_134 : decode cX11_signed 134 = .ok (.goto (-33), 3) := dk_167 255 223 (dk_at dksX11_signed_5 17 rfl rfl)
theorem dX11_signed_137 : decode cX11_signed 137 = .ok (.lload 4, 2) := dk_22 4 (dk_at dksX11_signed_5 20 rfl rfl)
theorem dX11_signed_139 : decode cX11_signed 139 = .ok (.lreturn, 1) := dk_173 (dk_at dksX11_signed_5 22 rfl rfl)
abbrev cX11_year : ByteArray := prog_16_method_91_code
def yX11_year : MethodName := ⟨RX11, "year", "(II)J"⟩
def dkwX11_year_4 : List UInt8 := [167, 0, 16, 42, 42, 27, 29, 4, 100, 182, 0, 161, 182, 0, 165, 133, 173]
abbrev dktX11_year_4 : List UInt8 := dkwX11_year_4 ++ []
def dkwX11_year_3 : List UInt8 := [154, 0, 7, 20, 1, 163, 173, 28, 4, 160, 0, 18, 42, 180, 0, 39, 42, 27, 3, 182, 0, 161, 46, 133]
abbrev dktX11_year_3 : List UInt8 := dkwX11_year_3 ++ dktX11_year_4
def dkwX11_year_2 : List UInt8 := [182, 0, 169, 62, 28, 154, 0, 6, 29, 133, 173, 28, 5, 164, 0, 10, 42, 27, 28, 182, 1, 167, 173, 29]
abbrev dktX11_year_2 : List UInt8 := dkwX11_year_2 ++ dktX11_year_3
def dkwX11_year_1 : List UInt8 := [184, 1, 96, 153, 0, 7, 4, 167, 0, 4, 3, 4, 4, 182, 1, 90, 154, 0, 5, 9, 173, 42, 27]
abbrev dktX11_year_1 : List UInt8 := dkwX11_year_1 ++ dktX11_year_2
def dkwX11_year_0 : List UInt8 := [42, 3, 181, 0, 1, 42, 27, 133, 9, 20, 1, 94, 184, 1, 96, 153, 0, 19, 28, 133, 9, 20, 1, 165]
abbrev dktX11_year_0 : List UInt8 := dkwX11_year_0 ++ dktX11_year_1
theorem dksX11_year_0 : cX11_year.data.toList.drop 0 = dktX11_year_0 := by decide +kernel
theorem dksX11_year_1 : cX11_year.data.toList.drop 24 = dktX11_year_1 := dk_seg dksX11_year_0 24 rfl rfl
theorem dksX11_year_2 : cX11_year.data.toList.drop 47 = dktX11_year_2 := dk_seg dksX11_year_1 23 rfl rfl
theorem dksX11_year_3 : cX11_year.data.toList.drop 71 = dktX11_year_3 := dk_seg dksX11_year_2 24 rfl rfl
theorem dksX11_year_4 : cX11_year.data.toList.drop 95 = dktX11_year_4 := dk_seg dksX11_year_3 24 rfl rfl
theorem dX11_year_0 : decode cX11_year 0 = .ok (.aload_n 0, 1) := dk_42 (dk_at dksX11_year_0 0 rfl rfl)
theorem dX11_year_1 : decode cX11_year 1 = .ok (.iconst 0, 1) := dk_3 (dk_at dksX11_year_0 1 rfl rfl)
theorem dX11_year_2 : decode cX11_year 2 = .ok (.putfield 1, 3) := dk_181 0 1 (dk_at dksX11_year_0 2 rfl rfl)
theorem dX11_year_5 : decode cX11_year 5 = .ok (.aload_n 0, 1) := dk_42 (dk_at dksX11_year_0 5 rfl rfl)
theorem dX11_year_6 : decode cX11_year 6 = .ok (.iload_n 1, 1) := dk_27 (dk_at dksX11_year_0 6 rfl rfl)
theorem dX11_year_7 : decode cX11_year 7 = .ok (.i2l, 1) := dk_133 (dk_at dksX11_year_0 7 rfl rfl)
theorem dX11_year_8 : decode cX11_year 8 = .ok (.lconst 0, 1) := dk_9 (dk_at dksX11_year_0 8 rfl rfl)
theorem dX11_year_9 : decode cX11_year 9 = .ok (.ldc2_w 350, 3) := dk_20 1 94 (dk_at dksX11_year_0 9 rfl rfl)
theorem dX11_year_12 : decode cX11_year 12 = .ok (.invokestatic 352, 3) := dk_184 1 96 (dk_at dksX11_year_0 12 rfl rfl)
theorem dX11_year_15 : decode cX11_year 15 = .ok (.ifCond .eq 19, 3) := dk_153 0 19 (dk_at dksX11_year_0 15 rfl rfl)
theorem dX11_year_18 : decode cX11_year 18 = .ok (.iload_n 2, 1) := dk_28 (dk_at dksX11_year_0 18 rfl rfl)
theorem dX11_year_19 : decode cX11_year 19 = .ok (.i2l, 1) := dk_133 (dk_at dksX11_year_0 19 rfl rfl)
theorem dX11_year_20 : decode cX11_year 20 = .ok (.lconst 0, 1) := dk_9 (dk_at dksX11_year_0 20 rfl rfl)
theorem dX11_year_21 : decode cX11_year 21 = .ok (.ldc2_w 421, 3) := dk_20 1 165 (dk_at dksX11_year_0 21 rfl rfl)
theorem dX11_year_24 : decode cX11_year 24 = .ok (.invokestatic 352, 3) := dk_184 1 96 (dk_at dksX11_year_1 0 rfl rfl)
theorem dX11_year_27 : decode cX11_year 27 = .ok (.ifCond .eq 7, 3) := dk_153 0 7 (dk_at dksX11_year_1 3 rfl rfl)
theorem dX11_year_30 : decode cX11_year 30 = .ok (.iconst 1, 1) := dk_4 (dk_at dksX11_year_1 6 rfl rfl)
theorem dX11_year_31 : decode cX11_year 31 = .ok (.goto 4, 3) := dk_167 0 4 (dk_at dksX11_year_1 7 rfl rfl)
theorem dX11_year_34 : decode cX11_year 34 = .ok (.iconst 0, 1) := dk_3 (dk_at dksX11_year_1 10 rfl rfl)
theorem dX11_year_35 : decode cX11_year 35 = .ok (.iconst 1, 1) := dk_4 (dk_at dksX11_year_1 11 rfl rfl)
theorem dX11_year_36 : decode cX11_year 36 = .ok (.iconst 1, 1) := dk_4 (dk_at dksX11_year_1 12 rfl rfl)
theorem dX11_year_37 : decode cX11_year 37 = .ok (.invokevirtual 346, 3) := dk_182 1 90 (dk_at dksX11_year_1 13 rfl rfl)
theorem dX11_year_40 : decode cX11_year 40 = .ok (.ifCond .ne 5, 3) := dk_154 0 5 (dk_at dksX11_year_1 16 rfl rfl)
theorem dX11_year_43 : decode cX11_year 43 = .ok (.lconst 0, 1) := dk_9 (dk_at dksX11_year_1 19 rfl rfl)
theorem dX11_year_44 : decode cX11_year 44 = .ok (.lreturn, 1) := dk_173 (dk_at dksX11_year_1 20 rfl rfl)
theorem dX11_year_45 : decode cX11_year 45 = .ok (.aload_n 0, 1) := dk_42 (dk_at dksX11_year_1 21 rfl rfl)
theorem dX11_year_46 : decode cX11_year 46 = .ok (.iload_n 1, 1) := dk_27 (dk_at dksX11_year_1 22 rfl rfl)
theorem dX11_year_47 : decode cX11_year 47 = .ok (.invokevirtual 169, 3) := dk_182 0 169 (dk_at dksX11_year_2 0 rfl rfl)
theorem dX11_year_50 : decode cX11_year 50 = .ok (.istore_n 3, 1) := dk_62 (dk_at dksX11_year_2 3 rfl rfl)
theorem dX11_year_51 : decode cX11_year 51 = .ok (.iload_n 2, 1) := dk_28 (dk_at dksX11_year_2 4 rfl rfl)
theorem dX11_year_52 : decode cX11_year 52 = .ok (.ifCond .ne 6, 3) := dk_154 0 6 (dk_at dksX11_year_2 5 rfl rfl)
theorem dX11_year_55 : decode cX11_year 55 = .ok (.iload_n 3, 1) := dk_29 (dk_at dksX11_year_2 8 rfl rfl)
theorem dX11_year_56 : decode cX11_year 56 = .ok (.i2l, 1) := dk_133 (dk_at dksX11_year_2 9 rfl rfl)
theorem dX11_year_57 : decode cX11_year 57 = .ok (.lreturn, 1) := dk_173 (dk_at dksX11_year_2 10 rfl rfl)
theorem dX11_year_58 : decode cX11_year 58 = .ok (.iload_n 2, 1) := dk_28 (dk_at dksX11_year_2 11 rfl rfl)
theorem dX11_year_59 : decode cX11_year 59 = .ok (.iconst 2, 1) := dk_5 (dk_at dksX11_year_2 12 rfl rfl)
theorem dX11_year_60 : decode cX11_year 60 = .ok (.if_icmp .le 10, 3) := dk_164 0 10 (dk_at dksX11_year_2 13 rfl rfl)
theorem dX11_year_63 : decode cX11_year 63 = .ok (.aload_n 0, 1) := dk_42 (dk_at dksX11_year_2 16 rfl rfl)
theorem dX11_year_64 : decode cX11_year 64 = .ok (.iload_n 1, 1) := dk_27 (dk_at dksX11_year_2 17 rfl rfl)
theorem dX11_year_65 : decode cX11_year 65 = .ok (.iload_n 2, 1) := dk_28 (dk_at dksX11_year_2 18 rfl rfl)
theorem dX11_year_66 : decode cX11_year 66 = .ok (.invokevirtual 423, 3) := dk_182 1 167 (dk_at dksX11_year_2 19 rfl rfl)
theorem dX11_year_69 : decode cX11_year 69 = .ok (.lreturn, 1) := dk_173 (dk_at dksX11_year_2 22 rfl rfl)
theorem dX11_year_70 : decode cX11_year 70 = .ok (.iload_n 3, 1) := dk_29 (dk_at dksX11_year_2 23 rfl rfl)
theorem dX11_year_71 : decode cX11_year 71 = .ok (.ifCond .ne 7, 3) := dk_154 0 7 (dk_at dksX11_year_3 0 rfl rfl)
theorem dX11_year_74 : decode cX11_year 74 = .ok (.ldc2_w 419, 3) := dk_20 1 163 (dk_at dksX11_year_3 3 rfl rfl)
theorem dX11_year_77 : decode cX11_year 77 = .ok (.lreturn, 1) := dk_173 (dk_at dksX11_year_3 6 rfl rfl)
theorem dX11_year_78 : decode cX11_year 78 = .ok (.iload_n 2, 1) := dk_28 (dk_at dksX11_year_3 7 rfl rfl)
theorem dX11_year_79 : decode cX11_year 79 = .ok (.iconst 1, 1) := dk_4 (dk_at dksX11_year_3 8 rfl rfl)
theorem dX11_year_80 : decode cX11_year 80 = .ok (.if_icmp .ne 18, 3) := dk_160 0 18 (dk_at dksX11_year_3 9 rfl rfl)
theorem dX11_year_83 : decode cX11_year 83 = .ok (.aload_n 0, 1) := dk_42 (dk_at dksX11_year_3 12 rfl rfl)
theorem dX11_year_84 : decode cX11_year 84 = .ok (.getfield 39, 3) := dk_180 0 39 (dk_at dksX11_year_3 13 rfl rfl)
theorem dX11_year_87 : decode cX11_year 87 = .ok (.aload_n 0, 1) := dk_42 (dk_at dksX11_year_3 16 rfl rfl)
theorem dX11_year_88 : decode cX11_year 88 = .ok (.iload_n 1, 1) := dk_27 (dk_at dksX11_year_3 17 rfl rfl)
theorem dX11_year_89 : decode cX11_year 89 = .ok (.iconst 0, 1) := dk_3 (dk_at dksX11_year_3 18 rfl rfl)
theorem dX11_year_90 : decode cX11_year 90 = .ok (.invokevirtual 161, 3) := dk_182 0 161 (dk_at dksX11_year_3 19 rfl rfl)
theorem dX11_year_93 : decode cX11_year 93 = .ok (.iaload, 1) := dk_46 (dk_at dksX11_year_3 22 rfl rfl)
theorem dX11_year_94 : decode cX11_year 94 = .ok (.i2l, 1) := dk_133 (dk_at dksX11_year_3 23 rfl rfl)
theorem dX11_year_95 : decode cX11_year 95 = .ok (.goto 16, 3) := dk_167 0 16 (dk_at dksX11_year_4 0 rfl rfl)
theorem dX11_year_98 : decode cX11_year 98 = .ok (.aload_n 0, 1) := dk_42 (dk_at dksX11_year_4 3 rfl rfl)
theorem dX11_year_99 : decode cX11_year 99 = .ok (.aload_n 0, 1) := dk_42 (dk_at dksX11_year_4 4 rfl rfl)
theorem dX11_year_100 : decode cX11_year 100 = .ok (.iload_n 1, 1) := dk_27 (dk_at dksX11_year_4 5 rfl rfl)
theorem dX11_year_101 : decode cX11_year 101 = .ok (.iload_n 3, 1) := dk_29 (dk_at dksX11_year_4 6 rfl rfl)
theorem dX11_year_102 : decode cX11_year 102 = .ok (.iconst 1, 1) := dk_4 (dk_at dksX11_year_4 7 rfl rfl)
theorem dX11_year_103 : decode cX11_year 103 = .ok (.isub, 1) := dk_100 (dk_at dksX11_year_4 8 rfl rfl)
theorem dX11_year_104 : decode cX11_year 104 = .ok (.invokevirtual 161, 3) := dk_182 0 161 (dk_at dksX11_year_4 9 rfl rfl)
theorem dX11_year_107 : decode cX11_year 107 = .ok (.invokevirtual 165, 3) := dk_182 0 165 (dk_at dksX11_year_4 12 rfl rfl)
theorem dX11_year_110 : decode cX11_year 110 = .ok (.i2l, 1) := dk_133 (dk_at dksX11_year_4 15 rfl rfl)
theorem dX11_year_111 : decode cX11_year 111 = .ok (.lreturn, 1) := dk_173 (dk_at dksX11_year_4 16 rfl rfl)
abbrev cX11_ofYear : ByteArray := prog_16_method_90_code
def yX11_ofYear : MethodName := ⟨RX11, "ofYear", "(II)J"⟩
def dkwX11_ofYear_3 : List UInt8 := [47, 167, 0, 9, 42, 21, 5, 182, 0, 175, 97, 66, 132, 5, 1, 167, 255, 178, 33, 173]
abbrev dktX11_ofYear_3 : List UInt8 := dkwX11_ofYear_3 ++ []
def dkwX11_ofYear_2 : List UInt8 := [160, 0, 13, 42, 21, 5, 182, 0, 172, 133, 167, 0, 24, 28, 8, 160, 0, 13, 42, 180, 0, 57, 21, 5]
abbrev dktX11_ofYear_2 : List UInt8 := dkwX11_ofYear_2 ++ dktX11_ofYear_3
def dkwX11_ofYear_1 : List UInt8 := [167, 0, 58, 33, 28, 6, 160, 0, 14, 42, 180, 0, 42, 21, 5, 46, 133, 167, 0, 39, 28, 7]
abbrev dktX11_ofYear_1 : List UInt8 := dkwX11_ofYear_1 ++ dktX11_ofYear_2
def dkwX11_ofYear_0 : List UInt8 := [9, 66, 3, 54, 5, 21, 5, 16, 40, 162, 0, 77, 42, 21, 5, 27, 182, 1, 27, 154, 0, 6]
abbrev dktX11_ofYear_0 : List UInt8 := dkwX11_ofYear_0 ++ dktX11_ofYear_1
theorem dksX11_ofYear_0 : cX11_ofYear.data.toList.drop 0 = dktX11_ofYear_0 := by decide +kernel
theorem dksX11_ofYear_1 : cX11_ofYear.data.toList.drop 22 = dktX11_ofYear_1 := dk_seg dksX11_ofYear_0 22 rfl rfl
theorem dksX11_ofYear_2 : cX11_ofYear.data.toList.drop 44 = dktX11_ofYear_2 := dk_seg dksX11_ofYear_1 22 rfl rfl
theorem dksX11_ofYear_3 : cX11_ofYear.data.toList.drop 68 = dktX11_ofYear_3 := dk_seg dksX11_ofYear_2 24 rfl rfl
theorem dX11_ofYear_0 : decode cX11_ofYear 0 = .ok (.lconst 0, 1) := dk_9 (dk_at dksX11_ofYear_0 0 rfl rfl)
theorem dX11_ofYear_1 : decode cX11_ofYear 1 = .ok (.lstore_n 3, 1) := dk_66 (dk_at dksX11_ofYear_0 1 rfl rfl)
theorem dX11_ofYear_2 : decode cX11_ofYear 2 = .ok (.iconst 0, 1) := dk_3 (dk_at dksX11_ofYear_0 2 rfl rfl)
theorem dX11_ofYear_3 : decode cX11_ofYear 3 = .ok (.istore 5, 2) := dk_54 5 (dk_at dksX11_ofYear_0 3 rfl rfl)
theorem dX11_ofYear_5 : decode cX11_ofYear 5 = .ok (.iload 5, 2) := dk_21 5 (dk_at dksX11_ofYear_0 5 rfl rfl)
theorem dX11_ofYear_7 : decode cX11_ofYear 7 = .ok (.bipush 40, 2) := dk_16 40 (dk_at dksX11_ofYear_0 7 rfl rfl)
theorem dX11_ofYear_9 : decode cX11_ofYear 9 = .ok (.if_icmp .ge 77, 3) := dk_162 0 77 (dk_at dksX11_ofYear_0 9 rfl rfl)
theorem dX11_ofYear_12 : decode cX11_ofYear 12 = .ok (.aload_n 0, 1) := dk_42 (dk_at dksX11_ofYear_0 12 rfl rfl)
theorem dX11_ofYear_13 : decode cX11_ofYear 13 = .ok (.iload 5, 2) := dk_21 5 (dk_at dksX11_ofYear_0 13 rfl rfl)
theorem dX11_ofYear_15 : decode cX11_ofYear 15 = .ok (.iload_n 1, 1) := dk_27 (dk_at dksX11_ofYear_0 15 rfl rfl)
theorem dX11_ofYear_16 : decode cX11_ofYear 16 = .ok (.invokevirtual 283, 3) := dk_182 1 27 (dk_at dksX11_ofYear_0 16 rfl rfl)
theorem dX11_ofYear_19 : decode cX11_ofYear 19 = .ok (.ifCond .ne 6, 3) := dk_154 0 6 (dk_at dksX11_ofYear_0 19 rfl rfl)
theorem dX11_ofYear_22 : decode cX11_ofYear 22 = .ok (.goto 58, 3) := dk_167 0 58 (dk_at dksX11_ofYear_1 0 rfl rfl)
theorem dX11_ofYear_25 : decode cX11_ofYear 25 = .ok (.lload_n 3, 1) := dk_33 (dk_at dksX11_ofYear_1 3 rfl rfl)
theorem dX11_ofYear_26 : decode cX11_ofYear 26 = .ok (.iload_n 2, 1) := dk_28 (dk_at dksX11_ofYear_1 4 rfl rfl)
theorem dX11_ofYear_27 : decode cX11_ofYear 27 = .ok (.iconst 3, 1) := dk_6 (dk_at dksX11_ofYear_1 5 rfl rfl)
theorem dX11_ofYear_28 : decode cX11_ofYear 28 = .ok (.if_icmp .ne 14, 3) := dk_160 0 14 (dk_at dksX11_ofYear_1 6 rfl rfl)
theorem dX11_ofYear_31 : decode cX11_ofYear 31 = .ok (.aload_n 0, 1) := dk_42 (dk_at dksX11_ofYear_1 9 rfl rfl)
theorem dX11_ofYear_32 : decode cX11_ofYear 32 = .ok (.getfield 42, 3) := dk_180 0 42 (dk_at dksX11_ofYear_1 10 rfl rfl)
theorem dX11_ofYear_35 : decode cX11_ofYear 35 = .ok (.iload 5, 2) := dk_21 5 (dk_at dksX11_ofYear_1 13 rfl rfl)
theorem dX11_ofYear_37 : decode cX11_ofYear 37 = .ok (.iaload, 1) := dk_46 (dk_at dksX11_ofYear_1 15 rfl rfl)
theorem dX11_ofYear_38 : decode cX11_ofYear 38 = .ok (.i2l, 1) := dk_133 (dk_at dksX11_ofYear_1 16 rfl rfl)
theorem dX11_ofYear_39 : decode cX11_ofYear 39 = .ok (.goto 39, 3) := dk_167 0 39 (dk_at dksX11_ofYear_1 17 rfl rfl)
theorem dX11_ofYear_42 : decode cX11_ofYear 42 = .ok (.iload_n 2, 1) := dk_28 (dk_at dksX11_ofYear_1 20 rfl rfl)
theorem dX11_ofYear_43 : decode cX11_ofYear 43 = .ok (.iconst 4, 1) := dk_7 (dk_at dksX11_ofYear_1 21 rfl rfl)
theorem dX11_ofYear_44 : decode cX11_ofYear 44 = .ok (.if_icmp .ne 13, 3) := dk_160 0 13 (dk_at dksX11_ofYear_2 0 rfl rfl)
theorem dX11_ofYear_47 : decode cX11_ofYear 47 = .ok (.aload_n 0, 1) := dk_42 (dk_at dksX11_ofYear_2 3 rfl rfl)
theorem dX11_ofYear_48 : decode cX11_ofYear 48 = .ok (.iload 5, 2) := dk_21 5 (dk_at dksX11_ofYear_2 4 rfl rfl)
theorem dX11_ofYear_50 : decode cX11_ofYear 50 = .ok (.invokevirtual 172, 3) := dk_182 0 172 (dk_at dksX11_ofYear_2 6 rfl rfl)
theorem dX11_ofYear_53 : decode cX11_ofYear 53 = .ok (.i2l, 1) := dk_133 (dk_at dksX11_ofYear_2 9 rfl rfl)
theorem dX11_ofYear_54 : decode cX11_ofYear 54 = .ok (.goto 24, 3) := dk_167 0 24 (dk_at dksX11_ofYear_2 10 rfl rfl)
theorem dX11_ofYear_57 : decode cX11_ofYear 57 = .ok (.iload_n 2, 1) := dk_28 (dk_at dksX11_ofYear_2 13 rfl rfl)
theorem dX11_ofYear_58 : decode cX11_ofYear 58 = .ok (.iconst 5, 1) := dk_8 (dk_at dksX11_ofYear_2 14 rfl rfl)
theorem dX11_ofYear_59 : decode cX11_ofYear 59 = .ok (.if_icmp .ne 13, 3) := dk_160 0 13 (dk_at dksX11_ofYear_2 15 rfl rfl)
theorem dX11_ofYear_62 : decode cX11_ofYear 62 = .ok (.aload_n 0, 1) := dk_42 (dk_at dksX11_ofYear_2 18 rfl rfl)
theorem dX11_ofYear_63 : decode cX11_ofYear 63 = .ok (.getfield 57, 3) := dk_180 0 57 (dk_at dksX11_ofYear_2 19 rfl rfl)
theorem dX11_ofYear_66 : decode cX11_ofYear 66 = .ok (.iload 5, 2) := dk_21 5 (dk_at dksX11_ofYear_2 22 rfl rfl)
theorem dX11_ofYear_68 : decode cX11_ofYear 68 = .ok (.laload, 1) := dk_47 (dk_at dksX11_ofYear_3 0 rfl rfl)
theorem dX11_ofYear_69 : decode cX11_ofYear 69 = .ok (.goto 9, 3) := dk_167 0 9 (dk_at dksX11_ofYear_3 1 rfl rfl)
theorem dX11_ofYear_72 : decode cX11_ofYear 72 = .ok (.aload_n 0, 1) := dk_42 (dk_at dksX11_ofYear_3 4 rfl rfl)
theorem dX11_ofYear_73 : decode cX11_ofYear 73 = .ok (.iload 5, 2) := dk_21 5 (dk_at dksX11_ofYear_3 5 rfl rfl)
theorem dX11_ofYear_75 : decode cX11_ofYear 75 = .ok (.invokevirtual 175, 3) := dk_182 0 175 (dk_at dksX11_ofYear_3 7 rfl rfl)
theorem dX11_ofYear_78 : decode cX11_ofYear 78 = .ok (.ladd, 1) := dk_97 (dk_at dksX11_ofYear_3 10 rfl rfl)
theorem dX11_ofYear_79 : decode cX11_ofYear 79 = .ok (.lstore_n 3, 1) := dk_66 (dk_at dksX11_ofYear_3 11 rfl rfl)
theorem dX11_ofYear_80 : decode cX11_ofYear 80 = .ok (.iinc 5 1, 3) := dk_132 5 1 (dk_at dksX11_ofYear_3 12 rfl rfl)
theorem dX11_ofYear_83 : decode cX11_ofYear 83 = .ok (.goto (-78), 3) := dk_167 255 178 (dk_at dksX11_ofYear_3 15 rfl rfl)
theorem dX11_ofYear_86 : decode cX11_ofYear 86 = .ok (.lload_n 3, 1) := dk_33 (dk_at dksX11_ofYear_3 18 rfl rfl)
theorem dX11_ofYear_87 : decode cX11_ofYear 87 = .ok (.lreturn, 1) := dk_173 (dk_at dksX11_ofYear_3 19 rfl rfl)
abbrev cX11_at : ByteArray := prog_16_method_94_code
def yX11_at : MethodName := ⟨RX11, "at", "(II)I"⟩
def dkwX11_at_4 : List UInt8 := [167, 255, 223, 16, 254, 172]
abbrev dktX11_at_4 : List UInt8 := dkwX11_at_4 ++ []
def dkwX11_at_3 : List UInt8 := [182, 1, 27, 153, 0, 16, 42, 180, 0, 39, 21, 4, 46, 28, 164, 0, 5, 2, 172, 132, 4, 1]
abbrev dktX11_at_3 : List UInt8 := dkwX11_at_3 ++ dktX11_at_4
def dkwX11_at_2 : List UInt8 := [62, 29, 2, 159, 0, 5, 29, 172, 3, 54, 4, 21, 4, 16, 40, 162, 0, 32, 42, 21, 4, 27]
abbrev dktX11_at_2 : List UInt8 := dkwX11_at_2 ++ dktX11_at_3
def dkwX11_at_1 : List UInt8 := [153, 0, 7, 4, 167, 0, 4, 3, 4, 4, 182, 1, 90, 154, 0, 5, 3, 172, 42, 27, 28, 182, 1, 173]
abbrev dktX11_at_1 : List UInt8 := dkwX11_at_1 ++ dktX11_at_2
def dkwX11_at_0 : List UInt8 := [42, 3, 181, 0, 1, 42, 27, 133, 9, 20, 1, 94, 184, 1, 96, 153, 0, 14, 28, 184, 1, 170]
abbrev dktX11_at_0 : List UInt8 := dkwX11_at_0 ++ dktX11_at_1
theorem dksX11_at_0 : cX11_at.data.toList.drop 0 = dktX11_at_0 := by decide +kernel
theorem dksX11_at_1 : cX11_at.data.toList.drop 22 = dktX11_at_1 := dk_seg dksX11_at_0 22 rfl rfl
theorem dksX11_at_2 : cX11_at.data.toList.drop 46 = dktX11_at_2 := dk_seg dksX11_at_1 24 rfl rfl
theorem dksX11_at_3 : cX11_at.data.toList.drop 68 = dktX11_at_3 := dk_seg dksX11_at_2 22 rfl rfl
theorem dksX11_at_4 : cX11_at.data.toList.drop 90 = dktX11_at_4 := dk_seg dksX11_at_3 22 rfl rfl
theorem dX11_at_0 : decode cX11_at 0 = .ok (.aload_n 0, 1) := dk_42 (dk_at dksX11_at_0 0 rfl rfl)
theorem dX11_at_1 : decode cX11_at 1 = .ok (.iconst 0, 1) := dk_3 (dk_at dksX11_at_0 1 rfl rfl)
theorem dX11_at_2 : decode cX11_at 2 = .ok (.putfield 1, 3) := dk_181 0 1 (dk_at dksX11_at_0 2 rfl rfl)
theorem dX11_at_5 : decode cX11_at 5 = .ok (.aload_n 0, 1) := dk_42 (dk_at dksX11_at_0 5 rfl rfl)
theorem dX11_at_6 : decode cX11_at 6 = .ok (.iload_n 1, 1) := dk_27 (dk_at dksX11_at_0 6 rfl rfl)
theorem dX11_at_7 : decode cX11_at 7 = .ok (.i2l, 1) := dk_133 (dk_at dksX11_at_0 7 rfl rfl)
theorem dX11_at_8 : decode cX11_at 8 = .ok (.lconst 0, 1) := dk_9 (dk_at dksX11_at_0 8 rfl rfl)
theorem dX11_at_9 : decode cX11_at 9 = .ok (.ldc2_w 350, 3) := dk_20 1 94 (dk_at dksX11_at_0 9 rfl rfl)
theorem dX11_at_12 : decode cX11_at 12 = .ok (.invokestatic 352, 3) := dk_184 1 96 (dk_at dksX11_at_0 12 rfl rfl)
theorem dX11_at_15 : decode cX11_at 15 = .ok (.ifCond .eq 14, 3) := dk_153 0 14 (dk_at dksX11_at_0 15 rfl rfl)
theorem dX11_at_18 : decode cX11_at 18 = .ok (.iload_n 2, 1) := dk_28 (dk_at dksX11_at_0 18 rfl rfl)
theorem dX11_at_19 : decode cX11_at 19 = .ok (.invokestatic 426, 3) := dk_184 1 170 (dk_at dksX11_at_0 19 rfl rfl)
theorem dX11_at_22 : decode cX11_at 22 = .ok (.ifCond .eq 7, 3) := dk_153 0 7 (dk_at dksX11_at_1 0 rfl rfl)
theorem dX11_at_25 : decode cX11_at 25 = .ok (.iconst 1, 1) := dk_4 (dk_at dksX11_at_1 3 rfl rfl)
theorem dX11_at_26 : decode cX11_at 26 = .ok (.goto 4, 3) := dk_167 0 4 (dk_at dksX11_at_1 4 rfl rfl)
theorem dX11_at_29 : decode cX11_at 29 = .ok (.iconst 0, 1) := dk_3 (dk_at dksX11_at_1 7 rfl rfl)
theorem dX11_at_30 : decode cX11_at 30 = .ok (.iconst 1, 1) := dk_4 (dk_at dksX11_at_1 8 rfl rfl)
theorem dX11_at_31 : decode cX11_at 31 = .ok (.iconst 1, 1) := dk_4 (dk_at dksX11_at_1 9 rfl rfl)
theorem dX11_at_32 : decode cX11_at 32 = .ok (.invokevirtual 346, 3) := dk_182 1 90 (dk_at dksX11_at_1 10 rfl rfl)
theorem dX11_at_35 : decode cX11_at 35 = .ok (.ifCond .ne 5, 3) := dk_154 0 5 (dk_at dksX11_at_1 13 rfl rfl)
theorem dX11_at_38 : decode cX11_at 38 = .ok (.iconst 0, 1) := dk_3 (dk_at dksX11_at_1 16 rfl rfl)
theorem dX11_at_39 : decode cX11_at 39 = .ok (.ireturn, 1) := dk_172 (dk_at dksX11_at_1 17 rfl rfl)
theorem dX11_at_40 : decode cX11_at 40 = .ok (.aload_n 0, 1) := dk_42 (dk_at dksX11_at_1 18 rfl rfl)
theorem dX11_at_41 : decode cX11_at 41 = .ok (.iload_n 1, 1) := dk_27 (dk_at dksX11_at_1 19 rfl rfl)
theorem dX11_at_42 : decode cX11_at 42 = .ok (.iload_n 2, 1) := dk_28 (dk_at dksX11_at_1 20 rfl rfl)
theorem dX11_at_43 : decode cX11_at 43 = .ok (.invokevirtual 429, 3) := dk_182 1 173 (dk_at dksX11_at_1 21 rfl rfl)
theorem dX11_at_46 : decode cX11_at 46 = .ok (.istore_n 3, 1) := dk_62 (dk_at dksX11_at_2 0 rfl rfl)
theorem dX11_at_47 : decode cX11_at 47 = .ok (.iload_n 3, 1) := dk_29 (dk_at dksX11_at_2 1 rfl rfl)
theorem dX11_at_48 : decode cX11_at 48 = .ok (.iconst (-1), 1) := dk_2 (dk_at dksX11_at_2 2 rfl rfl)
theorem dX11_at_49 : decode cX11_at 49 = .ok (.if_icmp .eq 5, 3) := dk_159 0 5 (dk_at dksX11_at_2 3 rfl rfl)
theorem dX11_at_52 : decode cX11_at 52 = .ok (.iload_n 3, 1) := dk_29 (dk_at dksX11_at_2 6 rfl rfl)
theorem dX11_at_53 : decode cX11_at 53 = .ok (.ireturn, 1) := dk_172 (dk_at dksX11_at_2 7 rfl rfl)
theorem dX11_at_54 : decode cX11_at 54 = .ok (.iconst 0, 1) := dk_3 (dk_at dksX11_at_2 8 rfl rfl)
theorem dX11_at_55 : decode cX11_at 55 = .ok (.istore 4, 2) := dk_54 4 (dk_at dksX11_at_2 9 rfl rfl)
theorem dX11_at_57 : decode cX11_at 57 = .ok (.iload 4, 2) := dk_21 4 (dk_at dksX11_at_2 11 rfl rfl)
theorem dX11_at_59 : decode cX11_at 59 = .ok (.bipush 40, 2) := dk_16 40 (dk_at dksX11_at_2 13 rfl rfl)
theorem dX11_at_61 : decode cX11_at 61 = .ok (.if_icmp .ge 32, 3) := dk_162 0 32 (dk_at dksX11_at_2 15 rfl rfl)
theorem dX11_at_64 : decode cX11_at 64 = .ok (.aload_n 0, 1) := dk_42 (dk_at dksX11_at_2 18 rfl rfl)
theorem dX11_at_65 : decode cX11_at 65 = .ok (.iload 4, 2) := dk_21 4 (dk_at dksX11_at_2 19 rfl rfl)
theorem dX11_at_67 : decode cX11_at 67 = .ok (.iload_n 1, 1) := dk_27 (dk_at dksX11_at_2 21 rfl rfl)
theorem dX11_at_68 : decode cX11_at 68 = .ok (.invokevirtual 283, 3) := dk_182 1 27 (dk_at dksX11_at_3 0 rfl rfl)
theorem dX11_at_71 : decode cX11_at 71 = .ok (.ifCond .eq 16, 3) := dk_153 0 16 (dk_at dksX11_at_3 3 rfl rfl)
theorem dX11_at_74 : decode cX11_at 74 = .ok (.aload_n 0, 1) := dk_42 (dk_at dksX11_at_3 6 rfl rfl)
theorem dX11_at_75 : decode cX11_at 75 = .ok (.getfield 39, 3) := dk_180 0 39 (dk_at dksX11_at_3 7 rfl rfl)
theorem dX11_at_78 : decode cX11_at 78 = .ok (.iload 4, 2) := dk_21 4 (dk_at dksX11_at_3 10 rfl rfl)
theorem dX11_at_80 : decode cX11_at 80 = .ok (.iaload, 1) := dk_46 (dk_at dksX11_at_3 12 rfl rfl)
theorem dX11_at_81 : decode cX11_at 81 = .ok (.iload_n 2, 1) := dk_28 (dk_at dksX11_at_3 13 rfl rfl)
theorem dX11_at_82 : decode cX11_at 82 = .ok (.if_icmp .le 5, 3) := dk_164 0 5 (dk_at dksX11_at_3 14 rfl rfl)
theorem dX11_at_85 : decode cX11_at 85 = .ok (.iconst (-1), 1) := dk_2 (dk_at dksX11_at_3 17 rfl rfl)
theorem dX11_at_86 : decode cX11_at 86 = .ok (.ireturn, 1) := dk_172 (dk_at dksX11_at_3 18 rfl rfl)
theorem dX11_at_87 : decode cX11_at 87 = .ok (.iinc 4 1, 3) := dk_132 4 1 (dk_at dksX11_at_3 19 rfl rfl)
theorem dX11_at_90 : decode cX11_at 90 = .ok (.goto (-33), 3) := dk_167 255 223 (dk_at dksX11_at_4 0 rfl rfl)
theorem dX11_at_93 : decode cX11_at 93 = .ok (.bipush (-2), 2) := dk_16 254 (dk_at dksX11_at_4 3 rfl rfl)
theorem dX11_at_95 : decode cX11_at 95 = .ok (.ireturn, 1) := dk_172 (dk_at dksX11_at_4 5 rfl rfl)
abbrev cX11_isHeight : ByteArray := prog_16_method_92_code
def yX11_isHeight : MethodName := ⟨RX11, "isHeight", "(I)Z"⟩
def dkwX11_isHeight_0 : List UInt8 := [26, 133, 9, 20, 1, 131, 184, 1, 96, 172]
abbrev dktX11_isHeight_0 : List UInt8 := dkwX11_isHeight_0 ++ []
theorem dksX11_isHeight_0 : cX11_isHeight.data.toList.drop 0 = dktX11_isHeight_0 := by decide +kernel
theorem dX11_isHeight_0 : decode cX11_isHeight 0 = .ok (.iload_n 0, 1) := dk_26 (dk_at dksX11_isHeight_0 0 rfl rfl)
theorem dX11_isHeight_1 : decode cX11_isHeight 1 = .ok (.i2l, 1) := dk_133 (dk_at dksX11_isHeight_0 1 rfl rfl)
theorem dX11_isHeight_2 : decode cX11_isHeight 2 = .ok (.lconst 0, 1) := dk_9 (dk_at dksX11_isHeight_0 2 rfl rfl)
theorem dX11_isHeight_3 : decode cX11_isHeight 3 = .ok (.ldc2_w 387, 3) := dk_20 1 131 (dk_at dksX11_isHeight_0 3 rfl rfl)
theorem dX11_isHeight_6 : decode cX11_isHeight 6 = .ok (.invokestatic 352, 3) := dk_184 1 96 (dk_at dksX11_isHeight_0 6 rfl rfl)
theorem dX11_isHeight_9 : decode cX11_isHeight 9 = .ok (.ireturn, 1) := dk_172 (dk_at dksX11_isHeight_0 9 rfl rfl)
abbrev cX11_layerAt : ByteArray := prog_16_method_93_code
def yX11_layerAt : MethodName := ⟨RX11, "layerAt", "(II)I"⟩
def dkwX11_layerAt_1 : List UInt8 := [163, 0, 14, 28, 42, 29, 182, 0, 165, 162, 0, 5, 29, 172, 132, 3, 1, 167, 255, 217, 2, 172]
abbrev dktX11_layerAt_1 : List UInt8 := dkwX11_layerAt_1 ++ []
def dkwX11_layerAt_0 : List UInt8 := [3, 62, 29, 16, 40, 162, 0, 39, 42, 29, 27, 182, 1, 27, 153, 0, 24, 42, 180, 0, 39, 29, 46, 28]
abbrev dktX11_layerAt_0 : List UInt8 := dkwX11_layerAt_0 ++ dktX11_layerAt_1
theorem dksX11_layerAt_0 : cX11_layerAt.data.toList.drop 0 = dktX11_layerAt_0 := by decide +kernel
theorem dksX11_layerAt_1 : cX11_layerAt.data.toList.drop 24 = dktX11_layerAt_1 := dk_seg dksX11_layerAt_0 24 rfl rfl
theorem dX11_layerAt_0 : decode cX11_layerAt 0 = .ok (.iconst 0, 1) := dk_3 (dk_at dksX11_layerAt_0 0 rfl rfl)
theorem dX11_layerAt_1 : decode cX11_layerAt 1 = .ok (.istore_n 3, 1) := dk_62 (dk_at dksX11_layerAt_0 1 rfl rfl)
theorem dX11_layerAt_2 : decode cX11_layerAt 2 = .ok (.iload_n 3, 1) := dk_29 (dk_at dksX11_layerAt_0 2 rfl rfl)
theorem dX11_layerAt_3 : decode cX11_layerAt 3 = .ok (.bipush 40, 2) := dk_16 40 (dk_at dksX11_layerAt_0 3 rfl rfl)
theorem dX11_layerAt_5 : decode cX11_layerAt 5 = .ok (.if_icmp .ge 39, 3) := dk_162 0 39 (dk_at dksX11_layerAt_0 5 rfl rfl)
theorem dX11_layerAt_8 : decode cX11_layerAt 8 = .ok (.aload_n 0, 1) := dk_42 (dk_at dksX11_layerAt_0 8 rfl rfl)
theorem dX11_layerAt_9 : decode cX11_layerAt 9 = .ok (.iload_n 3, 1) := dk_29 (dk_at dksX11_layerAt_0 9 rfl rfl)
theorem dX11_layerAt_10 : decode cX11_layerAt 10 = .ok (.iload_n 1, 1) := dk_27 (dk_at dksX11_layerAt_0 10 rfl rfl)
theorem dX11_layerAt_11 : decode cX11_layerAt 11 = .ok (.invokevirtual 283, 3) := dk_182 1 27 (dk_at dksX11_layerAt_0 11 rfl rfl)
theorem dX11_layerAt_14 : decode cX11_layerAt 14 = .ok (.ifCond .eq 24, 3) := dk_153 0 24 (dk_at dksX11_layerAt_0 14 rfl rfl)
theorem dX11_layerAt_17 : decode cX11_layerAt 17 = .ok (.aload_n 0, 1) := dk_42 (dk_at dksX11_layerAt_0 17 rfl rfl)
theorem dX11_layerAt_18 : decode cX11_layerAt 18 = .ok (.getfield 39, 3) := dk_180 0 39 (dk_at dksX11_layerAt_0 18 rfl rfl)
theorem dX11_layerAt_21 : decode cX11_layerAt 21 = .ok (.iload_n 3, 1) := dk_29 (dk_at dksX11_layerAt_0 21 rfl rfl)
theorem dX11_layerAt_22 : decode cX11_layerAt 22 = .ok (.iaload, 1) := dk_46 (dk_at dksX11_layerAt_0 22 rfl rfl)
theorem dX11_layerAt_23 : decode cX11_layerAt 23 = .ok (.iload_n 2, 1) := dk_28 (dk_at dksX11_layerAt_0 23 rfl rfl)
theorem dX11_layerAt_24 : decode cX11_layerAt 24 = .ok (.if_icmp .gt 14, 3) := dk_163 0 14 (dk_at dksX11_layerAt_1 0 rfl rfl)
theorem dX11_layerAt_27 : decode cX11_layerAt 27 = .ok (.iload_n 2, 1) := dk_28 (dk_at dksX11_layerAt_1 3 rfl rfl)
theorem dX11_layerAt_28 : decode cX11_layerAt 28 = .ok (.aload_n 0, 1) := dk_42 (dk_at dksX11_layerAt_1 4 rfl rfl)
theorem dX11_layerAt_29 : decode cX11_layerAt 29 = .ok (.iload_n 3, 1) := dk_29 (dk_at dksX11_layerAt_1 5 rfl rfl)
theorem dX11_layerAt_30 : decode cX11_layerAt 30 = .ok (.invokevirtual 165, 3) := dk_182 0 165 (dk_at dksX11_layerAt_1 6 rfl rfl)
theorem dX11_layerAt_33 : decode cX11_layerAt 33 = .ok (.if_icmp .ge 5, 3) := dk_162 0 5 (dk_at dksX11_layerAt_1 9 rfl rfl)
theorem dX11_layerAt_36 : decode cX11_layerAt 36 = .ok (.iload_n 3, 1) := dk_29 (dk_at dksX11_layerAt_1 12 rfl rfl)
theorem dX11_layerAt_37 : decode cX11_layerAt 37 = .ok (.ireturn, 1) := dk_172 (dk_at dksX11_layerAt_1 13 rfl rfl)
theorem dX11_layerAt_38 : decode cX11_layerAt 38 = .ok (.iinc 3 1, 3) := dk_132 3 1 (dk_at dksX11_layerAt_1 14 rfl rfl)
theorem dX11_layerAt_41 : decode cX11_layerAt 41 = .ok (.goto (-39), 3) := dk_167 255 217 (dk_at dksX11_layerAt_1 17 rfl rfl)
theorem dX11_layerAt_44 : decode cX11_layerAt 44 = .ok (.iconst (-1), 1) := dk_2 (dk_at dksX11_layerAt_1 20 rfl rfl)
theorem dX11_layerAt_45 : decode cX11_layerAt 45 = .ok (.ireturn, 1) := dk_172 (dk_at dksX11_layerAt_1 21 rfl rfl)
abbrev cX11_rung : ByteArray := prog_16_method_95_code
def yX11_rung : MethodName := ⟨RX11, "rung", "(II)I"⟩
def dkwX11_rung_1 : List UInt8 := [167, 0, 4, 3, 4, 4, 182, 1, 90, 154, 0, 5, 3, 172, 42, 27, 28, 182, 0, 161, 172]
abbrev dktX11_rung_1 : List UInt8 := dkwX11_rung_1 ++ []
def dkwX11_rung_0 : List UInt8 := [42, 3, 181, 0, 1, 42, 27, 133, 9, 20, 1, 94, 184, 1, 96, 153, 0, 11, 28, 155, 0, 7, 4]
abbrev dktX11_rung_0 : List UInt8 := dkwX11_rung_0 ++ dktX11_rung_1
theorem dksX11_rung_0 : cX11_rung.data.toList.drop 0 = dktX11_rung_0 := by decide +kernel
theorem dksX11_rung_1 : cX11_rung.data.toList.drop 23 = dktX11_rung_1 := dk_seg dksX11_rung_0 23 rfl rfl
theorem dX11_rung_0 : decode cX11_rung 0 = .ok (.aload_n 0, 1) := dk_42 (dk_at dksX11_rung_0 0 rfl rfl)
theorem dX11_rung_1 : decode cX11_rung 1 = .ok (.iconst 0, 1) := dk_3 (dk_at dksX11_rung_0 1 rfl rfl)
theorem dX11_rung_2 : decode cX11_rung 2 = .ok (.putfield 1, 3) := dk_181 0 1 (dk_at dksX11_rung_0 2 rfl rfl)
theorem dX11_rung_5 : decode cX11_rung 5 = .ok (.aload_n 0, 1) := dk_42 (dk_at dksX11_rung_0 5 rfl rfl)
theorem dX11_rung_6 : decode cX11_rung 6 = .ok (.iload_n 1, 1) := dk_27 (dk_at dksX11_rung_0 6 rfl rfl)
theorem dX11_rung_7 : decode cX11_rung 7 = .ok (.i2l, 1) := dk_133 (dk_at dksX11_rung_0 7 rfl rfl)
theorem dX11_rung_8 : decode cX11_rung 8 = .ok (.lconst 0, 1) := dk_9 (dk_at dksX11_rung_0 8 rfl rfl)
theorem dX11_rung_9 : decode cX11_rung 9 = .ok (.ldc2_w 350, 3) := dk_20 1 94 (dk_at dksX11_rung_0 9 rfl rfl)
theorem dX11_rung_12 : decode cX11_rung 12 = .ok (.invokestatic 352, 3) := dk_184 1 96 (dk_at dksX11_rung_0 12 rfl rfl)
theorem dX11_rung_15 : decode cX11_rung 15 = .ok (.ifCond .eq 11, 3) := dk_153 0 11 (dk_at dksX11_rung_0 15 rfl rfl)
theorem dX11_rung_18 : decode cX11_rung 18 = .ok (.iload_n 2, 1) := dk_28 (dk_at dksX11_rung_0 18 rfl rfl)
theorem dX11_rung_19 : decode cX11_rung 19 = .ok (.ifCond .lt 7, 3) := dk_155 0 7 (dk_at dksX11_rung_0 19 rfl rfl)
theorem dX11_rung_22 : decode cX11_rung 22 = .ok (.iconst 1, 1) := dk_4 (dk_at dksX11_rung_0 22 rfl rfl)
theorem dX11_rung_23 : decode cX11_rung 23 = .ok (.goto 4, 3) := dk_167 0 4 (dk_at dksX11_rung_1 0 rfl rfl)
theorem dX11_rung_26 : decode cX11_rung 26 = .ok (.iconst 0, 1) := dk_3 (dk_at dksX11_rung_1 3 rfl rfl)
theorem dX11_rung_27 : decode cX11_rung 27 = .ok (.iconst 1, 1) := dk_4 (dk_at dksX11_rung_1 4 rfl rfl)
theorem dX11_rung_28 : decode cX11_rung 28 = .ok (.iconst 1, 1) := dk_4 (dk_at dksX11_rung_1 5 rfl rfl)
theorem dX11_rung_29 : decode cX11_rung 29 = .ok (.invokevirtual 346, 3) := dk_182 1 90 (dk_at dksX11_rung_1 6 rfl rfl)
theorem dX11_rung_32 : decode cX11_rung 32 = .ok (.ifCond .ne 5, 3) := dk_154 0 5 (dk_at dksX11_rung_1 9 rfl rfl)
theorem dX11_rung_35 : decode cX11_rung 35 = .ok (.iconst 0, 1) := dk_3 (dk_at dksX11_rung_1 12 rfl rfl)
theorem dX11_rung_36 : decode cX11_rung 36 = .ok (.ireturn, 1) := dk_172 (dk_at dksX11_rung_1 13 rfl rfl)
theorem dX11_rung_37 : decode cX11_rung 37 = .ok (.aload_n 0, 1) := dk_42 (dk_at dksX11_rung_1 14 rfl rfl)
theorem dX11_rung_38 : decode cX11_rung 38 = .ok (.iload_n 1, 1) := dk_27 (dk_at dksX11_rung_1 15 rfl rfl)
theorem dX11_rung_39 : decode cX11_rung 39 = .ok (.iload_n 2, 1) := dk_28 (dk_at dksX11_rung_1 16 rfl rfl)
theorem dX11_rung_40 : decode cX11_rung 40 = .ok (.invokevirtual 161, 3) := dk_182 0 161 (dk_at dksX11_rung_1 17 rfl rfl)
theorem dX11_rung_43 : decode cX11_rung 43 = .ok (.ireturn, 1) := dk_172 (dk_at dksX11_rung_1 20 rfl rfl)
abbrev cX11_damage : ByteArray := prog_16_method_96_code
def yX11_damage : MethodName := ⟨RX11, "damage", "(II)J"⟩
def dkwX11_damage_4 : List UInt8 := [182, 1, 21, 167, 0, 10, 42, 180, 0, 70, 27, 46, 133, 173]
abbrev dktX11_damage_4 : List UInt8 := dkwX11_damage_4 ++ []
def dkwX11_damage_3 : List UInt8 := [46, 133, 173, 28, 6, 160, 0, 12, 42, 180, 0, 73, 27, 47, 167, 0, 23, 28, 7, 160, 0, 11, 42, 27]
abbrev dktX11_damage_3 : List UInt8 := dkwX11_damage_3 ++ dktX11_damage_4
def dkwX11_damage_2 : List UInt8 := [133, 167, 0, 25, 28, 4, 160, 0, 13, 42, 180, 0, 64, 27, 46, 133, 167, 0, 10, 42, 180, 0, 67, 27]
abbrev dktX11_damage_2 : List UInt8 := dkwX11_damage_2 ++ dktX11_damage_3
def dkwX11_damage_1 : List UInt8 := [4, 182, 1, 90, 154, 0, 5, 9, 173, 28, 6, 162, 0, 40, 28, 154, 0, 13, 42, 180, 0, 61, 27, 46]
abbrev dktX11_damage_1 : List UInt8 := dkwX11_damage_1 ++ dktX11_damage_2
def dkwX11_damage_0 : List UInt8 := [42, 3, 181, 0, 1, 42, 27, 182, 1, 141, 153, 0, 21, 42, 28, 133, 9, 20, 1, 176, 184, 1, 96, 5]
abbrev dktX11_damage_0 : List UInt8 := dkwX11_damage_0 ++ dktX11_damage_1
theorem dksX11_damage_0 : cX11_damage.data.toList.drop 0 = dktX11_damage_0 := by decide +kernel
theorem dksX11_damage_1 : cX11_damage.data.toList.drop 24 = dktX11_damage_1 := dk_seg dksX11_damage_0 24 rfl rfl
theorem dksX11_damage_2 : cX11_damage.data.toList.drop 48 = dktX11_damage_2 := dk_seg dksX11_damage_1 24 rfl rfl
theorem dksX11_damage_3 : cX11_damage.data.toList.drop 72 = dktX11_damage_3 := dk_seg dksX11_damage_2 24 rfl rfl
theorem dksX11_damage_4 : cX11_damage.data.toList.drop 96 = dktX11_damage_4 := dk_seg dksX11_damage_3 24 rfl rfl
theorem dX11_damage_0 : decode cX11_damage 0 = .ok (.aload_n 0, 1) := dk_42 (dk_at dksX11_damage_0 0 rfl rfl)
theorem dX11_damage_1 : decode cX11_damage 1 = .ok (.iconst 0, 1) := dk_3 (dk_at dksX11_damage_0 1 rfl rfl)
theorem dX11_damage_2 : decode cX11_damage 2 = .ok (.putfield 1, 3) := dk_181 0 1 (dk_at dksX11_damage_0 2 rfl rfl)
theorem dX11_damage_5 : decode cX11_damage 5 = .ok (.aload_n 0, 1) := dk_42 (dk_at dksX11_damage_0 5 rfl rfl)
theorem dX11_damage_6 : decode cX11_damage 6 = .ok (.iload_n 1, 1) := dk_27 (dk_at dksX11_damage_0 6 rfl rfl)
theorem dX11_damage_7 : decode cX11_damage 7 = .ok (.invokevirtual 397, 3) := dk_182 1 141 (dk_at dksX11_damage_0 7 rfl rfl)
theorem dX11_damage_10 : decode cX11_damage 10 = .ok (.ifCond .eq 21, 3) := dk_153 0 21 (dk_at dksX11_damage_0 10 rfl rfl)
theorem dX11_damage_13 : decode cX11_damage 13 = .ok (.aload_n 0, 1) := dk_42 (dk_at dksX11_damage_0 13 rfl rfl)
theorem dX11_damage_14 : decode cX11_damage 14 = .ok (.iload_n 2, 1) := dk_28 (dk_at dksX11_damage_0 14 rfl rfl)
theorem dX11_damage_15 : decode cX11_damage 15 = .ok (.i2l, 1) := dk_133 (dk_at dksX11_damage_0 15 rfl rfl)
theorem dX11_damage_16 : decode cX11_damage 16 = .ok (.lconst 0, 1) := dk_9 (dk_at dksX11_damage_0 16 rfl rfl)
theorem dX11_damage_17 : decode cX11_damage 17 = .ok (.ldc2_w 432, 3) := dk_20 1 176 (dk_at dksX11_damage_0 17 rfl rfl)
theorem dX11_damage_20 : decode cX11_damage 20 = .ok (.invokestatic 352, 3) := dk_184 1 96 (dk_at dksX11_damage_0 20 rfl rfl)
theorem dX11_damage_23 : decode cX11_damage 23 = .ok (.iconst 2, 1) := dk_5 (dk_at dksX11_damage_0 23 rfl rfl)
theorem dX11_damage_24 : decode cX11_damage 24 = .ok (.iconst 1, 1) := dk_4 (dk_at dksX11_damage_1 0 rfl rfl)
theorem dX11_damage_25 : decode cX11_damage 25 = .ok (.invokevirtual 346, 3) := dk_182 1 90 (dk_at dksX11_damage_1 1 rfl rfl)
theorem dX11_damage_28 : decode cX11_damage 28 = .ok (.ifCond .ne 5, 3) := dk_154 0 5 (dk_at dksX11_damage_1 4 rfl rfl)
theorem dX11_damage_31 : decode cX11_damage 31 = .ok (.lconst 0, 1) := dk_9 (dk_at dksX11_damage_1 7 rfl rfl)
theorem dX11_damage_32 : decode cX11_damage 32 = .ok (.lreturn, 1) := dk_173 (dk_at dksX11_damage_1 8 rfl rfl)
theorem dX11_damage_33 : decode cX11_damage 33 = .ok (.iload_n 2, 1) := dk_28 (dk_at dksX11_damage_1 9 rfl rfl)
theorem dX11_damage_34 : decode cX11_damage 34 = .ok (.iconst 3, 1) := dk_6 (dk_at dksX11_damage_1 10 rfl rfl)
theorem dX11_damage_35 : decode cX11_damage 35 = .ok (.if_icmp .ge 40, 3) := dk_162 0 40 (dk_at dksX11_damage_1 11 rfl rfl)
theorem dX11_damage_38 : decode cX11_damage 38 = .ok (.iload_n 2, 1) := dk_28 (dk_at dksX11_damage_1 14 rfl rfl)
theorem dX11_damage_39 : decode cX11_damage 39 = .ok (.ifCond .ne 13, 3) := dk_154 0 13 (dk_at dksX11_damage_1 15 rfl rfl)
theorem dX11_damage_42 : decode cX11_damage 42 = .ok (.aload_n 0, 1) := dk_42 (dk_at dksX11_damage_1 18 rfl rfl)
theorem dX11_damage_43 : decode cX11_damage 43 = .ok (.getfield 61, 3) := dk_180 0 61 (dk_at dksX11_damage_1 19 rfl rfl)
theorem dX11_damage_46 : decode cX11_damage 46 = .ok (.iload_n 1, 1) := dk_27 (dk_at dksX11_damage_1 22 rfl rfl)
theorem dX11_damage_47 : decode cX11_damage 47 = .ok (.iaload, 1) := dk_46 (dk_at dksX11_damage_1 23 rfl rfl)
theorem dX11_damage_48 : decode cX11_damage 48 = .ok (.i2l, 1) := dk_133 (dk_at dksX11_damage_2 0 rfl rfl)
theorem dX11_damage_49 : decode cX11_damage 49 = .ok (.goto 25, 3) := dk_167 0 25 (dk_at dksX11_damage_2 1 rfl rfl)
theorem dX11_damage_52 : decode cX11_damage 52 = .ok (.iload_n 2, 1) := dk_28 (dk_at dksX11_damage_2 4 rfl rfl)
theorem dX11_damage_53 : decode cX11_damage 53 = .ok (.iconst 1, 1) := dk_4 (dk_at dksX11_damage_2 5 rfl rfl)
theorem dX11_damage_54 : decode cX11_damage 54 = .ok (.if_icmp .ne 13, 3) := dk_160 0 13 (dk_at dksX11_damage_2 6 rfl rfl)
theorem dX11_damage_57 : decode cX11_damage 57 = .ok (.aload_n 0, 1) := dk_42 (dk_at dksX11_damage_2 9 rfl rfl)
theorem dX11_damage_58 : decode cX11_damage 58 = .ok (.getfield 64, 3) := dk_180 0 64 (dk_at dksX11_damage_2 10 rfl rfl)
theorem dX11_damage_61 : decode cX11_damage 61 = .ok (.iload_n 1, 1) := dk_27 (dk_at dksX11_damage_2 13 rfl rfl)
theorem dX11_damage_62 : decode cX11_damage 62 = .ok (.iaload, 1) := dk_46 (dk_at dksX11_damage_2 14 rfl rfl)
theorem dX11_damage_63 : decode cX11_damage 63 = .ok (.i2l, 1) := dk_133 (dk_at dksX11_damage_2 15 rfl rfl)
theorem dX11_damage_64 : decode cX11_damage 64 = .ok (.goto 10, 3) := dk_167 0 10 (dk_at dksX11_damage_2 16 rfl rfl)
theorem dX11_damage_67 : decode cX11_damage 67 = .ok (.aload_n 0, 1) := dk_42 (dk_at dksX11_damage_2 19 rfl rfl)
theorem dX11_damage_68 : decode cX11_damage 68 = .ok (.getfield 67, 3) := dk_180 0 67 (dk_at dksX11_damage_2 20 rfl rfl)
theorem dX11_damage_71 : decode cX11_damage 71 = .ok (.iload_n 1, 1) := dk_27 (dk_at dksX11_damage_2 23 rfl rfl)
theorem dX11_damage_72 : decode cX11_damage 72 = .ok (.iaload, 1) := dk_46 (dk_at dksX11_damage_3 0 rfl rfl)
theorem dX11_damage_73 : decode cX11_damage 73 = .ok (.i2l, 1) := dk_133 (dk_at dksX11_damage_3 1 rfl rfl)
theorem dX11_damage_74 : decode cX11_damage 74 = .ok (.lreturn, 1) := dk_173 (dk_at dksX11_damage_3 2 rfl rfl)
theorem dX11_damage_75 : decode cX11_damage 75 = .ok (.iload_n 2, 1) := dk_28 (dk_at dksX11_damage_3 3 rfl rfl)
theorem dX11_damage_76 : decode cX11_damage 76 = .ok (.iconst 3, 1) := dk_6 (dk_at dksX11_damage_3 4 rfl rfl)
theorem dX11_damage_77 : decode cX11_damage 77 = .ok (.if_icmp .ne 12, 3) := dk_160 0 12 (dk_at dksX11_damage_3 5 rfl rfl)
theorem dX11_damage_80 : decode cX11_damage 80 = .ok (.aload_n 0, 1) := dk_42 (dk_at dksX11_damage_3 8 rfl rfl)
theorem dX11_damage_81 : decode cX11_damage 81 = .ok (.getfield 73, 3) := dk_180 0 73 (dk_at dksX11_damage_3 9 rfl rfl)
theorem dX11_damage_84 : decode cX11_damage 84 = .ok (.iload_n 1, 1) := dk_27 (dk_at dksX11_damage_3 12 rfl rfl)
theorem dX11_damage_85 : decode cX11_damage 85 = .ok (.laload, 1) := dk_47 (dk_at dksX11_damage_3 13 rfl rfl)
theorem dX11_damage_86 : decode cX11_damage 86 = .ok (.goto 23, 3) := dk_167 0 23 (dk_at dksX11_damage_3 14 rfl rfl)
theorem dX11_damage_89 : decode cX11_damage 89 = .ok (.iload_n 2, 1) := dk_28 (dk_at dksX11_damage_3 17 rfl rfl)
theorem dX11_damage_90 : decode cX11_damage 90 = .ok (.iconst 4, 1) := dk_7 (dk_at dksX11_damage_3 18 rfl rfl)
theorem dX11_damage_91 : decode cX11_damage 91 = .ok (.if_icmp .ne 11, 3) := dk_160 0 11 (dk_at dksX11_damage_3 19 rfl rfl)
theorem dX11_damage_94 : decode cX11_damage 94 = .ok (.aload_n 0, 1) := dk_42 (dk_at dksX11_damage_3 22 rfl rfl)
theorem dX11_damage_95 : decode cX11_damage 95 = .ok (.iload_n 1, 1) := dk_27 (dk_at dksX11_damage_3 23 rfl rfl)
theorem dX11_damage_96 : decode cX11_damage 96 = .ok (.invokevirtual 277, 3) := dk_182 1 21 (dk_at dksX11_damage_4 0 rfl rfl)
theorem dX11_damage_99 : decode cX11_damage 99 = .ok (.goto 10, 3) := dk_167 0 10 (dk_at dksX11_damage_4 3 rfl rfl)
theorem dX11_damage_102 : decode cX11_damage 102 = .ok (.aload_n 0, 1) := dk_42 (dk_at dksX11_damage_4 6 rfl rfl)
theorem dX11_damage_103 : decode cX11_damage 103 = .ok (.getfield 70, 3) := dk_180 0 70 (dk_at dksX11_damage_4 7 rfl rfl)
theorem dX11_damage_106 : decode cX11_damage 106 = .ok (.iload_n 1, 1) := dk_27 (dk_at dksX11_damage_4 10 rfl rfl)
theorem dX11_damage_107 : decode cX11_damage 107 = .ok (.iaload, 1) := dk_46 (dk_at dksX11_damage_4 11 rfl rfl)
theorem dX11_damage_108 : decode cX11_damage 108 = .ok (.i2l, 1) := dk_133 (dk_at dksX11_damage_4 12 rfl rfl)
theorem dX11_damage_109 : decode cX11_damage 109 = .ok (.lreturn, 1) := dk_173 (dk_at dksX11_damage_4 13 rfl rfl)
abbrev cX11_took : ByteArray := prog_16_method_98_code
def yX11_took : MethodName := ⟨RX11, "took", "(II)J"⟩
def dkwX11_took_1 : List UInt8 := [47, 167, 0, 4, 9, 173]
abbrev dktX11_took_1 : List UInt8 := dkwX11_took_1 ++ []
def dkwX11_took_0 : List UInt8 := [42, 3, 181, 0, 1, 42, 27, 28, 182, 1, 178, 153, 0, 17, 42, 180, 0, 76, 16, 40, 27, 104, 28, 96]
abbrev dktX11_took_0 : List UInt8 := dkwX11_took_0 ++ dktX11_took_1
theorem dksX11_took_0 : cX11_took.data.toList.drop 0 = dktX11_took_0 := by decide +kernel
theorem dksX11_took_1 : cX11_took.data.toList.drop 24 = dktX11_took_1 := dk_seg dksX11_took_0 24 rfl rfl
theorem dX11_took_0 : decode cX11_took 0 = .ok (.aload_n 0, 1) := dk_42 (dk_at dksX11_took_0 0 rfl rfl)
theorem dX11_took_1 : decode cX11_took 1 = .ok (.iconst 0, 1) := dk_3 (dk_at dksX11_took_0 1 rfl rfl)
theorem dX11_took_2 : decode cX11_took 2 = .ok (.putfield 1, 3) := dk_181 0 1 (dk_at dksX11_took_0 2 rfl rfl)
theorem dX11_took_5 : decode cX11_took 5 = .ok (.aload_n 0, 1) := dk_42 (dk_at dksX11_took_0 5 rfl rfl)
theorem dX11_took_6 : decode cX11_took 6 = .ok (.iload_n 1, 1) := dk_27 (dk_at dksX11_took_0 6 rfl rfl)
theorem dX11_took_7 : decode cX11_took 7 = .ok (.iload_n 2, 1) := dk_28 (dk_at dksX11_took_0 7 rfl rfl)
theorem dX11_took_8 : decode cX11_took 8 = .ok (.invokevirtual 434, 3) := dk_182 1 178 (dk_at dksX11_took_0 8 rfl rfl)
theorem dX11_took_11 : decode cX11_took 11 = .ok (.ifCond .eq 17, 3) := dk_153 0 17 (dk_at dksX11_took_0 11 rfl rfl)
theorem dX11_took_14 : decode cX11_took 14 = .ok (.aload_n 0, 1) := dk_42 (dk_at dksX11_took_0 14 rfl rfl)
theorem dX11_took_15 : decode cX11_took 15 = .ok (.getfield 76, 3) := dk_180 0 76 (dk_at dksX11_took_0 15 rfl rfl)
theorem dX11_took_18 : decode cX11_took 18 = .ok (.bipush 40, 2) := dk_16 40 (dk_at dksX11_took_0 18 rfl rfl)
theorem dX11_took_20 : decode cX11_took 20 = .ok (.iload_n 1, 1) := dk_27 (dk_at dksX11_took_0 20 rfl rfl)
theorem dX11_took_21 : decode cX11_took 21 = .ok (.imul, 1) := dk_104 (dk_at dksX11_took_0 21 rfl rfl)
theorem dX11_took_22 : decode cX11_took 22 = .ok (.iload_n 2, 1) := dk_28 (dk_at dksX11_took_0 22 rfl rfl)
theorem dX11_took_23 : decode cX11_took 23 = .ok (.iadd, 1) := dk_96 (dk_at dksX11_took_0 23 rfl rfl)
theorem dX11_took_24 : decode cX11_took 24 = .ok (.laload, 1) := dk_47 (dk_at dksX11_took_1 0 rfl rfl)
theorem dX11_took_25 : decode cX11_took 25 = .ok (.goto 4, 3) := dk_167 0 4 (dk_at dksX11_took_1 1 rfl rfl)
theorem dX11_took_28 : decode cX11_took 28 = .ok (.lconst 0, 1) := dk_9 (dk_at dksX11_took_1 4 rfl rfl)
theorem dX11_took_29 : decode cX11_took 29 = .ok (.lreturn, 1) := dk_173 (dk_at dksX11_took_1 5 rfl rfl)
abbrev cX11_areBoth : ByteArray := prog_16_method_97_code
def yX11_areBoth : MethodName := ⟨RX11, "areBoth", "(II)Z"⟩
def dkwX11_areBoth_2 : List UInt8 := [4, 3, 182, 1, 90, 172]
abbrev dktX11_areBoth_2 : List UInt8 := dkwX11_areBoth_2 ++ []
def dkwX11_areBoth_1 : List UInt8 := [9, 20, 1, 116, 184, 1, 96, 153, 0, 16, 42, 180, 0, 29, 28, 51, 153, 0, 7, 4, 167, 0, 4, 3]
abbrev dktX11_areBoth_1 : List UInt8 := dkwX11_areBoth_1 ++ dktX11_areBoth_2
def dkwX11_areBoth_0 : List UInt8 := [42, 27, 133, 9, 20, 1, 139, 184, 1, 96, 153, 0, 37, 42, 180, 0, 33, 27, 51, 153, 0, 28, 28, 133]
abbrev dktX11_areBoth_0 : List UInt8 := dkwX11_areBoth_0 ++ dktX11_areBoth_1
theorem dksX11_areBoth_0 : cX11_areBoth.data.toList.drop 0 = dktX11_areBoth_0 := by decide +kernel
theorem dksX11_areBoth_1 : cX11_areBoth.data.toList.drop 24 = dktX11_areBoth_1 := dk_seg dksX11_areBoth_0 24 rfl rfl
theorem dksX11_areBoth_2 : cX11_areBoth.data.toList.drop 48 = dktX11_areBoth_2 := dk_seg dksX11_areBoth_1 24 rfl rfl
theorem dX11_areBoth_0 : decode cX11_areBoth 0 = .ok (.aload_n 0, 1) := dk_42 (dk_at dksX11_areBoth_0 0 rfl rfl)
theorem dX11_areBoth_1 : decode cX11_areBoth 1 = .ok (.iload_n 1, 1) := dk_27 (dk_at dksX11_areBoth_0 1 rfl rfl)
theorem dX11_areBoth_2 : decode cX11_areBoth 2 = .ok (.i2l, 1) := dk_133 (dk_at dksX11_areBoth_0 2 rfl rfl)
theorem dX11_areBoth_3 : decode cX11_areBoth 3 = .ok (.lconst 0, 1) := dk_9 (dk_at dksX11_areBoth_0 3 rfl rfl)
theorem dX11_areBoth_4 : decode cX11_areBoth 4 = .ok (.ldc2_w 395, 3) := dk_20 1 139 (dk_at dksX11_areBoth_0 4 rfl rfl)
theorem dX11_areBoth_7 : decode cX11_areBoth 7 = .ok (.invokestatic 352, 3) := dk_184 1 96 (dk_at dksX11_areBoth_0 7 rfl rfl)
theorem dX11_areBoth_10 : decode cX11_areBoth 10 = .ok (.ifCond .eq 37, 3) := dk_153 0 37 (dk_at dksX11_areBoth_0 10 rfl rfl)
theorem dX11_areBoth_13 : decode cX11_areBoth 13 = .ok (.aload_n 0, 1) := dk_42 (dk_at dksX11_areBoth_0 13 rfl rfl)
theorem dX11_areBoth_14 : decode cX11_areBoth 14 = .ok (.getfield 33, 3) := dk_180 0 33 (dk_at dksX11_areBoth_0 14 rfl rfl)
theorem dX11_areBoth_17 : decode cX11_areBoth 17 = .ok (.iload_n 1, 1) := dk_27 (dk_at dksX11_areBoth_0 17 rfl rfl)
theorem dX11_areBoth_18 : decode cX11_areBoth 18 = .ok (.baload, 1) := dk_51 (dk_at dksX11_areBoth_0 18 rfl rfl)
theorem dX11_areBoth_19 : decode cX11_areBoth 19 = .ok (.ifCond .eq 28, 3) := dk_153 0 28 (dk_at dksX11_areBoth_0 19 rfl rfl)
theorem dX11_areBoth_22 : decode cX11_areBoth 22 = .ok (.iload_n 2, 1) := dk_28 (dk_at dksX11_areBoth_0 22 rfl rfl)
theorem dX11_areBoth_23 : decode cX11_areBoth 23 = .ok (.i2l, 1) := dk_133 (dk_at dksX11_areBoth_0 23 rfl rfl)
theorem dX11_areBoth_24 : decode cX11_areBoth 24 = .ok (.lconst 0, 1) := dk_9 (dk_at dksX11_areBoth_1 0 rfl rfl)
theorem dX11_areBoth_25 : decode cX11_areBoth 25 = .ok (.ldc2_w 372, 3) := dk_20 1 116 (dk_at dksX11_areBoth_1 1 rfl rfl)
theorem dX11_areBoth_28 : decode cX11_areBoth 28 = .ok (.invokestatic 352, 3) := dk_184 1 96 (dk_at dksX11_areBoth_1 4 rfl rfl)
theorem dX11_areBoth_31 : decode cX11_areBoth 31 = .ok (.ifCond .eq 16, 3) := dk_153 0 16 (dk_at dksX11_areBoth_1 7 rfl rfl)
theorem dX11_areBoth_34 : decode cX11_areBoth 34 = .ok (.aload_n 0, 1) := dk_42 (dk_at dksX11_areBoth_1 10 rfl rfl)
theorem dX11_areBoth_35 : decode cX11_areBoth 35 = .ok (.getfield 29, 3) := dk_180 0 29 (dk_at dksX11_areBoth_1 11 rfl rfl)
theorem dX11_areBoth_38 : decode cX11_areBoth 38 = .ok (.iload_n 2, 1) := dk_28 (dk_at dksX11_areBoth_1 14 rfl rfl)
theorem dX11_areBoth_39 : decode cX11_areBoth 39 = .ok (.baload, 1) := dk_51 (dk_at dksX11_areBoth_1 15 rfl rfl)
theorem dX11_areBoth_40 : decode cX11_areBoth 40 = .ok (.ifCond .eq 7, 3) := dk_153 0 7 (dk_at dksX11_areBoth_1 16 rfl rfl)
theorem dX11_areBoth_43 : decode cX11_areBoth 43 = .ok (.iconst 1, 1) := dk_4 (dk_at dksX11_areBoth_1 19 rfl rfl)
theorem dX11_areBoth_44 : decode cX11_areBoth 44 = .ok (.goto 4, 3) := dk_167 0 4 (dk_at dksX11_areBoth_1 20 rfl rfl)
theorem dX11_areBoth_47 : decode cX11_areBoth 47 = .ok (.iconst 0, 1) := dk_3 (dk_at dksX11_areBoth_1 23 rfl rfl)
theorem dX11_areBoth_48 : decode cX11_areBoth 48 = .ok (.iconst 1, 1) := dk_4 (dk_at dksX11_areBoth_2 0 rfl rfl)
theorem dX11_areBoth_49 : decode cX11_areBoth 49 = .ok (.iconst 0, 1) := dk_3 (dk_at dksX11_areBoth_2 1 rfl rfl)
theorem dX11_areBoth_50 : decode cX11_areBoth 50 = .ok (.invokevirtual 346, 3) := dk_182 1 90 (dk_at dksX11_areBoth_2 2 rfl rfl)
theorem dX11_areBoth_53 : decode cX11_areBoth 53 = .ok (.ireturn, 1) := dk_172 (dk_at dksX11_areBoth_2 5 rfl rfl)
abbrev cX11_hole : ByteArray := prog_16_method_99_code
def yX11_hole : MethodName := ⟨RX11, "hole", "(II)J"⟩
def dkwX11_hole_1 : List UInt8 := [47, 167, 0, 4, 9, 173]
abbrev dktX11_hole_1 : List UInt8 := dkwX11_hole_1 ++ []
def dkwX11_hole_0 : List UInt8 := [42, 3, 181, 0, 1, 42, 27, 28, 182, 1, 178, 153, 0, 17, 42, 180, 0, 79, 16, 40, 27, 104, 28, 96]
abbrev dktX11_hole_0 : List UInt8 := dkwX11_hole_0 ++ dktX11_hole_1
theorem dksX11_hole_0 : cX11_hole.data.toList.drop 0 = dktX11_hole_0 := by decide +kernel
theorem dksX11_hole_1 : cX11_hole.data.toList.drop 24 = dktX11_hole_1 := dk_seg dksX11_hole_0 24 rfl rfl
theorem dX11_hole_0 : decode cX11_hole 0 = .ok (.aload_n 0, 1) := dk_42 (dk_at dksX11_hole_0 0 rfl rfl)
theorem dX11_hole_1 : decode cX11_hole 1 = .ok (.iconst 0, 1) := dk_3 (dk_at dksX11_hole_0 1 rfl rfl)
theorem dX11_hole_2 : decode cX11_hole 2 = .ok (.putfield 1, 3) := dk_181 0 1 (dk_at dksX11_hole_0 2 rfl rfl)
theorem dX11_hole_5 : decode cX11_hole 5 = .ok (.aload_n 0, 1) := dk_42 (dk_at dksX11_hole_0 5 rfl rfl)
theorem dX11_hole_6 : decode cX11_hole 6 = .ok (.iload_n 1, 1) := dk_27 (dk_at dksX11_hole_0 6 rfl rfl)
theorem dX11_hole_7 : decode cX11_hole 7 = .ok (.iload_n 2, 1) := dk_28 (dk_at dksX11_hole_0 7 rfl rfl)
theorem dX11_hole_8 : decode cX11_hole 8 = .ok (.invokevirtual 434, 3) := dk_182 1 178 (dk_at dksX11_hole_0 8 rfl rfl)
theorem dX11_hole_11 : decode cX11_hole 11 = .ok (.ifCond .eq 17, 3) := dk_153 0 17 (dk_at dksX11_hole_0 11 rfl rfl)
theorem dX11_hole_14 : decode cX11_hole 14 = .ok (.aload_n 0, 1) := dk_42 (dk_at dksX11_hole_0 14 rfl rfl)
theorem dX11_hole_15 : decode cX11_hole 15 = .ok (.getfield 79, 3) := dk_180 0 79 (dk_at dksX11_hole_0 15 rfl rfl)
theorem dX11_hole_18 : decode cX11_hole 18 = .ok (.bipush 40, 2) := dk_16 40 (dk_at dksX11_hole_0 18 rfl rfl)
theorem dX11_hole_20 : decode cX11_hole 20 = .ok (.iload_n 1, 1) := dk_27 (dk_at dksX11_hole_0 20 rfl rfl)
theorem dX11_hole_21 : decode cX11_hole 21 = .ok (.imul, 1) := dk_104 (dk_at dksX11_hole_0 21 rfl rfl)
theorem dX11_hole_22 : decode cX11_hole 22 = .ok (.iload_n 2, 1) := dk_28 (dk_at dksX11_hole_0 22 rfl rfl)
theorem dX11_hole_23 : decode cX11_hole 23 = .ok (.iadd, 1) := dk_96 (dk_at dksX11_hole_0 23 rfl rfl)
theorem dX11_hole_24 : decode cX11_hole 24 = .ok (.laload, 1) := dk_47 (dk_at dksX11_hole_1 0 rfl rfl)
theorem dX11_hole_25 : decode cX11_hole 25 = .ok (.goto 4, 3) := dk_167 0 4 (dk_at dksX11_hole_1 1 rfl rfl)
theorem dX11_hole_28 : decode cX11_hole 28 = .ok (.lconst 0, 1) := dk_9 (dk_at dksX11_hole_1 4 rfl rfl)
theorem dX11_hole_29 : decode cX11_hole 29 = .ok (.lreturn, 1) := dk_173 (dk_at dksX11_hole_1 5 rfl rfl)
abbrev cX11_moved : ByteArray := prog_16_method_100_code
def yX11_moved : MethodName := ⟨RX11, "moved", "(II)J"⟩
def dkwX11_moved_1 : List UInt8 := [47, 167, 0, 4, 9, 173]
abbrev dktX11_moved_1 : List UInt8 := dkwX11_moved_1 ++ []
def dkwX11_moved_0 : List UInt8 := [42, 3, 181, 0, 1, 42, 27, 28, 182, 1, 178, 153, 0, 17, 42, 180, 0, 82, 16, 40, 27, 104, 28, 96]
abbrev dktX11_moved_0 : List UInt8 := dkwX11_moved_0 ++ dktX11_moved_1
theorem dksX11_moved_0 : cX11_moved.data.toList.drop 0 = dktX11_moved_0 := by decide +kernel
theorem dksX11_moved_1 : cX11_moved.data.toList.drop 24 = dktX11_moved_1 := dk_seg dksX11_moved_0 24 rfl rfl
theorem dX11_moved_0 : decode cX11_moved 0 = .ok (.aload_n 0, 1) := dk_42 (dk_at dksX11_moved_0 0 rfl rfl)
theorem dX11_moved_1 : decode cX11_moved 1 = .ok (.iconst 0, 1) := dk_3 (dk_at dksX11_moved_0 1 rfl rfl)
theorem dX11_moved_2 : decode cX11_moved 2 = .ok (.putfield 1, 3) := dk_181 0 1 (dk_at dksX11_moved_0 2 rfl rfl)
theorem dX11_moved_5 : decode cX11_moved 5 = .ok (.aload_n 0, 1) := dk_42 (dk_at dksX11_moved_0 5 rfl rfl)
theorem dX11_moved_6 : decode cX11_moved 6 = .ok (.iload_n 1, 1) := dk_27 (dk_at dksX11_moved_0 6 rfl rfl)
theorem dX11_moved_7 : decode cX11_moved 7 = .ok (.iload_n 2, 1) := dk_28 (dk_at dksX11_moved_0 7 rfl rfl)
theorem dX11_moved_8 : decode cX11_moved 8 = .ok (.invokevirtual 434, 3) := dk_182 1 178 (dk_at dksX11_moved_0 8 rfl rfl)
theorem dX11_moved_11 : decode cX11_moved 11 = .ok (.ifCond .eq 17, 3) := dk_153 0 17 (dk_at dksX11_moved_0 11 rfl rfl)
theorem dX11_moved_14 : decode cX11_moved 14 = .ok (.aload_n 0, 1) := dk_42 (dk_at dksX11_moved_0 14 rfl rfl)
theorem dX11_moved_15 : decode cX11_moved 15 = .ok (.getfield 82, 3) := dk_180 0 82 (dk_at dksX11_moved_0 15 rfl rfl)
theorem dX11_moved_18 : decode cX11_moved 18 = .ok (.bipush 40, 2) := dk_16 40 (dk_at dksX11_moved_0 18 rfl rfl)
theorem dX11_moved_20 : decode cX11_moved 20 = .ok (.iload_n 1, 1) := dk_27 (dk_at dksX11_moved_0 20 rfl rfl)
theorem dX11_moved_21 : decode cX11_moved 21 = .ok (.imul, 1) := dk_104 (dk_at dksX11_moved_0 21 rfl rfl)
theorem dX11_moved_22 : decode cX11_moved 22 = .ok (.iload_n 2, 1) := dk_28 (dk_at dksX11_moved_0 22 rfl rfl)
theorem dX11_moved_23 : decode cX11_moved 23 = .ok (.iadd, 1) := dk_96 (dk_at dksX11_moved_0 23 rfl rfl)
theorem dX11_moved_24 : decode cX11_moved 24 = .ok (.laload, 1) := dk_47 (dk_at dksX11_moved_1 0 rfl rfl)
theorem dX11_moved_25 : decode cX11_moved 25 = .ok (.goto 4, 3) := dk_167 0 4 (dk_at dksX11_moved_1 1 rfl rfl)
theorem dX11_moved_28 : decode cX11_moved 28 = .ok (.lconst 0, 1) := dk_9 (dk_at dksX11_moved_1 4 rfl rfl)
theorem dX11_moved_29 : decode cX11_moved 29 = .ok (.lreturn, 1) := dk_173 (dk_at dksX11_moved_1 5 rfl rfl)
abbrev cX11_bears : ByteArray := prog_16_method_101_code
def yX11_bears : MethodName := ⟨RX11, "bears", "(II)J"⟩
def dkwX11_bears_1 : List UInt8 := [4, 182, 1, 90, 154, 0, 5, 9, 173, 42, 27, 28, 182, 1, 24, 173]
abbrev dktX11_bears_1 : List UInt8 := dkwX11_bears_1 ++ []
def dkwX11_bears_0 : List UInt8 := [42, 3, 181, 0, 1, 42, 27, 182, 1, 141, 153, 0, 21, 42, 28, 133, 9, 20, 1, 121, 184, 1, 96, 5]
abbrev dktX11_bears_0 : List UInt8 := dkwX11_bears_0 ++ dktX11_bears_1
theorem dksX11_bears_0 : cX11_bears.data.toList.drop 0 = dktX11_bears_0 := by decide +kernel
theorem dksX11_bears_1 : cX11_bears.data.toList.drop 24 = dktX11_bears_1 := dk_seg dksX11_bears_0 24 rfl rfl
theorem dX11_bears_0 : decode cX11_bears 0 = .ok (.aload_n 0, 1) := dk_42 (dk_at dksX11_bears_0 0 rfl rfl)
theorem dX11_bears_1 : decode cX11_bears 1 = .ok (.iconst 0, 1) := dk_3 (dk_at dksX11_bears_0 1 rfl rfl)
theorem dX11_bears_2 : decode cX11_bears 2 = .ok (.putfield 1, 3) := dk_181 0 1 (dk_at dksX11_bears_0 2 rfl rfl)
theorem dX11_bears_5 : decode cX11_bears 5 = .ok (.aload_n 0, 1) := dk_42 (dk_at dksX11_bears_0 5 rfl rfl)
theorem dX11_bears_6 : decode cX11_bears 6 = .ok (.iload_n 1, 1) := dk_27 (dk_at dksX11_bears_0 6 rfl rfl)
theorem dX11_bears_7 : decode cX11_bears 7 = .ok (.invokevirtual 397, 3) := dk_182 1 141 (dk_at dksX11_bears_0 7 rfl rfl)
theorem dX11_bears_10 : decode cX11_bears 10 = .ok (.ifCond .eq 21, 3) := dk_153 0 21 (dk_at dksX11_bears_0 10 rfl rfl)
theorem dX11_bears_13 : decode cX11_bears 13 = .ok (.aload_n 0, 1) := dk_42 (dk_at dksX11_bears_0 13 rfl rfl)
theorem dX11_bears_14 : decode cX11_bears 14 = .ok (.iload_n 2, 1) := dk_28 (dk_at dksX11_bears_0 14 rfl rfl)
theorem dX11_bears_15 : decode cX11_bears 15 = .ok (.i2l, 1) := dk_133 (dk_at dksX11_bears_0 15 rfl rfl)
theorem dX11_bears_16 : decode cX11_bears 16 = .ok (.lconst 0, 1) := dk_9 (dk_at dksX11_bears_0 16 rfl rfl)
theorem dX11_bears_17 : decode cX11_bears 17 = .ok (.ldc2_w 377, 3) := dk_20 1 121 (dk_at dksX11_bears_0 17 rfl rfl)
theorem dX11_bears_20 : decode cX11_bears 20 = .ok (.invokestatic 352, 3) := dk_184 1 96 (dk_at dksX11_bears_0 20 rfl rfl)
theorem dX11_bears_23 : decode cX11_bears 23 = .ok (.iconst 2, 1) := dk_5 (dk_at dksX11_bears_0 23 rfl rfl)
theorem dX11_bears_24 : decode cX11_bears 24 = .ok (.iconst 1, 1) := dk_4 (dk_at dksX11_bears_1 0 rfl rfl)
theorem dX11_bears_25 : decode cX11_bears 25 = .ok (.invokevirtual 346, 3) := dk_182 1 90 (dk_at dksX11_bears_1 1 rfl rfl)
theorem dX11_bears_28 : decode cX11_bears 28 = .ok (.ifCond .ne 5, 3) := dk_154 0 5 (dk_at dksX11_bears_1 4 rfl rfl)
theorem dX11_bears_31 : decode cX11_bears 31 = .ok (.lconst 0, 1) := dk_9 (dk_at dksX11_bears_1 7 rfl rfl)
theorem dX11_bears_32 : decode cX11_bears 32 = .ok (.lreturn, 1) := dk_173 (dk_at dksX11_bears_1 8 rfl rfl)
theorem dX11_bears_33 : decode cX11_bears 33 = .ok (.aload_n 0, 1) := dk_42 (dk_at dksX11_bears_1 9 rfl rfl)
theorem dX11_bears_34 : decode cX11_bears 34 = .ok (.iload_n 1, 1) := dk_27 (dk_at dksX11_bears_1 10 rfl rfl)
theorem dX11_bears_35 : decode cX11_bears 35 = .ok (.iload_n 2, 1) := dk_28 (dk_at dksX11_bears_1 11 rfl rfl)
theorem dX11_bears_36 : decode cX11_bears 36 = .ok (.invokevirtual 280, 3) := dk_182 1 24 (dk_at dksX11_bears_1 12 rfl rfl)
theorem dX11_bears_39 : decode cX11_bears 39 = .ok (.lreturn, 1) := dk_173 (dk_at dksX11_bears_1 15 rfl rfl)
abbrev cX11_bearsOf : ByteArray := prog_16_method_46_code
def yX11_bearsOf : MethodName := ⟨RX11, "bearsOf", "(II)J"⟩
def dkwX11_bearsOf_0 : List UInt8 := [28, 154, 0, 11, 42, 27, 182, 1, 21, 167, 0, 14, 42, 180, 0, 88, 16, 10, 27, 104, 28, 96, 47, 173]
abbrev dktX11_bearsOf_0 : List UInt8 := dkwX11_bearsOf_0 ++ []
theorem dksX11_bearsOf_0 : cX11_bearsOf.data.toList.drop 0 = dktX11_bearsOf_0 := by decide +kernel
theorem dX11_bearsOf_0 : decode cX11_bearsOf 0 = .ok (.iload_n 2, 1) := dk_28 (dk_at dksX11_bearsOf_0 0 rfl rfl)
theorem dX11_bearsOf_1 : decode cX11_bearsOf 1 = .ok (.ifCond .ne 11, 3) := dk_154 0 11 (dk_at dksX11_bearsOf_0 1 rfl rfl)
theorem dX11_bearsOf_4 : decode cX11_bearsOf 4 = .ok (.aload_n 0, 1) := dk_42 (dk_at dksX11_bearsOf_0 4 rfl rfl)
theorem dX11_bearsOf_5 : decode cX11_bearsOf 5 = .ok (.iload_n 1, 1) := dk_27 (dk_at dksX11_bearsOf_0 5 rfl rfl)
theorem dX11_bearsOf_6 : decode cX11_bearsOf 6 = .ok (.invokevirtual 277, 3) := dk_182 1 21 (dk_at dksX11_bearsOf_0 6 rfl rfl)
theorem dX11_bearsOf_9 : decode cX11_bearsOf 9 = .ok (.goto 14, 3) := dk_167 0 14 (dk_at dksX11_bearsOf_0 9 rfl rfl)
theorem dX11_bearsOf_12 : decode cX11_bearsOf 12 = .ok (.aload_n 0, 1) := dk_42 (dk_at dksX11_bearsOf_0 12 rfl rfl)
theorem dX11_bearsOf_13 : decode cX11_bearsOf 13 = .ok (.getfield 88, 3) := dk_180 0 88 (dk_at dksX11_bearsOf_0 13 rfl rfl)
theorem dX11_bearsOf_16 : decode cX11_bearsOf 16 = .ok (.bipush 10, 2) := dk_16 10 (dk_at dksX11_bearsOf_0 16 rfl rfl)
theorem dX11_bearsOf_18 : decode cX11_bearsOf 18 = .ok (.iload_n 1, 1) := dk_27 (dk_at dksX11_bearsOf_0 18 rfl rfl)
theorem dX11_bearsOf_19 : decode cX11_bearsOf 19 = .ok (.imul, 1) := dk_104 (dk_at dksX11_bearsOf_0 19 rfl rfl)
theorem dX11_bearsOf_20 : decode cX11_bearsOf 20 = .ok (.iload_n 2, 1) := dk_28 (dk_at dksX11_bearsOf_0 20 rfl rfl)
theorem dX11_bearsOf_21 : decode cX11_bearsOf 21 = .ok (.iadd, 1) := dk_96 (dk_at dksX11_bearsOf_0 21 rfl rfl)
theorem dX11_bearsOf_22 : decode cX11_bearsOf 22 = .ok (.laload, 1) := dk_47 (dk_at dksX11_bearsOf_0 22 rfl rfl)
theorem dX11_bearsOf_23 : decode cX11_bearsOf 23 = .ok (.lreturn, 1) := dk_173 (dk_at dksX11_bearsOf_0 23 rfl rfl)
abbrev cX11_falls : ByteArray := prog_16_method_102_code
def yX11_falls : MethodName := ⟨RX11, "falls", "(II)J"⟩
def dkwX11_falls_1 : List UInt8 := [4, 182, 1, 90, 154, 0, 5, 9, 173, 42, 180, 0, 91, 16, 7, 27, 104, 28, 96, 47, 173]
abbrev dktX11_falls_1 : List UInt8 := dkwX11_falls_1 ++ []
def dkwX11_falls_0 : List UInt8 := [42, 3, 181, 0, 1, 42, 27, 182, 1, 141, 153, 0, 21, 42, 28, 133, 9, 20, 1, 165, 184, 1, 96, 5]
abbrev dktX11_falls_0 : List UInt8 := dkwX11_falls_0 ++ dktX11_falls_1
theorem dksX11_falls_0 : cX11_falls.data.toList.drop 0 = dktX11_falls_0 := by decide +kernel
theorem dksX11_falls_1 : cX11_falls.data.toList.drop 24 = dktX11_falls_1 := dk_seg dksX11_falls_0 24 rfl rfl
theorem dX11_falls_0 : decode cX11_falls 0 = .ok (.aload_n 0, 1) := dk_42 (dk_at dksX11_falls_0 0 rfl rfl)
theorem dX11_falls_1 : decode cX11_falls 1 = .ok (.iconst 0, 1) := dk_3 (dk_at dksX11_falls_0 1 rfl rfl)
theorem dX11_falls_2 : decode cX11_falls 2 = .ok (.putfield 1, 3) := dk_181 0 1 (dk_at dksX11_falls_0 2 rfl rfl)
theorem dX11_falls_5 : decode cX11_falls 5 = .ok (.aload_n 0, 1) := dk_42 (dk_at dksX11_falls_0 5 rfl rfl)
theorem dX11_falls_6 : decode cX11_falls 6 = .ok (.iload_n 1, 1) := dk_27 (dk_at dksX11_falls_0 6 rfl rfl)
theorem dX11_falls_7 : decode cX11_falls 7 = .ok (.invokevirtual 397, 3) := dk_182 1 141 (dk_at dksX11_falls_0 7 rfl rfl)
theorem dX11_falls_10 : decode cX11_falls 10 = .ok (.ifCond .eq 21, 3) := dk_153 0 21 (dk_at dksX11_falls_0 10 rfl rfl)
theorem dX11_falls_13 : decode cX11_falls 13 = .ok (.aload_n 0, 1) := dk_42 (dk_at dksX11_falls_0 13 rfl rfl)
theorem dX11_falls_14 : decode cX11_falls 14 = .ok (.iload_n 2, 1) := dk_28 (dk_at dksX11_falls_0 14 rfl rfl)
theorem dX11_falls_15 : decode cX11_falls 15 = .ok (.i2l, 1) := dk_133 (dk_at dksX11_falls_0 15 rfl rfl)
theorem dX11_falls_16 : decode cX11_falls 16 = .ok (.lconst 0, 1) := dk_9 (dk_at dksX11_falls_0 16 rfl rfl)
theorem dX11_falls_17 : decode cX11_falls 17 = .ok (.ldc2_w 421, 3) := dk_20 1 165 (dk_at dksX11_falls_0 17 rfl rfl)
theorem dX11_falls_20 : decode cX11_falls 20 = .ok (.invokestatic 352, 3) := dk_184 1 96 (dk_at dksX11_falls_0 20 rfl rfl)
theorem dX11_falls_23 : decode cX11_falls 23 = .ok (.iconst 2, 1) := dk_5 (dk_at dksX11_falls_0 23 rfl rfl)
theorem dX11_falls_24 : decode cX11_falls 24 = .ok (.iconst 1, 1) := dk_4 (dk_at dksX11_falls_1 0 rfl rfl)
theorem dX11_falls_25 : decode cX11_falls 25 = .ok (.invokevirtual 346, 3) := dk_182 1 90 (dk_at dksX11_falls_1 1 rfl rfl)
theorem dX11_falls_28 : decode cX11_falls 28 = .ok (.ifCond .ne 5, 3) := dk_154 0 5 (dk_at dksX11_falls_1 4 rfl rfl)
theorem dX11_falls_31 : decode cX11_falls 31 = .ok (.lconst 0, 1) := dk_9 (dk_at dksX11_falls_1 7 rfl rfl)
theorem dX11_falls_32 : decode cX11_falls 32 = .ok (.lreturn, 1) := dk_173 (dk_at dksX11_falls_1 8 rfl rfl)
theorem dX11_falls_33 : decode cX11_falls 33 = .ok (.aload_n 0, 1) := dk_42 (dk_at dksX11_falls_1 9 rfl rfl)
theorem dX11_falls_34 : decode cX11_falls 34 = .ok (.getfield 91, 3) := dk_180 0 91 (dk_at dksX11_falls_1 10 rfl rfl)
theorem dX11_falls_37 : decode cX11_falls 37 = .ok (.bipush 7, 2) := dk_16 7 (dk_at dksX11_falls_1 13 rfl rfl)
theorem dX11_falls_39 : decode cX11_falls 39 = .ok (.iload_n 1, 1) := dk_27 (dk_at dksX11_falls_1 15 rfl rfl)
theorem dX11_falls_40 : decode cX11_falls 40 = .ok (.imul, 1) := dk_104 (dk_at dksX11_falls_1 16 rfl rfl)
theorem dX11_falls_41 : decode cX11_falls 41 = .ok (.iload_n 2, 1) := dk_28 (dk_at dksX11_falls_1 17 rfl rfl)
theorem dX11_falls_42 : decode cX11_falls 42 = .ok (.iadd, 1) := dk_96 (dk_at dksX11_falls_1 18 rfl rfl)
theorem dX11_falls_43 : decode cX11_falls 43 = .ok (.laload, 1) := dk_47 (dk_at dksX11_falls_1 19 rfl rfl)
theorem dX11_falls_44 : decode cX11_falls 44 = .ok (.lreturn, 1) := dk_173 (dk_at dksX11_falls_1 20 rfl rfl)
abbrev cX11_insurer : ByteArray := prog_16_method_105_code
def yX11_insurer : MethodName := ⟨RX11, "insurer", "(II)J"⟩
def dkwX11_insurer_3 : List UInt8 := [27, 46, 133, 167, 0, 8, 42, 27, 182, 1, 184, 173, 42, 27, 28, 6, 100, 182, 1, 187, 173]
abbrev dktX11_insurer_3 : List UInt8 := dkwX11_insurer_3 ++ []
def dkwX11_insurer_2 : List UInt8 := [162, 0, 36, 28, 154, 0, 11, 42, 27, 182, 1, 181, 167, 0, 23, 28, 4, 160, 0, 13, 42, 180, 0, 94]
abbrev dktX11_insurer_2 : List UInt8 := dkwX11_insurer_2 ++ dktX11_insurer_3
def dkwX11_insurer_1 : List UInt8 := [184, 1, 96, 153, 0, 7, 4, 167, 0, 4, 3, 4, 4, 182, 1, 90, 154, 0, 5, 9, 173, 28, 6]
abbrev dktX11_insurer_1 : List UInt8 := dkwX11_insurer_1 ++ dktX11_insurer_2
def dkwX11_insurer_0 : List UInt8 := [42, 3, 181, 0, 1, 42, 27, 133, 9, 20, 1, 121, 184, 1, 96, 153, 0, 19, 28, 133, 9, 20, 1, 104]
abbrev dktX11_insurer_0 : List UInt8 := dkwX11_insurer_0 ++ dktX11_insurer_1
theorem dksX11_insurer_0 : cX11_insurer.data.toList.drop 0 = dktX11_insurer_0 := by decide +kernel
theorem dksX11_insurer_1 : cX11_insurer.data.toList.drop 24 = dktX11_insurer_1 := dk_seg dksX11_insurer_0 24 rfl rfl
theorem dksX11_insurer_2 : cX11_insurer.data.toList.drop 47 = dktX11_insurer_2 := dk_seg dksX11_insurer_1 23 rfl rfl
theorem dksX11_insurer_3 : cX11_insurer.data.toList.drop 71 = dktX11_insurer_3 := dk_seg dksX11_insurer_2 24 rfl rfl
theorem dX11_insurer_0 : decode cX11_insurer 0 = .ok (.aload_n 0, 1) := dk_42 (dk_at dksX11_insurer_0 0 rfl rfl)
theorem dX11_insurer_1 : decode cX11_insurer 1 = .ok (.iconst 0, 1) := dk_3 (dk_at dksX11_insurer_0 1 rfl rfl)
theorem dX11_insurer_2 : decode cX11_insurer 2 = .ok (.putfield 1, 3) := dk_181 0 1 (dk_at dksX11_insurer_0 2 rfl rfl)
theorem dX11_insurer_5 : decode cX11_insurer 5 = .ok (.aload_n 0, 1) := dk_42 (dk_at dksX11_insurer_0 5 rfl rfl)
theorem dX11_insurer_6 : decode cX11_insurer 6 = .ok (.iload_n 1, 1) := dk_27 (dk_at dksX11_insurer_0 6 rfl rfl)
theorem dX11_insurer_7 : decode cX11_insurer 7 = .ok (.i2l, 1) := dk_133 (dk_at dksX11_insurer_0 7 rfl rfl)
theorem dX11_insurer_8 : decode cX11_insurer 8 = .ok (.lconst 0, 1) := dk_9 (dk_at dksX11_insurer_0 8 rfl rfl)
theorem dX11_insurer_9 : decode cX11_insurer 9 = .ok (.ldc2_w 377, 3) := dk_20 1 121 (dk_at dksX11_insurer_0 9 rfl rfl)
theorem dX11_insurer_12 : decode cX11_insurer 12 = .ok (.invokestatic 352, 3) := dk_184 1 96 (dk_at dksX11_insurer_0 12 rfl rfl)
theorem dX11_insurer_15 : decode cX11_insurer 15 = .ok (.ifCond .eq 19, 3) := dk_153 0 19 (dk_at dksX11_insurer_0 15 rfl rfl)
theorem dX11_insurer_18 : decode cX11_insurer 18 = .ok (.iload_n 2, 1) := dk_28 (dk_at dksX11_insurer_0 18 rfl rfl)
theorem dX11_insurer_19 : decode cX11_insurer 19 = .ok (.i2l, 1) := dk_133 (dk_at dksX11_insurer_0 19 rfl rfl)
theorem dX11_insurer_20 : decode cX11_insurer 20 = .ok (.lconst 0, 1) := dk_9 (dk_at dksX11_insurer_0 20 rfl rfl)
theorem dX11_insurer_21 : decode cX11_insurer 21 = .ok (.ldc2_w 360, 3) := dk_20 1 104 (dk_at dksX11_insurer_0 21 rfl rfl)
theorem dX11_insurer_24 : decode cX11_insurer 24 = .ok (.invokestatic 352, 3) := dk_184 1 96 (dk_at dksX11_insurer_1 0 rfl rfl)
theorem dX11_insurer_27 : decode cX11_insurer 27 = .ok (.ifCond .eq 7, 3) := dk_153 0 7 (dk_at dksX11_insurer_1 3 rfl rfl)
theorem dX11_insurer_30 : decode cX11_insurer 30 = .ok (.iconst 1, 1) := dk_4 (dk_at dksX11_insurer_1 6 rfl rfl)
theorem dX11_insurer_31 : decode cX11_insurer 31 = .ok (.goto 4, 3) := dk_167 0 4 (dk_at dksX11_insurer_1 7 rfl rfl)
theorem dX11_insurer_34 : decode cX11_insurer 34 = .ok (.iconst 0, 1) := dk_3 (dk_at dksX11_insurer_1 10 rfl rfl)
theorem dX11_insurer_35 : decode cX11_insurer 35 = .ok (.iconst 1, 1) := dk_4 (dk_at dksX11_insurer_1 11 rfl rfl)
theorem dX11_insurer_36 : decode cX11_insurer 36 = .ok (.iconst 1, 1) := dk_4 (dk_at dksX11_insurer_1 12 rfl rfl)
theorem dX11_insurer_37 : decode cX11_insurer 37 = .ok (.invokevirtual 346, 3) := dk_182 1 90 (dk_at dksX11_insurer_1 13 rfl rfl)
theorem dX11_insurer_40 : decode cX11_insurer 40 = .ok (.ifCond .ne 5, 3) := dk_154 0 5 (dk_at dksX11_insurer_1 16 rfl rfl)
theorem dX11_insurer_43 : decode cX11_insurer 43 = .ok (.lconst 0, 1) := dk_9 (dk_at dksX11_insurer_1 19 rfl rfl)
theorem dX11_insurer_44 : decode cX11_insurer 44 = .ok (.lreturn, 1) := dk_173 (dk_at dksX11_insurer_1 20 rfl rfl)
theorem dX11_insurer_45 : decode cX11_insurer 45 = .ok (.iload_n 2, 1) := dk_28 (dk_at dksX11_insurer_1 21 rfl rfl)
theorem dX11_insurer_46 : decode cX11_insurer 46 = .ok (.iconst 3, 1) := dk_6 (dk_at dksX11_insurer_1 22 rfl rfl)
theorem dX11_insurer_47 : decode cX11_insurer 47 = .ok (.if_icmp .ge 36, 3) := dk_162 0 36 (dk_at dksX11_insurer_2 0 rfl rfl)
theorem dX11_insurer_50 : decode cX11_insurer 50 = .ok (.iload_n 2, 1) := dk_28 (dk_at dksX11_insurer_2 3 rfl rfl)
theorem dX11_insurer_51 : decode cX11_insurer 51 = .ok (.ifCond .ne 11, 3) := dk_154 0 11 (dk_at dksX11_insurer_2 4 rfl rfl)
theorem dX11_insurer_54 : decode cX11_insurer 54 = .ok (.aload_n 0, 1) := dk_42 (dk_at dksX11_insurer_2 7 rfl rfl)
theorem dX11_insurer_55 : decode cX11_insurer 55 = .ok (.iload_n 1, 1) := dk_27 (dk_at dksX11_insurer_2 8 rfl rfl)
theorem dX11_insurer_56 : decode cX11_insurer 56 = .ok (.invokevirtual 437, 3) := dk_182 1 181 (dk_at dksX11_insurer_2 9 rfl rfl)
theorem dX11_insurer_59 : decode cX11_insurer 59 = .ok (.goto 23, 3) := dk_167 0 23 (dk_at dksX11_insurer_2 12 rfl rfl)
theorem dX11_insurer_62 : decode cX11_insurer 62 = .ok (.iload_n 2, 1) := dk_28 (dk_at dksX11_insurer_2 15 rfl rfl)
theorem dX11_insurer_63 : decode cX11_insurer 63 = .ok (.iconst 1, 1) := dk_4 (dk_at dksX11_insurer_2 16 rfl rfl)
theorem dX11_insurer_64 : decode cX11_insurer 64 = .ok (.if_icmp .ne 13, 3) := dk_160 0 13 (dk_at dksX11_insurer_2 17 rfl rfl)
theorem dX11_insurer_67 : decode cX11_insurer 67 = .ok (.aload_n 0, 1) := dk_42 (dk_at dksX11_insurer_2 20 rfl rfl)
theorem dX11_insurer_68 : decode cX11_insurer 68 = .ok (.getfield 94, 3) := dk_180 0 94 (dk_at dksX11_insurer_2 21 rfl rfl)
theorem dX11_insurer_71 : decode cX11_insurer 71 = .ok (.iload_n 1, 1) := dk_27 (dk_at dksX11_insurer_3 0 rfl rfl)
theorem dX11_insurer_72 : decode cX11_insurer 72 = .ok (.iaload, 1) := dk_46 (dk_at dksX11_insurer_3 1 rfl rfl)
theorem dX11_insurer_73 : decode cX11_insurer 73 = .ok (.i2l, 1) := dk_133 (dk_at dksX11_insurer_3 2 rfl rfl)
theorem dX11_insurer_74 : decode cX11_insurer 74 = .ok (.goto 8, 3) := dk_167 0 8 (dk_at dksX11_insurer_3 3 rfl rfl)
theorem dX11_insurer_77 : decode cX11_insurer 77 = .ok (.aload_n 0, 1) := dk_42 (dk_at dksX11_insurer_3 6 rfl rfl)
theorem dX11_insurer_78 : decode cX11_insurer 78 = .ok (.iload_n 1, 1) := dk_27 (dk_at dksX11_insurer_3 7 rfl rfl)
theorem dX11_insurer_79 : decode cX11_insurer 79 = .ok (.invokevirtual 440, 3) := dk_182 1 184 (dk_at dksX11_insurer_3 8 rfl rfl)
theorem dX11_insurer_82 : decode cX11_insurer 82 = .ok (.lreturn, 1) := dk_173 (dk_at dksX11_insurer_3 11 rfl rfl)
theorem dX11_insurer_83 : decode cX11_insurer 83 = .ok (.aload_n 0, 1) := dk_42 (dk_at dksX11_insurer_3 12 rfl rfl)
theorem dX11_insurer_84 : decode cX11_insurer 84 = .ok (.iload_n 1, 1) := dk_27 (dk_at dksX11_insurer_3 13 rfl rfl)
theorem dX11_insurer_85 : decode cX11_insurer 85 = .ok (.iload_n 2, 1) := dk_28 (dk_at dksX11_insurer_3 14 rfl rfl)
theorem dX11_insurer_86 : decode cX11_insurer 86 = .ok (.iconst 3, 1) := dk_6 (dk_at dksX11_insurer_3 15 rfl rfl)
theorem dX11_insurer_87 : decode cX11_insurer 87 = .ok (.isub, 1) := dk_100 (dk_at dksX11_insurer_3 16 rfl rfl)
theorem dX11_insurer_88 : decode cX11_insurer 88 = .ok (.invokevirtual 443, 3) := dk_182 1 187 (dk_at dksX11_insurer_3 17 rfl rfl)
theorem dX11_insurer_91 : decode cX11_insurer 91 = .ok (.lreturn, 1) := dk_173 (dk_at dksX11_insurer_3 20 rfl rfl)
abbrev cX11_bearsAll : ByteArray := prog_16_method_47_code
def yX11_bearsAll : MethodName := ⟨RX11, "bearsAll", "(I)J"⟩
def dkwX11_bearsAll_1 : List UInt8 := [21, 4, 27, 182, 1, 24, 167, 0, 4, 9, 97, 65, 132, 4, 1, 167, 255, 222, 32, 173]
abbrev dktX11_bearsAll_1 : List UInt8 := dkwX11_bearsAll_1 ++ []
def dkwX11_bearsAll_0 : List UInt8 := [9, 65, 3, 54, 4, 21, 4, 16, 24, 162, 0, 33, 32, 42, 180, 0, 33, 21, 4, 51, 153, 0, 13, 42]
abbrev dktX11_bearsAll_0 : List UInt8 := dkwX11_bearsAll_0 ++ dktX11_bearsAll_1
theorem dksX11_bearsAll_0 : cX11_bearsAll.data.toList.drop 0 = dktX11_bearsAll_0 := by decide +kernel
theorem dksX11_bearsAll_1 : cX11_bearsAll.data.toList.drop 24 = dktX11_bearsAll_1 := dk_seg dksX11_bearsAll_0 24 rfl rfl
theorem dX11_bearsAll_0 : decode cX11_bearsAll 0 = .ok (.lconst 0, 1) := dk_9 (dk_at dksX11_bearsAll_0 0 rfl rfl)
theorem dX11_bearsAll_1 : decode cX11_bearsAll 1 = .ok (.lstore_n 2, 1) := dk_65 (dk_at dksX11_bearsAll_0 1 rfl rfl)
theorem dX11_bearsAll_2 : decode cX11_bearsAll 2 = .ok (.iconst 0, 1) := dk_3 (dk_at dksX11_bearsAll_0 2 rfl rfl)
theorem dX11_bearsAll_3 : decode cX11_bearsAll 3 = .ok (.istore 4, 2) := dk_54 4 (dk_at dksX11_bearsAll_0 3 rfl rfl)
theorem dX11_bearsAll_5 : decode cX11_bearsAll 5 = .ok (.iload 4, 2) := dk_21 4 (dk_at dksX11_bearsAll_0 5 rfl rfl)
theorem dX11_bearsAll_7 : decode cX11_bearsAll 7 = .ok (.bipush 24, 2) := dk_16 24 (dk_at dksX11_bearsAll_0 7 rfl rfl)
theorem dX11_bearsAll_9 : decode cX11_bearsAll 9 = .ok (.if_icmp .ge 33, 3) := dk_162 0 33 (dk_at dksX11_bearsAll_0 9 rfl rfl)
theorem dX11_bearsAll_12 : decode cX11_bearsAll 12 = .ok (.lload_n 2, 1) := dk_32 (dk_at dksX11_bearsAll_0 12 rfl rfl)
theorem dX11_bearsAll_13 : decode cX11_bearsAll 13 = .ok (.aload_n 0, 1) := dk_42 (dk_at dksX11_bearsAll_0 13 rfl rfl)
theorem dX11_bearsAll_14 : decode cX11_bearsAll 14 = .ok (.getfield 33, 3) := dk_180 0 33 (dk_at dksX11_bearsAll_0 14 rfl rfl)
theorem dX11_bearsAll_17 : decode cX11_bearsAll 17 = .ok (.iload 4, 2) := dk_21 4 (dk_at dksX11_bearsAll_0 17 rfl rfl)
theorem dX11_bearsAll_19 : decode cX11_bearsAll 19 = .ok (.baload, 1) := dk_51 (dk_at dksX11_bearsAll_0 19 rfl rfl)
theorem dX11_bearsAll_20 : decode cX11_bearsAll 20 = .ok (.ifCond .eq 13, 3) := dk_153 0 13 (dk_at dksX11_bearsAll_0 20 rfl rfl)
theorem dX11_bearsAll_23 : decode cX11_bearsAll 23 = .ok (.aload_n 0, 1) := dk_42 (dk_at dksX11_bearsAll_0 23 rfl rfl)
theorem dX11_bearsAll_24 : decode cX11_bearsAll 24 = .ok (.iload 4, 2) := dk_21 4 (dk_at dksX11_bearsAll_1 0 rfl rfl)
theorem dX11_bearsAll_26 : decode cX11_bearsAll 26 = .ok (.iload_n 1, 1) := dk_27 (dk_at dksX11_bearsAll_1 2 rfl rfl)
theorem dX11_bearsAll_27 : decode cX11_bearsAll 27 = .ok (.invokevirtual 280, 3) := dk_182 1 24 (dk_at dksX11_bearsAll_1 3 rfl rfl)
theorem dX11_bearsAll_30 : decode cX11_bearsAll 30 = .ok (.goto 4, 3) := dk_167 0 4 (dk_at dksX11_bearsAll_1 6 rfl rfl)
theorem dX11_bearsAll_33 : decode cX11_bearsAll 33 = .ok (.lconst 0, 1) := dk_9 (dk_at dksX11_bearsAll_1 9 rfl rfl)
theorem dX11_bearsAll_34 : decode cX11_bearsAll 34 = .ok (.ladd, 1) := dk_97 (dk_at dksX11_bearsAll_1 10 rfl rfl)
theorem dX11_bearsAll_35 : decode cX11_bearsAll 35 = .ok (.lstore_n 2, 1) := dk_65 (dk_at dksX11_bearsAll_1 11 rfl rfl)
theorem dX11_bearsAll_36 : decode cX11_bearsAll 36 = .ok (.iinc 4 1, 3) := dk_132 4 1 (dk_at dksX11_bearsAll_1 12 rfl rfl)
theorem dX11_bearsAll_39 : decode cX11_bearsAll 39 = .ok (.goto (-34), 3) := dk_167 255 222 (dk_at dksX11_bearsAll_1 15 rfl rfl)
theorem dX11_bearsAll_42 : decode cX11_bearsAll 42 = .ok (.lload_n 2, 1) := dk_32 (dk_at dksX11_bearsAll_1 18 rfl rfl)
theorem dX11_bearsAll_43 : decode cX11_bearsAll 43 = .ok (.lreturn, 1) := dk_173 (dk_at dksX11_bearsAll_1 19 rfl rfl)
abbrev cX11_cashOf : ByteArray := prog_16_method_103_code
def yX11_cashOf : MethodName := ⟨RX11, "cashOf", "(I)J"⟩
def dkwX11_cashOf_1 : List UInt8 := [32, 42, 180, 0, 97, 21, 4, 46, 133, 97, 65, 132, 4, 1, 167, 255, 235, 32, 173]
abbrev dktX11_cashOf_1 : List UInt8 := dkwX11_cashOf_1 ++ []
def dkwX11_cashOf_0 : List UInt8 := [27, 158, 0, 11, 42, 180, 0, 97, 27, 46, 133, 173, 9, 65, 4, 54, 4, 21, 4, 16, 10, 162, 0, 20]
abbrev dktX11_cashOf_0 : List UInt8 := dkwX11_cashOf_0 ++ dktX11_cashOf_1
theorem dksX11_cashOf_0 : cX11_cashOf.data.toList.drop 0 = dktX11_cashOf_0 := by decide +kernel
theorem dksX11_cashOf_1 : cX11_cashOf.data.toList.drop 24 = dktX11_cashOf_1 := dk_seg dksX11_cashOf_0 24 rfl rfl
theorem dX11_cashOf_0 : decode cX11_cashOf 0 = .ok (.iload_n 1, 1) := dk_27 (dk_at dksX11_cashOf_0 0 rfl rfl)
theorem dX11_cashOf_1 : decode cX11_cashOf 1 = .ok (.ifCond .le 11, 3) := dk_158 0 11 (dk_at dksX11_cashOf_0 1 rfl rfl)
theorem dX11_cashOf_4 : decode cX11_cashOf 4 = .ok (.aload_n 0, 1) := dk_42 (dk_at dksX11_cashOf_0 4 rfl rfl)
theorem dX11_cashOf_5 : decode cX11_cashOf 5 = .ok (.getfield 97, 3) := dk_180 0 97 (dk_at dksX11_cashOf_0 5 rfl rfl)
theorem dX11_cashOf_8 : decode cX11_cashOf 8 = .ok (.iload_n 1, 1) := dk_27 (dk_at dksX11_cashOf_0 8 rfl rfl)
theorem dX11_cashOf_9 : decode cX11_cashOf 9 = .ok (.iaload, 1) := dk_46 (dk_at dksX11_cashOf_0 9 rfl rfl)
theorem dX11_cashOf_10 : decode cX11_cashOf 10 = .ok (.i2l, 1) := dk_133 (dk_at dksX11_cashOf_0 10 rfl rfl)
theorem dX11_cashOf_11 : decode cX11_cashOf 11 = .ok (.lreturn, 1) := dk_173 (dk_at dksX11_cashOf_0 11 rfl rfl)
theorem dX11_cashOf_12 : decode cX11_cashOf 12 = .ok (.lconst 0, 1) := dk_9 (dk_at dksX11_cashOf_0 12 rfl rfl)
theorem dX11_cashOf_13 : decode cX11_cashOf 13 = .ok (.lstore_n 2, 1) := dk_65 (dk_at dksX11_cashOf_0 13 rfl rfl)
theorem dX11_cashOf_14 : decode cX11_cashOf 14 = .ok (.iconst 1, 1) := dk_4 (dk_at dksX11_cashOf_0 14 rfl rfl)
theorem dX11_cashOf_15 : decode cX11_cashOf 15 = .ok (.istore 4, 2) := dk_54 4 (dk_at dksX11_cashOf_0 15 rfl rfl)
theorem dX11_cashOf_17 : decode cX11_cashOf 17 = .ok (.iload 4, 2) := dk_21 4 (dk_at dksX11_cashOf_0 17 rfl rfl)
theorem dX11_cashOf_19 : decode cX11_cashOf 19 = .ok (.bipush 10, 2) := dk_16 10 (dk_at dksX11_cashOf_0 19 rfl rfl)
theorem dX11_cashOf_21 : decode cX11_cashOf 21 = .ok (.if_icmp .ge 20, 3) := dk_162 0 20 (dk_at dksX11_cashOf_0 21 rfl rfl)
theorem dX11_cashOf_24 : decode cX11_cashOf 24 = .ok (.lload_n 2, 1) := dk_32 (dk_at dksX11_cashOf_1 0 rfl rfl)
theorem dX11_cashOf_25 : decode cX11_cashOf 25 = .ok (.aload_n 0, 1) := dk_42 (dk_at dksX11_cashOf_1 1 rfl rfl)
theorem dX11_cashOf_26 : decode cX11_cashOf 26 = .ok (.getfield 97, 3) := dk_180 0 97 (dk_at dksX11_cashOf_1 2 rfl rfl)
theorem dX11_cashOf_29 : decode cX11_cashOf 29 = .ok (.iload 4, 2) := dk_21 4 (dk_at dksX11_cashOf_1 5 rfl rfl)
theorem dX11_cashOf_31 : decode cX11_cashOf 31 = .ok (.iaload, 1) := dk_46 (dk_at dksX11_cashOf_1 7 rfl rfl)
theorem dX11_cashOf_32 : decode cX11_cashOf 32 = .ok (.i2l, 1) := dk_133 (dk_at dksX11_cashOf_1 8 rfl rfl)
theorem dX11_cashOf_33 : decode cX11_cashOf 33 = .ok (.ladd, 1) := dk_97 (dk_at dksX11_cashOf_1 9 rfl rfl)
theorem dX11_cashOf_34 : decode cX11_cashOf 34 = .ok (.lstore_n 2, 1) := dk_65 (dk_at dksX11_cashOf_1 10 rfl rfl)
theorem dX11_cashOf_35 : decode cX11_cashOf 35 = .ok (.iinc 4 1, 3) := dk_132 4 1 (dk_at dksX11_cashOf_1 11 rfl rfl)
theorem dX11_cashOf_38 : decode cX11_cashOf 38 = .ok (.goto (-21), 3) := dk_167 255 235 (dk_at dksX11_cashOf_1 14 rfl rfl)
theorem dX11_cashOf_41 : decode cX11_cashOf 41 = .ok (.lload_n 2, 1) := dk_32 (dk_at dksX11_cashOf_1 17 rfl rfl)
theorem dX11_cashOf_42 : decode cX11_cashOf 42 = .ok (.lreturn, 1) := dk_173 (dk_at dksX11_cashOf_1 18 rfl rfl)
abbrev cX11_signedBy : ByteArray := prog_16_method_104_code
def yX11_signedBy : MethodName := ⟨RX11, "signedBy", "(II)J"⟩
def dkwX11_signedBy_4 : List UInt8 := [167, 255, 180, 132, 5, 1, 167, 255, 164, 33, 173]
abbrev dktX11_signedBy_4 : List UInt8 := dkwX11_signedBy_4 ++ []
def dkwX11_signedBy_3 : List UInt8 := [180, 0, 54, 7, 21, 5, 104, 21, 6, 96, 46, 133, 105, 20, 0, 252, 109, 97, 66, 132, 6, 1]
abbrev dktX11_signedBy_3 : List UInt8 := dkwX11_signedBy_3 ++ dktX11_signedBy_4
def dkwX11_signedBy_2 : List UInt8 := [21, 6, 96, 46, 27, 160, 0, 38, 33, 28, 154, 0, 7, 10, 167, 0, 27, 42, 21, 5, 182, 0, 175, 42]
abbrev dktX11_signedBy_2 : List UInt8 := dkwX11_signedBy_2 ++ dktX11_signedBy_3
def dkwX11_signedBy_1 : List UInt8 := [153, 0, 72, 21, 6, 42, 180, 0, 48, 21, 5, 46, 162, 0, 60, 42, 180, 0, 51, 7, 21, 5, 104]
abbrev dktX11_signedBy_1 : List UInt8 := dkwX11_signedBy_1 ++ dktX11_signedBy_2
def dkwX11_signedBy_0 : List UInt8 := [9, 66, 3, 54, 5, 21, 5, 16, 40, 162, 0, 91, 3, 54, 6, 42, 180, 0, 29, 21, 5, 51]
abbrev dktX11_signedBy_0 : List UInt8 := dkwX11_signedBy_0 ++ dktX11_signedBy_1
theorem dksX11_signedBy_0 : cX11_signedBy.data.toList.drop 0 = dktX11_signedBy_0 := by decide +kernel
theorem dksX11_signedBy_1 : cX11_signedBy.data.toList.drop 22 = dktX11_signedBy_1 := dk_seg dksX11_signedBy_0 22 rfl rfl
theorem dksX11_signedBy_2 : cX11_signedBy.data.toList.drop 45 = dktX11_signedBy_2 := dk_seg dksX11_signedBy_1 23 rfl rfl
theorem dksX11_signedBy_3 : cX11_signedBy.data.toList.drop 69 = dktX11_signedBy_3 := dk_seg dksX11_signedBy_2 24 rfl rfl
theorem dksX11_signedBy_4 : cX11_signedBy.data.toList.drop 91 = dktX11_signedBy_4 := dk_seg dksX11_signedBy_3 22 rfl rfl
theorem dX11_signedBy_0 : decode cX11_signedBy 0 = .ok (.lconst 0, 1) := dk_9 (dk_at dksX11_signedBy_0 0 rfl rfl)
theorem dX11_signedBy_1 : decode cX11_signedBy 1 = .ok (.lstore_n 3, 1) := dk_66 (dk_at dksX11_signedBy_0 1 rfl rfl)
theorem dX11_signedBy_2 : decode cX11_signedBy 2 = .ok (.iconst 0, 1) := dk_3 (dk_at dksX11_signedBy_0 2 rfl rfl)
theorem dX11_signedBy_3 : decode cX11_signedBy 3 = .ok (.istore 5, 2) := dk_54 5 (dk_at dksX11_signedBy_0 3 rfl rfl)
theorem dX11_signedBy_5 : decode cX11_signedBy 5 = .ok (.iload 5, 2) := dk_21 5 (dk_at dksX11_signedBy_0 5 rfl rfl)
theorem dX11_signedBy_7 : decode cX11_signedBy 7 = .ok (.bipush 40, 2) := dk_16 40 (dk_at dksX11_signedBy_0 7 rfl rfl)
theorem dX11_signedBy_9 : decode cX11_signedBy 9 = .ok (.if_icmp .ge 91, 3) := dk_162 0 91 (dk_at dksX11_signedBy_0 9 rfl rfl)
theorem dX11_signedBy_12 : decode cX11_signedBy 12 = .ok (.iconst 0, 1) := dk_3 (dk_at dksX11_signedBy_0 12 rfl rfl)
theorem dX11_signedBy_13 : decode cX11_signedBy 13 = .ok (.istore 6, 2) := dk_54 6 (dk_at dksX11_signedBy_0 13 rfl rfl)
theorem dX11_signedBy_15 : decode cX11_signedBy 15 = .ok (.aload_n 0, 1) := dk_42 (dk_at dksX11_signedBy_0 15 rfl rfl)
theorem dX11_signedBy_16 : decode cX11_signedBy 16 = .ok (.getfield 29, 3) := dk_180 0 29 (dk_at dksX11_signedBy_0 16 rfl rfl)
theorem dX11_signedBy_19 : decode cX11_signedBy 19 = .ok (.iload 5, 2) := dk_21 5 (dk_at dksX11_signedBy_0 19 rfl rfl)
theorem dX11_signedBy_21 : decode cX11_signedBy 21 = .ok (.baload, 1) := dk_51 (dk_at dksX11_signedBy_0 21 rfl rfl)
theorem dX11_signedBy_22 : decode cX11_signedBy 22 = .ok (.ifCond .eq 72, 3) := dk_153 0 72 (dk_at dksX11_signedBy_1 0 rfl rfl)
theorem dX11_signedBy_25 : decode cX11_signedBy 25 = .ok (.iload 6, 2) := dk_21 6 (dk_at dksX11_signedBy_1 3 rfl rfl)
theorem dX11_signedBy_27 : decode cX11_signedBy 27 = .ok (.aload_n 0, 1) := dk_42 (dk_at dksX11_signedBy_1 5 rfl rfl)
theorem dX11_signedBy_28 : decode cX11_signedBy 28 = .ok (.getfield 48, 3) := dk_180 0 48 (dk_at dksX11_signedBy_1 6 rfl rfl)
theorem dX11_signedBy_31 : decode cX11_signedBy 31 = .ok (.iload 5, 2) := dk_21 5 (dk_at dksX11_signedBy_1 9 rfl rfl)
theorem dX11_signedBy_33 : decode cX11_signedBy 33 = .ok (.iaload, 1) := dk_46 (dk_at dksX11_signedBy_1 11 rfl rfl)
theorem dX11_signedBy_34 : decode cX11_signedBy 34 = .ok (.if_icmp .ge 60, 3) := dk_162 0 60 (dk_at dksX11_signedBy_1 12 rfl rfl)
theorem dX11_signedBy_37 : decode cX11_signedBy 37 = .ok (.aload_n 0, 1) := dk_42 (dk_at dksX11_signedBy_1 15 rfl rfl)
theorem dX11_signedBy_38 : decode cX11_signedBy 38 = .ok (.getfield 51, 3) := dk_180 0 51 (dk_at dksX11_signedBy_1 16 rfl rfl)
theorem dX11_signedBy_41 : decode cX11_signedBy 41 = .ok (.iconst 4, 1) := dk_7 (dk_at dksX11_signedBy_1 19 rfl rfl)
theorem dX11_signedBy_42 : decode cX11_signedBy 42 = .ok (.iload 5, 2) := dk_21 5 (dk_at dksX11_signedBy_1 20 rfl rfl)
theorem dX11_signedBy_44 : decode cX11_signedBy 44 = .ok (.imul, 1) := dk_104 (dk_at dksX11_signedBy_1 22 rfl rfl)
theorem dX11_signedBy_45 : decode cX11_signedBy 45 = .ok (.iload 6, 2) := dk_21 6 (dk_at dksX11_signedBy_2 0 rfl rfl)
theorem dX11_signedBy_47 : decode cX11_signedBy 47 = .ok (.iadd, 1) := dk_96 (dk_at dksX11_signedBy_2 2 rfl rfl)
theorem dX11_signedBy_48 : decode cX11_signedBy 48 = .ok (.iaload, 1) := dk_46 (dk_at dksX11_signedBy_2 3 rfl rfl)
theorem dX11_signedBy_49 : decode cX11_signedBy 49 = .ok (.iload_n 1, 1) := dk_27 (dk_at dksX11_signedBy_2 4 rfl rfl)
theorem dX11_signedBy_50 : decode cX11_signedBy 50 = .ok (.if_icmp .ne 38, 3) := dk_160 0 38 (dk_at dksX11_signedBy_2 5 rfl rfl)
theorem dX11_signedBy_53 : decode cX11_signedBy 53 = .ok (.lload_n 3, 1) := dk_33 (dk_at dksX11_signedBy_2 8 rfl rfl)
theorem dX11_signedBy_54 : decode cX11_signedBy 54 = .ok (.iload_n 2, 1) := dk_28 (dk_at dksX11_signedBy_2 9 rfl rfl)
theorem dX11_signedBy_55 : decode cX11_signedBy 55 = .ok (.ifCond .ne 7, 3) := dk_154 0 7 (dk_at dksX11_signedBy_2 10 rfl rfl)
theorem dX11_signedBy_58 : decode cX11_signedBy 58 = .ok (.lconst 1, 1) := dk_10 (dk_at dksX11_signedBy_2 13 rfl rfl)
theorem dX11_signedBy_59 : decode cX11_signedBy 59 = .ok (.goto 27, 3) := dk_167 0 27 (dk_at dksX11_signedBy_2 14 rfl rfl)
theorem dX11_signedBy_62 : decode cX11_signedBy 62 = .ok (.aload_n 0, 1) := dk_42 (dk_at dksX11_signedBy_2 17 rfl rfl)
theorem dX11_signedBy_63 : decode cX11_signedBy 63 = .ok (.iload 5, 2) := dk_21 5 (dk_at dksX11_signedBy_2 18 rfl rfl)
theorem dX11_signedBy_65 : decode cX11_signedBy 65 = .ok (.invokevirtual 175, 3) := dk_182 0 175 (dk_at dksX11_signedBy_2 20 rfl rfl)
theorem dX11_signedBy_68 : decode cX11_signedBy 68 = .ok (.aload_n 0, 1) := dk_42 (dk_at dksX11_signedBy_2 23 rfl rfl)
theorem dX11_signedBy_69 : decode cX11_signedBy 69 = .ok (.getfield 54, 3) := dk_180 0 54 (dk_at dksX11_signedBy_3 0 rfl rfl)
theorem dX11_signedBy_72 : decode cX11_signedBy 72 = .ok (.iconst 4, 1) := dk_7 (dk_at dksX11_signedBy_3 3 rfl rfl)
theorem dX11_signedBy_73 : decode cX11_signedBy 73 = .ok (.iload 5, 2) := dk_21 5 (dk_at dksX11_signedBy_3 4 rfl rfl)
theorem dX11_signedBy_75 : decode cX11_signedBy 75 = .ok (.imul, 1) := dk_104 (dk_at dksX11_signedBy_3 6 rfl rfl)
theorem dX11_signedBy_76 : decode cX11_signedBy 76 = .ok (.iload 6, 2) := dk_21 6 (dk_at dksX11_signedBy_3 7 rfl rfl)
theorem dX11_signedBy_78 : decode cX11_signedBy 78 = .ok (.iadd, 1) := dk_96 (dk_at dksX11_signedBy_3 9 rfl rfl)
theorem dX11_signedBy_79 : decode cX11_signedBy 79 = .ok (.iaload, 1) := dk_46 (dk_at dksX11_signedBy_3 10 rfl rfl)
theorem dX11_signedBy_80 : decode cX11_signedBy 80 = .ok (.i2l, 1) := dk_133 (dk_at dksX11_signedBy_3 11 rfl rfl)
theorem dX11_signedBy_81 : decode cX11_signedBy 81 = .ok (.lmul, 1) := dk_105 (dk_at dksX11_signedBy_3 12 rfl rfl)
theorem dX11_signedBy_82 : decode cX11_signedBy 82 = .ok (.ldc2_w 252, 3) := dk_20 0 252 (dk_at dksX11_signedBy_3 13 rfl rfl)
theorem dX11_signedBy_85 : decode cX11_signedBy 85 = .ok (.ldiv, 1) := dk_109 (dk_at dksX11_signedBy_3 16 rfl rfl)
theorem dX11_signedBy_86 : decode cX11_signedBy 86 = .ok (.ladd, 1) := dk_97 (dk_at dksX11_signedBy_3 17 rfl rfl)
theorem dX11_signedBy_87 : decode cX11_signedBy 87 = .ok (.lstore_n 3, 1) := dk_66 (dk_at dksX11_signedBy_3 18 rfl rfl)
theorem dX11_signedBy_88 : decode cX11_signedBy 88 = .ok (.iinc 6 1, 3) := dk_132 6 1 (dk_at dksX11_signedBy_3 19 rfl rfl)
theorem dX11_signedBy_91 : decode cX11_signedBy 91 = .ok (.goto (-76), 3) := dk_167 255 180 (dk_at dksX11_signedBy_4 0 rfl rfl)
theorem dX11_signedBy_94 : decode cX11_signedBy 94 = .ok (.iinc 5 1, 3) := dk_132 5 1 (dk_at dksX11_signedBy_4 3 rfl rfl)
theorem dX11_signedBy_97 : decode cX11_signedBy 97 = .ok (.goto (-92), 3) := dk_167 255 164 (dk_at dksX11_signedBy_4 6 rfl rfl)
theorem dX11_signedBy_100 : decode cX11_signedBy 100 = .ok (.lload_n 3, 1) := dk_33 (dk_at dksX11_signedBy_4 9 rfl rfl)
theorem dX11_signedBy_101 : decode cX11_signedBy 101 = .ok (.lreturn, 1) := dk_173 (dk_at dksX11_signedBy_4 10 rfl rfl)
abbrev cX11_burden : ByteArray := prog_16_method_106_code
def yX11_burden : MethodName := ⟨RX11, "burden", "(I)J"⟩
def dkwX11_burden_3 : List UInt8 := [32, 173]
abbrev dktX11_burden_3 : List UInt8 := dkwX11_burden_3 ++ []
def dkwX11_burden_2 : List UInt8 := [42, 180, 0, 91, 16, 7, 21, 4, 104, 27, 96, 47, 167, 0, 4, 9, 97, 65, 132, 4, 1, 167, 255, 217]
abbrev dktX11_burden_2 : List UInt8 := dkwX11_burden_2 ++ dktX11_burden_3
def dkwX11_burden_1 : List UInt8 := [173, 9, 65, 3, 54, 4, 21, 4, 16, 24, 162, 0, 38, 32, 42, 180, 0, 33, 21, 4, 51, 153, 0, 18]
abbrev dktX11_burden_1 : List UInt8 := dkwX11_burden_1 ++ dktX11_burden_2
def dkwX11_burden_0 : List UInt8 := [42, 3, 181, 0, 1, 42, 27, 133, 9, 20, 1, 165, 184, 1, 96, 4, 4, 182, 1, 90, 154, 0, 5, 9]
abbrev dktX11_burden_0 : List UInt8 := dkwX11_burden_0 ++ dktX11_burden_1
theorem dksX11_burden_0 : cX11_burden.data.toList.drop 0 = dktX11_burden_0 := by decide +kernel
theorem dksX11_burden_1 : cX11_burden.data.toList.drop 24 = dktX11_burden_1 := dk_seg dksX11_burden_0 24 rfl rfl
theorem dksX11_burden_2 : cX11_burden.data.toList.drop 48 = dktX11_burden_2 := dk_seg dksX11_burden_1 24 rfl rfl
theorem dksX11_burden_3 : cX11_burden.data.toList.drop 72 = dktX11_burden_3 := dk_seg dksX11_burden_2 24 rfl rfl
theorem dX11_burden_0 : decode cX11_burden 0 = .ok (.aload_n 0, 1) := dk_42 (dk_at dksX11_burden_0 0 rfl rfl)
theorem dX11_burden_1 : decode cX11_burden 1 = .ok (.iconst 0, 1) := dk_3 (dk_at dksX11_burden_0 1 rfl rfl)
theorem dX11_burden_2 : decode cX11_burden 2 = .ok (.putfield 1, 3) := dk_181 0 1 (dk_at dksX11_burden_0 2 rfl rfl)
theorem dX11_burden_5 : decode cX11_burden 5 = .ok (.aload_n 0, 1) := dk_42 (dk_at dksX11_burden_0 5 rfl rfl)
theorem dX11_burden_6 : decode cX11_burden 6 = .ok (.iload_n 1, 1) := dk_27 (dk_at dksX11_burden_0 6 rfl rfl)
theorem dX11_burden_7 : decode cX11_burden 7 = .ok (.i2l, 1) := dk_133 (dk_at dksX11_burden_0 7 rfl rfl)
theorem dX11_burden_8 : decode cX11_burden 8 = .ok (.lconst 0, 1) := dk_9 (dk_at dksX11_burden_0 8 rfl rfl)
theorem dX11_burden_9 : decode cX11_burden 9 = .ok (.ldc2_w 421, 3) := dk_20 1 165 (dk_at dksX11_burden_0 9 rfl rfl)
theorem dX11_burden_12 : decode cX11_burden 12 = .ok (.invokestatic 352, 3) := dk_184 1 96 (dk_at dksX11_burden_0 12 rfl rfl)
theorem dX11_burden_15 : decode cX11_burden 15 = .ok (.iconst 1, 1) := dk_4 (dk_at dksX11_burden_0 15 rfl rfl)
theorem dX11_burden_16 : decode cX11_burden 16 = .ok (.iconst 1, 1) := dk_4 (dk_at dksX11_burden_0 16 rfl rfl)
theorem dX11_burden_17 : decode cX11_burden 17 = .ok (.invokevirtual 346, 3) := dk_182 1 90 (dk_at dksX11_burden_0 17 rfl rfl)
theorem dX11_burden_20 : decode cX11_burden 20 = .ok (.ifCond .ne 5, 3) := dk_154 0 5 (dk_at dksX11_burden_0 20 rfl rfl)
theorem dX11_burden_23 : decode cX11_burden 23 = .ok (.lconst 0, 1) := dk_9 (dk_at dksX11_burden_0 23 rfl rfl)
theorem dX11_burden_24 : decode cX11_burden 24 = .ok (.lreturn, 1) := dk_173 (dk_at dksX11_burden_1 0 rfl rfl)
theorem dX11_burden_25 : decode cX11_burden 25 = .ok (.lconst 0, 1) := dk_9 (dk_at dksX11_burden_1 1 rfl rfl)
theorem dX11_burden_26 : decode cX11_burden 26 = .ok (.lstore_n 2, 1) := dk_65 (dk_at dksX11_burden_1 2 rfl rfl)
theorem dX11_burden_27 : decode cX11_burden 27 = .ok (.iconst 0, 1) := dk_3 (dk_at dksX11_burden_1 3 rfl rfl)
theorem dX11_burden_28 : decode cX11_burden 28 = .ok (.istore 4, 2) := dk_54 4 (dk_at dksX11_burden_1 4 rfl rfl)
theorem dX11_burden_30 : decode cX11_burden 30 = .ok (.iload 4, 2) := dk_21 4 (dk_at dksX11_burden_1 6 rfl rfl)
theorem dX11_burden_32 : decode cX11_burden 32 = .ok (.bipush 24, 2) := dk_16 24 (dk_at dksX11_burden_1 8 rfl rfl)
theorem dX11_burden_34 : decode cX11_burden 34 = .ok (.if_icmp .ge 38, 3) := dk_162 0 38 (dk_at dksX11_burden_1 10 rfl rfl)
theorem dX11_burden_37 : decode cX11_burden 37 = .ok (.lload_n 2, 1) := dk_32 (dk_at dksX11_burden_1 13 rfl rfl)
theorem dX11_burden_38 : decode cX11_burden 38 = .ok (.aload_n 0, 1) := dk_42 (dk_at dksX11_burden_1 14 rfl rfl)
theorem dX11_burden_39 : decode cX11_burden 39 = .ok (.getfield 33, 3) := dk_180 0 33 (dk_at dksX11_burden_1 15 rfl rfl)
theorem dX11_burden_42 : decode cX11_burden 42 = .ok (.iload 4, 2) := dk_21 4 (dk_at dksX11_burden_1 18 rfl rfl)
theorem dX11_burden_44 : decode cX11_burden 44 = .ok (.baload, 1) := dk_51 (dk_at dksX11_burden_1 20 rfl rfl)
theorem dX11_burden_45 : decode cX11_burden 45 = .ok (.ifCond .eq 18, 3) := dk_153 0 18 (dk_at dksX11_burden_1 21 rfl rfl)
theorem dX11_burden_48 : decode cX11_burden 48 = .ok (.aload_n 0, 1) := dk_42 (dk_at dksX11_burden_2 0 rfl rfl)
theorem dX11_burden_49 : decode cX11_burden 49 = .ok (.getfield 91, 3) := dk_180 0 91 (dk_at dksX11_burden_2 1 rfl rfl)
theorem dX11_burden_52 : decode cX11_burden 52 = .ok (.bipush 7, 2) := dk_16 7 (dk_at dksX11_burden_2 4 rfl rfl)
theorem dX11_burden_54 : decode cX11_burden 54 = .ok (.iload 4, 2) := dk_21 4 (dk_at dksX11_burden_2 6 rfl rfl)
theorem dX11_burden_56 : decode cX11_burden 56 = .ok (.imul, 1) := dk_104 (dk_at dksX11_burden_2 8 rfl rfl)
theorem dX11_burden_57 : decode cX11_burden 57 = .ok (.iload_n 1, 1) := dk_27 (dk_at dksX11_burden_2 9 rfl rfl)
theorem dX11_burden_58 : decode cX11_burden 58 = .ok (.iadd, 1) := dk_96 (dk_at dksX11_burden_2 10 rfl rfl)
theorem dX11_burden_59 : decode cX11_burden 59 = .ok (.laload, 1) := dk_47 (dk_at dksX11_burden_2 11 rfl rfl)
theorem dX11_burden_60 : decode cX11_burden 60 = .ok (.goto 4, 3) := dk_167 0 4 (dk_at dksX11_burden_2 12 rfl rfl)
theorem dX11_burden_63 : decode cX11_burden 63 = .ok (.lconst 0, 1) := dk_9 (dk_at dksX11_burden_2 15 rfl rfl)
theorem dX11_burden_64 : decode cX11_burden 64 = .ok (.ladd, 1) := dk_97 (dk_at dksX11_burden_2 16 rfl rfl)
theorem dX11_burden_65 : decode cX11_burden 65 = .ok (.lstore_n 2, 1) := dk_65 (dk_at dksX11_burden_2 17 rfl rfl)
theorem dX11_burden_66 : decode cX11_burden 66 = .ok (.iinc 4 1, 3) := dk_132 4 1 (dk_at dksX11_burden_2 18 rfl rfl)
theorem dX11_burden_69 : decode cX11_burden 69 = .ok (.goto (-39), 3) := dk_167 255 217 (dk_at dksX11_burden_2 21 rfl rfl)
theorem dX11_burden_72 : decode cX11_burden 72 = .ok (.lload_n 2, 1) := dk_32 (dk_at dksX11_burden_3 0 rfl rfl)
theorem dX11_burden_73 : decode cX11_burden 73 = .ok (.lreturn, 1) := dk_173 (dk_at dksX11_burden_3 1 rfl rfl)
abbrev cX11_rank : ByteArray := prog_16_method_107_code
def yX11_rank : MethodName := ⟨RX11, "rank", "(I)I"⟩
def dkwX11_rank_4 : List UInt8 := [167, 255, 202, 29, 27, 160, 0, 5, 28, 172, 132, 2, 1, 167, 255, 178, 2, 172]
abbrev dktX11_rank_4 : List UInt8 := dkwX11_rank_4 ++ []
def dkwX11_rank_3 : List UInt8 := [182, 1, 181, 148, 154, 0, 13, 21, 4, 28, 162, 0, 7, 4, 167, 0, 4, 3, 96, 62, 132, 4, 1]
abbrev dktX11_rank_3 : List UInt8 := dkwX11_rank_3 ++ dktX11_rank_4
def dkwX11_rank_2 : List UInt8 := [21, 4, 182, 1, 181, 42, 28, 182, 1, 181, 148, 157, 0, 24, 42, 21, 4, 182, 1, 181, 42, 28]
abbrev dktX11_rank_2 : List UInt8 := dkwX11_rank_2 ++ dktX11_rank_3
def dkwX11_rank_1 : List UInt8 := [172, 3, 61, 28, 16, 10, 162, 0, 78, 3, 62, 3, 54, 4, 21, 4, 16, 10, 162, 0, 53, 29, 42]
abbrev dktX11_rank_1 : List UInt8 := dkwX11_rank_1 ++ dktX11_rank_2
def dkwX11_rank_0 : List UInt8 := [42, 3, 181, 0, 1, 42, 27, 133, 9, 20, 1, 121, 184, 1, 96, 4, 4, 182, 1, 90, 154, 0, 5, 3]
abbrev dktX11_rank_0 : List UInt8 := dkwX11_rank_0 ++ dktX11_rank_1
theorem dksX11_rank_0 : cX11_rank.data.toList.drop 0 = dktX11_rank_0 := by decide +kernel
theorem dksX11_rank_1 : cX11_rank.data.toList.drop 24 = dktX11_rank_1 := dk_seg dksX11_rank_0 24 rfl rfl
theorem dksX11_rank_2 : cX11_rank.data.toList.drop 47 = dktX11_rank_2 := dk_seg dksX11_rank_1 23 rfl rfl
theorem dksX11_rank_3 : cX11_rank.data.toList.drop 69 = dktX11_rank_3 := dk_seg dksX11_rank_2 22 rfl rfl
theorem dksX11_rank_4 : cX11_rank.data.toList.drop 92 = dktX11_rank_4 := dk_seg dksX11_rank_3 23 rfl rfl
theorem dX11_rank_0 : decode cX11_rank 0 = .ok (.aload_n 0, 1) := dk_42 (dk_at dksX11_rank_0 0 rfl rfl)
theorem dX11_rank_1 : decode cX11_rank 1 = .ok (.iconst 0, 1) := dk_3 (dk_at dksX11_rank_0 1 rfl rfl)
theorem dX11_rank_2 : decode cX11_rank 2 = .ok (.putfield 1, 3) := dk_181 0 1 (dk_at dksX11_rank_0 2 rfl rfl)
theorem dX11_rank_5 : decode cX11_rank 5 = .ok (.aload_n 0, 1) := dk_42 (dk_at dksX11_rank_0 5 rfl rfl)
theorem dX11_rank_6 : decode cX11_rank 6 = .ok (.iload_n 1, 1) := dk_27 (dk_at dksX11_rank_0 6 rfl rfl)
theorem dX11_rank_7 : decode cX11_rank 7 = .ok (.i2l, 1) := dk_133 (dk_at dksX11_rank_0 7 rfl rfl)
theorem dX11_rank_8 : decode cX11_rank 8 = .ok (.lconst 0, 1) := dk_9 (dk_at dksX11_rank_0 8 rfl rfl)
theorem dX11_rank_9 : decode cX11_rank 9 = .ok (.ldc2_w 377, 3) := dk_20 1 121 (dk_at dksX11_rank_0 9 rfl rfl)
theorem dX11_rank_12 : decode cX11_rank 12 = .ok (.invokestatic 352, 3) := dk_184 1 96 (dk_at dksX11_rank_0 12 rfl rfl)
theorem dX11_rank_15 : decode cX11_rank 15 = .ok (.iconst 1, 1) := dk_4 (dk_at dksX11_rank_0 15 rfl rfl)
theorem dX11_rank_16 : decode cX11_rank 16 = .ok (.iconst 1, 1) := dk_4 (dk_at dksX11_rank_0 16 rfl rfl)
theorem dX11_rank_17 : decode cX11_rank 17 = .ok (.invokevirtual 346, 3) := dk_182 1 90 (dk_at dksX11_rank_0 17 rfl rfl)
theorem dX11_rank_20 : decode cX11_rank 20 = .ok (.ifCond .ne 5, 3) := dk_154 0 5 (dk_at dksX11_rank_0 20 rfl rfl)
theorem dX11_rank_23 : decode cX11_rank 23 = .ok (.iconst 0, 1) := dk_3 (dk_at dksX11_rank_0 23 rfl rfl)
theorem dX11_rank_24 : decode cX11_rank 24 = .ok (.ireturn, 1) := dk_172 (dk_at dksX11_rank_1 0 rfl rfl)
theorem dX11_rank_25 : decode cX11_rank 25 = .ok (.iconst 0, 1) := dk_3 (dk_at dksX11_rank_1 1 rfl rfl)
theorem dX11_rank_26 : decode cX11_rank 26 = .ok (.istore_n 2, 1) := dk_61 (dk_at dksX11_rank_1 2 rfl rfl)
theorem dX11_rank_27 : decode cX11_rank 27 = .ok (.iload_n 2, 1) := dk_28 (dk_at dksX11_rank_1 3 rfl rfl)
theorem dX11_rank_28 : decode cX11_rank 28 = .ok (.bipush 10, 2) := dk_16 10 (dk_at dksX11_rank_1 4 rfl rfl)
theorem dX11_rank_30 : decode cX11_rank 30 = .ok (.if_icmp .ge 78, 3) := dk_162 0 78 (dk_at dksX11_rank_1 6 rfl rfl)
theorem dX11_rank_33 : decode cX11_rank 33 = .ok (.iconst 0, 1) := dk_3 (dk_at dksX11_rank_1 9 rfl rfl)
theorem dX11_rank_34 : decode cX11_rank 34 = .ok (.istore_n 3, 1) := dk_62 (dk_at dksX11_rank_1 10 rfl rfl)
theorem dX11_rank_35 : decode cX11_rank 35 = .ok (.iconst 0, 1) := dk_3 (dk_at dksX11_rank_1 11 rfl rfl)
theorem dX11_rank_36 : decode cX11_rank 36 = .ok (.istore 4, 2) := dk_54 4 (dk_at dksX11_rank_1 12 rfl rfl)
theorem dX11_rank_38 : decode cX11_rank 38 = .ok (.iload 4, 2) := dk_21 4 (dk_at dksX11_rank_1 14 rfl rfl)
theorem dX11_rank_40 : decode cX11_rank 40 = .ok (.bipush 10, 2) := dk_16 10 (dk_at dksX11_rank_1 16 rfl rfl)
theorem dX11_rank_42 : decode cX11_rank 42 = .ok (.if_icmp .ge 53, 3) := dk_162 0 53 (dk_at dksX11_rank_1 18 rfl rfl)
theorem dX11_rank_45 : decode cX11_rank 45 = .ok (.iload_n 3, 1) := dk_29 (dk_at dksX11_rank_1 21 rfl rfl)
theorem dX11_rank_46 : decode cX11_rank 46 = .ok (.aload_n 0, 1) := dk_42 (dk_at dksX11_rank_1 22 rfl rfl)
theorem dX11_rank_47 : decode cX11_rank 47 = .ok (.iload 4, 2) := dk_21 4 (dk_at dksX11_rank_2 0 rfl rfl)
theorem dX11_rank_49 : decode cX11_rank 49 = .ok (.invokevirtual 437, 3) := dk_182 1 181 (dk_at dksX11_rank_2 2 rfl rfl)
theorem dX11_rank_52 : decode cX11_rank 52 = .ok (.aload_n 0, 1) := dk_42 (dk_at dksX11_rank_2 5 rfl rfl)
theorem dX11_rank_53 : decode cX11_rank 53 = .ok (.iload_n 2, 1) := dk_28 (dk_at dksX11_rank_2 6 rfl rfl)
theorem dX11_rank_54 : decode cX11_rank 54 = .ok (.invokevirtual 437, 3) := dk_182 1 181 (dk_at dksX11_rank_2 7 rfl rfl)
theorem dX11_rank_57 : decode cX11_rank 57 = .ok (.lcmp, 1) := dk_148 (dk_at dksX11_rank_2 10 rfl rfl)
theorem dX11_rank_58 : decode cX11_rank 58 = .ok (.ifCond .gt 24, 3) := dk_157 0 24 (dk_at dksX11_rank_2 11 rfl rfl)
theorem dX11_rank_61 : decode cX11_rank 61 = .ok (.aload_n 0, 1) := dk_42 (dk_at dksX11_rank_2 14 rfl rfl)
theorem dX11_rank_62 : decode cX11_rank 62 = .ok (.iload 4, 2) := dk_21 4 (dk_at dksX11_rank_2 15 rfl rfl)
theorem dX11_rank_64 : decode cX11_rank 64 = .ok (.invokevirtual 437, 3) := dk_182 1 181 (dk_at dksX11_rank_2 17 rfl rfl)
theorem dX11_rank_67 : decode cX11_rank 67 = .ok (.aload_n 0, 1) := dk_42 (dk_at dksX11_rank_2 20 rfl rfl)
theorem dX11_rank_68 : decode cX11_rank 68 = .ok (.iload_n 2, 1) := dk_28 (dk_at dksX11_rank_2 21 rfl rfl)
theorem dX11_rank_69 : decode cX11_rank 69 = .ok (.invokevirtual 437, 3) := dk_182 1 181 (dk_at dksX11_rank_3 0 rfl rfl)
theorem dX11_rank_72 : decode cX11_rank 72 = .ok (.lcmp, 1) := dk_148 (dk_at dksX11_rank_3 3 rfl rfl)
theorem dX11_rank_73 : decode cX11_rank 73 = .ok (.ifCond .ne 13, 3) := dk_154 0 13 (dk_at dksX11_rank_3 4 rfl rfl)
theorem dX11_rank_76 : decode cX11_rank 76 = .ok (.iload 4, 2) := dk_21 4 (dk_at dksX11_rank_3 7 rfl rfl)
theorem dX11_rank_78 : decode cX11_rank 78 = .ok (.iload_n 2, 1) := dk_28 (dk_at dksX11_rank_3 9 rfl rfl)
theorem dX11_rank_79 : decode cX11_rank 79 = .ok (.if_icmp .ge 7, 3) := dk_162 0 7 (dk_at dksX11_rank_3 10 rfl rfl)
theorem dX11_rank_82 : decode cX11_rank 82 = .ok (.iconst 1, 1) := dk_4 (dk_at dksX11_rank_3 13 rfl rfl)
theorem dX11_rank_83 : decode cX11_rank 83 = .ok (.goto 4, 3) := dk_167 0 4 (dk_at dksX11_rank_3 14 rfl rfl)
theorem dX11_rank_86 : decode cX11_rank 86 = .ok (.iconst 0, 1) := dk_3 (dk_at dksX11_rank_3 17 rfl rfl)
theorem dX11_rank_87 : decode cX11_rank 87 = .ok (.iadd, 1) := dk_96 (dk_at dksX11_rank_3 18 rfl rfl)
theorem dX11_rank_88 : decode cX11_rank 88 = .ok (.istore_n 3, 1) := dk_62 (dk_at dksX11_rank_3 19 rfl rfl)
theorem dX11_rank_89 : decode cX11_rank 89 = .ok (.iinc 4 1, 3) := dk_132 4 1 (dk_at dksX11_rank_3 20 rfl rfl)
theorem dX11_rank_92 : decode cX11_rank 92 = .ok (.goto (-54), 3) := dk_167 255 202 (dk_at dksX11_rank_4 0 rfl rfl)
theorem dX11_rank_95 : decode cX11_rank 95 = .ok (.iload_n 3, 1) := dk_29 (dk_at dksX11_rank_4 3 rfl rfl)
theorem dX11_rank_96 : decode cX11_rank 96 = .ok (.iload_n 1, 1) := dk_27 (dk_at dksX11_rank_4 4 rfl rfl)
theorem dX11_rank_97 : decode cX11_rank 97 = .ok (.if_icmp .ne 5, 3) := dk_160 0 5 (dk_at dksX11_rank_4 5 rfl rfl)
theorem dX11_rank_100 : decode cX11_rank 100 = .ok (.iload_n 2, 1) := dk_28 (dk_at dksX11_rank_4 8 rfl rfl)
theorem dX11_rank_101 : decode cX11_rank 101 = .ok (.ireturn, 1) := dk_172 (dk_at dksX11_rank_4 9 rfl rfl)
theorem dX11_rank_102 : decode cX11_rank 102 = .ok (.iinc 2 1, 3) := dk_132 2 1 (dk_at dksX11_rank_4 10 rfl rfl)
theorem dX11_rank_105 : decode cX11_rank 105 = .ok (.goto (-78), 3) := dk_167 255 178 (dk_at dksX11_rank_4 13 rfl rfl)
theorem dX11_rank_108 : decode cX11_rank 108 = .ok (.iconst (-1), 1) := dk_2 (dk_at dksX11_rank_4 16 rfl rfl)
theorem dX11_rank_109 : decode cX11_rank 109 = .ok (.ireturn, 1) := dk_172 (dk_at dksX11_rank_4 17 rfl rfl)
abbrev cX11_offs : ByteArray := prog_16_method_108_code
def yX11_offs : MethodName := ⟨RX11, "offs", "(IIII)I"⟩
def dkwX11_offs_2 : List UInt8 := [21, 4, 182, 0, 190, 167, 0, 4, 3, 172]
abbrev dktX11_offs_2 : List UInt8 := dkwX11_offs_2 ++ []
def dkwX11_offs_1 : List UInt8 := [184, 1, 96, 153, 0, 7, 4, 167, 0, 4, 3, 4, 4, 182, 1, 90, 153, 0, 15, 42, 27, 28, 29]
abbrev dktX11_offs_1 : List UInt8 := dkwX11_offs_1 ++ dktX11_offs_2
def dkwX11_offs_0 : List UInt8 := [42, 3, 181, 0, 1, 42, 27, 28, 29, 184, 1, 133, 153, 0, 20, 21, 4, 133, 9, 20, 1, 126]
abbrev dktX11_offs_0 : List UInt8 := dkwX11_offs_0 ++ dktX11_offs_1
theorem dksX11_offs_0 : cX11_offs.data.toList.drop 0 = dktX11_offs_0 := by decide +kernel
theorem dksX11_offs_1 : cX11_offs.data.toList.drop 22 = dktX11_offs_1 := dk_seg dksX11_offs_0 22 rfl rfl
theorem dksX11_offs_2 : cX11_offs.data.toList.drop 45 = dktX11_offs_2 := dk_seg dksX11_offs_1 23 rfl rfl
theorem dX11_offs_0 : decode cX11_offs 0 = .ok (.aload_n 0, 1) := dk_42 (dk_at dksX11_offs_0 0 rfl rfl)
theorem dX11_offs_1 : decode cX11_offs 1 = .ok (.iconst 0, 1) := dk_3 (dk_at dksX11_offs_0 1 rfl rfl)
theorem dX11_offs_2 : decode cX11_offs 2 = .ok (.putfield 1, 3) := dk_181 0 1 (dk_at dksX11_offs_0 2 rfl rfl)
theorem dX11_offs_5 : decode cX11_offs 5 = .ok (.aload_n 0, 1) := dk_42 (dk_at dksX11_offs_0 5 rfl rfl)
theorem dX11_offs_6 : decode cX11_offs 6 = .ok (.iload_n 1, 1) := dk_27 (dk_at dksX11_offs_0 6 rfl rfl)
theorem dX11_offs_7 : decode cX11_offs 7 = .ok (.iload_n 2, 1) := dk_28 (dk_at dksX11_offs_0 7 rfl rfl)
theorem dX11_offs_8 : decode cX11_offs 8 = .ok (.iload_n 3, 1) := dk_29 (dk_at dksX11_offs_0 8 rfl rfl)
theorem dX11_offs_9 : decode cX11_offs 9 = .ok (.invokestatic 389, 3) := dk_184 1 133 (dk_at dksX11_offs_0 9 rfl rfl)
theorem dX11_offs_12 : decode cX11_offs 12 = .ok (.ifCond .eq 20, 3) := dk_153 0 20 (dk_at dksX11_offs_0 12 rfl rfl)
theorem dX11_offs_15 : decode cX11_offs 15 = .ok (.iload 4, 2) := dk_21 4 (dk_at dksX11_offs_0 15 rfl rfl)
theorem dX11_offs_17 : decode cX11_offs 17 = .ok (.i2l, 1) := dk_133 (dk_at dksX11_offs_0 17 rfl rfl)
theorem dX11_offs_18 : decode cX11_offs 18 = .ok (.lconst 0, 1) := dk_9 (dk_at dksX11_offs_0 18 rfl rfl)
theorem dX11_offs_19 : decode cX11_offs 19 = .ok (.ldc2_w 382, 3) := dk_20 1 126 (dk_at dksX11_offs_0 19 rfl rfl)
theorem dX11_offs_22 : decode cX11_offs 22 = .ok (.invokestatic 352, 3) := dk_184 1 96 (dk_at dksX11_offs_1 0 rfl rfl)
theorem dX11_offs_25 : decode cX11_offs 25 = .ok (.ifCond .eq 7, 3) := dk_153 0 7 (dk_at dksX11_offs_1 3 rfl rfl)
theorem dX11_offs_28 : decode cX11_offs 28 = .ok (.iconst 1, 1) := dk_4 (dk_at dksX11_offs_1 6 rfl rfl)
theorem dX11_offs_29 : decode cX11_offs 29 = .ok (.goto 4, 3) := dk_167 0 4 (dk_at dksX11_offs_1 7 rfl rfl)
theorem dX11_offs_32 : decode cX11_offs 32 = .ok (.iconst 0, 1) := dk_3 (dk_at dksX11_offs_1 10 rfl rfl)
theorem dX11_offs_33 : decode cX11_offs 33 = .ok (.iconst 1, 1) := dk_4 (dk_at dksX11_offs_1 11 rfl rfl)
theorem dX11_offs_34 : decode cX11_offs 34 = .ok (.iconst 1, 1) := dk_4 (dk_at dksX11_offs_1 12 rfl rfl)
theorem dX11_offs_35 : decode cX11_offs 35 = .ok (.invokevirtual 346, 3) := dk_182 1 90 (dk_at dksX11_offs_1 13 rfl rfl)
theorem dX11_offs_38 : decode cX11_offs 38 = .ok (.ifCond .eq 15, 3) := dk_153 0 15 (dk_at dksX11_offs_1 16 rfl rfl)
theorem dX11_offs_41 : decode cX11_offs 41 = .ok (.aload_n 0, 1) := dk_42 (dk_at dksX11_offs_1 19 rfl rfl)
theorem dX11_offs_42 : decode cX11_offs 42 = .ok (.iload_n 1, 1) := dk_27 (dk_at dksX11_offs_1 20 rfl rfl)
theorem dX11_offs_43 : decode cX11_offs 43 = .ok (.iload_n 2, 1) := dk_28 (dk_at dksX11_offs_1 21 rfl rfl)
theorem dX11_offs_44 : decode cX11_offs 44 = .ok (.iload_n 3, 1) := dk_29 (dk_at dksX11_offs_1 22 rfl rfl)
theorem dX11_offs_45 : decode cX11_offs 45 = .ok (.iload 4, 2) := dk_21 4 (dk_at dksX11_offs_2 0 rfl rfl)
theorem dX11_offs_47 : decode cX11_offs 47 = .ok (.invokevirtual 190, 3) := dk_182 0 190 (dk_at dksX11_offs_2 2 rfl rfl)
theorem dX11_offs_50 : decode cX11_offs 50 = .ok (.goto 4, 3) := dk_167 0 4 (dk_at dksX11_offs_2 5 rfl rfl)
theorem dX11_offs_53 : decode cX11_offs 53 = .ok (.iconst 0, 1) := dk_3 (dk_at dksX11_offs_2 8 rfl rfl)
theorem dX11_offs_54 : decode cX11_offs 54 = .ok (.ireturn, 1) := dk_172 (dk_at dksX11_offs_2 9 rfl rfl)
abbrev cX11_would : ByteArray := prog_16_method_111_code
def yX11_would : MethodName := ⟨RX11, "would", "(IIIII)J"⟩
def dkwX11_would_3 : List UInt8 := [42, 182, 1, 147, 22, 6, 173]
abbrev dktX11_would_3 : List UInt8 := dkwX11_would_3 ++ []
def dkwX11_would_2 : List UInt8 := [154, 0, 5, 9, 173, 42, 27, 28, 29, 21, 4, 182, 1, 193, 42, 16, 24, 21, 5, 182, 1, 24, 55, 6]
abbrev dktX11_would_2 : List UInt8 := dkwX11_would_2 ++ dktX11_would_3
def dkwX11_would_1 : List UInt8 := [21, 5, 133, 9, 20, 1, 121, 184, 1, 96, 153, 0, 7, 4, 167, 0, 4, 3, 4, 4, 182, 1, 90]
abbrev dktX11_would_1 : List UInt8 := dkwX11_would_1 ++ dktX11_would_2
def dkwX11_would_0 : List UInt8 := [42, 3, 181, 0, 1, 42, 27, 28, 29, 184, 1, 133, 153, 0, 28, 21, 4, 184, 1, 136, 153, 0, 20]
abbrev dktX11_would_0 : List UInt8 := dkwX11_would_0 ++ dktX11_would_1
theorem dksX11_would_0 : cX11_would.data.toList.drop 0 = dktX11_would_0 := by decide +kernel
theorem dksX11_would_1 : cX11_would.data.toList.drop 23 = dktX11_would_1 := dk_seg dksX11_would_0 23 rfl rfl
theorem dksX11_would_2 : cX11_would.data.toList.drop 46 = dktX11_would_2 := dk_seg dksX11_would_1 23 rfl rfl
theorem dksX11_would_3 : cX11_would.data.toList.drop 70 = dktX11_would_3 := dk_seg dksX11_would_2 24 rfl rfl
theorem dX11_would_0 : decode cX11_would 0 = .ok (.aload_n 0, 1) := dk_42 (dk_at dksX11_would_0 0 rfl rfl)
theorem dX11_would_1 : decode cX11_would 1 = .ok (.iconst 0, 1) := dk_3 (dk_at dksX11_would_0 1 rfl rfl)
theorem dX11_would_2 : decode cX11_would 2 = .ok (.putfield 1, 3) := dk_181 0 1 (dk_at dksX11_would_0 2 rfl rfl)
theorem dX11_would_5 : decode cX11_would 5 = .ok (.aload_n 0, 1) := dk_42 (dk_at dksX11_would_0 5 rfl rfl)
theorem dX11_would_6 : decode cX11_would 6 = .ok (.iload_n 1, 1) := dk_27 (dk_at dksX11_would_0 6 rfl rfl)
theorem dX11_would_7 : decode cX11_would 7 = .ok (.iload_n 2, 1) := dk_28 (dk_at dksX11_would_0 7 rfl rfl)
theorem dX11_would_8 : decode cX11_would 8 = .ok (.iload_n 3, 1) := dk_29 (dk_at dksX11_would_0 8 rfl rfl)
theorem dX11_would_9 : decode cX11_would 9 = .ok (.invokestatic 389, 3) := dk_184 1 133 (dk_at dksX11_would_0 9 rfl rfl)
theorem dX11_would_12 : decode cX11_would 12 = .ok (.ifCond .eq 28, 3) := dk_153 0 28 (dk_at dksX11_would_0 12 rfl rfl)
theorem dX11_would_15 : decode cX11_would 15 = .ok (.iload 4, 2) := dk_21 4 (dk_at dksX11_would_0 15 rfl rfl)
theorem dX11_would_17 : decode cX11_would 17 = .ok (.invokestatic 392, 3) := dk_184 1 136 (dk_at dksX11_would_0 17 rfl rfl)
theorem dX11_would_20 : decode cX11_would 20 = .ok (.ifCond .eq 20, 3) := dk_153 0 20 (dk_at dksX11_would_0 20 rfl rfl)
theorem dX11_would_23 : decode cX11_would 23 = .ok (.iload 5, 2) := dk_21 5 (dk_at dksX11_would_1 0 rfl rfl)
theorem dX11_would_25 : decode cX11_would 25 = .ok (.i2l, 1) := dk_133 (dk_at dksX11_would_1 2 rfl rfl)
theorem dX11_would_26 : decode cX11_would 26 = .ok (.lconst 0, 1) := dk_9 (dk_at dksX11_would_1 3 rfl rfl)
theorem dX11_would_27 : decode cX11_would 27 = .ok (.ldc2_w 377, 3) := dk_20 1 121 (dk_at dksX11_would_1 4 rfl rfl)
theorem dX11_would_30 : decode cX11_would 30 = .ok (.invokestatic 352, 3) := dk_184 1 96 (dk_at dksX11_would_1 7 rfl rfl)
theorem dX11_would_33 : decode cX11_would 33 = .ok (.ifCond .eq 7, 3) := dk_153 0 7 (dk_at dksX11_would_1 10 rfl rfl)
theorem dX11_would_36 : decode cX11_would 36 = .ok (.iconst 1, 1) := dk_4 (dk_at dksX11_would_1 13 rfl rfl)
theorem dX11_would_37 : decode cX11_would 37 = .ok (.goto 4, 3) := dk_167 0 4 (dk_at dksX11_would_1 14 rfl rfl)
theorem dX11_would_40 : decode cX11_would 40 = .ok (.iconst 0, 1) := dk_3 (dk_at dksX11_would_1 17 rfl rfl)
theorem dX11_would_41 : decode cX11_would 41 = .ok (.iconst 1, 1) := dk_4 (dk_at dksX11_would_1 18 rfl rfl)
theorem dX11_would_42 : decode cX11_would 42 = .ok (.iconst 1, 1) := dk_4 (dk_at dksX11_would_1 19 rfl rfl)
theorem dX11_would_43 : decode cX11_would 43 = .ok (.invokevirtual 346, 3) := dk_182 1 90 (dk_at dksX11_would_1 20 rfl rfl)
theorem dX11_would_46 : decode cX11_would 46 = .ok (.ifCond .ne 5, 3) := dk_154 0 5 (dk_at dksX11_would_2 0 rfl rfl)
theorem dX11_would_49 : decode cX11_would 49 = .ok (.lconst 0, 1) := dk_9 (dk_at dksX11_would_2 3 rfl rfl)
theorem dX11_would_50 : decode cX11_would 50 = .ok (.lreturn, 1) := dk_173 (dk_at dksX11_would_2 4 rfl rfl)
theorem dX11_would_51 : decode cX11_would 51 = .ok (.aload_n 0, 1) := dk_42 (dk_at dksX11_would_2 5 rfl rfl)
theorem dX11_would_52 : decode cX11_would 52 = .ok (.iload_n 1, 1) := dk_27 (dk_at dksX11_would_2 6 rfl rfl)
theorem dX11_would_53 : decode cX11_would 53 = .ok (.iload_n 2, 1) := dk_28 (dk_at dksX11_would_2 7 rfl rfl)
theorem dX11_would_54 : decode cX11_would 54 = .ok (.iload_n 3, 1) := dk_29 (dk_at dksX11_would_2 8 rfl rfl)
theorem dX11_would_55 : decode cX11_would 55 = .ok (.iload 4, 2) := dk_21 4 (dk_at dksX11_would_2 9 rfl rfl)
theorem dX11_would_57 : decode cX11_would 57 = .ok (.invokevirtual 449, 3) := dk_182 1 193 (dk_at dksX11_would_2 11 rfl rfl)
theorem dX11_would_60 : decode cX11_would 60 = .ok (.aload_n 0, 1) := dk_42 (dk_at dksX11_would_2 14 rfl rfl)
theorem dX11_would_61 : decode cX11_would 61 = .ok (.bipush 24, 2) := dk_16 24 (dk_at dksX11_would_2 15 rfl rfl)
theorem dX11_would_63 : decode cX11_would 63 = .ok (.iload 5, 2) := dk_21 5 (dk_at dksX11_would_2 17 rfl rfl)
theorem dX11_would_65 : decode cX11_would 65 = .ok (.invokevirtual 280, 3) := dk_182 1 24 (dk_at dksX11_would_2 19 rfl rfl)
theorem dX11_would_68 : decode cX11_would 68 = .ok (.lstore 6, 2) := dk_55 6 (dk_at dksX11_would_2 22 rfl rfl)
theorem dX11_would_70 : decode cX11_would 70 = .ok (.aload_n 0, 1) := dk_42 (dk_at dksX11_would_3 0 rfl rfl)
theorem dX11_would_71 : decode cX11_would 71 = .ok (.invokevirtual 403, 3) := dk_182 1 147 (dk_at dksX11_would_3 1 rfl rfl)
theorem dX11_would_74 : decode cX11_would 74 = .ok (.lload 6, 2) := dk_22 6 (dk_at dksX11_would_3 4 rfl rfl)
theorem dX11_would_76 : decode cX11_would 76 = .ok (.lreturn, 1) := dk_173 (dk_at dksX11_would_3 6 rfl rfl)
abbrev cX11_thinksOf : ByteArray := prog_16_method_110_code
def yX11_thinksOf : MethodName := ⟨RX11, "thinksOf", "(IIII)V"⟩
def dkwX11_thinksOf_0 : List UInt8 := [42, 27, 28, 29, 182, 1, 190, 42, 16, 24, 21, 4, 133, 182, 1, 69, 177]
abbrev dktX11_thinksOf_0 : List UInt8 := dkwX11_thinksOf_0 ++ []
theorem dksX11_thinksOf_0 : cX11_thinksOf.data.toList.drop 0 = dktX11_thinksOf_0 := by decide +kernel
theorem dX11_thinksOf_0 : decode cX11_thinksOf 0 = .ok (.aload_n 0, 1) := dk_42 (dk_at dksX11_thinksOf_0 0 rfl rfl)
theorem dX11_thinksOf_1 : decode cX11_thinksOf 1 = .ok (.iload_n 1, 1) := dk_27 (dk_at dksX11_thinksOf_0 1 rfl rfl)
theorem dX11_thinksOf_2 : decode cX11_thinksOf 2 = .ok (.iload_n 2, 1) := dk_28 (dk_at dksX11_thinksOf_0 2 rfl rfl)
theorem dX11_thinksOf_3 : decode cX11_thinksOf 3 = .ok (.iload_n 3, 1) := dk_29 (dk_at dksX11_thinksOf_0 3 rfl rfl)
theorem dX11_thinksOf_4 : decode cX11_thinksOf 4 = .ok (.invokevirtual 446, 3) := dk_182 1 190 (dk_at dksX11_thinksOf_0 4 rfl rfl)
theorem dX11_thinksOf_7 : decode cX11_thinksOf 7 = .ok (.aload_n 0, 1) := dk_42 (dk_at dksX11_thinksOf_0 7 rfl rfl)
theorem dX11_thinksOf_8 : decode cX11_thinksOf 8 = .ok (.bipush 24, 2) := dk_16 24 (dk_at dksX11_thinksOf_0 8 rfl rfl)
theorem dX11_thinksOf_10 : decode cX11_thinksOf 10 = .ok (.iload 4, 2) := dk_21 4 (dk_at dksX11_thinksOf_0 10 rfl rfl)
theorem dX11_thinksOf_12 : decode cX11_thinksOf 12 = .ok (.i2l, 1) := dk_133 (dk_at dksX11_thinksOf_0 12 rfl rfl)
theorem dX11_thinksOf_13 : decode cX11_thinksOf 13 = .ok (.invokevirtual 325, 3) := dk_182 1 69 (dk_at dksX11_thinksOf_0 13 rfl rfl)
theorem dX11_thinksOf_16 : decode cX11_thinksOf 16 = .ok (.return_, 1) := dk_177 (dk_at dksX11_thinksOf_0 16 rfl rfl)
abbrev cX11_thinks : ByteArray := prog_16_method_109_code
def yX11_thinks : MethodName := ⟨RX11, "thinks", "(III)V"⟩
def dkwX11_thinks_1 : List UInt8 := [42, 16, 24, 182, 0, 145, 177]
abbrev dktX11_thinks_1 : List UInt8 := dkwX11_thinks_1 ++ []
def dkwX11_thinks_0 : List UInt8 := [42, 180, 0, 61, 16, 24, 27, 79, 42, 180, 0, 64, 16, 24, 28, 79, 42, 180, 0, 67, 16, 24, 29, 79]
abbrev dktX11_thinks_0 : List UInt8 := dkwX11_thinks_0 ++ dktX11_thinks_1
theorem dksX11_thinks_0 : cX11_thinks.data.toList.drop 0 = dktX11_thinks_0 := by decide +kernel
theorem dksX11_thinks_1 : cX11_thinks.data.toList.drop 24 = dktX11_thinks_1 := dk_seg dksX11_thinks_0 24 rfl rfl
theorem dX11_thinks_0 : decode cX11_thinks 0 = .ok (.aload_n 0, 1) := dk_42 (dk_at dksX11_thinks_0 0 rfl rfl)
theorem dX11_thinks_1 : decode cX11_thinks 1 = .ok (.getfield 61, 3) := dk_180 0 61 (dk_at dksX11_thinks_0 1 rfl rfl)
theorem dX11_thinks_4 : decode cX11_thinks 4 = .ok (.bipush 24, 2) := dk_16 24 (dk_at dksX11_thinks_0 4 rfl rfl)
theorem dX11_thinks_6 : decode cX11_thinks 6 = .ok (.iload_n 1, 1) := dk_27 (dk_at dksX11_thinks_0 6 rfl rfl)
theorem dX11_thinks_7 : decode cX11_thinks 7 = .ok (.iastore, 1) := dk_79 (dk_at dksX11_thinks_0 7 rfl rfl)
theorem dX11_thinks_8 : decode cX11_thinks 8 = .ok (.aload_n 0, 1) := dk_42 (dk_at dksX11_thinks_0 8 rfl rfl)
theorem dX11_thinks_9 : decode cX11_thinks 9 = .ok (.getfield 64, 3) := dk_180 0 64 (dk_at dksX11_thinks_0 9 rfl rfl)
theorem dX11_thinks_12 : decode cX11_thinks 12 = .ok (.bipush 24, 2) := dk_16 24 (dk_at dksX11_thinks_0 12 rfl rfl)
theorem dX11_thinks_14 : decode cX11_thinks 14 = .ok (.iload_n 2, 1) := dk_28 (dk_at dksX11_thinks_0 14 rfl rfl)
theorem dX11_thinks_15 : decode cX11_thinks 15 = .ok (.iastore, 1) := dk_79 (dk_at dksX11_thinks_0 15 rfl rfl)
theorem dX11_thinks_16 : decode cX11_thinks 16 = .ok (.aload_n 0, 1) := dk_42 (dk_at dksX11_thinks_0 16 rfl rfl)
theorem dX11_thinks_17 : decode cX11_thinks 17 = .ok (.getfield 67, 3) := dk_180 0 67 (dk_at dksX11_thinks_0 17 rfl rfl)
theorem dX11_thinks_20 : decode cX11_thinks 20 = .ok (.bipush 24, 2) := dk_16 24 (dk_at dksX11_thinks_0 20 rfl rfl)
theorem dX11_thinks_22 : decode cX11_thinks 22 = .ok (.iload_n 3, 1) := dk_29 (dk_at dksX11_thinks_0 22 rfl rfl)
theorem dX11_thinks_23 : decode cX11_thinks 23 = .ok (.iastore, 1) := dk_79 (dk_at dksX11_thinks_0 23 rfl rfl)
theorem dX11_thinks_24 : decode cX11_thinks 24 = .ok (.aload_n 0, 1) := dk_42 (dk_at dksX11_thinks_1 0 rfl rfl)
theorem dX11_thinks_25 : decode cX11_thinks 25 = .ok (.bipush 24, 2) := dk_16 24 (dk_at dksX11_thinks_1 1 rfl rfl)
theorem dX11_thinks_27 : decode cX11_thinks 27 = .ok (.invokevirtual 145, 3) := dk_182 0 145 (dk_at dksX11_thinks_1 3 rfl rfl)
theorem dX11_thinks_30 : decode cX11_thinks 30 = .ok (.return_, 1) := dk_177 (dk_at dksX11_thinks_1 6 rfl rfl)
abbrev cX11_takes : ByteArray := prog_16_method_112_code
def yX11_takes : MethodName := ⟨RX11, "takes", "(IIIII)J"⟩
def dkwX11_takes_3 : List UInt8 := [42, 182, 1, 147, 22, 6, 173]
abbrev dktX11_takes_3 : List UInt8 := dkwX11_takes_3 ++ []
def dkwX11_takes_2 : List UInt8 := [9, 173, 42, 27, 28, 29, 21, 4, 182, 1, 193, 42, 180, 0, 76, 17, 3, 192, 21, 5, 96, 47, 55, 6]
abbrev dktX11_takes_2 : List UInt8 := dkwX11_takes_2 ++ dktX11_takes_3
def dkwX11_takes_1 : List UInt8 := [153, 0, 15, 21, 4, 184, 1, 136, 153, 0, 7, 4, 167, 0, 4, 3, 5, 4, 182, 1, 90, 154, 0, 5]
abbrev dktX11_takes_1 : List UInt8 := dkwX11_takes_1 ++ dktX11_takes_2
def dkwX11_takes_0 : List UInt8 := [42, 3, 181, 0, 1, 42, 21, 5, 4, 182, 1, 118, 153, 0, 34, 42, 27, 28, 29, 184, 1, 133]
abbrev dktX11_takes_0 : List UInt8 := dkwX11_takes_0 ++ dktX11_takes_1
theorem dksX11_takes_0 : cX11_takes.data.toList.drop 0 = dktX11_takes_0 := by decide +kernel
theorem dksX11_takes_1 : cX11_takes.data.toList.drop 22 = dktX11_takes_1 := dk_seg dksX11_takes_0 22 rfl rfl
theorem dksX11_takes_2 : cX11_takes.data.toList.drop 46 = dktX11_takes_2 := dk_seg dksX11_takes_1 24 rfl rfl
theorem dksX11_takes_3 : cX11_takes.data.toList.drop 70 = dktX11_takes_3 := dk_seg dksX11_takes_2 24 rfl rfl
theorem dX11_takes_0 : decode cX11_takes 0 = .ok (.aload_n 0, 1) := dk_42 (dk_at dksX11_takes_0 0 rfl rfl)
theorem dX11_takes_1 : decode cX11_takes 1 = .ok (.iconst 0, 1) := dk_3 (dk_at dksX11_takes_0 1 rfl rfl)
theorem dX11_takes_2 : decode cX11_takes 2 = .ok (.putfield 1, 3) := dk_181 0 1 (dk_at dksX11_takes_0 2 rfl rfl)
theorem dX11_takes_5 : decode cX11_takes 5 = .ok (.aload_n 0, 1) := dk_42 (dk_at dksX11_takes_0 5 rfl rfl)
theorem dX11_takes_6 : decode cX11_takes 6 = .ok (.iload 5, 2) := dk_21 5 (dk_at dksX11_takes_0 6 rfl rfl)
theorem dX11_takes_8 : decode cX11_takes 8 = .ok (.iconst 1, 1) := dk_4 (dk_at dksX11_takes_0 8 rfl rfl)
theorem dX11_takes_9 : decode cX11_takes 9 = .ok (.invokevirtual 374, 3) := dk_182 1 118 (dk_at dksX11_takes_0 9 rfl rfl)
theorem dX11_takes_12 : decode cX11_takes 12 = .ok (.ifCond .eq 34, 3) := dk_153 0 34 (dk_at dksX11_takes_0 12 rfl rfl)
theorem dX11_takes_15 : decode cX11_takes 15 = .ok (.aload_n 0, 1) := dk_42 (dk_at dksX11_takes_0 15 rfl rfl)
theorem dX11_takes_16 : decode cX11_takes 16 = .ok (.iload_n 1, 1) := dk_27 (dk_at dksX11_takes_0 16 rfl rfl)
theorem dX11_takes_17 : decode cX11_takes 17 = .ok (.iload_n 2, 1) := dk_28 (dk_at dksX11_takes_0 17 rfl rfl)
theorem dX11_takes_18 : decode cX11_takes 18 = .ok (.iload_n 3, 1) := dk_29 (dk_at dksX11_takes_0 18 rfl rfl)
theorem dX11_takes_19 : decode cX11_takes 19 = .ok (.invokestatic 389, 3) := dk_184 1 133 (dk_at dksX11_takes_0 19 rfl rfl)
theorem dX11_takes_22 : decode cX11_takes 22 = .ok (.ifCond .eq 15, 3) := dk_153 0 15 (dk_at dksX11_takes_1 0 rfl rfl)
theorem dX11_takes_25 : decode cX11_takes 25 = .ok (.iload 4, 2) := dk_21 4 (dk_at dksX11_takes_1 3 rfl rfl)
theorem dX11_takes_27 : decode cX11_takes 27 = .ok (.invokestatic 392, 3) := dk_184 1 136 (dk_at dksX11_takes_1 5 rfl rfl)
theorem dX11_takes_30 : decode cX11_takes 30 = .ok (.ifCond .eq 7, 3) := dk_153 0 7 (dk_at dksX11_takes_1 8 rfl rfl)
theorem dX11_takes_33 : decode cX11_takes 33 = .ok (.iconst 1, 1) := dk_4 (dk_at dksX11_takes_1 11 rfl rfl)
theorem dX11_takes_34 : decode cX11_takes 34 = .ok (.goto 4, 3) := dk_167 0 4 (dk_at dksX11_takes_1 12 rfl rfl)
theorem dX11_takes_37 : decode cX11_takes 37 = .ok (.iconst 0, 1) := dk_3 (dk_at dksX11_takes_1 15 rfl rfl)
theorem dX11_takes_38 : decode cX11_takes 38 = .ok (.iconst 2, 1) := dk_5 (dk_at dksX11_takes_1 16 rfl rfl)
theorem dX11_takes_39 : decode cX11_takes 39 = .ok (.iconst 1, 1) := dk_4 (dk_at dksX11_takes_1 17 rfl rfl)
theorem dX11_takes_40 : decode cX11_takes 40 = .ok (.invokevirtual 346, 3) := dk_182 1 90 (dk_at dksX11_takes_1 18 rfl rfl)
theorem dX11_takes_43 : decode cX11_takes 43 = .ok (.ifCond .ne 5, 3) := dk_154 0 5 (dk_at dksX11_takes_1 21 rfl rfl)
theorem dX11_takes_46 : decode cX11_takes 46 = .ok (.lconst 0, 1) := dk_9 (dk_at dksX11_takes_2 0 rfl rfl)
theorem dX11_takes_47 : decode cX11_takes 47 = .ok (.lreturn, 1) := dk_173 (dk_at dksX11_takes_2 1 rfl rfl)
theorem dX11_takes_48 : decode cX11_takes 48 = .ok (.aload_n 0, 1) := dk_42 (dk_at dksX11_takes_2 2 rfl rfl)
theorem dX11_takes_49 : decode cX11_takes 49 = .ok (.iload_n 1, 1) := dk_27 (dk_at dksX11_takes_2 3 rfl rfl)
theorem dX11_takes_50 : decode cX11_takes 50 = .ok (.iload_n 2, 1) := dk_28 (dk_at dksX11_takes_2 4 rfl rfl)
theorem dX11_takes_51 : decode cX11_takes 51 = .ok (.iload_n 3, 1) := dk_29 (dk_at dksX11_takes_2 5 rfl rfl)
theorem dX11_takes_52 : decode cX11_takes 52 = .ok (.iload 4, 2) := dk_21 4 (dk_at dksX11_takes_2 6 rfl rfl)
theorem dX11_takes_54 : decode cX11_takes 54 = .ok (.invokevirtual 449, 3) := dk_182 1 193 (dk_at dksX11_takes_2 8 rfl rfl)
theorem dX11_takes_57 : decode cX11_takes 57 = .ok (.aload_n 0, 1) := dk_42 (dk_at dksX11_takes_2 11 rfl rfl)
theorem dX11_takes_58 : decode cX11_takes 58 = .ok (.getfield 76, 3) := dk_180 0 76 (dk_at dksX11_takes_2 12 rfl rfl)
theorem dX11_takes_61 : decode cX11_takes 61 = .ok (.sipush 960, 3) := dk_17 3 192 (dk_at dksX11_takes_2 15 rfl rfl)
theorem dX11_takes_64 : decode cX11_takes 64 = .ok (.iload 5, 2) := dk_21 5 (dk_at dksX11_takes_2 18 rfl rfl)
theorem dX11_takes_66 : decode cX11_takes 66 = .ok (.iadd, 1) := dk_96 (dk_at dksX11_takes_2 20 rfl rfl)
theorem dX11_takes_67 : decode cX11_takes 67 = .ok (.laload, 1) := dk_47 (dk_at dksX11_takes_2 21 rfl rfl)
theorem dX11_takes_68 : decode cX11_takes 68 = .ok (.lstore 6, 2) := dk_55 6 (dk_at dksX11_takes_2 22 rfl rfl)
theorem dX11_takes_70 : decode cX11_takes 70 = .ok (.aload_n 0, 1) := dk_42 (dk_at dksX11_takes_3 0 rfl rfl)
theorem dX11_takes_71 : decode cX11_takes 71 = .ok (.invokevirtual 403, 3) := dk_182 1 147 (dk_at dksX11_takes_3 1 rfl rfl)
theorem dX11_takes_74 : decode cX11_takes 74 = .ok (.lload 6, 2) := dk_22 6 (dk_at dksX11_takes_3 4 rfl rfl)
theorem dX11_takes_76 : decode cX11_takes 76 = .ok (.lreturn, 1) := dk_173 (dk_at dksX11_takes_3 6 rfl rfl)
abbrev cX11_drops : ByteArray := prog_16_method_113_code
def yX11_drops : MethodName := ⟨RX11, "drops", "(IIIII)J"⟩
def dkwX11_drops_3 : List UInt8 := [47, 55, 6, 42, 182, 1, 147, 22, 6, 173]
abbrev dktX11_drops_3 : List UInt8 := dkwX11_drops_3 ++ []
def dkwX11_drops_2 : List UInt8 := [154, 0, 5, 9, 173, 42, 27, 28, 29, 21, 4, 182, 1, 193, 42, 180, 0, 91, 17, 0, 168, 21, 5, 96]
abbrev dktX11_drops_2 : List UInt8 := dkwX11_drops_2 ++ dktX11_drops_3
def dkwX11_drops_1 : List UInt8 := [21, 5, 133, 9, 20, 1, 165, 184, 1, 96, 153, 0, 7, 4, 167, 0, 4, 3, 4, 4, 182, 1, 90]
abbrev dktX11_drops_1 : List UInt8 := dkwX11_drops_1 ++ dktX11_drops_2
def dkwX11_drops_0 : List UInt8 := [42, 3, 181, 0, 1, 42, 27, 28, 29, 184, 1, 133, 153, 0, 28, 21, 4, 184, 1, 136, 153, 0, 20]
abbrev dktX11_drops_0 : List UInt8 := dkwX11_drops_0 ++ dktX11_drops_1
theorem dksX11_drops_0 : cX11_drops.data.toList.drop 0 = dktX11_drops_0 := by decide +kernel
theorem dksX11_drops_1 : cX11_drops.data.toList.drop 23 = dktX11_drops_1 := dk_seg dksX11_drops_0 23 rfl rfl
theorem dksX11_drops_2 : cX11_drops.data.toList.drop 46 = dktX11_drops_2 := dk_seg dksX11_drops_1 23 rfl rfl
theorem dksX11_drops_3 : cX11_drops.data.toList.drop 70 = dktX11_drops_3 := dk_seg dksX11_drops_2 24 rfl rfl
theorem dX11_drops_0 : decode cX11_drops 0 = .ok (.aload_n 0, 1) := dk_42 (dk_at dksX11_drops_0 0 rfl rfl)
theorem dX11_drops_1 : decode cX11_drops 1 = .ok (.iconst 0, 1) := dk_3 (dk_at dksX11_drops_0 1 rfl rfl)
theorem dX11_drops_2 : decode cX11_drops 2 = .ok (.putfield 1, 3) := dk_181 0 1 (dk_at dksX11_drops_0 2 rfl rfl)
theorem dX11_drops_5 : decode cX11_drops 5 = .ok (.aload_n 0, 1) := dk_42 (dk_at dksX11_drops_0 5 rfl rfl)
theorem dX11_drops_6 : decode cX11_drops 6 = .ok (.iload_n 1, 1) := dk_27 (dk_at dksX11_drops_0 6 rfl rfl)
theorem dX11_drops_7 : decode cX11_drops 7 = .ok (.iload_n 2, 1) := dk_28 (dk_at dksX11_drops_0 7 rfl rfl)
theorem dX11_drops_8 : decode cX11_drops 8 = .ok (.iload_n 3, 1) := dk_29 (dk_at dksX11_drops_0 8 rfl rfl)
theorem dX11_drops_9 : decode cX11_drops 9 = .ok (.invokestatic 389, 3) := dk_184 1 133 (dk_at dksX11_drops_0 9 rfl rfl)
theorem dX11_drops_12 : decode cX11_drops 12 = .ok (.ifCond .eq 28, 3) := dk_153 0 28 (dk_at dksX11_drops_0 12 rfl rfl)
theorem dX11_drops_15 : decode cX11_drops 15 = .ok (.iload 4, 2) := dk_21 4 (dk_at dksX11_drops_0 15 rfl rfl)
theorem dX11_drops_17 : decode cX11_drops 17 = .ok (.invokestatic 392, 3) := dk_184 1 136 (dk_at dksX11_drops_0 17 rfl rfl)
theorem dX11_drops_20 : decode cX11_drops 20 = .ok (.ifCond .eq 20, 3) := dk_153 0 20 (dk_at dksX11_drops_0 20 rfl rfl)
theorem dX11_drops_23 : decode cX11_drops 23 = .ok (.iload 5, 2) := dk_21 5 (dk_at dksX11_drops_1 0 rfl rfl)
theorem dX11_drops_25 : decode cX11_drops 25 = .ok (.i2l, 1) := dk_133 (dk_at dksX11_drops_1 2 rfl rfl)
theorem dX11_drops_26 : decode cX11_drops 26 = .ok (.lconst 0, 1) := dk_9 (dk_at dksX11_drops_1 3 rfl rfl)
theorem dX11_drops_27 : decode cX11_drops 27 = .ok (.ldc2_w 421, 3) := dk_20 1 165 (dk_at dksX11_drops_1 4 rfl rfl)
theorem dX11_drops_30 : decode cX11_drops 30 = .ok (.invokestatic 352, 3) := dk_184 1 96 (dk_at dksX11_drops_1 7 rfl rfl)
theorem dX11_drops_33 : decode cX11_drops 33 = .ok (.ifCond .eq 7, 3) := dk_153 0 7 (dk_at dksX11_drops_1 10 rfl rfl)
theorem dX11_drops_36 : decode cX11_drops 36 = .ok (.iconst 1, 1) := dk_4 (dk_at dksX11_drops_1 13 rfl rfl)
theorem dX11_drops_37 : decode cX11_drops 37 = .ok (.goto 4, 3) := dk_167 0 4 (dk_at dksX11_drops_1 14 rfl rfl)
theorem dX11_drops_40 : decode cX11_drops 40 = .ok (.iconst 0, 1) := dk_3 (dk_at dksX11_drops_1 17 rfl rfl)
theorem dX11_drops_41 : decode cX11_drops 41 = .ok (.iconst 1, 1) := dk_4 (dk_at dksX11_drops_1 18 rfl rfl)
theorem dX11_drops_42 : decode cX11_drops 42 = .ok (.iconst 1, 1) := dk_4 (dk_at dksX11_drops_1 19 rfl rfl)
theorem dX11_drops_43 : decode cX11_drops 43 = .ok (.invokevirtual 346, 3) := dk_182 1 90 (dk_at dksX11_drops_1 20 rfl rfl)
theorem dX11_drops_46 : decode cX11_drops 46 = .ok (.ifCond .ne 5, 3) := dk_154 0 5 (dk_at dksX11_drops_2 0 rfl rfl)
theorem dX11_drops_49 : decode cX11_drops 49 = .ok (.lconst 0, 1) := dk_9 (dk_at dksX11_drops_2 3 rfl rfl)
theorem dX11_drops_50 : decode cX11_drops 50 = .ok (.lreturn, 1) := dk_173 (dk_at dksX11_drops_2 4 rfl rfl)
theorem dX11_drops_51 : decode cX11_drops 51 = .ok (.aload_n 0, 1) := dk_42 (dk_at dksX11_drops_2 5 rfl rfl)
theorem dX11_drops_52 : decode cX11_drops 52 = .ok (.iload_n 1, 1) := dk_27 (dk_at dksX11_drops_2 6 rfl rfl)
theorem dX11_drops_53 : decode cX11_drops 53 = .ok (.iload_n 2, 1) := dk_28 (dk_at dksX11_drops_2 7 rfl rfl)
theorem dX11_drops_54 : decode cX11_drops 54 = .ok (.iload_n 3, 1) := dk_29 (dk_at dksX11_drops_2 8 rfl rfl)
theorem dX11_drops_55 : decode cX11_drops 55 = .ok (.iload 4, 2) := dk_21 4 (dk_at dksX11_drops_2 9 rfl rfl)
theorem dX11_drops_57 : decode cX11_drops 57 = .ok (.invokevirtual 449, 3) := dk_182 1 193 (dk_at dksX11_drops_2 11 rfl rfl)
theorem dX11_drops_60 : decode cX11_drops 60 = .ok (.aload_n 0, 1) := dk_42 (dk_at dksX11_drops_2 14 rfl rfl)
theorem dX11_drops_61 : decode cX11_drops 61 = .ok (.getfield 91, 3) := dk_180 0 91 (dk_at dksX11_drops_2 15 rfl rfl)
theorem dX11_drops_64 : decode cX11_drops 64 = .ok (.sipush 168, 3) := dk_17 0 168 (dk_at dksX11_drops_2 18 rfl rfl)
theorem dX11_drops_67 : decode cX11_drops 67 = .ok (.iload 5, 2) := dk_21 5 (dk_at dksX11_drops_2 21 rfl rfl)
theorem dX11_drops_69 : decode cX11_drops 69 = .ok (.iadd, 1) := dk_96 (dk_at dksX11_drops_2 23 rfl rfl)
theorem dX11_drops_70 : decode cX11_drops 70 = .ok (.laload, 1) := dk_47 (dk_at dksX11_drops_3 0 rfl rfl)
theorem dX11_drops_71 : decode cX11_drops 71 = .ok (.lstore 6, 2) := dk_55 6 (dk_at dksX11_drops_3 1 rfl rfl)
theorem dX11_drops_73 : decode cX11_drops 73 = .ok (.aload_n 0, 1) := dk_42 (dk_at dksX11_drops_3 3 rfl rfl)
theorem dX11_drops_74 : decode cX11_drops 74 = .ok (.invokevirtual 403, 3) := dk_182 1 147 (dk_at dksX11_drops_3 4 rfl rfl)
theorem dX11_drops_77 : decode cX11_drops 77 = .ok (.lload 6, 2) := dk_22 6 (dk_at dksX11_drops_3 7 rfl rfl)
theorem dX11_drops_79 : decode cX11_drops 79 = .ok (.lreturn, 1) := dk_173 (dk_at dksX11_drops_3 9 rfl rfl)
abbrev cX11_share : ByteArray := prog_16_method_114_code
def yX11_share : MethodName := ⟨RX11, "share", "(IIIII)J"⟩
def dkwX11_share_3 : List UInt8 := [9, 148, 154, 0, 5, 9, 173, 42, 21, 4, 133, 16, 12, 182, 0, 211, 42, 180, 0, 112, 21, 5, 47, 173]
abbrev dktX11_share_3 : List UInt8 := dkwX11_share_3 ++ []
def dkwX11_share_2 : List UInt8 := [154, 0, 5, 9, 173, 42, 27, 28, 29, 182, 1, 190, 42, 16, 24, 182, 0, 231, 42, 16, 12, 182, 0, 194]
abbrev dktX11_share_2 : List UInt8 := dkwX11_share_2 ++ dktX11_share_3
def dkwX11_share_1 : List UInt8 := [21, 5, 133, 9, 20, 1, 94, 184, 1, 96, 153, 0, 7, 4, 167, 0, 4, 3, 4, 4, 182, 1, 90]
abbrev dktX11_share_1 : List UInt8 := dkwX11_share_1 ++ dktX11_share_2
def dkwX11_share_0 : List UInt8 := [42, 3, 181, 0, 1, 42, 27, 28, 29, 184, 1, 133, 153, 0, 28, 21, 4, 184, 1, 136, 153, 0, 20]
abbrev dktX11_share_0 : List UInt8 := dkwX11_share_0 ++ dktX11_share_1
theorem dksX11_share_0 : cX11_share.data.toList.drop 0 = dktX11_share_0 := by decide +kernel
theorem dksX11_share_1 : cX11_share.data.toList.drop 23 = dktX11_share_1 := dk_seg dksX11_share_0 23 rfl rfl
theorem dksX11_share_2 : cX11_share.data.toList.drop 46 = dktX11_share_2 := dk_seg dksX11_share_1 23 rfl rfl
theorem dksX11_share_3 : cX11_share.data.toList.drop 70 = dktX11_share_3 := dk_seg dksX11_share_2 24 rfl rfl
theorem dX11_share_0 : decode cX11_share 0 = .ok (.aload_n 0, 1) := dk_42 (dk_at dksX11_share_0 0 rfl rfl)
theorem dX11_share_1 : decode cX11_share 1 = .ok (.iconst 0, 1) := dk_3 (dk_at dksX11_share_0 1 rfl rfl)
theorem dX11_share_2 : decode cX11_share 2 = .ok (.putfield 1, 3) := dk_181 0 1 (dk_at dksX11_share_0 2 rfl rfl)
theorem dX11_share_5 : decode cX11_share 5 = .ok (.aload_n 0, 1) := dk_42 (dk_at dksX11_share_0 5 rfl rfl)
theorem dX11_share_6 : decode cX11_share 6 = .ok (.iload_n 1, 1) := dk_27 (dk_at dksX11_share_0 6 rfl rfl)
theorem dX11_share_7 : decode cX11_share 7 = .ok (.iload_n 2, 1) := dk_28 (dk_at dksX11_share_0 7 rfl rfl)
theorem dX11_share_8 : decode cX11_share 8 = .ok (.iload_n 3, 1) := dk_29 (dk_at dksX11_share_0 8 rfl rfl)
theorem dX11_share_9 : decode cX11_share 9 = .ok (.invokestatic 389, 3) := dk_184 1 133 (dk_at dksX11_share_0 9 rfl rfl)
theorem dX11_share_12 : decode cX11_share 12 = .ok (.ifCond .eq 28, 3) := dk_153 0 28 (dk_at dksX11_share_0 12 rfl rfl)
theorem dX11_share_15 : decode cX11_share 15 = .ok (.iload 4, 2) := dk_21 4 (dk_at dksX11_share_0 15 rfl rfl)
theorem dX11_share_17 : decode cX11_share 17 = .ok (.invokestatic 392, 3) := dk_184 1 136 (dk_at dksX11_share_0 17 rfl rfl)
theorem dX11_share_20 : decode cX11_share 20 = .ok (.ifCond .eq 20, 3) := dk_153 0 20 (dk_at dksX11_share_0 20 rfl rfl)
theorem dX11_share_23 : decode cX11_share 23 = .ok (.iload 5, 2) := dk_21 5 (dk_at dksX11_share_1 0 rfl rfl)
theorem dX11_share_25 : decode cX11_share 25 = .ok (.i2l, 1) := dk_133 (dk_at dksX11_share_1 2 rfl rfl)
theorem dX11_share_26 : decode cX11_share 26 = .ok (.lconst 0, 1) := dk_9 (dk_at dksX11_share_1 3 rfl rfl)
theorem dX11_share_27 : decode cX11_share 27 = .ok (.ldc2_w 350, 3) := dk_20 1 94 (dk_at dksX11_share_1 4 rfl rfl)
theorem dX11_share_30 : decode cX11_share 30 = .ok (.invokestatic 352, 3) := dk_184 1 96 (dk_at dksX11_share_1 7 rfl rfl)
theorem dX11_share_33 : decode cX11_share 33 = .ok (.ifCond .eq 7, 3) := dk_153 0 7 (dk_at dksX11_share_1 10 rfl rfl)
theorem dX11_share_36 : decode cX11_share 36 = .ok (.iconst 1, 1) := dk_4 (dk_at dksX11_share_1 13 rfl rfl)
theorem dX11_share_37 : decode cX11_share 37 = .ok (.goto 4, 3) := dk_167 0 4 (dk_at dksX11_share_1 14 rfl rfl)
theorem dX11_share_40 : decode cX11_share 40 = .ok (.iconst 0, 1) := dk_3 (dk_at dksX11_share_1 17 rfl rfl)
theorem dX11_share_41 : decode cX11_share 41 = .ok (.iconst 1, 1) := dk_4 (dk_at dksX11_share_1 18 rfl rfl)
theorem dX11_share_42 : decode cX11_share 42 = .ok (.iconst 1, 1) := dk_4 (dk_at dksX11_share_1 19 rfl rfl)
theorem dX11_share_43 : decode cX11_share 43 = .ok (.invokevirtual 346, 3) := dk_182 1 90 (dk_at dksX11_share_1 20 rfl rfl)
theorem dX11_share_46 : decode cX11_share 46 = .ok (.ifCond .ne 5, 3) := dk_154 0 5 (dk_at dksX11_share_2 0 rfl rfl)
theorem dX11_share_49 : decode cX11_share 49 = .ok (.lconst 0, 1) := dk_9 (dk_at dksX11_share_2 3 rfl rfl)
theorem dX11_share_50 : decode cX11_share 50 = .ok (.lreturn, 1) := dk_173 (dk_at dksX11_share_2 4 rfl rfl)
theorem dX11_share_51 : decode cX11_share 51 = .ok (.aload_n 0, 1) := dk_42 (dk_at dksX11_share_2 5 rfl rfl)
theorem dX11_share_52 : decode cX11_share 52 = .ok (.iload_n 1, 1) := dk_27 (dk_at dksX11_share_2 6 rfl rfl)
theorem dX11_share_53 : decode cX11_share 53 = .ok (.iload_n 2, 1) := dk_28 (dk_at dksX11_share_2 7 rfl rfl)
theorem dX11_share_54 : decode cX11_share 54 = .ok (.iload_n 3, 1) := dk_29 (dk_at dksX11_share_2 8 rfl rfl)
theorem dX11_share_55 : decode cX11_share 55 = .ok (.invokevirtual 446, 3) := dk_182 1 190 (dk_at dksX11_share_2 9 rfl rfl)
theorem dX11_share_58 : decode cX11_share 58 = .ok (.aload_n 0, 1) := dk_42 (dk_at dksX11_share_2 12 rfl rfl)
theorem dX11_share_59 : decode cX11_share 59 = .ok (.bipush 24, 2) := dk_16 24 (dk_at dksX11_share_2 13 rfl rfl)
theorem dX11_share_61 : decode cX11_share 61 = .ok (.invokevirtual 231, 3) := dk_182 0 231 (dk_at dksX11_share_2 15 rfl rfl)
theorem dX11_share_64 : decode cX11_share 64 = .ok (.aload_n 0, 1) := dk_42 (dk_at dksX11_share_2 18 rfl rfl)
theorem dX11_share_65 : decode cX11_share 65 = .ok (.bipush 12, 2) := dk_16 12 (dk_at dksX11_share_2 19 rfl rfl)
theorem dX11_share_67 : decode cX11_share 67 = .ok (.invokevirtual 194, 3) := dk_182 0 194 (dk_at dksX11_share_2 21 rfl rfl)
theorem dX11_share_70 : decode cX11_share 70 = .ok (.lconst 0, 1) := dk_9 (dk_at dksX11_share_3 0 rfl rfl)
theorem dX11_share_71 : decode cX11_share 71 = .ok (.lcmp, 1) := dk_148 (dk_at dksX11_share_3 1 rfl rfl)
theorem dX11_share_72 : decode cX11_share 72 = .ok (.ifCond .ne 5, 3) := dk_154 0 5 (dk_at dksX11_share_3 2 rfl rfl)
theorem dX11_share_75 : decode cX11_share 75 = .ok (.lconst 0, 1) := dk_9 (dk_at dksX11_share_3 5 rfl rfl)
theorem dX11_share_76 : decode cX11_share 76 = .ok (.lreturn, 1) := dk_173 (dk_at dksX11_share_3 6 rfl rfl)
theorem dX11_share_77 : decode cX11_share 77 = .ok (.aload_n 0, 1) := dk_42 (dk_at dksX11_share_3 7 rfl rfl)
theorem dX11_share_78 : decode cX11_share 78 = .ok (.iload 4, 2) := dk_21 4 (dk_at dksX11_share_3 8 rfl rfl)
theorem dX11_share_80 : decode cX11_share 80 = .ok (.i2l, 1) := dk_133 (dk_at dksX11_share_3 10 rfl rfl)
theorem dX11_share_81 : decode cX11_share 81 = .ok (.bipush 12, 2) := dk_16 12 (dk_at dksX11_share_3 11 rfl rfl)
theorem dX11_share_83 : decode cX11_share 83 = .ok (.invokevirtual 211, 3) := dk_182 0 211 (dk_at dksX11_share_3 13 rfl rfl)
theorem dX11_share_86 : decode cX11_share 86 = .ok (.aload_n 0, 1) := dk_42 (dk_at dksX11_share_3 16 rfl rfl)
theorem dX11_share_87 : decode cX11_share 87 = .ok (.getfield 112, 3) := dk_180 0 112 (dk_at dksX11_share_3 17 rfl rfl)
theorem dX11_share_90 : decode cX11_share 90 = .ok (.iload 5, 2) := dk_21 5 (dk_at dksX11_share_3 20 rfl rfl)
theorem dX11_share_92 : decode cX11_share 92 = .ok (.laload, 1) := dk_47 (dk_at dksX11_share_3 22 rfl rfl)
theorem dX11_share_93 : decode cX11_share 93 = .ok (.lreturn, 1) := dk_173 (dk_at dksX11_share_3 23 rfl rfl)
abbrev cX11_weight : ByteArray := prog_16_method_115_code
def yX11_weight : MethodName := ⟨RX11, "weight", "(IIII)J"⟩
def dkwX11_weight_2 : List UInt8 := [29, 182, 1, 190, 42, 16, 24, 182, 1, 14, 42, 180, 0, 109, 21, 4, 47, 173]
abbrev dktX11_weight_2 : List UInt8 := dkwX11_weight_2 ++ []
def dkwX11_weight_1 : List UInt8 := [184, 1, 96, 153, 0, 7, 4, 167, 0, 4, 3, 4, 4, 182, 1, 90, 154, 0, 5, 9, 173, 42, 27, 28]
abbrev dktX11_weight_1 : List UInt8 := dkwX11_weight_1 ++ dktX11_weight_2
def dkwX11_weight_0 : List UInt8 := [42, 3, 181, 0, 1, 42, 27, 28, 29, 184, 1, 133, 153, 0, 20, 21, 4, 133, 9, 20, 1, 94]
abbrev dktX11_weight_0 : List UInt8 := dkwX11_weight_0 ++ dktX11_weight_1
theorem dksX11_weight_0 : cX11_weight.data.toList.drop 0 = dktX11_weight_0 := by decide +kernel
theorem dksX11_weight_1 : cX11_weight.data.toList.drop 22 = dktX11_weight_1 := dk_seg dksX11_weight_0 22 rfl rfl
theorem dksX11_weight_2 : cX11_weight.data.toList.drop 46 = dktX11_weight_2 := dk_seg dksX11_weight_1 24 rfl rfl
theorem dX11_weight_0 : decode cX11_weight 0 = .ok (.aload_n 0, 1) := dk_42 (dk_at dksX11_weight_0 0 rfl rfl)
theorem dX11_weight_1 : decode cX11_weight 1 = .ok (.iconst 0, 1) := dk_3 (dk_at dksX11_weight_0 1 rfl rfl)
theorem dX11_weight_2 : decode cX11_weight 2 = .ok (.putfield 1, 3) := dk_181 0 1 (dk_at dksX11_weight_0 2 rfl rfl)
theorem dX11_weight_5 : decode cX11_weight 5 = .ok (.aload_n 0, 1) := dk_42 (dk_at dksX11_weight_0 5 rfl rfl)
theorem dX11_weight_6 : decode cX11_weight 6 = .ok (.iload_n 1, 1) := dk_27 (dk_at dksX11_weight_0 6 rfl rfl)
theorem dX11_weight_7 : decode cX11_weight 7 = .ok (.iload_n 2, 1) := dk_28 (dk_at dksX11_weight_0 7 rfl rfl)
theorem dX11_weight_8 : decode cX11_weight 8 = .ok (.iload_n 3, 1) := dk_29 (dk_at dksX11_weight_0 8 rfl rfl)
theorem dX11_weight_9 : decode cX11_weight 9 = .ok (.invokestatic 389, 3) := dk_184 1 133 (dk_at dksX11_weight_0 9 rfl rfl)
theorem dX11_weight_12 : decode cX11_weight 12 = .ok (.ifCond .eq 20, 3) := dk_153 0 20 (dk_at dksX11_weight_0 12 rfl rfl)
theorem dX11_weight_15 : decode cX11_weight 15 = .ok (.iload 4, 2) := dk_21 4 (dk_at dksX11_weight_0 15 rfl rfl)
theorem dX11_weight_17 : decode cX11_weight 17 = .ok (.i2l, 1) := dk_133 (dk_at dksX11_weight_0 17 rfl rfl)
theorem dX11_weight_18 : decode cX11_weight 18 = .ok (.lconst 0, 1) := dk_9 (dk_at dksX11_weight_0 18 rfl rfl)
theorem dX11_weight_19 : decode cX11_weight 19 = .ok (.ldc2_w 350, 3) := dk_20 1 94 (dk_at dksX11_weight_0 19 rfl rfl)
theorem dX11_weight_22 : decode cX11_weight 22 = .ok (.invokestatic 352, 3) := dk_184 1 96 (dk_at dksX11_weight_1 0 rfl rfl)
theorem dX11_weight_25 : decode cX11_weight 25 = .ok (.ifCond .eq 7, 3) := dk_153 0 7 (dk_at dksX11_weight_1 3 rfl rfl)
theorem dX11_weight_28 : decode cX11_weight 28 = .ok (.iconst 1, 1) := dk_4 (dk_at dksX11_weight_1 6 rfl rfl)
theorem dX11_weight_29 : decode cX11_weight 29 = .ok (.goto 4, 3) := dk_167 0 4 (dk_at dksX11_weight_1 7 rfl rfl)
theorem dX11_weight_32 : decode cX11_weight 32 = .ok (.iconst 0, 1) := dk_3 (dk_at dksX11_weight_1 10 rfl rfl)
theorem dX11_weight_33 : decode cX11_weight 33 = .ok (.iconst 1, 1) := dk_4 (dk_at dksX11_weight_1 11 rfl rfl)
theorem dX11_weight_34 : decode cX11_weight 34 = .ok (.iconst 1, 1) := dk_4 (dk_at dksX11_weight_1 12 rfl rfl)
theorem dX11_weight_35 : decode cX11_weight 35 = .ok (.invokevirtual 346, 3) := dk_182 1 90 (dk_at dksX11_weight_1 13 rfl rfl)
theorem dX11_weight_38 : decode cX11_weight 38 = .ok (.ifCond .ne 5, 3) := dk_154 0 5 (dk_at dksX11_weight_1 16 rfl rfl)
theorem dX11_weight_41 : decode cX11_weight 41 = .ok (.lconst 0, 1) := dk_9 (dk_at dksX11_weight_1 19 rfl rfl)
theorem dX11_weight_42 : decode cX11_weight 42 = .ok (.lreturn, 1) := dk_173 (dk_at dksX11_weight_1 20 rfl rfl)
theorem dX11_weight_43 : decode cX11_weight 43 = .ok (.aload_n 0, 1) := dk_42 (dk_at dksX11_weight_1 21 rfl rfl)
theorem dX11_weight_44 : decode cX11_weight 44 = .ok (.iload_n 1, 1) := dk_27 (dk_at dksX11_weight_1 22 rfl rfl)
theorem dX11_weight_45 : decode cX11_weight 45 = .ok (.iload_n 2, 1) := dk_28 (dk_at dksX11_weight_1 23 rfl rfl)
theorem dX11_weight_46 : decode cX11_weight 46 = .ok (.iload_n 3, 1) := dk_29 (dk_at dksX11_weight_2 0 rfl rfl)
theorem dX11_weight_47 : decode cX11_weight 47 = .ok (.invokevirtual 446, 3) := dk_182 1 190 (dk_at dksX11_weight_2 1 rfl rfl)
theorem dX11_weight_50 : decode cX11_weight 50 = .ok (.aload_n 0, 1) := dk_42 (dk_at dksX11_weight_2 4 rfl rfl)
theorem dX11_weight_51 : decode cX11_weight 51 = .ok (.bipush 24, 2) := dk_16 24 (dk_at dksX11_weight_2 5 rfl rfl)
theorem dX11_weight_53 : decode cX11_weight 53 = .ok (.invokevirtual 270, 3) := dk_182 1 14 (dk_at dksX11_weight_2 7 rfl rfl)
theorem dX11_weight_56 : decode cX11_weight 56 = .ok (.aload_n 0, 1) := dk_42 (dk_at dksX11_weight_2 10 rfl rfl)
theorem dX11_weight_57 : decode cX11_weight 57 = .ok (.getfield 109, 3) := dk_180 0 109 (dk_at dksX11_weight_2 11 rfl rfl)
theorem dX11_weight_60 : decode cX11_weight 60 = .ok (.iload 4, 2) := dk_21 4 (dk_at dksX11_weight_2 14 rfl rfl)
theorem dX11_weight_62 : decode cX11_weight 62 = .ok (.laload, 1) := dk_47 (dk_at dksX11_weight_2 16 rfl rfl)
theorem dX11_weight_63 : decode cX11_weight 63 = .ok (.lreturn, 1) := dk_173 (dk_at dksX11_weight_2 17 rfl rfl)
abbrev cX11_picks : ByteArray := prog_16_method_116_code
def yX11_picks : MethodName := ⟨RX11, "picks", "(IIII)I"⟩
def dkwX11_picks_2 : List UInt8 := [182, 0, 225, 172]
abbrev dktX11_picks_2 : List UInt8 := dkwX11_picks_2 ++ []
def dkwX11_picks_1 : List UInt8 := [3, 4, 4, 182, 1, 90, 154, 0, 5, 3, 172, 42, 27, 28, 29, 182, 1, 190, 42, 16, 24, 21, 4]
abbrev dktX11_picks_1 : List UInt8 := dkwX11_picks_1 ++ dktX11_picks_2
def dkwX11_picks_0 : List UInt8 := [42, 3, 181, 0, 1, 42, 27, 28, 29, 184, 1, 133, 153, 0, 12, 21, 4, 155, 0, 7, 4, 167, 0, 4]
abbrev dktX11_picks_0 : List UInt8 := dkwX11_picks_0 ++ dktX11_picks_1
theorem dksX11_picks_0 : cX11_picks.data.toList.drop 0 = dktX11_picks_0 := by decide +kernel
theorem dksX11_picks_1 : cX11_picks.data.toList.drop 24 = dktX11_picks_1 := dk_seg dksX11_picks_0 24 rfl rfl
theorem dksX11_picks_2 : cX11_picks.data.toList.drop 47 = dktX11_picks_2 := dk_seg dksX11_picks_1 23 rfl rfl
theorem dX11_picks_0 : decode cX11_picks 0 = .ok (.aload_n 0, 1) := dk_42 (dk_at dksX11_picks_0 0 rfl rfl)
theorem dX11_picks_1 : decode cX11_picks 1 = .ok (.iconst 0, 1) := dk_3 (dk_at dksX11_picks_0 1 rfl rfl)
theorem dX11_picks_2 : decode cX11_picks 2 = .ok (.putfield 1, 3) := dk_181 0 1 (dk_at dksX11_picks_0 2 rfl rfl)
theorem dX11_picks_5 : decode cX11_picks 5 = .ok (.aload_n 0, 1) := dk_42 (dk_at dksX11_picks_0 5 rfl rfl)
theorem dX11_picks_6 : decode cX11_picks 6 = .ok (.iload_n 1, 1) := dk_27 (dk_at dksX11_picks_0 6 rfl rfl)
theorem dX11_picks_7 : decode cX11_picks 7 = .ok (.iload_n 2, 1) := dk_28 (dk_at dksX11_picks_0 7 rfl rfl)
theorem dX11_picks_8 : decode cX11_picks 8 = .ok (.iload_n 3, 1) := dk_29 (dk_at dksX11_picks_0 8 rfl rfl)
theorem dX11_picks_9 : decode cX11_picks 9 = .ok (.invokestatic 389, 3) := dk_184 1 133 (dk_at dksX11_picks_0 9 rfl rfl)
theorem dX11_picks_12 : decode cX11_picks 12 = .ok (.ifCond .eq 12, 3) := dk_153 0 12 (dk_at dksX11_picks_0 12 rfl rfl)
theorem dX11_picks_15 : decode cX11_picks 15 = .ok (.iload 4, 2) := dk_21 4 (dk_at dksX11_picks_0 15 rfl rfl)
theorem dX11_picks_17 : decode cX11_picks 17 = .ok (.ifCond .lt 7, 3) := dk_155 0 7 (dk_at dksX11_picks_0 17 rfl rfl)
theorem dX11_picks_20 : decode cX11_picks 20 = .ok (.iconst 1, 1) := dk_4 (dk_at dksX11_picks_0 20 rfl rfl)
theorem dX11_picks_21 : decode cX11_picks 21 = .ok (.goto 4, 3) := dk_167 0 4 (dk_at dksX11_picks_0 21 rfl rfl)
theorem dX11_picks_24 : decode cX11_picks 24 = .ok (.iconst 0, 1) := dk_3 (dk_at dksX11_picks_1 0 rfl rfl)
theorem dX11_picks_25 : decode cX11_picks 25 = .ok (.iconst 1, 1) := dk_4 (dk_at dksX11_picks_1 1 rfl rfl)
theorem dX11_picks_26 : decode cX11_picks 26 = .ok (.iconst 1, 1) := dk_4 (dk_at dksX11_picks_1 2 rfl rfl)
theorem dX11_picks_27 : decode cX11_picks 27 = .ok (.invokevirtual 346, 3) := dk_182 1 90 (dk_at dksX11_picks_1 3 rfl rfl)
theorem dX11_picks_30 : decode cX11_picks 30 = .ok (.ifCond .ne 5, 3) := dk_154 0 5 (dk_at dksX11_picks_1 6 rfl rfl)
theorem dX11_picks_33 : decode cX11_picks 33 = .ok (.iconst 0, 1) := dk_3 (dk_at dksX11_picks_1 9 rfl rfl)
theorem dX11_picks_34 : decode cX11_picks 34 = .ok (.ireturn, 1) := dk_172 (dk_at dksX11_picks_1 10 rfl rfl)
theorem dX11_picks_35 : decode cX11_picks 35 = .ok (.aload_n 0, 1) := dk_42 (dk_at dksX11_picks_1 11 rfl rfl)
theorem dX11_picks_36 : decode cX11_picks 36 = .ok (.iload_n 1, 1) := dk_27 (dk_at dksX11_picks_1 12 rfl rfl)
theorem dX11_picks_37 : decode cX11_picks 37 = .ok (.iload_n 2, 1) := dk_28 (dk_at dksX11_picks_1 13 rfl rfl)
theorem dX11_picks_38 : decode cX11_picks 38 = .ok (.iload_n 3, 1) := dk_29 (dk_at dksX11_picks_1 14 rfl rfl)
theorem dX11_picks_39 : decode cX11_picks 39 = .ok (.invokevirtual 446, 3) := dk_182 1 190 (dk_at dksX11_picks_1 15 rfl rfl)
theorem dX11_picks_42 : decode cX11_picks 42 = .ok (.aload_n 0, 1) := dk_42 (dk_at dksX11_picks_1 18 rfl rfl)
theorem dX11_picks_43 : decode cX11_picks 43 = .ok (.bipush 24, 2) := dk_16 24 (dk_at dksX11_picks_1 19 rfl rfl)
theorem dX11_picks_45 : decode cX11_picks 45 = .ok (.iload 4, 2) := dk_21 4 (dk_at dksX11_picks_1 21 rfl rfl)
theorem dX11_picks_47 : decode cX11_picks 47 = .ok (.invokevirtual 225, 3) := dk_182 0 225 (dk_at dksX11_picks_2 0 rfl rfl)
theorem dX11_picks_50 : decode cX11_picks 50 = .ok (.ireturn, 1) := dk_172 (dk_at dksX11_picks_2 3 rfl rfl)
abbrev cX11_uneven : ByteArray := prog_16_method_117_code
def yX11_uneven : MethodName := ⟨RX11, "uneven", "(IIIII)J"⟩
def dkwX11_uneven_5 : List UInt8 := [182, 1, 147, 22, 6, 173]
abbrev dktX11_uneven_5 : List UInt8 := dkwX11_uneven_5 ++ []
def dkwX11_uneven_4 : List UInt8 := [133, 182, 1, 5, 42, 180, 0, 115, 21, 5, 47, 42, 180, 0, 118, 21, 5, 47, 101, 55, 6, 42]
abbrev dktX11_uneven_4 : List UInt8 := dkwX11_uneven_4 ++ dktX11_uneven_5
def dkwX11_uneven_3 : List UInt8 := [21, 6, 9, 80, 132, 6, 1, 167, 255, 238, 42, 16, 24, 21, 4, 133, 182, 1, 2, 42, 16, 24, 21, 4]
abbrev dktX11_uneven_3 : List UInt8 := dkwX11_uneven_3 ++ dktX11_uneven_4
def dkwX11_uneven_2 : List UInt8 := [9, 173, 42, 27, 28, 29, 182, 1, 190, 3, 54, 6, 21, 6, 16, 40, 162, 0, 17, 42, 180, 0, 115]
abbrev dktX11_uneven_2 : List UInt8 := dkwX11_uneven_2 ++ dktX11_uneven_3
def dkwX11_uneven_1 : List UInt8 := [153, 0, 15, 21, 4, 184, 1, 136, 153, 0, 7, 4, 167, 0, 4, 3, 5, 4, 182, 1, 90, 154, 0, 5]
abbrev dktX11_uneven_1 : List UInt8 := dkwX11_uneven_1 ++ dktX11_uneven_2
def dkwX11_uneven_0 : List UInt8 := [42, 3, 181, 0, 1, 42, 21, 5, 4, 182, 1, 118, 153, 0, 34, 42, 27, 28, 29, 184, 1, 133]
abbrev dktX11_uneven_0 : List UInt8 := dkwX11_uneven_0 ++ dktX11_uneven_1
theorem dksX11_uneven_0 : cX11_uneven.data.toList.drop 0 = dktX11_uneven_0 := by decide +kernel
theorem dksX11_uneven_1 : cX11_uneven.data.toList.drop 22 = dktX11_uneven_1 := dk_seg dksX11_uneven_0 22 rfl rfl
theorem dksX11_uneven_2 : cX11_uneven.data.toList.drop 46 = dktX11_uneven_2 := dk_seg dksX11_uneven_1 24 rfl rfl
theorem dksX11_uneven_3 : cX11_uneven.data.toList.drop 69 = dktX11_uneven_3 := dk_seg dksX11_uneven_2 23 rfl rfl
theorem dksX11_uneven_4 : cX11_uneven.data.toList.drop 93 = dktX11_uneven_4 := dk_seg dksX11_uneven_3 24 rfl rfl
theorem dksX11_uneven_5 : cX11_uneven.data.toList.drop 115 = dktX11_uneven_5 := dk_seg dksX11_uneven_4 22 rfl rfl
theorem dX11_uneven_0 : decode cX11_uneven 0 = .ok (.aload_n 0, 1) := dk_42 (dk_at dksX11_uneven_0 0 rfl rfl)
theorem dX11_uneven_1 : decode cX11_uneven 1 = .ok (.iconst 0, 1) := dk_3 (dk_at dksX11_uneven_0 1 rfl rfl)
theorem dX11_uneven_2 : decode cX11_uneven 2 = .ok (.putfield 1, 3) := dk_181 0 1 (dk_at dksX11_uneven_0 2 rfl rfl)
theorem dX11_uneven_5 : decode cX11_uneven 5 = .ok (.aload_n 0, 1) := dk_42 (dk_at dksX11_uneven_0 5 rfl rfl)
theorem dX11_uneven_6 : decode cX11_uneven 6 = .ok (.iload 5, 2) := dk_21 5 (dk_at dksX11_uneven_0 6 rfl rfl)
theorem dX11_uneven_8 : decode cX11_uneven 8 = .ok (.iconst 1, 1) := dk_4 (dk_at dksX11_uneven_0 8 rfl rfl)
theorem dX11_uneven_9 : decode cX11_uneven 9 = .ok (.invokevirtual 374, 3) := dk_182 1 118 (dk_at dksX11_uneven_0 9 rfl rfl)
theorem dX11_uneven_12 : decode cX11_uneven 12 = .ok (.ifCond .eq 34, 3) := dk_153 0 34 (dk_at dksX11_uneven_0 12 rfl rfl)
theorem dX11_uneven_15 : decode cX11_uneven 15 = .ok (.aload_n 0, 1) := dk_42 (dk_at dksX11_uneven_0 15 rfl rfl)
theorem dX11_uneven_16 : decode cX11_uneven 16 = .ok (.iload_n 1, 1) := dk_27 (dk_at dksX11_uneven_0 16 rfl rfl)
theorem dX11_uneven_17 : decode cX11_uneven 17 = .ok (.iload_n 2, 1) := dk_28 (dk_at dksX11_uneven_0 17 rfl rfl)
theorem dX11_uneven_18 : decode cX11_uneven 18 = .ok (.iload_n 3, 1) := dk_29 (dk_at dksX11_uneven_0 18 rfl rfl)
theorem dX11_uneven_19 : decode cX11_uneven 19 = .ok (.invokestatic 389, 3) := dk_184 1 133 (dk_at dksX11_uneven_0 19 rfl rfl)
theorem dX11_uneven_22 : decode cX11_uneven 22 = .ok (.ifCond .eq 15, 3) := dk_153 0 15 (dk_at dksX11_uneven_1 0 rfl rfl)
theorem dX11_uneven_25 : decode cX11_uneven 25 = .ok (.iload 4, 2) := dk_21 4 (dk_at dksX11_uneven_1 3 rfl rfl)
theorem dX11_uneven_27 : decode cX11_uneven 27 = .ok (.invokestatic 392, 3) := dk_184 1 136 (dk_at dksX11_uneven_1 5 rfl rfl)
theorem dX11_uneven_30 : decode cX11_uneven 30 = .ok (.ifCond .eq 7, 3) := dk_153 0 7 (dk_at dksX11_uneven_1 8 rfl rfl)
theorem dX11_uneven_33 : decode cX11_uneven 33 = .ok (.iconst 1, 1) := dk_4 (dk_at dksX11_uneven_1 11 rfl rfl)
theorem dX11_uneven_34 : decode cX11_uneven 34 = .ok (.goto 4, 3) := dk_167 0 4 (dk_at dksX11_uneven_1 12 rfl rfl)
theorem dX11_uneven_37 : decode cX11_uneven 37 = .ok (.iconst 0, 1) := dk_3 (dk_at dksX11_uneven_1 15 rfl rfl)
theorem dX11_uneven_38 : decode cX11_uneven 38 = .ok (.iconst 2, 1) := dk_5 (dk_at dksX11_uneven_1 16 rfl rfl)
theorem dX11_uneven_39 : decode cX11_uneven 39 = .ok (.iconst 1, 1) := dk_4 (dk_at dksX11_uneven_1 17 rfl rfl)
theorem dX11_uneven_40 : decode cX11_uneven 40 = .ok (.invokevirtual 346, 3) := dk_182 1 90 (dk_at dksX11_uneven_1 18 rfl rfl)
theorem dX11_uneven_43 : decode cX11_uneven 43 = .ok (.ifCond .ne 5, 3) := dk_154 0 5 (dk_at dksX11_uneven_1 21 rfl rfl)
theorem dX11_uneven_46 : decode cX11_uneven 46 = .ok (.lconst 0, 1) := dk_9 (dk_at dksX11_uneven_2 0 rfl rfl)
theorem dX11_uneven_47 : decode cX11_uneven 47 = .ok (.lreturn, 1) := dk_173 (dk_at dksX11_uneven_2 1 rfl rfl)
theorem dX11_uneven_48 : decode cX11_uneven 48 = .ok (.aload_n 0, 1) := dk_42 (dk_at dksX11_uneven_2 2 rfl rfl)
theorem dX11_uneven_49 : decode cX11_uneven 49 = .ok (.iload_n 1, 1) := dk_27 (dk_at dksX11_uneven_2 3 rfl rfl)
theorem dX11_uneven_50 : decode cX11_uneven 50 = .ok (.iload_n 2, 1) := dk_28 (dk_at dksX11_uneven_2 4 rfl rfl)
theorem dX11_uneven_51 : decode cX11_uneven 51 = .ok (.iload_n 3, 1) := dk_29 (dk_at dksX11_uneven_2 5 rfl rfl)
theorem dX11_uneven_52 : decode cX11_uneven 52 = .ok (.invokevirtual 446, 3) := dk_182 1 190 (dk_at dksX11_uneven_2 6 rfl rfl)
theorem dX11_uneven_55 : decode cX11_uneven 55 = .ok (.iconst 0, 1) := dk_3 (dk_at dksX11_uneven_2 9 rfl rfl)
theorem dX11_uneven_56 : decode cX11_uneven 56 = .ok (.istore 6, 2) := dk_54 6 (dk_at dksX11_uneven_2 10 rfl rfl)
theorem dX11_uneven_58 : decode cX11_uneven 58 = .ok (.iload 6, 2) := dk_21 6 (dk_at dksX11_uneven_2 12 rfl rfl)
theorem dX11_uneven_60 : decode cX11_uneven 60 = .ok (.bipush 40, 2) := dk_16 40 (dk_at dksX11_uneven_2 14 rfl rfl)
theorem dX11_uneven_62 : decode cX11_uneven 62 = .ok (.if_icmp .ge 17, 3) := dk_162 0 17 (dk_at dksX11_uneven_2 16 rfl rfl)
theorem dX11_uneven_65 : decode cX11_uneven 65 = .ok (.aload_n 0, 1) := dk_42 (dk_at dksX11_uneven_2 19 rfl rfl)
theorem dX11_uneven_66 : decode cX11_uneven 66 = .ok (.getfield 115, 3) := dk_180 0 115 (dk_at dksX11_uneven_2 20 rfl rfl)
theorem dX11_uneven_69 : decode cX11_uneven 69 = .ok (.iload 6, 2) := dk_21 6 (dk_at dksX11_uneven_3 0 rfl rfl)
theorem dX11_uneven_71 : decode cX11_uneven 71 = .ok (.lconst 0, 1) := dk_9 (dk_at dksX11_uneven_3 2 rfl rfl)
theorem dX11_uneven_72 : decode cX11_uneven 72 = .ok (.lastore, 1) := dk_80 (dk_at dksX11_uneven_3 3 rfl rfl)
theorem dX11_uneven_73 : decode cX11_uneven 73 = .ok (.iinc 6 1, 3) := dk_132 6 1 (dk_at dksX11_uneven_3 4 rfl rfl)
theorem dX11_uneven_76 : decode cX11_uneven 76 = .ok (.goto (-18), 3) := dk_167 255 238 (dk_at dksX11_uneven_3 7 rfl rfl)
theorem dX11_uneven_79 : decode cX11_uneven 79 = .ok (.aload_n 0, 1) := dk_42 (dk_at dksX11_uneven_3 10 rfl rfl)
theorem dX11_uneven_80 : decode cX11_uneven 80 = .ok (.bipush 24, 2) := dk_16 24 (dk_at dksX11_uneven_3 11 rfl rfl)
theorem dX11_uneven_82 : decode cX11_uneven 82 = .ok (.iload 4, 2) := dk_21 4 (dk_at dksX11_uneven_3 13 rfl rfl)
theorem dX11_uneven_84 : decode cX11_uneven 84 = .ok (.i2l, 1) := dk_133 (dk_at dksX11_uneven_3 15 rfl rfl)
theorem dX11_uneven_85 : decode cX11_uneven 85 = .ok (.invokevirtual 258, 3) := dk_182 1 2 (dk_at dksX11_uneven_3 16 rfl rfl)
theorem dX11_uneven_88 : decode cX11_uneven 88 = .ok (.aload_n 0, 1) := dk_42 (dk_at dksX11_uneven_3 19 rfl rfl)
theorem dX11_uneven_89 : decode cX11_uneven 89 = .ok (.bipush 24, 2) := dk_16 24 (dk_at dksX11_uneven_3 20 rfl rfl)
theorem dX11_uneven_91 : decode cX11_uneven 91 = .ok (.iload 4, 2) := dk_21 4 (dk_at dksX11_uneven_3 22 rfl rfl)
theorem dX11_uneven_93 : decode cX11_uneven 93 = .ok (.i2l, 1) := dk_133 (dk_at dksX11_uneven_4 0 rfl rfl)
theorem dX11_uneven_94 : decode cX11_uneven 94 = .ok (.invokevirtual 261, 3) := dk_182 1 5 (dk_at dksX11_uneven_4 1 rfl rfl)
theorem dX11_uneven_97 : decode cX11_uneven 97 = .ok (.aload_n 0, 1) := dk_42 (dk_at dksX11_uneven_4 4 rfl rfl)
theorem dX11_uneven_98 : decode cX11_uneven 98 = .ok (.getfield 115, 3) := dk_180 0 115 (dk_at dksX11_uneven_4 5 rfl rfl)
theorem dX11_uneven_101 : decode cX11_uneven 101 = .ok (.iload 5, 2) := dk_21 5 (dk_at dksX11_uneven_4 8 rfl rfl)
theorem dX11_uneven_103 : decode cX11_uneven 103 = .ok (.laload, 1) := dk_47 (dk_at dksX11_uneven_4 10 rfl rfl)
theorem dX11_uneven_104 : decode cX11_uneven 104 = .ok (.aload_n 0, 1) := dk_42 (dk_at dksX11_uneven_4 11 rfl rfl)
theorem dX11_uneven_105 : decode cX11_uneven 105 = .ok (.getfield 118, 3) := dk_180 0 118 (dk_at dksX11_uneven_4 12 rfl rfl)
theorem dX11_uneven_108 : decode cX11_uneven 108 = .ok (.iload 5, 2) := dk_21 5 (dk_at dksX11_uneven_4 15 rfl rfl)
theorem dX11_uneven_110 : decode cX11_uneven 110 = .ok (.laload, 1) := dk_47 (dk_at dksX11_uneven_4 17 rfl rfl)
theorem dX11_uneven_111 : decode cX11_uneven 111 = .ok (.lsub, 1) := dk_101 (dk_at dksX11_uneven_4 18 rfl rfl)
theorem dX11_uneven_112 : decode cX11_uneven 112 = .ok (.lstore 6, 2) := dk_55 6 (dk_at dksX11_uneven_4 19 rfl rfl)
theorem dX11_uneven_114 : decode cX11_uneven 114 = .ok (.aload_n 0, 1) := dk_42 (dk_at dksX11_uneven_4 21 rfl rfl)
theorem dX11_uneven_115 : decode cX11_uneven 115 = .ok (.invokevirtual 403, 3) := dk_182 1 147 (dk_at dksX11_uneven_5 0 rfl rfl)
theorem dX11_uneven_118 : decode cX11_uneven 118 = .ok (.lload 6, 2) := dk_22 6 (dk_at dksX11_uneven_5 3 rfl rfl)
theorem dX11_uneven_120 : decode cX11_uneven 120 = .ok (.lreturn, 1) := dk_173 (dk_at dksX11_uneven_5 5 rfl rfl)
abbrev cX11_other : ByteArray := prog_16_method_120_code
def yX11_other : MethodName := ⟨RX11, "other", "(IIII)J"⟩
def dkwX11_other_2 : List UInt8 := [29, 182, 1, 197, 42, 21, 4, 182, 1, 200, 173]
abbrev dktX11_other_2 : List UInt8 := dkwX11_other_2 ++ []
def dkwX11_other_1 : List UInt8 := [184, 1, 96, 153, 0, 7, 4, 167, 0, 4, 3, 4, 4, 182, 1, 90, 154, 0, 5, 9, 173, 42, 27, 28]
abbrev dktX11_other_1 : List UInt8 := dkwX11_other_1 ++ dktX11_other_2
def dkwX11_other_0 : List UInt8 := [42, 3, 181, 0, 1, 42, 27, 28, 29, 184, 1, 128, 153, 0, 20, 21, 4, 133, 9, 20, 1, 121]
abbrev dktX11_other_0 : List UInt8 := dkwX11_other_0 ++ dktX11_other_1
theorem dksX11_other_0 : cX11_other.data.toList.drop 0 = dktX11_other_0 := by decide +kernel
theorem dksX11_other_1 : cX11_other.data.toList.drop 22 = dktX11_other_1 := dk_seg dksX11_other_0 22 rfl rfl
theorem dksX11_other_2 : cX11_other.data.toList.drop 46 = dktX11_other_2 := dk_seg dksX11_other_1 24 rfl rfl
theorem dX11_other_0 : decode cX11_other 0 = .ok (.aload_n 0, 1) := dk_42 (dk_at dksX11_other_0 0 rfl rfl)
theorem dX11_other_1 : decode cX11_other 1 = .ok (.iconst 0, 1) := dk_3 (dk_at dksX11_other_0 1 rfl rfl)
theorem dX11_other_2 : decode cX11_other 2 = .ok (.putfield 1, 3) := dk_181 0 1 (dk_at dksX11_other_0 2 rfl rfl)
theorem dX11_other_5 : decode cX11_other 5 = .ok (.aload_n 0, 1) := dk_42 (dk_at dksX11_other_0 5 rfl rfl)
theorem dX11_other_6 : decode cX11_other 6 = .ok (.iload_n 1, 1) := dk_27 (dk_at dksX11_other_0 6 rfl rfl)
theorem dX11_other_7 : decode cX11_other 7 = .ok (.iload_n 2, 1) := dk_28 (dk_at dksX11_other_0 7 rfl rfl)
theorem dX11_other_8 : decode cX11_other 8 = .ok (.iload_n 3, 1) := dk_29 (dk_at dksX11_other_0 8 rfl rfl)
theorem dX11_other_9 : decode cX11_other 9 = .ok (.invokestatic 384, 3) := dk_184 1 128 (dk_at dksX11_other_0 9 rfl rfl)
theorem dX11_other_12 : decode cX11_other 12 = .ok (.ifCond .eq 20, 3) := dk_153 0 20 (dk_at dksX11_other_0 12 rfl rfl)
theorem dX11_other_15 : decode cX11_other 15 = .ok (.iload 4, 2) := dk_21 4 (dk_at dksX11_other_0 15 rfl rfl)
theorem dX11_other_17 : decode cX11_other 17 = .ok (.i2l, 1) := dk_133 (dk_at dksX11_other_0 17 rfl rfl)
theorem dX11_other_18 : decode cX11_other 18 = .ok (.lconst 0, 1) := dk_9 (dk_at dksX11_other_0 18 rfl rfl)
theorem dX11_other_19 : decode cX11_other 19 = .ok (.ldc2_w 377, 3) := dk_20 1 121 (dk_at dksX11_other_0 19 rfl rfl)
theorem dX11_other_22 : decode cX11_other 22 = .ok (.invokestatic 352, 3) := dk_184 1 96 (dk_at dksX11_other_1 0 rfl rfl)
theorem dX11_other_25 : decode cX11_other 25 = .ok (.ifCond .eq 7, 3) := dk_153 0 7 (dk_at dksX11_other_1 3 rfl rfl)
theorem dX11_other_28 : decode cX11_other 28 = .ok (.iconst 1, 1) := dk_4 (dk_at dksX11_other_1 6 rfl rfl)
theorem dX11_other_29 : decode cX11_other 29 = .ok (.goto 4, 3) := dk_167 0 4 (dk_at dksX11_other_1 7 rfl rfl)
theorem dX11_other_32 : decode cX11_other 32 = .ok (.iconst 0, 1) := dk_3 (dk_at dksX11_other_1 10 rfl rfl)
theorem dX11_other_33 : decode cX11_other 33 = .ok (.iconst 1, 1) := dk_4 (dk_at dksX11_other_1 11 rfl rfl)
theorem dX11_other_34 : decode cX11_other 34 = .ok (.iconst 1, 1) := dk_4 (dk_at dksX11_other_1 12 rfl rfl)
theorem dX11_other_35 : decode cX11_other 35 = .ok (.invokevirtual 346, 3) := dk_182 1 90 (dk_at dksX11_other_1 13 rfl rfl)
theorem dX11_other_38 : decode cX11_other 38 = .ok (.ifCond .ne 5, 3) := dk_154 0 5 (dk_at dksX11_other_1 16 rfl rfl)
theorem dX11_other_41 : decode cX11_other 41 = .ok (.lconst 0, 1) := dk_9 (dk_at dksX11_other_1 19 rfl rfl)
theorem dX11_other_42 : decode cX11_other 42 = .ok (.lreturn, 1) := dk_173 (dk_at dksX11_other_1 20 rfl rfl)
theorem dX11_other_43 : decode cX11_other 43 = .ok (.aload_n 0, 1) := dk_42 (dk_at dksX11_other_1 21 rfl rfl)
theorem dX11_other_44 : decode cX11_other 44 = .ok (.iload_n 1, 1) := dk_27 (dk_at dksX11_other_1 22 rfl rfl)
theorem dX11_other_45 : decode cX11_other 45 = .ok (.iload_n 2, 1) := dk_28 (dk_at dksX11_other_1 23 rfl rfl)
theorem dX11_other_46 : decode cX11_other 46 = .ok (.iload_n 3, 1) := dk_29 (dk_at dksX11_other_2 0 rfl rfl)
theorem dX11_other_47 : decode cX11_other 47 = .ok (.invokevirtual 453, 3) := dk_182 1 197 (dk_at dksX11_other_2 1 rfl rfl)
theorem dX11_other_50 : decode cX11_other 50 = .ok (.aload_n 0, 1) := dk_42 (dk_at dksX11_other_2 4 rfl rfl)
theorem dX11_other_51 : decode cX11_other 51 = .ok (.iload 4, 2) := dk_21 4 (dk_at dksX11_other_2 5 rfl rfl)
theorem dX11_other_53 : decode cX11_other 53 = .ok (.invokevirtual 456, 3) := dk_182 1 200 (dk_at dksX11_other_2 7 rfl rfl)
theorem dX11_other_56 : decode cX11_other 56 = .ok (.lreturn, 1) := dk_173 (dk_at dksX11_other_2 10 rfl rfl)
abbrev cX11_goesBy : ByteArray := prog_16_method_63_code
def yX11_goesBy : MethodName := ⟨RX11, "goesBy", "(III)V"⟩
def dkwX11_goesBy_1 : List UInt8 := [180, 0, 17, 162, 0, 15, 42, 21, 4, 182, 1, 87, 132, 4, 1, 167, 255, 238, 42, 3, 181, 1, 50, 177]
abbrev dktX11_goesBy_1 : List UInt8 := dkwX11_goesBy_1 ++ []
def dkwX11_goesBy_0 : List UInt8 := [42, 182, 1, 84, 42, 27, 28, 29, 182, 1, 54, 42, 4, 181, 1, 50, 3, 54, 4, 21, 4, 42]
abbrev dktX11_goesBy_0 : List UInt8 := dkwX11_goesBy_0 ++ dktX11_goesBy_1
theorem dksX11_goesBy_0 : cX11_goesBy.data.toList.drop 0 = dktX11_goesBy_0 := by decide +kernel
theorem dksX11_goesBy_1 : cX11_goesBy.data.toList.drop 22 = dktX11_goesBy_1 := dk_seg dksX11_goesBy_0 22 rfl rfl
theorem dX11_goesBy_0 : decode cX11_goesBy 0 = .ok (.aload_n 0, 1) := dk_42 (dk_at dksX11_goesBy_0 0 rfl rfl)
theorem dX11_goesBy_1 : decode cX11_goesBy 1 = .ok (.invokevirtual 340, 3) := dk_182 1 84 (dk_at dksX11_goesBy_0 1 rfl rfl)
theorem dX11_goesBy_4 : decode cX11_goesBy 4 = .ok (.aload_n 0, 1) := dk_42 (dk_at dksX11_goesBy_0 4 rfl rfl)
theorem dX11_goesBy_5 : decode cX11_goesBy 5 = .ok (.iload_n 1, 1) := dk_27 (dk_at dksX11_goesBy_0 5 rfl rfl)
theorem dX11_goesBy_6 : decode cX11_goesBy 6 = .ok (.iload_n 2, 1) := dk_28 (dk_at dksX11_goesBy_0 6 rfl rfl)
theorem dX11_goesBy_7 : decode cX11_goesBy 7 = .ok (.iload_n 3, 1) := dk_29 (dk_at dksX11_goesBy_0 7 rfl rfl)
theorem dX11_goesBy_8 : decode cX11_goesBy 8 = .ok (.invokevirtual 310, 3) := dk_182 1 54 (dk_at dksX11_goesBy_0 8 rfl rfl)
theorem dX11_goesBy_11 : decode cX11_goesBy 11 = .ok (.aload_n 0, 1) := dk_42 (dk_at dksX11_goesBy_0 11 rfl rfl)
theorem dX11_goesBy_12 : decode cX11_goesBy 12 = .ok (.iconst 1, 1) := dk_4 (dk_at dksX11_goesBy_0 12 rfl rfl)
theorem dX11_goesBy_13 : decode cX11_goesBy 13 = .ok (.putfield 306, 3) := dk_181 1 50 (dk_at dksX11_goesBy_0 13 rfl rfl)
theorem dX11_goesBy_16 : decode cX11_goesBy 16 = .ok (.iconst 0, 1) := dk_3 (dk_at dksX11_goesBy_0 16 rfl rfl)
theorem dX11_goesBy_17 : decode cX11_goesBy 17 = .ok (.istore 4, 2) := dk_54 4 (dk_at dksX11_goesBy_0 17 rfl rfl)
theorem dX11_goesBy_19 : decode cX11_goesBy 19 = .ok (.iload 4, 2) := dk_21 4 (dk_at dksX11_goesBy_0 19 rfl rfl)
theorem dX11_goesBy_21 : decode cX11_goesBy 21 = .ok (.aload_n 0, 1) := dk_42 (dk_at dksX11_goesBy_0 21 rfl rfl)
theorem dX11_goesBy_22 : decode cX11_goesBy 22 = .ok (.getfield 17, 3) := dk_180 0 17 (dk_at dksX11_goesBy_1 0 rfl rfl)
theorem dX11_goesBy_25 : decode cX11_goesBy 25 = .ok (.if_icmp .ge 15, 3) := dk_162 0 15 (dk_at dksX11_goesBy_1 3 rfl rfl)
theorem dX11_goesBy_28 : decode cX11_goesBy 28 = .ok (.aload_n 0, 1) := dk_42 (dk_at dksX11_goesBy_1 6 rfl rfl)
theorem dX11_goesBy_29 : decode cX11_goesBy 29 = .ok (.iload 4, 2) := dk_21 4 (dk_at dksX11_goesBy_1 7 rfl rfl)
theorem dX11_goesBy_31 : decode cX11_goesBy 31 = .ok (.invokevirtual 343, 3) := dk_182 1 87 (dk_at dksX11_goesBy_1 9 rfl rfl)
theorem dX11_goesBy_34 : decode cX11_goesBy 34 = .ok (.iinc 4 1, 3) := dk_132 4 1 (dk_at dksX11_goesBy_1 12 rfl rfl)
theorem dX11_goesBy_37 : decode cX11_goesBy 37 = .ok (.goto (-18), 3) := dk_167 255 238 (dk_at dksX11_goesBy_1 15 rfl rfl)
theorem dX11_goesBy_40 : decode cX11_goesBy 40 = .ok (.aload_n 0, 1) := dk_42 (dk_at dksX11_goesBy_1 18 rfl rfl)
theorem dX11_goesBy_41 : decode cX11_goesBy 41 = .ok (.iconst 0, 1) := dk_3 (dk_at dksX11_goesBy_1 19 rfl rfl)
theorem dX11_goesBy_42 : decode cX11_goesBy 42 = .ok (.putfield 306, 3) := dk_181 1 50 (dk_at dksX11_goesBy_1 20 rfl rfl)
theorem dX11_goesBy_45 : decode cX11_goesBy 45 = .ok (.return_, 1) := dk_177 (dk_at dksX11_goesBy_1 23 rfl rfl)
abbrev cX11_behind : ByteArray := prog_16_method_118_code
def yX11_behind : MethodName := ⟨RX11, "behind", "(I)J"⟩
def dkwX11_behind_0 : List UInt8 := [42, 27, 182, 1, 181, 65, 42, 182, 1, 147, 32, 173]
abbrev dktX11_behind_0 : List UInt8 := dkwX11_behind_0 ++ []
theorem dksX11_behind_0 : cX11_behind.data.toList.drop 0 = dktX11_behind_0 := by decide +kernel
theorem dX11_behind_0 : decode cX11_behind 0 = .ok (.aload_n 0, 1) := dk_42 (dk_at dksX11_behind_0 0 rfl rfl)
theorem dX11_behind_1 : decode cX11_behind 1 = .ok (.iload_n 1, 1) := dk_27 (dk_at dksX11_behind_0 1 rfl rfl)
theorem dX11_behind_2 : decode cX11_behind 2 = .ok (.invokevirtual 437, 3) := dk_182 1 181 (dk_at dksX11_behind_0 2 rfl rfl)
theorem dX11_behind_5 : decode cX11_behind 5 = .ok (.lstore_n 2, 1) := dk_65 (dk_at dksX11_behind_0 5 rfl rfl)
theorem dX11_behind_6 : decode cX11_behind 6 = .ok (.aload_n 0, 1) := dk_42 (dk_at dksX11_behind_0 6 rfl rfl)
theorem dX11_behind_7 : decode cX11_behind 7 = .ok (.invokevirtual 403, 3) := dk_182 1 147 (dk_at dksX11_behind_0 7 rfl rfl)
theorem dX11_behind_10 : decode cX11_behind 10 = .ok (.lload_n 2, 1) := dk_32 (dk_at dksX11_behind_0 10 rfl rfl)
theorem dX11_behind_11 : decode cX11_behind 11 = .ok (.lreturn, 1) := dk_173 (dk_at dksX11_behind_0 11 rfl rfl)
abbrev cX11_best : ByteArray := prog_16_method_121_code
def yX11_best : MethodName := ⟨RX11, "best", "(II)J"⟩
def dkwX11_best_6 : List UInt8 := [167, 0, 17, 28, 5, 160, 0, 10, 29, 7, 112, 133, 167, 0, 5, 22, 4, 173]
abbrev dktX11_best_6 : List UInt8 := dkwX11_best_6 ++ []
def dkwX11_best_5 : List UInt8 := [154, 0, 11, 29, 16, 16, 108, 133, 167, 0, 31, 28, 4, 160, 0, 12, 29, 7, 108, 7, 112, 133]
abbrev dktX11_best_5 : List UInt8 := dkwX11_best_5 ++ dktX11_best_6
def dkwX11_best_4 : List UInt8 := [167, 0, 13, 21, 6, 62, 42, 27, 182, 1, 181, 55, 4, 132, 6, 1, 167, 255, 198, 42, 182, 1, 147, 28]
abbrev dktX11_best_4 : List UInt8 := dkwX11_best_4 ++ dktX11_best_5
def dkwX11_best_3 : List UInt8 := [21, 6, 7, 112, 182, 1, 197, 29, 2, 159, 0, 17, 42, 27, 182, 1, 181, 22, 4, 148, 155, 0, 6]
abbrev dktX11_best_3 : List UInt8 := dkwX11_best_3 ++ dktX11_best_4
def dkwX11_best_2 : List UInt8 := [55, 4, 3, 54, 6, 21, 6, 16, 64, 162, 0, 57, 42, 21, 6, 16, 16, 108, 21, 6, 7, 108, 7, 112]
abbrev dktX11_best_2 : List UInt8 := dkwX11_best_2 ++ dktX11_best_3
def dkwX11_best_1 : List UInt8 := [184, 1, 96, 153, 0, 7, 4, 167, 0, 4, 3, 4, 4, 182, 1, 90, 154, 0, 5, 9, 173, 2, 62, 9]
abbrev dktX11_best_1 : List UInt8 := dkwX11_best_1 ++ dktX11_best_2
def dkwX11_best_0 : List UInt8 := [42, 3, 181, 0, 1, 42, 27, 133, 9, 20, 1, 121, 184, 1, 96, 153, 0, 19, 28, 133, 9, 20, 1, 126]
abbrev dktX11_best_0 : List UInt8 := dkwX11_best_0 ++ dktX11_best_1
theorem dksX11_best_0 : cX11_best.data.toList.drop 0 = dktX11_best_0 := by decide +kernel
theorem dksX11_best_1 : cX11_best.data.toList.drop 24 = dktX11_best_1 := dk_seg dksX11_best_0 24 rfl rfl
theorem dksX11_best_2 : cX11_best.data.toList.drop 48 = dktX11_best_2 := dk_seg dksX11_best_1 24 rfl rfl
theorem dksX11_best_3 : cX11_best.data.toList.drop 72 = dktX11_best_3 := dk_seg dksX11_best_2 24 rfl rfl
theorem dksX11_best_4 : cX11_best.data.toList.drop 95 = dktX11_best_4 := dk_seg dksX11_best_3 23 rfl rfl
theorem dksX11_best_5 : cX11_best.data.toList.drop 119 = dktX11_best_5 := dk_seg dksX11_best_4 24 rfl rfl
theorem dksX11_best_6 : cX11_best.data.toList.drop 141 = dktX11_best_6 := dk_seg dksX11_best_5 22 rfl rfl
theorem dX11_best_0 : decode cX11_best 0 = .ok (.aload_n 0, 1) := dk_42 (dk_at dksX11_best_0 0 rfl rfl)
theorem dX11_best_1 : decode cX11_best 1 = .ok (.iconst 0, 1) := dk_3 (dk_at dksX11_best_0 1 rfl rfl)
theorem dX11_best_2 : decode cX11_best 2 = .ok (.putfield 1, 3) := dk_181 0 1 (dk_at dksX11_best_0 2 rfl rfl)
theorem dX11_best_5 : decode cX11_best 5 = .ok (.aload_n 0, 1) := dk_42 (dk_at dksX11_best_0 5 rfl rfl)
theorem dX11_best_6 : decode cX11_best 6 = .ok (.iload_n 1, 1) := dk_27 (dk_at dksX11_best_0 6 rfl rfl)
theorem dX11_best_7 : decode cX11_best 7 = .ok (.i2l, 1) := dk_133 (dk_at dksX11_best_0 7 rfl rfl)
theorem dX11_best_8 : decode cX11_best 8 = .ok (.lconst 0, 1) := dk_9 (dk_at dksX11_best_0 8 rfl rfl)
theorem dX11_best_9 : decode cX11_best 9 = .ok (.ldc2_w 377, 3) := dk_20 1 121 (dk_at dksX11_best_0 9 rfl rfl)
theorem dX11_best_12 : decode cX11_best 12 = .ok (.invokestatic 352, 3) := dk_184 1 96 (dk_at dksX11_best_0 12 rfl rfl)
theorem dX11_best_15 : decode cX11_best 15 = .ok (.ifCond .eq 19, 3) := dk_153 0 19 (dk_at dksX11_best_0 15 rfl rfl)
theorem dX11_best_18 : decode cX11_best 18 = .ok (.iload_n 2, 1) := dk_28 (dk_at dksX11_best_0 18 rfl rfl)
theorem dX11_best_19 : decode cX11_best 19 = .ok (.i2l, 1) := dk_133 (dk_at dksX11_best_0 19 rfl rfl)
theorem dX11_best_20 : decode cX11_best 20 = .ok (.lconst 0, 1) := dk_9 (dk_at dksX11_best_0 20 rfl rfl)
theorem dX11_best_21 : decode cX11_best 21 = .ok (.ldc2_w 382, 3) := dk_20 1 126 (dk_at dksX11_best_0 21 rfl rfl)
theorem dX11_best_24 : decode cX11_best 24 = .ok (.invokestatic 352, 3) := dk_184 1 96 (dk_at dksX11_best_1 0 rfl rfl)
theorem dX11_best_27 : decode cX11_best 27 = .ok (.ifCond .eq 7, 3) := dk_153 0 7 (dk_at dksX11_best_1 3 rfl rfl)
theorem dX11_best_30 : decode cX11_best 30 = .ok (.iconst 1, 1) := dk_4 (dk_at dksX11_best_1 6 rfl rfl)
theorem dX11_best_31 : decode cX11_best 31 = .ok (.goto 4, 3) := dk_167 0 4 (dk_at dksX11_best_1 7 rfl rfl)
theorem dX11_best_34 : decode cX11_best 34 = .ok (.iconst 0, 1) := dk_3 (dk_at dksX11_best_1 10 rfl rfl)
theorem dX11_best_35 : decode cX11_best 35 = .ok (.iconst 1, 1) := dk_4 (dk_at dksX11_best_1 11 rfl rfl)
theorem dX11_best_36 : decode cX11_best 36 = .ok (.iconst 1, 1) := dk_4 (dk_at dksX11_best_1 12 rfl rfl)
theorem dX11_best_37 : decode cX11_best 37 = .ok (.invokevirtual 346, 3) := dk_182 1 90 (dk_at dksX11_best_1 13 rfl rfl)
theorem dX11_best_40 : decode cX11_best 40 = .ok (.ifCond .ne 5, 3) := dk_154 0 5 (dk_at dksX11_best_1 16 rfl rfl)
theorem dX11_best_43 : decode cX11_best 43 = .ok (.lconst 0, 1) := dk_9 (dk_at dksX11_best_1 19 rfl rfl)
theorem dX11_best_44 : decode cX11_best 44 = .ok (.lreturn, 1) := dk_173 (dk_at dksX11_best_1 20 rfl rfl)
theorem dX11_best_45 : decode cX11_best 45 = .ok (.iconst (-1), 1) := dk_2 (dk_at dksX11_best_1 21 rfl rfl)
theorem dX11_best_46 : decode cX11_best 46 = .ok (.istore_n 3, 1) := dk_62 (dk_at dksX11_best_1 22 rfl rfl)
theorem dX11_best_47 : decode cX11_best 47 = .ok (.lconst 0, 1) := dk_9 (dk_at dksX11_best_1 23 rfl rfl)
theorem dX11_best_48 : decode cX11_best 48 = .ok (.lstore 4, 2) := dk_55 4 (dk_at dksX11_best_2 0 rfl rfl)
theorem dX11_best_50 : decode cX11_best 50 = .ok (.iconst 0, 1) := dk_3 (dk_at dksX11_best_2 2 rfl rfl)
theorem dX11_best_51 : decode cX11_best 51 = .ok (.istore 6, 2) := dk_54 6 (dk_at dksX11_best_2 3 rfl rfl)
theorem dX11_best_53 : decode cX11_best 53 = .ok (.iload 6, 2) := dk_21 6 (dk_at dksX11_best_2 5 rfl rfl)
theorem dX11_best_55 : decode cX11_best 55 = .ok (.bipush 64, 2) := dk_16 64 (dk_at dksX11_best_2 7 rfl rfl)
theorem dX11_best_57 : decode cX11_best 57 = .ok (.if_icmp .ge 57, 3) := dk_162 0 57 (dk_at dksX11_best_2 9 rfl rfl)
theorem dX11_best_60 : decode cX11_best 60 = .ok (.aload_n 0, 1) := dk_42 (dk_at dksX11_best_2 12 rfl rfl)
theorem dX11_best_61 : decode cX11_best 61 = .ok (.iload 6, 2) := dk_21 6 (dk_at dksX11_best_2 13 rfl rfl)
theorem dX11_best_63 : decode cX11_best 63 = .ok (.bipush 16, 2) := dk_16 16 (dk_at dksX11_best_2 15 rfl rfl)
theorem dX11_best_65 : decode cX11_best 65 = .ok (.idiv, 1) := dk_108 (dk_at dksX11_best_2 17 rfl rfl)
theorem dX11_best_66 : decode cX11_best 66 = .ok (.iload 6, 2) := dk_21 6 (dk_at dksX11_best_2 18 rfl rfl)
theorem dX11_best_68 : decode cX11_best 68 = .ok (.iconst 4, 1) := dk_7 (dk_at dksX11_best_2 20 rfl rfl)
theorem dX11_best_69 : decode cX11_best 69 = .ok (.idiv, 1) := dk_108 (dk_at dksX11_best_2 21 rfl rfl)
theorem dX11_best_70 : decode cX11_best 70 = .ok (.iconst 4, 1) := dk_7 (dk_at dksX11_best_2 22 rfl rfl)
theorem dX11_best_71 : decode cX11_best 71 = .ok (.irem, 1) := dk_112 (dk_at dksX11_best_2 23 rfl rfl)
theorem dX11_best_72 : decode cX11_best 72 = .ok (.iload 6, 2) := dk_21 6 (dk_at dksX11_best_3 0 rfl rfl)
theorem dX11_best_74 : decode cX11_best 74 = .ok (.iconst 4, 1) := dk_7 (dk_at dksX11_best_3 2 rfl rfl)
theorem dX11_best_75 : decode cX11_best 75 = .ok (.irem, 1) := dk_112 (dk_at dksX11_best_3 3 rfl rfl)
theorem dX11_best_76 : decode cX11_best 76 = .ok (.invokevirtual 453, 3) := dk_182 1 197 (dk_at dksX11_best_3 4 rfl rfl)
theorem dX11_best_79 : decode cX11_best 79 = .ok (.iload_n 3, 1) := dk_29 (dk_at dksX11_best_3 7 rfl rfl)
theorem dX11_best_80 : decode cX11_best 80 = .ok (.iconst (-1), 1) := dk_2 (dk_at dksX11_best_3 8 rfl rfl)
theorem dX11_best_81 : decode cX11_best 81 = .ok (.if_icmp .eq 17, 3) := dk_159 0 17 (dk_at dksX11_best_3 9 rfl rfl)
theorem dX11_best_84 : decode cX11_best 84 = .ok (.aload_n 0, 1) := dk_42 (dk_at dksX11_best_3 12 rfl rfl)
theorem dX11_best_85 : decode cX11_best 85 = .ok (.iload_n 1, 1) := dk_27 (dk_at dksX11_best_3 13 rfl rfl)
theorem dX11_best_86 : decode cX11_best 86 = .ok (.invokevirtual 437, 3) := dk_182 1 181 (dk_at dksX11_best_3 14 rfl rfl)
theorem dX11_best_89 : decode cX11_best 89 = .ok (.lload 4, 2) := dk_22 4 (dk_at dksX11_best_3 17 rfl rfl)
theorem dX11_best_91 : decode cX11_best 91 = .ok (.lcmp, 1) := dk_148 (dk_at dksX11_best_3 19 rfl rfl)
theorem dX11_best_92 : decode cX11_best 92 = .ok (.ifCond .lt 6, 3) := dk_155 0 6 (dk_at dksX11_best_3 20 rfl rfl)
theorem dX11_best_95 : decode cX11_best 95 = .ok (.goto 13, 3) := dk_167 0 13 (dk_at dksX11_best_4 0 rfl rfl)
theorem dX11_best_98 : decode cX11_best 98 = .ok (.iload 6, 2) := dk_21 6 (dk_at dksX11_best_4 3 rfl rfl)
theorem dX11_best_100 : decode cX11_best 100 = .ok (.istore_n 3, 1) := dk_62 (dk_at dksX11_best_4 5 rfl rfl)
theorem dX11_best_101 : decode cX11_best 101 = .ok (.aload_n 0, 1) := dk_42 (dk_at dksX11_best_4 6 rfl rfl)
theorem dX11_best_102 : decode cX11_best 102 = .ok (.iload_n 1, 1) := dk_27 (dk_at dksX11_best_4 7 rfl rfl)
theorem dX11_best_103 : decode cX11_best 103 = .ok (.invokevirtual 437, 3) := dk_182 1 181 (dk_at dksX11_best_4 8 rfl rfl)
theorem dX11_best_106 : decode cX11_best 106 = .ok (.lstore 4, 2) := dk_55 4 (dk_at dksX11_best_4 11 rfl rfl)
theorem dX11_best_108 : decode cX11_best 108 = .ok (.iinc 6 1, 3) := dk_132 6 1 (dk_at dksX11_best_4 13 rfl rfl)
theorem dX11_best_111 : decode cX11_best 111 = .ok (.goto (-58), 3) := dk_167 255 198 (dk_at dksX11_best_4 16 rfl rfl)
theorem dX11_best_114 : decode cX11_best 114 = .ok (.aload_n 0, 1) := dk_42 (dk_at dksX11_best_4 19 rfl rfl)
theorem dX11_best_115 : decode cX11_best 115 = .ok (.invokevirtual 403, 3) := dk_182 1 147 (dk_at dksX11_best_4 20 rfl rfl)
theorem dX11_best_118 : decode cX11_best 118 = .ok (.iload_n 2, 1) := dk_28 (dk_at dksX11_best_4 23 rfl rfl)
theorem dX11_best_119 : decode cX11_best 119 = .ok (.ifCond .ne 11, 3) := dk_154 0 11 (dk_at dksX11_best_5 0 rfl rfl)
theorem dX11_best_122 : decode cX11_best 122 = .ok (.iload_n 3, 1) := dk_29 (dk_at dksX11_best_5 3 rfl rfl)
theorem dX11_best_123 : decode cX11_best 123 = .ok (.bipush 16, 2) := dk_16 16 (dk_at dksX11_best_5 4 rfl rfl)
theorem dX11_best_125 : decode cX11_best 125 = .ok (.idiv, 1) := dk_108 (dk_at dksX11_best_5 6 rfl rfl)
theorem dX11_best_126 : decode cX11_best 126 = .ok (.i2l, 1) := dk_133 (dk_at dksX11_best_5 7 rfl rfl)
theorem dX11_best_127 : decode cX11_best 127 = .ok (.goto 31, 3) := dk_167 0 31 (dk_at dksX11_best_5 8 rfl rfl)
theorem dX11_best_130 : decode cX11_best 130 = .ok (.iload_n 2, 1) := dk_28 (dk_at dksX11_best_5 11 rfl rfl)
theorem dX11_best_131 : decode cX11_best 131 = .ok (.iconst 1, 1) := dk_4 (dk_at dksX11_best_5 12 rfl rfl)
theorem dX11_best_132 : decode cX11_best 132 = .ok (.if_icmp .ne 12, 3) := dk_160 0 12 (dk_at dksX11_best_5 13 rfl rfl)
theorem dX11_best_135 : decode cX11_best 135 = .ok (.iload_n 3, 1) := dk_29 (dk_at dksX11_best_5 16 rfl rfl)
theorem dX11_best_136 : decode cX11_best 136 = .ok (.iconst 4, 1) := dk_7 (dk_at dksX11_best_5 17 rfl rfl)
theorem dX11_best_137 : decode cX11_best 137 = .ok (.idiv, 1) := dk_108 (dk_at dksX11_best_5 18 rfl rfl)
theorem dX11_best_138 : decode cX11_best 138 = .ok (.iconst 4, 1) := dk_7 (dk_at dksX11_best_5 19 rfl rfl)
theorem dX11_best_139 : decode cX11_best 139 = .ok (.irem, 1) := dk_112 (dk_at dksX11_best_5 20 rfl rfl)
theorem dX11_best_140 : decode cX11_best 140 = .ok (.i2l, 1) := dk_133 (dk_at dksX11_best_5 21 rfl rfl)
theorem dX11_best_141 : decode cX11_best 141 = .ok (.goto 17, 3) := dk_167 0 17 (dk_at dksX11_best_6 0 rfl rfl)
theorem dX11_best_144 : decode cX11_best 144 = .ok (.iload_n 2, 1) := dk_28 (dk_at dksX11_best_6 3 rfl rfl)
theorem dX11_best_145 : decode cX11_best 145 = .ok (.iconst 2, 1) := dk_5 (dk_at dksX11_best_6 4 rfl rfl)
theorem dX11_best_146 : decode cX11_best 146 = .ok (.if_icmp .ne 10, 3) := dk_160 0 10 (dk_at dksX11_best_6 5 rfl rfl)
theorem dX11_best_149 : decode cX11_best 149 = .ok (.iload_n 3, 1) := dk_29 (dk_at dksX11_best_6 8 rfl rfl)
theorem dX11_best_150 : decode cX11_best 150 = .ok (.iconst 4, 1) := dk_7 (dk_at dksX11_best_6 9 rfl rfl)
theorem dX11_best_151 : decode cX11_best 151 = .ok (.irem, 1) := dk_112 (dk_at dksX11_best_6 10 rfl rfl)
theorem dX11_best_152 : decode cX11_best 152 = .ok (.i2l, 1) := dk_133 (dk_at dksX11_best_6 11 rfl rfl)
theorem dX11_best_153 : decode cX11_best 153 = .ok (.goto 5, 3) := dk_167 0 5 (dk_at dksX11_best_6 12 rfl rfl)
theorem dX11_best_156 : decode cX11_best 156 = .ok (.lload 4, 2) := dk_22 4 (dk_at dksX11_best_6 15 rfl rfl)
theorem dX11_best_158 : decode cX11_best 158 = .ok (.lreturn, 1) := dk_173 (dk_at dksX11_best_6 17 rfl rfl)
abbrev cX11_without : ByteArray := prog_16_method_122_code
def yX11_without : MethodName := ⟨RX11, "without", "(II)J"⟩
def dkwX11_without_1 : List UInt8 := [42, 27, 182, 1, 206, 42, 28, 182, 1, 200, 173]
abbrev dktX11_without_1 : List UInt8 := dkwX11_without_1 ++ []
def dkwX11_without_0 : List UInt8 := [42, 3, 181, 0, 1, 42, 27, 182, 1, 157, 153, 0, 12, 42, 28, 5, 182, 1, 203, 154, 0, 5, 9, 173]
abbrev dktX11_without_0 : List UInt8 := dkwX11_without_0 ++ dktX11_without_1
theorem dksX11_without_0 : cX11_without.data.toList.drop 0 = dktX11_without_0 := by decide +kernel
theorem dksX11_without_1 : cX11_without.data.toList.drop 24 = dktX11_without_1 := dk_seg dksX11_without_0 24 rfl rfl
theorem dX11_without_0 : decode cX11_without 0 = .ok (.aload_n 0, 1) := dk_42 (dk_at dksX11_without_0 0 rfl rfl)
theorem dX11_without_1 : decode cX11_without 1 = .ok (.iconst 0, 1) := dk_3 (dk_at dksX11_without_0 1 rfl rfl)
theorem dX11_without_2 : decode cX11_without 2 = .ok (.putfield 1, 3) := dk_181 0 1 (dk_at dksX11_without_0 2 rfl rfl)
theorem dX11_without_5 : decode cX11_without 5 = .ok (.aload_n 0, 1) := dk_42 (dk_at dksX11_without_0 5 rfl rfl)
theorem dX11_without_6 : decode cX11_without 6 = .ok (.iload_n 1, 1) := dk_27 (dk_at dksX11_without_0 6 rfl rfl)
theorem dX11_without_7 : decode cX11_without 7 = .ok (.invokevirtual 413, 3) := dk_182 1 157 (dk_at dksX11_without_0 7 rfl rfl)
theorem dX11_without_10 : decode cX11_without 10 = .ok (.ifCond .eq 12, 3) := dk_153 0 12 (dk_at dksX11_without_0 10 rfl rfl)
theorem dX11_without_13 : decode cX11_without 13 = .ok (.aload_n 0, 1) := dk_42 (dk_at dksX11_without_0 13 rfl rfl)
theorem dX11_without_14 : decode cX11_without 14 = .ok (.iload_n 2, 1) := dk_28 (dk_at dksX11_without_0 14 rfl rfl)
theorem dX11_without_15 : decode cX11_without 15 = .ok (.iconst 2, 1) := dk_5 (dk_at dksX11_without_0 15 rfl rfl)
theorem dX11_without_16 : decode cX11_without 16 = .ok (.invokevirtual 459, 3) := dk_182 1 203 (dk_at dksX11_without_0 16 rfl rfl)
theorem dX11_without_19 : decode cX11_without 19 = .ok (.ifCond .ne 5, 3) := dk_154 0 5 (dk_at dksX11_without_0 19 rfl rfl)
theorem dX11_without_22 : decode cX11_without 22 = .ok (.lconst 0, 1) := dk_9 (dk_at dksX11_without_0 22 rfl rfl)
theorem dX11_without_23 : decode cX11_without 23 = .ok (.lreturn, 1) := dk_173 (dk_at dksX11_without_0 23 rfl rfl)
theorem dX11_without_24 : decode cX11_without 24 = .ok (.aload_n 0, 1) := dk_42 (dk_at dksX11_without_1 0 rfl rfl)
theorem dX11_without_25 : decode cX11_without 25 = .ok (.iload_n 1, 1) := dk_27 (dk_at dksX11_without_1 1 rfl rfl)
theorem dX11_without_26 : decode cX11_without 26 = .ok (.invokevirtual 462, 3) := dk_182 1 206 (dk_at dksX11_without_1 2 rfl rfl)
theorem dX11_without_29 : decode cX11_without 29 = .ok (.aload_n 0, 1) := dk_42 (dk_at dksX11_without_1 5 rfl rfl)
theorem dX11_without_30 : decode cX11_without 30 = .ok (.iload_n 2, 1) := dk_28 (dk_at dksX11_without_1 6 rfl rfl)
theorem dX11_without_31 : decode cX11_without 31 = .ok (.invokevirtual 456, 3) := dk_182 1 200 (dk_at dksX11_without_1 7 rfl rfl)
theorem dX11_without_34 : decode cX11_without 34 = .ok (.lreturn, 1) := dk_173 (dk_at dksX11_without_1 10 rfl rfl)
abbrev cX11_isPerson : ByteArray := prog_16_method_119_code
def yX11_isPerson : MethodName := ⟨RX11, "isPerson", "(II)Z"⟩
def dkwX11_isPerson_0 : List UInt8 := [42, 27, 133, 9, 20, 1, 121, 184, 1, 96, 28, 4, 182, 1, 90, 172]
abbrev dktX11_isPerson_0 : List UInt8 := dkwX11_isPerson_0 ++ []
theorem dksX11_isPerson_0 : cX11_isPerson.data.toList.drop 0 = dktX11_isPerson_0 := by decide +kernel
theorem dX11_isPerson_0 : decode cX11_isPerson 0 = .ok (.aload_n 0, 1) := dk_42 (dk_at dksX11_isPerson_0 0 rfl rfl)
theorem dX11_isPerson_1 : decode cX11_isPerson 1 = .ok (.iload_n 1, 1) := dk_27 (dk_at dksX11_isPerson_0 1 rfl rfl)
theorem dX11_isPerson_2 : decode cX11_isPerson 2 = .ok (.i2l, 1) := dk_133 (dk_at dksX11_isPerson_0 2 rfl rfl)
theorem dX11_isPerson_3 : decode cX11_isPerson 3 = .ok (.lconst 0, 1) := dk_9 (dk_at dksX11_isPerson_0 3 rfl rfl)
theorem dX11_isPerson_4 : decode cX11_isPerson 4 = .ok (.ldc2_w 377, 3) := dk_20 1 121 (dk_at dksX11_isPerson_0 4 rfl rfl)
theorem dX11_isPerson_7 : decode cX11_isPerson 7 = .ok (.invokestatic 352, 3) := dk_184 1 96 (dk_at dksX11_isPerson_0 7 rfl rfl)
theorem dX11_isPerson_10 : decode cX11_isPerson 10 = .ok (.iload_n 2, 1) := dk_28 (dk_at dksX11_isPerson_0 10 rfl rfl)
theorem dX11_isPerson_11 : decode cX11_isPerson 11 = .ok (.iconst 1, 1) := dk_4 (dk_at dksX11_isPerson_0 11 rfl rfl)
theorem dX11_isPerson_12 : decode cX11_isPerson 12 = .ok (.invokevirtual 346, 3) := dk_182 1 90 (dk_at dksX11_isPerson_0 12 rfl rfl)
theorem dX11_isPerson_15 : decode cX11_isPerson 15 = .ok (.ireturn, 1) := dk_172 (dk_at dksX11_isPerson_0 15 rfl rfl)
abbrev cX11_goesWithout : ByteArray := prog_16_method_62_code
def yX11_goesWithout : MethodName := ⟨RX11, "goesWithout", "(I)V"⟩
def dkwX11_goesWithout_1 : List UInt8 := [132, 2, 1, 167, 255, 235, 177]
abbrev dktX11_goesWithout_1 : List UInt8 := dkwX11_goesWithout_1 ++ []
def dkwX11_goesWithout_0 : List UInt8 := [42, 182, 1, 84, 3, 61, 28, 42, 180, 0, 17, 162, 0, 19, 28, 27, 159, 0, 8, 42, 28, 182, 1, 87]
abbrev dktX11_goesWithout_0 : List UInt8 := dkwX11_goesWithout_0 ++ dktX11_goesWithout_1
theorem dksX11_goesWithout_0 : cX11_goesWithout.data.toList.drop 0 = dktX11_goesWithout_0 := by decide +kernel
theorem dksX11_goesWithout_1 : cX11_goesWithout.data.toList.drop 24 = dktX11_goesWithout_1 := dk_seg dksX11_goesWithout_0 24 rfl rfl
theorem dX11_goesWithout_0 : decode cX11_goesWithout 0 = .ok (.aload_n 0, 1) := dk_42 (dk_at dksX11_goesWithout_0 0 rfl rfl)
theorem dX11_goesWithout_1 : decode cX11_goesWithout 1 = .ok (.invokevirtual 340, 3) := dk_182 1 84 (dk_at dksX11_goesWithout_0 1 rfl rfl)
theorem dX11_goesWithout_4 : decode cX11_goesWithout 4 = .ok (.iconst 0, 1) := dk_3 (dk_at dksX11_goesWithout_0 4 rfl rfl)
theorem dX11_goesWithout_5 : decode cX11_goesWithout 5 = .ok (.istore_n 2, 1) := dk_61 (dk_at dksX11_goesWithout_0 5 rfl rfl)
theorem dX11_goesWithout_6 : decode cX11_goesWithout 6 = .ok (.iload_n 2, 1) := dk_28 (dk_at dksX11_goesWithout_0 6 rfl rfl)
theorem dX11_goesWithout_7 : decode cX11_goesWithout 7 = .ok (.aload_n 0, 1) := dk_42 (dk_at dksX11_goesWithout_0 7 rfl rfl)
theorem dX11_goesWithout_8 : decode cX11_goesWithout 8 = .ok (.getfield 17, 3) := dk_180 0 17 (dk_at dksX11_goesWithout_0 8 rfl rfl)
theorem dX11_goesWithout_11 : decode cX11_goesWithout 11 = .ok (.if_icmp .ge 19, 3) := dk_162 0 19 (dk_at dksX11_goesWithout_0 11 rfl rfl)
theorem dX11_goesWithout_14 : decode cX11_goesWithout 14 = .ok (.iload_n 2, 1) := dk_28 (dk_at dksX11_goesWithout_0 14 rfl rfl)
theorem dX11_goesWithout_15 : decode cX11_goesWithout 15 = .ok (.iload_n 1, 1) := dk_27 (dk_at dksX11_goesWithout_0 15 rfl rfl)
theorem dX11_goesWithout_16 : decode cX11_goesWithout 16 = .ok (.if_icmp .eq 8, 3) := dk_159 0 8 (dk_at dksX11_goesWithout_0 16 rfl rfl)
theorem dX11_goesWithout_19 : decode cX11_goesWithout 19 = .ok (.aload_n 0, 1) := dk_42 (dk_at dksX11_goesWithout_0 19 rfl rfl)
theorem dX11_goesWithout_20 : decode cX11_goesWithout 20 = .ok (.iload_n 2, 1) := dk_28 (dk_at dksX11_goesWithout_0 20 rfl rfl)
theorem dX11_goesWithout_21 : decode cX11_goesWithout 21 = .ok (.invokevirtual 343, 3) := dk_182 1 87 (dk_at dksX11_goesWithout_0 21 rfl rfl)
theorem dX11_goesWithout_24 : decode cX11_goesWithout 24 = .ok (.iinc 2 1, 3) := dk_132 2 1 (dk_at dksX11_goesWithout_1 0 rfl rfl)
theorem dX11_goesWithout_27 : decode cX11_goesWithout 27 = .ok (.goto (-21), 3) := dk_167 255 235 (dk_at dksX11_goesWithout_1 3 rfl rfl)
theorem dX11_goesWithout_30 : decode cX11_goesWithout 30 = .ok (.return_, 1) := dk_177 (dk_at dksX11_goesWithout_1 6 rfl rfl)
abbrev cX11_undone : ByteArray := prog_16_method_123_code
def yX11_undone : MethodName := ⟨RX11, "undone", "(I)I"⟩
def dkwX11_undone_1 : List UInt8 := [61, 42, 182, 1, 147, 28, 172]
abbrev dktX11_undone_1 : List UInt8 := dkwX11_undone_1 ++ []
def dkwX11_undone_0 : List UInt8 := [42, 3, 181, 0, 1, 42, 27, 182, 1, 157, 154, 0, 5, 3, 172, 42, 27, 182, 1, 206, 42, 180, 1, 78]
abbrev dktX11_undone_0 : List UInt8 := dkwX11_undone_0 ++ dktX11_undone_1
theorem dksX11_undone_0 : cX11_undone.data.toList.drop 0 = dktX11_undone_0 := by decide +kernel
theorem dksX11_undone_1 : cX11_undone.data.toList.drop 24 = dktX11_undone_1 := dk_seg dksX11_undone_0 24 rfl rfl
theorem dX11_undone_0 : decode cX11_undone 0 = .ok (.aload_n 0, 1) := dk_42 (dk_at dksX11_undone_0 0 rfl rfl)
theorem dX11_undone_1 : decode cX11_undone 1 = .ok (.iconst 0, 1) := dk_3 (dk_at dksX11_undone_0 1 rfl rfl)
theorem dX11_undone_2 : decode cX11_undone 2 = .ok (.putfield 1, 3) := dk_181 0 1 (dk_at dksX11_undone_0 2 rfl rfl)
theorem dX11_undone_5 : decode cX11_undone 5 = .ok (.aload_n 0, 1) := dk_42 (dk_at dksX11_undone_0 5 rfl rfl)
theorem dX11_undone_6 : decode cX11_undone 6 = .ok (.iload_n 1, 1) := dk_27 (dk_at dksX11_undone_0 6 rfl rfl)
theorem dX11_undone_7 : decode cX11_undone 7 = .ok (.invokevirtual 413, 3) := dk_182 1 157 (dk_at dksX11_undone_0 7 rfl rfl)
theorem dX11_undone_10 : decode cX11_undone 10 = .ok (.ifCond .ne 5, 3) := dk_154 0 5 (dk_at dksX11_undone_0 10 rfl rfl)
theorem dX11_undone_13 : decode cX11_undone 13 = .ok (.iconst 0, 1) := dk_3 (dk_at dksX11_undone_0 13 rfl rfl)
theorem dX11_undone_14 : decode cX11_undone 14 = .ok (.ireturn, 1) := dk_172 (dk_at dksX11_undone_0 14 rfl rfl)
theorem dX11_undone_15 : decode cX11_undone 15 = .ok (.aload_n 0, 1) := dk_42 (dk_at dksX11_undone_0 15 rfl rfl)
theorem dX11_undone_16 : decode cX11_undone 16 = .ok (.iload_n 1, 1) := dk_27 (dk_at dksX11_undone_0 16 rfl rfl)
theorem dX11_undone_17 : decode cX11_undone 17 = .ok (.invokevirtual 462, 3) := dk_182 1 206 (dk_at dksX11_undone_0 17 rfl rfl)
theorem dX11_undone_20 : decode cX11_undone 20 = .ok (.aload_n 0, 1) := dk_42 (dk_at dksX11_undone_0 20 rfl rfl)
theorem dX11_undone_21 : decode cX11_undone 21 = .ok (.getfield 334, 3) := dk_180 1 78 (dk_at dksX11_undone_0 21 rfl rfl)
theorem dX11_undone_24 : decode cX11_undone 24 = .ok (.istore_n 2, 1) := dk_61 (dk_at dksX11_undone_1 0 rfl rfl)
theorem dX11_undone_25 : decode cX11_undone 25 = .ok (.aload_n 0, 1) := dk_42 (dk_at dksX11_undone_1 1 rfl rfl)
theorem dX11_undone_26 : decode cX11_undone 26 = .ok (.invokevirtual 403, 3) := dk_182 1 147 (dk_at dksX11_undone_1 2 rfl rfl)
theorem dX11_undone_29 : decode cX11_undone 29 = .ok (.iload_n 2, 1) := dk_28 (dk_at dksX11_undone_1 5 rfl rfl)
theorem dX11_undone_30 : decode cX11_undone 30 = .ok (.ireturn, 1) := dk_172 (dk_at dksX11_undone_1 6 rfl rfl)
abbrev cX11_shift : ByteArray := prog_16_method_124_code
def yX11_shift : MethodName := ⟨RX11, "shift", "(III)J"⟩
def dkwX11_shift_4 : List UInt8 := [21, 4, 27, 159, 0, 9, 42, 21, 4, 182, 1, 87, 132, 4, 1, 167, 255, 212, 42, 29, 182, 1, 200, 173]
abbrev dktX11_shift_4 : List UInt8 := dkwX11_shift_4 ++ []
def dkwX11_shift_3 : List UInt8 := [163, 0, 41, 21, 4, 28, 160, 0, 8, 42, 27, 182, 1, 87, 21, 4, 42, 180, 0, 17, 162, 0, 15]
abbrev dktX11_shift_3 : List UInt8 := dkwX11_shift_3 ++ dktX11_shift_4
def dkwX11_shift_2 : List UInt8 := [4, 182, 1, 90, 154, 0, 5, 9, 173, 42, 182, 1, 84, 3, 54, 4, 21, 4, 42, 180, 0, 17]
abbrev dktX11_shift_2 : List UInt8 := dkwX11_shift_2 ++ dktX11_shift_3
def dkwX11_shift_1 : List UInt8 := [184, 1, 96, 153, 0, 19, 29, 133, 9, 20, 1, 121, 184, 1, 96, 153, 0, 7, 4, 167, 0, 4, 3, 5]
abbrev dktX11_shift_1 : List UInt8 := dkwX11_shift_1 ++ dktX11_shift_2
def dkwX11_shift_0 : List UInt8 := [42, 3, 181, 0, 1, 42, 27, 182, 1, 157, 153, 0, 43, 42, 28, 133, 9, 42, 180, 0, 17, 133]
abbrev dktX11_shift_0 : List UInt8 := dkwX11_shift_0 ++ dktX11_shift_1
theorem dksX11_shift_0 : cX11_shift.data.toList.drop 0 = dktX11_shift_0 := by decide +kernel
theorem dksX11_shift_1 : cX11_shift.data.toList.drop 22 = dktX11_shift_1 := dk_seg dksX11_shift_0 22 rfl rfl
theorem dksX11_shift_2 : cX11_shift.data.toList.drop 46 = dktX11_shift_2 := dk_seg dksX11_shift_1 24 rfl rfl
theorem dksX11_shift_3 : cX11_shift.data.toList.drop 68 = dktX11_shift_3 := dk_seg dksX11_shift_2 22 rfl rfl
theorem dksX11_shift_4 : cX11_shift.data.toList.drop 91 = dktX11_shift_4 := dk_seg dksX11_shift_3 23 rfl rfl
theorem dX11_shift_0 : decode cX11_shift 0 = .ok (.aload_n 0, 1) := dk_42 (dk_at dksX11_shift_0 0 rfl rfl)
theorem dX11_shift_1 : decode cX11_shift 1 = .ok (.iconst 0, 1) := dk_3 (dk_at dksX11_shift_0 1 rfl rfl)
theorem dX11_shift_2 : decode cX11_shift 2 = .ok (.putfield 1, 3) := dk_181 0 1 (dk_at dksX11_shift_0 2 rfl rfl)
theorem dX11_shift_5 : decode cX11_shift 5 = .ok (.aload_n 0, 1) := dk_42 (dk_at dksX11_shift_0 5 rfl rfl)
theorem dX11_shift_6 : decode cX11_shift 6 = .ok (.iload_n 1, 1) := dk_27 (dk_at dksX11_shift_0 6 rfl rfl)
theorem dX11_shift_7 : decode cX11_shift 7 = .ok (.invokevirtual 413, 3) := dk_182 1 157 (dk_at dksX11_shift_0 7 rfl rfl)
theorem dX11_shift_10 : decode cX11_shift 10 = .ok (.ifCond .eq 43, 3) := dk_153 0 43 (dk_at dksX11_shift_0 10 rfl rfl)
theorem dX11_shift_13 : decode cX11_shift 13 = .ok (.aload_n 0, 1) := dk_42 (dk_at dksX11_shift_0 13 rfl rfl)
theorem dX11_shift_14 : decode cX11_shift 14 = .ok (.iload_n 2, 1) := dk_28 (dk_at dksX11_shift_0 14 rfl rfl)
theorem dX11_shift_15 : decode cX11_shift 15 = .ok (.i2l, 1) := dk_133 (dk_at dksX11_shift_0 15 rfl rfl)
theorem dX11_shift_16 : decode cX11_shift 16 = .ok (.lconst 0, 1) := dk_9 (dk_at dksX11_shift_0 16 rfl rfl)
theorem dX11_shift_17 : decode cX11_shift 17 = .ok (.aload_n 0, 1) := dk_42 (dk_at dksX11_shift_0 17 rfl rfl)
theorem dX11_shift_18 : decode cX11_shift 18 = .ok (.getfield 17, 3) := dk_180 0 17 (dk_at dksX11_shift_0 18 rfl rfl)
theorem dX11_shift_21 : decode cX11_shift 21 = .ok (.i2l, 1) := dk_133 (dk_at dksX11_shift_0 21 rfl rfl)
theorem dX11_shift_22 : decode cX11_shift 22 = .ok (.invokestatic 352, 3) := dk_184 1 96 (dk_at dksX11_shift_1 0 rfl rfl)
theorem dX11_shift_25 : decode cX11_shift 25 = .ok (.ifCond .eq 19, 3) := dk_153 0 19 (dk_at dksX11_shift_1 3 rfl rfl)
theorem dX11_shift_28 : decode cX11_shift 28 = .ok (.iload_n 3, 1) := dk_29 (dk_at dksX11_shift_1 6 rfl rfl)
theorem dX11_shift_29 : decode cX11_shift 29 = .ok (.i2l, 1) := dk_133 (dk_at dksX11_shift_1 7 rfl rfl)
theorem dX11_shift_30 : decode cX11_shift 30 = .ok (.lconst 0, 1) := dk_9 (dk_at dksX11_shift_1 8 rfl rfl)
theorem dX11_shift_31 : decode cX11_shift 31 = .ok (.ldc2_w 377, 3) := dk_20 1 121 (dk_at dksX11_shift_1 9 rfl rfl)
theorem dX11_shift_34 : decode cX11_shift 34 = .ok (.invokestatic 352, 3) := dk_184 1 96 (dk_at dksX11_shift_1 12 rfl rfl)
theorem dX11_shift_37 : decode cX11_shift 37 = .ok (.ifCond .eq 7, 3) := dk_153 0 7 (dk_at dksX11_shift_1 15 rfl rfl)
theorem dX11_shift_40 : decode cX11_shift 40 = .ok (.iconst 1, 1) := dk_4 (dk_at dksX11_shift_1 18 rfl rfl)
theorem dX11_shift_41 : decode cX11_shift 41 = .ok (.goto 4, 3) := dk_167 0 4 (dk_at dksX11_shift_1 19 rfl rfl)
theorem dX11_shift_44 : decode cX11_shift 44 = .ok (.iconst 0, 1) := dk_3 (dk_at dksX11_shift_1 22 rfl rfl)
theorem dX11_shift_45 : decode cX11_shift 45 = .ok (.iconst 2, 1) := dk_5 (dk_at dksX11_shift_1 23 rfl rfl)
theorem dX11_shift_46 : decode cX11_shift 46 = .ok (.iconst 1, 1) := dk_4 (dk_at dksX11_shift_2 0 rfl rfl)
theorem dX11_shift_47 : decode cX11_shift 47 = .ok (.invokevirtual 346, 3) := dk_182 1 90 (dk_at dksX11_shift_2 1 rfl rfl)
theorem dX11_shift_50 : decode cX11_shift 50 = .ok (.ifCond .ne 5, 3) := dk_154 0 5 (dk_at dksX11_shift_2 4 rfl rfl)
theorem dX11_shift_53 : decode cX11_shift 53 = .ok (.lconst 0, 1) := dk_9 (dk_at dksX11_shift_2 7 rfl rfl)
theorem dX11_shift_54 : decode cX11_shift 54 = .ok (.lreturn, 1) := dk_173 (dk_at dksX11_shift_2 8 rfl rfl)
theorem dX11_shift_55 : decode cX11_shift 55 = .ok (.aload_n 0, 1) := dk_42 (dk_at dksX11_shift_2 9 rfl rfl)
theorem dX11_shift_56 : decode cX11_shift 56 = .ok (.invokevirtual 340, 3) := dk_182 1 84 (dk_at dksX11_shift_2 10 rfl rfl)
theorem dX11_shift_59 : decode cX11_shift 59 = .ok (.iconst 0, 1) := dk_3 (dk_at dksX11_shift_2 13 rfl rfl)
theorem dX11_shift_60 : decode cX11_shift 60 = .ok (.istore 4, 2) := dk_54 4 (dk_at dksX11_shift_2 14 rfl rfl)
theorem dX11_shift_62 : decode cX11_shift 62 = .ok (.iload 4, 2) := dk_21 4 (dk_at dksX11_shift_2 16 rfl rfl)
theorem dX11_shift_64 : decode cX11_shift 64 = .ok (.aload_n 0, 1) := dk_42 (dk_at dksX11_shift_2 18 rfl rfl)
theorem dX11_shift_65 : decode cX11_shift 65 = .ok (.getfield 17, 3) := dk_180 0 17 (dk_at dksX11_shift_2 19 rfl rfl)
theorem dX11_shift_68 : decode cX11_shift 68 = .ok (.if_icmp .gt 41, 3) := dk_163 0 41 (dk_at dksX11_shift_3 0 rfl rfl)
theorem dX11_shift_71 : decode cX11_shift 71 = .ok (.iload 4, 2) := dk_21 4 (dk_at dksX11_shift_3 3 rfl rfl)
theorem dX11_shift_73 : decode cX11_shift 73 = .ok (.iload_n 2, 1) := dk_28 (dk_at dksX11_shift_3 5 rfl rfl)
theorem dX11_shift_74 : decode cX11_shift 74 = .ok (.if_icmp .ne 8, 3) := dk_160 0 8 (dk_at dksX11_shift_3 6 rfl rfl)
theorem dX11_shift_77 : decode cX11_shift 77 = .ok (.aload_n 0, 1) := dk_42 (dk_at dksX11_shift_3 9 rfl rfl)
theorem dX11_shift_78 : decode cX11_shift 78 = .ok (.iload_n 1, 1) := dk_27 (dk_at dksX11_shift_3 10 rfl rfl)
theorem dX11_shift_79 : decode cX11_shift 79 = .ok (.invokevirtual 343, 3) := dk_182 1 87 (dk_at dksX11_shift_3 11 rfl rfl)
theorem dX11_shift_82 : decode cX11_shift 82 = .ok (.iload 4, 2) := dk_21 4 (dk_at dksX11_shift_3 14 rfl rfl)
theorem dX11_shift_84 : decode cX11_shift 84 = .ok (.aload_n 0, 1) := dk_42 (dk_at dksX11_shift_3 16 rfl rfl)
theorem dX11_shift_85 : decode cX11_shift 85 = .ok (.getfield 17, 3) := dk_180 0 17 (dk_at dksX11_shift_3 17 rfl rfl)
theorem dX11_shift_88 : decode cX11_shift 88 = .ok (.if_icmp .ge 15, 3) := dk_162 0 15 (dk_at dksX11_shift_3 20 rfl rfl)
theorem dX11_shift_91 : decode cX11_shift 91 = .ok (.iload 4, 2) := dk_21 4 (dk_at dksX11_shift_4 0 rfl rfl)
theorem dX11_shift_93 : decode cX11_shift 93 = .ok (.iload_n 1, 1) := dk_27 (dk_at dksX11_shift_4 2 rfl rfl)
theorem dX11_shift_94 : decode cX11_shift 94 = .ok (.if_icmp .eq 9, 3) := dk_159 0 9 (dk_at dksX11_shift_4 3 rfl rfl)
theorem dX11_shift_97 : decode cX11_shift 97 = .ok (.aload_n 0, 1) := dk_42 (dk_at dksX11_shift_4 6 rfl rfl)
theorem dX11_shift_98 : decode cX11_shift 98 = .ok (.iload 4, 2) := dk_21 4 (dk_at dksX11_shift_4 7 rfl rfl)
theorem dX11_shift_100 : decode cX11_shift 100 = .ok (.invokevirtual 343, 3) := dk_182 1 87 (dk_at dksX11_shift_4 9 rfl rfl)
theorem dX11_shift_103 : decode cX11_shift 103 = .ok (.iinc 4 1, 3) := dk_132 4 1 (dk_at dksX11_shift_4 12 rfl rfl)
theorem dX11_shift_106 : decode cX11_shift 106 = .ok (.goto (-44), 3) := dk_167 255 212 (dk_at dksX11_shift_4 15 rfl rfl)
theorem dX11_shift_109 : decode cX11_shift 109 = .ok (.aload_n 0, 1) := dk_42 (dk_at dksX11_shift_4 18 rfl rfl)
theorem dX11_shift_110 : decode cX11_shift 110 = .ok (.iload_n 3, 1) := dk_29 (dk_at dksX11_shift_4 19 rfl rfl)
theorem dX11_shift_111 : decode cX11_shift 111 = .ok (.invokevirtual 456, 3) := dk_182 1 200 (dk_at dksX11_shift_4 20 rfl rfl)
theorem dX11_shift_114 : decode cX11_shift 114 = .ok (.lreturn, 1) := dk_173 (dk_at dksX11_shift_4 23 rfl rfl)
abbrev cX11_after : ByteArray := prog_16_method_125_code
def yX11_after : MethodName := ⟨RX11, "after", "(II)J"⟩
def dkwX11_after_2 : List UInt8 := [182, 1, 200, 173]
abbrev dktX11_after_2 : List UInt8 := dkwX11_after_2 ++ []
def dkwX11_after_1 : List UInt8 := [42, 182, 1, 84, 3, 62, 29, 27, 163, 0, 14, 42, 29, 182, 1, 87, 132, 3, 1, 167, 255, 243, 42, 28]
abbrev dktX11_after_1 : List UInt8 := dkwX11_after_1 ++ dktX11_after_2
def dkwX11_after_0 : List UInt8 := [42, 3, 181, 0, 1, 42, 27, 182, 1, 157, 153, 0, 12, 42, 28, 5, 182, 1, 203, 154, 0, 5, 9, 173]
abbrev dktX11_after_0 : List UInt8 := dkwX11_after_0 ++ dktX11_after_1
theorem dksX11_after_0 : cX11_after.data.toList.drop 0 = dktX11_after_0 := by decide +kernel
theorem dksX11_after_1 : cX11_after.data.toList.drop 24 = dktX11_after_1 := dk_seg dksX11_after_0 24 rfl rfl
theorem dksX11_after_2 : cX11_after.data.toList.drop 48 = dktX11_after_2 := dk_seg dksX11_after_1 24 rfl rfl
theorem dX11_after_0 : decode cX11_after 0 = .ok (.aload_n 0, 1) := dk_42 (dk_at dksX11_after_0 0 rfl rfl)
theorem dX11_after_1 : decode cX11_after 1 = .ok (.iconst 0, 1) := dk_3 (dk_at dksX11_after_0 1 rfl rfl)
theorem dX11_after_2 : decode cX11_after 2 = .ok (.putfield 1, 3) := dk_181 0 1 (dk_at dksX11_after_0 2 rfl rfl)
theorem dX11_after_5 : decode cX11_after 5 = .ok (.aload_n 0, 1) := dk_42 (dk_at dksX11_after_0 5 rfl rfl)
theorem dX11_after_6 : decode cX11_after 6 = .ok (.iload_n 1, 1) := dk_27 (dk_at dksX11_after_0 6 rfl rfl)
theorem dX11_after_7 : decode cX11_after 7 = .ok (.invokevirtual 413, 3) := dk_182 1 157 (dk_at dksX11_after_0 7 rfl rfl)
theorem dX11_after_10 : decode cX11_after 10 = .ok (.ifCond .eq 12, 3) := dk_153 0 12 (dk_at dksX11_after_0 10 rfl rfl)
theorem dX11_after_13 : decode cX11_after 13 = .ok (.aload_n 0, 1) := dk_42 (dk_at dksX11_after_0 13 rfl rfl)
theorem dX11_after_14 : decode cX11_after 14 = .ok (.iload_n 2, 1) := dk_28 (dk_at dksX11_after_0 14 rfl rfl)
theorem dX11_after_15 : decode cX11_after 15 = .ok (.iconst 2, 1) := dk_5 (dk_at dksX11_after_0 15 rfl rfl)
theorem dX11_after_16 : decode cX11_after 16 = .ok (.invokevirtual 459, 3) := dk_182 1 203 (dk_at dksX11_after_0 16 rfl rfl)
theorem dX11_after_19 : decode cX11_after 19 = .ok (.ifCond .ne 5, 3) := dk_154 0 5 (dk_at dksX11_after_0 19 rfl rfl)
theorem dX11_after_22 : decode cX11_after 22 = .ok (.lconst 0, 1) := dk_9 (dk_at dksX11_after_0 22 rfl rfl)
theorem dX11_after_23 : decode cX11_after 23 = .ok (.lreturn, 1) := dk_173 (dk_at dksX11_after_0 23 rfl rfl)
theorem dX11_after_24 : decode cX11_after 24 = .ok (.aload_n 0, 1) := dk_42 (dk_at dksX11_after_1 0 rfl rfl)
theorem dX11_after_25 : decode cX11_after 25 = .ok (.invokevirtual 340, 3) := dk_182 1 84 (dk_at dksX11_after_1 1 rfl rfl)
theorem dX11_after_28 : decode cX11_after 28 = .ok (.iconst 0, 1) := dk_3 (dk_at dksX11_after_1 4 rfl rfl)
theorem dX11_after_29 : decode cX11_after 29 = .ok (.istore_n 3, 1) := dk_62 (dk_at dksX11_after_1 5 rfl rfl)
theorem dX11_after_30 : decode cX11_after 30 = .ok (.iload_n 3, 1) := dk_29 (dk_at dksX11_after_1 6 rfl rfl)
theorem dX11_after_31 : decode cX11_after 31 = .ok (.iload_n 1, 1) := dk_27 (dk_at dksX11_after_1 7 rfl rfl)
theorem dX11_after_32 : decode cX11_after 32 = .ok (.if_icmp .gt 14, 3) := dk_163 0 14 (dk_at dksX11_after_1 8 rfl rfl)
theorem dX11_after_35 : decode cX11_after 35 = .ok (.aload_n 0, 1) := dk_42 (dk_at dksX11_after_1 11 rfl rfl)
theorem dX11_after_36 : decode cX11_after 36 = .ok (.iload_n 3, 1) := dk_29 (dk_at dksX11_after_1 12 rfl rfl)
theorem dX11_after_37 : decode cX11_after 37 = .ok (.invokevirtual 343, 3) := dk_182 1 87 (dk_at dksX11_after_1 13 rfl rfl)
theorem dX11_after_40 : decode cX11_after 40 = .ok (.iinc 3 1, 3) := dk_132 3 1 (dk_at dksX11_after_1 16 rfl rfl)
theorem dX11_after_43 : decode cX11_after 43 = .ok (.goto (-13), 3) := dk_167 255 243 (dk_at dksX11_after_1 19 rfl rfl)
theorem dX11_after_46 : decode cX11_after 46 = .ok (.aload_n 0, 1) := dk_42 (dk_at dksX11_after_1 22 rfl rfl)
theorem dX11_after_47 : decode cX11_after 47 = .ok (.iload_n 2, 1) := dk_28 (dk_at dksX11_after_1 23 rfl rfl)
theorem dX11_after_48 : decode cX11_after 48 = .ok (.invokevirtual 456, 3) := dk_182 1 200 (dk_at dksX11_after_2 0 rfl rfl)
theorem dX11_after_51 : decode cX11_after 51 = .ok (.lreturn, 1) := dk_173 (dk_at dksX11_after_2 3 rfl rfl)
abbrev cX11_usedUp : ByteArray := prog_16_method_126_code
def yX11_usedUp : MethodName := ⟨RX11, "usedUp", "(I)I"⟩
def dkwX11_usedUp_2 : List UInt8 := [153, 0, 15, 42, 27, 182, 0, 175, 9, 148, 154, 0, 5, 29, 61, 132, 3, 1, 167, 255, 214, 28, 172]
abbrev dktX11_usedUp_2 : List UInt8 := dkwX11_usedUp_2 ++ []
def dkwX11_usedUp_1 : List UInt8 := [29, 42, 180, 0, 17, 162, 0, 40, 42, 29, 182, 1, 87, 28, 2, 160, 0, 24, 42, 180, 0, 29, 27, 51]
abbrev dktX11_usedUp_1 : List UInt8 := dkwX11_usedUp_1 ++ dktX11_usedUp_2
def dkwX11_usedUp_0 : List UInt8 := [42, 3, 181, 0, 1, 42, 27, 4, 182, 1, 118, 154, 0, 5, 3, 172, 2, 61, 42, 182, 1, 84, 3, 62]
abbrev dktX11_usedUp_0 : List UInt8 := dkwX11_usedUp_0 ++ dktX11_usedUp_1
theorem dksX11_usedUp_0 : cX11_usedUp.data.toList.drop 0 = dktX11_usedUp_0 := by decide +kernel
theorem dksX11_usedUp_1 : cX11_usedUp.data.toList.drop 24 = dktX11_usedUp_1 := dk_seg dksX11_usedUp_0 24 rfl rfl
theorem dksX11_usedUp_2 : cX11_usedUp.data.toList.drop 48 = dktX11_usedUp_2 := dk_seg dksX11_usedUp_1 24 rfl rfl
theorem dX11_usedUp_0 : decode cX11_usedUp 0 = .ok (.aload_n 0, 1) := dk_42 (dk_at dksX11_usedUp_0 0 rfl rfl)
theorem dX11_usedUp_1 : decode cX11_usedUp 1 = .ok (.iconst 0, 1) := dk_3 (dk_at dksX11_usedUp_0 1 rfl rfl)
theorem dX11_usedUp_2 : decode cX11_usedUp 2 = .ok (.putfield 1, 3) := dk_181 0 1 (dk_at dksX11_usedUp_0 2 rfl rfl)
theorem dX11_usedUp_5 : decode cX11_usedUp 5 = .ok (.aload_n 0, 1) := dk_42 (dk_at dksX11_usedUp_0 5 rfl rfl)
theorem dX11_usedUp_6 : decode cX11_usedUp 6 = .ok (.iload_n 1, 1) := dk_27 (dk_at dksX11_usedUp_0 6 rfl rfl)
theorem dX11_usedUp_7 : decode cX11_usedUp 7 = .ok (.iconst 1, 1) := dk_4 (dk_at dksX11_usedUp_0 7 rfl rfl)
theorem dX11_usedUp_8 : decode cX11_usedUp 8 = .ok (.invokevirtual 374, 3) := dk_182 1 118 (dk_at dksX11_usedUp_0 8 rfl rfl)
theorem dX11_usedUp_11 : decode cX11_usedUp 11 = .ok (.ifCond .ne 5, 3) := dk_154 0 5 (dk_at dksX11_usedUp_0 11 rfl rfl)
theorem dX11_usedUp_14 : decode cX11_usedUp 14 = .ok (.iconst 0, 1) := dk_3 (dk_at dksX11_usedUp_0 14 rfl rfl)
theorem dX11_usedUp_15 : decode cX11_usedUp 15 = .ok (.ireturn, 1) := dk_172 (dk_at dksX11_usedUp_0 15 rfl rfl)
theorem dX11_usedUp_16 : decode cX11_usedUp 16 = .ok (.iconst (-1), 1) := dk_2 (dk_at dksX11_usedUp_0 16 rfl rfl)
theorem dX11_usedUp_17 : decode cX11_usedUp 17 = .ok (.istore_n 2, 1) := dk_61 (dk_at dksX11_usedUp_0 17 rfl rfl)
theorem dX11_usedUp_18 : decode cX11_usedUp 18 = .ok (.aload_n 0, 1) := dk_42 (dk_at dksX11_usedUp_0 18 rfl rfl)
theorem dX11_usedUp_19 : decode cX11_usedUp 19 = .ok (.invokevirtual 340, 3) := dk_182 1 84 (dk_at dksX11_usedUp_0 19 rfl rfl)
theorem dX11_usedUp_22 : decode cX11_usedUp 22 = .ok (.iconst 0, 1) := dk_3 (dk_at dksX11_usedUp_0 22 rfl rfl)
theorem dX11_usedUp_23 : decode cX11_usedUp 23 = .ok (.istore_n 3, 1) := dk_62 (dk_at dksX11_usedUp_0 23 rfl rfl)
theorem dX11_usedUp_24 : decode cX11_usedUp 24 = .ok (.iload_n 3, 1) := dk_29 (dk_at dksX11_usedUp_1 0 rfl rfl)
theorem dX11_usedUp_25 : decode cX11_usedUp 25 = .ok (.aload_n 0, 1) := dk_42 (dk_at dksX11_usedUp_1 1 rfl rfl)
theorem dX11_usedUp_26 : decode cX11_usedUp 26 = .ok (.getfield 17, 3) := dk_180 0 17 (dk_at dksX11_usedUp_1 2 rfl rfl)
theorem dX11_usedUp_29 : decode cX11_usedUp 29 = .ok (.if_icmp .ge 40, 3) := dk_162 0 40 (dk_at dksX11_usedUp_1 5 rfl rfl)
theorem dX11_usedUp_32 : decode cX11_usedUp 32 = .ok (.aload_n 0, 1) := dk_42 (dk_at dksX11_usedUp_1 8 rfl rfl)
theorem dX11_usedUp_33 : decode cX11_usedUp 33 = .ok (.iload_n 3, 1) := dk_29 (dk_at dksX11_usedUp_1 9 rfl rfl)
theorem dX11_usedUp_34 : decode cX11_usedUp 34 = .ok (.invokevirtual 343, 3) := dk_182 1 87 (dk_at dksX11_usedUp_1 10 rfl rfl)
theorem dX11_usedUp_37 : decode cX11_usedUp 37 = .ok (.iload_n 2, 1) := dk_28 (dk_at dksX11_usedUp_1 13 rfl rfl)
theorem dX11_usedUp_38 : decode cX11_usedUp 38 = .ok (.iconst (-1), 1) := dk_2 (dk_at dksX11_usedUp_1 14 rfl rfl)
theorem dX11_usedUp_39 : decode cX11_usedUp 39 = .ok (.if_icmp .ne 24, 3) := dk_160 0 24 (dk_at dksX11_usedUp_1 15 rfl rfl)
theorem dX11_usedUp_42 : decode cX11_usedUp 42 = .ok (.aload_n 0, 1) := dk_42 (dk_at dksX11_usedUp_1 18 rfl rfl)
theorem dX11_usedUp_43 : decode cX11_usedUp 43 = .ok (.getfield 29, 3) := dk_180 0 29 (dk_at dksX11_usedUp_1 19 rfl rfl)
theorem dX11_usedUp_46 : decode cX11_usedUp 46 = .ok (.iload_n 1, 1) := dk_27 (dk_at dksX11_usedUp_1 22 rfl rfl)
theorem dX11_usedUp_47 : decode cX11_usedUp 47 = .ok (.baload, 1) := dk_51 (dk_at dksX11_usedUp_1 23 rfl rfl)
theorem dX11_usedUp_48 : decode cX11_usedUp 48 = .ok (.ifCond .eq 15, 3) := dk_153 0 15 (dk_at dksX11_usedUp_2 0 rfl rfl)
theorem dX11_usedUp_51 : decode cX11_usedUp 51 = .ok (.aload_n 0, 1) := dk_42 (dk_at dksX11_usedUp_2 3 rfl rfl)
theorem dX11_usedUp_52 : decode cX11_usedUp 52 = .ok (.iload_n 1, 1) := dk_27 (dk_at dksX11_usedUp_2 4 rfl rfl)
theorem dX11_usedUp_53 : decode cX11_usedUp 53 = .ok (.invokevirtual 175, 3) := dk_182 0 175 (dk_at dksX11_usedUp_2 5 rfl rfl)
theorem dX11_usedUp_56 : decode cX11_usedUp 56 = .ok (.lconst 0, 1) := dk_9 (dk_at dksX11_usedUp_2 8 rfl rfl)
theorem dX11_usedUp_57 : decode cX11_usedUp 57 = .ok (.lcmp, 1) := dk_148 (dk_at dksX11_usedUp_2 9 rfl rfl)
theorem dX11_usedUp_58 : decode cX11_usedUp 58 = .ok (.ifCond .ne 5, 3) := dk_154 0 5 (dk_at dksX11_usedUp_2 10 rfl rfl)
theorem dX11_usedUp_61 : decode cX11_usedUp 61 = .ok (.iload_n 3, 1) := dk_29 (dk_at dksX11_usedUp_2 13 rfl rfl)
theorem dX11_usedUp_62 : decode cX11_usedUp 62 = .ok (.istore_n 2, 1) := dk_61 (dk_at dksX11_usedUp_2 14 rfl rfl)
theorem dX11_usedUp_63 : decode cX11_usedUp 63 = .ok (.iinc 3 1, 3) := dk_132 3 1 (dk_at dksX11_usedUp_2 15 rfl rfl)
theorem dX11_usedUp_66 : decode cX11_usedUp 66 = .ok (.goto (-42), 3) := dk_167 255 214 (dk_at dksX11_usedUp_2 18 rfl rfl)
theorem dX11_usedUp_69 : decode cX11_usedUp 69 = .ok (.iload_n 2, 1) := dk_28 (dk_at dksX11_usedUp_2 21 rfl rfl)
theorem dX11_usedUp_70 : decode cX11_usedUp 70 = .ok (.ireturn, 1) := dk_172 (dk_at dksX11_usedUp_2 22 rfl rfl)
abbrev cX11_heaviest : ByteArray := prog_16_method_128_code
def yX11_heaviest : MethodName := ⟨RX11, "heaviest", "(II)J"⟩
def dkwX11_heaviest_6 : List UInt8 := [154, 0, 8, 29, 133, 167, 0, 5, 22, 4, 173]
abbrev dktX11_heaviest_6 : List UInt8 := dkwX11_heaviest_6 ++ []
def dkwX11_heaviest_5 : List UInt8 := [167, 0, 13, 21, 6, 62, 42, 27, 182, 1, 181, 55, 4, 132, 6, 1, 167, 255, 175, 42, 182, 1, 147, 28]
abbrev dktX11_heaviest_5 : List UInt8 := dkwX11_heaviest_5 ++ dktX11_heaviest_6
def dkwX11_heaviest_4 : List UInt8 := [132, 7, 1, 167, 255, 227, 29, 2, 159, 0, 17, 42, 27, 182, 1, 181, 22, 4, 148, 155, 0, 6]
abbrev dktX11_heaviest_4 : List UInt8 := dkwX11_heaviest_4 ++ dktX11_heaviest_5
def dkwX11_heaviest_3 : List UInt8 := [42, 180, 0, 17, 162, 0, 26, 42, 21, 7, 21, 6, 182, 1, 209, 154, 0, 9, 42, 21, 7, 182, 1, 87]
abbrev dktX11_heaviest_3 : List UInt8 := dkwX11_heaviest_3 ++ dktX11_heaviest_4
def dkwX11_heaviest_2 : List UInt8 := [55, 4, 3, 54, 6, 21, 6, 42, 7, 182, 1, 106, 162, 0, 77, 42, 182, 1, 84, 3, 54, 7, 21, 7]
abbrev dktX11_heaviest_2 : List UInt8 := dkwX11_heaviest_2 ++ dktX11_heaviest_3
def dkwX11_heaviest_1 : List UInt8 := [184, 1, 96, 153, 0, 7, 4, 167, 0, 4, 3, 4, 4, 182, 1, 90, 154, 0, 5, 9, 173, 2, 62, 9]
abbrev dktX11_heaviest_1 : List UInt8 := dkwX11_heaviest_1 ++ dktX11_heaviest_2
def dkwX11_heaviest_0 : List UInt8 := [42, 3, 181, 0, 1, 42, 27, 133, 9, 20, 1, 121, 184, 1, 96, 153, 0, 17, 28, 133, 9, 10]
abbrev dktX11_heaviest_0 : List UInt8 := dkwX11_heaviest_0 ++ dktX11_heaviest_1
theorem dksX11_heaviest_0 : cX11_heaviest.data.toList.drop 0 = dktX11_heaviest_0 := by decide +kernel
theorem dksX11_heaviest_1 : cX11_heaviest.data.toList.drop 22 = dktX11_heaviest_1 := dk_seg dksX11_heaviest_0 22 rfl rfl
theorem dksX11_heaviest_2 : cX11_heaviest.data.toList.drop 46 = dktX11_heaviest_2 := dk_seg dksX11_heaviest_1 24 rfl rfl
theorem dksX11_heaviest_3 : cX11_heaviest.data.toList.drop 70 = dktX11_heaviest_3 := dk_seg dksX11_heaviest_2 24 rfl rfl
theorem dksX11_heaviest_4 : cX11_heaviest.data.toList.drop 94 = dktX11_heaviest_4 := dk_seg dksX11_heaviest_3 24 rfl rfl
theorem dksX11_heaviest_5 : cX11_heaviest.data.toList.drop 116 = dktX11_heaviest_5 := dk_seg dksX11_heaviest_4 22 rfl rfl
theorem dksX11_heaviest_6 : cX11_heaviest.data.toList.drop 140 = dktX11_heaviest_6 := dk_seg dksX11_heaviest_5 24 rfl rfl
theorem dX11_heaviest_0 : decode cX11_heaviest 0 = .ok (.aload_n 0, 1) := dk_42 (dk_at dksX11_heaviest_0 0 rfl rfl)
theorem dX11_heaviest_1 : decode cX11_heaviest 1 = .ok (.iconst 0, 1) := dk_3 (dk_at dksX11_heaviest_0 1 rfl rfl)
theorem dX11_heaviest_2 : decode cX11_heaviest 2 = .ok (.putfield 1, 3) := dk_181 0 1 (dk_at dksX11_heaviest_0 2 rfl rfl)
theorem dX11_heaviest_5 : decode cX11_heaviest 5 = .ok (.aload_n 0, 1) := dk_42 (dk_at dksX11_heaviest_0 5 rfl rfl)
theorem dX11_heaviest_6 : decode cX11_heaviest 6 = .ok (.iload_n 1, 1) := dk_27 (dk_at dksX11_heaviest_0 6 rfl rfl)
theorem dX11_heaviest_7 : decode cX11_heaviest 7 = .ok (.i2l, 1) := dk_133 (dk_at dksX11_heaviest_0 7 rfl rfl)
theorem dX11_heaviest_8 : decode cX11_heaviest 8 = .ok (.lconst 0, 1) := dk_9 (dk_at dksX11_heaviest_0 8 rfl rfl)
theorem dX11_heaviest_9 : decode cX11_heaviest 9 = .ok (.ldc2_w 377, 3) := dk_20 1 121 (dk_at dksX11_heaviest_0 9 rfl rfl)
theorem dX11_heaviest_12 : decode cX11_heaviest 12 = .ok (.invokestatic 352, 3) := dk_184 1 96 (dk_at dksX11_heaviest_0 12 rfl rfl)
theorem dX11_heaviest_15 : decode cX11_heaviest 15 = .ok (.ifCond .eq 17, 3) := dk_153 0 17 (dk_at dksX11_heaviest_0 15 rfl rfl)
theorem dX11_heaviest_18 : decode cX11_heaviest 18 = .ok (.iload_n 2, 1) := dk_28 (dk_at dksX11_heaviest_0 18 rfl rfl)
theorem dX11_heaviest_19 : decode cX11_heaviest 19 = .ok (.i2l, 1) := dk_133 (dk_at dksX11_heaviest_0 19 rfl rfl)
theorem dX11_heaviest_20 : decode cX11_heaviest 20 = .ok (.lconst 0, 1) := dk_9 (dk_at dksX11_heaviest_0 20 rfl rfl)
theorem dX11_heaviest_21 : decode cX11_heaviest 21 = .ok (.lconst 1, 1) := dk_10 (dk_at dksX11_heaviest_0 21 rfl rfl)
theorem dX11_heaviest_22 : decode cX11_heaviest 22 = .ok (.invokestatic 352, 3) := dk_184 1 96 (dk_at dksX11_heaviest_1 0 rfl rfl)
theorem dX11_heaviest_25 : decode cX11_heaviest 25 = .ok (.ifCond .eq 7, 3) := dk_153 0 7 (dk_at dksX11_heaviest_1 3 rfl rfl)
theorem dX11_heaviest_28 : decode cX11_heaviest 28 = .ok (.iconst 1, 1) := dk_4 (dk_at dksX11_heaviest_1 6 rfl rfl)
theorem dX11_heaviest_29 : decode cX11_heaviest 29 = .ok (.goto 4, 3) := dk_167 0 4 (dk_at dksX11_heaviest_1 7 rfl rfl)
theorem dX11_heaviest_32 : decode cX11_heaviest 32 = .ok (.iconst 0, 1) := dk_3 (dk_at dksX11_heaviest_1 10 rfl rfl)
theorem dX11_heaviest_33 : decode cX11_heaviest 33 = .ok (.iconst 1, 1) := dk_4 (dk_at dksX11_heaviest_1 11 rfl rfl)
theorem dX11_heaviest_34 : decode cX11_heaviest 34 = .ok (.iconst 1, 1) := dk_4 (dk_at dksX11_heaviest_1 12 rfl rfl)
theorem dX11_heaviest_35 : decode cX11_heaviest 35 = .ok (.invokevirtual 346, 3) := dk_182 1 90 (dk_at dksX11_heaviest_1 13 rfl rfl)
theorem dX11_heaviest_38 : decode cX11_heaviest 38 = .ok (.ifCond .ne 5, 3) := dk_154 0 5 (dk_at dksX11_heaviest_1 16 rfl rfl)
theorem dX11_heaviest_41 : decode cX11_heaviest 41 = .ok (.lconst 0, 1) := dk_9 (dk_at dksX11_heaviest_1 19 rfl rfl)
theorem dX11_heaviest_42 : decode cX11_heaviest 42 = .ok (.lreturn, 1) := dk_173 (dk_at dksX11_heaviest_1 20 rfl rfl)
theorem dX11_heaviest_43 : decode cX11_heaviest 43 = .ok (.iconst (-1), 1) := dk_2 (dk_at dksX11_heaviest_1 21 rfl rfl)
theorem dX11_heaviest_44 : decode cX11_heaviest 44 = .ok (.istore_n 3, 1) := dk_62 (dk_at dksX11_heaviest_1 22 rfl rfl)
theorem dX11_heaviest_45 : decode cX11_heaviest 45 = .ok (.lconst 0, 1) := dk_9 (dk_at dksX11_heaviest_1 23 rfl rfl)
theorem dX11_heaviest_46 : decode cX11_heaviest 46 = .ok (.lstore 4, 2) := dk_55 4 (dk_at dksX11_heaviest_2 0 rfl rfl)
theorem dX11_heaviest_48 : decode cX11_heaviest 48 = .ok (.iconst 0, 1) := dk_3 (dk_at dksX11_heaviest_2 2 rfl rfl)
theorem dX11_heaviest_49 : decode cX11_heaviest 49 = .ok (.istore 6, 2) := dk_54 6 (dk_at dksX11_heaviest_2 3 rfl rfl)
theorem dX11_heaviest_51 : decode cX11_heaviest 51 = .ok (.iload 6, 2) := dk_21 6 (dk_at dksX11_heaviest_2 5 rfl rfl)
theorem dX11_heaviest_53 : decode cX11_heaviest 53 = .ok (.aload_n 0, 1) := dk_42 (dk_at dksX11_heaviest_2 7 rfl rfl)
theorem dX11_heaviest_54 : decode cX11_heaviest 54 = .ok (.iconst 4, 1) := dk_7 (dk_at dksX11_heaviest_2 8 rfl rfl)
theorem dX11_heaviest_55 : decode cX11_heaviest 55 = .ok (.invokevirtual 362, 3) := dk_182 1 106 (dk_at dksX11_heaviest_2 9 rfl rfl)
theorem dX11_heaviest_58 : decode cX11_heaviest 58 = .ok (.if_icmp .ge 77, 3) := dk_162 0 77 (dk_at dksX11_heaviest_2 12 rfl rfl)
theorem dX11_heaviest_61 : decode cX11_heaviest 61 = .ok (.aload_n 0, 1) := dk_42 (dk_at dksX11_heaviest_2 15 rfl rfl)
theorem dX11_heaviest_62 : decode cX11_heaviest 62 = .ok (.invokevirtual 340, 3) := dk_182 1 84 (dk_at dksX11_heaviest_2 16 rfl rfl)
theorem dX11_heaviest_65 : decode cX11_heaviest 65 = .ok (.iconst 0, 1) := dk_3 (dk_at dksX11_heaviest_2 19 rfl rfl)
theorem dX11_heaviest_66 : decode cX11_heaviest 66 = .ok (.istore 7, 2) := dk_54 7 (dk_at dksX11_heaviest_2 20 rfl rfl)
theorem dX11_heaviest_68 : decode cX11_heaviest 68 = .ok (.iload 7, 2) := dk_21 7 (dk_at dksX11_heaviest_2 22 rfl rfl)
theorem dX11_heaviest_70 : decode cX11_heaviest 70 = .ok (.aload_n 0, 1) := dk_42 (dk_at dksX11_heaviest_3 0 rfl rfl)
theorem dX11_heaviest_71 : decode cX11_heaviest 71 = .ok (.getfield 17, 3) := dk_180 0 17 (dk_at dksX11_heaviest_3 1 rfl rfl)
theorem dX11_heaviest_74 : decode cX11_heaviest 74 = .ok (.if_icmp .ge 26, 3) := dk_162 0 26 (dk_at dksX11_heaviest_3 4 rfl rfl)
theorem dX11_heaviest_77 : decode cX11_heaviest 77 = .ok (.aload_n 0, 1) := dk_42 (dk_at dksX11_heaviest_3 7 rfl rfl)
theorem dX11_heaviest_78 : decode cX11_heaviest 78 = .ok (.iload 7, 2) := dk_21 7 (dk_at dksX11_heaviest_3 8 rfl rfl)
theorem dX11_heaviest_80 : decode cX11_heaviest 80 = .ok (.iload 6, 2) := dk_21 6 (dk_at dksX11_heaviest_3 10 rfl rfl)
theorem dX11_heaviest_82 : decode cX11_heaviest 82 = .ok (.invokevirtual 465, 3) := dk_182 1 209 (dk_at dksX11_heaviest_3 12 rfl rfl)
theorem dX11_heaviest_85 : decode cX11_heaviest 85 = .ok (.ifCond .ne 9, 3) := dk_154 0 9 (dk_at dksX11_heaviest_3 15 rfl rfl)
theorem dX11_heaviest_88 : decode cX11_heaviest 88 = .ok (.aload_n 0, 1) := dk_42 (dk_at dksX11_heaviest_3 18 rfl rfl)
theorem dX11_heaviest_89 : decode cX11_heaviest 89 = .ok (.iload 7, 2) := dk_21 7 (dk_at dksX11_heaviest_3 19 rfl rfl)
theorem dX11_heaviest_91 : decode cX11_heaviest 91 = .ok (.invokevirtual 343, 3) := dk_182 1 87 (dk_at dksX11_heaviest_3 21 rfl rfl)
theorem dX11_heaviest_94 : decode cX11_heaviest 94 = .ok (.iinc 7 1, 3) := dk_132 7 1 (dk_at dksX11_heaviest_4 0 rfl rfl)
theorem dX11_heaviest_97 : decode cX11_heaviest 97 = .ok (.goto (-29), 3) := dk_167 255 227 (dk_at dksX11_heaviest_4 3 rfl rfl)
theorem dX11_heaviest_100 : decode cX11_heaviest 100 = .ok (.iload_n 3, 1) := dk_29 (dk_at dksX11_heaviest_4 6 rfl rfl)
theorem dX11_heaviest_101 : decode cX11_heaviest 101 = .ok (.iconst (-1), 1) := dk_2 (dk_at dksX11_heaviest_4 7 rfl rfl)
theorem dX11_heaviest_102 : decode cX11_heaviest 102 = .ok (.if_icmp .eq 17, 3) := dk_159 0 17 (dk_at dksX11_heaviest_4 8 rfl rfl)
theorem dX11_heaviest_105 : decode cX11_heaviest 105 = .ok (.aload_n 0, 1) := dk_42 (dk_at dksX11_heaviest_4 11 rfl rfl)
theorem dX11_heaviest_106 : decode cX11_heaviest 106 = .ok (.iload_n 1, 1) := dk_27 (dk_at dksX11_heaviest_4 12 rfl rfl)
theorem dX11_heaviest_107 : decode cX11_heaviest 107 = .ok (.invokevirtual 437, 3) := dk_182 1 181 (dk_at dksX11_heaviest_4 13 rfl rfl)
theorem dX11_heaviest_110 : decode cX11_heaviest 110 = .ok (.lload 4, 2) := dk_22 4 (dk_at dksX11_heaviest_4 16 rfl rfl)
theorem dX11_heaviest_112 : decode cX11_heaviest 112 = .ok (.lcmp, 1) := dk_148 (dk_at dksX11_heaviest_4 18 rfl rfl)
theorem dX11_heaviest_113 : decode cX11_heaviest 113 = .ok (.ifCond .lt 6, 3) := dk_155 0 6 (dk_at dksX11_heaviest_4 19 rfl rfl)
theorem dX11_heaviest_116 : decode cX11_heaviest 116 = .ok (.goto 13, 3) := dk_167 0 13 (dk_at dksX11_heaviest_5 0 rfl rfl)
theorem dX11_heaviest_119 : decode cX11_heaviest 119 = .ok (.iload 6, 2) := dk_21 6 (dk_at dksX11_heaviest_5 3 rfl rfl)
theorem dX11_heaviest_121 : decode cX11_heaviest 121 = .ok (.istore_n 3, 1) := dk_62 (dk_at dksX11_heaviest_5 5 rfl rfl)
theorem dX11_heaviest_122 : decode cX11_heaviest 122 = .ok (.aload_n 0, 1) := dk_42 (dk_at dksX11_heaviest_5 6 rfl rfl)
theorem dX11_heaviest_123 : decode cX11_heaviest 123 = .ok (.iload_n 1, 1) := dk_27 (dk_at dksX11_heaviest_5 7 rfl rfl)
theorem dX11_heaviest_124 : decode cX11_heaviest 124 = .ok (.invokevirtual 437, 3) := dk_182 1 181 (dk_at dksX11_heaviest_5 8 rfl rfl)
theorem dX11_heaviest_127 : decode cX11_heaviest 127 = .ok (.lstore 4, 2) := dk_55 4 (dk_at dksX11_heaviest_5 11 rfl rfl)
theorem dX11_heaviest_129 : decode cX11_heaviest 129 = .ok (.iinc 6 1, 3) := dk_132 6 1 (dk_at dksX11_heaviest_5 13 rfl rfl)
theorem dX11_heaviest_132 : decode cX11_heaviest 132 = .ok (.goto (-81), 3) := dk_167 255 175 (dk_at dksX11_heaviest_5 16 rfl rfl)
theorem dX11_heaviest_135 : decode cX11_heaviest 135 = .ok (.aload_n 0, 1) := dk_42 (dk_at dksX11_heaviest_5 19 rfl rfl)
theorem dX11_heaviest_136 : decode cX11_heaviest 136 = .ok (.invokevirtual 403, 3) := dk_182 1 147 (dk_at dksX11_heaviest_5 20 rfl rfl)
theorem dX11_heaviest_139 : decode cX11_heaviest 139 = .ok (.iload_n 2, 1) := dk_28 (dk_at dksX11_heaviest_5 23 rfl rfl)
theorem dX11_heaviest_140 : decode cX11_heaviest 140 = .ok (.ifCond .ne 8, 3) := dk_154 0 8 (dk_at dksX11_heaviest_6 0 rfl rfl)
theorem dX11_heaviest_143 : decode cX11_heaviest 143 = .ok (.iload_n 3, 1) := dk_29 (dk_at dksX11_heaviest_6 3 rfl rfl)
theorem dX11_heaviest_144 : decode cX11_heaviest 144 = .ok (.i2l, 1) := dk_133 (dk_at dksX11_heaviest_6 4 rfl rfl)
theorem dX11_heaviest_145 : decode cX11_heaviest 145 = .ok (.goto 5, 3) := dk_167 0 5 (dk_at dksX11_heaviest_6 5 rfl rfl)
theorem dX11_heaviest_148 : decode cX11_heaviest 148 = .ok (.lload 4, 2) := dk_22 4 (dk_at dksX11_heaviest_6 8 rfl rfl)
theorem dX11_heaviest_150 : decode cX11_heaviest 150 = .ok (.lreturn, 1) := dk_173 (dk_at dksX11_heaviest_6 10 rfl rfl)
abbrev cX11_isOf : ByteArray := prog_16_method_127_code
def yX11_isOf : MethodName := ⟨RX11, "isOf", "(II)Z"⟩
def dkwX11_isOf_2 : List UInt8 := [160, 0, 17, 42, 27, 3, 182, 1, 33, 28, 160, 0, 7, 4, 167, 0, 4, 3, 172]
abbrev dktX11_isOf_2 : List UInt8 := dkwX11_isOf_2 ++ []
def dkwX11_isOf_1 : List UInt8 := [3, 167, 0, 39, 42, 180, 0, 14, 27, 46, 8, 159, 0, 14, 42, 180, 0, 14, 27, 46, 16, 8]
abbrev dktX11_isOf_1 : List UInt8 := dkwX11_isOf_1 ++ dktX11_isOf_2
def dkwX11_isOf_0 : List UInt8 := [42, 180, 0, 14, 27, 46, 7, 160, 0, 21, 42, 180, 0, 20, 27, 46, 28, 160, 0, 7, 4, 167, 0, 43]
abbrev dktX11_isOf_0 : List UInt8 := dkwX11_isOf_0 ++ dktX11_isOf_1
theorem dksX11_isOf_0 : cX11_isOf.data.toList.drop 0 = dktX11_isOf_0 := by decide +kernel
theorem dksX11_isOf_1 : cX11_isOf.data.toList.drop 24 = dktX11_isOf_1 := dk_seg dksX11_isOf_0 24 rfl rfl
theorem dksX11_isOf_2 : cX11_isOf.data.toList.drop 46 = dktX11_isOf_2 := dk_seg dksX11_isOf_1 22 rfl rfl
theorem dX11_isOf_0 : decode cX11_isOf 0 = .ok (.aload_n 0, 1) := dk_42 (dk_at dksX11_isOf_0 0 rfl rfl)
theorem dX11_isOf_1 : decode cX11_isOf 1 = .ok (.getfield 14, 3) := dk_180 0 14 (dk_at dksX11_isOf_0 1 rfl rfl)
theorem dX11_isOf_4 : decode cX11_isOf 4 = .ok (.iload_n 1, 1) := dk_27 (dk_at dksX11_isOf_0 4 rfl rfl)
theorem dX11_isOf_5 : decode cX11_isOf 5 = .ok (.iaload, 1) := dk_46 (dk_at dksX11_isOf_0 5 rfl rfl)
theorem dX11_isOf_6 : decode cX11_isOf 6 = .ok (.iconst 4, 1) := dk_7 (dk_at dksX11_isOf_0 6 rfl rfl)
theorem dX11_isOf_7 : decode cX11_isOf 7 = .ok (.if_icmp .ne 21, 3) := dk_160 0 21 (dk_at dksX11_isOf_0 7 rfl rfl)
theorem dX11_isOf_10 : decode cX11_isOf 10 = .ok (.aload_n 0, 1) := dk_42 (dk_at dksX11_isOf_0 10 rfl rfl)
theorem dX11_isOf_11 : decode cX11_isOf 11 = .ok (.getfield 20, 3) := dk_180 0 20 (dk_at dksX11_isOf_0 11 rfl rfl)
theorem dX11_isOf_14 : decode cX11_isOf 14 = .ok (.iload_n 1, 1) := dk_27 (dk_at dksX11_isOf_0 14 rfl rfl)
theorem dX11_isOf_15 : decode cX11_isOf 15 = .ok (.iaload, 1) := dk_46 (dk_at dksX11_isOf_0 15 rfl rfl)
theorem dX11_isOf_16 : decode cX11_isOf 16 = .ok (.iload_n 2, 1) := dk_28 (dk_at dksX11_isOf_0 16 rfl rfl)
theorem dX11_isOf_17 : decode cX11_isOf 17 = .ok (.if_icmp .ne 7, 3) := dk_160 0 7 (dk_at dksX11_isOf_0 17 rfl rfl)
theorem dX11_isOf_20 : decode cX11_isOf 20 = .ok (.iconst 1, 1) := dk_4 (dk_at dksX11_isOf_0 20 rfl rfl)
theorem dX11_isOf_21 : decode cX11_isOf 21 = .ok (.goto 43, 3) := dk_167 0 43 (dk_at dksX11_isOf_0 21 rfl rfl)
theorem dX11_isOf_24 : decode cX11_isOf 24 = .ok (.iconst 0, 1) := dk_3 (dk_at dksX11_isOf_1 0 rfl rfl)
theorem dX11_isOf_25 : decode cX11_isOf 25 = .ok (.goto 39, 3) := dk_167 0 39 (dk_at dksX11_isOf_1 1 rfl rfl)
theorem dX11_isOf_28 : decode cX11_isOf 28 = .ok (.aload_n 0, 1) := dk_42 (dk_at dksX11_isOf_1 4 rfl rfl)
theorem dX11_isOf_29 : decode cX11_isOf 29 = .ok (.getfield 14, 3) := dk_180 0 14 (dk_at dksX11_isOf_1 5 rfl rfl)
theorem dX11_isOf_32 : decode cX11_isOf 32 = .ok (.iload_n 1, 1) := dk_27 (dk_at dksX11_isOf_1 8 rfl rfl)
theorem dX11_isOf_33 : decode cX11_isOf 33 = .ok (.iaload, 1) := dk_46 (dk_at dksX11_isOf_1 9 rfl rfl)
theorem dX11_isOf_34 : decode cX11_isOf 34 = .ok (.iconst 5, 1) := dk_8 (dk_at dksX11_isOf_1 10 rfl rfl)
theorem dX11_isOf_35 : decode cX11_isOf 35 = .ok (.if_icmp .eq 14, 3) := dk_159 0 14 (dk_at dksX11_isOf_1 11 rfl rfl)
theorem dX11_isOf_38 : decode cX11_isOf 38 = .ok (.aload_n 0, 1) := dk_42 (dk_at dksX11_isOf_1 14 rfl rfl)
theorem dX11_isOf_39 : decode cX11_isOf 39 = .ok (.getfield 14, 3) := dk_180 0 14 (dk_at dksX11_isOf_1 15 rfl rfl)
theorem dX11_isOf_42 : decode cX11_isOf 42 = .ok (.iload_n 1, 1) := dk_27 (dk_at dksX11_isOf_1 18 rfl rfl)
theorem dX11_isOf_43 : decode cX11_isOf 43 = .ok (.iaload, 1) := dk_46 (dk_at dksX11_isOf_1 19 rfl rfl)
theorem dX11_isOf_44 : decode cX11_isOf 44 = .ok (.bipush 8, 2) := dk_16 8 (dk_at dksX11_isOf_1 20 rfl rfl)
theorem dX11_isOf_46 : decode cX11_isOf 46 = .ok (.if_icmp .ne 17, 3) := dk_160 0 17 (dk_at dksX11_isOf_2 0 rfl rfl)
theorem dX11_isOf_49 : decode cX11_isOf 49 = .ok (.aload_n 0, 1) := dk_42 (dk_at dksX11_isOf_2 3 rfl rfl)
theorem dX11_isOf_50 : decode cX11_isOf 50 = .ok (.iload_n 1, 1) := dk_27 (dk_at dksX11_isOf_2 4 rfl rfl)
theorem dX11_isOf_51 : decode cX11_isOf 51 = .ok (.iconst 0, 1) := dk_3 (dk_at dksX11_isOf_2 5 rfl rfl)
theorem dX11_isOf_52 : decode cX11_isOf 52 = .ok (.invokevirtual 289, 3) := dk_182 1 33 (dk_at dksX11_isOf_2 6 rfl rfl)
theorem dX11_isOf_55 : decode cX11_isOf 55 = .ok (.iload_n 2, 1) := dk_28 (dk_at dksX11_isOf_2 9 rfl rfl)
theorem dX11_isOf_56 : decode cX11_isOf 56 = .ok (.if_icmp .ne 7, 3) := dk_160 0 7 (dk_at dksX11_isOf_2 10 rfl rfl)
theorem dX11_isOf_59 : decode cX11_isOf 59 = .ok (.iconst 1, 1) := dk_4 (dk_at dksX11_isOf_2 13 rfl rfl)
theorem dX11_isOf_60 : decode cX11_isOf 60 = .ok (.goto 4, 3) := dk_167 0 4 (dk_at dksX11_isOf_2 14 rfl rfl)
theorem dX11_isOf_63 : decode cX11_isOf 63 = .ok (.iconst 0, 1) := dk_3 (dk_at dksX11_isOf_2 17 rfl rfl)
theorem dX11_isOf_64 : decode cX11_isOf 64 = .ok (.ireturn, 1) := dk_172 (dk_at dksX11_isOf_2 18 rfl rfl)
abbrev cX11_spared : ByteArray := prog_16_method_129_code
def yX11_spared : MethodName := ⟨RX11, "spared", "(I)J"⟩
def dkwX11_spared_4 : List UInt8 := [54, 4, 132, 5, 1, 167, 255, 212, 42, 21, 4, 182, 1, 206, 42, 27, 182, 1, 200, 32, 101, 173]
abbrev dktX11_spared_4 : List UInt8 := dkwX11_spared_4 ++ []
def dkwX11_spared_3 : List UInt8 := [46, 16, 6, 160, 0, 19, 42, 21, 5, 3, 182, 1, 33, 27, 160, 0, 8, 21, 5, 167, 0, 5, 21, 4]
abbrev dktX11_spared_3 : List UInt8 := dkwX11_spared_3 ++ dktX11_spared_4
def dkwX11_spared_2 : List UInt8 := [133, 97, 65, 2, 54, 4, 3, 54, 5, 21, 5, 42, 180, 0, 17, 162, 0, 41, 42, 180, 0, 14, 21, 5]
abbrev dktX11_spared_2 : List UInt8 := dkwX11_spared_2 ++ dktX11_spared_3
def dkwX11_spared_1 : List UInt8 := [173, 42, 180, 0, 94, 27, 46, 4, 159, 0, 5, 9, 173, 42, 27, 182, 1, 181, 42, 180, 0, 97, 27, 46]
abbrev dktX11_spared_1 : List UInt8 := dkwX11_spared_1 ++ dktX11_spared_2
def dkwX11_spared_0 : List UInt8 := [42, 3, 181, 0, 1, 42, 27, 133, 10, 20, 1, 121, 184, 1, 96, 4, 4, 182, 1, 90, 154, 0, 5, 9]
abbrev dktX11_spared_0 : List UInt8 := dkwX11_spared_0 ++ dktX11_spared_1
theorem dksX11_spared_0 : cX11_spared.data.toList.drop 0 = dktX11_spared_0 := by decide +kernel
theorem dksX11_spared_1 : cX11_spared.data.toList.drop 24 = dktX11_spared_1 := dk_seg dksX11_spared_0 24 rfl rfl
theorem dksX11_spared_2 : cX11_spared.data.toList.drop 48 = dktX11_spared_2 := dk_seg dksX11_spared_1 24 rfl rfl
theorem dksX11_spared_3 : cX11_spared.data.toList.drop 72 = dktX11_spared_3 := dk_seg dksX11_spared_2 24 rfl rfl
theorem dksX11_spared_4 : cX11_spared.data.toList.drop 96 = dktX11_spared_4 := dk_seg dksX11_spared_3 24 rfl rfl
theorem dX11_spared_0 : decode cX11_spared 0 = .ok (.aload_n 0, 1) := dk_42 (dk_at dksX11_spared_0 0 rfl rfl)
theorem dX11_spared_1 : decode cX11_spared 1 = .ok (.iconst 0, 1) := dk_3 (dk_at dksX11_spared_0 1 rfl rfl)
theorem dX11_spared_2 : decode cX11_spared 2 = .ok (.putfield 1, 3) := dk_181 0 1 (dk_at dksX11_spared_0 2 rfl rfl)
theorem dX11_spared_5 : decode cX11_spared 5 = .ok (.aload_n 0, 1) := dk_42 (dk_at dksX11_spared_0 5 rfl rfl)
theorem dX11_spared_6 : decode cX11_spared 6 = .ok (.iload_n 1, 1) := dk_27 (dk_at dksX11_spared_0 6 rfl rfl)
theorem dX11_spared_7 : decode cX11_spared 7 = .ok (.i2l, 1) := dk_133 (dk_at dksX11_spared_0 7 rfl rfl)
theorem dX11_spared_8 : decode cX11_spared 8 = .ok (.lconst 1, 1) := dk_10 (dk_at dksX11_spared_0 8 rfl rfl)
theorem dX11_spared_9 : decode cX11_spared 9 = .ok (.ldc2_w 377, 3) := dk_20 1 121 (dk_at dksX11_spared_0 9 rfl rfl)
theorem dX11_spared_12 : decode cX11_spared 12 = .ok (.invokestatic 352, 3) := dk_184 1 96 (dk_at dksX11_spared_0 12 rfl rfl)
theorem dX11_spared_15 : decode cX11_spared 15 = .ok (.iconst 1, 1) := dk_4 (dk_at dksX11_spared_0 15 rfl rfl)
theorem dX11_spared_16 : decode cX11_spared 16 = .ok (.iconst 1, 1) := dk_4 (dk_at dksX11_spared_0 16 rfl rfl)
theorem dX11_spared_17 : decode cX11_spared 17 = .ok (.invokevirtual 346, 3) := dk_182 1 90 (dk_at dksX11_spared_0 17 rfl rfl)
theorem dX11_spared_20 : decode cX11_spared 20 = .ok (.ifCond .ne 5, 3) := dk_154 0 5 (dk_at dksX11_spared_0 20 rfl rfl)
theorem dX11_spared_23 : decode cX11_spared 23 = .ok (.lconst 0, 1) := dk_9 (dk_at dksX11_spared_0 23 rfl rfl)
theorem dX11_spared_24 : decode cX11_spared 24 = .ok (.lreturn, 1) := dk_173 (dk_at dksX11_spared_1 0 rfl rfl)
theorem dX11_spared_25 : decode cX11_spared 25 = .ok (.aload_n 0, 1) := dk_42 (dk_at dksX11_spared_1 1 rfl rfl)
theorem dX11_spared_26 : decode cX11_spared 26 = .ok (.getfield 94, 3) := dk_180 0 94 (dk_at dksX11_spared_1 2 rfl rfl)
theorem dX11_spared_29 : decode cX11_spared 29 = .ok (.iload_n 1, 1) := dk_27 (dk_at dksX11_spared_1 5 rfl rfl)
theorem dX11_spared_30 : decode cX11_spared 30 = .ok (.iaload, 1) := dk_46 (dk_at dksX11_spared_1 6 rfl rfl)
theorem dX11_spared_31 : decode cX11_spared 31 = .ok (.iconst 1, 1) := dk_4 (dk_at dksX11_spared_1 7 rfl rfl)
theorem dX11_spared_32 : decode cX11_spared 32 = .ok (.if_icmp .eq 5, 3) := dk_159 0 5 (dk_at dksX11_spared_1 8 rfl rfl)
theorem dX11_spared_35 : decode cX11_spared 35 = .ok (.lconst 0, 1) := dk_9 (dk_at dksX11_spared_1 11 rfl rfl)
theorem dX11_spared_36 : decode cX11_spared 36 = .ok (.lreturn, 1) := dk_173 (dk_at dksX11_spared_1 12 rfl rfl)
theorem dX11_spared_37 : decode cX11_spared 37 = .ok (.aload_n 0, 1) := dk_42 (dk_at dksX11_spared_1 13 rfl rfl)
theorem dX11_spared_38 : decode cX11_spared 38 = .ok (.iload_n 1, 1) := dk_27 (dk_at dksX11_spared_1 14 rfl rfl)
theorem dX11_spared_39 : decode cX11_spared 39 = .ok (.invokevirtual 437, 3) := dk_182 1 181 (dk_at dksX11_spared_1 15 rfl rfl)
theorem dX11_spared_42 : decode cX11_spared 42 = .ok (.aload_n 0, 1) := dk_42 (dk_at dksX11_spared_1 18 rfl rfl)
theorem dX11_spared_43 : decode cX11_spared 43 = .ok (.getfield 97, 3) := dk_180 0 97 (dk_at dksX11_spared_1 19 rfl rfl)
theorem dX11_spared_46 : decode cX11_spared 46 = .ok (.iload_n 1, 1) := dk_27 (dk_at dksX11_spared_1 22 rfl rfl)
theorem dX11_spared_47 : decode cX11_spared 47 = .ok (.iaload, 1) := dk_46 (dk_at dksX11_spared_1 23 rfl rfl)
theorem dX11_spared_48 : decode cX11_spared 48 = .ok (.i2l, 1) := dk_133 (dk_at dksX11_spared_2 0 rfl rfl)
theorem dX11_spared_49 : decode cX11_spared 49 = .ok (.ladd, 1) := dk_97 (dk_at dksX11_spared_2 1 rfl rfl)
theorem dX11_spared_50 : decode cX11_spared 50 = .ok (.lstore_n 2, 1) := dk_65 (dk_at dksX11_spared_2 2 rfl rfl)
theorem dX11_spared_51 : decode cX11_spared 51 = .ok (.iconst (-1), 1) := dk_2 (dk_at dksX11_spared_2 3 rfl rfl)
theorem dX11_spared_52 : decode cX11_spared 52 = .ok (.istore 4, 2) := dk_54 4 (dk_at dksX11_spared_2 4 rfl rfl)
theorem dX11_spared_54 : decode cX11_spared 54 = .ok (.iconst 0, 1) := dk_3 (dk_at dksX11_spared_2 6 rfl rfl)
theorem dX11_spared_55 : decode cX11_spared 55 = .ok (.istore 5, 2) := dk_54 5 (dk_at dksX11_spared_2 7 rfl rfl)
theorem dX11_spared_57 : decode cX11_spared 57 = .ok (.iload 5, 2) := dk_21 5 (dk_at dksX11_spared_2 9 rfl rfl)
theorem dX11_spared_59 : decode cX11_spared 59 = .ok (.aload_n 0, 1) := dk_42 (dk_at dksX11_spared_2 11 rfl rfl)
theorem dX11_spared_60 : decode cX11_spared 60 = .ok (.getfield 17, 3) := dk_180 0 17 (dk_at dksX11_spared_2 12 rfl rfl)
theorem dX11_spared_63 : decode cX11_spared 63 = .ok (.if_icmp .ge 41, 3) := dk_162 0 41 (dk_at dksX11_spared_2 15 rfl rfl)
theorem dX11_spared_66 : decode cX11_spared 66 = .ok (.aload_n 0, 1) := dk_42 (dk_at dksX11_spared_2 18 rfl rfl)
theorem dX11_spared_67 : decode cX11_spared 67 = .ok (.getfield 14, 3) := dk_180 0 14 (dk_at dksX11_spared_2 19 rfl rfl)
theorem dX11_spared_70 : decode cX11_spared 70 = .ok (.iload 5, 2) := dk_21 5 (dk_at dksX11_spared_2 22 rfl rfl)
theorem dX11_spared_72 : decode cX11_spared 72 = .ok (.iaload, 1) := dk_46 (dk_at dksX11_spared_3 0 rfl rfl)
theorem dX11_spared_73 : decode cX11_spared 73 = .ok (.bipush 6, 2) := dk_16 6 (dk_at dksX11_spared_3 1 rfl rfl)
theorem dX11_spared_75 : decode cX11_spared 75 = .ok (.if_icmp .ne 19, 3) := dk_160 0 19 (dk_at dksX11_spared_3 3 rfl rfl)
theorem dX11_spared_78 : decode cX11_spared 78 = .ok (.aload_n 0, 1) := dk_42 (dk_at dksX11_spared_3 6 rfl rfl)
theorem dX11_spared_79 : decode cX11_spared 79 = .ok (.iload 5, 2) := dk_21 5 (dk_at dksX11_spared_3 7 rfl rfl)
theorem dX11_spared_81 : decode cX11_spared 81 = .ok (.iconst 0, 1) := dk_3 (dk_at dksX11_spared_3 9 rfl rfl)
theorem dX11_spared_82 : decode cX11_spared 82 = .ok (.invokevirtual 289, 3) := dk_182 1 33 (dk_at dksX11_spared_3 10 rfl rfl)
theorem dX11_spared_85 : decode cX11_spared 85 = .ok (.iload_n 1, 1) := dk_27 (dk_at dksX11_spared_3 13 rfl rfl)
theorem dX11_spared_86 : decode cX11_spared 86 = .ok (.if_icmp .ne 8, 3) := dk_160 0 8 (dk_at dksX11_spared_3 14 rfl rfl)
theorem dX11_spared_89 : decode cX11_spared 89 = .ok (.iload 5, 2) := dk_21 5 (dk_at dksX11_spared_3 17 rfl rfl)
theorem dX11_spared_91 : decode cX11_spared 91 = .ok (.goto 5, 3) := dk_167 0 5 (dk_at dksX11_spared_3 19 rfl rfl)
theorem dX11_spared_94 : decode cX11_spared 94 = .ok (.iload 4, 2) := dk_21 4 (dk_at dksX11_spared_3 22 rfl rfl)
theorem dX11_spared_96 : decode cX11_spared 96 = .ok (.istore 4, 2) := dk_54 4 (dk_at dksX11_spared_4 0 rfl rfl)
theorem dX11_spared_98 : decode cX11_spared 98 = .ok (.iinc 5 1, 3) := dk_132 5 1 (dk_at dksX11_spared_4 2 rfl rfl)
theorem dX11_spared_101 : decode cX11_spared 101 = .ok (.goto (-44), 3) := dk_167 255 212 (dk_at dksX11_spared_4 5 rfl rfl)
theorem dX11_spared_104 : decode cX11_spared 104 = .ok (.aload_n 0, 1) := dk_42 (dk_at dksX11_spared_4 8 rfl rfl)
theorem dX11_spared_105 : decode cX11_spared 105 = .ok (.iload 4, 2) := dk_21 4 (dk_at dksX11_spared_4 9 rfl rfl)
theorem dX11_spared_107 : decode cX11_spared 107 = .ok (.invokevirtual 462, 3) := dk_182 1 206 (dk_at dksX11_spared_4 11 rfl rfl)
theorem dX11_spared_110 : decode cX11_spared 110 = .ok (.aload_n 0, 1) := dk_42 (dk_at dksX11_spared_4 14 rfl rfl)
theorem dX11_spared_111 : decode cX11_spared 111 = .ok (.iload_n 1, 1) := dk_27 (dk_at dksX11_spared_4 15 rfl rfl)
theorem dX11_spared_112 : decode cX11_spared 112 = .ok (.invokevirtual 456, 3) := dk_182 1 200 (dk_at dksX11_spared_4 16 rfl rfl)
theorem dX11_spared_115 : decode cX11_spared 115 = .ok (.lload_n 2, 1) := dk_32 (dk_at dksX11_spared_4 19 rfl rfl)
theorem dX11_spared_116 : decode cX11_spared 116 = .ok (.lsub, 1) := dk_101 (dk_at dksX11_spared_4 20 rfl rfl)
theorem dX11_spared_117 : decode cX11_spared 117 = .ok (.lreturn, 1) := dk_173 (dk_at dksX11_spared_4 21 rfl rfl)
abbrev cX11_cover : ByteArray := prog_16_method_130_code
def yX11_cover : MethodName := ⟨RX11, "cover", "(III)I"⟩
def dkwX11_cover_6 : List UInt8 := [97, 55, 4, 132, 6, 1, 167, 255, 171, 22, 4, 136, 172]
abbrev dktX11_cover_6 : List UInt8 := dkwX11_cover_6 ++ []
def dkwX11_cover_5 : List UInt8 := [184, 0, 179, 55, 9, 22, 4, 22, 9, 22, 7, 148, 158, 0, 11, 22, 9, 22, 7, 101, 167, 0, 4, 9]
abbrev dktX11_cover_5 : List UInt8 := dkwX11_cover_5 ++ dktX11_cover_6
def dkwX11_cover_4 : List UInt8 := [180, 0, 39, 21, 6, 46, 133, 167, 0, 5, 28, 133, 55, 7, 42, 21, 6, 182, 0, 165, 133, 29, 133]
abbrev dktX11_cover_4 : List UInt8 := dkwX11_cover_4 ++ dktX11_cover_5
def dkwX11_cover_3 : List UInt8 := [27, 182, 1, 27, 154, 0, 6, 167, 0, 65, 42, 180, 0, 39, 21, 6, 46, 28, 164, 0, 14, 42]
abbrev dktX11_cover_3 : List UInt8 := dkwX11_cover_3 ++ dktX11_cover_4
def dkwX11_cover_2 : List UInt8 := [182, 1, 90, 154, 0, 5, 3, 172, 9, 55, 4, 3, 54, 6, 21, 6, 16, 40, 162, 0, 84, 42, 21, 6]
abbrev dktX11_cover_2 : List UInt8 := dkwX11_cover_2 ++ dktX11_cover_3
def dkwX11_cover_1 : List UInt8 := [153, 0, 20, 29, 133, 28, 133, 20, 1, 131, 184, 1, 96, 153, 0, 7, 4, 167, 0, 4, 3, 4, 4]
abbrev dktX11_cover_1 : List UInt8 := dkwX11_cover_1 ++ dktX11_cover_2
def dkwX11_cover_0 : List UInt8 := [42, 3, 181, 0, 1, 42, 27, 133, 9, 20, 1, 94, 184, 1, 96, 153, 0, 27, 28, 184, 1, 170]
abbrev dktX11_cover_0 : List UInt8 := dkwX11_cover_0 ++ dktX11_cover_1
theorem dksX11_cover_0 : cX11_cover.data.toList.drop 0 = dktX11_cover_0 := by decide +kernel
theorem dksX11_cover_1 : cX11_cover.data.toList.drop 22 = dktX11_cover_1 := dk_seg dksX11_cover_0 22 rfl rfl
theorem dksX11_cover_2 : cX11_cover.data.toList.drop 45 = dktX11_cover_2 := dk_seg dksX11_cover_1 23 rfl rfl
theorem dksX11_cover_3 : cX11_cover.data.toList.drop 69 = dktX11_cover_3 := dk_seg dksX11_cover_2 24 rfl rfl
theorem dksX11_cover_4 : cX11_cover.data.toList.drop 91 = dktX11_cover_4 := dk_seg dksX11_cover_3 22 rfl rfl
theorem dksX11_cover_5 : cX11_cover.data.toList.drop 114 = dktX11_cover_5 := dk_seg dksX11_cover_4 23 rfl rfl
theorem dksX11_cover_6 : cX11_cover.data.toList.drop 138 = dktX11_cover_6 := dk_seg dksX11_cover_5 24 rfl rfl
theorem dX11_cover_0 : decode cX11_cover 0 = .ok (.aload_n 0, 1) := dk_42 (dk_at dksX11_cover_0 0 rfl rfl)
theorem dX11_cover_1 : decode cX11_cover 1 = .ok (.iconst 0, 1) := dk_3 (dk_at dksX11_cover_0 1 rfl rfl)
theorem dX11_cover_2 : decode cX11_cover 2 = .ok (.putfield 1, 3) := dk_181 0 1 (dk_at dksX11_cover_0 2 rfl rfl)
theorem dX11_cover_5 : decode cX11_cover 5 = .ok (.aload_n 0, 1) := dk_42 (dk_at dksX11_cover_0 5 rfl rfl)
theorem dX11_cover_6 : decode cX11_cover 6 = .ok (.iload_n 1, 1) := dk_27 (dk_at dksX11_cover_0 6 rfl rfl)
theorem dX11_cover_7 : decode cX11_cover 7 = .ok (.i2l, 1) := dk_133 (dk_at dksX11_cover_0 7 rfl rfl)
theorem dX11_cover_8 : decode cX11_cover 8 = .ok (.lconst 0, 1) := dk_9 (dk_at dksX11_cover_0 8 rfl rfl)
theorem dX11_cover_9 : decode cX11_cover 9 = .ok (.ldc2_w 350, 3) := dk_20 1 94 (dk_at dksX11_cover_0 9 rfl rfl)
theorem dX11_cover_12 : decode cX11_cover 12 = .ok (.invokestatic 352, 3) := dk_184 1 96 (dk_at dksX11_cover_0 12 rfl rfl)
theorem dX11_cover_15 : decode cX11_cover 15 = .ok (.ifCond .eq 27, 3) := dk_153 0 27 (dk_at dksX11_cover_0 15 rfl rfl)
theorem dX11_cover_18 : decode cX11_cover 18 = .ok (.iload_n 2, 1) := dk_28 (dk_at dksX11_cover_0 18 rfl rfl)
theorem dX11_cover_19 : decode cX11_cover 19 = .ok (.invokestatic 426, 3) := dk_184 1 170 (dk_at dksX11_cover_0 19 rfl rfl)
theorem dX11_cover_22 : decode cX11_cover 22 = .ok (.ifCond .eq 20, 3) := dk_153 0 20 (dk_at dksX11_cover_1 0 rfl rfl)
theorem dX11_cover_25 : decode cX11_cover 25 = .ok (.iload_n 3, 1) := dk_29 (dk_at dksX11_cover_1 3 rfl rfl)
theorem dX11_cover_26 : decode cX11_cover 26 = .ok (.i2l, 1) := dk_133 (dk_at dksX11_cover_1 4 rfl rfl)
theorem dX11_cover_27 : decode cX11_cover 27 = .ok (.iload_n 2, 1) := dk_28 (dk_at dksX11_cover_1 5 rfl rfl)
theorem dX11_cover_28 : decode cX11_cover 28 = .ok (.i2l, 1) := dk_133 (dk_at dksX11_cover_1 6 rfl rfl)
theorem dX11_cover_29 : decode cX11_cover 29 = .ok (.ldc2_w 387, 3) := dk_20 1 131 (dk_at dksX11_cover_1 7 rfl rfl)
theorem dX11_cover_32 : decode cX11_cover 32 = .ok (.invokestatic 352, 3) := dk_184 1 96 (dk_at dksX11_cover_1 10 rfl rfl)
theorem dX11_cover_35 : decode cX11_cover 35 = .ok (.ifCond .eq 7, 3) := dk_153 0 7 (dk_at dksX11_cover_1 13 rfl rfl)
theorem dX11_cover_38 : decode cX11_cover 38 = .ok (.iconst 1, 1) := dk_4 (dk_at dksX11_cover_1 16 rfl rfl)
theorem dX11_cover_39 : decode cX11_cover 39 = .ok (.goto 4, 3) := dk_167 0 4 (dk_at dksX11_cover_1 17 rfl rfl)
theorem dX11_cover_42 : decode cX11_cover 42 = .ok (.iconst 0, 1) := dk_3 (dk_at dksX11_cover_1 20 rfl rfl)
theorem dX11_cover_43 : decode cX11_cover 43 = .ok (.iconst 1, 1) := dk_4 (dk_at dksX11_cover_1 21 rfl rfl)
theorem dX11_cover_44 : decode cX11_cover 44 = .ok (.iconst 1, 1) := dk_4 (dk_at dksX11_cover_1 22 rfl rfl)
theorem dX11_cover_45 : decode cX11_cover 45 = .ok (.invokevirtual 346, 3) := dk_182 1 90 (dk_at dksX11_cover_2 0 rfl rfl)
theorem dX11_cover_48 : decode cX11_cover 48 = .ok (.ifCond .ne 5, 3) := dk_154 0 5 (dk_at dksX11_cover_2 3 rfl rfl)
theorem dX11_cover_51 : decode cX11_cover 51 = .ok (.iconst 0, 1) := dk_3 (dk_at dksX11_cover_2 6 rfl rfl)
theorem dX11_cover_52 : decode cX11_cover 52 = .ok (.ireturn, 1) := dk_172 (dk_at dksX11_cover_2 7 rfl rfl)
theorem dX11_cover_53 : decode cX11_cover 53 = .ok (.lconst 0, 1) := dk_9 (dk_at dksX11_cover_2 8 rfl rfl)
theorem dX11_cover_54 : decode cX11_cover 54 = .ok (.lstore 4, 2) := dk_55 4 (dk_at dksX11_cover_2 9 rfl rfl)
theorem dX11_cover_56 : decode cX11_cover 56 = .ok (.iconst 0, 1) := dk_3 (dk_at dksX11_cover_2 11 rfl rfl)
theorem dX11_cover_57 : decode cX11_cover 57 = .ok (.istore 6, 2) := dk_54 6 (dk_at dksX11_cover_2 12 rfl rfl)
theorem dX11_cover_59 : decode cX11_cover 59 = .ok (.iload 6, 2) := dk_21 6 (dk_at dksX11_cover_2 14 rfl rfl)
theorem dX11_cover_61 : decode cX11_cover 61 = .ok (.bipush 40, 2) := dk_16 40 (dk_at dksX11_cover_2 16 rfl rfl)
theorem dX11_cover_63 : decode cX11_cover 63 = .ok (.if_icmp .ge 84, 3) := dk_162 0 84 (dk_at dksX11_cover_2 18 rfl rfl)
theorem dX11_cover_66 : decode cX11_cover 66 = .ok (.aload_n 0, 1) := dk_42 (dk_at dksX11_cover_2 21 rfl rfl)
theorem dX11_cover_67 : decode cX11_cover 67 = .ok (.iload 6, 2) := dk_21 6 (dk_at dksX11_cover_2 22 rfl rfl)
theorem dX11_cover_69 : decode cX11_cover 69 = .ok (.iload_n 1, 1) := dk_27 (dk_at dksX11_cover_3 0 rfl rfl)
theorem dX11_cover_70 : decode cX11_cover 70 = .ok (.invokevirtual 283, 3) := dk_182 1 27 (dk_at dksX11_cover_3 1 rfl rfl)
theorem dX11_cover_73 : decode cX11_cover 73 = .ok (.ifCond .ne 6, 3) := dk_154 0 6 (dk_at dksX11_cover_3 4 rfl rfl)
theorem dX11_cover_76 : decode cX11_cover 76 = .ok (.goto 65, 3) := dk_167 0 65 (dk_at dksX11_cover_3 7 rfl rfl)
theorem dX11_cover_79 : decode cX11_cover 79 = .ok (.aload_n 0, 1) := dk_42 (dk_at dksX11_cover_3 10 rfl rfl)
theorem dX11_cover_80 : decode cX11_cover 80 = .ok (.getfield 39, 3) := dk_180 0 39 (dk_at dksX11_cover_3 11 rfl rfl)
theorem dX11_cover_83 : decode cX11_cover 83 = .ok (.iload 6, 2) := dk_21 6 (dk_at dksX11_cover_3 14 rfl rfl)
theorem dX11_cover_85 : decode cX11_cover 85 = .ok (.iaload, 1) := dk_46 (dk_at dksX11_cover_3 16 rfl rfl)
theorem dX11_cover_86 : decode cX11_cover 86 = .ok (.iload_n 2, 1) := dk_28 (dk_at dksX11_cover_3 17 rfl rfl)
theorem dX11_cover_87 : decode cX11_cover 87 = .ok (.if_icmp .le 14, 3) := dk_164 0 14 (dk_at dksX11_cover_3 18 rfl rfl)
theorem dX11_cover_90 : decode cX11_cover 90 = .ok (.aload_n 0, 1) := dk_42 (dk_at dksX11_cover_3 21 rfl rfl)
theorem dX11_cover_91 : decode cX11_cover 91 = .ok (.getfield 39, 3) := dk_180 0 39 (dk_at dksX11_cover_4 0 rfl rfl)
theorem dX11_cover_94 : decode cX11_cover 94 = .ok (.iload 6, 2) := dk_21 6 (dk_at dksX11_cover_4 3 rfl rfl)
theorem dX11_cover_96 : decode cX11_cover 96 = .ok (.iaload, 1) := dk_46 (dk_at dksX11_cover_4 5 rfl rfl)
theorem dX11_cover_97 : decode cX11_cover 97 = .ok (.i2l, 1) := dk_133 (dk_at dksX11_cover_4 6 rfl rfl)
theorem dX11_cover_98 : decode cX11_cover 98 = .ok (.goto 5, 3) := dk_167 0 5 (dk_at dksX11_cover_4 7 rfl rfl)
theorem dX11_cover_101 : decode cX11_cover 101 = .ok (.iload_n 2, 1) := dk_28 (dk_at dksX11_cover_4 10 rfl rfl)
theorem dX11_cover_102 : decode cX11_cover 102 = .ok (.i2l, 1) := dk_133 (dk_at dksX11_cover_4 11 rfl rfl)
theorem dX11_cover_103 : decode cX11_cover 103 = .ok (.lstore 7, 2) := dk_55 7 (dk_at dksX11_cover_4 12 rfl rfl)
theorem dX11_cover_105 : decode cX11_cover 105 = .ok (.aload_n 0, 1) := dk_42 (dk_at dksX11_cover_4 14 rfl rfl)
theorem dX11_cover_106 : decode cX11_cover 106 = .ok (.iload 6, 2) := dk_21 6 (dk_at dksX11_cover_4 15 rfl rfl)
theorem dX11_cover_108 : decode cX11_cover 108 = .ok (.invokevirtual 165, 3) := dk_182 0 165 (dk_at dksX11_cover_4 17 rfl rfl)
theorem dX11_cover_111 : decode cX11_cover 111 = .ok (.i2l, 1) := dk_133 (dk_at dksX11_cover_4 20 rfl rfl)
theorem dX11_cover_112 : decode cX11_cover 112 = .ok (.iload_n 3, 1) := dk_29 (dk_at dksX11_cover_4 21 rfl rfl)
theorem dX11_cover_113 : decode cX11_cover 113 = .ok (.i2l, 1) := dk_133 (dk_at dksX11_cover_4 22 rfl rfl)
theorem dX11_cover_114 : decode cX11_cover 114 = .ok (.invokestatic 179, 3) := dk_184 0 179 (dk_at dksX11_cover_5 0 rfl rfl)
theorem dX11_cover_117 : decode cX11_cover 117 = .ok (.lstore 9, 2) := dk_55 9 (dk_at dksX11_cover_5 3 rfl rfl)
theorem dX11_cover_119 : decode cX11_cover 119 = .ok (.lload 4, 2) := dk_22 4 (dk_at dksX11_cover_5 5 rfl rfl)
theorem dX11_cover_121 : decode cX11_cover 121 = .ok (.lload 9, 2) := dk_22 9 (dk_at dksX11_cover_5 7 rfl rfl)
theorem dX11_cover_123 : decode cX11_cover 123 = .ok (.lload 7, 2) := dk_22 7 (dk_at dksX11_cover_5 9 rfl rfl)
theorem dX11_cover_125 : decode cX11_cover 125 = .ok (.lcmp, 1) := dk_148 (dk_at dksX11_cover_5 11 rfl rfl)
theorem dX11_cover_126 : decode cX11_cover 126 = .ok (.ifCond .le 11, 3) := dk_158 0 11 (dk_at dksX11_cover_5 12 rfl rfl)
theorem dX11_cover_129 : decode cX11_cover 129 = .ok (.lload 9, 2) := dk_22 9 (dk_at dksX11_cover_5 15 rfl rfl)
theorem dX11_cover_131 : decode cX11_cover 131 = .ok (.lload 7, 2) := dk_22 7 (dk_at dksX11_cover_5 17 rfl rfl)
theorem dX11_cover_133 : decode cX11_cover 133 = .ok (.lsub, 1) := dk_101 (dk_at dksX11_cover_5 19 rfl rfl)
theorem dX11_cover_134 : decode cX11_cover 134 = .ok (.goto 4, 3) := dk_167 0 4 (dk_at dksX11_cover_5 20 rfl rfl)
theorem dX11_cover_137 : decode cX11_cover 137 = .ok (.lconst 0, 1) := dk_9 (dk_at dksX11_cover_5 23 rfl rfl)
theorem dX11_cover_138 : decode cX11_cover 138 = .ok (.ladd, 1) := dk_97 (dk_at dksX11_cover_6 0 rfl rfl)
theorem dX11_cover_139 : decode cX11_cover 139 = .ok (.lstore 4, 2) := dk_55 4 (dk_at dksX11_cover_6 1 rfl rfl)
theorem dX11_cover_141 : decode cX11_cover 141 = .ok (.iinc 6 1, 3) := dk_132 6 1 (dk_at dksX11_cover_6 3 rfl rfl)
theorem dX11_cover_144 : decode cX11_cover 144 = .ok (.goto (-85), 3) := dk_167 255 171 (dk_at dksX11_cover_6 6 rfl rfl)
theorem dX11_cover_147 : decode cX11_cover 147 = .ok (.lload 4, 2) := dk_22 4 (dk_at dksX11_cover_6 9 rfl rfl)
theorem dX11_cover_149 : decode cX11_cover 149 = .ok (.l2i, 1) := dk_136 (dk_at dksX11_cover_6 11 rfl rfl)
theorem dX11_cover_150 : decode cX11_cover 150 = .ok (.ireturn, 1) := dk_172 (dk_at dksX11_cover_6 12 rfl rfl)
abbrev cX11_reach : ByteArray := prog_16_method_131_code
def yX11_reach : MethodName := ⟨RX11, "reach", "(I)J"⟩
def dkwX11_reach_5 : List UInt8 := [167, 255, 192, 32, 173]
abbrev dktX11_reach_5 : List UInt8 := dkwX11_reach_5 ++ []
def dkwX11_reach_4 : List UInt8 := [182, 0, 172, 133, 42, 16, 24, 21, 4, 182, 0, 183, 97, 167, 0, 4, 9, 97, 65, 132, 4, 1]
abbrev dktX11_reach_4 : List UInt8 := dkwX11_reach_4 ++ dktX11_reach_5
def dkwX11_reach_3 : List UInt8 := [153, 0, 38, 42, 180, 0, 39, 21, 4, 46, 42, 180, 0, 39, 27, 46, 162, 0, 22, 42, 21, 4]
abbrev dktX11_reach_3 : List UInt8 := dkwX11_reach_3 ++ dktX11_reach_4
def dkwX11_reach_2 : List UInt8 := [54, 4, 21, 4, 16, 40, 162, 0, 63, 32, 42, 21, 4, 42, 180, 0, 36, 27, 46, 182, 1, 27]
abbrev dktX11_reach_2 : List UInt8 := dkwX11_reach_2 ++ dktX11_reach_3
def dkwX11_reach_1 : List UInt8 := [154, 0, 7, 20, 1, 163, 173, 42, 16, 24, 182, 0, 145, 42, 27, 182, 0, 172, 133, 10, 97, 65, 3]
abbrev dktX11_reach_1 : List UInt8 := dkwX11_reach_1 ++ dktX11_reach_2
def dkwX11_reach_0 : List UInt8 := [42, 3, 181, 0, 1, 42, 27, 4, 182, 1, 118, 154, 0, 5, 9, 173, 42, 27, 182, 0, 175, 9, 148]
abbrev dktX11_reach_0 : List UInt8 := dkwX11_reach_0 ++ dktX11_reach_1
theorem dksX11_reach_0 : cX11_reach.data.toList.drop 0 = dktX11_reach_0 := by decide +kernel
theorem dksX11_reach_1 : cX11_reach.data.toList.drop 23 = dktX11_reach_1 := dk_seg dksX11_reach_0 23 rfl rfl
theorem dksX11_reach_2 : cX11_reach.data.toList.drop 46 = dktX11_reach_2 := dk_seg dksX11_reach_1 23 rfl rfl
theorem dksX11_reach_3 : cX11_reach.data.toList.drop 68 = dktX11_reach_3 := dk_seg dksX11_reach_2 22 rfl rfl
theorem dksX11_reach_4 : cX11_reach.data.toList.drop 90 = dktX11_reach_4 := dk_seg dksX11_reach_3 22 rfl rfl
theorem dksX11_reach_5 : cX11_reach.data.toList.drop 112 = dktX11_reach_5 := dk_seg dksX11_reach_4 22 rfl rfl
theorem dX11_reach_0 : decode cX11_reach 0 = .ok (.aload_n 0, 1) := dk_42 (dk_at dksX11_reach_0 0 rfl rfl)
theorem dX11_reach_1 : decode cX11_reach 1 = .ok (.iconst 0, 1) := dk_3 (dk_at dksX11_reach_0 1 rfl rfl)
theorem dX11_reach_2 : decode cX11_reach 2 = .ok (.putfield 1, 3) := dk_181 0 1 (dk_at dksX11_reach_0 2 rfl rfl)
theorem dX11_reach_5 : decode cX11_reach 5 = .ok (.aload_n 0, 1) := dk_42 (dk_at dksX11_reach_0 5 rfl rfl)
theorem dX11_reach_6 : decode cX11_reach 6 = .ok (.iload_n 1, 1) := dk_27 (dk_at dksX11_reach_0 6 rfl rfl)
theorem dX11_reach_7 : decode cX11_reach 7 = .ok (.iconst 1, 1) := dk_4 (dk_at dksX11_reach_0 7 rfl rfl)
theorem dX11_reach_8 : decode cX11_reach 8 = .ok (.invokevirtual 374, 3) := dk_182 1 118 (dk_at dksX11_reach_0 8 rfl rfl)
theorem dX11_reach_11 : decode cX11_reach 11 = .ok (.ifCond .ne 5, 3) := dk_154 0 5 (dk_at dksX11_reach_0 11 rfl rfl)
theorem dX11_reach_14 : decode cX11_reach 14 = .ok (.lconst 0, 1) := dk_9 (dk_at dksX11_reach_0 14 rfl rfl)
theorem dX11_reach_15 : decode cX11_reach 15 = .ok (.lreturn, 1) := dk_173 (dk_at dksX11_reach_0 15 rfl rfl)
theorem dX11_reach_16 : decode cX11_reach 16 = .ok (.aload_n 0, 1) := dk_42 (dk_at dksX11_reach_0 16 rfl rfl)
theorem dX11_reach_17 : decode cX11_reach 17 = .ok (.iload_n 1, 1) := dk_27 (dk_at dksX11_reach_0 17 rfl rfl)
theorem dX11_reach_18 : decode cX11_reach 18 = .ok (.invokevirtual 175, 3) := dk_182 0 175 (dk_at dksX11_reach_0 18 rfl rfl)
theorem dX11_reach_21 : decode cX11_reach 21 = .ok (.lconst 0, 1) := dk_9 (dk_at dksX11_reach_0 21 rfl rfl)
theorem dX11_reach_22 : decode cX11_reach 22 = .ok (.lcmp, 1) := dk_148 (dk_at dksX11_reach_0 22 rfl rfl)
theorem dX11_reach_23 : decode cX11_reach 23 = .ok (.ifCond .ne 7, 3) := dk_154 0 7 (dk_at dksX11_reach_1 0 rfl rfl)
theorem dX11_reach_26 : decode cX11_reach 26 = .ok (.ldc2_w 419, 3) := dk_20 1 163 (dk_at dksX11_reach_1 3 rfl rfl)
theorem dX11_reach_29 : decode cX11_reach 29 = .ok (.lreturn, 1) := dk_173 (dk_at dksX11_reach_1 6 rfl rfl)
theorem dX11_reach_30 : decode cX11_reach 30 = .ok (.aload_n 0, 1) := dk_42 (dk_at dksX11_reach_1 7 rfl rfl)
theorem dX11_reach_31 : decode cX11_reach 31 = .ok (.bipush 24, 2) := dk_16 24 (dk_at dksX11_reach_1 8 rfl rfl)
theorem dX11_reach_33 : decode cX11_reach 33 = .ok (.invokevirtual 145, 3) := dk_182 0 145 (dk_at dksX11_reach_1 10 rfl rfl)
theorem dX11_reach_36 : decode cX11_reach 36 = .ok (.aload_n 0, 1) := dk_42 (dk_at dksX11_reach_1 13 rfl rfl)
theorem dX11_reach_37 : decode cX11_reach 37 = .ok (.iload_n 1, 1) := dk_27 (dk_at dksX11_reach_1 14 rfl rfl)
theorem dX11_reach_38 : decode cX11_reach 38 = .ok (.invokevirtual 172, 3) := dk_182 0 172 (dk_at dksX11_reach_1 15 rfl rfl)
theorem dX11_reach_41 : decode cX11_reach 41 = .ok (.i2l, 1) := dk_133 (dk_at dksX11_reach_1 18 rfl rfl)
theorem dX11_reach_42 : decode cX11_reach 42 = .ok (.lconst 1, 1) := dk_10 (dk_at dksX11_reach_1 19 rfl rfl)
theorem dX11_reach_43 : decode cX11_reach 43 = .ok (.ladd, 1) := dk_97 (dk_at dksX11_reach_1 20 rfl rfl)
theorem dX11_reach_44 : decode cX11_reach 44 = .ok (.lstore_n 2, 1) := dk_65 (dk_at dksX11_reach_1 21 rfl rfl)
theorem dX11_reach_45 : decode cX11_reach 45 = .ok (.iconst 0, 1) := dk_3 (dk_at dksX11_reach_1 22 rfl rfl)
theorem dX11_reach_46 : decode cX11_reach 46 = .ok (.istore 4, 2) := dk_54 4 (dk_at dksX11_reach_2 0 rfl rfl)
theorem dX11_reach_48 : decode cX11_reach 48 = .ok (.iload 4, 2) := dk_21 4 (dk_at dksX11_reach_2 2 rfl rfl)
theorem dX11_reach_50 : decode cX11_reach 50 = .ok (.bipush 40, 2) := dk_16 40 (dk_at dksX11_reach_2 4 rfl rfl)
theorem dX11_reach_52 : decode cX11_reach 52 = .ok (.if_icmp .ge 63, 3) := dk_162 0 63 (dk_at dksX11_reach_2 6 rfl rfl)
theorem dX11_reach_55 : decode cX11_reach 55 = .ok (.lload_n 2, 1) := dk_32 (dk_at dksX11_reach_2 9 rfl rfl)
theorem dX11_reach_56 : decode cX11_reach 56 = .ok (.aload_n 0, 1) := dk_42 (dk_at dksX11_reach_2 10 rfl rfl)
theorem dX11_reach_57 : decode cX11_reach 57 = .ok (.iload 4, 2) := dk_21 4 (dk_at dksX11_reach_2 11 rfl rfl)
theorem dX11_reach_59 : decode cX11_reach 59 = .ok (.aload_n 0, 1) := dk_42 (dk_at dksX11_reach_2 13 rfl rfl)
theorem dX11_reach_60 : decode cX11_reach 60 = .ok (.getfield 36, 3) := dk_180 0 36 (dk_at dksX11_reach_2 14 rfl rfl)
theorem dX11_reach_63 : decode cX11_reach 63 = .ok (.iload_n 1, 1) := dk_27 (dk_at dksX11_reach_2 17 rfl rfl)
theorem dX11_reach_64 : decode cX11_reach 64 = .ok (.iaload, 1) := dk_46 (dk_at dksX11_reach_2 18 rfl rfl)
theorem dX11_reach_65 : decode cX11_reach 65 = .ok (.invokevirtual 283, 3) := dk_182 1 27 (dk_at dksX11_reach_2 19 rfl rfl)
theorem dX11_reach_68 : decode cX11_reach 68 = .ok (.ifCond .eq 38, 3) := dk_153 0 38 (dk_at dksX11_reach_3 0 rfl rfl)
theorem dX11_reach_71 : decode cX11_reach 71 = .ok (.aload_n 0, 1) := dk_42 (dk_at dksX11_reach_3 3 rfl rfl)
theorem dX11_reach_72 : decode cX11_reach 72 = .ok (.getfield 39, 3) := dk_180 0 39 (dk_at dksX11_reach_3 4 rfl rfl)
theorem dX11_reach_75 : decode cX11_reach 75 = .ok (.iload 4, 2) := dk_21 4 (dk_at dksX11_reach_3 7 rfl rfl)
theorem dX11_reach_77 : decode cX11_reach 77 = .ok (.iaload, 1) := dk_46 (dk_at dksX11_reach_3 9 rfl rfl)
theorem dX11_reach_78 : decode cX11_reach 78 = .ok (.aload_n 0, 1) := dk_42 (dk_at dksX11_reach_3 10 rfl rfl)
theorem dX11_reach_79 : decode cX11_reach 79 = .ok (.getfield 39, 3) := dk_180 0 39 (dk_at dksX11_reach_3 11 rfl rfl)
theorem dX11_reach_82 : decode cX11_reach 82 = .ok (.iload_n 1, 1) := dk_27 (dk_at dksX11_reach_3 14 rfl rfl)
theorem dX11_reach_83 : decode cX11_reach 83 = .ok (.iaload, 1) := dk_46 (dk_at dksX11_reach_3 15 rfl rfl)
theorem dX11_reach_84 : decode cX11_reach 84 = .ok (.if_icmp .ge 22, 3) := dk_162 0 22 (dk_at dksX11_reach_3 16 rfl rfl)
theorem dX11_reach_87 : decode cX11_reach 87 = .ok (.aload_n 0, 1) := dk_42 (dk_at dksX11_reach_3 19 rfl rfl)
theorem dX11_reach_88 : decode cX11_reach 88 = .ok (.iload 4, 2) := dk_21 4 (dk_at dksX11_reach_3 20 rfl rfl)
theorem dX11_reach_90 : decode cX11_reach 90 = .ok (.invokevirtual 172, 3) := dk_182 0 172 (dk_at dksX11_reach_4 0 rfl rfl)
theorem dX11_reach_93 : decode cX11_reach 93 = .ok (.i2l, 1) := dk_133 (dk_at dksX11_reach_4 3 rfl rfl)
theorem dX11_reach_94 : decode cX11_reach 94 = .ok (.aload_n 0, 1) := dk_42 (dk_at dksX11_reach_4 4 rfl rfl)
theorem dX11_reach_95 : decode cX11_reach 95 = .ok (.bipush 24, 2) := dk_16 24 (dk_at dksX11_reach_4 5 rfl rfl)
theorem dX11_reach_97 : decode cX11_reach 97 = .ok (.iload 4, 2) := dk_21 4 (dk_at dksX11_reach_4 7 rfl rfl)
theorem dX11_reach_99 : decode cX11_reach 99 = .ok (.invokevirtual 183, 3) := dk_182 0 183 (dk_at dksX11_reach_4 9 rfl rfl)
theorem dX11_reach_102 : decode cX11_reach 102 = .ok (.ladd, 1) := dk_97 (dk_at dksX11_reach_4 12 rfl rfl)
theorem dX11_reach_103 : decode cX11_reach 103 = .ok (.goto 4, 3) := dk_167 0 4 (dk_at dksX11_reach_4 13 rfl rfl)
theorem dX11_reach_106 : decode cX11_reach 106 = .ok (.lconst 0, 1) := dk_9 (dk_at dksX11_reach_4 16 rfl rfl)
theorem dX11_reach_107 : decode cX11_reach 107 = .ok (.ladd, 1) := dk_97 (dk_at dksX11_reach_4 17 rfl rfl)
theorem dX11_reach_108 : decode cX11_reach 108 = .ok (.lstore_n 2, 1) := dk_65 (dk_at dksX11_reach_4 18 rfl rfl)
theorem dX11_reach_109 : decode cX11_reach 109 = .ok (.iinc 4 1, 3) := dk_132 4 1 (dk_at dksX11_reach_4 19 rfl rfl)
theorem dX11_reach_112 : decode cX11_reach 112 = .ok (.goto (-64), 3) := dk_167 255 192 (dk_at dksX11_reach_5 0 rfl rfl)
theorem dX11_reach_115 : decode cX11_reach 115 = .ok (.lload_n 2, 1) := dk_32 (dk_at dksX11_reach_5 3 rfl rfl)
theorem dX11_reach_116 : decode cX11_reach 116 = .ok (.lreturn, 1) := dk_173 (dk_at dksX11_reach_5 4 rfl rfl)
abbrev cX11_widest : ByteArray := prog_16_method_132_code
def yX11_widest : MethodName := ⟨RX11, "widest", "(II)I"⟩
def dkwX11_widest_4 : List UInt8 := [54, 4, 132, 5, 1, 167, 255, 209, 28, 154, 0, 7, 29, 167, 0, 5, 21, 4, 172]
abbrev dktX11_widest_4 : List UInt8 := dkwX11_widest_4 ++ []
def dkwX11_widest_3 : List UInt8 := [42, 21, 6, 182, 0, 172, 21, 4, 163, 0, 6, 167, 0, 14, 21, 6, 62, 42, 21, 6, 182, 0, 172]
abbrev dktX11_widest_3 : List UInt8 := dkwX11_widest_3 ++ dktX11_widest_4
def dkwX11_widest_2 : List UInt8 := [54, 4, 3, 54, 5, 21, 5, 42, 27, 182, 0, 169, 162, 0, 43, 42, 27, 21, 5, 182, 0, 161, 54, 6]
abbrev dktX11_widest_2 : List UInt8 := dkwX11_widest_2 ++ dktX11_widest_3
def dkwX11_widest_1 : List UInt8 := [184, 1, 96, 153, 0, 7, 4, 167, 0, 4, 3, 4, 4, 182, 1, 90, 154, 0, 5, 3, 172, 2, 62, 3]
abbrev dktX11_widest_1 : List UInt8 := dkwX11_widest_1 ++ dktX11_widest_2
def dkwX11_widest_0 : List UInt8 := [42, 3, 181, 0, 1, 42, 27, 133, 9, 20, 1, 94, 184, 1, 96, 153, 0, 17, 28, 133, 9, 10]
abbrev dktX11_widest_0 : List UInt8 := dkwX11_widest_0 ++ dktX11_widest_1
theorem dksX11_widest_0 : cX11_widest.data.toList.drop 0 = dktX11_widest_0 := by decide +kernel
theorem dksX11_widest_1 : cX11_widest.data.toList.drop 22 = dktX11_widest_1 := dk_seg dksX11_widest_0 22 rfl rfl
theorem dksX11_widest_2 : cX11_widest.data.toList.drop 46 = dktX11_widest_2 := dk_seg dksX11_widest_1 24 rfl rfl
theorem dksX11_widest_3 : cX11_widest.data.toList.drop 70 = dktX11_widest_3 := dk_seg dksX11_widest_2 24 rfl rfl
theorem dksX11_widest_4 : cX11_widest.data.toList.drop 93 = dktX11_widest_4 := dk_seg dksX11_widest_3 23 rfl rfl
theorem dX11_widest_0 : decode cX11_widest 0 = .ok (.aload_n 0, 1) := dk_42 (dk_at dksX11_widest_0 0 rfl rfl)
theorem dX11_widest_1 : decode cX11_widest 1 = .ok (.iconst 0, 1) := dk_3 (dk_at dksX11_widest_0 1 rfl rfl)
theorem dX11_widest_2 : decode cX11_widest 2 = .ok (.putfield 1, 3) := dk_181 0 1 (dk_at dksX11_widest_0 2 rfl rfl)
theorem dX11_widest_5 : decode cX11_widest 5 = .ok (.aload_n 0, 1) := dk_42 (dk_at dksX11_widest_0 5 rfl rfl)
theorem dX11_widest_6 : decode cX11_widest 6 = .ok (.iload_n 1, 1) := dk_27 (dk_at dksX11_widest_0 6 rfl rfl)
theorem dX11_widest_7 : decode cX11_widest 7 = .ok (.i2l, 1) := dk_133 (dk_at dksX11_widest_0 7 rfl rfl)
theorem dX11_widest_8 : decode cX11_widest 8 = .ok (.lconst 0, 1) := dk_9 (dk_at dksX11_widest_0 8 rfl rfl)
theorem dX11_widest_9 : decode cX11_widest 9 = .ok (.ldc2_w 350, 3) := dk_20 1 94 (dk_at dksX11_widest_0 9 rfl rfl)
theorem dX11_widest_12 : decode cX11_widest 12 = .ok (.invokestatic 352, 3) := dk_184 1 96 (dk_at dksX11_widest_0 12 rfl rfl)
theorem dX11_widest_15 : decode cX11_widest 15 = .ok (.ifCond .eq 17, 3) := dk_153 0 17 (dk_at dksX11_widest_0 15 rfl rfl)
theorem dX11_widest_18 : decode cX11_widest 18 = .ok (.iload_n 2, 1) := dk_28 (dk_at dksX11_widest_0 18 rfl rfl)
theorem dX11_widest_19 : decode cX11_widest 19 = .ok (.i2l, 1) := dk_133 (dk_at dksX11_widest_0 19 rfl rfl)
theorem dX11_widest_20 : decode cX11_widest 20 = .ok (.lconst 0, 1) := dk_9 (dk_at dksX11_widest_0 20 rfl rfl)
theorem dX11_widest_21 : decode cX11_widest 21 = .ok (.lconst 1, 1) := dk_10 (dk_at dksX11_widest_0 21 rfl rfl)
theorem dX11_widest_22 : decode cX11_widest 22 = .ok (.invokestatic 352, 3) := dk_184 1 96 (dk_at dksX11_widest_1 0 rfl rfl)
theorem dX11_widest_25 : decode cX11_widest 25 = .ok (.ifCond .eq 7, 3) := dk_153 0 7 (dk_at dksX11_widest_1 3 rfl rfl)
theorem dX11_widest_28 : decode cX11_widest 28 = .ok (.iconst 1, 1) := dk_4 (dk_at dksX11_widest_1 6 rfl rfl)
theorem dX11_widest_29 : decode cX11_widest 29 = .ok (.goto 4, 3) := dk_167 0 4 (dk_at dksX11_widest_1 7 rfl rfl)
theorem dX11_widest_32 : decode cX11_widest 32 = .ok (.iconst 0, 1) := dk_3 (dk_at dksX11_widest_1 10 rfl rfl)
theorem dX11_widest_33 : decode cX11_widest 33 = .ok (.iconst 1, 1) := dk_4 (dk_at dksX11_widest_1 11 rfl rfl)
theorem dX11_widest_34 : decode cX11_widest 34 = .ok (.iconst 1, 1) := dk_4 (dk_at dksX11_widest_1 12 rfl rfl)
theorem dX11_widest_35 : decode cX11_widest 35 = .ok (.invokevirtual 346, 3) := dk_182 1 90 (dk_at dksX11_widest_1 13 rfl rfl)
theorem dX11_widest_38 : decode cX11_widest 38 = .ok (.ifCond .ne 5, 3) := dk_154 0 5 (dk_at dksX11_widest_1 16 rfl rfl)
theorem dX11_widest_41 : decode cX11_widest 41 = .ok (.iconst 0, 1) := dk_3 (dk_at dksX11_widest_1 19 rfl rfl)
theorem dX11_widest_42 : decode cX11_widest 42 = .ok (.ireturn, 1) := dk_172 (dk_at dksX11_widest_1 20 rfl rfl)
theorem dX11_widest_43 : decode cX11_widest 43 = .ok (.iconst (-1), 1) := dk_2 (dk_at dksX11_widest_1 21 rfl rfl)
theorem dX11_widest_44 : decode cX11_widest 44 = .ok (.istore_n 3, 1) := dk_62 (dk_at dksX11_widest_1 22 rfl rfl)
theorem dX11_widest_45 : decode cX11_widest 45 = .ok (.iconst 0, 1) := dk_3 (dk_at dksX11_widest_1 23 rfl rfl)
theorem dX11_widest_46 : decode cX11_widest 46 = .ok (.istore 4, 2) := dk_54 4 (dk_at dksX11_widest_2 0 rfl rfl)
theorem dX11_widest_48 : decode cX11_widest 48 = .ok (.iconst 0, 1) := dk_3 (dk_at dksX11_widest_2 2 rfl rfl)
theorem dX11_widest_49 : decode cX11_widest 49 = .ok (.istore 5, 2) := dk_54 5 (dk_at dksX11_widest_2 3 rfl rfl)
theorem dX11_widest_51 : decode cX11_widest 51 = .ok (.iload 5, 2) := dk_21 5 (dk_at dksX11_widest_2 5 rfl rfl)
theorem dX11_widest_53 : decode cX11_widest 53 = .ok (.aload_n 0, 1) := dk_42 (dk_at dksX11_widest_2 7 rfl rfl)
theorem dX11_widest_54 : decode cX11_widest 54 = .ok (.iload_n 1, 1) := dk_27 (dk_at dksX11_widest_2 8 rfl rfl)
theorem dX11_widest_55 : decode cX11_widest 55 = .ok (.invokevirtual 169, 3) := dk_182 0 169 (dk_at dksX11_widest_2 9 rfl rfl)
theorem dX11_widest_58 : decode cX11_widest 58 = .ok (.if_icmp .ge 43, 3) := dk_162 0 43 (dk_at dksX11_widest_2 12 rfl rfl)
theorem dX11_widest_61 : decode cX11_widest 61 = .ok (.aload_n 0, 1) := dk_42 (dk_at dksX11_widest_2 15 rfl rfl)
theorem dX11_widest_62 : decode cX11_widest 62 = .ok (.iload_n 1, 1) := dk_27 (dk_at dksX11_widest_2 16 rfl rfl)
theorem dX11_widest_63 : decode cX11_widest 63 = .ok (.iload 5, 2) := dk_21 5 (dk_at dksX11_widest_2 17 rfl rfl)
theorem dX11_widest_65 : decode cX11_widest 65 = .ok (.invokevirtual 161, 3) := dk_182 0 161 (dk_at dksX11_widest_2 19 rfl rfl)
theorem dX11_widest_68 : decode cX11_widest 68 = .ok (.istore 6, 2) := dk_54 6 (dk_at dksX11_widest_2 22 rfl rfl)
theorem dX11_widest_70 : decode cX11_widest 70 = .ok (.aload_n 0, 1) := dk_42 (dk_at dksX11_widest_3 0 rfl rfl)
theorem dX11_widest_71 : decode cX11_widest 71 = .ok (.iload 6, 2) := dk_21 6 (dk_at dksX11_widest_3 1 rfl rfl)
theorem dX11_widest_73 : decode cX11_widest 73 = .ok (.invokevirtual 172, 3) := dk_182 0 172 (dk_at dksX11_widest_3 3 rfl rfl)
theorem dX11_widest_76 : decode cX11_widest 76 = .ok (.iload 4, 2) := dk_21 4 (dk_at dksX11_widest_3 6 rfl rfl)
theorem dX11_widest_78 : decode cX11_widest 78 = .ok (.if_icmp .gt 6, 3) := dk_163 0 6 (dk_at dksX11_widest_3 8 rfl rfl)
theorem dX11_widest_81 : decode cX11_widest 81 = .ok (.goto 14, 3) := dk_167 0 14 (dk_at dksX11_widest_3 11 rfl rfl)
theorem dX11_widest_84 : decode cX11_widest 84 = .ok (.iload 6, 2) := dk_21 6 (dk_at dksX11_widest_3 14 rfl rfl)
theorem dX11_widest_86 : decode cX11_widest 86 = .ok (.istore_n 3, 1) := dk_62 (dk_at dksX11_widest_3 16 rfl rfl)
theorem dX11_widest_87 : decode cX11_widest 87 = .ok (.aload_n 0, 1) := dk_42 (dk_at dksX11_widest_3 17 rfl rfl)
theorem dX11_widest_88 : decode cX11_widest 88 = .ok (.iload 6, 2) := dk_21 6 (dk_at dksX11_widest_3 18 rfl rfl)
theorem dX11_widest_90 : decode cX11_widest 90 = .ok (.invokevirtual 172, 3) := dk_182 0 172 (dk_at dksX11_widest_3 20 rfl rfl)
theorem dX11_widest_93 : decode cX11_widest 93 = .ok (.istore 4, 2) := dk_54 4 (dk_at dksX11_widest_4 0 rfl rfl)
theorem dX11_widest_95 : decode cX11_widest 95 = .ok (.iinc 5 1, 3) := dk_132 5 1 (dk_at dksX11_widest_4 2 rfl rfl)
theorem dX11_widest_98 : decode cX11_widest 98 = .ok (.goto (-47), 3) := dk_167 255 209 (dk_at dksX11_widest_4 5 rfl rfl)
theorem dX11_widest_101 : decode cX11_widest 101 = .ok (.iload_n 2, 1) := dk_28 (dk_at dksX11_widest_4 8 rfl rfl)
theorem dX11_widest_102 : decode cX11_widest 102 = .ok (.ifCond .ne 7, 3) := dk_154 0 7 (dk_at dksX11_widest_4 9 rfl rfl)
theorem dX11_widest_105 : decode cX11_widest 105 = .ok (.iload_n 3, 1) := dk_29 (dk_at dksX11_widest_4 12 rfl rfl)
theorem dX11_widest_106 : decode cX11_widest 106 = .ok (.goto 5, 3) := dk_167 0 5 (dk_at dksX11_widest_4 13 rfl rfl)
theorem dX11_widest_109 : decode cX11_widest 109 = .ok (.iload 4, 2) := dk_21 4 (dk_at dksX11_widest_4 16 rfl rfl)
theorem dX11_widest_111 : decode cX11_widest 111 = .ok (.ireturn, 1) := dk_172 (dk_at dksX11_widest_4 18 rfl rfl)
abbrev cX11_strongest : ByteArray := prog_16_method_133_code
def yX11_strongest : MethodName := ⟨RX11, "strongest", "(I)J"⟩
def dkwX11_strongest_3 : List UInt8 := [27, 154, 0, 8, 28, 133, 167, 0, 4, 33, 173]
abbrev dktX11_strongest_3 : List UInt8 := dkwX11_strongest_3 ++ []
def dkwX11_strongest_2 : List UInt8 := [157, 0, 6, 167, 0, 15, 21, 5, 61, 42, 21, 5, 16, 6, 182, 1, 167, 66, 132, 5, 1, 167, 255, 218]
abbrev dktX11_strongest_2 : List UInt8 := dkwX11_strongest_2 ++ dktX11_strongest_3
def dkwX11_strongest_1 : List UInt8 := [61, 9, 66, 3, 54, 5, 21, 5, 16, 12, 162, 0, 37, 42, 21, 5, 16, 6, 182, 1, 167, 33, 148]
abbrev dktX11_strongest_1 : List UInt8 := dkwX11_strongest_1 ++ dktX11_strongest_2
def dkwX11_strongest_0 : List UInt8 := [42, 3, 181, 0, 1, 42, 27, 133, 9, 10, 184, 1, 96, 4, 4, 182, 1, 90, 154, 0, 5, 9, 173, 2]
abbrev dktX11_strongest_0 : List UInt8 := dkwX11_strongest_0 ++ dktX11_strongest_1
theorem dksX11_strongest_0 : cX11_strongest.data.toList.drop 0 = dktX11_strongest_0 := by decide +kernel
theorem dksX11_strongest_1 : cX11_strongest.data.toList.drop 24 = dktX11_strongest_1 := dk_seg dksX11_strongest_0 24 rfl rfl
theorem dksX11_strongest_2 : cX11_strongest.data.toList.drop 47 = dktX11_strongest_2 := dk_seg dksX11_strongest_1 23 rfl rfl
theorem dksX11_strongest_3 : cX11_strongest.data.toList.drop 71 = dktX11_strongest_3 := dk_seg dksX11_strongest_2 24 rfl rfl
theorem dX11_strongest_0 : decode cX11_strongest 0 = .ok (.aload_n 0, 1) := dk_42 (dk_at dksX11_strongest_0 0 rfl rfl)
theorem dX11_strongest_1 : decode cX11_strongest 1 = .ok (.iconst 0, 1) := dk_3 (dk_at dksX11_strongest_0 1 rfl rfl)
theorem dX11_strongest_2 : decode cX11_strongest 2 = .ok (.putfield 1, 3) := dk_181 0 1 (dk_at dksX11_strongest_0 2 rfl rfl)
theorem dX11_strongest_5 : decode cX11_strongest 5 = .ok (.aload_n 0, 1) := dk_42 (dk_at dksX11_strongest_0 5 rfl rfl)
theorem dX11_strongest_6 : decode cX11_strongest 6 = .ok (.iload_n 1, 1) := dk_27 (dk_at dksX11_strongest_0 6 rfl rfl)
theorem dX11_strongest_7 : decode cX11_strongest 7 = .ok (.i2l, 1) := dk_133 (dk_at dksX11_strongest_0 7 rfl rfl)
theorem dX11_strongest_8 : decode cX11_strongest 8 = .ok (.lconst 0, 1) := dk_9 (dk_at dksX11_strongest_0 8 rfl rfl)
theorem dX11_strongest_9 : decode cX11_strongest 9 = .ok (.lconst 1, 1) := dk_10 (dk_at dksX11_strongest_0 9 rfl rfl)
theorem dX11_strongest_10 : decode cX11_strongest 10 = .ok (.invokestatic 352, 3) := dk_184 1 96 (dk_at dksX11_strongest_0 10 rfl rfl)
theorem dX11_strongest_13 : decode cX11_strongest 13 = .ok (.iconst 1, 1) := dk_4 (dk_at dksX11_strongest_0 13 rfl rfl)
theorem dX11_strongest_14 : decode cX11_strongest 14 = .ok (.iconst 1, 1) := dk_4 (dk_at dksX11_strongest_0 14 rfl rfl)
theorem dX11_strongest_15 : decode cX11_strongest 15 = .ok (.invokevirtual 346, 3) := dk_182 1 90 (dk_at dksX11_strongest_0 15 rfl rfl)
theorem dX11_strongest_18 : decode cX11_strongest 18 = .ok (.ifCond .ne 5, 3) := dk_154 0 5 (dk_at dksX11_strongest_0 18 rfl rfl)
theorem dX11_strongest_21 : decode cX11_strongest 21 = .ok (.lconst 0, 1) := dk_9 (dk_at dksX11_strongest_0 21 rfl rfl)
theorem dX11_strongest_22 : decode cX11_strongest 22 = .ok (.lreturn, 1) := dk_173 (dk_at dksX11_strongest_0 22 rfl rfl)
theorem dX11_strongest_23 : decode cX11_strongest 23 = .ok (.iconst (-1), 1) := dk_2 (dk_at dksX11_strongest_0 23 rfl rfl)
theorem dX11_strongest_24 : decode cX11_strongest 24 = .ok (.istore_n 2, 1) := dk_61 (dk_at dksX11_strongest_1 0 rfl rfl)
theorem dX11_strongest_25 : decode cX11_strongest 25 = .ok (.lconst 0, 1) := dk_9 (dk_at dksX11_strongest_1 1 rfl rfl)
theorem dX11_strongest_26 : decode cX11_strongest 26 = .ok (.lstore_n 3, 1) := dk_66 (dk_at dksX11_strongest_1 2 rfl rfl)
theorem dX11_strongest_27 : decode cX11_strongest 27 = .ok (.iconst 0, 1) := dk_3 (dk_at dksX11_strongest_1 3 rfl rfl)
theorem dX11_strongest_28 : decode cX11_strongest 28 = .ok (.istore 5, 2) := dk_54 5 (dk_at dksX11_strongest_1 4 rfl rfl)
theorem dX11_strongest_30 : decode cX11_strongest 30 = .ok (.iload 5, 2) := dk_21 5 (dk_at dksX11_strongest_1 6 rfl rfl)
theorem dX11_strongest_32 : decode cX11_strongest 32 = .ok (.bipush 12, 2) := dk_16 12 (dk_at dksX11_strongest_1 8 rfl rfl)
theorem dX11_strongest_34 : decode cX11_strongest 34 = .ok (.if_icmp .ge 37, 3) := dk_162 0 37 (dk_at dksX11_strongest_1 10 rfl rfl)
theorem dX11_strongest_37 : decode cX11_strongest 37 = .ok (.aload_n 0, 1) := dk_42 (dk_at dksX11_strongest_1 13 rfl rfl)
theorem dX11_strongest_38 : decode cX11_strongest 38 = .ok (.iload 5, 2) := dk_21 5 (dk_at dksX11_strongest_1 14 rfl rfl)
theorem dX11_strongest_40 : decode cX11_strongest 40 = .ok (.bipush 6, 2) := dk_16 6 (dk_at dksX11_strongest_1 16 rfl rfl)
theorem dX11_strongest_42 : decode cX11_strongest 42 = .ok (.invokevirtual 423, 3) := dk_182 1 167 (dk_at dksX11_strongest_1 18 rfl rfl)
theorem dX11_strongest_45 : decode cX11_strongest 45 = .ok (.lload_n 3, 1) := dk_33 (dk_at dksX11_strongest_1 21 rfl rfl)
theorem dX11_strongest_46 : decode cX11_strongest 46 = .ok (.lcmp, 1) := dk_148 (dk_at dksX11_strongest_1 22 rfl rfl)
theorem dX11_strongest_47 : decode cX11_strongest 47 = .ok (.ifCond .gt 6, 3) := dk_157 0 6 (dk_at dksX11_strongest_2 0 rfl rfl)
theorem dX11_strongest_50 : decode cX11_strongest 50 = .ok (.goto 15, 3) := dk_167 0 15 (dk_at dksX11_strongest_2 3 rfl rfl)
theorem dX11_strongest_53 : decode cX11_strongest 53 = .ok (.iload 5, 2) := dk_21 5 (dk_at dksX11_strongest_2 6 rfl rfl)
theorem dX11_strongest_55 : decode cX11_strongest 55 = .ok (.istore_n 2, 1) := dk_61 (dk_at dksX11_strongest_2 8 rfl rfl)
theorem dX11_strongest_56 : decode cX11_strongest 56 = .ok (.aload_n 0, 1) := dk_42 (dk_at dksX11_strongest_2 9 rfl rfl)
theorem dX11_strongest_57 : decode cX11_strongest 57 = .ok (.iload 5, 2) := dk_21 5 (dk_at dksX11_strongest_2 10 rfl rfl)
theorem dX11_strongest_59 : decode cX11_strongest 59 = .ok (.bipush 6, 2) := dk_16 6 (dk_at dksX11_strongest_2 12 rfl rfl)
theorem dX11_strongest_61 : decode cX11_strongest 61 = .ok (.invokevirtual 423, 3) := dk_182 1 167 (dk_at dksX11_strongest_2 14 rfl rfl)
theorem dX11_strongest_64 : decode cX11_strongest 64 = .ok (.lstore_n 3, 1) := dk_66 (dk_at dksX11_strongest_2 17 rfl rfl)
theorem dX11_strongest_65 : decode cX11_strongest 65 = .ok (.iinc 5 1, 3) := dk_132 5 1 (dk_at dksX11_strongest_2 18 rfl rfl)
theorem dX11_strongest_68 : decode cX11_strongest 68 = .ok (.goto (-38), 3) := dk_167 255 218 (dk_at dksX11_strongest_2 21 rfl rfl)
theorem dX11_strongest_71 : decode cX11_strongest 71 = .ok (.iload_n 1, 1) := dk_27 (dk_at dksX11_strongest_3 0 rfl rfl)
theorem dX11_strongest_72 : decode cX11_strongest 72 = .ok (.ifCond .ne 8, 3) := dk_154 0 8 (dk_at dksX11_strongest_3 1 rfl rfl)
theorem dX11_strongest_75 : decode cX11_strongest 75 = .ok (.iload_n 2, 1) := dk_28 (dk_at dksX11_strongest_3 4 rfl rfl)
theorem dX11_strongest_76 : decode cX11_strongest 76 = .ok (.i2l, 1) := dk_133 (dk_at dksX11_strongest_3 5 rfl rfl)
theorem dX11_strongest_77 : decode cX11_strongest 77 = .ok (.goto 4, 3) := dk_167 0 4 (dk_at dksX11_strongest_3 6 rfl rfl)
theorem dX11_strongest_80 : decode cX11_strongest 80 = .ok (.lload_n 3, 1) := dk_33 (dk_at dksX11_strongest_3 9 rfl rfl)
theorem dX11_strongest_81 : decode cX11_strongest 81 = .ok (.lreturn, 1) := dk_173 (dk_at dksX11_strongest_3 10 rfl rfl)
abbrev cX11_holds : ByteArray := prog_16_method_134_code
def yX11_holds : MethodName := ⟨RX11, "holds", "(III)I"⟩
def dkwX11_holds_4 : List UInt8 := [160, 0, 16, 42, 180, 0, 54, 7, 21, 4, 104, 21, 5, 96, 46, 172, 132, 5, 1, 167, 255, 206, 3, 172]
abbrev dktX11_holds_4 : List UInt8 := dkwX11_holds_4 ++ []
def dkwX11_holds_3 : List UInt8 := [42, 180, 0, 48, 21, 4, 46, 162, 0, 38, 42, 180, 0, 51, 7, 21, 4, 104, 21, 5, 96, 46, 27]
abbrev dktX11_holds_3 : List UInt8 := dkwX11_holds_3 ++ dktX11_holds_4
def dkwX11_holds_2 : List UInt8 := [154, 0, 5, 3, 172, 42, 28, 29, 182, 1, 173, 54, 4, 3, 54, 5, 21, 4, 2, 159, 0, 50, 21, 5]
abbrev dktX11_holds_2 : List UInt8 := dkwX11_holds_2 ++ dktX11_holds_3
def dkwX11_holds_1 : List UInt8 := [184, 1, 96, 153, 0, 14, 29, 184, 1, 170, 153, 0, 7, 4, 167, 0, 4, 3, 4, 4, 182, 1, 90]
abbrev dktX11_holds_1 : List UInt8 := dkwX11_holds_1 ++ dktX11_holds_2
def dkwX11_holds_0 : List UInt8 := [42, 3, 181, 0, 1, 42, 27, 133, 9, 20, 1, 121, 184, 1, 96, 153, 0, 26, 28, 133, 9, 20, 1, 94]
abbrev dktX11_holds_0 : List UInt8 := dkwX11_holds_0 ++ dktX11_holds_1
theorem dksX11_holds_0 : cX11_holds.data.toList.drop 0 = dktX11_holds_0 := by decide +kernel
theorem dksX11_holds_1 : cX11_holds.data.toList.drop 24 = dktX11_holds_1 := dk_seg dksX11_holds_0 24 rfl rfl
theorem dksX11_holds_2 : cX11_holds.data.toList.drop 47 = dktX11_holds_2 := dk_seg dksX11_holds_1 23 rfl rfl
theorem dksX11_holds_3 : cX11_holds.data.toList.drop 71 = dktX11_holds_3 := dk_seg dksX11_holds_2 24 rfl rfl
theorem dksX11_holds_4 : cX11_holds.data.toList.drop 94 = dktX11_holds_4 := dk_seg dksX11_holds_3 23 rfl rfl
theorem dX11_holds_0 : decode cX11_holds 0 = .ok (.aload_n 0, 1) := dk_42 (dk_at dksX11_holds_0 0 rfl rfl)
theorem dX11_holds_1 : decode cX11_holds 1 = .ok (.iconst 0, 1) := dk_3 (dk_at dksX11_holds_0 1 rfl rfl)
theorem dX11_holds_2 : decode cX11_holds 2 = .ok (.putfield 1, 3) := dk_181 0 1 (dk_at dksX11_holds_0 2 rfl rfl)
theorem dX11_holds_5 : decode cX11_holds 5 = .ok (.aload_n 0, 1) := dk_42 (dk_at dksX11_holds_0 5 rfl rfl)
theorem dX11_holds_6 : decode cX11_holds 6 = .ok (.iload_n 1, 1) := dk_27 (dk_at dksX11_holds_0 6 rfl rfl)
theorem dX11_holds_7 : decode cX11_holds 7 = .ok (.i2l, 1) := dk_133 (dk_at dksX11_holds_0 7 rfl rfl)
theorem dX11_holds_8 : decode cX11_holds 8 = .ok (.lconst 0, 1) := dk_9 (dk_at dksX11_holds_0 8 rfl rfl)
theorem dX11_holds_9 : decode cX11_holds 9 = .ok (.ldc2_w 377, 3) := dk_20 1 121 (dk_at dksX11_holds_0 9 rfl rfl)
theorem dX11_holds_12 : decode cX11_holds 12 = .ok (.invokestatic 352, 3) := dk_184 1 96 (dk_at dksX11_holds_0 12 rfl rfl)
theorem dX11_holds_15 : decode cX11_holds 15 = .ok (.ifCond .eq 26, 3) := dk_153 0 26 (dk_at dksX11_holds_0 15 rfl rfl)
theorem dX11_holds_18 : decode cX11_holds 18 = .ok (.iload_n 2, 1) := dk_28 (dk_at dksX11_holds_0 18 rfl rfl)
theorem dX11_holds_19 : decode cX11_holds 19 = .ok (.i2l, 1) := dk_133 (dk_at dksX11_holds_0 19 rfl rfl)
theorem dX11_holds_20 : decode cX11_holds 20 = .ok (.lconst 0, 1) := dk_9 (dk_at dksX11_holds_0 20 rfl rfl)
theorem dX11_holds_21 : decode cX11_holds 21 = .ok (.ldc2_w 350, 3) := dk_20 1 94 (dk_at dksX11_holds_0 21 rfl rfl)
theorem dX11_holds_24 : decode cX11_holds 24 = .ok (.invokestatic 352, 3) := dk_184 1 96 (dk_at dksX11_holds_1 0 rfl rfl)
theorem dX11_holds_27 : decode cX11_holds 27 = .ok (.ifCond .eq 14, 3) := dk_153 0 14 (dk_at dksX11_holds_1 3 rfl rfl)
theorem dX11_holds_30 : decode cX11_holds 30 = .ok (.iload_n 3, 1) := dk_29 (dk_at dksX11_holds_1 6 rfl rfl)
theorem dX11_holds_31 : decode cX11_holds 31 = .ok (.invokestatic 426, 3) := dk_184 1 170 (dk_at dksX11_holds_1 7 rfl rfl)
theorem dX11_holds_34 : decode cX11_holds 34 = .ok (.ifCond .eq 7, 3) := dk_153 0 7 (dk_at dksX11_holds_1 10 rfl rfl)
theorem dX11_holds_37 : decode cX11_holds 37 = .ok (.iconst 1, 1) := dk_4 (dk_at dksX11_holds_1 13 rfl rfl)
theorem dX11_holds_38 : decode cX11_holds 38 = .ok (.goto 4, 3) := dk_167 0 4 (dk_at dksX11_holds_1 14 rfl rfl)
theorem dX11_holds_41 : decode cX11_holds 41 = .ok (.iconst 0, 1) := dk_3 (dk_at dksX11_holds_1 17 rfl rfl)
theorem dX11_holds_42 : decode cX11_holds 42 = .ok (.iconst 1, 1) := dk_4 (dk_at dksX11_holds_1 18 rfl rfl)
theorem dX11_holds_43 : decode cX11_holds 43 = .ok (.iconst 1, 1) := dk_4 (dk_at dksX11_holds_1 19 rfl rfl)
theorem dX11_holds_44 : decode cX11_holds 44 = .ok (.invokevirtual 346, 3) := dk_182 1 90 (dk_at dksX11_holds_1 20 rfl rfl)
theorem dX11_holds_47 : decode cX11_holds 47 = .ok (.ifCond .ne 5, 3) := dk_154 0 5 (dk_at dksX11_holds_2 0 rfl rfl)
theorem dX11_holds_50 : decode cX11_holds 50 = .ok (.iconst 0, 1) := dk_3 (dk_at dksX11_holds_2 3 rfl rfl)
theorem dX11_holds_51 : decode cX11_holds 51 = .ok (.ireturn, 1) := dk_172 (dk_at dksX11_holds_2 4 rfl rfl)
theorem dX11_holds_52 : decode cX11_holds 52 = .ok (.aload_n 0, 1) := dk_42 (dk_at dksX11_holds_2 5 rfl rfl)
theorem dX11_holds_53 : decode cX11_holds 53 = .ok (.iload_n 2, 1) := dk_28 (dk_at dksX11_holds_2 6 rfl rfl)
theorem dX11_holds_54 : decode cX11_holds 54 = .ok (.iload_n 3, 1) := dk_29 (dk_at dksX11_holds_2 7 rfl rfl)
theorem dX11_holds_55 : decode cX11_holds 55 = .ok (.invokevirtual 429, 3) := dk_182 1 173 (dk_at dksX11_holds_2 8 rfl rfl)
theorem dX11_holds_58 : decode cX11_holds 58 = .ok (.istore 4, 2) := dk_54 4 (dk_at dksX11_holds_2 11 rfl rfl)
theorem dX11_holds_60 : decode cX11_holds 60 = .ok (.iconst 0, 1) := dk_3 (dk_at dksX11_holds_2 13 rfl rfl)
theorem dX11_holds_61 : decode cX11_holds 61 = .ok (.istore 5, 2) := dk_54 5 (dk_at dksX11_holds_2 14 rfl rfl)
theorem dX11_holds_63 : decode cX11_holds 63 = .ok (.iload 4, 2) := dk_21 4 (dk_at dksX11_holds_2 16 rfl rfl)
theorem dX11_holds_65 : decode cX11_holds 65 = .ok (.iconst (-1), 1) := dk_2 (dk_at dksX11_holds_2 18 rfl rfl)
theorem dX11_holds_66 : decode cX11_holds 66 = .ok (.if_icmp .eq 50, 3) := dk_159 0 50 (dk_at dksX11_holds_2 19 rfl rfl)
theorem dX11_holds_69 : decode cX11_holds 69 = .ok (.iload 5, 2) := dk_21 5 (dk_at dksX11_holds_2 22 rfl rfl)
theorem dX11_holds_71 : decode cX11_holds 71 = .ok (.aload_n 0, 1) := dk_42 (dk_at dksX11_holds_3 0 rfl rfl)
theorem dX11_holds_72 : decode cX11_holds 72 = .ok (.getfield 48, 3) := dk_180 0 48 (dk_at dksX11_holds_3 1 rfl rfl)
theorem dX11_holds_75 : decode cX11_holds 75 = .ok (.iload 4, 2) := dk_21 4 (dk_at dksX11_holds_3 4 rfl rfl)
theorem dX11_holds_77 : decode cX11_holds 77 = .ok (.iaload, 1) := dk_46 (dk_at dksX11_holds_3 6 rfl rfl)
theorem dX11_holds_78 : decode cX11_holds 78 = .ok (.if_icmp .ge 38, 3) := dk_162 0 38 (dk_at dksX11_holds_3 7 rfl rfl)
theorem dX11_holds_81 : decode cX11_holds 81 = .ok (.aload_n 0, 1) := dk_42 (dk_at dksX11_holds_3 10 rfl rfl)
theorem dX11_holds_82 : decode cX11_holds 82 = .ok (.getfield 51, 3) := dk_180 0 51 (dk_at dksX11_holds_3 11 rfl rfl)
theorem dX11_holds_85 : decode cX11_holds 85 = .ok (.iconst 4, 1) := dk_7 (dk_at dksX11_holds_3 14 rfl rfl)
theorem dX11_holds_86 : decode cX11_holds 86 = .ok (.iload 4, 2) := dk_21 4 (dk_at dksX11_holds_3 15 rfl rfl)
theorem dX11_holds_88 : decode cX11_holds 88 = .ok (.imul, 1) := dk_104 (dk_at dksX11_holds_3 17 rfl rfl)
theorem dX11_holds_89 : decode cX11_holds 89 = .ok (.iload 5, 2) := dk_21 5 (dk_at dksX11_holds_3 18 rfl rfl)
theorem dX11_holds_91 : decode cX11_holds 91 = .ok (.iadd, 1) := dk_96 (dk_at dksX11_holds_3 20 rfl rfl)
theorem dX11_holds_92 : decode cX11_holds 92 = .ok (.iaload, 1) := dk_46 (dk_at dksX11_holds_3 21 rfl rfl)
theorem dX11_holds_93 : decode cX11_holds 93 = .ok (.iload_n 1, 1) := dk_27 (dk_at dksX11_holds_3 22 rfl rfl)
theorem dX11_holds_94 : decode cX11_holds 94 = .ok (.if_icmp .ne 16, 3) := dk_160 0 16 (dk_at dksX11_holds_4 0 rfl rfl)
theorem dX11_holds_97 : decode cX11_holds 97 = .ok (.aload_n 0, 1) := dk_42 (dk_at dksX11_holds_4 3 rfl rfl)
theorem dX11_holds_98 : decode cX11_holds 98 = .ok (.getfield 54, 3) := dk_180 0 54 (dk_at dksX11_holds_4 4 rfl rfl)
theorem dX11_holds_101 : decode cX11_holds 101 = .ok (.iconst 4, 1) := dk_7 (dk_at dksX11_holds_4 7 rfl rfl)
theorem dX11_holds_102 : decode cX11_holds 102 = .ok (.iload 4, 2) := dk_21 4 (dk_at dksX11_holds_4 8 rfl rfl)
theorem dX11_holds_104 : decode cX11_holds 104 = .ok (.imul, 1) := dk_104 (dk_at dksX11_holds_4 10 rfl rfl)
theorem dX11_holds_105 : decode cX11_holds 105 = .ok (.iload 5, 2) := dk_21 5 (dk_at dksX11_holds_4 11 rfl rfl)
theorem dX11_holds_107 : decode cX11_holds 107 = .ok (.iadd, 1) := dk_96 (dk_at dksX11_holds_4 13 rfl rfl)
theorem dX11_holds_108 : decode cX11_holds 108 = .ok (.iaload, 1) := dk_46 (dk_at dksX11_holds_4 14 rfl rfl)
theorem dX11_holds_109 : decode cX11_holds 109 = .ok (.ireturn, 1) := dk_172 (dk_at dksX11_holds_4 15 rfl rfl)
theorem dX11_holds_110 : decode cX11_holds 110 = .ok (.iinc 5 1, 3) := dk_132 5 1 (dk_at dksX11_holds_4 16 rfl rfl)
theorem dX11_holds_113 : decode cX11_holds 113 = .ok (.goto (-50), 3) := dk_167 255 206 (dk_at dksX11_holds_4 19 rfl rfl)
theorem dX11_holds_116 : decode cX11_holds 116 = .ok (.iconst 0, 1) := dk_3 (dk_at dksX11_holds_4 22 rfl rfl)
theorem dX11_holds_117 : decode cX11_holds 117 = .ok (.ireturn, 1) := dk_172 (dk_at dksX11_holds_4 23 rfl rfl)
abbrev cX11_spent : ByteArray := prog_16_method_135_code
def yX11_spent : MethodName := ⟨RX11, "spent", "()J"⟩
def dkwX11_spent_2 : List UInt8 := [132, 3, 1, 167, 255, 218, 31, 173]
abbrev dktX11_spent_2 : List UInt8 := dkwX11_spent_2 ++ []
def dkwX11_spent_1 : List UInt8 := [153, 0, 19, 42, 29, 182, 0, 175, 9, 148, 154, 0, 9, 10, 29, 121, 167, 0, 4, 9, 129, 64]
abbrev dktX11_spent_1 : List UInt8 := dkwX11_spent_1 ++ dktX11_spent_2
def dkwX11_spent_0 : List UInt8 := [42, 3, 181, 0, 1, 9, 64, 3, 62, 29, 16, 40, 162, 0, 38, 31, 42, 180, 0, 29, 29, 51]
abbrev dktX11_spent_0 : List UInt8 := dkwX11_spent_0 ++ dktX11_spent_1
theorem dksX11_spent_0 : cX11_spent.data.toList.drop 0 = dktX11_spent_0 := by decide +kernel
theorem dksX11_spent_1 : cX11_spent.data.toList.drop 22 = dktX11_spent_1 := dk_seg dksX11_spent_0 22 rfl rfl
theorem dksX11_spent_2 : cX11_spent.data.toList.drop 44 = dktX11_spent_2 := dk_seg dksX11_spent_1 22 rfl rfl
theorem dX11_spent_0 : decode cX11_spent 0 = .ok (.aload_n 0, 1) := dk_42 (dk_at dksX11_spent_0 0 rfl rfl)
theorem dX11_spent_1 : decode cX11_spent 1 = .ok (.iconst 0, 1) := dk_3 (dk_at dksX11_spent_0 1 rfl rfl)
theorem dX11_spent_2 : decode cX11_spent 2 = .ok (.putfield 1, 3) := dk_181 0 1 (dk_at dksX11_spent_0 2 rfl rfl)
theorem dX11_spent_5 : decode cX11_spent 5 = .ok (.lconst 0, 1) := dk_9 (dk_at dksX11_spent_0 5 rfl rfl)
theorem dX11_spent_6 : decode cX11_spent 6 = .ok (.lstore_n 1, 1) := dk_64 (dk_at dksX11_spent_0 6 rfl rfl)
theorem dX11_spent_7 : decode cX11_spent 7 = .ok (.iconst 0, 1) := dk_3 (dk_at dksX11_spent_0 7 rfl rfl)
theorem dX11_spent_8 : decode cX11_spent 8 = .ok (.istore_n 3, 1) := dk_62 (dk_at dksX11_spent_0 8 rfl rfl)
theorem dX11_spent_9 : decode cX11_spent 9 = .ok (.iload_n 3, 1) := dk_29 (dk_at dksX11_spent_0 9 rfl rfl)
theorem dX11_spent_10 : decode cX11_spent 10 = .ok (.bipush 40, 2) := dk_16 40 (dk_at dksX11_spent_0 10 rfl rfl)
theorem dX11_spent_12 : decode cX11_spent 12 = .ok (.if_icmp .ge 38, 3) := dk_162 0 38 (dk_at dksX11_spent_0 12 rfl rfl)
theorem dX11_spent_15 : decode cX11_spent 15 = .ok (.lload_n 1, 1) := dk_31 (dk_at dksX11_spent_0 15 rfl rfl)
theorem dX11_spent_16 : decode cX11_spent 16 = .ok (.aload_n 0, 1) := dk_42 (dk_at dksX11_spent_0 16 rfl rfl)
theorem dX11_spent_17 : decode cX11_spent 17 = .ok (.getfield 29, 3) := dk_180 0 29 (dk_at dksX11_spent_0 17 rfl rfl)
theorem dX11_spent_20 : decode cX11_spent 20 = .ok (.iload_n 3, 1) := dk_29 (dk_at dksX11_spent_0 20 rfl rfl)
theorem dX11_spent_21 : decode cX11_spent 21 = .ok (.baload, 1) := dk_51 (dk_at dksX11_spent_0 21 rfl rfl)
theorem dX11_spent_22 : decode cX11_spent 22 = .ok (.ifCond .eq 19, 3) := dk_153 0 19 (dk_at dksX11_spent_1 0 rfl rfl)
theorem dX11_spent_25 : decode cX11_spent 25 = .ok (.aload_n 0, 1) := dk_42 (dk_at dksX11_spent_1 3 rfl rfl)
theorem dX11_spent_26 : decode cX11_spent 26 = .ok (.iload_n 3, 1) := dk_29 (dk_at dksX11_spent_1 4 rfl rfl)
theorem dX11_spent_27 : decode cX11_spent 27 = .ok (.invokevirtual 175, 3) := dk_182 0 175 (dk_at dksX11_spent_1 5 rfl rfl)
theorem dX11_spent_30 : decode cX11_spent 30 = .ok (.lconst 0, 1) := dk_9 (dk_at dksX11_spent_1 8 rfl rfl)
theorem dX11_spent_31 : decode cX11_spent 31 = .ok (.lcmp, 1) := dk_148 (dk_at dksX11_spent_1 9 rfl rfl)
theorem dX11_spent_32 : decode cX11_spent 32 = .ok (.ifCond .ne 9, 3) := dk_154 0 9 (dk_at dksX11_spent_1 10 rfl rfl)
theorem dX11_spent_35 : decode cX11_spent 35 = .ok (.lconst 1, 1) := dk_10 (dk_at dksX11_spent_1 13 rfl rfl)
theorem dX11_spent_36 : decode cX11_spent 36 = .ok (.iload_n 3, 1) := dk_29 (dk_at dksX11_spent_1 14 rfl rfl)
theorem dX11_spent_37 : decode cX11_spent 37 = .ok (.lshl, 1) := dk_121 (dk_at dksX11_spent_1 15 rfl rfl)
theorem dX11_spent_38 : decode cX11_spent 38 = .ok (.goto 4, 3) := dk_167 0 4 (dk_at dksX11_spent_1 16 rfl rfl)
theorem dX11_spent_41 : decode cX11_spent 41 = .ok (.lconst 0, 1) := dk_9 (dk_at dksX11_spent_1 19 rfl rfl)
theorem dX11_spent_42 : decode cX11_spent 42 = .ok (.lor, 1) := dk_129 (dk_at dksX11_spent_1 20 rfl rfl)
theorem dX11_spent_43 : decode cX11_spent 43 = .ok (.lstore_n 1, 1) := dk_64 (dk_at dksX11_spent_1 21 rfl rfl)
theorem dX11_spent_44 : decode cX11_spent 44 = .ok (.iinc 3 1, 3) := dk_132 3 1 (dk_at dksX11_spent_2 0 rfl rfl)
theorem dX11_spent_47 : decode cX11_spent 47 = .ok (.goto (-38), 3) := dk_167 255 218 (dk_at dksX11_spent_2 3 rfl rfl)
theorem dX11_spent_50 : decode cX11_spent 50 = .ok (.lload_n 1, 1) := dk_31 (dk_at dksX11_spent_2 6 rfl rfl)
theorem dX11_spent_51 : decode cX11_spent 51 = .ok (.lreturn, 1) := dk_173 (dk_at dksX11_spent_2 7 rfl rfl)
abbrev cX11_status : ByteArray := prog_16_method_136_code
def yX11_status : MethodName := ⟨RX11, "status", "(I)I"⟩
def dkwX11_status_1 : List UInt8 := [167, 0, 4, 2, 172]
abbrev dktX11_status_1 : List UInt8 := dkwX11_status_1 ++ []
def dkwX11_status_0 : List UInt8 := [42, 3, 181, 0, 1, 27, 133, 9, 20, 0, 246, 184, 1, 96, 153, 0, 12, 42, 180, 0, 7, 27, 46]
abbrev dktX11_status_0 : List UInt8 := dkwX11_status_0 ++ dktX11_status_1
theorem dksX11_status_0 : cX11_status.data.toList.drop 0 = dktX11_status_0 := by decide +kernel
theorem dksX11_status_1 : cX11_status.data.toList.drop 23 = dktX11_status_1 := dk_seg dksX11_status_0 23 rfl rfl
theorem dX11_status_0 : decode cX11_status 0 = .ok (.aload_n 0, 1) := dk_42 (dk_at dksX11_status_0 0 rfl rfl)
theorem dX11_status_1 : decode cX11_status 1 = .ok (.iconst 0, 1) := dk_3 (dk_at dksX11_status_0 1 rfl rfl)
theorem dX11_status_2 : decode cX11_status 2 = .ok (.putfield 1, 3) := dk_181 0 1 (dk_at dksX11_status_0 2 rfl rfl)
theorem dX11_status_5 : decode cX11_status 5 = .ok (.iload_n 1, 1) := dk_27 (dk_at dksX11_status_0 5 rfl rfl)
theorem dX11_status_6 : decode cX11_status 6 = .ok (.i2l, 1) := dk_133 (dk_at dksX11_status_0 6 rfl rfl)
theorem dX11_status_7 : decode cX11_status 7 = .ok (.lconst 0, 1) := dk_9 (dk_at dksX11_status_0 7 rfl rfl)
theorem dX11_status_8 : decode cX11_status 8 = .ok (.ldc2_w 246, 3) := dk_20 0 246 (dk_at dksX11_status_0 8 rfl rfl)
theorem dX11_status_11 : decode cX11_status 11 = .ok (.invokestatic 352, 3) := dk_184 1 96 (dk_at dksX11_status_0 11 rfl rfl)
theorem dX11_status_14 : decode cX11_status 14 = .ok (.ifCond .eq 12, 3) := dk_153 0 12 (dk_at dksX11_status_0 14 rfl rfl)
theorem dX11_status_17 : decode cX11_status 17 = .ok (.aload_n 0, 1) := dk_42 (dk_at dksX11_status_0 17 rfl rfl)
theorem dX11_status_18 : decode cX11_status 18 = .ok (.getfield 7, 3) := dk_180 0 7 (dk_at dksX11_status_0 18 rfl rfl)
theorem dX11_status_21 : decode cX11_status 21 = .ok (.iload_n 1, 1) := dk_27 (dk_at dksX11_status_0 21 rfl rfl)
theorem dX11_status_22 : decode cX11_status 22 = .ok (.iaload, 1) := dk_46 (dk_at dksX11_status_0 22 rfl rfl)
theorem dX11_status_23 : decode cX11_status 23 = .ok (.goto 4, 3) := dk_167 0 4 (dk_at dksX11_status_1 0 rfl rfl)
theorem dX11_status_26 : decode cX11_status 26 = .ok (.iconst (-1), 1) := dk_2 (dk_at dksX11_status_1 3 rfl rfl)
theorem dX11_status_27 : decode cX11_status 27 = .ok (.ireturn, 1) := dk_172 (dk_at dksX11_status_1 4 rfl rfl)
theorem q154 : (Jvm.Cond.initialized "TallTowersModel") ∈ lw_all := lw_g (lw_at lw_m1 28 rfl) rfl
theorem q599 : (Jvm.Cond.selects "TallTowersModel" ({ cls := "java/lang/Object", name := "getClass", desc := "()Ljava/lang/Class;" } : Jvm.MethodName) ({ cls := "java/lang/Object", name := "getClass", desc := "()Ljava/lang/Class;" } : Jvm.MethodName)) ∈ lw_all := lw_g (lw_at lw_m2 233 rfl) rfl
theorem q1752 : (Jvm.Cond.instanceMethod ({ cls := "TallTowersModel", name := "thrown", desc := "()I" } : Jvm.MethodName)) ∈ lw_all := lw_g (lw_at lw_m7 186 rfl) rfl
theorem q1753 : (Jvm.Cond.selects "TallTowersModel" ({ cls := "TallTowersModel", name := "thrown", desc := "()I" } : Jvm.MethodName) ({ cls := "TallTowersModel", name := "thrown", desc := "()I" } : Jvm.MethodName)) ∈ lw_all := lw_g (lw_at lw_m7 187 rfl) rfl
theorem q1754 : (Jvm.Cond.code ({ cls := "TallTowersModel", name := "thrown", desc := "()I" } : Jvm.MethodName) prog_16_method_1_code (1 : Nat) (Option.some Jvm.ClassFile.FieldType.int)) ∈ lw_all := lw_g (lw_at lw_m7 188 rfl) rfl
theorem q1756 : (Jvm.Cond.instantiable "TallTowersModel" (50 : Nat)) ∈ lw_all := lw_g (lw_at lw_m7 190 rfl) rfl
theorem q1758 : (Jvm.Cond.instanceMethod ({ cls := "TallTowersModel", name := "<init>", desc := "()V" } : Jvm.MethodName)) ∈ lw_all := lw_g (lw_at lw_m7 192 rfl) rfl
theorem q1759 : (Jvm.Cond.code ({ cls := "TallTowersModel", name := "<init>", desc := "()V" } : Jvm.MethodName) prog_16_method_8_code (1 : Nat) (Option.none : Option Jvm.ClassFile.FieldType)) ∈ lw_all := lw_g (lw_at lw_m7 193 rfl) rfl
theorem q1760 : (Jvm.Cond.methodLink "TallTowersModel" (23 : Nat) ({ cls := "java/lang/Object", name := "<init>", desc := "()V" } : Jvm.MethodName)) ∈ lw_all := lw_g (lw_at lw_m7 194 rfl) rfl
theorem q1761 : (Jvm.Cond.fieldLink "TallTowersModel" (1 : Nat) "TallTowersModel" "thrown" "I") ∈ lw_all := lw_g (lw_at lw_m7 195 rfl) rfl
theorem q1762 : (Jvm.Cond.fieldLink "TallTowersModel" (7 : Nat) "TallTowersModel" "refused" "[I") ∈ lw_all := lw_g (lw_at lw_m7 196 rfl) rfl
theorem q1763 : (Jvm.Cond.fieldLink "TallTowersModel" (14 : Nat) "TallTowersModel" "kind" "[I") ∈ lw_all := lw_g (lw_at lw_m7 197 rfl) rfl
theorem q1764 : (Jvm.Cond.fieldLink "TallTowersModel" (20 : Nat) "TallTowersModel" "made" "[I") ∈ lw_all := lw_g (lw_at lw_m7 198 rfl) rfl
theorem q1765 : (Jvm.Cond.fieldLink "TallTowersModel" (11 : Nat) "TallTowersModel" "told" "[I") ∈ lw_all := lw_g (lw_at lw_m7 199 rfl) rfl
theorem q1766 : (Jvm.Cond.fieldLink "TallTowersModel" (17 : Nat) "TallTowersModel" "many" "I") ∈ lw_all := lw_g (lw_at lw_m7 200 rfl) rfl
theorem q1767 : (Jvm.Cond.fieldLink "TallTowersModel" (29 : Nat) "TallTowersModel" "isLayer" "[Z") ∈ lw_all := lw_g (lw_at lw_m7 201 rfl) rfl
theorem q1768 : (Jvm.Cond.fieldLink "TallTowersModel" (33 : Nat) "TallTowersModel" "isHarm" "[Z") ∈ lw_all := lw_g (lw_at lw_m7 202 rfl) rfl
theorem q1769 : (Jvm.Cond.fieldLink "TallTowersModel" (36 : Nat) "TallTowersModel" "yearOf" "[I") ∈ lw_all := lw_g (lw_at lw_m7 203 rfl) rfl
theorem q1770 : (Jvm.Cond.fieldLink "TallTowersModel" (39 : Nat) "TallTowersModel" "from" "[I") ∈ lw_all := lw_g (lw_at lw_m7 204 rfl) rfl
theorem q1771 : (Jvm.Cond.fieldLink "TallTowersModel" (42 : Nat) "TallTowersModel" "size" "[I") ∈ lw_all := lw_g (lw_at lw_m7 205 rfl) rfl
theorem q1772 : (Jvm.Cond.fieldLink "TallTowersModel" (45 : Nat) "TallTowersModel" "times" "[I") ∈ lw_all := lw_g (lw_at lw_m7 206 rfl) rfl
theorem q1773 : (Jvm.Cond.fieldLink "TallTowersModel" (48 : Nat) "TallTowersModel" "signed" "[I") ∈ lw_all := lw_g (lw_at lw_m7 207 rfl) rfl
theorem q1774 : (Jvm.Cond.fieldLink "TallTowersModel" (51 : Nat) "TallTowersModel" "signer" "[I") ∈ lw_all := lw_g (lw_at lw_m7 208 rfl) rfl
theorem q1775 : (Jvm.Cond.fieldLink "TallTowersModel" (54 : Nat) "TallTowersModel" "tenths" "[I") ∈ lw_all := lw_g (lw_at lw_m7 209 rfl) rfl
theorem q1776 : (Jvm.Cond.fieldLink "TallTowersModel" (57 : Nat) "TallTowersModel" "used" "[J") ∈ lw_all := lw_g (lw_at lw_m7 210 rfl) rfl
theorem q1777 : (Jvm.Cond.fieldLink "TallTowersModel" (61 : Nat) "TallTowersModel" "first" "[I") ∈ lw_all := lw_g (lw_at lw_m7 211 rfl) rfl
theorem q1778 : (Jvm.Cond.fieldLink "TallTowersModel" (64 : Nat) "TallTowersModel" "last" "[I") ∈ lw_all := lw_g (lw_at lw_m7 212 rfl) rfl
theorem q1779 : (Jvm.Cond.fieldLink "TallTowersModel" (67 : Nat) "TallTowersModel" "shown" "[I") ∈ lw_all := lw_g (lw_at lw_m7 213 rfl) rfl
theorem q1780 : (Jvm.Cond.fieldLink "TallTowersModel" (70 : Nat) "TallTowersModel" "grew" "[I") ∈ lw_all := lw_g (lw_at lw_m7 214 rfl) rfl
theorem q1781 : (Jvm.Cond.fieldLink "TallTowersModel" (73 : Nat) "TallTowersModel" "loss" "[J") ∈ lw_all := lw_g (lw_at lw_m7 215 rfl) rfl
theorem q1782 : (Jvm.Cond.fieldLink "TallTowersModel" (76 : Nat) "TallTowersModel" "took" "[J") ∈ lw_all := lw_g (lw_at lw_m7 216 rfl) rfl
theorem q1783 : (Jvm.Cond.fieldLink "TallTowersModel" (79 : Nat) "TallTowersModel" "through" "[J") ∈ lw_all := lw_g (lw_at lw_m7 217 rfl) rfl
theorem q1784 : (Jvm.Cond.fieldLink "TallTowersModel" (82 : Nat) "TallTowersModel" "moves" "[J") ∈ lw_all := lw_g (lw_at lw_m7 218 rfl) rfl
theorem q1785 : (Jvm.Cond.fieldLink "TallTowersModel" (85 : Nat) "TallTowersModel" "had" "[I") ∈ lw_all := lw_g (lw_at lw_m7 219 rfl) rfl
theorem q1786 : (Jvm.Cond.fieldLink "TallTowersModel" (88 : Nat) "TallTowersModel" "bore" "[J") ∈ lw_all := lw_g (lw_at lw_m7 220 rfl) rfl
theorem q1787 : (Jvm.Cond.fieldLink "TallTowersModel" (91 : Nat) "TallTowersModel" "fell" "[J") ∈ lw_all := lw_g (lw_at lw_m7 221 rfl) rfl
theorem q1788 : (Jvm.Cond.fieldLink "TallTowersModel" (94 : Nat) "TallTowersModel" "stands" "[I") ∈ lw_all := lw_g (lw_at lw_m7 222 rfl) rfl
theorem q1789 : (Jvm.Cond.fieldLink "TallTowersModel" (97 : Nat) "TallTowersModel" "cash" "[I") ∈ lw_all := lw_g (lw_at lw_m7 223 rfl) rfl
theorem q1790 : (Jvm.Cond.fieldLink "TallTowersModel" (149 : Nat) "TallTowersModel" "lacks" "I") ∈ lw_all := lw_g (lw_at lw_m7 224 rfl) rfl
theorem q1791 : (Jvm.Cond.fieldLink "TallTowersModel" (152 : Nat) "TallTowersModel" "trigger" "I") ∈ lw_all := lw_g (lw_at lw_m7 225 rfl) rfl
theorem q1792 : (Jvm.Cond.fieldLink "TallTowersModel" (155 : Nat) "TallTowersModel" "spread" "I") ∈ lw_all := lw_g (lw_at lw_m7 226 rfl) rfl
theorem q1793 : (Jvm.Cond.fieldLink "TallTowersModel" (158 : Nat) "TallTowersModel" "pick" "I") ∈ lw_all := lw_g (lw_at lw_m7 227 rfl) rfl
theorem q1794 : (Jvm.Cond.fieldLink "TallTowersModel" (100 : Nat) "TallTowersModel" "rungs" "[I") ∈ lw_all := lw_g (lw_at lw_m7 228 rfl) rfl
theorem q1795 : (Jvm.Cond.fieldLink "TallTowersModel" (103 : Nat) "TallTowersModel" "heights" "[I") ∈ lw_all := lw_g (lw_at lw_m7 229 rfl) rfl
theorem q1796 : (Jvm.Cond.fieldLink "TallTowersModel" (106 : Nat) "TallTowersModel" "holes" "[I") ∈ lw_all := lw_g (lw_at lw_m7 230 rfl) rfl
theorem q1797 : (Jvm.Cond.fieldLink "TallTowersModel" (109 : Nat) "TallTowersModel" "weights" "[J") ∈ lw_all := lw_g (lw_at lw_m7 231 rfl) rfl
theorem q1798 : (Jvm.Cond.fieldLink "TallTowersModel" (112 : Nat) "TallTowersModel" "parts" "[J") ∈ lw_all := lw_g (lw_at lw_m7 232 rfl) rfl
theorem q1799 : (Jvm.Cond.fieldLink "TallTowersModel" (115 : Nat) "TallTowersModel" "takes" "[J") ∈ lw_all := lw_g (lw_at lw_m7 233 rfl) rfl
theorem q1800 : (Jvm.Cond.fieldLink "TallTowersModel" (118 : Nat) "TallTowersModel" "fair" "[J") ∈ lw_all := lw_g (lw_at lw_m7 234 rfl) rfl
theorem q1801 : (Jvm.Cond.fieldLink "TallTowersModel" (121 : Nat) "TallTowersModel" "portions" "[J") ∈ lw_all := lw_g (lw_at lw_m7 235 rfl) rfl
theorem q1802 : (Jvm.Cond.fieldLink "TallTowersModel" (124 : Nat) "TallTowersModel" "order" "[I") ∈ lw_all := lw_g (lw_at lw_m7 236 rfl) rfl
theorem q1803 : (Jvm.Cond.fieldLink "TallTowersModel" (127 : Nat) "TallTowersModel" "usedWas" "[J") ∈ lw_all := lw_g (lw_at lw_m7 237 rfl) rfl
theorem q1804 : (Jvm.Cond.fieldLink "TallTowersModel" (130 : Nat) "TallTowersModel" "tookWas" "[J") ∈ lw_all := lw_g (lw_at lw_m7 238 rfl) rfl
theorem q1805 : (Jvm.Cond.fieldLink "TallTowersModel" (133 : Nat) "TallTowersModel" "throughWas" "[J") ∈ lw_all := lw_g (lw_at lw_m7 239 rfl) rfl
theorem q1806 : (Jvm.Cond.fieldLink "TallTowersModel" (136 : Nat) "TallTowersModel" "fellWas" "[J") ∈ lw_all := lw_g (lw_at lw_m8 0 rfl) rfl
theorem q1807 : (Jvm.Cond.fieldLink "TallTowersModel" (139 : Nat) "TallTowersModel" "gets" "[J") ∈ lw_all := lw_g (lw_at lw_m8 1 rfl) rfl
theorem q1808 : (Jvm.Cond.fieldLink "TallTowersModel" (142 : Nat) "TallTowersModel" "rooms" "[J") ∈ lw_all := lw_g (lw_at lw_m8 2 rfl) rfl
theorem q1809 : (Jvm.Cond.fieldLink "TallTowersModel" (306 : Nat) "TallTowersModel" "isRuled" "Z") ∈ lw_all := lw_g (lw_at lw_m8 3 rfl) rfl
theorem q1810 : (Jvm.Cond.fieldLink "TallTowersModel" (334 : Nat) "TallTowersModel" "undoneMany" "I") ∈ lw_all := lw_g (lw_at lw_m8 4 rfl) rfl
theorem q1811 : (Jvm.Cond.lays "TallTowersModel" "TallTowersModel" "thrown" "I") ∈ lw_all := lw_g (lw_at lw_m8 5 rfl) rfl
theorem q1812 : (Jvm.Cond.soleField "TallTowersModel" "thrown") ∈ lw_all := lw_g (lw_at lw_m8 6 rfl) rfl
theorem q1813 : (Jvm.Cond.laysFinal "TallTowersModel" "TallTowersModel" "refused" "[I") ∈ lw_all := lw_g (lw_at lw_m8 7 rfl) rfl
theorem q1814 : (Jvm.Cond.soleField "TallTowersModel" "refused") ∈ lw_all := lw_g (lw_at lw_m8 8 rfl) rfl
theorem q1815 : (Jvm.Cond.laysFinal "TallTowersModel" "TallTowersModel" "kind" "[I") ∈ lw_all := lw_g (lw_at lw_m8 9 rfl) rfl
theorem q1816 : (Jvm.Cond.soleField "TallTowersModel" "kind") ∈ lw_all := lw_g (lw_at lw_m8 10 rfl) rfl
theorem q1817 : (Jvm.Cond.laysFinal "TallTowersModel" "TallTowersModel" "made" "[I") ∈ lw_all := lw_g (lw_at lw_m8 11 rfl) rfl
theorem q1818 : (Jvm.Cond.soleField "TallTowersModel" "made") ∈ lw_all := lw_g (lw_at lw_m8 12 rfl) rfl
theorem q1819 : (Jvm.Cond.laysFinal "TallTowersModel" "TallTowersModel" "told" "[I") ∈ lw_all := lw_g (lw_at lw_m8 13 rfl) rfl
theorem q1820 : (Jvm.Cond.soleField "TallTowersModel" "told") ∈ lw_all := lw_g (lw_at lw_m8 14 rfl) rfl
theorem q1821 : (Jvm.Cond.lays "TallTowersModel" "TallTowersModel" "many" "I") ∈ lw_all := lw_g (lw_at lw_m8 15 rfl) rfl
theorem q1822 : (Jvm.Cond.soleField "TallTowersModel" "many") ∈ lw_all := lw_g (lw_at lw_m8 16 rfl) rfl
theorem q1823 : (Jvm.Cond.laysFinal "TallTowersModel" "TallTowersModel" "isLayer" "[Z") ∈ lw_all := lw_g (lw_at lw_m8 17 rfl) rfl
theorem q1824 : (Jvm.Cond.soleField "TallTowersModel" "isLayer") ∈ lw_all := lw_g (lw_at lw_m8 18 rfl) rfl
theorem q1825 : (Jvm.Cond.laysFinal "TallTowersModel" "TallTowersModel" "isHarm" "[Z") ∈ lw_all := lw_g (lw_at lw_m8 19 rfl) rfl
theorem q1826 : (Jvm.Cond.soleField "TallTowersModel" "isHarm") ∈ lw_all := lw_g (lw_at lw_m8 20 rfl) rfl
theorem q1827 : (Jvm.Cond.laysFinal "TallTowersModel" "TallTowersModel" "yearOf" "[I") ∈ lw_all := lw_g (lw_at lw_m8 21 rfl) rfl
theorem q1828 : (Jvm.Cond.soleField "TallTowersModel" "yearOf") ∈ lw_all := lw_g (lw_at lw_m8 22 rfl) rfl
theorem q1829 : (Jvm.Cond.laysFinal "TallTowersModel" "TallTowersModel" "from" "[I") ∈ lw_all := lw_g (lw_at lw_m8 23 rfl) rfl
theorem q1830 : (Jvm.Cond.soleField "TallTowersModel" "from") ∈ lw_all := lw_g (lw_at lw_m8 24 rfl) rfl
theorem q1831 : (Jvm.Cond.laysFinal "TallTowersModel" "TallTowersModel" "size" "[I") ∈ lw_all := lw_g (lw_at lw_m8 25 rfl) rfl
theorem q1832 : (Jvm.Cond.soleField "TallTowersModel" "size") ∈ lw_all := lw_g (lw_at lw_m8 26 rfl) rfl
theorem q1833 : (Jvm.Cond.laysFinal "TallTowersModel" "TallTowersModel" "times" "[I") ∈ lw_all := lw_g (lw_at lw_m8 27 rfl) rfl
theorem q1834 : (Jvm.Cond.soleField "TallTowersModel" "times") ∈ lw_all := lw_g (lw_at lw_m8 28 rfl) rfl
theorem q1835 : (Jvm.Cond.laysFinal "TallTowersModel" "TallTowersModel" "signed" "[I") ∈ lw_all := lw_g (lw_at lw_m8 29 rfl) rfl
theorem q1836 : (Jvm.Cond.soleField "TallTowersModel" "signed") ∈ lw_all := lw_g (lw_at lw_m8 30 rfl) rfl
theorem q1837 : (Jvm.Cond.laysFinal "TallTowersModel" "TallTowersModel" "signer" "[I") ∈ lw_all := lw_g (lw_at lw_m8 31 rfl) rfl
theorem q1838 : (Jvm.Cond.soleField "TallTowersModel" "signer") ∈ lw_all := lw_g (lw_at lw_m8 32 rfl) rfl
theorem q1839 : (Jvm.Cond.laysFinal "TallTowersModel" "TallTowersModel" "tenths" "[I") ∈ lw_all := lw_g (lw_at lw_m8 33 rfl) rfl
theorem q1840 : (Jvm.Cond.soleField "TallTowersModel" "tenths") ∈ lw_all := lw_g (lw_at lw_m8 34 rfl) rfl
theorem q1841 : (Jvm.Cond.laysFinal "TallTowersModel" "TallTowersModel" "used" "[J") ∈ lw_all := lw_g (lw_at lw_m8 35 rfl) rfl
theorem q1842 : (Jvm.Cond.soleField "TallTowersModel" "used") ∈ lw_all := lw_g (lw_at lw_m8 36 rfl) rfl
theorem q1843 : (Jvm.Cond.laysFinal "TallTowersModel" "TallTowersModel" "first" "[I") ∈ lw_all := lw_g (lw_at lw_m8 37 rfl) rfl
theorem q1844 : (Jvm.Cond.soleField "TallTowersModel" "first") ∈ lw_all := lw_g (lw_at lw_m8 38 rfl) rfl
theorem q1845 : (Jvm.Cond.laysFinal "TallTowersModel" "TallTowersModel" "last" "[I") ∈ lw_all := lw_g (lw_at lw_m8 39 rfl) rfl
theorem q1846 : (Jvm.Cond.soleField "TallTowersModel" "last") ∈ lw_all := lw_g (lw_at lw_m8 40 rfl) rfl
theorem q1847 : (Jvm.Cond.laysFinal "TallTowersModel" "TallTowersModel" "shown" "[I") ∈ lw_all := lw_g (lw_at lw_m8 41 rfl) rfl
theorem q1848 : (Jvm.Cond.soleField "TallTowersModel" "shown") ∈ lw_all := lw_g (lw_at lw_m8 42 rfl) rfl
theorem q1849 : (Jvm.Cond.laysFinal "TallTowersModel" "TallTowersModel" "grew" "[I") ∈ lw_all := lw_g (lw_at lw_m8 43 rfl) rfl
theorem q1850 : (Jvm.Cond.soleField "TallTowersModel" "grew") ∈ lw_all := lw_g (lw_at lw_m8 44 rfl) rfl
theorem q1851 : (Jvm.Cond.laysFinal "TallTowersModel" "TallTowersModel" "loss" "[J") ∈ lw_all := lw_g (lw_at lw_m8 45 rfl) rfl
theorem q1852 : (Jvm.Cond.soleField "TallTowersModel" "loss") ∈ lw_all := lw_g (lw_at lw_m8 46 rfl) rfl
theorem q1853 : (Jvm.Cond.laysFinal "TallTowersModel" "TallTowersModel" "took" "[J") ∈ lw_all := lw_g (lw_at lw_m8 47 rfl) rfl
theorem q1854 : (Jvm.Cond.soleField "TallTowersModel" "took") ∈ lw_all := lw_g (lw_at lw_m8 48 rfl) rfl
theorem q1855 : (Jvm.Cond.laysFinal "TallTowersModel" "TallTowersModel" "through" "[J") ∈ lw_all := lw_g (lw_at lw_m8 49 rfl) rfl
theorem q1856 : (Jvm.Cond.soleField "TallTowersModel" "through") ∈ lw_all := lw_g (lw_at lw_m8 50 rfl) rfl
theorem q1857 : (Jvm.Cond.laysFinal "TallTowersModel" "TallTowersModel" "moves" "[J") ∈ lw_all := lw_g (lw_at lw_m8 51 rfl) rfl
theorem q1858 : (Jvm.Cond.soleField "TallTowersModel" "moves") ∈ lw_all := lw_g (lw_at lw_m8 52 rfl) rfl
theorem q1859 : (Jvm.Cond.laysFinal "TallTowersModel" "TallTowersModel" "had" "[I") ∈ lw_all := lw_g (lw_at lw_m8 53 rfl) rfl
theorem q1860 : (Jvm.Cond.soleField "TallTowersModel" "had") ∈ lw_all := lw_g (lw_at lw_m8 54 rfl) rfl
theorem q1861 : (Jvm.Cond.laysFinal "TallTowersModel" "TallTowersModel" "bore" "[J") ∈ lw_all := lw_g (lw_at lw_m8 55 rfl) rfl
theorem q1862 : (Jvm.Cond.soleField "TallTowersModel" "bore") ∈ lw_all := lw_g (lw_at lw_m8 56 rfl) rfl
theorem q1863 : (Jvm.Cond.laysFinal "TallTowersModel" "TallTowersModel" "fell" "[J") ∈ lw_all := lw_g (lw_at lw_m8 57 rfl) rfl
theorem q1864 : (Jvm.Cond.soleField "TallTowersModel" "fell") ∈ lw_all := lw_g (lw_at lw_m8 58 rfl) rfl
theorem q1865 : (Jvm.Cond.laysFinal "TallTowersModel" "TallTowersModel" "stands" "[I") ∈ lw_all := lw_g (lw_at lw_m8 59 rfl) rfl
theorem q1866 : (Jvm.Cond.soleField "TallTowersModel" "stands") ∈ lw_all := lw_g (lw_at lw_m8 60 rfl) rfl
theorem q1867 : (Jvm.Cond.laysFinal "TallTowersModel" "TallTowersModel" "cash" "[I") ∈ lw_all := lw_g (lw_at lw_m8 61 rfl) rfl
theorem q1868 : (Jvm.Cond.soleField "TallTowersModel" "cash") ∈ lw_all := lw_g (lw_at lw_m8 62 rfl) rfl
theorem q1869 : (Jvm.Cond.lays "TallTowersModel" "TallTowersModel" "lacks" "I") ∈ lw_all := lw_g (lw_at lw_m8 63 rfl) rfl
theorem q1870 : (Jvm.Cond.soleField "TallTowersModel" "lacks") ∈ lw_all := lw_g (lw_at lw_m8 64 rfl) rfl
theorem q1871 : (Jvm.Cond.lays "TallTowersModel" "TallTowersModel" "trigger" "I") ∈ lw_all := lw_g (lw_at lw_m8 65 rfl) rfl
theorem q1872 : (Jvm.Cond.soleField "TallTowersModel" "trigger") ∈ lw_all := lw_g (lw_at lw_m8 66 rfl) rfl
theorem q1873 : (Jvm.Cond.lays "TallTowersModel" "TallTowersModel" "spread" "I") ∈ lw_all := lw_g (lw_at lw_m8 67 rfl) rfl
theorem q1874 : (Jvm.Cond.soleField "TallTowersModel" "spread") ∈ lw_all := lw_g (lw_at lw_m8 68 rfl) rfl
theorem q1875 : (Jvm.Cond.lays "TallTowersModel" "TallTowersModel" "pick" "I") ∈ lw_all := lw_g (lw_at lw_m8 69 rfl) rfl
theorem q1876 : (Jvm.Cond.soleField "TallTowersModel" "pick") ∈ lw_all := lw_g (lw_at lw_m8 70 rfl) rfl
theorem q1877 : (Jvm.Cond.laysFinal "TallTowersModel" "TallTowersModel" "rungs" "[I") ∈ lw_all := lw_g (lw_at lw_m8 71 rfl) rfl
theorem q1878 : (Jvm.Cond.soleField "TallTowersModel" "rungs") ∈ lw_all := lw_g (lw_at lw_m8 72 rfl) rfl
theorem q1879 : (Jvm.Cond.laysFinal "TallTowersModel" "TallTowersModel" "heights" "[I") ∈ lw_all := lw_g (lw_at lw_m8 73 rfl) rfl
theorem q1880 : (Jvm.Cond.soleField "TallTowersModel" "heights") ∈ lw_all := lw_g (lw_at lw_m8 74 rfl) rfl
theorem q1881 : (Jvm.Cond.laysFinal "TallTowersModel" "TallTowersModel" "holes" "[I") ∈ lw_all := lw_g (lw_at lw_m8 75 rfl) rfl
theorem q1882 : (Jvm.Cond.soleField "TallTowersModel" "holes") ∈ lw_all := lw_g (lw_at lw_m8 76 rfl) rfl
theorem q1883 : (Jvm.Cond.laysFinal "TallTowersModel" "TallTowersModel" "weights" "[J") ∈ lw_all := lw_g (lw_at lw_m8 77 rfl) rfl
theorem q1884 : (Jvm.Cond.soleField "TallTowersModel" "weights") ∈ lw_all := lw_g (lw_at lw_m8 78 rfl) rfl
theorem q1885 : (Jvm.Cond.laysFinal "TallTowersModel" "TallTowersModel" "parts" "[J") ∈ lw_all := lw_g (lw_at lw_m8 79 rfl) rfl
theorem q1886 : (Jvm.Cond.soleField "TallTowersModel" "parts") ∈ lw_all := lw_g (lw_at lw_m8 80 rfl) rfl
theorem q1887 : (Jvm.Cond.laysFinal "TallTowersModel" "TallTowersModel" "takes" "[J") ∈ lw_all := lw_g (lw_at lw_m8 81 rfl) rfl
theorem q1888 : (Jvm.Cond.soleField "TallTowersModel" "takes") ∈ lw_all := lw_g (lw_at lw_m8 82 rfl) rfl
theorem q1889 : (Jvm.Cond.laysFinal "TallTowersModel" "TallTowersModel" "fair" "[J") ∈ lw_all := lw_g (lw_at lw_m8 83 rfl) rfl
theorem q1890 : (Jvm.Cond.soleField "TallTowersModel" "fair") ∈ lw_all := lw_g (lw_at lw_m8 84 rfl) rfl
theorem q1891 : (Jvm.Cond.laysFinal "TallTowersModel" "TallTowersModel" "portions" "[J") ∈ lw_all := lw_g (lw_at lw_m8 85 rfl) rfl
theorem q1892 : (Jvm.Cond.soleField "TallTowersModel" "portions") ∈ lw_all := lw_g (lw_at lw_m8 86 rfl) rfl
theorem q1893 : (Jvm.Cond.laysFinal "TallTowersModel" "TallTowersModel" "order" "[I") ∈ lw_all := lw_g (lw_at lw_m8 87 rfl) rfl
theorem q1894 : (Jvm.Cond.soleField "TallTowersModel" "order") ∈ lw_all := lw_g (lw_at lw_m8 88 rfl) rfl
theorem q1895 : (Jvm.Cond.laysFinal "TallTowersModel" "TallTowersModel" "usedWas" "[J") ∈ lw_all := lw_g (lw_at lw_m8 89 rfl) rfl
theorem q1896 : (Jvm.Cond.soleField "TallTowersModel" "usedWas") ∈ lw_all := lw_g (lw_at lw_m8 90 rfl) rfl
theorem q1897 : (Jvm.Cond.laysFinal "TallTowersModel" "TallTowersModel" "tookWas" "[J") ∈ lw_all := lw_g (lw_at lw_m8 91 rfl) rfl
theorem q1898 : (Jvm.Cond.soleField "TallTowersModel" "tookWas") ∈ lw_all := lw_g (lw_at lw_m8 92 rfl) rfl
theorem q1899 : (Jvm.Cond.laysFinal "TallTowersModel" "TallTowersModel" "throughWas" "[J") ∈ lw_all := lw_g (lw_at lw_m8 93 rfl) rfl
theorem q1900 : (Jvm.Cond.soleField "TallTowersModel" "throughWas") ∈ lw_all := lw_g (lw_at lw_m8 94 rfl) rfl
theorem q1901 : (Jvm.Cond.laysFinal "TallTowersModel" "TallTowersModel" "fellWas" "[J") ∈ lw_all := lw_g (lw_at lw_m8 95 rfl) rfl
theorem q1902 : (Jvm.Cond.soleField "TallTowersModel" "fellWas") ∈ lw_all := lw_g (lw_at lw_m8 96 rfl) rfl
theorem q1903 : (Jvm.Cond.laysFinal "TallTowersModel" "TallTowersModel" "gets" "[J") ∈ lw_all := lw_g (lw_at lw_m8 97 rfl) rfl
theorem q1904 : (Jvm.Cond.soleField "TallTowersModel" "gets") ∈ lw_all := lw_g (lw_at lw_m8 98 rfl) rfl
theorem q1905 : (Jvm.Cond.laysFinal "TallTowersModel" "TallTowersModel" "rooms" "[J") ∈ lw_all := lw_g (lw_at lw_m8 99 rfl) rfl
theorem q1906 : (Jvm.Cond.soleField "TallTowersModel" "rooms") ∈ lw_all := lw_g (lw_at lw_m8 100 rfl) rfl
theorem q1907 : (Jvm.Cond.lays "TallTowersModel" "TallTowersModel" "isRuled" "Z") ∈ lw_all := lw_g (lw_at lw_m8 101 rfl) rfl
theorem q1908 : (Jvm.Cond.soleField "TallTowersModel" "isRuled") ∈ lw_all := lw_g (lw_at lw_m8 102 rfl) rfl
theorem q1909 : (Jvm.Cond.lays "TallTowersModel" "TallTowersModel" "undoneMany" "I") ∈ lw_all := lw_g (lw_at lw_m8 103 rfl) rfl
theorem q1910 : (Jvm.Cond.soleField "TallTowersModel" "undoneMany") ∈ lw_all := lw_g (lw_at lw_m8 104 rfl) rfl
theorem q1911 : (Jvm.Cond.superclass "TallTowersModel" "java/lang/Object") ∈ lw_all := lw_g (lw_at lw_m8 105 rfl) rfl
theorem q1914 : (Jvm.Cond.instanceMethod ({ cls := "TallTowersModel", name := "place", desc := "(IIII)I" } : Jvm.MethodName)) ∈ lw_all := lw_g (lw_at lw_m8 108 rfl) rfl
theorem q1915 : (Jvm.Cond.selects "TallTowersModel" ({ cls := "TallTowersModel", name := "place", desc := "(IIII)I" } : Jvm.MethodName) ({ cls := "TallTowersModel", name := "place", desc := "(IIII)I" } : Jvm.MethodName)) ∈ lw_all := lw_g (lw_at lw_m8 109 rfl) rfl
theorem q1916 : (Jvm.Cond.code ({ cls := "TallTowersModel", name := "place", desc := "(IIII)I" } : Jvm.MethodName) prog_16_method_65_code (7 : Nat) (Option.some Jvm.ClassFile.FieldType.int)) ∈ lw_all := lw_g (lw_at lw_m8 110 rfl) rfl
theorem q1917 : (Jvm.Cond.constantLong "TallTowersModel" (350 : Nat) (11 : Int64)) ∈ lw_all := lw_g (lw_at lw_m8 111 rfl) rfl
theorem q1918 : (Jvm.Cond.methodLink "TallTowersModel" (352 : Nat) ({ cls := "TallTowersModel", name := "within", desc := "(JJJ)Z" } : Jvm.MethodName)) ∈ lw_all := lw_g (lw_at lw_m8 112 rfl) rfl
theorem q1919 : (Jvm.Cond.static ({ cls := "TallTowersModel", name := "within", desc := "(JJJ)Z" } : Jvm.MethodName)) ∈ lw_all := lw_g (lw_at lw_m8 113 rfl) rfl
theorem q1920 : (Jvm.Cond.code ({ cls := "TallTowersModel", name := "within", desc := "(JJJ)Z" } : Jvm.MethodName) prog_16_method_3_code (6 : Nat) (Option.some Jvm.ClassFile.FieldType.boolean)) ∈ lw_all := lw_g (lw_at lw_m8 114 rfl) rfl
theorem q1921 : (Jvm.Cond.constantLong "TallTowersModel" (356 : Nat) (900000000 : Int64)) ∈ lw_all := lw_g (lw_at lw_m8 115 rfl) rfl
theorem q1922 : (Jvm.Cond.constantLong "TallTowersModel" (358 : Nat) (100000000 : Int64)) ∈ lw_all := lw_g (lw_at lw_m8 116 rfl) rfl
theorem q1923 : (Jvm.Cond.constantLong "TallTowersModel" (360 : Nat) (4 : Int64)) ∈ lw_all := lw_g (lw_at lw_m8 117 rfl) rfl
theorem q1924 : (Jvm.Cond.methodLink "TallTowersModel" (346 : Nat) ({ cls := "TallTowersModel", name := "needs", desc := "(ZII)Z" } : Jvm.MethodName)) ∈ lw_all := lw_g (lw_at lw_m8 118 rfl) rfl
theorem q1925 : (Jvm.Cond.privateMethod ({ cls := "TallTowersModel", name := "needs", desc := "(ZII)Z" } : Jvm.MethodName)) ∈ lw_tbl := lw_at lw_m8 119 rfl
theorem q1926 : (Jvm.Cond.instanceMethod ({ cls := "TallTowersModel", name := "needs", desc := "(ZII)Z" } : Jvm.MethodName)) ∈ lw_all := lw_g (lw_at lw_m8 120 rfl) rfl
theorem q1927 : (Jvm.Cond.code ({ cls := "TallTowersModel", name := "needs", desc := "(ZII)Z" } : Jvm.MethodName) prog_16_method_2_code (4 : Nat) (Option.some Jvm.ClassFile.FieldType.boolean)) ∈ lw_all := lw_g (lw_at lw_m8 121 rfl) rfl
theorem q1928 : (Jvm.Cond.methodLink "TallTowersModel" (362 : Nat) ({ cls := "TallTowersModel", name := "eventsOf", desc := "(I)I" } : Jvm.MethodName)) ∈ lw_all := lw_g (lw_at lw_m8 122 rfl) rfl
theorem q1929 : (Jvm.Cond.privateMethod ({ cls := "TallTowersModel", name := "eventsOf", desc := "(I)I" } : Jvm.MethodName)) ∈ lw_tbl := lw_at lw_m8 123 rfl
theorem q1930 : (Jvm.Cond.instanceMethod ({ cls := "TallTowersModel", name := "eventsOf", desc := "(I)I" } : Jvm.MethodName)) ∈ lw_all := lw_g (lw_at lw_m8 124 rfl) rfl
theorem q1931 : (Jvm.Cond.code ({ cls := "TallTowersModel", name := "eventsOf", desc := "(I)I" } : Jvm.MethodName) prog_16_method_7_code (4 : Nat) (Option.some Jvm.ClassFile.FieldType.int)) ∈ lw_all := lw_g (lw_at lw_m8 125 rfl) rfl
theorem q1932 : (Jvm.Cond.methodLink "TallTowersModel" (292 : Nat) ({ cls := "TallTowersModel", name := "canPlace", desc := "(III)Z" } : Jvm.MethodName)) ∈ lw_all := lw_g (lw_at lw_m8 126 rfl) rfl
theorem q1933 : (Jvm.Cond.privateMethod ({ cls := "TallTowersModel", name := "canPlace", desc := "(III)Z" } : Jvm.MethodName)) ∈ lw_tbl := lw_at lw_m8 127 rfl
theorem q1934 : (Jvm.Cond.instanceMethod ({ cls := "TallTowersModel", name := "canPlace", desc := "(III)Z" } : Jvm.MethodName)) ∈ lw_all := lw_g (lw_at lw_m8 128 rfl) rfl
theorem q1935 : (Jvm.Cond.code ({ cls := "TallTowersModel", name := "canPlace", desc := "(III)Z" } : Jvm.MethodName) prog_16_method_48_code (5 : Nat) (Option.some Jvm.ClassFile.FieldType.boolean)) ∈ lw_all := lw_g (lw_at lw_m8 129 rfl) rfl
theorem q1936 : (Jvm.Cond.methodLink "TallTowersModel" (201 : Nat) ({ cls := "TallTowersModel", name := "isLacking", desc := "(I)Z" } : Jvm.MethodName)) ∈ lw_all := lw_g (lw_at lw_m8 130 rfl) rfl
theorem q1937 : (Jvm.Cond.privateMethod ({ cls := "TallTowersModel", name := "isLacking", desc := "(I)Z" } : Jvm.MethodName)) ∈ lw_tbl := lw_at lw_m8 131 rfl
theorem q1938 : (Jvm.Cond.instanceMethod ({ cls := "TallTowersModel", name := "isLacking", desc := "(I)Z" } : Jvm.MethodName)) ∈ lw_all := lw_g (lw_at lw_m8 132 rfl) rfl
theorem q1939 : (Jvm.Cond.code ({ cls := "TallTowersModel", name := "isLacking", desc := "(I)Z" } : Jvm.MethodName) prog_16_method_25_code (2 : Nat) (Option.some Jvm.ClassFile.FieldType.boolean)) ∈ lw_all := lw_g (lw_at lw_m8 133 rfl) rfl
theorem q1940 : (Jvm.Cond.methodLink "TallTowersModel" (169 : Nat) ({ cls := "TallTowersModel", name := "layersOf", desc := "(I)I" } : Jvm.MethodName)) ∈ lw_all := lw_g (lw_at lw_m8 134 rfl) rfl
theorem q1941 : (Jvm.Cond.privateMethod ({ cls := "TallTowersModel", name := "layersOf", desc := "(I)I" } : Jvm.MethodName)) ∈ lw_tbl := lw_at lw_m8 135 rfl
theorem q1942 : (Jvm.Cond.instanceMethod ({ cls := "TallTowersModel", name := "layersOf", desc := "(I)I" } : Jvm.MethodName)) ∈ lw_all := lw_g (lw_at lw_m8 136 rfl) rfl
theorem q1943 : (Jvm.Cond.code ({ cls := "TallTowersModel", name := "layersOf", desc := "(I)I" } : Jvm.MethodName) prog_16_method_15_code (2 : Nat) (Option.some Jvm.ClassFile.FieldType.int)) ∈ lw_all := lw_g (lw_at lw_m8 137 rfl) rfl
theorem q1944 : (Jvm.Cond.methodLink "TallTowersModel" (283 : Nat) ({ cls := "TallTowersModel", name := "isIn", desc := "(II)Z" } : Jvm.MethodName)) ∈ lw_all := lw_g (lw_at lw_m8 138 rfl) rfl
theorem q1945 : (Jvm.Cond.privateMethod ({ cls := "TallTowersModel", name := "isIn", desc := "(II)Z" } : Jvm.MethodName)) ∈ lw_tbl := lw_at lw_m8 139 rfl
theorem q1946 : (Jvm.Cond.instanceMethod ({ cls := "TallTowersModel", name := "isIn", desc := "(II)Z" } : Jvm.MethodName)) ∈ lw_all := lw_g (lw_at lw_m8 140 rfl) rfl
theorem q1947 : (Jvm.Cond.code ({ cls := "TallTowersModel", name := "isIn", desc := "(II)Z" } : Jvm.MethodName) prog_16_method_11_code (3 : Nat) (Option.some Jvm.ClassFile.FieldType.boolean)) ∈ lw_all := lw_g (lw_at lw_m8 141 rfl) rfl
theorem q1948 : (Jvm.Cond.methodLink "TallTowersModel" (165 : Nat) ({ cls := "TallTowersModel", name := "top", desc := "(I)I" } : Jvm.MethodName)) ∈ lw_all := lw_g (lw_at lw_m8 142 rfl) rfl
theorem q1949 : (Jvm.Cond.privateMethod ({ cls := "TallTowersModel", name := "top", desc := "(I)I" } : Jvm.MethodName)) ∈ lw_tbl := lw_at lw_m8 143 rfl
theorem q1950 : (Jvm.Cond.instanceMethod ({ cls := "TallTowersModel", name := "top", desc := "(I)I" } : Jvm.MethodName)) ∈ lw_all := lw_g (lw_at lw_m8 144 rfl) rfl
theorem q1951 : (Jvm.Cond.code ({ cls := "TallTowersModel", name := "top", desc := "(I)I" } : Jvm.MethodName) prog_16_method_12_code (2 : Nat) (Option.some Jvm.ClassFile.FieldType.int)) ∈ lw_all := lw_g (lw_at lw_m8 145 rfl) rfl
theorem q1952 : (Jvm.Cond.methodLink "TallTowersModel" (365 : Nat) ({ cls := "TallTowersModel", name := "hasRoom", desc := "(I)Z" } : Jvm.MethodName)) ∈ lw_all := lw_g (lw_at lw_m8 146 rfl) rfl
theorem q1953 : (Jvm.Cond.privateMethod ({ cls := "TallTowersModel", name := "hasRoom", desc := "(I)Z" } : Jvm.MethodName)) ∈ lw_tbl := lw_at lw_m8 147 rfl
theorem q1954 : (Jvm.Cond.instanceMethod ({ cls := "TallTowersModel", name := "hasRoom", desc := "(I)Z" } : Jvm.MethodName)) ∈ lw_all := lw_g (lw_at lw_m8 148 rfl) rfl
theorem q1955 : (Jvm.Cond.code ({ cls := "TallTowersModel", name := "hasRoom", desc := "(I)Z" } : Jvm.MethodName) prog_16_method_64_code (2 : Nat) (Option.some Jvm.ClassFile.FieldType.boolean)) ∈ lw_all := lw_g (lw_at lw_m8 149 rfl) rfl
theorem q1956 : (Jvm.Cond.methodLink "TallTowersModel" (368 : Nat) ({ cls := "TallTowersModel", name := "notes", desc := "(IIIIII)V" } : Jvm.MethodName)) ∈ lw_all := lw_g (lw_at lw_m8 150 rfl) rfl
theorem q1957 : (Jvm.Cond.privateMethod ({ cls := "TallTowersModel", name := "notes", desc := "(IIIIII)V" } : Jvm.MethodName)) ∈ lw_tbl := lw_at lw_m8 151 rfl
theorem q1958 : (Jvm.Cond.instanceMethod ({ cls := "TallTowersModel", name := "notes", desc := "(IIIIII)V" } : Jvm.MethodName)) ∈ lw_all := lw_g (lw_at lw_m8 152 rfl) rfl
theorem q1959 : (Jvm.Cond.code ({ cls := "TallTowersModel", name := "notes", desc := "(IIIIII)V" } : Jvm.MethodName) prog_16_method_6_code (7 : Nat) (Option.none : Option Jvm.ClassFile.FieldType)) ∈ lw_all := lw_g (lw_at lw_m8 153 rfl) rfl
theorem q1960 : (Jvm.Cond.methodLink "TallTowersModel" (331 : Nat) ({ cls := "TallTowersModel", name := "does", desc := "(I)V" } : Jvm.MethodName)) ∈ lw_all := lw_g (lw_at lw_m8 154 rfl) rfl
theorem q1961 : (Jvm.Cond.privateMethod ({ cls := "TallTowersModel", name := "does", desc := "(I)V" } : Jvm.MethodName)) ∈ lw_tbl := lw_at lw_m8 155 rfl
theorem q1962 : (Jvm.Cond.instanceMethod ({ cls := "TallTowersModel", name := "does", desc := "(I)V" } : Jvm.MethodName)) ∈ lw_all := lw_g (lw_at lw_m8 156 rfl) rfl
theorem q1963 : (Jvm.Cond.code ({ cls := "TallTowersModel", name := "does", desc := "(I)V" } : Jvm.MethodName) prog_16_method_52_code (3 : Nat) (Option.none : Option Jvm.ClassFile.FieldType)) ∈ lw_all := lw_g (lw_at lw_m8 157 rfl) rfl
theorem q1964 : (Jvm.Cond.methodLink "TallTowersModel" (289 : Nat) ({ cls := "TallTowersModel", name := "tell", desc := "(II)I" } : Jvm.MethodName)) ∈ lw_all := lw_g (lw_at lw_m8 158 rfl) rfl
theorem q1965 : (Jvm.Cond.privateMethod ({ cls := "TallTowersModel", name := "tell", desc := "(II)I" } : Jvm.MethodName)) ∈ lw_tbl := lw_at lw_m8 159 rfl
theorem q1966 : (Jvm.Cond.instanceMethod ({ cls := "TallTowersModel", name := "tell", desc := "(II)I" } : Jvm.MethodName)) ∈ lw_all := lw_g (lw_at lw_m8 160 rfl) rfl
theorem q1967 : (Jvm.Cond.code ({ cls := "TallTowersModel", name := "tell", desc := "(II)I" } : Jvm.MethodName) prog_16_method_5_code (3 : Nat) (Option.some Jvm.ClassFile.FieldType.int)) ∈ lw_all := lw_g (lw_at lw_m8 161 rfl) rfl
theorem q1968 : (Jvm.Cond.methodLink "TallTowersModel" (299 : Nat) ({ cls := "TallTowersModel", name := "places", desc := "(I)V" } : Jvm.MethodName)) ∈ lw_all := lw_g (lw_at lw_m8 162 rfl) rfl
theorem q1969 : (Jvm.Cond.privateMethod ({ cls := "TallTowersModel", name := "places", desc := "(I)V" } : Jvm.MethodName)) ∈ lw_tbl := lw_at lw_m8 163 rfl
theorem q1970 : (Jvm.Cond.instanceMethod ({ cls := "TallTowersModel", name := "places", desc := "(I)V" } : Jvm.MethodName)) ∈ lw_all := lw_g (lw_at lw_m8 164 rfl) rfl
theorem q1971 : (Jvm.Cond.code ({ cls := "TallTowersModel", name := "places", desc := "(I)V" } : Jvm.MethodName) prog_16_method_54_code (3 : Nat) (Option.none : Option Jvm.ClassFile.FieldType)) ∈ lw_all := lw_g (lw_at lw_m8 165 rfl) rfl
theorem q1972 : (Jvm.Cond.methodLink "TallTowersModel" (322 : Nat) ({ cls := "TallTowersModel", name := "stacks", desc := "(I)V" } : Jvm.MethodName)) ∈ lw_all := lw_g (lw_at lw_m8 166 rfl) rfl
theorem q1973 : (Jvm.Cond.privateMethod ({ cls := "TallTowersModel", name := "stacks", desc := "(I)V" } : Jvm.MethodName)) ∈ lw_tbl := lw_at lw_m8 167 rfl
theorem q1974 : (Jvm.Cond.instanceMethod ({ cls := "TallTowersModel", name := "stacks", desc := "(I)V" } : Jvm.MethodName)) ∈ lw_all := lw_g (lw_at lw_m8 168 rfl) rfl
theorem q1975 : (Jvm.Cond.code ({ cls := "TallTowersModel", name := "stacks", desc := "(I)V" } : Jvm.MethodName) prog_16_method_16_code (5 : Nat) (Option.none : Option Jvm.ClassFile.FieldType)) ∈ lw_all := lw_g (lw_at lw_m8 169 rfl) rfl
theorem q1976 : (Jvm.Cond.methodLink "TallTowersModel" (161 : Nat) ({ cls := "TallTowersModel", name := "rungOf", desc := "(II)I" } : Jvm.MethodName)) ∈ lw_all := lw_g (lw_at lw_m8 170 rfl) rfl
theorem q1977 : (Jvm.Cond.privateMethod ({ cls := "TallTowersModel", name := "rungOf", desc := "(II)I" } : Jvm.MethodName)) ∈ lw_tbl := lw_at lw_m8 171 rfl
theorem q1978 : (Jvm.Cond.instanceMethod ({ cls := "TallTowersModel", name := "rungOf", desc := "(II)I" } : Jvm.MethodName)) ∈ lw_all := lw_g (lw_at lw_m8 172 rfl) rfl
theorem q1979 : (Jvm.Cond.code ({ cls := "TallTowersModel", name := "rungOf", desc := "(II)I" } : Jvm.MethodName) prog_16_method_14_code (3 : Nat) (Option.some Jvm.ClassFile.FieldType.int)) ∈ lw_all := lw_g (lw_at lw_m8 173 rfl) rfl
theorem q1980 : (Jvm.Cond.methodLink "TallTowersModel" (302 : Nat) ({ cls := "TallTowersModel", name := "signs", desc := "(III)V" } : Jvm.MethodName)) ∈ lw_all := lw_g (lw_at lw_m8 174 rfl) rfl
theorem q1981 : (Jvm.Cond.privateMethod ({ cls := "TallTowersModel", name := "signs", desc := "(III)V" } : Jvm.MethodName)) ∈ lw_tbl := lw_at lw_m8 175 rfl
theorem q1982 : (Jvm.Cond.instanceMethod ({ cls := "TallTowersModel", name := "signs", desc := "(III)V" } : Jvm.MethodName)) ∈ lw_all := lw_g (lw_at lw_m8 176 rfl) rfl
theorem q1983 : (Jvm.Cond.code ({ cls := "TallTowersModel", name := "signs", desc := "(III)V" } : Jvm.MethodName) prog_16_method_55_code (4 : Nat) (Option.none : Option Jvm.ClassFile.FieldType)) ∈ lw_all := lw_g (lw_at lw_m8 177 rfl) rfl
theorem q1984 : (Jvm.Cond.methodLink "TallTowersModel" (310 : Nat) ({ cls := "TallTowersModel", name := "rulesAre", desc := "(III)V" } : Jvm.MethodName)) ∈ lw_all := lw_g (lw_at lw_m8 178 rfl) rfl
theorem q1985 : (Jvm.Cond.privateMethod ({ cls := "TallTowersModel", name := "rulesAre", desc := "(III)V" } : Jvm.MethodName)) ∈ lw_tbl := lw_at lw_m8 179 rfl
theorem q1986 : (Jvm.Cond.instanceMethod ({ cls := "TallTowersModel", name := "rulesAre", desc := "(III)V" } : Jvm.MethodName)) ∈ lw_all := lw_g (lw_at lw_m8 180 rfl) rfl
theorem q1987 : (Jvm.Cond.code ({ cls := "TallTowersModel", name := "rulesAre", desc := "(III)V" } : Jvm.MethodName) prog_16_method_53_code (4 : Nat) (Option.none : Option Jvm.ClassFile.FieldType)) ∈ lw_all := lw_g (lw_at lw_m8 181 rfl) rfl
theorem q1988 : (Jvm.Cond.methodLink "TallTowersModel" (313 : Nat) ({ cls := "TallTowersModel", name := "harms", desc := "(I)V" } : Jvm.MethodName)) ∈ lw_all := lw_g (lw_at lw_m8 182 rfl) rfl
theorem q1989 : (Jvm.Cond.privateMethod ({ cls := "TallTowersModel", name := "harms", desc := "(I)V" } : Jvm.MethodName)) ∈ lw_tbl := lw_at lw_m8 183 rfl
theorem q1990 : (Jvm.Cond.instanceMethod ({ cls := "TallTowersModel", name := "harms", desc := "(I)V" } : Jvm.MethodName)) ∈ lw_all := lw_g (lw_at lw_m8 184 rfl) rfl
theorem q1991 : (Jvm.Cond.code ({ cls := "TallTowersModel", name := "harms", desc := "(I)V" } : Jvm.MethodName) prog_16_method_56_code (3 : Nat) (Option.none : Option Jvm.ClassFile.FieldType)) ∈ lw_all := lw_g (lw_at lw_m8 185 rfl) rfl
theorem q1992 : (Jvm.Cond.methodLink "TallTowersModel" (325 : Nat) ({ cls := "TallTowersModel", name := "spreads", desc := "(IJ)V" } : Jvm.MethodName)) ∈ lw_all := lw_g (lw_at lw_m8 186 rfl) rfl
theorem q1993 : (Jvm.Cond.privateMethod ({ cls := "TallTowersModel", name := "spreads", desc := "(IJ)V" } : Jvm.MethodName)) ∈ lw_tbl := lw_at lw_m8 187 rfl
theorem q1994 : (Jvm.Cond.instanceMethod ({ cls := "TallTowersModel", name := "spreads", desc := "(IJ)V" } : Jvm.MethodName)) ∈ lw_all := lw_g (lw_at lw_m8 188 rfl) rfl
theorem q1995 : (Jvm.Cond.code ({ cls := "TallTowersModel", name := "spreads", desc := "(IJ)V" } : Jvm.MethodName) prog_16_method_44_code (5 : Nat) (Option.none : Option Jvm.ClassFile.FieldType)) ∈ lw_all := lw_g (lw_at lw_m8 189 rfl) rfl
theorem q1996 : (Jvm.Cond.methodLink "TallTowersModel" (258 : Nat) ({ cls := "TallTowersModel", name := "laysFair", desc := "(IJ)V" } : Jvm.MethodName)) ∈ lw_all := lw_g (lw_at lw_m8 190 rfl) rfl
theorem q1997 : (Jvm.Cond.privateMethod ({ cls := "TallTowersModel", name := "laysFair", desc := "(IJ)V" } : Jvm.MethodName)) ∈ lw_tbl := lw_at lw_m8 191 rfl
theorem q1998 : (Jvm.Cond.instanceMethod ({ cls := "TallTowersModel", name := "laysFair", desc := "(IJ)V" } : Jvm.MethodName)) ∈ lw_all := lw_g (lw_at lw_m8 192 rfl) rfl
theorem q1999 : (Jvm.Cond.code ({ cls := "TallTowersModel", name := "laysFair", desc := "(IJ)V" } : Jvm.MethodName) prog_16_method_37_code (5 : Nat) (Option.none : Option Jvm.ClassFile.FieldType)) ∈ lw_all := lw_g (lw_at lw_m8 193 rfl) rfl
theorem q2000 : (Jvm.Cond.methodLink "TallTowersModel" (228 : Nat) ({ cls := "TallTowersModel", name := "laysAside", desc := "(I)V" } : Jvm.MethodName)) ∈ lw_all := lw_g (lw_at lw_m8 194 rfl) rfl
theorem q2001 : (Jvm.Cond.privateMethod ({ cls := "TallTowersModel", name := "laysAside", desc := "(I)V" } : Jvm.MethodName)) ∈ lw_tbl := lw_at lw_m8 195 rfl
theorem q2002 : (Jvm.Cond.instanceMethod ({ cls := "TallTowersModel", name := "laysAside", desc := "(I)V" } : Jvm.MethodName)) ∈ lw_all := lw_g (lw_at lw_m8 196 rfl) rfl
theorem q2003 : (Jvm.Cond.code ({ cls := "TallTowersModel", name := "laysAside", desc := "(I)V" } : Jvm.MethodName) prog_16_method_35_code (3 : Nat) (Option.none : Option Jvm.ClassFile.FieldType)) ∈ lw_all := lw_g (lw_at lw_m8 197 rfl) rfl
theorem q2004 : (Jvm.Cond.methodLink "TallTowersModel" (231 : Nat) ({ cls := "TallTowersModel", name := "laysLike", desc := "(I)V" } : Jvm.MethodName)) ∈ lw_all := lw_g (lw_at lw_m8 198 rfl) rfl
theorem q2005 : (Jvm.Cond.privateMethod ({ cls := "TallTowersModel", name := "laysLike", desc := "(I)V" } : Jvm.MethodName)) ∈ lw_tbl := lw_at lw_m8 199 rfl
theorem q2006 : (Jvm.Cond.instanceMethod ({ cls := "TallTowersModel", name := "laysLike", desc := "(I)V" } : Jvm.MethodName)) ∈ lw_all := lw_g (lw_at lw_m8 200 rfl) rfl
theorem q2007 : (Jvm.Cond.code ({ cls := "TallTowersModel", name := "laysLike", desc := "(I)V" } : Jvm.MethodName) prog_16_method_29_code (3 : Nat) (Option.none : Option Jvm.ClassFile.FieldType)) ∈ lw_all := lw_g (lw_at lw_m8 201 rfl) rfl
theorem q2008 : (Jvm.Cond.methodLink "TallTowersModel" (197 : Nat) ({ cls := "TallTowersModel", name := "isOff", desc := "(II)Z" } : Jvm.MethodName)) ∈ lw_all := lw_g (lw_at lw_m8 202 rfl) rfl
theorem q2009 : (Jvm.Cond.privateMethod ({ cls := "TallTowersModel", name := "isOff", desc := "(II)Z" } : Jvm.MethodName)) ∈ lw_tbl := lw_at lw_m8 203 rfl
theorem q2010 : (Jvm.Cond.instanceMethod ({ cls := "TallTowersModel", name := "isOff", desc := "(II)Z" } : Jvm.MethodName)) ∈ lw_all := lw_g (lw_at lw_m8 204 rfl) rfl
theorem q2011 : (Jvm.Cond.code ({ cls := "TallTowersModel", name := "isOff", desc := "(II)Z" } : Jvm.MethodName) prog_16_method_24_code (3 : Nat) (Option.some Jvm.ClassFile.FieldType.boolean)) ∈ lw_all := lw_g (lw_at lw_m8 205 rfl) rfl
theorem q2012 : (Jvm.Cond.methodLink "TallTowersModel" (190 : Nat) ({ cls := "TallTowersModel", name := "offsBy", desc := "(IIII)I" } : Jvm.MethodName)) ∈ lw_all := lw_g (lw_at lw_m8 206 rfl) rfl
theorem q2013 : (Jvm.Cond.privateMethod ({ cls := "TallTowersModel", name := "offsBy", desc := "(IIII)I" } : Jvm.MethodName)) ∈ lw_tbl := lw_at lw_m8 207 rfl
theorem q2014 : (Jvm.Cond.instanceMethod ({ cls := "TallTowersModel", name := "offsBy", desc := "(IIII)I" } : Jvm.MethodName)) ∈ lw_all := lw_g (lw_at lw_m8 208 rfl) rfl
theorem q2015 : (Jvm.Cond.code ({ cls := "TallTowersModel", name := "offsBy", desc := "(IIII)I" } : Jvm.MethodName) prog_16_method_23_code (8 : Nat) (Option.some Jvm.ClassFile.FieldType.int)) ∈ lw_all := lw_g (lw_at lw_m8 209 rfl) rfl
theorem q2016 : (Jvm.Cond.methodLink "TallTowersModel" (234 : Nat) ({ cls := "TallTowersModel", name := "byShares", desc := "(IJ)V" } : Jvm.MethodName)) ∈ lw_all := lw_g (lw_at lw_m8 210 rfl) rfl
theorem q2017 : (Jvm.Cond.privateMethod ({ cls := "TallTowersModel", name := "byShares", desc := "(IJ)V" } : Jvm.MethodName)) ∈ lw_tbl := lw_at lw_m8 211 rfl
theorem q2018 : (Jvm.Cond.instanceMethod ({ cls := "TallTowersModel", name := "byShares", desc := "(IJ)V" } : Jvm.MethodName)) ∈ lw_all := lw_g (lw_at lw_m8 212 rfl) rfl
theorem q2019 : (Jvm.Cond.code ({ cls := "TallTowersModel", name := "byShares", desc := "(IJ)V" } : Jvm.MethodName) prog_16_method_31_code (5 : Nat) (Option.none : Option Jvm.ClassFile.FieldType)) ∈ lw_all := lw_g (lw_at lw_m8 213 rfl) rfl
theorem q2020 : (Jvm.Cond.methodLink "TallTowersModel" (194 : Nat) ({ cls := "TallTowersModel", name := "weightSum", desc := "(I)J" } : Jvm.MethodName)) ∈ lw_all := lw_g (lw_at lw_m8 214 rfl) rfl
theorem q2021 : (Jvm.Cond.privateMethod ({ cls := "TallTowersModel", name := "weightSum", desc := "(I)J" } : Jvm.MethodName)) ∈ lw_tbl := lw_at lw_m8 215 rfl
theorem q2022 : (Jvm.Cond.instanceMethod ({ cls := "TallTowersModel", name := "weightSum", desc := "(I)J" } : Jvm.MethodName)) ∈ lw_all := lw_g (lw_at lw_m8 216 rfl) rfl
theorem q2023 : (Jvm.Cond.code ({ cls := "TallTowersModel", name := "weightSum", desc := "(I)J" } : Jvm.MethodName) prog_16_method_26_code (5 : Nat) (Option.some Jvm.ClassFile.FieldType.long)) ∈ lw_all := lw_g (lw_at lw_m8 217 rfl) rfl
theorem q2024 : (Jvm.Cond.methodLink "TallTowersModel" (211 : Nat) ({ cls := "TallTowersModel", name := "shares", desc := "(JI)V" } : Jvm.MethodName)) ∈ lw_all := lw_g (lw_at lw_m8 218 rfl) rfl
theorem q2025 : (Jvm.Cond.privateMethod ({ cls := "TallTowersModel", name := "shares", desc := "(JI)V" } : Jvm.MethodName)) ∈ lw_tbl := lw_at lw_m8 219 rfl
theorem q2026 : (Jvm.Cond.instanceMethod ({ cls := "TallTowersModel", name := "shares", desc := "(JI)V" } : Jvm.MethodName)) ∈ lw_all := lw_g (lw_at lw_m8 220 rfl) rfl
theorem q2027 : (Jvm.Cond.code ({ cls := "TallTowersModel", name := "shares", desc := "(JI)V" } : Jvm.MethodName) prog_16_method_27_code (9 : Nat) (Option.none : Option Jvm.ClassFile.FieldType)) ∈ lw_all := lw_g (lw_at lw_m8 221 rfl) rfl
theorem q2028 : (Jvm.Cond.methodLink "TallTowersModel" (205 : Nat) ({ cls := "TallTowersModel", name := "isGap", desc := "(I)Z" } : Jvm.MethodName)) ∈ lw_all := lw_g (lw_at lw_m8 222 rfl) rfl
theorem q2029 : (Jvm.Cond.privateMethod ({ cls := "TallTowersModel", name := "isGap", desc := "(I)Z" } : Jvm.MethodName)) ∈ lw_tbl := lw_at lw_m8 223 rfl
theorem q2030 : (Jvm.Cond.instanceMethod ({ cls := "TallTowersModel", name := "isGap", desc := "(I)Z" } : Jvm.MethodName)) ∈ lw_all := lw_g (lw_at lw_m8 224 rfl) rfl
theorem q2031 : (Jvm.Cond.code ({ cls := "TallTowersModel", name := "isGap", desc := "(I)Z" } : Jvm.MethodName) prog_16_method_17_code (2 : Nat) (Option.some Jvm.ClassFile.FieldType.boolean)) ∈ lw_all := lw_g (lw_at lw_m8 225 rfl) rfl
theorem q2032 : (Jvm.Cond.methodLink "TallTowersModel" (215 : Nat) ({ cls := "TallTowersModel", name := "fills", desc := "(IIJ)J" } : Jvm.MethodName)) ∈ lw_all := lw_g (lw_at lw_m8 226 rfl) rfl
theorem q2033 : (Jvm.Cond.privateMethod ({ cls := "TallTowersModel", name := "fills", desc := "(IIJ)J" } : Jvm.MethodName)) ∈ lw_tbl := lw_at lw_m8 227 rfl
theorem q2034 : (Jvm.Cond.instanceMethod ({ cls := "TallTowersModel", name := "fills", desc := "(IIJ)J" } : Jvm.MethodName)) ∈ lw_all := lw_g (lw_at lw_m8 228 rfl) rfl
theorem q2035 : (Jvm.Cond.code ({ cls := "TallTowersModel", name := "fills", desc := "(IIJ)J" } : Jvm.MethodName) prog_16_method_28_code (13 : Nat) (Option.some Jvm.ClassFile.FieldType.long)) ∈ lw_all := lw_g (lw_at lw_m8 229 rfl) rfl
theorem q2036 : (Jvm.Cond.methodLink "TallTowersModel" (187 : Nat) ({ cls := "TallTowersModel", name := "holeLeft", desc := "(II)J" } : Jvm.MethodName)) ∈ lw_all := lw_g (lw_at lw_m8 230 rfl) rfl
theorem q2037 : (Jvm.Cond.privateMethod ({ cls := "TallTowersModel", name := "holeLeft", desc := "(II)J" } : Jvm.MethodName)) ∈ lw_tbl := lw_at lw_m8 231 rfl
theorem q2038 : (Jvm.Cond.instanceMethod ({ cls := "TallTowersModel", name := "holeLeft", desc := "(II)J" } : Jvm.MethodName)) ∈ lw_all := lw_g (lw_at lw_m8 232 rfl) rfl
theorem q2039 : (Jvm.Cond.code ({ cls := "TallTowersModel", name := "holeLeft", desc := "(II)J" } : Jvm.MethodName) prog_16_method_19_code (5 : Nat) (Option.some Jvm.ClassFile.FieldType.long)) ∈ lw_all := lw_g (lw_at lw_m8 233 rfl) rfl
theorem q2040 : (Jvm.Cond.methodLink "TallTowersModel" (172 : Nat) ({ cls := "TallTowersModel", name := "holeOf", desc := "(I)I" } : Jvm.MethodName)) ∈ lw_all := lw_g (lw_at lw_m8 234 rfl) rfl
theorem q2041 : (Jvm.Cond.privateMethod ({ cls := "TallTowersModel", name := "holeOf", desc := "(I)I" } : Jvm.MethodName)) ∈ lw_tbl := lw_at lw_m8 235 rfl
theorem q2042 : (Jvm.Cond.instanceMethod ({ cls := "TallTowersModel", name := "holeOf", desc := "(I)I" } : Jvm.MethodName)) ∈ lw_all := lw_g (lw_at lw_m8 236 rfl) rfl
theorem q2043 : (Jvm.Cond.code ({ cls := "TallTowersModel", name := "holeOf", desc := "(I)I" } : Jvm.MethodName) prog_16_method_18_code (2 : Nat) (Option.some Jvm.ClassFile.FieldType.int)) ∈ lw_all := lw_g (lw_at lw_m8 237 rfl) rfl
theorem q2044 : (Jvm.Cond.methodLink "TallTowersModel" (179 : Nat) ({ cls := "TallTowersModel", name := "least", desc := "(JJ)J" } : Jvm.MethodName)) ∈ lw_all := lw_g (lw_at lw_m8 238 rfl) rfl
theorem q2045 : (Jvm.Cond.static ({ cls := "TallTowersModel", name := "least", desc := "(JJ)J" } : Jvm.MethodName)) ∈ lw_all := lw_g (lw_at lw_m8 239 rfl) rfl
theorem q2046 : (Jvm.Cond.code ({ cls := "TallTowersModel", name := "least", desc := "(JJ)J" } : Jvm.MethodName) prog_16_method_4_code (4 : Nat) (Option.some Jvm.ClassFile.FieldType.long)) ∈ lw_all := lw_g (lw_at lw_m9 0 rfl) rfl
theorem q2047 : (Jvm.Cond.methodLink "TallTowersModel" (183 : Nat) ({ cls := "TallTowersModel", name := "canTake", desc := "(II)J" } : Jvm.MethodName)) ∈ lw_all := lw_g (lw_at lw_m9 1 rfl) rfl
theorem q2048 : (Jvm.Cond.privateMethod ({ cls := "TallTowersModel", name := "canTake", desc := "(II)J" } : Jvm.MethodName)) ∈ lw_tbl := lw_at lw_m9 2 rfl
theorem q2049 : (Jvm.Cond.instanceMethod ({ cls := "TallTowersModel", name := "canTake", desc := "(II)J" } : Jvm.MethodName)) ∈ lw_all := lw_g (lw_at lw_m9 3 rfl) rfl
theorem q2050 : (Jvm.Cond.code ({ cls := "TallTowersModel", name := "canTake", desc := "(II)J" } : Jvm.MethodName) prog_16_method_20_code (3 : Nat) (Option.some Jvm.ClassFile.FieldType.long)) ∈ lw_all := lw_g (lw_at lw_m9 4 rfl) rfl
theorem q2051 : (Jvm.Cond.methodLink "TallTowersModel" (175 : Nat) ({ cls := "TallTowersModel", name := "left", desc := "(I)J" } : Jvm.MethodName)) ∈ lw_all := lw_g (lw_at lw_m9 5 rfl) rfl
theorem q2052 : (Jvm.Cond.privateMethod ({ cls := "TallTowersModel", name := "left", desc := "(I)J" } : Jvm.MethodName)) ∈ lw_tbl := lw_at lw_m9 6 rfl
theorem q2053 : (Jvm.Cond.instanceMethod ({ cls := "TallTowersModel", name := "left", desc := "(I)J" } : Jvm.MethodName)) ∈ lw_all := lw_g (lw_at lw_m9 7 rfl) rfl
theorem q2054 : (Jvm.Cond.code ({ cls := "TallTowersModel", name := "left", desc := "(I)J" } : Jvm.MethodName) prog_16_method_13_code (2 : Nat) (Option.some Jvm.ClassFile.FieldType.long)) ∈ lw_all := lw_g (lw_at lw_m9 8 rfl) rfl
theorem q2055 : (Jvm.Cond.methodLink "TallTowersModel" (238 : Nat) ({ cls := "TallTowersModel", name := "laysBack", desc := "(I)V" } : Jvm.MethodName)) ∈ lw_all := lw_g (lw_at lw_m9 9 rfl) rfl
theorem q2056 : (Jvm.Cond.privateMethod ({ cls := "TallTowersModel", name := "laysBack", desc := "(I)V" } : Jvm.MethodName)) ∈ lw_tbl := lw_at lw_m9 10 rfl
theorem q2057 : (Jvm.Cond.instanceMethod ({ cls := "TallTowersModel", name := "laysBack", desc := "(I)V" } : Jvm.MethodName)) ∈ lw_all := lw_g (lw_at lw_m9 11 rfl) rfl
theorem q2058 : (Jvm.Cond.code ({ cls := "TallTowersModel", name := "laysBack", desc := "(I)V" } : Jvm.MethodName) prog_16_method_36_code (3 : Nat) (Option.none : Option Jvm.ClassFile.FieldType)) ∈ lw_all := lw_g (lw_at lw_m9 12 rfl) rfl
theorem q2059 : (Jvm.Cond.methodLink "TallTowersModel" (261 : Nat) ({ cls := "TallTowersModel", name := "byFull", desc := "(IJ)V" } : Jvm.MethodName)) ∈ lw_all := lw_g (lw_at lw_m9 13 rfl) rfl
theorem q2060 : (Jvm.Cond.privateMethod ({ cls := "TallTowersModel", name := "byFull", desc := "(IJ)V" } : Jvm.MethodName)) ∈ lw_tbl := lw_at lw_m9 14 rfl
theorem q2061 : (Jvm.Cond.instanceMethod ({ cls := "TallTowersModel", name := "byFull", desc := "(IJ)V" } : Jvm.MethodName)) ∈ lw_all := lw_g (lw_at lw_m9 15 rfl) rfl
theorem q2062 : (Jvm.Cond.code ({ cls := "TallTowersModel", name := "byFull", desc := "(IJ)V" } : Jvm.MethodName) prog_16_method_34_code (8 : Nat) (Option.none : Option Jvm.ClassFile.FieldType)) ∈ lw_all := lw_g (lw_at lw_m9 16 rfl) rfl
theorem q2063 : (Jvm.Cond.methodLink "TallTowersModel" (225 : Nat) ({ cls := "TallTowersModel", name := "picked", desc := "(II)I" } : Jvm.MethodName)) ∈ lw_all := lw_g (lw_at lw_m9 17 rfl) rfl
theorem q2064 : (Jvm.Cond.privateMethod ({ cls := "TallTowersModel", name := "picked", desc := "(II)I" } : Jvm.MethodName)) ∈ lw_tbl := lw_at lw_m9 18 rfl
theorem q2065 : (Jvm.Cond.instanceMethod ({ cls := "TallTowersModel", name := "picked", desc := "(II)I" } : Jvm.MethodName)) ∈ lw_all := lw_g (lw_at lw_m9 19 rfl) rfl
theorem q2066 : (Jvm.Cond.code ({ cls := "TallTowersModel", name := "picked", desc := "(II)I" } : Jvm.MethodName) prog_16_method_33_code (6 : Nat) (Option.some Jvm.ClassFile.FieldType.int)) ∈ lw_all := lw_g (lw_at lw_m9 20 rfl) rfl
theorem q2067 : (Jvm.Cond.methodLink "TallTowersModel" (222 : Nat) ({ cls := "TallTowersModel", name := "rankOf", desc := "(II)J" } : Jvm.MethodName)) ∈ lw_all := lw_g (lw_at lw_m9 21 rfl) rfl
theorem q2068 : (Jvm.Cond.privateMethod ({ cls := "TallTowersModel", name := "rankOf", desc := "(II)J" } : Jvm.MethodName)) ∈ lw_tbl := lw_at lw_m9 22 rfl
theorem q2069 : (Jvm.Cond.instanceMethod ({ cls := "TallTowersModel", name := "rankOf", desc := "(II)J" } : Jvm.MethodName)) ∈ lw_all := lw_g (lw_at lw_m9 23 rfl) rfl
theorem q2070 : (Jvm.Cond.code ({ cls := "TallTowersModel", name := "rankOf", desc := "(II)J" } : Jvm.MethodName) prog_16_method_32_code (3 : Nat) (Option.some Jvm.ClassFile.FieldType.long)) ∈ lw_all := lw_g (lw_at lw_m9 24 rfl) rfl
theorem q2071 : (Jvm.Cond.methodLink "TallTowersModel" (219 : Nat) ({ cls := "TallTowersModel", name := "roomOf", desc := "(II)J" } : Jvm.MethodName)) ∈ lw_all := lw_g (lw_at lw_m9 25 rfl) rfl
theorem q2072 : (Jvm.Cond.privateMethod ({ cls := "TallTowersModel", name := "roomOf", desc := "(II)J" } : Jvm.MethodName)) ∈ lw_tbl := lw_at lw_m9 26 rfl
theorem q2073 : (Jvm.Cond.instanceMethod ({ cls := "TallTowersModel", name := "roomOf", desc := "(II)J" } : Jvm.MethodName)) ∈ lw_all := lw_g (lw_at lw_m9 27 rfl) rfl
theorem q2074 : (Jvm.Cond.code ({ cls := "TallTowersModel", name := "roomOf", desc := "(II)J" } : Jvm.MethodName) prog_16_method_21_code (6 : Nat) (Option.some Jvm.ClassFile.FieldType.long)) ∈ lw_all := lw_g (lw_at lw_m9 28 rfl) rfl
theorem q2075 : (Jvm.Cond.methodLink "TallTowersModel" (264 : Nat) ({ cls := "TallTowersModel", name := "contributes", desc := "(I)V" } : Jvm.MethodName)) ∈ lw_all := lw_g (lw_at lw_m9 29 rfl) rfl
theorem q2076 : (Jvm.Cond.privateMethod ({ cls := "TallTowersModel", name := "contributes", desc := "(I)V" } : Jvm.MethodName)) ∈ lw_tbl := lw_at lw_m9 30 rfl
theorem q2077 : (Jvm.Cond.instanceMethod ({ cls := "TallTowersModel", name := "contributes", desc := "(I)V" } : Jvm.MethodName)) ∈ lw_all := lw_g (lw_at lw_m9 31 rfl) rfl
theorem q2078 : (Jvm.Cond.code ({ cls := "TallTowersModel", name := "contributes", desc := "(I)V" } : Jvm.MethodName) prog_16_method_39_code (11 : Nat) (Option.none : Option Jvm.ClassFile.FieldType)) ∈ lw_all := lw_g (lw_at lw_m9 32 rfl) rfl
theorem q2079 : (Jvm.Cond.methodLink "TallTowersModel" (241 : Nat) ({ cls := "TallTowersModel", name := "laysUnlike", desc := "(I)J" } : Jvm.MethodName)) ∈ lw_all := lw_g (lw_at lw_m9 33 rfl) rfl
theorem q2080 : (Jvm.Cond.privateMethod ({ cls := "TallTowersModel", name := "laysUnlike", desc := "(I)J" } : Jvm.MethodName)) ∈ lw_tbl := lw_at lw_m9 34 rfl
theorem q2081 : (Jvm.Cond.instanceMethod ({ cls := "TallTowersModel", name := "laysUnlike", desc := "(I)J" } : Jvm.MethodName)) ∈ lw_all := lw_g (lw_at lw_m9 35 rfl) rfl
theorem q2082 : (Jvm.Cond.code ({ cls := "TallTowersModel", name := "laysUnlike", desc := "(I)J" } : Jvm.MethodName) prog_16_method_38_code (7 : Nat) (Option.some Jvm.ClassFile.FieldType.long)) ∈ lw_all := lw_g (lw_at lw_m9 36 rfl) rfl
theorem q2083 : (Jvm.Cond.methodLink "TallTowersModel" (267 : Nat) ({ cls := "TallTowersModel", name := "byLevel", desc := "(IJ)V" } : Jvm.MethodName)) ∈ lw_all := lw_g (lw_at lw_m9 37 rfl) rfl
theorem q2084 : (Jvm.Cond.privateMethod ({ cls := "TallTowersModel", name := "byLevel", desc := "(IJ)V" } : Jvm.MethodName)) ∈ lw_tbl := lw_at lw_m9 38 rfl
theorem q2085 : (Jvm.Cond.instanceMethod ({ cls := "TallTowersModel", name := "byLevel", desc := "(IJ)V" } : Jvm.MethodName)) ∈ lw_all := lw_g (lw_at lw_m9 39 rfl) rfl
theorem q2086 : (Jvm.Cond.code ({ cls := "TallTowersModel", name := "byLevel", desc := "(IJ)V" } : Jvm.MethodName) prog_16_method_41_code (12 : Nat) (Option.none : Option Jvm.ClassFile.FieldType)) ∈ lw_all := lw_g (lw_at lw_m9 40 rfl) rfl
theorem q2087 : (Jvm.Cond.constantLong "TallTowersModel" (244 : Nat) (2000000000 : Int64)) ∈ lw_all := lw_g (lw_at lw_m9 41 rfl) rfl
theorem q2088 : (Jvm.Cond.constantLong "TallTowersModel" (246 : Nat) (2 : Int64)) ∈ lw_all := lw_g (lw_at lw_m9 42 rfl) rfl
theorem q2089 : (Jvm.Cond.methodLink "TallTowersModel" (248 : Nat) ({ cls := "TallTowersModel", name := "levelled", desc := "(J)J" } : Jvm.MethodName)) ∈ lw_all := lw_g (lw_at lw_m9 43 rfl) rfl
theorem q2090 : (Jvm.Cond.privateMethod ({ cls := "TallTowersModel", name := "levelled", desc := "(J)J" } : Jvm.MethodName)) ∈ lw_tbl := lw_at lw_m9 44 rfl
theorem q2091 : (Jvm.Cond.instanceMethod ({ cls := "TallTowersModel", name := "levelled", desc := "(J)J" } : Jvm.MethodName)) ∈ lw_all := lw_g (lw_at lw_m9 45 rfl) rfl
theorem q2092 : (Jvm.Cond.code ({ cls := "TallTowersModel", name := "levelled", desc := "(J)J" } : Jvm.MethodName) prog_16_method_40_code (6 : Nat) (Option.some Jvm.ClassFile.FieldType.long)) ∈ lw_all := lw_g (lw_at lw_m9 46 rfl) rfl
theorem q2093 : (Jvm.Cond.methodLink "TallTowersModel" (270 : Nat) ({ cls := "TallTowersModel", name := "laysSizes", desc := "(I)V" } : Jvm.MethodName)) ∈ lw_all := lw_g (lw_at lw_m9 47 rfl) rfl
theorem q2094 : (Jvm.Cond.privateMethod ({ cls := "TallTowersModel", name := "laysSizes", desc := "(I)V" } : Jvm.MethodName)) ∈ lw_tbl := lw_at lw_m9 48 rfl
theorem q2095 : (Jvm.Cond.instanceMethod ({ cls := "TallTowersModel", name := "laysSizes", desc := "(I)V" } : Jvm.MethodName)) ∈ lw_all := lw_g (lw_at lw_m9 49 rfl) rfl
theorem q2096 : (Jvm.Cond.code ({ cls := "TallTowersModel", name := "laysSizes", desc := "(I)V" } : Jvm.MethodName) prog_16_method_30_code (7 : Nat) (Option.none : Option Jvm.ClassFile.FieldType)) ∈ lw_all := lw_g (lw_at lw_m9 50 rfl) rfl
theorem q2097 : (Jvm.Cond.methodLink "TallTowersModel" (208 : Nat) ({ cls := "TallTowersModel", name := "sizesOf", desc := "(I)J" } : Jvm.MethodName)) ∈ lw_all := lw_g (lw_at lw_m9 51 rfl) rfl
theorem q2098 : (Jvm.Cond.privateMethod ({ cls := "TallTowersModel", name := "sizesOf", desc := "(I)J" } : Jvm.MethodName)) ∈ lw_tbl := lw_at lw_m9 52 rfl
theorem q2099 : (Jvm.Cond.instanceMethod ({ cls := "TallTowersModel", name := "sizesOf", desc := "(I)J" } : Jvm.MethodName)) ∈ lw_all := lw_g (lw_at lw_m9 53 rfl) rfl
theorem q2100 : (Jvm.Cond.code ({ cls := "TallTowersModel", name := "sizesOf", desc := "(I)J" } : Jvm.MethodName) prog_16_method_22_code (5 : Nat) (Option.some Jvm.ClassFile.FieldType.long)) ∈ lw_all := lw_g (lw_at lw_m9 54 rfl) rfl
theorem q2101 : (Jvm.Cond.methodLink "TallTowersModel" (273 : Nat) ({ cls := "TallTowersModel", name := "splits", desc := "(II)V" } : Jvm.MethodName)) ∈ lw_all := lw_g (lw_at lw_m9 55 rfl) rfl
theorem q2102 : (Jvm.Cond.privateMethod ({ cls := "TallTowersModel", name := "splits", desc := "(II)V" } : Jvm.MethodName)) ∈ lw_tbl := lw_at lw_m9 56 rfl
theorem q2103 : (Jvm.Cond.instanceMethod ({ cls := "TallTowersModel", name := "splits", desc := "(II)V" } : Jvm.MethodName)) ∈ lw_all := lw_g (lw_at lw_m9 57 rfl) rfl
theorem q2104 : (Jvm.Cond.code ({ cls := "TallTowersModel", name := "splits", desc := "(II)V" } : Jvm.MethodName) prog_16_method_43_code (12 : Nat) (Option.none : Option Jvm.ClassFile.FieldType)) ∈ lw_all := lw_g (lw_at lw_m9 58 rfl) rfl
theorem q2105 : (Jvm.Cond.constantLong "TallTowersModel" (252 : Nat) (10 : Int64)) ∈ lw_all := lw_g (lw_at lw_m9 59 rfl) rfl
theorem q2106 : (Jvm.Cond.methodLink "TallTowersModel" (254 : Nat) ({ cls := "TallTowersModel", name := "fallsOn", desc := "(IIJ)V" } : Jvm.MethodName)) ∈ lw_all := lw_g (lw_at lw_m9 60 rfl) rfl
theorem q2107 : (Jvm.Cond.privateMethod ({ cls := "TallTowersModel", name := "fallsOn", desc := "(IIJ)V" } : Jvm.MethodName)) ∈ lw_tbl := lw_at lw_m9 61 rfl
theorem q2108 : (Jvm.Cond.instanceMethod ({ cls := "TallTowersModel", name := "fallsOn", desc := "(IIJ)V" } : Jvm.MethodName)) ∈ lw_all := lw_g (lw_at lw_m9 62 rfl) rfl
theorem q2109 : (Jvm.Cond.code ({ cls := "TallTowersModel", name := "fallsOn", desc := "(IIJ)V" } : Jvm.MethodName) prog_16_method_42_code (5 : Nat) (Option.none : Option Jvm.ClassFile.FieldType)) ∈ lw_all := lw_g (lw_at lw_m9 63 rfl) rfl
theorem q2110 : (Jvm.Cond.methodLink "TallTowersModel" (316 : Nat) ({ cls := "TallTowersModel", name := "grows", desc := "(II)V" } : Jvm.MethodName)) ∈ lw_all := lw_g (lw_at lw_m9 64 rfl) rfl
theorem q2111 : (Jvm.Cond.privateMethod ({ cls := "TallTowersModel", name := "grows", desc := "(II)V" } : Jvm.MethodName)) ∈ lw_tbl := lw_at lw_m9 65 rfl
theorem q2112 : (Jvm.Cond.instanceMethod ({ cls := "TallTowersModel", name := "grows", desc := "(II)V" } : Jvm.MethodName)) ∈ lw_all := lw_g (lw_at lw_m9 66 rfl) rfl
theorem q2113 : (Jvm.Cond.code ({ cls := "TallTowersModel", name := "grows", desc := "(II)V" } : Jvm.MethodName) prog_16_method_57_code (3 : Nat) (Option.none : Option Jvm.ClassFile.FieldType)) ∈ lw_all := lw_g (lw_at lw_m9 67 rfl) rfl
theorem q2114 : (Jvm.Cond.methodLink "TallTowersModel" (319 : Nat) ({ cls := "TallTowersModel", name := "reopens", desc := "(I)V" } : Jvm.MethodName)) ∈ lw_all := lw_g (lw_at lw_m9 68 rfl) rfl
theorem q2115 : (Jvm.Cond.privateMethod ({ cls := "TallTowersModel", name := "reopens", desc := "(I)V" } : Jvm.MethodName)) ∈ lw_tbl := lw_at lw_m9 69 rfl
theorem q2116 : (Jvm.Cond.instanceMethod ({ cls := "TallTowersModel", name := "reopens", desc := "(I)V" } : Jvm.MethodName)) ∈ lw_all := lw_g (lw_at lw_m9 70 rfl) rfl
theorem q2117 : (Jvm.Cond.code ({ cls := "TallTowersModel", name := "reopens", desc := "(I)V" } : Jvm.MethodName) prog_16_method_58_code (3 : Nat) (Option.none : Option Jvm.ClassFile.FieldType)) ∈ lw_all := lw_g (lw_at lw_m9 71 rfl) rfl
theorem q2118 : (Jvm.Cond.methodLink "TallTowersModel" (145 : Nat) ({ cls := "TallTowersModel", name := "clearsHarm", desc := "(I)V" } : Jvm.MethodName)) ∈ lw_all := lw_g (lw_at lw_m9 72 rfl) rfl
theorem q2119 : (Jvm.Cond.privateMethod ({ cls := "TallTowersModel", name := "clearsHarm", desc := "(I)V" } : Jvm.MethodName)) ∈ lw_tbl := lw_at lw_m9 73 rfl
theorem q2120 : (Jvm.Cond.instanceMethod ({ cls := "TallTowersModel", name := "clearsHarm", desc := "(I)V" } : Jvm.MethodName)) ∈ lw_all := lw_g (lw_at lw_m9 74 rfl) rfl
theorem q2121 : (Jvm.Cond.code ({ cls := "TallTowersModel", name := "clearsHarm", desc := "(I)V" } : Jvm.MethodName) prog_16_method_9_code (3 : Nat) (Option.none : Option Jvm.ClassFile.FieldType)) ∈ lw_all := lw_g (lw_at lw_m9 75 rfl) rfl
theorem q2123 : (Jvm.Cond.instanceMethod ({ cls := "TallTowersModel", name := "sign", desc := "(III)I" } : Jvm.MethodName)) ∈ lw_all := lw_g (lw_at lw_m9 77 rfl) rfl
theorem q2124 : (Jvm.Cond.selects "TallTowersModel" ({ cls := "TallTowersModel", name := "sign", desc := "(III)I" } : Jvm.MethodName) ({ cls := "TallTowersModel", name := "sign", desc := "(III)I" } : Jvm.MethodName)) ∈ lw_all := lw_g (lw_at lw_m9 78 rfl) rfl
theorem q2125 : (Jvm.Cond.code ({ cls := "TallTowersModel", name := "sign", desc := "(III)I" } : Jvm.MethodName) prog_16_method_67_code (4 : Nat) (Option.some Jvm.ClassFile.FieldType.int)) ∈ lw_all := lw_g (lw_at lw_m9 79 rfl) rfl
theorem q2126 : (Jvm.Cond.methodLink "TallTowersModel" (374 : Nat) ({ cls := "TallTowersModel", name := "isOne", desc := "(II)Z" } : Jvm.MethodName)) ∈ lw_all := lw_g (lw_at lw_m9 80 rfl) rfl
theorem q2127 : (Jvm.Cond.privateMethod ({ cls := "TallTowersModel", name := "isOne", desc := "(II)Z" } : Jvm.MethodName)) ∈ lw_tbl := lw_at lw_m9 81 rfl
theorem q2128 : (Jvm.Cond.instanceMethod ({ cls := "TallTowersModel", name := "isOne", desc := "(II)Z" } : Jvm.MethodName)) ∈ lw_all := lw_g (lw_at lw_m9 82 rfl) rfl
theorem q2129 : (Jvm.Cond.code ({ cls := "TallTowersModel", name := "isOne", desc := "(II)Z" } : Jvm.MethodName) prog_16_method_66_code (3 : Nat) (Option.some Jvm.ClassFile.FieldType.boolean)) ∈ lw_all := lw_g (lw_at lw_m9 83 rfl) rfl
theorem q2130 : (Jvm.Cond.constantLong "TallTowersModel" (372 : Nat) (39 : Int64)) ∈ lw_all := lw_g (lw_at lw_m9 84 rfl) rfl
theorem q2131 : (Jvm.Cond.constantLong "TallTowersModel" (377 : Nat) (9 : Int64)) ∈ lw_all := lw_g (lw_at lw_m9 85 rfl) rfl
theorem q2132 : (Jvm.Cond.methodLink "TallTowersModel" (296 : Nat) ({ cls := "TallTowersModel", name := "canSign", desc := "(III)Z" } : Jvm.MethodName)) ∈ lw_all := lw_g (lw_at lw_m9 86 rfl) rfl
theorem q2133 : (Jvm.Cond.privateMethod ({ cls := "TallTowersModel", name := "canSign", desc := "(III)Z" } : Jvm.MethodName)) ∈ lw_tbl := lw_at lw_m9 87 rfl
theorem q2134 : (Jvm.Cond.instanceMethod ({ cls := "TallTowersModel", name := "canSign", desc := "(III)Z" } : Jvm.MethodName)) ∈ lw_all := lw_g (lw_at lw_m9 88 rfl) rfl
theorem q2135 : (Jvm.Cond.code ({ cls := "TallTowersModel", name := "canSign", desc := "(III)Z" } : Jvm.MethodName) prog_16_method_50_code (5 : Nat) (Option.some Jvm.ClassFile.FieldType.boolean)) ∈ lw_all := lw_g (lw_at lw_m9 89 rfl) rfl
theorem q2136 : (Jvm.Cond.methodLink "TallTowersModel" (286 : Nat) ({ cls := "TallTowersModel", name := "signedTenths", desc := "(I)I" } : Jvm.MethodName)) ∈ lw_all := lw_g (lw_at lw_m9 90 rfl) rfl
theorem q2137 : (Jvm.Cond.privateMethod ({ cls := "TallTowersModel", name := "signedTenths", desc := "(I)I" } : Jvm.MethodName)) ∈ lw_tbl := lw_at lw_m9 91 rfl
theorem q2138 : (Jvm.Cond.instanceMethod ({ cls := "TallTowersModel", name := "signedTenths", desc := "(I)I" } : Jvm.MethodName)) ∈ lw_all := lw_g (lw_at lw_m9 92 rfl) rfl
theorem q2139 : (Jvm.Cond.code ({ cls := "TallTowersModel", name := "signedTenths", desc := "(I)I" } : Jvm.MethodName) prog_16_method_49_code (4 : Nat) (Option.some Jvm.ClassFile.FieldType.int)) ∈ lw_all := lw_g (lw_at lw_m9 93 rfl) rfl
theorem q2141 : (Jvm.Cond.instanceMethod ({ cls := "TallTowersModel", name := "lack", desc := "(I)I" } : Jvm.MethodName)) ∈ lw_all := lw_g (lw_at lw_m9 95 rfl) rfl
theorem q2142 : (Jvm.Cond.selects "TallTowersModel" ({ cls := "TallTowersModel", name := "lack", desc := "(I)I" } : Jvm.MethodName) ({ cls := "TallTowersModel", name := "lack", desc := "(I)I" } : Jvm.MethodName)) ∈ lw_all := lw_g (lw_at lw_m9 96 rfl) rfl
theorem q2143 : (Jvm.Cond.code ({ cls := "TallTowersModel", name := "lack", desc := "(I)I" } : Jvm.MethodName) prog_16_method_69_code (2 : Nat) (Option.some Jvm.ClassFile.FieldType.int)) ∈ lw_all := lw_g (lw_at lw_m9 97 rfl) rfl
theorem q2144 : (Jvm.Cond.methodLink "TallTowersModel" (379 : Nat) ({ cls := "TallTowersModel", name := "bits", desc := "(I)I" } : Jvm.MethodName)) ∈ lw_all := lw_g (lw_at lw_m9 98 rfl) rfl
theorem q2145 : (Jvm.Cond.static ({ cls := "TallTowersModel", name := "bits", desc := "(I)I" } : Jvm.MethodName)) ∈ lw_all := lw_g (lw_at lw_m9 99 rfl) rfl
theorem q2146 : (Jvm.Cond.code ({ cls := "TallTowersModel", name := "bits", desc := "(I)I" } : Jvm.MethodName) prog_16_method_68_code (3 : Nat) (Option.some Jvm.ClassFile.FieldType.int)) ∈ lw_all := lw_g (lw_at lw_m9 100 rfl) rfl
theorem q2148 : (Jvm.Cond.instanceMethod ({ cls := "TallTowersModel", name := "rules", desc := "(III)I" } : Jvm.MethodName)) ∈ lw_all := lw_g (lw_at lw_m9 102 rfl) rfl
theorem q2149 : (Jvm.Cond.selects "TallTowersModel" ({ cls := "TallTowersModel", name := "rules", desc := "(III)I" } : Jvm.MethodName) ({ cls := "TallTowersModel", name := "rules", desc := "(III)I" } : Jvm.MethodName)) ∈ lw_all := lw_g (lw_at lw_m9 103 rfl) rfl
theorem q2150 : (Jvm.Cond.code ({ cls := "TallTowersModel", name := "rules", desc := "(III)I" } : Jvm.MethodName) prog_16_method_71_code (4 : Nat) (Option.some Jvm.ClassFile.FieldType.int)) ∈ lw_all := lw_g (lw_at lw_m9 104 rfl) rfl
theorem q2151 : (Jvm.Cond.methodLink "TallTowersModel" (384 : Nat) ({ cls := "TallTowersModel", name := "areRules", desc := "(III)Z" } : Jvm.MethodName)) ∈ lw_all := lw_g (lw_at lw_m9 105 rfl) rfl
theorem q2152 : (Jvm.Cond.static ({ cls := "TallTowersModel", name := "areRules", desc := "(III)Z" } : Jvm.MethodName)) ∈ lw_all := lw_g (lw_at lw_m9 106 rfl) rfl
theorem q2153 : (Jvm.Cond.code ({ cls := "TallTowersModel", name := "areRules", desc := "(III)Z" } : Jvm.MethodName) prog_16_method_70_code (3 : Nat) (Option.some Jvm.ClassFile.FieldType.boolean)) ∈ lw_all := lw_g (lw_at lw_m9 107 rfl) rfl
theorem q2154 : (Jvm.Cond.constantLong "TallTowersModel" (382 : Nat) (3 : Int64)) ∈ lw_all := lw_g (lw_at lw_m9 108 rfl) rfl
theorem q2156 : (Jvm.Cond.instanceMethod ({ cls := "TallTowersModel", name := "harm", desc := "(IIII)I" } : Jvm.MethodName)) ∈ lw_all := lw_g (lw_at lw_m9 110 rfl) rfl
theorem q2157 : (Jvm.Cond.selects "TallTowersModel" ({ cls := "TallTowersModel", name := "harm", desc := "(IIII)I" } : Jvm.MethodName) ({ cls := "TallTowersModel", name := "harm", desc := "(IIII)I" } : Jvm.MethodName)) ∈ lw_all := lw_g (lw_at lw_m9 111 rfl) rfl
theorem q2158 : (Jvm.Cond.code ({ cls := "TallTowersModel", name := "harm", desc := "(IIII)I" } : Jvm.MethodName) prog_16_method_74_code (6 : Nat) (Option.some Jvm.ClassFile.FieldType.int)) ∈ lw_all := lw_g (lw_at lw_m9 112 rfl) rfl
theorem q2159 : (Jvm.Cond.methodLink "TallTowersModel" (389 : Nat) ({ cls := "TallTowersModel", name := "areYears", desc := "(III)Z" } : Jvm.MethodName)) ∈ lw_all := lw_g (lw_at lw_m9 113 rfl) rfl
theorem q2160 : (Jvm.Cond.static ({ cls := "TallTowersModel", name := "areYears", desc := "(III)Z" } : Jvm.MethodName)) ∈ lw_all := lw_g (lw_at lw_m9 114 rfl) rfl
theorem q2161 : (Jvm.Cond.code ({ cls := "TallTowersModel", name := "areYears", desc := "(III)Z" } : Jvm.MethodName) prog_16_method_72_code (3 : Nat) (Option.some Jvm.ClassFile.FieldType.boolean)) ∈ lw_all := lw_g (lw_at lw_m9 115 rfl) rfl
theorem q2162 : (Jvm.Cond.methodLink "TallTowersModel" (392 : Nat) ({ cls := "TallTowersModel", name := "isLoss", desc := "(I)Z" } : Jvm.MethodName)) ∈ lw_all := lw_g (lw_at lw_m9 116 rfl) rfl
theorem q2163 : (Jvm.Cond.static ({ cls := "TallTowersModel", name := "isLoss", desc := "(I)Z" } : Jvm.MethodName)) ∈ lw_all := lw_g (lw_at lw_m9 117 rfl) rfl
theorem q2164 : (Jvm.Cond.code ({ cls := "TallTowersModel", name := "isLoss", desc := "(I)Z" } : Jvm.MethodName) prog_16_method_73_code (1 : Nat) (Option.some Jvm.ClassFile.FieldType.boolean)) ∈ lw_all := lw_g (lw_at lw_m9 118 rfl) rfl
theorem q2165 : (Jvm.Cond.constantLong "TallTowersModel" (387 : Nat) (1000000000 : Int64)) ∈ lw_all := lw_g (lw_at lw_m9 119 rfl) rfl
theorem q2167 : (Jvm.Cond.instanceMethod ({ cls := "TallTowersModel", name := "grow", desc := "(II)J" } : Jvm.MethodName)) ∈ lw_all := lw_g (lw_at lw_m9 121 rfl) rfl
theorem q2168 : (Jvm.Cond.selects "TallTowersModel" ({ cls := "TallTowersModel", name := "grow", desc := "(II)J" } : Jvm.MethodName) ({ cls := "TallTowersModel", name := "grow", desc := "(II)J" } : Jvm.MethodName)) ∈ lw_all := lw_g (lw_at lw_m9 122 rfl) rfl
theorem q2169 : (Jvm.Cond.code ({ cls := "TallTowersModel", name := "grow", desc := "(II)J" } : Jvm.MethodName) prog_16_method_76_code (5 : Nat) (Option.some Jvm.ClassFile.FieldType.long)) ∈ lw_all := lw_g (lw_at lw_m9 123 rfl) rfl
theorem q2170 : (Jvm.Cond.methodLink "TallTowersModel" (397 : Nat) ({ cls := "TallTowersModel", name := "isHarmOne", desc := "(I)Z" } : Jvm.MethodName)) ∈ lw_all := lw_g (lw_at lw_m9 124 rfl) rfl
theorem q2171 : (Jvm.Cond.privateMethod ({ cls := "TallTowersModel", name := "isHarmOne", desc := "(I)Z" } : Jvm.MethodName)) ∈ lw_tbl := lw_at lw_m9 125 rfl
theorem q2172 : (Jvm.Cond.instanceMethod ({ cls := "TallTowersModel", name := "isHarmOne", desc := "(I)Z" } : Jvm.MethodName)) ∈ lw_all := lw_g (lw_at lw_m9 126 rfl) rfl
theorem q2173 : (Jvm.Cond.code ({ cls := "TallTowersModel", name := "isHarmOne", desc := "(I)Z" } : Jvm.MethodName) prog_16_method_75_code (2 : Nat) (Option.some Jvm.ClassFile.FieldType.boolean)) ∈ lw_all := lw_g (lw_at lw_m9 127 rfl) rfl
theorem q2174 : (Jvm.Cond.constantLong "TallTowersModel" (395 : Nat) (23 : Int64)) ∈ lw_all := lw_g (lw_at lw_m9 128 rfl) rfl
theorem q2175 : (Jvm.Cond.methodLink "TallTowersModel" (277 : Nat) ({ cls := "TallTowersModel", name := "insuredOf", desc := "(I)J" } : Jvm.MethodName)) ∈ lw_all := lw_g (lw_at lw_m9 129 rfl) rfl
theorem q2176 : (Jvm.Cond.privateMethod ({ cls := "TallTowersModel", name := "insuredOf", desc := "(I)J" } : Jvm.MethodName)) ∈ lw_tbl := lw_at lw_m9 130 rfl
theorem q2177 : (Jvm.Cond.instanceMethod ({ cls := "TallTowersModel", name := "insuredOf", desc := "(I)J" } : Jvm.MethodName)) ∈ lw_all := lw_g (lw_at lw_m9 131 rfl) rfl
theorem q2178 : (Jvm.Cond.code ({ cls := "TallTowersModel", name := "insuredOf", desc := "(I)J" } : Jvm.MethodName) prog_16_method_45_code (5 : Nat) (Option.some Jvm.ClassFile.FieldType.long)) ∈ lw_all := lw_g (lw_at lw_m9 132 rfl) rfl
theorem q2180 : (Jvm.Cond.instanceMethod ({ cls := "TallTowersModel", name := "reopen", desc := "(I)J" } : Jvm.MethodName)) ∈ lw_all := lw_g (lw_at lw_m9 134 rfl) rfl
theorem q2181 : (Jvm.Cond.selects "TallTowersModel" ({ cls := "TallTowersModel", name := "reopen", desc := "(I)J" } : Jvm.MethodName) ({ cls := "TallTowersModel", name := "reopen", desc := "(I)J" } : Jvm.MethodName)) ∈ lw_all := lw_g (lw_at lw_m9 135 rfl) rfl
theorem q2182 : (Jvm.Cond.code ({ cls := "TallTowersModel", name := "reopen", desc := "(I)J" } : Jvm.MethodName) prog_16_method_77_code (4 : Nat) (Option.some Jvm.ClassFile.FieldType.long)) ∈ lw_all := lw_g (lw_at lw_m9 136 rfl) rfl
theorem q2184 : (Jvm.Cond.instanceMethod ({ cls := "TallTowersModel", name := "settle", desc := "(II)I" } : Jvm.MethodName)) ∈ lw_all := lw_g (lw_at lw_m9 138 rfl) rfl
theorem q2185 : (Jvm.Cond.selects "TallTowersModel" ({ cls := "TallTowersModel", name := "settle", desc := "(II)I" } : Jvm.MethodName) ({ cls := "TallTowersModel", name := "settle", desc := "(II)I" } : Jvm.MethodName)) ∈ lw_all := lw_g (lw_at lw_m9 139 rfl) rfl
theorem q2186 : (Jvm.Cond.code ({ cls := "TallTowersModel", name := "settle", desc := "(II)I" } : Jvm.MethodName) prog_16_method_79_code (3 : Nat) (Option.some Jvm.ClassFile.FieldType.int)) ∈ lw_all := lw_g (lw_at lw_m9 140 rfl) rfl
theorem q2187 : (Jvm.Cond.methodLink "TallTowersModel" (400 : Nat) ({ cls := "TallTowersModel", name := "standing", desc := "(I)I" } : Jvm.MethodName)) ∈ lw_all := lw_g (lw_at lw_m9 141 rfl) rfl
theorem q2188 : (Jvm.Cond.privateMethod ({ cls := "TallTowersModel", name := "standing", desc := "(I)I" } : Jvm.MethodName)) ∈ lw_tbl := lw_at lw_m9 142 rfl
theorem q2189 : (Jvm.Cond.instanceMethod ({ cls := "TallTowersModel", name := "standing", desc := "(I)I" } : Jvm.MethodName)) ∈ lw_all := lw_g (lw_at lw_m9 143 rfl) rfl
theorem q2190 : (Jvm.Cond.code ({ cls := "TallTowersModel", name := "standing", desc := "(I)I" } : Jvm.MethodName) prog_16_method_78_code (4 : Nat) (Option.some Jvm.ClassFile.FieldType.int)) ∈ lw_all := lw_g (lw_at lw_m9 144 rfl) rfl
theorem q2192 : (Jvm.Cond.instanceMethod ({ cls := "TallTowersModel", name := "fall", desc := "(I)I" } : Jvm.MethodName)) ∈ lw_all := lw_g (lw_at lw_m9 146 rfl) rfl
theorem q2193 : (Jvm.Cond.selects "TallTowersModel" ({ cls := "TallTowersModel", name := "fall", desc := "(I)I" } : Jvm.MethodName) ({ cls := "TallTowersModel", name := "fall", desc := "(I)I" } : Jvm.MethodName)) ∈ lw_all := lw_g (lw_at lw_m9 147 rfl) rfl
theorem q2194 : (Jvm.Cond.code ({ cls := "TallTowersModel", name := "fall", desc := "(I)I" } : Jvm.MethodName) prog_16_method_80_code (2 : Nat) (Option.some Jvm.ClassFile.FieldType.int)) ∈ lw_all := lw_g (lw_at lw_m9 148 rfl) rfl
theorem q2196 : (Jvm.Cond.instanceMethod ({ cls := "TallTowersModel", name := "back", desc := "()I" } : Jvm.MethodName)) ∈ lw_all := lw_g (lw_at lw_m9 150 rfl) rfl
theorem q2197 : (Jvm.Cond.selects "TallTowersModel" ({ cls := "TallTowersModel", name := "back", desc := "()I" } : Jvm.MethodName) ({ cls := "TallTowersModel", name := "back", desc := "()I" } : Jvm.MethodName)) ∈ lw_all := lw_g (lw_at lw_m9 151 rfl) rfl
theorem q2198 : (Jvm.Cond.code ({ cls := "TallTowersModel", name := "back", desc := "()I" } : Jvm.MethodName) prog_16_method_81_code (1 : Nat) (Option.some Jvm.ClassFile.FieldType.int)) ∈ lw_all := lw_g (lw_at lw_m9 152 rfl) rfl
theorem q2199 : (Jvm.Cond.methodLink "TallTowersModel" (403 : Nat) ({ cls := "TallTowersModel", name := "goesOver", desc := "()V" } : Jvm.MethodName)) ∈ lw_all := lw_g (lw_at lw_m9 153 rfl) rfl
theorem q2200 : (Jvm.Cond.privateMethod ({ cls := "TallTowersModel", name := "goesOver", desc := "()V" } : Jvm.MethodName)) ∈ lw_tbl := lw_at lw_m9 154 rfl
theorem q2201 : (Jvm.Cond.instanceMethod ({ cls := "TallTowersModel", name := "goesOver", desc := "()V" } : Jvm.MethodName)) ∈ lw_all := lw_g (lw_at lw_m9 155 rfl) rfl
theorem q2202 : (Jvm.Cond.code ({ cls := "TallTowersModel", name := "goesOver", desc := "()V" } : Jvm.MethodName) prog_16_method_61_code (2 : Nat) (Option.none : Option Jvm.ClassFile.FieldType)) ∈ lw_all := lw_g (lw_at lw_m9 156 rfl) rfl
theorem q2203 : (Jvm.Cond.methodLink "TallTowersModel" (340 : Nat) ({ cls := "TallTowersModel", name := "begins", desc := "()V" } : Jvm.MethodName)) ∈ lw_all := lw_g (lw_at lw_m9 157 rfl) rfl
theorem q2204 : (Jvm.Cond.privateMethod ({ cls := "TallTowersModel", name := "begins", desc := "()V" } : Jvm.MethodName)) ∈ lw_tbl := lw_at lw_m9 158 rfl
theorem q2205 : (Jvm.Cond.instanceMethod ({ cls := "TallTowersModel", name := "begins", desc := "()V" } : Jvm.MethodName)) ∈ lw_all := lw_g (lw_at lw_m9 159 rfl) rfl
theorem q2206 : (Jvm.Cond.code ({ cls := "TallTowersModel", name := "begins", desc := "()V" } : Jvm.MethodName) prog_16_method_60_code (1 : Nat) (Option.none : Option Jvm.ClassFile.FieldType)) ∈ lw_all := lw_g (lw_at lw_m9 160 rfl) rfl
theorem q2207 : (Jvm.Cond.methodLink "TallTowersModel" (337 : Nat) ({ cls := "TallTowersModel", name := "clears", desc := "()V" } : Jvm.MethodName)) ∈ lw_all := lw_g (lw_at lw_m9 161 rfl) rfl
theorem q2208 : (Jvm.Cond.privateMethod ({ cls := "TallTowersModel", name := "clears", desc := "()V" } : Jvm.MethodName)) ∈ lw_tbl := lw_at lw_m9 162 rfl
theorem q2209 : (Jvm.Cond.instanceMethod ({ cls := "TallTowersModel", name := "clears", desc := "()V" } : Jvm.MethodName)) ∈ lw_all := lw_g (lw_at lw_m9 163 rfl) rfl
theorem q2210 : (Jvm.Cond.code ({ cls := "TallTowersModel", name := "clears", desc := "()V" } : Jvm.MethodName) prog_16_method_10_code (2 : Nat) (Option.none : Option Jvm.ClassFile.FieldType)) ∈ lw_all := lw_g (lw_at lw_m9 164 rfl) rfl
theorem q2211 : (Jvm.Cond.methodLink "TallTowersModel" (343 : Nat) ({ cls := "TallTowersModel", name := "goes", desc := "(I)V" } : Jvm.MethodName)) ∈ lw_all := lw_g (lw_at lw_m9 165 rfl) rfl
theorem q2212 : (Jvm.Cond.privateMethod ({ cls := "TallTowersModel", name := "goes", desc := "(I)V" } : Jvm.MethodName)) ∈ lw_tbl := lw_at lw_m9 166 rfl
theorem q2213 : (Jvm.Cond.instanceMethod ({ cls := "TallTowersModel", name := "goes", desc := "(I)V" } : Jvm.MethodName)) ∈ lw_all := lw_g (lw_at lw_m9 167 rfl) rfl
theorem q2214 : (Jvm.Cond.code ({ cls := "TallTowersModel", name := "goes", desc := "(I)V" } : Jvm.MethodName) prog_16_method_59_code (2 : Nat) (Option.none : Option Jvm.ClassFile.FieldType)) ∈ lw_all := lw_g (lw_at lw_m9 168 rfl) rfl
theorem q2215 : (Jvm.Cond.methodLink "TallTowersModel" (328 : Nat) ({ cls := "TallTowersModel", name := "can", desc := "(I)Z" } : Jvm.MethodName)) ∈ lw_all := lw_g (lw_at lw_m9 169 rfl) rfl
theorem q2216 : (Jvm.Cond.privateMethod ({ cls := "TallTowersModel", name := "can", desc := "(I)Z" } : Jvm.MethodName)) ∈ lw_tbl := lw_at lw_m9 170 rfl
theorem q2217 : (Jvm.Cond.instanceMethod ({ cls := "TallTowersModel", name := "can", desc := "(I)Z" } : Jvm.MethodName)) ∈ lw_all := lw_g (lw_at lw_m9 171 rfl) rfl
theorem q2218 : (Jvm.Cond.code ({ cls := "TallTowersModel", name := "can", desc := "(I)Z" } : Jvm.MethodName) prog_16_method_51_code (2 : Nat) (Option.some Jvm.ClassFile.FieldType.boolean)) ∈ lw_all := lw_g (lw_at lw_m9 172 rfl) rfl
theorem q2220 : (Jvm.Cond.instanceMethod ({ cls := "TallTowersModel", name := "told", desc := "(I)I" } : Jvm.MethodName)) ∈ lw_all := lw_g (lw_at lw_m9 174 rfl) rfl
theorem q2221 : (Jvm.Cond.selects "TallTowersModel" ({ cls := "TallTowersModel", name := "told", desc := "(I)I" } : Jvm.MethodName) ({ cls := "TallTowersModel", name := "told", desc := "(I)I" } : Jvm.MethodName)) ∈ lw_all := lw_g (lw_at lw_m9 175 rfl) rfl
theorem q2222 : (Jvm.Cond.code ({ cls := "TallTowersModel", name := "told", desc := "(I)I" } : Jvm.MethodName) prog_16_method_84_code (4 : Nat) (Option.some Jvm.ClassFile.FieldType.int)) ∈ lw_all := lw_g (lw_at lw_m9 176 rfl) rfl
theorem q2223 : (Jvm.Cond.methodLink "TallTowersModel" (406 : Nat) ({ cls := "TallTowersModel", name := "signersBits", desc := "()I" } : Jvm.MethodName)) ∈ lw_all := lw_g (lw_at lw_m9 177 rfl) rfl
theorem q2224 : (Jvm.Cond.privateMethod ({ cls := "TallTowersModel", name := "signersBits", desc := "()I" } : Jvm.MethodName)) ∈ lw_tbl := lw_at lw_m9 178 rfl
theorem q2225 : (Jvm.Cond.instanceMethod ({ cls := "TallTowersModel", name := "signersBits", desc := "()I" } : Jvm.MethodName)) ∈ lw_all := lw_g (lw_at lw_m9 179 rfl) rfl
theorem q2226 : (Jvm.Cond.code ({ cls := "TallTowersModel", name := "signersBits", desc := "()I" } : Jvm.MethodName) prog_16_method_83_code (4 : Nat) (Option.some Jvm.ClassFile.FieldType.int)) ∈ lw_all := lw_g (lw_at lw_m9 180 rfl) rfl
theorem q2227 : (Jvm.Cond.methodLink "TallTowersModel" (410 : Nat) ({ cls := "TallTowersModel", name := "standingBits", desc := "(I)I" } : Jvm.MethodName)) ∈ lw_all := lw_g (lw_at lw_m9 181 rfl) rfl
theorem q2228 : (Jvm.Cond.privateMethod ({ cls := "TallTowersModel", name := "standingBits", desc := "(I)I" } : Jvm.MethodName)) ∈ lw_tbl := lw_at lw_m9 182 rfl
theorem q2229 : (Jvm.Cond.instanceMethod ({ cls := "TallTowersModel", name := "standingBits", desc := "(I)I" } : Jvm.MethodName)) ∈ lw_all := lw_g (lw_at lw_m9 183 rfl) rfl
theorem q2230 : (Jvm.Cond.code ({ cls := "TallTowersModel", name := "standingBits", desc := "(I)I" } : Jvm.MethodName) prog_16_method_82_code (4 : Nat) (Option.some Jvm.ClassFile.FieldType.int)) ∈ lw_all := lw_g (lw_at lw_m9 184 rfl) rfl
theorem q2232 : (Jvm.Cond.instanceMethod ({ cls := "TallTowersModel", name := "event", desc := "(II)I" } : Jvm.MethodName)) ∈ lw_all := lw_g (lw_at lw_m9 186 rfl) rfl
theorem q2233 : (Jvm.Cond.selects "TallTowersModel" ({ cls := "TallTowersModel", name := "event", desc := "(II)I" } : Jvm.MethodName) ({ cls := "TallTowersModel", name := "event", desc := "(II)I" } : Jvm.MethodName)) ∈ lw_all := lw_g (lw_at lw_m9 187 rfl) rfl
theorem q2234 : (Jvm.Cond.code ({ cls := "TallTowersModel", name := "event", desc := "(II)I" } : Jvm.MethodName) prog_16_method_86_code (3 : Nat) (Option.some Jvm.ClassFile.FieldType.int)) ∈ lw_all := lw_g (lw_at lw_m9 188 rfl) rfl
theorem q2235 : (Jvm.Cond.methodLink "TallTowersModel" (413 : Nat) ({ cls := "TallTowersModel", name := "isEvent", desc := "(I)Z" } : Jvm.MethodName)) ∈ lw_all := lw_g (lw_at lw_m9 189 rfl) rfl
theorem q2236 : (Jvm.Cond.privateMethod ({ cls := "TallTowersModel", name := "isEvent", desc := "(I)Z" } : Jvm.MethodName)) ∈ lw_tbl := lw_at lw_m9 190 rfl
theorem q2237 : (Jvm.Cond.instanceMethod ({ cls := "TallTowersModel", name := "isEvent", desc := "(I)Z" } : Jvm.MethodName)) ∈ lw_all := lw_g (lw_at lw_m9 191 rfl) rfl
theorem q2238 : (Jvm.Cond.code ({ cls := "TallTowersModel", name := "isEvent", desc := "(I)Z" } : Jvm.MethodName) prog_16_method_85_code (2 : Nat) (Option.some Jvm.ClassFile.FieldType.boolean)) ∈ lw_all := lw_g (lw_at lw_m9 192 rfl) rfl
theorem q2240 : (Jvm.Cond.instanceMethod ({ cls := "TallTowersModel", name := "layer", desc := "(II)J" } : Jvm.MethodName)) ∈ lw_all := lw_g (lw_at lw_m9 194 rfl) rfl
theorem q2241 : (Jvm.Cond.selects "TallTowersModel" ({ cls := "TallTowersModel", name := "layer", desc := "(II)J" } : Jvm.MethodName) ({ cls := "TallTowersModel", name := "layer", desc := "(II)J" } : Jvm.MethodName)) ∈ lw_all := lw_g (lw_at lw_m9 195 rfl) rfl
theorem q2242 : (Jvm.Cond.code ({ cls := "TallTowersModel", name := "layer", desc := "(II)J" } : Jvm.MethodName) prog_16_method_88_code (3 : Nat) (Option.some Jvm.ClassFile.FieldType.long)) ∈ lw_all := lw_g (lw_at lw_m9 196 rfl) rfl
theorem q2243 : (Jvm.Cond.methodLink "TallTowersModel" (416 : Nat) ({ cls := "TallTowersModel", name := "rungAt", desc := "(I)I" } : Jvm.MethodName)) ∈ lw_all := lw_g (lw_at lw_m9 197 rfl) rfl
theorem q2244 : (Jvm.Cond.privateMethod ({ cls := "TallTowersModel", name := "rungAt", desc := "(I)I" } : Jvm.MethodName)) ∈ lw_tbl := lw_at lw_m9 198 rfl
theorem q2245 : (Jvm.Cond.instanceMethod ({ cls := "TallTowersModel", name := "rungAt", desc := "(I)I" } : Jvm.MethodName)) ∈ lw_all := lw_g (lw_at lw_m9 199 rfl) rfl
theorem q2246 : (Jvm.Cond.code ({ cls := "TallTowersModel", name := "rungAt", desc := "(I)I" } : Jvm.MethodName) prog_16_method_87_code (3 : Nat) (Option.some Jvm.ClassFile.FieldType.int)) ∈ lw_all := lw_g (lw_at lw_m9 200 rfl) rfl
theorem q2248 : (Jvm.Cond.instanceMethod ({ cls := "TallTowersModel", name := "signed", desc := "(III)J" } : Jvm.MethodName)) ∈ lw_all := lw_g (lw_at lw_m9 202 rfl) rfl
theorem q2249 : (Jvm.Cond.selects "TallTowersModel" ({ cls := "TallTowersModel", name := "signed", desc := "(III)J" } : Jvm.MethodName) ({ cls := "TallTowersModel", name := "signed", desc := "(III)J" } : Jvm.MethodName)) ∈ lw_all := lw_g (lw_at lw_m9 203 rfl) rfl
theorem q2250 : (Jvm.Cond.code ({ cls := "TallTowersModel", name := "signed", desc := "(III)J" } : Jvm.MethodName) prog_16_method_89_code (7 : Nat) (Option.some Jvm.ClassFile.FieldType.long)) ∈ lw_all := lw_g (lw_at lw_m9 204 rfl) rfl
theorem q2251 : (Jvm.Cond.constantLong "TallTowersModel" (419 : Nat) (-1 : Int64)) ∈ lw_all := lw_g (lw_at lw_m9 205 rfl) rfl
theorem q2253 : (Jvm.Cond.instanceMethod ({ cls := "TallTowersModel", name := "year", desc := "(II)J" } : Jvm.MethodName)) ∈ lw_all := lw_g (lw_at lw_m9 207 rfl) rfl
theorem q2254 : (Jvm.Cond.selects "TallTowersModel" ({ cls := "TallTowersModel", name := "year", desc := "(II)J" } : Jvm.MethodName) ({ cls := "TallTowersModel", name := "year", desc := "(II)J" } : Jvm.MethodName)) ∈ lw_all := lw_g (lw_at lw_m9 208 rfl) rfl
theorem q2255 : (Jvm.Cond.code ({ cls := "TallTowersModel", name := "year", desc := "(II)J" } : Jvm.MethodName) prog_16_method_91_code (4 : Nat) (Option.some Jvm.ClassFile.FieldType.long)) ∈ lw_all := lw_g (lw_at lw_m9 209 rfl) rfl
theorem q2256 : (Jvm.Cond.constantLong "TallTowersModel" (421 : Nat) (6 : Int64)) ∈ lw_all := lw_g (lw_at lw_m9 210 rfl) rfl
theorem q2257 : (Jvm.Cond.methodLink "TallTowersModel" (423 : Nat) ({ cls := "TallTowersModel", name := "ofYear", desc := "(II)J" } : Jvm.MethodName)) ∈ lw_all := lw_g (lw_at lw_m9 211 rfl) rfl
theorem q2258 : (Jvm.Cond.privateMethod ({ cls := "TallTowersModel", name := "ofYear", desc := "(II)J" } : Jvm.MethodName)) ∈ lw_tbl := lw_at lw_m9 212 rfl
theorem q2259 : (Jvm.Cond.instanceMethod ({ cls := "TallTowersModel", name := "ofYear", desc := "(II)J" } : Jvm.MethodName)) ∈ lw_all := lw_g (lw_at lw_m9 213 rfl) rfl
theorem q2260 : (Jvm.Cond.code ({ cls := "TallTowersModel", name := "ofYear", desc := "(II)J" } : Jvm.MethodName) prog_16_method_90_code (6 : Nat) (Option.some Jvm.ClassFile.FieldType.long)) ∈ lw_all := lw_g (lw_at lw_m9 214 rfl) rfl
theorem q2262 : (Jvm.Cond.instanceMethod ({ cls := "TallTowersModel", name := "at", desc := "(II)I" } : Jvm.MethodName)) ∈ lw_all := lw_g (lw_at lw_m9 216 rfl) rfl
theorem q2263 : (Jvm.Cond.selects "TallTowersModel" ({ cls := "TallTowersModel", name := "at", desc := "(II)I" } : Jvm.MethodName) ({ cls := "TallTowersModel", name := "at", desc := "(II)I" } : Jvm.MethodName)) ∈ lw_all := lw_g (lw_at lw_m9 217 rfl) rfl
theorem q2264 : (Jvm.Cond.code ({ cls := "TallTowersModel", name := "at", desc := "(II)I" } : Jvm.MethodName) prog_16_method_94_code (5 : Nat) (Option.some Jvm.ClassFile.FieldType.int)) ∈ lw_all := lw_g (lw_at lw_m9 218 rfl) rfl
theorem q2265 : (Jvm.Cond.methodLink "TallTowersModel" (426 : Nat) ({ cls := "TallTowersModel", name := "isHeight", desc := "(I)Z" } : Jvm.MethodName)) ∈ lw_all := lw_g (lw_at lw_m9 219 rfl) rfl
theorem q2266 : (Jvm.Cond.static ({ cls := "TallTowersModel", name := "isHeight", desc := "(I)Z" } : Jvm.MethodName)) ∈ lw_all := lw_g (lw_at lw_m9 220 rfl) rfl
theorem q2267 : (Jvm.Cond.code ({ cls := "TallTowersModel", name := "isHeight", desc := "(I)Z" } : Jvm.MethodName) prog_16_method_92_code (1 : Nat) (Option.some Jvm.ClassFile.FieldType.boolean)) ∈ lw_all := lw_g (lw_at lw_m9 221 rfl) rfl
theorem q2268 : (Jvm.Cond.methodLink "TallTowersModel" (429 : Nat) ({ cls := "TallTowersModel", name := "layerAt", desc := "(II)I" } : Jvm.MethodName)) ∈ lw_all := lw_g (lw_at lw_m9 222 rfl) rfl
theorem q2269 : (Jvm.Cond.privateMethod ({ cls := "TallTowersModel", name := "layerAt", desc := "(II)I" } : Jvm.MethodName)) ∈ lw_tbl := lw_at lw_m9 223 rfl
theorem q2270 : (Jvm.Cond.instanceMethod ({ cls := "TallTowersModel", name := "layerAt", desc := "(II)I" } : Jvm.MethodName)) ∈ lw_all := lw_g (lw_at lw_m9 224 rfl) rfl
theorem q2271 : (Jvm.Cond.code ({ cls := "TallTowersModel", name := "layerAt", desc := "(II)I" } : Jvm.MethodName) prog_16_method_93_code (4 : Nat) (Option.some Jvm.ClassFile.FieldType.int)) ∈ lw_all := lw_g (lw_at lw_m9 225 rfl) rfl
theorem q2273 : (Jvm.Cond.instanceMethod ({ cls := "TallTowersModel", name := "rung", desc := "(II)I" } : Jvm.MethodName)) ∈ lw_all := lw_g (lw_at lw_m9 227 rfl) rfl
theorem q2274 : (Jvm.Cond.selects "TallTowersModel" ({ cls := "TallTowersModel", name := "rung", desc := "(II)I" } : Jvm.MethodName) ({ cls := "TallTowersModel", name := "rung", desc := "(II)I" } : Jvm.MethodName)) ∈ lw_all := lw_g (lw_at lw_m9 228 rfl) rfl
theorem q2275 : (Jvm.Cond.code ({ cls := "TallTowersModel", name := "rung", desc := "(II)I" } : Jvm.MethodName) prog_16_method_95_code (3 : Nat) (Option.some Jvm.ClassFile.FieldType.int)) ∈ lw_all := lw_g (lw_at lw_m9 229 rfl) rfl
theorem q2277 : (Jvm.Cond.instanceMethod ({ cls := "TallTowersModel", name := "damage", desc := "(II)J" } : Jvm.MethodName)) ∈ lw_all := lw_g (lw_at lw_m9 231 rfl) rfl
theorem q2278 : (Jvm.Cond.selects "TallTowersModel" ({ cls := "TallTowersModel", name := "damage", desc := "(II)J" } : Jvm.MethodName) ({ cls := "TallTowersModel", name := "damage", desc := "(II)J" } : Jvm.MethodName)) ∈ lw_all := lw_g (lw_at lw_m9 232 rfl) rfl
theorem q2279 : (Jvm.Cond.code ({ cls := "TallTowersModel", name := "damage", desc := "(II)J" } : Jvm.MethodName) prog_16_method_96_code (3 : Nat) (Option.some Jvm.ClassFile.FieldType.long)) ∈ lw_all := lw_g (lw_at lw_m9 233 rfl) rfl
theorem q2280 : (Jvm.Cond.constantLong "TallTowersModel" (432 : Nat) (5 : Int64)) ∈ lw_all := lw_g (lw_at lw_m9 234 rfl) rfl
theorem q2282 : (Jvm.Cond.instanceMethod ({ cls := "TallTowersModel", name := "took", desc := "(II)J" } : Jvm.MethodName)) ∈ lw_all := lw_g (lw_at lw_m9 236 rfl) rfl
theorem q2283 : (Jvm.Cond.selects "TallTowersModel" ({ cls := "TallTowersModel", name := "took", desc := "(II)J" } : Jvm.MethodName) ({ cls := "TallTowersModel", name := "took", desc := "(II)J" } : Jvm.MethodName)) ∈ lw_all := lw_g (lw_at lw_m9 237 rfl) rfl
theorem q2284 : (Jvm.Cond.code ({ cls := "TallTowersModel", name := "took", desc := "(II)J" } : Jvm.MethodName) prog_16_method_98_code (3 : Nat) (Option.some Jvm.ClassFile.FieldType.long)) ∈ lw_all := lw_g (lw_at lw_m9 238 rfl) rfl
theorem q2285 : (Jvm.Cond.methodLink "TallTowersModel" (434 : Nat) ({ cls := "TallTowersModel", name := "areBoth", desc := "(II)Z" } : Jvm.MethodName)) ∈ lw_all := lw_g (lw_at lw_m9 239 rfl) rfl
theorem q2286 : (Jvm.Cond.privateMethod ({ cls := "TallTowersModel", name := "areBoth", desc := "(II)Z" } : Jvm.MethodName)) ∈ lw_tbl := lw_at lw_m10 0 rfl
theorem q2287 : (Jvm.Cond.instanceMethod ({ cls := "TallTowersModel", name := "areBoth", desc := "(II)Z" } : Jvm.MethodName)) ∈ lw_all := lw_g (lw_at lw_m10 1 rfl) rfl
theorem q2288 : (Jvm.Cond.code ({ cls := "TallTowersModel", name := "areBoth", desc := "(II)Z" } : Jvm.MethodName) prog_16_method_97_code (3 : Nat) (Option.some Jvm.ClassFile.FieldType.boolean)) ∈ lw_all := lw_g (lw_at lw_m10 2 rfl) rfl
theorem q2290 : (Jvm.Cond.instanceMethod ({ cls := "TallTowersModel", name := "hole", desc := "(II)J" } : Jvm.MethodName)) ∈ lw_all := lw_g (lw_at lw_m10 4 rfl) rfl
theorem q2291 : (Jvm.Cond.selects "TallTowersModel" ({ cls := "TallTowersModel", name := "hole", desc := "(II)J" } : Jvm.MethodName) ({ cls := "TallTowersModel", name := "hole", desc := "(II)J" } : Jvm.MethodName)) ∈ lw_all := lw_g (lw_at lw_m10 5 rfl) rfl
theorem q2292 : (Jvm.Cond.code ({ cls := "TallTowersModel", name := "hole", desc := "(II)J" } : Jvm.MethodName) prog_16_method_99_code (3 : Nat) (Option.some Jvm.ClassFile.FieldType.long)) ∈ lw_all := lw_g (lw_at lw_m10 6 rfl) rfl
theorem q2294 : (Jvm.Cond.instanceMethod ({ cls := "TallTowersModel", name := "moved", desc := "(II)J" } : Jvm.MethodName)) ∈ lw_all := lw_g (lw_at lw_m10 8 rfl) rfl
theorem q2295 : (Jvm.Cond.selects "TallTowersModel" ({ cls := "TallTowersModel", name := "moved", desc := "(II)J" } : Jvm.MethodName) ({ cls := "TallTowersModel", name := "moved", desc := "(II)J" } : Jvm.MethodName)) ∈ lw_all := lw_g (lw_at lw_m10 9 rfl) rfl
theorem q2296 : (Jvm.Cond.code ({ cls := "TallTowersModel", name := "moved", desc := "(II)J" } : Jvm.MethodName) prog_16_method_100_code (3 : Nat) (Option.some Jvm.ClassFile.FieldType.long)) ∈ lw_all := lw_g (lw_at lw_m10 10 rfl) rfl
theorem q2298 : (Jvm.Cond.instanceMethod ({ cls := "TallTowersModel", name := "bears", desc := "(II)J" } : Jvm.MethodName)) ∈ lw_all := lw_g (lw_at lw_m10 12 rfl) rfl
theorem q2299 : (Jvm.Cond.selects "TallTowersModel" ({ cls := "TallTowersModel", name := "bears", desc := "(II)J" } : Jvm.MethodName) ({ cls := "TallTowersModel", name := "bears", desc := "(II)J" } : Jvm.MethodName)) ∈ lw_all := lw_g (lw_at lw_m10 13 rfl) rfl
theorem q2300 : (Jvm.Cond.code ({ cls := "TallTowersModel", name := "bears", desc := "(II)J" } : Jvm.MethodName) prog_16_method_101_code (3 : Nat) (Option.some Jvm.ClassFile.FieldType.long)) ∈ lw_all := lw_g (lw_at lw_m10 14 rfl) rfl
theorem q2301 : (Jvm.Cond.methodLink "TallTowersModel" (280 : Nat) ({ cls := "TallTowersModel", name := "bearsOf", desc := "(II)J" } : Jvm.MethodName)) ∈ lw_all := lw_g (lw_at lw_m10 15 rfl) rfl
theorem q2302 : (Jvm.Cond.privateMethod ({ cls := "TallTowersModel", name := "bearsOf", desc := "(II)J" } : Jvm.MethodName)) ∈ lw_tbl := lw_at lw_m10 16 rfl
theorem q2303 : (Jvm.Cond.instanceMethod ({ cls := "TallTowersModel", name := "bearsOf", desc := "(II)J" } : Jvm.MethodName)) ∈ lw_all := lw_g (lw_at lw_m10 17 rfl) rfl
theorem q2304 : (Jvm.Cond.code ({ cls := "TallTowersModel", name := "bearsOf", desc := "(II)J" } : Jvm.MethodName) prog_16_method_46_code (3 : Nat) (Option.some Jvm.ClassFile.FieldType.long)) ∈ lw_all := lw_g (lw_at lw_m10 18 rfl) rfl
theorem q2306 : (Jvm.Cond.instanceMethod ({ cls := "TallTowersModel", name := "falls", desc := "(II)J" } : Jvm.MethodName)) ∈ lw_all := lw_g (lw_at lw_m10 20 rfl) rfl
theorem q2307 : (Jvm.Cond.selects "TallTowersModel" ({ cls := "TallTowersModel", name := "falls", desc := "(II)J" } : Jvm.MethodName) ({ cls := "TallTowersModel", name := "falls", desc := "(II)J" } : Jvm.MethodName)) ∈ lw_all := lw_g (lw_at lw_m10 21 rfl) rfl
theorem q2308 : (Jvm.Cond.code ({ cls := "TallTowersModel", name := "falls", desc := "(II)J" } : Jvm.MethodName) prog_16_method_102_code (3 : Nat) (Option.some Jvm.ClassFile.FieldType.long)) ∈ lw_all := lw_g (lw_at lw_m10 22 rfl) rfl
theorem q2310 : (Jvm.Cond.instanceMethod ({ cls := "TallTowersModel", name := "insurer", desc := "(II)J" } : Jvm.MethodName)) ∈ lw_all := lw_g (lw_at lw_m10 24 rfl) rfl
theorem q2311 : (Jvm.Cond.selects "TallTowersModel" ({ cls := "TallTowersModel", name := "insurer", desc := "(II)J" } : Jvm.MethodName) ({ cls := "TallTowersModel", name := "insurer", desc := "(II)J" } : Jvm.MethodName)) ∈ lw_all := lw_g (lw_at lw_m10 25 rfl) rfl
theorem q2312 : (Jvm.Cond.code ({ cls := "TallTowersModel", name := "insurer", desc := "(II)J" } : Jvm.MethodName) prog_16_method_105_code (3 : Nat) (Option.some Jvm.ClassFile.FieldType.long)) ∈ lw_all := lw_g (lw_at lw_m10 26 rfl) rfl
theorem q2313 : (Jvm.Cond.methodLink "TallTowersModel" (437 : Nat) ({ cls := "TallTowersModel", name := "bearsAll", desc := "(I)J" } : Jvm.MethodName)) ∈ lw_all := lw_g (lw_at lw_m10 27 rfl) rfl
theorem q2314 : (Jvm.Cond.privateMethod ({ cls := "TallTowersModel", name := "bearsAll", desc := "(I)J" } : Jvm.MethodName)) ∈ lw_tbl := lw_at lw_m10 28 rfl
theorem q2315 : (Jvm.Cond.instanceMethod ({ cls := "TallTowersModel", name := "bearsAll", desc := "(I)J" } : Jvm.MethodName)) ∈ lw_all := lw_g (lw_at lw_m10 29 rfl) rfl
theorem q2316 : (Jvm.Cond.code ({ cls := "TallTowersModel", name := "bearsAll", desc := "(I)J" } : Jvm.MethodName) prog_16_method_47_code (5 : Nat) (Option.some Jvm.ClassFile.FieldType.long)) ∈ lw_all := lw_g (lw_at lw_m10 30 rfl) rfl
theorem q2317 : (Jvm.Cond.methodLink "TallTowersModel" (440 : Nat) ({ cls := "TallTowersModel", name := "cashOf", desc := "(I)J" } : Jvm.MethodName)) ∈ lw_all := lw_g (lw_at lw_m10 31 rfl) rfl
theorem q2318 : (Jvm.Cond.privateMethod ({ cls := "TallTowersModel", name := "cashOf", desc := "(I)J" } : Jvm.MethodName)) ∈ lw_tbl := lw_at lw_m10 32 rfl
theorem q2319 : (Jvm.Cond.instanceMethod ({ cls := "TallTowersModel", name := "cashOf", desc := "(I)J" } : Jvm.MethodName)) ∈ lw_all := lw_g (lw_at lw_m10 33 rfl) rfl
theorem q2320 : (Jvm.Cond.code ({ cls := "TallTowersModel", name := "cashOf", desc := "(I)J" } : Jvm.MethodName) prog_16_method_103_code (5 : Nat) (Option.some Jvm.ClassFile.FieldType.long)) ∈ lw_all := lw_g (lw_at lw_m10 34 rfl) rfl
theorem q2321 : (Jvm.Cond.methodLink "TallTowersModel" (443 : Nat) ({ cls := "TallTowersModel", name := "signedBy", desc := "(II)J" } : Jvm.MethodName)) ∈ lw_all := lw_g (lw_at lw_m10 35 rfl) rfl
theorem q2322 : (Jvm.Cond.privateMethod ({ cls := "TallTowersModel", name := "signedBy", desc := "(II)J" } : Jvm.MethodName)) ∈ lw_tbl := lw_at lw_m10 36 rfl
theorem q2323 : (Jvm.Cond.instanceMethod ({ cls := "TallTowersModel", name := "signedBy", desc := "(II)J" } : Jvm.MethodName)) ∈ lw_all := lw_g (lw_at lw_m10 37 rfl) rfl
theorem q2324 : (Jvm.Cond.code ({ cls := "TallTowersModel", name := "signedBy", desc := "(II)J" } : Jvm.MethodName) prog_16_method_104_code (7 : Nat) (Option.some Jvm.ClassFile.FieldType.long)) ∈ lw_all := lw_g (lw_at lw_m10 38 rfl) rfl
theorem q2326 : (Jvm.Cond.instanceMethod ({ cls := "TallTowersModel", name := "burden", desc := "(I)J" } : Jvm.MethodName)) ∈ lw_all := lw_g (lw_at lw_m10 40 rfl) rfl
theorem q2327 : (Jvm.Cond.selects "TallTowersModel" ({ cls := "TallTowersModel", name := "burden", desc := "(I)J" } : Jvm.MethodName) ({ cls := "TallTowersModel", name := "burden", desc := "(I)J" } : Jvm.MethodName)) ∈ lw_all := lw_g (lw_at lw_m10 41 rfl) rfl
theorem q2328 : (Jvm.Cond.code ({ cls := "TallTowersModel", name := "burden", desc := "(I)J" } : Jvm.MethodName) prog_16_method_106_code (5 : Nat) (Option.some Jvm.ClassFile.FieldType.long)) ∈ lw_all := lw_g (lw_at lw_m10 42 rfl) rfl
theorem q2330 : (Jvm.Cond.instanceMethod ({ cls := "TallTowersModel", name := "rank", desc := "(I)I" } : Jvm.MethodName)) ∈ lw_all := lw_g (lw_at lw_m10 44 rfl) rfl
theorem q2331 : (Jvm.Cond.selects "TallTowersModel" ({ cls := "TallTowersModel", name := "rank", desc := "(I)I" } : Jvm.MethodName) ({ cls := "TallTowersModel", name := "rank", desc := "(I)I" } : Jvm.MethodName)) ∈ lw_all := lw_g (lw_at lw_m10 45 rfl) rfl
theorem q2332 : (Jvm.Cond.code ({ cls := "TallTowersModel", name := "rank", desc := "(I)I" } : Jvm.MethodName) prog_16_method_107_code (5 : Nat) (Option.some Jvm.ClassFile.FieldType.int)) ∈ lw_all := lw_g (lw_at lw_m10 46 rfl) rfl
theorem q2334 : (Jvm.Cond.instanceMethod ({ cls := "TallTowersModel", name := "offs", desc := "(IIII)I" } : Jvm.MethodName)) ∈ lw_all := lw_g (lw_at lw_m10 48 rfl) rfl
theorem q2335 : (Jvm.Cond.selects "TallTowersModel" ({ cls := "TallTowersModel", name := "offs", desc := "(IIII)I" } : Jvm.MethodName) ({ cls := "TallTowersModel", name := "offs", desc := "(IIII)I" } : Jvm.MethodName)) ∈ lw_all := lw_g (lw_at lw_m10 49 rfl) rfl
theorem q2336 : (Jvm.Cond.code ({ cls := "TallTowersModel", name := "offs", desc := "(IIII)I" } : Jvm.MethodName) prog_16_method_108_code (5 : Nat) (Option.some Jvm.ClassFile.FieldType.int)) ∈ lw_all := lw_g (lw_at lw_m10 50 rfl) rfl
theorem q2338 : (Jvm.Cond.instanceMethod ({ cls := "TallTowersModel", name := "would", desc := "(IIIII)J" } : Jvm.MethodName)) ∈ lw_all := lw_g (lw_at lw_m10 52 rfl) rfl
theorem q2339 : (Jvm.Cond.selects "TallTowersModel" ({ cls := "TallTowersModel", name := "would", desc := "(IIIII)J" } : Jvm.MethodName) ({ cls := "TallTowersModel", name := "would", desc := "(IIIII)J" } : Jvm.MethodName)) ∈ lw_all := lw_g (lw_at lw_m10 53 rfl) rfl
theorem q2340 : (Jvm.Cond.code ({ cls := "TallTowersModel", name := "would", desc := "(IIIII)J" } : Jvm.MethodName) prog_16_method_111_code (8 : Nat) (Option.some Jvm.ClassFile.FieldType.long)) ∈ lw_all := lw_g (lw_at lw_m10 54 rfl) rfl
theorem q2341 : (Jvm.Cond.methodLink "TallTowersModel" (449 : Nat) ({ cls := "TallTowersModel", name := "thinksOf", desc := "(IIII)V" } : Jvm.MethodName)) ∈ lw_all := lw_g (lw_at lw_m10 55 rfl) rfl
theorem q2342 : (Jvm.Cond.privateMethod ({ cls := "TallTowersModel", name := "thinksOf", desc := "(IIII)V" } : Jvm.MethodName)) ∈ lw_tbl := lw_at lw_m10 56 rfl
theorem q2343 : (Jvm.Cond.instanceMethod ({ cls := "TallTowersModel", name := "thinksOf", desc := "(IIII)V" } : Jvm.MethodName)) ∈ lw_all := lw_g (lw_at lw_m10 57 rfl) rfl
theorem q2344 : (Jvm.Cond.code ({ cls := "TallTowersModel", name := "thinksOf", desc := "(IIII)V" } : Jvm.MethodName) prog_16_method_110_code (5 : Nat) (Option.none : Option Jvm.ClassFile.FieldType)) ∈ lw_all := lw_g (lw_at lw_m10 58 rfl) rfl
theorem q2345 : (Jvm.Cond.methodLink "TallTowersModel" (446 : Nat) ({ cls := "TallTowersModel", name := "thinks", desc := "(III)V" } : Jvm.MethodName)) ∈ lw_all := lw_g (lw_at lw_m10 59 rfl) rfl
theorem q2346 : (Jvm.Cond.privateMethod ({ cls := "TallTowersModel", name := "thinks", desc := "(III)V" } : Jvm.MethodName)) ∈ lw_tbl := lw_at lw_m10 60 rfl
theorem q2347 : (Jvm.Cond.instanceMethod ({ cls := "TallTowersModel", name := "thinks", desc := "(III)V" } : Jvm.MethodName)) ∈ lw_all := lw_g (lw_at lw_m10 61 rfl) rfl
theorem q2348 : (Jvm.Cond.code ({ cls := "TallTowersModel", name := "thinks", desc := "(III)V" } : Jvm.MethodName) prog_16_method_109_code (4 : Nat) (Option.none : Option Jvm.ClassFile.FieldType)) ∈ lw_all := lw_g (lw_at lw_m10 62 rfl) rfl
theorem q2350 : (Jvm.Cond.instanceMethod ({ cls := "TallTowersModel", name := "takes", desc := "(IIIII)J" } : Jvm.MethodName)) ∈ lw_all := lw_g (lw_at lw_m10 64 rfl) rfl
theorem q2351 : (Jvm.Cond.selects "TallTowersModel" ({ cls := "TallTowersModel", name := "takes", desc := "(IIIII)J" } : Jvm.MethodName) ({ cls := "TallTowersModel", name := "takes", desc := "(IIIII)J" } : Jvm.MethodName)) ∈ lw_all := lw_g (lw_at lw_m10 65 rfl) rfl
theorem q2352 : (Jvm.Cond.code ({ cls := "TallTowersModel", name := "takes", desc := "(IIIII)J" } : Jvm.MethodName) prog_16_method_112_code (8 : Nat) (Option.some Jvm.ClassFile.FieldType.long)) ∈ lw_all := lw_g (lw_at lw_m10 66 rfl) rfl
theorem q2354 : (Jvm.Cond.instanceMethod ({ cls := "TallTowersModel", name := "drops", desc := "(IIIII)J" } : Jvm.MethodName)) ∈ lw_all := lw_g (lw_at lw_m10 68 rfl) rfl
theorem q2355 : (Jvm.Cond.selects "TallTowersModel" ({ cls := "TallTowersModel", name := "drops", desc := "(IIIII)J" } : Jvm.MethodName) ({ cls := "TallTowersModel", name := "drops", desc := "(IIIII)J" } : Jvm.MethodName)) ∈ lw_all := lw_g (lw_at lw_m10 69 rfl) rfl
theorem q2356 : (Jvm.Cond.code ({ cls := "TallTowersModel", name := "drops", desc := "(IIIII)J" } : Jvm.MethodName) prog_16_method_113_code (8 : Nat) (Option.some Jvm.ClassFile.FieldType.long)) ∈ lw_all := lw_g (lw_at lw_m10 70 rfl) rfl
theorem q2358 : (Jvm.Cond.instanceMethod ({ cls := "TallTowersModel", name := "share", desc := "(IIIII)J" } : Jvm.MethodName)) ∈ lw_all := lw_g (lw_at lw_m10 72 rfl) rfl
theorem q2359 : (Jvm.Cond.selects "TallTowersModel" ({ cls := "TallTowersModel", name := "share", desc := "(IIIII)J" } : Jvm.MethodName) ({ cls := "TallTowersModel", name := "share", desc := "(IIIII)J" } : Jvm.MethodName)) ∈ lw_all := lw_g (lw_at lw_m10 73 rfl) rfl
theorem q2360 : (Jvm.Cond.code ({ cls := "TallTowersModel", name := "share", desc := "(IIIII)J" } : Jvm.MethodName) prog_16_method_114_code (6 : Nat) (Option.some Jvm.ClassFile.FieldType.long)) ∈ lw_all := lw_g (lw_at lw_m10 74 rfl) rfl
theorem q2362 : (Jvm.Cond.instanceMethod ({ cls := "TallTowersModel", name := "weight", desc := "(IIII)J" } : Jvm.MethodName)) ∈ lw_all := lw_g (lw_at lw_m10 76 rfl) rfl
theorem q2363 : (Jvm.Cond.selects "TallTowersModel" ({ cls := "TallTowersModel", name := "weight", desc := "(IIII)J" } : Jvm.MethodName) ({ cls := "TallTowersModel", name := "weight", desc := "(IIII)J" } : Jvm.MethodName)) ∈ lw_all := lw_g (lw_at lw_m10 77 rfl) rfl
theorem q2364 : (Jvm.Cond.code ({ cls := "TallTowersModel", name := "weight", desc := "(IIII)J" } : Jvm.MethodName) prog_16_method_115_code (5 : Nat) (Option.some Jvm.ClassFile.FieldType.long)) ∈ lw_all := lw_g (lw_at lw_m10 78 rfl) rfl
theorem q2366 : (Jvm.Cond.instanceMethod ({ cls := "TallTowersModel", name := "picks", desc := "(IIII)I" } : Jvm.MethodName)) ∈ lw_all := lw_g (lw_at lw_m10 80 rfl) rfl
theorem q2367 : (Jvm.Cond.selects "TallTowersModel" ({ cls := "TallTowersModel", name := "picks", desc := "(IIII)I" } : Jvm.MethodName) ({ cls := "TallTowersModel", name := "picks", desc := "(IIII)I" } : Jvm.MethodName)) ∈ lw_all := lw_g (lw_at lw_m10 81 rfl) rfl
theorem q2368 : (Jvm.Cond.code ({ cls := "TallTowersModel", name := "picks", desc := "(IIII)I" } : Jvm.MethodName) prog_16_method_116_code (5 : Nat) (Option.some Jvm.ClassFile.FieldType.int)) ∈ lw_all := lw_g (lw_at lw_m10 82 rfl) rfl
theorem q2370 : (Jvm.Cond.instanceMethod ({ cls := "TallTowersModel", name := "uneven", desc := "(IIIII)J" } : Jvm.MethodName)) ∈ lw_all := lw_g (lw_at lw_m10 84 rfl) rfl
theorem q2371 : (Jvm.Cond.selects "TallTowersModel" ({ cls := "TallTowersModel", name := "uneven", desc := "(IIIII)J" } : Jvm.MethodName) ({ cls := "TallTowersModel", name := "uneven", desc := "(IIIII)J" } : Jvm.MethodName)) ∈ lw_all := lw_g (lw_at lw_m10 85 rfl) rfl
theorem q2372 : (Jvm.Cond.code ({ cls := "TallTowersModel", name := "uneven", desc := "(IIIII)J" } : Jvm.MethodName) prog_16_method_117_code (8 : Nat) (Option.some Jvm.ClassFile.FieldType.long)) ∈ lw_all := lw_g (lw_at lw_m10 86 rfl) rfl
theorem q2374 : (Jvm.Cond.instanceMethod ({ cls := "TallTowersModel", name := "other", desc := "(IIII)J" } : Jvm.MethodName)) ∈ lw_all := lw_g (lw_at lw_m10 88 rfl) rfl
theorem q2375 : (Jvm.Cond.selects "TallTowersModel" ({ cls := "TallTowersModel", name := "other", desc := "(IIII)J" } : Jvm.MethodName) ({ cls := "TallTowersModel", name := "other", desc := "(IIII)J" } : Jvm.MethodName)) ∈ lw_all := lw_g (lw_at lw_m10 89 rfl) rfl
theorem q2376 : (Jvm.Cond.code ({ cls := "TallTowersModel", name := "other", desc := "(IIII)J" } : Jvm.MethodName) prog_16_method_120_code (5 : Nat) (Option.some Jvm.ClassFile.FieldType.long)) ∈ lw_all := lw_g (lw_at lw_m10 90 rfl) rfl
theorem q2377 : (Jvm.Cond.methodLink "TallTowersModel" (453 : Nat) ({ cls := "TallTowersModel", name := "goesBy", desc := "(III)V" } : Jvm.MethodName)) ∈ lw_all := lw_g (lw_at lw_m10 91 rfl) rfl
theorem q2378 : (Jvm.Cond.privateMethod ({ cls := "TallTowersModel", name := "goesBy", desc := "(III)V" } : Jvm.MethodName)) ∈ lw_tbl := lw_at lw_m10 92 rfl
theorem q2379 : (Jvm.Cond.instanceMethod ({ cls := "TallTowersModel", name := "goesBy", desc := "(III)V" } : Jvm.MethodName)) ∈ lw_all := lw_g (lw_at lw_m10 93 rfl) rfl
theorem q2380 : (Jvm.Cond.code ({ cls := "TallTowersModel", name := "goesBy", desc := "(III)V" } : Jvm.MethodName) prog_16_method_63_code (5 : Nat) (Option.none : Option Jvm.ClassFile.FieldType)) ∈ lw_all := lw_g (lw_at lw_m10 94 rfl) rfl
theorem q2381 : (Jvm.Cond.methodLink "TallTowersModel" (456 : Nat) ({ cls := "TallTowersModel", name := "behind", desc := "(I)J" } : Jvm.MethodName)) ∈ lw_all := lw_g (lw_at lw_m10 95 rfl) rfl
theorem q2382 : (Jvm.Cond.privateMethod ({ cls := "TallTowersModel", name := "behind", desc := "(I)J" } : Jvm.MethodName)) ∈ lw_tbl := lw_at lw_m10 96 rfl
theorem q2383 : (Jvm.Cond.instanceMethod ({ cls := "TallTowersModel", name := "behind", desc := "(I)J" } : Jvm.MethodName)) ∈ lw_all := lw_g (lw_at lw_m10 97 rfl) rfl
theorem q2384 : (Jvm.Cond.code ({ cls := "TallTowersModel", name := "behind", desc := "(I)J" } : Jvm.MethodName) prog_16_method_118_code (4 : Nat) (Option.some Jvm.ClassFile.FieldType.long)) ∈ lw_all := lw_g (lw_at lw_m10 98 rfl) rfl
theorem q2386 : (Jvm.Cond.instanceMethod ({ cls := "TallTowersModel", name := "best", desc := "(II)J" } : Jvm.MethodName)) ∈ lw_all := lw_g (lw_at lw_m10 100 rfl) rfl
theorem q2387 : (Jvm.Cond.selects "TallTowersModel" ({ cls := "TallTowersModel", name := "best", desc := "(II)J" } : Jvm.MethodName) ({ cls := "TallTowersModel", name := "best", desc := "(II)J" } : Jvm.MethodName)) ∈ lw_all := lw_g (lw_at lw_m10 101 rfl) rfl
theorem q2388 : (Jvm.Cond.code ({ cls := "TallTowersModel", name := "best", desc := "(II)J" } : Jvm.MethodName) prog_16_method_121_code (7 : Nat) (Option.some Jvm.ClassFile.FieldType.long)) ∈ lw_all := lw_g (lw_at lw_m10 102 rfl) rfl
theorem q2390 : (Jvm.Cond.instanceMethod ({ cls := "TallTowersModel", name := "without", desc := "(II)J" } : Jvm.MethodName)) ∈ lw_all := lw_g (lw_at lw_m10 104 rfl) rfl
theorem q2391 : (Jvm.Cond.selects "TallTowersModel" ({ cls := "TallTowersModel", name := "without", desc := "(II)J" } : Jvm.MethodName) ({ cls := "TallTowersModel", name := "without", desc := "(II)J" } : Jvm.MethodName)) ∈ lw_all := lw_g (lw_at lw_m10 105 rfl) rfl
theorem q2392 : (Jvm.Cond.code ({ cls := "TallTowersModel", name := "without", desc := "(II)J" } : Jvm.MethodName) prog_16_method_122_code (3 : Nat) (Option.some Jvm.ClassFile.FieldType.long)) ∈ lw_all := lw_g (lw_at lw_m10 106 rfl) rfl
theorem q2393 : (Jvm.Cond.methodLink "TallTowersModel" (459 : Nat) ({ cls := "TallTowersModel", name := "isPerson", desc := "(II)Z" } : Jvm.MethodName)) ∈ lw_all := lw_g (lw_at lw_m10 107 rfl) rfl
theorem q2394 : (Jvm.Cond.privateMethod ({ cls := "TallTowersModel", name := "isPerson", desc := "(II)Z" } : Jvm.MethodName)) ∈ lw_tbl := lw_at lw_m10 108 rfl
theorem q2395 : (Jvm.Cond.instanceMethod ({ cls := "TallTowersModel", name := "isPerson", desc := "(II)Z" } : Jvm.MethodName)) ∈ lw_all := lw_g (lw_at lw_m10 109 rfl) rfl
theorem q2396 : (Jvm.Cond.code ({ cls := "TallTowersModel", name := "isPerson", desc := "(II)Z" } : Jvm.MethodName) prog_16_method_119_code (3 : Nat) (Option.some Jvm.ClassFile.FieldType.boolean)) ∈ lw_all := lw_g (lw_at lw_m10 110 rfl) rfl
theorem q2397 : (Jvm.Cond.methodLink "TallTowersModel" (462 : Nat) ({ cls := "TallTowersModel", name := "goesWithout", desc := "(I)V" } : Jvm.MethodName)) ∈ lw_all := lw_g (lw_at lw_m10 111 rfl) rfl
theorem q2398 : (Jvm.Cond.privateMethod ({ cls := "TallTowersModel", name := "goesWithout", desc := "(I)V" } : Jvm.MethodName)) ∈ lw_tbl := lw_at lw_m10 112 rfl
theorem q2399 : (Jvm.Cond.instanceMethod ({ cls := "TallTowersModel", name := "goesWithout", desc := "(I)V" } : Jvm.MethodName)) ∈ lw_all := lw_g (lw_at lw_m10 113 rfl) rfl
theorem q2400 : (Jvm.Cond.code ({ cls := "TallTowersModel", name := "goesWithout", desc := "(I)V" } : Jvm.MethodName) prog_16_method_62_code (3 : Nat) (Option.none : Option Jvm.ClassFile.FieldType)) ∈ lw_all := lw_g (lw_at lw_m10 114 rfl) rfl
theorem q2402 : (Jvm.Cond.instanceMethod ({ cls := "TallTowersModel", name := "undone", desc := "(I)I" } : Jvm.MethodName)) ∈ lw_all := lw_g (lw_at lw_m10 116 rfl) rfl
theorem q2403 : (Jvm.Cond.selects "TallTowersModel" ({ cls := "TallTowersModel", name := "undone", desc := "(I)I" } : Jvm.MethodName) ({ cls := "TallTowersModel", name := "undone", desc := "(I)I" } : Jvm.MethodName)) ∈ lw_all := lw_g (lw_at lw_m10 117 rfl) rfl
theorem q2404 : (Jvm.Cond.code ({ cls := "TallTowersModel", name := "undone", desc := "(I)I" } : Jvm.MethodName) prog_16_method_123_code (3 : Nat) (Option.some Jvm.ClassFile.FieldType.int)) ∈ lw_all := lw_g (lw_at lw_m10 118 rfl) rfl
theorem q2406 : (Jvm.Cond.instanceMethod ({ cls := "TallTowersModel", name := "shift", desc := "(III)J" } : Jvm.MethodName)) ∈ lw_all := lw_g (lw_at lw_m10 120 rfl) rfl
theorem q2407 : (Jvm.Cond.selects "TallTowersModel" ({ cls := "TallTowersModel", name := "shift", desc := "(III)J" } : Jvm.MethodName) ({ cls := "TallTowersModel", name := "shift", desc := "(III)J" } : Jvm.MethodName)) ∈ lw_all := lw_g (lw_at lw_m10 121 rfl) rfl
theorem q2408 : (Jvm.Cond.code ({ cls := "TallTowersModel", name := "shift", desc := "(III)J" } : Jvm.MethodName) prog_16_method_124_code (5 : Nat) (Option.some Jvm.ClassFile.FieldType.long)) ∈ lw_all := lw_g (lw_at lw_m10 122 rfl) rfl
theorem q2410 : (Jvm.Cond.instanceMethod ({ cls := "TallTowersModel", name := "after", desc := "(II)J" } : Jvm.MethodName)) ∈ lw_all := lw_g (lw_at lw_m10 124 rfl) rfl
theorem q2411 : (Jvm.Cond.selects "TallTowersModel" ({ cls := "TallTowersModel", name := "after", desc := "(II)J" } : Jvm.MethodName) ({ cls := "TallTowersModel", name := "after", desc := "(II)J" } : Jvm.MethodName)) ∈ lw_all := lw_g (lw_at lw_m10 125 rfl) rfl
theorem q2412 : (Jvm.Cond.code ({ cls := "TallTowersModel", name := "after", desc := "(II)J" } : Jvm.MethodName) prog_16_method_125_code (4 : Nat) (Option.some Jvm.ClassFile.FieldType.long)) ∈ lw_all := lw_g (lw_at lw_m10 126 rfl) rfl
theorem q2414 : (Jvm.Cond.instanceMethod ({ cls := "TallTowersModel", name := "usedUp", desc := "(I)I" } : Jvm.MethodName)) ∈ lw_all := lw_g (lw_at lw_m10 128 rfl) rfl
theorem q2415 : (Jvm.Cond.selects "TallTowersModel" ({ cls := "TallTowersModel", name := "usedUp", desc := "(I)I" } : Jvm.MethodName) ({ cls := "TallTowersModel", name := "usedUp", desc := "(I)I" } : Jvm.MethodName)) ∈ lw_all := lw_g (lw_at lw_m10 129 rfl) rfl
theorem q2416 : (Jvm.Cond.code ({ cls := "TallTowersModel", name := "usedUp", desc := "(I)I" } : Jvm.MethodName) prog_16_method_126_code (4 : Nat) (Option.some Jvm.ClassFile.FieldType.int)) ∈ lw_all := lw_g (lw_at lw_m10 130 rfl) rfl
theorem q2418 : (Jvm.Cond.instanceMethod ({ cls := "TallTowersModel", name := "heaviest", desc := "(II)J" } : Jvm.MethodName)) ∈ lw_all := lw_g (lw_at lw_m10 132 rfl) rfl
theorem q2419 : (Jvm.Cond.selects "TallTowersModel" ({ cls := "TallTowersModel", name := "heaviest", desc := "(II)J" } : Jvm.MethodName) ({ cls := "TallTowersModel", name := "heaviest", desc := "(II)J" } : Jvm.MethodName)) ∈ lw_all := lw_g (lw_at lw_m10 133 rfl) rfl
theorem q2420 : (Jvm.Cond.code ({ cls := "TallTowersModel", name := "heaviest", desc := "(II)J" } : Jvm.MethodName) prog_16_method_128_code (8 : Nat) (Option.some Jvm.ClassFile.FieldType.long)) ∈ lw_all := lw_g (lw_at lw_m10 134 rfl) rfl
theorem q2421 : (Jvm.Cond.methodLink "TallTowersModel" (465 : Nat) ({ cls := "TallTowersModel", name := "isOf", desc := "(II)Z" } : Jvm.MethodName)) ∈ lw_all := lw_g (lw_at lw_m10 135 rfl) rfl
theorem q2422 : (Jvm.Cond.privateMethod ({ cls := "TallTowersModel", name := "isOf", desc := "(II)Z" } : Jvm.MethodName)) ∈ lw_tbl := lw_at lw_m10 136 rfl
theorem q2423 : (Jvm.Cond.instanceMethod ({ cls := "TallTowersModel", name := "isOf", desc := "(II)Z" } : Jvm.MethodName)) ∈ lw_all := lw_g (lw_at lw_m10 137 rfl) rfl
theorem q2424 : (Jvm.Cond.code ({ cls := "TallTowersModel", name := "isOf", desc := "(II)Z" } : Jvm.MethodName) prog_16_method_127_code (3 : Nat) (Option.some Jvm.ClassFile.FieldType.boolean)) ∈ lw_all := lw_g (lw_at lw_m10 138 rfl) rfl
theorem q2426 : (Jvm.Cond.instanceMethod ({ cls := "TallTowersModel", name := "spared", desc := "(I)J" } : Jvm.MethodName)) ∈ lw_all := lw_g (lw_at lw_m10 140 rfl) rfl
theorem q2427 : (Jvm.Cond.selects "TallTowersModel" ({ cls := "TallTowersModel", name := "spared", desc := "(I)J" } : Jvm.MethodName) ({ cls := "TallTowersModel", name := "spared", desc := "(I)J" } : Jvm.MethodName)) ∈ lw_all := lw_g (lw_at lw_m10 141 rfl) rfl
theorem q2428 : (Jvm.Cond.code ({ cls := "TallTowersModel", name := "spared", desc := "(I)J" } : Jvm.MethodName) prog_16_method_129_code (6 : Nat) (Option.some Jvm.ClassFile.FieldType.long)) ∈ lw_all := lw_g (lw_at lw_m10 142 rfl) rfl
theorem q2430 : (Jvm.Cond.instanceMethod ({ cls := "TallTowersModel", name := "cover", desc := "(III)I" } : Jvm.MethodName)) ∈ lw_all := lw_g (lw_at lw_m10 144 rfl) rfl
theorem q2431 : (Jvm.Cond.selects "TallTowersModel" ({ cls := "TallTowersModel", name := "cover", desc := "(III)I" } : Jvm.MethodName) ({ cls := "TallTowersModel", name := "cover", desc := "(III)I" } : Jvm.MethodName)) ∈ lw_all := lw_g (lw_at lw_m10 145 rfl) rfl
theorem q2432 : (Jvm.Cond.code ({ cls := "TallTowersModel", name := "cover", desc := "(III)I" } : Jvm.MethodName) prog_16_method_130_code (11 : Nat) (Option.some Jvm.ClassFile.FieldType.int)) ∈ lw_all := lw_g (lw_at lw_m10 146 rfl) rfl
theorem q2434 : (Jvm.Cond.instanceMethod ({ cls := "TallTowersModel", name := "reach", desc := "(I)J" } : Jvm.MethodName)) ∈ lw_all := lw_g (lw_at lw_m10 148 rfl) rfl
theorem q2435 : (Jvm.Cond.selects "TallTowersModel" ({ cls := "TallTowersModel", name := "reach", desc := "(I)J" } : Jvm.MethodName) ({ cls := "TallTowersModel", name := "reach", desc := "(I)J" } : Jvm.MethodName)) ∈ lw_all := lw_g (lw_at lw_m10 149 rfl) rfl
theorem q2436 : (Jvm.Cond.code ({ cls := "TallTowersModel", name := "reach", desc := "(I)J" } : Jvm.MethodName) prog_16_method_131_code (5 : Nat) (Option.some Jvm.ClassFile.FieldType.long)) ∈ lw_all := lw_g (lw_at lw_m10 150 rfl) rfl
theorem q2438 : (Jvm.Cond.instanceMethod ({ cls := "TallTowersModel", name := "widest", desc := "(II)I" } : Jvm.MethodName)) ∈ lw_all := lw_g (lw_at lw_m10 152 rfl) rfl
theorem q2439 : (Jvm.Cond.selects "TallTowersModel" ({ cls := "TallTowersModel", name := "widest", desc := "(II)I" } : Jvm.MethodName) ({ cls := "TallTowersModel", name := "widest", desc := "(II)I" } : Jvm.MethodName)) ∈ lw_all := lw_g (lw_at lw_m10 153 rfl) rfl
theorem q2440 : (Jvm.Cond.code ({ cls := "TallTowersModel", name := "widest", desc := "(II)I" } : Jvm.MethodName) prog_16_method_132_code (7 : Nat) (Option.some Jvm.ClassFile.FieldType.int)) ∈ lw_all := lw_g (lw_at lw_m10 154 rfl) rfl
theorem q2442 : (Jvm.Cond.instanceMethod ({ cls := "TallTowersModel", name := "strongest", desc := "(I)J" } : Jvm.MethodName)) ∈ lw_all := lw_g (lw_at lw_m10 156 rfl) rfl
theorem q2443 : (Jvm.Cond.selects "TallTowersModel" ({ cls := "TallTowersModel", name := "strongest", desc := "(I)J" } : Jvm.MethodName) ({ cls := "TallTowersModel", name := "strongest", desc := "(I)J" } : Jvm.MethodName)) ∈ lw_all := lw_g (lw_at lw_m10 157 rfl) rfl
theorem q2444 : (Jvm.Cond.code ({ cls := "TallTowersModel", name := "strongest", desc := "(I)J" } : Jvm.MethodName) prog_16_method_133_code (6 : Nat) (Option.some Jvm.ClassFile.FieldType.long)) ∈ lw_all := lw_g (lw_at lw_m10 158 rfl) rfl
theorem q2446 : (Jvm.Cond.instanceMethod ({ cls := "TallTowersModel", name := "holds", desc := "(III)I" } : Jvm.MethodName)) ∈ lw_all := lw_g (lw_at lw_m10 160 rfl) rfl
theorem q2447 : (Jvm.Cond.selects "TallTowersModel" ({ cls := "TallTowersModel", name := "holds", desc := "(III)I" } : Jvm.MethodName) ({ cls := "TallTowersModel", name := "holds", desc := "(III)I" } : Jvm.MethodName)) ∈ lw_all := lw_g (lw_at lw_m10 161 rfl) rfl
theorem q2448 : (Jvm.Cond.code ({ cls := "TallTowersModel", name := "holds", desc := "(III)I" } : Jvm.MethodName) prog_16_method_134_code (6 : Nat) (Option.some Jvm.ClassFile.FieldType.int)) ∈ lw_all := lw_g (lw_at lw_m10 162 rfl) rfl
theorem q2450 : (Jvm.Cond.instanceMethod ({ cls := "TallTowersModel", name := "spent", desc := "()J" } : Jvm.MethodName)) ∈ lw_all := lw_g (lw_at lw_m10 164 rfl) rfl
theorem q2451 : (Jvm.Cond.selects "TallTowersModel" ({ cls := "TallTowersModel", name := "spent", desc := "()J" } : Jvm.MethodName) ({ cls := "TallTowersModel", name := "spent", desc := "()J" } : Jvm.MethodName)) ∈ lw_all := lw_g (lw_at lw_m10 165 rfl) rfl
theorem q2452 : (Jvm.Cond.code ({ cls := "TallTowersModel", name := "spent", desc := "()J" } : Jvm.MethodName) prog_16_method_135_code (4 : Nat) (Option.some Jvm.ClassFile.FieldType.long)) ∈ lw_all := lw_g (lw_at lw_m10 166 rfl) rfl
theorem q2454 : (Jvm.Cond.instanceMethod ({ cls := "TallTowersModel", name := "status", desc := "(I)I" } : Jvm.MethodName)) ∈ lw_all := lw_g (lw_at lw_m10 168 rfl) rfl
theorem q2455 : (Jvm.Cond.selects "TallTowersModel" ({ cls := "TallTowersModel", name := "status", desc := "(I)I" } : Jvm.MethodName) ({ cls := "TallTowersModel", name := "status", desc := "(I)I" } : Jvm.MethodName)) ∈ lw_all := lw_g (lw_at lw_m10 169 rfl) rfl
theorem q2456 : (Jvm.Cond.code ({ cls := "TallTowersModel", name := "status", desc := "(I)I" } : Jvm.MethodName) prog_16_method_136_code (2 : Nat) (Option.some Jvm.ClassFile.FieldType.int)) ∈ lw_all := lw_g (lw_at lw_m10 170 rfl) rfl
theorem q2475 : (Jvm.Cond.castable "TallTowersModel" "java/lang/Object") ∈ lw_tbl := lw_at lw_m10 189 rfl
theorem in_X11 : ∀ w ∈ wsX110, w ∈ lw_all := lw_in wsX110 [1811, 1813, 1815, 1817, 1819, 1821, 1823, 1825, 1827, 1829, 1831, 1833, 1835, 1837, 1839, 1841, 1843, 1845, 1847, 1849, 1851, 1853, 1855, 1857, 1859, 1861, 1863, 1865, 1867, 1869, 1871, 1873, 1875, 1877, 1879, 1881, 1883, 1885, 1887, 1889, 1891, 1893, 1895, 1897, 1899, 1901, 1903, 1905, 1907, 1909] (by decide +kernel) (by decide +kernel)
