/-! TallTowers$World -/
set_option maxRecDepth 100000
def RX2 : String := "TallTowers$World"
def TX2 : u_T := fun k => match k with
  | 0 => ("TallTowers$World", "layers", "[LTallTowers$Layer;", true)
  | 1 => ("TallTowers$World", "harms", "[LTallTowers$Harm;", true)
  | 2 => ("TallTowers$World", "rungs", "[[I", true)
  | 3 => ("TallTowers$World", "many", "[I", true)
  | 4 => ("TallTowers$World", "status", "[I", true)
  | 5 => ("TallTowers$World", "cash", "[J", true)
  | 6 => ("TallTowers$World", "weights", "[J", true)
  | 7 => ("TallTowers$World", "sums", "[J", true)
  | 8 => ("TallTowers$World", "excess", "[J", true)
  | 9 => ("TallTowers$World", "debt", "[J", true)
  | 10 => ("TallTowers$World", "moves", "[J", true)
  | 11 => ("TallTowers$World", "towers", "[LTallTowers$Tower;", true)
  | 12 => ("TallTowers$World", "order", "LTallTowers$Picks;", true)
  | 13 => ("TallTowers$World", "queue", "Ljava/util/PriorityQueue;", true)
  | 14 => ("TallTowers$World", "fair", "LTallTowers$Flow;", true)
  | 15 => ("TallTowers$World", "flow", "LTallTowers$Flow;", true)
  | 16 => ("TallTowers$World", "ways", "[LTallTowers$Spread;", true)
  | 17 => ("TallTowers$World", "lacking", "I", false)
  | 18 => ("TallTowers$World", "trigger", "I", false)
  | 19 => ("TallTowers$World", "spread", "I", false)
  | 20 => ("TallTowers$World", "pick", "I", false)
  | 21 => ("TallTowers$World", "placed", "I", false)
  | 22 => ("TallTowers$World", "harmed", "I", false)
  | _ => ("TallTowers$World", "isFixed", "Z", false)
def tyX2 : Nat → FieldType := fun k => match k with
  | 0 => .array (.object "TallTowers$Layer")
  | 1 => .array (.object "TallTowers$Harm")
  | 2 => .array (.array .int)
  | 3 => .array .int
  | 4 => .array .int
  | 5 => .array .long
  | 6 => .array .long
  | 7 => .array .long
  | 8 => .array .long
  | 9 => .array .long
  | 10 => .array .long
  | 11 => .array (.object "TallTowers$Tower")
  | 12 => .object "TallTowers$Picks"
  | 13 => .object "java/util/PriorityQueue"
  | 14 => .object "TallTowers$Flow"
  | 15 => .object "TallTowers$Flow"
  | 16 => .array (.object "TallTowers$Spread")
  | 17 => .int
  | 18 => .int
  | 19 => .int
  | 20 => .int
  | 21 => .int
  | 22 => .int
  | _ => .boolean
abbrev wsX20 : List Cond := u_ws RX2 TX2 24
set_option maxRecDepth 100000 in
theorem nmX2 : ∀ a, a < 24 → ∀ b, b < 24 → a ≠ b → (TX2 a).2.1 ≠ (TX2 b).2.1 := by decide +kernel
set_option maxRecDepth 100000 in
theorem tyX2_ok : ∀ k, k < 24 → parseFieldDescriptor (TX2 k).2.2.1 = some (tyX2 k) := by decide +kernel
abbrev cX2_init : ByteArray := prog_14_method_1_code
def yX2_init : MethodName := ⟨RX2, "<init>", "()V"⟩
def dkwX2_init_13 : List UInt8 := [83, 181, 0, 103, 177]
abbrev dktX2_init_13 : List UInt8 := dkwX2_init_13 ++ []
def dkwX2_init_12 : List UInt8 := [186, 0, 101, 0, 0, 183, 0, 97, 83, 89, 6, 187, 0, 91, 89, 42, 186, 0, 102, 0, 0, 183, 0, 97]
abbrev dktX2_init_12 : List UInt8 := dkwX2_init_12 ++ dktX2_init_13
def dkwX2_init_11 : List UInt8 := [89, 4, 187, 0, 91, 89, 42, 186, 0, 100, 0, 0, 183, 0, 97, 83, 89, 5, 187, 0, 91, 89, 42]
abbrev dktX2_init_11 : List UInt8 := dkwX2_init_11 ++ dktX2_init_12
def dkwX2_init_10 : List UInt8 := [167, 255, 233, 42, 7, 189, 0, 91, 89, 3, 187, 0, 91, 89, 42, 186, 0, 93, 0, 0, 183, 0, 97, 83]
abbrev dktX2_init_10 : List UInt8 := dkwX2_init_10 ++ dktX2_init_11
def dkwX2_init_9 : List UInt8 := [27, 16, 12, 162, 0, 23, 42, 180, 0, 56, 27, 187, 0, 54, 89, 27, 183, 0, 90, 83, 132, 1, 1]
abbrev dktX2_init_9 : List UInt8 := dkwX2_init_9 ++ dktX2_init_10
def dkwX2_init_8 : List UInt8 := [162, 0, 22, 42, 180, 0, 19, 27, 187, 0, 17, 89, 183, 0, 89, 83, 132, 1, 1, 167, 255, 234, 3, 60]
abbrev dktX2_init_8 : List UInt8 := dkwX2_init_8 ++ dktX2_init_9
def dkwX2_init_7 : List UInt8 := [180, 0, 11, 27, 187, 0, 9, 89, 27, 183, 0, 86, 83, 132, 1, 1, 167, 255, 233, 3, 60, 27, 16, 24]
abbrev dktX2_init_7 : List UInt8 := dkwX2_init_7 ++ dktX2_init_8
def dkwX2_init_6 : List UInt8 := [181, 0, 79, 42, 187, 0, 76, 89, 183, 0, 78, 181, 0, 83, 3, 60, 27, 16, 40, 162, 0, 23, 42]
abbrev dktX2_init_6 : List UInt8 := dkwX2_init_6 ++ dktX2_init_7
def dkwX2_init_5 : List UInt8 := [187, 0, 67, 89, 16, 12, 42, 180, 0, 63, 183, 0, 69, 181, 0, 72, 42, 187, 0, 76, 89, 183, 0, 78]
abbrev dktX2_init_5 : List UInt8 := dkwX2_init_5 ++ dktX2_init_6
def dkwX2_init_4 : List UInt8 := [181, 0, 51, 42, 16, 12, 189, 0, 54, 181, 0, 56, 42, 187, 0, 60, 89, 183, 0, 62, 181, 0, 63, 42]
abbrev dktX2_init_4 : List UInt8 := dkwX2_init_4 ++ dktX2_init_5
def dkwX2_init_3 : List UInt8 := [181, 0, 42, 42, 16, 40, 188, 11, 181, 0, 45, 42, 16, 40, 188, 11, 181, 0, 48, 42, 16, 40, 188, 11]
abbrev dktX2_init_3 : List UInt8 := dkwX2_init_3 ++ dktX2_init_4
def dkwX2_init_2 : List UInt8 := [181, 0, 32, 42, 16, 10, 188, 11, 181, 0, 35, 42, 16, 12, 188, 11, 181, 0, 39, 42, 16, 12, 188, 11]
abbrev dktX2_init_2 : List UInt8 := dkwX2_init_2 ++ dktX2_init_3
def dkwX2_init_1 : List UInt8 := [16, 12, 16, 6, 197, 0, 23, 2, 181, 0, 25, 42, 16, 12, 188, 10, 181, 0, 28, 42, 16, 10, 188, 10]
abbrev dktX2_init_1 : List UInt8 := dkwX2_init_1 ++ dktX2_init_2
def dkwX2_init_0 : List UInt8 := [42, 183, 0, 3, 42, 16, 40, 189, 0, 9, 181, 0, 11, 42, 16, 24, 189, 0, 17, 181, 0, 19, 42]
abbrev dktX2_init_0 : List UInt8 := dkwX2_init_0 ++ dktX2_init_1
theorem dksX2_init_0 : cX2_init.data.toList.drop 0 = dktX2_init_0 := by decide +kernel
theorem dksX2_init_1 : cX2_init.data.toList.drop 23 = dktX2_init_1 := dk_seg dksX2_init_0 23 rfl rfl
theorem dksX2_init_2 : cX2_init.data.toList.drop 47 = dktX2_init_2 := dk_seg dksX2_init_1 24 rfl rfl
theorem dksX2_init_3 : cX2_init.data.toList.drop 71 = dktX2_init_3 := dk_seg dksX2_init_2 24 rfl rfl
theorem dksX2_init_4 : cX2_init.data.toList.drop 95 = dktX2_init_4 := dk_seg dksX2_init_3 24 rfl rfl
theorem dksX2_init_5 : cX2_init.data.toList.drop 119 = dktX2_init_5 := dk_seg dksX2_init_4 24 rfl rfl
theorem dksX2_init_6 : cX2_init.data.toList.drop 143 = dktX2_init_6 := dk_seg dksX2_init_5 24 rfl rfl
theorem dksX2_init_7 : cX2_init.data.toList.drop 166 = dktX2_init_7 := dk_seg dksX2_init_6 23 rfl rfl
theorem dksX2_init_8 : cX2_init.data.toList.drop 190 = dktX2_init_8 := dk_seg dksX2_init_7 24 rfl rfl
theorem dksX2_init_9 : cX2_init.data.toList.drop 214 = dktX2_init_9 := dk_seg dksX2_init_8 24 rfl rfl
theorem dksX2_init_10 : cX2_init.data.toList.drop 237 = dktX2_init_10 := dk_seg dksX2_init_9 23 rfl rfl
theorem dksX2_init_11 : cX2_init.data.toList.drop 261 = dktX2_init_11 := dk_seg dksX2_init_10 24 rfl rfl
theorem dksX2_init_12 : cX2_init.data.toList.drop 284 = dktX2_init_12 := dk_seg dksX2_init_11 23 rfl rfl
theorem dksX2_init_13 : cX2_init.data.toList.drop 308 = dktX2_init_13 := dk_seg dksX2_init_12 24 rfl rfl
theorem dX2_init_0 : decode cX2_init 0 = .ok (.aload_n 0, 1) := dk_42 (dk_at dksX2_init_0 0 rfl rfl)
theorem dX2_init_1 : decode cX2_init 1 = .ok (.invokespecial 3, 3) := dk_183 0 3 (dk_at dksX2_init_0 1 rfl rfl)
theorem dX2_init_4 : decode cX2_init 4 = .ok (.aload_n 0, 1) := dk_42 (dk_at dksX2_init_0 4 rfl rfl)
theorem dX2_init_5 : decode cX2_init 5 = .ok (.bipush 40, 2) := dk_16 40 (dk_at dksX2_init_0 5 rfl rfl)
theorem dX2_init_7 : decode cX2_init 7 = .ok (.anewarray 9, 3) := dk_189 0 9 (dk_at dksX2_init_0 7 rfl rfl)
theorem dX2_init_10 : decode cX2_init 10 = .ok (.putfield 11, 3) := dk_181 0 11 (dk_at dksX2_init_0 10 rfl rfl)
theorem dX2_init_13 : decode cX2_init 13 = .ok (.aload_n 0, 1) := dk_42 (dk_at dksX2_init_0 13 rfl rfl)
theorem dX2_init_14 : decode cX2_init 14 = .ok (.bipush 24, 2) := dk_16 24 (dk_at dksX2_init_0 14 rfl rfl)
theorem dX2_init_16 : decode cX2_init 16 = .ok (.anewarray 17, 3) := dk_189 0 17 (dk_at dksX2_init_0 16 rfl rfl)
theorem dX2_init_19 : decode cX2_init 19 = .ok (.putfield 19, 3) := dk_181 0 19 (dk_at dksX2_init_0 19 rfl rfl)
theorem dX2_init_22 : decode cX2_init 22 = .ok (.aload_n 0, 1) := dk_42 (dk_at dksX2_init_0 22 rfl rfl)
theorem dX2_init_23 : decode cX2_init 23 = .ok (.bipush 12, 2) := dk_16 12 (dk_at dksX2_init_1 0 rfl rfl)
theorem dX2_init_25 : decode cX2_init 25 = .ok (.bipush 6, 2) := dk_16 6 (dk_at dksX2_init_1 2 rfl rfl)
theorem dX2_init_27 : decode cX2_init 27 = .ok (.multianewarray 23 2, 4) := by decide +kernel
theorem dX2_init_31 : decode cX2_init 31 = .ok (.putfield 25, 3) := dk_181 0 25 (dk_at dksX2_init_1 8 rfl rfl)
theorem dX2_init_34 : decode cX2_init 34 = .ok (.aload_n 0, 1) := dk_42 (dk_at dksX2_init_1 11 rfl rfl)
theorem dX2_init_35 : decode cX2_init 35 = .ok (.bipush 12, 2) := dk_16 12 (dk_at dksX2_init_1 12 rfl rfl)
theorem dX2_init_37 : decode cX2_init 37 = .ok (.newarray .int, 2) := dk_188_10 (dk_at dksX2_init_1 14 rfl rfl)
theorem dX2_init_39 : decode cX2_init 39 = .ok (.putfield 28, 3) := dk_181 0 28 (dk_at dksX2_init_1 16 rfl rfl)
theorem dX2_init_42 : decode cX2_init 42 = .ok (.aload_n 0, 1) := dk_42 (dk_at dksX2_init_1 19 rfl rfl)
theorem dX2_init_43 : decode cX2_init 43 = .ok (.bipush 10, 2) := dk_16 10 (dk_at dksX2_init_1 20 rfl rfl)
theorem dX2_init_45 : decode cX2_init 45 = .ok (.newarray .int, 2) := dk_188_10 (dk_at dksX2_init_1 22 rfl rfl)
theorem dX2_init_47 : decode cX2_init 47 = .ok (.putfield 32, 3) := dk_181 0 32 (dk_at dksX2_init_2 0 rfl rfl)
theorem dX2_init_50 : decode cX2_init 50 = .ok (.aload_n 0, 1) := dk_42 (dk_at dksX2_init_2 3 rfl rfl)
theorem dX2_init_51 : decode cX2_init 51 = .ok (.bipush 10, 2) := dk_16 10 (dk_at dksX2_init_2 4 rfl rfl)
theorem dX2_init_53 : decode cX2_init 53 = .ok (.newarray .long, 2) := dk_188_11 (dk_at dksX2_init_2 6 rfl rfl)
theorem dX2_init_55 : decode cX2_init 55 = .ok (.putfield 35, 3) := dk_181 0 35 (dk_at dksX2_init_2 8 rfl rfl)
theorem dX2_init_58 : decode cX2_init 58 = .ok (.aload_n 0, 1) := dk_42 (dk_at dksX2_init_2 11 rfl rfl)
theorem dX2_init_59 : decode cX2_init 59 = .ok (.bipush 12, 2) := dk_16 12 (dk_at dksX2_init_2 12 rfl rfl)
theorem dX2_init_61 : decode cX2_init 61 = .ok (.newarray .long, 2) := dk_188_11 (dk_at dksX2_init_2 14 rfl rfl)
theorem dX2_init_63 : decode cX2_init 63 = .ok (.putfield 39, 3) := dk_181 0 39 (dk_at dksX2_init_2 16 rfl rfl)
theorem dX2_init_66 : decode cX2_init 66 = .ok (.aload_n 0, 1) := dk_42 (dk_at dksX2_init_2 19 rfl rfl)
theorem dX2_init_67 : decode cX2_init 67 = .ok (.bipush 12, 2) := dk_16 12 (dk_at dksX2_init_2 20 rfl rfl)
theorem dX2_init_69 : decode cX2_init 69 = .ok (.newarray .long, 2) := dk_188_11 (dk_at dksX2_init_2 22 rfl rfl)
theorem dX2_init_71 : decode cX2_init 71 = .ok (.putfield 42, 3) := dk_181 0 42 (dk_at dksX2_init_3 0 rfl rfl)
theorem dX2_init_74 : decode cX2_init 74 = .ok (.aload_n 0, 1) := dk_42 (dk_at dksX2_init_3 3 rfl rfl)
theorem dX2_init_75 : decode cX2_init 75 = .ok (.bipush 40, 2) := dk_16 40 (dk_at dksX2_init_3 4 rfl rfl)
theorem dX2_init_77 : decode cX2_init 77 = .ok (.newarray .long, 2) := dk_188_11 (dk_at dksX2_init_3 6 rfl rfl)
theorem dX2_init_79 : decode cX2_init 79 = .ok (.putfield 45, 3) := dk_181 0 45 (dk_at dksX2_init_3 8 rfl rfl)
theorem dX2_init_82 : decode cX2_init 82 = .ok (.aload_n 0, 1) := dk_42 (dk_at dksX2_init_3 11 rfl rfl)
theorem dX2_init_83 : decode cX2_init 83 = .ok (.bipush 40, 2) := dk_16 40 (dk_at dksX2_init_3 12 rfl rfl)
theorem dX2_init_85 : decode cX2_init 85 = .ok (.newarray .long, 2) := dk_188_11 (dk_at dksX2_init_3 14 rfl rfl)
theorem dX2_init_87 : decode cX2_init 87 = .ok (.putfield 48, 3) := dk_181 0 48 (dk_at dksX2_init_3 16 rfl rfl)
theorem dX2_init_90 : decode cX2_init 90 = .ok (.aload_n 0, 1) := dk_42 (dk_at dksX2_init_3 19 rfl rfl)
theorem dX2_init_91 : decode cX2_init 91 = .ok (.bipush 40, 2) := dk_16 40 (dk_at dksX2_init_3 20 rfl rfl)
theorem dX2_init_93 : decode cX2_init 93 = .ok (.newarray .long, 2) := dk_188_11 (dk_at dksX2_init_3 22 rfl rfl)
theorem dX2_init_95 : decode cX2_init 95 = .ok (.putfield 51, 3) := dk_181 0 51 (dk_at dksX2_init_4 0 rfl rfl)
theorem dX2_init_98 : decode cX2_init 98 = .ok (.aload_n 0, 1) := dk_42 (dk_at dksX2_init_4 3 rfl rfl)
theorem dX2_init_99 : decode cX2_init 99 = .ok (.bipush 12, 2) := dk_16 12 (dk_at dksX2_init_4 4 rfl rfl)
theorem dX2_init_101 : decode cX2_init 101 = .ok (.anewarray 54, 3) := dk_189 0 54 (dk_at dksX2_init_4 6 rfl rfl)
theorem dX2_init_104 : decode cX2_init 104 = .ok (.putfield 56, 3) := dk_181 0 56 (dk_at dksX2_init_4 9 rfl rfl)
theorem dX2_init_107 : decode cX2_init 107 = .ok (.aload_n 0, 1) := dk_42 (dk_at dksX2_init_4 12 rfl rfl)
theorem dX2_init_108 : decode cX2_init 108 = .ok (.new 60, 3) := dk_187 0 60 (dk_at dksX2_init_4 13 rfl rfl)
theorem dX2_init_111 : decode cX2_init 111 = .ok (.dup, 1) := dk_89 (dk_at dksX2_init_4 16 rfl rfl)
theorem dX2_init_112 : decode cX2_init 112 = .ok (.invokespecial 62, 3) := dk_183 0 62 (dk_at dksX2_init_4 17 rfl rfl)
theorem dX2_init_115 : decode cX2_init 115 = .ok (.putfield 63, 3) := dk_181 0 63 (dk_at dksX2_init_4 20 rfl rfl)
theorem dX2_init_118 : decode cX2_init 118 = .ok (.aload_n 0, 1) := dk_42 (dk_at dksX2_init_4 23 rfl rfl)
theorem dX2_init_119 : decode cX2_init 119 = .ok (.new 67, 3) := dk_187 0 67 (dk_at dksX2_init_5 0 rfl rfl)
theorem dX2_init_122 : decode cX2_init 122 = .ok (.dup, 1) := dk_89 (dk_at dksX2_init_5 3 rfl rfl)
theorem dX2_init_123 : decode cX2_init 123 = .ok (.bipush 12, 2) := dk_16 12 (dk_at dksX2_init_5 4 rfl rfl)
theorem dX2_init_125 : decode cX2_init 125 = .ok (.aload_n 0, 1) := dk_42 (dk_at dksX2_init_5 6 rfl rfl)
theorem dX2_init_126 : decode cX2_init 126 = .ok (.getfield 63, 3) := dk_180 0 63 (dk_at dksX2_init_5 7 rfl rfl)
theorem dX2_init_129 : decode cX2_init 129 = .ok (.invokespecial 69, 3) := dk_183 0 69 (dk_at dksX2_init_5 10 rfl rfl)
theorem dX2_init_132 : decode cX2_init 132 = .ok (.putfield 72, 3) := dk_181 0 72 (dk_at dksX2_init_5 13 rfl rfl)
theorem dX2_init_135 : decode cX2_init 135 = .ok (.aload_n 0, 1) := dk_42 (dk_at dksX2_init_5 16 rfl rfl)
theorem dX2_init_136 : decode cX2_init 136 = .ok (.new 76, 3) := dk_187 0 76 (dk_at dksX2_init_5 17 rfl rfl)
theorem dX2_init_139 : decode cX2_init 139 = .ok (.dup, 1) := dk_89 (dk_at dksX2_init_5 20 rfl rfl)
theorem dX2_init_140 : decode cX2_init 140 = .ok (.invokespecial 78, 3) := dk_183 0 78 (dk_at dksX2_init_5 21 rfl rfl)
theorem dX2_init_143 : decode cX2_init 143 = .ok (.putfield 79, 3) := dk_181 0 79 (dk_at dksX2_init_6 0 rfl rfl)
theorem dX2_init_146 : decode cX2_init 146 = .ok (.aload_n 0, 1) := dk_42 (dk_at dksX2_init_6 3 rfl rfl)
theorem dX2_init_147 : decode cX2_init 147 = .ok (.new 76, 3) := dk_187 0 76 (dk_at dksX2_init_6 4 rfl rfl)
theorem dX2_init_150 : decode cX2_init 150 = .ok (.dup, 1) := dk_89 (dk_at dksX2_init_6 7 rfl rfl)
theorem dX2_init_151 : decode cX2_init 151 = .ok (.invokespecial 78, 3) := dk_183 0 78 (dk_at dksX2_init_6 8 rfl rfl)
theorem dX2_init_154 : decode cX2_init 154 = .ok (.putfield 83, 3) := dk_181 0 83 (dk_at dksX2_init_6 11 rfl rfl)
theorem dX2_init_157 : decode cX2_init 157 = .ok (.iconst 0, 1) := dk_3 (dk_at dksX2_init_6 14 rfl rfl)
theorem dX2_init_158 : decode cX2_init 158 = .ok (.istore_n 1, 1) := dk_60 (dk_at dksX2_init_6 15 rfl rfl)
theorem dX2_init_159 : decode cX2_init 159 = .ok (.iload_n 1, 1) := dk_27 (dk_at dksX2_init_6 16 rfl rfl)
theorem dX2_init_160 : decode cX2_init 160 = .ok (.bipush 40, 2) := dk_16 40 (dk_at dksX2_init_6 17 rfl rfl)
theorem dX2_init_162 : decode cX2_init 162 = .ok (.if_icmp .ge 23, 3) := dk_162 0 23 (dk_at dksX2_init_6 19 rfl rfl)
theorem dX2_init_165 : decode cX2_init 165 = .ok (.aload_n 0, 1) := dk_42 (dk_at dksX2_init_6 22 rfl rfl)
theorem dX2_init_166 : decode cX2_init 166 = .ok (.getfield 11, 3) := dk_180 0 11 (dk_at dksX2_init_7 0 rfl rfl)
theorem dX2_init_169 : decode cX2_init 169 = .ok (.iload_n 1, 1) := dk_27 (dk_at dksX2_init_7 3 rfl rfl)
theorem dX2_init_170 : decode cX2_init 170 = .ok (.new 9, 3) := dk_187 0 9 (dk_at dksX2_init_7 4 rfl rfl)
theorem dX2_init_173 : decode cX2_init 173 = .ok (.dup, 1) := dk_89 (dk_at dksX2_init_7 7 rfl rfl)
theorem dX2_init_174 : decode cX2_init 174 = .ok (.iload_n 1, 1) := dk_27 (dk_at dksX2_init_7 8 rfl rfl)
theorem dX2_init_175 : decode cX2_init 175 = .ok (.invokespecial 86, 3) := dk_183 0 86 (dk_at dksX2_init_7 9 rfl rfl)
theorem dX2_init_178 : decode cX2_init 178 = .ok (.aastore, 1) := dk_83 (dk_at dksX2_init_7 12 rfl rfl)
theorem dX2_init_179 : decode cX2_init 179 = .ok (.iinc 1 1, 3) := dk_132 1 1 (dk_at dksX2_init_7 13 rfl rfl)
theorem dX2_init_182 : decode cX2_init 182 = .ok (.goto (-23), 3) := dk_167 255 233 (dk_at dksX2_init_7 16 rfl rfl)
theorem dX2_init_185 : decode cX2_init 185 = .ok (.iconst 0, 1) := dk_3 (dk_at dksX2_init_7 19 rfl rfl)
theorem dX2_init_186 : decode cX2_init 186 = .ok (.istore_n 1, 1) := dk_60 (dk_at dksX2_init_7 20 rfl rfl)
theorem dX2_init_187 : decode cX2_init 187 = .ok (.iload_n 1, 1) := dk_27 (dk_at dksX2_init_7 21 rfl rfl)
theorem dX2_init_188 : decode cX2_init 188 = .ok (.bipush 24, 2) := dk_16 24 (dk_at dksX2_init_7 22 rfl rfl)
theorem dX2_init_190 : decode cX2_init 190 = .ok (.if_icmp .ge 22, 3) := dk_162 0 22 (dk_at dksX2_init_8 0 rfl rfl)
theorem dX2_init_193 : decode cX2_init 193 = .ok (.aload_n 0, 1) := dk_42 (dk_at dksX2_init_8 3 rfl rfl)
theorem dX2_init_194 : decode cX2_init 194 = .ok (.getfield 19, 3) := dk_180 0 19 (dk_at dksX2_init_8 4 rfl rfl)
theorem dX2_init_197 : decode cX2_init 197 = .ok (.iload_n 1, 1) := dk_27 (dk_at dksX2_init_8 7 rfl rfl)
theorem dX2_init_198 : decode cX2_init 198 = .ok (.new 17, 3) := dk_187 0 17 (dk_at dksX2_init_8 8 rfl rfl)
theorem dX2_init_201 : decode cX2_init 201 = .ok (.dup, 1) := dk_89 (dk_at dksX2_init_8 11 rfl rfl)
theorem dX2_init_202 : decode cX2_init 202 = .ok (.invokespecial 89, 3) := dk_183 0 89 (dk_at dksX2_init_8 12 rfl rfl)
theorem dX2_init_205 : decode cX2_init 205 = .ok (.aastore, 1) := dk_83 (dk_at dksX2_init_8 15 rfl rfl)
theorem dX2_init_206 : decode cX2_init 206 = .ok (.iinc 1 1, 3) := dk_132 1 1 (dk_at dksX2_init_8 16 rfl rfl)
theorem dX2_init_209 : decode cX2_init 209 = .ok (.goto (-22), 3) := dk_167 255 234 (dk_at dksX2_init_8 19 rfl rfl)
theorem dX2_init_212 : decode cX2_init 212 = .ok (.iconst 0, 1) := dk_3 (dk_at dksX2_init_8 22 rfl rfl)
theorem dX2_init_213 : decode cX2_init 213 = .ok (.istore_n 1, 1) := dk_60 (dk_at dksX2_init_8 23 rfl rfl)
theorem dX2_init_214 : decode cX2_init 214 = .ok (.iload_n 1, 1) := dk_27 (dk_at dksX2_init_9 0 rfl rfl)
theorem dX2_init_215 : decode cX2_init 215 = .ok (.bipush 12, 2) := dk_16 12 (dk_at dksX2_init_9 1 rfl rfl)
theorem dX2_init_217 : decode cX2_init 217 = .ok (.if_icmp .ge 23, 3) := dk_162 0 23 (dk_at dksX2_init_9 3 rfl rfl)
theorem dX2_init_220 : decode cX2_init 220 = .ok (.aload_n 0, 1) := dk_42 (dk_at dksX2_init_9 6 rfl rfl)
theorem dX2_init_221 : decode cX2_init 221 = .ok (.getfield 56, 3) := dk_180 0 56 (dk_at dksX2_init_9 7 rfl rfl)
theorem dX2_init_224 : decode cX2_init 224 = .ok (.iload_n 1, 1) := dk_27 (dk_at dksX2_init_9 10 rfl rfl)
theorem dX2_init_225 : decode cX2_init 225 = .ok (.new 54, 3) := dk_187 0 54 (dk_at dksX2_init_9 11 rfl rfl)
theorem dX2_init_228 : decode cX2_init 228 = .ok (.dup, 1) := dk_89 (dk_at dksX2_init_9 14 rfl rfl)
theorem dX2_init_229 : decode cX2_init 229 = .ok (.iload_n 1, 1) := dk_27 (dk_at dksX2_init_9 15 rfl rfl)
theorem dX2_init_230 : decode cX2_init 230 = .ok (.invokespecial 90, 3) := dk_183 0 90 (dk_at dksX2_init_9 16 rfl rfl)
theorem dX2_init_233 : decode cX2_init 233 = .ok (.aastore, 1) := dk_83 (dk_at dksX2_init_9 19 rfl rfl)
theorem dX2_init_234 : decode cX2_init 234 = .ok (.iinc 1 1, 3) := dk_132 1 1 (dk_at dksX2_init_9 20 rfl rfl)
theorem dX2_init_237 : decode cX2_init 237 = .ok (.goto (-23), 3) := dk_167 255 233 (dk_at dksX2_init_10 0 rfl rfl)
theorem dX2_init_240 : decode cX2_init 240 = .ok (.aload_n 0, 1) := dk_42 (dk_at dksX2_init_10 3 rfl rfl)
theorem dX2_init_241 : decode cX2_init 241 = .ok (.iconst 4, 1) := dk_7 (dk_at dksX2_init_10 4 rfl rfl)
theorem dX2_init_242 : decode cX2_init 242 = .ok (.anewarray 91, 3) := dk_189 0 91 (dk_at dksX2_init_10 5 rfl rfl)
theorem dX2_init_245 : decode cX2_init 245 = .ok (.dup, 1) := dk_89 (dk_at dksX2_init_10 8 rfl rfl)
theorem dX2_init_246 : decode cX2_init 246 = .ok (.iconst 0, 1) := dk_3 (dk_at dksX2_init_10 9 rfl rfl)
theorem dX2_init_247 : decode cX2_init 247 = .ok (.new 91, 3) := dk_187 0 91 (dk_at dksX2_init_10 10 rfl rfl)
theorem dX2_init_250 : decode cX2_init 250 = .ok (.dup, 1) := dk_89 (dk_at dksX2_init_10 13 rfl rfl)
theorem dX2_init_251 : decode cX2_init 251 = .ok (.aload_n 0, 1) := dk_42 (dk_at dksX2_init_10 14 rfl rfl)
theorem dX2_init_252 : decode cX2_init 252 = .ok (.invokedynamic 93, 5) := by decide +kernel
theorem dX2_init_257 : decode cX2_init 257 = .ok (.invokespecial 97, 3) := dk_183 0 97 (dk_at dksX2_init_10 20 rfl rfl)
theorem dX2_init_260 : decode cX2_init 260 = .ok (.aastore, 1) := dk_83 (dk_at dksX2_init_10 23 rfl rfl)
theorem dX2_init_261 : decode cX2_init 261 = .ok (.dup, 1) := dk_89 (dk_at dksX2_init_11 0 rfl rfl)
theorem dX2_init_262 : decode cX2_init 262 = .ok (.iconst 1, 1) := dk_4 (dk_at dksX2_init_11 1 rfl rfl)
theorem dX2_init_263 : decode cX2_init 263 = .ok (.new 91, 3) := dk_187 0 91 (dk_at dksX2_init_11 2 rfl rfl)
theorem dX2_init_266 : decode cX2_init 266 = .ok (.dup, 1) := dk_89 (dk_at dksX2_init_11 5 rfl rfl)
theorem dX2_init_267 : decode cX2_init 267 = .ok (.aload_n 0, 1) := dk_42 (dk_at dksX2_init_11 6 rfl rfl)
theorem dX2_init_268 : decode cX2_init 268 = .ok (.invokedynamic 100, 5) := by decide +kernel
theorem dX2_init_273 : decode cX2_init 273 = .ok (.invokespecial 97, 3) := dk_183 0 97 (dk_at dksX2_init_11 12 rfl rfl)
theorem dX2_init_276 : decode cX2_init 276 = .ok (.aastore, 1) := dk_83 (dk_at dksX2_init_11 15 rfl rfl)
theorem dX2_init_277 : decode cX2_init 277 = .ok (.dup, 1) := dk_89 (dk_at dksX2_init_11 16 rfl rfl)
theorem dX2_init_278 : decode cX2_init 278 = .ok (.iconst 2, 1) := dk_5 (dk_at dksX2_init_11 17 rfl rfl)
theorem dX2_init_279 : decode cX2_init 279 = .ok (.new 91, 3) := dk_187 0 91 (dk_at dksX2_init_11 18 rfl rfl)
theorem dX2_init_282 : decode cX2_init 282 = .ok (.dup, 1) := dk_89 (dk_at dksX2_init_11 21 rfl rfl)
theorem dX2_init_283 : decode cX2_init 283 = .ok (.aload_n 0, 1) := dk_42 (dk_at dksX2_init_11 22 rfl rfl)
theorem dX2_init_284 : decode cX2_init 284 = .ok (.invokedynamic 101, 5) := by decide +kernel
theorem dX2_init_289 : decode cX2_init 289 = .ok (.invokespecial 97, 3) := dk_183 0 97 (dk_at dksX2_init_12 5 rfl rfl)
theorem dX2_init_292 : decode cX2_init 292 = .ok (.aastore, 1) := dk_83 (dk_at dksX2_init_12 8 rfl rfl)
theorem dX2_init_293 : decode cX2_init 293 = .ok (.dup, 1) := dk_89 (dk_at dksX2_init_12 9 rfl rfl)
theorem dX2_init_294 : decode cX2_init 294 = .ok (.iconst 3, 1) := dk_6 (dk_at dksX2_init_12 10 rfl rfl)
theorem dX2_init_295 : decode cX2_init 295 = .ok (.new 91, 3) := dk_187 0 91 (dk_at dksX2_init_12 11 rfl rfl)
theorem dX2_init_298 : decode cX2_init 298 = .ok (.dup, 1) := dk_89 (dk_at dksX2_init_12 14 rfl rfl)
theorem dX2_init_299 : decode cX2_init 299 = .ok (.aload_n 0, 1) := dk_42 (dk_at dksX2_init_12 15 rfl rfl)
theorem dX2_init_300 : decode cX2_init 300 = .ok (.invokedynamic 102, 5) := by decide +kernel
theorem dX2_init_305 : decode cX2_init 305 = .ok (.invokespecial 97, 3) := dk_183 0 97 (dk_at dksX2_init_12 21 rfl rfl)
theorem dX2_init_308 : decode cX2_init 308 = .ok (.aastore, 1) := dk_83 (dk_at dksX2_init_13 0 rfl rfl)
theorem dX2_init_309 : decode cX2_init 309 = .ok (.putfield 103, 3) := dk_181 0 103 (dk_at dksX2_init_13 1 rfl rfl)
theorem dX2_init_312 : decode cX2_init 312 = .ok (.return_, 1) := dk_177 (dk_at dksX2_init_13 4 rfl rfl)
abbrev cX2_byTime : ByteArray := prog_14_method_25_code
def yX2_byTime : MethodName := ⟨RX2, "byTime", "(LTallTowers$Harm;JLTallTowers$Flow;)V"⟩
def dkwX2_byTime_0 : List UInt8 := [42, 43, 182, 0, 248, 42, 43, 32, 25, 4, 182, 0, 252, 177]
abbrev dktX2_byTime_0 : List UInt8 := dkwX2_byTime_0 ++ []
theorem dksX2_byTime_0 : cX2_byTime.data.toList.drop 0 = dktX2_byTime_0 := by decide +kernel
theorem dX2_byTime_0 : decode cX2_byTime 0 = .ok (.aload_n 0, 1) := dk_42 (dk_at dksX2_byTime_0 0 rfl rfl)
theorem dX2_byTime_1 : decode cX2_byTime 1 = .ok (.aload_n 1, 1) := dk_43 (dk_at dksX2_byTime_0 1 rfl rfl)
theorem dX2_byTime_2 : decode cX2_byTime 2 = .ok (.invokevirtual 248, 3) := dk_182 0 248 (dk_at dksX2_byTime_0 2 rfl rfl)
theorem dX2_byTime_5 : decode cX2_byTime 5 = .ok (.aload_n 0, 1) := dk_42 (dk_at dksX2_byTime_0 5 rfl rfl)
theorem dX2_byTime_6 : decode cX2_byTime 6 = .ok (.aload_n 1, 1) := dk_43 (dk_at dksX2_byTime_0 6 rfl rfl)
theorem dX2_byTime_7 : decode cX2_byTime 7 = .ok (.lload_n 2, 1) := dk_32 (dk_at dksX2_byTime_0 7 rfl rfl)
theorem dX2_byTime_8 : decode cX2_byTime 8 = .ok (.aload 4, 2) := dk_25 4 (dk_at dksX2_byTime_0 8 rfl rfl)
theorem dX2_byTime_10 : decode cX2_byTime 10 = .ok (.invokevirtual 252, 3) := dk_182 0 252 (dk_at dksX2_byTime_0 10 rfl rfl)
theorem dX2_byTime_13 : decode cX2_byTime 13 = .ok (.return_, 1) := dk_177 (dk_at dksX2_byTime_0 13 rfl rfl)
abbrev cX2_weighsByTime : ByteArray := prog_14_method_22_code
def yX2_weighsByTime : MethodName := ⟨RX2, "weighsByTime", "(LTallTowers$Harm;)V"⟩
def dkwX2_weighsByTime_1 : List UInt8 := [167, 0, 4, 9, 80, 132, 2, 1, 167, 255, 227, 177]
abbrev dktX2_weighsByTime_1 : List UInt8 := dkwX2_weighsByTime_1 ++ []
def dkwX2_weighsByTime_0 : List UInt8 := [3, 61, 28, 16, 12, 162, 0, 29, 42, 180, 0, 39, 28, 42, 43, 28, 182, 0, 237, 153, 0, 7, 10]
abbrev dktX2_weighsByTime_0 : List UInt8 := dkwX2_weighsByTime_0 ++ dktX2_weighsByTime_1
theorem dksX2_weighsByTime_0 : cX2_weighsByTime.data.toList.drop 0 = dktX2_weighsByTime_0 := by decide +kernel
theorem dksX2_weighsByTime_1 : cX2_weighsByTime.data.toList.drop 23 = dktX2_weighsByTime_1 := dk_seg dksX2_weighsByTime_0 23 rfl rfl
theorem dX2_weighsByTime_0 : decode cX2_weighsByTime 0 = .ok (.iconst 0, 1) := dk_3 (dk_at dksX2_weighsByTime_0 0 rfl rfl)
theorem dX2_weighsByTime_1 : decode cX2_weighsByTime 1 = .ok (.istore_n 2, 1) := dk_61 (dk_at dksX2_weighsByTime_0 1 rfl rfl)
theorem dX2_weighsByTime_2 : decode cX2_weighsByTime 2 = .ok (.iload_n 2, 1) := dk_28 (dk_at dksX2_weighsByTime_0 2 rfl rfl)
theorem dX2_weighsByTime_3 : decode cX2_weighsByTime 3 = .ok (.bipush 12, 2) := dk_16 12 (dk_at dksX2_weighsByTime_0 3 rfl rfl)
theorem dX2_weighsByTime_5 : decode cX2_weighsByTime 5 = .ok (.if_icmp .ge 29, 3) := dk_162 0 29 (dk_at dksX2_weighsByTime_0 5 rfl rfl)
theorem dX2_weighsByTime_8 : decode cX2_weighsByTime 8 = .ok (.aload_n 0, 1) := dk_42 (dk_at dksX2_weighsByTime_0 8 rfl rfl)
theorem dX2_weighsByTime_9 : decode cX2_weighsByTime 9 = .ok (.getfield 39, 3) := dk_180 0 39 (dk_at dksX2_weighsByTime_0 9 rfl rfl)
theorem dX2_weighsByTime_12 : decode cX2_weighsByTime 12 = .ok (.iload_n 2, 1) := dk_28 (dk_at dksX2_weighsByTime_0 12 rfl rfl)
theorem dX2_weighsByTime_13 : decode cX2_weighsByTime 13 = .ok (.aload_n 0, 1) := dk_42 (dk_at dksX2_weighsByTime_0 13 rfl rfl)
theorem dX2_weighsByTime_14 : decode cX2_weighsByTime 14 = .ok (.aload_n 1, 1) := dk_43 (dk_at dksX2_weighsByTime_0 14 rfl rfl)
theorem dX2_weighsByTime_15 : decode cX2_weighsByTime 15 = .ok (.iload_n 2, 1) := dk_28 (dk_at dksX2_weighsByTime_0 15 rfl rfl)
theorem dX2_weighsByTime_16 : decode cX2_weighsByTime 16 = .ok (.invokevirtual 237, 3) := dk_182 0 237 (dk_at dksX2_weighsByTime_0 16 rfl rfl)
theorem dX2_weighsByTime_19 : decode cX2_weighsByTime 19 = .ok (.ifCond .eq 7, 3) := dk_153 0 7 (dk_at dksX2_weighsByTime_0 19 rfl rfl)
theorem dX2_weighsByTime_22 : decode cX2_weighsByTime 22 = .ok (.lconst 1, 1) := dk_10 (dk_at dksX2_weighsByTime_0 22 rfl rfl)
theorem dX2_weighsByTime_23 : decode cX2_weighsByTime 23 = .ok (.goto 4, 3) := dk_167 0 4 (dk_at dksX2_weighsByTime_1 0 rfl rfl)
theorem dX2_weighsByTime_26 : decode cX2_weighsByTime 26 = .ok (.lconst 0, 1) := dk_9 (dk_at dksX2_weighsByTime_1 3 rfl rfl)
theorem dX2_weighsByTime_27 : decode cX2_weighsByTime 27 = .ok (.lastore, 1) := dk_80 (dk_at dksX2_weighsByTime_1 4 rfl rfl)
theorem dX2_weighsByTime_28 : decode cX2_weighsByTime 28 = .ok (.iinc 2 1, 3) := dk_132 2 1 (dk_at dksX2_weighsByTime_1 5 rfl rfl)
theorem dX2_weighsByTime_31 : decode cX2_weighsByTime 31 = .ok (.goto (-29), 3) := dk_167 255 227 (dk_at dksX2_weighsByTime_1 8 rfl rfl)
theorem dX2_weighsByTime_34 : decode cX2_weighsByTime 34 = .ok (.return_, 1) := dk_177 (dk_at dksX2_weighsByTime_1 11 rfl rfl)
abbrev cX2_counts : ByteArray := prog_14_method_20_code
def yX2_counts : MethodName := ⟨RX2, "counts", "(LTallTowers$Harm;I)Z"⟩
def dkwX2_counts_1 : List UInt8 := [4, 167, 0, 4, 3, 172]
abbrev dktX2_counts_1 : List UInt8 := dkwX2_counts_1 ++ []
def dkwX2_counts_0 : List UInt8 := [43, 42, 180, 0, 115, 182, 0, 234, 28, 122, 4, 126, 4, 160, 0, 15, 42, 28, 182, 0, 151, 154, 0, 7]
abbrev dktX2_counts_0 : List UInt8 := dkwX2_counts_0 ++ dktX2_counts_1
theorem dksX2_counts_0 : cX2_counts.data.toList.drop 0 = dktX2_counts_0 := by decide +kernel
theorem dksX2_counts_1 : cX2_counts.data.toList.drop 24 = dktX2_counts_1 := dk_seg dksX2_counts_0 24 rfl rfl
theorem dX2_counts_0 : decode cX2_counts 0 = .ok (.aload_n 1, 1) := dk_43 (dk_at dksX2_counts_0 0 rfl rfl)
theorem dX2_counts_1 : decode cX2_counts 1 = .ok (.aload_n 0, 1) := dk_42 (dk_at dksX2_counts_0 1 rfl rfl)
theorem dX2_counts_2 : decode cX2_counts 2 = .ok (.getfield 115, 3) := dk_180 0 115 (dk_at dksX2_counts_0 2 rfl rfl)
theorem dX2_counts_5 : decode cX2_counts 5 = .ok (.invokevirtual 234, 3) := dk_182 0 234 (dk_at dksX2_counts_0 5 rfl rfl)
theorem dX2_counts_8 : decode cX2_counts 8 = .ok (.iload_n 2, 1) := dk_28 (dk_at dksX2_counts_0 8 rfl rfl)
theorem dX2_counts_9 : decode cX2_counts 9 = .ok (.ishr, 1) := dk_122 (dk_at dksX2_counts_0 9 rfl rfl)
theorem dX2_counts_10 : decode cX2_counts 10 = .ok (.iconst 1, 1) := dk_4 (dk_at dksX2_counts_0 10 rfl rfl)
theorem dX2_counts_11 : decode cX2_counts 11 = .ok (.iand, 1) := dk_126 (dk_at dksX2_counts_0 11 rfl rfl)
theorem dX2_counts_12 : decode cX2_counts 12 = .ok (.iconst 1, 1) := dk_4 (dk_at dksX2_counts_0 12 rfl rfl)
theorem dX2_counts_13 : decode cX2_counts 13 = .ok (.if_icmp .ne 15, 3) := dk_160 0 15 (dk_at dksX2_counts_0 13 rfl rfl)
theorem dX2_counts_16 : decode cX2_counts 16 = .ok (.aload_n 0, 1) := dk_42 (dk_at dksX2_counts_0 16 rfl rfl)
theorem dX2_counts_17 : decode cX2_counts 17 = .ok (.iload_n 2, 1) := dk_28 (dk_at dksX2_counts_0 17 rfl rfl)
theorem dX2_counts_18 : decode cX2_counts 18 = .ok (.invokevirtual 151, 3) := dk_182 0 151 (dk_at dksX2_counts_0 18 rfl rfl)
theorem dX2_counts_21 : decode cX2_counts 21 = .ok (.ifCond .ne 7, 3) := dk_154 0 7 (dk_at dksX2_counts_0 21 rfl rfl)
theorem dX2_counts_24 : decode cX2_counts 24 = .ok (.iconst 1, 1) := dk_4 (dk_at dksX2_counts_1 0 rfl rfl)
theorem dX2_counts_25 : decode cX2_counts 25 = .ok (.goto 4, 3) := dk_167 0 4 (dk_at dksX2_counts_1 1 rfl rfl)
theorem dX2_counts_28 : decode cX2_counts 28 = .ok (.iconst 0, 1) := dk_3 (dk_at dksX2_counts_1 4 rfl rfl)
theorem dX2_counts_29 : decode cX2_counts 29 = .ok (.ireturn, 1) := dk_172 (dk_at dksX2_counts_1 5 rfl rfl)
abbrev cX2_isLacking : ByteArray := prog_14_method_5_code
def yX2_isLacking : MethodName := ⟨RX2, "isLacking", "(I)Z"⟩
def dkwX2_isLacking_0 : List UInt8 := [42, 180, 0, 111, 27, 122, 4, 126, 4, 160, 0, 7, 4, 167, 0, 4, 3, 172]
abbrev dktX2_isLacking_0 : List UInt8 := dkwX2_isLacking_0 ++ []
theorem dksX2_isLacking_0 : cX2_isLacking.data.toList.drop 0 = dktX2_isLacking_0 := by decide +kernel
theorem dX2_isLacking_0 : decode cX2_isLacking 0 = .ok (.aload_n 0, 1) := dk_42 (dk_at dksX2_isLacking_0 0 rfl rfl)
theorem dX2_isLacking_1 : decode cX2_isLacking 1 = .ok (.getfield 111, 3) := dk_180 0 111 (dk_at dksX2_isLacking_0 1 rfl rfl)
theorem dX2_isLacking_4 : decode cX2_isLacking 4 = .ok (.iload_n 1, 1) := dk_27 (dk_at dksX2_isLacking_0 4 rfl rfl)
theorem dX2_isLacking_5 : decode cX2_isLacking 5 = .ok (.ishr, 1) := dk_122 (dk_at dksX2_isLacking_0 5 rfl rfl)
theorem dX2_isLacking_6 : decode cX2_isLacking 6 = .ok (.iconst 1, 1) := dk_4 (dk_at dksX2_isLacking_0 6 rfl rfl)
theorem dX2_isLacking_7 : decode cX2_isLacking 7 = .ok (.iand, 1) := dk_126 (dk_at dksX2_isLacking_0 7 rfl rfl)
theorem dX2_isLacking_8 : decode cX2_isLacking 8 = .ok (.iconst 1, 1) := dk_4 (dk_at dksX2_isLacking_0 8 rfl rfl)
theorem dX2_isLacking_9 : decode cX2_isLacking 9 = .ok (.if_icmp .ne 7, 3) := dk_160 0 7 (dk_at dksX2_isLacking_0 9 rfl rfl)
theorem dX2_isLacking_12 : decode cX2_isLacking 12 = .ok (.iconst 1, 1) := dk_4 (dk_at dksX2_isLacking_0 12 rfl rfl)
theorem dX2_isLacking_13 : decode cX2_isLacking 13 = .ok (.goto 4, 3) := dk_167 0 4 (dk_at dksX2_isLacking_0 13 rfl rfl)
theorem dX2_isLacking_16 : decode cX2_isLacking 16 = .ok (.iconst 0, 1) := dk_3 (dk_at dksX2_isLacking_0 16 rfl rfl)
theorem dX2_isLacking_17 : decode cX2_isLacking 17 = .ok (.ireturn, 1) := dk_172 (dk_at dksX2_isLacking_0 17 rfl rfl)
abbrev cX2_fillsAll : ByteArray := prog_14_method_19_code
def yX2_fillsAll : MethodName := ⟨RX2, "fillsAll", "(LTallTowers$Harm;JLTallTowers$Flow;)V"⟩
def dkwX2_fillsAll_5 : List UInt8 := [182, 0, 230, 97, 80, 132, 7, 1, 167, 255, 207, 177]
abbrev dktX2_fillsAll_5 : List UInt8 := dkwX2_fillsAll_5 ++ []
def dkwX2_fillsAll_4 : List UInt8 := [153, 0, 7, 6, 167, 0, 4, 5, 92, 47, 42, 43, 21, 7, 42, 180, 0, 42, 21, 7, 47, 25, 4]
abbrev dktX2_fillsAll_4 : List UInt8 := dkwX2_fillsAll_4 ++ dktX2_fillsAll_5
def dkwX2_fillsAll_3 : List UInt8 := [184, 0, 226, 3, 54, 7, 21, 7, 16, 12, 162, 0, 48, 25, 4, 180, 0, 223, 42, 21, 7, 182, 0, 184]
abbrev dktX2_fillsAll_3 : List UInt8 := dkwX2_fillsAll_3 ++ dktX2_fillsAll_4
def dkwX2_fillsAll_2 : List UInt8 := [154, 0, 15, 25, 4, 180, 0, 223, 6, 92, 47, 32, 97, 80, 177, 32, 42, 180, 0, 39, 42, 180, 0, 42]
abbrev dktX2_fillsAll_2 : List UInt8 := dkwX2_fillsAll_2 ++ dktX2_fillsAll_3
def dkwX2_fillsAll_1 : List UInt8 := [25, 7, 21, 9, 47, 55, 10, 22, 5, 22, 10, 97, 55, 5, 132, 9, 1, 167, 255, 232, 22, 5, 9, 148]
abbrev dktX2_fillsAll_1 : List UInt8 := dkwX2_fillsAll_1 ++ dktX2_fillsAll_2
def dkwX2_fillsAll_0 : List UInt8 := [9, 55, 5, 42, 180, 0, 39, 58, 7, 25, 7, 190, 54, 8, 3, 54, 9, 21, 9, 21, 8, 162, 0, 23]
abbrev dktX2_fillsAll_0 : List UInt8 := dkwX2_fillsAll_0 ++ dktX2_fillsAll_1
theorem dksX2_fillsAll_0 : cX2_fillsAll.data.toList.drop 0 = dktX2_fillsAll_0 := by decide +kernel
theorem dksX2_fillsAll_1 : cX2_fillsAll.data.toList.drop 24 = dktX2_fillsAll_1 := dk_seg dksX2_fillsAll_0 24 rfl rfl
theorem dksX2_fillsAll_2 : cX2_fillsAll.data.toList.drop 48 = dktX2_fillsAll_2 := dk_seg dksX2_fillsAll_1 24 rfl rfl
theorem dksX2_fillsAll_3 : cX2_fillsAll.data.toList.drop 72 = dktX2_fillsAll_3 := dk_seg dksX2_fillsAll_2 24 rfl rfl
theorem dksX2_fillsAll_4 : cX2_fillsAll.data.toList.drop 96 = dktX2_fillsAll_4 := dk_seg dksX2_fillsAll_3 24 rfl rfl
theorem dksX2_fillsAll_5 : cX2_fillsAll.data.toList.drop 119 = dktX2_fillsAll_5 := dk_seg dksX2_fillsAll_4 23 rfl rfl
theorem dX2_fillsAll_0 : decode cX2_fillsAll 0 = .ok (.lconst 0, 1) := dk_9 (dk_at dksX2_fillsAll_0 0 rfl rfl)
theorem dX2_fillsAll_1 : decode cX2_fillsAll 1 = .ok (.lstore 5, 2) := dk_55 5 (dk_at dksX2_fillsAll_0 1 rfl rfl)
theorem dX2_fillsAll_3 : decode cX2_fillsAll 3 = .ok (.aload_n 0, 1) := dk_42 (dk_at dksX2_fillsAll_0 3 rfl rfl)
theorem dX2_fillsAll_4 : decode cX2_fillsAll 4 = .ok (.getfield 39, 3) := dk_180 0 39 (dk_at dksX2_fillsAll_0 4 rfl rfl)
theorem dX2_fillsAll_7 : decode cX2_fillsAll 7 = .ok (.astore 7, 2) := dk_58 7 (dk_at dksX2_fillsAll_0 7 rfl rfl)
theorem dX2_fillsAll_9 : decode cX2_fillsAll 9 = .ok (.aload 7, 2) := dk_25 7 (dk_at dksX2_fillsAll_0 9 rfl rfl)
theorem dX2_fillsAll_11 : decode cX2_fillsAll 11 = .ok (.arraylength, 1) := dk_190 (dk_at dksX2_fillsAll_0 11 rfl rfl)
theorem dX2_fillsAll_12 : decode cX2_fillsAll 12 = .ok (.istore 8, 2) := dk_54 8 (dk_at dksX2_fillsAll_0 12 rfl rfl)
theorem dX2_fillsAll_14 : decode cX2_fillsAll 14 = .ok (.iconst 0, 1) := dk_3 (dk_at dksX2_fillsAll_0 14 rfl rfl)
theorem dX2_fillsAll_15 : decode cX2_fillsAll 15 = .ok (.istore 9, 2) := dk_54 9 (dk_at dksX2_fillsAll_0 15 rfl rfl)
theorem dX2_fillsAll_17 : decode cX2_fillsAll 17 = .ok (.iload 9, 2) := dk_21 9 (dk_at dksX2_fillsAll_0 17 rfl rfl)
theorem dX2_fillsAll_19 : decode cX2_fillsAll 19 = .ok (.iload 8, 2) := dk_21 8 (dk_at dksX2_fillsAll_0 19 rfl rfl)
theorem dX2_fillsAll_21 : decode cX2_fillsAll 21 = .ok (.if_icmp .ge 23, 3) := dk_162 0 23 (dk_at dksX2_fillsAll_0 21 rfl rfl)
theorem dX2_fillsAll_24 : decode cX2_fillsAll 24 = .ok (.aload 7, 2) := dk_25 7 (dk_at dksX2_fillsAll_1 0 rfl rfl)
theorem dX2_fillsAll_26 : decode cX2_fillsAll 26 = .ok (.iload 9, 2) := dk_21 9 (dk_at dksX2_fillsAll_1 2 rfl rfl)
theorem dX2_fillsAll_28 : decode cX2_fillsAll 28 = .ok (.laload, 1) := dk_47 (dk_at dksX2_fillsAll_1 4 rfl rfl)
theorem dX2_fillsAll_29 : decode cX2_fillsAll 29 = .ok (.lstore 10, 2) := dk_55 10 (dk_at dksX2_fillsAll_1 5 rfl rfl)
theorem dX2_fillsAll_31 : decode cX2_fillsAll 31 = .ok (.lload 5, 2) := dk_22 5 (dk_at dksX2_fillsAll_1 7 rfl rfl)
theorem dX2_fillsAll_33 : decode cX2_fillsAll 33 = .ok (.lload 10, 2) := dk_22 10 (dk_at dksX2_fillsAll_1 9 rfl rfl)
theorem dX2_fillsAll_35 : decode cX2_fillsAll 35 = .ok (.ladd, 1) := dk_97 (dk_at dksX2_fillsAll_1 11 rfl rfl)
theorem dX2_fillsAll_36 : decode cX2_fillsAll 36 = .ok (.lstore 5, 2) := dk_55 5 (dk_at dksX2_fillsAll_1 12 rfl rfl)
theorem dX2_fillsAll_38 : decode cX2_fillsAll 38 = .ok (.iinc 9 1, 3) := dk_132 9 1 (dk_at dksX2_fillsAll_1 14 rfl rfl)
theorem dX2_fillsAll_41 : decode cX2_fillsAll 41 = .ok (.goto (-24), 3) := dk_167 255 232 (dk_at dksX2_fillsAll_1 17 rfl rfl)
theorem dX2_fillsAll_44 : decode cX2_fillsAll 44 = .ok (.lload 5, 2) := dk_22 5 (dk_at dksX2_fillsAll_1 20 rfl rfl)
theorem dX2_fillsAll_46 : decode cX2_fillsAll 46 = .ok (.lconst 0, 1) := dk_9 (dk_at dksX2_fillsAll_1 22 rfl rfl)
theorem dX2_fillsAll_47 : decode cX2_fillsAll 47 = .ok (.lcmp, 1) := dk_148 (dk_at dksX2_fillsAll_1 23 rfl rfl)
theorem dX2_fillsAll_48 : decode cX2_fillsAll 48 = .ok (.ifCond .ne 15, 3) := dk_154 0 15 (dk_at dksX2_fillsAll_2 0 rfl rfl)
theorem dX2_fillsAll_51 : decode cX2_fillsAll 51 = .ok (.aload 4, 2) := dk_25 4 (dk_at dksX2_fillsAll_2 3 rfl rfl)
theorem dX2_fillsAll_53 : decode cX2_fillsAll 53 = .ok (.getfield 223, 3) := dk_180 0 223 (dk_at dksX2_fillsAll_2 5 rfl rfl)
theorem dX2_fillsAll_56 : decode cX2_fillsAll 56 = .ok (.iconst 3, 1) := dk_6 (dk_at dksX2_fillsAll_2 8 rfl rfl)
theorem dX2_fillsAll_57 : decode cX2_fillsAll 57 = .ok (.dup2, 1) := dk_92 (dk_at dksX2_fillsAll_2 9 rfl rfl)
theorem dX2_fillsAll_58 : decode cX2_fillsAll 58 = .ok (.laload, 1) := dk_47 (dk_at dksX2_fillsAll_2 10 rfl rfl)
theorem dX2_fillsAll_59 : decode cX2_fillsAll 59 = .ok (.lload_n 2, 1) := dk_32 (dk_at dksX2_fillsAll_2 11 rfl rfl)
theorem dX2_fillsAll_60 : decode cX2_fillsAll 60 = .ok (.ladd, 1) := dk_97 (dk_at dksX2_fillsAll_2 12 rfl rfl)
theorem dX2_fillsAll_61 : decode cX2_fillsAll 61 = .ok (.lastore, 1) := dk_80 (dk_at dksX2_fillsAll_2 13 rfl rfl)
theorem dX2_fillsAll_62 : decode cX2_fillsAll 62 = .ok (.return_, 1) := dk_177 (dk_at dksX2_fillsAll_2 14 rfl rfl)
theorem dX2_fillsAll_63 : decode cX2_fillsAll 63 = .ok (.lload_n 2, 1) := dk_32 (dk_at dksX2_fillsAll_2 15 rfl rfl)
theorem dX2_fillsAll_64 : decode cX2_fillsAll 64 = .ok (.aload_n 0, 1) := dk_42 (dk_at dksX2_fillsAll_2 16 rfl rfl)
theorem dX2_fillsAll_65 : decode cX2_fillsAll 65 = .ok (.getfield 39, 3) := dk_180 0 39 (dk_at dksX2_fillsAll_2 17 rfl rfl)
theorem dX2_fillsAll_68 : decode cX2_fillsAll 68 = .ok (.aload_n 0, 1) := dk_42 (dk_at dksX2_fillsAll_2 20 rfl rfl)
theorem dX2_fillsAll_69 : decode cX2_fillsAll 69 = .ok (.getfield 42, 3) := dk_180 0 42 (dk_at dksX2_fillsAll_2 21 rfl rfl)
theorem dX2_fillsAll_72 : decode cX2_fillsAll 72 = .ok (.invokestatic 226, 3) := dk_184 0 226 (dk_at dksX2_fillsAll_3 0 rfl rfl)
theorem dX2_fillsAll_75 : decode cX2_fillsAll 75 = .ok (.iconst 0, 1) := dk_3 (dk_at dksX2_fillsAll_3 3 rfl rfl)
theorem dX2_fillsAll_76 : decode cX2_fillsAll 76 = .ok (.istore 7, 2) := dk_54 7 (dk_at dksX2_fillsAll_3 4 rfl rfl)
theorem dX2_fillsAll_78 : decode cX2_fillsAll 78 = .ok (.iload 7, 2) := dk_21 7 (dk_at dksX2_fillsAll_3 6 rfl rfl)
theorem dX2_fillsAll_80 : decode cX2_fillsAll 80 = .ok (.bipush 12, 2) := dk_16 12 (dk_at dksX2_fillsAll_3 8 rfl rfl)
theorem dX2_fillsAll_82 : decode cX2_fillsAll 82 = .ok (.if_icmp .ge 48, 3) := dk_162 0 48 (dk_at dksX2_fillsAll_3 10 rfl rfl)
theorem dX2_fillsAll_85 : decode cX2_fillsAll 85 = .ok (.aload 4, 2) := dk_25 4 (dk_at dksX2_fillsAll_3 13 rfl rfl)
theorem dX2_fillsAll_87 : decode cX2_fillsAll 87 = .ok (.getfield 223, 3) := dk_180 0 223 (dk_at dksX2_fillsAll_3 15 rfl rfl)
theorem dX2_fillsAll_90 : decode cX2_fillsAll 90 = .ok (.aload_n 0, 1) := dk_42 (dk_at dksX2_fillsAll_3 18 rfl rfl)
theorem dX2_fillsAll_91 : decode cX2_fillsAll 91 = .ok (.iload 7, 2) := dk_21 7 (dk_at dksX2_fillsAll_3 19 rfl rfl)
theorem dX2_fillsAll_93 : decode cX2_fillsAll 93 = .ok (.invokevirtual 184, 3) := dk_182 0 184 (dk_at dksX2_fillsAll_3 21 rfl rfl)
theorem dX2_fillsAll_96 : decode cX2_fillsAll 96 = .ok (.ifCond .eq 7, 3) := dk_153 0 7 (dk_at dksX2_fillsAll_4 0 rfl rfl)
theorem dX2_fillsAll_99 : decode cX2_fillsAll 99 = .ok (.iconst 3, 1) := dk_6 (dk_at dksX2_fillsAll_4 3 rfl rfl)
theorem dX2_fillsAll_100 : decode cX2_fillsAll 100 = .ok (.goto 4, 3) := dk_167 0 4 (dk_at dksX2_fillsAll_4 4 rfl rfl)
theorem dX2_fillsAll_103 : decode cX2_fillsAll 103 = .ok (.iconst 2, 1) := dk_5 (dk_at dksX2_fillsAll_4 7 rfl rfl)
theorem dX2_fillsAll_104 : decode cX2_fillsAll 104 = .ok (.dup2, 1) := dk_92 (dk_at dksX2_fillsAll_4 8 rfl rfl)
theorem dX2_fillsAll_105 : decode cX2_fillsAll 105 = .ok (.laload, 1) := dk_47 (dk_at dksX2_fillsAll_4 9 rfl rfl)
theorem dX2_fillsAll_106 : decode cX2_fillsAll 106 = .ok (.aload_n 0, 1) := dk_42 (dk_at dksX2_fillsAll_4 10 rfl rfl)
theorem dX2_fillsAll_107 : decode cX2_fillsAll 107 = .ok (.aload_n 1, 1) := dk_43 (dk_at dksX2_fillsAll_4 11 rfl rfl)
theorem dX2_fillsAll_108 : decode cX2_fillsAll 108 = .ok (.iload 7, 2) := dk_21 7 (dk_at dksX2_fillsAll_4 12 rfl rfl)
theorem dX2_fillsAll_110 : decode cX2_fillsAll 110 = .ok (.aload_n 0, 1) := dk_42 (dk_at dksX2_fillsAll_4 14 rfl rfl)
theorem dX2_fillsAll_111 : decode cX2_fillsAll 111 = .ok (.getfield 42, 3) := dk_180 0 42 (dk_at dksX2_fillsAll_4 15 rfl rfl)
theorem dX2_fillsAll_114 : decode cX2_fillsAll 114 = .ok (.iload 7, 2) := dk_21 7 (dk_at dksX2_fillsAll_4 18 rfl rfl)
theorem dX2_fillsAll_116 : decode cX2_fillsAll 116 = .ok (.laload, 1) := dk_47 (dk_at dksX2_fillsAll_4 20 rfl rfl)
theorem dX2_fillsAll_117 : decode cX2_fillsAll 117 = .ok (.aload 4, 2) := dk_25 4 (dk_at dksX2_fillsAll_4 21 rfl rfl)
theorem dX2_fillsAll_119 : decode cX2_fillsAll 119 = .ok (.invokevirtual 230, 3) := dk_182 0 230 (dk_at dksX2_fillsAll_5 0 rfl rfl)
theorem dX2_fillsAll_122 : decode cX2_fillsAll 122 = .ok (.ladd, 1) := dk_97 (dk_at dksX2_fillsAll_5 3 rfl rfl)
theorem dX2_fillsAll_123 : decode cX2_fillsAll 123 = .ok (.lastore, 1) := dk_80 (dk_at dksX2_fillsAll_5 4 rfl rfl)
theorem dX2_fillsAll_124 : decode cX2_fillsAll 124 = .ok (.iinc 7 1, 3) := dk_132 7 1 (dk_at dksX2_fillsAll_5 5 rfl rfl)
theorem dX2_fillsAll_127 : decode cX2_fillsAll 127 = .ok (.goto (-49), 3) := dk_167 255 207 (dk_at dksX2_fillsAll_5 8 rfl rfl)
theorem dX2_fillsAll_130 : decode cX2_fillsAll 130 = .ok (.return_, 1) := dk_177 (dk_at dksX2_fillsAll_5 11 rfl rfl)
abbrev cX2_isGap : ByteArray := prog_14_method_6_code
def yX2_isGap : MethodName := ⟨RX2, "isGap", "(I)Z"⟩
def dkwX2_isGap_0 : List UInt8 := [42, 180, 0, 28, 27, 46, 154, 0, 7, 4, 167, 0, 4, 3, 172]
abbrev dktX2_isGap_0 : List UInt8 := dkwX2_isGap_0 ++ []
theorem dksX2_isGap_0 : cX2_isGap.data.toList.drop 0 = dktX2_isGap_0 := by decide +kernel
theorem dX2_isGap_0 : decode cX2_isGap 0 = .ok (.aload_n 0, 1) := dk_42 (dk_at dksX2_isGap_0 0 rfl rfl)
theorem dX2_isGap_1 : decode cX2_isGap 1 = .ok (.getfield 28, 3) := dk_180 0 28 (dk_at dksX2_isGap_0 1 rfl rfl)
theorem dX2_isGap_4 : decode cX2_isGap 4 = .ok (.iload_n 1, 1) := dk_27 (dk_at dksX2_isGap_0 4 rfl rfl)
theorem dX2_isGap_5 : decode cX2_isGap 5 = .ok (.iaload, 1) := dk_46 (dk_at dksX2_isGap_0 5 rfl rfl)
theorem dX2_isGap_6 : decode cX2_isGap 6 = .ok (.ifCond .ne 7, 3) := dk_154 0 7 (dk_at dksX2_isGap_0 6 rfl rfl)
theorem dX2_isGap_9 : decode cX2_isGap 9 = .ok (.iconst 1, 1) := dk_4 (dk_at dksX2_isGap_0 9 rfl rfl)
theorem dX2_isGap_10 : decode cX2_isGap 10 = .ok (.goto 4, 3) := dk_167 0 4 (dk_at dksX2_isGap_0 10 rfl rfl)
theorem dX2_isGap_13 : decode cX2_isGap 13 = .ok (.iconst 0, 1) := dk_3 (dk_at dksX2_isGap_0 13 rfl rfl)
theorem dX2_isGap_14 : decode cX2_isGap 14 = .ok (.ireturn, 1) := dk_172 (dk_at dksX2_isGap_0 14 rfl rfl)
abbrev cX2_fills : ByteArray := prog_14_method_18_code
def yX2_fills : MethodName := ⟨RX2, "fills", "(LTallTowers$Harm;IJLTallTowers$Flow;)J"⟩
def dkwX2_fills_5 : List UInt8 := [22, 12, 101, 55, 6, 132, 8, 1, 167, 255, 135, 22, 6, 173]
abbrev dktX2_fills_5 : List UInt8 := dkwX2_fills_5 ++ []
def dkwX2_fills_4 : List UInt8 := [184, 0, 197, 55, 12, 25, 5, 180, 0, 203, 25, 9, 180, 0, 137, 92, 47, 22, 12, 97, 80, 22, 6]
abbrev dktX2_fills_4 : List UInt8 := dkwX2_fills_4 ++ dktX2_fills_5
def dkwX2_fills_3 : List UInt8 := [92, 47, 22, 10, 97, 80, 22, 6, 22, 10, 101, 55, 6, 22, 6, 42, 43, 25, 9, 25, 5, 182, 0, 219]
abbrev dktX2_fills_3 : List UInt8 := dkwX2_fills_3 ++ dktX2_fills_4
def dkwX2_fills_2 : List UInt8 := [55, 10, 25, 5, 180, 0, 214, 25, 9, 180, 0, 137, 92, 47, 22, 10, 97, 80, 25, 5, 180, 0, 223, 4]
abbrev dktX2_fills_2 : List UInt8 := dkwX2_fills_2 ++ dktX2_fills_3
def dkwX2_fills_1 : List UInt8 := [42, 28, 21, 8, 182, 0, 140, 58, 9, 22, 6, 42, 43, 28, 21, 8, 25, 5, 182, 0, 215, 184, 0, 197]
abbrev dktX2_fills_1 : List UInt8 := dkwX2_fills_1 ++ dktX2_fills_2
def dkwX2_fills_0 : List UInt8 := [33, 55, 6, 3, 54, 8, 21, 8, 42, 180, 0, 28, 28, 46, 162, 0, 116, 22, 6, 9, 148, 158, 0, 109]
abbrev dktX2_fills_0 : List UInt8 := dkwX2_fills_0 ++ dktX2_fills_1
theorem dksX2_fills_0 : cX2_fills.data.toList.drop 0 = dktX2_fills_0 := by decide +kernel
theorem dksX2_fills_1 : cX2_fills.data.toList.drop 24 = dktX2_fills_1 := dk_seg dksX2_fills_0 24 rfl rfl
theorem dksX2_fills_2 : cX2_fills.data.toList.drop 48 = dktX2_fills_2 := dk_seg dksX2_fills_1 24 rfl rfl
theorem dksX2_fills_3 : cX2_fills.data.toList.drop 72 = dktX2_fills_3 := dk_seg dksX2_fills_2 24 rfl rfl
theorem dksX2_fills_4 : cX2_fills.data.toList.drop 96 = dktX2_fills_4 := dk_seg dksX2_fills_3 24 rfl rfl
theorem dksX2_fills_5 : cX2_fills.data.toList.drop 119 = dktX2_fills_5 := dk_seg dksX2_fills_4 23 rfl rfl
theorem dX2_fills_0 : decode cX2_fills 0 = .ok (.lload_n 3, 1) := dk_33 (dk_at dksX2_fills_0 0 rfl rfl)
theorem dX2_fills_1 : decode cX2_fills 1 = .ok (.lstore 6, 2) := dk_55 6 (dk_at dksX2_fills_0 1 rfl rfl)
theorem dX2_fills_3 : decode cX2_fills 3 = .ok (.iconst 0, 1) := dk_3 (dk_at dksX2_fills_0 3 rfl rfl)
theorem dX2_fills_4 : decode cX2_fills 4 = .ok (.istore 8, 2) := dk_54 8 (dk_at dksX2_fills_0 4 rfl rfl)
theorem dX2_fills_6 : decode cX2_fills 6 = .ok (.iload 8, 2) := dk_21 8 (dk_at dksX2_fills_0 6 rfl rfl)
theorem dX2_fills_8 : decode cX2_fills 8 = .ok (.aload_n 0, 1) := dk_42 (dk_at dksX2_fills_0 8 rfl rfl)
theorem dX2_fills_9 : decode cX2_fills 9 = .ok (.getfield 28, 3) := dk_180 0 28 (dk_at dksX2_fills_0 9 rfl rfl)
theorem dX2_fills_12 : decode cX2_fills 12 = .ok (.iload_n 2, 1) := dk_28 (dk_at dksX2_fills_0 12 rfl rfl)
theorem dX2_fills_13 : decode cX2_fills 13 = .ok (.iaload, 1) := dk_46 (dk_at dksX2_fills_0 13 rfl rfl)
theorem dX2_fills_14 : decode cX2_fills 14 = .ok (.if_icmp .ge 116, 3) := dk_162 0 116 (dk_at dksX2_fills_0 14 rfl rfl)
theorem dX2_fills_17 : decode cX2_fills 17 = .ok (.lload 6, 2) := dk_22 6 (dk_at dksX2_fills_0 17 rfl rfl)
theorem dX2_fills_19 : decode cX2_fills 19 = .ok (.lconst 0, 1) := dk_9 (dk_at dksX2_fills_0 19 rfl rfl)
theorem dX2_fills_20 : decode cX2_fills 20 = .ok (.lcmp, 1) := dk_148 (dk_at dksX2_fills_0 20 rfl rfl)
theorem dX2_fills_21 : decode cX2_fills 21 = .ok (.ifCond .le 109, 3) := dk_158 0 109 (dk_at dksX2_fills_0 21 rfl rfl)
theorem dX2_fills_24 : decode cX2_fills 24 = .ok (.aload_n 0, 1) := dk_42 (dk_at dksX2_fills_1 0 rfl rfl)
theorem dX2_fills_25 : decode cX2_fills 25 = .ok (.iload_n 2, 1) := dk_28 (dk_at dksX2_fills_1 1 rfl rfl)
theorem dX2_fills_26 : decode cX2_fills 26 = .ok (.iload 8, 2) := dk_21 8 (dk_at dksX2_fills_1 2 rfl rfl)
theorem dX2_fills_28 : decode cX2_fills 28 = .ok (.invokevirtual 140, 3) := dk_182 0 140 (dk_at dksX2_fills_1 4 rfl rfl)
theorem dX2_fills_31 : decode cX2_fills 31 = .ok (.astore 9, 2) := dk_58 9 (dk_at dksX2_fills_1 7 rfl rfl)
theorem dX2_fills_33 : decode cX2_fills 33 = .ok (.lload 6, 2) := dk_22 6 (dk_at dksX2_fills_1 9 rfl rfl)
theorem dX2_fills_35 : decode cX2_fills 35 = .ok (.aload_n 0, 1) := dk_42 (dk_at dksX2_fills_1 11 rfl rfl)
theorem dX2_fills_36 : decode cX2_fills 36 = .ok (.aload_n 1, 1) := dk_43 (dk_at dksX2_fills_1 12 rfl rfl)
theorem dX2_fills_37 : decode cX2_fills 37 = .ok (.iload_n 2, 1) := dk_28 (dk_at dksX2_fills_1 13 rfl rfl)
theorem dX2_fills_38 : decode cX2_fills 38 = .ok (.iload 8, 2) := dk_21 8 (dk_at dksX2_fills_1 14 rfl rfl)
theorem dX2_fills_40 : decode cX2_fills 40 = .ok (.aload 5, 2) := dk_25 5 (dk_at dksX2_fills_1 16 rfl rfl)
theorem dX2_fills_42 : decode cX2_fills 42 = .ok (.invokevirtual 215, 3) := dk_182 0 215 (dk_at dksX2_fills_1 18 rfl rfl)
theorem dX2_fills_45 : decode cX2_fills 45 = .ok (.invokestatic 197, 3) := dk_184 0 197 (dk_at dksX2_fills_1 21 rfl rfl)
theorem dX2_fills_48 : decode cX2_fills 48 = .ok (.lstore 10, 2) := dk_55 10 (dk_at dksX2_fills_2 0 rfl rfl)
theorem dX2_fills_50 : decode cX2_fills 50 = .ok (.aload 5, 2) := dk_25 5 (dk_at dksX2_fills_2 2 rfl rfl)
theorem dX2_fills_52 : decode cX2_fills 52 = .ok (.getfield 214, 3) := dk_180 0 214 (dk_at dksX2_fills_2 4 rfl rfl)
theorem dX2_fills_55 : decode cX2_fills 55 = .ok (.aload 9, 2) := dk_25 9 (dk_at dksX2_fills_2 7 rfl rfl)
theorem dX2_fills_57 : decode cX2_fills 57 = .ok (.getfield 137, 3) := dk_180 0 137 (dk_at dksX2_fills_2 9 rfl rfl)
theorem dX2_fills_60 : decode cX2_fills 60 = .ok (.dup2, 1) := dk_92 (dk_at dksX2_fills_2 12 rfl rfl)
theorem dX2_fills_61 : decode cX2_fills 61 = .ok (.laload, 1) := dk_47 (dk_at dksX2_fills_2 13 rfl rfl)
theorem dX2_fills_62 : decode cX2_fills 62 = .ok (.lload 10, 2) := dk_22 10 (dk_at dksX2_fills_2 14 rfl rfl)
theorem dX2_fills_64 : decode cX2_fills 64 = .ok (.ladd, 1) := dk_97 (dk_at dksX2_fills_2 16 rfl rfl)
theorem dX2_fills_65 : decode cX2_fills 65 = .ok (.lastore, 1) := dk_80 (dk_at dksX2_fills_2 17 rfl rfl)
theorem dX2_fills_66 : decode cX2_fills 66 = .ok (.aload 5, 2) := dk_25 5 (dk_at dksX2_fills_2 18 rfl rfl)
theorem dX2_fills_68 : decode cX2_fills 68 = .ok (.getfield 223, 3) := dk_180 0 223 (dk_at dksX2_fills_2 20 rfl rfl)
theorem dX2_fills_71 : decode cX2_fills 71 = .ok (.iconst 1, 1) := dk_4 (dk_at dksX2_fills_2 23 rfl rfl)
theorem dX2_fills_72 : decode cX2_fills 72 = .ok (.dup2, 1) := dk_92 (dk_at dksX2_fills_3 0 rfl rfl)
theorem dX2_fills_73 : decode cX2_fills 73 = .ok (.laload, 1) := dk_47 (dk_at dksX2_fills_3 1 rfl rfl)
theorem dX2_fills_74 : decode cX2_fills 74 = .ok (.lload 10, 2) := dk_22 10 (dk_at dksX2_fills_3 2 rfl rfl)
theorem dX2_fills_76 : decode cX2_fills 76 = .ok (.ladd, 1) := dk_97 (dk_at dksX2_fills_3 4 rfl rfl)
theorem dX2_fills_77 : decode cX2_fills 77 = .ok (.lastore, 1) := dk_80 (dk_at dksX2_fills_3 5 rfl rfl)
theorem dX2_fills_78 : decode cX2_fills 78 = .ok (.lload 6, 2) := dk_22 6 (dk_at dksX2_fills_3 6 rfl rfl)
theorem dX2_fills_80 : decode cX2_fills 80 = .ok (.lload 10, 2) := dk_22 10 (dk_at dksX2_fills_3 8 rfl rfl)
theorem dX2_fills_82 : decode cX2_fills 82 = .ok (.lsub, 1) := dk_101 (dk_at dksX2_fills_3 10 rfl rfl)
theorem dX2_fills_83 : decode cX2_fills 83 = .ok (.lstore 6, 2) := dk_55 6 (dk_at dksX2_fills_3 11 rfl rfl)
theorem dX2_fills_85 : decode cX2_fills 85 = .ok (.lload 6, 2) := dk_22 6 (dk_at dksX2_fills_3 13 rfl rfl)
theorem dX2_fills_87 : decode cX2_fills 87 = .ok (.aload_n 0, 1) := dk_42 (dk_at dksX2_fills_3 15 rfl rfl)
theorem dX2_fills_88 : decode cX2_fills 88 = .ok (.aload_n 1, 1) := dk_43 (dk_at dksX2_fills_3 16 rfl rfl)
theorem dX2_fills_89 : decode cX2_fills 89 = .ok (.aload 9, 2) := dk_25 9 (dk_at dksX2_fills_3 17 rfl rfl)
theorem dX2_fills_91 : decode cX2_fills 91 = .ok (.aload 5, 2) := dk_25 5 (dk_at dksX2_fills_3 19 rfl rfl)
theorem dX2_fills_93 : decode cX2_fills 93 = .ok (.invokevirtual 219, 3) := dk_182 0 219 (dk_at dksX2_fills_3 21 rfl rfl)
theorem dX2_fills_96 : decode cX2_fills 96 = .ok (.invokestatic 197, 3) := dk_184 0 197 (dk_at dksX2_fills_4 0 rfl rfl)
theorem dX2_fills_99 : decode cX2_fills 99 = .ok (.lstore 12, 2) := dk_55 12 (dk_at dksX2_fills_4 3 rfl rfl)
theorem dX2_fills_101 : decode cX2_fills 101 = .ok (.aload 5, 2) := dk_25 5 (dk_at dksX2_fills_4 5 rfl rfl)
theorem dX2_fills_103 : decode cX2_fills 103 = .ok (.getfield 203, 3) := dk_180 0 203 (dk_at dksX2_fills_4 7 rfl rfl)
theorem dX2_fills_106 : decode cX2_fills 106 = .ok (.aload 9, 2) := dk_25 9 (dk_at dksX2_fills_4 10 rfl rfl)
theorem dX2_fills_108 : decode cX2_fills 108 = .ok (.getfield 137, 3) := dk_180 0 137 (dk_at dksX2_fills_4 12 rfl rfl)
theorem dX2_fills_111 : decode cX2_fills 111 = .ok (.dup2, 1) := dk_92 (dk_at dksX2_fills_4 15 rfl rfl)
theorem dX2_fills_112 : decode cX2_fills 112 = .ok (.laload, 1) := dk_47 (dk_at dksX2_fills_4 16 rfl rfl)
theorem dX2_fills_113 : decode cX2_fills 113 = .ok (.lload 12, 2) := dk_22 12 (dk_at dksX2_fills_4 17 rfl rfl)
theorem dX2_fills_115 : decode cX2_fills 115 = .ok (.ladd, 1) := dk_97 (dk_at dksX2_fills_4 19 rfl rfl)
theorem dX2_fills_116 : decode cX2_fills 116 = .ok (.lastore, 1) := dk_80 (dk_at dksX2_fills_4 20 rfl rfl)
theorem dX2_fills_117 : decode cX2_fills 117 = .ok (.lload 6, 2) := dk_22 6 (dk_at dksX2_fills_4 21 rfl rfl)
theorem dX2_fills_119 : decode cX2_fills 119 = .ok (.lload 12, 2) := dk_22 12 (dk_at dksX2_fills_5 0 rfl rfl)
theorem dX2_fills_121 : decode cX2_fills 121 = .ok (.lsub, 1) := dk_101 (dk_at dksX2_fills_5 2 rfl rfl)
theorem dX2_fills_122 : decode cX2_fills 122 = .ok (.lstore 6, 2) := dk_55 6 (dk_at dksX2_fills_5 3 rfl rfl)
theorem dX2_fills_124 : decode cX2_fills 124 = .ok (.iinc 8 1, 3) := dk_132 8 1 (dk_at dksX2_fills_5 5 rfl rfl)
theorem dX2_fills_127 : decode cX2_fills 127 = .ok (.goto (-121), 3) := dk_167 255 135 (dk_at dksX2_fills_5 8 rfl rfl)
theorem dX2_fills_130 : decode cX2_fills 130 = .ok (.lload 6, 2) := dk_22 6 (dk_at dksX2_fills_5 11 rfl rfl)
theorem dX2_fills_132 : decode cX2_fills 132 = .ok (.lreturn, 1) := dk_173 (dk_at dksX2_fills_5 13 rfl rfl)
abbrev cX2_layerAt : ByteArray := prog_14_method_4_code
def yX2_layerAt : MethodName := ⟨RX2, "layerAt", "(II)LTallTowers$Layer;"⟩
def dkwX2_layerAt_0 : List UInt8 := [42, 180, 0, 11, 42, 180, 0, 25, 27, 50, 28, 46, 50, 176]
abbrev dktX2_layerAt_0 : List UInt8 := dkwX2_layerAt_0 ++ []
theorem dksX2_layerAt_0 : cX2_layerAt.data.toList.drop 0 = dktX2_layerAt_0 := by decide +kernel
theorem dX2_layerAt_0 : decode cX2_layerAt 0 = .ok (.aload_n 0, 1) := dk_42 (dk_at dksX2_layerAt_0 0 rfl rfl)
theorem dX2_layerAt_1 : decode cX2_layerAt 1 = .ok (.getfield 11, 3) := dk_180 0 11 (dk_at dksX2_layerAt_0 1 rfl rfl)
theorem dX2_layerAt_4 : decode cX2_layerAt 4 = .ok (.aload_n 0, 1) := dk_42 (dk_at dksX2_layerAt_0 4 rfl rfl)
theorem dX2_layerAt_5 : decode cX2_layerAt 5 = .ok (.getfield 25, 3) := dk_180 0 25 (dk_at dksX2_layerAt_0 5 rfl rfl)
theorem dX2_layerAt_8 : decode cX2_layerAt 8 = .ok (.iload_n 1, 1) := dk_27 (dk_at dksX2_layerAt_0 8 rfl rfl)
theorem dX2_layerAt_9 : decode cX2_layerAt 9 = .ok (.aaload, 1) := dk_50 (dk_at dksX2_layerAt_0 9 rfl rfl)
theorem dX2_layerAt_10 : decode cX2_layerAt 10 = .ok (.iload_n 2, 1) := dk_28 (dk_at dksX2_layerAt_0 10 rfl rfl)
theorem dX2_layerAt_11 : decode cX2_layerAt 11 = .ok (.iaload, 1) := dk_46 (dk_at dksX2_layerAt_0 11 rfl rfl)
theorem dX2_layerAt_12 : decode cX2_layerAt 12 = .ok (.aaload, 1) := dk_50 (dk_at dksX2_layerAt_0 12 rfl rfl)
theorem dX2_layerAt_13 : decode cX2_layerAt 13 = .ok (.areturn, 1) := dk_176 (dk_at dksX2_layerAt_0 13 rfl rfl)
abbrev cX2_mayGoThrough : ByteArray := prog_14_method_16_code
def yX2_mayGoThrough : MethodName := ⟨RX2, "mayGoThrough", "(LTallTowers$Harm;IILTallTowers$Flow;)J"⟩
def dkwX2_mayGoThrough_1 : List UInt8 := [47, 101, 184, 0, 211, 25, 4, 180, 0, 214, 21, 5, 47, 101, 173]
abbrev dktX2_mayGoThrough_1 : List UInt8 := dkwX2_mayGoThrough_1 ++ []
def dkwX2_mayGoThrough_0 : List UInt8 := [42, 180, 0, 25, 28, 50, 29, 46, 54, 5, 9, 42, 28, 29, 182, 0, 204, 133, 43, 180, 0, 208, 21, 5]
abbrev dktX2_mayGoThrough_0 : List UInt8 := dkwX2_mayGoThrough_0 ++ dktX2_mayGoThrough_1
theorem dksX2_mayGoThrough_0 : cX2_mayGoThrough.data.toList.drop 0 = dktX2_mayGoThrough_0 := by decide +kernel
theorem dksX2_mayGoThrough_1 : cX2_mayGoThrough.data.toList.drop 24 = dktX2_mayGoThrough_1 := dk_seg dksX2_mayGoThrough_0 24 rfl rfl
theorem dX2_mayGoThrough_0 : decode cX2_mayGoThrough 0 = .ok (.aload_n 0, 1) := dk_42 (dk_at dksX2_mayGoThrough_0 0 rfl rfl)
theorem dX2_mayGoThrough_1 : decode cX2_mayGoThrough 1 = .ok (.getfield 25, 3) := dk_180 0 25 (dk_at dksX2_mayGoThrough_0 1 rfl rfl)
theorem dX2_mayGoThrough_4 : decode cX2_mayGoThrough 4 = .ok (.iload_n 2, 1) := dk_28 (dk_at dksX2_mayGoThrough_0 4 rfl rfl)
theorem dX2_mayGoThrough_5 : decode cX2_mayGoThrough 5 = .ok (.aaload, 1) := dk_50 (dk_at dksX2_mayGoThrough_0 5 rfl rfl)
theorem dX2_mayGoThrough_6 : decode cX2_mayGoThrough 6 = .ok (.iload_n 3, 1) := dk_29 (dk_at dksX2_mayGoThrough_0 6 rfl rfl)
theorem dX2_mayGoThrough_7 : decode cX2_mayGoThrough 7 = .ok (.iaload, 1) := dk_46 (dk_at dksX2_mayGoThrough_0 7 rfl rfl)
theorem dX2_mayGoThrough_8 : decode cX2_mayGoThrough 8 = .ok (.istore 5, 2) := dk_54 5 (dk_at dksX2_mayGoThrough_0 8 rfl rfl)
theorem dX2_mayGoThrough_10 : decode cX2_mayGoThrough 10 = .ok (.lconst 0, 1) := dk_9 (dk_at dksX2_mayGoThrough_0 10 rfl rfl)
theorem dX2_mayGoThrough_11 : decode cX2_mayGoThrough 11 = .ok (.aload_n 0, 1) := dk_42 (dk_at dksX2_mayGoThrough_0 11 rfl rfl)
theorem dX2_mayGoThrough_12 : decode cX2_mayGoThrough 12 = .ok (.iload_n 2, 1) := dk_28 (dk_at dksX2_mayGoThrough_0 12 rfl rfl)
theorem dX2_mayGoThrough_13 : decode cX2_mayGoThrough 13 = .ok (.iload_n 3, 1) := dk_29 (dk_at dksX2_mayGoThrough_0 13 rfl rfl)
theorem dX2_mayGoThrough_14 : decode cX2_mayGoThrough 14 = .ok (.invokevirtual 204, 3) := dk_182 0 204 (dk_at dksX2_mayGoThrough_0 14 rfl rfl)
theorem dX2_mayGoThrough_17 : decode cX2_mayGoThrough 17 = .ok (.i2l, 1) := dk_133 (dk_at dksX2_mayGoThrough_0 17 rfl rfl)
theorem dX2_mayGoThrough_18 : decode cX2_mayGoThrough 18 = .ok (.aload_n 1, 1) := dk_43 (dk_at dksX2_mayGoThrough_0 18 rfl rfl)
theorem dX2_mayGoThrough_19 : decode cX2_mayGoThrough 19 = .ok (.getfield 208, 3) := dk_180 0 208 (dk_at dksX2_mayGoThrough_0 19 rfl rfl)
theorem dX2_mayGoThrough_22 : decode cX2_mayGoThrough 22 = .ok (.iload 5, 2) := dk_21 5 (dk_at dksX2_mayGoThrough_0 22 rfl rfl)
theorem dX2_mayGoThrough_24 : decode cX2_mayGoThrough 24 = .ok (.laload, 1) := dk_47 (dk_at dksX2_mayGoThrough_1 0 rfl rfl)
theorem dX2_mayGoThrough_25 : decode cX2_mayGoThrough 25 = .ok (.lsub, 1) := dk_101 (dk_at dksX2_mayGoThrough_1 1 rfl rfl)
theorem dX2_mayGoThrough_26 : decode cX2_mayGoThrough 26 = .ok (.invokestatic 211, 3) := dk_184 0 211 (dk_at dksX2_mayGoThrough_1 2 rfl rfl)
theorem dX2_mayGoThrough_29 : decode cX2_mayGoThrough 29 = .ok (.aload 4, 2) := dk_25 4 (dk_at dksX2_mayGoThrough_1 5 rfl rfl)
theorem dX2_mayGoThrough_31 : decode cX2_mayGoThrough 31 = .ok (.getfield 214, 3) := dk_180 0 214 (dk_at dksX2_mayGoThrough_1 7 rfl rfl)
theorem dX2_mayGoThrough_34 : decode cX2_mayGoThrough 34 = .ok (.iload 5, 2) := dk_21 5 (dk_at dksX2_mayGoThrough_1 10 rfl rfl)
theorem dX2_mayGoThrough_36 : decode cX2_mayGoThrough 36 = .ok (.laload, 1) := dk_47 (dk_at dksX2_mayGoThrough_1 12 rfl rfl)
theorem dX2_mayGoThrough_37 : decode cX2_mayGoThrough 37 = .ok (.lsub, 1) := dk_101 (dk_at dksX2_mayGoThrough_1 13 rfl rfl)
theorem dX2_mayGoThrough_38 : decode cX2_mayGoThrough 38 = .ok (.lreturn, 1) := dk_173 (dk_at dksX2_mayGoThrough_1 14 rfl rfl)
abbrev cX2_holeOf : ByteArray := prog_14_method_8_code
def yX2_holeOf : MethodName := ⟨RX2, "holeOf", "(II)I"⟩
def dkwX2_holeOf_1 : List UInt8 := [182, 0, 140, 182, 0, 147, 100, 172]
abbrev dktX2_holeOf_1 : List UInt8 := dkwX2_holeOf_1 ++ []
def dkwX2_holeOf_0 : List UInt8 := [42, 27, 28, 182, 0, 140, 180, 0, 144, 28, 154, 0, 7, 3, 167, 0, 14, 42, 27, 28, 4, 100]
abbrev dktX2_holeOf_0 : List UInt8 := dkwX2_holeOf_0 ++ dktX2_holeOf_1
theorem dksX2_holeOf_0 : cX2_holeOf.data.toList.drop 0 = dktX2_holeOf_0 := by decide +kernel
theorem dksX2_holeOf_1 : cX2_holeOf.data.toList.drop 22 = dktX2_holeOf_1 := dk_seg dksX2_holeOf_0 22 rfl rfl
theorem dX2_holeOf_0 : decode cX2_holeOf 0 = .ok (.aload_n 0, 1) := dk_42 (dk_at dksX2_holeOf_0 0 rfl rfl)
theorem dX2_holeOf_1 : decode cX2_holeOf 1 = .ok (.iload_n 1, 1) := dk_27 (dk_at dksX2_holeOf_0 1 rfl rfl)
theorem dX2_holeOf_2 : decode cX2_holeOf 2 = .ok (.iload_n 2, 1) := dk_28 (dk_at dksX2_holeOf_0 2 rfl rfl)
theorem dX2_holeOf_3 : decode cX2_holeOf 3 = .ok (.invokevirtual 140, 3) := dk_182 0 140 (dk_at dksX2_holeOf_0 3 rfl rfl)
theorem dX2_holeOf_6 : decode cX2_holeOf 6 = .ok (.getfield 144, 3) := dk_180 0 144 (dk_at dksX2_holeOf_0 6 rfl rfl)
theorem dX2_holeOf_9 : decode cX2_holeOf 9 = .ok (.iload_n 2, 1) := dk_28 (dk_at dksX2_holeOf_0 9 rfl rfl)
theorem dX2_holeOf_10 : decode cX2_holeOf 10 = .ok (.ifCond .ne 7, 3) := dk_154 0 7 (dk_at dksX2_holeOf_0 10 rfl rfl)
theorem dX2_holeOf_13 : decode cX2_holeOf 13 = .ok (.iconst 0, 1) := dk_3 (dk_at dksX2_holeOf_0 13 rfl rfl)
theorem dX2_holeOf_14 : decode cX2_holeOf 14 = .ok (.goto 14, 3) := dk_167 0 14 (dk_at dksX2_holeOf_0 14 rfl rfl)
theorem dX2_holeOf_17 : decode cX2_holeOf 17 = .ok (.aload_n 0, 1) := dk_42 (dk_at dksX2_holeOf_0 17 rfl rfl)
theorem dX2_holeOf_18 : decode cX2_holeOf 18 = .ok (.iload_n 1, 1) := dk_27 (dk_at dksX2_holeOf_0 18 rfl rfl)
theorem dX2_holeOf_19 : decode cX2_holeOf 19 = .ok (.iload_n 2, 1) := dk_28 (dk_at dksX2_holeOf_0 19 rfl rfl)
theorem dX2_holeOf_20 : decode cX2_holeOf 20 = .ok (.iconst 1, 1) := dk_4 (dk_at dksX2_holeOf_0 20 rfl rfl)
theorem dX2_holeOf_21 : decode cX2_holeOf 21 = .ok (.isub, 1) := dk_100 (dk_at dksX2_holeOf_0 21 rfl rfl)
theorem dX2_holeOf_22 : decode cX2_holeOf 22 = .ok (.invokevirtual 140, 3) := dk_182 0 140 (dk_at dksX2_holeOf_1 0 rfl rfl)
theorem dX2_holeOf_25 : decode cX2_holeOf 25 = .ok (.invokevirtual 147, 3) := dk_182 0 147 (dk_at dksX2_holeOf_1 3 rfl rfl)
theorem dX2_holeOf_28 : decode cX2_holeOf 28 = .ok (.isub, 1) := dk_100 (dk_at dksX2_holeOf_1 6 rfl rfl)
theorem dX2_holeOf_29 : decode cX2_holeOf 29 = .ok (.ireturn, 1) := dk_172 (dk_at dksX2_holeOf_1 7 rfl rfl)
abbrev cX2_can : ByteArray := prog_14_method_15_code
def yX2_can : MethodName := ⟨RX2, "can", "(LTallTowers$Harm;LTallTowers$Layer;LTallTowers$Flow;)J"⟩
def dkwX2_can_1 : List UInt8 := [180, 0, 203, 44, 180, 0, 137, 47, 101, 173]
abbrev dktX2_can_1 : List UInt8 := dkwX2_can_1 ++ []
def dkwX2_can_0 : List UInt8 := [44, 180, 0, 187, 133, 43, 180, 0, 190, 44, 180, 0, 137, 47, 101, 44, 182, 0, 193, 184, 0, 197, 45]
abbrev dktX2_can_0 : List UInt8 := dkwX2_can_0 ++ dktX2_can_1
theorem dksX2_can_0 : cX2_can.data.toList.drop 0 = dktX2_can_0 := by decide +kernel
theorem dksX2_can_1 : cX2_can.data.toList.drop 23 = dktX2_can_1 := dk_seg dksX2_can_0 23 rfl rfl
theorem dX2_can_0 : decode cX2_can 0 = .ok (.aload_n 2, 1) := dk_44 (dk_at dksX2_can_0 0 rfl rfl)
theorem dX2_can_1 : decode cX2_can 1 = .ok (.getfield 187, 3) := dk_180 0 187 (dk_at dksX2_can_0 1 rfl rfl)
theorem dX2_can_4 : decode cX2_can 4 = .ok (.i2l, 1) := dk_133 (dk_at dksX2_can_0 4 rfl rfl)
theorem dX2_can_5 : decode cX2_can 5 = .ok (.aload_n 1, 1) := dk_43 (dk_at dksX2_can_0 5 rfl rfl)
theorem dX2_can_6 : decode cX2_can 6 = .ok (.getfield 190, 3) := dk_180 0 190 (dk_at dksX2_can_0 6 rfl rfl)
theorem dX2_can_9 : decode cX2_can 9 = .ok (.aload_n 2, 1) := dk_44 (dk_at dksX2_can_0 9 rfl rfl)
theorem dX2_can_10 : decode cX2_can 10 = .ok (.getfield 137, 3) := dk_180 0 137 (dk_at dksX2_can_0 10 rfl rfl)
theorem dX2_can_13 : decode cX2_can 13 = .ok (.laload, 1) := dk_47 (dk_at dksX2_can_0 13 rfl rfl)
theorem dX2_can_14 : decode cX2_can 14 = .ok (.lsub, 1) := dk_101 (dk_at dksX2_can_0 14 rfl rfl)
theorem dX2_can_15 : decode cX2_can 15 = .ok (.aload_n 2, 1) := dk_44 (dk_at dksX2_can_0 15 rfl rfl)
theorem dX2_can_16 : decode cX2_can 16 = .ok (.invokevirtual 193, 3) := dk_182 0 193 (dk_at dksX2_can_0 16 rfl rfl)
theorem dX2_can_19 : decode cX2_can 19 = .ok (.invokestatic 197, 3) := dk_184 0 197 (dk_at dksX2_can_0 19 rfl rfl)
theorem dX2_can_22 : decode cX2_can 22 = .ok (.aload_n 3, 1) := dk_45 (dk_at dksX2_can_0 22 rfl rfl)
theorem dX2_can_23 : decode cX2_can 23 = .ok (.getfield 203, 3) := dk_180 0 203 (dk_at dksX2_can_1 0 rfl rfl)
theorem dX2_can_26 : decode cX2_can 26 = .ok (.aload_n 2, 1) := dk_44 (dk_at dksX2_can_1 3 rfl rfl)
theorem dX2_can_27 : decode cX2_can 27 = .ok (.getfield 137, 3) := dk_180 0 137 (dk_at dksX2_can_1 4 rfl rfl)
theorem dX2_can_30 : decode cX2_can 30 = .ok (.laload, 1) := dk_47 (dk_at dksX2_can_1 7 rfl rfl)
theorem dX2_can_31 : decode cX2_can 31 = .ok (.lsub, 1) := dk_101 (dk_at dksX2_can_1 8 rfl rfl)
theorem dX2_can_32 : decode cX2_can 32 = .ok (.lreturn, 1) := dk_173 (dk_at dksX2_can_1 9 rfl rfl)
abbrev cX2_bySizes : ByteArray := prog_14_method_26_code
def yX2_bySizes : MethodName := ⟨RX2, "bySizes", "(LTallTowers$Harm;JLTallTowers$Flow;)V"⟩
def dkwX2_bySizes_0 : List UInt8 := [42, 43, 182, 1, 0, 42, 43, 32, 25, 4, 182, 0, 252, 177]
abbrev dktX2_bySizes_0 : List UInt8 := dkwX2_bySizes_0 ++ []
theorem dksX2_bySizes_0 : cX2_bySizes.data.toList.drop 0 = dktX2_bySizes_0 := by decide +kernel
theorem dX2_bySizes_0 : decode cX2_bySizes 0 = .ok (.aload_n 0, 1) := dk_42 (dk_at dksX2_bySizes_0 0 rfl rfl)
theorem dX2_bySizes_1 : decode cX2_bySizes 1 = .ok (.aload_n 1, 1) := dk_43 (dk_at dksX2_bySizes_0 1 rfl rfl)
theorem dX2_bySizes_2 : decode cX2_bySizes 2 = .ok (.invokevirtual 256, 3) := dk_182 1 0 (dk_at dksX2_bySizes_0 2 rfl rfl)
theorem dX2_bySizes_5 : decode cX2_bySizes 5 = .ok (.aload_n 0, 1) := dk_42 (dk_at dksX2_bySizes_0 5 rfl rfl)
theorem dX2_bySizes_6 : decode cX2_bySizes 6 = .ok (.aload_n 1, 1) := dk_43 (dk_at dksX2_bySizes_0 6 rfl rfl)
theorem dX2_bySizes_7 : decode cX2_bySizes 7 = .ok (.lload_n 2, 1) := dk_32 (dk_at dksX2_bySizes_0 7 rfl rfl)
theorem dX2_bySizes_8 : decode cX2_bySizes 8 = .ok (.aload 4, 2) := dk_25 4 (dk_at dksX2_bySizes_0 8 rfl rfl)
theorem dX2_bySizes_10 : decode cX2_bySizes 10 = .ok (.invokevirtual 252, 3) := dk_182 0 252 (dk_at dksX2_bySizes_0 10 rfl rfl)
theorem dX2_bySizes_13 : decode cX2_bySizes 13 = .ok (.return_, 1) := dk_177 (dk_at dksX2_bySizes_0 13 rfl rfl)
abbrev cX2_weighsBySizes : ByteArray := prog_14_method_24_code
def yX2_weighsBySizes : MethodName := ⟨RX2, "weighsBySizes", "(LTallTowers$Harm;)V"⟩
def dkwX2_weighsBySizes_5 : List UInt8 := [132, 8, 1, 167, 255, 205, 177]
abbrev dktX2_weighsBySizes_5 : List UInt8 := dkwX2_weighsBySizes_5 ++ []
def dkwX2_weighsBySizes_4 : List UInt8 := [167, 0, 23, 42, 21, 8, 182, 0, 184, 153, 0, 8, 22, 6, 167, 0, 9, 42, 21, 8, 182, 0, 244, 80]
abbrev dktX2_weighsBySizes_4 : List UInt8 := dkwX2_weighsBySizes_4 ++ dktX2_weighsBySizes_5
def dkwX2_weighsBySizes_3 : List UInt8 := [21, 8, 16, 12, 162, 0, 50, 42, 180, 0, 39, 21, 8, 42, 43, 21, 8, 182, 0, 237, 154, 0, 7, 9]
abbrev dktX2_weighsBySizes_3 : List UInt8 := dkwX2_weighsBySizes_3 ++ dktX2_weighsBySizes_4
def dkwX2_weighsBySizes_2 : List UInt8 := [167, 255, 218, 22, 4, 9, 148, 154, 0, 7, 10, 167, 0, 7, 32, 22, 4, 109, 55, 6, 3, 54, 8]
abbrev dktX2_weighsBySizes_2 : List UInt8 := dkwX2_weighsBySizes_2 ++ dktX2_weighsBySizes_3
def dkwX2_weighsBySizes_1 : List UInt8 := [154, 0, 6, 167, 0, 18, 32, 42, 21, 6, 182, 0, 244, 97, 65, 22, 4, 10, 97, 55, 4, 132, 6, 1]
abbrev dktX2_weighsBySizes_1 : List UInt8 := dkwX2_weighsBySizes_1 ++ dktX2_weighsBySizes_2
def dkwX2_weighsBySizes_0 : List UInt8 := [9, 65, 9, 55, 4, 3, 54, 6, 21, 6, 16, 12, 162, 0, 37, 42, 43, 21, 6, 182, 0, 241]
abbrev dktX2_weighsBySizes_0 : List UInt8 := dkwX2_weighsBySizes_0 ++ dktX2_weighsBySizes_1
theorem dksX2_weighsBySizes_0 : cX2_weighsBySizes.data.toList.drop 0 = dktX2_weighsBySizes_0 := by decide +kernel
theorem dksX2_weighsBySizes_1 : cX2_weighsBySizes.data.toList.drop 22 = dktX2_weighsBySizes_1 := dk_seg dksX2_weighsBySizes_0 22 rfl rfl
theorem dksX2_weighsBySizes_2 : cX2_weighsBySizes.data.toList.drop 46 = dktX2_weighsBySizes_2 := dk_seg dksX2_weighsBySizes_1 24 rfl rfl
theorem dksX2_weighsBySizes_3 : cX2_weighsBySizes.data.toList.drop 69 = dktX2_weighsBySizes_3 := dk_seg dksX2_weighsBySizes_2 23 rfl rfl
theorem dksX2_weighsBySizes_4 : cX2_weighsBySizes.data.toList.drop 93 = dktX2_weighsBySizes_4 := dk_seg dksX2_weighsBySizes_3 24 rfl rfl
theorem dksX2_weighsBySizes_5 : cX2_weighsBySizes.data.toList.drop 117 = dktX2_weighsBySizes_5 := dk_seg dksX2_weighsBySizes_4 24 rfl rfl
theorem dX2_weighsBySizes_0 : decode cX2_weighsBySizes 0 = .ok (.lconst 0, 1) := dk_9 (dk_at dksX2_weighsBySizes_0 0 rfl rfl)
theorem dX2_weighsBySizes_1 : decode cX2_weighsBySizes 1 = .ok (.lstore_n 2, 1) := dk_65 (dk_at dksX2_weighsBySizes_0 1 rfl rfl)
theorem dX2_weighsBySizes_2 : decode cX2_weighsBySizes 2 = .ok (.lconst 0, 1) := dk_9 (dk_at dksX2_weighsBySizes_0 2 rfl rfl)
theorem dX2_weighsBySizes_3 : decode cX2_weighsBySizes 3 = .ok (.lstore 4, 2) := dk_55 4 (dk_at dksX2_weighsBySizes_0 3 rfl rfl)
theorem dX2_weighsBySizes_5 : decode cX2_weighsBySizes 5 = .ok (.iconst 0, 1) := dk_3 (dk_at dksX2_weighsBySizes_0 5 rfl rfl)
theorem dX2_weighsBySizes_6 : decode cX2_weighsBySizes 6 = .ok (.istore 6, 2) := dk_54 6 (dk_at dksX2_weighsBySizes_0 6 rfl rfl)
theorem dX2_weighsBySizes_8 : decode cX2_weighsBySizes 8 = .ok (.iload 6, 2) := dk_21 6 (dk_at dksX2_weighsBySizes_0 8 rfl rfl)
theorem dX2_weighsBySizes_10 : decode cX2_weighsBySizes 10 = .ok (.bipush 12, 2) := dk_16 12 (dk_at dksX2_weighsBySizes_0 10 rfl rfl)
theorem dX2_weighsBySizes_12 : decode cX2_weighsBySizes 12 = .ok (.if_icmp .ge 37, 3) := dk_162 0 37 (dk_at dksX2_weighsBySizes_0 12 rfl rfl)
theorem dX2_weighsBySizes_15 : decode cX2_weighsBySizes 15 = .ok (.aload_n 0, 1) := dk_42 (dk_at dksX2_weighsBySizes_0 15 rfl rfl)
theorem dX2_weighsBySizes_16 : decode cX2_weighsBySizes 16 = .ok (.aload_n 1, 1) := dk_43 (dk_at dksX2_weighsBySizes_0 16 rfl rfl)
theorem dX2_weighsBySizes_17 : decode cX2_weighsBySizes 17 = .ok (.iload 6, 2) := dk_21 6 (dk_at dksX2_weighsBySizes_0 17 rfl rfl)
theorem dX2_weighsBySizes_19 : decode cX2_weighsBySizes 19 = .ok (.invokevirtual 241, 3) := dk_182 0 241 (dk_at dksX2_weighsBySizes_0 19 rfl rfl)
theorem dX2_weighsBySizes_22 : decode cX2_weighsBySizes 22 = .ok (.ifCond .ne 6, 3) := dk_154 0 6 (dk_at dksX2_weighsBySizes_1 0 rfl rfl)
theorem dX2_weighsBySizes_25 : decode cX2_weighsBySizes 25 = .ok (.goto 18, 3) := dk_167 0 18 (dk_at dksX2_weighsBySizes_1 3 rfl rfl)
theorem dX2_weighsBySizes_28 : decode cX2_weighsBySizes 28 = .ok (.lload_n 2, 1) := dk_32 (dk_at dksX2_weighsBySizes_1 6 rfl rfl)
theorem dX2_weighsBySizes_29 : decode cX2_weighsBySizes 29 = .ok (.aload_n 0, 1) := dk_42 (dk_at dksX2_weighsBySizes_1 7 rfl rfl)
theorem dX2_weighsBySizes_30 : decode cX2_weighsBySizes 30 = .ok (.iload 6, 2) := dk_21 6 (dk_at dksX2_weighsBySizes_1 8 rfl rfl)
theorem dX2_weighsBySizes_32 : decode cX2_weighsBySizes 32 = .ok (.invokevirtual 244, 3) := dk_182 0 244 (dk_at dksX2_weighsBySizes_1 10 rfl rfl)
theorem dX2_weighsBySizes_35 : decode cX2_weighsBySizes 35 = .ok (.ladd, 1) := dk_97 (dk_at dksX2_weighsBySizes_1 13 rfl rfl)
theorem dX2_weighsBySizes_36 : decode cX2_weighsBySizes 36 = .ok (.lstore_n 2, 1) := dk_65 (dk_at dksX2_weighsBySizes_1 14 rfl rfl)
theorem dX2_weighsBySizes_37 : decode cX2_weighsBySizes 37 = .ok (.lload 4, 2) := dk_22 4 (dk_at dksX2_weighsBySizes_1 15 rfl rfl)
theorem dX2_weighsBySizes_39 : decode cX2_weighsBySizes 39 = .ok (.lconst 1, 1) := dk_10 (dk_at dksX2_weighsBySizes_1 17 rfl rfl)
theorem dX2_weighsBySizes_40 : decode cX2_weighsBySizes 40 = .ok (.ladd, 1) := dk_97 (dk_at dksX2_weighsBySizes_1 18 rfl rfl)
theorem dX2_weighsBySizes_41 : decode cX2_weighsBySizes 41 = .ok (.lstore 4, 2) := dk_55 4 (dk_at dksX2_weighsBySizes_1 19 rfl rfl)
theorem dX2_weighsBySizes_43 : decode cX2_weighsBySizes 43 = .ok (.iinc 6 1, 3) := dk_132 6 1 (dk_at dksX2_weighsBySizes_1 21 rfl rfl)
theorem dX2_weighsBySizes_46 : decode cX2_weighsBySizes 46 = .ok (.goto (-38), 3) := dk_167 255 218 (dk_at dksX2_weighsBySizes_2 0 rfl rfl)
theorem dX2_weighsBySizes_49 : decode cX2_weighsBySizes 49 = .ok (.lload 4, 2) := dk_22 4 (dk_at dksX2_weighsBySizes_2 3 rfl rfl)
theorem dX2_weighsBySizes_51 : decode cX2_weighsBySizes 51 = .ok (.lconst 0, 1) := dk_9 (dk_at dksX2_weighsBySizes_2 5 rfl rfl)
theorem dX2_weighsBySizes_52 : decode cX2_weighsBySizes 52 = .ok (.lcmp, 1) := dk_148 (dk_at dksX2_weighsBySizes_2 6 rfl rfl)
theorem dX2_weighsBySizes_53 : decode cX2_weighsBySizes 53 = .ok (.ifCond .ne 7, 3) := dk_154 0 7 (dk_at dksX2_weighsBySizes_2 7 rfl rfl)
theorem dX2_weighsBySizes_56 : decode cX2_weighsBySizes 56 = .ok (.lconst 1, 1) := dk_10 (dk_at dksX2_weighsBySizes_2 10 rfl rfl)
theorem dX2_weighsBySizes_57 : decode cX2_weighsBySizes 57 = .ok (.goto 7, 3) := dk_167 0 7 (dk_at dksX2_weighsBySizes_2 11 rfl rfl)
theorem dX2_weighsBySizes_60 : decode cX2_weighsBySizes 60 = .ok (.lload_n 2, 1) := dk_32 (dk_at dksX2_weighsBySizes_2 14 rfl rfl)
theorem dX2_weighsBySizes_61 : decode cX2_weighsBySizes 61 = .ok (.lload 4, 2) := dk_22 4 (dk_at dksX2_weighsBySizes_2 15 rfl rfl)
theorem dX2_weighsBySizes_63 : decode cX2_weighsBySizes 63 = .ok (.ldiv, 1) := dk_109 (dk_at dksX2_weighsBySizes_2 17 rfl rfl)
theorem dX2_weighsBySizes_64 : decode cX2_weighsBySizes 64 = .ok (.lstore 6, 2) := dk_55 6 (dk_at dksX2_weighsBySizes_2 18 rfl rfl)
theorem dX2_weighsBySizes_66 : decode cX2_weighsBySizes 66 = .ok (.iconst 0, 1) := dk_3 (dk_at dksX2_weighsBySizes_2 20 rfl rfl)
theorem dX2_weighsBySizes_67 : decode cX2_weighsBySizes 67 = .ok (.istore 8, 2) := dk_54 8 (dk_at dksX2_weighsBySizes_2 21 rfl rfl)
theorem dX2_weighsBySizes_69 : decode cX2_weighsBySizes 69 = .ok (.iload 8, 2) := dk_21 8 (dk_at dksX2_weighsBySizes_3 0 rfl rfl)
theorem dX2_weighsBySizes_71 : decode cX2_weighsBySizes 71 = .ok (.bipush 12, 2) := dk_16 12 (dk_at dksX2_weighsBySizes_3 2 rfl rfl)
theorem dX2_weighsBySizes_73 : decode cX2_weighsBySizes 73 = .ok (.if_icmp .ge 50, 3) := dk_162 0 50 (dk_at dksX2_weighsBySizes_3 4 rfl rfl)
theorem dX2_weighsBySizes_76 : decode cX2_weighsBySizes 76 = .ok (.aload_n 0, 1) := dk_42 (dk_at dksX2_weighsBySizes_3 7 rfl rfl)
theorem dX2_weighsBySizes_77 : decode cX2_weighsBySizes 77 = .ok (.getfield 39, 3) := dk_180 0 39 (dk_at dksX2_weighsBySizes_3 8 rfl rfl)
theorem dX2_weighsBySizes_80 : decode cX2_weighsBySizes 80 = .ok (.iload 8, 2) := dk_21 8 (dk_at dksX2_weighsBySizes_3 11 rfl rfl)
theorem dX2_weighsBySizes_82 : decode cX2_weighsBySizes 82 = .ok (.aload_n 0, 1) := dk_42 (dk_at dksX2_weighsBySizes_3 13 rfl rfl)
theorem dX2_weighsBySizes_83 : decode cX2_weighsBySizes 83 = .ok (.aload_n 1, 1) := dk_43 (dk_at dksX2_weighsBySizes_3 14 rfl rfl)
theorem dX2_weighsBySizes_84 : decode cX2_weighsBySizes 84 = .ok (.iload 8, 2) := dk_21 8 (dk_at dksX2_weighsBySizes_3 15 rfl rfl)
theorem dX2_weighsBySizes_86 : decode cX2_weighsBySizes 86 = .ok (.invokevirtual 237, 3) := dk_182 0 237 (dk_at dksX2_weighsBySizes_3 17 rfl rfl)
theorem dX2_weighsBySizes_89 : decode cX2_weighsBySizes 89 = .ok (.ifCond .ne 7, 3) := dk_154 0 7 (dk_at dksX2_weighsBySizes_3 20 rfl rfl)
theorem dX2_weighsBySizes_92 : decode cX2_weighsBySizes 92 = .ok (.lconst 0, 1) := dk_9 (dk_at dksX2_weighsBySizes_3 23 rfl rfl)
theorem dX2_weighsBySizes_93 : decode cX2_weighsBySizes 93 = .ok (.goto 23, 3) := dk_167 0 23 (dk_at dksX2_weighsBySizes_4 0 rfl rfl)
theorem dX2_weighsBySizes_96 : decode cX2_weighsBySizes 96 = .ok (.aload_n 0, 1) := dk_42 (dk_at dksX2_weighsBySizes_4 3 rfl rfl)
theorem dX2_weighsBySizes_97 : decode cX2_weighsBySizes 97 = .ok (.iload 8, 2) := dk_21 8 (dk_at dksX2_weighsBySizes_4 4 rfl rfl)
theorem dX2_weighsBySizes_99 : decode cX2_weighsBySizes 99 = .ok (.invokevirtual 184, 3) := dk_182 0 184 (dk_at dksX2_weighsBySizes_4 6 rfl rfl)
theorem dX2_weighsBySizes_102 : decode cX2_weighsBySizes 102 = .ok (.ifCond .eq 8, 3) := dk_153 0 8 (dk_at dksX2_weighsBySizes_4 9 rfl rfl)
theorem dX2_weighsBySizes_105 : decode cX2_weighsBySizes 105 = .ok (.lload 6, 2) := dk_22 6 (dk_at dksX2_weighsBySizes_4 12 rfl rfl)
theorem dX2_weighsBySizes_107 : decode cX2_weighsBySizes 107 = .ok (.goto 9, 3) := dk_167 0 9 (dk_at dksX2_weighsBySizes_4 14 rfl rfl)
theorem dX2_weighsBySizes_110 : decode cX2_weighsBySizes 110 = .ok (.aload_n 0, 1) := dk_42 (dk_at dksX2_weighsBySizes_4 17 rfl rfl)
theorem dX2_weighsBySizes_111 : decode cX2_weighsBySizes 111 = .ok (.iload 8, 2) := dk_21 8 (dk_at dksX2_weighsBySizes_4 18 rfl rfl)
theorem dX2_weighsBySizes_113 : decode cX2_weighsBySizes 113 = .ok (.invokevirtual 244, 3) := dk_182 0 244 (dk_at dksX2_weighsBySizes_4 20 rfl rfl)
theorem dX2_weighsBySizes_116 : decode cX2_weighsBySizes 116 = .ok (.lastore, 1) := dk_80 (dk_at dksX2_weighsBySizes_4 23 rfl rfl)
theorem dX2_weighsBySizes_117 : decode cX2_weighsBySizes 117 = .ok (.iinc 8 1, 3) := dk_132 8 1 (dk_at dksX2_weighsBySizes_5 0 rfl rfl)
theorem dX2_weighsBySizes_120 : decode cX2_weighsBySizes 120 = .ok (.goto (-51), 3) := dk_167 255 205 (dk_at dksX2_weighsBySizes_5 3 rfl rfl)
theorem dX2_weighsBySizes_123 : decode cX2_weighsBySizes 123 = .ok (.return_, 1) := dk_177 (dk_at dksX2_weighsBySizes_5 6 rfl rfl)
abbrev cX2_hasTower : ByteArray := prog_14_method_21_code
def yX2_hasTower : MethodName := ⟨RX2, "hasTower", "(LTallTowers$Harm;I)Z"⟩
def dkwX2_hasTower_0 : List UInt8 := [42, 43, 28, 182, 0, 237, 153, 0, 15, 42, 28, 182, 0, 184, 154, 0, 7, 4, 167, 0, 4, 3, 172]
abbrev dktX2_hasTower_0 : List UInt8 := dkwX2_hasTower_0 ++ []
theorem dksX2_hasTower_0 : cX2_hasTower.data.toList.drop 0 = dktX2_hasTower_0 := by decide +kernel
theorem dX2_hasTower_0 : decode cX2_hasTower 0 = .ok (.aload_n 0, 1) := dk_42 (dk_at dksX2_hasTower_0 0 rfl rfl)
theorem dX2_hasTower_1 : decode cX2_hasTower 1 = .ok (.aload_n 1, 1) := dk_43 (dk_at dksX2_hasTower_0 1 rfl rfl)
theorem dX2_hasTower_2 : decode cX2_hasTower 2 = .ok (.iload_n 2, 1) := dk_28 (dk_at dksX2_hasTower_0 2 rfl rfl)
theorem dX2_hasTower_3 : decode cX2_hasTower 3 = .ok (.invokevirtual 237, 3) := dk_182 0 237 (dk_at dksX2_hasTower_0 3 rfl rfl)
theorem dX2_hasTower_6 : decode cX2_hasTower 6 = .ok (.ifCond .eq 15, 3) := dk_153 0 15 (dk_at dksX2_hasTower_0 6 rfl rfl)
theorem dX2_hasTower_9 : decode cX2_hasTower 9 = .ok (.aload_n 0, 1) := dk_42 (dk_at dksX2_hasTower_0 9 rfl rfl)
theorem dX2_hasTower_10 : decode cX2_hasTower 10 = .ok (.iload_n 2, 1) := dk_28 (dk_at dksX2_hasTower_0 10 rfl rfl)
theorem dX2_hasTower_11 : decode cX2_hasTower 11 = .ok (.invokevirtual 184, 3) := dk_182 0 184 (dk_at dksX2_hasTower_0 11 rfl rfl)
theorem dX2_hasTower_14 : decode cX2_hasTower 14 = .ok (.ifCond .ne 7, 3) := dk_154 0 7 (dk_at dksX2_hasTower_0 14 rfl rfl)
theorem dX2_hasTower_17 : decode cX2_hasTower 17 = .ok (.iconst 1, 1) := dk_4 (dk_at dksX2_hasTower_0 17 rfl rfl)
theorem dX2_hasTower_18 : decode cX2_hasTower 18 = .ok (.goto 4, 3) := dk_167 0 4 (dk_at dksX2_hasTower_0 18 rfl rfl)
theorem dX2_hasTower_21 : decode cX2_hasTower 21 = .ok (.iconst 0, 1) := dk_3 (dk_at dksX2_hasTower_0 21 rfl rfl)
theorem dX2_hasTower_22 : decode cX2_hasTower 22 = .ok (.ireturn, 1) := dk_172 (dk_at dksX2_hasTower_0 22 rfl rfl)
abbrev cX2_sizesOf : ByteArray := prog_14_method_23_code
def yX2_sizesOf : MethodName := ⟨RX2, "sizesOf", "(I)J"⟩
def dkwX2_sizesOf_1 : List UInt8 := [180, 0, 187, 133, 97, 65, 132, 4, 1, 167, 255, 228, 32, 173]
abbrev dktX2_sizesOf_1 : List UInt8 := dkwX2_sizesOf_1 ++ []
def dkwX2_sizesOf_0 : List UInt8 := [9, 65, 3, 54, 4, 21, 4, 42, 180, 0, 28, 27, 46, 162, 0, 23, 32, 42, 27, 21, 4, 182, 0, 140]
abbrev dktX2_sizesOf_0 : List UInt8 := dkwX2_sizesOf_0 ++ dktX2_sizesOf_1
theorem dksX2_sizesOf_0 : cX2_sizesOf.data.toList.drop 0 = dktX2_sizesOf_0 := by decide +kernel
theorem dksX2_sizesOf_1 : cX2_sizesOf.data.toList.drop 24 = dktX2_sizesOf_1 := dk_seg dksX2_sizesOf_0 24 rfl rfl
theorem dX2_sizesOf_0 : decode cX2_sizesOf 0 = .ok (.lconst 0, 1) := dk_9 (dk_at dksX2_sizesOf_0 0 rfl rfl)
theorem dX2_sizesOf_1 : decode cX2_sizesOf 1 = .ok (.lstore_n 2, 1) := dk_65 (dk_at dksX2_sizesOf_0 1 rfl rfl)
theorem dX2_sizesOf_2 : decode cX2_sizesOf 2 = .ok (.iconst 0, 1) := dk_3 (dk_at dksX2_sizesOf_0 2 rfl rfl)
theorem dX2_sizesOf_3 : decode cX2_sizesOf 3 = .ok (.istore 4, 2) := dk_54 4 (dk_at dksX2_sizesOf_0 3 rfl rfl)
theorem dX2_sizesOf_5 : decode cX2_sizesOf 5 = .ok (.iload 4, 2) := dk_21 4 (dk_at dksX2_sizesOf_0 5 rfl rfl)
theorem dX2_sizesOf_7 : decode cX2_sizesOf 7 = .ok (.aload_n 0, 1) := dk_42 (dk_at dksX2_sizesOf_0 7 rfl rfl)
theorem dX2_sizesOf_8 : decode cX2_sizesOf 8 = .ok (.getfield 28, 3) := dk_180 0 28 (dk_at dksX2_sizesOf_0 8 rfl rfl)
theorem dX2_sizesOf_11 : decode cX2_sizesOf 11 = .ok (.iload_n 1, 1) := dk_27 (dk_at dksX2_sizesOf_0 11 rfl rfl)
theorem dX2_sizesOf_12 : decode cX2_sizesOf 12 = .ok (.iaload, 1) := dk_46 (dk_at dksX2_sizesOf_0 12 rfl rfl)
theorem dX2_sizesOf_13 : decode cX2_sizesOf 13 = .ok (.if_icmp .ge 23, 3) := dk_162 0 23 (dk_at dksX2_sizesOf_0 13 rfl rfl)
theorem dX2_sizesOf_16 : decode cX2_sizesOf 16 = .ok (.lload_n 2, 1) := dk_32 (dk_at dksX2_sizesOf_0 16 rfl rfl)
theorem dX2_sizesOf_17 : decode cX2_sizesOf 17 = .ok (.aload_n 0, 1) := dk_42 (dk_at dksX2_sizesOf_0 17 rfl rfl)
theorem dX2_sizesOf_18 : decode cX2_sizesOf 18 = .ok (.iload_n 1, 1) := dk_27 (dk_at dksX2_sizesOf_0 18 rfl rfl)
theorem dX2_sizesOf_19 : decode cX2_sizesOf 19 = .ok (.iload 4, 2) := dk_21 4 (dk_at dksX2_sizesOf_0 19 rfl rfl)
theorem dX2_sizesOf_21 : decode cX2_sizesOf 21 = .ok (.invokevirtual 140, 3) := dk_182 0 140 (dk_at dksX2_sizesOf_0 21 rfl rfl)
theorem dX2_sizesOf_24 : decode cX2_sizesOf 24 = .ok (.getfield 187, 3) := dk_180 0 187 (dk_at dksX2_sizesOf_1 0 rfl rfl)
theorem dX2_sizesOf_27 : decode cX2_sizesOf 27 = .ok (.i2l, 1) := dk_133 (dk_at dksX2_sizesOf_1 3 rfl rfl)
theorem dX2_sizesOf_28 : decode cX2_sizesOf 28 = .ok (.ladd, 1) := dk_97 (dk_at dksX2_sizesOf_1 4 rfl rfl)
theorem dX2_sizesOf_29 : decode cX2_sizesOf 29 = .ok (.lstore_n 2, 1) := dk_65 (dk_at dksX2_sizesOf_1 5 rfl rfl)
theorem dX2_sizesOf_30 : decode cX2_sizesOf 30 = .ok (.iinc 4 1, 3) := dk_132 4 1 (dk_at dksX2_sizesOf_1 6 rfl rfl)
theorem dX2_sizesOf_33 : decode cX2_sizesOf 33 = .ok (.goto (-28), 3) := dk_167 255 228 (dk_at dksX2_sizesOf_1 9 rfl rfl)
theorem dX2_sizesOf_36 : decode cX2_sizesOf 36 = .ok (.lload_n 2, 1) := dk_32 (dk_at dksX2_sizesOf_1 12 rfl rfl)
theorem dX2_sizesOf_37 : decode cX2_sizesOf 37 = .ok (.lreturn, 1) := dk_173 (dk_at dksX2_sizesOf_1 13 rfl rfl)
abbrev cX2_toTheFull : ByteArray := prog_14_method_28_code
def yX2_toTheFull : MethodName := ⟨RX2, "toTheFull", "(LTallTowers$Harm;JLTallTowers$Flow;)V"⟩
def dkwX2_toTheFull_0 : List UInt8 := [42, 43, 32, 25, 4, 182, 1, 23, 153, 0, 11, 42, 43, 32, 25, 4, 182, 1, 27, 177]
abbrev dktX2_toTheFull_0 : List UInt8 := dkwX2_toTheFull_0 ++ []
theorem dksX2_toTheFull_0 : cX2_toTheFull.data.toList.drop 0 = dktX2_toTheFull_0 := by decide +kernel
theorem dX2_toTheFull_0 : decode cX2_toTheFull 0 = .ok (.aload_n 0, 1) := dk_42 (dk_at dksX2_toTheFull_0 0 rfl rfl)
theorem dX2_toTheFull_1 : decode cX2_toTheFull 1 = .ok (.aload_n 1, 1) := dk_43 (dk_at dksX2_toTheFull_0 1 rfl rfl)
theorem dX2_toTheFull_2 : decode cX2_toTheFull 2 = .ok (.lload_n 2, 1) := dk_32 (dk_at dksX2_toTheFull_0 2 rfl rfl)
theorem dX2_toTheFull_3 : decode cX2_toTheFull 3 = .ok (.aload 4, 2) := dk_25 4 (dk_at dksX2_toTheFull_0 3 rfl rfl)
theorem dX2_toTheFull_5 : decode cX2_toTheFull 5 = .ok (.invokevirtual 279, 3) := dk_182 1 23 (dk_at dksX2_toTheFull_0 5 rfl rfl)
theorem dX2_toTheFull_8 : decode cX2_toTheFull 8 = .ok (.ifCond .eq 11, 3) := dk_153 0 11 (dk_at dksX2_toTheFull_0 8 rfl rfl)
theorem dX2_toTheFull_11 : decode cX2_toTheFull 11 = .ok (.aload_n 0, 1) := dk_42 (dk_at dksX2_toTheFull_0 11 rfl rfl)
theorem dX2_toTheFull_12 : decode cX2_toTheFull 12 = .ok (.aload_n 1, 1) := dk_43 (dk_at dksX2_toTheFull_0 12 rfl rfl)
theorem dX2_toTheFull_13 : decode cX2_toTheFull 13 = .ok (.lload_n 2, 1) := dk_32 (dk_at dksX2_toTheFull_0 13 rfl rfl)
theorem dX2_toTheFull_14 : decode cX2_toTheFull 14 = .ok (.aload 4, 2) := dk_25 4 (dk_at dksX2_toTheFull_0 14 rfl rfl)
theorem dX2_toTheFull_16 : decode cX2_toTheFull 16 = .ok (.invokevirtual 283, 3) := dk_182 1 27 (dk_at dksX2_toTheFull_0 16 rfl rfl)
theorem dX2_toTheFull_19 : decode cX2_toTheFull 19 = .ok (.return_, 1) := dk_177 (dk_at dksX2_toTheFull_0 19 rfl rfl)
abbrev cX2_paysInFull : ByteArray := prog_14_method_29_code
def yX2_paysInFull : MethodName := ⟨RX2, "paysInFull", "(LTallTowers$Harm;JLTallTowers$Flow;)Z"⟩
def dkwX2_paysInFull_4 : List UInt8 := [21, 5, 172]
abbrev dktX2_paysInFull_4 : List UInt8 := dkwX2_paysInFull_4 ++ []
def dkwX2_paysInFull_3 : List UInt8 := [167, 255, 223, 25, 4, 180, 0, 223, 21, 5, 153, 0, 7, 5, 167, 0, 4, 6, 92, 47, 22, 6, 97, 80]
abbrev dktX2_paysInFull_3 : List UInt8 := dkwX2_paysInFull_3 ++ dktX2_paysInFull_4
def dkwX2_paysInFull_2 : List UInt8 := [180, 1, 42, 22, 6, 25, 4, 182, 0, 230, 55, 6, 42, 180, 0, 72, 182, 1, 38, 192, 0, 54, 58, 8]
abbrev dktX2_paysInFull_2 : List UInt8 := dkwX2_paysInFull_2 ++ dktX2_paysInFull_3
def dkwX2_paysInFull_1 : List UInt8 := [32, 55, 6, 42, 180, 0, 72, 182, 1, 38, 192, 0, 54, 58, 8, 25, 8, 198, 0, 34, 42, 43, 25, 8]
abbrev dktX2_paysInFull_1 : List UInt8 := dkwX2_paysInFull_1 ++ dktX2_paysInFull_2
def dkwX2_paysInFull_0 : List UInt8 := [42, 43, 25, 4, 182, 1, 30, 42, 180, 0, 72, 182, 1, 34, 154, 0, 7, 4, 167, 0, 4, 3, 54, 5]
abbrev dktX2_paysInFull_0 : List UInt8 := dkwX2_paysInFull_0 ++ dktX2_paysInFull_1
theorem dksX2_paysInFull_0 : cX2_paysInFull.data.toList.drop 0 = dktX2_paysInFull_0 := by decide +kernel
theorem dksX2_paysInFull_1 : cX2_paysInFull.data.toList.drop 24 = dktX2_paysInFull_1 := dk_seg dksX2_paysInFull_0 24 rfl rfl
theorem dksX2_paysInFull_2 : cX2_paysInFull.data.toList.drop 48 = dktX2_paysInFull_2 := dk_seg dksX2_paysInFull_1 24 rfl rfl
theorem dksX2_paysInFull_3 : cX2_paysInFull.data.toList.drop 72 = dktX2_paysInFull_3 := dk_seg dksX2_paysInFull_2 24 rfl rfl
theorem dksX2_paysInFull_4 : cX2_paysInFull.data.toList.drop 96 = dktX2_paysInFull_4 := dk_seg dksX2_paysInFull_3 24 rfl rfl
theorem dX2_paysInFull_0 : decode cX2_paysInFull 0 = .ok (.aload_n 0, 1) := dk_42 (dk_at dksX2_paysInFull_0 0 rfl rfl)
theorem dX2_paysInFull_1 : decode cX2_paysInFull 1 = .ok (.aload_n 1, 1) := dk_43 (dk_at dksX2_paysInFull_0 1 rfl rfl)
theorem dX2_paysInFull_2 : decode cX2_paysInFull 2 = .ok (.aload 4, 2) := dk_25 4 (dk_at dksX2_paysInFull_0 2 rfl rfl)
theorem dX2_paysInFull_4 : decode cX2_paysInFull 4 = .ok (.invokevirtual 286, 3) := dk_182 1 30 (dk_at dksX2_paysInFull_0 4 rfl rfl)
theorem dX2_paysInFull_7 : decode cX2_paysInFull 7 = .ok (.aload_n 0, 1) := dk_42 (dk_at dksX2_paysInFull_0 7 rfl rfl)
theorem dX2_paysInFull_8 : decode cX2_paysInFull 8 = .ok (.getfield 72, 3) := dk_180 0 72 (dk_at dksX2_paysInFull_0 8 rfl rfl)
theorem dX2_paysInFull_11 : decode cX2_paysInFull 11 = .ok (.invokevirtual 290, 3) := dk_182 1 34 (dk_at dksX2_paysInFull_0 11 rfl rfl)
theorem dX2_paysInFull_14 : decode cX2_paysInFull 14 = .ok (.ifCond .ne 7, 3) := dk_154 0 7 (dk_at dksX2_paysInFull_0 14 rfl rfl)
theorem dX2_paysInFull_17 : decode cX2_paysInFull 17 = .ok (.iconst 1, 1) := dk_4 (dk_at dksX2_paysInFull_0 17 rfl rfl)
theorem dX2_paysInFull_18 : decode cX2_paysInFull 18 = .ok (.goto 4, 3) := dk_167 0 4 (dk_at dksX2_paysInFull_0 18 rfl rfl)
theorem dX2_paysInFull_21 : decode cX2_paysInFull 21 = .ok (.iconst 0, 1) := dk_3 (dk_at dksX2_paysInFull_0 21 rfl rfl)
theorem dX2_paysInFull_22 : decode cX2_paysInFull 22 = .ok (.istore 5, 2) := dk_54 5 (dk_at dksX2_paysInFull_0 22 rfl rfl)
theorem dX2_paysInFull_24 : decode cX2_paysInFull 24 = .ok (.lload_n 2, 1) := dk_32 (dk_at dksX2_paysInFull_1 0 rfl rfl)
theorem dX2_paysInFull_25 : decode cX2_paysInFull 25 = .ok (.lstore 6, 2) := dk_55 6 (dk_at dksX2_paysInFull_1 1 rfl rfl)
theorem dX2_paysInFull_27 : decode cX2_paysInFull 27 = .ok (.aload_n 0, 1) := dk_42 (dk_at dksX2_paysInFull_1 3 rfl rfl)
theorem dX2_paysInFull_28 : decode cX2_paysInFull 28 = .ok (.getfield 72, 3) := dk_180 0 72 (dk_at dksX2_paysInFull_1 4 rfl rfl)
theorem dX2_paysInFull_31 : decode cX2_paysInFull 31 = .ok (.invokevirtual 294, 3) := dk_182 1 38 (dk_at dksX2_paysInFull_1 7 rfl rfl)
theorem dX2_paysInFull_34 : decode cX2_paysInFull 34 = .ok (.checkcast 54, 3) := dk_192 0 54 (dk_at dksX2_paysInFull_1 10 rfl rfl)
theorem dX2_paysInFull_37 : decode cX2_paysInFull 37 = .ok (.astore 8, 2) := dk_58 8 (dk_at dksX2_paysInFull_1 13 rfl rfl)
theorem dX2_paysInFull_39 : decode cX2_paysInFull 39 = .ok (.aload 8, 2) := dk_25 8 (dk_at dksX2_paysInFull_1 15 rfl rfl)
theorem dX2_paysInFull_41 : decode cX2_paysInFull 41 = .ok (.ifnull 34, 3) := dk_198 0 34 (dk_at dksX2_paysInFull_1 17 rfl rfl)
theorem dX2_paysInFull_44 : decode cX2_paysInFull 44 = .ok (.aload_n 0, 1) := dk_42 (dk_at dksX2_paysInFull_1 20 rfl rfl)
theorem dX2_paysInFull_45 : decode cX2_paysInFull 45 = .ok (.aload_n 1, 1) := dk_43 (dk_at dksX2_paysInFull_1 21 rfl rfl)
theorem dX2_paysInFull_46 : decode cX2_paysInFull 46 = .ok (.aload 8, 2) := dk_25 8 (dk_at dksX2_paysInFull_1 22 rfl rfl)
theorem dX2_paysInFull_48 : decode cX2_paysInFull 48 = .ok (.getfield 298, 3) := dk_180 1 42 (dk_at dksX2_paysInFull_2 0 rfl rfl)
theorem dX2_paysInFull_51 : decode cX2_paysInFull 51 = .ok (.lload 6, 2) := dk_22 6 (dk_at dksX2_paysInFull_2 3 rfl rfl)
theorem dX2_paysInFull_53 : decode cX2_paysInFull 53 = .ok (.aload 4, 2) := dk_25 4 (dk_at dksX2_paysInFull_2 5 rfl rfl)
theorem dX2_paysInFull_55 : decode cX2_paysInFull 55 = .ok (.invokevirtual 230, 3) := dk_182 0 230 (dk_at dksX2_paysInFull_2 7 rfl rfl)
theorem dX2_paysInFull_58 : decode cX2_paysInFull 58 = .ok (.lstore 6, 2) := dk_55 6 (dk_at dksX2_paysInFull_2 10 rfl rfl)
theorem dX2_paysInFull_60 : decode cX2_paysInFull 60 = .ok (.aload_n 0, 1) := dk_42 (dk_at dksX2_paysInFull_2 12 rfl rfl)
theorem dX2_paysInFull_61 : decode cX2_paysInFull 61 = .ok (.getfield 72, 3) := dk_180 0 72 (dk_at dksX2_paysInFull_2 13 rfl rfl)
theorem dX2_paysInFull_64 : decode cX2_paysInFull 64 = .ok (.invokevirtual 294, 3) := dk_182 1 38 (dk_at dksX2_paysInFull_2 16 rfl rfl)
theorem dX2_paysInFull_67 : decode cX2_paysInFull 67 = .ok (.checkcast 54, 3) := dk_192 0 54 (dk_at dksX2_paysInFull_2 19 rfl rfl)
theorem dX2_paysInFull_70 : decode cX2_paysInFull 70 = .ok (.astore 8, 2) := dk_58 8 (dk_at dksX2_paysInFull_2 22 rfl rfl)
theorem dX2_paysInFull_72 : decode cX2_paysInFull 72 = .ok (.goto (-33), 3) := dk_167 255 223 (dk_at dksX2_paysInFull_3 0 rfl rfl)
theorem dX2_paysInFull_75 : decode cX2_paysInFull 75 = .ok (.aload 4, 2) := dk_25 4 (dk_at dksX2_paysInFull_3 3 rfl rfl)
theorem dX2_paysInFull_77 : decode cX2_paysInFull 77 = .ok (.getfield 223, 3) := dk_180 0 223 (dk_at dksX2_paysInFull_3 5 rfl rfl)
theorem dX2_paysInFull_80 : decode cX2_paysInFull 80 = .ok (.iload 5, 2) := dk_21 5 (dk_at dksX2_paysInFull_3 8 rfl rfl)
theorem dX2_paysInFull_82 : decode cX2_paysInFull 82 = .ok (.ifCond .eq 7, 3) := dk_153 0 7 (dk_at dksX2_paysInFull_3 10 rfl rfl)
theorem dX2_paysInFull_85 : decode cX2_paysInFull 85 = .ok (.iconst 2, 1) := dk_5 (dk_at dksX2_paysInFull_3 13 rfl rfl)
theorem dX2_paysInFull_86 : decode cX2_paysInFull 86 = .ok (.goto 4, 3) := dk_167 0 4 (dk_at dksX2_paysInFull_3 14 rfl rfl)
theorem dX2_paysInFull_89 : decode cX2_paysInFull 89 = .ok (.iconst 3, 1) := dk_6 (dk_at dksX2_paysInFull_3 17 rfl rfl)
theorem dX2_paysInFull_90 : decode cX2_paysInFull 90 = .ok (.dup2, 1) := dk_92 (dk_at dksX2_paysInFull_3 18 rfl rfl)
theorem dX2_paysInFull_91 : decode cX2_paysInFull 91 = .ok (.laload, 1) := dk_47 (dk_at dksX2_paysInFull_3 19 rfl rfl)
theorem dX2_paysInFull_92 : decode cX2_paysInFull 92 = .ok (.lload 6, 2) := dk_22 6 (dk_at dksX2_paysInFull_3 20 rfl rfl)
theorem dX2_paysInFull_94 : decode cX2_paysInFull 94 = .ok (.ladd, 1) := dk_97 (dk_at dksX2_paysInFull_3 22 rfl rfl)
theorem dX2_paysInFull_95 : decode cX2_paysInFull 95 = .ok (.lastore, 1) := dk_80 (dk_at dksX2_paysInFull_3 23 rfl rfl)
theorem dX2_paysInFull_96 : decode cX2_paysInFull 96 = .ok (.iload 5, 2) := dk_21 5 (dk_at dksX2_paysInFull_4 0 rfl rfl)
theorem dX2_paysInFull_98 : decode cX2_paysInFull 98 = .ok (.ireturn, 1) := dk_172 (dk_at dksX2_paysInFull_4 2 rfl rfl)
abbrev cX2_lines : ByteArray := prog_14_method_27_code
def yX2_lines : MethodName := ⟨RX2, "lines", "(LTallTowers$Harm;LTallTowers$Flow;)V"⟩
def dkwX2_lines_3 : List UInt8 := [181, 1, 16, 42, 180, 0, 72, 42, 180, 0, 56, 29, 50, 182, 1, 19, 87, 132, 3, 1, 167, 255, 187, 177]
abbrev dktX2_lines_3 : List UInt8 := dkwX2_lines_3 ++ []
def dkwX2_lines_2 : List UInt8 := [44, 182, 1, 9, 181, 1, 13, 42, 180, 0, 56, 29, 50, 42, 29, 3, 182, 0, 140, 180, 0, 144]
abbrev dktX2_lines_2 : List UInt8 := dkwX2_lines_2 ++ dktX2_lines_3
def dkwX2_lines_1 : List UInt8 := [162, 0, 69, 42, 43, 29, 182, 0, 241, 154, 0, 6, 167, 0, 51, 42, 180, 0, 56, 29, 50, 42, 43, 29]
abbrev dktX2_lines_1 : List UInt8 := dkwX2_lines_1 ++ dktX2_lines_2
def dkwX2_lines_0 : List UInt8 := [42, 180, 0, 72, 182, 1, 3, 42, 180, 0, 63, 42, 180, 0, 121, 181, 1, 6, 3, 62, 29, 16, 12]
abbrev dktX2_lines_0 : List UInt8 := dkwX2_lines_0 ++ dktX2_lines_1
theorem dksX2_lines_0 : cX2_lines.data.toList.drop 0 = dktX2_lines_0 := by decide +kernel
theorem dksX2_lines_1 : cX2_lines.data.toList.drop 23 = dktX2_lines_1 := dk_seg dksX2_lines_0 23 rfl rfl
theorem dksX2_lines_2 : cX2_lines.data.toList.drop 47 = dktX2_lines_2 := dk_seg dksX2_lines_1 24 rfl rfl
theorem dksX2_lines_3 : cX2_lines.data.toList.drop 69 = dktX2_lines_3 := dk_seg dksX2_lines_2 22 rfl rfl
theorem dX2_lines_0 : decode cX2_lines 0 = .ok (.aload_n 0, 1) := dk_42 (dk_at dksX2_lines_0 0 rfl rfl)
theorem dX2_lines_1 : decode cX2_lines 1 = .ok (.getfield 72, 3) := dk_180 0 72 (dk_at dksX2_lines_0 1 rfl rfl)
theorem dX2_lines_4 : decode cX2_lines 4 = .ok (.invokevirtual 259, 3) := dk_182 1 3 (dk_at dksX2_lines_0 4 rfl rfl)
theorem dX2_lines_7 : decode cX2_lines 7 = .ok (.aload_n 0, 1) := dk_42 (dk_at dksX2_lines_0 7 rfl rfl)
theorem dX2_lines_8 : decode cX2_lines 8 = .ok (.getfield 63, 3) := dk_180 0 63 (dk_at dksX2_lines_0 8 rfl rfl)
theorem dX2_lines_11 : decode cX2_lines 11 = .ok (.aload_n 0, 1) := dk_42 (dk_at dksX2_lines_0 11 rfl rfl)
theorem dX2_lines_12 : decode cX2_lines 12 = .ok (.getfield 121, 3) := dk_180 0 121 (dk_at dksX2_lines_0 12 rfl rfl)
theorem dX2_lines_15 : decode cX2_lines 15 = .ok (.putfield 262, 3) := dk_181 1 6 (dk_at dksX2_lines_0 15 rfl rfl)
theorem dX2_lines_18 : decode cX2_lines 18 = .ok (.iconst 0, 1) := dk_3 (dk_at dksX2_lines_0 18 rfl rfl)
theorem dX2_lines_19 : decode cX2_lines 19 = .ok (.istore_n 3, 1) := dk_62 (dk_at dksX2_lines_0 19 rfl rfl)
theorem dX2_lines_20 : decode cX2_lines 20 = .ok (.iload_n 3, 1) := dk_29 (dk_at dksX2_lines_0 20 rfl rfl)
theorem dX2_lines_21 : decode cX2_lines 21 = .ok (.bipush 12, 2) := dk_16 12 (dk_at dksX2_lines_0 21 rfl rfl)
theorem dX2_lines_23 : decode cX2_lines 23 = .ok (.if_icmp .ge 69, 3) := dk_162 0 69 (dk_at dksX2_lines_1 0 rfl rfl)
theorem dX2_lines_26 : decode cX2_lines 26 = .ok (.aload_n 0, 1) := dk_42 (dk_at dksX2_lines_1 3 rfl rfl)
theorem dX2_lines_27 : decode cX2_lines 27 = .ok (.aload_n 1, 1) := dk_43 (dk_at dksX2_lines_1 4 rfl rfl)
theorem dX2_lines_28 : decode cX2_lines 28 = .ok (.iload_n 3, 1) := dk_29 (dk_at dksX2_lines_1 5 rfl rfl)
theorem dX2_lines_29 : decode cX2_lines 29 = .ok (.invokevirtual 241, 3) := dk_182 0 241 (dk_at dksX2_lines_1 6 rfl rfl)
theorem dX2_lines_32 : decode cX2_lines 32 = .ok (.ifCond .ne 6, 3) := dk_154 0 6 (dk_at dksX2_lines_1 9 rfl rfl)
theorem dX2_lines_35 : decode cX2_lines 35 = .ok (.goto 51, 3) := dk_167 0 51 (dk_at dksX2_lines_1 12 rfl rfl)
theorem dX2_lines_38 : decode cX2_lines 38 = .ok (.aload_n 0, 1) := dk_42 (dk_at dksX2_lines_1 15 rfl rfl)
theorem dX2_lines_39 : decode cX2_lines 39 = .ok (.getfield 56, 3) := dk_180 0 56 (dk_at dksX2_lines_1 16 rfl rfl)
theorem dX2_lines_42 : decode cX2_lines 42 = .ok (.iload_n 3, 1) := dk_29 (dk_at dksX2_lines_1 19 rfl rfl)
theorem dX2_lines_43 : decode cX2_lines 43 = .ok (.aaload, 1) := dk_50 (dk_at dksX2_lines_1 20 rfl rfl)
theorem dX2_lines_44 : decode cX2_lines 44 = .ok (.aload_n 0, 1) := dk_42 (dk_at dksX2_lines_1 21 rfl rfl)
theorem dX2_lines_45 : decode cX2_lines 45 = .ok (.aload_n 1, 1) := dk_43 (dk_at dksX2_lines_1 22 rfl rfl)
theorem dX2_lines_46 : decode cX2_lines 46 = .ok (.iload_n 3, 1) := dk_29 (dk_at dksX2_lines_1 23 rfl rfl)
theorem dX2_lines_47 : decode cX2_lines 47 = .ok (.aload_n 2, 1) := dk_44 (dk_at dksX2_lines_2 0 rfl rfl)
theorem dX2_lines_48 : decode cX2_lines 48 = .ok (.invokevirtual 265, 3) := dk_182 1 9 (dk_at dksX2_lines_2 1 rfl rfl)
theorem dX2_lines_51 : decode cX2_lines 51 = .ok (.putfield 269, 3) := dk_181 1 13 (dk_at dksX2_lines_2 4 rfl rfl)
theorem dX2_lines_54 : decode cX2_lines 54 = .ok (.aload_n 0, 1) := dk_42 (dk_at dksX2_lines_2 7 rfl rfl)
theorem dX2_lines_55 : decode cX2_lines 55 = .ok (.getfield 56, 3) := dk_180 0 56 (dk_at dksX2_lines_2 8 rfl rfl)
theorem dX2_lines_58 : decode cX2_lines 58 = .ok (.iload_n 3, 1) := dk_29 (dk_at dksX2_lines_2 11 rfl rfl)
theorem dX2_lines_59 : decode cX2_lines 59 = .ok (.aaload, 1) := dk_50 (dk_at dksX2_lines_2 12 rfl rfl)
theorem dX2_lines_60 : decode cX2_lines 60 = .ok (.aload_n 0, 1) := dk_42 (dk_at dksX2_lines_2 13 rfl rfl)
theorem dX2_lines_61 : decode cX2_lines 61 = .ok (.iload_n 3, 1) := dk_29 (dk_at dksX2_lines_2 14 rfl rfl)
theorem dX2_lines_62 : decode cX2_lines 62 = .ok (.iconst 0, 1) := dk_3 (dk_at dksX2_lines_2 15 rfl rfl)
theorem dX2_lines_63 : decode cX2_lines 63 = .ok (.invokevirtual 140, 3) := dk_182 0 140 (dk_at dksX2_lines_2 16 rfl rfl)
theorem dX2_lines_66 : decode cX2_lines 66 = .ok (.getfield 144, 3) := dk_180 0 144 (dk_at dksX2_lines_2 19 rfl rfl)
theorem dX2_lines_69 : decode cX2_lines 69 = .ok (.putfield 272, 3) := dk_181 1 16 (dk_at dksX2_lines_3 0 rfl rfl)
theorem dX2_lines_72 : decode cX2_lines 72 = .ok (.aload_n 0, 1) := dk_42 (dk_at dksX2_lines_3 3 rfl rfl)
theorem dX2_lines_73 : decode cX2_lines 73 = .ok (.getfield 72, 3) := dk_180 0 72 (dk_at dksX2_lines_3 4 rfl rfl)
theorem dX2_lines_76 : decode cX2_lines 76 = .ok (.aload_n 0, 1) := dk_42 (dk_at dksX2_lines_3 7 rfl rfl)
theorem dX2_lines_77 : decode cX2_lines 77 = .ok (.getfield 56, 3) := dk_180 0 56 (dk_at dksX2_lines_3 8 rfl rfl)
theorem dX2_lines_80 : decode cX2_lines 80 = .ok (.iload_n 3, 1) := dk_29 (dk_at dksX2_lines_3 11 rfl rfl)
theorem dX2_lines_81 : decode cX2_lines 81 = .ok (.aaload, 1) := dk_50 (dk_at dksX2_lines_3 12 rfl rfl)
theorem dX2_lines_82 : decode cX2_lines 82 = .ok (.invokevirtual 275, 3) := dk_182 1 19 (dk_at dksX2_lines_3 13 rfl rfl)
theorem dX2_lines_85 : decode cX2_lines 85 = .ok (.pop, 1) := dk_87 (dk_at dksX2_lines_3 16 rfl rfl)
theorem dX2_lines_86 : decode cX2_lines 86 = .ok (.iinc 3 1, 3) := dk_132 3 1 (dk_at dksX2_lines_3 17 rfl rfl)
theorem dX2_lines_89 : decode cX2_lines 89 = .ok (.goto (-69), 3) := dk_167 255 187 (dk_at dksX2_lines_3 20 rfl rfl)
theorem dX2_lines_92 : decode cX2_lines 92 = .ok (.return_, 1) := dk_177 (dk_at dksX2_lines_3 23 rfl rfl)
abbrev cX2_roomOf : ByteArray := prog_14_method_17_code
def yX2_roomOf : MethodName := ⟨RX2, "roomOf", "(LTallTowers$Harm;ILTallTowers$Flow;)J"⟩
def dkwX2_roomOf_2 : List UInt8 := [167, 255, 214, 22, 4, 173]
abbrev dktX2_roomOf_2 : List UInt8 := dkwX2_roomOf_2 ++ []
def dkwX2_roomOf_1 : List UInt8 := [45, 182, 0, 215, 42, 43, 42, 28, 21, 6, 182, 0, 140, 45, 182, 0, 219, 97, 97, 55, 4, 132, 6, 1]
abbrev dktX2_roomOf_1 : List UInt8 := dkwX2_roomOf_1 ++ dktX2_roomOf_2
def dkwX2_roomOf_0 : List UInt8 := [9, 55, 4, 3, 54, 6, 21, 6, 42, 180, 0, 28, 28, 46, 162, 0, 37, 22, 4, 42, 43, 28, 21, 6]
abbrev dktX2_roomOf_0 : List UInt8 := dkwX2_roomOf_0 ++ dktX2_roomOf_1
theorem dksX2_roomOf_0 : cX2_roomOf.data.toList.drop 0 = dktX2_roomOf_0 := by decide +kernel
theorem dksX2_roomOf_1 : cX2_roomOf.data.toList.drop 24 = dktX2_roomOf_1 := dk_seg dksX2_roomOf_0 24 rfl rfl
theorem dksX2_roomOf_2 : cX2_roomOf.data.toList.drop 48 = dktX2_roomOf_2 := dk_seg dksX2_roomOf_1 24 rfl rfl
theorem dX2_roomOf_0 : decode cX2_roomOf 0 = .ok (.lconst 0, 1) := dk_9 (dk_at dksX2_roomOf_0 0 rfl rfl)
theorem dX2_roomOf_1 : decode cX2_roomOf 1 = .ok (.lstore 4, 2) := dk_55 4 (dk_at dksX2_roomOf_0 1 rfl rfl)
theorem dX2_roomOf_3 : decode cX2_roomOf 3 = .ok (.iconst 0, 1) := dk_3 (dk_at dksX2_roomOf_0 3 rfl rfl)
theorem dX2_roomOf_4 : decode cX2_roomOf 4 = .ok (.istore 6, 2) := dk_54 6 (dk_at dksX2_roomOf_0 4 rfl rfl)
theorem dX2_roomOf_6 : decode cX2_roomOf 6 = .ok (.iload 6, 2) := dk_21 6 (dk_at dksX2_roomOf_0 6 rfl rfl)
theorem dX2_roomOf_8 : decode cX2_roomOf 8 = .ok (.aload_n 0, 1) := dk_42 (dk_at dksX2_roomOf_0 8 rfl rfl)
theorem dX2_roomOf_9 : decode cX2_roomOf 9 = .ok (.getfield 28, 3) := dk_180 0 28 (dk_at dksX2_roomOf_0 9 rfl rfl)
theorem dX2_roomOf_12 : decode cX2_roomOf 12 = .ok (.iload_n 2, 1) := dk_28 (dk_at dksX2_roomOf_0 12 rfl rfl)
theorem dX2_roomOf_13 : decode cX2_roomOf 13 = .ok (.iaload, 1) := dk_46 (dk_at dksX2_roomOf_0 13 rfl rfl)
theorem dX2_roomOf_14 : decode cX2_roomOf 14 = .ok (.if_icmp .ge 37, 3) := dk_162 0 37 (dk_at dksX2_roomOf_0 14 rfl rfl)
theorem dX2_roomOf_17 : decode cX2_roomOf 17 = .ok (.lload 4, 2) := dk_22 4 (dk_at dksX2_roomOf_0 17 rfl rfl)
theorem dX2_roomOf_19 : decode cX2_roomOf 19 = .ok (.aload_n 0, 1) := dk_42 (dk_at dksX2_roomOf_0 19 rfl rfl)
theorem dX2_roomOf_20 : decode cX2_roomOf 20 = .ok (.aload_n 1, 1) := dk_43 (dk_at dksX2_roomOf_0 20 rfl rfl)
theorem dX2_roomOf_21 : decode cX2_roomOf 21 = .ok (.iload_n 2, 1) := dk_28 (dk_at dksX2_roomOf_0 21 rfl rfl)
theorem dX2_roomOf_22 : decode cX2_roomOf 22 = .ok (.iload 6, 2) := dk_21 6 (dk_at dksX2_roomOf_0 22 rfl rfl)
theorem dX2_roomOf_24 : decode cX2_roomOf 24 = .ok (.aload_n 3, 1) := dk_45 (dk_at dksX2_roomOf_1 0 rfl rfl)
theorem dX2_roomOf_25 : decode cX2_roomOf 25 = .ok (.invokevirtual 215, 3) := dk_182 0 215 (dk_at dksX2_roomOf_1 1 rfl rfl)
theorem dX2_roomOf_28 : decode cX2_roomOf 28 = .ok (.aload_n 0, 1) := dk_42 (dk_at dksX2_roomOf_1 4 rfl rfl)
theorem dX2_roomOf_29 : decode cX2_roomOf 29 = .ok (.aload_n 1, 1) := dk_43 (dk_at dksX2_roomOf_1 5 rfl rfl)
theorem dX2_roomOf_30 : decode cX2_roomOf 30 = .ok (.aload_n 0, 1) := dk_42 (dk_at dksX2_roomOf_1 6 rfl rfl)
theorem dX2_roomOf_31 : decode cX2_roomOf 31 = .ok (.iload_n 2, 1) := dk_28 (dk_at dksX2_roomOf_1 7 rfl rfl)
theorem dX2_roomOf_32 : decode cX2_roomOf 32 = .ok (.iload 6, 2) := dk_21 6 (dk_at dksX2_roomOf_1 8 rfl rfl)
theorem dX2_roomOf_34 : decode cX2_roomOf 34 = .ok (.invokevirtual 140, 3) := dk_182 0 140 (dk_at dksX2_roomOf_1 10 rfl rfl)
theorem dX2_roomOf_37 : decode cX2_roomOf 37 = .ok (.aload_n 3, 1) := dk_45 (dk_at dksX2_roomOf_1 13 rfl rfl)
theorem dX2_roomOf_38 : decode cX2_roomOf 38 = .ok (.invokevirtual 219, 3) := dk_182 0 219 (dk_at dksX2_roomOf_1 14 rfl rfl)
theorem dX2_roomOf_41 : decode cX2_roomOf 41 = .ok (.ladd, 1) := dk_97 (dk_at dksX2_roomOf_1 17 rfl rfl)
theorem dX2_roomOf_42 : decode cX2_roomOf 42 = .ok (.ladd, 1) := dk_97 (dk_at dksX2_roomOf_1 18 rfl rfl)
theorem dX2_roomOf_43 : decode cX2_roomOf 43 = .ok (.lstore 4, 2) := dk_55 4 (dk_at dksX2_roomOf_1 19 rfl rfl)
theorem dX2_roomOf_45 : decode cX2_roomOf 45 = .ok (.iinc 6 1, 3) := dk_132 6 1 (dk_at dksX2_roomOf_1 21 rfl rfl)
theorem dX2_roomOf_48 : decode cX2_roomOf 48 = .ok (.goto (-42), 3) := dk_167 255 214 (dk_at dksX2_roomOf_2 0 rfl rfl)
theorem dX2_roomOf_51 : decode cX2_roomOf 51 = .ok (.lload 4, 2) := dk_22 4 (dk_at dksX2_roomOf_2 3 rfl rfl)
theorem dX2_roomOf_53 : decode cX2_roomOf 53 = .ok (.lreturn, 1) := dk_173 (dk_at dksX2_roomOf_2 5 rfl rfl)
abbrev cX2_contributes : ByteArray := prog_14_method_31_code
def yX2_contributes : MethodName := ⟨RX2, "contributes", "(LTallTowers$Harm;JLTallTowers$Flow;)V"⟩
def dkwX2_contributes_10 : List UInt8 := [21, 9, 47, 97, 80, 132, 9, 1, 167, 255, 209, 177]
abbrev dktX2_contributes_10 : List UInt8 := dkwX2_contributes_10 ++ []
def dkwX2_contributes_9 : List UInt8 := [47, 42, 180, 0, 51, 21, 9, 47, 97, 80, 25, 4, 180, 0, 203, 21, 9, 92, 47, 25, 4, 180, 1, 47]
abbrev dktX2_contributes_9 : List UInt8 := dkwX2_contributes_9 ++ dktX2_contributes_10
def dkwX2_contributes_8 : List UInt8 := [180, 0, 51, 184, 0, 226, 3, 54, 9, 21, 9, 16, 40, 162, 0, 46, 25, 4, 180, 1, 47, 21, 9, 92]
abbrev dktX2_contributes_8 : List UInt8 := dkwX2_contributes_8 ++ dktX2_contributes_9
def dkwX2_contributes_7 : List UInt8 := [21, 9, 47, 101, 80, 132, 9, 1, 167, 255, 228, 22, 5, 22, 7, 184, 0, 197, 42, 180, 0, 48, 42]
abbrev dktX2_contributes_7 : List UInt8 := dkwX2_contributes_7 ++ dktX2_contributes_8
def dkwX2_contributes_6 : List UInt8 := [3, 54, 9, 21, 9, 16, 40, 162, 0, 27, 25, 4, 180, 1, 47, 21, 9, 92, 47, 42, 180, 0, 51]
abbrev dktX2_contributes_6 : List UInt8 := dkwX2_contributes_6 ++ dktX2_contributes_7
def dkwX2_contributes_5 : List UInt8 := [132, 9, 1, 167, 255, 162, 22, 5, 22, 7, 184, 0, 197, 42, 180, 0, 45, 42, 180, 0, 51, 184, 0, 226]
abbrev dktX2_contributes_5 : List UInt8 := dkwX2_contributes_5 ++ dktX2_contributes_6
def dkwX2_contributes_4 : List UInt8 := [42, 180, 0, 45, 21, 9, 47, 97, 55, 5, 22, 7, 42, 180, 0, 48, 21, 9, 47, 97, 55, 7]
abbrev dktX2_contributes_4 : List UInt8 := dkwX2_contributes_4 ++ dktX2_contributes_5
def dkwX2_contributes_3 : List UInt8 := [180, 0, 79, 180, 0, 203, 21, 9, 47, 25, 4, 180, 0, 203, 21, 9, 47, 101, 184, 0, 211, 80, 22, 5]
abbrev dktX2_contributes_3 : List UInt8 := dkwX2_contributes_3 ++ dktX2_contributes_4
def dkwX2_contributes_2 : List UInt8 := [42, 180, 0, 79, 180, 0, 203, 21, 9, 47, 101, 184, 0, 211, 80, 42, 180, 0, 48, 21, 9, 9, 42]
abbrev dktX2_contributes_2 : List UInt8 := dkwX2_contributes_2 ++ dktX2_contributes_3
def dkwX2_contributes_1 : List UInt8 := [54, 9, 21, 9, 16, 40, 162, 0, 93, 42, 180, 0, 45, 21, 9, 9, 25, 4, 180, 0, 203, 21, 9, 47]
abbrev dktX2_contributes_1 : List UInt8 := dkwX2_contributes_1 ++ dktX2_contributes_2
def dkwX2_contributes_0 : List UInt8 := [42, 180, 0, 79, 182, 1, 43, 42, 43, 32, 42, 180, 0, 79, 182, 1, 44, 9, 55, 5, 9, 55, 7, 3]
abbrev dktX2_contributes_0 : List UInt8 := dkwX2_contributes_0 ++ dktX2_contributes_1
theorem dksX2_contributes_0 : cX2_contributes.data.toList.drop 0 = dktX2_contributes_0 := by decide +kernel
theorem dksX2_contributes_1 : cX2_contributes.data.toList.drop 24 = dktX2_contributes_1 := dk_seg dksX2_contributes_0 24 rfl rfl
theorem dksX2_contributes_2 : cX2_contributes.data.toList.drop 48 = dktX2_contributes_2 := dk_seg dksX2_contributes_1 24 rfl rfl
theorem dksX2_contributes_3 : cX2_contributes.data.toList.drop 71 = dktX2_contributes_3 := dk_seg dksX2_contributes_2 23 rfl rfl
theorem dksX2_contributes_4 : cX2_contributes.data.toList.drop 95 = dktX2_contributes_4 := dk_seg dksX2_contributes_3 24 rfl rfl
theorem dksX2_contributes_5 : cX2_contributes.data.toList.drop 117 = dktX2_contributes_5 := dk_seg dksX2_contributes_4 22 rfl rfl
theorem dksX2_contributes_6 : cX2_contributes.data.toList.drop 141 = dktX2_contributes_6 := dk_seg dksX2_contributes_5 24 rfl rfl
theorem dksX2_contributes_7 : cX2_contributes.data.toList.drop 164 = dktX2_contributes_7 := dk_seg dksX2_contributes_6 23 rfl rfl
theorem dksX2_contributes_8 : cX2_contributes.data.toList.drop 187 = dktX2_contributes_8 := dk_seg dksX2_contributes_7 23 rfl rfl
theorem dksX2_contributes_9 : cX2_contributes.data.toList.drop 211 = dktX2_contributes_9 := dk_seg dksX2_contributes_8 24 rfl rfl
theorem dksX2_contributes_10 : cX2_contributes.data.toList.drop 235 = dktX2_contributes_10 := dk_seg dksX2_contributes_9 24 rfl rfl
theorem dX2_contributes_0 : decode cX2_contributes 0 = .ok (.aload_n 0, 1) := dk_42 (dk_at dksX2_contributes_0 0 rfl rfl)
theorem dX2_contributes_1 : decode cX2_contributes 1 = .ok (.getfield 79, 3) := dk_180 0 79 (dk_at dksX2_contributes_0 1 rfl rfl)
theorem dX2_contributes_4 : decode cX2_contributes 4 = .ok (.invokevirtual 299, 3) := dk_182 1 43 (dk_at dksX2_contributes_0 4 rfl rfl)
theorem dX2_contributes_7 : decode cX2_contributes 7 = .ok (.aload_n 0, 1) := dk_42 (dk_at dksX2_contributes_0 7 rfl rfl)
theorem dX2_contributes_8 : decode cX2_contributes 8 = .ok (.aload_n 1, 1) := dk_43 (dk_at dksX2_contributes_0 8 rfl rfl)
theorem dX2_contributes_9 : decode cX2_contributes 9 = .ok (.lload_n 2, 1) := dk_32 (dk_at dksX2_contributes_0 9 rfl rfl)
theorem dX2_contributes_10 : decode cX2_contributes 10 = .ok (.aload_n 0, 1) := dk_42 (dk_at dksX2_contributes_0 10 rfl rfl)
theorem dX2_contributes_11 : decode cX2_contributes 11 = .ok (.getfield 79, 3) := dk_180 0 79 (dk_at dksX2_contributes_0 11 rfl rfl)
theorem dX2_contributes_14 : decode cX2_contributes 14 = .ok (.invokevirtual 300, 3) := dk_182 1 44 (dk_at dksX2_contributes_0 14 rfl rfl)
theorem dX2_contributes_17 : decode cX2_contributes 17 = .ok (.lconst 0, 1) := dk_9 (dk_at dksX2_contributes_0 17 rfl rfl)
theorem dX2_contributes_18 : decode cX2_contributes 18 = .ok (.lstore 5, 2) := dk_55 5 (dk_at dksX2_contributes_0 18 rfl rfl)
theorem dX2_contributes_20 : decode cX2_contributes 20 = .ok (.lconst 0, 1) := dk_9 (dk_at dksX2_contributes_0 20 rfl rfl)
theorem dX2_contributes_21 : decode cX2_contributes 21 = .ok (.lstore 7, 2) := dk_55 7 (dk_at dksX2_contributes_0 21 rfl rfl)
theorem dX2_contributes_23 : decode cX2_contributes 23 = .ok (.iconst 0, 1) := dk_3 (dk_at dksX2_contributes_0 23 rfl rfl)
theorem dX2_contributes_24 : decode cX2_contributes 24 = .ok (.istore 9, 2) := dk_54 9 (dk_at dksX2_contributes_1 0 rfl rfl)
theorem dX2_contributes_26 : decode cX2_contributes 26 = .ok (.iload 9, 2) := dk_21 9 (dk_at dksX2_contributes_1 2 rfl rfl)
theorem dX2_contributes_28 : decode cX2_contributes 28 = .ok (.bipush 40, 2) := dk_16 40 (dk_at dksX2_contributes_1 4 rfl rfl)
theorem dX2_contributes_30 : decode cX2_contributes 30 = .ok (.if_icmp .ge 93, 3) := dk_162 0 93 (dk_at dksX2_contributes_1 6 rfl rfl)
theorem dX2_contributes_33 : decode cX2_contributes 33 = .ok (.aload_n 0, 1) := dk_42 (dk_at dksX2_contributes_1 9 rfl rfl)
theorem dX2_contributes_34 : decode cX2_contributes 34 = .ok (.getfield 45, 3) := dk_180 0 45 (dk_at dksX2_contributes_1 10 rfl rfl)
theorem dX2_contributes_37 : decode cX2_contributes 37 = .ok (.iload 9, 2) := dk_21 9 (dk_at dksX2_contributes_1 13 rfl rfl)
theorem dX2_contributes_39 : decode cX2_contributes 39 = .ok (.lconst 0, 1) := dk_9 (dk_at dksX2_contributes_1 15 rfl rfl)
theorem dX2_contributes_40 : decode cX2_contributes 40 = .ok (.aload 4, 2) := dk_25 4 (dk_at dksX2_contributes_1 16 rfl rfl)
theorem dX2_contributes_42 : decode cX2_contributes 42 = .ok (.getfield 203, 3) := dk_180 0 203 (dk_at dksX2_contributes_1 18 rfl rfl)
theorem dX2_contributes_45 : decode cX2_contributes 45 = .ok (.iload 9, 2) := dk_21 9 (dk_at dksX2_contributes_1 21 rfl rfl)
theorem dX2_contributes_47 : decode cX2_contributes 47 = .ok (.laload, 1) := dk_47 (dk_at dksX2_contributes_1 23 rfl rfl)
theorem dX2_contributes_48 : decode cX2_contributes 48 = .ok (.aload_n 0, 1) := dk_42 (dk_at dksX2_contributes_2 0 rfl rfl)
theorem dX2_contributes_49 : decode cX2_contributes 49 = .ok (.getfield 79, 3) := dk_180 0 79 (dk_at dksX2_contributes_2 1 rfl rfl)
theorem dX2_contributes_52 : decode cX2_contributes 52 = .ok (.getfield 203, 3) := dk_180 0 203 (dk_at dksX2_contributes_2 4 rfl rfl)
theorem dX2_contributes_55 : decode cX2_contributes 55 = .ok (.iload 9, 2) := dk_21 9 (dk_at dksX2_contributes_2 7 rfl rfl)
theorem dX2_contributes_57 : decode cX2_contributes 57 = .ok (.laload, 1) := dk_47 (dk_at dksX2_contributes_2 9 rfl rfl)
theorem dX2_contributes_58 : decode cX2_contributes 58 = .ok (.lsub, 1) := dk_101 (dk_at dksX2_contributes_2 10 rfl rfl)
theorem dX2_contributes_59 : decode cX2_contributes 59 = .ok (.invokestatic 211, 3) := dk_184 0 211 (dk_at dksX2_contributes_2 11 rfl rfl)
theorem dX2_contributes_62 : decode cX2_contributes 62 = .ok (.lastore, 1) := dk_80 (dk_at dksX2_contributes_2 14 rfl rfl)
theorem dX2_contributes_63 : decode cX2_contributes 63 = .ok (.aload_n 0, 1) := dk_42 (dk_at dksX2_contributes_2 15 rfl rfl)
theorem dX2_contributes_64 : decode cX2_contributes 64 = .ok (.getfield 48, 3) := dk_180 0 48 (dk_at dksX2_contributes_2 16 rfl rfl)
theorem dX2_contributes_67 : decode cX2_contributes 67 = .ok (.iload 9, 2) := dk_21 9 (dk_at dksX2_contributes_2 19 rfl rfl)
theorem dX2_contributes_69 : decode cX2_contributes 69 = .ok (.lconst 0, 1) := dk_9 (dk_at dksX2_contributes_2 21 rfl rfl)
theorem dX2_contributes_70 : decode cX2_contributes 70 = .ok (.aload_n 0, 1) := dk_42 (dk_at dksX2_contributes_2 22 rfl rfl)
theorem dX2_contributes_71 : decode cX2_contributes 71 = .ok (.getfield 79, 3) := dk_180 0 79 (dk_at dksX2_contributes_3 0 rfl rfl)
theorem dX2_contributes_74 : decode cX2_contributes 74 = .ok (.getfield 203, 3) := dk_180 0 203 (dk_at dksX2_contributes_3 3 rfl rfl)
theorem dX2_contributes_77 : decode cX2_contributes 77 = .ok (.iload 9, 2) := dk_21 9 (dk_at dksX2_contributes_3 6 rfl rfl)
theorem dX2_contributes_79 : decode cX2_contributes 79 = .ok (.laload, 1) := dk_47 (dk_at dksX2_contributes_3 8 rfl rfl)
theorem dX2_contributes_80 : decode cX2_contributes 80 = .ok (.aload 4, 2) := dk_25 4 (dk_at dksX2_contributes_3 9 rfl rfl)
theorem dX2_contributes_82 : decode cX2_contributes 82 = .ok (.getfield 203, 3) := dk_180 0 203 (dk_at dksX2_contributes_3 11 rfl rfl)
theorem dX2_contributes_85 : decode cX2_contributes 85 = .ok (.iload 9, 2) := dk_21 9 (dk_at dksX2_contributes_3 14 rfl rfl)
theorem dX2_contributes_87 : decode cX2_contributes 87 = .ok (.laload, 1) := dk_47 (dk_at dksX2_contributes_3 16 rfl rfl)
theorem dX2_contributes_88 : decode cX2_contributes 88 = .ok (.lsub, 1) := dk_101 (dk_at dksX2_contributes_3 17 rfl rfl)
theorem dX2_contributes_89 : decode cX2_contributes 89 = .ok (.invokestatic 211, 3) := dk_184 0 211 (dk_at dksX2_contributes_3 18 rfl rfl)
theorem dX2_contributes_92 : decode cX2_contributes 92 = .ok (.lastore, 1) := dk_80 (dk_at dksX2_contributes_3 21 rfl rfl)
theorem dX2_contributes_93 : decode cX2_contributes 93 = .ok (.lload 5, 2) := dk_22 5 (dk_at dksX2_contributes_3 22 rfl rfl)
theorem dX2_contributes_95 : decode cX2_contributes 95 = .ok (.aload_n 0, 1) := dk_42 (dk_at dksX2_contributes_4 0 rfl rfl)
theorem dX2_contributes_96 : decode cX2_contributes 96 = .ok (.getfield 45, 3) := dk_180 0 45 (dk_at dksX2_contributes_4 1 rfl rfl)
theorem dX2_contributes_99 : decode cX2_contributes 99 = .ok (.iload 9, 2) := dk_21 9 (dk_at dksX2_contributes_4 4 rfl rfl)
theorem dX2_contributes_101 : decode cX2_contributes 101 = .ok (.laload, 1) := dk_47 (dk_at dksX2_contributes_4 6 rfl rfl)
theorem dX2_contributes_102 : decode cX2_contributes 102 = .ok (.ladd, 1) := dk_97 (dk_at dksX2_contributes_4 7 rfl rfl)
theorem dX2_contributes_103 : decode cX2_contributes 103 = .ok (.lstore 5, 2) := dk_55 5 (dk_at dksX2_contributes_4 8 rfl rfl)
theorem dX2_contributes_105 : decode cX2_contributes 105 = .ok (.lload 7, 2) := dk_22 7 (dk_at dksX2_contributes_4 10 rfl rfl)
theorem dX2_contributes_107 : decode cX2_contributes 107 = .ok (.aload_n 0, 1) := dk_42 (dk_at dksX2_contributes_4 12 rfl rfl)
theorem dX2_contributes_108 : decode cX2_contributes 108 = .ok (.getfield 48, 3) := dk_180 0 48 (dk_at dksX2_contributes_4 13 rfl rfl)
theorem dX2_contributes_111 : decode cX2_contributes 111 = .ok (.iload 9, 2) := dk_21 9 (dk_at dksX2_contributes_4 16 rfl rfl)
theorem dX2_contributes_113 : decode cX2_contributes 113 = .ok (.laload, 1) := dk_47 (dk_at dksX2_contributes_4 18 rfl rfl)
theorem dX2_contributes_114 : decode cX2_contributes 114 = .ok (.ladd, 1) := dk_97 (dk_at dksX2_contributes_4 19 rfl rfl)
theorem dX2_contributes_115 : decode cX2_contributes 115 = .ok (.lstore 7, 2) := dk_55 7 (dk_at dksX2_contributes_4 20 rfl rfl)
theorem dX2_contributes_117 : decode cX2_contributes 117 = .ok (.iinc 9 1, 3) := dk_132 9 1 (dk_at dksX2_contributes_5 0 rfl rfl)
theorem dX2_contributes_120 : decode cX2_contributes 120 = .ok (.goto (-94), 3) := dk_167 255 162 (dk_at dksX2_contributes_5 3 rfl rfl)
theorem dX2_contributes_123 : decode cX2_contributes 123 = .ok (.lload 5, 2) := dk_22 5 (dk_at dksX2_contributes_5 6 rfl rfl)
theorem dX2_contributes_125 : decode cX2_contributes 125 = .ok (.lload 7, 2) := dk_22 7 (dk_at dksX2_contributes_5 8 rfl rfl)
theorem dX2_contributes_127 : decode cX2_contributes 127 = .ok (.invokestatic 197, 3) := dk_184 0 197 (dk_at dksX2_contributes_5 10 rfl rfl)
theorem dX2_contributes_130 : decode cX2_contributes 130 = .ok (.aload_n 0, 1) := dk_42 (dk_at dksX2_contributes_5 13 rfl rfl)
theorem dX2_contributes_131 : decode cX2_contributes 131 = .ok (.getfield 45, 3) := dk_180 0 45 (dk_at dksX2_contributes_5 14 rfl rfl)
theorem dX2_contributes_134 : decode cX2_contributes 134 = .ok (.aload_n 0, 1) := dk_42 (dk_at dksX2_contributes_5 17 rfl rfl)
theorem dX2_contributes_135 : decode cX2_contributes 135 = .ok (.getfield 51, 3) := dk_180 0 51 (dk_at dksX2_contributes_5 18 rfl rfl)
theorem dX2_contributes_138 : decode cX2_contributes 138 = .ok (.invokestatic 226, 3) := dk_184 0 226 (dk_at dksX2_contributes_5 21 rfl rfl)
theorem dX2_contributes_141 : decode cX2_contributes 141 = .ok (.iconst 0, 1) := dk_3 (dk_at dksX2_contributes_6 0 rfl rfl)
theorem dX2_contributes_142 : decode cX2_contributes 142 = .ok (.istore 9, 2) := dk_54 9 (dk_at dksX2_contributes_6 1 rfl rfl)
theorem dX2_contributes_144 : decode cX2_contributes 144 = .ok (.iload 9, 2) := dk_21 9 (dk_at dksX2_contributes_6 3 rfl rfl)
theorem dX2_contributes_146 : decode cX2_contributes 146 = .ok (.bipush 40, 2) := dk_16 40 (dk_at dksX2_contributes_6 5 rfl rfl)
theorem dX2_contributes_148 : decode cX2_contributes 148 = .ok (.if_icmp .ge 27, 3) := dk_162 0 27 (dk_at dksX2_contributes_6 7 rfl rfl)
theorem dX2_contributes_151 : decode cX2_contributes 151 = .ok (.aload 4, 2) := dk_25 4 (dk_at dksX2_contributes_6 10 rfl rfl)
theorem dX2_contributes_153 : decode cX2_contributes 153 = .ok (.getfield 303, 3) := dk_180 1 47 (dk_at dksX2_contributes_6 12 rfl rfl)
theorem dX2_contributes_156 : decode cX2_contributes 156 = .ok (.iload 9, 2) := dk_21 9 (dk_at dksX2_contributes_6 15 rfl rfl)
theorem dX2_contributes_158 : decode cX2_contributes 158 = .ok (.dup2, 1) := dk_92 (dk_at dksX2_contributes_6 17 rfl rfl)
theorem dX2_contributes_159 : decode cX2_contributes 159 = .ok (.laload, 1) := dk_47 (dk_at dksX2_contributes_6 18 rfl rfl)
theorem dX2_contributes_160 : decode cX2_contributes 160 = .ok (.aload_n 0, 1) := dk_42 (dk_at dksX2_contributes_6 19 rfl rfl)
theorem dX2_contributes_161 : decode cX2_contributes 161 = .ok (.getfield 51, 3) := dk_180 0 51 (dk_at dksX2_contributes_6 20 rfl rfl)
theorem dX2_contributes_164 : decode cX2_contributes 164 = .ok (.iload 9, 2) := dk_21 9 (dk_at dksX2_contributes_7 0 rfl rfl)
theorem dX2_contributes_166 : decode cX2_contributes 166 = .ok (.laload, 1) := dk_47 (dk_at dksX2_contributes_7 2 rfl rfl)
theorem dX2_contributes_167 : decode cX2_contributes 167 = .ok (.lsub, 1) := dk_101 (dk_at dksX2_contributes_7 3 rfl rfl)
theorem dX2_contributes_168 : decode cX2_contributes 168 = .ok (.lastore, 1) := dk_80 (dk_at dksX2_contributes_7 4 rfl rfl)
theorem dX2_contributes_169 : decode cX2_contributes 169 = .ok (.iinc 9 1, 3) := dk_132 9 1 (dk_at dksX2_contributes_7 5 rfl rfl)
theorem dX2_contributes_172 : decode cX2_contributes 172 = .ok (.goto (-28), 3) := dk_167 255 228 (dk_at dksX2_contributes_7 8 rfl rfl)
theorem dX2_contributes_175 : decode cX2_contributes 175 = .ok (.lload 5, 2) := dk_22 5 (dk_at dksX2_contributes_7 11 rfl rfl)
theorem dX2_contributes_177 : decode cX2_contributes 177 = .ok (.lload 7, 2) := dk_22 7 (dk_at dksX2_contributes_7 13 rfl rfl)
theorem dX2_contributes_179 : decode cX2_contributes 179 = .ok (.invokestatic 197, 3) := dk_184 0 197 (dk_at dksX2_contributes_7 15 rfl rfl)
theorem dX2_contributes_182 : decode cX2_contributes 182 = .ok (.aload_n 0, 1) := dk_42 (dk_at dksX2_contributes_7 18 rfl rfl)
theorem dX2_contributes_183 : decode cX2_contributes 183 = .ok (.getfield 48, 3) := dk_180 0 48 (dk_at dksX2_contributes_7 19 rfl rfl)
theorem dX2_contributes_186 : decode cX2_contributes 186 = .ok (.aload_n 0, 1) := dk_42 (dk_at dksX2_contributes_7 22 rfl rfl)
theorem dX2_contributes_187 : decode cX2_contributes 187 = .ok (.getfield 51, 3) := dk_180 0 51 (dk_at dksX2_contributes_8 0 rfl rfl)
theorem dX2_contributes_190 : decode cX2_contributes 190 = .ok (.invokestatic 226, 3) := dk_184 0 226 (dk_at dksX2_contributes_8 3 rfl rfl)
theorem dX2_contributes_193 : decode cX2_contributes 193 = .ok (.iconst 0, 1) := dk_3 (dk_at dksX2_contributes_8 6 rfl rfl)
theorem dX2_contributes_194 : decode cX2_contributes 194 = .ok (.istore 9, 2) := dk_54 9 (dk_at dksX2_contributes_8 7 rfl rfl)
theorem dX2_contributes_196 : decode cX2_contributes 196 = .ok (.iload 9, 2) := dk_21 9 (dk_at dksX2_contributes_8 9 rfl rfl)
theorem dX2_contributes_198 : decode cX2_contributes 198 = .ok (.bipush 40, 2) := dk_16 40 (dk_at dksX2_contributes_8 11 rfl rfl)
theorem dX2_contributes_200 : decode cX2_contributes 200 = .ok (.if_icmp .ge 46, 3) := dk_162 0 46 (dk_at dksX2_contributes_8 13 rfl rfl)
theorem dX2_contributes_203 : decode cX2_contributes 203 = .ok (.aload 4, 2) := dk_25 4 (dk_at dksX2_contributes_8 16 rfl rfl)
theorem dX2_contributes_205 : decode cX2_contributes 205 = .ok (.getfield 303, 3) := dk_180 1 47 (dk_at dksX2_contributes_8 18 rfl rfl)
theorem dX2_contributes_208 : decode cX2_contributes 208 = .ok (.iload 9, 2) := dk_21 9 (dk_at dksX2_contributes_8 21 rfl rfl)
theorem dX2_contributes_210 : decode cX2_contributes 210 = .ok (.dup2, 1) := dk_92 (dk_at dksX2_contributes_8 23 rfl rfl)
theorem dX2_contributes_211 : decode cX2_contributes 211 = .ok (.laload, 1) := dk_47 (dk_at dksX2_contributes_9 0 rfl rfl)
theorem dX2_contributes_212 : decode cX2_contributes 212 = .ok (.aload_n 0, 1) := dk_42 (dk_at dksX2_contributes_9 1 rfl rfl)
theorem dX2_contributes_213 : decode cX2_contributes 213 = .ok (.getfield 51, 3) := dk_180 0 51 (dk_at dksX2_contributes_9 2 rfl rfl)
theorem dX2_contributes_216 : decode cX2_contributes 216 = .ok (.iload 9, 2) := dk_21 9 (dk_at dksX2_contributes_9 5 rfl rfl)
theorem dX2_contributes_218 : decode cX2_contributes 218 = .ok (.laload, 1) := dk_47 (dk_at dksX2_contributes_9 7 rfl rfl)
theorem dX2_contributes_219 : decode cX2_contributes 219 = .ok (.ladd, 1) := dk_97 (dk_at dksX2_contributes_9 8 rfl rfl)
theorem dX2_contributes_220 : decode cX2_contributes 220 = .ok (.lastore, 1) := dk_80 (dk_at dksX2_contributes_9 9 rfl rfl)
theorem dX2_contributes_221 : decode cX2_contributes 221 = .ok (.aload 4, 2) := dk_25 4 (dk_at dksX2_contributes_9 10 rfl rfl)
theorem dX2_contributes_223 : decode cX2_contributes 223 = .ok (.getfield 203, 3) := dk_180 0 203 (dk_at dksX2_contributes_9 12 rfl rfl)
theorem dX2_contributes_226 : decode cX2_contributes 226 = .ok (.iload 9, 2) := dk_21 9 (dk_at dksX2_contributes_9 15 rfl rfl)
theorem dX2_contributes_228 : decode cX2_contributes 228 = .ok (.dup2, 1) := dk_92 (dk_at dksX2_contributes_9 17 rfl rfl)
theorem dX2_contributes_229 : decode cX2_contributes 229 = .ok (.laload, 1) := dk_47 (dk_at dksX2_contributes_9 18 rfl rfl)
theorem dX2_contributes_230 : decode cX2_contributes 230 = .ok (.aload 4, 2) := dk_25 4 (dk_at dksX2_contributes_9 19 rfl rfl)
theorem dX2_contributes_232 : decode cX2_contributes 232 = .ok (.getfield 303, 3) := dk_180 1 47 (dk_at dksX2_contributes_9 21 rfl rfl)
theorem dX2_contributes_235 : decode cX2_contributes 235 = .ok (.iload 9, 2) := dk_21 9 (dk_at dksX2_contributes_10 0 rfl rfl)
theorem dX2_contributes_237 : decode cX2_contributes 237 = .ok (.laload, 1) := dk_47 (dk_at dksX2_contributes_10 2 rfl rfl)
theorem dX2_contributes_238 : decode cX2_contributes 238 = .ok (.ladd, 1) := dk_97 (dk_at dksX2_contributes_10 3 rfl rfl)
theorem dX2_contributes_239 : decode cX2_contributes 239 = .ok (.lastore, 1) := dk_80 (dk_at dksX2_contributes_10 4 rfl rfl)
theorem dX2_contributes_240 : decode cX2_contributes 240 = .ok (.iinc 9 1, 3) := dk_132 9 1 (dk_at dksX2_contributes_10 5 rfl rfl)
theorem dX2_contributes_243 : decode cX2_contributes 243 = .ok (.goto (-47), 3) := dk_167 255 209 (dk_at dksX2_contributes_10 8 rfl rfl)
theorem dX2_contributes_246 : decode cX2_contributes 246 = .ok (.return_, 1) := dk_177 (dk_at dksX2_contributes_10 11 rfl rfl)
abbrev cX2_byLevel : ByteArray := prog_14_method_33_code
def yX2_byLevel : MethodName := ⟨RX2, "byLevel", "(LTallTowers$Harm;JLTallTowers$Flow;)V"⟩
def dkwX2_byLevel_10 : List UInt8 := [22, 10, 97, 80, 177]
abbrev dktX2_byLevel_10 : List UInt8 := dkwX2_byLevel_10 ++ []
def dkwX2_byLevel_9 : List UInt8 := [132, 12, 1, 167, 255, 171, 25, 4, 180, 0, 223, 21, 5, 153, 0, 7, 5, 167, 0, 4, 6, 92, 47]
abbrev dktX2_byLevel_9 : List UInt8 := dkwX2_byLevel_9 ++ dktX2_byLevel_10
def dkwX2_byLevel_8 : List UInt8 := [9, 97, 25, 4, 182, 0, 230, 88, 22, 10, 21, 13, 153, 0, 7, 10, 167, 0, 4, 9, 101, 55, 10]
abbrev dktX2_byLevel_8 : List UInt8 := dkwX2_byLevel_8 ++ dktX2_byLevel_9
def dkwX2_byLevel_7 : List UInt8 := [43, 21, 12, 22, 6, 42, 180, 0, 42, 21, 12, 47, 184, 0, 197, 21, 13, 153, 0, 7, 10, 167, 0, 4]
abbrev dktX2_byLevel_7 : List UInt8 := dkwX2_byLevel_7 ++ dktX2_byLevel_8
def dkwX2_byLevel_6 : List UInt8 := [158, 0, 20, 42, 180, 0, 42, 21, 12, 47, 22, 6, 148, 158, 0, 7, 4, 167, 0, 4, 3, 54, 13, 42]
abbrev dktX2_byLevel_6 : List UInt8 := dkwX2_byLevel_6 ++ dktX2_byLevel_7
def dkwX2_byLevel_5 : List UInt8 := [32, 42, 22, 6, 182, 1, 54, 101, 55, 10, 3, 54, 12, 21, 12, 16, 12, 162, 0, 84, 22, 10, 9, 148]
abbrev dktX2_byLevel_5 : List UInt8 := dkwX2_byLevel_5 ++ dktX2_byLevel_6
def dkwX2_byLevel_4 : List UInt8 := [182, 1, 54, 32, 148, 157, 0, 10, 22, 10, 55, 6, 167, 0, 9, 22, 10, 10, 101, 55, 8, 167, 255, 211]
abbrev dktX2_byLevel_4 : List UInt8 := dkwX2_byLevel_4 ++ dktX2_byLevel_5
def dkwX2_byLevel_3 : List UInt8 := [22, 8, 148, 156, 0, 43, 22, 6, 22, 8, 97, 10, 97, 20, 1, 52, 109, 55, 10, 42, 22, 10]
abbrev dktX2_byLevel_3 : List UInt8 := dkwX2_byLevel_3 ++ dktX2_byLevel_4
def dkwX2_byLevel_2 : List UInt8 := [21, 5, 21, 7, 128, 54, 5, 132, 6, 1, 167, 255, 205, 9, 55, 6, 20, 1, 50, 55, 8, 22, 6]
abbrev dktX2_byLevel_2 : List UInt8 := dkwX2_byLevel_2 ++ dktX2_byLevel_3
def dkwX2_byLevel_1 : List UInt8 := [180, 0, 42, 21, 6, 21, 7, 153, 0, 15, 42, 43, 21, 6, 25, 4, 182, 1, 9, 167, 0, 4, 9, 80]
abbrev dktX2_byLevel_1 : List UInt8 := dkwX2_byLevel_1 ++ dktX2_byLevel_2
def dkwX2_byLevel_0 : List UInt8 := [3, 54, 5, 3, 54, 6, 21, 6, 16, 12, 162, 0, 50, 42, 43, 21, 6, 182, 0, 241, 54, 7, 42]
abbrev dktX2_byLevel_0 : List UInt8 := dkwX2_byLevel_0 ++ dktX2_byLevel_1
theorem dksX2_byLevel_0 : cX2_byLevel.data.toList.drop 0 = dktX2_byLevel_0 := by decide +kernel
theorem dksX2_byLevel_1 : cX2_byLevel.data.toList.drop 23 = dktX2_byLevel_1 := dk_seg dksX2_byLevel_0 23 rfl rfl
theorem dksX2_byLevel_2 : cX2_byLevel.data.toList.drop 47 = dktX2_byLevel_2 := dk_seg dksX2_byLevel_1 24 rfl rfl
theorem dksX2_byLevel_3 : cX2_byLevel.data.toList.drop 70 = dktX2_byLevel_3 := dk_seg dksX2_byLevel_2 23 rfl rfl
theorem dksX2_byLevel_4 : cX2_byLevel.data.toList.drop 92 = dktX2_byLevel_4 := dk_seg dksX2_byLevel_3 22 rfl rfl
theorem dksX2_byLevel_5 : cX2_byLevel.data.toList.drop 116 = dktX2_byLevel_5 := dk_seg dksX2_byLevel_4 24 rfl rfl
theorem dksX2_byLevel_6 : cX2_byLevel.data.toList.drop 140 = dktX2_byLevel_6 := dk_seg dksX2_byLevel_5 24 rfl rfl
theorem dksX2_byLevel_7 : cX2_byLevel.data.toList.drop 164 = dktX2_byLevel_7 := dk_seg dksX2_byLevel_6 24 rfl rfl
theorem dksX2_byLevel_8 : cX2_byLevel.data.toList.drop 188 = dktX2_byLevel_8 := dk_seg dksX2_byLevel_7 24 rfl rfl
theorem dksX2_byLevel_9 : cX2_byLevel.data.toList.drop 211 = dktX2_byLevel_9 := dk_seg dksX2_byLevel_8 23 rfl rfl
theorem dksX2_byLevel_10 : cX2_byLevel.data.toList.drop 234 = dktX2_byLevel_10 := dk_seg dksX2_byLevel_9 23 rfl rfl
theorem dX2_byLevel_0 : decode cX2_byLevel 0 = .ok (.iconst 0, 1) := dk_3 (dk_at dksX2_byLevel_0 0 rfl rfl)
theorem dX2_byLevel_1 : decode cX2_byLevel 1 = .ok (.istore 5, 2) := dk_54 5 (dk_at dksX2_byLevel_0 1 rfl rfl)
theorem dX2_byLevel_3 : decode cX2_byLevel 3 = .ok (.iconst 0, 1) := dk_3 (dk_at dksX2_byLevel_0 3 rfl rfl)
theorem dX2_byLevel_4 : decode cX2_byLevel 4 = .ok (.istore 6, 2) := dk_54 6 (dk_at dksX2_byLevel_0 4 rfl rfl)
theorem dX2_byLevel_6 : decode cX2_byLevel 6 = .ok (.iload 6, 2) := dk_21 6 (dk_at dksX2_byLevel_0 6 rfl rfl)
theorem dX2_byLevel_8 : decode cX2_byLevel 8 = .ok (.bipush 12, 2) := dk_16 12 (dk_at dksX2_byLevel_0 8 rfl rfl)
theorem dX2_byLevel_10 : decode cX2_byLevel 10 = .ok (.if_icmp .ge 50, 3) := dk_162 0 50 (dk_at dksX2_byLevel_0 10 rfl rfl)
theorem dX2_byLevel_13 : decode cX2_byLevel 13 = .ok (.aload_n 0, 1) := dk_42 (dk_at dksX2_byLevel_0 13 rfl rfl)
theorem dX2_byLevel_14 : decode cX2_byLevel 14 = .ok (.aload_n 1, 1) := dk_43 (dk_at dksX2_byLevel_0 14 rfl rfl)
theorem dX2_byLevel_15 : decode cX2_byLevel 15 = .ok (.iload 6, 2) := dk_21 6 (dk_at dksX2_byLevel_0 15 rfl rfl)
theorem dX2_byLevel_17 : decode cX2_byLevel 17 = .ok (.invokevirtual 241, 3) := dk_182 0 241 (dk_at dksX2_byLevel_0 17 rfl rfl)
theorem dX2_byLevel_20 : decode cX2_byLevel 20 = .ok (.istore 7, 2) := dk_54 7 (dk_at dksX2_byLevel_0 20 rfl rfl)
theorem dX2_byLevel_22 : decode cX2_byLevel 22 = .ok (.aload_n 0, 1) := dk_42 (dk_at dksX2_byLevel_0 22 rfl rfl)
theorem dX2_byLevel_23 : decode cX2_byLevel 23 = .ok (.getfield 42, 3) := dk_180 0 42 (dk_at dksX2_byLevel_1 0 rfl rfl)
theorem dX2_byLevel_26 : decode cX2_byLevel 26 = .ok (.iload 6, 2) := dk_21 6 (dk_at dksX2_byLevel_1 3 rfl rfl)
theorem dX2_byLevel_28 : decode cX2_byLevel 28 = .ok (.iload 7, 2) := dk_21 7 (dk_at dksX2_byLevel_1 5 rfl rfl)
theorem dX2_byLevel_30 : decode cX2_byLevel 30 = .ok (.ifCond .eq 15, 3) := dk_153 0 15 (dk_at dksX2_byLevel_1 7 rfl rfl)
theorem dX2_byLevel_33 : decode cX2_byLevel 33 = .ok (.aload_n 0, 1) := dk_42 (dk_at dksX2_byLevel_1 10 rfl rfl)
theorem dX2_byLevel_34 : decode cX2_byLevel 34 = .ok (.aload_n 1, 1) := dk_43 (dk_at dksX2_byLevel_1 11 rfl rfl)
theorem dX2_byLevel_35 : decode cX2_byLevel 35 = .ok (.iload 6, 2) := dk_21 6 (dk_at dksX2_byLevel_1 12 rfl rfl)
theorem dX2_byLevel_37 : decode cX2_byLevel 37 = .ok (.aload 4, 2) := dk_25 4 (dk_at dksX2_byLevel_1 14 rfl rfl)
theorem dX2_byLevel_39 : decode cX2_byLevel 39 = .ok (.invokevirtual 265, 3) := dk_182 1 9 (dk_at dksX2_byLevel_1 16 rfl rfl)
theorem dX2_byLevel_42 : decode cX2_byLevel 42 = .ok (.goto 4, 3) := dk_167 0 4 (dk_at dksX2_byLevel_1 19 rfl rfl)
theorem dX2_byLevel_45 : decode cX2_byLevel 45 = .ok (.lconst 0, 1) := dk_9 (dk_at dksX2_byLevel_1 22 rfl rfl)
theorem dX2_byLevel_46 : decode cX2_byLevel 46 = .ok (.lastore, 1) := dk_80 (dk_at dksX2_byLevel_1 23 rfl rfl)
theorem dX2_byLevel_47 : decode cX2_byLevel 47 = .ok (.iload 5, 2) := dk_21 5 (dk_at dksX2_byLevel_2 0 rfl rfl)
theorem dX2_byLevel_49 : decode cX2_byLevel 49 = .ok (.iload 7, 2) := dk_21 7 (dk_at dksX2_byLevel_2 2 rfl rfl)
theorem dX2_byLevel_51 : decode cX2_byLevel 51 = .ok (.ior, 1) := dk_128 (dk_at dksX2_byLevel_2 4 rfl rfl)
theorem dX2_byLevel_52 : decode cX2_byLevel 52 = .ok (.istore 5, 2) := dk_54 5 (dk_at dksX2_byLevel_2 5 rfl rfl)
theorem dX2_byLevel_54 : decode cX2_byLevel 54 = .ok (.iinc 6 1, 3) := dk_132 6 1 (dk_at dksX2_byLevel_2 7 rfl rfl)
theorem dX2_byLevel_57 : decode cX2_byLevel 57 = .ok (.goto (-51), 3) := dk_167 255 205 (dk_at dksX2_byLevel_2 10 rfl rfl)
theorem dX2_byLevel_60 : decode cX2_byLevel 60 = .ok (.lconst 0, 1) := dk_9 (dk_at dksX2_byLevel_2 13 rfl rfl)
theorem dX2_byLevel_61 : decode cX2_byLevel 61 = .ok (.lstore 6, 2) := dk_55 6 (dk_at dksX2_byLevel_2 14 rfl rfl)
theorem dX2_byLevel_63 : decode cX2_byLevel 63 = .ok (.ldc2_w 306, 3) := dk_20 1 50 (dk_at dksX2_byLevel_2 16 rfl rfl)
theorem dX2_byLevel_66 : decode cX2_byLevel 66 = .ok (.lstore 8, 2) := dk_55 8 (dk_at dksX2_byLevel_2 19 rfl rfl)
theorem dX2_byLevel_68 : decode cX2_byLevel 68 = .ok (.lload 6, 2) := dk_22 6 (dk_at dksX2_byLevel_2 21 rfl rfl)
theorem dX2_byLevel_70 : decode cX2_byLevel 70 = .ok (.lload 8, 2) := dk_22 8 (dk_at dksX2_byLevel_3 0 rfl rfl)
theorem dX2_byLevel_72 : decode cX2_byLevel 72 = .ok (.lcmp, 1) := dk_148 (dk_at dksX2_byLevel_3 2 rfl rfl)
theorem dX2_byLevel_73 : decode cX2_byLevel 73 = .ok (.ifCond .ge 43, 3) := dk_156 0 43 (dk_at dksX2_byLevel_3 3 rfl rfl)
theorem dX2_byLevel_76 : decode cX2_byLevel 76 = .ok (.lload 6, 2) := dk_22 6 (dk_at dksX2_byLevel_3 6 rfl rfl)
theorem dX2_byLevel_78 : decode cX2_byLevel 78 = .ok (.lload 8, 2) := dk_22 8 (dk_at dksX2_byLevel_3 8 rfl rfl)
theorem dX2_byLevel_80 : decode cX2_byLevel 80 = .ok (.ladd, 1) := dk_97 (dk_at dksX2_byLevel_3 10 rfl rfl)
theorem dX2_byLevel_81 : decode cX2_byLevel 81 = .ok (.lconst 1, 1) := dk_10 (dk_at dksX2_byLevel_3 11 rfl rfl)
theorem dX2_byLevel_82 : decode cX2_byLevel 82 = .ok (.ladd, 1) := dk_97 (dk_at dksX2_byLevel_3 12 rfl rfl)
theorem dX2_byLevel_83 : decode cX2_byLevel 83 = .ok (.ldc2_w 308, 3) := dk_20 1 52 (dk_at dksX2_byLevel_3 13 rfl rfl)
theorem dX2_byLevel_86 : decode cX2_byLevel 86 = .ok (.ldiv, 1) := dk_109 (dk_at dksX2_byLevel_3 16 rfl rfl)
theorem dX2_byLevel_87 : decode cX2_byLevel 87 = .ok (.lstore 10, 2) := dk_55 10 (dk_at dksX2_byLevel_3 17 rfl rfl)
theorem dX2_byLevel_89 : decode cX2_byLevel 89 = .ok (.aload_n 0, 1) := dk_42 (dk_at dksX2_byLevel_3 19 rfl rfl)
theorem dX2_byLevel_90 : decode cX2_byLevel 90 = .ok (.lload 10, 2) := dk_22 10 (dk_at dksX2_byLevel_3 20 rfl rfl)
theorem dX2_byLevel_92 : decode cX2_byLevel 92 = .ok (.invokevirtual 310, 3) := dk_182 1 54 (dk_at dksX2_byLevel_4 0 rfl rfl)
theorem dX2_byLevel_95 : decode cX2_byLevel 95 = .ok (.lload_n 2, 1) := dk_32 (dk_at dksX2_byLevel_4 3 rfl rfl)
theorem dX2_byLevel_96 : decode cX2_byLevel 96 = .ok (.lcmp, 1) := dk_148 (dk_at dksX2_byLevel_4 4 rfl rfl)
theorem dX2_byLevel_97 : decode cX2_byLevel 97 = .ok (.ifCond .gt 10, 3) := dk_157 0 10 (dk_at dksX2_byLevel_4 5 rfl rfl)
theorem dX2_byLevel_100 : decode cX2_byLevel 100 = .ok (.lload 10, 2) := dk_22 10 (dk_at dksX2_byLevel_4 8 rfl rfl)
theorem dX2_byLevel_102 : decode cX2_byLevel 102 = .ok (.lstore 6, 2) := dk_55 6 (dk_at dksX2_byLevel_4 10 rfl rfl)
theorem dX2_byLevel_104 : decode cX2_byLevel 104 = .ok (.goto 9, 3) := dk_167 0 9 (dk_at dksX2_byLevel_4 12 rfl rfl)
theorem dX2_byLevel_107 : decode cX2_byLevel 107 = .ok (.lload 10, 2) := dk_22 10 (dk_at dksX2_byLevel_4 15 rfl rfl)
theorem dX2_byLevel_109 : decode cX2_byLevel 109 = .ok (.lconst 1, 1) := dk_10 (dk_at dksX2_byLevel_4 17 rfl rfl)
theorem dX2_byLevel_110 : decode cX2_byLevel 110 = .ok (.lsub, 1) := dk_101 (dk_at dksX2_byLevel_4 18 rfl rfl)
theorem dX2_byLevel_111 : decode cX2_byLevel 111 = .ok (.lstore 8, 2) := dk_55 8 (dk_at dksX2_byLevel_4 19 rfl rfl)
theorem dX2_byLevel_113 : decode cX2_byLevel 113 = .ok (.goto (-45), 3) := dk_167 255 211 (dk_at dksX2_byLevel_4 21 rfl rfl)
theorem dX2_byLevel_116 : decode cX2_byLevel 116 = .ok (.lload_n 2, 1) := dk_32 (dk_at dksX2_byLevel_5 0 rfl rfl)
theorem dX2_byLevel_117 : decode cX2_byLevel 117 = .ok (.aload_n 0, 1) := dk_42 (dk_at dksX2_byLevel_5 1 rfl rfl)
theorem dX2_byLevel_118 : decode cX2_byLevel 118 = .ok (.lload 6, 2) := dk_22 6 (dk_at dksX2_byLevel_5 2 rfl rfl)
theorem dX2_byLevel_120 : decode cX2_byLevel 120 = .ok (.invokevirtual 310, 3) := dk_182 1 54 (dk_at dksX2_byLevel_5 4 rfl rfl)
theorem dX2_byLevel_123 : decode cX2_byLevel 123 = .ok (.lsub, 1) := dk_101 (dk_at dksX2_byLevel_5 7 rfl rfl)
theorem dX2_byLevel_124 : decode cX2_byLevel 124 = .ok (.lstore 10, 2) := dk_55 10 (dk_at dksX2_byLevel_5 8 rfl rfl)
theorem dX2_byLevel_126 : decode cX2_byLevel 126 = .ok (.iconst 0, 1) := dk_3 (dk_at dksX2_byLevel_5 10 rfl rfl)
theorem dX2_byLevel_127 : decode cX2_byLevel 127 = .ok (.istore 12, 2) := dk_54 12 (dk_at dksX2_byLevel_5 11 rfl rfl)
theorem dX2_byLevel_129 : decode cX2_byLevel 129 = .ok (.iload 12, 2) := dk_21 12 (dk_at dksX2_byLevel_5 13 rfl rfl)
theorem dX2_byLevel_131 : decode cX2_byLevel 131 = .ok (.bipush 12, 2) := dk_16 12 (dk_at dksX2_byLevel_5 15 rfl rfl)
theorem dX2_byLevel_133 : decode cX2_byLevel 133 = .ok (.if_icmp .ge 84, 3) := dk_162 0 84 (dk_at dksX2_byLevel_5 17 rfl rfl)
theorem dX2_byLevel_136 : decode cX2_byLevel 136 = .ok (.lload 10, 2) := dk_22 10 (dk_at dksX2_byLevel_5 20 rfl rfl)
theorem dX2_byLevel_138 : decode cX2_byLevel 138 = .ok (.lconst 0, 1) := dk_9 (dk_at dksX2_byLevel_5 22 rfl rfl)
theorem dX2_byLevel_139 : decode cX2_byLevel 139 = .ok (.lcmp, 1) := dk_148 (dk_at dksX2_byLevel_5 23 rfl rfl)
theorem dX2_byLevel_140 : decode cX2_byLevel 140 = .ok (.ifCond .le 20, 3) := dk_158 0 20 (dk_at dksX2_byLevel_6 0 rfl rfl)
theorem dX2_byLevel_143 : decode cX2_byLevel 143 = .ok (.aload_n 0, 1) := dk_42 (dk_at dksX2_byLevel_6 3 rfl rfl)
theorem dX2_byLevel_144 : decode cX2_byLevel 144 = .ok (.getfield 42, 3) := dk_180 0 42 (dk_at dksX2_byLevel_6 4 rfl rfl)
theorem dX2_byLevel_147 : decode cX2_byLevel 147 = .ok (.iload 12, 2) := dk_21 12 (dk_at dksX2_byLevel_6 7 rfl rfl)
theorem dX2_byLevel_149 : decode cX2_byLevel 149 = .ok (.laload, 1) := dk_47 (dk_at dksX2_byLevel_6 9 rfl rfl)
theorem dX2_byLevel_150 : decode cX2_byLevel 150 = .ok (.lload 6, 2) := dk_22 6 (dk_at dksX2_byLevel_6 10 rfl rfl)
theorem dX2_byLevel_152 : decode cX2_byLevel 152 = .ok (.lcmp, 1) := dk_148 (dk_at dksX2_byLevel_6 12 rfl rfl)
theorem dX2_byLevel_153 : decode cX2_byLevel 153 = .ok (.ifCond .le 7, 3) := dk_158 0 7 (dk_at dksX2_byLevel_6 13 rfl rfl)
theorem dX2_byLevel_156 : decode cX2_byLevel 156 = .ok (.iconst 1, 1) := dk_4 (dk_at dksX2_byLevel_6 16 rfl rfl)
theorem dX2_byLevel_157 : decode cX2_byLevel 157 = .ok (.goto 4, 3) := dk_167 0 4 (dk_at dksX2_byLevel_6 17 rfl rfl)
theorem dX2_byLevel_160 : decode cX2_byLevel 160 = .ok (.iconst 0, 1) := dk_3 (dk_at dksX2_byLevel_6 20 rfl rfl)
theorem dX2_byLevel_161 : decode cX2_byLevel 161 = .ok (.istore 13, 2) := dk_54 13 (dk_at dksX2_byLevel_6 21 rfl rfl)
theorem dX2_byLevel_163 : decode cX2_byLevel 163 = .ok (.aload_n 0, 1) := dk_42 (dk_at dksX2_byLevel_6 23 rfl rfl)
theorem dX2_byLevel_164 : decode cX2_byLevel 164 = .ok (.aload_n 1, 1) := dk_43 (dk_at dksX2_byLevel_7 0 rfl rfl)
theorem dX2_byLevel_165 : decode cX2_byLevel 165 = .ok (.iload 12, 2) := dk_21 12 (dk_at dksX2_byLevel_7 1 rfl rfl)
theorem dX2_byLevel_167 : decode cX2_byLevel 167 = .ok (.lload 6, 2) := dk_22 6 (dk_at dksX2_byLevel_7 3 rfl rfl)
theorem dX2_byLevel_169 : decode cX2_byLevel 169 = .ok (.aload_n 0, 1) := dk_42 (dk_at dksX2_byLevel_7 5 rfl rfl)
theorem dX2_byLevel_170 : decode cX2_byLevel 170 = .ok (.getfield 42, 3) := dk_180 0 42 (dk_at dksX2_byLevel_7 6 rfl rfl)
theorem dX2_byLevel_173 : decode cX2_byLevel 173 = .ok (.iload 12, 2) := dk_21 12 (dk_at dksX2_byLevel_7 9 rfl rfl)
theorem dX2_byLevel_175 : decode cX2_byLevel 175 = .ok (.laload, 1) := dk_47 (dk_at dksX2_byLevel_7 11 rfl rfl)
theorem dX2_byLevel_176 : decode cX2_byLevel 176 = .ok (.invokestatic 197, 3) := dk_184 0 197 (dk_at dksX2_byLevel_7 12 rfl rfl)
theorem dX2_byLevel_179 : decode cX2_byLevel 179 = .ok (.iload 13, 2) := dk_21 13 (dk_at dksX2_byLevel_7 15 rfl rfl)
theorem dX2_byLevel_181 : decode cX2_byLevel 181 = .ok (.ifCond .eq 7, 3) := dk_153 0 7 (dk_at dksX2_byLevel_7 17 rfl rfl)
theorem dX2_byLevel_184 : decode cX2_byLevel 184 = .ok (.lconst 1, 1) := dk_10 (dk_at dksX2_byLevel_7 20 rfl rfl)
theorem dX2_byLevel_185 : decode cX2_byLevel 185 = .ok (.goto 4, 3) := dk_167 0 4 (dk_at dksX2_byLevel_7 21 rfl rfl)
theorem dX2_byLevel_188 : decode cX2_byLevel 188 = .ok (.lconst 0, 1) := dk_9 (dk_at dksX2_byLevel_8 0 rfl rfl)
theorem dX2_byLevel_189 : decode cX2_byLevel 189 = .ok (.ladd, 1) := dk_97 (dk_at dksX2_byLevel_8 1 rfl rfl)
theorem dX2_byLevel_190 : decode cX2_byLevel 190 = .ok (.aload 4, 2) := dk_25 4 (dk_at dksX2_byLevel_8 2 rfl rfl)
theorem dX2_byLevel_192 : decode cX2_byLevel 192 = .ok (.invokevirtual 230, 3) := dk_182 0 230 (dk_at dksX2_byLevel_8 4 rfl rfl)
theorem dX2_byLevel_195 : decode cX2_byLevel 195 = .ok (.pop2, 1) := dk_88 (dk_at dksX2_byLevel_8 7 rfl rfl)
theorem dX2_byLevel_196 : decode cX2_byLevel 196 = .ok (.lload 10, 2) := dk_22 10 (dk_at dksX2_byLevel_8 8 rfl rfl)
theorem dX2_byLevel_198 : decode cX2_byLevel 198 = .ok (.iload 13, 2) := dk_21 13 (dk_at dksX2_byLevel_8 10 rfl rfl)
theorem dX2_byLevel_200 : decode cX2_byLevel 200 = .ok (.ifCond .eq 7, 3) := dk_153 0 7 (dk_at dksX2_byLevel_8 12 rfl rfl)
theorem dX2_byLevel_203 : decode cX2_byLevel 203 = .ok (.lconst 1, 1) := dk_10 (dk_at dksX2_byLevel_8 15 rfl rfl)
theorem dX2_byLevel_204 : decode cX2_byLevel 204 = .ok (.goto 4, 3) := dk_167 0 4 (dk_at dksX2_byLevel_8 16 rfl rfl)
theorem dX2_byLevel_207 : decode cX2_byLevel 207 = .ok (.lconst 0, 1) := dk_9 (dk_at dksX2_byLevel_8 19 rfl rfl)
theorem dX2_byLevel_208 : decode cX2_byLevel 208 = .ok (.lsub, 1) := dk_101 (dk_at dksX2_byLevel_8 20 rfl rfl)
theorem dX2_byLevel_209 : decode cX2_byLevel 209 = .ok (.lstore 10, 2) := dk_55 10 (dk_at dksX2_byLevel_8 21 rfl rfl)
theorem dX2_byLevel_211 : decode cX2_byLevel 211 = .ok (.iinc 12 1, 3) := dk_132 12 1 (dk_at dksX2_byLevel_9 0 rfl rfl)
theorem dX2_byLevel_214 : decode cX2_byLevel 214 = .ok (.goto (-85), 3) := dk_167 255 171 (dk_at dksX2_byLevel_9 3 rfl rfl)
theorem dX2_byLevel_217 : decode cX2_byLevel 217 = .ok (.aload 4, 2) := dk_25 4 (dk_at dksX2_byLevel_9 6 rfl rfl)
theorem dX2_byLevel_219 : decode cX2_byLevel 219 = .ok (.getfield 223, 3) := dk_180 0 223 (dk_at dksX2_byLevel_9 8 rfl rfl)
theorem dX2_byLevel_222 : decode cX2_byLevel 222 = .ok (.iload 5, 2) := dk_21 5 (dk_at dksX2_byLevel_9 11 rfl rfl)
theorem dX2_byLevel_224 : decode cX2_byLevel 224 = .ok (.ifCond .eq 7, 3) := dk_153 0 7 (dk_at dksX2_byLevel_9 13 rfl rfl)
theorem dX2_byLevel_227 : decode cX2_byLevel 227 = .ok (.iconst 2, 1) := dk_5 (dk_at dksX2_byLevel_9 16 rfl rfl)
theorem dX2_byLevel_228 : decode cX2_byLevel 228 = .ok (.goto 4, 3) := dk_167 0 4 (dk_at dksX2_byLevel_9 17 rfl rfl)
theorem dX2_byLevel_231 : decode cX2_byLevel 231 = .ok (.iconst 3, 1) := dk_6 (dk_at dksX2_byLevel_9 20 rfl rfl)
theorem dX2_byLevel_232 : decode cX2_byLevel 232 = .ok (.dup2, 1) := dk_92 (dk_at dksX2_byLevel_9 21 rfl rfl)
theorem dX2_byLevel_233 : decode cX2_byLevel 233 = .ok (.laload, 1) := dk_47 (dk_at dksX2_byLevel_9 22 rfl rfl)
theorem dX2_byLevel_234 : decode cX2_byLevel 234 = .ok (.lload 10, 2) := dk_22 10 (dk_at dksX2_byLevel_10 0 rfl rfl)
theorem dX2_byLevel_236 : decode cX2_byLevel 236 = .ok (.ladd, 1) := dk_97 (dk_at dksX2_byLevel_10 2 rfl rfl)
theorem dX2_byLevel_237 : decode cX2_byLevel 237 = .ok (.lastore, 1) := dk_80 (dk_at dksX2_byLevel_10 3 rfl rfl)
theorem dX2_byLevel_238 : decode cX2_byLevel 238 = .ok (.return_, 1) := dk_177 (dk_at dksX2_byLevel_10 4 rfl rfl)
abbrev cX2_upTo : ByteArray := prog_14_method_32_code
def yX2_upTo : MethodName := ⟨RX2, "upTo", "(J)J"⟩
def dkwX2_upTo_1 : List UInt8 := [25, 5, 21, 7, 47, 55, 8, 33, 31, 22, 8, 184, 0, 197, 97, 66, 132, 7, 1, 167, 255, 230, 33, 173]
abbrev dktX2_upTo_1 : List UInt8 := dkwX2_upTo_1 ++ []
def dkwX2_upTo_0 : List UInt8 := [9, 66, 42, 180, 0, 42, 58, 5, 25, 5, 190, 54, 6, 3, 54, 7, 21, 7, 21, 6, 162, 0, 25]
abbrev dktX2_upTo_0 : List UInt8 := dkwX2_upTo_0 ++ dktX2_upTo_1
theorem dksX2_upTo_0 : cX2_upTo.data.toList.drop 0 = dktX2_upTo_0 := by decide +kernel
theorem dksX2_upTo_1 : cX2_upTo.data.toList.drop 23 = dktX2_upTo_1 := dk_seg dksX2_upTo_0 23 rfl rfl
theorem dX2_upTo_0 : decode cX2_upTo 0 = .ok (.lconst 0, 1) := dk_9 (dk_at dksX2_upTo_0 0 rfl rfl)
theorem dX2_upTo_1 : decode cX2_upTo 1 = .ok (.lstore_n 3, 1) := dk_66 (dk_at dksX2_upTo_0 1 rfl rfl)
theorem dX2_upTo_2 : decode cX2_upTo 2 = .ok (.aload_n 0, 1) := dk_42 (dk_at dksX2_upTo_0 2 rfl rfl)
theorem dX2_upTo_3 : decode cX2_upTo 3 = .ok (.getfield 42, 3) := dk_180 0 42 (dk_at dksX2_upTo_0 3 rfl rfl)
theorem dX2_upTo_6 : decode cX2_upTo 6 = .ok (.astore 5, 2) := dk_58 5 (dk_at dksX2_upTo_0 6 rfl rfl)
theorem dX2_upTo_8 : decode cX2_upTo 8 = .ok (.aload 5, 2) := dk_25 5 (dk_at dksX2_upTo_0 8 rfl rfl)
theorem dX2_upTo_10 : decode cX2_upTo 10 = .ok (.arraylength, 1) := dk_190 (dk_at dksX2_upTo_0 10 rfl rfl)
theorem dX2_upTo_11 : decode cX2_upTo 11 = .ok (.istore 6, 2) := dk_54 6 (dk_at dksX2_upTo_0 11 rfl rfl)
theorem dX2_upTo_13 : decode cX2_upTo 13 = .ok (.iconst 0, 1) := dk_3 (dk_at dksX2_upTo_0 13 rfl rfl)
theorem dX2_upTo_14 : decode cX2_upTo 14 = .ok (.istore 7, 2) := dk_54 7 (dk_at dksX2_upTo_0 14 rfl rfl)
theorem dX2_upTo_16 : decode cX2_upTo 16 = .ok (.iload 7, 2) := dk_21 7 (dk_at dksX2_upTo_0 16 rfl rfl)
theorem dX2_upTo_18 : decode cX2_upTo 18 = .ok (.iload 6, 2) := dk_21 6 (dk_at dksX2_upTo_0 18 rfl rfl)
theorem dX2_upTo_20 : decode cX2_upTo 20 = .ok (.if_icmp .ge 25, 3) := dk_162 0 25 (dk_at dksX2_upTo_0 20 rfl rfl)
theorem dX2_upTo_23 : decode cX2_upTo 23 = .ok (.aload 5, 2) := dk_25 5 (dk_at dksX2_upTo_1 0 rfl rfl)
theorem dX2_upTo_25 : decode cX2_upTo 25 = .ok (.iload 7, 2) := dk_21 7 (dk_at dksX2_upTo_1 2 rfl rfl)
theorem dX2_upTo_27 : decode cX2_upTo 27 = .ok (.laload, 1) := dk_47 (dk_at dksX2_upTo_1 4 rfl rfl)
theorem dX2_upTo_28 : decode cX2_upTo 28 = .ok (.lstore 8, 2) := dk_55 8 (dk_at dksX2_upTo_1 5 rfl rfl)
theorem dX2_upTo_30 : decode cX2_upTo 30 = .ok (.lload_n 3, 1) := dk_33 (dk_at dksX2_upTo_1 7 rfl rfl)
theorem dX2_upTo_31 : decode cX2_upTo 31 = .ok (.lload_n 1, 1) := dk_31 (dk_at dksX2_upTo_1 8 rfl rfl)
theorem dX2_upTo_32 : decode cX2_upTo 32 = .ok (.lload 8, 2) := dk_22 8 (dk_at dksX2_upTo_1 9 rfl rfl)
theorem dX2_upTo_34 : decode cX2_upTo 34 = .ok (.invokestatic 197, 3) := dk_184 0 197 (dk_at dksX2_upTo_1 11 rfl rfl)
theorem dX2_upTo_37 : decode cX2_upTo 37 = .ok (.ladd, 1) := dk_97 (dk_at dksX2_upTo_1 14 rfl rfl)
theorem dX2_upTo_38 : decode cX2_upTo 38 = .ok (.lstore_n 3, 1) := dk_66 (dk_at dksX2_upTo_1 15 rfl rfl)
theorem dX2_upTo_39 : decode cX2_upTo 39 = .ok (.iinc 7 1, 3) := dk_132 7 1 (dk_at dksX2_upTo_1 16 rfl rfl)
theorem dX2_upTo_42 : decode cX2_upTo 42 = .ok (.goto (-26), 3) := dk_167 255 230 (dk_at dksX2_upTo_1 19 rfl rfl)
theorem dX2_upTo_45 : decode cX2_upTo 45 = .ok (.lload_n 3, 1) := dk_33 (dk_at dksX2_upTo_1 22 rfl rfl)
theorem dX2_upTo_46 : decode cX2_upTo 46 = .ok (.lreturn, 1) := dk_173 (dk_at dksX2_upTo_1 23 rfl rfl)
abbrev cX2_begins : ByteArray := prog_14_method_2_code
def yX2_begins : MethodName := ⟨RX2, "begins", "()V"⟩
def dkwX2_begins_6 : List UInt8 := [181, 0, 127, 42, 3, 181, 0, 130, 177]
abbrev dktX2_begins_6 : List UInt8 := dkwX2_begins_6 ++ []
def dkwX2_begins_5 : List UInt8 := [42, 3, 181, 0, 115, 42, 3, 181, 0, 118, 42, 3, 181, 0, 121, 42, 3, 181, 0, 124, 42, 3]
abbrev dktX2_begins_5 : List UInt8 := dkwX2_begins_5 ++ dktX2_begins_6
def dkwX2_begins_4 : List UInt8 := [180, 0, 32, 27, 3, 79, 42, 180, 0, 35, 27, 9, 80, 132, 1, 1, 167, 255, 233, 42, 3, 181, 0, 111]
abbrev dktX2_begins_4 : List UInt8 := dkwX2_begins_4 ++ dktX2_begins_5
def dkwX2_begins_3 : List UInt8 := [42, 180, 0, 28, 27, 3, 79, 132, 1, 1, 167, 255, 240, 3, 60, 27, 16, 10, 162, 0, 23, 42]
abbrev dktX2_begins_3 : List UInt8 := dkwX2_begins_3 ++ dktX2_begins_4
def dkwX2_begins_2 : List UInt8 := [43, 29, 50, 58, 4, 25, 4, 182, 0, 110, 132, 3, 1, 167, 255, 238, 3, 60, 27, 16, 12, 162, 0, 16]
abbrev dktX2_begins_2 : List UInt8 := dkwX2_begins_2 ++ dktX2_begins_3
def dkwX2_begins_1 : List UInt8 := [182, 0, 107, 132, 3, 1, 167, 255, 238, 42, 180, 0, 19, 76, 43, 190, 61, 3, 62, 29, 28, 162, 0, 19]
abbrev dktX2_begins_1 : List UInt8 := dkwX2_begins_1 ++ dktX2_begins_2
def dkwX2_begins_0 : List UInt8 := [42, 180, 0, 11, 76, 43, 190, 61, 3, 62, 29, 28, 162, 0, 19, 43, 29, 50, 58, 4, 25, 4]
abbrev dktX2_begins_0 : List UInt8 := dkwX2_begins_0 ++ dktX2_begins_1
theorem dksX2_begins_0 : cX2_begins.data.toList.drop 0 = dktX2_begins_0 := by decide +kernel
theorem dksX2_begins_1 : cX2_begins.data.toList.drop 22 = dktX2_begins_1 := dk_seg dksX2_begins_0 22 rfl rfl
theorem dksX2_begins_2 : cX2_begins.data.toList.drop 46 = dktX2_begins_2 := dk_seg dksX2_begins_1 24 rfl rfl
theorem dksX2_begins_3 : cX2_begins.data.toList.drop 70 = dktX2_begins_3 := dk_seg dksX2_begins_2 24 rfl rfl
theorem dksX2_begins_4 : cX2_begins.data.toList.drop 92 = dktX2_begins_4 := dk_seg dksX2_begins_3 22 rfl rfl
theorem dksX2_begins_5 : cX2_begins.data.toList.drop 116 = dktX2_begins_5 := dk_seg dksX2_begins_4 24 rfl rfl
theorem dksX2_begins_6 : cX2_begins.data.toList.drop 138 = dktX2_begins_6 := dk_seg dksX2_begins_5 22 rfl rfl
theorem dX2_begins_0 : decode cX2_begins 0 = .ok (.aload_n 0, 1) := dk_42 (dk_at dksX2_begins_0 0 rfl rfl)
theorem dX2_begins_1 : decode cX2_begins 1 = .ok (.getfield 11, 3) := dk_180 0 11 (dk_at dksX2_begins_0 1 rfl rfl)
theorem dX2_begins_4 : decode cX2_begins 4 = .ok (.astore_n 1, 1) := dk_76 (dk_at dksX2_begins_0 4 rfl rfl)
theorem dX2_begins_5 : decode cX2_begins 5 = .ok (.aload_n 1, 1) := dk_43 (dk_at dksX2_begins_0 5 rfl rfl)
theorem dX2_begins_6 : decode cX2_begins 6 = .ok (.arraylength, 1) := dk_190 (dk_at dksX2_begins_0 6 rfl rfl)
theorem dX2_begins_7 : decode cX2_begins 7 = .ok (.istore_n 2, 1) := dk_61 (dk_at dksX2_begins_0 7 rfl rfl)
theorem dX2_begins_8 : decode cX2_begins 8 = .ok (.iconst 0, 1) := dk_3 (dk_at dksX2_begins_0 8 rfl rfl)
theorem dX2_begins_9 : decode cX2_begins 9 = .ok (.istore_n 3, 1) := dk_62 (dk_at dksX2_begins_0 9 rfl rfl)
theorem dX2_begins_10 : decode cX2_begins 10 = .ok (.iload_n 3, 1) := dk_29 (dk_at dksX2_begins_0 10 rfl rfl)
theorem dX2_begins_11 : decode cX2_begins 11 = .ok (.iload_n 2, 1) := dk_28 (dk_at dksX2_begins_0 11 rfl rfl)
theorem dX2_begins_12 : decode cX2_begins 12 = .ok (.if_icmp .ge 19, 3) := dk_162 0 19 (dk_at dksX2_begins_0 12 rfl rfl)
theorem dX2_begins_15 : decode cX2_begins 15 = .ok (.aload_n 1, 1) := dk_43 (dk_at dksX2_begins_0 15 rfl rfl)
theorem dX2_begins_16 : decode cX2_begins 16 = .ok (.iload_n 3, 1) := dk_29 (dk_at dksX2_begins_0 16 rfl rfl)
theorem dX2_begins_17 : decode cX2_begins 17 = .ok (.aaload, 1) := dk_50 (dk_at dksX2_begins_0 17 rfl rfl)
theorem dX2_begins_18 : decode cX2_begins 18 = .ok (.astore 4, 2) := dk_58 4 (dk_at dksX2_begins_0 18 rfl rfl)
theorem dX2_begins_20 : decode cX2_begins 20 = .ok (.aload 4, 2) := dk_25 4 (dk_at dksX2_begins_0 20 rfl rfl)
theorem dX2_begins_22 : decode cX2_begins 22 = .ok (.invokevirtual 107, 3) := dk_182 0 107 (dk_at dksX2_begins_1 0 rfl rfl)
theorem dX2_begins_25 : decode cX2_begins 25 = .ok (.iinc 3 1, 3) := dk_132 3 1 (dk_at dksX2_begins_1 3 rfl rfl)
theorem dX2_begins_28 : decode cX2_begins 28 = .ok (.goto (-18), 3) := dk_167 255 238 (dk_at dksX2_begins_1 6 rfl rfl)
theorem dX2_begins_31 : decode cX2_begins 31 = .ok (.aload_n 0, 1) := dk_42 (dk_at dksX2_begins_1 9 rfl rfl)
theorem dX2_begins_32 : decode cX2_begins 32 = .ok (.getfield 19, 3) := dk_180 0 19 (dk_at dksX2_begins_1 10 rfl rfl)
theorem dX2_begins_35 : decode cX2_begins 35 = .ok (.astore_n 1, 1) := dk_76 (dk_at dksX2_begins_1 13 rfl rfl)
theorem dX2_begins_36 : decode cX2_begins 36 = .ok (.aload_n 1, 1) := dk_43 (dk_at dksX2_begins_1 14 rfl rfl)
theorem dX2_begins_37 : decode cX2_begins 37 = .ok (.arraylength, 1) := dk_190 (dk_at dksX2_begins_1 15 rfl rfl)
theorem dX2_begins_38 : decode cX2_begins 38 = .ok (.istore_n 2, 1) := dk_61 (dk_at dksX2_begins_1 16 rfl rfl)
theorem dX2_begins_39 : decode cX2_begins 39 = .ok (.iconst 0, 1) := dk_3 (dk_at dksX2_begins_1 17 rfl rfl)
theorem dX2_begins_40 : decode cX2_begins 40 = .ok (.istore_n 3, 1) := dk_62 (dk_at dksX2_begins_1 18 rfl rfl)
theorem dX2_begins_41 : decode cX2_begins 41 = .ok (.iload_n 3, 1) := dk_29 (dk_at dksX2_begins_1 19 rfl rfl)
theorem dX2_begins_42 : decode cX2_begins 42 = .ok (.iload_n 2, 1) := dk_28 (dk_at dksX2_begins_1 20 rfl rfl)
theorem dX2_begins_43 : decode cX2_begins 43 = .ok (.if_icmp .ge 19, 3) := dk_162 0 19 (dk_at dksX2_begins_1 21 rfl rfl)
theorem dX2_begins_46 : decode cX2_begins 46 = .ok (.aload_n 1, 1) := dk_43 (dk_at dksX2_begins_2 0 rfl rfl)
theorem dX2_begins_47 : decode cX2_begins 47 = .ok (.iload_n 3, 1) := dk_29 (dk_at dksX2_begins_2 1 rfl rfl)
theorem dX2_begins_48 : decode cX2_begins 48 = .ok (.aaload, 1) := dk_50 (dk_at dksX2_begins_2 2 rfl rfl)
theorem dX2_begins_49 : decode cX2_begins 49 = .ok (.astore 4, 2) := dk_58 4 (dk_at dksX2_begins_2 3 rfl rfl)
theorem dX2_begins_51 : decode cX2_begins 51 = .ok (.aload 4, 2) := dk_25 4 (dk_at dksX2_begins_2 5 rfl rfl)
theorem dX2_begins_53 : decode cX2_begins 53 = .ok (.invokevirtual 110, 3) := dk_182 0 110 (dk_at dksX2_begins_2 7 rfl rfl)
theorem dX2_begins_56 : decode cX2_begins 56 = .ok (.iinc 3 1, 3) := dk_132 3 1 (dk_at dksX2_begins_2 10 rfl rfl)
theorem dX2_begins_59 : decode cX2_begins 59 = .ok (.goto (-18), 3) := dk_167 255 238 (dk_at dksX2_begins_2 13 rfl rfl)
theorem dX2_begins_62 : decode cX2_begins 62 = .ok (.iconst 0, 1) := dk_3 (dk_at dksX2_begins_2 16 rfl rfl)
theorem dX2_begins_63 : decode cX2_begins 63 = .ok (.istore_n 1, 1) := dk_60 (dk_at dksX2_begins_2 17 rfl rfl)
theorem dX2_begins_64 : decode cX2_begins 64 = .ok (.iload_n 1, 1) := dk_27 (dk_at dksX2_begins_2 18 rfl rfl)
theorem dX2_begins_65 : decode cX2_begins 65 = .ok (.bipush 12, 2) := dk_16 12 (dk_at dksX2_begins_2 19 rfl rfl)
theorem dX2_begins_67 : decode cX2_begins 67 = .ok (.if_icmp .ge 16, 3) := dk_162 0 16 (dk_at dksX2_begins_2 21 rfl rfl)
theorem dX2_begins_70 : decode cX2_begins 70 = .ok (.aload_n 0, 1) := dk_42 (dk_at dksX2_begins_3 0 rfl rfl)
theorem dX2_begins_71 : decode cX2_begins 71 = .ok (.getfield 28, 3) := dk_180 0 28 (dk_at dksX2_begins_3 1 rfl rfl)
theorem dX2_begins_74 : decode cX2_begins 74 = .ok (.iload_n 1, 1) := dk_27 (dk_at dksX2_begins_3 4 rfl rfl)
theorem dX2_begins_75 : decode cX2_begins 75 = .ok (.iconst 0, 1) := dk_3 (dk_at dksX2_begins_3 5 rfl rfl)
theorem dX2_begins_76 : decode cX2_begins 76 = .ok (.iastore, 1) := dk_79 (dk_at dksX2_begins_3 6 rfl rfl)
theorem dX2_begins_77 : decode cX2_begins 77 = .ok (.iinc 1 1, 3) := dk_132 1 1 (dk_at dksX2_begins_3 7 rfl rfl)
theorem dX2_begins_80 : decode cX2_begins 80 = .ok (.goto (-16), 3) := dk_167 255 240 (dk_at dksX2_begins_3 10 rfl rfl)
theorem dX2_begins_83 : decode cX2_begins 83 = .ok (.iconst 0, 1) := dk_3 (dk_at dksX2_begins_3 13 rfl rfl)
theorem dX2_begins_84 : decode cX2_begins 84 = .ok (.istore_n 1, 1) := dk_60 (dk_at dksX2_begins_3 14 rfl rfl)
theorem dX2_begins_85 : decode cX2_begins 85 = .ok (.iload_n 1, 1) := dk_27 (dk_at dksX2_begins_3 15 rfl rfl)
theorem dX2_begins_86 : decode cX2_begins 86 = .ok (.bipush 10, 2) := dk_16 10 (dk_at dksX2_begins_3 16 rfl rfl)
theorem dX2_begins_88 : decode cX2_begins 88 = .ok (.if_icmp .ge 23, 3) := dk_162 0 23 (dk_at dksX2_begins_3 18 rfl rfl)
theorem dX2_begins_91 : decode cX2_begins 91 = .ok (.aload_n 0, 1) := dk_42 (dk_at dksX2_begins_3 21 rfl rfl)
theorem dX2_begins_92 : decode cX2_begins 92 = .ok (.getfield 32, 3) := dk_180 0 32 (dk_at dksX2_begins_4 0 rfl rfl)
theorem dX2_begins_95 : decode cX2_begins 95 = .ok (.iload_n 1, 1) := dk_27 (dk_at dksX2_begins_4 3 rfl rfl)
theorem dX2_begins_96 : decode cX2_begins 96 = .ok (.iconst 0, 1) := dk_3 (dk_at dksX2_begins_4 4 rfl rfl)
theorem dX2_begins_97 : decode cX2_begins 97 = .ok (.iastore, 1) := dk_79 (dk_at dksX2_begins_4 5 rfl rfl)
theorem dX2_begins_98 : decode cX2_begins 98 = .ok (.aload_n 0, 1) := dk_42 (dk_at dksX2_begins_4 6 rfl rfl)
theorem dX2_begins_99 : decode cX2_begins 99 = .ok (.getfield 35, 3) := dk_180 0 35 (dk_at dksX2_begins_4 7 rfl rfl)
theorem dX2_begins_102 : decode cX2_begins 102 = .ok (.iload_n 1, 1) := dk_27 (dk_at dksX2_begins_4 10 rfl rfl)
theorem dX2_begins_103 : decode cX2_begins 103 = .ok (.lconst 0, 1) := dk_9 (dk_at dksX2_begins_4 11 rfl rfl)
theorem dX2_begins_104 : decode cX2_begins 104 = .ok (.lastore, 1) := dk_80 (dk_at dksX2_begins_4 12 rfl rfl)
theorem dX2_begins_105 : decode cX2_begins 105 = .ok (.iinc 1 1, 3) := dk_132 1 1 (dk_at dksX2_begins_4 13 rfl rfl)
theorem dX2_begins_108 : decode cX2_begins 108 = .ok (.goto (-23), 3) := dk_167 255 233 (dk_at dksX2_begins_4 16 rfl rfl)
theorem dX2_begins_111 : decode cX2_begins 111 = .ok (.aload_n 0, 1) := dk_42 (dk_at dksX2_begins_4 19 rfl rfl)
theorem dX2_begins_112 : decode cX2_begins 112 = .ok (.iconst 0, 1) := dk_3 (dk_at dksX2_begins_4 20 rfl rfl)
theorem dX2_begins_113 : decode cX2_begins 113 = .ok (.putfield 111, 3) := dk_181 0 111 (dk_at dksX2_begins_4 21 rfl rfl)
theorem dX2_begins_116 : decode cX2_begins 116 = .ok (.aload_n 0, 1) := dk_42 (dk_at dksX2_begins_5 0 rfl rfl)
theorem dX2_begins_117 : decode cX2_begins 117 = .ok (.iconst 0, 1) := dk_3 (dk_at dksX2_begins_5 1 rfl rfl)
theorem dX2_begins_118 : decode cX2_begins 118 = .ok (.putfield 115, 3) := dk_181 0 115 (dk_at dksX2_begins_5 2 rfl rfl)
theorem dX2_begins_121 : decode cX2_begins 121 = .ok (.aload_n 0, 1) := dk_42 (dk_at dksX2_begins_5 5 rfl rfl)
theorem dX2_begins_122 : decode cX2_begins 122 = .ok (.iconst 0, 1) := dk_3 (dk_at dksX2_begins_5 6 rfl rfl)
theorem dX2_begins_123 : decode cX2_begins 123 = .ok (.putfield 118, 3) := dk_181 0 118 (dk_at dksX2_begins_5 7 rfl rfl)
theorem dX2_begins_126 : decode cX2_begins 126 = .ok (.aload_n 0, 1) := dk_42 (dk_at dksX2_begins_5 10 rfl rfl)
theorem dX2_begins_127 : decode cX2_begins 127 = .ok (.iconst 0, 1) := dk_3 (dk_at dksX2_begins_5 11 rfl rfl)
theorem dX2_begins_128 : decode cX2_begins 128 = .ok (.putfield 121, 3) := dk_181 0 121 (dk_at dksX2_begins_5 12 rfl rfl)
theorem dX2_begins_131 : decode cX2_begins 131 = .ok (.aload_n 0, 1) := dk_42 (dk_at dksX2_begins_5 15 rfl rfl)
theorem dX2_begins_132 : decode cX2_begins 132 = .ok (.iconst 0, 1) := dk_3 (dk_at dksX2_begins_5 16 rfl rfl)
theorem dX2_begins_133 : decode cX2_begins 133 = .ok (.putfield 124, 3) := dk_181 0 124 (dk_at dksX2_begins_5 17 rfl rfl)
theorem dX2_begins_136 : decode cX2_begins 136 = .ok (.aload_n 0, 1) := dk_42 (dk_at dksX2_begins_5 20 rfl rfl)
theorem dX2_begins_137 : decode cX2_begins 137 = .ok (.iconst 0, 1) := dk_3 (dk_at dksX2_begins_5 21 rfl rfl)
theorem dX2_begins_138 : decode cX2_begins 138 = .ok (.putfield 127, 3) := dk_181 0 127 (dk_at dksX2_begins_6 0 rfl rfl)
theorem dX2_begins_141 : decode cX2_begins 141 = .ok (.aload_n 0, 1) := dk_42 (dk_at dksX2_begins_6 3 rfl rfl)
theorem dX2_begins_142 : decode cX2_begins 142 = .ok (.iconst 0, 1) := dk_3 (dk_at dksX2_begins_6 4 rfl rfl)
theorem dX2_begins_143 : decode cX2_begins 143 = .ok (.putfield 130, 3) := dk_181 0 130 (dk_at dksX2_begins_6 5 rfl rfl)
theorem dX2_begins_146 : decode cX2_begins 146 = .ok (.return_, 1) := dk_177 (dk_at dksX2_begins_6 8 rfl rfl)
abbrev cX2_places : ByteArray := prog_14_method_9_code
def yX2_places : MethodName := ⟨RX2, "places", "(IIIII)Z"⟩
def dkwX2_places_7 : List UInt8 := [4, 172]
abbrev dktX2_places_7 : List UInt8 := dkwX2_places_7 ++ []
def dkwX2_places_6 : List UInt8 := [180, 0, 11, 27, 50, 28, 29, 21, 4, 21, 5, 182, 0, 159, 42, 89, 180, 0, 124, 4, 96, 181, 0, 124]
abbrev dktX2_places_6 : List UInt8 := dkwX2_places_6 ++ dktX2_places_7
def dkwX2_places_5 : List UInt8 := [21, 6, 4, 100, 46, 79, 132, 6, 255, 167, 255, 212, 42, 180, 0, 25, 28, 50, 21, 6, 27, 79, 42]
abbrev dktX2_places_5 : List UInt8 := dkwX2_places_5 ++ dktX2_places_6
def dkwX2_places_4 : List UInt8 := [182, 0, 140, 180, 0, 144, 29, 164, 0, 29, 42, 180, 0, 25, 28, 50, 21, 6, 42, 180, 0, 25, 28, 50]
abbrev dktX2_places_4 : List UInt8 := dkwX2_places_4 ++ dktX2_places_5
def dkwX2_places_3 : List UInt8 := [180, 0, 28, 28, 92, 46, 91, 4, 96, 79, 54, 6, 21, 6, 158, 0, 45, 42, 28, 21, 6, 4, 100]
abbrev dktX2_places_3 : List UInt8 := dkwX2_places_3 ++ dktX2_places_4
def dkwX2_places_2 : List UInt8 := [21, 6, 182, 0, 140, 29, 21, 4, 182, 0, 155, 153, 0, 5, 3, 172, 132, 6, 1, 167, 255, 224, 42]
abbrev dktX2_places_2 : List UInt8 := dkwX2_places_2 ++ dktX2_places_3
def dkwX2_places_1 : List UInt8 := [16, 40, 160, 0, 5, 3, 172, 3, 54, 6, 21, 6, 42, 180, 0, 28, 28, 46, 162, 0, 27, 42, 28]
abbrev dktX2_places_1 : List UInt8 := dkwX2_places_1 ++ dktX2_places_2
def dkwX2_places_0 : List UInt8 := [42, 28, 182, 0, 151, 154, 0, 23, 42, 180, 0, 28, 28, 46, 16, 6, 159, 0, 12, 42, 180, 0, 124]
abbrev dktX2_places_0 : List UInt8 := dkwX2_places_0 ++ dktX2_places_1
theorem dksX2_places_0 : cX2_places.data.toList.drop 0 = dktX2_places_0 := by decide +kernel
theorem dksX2_places_1 : cX2_places.data.toList.drop 23 = dktX2_places_1 := dk_seg dksX2_places_0 23 rfl rfl
theorem dksX2_places_2 : cX2_places.data.toList.drop 46 = dktX2_places_2 := dk_seg dksX2_places_1 23 rfl rfl
theorem dksX2_places_3 : cX2_places.data.toList.drop 69 = dktX2_places_3 := dk_seg dksX2_places_2 23 rfl rfl
theorem dksX2_places_4 : cX2_places.data.toList.drop 92 = dktX2_places_4 := dk_seg dksX2_places_3 23 rfl rfl
theorem dksX2_places_5 : cX2_places.data.toList.drop 116 = dktX2_places_5 := dk_seg dksX2_places_4 24 rfl rfl
theorem dksX2_places_6 : cX2_places.data.toList.drop 139 = dktX2_places_6 := dk_seg dksX2_places_5 23 rfl rfl
theorem dksX2_places_7 : cX2_places.data.toList.drop 163 = dktX2_places_7 := dk_seg dksX2_places_6 24 rfl rfl
theorem dX2_places_0 : decode cX2_places 0 = .ok (.aload_n 0, 1) := dk_42 (dk_at dksX2_places_0 0 rfl rfl)
theorem dX2_places_1 : decode cX2_places 1 = .ok (.iload_n 2, 1) := dk_28 (dk_at dksX2_places_0 1 rfl rfl)
theorem dX2_places_2 : decode cX2_places 2 = .ok (.invokevirtual 151, 3) := dk_182 0 151 (dk_at dksX2_places_0 2 rfl rfl)
theorem dX2_places_5 : decode cX2_places 5 = .ok (.ifCond .ne 23, 3) := dk_154 0 23 (dk_at dksX2_places_0 5 rfl rfl)
theorem dX2_places_8 : decode cX2_places 8 = .ok (.aload_n 0, 1) := dk_42 (dk_at dksX2_places_0 8 rfl rfl)
theorem dX2_places_9 : decode cX2_places 9 = .ok (.getfield 28, 3) := dk_180 0 28 (dk_at dksX2_places_0 9 rfl rfl)
theorem dX2_places_12 : decode cX2_places 12 = .ok (.iload_n 2, 1) := dk_28 (dk_at dksX2_places_0 12 rfl rfl)
theorem dX2_places_13 : decode cX2_places 13 = .ok (.iaload, 1) := dk_46 (dk_at dksX2_places_0 13 rfl rfl)
theorem dX2_places_14 : decode cX2_places 14 = .ok (.bipush 6, 2) := dk_16 6 (dk_at dksX2_places_0 14 rfl rfl)
theorem dX2_places_16 : decode cX2_places 16 = .ok (.if_icmp .eq 12, 3) := dk_159 0 12 (dk_at dksX2_places_0 16 rfl rfl)
theorem dX2_places_19 : decode cX2_places 19 = .ok (.aload_n 0, 1) := dk_42 (dk_at dksX2_places_0 19 rfl rfl)
theorem dX2_places_20 : decode cX2_places 20 = .ok (.getfield 124, 3) := dk_180 0 124 (dk_at dksX2_places_0 20 rfl rfl)
theorem dX2_places_23 : decode cX2_places 23 = .ok (.bipush 40, 2) := dk_16 40 (dk_at dksX2_places_1 0 rfl rfl)
theorem dX2_places_25 : decode cX2_places 25 = .ok (.if_icmp .ne 5, 3) := dk_160 0 5 (dk_at dksX2_places_1 2 rfl rfl)
theorem dX2_places_28 : decode cX2_places 28 = .ok (.iconst 0, 1) := dk_3 (dk_at dksX2_places_1 5 rfl rfl)
theorem dX2_places_29 : decode cX2_places 29 = .ok (.ireturn, 1) := dk_172 (dk_at dksX2_places_1 6 rfl rfl)
theorem dX2_places_30 : decode cX2_places 30 = .ok (.iconst 0, 1) := dk_3 (dk_at dksX2_places_1 7 rfl rfl)
theorem dX2_places_31 : decode cX2_places 31 = .ok (.istore 6, 2) := dk_54 6 (dk_at dksX2_places_1 8 rfl rfl)
theorem dX2_places_33 : decode cX2_places 33 = .ok (.iload 6, 2) := dk_21 6 (dk_at dksX2_places_1 10 rfl rfl)
theorem dX2_places_35 : decode cX2_places 35 = .ok (.aload_n 0, 1) := dk_42 (dk_at dksX2_places_1 12 rfl rfl)
theorem dX2_places_36 : decode cX2_places 36 = .ok (.getfield 28, 3) := dk_180 0 28 (dk_at dksX2_places_1 13 rfl rfl)
theorem dX2_places_39 : decode cX2_places 39 = .ok (.iload_n 2, 1) := dk_28 (dk_at dksX2_places_1 16 rfl rfl)
theorem dX2_places_40 : decode cX2_places 40 = .ok (.iaload, 1) := dk_46 (dk_at dksX2_places_1 17 rfl rfl)
theorem dX2_places_41 : decode cX2_places 41 = .ok (.if_icmp .ge 27, 3) := dk_162 0 27 (dk_at dksX2_places_1 18 rfl rfl)
theorem dX2_places_44 : decode cX2_places 44 = .ok (.aload_n 0, 1) := dk_42 (dk_at dksX2_places_1 21 rfl rfl)
theorem dX2_places_45 : decode cX2_places 45 = .ok (.iload_n 2, 1) := dk_28 (dk_at dksX2_places_1 22 rfl rfl)
theorem dX2_places_46 : decode cX2_places 46 = .ok (.iload 6, 2) := dk_21 6 (dk_at dksX2_places_2 0 rfl rfl)
theorem dX2_places_48 : decode cX2_places 48 = .ok (.invokevirtual 140, 3) := dk_182 0 140 (dk_at dksX2_places_2 2 rfl rfl)
theorem dX2_places_51 : decode cX2_places 51 = .ok (.iload_n 3, 1) := dk_29 (dk_at dksX2_places_2 5 rfl rfl)
theorem dX2_places_52 : decode cX2_places 52 = .ok (.iload 4, 2) := dk_21 4 (dk_at dksX2_places_2 6 rfl rfl)
theorem dX2_places_54 : decode cX2_places 54 = .ok (.invokevirtual 155, 3) := dk_182 0 155 (dk_at dksX2_places_2 8 rfl rfl)
theorem dX2_places_57 : decode cX2_places 57 = .ok (.ifCond .eq 5, 3) := dk_153 0 5 (dk_at dksX2_places_2 11 rfl rfl)
theorem dX2_places_60 : decode cX2_places 60 = .ok (.iconst 0, 1) := dk_3 (dk_at dksX2_places_2 14 rfl rfl)
theorem dX2_places_61 : decode cX2_places 61 = .ok (.ireturn, 1) := dk_172 (dk_at dksX2_places_2 15 rfl rfl)
theorem dX2_places_62 : decode cX2_places 62 = .ok (.iinc 6 1, 3) := dk_132 6 1 (dk_at dksX2_places_2 16 rfl rfl)
theorem dX2_places_65 : decode cX2_places 65 = .ok (.goto (-32), 3) := dk_167 255 224 (dk_at dksX2_places_2 19 rfl rfl)
theorem dX2_places_68 : decode cX2_places 68 = .ok (.aload_n 0, 1) := dk_42 (dk_at dksX2_places_2 22 rfl rfl)
theorem dX2_places_69 : decode cX2_places 69 = .ok (.getfield 28, 3) := dk_180 0 28 (dk_at dksX2_places_3 0 rfl rfl)
theorem dX2_places_72 : decode cX2_places 72 = .ok (.iload_n 2, 1) := dk_28 (dk_at dksX2_places_3 3 rfl rfl)
theorem dX2_places_73 : decode cX2_places 73 = .ok (.dup2, 1) := dk_92 (dk_at dksX2_places_3 4 rfl rfl)
theorem dX2_places_74 : decode cX2_places 74 = .ok (.iaload, 1) := dk_46 (dk_at dksX2_places_3 5 rfl rfl)
theorem dX2_places_75 : decode cX2_places 75 = .ok (.dup_x2, 1) := dk_91 (dk_at dksX2_places_3 6 rfl rfl)
theorem dX2_places_76 : decode cX2_places 76 = .ok (.iconst 1, 1) := dk_4 (dk_at dksX2_places_3 7 rfl rfl)
theorem dX2_places_77 : decode cX2_places 77 = .ok (.iadd, 1) := dk_96 (dk_at dksX2_places_3 8 rfl rfl)
theorem dX2_places_78 : decode cX2_places 78 = .ok (.iastore, 1) := dk_79 (dk_at dksX2_places_3 9 rfl rfl)
theorem dX2_places_79 : decode cX2_places 79 = .ok (.istore 6, 2) := dk_54 6 (dk_at dksX2_places_3 10 rfl rfl)
theorem dX2_places_81 : decode cX2_places 81 = .ok (.iload 6, 2) := dk_21 6 (dk_at dksX2_places_3 12 rfl rfl)
theorem dX2_places_83 : decode cX2_places 83 = .ok (.ifCond .le 45, 3) := dk_158 0 45 (dk_at dksX2_places_3 14 rfl rfl)
theorem dX2_places_86 : decode cX2_places 86 = .ok (.aload_n 0, 1) := dk_42 (dk_at dksX2_places_3 17 rfl rfl)
theorem dX2_places_87 : decode cX2_places 87 = .ok (.iload_n 2, 1) := dk_28 (dk_at dksX2_places_3 18 rfl rfl)
theorem dX2_places_88 : decode cX2_places 88 = .ok (.iload 6, 2) := dk_21 6 (dk_at dksX2_places_3 19 rfl rfl)
theorem dX2_places_90 : decode cX2_places 90 = .ok (.iconst 1, 1) := dk_4 (dk_at dksX2_places_3 21 rfl rfl)
theorem dX2_places_91 : decode cX2_places 91 = .ok (.isub, 1) := dk_100 (dk_at dksX2_places_3 22 rfl rfl)
theorem dX2_places_92 : decode cX2_places 92 = .ok (.invokevirtual 140, 3) := dk_182 0 140 (dk_at dksX2_places_4 0 rfl rfl)
theorem dX2_places_95 : decode cX2_places 95 = .ok (.getfield 144, 3) := dk_180 0 144 (dk_at dksX2_places_4 3 rfl rfl)
theorem dX2_places_98 : decode cX2_places 98 = .ok (.iload_n 3, 1) := dk_29 (dk_at dksX2_places_4 6 rfl rfl)
theorem dX2_places_99 : decode cX2_places 99 = .ok (.if_icmp .le 29, 3) := dk_164 0 29 (dk_at dksX2_places_4 7 rfl rfl)
theorem dX2_places_102 : decode cX2_places 102 = .ok (.aload_n 0, 1) := dk_42 (dk_at dksX2_places_4 10 rfl rfl)
theorem dX2_places_103 : decode cX2_places 103 = .ok (.getfield 25, 3) := dk_180 0 25 (dk_at dksX2_places_4 11 rfl rfl)
theorem dX2_places_106 : decode cX2_places 106 = .ok (.iload_n 2, 1) := dk_28 (dk_at dksX2_places_4 14 rfl rfl)
theorem dX2_places_107 : decode cX2_places 107 = .ok (.aaload, 1) := dk_50 (dk_at dksX2_places_4 15 rfl rfl)
theorem dX2_places_108 : decode cX2_places 108 = .ok (.iload 6, 2) := dk_21 6 (dk_at dksX2_places_4 16 rfl rfl)
theorem dX2_places_110 : decode cX2_places 110 = .ok (.aload_n 0, 1) := dk_42 (dk_at dksX2_places_4 18 rfl rfl)
theorem dX2_places_111 : decode cX2_places 111 = .ok (.getfield 25, 3) := dk_180 0 25 (dk_at dksX2_places_4 19 rfl rfl)
theorem dX2_places_114 : decode cX2_places 114 = .ok (.iload_n 2, 1) := dk_28 (dk_at dksX2_places_4 22 rfl rfl)
theorem dX2_places_115 : decode cX2_places 115 = .ok (.aaload, 1) := dk_50 (dk_at dksX2_places_4 23 rfl rfl)
theorem dX2_places_116 : decode cX2_places 116 = .ok (.iload 6, 2) := dk_21 6 (dk_at dksX2_places_5 0 rfl rfl)
theorem dX2_places_118 : decode cX2_places 118 = .ok (.iconst 1, 1) := dk_4 (dk_at dksX2_places_5 2 rfl rfl)
theorem dX2_places_119 : decode cX2_places 119 = .ok (.isub, 1) := dk_100 (dk_at dksX2_places_5 3 rfl rfl)
theorem dX2_places_120 : decode cX2_places 120 = .ok (.iaload, 1) := dk_46 (dk_at dksX2_places_5 4 rfl rfl)
theorem dX2_places_121 : decode cX2_places 121 = .ok (.iastore, 1) := dk_79 (dk_at dksX2_places_5 5 rfl rfl)
theorem dX2_places_122 : decode cX2_places 122 = .ok (.iinc 6 (-1), 3) := dk_132 6 255 (dk_at dksX2_places_5 6 rfl rfl)
theorem dX2_places_125 : decode cX2_places 125 = .ok (.goto (-44), 3) := dk_167 255 212 (dk_at dksX2_places_5 9 rfl rfl)
theorem dX2_places_128 : decode cX2_places 128 = .ok (.aload_n 0, 1) := dk_42 (dk_at dksX2_places_5 12 rfl rfl)
theorem dX2_places_129 : decode cX2_places 129 = .ok (.getfield 25, 3) := dk_180 0 25 (dk_at dksX2_places_5 13 rfl rfl)
theorem dX2_places_132 : decode cX2_places 132 = .ok (.iload_n 2, 1) := dk_28 (dk_at dksX2_places_5 16 rfl rfl)
theorem dX2_places_133 : decode cX2_places 133 = .ok (.aaload, 1) := dk_50 (dk_at dksX2_places_5 17 rfl rfl)
theorem dX2_places_134 : decode cX2_places 134 = .ok (.iload 6, 2) := dk_21 6 (dk_at dksX2_places_5 18 rfl rfl)
theorem dX2_places_136 : decode cX2_places 136 = .ok (.iload_n 1, 1) := dk_27 (dk_at dksX2_places_5 20 rfl rfl)
theorem dX2_places_137 : decode cX2_places 137 = .ok (.iastore, 1) := dk_79 (dk_at dksX2_places_5 21 rfl rfl)
theorem dX2_places_138 : decode cX2_places 138 = .ok (.aload_n 0, 1) := dk_42 (dk_at dksX2_places_5 22 rfl rfl)
theorem dX2_places_139 : decode cX2_places 139 = .ok (.getfield 11, 3) := dk_180 0 11 (dk_at dksX2_places_6 0 rfl rfl)
theorem dX2_places_142 : decode cX2_places 142 = .ok (.iload_n 1, 1) := dk_27 (dk_at dksX2_places_6 3 rfl rfl)
theorem dX2_places_143 : decode cX2_places 143 = .ok (.aaload, 1) := dk_50 (dk_at dksX2_places_6 4 rfl rfl)
theorem dX2_places_144 : decode cX2_places 144 = .ok (.iload_n 2, 1) := dk_28 (dk_at dksX2_places_6 5 rfl rfl)
theorem dX2_places_145 : decode cX2_places 145 = .ok (.iload_n 3, 1) := dk_29 (dk_at dksX2_places_6 6 rfl rfl)
theorem dX2_places_146 : decode cX2_places 146 = .ok (.iload 4, 2) := dk_21 4 (dk_at dksX2_places_6 7 rfl rfl)
theorem dX2_places_148 : decode cX2_places 148 = .ok (.iload 5, 2) := dk_21 5 (dk_at dksX2_places_6 9 rfl rfl)
theorem dX2_places_150 : decode cX2_places 150 = .ok (.invokevirtual 159, 3) := dk_182 0 159 (dk_at dksX2_places_6 11 rfl rfl)
theorem dX2_places_153 : decode cX2_places 153 = .ok (.aload_n 0, 1) := dk_42 (dk_at dksX2_places_6 14 rfl rfl)
theorem dX2_places_154 : decode cX2_places 154 = .ok (.dup, 1) := dk_89 (dk_at dksX2_places_6 15 rfl rfl)
theorem dX2_places_155 : decode cX2_places 155 = .ok (.getfield 124, 3) := dk_180 0 124 (dk_at dksX2_places_6 16 rfl rfl)
theorem dX2_places_158 : decode cX2_places 158 = .ok (.iconst 1, 1) := dk_4 (dk_at dksX2_places_6 19 rfl rfl)
theorem dX2_places_159 : decode cX2_places 159 = .ok (.iadd, 1) := dk_96 (dk_at dksX2_places_6 20 rfl rfl)
theorem dX2_places_160 : decode cX2_places 160 = .ok (.putfield 124, 3) := dk_181 0 124 (dk_at dksX2_places_6 21 rfl rfl)
theorem dX2_places_163 : decode cX2_places 163 = .ok (.iconst 1, 1) := dk_4 (dk_at dksX2_places_7 0 rfl rfl)
theorem dX2_places_164 : decode cX2_places 164 = .ok (.ireturn, 1) := dk_172 (dk_at dksX2_places_7 1 rfl rfl)
abbrev cX2_signs : ByteArray := prog_14_method_10_code
def yX2_signs : MethodName := ⟨RX2, "signs", "(III)Z"⟩
def dkwX2_signs_2 : List UInt8 := [182, 0, 177, 29, 96, 16, 10, 164, 0, 5, 3, 172, 25, 4, 28, 29, 182, 0, 180, 4, 172]
abbrev dktX2_signs_2 : List UInt8 := dkwX2_signs_2 ++ []
def dkwX2_signs_1 : List UInt8 := [157, 0, 33, 25, 4, 180, 0, 170, 7, 159, 0, 24, 25, 4, 28, 182, 0, 173, 157, 0, 15, 25, 4]
abbrev dktX2_signs_1 : List UInt8 := dkwX2_signs_1 ++ dktX2_signs_2
def dkwX2_signs_0 : List UInt8 := [42, 180, 0, 11, 27, 50, 58, 4, 25, 4, 180, 0, 163, 153, 0, 43, 25, 4, 180, 0, 166, 9, 148]
abbrev dktX2_signs_0 : List UInt8 := dkwX2_signs_0 ++ dktX2_signs_1
theorem dksX2_signs_0 : cX2_signs.data.toList.drop 0 = dktX2_signs_0 := by decide +kernel
theorem dksX2_signs_1 : cX2_signs.data.toList.drop 23 = dktX2_signs_1 := dk_seg dksX2_signs_0 23 rfl rfl
theorem dksX2_signs_2 : cX2_signs.data.toList.drop 46 = dktX2_signs_2 := dk_seg dksX2_signs_1 23 rfl rfl
theorem dX2_signs_0 : decode cX2_signs 0 = .ok (.aload_n 0, 1) := dk_42 (dk_at dksX2_signs_0 0 rfl rfl)
theorem dX2_signs_1 : decode cX2_signs 1 = .ok (.getfield 11, 3) := dk_180 0 11 (dk_at dksX2_signs_0 1 rfl rfl)
theorem dX2_signs_4 : decode cX2_signs 4 = .ok (.iload_n 1, 1) := dk_27 (dk_at dksX2_signs_0 4 rfl rfl)
theorem dX2_signs_5 : decode cX2_signs 5 = .ok (.aaload, 1) := dk_50 (dk_at dksX2_signs_0 5 rfl rfl)
theorem dX2_signs_6 : decode cX2_signs 6 = .ok (.astore 4, 2) := dk_58 4 (dk_at dksX2_signs_0 6 rfl rfl)
theorem dX2_signs_8 : decode cX2_signs 8 = .ok (.aload 4, 2) := dk_25 4 (dk_at dksX2_signs_0 8 rfl rfl)
theorem dX2_signs_10 : decode cX2_signs 10 = .ok (.getfield 163, 3) := dk_180 0 163 (dk_at dksX2_signs_0 10 rfl rfl)
theorem dX2_signs_13 : decode cX2_signs 13 = .ok (.ifCond .eq 43, 3) := dk_153 0 43 (dk_at dksX2_signs_0 13 rfl rfl)
theorem dX2_signs_16 : decode cX2_signs 16 = .ok (.aload 4, 2) := dk_25 4 (dk_at dksX2_signs_0 16 rfl rfl)
theorem dX2_signs_18 : decode cX2_signs 18 = .ok (.getfield 166, 3) := dk_180 0 166 (dk_at dksX2_signs_0 18 rfl rfl)
theorem dX2_signs_21 : decode cX2_signs 21 = .ok (.lconst 0, 1) := dk_9 (dk_at dksX2_signs_0 21 rfl rfl)
theorem dX2_signs_22 : decode cX2_signs 22 = .ok (.lcmp, 1) := dk_148 (dk_at dksX2_signs_0 22 rfl rfl)
theorem dX2_signs_23 : decode cX2_signs 23 = .ok (.ifCond .gt 33, 3) := dk_157 0 33 (dk_at dksX2_signs_1 0 rfl rfl)
theorem dX2_signs_26 : decode cX2_signs 26 = .ok (.aload 4, 2) := dk_25 4 (dk_at dksX2_signs_1 3 rfl rfl)
theorem dX2_signs_28 : decode cX2_signs 28 = .ok (.getfield 170, 3) := dk_180 0 170 (dk_at dksX2_signs_1 5 rfl rfl)
theorem dX2_signs_31 : decode cX2_signs 31 = .ok (.iconst 4, 1) := dk_7 (dk_at dksX2_signs_1 8 rfl rfl)
theorem dX2_signs_32 : decode cX2_signs 32 = .ok (.if_icmp .eq 24, 3) := dk_159 0 24 (dk_at dksX2_signs_1 9 rfl rfl)
theorem dX2_signs_35 : decode cX2_signs 35 = .ok (.aload 4, 2) := dk_25 4 (dk_at dksX2_signs_1 12 rfl rfl)
theorem dX2_signs_37 : decode cX2_signs 37 = .ok (.iload_n 2, 1) := dk_28 (dk_at dksX2_signs_1 14 rfl rfl)
theorem dX2_signs_38 : decode cX2_signs 38 = .ok (.invokevirtual 173, 3) := dk_182 0 173 (dk_at dksX2_signs_1 15 rfl rfl)
theorem dX2_signs_41 : decode cX2_signs 41 = .ok (.ifCond .gt 15, 3) := dk_157 0 15 (dk_at dksX2_signs_1 18 rfl rfl)
theorem dX2_signs_44 : decode cX2_signs 44 = .ok (.aload 4, 2) := dk_25 4 (dk_at dksX2_signs_1 21 rfl rfl)
theorem dX2_signs_46 : decode cX2_signs 46 = .ok (.invokevirtual 177, 3) := dk_182 0 177 (dk_at dksX2_signs_2 0 rfl rfl)
theorem dX2_signs_49 : decode cX2_signs 49 = .ok (.iload_n 3, 1) := dk_29 (dk_at dksX2_signs_2 3 rfl rfl)
theorem dX2_signs_50 : decode cX2_signs 50 = .ok (.iadd, 1) := dk_96 (dk_at dksX2_signs_2 4 rfl rfl)
theorem dX2_signs_51 : decode cX2_signs 51 = .ok (.bipush 10, 2) := dk_16 10 (dk_at dksX2_signs_2 5 rfl rfl)
theorem dX2_signs_53 : decode cX2_signs 53 = .ok (.if_icmp .le 5, 3) := dk_164 0 5 (dk_at dksX2_signs_2 7 rfl rfl)
theorem dX2_signs_56 : decode cX2_signs 56 = .ok (.iconst 0, 1) := dk_3 (dk_at dksX2_signs_2 10 rfl rfl)
theorem dX2_signs_57 : decode cX2_signs 57 = .ok (.ireturn, 1) := dk_172 (dk_at dksX2_signs_2 11 rfl rfl)
theorem dX2_signs_58 : decode cX2_signs 58 = .ok (.aload 4, 2) := dk_25 4 (dk_at dksX2_signs_2 12 rfl rfl)
theorem dX2_signs_60 : decode cX2_signs 60 = .ok (.iload_n 2, 1) := dk_28 (dk_at dksX2_signs_2 14 rfl rfl)
theorem dX2_signs_61 : decode cX2_signs 61 = .ok (.iload_n 3, 1) := dk_29 (dk_at dksX2_signs_2 15 rfl rfl)
theorem dX2_signs_62 : decode cX2_signs 62 = .ok (.invokevirtual 180, 3) := dk_182 0 180 (dk_at dksX2_signs_2 16 rfl rfl)
theorem dX2_signs_65 : decode cX2_signs 65 = .ok (.iconst 1, 1) := dk_4 (dk_at dksX2_signs_2 19 rfl rfl)
theorem dX2_signs_66 : decode cX2_signs 66 = .ok (.ireturn, 1) := dk_172 (dk_at dksX2_signs_2 20 rfl rfl)
abbrev cX2_goesWithout : ByteArray := prog_14_method_11_code
def yX2_goesWithout : MethodName := ⟨RX2, "goesWithout", "(I)Z"⟩
def dkwX2_goesWithout_1 : List UInt8 := [27, 120, 128, 181, 0, 111, 4, 172]
abbrev dktX2_goesWithout_1 : List UInt8 := dkwX2_goesWithout_1 ++ []
def dkwX2_goesWithout_0 : List UInt8 := [42, 27, 182, 0, 151, 154, 0, 11, 42, 27, 182, 0, 184, 154, 0, 5, 3, 172, 42, 89, 180, 0, 111, 4]
abbrev dktX2_goesWithout_0 : List UInt8 := dkwX2_goesWithout_0 ++ dktX2_goesWithout_1
theorem dksX2_goesWithout_0 : cX2_goesWithout.data.toList.drop 0 = dktX2_goesWithout_0 := by decide +kernel
theorem dksX2_goesWithout_1 : cX2_goesWithout.data.toList.drop 24 = dktX2_goesWithout_1 := dk_seg dksX2_goesWithout_0 24 rfl rfl
theorem dX2_goesWithout_0 : decode cX2_goesWithout 0 = .ok (.aload_n 0, 1) := dk_42 (dk_at dksX2_goesWithout_0 0 rfl rfl)
theorem dX2_goesWithout_1 : decode cX2_goesWithout 1 = .ok (.iload_n 1, 1) := dk_27 (dk_at dksX2_goesWithout_0 1 rfl rfl)
theorem dX2_goesWithout_2 : decode cX2_goesWithout 2 = .ok (.invokevirtual 151, 3) := dk_182 0 151 (dk_at dksX2_goesWithout_0 2 rfl rfl)
theorem dX2_goesWithout_5 : decode cX2_goesWithout 5 = .ok (.ifCond .ne 11, 3) := dk_154 0 11 (dk_at dksX2_goesWithout_0 5 rfl rfl)
theorem dX2_goesWithout_8 : decode cX2_goesWithout 8 = .ok (.aload_n 0, 1) := dk_42 (dk_at dksX2_goesWithout_0 8 rfl rfl)
theorem dX2_goesWithout_9 : decode cX2_goesWithout 9 = .ok (.iload_n 1, 1) := dk_27 (dk_at dksX2_goesWithout_0 9 rfl rfl)
theorem dX2_goesWithout_10 : decode cX2_goesWithout 10 = .ok (.invokevirtual 184, 3) := dk_182 0 184 (dk_at dksX2_goesWithout_0 10 rfl rfl)
theorem dX2_goesWithout_13 : decode cX2_goesWithout 13 = .ok (.ifCond .ne 5, 3) := dk_154 0 5 (dk_at dksX2_goesWithout_0 13 rfl rfl)
theorem dX2_goesWithout_16 : decode cX2_goesWithout 16 = .ok (.iconst 0, 1) := dk_3 (dk_at dksX2_goesWithout_0 16 rfl rfl)
theorem dX2_goesWithout_17 : decode cX2_goesWithout 17 = .ok (.ireturn, 1) := dk_172 (dk_at dksX2_goesWithout_0 17 rfl rfl)
theorem dX2_goesWithout_18 : decode cX2_goesWithout 18 = .ok (.aload_n 0, 1) := dk_42 (dk_at dksX2_goesWithout_0 18 rfl rfl)
theorem dX2_goesWithout_19 : decode cX2_goesWithout 19 = .ok (.dup, 1) := dk_89 (dk_at dksX2_goesWithout_0 19 rfl rfl)
theorem dX2_goesWithout_20 : decode cX2_goesWithout 20 = .ok (.getfield 111, 3) := dk_180 0 111 (dk_at dksX2_goesWithout_0 20 rfl rfl)
theorem dX2_goesWithout_23 : decode cX2_goesWithout 23 = .ok (.iconst 1, 1) := dk_4 (dk_at dksX2_goesWithout_0 23 rfl rfl)
theorem dX2_goesWithout_24 : decode cX2_goesWithout 24 = .ok (.iload_n 1, 1) := dk_27 (dk_at dksX2_goesWithout_1 0 rfl rfl)
theorem dX2_goesWithout_25 : decode cX2_goesWithout 25 = .ok (.ishl, 1) := dk_120 (dk_at dksX2_goesWithout_1 1 rfl rfl)
theorem dX2_goesWithout_26 : decode cX2_goesWithout 26 = .ok (.ior, 1) := dk_128 (dk_at dksX2_goesWithout_1 2 rfl rfl)
theorem dX2_goesWithout_27 : decode cX2_goesWithout 27 = .ok (.putfield 111, 3) := dk_181 0 111 (dk_at dksX2_goesWithout_1 3 rfl rfl)
theorem dX2_goesWithout_30 : decode cX2_goesWithout 30 = .ok (.iconst 1, 1) := dk_4 (dk_at dksX2_goesWithout_1 6 rfl rfl)
theorem dX2_goesWithout_31 : decode cX2_goesWithout 31 = .ok (.ireturn, 1) := dk_172 (dk_at dksX2_goesWithout_1 7 rfl rfl)
abbrev cX2_rulesBy : ByteArray := prog_14_method_12_code
def yX2_rulesBy : MethodName := ⟨RX2, "rulesBy", "(III)Z"⟩
def dkwX2_rulesBy_1 : List UInt8 := [4, 172]
abbrev dktX2_rulesBy_1 : List UInt8 := dkwX2_rulesBy_1 ++ []
def dkwX2_rulesBy_0 : List UInt8 := [42, 180, 0, 130, 153, 0, 5, 4, 172, 42, 27, 181, 0, 115, 42, 28, 181, 0, 118, 42, 29, 181, 0, 121]
abbrev dktX2_rulesBy_0 : List UInt8 := dkwX2_rulesBy_0 ++ dktX2_rulesBy_1
theorem dksX2_rulesBy_0 : cX2_rulesBy.data.toList.drop 0 = dktX2_rulesBy_0 := by decide +kernel
theorem dksX2_rulesBy_1 : cX2_rulesBy.data.toList.drop 24 = dktX2_rulesBy_1 := dk_seg dksX2_rulesBy_0 24 rfl rfl
theorem dX2_rulesBy_0 : decode cX2_rulesBy 0 = .ok (.aload_n 0, 1) := dk_42 (dk_at dksX2_rulesBy_0 0 rfl rfl)
theorem dX2_rulesBy_1 : decode cX2_rulesBy 1 = .ok (.getfield 130, 3) := dk_180 0 130 (dk_at dksX2_rulesBy_0 1 rfl rfl)
theorem dX2_rulesBy_4 : decode cX2_rulesBy 4 = .ok (.ifCond .eq 5, 3) := dk_153 0 5 (dk_at dksX2_rulesBy_0 4 rfl rfl)
theorem dX2_rulesBy_7 : decode cX2_rulesBy 7 = .ok (.iconst 1, 1) := dk_4 (dk_at dksX2_rulesBy_0 7 rfl rfl)
theorem dX2_rulesBy_8 : decode cX2_rulesBy 8 = .ok (.ireturn, 1) := dk_172 (dk_at dksX2_rulesBy_0 8 rfl rfl)
theorem dX2_rulesBy_9 : decode cX2_rulesBy 9 = .ok (.aload_n 0, 1) := dk_42 (dk_at dksX2_rulesBy_0 9 rfl rfl)
theorem dX2_rulesBy_10 : decode cX2_rulesBy 10 = .ok (.iload_n 1, 1) := dk_27 (dk_at dksX2_rulesBy_0 10 rfl rfl)
theorem dX2_rulesBy_11 : decode cX2_rulesBy 11 = .ok (.putfield 115, 3) := dk_181 0 115 (dk_at dksX2_rulesBy_0 11 rfl rfl)
theorem dX2_rulesBy_14 : decode cX2_rulesBy 14 = .ok (.aload_n 0, 1) := dk_42 (dk_at dksX2_rulesBy_0 14 rfl rfl)
theorem dX2_rulesBy_15 : decode cX2_rulesBy 15 = .ok (.iload_n 2, 1) := dk_28 (dk_at dksX2_rulesBy_0 15 rfl rfl)
theorem dX2_rulesBy_16 : decode cX2_rulesBy 16 = .ok (.putfield 118, 3) := dk_181 0 118 (dk_at dksX2_rulesBy_0 16 rfl rfl)
theorem dX2_rulesBy_19 : decode cX2_rulesBy 19 = .ok (.aload_n 0, 1) := dk_42 (dk_at dksX2_rulesBy_0 19 rfl rfl)
theorem dX2_rulesBy_20 : decode cX2_rulesBy 20 = .ok (.iload_n 3, 1) := dk_29 (dk_at dksX2_rulesBy_0 20 rfl rfl)
theorem dX2_rulesBy_21 : decode cX2_rulesBy 21 = .ok (.putfield 121, 3) := dk_181 0 121 (dk_at dksX2_rulesBy_0 21 rfl rfl)
theorem dX2_rulesBy_24 : decode cX2_rulesBy 24 = .ok (.iconst 1, 1) := dk_4 (dk_at dksX2_rulesBy_1 0 rfl rfl)
theorem dX2_rulesBy_25 : decode cX2_rulesBy 25 = .ok (.ireturn, 1) := dk_172 (dk_at dksX2_rulesBy_1 1 rfl rfl)
abbrev cX2_isHarmed : ByteArray := prog_14_method_39_code
def yX2_isHarmed : MethodName := ⟨RX2, "isHarmed", "(IIIII)Z"⟩
def dkwX2_isHarmed_2 : List UInt8 := [25, 6, 21, 5, 133, 182, 1, 108, 172]
abbrev dktX2_isHarmed_2 : List UInt8 := dkwX2_isHarmed_2 ++ []
def dkwX2_isHarmed_1 : List UInt8 := [181, 1, 102, 25, 6, 28, 29, 21, 4, 182, 1, 112, 42, 89, 180, 0, 127, 4, 96, 181, 0, 127, 42]
abbrev dktX2_isHarmed_1 : List UInt8 := dkwX2_isHarmed_1 ++ dktX2_isHarmed_2
def dkwX2_isHarmed_0 : List UInt8 := [42, 180, 0, 127, 16, 24, 160, 0, 5, 3, 172, 42, 180, 0, 19, 27, 50, 58, 6, 25, 6, 4]
abbrev dktX2_isHarmed_0 : List UInt8 := dkwX2_isHarmed_0 ++ dktX2_isHarmed_1
theorem dksX2_isHarmed_0 : cX2_isHarmed.data.toList.drop 0 = dktX2_isHarmed_0 := by decide +kernel
theorem dksX2_isHarmed_1 : cX2_isHarmed.data.toList.drop 22 = dktX2_isHarmed_1 := dk_seg dksX2_isHarmed_0 22 rfl rfl
theorem dksX2_isHarmed_2 : cX2_isHarmed.data.toList.drop 45 = dktX2_isHarmed_2 := dk_seg dksX2_isHarmed_1 23 rfl rfl
theorem dX2_isHarmed_0 : decode cX2_isHarmed 0 = .ok (.aload_n 0, 1) := dk_42 (dk_at dksX2_isHarmed_0 0 rfl rfl)
theorem dX2_isHarmed_1 : decode cX2_isHarmed 1 = .ok (.getfield 127, 3) := dk_180 0 127 (dk_at dksX2_isHarmed_0 1 rfl rfl)
theorem dX2_isHarmed_4 : decode cX2_isHarmed 4 = .ok (.bipush 24, 2) := dk_16 24 (dk_at dksX2_isHarmed_0 4 rfl rfl)
theorem dX2_isHarmed_6 : decode cX2_isHarmed 6 = .ok (.if_icmp .ne 5, 3) := dk_160 0 5 (dk_at dksX2_isHarmed_0 6 rfl rfl)
theorem dX2_isHarmed_9 : decode cX2_isHarmed 9 = .ok (.iconst 0, 1) := dk_3 (dk_at dksX2_isHarmed_0 9 rfl rfl)
theorem dX2_isHarmed_10 : decode cX2_isHarmed 10 = .ok (.ireturn, 1) := dk_172 (dk_at dksX2_isHarmed_0 10 rfl rfl)
theorem dX2_isHarmed_11 : decode cX2_isHarmed 11 = .ok (.aload_n 0, 1) := dk_42 (dk_at dksX2_isHarmed_0 11 rfl rfl)
theorem dX2_isHarmed_12 : decode cX2_isHarmed 12 = .ok (.getfield 19, 3) := dk_180 0 19 (dk_at dksX2_isHarmed_0 12 rfl rfl)
theorem dX2_isHarmed_15 : decode cX2_isHarmed 15 = .ok (.iload_n 1, 1) := dk_27 (dk_at dksX2_isHarmed_0 15 rfl rfl)
theorem dX2_isHarmed_16 : decode cX2_isHarmed 16 = .ok (.aaload, 1) := dk_50 (dk_at dksX2_isHarmed_0 16 rfl rfl)
theorem dX2_isHarmed_17 : decode cX2_isHarmed 17 = .ok (.astore 6, 2) := dk_58 6 (dk_at dksX2_isHarmed_0 17 rfl rfl)
theorem dX2_isHarmed_19 : decode cX2_isHarmed 19 = .ok (.aload 6, 2) := dk_25 6 (dk_at dksX2_isHarmed_0 19 rfl rfl)
theorem dX2_isHarmed_21 : decode cX2_isHarmed 21 = .ok (.iconst 1, 1) := dk_4 (dk_at dksX2_isHarmed_0 21 rfl rfl)
theorem dX2_isHarmed_22 : decode cX2_isHarmed 22 = .ok (.putfield 358, 3) := dk_181 1 102 (dk_at dksX2_isHarmed_1 0 rfl rfl)
theorem dX2_isHarmed_25 : decode cX2_isHarmed 25 = .ok (.aload 6, 2) := dk_25 6 (dk_at dksX2_isHarmed_1 3 rfl rfl)
theorem dX2_isHarmed_27 : decode cX2_isHarmed 27 = .ok (.iload_n 2, 1) := dk_28 (dk_at dksX2_isHarmed_1 5 rfl rfl)
theorem dX2_isHarmed_28 : decode cX2_isHarmed 28 = .ok (.iload_n 3, 1) := dk_29 (dk_at dksX2_isHarmed_1 6 rfl rfl)
theorem dX2_isHarmed_29 : decode cX2_isHarmed 29 = .ok (.iload 4, 2) := dk_21 4 (dk_at dksX2_isHarmed_1 7 rfl rfl)
theorem dX2_isHarmed_31 : decode cX2_isHarmed 31 = .ok (.invokevirtual 368, 3) := dk_182 1 112 (dk_at dksX2_isHarmed_1 9 rfl rfl)
theorem dX2_isHarmed_34 : decode cX2_isHarmed 34 = .ok (.aload_n 0, 1) := dk_42 (dk_at dksX2_isHarmed_1 12 rfl rfl)
theorem dX2_isHarmed_35 : decode cX2_isHarmed 35 = .ok (.dup, 1) := dk_89 (dk_at dksX2_isHarmed_1 13 rfl rfl)
theorem dX2_isHarmed_36 : decode cX2_isHarmed 36 = .ok (.getfield 127, 3) := dk_180 0 127 (dk_at dksX2_isHarmed_1 14 rfl rfl)
theorem dX2_isHarmed_39 : decode cX2_isHarmed 39 = .ok (.iconst 1, 1) := dk_4 (dk_at dksX2_isHarmed_1 17 rfl rfl)
theorem dX2_isHarmed_40 : decode cX2_isHarmed 40 = .ok (.iadd, 1) := dk_96 (dk_at dksX2_isHarmed_1 18 rfl rfl)
theorem dX2_isHarmed_41 : decode cX2_isHarmed 41 = .ok (.putfield 127, 3) := dk_181 0 127 (dk_at dksX2_isHarmed_1 19 rfl rfl)
theorem dX2_isHarmed_44 : decode cX2_isHarmed 44 = .ok (.aload_n 0, 1) := dk_42 (dk_at dksX2_isHarmed_1 22 rfl rfl)
theorem dX2_isHarmed_45 : decode cX2_isHarmed 45 = .ok (.aload 6, 2) := dk_25 6 (dk_at dksX2_isHarmed_2 0 rfl rfl)
theorem dX2_isHarmed_47 : decode cX2_isHarmed 47 = .ok (.iload 5, 2) := dk_21 5 (dk_at dksX2_isHarmed_2 2 rfl rfl)
theorem dX2_isHarmed_49 : decode cX2_isHarmed 49 = .ok (.i2l, 1) := dk_133 (dk_at dksX2_isHarmed_2 4 rfl rfl)
theorem dX2_isHarmed_50 : decode cX2_isHarmed 50 = .ok (.invokevirtual 364, 3) := dk_182 1 108 (dk_at dksX2_isHarmed_2 5 rfl rfl)
theorem dX2_isHarmed_53 : decode cX2_isHarmed 53 = .ok (.ireturn, 1) := dk_172 (dk_at dksX2_isHarmed_2 8 rfl rfl)
abbrev cX2_lays : ByteArray := prog_14_method_37_code
def yX2_lays : MethodName := ⟨RX2, "lays", "(LTallTowers$Harm;J)Z"⟩
def dkwX2_lays_1 : List UInt8 := [180, 0, 83, 10, 182, 1, 98, 4, 172]
abbrev dktX2_lays_1 : List UInt8 := dkwX2_lays_1 ++ []
def dkwX2_lays_0 : List UInt8 := [43, 42, 43, 32, 182, 1, 87, 182, 1, 91, 43, 89, 180, 1, 95, 32, 97, 181, 1, 95, 42, 42]
abbrev dktX2_lays_0 : List UInt8 := dkwX2_lays_0 ++ dktX2_lays_1
theorem dksX2_lays_0 : cX2_lays.data.toList.drop 0 = dktX2_lays_0 := by decide +kernel
theorem dksX2_lays_1 : cX2_lays.data.toList.drop 22 = dktX2_lays_1 := dk_seg dksX2_lays_0 22 rfl rfl
theorem dX2_lays_0 : decode cX2_lays 0 = .ok (.aload_n 1, 1) := dk_43 (dk_at dksX2_lays_0 0 rfl rfl)
theorem dX2_lays_1 : decode cX2_lays 1 = .ok (.aload_n 0, 1) := dk_42 (dk_at dksX2_lays_0 1 rfl rfl)
theorem dX2_lays_2 : decode cX2_lays 2 = .ok (.aload_n 1, 1) := dk_43 (dk_at dksX2_lays_0 2 rfl rfl)
theorem dX2_lays_3 : decode cX2_lays 3 = .ok (.lload_n 2, 1) := dk_32 (dk_at dksX2_lays_0 3 rfl rfl)
theorem dX2_lays_4 : decode cX2_lays 4 = .ok (.invokevirtual 343, 3) := dk_182 1 87 (dk_at dksX2_lays_0 4 rfl rfl)
theorem dX2_lays_7 : decode cX2_lays 7 = .ok (.invokevirtual 347, 3) := dk_182 1 91 (dk_at dksX2_lays_0 7 rfl rfl)
theorem dX2_lays_10 : decode cX2_lays 10 = .ok (.aload_n 1, 1) := dk_43 (dk_at dksX2_lays_0 10 rfl rfl)
theorem dX2_lays_11 : decode cX2_lays 11 = .ok (.dup, 1) := dk_89 (dk_at dksX2_lays_0 11 rfl rfl)
theorem dX2_lays_12 : decode cX2_lays 12 = .ok (.getfield 351, 3) := dk_180 1 95 (dk_at dksX2_lays_0 12 rfl rfl)
theorem dX2_lays_15 : decode cX2_lays 15 = .ok (.lload_n 2, 1) := dk_32 (dk_at dksX2_lays_0 15 rfl rfl)
theorem dX2_lays_16 : decode cX2_lays 16 = .ok (.ladd, 1) := dk_97 (dk_at dksX2_lays_0 16 rfl rfl)
theorem dX2_lays_17 : decode cX2_lays 17 = .ok (.putfield 351, 3) := dk_181 1 95 (dk_at dksX2_lays_0 17 rfl rfl)
theorem dX2_lays_20 : decode cX2_lays 20 = .ok (.aload_n 0, 1) := dk_42 (dk_at dksX2_lays_0 20 rfl rfl)
theorem dX2_lays_21 : decode cX2_lays 21 = .ok (.aload_n 0, 1) := dk_42 (dk_at dksX2_lays_0 21 rfl rfl)
theorem dX2_lays_22 : decode cX2_lays 22 = .ok (.getfield 83, 3) := dk_180 0 83 (dk_at dksX2_lays_1 0 rfl rfl)
theorem dX2_lays_25 : decode cX2_lays 25 = .ok (.lconst 1, 1) := dk_10 (dk_at dksX2_lays_1 3 rfl rfl)
theorem dX2_lays_26 : decode cX2_lays 26 = .ok (.invokevirtual 354, 3) := dk_182 1 98 (dk_at dksX2_lays_1 4 rfl rfl)
theorem dX2_lays_29 : decode cX2_lays 29 = .ok (.iconst 1, 1) := dk_4 (dk_at dksX2_lays_1 7 rfl rfl)
theorem dX2_lays_30 : decode cX2_lays 30 = .ok (.ireturn, 1) := dk_172 (dk_at dksX2_lays_1 8 rfl rfl)
abbrev cX2_flows : ByteArray := prog_14_method_35_code
def yX2_flows : MethodName := ⟨RX2, "flows", "(LTallTowers$Harm;J)LTallTowers$Flow;"⟩
def dkwX2_flows_3 : List UInt8 := [180, 0, 83, 182, 1, 80, 132, 6, 1, 167, 255, 221, 42, 180, 0, 83, 176]
abbrev dktX2_flows_3 : List UInt8 := dkwX2_flows_3 ++ []
def dkwX2_flows_2 : List UInt8 := [21, 5, 162, 0, 34, 25, 4, 21, 6, 50, 58, 7, 25, 7, 180, 0, 163, 153, 0, 13, 42, 25, 7, 42]
abbrev dktX2_flows_2 : List UInt8 := dkwX2_flows_2 ++ dktX2_flows_3
def dkwX2_flows_1 : List UInt8 := [180, 0, 83, 185, 1, 76, 5, 0, 42, 180, 0, 11, 58, 4, 25, 4, 190, 54, 5, 3, 54, 6, 21, 6]
abbrev dktX2_flows_1 : List UInt8 := dkwX2_flows_1 ++ dktX2_flows_2
def dkwX2_flows_0 : List UInt8 := [42, 180, 0, 83, 182, 1, 43, 42, 180, 0, 103, 42, 180, 0, 118, 50, 180, 1, 72, 43, 32, 42]
abbrev dktX2_flows_0 : List UInt8 := dkwX2_flows_0 ++ dktX2_flows_1
theorem dksX2_flows_0 : cX2_flows.data.toList.drop 0 = dktX2_flows_0 := by decide +kernel
theorem dksX2_flows_1 : cX2_flows.data.toList.drop 22 = dktX2_flows_1 := dk_seg dksX2_flows_0 22 rfl rfl
theorem dksX2_flows_2 : cX2_flows.data.toList.drop 46 = dktX2_flows_2 := dk_seg dksX2_flows_1 24 rfl rfl
theorem dksX2_flows_3 : cX2_flows.data.toList.drop 70 = dktX2_flows_3 := dk_seg dksX2_flows_2 24 rfl rfl
theorem dX2_flows_0 : decode cX2_flows 0 = .ok (.aload_n 0, 1) := dk_42 (dk_at dksX2_flows_0 0 rfl rfl)
theorem dX2_flows_1 : decode cX2_flows 1 = .ok (.getfield 83, 3) := dk_180 0 83 (dk_at dksX2_flows_0 1 rfl rfl)
theorem dX2_flows_4 : decode cX2_flows 4 = .ok (.invokevirtual 299, 3) := dk_182 1 43 (dk_at dksX2_flows_0 4 rfl rfl)
theorem dX2_flows_7 : decode cX2_flows 7 = .ok (.aload_n 0, 1) := dk_42 (dk_at dksX2_flows_0 7 rfl rfl)
theorem dX2_flows_8 : decode cX2_flows 8 = .ok (.getfield 103, 3) := dk_180 0 103 (dk_at dksX2_flows_0 8 rfl rfl)
theorem dX2_flows_11 : decode cX2_flows 11 = .ok (.aload_n 0, 1) := dk_42 (dk_at dksX2_flows_0 11 rfl rfl)
theorem dX2_flows_12 : decode cX2_flows 12 = .ok (.getfield 118, 3) := dk_180 0 118 (dk_at dksX2_flows_0 12 rfl rfl)
theorem dX2_flows_15 : decode cX2_flows 15 = .ok (.aaload, 1) := dk_50 (dk_at dksX2_flows_0 15 rfl rfl)
theorem dX2_flows_16 : decode cX2_flows 16 = .ok (.getfield 328, 3) := dk_180 1 72 (dk_at dksX2_flows_0 16 rfl rfl)
theorem dX2_flows_19 : decode cX2_flows 19 = .ok (.aload_n 1, 1) := dk_43 (dk_at dksX2_flows_0 19 rfl rfl)
theorem dX2_flows_20 : decode cX2_flows 20 = .ok (.lload_n 2, 1) := dk_32 (dk_at dksX2_flows_0 20 rfl rfl)
theorem dX2_flows_21 : decode cX2_flows 21 = .ok (.aload_n 0, 1) := dk_42 (dk_at dksX2_flows_0 21 rfl rfl)
theorem dX2_flows_22 : decode cX2_flows 22 = .ok (.getfield 83, 3) := dk_180 0 83 (dk_at dksX2_flows_1 0 rfl rfl)
theorem dX2_flows_25 : decode cX2_flows 25 = .ok (.invokeinterface 332 5, 5) := by decide +kernel
theorem dX2_flows_30 : decode cX2_flows 30 = .ok (.aload_n 0, 1) := dk_42 (dk_at dksX2_flows_1 8 rfl rfl)
theorem dX2_flows_31 : decode cX2_flows 31 = .ok (.getfield 11, 3) := dk_180 0 11 (dk_at dksX2_flows_1 9 rfl rfl)
theorem dX2_flows_34 : decode cX2_flows 34 = .ok (.astore 4, 2) := dk_58 4 (dk_at dksX2_flows_1 12 rfl rfl)
theorem dX2_flows_36 : decode cX2_flows 36 = .ok (.aload 4, 2) := dk_25 4 (dk_at dksX2_flows_1 14 rfl rfl)
theorem dX2_flows_38 : decode cX2_flows 38 = .ok (.arraylength, 1) := dk_190 (dk_at dksX2_flows_1 16 rfl rfl)
theorem dX2_flows_39 : decode cX2_flows 39 = .ok (.istore 5, 2) := dk_54 5 (dk_at dksX2_flows_1 17 rfl rfl)
theorem dX2_flows_41 : decode cX2_flows 41 = .ok (.iconst 0, 1) := dk_3 (dk_at dksX2_flows_1 19 rfl rfl)
theorem dX2_flows_42 : decode cX2_flows 42 = .ok (.istore 6, 2) := dk_54 6 (dk_at dksX2_flows_1 20 rfl rfl)
theorem dX2_flows_44 : decode cX2_flows 44 = .ok (.iload 6, 2) := dk_21 6 (dk_at dksX2_flows_1 22 rfl rfl)
theorem dX2_flows_46 : decode cX2_flows 46 = .ok (.iload 5, 2) := dk_21 5 (dk_at dksX2_flows_2 0 rfl rfl)
theorem dX2_flows_48 : decode cX2_flows 48 = .ok (.if_icmp .ge 34, 3) := dk_162 0 34 (dk_at dksX2_flows_2 2 rfl rfl)
theorem dX2_flows_51 : decode cX2_flows 51 = .ok (.aload 4, 2) := dk_25 4 (dk_at dksX2_flows_2 5 rfl rfl)
theorem dX2_flows_53 : decode cX2_flows 53 = .ok (.iload 6, 2) := dk_21 6 (dk_at dksX2_flows_2 7 rfl rfl)
theorem dX2_flows_55 : decode cX2_flows 55 = .ok (.aaload, 1) := dk_50 (dk_at dksX2_flows_2 9 rfl rfl)
theorem dX2_flows_56 : decode cX2_flows 56 = .ok (.astore 7, 2) := dk_58 7 (dk_at dksX2_flows_2 10 rfl rfl)
theorem dX2_flows_58 : decode cX2_flows 58 = .ok (.aload 7, 2) := dk_25 7 (dk_at dksX2_flows_2 12 rfl rfl)
theorem dX2_flows_60 : decode cX2_flows 60 = .ok (.getfield 163, 3) := dk_180 0 163 (dk_at dksX2_flows_2 14 rfl rfl)
theorem dX2_flows_63 : decode cX2_flows 63 = .ok (.ifCond .eq 13, 3) := dk_153 0 13 (dk_at dksX2_flows_2 17 rfl rfl)
theorem dX2_flows_66 : decode cX2_flows 66 = .ok (.aload_n 0, 1) := dk_42 (dk_at dksX2_flows_2 20 rfl rfl)
theorem dX2_flows_67 : decode cX2_flows 67 = .ok (.aload 7, 2) := dk_25 7 (dk_at dksX2_flows_2 21 rfl rfl)
theorem dX2_flows_69 : decode cX2_flows 69 = .ok (.aload_n 0, 1) := dk_42 (dk_at dksX2_flows_2 23 rfl rfl)
theorem dX2_flows_70 : decode cX2_flows 70 = .ok (.getfield 83, 3) := dk_180 0 83 (dk_at dksX2_flows_3 0 rfl rfl)
theorem dX2_flows_73 : decode cX2_flows 73 = .ok (.invokevirtual 336, 3) := dk_182 1 80 (dk_at dksX2_flows_3 3 rfl rfl)
theorem dX2_flows_76 : decode cX2_flows 76 = .ok (.iinc 6 1, 3) := dk_132 6 1 (dk_at dksX2_flows_3 6 rfl rfl)
theorem dX2_flows_79 : decode cX2_flows 79 = .ok (.goto (-35), 3) := dk_167 255 221 (dk_at dksX2_flows_3 9 rfl rfl)
theorem dX2_flows_82 : decode cX2_flows 82 = .ok (.aload_n 0, 1) := dk_42 (dk_at dksX2_flows_3 12 rfl rfl)
theorem dX2_flows_83 : decode cX2_flows 83 = .ok (.getfield 83, 3) := dk_180 0 83 (dk_at dksX2_flows_3 13 rfl rfl)
theorem dX2_flows_86 : decode cX2_flows 86 = .ok (.areturn, 1) := dk_176 (dk_at dksX2_flows_3 16 rfl rfl)
abbrev cX2_splits : ByteArray := prog_14_method_34_code
def yX2_splits : MethodName := ⟨RX2, "splits", "(LTallTowers$Layer;LTallTowers$Flow;)V"⟩
def dkwX2_splits_9 : List UInt8 := [167, 255, 113, 44, 180, 0, 223, 7, 92, 47, 33, 22, 5, 101, 97, 80, 177]
abbrev dktX2_splits_9 : List UInt8 := dkwX2_splits_9 ++ []
def dkwX2_splits_8 : List UInt8 := [21, 12, 46, 4, 160, 0, 7, 8, 167, 0, 5, 16, 6, 92, 47, 22, 10, 97, 80, 132, 9, 1]
abbrev dktX2_splits_8 : List UInt8 := dkwX2_splits_8 ++ dktX2_splits_9
def dkwX2_splits_7 : List UInt8 := [44, 180, 1, 69, 21, 12, 92, 47, 22, 10, 97, 80, 167, 0, 30, 44, 180, 0, 223, 42, 180, 0, 32]
abbrev dktX2_splits_7 : List UInt8 := dkwX2_splits_7 ++ dktX2_splits_8
def dkwX2_splits_6 : List UInt8 := [44, 180, 0, 223, 3, 92, 47, 22, 10, 97, 80, 167, 0, 55, 42, 180, 0, 32, 21, 12, 46, 154, 0, 18]
abbrev dktX2_splits_6 : List UInt8 := dkwX2_splits_6 ++ dktX2_splits_7
def dkwX2_splits_5 : List UInt8 := [180, 0, 137, 104, 21, 9, 96, 22, 10, 80, 43, 180, 1, 66, 21, 9, 46, 54, 12, 21, 12, 154, 0, 17]
abbrev dktX2_splits_5 : List UInt8 := dkwX2_splits_5 ++ dktX2_splits_6
def dkwX2_splits_4 : List UInt8 := [158, 0, 7, 10, 167, 0, 4, 9, 97, 55, 10, 22, 7, 10, 101, 55, 7, 44, 180, 1, 63, 7, 43]
abbrev dktX2_splits_4 : List UInt8 := dkwX2_splits_4 ++ dktX2_splits_5
def dkwX2_splits_3 : List UInt8 := [180, 0, 170, 162, 0, 140, 33, 43, 180, 1, 60, 21, 9, 46, 133, 105, 20, 1, 58, 109, 22, 7, 9, 148]
abbrev dktX2_splits_3 : List UInt8 := dkwX2_splits_3 ++ dktX2_splits_4
def dkwX2_splits_2 : List UInt8 := [21, 9, 46, 133, 105, 20, 1, 58, 109, 101, 55, 7, 132, 9, 1, 167, 255, 225, 3, 54, 9, 21, 9, 43]
abbrev dktX2_splits_2 : List UInt8 := dkwX2_splits_2 ++ dktX2_splits_3
def dkwX2_splits_1 : List UInt8 := [22, 5, 55, 7, 3, 54, 9, 21, 9, 43, 180, 0, 170, 162, 0, 28, 22, 7, 33, 43, 180, 1, 60]
abbrev dktX2_splits_1 : List UInt8 := dkwX2_splits_1 ++ dktX2_splits_2
def dkwX2_splits_0 : List UInt8 := [44, 180, 0, 203, 43, 180, 0, 137, 47, 66, 33, 43, 182, 0, 177, 133, 105, 20, 1, 58, 109, 55, 5]
abbrev dktX2_splits_0 : List UInt8 := dkwX2_splits_0 ++ dktX2_splits_1
theorem dksX2_splits_0 : cX2_splits.data.toList.drop 0 = dktX2_splits_0 := by decide +kernel
theorem dksX2_splits_1 : cX2_splits.data.toList.drop 23 = dktX2_splits_1 := dk_seg dksX2_splits_0 23 rfl rfl
theorem dksX2_splits_2 : cX2_splits.data.toList.drop 46 = dktX2_splits_2 := dk_seg dksX2_splits_1 23 rfl rfl
theorem dksX2_splits_3 : cX2_splits.data.toList.drop 70 = dktX2_splits_3 := dk_seg dksX2_splits_2 24 rfl rfl
theorem dksX2_splits_4 : cX2_splits.data.toList.drop 94 = dktX2_splits_4 := dk_seg dksX2_splits_3 24 rfl rfl
theorem dksX2_splits_5 : cX2_splits.data.toList.drop 117 = dktX2_splits_5 := dk_seg dksX2_splits_4 23 rfl rfl
theorem dksX2_splits_6 : cX2_splits.data.toList.drop 141 = dktX2_splits_6 := dk_seg dksX2_splits_5 24 rfl rfl
theorem dksX2_splits_7 : cX2_splits.data.toList.drop 165 = dktX2_splits_7 := dk_seg dksX2_splits_6 24 rfl rfl
theorem dksX2_splits_8 : cX2_splits.data.toList.drop 188 = dktX2_splits_8 := dk_seg dksX2_splits_7 23 rfl rfl
theorem dksX2_splits_9 : cX2_splits.data.toList.drop 210 = dktX2_splits_9 := dk_seg dksX2_splits_8 22 rfl rfl
theorem dX2_splits_0 : decode cX2_splits 0 = .ok (.aload_n 2, 1) := dk_44 (dk_at dksX2_splits_0 0 rfl rfl)
theorem dX2_splits_1 : decode cX2_splits 1 = .ok (.getfield 203, 3) := dk_180 0 203 (dk_at dksX2_splits_0 1 rfl rfl)
theorem dX2_splits_4 : decode cX2_splits 4 = .ok (.aload_n 1, 1) := dk_43 (dk_at dksX2_splits_0 4 rfl rfl)
theorem dX2_splits_5 : decode cX2_splits 5 = .ok (.getfield 137, 3) := dk_180 0 137 (dk_at dksX2_splits_0 5 rfl rfl)
theorem dX2_splits_8 : decode cX2_splits 8 = .ok (.laload, 1) := dk_47 (dk_at dksX2_splits_0 8 rfl rfl)
theorem dX2_splits_9 : decode cX2_splits 9 = .ok (.lstore_n 3, 1) := dk_66 (dk_at dksX2_splits_0 9 rfl rfl)
theorem dX2_splits_10 : decode cX2_splits 10 = .ok (.lload_n 3, 1) := dk_33 (dk_at dksX2_splits_0 10 rfl rfl)
theorem dX2_splits_11 : decode cX2_splits 11 = .ok (.aload_n 1, 1) := dk_43 (dk_at dksX2_splits_0 11 rfl rfl)
theorem dX2_splits_12 : decode cX2_splits 12 = .ok (.invokevirtual 177, 3) := dk_182 0 177 (dk_at dksX2_splits_0 12 rfl rfl)
theorem dX2_splits_15 : decode cX2_splits 15 = .ok (.i2l, 1) := dk_133 (dk_at dksX2_splits_0 15 rfl rfl)
theorem dX2_splits_16 : decode cX2_splits 16 = .ok (.lmul, 1) := dk_105 (dk_at dksX2_splits_0 16 rfl rfl)
theorem dX2_splits_17 : decode cX2_splits 17 = .ok (.ldc2_w 314, 3) := dk_20 1 58 (dk_at dksX2_splits_0 17 rfl rfl)
theorem dX2_splits_20 : decode cX2_splits 20 = .ok (.ldiv, 1) := dk_109 (dk_at dksX2_splits_0 20 rfl rfl)
theorem dX2_splits_21 : decode cX2_splits 21 = .ok (.lstore 5, 2) := dk_55 5 (dk_at dksX2_splits_0 21 rfl rfl)
theorem dX2_splits_23 : decode cX2_splits 23 = .ok (.lload 5, 2) := dk_22 5 (dk_at dksX2_splits_1 0 rfl rfl)
theorem dX2_splits_25 : decode cX2_splits 25 = .ok (.lstore 7, 2) := dk_55 7 (dk_at dksX2_splits_1 2 rfl rfl)
theorem dX2_splits_27 : decode cX2_splits 27 = .ok (.iconst 0, 1) := dk_3 (dk_at dksX2_splits_1 4 rfl rfl)
theorem dX2_splits_28 : decode cX2_splits 28 = .ok (.istore 9, 2) := dk_54 9 (dk_at dksX2_splits_1 5 rfl rfl)
theorem dX2_splits_30 : decode cX2_splits 30 = .ok (.iload 9, 2) := dk_21 9 (dk_at dksX2_splits_1 7 rfl rfl)
theorem dX2_splits_32 : decode cX2_splits 32 = .ok (.aload_n 1, 1) := dk_43 (dk_at dksX2_splits_1 9 rfl rfl)
theorem dX2_splits_33 : decode cX2_splits 33 = .ok (.getfield 170, 3) := dk_180 0 170 (dk_at dksX2_splits_1 10 rfl rfl)
theorem dX2_splits_36 : decode cX2_splits 36 = .ok (.if_icmp .ge 28, 3) := dk_162 0 28 (dk_at dksX2_splits_1 13 rfl rfl)
theorem dX2_splits_39 : decode cX2_splits 39 = .ok (.lload 7, 2) := dk_22 7 (dk_at dksX2_splits_1 16 rfl rfl)
theorem dX2_splits_41 : decode cX2_splits 41 = .ok (.lload_n 3, 1) := dk_33 (dk_at dksX2_splits_1 18 rfl rfl)
theorem dX2_splits_42 : decode cX2_splits 42 = .ok (.aload_n 1, 1) := dk_43 (dk_at dksX2_splits_1 19 rfl rfl)
theorem dX2_splits_43 : decode cX2_splits 43 = .ok (.getfield 316, 3) := dk_180 1 60 (dk_at dksX2_splits_1 20 rfl rfl)
theorem dX2_splits_46 : decode cX2_splits 46 = .ok (.iload 9, 2) := dk_21 9 (dk_at dksX2_splits_2 0 rfl rfl)
theorem dX2_splits_48 : decode cX2_splits 48 = .ok (.iaload, 1) := dk_46 (dk_at dksX2_splits_2 2 rfl rfl)
theorem dX2_splits_49 : decode cX2_splits 49 = .ok (.i2l, 1) := dk_133 (dk_at dksX2_splits_2 3 rfl rfl)
theorem dX2_splits_50 : decode cX2_splits 50 = .ok (.lmul, 1) := dk_105 (dk_at dksX2_splits_2 4 rfl rfl)
theorem dX2_splits_51 : decode cX2_splits 51 = .ok (.ldc2_w 314, 3) := dk_20 1 58 (dk_at dksX2_splits_2 5 rfl rfl)
theorem dX2_splits_54 : decode cX2_splits 54 = .ok (.ldiv, 1) := dk_109 (dk_at dksX2_splits_2 8 rfl rfl)
theorem dX2_splits_55 : decode cX2_splits 55 = .ok (.lsub, 1) := dk_101 (dk_at dksX2_splits_2 9 rfl rfl)
theorem dX2_splits_56 : decode cX2_splits 56 = .ok (.lstore 7, 2) := dk_55 7 (dk_at dksX2_splits_2 10 rfl rfl)
theorem dX2_splits_58 : decode cX2_splits 58 = .ok (.iinc 9 1, 3) := dk_132 9 1 (dk_at dksX2_splits_2 12 rfl rfl)
theorem dX2_splits_61 : decode cX2_splits 61 = .ok (.goto (-31), 3) := dk_167 255 225 (dk_at dksX2_splits_2 15 rfl rfl)
theorem dX2_splits_64 : decode cX2_splits 64 = .ok (.iconst 0, 1) := dk_3 (dk_at dksX2_splits_2 18 rfl rfl)
theorem dX2_splits_65 : decode cX2_splits 65 = .ok (.istore 9, 2) := dk_54 9 (dk_at dksX2_splits_2 19 rfl rfl)
theorem dX2_splits_67 : decode cX2_splits 67 = .ok (.iload 9, 2) := dk_21 9 (dk_at dksX2_splits_2 21 rfl rfl)
theorem dX2_splits_69 : decode cX2_splits 69 = .ok (.aload_n 1, 1) := dk_43 (dk_at dksX2_splits_2 23 rfl rfl)
theorem dX2_splits_70 : decode cX2_splits 70 = .ok (.getfield 170, 3) := dk_180 0 170 (dk_at dksX2_splits_3 0 rfl rfl)
theorem dX2_splits_73 : decode cX2_splits 73 = .ok (.if_icmp .ge 140, 3) := dk_162 0 140 (dk_at dksX2_splits_3 3 rfl rfl)
theorem dX2_splits_76 : decode cX2_splits 76 = .ok (.lload_n 3, 1) := dk_33 (dk_at dksX2_splits_3 6 rfl rfl)
theorem dX2_splits_77 : decode cX2_splits 77 = .ok (.aload_n 1, 1) := dk_43 (dk_at dksX2_splits_3 7 rfl rfl)
theorem dX2_splits_78 : decode cX2_splits 78 = .ok (.getfield 316, 3) := dk_180 1 60 (dk_at dksX2_splits_3 8 rfl rfl)
theorem dX2_splits_81 : decode cX2_splits 81 = .ok (.iload 9, 2) := dk_21 9 (dk_at dksX2_splits_3 11 rfl rfl)
theorem dX2_splits_83 : decode cX2_splits 83 = .ok (.iaload, 1) := dk_46 (dk_at dksX2_splits_3 13 rfl rfl)
theorem dX2_splits_84 : decode cX2_splits 84 = .ok (.i2l, 1) := dk_133 (dk_at dksX2_splits_3 14 rfl rfl)
theorem dX2_splits_85 : decode cX2_splits 85 = .ok (.lmul, 1) := dk_105 (dk_at dksX2_splits_3 15 rfl rfl)
theorem dX2_splits_86 : decode cX2_splits 86 = .ok (.ldc2_w 314, 3) := dk_20 1 58 (dk_at dksX2_splits_3 16 rfl rfl)
theorem dX2_splits_89 : decode cX2_splits 89 = .ok (.ldiv, 1) := dk_109 (dk_at dksX2_splits_3 19 rfl rfl)
theorem dX2_splits_90 : decode cX2_splits 90 = .ok (.lload 7, 2) := dk_22 7 (dk_at dksX2_splits_3 20 rfl rfl)
theorem dX2_splits_92 : decode cX2_splits 92 = .ok (.lconst 0, 1) := dk_9 (dk_at dksX2_splits_3 22 rfl rfl)
theorem dX2_splits_93 : decode cX2_splits 93 = .ok (.lcmp, 1) := dk_148 (dk_at dksX2_splits_3 23 rfl rfl)
theorem dX2_splits_94 : decode cX2_splits 94 = .ok (.ifCond .le 7, 3) := dk_158 0 7 (dk_at dksX2_splits_4 0 rfl rfl)
theorem dX2_splits_97 : decode cX2_splits 97 = .ok (.lconst 1, 1) := dk_10 (dk_at dksX2_splits_4 3 rfl rfl)
theorem dX2_splits_98 : decode cX2_splits 98 = .ok (.goto 4, 3) := dk_167 0 4 (dk_at dksX2_splits_4 4 rfl rfl)
theorem dX2_splits_101 : decode cX2_splits 101 = .ok (.lconst 0, 1) := dk_9 (dk_at dksX2_splits_4 7 rfl rfl)
theorem dX2_splits_102 : decode cX2_splits 102 = .ok (.ladd, 1) := dk_97 (dk_at dksX2_splits_4 8 rfl rfl)
theorem dX2_splits_103 : decode cX2_splits 103 = .ok (.lstore 10, 2) := dk_55 10 (dk_at dksX2_splits_4 9 rfl rfl)
theorem dX2_splits_105 : decode cX2_splits 105 = .ok (.lload 7, 2) := dk_22 7 (dk_at dksX2_splits_4 11 rfl rfl)
theorem dX2_splits_107 : decode cX2_splits 107 = .ok (.lconst 1, 1) := dk_10 (dk_at dksX2_splits_4 13 rfl rfl)
theorem dX2_splits_108 : decode cX2_splits 108 = .ok (.lsub, 1) := dk_101 (dk_at dksX2_splits_4 14 rfl rfl)
theorem dX2_splits_109 : decode cX2_splits 109 = .ok (.lstore 7, 2) := dk_55 7 (dk_at dksX2_splits_4 15 rfl rfl)
theorem dX2_splits_111 : decode cX2_splits 111 = .ok (.aload_n 2, 1) := dk_44 (dk_at dksX2_splits_4 17 rfl rfl)
theorem dX2_splits_112 : decode cX2_splits 112 = .ok (.getfield 319, 3) := dk_180 1 63 (dk_at dksX2_splits_4 18 rfl rfl)
theorem dX2_splits_115 : decode cX2_splits 115 = .ok (.iconst 4, 1) := dk_7 (dk_at dksX2_splits_4 21 rfl rfl)
theorem dX2_splits_116 : decode cX2_splits 116 = .ok (.aload_n 1, 1) := dk_43 (dk_at dksX2_splits_4 22 rfl rfl)
theorem dX2_splits_117 : decode cX2_splits 117 = .ok (.getfield 137, 3) := dk_180 0 137 (dk_at dksX2_splits_5 0 rfl rfl)
theorem dX2_splits_120 : decode cX2_splits 120 = .ok (.imul, 1) := dk_104 (dk_at dksX2_splits_5 3 rfl rfl)
theorem dX2_splits_121 : decode cX2_splits 121 = .ok (.iload 9, 2) := dk_21 9 (dk_at dksX2_splits_5 4 rfl rfl)
theorem dX2_splits_123 : decode cX2_splits 123 = .ok (.iadd, 1) := dk_96 (dk_at dksX2_splits_5 6 rfl rfl)
theorem dX2_splits_124 : decode cX2_splits 124 = .ok (.lload 10, 2) := dk_22 10 (dk_at dksX2_splits_5 7 rfl rfl)
theorem dX2_splits_126 : decode cX2_splits 126 = .ok (.lastore, 1) := dk_80 (dk_at dksX2_splits_5 9 rfl rfl)
theorem dX2_splits_127 : decode cX2_splits 127 = .ok (.aload_n 1, 1) := dk_43 (dk_at dksX2_splits_5 10 rfl rfl)
theorem dX2_splits_128 : decode cX2_splits 128 = .ok (.getfield 322, 3) := dk_180 1 66 (dk_at dksX2_splits_5 11 rfl rfl)
theorem dX2_splits_131 : decode cX2_splits 131 = .ok (.iload 9, 2) := dk_21 9 (dk_at dksX2_splits_5 14 rfl rfl)
theorem dX2_splits_133 : decode cX2_splits 133 = .ok (.iaload, 1) := dk_46 (dk_at dksX2_splits_5 16 rfl rfl)
theorem dX2_splits_134 : decode cX2_splits 134 = .ok (.istore 12, 2) := dk_54 12 (dk_at dksX2_splits_5 17 rfl rfl)
theorem dX2_splits_136 : decode cX2_splits 136 = .ok (.iload 12, 2) := dk_21 12 (dk_at dksX2_splits_5 19 rfl rfl)
theorem dX2_splits_138 : decode cX2_splits 138 = .ok (.ifCond .ne 17, 3) := dk_154 0 17 (dk_at dksX2_splits_5 21 rfl rfl)
theorem dX2_splits_141 : decode cX2_splits 141 = .ok (.aload_n 2, 1) := dk_44 (dk_at dksX2_splits_6 0 rfl rfl)
theorem dX2_splits_142 : decode cX2_splits 142 = .ok (.getfield 223, 3) := dk_180 0 223 (dk_at dksX2_splits_6 1 rfl rfl)
theorem dX2_splits_145 : decode cX2_splits 145 = .ok (.iconst 0, 1) := dk_3 (dk_at dksX2_splits_6 4 rfl rfl)
theorem dX2_splits_146 : decode cX2_splits 146 = .ok (.dup2, 1) := dk_92 (dk_at dksX2_splits_6 5 rfl rfl)
theorem dX2_splits_147 : decode cX2_splits 147 = .ok (.laload, 1) := dk_47 (dk_at dksX2_splits_6 6 rfl rfl)
theorem dX2_splits_148 : decode cX2_splits 148 = .ok (.lload 10, 2) := dk_22 10 (dk_at dksX2_splits_6 7 rfl rfl)
theorem dX2_splits_150 : decode cX2_splits 150 = .ok (.ladd, 1) := dk_97 (dk_at dksX2_splits_6 9 rfl rfl)
theorem dX2_splits_151 : decode cX2_splits 151 = .ok (.lastore, 1) := dk_80 (dk_at dksX2_splits_6 10 rfl rfl)
theorem dX2_splits_152 : decode cX2_splits 152 = .ok (.goto 55, 3) := dk_167 0 55 (dk_at dksX2_splits_6 11 rfl rfl)
theorem dX2_splits_155 : decode cX2_splits 155 = .ok (.aload_n 0, 1) := dk_42 (dk_at dksX2_splits_6 14 rfl rfl)
theorem dX2_splits_156 : decode cX2_splits 156 = .ok (.getfield 32, 3) := dk_180 0 32 (dk_at dksX2_splits_6 15 rfl rfl)
theorem dX2_splits_159 : decode cX2_splits 159 = .ok (.iload 12, 2) := dk_21 12 (dk_at dksX2_splits_6 18 rfl rfl)
theorem dX2_splits_161 : decode cX2_splits 161 = .ok (.iaload, 1) := dk_46 (dk_at dksX2_splits_6 20 rfl rfl)
theorem dX2_splits_162 : decode cX2_splits 162 = .ok (.ifCond .ne 18, 3) := dk_154 0 18 (dk_at dksX2_splits_6 21 rfl rfl)
theorem dX2_splits_165 : decode cX2_splits 165 = .ok (.aload_n 2, 1) := dk_44 (dk_at dksX2_splits_7 0 rfl rfl)
theorem dX2_splits_166 : decode cX2_splits 166 = .ok (.getfield 325, 3) := dk_180 1 69 (dk_at dksX2_splits_7 1 rfl rfl)
theorem dX2_splits_169 : decode cX2_splits 169 = .ok (.iload 12, 2) := dk_21 12 (dk_at dksX2_splits_7 4 rfl rfl)
theorem dX2_splits_171 : decode cX2_splits 171 = .ok (.dup2, 1) := dk_92 (dk_at dksX2_splits_7 6 rfl rfl)
theorem dX2_splits_172 : decode cX2_splits 172 = .ok (.laload, 1) := dk_47 (dk_at dksX2_splits_7 7 rfl rfl)
theorem dX2_splits_173 : decode cX2_splits 173 = .ok (.lload 10, 2) := dk_22 10 (dk_at dksX2_splits_7 8 rfl rfl)
theorem dX2_splits_175 : decode cX2_splits 175 = .ok (.ladd, 1) := dk_97 (dk_at dksX2_splits_7 10 rfl rfl)
theorem dX2_splits_176 : decode cX2_splits 176 = .ok (.lastore, 1) := dk_80 (dk_at dksX2_splits_7 11 rfl rfl)
theorem dX2_splits_177 : decode cX2_splits 177 = .ok (.goto 30, 3) := dk_167 0 30 (dk_at dksX2_splits_7 12 rfl rfl)
theorem dX2_splits_180 : decode cX2_splits 180 = .ok (.aload_n 2, 1) := dk_44 (dk_at dksX2_splits_7 15 rfl rfl)
theorem dX2_splits_181 : decode cX2_splits 181 = .ok (.getfield 223, 3) := dk_180 0 223 (dk_at dksX2_splits_7 16 rfl rfl)
theorem dX2_splits_184 : decode cX2_splits 184 = .ok (.aload_n 0, 1) := dk_42 (dk_at dksX2_splits_7 19 rfl rfl)
theorem dX2_splits_185 : decode cX2_splits 185 = .ok (.getfield 32, 3) := dk_180 0 32 (dk_at dksX2_splits_7 20 rfl rfl)
theorem dX2_splits_188 : decode cX2_splits 188 = .ok (.iload 12, 2) := dk_21 12 (dk_at dksX2_splits_8 0 rfl rfl)
theorem dX2_splits_190 : decode cX2_splits 190 = .ok (.iaload, 1) := dk_46 (dk_at dksX2_splits_8 2 rfl rfl)
theorem dX2_splits_191 : decode cX2_splits 191 = .ok (.iconst 1, 1) := dk_4 (dk_at dksX2_splits_8 3 rfl rfl)
theorem dX2_splits_192 : decode cX2_splits 192 = .ok (.if_icmp .ne 7, 3) := dk_160 0 7 (dk_at dksX2_splits_8 4 rfl rfl)
theorem dX2_splits_195 : decode cX2_splits 195 = .ok (.iconst 5, 1) := dk_8 (dk_at dksX2_splits_8 7 rfl rfl)
theorem dX2_splits_196 : decode cX2_splits 196 = .ok (.goto 5, 3) := dk_167 0 5 (dk_at dksX2_splits_8 8 rfl rfl)
theorem dX2_splits_199 : decode cX2_splits 199 = .ok (.bipush 6, 2) := dk_16 6 (dk_at dksX2_splits_8 11 rfl rfl)
theorem dX2_splits_201 : decode cX2_splits 201 = .ok (.dup2, 1) := dk_92 (dk_at dksX2_splits_8 13 rfl rfl)
theorem dX2_splits_202 : decode cX2_splits 202 = .ok (.laload, 1) := dk_47 (dk_at dksX2_splits_8 14 rfl rfl)
theorem dX2_splits_203 : decode cX2_splits 203 = .ok (.lload 10, 2) := dk_22 10 (dk_at dksX2_splits_8 15 rfl rfl)
theorem dX2_splits_205 : decode cX2_splits 205 = .ok (.ladd, 1) := dk_97 (dk_at dksX2_splits_8 17 rfl rfl)
theorem dX2_splits_206 : decode cX2_splits 206 = .ok (.lastore, 1) := dk_80 (dk_at dksX2_splits_8 18 rfl rfl)
theorem dX2_splits_207 : decode cX2_splits 207 = .ok (.iinc 9 1, 3) := dk_132 9 1 (dk_at dksX2_splits_8 19 rfl rfl)
theorem dX2_splits_210 : decode cX2_splits 210 = .ok (.goto (-143), 3) := dk_167 255 113 (dk_at dksX2_splits_9 0 rfl rfl)
theorem dX2_splits_213 : decode cX2_splits 213 = .ok (.aload_n 2, 1) := dk_44 (dk_at dksX2_splits_9 3 rfl rfl)
theorem dX2_splits_214 : decode cX2_splits 214 = .ok (.getfield 223, 3) := dk_180 0 223 (dk_at dksX2_splits_9 4 rfl rfl)
theorem dX2_splits_217 : decode cX2_splits 217 = .ok (.iconst 4, 1) := dk_7 (dk_at dksX2_splits_9 7 rfl rfl)
theorem dX2_splits_218 : decode cX2_splits 218 = .ok (.dup2, 1) := dk_92 (dk_at dksX2_splits_9 8 rfl rfl)
theorem dX2_splits_219 : decode cX2_splits 219 = .ok (.laload, 1) := dk_47 (dk_at dksX2_splits_9 9 rfl rfl)
theorem dX2_splits_220 : decode cX2_splits 220 = .ok (.lload_n 3, 1) := dk_33 (dk_at dksX2_splits_9 10 rfl rfl)
theorem dX2_splits_221 : decode cX2_splits 221 = .ok (.lload 5, 2) := dk_22 5 (dk_at dksX2_splits_9 11 rfl rfl)
theorem dX2_splits_223 : decode cX2_splits 223 = .ok (.lsub, 1) := dk_101 (dk_at dksX2_splits_9 13 rfl rfl)
theorem dX2_splits_224 : decode cX2_splits 224 = .ok (.ladd, 1) := dk_97 (dk_at dksX2_splits_9 14 rfl rfl)
theorem dX2_splits_225 : decode cX2_splits 225 = .ok (.lastore, 1) := dk_80 (dk_at dksX2_splits_9 15 rfl rfl)
theorem dX2_splits_226 : decode cX2_splits 226 = .ok (.return_, 1) := dk_177 (dk_at dksX2_splits_9 16 rfl rfl)
abbrev cX2_uses : ByteArray := prog_14_method_36_code
def yX2_uses : MethodName := ⟨RX2, "uses", "(LTallTowers$Flow;J)V"⟩
def dkwX2_uses_4 : List UInt8 := [167, 255, 215, 132, 6, 1, 167, 255, 170, 177]
abbrev dktX2_uses_4 : List UInt8 := dkwX2_uses_4 ++ []
def dkwX2_uses_3 : List UInt8 := [47, 32, 43, 180, 1, 63, 7, 25, 7, 180, 0, 137, 104, 21, 8, 96, 47, 105, 97, 80, 132, 8, 1]
abbrev dktX2_uses_3 : List UInt8 := dkwX2_uses_3 ++ dktX2_uses_4
def dkwX2_uses_2 : List UInt8 := [181, 0, 166, 3, 54, 8, 21, 8, 25, 7, 180, 0, 170, 162, 0, 37, 25, 7, 180, 1, 84, 21, 8, 92]
abbrev dktX2_uses_2 : List UInt8 := dkwX2_uses_2 ++ dktX2_uses_3
def dkwX2_uses_1 : List UInt8 := [21, 6, 50, 58, 7, 25, 7, 89, 180, 0, 166, 32, 43, 180, 0, 203, 25, 7, 180, 0, 137, 47, 105, 97]
abbrev dktX2_uses_1 : List UInt8 := dkwX2_uses_1 ++ dktX2_uses_2
def dkwX2_uses_0 : List UInt8 := [42, 180, 0, 11, 58, 4, 25, 4, 190, 54, 5, 3, 54, 6, 21, 6, 21, 5, 162, 0, 85, 25, 4]
abbrev dktX2_uses_0 : List UInt8 := dkwX2_uses_0 ++ dktX2_uses_1
theorem dksX2_uses_0 : cX2_uses.data.toList.drop 0 = dktX2_uses_0 := by decide +kernel
theorem dksX2_uses_1 : cX2_uses.data.toList.drop 23 = dktX2_uses_1 := dk_seg dksX2_uses_0 23 rfl rfl
theorem dksX2_uses_2 : cX2_uses.data.toList.drop 47 = dktX2_uses_2 := dk_seg dksX2_uses_1 24 rfl rfl
theorem dksX2_uses_3 : cX2_uses.data.toList.drop 71 = dktX2_uses_3 := dk_seg dksX2_uses_2 24 rfl rfl
theorem dksX2_uses_4 : cX2_uses.data.toList.drop 94 = dktX2_uses_4 := dk_seg dksX2_uses_3 23 rfl rfl
theorem dX2_uses_0 : decode cX2_uses 0 = .ok (.aload_n 0, 1) := dk_42 (dk_at dksX2_uses_0 0 rfl rfl)
theorem dX2_uses_1 : decode cX2_uses 1 = .ok (.getfield 11, 3) := dk_180 0 11 (dk_at dksX2_uses_0 1 rfl rfl)
theorem dX2_uses_4 : decode cX2_uses 4 = .ok (.astore 4, 2) := dk_58 4 (dk_at dksX2_uses_0 4 rfl rfl)
theorem dX2_uses_6 : decode cX2_uses 6 = .ok (.aload 4, 2) := dk_25 4 (dk_at dksX2_uses_0 6 rfl rfl)
theorem dX2_uses_8 : decode cX2_uses 8 = .ok (.arraylength, 1) := dk_190 (dk_at dksX2_uses_0 8 rfl rfl)
theorem dX2_uses_9 : decode cX2_uses 9 = .ok (.istore 5, 2) := dk_54 5 (dk_at dksX2_uses_0 9 rfl rfl)
theorem dX2_uses_11 : decode cX2_uses 11 = .ok (.iconst 0, 1) := dk_3 (dk_at dksX2_uses_0 11 rfl rfl)
theorem dX2_uses_12 : decode cX2_uses 12 = .ok (.istore 6, 2) := dk_54 6 (dk_at dksX2_uses_0 12 rfl rfl)
theorem dX2_uses_14 : decode cX2_uses 14 = .ok (.iload 6, 2) := dk_21 6 (dk_at dksX2_uses_0 14 rfl rfl)
theorem dX2_uses_16 : decode cX2_uses 16 = .ok (.iload 5, 2) := dk_21 5 (dk_at dksX2_uses_0 16 rfl rfl)
theorem dX2_uses_18 : decode cX2_uses 18 = .ok (.if_icmp .ge 85, 3) := dk_162 0 85 (dk_at dksX2_uses_0 18 rfl rfl)
theorem dX2_uses_21 : decode cX2_uses 21 = .ok (.aload 4, 2) := dk_25 4 (dk_at dksX2_uses_0 21 rfl rfl)
theorem dX2_uses_23 : decode cX2_uses 23 = .ok (.iload 6, 2) := dk_21 6 (dk_at dksX2_uses_1 0 rfl rfl)
theorem dX2_uses_25 : decode cX2_uses 25 = .ok (.aaload, 1) := dk_50 (dk_at dksX2_uses_1 2 rfl rfl)
theorem dX2_uses_26 : decode cX2_uses 26 = .ok (.astore 7, 2) := dk_58 7 (dk_at dksX2_uses_1 3 rfl rfl)
theorem dX2_uses_28 : decode cX2_uses 28 = .ok (.aload 7, 2) := dk_25 7 (dk_at dksX2_uses_1 5 rfl rfl)
theorem dX2_uses_30 : decode cX2_uses 30 = .ok (.dup, 1) := dk_89 (dk_at dksX2_uses_1 7 rfl rfl)
theorem dX2_uses_31 : decode cX2_uses 31 = .ok (.getfield 166, 3) := dk_180 0 166 (dk_at dksX2_uses_1 8 rfl rfl)
theorem dX2_uses_34 : decode cX2_uses 34 = .ok (.lload_n 2, 1) := dk_32 (dk_at dksX2_uses_1 11 rfl rfl)
theorem dX2_uses_35 : decode cX2_uses 35 = .ok (.aload_n 1, 1) := dk_43 (dk_at dksX2_uses_1 12 rfl rfl)
theorem dX2_uses_36 : decode cX2_uses 36 = .ok (.getfield 203, 3) := dk_180 0 203 (dk_at dksX2_uses_1 13 rfl rfl)
theorem dX2_uses_39 : decode cX2_uses 39 = .ok (.aload 7, 2) := dk_25 7 (dk_at dksX2_uses_1 16 rfl rfl)
theorem dX2_uses_41 : decode cX2_uses 41 = .ok (.getfield 137, 3) := dk_180 0 137 (dk_at dksX2_uses_1 18 rfl rfl)
theorem dX2_uses_44 : decode cX2_uses 44 = .ok (.laload, 1) := dk_47 (dk_at dksX2_uses_1 21 rfl rfl)
theorem dX2_uses_45 : decode cX2_uses 45 = .ok (.lmul, 1) := dk_105 (dk_at dksX2_uses_1 22 rfl rfl)
theorem dX2_uses_46 : decode cX2_uses 46 = .ok (.ladd, 1) := dk_97 (dk_at dksX2_uses_1 23 rfl rfl)
theorem dX2_uses_47 : decode cX2_uses 47 = .ok (.putfield 166, 3) := dk_181 0 166 (dk_at dksX2_uses_2 0 rfl rfl)
theorem dX2_uses_50 : decode cX2_uses 50 = .ok (.iconst 0, 1) := dk_3 (dk_at dksX2_uses_2 3 rfl rfl)
theorem dX2_uses_51 : decode cX2_uses 51 = .ok (.istore 8, 2) := dk_54 8 (dk_at dksX2_uses_2 4 rfl rfl)
theorem dX2_uses_53 : decode cX2_uses 53 = .ok (.iload 8, 2) := dk_21 8 (dk_at dksX2_uses_2 6 rfl rfl)
theorem dX2_uses_55 : decode cX2_uses 55 = .ok (.aload 7, 2) := dk_25 7 (dk_at dksX2_uses_2 8 rfl rfl)
theorem dX2_uses_57 : decode cX2_uses 57 = .ok (.getfield 170, 3) := dk_180 0 170 (dk_at dksX2_uses_2 10 rfl rfl)
theorem dX2_uses_60 : decode cX2_uses 60 = .ok (.if_icmp .ge 37, 3) := dk_162 0 37 (dk_at dksX2_uses_2 13 rfl rfl)
theorem dX2_uses_63 : decode cX2_uses 63 = .ok (.aload 7, 2) := dk_25 7 (dk_at dksX2_uses_2 16 rfl rfl)
theorem dX2_uses_65 : decode cX2_uses 65 = .ok (.getfield 340, 3) := dk_180 1 84 (dk_at dksX2_uses_2 18 rfl rfl)
theorem dX2_uses_68 : decode cX2_uses 68 = .ok (.iload 8, 2) := dk_21 8 (dk_at dksX2_uses_2 21 rfl rfl)
theorem dX2_uses_70 : decode cX2_uses 70 = .ok (.dup2, 1) := dk_92 (dk_at dksX2_uses_2 23 rfl rfl)
theorem dX2_uses_71 : decode cX2_uses 71 = .ok (.laload, 1) := dk_47 (dk_at dksX2_uses_3 0 rfl rfl)
theorem dX2_uses_72 : decode cX2_uses 72 = .ok (.lload_n 2, 1) := dk_32 (dk_at dksX2_uses_3 1 rfl rfl)
theorem dX2_uses_73 : decode cX2_uses 73 = .ok (.aload_n 1, 1) := dk_43 (dk_at dksX2_uses_3 2 rfl rfl)
theorem dX2_uses_74 : decode cX2_uses 74 = .ok (.getfield 319, 3) := dk_180 1 63 (dk_at dksX2_uses_3 3 rfl rfl)
theorem dX2_uses_77 : decode cX2_uses 77 = .ok (.iconst 4, 1) := dk_7 (dk_at dksX2_uses_3 6 rfl rfl)
theorem dX2_uses_78 : decode cX2_uses 78 = .ok (.aload 7, 2) := dk_25 7 (dk_at dksX2_uses_3 7 rfl rfl)
theorem dX2_uses_80 : decode cX2_uses 80 = .ok (.getfield 137, 3) := dk_180 0 137 (dk_at dksX2_uses_3 9 rfl rfl)
theorem dX2_uses_83 : decode cX2_uses 83 = .ok (.imul, 1) := dk_104 (dk_at dksX2_uses_3 12 rfl rfl)
theorem dX2_uses_84 : decode cX2_uses 84 = .ok (.iload 8, 2) := dk_21 8 (dk_at dksX2_uses_3 13 rfl rfl)
theorem dX2_uses_86 : decode cX2_uses 86 = .ok (.iadd, 1) := dk_96 (dk_at dksX2_uses_3 15 rfl rfl)
theorem dX2_uses_87 : decode cX2_uses 87 = .ok (.laload, 1) := dk_47 (dk_at dksX2_uses_3 16 rfl rfl)
theorem dX2_uses_88 : decode cX2_uses 88 = .ok (.lmul, 1) := dk_105 (dk_at dksX2_uses_3 17 rfl rfl)
theorem dX2_uses_89 : decode cX2_uses 89 = .ok (.ladd, 1) := dk_97 (dk_at dksX2_uses_3 18 rfl rfl)
theorem dX2_uses_90 : decode cX2_uses 90 = .ok (.lastore, 1) := dk_80 (dk_at dksX2_uses_3 19 rfl rfl)
theorem dX2_uses_91 : decode cX2_uses 91 = .ok (.iinc 8 1, 3) := dk_132 8 1 (dk_at dksX2_uses_3 20 rfl rfl)
theorem dX2_uses_94 : decode cX2_uses 94 = .ok (.goto (-41), 3) := dk_167 255 215 (dk_at dksX2_uses_4 0 rfl rfl)
theorem dX2_uses_97 : decode cX2_uses 97 = .ok (.iinc 6 1, 3) := dk_132 6 1 (dk_at dksX2_uses_4 3 rfl rfl)
theorem dX2_uses_100 : decode cX2_uses 100 = .ok (.goto (-86), 3) := dk_167 255 170 (dk_at dksX2_uses_4 6 rfl rfl)
theorem dX2_uses_103 : decode cX2_uses 103 = .ok (.return_, 1) := dk_177 (dk_at dksX2_uses_4 9 rfl rfl)
abbrev cX2_grows : ByteArray := prog_14_method_40_code
def yX2_grows : MethodName := ⟨RX2, "grows", "(II)Z"⟩
def dkwX2_grows_1 : List UInt8 := [181, 1, 116, 42, 45, 28, 133, 182, 1, 108, 172]
abbrev dktX2_grows_1 : List UInt8 := dkwX2_grows_1 ++ []
def dkwX2_grows_0 : List UInt8 := [42, 180, 0, 19, 27, 50, 78, 45, 180, 1, 102, 154, 0, 5, 3, 172, 45, 89, 180, 1, 116, 4, 96]
abbrev dktX2_grows_0 : List UInt8 := dkwX2_grows_0 ++ dktX2_grows_1
theorem dksX2_grows_0 : cX2_grows.data.toList.drop 0 = dktX2_grows_0 := by decide +kernel
theorem dksX2_grows_1 : cX2_grows.data.toList.drop 23 = dktX2_grows_1 := dk_seg dksX2_grows_0 23 rfl rfl
theorem dX2_grows_0 : decode cX2_grows 0 = .ok (.aload_n 0, 1) := dk_42 (dk_at dksX2_grows_0 0 rfl rfl)
theorem dX2_grows_1 : decode cX2_grows 1 = .ok (.getfield 19, 3) := dk_180 0 19 (dk_at dksX2_grows_0 1 rfl rfl)
theorem dX2_grows_4 : decode cX2_grows 4 = .ok (.iload_n 1, 1) := dk_27 (dk_at dksX2_grows_0 4 rfl rfl)
theorem dX2_grows_5 : decode cX2_grows 5 = .ok (.aaload, 1) := dk_50 (dk_at dksX2_grows_0 5 rfl rfl)
theorem dX2_grows_6 : decode cX2_grows 6 = .ok (.astore_n 3, 1) := dk_78 (dk_at dksX2_grows_0 6 rfl rfl)
theorem dX2_grows_7 : decode cX2_grows 7 = .ok (.aload_n 3, 1) := dk_45 (dk_at dksX2_grows_0 7 rfl rfl)
theorem dX2_grows_8 : decode cX2_grows 8 = .ok (.getfield 358, 3) := dk_180 1 102 (dk_at dksX2_grows_0 8 rfl rfl)
theorem dX2_grows_11 : decode cX2_grows 11 = .ok (.ifCond .ne 5, 3) := dk_154 0 5 (dk_at dksX2_grows_0 11 rfl rfl)
theorem dX2_grows_14 : decode cX2_grows 14 = .ok (.iconst 0, 1) := dk_3 (dk_at dksX2_grows_0 14 rfl rfl)
theorem dX2_grows_15 : decode cX2_grows 15 = .ok (.ireturn, 1) := dk_172 (dk_at dksX2_grows_0 15 rfl rfl)
theorem dX2_grows_16 : decode cX2_grows 16 = .ok (.aload_n 3, 1) := dk_45 (dk_at dksX2_grows_0 16 rfl rfl)
theorem dX2_grows_17 : decode cX2_grows 17 = .ok (.dup, 1) := dk_89 (dk_at dksX2_grows_0 17 rfl rfl)
theorem dX2_grows_18 : decode cX2_grows 18 = .ok (.getfield 372, 3) := dk_180 1 116 (dk_at dksX2_grows_0 18 rfl rfl)
theorem dX2_grows_21 : decode cX2_grows 21 = .ok (.iconst 1, 1) := dk_4 (dk_at dksX2_grows_0 21 rfl rfl)
theorem dX2_grows_22 : decode cX2_grows 22 = .ok (.iadd, 1) := dk_96 (dk_at dksX2_grows_0 22 rfl rfl)
theorem dX2_grows_23 : decode cX2_grows 23 = .ok (.putfield 372, 3) := dk_181 1 116 (dk_at dksX2_grows_1 0 rfl rfl)
theorem dX2_grows_26 : decode cX2_grows 26 = .ok (.aload_n 0, 1) := dk_42 (dk_at dksX2_grows_1 3 rfl rfl)
theorem dX2_grows_27 : decode cX2_grows 27 = .ok (.aload_n 3, 1) := dk_45 (dk_at dksX2_grows_1 4 rfl rfl)
theorem dX2_grows_28 : decode cX2_grows 28 = .ok (.iload_n 2, 1) := dk_28 (dk_at dksX2_grows_1 5 rfl rfl)
theorem dX2_grows_29 : decode cX2_grows 29 = .ok (.i2l, 1) := dk_133 (dk_at dksX2_grows_1 6 rfl rfl)
theorem dX2_grows_30 : decode cX2_grows 30 = .ok (.invokevirtual 364, 3) := dk_182 1 108 (dk_at dksX2_grows_1 7 rfl rfl)
theorem dX2_grows_33 : decode cX2_grows 33 = .ok (.ireturn, 1) := dk_172 (dk_at dksX2_grows_1 10 rfl rfl)
abbrev cX2_turns : ByteArray := prog_14_method_13_code
def yX2_turns : MethodName := ⟨RX2, "turns", "(III)Z"⟩
def dkwX2_turns_1 : List UInt8 := [133, 80, 4, 172]
abbrev dktX2_turns_1 : List UInt8 := dkwX2_turns_1 ++ []
def dkwX2_turns_0 : List UInt8 := [42, 180, 0, 32, 27, 46, 153, 0, 5, 3, 172, 42, 180, 0, 32, 27, 28, 79, 42, 180, 0, 35, 27, 29]
abbrev dktX2_turns_0 : List UInt8 := dkwX2_turns_0 ++ dktX2_turns_1
theorem dksX2_turns_0 : cX2_turns.data.toList.drop 0 = dktX2_turns_0 := by decide +kernel
theorem dksX2_turns_1 : cX2_turns.data.toList.drop 24 = dktX2_turns_1 := dk_seg dksX2_turns_0 24 rfl rfl
theorem dX2_turns_0 : decode cX2_turns 0 = .ok (.aload_n 0, 1) := dk_42 (dk_at dksX2_turns_0 0 rfl rfl)
theorem dX2_turns_1 : decode cX2_turns 1 = .ok (.getfield 32, 3) := dk_180 0 32 (dk_at dksX2_turns_0 1 rfl rfl)
theorem dX2_turns_4 : decode cX2_turns 4 = .ok (.iload_n 1, 1) := dk_27 (dk_at dksX2_turns_0 4 rfl rfl)
theorem dX2_turns_5 : decode cX2_turns 5 = .ok (.iaload, 1) := dk_46 (dk_at dksX2_turns_0 5 rfl rfl)
theorem dX2_turns_6 : decode cX2_turns 6 = .ok (.ifCond .eq 5, 3) := dk_153 0 5 (dk_at dksX2_turns_0 6 rfl rfl)
theorem dX2_turns_9 : decode cX2_turns 9 = .ok (.iconst 0, 1) := dk_3 (dk_at dksX2_turns_0 9 rfl rfl)
theorem dX2_turns_10 : decode cX2_turns 10 = .ok (.ireturn, 1) := dk_172 (dk_at dksX2_turns_0 10 rfl rfl)
theorem dX2_turns_11 : decode cX2_turns 11 = .ok (.aload_n 0, 1) := dk_42 (dk_at dksX2_turns_0 11 rfl rfl)
theorem dX2_turns_12 : decode cX2_turns 12 = .ok (.getfield 32, 3) := dk_180 0 32 (dk_at dksX2_turns_0 12 rfl rfl)
theorem dX2_turns_15 : decode cX2_turns 15 = .ok (.iload_n 1, 1) := dk_27 (dk_at dksX2_turns_0 15 rfl rfl)
theorem dX2_turns_16 : decode cX2_turns 16 = .ok (.iload_n 2, 1) := dk_28 (dk_at dksX2_turns_0 16 rfl rfl)
theorem dX2_turns_17 : decode cX2_turns 17 = .ok (.iastore, 1) := dk_79 (dk_at dksX2_turns_0 17 rfl rfl)
theorem dX2_turns_18 : decode cX2_turns 18 = .ok (.aload_n 0, 1) := dk_42 (dk_at dksX2_turns_0 18 rfl rfl)
theorem dX2_turns_19 : decode cX2_turns 19 = .ok (.getfield 35, 3) := dk_180 0 35 (dk_at dksX2_turns_0 19 rfl rfl)
theorem dX2_turns_22 : decode cX2_turns 22 = .ok (.iload_n 1, 1) := dk_27 (dk_at dksX2_turns_0 22 rfl rfl)
theorem dX2_turns_23 : decode cX2_turns 23 = .ok (.iload_n 3, 1) := dk_29 (dk_at dksX2_turns_0 23 rfl rfl)
theorem dX2_turns_24 : decode cX2_turns 24 = .ok (.i2l, 1) := dk_133 (dk_at dksX2_turns_1 0 rfl rfl)
theorem dX2_turns_25 : decode cX2_turns 25 = .ok (.lastore, 1) := dk_80 (dk_at dksX2_turns_1 1 rfl rfl)
theorem dX2_turns_26 : decode cX2_turns 26 = .ok (.iconst 1, 1) := dk_4 (dk_at dksX2_turns_1 2 rfl rfl)
theorem dX2_turns_27 : decode cX2_turns 27 = .ok (.ireturn, 1) := dk_172 (dk_at dksX2_turns_1 3 rfl rfl)
abbrev cX2_inStatus : ByteArray := prog_14_method_14_code
def yX2_inStatus : MethodName := ⟨RX2, "inStatus", "(I)I"⟩
def dkwX2_inStatus_1 : List UInt8 := [128, 61, 132, 3, 1, 167, 255, 231, 28, 172]
abbrev dktX2_inStatus_1 : List UInt8 := dkwX2_inStatus_1 ++ []
def dkwX2_inStatus_0 : List UInt8 := [3, 61, 3, 62, 29, 16, 10, 162, 0, 25, 42, 180, 0, 32, 29, 46, 27, 160, 0, 9, 28, 4, 29, 120]
abbrev dktX2_inStatus_0 : List UInt8 := dkwX2_inStatus_0 ++ dktX2_inStatus_1
theorem dksX2_inStatus_0 : cX2_inStatus.data.toList.drop 0 = dktX2_inStatus_0 := by decide +kernel
theorem dksX2_inStatus_1 : cX2_inStatus.data.toList.drop 24 = dktX2_inStatus_1 := dk_seg dksX2_inStatus_0 24 rfl rfl
theorem dX2_inStatus_0 : decode cX2_inStatus 0 = .ok (.iconst 0, 1) := dk_3 (dk_at dksX2_inStatus_0 0 rfl rfl)
theorem dX2_inStatus_1 : decode cX2_inStatus 1 = .ok (.istore_n 2, 1) := dk_61 (dk_at dksX2_inStatus_0 1 rfl rfl)
theorem dX2_inStatus_2 : decode cX2_inStatus 2 = .ok (.iconst 0, 1) := dk_3 (dk_at dksX2_inStatus_0 2 rfl rfl)
theorem dX2_inStatus_3 : decode cX2_inStatus 3 = .ok (.istore_n 3, 1) := dk_62 (dk_at dksX2_inStatus_0 3 rfl rfl)
theorem dX2_inStatus_4 : decode cX2_inStatus 4 = .ok (.iload_n 3, 1) := dk_29 (dk_at dksX2_inStatus_0 4 rfl rfl)
theorem dX2_inStatus_5 : decode cX2_inStatus 5 = .ok (.bipush 10, 2) := dk_16 10 (dk_at dksX2_inStatus_0 5 rfl rfl)
theorem dX2_inStatus_7 : decode cX2_inStatus 7 = .ok (.if_icmp .ge 25, 3) := dk_162 0 25 (dk_at dksX2_inStatus_0 7 rfl rfl)
theorem dX2_inStatus_10 : decode cX2_inStatus 10 = .ok (.aload_n 0, 1) := dk_42 (dk_at dksX2_inStatus_0 10 rfl rfl)
theorem dX2_inStatus_11 : decode cX2_inStatus 11 = .ok (.getfield 32, 3) := dk_180 0 32 (dk_at dksX2_inStatus_0 11 rfl rfl)
theorem dX2_inStatus_14 : decode cX2_inStatus 14 = .ok (.iload_n 3, 1) := dk_29 (dk_at dksX2_inStatus_0 14 rfl rfl)
theorem dX2_inStatus_15 : decode cX2_inStatus 15 = .ok (.iaload, 1) := dk_46 (dk_at dksX2_inStatus_0 15 rfl rfl)
theorem dX2_inStatus_16 : decode cX2_inStatus 16 = .ok (.iload_n 1, 1) := dk_27 (dk_at dksX2_inStatus_0 16 rfl rfl)
theorem dX2_inStatus_17 : decode cX2_inStatus 17 = .ok (.if_icmp .ne 9, 3) := dk_160 0 9 (dk_at dksX2_inStatus_0 17 rfl rfl)
theorem dX2_inStatus_20 : decode cX2_inStatus 20 = .ok (.iload_n 2, 1) := dk_28 (dk_at dksX2_inStatus_0 20 rfl rfl)
theorem dX2_inStatus_21 : decode cX2_inStatus 21 = .ok (.iconst 1, 1) := dk_4 (dk_at dksX2_inStatus_0 21 rfl rfl)
theorem dX2_inStatus_22 : decode cX2_inStatus 22 = .ok (.iload_n 3, 1) := dk_29 (dk_at dksX2_inStatus_0 22 rfl rfl)
theorem dX2_inStatus_23 : decode cX2_inStatus 23 = .ok (.ishl, 1) := dk_120 (dk_at dksX2_inStatus_0 23 rfl rfl)
theorem dX2_inStatus_24 : decode cX2_inStatus 24 = .ok (.ior, 1) := dk_128 (dk_at dksX2_inStatus_1 0 rfl rfl)
theorem dX2_inStatus_25 : decode cX2_inStatus 25 = .ok (.istore_n 2, 1) := dk_61 (dk_at dksX2_inStatus_1 1 rfl rfl)
theorem dX2_inStatus_26 : decode cX2_inStatus 26 = .ok (.iinc 3 1, 3) := dk_132 3 1 (dk_at dksX2_inStatus_1 2 rfl rfl)
theorem dX2_inStatus_29 : decode cX2_inStatus 29 = .ok (.goto (-25), 3) := dk_167 255 231 (dk_at dksX2_inStatus_1 5 rfl rfl)
theorem dX2_inStatus_32 : decode cX2_inStatus 32 = .ok (.iload_n 2, 1) := dk_28 (dk_at dksX2_inStatus_1 8 rfl rfl)
theorem dX2_inStatus_33 : decode cX2_inStatus 33 = .ok (.ireturn, 1) := dk_172 (dk_at dksX2_inStatus_1 9 rfl rfl)
abbrev cX2_opensAgain : ByteArray := prog_14_method_38_code
def yX2_opensAgain : MethodName := ⟨RX2, "opensAgain", "(I)Z"⟩
def dkwX2_opensAgain_1 : List UInt8 := [44, 180, 1, 95, 66, 44, 182, 1, 105, 42, 44, 33, 182, 1, 108, 172]
abbrev dktX2_opensAgain_1 : List UInt8 := dkwX2_opensAgain_1 ++ []
def dkwX2_opensAgain_0 : List UInt8 := [42, 180, 0, 19, 27, 50, 77, 44, 180, 1, 102, 154, 0, 5, 3, 172, 42, 44, 20, 1, 103, 182, 1, 98]
abbrev dktX2_opensAgain_0 : List UInt8 := dkwX2_opensAgain_0 ++ dktX2_opensAgain_1
theorem dksX2_opensAgain_0 : cX2_opensAgain.data.toList.drop 0 = dktX2_opensAgain_0 := by decide +kernel
theorem dksX2_opensAgain_1 : cX2_opensAgain.data.toList.drop 24 = dktX2_opensAgain_1 := dk_seg dksX2_opensAgain_0 24 rfl rfl
theorem dX2_opensAgain_0 : decode cX2_opensAgain 0 = .ok (.aload_n 0, 1) := dk_42 (dk_at dksX2_opensAgain_0 0 rfl rfl)
theorem dX2_opensAgain_1 : decode cX2_opensAgain 1 = .ok (.getfield 19, 3) := dk_180 0 19 (dk_at dksX2_opensAgain_0 1 rfl rfl)
theorem dX2_opensAgain_4 : decode cX2_opensAgain 4 = .ok (.iload_n 1, 1) := dk_27 (dk_at dksX2_opensAgain_0 4 rfl rfl)
theorem dX2_opensAgain_5 : decode cX2_opensAgain 5 = .ok (.aaload, 1) := dk_50 (dk_at dksX2_opensAgain_0 5 rfl rfl)
theorem dX2_opensAgain_6 : decode cX2_opensAgain 6 = .ok (.astore_n 2, 1) := dk_77 (dk_at dksX2_opensAgain_0 6 rfl rfl)
theorem dX2_opensAgain_7 : decode cX2_opensAgain 7 = .ok (.aload_n 2, 1) := dk_44 (dk_at dksX2_opensAgain_0 7 rfl rfl)
theorem dX2_opensAgain_8 : decode cX2_opensAgain 8 = .ok (.getfield 358, 3) := dk_180 1 102 (dk_at dksX2_opensAgain_0 8 rfl rfl)
theorem dX2_opensAgain_11 : decode cX2_opensAgain 11 = .ok (.ifCond .ne 5, 3) := dk_154 0 5 (dk_at dksX2_opensAgain_0 11 rfl rfl)
theorem dX2_opensAgain_14 : decode cX2_opensAgain 14 = .ok (.iconst 0, 1) := dk_3 (dk_at dksX2_opensAgain_0 14 rfl rfl)
theorem dX2_opensAgain_15 : decode cX2_opensAgain 15 = .ok (.ireturn, 1) := dk_172 (dk_at dksX2_opensAgain_0 15 rfl rfl)
theorem dX2_opensAgain_16 : decode cX2_opensAgain 16 = .ok (.aload_n 0, 1) := dk_42 (dk_at dksX2_opensAgain_0 16 rfl rfl)
theorem dX2_opensAgain_17 : decode cX2_opensAgain 17 = .ok (.aload_n 2, 1) := dk_44 (dk_at dksX2_opensAgain_0 17 rfl rfl)
theorem dX2_opensAgain_18 : decode cX2_opensAgain 18 = .ok (.ldc2_w 359, 3) := dk_20 1 103 (dk_at dksX2_opensAgain_0 18 rfl rfl)
theorem dX2_opensAgain_21 : decode cX2_opensAgain 21 = .ok (.invokevirtual 354, 3) := dk_182 1 98 (dk_at dksX2_opensAgain_0 21 rfl rfl)
theorem dX2_opensAgain_24 : decode cX2_opensAgain 24 = .ok (.aload_n 2, 1) := dk_44 (dk_at dksX2_opensAgain_1 0 rfl rfl)
theorem dX2_opensAgain_25 : decode cX2_opensAgain 25 = .ok (.getfield 351, 3) := dk_180 1 95 (dk_at dksX2_opensAgain_1 1 rfl rfl)
theorem dX2_opensAgain_28 : decode cX2_opensAgain 28 = .ok (.lstore_n 3, 1) := dk_66 (dk_at dksX2_opensAgain_1 4 rfl rfl)
theorem dX2_opensAgain_29 : decode cX2_opensAgain 29 = .ok (.aload_n 2, 1) := dk_44 (dk_at dksX2_opensAgain_1 5 rfl rfl)
theorem dX2_opensAgain_30 : decode cX2_opensAgain 30 = .ok (.invokevirtual 361, 3) := dk_182 1 105 (dk_at dksX2_opensAgain_1 6 rfl rfl)
theorem dX2_opensAgain_33 : decode cX2_opensAgain 33 = .ok (.aload_n 0, 1) := dk_42 (dk_at dksX2_opensAgain_1 9 rfl rfl)
theorem dX2_opensAgain_34 : decode cX2_opensAgain 34 = .ok (.aload_n 2, 1) := dk_44 (dk_at dksX2_opensAgain_1 10 rfl rfl)
theorem dX2_opensAgain_35 : decode cX2_opensAgain 35 = .ok (.lload_n 3, 1) := dk_33 (dk_at dksX2_opensAgain_1 11 rfl rfl)
theorem dX2_opensAgain_36 : decode cX2_opensAgain 36 = .ok (.invokevirtual 364, 3) := dk_182 1 108 (dk_at dksX2_opensAgain_1 12 rfl rfl)
theorem dX2_opensAgain_39 : decode cX2_opensAgain 39 = .ok (.ireturn, 1) := dk_172 (dk_at dksX2_opensAgain_1 15 rfl rfl)
abbrev cX2_placeOf : ByteArray := prog_14_method_7_code
def yX2_placeOf : MethodName := ⟨RX2, "placeOf", "(LTallTowers$Layer;)I"⟩
def dkwX2_placeOf_1 : List UInt8 := [167, 255, 235, 28, 172]
abbrev dktX2_placeOf_1 : List UInt8 := dkwX2_placeOf_1 ++ []
def dkwX2_placeOf_0 : List UInt8 := [3, 61, 42, 180, 0, 25, 43, 180, 0, 134, 50, 28, 46, 43, 180, 0, 137, 159, 0, 9, 132, 2, 1]
abbrev dktX2_placeOf_0 : List UInt8 := dkwX2_placeOf_0 ++ dktX2_placeOf_1
theorem dksX2_placeOf_0 : cX2_placeOf.data.toList.drop 0 = dktX2_placeOf_0 := by decide +kernel
theorem dksX2_placeOf_1 : cX2_placeOf.data.toList.drop 23 = dktX2_placeOf_1 := dk_seg dksX2_placeOf_0 23 rfl rfl
theorem dX2_placeOf_0 : decode cX2_placeOf 0 = .ok (.iconst 0, 1) := dk_3 (dk_at dksX2_placeOf_0 0 rfl rfl)
theorem dX2_placeOf_1 : decode cX2_placeOf 1 = .ok (.istore_n 2, 1) := dk_61 (dk_at dksX2_placeOf_0 1 rfl rfl)
theorem dX2_placeOf_2 : decode cX2_placeOf 2 = .ok (.aload_n 0, 1) := dk_42 (dk_at dksX2_placeOf_0 2 rfl rfl)
theorem dX2_placeOf_3 : decode cX2_placeOf 3 = .ok (.getfield 25, 3) := dk_180 0 25 (dk_at dksX2_placeOf_0 3 rfl rfl)
theorem dX2_placeOf_6 : decode cX2_placeOf 6 = .ok (.aload_n 1, 1) := dk_43 (dk_at dksX2_placeOf_0 6 rfl rfl)
theorem dX2_placeOf_7 : decode cX2_placeOf 7 = .ok (.getfield 134, 3) := dk_180 0 134 (dk_at dksX2_placeOf_0 7 rfl rfl)
theorem dX2_placeOf_10 : decode cX2_placeOf 10 = .ok (.aaload, 1) := dk_50 (dk_at dksX2_placeOf_0 10 rfl rfl)
theorem dX2_placeOf_11 : decode cX2_placeOf 11 = .ok (.iload_n 2, 1) := dk_28 (dk_at dksX2_placeOf_0 11 rfl rfl)
theorem dX2_placeOf_12 : decode cX2_placeOf 12 = .ok (.iaload, 1) := dk_46 (dk_at dksX2_placeOf_0 12 rfl rfl)
theorem dX2_placeOf_13 : decode cX2_placeOf 13 = .ok (.aload_n 1, 1) := dk_43 (dk_at dksX2_placeOf_0 13 rfl rfl)
theorem dX2_placeOf_14 : decode cX2_placeOf 14 = .ok (.getfield 137, 3) := dk_180 0 137 (dk_at dksX2_placeOf_0 14 rfl rfl)
theorem dX2_placeOf_17 : decode cX2_placeOf 17 = .ok (.if_icmp .eq 9, 3) := dk_159 0 9 (dk_at dksX2_placeOf_0 17 rfl rfl)
theorem dX2_placeOf_20 : decode cX2_placeOf 20 = .ok (.iinc 2 1, 3) := dk_132 2 1 (dk_at dksX2_placeOf_0 20 rfl rfl)
theorem dX2_placeOf_23 : decode cX2_placeOf 23 = .ok (.goto (-21), 3) := dk_167 255 235 (dk_at dksX2_placeOf_1 0 rfl rfl)
theorem dX2_placeOf_26 : decode cX2_placeOf 26 = .ok (.iload_n 2, 1) := dk_28 (dk_at dksX2_placeOf_1 3 rfl rfl)
theorem dX2_placeOf_27 : decode cX2_placeOf 27 = .ok (.ireturn, 1) := dk_172 (dk_at dksX2_placeOf_1 4 rfl rfl)
abbrev cX2_borneBy : ByteArray := prog_14_method_41_code
def yX2_borneBy : MethodName := ⟨RX2, "borneBy", "(I)J"⟩
def dkwX2_borneBy_1 : List UInt8 := [25, 4, 21, 6, 50, 58, 7, 32, 25, 7, 27, 182, 1, 119, 97, 65, 132, 6, 1, 167, 255, 230, 32, 173]
abbrev dktX2_borneBy_1 : List UInt8 := dkwX2_borneBy_1 ++ []
def dkwX2_borneBy_0 : List UInt8 := [9, 65, 42, 180, 0, 19, 58, 4, 25, 4, 190, 54, 5, 3, 54, 6, 21, 6, 21, 5, 162, 0, 25]
abbrev dktX2_borneBy_0 : List UInt8 := dkwX2_borneBy_0 ++ dktX2_borneBy_1
theorem dksX2_borneBy_0 : cX2_borneBy.data.toList.drop 0 = dktX2_borneBy_0 := by decide +kernel
theorem dksX2_borneBy_1 : cX2_borneBy.data.toList.drop 23 = dktX2_borneBy_1 := dk_seg dksX2_borneBy_0 23 rfl rfl
theorem dX2_borneBy_0 : decode cX2_borneBy 0 = .ok (.lconst 0, 1) := dk_9 (dk_at dksX2_borneBy_0 0 rfl rfl)
theorem dX2_borneBy_1 : decode cX2_borneBy 1 = .ok (.lstore_n 2, 1) := dk_65 (dk_at dksX2_borneBy_0 1 rfl rfl)
theorem dX2_borneBy_2 : decode cX2_borneBy 2 = .ok (.aload_n 0, 1) := dk_42 (dk_at dksX2_borneBy_0 2 rfl rfl)
theorem dX2_borneBy_3 : decode cX2_borneBy 3 = .ok (.getfield 19, 3) := dk_180 0 19 (dk_at dksX2_borneBy_0 3 rfl rfl)
theorem dX2_borneBy_6 : decode cX2_borneBy 6 = .ok (.astore 4, 2) := dk_58 4 (dk_at dksX2_borneBy_0 6 rfl rfl)
theorem dX2_borneBy_8 : decode cX2_borneBy 8 = .ok (.aload 4, 2) := dk_25 4 (dk_at dksX2_borneBy_0 8 rfl rfl)
theorem dX2_borneBy_10 : decode cX2_borneBy 10 = .ok (.arraylength, 1) := dk_190 (dk_at dksX2_borneBy_0 10 rfl rfl)
theorem dX2_borneBy_11 : decode cX2_borneBy 11 = .ok (.istore 5, 2) := dk_54 5 (dk_at dksX2_borneBy_0 11 rfl rfl)
theorem dX2_borneBy_13 : decode cX2_borneBy 13 = .ok (.iconst 0, 1) := dk_3 (dk_at dksX2_borneBy_0 13 rfl rfl)
theorem dX2_borneBy_14 : decode cX2_borneBy 14 = .ok (.istore 6, 2) := dk_54 6 (dk_at dksX2_borneBy_0 14 rfl rfl)
theorem dX2_borneBy_16 : decode cX2_borneBy 16 = .ok (.iload 6, 2) := dk_21 6 (dk_at dksX2_borneBy_0 16 rfl rfl)
theorem dX2_borneBy_18 : decode cX2_borneBy 18 = .ok (.iload 5, 2) := dk_21 5 (dk_at dksX2_borneBy_0 18 rfl rfl)
theorem dX2_borneBy_20 : decode cX2_borneBy 20 = .ok (.if_icmp .ge 25, 3) := dk_162 0 25 (dk_at dksX2_borneBy_0 20 rfl rfl)
theorem dX2_borneBy_23 : decode cX2_borneBy 23 = .ok (.aload 4, 2) := dk_25 4 (dk_at dksX2_borneBy_1 0 rfl rfl)
theorem dX2_borneBy_25 : decode cX2_borneBy 25 = .ok (.iload 6, 2) := dk_21 6 (dk_at dksX2_borneBy_1 2 rfl rfl)
theorem dX2_borneBy_27 : decode cX2_borneBy 27 = .ok (.aaload, 1) := dk_50 (dk_at dksX2_borneBy_1 4 rfl rfl)
theorem dX2_borneBy_28 : decode cX2_borneBy 28 = .ok (.astore 7, 2) := dk_58 7 (dk_at dksX2_borneBy_1 5 rfl rfl)
theorem dX2_borneBy_30 : decode cX2_borneBy 30 = .ok (.lload_n 2, 1) := dk_32 (dk_at dksX2_borneBy_1 7 rfl rfl)
theorem dX2_borneBy_31 : decode cX2_borneBy 31 = .ok (.aload 7, 2) := dk_25 7 (dk_at dksX2_borneBy_1 8 rfl rfl)
theorem dX2_borneBy_33 : decode cX2_borneBy 33 = .ok (.iload_n 1, 1) := dk_27 (dk_at dksX2_borneBy_1 10 rfl rfl)
theorem dX2_borneBy_34 : decode cX2_borneBy 34 = .ok (.invokevirtual 375, 3) := dk_182 1 119 (dk_at dksX2_borneBy_1 11 rfl rfl)
theorem dX2_borneBy_37 : decode cX2_borneBy 37 = .ok (.ladd, 1) := dk_97 (dk_at dksX2_borneBy_1 14 rfl rfl)
theorem dX2_borneBy_38 : decode cX2_borneBy 38 = .ok (.lstore_n 2, 1) := dk_65 (dk_at dksX2_borneBy_1 15 rfl rfl)
theorem dX2_borneBy_39 : decode cX2_borneBy 39 = .ok (.iinc 6 1, 3) := dk_132 6 1 (dk_at dksX2_borneBy_1 16 rfl rfl)
theorem dX2_borneBy_42 : decode cX2_borneBy 42 = .ok (.goto (-26), 3) := dk_167 255 230 (dk_at dksX2_borneBy_1 19 rfl rfl)
theorem dX2_borneBy_45 : decode cX2_borneBy 45 = .ok (.lload_n 2, 1) := dk_32 (dk_at dksX2_borneBy_1 22 rfl rfl)
theorem dX2_borneBy_46 : decode cX2_borneBy 46 = .ok (.lreturn, 1) := dk_173 (dk_at dksX2_borneBy_1 23 rfl rfl)
abbrev cX2_holdsTo : ByteArray := prog_14_method_3_code
def yX2_holdsTo : MethodName := ⟨RX2, "holdsTo", "(III)V"⟩
def dkwX2_holdsTo_0 : List UInt8 := [42, 27, 181, 0, 115, 42, 28, 181, 0, 118, 42, 29, 181, 0, 121, 42, 4, 181, 0, 130, 177]
abbrev dktX2_holdsTo_0 : List UInt8 := dkwX2_holdsTo_0 ++ []
theorem dksX2_holdsTo_0 : cX2_holdsTo.data.toList.drop 0 = dktX2_holdsTo_0 := by decide +kernel
theorem dX2_holdsTo_0 : decode cX2_holdsTo 0 = .ok (.aload_n 0, 1) := dk_42 (dk_at dksX2_holdsTo_0 0 rfl rfl)
theorem dX2_holdsTo_1 : decode cX2_holdsTo 1 = .ok (.iload_n 1, 1) := dk_27 (dk_at dksX2_holdsTo_0 1 rfl rfl)
theorem dX2_holdsTo_2 : decode cX2_holdsTo 2 = .ok (.putfield 115, 3) := dk_181 0 115 (dk_at dksX2_holdsTo_0 2 rfl rfl)
theorem dX2_holdsTo_5 : decode cX2_holdsTo 5 = .ok (.aload_n 0, 1) := dk_42 (dk_at dksX2_holdsTo_0 5 rfl rfl)
theorem dX2_holdsTo_6 : decode cX2_holdsTo 6 = .ok (.iload_n 2, 1) := dk_28 (dk_at dksX2_holdsTo_0 6 rfl rfl)
theorem dX2_holdsTo_7 : decode cX2_holdsTo 7 = .ok (.putfield 118, 3) := dk_181 0 118 (dk_at dksX2_holdsTo_0 7 rfl rfl)
theorem dX2_holdsTo_10 : decode cX2_holdsTo 10 = .ok (.aload_n 0, 1) := dk_42 (dk_at dksX2_holdsTo_0 10 rfl rfl)
theorem dX2_holdsTo_11 : decode cX2_holdsTo 11 = .ok (.iload_n 3, 1) := dk_29 (dk_at dksX2_holdsTo_0 11 rfl rfl)
theorem dX2_holdsTo_12 : decode cX2_holdsTo 12 = .ok (.putfield 121, 3) := dk_181 0 121 (dk_at dksX2_holdsTo_0 12 rfl rfl)
theorem dX2_holdsTo_15 : decode cX2_holdsTo 15 = .ok (.aload_n 0, 1) := dk_42 (dk_at dksX2_holdsTo_0 15 rfl rfl)
theorem dX2_holdsTo_16 : decode cX2_holdsTo 16 = .ok (.iconst 1, 1) := dk_4 (dk_at dksX2_holdsTo_0 16 rfl rfl)
theorem dX2_holdsTo_17 : decode cX2_holdsTo 17 = .ok (.putfield 130, 3) := dk_181 0 130 (dk_at dksX2_holdsTo_0 17 rfl rfl)
theorem dX2_holdsTo_20 : decode cX2_holdsTo 20 = .ok (.return_, 1) := dk_177 (dk_at dksX2_holdsTo_0 20 rfl rfl)
abbrev cX2_paidLessFair : ByteArray := prog_14_method_30_code
def yX2_paidLessFair : MethodName := ⟨RX2, "paidLessFair", "(LTallTowers$Harm;JI)J"⟩
def dkwX2_paidLessFair_2 : List UInt8 := [180, 0, 79, 180, 0, 203, 21, 4, 47, 101, 173]
abbrev dktX2_paidLessFair_2 : List UInt8 := dkwX2_paidLessFair_2 ++ []
def dkwX2_paidLessFair_1 : List UInt8 := [87, 42, 43, 32, 42, 180, 0, 79, 182, 1, 44, 42, 180, 0, 83, 180, 0, 203, 21, 4, 47, 42]
abbrev dktX2_paidLessFair_1 : List UInt8 := dkwX2_paidLessFair_1 ++ dktX2_paidLessFair_2
def dkwX2_paidLessFair_0 : List UInt8 := [42, 180, 0, 83, 182, 1, 43, 42, 180, 0, 79, 182, 1, 43, 42, 43, 32, 42, 180, 0, 83, 182, 1, 23]
abbrev dktX2_paidLessFair_0 : List UInt8 := dkwX2_paidLessFair_0 ++ dktX2_paidLessFair_1
theorem dksX2_paidLessFair_0 : cX2_paidLessFair.data.toList.drop 0 = dktX2_paidLessFair_0 := by decide +kernel
theorem dksX2_paidLessFair_1 : cX2_paidLessFair.data.toList.drop 24 = dktX2_paidLessFair_1 := dk_seg dksX2_paidLessFair_0 24 rfl rfl
theorem dksX2_paidLessFair_2 : cX2_paidLessFair.data.toList.drop 46 = dktX2_paidLessFair_2 := dk_seg dksX2_paidLessFair_1 22 rfl rfl
theorem dX2_paidLessFair_0 : decode cX2_paidLessFair 0 = .ok (.aload_n 0, 1) := dk_42 (dk_at dksX2_paidLessFair_0 0 rfl rfl)
theorem dX2_paidLessFair_1 : decode cX2_paidLessFair 1 = .ok (.getfield 83, 3) := dk_180 0 83 (dk_at dksX2_paidLessFair_0 1 rfl rfl)
theorem dX2_paidLessFair_4 : decode cX2_paidLessFair 4 = .ok (.invokevirtual 299, 3) := dk_182 1 43 (dk_at dksX2_paidLessFair_0 4 rfl rfl)
theorem dX2_paidLessFair_7 : decode cX2_paidLessFair 7 = .ok (.aload_n 0, 1) := dk_42 (dk_at dksX2_paidLessFair_0 7 rfl rfl)
theorem dX2_paidLessFair_8 : decode cX2_paidLessFair 8 = .ok (.getfield 79, 3) := dk_180 0 79 (dk_at dksX2_paidLessFair_0 8 rfl rfl)
theorem dX2_paidLessFair_11 : decode cX2_paidLessFair 11 = .ok (.invokevirtual 299, 3) := dk_182 1 43 (dk_at dksX2_paidLessFair_0 11 rfl rfl)
theorem dX2_paidLessFair_14 : decode cX2_paidLessFair 14 = .ok (.aload_n 0, 1) := dk_42 (dk_at dksX2_paidLessFair_0 14 rfl rfl)
theorem dX2_paidLessFair_15 : decode cX2_paidLessFair 15 = .ok (.aload_n 1, 1) := dk_43 (dk_at dksX2_paidLessFair_0 15 rfl rfl)
theorem dX2_paidLessFair_16 : decode cX2_paidLessFair 16 = .ok (.lload_n 2, 1) := dk_32 (dk_at dksX2_paidLessFair_0 16 rfl rfl)
theorem dX2_paidLessFair_17 : decode cX2_paidLessFair 17 = .ok (.aload_n 0, 1) := dk_42 (dk_at dksX2_paidLessFair_0 17 rfl rfl)
theorem dX2_paidLessFair_18 : decode cX2_paidLessFair 18 = .ok (.getfield 83, 3) := dk_180 0 83 (dk_at dksX2_paidLessFair_0 18 rfl rfl)
theorem dX2_paidLessFair_21 : decode cX2_paidLessFair 21 = .ok (.invokevirtual 279, 3) := dk_182 1 23 (dk_at dksX2_paidLessFair_0 21 rfl rfl)
theorem dX2_paidLessFair_24 : decode cX2_paidLessFair 24 = .ok (.pop, 1) := dk_87 (dk_at dksX2_paidLessFair_1 0 rfl rfl)
theorem dX2_paidLessFair_25 : decode cX2_paidLessFair 25 = .ok (.aload_n 0, 1) := dk_42 (dk_at dksX2_paidLessFair_1 1 rfl rfl)
theorem dX2_paidLessFair_26 : decode cX2_paidLessFair 26 = .ok (.aload_n 1, 1) := dk_43 (dk_at dksX2_paidLessFair_1 2 rfl rfl)
theorem dX2_paidLessFair_27 : decode cX2_paidLessFair 27 = .ok (.lload_n 2, 1) := dk_32 (dk_at dksX2_paidLessFair_1 3 rfl rfl)
theorem dX2_paidLessFair_28 : decode cX2_paidLessFair 28 = .ok (.aload_n 0, 1) := dk_42 (dk_at dksX2_paidLessFair_1 4 rfl rfl)
theorem dX2_paidLessFair_29 : decode cX2_paidLessFair 29 = .ok (.getfield 79, 3) := dk_180 0 79 (dk_at dksX2_paidLessFair_1 5 rfl rfl)
theorem dX2_paidLessFair_32 : decode cX2_paidLessFair 32 = .ok (.invokevirtual 300, 3) := dk_182 1 44 (dk_at dksX2_paidLessFair_1 8 rfl rfl)
theorem dX2_paidLessFair_35 : decode cX2_paidLessFair 35 = .ok (.aload_n 0, 1) := dk_42 (dk_at dksX2_paidLessFair_1 11 rfl rfl)
theorem dX2_paidLessFair_36 : decode cX2_paidLessFair 36 = .ok (.getfield 83, 3) := dk_180 0 83 (dk_at dksX2_paidLessFair_1 12 rfl rfl)
theorem dX2_paidLessFair_39 : decode cX2_paidLessFair 39 = .ok (.getfield 203, 3) := dk_180 0 203 (dk_at dksX2_paidLessFair_1 15 rfl rfl)
theorem dX2_paidLessFair_42 : decode cX2_paidLessFair 42 = .ok (.iload 4, 2) := dk_21 4 (dk_at dksX2_paidLessFair_1 18 rfl rfl)
theorem dX2_paidLessFair_44 : decode cX2_paidLessFair 44 = .ok (.laload, 1) := dk_47 (dk_at dksX2_paidLessFair_1 20 rfl rfl)
theorem dX2_paidLessFair_45 : decode cX2_paidLessFair 45 = .ok (.aload_n 0, 1) := dk_42 (dk_at dksX2_paidLessFair_1 21 rfl rfl)
theorem dX2_paidLessFair_46 : decode cX2_paidLessFair 46 = .ok (.getfield 79, 3) := dk_180 0 79 (dk_at dksX2_paidLessFair_2 0 rfl rfl)
theorem dX2_paidLessFair_49 : decode cX2_paidLessFair 49 = .ok (.getfield 203, 3) := dk_180 0 203 (dk_at dksX2_paidLessFair_2 3 rfl rfl)
theorem dX2_paidLessFair_52 : decode cX2_paidLessFair 52 = .ok (.iload 4, 2) := dk_21 4 (dk_at dksX2_paidLessFair_2 6 rfl rfl)
theorem dX2_paidLessFair_54 : decode cX2_paidLessFair 54 = .ok (.laload, 1) := dk_47 (dk_at dksX2_paidLessFair_2 8 rfl rfl)
theorem dX2_paidLessFair_55 : decode cX2_paidLessFair 55 = .ok (.lsub, 1) := dk_101 (dk_at dksX2_paidLessFair_2 9 rfl rfl)
theorem dX2_paidLessFair_56 : decode cX2_paidLessFair 56 = .ok (.lreturn, 1) := dk_173 (dk_at dksX2_paidLessFair_2 10 rfl rfl)
theorem q128 : (Jvm.Cond.initialized "TallTowers$World") ∈ lw_all := lw_g (lw_at lw_m1 2 rfl) rfl
theorem q169 : (Jvm.Cond.instantiable "TallTowers$World" (24 : Nat)) ∈ lw_all := lw_g (lw_at lw_m1 43 rfl) rfl
theorem q171 : (Jvm.Cond.instanceMethod ({ cls := "TallTowers$World", name := "<init>", desc := "()V" } : Jvm.MethodName)) ∈ lw_all := lw_g (lw_at lw_m1 45 rfl) rfl
theorem q172 : (Jvm.Cond.code ({ cls := "TallTowers$World", name := "<init>", desc := "()V" } : Jvm.MethodName) prog_14_method_1_code (2 : Nat) (Option.none : Option Jvm.ClassFile.FieldType)) ∈ lw_all := lw_g (lw_at lw_m1 46 rfl) rfl
theorem q173 : (Jvm.Cond.methodLink "TallTowers$World" (3 : Nat) ({ cls := "java/lang/Object", name := "<init>", desc := "()V" } : Jvm.MethodName)) ∈ lw_all := lw_g (lw_at lw_m1 47 rfl) rfl
theorem q174 : (Jvm.Cond.classLink "TallTowers$World" (9 : Nat) "TallTowers$Layer") ∈ lw_all := lw_g (lw_at lw_m1 48 rfl) rfl
theorem q176 : (Jvm.Cond.classLink "TallTowers$World" (17 : Nat) "TallTowers$Harm") ∈ lw_all := lw_g (lw_at lw_m1 50 rfl) rfl
theorem q178 : (Jvm.Cond.classLink "TallTowers$World" (23 : Nat) "[[I") ∈ lw_all := lw_g (lw_at lw_m1 52 rfl) rfl
theorem q180 : (Jvm.Cond.classLink "TallTowers$World" (54 : Nat) "TallTowers$Tower") ∈ lw_all := lw_g (lw_at lw_m1 54 rfl) rfl
theorem q182 : (Jvm.Cond.classLink "TallTowers$World" (60 : Nat) "TallTowers$Picks") ∈ lw_all := lw_g (lw_at lw_m1 56 rfl) rfl
theorem q184 : (Jvm.Cond.methodLinkNest "TallTowers$World" (62 : Nat) ({ cls := "TallTowers$Picks", name := "<init>", desc := "()V" } : Jvm.MethodName) "TallTowers") ∈ lw_tbl := lw_at lw_m1 58 rfl
theorem q189 : (Jvm.Cond.fieldLinkNest "TallTowers$World" (262 : Nat) "TallTowers$Picks" "rule" "I" "TallTowers") ∈ lw_tbl := lw_at lw_m1 63 rfl
theorem q195 : (Jvm.Cond.classLink "TallTowers$World" (67 : Nat) "java/util/PriorityQueue") ∈ lw_all := lw_g (lw_at lw_m1 69 rfl) rfl
theorem q197 : (Jvm.Cond.methodLink "TallTowers$World" (69 : Nat) ({ cls := "java/util/PriorityQueue", name := "<init>", desc := "(ILjava/util/Comparator;)V" } : Jvm.MethodName)) ∈ lw_all := lw_g (lw_at lw_m1 71 rfl) rfl
theorem q285 : (Jvm.Cond.classLink "TallTowers$World" (76 : Nat) "TallTowers$Flow") ∈ lw_all := lw_g (lw_at lw_m1 159 rfl) rfl
theorem q287 : (Jvm.Cond.methodLinkNest "TallTowers$World" (78 : Nat) ({ cls := "TallTowers$Flow", name := "<init>", desc := "()V" } : Jvm.MethodName) "TallTowers") ∈ lw_tbl := lw_at lw_m1 161 rfl
theorem q295 : (Jvm.Cond.fieldLink "TallTowers$World" (190 : Nat) "TallTowers$Harm" "takes" "[J") ∈ lw_all := lw_g (lw_at lw_m1 169 rfl) rfl
theorem q297 : (Jvm.Cond.fieldLink "TallTowers$World" (203 : Nat) "TallTowers$Flow" "takes" "[J") ∈ lw_all := lw_g (lw_at lw_m1 171 rfl) rfl
theorem q301 : (Jvm.Cond.fieldLink "TallTowers$World" (208 : Nat) "TallTowers$Harm" "through" "[J") ∈ lw_all := lw_g (lw_at lw_m1 175 rfl) rfl
theorem q303 : (Jvm.Cond.fieldLink "TallTowers$World" (214 : Nat) "TallTowers$Flow" "through" "[J") ∈ lw_all := lw_g (lw_at lw_m1 177 rfl) rfl
theorem q306 : (Jvm.Cond.fieldLink "TallTowers$World" (303 : Nat) "TallTowers$Flow" "moved" "[J") ∈ lw_all := lw_g (lw_at lw_m1 180 rfl) rfl
theorem q310 : (Jvm.Cond.fieldLink "TallTowers$World" (319 : Nat) "TallTowers$Flow" "parts" "[J") ∈ lw_all := lw_g (lw_at lw_m1 184 rfl) rfl
theorem q312 : (Jvm.Cond.fieldLink "TallTowers$World" (325 : Nat) "TallTowers$Flow" "bears" "[J") ∈ lw_all := lw_g (lw_at lw_m1 186 rfl) rfl
theorem q315 : (Jvm.Cond.fieldLink "TallTowers$World" (223 : Nat) "TallTowers$Flow" "falls" "[J") ∈ lw_all := lw_g (lw_at lw_m1 189 rfl) rfl
theorem q334 : (Jvm.Cond.methodLink "TallTowers$World" (86 : Nat) ({ cls := "TallTowers$Layer", name := "<init>", desc := "(I)V" } : Jvm.MethodName)) ∈ lw_all := lw_g (lw_at lw_m1 208 rfl) rfl
theorem q340 : (Jvm.Cond.fieldLinkNest "TallTowers$World" (322 : Nat) "TallTowers$Layer" "who" "[I" "TallTowers") ∈ lw_tbl := lw_at lw_m1 214 rfl
theorem q343 : (Jvm.Cond.fieldLinkNest "TallTowers$World" (316 : Nat) "TallTowers$Layer" "tenths" "[I" "TallTowers") ∈ lw_tbl := lw_at lw_m1 217 rfl
theorem q346 : (Jvm.Cond.fieldLinkNest "TallTowers$World" (340 : Nat) "TallTowers$Layer" "had" "[J" "TallTowers") ∈ lw_tbl := lw_at lw_m1 220 rfl
theorem q348 : (Jvm.Cond.fieldLinkNest "TallTowers$World" (137 : Nat) "TallTowers$Layer" "number" "I" "TallTowers") ∈ lw_tbl := lw_at lw_m1 222 rfl
theorem q351 : (Jvm.Cond.fieldLinkNest "TallTowers$World" (134 : Nat) "TallTowers$Layer" "year" "I" "TallTowers") ∈ lw_tbl := lw_at lw_m1 225 rfl
theorem q354 : (Jvm.Cond.fieldLinkNest "TallTowers$World" (144 : Nat) "TallTowers$Layer" "from" "I" "TallTowers") ∈ lw_tbl := lw_at lw_m1 228 rfl
theorem q357 : (Jvm.Cond.fieldLinkNest "TallTowers$World" (187 : Nat) "TallTowers$Layer" "size" "I" "TallTowers") ∈ lw_tbl := lw_at lw_m1 231 rfl
theorem q362 : (Jvm.Cond.fieldLinkNest "TallTowers$World" (170 : Nat) "TallTowers$Layer" "signers" "I" "TallTowers") ∈ lw_tbl := lw_at lw_m1 236 rfl
theorem q365 : (Jvm.Cond.fieldLinkNest "TallTowers$World" (166 : Nat) "TallTowers$Layer" "used" "J" "TallTowers") ∈ lw_tbl := lw_at lw_m1 239 rfl
theorem q368 : (Jvm.Cond.fieldLinkNest "TallTowers$World" (163 : Nat) "TallTowers$Layer" "isThere" "Z" "TallTowers") ∈ lw_tbl := lw_at lw_m2 2 rfl
theorem q394 : (Jvm.Cond.methodLinkNest "TallTowers$World" (89 : Nat) ({ cls := "TallTowers$Harm", name := "<init>", desc := "()V" } : Jvm.MethodName) "TallTowers") ∈ lw_tbl := lw_at lw_m2 28 rfl
theorem q406 : (Jvm.Cond.fieldLinkNest "TallTowers$World" (372 : Nat) "TallTowers$Harm" "grew" "I" "TallTowers") ∈ lw_tbl := lw_at lw_m2 40 rfl
theorem q409 : (Jvm.Cond.fieldLinkNest "TallTowers$World" (351 : Nat) "TallTowers$Harm" "loss" "J" "TallTowers") ∈ lw_tbl := lw_at lw_m2 43 rfl
theorem q411 : (Jvm.Cond.fieldLinkNest "TallTowers$World" (358 : Nat) "TallTowers$Harm" "isThere" "Z" "TallTowers") ∈ lw_tbl := lw_at lw_m2 45 rfl
theorem q432 : (Jvm.Cond.methodLink "TallTowers$World" (90 : Nat) ({ cls := "TallTowers$Tower", name := "<init>", desc := "(I)V" } : Jvm.MethodName)) ∈ lw_all := lw_g (lw_at lw_m2 66 rfl) rfl
theorem q438 : (Jvm.Cond.fieldLinkNest "TallTowers$World" (298 : Nat) "TallTowers$Tower" "year" "I" "TallTowers") ∈ lw_tbl := lw_at lw_m2 72 rfl
theorem q441 : (Jvm.Cond.fieldLinkNest "TallTowers$World" (269 : Nat) "TallTowers$Tower" "room" "J" "TallTowers") ∈ lw_tbl := lw_at lw_m2 75 rfl
theorem q443 : (Jvm.Cond.fieldLinkNest "TallTowers$World" (272 : Nat) "TallTowers$Tower" "lowest" "I" "TallTowers") ∈ lw_tbl := lw_at lw_m2 77 rfl
theorem q451 : (Jvm.Cond.classLink "TallTowers$World" (91 : Nat) "TallTowers$Spread") ∈ lw_all := lw_g (lw_at lw_m2 85 rfl) rfl
theorem q454 : (Jvm.Cond.privateMethod ({ cls := "TallTowers$World", name := "byTime", desc := "(LTallTowers$Harm;JLTallTowers$Flow;)V" } : Jvm.MethodName)) ∈ lw_tbl := lw_at lw_m2 88 rfl
theorem q455 : (Jvm.Cond.instanceMethod ({ cls := "TallTowers$World", name := "byTime", desc := "(LTallTowers$Harm;JLTallTowers$Flow;)V" } : Jvm.MethodName)) ∈ lw_all := lw_g (lw_at lw_m2 89 rfl) rfl
theorem q456 : (Jvm.Cond.code ({ cls := "TallTowers$World", name := "byTime", desc := "(LTallTowers$Harm;JLTallTowers$Flow;)V" } : Jvm.MethodName) prog_14_method_25_code (5 : Nat) (Option.none : Option Jvm.ClassFile.FieldType)) ∈ lw_all := lw_g (lw_at lw_m2 90 rfl) rfl
theorem q457 : (Jvm.Cond.methodLink "TallTowers$World" (248 : Nat) ({ cls := "TallTowers$World", name := "weighsByTime", desc := "(LTallTowers$Harm;)V" } : Jvm.MethodName)) ∈ lw_all := lw_g (lw_at lw_m2 91 rfl) rfl
theorem q458 : (Jvm.Cond.instanceMethod ({ cls := "TallTowers$World", name := "weighsByTime", desc := "(LTallTowers$Harm;)V" } : Jvm.MethodName)) ∈ lw_all := lw_g (lw_at lw_m2 92 rfl) rfl
theorem q459 : (Jvm.Cond.selects "TallTowers$World" ({ cls := "TallTowers$World", name := "weighsByTime", desc := "(LTallTowers$Harm;)V" } : Jvm.MethodName) ({ cls := "TallTowers$World", name := "weighsByTime", desc := "(LTallTowers$Harm;)V" } : Jvm.MethodName)) ∈ lw_all := lw_g (lw_at lw_m2 93 rfl) rfl
theorem q460 : (Jvm.Cond.code ({ cls := "TallTowers$World", name := "weighsByTime", desc := "(LTallTowers$Harm;)V" } : Jvm.MethodName) prog_14_method_22_code (3 : Nat) (Option.none : Option Jvm.ClassFile.FieldType)) ∈ lw_all := lw_g (lw_at lw_m2 94 rfl) rfl
theorem q461 : (Jvm.Cond.methodLink "TallTowers$World" (237 : Nat) ({ cls := "TallTowers$World", name := "counts", desc := "(LTallTowers$Harm;I)Z" } : Jvm.MethodName)) ∈ lw_all := lw_g (lw_at lw_m2 95 rfl) rfl
theorem q462 : (Jvm.Cond.privateMethod ({ cls := "TallTowers$World", name := "counts", desc := "(LTallTowers$Harm;I)Z" } : Jvm.MethodName)) ∈ lw_tbl := lw_at lw_m2 96 rfl
theorem q463 : (Jvm.Cond.instanceMethod ({ cls := "TallTowers$World", name := "counts", desc := "(LTallTowers$Harm;I)Z" } : Jvm.MethodName)) ∈ lw_all := lw_g (lw_at lw_m2 97 rfl) rfl
theorem q464 : (Jvm.Cond.code ({ cls := "TallTowers$World", name := "counts", desc := "(LTallTowers$Harm;I)Z" } : Jvm.MethodName) prog_14_method_20_code (3 : Nat) (Option.some Jvm.ClassFile.FieldType.boolean)) ∈ lw_all := lw_g (lw_at lw_m2 98 rfl) rfl
theorem q465 : (Jvm.Cond.methodLink "TallTowers$World" (234 : Nat) ({ cls := "TallTowers$Harm", name := "setOff", desc := "(I)I" } : Jvm.MethodName)) ∈ lw_all := lw_g (lw_at lw_m2 99 rfl) rfl
theorem q469 : (Jvm.Cond.methodLink "TallTowers$World" (151 : Nat) ({ cls := "TallTowers$World", name := "isLacking", desc := "(I)Z" } : Jvm.MethodName)) ∈ lw_all := lw_g (lw_at lw_m2 103 rfl) rfl
theorem q470 : (Jvm.Cond.instanceMethod ({ cls := "TallTowers$World", name := "isLacking", desc := "(I)Z" } : Jvm.MethodName)) ∈ lw_all := lw_g (lw_at lw_m2 104 rfl) rfl
theorem q471 : (Jvm.Cond.selects "TallTowers$World" ({ cls := "TallTowers$World", name := "isLacking", desc := "(I)Z" } : Jvm.MethodName) ({ cls := "TallTowers$World", name := "isLacking", desc := "(I)Z" } : Jvm.MethodName)) ∈ lw_all := lw_g (lw_at lw_m2 105 rfl) rfl
theorem q472 : (Jvm.Cond.code ({ cls := "TallTowers$World", name := "isLacking", desc := "(I)Z" } : Jvm.MethodName) prog_14_method_5_code (2 : Nat) (Option.some Jvm.ClassFile.FieldType.boolean)) ∈ lw_all := lw_g (lw_at lw_m2 106 rfl) rfl
theorem q473 : (Jvm.Cond.methodLink "TallTowers$World" (252 : Nat) ({ cls := "TallTowers$World", name := "fillsAll", desc := "(LTallTowers$Harm;JLTallTowers$Flow;)V" } : Jvm.MethodName)) ∈ lw_all := lw_g (lw_at lw_m2 107 rfl) rfl
theorem q474 : (Jvm.Cond.privateMethod ({ cls := "TallTowers$World", name := "fillsAll", desc := "(LTallTowers$Harm;JLTallTowers$Flow;)V" } : Jvm.MethodName)) ∈ lw_tbl := lw_at lw_m2 108 rfl
theorem q475 : (Jvm.Cond.instanceMethod ({ cls := "TallTowers$World", name := "fillsAll", desc := "(LTallTowers$Harm;JLTallTowers$Flow;)V" } : Jvm.MethodName)) ∈ lw_all := lw_g (lw_at lw_m2 109 rfl) rfl
theorem q476 : (Jvm.Cond.code ({ cls := "TallTowers$World", name := "fillsAll", desc := "(LTallTowers$Harm;JLTallTowers$Flow;)V" } : Jvm.MethodName) prog_14_method_19_code (12 : Nat) (Option.none : Option Jvm.ClassFile.FieldType)) ∈ lw_all := lw_g (lw_at lw_m2 110 rfl) rfl
theorem q477 : (Jvm.Cond.methodLinkNest "TallTowers$World" (226 : Nat) ({ cls := "TallTowers", name := "shares", desc := "(J[J[J)V" } : Jvm.MethodName) "TallTowers") ∈ lw_tbl := lw_at lw_m2 111 rfl
theorem q480 : (Jvm.Cond.methodLink "TallTowers$World" (184 : Nat) ({ cls := "TallTowers$World", name := "isGap", desc := "(I)Z" } : Jvm.MethodName)) ∈ lw_all := lw_g (lw_at lw_m2 114 rfl) rfl
theorem q481 : (Jvm.Cond.instanceMethod ({ cls := "TallTowers$World", name := "isGap", desc := "(I)Z" } : Jvm.MethodName)) ∈ lw_all := lw_g (lw_at lw_m2 115 rfl) rfl
theorem q482 : (Jvm.Cond.selects "TallTowers$World" ({ cls := "TallTowers$World", name := "isGap", desc := "(I)Z" } : Jvm.MethodName) ({ cls := "TallTowers$World", name := "isGap", desc := "(I)Z" } : Jvm.MethodName)) ∈ lw_all := lw_g (lw_at lw_m2 116 rfl) rfl
theorem q483 : (Jvm.Cond.code ({ cls := "TallTowers$World", name := "isGap", desc := "(I)Z" } : Jvm.MethodName) prog_14_method_6_code (2 : Nat) (Option.some Jvm.ClassFile.FieldType.boolean)) ∈ lw_all := lw_g (lw_at lw_m2 117 rfl) rfl
theorem q484 : (Jvm.Cond.methodLink "TallTowers$World" (230 : Nat) ({ cls := "TallTowers$World", name := "fills", desc := "(LTallTowers$Harm;IJLTallTowers$Flow;)J" } : Jvm.MethodName)) ∈ lw_all := lw_g (lw_at lw_m2 118 rfl) rfl
theorem q485 : (Jvm.Cond.privateMethod ({ cls := "TallTowers$World", name := "fills", desc := "(LTallTowers$Harm;IJLTallTowers$Flow;)J" } : Jvm.MethodName)) ∈ lw_tbl := lw_at lw_m2 119 rfl
theorem q486 : (Jvm.Cond.instanceMethod ({ cls := "TallTowers$World", name := "fills", desc := "(LTallTowers$Harm;IJLTallTowers$Flow;)J" } : Jvm.MethodName)) ∈ lw_all := lw_g (lw_at lw_m2 120 rfl) rfl
theorem q487 : (Jvm.Cond.code ({ cls := "TallTowers$World", name := "fills", desc := "(LTallTowers$Harm;IJLTallTowers$Flow;)J" } : Jvm.MethodName) prog_14_method_18_code (14 : Nat) (Option.some Jvm.ClassFile.FieldType.long)) ∈ lw_all := lw_g (lw_at lw_m2 121 rfl) rfl
theorem q488 : (Jvm.Cond.methodLink "TallTowers$World" (140 : Nat) ({ cls := "TallTowers$World", name := "layerAt", desc := "(II)LTallTowers$Layer;" } : Jvm.MethodName)) ∈ lw_all := lw_g (lw_at lw_m2 122 rfl) rfl
theorem q489 : (Jvm.Cond.instanceMethod ({ cls := "TallTowers$World", name := "layerAt", desc := "(II)LTallTowers$Layer;" } : Jvm.MethodName)) ∈ lw_all := lw_g (lw_at lw_m2 123 rfl) rfl
theorem q490 : (Jvm.Cond.selects "TallTowers$World" ({ cls := "TallTowers$World", name := "layerAt", desc := "(II)LTallTowers$Layer;" } : Jvm.MethodName) ({ cls := "TallTowers$World", name := "layerAt", desc := "(II)LTallTowers$Layer;" } : Jvm.MethodName)) ∈ lw_all := lw_g (lw_at lw_m2 124 rfl) rfl
theorem q491 : (Jvm.Cond.code ({ cls := "TallTowers$World", name := "layerAt", desc := "(II)LTallTowers$Layer;" } : Jvm.MethodName) prog_14_method_4_code (3 : Nat) (Option.some (Jvm.ClassFile.FieldType.object "TallTowers$Layer"))) ∈ lw_all := lw_g (lw_at lw_m2 125 rfl) rfl
theorem q492 : (Jvm.Cond.methodLink "TallTowers$World" (215 : Nat) ({ cls := "TallTowers$World", name := "mayGoThrough", desc := "(LTallTowers$Harm;IILTallTowers$Flow;)J" } : Jvm.MethodName)) ∈ lw_all := lw_g (lw_at lw_m2 126 rfl) rfl
theorem q493 : (Jvm.Cond.privateMethod ({ cls := "TallTowers$World", name := "mayGoThrough", desc := "(LTallTowers$Harm;IILTallTowers$Flow;)J" } : Jvm.MethodName)) ∈ lw_tbl := lw_at lw_m2 127 rfl
theorem q494 : (Jvm.Cond.instanceMethod ({ cls := "TallTowers$World", name := "mayGoThrough", desc := "(LTallTowers$Harm;IILTallTowers$Flow;)J" } : Jvm.MethodName)) ∈ lw_all := lw_g (lw_at lw_m2 128 rfl) rfl
theorem q495 : (Jvm.Cond.code ({ cls := "TallTowers$World", name := "mayGoThrough", desc := "(LTallTowers$Harm;IILTallTowers$Flow;)J" } : Jvm.MethodName) prog_14_method_16_code (6 : Nat) (Option.some Jvm.ClassFile.FieldType.long)) ∈ lw_all := lw_g (lw_at lw_m2 129 rfl) rfl
theorem q496 : (Jvm.Cond.methodLink "TallTowers$World" (204 : Nat) ({ cls := "TallTowers$World", name := "holeOf", desc := "(II)I" } : Jvm.MethodName)) ∈ lw_all := lw_g (lw_at lw_m2 130 rfl) rfl
theorem q497 : (Jvm.Cond.instanceMethod ({ cls := "TallTowers$World", name := "holeOf", desc := "(II)I" } : Jvm.MethodName)) ∈ lw_all := lw_g (lw_at lw_m2 131 rfl) rfl
theorem q498 : (Jvm.Cond.selects "TallTowers$World" ({ cls := "TallTowers$World", name := "holeOf", desc := "(II)I" } : Jvm.MethodName) ({ cls := "TallTowers$World", name := "holeOf", desc := "(II)I" } : Jvm.MethodName)) ∈ lw_all := lw_g (lw_at lw_m2 132 rfl) rfl
theorem q499 : (Jvm.Cond.code ({ cls := "TallTowers$World", name := "holeOf", desc := "(II)I" } : Jvm.MethodName) prog_14_method_8_code (3 : Nat) (Option.some Jvm.ClassFile.FieldType.int)) ∈ lw_all := lw_g (lw_at lw_m2 133 rfl) rfl
theorem q500 : (Jvm.Cond.methodLink "TallTowers$World" (147 : Nat) ({ cls := "TallTowers$Layer", name := "top", desc := "()I" } : Jvm.MethodName)) ∈ lw_all := lw_g (lw_at lw_m2 134 rfl) rfl
theorem q504 : (Jvm.Cond.methodLink "TallTowers$World" (211 : Nat) ({ cls := "java/lang/Math", name := "max", desc := "(JJ)J" } : Jvm.MethodName)) ∈ lw_all := lw_g (lw_at lw_m2 138 rfl) rfl
theorem q507 : (Jvm.Cond.methodLink "TallTowers$World" (197 : Nat) ({ cls := "java/lang/Math", name := "min", desc := "(JJ)J" } : Jvm.MethodName)) ∈ lw_all := lw_g (lw_at lw_m2 141 rfl) rfl
theorem q510 : (Jvm.Cond.methodLink "TallTowers$World" (219 : Nat) ({ cls := "TallTowers$World", name := "can", desc := "(LTallTowers$Harm;LTallTowers$Layer;LTallTowers$Flow;)J" } : Jvm.MethodName)) ∈ lw_all := lw_g (lw_at lw_m2 144 rfl) rfl
theorem q511 : (Jvm.Cond.privateMethod ({ cls := "TallTowers$World", name := "can", desc := "(LTallTowers$Harm;LTallTowers$Layer;LTallTowers$Flow;)J" } : Jvm.MethodName)) ∈ lw_tbl := lw_at lw_m2 145 rfl
theorem q512 : (Jvm.Cond.instanceMethod ({ cls := "TallTowers$World", name := "can", desc := "(LTallTowers$Harm;LTallTowers$Layer;LTallTowers$Flow;)J" } : Jvm.MethodName)) ∈ lw_all := lw_g (lw_at lw_m2 146 rfl) rfl
theorem q513 : (Jvm.Cond.code ({ cls := "TallTowers$World", name := "can", desc := "(LTallTowers$Harm;LTallTowers$Layer;LTallTowers$Flow;)J" } : Jvm.MethodName) prog_14_method_15_code (4 : Nat) (Option.some Jvm.ClassFile.FieldType.long)) ∈ lw_all := lw_g (lw_at lw_m2 147 rfl) rfl
theorem q514 : (Jvm.Cond.methodLink "TallTowers$World" (193 : Nat) ({ cls := "TallTowers$Layer", name := "left", desc := "()J" } : Jvm.MethodName)) ∈ lw_all := lw_g (lw_at lw_m2 148 rfl) rfl
theorem q518 : (Jvm.Cond.methodLink "TallTowers$World" (97 : Nat) ({ cls := "TallTowers$Spread", name := "<init>", desc := "(LTallTowers$Spreading;)V" } : Jvm.MethodName)) ∈ lw_all := lw_g (lw_at lw_m2 152 rfl) rfl
theorem q523 : (Jvm.Cond.fieldLinkNest "TallTowers$World" (328 : Nat) "TallTowers$Spread" "way" "LTallTowers$Spreading;" "TallTowers") ∈ lw_tbl := lw_at lw_m2 157 rfl
theorem q527 : (Jvm.Cond.privateMethod ({ cls := "TallTowers$World", name := "bySizes", desc := "(LTallTowers$Harm;JLTallTowers$Flow;)V" } : Jvm.MethodName)) ∈ lw_tbl := lw_at lw_m2 161 rfl
theorem q528 : (Jvm.Cond.instanceMethod ({ cls := "TallTowers$World", name := "bySizes", desc := "(LTallTowers$Harm;JLTallTowers$Flow;)V" } : Jvm.MethodName)) ∈ lw_all := lw_g (lw_at lw_m2 162 rfl) rfl
theorem q529 : (Jvm.Cond.code ({ cls := "TallTowers$World", name := "bySizes", desc := "(LTallTowers$Harm;JLTallTowers$Flow;)V" } : Jvm.MethodName) prog_14_method_26_code (5 : Nat) (Option.none : Option Jvm.ClassFile.FieldType)) ∈ lw_all := lw_g (lw_at lw_m2 163 rfl) rfl
theorem q530 : (Jvm.Cond.methodLink "TallTowers$World" (256 : Nat) ({ cls := "TallTowers$World", name := "weighsBySizes", desc := "(LTallTowers$Harm;)V" } : Jvm.MethodName)) ∈ lw_all := lw_g (lw_at lw_m2 164 rfl) rfl
theorem q531 : (Jvm.Cond.instanceMethod ({ cls := "TallTowers$World", name := "weighsBySizes", desc := "(LTallTowers$Harm;)V" } : Jvm.MethodName)) ∈ lw_all := lw_g (lw_at lw_m2 165 rfl) rfl
theorem q532 : (Jvm.Cond.selects "TallTowers$World" ({ cls := "TallTowers$World", name := "weighsBySizes", desc := "(LTallTowers$Harm;)V" } : Jvm.MethodName) ({ cls := "TallTowers$World", name := "weighsBySizes", desc := "(LTallTowers$Harm;)V" } : Jvm.MethodName)) ∈ lw_all := lw_g (lw_at lw_m2 166 rfl) rfl
theorem q533 : (Jvm.Cond.code ({ cls := "TallTowers$World", name := "weighsBySizes", desc := "(LTallTowers$Harm;)V" } : Jvm.MethodName) prog_14_method_24_code (9 : Nat) (Option.none : Option Jvm.ClassFile.FieldType)) ∈ lw_all := lw_g (lw_at lw_m2 167 rfl) rfl
theorem q534 : (Jvm.Cond.methodLink "TallTowers$World" (241 : Nat) ({ cls := "TallTowers$World", name := "hasTower", desc := "(LTallTowers$Harm;I)Z" } : Jvm.MethodName)) ∈ lw_all := lw_g (lw_at lw_m2 168 rfl) rfl
theorem q535 : (Jvm.Cond.privateMethod ({ cls := "TallTowers$World", name := "hasTower", desc := "(LTallTowers$Harm;I)Z" } : Jvm.MethodName)) ∈ lw_tbl := lw_at lw_m2 169 rfl
theorem q536 : (Jvm.Cond.instanceMethod ({ cls := "TallTowers$World", name := "hasTower", desc := "(LTallTowers$Harm;I)Z" } : Jvm.MethodName)) ∈ lw_all := lw_g (lw_at lw_m2 170 rfl) rfl
theorem q537 : (Jvm.Cond.code ({ cls := "TallTowers$World", name := "hasTower", desc := "(LTallTowers$Harm;I)Z" } : Jvm.MethodName) prog_14_method_21_code (3 : Nat) (Option.some Jvm.ClassFile.FieldType.boolean)) ∈ lw_all := lw_g (lw_at lw_m2 171 rfl) rfl
theorem q538 : (Jvm.Cond.methodLink "TallTowers$World" (244 : Nat) ({ cls := "TallTowers$World", name := "sizesOf", desc := "(I)J" } : Jvm.MethodName)) ∈ lw_all := lw_g (lw_at lw_m2 172 rfl) rfl
theorem q539 : (Jvm.Cond.privateMethod ({ cls := "TallTowers$World", name := "sizesOf", desc := "(I)J" } : Jvm.MethodName)) ∈ lw_tbl := lw_at lw_m2 173 rfl
theorem q540 : (Jvm.Cond.instanceMethod ({ cls := "TallTowers$World", name := "sizesOf", desc := "(I)J" } : Jvm.MethodName)) ∈ lw_all := lw_g (lw_at lw_m2 174 rfl) rfl
theorem q541 : (Jvm.Cond.code ({ cls := "TallTowers$World", name := "sizesOf", desc := "(I)J" } : Jvm.MethodName) prog_14_method_23_code (5 : Nat) (Option.some Jvm.ClassFile.FieldType.long)) ∈ lw_all := lw_g (lw_at lw_m2 175 rfl) rfl
theorem q542 : (Jvm.Cond.privateMethod ({ cls := "TallTowers$World", name := "toTheFull", desc := "(LTallTowers$Harm;JLTallTowers$Flow;)V" } : Jvm.MethodName)) ∈ lw_tbl := lw_at lw_m2 176 rfl
theorem q543 : (Jvm.Cond.instanceMethod ({ cls := "TallTowers$World", name := "toTheFull", desc := "(LTallTowers$Harm;JLTallTowers$Flow;)V" } : Jvm.MethodName)) ∈ lw_all := lw_g (lw_at lw_m2 177 rfl) rfl
theorem q544 : (Jvm.Cond.code ({ cls := "TallTowers$World", name := "toTheFull", desc := "(LTallTowers$Harm;JLTallTowers$Flow;)V" } : Jvm.MethodName) prog_14_method_28_code (5 : Nat) (Option.none : Option Jvm.ClassFile.FieldType)) ∈ lw_all := lw_g (lw_at lw_m2 178 rfl) rfl
theorem q545 : (Jvm.Cond.methodLink "TallTowers$World" (279 : Nat) ({ cls := "TallTowers$World", name := "paysInFull", desc := "(LTallTowers$Harm;JLTallTowers$Flow;)Z" } : Jvm.MethodName)) ∈ lw_all := lw_g (lw_at lw_m2 179 rfl) rfl
theorem q546 : (Jvm.Cond.privateMethod ({ cls := "TallTowers$World", name := "paysInFull", desc := "(LTallTowers$Harm;JLTallTowers$Flow;)Z" } : Jvm.MethodName)) ∈ lw_tbl := lw_at lw_m2 180 rfl
theorem q547 : (Jvm.Cond.instanceMethod ({ cls := "TallTowers$World", name := "paysInFull", desc := "(LTallTowers$Harm;JLTallTowers$Flow;)Z" } : Jvm.MethodName)) ∈ lw_all := lw_g (lw_at lw_m2 181 rfl) rfl
theorem q548 : (Jvm.Cond.code ({ cls := "TallTowers$World", name := "paysInFull", desc := "(LTallTowers$Harm;JLTallTowers$Flow;)Z" } : Jvm.MethodName) prog_14_method_29_code (9 : Nat) (Option.some Jvm.ClassFile.FieldType.boolean)) ∈ lw_all := lw_g (lw_at lw_m2 182 rfl) rfl
theorem q549 : (Jvm.Cond.methodLink "TallTowers$World" (286 : Nat) ({ cls := "TallTowers$World", name := "lines", desc := "(LTallTowers$Harm;LTallTowers$Flow;)V" } : Jvm.MethodName)) ∈ lw_all := lw_g (lw_at lw_m2 183 rfl) rfl
theorem q550 : (Jvm.Cond.instanceMethod ({ cls := "TallTowers$World", name := "lines", desc := "(LTallTowers$Harm;LTallTowers$Flow;)V" } : Jvm.MethodName)) ∈ lw_all := lw_g (lw_at lw_m2 184 rfl) rfl
theorem q551 : (Jvm.Cond.selects "TallTowers$World" ({ cls := "TallTowers$World", name := "lines", desc := "(LTallTowers$Harm;LTallTowers$Flow;)V" } : Jvm.MethodName) ({ cls := "TallTowers$World", name := "lines", desc := "(LTallTowers$Harm;LTallTowers$Flow;)V" } : Jvm.MethodName)) ∈ lw_all := lw_g (lw_at lw_m2 185 rfl) rfl
theorem q552 : (Jvm.Cond.code ({ cls := "TallTowers$World", name := "lines", desc := "(LTallTowers$Harm;LTallTowers$Flow;)V" } : Jvm.MethodName) prog_14_method_27_code (4 : Nat) (Option.none : Option Jvm.ClassFile.FieldType)) ∈ lw_all := lw_g (lw_at lw_m2 186 rfl) rfl
theorem q553 : (Jvm.Cond.methodLink "TallTowers$World" (259 : Nat) ({ cls := "java/util/PriorityQueue", name := "clear", desc := "()V" } : Jvm.MethodName)) ∈ lw_all := lw_g (lw_at lw_m2 187 rfl) rfl
theorem q557 : (Jvm.Cond.methodLink "TallTowers$World" (265 : Nat) ({ cls := "TallTowers$World", name := "roomOf", desc := "(LTallTowers$Harm;ILTallTowers$Flow;)J" } : Jvm.MethodName)) ∈ lw_all := lw_g (lw_at lw_m2 191 rfl) rfl
theorem q558 : (Jvm.Cond.privateMethod ({ cls := "TallTowers$World", name := "roomOf", desc := "(LTallTowers$Harm;ILTallTowers$Flow;)J" } : Jvm.MethodName)) ∈ lw_tbl := lw_at lw_m2 192 rfl
theorem q559 : (Jvm.Cond.instanceMethod ({ cls := "TallTowers$World", name := "roomOf", desc := "(LTallTowers$Harm;ILTallTowers$Flow;)J" } : Jvm.MethodName)) ∈ lw_all := lw_g (lw_at lw_m2 193 rfl) rfl
theorem q560 : (Jvm.Cond.code ({ cls := "TallTowers$World", name := "roomOf", desc := "(LTallTowers$Harm;ILTallTowers$Flow;)J" } : Jvm.MethodName) prog_14_method_17_code (7 : Nat) (Option.some Jvm.ClassFile.FieldType.long)) ∈ lw_all := lw_g (lw_at lw_m2 194 rfl) rfl
theorem q561 : (Jvm.Cond.methodLink "TallTowers$World" (275 : Nat) ({ cls := "java/util/PriorityQueue", name := "add", desc := "(Ljava/lang/Object;)Z" } : Jvm.MethodName)) ∈ lw_all := lw_g (lw_at lw_m2 195 rfl) rfl
theorem q598 : (Jvm.Cond.selects "TallTowers$World" ({ cls := "java/lang/Object", name := "getClass", desc := "()Ljava/lang/Class;" } : Jvm.MethodName) ({ cls := "java/lang/Object", name := "getClass", desc := "()Ljava/lang/Class;" } : Jvm.MethodName)) ∈ lw_all := lw_g (lw_at lw_m2 232 rfl) rfl
theorem q667 : (Jvm.Cond.methodLink "TallTowers$World" (290 : Nat) ({ cls := "java/util/PriorityQueue", name := "isEmpty", desc := "()Z" } : Jvm.MethodName)) ∈ lw_all := lw_g (lw_at lw_m3 61 rfl) rfl
theorem q690 : (Jvm.Cond.methodLink "TallTowers$World" (294 : Nat) ({ cls := "java/util/PriorityQueue", name := "poll", desc := "()Ljava/lang/Object;" } : Jvm.MethodName)) ∈ lw_all := lw_g (lw_at lw_m3 84 rfl) rfl
theorem q700 : (Jvm.Cond.methodLink "TallTowers$World" (283 : Nat) ({ cls := "TallTowers$World", name := "contributes", desc := "(LTallTowers$Harm;JLTallTowers$Flow;)V" } : Jvm.MethodName)) ∈ lw_all := lw_g (lw_at lw_m3 94 rfl) rfl
theorem q701 : (Jvm.Cond.privateMethod ({ cls := "TallTowers$World", name := "contributes", desc := "(LTallTowers$Harm;JLTallTowers$Flow;)V" } : Jvm.MethodName)) ∈ lw_tbl := lw_at lw_m3 95 rfl
theorem q702 : (Jvm.Cond.instanceMethod ({ cls := "TallTowers$World", name := "contributes", desc := "(LTallTowers$Harm;JLTallTowers$Flow;)V" } : Jvm.MethodName)) ∈ lw_all := lw_g (lw_at lw_m3 96 rfl) rfl
theorem q703 : (Jvm.Cond.code ({ cls := "TallTowers$World", name := "contributes", desc := "(LTallTowers$Harm;JLTallTowers$Flow;)V" } : Jvm.MethodName) prog_14_method_31_code (10 : Nat) (Option.none : Option Jvm.ClassFile.FieldType)) ∈ lw_all := lw_g (lw_at lw_m3 97 rfl) rfl
theorem q704 : (Jvm.Cond.methodLink "TallTowers$World" (299 : Nat) ({ cls := "TallTowers$Flow", name := "begins", desc := "()V" } : Jvm.MethodName)) ∈ lw_all := lw_g (lw_at lw_m3 98 rfl) rfl
theorem q716 : (Jvm.Cond.methodLink "TallTowers$World" (300 : Nat) ({ cls := "TallTowers$World", name := "byTime", desc := "(LTallTowers$Harm;JLTallTowers$Flow;)V" } : Jvm.MethodName)) ∈ lw_all := lw_g (lw_at lw_m3 110 rfl) rfl
theorem q717 : (Jvm.Cond.privateMethod ({ cls := "TallTowers$World", name := "byLevel", desc := "(LTallTowers$Harm;JLTallTowers$Flow;)V" } : Jvm.MethodName)) ∈ lw_tbl := lw_at lw_m3 111 rfl
theorem q718 : (Jvm.Cond.instanceMethod ({ cls := "TallTowers$World", name := "byLevel", desc := "(LTallTowers$Harm;JLTallTowers$Flow;)V" } : Jvm.MethodName)) ∈ lw_all := lw_g (lw_at lw_m3 112 rfl) rfl
theorem q719 : (Jvm.Cond.code ({ cls := "TallTowers$World", name := "byLevel", desc := "(LTallTowers$Harm;JLTallTowers$Flow;)V" } : Jvm.MethodName) prog_14_method_33_code (14 : Nat) (Option.none : Option Jvm.ClassFile.FieldType)) ∈ lw_all := lw_g (lw_at lw_m3 113 rfl) rfl
theorem q720 : (Jvm.Cond.constantLong "TallTowers$World" (306 : Nat) (2000000000 : Int64)) ∈ lw_all := lw_g (lw_at lw_m3 114 rfl) rfl
theorem q721 : (Jvm.Cond.constantLong "TallTowers$World" (308 : Nat) (2 : Int64)) ∈ lw_all := lw_g (lw_at lw_m3 115 rfl) rfl
theorem q722 : (Jvm.Cond.methodLink "TallTowers$World" (310 : Nat) ({ cls := "TallTowers$World", name := "upTo", desc := "(J)J" } : Jvm.MethodName)) ∈ lw_all := lw_g (lw_at lw_m3 116 rfl) rfl
theorem q723 : (Jvm.Cond.privateMethod ({ cls := "TallTowers$World", name := "upTo", desc := "(J)J" } : Jvm.MethodName)) ∈ lw_tbl := lw_at lw_m3 117 rfl
theorem q724 : (Jvm.Cond.instanceMethod ({ cls := "TallTowers$World", name := "upTo", desc := "(J)J" } : Jvm.MethodName)) ∈ lw_all := lw_g (lw_at lw_m3 118 rfl) rfl
theorem q725 : (Jvm.Cond.code ({ cls := "TallTowers$World", name := "upTo", desc := "(J)J" } : Jvm.MethodName) prog_14_method_32_code (10 : Nat) (Option.some Jvm.ClassFile.FieldType.long)) ∈ lw_all := lw_g (lw_at lw_m3 119 rfl) rfl
theorem q726 : (Jvm.Cond.fieldLink "TallTowers$World" (11 : Nat) "TallTowers$World" "layers" "[LTallTowers$Layer;") ∈ lw_all := lw_g (lw_at lw_m3 120 rfl) rfl
theorem q728 : (Jvm.Cond.fieldLink "TallTowers$World" (19 : Nat) "TallTowers$World" "harms" "[LTallTowers$Harm;") ∈ lw_all := lw_g (lw_at lw_m3 122 rfl) rfl
theorem q730 : (Jvm.Cond.fieldLink "TallTowers$World" (25 : Nat) "TallTowers$World" "rungs" "[[I") ∈ lw_all := lw_g (lw_at lw_m3 124 rfl) rfl
theorem q732 : (Jvm.Cond.fieldLink "TallTowers$World" (28 : Nat) "TallTowers$World" "many" "[I") ∈ lw_all := lw_g (lw_at lw_m3 126 rfl) rfl
theorem q734 : (Jvm.Cond.fieldLink "TallTowers$World" (32 : Nat) "TallTowers$World" "status" "[I") ∈ lw_all := lw_g (lw_at lw_m3 128 rfl) rfl
theorem q736 : (Jvm.Cond.fieldLink "TallTowers$World" (35 : Nat) "TallTowers$World" "cash" "[J") ∈ lw_all := lw_g (lw_at lw_m3 130 rfl) rfl
theorem q738 : (Jvm.Cond.fieldLink "TallTowers$World" (39 : Nat) "TallTowers$World" "weights" "[J") ∈ lw_all := lw_g (lw_at lw_m3 132 rfl) rfl
theorem q740 : (Jvm.Cond.fieldLink "TallTowers$World" (42 : Nat) "TallTowers$World" "sums" "[J") ∈ lw_all := lw_g (lw_at lw_m3 134 rfl) rfl
theorem q742 : (Jvm.Cond.fieldLink "TallTowers$World" (45 : Nat) "TallTowers$World" "excess" "[J") ∈ lw_all := lw_g (lw_at lw_m3 136 rfl) rfl
theorem q743 : (Jvm.Cond.fieldLink "TallTowers$World" (48 : Nat) "TallTowers$World" "debt" "[J") ∈ lw_all := lw_g (lw_at lw_m3 137 rfl) rfl
theorem q744 : (Jvm.Cond.fieldLink "TallTowers$World" (51 : Nat) "TallTowers$World" "moves" "[J") ∈ lw_all := lw_g (lw_at lw_m3 138 rfl) rfl
theorem q745 : (Jvm.Cond.fieldLink "TallTowers$World" (56 : Nat) "TallTowers$World" "towers" "[LTallTowers$Tower;") ∈ lw_all := lw_g (lw_at lw_m3 139 rfl) rfl
theorem q746 : (Jvm.Cond.fieldLink "TallTowers$World" (63 : Nat) "TallTowers$World" "order" "LTallTowers$Picks;") ∈ lw_all := lw_g (lw_at lw_m3 140 rfl) rfl
theorem q747 : (Jvm.Cond.fieldLink "TallTowers$World" (72 : Nat) "TallTowers$World" "queue" "Ljava/util/PriorityQueue;") ∈ lw_all := lw_g (lw_at lw_m3 141 rfl) rfl
theorem q749 : (Jvm.Cond.fieldLink "TallTowers$World" (79 : Nat) "TallTowers$World" "fair" "LTallTowers$Flow;") ∈ lw_all := lw_g (lw_at lw_m3 143 rfl) rfl
theorem q750 : (Jvm.Cond.fieldLink "TallTowers$World" (83 : Nat) "TallTowers$World" "flow" "LTallTowers$Flow;") ∈ lw_all := lw_g (lw_at lw_m3 144 rfl) rfl
theorem q752 : (Jvm.Cond.fieldLink "TallTowers$World" (103 : Nat) "TallTowers$World" "ways" "[LTallTowers$Spread;") ∈ lw_all := lw_g (lw_at lw_m3 146 rfl) rfl
theorem q753 : (Jvm.Cond.fieldLink "TallTowers$World" (111 : Nat) "TallTowers$World" "lacking" "I") ∈ lw_all := lw_g (lw_at lw_m3 147 rfl) rfl
theorem q755 : (Jvm.Cond.fieldLink "TallTowers$World" (115 : Nat) "TallTowers$World" "trigger" "I") ∈ lw_all := lw_g (lw_at lw_m3 149 rfl) rfl
theorem q757 : (Jvm.Cond.fieldLink "TallTowers$World" (118 : Nat) "TallTowers$World" "spread" "I") ∈ lw_all := lw_g (lw_at lw_m3 151 rfl) rfl
theorem q759 : (Jvm.Cond.fieldLink "TallTowers$World" (121 : Nat) "TallTowers$World" "pick" "I") ∈ lw_all := lw_g (lw_at lw_m3 153 rfl) rfl
theorem q761 : (Jvm.Cond.fieldLink "TallTowers$World" (124 : Nat) "TallTowers$World" "placed" "I") ∈ lw_all := lw_g (lw_at lw_m3 155 rfl) rfl
theorem q763 : (Jvm.Cond.fieldLink "TallTowers$World" (127 : Nat) "TallTowers$World" "harmed" "I") ∈ lw_all := lw_g (lw_at lw_m3 157 rfl) rfl
theorem q765 : (Jvm.Cond.fieldLink "TallTowers$World" (130 : Nat) "TallTowers$World" "isFixed" "Z") ∈ lw_all := lw_g (lw_at lw_m3 159 rfl) rfl
theorem q766 : (Jvm.Cond.laysFinal "TallTowers$World" "TallTowers$World" "layers" "[LTallTowers$Layer;") ∈ lw_all := lw_g (lw_at lw_m3 160 rfl) rfl
theorem q767 : (Jvm.Cond.soleField "TallTowers$World" "layers") ∈ lw_all := lw_g (lw_at lw_m3 161 rfl) rfl
theorem q768 : (Jvm.Cond.laysFinal "TallTowers$World" "TallTowers$World" "harms" "[LTallTowers$Harm;") ∈ lw_all := lw_g (lw_at lw_m3 162 rfl) rfl
theorem q769 : (Jvm.Cond.soleField "TallTowers$World" "harms") ∈ lw_all := lw_g (lw_at lw_m3 163 rfl) rfl
theorem q770 : (Jvm.Cond.laysFinal "TallTowers$World" "TallTowers$World" "rungs" "[[I") ∈ lw_all := lw_g (lw_at lw_m3 164 rfl) rfl
theorem q771 : (Jvm.Cond.soleField "TallTowers$World" "rungs") ∈ lw_all := lw_g (lw_at lw_m3 165 rfl) rfl
theorem q772 : (Jvm.Cond.laysFinal "TallTowers$World" "TallTowers$World" "many" "[I") ∈ lw_all := lw_g (lw_at lw_m3 166 rfl) rfl
theorem q773 : (Jvm.Cond.soleField "TallTowers$World" "many") ∈ lw_all := lw_g (lw_at lw_m3 167 rfl) rfl
theorem q774 : (Jvm.Cond.laysFinal "TallTowers$World" "TallTowers$World" "status" "[I") ∈ lw_all := lw_g (lw_at lw_m3 168 rfl) rfl
theorem q775 : (Jvm.Cond.soleField "TallTowers$World" "status") ∈ lw_all := lw_g (lw_at lw_m3 169 rfl) rfl
theorem q776 : (Jvm.Cond.laysFinal "TallTowers$World" "TallTowers$World" "cash" "[J") ∈ lw_all := lw_g (lw_at lw_m3 170 rfl) rfl
theorem q777 : (Jvm.Cond.soleField "TallTowers$World" "cash") ∈ lw_all := lw_g (lw_at lw_m3 171 rfl) rfl
theorem q778 : (Jvm.Cond.laysFinal "TallTowers$World" "TallTowers$World" "weights" "[J") ∈ lw_all := lw_g (lw_at lw_m3 172 rfl) rfl
theorem q779 : (Jvm.Cond.soleField "TallTowers$World" "weights") ∈ lw_all := lw_g (lw_at lw_m3 173 rfl) rfl
theorem q780 : (Jvm.Cond.laysFinal "TallTowers$World" "TallTowers$World" "sums" "[J") ∈ lw_all := lw_g (lw_at lw_m3 174 rfl) rfl
theorem q781 : (Jvm.Cond.soleField "TallTowers$World" "sums") ∈ lw_all := lw_g (lw_at lw_m3 175 rfl) rfl
theorem q782 : (Jvm.Cond.laysFinal "TallTowers$World" "TallTowers$World" "excess" "[J") ∈ lw_all := lw_g (lw_at lw_m3 176 rfl) rfl
theorem q783 : (Jvm.Cond.soleField "TallTowers$World" "excess") ∈ lw_all := lw_g (lw_at lw_m3 177 rfl) rfl
theorem q784 : (Jvm.Cond.laysFinal "TallTowers$World" "TallTowers$World" "debt" "[J") ∈ lw_all := lw_g (lw_at lw_m3 178 rfl) rfl
theorem q785 : (Jvm.Cond.soleField "TallTowers$World" "debt") ∈ lw_all := lw_g (lw_at lw_m3 179 rfl) rfl
theorem q786 : (Jvm.Cond.laysFinal "TallTowers$World" "TallTowers$World" "moves" "[J") ∈ lw_all := lw_g (lw_at lw_m3 180 rfl) rfl
theorem q787 : (Jvm.Cond.soleField "TallTowers$World" "moves") ∈ lw_all := lw_g (lw_at lw_m3 181 rfl) rfl
theorem q788 : (Jvm.Cond.laysFinal "TallTowers$World" "TallTowers$World" "towers" "[LTallTowers$Tower;") ∈ lw_all := lw_g (lw_at lw_m3 182 rfl) rfl
theorem q789 : (Jvm.Cond.soleField "TallTowers$World" "towers") ∈ lw_all := lw_g (lw_at lw_m3 183 rfl) rfl
theorem q790 : (Jvm.Cond.laysFinal "TallTowers$World" "TallTowers$World" "order" "LTallTowers$Picks;") ∈ lw_all := lw_g (lw_at lw_m3 184 rfl) rfl
theorem q791 : (Jvm.Cond.soleField "TallTowers$World" "order") ∈ lw_all := lw_g (lw_at lw_m3 185 rfl) rfl
theorem q792 : (Jvm.Cond.laysFinal "TallTowers$World" "TallTowers$World" "queue" "Ljava/util/PriorityQueue;") ∈ lw_all := lw_g (lw_at lw_m3 186 rfl) rfl
theorem q793 : (Jvm.Cond.soleField "TallTowers$World" "queue") ∈ lw_all := lw_g (lw_at lw_m3 187 rfl) rfl
theorem q794 : (Jvm.Cond.laysFinal "TallTowers$World" "TallTowers$World" "fair" "LTallTowers$Flow;") ∈ lw_all := lw_g (lw_at lw_m3 188 rfl) rfl
theorem q795 : (Jvm.Cond.soleField "TallTowers$World" "fair") ∈ lw_all := lw_g (lw_at lw_m3 189 rfl) rfl
theorem q796 : (Jvm.Cond.laysFinal "TallTowers$World" "TallTowers$World" "flow" "LTallTowers$Flow;") ∈ lw_all := lw_g (lw_at lw_m3 190 rfl) rfl
theorem q797 : (Jvm.Cond.soleField "TallTowers$World" "flow") ∈ lw_all := lw_g (lw_at lw_m3 191 rfl) rfl
theorem q798 : (Jvm.Cond.laysFinal "TallTowers$World" "TallTowers$World" "ways" "[LTallTowers$Spread;") ∈ lw_all := lw_g (lw_at lw_m3 192 rfl) rfl
theorem q799 : (Jvm.Cond.soleField "TallTowers$World" "ways") ∈ lw_all := lw_g (lw_at lw_m3 193 rfl) rfl
theorem q800 : (Jvm.Cond.lays "TallTowers$World" "TallTowers$World" "lacking" "I") ∈ lw_all := lw_g (lw_at lw_m3 194 rfl) rfl
theorem q801 : (Jvm.Cond.soleField "TallTowers$World" "lacking") ∈ lw_all := lw_g (lw_at lw_m3 195 rfl) rfl
theorem q802 : (Jvm.Cond.lays "TallTowers$World" "TallTowers$World" "trigger" "I") ∈ lw_all := lw_g (lw_at lw_m3 196 rfl) rfl
theorem q803 : (Jvm.Cond.soleField "TallTowers$World" "trigger") ∈ lw_all := lw_g (lw_at lw_m3 197 rfl) rfl
theorem q804 : (Jvm.Cond.lays "TallTowers$World" "TallTowers$World" "spread" "I") ∈ lw_all := lw_g (lw_at lw_m3 198 rfl) rfl
theorem q805 : (Jvm.Cond.soleField "TallTowers$World" "spread") ∈ lw_all := lw_g (lw_at lw_m3 199 rfl) rfl
theorem q806 : (Jvm.Cond.lays "TallTowers$World" "TallTowers$World" "pick" "I") ∈ lw_all := lw_g (lw_at lw_m3 200 rfl) rfl
theorem q807 : (Jvm.Cond.soleField "TallTowers$World" "pick") ∈ lw_all := lw_g (lw_at lw_m3 201 rfl) rfl
theorem q808 : (Jvm.Cond.lays "TallTowers$World" "TallTowers$World" "placed" "I") ∈ lw_all := lw_g (lw_at lw_m3 202 rfl) rfl
theorem q809 : (Jvm.Cond.soleField "TallTowers$World" "placed") ∈ lw_all := lw_g (lw_at lw_m3 203 rfl) rfl
theorem q810 : (Jvm.Cond.lays "TallTowers$World" "TallTowers$World" "harmed" "I") ∈ lw_all := lw_g (lw_at lw_m3 204 rfl) rfl
theorem q811 : (Jvm.Cond.soleField "TallTowers$World" "harmed") ∈ lw_all := lw_g (lw_at lw_m3 205 rfl) rfl
theorem q812 : (Jvm.Cond.lays "TallTowers$World" "TallTowers$World" "isFixed" "Z") ∈ lw_all := lw_g (lw_at lw_m3 206 rfl) rfl
theorem q813 : (Jvm.Cond.soleField "TallTowers$World" "isFixed") ∈ lw_all := lw_g (lw_at lw_m3 207 rfl) rfl
theorem q814 : (Jvm.Cond.superclass "TallTowers$World" "java/lang/Object") ∈ lw_all := lw_g (lw_at lw_m3 208 rfl) rfl
theorem q870 : (Jvm.Cond.instanceMethod ({ cls := "TallTowers$World", name := "begins", desc := "()V" } : Jvm.MethodName)) ∈ lw_all := lw_g (lw_at lw_m4 24 rfl) rfl
theorem q871 : (Jvm.Cond.selects "TallTowers$World" ({ cls := "TallTowers$World", name := "begins", desc := "()V" } : Jvm.MethodName) ({ cls := "TallTowers$World", name := "begins", desc := "()V" } : Jvm.MethodName)) ∈ lw_all := lw_g (lw_at lw_m4 25 rfl) rfl
theorem q872 : (Jvm.Cond.code ({ cls := "TallTowers$World", name := "begins", desc := "()V" } : Jvm.MethodName) prog_14_method_2_code (5 : Nat) (Option.none : Option Jvm.ClassFile.FieldType)) ∈ lw_all := lw_g (lw_at lw_m4 26 rfl) rfl
theorem q873 : (Jvm.Cond.methodLink "TallTowers$World" (107 : Nat) ({ cls := "TallTowers$Layer", name := "begins", desc := "()V" } : Jvm.MethodName)) ∈ lw_all := lw_g (lw_at lw_m4 27 rfl) rfl
theorem q877 : (Jvm.Cond.methodLink "TallTowers$World" (110 : Nat) ({ cls := "TallTowers$Harm", name := "begins", desc := "()V" } : Jvm.MethodName)) ∈ lw_all := lw_g (lw_at lw_m4 31 rfl) rfl
theorem q961 : (Jvm.Cond.instanceMethod ({ cls := "TallTowers$World", name := "places", desc := "(IIIII)Z" } : Jvm.MethodName)) ∈ lw_all := lw_g (lw_at lw_m4 115 rfl) rfl
theorem q962 : (Jvm.Cond.selects "TallTowers$World" ({ cls := "TallTowers$World", name := "places", desc := "(IIIII)Z" } : Jvm.MethodName) ({ cls := "TallTowers$World", name := "places", desc := "(IIIII)Z" } : Jvm.MethodName)) ∈ lw_all := lw_g (lw_at lw_m4 116 rfl) rfl
theorem q963 : (Jvm.Cond.code ({ cls := "TallTowers$World", name := "places", desc := "(IIIII)Z" } : Jvm.MethodName) prog_14_method_9_code (7 : Nat) (Option.some Jvm.ClassFile.FieldType.boolean)) ∈ lw_all := lw_g (lw_at lw_m4 117 rfl) rfl
theorem q964 : (Jvm.Cond.methodLink "TallTowers$World" (155 : Nat) ({ cls := "TallTowers$Layer", name := "meets", desc := "(II)Z" } : Jvm.MethodName)) ∈ lw_all := lw_g (lw_at lw_m4 118 rfl) rfl
theorem q969 : (Jvm.Cond.methodLink "TallTowers$World" (159 : Nat) ({ cls := "TallTowers$Layer", name := "lies", desc := "(IIII)V" } : Jvm.MethodName)) ∈ lw_all := lw_g (lw_at lw_m4 123 rfl) rfl
theorem q1052 : (Jvm.Cond.instanceMethod ({ cls := "TallTowers$World", name := "signs", desc := "(III)Z" } : Jvm.MethodName)) ∈ lw_all := lw_g (lw_at lw_m4 206 rfl) rfl
theorem q1053 : (Jvm.Cond.selects "TallTowers$World" ({ cls := "TallTowers$World", name := "signs", desc := "(III)Z" } : Jvm.MethodName) ({ cls := "TallTowers$World", name := "signs", desc := "(III)Z" } : Jvm.MethodName)) ∈ lw_all := lw_g (lw_at lw_m4 207 rfl) rfl
theorem q1054 : (Jvm.Cond.code ({ cls := "TallTowers$World", name := "signs", desc := "(III)Z" } : Jvm.MethodName) prog_14_method_10_code (5 : Nat) (Option.some Jvm.ClassFile.FieldType.boolean)) ∈ lw_all := lw_g (lw_at lw_m4 208 rfl) rfl
theorem q1055 : (Jvm.Cond.methodLink "TallTowers$World" (173 : Nat) ({ cls := "TallTowers$Layer", name := "tenthsOf", desc := "(I)I" } : Jvm.MethodName)) ∈ lw_all := lw_g (lw_at lw_m4 209 rfl) rfl
theorem q1059 : (Jvm.Cond.methodLink "TallTowers$World" (177 : Nat) ({ cls := "TallTowers$Layer", name := "allTenths", desc := "()I" } : Jvm.MethodName)) ∈ lw_all := lw_g (lw_at lw_m4 213 rfl) rfl
theorem q1063 : (Jvm.Cond.methodLink "TallTowers$World" (180 : Nat) ({ cls := "TallTowers$Layer", name := "isSignedBy", desc := "(II)V" } : Jvm.MethodName)) ∈ lw_all := lw_g (lw_at lw_m4 217 rfl) rfl
theorem q1078 : (Jvm.Cond.instanceMethod ({ cls := "TallTowers$World", name := "goesWithout", desc := "(I)Z" } : Jvm.MethodName)) ∈ lw_all := lw_g (lw_at lw_m4 232 rfl) rfl
theorem q1079 : (Jvm.Cond.selects "TallTowers$World" ({ cls := "TallTowers$World", name := "goesWithout", desc := "(I)Z" } : Jvm.MethodName) ({ cls := "TallTowers$World", name := "goesWithout", desc := "(I)Z" } : Jvm.MethodName)) ∈ lw_all := lw_g (lw_at lw_m4 233 rfl) rfl
theorem q1080 : (Jvm.Cond.code ({ cls := "TallTowers$World", name := "goesWithout", desc := "(I)Z" } : Jvm.MethodName) prog_14_method_11_code (2 : Nat) (Option.some Jvm.ClassFile.FieldType.boolean)) ∈ lw_all := lw_g (lw_at lw_m4 234 rfl) rfl
theorem q1101 : (Jvm.Cond.instanceMethod ({ cls := "TallTowers$World", name := "rulesBy", desc := "(III)Z" } : Jvm.MethodName)) ∈ lw_all := lw_g (lw_at lw_m5 15 rfl) rfl
theorem q1102 : (Jvm.Cond.selects "TallTowers$World" ({ cls := "TallTowers$World", name := "rulesBy", desc := "(III)Z" } : Jvm.MethodName) ({ cls := "TallTowers$World", name := "rulesBy", desc := "(III)Z" } : Jvm.MethodName)) ∈ lw_all := lw_g (lw_at lw_m5 16 rfl) rfl
theorem q1103 : (Jvm.Cond.code ({ cls := "TallTowers$World", name := "rulesBy", desc := "(III)Z" } : Jvm.MethodName) prog_14_method_12_code (4 : Nat) (Option.some Jvm.ClassFile.FieldType.boolean)) ∈ lw_all := lw_g (lw_at lw_m5 17 rfl) rfl
theorem q1119 : (Jvm.Cond.instanceMethod ({ cls := "TallTowers$World", name := "isHarmed", desc := "(IIIII)Z" } : Jvm.MethodName)) ∈ lw_all := lw_g (lw_at lw_m5 33 rfl) rfl
theorem q1120 : (Jvm.Cond.selects "TallTowers$World" ({ cls := "TallTowers$World", name := "isHarmed", desc := "(IIIII)Z" } : Jvm.MethodName) ({ cls := "TallTowers$World", name := "isHarmed", desc := "(IIIII)Z" } : Jvm.MethodName)) ∈ lw_all := lw_g (lw_at lw_m5 34 rfl) rfl
theorem q1121 : (Jvm.Cond.code ({ cls := "TallTowers$World", name := "isHarmed", desc := "(IIIII)Z" } : Jvm.MethodName) prog_14_method_39_code (7 : Nat) (Option.some Jvm.ClassFile.FieldType.boolean)) ∈ lw_all := lw_g (lw_at lw_m5 35 rfl) rfl
theorem q1122 : (Jvm.Cond.methodLink "TallTowers$World" (368 : Nat) ({ cls := "TallTowers$Harm", name := "goesOn", desc := "(III)V" } : Jvm.MethodName)) ∈ lw_all := lw_g (lw_at lw_m5 36 rfl) rfl
theorem q1126 : (Jvm.Cond.methodLink "TallTowers$World" (364 : Nat) ({ cls := "TallTowers$World", name := "lays", desc := "(LTallTowers$Harm;J)Z" } : Jvm.MethodName)) ∈ lw_all := lw_g (lw_at lw_m5 40 rfl) rfl
theorem q1127 : (Jvm.Cond.privateMethod ({ cls := "TallTowers$World", name := "lays", desc := "(LTallTowers$Harm;J)Z" } : Jvm.MethodName)) ∈ lw_tbl := lw_at lw_m5 41 rfl
theorem q1128 : (Jvm.Cond.instanceMethod ({ cls := "TallTowers$World", name := "lays", desc := "(LTallTowers$Harm;J)Z" } : Jvm.MethodName)) ∈ lw_all := lw_g (lw_at lw_m5 42 rfl) rfl
theorem q1129 : (Jvm.Cond.code ({ cls := "TallTowers$World", name := "lays", desc := "(LTallTowers$Harm;J)Z" } : Jvm.MethodName) prog_14_method_37_code (4 : Nat) (Option.some Jvm.ClassFile.FieldType.boolean)) ∈ lw_all := lw_g (lw_at lw_m5 43 rfl) rfl
theorem q1130 : (Jvm.Cond.methodLink "TallTowers$World" (343 : Nat) ({ cls := "TallTowers$World", name := "flows", desc := "(LTallTowers$Harm;J)LTallTowers$Flow;" } : Jvm.MethodName)) ∈ lw_all := lw_g (lw_at lw_m5 44 rfl) rfl
theorem q1131 : (Jvm.Cond.instanceMethod ({ cls := "TallTowers$World", name := "flows", desc := "(LTallTowers$Harm;J)LTallTowers$Flow;" } : Jvm.MethodName)) ∈ lw_all := lw_g (lw_at lw_m5 45 rfl) rfl
theorem q1132 : (Jvm.Cond.selects "TallTowers$World" ({ cls := "TallTowers$World", name := "flows", desc := "(LTallTowers$Harm;J)LTallTowers$Flow;" } : Jvm.MethodName) ({ cls := "TallTowers$World", name := "flows", desc := "(LTallTowers$Harm;J)LTallTowers$Flow;" } : Jvm.MethodName)) ∈ lw_all := lw_g (lw_at lw_m5 46 rfl) rfl
theorem q1133 : (Jvm.Cond.code ({ cls := "TallTowers$World", name := "flows", desc := "(LTallTowers$Harm;J)LTallTowers$Flow;" } : Jvm.MethodName) prog_14_method_35_code (8 : Nat) (Option.some (Jvm.ClassFile.FieldType.object "TallTowers$Flow"))) ∈ lw_all := lw_g (lw_at lw_m5 47 rfl) rfl
theorem q1134 : (Jvm.Cond.interfaceEntry "TallTowers$World" (332 : Nat)) ∈ lw_tbl := lw_at lw_m5 48 rfl
theorem q1135 : (Jvm.Cond.methodLink "TallTowers$World" (332 : Nat) ({ cls := "TallTowers$Spreading", name := "goes", desc := "(LTallTowers$Harm;JLTallTowers$Flow;)V" } : Jvm.MethodName)) ∈ lw_all := lw_g (lw_at lw_m5 49 rfl) rfl
theorem q1138 : (Jvm.Cond.methodLink "TallTowers$World" (336 : Nat) ({ cls := "TallTowers$World", name := "splits", desc := "(LTallTowers$Layer;LTallTowers$Flow;)V" } : Jvm.MethodName)) ∈ lw_all := lw_g (lw_at lw_m5 52 rfl) rfl
theorem q1139 : (Jvm.Cond.privateMethod ({ cls := "TallTowers$World", name := "splits", desc := "(LTallTowers$Layer;LTallTowers$Flow;)V" } : Jvm.MethodName)) ∈ lw_tbl := lw_at lw_m5 53 rfl
theorem q1140 : (Jvm.Cond.instanceMethod ({ cls := "TallTowers$World", name := "splits", desc := "(LTallTowers$Layer;LTallTowers$Flow;)V" } : Jvm.MethodName)) ∈ lw_all := lw_g (lw_at lw_m5 54 rfl) rfl
theorem q1141 : (Jvm.Cond.code ({ cls := "TallTowers$World", name := "splits", desc := "(LTallTowers$Layer;LTallTowers$Flow;)V" } : Jvm.MethodName) prog_14_method_34_code (13 : Nat) (Option.none : Option Jvm.ClassFile.FieldType)) ∈ lw_all := lw_g (lw_at lw_m5 55 rfl) rfl
theorem q1142 : (Jvm.Cond.constantLong "TallTowers$World" (314 : Nat) (10 : Int64)) ∈ lw_all := lw_g (lw_at lw_m5 56 rfl) rfl
theorem q1143 : (Jvm.Cond.methodLink "TallTowers$World" (347 : Nat) ({ cls := "TallTowers$Harm", name := "addsAll", desc := "(LTallTowers$Flow;)V" } : Jvm.MethodName)) ∈ lw_all := lw_g (lw_at lw_m5 57 rfl) rfl
theorem q1156 : (Jvm.Cond.methodLink "TallTowers$World" (354 : Nat) ({ cls := "TallTowers$World", name := "uses", desc := "(LTallTowers$Flow;J)V" } : Jvm.MethodName)) ∈ lw_all := lw_g (lw_at lw_m5 70 rfl) rfl
theorem q1157 : (Jvm.Cond.privateMethod ({ cls := "TallTowers$World", name := "uses", desc := "(LTallTowers$Flow;J)V" } : Jvm.MethodName)) ∈ lw_tbl := lw_at lw_m5 71 rfl
theorem q1158 : (Jvm.Cond.instanceMethod ({ cls := "TallTowers$World", name := "uses", desc := "(LTallTowers$Flow;J)V" } : Jvm.MethodName)) ∈ lw_all := lw_g (lw_at lw_m5 72 rfl) rfl
theorem q1159 : (Jvm.Cond.code ({ cls := "TallTowers$World", name := "uses", desc := "(LTallTowers$Flow;J)V" } : Jvm.MethodName) prog_14_method_36_code (9 : Nat) (Option.none : Option Jvm.ClassFile.FieldType)) ∈ lw_all := lw_g (lw_at lw_m5 73 rfl) rfl
theorem q1180 : (Jvm.Cond.instanceMethod ({ cls := "TallTowers$World", name := "grows", desc := "(II)Z" } : Jvm.MethodName)) ∈ lw_all := lw_g (lw_at lw_m5 94 rfl) rfl
theorem q1181 : (Jvm.Cond.selects "TallTowers$World" ({ cls := "TallTowers$World", name := "grows", desc := "(II)Z" } : Jvm.MethodName) ({ cls := "TallTowers$World", name := "grows", desc := "(II)Z" } : Jvm.MethodName)) ∈ lw_all := lw_g (lw_at lw_m5 95 rfl) rfl
theorem q1182 : (Jvm.Cond.code ({ cls := "TallTowers$World", name := "grows", desc := "(II)Z" } : Jvm.MethodName) prog_14_method_40_code (4 : Nat) (Option.some Jvm.ClassFile.FieldType.boolean)) ∈ lw_all := lw_g (lw_at lw_m5 96 rfl) rfl
theorem q1193 : (Jvm.Cond.instanceMethod ({ cls := "TallTowers$World", name := "turns", desc := "(III)Z" } : Jvm.MethodName)) ∈ lw_all := lw_g (lw_at lw_m5 107 rfl) rfl
theorem q1194 : (Jvm.Cond.selects "TallTowers$World" ({ cls := "TallTowers$World", name := "turns", desc := "(III)Z" } : Jvm.MethodName) ({ cls := "TallTowers$World", name := "turns", desc := "(III)Z" } : Jvm.MethodName)) ∈ lw_all := lw_g (lw_at lw_m5 108 rfl) rfl
theorem q1195 : (Jvm.Cond.code ({ cls := "TallTowers$World", name := "turns", desc := "(III)Z" } : Jvm.MethodName) prog_14_method_13_code (4 : Nat) (Option.some Jvm.ClassFile.FieldType.boolean)) ∈ lw_all := lw_g (lw_at lw_m5 109 rfl) rfl
theorem q1197 : (Jvm.Cond.instanceMethod ({ cls := "TallTowers$World", name := "inStatus", desc := "(I)I" } : Jvm.MethodName)) ∈ lw_all := lw_g (lw_at lw_m5 111 rfl) rfl
theorem q1198 : (Jvm.Cond.selects "TallTowers$World" ({ cls := "TallTowers$World", name := "inStatus", desc := "(I)I" } : Jvm.MethodName) ({ cls := "TallTowers$World", name := "inStatus", desc := "(I)I" } : Jvm.MethodName)) ∈ lw_all := lw_g (lw_at lw_m5 112 rfl) rfl
theorem q1199 : (Jvm.Cond.code ({ cls := "TallTowers$World", name := "inStatus", desc := "(I)I" } : Jvm.MethodName) prog_14_method_14_code (4 : Nat) (Option.some Jvm.ClassFile.FieldType.int)) ∈ lw_all := lw_g (lw_at lw_m5 113 rfl) rfl
theorem q1219 : (Jvm.Cond.instanceMethod ({ cls := "TallTowers$World", name := "opensAgain", desc := "(I)Z" } : Jvm.MethodName)) ∈ lw_all := lw_g (lw_at lw_m5 133 rfl) rfl
theorem q1220 : (Jvm.Cond.selects "TallTowers$World" ({ cls := "TallTowers$World", name := "opensAgain", desc := "(I)Z" } : Jvm.MethodName) ({ cls := "TallTowers$World", name := "opensAgain", desc := "(I)Z" } : Jvm.MethodName)) ∈ lw_all := lw_g (lw_at lw_m5 134 rfl) rfl
theorem q1221 : (Jvm.Cond.code ({ cls := "TallTowers$World", name := "opensAgain", desc := "(I)Z" } : Jvm.MethodName) prog_14_method_38_code (5 : Nat) (Option.some Jvm.ClassFile.FieldType.boolean)) ∈ lw_all := lw_g (lw_at lw_m5 135 rfl) rfl
theorem q1222 : (Jvm.Cond.constantLong "TallTowers$World" (359 : Nat) (-1 : Int64)) ∈ lw_all := lw_g (lw_at lw_m5 136 rfl) rfl
theorem q1223 : (Jvm.Cond.methodLink "TallTowers$World" (361 : Nat) ({ cls := "TallTowers$Harm", name := "comesAnew", desc := "()V" } : Jvm.MethodName)) ∈ lw_all := lw_g (lw_at lw_m5 137 rfl) rfl
theorem q1258 : (Jvm.Cond.instanceMethod ({ cls := "TallTowers$World", name := "placeOf", desc := "(LTallTowers$Layer;)I" } : Jvm.MethodName)) ∈ lw_all := lw_g (lw_at lw_m5 172 rfl) rfl
theorem q1259 : (Jvm.Cond.selects "TallTowers$World" ({ cls := "TallTowers$World", name := "placeOf", desc := "(LTallTowers$Layer;)I" } : Jvm.MethodName) ({ cls := "TallTowers$World", name := "placeOf", desc := "(LTallTowers$Layer;)I" } : Jvm.MethodName)) ∈ lw_all := lw_g (lw_at lw_m5 173 rfl) rfl
theorem q1260 : (Jvm.Cond.code ({ cls := "TallTowers$World", name := "placeOf", desc := "(LTallTowers$Layer;)I" } : Jvm.MethodName) prog_14_method_7_code (3 : Nat) (Option.some Jvm.ClassFile.FieldType.int)) ∈ lw_all := lw_g (lw_at lw_m5 174 rfl) rfl
theorem q1364 : (Jvm.Cond.instanceMethod ({ cls := "TallTowers$World", name := "borneBy", desc := "(I)J" } : Jvm.MethodName)) ∈ lw_all := lw_g (lw_at lw_m6 38 rfl) rfl
theorem q1365 : (Jvm.Cond.selects "TallTowers$World" ({ cls := "TallTowers$World", name := "borneBy", desc := "(I)J" } : Jvm.MethodName) ({ cls := "TallTowers$World", name := "borneBy", desc := "(I)J" } : Jvm.MethodName)) ∈ lw_all := lw_g (lw_at lw_m6 39 rfl) rfl
theorem q1366 : (Jvm.Cond.code ({ cls := "TallTowers$World", name := "borneBy", desc := "(I)J" } : Jvm.MethodName) prog_14_method_41_code (8 : Nat) (Option.some Jvm.ClassFile.FieldType.long)) ∈ lw_all := lw_g (lw_at lw_m6 40 rfl) rfl
theorem q1367 : (Jvm.Cond.methodLink "TallTowers$World" (375 : Nat) ({ cls := "TallTowers$Harm", name := "borne", desc := "(I)J" } : Jvm.MethodName)) ∈ lw_all := lw_g (lw_at lw_m6 41 rfl) rfl
theorem q1621 : (Jvm.Cond.instanceMethod ({ cls := "TallTowers$World", name := "holdsTo", desc := "(III)V" } : Jvm.MethodName)) ∈ lw_all := lw_g (lw_at lw_m7 55 rfl) rfl
theorem q1622 : (Jvm.Cond.selects "TallTowers$World" ({ cls := "TallTowers$World", name := "holdsTo", desc := "(III)V" } : Jvm.MethodName) ({ cls := "TallTowers$World", name := "holdsTo", desc := "(III)V" } : Jvm.MethodName)) ∈ lw_all := lw_g (lw_at lw_m7 56 rfl) rfl
theorem q1623 : (Jvm.Cond.code ({ cls := "TallTowers$World", name := "holdsTo", desc := "(III)V" } : Jvm.MethodName) prog_14_method_3_code (4 : Nat) (Option.none : Option Jvm.ClassFile.FieldType)) ∈ lw_all := lw_g (lw_at lw_m7 57 rfl) rfl
theorem q1723 : (Jvm.Cond.instanceMethod ({ cls := "TallTowers$World", name := "paidLessFair", desc := "(LTallTowers$Harm;JI)J" } : Jvm.MethodName)) ∈ lw_all := lw_g (lw_at lw_m7 157 rfl) rfl
theorem q1724 : (Jvm.Cond.selects "TallTowers$World" ({ cls := "TallTowers$World", name := "paidLessFair", desc := "(LTallTowers$Harm;JI)J" } : Jvm.MethodName) ({ cls := "TallTowers$World", name := "paidLessFair", desc := "(LTallTowers$Harm;JI)J" } : Jvm.MethodName)) ∈ lw_all := lw_g (lw_at lw_m7 158 rfl) rfl
theorem q1725 : (Jvm.Cond.code ({ cls := "TallTowers$World", name := "paidLessFair", desc := "(LTallTowers$Harm;JI)J" } : Jvm.MethodName) prog_14_method_30_code (5 : Nat) (Option.some Jvm.ClassFile.FieldType.long)) ∈ lw_all := lw_g (lw_at lw_m7 159 rfl) rfl
theorem q2468 : (Jvm.Cond.castable "TallTowers$World" "java/lang/Object") ∈ lw_tbl := lw_at lw_m10 182 rfl
theorem in_X2 : ∀ w ∈ wsX20, w ∈ lw_all := lw_in wsX20 [766, 768, 770, 772, 774, 776, 778, 780, 782, 784, 786, 788, 790, 792, 794, 796, 798, 800, 802, 804, 806, 808, 810, 812] (by decide +kernel) (by decide +kernel)
/-! TallTowers$Picks -/
set_option maxRecDepth 100000
def RX3 : String := "TallTowers$Picks"
def TX3 : u_T := fun k => match k with
  | _ => ("TallTowers$Picks", "rule", "I", false)
def tyX3 : Nat → FieldType := fun k => match k with
  | _ => .int
abbrev wsX30 : List Cond := u_ws RX3 TX3 1
theorem nmX3 : ∀ a, a < 1 → ∀ b, b < 1 → a ≠ b → (TX3 a).2.1 ≠ (TX3 b).2.1 := by decide +kernel
theorem tyX3_ok : ∀ k, k < 1 → parseFieldDescriptor (TX3 k).2.2.1 = some (tyX3 k) := by decide +kernel
abbrev cX3_init : ByteArray := prog_10_method_1_code
def yX3_init : MethodName := ⟨RX3, "<init>", "()V"⟩
theorem dX3_init_0 : decode cX3_init 0 = .ok (.aload_n 0, 1) := by decide +kernel
theorem dX3_init_1 : decode cX3_init 1 = .ok (.invokespecial 1, 3) := by decide +kernel
theorem dX3_init_4 : decode cX3_init 4 = .ok (.return_, 1) := by decide +kernel
abbrev cX3_compare : ByteArray := prog_10_method_3_code
def yX3_compare : MethodName := ⟨RX3, "compare", "(Ljava/lang/Object;Ljava/lang/Object;)I"⟩
def dkwX3_compare_0 : List UInt8 := [42, 43, 192, 0, 14, 44, 192, 0, 14, 182, 0, 36, 172]
abbrev dktX3_compare_0 : List UInt8 := dkwX3_compare_0 ++ []
theorem dksX3_compare_0 : cX3_compare.data.toList.drop 0 = dktX3_compare_0 := by decide +kernel
theorem dX3_compare_0 : decode cX3_compare 0 = .ok (.aload_n 0, 1) := dk_42 (dk_at dksX3_compare_0 0 rfl rfl)
theorem dX3_compare_1 : decode cX3_compare 1 = .ok (.aload_n 1, 1) := dk_43 (dk_at dksX3_compare_0 1 rfl rfl)
theorem dX3_compare_2 : decode cX3_compare 2 = .ok (.checkcast 14, 3) := dk_192 0 14 (dk_at dksX3_compare_0 2 rfl rfl)
theorem dX3_compare_5 : decode cX3_compare 5 = .ok (.aload_n 2, 1) := dk_44 (dk_at dksX3_compare_0 5 rfl rfl)
theorem dX3_compare_6 : decode cX3_compare 6 = .ok (.checkcast 14, 3) := dk_192 0 14 (dk_at dksX3_compare_0 6 rfl rfl)
theorem dX3_compare_9 : decode cX3_compare 9 = .ok (.invokevirtual 36, 3) := dk_182 0 36 (dk_at dksX3_compare_0 9 rfl rfl)
theorem dX3_compare_12 : decode cX3_compare 12 = .ok (.ireturn, 1) := dk_172 (dk_at dksX3_compare_0 12 rfl rfl)
abbrev cX3_compare_2 : ByteArray := prog_10_method_2_code
def yX3_compare_2 : MethodName := ⟨RX3, "compare", "(LTallTowers$Tower;LTallTowers$Tower;)I"⟩
def dkwX3_compare_2_3 : List UInt8 := [180, 0, 25, 44, 180, 0, 25, 100, 167, 0, 4, 29, 172]
abbrev dktX3_compare_2_3 : List UInt8 := dkwX3_compare_2_3 ++ []
def dkwX3_compare_2_2 : List UInt8 := [160, 0, 17, 43, 180, 0, 28, 44, 180, 0, 28, 184, 0, 31, 167, 0, 4, 3, 62, 29, 154, 0, 15, 43]
abbrev dktX3_compare_2_2 : List UInt8 := dkwX3_compare_2_2 ++ dktX3_compare_2_3
def dkwX3_compare_2_1 : List UInt8 := [180, 0, 7, 4, 160, 0, 15, 44, 180, 0, 25, 43, 180, 0, 25, 100, 167, 0, 26, 42, 180, 0, 7, 5]
abbrev dktX3_compare_2_1 : List UInt8 := dkwX3_compare_2_1 ++ dktX3_compare_2_2
def dkwX3_compare_2_0 : List UInt8 := [42, 180, 0, 7, 154, 0, 17, 44, 180, 0, 13, 43, 180, 0, 13, 184, 0, 19, 167, 0, 46, 42]
abbrev dktX3_compare_2_0 : List UInt8 := dkwX3_compare_2_0 ++ dktX3_compare_2_1
theorem dksX3_compare_2_0 : cX3_compare_2.data.toList.drop 0 = dktX3_compare_2_0 := by decide +kernel
theorem dksX3_compare_2_1 : cX3_compare_2.data.toList.drop 22 = dktX3_compare_2_1 := dk_seg dksX3_compare_2_0 22 rfl rfl
theorem dksX3_compare_2_2 : cX3_compare_2.data.toList.drop 46 = dktX3_compare_2_2 := dk_seg dksX3_compare_2_1 24 rfl rfl
theorem dksX3_compare_2_3 : cX3_compare_2.data.toList.drop 70 = dktX3_compare_2_3 := dk_seg dksX3_compare_2_2 24 rfl rfl
theorem dX3_compare_2_0 : decode cX3_compare_2 0 = .ok (.aload_n 0, 1) := dk_42 (dk_at dksX3_compare_2_0 0 rfl rfl)
theorem dX3_compare_2_1 : decode cX3_compare_2 1 = .ok (.getfield 7, 3) := dk_180 0 7 (dk_at dksX3_compare_2_0 1 rfl rfl)
theorem dX3_compare_2_4 : decode cX3_compare_2 4 = .ok (.ifCond .ne 17, 3) := dk_154 0 17 (dk_at dksX3_compare_2_0 4 rfl rfl)
theorem dX3_compare_2_7 : decode cX3_compare_2 7 = .ok (.aload_n 2, 1) := dk_44 (dk_at dksX3_compare_2_0 7 rfl rfl)
theorem dX3_compare_2_8 : decode cX3_compare_2 8 = .ok (.getfield 13, 3) := dk_180 0 13 (dk_at dksX3_compare_2_0 8 rfl rfl)
theorem dX3_compare_2_11 : decode cX3_compare_2 11 = .ok (.aload_n 1, 1) := dk_43 (dk_at dksX3_compare_2_0 11 rfl rfl)
theorem dX3_compare_2_12 : decode cX3_compare_2 12 = .ok (.getfield 13, 3) := dk_180 0 13 (dk_at dksX3_compare_2_0 12 rfl rfl)
theorem dX3_compare_2_15 : decode cX3_compare_2 15 = .ok (.invokestatic 19, 3) := dk_184 0 19 (dk_at dksX3_compare_2_0 15 rfl rfl)
theorem dX3_compare_2_18 : decode cX3_compare_2 18 = .ok (.goto 46, 3) := dk_167 0 46 (dk_at dksX3_compare_2_0 18 rfl rfl)
theorem dX3_compare_2_21 : decode cX3_compare_2 21 = .ok (.aload_n 0, 1) := dk_42 (dk_at dksX3_compare_2_0 21 rfl rfl)
theorem dX3_compare_2_22 : decode cX3_compare_2 22 = .ok (.getfield 7, 3) := dk_180 0 7 (dk_at dksX3_compare_2_1 0 rfl rfl)
theorem dX3_compare_2_25 : decode cX3_compare_2 25 = .ok (.iconst 1, 1) := dk_4 (dk_at dksX3_compare_2_1 3 rfl rfl)
theorem dX3_compare_2_26 : decode cX3_compare_2 26 = .ok (.if_icmp .ne 15, 3) := dk_160 0 15 (dk_at dksX3_compare_2_1 4 rfl rfl)
theorem dX3_compare_2_29 : decode cX3_compare_2 29 = .ok (.aload_n 2, 1) := dk_44 (dk_at dksX3_compare_2_1 7 rfl rfl)
theorem dX3_compare_2_30 : decode cX3_compare_2 30 = .ok (.getfield 25, 3) := dk_180 0 25 (dk_at dksX3_compare_2_1 8 rfl rfl)
theorem dX3_compare_2_33 : decode cX3_compare_2 33 = .ok (.aload_n 1, 1) := dk_43 (dk_at dksX3_compare_2_1 11 rfl rfl)
theorem dX3_compare_2_34 : decode cX3_compare_2 34 = .ok (.getfield 25, 3) := dk_180 0 25 (dk_at dksX3_compare_2_1 12 rfl rfl)
theorem dX3_compare_2_37 : decode cX3_compare_2 37 = .ok (.isub, 1) := dk_100 (dk_at dksX3_compare_2_1 15 rfl rfl)
theorem dX3_compare_2_38 : decode cX3_compare_2 38 = .ok (.goto 26, 3) := dk_167 0 26 (dk_at dksX3_compare_2_1 16 rfl rfl)
theorem dX3_compare_2_41 : decode cX3_compare_2 41 = .ok (.aload_n 0, 1) := dk_42 (dk_at dksX3_compare_2_1 19 rfl rfl)
theorem dX3_compare_2_42 : decode cX3_compare_2 42 = .ok (.getfield 7, 3) := dk_180 0 7 (dk_at dksX3_compare_2_1 20 rfl rfl)
theorem dX3_compare_2_45 : decode cX3_compare_2 45 = .ok (.iconst 2, 1) := dk_5 (dk_at dksX3_compare_2_1 23 rfl rfl)
theorem dX3_compare_2_46 : decode cX3_compare_2 46 = .ok (.if_icmp .ne 17, 3) := dk_160 0 17 (dk_at dksX3_compare_2_2 0 rfl rfl)
theorem dX3_compare_2_49 : decode cX3_compare_2 49 = .ok (.aload_n 1, 1) := dk_43 (dk_at dksX3_compare_2_2 3 rfl rfl)
theorem dX3_compare_2_50 : decode cX3_compare_2 50 = .ok (.getfield 28, 3) := dk_180 0 28 (dk_at dksX3_compare_2_2 4 rfl rfl)
theorem dX3_compare_2_53 : decode cX3_compare_2 53 = .ok (.aload_n 2, 1) := dk_44 (dk_at dksX3_compare_2_2 7 rfl rfl)
theorem dX3_compare_2_54 : decode cX3_compare_2 54 = .ok (.getfield 28, 3) := dk_180 0 28 (dk_at dksX3_compare_2_2 8 rfl rfl)
theorem dX3_compare_2_57 : decode cX3_compare_2 57 = .ok (.invokestatic 31, 3) := dk_184 0 31 (dk_at dksX3_compare_2_2 11 rfl rfl)
theorem dX3_compare_2_60 : decode cX3_compare_2 60 = .ok (.goto 4, 3) := dk_167 0 4 (dk_at dksX3_compare_2_2 14 rfl rfl)
theorem dX3_compare_2_63 : decode cX3_compare_2 63 = .ok (.iconst 0, 1) := dk_3 (dk_at dksX3_compare_2_2 17 rfl rfl)
theorem dX3_compare_2_64 : decode cX3_compare_2 64 = .ok (.istore_n 3, 1) := dk_62 (dk_at dksX3_compare_2_2 18 rfl rfl)
theorem dX3_compare_2_65 : decode cX3_compare_2 65 = .ok (.iload_n 3, 1) := dk_29 (dk_at dksX3_compare_2_2 19 rfl rfl)
theorem dX3_compare_2_66 : decode cX3_compare_2 66 = .ok (.ifCond .ne 15, 3) := dk_154 0 15 (dk_at dksX3_compare_2_2 20 rfl rfl)
theorem dX3_compare_2_69 : decode cX3_compare_2 69 = .ok (.aload_n 1, 1) := dk_43 (dk_at dksX3_compare_2_2 23 rfl rfl)
theorem dX3_compare_2_70 : decode cX3_compare_2 70 = .ok (.getfield 25, 3) := dk_180 0 25 (dk_at dksX3_compare_2_3 0 rfl rfl)
theorem dX3_compare_2_73 : decode cX3_compare_2 73 = .ok (.aload_n 2, 1) := dk_44 (dk_at dksX3_compare_2_3 3 rfl rfl)
theorem dX3_compare_2_74 : decode cX3_compare_2 74 = .ok (.getfield 25, 3) := dk_180 0 25 (dk_at dksX3_compare_2_3 4 rfl rfl)
theorem dX3_compare_2_77 : decode cX3_compare_2 77 = .ok (.isub, 1) := dk_100 (dk_at dksX3_compare_2_3 7 rfl rfl)
theorem dX3_compare_2_78 : decode cX3_compare_2 78 = .ok (.goto 4, 3) := dk_167 0 4 (dk_at dksX3_compare_2_3 8 rfl rfl)
theorem dX3_compare_2_81 : decode cX3_compare_2 81 = .ok (.iload_n 3, 1) := dk_29 (dk_at dksX3_compare_2_3 11 rfl rfl)
theorem dX3_compare_2_82 : decode cX3_compare_2 82 = .ok (.ireturn, 1) := dk_172 (dk_at dksX3_compare_2_3 12 rfl rfl)
theorem q129 : (Jvm.Cond.initialized "TallTowers$Picks") ∈ lw_all := lw_g (lw_at lw_m1 3 rfl) rfl
theorem q183 : (Jvm.Cond.instantiable "TallTowers$Picks" (1 : Nat)) ∈ lw_all := lw_g (lw_at lw_m1 57 rfl) rfl
theorem q185 : (Jvm.Cond.instanceMethod ({ cls := "TallTowers$Picks", name := "<init>", desc := "()V" } : Jvm.MethodName)) ∈ lw_all := lw_g (lw_at lw_m1 59 rfl) rfl
theorem q186 : (Jvm.Cond.code ({ cls := "TallTowers$Picks", name := "<init>", desc := "()V" } : Jvm.MethodName) prog_10_method_1_code (1 : Nat) (Option.none : Option Jvm.ClassFile.FieldType)) ∈ lw_all := lw_g (lw_at lw_m1 60 rfl) rfl
theorem q187 : (Jvm.Cond.methodLink "TallTowers$Picks" (1 : Nat) ({ cls := "java/lang/Object", name := "<init>", desc := "()V" } : Jvm.MethodName)) ∈ lw_all := lw_g (lw_at lw_m1 61 rfl) rfl
theorem q188 : (Jvm.Cond.fieldLink "TallTowers$Picks" (7 : Nat) "TallTowers$Picks" "rule" "I") ∈ lw_all := lw_g (lw_at lw_m1 62 rfl) rfl
theorem q190 : (Jvm.Cond.lays "TallTowers$Picks" "TallTowers$Picks" "rule" "I") ∈ lw_all := lw_g (lw_at lw_m1 64 rfl) rfl
theorem q191 : (Jvm.Cond.soleField "TallTowers$Picks" "rule") ∈ lw_all := lw_g (lw_at lw_m1 65 rfl) rfl
theorem q192 : (Jvm.Cond.superclass "TallTowers$Picks" "java/lang/Object") ∈ lw_all := lw_g (lw_at lw_m1 66 rfl) rfl
theorem q437 : (Jvm.Cond.fieldLinkNest "TallTowers$Picks" (25 : Nat) "TallTowers$Tower" "year" "I" "TallTowers") ∈ lw_tbl := lw_at lw_m2 71 rfl
theorem q440 : (Jvm.Cond.fieldLinkNest "TallTowers$Picks" (13 : Nat) "TallTowers$Tower" "room" "J" "TallTowers") ∈ lw_tbl := lw_at lw_m2 74 rfl
theorem q442 : (Jvm.Cond.fieldLinkNest "TallTowers$Picks" (28 : Nat) "TallTowers$Tower" "lowest" "I" "TallTowers") ∈ lw_tbl := lw_at lw_m2 76 rfl
theorem q595 : (Jvm.Cond.selects "TallTowers$Picks" ({ cls := "java/lang/Object", name := "getClass", desc := "()Ljava/lang/Class;" } : Jvm.MethodName) ({ cls := "java/lang/Object", name := "getClass", desc := "()Ljava/lang/Class;" } : Jvm.MethodName)) ∈ lw_all := lw_g (lw_at lw_m2 229 rfl) rfl
theorem q630 : (Jvm.Cond.castable "TallTowers$Picks" "java/util/Comparator") ∈ lw_tbl := lw_at lw_m3 24 rfl
theorem q631 : (Jvm.Cond.selects "TallTowers$Picks" ({ cls := "java/util/Comparator", name := "compare", desc := "(Ljava/lang/Object;Ljava/lang/Object;)I" } : Jvm.MethodName) ({ cls := "TallTowers$Picks", name := "compare", desc := "(Ljava/lang/Object;Ljava/lang/Object;)I" } : Jvm.MethodName)) ∈ lw_all := lw_g (lw_at lw_m3 25 rfl) rfl
theorem q632 : (Jvm.Cond.unhidden "TallTowers$Picks" "compare" "(Ljava/lang/Object;Ljava/lang/Object;)I") ∈ lw_tbl := lw_at lw_m3 26 rfl
theorem q633 : (Jvm.Cond.instanceMethod ({ cls := "TallTowers$Picks", name := "compare", desc := "(Ljava/lang/Object;Ljava/lang/Object;)I" } : Jvm.MethodName)) ∈ lw_all := lw_g (lw_at lw_m3 27 rfl) rfl
theorem q634 : (Jvm.Cond.publicMethod ({ cls := "TallTowers$Picks", name := "compare", desc := "(Ljava/lang/Object;Ljava/lang/Object;)I" } : Jvm.MethodName)) ∈ lw_tbl := lw_at lw_m3 28 rfl
theorem q635 : (Jvm.Cond.code ({ cls := "TallTowers$Picks", name := "compare", desc := "(Ljava/lang/Object;Ljava/lang/Object;)I" } : Jvm.MethodName) prog_10_method_3_code (3 : Nat) (Option.some Jvm.ClassFile.FieldType.int)) ∈ lw_all := lw_g (lw_at lw_m3 29 rfl) rfl
theorem q636 : (Jvm.Cond.classLink "TallTowers$Picks" (14 : Nat) "TallTowers$Tower") ∈ lw_all := lw_g (lw_at lw_m3 30 rfl) rfl
theorem q637 : (Jvm.Cond.methodLink "TallTowers$Picks" (36 : Nat) ({ cls := "TallTowers$Picks", name := "compare", desc := "(LTallTowers$Tower;LTallTowers$Tower;)I" } : Jvm.MethodName)) ∈ lw_all := lw_g (lw_at lw_m3 31 rfl) rfl
theorem q638 : (Jvm.Cond.instanceMethod ({ cls := "TallTowers$Picks", name := "compare", desc := "(LTallTowers$Tower;LTallTowers$Tower;)I" } : Jvm.MethodName)) ∈ lw_all := lw_g (lw_at lw_m3 32 rfl) rfl
theorem q639 : (Jvm.Cond.selects "TallTowers$Picks" ({ cls := "TallTowers$Picks", name := "compare", desc := "(LTallTowers$Tower;LTallTowers$Tower;)I" } : Jvm.MethodName) ({ cls := "TallTowers$Picks", name := "compare", desc := "(LTallTowers$Tower;LTallTowers$Tower;)I" } : Jvm.MethodName)) ∈ lw_all := lw_g (lw_at lw_m3 33 rfl) rfl
theorem q640 : (Jvm.Cond.code ({ cls := "TallTowers$Picks", name := "compare", desc := "(LTallTowers$Tower;LTallTowers$Tower;)I" } : Jvm.MethodName) prog_10_method_2_code (4 : Nat) (Option.some Jvm.ClassFile.FieldType.int)) ∈ lw_all := lw_g (lw_at lw_m3 34 rfl) rfl
theorem q641 : (Jvm.Cond.methodLink "TallTowers$Picks" (19 : Nat) ({ cls := "java/lang/Long", name := "compare", desc := "(JJ)I" } : Jvm.MethodName)) ∈ lw_all := lw_g (lw_at lw_m3 35 rfl) rfl
theorem q644 : (Jvm.Cond.methodLink "TallTowers$Picks" (31 : Nat) ({ cls := "java/lang/Integer", name := "compare", desc := "(II)I" } : Jvm.MethodName)) ∈ lw_all := lw_g (lw_at lw_m3 38 rfl) rfl
theorem q2469 : (Jvm.Cond.castable "TallTowers$Picks" "java/lang/Object") ∈ lw_tbl := lw_at lw_m10 183 rfl
theorem in_X3 : ∀ w ∈ wsX30, w ∈ lw_all := lw_in wsX30 [190] (by decide +kernel) (by decide +kernel)
/-! TallTowers$Burden -/
set_option maxRecDepth 100000
def RX4 : String := "TallTowers$Burden"
abbrev cX4_init : ByteArray := prog_3_method_1_code
def yX4_init : MethodName := ⟨RX4, "<init>", "()V"⟩
def dkwX4_init_0 : List UInt8 := [42, 183, 0, 3, 42, 16, 10, 188, 11, 181, 0, 9, 42, 16, 7, 188, 11, 181, 0, 15, 177]
abbrev dktX4_init_0 : List UInt8 := dkwX4_init_0 ++ []
theorem dksX4_init_0 : cX4_init.data.toList.drop 0 = dktX4_init_0 := by decide +kernel
theorem dX4_init_0 : decode cX4_init 0 = .ok (.aload_n 0, 1) := dk_42 (dk_at dksX4_init_0 0 rfl rfl)
theorem dX4_init_1 : decode cX4_init 1 = .ok (.invokespecial 3, 3) := dk_183 0 3 (dk_at dksX4_init_0 1 rfl rfl)
theorem dX4_init_4 : decode cX4_init 4 = .ok (.aload_n 0, 1) := dk_42 (dk_at dksX4_init_0 4 rfl rfl)
theorem dX4_init_5 : decode cX4_init 5 = .ok (.bipush 10, 2) := dk_16 10 (dk_at dksX4_init_0 5 rfl rfl)
theorem dX4_init_7 : decode cX4_init 7 = .ok (.newarray .long, 2) := dk_188_11 (dk_at dksX4_init_0 7 rfl rfl)
theorem dX4_init_9 : decode cX4_init 9 = .ok (.putfield 9, 3) := dk_181 0 9 (dk_at dksX4_init_0 9 rfl rfl)
theorem dX4_init_12 : decode cX4_init 12 = .ok (.aload_n 0, 1) := dk_42 (dk_at dksX4_init_0 12 rfl rfl)
theorem dX4_init_13 : decode cX4_init 13 = .ok (.bipush 7, 2) := dk_16 7 (dk_at dksX4_init_0 13 rfl rfl)
theorem dX4_init_15 : decode cX4_init 15 = .ok (.newarray .long, 2) := dk_188_11 (dk_at dksX4_init_0 15 rfl rfl)
theorem dX4_init_17 : decode cX4_init 17 = .ok (.putfield 15, 3) := dk_181 0 15 (dk_at dksX4_init_0 17 rfl rfl)
theorem dX4_init_20 : decode cX4_init 20 = .ok (.return_, 1) := dk_177 (dk_at dksX4_init_0 20 rfl rfl)
abbrev cX4_begins : ByteArray := prog_3_method_2_code
def yX4_begins : MethodName := ⟨RX4, "begins", "()V"⟩
def dkwX4_begins_1 : List UInt8 := [16, 7, 162, 0, 16, 42, 180, 0, 15, 27, 9, 80, 132, 1, 1, 167, 255, 240, 177]
abbrev dktX4_begins_1 : List UInt8 := dkwX4_begins_1 ++ []
def dkwX4_begins_0 : List UInt8 := [3, 60, 27, 16, 10, 162, 0, 16, 42, 180, 0, 9, 27, 9, 80, 132, 1, 1, 167, 255, 240, 3, 60, 27]
abbrev dktX4_begins_0 : List UInt8 := dkwX4_begins_0 ++ dktX4_begins_1
theorem dksX4_begins_0 : cX4_begins.data.toList.drop 0 = dktX4_begins_0 := by decide +kernel
theorem dksX4_begins_1 : cX4_begins.data.toList.drop 24 = dktX4_begins_1 := dk_seg dksX4_begins_0 24 rfl rfl
theorem dX4_begins_0 : decode cX4_begins 0 = .ok (.iconst 0, 1) := dk_3 (dk_at dksX4_begins_0 0 rfl rfl)
theorem dX4_begins_1 : decode cX4_begins 1 = .ok (.istore_n 1, 1) := dk_60 (dk_at dksX4_begins_0 1 rfl rfl)
theorem dX4_begins_2 : decode cX4_begins 2 = .ok (.iload_n 1, 1) := dk_27 (dk_at dksX4_begins_0 2 rfl rfl)
theorem dX4_begins_3 : decode cX4_begins 3 = .ok (.bipush 10, 2) := dk_16 10 (dk_at dksX4_begins_0 3 rfl rfl)
theorem dX4_begins_5 : decode cX4_begins 5 = .ok (.if_icmp .ge 16, 3) := dk_162 0 16 (dk_at dksX4_begins_0 5 rfl rfl)
theorem dX4_begins_8 : decode cX4_begins 8 = .ok (.aload_n 0, 1) := dk_42 (dk_at dksX4_begins_0 8 rfl rfl)
theorem dX4_begins_9 : decode cX4_begins 9 = .ok (.getfield 9, 3) := dk_180 0 9 (dk_at dksX4_begins_0 9 rfl rfl)
theorem dX4_begins_12 : decode cX4_begins 12 = .ok (.iload_n 1, 1) := dk_27 (dk_at dksX4_begins_0 12 rfl rfl)
theorem dX4_begins_13 : decode cX4_begins 13 = .ok (.lconst 0, 1) := dk_9 (dk_at dksX4_begins_0 13 rfl rfl)
theorem dX4_begins_14 : decode cX4_begins 14 = .ok (.lastore, 1) := dk_80 (dk_at dksX4_begins_0 14 rfl rfl)
theorem dX4_begins_15 : decode cX4_begins 15 = .ok (.iinc 1 1, 3) := dk_132 1 1 (dk_at dksX4_begins_0 15 rfl rfl)
theorem dX4_begins_18 : decode cX4_begins 18 = .ok (.goto (-16), 3) := dk_167 255 240 (dk_at dksX4_begins_0 18 rfl rfl)
theorem dX4_begins_21 : decode cX4_begins 21 = .ok (.iconst 0, 1) := dk_3 (dk_at dksX4_begins_0 21 rfl rfl)
theorem dX4_begins_22 : decode cX4_begins 22 = .ok (.istore_n 1, 1) := dk_60 (dk_at dksX4_begins_0 22 rfl rfl)
theorem dX4_begins_23 : decode cX4_begins 23 = .ok (.iload_n 1, 1) := dk_27 (dk_at dksX4_begins_0 23 rfl rfl)
theorem dX4_begins_24 : decode cX4_begins 24 = .ok (.bipush 7, 2) := dk_16 7 (dk_at dksX4_begins_1 0 rfl rfl)
theorem dX4_begins_26 : decode cX4_begins 26 = .ok (.if_icmp .ge 16, 3) := dk_162 0 16 (dk_at dksX4_begins_1 2 rfl rfl)
theorem dX4_begins_29 : decode cX4_begins 29 = .ok (.aload_n 0, 1) := dk_42 (dk_at dksX4_begins_1 5 rfl rfl)
theorem dX4_begins_30 : decode cX4_begins 30 = .ok (.getfield 15, 3) := dk_180 0 15 (dk_at dksX4_begins_1 6 rfl rfl)
theorem dX4_begins_33 : decode cX4_begins 33 = .ok (.iload_n 1, 1) := dk_27 (dk_at dksX4_begins_1 9 rfl rfl)
theorem dX4_begins_34 : decode cX4_begins 34 = .ok (.lconst 0, 1) := dk_9 (dk_at dksX4_begins_1 10 rfl rfl)
theorem dX4_begins_35 : decode cX4_begins 35 = .ok (.lastore, 1) := dk_80 (dk_at dksX4_begins_1 11 rfl rfl)
theorem dX4_begins_36 : decode cX4_begins 36 = .ok (.iinc 1 1, 3) := dk_132 1 1 (dk_at dksX4_begins_1 12 rfl rfl)
theorem dX4_begins_39 : decode cX4_begins 39 = .ok (.goto (-16), 3) := dk_167 255 240 (dk_at dksX4_begins_1 15 rfl rfl)
theorem dX4_begins_42 : decode cX4_begins 42 = .ok (.return_, 1) := dk_177 (dk_at dksX4_begins_1 18 rfl rfl)
abbrev cX4_adds : ByteArray := prog_3_method_3_code
def yX4_adds : MethodName := ⟨RX4, "adds", "(LTallTowers$Burden;)V"⟩
def dkwX4_adds_2 : List UInt8 := [180, 0, 15, 28, 47, 97, 80, 132, 2, 1, 167, 255, 232, 177]
abbrev dktX4_adds_2 : List UInt8 := dkwX4_adds_2 ++ []
def dkwX4_adds_1 : List UInt8 := [132, 2, 1, 167, 255, 232, 3, 61, 28, 16, 7, 162, 0, 24, 42, 180, 0, 15, 28, 92, 47, 43]
abbrev dktX4_adds_1 : List UInt8 := dkwX4_adds_1 ++ dktX4_adds_2
def dkwX4_adds_0 : List UInt8 := [3, 61, 28, 16, 10, 162, 0, 24, 42, 180, 0, 9, 28, 92, 47, 43, 180, 0, 9, 28, 47, 97, 80]
abbrev dktX4_adds_0 : List UInt8 := dkwX4_adds_0 ++ dktX4_adds_1
theorem dksX4_adds_0 : cX4_adds.data.toList.drop 0 = dktX4_adds_0 := by decide +kernel
theorem dksX4_adds_1 : cX4_adds.data.toList.drop 23 = dktX4_adds_1 := dk_seg dksX4_adds_0 23 rfl rfl
theorem dksX4_adds_2 : cX4_adds.data.toList.drop 45 = dktX4_adds_2 := dk_seg dksX4_adds_1 22 rfl rfl
theorem dX4_adds_0 : decode cX4_adds 0 = .ok (.iconst 0, 1) := dk_3 (dk_at dksX4_adds_0 0 rfl rfl)
theorem dX4_adds_1 : decode cX4_adds 1 = .ok (.istore_n 2, 1) := dk_61 (dk_at dksX4_adds_0 1 rfl rfl)
theorem dX4_adds_2 : decode cX4_adds 2 = .ok (.iload_n 2, 1) := dk_28 (dk_at dksX4_adds_0 2 rfl rfl)
theorem dX4_adds_3 : decode cX4_adds 3 = .ok (.bipush 10, 2) := dk_16 10 (dk_at dksX4_adds_0 3 rfl rfl)
theorem dX4_adds_5 : decode cX4_adds 5 = .ok (.if_icmp .ge 24, 3) := dk_162 0 24 (dk_at dksX4_adds_0 5 rfl rfl)
theorem dX4_adds_8 : decode cX4_adds 8 = .ok (.aload_n 0, 1) := dk_42 (dk_at dksX4_adds_0 8 rfl rfl)
theorem dX4_adds_9 : decode cX4_adds 9 = .ok (.getfield 9, 3) := dk_180 0 9 (dk_at dksX4_adds_0 9 rfl rfl)
theorem dX4_adds_12 : decode cX4_adds 12 = .ok (.iload_n 2, 1) := dk_28 (dk_at dksX4_adds_0 12 rfl rfl)
theorem dX4_adds_13 : decode cX4_adds 13 = .ok (.dup2, 1) := dk_92 (dk_at dksX4_adds_0 13 rfl rfl)
theorem dX4_adds_14 : decode cX4_adds 14 = .ok (.laload, 1) := dk_47 (dk_at dksX4_adds_0 14 rfl rfl)
theorem dX4_adds_15 : decode cX4_adds 15 = .ok (.aload_n 1, 1) := dk_43 (dk_at dksX4_adds_0 15 rfl rfl)
theorem dX4_adds_16 : decode cX4_adds 16 = .ok (.getfield 9, 3) := dk_180 0 9 (dk_at dksX4_adds_0 16 rfl rfl)
theorem dX4_adds_19 : decode cX4_adds 19 = .ok (.iload_n 2, 1) := dk_28 (dk_at dksX4_adds_0 19 rfl rfl)
theorem dX4_adds_20 : decode cX4_adds 20 = .ok (.laload, 1) := dk_47 (dk_at dksX4_adds_0 20 rfl rfl)
theorem dX4_adds_21 : decode cX4_adds 21 = .ok (.ladd, 1) := dk_97 (dk_at dksX4_adds_0 21 rfl rfl)
theorem dX4_adds_22 : decode cX4_adds 22 = .ok (.lastore, 1) := dk_80 (dk_at dksX4_adds_0 22 rfl rfl)
theorem dX4_adds_23 : decode cX4_adds 23 = .ok (.iinc 2 1, 3) := dk_132 2 1 (dk_at dksX4_adds_1 0 rfl rfl)
theorem dX4_adds_26 : decode cX4_adds 26 = .ok (.goto (-24), 3) := dk_167 255 232 (dk_at dksX4_adds_1 3 rfl rfl)
theorem dX4_adds_29 : decode cX4_adds 29 = .ok (.iconst 0, 1) := dk_3 (dk_at dksX4_adds_1 6 rfl rfl)
theorem dX4_adds_30 : decode cX4_adds 30 = .ok (.istore_n 2, 1) := dk_61 (dk_at dksX4_adds_1 7 rfl rfl)
theorem dX4_adds_31 : decode cX4_adds 31 = .ok (.iload_n 2, 1) := dk_28 (dk_at dksX4_adds_1 8 rfl rfl)
theorem dX4_adds_32 : decode cX4_adds 32 = .ok (.bipush 7, 2) := dk_16 7 (dk_at dksX4_adds_1 9 rfl rfl)
theorem dX4_adds_34 : decode cX4_adds 34 = .ok (.if_icmp .ge 24, 3) := dk_162 0 24 (dk_at dksX4_adds_1 11 rfl rfl)
theorem dX4_adds_37 : decode cX4_adds 37 = .ok (.aload_n 0, 1) := dk_42 (dk_at dksX4_adds_1 14 rfl rfl)
theorem dX4_adds_38 : decode cX4_adds 38 = .ok (.getfield 15, 3) := dk_180 0 15 (dk_at dksX4_adds_1 15 rfl rfl)
theorem dX4_adds_41 : decode cX4_adds 41 = .ok (.iload_n 2, 1) := dk_28 (dk_at dksX4_adds_1 18 rfl rfl)
theorem dX4_adds_42 : decode cX4_adds 42 = .ok (.dup2, 1) := dk_92 (dk_at dksX4_adds_1 19 rfl rfl)
theorem dX4_adds_43 : decode cX4_adds 43 = .ok (.laload, 1) := dk_47 (dk_at dksX4_adds_1 20 rfl rfl)
theorem dX4_adds_44 : decode cX4_adds 44 = .ok (.aload_n 1, 1) := dk_43 (dk_at dksX4_adds_1 21 rfl rfl)
theorem dX4_adds_45 : decode cX4_adds 45 = .ok (.getfield 15, 3) := dk_180 0 15 (dk_at dksX4_adds_2 0 rfl rfl)
theorem dX4_adds_48 : decode cX4_adds 48 = .ok (.iload_n 2, 1) := dk_28 (dk_at dksX4_adds_2 3 rfl rfl)
theorem dX4_adds_49 : decode cX4_adds 49 = .ok (.laload, 1) := dk_47 (dk_at dksX4_adds_2 4 rfl rfl)
theorem dX4_adds_50 : decode cX4_adds 50 = .ok (.ladd, 1) := dk_97 (dk_at dksX4_adds_2 5 rfl rfl)
theorem dX4_adds_51 : decode cX4_adds 51 = .ok (.lastore, 1) := dk_80 (dk_at dksX4_adds_2 6 rfl rfl)
theorem dX4_adds_52 : decode cX4_adds 52 = .ok (.iinc 2 1, 3) := dk_132 2 1 (dk_at dksX4_adds_2 7 rfl rfl)
theorem dX4_adds_55 : decode cX4_adds 55 = .ok (.goto (-24), 3) := dk_167 255 232 (dk_at dksX4_adds_2 10 rfl rfl)
theorem dX4_adds_58 : decode cX4_adds 58 = .ok (.return_, 1) := dk_177 (dk_at dksX4_adds_2 13 rfl rfl)
abbrev cX4_borne : ByteArray := prog_3_method_4_code
def yX4_borne : MethodName := ⟨RX4, "borne", "(I)J"⟩
def dkwX4_borne_1 : List UInt8 := [42, 180, 0, 15, 21, 4, 47, 97, 65, 132, 4, 1, 167, 255, 236, 32, 173]
abbrev dktX4_borne_1 : List UInt8 := dkwX4_borne_1 ++ []
def dkwX4_borne_0 : List UInt8 := [27, 158, 0, 10, 42, 180, 0, 9, 27, 47, 173, 9, 65, 3, 54, 4, 21, 4, 16, 7, 162, 0, 19, 32]
abbrev dktX4_borne_0 : List UInt8 := dkwX4_borne_0 ++ dktX4_borne_1
theorem dksX4_borne_0 : cX4_borne.data.toList.drop 0 = dktX4_borne_0 := by decide +kernel
theorem dksX4_borne_1 : cX4_borne.data.toList.drop 24 = dktX4_borne_1 := dk_seg dksX4_borne_0 24 rfl rfl
theorem dX4_borne_0 : decode cX4_borne 0 = .ok (.iload_n 1, 1) := dk_27 (dk_at dksX4_borne_0 0 rfl rfl)
theorem dX4_borne_1 : decode cX4_borne 1 = .ok (.ifCond .le 10, 3) := dk_158 0 10 (dk_at dksX4_borne_0 1 rfl rfl)
theorem dX4_borne_4 : decode cX4_borne 4 = .ok (.aload_n 0, 1) := dk_42 (dk_at dksX4_borne_0 4 rfl rfl)
theorem dX4_borne_5 : decode cX4_borne 5 = .ok (.getfield 9, 3) := dk_180 0 9 (dk_at dksX4_borne_0 5 rfl rfl)
theorem dX4_borne_8 : decode cX4_borne 8 = .ok (.iload_n 1, 1) := dk_27 (dk_at dksX4_borne_0 8 rfl rfl)
theorem dX4_borne_9 : decode cX4_borne 9 = .ok (.laload, 1) := dk_47 (dk_at dksX4_borne_0 9 rfl rfl)
theorem dX4_borne_10 : decode cX4_borne 10 = .ok (.lreturn, 1) := dk_173 (dk_at dksX4_borne_0 10 rfl rfl)
theorem dX4_borne_11 : decode cX4_borne 11 = .ok (.lconst 0, 1) := dk_9 (dk_at dksX4_borne_0 11 rfl rfl)
theorem dX4_borne_12 : decode cX4_borne 12 = .ok (.lstore_n 2, 1) := dk_65 (dk_at dksX4_borne_0 12 rfl rfl)
theorem dX4_borne_13 : decode cX4_borne 13 = .ok (.iconst 0, 1) := dk_3 (dk_at dksX4_borne_0 13 rfl rfl)
theorem dX4_borne_14 : decode cX4_borne 14 = .ok (.istore 4, 2) := dk_54 4 (dk_at dksX4_borne_0 14 rfl rfl)
theorem dX4_borne_16 : decode cX4_borne 16 = .ok (.iload 4, 2) := dk_21 4 (dk_at dksX4_borne_0 16 rfl rfl)
theorem dX4_borne_18 : decode cX4_borne 18 = .ok (.bipush 7, 2) := dk_16 7 (dk_at dksX4_borne_0 18 rfl rfl)
theorem dX4_borne_20 : decode cX4_borne 20 = .ok (.if_icmp .ge 19, 3) := dk_162 0 19 (dk_at dksX4_borne_0 20 rfl rfl)
theorem dX4_borne_23 : decode cX4_borne 23 = .ok (.lload_n 2, 1) := dk_32 (dk_at dksX4_borne_0 23 rfl rfl)
theorem dX4_borne_24 : decode cX4_borne 24 = .ok (.aload_n 0, 1) := dk_42 (dk_at dksX4_borne_1 0 rfl rfl)
theorem dX4_borne_25 : decode cX4_borne 25 = .ok (.getfield 15, 3) := dk_180 0 15 (dk_at dksX4_borne_1 1 rfl rfl)
theorem dX4_borne_28 : decode cX4_borne 28 = .ok (.iload 4, 2) := dk_21 4 (dk_at dksX4_borne_1 4 rfl rfl)
theorem dX4_borne_30 : decode cX4_borne 30 = .ok (.laload, 1) := dk_47 (dk_at dksX4_borne_1 6 rfl rfl)
theorem dX4_borne_31 : decode cX4_borne 31 = .ok (.ladd, 1) := dk_97 (dk_at dksX4_borne_1 7 rfl rfl)
theorem dX4_borne_32 : decode cX4_borne 32 = .ok (.lstore_n 2, 1) := dk_65 (dk_at dksX4_borne_1 8 rfl rfl)
theorem dX4_borne_33 : decode cX4_borne 33 = .ok (.iinc 4 1, 3) := dk_132 4 1 (dk_at dksX4_borne_1 9 rfl rfl)
theorem dX4_borne_36 : decode cX4_borne 36 = .ok (.goto (-20), 3) := dk_167 255 236 (dk_at dksX4_borne_1 12 rfl rfl)
theorem dX4_borne_39 : decode cX4_borne 39 = .ok (.lload_n 2, 1) := dk_32 (dk_at dksX4_borne_1 15 rfl rfl)
theorem dX4_borne_40 : decode cX4_borne 40 = .ok (.lreturn, 1) := dk_173 (dk_at dksX4_borne_1 16 rfl rfl)
theorem q137 : (Jvm.Cond.initialized "TallTowers$Burden") ∈ lw_all := lw_g (lw_at lw_m1 11 rfl) rfl
theorem q291 : (Jvm.Cond.instanceMethod ({ cls := "TallTowers$Burden", name := "<init>", desc := "()V" } : Jvm.MethodName)) ∈ lw_all := lw_g (lw_at lw_m1 165 rfl) rfl
theorem q292 : (Jvm.Cond.code ({ cls := "TallTowers$Burden", name := "<init>", desc := "()V" } : Jvm.MethodName) prog_3_method_1_code (1 : Nat) (Option.none : Option Jvm.ClassFile.FieldType)) ∈ lw_all := lw_g (lw_at lw_m1 166 rfl) rfl
theorem q293 : (Jvm.Cond.methodLink "TallTowers$Burden" (3 : Nat) ({ cls := "java/lang/Object", name := "<init>", desc := "()V" } : Jvm.MethodName)) ∈ lw_all := lw_g (lw_at lw_m1 167 rfl) rfl
theorem q311 : (Jvm.Cond.fieldLink "TallTowers$Burden" (9 : Nat) "TallTowers$Burden" "bears" "[J") ∈ lw_all := lw_g (lw_at lw_m1 185 rfl) rfl
theorem q314 : (Jvm.Cond.fieldLink "TallTowers$Burden" (15 : Nat) "TallTowers$Burden" "falls" "[J") ∈ lw_all := lw_g (lw_at lw_m1 188 rfl) rfl
theorem q329 : (Jvm.Cond.soleField "TallTowers$Burden" "bears") ∈ lw_all := lw_g (lw_at lw_m1 203 rfl) rfl
theorem q331 : (Jvm.Cond.soleField "TallTowers$Burden" "falls") ∈ lw_all := lw_g (lw_at lw_m1 205 rfl) rfl
theorem q714 : (Jvm.Cond.instanceMethod ({ cls := "TallTowers$Burden", name := "begins", desc := "()V" } : Jvm.MethodName)) ∈ lw_all := lw_g (lw_at lw_m3 108 rfl) rfl
theorem q715 : (Jvm.Cond.code ({ cls := "TallTowers$Burden", name := "begins", desc := "()V" } : Jvm.MethodName) prog_3_method_2_code (2 : Nat) (Option.none : Option Jvm.ClassFile.FieldType)) ∈ lw_all := lw_g (lw_at lw_m3 109 rfl) rfl
theorem q1151 : (Jvm.Cond.declares ({ cls := "TallTowers$Burden", name := "adds", desc := "(LTallTowers$Burden;)V" } : Jvm.MethodName)) ∈ lw_tbl := lw_at lw_m5 65 rfl
theorem q1154 : (Jvm.Cond.instanceMethod ({ cls := "TallTowers$Burden", name := "adds", desc := "(LTallTowers$Burden;)V" } : Jvm.MethodName)) ∈ lw_all := lw_g (lw_at lw_m5 68 rfl) rfl
theorem q1155 : (Jvm.Cond.code ({ cls := "TallTowers$Burden", name := "adds", desc := "(LTallTowers$Burden;)V" } : Jvm.MethodName) prog_3_method_3_code (3 : Nat) (Option.none : Option Jvm.ClassFile.FieldType)) ∈ lw_all := lw_g (lw_at lw_m5 69 rfl) rfl
theorem q1173 : (Jvm.Cond.declares ({ cls := "TallTowers$Burden", name := "borne", desc := "(I)J" } : Jvm.MethodName)) ∈ lw_tbl := lw_at lw_m5 87 rfl
theorem q1175 : (Jvm.Cond.instanceMethod ({ cls := "TallTowers$Burden", name := "borne", desc := "(I)J" } : Jvm.MethodName)) ∈ lw_all := lw_g (lw_at lw_m5 89 rfl) rfl
theorem q1176 : (Jvm.Cond.code ({ cls := "TallTowers$Burden", name := "borne", desc := "(I)J" } : Jvm.MethodName) prog_3_method_4_code (5 : Nat) (Option.some Jvm.ClassFile.FieldType.long)) ∈ lw_all := lw_g (lw_at lw_m5 90 rfl) rfl
theorem q2458 : (Jvm.Cond.sameMethod "TallTowers$Burden" "TallTowers$Burden" "begins" "()V") ∈ lw_all := lw_g (lw_at lw_m10 172 rfl) rfl
/-! TallTowers$Flow -/
set_option maxRecDepth 100000
def RX5 : String := "TallTowers$Flow"
def TX5 : u_T := fun k => match k with
  | 0 => ("TallTowers$Burden", "bears", "[J", true)
  | 1 => ("TallTowers$Burden", "falls", "[J", true)
  | 2 => ("TallTowers$Flow", "takes", "[J", true)
  | 3 => ("TallTowers$Flow", "through", "[J", true)
  | 4 => ("TallTowers$Flow", "moved", "[J", true)
  | _ => ("TallTowers$Flow", "parts", "[J", true)
def tyX5 : Nat → FieldType := fun k => match k with
  | 0 => .array .long
  | 1 => .array .long
  | 2 => .array .long
  | 3 => .array .long
  | 4 => .array .long
  | _ => .array .long
abbrev wsX50 : List Cond := u_ws RX5 TX5 6
theorem nmX5 : ∀ a, a < 6 → ∀ b, b < 6 → a ≠ b → (TX5 a).2.1 ≠ (TX5 b).2.1 := by decide +kernel
theorem tyX5_ok : ∀ k, k < 6 → parseFieldDescriptor (TX5 k).2.2.1 = some (tyX5 k) := by decide +kernel
abbrev cX5_init : ByteArray := prog_6_method_1_code
def yX5_init : MethodName := ⟨RX5, "<init>", "()V"⟩
def dkwX5_init_1 : List UInt8 := [188, 11, 181, 0, 18, 42, 17, 0, 160, 188, 11, 181, 0, 21, 177]
abbrev dktX5_init_1 : List UInt8 := dkwX5_init_1 ++ []
def dkwX5_init_0 : List UInt8 := [42, 183, 0, 3, 42, 16, 40, 188, 11, 181, 0, 9, 42, 16, 40, 188, 11, 181, 0, 15, 42, 16, 40]
abbrev dktX5_init_0 : List UInt8 := dkwX5_init_0 ++ dktX5_init_1
theorem dksX5_init_0 : cX5_init.data.toList.drop 0 = dktX5_init_0 := by decide +kernel
theorem dksX5_init_1 : cX5_init.data.toList.drop 23 = dktX5_init_1 := dk_seg dksX5_init_0 23 rfl rfl
theorem dX5_init_0 : decode cX5_init 0 = .ok (.aload_n 0, 1) := dk_42 (dk_at dksX5_init_0 0 rfl rfl)
theorem dX5_init_1 : decode cX5_init 1 = .ok (.invokespecial 3, 3) := dk_183 0 3 (dk_at dksX5_init_0 1 rfl rfl)
theorem dX5_init_4 : decode cX5_init 4 = .ok (.aload_n 0, 1) := dk_42 (dk_at dksX5_init_0 4 rfl rfl)
theorem dX5_init_5 : decode cX5_init 5 = .ok (.bipush 40, 2) := dk_16 40 (dk_at dksX5_init_0 5 rfl rfl)
theorem dX5_init_7 : decode cX5_init 7 = .ok (.newarray .long, 2) := dk_188_11 (dk_at dksX5_init_0 7 rfl rfl)
theorem dX5_init_9 : decode cX5_init 9 = .ok (.putfield 9, 3) := dk_181 0 9 (dk_at dksX5_init_0 9 rfl rfl)
theorem dX5_init_12 : decode cX5_init 12 = .ok (.aload_n 0, 1) := dk_42 (dk_at dksX5_init_0 12 rfl rfl)
theorem dX5_init_13 : decode cX5_init 13 = .ok (.bipush 40, 2) := dk_16 40 (dk_at dksX5_init_0 13 rfl rfl)
theorem dX5_init_15 : decode cX5_init 15 = .ok (.newarray .long, 2) := dk_188_11 (dk_at dksX5_init_0 15 rfl rfl)
theorem dX5_init_17 : decode cX5_init 17 = .ok (.putfield 15, 3) := dk_181 0 15 (dk_at dksX5_init_0 17 rfl rfl)
theorem dX5_init_20 : decode cX5_init 20 = .ok (.aload_n 0, 1) := dk_42 (dk_at dksX5_init_0 20 rfl rfl)
theorem dX5_init_21 : decode cX5_init 21 = .ok (.bipush 40, 2) := dk_16 40 (dk_at dksX5_init_0 21 rfl rfl)
theorem dX5_init_23 : decode cX5_init 23 = .ok (.newarray .long, 2) := dk_188_11 (dk_at dksX5_init_1 0 rfl rfl)
theorem dX5_init_25 : decode cX5_init 25 = .ok (.putfield 18, 3) := dk_181 0 18 (dk_at dksX5_init_1 2 rfl rfl)
theorem dX5_init_28 : decode cX5_init 28 = .ok (.aload_n 0, 1) := dk_42 (dk_at dksX5_init_1 5 rfl rfl)
theorem dX5_init_29 : decode cX5_init 29 = .ok (.sipush 160, 3) := dk_17 0 160 (dk_at dksX5_init_1 6 rfl rfl)
theorem dX5_init_32 : decode cX5_init 32 = .ok (.newarray .long, 2) := dk_188_11 (dk_at dksX5_init_1 9 rfl rfl)
theorem dX5_init_34 : decode cX5_init 34 = .ok (.putfield 21, 3) := dk_181 0 21 (dk_at dksX5_init_1 11 rfl rfl)
theorem dX5_init_37 : decode cX5_init 37 = .ok (.return_, 1) := dk_177 (dk_at dksX5_init_1 14 rfl rfl)
abbrev cX5_begins : ByteArray := prog_6_method_2_code
def yX5_begins : MethodName := ⟨RX5, "begins", "()V"⟩
def dkwX5_begins_2 : List UInt8 := [162, 0, 16, 42, 180, 0, 21, 27, 9, 80, 132, 1, 1, 167, 255, 237, 177]
abbrev dktX5_begins_2 : List UInt8 := dkwX5_begins_2 ++ []
def dkwX5_begins_1 : List UInt8 := [9, 80, 42, 180, 0, 18, 27, 9, 80, 132, 1, 1, 167, 255, 226, 3, 60, 27, 42, 180, 0, 21, 190]
abbrev dktX5_begins_1 : List UInt8 := dkwX5_begins_1 ++ dktX5_begins_2
def dkwX5_begins_0 : List UInt8 := [42, 183, 0, 24, 3, 60, 27, 16, 40, 162, 0, 30, 42, 180, 0, 9, 27, 9, 80, 42, 180, 0, 15, 27]
abbrev dktX5_begins_0 : List UInt8 := dkwX5_begins_0 ++ dktX5_begins_1
theorem dksX5_begins_0 : cX5_begins.data.toList.drop 0 = dktX5_begins_0 := by decide +kernel
theorem dksX5_begins_1 : cX5_begins.data.toList.drop 24 = dktX5_begins_1 := dk_seg dksX5_begins_0 24 rfl rfl
theorem dksX5_begins_2 : cX5_begins.data.toList.drop 47 = dktX5_begins_2 := dk_seg dksX5_begins_1 23 rfl rfl
theorem dX5_begins_0 : decode cX5_begins 0 = .ok (.aload_n 0, 1) := dk_42 (dk_at dksX5_begins_0 0 rfl rfl)
theorem dX5_begins_1 : decode cX5_begins 1 = .ok (.invokespecial 24, 3) := dk_183 0 24 (dk_at dksX5_begins_0 1 rfl rfl)
theorem dX5_begins_4 : decode cX5_begins 4 = .ok (.iconst 0, 1) := dk_3 (dk_at dksX5_begins_0 4 rfl rfl)
theorem dX5_begins_5 : decode cX5_begins 5 = .ok (.istore_n 1, 1) := dk_60 (dk_at dksX5_begins_0 5 rfl rfl)
theorem dX5_begins_6 : decode cX5_begins 6 = .ok (.iload_n 1, 1) := dk_27 (dk_at dksX5_begins_0 6 rfl rfl)
theorem dX5_begins_7 : decode cX5_begins 7 = .ok (.bipush 40, 2) := dk_16 40 (dk_at dksX5_begins_0 7 rfl rfl)
theorem dX5_begins_9 : decode cX5_begins 9 = .ok (.if_icmp .ge 30, 3) := dk_162 0 30 (dk_at dksX5_begins_0 9 rfl rfl)
theorem dX5_begins_12 : decode cX5_begins 12 = .ok (.aload_n 0, 1) := dk_42 (dk_at dksX5_begins_0 12 rfl rfl)
theorem dX5_begins_13 : decode cX5_begins 13 = .ok (.getfield 9, 3) := dk_180 0 9 (dk_at dksX5_begins_0 13 rfl rfl)
theorem dX5_begins_16 : decode cX5_begins 16 = .ok (.iload_n 1, 1) := dk_27 (dk_at dksX5_begins_0 16 rfl rfl)
theorem dX5_begins_17 : decode cX5_begins 17 = .ok (.lconst 0, 1) := dk_9 (dk_at dksX5_begins_0 17 rfl rfl)
theorem dX5_begins_18 : decode cX5_begins 18 = .ok (.lastore, 1) := dk_80 (dk_at dksX5_begins_0 18 rfl rfl)
theorem dX5_begins_19 : decode cX5_begins 19 = .ok (.aload_n 0, 1) := dk_42 (dk_at dksX5_begins_0 19 rfl rfl)
theorem dX5_begins_20 : decode cX5_begins 20 = .ok (.getfield 15, 3) := dk_180 0 15 (dk_at dksX5_begins_0 20 rfl rfl)
theorem dX5_begins_23 : decode cX5_begins 23 = .ok (.iload_n 1, 1) := dk_27 (dk_at dksX5_begins_0 23 rfl rfl)
theorem dX5_begins_24 : decode cX5_begins 24 = .ok (.lconst 0, 1) := dk_9 (dk_at dksX5_begins_1 0 rfl rfl)
theorem dX5_begins_25 : decode cX5_begins 25 = .ok (.lastore, 1) := dk_80 (dk_at dksX5_begins_1 1 rfl rfl)
theorem dX5_begins_26 : decode cX5_begins 26 = .ok (.aload_n 0, 1) := dk_42 (dk_at dksX5_begins_1 2 rfl rfl)
theorem dX5_begins_27 : decode cX5_begins 27 = .ok (.getfield 18, 3) := dk_180 0 18 (dk_at dksX5_begins_1 3 rfl rfl)
theorem dX5_begins_30 : decode cX5_begins 30 = .ok (.iload_n 1, 1) := dk_27 (dk_at dksX5_begins_1 6 rfl rfl)
theorem dX5_begins_31 : decode cX5_begins 31 = .ok (.lconst 0, 1) := dk_9 (dk_at dksX5_begins_1 7 rfl rfl)
theorem dX5_begins_32 : decode cX5_begins 32 = .ok (.lastore, 1) := dk_80 (dk_at dksX5_begins_1 8 rfl rfl)
theorem dX5_begins_33 : decode cX5_begins 33 = .ok (.iinc 1 1, 3) := dk_132 1 1 (dk_at dksX5_begins_1 9 rfl rfl)
theorem dX5_begins_36 : decode cX5_begins 36 = .ok (.goto (-30), 3) := dk_167 255 226 (dk_at dksX5_begins_1 12 rfl rfl)
theorem dX5_begins_39 : decode cX5_begins 39 = .ok (.iconst 0, 1) := dk_3 (dk_at dksX5_begins_1 15 rfl rfl)
theorem dX5_begins_40 : decode cX5_begins 40 = .ok (.istore_n 1, 1) := dk_60 (dk_at dksX5_begins_1 16 rfl rfl)
theorem dX5_begins_41 : decode cX5_begins 41 = .ok (.iload_n 1, 1) := dk_27 (dk_at dksX5_begins_1 17 rfl rfl)
theorem dX5_begins_42 : decode cX5_begins 42 = .ok (.aload_n 0, 1) := dk_42 (dk_at dksX5_begins_1 18 rfl rfl)
theorem dX5_begins_43 : decode cX5_begins 43 = .ok (.getfield 21, 3) := dk_180 0 21 (dk_at dksX5_begins_1 19 rfl rfl)
theorem dX5_begins_46 : decode cX5_begins 46 = .ok (.arraylength, 1) := dk_190 (dk_at dksX5_begins_1 22 rfl rfl)
theorem dX5_begins_47 : decode cX5_begins 47 = .ok (.if_icmp .ge 16, 3) := dk_162 0 16 (dk_at dksX5_begins_2 0 rfl rfl)
theorem dX5_begins_50 : decode cX5_begins 50 = .ok (.aload_n 0, 1) := dk_42 (dk_at dksX5_begins_2 3 rfl rfl)
theorem dX5_begins_51 : decode cX5_begins 51 = .ok (.getfield 21, 3) := dk_180 0 21 (dk_at dksX5_begins_2 4 rfl rfl)
theorem dX5_begins_54 : decode cX5_begins 54 = .ok (.iload_n 1, 1) := dk_27 (dk_at dksX5_begins_2 7 rfl rfl)
theorem dX5_begins_55 : decode cX5_begins 55 = .ok (.lconst 0, 1) := dk_9 (dk_at dksX5_begins_2 8 rfl rfl)
theorem dX5_begins_56 : decode cX5_begins 56 = .ok (.lastore, 1) := dk_80 (dk_at dksX5_begins_2 9 rfl rfl)
theorem dX5_begins_57 : decode cX5_begins 57 = .ok (.iinc 1 1, 3) := dk_132 1 1 (dk_at dksX5_begins_2 10 rfl rfl)
theorem dX5_begins_60 : decode cX5_begins 60 = .ok (.goto (-19), 3) := dk_167 255 237 (dk_at dksX5_begins_2 13 rfl rfl)
theorem dX5_begins_63 : decode cX5_begins 63 = .ok (.return_, 1) := dk_177 (dk_at dksX5_begins_2 16 rfl rfl)
abbrev cX5_addsAll : ByteArray := prog_6_method_3_code
def yX5_addsAll : MethodName := ⟨RX5, "addsAll", "(LTallTowers$Flow;)V"⟩
def dkwX5_addsAll_4 : List UInt8 := [132, 2, 1, 167, 255, 202, 177]
abbrev dktX5_addsAll_4 : List UInt8 := dkwX5_addsAll_4 ++ []
def dkwX5_addsAll_3 : List UInt8 := [180, 0, 15, 28, 47, 97, 80, 42, 180, 0, 18, 28, 92, 47, 43, 180, 0, 18, 28, 47, 97, 80]
abbrev dktX5_addsAll_3 : List UInt8 := dkwX5_addsAll_3 ++ dktX5_addsAll_4
def dkwX5_addsAll_2 : List UInt8 := [180, 0, 9, 28, 92, 47, 43, 180, 0, 9, 28, 47, 97, 80, 42, 180, 0, 15, 28, 92, 47, 43]
abbrev dktX5_addsAll_2 : List UInt8 := dkwX5_addsAll_2 ++ dktX5_addsAll_3
def dkwX5_addsAll_1 : List UInt8 := [180, 0, 21, 28, 47, 97, 80, 132, 2, 1, 167, 255, 229, 3, 61, 28, 16, 40, 162, 0, 54, 42]
abbrev dktX5_addsAll_1 : List UInt8 := dkwX5_addsAll_1 ++ dktX5_addsAll_2
def dkwX5_addsAll_0 : List UInt8 := [42, 43, 182, 0, 27, 3, 61, 28, 42, 180, 0, 21, 190, 162, 0, 24, 42, 180, 0, 21, 28, 92, 47, 43]
abbrev dktX5_addsAll_0 : List UInt8 := dkwX5_addsAll_0 ++ dktX5_addsAll_1
theorem dksX5_addsAll_0 : cX5_addsAll.data.toList.drop 0 = dktX5_addsAll_0 := by decide +kernel
theorem dksX5_addsAll_1 : cX5_addsAll.data.toList.drop 24 = dktX5_addsAll_1 := dk_seg dksX5_addsAll_0 24 rfl rfl
theorem dksX5_addsAll_2 : cX5_addsAll.data.toList.drop 46 = dktX5_addsAll_2 := dk_seg dksX5_addsAll_1 22 rfl rfl
theorem dksX5_addsAll_3 : cX5_addsAll.data.toList.drop 68 = dktX5_addsAll_3 := dk_seg dksX5_addsAll_2 22 rfl rfl
theorem dksX5_addsAll_4 : cX5_addsAll.data.toList.drop 90 = dktX5_addsAll_4 := dk_seg dksX5_addsAll_3 22 rfl rfl
theorem dX5_addsAll_0 : decode cX5_addsAll 0 = .ok (.aload_n 0, 1) := dk_42 (dk_at dksX5_addsAll_0 0 rfl rfl)
theorem dX5_addsAll_1 : decode cX5_addsAll 1 = .ok (.aload_n 1, 1) := dk_43 (dk_at dksX5_addsAll_0 1 rfl rfl)
theorem dX5_addsAll_2 : decode cX5_addsAll 2 = .ok (.invokevirtual 27, 3) := dk_182 0 27 (dk_at dksX5_addsAll_0 2 rfl rfl)
theorem dX5_addsAll_5 : decode cX5_addsAll 5 = .ok (.iconst 0, 1) := dk_3 (dk_at dksX5_addsAll_0 5 rfl rfl)
theorem dX5_addsAll_6 : decode cX5_addsAll 6 = .ok (.istore_n 2, 1) := dk_61 (dk_at dksX5_addsAll_0 6 rfl rfl)
theorem dX5_addsAll_7 : decode cX5_addsAll 7 = .ok (.iload_n 2, 1) := dk_28 (dk_at dksX5_addsAll_0 7 rfl rfl)
theorem dX5_addsAll_8 : decode cX5_addsAll 8 = .ok (.aload_n 0, 1) := dk_42 (dk_at dksX5_addsAll_0 8 rfl rfl)
theorem dX5_addsAll_9 : decode cX5_addsAll 9 = .ok (.getfield 21, 3) := dk_180 0 21 (dk_at dksX5_addsAll_0 9 rfl rfl)
theorem dX5_addsAll_12 : decode cX5_addsAll 12 = .ok (.arraylength, 1) := dk_190 (dk_at dksX5_addsAll_0 12 rfl rfl)
theorem dX5_addsAll_13 : decode cX5_addsAll 13 = .ok (.if_icmp .ge 24, 3) := dk_162 0 24 (dk_at dksX5_addsAll_0 13 rfl rfl)
theorem dX5_addsAll_16 : decode cX5_addsAll 16 = .ok (.aload_n 0, 1) := dk_42 (dk_at dksX5_addsAll_0 16 rfl rfl)
theorem dX5_addsAll_17 : decode cX5_addsAll 17 = .ok (.getfield 21, 3) := dk_180 0 21 (dk_at dksX5_addsAll_0 17 rfl rfl)
theorem dX5_addsAll_20 : decode cX5_addsAll 20 = .ok (.iload_n 2, 1) := dk_28 (dk_at dksX5_addsAll_0 20 rfl rfl)
theorem dX5_addsAll_21 : decode cX5_addsAll 21 = .ok (.dup2, 1) := dk_92 (dk_at dksX5_addsAll_0 21 rfl rfl)
theorem dX5_addsAll_22 : decode cX5_addsAll 22 = .ok (.laload, 1) := dk_47 (dk_at dksX5_addsAll_0 22 rfl rfl)
theorem dX5_addsAll_23 : decode cX5_addsAll 23 = .ok (.aload_n 1, 1) := dk_43 (dk_at dksX5_addsAll_0 23 rfl rfl)
theorem dX5_addsAll_24 : decode cX5_addsAll 24 = .ok (.getfield 21, 3) := dk_180 0 21 (dk_at dksX5_addsAll_1 0 rfl rfl)
theorem dX5_addsAll_27 : decode cX5_addsAll 27 = .ok (.iload_n 2, 1) := dk_28 (dk_at dksX5_addsAll_1 3 rfl rfl)
theorem dX5_addsAll_28 : decode cX5_addsAll 28 = .ok (.laload, 1) := dk_47 (dk_at dksX5_addsAll_1 4 rfl rfl)
theorem dX5_addsAll_29 : decode cX5_addsAll 29 = .ok (.ladd, 1) := dk_97 (dk_at dksX5_addsAll_1 5 rfl rfl)
theorem dX5_addsAll_30 : decode cX5_addsAll 30 = .ok (.lastore, 1) := dk_80 (dk_at dksX5_addsAll_1 6 rfl rfl)
theorem dX5_addsAll_31 : decode cX5_addsAll 31 = .ok (.iinc 2 1, 3) := dk_132 2 1 (dk_at dksX5_addsAll_1 7 rfl rfl)
theorem dX5_addsAll_34 : decode cX5_addsAll 34 = .ok (.goto (-27), 3) := dk_167 255 229 (dk_at dksX5_addsAll_1 10 rfl rfl)
theorem dX5_addsAll_37 : decode cX5_addsAll 37 = .ok (.iconst 0, 1) := dk_3 (dk_at dksX5_addsAll_1 13 rfl rfl)
theorem dX5_addsAll_38 : decode cX5_addsAll 38 = .ok (.istore_n 2, 1) := dk_61 (dk_at dksX5_addsAll_1 14 rfl rfl)
theorem dX5_addsAll_39 : decode cX5_addsAll 39 = .ok (.iload_n 2, 1) := dk_28 (dk_at dksX5_addsAll_1 15 rfl rfl)
theorem dX5_addsAll_40 : decode cX5_addsAll 40 = .ok (.bipush 40, 2) := dk_16 40 (dk_at dksX5_addsAll_1 16 rfl rfl)
theorem dX5_addsAll_42 : decode cX5_addsAll 42 = .ok (.if_icmp .ge 54, 3) := dk_162 0 54 (dk_at dksX5_addsAll_1 18 rfl rfl)
theorem dX5_addsAll_45 : decode cX5_addsAll 45 = .ok (.aload_n 0, 1) := dk_42 (dk_at dksX5_addsAll_1 21 rfl rfl)
theorem dX5_addsAll_46 : decode cX5_addsAll 46 = .ok (.getfield 9, 3) := dk_180 0 9 (dk_at dksX5_addsAll_2 0 rfl rfl)
theorem dX5_addsAll_49 : decode cX5_addsAll 49 = .ok (.iload_n 2, 1) := dk_28 (dk_at dksX5_addsAll_2 3 rfl rfl)
theorem dX5_addsAll_50 : decode cX5_addsAll 50 = .ok (.dup2, 1) := dk_92 (dk_at dksX5_addsAll_2 4 rfl rfl)
theorem dX5_addsAll_51 : decode cX5_addsAll 51 = .ok (.laload, 1) := dk_47 (dk_at dksX5_addsAll_2 5 rfl rfl)
theorem dX5_addsAll_52 : decode cX5_addsAll 52 = .ok (.aload_n 1, 1) := dk_43 (dk_at dksX5_addsAll_2 6 rfl rfl)
theorem dX5_addsAll_53 : decode cX5_addsAll 53 = .ok (.getfield 9, 3) := dk_180 0 9 (dk_at dksX5_addsAll_2 7 rfl rfl)
theorem dX5_addsAll_56 : decode cX5_addsAll 56 = .ok (.iload_n 2, 1) := dk_28 (dk_at dksX5_addsAll_2 10 rfl rfl)
theorem dX5_addsAll_57 : decode cX5_addsAll 57 = .ok (.laload, 1) := dk_47 (dk_at dksX5_addsAll_2 11 rfl rfl)
theorem dX5_addsAll_58 : decode cX5_addsAll 58 = .ok (.ladd, 1) := dk_97 (dk_at dksX5_addsAll_2 12 rfl rfl)
theorem dX5_addsAll_59 : decode cX5_addsAll 59 = .ok (.lastore, 1) := dk_80 (dk_at dksX5_addsAll_2 13 rfl rfl)
theorem dX5_addsAll_60 : decode cX5_addsAll 60 = .ok (.aload_n 0, 1) := dk_42 (dk_at dksX5_addsAll_2 14 rfl rfl)
theorem dX5_addsAll_61 : decode cX5_addsAll 61 = .ok (.getfield 15, 3) := dk_180 0 15 (dk_at dksX5_addsAll_2 15 rfl rfl)
theorem dX5_addsAll_64 : decode cX5_addsAll 64 = .ok (.iload_n 2, 1) := dk_28 (dk_at dksX5_addsAll_2 18 rfl rfl)
theorem dX5_addsAll_65 : decode cX5_addsAll 65 = .ok (.dup2, 1) := dk_92 (dk_at dksX5_addsAll_2 19 rfl rfl)
theorem dX5_addsAll_66 : decode cX5_addsAll 66 = .ok (.laload, 1) := dk_47 (dk_at dksX5_addsAll_2 20 rfl rfl)
theorem dX5_addsAll_67 : decode cX5_addsAll 67 = .ok (.aload_n 1, 1) := dk_43 (dk_at dksX5_addsAll_2 21 rfl rfl)
theorem dX5_addsAll_68 : decode cX5_addsAll 68 = .ok (.getfield 15, 3) := dk_180 0 15 (dk_at dksX5_addsAll_3 0 rfl rfl)
theorem dX5_addsAll_71 : decode cX5_addsAll 71 = .ok (.iload_n 2, 1) := dk_28 (dk_at dksX5_addsAll_3 3 rfl rfl)
theorem dX5_addsAll_72 : decode cX5_addsAll 72 = .ok (.laload, 1) := dk_47 (dk_at dksX5_addsAll_3 4 rfl rfl)
theorem dX5_addsAll_73 : decode cX5_addsAll 73 = .ok (.ladd, 1) := dk_97 (dk_at dksX5_addsAll_3 5 rfl rfl)
theorem dX5_addsAll_74 : decode cX5_addsAll 74 = .ok (.lastore, 1) := dk_80 (dk_at dksX5_addsAll_3 6 rfl rfl)
theorem dX5_addsAll_75 : decode cX5_addsAll 75 = .ok (.aload_n 0, 1) := dk_42 (dk_at dksX5_addsAll_3 7 rfl rfl)
theorem dX5_addsAll_76 : decode cX5_addsAll 76 = .ok (.getfield 18, 3) := dk_180 0 18 (dk_at dksX5_addsAll_3 8 rfl rfl)
theorem dX5_addsAll_79 : decode cX5_addsAll 79 = .ok (.iload_n 2, 1) := dk_28 (dk_at dksX5_addsAll_3 11 rfl rfl)
theorem dX5_addsAll_80 : decode cX5_addsAll 80 = .ok (.dup2, 1) := dk_92 (dk_at dksX5_addsAll_3 12 rfl rfl)
theorem dX5_addsAll_81 : decode cX5_addsAll 81 = .ok (.laload, 1) := dk_47 (dk_at dksX5_addsAll_3 13 rfl rfl)
theorem dX5_addsAll_82 : decode cX5_addsAll 82 = .ok (.aload_n 1, 1) := dk_43 (dk_at dksX5_addsAll_3 14 rfl rfl)
theorem dX5_addsAll_83 : decode cX5_addsAll 83 = .ok (.getfield 18, 3) := dk_180 0 18 (dk_at dksX5_addsAll_3 15 rfl rfl)
theorem dX5_addsAll_86 : decode cX5_addsAll 86 = .ok (.iload_n 2, 1) := dk_28 (dk_at dksX5_addsAll_3 18 rfl rfl)
theorem dX5_addsAll_87 : decode cX5_addsAll 87 = .ok (.laload, 1) := dk_47 (dk_at dksX5_addsAll_3 19 rfl rfl)
theorem dX5_addsAll_88 : decode cX5_addsAll 88 = .ok (.ladd, 1) := dk_97 (dk_at dksX5_addsAll_3 20 rfl rfl)
theorem dX5_addsAll_89 : decode cX5_addsAll 89 = .ok (.lastore, 1) := dk_80 (dk_at dksX5_addsAll_3 21 rfl rfl)
theorem dX5_addsAll_90 : decode cX5_addsAll 90 = .ok (.iinc 2 1, 3) := dk_132 2 1 (dk_at dksX5_addsAll_4 0 rfl rfl)
theorem dX5_addsAll_93 : decode cX5_addsAll 93 = .ok (.goto (-54), 3) := dk_167 255 202 (dk_at dksX5_addsAll_4 3 rfl rfl)
theorem dX5_addsAll_96 : decode cX5_addsAll 96 = .ok (.return_, 1) := dk_177 (dk_at dksX5_addsAll_4 6 rfl rfl)
theorem q138 : (Jvm.Cond.initialized "TallTowers$Flow") ∈ lw_all := lw_g (lw_at lw_m1 12 rfl) rfl
theorem q286 : (Jvm.Cond.instantiable "TallTowers$Flow" (6 : Nat)) ∈ lw_all := lw_g (lw_at lw_m1 160 rfl) rfl
theorem q288 : (Jvm.Cond.instanceMethod ({ cls := "TallTowers$Flow", name := "<init>", desc := "()V" } : Jvm.MethodName)) ∈ lw_all := lw_g (lw_at lw_m1 162 rfl) rfl
theorem q289 : (Jvm.Cond.code ({ cls := "TallTowers$Flow", name := "<init>", desc := "()V" } : Jvm.MethodName) prog_6_method_1_code (1 : Nat) (Option.none : Option Jvm.ClassFile.FieldType)) ∈ lw_all := lw_g (lw_at lw_m1 163 rfl) rfl
theorem q290 : (Jvm.Cond.methodLinkNest "TallTowers$Flow" (3 : Nat) ({ cls := "TallTowers$Burden", name := "<init>", desc := "()V" } : Jvm.MethodName) "TallTowers") ∈ lw_tbl := lw_at lw_m1 164 rfl
theorem q294 : (Jvm.Cond.fieldLink "TallTowers$Flow" (9 : Nat) "TallTowers$Flow" "takes" "[J") ∈ lw_all := lw_g (lw_at lw_m1 168 rfl) rfl
theorem q300 : (Jvm.Cond.fieldLink "TallTowers$Flow" (15 : Nat) "TallTowers$Flow" "through" "[J") ∈ lw_all := lw_g (lw_at lw_m1 174 rfl) rfl
theorem q305 : (Jvm.Cond.fieldLink "TallTowers$Flow" (18 : Nat) "TallTowers$Flow" "moved" "[J") ∈ lw_all := lw_g (lw_at lw_m1 179 rfl) rfl
theorem q309 : (Jvm.Cond.fieldLink "TallTowers$Flow" (21 : Nat) "TallTowers$Flow" "parts" "[J") ∈ lw_all := lw_g (lw_at lw_m1 183 rfl) rfl
theorem q313 : (Jvm.Cond.sameField "TallTowers$Flow" "TallTowers$Burden" "bears" "[J") ∈ lw_all := lw_g (lw_at lw_m1 187 rfl) rfl
theorem q316 : (Jvm.Cond.sameField "TallTowers$Flow" "TallTowers$Burden" "falls" "[J") ∈ lw_all := lw_g (lw_at lw_m1 190 rfl) rfl
theorem q320 : (Jvm.Cond.laysFinal "TallTowers$Flow" "TallTowers$Flow" "takes" "[J") ∈ lw_all := lw_g (lw_at lw_m1 194 rfl) rfl
theorem q321 : (Jvm.Cond.soleField "TallTowers$Flow" "takes") ∈ lw_all := lw_g (lw_at lw_m1 195 rfl) rfl
theorem q322 : (Jvm.Cond.laysFinal "TallTowers$Flow" "TallTowers$Flow" "through" "[J") ∈ lw_all := lw_g (lw_at lw_m1 196 rfl) rfl
theorem q323 : (Jvm.Cond.soleField "TallTowers$Flow" "through") ∈ lw_all := lw_g (lw_at lw_m1 197 rfl) rfl
theorem q324 : (Jvm.Cond.laysFinal "TallTowers$Flow" "TallTowers$Flow" "moved" "[J") ∈ lw_all := lw_g (lw_at lw_m1 198 rfl) rfl
theorem q325 : (Jvm.Cond.soleField "TallTowers$Flow" "moved") ∈ lw_all := lw_g (lw_at lw_m1 199 rfl) rfl
theorem q326 : (Jvm.Cond.laysFinal "TallTowers$Flow" "TallTowers$Flow" "parts" "[J") ∈ lw_all := lw_g (lw_at lw_m1 200 rfl) rfl
theorem q327 : (Jvm.Cond.soleField "TallTowers$Flow" "parts") ∈ lw_all := lw_g (lw_at lw_m1 201 rfl) rfl
theorem q328 : (Jvm.Cond.laysFinal "TallTowers$Flow" "TallTowers$Burden" "bears" "[J") ∈ lw_all := lw_g (lw_at lw_m1 202 rfl) rfl
theorem q330 : (Jvm.Cond.laysFinal "TallTowers$Flow" "TallTowers$Burden" "falls" "[J") ∈ lw_all := lw_g (lw_at lw_m1 204 rfl) rfl
theorem q332 : (Jvm.Cond.superclass "TallTowers$Flow" "TallTowers$Burden") ∈ lw_all := lw_g (lw_at lw_m1 206 rfl) rfl
theorem q591 : (Jvm.Cond.selects "TallTowers$Flow" ({ cls := "java/lang/Object", name := "getClass", desc := "()Ljava/lang/Class;" } : Jvm.MethodName) ({ cls := "java/lang/Object", name := "getClass", desc := "()Ljava/lang/Class;" } : Jvm.MethodName)) ∈ lw_all := lw_g (lw_at lw_m2 225 rfl) rfl
theorem q705 : (Jvm.Cond.instanceMethod ({ cls := "TallTowers$Flow", name := "begins", desc := "()V" } : Jvm.MethodName)) ∈ lw_all := lw_g (lw_at lw_m3 99 rfl) rfl
theorem q706 : (Jvm.Cond.selects "TallTowers$Flow" ({ cls := "TallTowers$Flow", name := "begins", desc := "()V" } : Jvm.MethodName) ({ cls := "TallTowers$Flow", name := "begins", desc := "()V" } : Jvm.MethodName)) ∈ lw_all := lw_g (lw_at lw_m3 100 rfl) rfl
theorem q707 : (Jvm.Cond.sameMethod "TallTowers$Flow" "TallTowers$Flow" "begins" "()V") ∈ lw_all := lw_g (lw_at lw_m3 101 rfl) rfl
theorem q712 : (Jvm.Cond.code ({ cls := "TallTowers$Flow", name := "begins", desc := "()V" } : Jvm.MethodName) prog_6_method_2_code (2 : Nat) (Option.none : Option Jvm.ClassFile.FieldType)) ∈ lw_all := lw_g (lw_at lw_m3 106 rfl) rfl
theorem q713 : (Jvm.Cond.methodLink "TallTowers$Flow" (24 : Nat) ({ cls := "TallTowers$Burden", name := "begins", desc := "()V" } : Jvm.MethodName)) ∈ lw_all := lw_g (lw_at lw_m3 107 rfl) rfl
theorem q1145 : (Jvm.Cond.declares ({ cls := "TallTowers$Flow", name := "addsAll", desc := "(LTallTowers$Flow;)V" } : Jvm.MethodName)) ∈ lw_tbl := lw_at lw_m5 59 rfl
theorem q1147 : (Jvm.Cond.instanceMethod ({ cls := "TallTowers$Flow", name := "addsAll", desc := "(LTallTowers$Flow;)V" } : Jvm.MethodName)) ∈ lw_all := lw_g (lw_at lw_m5 61 rfl) rfl
theorem q1148 : (Jvm.Cond.code ({ cls := "TallTowers$Flow", name := "addsAll", desc := "(LTallTowers$Flow;)V" } : Jvm.MethodName) prog_6_method_3_code (3 : Nat) (Option.none : Option Jvm.ClassFile.FieldType)) ∈ lw_all := lw_g (lw_at lw_m5 62 rfl) rfl
theorem q1149 : (Jvm.Cond.methodLink "TallTowers$Flow" (27 : Nat) ({ cls := "TallTowers$Flow", name := "adds", desc := "(LTallTowers$Burden;)V" } : Jvm.MethodName)) ∈ lw_all := lw_g (lw_at lw_m5 63 rfl) rfl
theorem q1150 : (Jvm.Cond.sameMethod "TallTowers$Flow" "TallTowers$Burden" "adds" "(LTallTowers$Burden;)V") ∈ lw_all := lw_g (lw_at lw_m5 64 rfl) rfl
theorem q1152 : (Jvm.Cond.selects "TallTowers$Flow" ({ cls := "TallTowers$Flow", name := "adds", desc := "(LTallTowers$Burden;)V" } : Jvm.MethodName) ({ cls := "TallTowers$Burden", name := "adds", desc := "(LTallTowers$Burden;)V" } : Jvm.MethodName)) ∈ lw_all := lw_g (lw_at lw_m5 66 rfl) rfl
theorem q1559 : (Jvm.Cond.sameMethod "TallTowers$Flow" "TallTowers$Burden" "borne" "(I)J") ∈ lw_all := lw_g (lw_at lw_m6 233 rfl) rfl
theorem q1560 : (Jvm.Cond.selects "TallTowers$Flow" ({ cls := "TallTowers$Flow", name := "borne", desc := "(I)J" } : Jvm.MethodName) ({ cls := "TallTowers$Burden", name := "borne", desc := "(I)J" } : Jvm.MethodName)) ∈ lw_all := lw_g (lw_at lw_m6 234 rfl) rfl
theorem q2472 : (Jvm.Cond.castable "TallTowers$Flow" "java/lang/Object") ∈ lw_tbl := lw_at lw_m10 186 rfl
theorem in_X5 : ∀ w ∈ wsX50, w ∈ lw_all := lw_in wsX50 [328, 330, 320, 322, 324, 326] (by decide +kernel) (by decide +kernel)
/-! TallTowers$Layer -/
set_option maxRecDepth 100000
def RX6 : String := "TallTowers$Layer"
def TX6 : u_T := fun k => match k with
  | 0 => ("TallTowers$Layer", "who", "[I", true)
  | 1 => ("TallTowers$Layer", "tenths", "[I", true)
  | 2 => ("TallTowers$Layer", "had", "[J", true)
  | 3 => ("TallTowers$Layer", "number", "I", true)
  | 4 => ("TallTowers$Layer", "year", "I", false)
  | 5 => ("TallTowers$Layer", "from", "I", false)
  | 6 => ("TallTowers$Layer", "size", "I", false)
  | 7 => ("TallTowers$Layer", "times", "I", false)
  | 8 => ("TallTowers$Layer", "signers", "I", false)
  | 9 => ("TallTowers$Layer", "used", "J", false)
  | _ => ("TallTowers$Layer", "isThere", "Z", false)
def tyX6 : Nat → FieldType := fun k => match k with
  | 0 => .array .int
  | 1 => .array .int
  | 2 => .array .long
  | 3 => .int
  | 4 => .int
  | 5 => .int
  | 6 => .int
  | 7 => .int
  | 8 => .int
  | 9 => .long
  | _ => .boolean
abbrev wsX60 : List Cond := u_ws RX6 TX6 11
theorem nmX6 : ∀ a, a < 11 → ∀ b, b < 11 → a ≠ b → (TX6 a).2.1 ≠ (TX6 b).2.1 := by decide +kernel
theorem tyX6_ok : ∀ k, k < 11 → parseFieldDescriptor (TX6 k).2.2.1 = some (tyX6 k) := by decide +kernel
abbrev cX6_init : ByteArray := prog_9_method_1_code
def yX6_init : MethodName := ⟨RX6, "<init>", "(I)V"⟩
def dkwX6_init_1 : List UInt8 := [181, 0, 18, 42, 27, 181, 0, 22, 177]
abbrev dktX6_init_1 : List UInt8 := dkwX6_init_1 ++ []
def dkwX6_init_0 : List UInt8 := [42, 183, 0, 3, 42, 7, 188, 10, 181, 0, 9, 42, 7, 188, 10, 181, 0, 15, 42, 7, 188, 11]
abbrev dktX6_init_0 : List UInt8 := dkwX6_init_0 ++ dktX6_init_1
theorem dksX6_init_0 : cX6_init.data.toList.drop 0 = dktX6_init_0 := by decide +kernel
theorem dksX6_init_1 : cX6_init.data.toList.drop 22 = dktX6_init_1 := dk_seg dksX6_init_0 22 rfl rfl
theorem dX6_init_0 : decode cX6_init 0 = .ok (.aload_n 0, 1) := dk_42 (dk_at dksX6_init_0 0 rfl rfl)
theorem dX6_init_1 : decode cX6_init 1 = .ok (.invokespecial 3, 3) := dk_183 0 3 (dk_at dksX6_init_0 1 rfl rfl)
theorem dX6_init_4 : decode cX6_init 4 = .ok (.aload_n 0, 1) := dk_42 (dk_at dksX6_init_0 4 rfl rfl)
theorem dX6_init_5 : decode cX6_init 5 = .ok (.iconst 4, 1) := dk_7 (dk_at dksX6_init_0 5 rfl rfl)
theorem dX6_init_6 : decode cX6_init 6 = .ok (.newarray .int, 2) := dk_188_10 (dk_at dksX6_init_0 6 rfl rfl)
theorem dX6_init_8 : decode cX6_init 8 = .ok (.putfield 9, 3) := dk_181 0 9 (dk_at dksX6_init_0 8 rfl rfl)
theorem dX6_init_11 : decode cX6_init 11 = .ok (.aload_n 0, 1) := dk_42 (dk_at dksX6_init_0 11 rfl rfl)
theorem dX6_init_12 : decode cX6_init 12 = .ok (.iconst 4, 1) := dk_7 (dk_at dksX6_init_0 12 rfl rfl)
theorem dX6_init_13 : decode cX6_init 13 = .ok (.newarray .int, 2) := dk_188_10 (dk_at dksX6_init_0 13 rfl rfl)
theorem dX6_init_15 : decode cX6_init 15 = .ok (.putfield 15, 3) := dk_181 0 15 (dk_at dksX6_init_0 15 rfl rfl)
theorem dX6_init_18 : decode cX6_init 18 = .ok (.aload_n 0, 1) := dk_42 (dk_at dksX6_init_0 18 rfl rfl)
theorem dX6_init_19 : decode cX6_init 19 = .ok (.iconst 4, 1) := dk_7 (dk_at dksX6_init_0 19 rfl rfl)
theorem dX6_init_20 : decode cX6_init 20 = .ok (.newarray .long, 2) := dk_188_11 (dk_at dksX6_init_0 20 rfl rfl)
theorem dX6_init_22 : decode cX6_init 22 = .ok (.putfield 18, 3) := dk_181 0 18 (dk_at dksX6_init_1 0 rfl rfl)
theorem dX6_init_25 : decode cX6_init 25 = .ok (.aload_n 0, 1) := dk_42 (dk_at dksX6_init_1 3 rfl rfl)
theorem dX6_init_26 : decode cX6_init 26 = .ok (.iload_n 1, 1) := dk_27 (dk_at dksX6_init_1 4 rfl rfl)
theorem dX6_init_27 : decode cX6_init 27 = .ok (.putfield 22, 3) := dk_181 0 22 (dk_at dksX6_init_1 5 rfl rfl)
theorem dX6_init_30 : decode cX6_init 30 = .ok (.return_, 1) := dk_177 (dk_at dksX6_init_1 8 rfl rfl)
abbrev cX6_top : ByteArray := prog_9_method_4_code
def yX6_top : MethodName := ⟨RX6, "top", "()I"⟩
def dkwX6_top_0 : List UInt8 := [42, 180, 0, 40, 42, 180, 0, 43, 96, 172]
abbrev dktX6_top_0 : List UInt8 := dkwX6_top_0 ++ []
theorem dksX6_top_0 : cX6_top.data.toList.drop 0 = dktX6_top_0 := by decide +kernel
theorem dX6_top_0 : decode cX6_top 0 = .ok (.aload_n 0, 1) := dk_42 (dk_at dksX6_top_0 0 rfl rfl)
theorem dX6_top_1 : decode cX6_top 1 = .ok (.getfield 40, 3) := dk_180 0 40 (dk_at dksX6_top_0 1 rfl rfl)
theorem dX6_top_4 : decode cX6_top 4 = .ok (.aload_n 0, 1) := dk_42 (dk_at dksX6_top_0 4 rfl rfl)
theorem dX6_top_5 : decode cX6_top 5 = .ok (.getfield 43, 3) := dk_180 0 43 (dk_at dksX6_top_0 5 rfl rfl)
theorem dX6_top_8 : decode cX6_top 8 = .ok (.iadd, 1) := dk_96 (dk_at dksX6_top_0 8 rfl rfl)
theorem dX6_top_9 : decode cX6_top 9 = .ok (.ireturn, 1) := dk_172 (dk_at dksX6_top_0 9 rfl rfl)
abbrev cX6_left : ByteArray := prog_9_method_5_code
def yX6_left : MethodName := ⟨RX6, "left", "()J"⟩
def dkwX6_left_0 : List UInt8 := [42, 180, 0, 43, 133, 42, 180, 0, 46, 133, 105, 42, 180, 0, 30, 101, 173]
abbrev dktX6_left_0 : List UInt8 := dkwX6_left_0 ++ []
theorem dksX6_left_0 : cX6_left.data.toList.drop 0 = dktX6_left_0 := by decide +kernel
theorem dX6_left_0 : decode cX6_left 0 = .ok (.aload_n 0, 1) := dk_42 (dk_at dksX6_left_0 0 rfl rfl)
theorem dX6_left_1 : decode cX6_left 1 = .ok (.getfield 43, 3) := dk_180 0 43 (dk_at dksX6_left_0 1 rfl rfl)
theorem dX6_left_4 : decode cX6_left 4 = .ok (.i2l, 1) := dk_133 (dk_at dksX6_left_0 4 rfl rfl)
theorem dX6_left_5 : decode cX6_left 5 = .ok (.aload_n 0, 1) := dk_42 (dk_at dksX6_left_0 5 rfl rfl)
theorem dX6_left_6 : decode cX6_left 6 = .ok (.getfield 46, 3) := dk_180 0 46 (dk_at dksX6_left_0 6 rfl rfl)
theorem dX6_left_9 : decode cX6_left 9 = .ok (.i2l, 1) := dk_133 (dk_at dksX6_left_0 9 rfl rfl)
theorem dX6_left_10 : decode cX6_left 10 = .ok (.lmul, 1) := dk_105 (dk_at dksX6_left_0 10 rfl rfl)
theorem dX6_left_11 : decode cX6_left 11 = .ok (.aload_n 0, 1) := dk_42 (dk_at dksX6_left_0 11 rfl rfl)
theorem dX6_left_12 : decode cX6_left 12 = .ok (.getfield 30, 3) := dk_180 0 30 (dk_at dksX6_left_0 12 rfl rfl)
theorem dX6_left_15 : decode cX6_left 15 = .ok (.lsub, 1) := dk_101 (dk_at dksX6_left_0 15 rfl rfl)
theorem dX6_left_16 : decode cX6_left 16 = .ok (.lreturn, 1) := dk_173 (dk_at dksX6_left_0 16 rfl rfl)
abbrev cX6_begins : ByteArray := prog_9_method_2_code
def yX6_begins : MethodName := ⟨RX6, "begins", "()V"⟩
def dkwX6_begins_0 : List UInt8 := [42, 3, 181, 0, 26, 42, 9, 181, 0, 30, 42, 3, 181, 0, 34, 177]
abbrev dktX6_begins_0 : List UInt8 := dkwX6_begins_0 ++ []
theorem dksX6_begins_0 : cX6_begins.data.toList.drop 0 = dktX6_begins_0 := by decide +kernel
theorem dX6_begins_0 : decode cX6_begins 0 = .ok (.aload_n 0, 1) := dk_42 (dk_at dksX6_begins_0 0 rfl rfl)
theorem dX6_begins_1 : decode cX6_begins 1 = .ok (.iconst 0, 1) := dk_3 (dk_at dksX6_begins_0 1 rfl rfl)
theorem dX6_begins_2 : decode cX6_begins 2 = .ok (.putfield 26, 3) := dk_181 0 26 (dk_at dksX6_begins_0 2 rfl rfl)
theorem dX6_begins_5 : decode cX6_begins 5 = .ok (.aload_n 0, 1) := dk_42 (dk_at dksX6_begins_0 5 rfl rfl)
theorem dX6_begins_6 : decode cX6_begins 6 = .ok (.lconst 0, 1) := dk_9 (dk_at dksX6_begins_0 6 rfl rfl)
theorem dX6_begins_7 : decode cX6_begins 7 = .ok (.putfield 30, 3) := dk_181 0 30 (dk_at dksX6_begins_0 7 rfl rfl)
theorem dX6_begins_10 : decode cX6_begins 10 = .ok (.aload_n 0, 1) := dk_42 (dk_at dksX6_begins_0 10 rfl rfl)
theorem dX6_begins_11 : decode cX6_begins 11 = .ok (.iconst 0, 1) := dk_3 (dk_at dksX6_begins_0 11 rfl rfl)
theorem dX6_begins_12 : decode cX6_begins 12 = .ok (.putfield 34, 3) := dk_181 0 34 (dk_at dksX6_begins_0 12 rfl rfl)
theorem dX6_begins_15 : decode cX6_begins 15 = .ok (.return_, 1) := dk_177 (dk_at dksX6_begins_0 15 rfl rfl)
abbrev cX6_meets : ByteArray := prog_9_method_8_code
def yX6_meets : MethodName := ⟨RX6, "meets", "(II)Z"⟩
def dkwX6_meets_0 : List UInt8 := [42, 180, 0, 40, 27, 28, 96, 162, 0, 15, 27, 42, 182, 0, 49, 162, 0, 7, 4, 167, 0, 4, 3, 172]
abbrev dktX6_meets_0 : List UInt8 := dkwX6_meets_0 ++ []
theorem dksX6_meets_0 : cX6_meets.data.toList.drop 0 = dktX6_meets_0 := by decide +kernel
theorem dX6_meets_0 : decode cX6_meets 0 = .ok (.aload_n 0, 1) := dk_42 (dk_at dksX6_meets_0 0 rfl rfl)
theorem dX6_meets_1 : decode cX6_meets 1 = .ok (.getfield 40, 3) := dk_180 0 40 (dk_at dksX6_meets_0 1 rfl rfl)
theorem dX6_meets_4 : decode cX6_meets 4 = .ok (.iload_n 1, 1) := dk_27 (dk_at dksX6_meets_0 4 rfl rfl)
theorem dX6_meets_5 : decode cX6_meets 5 = .ok (.iload_n 2, 1) := dk_28 (dk_at dksX6_meets_0 5 rfl rfl)
theorem dX6_meets_6 : decode cX6_meets 6 = .ok (.iadd, 1) := dk_96 (dk_at dksX6_meets_0 6 rfl rfl)
theorem dX6_meets_7 : decode cX6_meets 7 = .ok (.if_icmp .ge 15, 3) := dk_162 0 15 (dk_at dksX6_meets_0 7 rfl rfl)
theorem dX6_meets_10 : decode cX6_meets 10 = .ok (.iload_n 1, 1) := dk_27 (dk_at dksX6_meets_0 10 rfl rfl)
theorem dX6_meets_11 : decode cX6_meets 11 = .ok (.aload_n 0, 1) := dk_42 (dk_at dksX6_meets_0 11 rfl rfl)
theorem dX6_meets_12 : decode cX6_meets 12 = .ok (.invokevirtual 49, 3) := dk_182 0 49 (dk_at dksX6_meets_0 12 rfl rfl)
theorem dX6_meets_15 : decode cX6_meets 15 = .ok (.if_icmp .ge 7, 3) := dk_162 0 7 (dk_at dksX6_meets_0 15 rfl rfl)
theorem dX6_meets_18 : decode cX6_meets 18 = .ok (.iconst 1, 1) := dk_4 (dk_at dksX6_meets_0 18 rfl rfl)
theorem dX6_meets_19 : decode cX6_meets 19 = .ok (.goto 4, 3) := dk_167 0 4 (dk_at dksX6_meets_0 19 rfl rfl)
theorem dX6_meets_22 : decode cX6_meets 22 = .ok (.iconst 0, 1) := dk_3 (dk_at dksX6_meets_0 22 rfl rfl)
theorem dX6_meets_23 : decode cX6_meets 23 = .ok (.ireturn, 1) := dk_172 (dk_at dksX6_meets_0 23 rfl rfl)
abbrev cX6_lies : ByteArray := prog_9_method_3_code
def yX6_lies : MethodName := ⟨RX6, "lies", "(IIII)V"⟩
def dkwX6_lies_1 : List UInt8 := [181, 0, 46, 177]
abbrev dktX6_lies_1 : List UInt8 := dkwX6_lies_1 ++ []
def dkwX6_lies_0 : List UInt8 := [42, 4, 181, 0, 26, 42, 27, 181, 0, 37, 42, 28, 181, 0, 40, 42, 29, 181, 0, 43, 42, 21, 4]
abbrev dktX6_lies_0 : List UInt8 := dkwX6_lies_0 ++ dktX6_lies_1
theorem dksX6_lies_0 : cX6_lies.data.toList.drop 0 = dktX6_lies_0 := by decide +kernel
theorem dksX6_lies_1 : cX6_lies.data.toList.drop 23 = dktX6_lies_1 := dk_seg dksX6_lies_0 23 rfl rfl
theorem dX6_lies_0 : decode cX6_lies 0 = .ok (.aload_n 0, 1) := dk_42 (dk_at dksX6_lies_0 0 rfl rfl)
theorem dX6_lies_1 : decode cX6_lies 1 = .ok (.iconst 1, 1) := dk_4 (dk_at dksX6_lies_0 1 rfl rfl)
theorem dX6_lies_2 : decode cX6_lies 2 = .ok (.putfield 26, 3) := dk_181 0 26 (dk_at dksX6_lies_0 2 rfl rfl)
theorem dX6_lies_5 : decode cX6_lies 5 = .ok (.aload_n 0, 1) := dk_42 (dk_at dksX6_lies_0 5 rfl rfl)
theorem dX6_lies_6 : decode cX6_lies 6 = .ok (.iload_n 1, 1) := dk_27 (dk_at dksX6_lies_0 6 rfl rfl)
theorem dX6_lies_7 : decode cX6_lies 7 = .ok (.putfield 37, 3) := dk_181 0 37 (dk_at dksX6_lies_0 7 rfl rfl)
theorem dX6_lies_10 : decode cX6_lies 10 = .ok (.aload_n 0, 1) := dk_42 (dk_at dksX6_lies_0 10 rfl rfl)
theorem dX6_lies_11 : decode cX6_lies 11 = .ok (.iload_n 2, 1) := dk_28 (dk_at dksX6_lies_0 11 rfl rfl)
theorem dX6_lies_12 : decode cX6_lies 12 = .ok (.putfield 40, 3) := dk_181 0 40 (dk_at dksX6_lies_0 12 rfl rfl)
theorem dX6_lies_15 : decode cX6_lies 15 = .ok (.aload_n 0, 1) := dk_42 (dk_at dksX6_lies_0 15 rfl rfl)
theorem dX6_lies_16 : decode cX6_lies 16 = .ok (.iload_n 3, 1) := dk_29 (dk_at dksX6_lies_0 16 rfl rfl)
theorem dX6_lies_17 : decode cX6_lies 17 = .ok (.putfield 43, 3) := dk_181 0 43 (dk_at dksX6_lies_0 17 rfl rfl)
theorem dX6_lies_20 : decode cX6_lies 20 = .ok (.aload_n 0, 1) := dk_42 (dk_at dksX6_lies_0 20 rfl rfl)
theorem dX6_lies_21 : decode cX6_lies 21 = .ok (.iload 4, 2) := dk_21 4 (dk_at dksX6_lies_0 21 rfl rfl)
theorem dX6_lies_23 : decode cX6_lies 23 = .ok (.putfield 46, 3) := dk_181 0 46 (dk_at dksX6_lies_1 0 rfl rfl)
theorem dX6_lies_26 : decode cX6_lies 26 = .ok (.return_, 1) := dk_177 (dk_at dksX6_lies_1 3 rfl rfl)
abbrev cX6_tenthsOf : ByteArray := prog_9_method_7_code
def yX6_tenthsOf : MethodName := ⟨RX6, "tenthsOf", "(I)I"⟩
def dkwX6_tenthsOf_1 : List UInt8 := [28, 46, 172, 132, 2, 1, 167, 255, 228, 3, 172]
abbrev dktX6_tenthsOf_1 : List UInt8 := dkwX6_tenthsOf_1 ++ []
def dkwX6_tenthsOf_0 : List UInt8 := [3, 61, 28, 42, 180, 0, 34, 162, 0, 26, 42, 180, 0, 9, 28, 46, 27, 160, 0, 10, 42, 180, 0, 15]
abbrev dktX6_tenthsOf_0 : List UInt8 := dkwX6_tenthsOf_0 ++ dktX6_tenthsOf_1
theorem dksX6_tenthsOf_0 : cX6_tenthsOf.data.toList.drop 0 = dktX6_tenthsOf_0 := by decide +kernel
theorem dksX6_tenthsOf_1 : cX6_tenthsOf.data.toList.drop 24 = dktX6_tenthsOf_1 := dk_seg dksX6_tenthsOf_0 24 rfl rfl
theorem dX6_tenthsOf_0 : decode cX6_tenthsOf 0 = .ok (.iconst 0, 1) := dk_3 (dk_at dksX6_tenthsOf_0 0 rfl rfl)
theorem dX6_tenthsOf_1 : decode cX6_tenthsOf 1 = .ok (.istore_n 2, 1) := dk_61 (dk_at dksX6_tenthsOf_0 1 rfl rfl)
theorem dX6_tenthsOf_2 : decode cX6_tenthsOf 2 = .ok (.iload_n 2, 1) := dk_28 (dk_at dksX6_tenthsOf_0 2 rfl rfl)
theorem dX6_tenthsOf_3 : decode cX6_tenthsOf 3 = .ok (.aload_n 0, 1) := dk_42 (dk_at dksX6_tenthsOf_0 3 rfl rfl)
theorem dX6_tenthsOf_4 : decode cX6_tenthsOf 4 = .ok (.getfield 34, 3) := dk_180 0 34 (dk_at dksX6_tenthsOf_0 4 rfl rfl)
theorem dX6_tenthsOf_7 : decode cX6_tenthsOf 7 = .ok (.if_icmp .ge 26, 3) := dk_162 0 26 (dk_at dksX6_tenthsOf_0 7 rfl rfl)
theorem dX6_tenthsOf_10 : decode cX6_tenthsOf 10 = .ok (.aload_n 0, 1) := dk_42 (dk_at dksX6_tenthsOf_0 10 rfl rfl)
theorem dX6_tenthsOf_11 : decode cX6_tenthsOf 11 = .ok (.getfield 9, 3) := dk_180 0 9 (dk_at dksX6_tenthsOf_0 11 rfl rfl)
theorem dX6_tenthsOf_14 : decode cX6_tenthsOf 14 = .ok (.iload_n 2, 1) := dk_28 (dk_at dksX6_tenthsOf_0 14 rfl rfl)
theorem dX6_tenthsOf_15 : decode cX6_tenthsOf 15 = .ok (.iaload, 1) := dk_46 (dk_at dksX6_tenthsOf_0 15 rfl rfl)
theorem dX6_tenthsOf_16 : decode cX6_tenthsOf 16 = .ok (.iload_n 1, 1) := dk_27 (dk_at dksX6_tenthsOf_0 16 rfl rfl)
theorem dX6_tenthsOf_17 : decode cX6_tenthsOf 17 = .ok (.if_icmp .ne 10, 3) := dk_160 0 10 (dk_at dksX6_tenthsOf_0 17 rfl rfl)
theorem dX6_tenthsOf_20 : decode cX6_tenthsOf 20 = .ok (.aload_n 0, 1) := dk_42 (dk_at dksX6_tenthsOf_0 20 rfl rfl)
theorem dX6_tenthsOf_21 : decode cX6_tenthsOf 21 = .ok (.getfield 15, 3) := dk_180 0 15 (dk_at dksX6_tenthsOf_0 21 rfl rfl)
theorem dX6_tenthsOf_24 : decode cX6_tenthsOf 24 = .ok (.iload_n 2, 1) := dk_28 (dk_at dksX6_tenthsOf_1 0 rfl rfl)
theorem dX6_tenthsOf_25 : decode cX6_tenthsOf 25 = .ok (.iaload, 1) := dk_46 (dk_at dksX6_tenthsOf_1 1 rfl rfl)
theorem dX6_tenthsOf_26 : decode cX6_tenthsOf 26 = .ok (.ireturn, 1) := dk_172 (dk_at dksX6_tenthsOf_1 2 rfl rfl)
theorem dX6_tenthsOf_27 : decode cX6_tenthsOf 27 = .ok (.iinc 2 1, 3) := dk_132 2 1 (dk_at dksX6_tenthsOf_1 3 rfl rfl)
theorem dX6_tenthsOf_30 : decode cX6_tenthsOf 30 = .ok (.goto (-28), 3) := dk_167 255 228 (dk_at dksX6_tenthsOf_1 6 rfl rfl)
theorem dX6_tenthsOf_33 : decode cX6_tenthsOf 33 = .ok (.iconst 0, 1) := dk_3 (dk_at dksX6_tenthsOf_1 9 rfl rfl)
theorem dX6_tenthsOf_34 : decode cX6_tenthsOf 34 = .ok (.ireturn, 1) := dk_172 (dk_at dksX6_tenthsOf_1 10 rfl rfl)
abbrev cX6_allTenths : ByteArray := prog_9_method_6_code
def yX6_allTenths : MethodName := ⟨RX6, "allTenths", "()I"⟩
def dkwX6_allTenths_1 : List UInt8 := [167, 255, 236, 27, 172]
abbrev dktX6_allTenths_1 : List UInt8 := dkwX6_allTenths_1 ++ []
def dkwX6_allTenths_0 : List UInt8 := [3, 60, 3, 61, 28, 42, 180, 0, 34, 162, 0, 18, 27, 42, 180, 0, 15, 28, 46, 96, 60, 132, 2, 1]
abbrev dktX6_allTenths_0 : List UInt8 := dkwX6_allTenths_0 ++ dktX6_allTenths_1
theorem dksX6_allTenths_0 : cX6_allTenths.data.toList.drop 0 = dktX6_allTenths_0 := by decide +kernel
theorem dksX6_allTenths_1 : cX6_allTenths.data.toList.drop 24 = dktX6_allTenths_1 := dk_seg dksX6_allTenths_0 24 rfl rfl
theorem dX6_allTenths_0 : decode cX6_allTenths 0 = .ok (.iconst 0, 1) := dk_3 (dk_at dksX6_allTenths_0 0 rfl rfl)
theorem dX6_allTenths_1 : decode cX6_allTenths 1 = .ok (.istore_n 1, 1) := dk_60 (dk_at dksX6_allTenths_0 1 rfl rfl)
theorem dX6_allTenths_2 : decode cX6_allTenths 2 = .ok (.iconst 0, 1) := dk_3 (dk_at dksX6_allTenths_0 2 rfl rfl)
theorem dX6_allTenths_3 : decode cX6_allTenths 3 = .ok (.istore_n 2, 1) := dk_61 (dk_at dksX6_allTenths_0 3 rfl rfl)
theorem dX6_allTenths_4 : decode cX6_allTenths 4 = .ok (.iload_n 2, 1) := dk_28 (dk_at dksX6_allTenths_0 4 rfl rfl)
theorem dX6_allTenths_5 : decode cX6_allTenths 5 = .ok (.aload_n 0, 1) := dk_42 (dk_at dksX6_allTenths_0 5 rfl rfl)
theorem dX6_allTenths_6 : decode cX6_allTenths 6 = .ok (.getfield 34, 3) := dk_180 0 34 (dk_at dksX6_allTenths_0 6 rfl rfl)
theorem dX6_allTenths_9 : decode cX6_allTenths 9 = .ok (.if_icmp .ge 18, 3) := dk_162 0 18 (dk_at dksX6_allTenths_0 9 rfl rfl)
theorem dX6_allTenths_12 : decode cX6_allTenths 12 = .ok (.iload_n 1, 1) := dk_27 (dk_at dksX6_allTenths_0 12 rfl rfl)
theorem dX6_allTenths_13 : decode cX6_allTenths 13 = .ok (.aload_n 0, 1) := dk_42 (dk_at dksX6_allTenths_0 13 rfl rfl)
theorem dX6_allTenths_14 : decode cX6_allTenths 14 = .ok (.getfield 15, 3) := dk_180 0 15 (dk_at dksX6_allTenths_0 14 rfl rfl)
theorem dX6_allTenths_17 : decode cX6_allTenths 17 = .ok (.iload_n 2, 1) := dk_28 (dk_at dksX6_allTenths_0 17 rfl rfl)
theorem dX6_allTenths_18 : decode cX6_allTenths 18 = .ok (.iaload, 1) := dk_46 (dk_at dksX6_allTenths_0 18 rfl rfl)
theorem dX6_allTenths_19 : decode cX6_allTenths 19 = .ok (.iadd, 1) := dk_96 (dk_at dksX6_allTenths_0 19 rfl rfl)
theorem dX6_allTenths_20 : decode cX6_allTenths 20 = .ok (.istore_n 1, 1) := dk_60 (dk_at dksX6_allTenths_0 20 rfl rfl)
theorem dX6_allTenths_21 : decode cX6_allTenths 21 = .ok (.iinc 2 1, 3) := dk_132 2 1 (dk_at dksX6_allTenths_0 21 rfl rfl)
theorem dX6_allTenths_24 : decode cX6_allTenths 24 = .ok (.goto (-20), 3) := dk_167 255 236 (dk_at dksX6_allTenths_1 0 rfl rfl)
theorem dX6_allTenths_27 : decode cX6_allTenths 27 = .ok (.iload_n 1, 1) := dk_27 (dk_at dksX6_allTenths_1 3 rfl rfl)
theorem dX6_allTenths_28 : decode cX6_allTenths 28 = .ok (.ireturn, 1) := dk_172 (dk_at dksX6_allTenths_1 4 rfl rfl)
abbrev cX6_isSignedBy : ByteArray := prog_9_method_9_code
def yX6_isSignedBy : MethodName := ⟨RX6, "isSignedBy", "(II)V"⟩
def dkwX6_isSignedBy_1 : List UInt8 := [42, 180, 0, 34, 9, 80, 42, 89, 180, 0, 34, 4, 96, 181, 0, 34, 177]
abbrev dktX6_isSignedBy_1 : List UInt8 := dkwX6_isSignedBy_1 ++ []
def dkwX6_isSignedBy_0 : List UInt8 := [42, 180, 0, 9, 42, 180, 0, 34, 27, 79, 42, 180, 0, 15, 42, 180, 0, 34, 28, 79, 42, 180, 0, 18]
abbrev dktX6_isSignedBy_0 : List UInt8 := dkwX6_isSignedBy_0 ++ dktX6_isSignedBy_1
theorem dksX6_isSignedBy_0 : cX6_isSignedBy.data.toList.drop 0 = dktX6_isSignedBy_0 := by decide +kernel
theorem dksX6_isSignedBy_1 : cX6_isSignedBy.data.toList.drop 24 = dktX6_isSignedBy_1 := dk_seg dksX6_isSignedBy_0 24 rfl rfl
theorem dX6_isSignedBy_0 : decode cX6_isSignedBy 0 = .ok (.aload_n 0, 1) := dk_42 (dk_at dksX6_isSignedBy_0 0 rfl rfl)
theorem dX6_isSignedBy_1 : decode cX6_isSignedBy 1 = .ok (.getfield 9, 3) := dk_180 0 9 (dk_at dksX6_isSignedBy_0 1 rfl rfl)
theorem dX6_isSignedBy_4 : decode cX6_isSignedBy 4 = .ok (.aload_n 0, 1) := dk_42 (dk_at dksX6_isSignedBy_0 4 rfl rfl)
theorem dX6_isSignedBy_5 : decode cX6_isSignedBy 5 = .ok (.getfield 34, 3) := dk_180 0 34 (dk_at dksX6_isSignedBy_0 5 rfl rfl)
theorem dX6_isSignedBy_8 : decode cX6_isSignedBy 8 = .ok (.iload_n 1, 1) := dk_27 (dk_at dksX6_isSignedBy_0 8 rfl rfl)
theorem dX6_isSignedBy_9 : decode cX6_isSignedBy 9 = .ok (.iastore, 1) := dk_79 (dk_at dksX6_isSignedBy_0 9 rfl rfl)
theorem dX6_isSignedBy_10 : decode cX6_isSignedBy 10 = .ok (.aload_n 0, 1) := dk_42 (dk_at dksX6_isSignedBy_0 10 rfl rfl)
theorem dX6_isSignedBy_11 : decode cX6_isSignedBy 11 = .ok (.getfield 15, 3) := dk_180 0 15 (dk_at dksX6_isSignedBy_0 11 rfl rfl)
theorem dX6_isSignedBy_14 : decode cX6_isSignedBy 14 = .ok (.aload_n 0, 1) := dk_42 (dk_at dksX6_isSignedBy_0 14 rfl rfl)
theorem dX6_isSignedBy_15 : decode cX6_isSignedBy 15 = .ok (.getfield 34, 3) := dk_180 0 34 (dk_at dksX6_isSignedBy_0 15 rfl rfl)
theorem dX6_isSignedBy_18 : decode cX6_isSignedBy 18 = .ok (.iload_n 2, 1) := dk_28 (dk_at dksX6_isSignedBy_0 18 rfl rfl)
theorem dX6_isSignedBy_19 : decode cX6_isSignedBy 19 = .ok (.iastore, 1) := dk_79 (dk_at dksX6_isSignedBy_0 19 rfl rfl)
theorem dX6_isSignedBy_20 : decode cX6_isSignedBy 20 = .ok (.aload_n 0, 1) := dk_42 (dk_at dksX6_isSignedBy_0 20 rfl rfl)
theorem dX6_isSignedBy_21 : decode cX6_isSignedBy 21 = .ok (.getfield 18, 3) := dk_180 0 18 (dk_at dksX6_isSignedBy_0 21 rfl rfl)
theorem dX6_isSignedBy_24 : decode cX6_isSignedBy 24 = .ok (.aload_n 0, 1) := dk_42 (dk_at dksX6_isSignedBy_1 0 rfl rfl)
theorem dX6_isSignedBy_25 : decode cX6_isSignedBy 25 = .ok (.getfield 34, 3) := dk_180 0 34 (dk_at dksX6_isSignedBy_1 1 rfl rfl)
theorem dX6_isSignedBy_28 : decode cX6_isSignedBy 28 = .ok (.lconst 0, 1) := dk_9 (dk_at dksX6_isSignedBy_1 4 rfl rfl)
theorem dX6_isSignedBy_29 : decode cX6_isSignedBy 29 = .ok (.lastore, 1) := dk_80 (dk_at dksX6_isSignedBy_1 5 rfl rfl)
theorem dX6_isSignedBy_30 : decode cX6_isSignedBy 30 = .ok (.aload_n 0, 1) := dk_42 (dk_at dksX6_isSignedBy_1 6 rfl rfl)
theorem dX6_isSignedBy_31 : decode cX6_isSignedBy 31 = .ok (.dup, 1) := dk_89 (dk_at dksX6_isSignedBy_1 7 rfl rfl)
theorem dX6_isSignedBy_32 : decode cX6_isSignedBy 32 = .ok (.getfield 34, 3) := dk_180 0 34 (dk_at dksX6_isSignedBy_1 8 rfl rfl)
theorem dX6_isSignedBy_35 : decode cX6_isSignedBy 35 = .ok (.iconst 1, 1) := dk_4 (dk_at dksX6_isSignedBy_1 11 rfl rfl)
theorem dX6_isSignedBy_36 : decode cX6_isSignedBy 36 = .ok (.iadd, 1) := dk_96 (dk_at dksX6_isSignedBy_1 12 rfl rfl)
theorem dX6_isSignedBy_37 : decode cX6_isSignedBy 37 = .ok (.putfield 34, 3) := dk_181 0 34 (dk_at dksX6_isSignedBy_1 13 rfl rfl)
theorem dX6_isSignedBy_40 : decode cX6_isSignedBy 40 = .ok (.return_, 1) := dk_177 (dk_at dksX6_isSignedBy_1 16 rfl rfl)
theorem q139 : (Jvm.Cond.initialized "TallTowers$Layer") ∈ lw_all := lw_g (lw_at lw_m1 13 rfl) rfl
theorem q333 : (Jvm.Cond.instantiable "TallTowers$Layer" (11 : Nat)) ∈ lw_all := lw_g (lw_at lw_m1 207 rfl) rfl
theorem q335 : (Jvm.Cond.instanceMethod ({ cls := "TallTowers$Layer", name := "<init>", desc := "(I)V" } : Jvm.MethodName)) ∈ lw_all := lw_g (lw_at lw_m1 209 rfl) rfl
theorem q336 : (Jvm.Cond.code ({ cls := "TallTowers$Layer", name := "<init>", desc := "(I)V" } : Jvm.MethodName) prog_9_method_1_code (2 : Nat) (Option.none : Option Jvm.ClassFile.FieldType)) ∈ lw_all := lw_g (lw_at lw_m1 210 rfl) rfl
theorem q337 : (Jvm.Cond.methodLink "TallTowers$Layer" (3 : Nat) ({ cls := "java/lang/Object", name := "<init>", desc := "()V" } : Jvm.MethodName)) ∈ lw_all := lw_g (lw_at lw_m1 211 rfl) rfl
theorem q338 : (Jvm.Cond.fieldLink "TallTowers$Layer" (9 : Nat) "TallTowers$Layer" "who" "[I") ∈ lw_all := lw_g (lw_at lw_m1 212 rfl) rfl
theorem q341 : (Jvm.Cond.fieldLink "TallTowers$Layer" (15 : Nat) "TallTowers$Layer" "tenths" "[I") ∈ lw_all := lw_g (lw_at lw_m1 215 rfl) rfl
theorem q344 : (Jvm.Cond.fieldLink "TallTowers$Layer" (18 : Nat) "TallTowers$Layer" "had" "[J") ∈ lw_all := lw_g (lw_at lw_m1 218 rfl) rfl
theorem q347 : (Jvm.Cond.fieldLink "TallTowers$Layer" (22 : Nat) "TallTowers$Layer" "number" "I") ∈ lw_all := lw_g (lw_at lw_m1 221 rfl) rfl
theorem q350 : (Jvm.Cond.fieldLink "TallTowers$Layer" (37 : Nat) "TallTowers$Layer" "year" "I") ∈ lw_all := lw_g (lw_at lw_m1 224 rfl) rfl
theorem q353 : (Jvm.Cond.fieldLink "TallTowers$Layer" (40 : Nat) "TallTowers$Layer" "from" "I") ∈ lw_all := lw_g (lw_at lw_m1 227 rfl) rfl
theorem q356 : (Jvm.Cond.fieldLink "TallTowers$Layer" (43 : Nat) "TallTowers$Layer" "size" "I") ∈ lw_all := lw_g (lw_at lw_m1 230 rfl) rfl
theorem q359 : (Jvm.Cond.fieldLink "TallTowers$Layer" (46 : Nat) "TallTowers$Layer" "times" "I") ∈ lw_all := lw_g (lw_at lw_m1 233 rfl) rfl
theorem q361 : (Jvm.Cond.fieldLink "TallTowers$Layer" (34 : Nat) "TallTowers$Layer" "signers" "I") ∈ lw_all := lw_g (lw_at lw_m1 235 rfl) rfl
theorem q364 : (Jvm.Cond.fieldLink "TallTowers$Layer" (30 : Nat) "TallTowers$Layer" "used" "J") ∈ lw_all := lw_g (lw_at lw_m1 238 rfl) rfl
theorem q367 : (Jvm.Cond.fieldLink "TallTowers$Layer" (26 : Nat) "TallTowers$Layer" "isThere" "Z") ∈ lw_all := lw_g (lw_at lw_m2 1 rfl) rfl
theorem q370 : (Jvm.Cond.laysFinal "TallTowers$Layer" "TallTowers$Layer" "who" "[I") ∈ lw_all := lw_g (lw_at lw_m2 4 rfl) rfl
theorem q371 : (Jvm.Cond.soleField "TallTowers$Layer" "who") ∈ lw_all := lw_g (lw_at lw_m2 5 rfl) rfl
theorem q372 : (Jvm.Cond.laysFinal "TallTowers$Layer" "TallTowers$Layer" "tenths" "[I") ∈ lw_all := lw_g (lw_at lw_m2 6 rfl) rfl
theorem q373 : (Jvm.Cond.soleField "TallTowers$Layer" "tenths") ∈ lw_all := lw_g (lw_at lw_m2 7 rfl) rfl
theorem q374 : (Jvm.Cond.laysFinal "TallTowers$Layer" "TallTowers$Layer" "had" "[J") ∈ lw_all := lw_g (lw_at lw_m2 8 rfl) rfl
theorem q375 : (Jvm.Cond.soleField "TallTowers$Layer" "had") ∈ lw_all := lw_g (lw_at lw_m2 9 rfl) rfl
theorem q376 : (Jvm.Cond.laysFinal "TallTowers$Layer" "TallTowers$Layer" "number" "I") ∈ lw_all := lw_g (lw_at lw_m2 10 rfl) rfl
theorem q377 : (Jvm.Cond.soleField "TallTowers$Layer" "number") ∈ lw_all := lw_g (lw_at lw_m2 11 rfl) rfl
theorem q378 : (Jvm.Cond.lays "TallTowers$Layer" "TallTowers$Layer" "year" "I") ∈ lw_all := lw_g (lw_at lw_m2 12 rfl) rfl
theorem q379 : (Jvm.Cond.soleField "TallTowers$Layer" "year") ∈ lw_all := lw_g (lw_at lw_m2 13 rfl) rfl
theorem q380 : (Jvm.Cond.lays "TallTowers$Layer" "TallTowers$Layer" "from" "I") ∈ lw_all := lw_g (lw_at lw_m2 14 rfl) rfl
theorem q381 : (Jvm.Cond.soleField "TallTowers$Layer" "from") ∈ lw_all := lw_g (lw_at lw_m2 15 rfl) rfl
theorem q382 : (Jvm.Cond.lays "TallTowers$Layer" "TallTowers$Layer" "size" "I") ∈ lw_all := lw_g (lw_at lw_m2 16 rfl) rfl
theorem q383 : (Jvm.Cond.soleField "TallTowers$Layer" "size") ∈ lw_all := lw_g (lw_at lw_m2 17 rfl) rfl
theorem q384 : (Jvm.Cond.lays "TallTowers$Layer" "TallTowers$Layer" "times" "I") ∈ lw_all := lw_g (lw_at lw_m2 18 rfl) rfl
theorem q385 : (Jvm.Cond.soleField "TallTowers$Layer" "times") ∈ lw_all := lw_g (lw_at lw_m2 19 rfl) rfl
theorem q386 : (Jvm.Cond.lays "TallTowers$Layer" "TallTowers$Layer" "signers" "I") ∈ lw_all := lw_g (lw_at lw_m2 20 rfl) rfl
theorem q387 : (Jvm.Cond.soleField "TallTowers$Layer" "signers") ∈ lw_all := lw_g (lw_at lw_m2 21 rfl) rfl
theorem q388 : (Jvm.Cond.lays "TallTowers$Layer" "TallTowers$Layer" "used" "J") ∈ lw_all := lw_g (lw_at lw_m2 22 rfl) rfl
theorem q389 : (Jvm.Cond.soleField "TallTowers$Layer" "used") ∈ lw_all := lw_g (lw_at lw_m2 23 rfl) rfl
theorem q390 : (Jvm.Cond.lays "TallTowers$Layer" "TallTowers$Layer" "isThere" "Z") ∈ lw_all := lw_g (lw_at lw_m2 24 rfl) rfl
theorem q391 : (Jvm.Cond.soleField "TallTowers$Layer" "isThere") ∈ lw_all := lw_g (lw_at lw_m2 25 rfl) rfl
theorem q392 : (Jvm.Cond.superclass "TallTowers$Layer" "java/lang/Object") ∈ lw_all := lw_g (lw_at lw_m2 26 rfl) rfl
theorem q501 : (Jvm.Cond.instanceMethod ({ cls := "TallTowers$Layer", name := "top", desc := "()I" } : Jvm.MethodName)) ∈ lw_all := lw_g (lw_at lw_m2 135 rfl) rfl
theorem q502 : (Jvm.Cond.selects "TallTowers$Layer" ({ cls := "TallTowers$Layer", name := "top", desc := "()I" } : Jvm.MethodName) ({ cls := "TallTowers$Layer", name := "top", desc := "()I" } : Jvm.MethodName)) ∈ lw_all := lw_g (lw_at lw_m2 136 rfl) rfl
theorem q503 : (Jvm.Cond.code ({ cls := "TallTowers$Layer", name := "top", desc := "()I" } : Jvm.MethodName) prog_9_method_4_code (1 : Nat) (Option.some Jvm.ClassFile.FieldType.int)) ∈ lw_all := lw_g (lw_at lw_m2 137 rfl) rfl
theorem q515 : (Jvm.Cond.instanceMethod ({ cls := "TallTowers$Layer", name := "left", desc := "()J" } : Jvm.MethodName)) ∈ lw_all := lw_g (lw_at lw_m2 149 rfl) rfl
theorem q516 : (Jvm.Cond.selects "TallTowers$Layer" ({ cls := "TallTowers$Layer", name := "left", desc := "()J" } : Jvm.MethodName) ({ cls := "TallTowers$Layer", name := "left", desc := "()J" } : Jvm.MethodName)) ∈ lw_all := lw_g (lw_at lw_m2 150 rfl) rfl
theorem q517 : (Jvm.Cond.code ({ cls := "TallTowers$Layer", name := "left", desc := "()J" } : Jvm.MethodName) prog_9_method_5_code (1 : Nat) (Option.some Jvm.ClassFile.FieldType.long)) ∈ lw_all := lw_g (lw_at lw_m2 151 rfl) rfl
theorem q594 : (Jvm.Cond.selects "TallTowers$Layer" ({ cls := "java/lang/Object", name := "getClass", desc := "()Ljava/lang/Class;" } : Jvm.MethodName) ({ cls := "java/lang/Object", name := "getClass", desc := "()Ljava/lang/Class;" } : Jvm.MethodName)) ∈ lw_all := lw_g (lw_at lw_m2 228 rfl) rfl
theorem q874 : (Jvm.Cond.instanceMethod ({ cls := "TallTowers$Layer", name := "begins", desc := "()V" } : Jvm.MethodName)) ∈ lw_all := lw_g (lw_at lw_m4 28 rfl) rfl
theorem q875 : (Jvm.Cond.selects "TallTowers$Layer" ({ cls := "TallTowers$Layer", name := "begins", desc := "()V" } : Jvm.MethodName) ({ cls := "TallTowers$Layer", name := "begins", desc := "()V" } : Jvm.MethodName)) ∈ lw_all := lw_g (lw_at lw_m4 29 rfl) rfl
theorem q876 : (Jvm.Cond.code ({ cls := "TallTowers$Layer", name := "begins", desc := "()V" } : Jvm.MethodName) prog_9_method_2_code (1 : Nat) (Option.none : Option Jvm.ClassFile.FieldType)) ∈ lw_all := lw_g (lw_at lw_m4 30 rfl) rfl
theorem q965 : (Jvm.Cond.instanceMethod ({ cls := "TallTowers$Layer", name := "meets", desc := "(II)Z" } : Jvm.MethodName)) ∈ lw_all := lw_g (lw_at lw_m4 119 rfl) rfl
theorem q966 : (Jvm.Cond.selects "TallTowers$Layer" ({ cls := "TallTowers$Layer", name := "meets", desc := "(II)Z" } : Jvm.MethodName) ({ cls := "TallTowers$Layer", name := "meets", desc := "(II)Z" } : Jvm.MethodName)) ∈ lw_all := lw_g (lw_at lw_m4 120 rfl) rfl
theorem q967 : (Jvm.Cond.code ({ cls := "TallTowers$Layer", name := "meets", desc := "(II)Z" } : Jvm.MethodName) prog_9_method_8_code (3 : Nat) (Option.some Jvm.ClassFile.FieldType.boolean)) ∈ lw_all := lw_g (lw_at lw_m4 121 rfl) rfl
theorem q968 : (Jvm.Cond.methodLink "TallTowers$Layer" (49 : Nat) ({ cls := "TallTowers$Layer", name := "top", desc := "()I" } : Jvm.MethodName)) ∈ lw_all := lw_g (lw_at lw_m4 122 rfl) rfl
theorem q970 : (Jvm.Cond.instanceMethod ({ cls := "TallTowers$Layer", name := "lies", desc := "(IIII)V" } : Jvm.MethodName)) ∈ lw_all := lw_g (lw_at lw_m4 124 rfl) rfl
theorem q971 : (Jvm.Cond.selects "TallTowers$Layer" ({ cls := "TallTowers$Layer", name := "lies", desc := "(IIII)V" } : Jvm.MethodName) ({ cls := "TallTowers$Layer", name := "lies", desc := "(IIII)V" } : Jvm.MethodName)) ∈ lw_all := lw_g (lw_at lw_m4 125 rfl) rfl
theorem q972 : (Jvm.Cond.code ({ cls := "TallTowers$Layer", name := "lies", desc := "(IIII)V" } : Jvm.MethodName) prog_9_method_3_code (5 : Nat) (Option.none : Option Jvm.ClassFile.FieldType)) ∈ lw_all := lw_g (lw_at lw_m4 126 rfl) rfl
theorem q1056 : (Jvm.Cond.instanceMethod ({ cls := "TallTowers$Layer", name := "tenthsOf", desc := "(I)I" } : Jvm.MethodName)) ∈ lw_all := lw_g (lw_at lw_m4 210 rfl) rfl
theorem q1057 : (Jvm.Cond.selects "TallTowers$Layer" ({ cls := "TallTowers$Layer", name := "tenthsOf", desc := "(I)I" } : Jvm.MethodName) ({ cls := "TallTowers$Layer", name := "tenthsOf", desc := "(I)I" } : Jvm.MethodName)) ∈ lw_all := lw_g (lw_at lw_m4 211 rfl) rfl
theorem q1058 : (Jvm.Cond.code ({ cls := "TallTowers$Layer", name := "tenthsOf", desc := "(I)I" } : Jvm.MethodName) prog_9_method_7_code (3 : Nat) (Option.some Jvm.ClassFile.FieldType.int)) ∈ lw_all := lw_g (lw_at lw_m4 212 rfl) rfl
theorem q1060 : (Jvm.Cond.instanceMethod ({ cls := "TallTowers$Layer", name := "allTenths", desc := "()I" } : Jvm.MethodName)) ∈ lw_all := lw_g (lw_at lw_m4 214 rfl) rfl
theorem q1061 : (Jvm.Cond.selects "TallTowers$Layer" ({ cls := "TallTowers$Layer", name := "allTenths", desc := "()I" } : Jvm.MethodName) ({ cls := "TallTowers$Layer", name := "allTenths", desc := "()I" } : Jvm.MethodName)) ∈ lw_all := lw_g (lw_at lw_m4 215 rfl) rfl
theorem q1062 : (Jvm.Cond.code ({ cls := "TallTowers$Layer", name := "allTenths", desc := "()I" } : Jvm.MethodName) prog_9_method_6_code (3 : Nat) (Option.some Jvm.ClassFile.FieldType.int)) ∈ lw_all := lw_g (lw_at lw_m4 216 rfl) rfl
theorem q1064 : (Jvm.Cond.instanceMethod ({ cls := "TallTowers$Layer", name := "isSignedBy", desc := "(II)V" } : Jvm.MethodName)) ∈ lw_all := lw_g (lw_at lw_m4 218 rfl) rfl
theorem q1065 : (Jvm.Cond.selects "TallTowers$Layer" ({ cls := "TallTowers$Layer", name := "isSignedBy", desc := "(II)V" } : Jvm.MethodName) ({ cls := "TallTowers$Layer", name := "isSignedBy", desc := "(II)V" } : Jvm.MethodName)) ∈ lw_all := lw_g (lw_at lw_m4 219 rfl) rfl
theorem q1066 : (Jvm.Cond.code ({ cls := "TallTowers$Layer", name := "isSignedBy", desc := "(II)V" } : Jvm.MethodName) prog_9_method_9_code (3 : Nat) (Option.none : Option Jvm.ClassFile.FieldType)) ∈ lw_all := lw_g (lw_at lw_m4 220 rfl) rfl
theorem q2461 : (Jvm.Cond.castable "TallTowers$Layer" "java/lang/Object") ∈ lw_tbl := lw_at lw_m10 175 rfl
theorem in_X6 : ∀ w ∈ wsX60, w ∈ lw_all := lw_in wsX60 [370, 372, 374, 376, 378, 380, 382, 384, 386, 388, 390] (by decide +kernel) (by decide +kernel)
/-! TallTowers$Harm -/
set_option maxRecDepth 100000
def RX7 : String := "TallTowers$Harm"
def TX7 : u_T := fun k => match k with
  | 0 => ("TallTowers$Burden", "bears", "[J", true)
  | 1 => ("TallTowers$Burden", "falls", "[J", true)
  | 2 => ("TallTowers$Flow", "takes", "[J", true)
  | 3 => ("TallTowers$Flow", "through", "[J", true)
  | 4 => ("TallTowers$Flow", "moved", "[J", true)
  | 5 => ("TallTowers$Flow", "parts", "[J", true)
  | 6 => ("TallTowers$Harm", "first", "I", false)
  | 7 => ("TallTowers$Harm", "last", "I", false)
  | 8 => ("TallTowers$Harm", "shown", "I", false)
  | 9 => ("TallTowers$Harm", "grew", "I", false)
  | 10 => ("TallTowers$Harm", "loss", "J", false)
  | _ => ("TallTowers$Harm", "isThere", "Z", false)
def tyX7 : Nat → FieldType := fun k => match k with
  | 0 => .array .long
  | 1 => .array .long
  | 2 => .array .long
  | 3 => .array .long
  | 4 => .array .long
  | 5 => .array .long
  | 6 => .int
  | 7 => .int
  | 8 => .int
  | 9 => .int
  | 10 => .long
  | _ => .boolean
abbrev wsX70 : List Cond := u_ws RX7 TX7 12
theorem nmX7 : ∀ a, a < 12 → ∀ b, b < 12 → a ≠ b → (TX7 a).2.1 ≠ (TX7 b).2.1 := by decide +kernel
theorem tyX7_ok : ∀ k, k < 12 → parseFieldDescriptor (TX7 k).2.2.1 = some (tyX7 k) := by decide +kernel
abbrev cX7_init : ByteArray := prog_7_method_1_code
def yX7_init : MethodName := ⟨RX7, "<init>", "()V"⟩
theorem dX7_init_0 : decode cX7_init 0 = .ok (.aload_n 0, 1) := by decide +kernel
theorem dX7_init_1 : decode cX7_init 1 = .ok (.invokespecial 1, 3) := by decide +kernel
theorem dX7_init_4 : decode cX7_init 4 = .ok (.return_, 1) := by decide +kernel
abbrev cX7_setOff : ByteArray := prog_7_method_5_code
def yX7_setOff : MethodName := ⟨RX7, "setOff", "(I)I"⟩
def dkwX7_setOff_2 : List UInt8 := [160, 0, 14, 28, 4, 42, 180, 0, 30, 120, 128, 167, 0, 4, 28, 172]
abbrev dktX7_setOff_2 : List UInt8 := dkwX7_setOff_2 ++ []
def dkwX7_setOff_1 : List UInt8 := [180, 0, 24, 120, 100, 61, 27, 4, 160, 0, 12, 4, 42, 180, 0, 30, 120, 167, 0, 20, 27, 6]
abbrev dktX7_setOff_1 : List UInt8 := dkwX7_setOff_1 ++ dktX7_setOff_2
def dkwX7_setOff_0 : List UInt8 := [4, 27, 5, 160, 0, 10, 42, 180, 0, 30, 167, 0, 7, 42, 180, 0, 27, 4, 96, 120, 4, 42]
abbrev dktX7_setOff_0 : List UInt8 := dkwX7_setOff_0 ++ dktX7_setOff_1
theorem dksX7_setOff_0 : cX7_setOff.data.toList.drop 0 = dktX7_setOff_0 := by decide +kernel
theorem dksX7_setOff_1 : cX7_setOff.data.toList.drop 22 = dktX7_setOff_1 := dk_seg dksX7_setOff_0 22 rfl rfl
theorem dksX7_setOff_2 : cX7_setOff.data.toList.drop 44 = dktX7_setOff_2 := dk_seg dksX7_setOff_1 22 rfl rfl
theorem dX7_setOff_0 : decode cX7_setOff 0 = .ok (.iconst 1, 1) := dk_4 (dk_at dksX7_setOff_0 0 rfl rfl)
theorem dX7_setOff_1 : decode cX7_setOff 1 = .ok (.iload_n 1, 1) := dk_27 (dk_at dksX7_setOff_0 1 rfl rfl)
theorem dX7_setOff_2 : decode cX7_setOff 2 = .ok (.iconst 2, 1) := dk_5 (dk_at dksX7_setOff_0 2 rfl rfl)
theorem dX7_setOff_3 : decode cX7_setOff 3 = .ok (.if_icmp .ne 10, 3) := dk_160 0 10 (dk_at dksX7_setOff_0 3 rfl rfl)
theorem dX7_setOff_6 : decode cX7_setOff 6 = .ok (.aload_n 0, 1) := dk_42 (dk_at dksX7_setOff_0 6 rfl rfl)
theorem dX7_setOff_7 : decode cX7_setOff 7 = .ok (.getfield 30, 3) := dk_180 0 30 (dk_at dksX7_setOff_0 7 rfl rfl)
theorem dX7_setOff_10 : decode cX7_setOff 10 = .ok (.goto 7, 3) := dk_167 0 7 (dk_at dksX7_setOff_0 10 rfl rfl)
theorem dX7_setOff_13 : decode cX7_setOff 13 = .ok (.aload_n 0, 1) := dk_42 (dk_at dksX7_setOff_0 13 rfl rfl)
theorem dX7_setOff_14 : decode cX7_setOff 14 = .ok (.getfield 27, 3) := dk_180 0 27 (dk_at dksX7_setOff_0 14 rfl rfl)
theorem dX7_setOff_17 : decode cX7_setOff 17 = .ok (.iconst 1, 1) := dk_4 (dk_at dksX7_setOff_0 17 rfl rfl)
theorem dX7_setOff_18 : decode cX7_setOff 18 = .ok (.iadd, 1) := dk_96 (dk_at dksX7_setOff_0 18 rfl rfl)
theorem dX7_setOff_19 : decode cX7_setOff 19 = .ok (.ishl, 1) := dk_120 (dk_at dksX7_setOff_0 19 rfl rfl)
theorem dX7_setOff_20 : decode cX7_setOff 20 = .ok (.iconst 1, 1) := dk_4 (dk_at dksX7_setOff_0 20 rfl rfl)
theorem dX7_setOff_21 : decode cX7_setOff 21 = .ok (.aload_n 0, 1) := dk_42 (dk_at dksX7_setOff_0 21 rfl rfl)
theorem dX7_setOff_22 : decode cX7_setOff 22 = .ok (.getfield 24, 3) := dk_180 0 24 (dk_at dksX7_setOff_1 0 rfl rfl)
theorem dX7_setOff_25 : decode cX7_setOff 25 = .ok (.ishl, 1) := dk_120 (dk_at dksX7_setOff_1 3 rfl rfl)
theorem dX7_setOff_26 : decode cX7_setOff 26 = .ok (.isub, 1) := dk_100 (dk_at dksX7_setOff_1 4 rfl rfl)
theorem dX7_setOff_27 : decode cX7_setOff 27 = .ok (.istore_n 2, 1) := dk_61 (dk_at dksX7_setOff_1 5 rfl rfl)
theorem dX7_setOff_28 : decode cX7_setOff 28 = .ok (.iload_n 1, 1) := dk_27 (dk_at dksX7_setOff_1 6 rfl rfl)
theorem dX7_setOff_29 : decode cX7_setOff 29 = .ok (.iconst 1, 1) := dk_4 (dk_at dksX7_setOff_1 7 rfl rfl)
theorem dX7_setOff_30 : decode cX7_setOff 30 = .ok (.if_icmp .ne 12, 3) := dk_160 0 12 (dk_at dksX7_setOff_1 8 rfl rfl)
theorem dX7_setOff_33 : decode cX7_setOff 33 = .ok (.iconst 1, 1) := dk_4 (dk_at dksX7_setOff_1 11 rfl rfl)
theorem dX7_setOff_34 : decode cX7_setOff 34 = .ok (.aload_n 0, 1) := dk_42 (dk_at dksX7_setOff_1 12 rfl rfl)
theorem dX7_setOff_35 : decode cX7_setOff 35 = .ok (.getfield 30, 3) := dk_180 0 30 (dk_at dksX7_setOff_1 13 rfl rfl)
theorem dX7_setOff_38 : decode cX7_setOff 38 = .ok (.ishl, 1) := dk_120 (dk_at dksX7_setOff_1 16 rfl rfl)
theorem dX7_setOff_39 : decode cX7_setOff 39 = .ok (.goto 20, 3) := dk_167 0 20 (dk_at dksX7_setOff_1 17 rfl rfl)
theorem dX7_setOff_42 : decode cX7_setOff 42 = .ok (.iload_n 1, 1) := dk_27 (dk_at dksX7_setOff_1 20 rfl rfl)
theorem dX7_setOff_43 : decode cX7_setOff 43 = .ok (.iconst 3, 1) := dk_6 (dk_at dksX7_setOff_1 21 rfl rfl)
theorem dX7_setOff_44 : decode cX7_setOff 44 = .ok (.if_icmp .ne 14, 3) := dk_160 0 14 (dk_at dksX7_setOff_2 0 rfl rfl)
theorem dX7_setOff_47 : decode cX7_setOff 47 = .ok (.iload_n 2, 1) := dk_28 (dk_at dksX7_setOff_2 3 rfl rfl)
theorem dX7_setOff_48 : decode cX7_setOff 48 = .ok (.iconst 1, 1) := dk_4 (dk_at dksX7_setOff_2 4 rfl rfl)
theorem dX7_setOff_49 : decode cX7_setOff 49 = .ok (.aload_n 0, 1) := dk_42 (dk_at dksX7_setOff_2 5 rfl rfl)
theorem dX7_setOff_50 : decode cX7_setOff 50 = .ok (.getfield 30, 3) := dk_180 0 30 (dk_at dksX7_setOff_2 6 rfl rfl)
theorem dX7_setOff_53 : decode cX7_setOff 53 = .ok (.ishl, 1) := dk_120 (dk_at dksX7_setOff_2 9 rfl rfl)
theorem dX7_setOff_54 : decode cX7_setOff 54 = .ok (.ior, 1) := dk_128 (dk_at dksX7_setOff_2 10 rfl rfl)
theorem dX7_setOff_55 : decode cX7_setOff 55 = .ok (.goto 4, 3) := dk_167 0 4 (dk_at dksX7_setOff_2 11 rfl rfl)
theorem dX7_setOff_58 : decode cX7_setOff 58 = .ok (.iload_n 2, 1) := dk_28 (dk_at dksX7_setOff_2 14 rfl rfl)
theorem dX7_setOff_59 : decode cX7_setOff 59 = .ok (.ireturn, 1) := dk_172 (dk_at dksX7_setOff_2 15 rfl rfl)
abbrev cX7_begins : ByteArray := prog_7_method_2_code
def yX7_begins : MethodName := ⟨RX7, "begins", "()V"⟩
def dkwX7_begins_0 : List UInt8 := [42, 183, 0, 7, 42, 3, 181, 0, 10, 42, 9, 181, 0, 16, 42, 3, 181, 0, 20, 177]
abbrev dktX7_begins_0 : List UInt8 := dkwX7_begins_0 ++ []
theorem dksX7_begins_0 : cX7_begins.data.toList.drop 0 = dktX7_begins_0 := by decide +kernel
theorem dX7_begins_0 : decode cX7_begins 0 = .ok (.aload_n 0, 1) := dk_42 (dk_at dksX7_begins_0 0 rfl rfl)
theorem dX7_begins_1 : decode cX7_begins 1 = .ok (.invokespecial 7, 3) := dk_183 0 7 (dk_at dksX7_begins_0 1 rfl rfl)
theorem dX7_begins_4 : decode cX7_begins 4 = .ok (.aload_n 0, 1) := dk_42 (dk_at dksX7_begins_0 4 rfl rfl)
theorem dX7_begins_5 : decode cX7_begins 5 = .ok (.iconst 0, 1) := dk_3 (dk_at dksX7_begins_0 5 rfl rfl)
theorem dX7_begins_6 : decode cX7_begins 6 = .ok (.putfield 10, 3) := dk_181 0 10 (dk_at dksX7_begins_0 6 rfl rfl)
theorem dX7_begins_9 : decode cX7_begins 9 = .ok (.aload_n 0, 1) := dk_42 (dk_at dksX7_begins_0 9 rfl rfl)
theorem dX7_begins_10 : decode cX7_begins 10 = .ok (.lconst 0, 1) := dk_9 (dk_at dksX7_begins_0 10 rfl rfl)
theorem dX7_begins_11 : decode cX7_begins 11 = .ok (.putfield 16, 3) := dk_181 0 16 (dk_at dksX7_begins_0 11 rfl rfl)
theorem dX7_begins_14 : decode cX7_begins 14 = .ok (.aload_n 0, 1) := dk_42 (dk_at dksX7_begins_0 14 rfl rfl)
theorem dX7_begins_15 : decode cX7_begins 15 = .ok (.iconst 0, 1) := dk_3 (dk_at dksX7_begins_0 15 rfl rfl)
theorem dX7_begins_16 : decode cX7_begins 16 = .ok (.putfield 20, 3) := dk_181 0 20 (dk_at dksX7_begins_0 16 rfl rfl)
theorem dX7_begins_19 : decode cX7_begins 19 = .ok (.return_, 1) := dk_177 (dk_at dksX7_begins_0 19 rfl rfl)
abbrev cX7_goesOn : ByteArray := prog_7_method_4_code
def yX7_goesOn : MethodName := ⟨RX7, "goesOn", "(III)V"⟩
def dkwX7_goesOn_0 : List UInt8 := [42, 27, 181, 0, 24, 42, 28, 181, 0, 27, 42, 29, 181, 0, 30, 177]
abbrev dktX7_goesOn_0 : List UInt8 := dkwX7_goesOn_0 ++ []
theorem dksX7_goesOn_0 : cX7_goesOn.data.toList.drop 0 = dktX7_goesOn_0 := by decide +kernel
theorem dX7_goesOn_0 : decode cX7_goesOn 0 = .ok (.aload_n 0, 1) := dk_42 (dk_at dksX7_goesOn_0 0 rfl rfl)
theorem dX7_goesOn_1 : decode cX7_goesOn 1 = .ok (.iload_n 1, 1) := dk_27 (dk_at dksX7_goesOn_0 1 rfl rfl)
theorem dX7_goesOn_2 : decode cX7_goesOn 2 = .ok (.putfield 24, 3) := dk_181 0 24 (dk_at dksX7_goesOn_0 2 rfl rfl)
theorem dX7_goesOn_5 : decode cX7_goesOn 5 = .ok (.aload_n 0, 1) := dk_42 (dk_at dksX7_goesOn_0 5 rfl rfl)
theorem dX7_goesOn_6 : decode cX7_goesOn 6 = .ok (.iload_n 2, 1) := dk_28 (dk_at dksX7_goesOn_0 6 rfl rfl)
theorem dX7_goesOn_7 : decode cX7_goesOn 7 = .ok (.putfield 27, 3) := dk_181 0 27 (dk_at dksX7_goesOn_0 7 rfl rfl)
theorem dX7_goesOn_10 : decode cX7_goesOn 10 = .ok (.aload_n 0, 1) := dk_42 (dk_at dksX7_goesOn_0 10 rfl rfl)
theorem dX7_goesOn_11 : decode cX7_goesOn 11 = .ok (.iload_n 3, 1) := dk_29 (dk_at dksX7_goesOn_0 11 rfl rfl)
theorem dX7_goesOn_12 : decode cX7_goesOn 12 = .ok (.putfield 30, 3) := dk_181 0 30 (dk_at dksX7_goesOn_0 12 rfl rfl)
theorem dX7_goesOn_15 : decode cX7_goesOn 15 = .ok (.return_, 1) := dk_177 (dk_at dksX7_goesOn_0 15 rfl rfl)
abbrev cX7_comesAnew : ByteArray := prog_7_method_3_code
def yX7_comesAnew : MethodName := ⟨RX7, "comesAnew", "()V"⟩
def dkwX7_comesAnew_0 : List UInt8 := [42, 183, 0, 7, 42, 9, 181, 0, 16, 177]
abbrev dktX7_comesAnew_0 : List UInt8 := dkwX7_comesAnew_0 ++ []
theorem dksX7_comesAnew_0 : cX7_comesAnew.data.toList.drop 0 = dktX7_comesAnew_0 := by decide +kernel
theorem dX7_comesAnew_0 : decode cX7_comesAnew 0 = .ok (.aload_n 0, 1) := dk_42 (dk_at dksX7_comesAnew_0 0 rfl rfl)
theorem dX7_comesAnew_1 : decode cX7_comesAnew 1 = .ok (.invokespecial 7, 3) := dk_183 0 7 (dk_at dksX7_comesAnew_0 1 rfl rfl)
theorem dX7_comesAnew_4 : decode cX7_comesAnew 4 = .ok (.aload_n 0, 1) := dk_42 (dk_at dksX7_comesAnew_0 4 rfl rfl)
theorem dX7_comesAnew_5 : decode cX7_comesAnew 5 = .ok (.lconst 0, 1) := dk_9 (dk_at dksX7_comesAnew_0 5 rfl rfl)
theorem dX7_comesAnew_6 : decode cX7_comesAnew 6 = .ok (.putfield 16, 3) := dk_181 0 16 (dk_at dksX7_comesAnew_0 6 rfl rfl)
theorem dX7_comesAnew_9 : decode cX7_comesAnew 9 = .ok (.return_, 1) := dk_177 (dk_at dksX7_comesAnew_0 9 rfl rfl)
theorem q140 : (Jvm.Cond.initialized "TallTowers$Harm") ∈ lw_all := lw_g (lw_at lw_m1 14 rfl) rfl
theorem q296 : (Jvm.Cond.sameField "TallTowers$Harm" "TallTowers$Flow" "takes" "[J") ∈ lw_all := lw_g (lw_at lw_m1 170 rfl) rfl
theorem q302 : (Jvm.Cond.sameField "TallTowers$Harm" "TallTowers$Flow" "through" "[J") ∈ lw_all := lw_g (lw_at lw_m1 176 rfl) rfl
theorem q308 : (Jvm.Cond.sameField "TallTowers$Harm" "TallTowers$Flow" "moved" "[J") ∈ lw_all := lw_g (lw_at lw_m1 182 rfl) rfl
theorem q318 : (Jvm.Cond.sameField "TallTowers$Harm" "TallTowers$Burden" "falls" "[J") ∈ lw_all := lw_g (lw_at lw_m1 192 rfl) rfl
theorem q393 : (Jvm.Cond.instantiable "TallTowers$Harm" (12 : Nat)) ∈ lw_all := lw_g (lw_at lw_m2 27 rfl) rfl
theorem q395 : (Jvm.Cond.instanceMethod ({ cls := "TallTowers$Harm", name := "<init>", desc := "()V" } : Jvm.MethodName)) ∈ lw_all := lw_g (lw_at lw_m2 29 rfl) rfl
theorem q396 : (Jvm.Cond.code ({ cls := "TallTowers$Harm", name := "<init>", desc := "()V" } : Jvm.MethodName) prog_7_method_1_code (1 : Nat) (Option.none : Option Jvm.ClassFile.FieldType)) ∈ lw_all := lw_g (lw_at lw_m2 30 rfl) rfl
theorem q397 : (Jvm.Cond.methodLinkNest "TallTowers$Harm" (1 : Nat) ({ cls := "TallTowers$Flow", name := "<init>", desc := "()V" } : Jvm.MethodName) "TallTowers") ∈ lw_tbl := lw_at lw_m2 31 rfl
theorem q398 : (Jvm.Cond.fieldLink "TallTowers$Harm" (24 : Nat) "TallTowers$Harm" "first" "I") ∈ lw_all := lw_g (lw_at lw_m2 32 rfl) rfl
theorem q400 : (Jvm.Cond.fieldLink "TallTowers$Harm" (27 : Nat) "TallTowers$Harm" "last" "I") ∈ lw_all := lw_g (lw_at lw_m2 34 rfl) rfl
theorem q402 : (Jvm.Cond.fieldLink "TallTowers$Harm" (30 : Nat) "TallTowers$Harm" "shown" "I") ∈ lw_all := lw_g (lw_at lw_m2 36 rfl) rfl
theorem q404 : (Jvm.Cond.fieldLink "TallTowers$Harm" (20 : Nat) "TallTowers$Harm" "grew" "I") ∈ lw_all := lw_g (lw_at lw_m2 38 rfl) rfl
theorem q407 : (Jvm.Cond.fieldLink "TallTowers$Harm" (16 : Nat) "TallTowers$Harm" "loss" "J") ∈ lw_all := lw_g (lw_at lw_m2 41 rfl) rfl
theorem q410 : (Jvm.Cond.fieldLink "TallTowers$Harm" (10 : Nat) "TallTowers$Harm" "isThere" "Z") ∈ lw_all := lw_g (lw_at lw_m2 44 rfl) rfl
theorem q412 : (Jvm.Cond.lays "TallTowers$Harm" "TallTowers$Harm" "first" "I") ∈ lw_all := lw_g (lw_at lw_m2 46 rfl) rfl
theorem q413 : (Jvm.Cond.soleField "TallTowers$Harm" "first") ∈ lw_all := lw_g (lw_at lw_m2 47 rfl) rfl
theorem q414 : (Jvm.Cond.lays "TallTowers$Harm" "TallTowers$Harm" "last" "I") ∈ lw_all := lw_g (lw_at lw_m2 48 rfl) rfl
theorem q415 : (Jvm.Cond.soleField "TallTowers$Harm" "last") ∈ lw_all := lw_g (lw_at lw_m2 49 rfl) rfl
theorem q416 : (Jvm.Cond.lays "TallTowers$Harm" "TallTowers$Harm" "shown" "I") ∈ lw_all := lw_g (lw_at lw_m2 50 rfl) rfl
theorem q417 : (Jvm.Cond.soleField "TallTowers$Harm" "shown") ∈ lw_all := lw_g (lw_at lw_m2 51 rfl) rfl
theorem q418 : (Jvm.Cond.lays "TallTowers$Harm" "TallTowers$Harm" "grew" "I") ∈ lw_all := lw_g (lw_at lw_m2 52 rfl) rfl
theorem q419 : (Jvm.Cond.soleField "TallTowers$Harm" "grew") ∈ lw_all := lw_g (lw_at lw_m2 53 rfl) rfl
theorem q420 : (Jvm.Cond.lays "TallTowers$Harm" "TallTowers$Harm" "loss" "J") ∈ lw_all := lw_g (lw_at lw_m2 54 rfl) rfl
theorem q421 : (Jvm.Cond.soleField "TallTowers$Harm" "loss") ∈ lw_all := lw_g (lw_at lw_m2 55 rfl) rfl
theorem q422 : (Jvm.Cond.lays "TallTowers$Harm" "TallTowers$Harm" "isThere" "Z") ∈ lw_all := lw_g (lw_at lw_m2 56 rfl) rfl
theorem q423 : (Jvm.Cond.soleField "TallTowers$Harm" "isThere") ∈ lw_all := lw_g (lw_at lw_m2 57 rfl) rfl
theorem q424 : (Jvm.Cond.laysFinal "TallTowers$Harm" "TallTowers$Flow" "takes" "[J") ∈ lw_all := lw_g (lw_at lw_m2 58 rfl) rfl
theorem q425 : (Jvm.Cond.laysFinal "TallTowers$Harm" "TallTowers$Flow" "through" "[J") ∈ lw_all := lw_g (lw_at lw_m2 59 rfl) rfl
theorem q426 : (Jvm.Cond.laysFinal "TallTowers$Harm" "TallTowers$Flow" "moved" "[J") ∈ lw_all := lw_g (lw_at lw_m2 60 rfl) rfl
theorem q427 : (Jvm.Cond.laysFinal "TallTowers$Harm" "TallTowers$Flow" "parts" "[J") ∈ lw_all := lw_g (lw_at lw_m2 61 rfl) rfl
theorem q428 : (Jvm.Cond.laysFinal "TallTowers$Harm" "TallTowers$Burden" "bears" "[J") ∈ lw_all := lw_g (lw_at lw_m2 62 rfl) rfl
theorem q429 : (Jvm.Cond.laysFinal "TallTowers$Harm" "TallTowers$Burden" "falls" "[J") ∈ lw_all := lw_g (lw_at lw_m2 63 rfl) rfl
theorem q430 : (Jvm.Cond.superclass "TallTowers$Harm" "TallTowers$Flow") ∈ lw_all := lw_g (lw_at lw_m2 64 rfl) rfl
theorem q466 : (Jvm.Cond.instanceMethod ({ cls := "TallTowers$Harm", name := "setOff", desc := "(I)I" } : Jvm.MethodName)) ∈ lw_all := lw_g (lw_at lw_m2 100 rfl) rfl
theorem q467 : (Jvm.Cond.selects "TallTowers$Harm" ({ cls := "TallTowers$Harm", name := "setOff", desc := "(I)I" } : Jvm.MethodName) ({ cls := "TallTowers$Harm", name := "setOff", desc := "(I)I" } : Jvm.MethodName)) ∈ lw_all := lw_g (lw_at lw_m2 101 rfl) rfl
theorem q468 : (Jvm.Cond.code ({ cls := "TallTowers$Harm", name := "setOff", desc := "(I)I" } : Jvm.MethodName) prog_7_method_5_code (3 : Nat) (Option.some Jvm.ClassFile.FieldType.int)) ∈ lw_all := lw_g (lw_at lw_m2 102 rfl) rfl
theorem q592 : (Jvm.Cond.selects "TallTowers$Harm" ({ cls := "java/lang/Object", name := "getClass", desc := "()Ljava/lang/Class;" } : Jvm.MethodName) ({ cls := "java/lang/Object", name := "getClass", desc := "()Ljava/lang/Class;" } : Jvm.MethodName)) ∈ lw_all := lw_g (lw_at lw_m2 226 rfl) rfl
theorem q708 : (Jvm.Cond.selects "TallTowers$Harm" ({ cls := "TallTowers$Flow", name := "begins", desc := "()V" } : Jvm.MethodName) ({ cls := "TallTowers$Harm", name := "begins", desc := "()V" } : Jvm.MethodName)) ∈ lw_all := lw_g (lw_at lw_m3 102 rfl) rfl
theorem q709 : (Jvm.Cond.instanceMethod ({ cls := "TallTowers$Harm", name := "begins", desc := "()V" } : Jvm.MethodName)) ∈ lw_all := lw_g (lw_at lw_m3 103 rfl) rfl
theorem q710 : (Jvm.Cond.code ({ cls := "TallTowers$Harm", name := "begins", desc := "()V" } : Jvm.MethodName) prog_7_method_2_code (1 : Nat) (Option.none : Option Jvm.ClassFile.FieldType)) ∈ lw_all := lw_g (lw_at lw_m3 104 rfl) rfl
theorem q711 : (Jvm.Cond.methodLink "TallTowers$Harm" (7 : Nat) ({ cls := "TallTowers$Flow", name := "begins", desc := "()V" } : Jvm.MethodName)) ∈ lw_all := lw_g (lw_at lw_m3 105 rfl) rfl
theorem q1123 : (Jvm.Cond.instanceMethod ({ cls := "TallTowers$Harm", name := "goesOn", desc := "(III)V" } : Jvm.MethodName)) ∈ lw_all := lw_g (lw_at lw_m5 37 rfl) rfl
theorem q1124 : (Jvm.Cond.selects "TallTowers$Harm" ({ cls := "TallTowers$Harm", name := "goesOn", desc := "(III)V" } : Jvm.MethodName) ({ cls := "TallTowers$Harm", name := "goesOn", desc := "(III)V" } : Jvm.MethodName)) ∈ lw_all := lw_g (lw_at lw_m5 38 rfl) rfl
theorem q1125 : (Jvm.Cond.code ({ cls := "TallTowers$Harm", name := "goesOn", desc := "(III)V" } : Jvm.MethodName) prog_7_method_4_code (4 : Nat) (Option.none : Option Jvm.ClassFile.FieldType)) ∈ lw_all := lw_g (lw_at lw_m5 39 rfl) rfl
theorem q1144 : (Jvm.Cond.sameMethod "TallTowers$Harm" "TallTowers$Flow" "addsAll" "(LTallTowers$Flow;)V") ∈ lw_all := lw_g (lw_at lw_m5 58 rfl) rfl
theorem q1146 : (Jvm.Cond.selects "TallTowers$Harm" ({ cls := "TallTowers$Harm", name := "addsAll", desc := "(LTallTowers$Flow;)V" } : Jvm.MethodName) ({ cls := "TallTowers$Flow", name := "addsAll", desc := "(LTallTowers$Flow;)V" } : Jvm.MethodName)) ∈ lw_all := lw_g (lw_at lw_m5 60 rfl) rfl
theorem q1153 : (Jvm.Cond.selects "TallTowers$Harm" ({ cls := "TallTowers$Flow", name := "adds", desc := "(LTallTowers$Burden;)V" } : Jvm.MethodName) ({ cls := "TallTowers$Burden", name := "adds", desc := "(LTallTowers$Burden;)V" } : Jvm.MethodName)) ∈ lw_all := lw_g (lw_at lw_m5 67 rfl) rfl
theorem q1172 : (Jvm.Cond.sameMethod "TallTowers$Harm" "TallTowers$Burden" "borne" "(I)J") ∈ lw_all := lw_g (lw_at lw_m5 86 rfl) rfl
theorem q1174 : (Jvm.Cond.selects "TallTowers$Harm" ({ cls := "TallTowers$Harm", name := "borne", desc := "(I)J" } : Jvm.MethodName) ({ cls := "TallTowers$Burden", name := "borne", desc := "(I)J" } : Jvm.MethodName)) ∈ lw_all := lw_g (lw_at lw_m5 88 rfl) rfl
theorem q1224 : (Jvm.Cond.instanceMethod ({ cls := "TallTowers$Harm", name := "comesAnew", desc := "()V" } : Jvm.MethodName)) ∈ lw_all := lw_g (lw_at lw_m5 138 rfl) rfl
theorem q1225 : (Jvm.Cond.selects "TallTowers$Harm" ({ cls := "TallTowers$Harm", name := "comesAnew", desc := "()V" } : Jvm.MethodName) ({ cls := "TallTowers$Harm", name := "comesAnew", desc := "()V" } : Jvm.MethodName)) ∈ lw_all := lw_g (lw_at lw_m5 139 rfl) rfl
theorem q1226 : (Jvm.Cond.code ({ cls := "TallTowers$Harm", name := "comesAnew", desc := "()V" } : Jvm.MethodName) prog_7_method_3_code (1 : Nat) (Option.none : Option Jvm.ClassFile.FieldType)) ∈ lw_all := lw_g (lw_at lw_m5 140 rfl) rfl
theorem q1561 : (Jvm.Cond.selects "TallTowers$Harm" ({ cls := "TallTowers$Flow", name := "borne", desc := "(I)J" } : Jvm.MethodName) ({ cls := "TallTowers$Burden", name := "borne", desc := "(I)J" } : Jvm.MethodName)) ∈ lw_all := lw_g (lw_at lw_m6 235 rfl) rfl
theorem q2459 : (Jvm.Cond.selects "TallTowers$Harm" ({ cls := "TallTowers$Harm", name := "begins", desc := "()V" } : Jvm.MethodName) ({ cls := "TallTowers$Harm", name := "begins", desc := "()V" } : Jvm.MethodName)) ∈ lw_all := lw_g (lw_at lw_m10 173 rfl) rfl
theorem q2462 : (Jvm.Cond.castable "TallTowers$Harm" "java/lang/Object") ∈ lw_tbl := lw_at lw_m10 176 rfl
theorem in_X7 : ∀ w ∈ wsX70, w ∈ lw_all := lw_in wsX70 [428, 429, 424, 425, 426, 427, 412, 414, 416, 418, 420, 422] (by decide +kernel) (by decide +kernel)
/-! TallTowers$Tower -/
set_option maxRecDepth 100000
def RX8 : String := "TallTowers$Tower"
def TX8 : u_T := fun k => match k with
  | 0 => ("TallTowers$Tower", "year", "I", true)
  | 1 => ("TallTowers$Tower", "room", "J", false)
  | _ => ("TallTowers$Tower", "lowest", "I", false)
def tyX8 : Nat → FieldType := fun k => match k with
  | 0 => .int
  | 1 => .long
  | _ => .int
abbrev wsX80 : List Cond := u_ws RX8 TX8 3
theorem nmX8 : ∀ a, a < 3 → ∀ b, b < 3 → a ≠ b → (TX8 a).2.1 ≠ (TX8 b).2.1 := by decide +kernel
theorem tyX8_ok : ∀ k, k < 3 → parseFieldDescriptor (TX8 k).2.2.1 = some (tyX8 k) := by decide +kernel
abbrev cX8_init : ByteArray := prog_13_method_1_code
def yX8_init : MethodName := ⟨RX8, "<init>", "(I)V"⟩
def dkwX8_init_0 : List UInt8 := [42, 183, 0, 1, 42, 27, 181, 0, 7, 177]
abbrev dktX8_init_0 : List UInt8 := dkwX8_init_0 ++ []
theorem dksX8_init_0 : cX8_init.data.toList.drop 0 = dktX8_init_0 := by decide +kernel
theorem dX8_init_0 : decode cX8_init 0 = .ok (.aload_n 0, 1) := dk_42 (dk_at dksX8_init_0 0 rfl rfl)
theorem dX8_init_1 : decode cX8_init 1 = .ok (.invokespecial 1, 3) := dk_183 0 1 (dk_at dksX8_init_0 1 rfl rfl)
theorem dX8_init_4 : decode cX8_init 4 = .ok (.aload_n 0, 1) := dk_42 (dk_at dksX8_init_0 4 rfl rfl)
theorem dX8_init_5 : decode cX8_init 5 = .ok (.iload_n 1, 1) := dk_27 (dk_at dksX8_init_0 5 rfl rfl)
theorem dX8_init_6 : decode cX8_init 6 = .ok (.putfield 7, 3) := dk_181 0 7 (dk_at dksX8_init_0 6 rfl rfl)
theorem dX8_init_9 : decode cX8_init 9 = .ok (.return_, 1) := dk_177 (dk_at dksX8_init_0 9 rfl rfl)
theorem q141 : (Jvm.Cond.initialized "TallTowers$Tower") ∈ lw_all := lw_g (lw_at lw_m1 15 rfl) rfl
theorem q431 : (Jvm.Cond.instantiable "TallTowers$Tower" (3 : Nat)) ∈ lw_all := lw_g (lw_at lw_m2 65 rfl) rfl
theorem q433 : (Jvm.Cond.instanceMethod ({ cls := "TallTowers$Tower", name := "<init>", desc := "(I)V" } : Jvm.MethodName)) ∈ lw_all := lw_g (lw_at lw_m2 67 rfl) rfl
theorem q434 : (Jvm.Cond.code ({ cls := "TallTowers$Tower", name := "<init>", desc := "(I)V" } : Jvm.MethodName) prog_13_method_1_code (2 : Nat) (Option.none : Option Jvm.ClassFile.FieldType)) ∈ lw_all := lw_g (lw_at lw_m2 68 rfl) rfl
theorem q435 : (Jvm.Cond.methodLink "TallTowers$Tower" (1 : Nat) ({ cls := "java/lang/Object", name := "<init>", desc := "()V" } : Jvm.MethodName)) ∈ lw_all := lw_g (lw_at lw_m2 69 rfl) rfl
theorem q436 : (Jvm.Cond.fieldLink "TallTowers$Tower" (7 : Nat) "TallTowers$Tower" "year" "I") ∈ lw_all := lw_g (lw_at lw_m2 70 rfl) rfl
theorem q444 : (Jvm.Cond.laysFinal "TallTowers$Tower" "TallTowers$Tower" "year" "I") ∈ lw_all := lw_g (lw_at lw_m2 78 rfl) rfl
theorem q445 : (Jvm.Cond.soleField "TallTowers$Tower" "year") ∈ lw_all := lw_g (lw_at lw_m2 79 rfl) rfl
theorem q446 : (Jvm.Cond.lays "TallTowers$Tower" "TallTowers$Tower" "room" "J") ∈ lw_all := lw_g (lw_at lw_m2 80 rfl) rfl
theorem q447 : (Jvm.Cond.soleField "TallTowers$Tower" "room") ∈ lw_all := lw_g (lw_at lw_m2 81 rfl) rfl
theorem q448 : (Jvm.Cond.lays "TallTowers$Tower" "TallTowers$Tower" "lowest" "I") ∈ lw_all := lw_g (lw_at lw_m2 82 rfl) rfl
theorem q449 : (Jvm.Cond.soleField "TallTowers$Tower" "lowest") ∈ lw_all := lw_g (lw_at lw_m2 83 rfl) rfl
theorem q450 : (Jvm.Cond.superclass "TallTowers$Tower" "java/lang/Object") ∈ lw_all := lw_g (lw_at lw_m2 84 rfl) rfl
theorem q597 : (Jvm.Cond.selects "TallTowers$Tower" ({ cls := "java/lang/Object", name := "getClass", desc := "()Ljava/lang/Class;" } : Jvm.MethodName) ({ cls := "java/lang/Object", name := "getClass", desc := "()Ljava/lang/Class;" } : Jvm.MethodName)) ∈ lw_all := lw_g (lw_at lw_m2 231 rfl) rfl
theorem q2463 : (Jvm.Cond.castable "TallTowers$Tower" "java/lang/Object") ∈ lw_tbl := lw_at lw_m10 177 rfl
theorem in_X8 : ∀ w ∈ wsX80, w ∈ lw_all := lw_in wsX80 [444, 446, 448] (by decide +kernel) (by decide +kernel)
/-! TallTowers$Spread -/
set_option maxRecDepth 100000
def RX9 : String := "TallTowers$Spread"
def TX9 : u_T := fun k => match k with
  | _ => ("TallTowers$Spread", "way", "LTallTowers$Spreading;", true)
def tyX9 : Nat → FieldType := fun k => match k with
  | _ => .object "TallTowers$Spreading"
abbrev wsX90 : List Cond := u_ws RX9 TX9 1
theorem nmX9 : ∀ a, a < 1 → ∀ b, b < 1 → a ≠ b → (TX9 a).2.1 ≠ (TX9 b).2.1 := by decide +kernel
theorem tyX9_ok : ∀ k, k < 1 → parseFieldDescriptor (TX9 k).2.2.1 = some (tyX9 k) := by decide +kernel
abbrev cX9_init : ByteArray := prog_11_method_1_code
def yX9_init : MethodName := ⟨RX9, "<init>", "(LTallTowers$Spreading;)V"⟩
def dkwX9_init_0 : List UInt8 := [42, 183, 0, 1, 42, 43, 181, 0, 7, 177]
abbrev dktX9_init_0 : List UInt8 := dkwX9_init_0 ++ []
theorem dksX9_init_0 : cX9_init.data.toList.drop 0 = dktX9_init_0 := by decide +kernel
theorem dX9_init_0 : decode cX9_init 0 = .ok (.aload_n 0, 1) := dk_42 (dk_at dksX9_init_0 0 rfl rfl)
theorem dX9_init_1 : decode cX9_init 1 = .ok (.invokespecial 1, 3) := dk_183 0 1 (dk_at dksX9_init_0 1 rfl rfl)
theorem dX9_init_4 : decode cX9_init 4 = .ok (.aload_n 0, 1) := dk_42 (dk_at dksX9_init_0 4 rfl rfl)
theorem dX9_init_5 : decode cX9_init 5 = .ok (.aload_n 1, 1) := dk_43 (dk_at dksX9_init_0 5 rfl rfl)
theorem dX9_init_6 : decode cX9_init 6 = .ok (.putfield 7, 3) := dk_181 0 7 (dk_at dksX9_init_0 6 rfl rfl)
theorem dX9_init_9 : decode cX9_init 9 = .ok (.return_, 1) := dk_177 (dk_at dksX9_init_0 9 rfl rfl)
theorem q142 : (Jvm.Cond.initialized "TallTowers$Spread") ∈ lw_all := lw_g (lw_at lw_m1 16 rfl) rfl
theorem q453 : (Jvm.Cond.instantiable "TallTowers$Spread" (1 : Nat)) ∈ lw_all := lw_g (lw_at lw_m2 87 rfl) rfl
theorem q519 : (Jvm.Cond.instanceMethod ({ cls := "TallTowers$Spread", name := "<init>", desc := "(LTallTowers$Spreading;)V" } : Jvm.MethodName)) ∈ lw_all := lw_g (lw_at lw_m2 153 rfl) rfl
theorem q520 : (Jvm.Cond.code ({ cls := "TallTowers$Spread", name := "<init>", desc := "(LTallTowers$Spreading;)V" } : Jvm.MethodName) prog_11_method_1_code (2 : Nat) (Option.none : Option Jvm.ClassFile.FieldType)) ∈ lw_all := lw_g (lw_at lw_m2 154 rfl) rfl
theorem q521 : (Jvm.Cond.methodLink "TallTowers$Spread" (1 : Nat) ({ cls := "java/lang/Object", name := "<init>", desc := "()V" } : Jvm.MethodName)) ∈ lw_all := lw_g (lw_at lw_m2 155 rfl) rfl
theorem q522 : (Jvm.Cond.fieldLink "TallTowers$Spread" (7 : Nat) "TallTowers$Spread" "way" "LTallTowers$Spreading;") ∈ lw_all := lw_g (lw_at lw_m2 156 rfl) rfl
theorem q524 : (Jvm.Cond.laysFinal "TallTowers$Spread" "TallTowers$Spread" "way" "LTallTowers$Spreading;") ∈ lw_all := lw_g (lw_at lw_m2 158 rfl) rfl
theorem q525 : (Jvm.Cond.soleField "TallTowers$Spread" "way") ∈ lw_all := lw_g (lw_at lw_m2 159 rfl) rfl
theorem q526 : (Jvm.Cond.superclass "TallTowers$Spread" "java/lang/Object") ∈ lw_all := lw_g (lw_at lw_m2 160 rfl) rfl
theorem q596 : (Jvm.Cond.selects "TallTowers$Spread" ({ cls := "java/lang/Object", name := "getClass", desc := "()Ljava/lang/Class;" } : Jvm.MethodName) ({ cls := "java/lang/Object", name := "getClass", desc := "()Ljava/lang/Class;" } : Jvm.MethodName)) ∈ lw_all := lw_g (lw_at lw_m2 230 rfl) rfl
theorem q2464 : (Jvm.Cond.castable "TallTowers$Spread" "java/lang/Object") ∈ lw_tbl := lw_at lw_m10 178 rfl
theorem in_X9 : ∀ w ∈ wsX90, w ∈ lw_all := lw_in wsX90 [524] (by decide +kernel) (by decide +kernel)
/-! java/util/AbstractCollection -/
set_option maxRecDepth 100000
def RJ0 : String := "java/util/AbstractCollection"
abbrev cJ0_init : ByteArray := prog_30_method_1_code
def yJ0_init : MethodName := ⟨RJ0, "<init>", "()V"⟩
theorem dJ0_init_0 : decode cJ0_init 0 = .ok (.aload_n 0, 1) := by decide +kernel
theorem dJ0_init_1 : decode cJ0_init 1 = .ok (.invokespecial 1, 3) := by decide +kernel
theorem dJ0_init_4 : decode cJ0_init 4 = .ok (.return_, 1) := by decide +kernel
abbrev cJ0_isEmpty : ByteArray := prog_30_method_4_code
def yJ0_isEmpty : MethodName := ⟨RJ0, "isEmpty", "()Z"⟩
def dkwJ0_isEmpty_0 : List UInt8 := [42, 182, 0, 7, 154, 0, 7, 4, 167, 0, 4, 3, 172]
abbrev dktJ0_isEmpty_0 : List UInt8 := dkwJ0_isEmpty_0 ++ []
theorem dksJ0_isEmpty_0 : cJ0_isEmpty.data.toList.drop 0 = dktJ0_isEmpty_0 := by decide +kernel
theorem dJ0_isEmpty_0 : decode cJ0_isEmpty 0 = .ok (.aload_n 0, 1) := dk_42 (dk_at dksJ0_isEmpty_0 0 rfl rfl)
theorem dJ0_isEmpty_1 : decode cJ0_isEmpty 1 = .ok (.invokevirtual 7, 3) := dk_182 0 7 (dk_at dksJ0_isEmpty_0 1 rfl rfl)
theorem dJ0_isEmpty_4 : decode cJ0_isEmpty 4 = .ok (.ifCond .ne 7, 3) := dk_154 0 7 (dk_at dksJ0_isEmpty_0 4 rfl rfl)
theorem dJ0_isEmpty_7 : decode cJ0_isEmpty 7 = .ok (.iconst 1, 1) := dk_4 (dk_at dksJ0_isEmpty_0 7 rfl rfl)
theorem dJ0_isEmpty_8 : decode cJ0_isEmpty 8 = .ok (.goto 4, 3) := dk_167 0 4 (dk_at dksJ0_isEmpty_0 8 rfl rfl)
theorem dJ0_isEmpty_11 : decode cJ0_isEmpty 11 = .ok (.iconst 0, 1) := dk_3 (dk_at dksJ0_isEmpty_0 11 rfl rfl)
theorem dJ0_isEmpty_12 : decode cJ0_isEmpty 12 = .ok (.ireturn, 1) := dk_172 (dk_at dksJ0_isEmpty_0 12 rfl rfl)
theorem q130 : (Jvm.Cond.initialized "java/util/AbstractCollection") ∈ lw_all := lw_g (lw_at lw_m1 4 rfl) rfl
theorem q204 : (Jvm.Cond.instanceMethod ({ cls := "java/util/AbstractCollection", name := "<init>", desc := "()V" } : Jvm.MethodName)) ∈ lw_all := lw_g (lw_at lw_m1 78 rfl) rfl
theorem q205 : (Jvm.Cond.code ({ cls := "java/util/AbstractCollection", name := "<init>", desc := "()V" } : Jvm.MethodName) prog_30_method_1_code (1 : Nat) (Option.none : Option Jvm.ClassFile.FieldType)) ∈ lw_all := lw_g (lw_at lw_m1 79 rfl) rfl
theorem q206 : (Jvm.Cond.methodLink "java/util/AbstractCollection" (1 : Nat) ({ cls := "java/lang/Object", name := "<init>", desc := "()V" } : Jvm.MethodName)) ∈ lw_all := lw_g (lw_at lw_m1 80 rfl) rfl
theorem q669 : (Jvm.Cond.declares ({ cls := "java/util/AbstractCollection", name := "isEmpty", desc := "()Z" } : Jvm.MethodName)) ∈ lw_tbl := lw_at lw_m3 63 rfl
theorem q671 : (Jvm.Cond.instanceMethod ({ cls := "java/util/AbstractCollection", name := "isEmpty", desc := "()Z" } : Jvm.MethodName)) ∈ lw_all := lw_g (lw_at lw_m3 65 rfl) rfl
theorem q672 : (Jvm.Cond.code ({ cls := "java/util/AbstractCollection", name := "isEmpty", desc := "()Z" } : Jvm.MethodName) prog_30_method_4_code (1 : Nat) (Option.some Jvm.ClassFile.FieldType.boolean)) ∈ lw_all := lw_g (lw_at lw_m3 66 rfl) rfl
theorem q673 : (Jvm.Cond.methodLink "java/util/AbstractCollection" (7 : Nat) ({ cls := "java/util/AbstractCollection", name := "size", desc := "()I" } : Jvm.MethodName)) ∈ lw_all := lw_g (lw_at lw_m3 67 rfl) rfl
theorem q674 : (Jvm.Cond.declares ({ cls := "java/util/AbstractCollection", name := "size", desc := "()I" } : Jvm.MethodName)) ∈ lw_tbl := lw_at lw_m3 68 rfl
theorem q675 : (Jvm.Cond.sameMethod "java/util/AbstractCollection" "java/util/AbstractCollection" "size" "()I") ∈ lw_all := lw_g (lw_at lw_m3 69 rfl) rfl
/-! java/util/PriorityQueue -/
set_option maxRecDepth 100000
def RJ2 : String := "java/util/PriorityQueue"
def TJ2 : u_T := fun k => match k with
  | 0 => ("java/util/PriorityQueue", "queue", "[Ljava/lang/Object;", false)
  | 1 => ("java/util/PriorityQueue", "size", "I", false)
  | 2 => ("java/util/PriorityQueue", "comparator", "Ljava/util/Comparator;", true)
  | _ => ("java/util/PriorityQueue", "modCount", "I", false)
def tyJ2 : Nat → FieldType := fun k => match k with
  | 0 => .array (.object "java/lang/Object")
  | 1 => .int
  | 2 => .object "java/util/Comparator"
  | _ => .int
abbrev wsJ20 : List Cond := u_ws RJ2 TJ2 4
theorem nmJ2 : ∀ a, a < 4 → ∀ b, b < 4 → a ≠ b → (TJ2 a).2.1 ≠ (TJ2 b).2.1 := by decide +kernel
theorem tyJ2_ok : ∀ k, k < 4 → parseFieldDescriptor (TJ2 k).2.2.1 = some (tyJ2 k) := by decide +kernel
abbrev cJ2_init : ByteArray := prog_43_method_4_code
def yJ2_init : MethodName := ⟨RJ2, "<init>", "(ILjava/util/Comparator;)V"⟩
def dkwJ2_init_1 : List UInt8 := [181, 0, 17, 42, 44, 181, 0, 21, 177]
abbrev dktJ2_init_1 : List UInt8 := dkwJ2_init_1 ++ []
def dkwJ2_init_0 : List UInt8 := [42, 183, 0, 7, 27, 4, 162, 0, 11, 187, 0, 12, 89, 183, 0, 14, 191, 42, 27, 189, 0, 15]
abbrev dktJ2_init_0 : List UInt8 := dkwJ2_init_0 ++ dktJ2_init_1
theorem dksJ2_init_0 : cJ2_init.data.toList.drop 0 = dktJ2_init_0 := by decide +kernel
theorem dksJ2_init_1 : cJ2_init.data.toList.drop 22 = dktJ2_init_1 := dk_seg dksJ2_init_0 22 rfl rfl
theorem dJ2_init_0 : decode cJ2_init 0 = .ok (.aload_n 0, 1) := dk_42 (dk_at dksJ2_init_0 0 rfl rfl)
theorem dJ2_init_1 : decode cJ2_init 1 = .ok (.invokespecial 7, 3) := dk_183 0 7 (dk_at dksJ2_init_0 1 rfl rfl)
theorem dJ2_init_4 : decode cJ2_init 4 = .ok (.iload_n 1, 1) := dk_27 (dk_at dksJ2_init_0 4 rfl rfl)
theorem dJ2_init_5 : decode cJ2_init 5 = .ok (.iconst 1, 1) := dk_4 (dk_at dksJ2_init_0 5 rfl rfl)
theorem dJ2_init_6 : decode cJ2_init 6 = .ok (.if_icmp .ge 11, 3) := dk_162 0 11 (dk_at dksJ2_init_0 6 rfl rfl)
theorem dJ2_init_9 : decode cJ2_init 9 = .ok (.new 12, 3) := dk_187 0 12 (dk_at dksJ2_init_0 9 rfl rfl)
theorem dJ2_init_12 : decode cJ2_init 12 = .ok (.dup, 1) := dk_89 (dk_at dksJ2_init_0 12 rfl rfl)
theorem dJ2_init_13 : decode cJ2_init 13 = .ok (.invokespecial 14, 3) := dk_183 0 14 (dk_at dksJ2_init_0 13 rfl rfl)
theorem dJ2_init_16 : decode cJ2_init 16 = .ok (.athrow, 1) := dk_191 (dk_at dksJ2_init_0 16 rfl rfl)
theorem dJ2_init_17 : decode cJ2_init 17 = .ok (.aload_n 0, 1) := dk_42 (dk_at dksJ2_init_0 17 rfl rfl)
theorem dJ2_init_18 : decode cJ2_init 18 = .ok (.iload_n 1, 1) := dk_27 (dk_at dksJ2_init_0 18 rfl rfl)
theorem dJ2_init_19 : decode cJ2_init 19 = .ok (.anewarray 15, 3) := dk_189 0 15 (dk_at dksJ2_init_0 19 rfl rfl)
theorem dJ2_init_22 : decode cJ2_init 22 = .ok (.putfield 17, 3) := dk_181 0 17 (dk_at dksJ2_init_1 0 rfl rfl)
theorem dJ2_init_25 : decode cJ2_init 25 = .ok (.aload_n 0, 1) := dk_42 (dk_at dksJ2_init_1 3 rfl rfl)
theorem dJ2_init_26 : decode cJ2_init 26 = .ok (.aload_n 2, 1) := dk_44 (dk_at dksJ2_init_1 4 rfl rfl)
theorem dJ2_init_27 : decode cJ2_init 27 = .ok (.putfield 21, 3) := dk_181 0 21 (dk_at dksJ2_init_1 5 rfl rfl)
theorem dJ2_init_30 : decode cJ2_init 30 = .ok (.return_, 1) := dk_177 (dk_at dksJ2_init_1 8 rfl rfl)
abbrev cJ2_clear : ByteArray := prog_43_method_24_code
def yJ2_clear : MethodName := ⟨RJ2, "clear", "()V"⟩
def dkwJ2_clear_1 : List UInt8 := [162, 0, 13, 43, 28, 1, 83, 132, 2, 1, 167, 255, 244, 42, 3, 181, 0, 58, 177]
abbrev dktJ2_clear_1 : List UInt8 := dkwJ2_clear_1 ++ []
def dkwJ2_clear_0 : List UInt8 := [42, 89, 180, 0, 93, 4, 96, 181, 0, 93, 42, 180, 0, 17, 76, 3, 61, 42, 180, 0, 58, 62, 28, 29]
abbrev dktJ2_clear_0 : List UInt8 := dkwJ2_clear_0 ++ dktJ2_clear_1
theorem dksJ2_clear_0 : cJ2_clear.data.toList.drop 0 = dktJ2_clear_0 := by decide +kernel
theorem dksJ2_clear_1 : cJ2_clear.data.toList.drop 24 = dktJ2_clear_1 := dk_seg dksJ2_clear_0 24 rfl rfl
theorem dJ2_clear_0 : decode cJ2_clear 0 = .ok (.aload_n 0, 1) := dk_42 (dk_at dksJ2_clear_0 0 rfl rfl)
theorem dJ2_clear_1 : decode cJ2_clear 1 = .ok (.dup, 1) := dk_89 (dk_at dksJ2_clear_0 1 rfl rfl)
theorem dJ2_clear_2 : decode cJ2_clear 2 = .ok (.getfield 93, 3) := dk_180 0 93 (dk_at dksJ2_clear_0 2 rfl rfl)
theorem dJ2_clear_5 : decode cJ2_clear 5 = .ok (.iconst 1, 1) := dk_4 (dk_at dksJ2_clear_0 5 rfl rfl)
theorem dJ2_clear_6 : decode cJ2_clear 6 = .ok (.iadd, 1) := dk_96 (dk_at dksJ2_clear_0 6 rfl rfl)
theorem dJ2_clear_7 : decode cJ2_clear 7 = .ok (.putfield 93, 3) := dk_181 0 93 (dk_at dksJ2_clear_0 7 rfl rfl)
theorem dJ2_clear_10 : decode cJ2_clear 10 = .ok (.aload_n 0, 1) := dk_42 (dk_at dksJ2_clear_0 10 rfl rfl)
theorem dJ2_clear_11 : decode cJ2_clear 11 = .ok (.getfield 17, 3) := dk_180 0 17 (dk_at dksJ2_clear_0 11 rfl rfl)
theorem dJ2_clear_14 : decode cJ2_clear 14 = .ok (.astore_n 1, 1) := dk_76 (dk_at dksJ2_clear_0 14 rfl rfl)
theorem dJ2_clear_15 : decode cJ2_clear 15 = .ok (.iconst 0, 1) := dk_3 (dk_at dksJ2_clear_0 15 rfl rfl)
theorem dJ2_clear_16 : decode cJ2_clear 16 = .ok (.istore_n 2, 1) := dk_61 (dk_at dksJ2_clear_0 16 rfl rfl)
theorem dJ2_clear_17 : decode cJ2_clear 17 = .ok (.aload_n 0, 1) := dk_42 (dk_at dksJ2_clear_0 17 rfl rfl)
theorem dJ2_clear_18 : decode cJ2_clear 18 = .ok (.getfield 58, 3) := dk_180 0 58 (dk_at dksJ2_clear_0 18 rfl rfl)
theorem dJ2_clear_21 : decode cJ2_clear 21 = .ok (.istore_n 3, 1) := dk_62 (dk_at dksJ2_clear_0 21 rfl rfl)
theorem dJ2_clear_22 : decode cJ2_clear 22 = .ok (.iload_n 2, 1) := dk_28 (dk_at dksJ2_clear_0 22 rfl rfl)
theorem dJ2_clear_23 : decode cJ2_clear 23 = .ok (.iload_n 3, 1) := dk_29 (dk_at dksJ2_clear_0 23 rfl rfl)
theorem dJ2_clear_24 : decode cJ2_clear 24 = .ok (.if_icmp .ge 13, 3) := dk_162 0 13 (dk_at dksJ2_clear_1 0 rfl rfl)
theorem dJ2_clear_27 : decode cJ2_clear 27 = .ok (.aload_n 1, 1) := dk_43 (dk_at dksJ2_clear_1 3 rfl rfl)
theorem dJ2_clear_28 : decode cJ2_clear 28 = .ok (.iload_n 2, 1) := dk_28 (dk_at dksJ2_clear_1 4 rfl rfl)
theorem dJ2_clear_29 : decode cJ2_clear 29 = .ok (.aconst_null, 1) := dk_1 (dk_at dksJ2_clear_1 5 rfl rfl)
theorem dJ2_clear_30 : decode cJ2_clear 30 = .ok (.aastore, 1) := dk_83 (dk_at dksJ2_clear_1 6 rfl rfl)
theorem dJ2_clear_31 : decode cJ2_clear 31 = .ok (.iinc 2 1, 3) := dk_132 2 1 (dk_at dksJ2_clear_1 7 rfl rfl)
theorem dJ2_clear_34 : decode cJ2_clear 34 = .ok (.goto (-12), 3) := dk_167 255 244 (dk_at dksJ2_clear_1 10 rfl rfl)
theorem dJ2_clear_37 : decode cJ2_clear 37 = .ok (.aload_n 0, 1) := dk_42 (dk_at dksJ2_clear_1 13 rfl rfl)
theorem dJ2_clear_38 : decode cJ2_clear 38 = .ok (.iconst 0, 1) := dk_3 (dk_at dksJ2_clear_1 14 rfl rfl)
theorem dJ2_clear_39 : decode cJ2_clear 39 = .ok (.putfield 58, 3) := dk_181 0 58 (dk_at dksJ2_clear_1 15 rfl rfl)
theorem dJ2_clear_42 : decode cJ2_clear 42 = .ok (.return_, 1) := dk_177 (dk_at dksJ2_clear_1 18 rfl rfl)
abbrev cJ2_add : ByteArray := prog_43_method_13_code
def yJ2_add : MethodName := ⟨RJ2, "add", "(Ljava/lang/Object;)Z"⟩
def dkwJ2_add_0 : List UInt8 := [42, 43, 182, 0, 89, 172]
abbrev dktJ2_add_0 : List UInt8 := dkwJ2_add_0 ++ []
theorem dksJ2_add_0 : cJ2_add.data.toList.drop 0 = dktJ2_add_0 := by decide +kernel
theorem dJ2_add_0 : decode cJ2_add 0 = .ok (.aload_n 0, 1) := dk_42 (dk_at dksJ2_add_0 0 rfl rfl)
theorem dJ2_add_1 : decode cJ2_add 1 = .ok (.aload_n 1, 1) := dk_43 (dk_at dksJ2_add_0 1 rfl rfl)
theorem dJ2_add_2 : decode cJ2_add 2 = .ok (.invokevirtual 89, 3) := dk_182 0 89 (dk_at dksJ2_add_0 2 rfl rfl)
theorem dJ2_add_5 : decode cJ2_add 5 = .ok (.ireturn, 1) := dk_172 (dk_at dksJ2_add_0 5 rfl rfl)
abbrev cJ2_offer : ByteArray := prog_43_method_14_code
def yJ2_offer : MethodName := ⟨RJ2, "offer", "(Ljava/lang/Object;)Z"⟩
def dkwJ2_offer_2 : List UInt8 := [182, 0, 100, 42, 28, 4, 96, 181, 0, 58, 4, 172]
abbrev dktJ2_offer_2 : List UInt8 := dkwJ2_offer_2 ++ []
def dkwJ2_offer_1 : List UInt8 := [180, 0, 58, 61, 28, 42, 180, 0, 17, 190, 161, 0, 10, 42, 28, 4, 96, 182, 0, 96, 42, 28, 43]
abbrev dktJ2_offer_1 : List UInt8 := dkwJ2_offer_1 ++ dktJ2_offer_2
def dkwJ2_offer_0 : List UInt8 := [43, 199, 0, 11, 187, 0, 74, 89, 183, 0, 76, 191, 42, 89, 180, 0, 93, 4, 96, 181, 0, 93, 42]
abbrev dktJ2_offer_0 : List UInt8 := dkwJ2_offer_0 ++ dktJ2_offer_1
theorem dksJ2_offer_0 : cJ2_offer.data.toList.drop 0 = dktJ2_offer_0 := by decide +kernel
theorem dksJ2_offer_1 : cJ2_offer.data.toList.drop 23 = dktJ2_offer_1 := dk_seg dksJ2_offer_0 23 rfl rfl
theorem dksJ2_offer_2 : cJ2_offer.data.toList.drop 46 = dktJ2_offer_2 := dk_seg dksJ2_offer_1 23 rfl rfl
theorem dJ2_offer_0 : decode cJ2_offer 0 = .ok (.aload_n 1, 1) := dk_43 (dk_at dksJ2_offer_0 0 rfl rfl)
theorem dJ2_offer_1 : decode cJ2_offer 1 = .ok (.ifnonnull 11, 3) := dk_199 0 11 (dk_at dksJ2_offer_0 1 rfl rfl)
theorem dJ2_offer_4 : decode cJ2_offer 4 = .ok (.new 74, 3) := dk_187 0 74 (dk_at dksJ2_offer_0 4 rfl rfl)
theorem dJ2_offer_7 : decode cJ2_offer 7 = .ok (.dup, 1) := dk_89 (dk_at dksJ2_offer_0 7 rfl rfl)
theorem dJ2_offer_8 : decode cJ2_offer 8 = .ok (.invokespecial 76, 3) := dk_183 0 76 (dk_at dksJ2_offer_0 8 rfl rfl)
theorem dJ2_offer_11 : decode cJ2_offer 11 = .ok (.athrow, 1) := dk_191 (dk_at dksJ2_offer_0 11 rfl rfl)
theorem dJ2_offer_12 : decode cJ2_offer 12 = .ok (.aload_n 0, 1) := dk_42 (dk_at dksJ2_offer_0 12 rfl rfl)
theorem dJ2_offer_13 : decode cJ2_offer 13 = .ok (.dup, 1) := dk_89 (dk_at dksJ2_offer_0 13 rfl rfl)
theorem dJ2_offer_14 : decode cJ2_offer 14 = .ok (.getfield 93, 3) := dk_180 0 93 (dk_at dksJ2_offer_0 14 rfl rfl)
theorem dJ2_offer_17 : decode cJ2_offer 17 = .ok (.iconst 1, 1) := dk_4 (dk_at dksJ2_offer_0 17 rfl rfl)
theorem dJ2_offer_18 : decode cJ2_offer 18 = .ok (.iadd, 1) := dk_96 (dk_at dksJ2_offer_0 18 rfl rfl)
theorem dJ2_offer_19 : decode cJ2_offer 19 = .ok (.putfield 93, 3) := dk_181 0 93 (dk_at dksJ2_offer_0 19 rfl rfl)
theorem dJ2_offer_22 : decode cJ2_offer 22 = .ok (.aload_n 0, 1) := dk_42 (dk_at dksJ2_offer_0 22 rfl rfl)
theorem dJ2_offer_23 : decode cJ2_offer 23 = .ok (.getfield 58, 3) := dk_180 0 58 (dk_at dksJ2_offer_1 0 rfl rfl)
theorem dJ2_offer_26 : decode cJ2_offer 26 = .ok (.istore_n 2, 1) := dk_61 (dk_at dksJ2_offer_1 3 rfl rfl)
theorem dJ2_offer_27 : decode cJ2_offer 27 = .ok (.iload_n 2, 1) := dk_28 (dk_at dksJ2_offer_1 4 rfl rfl)
theorem dJ2_offer_28 : decode cJ2_offer 28 = .ok (.aload_n 0, 1) := dk_42 (dk_at dksJ2_offer_1 5 rfl rfl)
theorem dJ2_offer_29 : decode cJ2_offer 29 = .ok (.getfield 17, 3) := dk_180 0 17 (dk_at dksJ2_offer_1 6 rfl rfl)
theorem dJ2_offer_32 : decode cJ2_offer 32 = .ok (.arraylength, 1) := dk_190 (dk_at dksJ2_offer_1 9 rfl rfl)
theorem dJ2_offer_33 : decode cJ2_offer 33 = .ok (.if_icmp .lt 10, 3) := dk_161 0 10 (dk_at dksJ2_offer_1 10 rfl rfl)
theorem dJ2_offer_36 : decode cJ2_offer 36 = .ok (.aload_n 0, 1) := dk_42 (dk_at dksJ2_offer_1 13 rfl rfl)
theorem dJ2_offer_37 : decode cJ2_offer 37 = .ok (.iload_n 2, 1) := dk_28 (dk_at dksJ2_offer_1 14 rfl rfl)
theorem dJ2_offer_38 : decode cJ2_offer 38 = .ok (.iconst 1, 1) := dk_4 (dk_at dksJ2_offer_1 15 rfl rfl)
theorem dJ2_offer_39 : decode cJ2_offer 39 = .ok (.iadd, 1) := dk_96 (dk_at dksJ2_offer_1 16 rfl rfl)
theorem dJ2_offer_40 : decode cJ2_offer 40 = .ok (.invokevirtual 96, 3) := dk_182 0 96 (dk_at dksJ2_offer_1 17 rfl rfl)
theorem dJ2_offer_43 : decode cJ2_offer 43 = .ok (.aload_n 0, 1) := dk_42 (dk_at dksJ2_offer_1 20 rfl rfl)
theorem dJ2_offer_44 : decode cJ2_offer 44 = .ok (.iload_n 2, 1) := dk_28 (dk_at dksJ2_offer_1 21 rfl rfl)
theorem dJ2_offer_45 : decode cJ2_offer 45 = .ok (.aload_n 1, 1) := dk_43 (dk_at dksJ2_offer_1 22 rfl rfl)
theorem dJ2_offer_46 : decode cJ2_offer 46 = .ok (.invokevirtual 100, 3) := dk_182 0 100 (dk_at dksJ2_offer_2 0 rfl rfl)
theorem dJ2_offer_49 : decode cJ2_offer 49 = .ok (.aload_n 0, 1) := dk_42 (dk_at dksJ2_offer_2 3 rfl rfl)
theorem dJ2_offer_50 : decode cJ2_offer 50 = .ok (.iload_n 2, 1) := dk_28 (dk_at dksJ2_offer_2 4 rfl rfl)
theorem dJ2_offer_51 : decode cJ2_offer 51 = .ok (.iconst 1, 1) := dk_4 (dk_at dksJ2_offer_2 5 rfl rfl)
theorem dJ2_offer_52 : decode cJ2_offer 52 = .ok (.iadd, 1) := dk_96 (dk_at dksJ2_offer_2 6 rfl rfl)
theorem dJ2_offer_53 : decode cJ2_offer 53 = .ok (.putfield 58, 3) := dk_181 0 58 (dk_at dksJ2_offer_2 7 rfl rfl)
theorem dJ2_offer_56 : decode cJ2_offer 56 = .ok (.iconst 1, 1) := dk_4 (dk_at dksJ2_offer_2 10 rfl rfl)
theorem dJ2_offer_57 : decode cJ2_offer 57 = .ok (.ireturn, 1) := dk_172 (dk_at dksJ2_offer_2 11 rfl rfl)
abbrev cJ2_grow : ByteArray := prog_43_method_12_code
def yJ2_grow : MethodName := ⟨RJ2, "grow", "(I)V"⟩
def dkwJ2_grow_1 : List UInt8 := [122, 184, 0, 80, 62, 42, 42, 180, 0, 17, 29, 184, 0, 86, 181, 0, 17, 177]
abbrev dktJ2_grow_1 : List UInt8 := dkwJ2_grow_1 ++ []
def dkwJ2_grow_0 : List UInt8 := [42, 180, 0, 17, 190, 61, 28, 27, 28, 100, 28, 16, 64, 162, 0, 9, 28, 5, 96, 167, 0, 6, 28, 4]
abbrev dktJ2_grow_0 : List UInt8 := dkwJ2_grow_0 ++ dktJ2_grow_1
theorem dksJ2_grow_0 : cJ2_grow.data.toList.drop 0 = dktJ2_grow_0 := by decide +kernel
theorem dksJ2_grow_1 : cJ2_grow.data.toList.drop 24 = dktJ2_grow_1 := dk_seg dksJ2_grow_0 24 rfl rfl
theorem dJ2_grow_0 : decode cJ2_grow 0 = .ok (.aload_n 0, 1) := dk_42 (dk_at dksJ2_grow_0 0 rfl rfl)
theorem dJ2_grow_1 : decode cJ2_grow 1 = .ok (.getfield 17, 3) := dk_180 0 17 (dk_at dksJ2_grow_0 1 rfl rfl)
theorem dJ2_grow_4 : decode cJ2_grow 4 = .ok (.arraylength, 1) := dk_190 (dk_at dksJ2_grow_0 4 rfl rfl)
theorem dJ2_grow_5 : decode cJ2_grow 5 = .ok (.istore_n 2, 1) := dk_61 (dk_at dksJ2_grow_0 5 rfl rfl)
theorem dJ2_grow_6 : decode cJ2_grow 6 = .ok (.iload_n 2, 1) := dk_28 (dk_at dksJ2_grow_0 6 rfl rfl)
theorem dJ2_grow_7 : decode cJ2_grow 7 = .ok (.iload_n 1, 1) := dk_27 (dk_at dksJ2_grow_0 7 rfl rfl)
theorem dJ2_grow_8 : decode cJ2_grow 8 = .ok (.iload_n 2, 1) := dk_28 (dk_at dksJ2_grow_0 8 rfl rfl)
theorem dJ2_grow_9 : decode cJ2_grow 9 = .ok (.isub, 1) := dk_100 (dk_at dksJ2_grow_0 9 rfl rfl)
theorem dJ2_grow_10 : decode cJ2_grow 10 = .ok (.iload_n 2, 1) := dk_28 (dk_at dksJ2_grow_0 10 rfl rfl)
theorem dJ2_grow_11 : decode cJ2_grow 11 = .ok (.bipush 64, 2) := dk_16 64 (dk_at dksJ2_grow_0 11 rfl rfl)
theorem dJ2_grow_13 : decode cJ2_grow 13 = .ok (.if_icmp .ge 9, 3) := dk_162 0 9 (dk_at dksJ2_grow_0 13 rfl rfl)
theorem dJ2_grow_16 : decode cJ2_grow 16 = .ok (.iload_n 2, 1) := dk_28 (dk_at dksJ2_grow_0 16 rfl rfl)
theorem dJ2_grow_17 : decode cJ2_grow 17 = .ok (.iconst 2, 1) := dk_5 (dk_at dksJ2_grow_0 17 rfl rfl)
theorem dJ2_grow_18 : decode cJ2_grow 18 = .ok (.iadd, 1) := dk_96 (dk_at dksJ2_grow_0 18 rfl rfl)
theorem dJ2_grow_19 : decode cJ2_grow 19 = .ok (.goto 6, 3) := dk_167 0 6 (dk_at dksJ2_grow_0 19 rfl rfl)
theorem dJ2_grow_22 : decode cJ2_grow 22 = .ok (.iload_n 2, 1) := dk_28 (dk_at dksJ2_grow_0 22 rfl rfl)
theorem dJ2_grow_23 : decode cJ2_grow 23 = .ok (.iconst 1, 1) := dk_4 (dk_at dksJ2_grow_0 23 rfl rfl)
theorem dJ2_grow_24 : decode cJ2_grow 24 = .ok (.ishr, 1) := dk_122 (dk_at dksJ2_grow_1 0 rfl rfl)
theorem dJ2_grow_25 : decode cJ2_grow 25 = .ok (.invokestatic 80, 3) := dk_184 0 80 (dk_at dksJ2_grow_1 1 rfl rfl)
theorem dJ2_grow_28 : decode cJ2_grow 28 = .ok (.istore_n 3, 1) := dk_62 (dk_at dksJ2_grow_1 4 rfl rfl)
theorem dJ2_grow_29 : decode cJ2_grow 29 = .ok (.aload_n 0, 1) := dk_42 (dk_at dksJ2_grow_1 5 rfl rfl)
theorem dJ2_grow_30 : decode cJ2_grow 30 = .ok (.aload_n 0, 1) := dk_42 (dk_at dksJ2_grow_1 6 rfl rfl)
theorem dJ2_grow_31 : decode cJ2_grow 31 = .ok (.getfield 17, 3) := dk_180 0 17 (dk_at dksJ2_grow_1 7 rfl rfl)
theorem dJ2_grow_34 : decode cJ2_grow 34 = .ok (.iload_n 3, 1) := dk_29 (dk_at dksJ2_grow_1 10 rfl rfl)
theorem dJ2_grow_35 : decode cJ2_grow 35 = .ok (.invokestatic 86, 3) := dk_184 0 86 (dk_at dksJ2_grow_1 11 rfl rfl)
theorem dJ2_grow_38 : decode cJ2_grow 38 = .ok (.putfield 17, 3) := dk_181 0 17 (dk_at dksJ2_grow_1 14 rfl rfl)
theorem dJ2_grow_41 : decode cJ2_grow 41 = .ok (.return_, 1) := dk_177 (dk_at dksJ2_grow_1 17 rfl rfl)
abbrev cJ2_siftUp : ByteArray := prog_43_method_27_code
def yJ2_siftUp : MethodName := ⟨RJ2, "siftUp", "(ILjava/lang/Object;)V"⟩
def dkwJ2_siftUp_1 : List UInt8 := [44, 42, 180, 0, 17, 184, 0, 140, 177]
abbrev dktJ2_siftUp_1 : List UInt8 := dkwJ2_siftUp_1 ++ []
def dkwJ2_siftUp_0 : List UInt8 := [42, 180, 0, 21, 198, 0, 19, 27, 44, 42, 180, 0, 17, 42, 180, 0, 21, 184, 0, 136, 167, 0, 12, 27]
abbrev dktJ2_siftUp_0 : List UInt8 := dkwJ2_siftUp_0 ++ dktJ2_siftUp_1
theorem dksJ2_siftUp_0 : cJ2_siftUp.data.toList.drop 0 = dktJ2_siftUp_0 := by decide +kernel
theorem dksJ2_siftUp_1 : cJ2_siftUp.data.toList.drop 24 = dktJ2_siftUp_1 := dk_seg dksJ2_siftUp_0 24 rfl rfl
theorem dJ2_siftUp_0 : decode cJ2_siftUp 0 = .ok (.aload_n 0, 1) := dk_42 (dk_at dksJ2_siftUp_0 0 rfl rfl)
theorem dJ2_siftUp_1 : decode cJ2_siftUp 1 = .ok (.getfield 21, 3) := dk_180 0 21 (dk_at dksJ2_siftUp_0 1 rfl rfl)
theorem dJ2_siftUp_4 : decode cJ2_siftUp 4 = .ok (.ifnull 19, 3) := dk_198 0 19 (dk_at dksJ2_siftUp_0 4 rfl rfl)
theorem dJ2_siftUp_7 : decode cJ2_siftUp 7 = .ok (.iload_n 1, 1) := dk_27 (dk_at dksJ2_siftUp_0 7 rfl rfl)
theorem dJ2_siftUp_8 : decode cJ2_siftUp 8 = .ok (.aload_n 2, 1) := dk_44 (dk_at dksJ2_siftUp_0 8 rfl rfl)
theorem dJ2_siftUp_9 : decode cJ2_siftUp 9 = .ok (.aload_n 0, 1) := dk_42 (dk_at dksJ2_siftUp_0 9 rfl rfl)
theorem dJ2_siftUp_10 : decode cJ2_siftUp 10 = .ok (.getfield 17, 3) := dk_180 0 17 (dk_at dksJ2_siftUp_0 10 rfl rfl)
theorem dJ2_siftUp_13 : decode cJ2_siftUp 13 = .ok (.aload_n 0, 1) := dk_42 (dk_at dksJ2_siftUp_0 13 rfl rfl)
theorem dJ2_siftUp_14 : decode cJ2_siftUp 14 = .ok (.getfield 21, 3) := dk_180 0 21 (dk_at dksJ2_siftUp_0 14 rfl rfl)
theorem dJ2_siftUp_17 : decode cJ2_siftUp 17 = .ok (.invokestatic 136, 3) := dk_184 0 136 (dk_at dksJ2_siftUp_0 17 rfl rfl)
theorem dJ2_siftUp_20 : decode cJ2_siftUp 20 = .ok (.goto 12, 3) := dk_167 0 12 (dk_at dksJ2_siftUp_0 20 rfl rfl)
theorem dJ2_siftUp_23 : decode cJ2_siftUp 23 = .ok (.iload_n 1, 1) := dk_27 (dk_at dksJ2_siftUp_0 23 rfl rfl)
theorem dJ2_siftUp_24 : decode cJ2_siftUp 24 = .ok (.aload_n 2, 1) := dk_44 (dk_at dksJ2_siftUp_1 0 rfl rfl)
theorem dJ2_siftUp_25 : decode cJ2_siftUp 25 = .ok (.aload_n 0, 1) := dk_42 (dk_at dksJ2_siftUp_1 1 rfl rfl)
theorem dJ2_siftUp_26 : decode cJ2_siftUp 26 = .ok (.getfield 17, 3) := dk_180 0 17 (dk_at dksJ2_siftUp_1 2 rfl rfl)
theorem dJ2_siftUp_29 : decode cJ2_siftUp 29 = .ok (.invokestatic 140, 3) := dk_184 0 140 (dk_at dksJ2_siftUp_1 5 rfl rfl)
theorem dJ2_siftUp_32 : decode cJ2_siftUp 32 = .ok (.return_, 1) := dk_177 (dk_at dksJ2_siftUp_1 8 rfl rfl)
abbrev cJ2_siftUpUsingComparator : ByteArray := prog_43_method_29_code
def yJ2_siftUpUsingComparator : MethodName := ⟨RJ2, "siftUpUsingComparator", "(ILjava/lang/Object;[Ljava/lang/Object;Ljava/util/Comparator;)V"⟩
def dkwJ2_siftUpUsingComparator_2 : List UInt8 := [43, 83, 177]
abbrev dktJ2_siftUpUsingComparator_2 : List UInt8 := dkwJ2_siftUpUsingComparator_2 ++ []
def dkwJ2_siftUpUsingComparator_1 : List UInt8 := [185, 0, 149, 3, 0, 155, 0, 6, 167, 0, 14, 44, 26, 25, 5, 83, 21, 4, 59, 167, 255, 216, 44, 26]
abbrev dktJ2_siftUpUsingComparator_1 : List UInt8 := dkwJ2_siftUpUsingComparator_1 ++ dktJ2_siftUpUsingComparator_2
def dkwJ2_siftUpUsingComparator_0 : List UInt8 := [26, 158, 0, 42, 26, 4, 100, 4, 124, 54, 4, 44, 21, 4, 50, 58, 5, 45, 43, 25, 5]
abbrev dktJ2_siftUpUsingComparator_0 : List UInt8 := dkwJ2_siftUpUsingComparator_0 ++ dktJ2_siftUpUsingComparator_1
theorem dksJ2_siftUpUsingComparator_0 : cJ2_siftUpUsingComparator.data.toList.drop 0 = dktJ2_siftUpUsingComparator_0 := by decide +kernel
theorem dksJ2_siftUpUsingComparator_1 : cJ2_siftUpUsingComparator.data.toList.drop 21 = dktJ2_siftUpUsingComparator_1 := dk_seg dksJ2_siftUpUsingComparator_0 21 rfl rfl
theorem dksJ2_siftUpUsingComparator_2 : cJ2_siftUpUsingComparator.data.toList.drop 45 = dktJ2_siftUpUsingComparator_2 := dk_seg dksJ2_siftUpUsingComparator_1 24 rfl rfl
theorem dJ2_siftUpUsingComparator_0 : decode cJ2_siftUpUsingComparator 0 = .ok (.iload_n 0, 1) := dk_26 (dk_at dksJ2_siftUpUsingComparator_0 0 rfl rfl)
theorem dJ2_siftUpUsingComparator_1 : decode cJ2_siftUpUsingComparator 1 = .ok (.ifCond .le 42, 3) := dk_158 0 42 (dk_at dksJ2_siftUpUsingComparator_0 1 rfl rfl)
theorem dJ2_siftUpUsingComparator_4 : decode cJ2_siftUpUsingComparator 4 = .ok (.iload_n 0, 1) := dk_26 (dk_at dksJ2_siftUpUsingComparator_0 4 rfl rfl)
theorem dJ2_siftUpUsingComparator_5 : decode cJ2_siftUpUsingComparator 5 = .ok (.iconst 1, 1) := dk_4 (dk_at dksJ2_siftUpUsingComparator_0 5 rfl rfl)
theorem dJ2_siftUpUsingComparator_6 : decode cJ2_siftUpUsingComparator 6 = .ok (.isub, 1) := dk_100 (dk_at dksJ2_siftUpUsingComparator_0 6 rfl rfl)
theorem dJ2_siftUpUsingComparator_7 : decode cJ2_siftUpUsingComparator 7 = .ok (.iconst 1, 1) := dk_4 (dk_at dksJ2_siftUpUsingComparator_0 7 rfl rfl)
theorem dJ2_siftUpUsingComparator_8 : decode cJ2_siftUpUsingComparator 8 = .ok (.iushr, 1) := dk_124 (dk_at dksJ2_siftUpUsingComparator_0 8 rfl rfl)
theorem dJ2_siftUpUsingComparator_9 : decode cJ2_siftUpUsingComparator 9 = .ok (.istore 4, 2) := dk_54 4 (dk_at dksJ2_siftUpUsingComparator_0 9 rfl rfl)
theorem dJ2_siftUpUsingComparator_11 : decode cJ2_siftUpUsingComparator 11 = .ok (.aload_n 2, 1) := dk_44 (dk_at dksJ2_siftUpUsingComparator_0 11 rfl rfl)
theorem dJ2_siftUpUsingComparator_12 : decode cJ2_siftUpUsingComparator 12 = .ok (.iload 4, 2) := dk_21 4 (dk_at dksJ2_siftUpUsingComparator_0 12 rfl rfl)
theorem dJ2_siftUpUsingComparator_14 : decode cJ2_siftUpUsingComparator 14 = .ok (.aaload, 1) := dk_50 (dk_at dksJ2_siftUpUsingComparator_0 14 rfl rfl)
theorem dJ2_siftUpUsingComparator_15 : decode cJ2_siftUpUsingComparator 15 = .ok (.astore 5, 2) := dk_58 5 (dk_at dksJ2_siftUpUsingComparator_0 15 rfl rfl)
theorem dJ2_siftUpUsingComparator_17 : decode cJ2_siftUpUsingComparator 17 = .ok (.aload_n 3, 1) := dk_45 (dk_at dksJ2_siftUpUsingComparator_0 17 rfl rfl)
theorem dJ2_siftUpUsingComparator_18 : decode cJ2_siftUpUsingComparator 18 = .ok (.aload_n 1, 1) := dk_43 (dk_at dksJ2_siftUpUsingComparator_0 18 rfl rfl)
theorem dJ2_siftUpUsingComparator_19 : decode cJ2_siftUpUsingComparator 19 = .ok (.aload 5, 2) := dk_25 5 (dk_at dksJ2_siftUpUsingComparator_0 19 rfl rfl)
theorem dJ2_siftUpUsingComparator_21 : decode cJ2_siftUpUsingComparator 21 = .ok (.invokeinterface 149 3, 5) := by decide +kernel
theorem dJ2_siftUpUsingComparator_26 : decode cJ2_siftUpUsingComparator 26 = .ok (.ifCond .lt 6, 3) := dk_155 0 6 (dk_at dksJ2_siftUpUsingComparator_1 5 rfl rfl)
theorem dJ2_siftUpUsingComparator_29 : decode cJ2_siftUpUsingComparator 29 = .ok (.goto 14, 3) := dk_167 0 14 (dk_at dksJ2_siftUpUsingComparator_1 8 rfl rfl)
theorem dJ2_siftUpUsingComparator_32 : decode cJ2_siftUpUsingComparator 32 = .ok (.aload_n 2, 1) := dk_44 (dk_at dksJ2_siftUpUsingComparator_1 11 rfl rfl)
theorem dJ2_siftUpUsingComparator_33 : decode cJ2_siftUpUsingComparator 33 = .ok (.iload_n 0, 1) := dk_26 (dk_at dksJ2_siftUpUsingComparator_1 12 rfl rfl)
theorem dJ2_siftUpUsingComparator_34 : decode cJ2_siftUpUsingComparator 34 = .ok (.aload 5, 2) := dk_25 5 (dk_at dksJ2_siftUpUsingComparator_1 13 rfl rfl)
theorem dJ2_siftUpUsingComparator_36 : decode cJ2_siftUpUsingComparator 36 = .ok (.aastore, 1) := dk_83 (dk_at dksJ2_siftUpUsingComparator_1 15 rfl rfl)
theorem dJ2_siftUpUsingComparator_37 : decode cJ2_siftUpUsingComparator 37 = .ok (.iload 4, 2) := dk_21 4 (dk_at dksJ2_siftUpUsingComparator_1 16 rfl rfl)
theorem dJ2_siftUpUsingComparator_39 : decode cJ2_siftUpUsingComparator 39 = .ok (.istore_n 0, 1) := dk_59 (dk_at dksJ2_siftUpUsingComparator_1 18 rfl rfl)
theorem dJ2_siftUpUsingComparator_40 : decode cJ2_siftUpUsingComparator 40 = .ok (.goto (-40), 3) := dk_167 255 216 (dk_at dksJ2_siftUpUsingComparator_1 19 rfl rfl)
theorem dJ2_siftUpUsingComparator_43 : decode cJ2_siftUpUsingComparator 43 = .ok (.aload_n 2, 1) := dk_44 (dk_at dksJ2_siftUpUsingComparator_1 22 rfl rfl)
theorem dJ2_siftUpUsingComparator_44 : decode cJ2_siftUpUsingComparator 44 = .ok (.iload_n 0, 1) := dk_26 (dk_at dksJ2_siftUpUsingComparator_1 23 rfl rfl)
theorem dJ2_siftUpUsingComparator_45 : decode cJ2_siftUpUsingComparator 45 = .ok (.aload_n 1, 1) := dk_43 (dk_at dksJ2_siftUpUsingComparator_2 0 rfl rfl)
theorem dJ2_siftUpUsingComparator_46 : decode cJ2_siftUpUsingComparator 46 = .ok (.aastore, 1) := dk_83 (dk_at dksJ2_siftUpUsingComparator_2 1 rfl rfl)
theorem dJ2_siftUpUsingComparator_47 : decode cJ2_siftUpUsingComparator 47 = .ok (.return_, 1) := dk_177 (dk_at dksJ2_siftUpUsingComparator_2 2 rfl rfl)
abbrev cJ2_siftUpComparable : ByteArray := prog_43_method_28_code
def yJ2_siftUpComparable : MethodName := ⟨RJ2, "siftUpComparable", "(ILjava/lang/Object;[Ljava/lang/Object;)V"⟩
def dkwJ2_siftUpComparable_2 : List UInt8 := [44, 26, 45, 83, 177]
abbrev dktJ2_siftUpComparable_2 : List UInt8 := dkwJ2_siftUpComparable_2 ++ []
def dkwJ2_siftUpComparable_1 : List UInt8 := [25, 5, 185, 0, 146, 2, 0, 155, 0, 6, 167, 0, 14, 44, 26, 25, 5, 83, 21, 4, 59, 167, 255, 217]
abbrev dktJ2_siftUpComparable_1 : List UInt8 := dkwJ2_siftUpComparable_1 ++ dktJ2_siftUpComparable_2
def dkwJ2_siftUpComparable_0 : List UInt8 := [43, 192, 0, 144, 78, 26, 158, 0, 41, 26, 4, 100, 4, 124, 54, 4, 44, 21, 4, 50, 58, 5, 45]
abbrev dktJ2_siftUpComparable_0 : List UInt8 := dkwJ2_siftUpComparable_0 ++ dktJ2_siftUpComparable_1
theorem dksJ2_siftUpComparable_0 : cJ2_siftUpComparable.data.toList.drop 0 = dktJ2_siftUpComparable_0 := by decide +kernel
theorem dksJ2_siftUpComparable_1 : cJ2_siftUpComparable.data.toList.drop 23 = dktJ2_siftUpComparable_1 := dk_seg dksJ2_siftUpComparable_0 23 rfl rfl
theorem dksJ2_siftUpComparable_2 : cJ2_siftUpComparable.data.toList.drop 47 = dktJ2_siftUpComparable_2 := dk_seg dksJ2_siftUpComparable_1 24 rfl rfl
theorem dJ2_siftUpComparable_0 : decode cJ2_siftUpComparable 0 = .ok (.aload_n 1, 1) := dk_43 (dk_at dksJ2_siftUpComparable_0 0 rfl rfl)
theorem dJ2_siftUpComparable_1 : decode cJ2_siftUpComparable 1 = .ok (.checkcast 144, 3) := dk_192 0 144 (dk_at dksJ2_siftUpComparable_0 1 rfl rfl)
theorem dJ2_siftUpComparable_4 : decode cJ2_siftUpComparable 4 = .ok (.astore_n 3, 1) := dk_78 (dk_at dksJ2_siftUpComparable_0 4 rfl rfl)
theorem dJ2_siftUpComparable_5 : decode cJ2_siftUpComparable 5 = .ok (.iload_n 0, 1) := dk_26 (dk_at dksJ2_siftUpComparable_0 5 rfl rfl)
theorem dJ2_siftUpComparable_6 : decode cJ2_siftUpComparable 6 = .ok (.ifCond .le 41, 3) := dk_158 0 41 (dk_at dksJ2_siftUpComparable_0 6 rfl rfl)
theorem dJ2_siftUpComparable_9 : decode cJ2_siftUpComparable 9 = .ok (.iload_n 0, 1) := dk_26 (dk_at dksJ2_siftUpComparable_0 9 rfl rfl)
theorem dJ2_siftUpComparable_10 : decode cJ2_siftUpComparable 10 = .ok (.iconst 1, 1) := dk_4 (dk_at dksJ2_siftUpComparable_0 10 rfl rfl)
theorem dJ2_siftUpComparable_11 : decode cJ2_siftUpComparable 11 = .ok (.isub, 1) := dk_100 (dk_at dksJ2_siftUpComparable_0 11 rfl rfl)
theorem dJ2_siftUpComparable_12 : decode cJ2_siftUpComparable 12 = .ok (.iconst 1, 1) := dk_4 (dk_at dksJ2_siftUpComparable_0 12 rfl rfl)
theorem dJ2_siftUpComparable_13 : decode cJ2_siftUpComparable 13 = .ok (.iushr, 1) := dk_124 (dk_at dksJ2_siftUpComparable_0 13 rfl rfl)
theorem dJ2_siftUpComparable_14 : decode cJ2_siftUpComparable 14 = .ok (.istore 4, 2) := dk_54 4 (dk_at dksJ2_siftUpComparable_0 14 rfl rfl)
theorem dJ2_siftUpComparable_16 : decode cJ2_siftUpComparable 16 = .ok (.aload_n 2, 1) := dk_44 (dk_at dksJ2_siftUpComparable_0 16 rfl rfl)
theorem dJ2_siftUpComparable_17 : decode cJ2_siftUpComparable 17 = .ok (.iload 4, 2) := dk_21 4 (dk_at dksJ2_siftUpComparable_0 17 rfl rfl)
theorem dJ2_siftUpComparable_19 : decode cJ2_siftUpComparable 19 = .ok (.aaload, 1) := dk_50 (dk_at dksJ2_siftUpComparable_0 19 rfl rfl)
theorem dJ2_siftUpComparable_20 : decode cJ2_siftUpComparable 20 = .ok (.astore 5, 2) := dk_58 5 (dk_at dksJ2_siftUpComparable_0 20 rfl rfl)
theorem dJ2_siftUpComparable_22 : decode cJ2_siftUpComparable 22 = .ok (.aload_n 3, 1) := dk_45 (dk_at dksJ2_siftUpComparable_0 22 rfl rfl)
theorem dJ2_siftUpComparable_23 : decode cJ2_siftUpComparable 23 = .ok (.aload 5, 2) := dk_25 5 (dk_at dksJ2_siftUpComparable_1 0 rfl rfl)
theorem dJ2_siftUpComparable_25 : decode cJ2_siftUpComparable 25 = .ok (.invokeinterface 146 2, 5) := by decide +kernel
theorem dJ2_siftUpComparable_30 : decode cJ2_siftUpComparable 30 = .ok (.ifCond .lt 6, 3) := dk_155 0 6 (dk_at dksJ2_siftUpComparable_1 7 rfl rfl)
theorem dJ2_siftUpComparable_33 : decode cJ2_siftUpComparable 33 = .ok (.goto 14, 3) := dk_167 0 14 (dk_at dksJ2_siftUpComparable_1 10 rfl rfl)
theorem dJ2_siftUpComparable_36 : decode cJ2_siftUpComparable 36 = .ok (.aload_n 2, 1) := dk_44 (dk_at dksJ2_siftUpComparable_1 13 rfl rfl)
theorem dJ2_siftUpComparable_37 : decode cJ2_siftUpComparable 37 = .ok (.iload_n 0, 1) := dk_26 (dk_at dksJ2_siftUpComparable_1 14 rfl rfl)
theorem dJ2_siftUpComparable_38 : decode cJ2_siftUpComparable 38 = .ok (.aload 5, 2) := dk_25 5 (dk_at dksJ2_siftUpComparable_1 15 rfl rfl)
theorem dJ2_siftUpComparable_40 : decode cJ2_siftUpComparable 40 = .ok (.aastore, 1) := dk_83 (dk_at dksJ2_siftUpComparable_1 17 rfl rfl)
theorem dJ2_siftUpComparable_41 : decode cJ2_siftUpComparable 41 = .ok (.iload 4, 2) := dk_21 4 (dk_at dksJ2_siftUpComparable_1 18 rfl rfl)
theorem dJ2_siftUpComparable_43 : decode cJ2_siftUpComparable 43 = .ok (.istore_n 0, 1) := dk_59 (dk_at dksJ2_siftUpComparable_1 20 rfl rfl)
theorem dJ2_siftUpComparable_44 : decode cJ2_siftUpComparable 44 = .ok (.goto (-39), 3) := dk_167 255 217 (dk_at dksJ2_siftUpComparable_1 21 rfl rfl)
theorem dJ2_siftUpComparable_47 : decode cJ2_siftUpComparable 47 = .ok (.aload_n 2, 1) := dk_44 (dk_at dksJ2_siftUpComparable_2 0 rfl rfl)
theorem dJ2_siftUpComparable_48 : decode cJ2_siftUpComparable 48 = .ok (.iload_n 0, 1) := dk_26 (dk_at dksJ2_siftUpComparable_2 1 rfl rfl)
theorem dJ2_siftUpComparable_49 : decode cJ2_siftUpComparable 49 = .ok (.aload_n 3, 1) := dk_45 (dk_at dksJ2_siftUpComparable_2 2 rfl rfl)
theorem dJ2_siftUpComparable_50 : decode cJ2_siftUpComparable 50 = .ok (.aastore, 1) := dk_83 (dk_at dksJ2_siftUpComparable_2 3 rfl rfl)
theorem dJ2_siftUpComparable_51 : decode cJ2_siftUpComparable 51 = .ok (.return_, 1) := dk_177 (dk_at dksJ2_siftUpComparable_2 4 rfl rfl)
abbrev cJ2_size : ByteArray := prog_43_method_23_code
def yJ2_size : MethodName := ⟨RJ2, "size", "()I"⟩
theorem dJ2_size_0 : decode cJ2_size 0 = .ok (.aload_n 0, 1) := by decide +kernel
theorem dJ2_size_1 : decode cJ2_size 1 = .ok (.getfield 58, 3) := by decide +kernel
theorem dJ2_size_4 : decode cJ2_size 4 = .ok (.ireturn, 1) := by decide +kernel
abbrev cJ2_poll : ByteArray := prog_43_method_25_code
def yJ2_poll : MethodName := ⟨RJ2, "poll", "()Ljava/lang/Object;"⟩
def dkwJ2_poll_3 : List UInt8 := [43, 29, 25, 5, 184, 0, 129, 44, 176]
abbrev dktJ2_poll_3 : List UInt8 := dkwJ2_poll_3 ++ []
def dkwJ2_poll_2 : List UInt8 := [42, 180, 0, 21, 89, 58, 5, 199, 0, 14, 3, 25, 4, 43, 29, 184, 0, 125, 167, 0, 13, 3, 25, 4]
abbrev dktJ2_poll_2 : List UInt8 := dkwJ2_poll_2 ++ dktJ2_poll_3
def dkwJ2_poll_1 : List UInt8 := [42, 89, 180, 0, 58, 4, 100, 90, 181, 0, 58, 89, 62, 50, 58, 4, 43, 29, 1, 83, 29, 158, 0, 34]
abbrev dktJ2_poll_1 : List UInt8 := dkwJ2_poll_1 ++ dktJ2_poll_2
def dkwJ2_poll_0 : List UInt8 := [42, 180, 0, 17, 89, 76, 3, 50, 89, 77, 198, 0, 69, 42, 89, 180, 0, 93, 4, 96, 181, 0, 93, 43]
abbrev dktJ2_poll_0 : List UInt8 := dkwJ2_poll_0 ++ dktJ2_poll_1
theorem dksJ2_poll_0 : cJ2_poll.data.toList.drop 0 = dktJ2_poll_0 := by decide +kernel
theorem dksJ2_poll_1 : cJ2_poll.data.toList.drop 24 = dktJ2_poll_1 := dk_seg dksJ2_poll_0 24 rfl rfl
theorem dksJ2_poll_2 : cJ2_poll.data.toList.drop 48 = dktJ2_poll_2 := dk_seg dksJ2_poll_1 24 rfl rfl
theorem dksJ2_poll_3 : cJ2_poll.data.toList.drop 72 = dktJ2_poll_3 := dk_seg dksJ2_poll_2 24 rfl rfl
theorem dJ2_poll_0 : decode cJ2_poll 0 = .ok (.aload_n 0, 1) := dk_42 (dk_at dksJ2_poll_0 0 rfl rfl)
theorem dJ2_poll_1 : decode cJ2_poll 1 = .ok (.getfield 17, 3) := dk_180 0 17 (dk_at dksJ2_poll_0 1 rfl rfl)
theorem dJ2_poll_4 : decode cJ2_poll 4 = .ok (.dup, 1) := dk_89 (dk_at dksJ2_poll_0 4 rfl rfl)
theorem dJ2_poll_5 : decode cJ2_poll 5 = .ok (.astore_n 1, 1) := dk_76 (dk_at dksJ2_poll_0 5 rfl rfl)
theorem dJ2_poll_6 : decode cJ2_poll 6 = .ok (.iconst 0, 1) := dk_3 (dk_at dksJ2_poll_0 6 rfl rfl)
theorem dJ2_poll_7 : decode cJ2_poll 7 = .ok (.aaload, 1) := dk_50 (dk_at dksJ2_poll_0 7 rfl rfl)
theorem dJ2_poll_8 : decode cJ2_poll 8 = .ok (.dup, 1) := dk_89 (dk_at dksJ2_poll_0 8 rfl rfl)
theorem dJ2_poll_9 : decode cJ2_poll 9 = .ok (.astore_n 2, 1) := dk_77 (dk_at dksJ2_poll_0 9 rfl rfl)
theorem dJ2_poll_10 : decode cJ2_poll 10 = .ok (.ifnull 69, 3) := dk_198 0 69 (dk_at dksJ2_poll_0 10 rfl rfl)
theorem dJ2_poll_13 : decode cJ2_poll 13 = .ok (.aload_n 0, 1) := dk_42 (dk_at dksJ2_poll_0 13 rfl rfl)
theorem dJ2_poll_14 : decode cJ2_poll 14 = .ok (.dup, 1) := dk_89 (dk_at dksJ2_poll_0 14 rfl rfl)
theorem dJ2_poll_15 : decode cJ2_poll 15 = .ok (.getfield 93, 3) := dk_180 0 93 (dk_at dksJ2_poll_0 15 rfl rfl)
theorem dJ2_poll_18 : decode cJ2_poll 18 = .ok (.iconst 1, 1) := dk_4 (dk_at dksJ2_poll_0 18 rfl rfl)
theorem dJ2_poll_19 : decode cJ2_poll 19 = .ok (.iadd, 1) := dk_96 (dk_at dksJ2_poll_0 19 rfl rfl)
theorem dJ2_poll_20 : decode cJ2_poll 20 = .ok (.putfield 93, 3) := dk_181 0 93 (dk_at dksJ2_poll_0 20 rfl rfl)
theorem dJ2_poll_23 : decode cJ2_poll 23 = .ok (.aload_n 1, 1) := dk_43 (dk_at dksJ2_poll_0 23 rfl rfl)
theorem dJ2_poll_24 : decode cJ2_poll 24 = .ok (.aload_n 0, 1) := dk_42 (dk_at dksJ2_poll_1 0 rfl rfl)
theorem dJ2_poll_25 : decode cJ2_poll 25 = .ok (.dup, 1) := dk_89 (dk_at dksJ2_poll_1 1 rfl rfl)
theorem dJ2_poll_26 : decode cJ2_poll 26 = .ok (.getfield 58, 3) := dk_180 0 58 (dk_at dksJ2_poll_1 2 rfl rfl)
theorem dJ2_poll_29 : decode cJ2_poll 29 = .ok (.iconst 1, 1) := dk_4 (dk_at dksJ2_poll_1 5 rfl rfl)
theorem dJ2_poll_30 : decode cJ2_poll 30 = .ok (.isub, 1) := dk_100 (dk_at dksJ2_poll_1 6 rfl rfl)
theorem dJ2_poll_31 : decode cJ2_poll 31 = .ok (.dup_x1, 1) := dk_90 (dk_at dksJ2_poll_1 7 rfl rfl)
theorem dJ2_poll_32 : decode cJ2_poll 32 = .ok (.putfield 58, 3) := dk_181 0 58 (dk_at dksJ2_poll_1 8 rfl rfl)
theorem dJ2_poll_35 : decode cJ2_poll 35 = .ok (.dup, 1) := dk_89 (dk_at dksJ2_poll_1 11 rfl rfl)
theorem dJ2_poll_36 : decode cJ2_poll 36 = .ok (.istore_n 3, 1) := dk_62 (dk_at dksJ2_poll_1 12 rfl rfl)
theorem dJ2_poll_37 : decode cJ2_poll 37 = .ok (.aaload, 1) := dk_50 (dk_at dksJ2_poll_1 13 rfl rfl)
theorem dJ2_poll_38 : decode cJ2_poll 38 = .ok (.astore 4, 2) := dk_58 4 (dk_at dksJ2_poll_1 14 rfl rfl)
theorem dJ2_poll_40 : decode cJ2_poll 40 = .ok (.aload_n 1, 1) := dk_43 (dk_at dksJ2_poll_1 16 rfl rfl)
theorem dJ2_poll_41 : decode cJ2_poll 41 = .ok (.iload_n 3, 1) := dk_29 (dk_at dksJ2_poll_1 17 rfl rfl)
theorem dJ2_poll_42 : decode cJ2_poll 42 = .ok (.aconst_null, 1) := dk_1 (dk_at dksJ2_poll_1 18 rfl rfl)
theorem dJ2_poll_43 : decode cJ2_poll 43 = .ok (.aastore, 1) := dk_83 (dk_at dksJ2_poll_1 19 rfl rfl)
theorem dJ2_poll_44 : decode cJ2_poll 44 = .ok (.iload_n 3, 1) := dk_29 (dk_at dksJ2_poll_1 20 rfl rfl)
theorem dJ2_poll_45 : decode cJ2_poll 45 = .ok (.ifCond .le 34, 3) := dk_158 0 34 (dk_at dksJ2_poll_1 21 rfl rfl)
theorem dJ2_poll_48 : decode cJ2_poll 48 = .ok (.aload_n 0, 1) := dk_42 (dk_at dksJ2_poll_2 0 rfl rfl)
theorem dJ2_poll_49 : decode cJ2_poll 49 = .ok (.getfield 21, 3) := dk_180 0 21 (dk_at dksJ2_poll_2 1 rfl rfl)
theorem dJ2_poll_52 : decode cJ2_poll 52 = .ok (.dup, 1) := dk_89 (dk_at dksJ2_poll_2 4 rfl rfl)
theorem dJ2_poll_53 : decode cJ2_poll 53 = .ok (.astore 5, 2) := dk_58 5 (dk_at dksJ2_poll_2 5 rfl rfl)
theorem dJ2_poll_55 : decode cJ2_poll 55 = .ok (.ifnonnull 14, 3) := dk_199 0 14 (dk_at dksJ2_poll_2 7 rfl rfl)
theorem dJ2_poll_58 : decode cJ2_poll 58 = .ok (.iconst 0, 1) := dk_3 (dk_at dksJ2_poll_2 10 rfl rfl)
theorem dJ2_poll_59 : decode cJ2_poll 59 = .ok (.aload 4, 2) := dk_25 4 (dk_at dksJ2_poll_2 11 rfl rfl)
theorem dJ2_poll_61 : decode cJ2_poll 61 = .ok (.aload_n 1, 1) := dk_43 (dk_at dksJ2_poll_2 13 rfl rfl)
theorem dJ2_poll_62 : decode cJ2_poll 62 = .ok (.iload_n 3, 1) := dk_29 (dk_at dksJ2_poll_2 14 rfl rfl)
theorem dJ2_poll_63 : decode cJ2_poll 63 = .ok (.invokestatic 125, 3) := dk_184 0 125 (dk_at dksJ2_poll_2 15 rfl rfl)
theorem dJ2_poll_66 : decode cJ2_poll 66 = .ok (.goto 13, 3) := dk_167 0 13 (dk_at dksJ2_poll_2 18 rfl rfl)
theorem dJ2_poll_69 : decode cJ2_poll 69 = .ok (.iconst 0, 1) := dk_3 (dk_at dksJ2_poll_2 21 rfl rfl)
theorem dJ2_poll_70 : decode cJ2_poll 70 = .ok (.aload 4, 2) := dk_25 4 (dk_at dksJ2_poll_2 22 rfl rfl)
theorem dJ2_poll_72 : decode cJ2_poll 72 = .ok (.aload_n 1, 1) := dk_43 (dk_at dksJ2_poll_3 0 rfl rfl)
theorem dJ2_poll_73 : decode cJ2_poll 73 = .ok (.iload_n 3, 1) := dk_29 (dk_at dksJ2_poll_3 1 rfl rfl)
theorem dJ2_poll_74 : decode cJ2_poll 74 = .ok (.aload 5, 2) := dk_25 5 (dk_at dksJ2_poll_3 2 rfl rfl)
theorem dJ2_poll_76 : decode cJ2_poll 76 = .ok (.invokestatic 129, 3) := dk_184 0 129 (dk_at dksJ2_poll_3 4 rfl rfl)
theorem dJ2_poll_79 : decode cJ2_poll 79 = .ok (.aload_n 2, 1) := dk_44 (dk_at dksJ2_poll_3 7 rfl rfl)
theorem dJ2_poll_80 : decode cJ2_poll 80 = .ok (.areturn, 1) := dk_176 (dk_at dksJ2_poll_3 8 rfl rfl)
abbrev cJ2_siftDownComparable : ByteArray := prog_43_method_31_code
def yJ2_siftDownComparable : MethodName := ⟨RJ2, "siftDownComparable", "(ILjava/lang/Object;[Ljava/lang/Object;I)V"⟩
def dkwJ2_siftDownComparable_4 : List UInt8 := [25, 4, 83, 177]
abbrev dktJ2_siftDownComparable_4 : List UInt8 := dkwJ2_siftDownComparable_4 ++ []
def dkwJ2_siftDownComparable_3 : List UInt8 := [185, 0, 146, 2, 0, 157, 0, 6, 167, 0, 14, 44, 26, 25, 7, 83, 21, 6, 59, 167, 255, 176, 44, 26]
abbrev dktJ2_siftDownComparable_3 : List UInt8 := dkwJ2_siftDownComparable_3 ++ dktJ2_siftDownComparable_4
def dkwJ2_siftDownComparable_2 : List UInt8 := [21, 8, 50, 185, 0, 146, 2, 0, 158, 0, 12, 44, 21, 8, 89, 54, 6, 50, 58, 7, 25, 4, 25, 7]
abbrev dktJ2_siftDownComparable_2 : List UInt8 := dkwJ2_siftDownComparable_2 ++ dktJ2_siftDownComparable_3
def dkwJ2_siftDownComparable_1 : List UInt8 := [44, 21, 6, 50, 58, 7, 21, 6, 4, 96, 54, 8, 21, 8, 29, 162, 0, 29, 25, 7, 192, 0, 144, 44]
abbrev dktJ2_siftDownComparable_1 : List UInt8 := dkwJ2_siftDownComparable_1 ++ dktJ2_siftDownComparable_2
def dkwJ2_siftDownComparable_0 : List UInt8 := [43, 192, 0, 144, 58, 4, 29, 4, 124, 54, 5, 26, 21, 5, 162, 0, 80, 26, 4, 120, 4, 96, 54, 6]
abbrev dktJ2_siftDownComparable_0 : List UInt8 := dkwJ2_siftDownComparable_0 ++ dktJ2_siftDownComparable_1
theorem dksJ2_siftDownComparable_0 : cJ2_siftDownComparable.data.toList.drop 0 = dktJ2_siftDownComparable_0 := by decide +kernel
theorem dksJ2_siftDownComparable_1 : cJ2_siftDownComparable.data.toList.drop 24 = dktJ2_siftDownComparable_1 := dk_seg dksJ2_siftDownComparable_0 24 rfl rfl
theorem dksJ2_siftDownComparable_2 : cJ2_siftDownComparable.data.toList.drop 48 = dktJ2_siftDownComparable_2 := dk_seg dksJ2_siftDownComparable_1 24 rfl rfl
theorem dksJ2_siftDownComparable_3 : cJ2_siftDownComparable.data.toList.drop 72 = dktJ2_siftDownComparable_3 := dk_seg dksJ2_siftDownComparable_2 24 rfl rfl
theorem dksJ2_siftDownComparable_4 : cJ2_siftDownComparable.data.toList.drop 96 = dktJ2_siftDownComparable_4 := dk_seg dksJ2_siftDownComparable_3 24 rfl rfl
theorem dJ2_siftDownComparable_0 : decode cJ2_siftDownComparable 0 = .ok (.aload_n 1, 1) := dk_43 (dk_at dksJ2_siftDownComparable_0 0 rfl rfl)
theorem dJ2_siftDownComparable_1 : decode cJ2_siftDownComparable 1 = .ok (.checkcast 144, 3) := dk_192 0 144 (dk_at dksJ2_siftDownComparable_0 1 rfl rfl)
theorem dJ2_siftDownComparable_4 : decode cJ2_siftDownComparable 4 = .ok (.astore 4, 2) := dk_58 4 (dk_at dksJ2_siftDownComparable_0 4 rfl rfl)
theorem dJ2_siftDownComparable_6 : decode cJ2_siftDownComparable 6 = .ok (.iload_n 3, 1) := dk_29 (dk_at dksJ2_siftDownComparable_0 6 rfl rfl)
theorem dJ2_siftDownComparable_7 : decode cJ2_siftDownComparable 7 = .ok (.iconst 1, 1) := dk_4 (dk_at dksJ2_siftDownComparable_0 7 rfl rfl)
theorem dJ2_siftDownComparable_8 : decode cJ2_siftDownComparable 8 = .ok (.iushr, 1) := dk_124 (dk_at dksJ2_siftDownComparable_0 8 rfl rfl)
theorem dJ2_siftDownComparable_9 : decode cJ2_siftDownComparable 9 = .ok (.istore 5, 2) := dk_54 5 (dk_at dksJ2_siftDownComparable_0 9 rfl rfl)
theorem dJ2_siftDownComparable_11 : decode cJ2_siftDownComparable 11 = .ok (.iload_n 0, 1) := dk_26 (dk_at dksJ2_siftDownComparable_0 11 rfl rfl)
theorem dJ2_siftDownComparable_12 : decode cJ2_siftDownComparable 12 = .ok (.iload 5, 2) := dk_21 5 (dk_at dksJ2_siftDownComparable_0 12 rfl rfl)
theorem dJ2_siftDownComparable_14 : decode cJ2_siftDownComparable 14 = .ok (.if_icmp .ge 80, 3) := dk_162 0 80 (dk_at dksJ2_siftDownComparable_0 14 rfl rfl)
theorem dJ2_siftDownComparable_17 : decode cJ2_siftDownComparable 17 = .ok (.iload_n 0, 1) := dk_26 (dk_at dksJ2_siftDownComparable_0 17 rfl rfl)
theorem dJ2_siftDownComparable_18 : decode cJ2_siftDownComparable 18 = .ok (.iconst 1, 1) := dk_4 (dk_at dksJ2_siftDownComparable_0 18 rfl rfl)
theorem dJ2_siftDownComparable_19 : decode cJ2_siftDownComparable 19 = .ok (.ishl, 1) := dk_120 (dk_at dksJ2_siftDownComparable_0 19 rfl rfl)
theorem dJ2_siftDownComparable_20 : decode cJ2_siftDownComparable 20 = .ok (.iconst 1, 1) := dk_4 (dk_at dksJ2_siftDownComparable_0 20 rfl rfl)
theorem dJ2_siftDownComparable_21 : decode cJ2_siftDownComparable 21 = .ok (.iadd, 1) := dk_96 (dk_at dksJ2_siftDownComparable_0 21 rfl rfl)
theorem dJ2_siftDownComparable_22 : decode cJ2_siftDownComparable 22 = .ok (.istore 6, 2) := dk_54 6 (dk_at dksJ2_siftDownComparable_0 22 rfl rfl)
theorem dJ2_siftDownComparable_24 : decode cJ2_siftDownComparable 24 = .ok (.aload_n 2, 1) := dk_44 (dk_at dksJ2_siftDownComparable_1 0 rfl rfl)
theorem dJ2_siftDownComparable_25 : decode cJ2_siftDownComparable 25 = .ok (.iload 6, 2) := dk_21 6 (dk_at dksJ2_siftDownComparable_1 1 rfl rfl)
theorem dJ2_siftDownComparable_27 : decode cJ2_siftDownComparable 27 = .ok (.aaload, 1) := dk_50 (dk_at dksJ2_siftDownComparable_1 3 rfl rfl)
theorem dJ2_siftDownComparable_28 : decode cJ2_siftDownComparable 28 = .ok (.astore 7, 2) := dk_58 7 (dk_at dksJ2_siftDownComparable_1 4 rfl rfl)
theorem dJ2_siftDownComparable_30 : decode cJ2_siftDownComparable 30 = .ok (.iload 6, 2) := dk_21 6 (dk_at dksJ2_siftDownComparable_1 6 rfl rfl)
theorem dJ2_siftDownComparable_32 : decode cJ2_siftDownComparable 32 = .ok (.iconst 1, 1) := dk_4 (dk_at dksJ2_siftDownComparable_1 8 rfl rfl)
theorem dJ2_siftDownComparable_33 : decode cJ2_siftDownComparable 33 = .ok (.iadd, 1) := dk_96 (dk_at dksJ2_siftDownComparable_1 9 rfl rfl)
theorem dJ2_siftDownComparable_34 : decode cJ2_siftDownComparable 34 = .ok (.istore 8, 2) := dk_54 8 (dk_at dksJ2_siftDownComparable_1 10 rfl rfl)
theorem dJ2_siftDownComparable_36 : decode cJ2_siftDownComparable 36 = .ok (.iload 8, 2) := dk_21 8 (dk_at dksJ2_siftDownComparable_1 12 rfl rfl)
theorem dJ2_siftDownComparable_38 : decode cJ2_siftDownComparable 38 = .ok (.iload_n 3, 1) := dk_29 (dk_at dksJ2_siftDownComparable_1 14 rfl rfl)
theorem dJ2_siftDownComparable_39 : decode cJ2_siftDownComparable 39 = .ok (.if_icmp .ge 29, 3) := dk_162 0 29 (dk_at dksJ2_siftDownComparable_1 15 rfl rfl)
theorem dJ2_siftDownComparable_42 : decode cJ2_siftDownComparable 42 = .ok (.aload 7, 2) := dk_25 7 (dk_at dksJ2_siftDownComparable_1 18 rfl rfl)
theorem dJ2_siftDownComparable_44 : decode cJ2_siftDownComparable 44 = .ok (.checkcast 144, 3) := dk_192 0 144 (dk_at dksJ2_siftDownComparable_1 20 rfl rfl)
theorem dJ2_siftDownComparable_47 : decode cJ2_siftDownComparable 47 = .ok (.aload_n 2, 1) := dk_44 (dk_at dksJ2_siftDownComparable_1 23 rfl rfl)
theorem dJ2_siftDownComparable_48 : decode cJ2_siftDownComparable 48 = .ok (.iload 8, 2) := dk_21 8 (dk_at dksJ2_siftDownComparable_2 0 rfl rfl)
theorem dJ2_siftDownComparable_50 : decode cJ2_siftDownComparable 50 = .ok (.aaload, 1) := dk_50 (dk_at dksJ2_siftDownComparable_2 2 rfl rfl)
theorem dJ2_siftDownComparable_51 : decode cJ2_siftDownComparable 51 = .ok (.invokeinterface 146 2, 5) := by decide +kernel
theorem dJ2_siftDownComparable_56 : decode cJ2_siftDownComparable 56 = .ok (.ifCond .le 12, 3) := dk_158 0 12 (dk_at dksJ2_siftDownComparable_2 8 rfl rfl)
theorem dJ2_siftDownComparable_59 : decode cJ2_siftDownComparable 59 = .ok (.aload_n 2, 1) := dk_44 (dk_at dksJ2_siftDownComparable_2 11 rfl rfl)
theorem dJ2_siftDownComparable_60 : decode cJ2_siftDownComparable 60 = .ok (.iload 8, 2) := dk_21 8 (dk_at dksJ2_siftDownComparable_2 12 rfl rfl)
theorem dJ2_siftDownComparable_62 : decode cJ2_siftDownComparable 62 = .ok (.dup, 1) := dk_89 (dk_at dksJ2_siftDownComparable_2 14 rfl rfl)
theorem dJ2_siftDownComparable_63 : decode cJ2_siftDownComparable 63 = .ok (.istore 6, 2) := dk_54 6 (dk_at dksJ2_siftDownComparable_2 15 rfl rfl)
theorem dJ2_siftDownComparable_65 : decode cJ2_siftDownComparable 65 = .ok (.aaload, 1) := dk_50 (dk_at dksJ2_siftDownComparable_2 17 rfl rfl)
theorem dJ2_siftDownComparable_66 : decode cJ2_siftDownComparable 66 = .ok (.astore 7, 2) := dk_58 7 (dk_at dksJ2_siftDownComparable_2 18 rfl rfl)
theorem dJ2_siftDownComparable_68 : decode cJ2_siftDownComparable 68 = .ok (.aload 4, 2) := dk_25 4 (dk_at dksJ2_siftDownComparable_2 20 rfl rfl)
theorem dJ2_siftDownComparable_70 : decode cJ2_siftDownComparable 70 = .ok (.aload 7, 2) := dk_25 7 (dk_at dksJ2_siftDownComparable_2 22 rfl rfl)
theorem dJ2_siftDownComparable_72 : decode cJ2_siftDownComparable 72 = .ok (.invokeinterface 146 2, 5) := by decide +kernel
theorem dJ2_siftDownComparable_77 : decode cJ2_siftDownComparable 77 = .ok (.ifCond .gt 6, 3) := dk_157 0 6 (dk_at dksJ2_siftDownComparable_3 5 rfl rfl)
theorem dJ2_siftDownComparable_80 : decode cJ2_siftDownComparable 80 = .ok (.goto 14, 3) := dk_167 0 14 (dk_at dksJ2_siftDownComparable_3 8 rfl rfl)
theorem dJ2_siftDownComparable_83 : decode cJ2_siftDownComparable 83 = .ok (.aload_n 2, 1) := dk_44 (dk_at dksJ2_siftDownComparable_3 11 rfl rfl)
theorem dJ2_siftDownComparable_84 : decode cJ2_siftDownComparable 84 = .ok (.iload_n 0, 1) := dk_26 (dk_at dksJ2_siftDownComparable_3 12 rfl rfl)
theorem dJ2_siftDownComparable_85 : decode cJ2_siftDownComparable 85 = .ok (.aload 7, 2) := dk_25 7 (dk_at dksJ2_siftDownComparable_3 13 rfl rfl)
theorem dJ2_siftDownComparable_87 : decode cJ2_siftDownComparable 87 = .ok (.aastore, 1) := dk_83 (dk_at dksJ2_siftDownComparable_3 15 rfl rfl)
theorem dJ2_siftDownComparable_88 : decode cJ2_siftDownComparable 88 = .ok (.iload 6, 2) := dk_21 6 (dk_at dksJ2_siftDownComparable_3 16 rfl rfl)
theorem dJ2_siftDownComparable_90 : decode cJ2_siftDownComparable 90 = .ok (.istore_n 0, 1) := dk_59 (dk_at dksJ2_siftDownComparable_3 18 rfl rfl)
theorem dJ2_siftDownComparable_91 : decode cJ2_siftDownComparable 91 = .ok (.goto (-80), 3) := dk_167 255 176 (dk_at dksJ2_siftDownComparable_3 19 rfl rfl)
theorem dJ2_siftDownComparable_94 : decode cJ2_siftDownComparable 94 = .ok (.aload_n 2, 1) := dk_44 (dk_at dksJ2_siftDownComparable_3 22 rfl rfl)
theorem dJ2_siftDownComparable_95 : decode cJ2_siftDownComparable 95 = .ok (.iload_n 0, 1) := dk_26 (dk_at dksJ2_siftDownComparable_3 23 rfl rfl)
theorem dJ2_siftDownComparable_96 : decode cJ2_siftDownComparable 96 = .ok (.aload 4, 2) := dk_25 4 (dk_at dksJ2_siftDownComparable_4 0 rfl rfl)
theorem dJ2_siftDownComparable_98 : decode cJ2_siftDownComparable 98 = .ok (.aastore, 1) := dk_83 (dk_at dksJ2_siftDownComparable_4 2 rfl rfl)
theorem dJ2_siftDownComparable_99 : decode cJ2_siftDownComparable 99 = .ok (.return_, 1) := dk_177 (dk_at dksJ2_siftDownComparable_4 3 rfl rfl)
abbrev cJ2_siftDownUsingComparator : ByteArray := prog_43_method_32_code
def yJ2_siftDownUsingComparator : MethodName := ⟨RJ2, "siftDownUsingComparator", "(ILjava/lang/Object;[Ljava/lang/Object;ILjava/util/Comparator;)V"⟩
def dkwJ2_siftDownUsingComparator_4 : List UInt8 := [43, 83, 177]
abbrev dktJ2_siftDownUsingComparator_4 : List UInt8 := dkwJ2_siftDownUsingComparator_4 ++ []
def dkwJ2_siftDownUsingComparator_3 : List UInt8 := [185, 0, 149, 3, 0, 157, 0, 6, 167, 0, 14, 44, 26, 25, 7, 83, 21, 6, 59, 167, 255, 176, 44, 26]
abbrev dktJ2_siftDownUsingComparator_3 : List UInt8 := dkwJ2_siftDownUsingComparator_3 ++ dktJ2_siftDownUsingComparator_4
def dkwJ2_siftDownUsingComparator_2 : List UInt8 := [185, 0, 149, 3, 0, 158, 0, 12, 44, 21, 8, 89, 54, 6, 50, 58, 7, 25, 4, 43, 25, 7]
abbrev dktJ2_siftDownUsingComparator_2 : List UInt8 := dkwJ2_siftDownUsingComparator_2 ++ dktJ2_siftDownUsingComparator_3
def dkwJ2_siftDownUsingComparator_1 : List UInt8 := [21, 6, 4, 96, 54, 8, 21, 8, 29, 162, 0, 28, 25, 4, 25, 7, 44, 21, 8, 50]
abbrev dktJ2_siftDownUsingComparator_1 : List UInt8 := dkwJ2_siftDownUsingComparator_1 ++ dktJ2_siftDownUsingComparator_2
def dkwJ2_siftDownUsingComparator_0 : List UInt8 := [29, 4, 124, 54, 5, 26, 21, 5, 162, 0, 80, 26, 4, 120, 4, 96, 54, 6, 44, 21, 6, 50, 58, 7]
abbrev dktJ2_siftDownUsingComparator_0 : List UInt8 := dkwJ2_siftDownUsingComparator_0 ++ dktJ2_siftDownUsingComparator_1
theorem dksJ2_siftDownUsingComparator_0 : cJ2_siftDownUsingComparator.data.toList.drop 0 = dktJ2_siftDownUsingComparator_0 := by decide +kernel
theorem dksJ2_siftDownUsingComparator_1 : cJ2_siftDownUsingComparator.data.toList.drop 24 = dktJ2_siftDownUsingComparator_1 := dk_seg dksJ2_siftDownUsingComparator_0 24 rfl rfl
theorem dksJ2_siftDownUsingComparator_2 : cJ2_siftDownUsingComparator.data.toList.drop 44 = dktJ2_siftDownUsingComparator_2 := dk_seg dksJ2_siftDownUsingComparator_1 20 rfl rfl
theorem dksJ2_siftDownUsingComparator_3 : cJ2_siftDownUsingComparator.data.toList.drop 66 = dktJ2_siftDownUsingComparator_3 := dk_seg dksJ2_siftDownUsingComparator_2 22 rfl rfl
theorem dksJ2_siftDownUsingComparator_4 : cJ2_siftDownUsingComparator.data.toList.drop 90 = dktJ2_siftDownUsingComparator_4 := dk_seg dksJ2_siftDownUsingComparator_3 24 rfl rfl
theorem dJ2_siftDownUsingComparator_0 : decode cJ2_siftDownUsingComparator 0 = .ok (.iload_n 3, 1) := dk_29 (dk_at dksJ2_siftDownUsingComparator_0 0 rfl rfl)
theorem dJ2_siftDownUsingComparator_1 : decode cJ2_siftDownUsingComparator 1 = .ok (.iconst 1, 1) := dk_4 (dk_at dksJ2_siftDownUsingComparator_0 1 rfl rfl)
theorem dJ2_siftDownUsingComparator_2 : decode cJ2_siftDownUsingComparator 2 = .ok (.iushr, 1) := dk_124 (dk_at dksJ2_siftDownUsingComparator_0 2 rfl rfl)
theorem dJ2_siftDownUsingComparator_3 : decode cJ2_siftDownUsingComparator 3 = .ok (.istore 5, 2) := dk_54 5 (dk_at dksJ2_siftDownUsingComparator_0 3 rfl rfl)
theorem dJ2_siftDownUsingComparator_5 : decode cJ2_siftDownUsingComparator 5 = .ok (.iload_n 0, 1) := dk_26 (dk_at dksJ2_siftDownUsingComparator_0 5 rfl rfl)
theorem dJ2_siftDownUsingComparator_6 : decode cJ2_siftDownUsingComparator 6 = .ok (.iload 5, 2) := dk_21 5 (dk_at dksJ2_siftDownUsingComparator_0 6 rfl rfl)
theorem dJ2_siftDownUsingComparator_8 : decode cJ2_siftDownUsingComparator 8 = .ok (.if_icmp .ge 80, 3) := dk_162 0 80 (dk_at dksJ2_siftDownUsingComparator_0 8 rfl rfl)
theorem dJ2_siftDownUsingComparator_11 : decode cJ2_siftDownUsingComparator 11 = .ok (.iload_n 0, 1) := dk_26 (dk_at dksJ2_siftDownUsingComparator_0 11 rfl rfl)
theorem dJ2_siftDownUsingComparator_12 : decode cJ2_siftDownUsingComparator 12 = .ok (.iconst 1, 1) := dk_4 (dk_at dksJ2_siftDownUsingComparator_0 12 rfl rfl)
theorem dJ2_siftDownUsingComparator_13 : decode cJ2_siftDownUsingComparator 13 = .ok (.ishl, 1) := dk_120 (dk_at dksJ2_siftDownUsingComparator_0 13 rfl rfl)
theorem dJ2_siftDownUsingComparator_14 : decode cJ2_siftDownUsingComparator 14 = .ok (.iconst 1, 1) := dk_4 (dk_at dksJ2_siftDownUsingComparator_0 14 rfl rfl)
theorem dJ2_siftDownUsingComparator_15 : decode cJ2_siftDownUsingComparator 15 = .ok (.iadd, 1) := dk_96 (dk_at dksJ2_siftDownUsingComparator_0 15 rfl rfl)
theorem dJ2_siftDownUsingComparator_16 : decode cJ2_siftDownUsingComparator 16 = .ok (.istore 6, 2) := dk_54 6 (dk_at dksJ2_siftDownUsingComparator_0 16 rfl rfl)
theorem dJ2_siftDownUsingComparator_18 : decode cJ2_siftDownUsingComparator 18 = .ok (.aload_n 2, 1) := dk_44 (dk_at dksJ2_siftDownUsingComparator_0 18 rfl rfl)
theorem dJ2_siftDownUsingComparator_19 : decode cJ2_siftDownUsingComparator 19 = .ok (.iload 6, 2) := dk_21 6 (dk_at dksJ2_siftDownUsingComparator_0 19 rfl rfl)
theorem dJ2_siftDownUsingComparator_21 : decode cJ2_siftDownUsingComparator 21 = .ok (.aaload, 1) := dk_50 (dk_at dksJ2_siftDownUsingComparator_0 21 rfl rfl)
theorem dJ2_siftDownUsingComparator_22 : decode cJ2_siftDownUsingComparator 22 = .ok (.astore 7, 2) := dk_58 7 (dk_at dksJ2_siftDownUsingComparator_0 22 rfl rfl)
theorem dJ2_siftDownUsingComparator_24 : decode cJ2_siftDownUsingComparator 24 = .ok (.iload 6, 2) := dk_21 6 (dk_at dksJ2_siftDownUsingComparator_1 0 rfl rfl)
theorem dJ2_siftDownUsingComparator_26 : decode cJ2_siftDownUsingComparator 26 = .ok (.iconst 1, 1) := dk_4 (dk_at dksJ2_siftDownUsingComparator_1 2 rfl rfl)
theorem dJ2_siftDownUsingComparator_27 : decode cJ2_siftDownUsingComparator 27 = .ok (.iadd, 1) := dk_96 (dk_at dksJ2_siftDownUsingComparator_1 3 rfl rfl)
theorem dJ2_siftDownUsingComparator_28 : decode cJ2_siftDownUsingComparator 28 = .ok (.istore 8, 2) := dk_54 8 (dk_at dksJ2_siftDownUsingComparator_1 4 rfl rfl)
theorem dJ2_siftDownUsingComparator_30 : decode cJ2_siftDownUsingComparator 30 = .ok (.iload 8, 2) := dk_21 8 (dk_at dksJ2_siftDownUsingComparator_1 6 rfl rfl)
theorem dJ2_siftDownUsingComparator_32 : decode cJ2_siftDownUsingComparator 32 = .ok (.iload_n 3, 1) := dk_29 (dk_at dksJ2_siftDownUsingComparator_1 8 rfl rfl)
theorem dJ2_siftDownUsingComparator_33 : decode cJ2_siftDownUsingComparator 33 = .ok (.if_icmp .ge 28, 3) := dk_162 0 28 (dk_at dksJ2_siftDownUsingComparator_1 9 rfl rfl)
theorem dJ2_siftDownUsingComparator_36 : decode cJ2_siftDownUsingComparator 36 = .ok (.aload 4, 2) := dk_25 4 (dk_at dksJ2_siftDownUsingComparator_1 12 rfl rfl)
theorem dJ2_siftDownUsingComparator_38 : decode cJ2_siftDownUsingComparator 38 = .ok (.aload 7, 2) := dk_25 7 (dk_at dksJ2_siftDownUsingComparator_1 14 rfl rfl)
theorem dJ2_siftDownUsingComparator_40 : decode cJ2_siftDownUsingComparator 40 = .ok (.aload_n 2, 1) := dk_44 (dk_at dksJ2_siftDownUsingComparator_1 16 rfl rfl)
theorem dJ2_siftDownUsingComparator_41 : decode cJ2_siftDownUsingComparator 41 = .ok (.iload 8, 2) := dk_21 8 (dk_at dksJ2_siftDownUsingComparator_1 17 rfl rfl)
theorem dJ2_siftDownUsingComparator_43 : decode cJ2_siftDownUsingComparator 43 = .ok (.aaload, 1) := dk_50 (dk_at dksJ2_siftDownUsingComparator_1 19 rfl rfl)
theorem dJ2_siftDownUsingComparator_44 : decode cJ2_siftDownUsingComparator 44 = .ok (.invokeinterface 149 3, 5) := by decide +kernel
theorem dJ2_siftDownUsingComparator_49 : decode cJ2_siftDownUsingComparator 49 = .ok (.ifCond .le 12, 3) := dk_158 0 12 (dk_at dksJ2_siftDownUsingComparator_2 5 rfl rfl)
theorem dJ2_siftDownUsingComparator_52 : decode cJ2_siftDownUsingComparator 52 = .ok (.aload_n 2, 1) := dk_44 (dk_at dksJ2_siftDownUsingComparator_2 8 rfl rfl)
theorem dJ2_siftDownUsingComparator_53 : decode cJ2_siftDownUsingComparator 53 = .ok (.iload 8, 2) := dk_21 8 (dk_at dksJ2_siftDownUsingComparator_2 9 rfl rfl)
theorem dJ2_siftDownUsingComparator_55 : decode cJ2_siftDownUsingComparator 55 = .ok (.dup, 1) := dk_89 (dk_at dksJ2_siftDownUsingComparator_2 11 rfl rfl)
theorem dJ2_siftDownUsingComparator_56 : decode cJ2_siftDownUsingComparator 56 = .ok (.istore 6, 2) := dk_54 6 (dk_at dksJ2_siftDownUsingComparator_2 12 rfl rfl)
theorem dJ2_siftDownUsingComparator_58 : decode cJ2_siftDownUsingComparator 58 = .ok (.aaload, 1) := dk_50 (dk_at dksJ2_siftDownUsingComparator_2 14 rfl rfl)
theorem dJ2_siftDownUsingComparator_59 : decode cJ2_siftDownUsingComparator 59 = .ok (.astore 7, 2) := dk_58 7 (dk_at dksJ2_siftDownUsingComparator_2 15 rfl rfl)
theorem dJ2_siftDownUsingComparator_61 : decode cJ2_siftDownUsingComparator 61 = .ok (.aload 4, 2) := dk_25 4 (dk_at dksJ2_siftDownUsingComparator_2 17 rfl rfl)
theorem dJ2_siftDownUsingComparator_63 : decode cJ2_siftDownUsingComparator 63 = .ok (.aload_n 1, 1) := dk_43 (dk_at dksJ2_siftDownUsingComparator_2 19 rfl rfl)
theorem dJ2_siftDownUsingComparator_64 : decode cJ2_siftDownUsingComparator 64 = .ok (.aload 7, 2) := dk_25 7 (dk_at dksJ2_siftDownUsingComparator_2 20 rfl rfl)
theorem dJ2_siftDownUsingComparator_66 : decode cJ2_siftDownUsingComparator 66 = .ok (.invokeinterface 149 3, 5) := by decide +kernel
theorem dJ2_siftDownUsingComparator_71 : decode cJ2_siftDownUsingComparator 71 = .ok (.ifCond .gt 6, 3) := dk_157 0 6 (dk_at dksJ2_siftDownUsingComparator_3 5 rfl rfl)
theorem dJ2_siftDownUsingComparator_74 : decode cJ2_siftDownUsingComparator 74 = .ok (.goto 14, 3) := dk_167 0 14 (dk_at dksJ2_siftDownUsingComparator_3 8 rfl rfl)
theorem dJ2_siftDownUsingComparator_77 : decode cJ2_siftDownUsingComparator 77 = .ok (.aload_n 2, 1) := dk_44 (dk_at dksJ2_siftDownUsingComparator_3 11 rfl rfl)
theorem dJ2_siftDownUsingComparator_78 : decode cJ2_siftDownUsingComparator 78 = .ok (.iload_n 0, 1) := dk_26 (dk_at dksJ2_siftDownUsingComparator_3 12 rfl rfl)
theorem dJ2_siftDownUsingComparator_79 : decode cJ2_siftDownUsingComparator 79 = .ok (.aload 7, 2) := dk_25 7 (dk_at dksJ2_siftDownUsingComparator_3 13 rfl rfl)
theorem dJ2_siftDownUsingComparator_81 : decode cJ2_siftDownUsingComparator 81 = .ok (.aastore, 1) := dk_83 (dk_at dksJ2_siftDownUsingComparator_3 15 rfl rfl)
theorem dJ2_siftDownUsingComparator_82 : decode cJ2_siftDownUsingComparator 82 = .ok (.iload 6, 2) := dk_21 6 (dk_at dksJ2_siftDownUsingComparator_3 16 rfl rfl)
theorem dJ2_siftDownUsingComparator_84 : decode cJ2_siftDownUsingComparator 84 = .ok (.istore_n 0, 1) := dk_59 (dk_at dksJ2_siftDownUsingComparator_3 18 rfl rfl)
theorem dJ2_siftDownUsingComparator_85 : decode cJ2_siftDownUsingComparator 85 = .ok (.goto (-80), 3) := dk_167 255 176 (dk_at dksJ2_siftDownUsingComparator_3 19 rfl rfl)
theorem dJ2_siftDownUsingComparator_88 : decode cJ2_siftDownUsingComparator 88 = .ok (.aload_n 2, 1) := dk_44 (dk_at dksJ2_siftDownUsingComparator_3 22 rfl rfl)
theorem dJ2_siftDownUsingComparator_89 : decode cJ2_siftDownUsingComparator 89 = .ok (.iload_n 0, 1) := dk_26 (dk_at dksJ2_siftDownUsingComparator_3 23 rfl rfl)
theorem dJ2_siftDownUsingComparator_90 : decode cJ2_siftDownUsingComparator 90 = .ok (.aload_n 1, 1) := dk_43 (dk_at dksJ2_siftDownUsingComparator_4 0 rfl rfl)
theorem dJ2_siftDownUsingComparator_91 : decode cJ2_siftDownUsingComparator 91 = .ok (.aastore, 1) := dk_83 (dk_at dksJ2_siftDownUsingComparator_4 1 rfl rfl)
theorem dJ2_siftDownUsingComparator_92 : decode cJ2_siftDownUsingComparator 92 = .ok (.return_, 1) := dk_177 (dk_at dksJ2_siftDownUsingComparator_4 2 rfl rfl)
abbrev cJ2_peek : ByteArray := prog_43_method_15_code
def yJ2_peek : MethodName := ⟨RJ2, "peek", "()Ljava/lang/Object;"⟩
def dkwJ2_peek_0 : List UInt8 := [42, 180, 0, 17, 3, 50, 176]
abbrev dktJ2_peek_0 : List UInt8 := dkwJ2_peek_0 ++ []
theorem dksJ2_peek_0 : cJ2_peek.data.toList.drop 0 = dktJ2_peek_0 := by decide +kernel
theorem dJ2_peek_0 : decode cJ2_peek 0 = .ok (.aload_n 0, 1) := dk_42 (dk_at dksJ2_peek_0 0 rfl rfl)
theorem dJ2_peek_1 : decode cJ2_peek 1 = .ok (.getfield 17, 3) := dk_180 0 17 (dk_at dksJ2_peek_0 1 rfl rfl)
theorem dJ2_peek_4 : decode cJ2_peek 4 = .ok (.iconst 0, 1) := dk_3 (dk_at dksJ2_peek_0 4 rfl rfl)
theorem dJ2_peek_5 : decode cJ2_peek 5 = .ok (.aaload, 1) := dk_50 (dk_at dksJ2_peek_0 5 rfl rfl)
theorem dJ2_peek_6 : decode cJ2_peek 6 = .ok (.areturn, 1) := dk_176 (dk_at dksJ2_peek_0 6 rfl rfl)
theorem q132 : (Jvm.Cond.initialized "java/util/PriorityQueue") ∈ lw_all := lw_g (lw_at lw_m1 6 rfl) rfl
theorem q196 : (Jvm.Cond.instantiable "java/util/PriorityQueue" (4 : Nat)) ∈ lw_all := lw_g (lw_at lw_m1 70 rfl) rfl
theorem q198 : (Jvm.Cond.instanceMethod ({ cls := "java/util/PriorityQueue", name := "<init>", desc := "(ILjava/util/Comparator;)V" } : Jvm.MethodName)) ∈ lw_all := lw_g (lw_at lw_m1 72 rfl) rfl
theorem q199 : (Jvm.Cond.code ({ cls := "java/util/PriorityQueue", name := "<init>", desc := "(ILjava/util/Comparator;)V" } : Jvm.MethodName) prog_43_method_4_code (3 : Nat) (Option.none : Option Jvm.ClassFile.FieldType)) ∈ lw_all := lw_g (lw_at lw_m1 73 rfl) rfl
theorem q200 : (Jvm.Cond.methodLink "java/util/PriorityQueue" (7 : Nat) ({ cls := "java/util/AbstractQueue", name := "<init>", desc := "()V" } : Jvm.MethodName)) ∈ lw_all := lw_g (lw_at lw_m1 74 rfl) rfl
theorem q207 : (Jvm.Cond.classLink "java/util/PriorityQueue" (12 : Nat) "java/lang/IllegalArgumentException") ∈ lw_all := lw_g (lw_at lw_m1 81 rfl) rfl
theorem q248 : (Jvm.Cond.methodLink "java/util/PriorityQueue" (14 : Nat) ({ cls := "java/lang/IllegalArgumentException", name := "<init>", desc := "()V" } : Jvm.MethodName)) ∈ lw_all := lw_g (lw_at lw_m1 122 rfl) rfl
theorem q270 : (Jvm.Cond.classLink "java/util/PriorityQueue" (15 : Nat) "java/lang/Object") ∈ lw_all := lw_g (lw_at lw_m1 144 rfl) rfl
theorem q272 : (Jvm.Cond.fieldLink "java/util/PriorityQueue" (17 : Nat) "java/util/PriorityQueue" "queue" "[Ljava/lang/Object;") ∈ lw_all := lw_g (lw_at lw_m1 146 rfl) rfl
theorem q273 : (Jvm.Cond.fieldLink "java/util/PriorityQueue" (58 : Nat) "java/util/PriorityQueue" "size" "I") ∈ lw_all := lw_g (lw_at lw_m1 147 rfl) rfl
theorem q274 : (Jvm.Cond.fieldLink "java/util/PriorityQueue" (21 : Nat) "java/util/PriorityQueue" "comparator" "Ljava/util/Comparator;") ∈ lw_all := lw_g (lw_at lw_m1 148 rfl) rfl
theorem q275 : (Jvm.Cond.fieldLink "java/util/PriorityQueue" (93 : Nat) "java/util/PriorityQueue" "modCount" "I") ∈ lw_all := lw_g (lw_at lw_m1 149 rfl) rfl
theorem q276 : (Jvm.Cond.lays "java/util/PriorityQueue" "java/util/PriorityQueue" "queue" "[Ljava/lang/Object;") ∈ lw_all := lw_g (lw_at lw_m1 150 rfl) rfl
theorem q277 : (Jvm.Cond.soleField "java/util/PriorityQueue" "queue") ∈ lw_all := lw_g (lw_at lw_m1 151 rfl) rfl
theorem q278 : (Jvm.Cond.lays "java/util/PriorityQueue" "java/util/PriorityQueue" "size" "I") ∈ lw_all := lw_g (lw_at lw_m1 152 rfl) rfl
theorem q279 : (Jvm.Cond.soleField "java/util/PriorityQueue" "size") ∈ lw_all := lw_g (lw_at lw_m1 153 rfl) rfl
theorem q280 : (Jvm.Cond.laysFinal "java/util/PriorityQueue" "java/util/PriorityQueue" "comparator" "Ljava/util/Comparator;") ∈ lw_all := lw_g (lw_at lw_m1 154 rfl) rfl
theorem q281 : (Jvm.Cond.soleField "java/util/PriorityQueue" "comparator") ∈ lw_all := lw_g (lw_at lw_m1 155 rfl) rfl
theorem q282 : (Jvm.Cond.lays "java/util/PriorityQueue" "java/util/PriorityQueue" "modCount" "I") ∈ lw_all := lw_g (lw_at lw_m1 156 rfl) rfl
theorem q283 : (Jvm.Cond.soleField "java/util/PriorityQueue" "modCount") ∈ lw_all := lw_g (lw_at lw_m1 157 rfl) rfl
theorem q284 : (Jvm.Cond.superclass "java/util/PriorityQueue" "java/util/AbstractQueue") ∈ lw_all := lw_g (lw_at lw_m1 158 rfl) rfl
theorem q554 : (Jvm.Cond.instanceMethod ({ cls := "java/util/PriorityQueue", name := "clear", desc := "()V" } : Jvm.MethodName)) ∈ lw_all := lw_g (lw_at lw_m2 188 rfl) rfl
theorem q555 : (Jvm.Cond.selects "java/util/PriorityQueue" ({ cls := "java/util/PriorityQueue", name := "clear", desc := "()V" } : Jvm.MethodName) ({ cls := "java/util/PriorityQueue", name := "clear", desc := "()V" } : Jvm.MethodName)) ∈ lw_all := lw_g (lw_at lw_m2 189 rfl) rfl
theorem q556 : (Jvm.Cond.code ({ cls := "java/util/PriorityQueue", name := "clear", desc := "()V" } : Jvm.MethodName) prog_43_method_24_code (4 : Nat) (Option.none : Option Jvm.ClassFile.FieldType)) ∈ lw_all := lw_g (lw_at lw_m2 190 rfl) rfl
theorem q562 : (Jvm.Cond.instanceMethod ({ cls := "java/util/PriorityQueue", name := "add", desc := "(Ljava/lang/Object;)Z" } : Jvm.MethodName)) ∈ lw_all := lw_g (lw_at lw_m2 196 rfl) rfl
theorem q563 : (Jvm.Cond.selects "java/util/PriorityQueue" ({ cls := "java/util/PriorityQueue", name := "add", desc := "(Ljava/lang/Object;)Z" } : Jvm.MethodName) ({ cls := "java/util/PriorityQueue", name := "add", desc := "(Ljava/lang/Object;)Z" } : Jvm.MethodName)) ∈ lw_all := lw_g (lw_at lw_m2 197 rfl) rfl
theorem q564 : (Jvm.Cond.code ({ cls := "java/util/PriorityQueue", name := "add", desc := "(Ljava/lang/Object;)Z" } : Jvm.MethodName) prog_43_method_13_code (2 : Nat) (Option.some Jvm.ClassFile.FieldType.boolean)) ∈ lw_all := lw_g (lw_at lw_m2 198 rfl) rfl
theorem q565 : (Jvm.Cond.methodLink "java/util/PriorityQueue" (89 : Nat) ({ cls := "java/util/PriorityQueue", name := "offer", desc := "(Ljava/lang/Object;)Z" } : Jvm.MethodName)) ∈ lw_all := lw_g (lw_at lw_m2 199 rfl) rfl
theorem q566 : (Jvm.Cond.instanceMethod ({ cls := "java/util/PriorityQueue", name := "offer", desc := "(Ljava/lang/Object;)Z" } : Jvm.MethodName)) ∈ lw_all := lw_g (lw_at lw_m2 200 rfl) rfl
theorem q567 : (Jvm.Cond.selects "java/util/PriorityQueue" ({ cls := "java/util/PriorityQueue", name := "offer", desc := "(Ljava/lang/Object;)Z" } : Jvm.MethodName) ({ cls := "java/util/PriorityQueue", name := "offer", desc := "(Ljava/lang/Object;)Z" } : Jvm.MethodName)) ∈ lw_all := lw_g (lw_at lw_m2 201 rfl) rfl
theorem q568 : (Jvm.Cond.code ({ cls := "java/util/PriorityQueue", name := "offer", desc := "(Ljava/lang/Object;)Z" } : Jvm.MethodName) prog_43_method_14_code (3 : Nat) (Option.some Jvm.ClassFile.FieldType.boolean)) ∈ lw_all := lw_g (lw_at lw_m2 202 rfl) rfl
theorem q569 : (Jvm.Cond.methodLink "java/util/PriorityQueue" (96 : Nat) ({ cls := "java/util/PriorityQueue", name := "grow", desc := "(I)V" } : Jvm.MethodName)) ∈ lw_all := lw_g (lw_at lw_m2 203 rfl) rfl
theorem q570 : (Jvm.Cond.privateMethod ({ cls := "java/util/PriorityQueue", name := "grow", desc := "(I)V" } : Jvm.MethodName)) ∈ lw_tbl := lw_at lw_m2 204 rfl
theorem q571 : (Jvm.Cond.instanceMethod ({ cls := "java/util/PriorityQueue", name := "grow", desc := "(I)V" } : Jvm.MethodName)) ∈ lw_all := lw_g (lw_at lw_m2 205 rfl) rfl
theorem q572 : (Jvm.Cond.code ({ cls := "java/util/PriorityQueue", name := "grow", desc := "(I)V" } : Jvm.MethodName) prog_43_method_12_code (4 : Nat) (Option.none : Option Jvm.ClassFile.FieldType)) ∈ lw_all := lw_g (lw_at lw_m2 206 rfl) rfl
theorem q573 : (Jvm.Cond.methodLink "java/util/PriorityQueue" (80 : Nat) ({ cls := "jdk/internal/util/ArraysSupport", name := "newLength", desc := "(III)I" } : Jvm.MethodName)) ∈ lw_all := lw_g (lw_at lw_m2 207 rfl) rfl
theorem q583 : (Jvm.Cond.methodLink "java/util/PriorityQueue" (86 : Nat) ({ cls := "java/util/Arrays", name := "copyOf", desc := "([Ljava/lang/Object;I)[Ljava/lang/Object;" } : Jvm.MethodName)) ∈ lw_all := lw_g (lw_at lw_m2 217 rfl) rfl
theorem q603 : (Jvm.Cond.selects "java/util/PriorityQueue" ({ cls := "java/lang/Object", name := "getClass", desc := "()Ljava/lang/Class;" } : Jvm.MethodName) ({ cls := "java/lang/Object", name := "getClass", desc := "()Ljava/lang/Class;" } : Jvm.MethodName)) ∈ lw_all := lw_g (lw_at lw_m2 237 rfl) rfl
theorem q619 : (Jvm.Cond.methodLink "java/util/PriorityQueue" (100 : Nat) ({ cls := "java/util/PriorityQueue", name := "siftUp", desc := "(ILjava/lang/Object;)V" } : Jvm.MethodName)) ∈ lw_all := lw_g (lw_at lw_m3 13 rfl) rfl
theorem q620 : (Jvm.Cond.privateMethod ({ cls := "java/util/PriorityQueue", name := "siftUp", desc := "(ILjava/lang/Object;)V" } : Jvm.MethodName)) ∈ lw_tbl := lw_at lw_m3 14 rfl
theorem q621 : (Jvm.Cond.instanceMethod ({ cls := "java/util/PriorityQueue", name := "siftUp", desc := "(ILjava/lang/Object;)V" } : Jvm.MethodName)) ∈ lw_all := lw_g (lw_at lw_m3 15 rfl) rfl
theorem q622 : (Jvm.Cond.code ({ cls := "java/util/PriorityQueue", name := "siftUp", desc := "(ILjava/lang/Object;)V" } : Jvm.MethodName) prog_43_method_27_code (3 : Nat) (Option.none : Option Jvm.ClassFile.FieldType)) ∈ lw_all := lw_g (lw_at lw_m3 16 rfl) rfl
theorem q623 : (Jvm.Cond.methodLink "java/util/PriorityQueue" (136 : Nat) ({ cls := "java/util/PriorityQueue", name := "siftUpUsingComparator", desc := "(ILjava/lang/Object;[Ljava/lang/Object;Ljava/util/Comparator;)V" } : Jvm.MethodName)) ∈ lw_all := lw_g (lw_at lw_m3 17 rfl) rfl
theorem q624 : (Jvm.Cond.static ({ cls := "java/util/PriorityQueue", name := "siftUpUsingComparator", desc := "(ILjava/lang/Object;[Ljava/lang/Object;Ljava/util/Comparator;)V" } : Jvm.MethodName)) ∈ lw_all := lw_g (lw_at lw_m3 18 rfl) rfl
theorem q625 : (Jvm.Cond.code ({ cls := "java/util/PriorityQueue", name := "siftUpUsingComparator", desc := "(ILjava/lang/Object;[Ljava/lang/Object;Ljava/util/Comparator;)V" } : Jvm.MethodName) prog_43_method_29_code (6 : Nat) (Option.none : Option Jvm.ClassFile.FieldType)) ∈ lw_all := lw_g (lw_at lw_m3 19 rfl) rfl
theorem q626 : (Jvm.Cond.interfaceEntry "java/util/PriorityQueue" (149 : Nat)) ∈ lw_tbl := lw_at lw_m3 20 rfl
theorem q627 : (Jvm.Cond.methodLink "java/util/PriorityQueue" (149 : Nat) ({ cls := "java/util/Comparator", name := "compare", desc := "(Ljava/lang/Object;Ljava/lang/Object;)I" } : Jvm.MethodName)) ∈ lw_all := lw_g (lw_at lw_m3 21 rfl) rfl
theorem q647 : (Jvm.Cond.methodLink "java/util/PriorityQueue" (140 : Nat) ({ cls := "java/util/PriorityQueue", name := "siftUpComparable", desc := "(ILjava/lang/Object;[Ljava/lang/Object;)V" } : Jvm.MethodName)) ∈ lw_all := lw_g (lw_at lw_m3 41 rfl) rfl
theorem q648 : (Jvm.Cond.static ({ cls := "java/util/PriorityQueue", name := "siftUpComparable", desc := "(ILjava/lang/Object;[Ljava/lang/Object;)V" } : Jvm.MethodName)) ∈ lw_all := lw_g (lw_at lw_m3 42 rfl) rfl
theorem q649 : (Jvm.Cond.code ({ cls := "java/util/PriorityQueue", name := "siftUpComparable", desc := "(ILjava/lang/Object;[Ljava/lang/Object;)V" } : Jvm.MethodName) prog_43_method_28_code (6 : Nat) (Option.none : Option Jvm.ClassFile.FieldType)) ∈ lw_all := lw_g (lw_at lw_m3 43 rfl) rfl
theorem q650 : (Jvm.Cond.classLink "java/util/PriorityQueue" (144 : Nat) "java/lang/Comparable") ∈ lw_all := lw_g (lw_at lw_m3 44 rfl) rfl
theorem q651 : (Jvm.Cond.interfaceEntry "java/util/PriorityQueue" (146 : Nat)) ∈ lw_tbl := lw_at lw_m3 45 rfl
theorem q652 : (Jvm.Cond.methodLink "java/util/PriorityQueue" (146 : Nat) ({ cls := "java/lang/Comparable", name := "compareTo", desc := "(Ljava/lang/Object;)I" } : Jvm.MethodName)) ∈ lw_all := lw_g (lw_at lw_m3 46 rfl) rfl
theorem q668 : (Jvm.Cond.sameMethod "java/util/PriorityQueue" "java/util/AbstractCollection" "isEmpty" "()Z") ∈ lw_all := lw_g (lw_at lw_m3 62 rfl) rfl
theorem q670 : (Jvm.Cond.selects "java/util/PriorityQueue" ({ cls := "java/util/PriorityQueue", name := "isEmpty", desc := "()Z" } : Jvm.MethodName) ({ cls := "java/util/AbstractCollection", name := "isEmpty", desc := "()Z" } : Jvm.MethodName)) ∈ lw_all := lw_g (lw_at lw_m3 64 rfl) rfl
theorem q676 : (Jvm.Cond.selects "java/util/PriorityQueue" ({ cls := "java/util/AbstractCollection", name := "size", desc := "()I" } : Jvm.MethodName) ({ cls := "java/util/PriorityQueue", name := "size", desc := "()I" } : Jvm.MethodName)) ∈ lw_all := lw_g (lw_at lw_m3 70 rfl) rfl
theorem q677 : (Jvm.Cond.instanceMethod ({ cls := "java/util/PriorityQueue", name := "size", desc := "()I" } : Jvm.MethodName)) ∈ lw_all := lw_g (lw_at lw_m3 71 rfl) rfl
theorem q678 : (Jvm.Cond.code ({ cls := "java/util/PriorityQueue", name := "size", desc := "()I" } : Jvm.MethodName) prog_43_method_23_code (1 : Nat) (Option.some Jvm.ClassFile.FieldType.int)) ∈ lw_all := lw_g (lw_at lw_m3 72 rfl) rfl
theorem q691 : (Jvm.Cond.instanceMethod ({ cls := "java/util/PriorityQueue", name := "poll", desc := "()Ljava/lang/Object;" } : Jvm.MethodName)) ∈ lw_all := lw_g (lw_at lw_m3 85 rfl) rfl
theorem q692 : (Jvm.Cond.selects "java/util/PriorityQueue" ({ cls := "java/util/PriorityQueue", name := "poll", desc := "()Ljava/lang/Object;" } : Jvm.MethodName) ({ cls := "java/util/PriorityQueue", name := "poll", desc := "()Ljava/lang/Object;" } : Jvm.MethodName)) ∈ lw_all := lw_g (lw_at lw_m3 86 rfl) rfl
theorem q693 : (Jvm.Cond.code ({ cls := "java/util/PriorityQueue", name := "poll", desc := "()Ljava/lang/Object;" } : Jvm.MethodName) prog_43_method_25_code (6 : Nat) (Option.some (Jvm.ClassFile.FieldType.object "java/lang/Object"))) ∈ lw_all := lw_g (lw_at lw_m3 87 rfl) rfl
theorem q694 : (Jvm.Cond.methodLink "java/util/PriorityQueue" (125 : Nat) ({ cls := "java/util/PriorityQueue", name := "siftDownComparable", desc := "(ILjava/lang/Object;[Ljava/lang/Object;I)V" } : Jvm.MethodName)) ∈ lw_all := lw_g (lw_at lw_m3 88 rfl) rfl
theorem q695 : (Jvm.Cond.static ({ cls := "java/util/PriorityQueue", name := "siftDownComparable", desc := "(ILjava/lang/Object;[Ljava/lang/Object;I)V" } : Jvm.MethodName)) ∈ lw_all := lw_g (lw_at lw_m3 89 rfl) rfl
theorem q696 : (Jvm.Cond.code ({ cls := "java/util/PriorityQueue", name := "siftDownComparable", desc := "(ILjava/lang/Object;[Ljava/lang/Object;I)V" } : Jvm.MethodName) prog_43_method_31_code (9 : Nat) (Option.none : Option Jvm.ClassFile.FieldType)) ∈ lw_all := lw_g (lw_at lw_m3 90 rfl) rfl
theorem q697 : (Jvm.Cond.methodLink "java/util/PriorityQueue" (129 : Nat) ({ cls := "java/util/PriorityQueue", name := "siftDownUsingComparator", desc := "(ILjava/lang/Object;[Ljava/lang/Object;ILjava/util/Comparator;)V" } : Jvm.MethodName)) ∈ lw_all := lw_g (lw_at lw_m3 91 rfl) rfl
theorem q698 : (Jvm.Cond.static ({ cls := "java/util/PriorityQueue", name := "siftDownUsingComparator", desc := "(ILjava/lang/Object;[Ljava/lang/Object;ILjava/util/Comparator;)V" } : Jvm.MethodName)) ∈ lw_all := lw_g (lw_at lw_m3 92 rfl) rfl
theorem q699 : (Jvm.Cond.code ({ cls := "java/util/PriorityQueue", name := "siftDownUsingComparator", desc := "(ILjava/lang/Object;[Ljava/lang/Object;ILjava/util/Comparator;)V" } : Jvm.MethodName) prog_43_method_32_code (9 : Nat) (Option.none : Option Jvm.ClassFile.FieldType)) ∈ lw_all := lw_g (lw_at lw_m3 93 rfl) rfl
theorem q1605 : (Jvm.Cond.instanceMethod ({ cls := "java/util/PriorityQueue", name := "peek", desc := "()Ljava/lang/Object;" } : Jvm.MethodName)) ∈ lw_all := lw_g (lw_at lw_m7 39 rfl) rfl
theorem q1606 : (Jvm.Cond.selects "java/util/PriorityQueue" ({ cls := "java/util/PriorityQueue", name := "peek", desc := "()Ljava/lang/Object;" } : Jvm.MethodName) ({ cls := "java/util/PriorityQueue", name := "peek", desc := "()Ljava/lang/Object;" } : Jvm.MethodName)) ∈ lw_all := lw_g (lw_at lw_m7 40 rfl) rfl
theorem q1607 : (Jvm.Cond.code ({ cls := "java/util/PriorityQueue", name := "peek", desc := "()Ljava/lang/Object;" } : Jvm.MethodName) prog_43_method_15_code (1 : Nat) (Option.some (Jvm.ClassFile.FieldType.object "java/lang/Object"))) ∈ lw_all := lw_g (lw_at lw_m7 41 rfl) rfl
theorem q2460 : (Jvm.Cond.selects "java/util/PriorityQueue" ({ cls := "java/util/PriorityQueue", name := "size", desc := "()I" } : Jvm.MethodName) ({ cls := "java/util/PriorityQueue", name := "size", desc := "()I" } : Jvm.MethodName)) ∈ lw_all := lw_g (lw_at lw_m10 174 rfl) rfl
theorem q2470 : (Jvm.Cond.castable "java/util/PriorityQueue" "java/lang/Object") ∈ lw_tbl := lw_at lw_m10 184 rfl
theorem in_J2 : ∀ w ∈ wsJ20, w ∈ lw_all := lw_in wsJ20 [276, 278, 280, 282] (by decide +kernel) (by decide +kernel)
/-! java/lang/Math -/
set_option maxRecDepth 100000
def RJ7 : String := "java/lang/Math"
abbrev cJ7_max : ByteArray := prog_26_method_66_code
def yJ7_max : MethodName := ⟨RJ7, "max", "(JJ)J"⟩
def dkwJ7_max_0 : List UInt8 := [30, 32, 148, 155, 0, 7, 30, 167, 0, 4, 32, 173]
abbrev dktJ7_max_0 : List UInt8 := dkwJ7_max_0 ++ []
theorem dksJ7_max_0 : cJ7_max.data.toList.drop 0 = dktJ7_max_0 := by decide +kernel
theorem dJ7_max_0 : decode cJ7_max 0 = .ok (.lload_n 0, 1) := dk_30 (dk_at dksJ7_max_0 0 rfl rfl)
theorem dJ7_max_1 : decode cJ7_max 1 = .ok (.lload_n 2, 1) := dk_32 (dk_at dksJ7_max_0 1 rfl rfl)
theorem dJ7_max_2 : decode cJ7_max 2 = .ok (.lcmp, 1) := dk_148 (dk_at dksJ7_max_0 2 rfl rfl)
theorem dJ7_max_3 : decode cJ7_max 3 = .ok (.ifCond .lt 7, 3) := dk_155 0 7 (dk_at dksJ7_max_0 3 rfl rfl)
theorem dJ7_max_6 : decode cJ7_max 6 = .ok (.lload_n 0, 1) := dk_30 (dk_at dksJ7_max_0 6 rfl rfl)
theorem dJ7_max_7 : decode cJ7_max 7 = .ok (.goto 4, 3) := dk_167 0 4 (dk_at dksJ7_max_0 7 rfl rfl)
theorem dJ7_max_10 : decode cJ7_max 10 = .ok (.lload_n 2, 1) := dk_32 (dk_at dksJ7_max_0 10 rfl rfl)
theorem dJ7_max_11 : decode cJ7_max 11 = .ok (.lreturn, 1) := dk_173 (dk_at dksJ7_max_0 11 rfl rfl)
abbrev cJ7_min : ByteArray := prog_26_method_70_code
def yJ7_min : MethodName := ⟨RJ7, "min", "(JJ)J"⟩
def dkwJ7_min_0 : List UInt8 := [30, 32, 148, 157, 0, 7, 30, 167, 0, 4, 32, 173]
abbrev dktJ7_min_0 : List UInt8 := dkwJ7_min_0 ++ []
theorem dksJ7_min_0 : cJ7_min.data.toList.drop 0 = dktJ7_min_0 := by decide +kernel
theorem dJ7_min_0 : decode cJ7_min 0 = .ok (.lload_n 0, 1) := dk_30 (dk_at dksJ7_min_0 0 rfl rfl)
theorem dJ7_min_1 : decode cJ7_min 1 = .ok (.lload_n 2, 1) := dk_32 (dk_at dksJ7_min_0 1 rfl rfl)
theorem dJ7_min_2 : decode cJ7_min 2 = .ok (.lcmp, 1) := dk_148 (dk_at dksJ7_min_0 2 rfl rfl)
theorem dJ7_min_3 : decode cJ7_min 3 = .ok (.ifCond .gt 7, 3) := dk_157 0 7 (dk_at dksJ7_min_0 3 rfl rfl)
theorem dJ7_min_6 : decode cJ7_min 6 = .ok (.lload_n 0, 1) := dk_30 (dk_at dksJ7_min_0 6 rfl rfl)
theorem dJ7_min_7 : decode cJ7_min 7 = .ok (.goto 4, 3) := dk_167 0 4 (dk_at dksJ7_min_0 7 rfl rfl)
theorem dJ7_min_10 : decode cJ7_min 10 = .ok (.lload_n 2, 1) := dk_32 (dk_at dksJ7_min_0 10 rfl rfl)
theorem dJ7_min_11 : decode cJ7_min 11 = .ok (.lreturn, 1) := dk_173 (dk_at dksJ7_min_0 11 rfl rfl)
abbrev cJ7_max_2 : ByteArray := prog_26_method_65_code
def yJ7_max_2 : MethodName := ⟨RJ7, "max", "(II)I"⟩
def dkwJ7_max_2_0 : List UInt8 := [26, 27, 161, 0, 7, 26, 167, 0, 4, 27, 172]
abbrev dktJ7_max_2_0 : List UInt8 := dkwJ7_max_2_0 ++ []
theorem dksJ7_max_2_0 : cJ7_max_2.data.toList.drop 0 = dktJ7_max_2_0 := by decide +kernel
theorem dJ7_max_2_0 : decode cJ7_max_2 0 = .ok (.iload_n 0, 1) := dk_26 (dk_at dksJ7_max_2_0 0 rfl rfl)
theorem dJ7_max_2_1 : decode cJ7_max_2 1 = .ok (.iload_n 1, 1) := dk_27 (dk_at dksJ7_max_2_0 1 rfl rfl)
theorem dJ7_max_2_2 : decode cJ7_max_2 2 = .ok (.if_icmp .lt 7, 3) := dk_161 0 7 (dk_at dksJ7_max_2_0 2 rfl rfl)
theorem dJ7_max_2_5 : decode cJ7_max_2 5 = .ok (.iload_n 0, 1) := dk_26 (dk_at dksJ7_max_2_0 5 rfl rfl)
theorem dJ7_max_2_6 : decode cJ7_max_2 6 = .ok (.goto 4, 3) := dk_167 0 4 (dk_at dksJ7_max_2_0 6 rfl rfl)
theorem dJ7_max_2_9 : decode cJ7_max_2 9 = .ok (.iload_n 1, 1) := dk_27 (dk_at dksJ7_max_2_0 9 rfl rfl)
theorem dJ7_max_2_10 : decode cJ7_max_2 10 = .ok (.ireturn, 1) := dk_172 (dk_at dksJ7_max_2_0 10 rfl rfl)
abbrev cJ7_min_2 : ByteArray := prog_26_method_69_code
def yJ7_min_2 : MethodName := ⟨RJ7, "min", "(II)I"⟩
def dkwJ7_min_2_0 : List UInt8 := [26, 27, 163, 0, 7, 26, 167, 0, 4, 27, 172]
abbrev dktJ7_min_2_0 : List UInt8 := dkwJ7_min_2_0 ++ []
theorem dksJ7_min_2_0 : cJ7_min_2.data.toList.drop 0 = dktJ7_min_2_0 := by decide +kernel
theorem dJ7_min_2_0 : decode cJ7_min_2 0 = .ok (.iload_n 0, 1) := dk_26 (dk_at dksJ7_min_2_0 0 rfl rfl)
theorem dJ7_min_2_1 : decode cJ7_min_2 1 = .ok (.iload_n 1, 1) := dk_27 (dk_at dksJ7_min_2_0 1 rfl rfl)
theorem dJ7_min_2_2 : decode cJ7_min_2 2 = .ok (.if_icmp .gt 7, 3) := dk_163 0 7 (dk_at dksJ7_min_2_0 2 rfl rfl)
theorem dJ7_min_2_5 : decode cJ7_min_2 5 = .ok (.iload_n 0, 1) := dk_26 (dk_at dksJ7_min_2_0 5 rfl rfl)
theorem dJ7_min_2_6 : decode cJ7_min_2 6 = .ok (.goto 4, 3) := dk_167 0 4 (dk_at dksJ7_min_2_0 6 rfl rfl)
theorem dJ7_min_2_9 : decode cJ7_min_2 9 = .ok (.iload_n 1, 1) := dk_27 (dk_at dksJ7_min_2_0 9 rfl rfl)
theorem dJ7_min_2_10 : decode cJ7_min_2 10 = .ok (.ireturn, 1) := dk_172 (dk_at dksJ7_min_2_0 10 rfl rfl)
theorem q143 : (Jvm.Cond.initialized "java/lang/Math") ∈ lw_all := lw_g (lw_at lw_m1 17 rfl) rfl
theorem q505 : (Jvm.Cond.static ({ cls := "java/lang/Math", name := "max", desc := "(JJ)J" } : Jvm.MethodName)) ∈ lw_all := lw_g (lw_at lw_m2 139 rfl) rfl
theorem q506 : (Jvm.Cond.code ({ cls := "java/lang/Math", name := "max", desc := "(JJ)J" } : Jvm.MethodName) prog_26_method_66_code (4 : Nat) (Option.some Jvm.ClassFile.FieldType.long)) ∈ lw_all := lw_g (lw_at lw_m2 140 rfl) rfl
theorem q508 : (Jvm.Cond.static ({ cls := "java/lang/Math", name := "min", desc := "(JJ)J" } : Jvm.MethodName)) ∈ lw_all := lw_g (lw_at lw_m2 142 rfl) rfl
theorem q509 : (Jvm.Cond.code ({ cls := "java/lang/Math", name := "min", desc := "(JJ)J" } : Jvm.MethodName) prog_26_method_70_code (4 : Nat) (Option.some Jvm.ClassFile.FieldType.long)) ∈ lw_all := lw_g (lw_at lw_m2 143 rfl) rfl
theorem q577 : (Jvm.Cond.static ({ cls := "java/lang/Math", name := "max", desc := "(II)I" } : Jvm.MethodName)) ∈ lw_all := lw_g (lw_at lw_m2 211 rfl) rfl
theorem q578 : (Jvm.Cond.code ({ cls := "java/lang/Math", name := "max", desc := "(II)I" } : Jvm.MethodName) prog_26_method_65_code (2 : Nat) (Option.some Jvm.ClassFile.FieldType.int)) ∈ lw_all := lw_g (lw_at lw_m2 212 rfl) rfl
theorem q614 : (Jvm.Cond.static ({ cls := "java/lang/Math", name := "min", desc := "(II)I" } : Jvm.MethodName)) ∈ lw_all := lw_g (lw_at lw_m3 8 rfl) rfl
theorem q615 : (Jvm.Cond.code ({ cls := "java/lang/Math", name := "min", desc := "(II)I" } : Jvm.MethodName) prog_26_method_69_code (2 : Nat) (Option.some Jvm.ClassFile.FieldType.int)) ∈ lw_all := lw_g (lw_at lw_m3 9 rfl) rfl
/-! java/lang/Long -/
set_option maxRecDepth 100000
def RJ10 : String := "java/lang/Long"
abbrev cJ10_compare : ByteArray := prog_25_method_42_code
def yJ10_compare : MethodName := ⟨RJ10, "compare", "(JJ)I"⟩
def dkwJ10_compare_0 : List UInt8 := [30, 32, 148, 156, 0, 7, 2, 167, 0, 14, 30, 32, 148, 154, 0, 7, 3, 167, 0, 4, 4, 172]
abbrev dktJ10_compare_0 : List UInt8 := dkwJ10_compare_0 ++ []
theorem dksJ10_compare_0 : cJ10_compare.data.toList.drop 0 = dktJ10_compare_0 := by decide +kernel
theorem dJ10_compare_0 : decode cJ10_compare 0 = .ok (.lload_n 0, 1) := dk_30 (dk_at dksJ10_compare_0 0 rfl rfl)
theorem dJ10_compare_1 : decode cJ10_compare 1 = .ok (.lload_n 2, 1) := dk_32 (dk_at dksJ10_compare_0 1 rfl rfl)
theorem dJ10_compare_2 : decode cJ10_compare 2 = .ok (.lcmp, 1) := dk_148 (dk_at dksJ10_compare_0 2 rfl rfl)
theorem dJ10_compare_3 : decode cJ10_compare 3 = .ok (.ifCond .ge 7, 3) := dk_156 0 7 (dk_at dksJ10_compare_0 3 rfl rfl)
theorem dJ10_compare_6 : decode cJ10_compare 6 = .ok (.iconst (-1), 1) := dk_2 (dk_at dksJ10_compare_0 6 rfl rfl)
theorem dJ10_compare_7 : decode cJ10_compare 7 = .ok (.goto 14, 3) := dk_167 0 14 (dk_at dksJ10_compare_0 7 rfl rfl)
theorem dJ10_compare_10 : decode cJ10_compare 10 = .ok (.lload_n 0, 1) := dk_30 (dk_at dksJ10_compare_0 10 rfl rfl)
theorem dJ10_compare_11 : decode cJ10_compare 11 = .ok (.lload_n 2, 1) := dk_32 (dk_at dksJ10_compare_0 11 rfl rfl)
theorem dJ10_compare_12 : decode cJ10_compare 12 = .ok (.lcmp, 1) := dk_148 (dk_at dksJ10_compare_0 12 rfl rfl)
theorem dJ10_compare_13 : decode cJ10_compare 13 = .ok (.ifCond .ne 7, 3) := dk_154 0 7 (dk_at dksJ10_compare_0 13 rfl rfl)
theorem dJ10_compare_16 : decode cJ10_compare 16 = .ok (.iconst 0, 1) := dk_3 (dk_at dksJ10_compare_0 16 rfl rfl)
theorem dJ10_compare_17 : decode cJ10_compare 17 = .ok (.goto 4, 3) := dk_167 0 4 (dk_at dksJ10_compare_0 17 rfl rfl)
theorem dJ10_compare_20 : decode cJ10_compare 20 = .ok (.iconst 1, 1) := dk_4 (dk_at dksJ10_compare_0 20 rfl rfl)
theorem dJ10_compare_21 : decode cJ10_compare 21 = .ok (.ireturn, 1) := dk_172 (dk_at dksJ10_compare_0 21 rfl rfl)
theorem q147 : (Jvm.Cond.initialized "java/lang/Long") ∈ lw_all := lw_g (lw_at lw_m1 21 rfl) rfl
theorem q642 : (Jvm.Cond.static ({ cls := "java/lang/Long", name := "compare", desc := "(JJ)I" } : Jvm.MethodName)) ∈ lw_all := lw_g (lw_at lw_m3 36 rfl) rfl
theorem q643 : (Jvm.Cond.code ({ cls := "java/lang/Long", name := "compare", desc := "(JJ)I" } : Jvm.MethodName) prog_25_method_42_code (4 : Nat) (Option.some Jvm.ClassFile.FieldType.int)) ∈ lw_all := lw_g (lw_at lw_m3 37 rfl) rfl
/-! java/lang/Integer -/
set_option maxRecDepth 100000
def RJ11 : String := "java/lang/Integer"
abbrev cJ11_compare : ByteArray := prog_23_method_40_code
def yJ11_compare : MethodName := ⟨RJ11, "compare", "(II)I"⟩
def dkwJ11_compare_0 : List UInt8 := [26, 27, 162, 0, 7, 2, 167, 0, 13, 26, 27, 160, 0, 7, 3, 167, 0, 4, 4, 172]
abbrev dktJ11_compare_0 : List UInt8 := dkwJ11_compare_0 ++ []
theorem dksJ11_compare_0 : cJ11_compare.data.toList.drop 0 = dktJ11_compare_0 := by decide +kernel
theorem dJ11_compare_0 : decode cJ11_compare 0 = .ok (.iload_n 0, 1) := dk_26 (dk_at dksJ11_compare_0 0 rfl rfl)
theorem dJ11_compare_1 : decode cJ11_compare 1 = .ok (.iload_n 1, 1) := dk_27 (dk_at dksJ11_compare_0 1 rfl rfl)
theorem dJ11_compare_2 : decode cJ11_compare 2 = .ok (.if_icmp .ge 7, 3) := dk_162 0 7 (dk_at dksJ11_compare_0 2 rfl rfl)
theorem dJ11_compare_5 : decode cJ11_compare 5 = .ok (.iconst (-1), 1) := dk_2 (dk_at dksJ11_compare_0 5 rfl rfl)
theorem dJ11_compare_6 : decode cJ11_compare 6 = .ok (.goto 13, 3) := dk_167 0 13 (dk_at dksJ11_compare_0 6 rfl rfl)
theorem dJ11_compare_9 : decode cJ11_compare 9 = .ok (.iload_n 0, 1) := dk_26 (dk_at dksJ11_compare_0 9 rfl rfl)
theorem dJ11_compare_10 : decode cJ11_compare 10 = .ok (.iload_n 1, 1) := dk_27 (dk_at dksJ11_compare_0 10 rfl rfl)
theorem dJ11_compare_11 : decode cJ11_compare 11 = .ok (.if_icmp .ne 7, 3) := dk_160 0 7 (dk_at dksJ11_compare_0 11 rfl rfl)
theorem dJ11_compare_14 : decode cJ11_compare 14 = .ok (.iconst 0, 1) := dk_3 (dk_at dksJ11_compare_0 14 rfl rfl)
theorem dJ11_compare_15 : decode cJ11_compare 15 = .ok (.goto 4, 3) := dk_167 0 4 (dk_at dksJ11_compare_0 15 rfl rfl)
theorem dJ11_compare_18 : decode cJ11_compare 18 = .ok (.iconst 1, 1) := dk_4 (dk_at dksJ11_compare_0 18 rfl rfl)
theorem dJ11_compare_19 : decode cJ11_compare 19 = .ok (.ireturn, 1) := dk_172 (dk_at dksJ11_compare_0 19 rfl rfl)
abbrev cJ11_bitCount : ByteArray := prog_23_method_49_code
def yJ11_bitCount : MethodName := ⟨RJ11, "bitCount", "(I)I"⟩
def dkwJ11_bitCount_2 : List UInt8 := [26, 16, 63, 126, 172]
abbrev dktJ11_bitCount_2 : List UInt8 := dkwJ11_bitCount_2 ++ []
def dkwJ11_bitCount_1 : List UInt8 := [26, 26, 7, 124, 96, 19, 1, 11, 126, 59, 26, 26, 16, 8, 124, 96, 59, 26, 26, 16, 16, 124, 96, 59]
abbrev dktJ11_bitCount_1 : List UInt8 := dkwJ11_bitCount_1 ++ dktJ11_bitCount_2
def dkwJ11_bitCount_0 : List UInt8 := [26, 26, 4, 124, 19, 1, 9, 126, 100, 59, 26, 19, 1, 10, 126, 26, 5, 124, 19, 1, 10, 126, 96, 59]
abbrev dktJ11_bitCount_0 : List UInt8 := dkwJ11_bitCount_0 ++ dktJ11_bitCount_1
theorem dksJ11_bitCount_0 : cJ11_bitCount.data.toList.drop 0 = dktJ11_bitCount_0 := by decide +kernel
theorem dksJ11_bitCount_1 : cJ11_bitCount.data.toList.drop 24 = dktJ11_bitCount_1 := dk_seg dksJ11_bitCount_0 24 rfl rfl
theorem dksJ11_bitCount_2 : cJ11_bitCount.data.toList.drop 48 = dktJ11_bitCount_2 := dk_seg dksJ11_bitCount_1 24 rfl rfl
theorem dJ11_bitCount_0 : decode cJ11_bitCount 0 = .ok (.iload_n 0, 1) := dk_26 (dk_at dksJ11_bitCount_0 0 rfl rfl)
theorem dJ11_bitCount_1 : decode cJ11_bitCount 1 = .ok (.iload_n 0, 1) := dk_26 (dk_at dksJ11_bitCount_0 1 rfl rfl)
theorem dJ11_bitCount_2 : decode cJ11_bitCount 2 = .ok (.iconst 1, 1) := dk_4 (dk_at dksJ11_bitCount_0 2 rfl rfl)
theorem dJ11_bitCount_3 : decode cJ11_bitCount 3 = .ok (.iushr, 1) := dk_124 (dk_at dksJ11_bitCount_0 3 rfl rfl)
theorem dJ11_bitCount_4 : decode cJ11_bitCount 4 = .ok (.ldc_w 265, 3) := dk_19 1 9 (dk_at dksJ11_bitCount_0 4 rfl rfl)
theorem dJ11_bitCount_7 : decode cJ11_bitCount 7 = .ok (.iand, 1) := dk_126 (dk_at dksJ11_bitCount_0 7 rfl rfl)
theorem dJ11_bitCount_8 : decode cJ11_bitCount 8 = .ok (.isub, 1) := dk_100 (dk_at dksJ11_bitCount_0 8 rfl rfl)
theorem dJ11_bitCount_9 : decode cJ11_bitCount 9 = .ok (.istore_n 0, 1) := dk_59 (dk_at dksJ11_bitCount_0 9 rfl rfl)
theorem dJ11_bitCount_10 : decode cJ11_bitCount 10 = .ok (.iload_n 0, 1) := dk_26 (dk_at dksJ11_bitCount_0 10 rfl rfl)
theorem dJ11_bitCount_11 : decode cJ11_bitCount 11 = .ok (.ldc_w 266, 3) := dk_19 1 10 (dk_at dksJ11_bitCount_0 11 rfl rfl)
theorem dJ11_bitCount_14 : decode cJ11_bitCount 14 = .ok (.iand, 1) := dk_126 (dk_at dksJ11_bitCount_0 14 rfl rfl)
theorem dJ11_bitCount_15 : decode cJ11_bitCount 15 = .ok (.iload_n 0, 1) := dk_26 (dk_at dksJ11_bitCount_0 15 rfl rfl)
theorem dJ11_bitCount_16 : decode cJ11_bitCount 16 = .ok (.iconst 2, 1) := dk_5 (dk_at dksJ11_bitCount_0 16 rfl rfl)
theorem dJ11_bitCount_17 : decode cJ11_bitCount 17 = .ok (.iushr, 1) := dk_124 (dk_at dksJ11_bitCount_0 17 rfl rfl)
theorem dJ11_bitCount_18 : decode cJ11_bitCount 18 = .ok (.ldc_w 266, 3) := dk_19 1 10 (dk_at dksJ11_bitCount_0 18 rfl rfl)
theorem dJ11_bitCount_21 : decode cJ11_bitCount 21 = .ok (.iand, 1) := dk_126 (dk_at dksJ11_bitCount_0 21 rfl rfl)
theorem dJ11_bitCount_22 : decode cJ11_bitCount 22 = .ok (.iadd, 1) := dk_96 (dk_at dksJ11_bitCount_0 22 rfl rfl)
theorem dJ11_bitCount_23 : decode cJ11_bitCount 23 = .ok (.istore_n 0, 1) := dk_59 (dk_at dksJ11_bitCount_0 23 rfl rfl)
theorem dJ11_bitCount_24 : decode cJ11_bitCount 24 = .ok (.iload_n 0, 1) := dk_26 (dk_at dksJ11_bitCount_1 0 rfl rfl)
theorem dJ11_bitCount_25 : decode cJ11_bitCount 25 = .ok (.iload_n 0, 1) := dk_26 (dk_at dksJ11_bitCount_1 1 rfl rfl)
theorem dJ11_bitCount_26 : decode cJ11_bitCount 26 = .ok (.iconst 4, 1) := dk_7 (dk_at dksJ11_bitCount_1 2 rfl rfl)
theorem dJ11_bitCount_27 : decode cJ11_bitCount 27 = .ok (.iushr, 1) := dk_124 (dk_at dksJ11_bitCount_1 3 rfl rfl)
theorem dJ11_bitCount_28 : decode cJ11_bitCount 28 = .ok (.iadd, 1) := dk_96 (dk_at dksJ11_bitCount_1 4 rfl rfl)
theorem dJ11_bitCount_29 : decode cJ11_bitCount 29 = .ok (.ldc_w 267, 3) := dk_19 1 11 (dk_at dksJ11_bitCount_1 5 rfl rfl)
theorem dJ11_bitCount_32 : decode cJ11_bitCount 32 = .ok (.iand, 1) := dk_126 (dk_at dksJ11_bitCount_1 8 rfl rfl)
theorem dJ11_bitCount_33 : decode cJ11_bitCount 33 = .ok (.istore_n 0, 1) := dk_59 (dk_at dksJ11_bitCount_1 9 rfl rfl)
theorem dJ11_bitCount_34 : decode cJ11_bitCount 34 = .ok (.iload_n 0, 1) := dk_26 (dk_at dksJ11_bitCount_1 10 rfl rfl)
theorem dJ11_bitCount_35 : decode cJ11_bitCount 35 = .ok (.iload_n 0, 1) := dk_26 (dk_at dksJ11_bitCount_1 11 rfl rfl)
theorem dJ11_bitCount_36 : decode cJ11_bitCount 36 = .ok (.bipush 8, 2) := dk_16 8 (dk_at dksJ11_bitCount_1 12 rfl rfl)
theorem dJ11_bitCount_38 : decode cJ11_bitCount 38 = .ok (.iushr, 1) := dk_124 (dk_at dksJ11_bitCount_1 14 rfl rfl)
theorem dJ11_bitCount_39 : decode cJ11_bitCount 39 = .ok (.iadd, 1) := dk_96 (dk_at dksJ11_bitCount_1 15 rfl rfl)
theorem dJ11_bitCount_40 : decode cJ11_bitCount 40 = .ok (.istore_n 0, 1) := dk_59 (dk_at dksJ11_bitCount_1 16 rfl rfl)
theorem dJ11_bitCount_41 : decode cJ11_bitCount 41 = .ok (.iload_n 0, 1) := dk_26 (dk_at dksJ11_bitCount_1 17 rfl rfl)
theorem dJ11_bitCount_42 : decode cJ11_bitCount 42 = .ok (.iload_n 0, 1) := dk_26 (dk_at dksJ11_bitCount_1 18 rfl rfl)
theorem dJ11_bitCount_43 : decode cJ11_bitCount 43 = .ok (.bipush 16, 2) := dk_16 16 (dk_at dksJ11_bitCount_1 19 rfl rfl)
theorem dJ11_bitCount_45 : decode cJ11_bitCount 45 = .ok (.iushr, 1) := dk_124 (dk_at dksJ11_bitCount_1 21 rfl rfl)
theorem dJ11_bitCount_46 : decode cJ11_bitCount 46 = .ok (.iadd, 1) := dk_96 (dk_at dksJ11_bitCount_1 22 rfl rfl)
theorem dJ11_bitCount_47 : decode cJ11_bitCount 47 = .ok (.istore_n 0, 1) := dk_59 (dk_at dksJ11_bitCount_1 23 rfl rfl)
theorem dJ11_bitCount_48 : decode cJ11_bitCount 48 = .ok (.iload_n 0, 1) := dk_26 (dk_at dksJ11_bitCount_2 0 rfl rfl)
theorem dJ11_bitCount_49 : decode cJ11_bitCount 49 = .ok (.bipush 63, 2) := dk_16 63 (dk_at dksJ11_bitCount_2 1 rfl rfl)
theorem dJ11_bitCount_51 : decode cJ11_bitCount 51 = .ok (.iand, 1) := dk_126 (dk_at dksJ11_bitCount_2 3 rfl rfl)
theorem dJ11_bitCount_52 : decode cJ11_bitCount 52 = .ok (.ireturn, 1) := dk_172 (dk_at dksJ11_bitCount_2 4 rfl rfl)
theorem q148 : (Jvm.Cond.initialized "java/lang/Integer") ∈ lw_all := lw_g (lw_at lw_m1 22 rfl) rfl
theorem q645 : (Jvm.Cond.static ({ cls := "java/lang/Integer", name := "compare", desc := "(II)I" } : Jvm.MethodName)) ∈ lw_all := lw_g (lw_at lw_m3 39 rfl) rfl
theorem q646 : (Jvm.Cond.code ({ cls := "java/lang/Integer", name := "compare", desc := "(II)I" } : Jvm.MethodName) prog_23_method_40_code (2 : Nat) (Option.some Jvm.ClassFile.FieldType.int)) ∈ lw_all := lw_g (lw_at lw_m3 40 rfl) rfl
theorem q1082 : (Jvm.Cond.static ({ cls := "java/lang/Integer", name := "bitCount", desc := "(I)I" } : Jvm.MethodName)) ∈ lw_all := lw_g (lw_at lw_m4 236 rfl) rfl
theorem q1083 : (Jvm.Cond.code ({ cls := "java/lang/Integer", name := "bitCount", desc := "(I)I" } : Jvm.MethodName) prog_23_method_49_code (1 : Nat) (Option.some Jvm.ClassFile.FieldType.int)) ∈ lw_all := lw_g (lw_at lw_m4 237 rfl) rfl
theorem q1084 : (Jvm.Cond.constant "java/lang/Integer" (265 : Nat) (1431655765 : Int32)) ∈ lw_all := lw_g (lw_at lw_m4 238 rfl) rfl
theorem q1085 : (Jvm.Cond.constant "java/lang/Integer" (266 : Nat) (858993459 : Int32)) ∈ lw_all := lw_g (lw_at lw_m4 239 rfl) rfl
theorem q1086 : (Jvm.Cond.constant "java/lang/Integer" (267 : Nat) (252645135 : Int32)) ∈ lw_all := lw_g (lw_at lw_m5 0 rfl) rfl
theorem q1292 : (Jvm.Cond.interfaceMethod "TallTowers$Asked" "TallTowers$Asked" "told" "(LTallTowers$Layer;)J") ∈ lw_tbl := lw_at lw_m5 206 rfl
set_option maxRecDepth 100000
theorem q1293 : (Jvm.Cond.declares ({ cls := "TallTowers$Asked", name := "told", desc := "(LTallTowers$Layer;)J" } : Jvm.MethodName)) ∈ lw_tbl := lw_at lw_m5 207 rfl
theorem q926 : (Jvm.Cond.interfaceMethod "TallTowers$Deed" "TallTowers$Deed" "on" "(LTallTowers$World;)Z") ∈ lw_tbl := lw_at lw_m4 80 rfl
set_option maxRecDepth 100000
theorem q927 : (Jvm.Cond.declares ({ cls := "TallTowers$Deed", name := "on", desc := "(LTallTowers$World;)Z" } : Jvm.MethodName)) ∈ lw_tbl := lw_at lw_m4 81 rfl
theorem q1136 : (Jvm.Cond.interfaceMethod "TallTowers$Spreading" "TallTowers$Spreading" "goes" "(LTallTowers$Harm;JLTallTowers$Flow;)V") ∈ lw_tbl := lw_at lw_m5 50 rfl
set_option maxRecDepth 100000
theorem q1137 : (Jvm.Cond.declares ({ cls := "TallTowers$Spreading", name := "goes", desc := "(LTallTowers$Harm;JLTallTowers$Flow;)V" } : Jvm.MethodName)) ∈ lw_tbl := lw_at lw_m5 51 rfl
theorem q2487 : (Jvm.Cond.castable "[I" "java/lang/Object") ∈ lw_tbl := lw_at lw_m10 201 rfl
set_option maxRecDepth 100000
theorem q2488 : (Jvm.Cond.castable "[J" "java/lang/Object") ∈ lw_tbl := lw_at lw_m10 202 rfl
set_option maxRecDepth 100000
theorem q2491 : (Jvm.Cond.castable "[LTallTowers$Event;" "java/lang/Object") ∈ lw_tbl := lw_at lw_m10 205 rfl
set_option maxRecDepth 100000
theorem q2484 : (Jvm.Cond.castable "[LTallTowers$Harm;" "java/lang/Object") ∈ lw_tbl := lw_at lw_m10 198 rfl
set_option maxRecDepth 100000
theorem q2492 : (Jvm.Cond.castable "[LTallTowers$Holder;" "java/lang/Object") ∈ lw_tbl := lw_at lw_m10 206 rfl
set_option maxRecDepth 100000
theorem q2483 : (Jvm.Cond.castable "[LTallTowers$Layer;" "java/lang/Object") ∈ lw_tbl := lw_at lw_m10 197 rfl
set_option maxRecDepth 100000
theorem q2490 : (Jvm.Cond.castable "[LTallTowers$Spread;" "java/lang/Object") ∈ lw_tbl := lw_at lw_m10 204 rfl
set_option maxRecDepth 100000
theorem q2486 : (Jvm.Cond.castable "[LTallTowers$Tower;" "java/lang/Object") ∈ lw_tbl := lw_at lw_m10 200 rfl
set_option maxRecDepth 100000
theorem q2480 : (Jvm.Cond.sameMethod "[Ljava/lang/Object;" "java/lang/Object" "getClass" "()Ljava/lang/Class;") ∈ lw_all := lw_g (lw_at lw_m10 194 rfl) rfl
set_option maxRecDepth 100000
theorem q2481 : (Jvm.Cond.selects "[Ljava/lang/Object;" ({ cls := "java/lang/Object", name := "getClass", desc := "()Ljava/lang/Class;" } : Jvm.MethodName) ({ cls := "java/lang/Object", name := "getClass", desc := "()Ljava/lang/Class;" } : Jvm.MethodName)) ∈ lw_all := lw_g (lw_at lw_m10 195 rfl) rfl
theorem q2489 : (Jvm.Cond.castable "[Ljava/lang/Object;" "java/lang/Object") ∈ lw_tbl := lw_at lw_m10 203 rfl
theorem q2493 : (Jvm.Cond.castable "[Z" "java/lang/Object") ∈ lw_tbl := lw_at lw_m10 207 rfl
set_option maxRecDepth 100000
theorem q2485 : (Jvm.Cond.castable "[[I" "java/lang/Object") ∈ lw_tbl := lw_at lw_m10 199 rfl
set_option maxRecDepth 100000
theorem q653 : (Jvm.Cond.interfaceMethod "java/lang/Comparable" "java/lang/Comparable" "compareTo" "(Ljava/lang/Object;)I") ∈ lw_tbl := lw_at lw_m3 47 rfl
set_option maxRecDepth 100000
theorem q654 : (Jvm.Cond.declares ({ cls := "java/lang/Comparable", name := "compareTo", desc := "(Ljava/lang/Object;)I" } : Jvm.MethodName)) ∈ lw_tbl := lw_at lw_m3 48 rfl
theorem q146 : (Jvm.Cond.initialized "java/lang/System") ∈ lw_all := lw_g (lw_at lw_m1 20 rfl) rfl
set_option maxRecDepth 100000
theorem q617 : (Jvm.Cond.static ({ cls := "java/lang/System", name := "arraycopy", desc := "(Ljava/lang/Object;ILjava/lang/Object;II)V" } : Jvm.MethodName)) ∈ lw_all := lw_g (lw_at lw_m3 11 rfl) rfl
theorem q618 : (Jvm.Cond.native ({ cls := "java/lang/System", name := "arraycopy", desc := "(Ljava/lang/Object;ILjava/lang/Object;II)V" } : Jvm.MethodName)) ∈ lw_all := lw_g (lw_at lw_m3 12 rfl) rfl
theorem q628 : (Jvm.Cond.interfaceMethod "java/util/Comparator" "java/util/Comparator" "compare" "(Ljava/lang/Object;Ljava/lang/Object;)I") ∈ lw_tbl := lw_at lw_m3 22 rfl
set_option maxRecDepth 100000
theorem q629 : (Jvm.Cond.declares ({ cls := "java/util/Comparator", name := "compare", desc := "(Ljava/lang/Object;Ljava/lang/Object;)I" } : Jvm.MethodName)) ∈ lw_tbl := lw_at lw_m3 23 rfl
theorem q683 : (Jvm.Cond.declares ({ cls := "java/util/Map", name := "size", desc := "()I" } : Jvm.MethodName)) ∈ lw_tbl := lw_at lw_m3 77 rfl
set_option maxRecDepth 100000
theorem q1389 : (Jvm.Cond.declares ({ cls := "java/util/Map", name := "clear", desc := "()V" } : Jvm.MethodName)) ∈ lw_tbl := lw_at lw_m6 63 rfl
theorem q1402 : (Jvm.Cond.declares ({ cls := "java/util/Map", name := "put", desc := "(Ljava/lang/Object;Ljava/lang/Object;)Ljava/lang/Object;" } : Jvm.MethodName)) ∈ lw_tbl := lw_at lw_m6 76 rfl
theorem q1514 : (Jvm.Cond.interfaceMethod "java/util/NavigableMap" "java/util/NavigableMap" "higherKey" "(Ljava/lang/Object;)Ljava/lang/Object;") ∈ lw_tbl := lw_at lw_m6 188 rfl
set_option maxRecDepth 100000
theorem q1515 : (Jvm.Cond.declares ({ cls := "java/util/NavigableMap", name := "higherKey", desc := "(Ljava/lang/Object;)Ljava/lang/Object;" } : Jvm.MethodName)) ∈ lw_tbl := lw_at lw_m6 189 rfl
theorem q1493 : (Jvm.Cond.declares ({ cls := "java/util/SortedMap", name := "firstKey", desc := "()Ljava/lang/Object;" } : Jvm.MethodName)) ∈ lw_tbl := lw_at lw_m6 167 rfl
set_option maxRecDepth 100000
theorem q175 : (Jvm.Cond.arrayOver (Jvm.ClassFile.FieldType.object "TallTowers$Layer")) ∈ lw_tbl := lw_at lw_m1 49 rfl
set_option maxRecDepth 100000
theorem q177 : (Jvm.Cond.arrayOver (Jvm.ClassFile.FieldType.object "TallTowers$Harm")) ∈ lw_tbl := lw_at lw_m1 51 rfl
theorem q179 : (Jvm.Cond.arrayOver (Jvm.ClassFile.FieldType.array Jvm.ClassFile.FieldType.int)) ∈ lw_tbl := lw_at lw_m1 53 rfl
theorem q181 : (Jvm.Cond.arrayOver (Jvm.ClassFile.FieldType.object "TallTowers$Tower")) ∈ lw_tbl := lw_at lw_m1 55 rfl
theorem q193 : (Jvm.Cond.arrayClass Jvm.ClassFile.FieldType.int) ∈ lw_all := lw_g (lw_at lw_m1 67 rfl) rfl
theorem q194 : (Jvm.Cond.arrayClass Jvm.ClassFile.FieldType.long) ∈ lw_all := lw_g (lw_at lw_m1 68 rfl) rfl
theorem q271 : (Jvm.Cond.arrayOver (Jvm.ClassFile.FieldType.object "java/lang/Object")) ∈ lw_tbl := lw_at lw_m1 145 rfl
theorem q452 : (Jvm.Cond.arrayOver (Jvm.ClassFile.FieldType.object "TallTowers$Spread")) ∈ lw_tbl := lw_at lw_m2 86 rfl
theorem q818 : (Jvm.Cond.arrayOver (Jvm.ClassFile.FieldType.object "TallTowers$Event")) ∈ lw_tbl := lw_at lw_m3 212 rfl
theorem q820 : (Jvm.Cond.arrayOver (Jvm.ClassFile.FieldType.object "TallTowers$Holder")) ∈ lw_tbl := lw_at lw_m3 214 rfl
theorem q1912 : (Jvm.Cond.arrayClass Jvm.ClassFile.FieldType.boolean) ∈ lw_all := lw_g (lw_at lw_m8 106 rfl) rfl
