/-! TallTowers$Holder -/
set_option maxRecDepth 100000
def RX10 : String := "TallTowers$Holder"
def TX10 : u_T := fun k => match k with
  | 0 => ("TallTowers$Holder", "number", "I", true)
  | _ => ("TallTowers$Holder", "bears", "J", false)
def tyX10 : Nat → FieldType := fun k => match k with
  | 0 => .int
  | _ => .long
abbrev wsX100 : List Cond := u_ws RX10 TX10 2
theorem nmX10 : ∀ a, a < 2 → ∀ b, b < 2 → a ≠ b → (TX10 a).2.1 ≠ (TX10 b).2.1 := by decide +kernel
theorem tyX10_ok : ∀ k, k < 2 → parseFieldDescriptor (TX10 k).2.2.1 = some (tyX10 k) := by decide +kernel
abbrev cX10_compareTo : ByteArray := prog_8_method_3_code
def yX10_compareTo : MethodName := ⟨RX10, "compareTo", "(Ljava/lang/Object;)I"⟩
def dkwX10_compareTo_0 : List UInt8 := [42, 43, 192, 0, 8, 182, 0, 23, 172]
abbrev dktX10_compareTo_0 : List UInt8 := dkwX10_compareTo_0 ++ []
theorem dksX10_compareTo_0 : cX10_compareTo.data.toList.drop 0 = dktX10_compareTo_0 := by decide +kernel
theorem dX10_compareTo_0 : decode cX10_compareTo 0 = .ok (.aload_n 0, 1) := dk_42 (dk_at dksX10_compareTo_0 0 rfl rfl)
theorem dX10_compareTo_1 : decode cX10_compareTo 1 = .ok (.aload_n 1, 1) := dk_43 (dk_at dksX10_compareTo_0 1 rfl rfl)
theorem dX10_compareTo_2 : decode cX10_compareTo 2 = .ok (.checkcast 8, 3) := dk_192 0 8 (dk_at dksX10_compareTo_0 2 rfl rfl)
theorem dX10_compareTo_5 : decode cX10_compareTo 5 = .ok (.invokevirtual 23, 3) := dk_182 0 23 (dk_at dksX10_compareTo_0 5 rfl rfl)
theorem dX10_compareTo_8 : decode cX10_compareTo 8 = .ok (.ireturn, 1) := dk_172 (dk_at dksX10_compareTo_0 8 rfl rfl)
abbrev cX10_compareTo_2 : ByteArray := prog_8_method_2_code
def yX10_compareTo_2 : MethodName := ⟨RX10, "compareTo", "(LTallTowers$Holder;)I"⟩
def dkwX10_compareTo_2_1 : List UInt8 := [43, 180, 0, 13, 42, 180, 0, 13, 184, 0, 17, 172]
abbrev dktX10_compareTo_2_1 : List UInt8 := dkwX10_compareTo_2_1 ++ []
def dkwX10_compareTo_2_0 : List UInt8 := [42, 180, 0, 13, 43, 180, 0, 13, 148, 154, 0, 15, 42, 180, 0, 7, 43, 180, 0, 7, 100, 167, 0, 14]
abbrev dktX10_compareTo_2_0 : List UInt8 := dkwX10_compareTo_2_0 ++ dktX10_compareTo_2_1
theorem dksX10_compareTo_2_0 : cX10_compareTo_2.data.toList.drop 0 = dktX10_compareTo_2_0 := by decide +kernel
theorem dksX10_compareTo_2_1 : cX10_compareTo_2.data.toList.drop 24 = dktX10_compareTo_2_1 := dk_seg dksX10_compareTo_2_0 24 rfl rfl
theorem dX10_compareTo_2_0 : decode cX10_compareTo_2 0 = .ok (.aload_n 0, 1) := dk_42 (dk_at dksX10_compareTo_2_0 0 rfl rfl)
theorem dX10_compareTo_2_1 : decode cX10_compareTo_2 1 = .ok (.getfield 13, 3) := dk_180 0 13 (dk_at dksX10_compareTo_2_0 1 rfl rfl)
theorem dX10_compareTo_2_4 : decode cX10_compareTo_2 4 = .ok (.aload_n 1, 1) := dk_43 (dk_at dksX10_compareTo_2_0 4 rfl rfl)
theorem dX10_compareTo_2_5 : decode cX10_compareTo_2 5 = .ok (.getfield 13, 3) := dk_180 0 13 (dk_at dksX10_compareTo_2_0 5 rfl rfl)
theorem dX10_compareTo_2_8 : decode cX10_compareTo_2 8 = .ok (.lcmp, 1) := dk_148 (dk_at dksX10_compareTo_2_0 8 rfl rfl)
theorem dX10_compareTo_2_9 : decode cX10_compareTo_2 9 = .ok (.ifCond .ne 15, 3) := dk_154 0 15 (dk_at dksX10_compareTo_2_0 9 rfl rfl)
theorem dX10_compareTo_2_12 : decode cX10_compareTo_2 12 = .ok (.aload_n 0, 1) := dk_42 (dk_at dksX10_compareTo_2_0 12 rfl rfl)
theorem dX10_compareTo_2_13 : decode cX10_compareTo_2 13 = .ok (.getfield 7, 3) := dk_180 0 7 (dk_at dksX10_compareTo_2_0 13 rfl rfl)
theorem dX10_compareTo_2_16 : decode cX10_compareTo_2 16 = .ok (.aload_n 1, 1) := dk_43 (dk_at dksX10_compareTo_2_0 16 rfl rfl)
theorem dX10_compareTo_2_17 : decode cX10_compareTo_2 17 = .ok (.getfield 7, 3) := dk_180 0 7 (dk_at dksX10_compareTo_2_0 17 rfl rfl)
theorem dX10_compareTo_2_20 : decode cX10_compareTo_2 20 = .ok (.isub, 1) := dk_100 (dk_at dksX10_compareTo_2_0 20 rfl rfl)
theorem dX10_compareTo_2_21 : decode cX10_compareTo_2 21 = .ok (.goto 14, 3) := dk_167 0 14 (dk_at dksX10_compareTo_2_0 21 rfl rfl)
theorem dX10_compareTo_2_24 : decode cX10_compareTo_2 24 = .ok (.aload_n 1, 1) := dk_43 (dk_at dksX10_compareTo_2_1 0 rfl rfl)
theorem dX10_compareTo_2_25 : decode cX10_compareTo_2 25 = .ok (.getfield 13, 3) := dk_180 0 13 (dk_at dksX10_compareTo_2_1 1 rfl rfl)
theorem dX10_compareTo_2_28 : decode cX10_compareTo_2 28 = .ok (.aload_n 0, 1) := dk_42 (dk_at dksX10_compareTo_2_1 4 rfl rfl)
theorem dX10_compareTo_2_29 : decode cX10_compareTo_2 29 = .ok (.getfield 13, 3) := dk_180 0 13 (dk_at dksX10_compareTo_2_1 5 rfl rfl)
theorem dX10_compareTo_2_32 : decode cX10_compareTo_2 32 = .ok (.invokestatic 17, 3) := dk_184 0 17 (dk_at dksX10_compareTo_2_1 8 rfl rfl)
theorem dX10_compareTo_2_35 : decode cX10_compareTo_2 35 = .ok (.ireturn, 1) := dk_172 (dk_at dksX10_compareTo_2_1 11 rfl rfl)
abbrev cX10_init : ByteArray := prog_8_method_1_code
def yX10_init : MethodName := ⟨RX10, "<init>", "(I)V"⟩
def dkwX10_init_0 : List UInt8 := [42, 183, 0, 1, 42, 27, 181, 0, 7, 177]
abbrev dktX10_init_0 : List UInt8 := dkwX10_init_0 ++ []
theorem dksX10_init_0 : cX10_init.data.toList.drop 0 = dktX10_init_0 := by decide +kernel
theorem dX10_init_0 : decode cX10_init 0 = .ok (.aload_n 0, 1) := dk_42 (dk_at dksX10_init_0 0 rfl rfl)
theorem dX10_init_1 : decode cX10_init 1 = .ok (.invokespecial 1, 3) := dk_183 0 1 (dk_at dksX10_init_0 1 rfl rfl)
theorem dX10_init_4 : decode cX10_init 4 = .ok (.aload_n 0, 1) := dk_42 (dk_at dksX10_init_0 4 rfl rfl)
theorem dX10_init_5 : decode cX10_init 5 = .ok (.iload_n 1, 1) := dk_27 (dk_at dksX10_init_0 5 rfl rfl)
theorem dX10_init_6 : decode cX10_init 6 = .ok (.putfield 7, 3) := dk_181 0 7 (dk_at dksX10_init_0 6 rfl rfl)
theorem dX10_init_9 : decode cX10_init 9 = .ok (.return_, 1) := dk_177 (dk_at dksX10_init_0 9 rfl rfl)
theorem q153 : (Jvm.Cond.initialized "TallTowers$Holder") ∈ lw_all := lw_g (lw_at lw_m1 27 rfl) rfl
theorem q593 : (Jvm.Cond.selects "TallTowers$Holder" ({ cls := "java/lang/Object", name := "getClass", desc := "()Ljava/lang/Class;" } : Jvm.MethodName) ({ cls := "java/lang/Object", name := "getClass", desc := "()Ljava/lang/Class;" } : Jvm.MethodName)) ∈ lw_all := lw_g (lw_at lw_m2 227 rfl) rfl
theorem q655 : (Jvm.Cond.castable "TallTowers$Holder" "java/lang/Comparable") ∈ lw_tbl := lw_at lw_m3 49 rfl
theorem q656 : (Jvm.Cond.selects "TallTowers$Holder" ({ cls := "java/lang/Comparable", name := "compareTo", desc := "(Ljava/lang/Object;)I" } : Jvm.MethodName) ({ cls := "TallTowers$Holder", name := "compareTo", desc := "(Ljava/lang/Object;)I" } : Jvm.MethodName)) ∈ lw_all := lw_g (lw_at lw_m3 50 rfl) rfl
theorem q657 : (Jvm.Cond.unhidden "TallTowers$Holder" "compareTo" "(Ljava/lang/Object;)I") ∈ lw_tbl := lw_at lw_m3 51 rfl
theorem q658 : (Jvm.Cond.instanceMethod ({ cls := "TallTowers$Holder", name := "compareTo", desc := "(Ljava/lang/Object;)I" } : Jvm.MethodName)) ∈ lw_all := lw_g (lw_at lw_m3 52 rfl) rfl
theorem q659 : (Jvm.Cond.publicMethod ({ cls := "TallTowers$Holder", name := "compareTo", desc := "(Ljava/lang/Object;)I" } : Jvm.MethodName)) ∈ lw_tbl := lw_at lw_m3 53 rfl
theorem q660 : (Jvm.Cond.code ({ cls := "TallTowers$Holder", name := "compareTo", desc := "(Ljava/lang/Object;)I" } : Jvm.MethodName) prog_8_method_3_code (2 : Nat) (Option.some Jvm.ClassFile.FieldType.int)) ∈ lw_all := lw_g (lw_at lw_m3 54 rfl) rfl
theorem q661 : (Jvm.Cond.classLink "TallTowers$Holder" (8 : Nat) "TallTowers$Holder") ∈ lw_all := lw_g (lw_at lw_m3 55 rfl) rfl
theorem q662 : (Jvm.Cond.methodLink "TallTowers$Holder" (23 : Nat) ({ cls := "TallTowers$Holder", name := "compareTo", desc := "(LTallTowers$Holder;)I" } : Jvm.MethodName)) ∈ lw_all := lw_g (lw_at lw_m3 56 rfl) rfl
theorem q663 : (Jvm.Cond.instanceMethod ({ cls := "TallTowers$Holder", name := "compareTo", desc := "(LTallTowers$Holder;)I" } : Jvm.MethodName)) ∈ lw_all := lw_g (lw_at lw_m3 57 rfl) rfl
theorem q664 : (Jvm.Cond.selects "TallTowers$Holder" ({ cls := "TallTowers$Holder", name := "compareTo", desc := "(LTallTowers$Holder;)I" } : Jvm.MethodName) ({ cls := "TallTowers$Holder", name := "compareTo", desc := "(LTallTowers$Holder;)I" } : Jvm.MethodName)) ∈ lw_all := lw_g (lw_at lw_m3 58 rfl) rfl
theorem q665 : (Jvm.Cond.code ({ cls := "TallTowers$Holder", name := "compareTo", desc := "(LTallTowers$Holder;)I" } : Jvm.MethodName) prog_8_method_2_code (2 : Nat) (Option.some Jvm.ClassFile.FieldType.int)) ∈ lw_all := lw_g (lw_at lw_m3 59 rfl) rfl
theorem q666 : (Jvm.Cond.methodLink "TallTowers$Holder" (17 : Nat) ({ cls := "java/lang/Long", name := "compare", desc := "(JJ)I" } : Jvm.MethodName)) ∈ lw_all := lw_g (lw_at lw_m3 60 rfl) rfl
theorem q878 : (Jvm.Cond.instantiable "TallTowers$Holder" (2 : Nat)) ∈ lw_all := lw_g (lw_at lw_m4 32 rfl) rfl
theorem q880 : (Jvm.Cond.instanceMethod ({ cls := "TallTowers$Holder", name := "<init>", desc := "(I)V" } : Jvm.MethodName)) ∈ lw_all := lw_g (lw_at lw_m4 34 rfl) rfl
theorem q881 : (Jvm.Cond.code ({ cls := "TallTowers$Holder", name := "<init>", desc := "(I)V" } : Jvm.MethodName) prog_8_method_1_code (2 : Nat) (Option.none : Option Jvm.ClassFile.FieldType)) ∈ lw_all := lw_g (lw_at lw_m4 35 rfl) rfl
theorem q882 : (Jvm.Cond.methodLink "TallTowers$Holder" (1 : Nat) ({ cls := "java/lang/Object", name := "<init>", desc := "()V" } : Jvm.MethodName)) ∈ lw_all := lw_g (lw_at lw_m4 36 rfl) rfl
theorem q883 : (Jvm.Cond.fieldLink "TallTowers$Holder" (7 : Nat) "TallTowers$Holder" "number" "I") ∈ lw_all := lw_g (lw_at lw_m4 37 rfl) rfl
theorem q885 : (Jvm.Cond.fieldLink "TallTowers$Holder" (13 : Nat) "TallTowers$Holder" "bears" "J") ∈ lw_all := lw_g (lw_at lw_m4 39 rfl) rfl
theorem q887 : (Jvm.Cond.laysFinal "TallTowers$Holder" "TallTowers$Holder" "number" "I") ∈ lw_all := lw_g (lw_at lw_m4 41 rfl) rfl
theorem q888 : (Jvm.Cond.soleField "TallTowers$Holder" "number") ∈ lw_all := lw_g (lw_at lw_m4 42 rfl) rfl
theorem q889 : (Jvm.Cond.lays "TallTowers$Holder" "TallTowers$Holder" "bears" "J") ∈ lw_all := lw_g (lw_at lw_m4 43 rfl) rfl
theorem q890 : (Jvm.Cond.soleField "TallTowers$Holder" "bears") ∈ lw_all := lw_g (lw_at lw_m4 44 rfl) rfl
theorem q891 : (Jvm.Cond.superclass "TallTowers$Holder" "java/lang/Object") ∈ lw_all := lw_g (lw_at lw_m4 45 rfl) rfl
theorem q2466 : (Jvm.Cond.castable "TallTowers$Holder" "java/lang/Object") ∈ lw_tbl := lw_at lw_m10 180 rfl
theorem in_X10 : ∀ w ∈ wsX100, w ∈ lw_all := lw_in wsX100 [887, 889] (by decide +kernel) (by decide +kernel)
/-! TallTowers$Event -/
set_option maxRecDepth 100000
def RX12 : String := "TallTowers$Event"
def TX12 : u_T := fun k => match k with
  | 0 => ("TallTowers$Event", "kind", "I", true)
  | 1 => ("TallTowers$Event", "about", "I", true)
  | _ => ("TallTowers$Event", "deed", "LTallTowers$Deed;", true)
def tyX12 : Nat → FieldType := fun k => match k with
  | 0 => .int
  | 1 => .int
  | _ => .object "TallTowers$Deed"
abbrev wsX120 : List Cond := u_ws RX12 TX12 3
theorem nmX12 : ∀ a, a < 3 → ∀ b, b < 3 → a ≠ b → (TX12 a).2.1 ≠ (TX12 b).2.1 := by decide +kernel
theorem tyX12_ok : ∀ k, k < 3 → parseFieldDescriptor (TX12 k).2.2.1 = some (tyX12 k) := by decide +kernel
abbrev cX12_init : ByteArray := prog_5_method_1_code
def yX12_init : MethodName := ⟨RX12, "<init>", "(IILTallTowers$Deed;)V"⟩
def dkwX12_init_0 : List UInt8 := [42, 183, 0, 1, 42, 27, 181, 0, 7, 42, 28, 181, 0, 13, 42, 45, 181, 0, 16, 177]
abbrev dktX12_init_0 : List UInt8 := dkwX12_init_0 ++ []
theorem dksX12_init_0 : cX12_init.data.toList.drop 0 = dktX12_init_0 := by decide +kernel
theorem dX12_init_0 : decode cX12_init 0 = .ok (.aload_n 0, 1) := dk_42 (dk_at dksX12_init_0 0 rfl rfl)
theorem dX12_init_1 : decode cX12_init 1 = .ok (.invokespecial 1, 3) := dk_183 0 1 (dk_at dksX12_init_0 1 rfl rfl)
theorem dX12_init_4 : decode cX12_init 4 = .ok (.aload_n 0, 1) := dk_42 (dk_at dksX12_init_0 4 rfl rfl)
theorem dX12_init_5 : decode cX12_init 5 = .ok (.iload_n 1, 1) := dk_27 (dk_at dksX12_init_0 5 rfl rfl)
theorem dX12_init_6 : decode cX12_init 6 = .ok (.putfield 7, 3) := dk_181 0 7 (dk_at dksX12_init_0 6 rfl rfl)
theorem dX12_init_9 : decode cX12_init 9 = .ok (.aload_n 0, 1) := dk_42 (dk_at dksX12_init_0 9 rfl rfl)
theorem dX12_init_10 : decode cX12_init 10 = .ok (.iload_n 2, 1) := dk_28 (dk_at dksX12_init_0 10 rfl rfl)
theorem dX12_init_11 : decode cX12_init 11 = .ok (.putfield 13, 3) := dk_181 0 13 (dk_at dksX12_init_0 11 rfl rfl)
theorem dX12_init_14 : decode cX12_init 14 = .ok (.aload_n 0, 1) := dk_42 (dk_at dksX12_init_0 14 rfl rfl)
theorem dX12_init_15 : decode cX12_init 15 = .ok (.aload_n 3, 1) := dk_45 (dk_at dksX12_init_0 15 rfl rfl)
theorem dX12_init_16 : decode cX12_init 16 = .ok (.putfield 16, 3) := dk_181 0 16 (dk_at dksX12_init_0 16 rfl rfl)
theorem dX12_init_19 : decode cX12_init 19 = .ok (.return_, 1) := dk_177 (dk_at dksX12_init_0 19 rfl rfl)
theorem q156 : (Jvm.Cond.initialized "TallTowers$Event") ∈ lw_all := lw_g (lw_at lw_m1 30 rfl) rfl
theorem q590 : (Jvm.Cond.selects "TallTowers$Event" ({ cls := "java/lang/Object", name := "getClass", desc := "()Ljava/lang/Class;" } : Jvm.MethodName) ({ cls := "java/lang/Object", name := "getClass", desc := "()Ljava/lang/Class;" } : Jvm.MethodName)) ∈ lw_all := lw_g (lw_at lw_m2 224 rfl) rfl
theorem q996 : (Jvm.Cond.instantiable "TallTowers$Event" (3 : Nat)) ∈ lw_all := lw_g (lw_at lw_m4 150 rfl) rfl
theorem q998 : (Jvm.Cond.instanceMethod ({ cls := "TallTowers$Event", name := "<init>", desc := "(IILTallTowers$Deed;)V" } : Jvm.MethodName)) ∈ lw_all := lw_g (lw_at lw_m4 152 rfl) rfl
theorem q999 : (Jvm.Cond.code ({ cls := "TallTowers$Event", name := "<init>", desc := "(IILTallTowers$Deed;)V" } : Jvm.MethodName) prog_5_method_1_code (4 : Nat) (Option.none : Option Jvm.ClassFile.FieldType)) ∈ lw_all := lw_g (lw_at lw_m4 153 rfl) rfl
theorem q1000 : (Jvm.Cond.methodLink "TallTowers$Event" (1 : Nat) ({ cls := "java/lang/Object", name := "<init>", desc := "()V" } : Jvm.MethodName)) ∈ lw_all := lw_g (lw_at lw_m4 154 rfl) rfl
theorem q1001 : (Jvm.Cond.fieldLink "TallTowers$Event" (7 : Nat) "TallTowers$Event" "kind" "I") ∈ lw_all := lw_g (lw_at lw_m4 155 rfl) rfl
theorem q1003 : (Jvm.Cond.fieldLink "TallTowers$Event" (13 : Nat) "TallTowers$Event" "about" "I") ∈ lw_all := lw_g (lw_at lw_m4 157 rfl) rfl
theorem q1005 : (Jvm.Cond.fieldLink "TallTowers$Event" (16 : Nat) "TallTowers$Event" "deed" "LTallTowers$Deed;") ∈ lw_all := lw_g (lw_at lw_m4 159 rfl) rfl
theorem q1007 : (Jvm.Cond.laysFinal "TallTowers$Event" "TallTowers$Event" "kind" "I") ∈ lw_all := lw_g (lw_at lw_m4 161 rfl) rfl
theorem q1008 : (Jvm.Cond.soleField "TallTowers$Event" "kind") ∈ lw_all := lw_g (lw_at lw_m4 162 rfl) rfl
theorem q1009 : (Jvm.Cond.laysFinal "TallTowers$Event" "TallTowers$Event" "about" "I") ∈ lw_all := lw_g (lw_at lw_m4 163 rfl) rfl
theorem q1010 : (Jvm.Cond.soleField "TallTowers$Event" "about") ∈ lw_all := lw_g (lw_at lw_m4 164 rfl) rfl
theorem q1011 : (Jvm.Cond.laysFinal "TallTowers$Event" "TallTowers$Event" "deed" "LTallTowers$Deed;") ∈ lw_all := lw_g (lw_at lw_m4 165 rfl) rfl
theorem q1012 : (Jvm.Cond.soleField "TallTowers$Event" "deed") ∈ lw_all := lw_g (lw_at lw_m4 166 rfl) rfl
theorem q1013 : (Jvm.Cond.superclass "TallTowers$Event" "java/lang/Object") ∈ lw_all := lw_g (lw_at lw_m4 167 rfl) rfl
theorem q2465 : (Jvm.Cond.castable "TallTowers$Event" "java/lang/Object") ∈ lw_tbl := lw_at lw_m10 179 rfl
theorem in_X12 : ∀ w ∈ wsX120, w ∈ lw_all := lw_in wsX120 [1007, 1009, 1011] (by decide +kernel) (by decide +kernel)
/-! java/util/TreeSet -/
set_option maxRecDepth 100000
def RJ13 : String := "java/util/TreeSet"
def TJ13 : u_T := fun k => match k with
  | _ => ("java/util/TreeSet", "m", "Ljava/util/NavigableMap;", false)
def tyJ13 : Nat → FieldType := fun k => match k with
  | _ => .object "java/util/NavigableMap"
abbrev wsJ130 : List Cond := u_ws RJ13 TJ13 1
theorem nmJ13 : ∀ a, a < 1 → ∀ b, b < 1 → a ≠ b → (TJ13 a).2.1 ≠ (TJ13 b).2.1 := by decide +kernel
theorem tyJ13_ok : ∀ k, k < 1 → parseFieldDescriptor (TJ13 k).2.2.1 = some (tyJ13 k) := by decide +kernel
abbrev cJ13_size : ByteArray := prog_53_method_9_code
def yJ13_size : MethodName := ⟨RJ13, "size", "()I"⟩
def dkwJ13_size_0 : List UInt8 := [42, 180, 0, 7, 185, 0, 53, 1, 0, 172]
abbrev dktJ13_size_0 : List UInt8 := dkwJ13_size_0 ++ []
theorem dksJ13_size_0 : cJ13_size.data.toList.drop 0 = dktJ13_size_0 := by decide +kernel
theorem dJ13_size_0 : decode cJ13_size 0 = .ok (.aload_n 0, 1) := dk_42 (dk_at dksJ13_size_0 0 rfl rfl)
theorem dJ13_size_1 : decode cJ13_size 1 = .ok (.getfield 7, 3) := dk_180 0 7 (dk_at dksJ13_size_0 1 rfl rfl)
theorem dJ13_size_4 : decode cJ13_size 4 = .ok (.invokeinterface 53 1, 5) := by decide +kernel
theorem dJ13_size_9 : decode cJ13_size 9 = .ok (.ireturn, 1) := dk_172 (dk_at dksJ13_size_0 9 rfl rfl)
abbrev cJ13_init : ByteArray := prog_53_method_2_code
def yJ13_init : MethodName := ⟨RJ13, "<init>", "()V"⟩
def dkwJ13_init_0 : List UInt8 := [42, 187, 0, 13, 89, 183, 0, 15, 183, 0, 16, 177]
abbrev dktJ13_init_0 : List UInt8 := dkwJ13_init_0 ++ []
theorem dksJ13_init_0 : cJ13_init.data.toList.drop 0 = dktJ13_init_0 := by decide +kernel
theorem dJ13_init_0 : decode cJ13_init 0 = .ok (.aload_n 0, 1) := dk_42 (dk_at dksJ13_init_0 0 rfl rfl)
theorem dJ13_init_1 : decode cJ13_init 1 = .ok (.new 13, 3) := dk_187 0 13 (dk_at dksJ13_init_0 1 rfl rfl)
theorem dJ13_init_4 : decode cJ13_init 4 = .ok (.dup, 1) := dk_89 (dk_at dksJ13_init_0 4 rfl rfl)
theorem dJ13_init_5 : decode cJ13_init 5 = .ok (.invokespecial 15, 3) := dk_183 0 15 (dk_at dksJ13_init_0 5 rfl rfl)
theorem dJ13_init_8 : decode cJ13_init 8 = .ok (.invokespecial 16, 3) := dk_183 0 16 (dk_at dksJ13_init_0 8 rfl rfl)
theorem dJ13_init_11 : decode cJ13_init 11 = .ok (.return_, 1) := dk_177 (dk_at dksJ13_init_0 11 rfl rfl)
abbrev cJ13_init_2 : ByteArray := prog_53_method_1_code
def yJ13_init_2 : MethodName := ⟨RJ13, "<init>", "(Ljava/util/NavigableMap;)V"⟩
def dkwJ13_init_2_0 : List UInt8 := [42, 183, 0, 1, 42, 43, 181, 0, 7, 177]
abbrev dktJ13_init_2_0 : List UInt8 := dkwJ13_init_2_0 ++ []
theorem dksJ13_init_2_0 : cJ13_init_2.data.toList.drop 0 = dktJ13_init_2_0 := by decide +kernel
theorem dJ13_init_2_0 : decode cJ13_init_2 0 = .ok (.aload_n 0, 1) := dk_42 (dk_at dksJ13_init_2_0 0 rfl rfl)
theorem dJ13_init_2_1 : decode cJ13_init_2 1 = .ok (.invokespecial 1, 3) := dk_183 0 1 (dk_at dksJ13_init_2_0 1 rfl rfl)
theorem dJ13_init_2_4 : decode cJ13_init_2 4 = .ok (.aload_n 0, 1) := dk_42 (dk_at dksJ13_init_2_0 4 rfl rfl)
theorem dJ13_init_2_5 : decode cJ13_init_2 5 = .ok (.aload_n 1, 1) := dk_43 (dk_at dksJ13_init_2_0 5 rfl rfl)
theorem dJ13_init_2_6 : decode cJ13_init_2 6 = .ok (.putfield 7, 3) := dk_181 0 7 (dk_at dksJ13_init_2_0 6 rfl rfl)
theorem dJ13_init_2_9 : decode cJ13_init_2 9 = .ok (.return_, 1) := dk_177 (dk_at dksJ13_init_2_0 9 rfl rfl)
abbrev cJ13_clear : ByteArray := prog_53_method_14_code
def yJ13_clear : MethodName := ⟨RJ13, "clear", "()V"⟩
def dkwJ13_clear_0 : List UInt8 := [42, 180, 0, 7, 185, 0, 77, 1, 0, 177]
abbrev dktJ13_clear_0 : List UInt8 := dkwJ13_clear_0 ++ []
theorem dksJ13_clear_0 : cJ13_clear.data.toList.drop 0 = dktJ13_clear_0 := by decide +kernel
theorem dJ13_clear_0 : decode cJ13_clear 0 = .ok (.aload_n 0, 1) := dk_42 (dk_at dksJ13_clear_0 0 rfl rfl)
theorem dJ13_clear_1 : decode cJ13_clear 1 = .ok (.getfield 7, 3) := dk_180 0 7 (dk_at dksJ13_clear_0 1 rfl rfl)
theorem dJ13_clear_4 : decode cJ13_clear 4 = .ok (.invokeinterface 77 1, 5) := by decide +kernel
theorem dJ13_clear_9 : decode cJ13_clear 9 = .ok (.return_, 1) := dk_177 (dk_at dksJ13_clear_0 9 rfl rfl)
abbrev cJ13_add : ByteArray := prog_53_method_12_code
def yJ13_add : MethodName := ⟨RJ13, "add", "(Ljava/lang/Object;)Z"⟩
def dkwJ13_add_0 : List UInt8 := [42, 180, 0, 7, 43, 178, 0, 65, 185, 0, 69, 3, 0, 199, 0, 7, 4, 167, 0, 4, 3, 172]
abbrev dktJ13_add_0 : List UInt8 := dkwJ13_add_0 ++ []
theorem dksJ13_add_0 : cJ13_add.data.toList.drop 0 = dktJ13_add_0 := by decide +kernel
theorem dJ13_add_0 : decode cJ13_add 0 = .ok (.aload_n 0, 1) := dk_42 (dk_at dksJ13_add_0 0 rfl rfl)
theorem dJ13_add_1 : decode cJ13_add 1 = .ok (.getfield 7, 3) := dk_180 0 7 (dk_at dksJ13_add_0 1 rfl rfl)
theorem dJ13_add_4 : decode cJ13_add 4 = .ok (.aload_n 1, 1) := dk_43 (dk_at dksJ13_add_0 4 rfl rfl)
theorem dJ13_add_5 : decode cJ13_add 5 = .ok (.getstatic 65, 3) := dk_178 0 65 (dk_at dksJ13_add_0 5 rfl rfl)
theorem dJ13_add_8 : decode cJ13_add 8 = .ok (.invokeinterface 69 3, 5) := by decide +kernel
theorem dJ13_add_13 : decode cJ13_add 13 = .ok (.ifnonnull 7, 3) := dk_199 0 7 (dk_at dksJ13_add_0 13 rfl rfl)
theorem dJ13_add_16 : decode cJ13_add 16 = .ok (.iconst 1, 1) := dk_4 (dk_at dksJ13_add_0 16 rfl rfl)
theorem dJ13_add_17 : decode cJ13_add 17 = .ok (.goto 4, 3) := dk_167 0 4 (dk_at dksJ13_add_0 17 rfl rfl)
theorem dJ13_add_20 : decode cJ13_add 20 = .ok (.iconst 0, 1) := dk_3 (dk_at dksJ13_add_0 20 rfl rfl)
theorem dJ13_add_21 : decode cJ13_add 21 = .ok (.ireturn, 1) := dk_172 (dk_at dksJ13_add_0 21 rfl rfl)
abbrev cJ13_first : ByteArray := prog_53_method_23_code
def yJ13_first : MethodName := ⟨RJ13, "first", "()Ljava/lang/Object;"⟩
def dkwJ13_first_0 : List UInt8 := [42, 180, 0, 7, 185, 0, 118, 1, 0, 176]
abbrev dktJ13_first_0 : List UInt8 := dkwJ13_first_0 ++ []
theorem dksJ13_first_0 : cJ13_first.data.toList.drop 0 = dktJ13_first_0 := by decide +kernel
theorem dJ13_first_0 : decode cJ13_first 0 = .ok (.aload_n 0, 1) := dk_42 (dk_at dksJ13_first_0 0 rfl rfl)
theorem dJ13_first_1 : decode cJ13_first 1 = .ok (.getfield 7, 3) := dk_180 0 7 (dk_at dksJ13_first_0 1 rfl rfl)
theorem dJ13_first_4 : decode cJ13_first 4 = .ok (.invokeinterface 118 1, 5) := by decide +kernel
theorem dJ13_first_9 : decode cJ13_first 9 = .ok (.areturn, 1) := dk_176 (dk_at dksJ13_first_0 9 rfl rfl)
abbrev cJ13_higher : ByteArray := prog_53_method_28_code
def yJ13_higher : MethodName := ⟨RJ13, "higher", "(Ljava/lang/Object;)Ljava/lang/Object;"⟩
def dkwJ13_higher_0 : List UInt8 := [42, 180, 0, 7, 43, 185, 0, 134, 2, 0, 176]
abbrev dktJ13_higher_0 : List UInt8 := dkwJ13_higher_0 ++ []
theorem dksJ13_higher_0 : cJ13_higher.data.toList.drop 0 = dktJ13_higher_0 := by decide +kernel
theorem dJ13_higher_0 : decode cJ13_higher 0 = .ok (.aload_n 0, 1) := dk_42 (dk_at dksJ13_higher_0 0 rfl rfl)
theorem dJ13_higher_1 : decode cJ13_higher 1 = .ok (.getfield 7, 3) := dk_180 0 7 (dk_at dksJ13_higher_0 1 rfl rfl)
theorem dJ13_higher_4 : decode cJ13_higher 4 = .ok (.aload_n 1, 1) := dk_43 (dk_at dksJ13_higher_0 4 rfl rfl)
theorem dJ13_higher_5 : decode cJ13_higher 5 = .ok (.invokeinterface 134 2, 5) := by decide +kernel
theorem dJ13_higher_10 : decode cJ13_higher 10 = .ok (.areturn, 1) := dk_176 (dk_at dksJ13_higher_0 10 rfl rfl)
theorem q150 : (Jvm.Cond.initialized "java/util/TreeSet") ∈ lw_all := lw_g (lw_at lw_m1 24 rfl) rfl
theorem q606 : (Jvm.Cond.selects "java/util/TreeSet" ({ cls := "java/lang/Object", name := "getClass", desc := "()Ljava/lang/Class;" } : Jvm.MethodName) ({ cls := "java/lang/Object", name := "getClass", desc := "()Ljava/lang/Class;" } : Jvm.MethodName)) ∈ lw_all := lw_g (lw_at lw_m3 0 rfl) rfl
theorem q679 : (Jvm.Cond.selects "java/util/TreeSet" ({ cls := "java/util/AbstractCollection", name := "size", desc := "()I" } : Jvm.MethodName) ({ cls := "java/util/TreeSet", name := "size", desc := "()I" } : Jvm.MethodName)) ∈ lw_all := lw_g (lw_at lw_m3 73 rfl) rfl
theorem q680 : (Jvm.Cond.instanceMethod ({ cls := "java/util/TreeSet", name := "size", desc := "()I" } : Jvm.MethodName)) ∈ lw_all := lw_g (lw_at lw_m3 74 rfl) rfl
theorem q681 : (Jvm.Cond.code ({ cls := "java/util/TreeSet", name := "size", desc := "()I" } : Jvm.MethodName) prog_53_method_9_code (1 : Nat) (Option.some Jvm.ClassFile.FieldType.int)) ∈ lw_all := lw_g (lw_at lw_m3 75 rfl) rfl
theorem q682 : (Jvm.Cond.interfaceEntry "java/util/TreeSet" (53 : Nat)) ∈ lw_tbl := lw_at lw_m3 76 rfl
theorem q822 : (Jvm.Cond.instantiable "java/util/TreeSet" (1 : Nat)) ∈ lw_all := lw_g (lw_at lw_m3 216 rfl) rfl
theorem q824 : (Jvm.Cond.instanceMethod ({ cls := "java/util/TreeSet", name := "<init>", desc := "()V" } : Jvm.MethodName)) ∈ lw_all := lw_g (lw_at lw_m3 218 rfl) rfl
theorem q825 : (Jvm.Cond.code ({ cls := "java/util/TreeSet", name := "<init>", desc := "()V" } : Jvm.MethodName) prog_53_method_2_code (1 : Nat) (Option.none : Option Jvm.ClassFile.FieldType)) ∈ lw_all := lw_g (lw_at lw_m3 219 rfl) rfl
theorem q826 : (Jvm.Cond.classLink "java/util/TreeSet" (13 : Nat) "java/util/TreeMap") ∈ lw_all := lw_g (lw_at lw_m3 220 rfl) rfl
theorem q828 : (Jvm.Cond.methodLink "java/util/TreeSet" (15 : Nat) ({ cls := "java/util/TreeMap", name := "<init>", desc := "()V" } : Jvm.MethodName)) ∈ lw_all := lw_g (lw_at lw_m3 222 rfl) rfl
theorem q858 : (Jvm.Cond.methodLink "java/util/TreeSet" (16 : Nat) ({ cls := "java/util/TreeSet", name := "<init>", desc := "(Ljava/util/NavigableMap;)V" } : Jvm.MethodName)) ∈ lw_all := lw_g (lw_at lw_m4 12 rfl) rfl
theorem q859 : (Jvm.Cond.instanceMethod ({ cls := "java/util/TreeSet", name := "<init>", desc := "(Ljava/util/NavigableMap;)V" } : Jvm.MethodName)) ∈ lw_all := lw_g (lw_at lw_m4 13 rfl) rfl
theorem q860 : (Jvm.Cond.code ({ cls := "java/util/TreeSet", name := "<init>", desc := "(Ljava/util/NavigableMap;)V" } : Jvm.MethodName) prog_53_method_1_code (2 : Nat) (Option.none : Option Jvm.ClassFile.FieldType)) ∈ lw_all := lw_g (lw_at lw_m4 14 rfl) rfl
theorem q861 : (Jvm.Cond.methodLink "java/util/TreeSet" (1 : Nat) ({ cls := "java/util/AbstractSet", name := "<init>", desc := "()V" } : Jvm.MethodName)) ∈ lw_all := lw_g (lw_at lw_m4 15 rfl) rfl
theorem q865 : (Jvm.Cond.fieldLink "java/util/TreeSet" (7 : Nat) "java/util/TreeSet" "m" "Ljava/util/NavigableMap;") ∈ lw_all := lw_g (lw_at lw_m4 19 rfl) rfl
theorem q866 : (Jvm.Cond.lays "java/util/TreeSet" "java/util/TreeSet" "m" "Ljava/util/NavigableMap;") ∈ lw_all := lw_g (lw_at lw_m4 20 rfl) rfl
theorem q867 : (Jvm.Cond.soleField "java/util/TreeSet" "m") ∈ lw_all := lw_g (lw_at lw_m4 21 rfl) rfl
theorem q868 : (Jvm.Cond.superclass "java/util/TreeSet" "java/util/AbstractSet") ∈ lw_all := lw_g (lw_at lw_m4 22 rfl) rfl
theorem q1385 : (Jvm.Cond.instanceMethod ({ cls := "java/util/TreeSet", name := "clear", desc := "()V" } : Jvm.MethodName)) ∈ lw_all := lw_g (lw_at lw_m6 59 rfl) rfl
theorem q1386 : (Jvm.Cond.selects "java/util/TreeSet" ({ cls := "java/util/TreeSet", name := "clear", desc := "()V" } : Jvm.MethodName) ({ cls := "java/util/TreeSet", name := "clear", desc := "()V" } : Jvm.MethodName)) ∈ lw_all := lw_g (lw_at lw_m6 60 rfl) rfl
theorem q1387 : (Jvm.Cond.code ({ cls := "java/util/TreeSet", name := "clear", desc := "()V" } : Jvm.MethodName) prog_53_method_14_code (1 : Nat) (Option.none : Option Jvm.ClassFile.FieldType)) ∈ lw_all := lw_g (lw_at lw_m6 61 rfl) rfl
theorem q1388 : (Jvm.Cond.interfaceEntry "java/util/TreeSet" (77 : Nat)) ∈ lw_tbl := lw_at lw_m6 62 rfl
theorem q1396 : (Jvm.Cond.instanceMethod ({ cls := "java/util/TreeSet", name := "add", desc := "(Ljava/lang/Object;)Z" } : Jvm.MethodName)) ∈ lw_all := lw_g (lw_at lw_m6 70 rfl) rfl
theorem q1397 : (Jvm.Cond.selects "java/util/TreeSet" ({ cls := "java/util/TreeSet", name := "add", desc := "(Ljava/lang/Object;)Z" } : Jvm.MethodName) ({ cls := "java/util/TreeSet", name := "add", desc := "(Ljava/lang/Object;)Z" } : Jvm.MethodName)) ∈ lw_all := lw_g (lw_at lw_m6 71 rfl) rfl
theorem q1398 : (Jvm.Cond.code ({ cls := "java/util/TreeSet", name := "add", desc := "(Ljava/lang/Object;)Z" } : Jvm.MethodName) prog_53_method_12_code (2 : Nat) (Option.some Jvm.ClassFile.FieldType.boolean)) ∈ lw_all := lw_g (lw_at lw_m6 72 rfl) rfl
theorem q1399 : (Jvm.Cond.fieldLink "java/util/TreeSet" (65 : Nat) "java/util/TreeSet" "PRESENT" "Ljava/lang/Object;") ∈ lw_all := lw_g (lw_at lw_m6 73 rfl) rfl
theorem q1400 : (Jvm.Cond.laysStatic "java/util/TreeSet" "PRESENT" "Ljava/lang/Object;") ∈ lw_tbl := lw_at lw_m6 74 rfl
theorem q1401 : (Jvm.Cond.interfaceEntry "java/util/TreeSet" (69 : Nat)) ∈ lw_tbl := lw_at lw_m6 75 rfl
theorem q1489 : (Jvm.Cond.instanceMethod ({ cls := "java/util/TreeSet", name := "first", desc := "()Ljava/lang/Object;" } : Jvm.MethodName)) ∈ lw_all := lw_g (lw_at lw_m6 163 rfl) rfl
theorem q1490 : (Jvm.Cond.selects "java/util/TreeSet" ({ cls := "java/util/TreeSet", name := "first", desc := "()Ljava/lang/Object;" } : Jvm.MethodName) ({ cls := "java/util/TreeSet", name := "first", desc := "()Ljava/lang/Object;" } : Jvm.MethodName)) ∈ lw_all := lw_g (lw_at lw_m6 164 rfl) rfl
theorem q1491 : (Jvm.Cond.code ({ cls := "java/util/TreeSet", name := "first", desc := "()Ljava/lang/Object;" } : Jvm.MethodName) prog_53_method_23_code (1 : Nat) (Option.some (Jvm.ClassFile.FieldType.object "java/lang/Object"))) ∈ lw_all := lw_g (lw_at lw_m6 165 rfl) rfl
theorem q1492 : (Jvm.Cond.interfaceEntry "java/util/TreeSet" (118 : Nat)) ∈ lw_tbl := lw_at lw_m6 166 rfl
theorem q1509 : (Jvm.Cond.instanceMethod ({ cls := "java/util/TreeSet", name := "higher", desc := "(Ljava/lang/Object;)Ljava/lang/Object;" } : Jvm.MethodName)) ∈ lw_all := lw_g (lw_at lw_m6 183 rfl) rfl
theorem q1510 : (Jvm.Cond.selects "java/util/TreeSet" ({ cls := "java/util/TreeSet", name := "higher", desc := "(Ljava/lang/Object;)Ljava/lang/Object;" } : Jvm.MethodName) ({ cls := "java/util/TreeSet", name := "higher", desc := "(Ljava/lang/Object;)Ljava/lang/Object;" } : Jvm.MethodName)) ∈ lw_all := lw_g (lw_at lw_m6 184 rfl) rfl
theorem q1511 : (Jvm.Cond.code ({ cls := "java/util/TreeSet", name := "higher", desc := "(Ljava/lang/Object;)Ljava/lang/Object;" } : Jvm.MethodName) prog_53_method_28_code (2 : Nat) (Option.some (Jvm.ClassFile.FieldType.object "java/lang/Object"))) ∈ lw_all := lw_g (lw_at lw_m6 185 rfl) rfl
theorem q1512 : (Jvm.Cond.interfaceEntry "java/util/TreeSet" (134 : Nat)) ∈ lw_tbl := lw_at lw_m6 186 rfl
theorem q1513 : (Jvm.Cond.methodLink "java/util/TreeSet" (134 : Nat) ({ cls := "java/util/NavigableMap", name := "higherKey", desc := "(Ljava/lang/Object;)Ljava/lang/Object;" } : Jvm.MethodName)) ∈ lw_all := lw_g (lw_at lw_m6 187 rfl) rfl
theorem q2473 : (Jvm.Cond.castable "java/util/TreeSet" "java/lang/Object") ∈ lw_tbl := lw_at lw_m10 187 rfl
theorem in_J13 : ∀ w ∈ wsJ130, w ∈ lw_all := lw_in wsJ130 [866] (by decide +kernel) (by decide +kernel)
/-! java/util/TreeMap -/
set_option maxRecDepth 100000
def RJ15 : String := "java/util/TreeMap"
def TJ15 : u_T := fun k => match k with
  | 0 => ("java/util/AbstractMap", "keySet", "Ljava/util/Set;", false)
  | 1 => ("java/util/AbstractMap", "values", "Ljava/util/Collection;", false)
  | 2 => ("java/util/TreeMap", "comparator", "Ljava/util/Comparator;", true)
  | 3 => ("java/util/TreeMap", "root", "Ljava/util/TreeMap$Entry;", false)
  | 4 => ("java/util/TreeMap", "size", "I", false)
  | 5 => ("java/util/TreeMap", "modCount", "I", false)
  | 6 => ("java/util/TreeMap", "entrySet", "Ljava/util/TreeMap$EntrySet;", false)
  | 7 => ("java/util/TreeMap", "navigableKeySet", "Ljava/util/TreeMap$KeySet;", false)
  | _ => ("java/util/TreeMap", "descendingMap", "Ljava/util/NavigableMap;", false)
def tyJ15 : Nat → FieldType := fun k => match k with
  | 0 => .object "java/util/Set"
  | 1 => .object "java/util/Collection"
  | 2 => .object "java/util/Comparator"
  | 3 => .object "java/util/TreeMap$Entry"
  | 4 => .int
  | 5 => .int
  | 6 => .object "java/util/TreeMap$EntrySet"
  | 7 => .object "java/util/TreeMap$KeySet"
  | _ => .object "java/util/NavigableMap"
abbrev wsJ150 : List Cond := u_ws RJ15 TJ15 9
theorem nmJ15 : ∀ a, a < 9 → ∀ b, b < 9 → a ≠ b → (TJ15 a).2.1 ≠ (TJ15 b).2.1 := by decide +kernel
theorem tyJ15_ok : ∀ k, k < 9 → parseFieldDescriptor (TJ15 k).2.2.1 = some (tyJ15 k) := by decide +kernel
abbrev cJ15_size : ByteArray := prog_51_method_5_code
def yJ15_size : MethodName := ⟨RJ15, "size", "()I"⟩
theorem dJ15_size_0 : decode cJ15_size 0 = .ok (.aload_n 0, 1) := by decide +kernel
theorem dJ15_size_1 : decode cJ15_size 1 = .ok (.getfield 7, 3) := by decide +kernel
theorem dJ15_size_4 : decode cJ15_size 4 = .ok (.ireturn, 1) := by decide +kernel
abbrev cJ15_init : ByteArray := prog_51_method_1_code
def yJ15_init : MethodName := ⟨RJ15, "<init>", "()V"⟩
def dkwJ15_init_0 : List UInt8 := [42, 183, 0, 1, 42, 3, 181, 0, 7, 42, 3, 181, 0, 13, 42, 1, 181, 0, 16, 177]
abbrev dktJ15_init_0 : List UInt8 := dkwJ15_init_0 ++ []
theorem dksJ15_init_0 : cJ15_init.data.toList.drop 0 = dktJ15_init_0 := by decide +kernel
theorem dJ15_init_0 : decode cJ15_init 0 = .ok (.aload_n 0, 1) := dk_42 (dk_at dksJ15_init_0 0 rfl rfl)
theorem dJ15_init_1 : decode cJ15_init 1 = .ok (.invokespecial 1, 3) := dk_183 0 1 (dk_at dksJ15_init_0 1 rfl rfl)
theorem dJ15_init_4 : decode cJ15_init 4 = .ok (.aload_n 0, 1) := dk_42 (dk_at dksJ15_init_0 4 rfl rfl)
theorem dJ15_init_5 : decode cJ15_init 5 = .ok (.iconst 0, 1) := dk_3 (dk_at dksJ15_init_0 5 rfl rfl)
theorem dJ15_init_6 : decode cJ15_init 6 = .ok (.putfield 7, 3) := dk_181 0 7 (dk_at dksJ15_init_0 6 rfl rfl)
theorem dJ15_init_9 : decode cJ15_init 9 = .ok (.aload_n 0, 1) := dk_42 (dk_at dksJ15_init_0 9 rfl rfl)
theorem dJ15_init_10 : decode cJ15_init 10 = .ok (.iconst 0, 1) := dk_3 (dk_at dksJ15_init_0 10 rfl rfl)
theorem dJ15_init_11 : decode cJ15_init 11 = .ok (.putfield 13, 3) := dk_181 0 13 (dk_at dksJ15_init_0 11 rfl rfl)
theorem dJ15_init_14 : decode cJ15_init 14 = .ok (.aload_n 0, 1) := dk_42 (dk_at dksJ15_init_0 14 rfl rfl)
theorem dJ15_init_15 : decode cJ15_init 15 = .ok (.aconst_null, 1) := dk_1 (dk_at dksJ15_init_0 15 rfl rfl)
theorem dJ15_init_16 : decode cJ15_init 16 = .ok (.putfield 16, 3) := dk_181 0 16 (dk_at dksJ15_init_0 16 rfl rfl)
theorem dJ15_init_19 : decode cJ15_init 19 = .ok (.return_, 1) := dk_177 (dk_at dksJ15_init_0 19 rfl rfl)
abbrev cJ15_clear : ByteArray := prog_51_method_35_code
def yJ15_clear : MethodName := ⟨RJ15, "clear", "()V"⟩
def dkwJ15_clear_0 : List UInt8 := [42, 89, 180, 0, 13, 4, 96, 181, 0, 13, 42, 3, 181, 0, 7, 42, 1, 181, 0, 101, 177]
abbrev dktJ15_clear_0 : List UInt8 := dkwJ15_clear_0 ++ []
theorem dksJ15_clear_0 : cJ15_clear.data.toList.drop 0 = dktJ15_clear_0 := by decide +kernel
theorem dJ15_clear_0 : decode cJ15_clear 0 = .ok (.aload_n 0, 1) := dk_42 (dk_at dksJ15_clear_0 0 rfl rfl)
theorem dJ15_clear_1 : decode cJ15_clear 1 = .ok (.dup, 1) := dk_89 (dk_at dksJ15_clear_0 1 rfl rfl)
theorem dJ15_clear_2 : decode cJ15_clear 2 = .ok (.getfield 13, 3) := dk_180 0 13 (dk_at dksJ15_clear_0 2 rfl rfl)
theorem dJ15_clear_5 : decode cJ15_clear 5 = .ok (.iconst 1, 1) := dk_4 (dk_at dksJ15_clear_0 5 rfl rfl)
theorem dJ15_clear_6 : decode cJ15_clear 6 = .ok (.iadd, 1) := dk_96 (dk_at dksJ15_clear_0 6 rfl rfl)
theorem dJ15_clear_7 : decode cJ15_clear 7 = .ok (.putfield 13, 3) := dk_181 0 13 (dk_at dksJ15_clear_0 7 rfl rfl)
theorem dJ15_clear_10 : decode cJ15_clear 10 = .ok (.aload_n 0, 1) := dk_42 (dk_at dksJ15_clear_0 10 rfl rfl)
theorem dJ15_clear_11 : decode cJ15_clear 11 = .ok (.iconst 0, 1) := dk_3 (dk_at dksJ15_clear_0 11 rfl rfl)
theorem dJ15_clear_12 : decode cJ15_clear 12 = .ok (.putfield 7, 3) := dk_181 0 7 (dk_at dksJ15_clear_0 12 rfl rfl)
theorem dJ15_clear_15 : decode cJ15_clear 15 = .ok (.aload_n 0, 1) := dk_42 (dk_at dksJ15_clear_0 15 rfl rfl)
theorem dJ15_clear_16 : decode cJ15_clear 16 = .ok (.aconst_null, 1) := dk_1 (dk_at dksJ15_clear_0 16 rfl rfl)
theorem dJ15_clear_17 : decode cJ15_clear 17 = .ok (.putfield 101, 3) := dk_181 0 101 (dk_at dksJ15_clear_0 17 rfl rfl)
theorem dJ15_clear_20 : decode cJ15_clear 20 = .ok (.return_, 1) := dk_177 (dk_at dksJ15_clear_0 20 rfl rfl)
abbrev cJ15_put : ByteArray := prog_51_method_21_code
def yJ15_put : MethodName := ⟨RJ15, "put", "(Ljava/lang/Object;Ljava/lang/Object;)Ljava/lang/Object;"⟩
def dkwJ15_put_0 : List UInt8 := [42, 43, 44, 4, 182, 0, 127, 176]
abbrev dktJ15_put_0 : List UInt8 := dkwJ15_put_0 ++ []
theorem dksJ15_put_0 : cJ15_put.data.toList.drop 0 = dktJ15_put_0 := by decide +kernel
theorem dJ15_put_0 : decode cJ15_put 0 = .ok (.aload_n 0, 1) := dk_42 (dk_at dksJ15_put_0 0 rfl rfl)
theorem dJ15_put_1 : decode cJ15_put 1 = .ok (.aload_n 1, 1) := dk_43 (dk_at dksJ15_put_0 1 rfl rfl)
theorem dJ15_put_2 : decode cJ15_put 2 = .ok (.aload_n 2, 1) := dk_44 (dk_at dksJ15_put_0 2 rfl rfl)
theorem dJ15_put_3 : decode cJ15_put 3 = .ok (.iconst 1, 1) := dk_4 (dk_at dksJ15_put_0 3 rfl rfl)
theorem dJ15_put_4 : decode cJ15_put 4 = .ok (.invokevirtual 127, 3) := dk_182 0 127 (dk_at dksJ15_put_0 4 rfl rfl)
theorem dJ15_put_7 : decode cJ15_put 7 = .ok (.areturn, 1) := dk_176 (dk_at dksJ15_put_0 7 rfl rfl)
abbrev cJ15_put_2 : ByteArray := prog_51_method_31_code
def yJ15_put_2 : MethodName := ⟨RJ15, "put", "(Ljava/lang/Object;Ljava/lang/Object;Z)Ljava/lang/Object;"⟩
def dkwJ15_put_2_9 : List UInt8 := [4, 167, 0, 4, 3, 182, 0, 139, 1, 176]
abbrev dktJ15_put_2_9 : List UInt8 := dkwJ15_put_2_9 ++ []
def dkwJ15_put_2_8 : List UInt8 := [25, 4, 44, 181, 0, 58, 25, 9, 176, 25, 4, 199, 255, 181, 42, 43, 44, 25, 6, 21, 5, 156, 0, 7]
abbrev dktJ15_put_2_8 : List UInt8 := dkwJ15_put_2_8 ++ dktJ15_put_2_9
def dkwJ15_put_2_7 : List UInt8 := [180, 0, 114, 58, 4, 167, 0, 28, 25, 4, 180, 0, 58, 58, 9, 29, 154, 0, 8, 25, 9, 199, 0, 9]
abbrev dktJ15_put_2_7 : List UInt8 := dkwJ15_put_2_7 ++ dktJ15_put_2_8
def dkwJ15_put_2_6 : List UInt8 := [21, 5, 156, 0, 13, 25, 4, 180, 0, 111, 58, 4, 167, 0, 43, 21, 5, 158, 0, 13, 25, 4]
abbrev dktJ15_put_2_6 : List UInt8 := dkwJ15_put_2_6 ++ dktJ15_put_2_7
def dkwJ15_put_2_5 : List UInt8 := [192, 0, 99, 58, 8, 25, 4, 58, 6, 25, 8, 25, 4, 180, 0, 105, 185, 0, 107, 2, 0, 54, 5]
abbrev dktJ15_put_2_5 : List UInt8 := dkwJ15_put_2_5 ++ dktJ15_put_2_6
def dkwJ15_put_2_4 : List UInt8 := [25, 4, 44, 181, 0, 58, 25, 8, 176, 25, 4, 199, 255, 180, 167, 0, 92, 43, 184, 0, 95, 87, 43]
abbrev dktJ15_put_2_4 : List UInt8 := dkwJ15_put_2_4 ++ dktJ15_put_2_5
def dkwJ15_put_2_3 : List UInt8 := [180, 0, 114, 58, 4, 167, 0, 28, 25, 4, 180, 0, 58, 58, 8, 29, 154, 0, 8, 25, 8, 199, 0, 9]
abbrev dktJ15_put_2_3 : List UInt8 := dkwJ15_put_2_3 ++ dktJ15_put_2_4
def dkwJ15_put_2_2 : List UInt8 := [54, 5, 21, 5, 156, 0, 13, 25, 4, 180, 0, 111, 58, 4, 167, 0, 43, 21, 5, 158, 0, 13, 25, 4]
abbrev dktJ15_put_2_2 : List UInt8 := dkwJ15_put_2_2 ++ dktJ15_put_2_3
def dkwJ15_put_2_1 : List UInt8 := [58, 7, 25, 7, 198, 0, 85, 25, 4, 58, 6, 25, 7, 43, 25, 4, 180, 0, 105, 185, 0, 117, 3, 0]
abbrev dktJ15_put_2_1 : List UInt8 := dkwJ15_put_2_1 ++ dktJ15_put_2_2
def dkwJ15_put_2_0 : List UInt8 := [42, 180, 0, 101, 58, 4, 25, 4, 199, 0, 11, 42, 43, 44, 182, 0, 135, 1, 176, 42, 180, 0, 16]
abbrev dktJ15_put_2_0 : List UInt8 := dkwJ15_put_2_0 ++ dktJ15_put_2_1
theorem dksJ15_put_2_0 : cJ15_put_2.data.toList.drop 0 = dktJ15_put_2_0 := by decide +kernel
theorem dksJ15_put_2_1 : cJ15_put_2.data.toList.drop 23 = dktJ15_put_2_1 := dk_seg dksJ15_put_2_0 23 rfl rfl
theorem dksJ15_put_2_2 : cJ15_put_2.data.toList.drop 47 = dktJ15_put_2_2 := dk_seg dksJ15_put_2_1 24 rfl rfl
theorem dksJ15_put_2_3 : cJ15_put_2.data.toList.drop 71 = dktJ15_put_2_3 := dk_seg dksJ15_put_2_2 24 rfl rfl
theorem dksJ15_put_2_4 : cJ15_put_2.data.toList.drop 95 = dktJ15_put_2_4 := dk_seg dksJ15_put_2_3 24 rfl rfl
theorem dksJ15_put_2_5 : cJ15_put_2.data.toList.drop 118 = dktJ15_put_2_5 := dk_seg dksJ15_put_2_4 23 rfl rfl
theorem dksJ15_put_2_6 : cJ15_put_2.data.toList.drop 141 = dktJ15_put_2_6 := dk_seg dksJ15_put_2_5 23 rfl rfl
theorem dksJ15_put_2_7 : cJ15_put_2.data.toList.drop 163 = dktJ15_put_2_7 := dk_seg dksJ15_put_2_6 22 rfl rfl
theorem dksJ15_put_2_8 : cJ15_put_2.data.toList.drop 187 = dktJ15_put_2_8 := dk_seg dksJ15_put_2_7 24 rfl rfl
theorem dksJ15_put_2_9 : cJ15_put_2.data.toList.drop 211 = dktJ15_put_2_9 := dk_seg dksJ15_put_2_8 24 rfl rfl
theorem dJ15_put_2_0 : decode cJ15_put_2 0 = .ok (.aload_n 0, 1) := dk_42 (dk_at dksJ15_put_2_0 0 rfl rfl)
theorem dJ15_put_2_1 : decode cJ15_put_2 1 = .ok (.getfield 101, 3) := dk_180 0 101 (dk_at dksJ15_put_2_0 1 rfl rfl)
theorem dJ15_put_2_4 : decode cJ15_put_2 4 = .ok (.astore 4, 2) := dk_58 4 (dk_at dksJ15_put_2_0 4 rfl rfl)
theorem dJ15_put_2_6 : decode cJ15_put_2 6 = .ok (.aload 4, 2) := dk_25 4 (dk_at dksJ15_put_2_0 6 rfl rfl)
theorem dJ15_put_2_8 : decode cJ15_put_2 8 = .ok (.ifnonnull 11, 3) := dk_199 0 11 (dk_at dksJ15_put_2_0 8 rfl rfl)
theorem dJ15_put_2_11 : decode cJ15_put_2 11 = .ok (.aload_n 0, 1) := dk_42 (dk_at dksJ15_put_2_0 11 rfl rfl)
theorem dJ15_put_2_12 : decode cJ15_put_2 12 = .ok (.aload_n 1, 1) := dk_43 (dk_at dksJ15_put_2_0 12 rfl rfl)
theorem dJ15_put_2_13 : decode cJ15_put_2 13 = .ok (.aload_n 2, 1) := dk_44 (dk_at dksJ15_put_2_0 13 rfl rfl)
theorem dJ15_put_2_14 : decode cJ15_put_2 14 = .ok (.invokevirtual 135, 3) := dk_182 0 135 (dk_at dksJ15_put_2_0 14 rfl rfl)
theorem dJ15_put_2_17 : decode cJ15_put_2 17 = .ok (.aconst_null, 1) := dk_1 (dk_at dksJ15_put_2_0 17 rfl rfl)
theorem dJ15_put_2_18 : decode cJ15_put_2 18 = .ok (.areturn, 1) := dk_176 (dk_at dksJ15_put_2_0 18 rfl rfl)
theorem dJ15_put_2_19 : decode cJ15_put_2 19 = .ok (.aload_n 0, 1) := dk_42 (dk_at dksJ15_put_2_0 19 rfl rfl)
theorem dJ15_put_2_20 : decode cJ15_put_2 20 = .ok (.getfield 16, 3) := dk_180 0 16 (dk_at dksJ15_put_2_0 20 rfl rfl)
theorem dJ15_put_2_23 : decode cJ15_put_2 23 = .ok (.astore 7, 2) := dk_58 7 (dk_at dksJ15_put_2_1 0 rfl rfl)
theorem dJ15_put_2_25 : decode cJ15_put_2 25 = .ok (.aload 7, 2) := dk_25 7 (dk_at dksJ15_put_2_1 2 rfl rfl)
theorem dJ15_put_2_27 : decode cJ15_put_2 27 = .ok (.ifnull 85, 3) := dk_198 0 85 (dk_at dksJ15_put_2_1 4 rfl rfl)
theorem dJ15_put_2_30 : decode cJ15_put_2 30 = .ok (.aload 4, 2) := dk_25 4 (dk_at dksJ15_put_2_1 7 rfl rfl)
theorem dJ15_put_2_32 : decode cJ15_put_2 32 = .ok (.astore 6, 2) := dk_58 6 (dk_at dksJ15_put_2_1 9 rfl rfl)
theorem dJ15_put_2_34 : decode cJ15_put_2 34 = .ok (.aload 7, 2) := dk_25 7 (dk_at dksJ15_put_2_1 11 rfl rfl)
theorem dJ15_put_2_36 : decode cJ15_put_2 36 = .ok (.aload_n 1, 1) := dk_43 (dk_at dksJ15_put_2_1 13 rfl rfl)
theorem dJ15_put_2_37 : decode cJ15_put_2 37 = .ok (.aload 4, 2) := dk_25 4 (dk_at dksJ15_put_2_1 14 rfl rfl)
theorem dJ15_put_2_39 : decode cJ15_put_2 39 = .ok (.getfield 105, 3) := dk_180 0 105 (dk_at dksJ15_put_2_1 16 rfl rfl)
theorem dJ15_put_2_42 : decode cJ15_put_2 42 = .ok (.invokeinterface 117 3, 5) := by decide +kernel
theorem dJ15_put_2_47 : decode cJ15_put_2 47 = .ok (.istore 5, 2) := dk_54 5 (dk_at dksJ15_put_2_2 0 rfl rfl)
theorem dJ15_put_2_49 : decode cJ15_put_2 49 = .ok (.iload 5, 2) := dk_21 5 (dk_at dksJ15_put_2_2 2 rfl rfl)
theorem dJ15_put_2_51 : decode cJ15_put_2 51 = .ok (.ifCond .ge 13, 3) := dk_156 0 13 (dk_at dksJ15_put_2_2 4 rfl rfl)
theorem dJ15_put_2_54 : decode cJ15_put_2 54 = .ok (.aload 4, 2) := dk_25 4 (dk_at dksJ15_put_2_2 7 rfl rfl)
theorem dJ15_put_2_56 : decode cJ15_put_2 56 = .ok (.getfield 111, 3) := dk_180 0 111 (dk_at dksJ15_put_2_2 9 rfl rfl)
theorem dJ15_put_2_59 : decode cJ15_put_2 59 = .ok (.astore 4, 2) := dk_58 4 (dk_at dksJ15_put_2_2 12 rfl rfl)
theorem dJ15_put_2_61 : decode cJ15_put_2 61 = .ok (.goto 43, 3) := dk_167 0 43 (dk_at dksJ15_put_2_2 14 rfl rfl)
theorem dJ15_put_2_64 : decode cJ15_put_2 64 = .ok (.iload 5, 2) := dk_21 5 (dk_at dksJ15_put_2_2 17 rfl rfl)
theorem dJ15_put_2_66 : decode cJ15_put_2 66 = .ok (.ifCond .le 13, 3) := dk_158 0 13 (dk_at dksJ15_put_2_2 19 rfl rfl)
theorem dJ15_put_2_69 : decode cJ15_put_2 69 = .ok (.aload 4, 2) := dk_25 4 (dk_at dksJ15_put_2_2 22 rfl rfl)
theorem dJ15_put_2_71 : decode cJ15_put_2 71 = .ok (.getfield 114, 3) := dk_180 0 114 (dk_at dksJ15_put_2_3 0 rfl rfl)
theorem dJ15_put_2_74 : decode cJ15_put_2 74 = .ok (.astore 4, 2) := dk_58 4 (dk_at dksJ15_put_2_3 3 rfl rfl)
theorem dJ15_put_2_76 : decode cJ15_put_2 76 = .ok (.goto 28, 3) := dk_167 0 28 (dk_at dksJ15_put_2_3 5 rfl rfl)
theorem dJ15_put_2_79 : decode cJ15_put_2 79 = .ok (.aload 4, 2) := dk_25 4 (dk_at dksJ15_put_2_3 8 rfl rfl)
theorem dJ15_put_2_81 : decode cJ15_put_2 81 = .ok (.getfield 58, 3) := dk_180 0 58 (dk_at dksJ15_put_2_3 10 rfl rfl)
theorem dJ15_put_2_84 : decode cJ15_put_2 84 = .ok (.astore 8, 2) := dk_58 8 (dk_at dksJ15_put_2_3 13 rfl rfl)
theorem dJ15_put_2_86 : decode cJ15_put_2 86 = .ok (.iload_n 3, 1) := dk_29 (dk_at dksJ15_put_2_3 15 rfl rfl)
theorem dJ15_put_2_87 : decode cJ15_put_2 87 = .ok (.ifCond .ne 8, 3) := dk_154 0 8 (dk_at dksJ15_put_2_3 16 rfl rfl)
theorem dJ15_put_2_90 : decode cJ15_put_2 90 = .ok (.aload 8, 2) := dk_25 8 (dk_at dksJ15_put_2_3 19 rfl rfl)
theorem dJ15_put_2_92 : decode cJ15_put_2 92 = .ok (.ifnonnull 9, 3) := dk_199 0 9 (dk_at dksJ15_put_2_3 21 rfl rfl)
theorem dJ15_put_2_95 : decode cJ15_put_2 95 = .ok (.aload 4, 2) := dk_25 4 (dk_at dksJ15_put_2_4 0 rfl rfl)
theorem dJ15_put_2_97 : decode cJ15_put_2 97 = .ok (.aload_n 2, 1) := dk_44 (dk_at dksJ15_put_2_4 2 rfl rfl)
theorem dJ15_put_2_98 : decode cJ15_put_2 98 = .ok (.putfield 58, 3) := dk_181 0 58 (dk_at dksJ15_put_2_4 3 rfl rfl)
theorem dJ15_put_2_101 : decode cJ15_put_2 101 = .ok (.aload 8, 2) := dk_25 8 (dk_at dksJ15_put_2_4 6 rfl rfl)
theorem dJ15_put_2_103 : decode cJ15_put_2 103 = .ok (.areturn, 1) := dk_176 (dk_at dksJ15_put_2_4 8 rfl rfl)
theorem dJ15_put_2_104 : decode cJ15_put_2 104 = .ok (.aload 4, 2) := dk_25 4 (dk_at dksJ15_put_2_4 9 rfl rfl)
theorem dJ15_put_2_106 : decode cJ15_put_2 106 = .ok (.ifnonnull (-76), 3) := dk_199 255 180 (dk_at dksJ15_put_2_4 11 rfl rfl)
theorem dJ15_put_2_109 : decode cJ15_put_2 109 = .ok (.goto 92, 3) := dk_167 0 92 (dk_at dksJ15_put_2_4 14 rfl rfl)
theorem dJ15_put_2_112 : decode cJ15_put_2 112 = .ok (.aload_n 1, 1) := dk_43 (dk_at dksJ15_put_2_4 17 rfl rfl)
theorem dJ15_put_2_113 : decode cJ15_put_2 113 = .ok (.invokestatic 95, 3) := dk_184 0 95 (dk_at dksJ15_put_2_4 18 rfl rfl)
theorem dJ15_put_2_116 : decode cJ15_put_2 116 = .ok (.pop, 1) := dk_87 (dk_at dksJ15_put_2_4 21 rfl rfl)
theorem dJ15_put_2_117 : decode cJ15_put_2 117 = .ok (.aload_n 1, 1) := dk_43 (dk_at dksJ15_put_2_4 22 rfl rfl)
theorem dJ15_put_2_118 : decode cJ15_put_2 118 = .ok (.checkcast 99, 3) := dk_192 0 99 (dk_at dksJ15_put_2_5 0 rfl rfl)
theorem dJ15_put_2_121 : decode cJ15_put_2 121 = .ok (.astore 8, 2) := dk_58 8 (dk_at dksJ15_put_2_5 3 rfl rfl)
theorem dJ15_put_2_123 : decode cJ15_put_2 123 = .ok (.aload 4, 2) := dk_25 4 (dk_at dksJ15_put_2_5 5 rfl rfl)
theorem dJ15_put_2_125 : decode cJ15_put_2 125 = .ok (.astore 6, 2) := dk_58 6 (dk_at dksJ15_put_2_5 7 rfl rfl)
theorem dJ15_put_2_127 : decode cJ15_put_2 127 = .ok (.aload 8, 2) := dk_25 8 (dk_at dksJ15_put_2_5 9 rfl rfl)
theorem dJ15_put_2_129 : decode cJ15_put_2 129 = .ok (.aload 4, 2) := dk_25 4 (dk_at dksJ15_put_2_5 11 rfl rfl)
theorem dJ15_put_2_131 : decode cJ15_put_2 131 = .ok (.getfield 105, 3) := dk_180 0 105 (dk_at dksJ15_put_2_5 13 rfl rfl)
theorem dJ15_put_2_134 : decode cJ15_put_2 134 = .ok (.invokeinterface 107 2, 5) := by decide +kernel
theorem dJ15_put_2_139 : decode cJ15_put_2 139 = .ok (.istore 5, 2) := dk_54 5 (dk_at dksJ15_put_2_5 21 rfl rfl)
theorem dJ15_put_2_141 : decode cJ15_put_2 141 = .ok (.iload 5, 2) := dk_21 5 (dk_at dksJ15_put_2_6 0 rfl rfl)
theorem dJ15_put_2_143 : decode cJ15_put_2 143 = .ok (.ifCond .ge 13, 3) := dk_156 0 13 (dk_at dksJ15_put_2_6 2 rfl rfl)
theorem dJ15_put_2_146 : decode cJ15_put_2 146 = .ok (.aload 4, 2) := dk_25 4 (dk_at dksJ15_put_2_6 5 rfl rfl)
theorem dJ15_put_2_148 : decode cJ15_put_2 148 = .ok (.getfield 111, 3) := dk_180 0 111 (dk_at dksJ15_put_2_6 7 rfl rfl)
theorem dJ15_put_2_151 : decode cJ15_put_2 151 = .ok (.astore 4, 2) := dk_58 4 (dk_at dksJ15_put_2_6 10 rfl rfl)
theorem dJ15_put_2_153 : decode cJ15_put_2 153 = .ok (.goto 43, 3) := dk_167 0 43 (dk_at dksJ15_put_2_6 12 rfl rfl)
theorem dJ15_put_2_156 : decode cJ15_put_2 156 = .ok (.iload 5, 2) := dk_21 5 (dk_at dksJ15_put_2_6 15 rfl rfl)
theorem dJ15_put_2_158 : decode cJ15_put_2 158 = .ok (.ifCond .le 13, 3) := dk_158 0 13 (dk_at dksJ15_put_2_6 17 rfl rfl)
theorem dJ15_put_2_161 : decode cJ15_put_2 161 = .ok (.aload 4, 2) := dk_25 4 (dk_at dksJ15_put_2_6 20 rfl rfl)
theorem dJ15_put_2_163 : decode cJ15_put_2 163 = .ok (.getfield 114, 3) := dk_180 0 114 (dk_at dksJ15_put_2_7 0 rfl rfl)
theorem dJ15_put_2_166 : decode cJ15_put_2 166 = .ok (.astore 4, 2) := dk_58 4 (dk_at dksJ15_put_2_7 3 rfl rfl)
theorem dJ15_put_2_168 : decode cJ15_put_2 168 = .ok (.goto 28, 3) := dk_167 0 28 (dk_at dksJ15_put_2_7 5 rfl rfl)
theorem dJ15_put_2_171 : decode cJ15_put_2 171 = .ok (.aload 4, 2) := dk_25 4 (dk_at dksJ15_put_2_7 8 rfl rfl)
theorem dJ15_put_2_173 : decode cJ15_put_2 173 = .ok (.getfield 58, 3) := dk_180 0 58 (dk_at dksJ15_put_2_7 10 rfl rfl)
theorem dJ15_put_2_176 : decode cJ15_put_2 176 = .ok (.astore 9, 2) := dk_58 9 (dk_at dksJ15_put_2_7 13 rfl rfl)
theorem dJ15_put_2_178 : decode cJ15_put_2 178 = .ok (.iload_n 3, 1) := dk_29 (dk_at dksJ15_put_2_7 15 rfl rfl)
theorem dJ15_put_2_179 : decode cJ15_put_2 179 = .ok (.ifCond .ne 8, 3) := dk_154 0 8 (dk_at dksJ15_put_2_7 16 rfl rfl)
theorem dJ15_put_2_182 : decode cJ15_put_2 182 = .ok (.aload 9, 2) := dk_25 9 (dk_at dksJ15_put_2_7 19 rfl rfl)
theorem dJ15_put_2_184 : decode cJ15_put_2 184 = .ok (.ifnonnull 9, 3) := dk_199 0 9 (dk_at dksJ15_put_2_7 21 rfl rfl)
theorem dJ15_put_2_187 : decode cJ15_put_2 187 = .ok (.aload 4, 2) := dk_25 4 (dk_at dksJ15_put_2_8 0 rfl rfl)
theorem dJ15_put_2_189 : decode cJ15_put_2 189 = .ok (.aload_n 2, 1) := dk_44 (dk_at dksJ15_put_2_8 2 rfl rfl)
theorem dJ15_put_2_190 : decode cJ15_put_2 190 = .ok (.putfield 58, 3) := dk_181 0 58 (dk_at dksJ15_put_2_8 3 rfl rfl)
theorem dJ15_put_2_193 : decode cJ15_put_2 193 = .ok (.aload 9, 2) := dk_25 9 (dk_at dksJ15_put_2_8 6 rfl rfl)
theorem dJ15_put_2_195 : decode cJ15_put_2 195 = .ok (.areturn, 1) := dk_176 (dk_at dksJ15_put_2_8 8 rfl rfl)
theorem dJ15_put_2_196 : decode cJ15_put_2 196 = .ok (.aload 4, 2) := dk_25 4 (dk_at dksJ15_put_2_8 9 rfl rfl)
theorem dJ15_put_2_198 : decode cJ15_put_2 198 = .ok (.ifnonnull (-75), 3) := dk_199 255 181 (dk_at dksJ15_put_2_8 11 rfl rfl)
theorem dJ15_put_2_201 : decode cJ15_put_2 201 = .ok (.aload_n 0, 1) := dk_42 (dk_at dksJ15_put_2_8 14 rfl rfl)
theorem dJ15_put_2_202 : decode cJ15_put_2 202 = .ok (.aload_n 1, 1) := dk_43 (dk_at dksJ15_put_2_8 15 rfl rfl)
theorem dJ15_put_2_203 : decode cJ15_put_2 203 = .ok (.aload_n 2, 1) := dk_44 (dk_at dksJ15_put_2_8 16 rfl rfl)
theorem dJ15_put_2_204 : decode cJ15_put_2 204 = .ok (.aload 6, 2) := dk_25 6 (dk_at dksJ15_put_2_8 17 rfl rfl)
theorem dJ15_put_2_206 : decode cJ15_put_2 206 = .ok (.iload 5, 2) := dk_21 5 (dk_at dksJ15_put_2_8 19 rfl rfl)
theorem dJ15_put_2_208 : decode cJ15_put_2 208 = .ok (.ifCond .ge 7, 3) := dk_156 0 7 (dk_at dksJ15_put_2_8 21 rfl rfl)
theorem dJ15_put_2_211 : decode cJ15_put_2 211 = .ok (.iconst 1, 1) := dk_4 (dk_at dksJ15_put_2_9 0 rfl rfl)
theorem dJ15_put_2_212 : decode cJ15_put_2 212 = .ok (.goto 4, 3) := dk_167 0 4 (dk_at dksJ15_put_2_9 1 rfl rfl)
theorem dJ15_put_2_215 : decode cJ15_put_2 215 = .ok (.iconst 0, 1) := dk_3 (dk_at dksJ15_put_2_9 4 rfl rfl)
theorem dJ15_put_2_216 : decode cJ15_put_2 216 = .ok (.invokevirtual 139, 3) := dk_182 0 139 (dk_at dksJ15_put_2_9 5 rfl rfl)
theorem dJ15_put_2_219 : decode cJ15_put_2 219 = .ok (.aconst_null, 1) := dk_1 (dk_at dksJ15_put_2_9 8 rfl rfl)
theorem dJ15_put_2_220 : decode cJ15_put_2 220 = .ok (.areturn, 1) := dk_176 (dk_at dksJ15_put_2_9 9 rfl rfl)
abbrev cJ15_addEntryToEmptyMap : ByteArray := prog_51_method_30_code
def yJ15_addEntryToEmptyMap : MethodName := ⟨RJ15, "addEntryToEmptyMap", "(Ljava/lang/Object;Ljava/lang/Object;)V"⟩
def dkwJ15_addEntryToEmptyMap_1 : List UInt8 := [181, 0, 7, 42, 89, 180, 0, 13, 4, 96, 181, 0, 13, 177]
abbrev dktJ15_addEntryToEmptyMap_1 : List UInt8 := dkwJ15_addEntryToEmptyMap_1 ++ []
def dkwJ15_addEntryToEmptyMap_0 : List UInt8 := [42, 43, 43, 182, 0, 123, 87, 42, 187, 0, 59, 89, 43, 44, 1, 183, 0, 167, 181, 0, 101, 42, 4]
abbrev dktJ15_addEntryToEmptyMap_0 : List UInt8 := dkwJ15_addEntryToEmptyMap_0 ++ dktJ15_addEntryToEmptyMap_1
theorem dksJ15_addEntryToEmptyMap_0 : cJ15_addEntryToEmptyMap.data.toList.drop 0 = dktJ15_addEntryToEmptyMap_0 := by decide +kernel
theorem dksJ15_addEntryToEmptyMap_1 : cJ15_addEntryToEmptyMap.data.toList.drop 23 = dktJ15_addEntryToEmptyMap_1 := dk_seg dksJ15_addEntryToEmptyMap_0 23 rfl rfl
theorem dJ15_addEntryToEmptyMap_0 : decode cJ15_addEntryToEmptyMap 0 = .ok (.aload_n 0, 1) := dk_42 (dk_at dksJ15_addEntryToEmptyMap_0 0 rfl rfl)
theorem dJ15_addEntryToEmptyMap_1 : decode cJ15_addEntryToEmptyMap 1 = .ok (.aload_n 1, 1) := dk_43 (dk_at dksJ15_addEntryToEmptyMap_0 1 rfl rfl)
theorem dJ15_addEntryToEmptyMap_2 : decode cJ15_addEntryToEmptyMap 2 = .ok (.aload_n 1, 1) := dk_43 (dk_at dksJ15_addEntryToEmptyMap_0 2 rfl rfl)
theorem dJ15_addEntryToEmptyMap_3 : decode cJ15_addEntryToEmptyMap 3 = .ok (.invokevirtual 123, 3) := dk_182 0 123 (dk_at dksJ15_addEntryToEmptyMap_0 3 rfl rfl)
theorem dJ15_addEntryToEmptyMap_6 : decode cJ15_addEntryToEmptyMap 6 = .ok (.pop, 1) := dk_87 (dk_at dksJ15_addEntryToEmptyMap_0 6 rfl rfl)
theorem dJ15_addEntryToEmptyMap_7 : decode cJ15_addEntryToEmptyMap 7 = .ok (.aload_n 0, 1) := dk_42 (dk_at dksJ15_addEntryToEmptyMap_0 7 rfl rfl)
theorem dJ15_addEntryToEmptyMap_8 : decode cJ15_addEntryToEmptyMap 8 = .ok (.new 59, 3) := dk_187 0 59 (dk_at dksJ15_addEntryToEmptyMap_0 8 rfl rfl)
theorem dJ15_addEntryToEmptyMap_11 : decode cJ15_addEntryToEmptyMap 11 = .ok (.dup, 1) := dk_89 (dk_at dksJ15_addEntryToEmptyMap_0 11 rfl rfl)
theorem dJ15_addEntryToEmptyMap_12 : decode cJ15_addEntryToEmptyMap 12 = .ok (.aload_n 1, 1) := dk_43 (dk_at dksJ15_addEntryToEmptyMap_0 12 rfl rfl)
theorem dJ15_addEntryToEmptyMap_13 : decode cJ15_addEntryToEmptyMap 13 = .ok (.aload_n 2, 1) := dk_44 (dk_at dksJ15_addEntryToEmptyMap_0 13 rfl rfl)
theorem dJ15_addEntryToEmptyMap_14 : decode cJ15_addEntryToEmptyMap 14 = .ok (.aconst_null, 1) := dk_1 (dk_at dksJ15_addEntryToEmptyMap_0 14 rfl rfl)
theorem dJ15_addEntryToEmptyMap_15 : decode cJ15_addEntryToEmptyMap 15 = .ok (.invokespecial 167, 3) := dk_183 0 167 (dk_at dksJ15_addEntryToEmptyMap_0 15 rfl rfl)
theorem dJ15_addEntryToEmptyMap_18 : decode cJ15_addEntryToEmptyMap 18 = .ok (.putfield 101, 3) := dk_181 0 101 (dk_at dksJ15_addEntryToEmptyMap_0 18 rfl rfl)
theorem dJ15_addEntryToEmptyMap_21 : decode cJ15_addEntryToEmptyMap 21 = .ok (.aload_n 0, 1) := dk_42 (dk_at dksJ15_addEntryToEmptyMap_0 21 rfl rfl)
theorem dJ15_addEntryToEmptyMap_22 : decode cJ15_addEntryToEmptyMap 22 = .ok (.iconst 1, 1) := dk_4 (dk_at dksJ15_addEntryToEmptyMap_0 22 rfl rfl)
theorem dJ15_addEntryToEmptyMap_23 : decode cJ15_addEntryToEmptyMap 23 = .ok (.putfield 7, 3) := dk_181 0 7 (dk_at dksJ15_addEntryToEmptyMap_1 0 rfl rfl)
theorem dJ15_addEntryToEmptyMap_26 : decode cJ15_addEntryToEmptyMap 26 = .ok (.aload_n 0, 1) := dk_42 (dk_at dksJ15_addEntryToEmptyMap_1 3 rfl rfl)
theorem dJ15_addEntryToEmptyMap_27 : decode cJ15_addEntryToEmptyMap 27 = .ok (.dup, 1) := dk_89 (dk_at dksJ15_addEntryToEmptyMap_1 4 rfl rfl)
theorem dJ15_addEntryToEmptyMap_28 : decode cJ15_addEntryToEmptyMap 28 = .ok (.getfield 13, 3) := dk_180 0 13 (dk_at dksJ15_addEntryToEmptyMap_1 5 rfl rfl)
theorem dJ15_addEntryToEmptyMap_31 : decode cJ15_addEntryToEmptyMap 31 = .ok (.iconst 1, 1) := dk_4 (dk_at dksJ15_addEntryToEmptyMap_1 8 rfl rfl)
theorem dJ15_addEntryToEmptyMap_32 : decode cJ15_addEntryToEmptyMap 32 = .ok (.iadd, 1) := dk_96 (dk_at dksJ15_addEntryToEmptyMap_1 9 rfl rfl)
theorem dJ15_addEntryToEmptyMap_33 : decode cJ15_addEntryToEmptyMap 33 = .ok (.putfield 13, 3) := dk_181 0 13 (dk_at dksJ15_addEntryToEmptyMap_1 10 rfl rfl)
theorem dJ15_addEntryToEmptyMap_36 : decode cJ15_addEntryToEmptyMap 36 = .ok (.return_, 1) := dk_177 (dk_at dksJ15_addEntryToEmptyMap_1 13 rfl rfl)
abbrev cJ15_compare : ByteArray := prog_51_method_67_code
def yJ15_compare : MethodName := ⟨RJ15, "compare", "(Ljava/lang/Object;Ljava/lang/Object;)I"⟩
def dkwJ15_compare_1 : List UInt8 := [43, 44, 185, 0, 117, 3, 0, 172]
abbrev dktJ15_compare_1 : List UInt8 := dkwJ15_compare_1 ++ []
def dkwJ15_compare_0 : List UInt8 := [42, 180, 0, 16, 199, 0, 16, 43, 192, 0, 99, 44, 185, 0, 107, 2, 0, 167, 0, 14, 42, 180, 0, 16]
abbrev dktJ15_compare_0 : List UInt8 := dkwJ15_compare_0 ++ dktJ15_compare_1
theorem dksJ15_compare_0 : cJ15_compare.data.toList.drop 0 = dktJ15_compare_0 := by decide +kernel
theorem dksJ15_compare_1 : cJ15_compare.data.toList.drop 24 = dktJ15_compare_1 := dk_seg dksJ15_compare_0 24 rfl rfl
theorem dJ15_compare_0 : decode cJ15_compare 0 = .ok (.aload_n 0, 1) := dk_42 (dk_at dksJ15_compare_0 0 rfl rfl)
theorem dJ15_compare_1 : decode cJ15_compare 1 = .ok (.getfield 16, 3) := dk_180 0 16 (dk_at dksJ15_compare_0 1 rfl rfl)
theorem dJ15_compare_4 : decode cJ15_compare 4 = .ok (.ifnonnull 16, 3) := dk_199 0 16 (dk_at dksJ15_compare_0 4 rfl rfl)
theorem dJ15_compare_7 : decode cJ15_compare 7 = .ok (.aload_n 1, 1) := dk_43 (dk_at dksJ15_compare_0 7 rfl rfl)
theorem dJ15_compare_8 : decode cJ15_compare 8 = .ok (.checkcast 99, 3) := dk_192 0 99 (dk_at dksJ15_compare_0 8 rfl rfl)
theorem dJ15_compare_11 : decode cJ15_compare 11 = .ok (.aload_n 2, 1) := dk_44 (dk_at dksJ15_compare_0 11 rfl rfl)
theorem dJ15_compare_12 : decode cJ15_compare 12 = .ok (.invokeinterface 107 2, 5) := by decide +kernel
theorem dJ15_compare_17 : decode cJ15_compare 17 = .ok (.goto 14, 3) := dk_167 0 14 (dk_at dksJ15_compare_0 17 rfl rfl)
theorem dJ15_compare_20 : decode cJ15_compare 20 = .ok (.aload_n 0, 1) := dk_42 (dk_at dksJ15_compare_0 20 rfl rfl)
theorem dJ15_compare_21 : decode cJ15_compare 21 = .ok (.getfield 16, 3) := dk_180 0 16 (dk_at dksJ15_compare_0 21 rfl rfl)
theorem dJ15_compare_24 : decode cJ15_compare 24 = .ok (.aload_n 1, 1) := dk_43 (dk_at dksJ15_compare_1 0 rfl rfl)
theorem dJ15_compare_25 : decode cJ15_compare 25 = .ok (.aload_n 2, 1) := dk_44 (dk_at dksJ15_compare_1 1 rfl rfl)
theorem dJ15_compare_26 : decode cJ15_compare 26 = .ok (.invokeinterface 117 3, 5) := by decide +kernel
theorem dJ15_compare_31 : decode cJ15_compare 31 = .ok (.ireturn, 1) := dk_172 (dk_at dksJ15_compare_1 7 rfl rfl)
abbrev cJ15_addEntry : ByteArray := prog_51_method_29_code
def yJ15_addEntry : MethodName := ⟨RJ15, "addEntry", "(Ljava/lang/Object;Ljava/lang/Object;Ljava/util/TreeMap$Entry;Z)V"⟩
def dkwJ15_addEntry_2 : List UInt8 := [181, 0, 7, 42, 89, 180, 0, 13, 4, 96, 181, 0, 13, 177]
abbrev dktJ15_addEntry_2 : List UInt8 := dkwJ15_addEntry_2 ++ []
def dkwJ15_addEntry_1 : List UInt8 := [167, 0, 9, 45, 25, 5, 181, 0, 114, 42, 25, 5, 182, 0, 170, 42, 89, 180, 0, 7, 4, 96]
abbrev dktJ15_addEntry_1 : List UInt8 := dkwJ15_addEntry_1 ++ dktJ15_addEntry_2
def dkwJ15_addEntry_0 : List UInt8 := [187, 0, 59, 89, 43, 44, 45, 183, 0, 167, 58, 5, 21, 4, 153, 0, 12, 45, 25, 5, 181, 0, 111]
abbrev dktJ15_addEntry_0 : List UInt8 := dkwJ15_addEntry_0 ++ dktJ15_addEntry_1
theorem dksJ15_addEntry_0 : cJ15_addEntry.data.toList.drop 0 = dktJ15_addEntry_0 := by decide +kernel
theorem dksJ15_addEntry_1 : cJ15_addEntry.data.toList.drop 23 = dktJ15_addEntry_1 := dk_seg dksJ15_addEntry_0 23 rfl rfl
theorem dksJ15_addEntry_2 : cJ15_addEntry.data.toList.drop 45 = dktJ15_addEntry_2 := dk_seg dksJ15_addEntry_1 22 rfl rfl
theorem dJ15_addEntry_0 : decode cJ15_addEntry 0 = .ok (.new 59, 3) := dk_187 0 59 (dk_at dksJ15_addEntry_0 0 rfl rfl)
theorem dJ15_addEntry_3 : decode cJ15_addEntry 3 = .ok (.dup, 1) := dk_89 (dk_at dksJ15_addEntry_0 3 rfl rfl)
theorem dJ15_addEntry_4 : decode cJ15_addEntry 4 = .ok (.aload_n 1, 1) := dk_43 (dk_at dksJ15_addEntry_0 4 rfl rfl)
theorem dJ15_addEntry_5 : decode cJ15_addEntry 5 = .ok (.aload_n 2, 1) := dk_44 (dk_at dksJ15_addEntry_0 5 rfl rfl)
theorem dJ15_addEntry_6 : decode cJ15_addEntry 6 = .ok (.aload_n 3, 1) := dk_45 (dk_at dksJ15_addEntry_0 6 rfl rfl)
theorem dJ15_addEntry_7 : decode cJ15_addEntry 7 = .ok (.invokespecial 167, 3) := dk_183 0 167 (dk_at dksJ15_addEntry_0 7 rfl rfl)
theorem dJ15_addEntry_10 : decode cJ15_addEntry 10 = .ok (.astore 5, 2) := dk_58 5 (dk_at dksJ15_addEntry_0 10 rfl rfl)
theorem dJ15_addEntry_12 : decode cJ15_addEntry 12 = .ok (.iload 4, 2) := dk_21 4 (dk_at dksJ15_addEntry_0 12 rfl rfl)
theorem dJ15_addEntry_14 : decode cJ15_addEntry 14 = .ok (.ifCond .eq 12, 3) := dk_153 0 12 (dk_at dksJ15_addEntry_0 14 rfl rfl)
theorem dJ15_addEntry_17 : decode cJ15_addEntry 17 = .ok (.aload_n 3, 1) := dk_45 (dk_at dksJ15_addEntry_0 17 rfl rfl)
theorem dJ15_addEntry_18 : decode cJ15_addEntry 18 = .ok (.aload 5, 2) := dk_25 5 (dk_at dksJ15_addEntry_0 18 rfl rfl)
theorem dJ15_addEntry_20 : decode cJ15_addEntry 20 = .ok (.putfield 111, 3) := dk_181 0 111 (dk_at dksJ15_addEntry_0 20 rfl rfl)
theorem dJ15_addEntry_23 : decode cJ15_addEntry 23 = .ok (.goto 9, 3) := dk_167 0 9 (dk_at dksJ15_addEntry_1 0 rfl rfl)
theorem dJ15_addEntry_26 : decode cJ15_addEntry 26 = .ok (.aload_n 3, 1) := dk_45 (dk_at dksJ15_addEntry_1 3 rfl rfl)
theorem dJ15_addEntry_27 : decode cJ15_addEntry 27 = .ok (.aload 5, 2) := dk_25 5 (dk_at dksJ15_addEntry_1 4 rfl rfl)
theorem dJ15_addEntry_29 : decode cJ15_addEntry 29 = .ok (.putfield 114, 3) := dk_181 0 114 (dk_at dksJ15_addEntry_1 6 rfl rfl)
theorem dJ15_addEntry_32 : decode cJ15_addEntry 32 = .ok (.aload_n 0, 1) := dk_42 (dk_at dksJ15_addEntry_1 9 rfl rfl)
theorem dJ15_addEntry_33 : decode cJ15_addEntry 33 = .ok (.aload 5, 2) := dk_25 5 (dk_at dksJ15_addEntry_1 10 rfl rfl)
theorem dJ15_addEntry_35 : decode cJ15_addEntry 35 = .ok (.invokevirtual 170, 3) := dk_182 0 170 (dk_at dksJ15_addEntry_1 12 rfl rfl)
theorem dJ15_addEntry_38 : decode cJ15_addEntry 38 = .ok (.aload_n 0, 1) := dk_42 (dk_at dksJ15_addEntry_1 15 rfl rfl)
theorem dJ15_addEntry_39 : decode cJ15_addEntry 39 = .ok (.dup, 1) := dk_89 (dk_at dksJ15_addEntry_1 16 rfl rfl)
theorem dJ15_addEntry_40 : decode cJ15_addEntry 40 = .ok (.getfield 7, 3) := dk_180 0 7 (dk_at dksJ15_addEntry_1 17 rfl rfl)
theorem dJ15_addEntry_43 : decode cJ15_addEntry 43 = .ok (.iconst 1, 1) := dk_4 (dk_at dksJ15_addEntry_1 20 rfl rfl)
theorem dJ15_addEntry_44 : decode cJ15_addEntry 44 = .ok (.iadd, 1) := dk_96 (dk_at dksJ15_addEntry_1 21 rfl rfl)
theorem dJ15_addEntry_45 : decode cJ15_addEntry 45 = .ok (.putfield 7, 3) := dk_181 0 7 (dk_at dksJ15_addEntry_2 0 rfl rfl)
theorem dJ15_addEntry_48 : decode cJ15_addEntry 48 = .ok (.aload_n 0, 1) := dk_42 (dk_at dksJ15_addEntry_2 3 rfl rfl)
theorem dJ15_addEntry_49 : decode cJ15_addEntry 49 = .ok (.dup, 1) := dk_89 (dk_at dksJ15_addEntry_2 4 rfl rfl)
theorem dJ15_addEntry_50 : decode cJ15_addEntry 50 = .ok (.getfield 13, 3) := dk_180 0 13 (dk_at dksJ15_addEntry_2 5 rfl rfl)
theorem dJ15_addEntry_53 : decode cJ15_addEntry 53 = .ok (.iconst 1, 1) := dk_4 (dk_at dksJ15_addEntry_2 8 rfl rfl)
theorem dJ15_addEntry_54 : decode cJ15_addEntry 54 = .ok (.iadd, 1) := dk_96 (dk_at dksJ15_addEntry_2 9 rfl rfl)
theorem dJ15_addEntry_55 : decode cJ15_addEntry 55 = .ok (.putfield 13, 3) := dk_181 0 13 (dk_at dksJ15_addEntry_2 10 rfl rfl)
theorem dJ15_addEntry_58 : decode cJ15_addEntry 58 = .ok (.return_, 1) := dk_177 (dk_at dksJ15_addEntry_2 13 rfl rfl)
abbrev cJ15_fixAfterInsertion : ByteArray := prog_51_method_83_code
def yJ15_fixAfterInsertion : MethodName := ⟨RJ15, "fixAfterInsertion", "(Ljava/util/TreeMap$Entry;)V"⟩
def dkwJ15_fixAfterInsertion_11 : List UInt8 := [42, 180, 0, 101, 4, 181, 1, 34, 177]
abbrev dktJ15_fixAfterInsertion_11 : List UInt8 := dkwJ15_fixAfterInsertion_11 ++ []
def dkwJ15_fixAfterInsertion_10 : List UInt8 := [184, 1, 38, 184, 1, 38, 3, 184, 1, 51, 42, 43, 184, 1, 38, 184, 1, 38, 182, 1, 55, 167, 255, 6]
abbrev dktJ15_fixAfterInsertion_10 : List UInt8 := dkwJ15_fixAfterInsertion_10 ++ dktJ15_fixAfterInsertion_11
def dkwJ15_fixAfterInsertion_9 : List UInt8 := [166, 0, 13, 43, 184, 1, 38, 76, 42, 43, 182, 1, 58, 43, 184, 1, 38, 4, 184, 1, 51, 43]
abbrev dktJ15_fixAfterInsertion_9 : List UInt8 := dkwJ15_fixAfterInsertion_9 ++ dktJ15_fixAfterInsertion_10
def dkwJ15_fixAfterInsertion_8 : List UInt8 := [184, 1, 51, 43, 184, 1, 38, 184, 1, 38, 76, 167, 0, 54, 43, 43, 184, 1, 38, 184, 1, 41]
abbrev dktJ15_fixAfterInsertion_8 : List UInt8 := dkwJ15_fixAfterInsertion_8 ++ dktJ15_fixAfterInsertion_9
def dkwJ15_fixAfterInsertion_7 : List UInt8 := [154, 0, 38, 43, 184, 1, 38, 4, 184, 1, 51, 44, 4, 184, 1, 51, 43, 184, 1, 38, 184, 1, 38, 3]
abbrev dktJ15_fixAfterInsertion_7 : List UInt8 := dkwJ15_fixAfterInsertion_7 ++ dktJ15_fixAfterInsertion_8
def dkwJ15_fixAfterInsertion_6 : List UInt8 := [184, 1, 38, 182, 1, 58, 167, 255, 113, 43, 184, 1, 38, 184, 1, 38, 184, 1, 41, 77, 44, 184, 1, 47]
abbrev dktJ15_fixAfterInsertion_6 : List UInt8 := dkwJ15_fixAfterInsertion_6 ++ dktJ15_fixAfterInsertion_7
def dkwJ15_fixAfterInsertion_5 : List UInt8 := [43, 184, 1, 38, 4, 184, 1, 51, 43, 184, 1, 38, 184, 1, 38, 3, 184, 1, 51, 42, 43, 184, 1, 38]
abbrev dktJ15_fixAfterInsertion_5 : List UInt8 := dkwJ15_fixAfterInsertion_5 ++ dktJ15_fixAfterInsertion_6
def dkwJ15_fixAfterInsertion_4 : List UInt8 := [167, 0, 54, 43, 43, 184, 1, 38, 184, 1, 44, 166, 0, 13, 43, 184, 1, 38, 76, 42, 43, 182, 1, 55]
abbrev dktJ15_fixAfterInsertion_4 : List UInt8 := dkwJ15_fixAfterInsertion_4 ++ dktJ15_fixAfterInsertion_5
def dkwJ15_fixAfterInsertion_3 : List UInt8 := [184, 1, 51, 43, 184, 1, 38, 184, 1, 38, 3, 184, 1, 51, 43, 184, 1, 38, 184, 1, 38, 76]
abbrev dktJ15_fixAfterInsertion_3 : List UInt8 := dkwJ15_fixAfterInsertion_3 ++ dktJ15_fixAfterInsertion_4
def dkwJ15_fixAfterInsertion_2 : List UInt8 := [184, 1, 38, 184, 1, 44, 77, 44, 184, 1, 47, 154, 0, 38, 43, 184, 1, 38, 4, 184, 1, 51, 44, 4]
abbrev dktJ15_fixAfterInsertion_2 : List UInt8 := dkwJ15_fixAfterInsertion_2 ++ dktJ15_fixAfterInsertion_3
def dkwJ15_fixAfterInsertion_1 : List UInt8 := [154, 0, 234, 43, 184, 1, 38, 43, 184, 1, 38, 184, 1, 38, 184, 1, 41, 166, 0, 110, 43, 184, 1, 38]
abbrev dktJ15_fixAfterInsertion_1 : List UInt8 := dkwJ15_fixAfterInsertion_1 ++ dktJ15_fixAfterInsertion_2
def dkwJ15_fixAfterInsertion_0 : List UInt8 := [43, 3, 181, 1, 34, 43, 198, 0, 252, 43, 42, 180, 0, 101, 165, 0, 244, 43, 180, 0, 124, 180, 1, 34]
abbrev dktJ15_fixAfterInsertion_0 : List UInt8 := dkwJ15_fixAfterInsertion_0 ++ dktJ15_fixAfterInsertion_1
theorem dksJ15_fixAfterInsertion_0 : cJ15_fixAfterInsertion.data.toList.drop 0 = dktJ15_fixAfterInsertion_0 := by decide +kernel
theorem dksJ15_fixAfterInsertion_1 : cJ15_fixAfterInsertion.data.toList.drop 24 = dktJ15_fixAfterInsertion_1 := dk_seg dksJ15_fixAfterInsertion_0 24 rfl rfl
theorem dksJ15_fixAfterInsertion_2 : cJ15_fixAfterInsertion.data.toList.drop 48 = dktJ15_fixAfterInsertion_2 := dk_seg dksJ15_fixAfterInsertion_1 24 rfl rfl
theorem dksJ15_fixAfterInsertion_3 : cJ15_fixAfterInsertion.data.toList.drop 72 = dktJ15_fixAfterInsertion_3 := dk_seg dksJ15_fixAfterInsertion_2 24 rfl rfl
theorem dksJ15_fixAfterInsertion_4 : cJ15_fixAfterInsertion.data.toList.drop 94 = dktJ15_fixAfterInsertion_4 := dk_seg dksJ15_fixAfterInsertion_3 22 rfl rfl
theorem dksJ15_fixAfterInsertion_5 : cJ15_fixAfterInsertion.data.toList.drop 118 = dktJ15_fixAfterInsertion_5 := dk_seg dksJ15_fixAfterInsertion_4 24 rfl rfl
theorem dksJ15_fixAfterInsertion_6 : cJ15_fixAfterInsertion.data.toList.drop 142 = dktJ15_fixAfterInsertion_6 := dk_seg dksJ15_fixAfterInsertion_5 24 rfl rfl
theorem dksJ15_fixAfterInsertion_7 : cJ15_fixAfterInsertion.data.toList.drop 166 = dktJ15_fixAfterInsertion_7 := dk_seg dksJ15_fixAfterInsertion_6 24 rfl rfl
theorem dksJ15_fixAfterInsertion_8 : cJ15_fixAfterInsertion.data.toList.drop 190 = dktJ15_fixAfterInsertion_8 := dk_seg dksJ15_fixAfterInsertion_7 24 rfl rfl
theorem dksJ15_fixAfterInsertion_9 : cJ15_fixAfterInsertion.data.toList.drop 212 = dktJ15_fixAfterInsertion_9 := dk_seg dksJ15_fixAfterInsertion_8 22 rfl rfl
theorem dksJ15_fixAfterInsertion_10 : cJ15_fixAfterInsertion.data.toList.drop 234 = dktJ15_fixAfterInsertion_10 := dk_seg dksJ15_fixAfterInsertion_9 22 rfl rfl
theorem dksJ15_fixAfterInsertion_11 : cJ15_fixAfterInsertion.data.toList.drop 258 = dktJ15_fixAfterInsertion_11 := dk_seg dksJ15_fixAfterInsertion_10 24 rfl rfl
theorem dJ15_fixAfterInsertion_0 : decode cJ15_fixAfterInsertion 0 = .ok (.aload_n 1, 1) := dk_43 (dk_at dksJ15_fixAfterInsertion_0 0 rfl rfl)
theorem dJ15_fixAfterInsertion_1 : decode cJ15_fixAfterInsertion 1 = .ok (.iconst 0, 1) := dk_3 (dk_at dksJ15_fixAfterInsertion_0 1 rfl rfl)
theorem dJ15_fixAfterInsertion_2 : decode cJ15_fixAfterInsertion 2 = .ok (.putfield 290, 3) := dk_181 1 34 (dk_at dksJ15_fixAfterInsertion_0 2 rfl rfl)
theorem dJ15_fixAfterInsertion_5 : decode cJ15_fixAfterInsertion 5 = .ok (.aload_n 1, 1) := dk_43 (dk_at dksJ15_fixAfterInsertion_0 5 rfl rfl)
theorem dJ15_fixAfterInsertion_6 : decode cJ15_fixAfterInsertion 6 = .ok (.ifnull 252, 3) := dk_198 0 252 (dk_at dksJ15_fixAfterInsertion_0 6 rfl rfl)
theorem dJ15_fixAfterInsertion_9 : decode cJ15_fixAfterInsertion 9 = .ok (.aload_n 1, 1) := dk_43 (dk_at dksJ15_fixAfterInsertion_0 9 rfl rfl)
theorem dJ15_fixAfterInsertion_10 : decode cJ15_fixAfterInsertion 10 = .ok (.aload_n 0, 1) := dk_42 (dk_at dksJ15_fixAfterInsertion_0 10 rfl rfl)
theorem dJ15_fixAfterInsertion_11 : decode cJ15_fixAfterInsertion 11 = .ok (.getfield 101, 3) := dk_180 0 101 (dk_at dksJ15_fixAfterInsertion_0 11 rfl rfl)
theorem dJ15_fixAfterInsertion_14 : decode cJ15_fixAfterInsertion 14 = .ok (.if_acmp .eq 244, 3) := dk_165 0 244 (dk_at dksJ15_fixAfterInsertion_0 14 rfl rfl)
theorem dJ15_fixAfterInsertion_17 : decode cJ15_fixAfterInsertion 17 = .ok (.aload_n 1, 1) := dk_43 (dk_at dksJ15_fixAfterInsertion_0 17 rfl rfl)
theorem dJ15_fixAfterInsertion_18 : decode cJ15_fixAfterInsertion 18 = .ok (.getfield 124, 3) := dk_180 0 124 (dk_at dksJ15_fixAfterInsertion_0 18 rfl rfl)
theorem dJ15_fixAfterInsertion_21 : decode cJ15_fixAfterInsertion 21 = .ok (.getfield 290, 3) := dk_180 1 34 (dk_at dksJ15_fixAfterInsertion_0 21 rfl rfl)
theorem dJ15_fixAfterInsertion_24 : decode cJ15_fixAfterInsertion 24 = .ok (.ifCond .ne 234, 3) := dk_154 0 234 (dk_at dksJ15_fixAfterInsertion_1 0 rfl rfl)
theorem dJ15_fixAfterInsertion_27 : decode cJ15_fixAfterInsertion 27 = .ok (.aload_n 1, 1) := dk_43 (dk_at dksJ15_fixAfterInsertion_1 3 rfl rfl)
theorem dJ15_fixAfterInsertion_28 : decode cJ15_fixAfterInsertion 28 = .ok (.invokestatic 294, 3) := dk_184 1 38 (dk_at dksJ15_fixAfterInsertion_1 4 rfl rfl)
theorem dJ15_fixAfterInsertion_31 : decode cJ15_fixAfterInsertion 31 = .ok (.aload_n 1, 1) := dk_43 (dk_at dksJ15_fixAfterInsertion_1 7 rfl rfl)
theorem dJ15_fixAfterInsertion_32 : decode cJ15_fixAfterInsertion 32 = .ok (.invokestatic 294, 3) := dk_184 1 38 (dk_at dksJ15_fixAfterInsertion_1 8 rfl rfl)
theorem dJ15_fixAfterInsertion_35 : decode cJ15_fixAfterInsertion 35 = .ok (.invokestatic 294, 3) := dk_184 1 38 (dk_at dksJ15_fixAfterInsertion_1 11 rfl rfl)
theorem dJ15_fixAfterInsertion_38 : decode cJ15_fixAfterInsertion 38 = .ok (.invokestatic 297, 3) := dk_184 1 41 (dk_at dksJ15_fixAfterInsertion_1 14 rfl rfl)
theorem dJ15_fixAfterInsertion_41 : decode cJ15_fixAfterInsertion 41 = .ok (.if_acmp .ne 110, 3) := dk_166 0 110 (dk_at dksJ15_fixAfterInsertion_1 17 rfl rfl)
theorem dJ15_fixAfterInsertion_44 : decode cJ15_fixAfterInsertion 44 = .ok (.aload_n 1, 1) := dk_43 (dk_at dksJ15_fixAfterInsertion_1 20 rfl rfl)
theorem dJ15_fixAfterInsertion_45 : decode cJ15_fixAfterInsertion 45 = .ok (.invokestatic 294, 3) := dk_184 1 38 (dk_at dksJ15_fixAfterInsertion_1 21 rfl rfl)
theorem dJ15_fixAfterInsertion_48 : decode cJ15_fixAfterInsertion 48 = .ok (.invokestatic 294, 3) := dk_184 1 38 (dk_at dksJ15_fixAfterInsertion_2 0 rfl rfl)
theorem dJ15_fixAfterInsertion_51 : decode cJ15_fixAfterInsertion 51 = .ok (.invokestatic 300, 3) := dk_184 1 44 (dk_at dksJ15_fixAfterInsertion_2 3 rfl rfl)
theorem dJ15_fixAfterInsertion_54 : decode cJ15_fixAfterInsertion 54 = .ok (.astore_n 2, 1) := dk_77 (dk_at dksJ15_fixAfterInsertion_2 6 rfl rfl)
theorem dJ15_fixAfterInsertion_55 : decode cJ15_fixAfterInsertion 55 = .ok (.aload_n 2, 1) := dk_44 (dk_at dksJ15_fixAfterInsertion_2 7 rfl rfl)
theorem dJ15_fixAfterInsertion_56 : decode cJ15_fixAfterInsertion 56 = .ok (.invokestatic 303, 3) := dk_184 1 47 (dk_at dksJ15_fixAfterInsertion_2 8 rfl rfl)
theorem dJ15_fixAfterInsertion_59 : decode cJ15_fixAfterInsertion 59 = .ok (.ifCond .ne 38, 3) := dk_154 0 38 (dk_at dksJ15_fixAfterInsertion_2 11 rfl rfl)
theorem dJ15_fixAfterInsertion_62 : decode cJ15_fixAfterInsertion 62 = .ok (.aload_n 1, 1) := dk_43 (dk_at dksJ15_fixAfterInsertion_2 14 rfl rfl)
theorem dJ15_fixAfterInsertion_63 : decode cJ15_fixAfterInsertion 63 = .ok (.invokestatic 294, 3) := dk_184 1 38 (dk_at dksJ15_fixAfterInsertion_2 15 rfl rfl)
theorem dJ15_fixAfterInsertion_66 : decode cJ15_fixAfterInsertion 66 = .ok (.iconst 1, 1) := dk_4 (dk_at dksJ15_fixAfterInsertion_2 18 rfl rfl)
theorem dJ15_fixAfterInsertion_67 : decode cJ15_fixAfterInsertion 67 = .ok (.invokestatic 307, 3) := dk_184 1 51 (dk_at dksJ15_fixAfterInsertion_2 19 rfl rfl)
theorem dJ15_fixAfterInsertion_70 : decode cJ15_fixAfterInsertion 70 = .ok (.aload_n 2, 1) := dk_44 (dk_at dksJ15_fixAfterInsertion_2 22 rfl rfl)
theorem dJ15_fixAfterInsertion_71 : decode cJ15_fixAfterInsertion 71 = .ok (.iconst 1, 1) := dk_4 (dk_at dksJ15_fixAfterInsertion_2 23 rfl rfl)
theorem dJ15_fixAfterInsertion_72 : decode cJ15_fixAfterInsertion 72 = .ok (.invokestatic 307, 3) := dk_184 1 51 (dk_at dksJ15_fixAfterInsertion_3 0 rfl rfl)
theorem dJ15_fixAfterInsertion_75 : decode cJ15_fixAfterInsertion 75 = .ok (.aload_n 1, 1) := dk_43 (dk_at dksJ15_fixAfterInsertion_3 3 rfl rfl)
theorem dJ15_fixAfterInsertion_76 : decode cJ15_fixAfterInsertion 76 = .ok (.invokestatic 294, 3) := dk_184 1 38 (dk_at dksJ15_fixAfterInsertion_3 4 rfl rfl)
theorem dJ15_fixAfterInsertion_79 : decode cJ15_fixAfterInsertion 79 = .ok (.invokestatic 294, 3) := dk_184 1 38 (dk_at dksJ15_fixAfterInsertion_3 7 rfl rfl)
theorem dJ15_fixAfterInsertion_82 : decode cJ15_fixAfterInsertion 82 = .ok (.iconst 0, 1) := dk_3 (dk_at dksJ15_fixAfterInsertion_3 10 rfl rfl)
theorem dJ15_fixAfterInsertion_83 : decode cJ15_fixAfterInsertion 83 = .ok (.invokestatic 307, 3) := dk_184 1 51 (dk_at dksJ15_fixAfterInsertion_3 11 rfl rfl)
theorem dJ15_fixAfterInsertion_86 : decode cJ15_fixAfterInsertion 86 = .ok (.aload_n 1, 1) := dk_43 (dk_at dksJ15_fixAfterInsertion_3 14 rfl rfl)
theorem dJ15_fixAfterInsertion_87 : decode cJ15_fixAfterInsertion 87 = .ok (.invokestatic 294, 3) := dk_184 1 38 (dk_at dksJ15_fixAfterInsertion_3 15 rfl rfl)
theorem dJ15_fixAfterInsertion_90 : decode cJ15_fixAfterInsertion 90 = .ok (.invokestatic 294, 3) := dk_184 1 38 (dk_at dksJ15_fixAfterInsertion_3 18 rfl rfl)
theorem dJ15_fixAfterInsertion_93 : decode cJ15_fixAfterInsertion 93 = .ok (.astore_n 1, 1) := dk_76 (dk_at dksJ15_fixAfterInsertion_3 21 rfl rfl)
theorem dJ15_fixAfterInsertion_94 : decode cJ15_fixAfterInsertion 94 = .ok (.goto 54, 3) := dk_167 0 54 (dk_at dksJ15_fixAfterInsertion_4 0 rfl rfl)
theorem dJ15_fixAfterInsertion_97 : decode cJ15_fixAfterInsertion 97 = .ok (.aload_n 1, 1) := dk_43 (dk_at dksJ15_fixAfterInsertion_4 3 rfl rfl)
theorem dJ15_fixAfterInsertion_98 : decode cJ15_fixAfterInsertion 98 = .ok (.aload_n 1, 1) := dk_43 (dk_at dksJ15_fixAfterInsertion_4 4 rfl rfl)
theorem dJ15_fixAfterInsertion_99 : decode cJ15_fixAfterInsertion 99 = .ok (.invokestatic 294, 3) := dk_184 1 38 (dk_at dksJ15_fixAfterInsertion_4 5 rfl rfl)
theorem dJ15_fixAfterInsertion_102 : decode cJ15_fixAfterInsertion 102 = .ok (.invokestatic 300, 3) := dk_184 1 44 (dk_at dksJ15_fixAfterInsertion_4 8 rfl rfl)
theorem dJ15_fixAfterInsertion_105 : decode cJ15_fixAfterInsertion 105 = .ok (.if_acmp .ne 13, 3) := dk_166 0 13 (dk_at dksJ15_fixAfterInsertion_4 11 rfl rfl)
theorem dJ15_fixAfterInsertion_108 : decode cJ15_fixAfterInsertion 108 = .ok (.aload_n 1, 1) := dk_43 (dk_at dksJ15_fixAfterInsertion_4 14 rfl rfl)
theorem dJ15_fixAfterInsertion_109 : decode cJ15_fixAfterInsertion 109 = .ok (.invokestatic 294, 3) := dk_184 1 38 (dk_at dksJ15_fixAfterInsertion_4 15 rfl rfl)
theorem dJ15_fixAfterInsertion_112 : decode cJ15_fixAfterInsertion 112 = .ok (.astore_n 1, 1) := dk_76 (dk_at dksJ15_fixAfterInsertion_4 18 rfl rfl)
theorem dJ15_fixAfterInsertion_113 : decode cJ15_fixAfterInsertion 113 = .ok (.aload_n 0, 1) := dk_42 (dk_at dksJ15_fixAfterInsertion_4 19 rfl rfl)
theorem dJ15_fixAfterInsertion_114 : decode cJ15_fixAfterInsertion 114 = .ok (.aload_n 1, 1) := dk_43 (dk_at dksJ15_fixAfterInsertion_4 20 rfl rfl)
theorem dJ15_fixAfterInsertion_115 : decode cJ15_fixAfterInsertion 115 = .ok (.invokevirtual 311, 3) := dk_182 1 55 (dk_at dksJ15_fixAfterInsertion_4 21 rfl rfl)
theorem dJ15_fixAfterInsertion_118 : decode cJ15_fixAfterInsertion 118 = .ok (.aload_n 1, 1) := dk_43 (dk_at dksJ15_fixAfterInsertion_5 0 rfl rfl)
theorem dJ15_fixAfterInsertion_119 : decode cJ15_fixAfterInsertion 119 = .ok (.invokestatic 294, 3) := dk_184 1 38 (dk_at dksJ15_fixAfterInsertion_5 1 rfl rfl)
theorem dJ15_fixAfterInsertion_122 : decode cJ15_fixAfterInsertion 122 = .ok (.iconst 1, 1) := dk_4 (dk_at dksJ15_fixAfterInsertion_5 4 rfl rfl)
theorem dJ15_fixAfterInsertion_123 : decode cJ15_fixAfterInsertion 123 = .ok (.invokestatic 307, 3) := dk_184 1 51 (dk_at dksJ15_fixAfterInsertion_5 5 rfl rfl)
theorem dJ15_fixAfterInsertion_126 : decode cJ15_fixAfterInsertion 126 = .ok (.aload_n 1, 1) := dk_43 (dk_at dksJ15_fixAfterInsertion_5 8 rfl rfl)
theorem dJ15_fixAfterInsertion_127 : decode cJ15_fixAfterInsertion 127 = .ok (.invokestatic 294, 3) := dk_184 1 38 (dk_at dksJ15_fixAfterInsertion_5 9 rfl rfl)
theorem dJ15_fixAfterInsertion_130 : decode cJ15_fixAfterInsertion 130 = .ok (.invokestatic 294, 3) := dk_184 1 38 (dk_at dksJ15_fixAfterInsertion_5 12 rfl rfl)
theorem dJ15_fixAfterInsertion_133 : decode cJ15_fixAfterInsertion 133 = .ok (.iconst 0, 1) := dk_3 (dk_at dksJ15_fixAfterInsertion_5 15 rfl rfl)
theorem dJ15_fixAfterInsertion_134 : decode cJ15_fixAfterInsertion 134 = .ok (.invokestatic 307, 3) := dk_184 1 51 (dk_at dksJ15_fixAfterInsertion_5 16 rfl rfl)
theorem dJ15_fixAfterInsertion_137 : decode cJ15_fixAfterInsertion 137 = .ok (.aload_n 0, 1) := dk_42 (dk_at dksJ15_fixAfterInsertion_5 19 rfl rfl)
theorem dJ15_fixAfterInsertion_138 : decode cJ15_fixAfterInsertion 138 = .ok (.aload_n 1, 1) := dk_43 (dk_at dksJ15_fixAfterInsertion_5 20 rfl rfl)
theorem dJ15_fixAfterInsertion_139 : decode cJ15_fixAfterInsertion 139 = .ok (.invokestatic 294, 3) := dk_184 1 38 (dk_at dksJ15_fixAfterInsertion_5 21 rfl rfl)
theorem dJ15_fixAfterInsertion_142 : decode cJ15_fixAfterInsertion 142 = .ok (.invokestatic 294, 3) := dk_184 1 38 (dk_at dksJ15_fixAfterInsertion_6 0 rfl rfl)
theorem dJ15_fixAfterInsertion_145 : decode cJ15_fixAfterInsertion 145 = .ok (.invokevirtual 314, 3) := dk_182 1 58 (dk_at dksJ15_fixAfterInsertion_6 3 rfl rfl)
theorem dJ15_fixAfterInsertion_148 : decode cJ15_fixAfterInsertion 148 = .ok (.goto (-143), 3) := dk_167 255 113 (dk_at dksJ15_fixAfterInsertion_6 6 rfl rfl)
theorem dJ15_fixAfterInsertion_151 : decode cJ15_fixAfterInsertion 151 = .ok (.aload_n 1, 1) := dk_43 (dk_at dksJ15_fixAfterInsertion_6 9 rfl rfl)
theorem dJ15_fixAfterInsertion_152 : decode cJ15_fixAfterInsertion 152 = .ok (.invokestatic 294, 3) := dk_184 1 38 (dk_at dksJ15_fixAfterInsertion_6 10 rfl rfl)
theorem dJ15_fixAfterInsertion_155 : decode cJ15_fixAfterInsertion 155 = .ok (.invokestatic 294, 3) := dk_184 1 38 (dk_at dksJ15_fixAfterInsertion_6 13 rfl rfl)
theorem dJ15_fixAfterInsertion_158 : decode cJ15_fixAfterInsertion 158 = .ok (.invokestatic 297, 3) := dk_184 1 41 (dk_at dksJ15_fixAfterInsertion_6 16 rfl rfl)
theorem dJ15_fixAfterInsertion_161 : decode cJ15_fixAfterInsertion 161 = .ok (.astore_n 2, 1) := dk_77 (dk_at dksJ15_fixAfterInsertion_6 19 rfl rfl)
theorem dJ15_fixAfterInsertion_162 : decode cJ15_fixAfterInsertion 162 = .ok (.aload_n 2, 1) := dk_44 (dk_at dksJ15_fixAfterInsertion_6 20 rfl rfl)
theorem dJ15_fixAfterInsertion_163 : decode cJ15_fixAfterInsertion 163 = .ok (.invokestatic 303, 3) := dk_184 1 47 (dk_at dksJ15_fixAfterInsertion_6 21 rfl rfl)
theorem dJ15_fixAfterInsertion_166 : decode cJ15_fixAfterInsertion 166 = .ok (.ifCond .ne 38, 3) := dk_154 0 38 (dk_at dksJ15_fixAfterInsertion_7 0 rfl rfl)
theorem dJ15_fixAfterInsertion_169 : decode cJ15_fixAfterInsertion 169 = .ok (.aload_n 1, 1) := dk_43 (dk_at dksJ15_fixAfterInsertion_7 3 rfl rfl)
theorem dJ15_fixAfterInsertion_170 : decode cJ15_fixAfterInsertion 170 = .ok (.invokestatic 294, 3) := dk_184 1 38 (dk_at dksJ15_fixAfterInsertion_7 4 rfl rfl)
theorem dJ15_fixAfterInsertion_173 : decode cJ15_fixAfterInsertion 173 = .ok (.iconst 1, 1) := dk_4 (dk_at dksJ15_fixAfterInsertion_7 7 rfl rfl)
theorem dJ15_fixAfterInsertion_174 : decode cJ15_fixAfterInsertion 174 = .ok (.invokestatic 307, 3) := dk_184 1 51 (dk_at dksJ15_fixAfterInsertion_7 8 rfl rfl)
theorem dJ15_fixAfterInsertion_177 : decode cJ15_fixAfterInsertion 177 = .ok (.aload_n 2, 1) := dk_44 (dk_at dksJ15_fixAfterInsertion_7 11 rfl rfl)
theorem dJ15_fixAfterInsertion_178 : decode cJ15_fixAfterInsertion 178 = .ok (.iconst 1, 1) := dk_4 (dk_at dksJ15_fixAfterInsertion_7 12 rfl rfl)
theorem dJ15_fixAfterInsertion_179 : decode cJ15_fixAfterInsertion 179 = .ok (.invokestatic 307, 3) := dk_184 1 51 (dk_at dksJ15_fixAfterInsertion_7 13 rfl rfl)
theorem dJ15_fixAfterInsertion_182 : decode cJ15_fixAfterInsertion 182 = .ok (.aload_n 1, 1) := dk_43 (dk_at dksJ15_fixAfterInsertion_7 16 rfl rfl)
theorem dJ15_fixAfterInsertion_183 : decode cJ15_fixAfterInsertion 183 = .ok (.invokestatic 294, 3) := dk_184 1 38 (dk_at dksJ15_fixAfterInsertion_7 17 rfl rfl)
theorem dJ15_fixAfterInsertion_186 : decode cJ15_fixAfterInsertion 186 = .ok (.invokestatic 294, 3) := dk_184 1 38 (dk_at dksJ15_fixAfterInsertion_7 20 rfl rfl)
theorem dJ15_fixAfterInsertion_189 : decode cJ15_fixAfterInsertion 189 = .ok (.iconst 0, 1) := dk_3 (dk_at dksJ15_fixAfterInsertion_7 23 rfl rfl)
theorem dJ15_fixAfterInsertion_190 : decode cJ15_fixAfterInsertion 190 = .ok (.invokestatic 307, 3) := dk_184 1 51 (dk_at dksJ15_fixAfterInsertion_8 0 rfl rfl)
theorem dJ15_fixAfterInsertion_193 : decode cJ15_fixAfterInsertion 193 = .ok (.aload_n 1, 1) := dk_43 (dk_at dksJ15_fixAfterInsertion_8 3 rfl rfl)
theorem dJ15_fixAfterInsertion_194 : decode cJ15_fixAfterInsertion 194 = .ok (.invokestatic 294, 3) := dk_184 1 38 (dk_at dksJ15_fixAfterInsertion_8 4 rfl rfl)
theorem dJ15_fixAfterInsertion_197 : decode cJ15_fixAfterInsertion 197 = .ok (.invokestatic 294, 3) := dk_184 1 38 (dk_at dksJ15_fixAfterInsertion_8 7 rfl rfl)
theorem dJ15_fixAfterInsertion_200 : decode cJ15_fixAfterInsertion 200 = .ok (.astore_n 1, 1) := dk_76 (dk_at dksJ15_fixAfterInsertion_8 10 rfl rfl)
theorem dJ15_fixAfterInsertion_201 : decode cJ15_fixAfterInsertion 201 = .ok (.goto 54, 3) := dk_167 0 54 (dk_at dksJ15_fixAfterInsertion_8 11 rfl rfl)
theorem dJ15_fixAfterInsertion_204 : decode cJ15_fixAfterInsertion 204 = .ok (.aload_n 1, 1) := dk_43 (dk_at dksJ15_fixAfterInsertion_8 14 rfl rfl)
theorem dJ15_fixAfterInsertion_205 : decode cJ15_fixAfterInsertion 205 = .ok (.aload_n 1, 1) := dk_43 (dk_at dksJ15_fixAfterInsertion_8 15 rfl rfl)
theorem dJ15_fixAfterInsertion_206 : decode cJ15_fixAfterInsertion 206 = .ok (.invokestatic 294, 3) := dk_184 1 38 (dk_at dksJ15_fixAfterInsertion_8 16 rfl rfl)
theorem dJ15_fixAfterInsertion_209 : decode cJ15_fixAfterInsertion 209 = .ok (.invokestatic 297, 3) := dk_184 1 41 (dk_at dksJ15_fixAfterInsertion_8 19 rfl rfl)
theorem dJ15_fixAfterInsertion_212 : decode cJ15_fixAfterInsertion 212 = .ok (.if_acmp .ne 13, 3) := dk_166 0 13 (dk_at dksJ15_fixAfterInsertion_9 0 rfl rfl)
theorem dJ15_fixAfterInsertion_215 : decode cJ15_fixAfterInsertion 215 = .ok (.aload_n 1, 1) := dk_43 (dk_at dksJ15_fixAfterInsertion_9 3 rfl rfl)
theorem dJ15_fixAfterInsertion_216 : decode cJ15_fixAfterInsertion 216 = .ok (.invokestatic 294, 3) := dk_184 1 38 (dk_at dksJ15_fixAfterInsertion_9 4 rfl rfl)
theorem dJ15_fixAfterInsertion_219 : decode cJ15_fixAfterInsertion 219 = .ok (.astore_n 1, 1) := dk_76 (dk_at dksJ15_fixAfterInsertion_9 7 rfl rfl)
theorem dJ15_fixAfterInsertion_220 : decode cJ15_fixAfterInsertion 220 = .ok (.aload_n 0, 1) := dk_42 (dk_at dksJ15_fixAfterInsertion_9 8 rfl rfl)
theorem dJ15_fixAfterInsertion_221 : decode cJ15_fixAfterInsertion 221 = .ok (.aload_n 1, 1) := dk_43 (dk_at dksJ15_fixAfterInsertion_9 9 rfl rfl)
theorem dJ15_fixAfterInsertion_222 : decode cJ15_fixAfterInsertion 222 = .ok (.invokevirtual 314, 3) := dk_182 1 58 (dk_at dksJ15_fixAfterInsertion_9 10 rfl rfl)
theorem dJ15_fixAfterInsertion_225 : decode cJ15_fixAfterInsertion 225 = .ok (.aload_n 1, 1) := dk_43 (dk_at dksJ15_fixAfterInsertion_9 13 rfl rfl)
theorem dJ15_fixAfterInsertion_226 : decode cJ15_fixAfterInsertion 226 = .ok (.invokestatic 294, 3) := dk_184 1 38 (dk_at dksJ15_fixAfterInsertion_9 14 rfl rfl)
theorem dJ15_fixAfterInsertion_229 : decode cJ15_fixAfterInsertion 229 = .ok (.iconst 1, 1) := dk_4 (dk_at dksJ15_fixAfterInsertion_9 17 rfl rfl)
theorem dJ15_fixAfterInsertion_230 : decode cJ15_fixAfterInsertion 230 = .ok (.invokestatic 307, 3) := dk_184 1 51 (dk_at dksJ15_fixAfterInsertion_9 18 rfl rfl)
theorem dJ15_fixAfterInsertion_233 : decode cJ15_fixAfterInsertion 233 = .ok (.aload_n 1, 1) := dk_43 (dk_at dksJ15_fixAfterInsertion_9 21 rfl rfl)
theorem dJ15_fixAfterInsertion_234 : decode cJ15_fixAfterInsertion 234 = .ok (.invokestatic 294, 3) := dk_184 1 38 (dk_at dksJ15_fixAfterInsertion_10 0 rfl rfl)
theorem dJ15_fixAfterInsertion_237 : decode cJ15_fixAfterInsertion 237 = .ok (.invokestatic 294, 3) := dk_184 1 38 (dk_at dksJ15_fixAfterInsertion_10 3 rfl rfl)
theorem dJ15_fixAfterInsertion_240 : decode cJ15_fixAfterInsertion 240 = .ok (.iconst 0, 1) := dk_3 (dk_at dksJ15_fixAfterInsertion_10 6 rfl rfl)
theorem dJ15_fixAfterInsertion_241 : decode cJ15_fixAfterInsertion 241 = .ok (.invokestatic 307, 3) := dk_184 1 51 (dk_at dksJ15_fixAfterInsertion_10 7 rfl rfl)
theorem dJ15_fixAfterInsertion_244 : decode cJ15_fixAfterInsertion 244 = .ok (.aload_n 0, 1) := dk_42 (dk_at dksJ15_fixAfterInsertion_10 10 rfl rfl)
theorem dJ15_fixAfterInsertion_245 : decode cJ15_fixAfterInsertion 245 = .ok (.aload_n 1, 1) := dk_43 (dk_at dksJ15_fixAfterInsertion_10 11 rfl rfl)
theorem dJ15_fixAfterInsertion_246 : decode cJ15_fixAfterInsertion 246 = .ok (.invokestatic 294, 3) := dk_184 1 38 (dk_at dksJ15_fixAfterInsertion_10 12 rfl rfl)
theorem dJ15_fixAfterInsertion_249 : decode cJ15_fixAfterInsertion 249 = .ok (.invokestatic 294, 3) := dk_184 1 38 (dk_at dksJ15_fixAfterInsertion_10 15 rfl rfl)
theorem dJ15_fixAfterInsertion_252 : decode cJ15_fixAfterInsertion 252 = .ok (.invokevirtual 311, 3) := dk_182 1 55 (dk_at dksJ15_fixAfterInsertion_10 18 rfl rfl)
theorem dJ15_fixAfterInsertion_255 : decode cJ15_fixAfterInsertion 255 = .ok (.goto (-250), 3) := dk_167 255 6 (dk_at dksJ15_fixAfterInsertion_10 21 rfl rfl)
theorem dJ15_fixAfterInsertion_258 : decode cJ15_fixAfterInsertion 258 = .ok (.aload_n 0, 1) := dk_42 (dk_at dksJ15_fixAfterInsertion_11 0 rfl rfl)
theorem dJ15_fixAfterInsertion_259 : decode cJ15_fixAfterInsertion 259 = .ok (.getfield 101, 3) := dk_180 0 101 (dk_at dksJ15_fixAfterInsertion_11 1 rfl rfl)
theorem dJ15_fixAfterInsertion_262 : decode cJ15_fixAfterInsertion 262 = .ok (.iconst 1, 1) := dk_4 (dk_at dksJ15_fixAfterInsertion_11 4 rfl rfl)
theorem dJ15_fixAfterInsertion_263 : decode cJ15_fixAfterInsertion 263 = .ok (.putfield 290, 3) := dk_181 1 34 (dk_at dksJ15_fixAfterInsertion_11 5 rfl rfl)
theorem dJ15_fixAfterInsertion_266 : decode cJ15_fixAfterInsertion 266 = .ok (.return_, 1) := dk_177 (dk_at dksJ15_fixAfterInsertion_11 8 rfl rfl)
abbrev cJ15_parentOf : ByteArray := prog_51_method_77_code
def yJ15_parentOf : MethodName := ⟨RJ15, "parentOf", "(Ljava/util/TreeMap$Entry;)Ljava/util/TreeMap$Entry;"⟩
def dkwJ15_parentOf_0 : List UInt8 := [42, 199, 0, 7, 1, 167, 0, 7, 42, 180, 0, 124, 176]
abbrev dktJ15_parentOf_0 : List UInt8 := dkwJ15_parentOf_0 ++ []
theorem dksJ15_parentOf_0 : cJ15_parentOf.data.toList.drop 0 = dktJ15_parentOf_0 := by decide +kernel
theorem dJ15_parentOf_0 : decode cJ15_parentOf 0 = .ok (.aload_n 0, 1) := dk_42 (dk_at dksJ15_parentOf_0 0 rfl rfl)
theorem dJ15_parentOf_1 : decode cJ15_parentOf 1 = .ok (.ifnonnull 7, 3) := dk_199 0 7 (dk_at dksJ15_parentOf_0 1 rfl rfl)
theorem dJ15_parentOf_4 : decode cJ15_parentOf 4 = .ok (.aconst_null, 1) := dk_1 (dk_at dksJ15_parentOf_0 4 rfl rfl)
theorem dJ15_parentOf_5 : decode cJ15_parentOf 5 = .ok (.goto 7, 3) := dk_167 0 7 (dk_at dksJ15_parentOf_0 5 rfl rfl)
theorem dJ15_parentOf_8 : decode cJ15_parentOf 8 = .ok (.aload_n 0, 1) := dk_42 (dk_at dksJ15_parentOf_0 8 rfl rfl)
theorem dJ15_parentOf_9 : decode cJ15_parentOf 9 = .ok (.getfield 124, 3) := dk_180 0 124 (dk_at dksJ15_parentOf_0 9 rfl rfl)
theorem dJ15_parentOf_12 : decode cJ15_parentOf 12 = .ok (.areturn, 1) := dk_176 (dk_at dksJ15_parentOf_0 12 rfl rfl)
abbrev cJ15_leftOf : ByteArray := prog_51_method_79_code
def yJ15_leftOf : MethodName := ⟨RJ15, "leftOf", "(Ljava/util/TreeMap$Entry;)Ljava/util/TreeMap$Entry;"⟩
def dkwJ15_leftOf_0 : List UInt8 := [42, 199, 0, 7, 1, 167, 0, 7, 42, 180, 0, 111, 176]
abbrev dktJ15_leftOf_0 : List UInt8 := dkwJ15_leftOf_0 ++ []
theorem dksJ15_leftOf_0 : cJ15_leftOf.data.toList.drop 0 = dktJ15_leftOf_0 := by decide +kernel
theorem dJ15_leftOf_0 : decode cJ15_leftOf 0 = .ok (.aload_n 0, 1) := dk_42 (dk_at dksJ15_leftOf_0 0 rfl rfl)
theorem dJ15_leftOf_1 : decode cJ15_leftOf 1 = .ok (.ifnonnull 7, 3) := dk_199 0 7 (dk_at dksJ15_leftOf_0 1 rfl rfl)
theorem dJ15_leftOf_4 : decode cJ15_leftOf 4 = .ok (.aconst_null, 1) := dk_1 (dk_at dksJ15_leftOf_0 4 rfl rfl)
theorem dJ15_leftOf_5 : decode cJ15_leftOf 5 = .ok (.goto 7, 3) := dk_167 0 7 (dk_at dksJ15_leftOf_0 5 rfl rfl)
theorem dJ15_leftOf_8 : decode cJ15_leftOf 8 = .ok (.aload_n 0, 1) := dk_42 (dk_at dksJ15_leftOf_0 8 rfl rfl)
theorem dJ15_leftOf_9 : decode cJ15_leftOf 9 = .ok (.getfield 111, 3) := dk_180 0 111 (dk_at dksJ15_leftOf_0 9 rfl rfl)
theorem dJ15_leftOf_12 : decode cJ15_leftOf 12 = .ok (.areturn, 1) := dk_176 (dk_at dksJ15_leftOf_0 12 rfl rfl)
abbrev cJ15_rightOf : ByteArray := prog_51_method_80_code
def yJ15_rightOf : MethodName := ⟨RJ15, "rightOf", "(Ljava/util/TreeMap$Entry;)Ljava/util/TreeMap$Entry;"⟩
def dkwJ15_rightOf_0 : List UInt8 := [42, 199, 0, 7, 1, 167, 0, 7, 42, 180, 0, 114, 176]
abbrev dktJ15_rightOf_0 : List UInt8 := dkwJ15_rightOf_0 ++ []
theorem dksJ15_rightOf_0 : cJ15_rightOf.data.toList.drop 0 = dktJ15_rightOf_0 := by decide +kernel
theorem dJ15_rightOf_0 : decode cJ15_rightOf 0 = .ok (.aload_n 0, 1) := dk_42 (dk_at dksJ15_rightOf_0 0 rfl rfl)
theorem dJ15_rightOf_1 : decode cJ15_rightOf 1 = .ok (.ifnonnull 7, 3) := dk_199 0 7 (dk_at dksJ15_rightOf_0 1 rfl rfl)
theorem dJ15_rightOf_4 : decode cJ15_rightOf 4 = .ok (.aconst_null, 1) := dk_1 (dk_at dksJ15_rightOf_0 4 rfl rfl)
theorem dJ15_rightOf_5 : decode cJ15_rightOf 5 = .ok (.goto 7, 3) := dk_167 0 7 (dk_at dksJ15_rightOf_0 5 rfl rfl)
theorem dJ15_rightOf_8 : decode cJ15_rightOf 8 = .ok (.aload_n 0, 1) := dk_42 (dk_at dksJ15_rightOf_0 8 rfl rfl)
theorem dJ15_rightOf_9 : decode cJ15_rightOf 9 = .ok (.getfield 114, 3) := dk_180 0 114 (dk_at dksJ15_rightOf_0 9 rfl rfl)
theorem dJ15_rightOf_12 : decode cJ15_rightOf 12 = .ok (.areturn, 1) := dk_176 (dk_at dksJ15_rightOf_0 12 rfl rfl)
abbrev cJ15_colorOf : ByteArray := prog_51_method_76_code
def yJ15_colorOf : MethodName := ⟨RJ15, "colorOf", "(Ljava/util/TreeMap$Entry;)Z"⟩
def dkwJ15_colorOf_0 : List UInt8 := [42, 199, 0, 7, 4, 167, 0, 7, 42, 180, 1, 34, 172]
abbrev dktJ15_colorOf_0 : List UInt8 := dkwJ15_colorOf_0 ++ []
theorem dksJ15_colorOf_0 : cJ15_colorOf.data.toList.drop 0 = dktJ15_colorOf_0 := by decide +kernel
theorem dJ15_colorOf_0 : decode cJ15_colorOf 0 = .ok (.aload_n 0, 1) := dk_42 (dk_at dksJ15_colorOf_0 0 rfl rfl)
theorem dJ15_colorOf_1 : decode cJ15_colorOf 1 = .ok (.ifnonnull 7, 3) := dk_199 0 7 (dk_at dksJ15_colorOf_0 1 rfl rfl)
theorem dJ15_colorOf_4 : decode cJ15_colorOf 4 = .ok (.iconst 1, 1) := dk_4 (dk_at dksJ15_colorOf_0 4 rfl rfl)
theorem dJ15_colorOf_5 : decode cJ15_colorOf 5 = .ok (.goto 7, 3) := dk_167 0 7 (dk_at dksJ15_colorOf_0 5 rfl rfl)
theorem dJ15_colorOf_8 : decode cJ15_colorOf 8 = .ok (.aload_n 0, 1) := dk_42 (dk_at dksJ15_colorOf_0 8 rfl rfl)
theorem dJ15_colorOf_9 : decode cJ15_colorOf 9 = .ok (.getfield 290, 3) := dk_180 1 34 (dk_at dksJ15_colorOf_0 9 rfl rfl)
theorem dJ15_colorOf_12 : decode cJ15_colorOf 12 = .ok (.ireturn, 1) := dk_172 (dk_at dksJ15_colorOf_0 12 rfl rfl)
abbrev cJ15_setColor : ByteArray := prog_51_method_78_code
def yJ15_setColor : MethodName := ⟨RJ15, "setColor", "(Ljava/util/TreeMap$Entry;Z)V"⟩
def dkwJ15_setColor_0 : List UInt8 := [42, 198, 0, 8, 42, 27, 181, 1, 34, 177]
abbrev dktJ15_setColor_0 : List UInt8 := dkwJ15_setColor_0 ++ []
theorem dksJ15_setColor_0 : cJ15_setColor.data.toList.drop 0 = dktJ15_setColor_0 := by decide +kernel
theorem dJ15_setColor_0 : decode cJ15_setColor 0 = .ok (.aload_n 0, 1) := dk_42 (dk_at dksJ15_setColor_0 0 rfl rfl)
theorem dJ15_setColor_1 : decode cJ15_setColor 1 = .ok (.ifnull 8, 3) := dk_198 0 8 (dk_at dksJ15_setColor_0 1 rfl rfl)
theorem dJ15_setColor_4 : decode cJ15_setColor 4 = .ok (.aload_n 0, 1) := dk_42 (dk_at dksJ15_setColor_0 4 rfl rfl)
theorem dJ15_setColor_5 : decode cJ15_setColor 5 = .ok (.iload_n 1, 1) := dk_27 (dk_at dksJ15_setColor_0 5 rfl rfl)
theorem dJ15_setColor_6 : decode cJ15_setColor 6 = .ok (.putfield 290, 3) := dk_181 1 34 (dk_at dksJ15_setColor_0 6 rfl rfl)
theorem dJ15_setColor_9 : decode cJ15_setColor 9 = .ok (.return_, 1) := dk_177 (dk_at dksJ15_setColor_0 9 rfl rfl)
abbrev cJ15_rotateLeft : ByteArray := prog_51_method_81_code
def yJ15_rotateLeft : MethodName := ⟨RJ15, "rotateLeft", "(Ljava/util/TreeMap$Entry;)V"⟩
def dkwJ15_rotateLeft_4 : List UInt8 := [177]
abbrev dktJ15_rotateLeft_4 : List UInt8 := dkwJ15_rotateLeft_4 ++ []
def dkwJ15_rotateLeft_3 : List UInt8 := [181, 0, 111, 167, 0, 11, 43, 180, 0, 124, 44, 181, 0, 114, 44, 43, 181, 0, 111, 43, 44, 181, 0, 124]
abbrev dktJ15_rotateLeft_3 : List UInt8 := dkwJ15_rotateLeft_3 ++ dktJ15_rotateLeft_4
def dkwJ15_rotateLeft_2 : List UInt8 := [44, 181, 0, 101, 167, 0, 33, 43, 180, 0, 124, 180, 0, 111, 43, 166, 0, 14, 43, 180, 0, 124, 44]
abbrev dktJ15_rotateLeft_2 : List UInt8 := dkwJ15_rotateLeft_2 ++ dktJ15_rotateLeft_3
def dkwJ15_rotateLeft_1 : List UInt8 := [44, 180, 0, 111, 43, 181, 0, 124, 44, 43, 180, 0, 124, 181, 0, 124, 43, 180, 0, 124, 199, 0, 11, 42]
abbrev dktJ15_rotateLeft_1 : List UInt8 := dkwJ15_rotateLeft_1 ++ dktJ15_rotateLeft_2
def dkwJ15_rotateLeft_0 : List UInt8 := [43, 198, 0, 94, 43, 180, 0, 114, 77, 43, 44, 180, 0, 111, 181, 0, 114, 44, 180, 0, 111, 198, 0, 11]
abbrev dktJ15_rotateLeft_0 : List UInt8 := dkwJ15_rotateLeft_0 ++ dktJ15_rotateLeft_1
theorem dksJ15_rotateLeft_0 : cJ15_rotateLeft.data.toList.drop 0 = dktJ15_rotateLeft_0 := by decide +kernel
theorem dksJ15_rotateLeft_1 : cJ15_rotateLeft.data.toList.drop 24 = dktJ15_rotateLeft_1 := dk_seg dksJ15_rotateLeft_0 24 rfl rfl
theorem dksJ15_rotateLeft_2 : cJ15_rotateLeft.data.toList.drop 48 = dktJ15_rotateLeft_2 := dk_seg dksJ15_rotateLeft_1 24 rfl rfl
theorem dksJ15_rotateLeft_3 : cJ15_rotateLeft.data.toList.drop 71 = dktJ15_rotateLeft_3 := dk_seg dksJ15_rotateLeft_2 23 rfl rfl
theorem dksJ15_rotateLeft_4 : cJ15_rotateLeft.data.toList.drop 95 = dktJ15_rotateLeft_4 := dk_seg dksJ15_rotateLeft_3 24 rfl rfl
theorem dJ15_rotateLeft_0 : decode cJ15_rotateLeft 0 = .ok (.aload_n 1, 1) := dk_43 (dk_at dksJ15_rotateLeft_0 0 rfl rfl)
theorem dJ15_rotateLeft_1 : decode cJ15_rotateLeft 1 = .ok (.ifnull 94, 3) := dk_198 0 94 (dk_at dksJ15_rotateLeft_0 1 rfl rfl)
theorem dJ15_rotateLeft_4 : decode cJ15_rotateLeft 4 = .ok (.aload_n 1, 1) := dk_43 (dk_at dksJ15_rotateLeft_0 4 rfl rfl)
theorem dJ15_rotateLeft_5 : decode cJ15_rotateLeft 5 = .ok (.getfield 114, 3) := dk_180 0 114 (dk_at dksJ15_rotateLeft_0 5 rfl rfl)
theorem dJ15_rotateLeft_8 : decode cJ15_rotateLeft 8 = .ok (.astore_n 2, 1) := dk_77 (dk_at dksJ15_rotateLeft_0 8 rfl rfl)
theorem dJ15_rotateLeft_9 : decode cJ15_rotateLeft 9 = .ok (.aload_n 1, 1) := dk_43 (dk_at dksJ15_rotateLeft_0 9 rfl rfl)
theorem dJ15_rotateLeft_10 : decode cJ15_rotateLeft 10 = .ok (.aload_n 2, 1) := dk_44 (dk_at dksJ15_rotateLeft_0 10 rfl rfl)
theorem dJ15_rotateLeft_11 : decode cJ15_rotateLeft 11 = .ok (.getfield 111, 3) := dk_180 0 111 (dk_at dksJ15_rotateLeft_0 11 rfl rfl)
theorem dJ15_rotateLeft_14 : decode cJ15_rotateLeft 14 = .ok (.putfield 114, 3) := dk_181 0 114 (dk_at dksJ15_rotateLeft_0 14 rfl rfl)
theorem dJ15_rotateLeft_17 : decode cJ15_rotateLeft 17 = .ok (.aload_n 2, 1) := dk_44 (dk_at dksJ15_rotateLeft_0 17 rfl rfl)
theorem dJ15_rotateLeft_18 : decode cJ15_rotateLeft 18 = .ok (.getfield 111, 3) := dk_180 0 111 (dk_at dksJ15_rotateLeft_0 18 rfl rfl)
theorem dJ15_rotateLeft_21 : decode cJ15_rotateLeft 21 = .ok (.ifnull 11, 3) := dk_198 0 11 (dk_at dksJ15_rotateLeft_0 21 rfl rfl)
theorem dJ15_rotateLeft_24 : decode cJ15_rotateLeft 24 = .ok (.aload_n 2, 1) := dk_44 (dk_at dksJ15_rotateLeft_1 0 rfl rfl)
theorem dJ15_rotateLeft_25 : decode cJ15_rotateLeft 25 = .ok (.getfield 111, 3) := dk_180 0 111 (dk_at dksJ15_rotateLeft_1 1 rfl rfl)
theorem dJ15_rotateLeft_28 : decode cJ15_rotateLeft 28 = .ok (.aload_n 1, 1) := dk_43 (dk_at dksJ15_rotateLeft_1 4 rfl rfl)
theorem dJ15_rotateLeft_29 : decode cJ15_rotateLeft 29 = .ok (.putfield 124, 3) := dk_181 0 124 (dk_at dksJ15_rotateLeft_1 5 rfl rfl)
theorem dJ15_rotateLeft_32 : decode cJ15_rotateLeft 32 = .ok (.aload_n 2, 1) := dk_44 (dk_at dksJ15_rotateLeft_1 8 rfl rfl)
theorem dJ15_rotateLeft_33 : decode cJ15_rotateLeft 33 = .ok (.aload_n 1, 1) := dk_43 (dk_at dksJ15_rotateLeft_1 9 rfl rfl)
theorem dJ15_rotateLeft_34 : decode cJ15_rotateLeft 34 = .ok (.getfield 124, 3) := dk_180 0 124 (dk_at dksJ15_rotateLeft_1 10 rfl rfl)
theorem dJ15_rotateLeft_37 : decode cJ15_rotateLeft 37 = .ok (.putfield 124, 3) := dk_181 0 124 (dk_at dksJ15_rotateLeft_1 13 rfl rfl)
theorem dJ15_rotateLeft_40 : decode cJ15_rotateLeft 40 = .ok (.aload_n 1, 1) := dk_43 (dk_at dksJ15_rotateLeft_1 16 rfl rfl)
theorem dJ15_rotateLeft_41 : decode cJ15_rotateLeft 41 = .ok (.getfield 124, 3) := dk_180 0 124 (dk_at dksJ15_rotateLeft_1 17 rfl rfl)
theorem dJ15_rotateLeft_44 : decode cJ15_rotateLeft 44 = .ok (.ifnonnull 11, 3) := dk_199 0 11 (dk_at dksJ15_rotateLeft_1 20 rfl rfl)
theorem dJ15_rotateLeft_47 : decode cJ15_rotateLeft 47 = .ok (.aload_n 0, 1) := dk_42 (dk_at dksJ15_rotateLeft_1 23 rfl rfl)
theorem dJ15_rotateLeft_48 : decode cJ15_rotateLeft 48 = .ok (.aload_n 2, 1) := dk_44 (dk_at dksJ15_rotateLeft_2 0 rfl rfl)
theorem dJ15_rotateLeft_49 : decode cJ15_rotateLeft 49 = .ok (.putfield 101, 3) := dk_181 0 101 (dk_at dksJ15_rotateLeft_2 1 rfl rfl)
theorem dJ15_rotateLeft_52 : decode cJ15_rotateLeft 52 = .ok (.goto 33, 3) := dk_167 0 33 (dk_at dksJ15_rotateLeft_2 4 rfl rfl)
theorem dJ15_rotateLeft_55 : decode cJ15_rotateLeft 55 = .ok (.aload_n 1, 1) := dk_43 (dk_at dksJ15_rotateLeft_2 7 rfl rfl)
theorem dJ15_rotateLeft_56 : decode cJ15_rotateLeft 56 = .ok (.getfield 124, 3) := dk_180 0 124 (dk_at dksJ15_rotateLeft_2 8 rfl rfl)
theorem dJ15_rotateLeft_59 : decode cJ15_rotateLeft 59 = .ok (.getfield 111, 3) := dk_180 0 111 (dk_at dksJ15_rotateLeft_2 11 rfl rfl)
theorem dJ15_rotateLeft_62 : decode cJ15_rotateLeft 62 = .ok (.aload_n 1, 1) := dk_43 (dk_at dksJ15_rotateLeft_2 14 rfl rfl)
theorem dJ15_rotateLeft_63 : decode cJ15_rotateLeft 63 = .ok (.if_acmp .ne 14, 3) := dk_166 0 14 (dk_at dksJ15_rotateLeft_2 15 rfl rfl)
theorem dJ15_rotateLeft_66 : decode cJ15_rotateLeft 66 = .ok (.aload_n 1, 1) := dk_43 (dk_at dksJ15_rotateLeft_2 18 rfl rfl)
theorem dJ15_rotateLeft_67 : decode cJ15_rotateLeft 67 = .ok (.getfield 124, 3) := dk_180 0 124 (dk_at dksJ15_rotateLeft_2 19 rfl rfl)
theorem dJ15_rotateLeft_70 : decode cJ15_rotateLeft 70 = .ok (.aload_n 2, 1) := dk_44 (dk_at dksJ15_rotateLeft_2 22 rfl rfl)
theorem dJ15_rotateLeft_71 : decode cJ15_rotateLeft 71 = .ok (.putfield 111, 3) := dk_181 0 111 (dk_at dksJ15_rotateLeft_3 0 rfl rfl)
theorem dJ15_rotateLeft_74 : decode cJ15_rotateLeft 74 = .ok (.goto 11, 3) := dk_167 0 11 (dk_at dksJ15_rotateLeft_3 3 rfl rfl)
theorem dJ15_rotateLeft_77 : decode cJ15_rotateLeft 77 = .ok (.aload_n 1, 1) := dk_43 (dk_at dksJ15_rotateLeft_3 6 rfl rfl)
theorem dJ15_rotateLeft_78 : decode cJ15_rotateLeft 78 = .ok (.getfield 124, 3) := dk_180 0 124 (dk_at dksJ15_rotateLeft_3 7 rfl rfl)
theorem dJ15_rotateLeft_81 : decode cJ15_rotateLeft 81 = .ok (.aload_n 2, 1) := dk_44 (dk_at dksJ15_rotateLeft_3 10 rfl rfl)
theorem dJ15_rotateLeft_82 : decode cJ15_rotateLeft 82 = .ok (.putfield 114, 3) := dk_181 0 114 (dk_at dksJ15_rotateLeft_3 11 rfl rfl)
theorem dJ15_rotateLeft_85 : decode cJ15_rotateLeft 85 = .ok (.aload_n 2, 1) := dk_44 (dk_at dksJ15_rotateLeft_3 14 rfl rfl)
theorem dJ15_rotateLeft_86 : decode cJ15_rotateLeft 86 = .ok (.aload_n 1, 1) := dk_43 (dk_at dksJ15_rotateLeft_3 15 rfl rfl)
theorem dJ15_rotateLeft_87 : decode cJ15_rotateLeft 87 = .ok (.putfield 111, 3) := dk_181 0 111 (dk_at dksJ15_rotateLeft_3 16 rfl rfl)
theorem dJ15_rotateLeft_90 : decode cJ15_rotateLeft 90 = .ok (.aload_n 1, 1) := dk_43 (dk_at dksJ15_rotateLeft_3 19 rfl rfl)
theorem dJ15_rotateLeft_91 : decode cJ15_rotateLeft 91 = .ok (.aload_n 2, 1) := dk_44 (dk_at dksJ15_rotateLeft_3 20 rfl rfl)
theorem dJ15_rotateLeft_92 : decode cJ15_rotateLeft 92 = .ok (.putfield 124, 3) := dk_181 0 124 (dk_at dksJ15_rotateLeft_3 21 rfl rfl)
theorem dJ15_rotateLeft_95 : decode cJ15_rotateLeft 95 = .ok (.return_, 1) := dk_177 (dk_at dksJ15_rotateLeft_4 0 rfl rfl)
abbrev cJ15_rotateRight : ByteArray := prog_51_method_82_code
def yJ15_rotateRight : MethodName := ⟨RJ15, "rotateRight", "(Ljava/util/TreeMap$Entry;)V"⟩
def dkwJ15_rotateRight_4 : List UInt8 := [177]
abbrev dktJ15_rotateRight_4 : List UInt8 := dkwJ15_rotateRight_4 ++ []
def dkwJ15_rotateRight_3 : List UInt8 := [181, 0, 114, 167, 0, 11, 43, 180, 0, 124, 44, 181, 0, 111, 44, 43, 181, 0, 114, 43, 44, 181, 0, 124]
abbrev dktJ15_rotateRight_3 : List UInt8 := dkwJ15_rotateRight_3 ++ dktJ15_rotateRight_4
def dkwJ15_rotateRight_2 : List UInt8 := [44, 181, 0, 101, 167, 0, 33, 43, 180, 0, 124, 180, 0, 114, 43, 166, 0, 14, 43, 180, 0, 124, 44]
abbrev dktJ15_rotateRight_2 : List UInt8 := dkwJ15_rotateRight_2 ++ dktJ15_rotateRight_3
def dkwJ15_rotateRight_1 : List UInt8 := [44, 180, 0, 114, 43, 181, 0, 124, 44, 43, 180, 0, 124, 181, 0, 124, 43, 180, 0, 124, 199, 0, 11, 42]
abbrev dktJ15_rotateRight_1 : List UInt8 := dkwJ15_rotateRight_1 ++ dktJ15_rotateRight_2
def dkwJ15_rotateRight_0 : List UInt8 := [43, 198, 0, 94, 43, 180, 0, 111, 77, 43, 44, 180, 0, 114, 181, 0, 111, 44, 180, 0, 114, 198, 0, 11]
abbrev dktJ15_rotateRight_0 : List UInt8 := dkwJ15_rotateRight_0 ++ dktJ15_rotateRight_1
theorem dksJ15_rotateRight_0 : cJ15_rotateRight.data.toList.drop 0 = dktJ15_rotateRight_0 := by decide +kernel
theorem dksJ15_rotateRight_1 : cJ15_rotateRight.data.toList.drop 24 = dktJ15_rotateRight_1 := dk_seg dksJ15_rotateRight_0 24 rfl rfl
theorem dksJ15_rotateRight_2 : cJ15_rotateRight.data.toList.drop 48 = dktJ15_rotateRight_2 := dk_seg dksJ15_rotateRight_1 24 rfl rfl
theorem dksJ15_rotateRight_3 : cJ15_rotateRight.data.toList.drop 71 = dktJ15_rotateRight_3 := dk_seg dksJ15_rotateRight_2 23 rfl rfl
theorem dksJ15_rotateRight_4 : cJ15_rotateRight.data.toList.drop 95 = dktJ15_rotateRight_4 := dk_seg dksJ15_rotateRight_3 24 rfl rfl
theorem dJ15_rotateRight_0 : decode cJ15_rotateRight 0 = .ok (.aload_n 1, 1) := dk_43 (dk_at dksJ15_rotateRight_0 0 rfl rfl)
theorem dJ15_rotateRight_1 : decode cJ15_rotateRight 1 = .ok (.ifnull 94, 3) := dk_198 0 94 (dk_at dksJ15_rotateRight_0 1 rfl rfl)
theorem dJ15_rotateRight_4 : decode cJ15_rotateRight 4 = .ok (.aload_n 1, 1) := dk_43 (dk_at dksJ15_rotateRight_0 4 rfl rfl)
theorem dJ15_rotateRight_5 : decode cJ15_rotateRight 5 = .ok (.getfield 111, 3) := dk_180 0 111 (dk_at dksJ15_rotateRight_0 5 rfl rfl)
theorem dJ15_rotateRight_8 : decode cJ15_rotateRight 8 = .ok (.astore_n 2, 1) := dk_77 (dk_at dksJ15_rotateRight_0 8 rfl rfl)
theorem dJ15_rotateRight_9 : decode cJ15_rotateRight 9 = .ok (.aload_n 1, 1) := dk_43 (dk_at dksJ15_rotateRight_0 9 rfl rfl)
theorem dJ15_rotateRight_10 : decode cJ15_rotateRight 10 = .ok (.aload_n 2, 1) := dk_44 (dk_at dksJ15_rotateRight_0 10 rfl rfl)
theorem dJ15_rotateRight_11 : decode cJ15_rotateRight 11 = .ok (.getfield 114, 3) := dk_180 0 114 (dk_at dksJ15_rotateRight_0 11 rfl rfl)
theorem dJ15_rotateRight_14 : decode cJ15_rotateRight 14 = .ok (.putfield 111, 3) := dk_181 0 111 (dk_at dksJ15_rotateRight_0 14 rfl rfl)
theorem dJ15_rotateRight_17 : decode cJ15_rotateRight 17 = .ok (.aload_n 2, 1) := dk_44 (dk_at dksJ15_rotateRight_0 17 rfl rfl)
theorem dJ15_rotateRight_18 : decode cJ15_rotateRight 18 = .ok (.getfield 114, 3) := dk_180 0 114 (dk_at dksJ15_rotateRight_0 18 rfl rfl)
theorem dJ15_rotateRight_21 : decode cJ15_rotateRight 21 = .ok (.ifnull 11, 3) := dk_198 0 11 (dk_at dksJ15_rotateRight_0 21 rfl rfl)
theorem dJ15_rotateRight_24 : decode cJ15_rotateRight 24 = .ok (.aload_n 2, 1) := dk_44 (dk_at dksJ15_rotateRight_1 0 rfl rfl)
theorem dJ15_rotateRight_25 : decode cJ15_rotateRight 25 = .ok (.getfield 114, 3) := dk_180 0 114 (dk_at dksJ15_rotateRight_1 1 rfl rfl)
theorem dJ15_rotateRight_28 : decode cJ15_rotateRight 28 = .ok (.aload_n 1, 1) := dk_43 (dk_at dksJ15_rotateRight_1 4 rfl rfl)
theorem dJ15_rotateRight_29 : decode cJ15_rotateRight 29 = .ok (.putfield 124, 3) := dk_181 0 124 (dk_at dksJ15_rotateRight_1 5 rfl rfl)
theorem dJ15_rotateRight_32 : decode cJ15_rotateRight 32 = .ok (.aload_n 2, 1) := dk_44 (dk_at dksJ15_rotateRight_1 8 rfl rfl)
theorem dJ15_rotateRight_33 : decode cJ15_rotateRight 33 = .ok (.aload_n 1, 1) := dk_43 (dk_at dksJ15_rotateRight_1 9 rfl rfl)
theorem dJ15_rotateRight_34 : decode cJ15_rotateRight 34 = .ok (.getfield 124, 3) := dk_180 0 124 (dk_at dksJ15_rotateRight_1 10 rfl rfl)
theorem dJ15_rotateRight_37 : decode cJ15_rotateRight 37 = .ok (.putfield 124, 3) := dk_181 0 124 (dk_at dksJ15_rotateRight_1 13 rfl rfl)
theorem dJ15_rotateRight_40 : decode cJ15_rotateRight 40 = .ok (.aload_n 1, 1) := dk_43 (dk_at dksJ15_rotateRight_1 16 rfl rfl)
theorem dJ15_rotateRight_41 : decode cJ15_rotateRight 41 = .ok (.getfield 124, 3) := dk_180 0 124 (dk_at dksJ15_rotateRight_1 17 rfl rfl)
theorem dJ15_rotateRight_44 : decode cJ15_rotateRight 44 = .ok (.ifnonnull 11, 3) := dk_199 0 11 (dk_at dksJ15_rotateRight_1 20 rfl rfl)
theorem dJ15_rotateRight_47 : decode cJ15_rotateRight 47 = .ok (.aload_n 0, 1) := dk_42 (dk_at dksJ15_rotateRight_1 23 rfl rfl)
theorem dJ15_rotateRight_48 : decode cJ15_rotateRight 48 = .ok (.aload_n 2, 1) := dk_44 (dk_at dksJ15_rotateRight_2 0 rfl rfl)
theorem dJ15_rotateRight_49 : decode cJ15_rotateRight 49 = .ok (.putfield 101, 3) := dk_181 0 101 (dk_at dksJ15_rotateRight_2 1 rfl rfl)
theorem dJ15_rotateRight_52 : decode cJ15_rotateRight 52 = .ok (.goto 33, 3) := dk_167 0 33 (dk_at dksJ15_rotateRight_2 4 rfl rfl)
theorem dJ15_rotateRight_55 : decode cJ15_rotateRight 55 = .ok (.aload_n 1, 1) := dk_43 (dk_at dksJ15_rotateRight_2 7 rfl rfl)
theorem dJ15_rotateRight_56 : decode cJ15_rotateRight 56 = .ok (.getfield 124, 3) := dk_180 0 124 (dk_at dksJ15_rotateRight_2 8 rfl rfl)
theorem dJ15_rotateRight_59 : decode cJ15_rotateRight 59 = .ok (.getfield 114, 3) := dk_180 0 114 (dk_at dksJ15_rotateRight_2 11 rfl rfl)
theorem dJ15_rotateRight_62 : decode cJ15_rotateRight 62 = .ok (.aload_n 1, 1) := dk_43 (dk_at dksJ15_rotateRight_2 14 rfl rfl)
theorem dJ15_rotateRight_63 : decode cJ15_rotateRight 63 = .ok (.if_acmp .ne 14, 3) := dk_166 0 14 (dk_at dksJ15_rotateRight_2 15 rfl rfl)
theorem dJ15_rotateRight_66 : decode cJ15_rotateRight 66 = .ok (.aload_n 1, 1) := dk_43 (dk_at dksJ15_rotateRight_2 18 rfl rfl)
theorem dJ15_rotateRight_67 : decode cJ15_rotateRight 67 = .ok (.getfield 124, 3) := dk_180 0 124 (dk_at dksJ15_rotateRight_2 19 rfl rfl)
theorem dJ15_rotateRight_70 : decode cJ15_rotateRight 70 = .ok (.aload_n 2, 1) := dk_44 (dk_at dksJ15_rotateRight_2 22 rfl rfl)
theorem dJ15_rotateRight_71 : decode cJ15_rotateRight 71 = .ok (.putfield 114, 3) := dk_181 0 114 (dk_at dksJ15_rotateRight_3 0 rfl rfl)
theorem dJ15_rotateRight_74 : decode cJ15_rotateRight 74 = .ok (.goto 11, 3) := dk_167 0 11 (dk_at dksJ15_rotateRight_3 3 rfl rfl)
theorem dJ15_rotateRight_77 : decode cJ15_rotateRight 77 = .ok (.aload_n 1, 1) := dk_43 (dk_at dksJ15_rotateRight_3 6 rfl rfl)
theorem dJ15_rotateRight_78 : decode cJ15_rotateRight 78 = .ok (.getfield 124, 3) := dk_180 0 124 (dk_at dksJ15_rotateRight_3 7 rfl rfl)
theorem dJ15_rotateRight_81 : decode cJ15_rotateRight 81 = .ok (.aload_n 2, 1) := dk_44 (dk_at dksJ15_rotateRight_3 10 rfl rfl)
theorem dJ15_rotateRight_82 : decode cJ15_rotateRight 82 = .ok (.putfield 111, 3) := dk_181 0 111 (dk_at dksJ15_rotateRight_3 11 rfl rfl)
theorem dJ15_rotateRight_85 : decode cJ15_rotateRight 85 = .ok (.aload_n 2, 1) := dk_44 (dk_at dksJ15_rotateRight_3 14 rfl rfl)
theorem dJ15_rotateRight_86 : decode cJ15_rotateRight 86 = .ok (.aload_n 1, 1) := dk_43 (dk_at dksJ15_rotateRight_3 15 rfl rfl)
theorem dJ15_rotateRight_87 : decode cJ15_rotateRight 87 = .ok (.putfield 114, 3) := dk_181 0 114 (dk_at dksJ15_rotateRight_3 16 rfl rfl)
theorem dJ15_rotateRight_90 : decode cJ15_rotateRight 90 = .ok (.aload_n 1, 1) := dk_43 (dk_at dksJ15_rotateRight_3 19 rfl rfl)
theorem dJ15_rotateRight_91 : decode cJ15_rotateRight 91 = .ok (.aload_n 2, 1) := dk_44 (dk_at dksJ15_rotateRight_3 20 rfl rfl)
theorem dJ15_rotateRight_92 : decode cJ15_rotateRight 92 = .ok (.putfield 124, 3) := dk_181 0 124 (dk_at dksJ15_rotateRight_3 21 rfl rfl)
theorem dJ15_rotateRight_95 : decode cJ15_rotateRight 95 = .ok (.return_, 1) := dk_177 (dk_at dksJ15_rotateRight_4 0 rfl rfl)
abbrev cJ15_firstKey : ByteArray := prog_51_method_10_code
def yJ15_firstKey : MethodName := ⟨RJ15, "firstKey", "()Ljava/lang/Object;"⟩
def dkwJ15_firstKey_0 : List UInt8 := [42, 182, 0, 54, 184, 0, 72, 176]
abbrev dktJ15_firstKey_0 : List UInt8 := dkwJ15_firstKey_0 ++ []
theorem dksJ15_firstKey_0 : cJ15_firstKey.data.toList.drop 0 = dktJ15_firstKey_0 := by decide +kernel
theorem dJ15_firstKey_0 : decode cJ15_firstKey 0 = .ok (.aload_n 0, 1) := dk_42 (dk_at dksJ15_firstKey_0 0 rfl rfl)
theorem dJ15_firstKey_1 : decode cJ15_firstKey 1 = .ok (.invokevirtual 54, 3) := dk_182 0 54 (dk_at dksJ15_firstKey_0 1 rfl rfl)
theorem dJ15_firstKey_4 : decode cJ15_firstKey 4 = .ok (.invokestatic 72, 3) := dk_184 0 72 (dk_at dksJ15_firstKey_0 4 rfl rfl)
theorem dJ15_firstKey_7 : decode cJ15_firstKey 7 = .ok (.areturn, 1) := dk_176 (dk_at dksJ15_firstKey_0 7 rfl rfl)
abbrev cJ15_getFirstEntry : ByteArray := prog_51_method_72_code
def yJ15_getFirstEntry : MethodName := ⟨RJ15, "getFirstEntry", "()Ljava/util/TreeMap$Entry;"⟩
def dkwJ15_getFirstEntry_1 : List UInt8 := [43, 176]
abbrev dktJ15_getFirstEntry_1 : List UInt8 := dkwJ15_getFirstEntry_1 ++ []
def dkwJ15_getFirstEntry_0 : List UInt8 := [42, 180, 0, 101, 76, 43, 198, 0, 18, 43, 180, 0, 111, 198, 0, 11, 43, 180, 0, 111, 76, 167, 255, 244]
abbrev dktJ15_getFirstEntry_0 : List UInt8 := dkwJ15_getFirstEntry_0 ++ dktJ15_getFirstEntry_1
theorem dksJ15_getFirstEntry_0 : cJ15_getFirstEntry.data.toList.drop 0 = dktJ15_getFirstEntry_0 := by decide +kernel
theorem dksJ15_getFirstEntry_1 : cJ15_getFirstEntry.data.toList.drop 24 = dktJ15_getFirstEntry_1 := dk_seg dksJ15_getFirstEntry_0 24 rfl rfl
theorem dJ15_getFirstEntry_0 : decode cJ15_getFirstEntry 0 = .ok (.aload_n 0, 1) := dk_42 (dk_at dksJ15_getFirstEntry_0 0 rfl rfl)
theorem dJ15_getFirstEntry_1 : decode cJ15_getFirstEntry 1 = .ok (.getfield 101, 3) := dk_180 0 101 (dk_at dksJ15_getFirstEntry_0 1 rfl rfl)
theorem dJ15_getFirstEntry_4 : decode cJ15_getFirstEntry 4 = .ok (.astore_n 1, 1) := dk_76 (dk_at dksJ15_getFirstEntry_0 4 rfl rfl)
theorem dJ15_getFirstEntry_5 : decode cJ15_getFirstEntry 5 = .ok (.aload_n 1, 1) := dk_43 (dk_at dksJ15_getFirstEntry_0 5 rfl rfl)
theorem dJ15_getFirstEntry_6 : decode cJ15_getFirstEntry 6 = .ok (.ifnull 18, 3) := dk_198 0 18 (dk_at dksJ15_getFirstEntry_0 6 rfl rfl)
theorem dJ15_getFirstEntry_9 : decode cJ15_getFirstEntry 9 = .ok (.aload_n 1, 1) := dk_43 (dk_at dksJ15_getFirstEntry_0 9 rfl rfl)
theorem dJ15_getFirstEntry_10 : decode cJ15_getFirstEntry 10 = .ok (.getfield 111, 3) := dk_180 0 111 (dk_at dksJ15_getFirstEntry_0 10 rfl rfl)
theorem dJ15_getFirstEntry_13 : decode cJ15_getFirstEntry 13 = .ok (.ifnull 11, 3) := dk_198 0 11 (dk_at dksJ15_getFirstEntry_0 13 rfl rfl)
theorem dJ15_getFirstEntry_16 : decode cJ15_getFirstEntry 16 = .ok (.aload_n 1, 1) := dk_43 (dk_at dksJ15_getFirstEntry_0 16 rfl rfl)
theorem dJ15_getFirstEntry_17 : decode cJ15_getFirstEntry 17 = .ok (.getfield 111, 3) := dk_180 0 111 (dk_at dksJ15_getFirstEntry_0 17 rfl rfl)
theorem dJ15_getFirstEntry_20 : decode cJ15_getFirstEntry 20 = .ok (.astore_n 1, 1) := dk_76 (dk_at dksJ15_getFirstEntry_0 20 rfl rfl)
theorem dJ15_getFirstEntry_21 : decode cJ15_getFirstEntry 21 = .ok (.goto (-12), 3) := dk_167 255 244 (dk_at dksJ15_getFirstEntry_0 21 rfl rfl)
theorem dJ15_getFirstEntry_24 : decode cJ15_getFirstEntry 24 = .ok (.aload_n 1, 1) := dk_43 (dk_at dksJ15_getFirstEntry_1 0 rfl rfl)
theorem dJ15_getFirstEntry_25 : decode cJ15_getFirstEntry 25 = .ok (.areturn, 1) := dk_176 (dk_at dksJ15_getFirstEntry_1 1 rfl rfl)
abbrev cJ15_key : ByteArray := prog_51_method_71_code
def yJ15_key : MethodName := ⟨RJ15, "key", "(Ljava/util/TreeMap$Entry;)Ljava/lang/Object;"⟩
def dkwJ15_key_0 : List UInt8 := [42, 199, 0, 11, 187, 1, 31, 89, 183, 1, 33, 191, 42, 180, 0, 105, 176]
abbrev dktJ15_key_0 : List UInt8 := dkwJ15_key_0 ++ []
theorem dksJ15_key_0 : cJ15_key.data.toList.drop 0 = dktJ15_key_0 := by decide +kernel
theorem dJ15_key_0 : decode cJ15_key 0 = .ok (.aload_n 0, 1) := dk_42 (dk_at dksJ15_key_0 0 rfl rfl)
theorem dJ15_key_1 : decode cJ15_key 1 = .ok (.ifnonnull 11, 3) := dk_199 0 11 (dk_at dksJ15_key_0 1 rfl rfl)
theorem dJ15_key_4 : decode cJ15_key 4 = .ok (.new 287, 3) := dk_187 1 31 (dk_at dksJ15_key_0 4 rfl rfl)
theorem dJ15_key_7 : decode cJ15_key 7 = .ok (.dup, 1) := dk_89 (dk_at dksJ15_key_0 7 rfl rfl)
theorem dJ15_key_8 : decode cJ15_key 8 = .ok (.invokespecial 289, 3) := dk_183 1 33 (dk_at dksJ15_key_0 8 rfl rfl)
theorem dJ15_key_11 : decode cJ15_key 11 = .ok (.athrow, 1) := dk_191 (dk_at dksJ15_key_0 11 rfl rfl)
theorem dJ15_key_12 : decode cJ15_key 12 = .ok (.aload_n 0, 1) := dk_42 (dk_at dksJ15_key_0 12 rfl rfl)
theorem dJ15_key_13 : decode cJ15_key 13 = .ok (.getfield 105, 3) := dk_180 0 105 (dk_at dksJ15_key_0 13 rfl rfl)
theorem dJ15_key_16 : decode cJ15_key 16 = .ok (.areturn, 1) := dk_176 (dk_at dksJ15_key_0 16 rfl rfl)
abbrev cJ15_higherKey : ByteArray := prog_51_method_48_code
def yJ15_higherKey : MethodName := ⟨RJ15, "higherKey", "(Ljava/lang/Object;)Ljava/lang/Object;"⟩
def dkwJ15_higherKey_0 : List UInt8 := [42, 43, 182, 0, 216, 184, 0, 207, 176]
abbrev dktJ15_higherKey_0 : List UInt8 := dkwJ15_higherKey_0 ++ []
theorem dksJ15_higherKey_0 : cJ15_higherKey.data.toList.drop 0 = dktJ15_higherKey_0 := by decide +kernel
theorem dJ15_higherKey_0 : decode cJ15_higherKey 0 = .ok (.aload_n 0, 1) := dk_42 (dk_at dksJ15_higherKey_0 0 rfl rfl)
theorem dJ15_higherKey_1 : decode cJ15_higherKey 1 = .ok (.aload_n 1, 1) := dk_43 (dk_at dksJ15_higherKey_0 1 rfl rfl)
theorem dJ15_higherKey_2 : decode cJ15_higherKey 2 = .ok (.invokevirtual 216, 3) := dk_182 0 216 (dk_at dksJ15_higherKey_0 2 rfl rfl)
theorem dJ15_higherKey_5 : decode cJ15_higherKey 5 = .ok (.invokestatic 207, 3) := dk_184 0 207 (dk_at dksJ15_higherKey_0 5 rfl rfl)
theorem dJ15_higherKey_8 : decode cJ15_higherKey 8 = .ok (.areturn, 1) := dk_176 (dk_at dksJ15_higherKey_0 8 rfl rfl)
abbrev cJ15_getHigherEntry : ByteArray := prog_51_method_19_code
def yJ15_getHigherEntry : MethodName := ⟨RJ15, "getHigherEntry", "(Ljava/lang/Object;)Ljava/util/TreeMap$Entry;"⟩
def dkwJ15_getHigherEntry_4 : List UInt8 := [176, 167, 255, 165, 1, 176]
abbrev dktJ15_getHigherEntry_4 : List UInt8 := dkwJ15_getHigherEntry_4 ++ []
def dkwJ15_getHigherEntry_3 : List UInt8 := [25, 4, 180, 0, 114, 166, 0, 17, 25, 4, 58, 5, 25, 4, 180, 0, 124, 58, 4, 167, 255, 230, 25, 4]
abbrev dktJ15_getHigherEntry_3 : List UInt8 := dkwJ15_getHigherEntry_3 ++ dktJ15_getHigherEntry_4
def dkwJ15_getHigherEntry_2 : List UInt8 := [180, 0, 114, 77, 167, 0, 44, 44, 180, 0, 124, 58, 4, 44, 58, 5, 25, 4, 198, 0, 27, 25, 5]
abbrev dktJ15_getHigherEntry_2 : List UInt8 := dkwJ15_getHigherEntry_2 ++ dktJ15_getHigherEntry_3
def dkwJ15_getHigherEntry_1 : List UInt8 := [180, 0, 111, 198, 0, 11, 44, 180, 0, 111, 77, 167, 0, 61, 44, 176, 44, 180, 0, 114, 198, 0, 11, 44]
abbrev dktJ15_getHigherEntry_1 : List UInt8 := dkwJ15_getHigherEntry_1 ++ dktJ15_getHigherEntry_2
def dkwJ15_getHigherEntry_0 : List UInt8 := [42, 180, 0, 101, 77, 44, 198, 0, 93, 42, 43, 44, 180, 0, 105, 182, 0, 123, 62, 29, 156, 0, 20, 44]
abbrev dktJ15_getHigherEntry_0 : List UInt8 := dkwJ15_getHigherEntry_0 ++ dktJ15_getHigherEntry_1
theorem dksJ15_getHigherEntry_0 : cJ15_getHigherEntry.data.toList.drop 0 = dktJ15_getHigherEntry_0 := by decide +kernel
theorem dksJ15_getHigherEntry_1 : cJ15_getHigherEntry.data.toList.drop 24 = dktJ15_getHigherEntry_1 := dk_seg dksJ15_getHigherEntry_0 24 rfl rfl
theorem dksJ15_getHigherEntry_2 : cJ15_getHigherEntry.data.toList.drop 48 = dktJ15_getHigherEntry_2 := dk_seg dksJ15_getHigherEntry_1 24 rfl rfl
theorem dksJ15_getHigherEntry_3 : cJ15_getHigherEntry.data.toList.drop 71 = dktJ15_getHigherEntry_3 := dk_seg dksJ15_getHigherEntry_2 23 rfl rfl
theorem dksJ15_getHigherEntry_4 : cJ15_getHigherEntry.data.toList.drop 95 = dktJ15_getHigherEntry_4 := dk_seg dksJ15_getHigherEntry_3 24 rfl rfl
theorem dJ15_getHigherEntry_0 : decode cJ15_getHigherEntry 0 = .ok (.aload_n 0, 1) := dk_42 (dk_at dksJ15_getHigherEntry_0 0 rfl rfl)
theorem dJ15_getHigherEntry_1 : decode cJ15_getHigherEntry 1 = .ok (.getfield 101, 3) := dk_180 0 101 (dk_at dksJ15_getHigherEntry_0 1 rfl rfl)
theorem dJ15_getHigherEntry_4 : decode cJ15_getHigherEntry 4 = .ok (.astore_n 2, 1) := dk_77 (dk_at dksJ15_getHigherEntry_0 4 rfl rfl)
theorem dJ15_getHigherEntry_5 : decode cJ15_getHigherEntry 5 = .ok (.aload_n 2, 1) := dk_44 (dk_at dksJ15_getHigherEntry_0 5 rfl rfl)
theorem dJ15_getHigherEntry_6 : decode cJ15_getHigherEntry 6 = .ok (.ifnull 93, 3) := dk_198 0 93 (dk_at dksJ15_getHigherEntry_0 6 rfl rfl)
theorem dJ15_getHigherEntry_9 : decode cJ15_getHigherEntry 9 = .ok (.aload_n 0, 1) := dk_42 (dk_at dksJ15_getHigherEntry_0 9 rfl rfl)
theorem dJ15_getHigherEntry_10 : decode cJ15_getHigherEntry 10 = .ok (.aload_n 1, 1) := dk_43 (dk_at dksJ15_getHigherEntry_0 10 rfl rfl)
theorem dJ15_getHigherEntry_11 : decode cJ15_getHigherEntry 11 = .ok (.aload_n 2, 1) := dk_44 (dk_at dksJ15_getHigherEntry_0 11 rfl rfl)
theorem dJ15_getHigherEntry_12 : decode cJ15_getHigherEntry 12 = .ok (.getfield 105, 3) := dk_180 0 105 (dk_at dksJ15_getHigherEntry_0 12 rfl rfl)
theorem dJ15_getHigherEntry_15 : decode cJ15_getHigherEntry 15 = .ok (.invokevirtual 123, 3) := dk_182 0 123 (dk_at dksJ15_getHigherEntry_0 15 rfl rfl)
theorem dJ15_getHigherEntry_18 : decode cJ15_getHigherEntry 18 = .ok (.istore_n 3, 1) := dk_62 (dk_at dksJ15_getHigherEntry_0 18 rfl rfl)
theorem dJ15_getHigherEntry_19 : decode cJ15_getHigherEntry 19 = .ok (.iload_n 3, 1) := dk_29 (dk_at dksJ15_getHigherEntry_0 19 rfl rfl)
theorem dJ15_getHigherEntry_20 : decode cJ15_getHigherEntry 20 = .ok (.ifCond .ge 20, 3) := dk_156 0 20 (dk_at dksJ15_getHigherEntry_0 20 rfl rfl)
theorem dJ15_getHigherEntry_23 : decode cJ15_getHigherEntry 23 = .ok (.aload_n 2, 1) := dk_44 (dk_at dksJ15_getHigherEntry_0 23 rfl rfl)
theorem dJ15_getHigherEntry_24 : decode cJ15_getHigherEntry 24 = .ok (.getfield 111, 3) := dk_180 0 111 (dk_at dksJ15_getHigherEntry_1 0 rfl rfl)
theorem dJ15_getHigherEntry_27 : decode cJ15_getHigherEntry 27 = .ok (.ifnull 11, 3) := dk_198 0 11 (dk_at dksJ15_getHigherEntry_1 3 rfl rfl)
theorem dJ15_getHigherEntry_30 : decode cJ15_getHigherEntry 30 = .ok (.aload_n 2, 1) := dk_44 (dk_at dksJ15_getHigherEntry_1 6 rfl rfl)
theorem dJ15_getHigherEntry_31 : decode cJ15_getHigherEntry 31 = .ok (.getfield 111, 3) := dk_180 0 111 (dk_at dksJ15_getHigherEntry_1 7 rfl rfl)
theorem dJ15_getHigherEntry_34 : decode cJ15_getHigherEntry 34 = .ok (.astore_n 2, 1) := dk_77 (dk_at dksJ15_getHigherEntry_1 10 rfl rfl)
theorem dJ15_getHigherEntry_35 : decode cJ15_getHigherEntry 35 = .ok (.goto 61, 3) := dk_167 0 61 (dk_at dksJ15_getHigherEntry_1 11 rfl rfl)
theorem dJ15_getHigherEntry_38 : decode cJ15_getHigherEntry 38 = .ok (.aload_n 2, 1) := dk_44 (dk_at dksJ15_getHigherEntry_1 14 rfl rfl)
theorem dJ15_getHigherEntry_39 : decode cJ15_getHigherEntry 39 = .ok (.areturn, 1) := dk_176 (dk_at dksJ15_getHigherEntry_1 15 rfl rfl)
theorem dJ15_getHigherEntry_40 : decode cJ15_getHigherEntry 40 = .ok (.aload_n 2, 1) := dk_44 (dk_at dksJ15_getHigherEntry_1 16 rfl rfl)
theorem dJ15_getHigherEntry_41 : decode cJ15_getHigherEntry 41 = .ok (.getfield 114, 3) := dk_180 0 114 (dk_at dksJ15_getHigherEntry_1 17 rfl rfl)
theorem dJ15_getHigherEntry_44 : decode cJ15_getHigherEntry 44 = .ok (.ifnull 11, 3) := dk_198 0 11 (dk_at dksJ15_getHigherEntry_1 20 rfl rfl)
theorem dJ15_getHigherEntry_47 : decode cJ15_getHigherEntry 47 = .ok (.aload_n 2, 1) := dk_44 (dk_at dksJ15_getHigherEntry_1 23 rfl rfl)
theorem dJ15_getHigherEntry_48 : decode cJ15_getHigherEntry 48 = .ok (.getfield 114, 3) := dk_180 0 114 (dk_at dksJ15_getHigherEntry_2 0 rfl rfl)
theorem dJ15_getHigherEntry_51 : decode cJ15_getHigherEntry 51 = .ok (.astore_n 2, 1) := dk_77 (dk_at dksJ15_getHigherEntry_2 3 rfl rfl)
theorem dJ15_getHigherEntry_52 : decode cJ15_getHigherEntry 52 = .ok (.goto 44, 3) := dk_167 0 44 (dk_at dksJ15_getHigherEntry_2 4 rfl rfl)
theorem dJ15_getHigherEntry_55 : decode cJ15_getHigherEntry 55 = .ok (.aload_n 2, 1) := dk_44 (dk_at dksJ15_getHigherEntry_2 7 rfl rfl)
theorem dJ15_getHigherEntry_56 : decode cJ15_getHigherEntry 56 = .ok (.getfield 124, 3) := dk_180 0 124 (dk_at dksJ15_getHigherEntry_2 8 rfl rfl)
theorem dJ15_getHigherEntry_59 : decode cJ15_getHigherEntry 59 = .ok (.astore 4, 2) := dk_58 4 (dk_at dksJ15_getHigherEntry_2 11 rfl rfl)
theorem dJ15_getHigherEntry_61 : decode cJ15_getHigherEntry 61 = .ok (.aload_n 2, 1) := dk_44 (dk_at dksJ15_getHigherEntry_2 13 rfl rfl)
theorem dJ15_getHigherEntry_62 : decode cJ15_getHigherEntry 62 = .ok (.astore 5, 2) := dk_58 5 (dk_at dksJ15_getHigherEntry_2 14 rfl rfl)
theorem dJ15_getHigherEntry_64 : decode cJ15_getHigherEntry 64 = .ok (.aload 4, 2) := dk_25 4 (dk_at dksJ15_getHigherEntry_2 16 rfl rfl)
theorem dJ15_getHigherEntry_66 : decode cJ15_getHigherEntry 66 = .ok (.ifnull 27, 3) := dk_198 0 27 (dk_at dksJ15_getHigherEntry_2 18 rfl rfl)
theorem dJ15_getHigherEntry_69 : decode cJ15_getHigherEntry 69 = .ok (.aload 5, 2) := dk_25 5 (dk_at dksJ15_getHigherEntry_2 21 rfl rfl)
theorem dJ15_getHigherEntry_71 : decode cJ15_getHigherEntry 71 = .ok (.aload 4, 2) := dk_25 4 (dk_at dksJ15_getHigherEntry_3 0 rfl rfl)
theorem dJ15_getHigherEntry_73 : decode cJ15_getHigherEntry 73 = .ok (.getfield 114, 3) := dk_180 0 114 (dk_at dksJ15_getHigherEntry_3 2 rfl rfl)
theorem dJ15_getHigherEntry_76 : decode cJ15_getHigherEntry 76 = .ok (.if_acmp .ne 17, 3) := dk_166 0 17 (dk_at dksJ15_getHigherEntry_3 5 rfl rfl)
theorem dJ15_getHigherEntry_79 : decode cJ15_getHigherEntry 79 = .ok (.aload 4, 2) := dk_25 4 (dk_at dksJ15_getHigherEntry_3 8 rfl rfl)
theorem dJ15_getHigherEntry_81 : decode cJ15_getHigherEntry 81 = .ok (.astore 5, 2) := dk_58 5 (dk_at dksJ15_getHigherEntry_3 10 rfl rfl)
theorem dJ15_getHigherEntry_83 : decode cJ15_getHigherEntry 83 = .ok (.aload 4, 2) := dk_25 4 (dk_at dksJ15_getHigherEntry_3 12 rfl rfl)
theorem dJ15_getHigherEntry_85 : decode cJ15_getHigherEntry 85 = .ok (.getfield 124, 3) := dk_180 0 124 (dk_at dksJ15_getHigherEntry_3 14 rfl rfl)
theorem dJ15_getHigherEntry_88 : decode cJ15_getHigherEntry 88 = .ok (.astore 4, 2) := dk_58 4 (dk_at dksJ15_getHigherEntry_3 17 rfl rfl)
theorem dJ15_getHigherEntry_90 : decode cJ15_getHigherEntry 90 = .ok (.goto (-26), 3) := dk_167 255 230 (dk_at dksJ15_getHigherEntry_3 19 rfl rfl)
theorem dJ15_getHigherEntry_93 : decode cJ15_getHigherEntry 93 = .ok (.aload 4, 2) := dk_25 4 (dk_at dksJ15_getHigherEntry_3 22 rfl rfl)
theorem dJ15_getHigherEntry_95 : decode cJ15_getHigherEntry 95 = .ok (.areturn, 1) := dk_176 (dk_at dksJ15_getHigherEntry_4 0 rfl rfl)
theorem dJ15_getHigherEntry_96 : decode cJ15_getHigherEntry 96 = .ok (.goto (-91), 3) := dk_167 255 165 (dk_at dksJ15_getHigherEntry_4 1 rfl rfl)
theorem dJ15_getHigherEntry_99 : decode cJ15_getHigherEntry 99 = .ok (.aconst_null, 1) := dk_1 (dk_at dksJ15_getHigherEntry_4 4 rfl rfl)
theorem dJ15_getHigherEntry_100 : decode cJ15_getHigherEntry 100 = .ok (.areturn, 1) := dk_176 (dk_at dksJ15_getHigherEntry_4 5 rfl rfl)
abbrev cJ15_keyOrNull : ByteArray := prog_51_method_70_code
def yJ15_keyOrNull : MethodName := ⟨RJ15, "keyOrNull", "(Ljava/util/TreeMap$Entry;)Ljava/lang/Object;"⟩
def dkwJ15_keyOrNull_0 : List UInt8 := [42, 199, 0, 7, 1, 167, 0, 7, 42, 180, 0, 105, 176]
abbrev dktJ15_keyOrNull_0 : List UInt8 := dkwJ15_keyOrNull_0 ++ []
theorem dksJ15_keyOrNull_0 : cJ15_keyOrNull.data.toList.drop 0 = dktJ15_keyOrNull_0 := by decide +kernel
theorem dJ15_keyOrNull_0 : decode cJ15_keyOrNull 0 = .ok (.aload_n 0, 1) := dk_42 (dk_at dksJ15_keyOrNull_0 0 rfl rfl)
theorem dJ15_keyOrNull_1 : decode cJ15_keyOrNull 1 = .ok (.ifnonnull 7, 3) := dk_199 0 7 (dk_at dksJ15_keyOrNull_0 1 rfl rfl)
theorem dJ15_keyOrNull_4 : decode cJ15_keyOrNull 4 = .ok (.aconst_null, 1) := dk_1 (dk_at dksJ15_keyOrNull_0 4 rfl rfl)
theorem dJ15_keyOrNull_5 : decode cJ15_keyOrNull 5 = .ok (.goto 7, 3) := dk_167 0 7 (dk_at dksJ15_keyOrNull_0 5 rfl rfl)
theorem dJ15_keyOrNull_8 : decode cJ15_keyOrNull 8 = .ok (.aload_n 0, 1) := dk_42 (dk_at dksJ15_keyOrNull_0 8 rfl rfl)
theorem dJ15_keyOrNull_9 : decode cJ15_keyOrNull 9 = .ok (.getfield 105, 3) := dk_180 0 105 (dk_at dksJ15_keyOrNull_0 9 rfl rfl)
theorem dJ15_keyOrNull_12 : decode cJ15_keyOrNull 12 = .ok (.areturn, 1) := dk_176 (dk_at dksJ15_keyOrNull_0 12 rfl rfl)
theorem q152 : (Jvm.Cond.initialized "java/util/TreeMap") ∈ lw_all := lw_g (lw_at lw_m1 26 rfl) rfl
theorem q604 : (Jvm.Cond.selects "java/util/TreeMap" ({ cls := "java/lang/Object", name := "getClass", desc := "()Ljava/lang/Class;" } : Jvm.MethodName) ({ cls := "java/lang/Object", name := "getClass", desc := "()Ljava/lang/Class;" } : Jvm.MethodName)) ∈ lw_all := lw_g (lw_at lw_m2 238 rfl) rfl
theorem q684 : (Jvm.Cond.castable "java/util/TreeMap" "java/util/NavigableMap") ∈ lw_tbl := lw_at lw_m3 78 rfl
theorem q685 : (Jvm.Cond.selects "java/util/TreeMap" ({ cls := "java/util/Map", name := "size", desc := "()I" } : Jvm.MethodName) ({ cls := "java/util/TreeMap", name := "size", desc := "()I" } : Jvm.MethodName)) ∈ lw_all := lw_g (lw_at lw_m3 79 rfl) rfl
theorem q686 : (Jvm.Cond.unhidden "java/util/TreeMap" "size" "()I") ∈ lw_tbl := lw_at lw_m3 80 rfl
theorem q687 : (Jvm.Cond.instanceMethod ({ cls := "java/util/TreeMap", name := "size", desc := "()I" } : Jvm.MethodName)) ∈ lw_all := lw_g (lw_at lw_m3 81 rfl) rfl
theorem q688 : (Jvm.Cond.publicMethod ({ cls := "java/util/TreeMap", name := "size", desc := "()I" } : Jvm.MethodName)) ∈ lw_tbl := lw_at lw_m3 82 rfl
theorem q689 : (Jvm.Cond.code ({ cls := "java/util/TreeMap", name := "size", desc := "()I" } : Jvm.MethodName) prog_51_method_5_code (1 : Nat) (Option.some Jvm.ClassFile.FieldType.int)) ∈ lw_all := lw_g (lw_at lw_m3 83 rfl) rfl
theorem q827 : (Jvm.Cond.instantiable "java/util/TreeMap" (9 : Nat)) ∈ lw_all := lw_g (lw_at lw_m3 221 rfl) rfl
theorem q829 : (Jvm.Cond.instanceMethod ({ cls := "java/util/TreeMap", name := "<init>", desc := "()V" } : Jvm.MethodName)) ∈ lw_all := lw_g (lw_at lw_m3 223 rfl) rfl
theorem q830 : (Jvm.Cond.code ({ cls := "java/util/TreeMap", name := "<init>", desc := "()V" } : Jvm.MethodName) prog_51_method_1_code (1 : Nat) (Option.none : Option Jvm.ClassFile.FieldType)) ∈ lw_all := lw_g (lw_at lw_m3 224 rfl) rfl
theorem q831 : (Jvm.Cond.methodLink "java/util/TreeMap" (1 : Nat) ({ cls := "java/util/AbstractMap", name := "<init>", desc := "()V" } : Jvm.MethodName)) ∈ lw_all := lw_g (lw_at lw_m3 225 rfl) rfl
theorem q835 : (Jvm.Cond.fieldLink "java/util/TreeMap" (16 : Nat) "java/util/TreeMap" "comparator" "Ljava/util/Comparator;") ∈ lw_all := lw_g (lw_at lw_m3 229 rfl) rfl
theorem q836 : (Jvm.Cond.fieldLink "java/util/TreeMap" (101 : Nat) "java/util/TreeMap" "root" "Ljava/util/TreeMap$Entry;") ∈ lw_all := lw_g (lw_at lw_m3 230 rfl) rfl
theorem q837 : (Jvm.Cond.fieldLink "java/util/TreeMap" (7 : Nat) "java/util/TreeMap" "size" "I") ∈ lw_all := lw_g (lw_at lw_m3 231 rfl) rfl
theorem q838 : (Jvm.Cond.fieldLink "java/util/TreeMap" (13 : Nat) "java/util/TreeMap" "modCount" "I") ∈ lw_all := lw_g (lw_at lw_m3 232 rfl) rfl
theorem q839 : (Jvm.Cond.laysFinal "java/util/TreeMap" "java/util/TreeMap" "comparator" "Ljava/util/Comparator;") ∈ lw_all := lw_g (lw_at lw_m3 233 rfl) rfl
theorem q840 : (Jvm.Cond.soleField "java/util/TreeMap" "comparator") ∈ lw_all := lw_g (lw_at lw_m3 234 rfl) rfl
theorem q841 : (Jvm.Cond.lays "java/util/TreeMap" "java/util/TreeMap" "root" "Ljava/util/TreeMap$Entry;") ∈ lw_all := lw_g (lw_at lw_m3 235 rfl) rfl
theorem q842 : (Jvm.Cond.soleField "java/util/TreeMap" "root") ∈ lw_all := lw_g (lw_at lw_m3 236 rfl) rfl
theorem q843 : (Jvm.Cond.lays "java/util/TreeMap" "java/util/TreeMap" "size" "I") ∈ lw_all := lw_g (lw_at lw_m3 237 rfl) rfl
theorem q844 : (Jvm.Cond.soleField "java/util/TreeMap" "size") ∈ lw_all := lw_g (lw_at lw_m3 238 rfl) rfl
theorem q845 : (Jvm.Cond.lays "java/util/TreeMap" "java/util/TreeMap" "modCount" "I") ∈ lw_all := lw_g (lw_at lw_m3 239 rfl) rfl
theorem q846 : (Jvm.Cond.soleField "java/util/TreeMap" "modCount") ∈ lw_all := lw_g (lw_at lw_m4 0 rfl) rfl
theorem q847 : (Jvm.Cond.lays "java/util/TreeMap" "java/util/TreeMap" "entrySet" "Ljava/util/TreeMap$EntrySet;") ∈ lw_all := lw_g (lw_at lw_m4 1 rfl) rfl
theorem q848 : (Jvm.Cond.soleField "java/util/TreeMap" "entrySet") ∈ lw_all := lw_g (lw_at lw_m4 2 rfl) rfl
theorem q849 : (Jvm.Cond.lays "java/util/TreeMap" "java/util/TreeMap" "navigableKeySet" "Ljava/util/TreeMap$KeySet;") ∈ lw_all := lw_g (lw_at lw_m4 3 rfl) rfl
theorem q850 : (Jvm.Cond.soleField "java/util/TreeMap" "navigableKeySet") ∈ lw_all := lw_g (lw_at lw_m4 4 rfl) rfl
theorem q851 : (Jvm.Cond.lays "java/util/TreeMap" "java/util/TreeMap" "descendingMap" "Ljava/util/NavigableMap;") ∈ lw_all := lw_g (lw_at lw_m4 5 rfl) rfl
theorem q852 : (Jvm.Cond.soleField "java/util/TreeMap" "descendingMap") ∈ lw_all := lw_g (lw_at lw_m4 6 rfl) rfl
theorem q853 : (Jvm.Cond.lays "java/util/TreeMap" "java/util/AbstractMap" "keySet" "Ljava/util/Set;") ∈ lw_all := lw_g (lw_at lw_m4 7 rfl) rfl
theorem q855 : (Jvm.Cond.lays "java/util/TreeMap" "java/util/AbstractMap" "values" "Ljava/util/Collection;") ∈ lw_all := lw_g (lw_at lw_m4 9 rfl) rfl
theorem q857 : (Jvm.Cond.superclass "java/util/TreeMap" "java/util/AbstractMap") ∈ lw_all := lw_g (lw_at lw_m4 11 rfl) rfl
theorem q1390 : (Jvm.Cond.selects "java/util/TreeMap" ({ cls := "java/util/Map", name := "clear", desc := "()V" } : Jvm.MethodName) ({ cls := "java/util/TreeMap", name := "clear", desc := "()V" } : Jvm.MethodName)) ∈ lw_all := lw_g (lw_at lw_m6 64 rfl) rfl
theorem q1391 : (Jvm.Cond.unhidden "java/util/TreeMap" "clear" "()V") ∈ lw_tbl := lw_at lw_m6 65 rfl
theorem q1392 : (Jvm.Cond.instanceMethod ({ cls := "java/util/TreeMap", name := "clear", desc := "()V" } : Jvm.MethodName)) ∈ lw_all := lw_g (lw_at lw_m6 66 rfl) rfl
theorem q1393 : (Jvm.Cond.publicMethod ({ cls := "java/util/TreeMap", name := "clear", desc := "()V" } : Jvm.MethodName)) ∈ lw_tbl := lw_at lw_m6 67 rfl
theorem q1394 : (Jvm.Cond.code ({ cls := "java/util/TreeMap", name := "clear", desc := "()V" } : Jvm.MethodName) prog_51_method_35_code (1 : Nat) (Option.none : Option Jvm.ClassFile.FieldType)) ∈ lw_all := lw_g (lw_at lw_m6 68 rfl) rfl
theorem q1403 : (Jvm.Cond.selects "java/util/TreeMap" ({ cls := "java/util/Map", name := "put", desc := "(Ljava/lang/Object;Ljava/lang/Object;)Ljava/lang/Object;" } : Jvm.MethodName) ({ cls := "java/util/TreeMap", name := "put", desc := "(Ljava/lang/Object;Ljava/lang/Object;)Ljava/lang/Object;" } : Jvm.MethodName)) ∈ lw_all := lw_g (lw_at lw_m6 77 rfl) rfl
theorem q1404 : (Jvm.Cond.unhidden "java/util/TreeMap" "put" "(Ljava/lang/Object;Ljava/lang/Object;)Ljava/lang/Object;") ∈ lw_tbl := lw_at lw_m6 78 rfl
theorem q1405 : (Jvm.Cond.instanceMethod ({ cls := "java/util/TreeMap", name := "put", desc := "(Ljava/lang/Object;Ljava/lang/Object;)Ljava/lang/Object;" } : Jvm.MethodName)) ∈ lw_all := lw_g (lw_at lw_m6 79 rfl) rfl
theorem q1406 : (Jvm.Cond.publicMethod ({ cls := "java/util/TreeMap", name := "put", desc := "(Ljava/lang/Object;Ljava/lang/Object;)Ljava/lang/Object;" } : Jvm.MethodName)) ∈ lw_tbl := lw_at lw_m6 80 rfl
theorem q1407 : (Jvm.Cond.code ({ cls := "java/util/TreeMap", name := "put", desc := "(Ljava/lang/Object;Ljava/lang/Object;)Ljava/lang/Object;" } : Jvm.MethodName) prog_51_method_21_code (3 : Nat) (Option.some (Jvm.ClassFile.FieldType.object "java/lang/Object"))) ∈ lw_all := lw_g (lw_at lw_m6 81 rfl) rfl
theorem q1408 : (Jvm.Cond.methodLink "java/util/TreeMap" (127 : Nat) ({ cls := "java/util/TreeMap", name := "put", desc := "(Ljava/lang/Object;Ljava/lang/Object;Z)Ljava/lang/Object;" } : Jvm.MethodName)) ∈ lw_all := lw_g (lw_at lw_m6 82 rfl) rfl
theorem q1409 : (Jvm.Cond.privateMethod ({ cls := "java/util/TreeMap", name := "put", desc := "(Ljava/lang/Object;Ljava/lang/Object;Z)Ljava/lang/Object;" } : Jvm.MethodName)) ∈ lw_tbl := lw_at lw_m6 83 rfl
theorem q1410 : (Jvm.Cond.instanceMethod ({ cls := "java/util/TreeMap", name := "put", desc := "(Ljava/lang/Object;Ljava/lang/Object;Z)Ljava/lang/Object;" } : Jvm.MethodName)) ∈ lw_all := lw_g (lw_at lw_m6 84 rfl) rfl
theorem q1411 : (Jvm.Cond.code ({ cls := "java/util/TreeMap", name := "put", desc := "(Ljava/lang/Object;Ljava/lang/Object;Z)Ljava/lang/Object;" } : Jvm.MethodName) prog_51_method_31_code (10 : Nat) (Option.some (Jvm.ClassFile.FieldType.object "java/lang/Object"))) ∈ lw_all := lw_g (lw_at lw_m6 85 rfl) rfl
theorem q1412 : (Jvm.Cond.methodLink "java/util/TreeMap" (135 : Nat) ({ cls := "java/util/TreeMap", name := "addEntryToEmptyMap", desc := "(Ljava/lang/Object;Ljava/lang/Object;)V" } : Jvm.MethodName)) ∈ lw_all := lw_g (lw_at lw_m6 86 rfl) rfl
theorem q1413 : (Jvm.Cond.privateMethod ({ cls := "java/util/TreeMap", name := "addEntryToEmptyMap", desc := "(Ljava/lang/Object;Ljava/lang/Object;)V" } : Jvm.MethodName)) ∈ lw_tbl := lw_at lw_m6 87 rfl
theorem q1414 : (Jvm.Cond.instanceMethod ({ cls := "java/util/TreeMap", name := "addEntryToEmptyMap", desc := "(Ljava/lang/Object;Ljava/lang/Object;)V" } : Jvm.MethodName)) ∈ lw_all := lw_g (lw_at lw_m6 88 rfl) rfl
theorem q1415 : (Jvm.Cond.code ({ cls := "java/util/TreeMap", name := "addEntryToEmptyMap", desc := "(Ljava/lang/Object;Ljava/lang/Object;)V" } : Jvm.MethodName) prog_51_method_30_code (3 : Nat) (Option.none : Option Jvm.ClassFile.FieldType)) ∈ lw_all := lw_g (lw_at lw_m6 89 rfl) rfl
theorem q1416 : (Jvm.Cond.methodLink "java/util/TreeMap" (123 : Nat) ({ cls := "java/util/TreeMap", name := "compare", desc := "(Ljava/lang/Object;Ljava/lang/Object;)I" } : Jvm.MethodName)) ∈ lw_all := lw_g (lw_at lw_m6 90 rfl) rfl
theorem q1417 : (Jvm.Cond.instanceMethod ({ cls := "java/util/TreeMap", name := "compare", desc := "(Ljava/lang/Object;Ljava/lang/Object;)I" } : Jvm.MethodName)) ∈ lw_all := lw_g (lw_at lw_m6 91 rfl) rfl
theorem q1418 : (Jvm.Cond.selects "java/util/TreeMap" ({ cls := "java/util/TreeMap", name := "compare", desc := "(Ljava/lang/Object;Ljava/lang/Object;)I" } : Jvm.MethodName) ({ cls := "java/util/TreeMap", name := "compare", desc := "(Ljava/lang/Object;Ljava/lang/Object;)I" } : Jvm.MethodName)) ∈ lw_all := lw_g (lw_at lw_m6 92 rfl) rfl
theorem q1419 : (Jvm.Cond.code ({ cls := "java/util/TreeMap", name := "compare", desc := "(Ljava/lang/Object;Ljava/lang/Object;)I" } : Jvm.MethodName) prog_51_method_67_code (3 : Nat) (Option.some Jvm.ClassFile.FieldType.int)) ∈ lw_all := lw_g (lw_at lw_m6 93 rfl) rfl
theorem q1420 : (Jvm.Cond.classLink "java/util/TreeMap" (99 : Nat) "java/lang/Comparable") ∈ lw_all := lw_g (lw_at lw_m6 94 rfl) rfl
theorem q1421 : (Jvm.Cond.interfaceEntry "java/util/TreeMap" (107 : Nat)) ∈ lw_tbl := lw_at lw_m6 95 rfl
theorem q1422 : (Jvm.Cond.methodLink "java/util/TreeMap" (107 : Nat) ({ cls := "java/lang/Comparable", name := "compareTo", desc := "(Ljava/lang/Object;)I" } : Jvm.MethodName)) ∈ lw_all := lw_g (lw_at lw_m6 96 rfl) rfl
theorem q1423 : (Jvm.Cond.interfaceEntry "java/util/TreeMap" (117 : Nat)) ∈ lw_tbl := lw_at lw_m6 97 rfl
theorem q1424 : (Jvm.Cond.methodLink "java/util/TreeMap" (117 : Nat) ({ cls := "java/util/Comparator", name := "compare", desc := "(Ljava/lang/Object;Ljava/lang/Object;)I" } : Jvm.MethodName)) ∈ lw_all := lw_g (lw_at lw_m6 98 rfl) rfl
theorem q1425 : (Jvm.Cond.classLink "java/util/TreeMap" (59 : Nat) "java/util/TreeMap$Entry") ∈ lw_all := lw_g (lw_at lw_m6 99 rfl) rfl
theorem q1427 : (Jvm.Cond.methodLink "java/util/TreeMap" (167 : Nat) ({ cls := "java/util/TreeMap$Entry", name := "<init>", desc := "(Ljava/lang/Object;Ljava/lang/Object;Ljava/util/TreeMap$Entry;)V" } : Jvm.MethodName)) ∈ lw_all := lw_g (lw_at lw_m6 101 rfl) rfl
theorem q1432 : (Jvm.Cond.fieldLink "java/util/TreeMap" (105 : Nat) "java/util/TreeMap$Entry" "key" "Ljava/lang/Object;") ∈ lw_all := lw_g (lw_at lw_m6 106 rfl) rfl
theorem q1434 : (Jvm.Cond.fieldLink "java/util/TreeMap" (58 : Nat) "java/util/TreeMap$Entry" "value" "Ljava/lang/Object;") ∈ lw_all := lw_g (lw_at lw_m6 108 rfl) rfl
theorem q1435 : (Jvm.Cond.fieldLink "java/util/TreeMap" (111 : Nat) "java/util/TreeMap$Entry" "left" "Ljava/util/TreeMap$Entry;") ∈ lw_all := lw_g (lw_at lw_m6 109 rfl) rfl
theorem q1436 : (Jvm.Cond.fieldLink "java/util/TreeMap" (114 : Nat) "java/util/TreeMap$Entry" "right" "Ljava/util/TreeMap$Entry;") ∈ lw_all := lw_g (lw_at lw_m6 110 rfl) rfl
theorem q1438 : (Jvm.Cond.fieldLink "java/util/TreeMap" (124 : Nat) "java/util/TreeMap$Entry" "parent" "Ljava/util/TreeMap$Entry;") ∈ lw_all := lw_g (lw_at lw_m6 112 rfl) rfl
theorem q1440 : (Jvm.Cond.fieldLink "java/util/TreeMap" (290 : Nat) "java/util/TreeMap$Entry" "color" "Z") ∈ lw_all := lw_g (lw_at lw_m6 114 rfl) rfl
theorem q1454 : (Jvm.Cond.methodLink "java/util/TreeMap" (95 : Nat) ({ cls := "java/util/Objects", name := "requireNonNull", desc := "(Ljava/lang/Object;)Ljava/lang/Object;" } : Jvm.MethodName)) ∈ lw_all := lw_g (lw_at lw_m6 128 rfl) rfl
theorem q1457 : (Jvm.Cond.methodLink "java/util/TreeMap" (139 : Nat) ({ cls := "java/util/TreeMap", name := "addEntry", desc := "(Ljava/lang/Object;Ljava/lang/Object;Ljava/util/TreeMap$Entry;Z)V" } : Jvm.MethodName)) ∈ lw_all := lw_g (lw_at lw_m6 131 rfl) rfl
theorem q1458 : (Jvm.Cond.privateMethod ({ cls := "java/util/TreeMap", name := "addEntry", desc := "(Ljava/lang/Object;Ljava/lang/Object;Ljava/util/TreeMap$Entry;Z)V" } : Jvm.MethodName)) ∈ lw_tbl := lw_at lw_m6 132 rfl
theorem q1459 : (Jvm.Cond.instanceMethod ({ cls := "java/util/TreeMap", name := "addEntry", desc := "(Ljava/lang/Object;Ljava/lang/Object;Ljava/util/TreeMap$Entry;Z)V" } : Jvm.MethodName)) ∈ lw_all := lw_g (lw_at lw_m6 133 rfl) rfl
theorem q1460 : (Jvm.Cond.code ({ cls := "java/util/TreeMap", name := "addEntry", desc := "(Ljava/lang/Object;Ljava/lang/Object;Ljava/util/TreeMap$Entry;Z)V" } : Jvm.MethodName) prog_51_method_29_code (6 : Nat) (Option.none : Option Jvm.ClassFile.FieldType)) ∈ lw_all := lw_g (lw_at lw_m6 134 rfl) rfl
theorem q1461 : (Jvm.Cond.methodLink "java/util/TreeMap" (170 : Nat) ({ cls := "java/util/TreeMap", name := "fixAfterInsertion", desc := "(Ljava/util/TreeMap$Entry;)V" } : Jvm.MethodName)) ∈ lw_all := lw_g (lw_at lw_m6 135 rfl) rfl
theorem q1462 : (Jvm.Cond.privateMethod ({ cls := "java/util/TreeMap", name := "fixAfterInsertion", desc := "(Ljava/util/TreeMap$Entry;)V" } : Jvm.MethodName)) ∈ lw_tbl := lw_at lw_m6 136 rfl
theorem q1463 : (Jvm.Cond.instanceMethod ({ cls := "java/util/TreeMap", name := "fixAfterInsertion", desc := "(Ljava/util/TreeMap$Entry;)V" } : Jvm.MethodName)) ∈ lw_all := lw_g (lw_at lw_m6 137 rfl) rfl
theorem q1464 : (Jvm.Cond.code ({ cls := "java/util/TreeMap", name := "fixAfterInsertion", desc := "(Ljava/util/TreeMap$Entry;)V" } : Jvm.MethodName) prog_51_method_83_code (3 : Nat) (Option.none : Option Jvm.ClassFile.FieldType)) ∈ lw_all := lw_g (lw_at lw_m6 138 rfl) rfl
theorem q1465 : (Jvm.Cond.methodLink "java/util/TreeMap" (294 : Nat) ({ cls := "java/util/TreeMap", name := "parentOf", desc := "(Ljava/util/TreeMap$Entry;)Ljava/util/TreeMap$Entry;" } : Jvm.MethodName)) ∈ lw_all := lw_g (lw_at lw_m6 139 rfl) rfl
theorem q1466 : (Jvm.Cond.static ({ cls := "java/util/TreeMap", name := "parentOf", desc := "(Ljava/util/TreeMap$Entry;)Ljava/util/TreeMap$Entry;" } : Jvm.MethodName)) ∈ lw_all := lw_g (lw_at lw_m6 140 rfl) rfl
theorem q1467 : (Jvm.Cond.code ({ cls := "java/util/TreeMap", name := "parentOf", desc := "(Ljava/util/TreeMap$Entry;)Ljava/util/TreeMap$Entry;" } : Jvm.MethodName) prog_51_method_77_code (1 : Nat) (Option.some (Jvm.ClassFile.FieldType.object "java/util/TreeMap$Entry"))) ∈ lw_all := lw_g (lw_at lw_m6 141 rfl) rfl
theorem q1468 : (Jvm.Cond.methodLink "java/util/TreeMap" (297 : Nat) ({ cls := "java/util/TreeMap", name := "leftOf", desc := "(Ljava/util/TreeMap$Entry;)Ljava/util/TreeMap$Entry;" } : Jvm.MethodName)) ∈ lw_all := lw_g (lw_at lw_m6 142 rfl) rfl
theorem q1469 : (Jvm.Cond.static ({ cls := "java/util/TreeMap", name := "leftOf", desc := "(Ljava/util/TreeMap$Entry;)Ljava/util/TreeMap$Entry;" } : Jvm.MethodName)) ∈ lw_all := lw_g (lw_at lw_m6 143 rfl) rfl
theorem q1470 : (Jvm.Cond.code ({ cls := "java/util/TreeMap", name := "leftOf", desc := "(Ljava/util/TreeMap$Entry;)Ljava/util/TreeMap$Entry;" } : Jvm.MethodName) prog_51_method_79_code (1 : Nat) (Option.some (Jvm.ClassFile.FieldType.object "java/util/TreeMap$Entry"))) ∈ lw_all := lw_g (lw_at lw_m6 144 rfl) rfl
theorem q1471 : (Jvm.Cond.methodLink "java/util/TreeMap" (300 : Nat) ({ cls := "java/util/TreeMap", name := "rightOf", desc := "(Ljava/util/TreeMap$Entry;)Ljava/util/TreeMap$Entry;" } : Jvm.MethodName)) ∈ lw_all := lw_g (lw_at lw_m6 145 rfl) rfl
theorem q1472 : (Jvm.Cond.static ({ cls := "java/util/TreeMap", name := "rightOf", desc := "(Ljava/util/TreeMap$Entry;)Ljava/util/TreeMap$Entry;" } : Jvm.MethodName)) ∈ lw_all := lw_g (lw_at lw_m6 146 rfl) rfl
theorem q1473 : (Jvm.Cond.code ({ cls := "java/util/TreeMap", name := "rightOf", desc := "(Ljava/util/TreeMap$Entry;)Ljava/util/TreeMap$Entry;" } : Jvm.MethodName) prog_51_method_80_code (1 : Nat) (Option.some (Jvm.ClassFile.FieldType.object "java/util/TreeMap$Entry"))) ∈ lw_all := lw_g (lw_at lw_m6 147 rfl) rfl
theorem q1474 : (Jvm.Cond.methodLink "java/util/TreeMap" (303 : Nat) ({ cls := "java/util/TreeMap", name := "colorOf", desc := "(Ljava/util/TreeMap$Entry;)Z" } : Jvm.MethodName)) ∈ lw_all := lw_g (lw_at lw_m6 148 rfl) rfl
theorem q1475 : (Jvm.Cond.static ({ cls := "java/util/TreeMap", name := "colorOf", desc := "(Ljava/util/TreeMap$Entry;)Z" } : Jvm.MethodName)) ∈ lw_all := lw_g (lw_at lw_m6 149 rfl) rfl
theorem q1476 : (Jvm.Cond.code ({ cls := "java/util/TreeMap", name := "colorOf", desc := "(Ljava/util/TreeMap$Entry;)Z" } : Jvm.MethodName) prog_51_method_76_code (1 : Nat) (Option.some Jvm.ClassFile.FieldType.boolean)) ∈ lw_all := lw_g (lw_at lw_m6 150 rfl) rfl
theorem q1477 : (Jvm.Cond.methodLink "java/util/TreeMap" (307 : Nat) ({ cls := "java/util/TreeMap", name := "setColor", desc := "(Ljava/util/TreeMap$Entry;Z)V" } : Jvm.MethodName)) ∈ lw_all := lw_g (lw_at lw_m6 151 rfl) rfl
theorem q1478 : (Jvm.Cond.static ({ cls := "java/util/TreeMap", name := "setColor", desc := "(Ljava/util/TreeMap$Entry;Z)V" } : Jvm.MethodName)) ∈ lw_all := lw_g (lw_at lw_m6 152 rfl) rfl
theorem q1479 : (Jvm.Cond.code ({ cls := "java/util/TreeMap", name := "setColor", desc := "(Ljava/util/TreeMap$Entry;Z)V" } : Jvm.MethodName) prog_51_method_78_code (2 : Nat) (Option.none : Option Jvm.ClassFile.FieldType)) ∈ lw_all := lw_g (lw_at lw_m6 153 rfl) rfl
theorem q1480 : (Jvm.Cond.methodLink "java/util/TreeMap" (311 : Nat) ({ cls := "java/util/TreeMap", name := "rotateLeft", desc := "(Ljava/util/TreeMap$Entry;)V" } : Jvm.MethodName)) ∈ lw_all := lw_g (lw_at lw_m6 154 rfl) rfl
theorem q1481 : (Jvm.Cond.privateMethod ({ cls := "java/util/TreeMap", name := "rotateLeft", desc := "(Ljava/util/TreeMap$Entry;)V" } : Jvm.MethodName)) ∈ lw_tbl := lw_at lw_m6 155 rfl
theorem q1482 : (Jvm.Cond.instanceMethod ({ cls := "java/util/TreeMap", name := "rotateLeft", desc := "(Ljava/util/TreeMap$Entry;)V" } : Jvm.MethodName)) ∈ lw_all := lw_g (lw_at lw_m6 156 rfl) rfl
theorem q1483 : (Jvm.Cond.code ({ cls := "java/util/TreeMap", name := "rotateLeft", desc := "(Ljava/util/TreeMap$Entry;)V" } : Jvm.MethodName) prog_51_method_81_code (3 : Nat) (Option.none : Option Jvm.ClassFile.FieldType)) ∈ lw_all := lw_g (lw_at lw_m6 157 rfl) rfl
theorem q1484 : (Jvm.Cond.methodLink "java/util/TreeMap" (314 : Nat) ({ cls := "java/util/TreeMap", name := "rotateRight", desc := "(Ljava/util/TreeMap$Entry;)V" } : Jvm.MethodName)) ∈ lw_all := lw_g (lw_at lw_m6 158 rfl) rfl
theorem q1485 : (Jvm.Cond.privateMethod ({ cls := "java/util/TreeMap", name := "rotateRight", desc := "(Ljava/util/TreeMap$Entry;)V" } : Jvm.MethodName)) ∈ lw_tbl := lw_at lw_m6 159 rfl
theorem q1486 : (Jvm.Cond.instanceMethod ({ cls := "java/util/TreeMap", name := "rotateRight", desc := "(Ljava/util/TreeMap$Entry;)V" } : Jvm.MethodName)) ∈ lw_all := lw_g (lw_at lw_m6 160 rfl) rfl
theorem q1487 : (Jvm.Cond.code ({ cls := "java/util/TreeMap", name := "rotateRight", desc := "(Ljava/util/TreeMap$Entry;)V" } : Jvm.MethodName) prog_51_method_82_code (3 : Nat) (Option.none : Option Jvm.ClassFile.FieldType)) ∈ lw_all := lw_g (lw_at lw_m6 161 rfl) rfl
theorem q1494 : (Jvm.Cond.selects "java/util/TreeMap" ({ cls := "java/util/SortedMap", name := "firstKey", desc := "()Ljava/lang/Object;" } : Jvm.MethodName) ({ cls := "java/util/TreeMap", name := "firstKey", desc := "()Ljava/lang/Object;" } : Jvm.MethodName)) ∈ lw_all := lw_g (lw_at lw_m6 168 rfl) rfl
theorem q1495 : (Jvm.Cond.unhidden "java/util/TreeMap" "firstKey" "()Ljava/lang/Object;") ∈ lw_tbl := lw_at lw_m6 169 rfl
theorem q1496 : (Jvm.Cond.instanceMethod ({ cls := "java/util/TreeMap", name := "firstKey", desc := "()Ljava/lang/Object;" } : Jvm.MethodName)) ∈ lw_all := lw_g (lw_at lw_m6 170 rfl) rfl
theorem q1497 : (Jvm.Cond.publicMethod ({ cls := "java/util/TreeMap", name := "firstKey", desc := "()Ljava/lang/Object;" } : Jvm.MethodName)) ∈ lw_tbl := lw_at lw_m6 171 rfl
theorem q1498 : (Jvm.Cond.code ({ cls := "java/util/TreeMap", name := "firstKey", desc := "()Ljava/lang/Object;" } : Jvm.MethodName) prog_51_method_10_code (1 : Nat) (Option.some (Jvm.ClassFile.FieldType.object "java/lang/Object"))) ∈ lw_all := lw_g (lw_at lw_m6 172 rfl) rfl
theorem q1499 : (Jvm.Cond.methodLink "java/util/TreeMap" (54 : Nat) ({ cls := "java/util/TreeMap", name := "getFirstEntry", desc := "()Ljava/util/TreeMap$Entry;" } : Jvm.MethodName)) ∈ lw_all := lw_g (lw_at lw_m6 173 rfl) rfl
theorem q1500 : (Jvm.Cond.instanceMethod ({ cls := "java/util/TreeMap", name := "getFirstEntry", desc := "()Ljava/util/TreeMap$Entry;" } : Jvm.MethodName)) ∈ lw_all := lw_g (lw_at lw_m6 174 rfl) rfl
theorem q1501 : (Jvm.Cond.selects "java/util/TreeMap" ({ cls := "java/util/TreeMap", name := "getFirstEntry", desc := "()Ljava/util/TreeMap$Entry;" } : Jvm.MethodName) ({ cls := "java/util/TreeMap", name := "getFirstEntry", desc := "()Ljava/util/TreeMap$Entry;" } : Jvm.MethodName)) ∈ lw_all := lw_g (lw_at lw_m6 175 rfl) rfl
theorem q1502 : (Jvm.Cond.code ({ cls := "java/util/TreeMap", name := "getFirstEntry", desc := "()Ljava/util/TreeMap$Entry;" } : Jvm.MethodName) prog_51_method_72_code (2 : Nat) (Option.some (Jvm.ClassFile.FieldType.object "java/util/TreeMap$Entry"))) ∈ lw_all := lw_g (lw_at lw_m6 176 rfl) rfl
theorem q1503 : (Jvm.Cond.methodLink "java/util/TreeMap" (72 : Nat) ({ cls := "java/util/TreeMap", name := "key", desc := "(Ljava/util/TreeMap$Entry;)Ljava/lang/Object;" } : Jvm.MethodName)) ∈ lw_all := lw_g (lw_at lw_m6 177 rfl) rfl
theorem q1504 : (Jvm.Cond.static ({ cls := "java/util/TreeMap", name := "key", desc := "(Ljava/util/TreeMap$Entry;)Ljava/lang/Object;" } : Jvm.MethodName)) ∈ lw_all := lw_g (lw_at lw_m6 178 rfl) rfl
theorem q1505 : (Jvm.Cond.code ({ cls := "java/util/TreeMap", name := "key", desc := "(Ljava/util/TreeMap$Entry;)Ljava/lang/Object;" } : Jvm.MethodName) prog_51_method_71_code (1 : Nat) (Option.some (Jvm.ClassFile.FieldType.object "java/lang/Object"))) ∈ lw_all := lw_g (lw_at lw_m6 179 rfl) rfl
theorem q1506 : (Jvm.Cond.classLink "java/util/TreeMap" (287 : Nat) "java/util/NoSuchElementException") ∈ lw_all := lw_g (lw_at lw_m6 180 rfl) rfl
theorem q1507 : (Jvm.Cond.methodLink "java/util/TreeMap" (289 : Nat) ({ cls := "java/util/NoSuchElementException", name := "<init>", desc := "()V" } : Jvm.MethodName)) ∈ lw_all := lw_g (lw_at lw_m6 181 rfl) rfl
theorem q1516 : (Jvm.Cond.selects "java/util/TreeMap" ({ cls := "java/util/NavigableMap", name := "higherKey", desc := "(Ljava/lang/Object;)Ljava/lang/Object;" } : Jvm.MethodName) ({ cls := "java/util/TreeMap", name := "higherKey", desc := "(Ljava/lang/Object;)Ljava/lang/Object;" } : Jvm.MethodName)) ∈ lw_all := lw_g (lw_at lw_m6 190 rfl) rfl
theorem q1517 : (Jvm.Cond.unhidden "java/util/TreeMap" "higherKey" "(Ljava/lang/Object;)Ljava/lang/Object;") ∈ lw_tbl := lw_at lw_m6 191 rfl
theorem q1518 : (Jvm.Cond.instanceMethod ({ cls := "java/util/TreeMap", name := "higherKey", desc := "(Ljava/lang/Object;)Ljava/lang/Object;" } : Jvm.MethodName)) ∈ lw_all := lw_g (lw_at lw_m6 192 rfl) rfl
theorem q1519 : (Jvm.Cond.publicMethod ({ cls := "java/util/TreeMap", name := "higherKey", desc := "(Ljava/lang/Object;)Ljava/lang/Object;" } : Jvm.MethodName)) ∈ lw_tbl := lw_at lw_m6 193 rfl
theorem q1520 : (Jvm.Cond.code ({ cls := "java/util/TreeMap", name := "higherKey", desc := "(Ljava/lang/Object;)Ljava/lang/Object;" } : Jvm.MethodName) prog_51_method_48_code (2 : Nat) (Option.some (Jvm.ClassFile.FieldType.object "java/lang/Object"))) ∈ lw_all := lw_g (lw_at lw_m6 194 rfl) rfl
theorem q1521 : (Jvm.Cond.methodLink "java/util/TreeMap" (216 : Nat) ({ cls := "java/util/TreeMap", name := "getHigherEntry", desc := "(Ljava/lang/Object;)Ljava/util/TreeMap$Entry;" } : Jvm.MethodName)) ∈ lw_all := lw_g (lw_at lw_m6 195 rfl) rfl
theorem q1522 : (Jvm.Cond.instanceMethod ({ cls := "java/util/TreeMap", name := "getHigherEntry", desc := "(Ljava/lang/Object;)Ljava/util/TreeMap$Entry;" } : Jvm.MethodName)) ∈ lw_all := lw_g (lw_at lw_m6 196 rfl) rfl
theorem q1523 : (Jvm.Cond.selects "java/util/TreeMap" ({ cls := "java/util/TreeMap", name := "getHigherEntry", desc := "(Ljava/lang/Object;)Ljava/util/TreeMap$Entry;" } : Jvm.MethodName) ({ cls := "java/util/TreeMap", name := "getHigherEntry", desc := "(Ljava/lang/Object;)Ljava/util/TreeMap$Entry;" } : Jvm.MethodName)) ∈ lw_all := lw_g (lw_at lw_m6 197 rfl) rfl
theorem q1524 : (Jvm.Cond.code ({ cls := "java/util/TreeMap", name := "getHigherEntry", desc := "(Ljava/lang/Object;)Ljava/util/TreeMap$Entry;" } : Jvm.MethodName) prog_51_method_19_code (6 : Nat) (Option.some (Jvm.ClassFile.FieldType.object "java/util/TreeMap$Entry"))) ∈ lw_all := lw_g (lw_at lw_m6 198 rfl) rfl
theorem q1525 : (Jvm.Cond.methodLink "java/util/TreeMap" (207 : Nat) ({ cls := "java/util/TreeMap", name := "keyOrNull", desc := "(Ljava/util/TreeMap$Entry;)Ljava/lang/Object;" } : Jvm.MethodName)) ∈ lw_all := lw_g (lw_at lw_m6 199 rfl) rfl
theorem q1526 : (Jvm.Cond.static ({ cls := "java/util/TreeMap", name := "keyOrNull", desc := "(Ljava/util/TreeMap$Entry;)Ljava/lang/Object;" } : Jvm.MethodName)) ∈ lw_all := lw_g (lw_at lw_m6 200 rfl) rfl
theorem q1527 : (Jvm.Cond.code ({ cls := "java/util/TreeMap", name := "keyOrNull", desc := "(Ljava/util/TreeMap$Entry;)Ljava/lang/Object;" } : Jvm.MethodName) prog_51_method_70_code (1 : Nat) (Option.some (Jvm.ClassFile.FieldType.object "java/lang/Object"))) ∈ lw_all := lw_g (lw_at lw_m6 201 rfl) rfl
theorem q2474 : (Jvm.Cond.castable "java/util/TreeMap" "java/lang/Object") ∈ lw_tbl := lw_at lw_m10 188 rfl
theorem in_J15 : ∀ w ∈ wsJ150, w ∈ lw_all := lw_in wsJ150 [853, 855, 839, 841, 843, 845, 847, 849, 851] (by decide +kernel) (by decide +kernel)
/-! java/util/TreeMap$Entry -/
set_option maxRecDepth 100000
def RJ18 : String := "java/util/TreeMap$Entry"
def TJ18 : u_T := fun k => match k with
  | 0 => ("java/util/TreeMap$Entry", "key", "Ljava/lang/Object;", false)
  | 1 => ("java/util/TreeMap$Entry", "value", "Ljava/lang/Object;", false)
  | 2 => ("java/util/TreeMap$Entry", "left", "Ljava/util/TreeMap$Entry;", false)
  | 3 => ("java/util/TreeMap$Entry", "right", "Ljava/util/TreeMap$Entry;", false)
  | 4 => ("java/util/TreeMap$Entry", "parent", "Ljava/util/TreeMap$Entry;", false)
  | _ => ("java/util/TreeMap$Entry", "color", "Z", false)
def tyJ18 : Nat → FieldType := fun k => match k with
  | 0 => .object "java/lang/Object"
  | 1 => .object "java/lang/Object"
  | 2 => .object "java/util/TreeMap$Entry"
  | 3 => .object "java/util/TreeMap$Entry"
  | 4 => .object "java/util/TreeMap$Entry"
  | _ => .boolean
abbrev wsJ180 : List Cond := u_ws RJ18 TJ18 6
theorem nmJ18 : ∀ a, a < 6 → ∀ b, b < 6 → a ≠ b → (TJ18 a).2.1 ≠ (TJ18 b).2.1 := by decide +kernel
theorem tyJ18_ok : ∀ k, k < 6 → parseFieldDescriptor (TJ18 k).2.2.1 = some (tyJ18 k) := by decide +kernel
abbrev cJ18_init : ByteArray := prog_52_method_1_code
def yJ18_init : MethodName := ⟨RJ18, "<init>", "(Ljava/lang/Object;Ljava/lang/Object;Ljava/util/TreeMap$Entry;)V"⟩
def dkwJ18_init_1 : List UInt8 := [177]
abbrev dktJ18_init_1 : List UInt8 := dkwJ18_init_1 ++ []
def dkwJ18_init_0 : List UInt8 := [42, 183, 0, 3, 42, 4, 181, 0, 9, 42, 43, 181, 0, 15, 42, 44, 181, 0, 19, 42, 45, 181, 0, 22]
abbrev dktJ18_init_0 : List UInt8 := dkwJ18_init_0 ++ dktJ18_init_1
theorem dksJ18_init_0 : cJ18_init.data.toList.drop 0 = dktJ18_init_0 := by decide +kernel
theorem dksJ18_init_1 : cJ18_init.data.toList.drop 24 = dktJ18_init_1 := dk_seg dksJ18_init_0 24 rfl rfl
theorem dJ18_init_0 : decode cJ18_init 0 = .ok (.aload_n 0, 1) := dk_42 (dk_at dksJ18_init_0 0 rfl rfl)
theorem dJ18_init_1 : decode cJ18_init 1 = .ok (.invokespecial 3, 3) := dk_183 0 3 (dk_at dksJ18_init_0 1 rfl rfl)
theorem dJ18_init_4 : decode cJ18_init 4 = .ok (.aload_n 0, 1) := dk_42 (dk_at dksJ18_init_0 4 rfl rfl)
theorem dJ18_init_5 : decode cJ18_init 5 = .ok (.iconst 1, 1) := dk_4 (dk_at dksJ18_init_0 5 rfl rfl)
theorem dJ18_init_6 : decode cJ18_init 6 = .ok (.putfield 9, 3) := dk_181 0 9 (dk_at dksJ18_init_0 6 rfl rfl)
theorem dJ18_init_9 : decode cJ18_init 9 = .ok (.aload_n 0, 1) := dk_42 (dk_at dksJ18_init_0 9 rfl rfl)
theorem dJ18_init_10 : decode cJ18_init 10 = .ok (.aload_n 1, 1) := dk_43 (dk_at dksJ18_init_0 10 rfl rfl)
theorem dJ18_init_11 : decode cJ18_init 11 = .ok (.putfield 15, 3) := dk_181 0 15 (dk_at dksJ18_init_0 11 rfl rfl)
theorem dJ18_init_14 : decode cJ18_init 14 = .ok (.aload_n 0, 1) := dk_42 (dk_at dksJ18_init_0 14 rfl rfl)
theorem dJ18_init_15 : decode cJ18_init 15 = .ok (.aload_n 2, 1) := dk_44 (dk_at dksJ18_init_0 15 rfl rfl)
theorem dJ18_init_16 : decode cJ18_init 16 = .ok (.putfield 19, 3) := dk_181 0 19 (dk_at dksJ18_init_0 16 rfl rfl)
theorem dJ18_init_19 : decode cJ18_init 19 = .ok (.aload_n 0, 1) := dk_42 (dk_at dksJ18_init_0 19 rfl rfl)
theorem dJ18_init_20 : decode cJ18_init 20 = .ok (.aload_n 3, 1) := dk_45 (dk_at dksJ18_init_0 20 rfl rfl)
theorem dJ18_init_21 : decode cJ18_init 21 = .ok (.putfield 22, 3) := dk_181 0 22 (dk_at dksJ18_init_0 21 rfl rfl)
theorem dJ18_init_24 : decode cJ18_init 24 = .ok (.return_, 1) := dk_177 (dk_at dksJ18_init_1 0 rfl rfl)
theorem q158 : (Jvm.Cond.initialized "java/util/TreeMap$Entry") ∈ lw_all := lw_g (lw_at lw_m1 32 rfl) rfl
theorem q605 : (Jvm.Cond.selects "java/util/TreeMap$Entry" ({ cls := "java/lang/Object", name := "getClass", desc := "()Ljava/lang/Class;" } : Jvm.MethodName) ({ cls := "java/lang/Object", name := "getClass", desc := "()Ljava/lang/Class;" } : Jvm.MethodName)) ∈ lw_all := lw_g (lw_at lw_m2 239 rfl) rfl
theorem q1426 : (Jvm.Cond.instantiable "java/util/TreeMap$Entry" (6 : Nat)) ∈ lw_all := lw_g (lw_at lw_m6 100 rfl) rfl
theorem q1428 : (Jvm.Cond.instanceMethod ({ cls := "java/util/TreeMap$Entry", name := "<init>", desc := "(Ljava/lang/Object;Ljava/lang/Object;Ljava/util/TreeMap$Entry;)V" } : Jvm.MethodName)) ∈ lw_all := lw_g (lw_at lw_m6 102 rfl) rfl
theorem q1429 : (Jvm.Cond.code ({ cls := "java/util/TreeMap$Entry", name := "<init>", desc := "(Ljava/lang/Object;Ljava/lang/Object;Ljava/util/TreeMap$Entry;)V" } : Jvm.MethodName) prog_52_method_1_code (4 : Nat) (Option.none : Option Jvm.ClassFile.FieldType)) ∈ lw_all := lw_g (lw_at lw_m6 103 rfl) rfl
theorem q1430 : (Jvm.Cond.methodLink "java/util/TreeMap$Entry" (3 : Nat) ({ cls := "java/lang/Object", name := "<init>", desc := "()V" } : Jvm.MethodName)) ∈ lw_all := lw_g (lw_at lw_m6 104 rfl) rfl
theorem q1431 : (Jvm.Cond.fieldLink "java/util/TreeMap$Entry" (15 : Nat) "java/util/TreeMap$Entry" "key" "Ljava/lang/Object;") ∈ lw_all := lw_g (lw_at lw_m6 105 rfl) rfl
theorem q1433 : (Jvm.Cond.fieldLink "java/util/TreeMap$Entry" (19 : Nat) "java/util/TreeMap$Entry" "value" "Ljava/lang/Object;") ∈ lw_all := lw_g (lw_at lw_m6 107 rfl) rfl
theorem q1437 : (Jvm.Cond.fieldLink "java/util/TreeMap$Entry" (22 : Nat) "java/util/TreeMap$Entry" "parent" "Ljava/util/TreeMap$Entry;") ∈ lw_all := lw_g (lw_at lw_m6 111 rfl) rfl
theorem q1439 : (Jvm.Cond.fieldLink "java/util/TreeMap$Entry" (9 : Nat) "java/util/TreeMap$Entry" "color" "Z") ∈ lw_all := lw_g (lw_at lw_m6 113 rfl) rfl
theorem q1441 : (Jvm.Cond.lays "java/util/TreeMap$Entry" "java/util/TreeMap$Entry" "key" "Ljava/lang/Object;") ∈ lw_all := lw_g (lw_at lw_m6 115 rfl) rfl
theorem q1442 : (Jvm.Cond.soleField "java/util/TreeMap$Entry" "key") ∈ lw_all := lw_g (lw_at lw_m6 116 rfl) rfl
theorem q1443 : (Jvm.Cond.lays "java/util/TreeMap$Entry" "java/util/TreeMap$Entry" "value" "Ljava/lang/Object;") ∈ lw_all := lw_g (lw_at lw_m6 117 rfl) rfl
theorem q1444 : (Jvm.Cond.soleField "java/util/TreeMap$Entry" "value") ∈ lw_all := lw_g (lw_at lw_m6 118 rfl) rfl
theorem q1445 : (Jvm.Cond.lays "java/util/TreeMap$Entry" "java/util/TreeMap$Entry" "left" "Ljava/util/TreeMap$Entry;") ∈ lw_all := lw_g (lw_at lw_m6 119 rfl) rfl
theorem q1446 : (Jvm.Cond.soleField "java/util/TreeMap$Entry" "left") ∈ lw_all := lw_g (lw_at lw_m6 120 rfl) rfl
theorem q1447 : (Jvm.Cond.lays "java/util/TreeMap$Entry" "java/util/TreeMap$Entry" "right" "Ljava/util/TreeMap$Entry;") ∈ lw_all := lw_g (lw_at lw_m6 121 rfl) rfl
theorem q1448 : (Jvm.Cond.soleField "java/util/TreeMap$Entry" "right") ∈ lw_all := lw_g (lw_at lw_m6 122 rfl) rfl
theorem q1449 : (Jvm.Cond.lays "java/util/TreeMap$Entry" "java/util/TreeMap$Entry" "parent" "Ljava/util/TreeMap$Entry;") ∈ lw_all := lw_g (lw_at lw_m6 123 rfl) rfl
theorem q1450 : (Jvm.Cond.soleField "java/util/TreeMap$Entry" "parent") ∈ lw_all := lw_g (lw_at lw_m6 124 rfl) rfl
theorem q1451 : (Jvm.Cond.lays "java/util/TreeMap$Entry" "java/util/TreeMap$Entry" "color" "Z") ∈ lw_all := lw_g (lw_at lw_m6 125 rfl) rfl
theorem q1452 : (Jvm.Cond.soleField "java/util/TreeMap$Entry" "color") ∈ lw_all := lw_g (lw_at lw_m6 126 rfl) rfl
theorem q1453 : (Jvm.Cond.superclass "java/util/TreeMap$Entry" "java/lang/Object") ∈ lw_all := lw_g (lw_at lw_m6 127 rfl) rfl
theorem q2478 : (Jvm.Cond.castable "java/util/TreeMap$Entry" "java/lang/Object") ∈ lw_tbl := lw_at lw_m10 192 rfl
theorem in_J18 : ∀ w ∈ wsJ180, w ∈ lw_all := lw_in wsJ180 [1441, 1443, 1445, 1447, 1449, 1451] (by decide +kernel) (by decide +kernel)
/-! java/lang/Throwable -/
set_option maxRecDepth 100000
def RJ3 : String := "java/lang/Throwable"
def TJ3 : u_T := fun k => match k with
  | 0 => ("java/lang/Throwable", "cause", "Ljava/lang/Throwable;", false)
  | 1 => ("java/lang/Throwable", "stackTrace", "[Ljava/lang/StackTraceElement;", false)
  | 2 => ("java/lang/Throwable", "suppressedExceptions", "Ljava/util/List;", false)
  | 3 => ("java/lang/Throwable", "detailMessage", "Ljava/lang/String;", false)
  | _ => ("java/lang/Throwable", "backtrace", "Ljava/lang/Object;", false)
def tyJ3 : Nat → FieldType := fun k => match k with
  | 0 => .object "java/lang/Throwable"
  | 1 => .array (.object "java/lang/StackTraceElement")
  | 2 => .object "java/util/List"
  | 3 => .object "java/lang/String"
  | _ => .object "java/lang/Object"
abbrev wsJ30 : List Cond := u_ws RJ3 TJ3 5
theorem nmJ3 : ∀ a, a < 5 → ∀ b, b < 5 → a ≠ b → (TJ3 a).2.1 ≠ (TJ3 b).2.1 := by decide +kernel
theorem tyJ3_ok : ∀ k, k < 5 → parseFieldDescriptor (TJ3 k).2.2.1 = some (tyJ3 k) := by decide +kernel
abbrev cJ3_init : ByteArray := prog_29_method_1_code
def yJ3_init : MethodName := ⟨RJ3, "<init>", "()V"⟩
def dkwJ3_init_1 : List UInt8 := [182, 0, 27, 87, 177]
abbrev dktJ3_init_1 : List UInt8 := dkwJ3_init_1 ++ []
def dkwJ3_init_0 : List UInt8 := [42, 183, 0, 1, 42, 42, 181, 0, 7, 42, 178, 0, 13, 181, 0, 17, 42, 178, 0, 20, 181, 0, 24, 42]
abbrev dktJ3_init_0 : List UInt8 := dkwJ3_init_0 ++ dktJ3_init_1
theorem dksJ3_init_0 : cJ3_init.data.toList.drop 0 = dktJ3_init_0 := by decide +kernel
theorem dksJ3_init_1 : cJ3_init.data.toList.drop 24 = dktJ3_init_1 := dk_seg dksJ3_init_0 24 rfl rfl
theorem dJ3_init_0 : decode cJ3_init 0 = .ok (.aload_n 0, 1) := dk_42 (dk_at dksJ3_init_0 0 rfl rfl)
theorem dJ3_init_1 : decode cJ3_init 1 = .ok (.invokespecial 1, 3) := dk_183 0 1 (dk_at dksJ3_init_0 1 rfl rfl)
theorem dJ3_init_4 : decode cJ3_init 4 = .ok (.aload_n 0, 1) := dk_42 (dk_at dksJ3_init_0 4 rfl rfl)
theorem dJ3_init_5 : decode cJ3_init 5 = .ok (.aload_n 0, 1) := dk_42 (dk_at dksJ3_init_0 5 rfl rfl)
theorem dJ3_init_6 : decode cJ3_init 6 = .ok (.putfield 7, 3) := dk_181 0 7 (dk_at dksJ3_init_0 6 rfl rfl)
theorem dJ3_init_9 : decode cJ3_init 9 = .ok (.aload_n 0, 1) := dk_42 (dk_at dksJ3_init_0 9 rfl rfl)
theorem dJ3_init_10 : decode cJ3_init 10 = .ok (.getstatic 13, 3) := dk_178 0 13 (dk_at dksJ3_init_0 10 rfl rfl)
theorem dJ3_init_13 : decode cJ3_init 13 = .ok (.putfield 17, 3) := dk_181 0 17 (dk_at dksJ3_init_0 13 rfl rfl)
theorem dJ3_init_16 : decode cJ3_init 16 = .ok (.aload_n 0, 1) := dk_42 (dk_at dksJ3_init_0 16 rfl rfl)
theorem dJ3_init_17 : decode cJ3_init 17 = .ok (.getstatic 20, 3) := dk_178 0 20 (dk_at dksJ3_init_0 17 rfl rfl)
theorem dJ3_init_20 : decode cJ3_init 20 = .ok (.putfield 24, 3) := dk_181 0 24 (dk_at dksJ3_init_0 20 rfl rfl)
theorem dJ3_init_23 : decode cJ3_init 23 = .ok (.aload_n 0, 1) := dk_42 (dk_at dksJ3_init_0 23 rfl rfl)
theorem dJ3_init_24 : decode cJ3_init 24 = .ok (.invokevirtual 27, 3) := dk_182 0 27 (dk_at dksJ3_init_1 0 rfl rfl)
theorem dJ3_init_27 : decode cJ3_init 27 = .ok (.pop, 1) := dk_87 (dk_at dksJ3_init_1 3 rfl rfl)
theorem dJ3_init_28 : decode cJ3_init 28 = .ok (.return_, 1) := dk_177 (dk_at dksJ3_init_1 4 rfl rfl)
theorem q133 : (Jvm.Cond.initialized "java/lang/Throwable") ∈ lw_all := lw_g (lw_at lw_m1 7 rfl) rfl
theorem q214 : (Jvm.Cond.declares ({ cls := "java/lang/Throwable", name := "<init>", desc := "()V" } : Jvm.MethodName)) ∈ lw_tbl := lw_at lw_m1 88 rfl
theorem q215 : (Jvm.Cond.declares ({ cls := "java/lang/Throwable", name := "<init>", desc := "(Ljava/lang/String;)V" } : Jvm.MethodName)) ∈ lw_tbl := lw_at lw_m1 89 rfl
theorem q219 : (Jvm.Cond.lays "java/lang/Throwable" "java/lang/Throwable" "cause" "Ljava/lang/Throwable;") ∈ lw_all := lw_g (lw_at lw_m1 93 rfl) rfl
theorem q221 : (Jvm.Cond.lays "java/lang/Throwable" "java/lang/Throwable" "stackTrace" "[Ljava/lang/StackTraceElement;") ∈ lw_all := lw_g (lw_at lw_m1 95 rfl) rfl
theorem q223 : (Jvm.Cond.lays "java/lang/Throwable" "java/lang/Throwable" "suppressedExceptions" "Ljava/util/List;") ∈ lw_all := lw_g (lw_at lw_m1 97 rfl) rfl
theorem q225 : (Jvm.Cond.lays "java/lang/Throwable" "java/lang/Throwable" "detailMessage" "Ljava/lang/String;") ∈ lw_all := lw_g (lw_at lw_m1 99 rfl) rfl
theorem q227 : (Jvm.Cond.lays "java/lang/Throwable" "java/lang/Throwable" "backtrace" "Ljava/lang/Object;") ∈ lw_all := lw_g (lw_at lw_m1 101 rfl) rfl
theorem q228 : (Jvm.Cond.fieldLink "java/lang/Throwable" (198 : Nat) "java/lang/Throwable" "backtrace" "Ljava/lang/Object;") ∈ lw_all := lw_g (lw_at lw_m1 102 rfl) rfl
theorem q229 : (Jvm.Cond.superclass "java/lang/Throwable" "java/lang/Object") ∈ lw_all := lw_g (lw_at lw_m1 103 rfl) rfl
theorem q230 : (Jvm.Cond.instanceMethod ({ cls := "java/lang/Throwable", name := "<init>", desc := "()V" } : Jvm.MethodName)) ∈ lw_all := lw_g (lw_at lw_m1 104 rfl) rfl
theorem q231 : (Jvm.Cond.code ({ cls := "java/lang/Throwable", name := "<init>", desc := "()V" } : Jvm.MethodName) prog_29_method_1_code (1 : Nat) (Option.none : Option Jvm.ClassFile.FieldType)) ∈ lw_all := lw_g (lw_at lw_m1 105 rfl) rfl
theorem q232 : (Jvm.Cond.methodLink "java/lang/Throwable" (1 : Nat) ({ cls := "java/lang/Object", name := "<init>", desc := "()V" } : Jvm.MethodName)) ∈ lw_all := lw_g (lw_at lw_m1 106 rfl) rfl
theorem q233 : (Jvm.Cond.fieldLink "java/lang/Throwable" (13 : Nat) "java/lang/Throwable" "UNASSIGNED_STACK" "[Ljava/lang/StackTraceElement;") ∈ lw_all := lw_g (lw_at lw_m1 107 rfl) rfl
theorem q234 : (Jvm.Cond.laysStatic "java/lang/Throwable" "UNASSIGNED_STACK" "[Ljava/lang/StackTraceElement;") ∈ lw_tbl := lw_at lw_m1 108 rfl
theorem q235 : (Jvm.Cond.fieldLink "java/lang/Throwable" (20 : Nat) "java/lang/Throwable" "SUPPRESSED_SENTINEL" "Ljava/util/List;") ∈ lw_all := lw_g (lw_at lw_m1 109 rfl) rfl
theorem q236 : (Jvm.Cond.laysStatic "java/lang/Throwable" "SUPPRESSED_SENTINEL" "Ljava/util/List;") ∈ lw_tbl := lw_at lw_m1 110 rfl
theorem q237 : (Jvm.Cond.methodLink "java/lang/Throwable" (27 : Nat) ({ cls := "java/lang/Throwable", name := "fillInStackTrace", desc := "()Ljava/lang/Throwable;" } : Jvm.MethodName)) ∈ lw_all := lw_g (lw_at lw_m1 111 rfl) rfl
theorem q238 : (Jvm.Cond.instanceMethod ({ cls := "java/lang/Throwable", name := "fillInStackTrace", desc := "()Ljava/lang/Throwable;" } : Jvm.MethodName)) ∈ lw_all := lw_g (lw_at lw_m1 112 rfl) rfl
theorem q239 : (Jvm.Cond.sameMethod "java/lang/Throwable" "java/lang/Throwable" "fillInStackTrace" "()Ljava/lang/Throwable;") ∈ lw_all := lw_g (lw_at lw_m1 113 rfl) rfl
theorem q242 : (Jvm.Cond.codeSync ({ cls := "java/lang/Throwable", name := "fillInStackTrace", desc := "()Ljava/lang/Throwable;" } : Jvm.MethodName) prog_29_method_18_code (1 : Nat) (Option.some (Jvm.ClassFile.FieldType.object "java/lang/Throwable"))) ∈ lw_all := lw_g (lw_at lw_m1 116 rfl) rfl
theorem q243 : (Jvm.Cond.methodLink "java/lang/Throwable" (202 : Nat) ({ cls := "java/lang/Throwable", name := "fillInStackTrace", desc := "(I)Ljava/lang/Throwable;" } : Jvm.MethodName)) ∈ lw_all := lw_g (lw_at lw_m1 117 rfl) rfl
theorem q244 : (Jvm.Cond.privateMethod ({ cls := "java/lang/Throwable", name := "fillInStackTrace", desc := "(I)Ljava/lang/Throwable;" } : Jvm.MethodName)) ∈ lw_tbl := lw_at lw_m1 118 rfl
theorem q245 : (Jvm.Cond.instanceMethod ({ cls := "java/lang/Throwable", name := "fillInStackTrace", desc := "(I)Ljava/lang/Throwable;" } : Jvm.MethodName)) ∈ lw_all := lw_g (lw_at lw_m1 119 rfl) rfl
theorem q246 : (Jvm.Cond.instantiable "java/lang/Throwable" (6 : Nat)) ∈ lw_all := lw_g (lw_at lw_m1 120 rfl) rfl
theorem q247 : (Jvm.Cond.native ({ cls := "java/lang/Throwable", name := "fillInStackTrace", desc := "(I)Ljava/lang/Throwable;" } : Jvm.MethodName)) ∈ lw_all := lw_g (lw_at lw_m1 121 rfl) rfl
theorem q258 : (Jvm.Cond.fieldLink "java/lang/Throwable" (198 : Nat) "java/lang/Throwable" "backtrace" "Ljava/lang/Object;") ∈ lw_all := lw_g (lw_at lw_m1 132 rfl) rfl
theorem q259 : (Jvm.Cond.fieldLink "java/lang/Throwable" (7 : Nat) "java/lang/Throwable" "cause" "Ljava/lang/Throwable;") ∈ lw_all := lw_g (lw_at lw_m1 133 rfl) rfl
theorem q260 : (Jvm.Cond.fieldLink "java/lang/Throwable" (17 : Nat) "java/lang/Throwable" "stackTrace" "[Ljava/lang/StackTraceElement;") ∈ lw_all := lw_g (lw_at lw_m1 134 rfl) rfl
theorem q261 : (Jvm.Cond.fieldLink "java/lang/Throwable" (24 : Nat) "java/lang/Throwable" "suppressedExceptions" "Ljava/util/List;") ∈ lw_all := lw_g (lw_at lw_m1 135 rfl) rfl
theorem q262 : (Jvm.Cond.soleField "java/lang/Throwable" "backtrace") ∈ lw_all := lw_g (lw_at lw_m1 136 rfl) rfl
theorem q263 : (Jvm.Cond.soleField "java/lang/Throwable" "detailMessage") ∈ lw_all := lw_g (lw_at lw_m1 137 rfl) rfl
theorem q264 : (Jvm.Cond.soleField "java/lang/Throwable" "cause") ∈ lw_all := lw_g (lw_at lw_m1 138 rfl) rfl
theorem q265 : (Jvm.Cond.soleField "java/lang/Throwable" "stackTrace") ∈ lw_all := lw_g (lw_at lw_m1 139 rfl) rfl
theorem q267 : (Jvm.Cond.soleField "java/lang/Throwable" "depth") ∈ lw_all := lw_g (lw_at lw_m1 141 rfl) rfl
theorem q268 : (Jvm.Cond.soleField "java/lang/Throwable" "suppressedExceptions") ∈ lw_all := lw_g (lw_at lw_m1 142 rfl) rfl
theorem q2457 : (Jvm.Cond.sameMethod "java/lang/Throwable" "java/lang/Throwable" "fillInStackTrace" "(I)Ljava/lang/Throwable;") ∈ lw_all := lw_g (lw_at lw_m10 171 rfl) rfl
theorem q2479 : (Jvm.Cond.castable "java/lang/Throwable" "java/lang/Object") ∈ lw_tbl := lw_at lw_m10 193 rfl
theorem in_J3 : ∀ w ∈ wsJ30, w ∈ lw_all := lw_in wsJ30 [219, 221, 223, 225, 227] (by decide +kernel) (by decide +kernel)
/-! java/lang/Exception -/
set_option maxRecDepth 100000
def RJ4 : String := "java/lang/Exception"
abbrev cJ4_init : ByteArray := prog_20_method_1_code
def yJ4_init : MethodName := ⟨RJ4, "<init>", "()V"⟩
theorem dJ4_init_0 : decode cJ4_init 0 = .ok (.aload_n 0, 1) := by decide +kernel
theorem dJ4_init_1 : decode cJ4_init 1 = .ok (.invokespecial 1, 3) := by decide +kernel
theorem dJ4_init_4 : decode cJ4_init 4 = .ok (.return_, 1) := by decide +kernel
theorem q134 : (Jvm.Cond.initialized "java/lang/Exception") ∈ lw_all := lw_g (lw_at lw_m1 8 rfl) rfl
theorem q212 : (Jvm.Cond.declares ({ cls := "java/lang/Exception", name := "<init>", desc := "()V" } : Jvm.MethodName)) ∈ lw_tbl := lw_at lw_m1 86 rfl
theorem q213 : (Jvm.Cond.declares ({ cls := "java/lang/Exception", name := "<init>", desc := "(Ljava/lang/String;)V" } : Jvm.MethodName)) ∈ lw_tbl := lw_at lw_m1 87 rfl
theorem q255 : (Jvm.Cond.instanceMethod ({ cls := "java/lang/Exception", name := "<init>", desc := "()V" } : Jvm.MethodName)) ∈ lw_all := lw_g (lw_at lw_m1 129 rfl) rfl
theorem q256 : (Jvm.Cond.code ({ cls := "java/lang/Exception", name := "<init>", desc := "()V" } : Jvm.MethodName) prog_20_method_1_code (1 : Nat) (Option.none : Option Jvm.ClassFile.FieldType)) ∈ lw_all := lw_g (lw_at lw_m1 130 rfl) rfl
theorem q257 : (Jvm.Cond.methodLink "java/lang/Exception" (1 : Nat) ({ cls := "java/lang/Throwable", name := "<init>", desc := "()V" } : Jvm.MethodName)) ∈ lw_all := lw_g (lw_at lw_m1 131 rfl) rfl
/-! java/lang/RuntimeException -/
set_option maxRecDepth 100000
def RJ5 : String := "java/lang/RuntimeException"
abbrev cJ5_init : ByteArray := prog_27_method_1_code
def yJ5_init : MethodName := ⟨RJ5, "<init>", "()V"⟩
theorem dJ5_init_0 : decode cJ5_init 0 = .ok (.aload_n 0, 1) := by decide +kernel
theorem dJ5_init_1 : decode cJ5_init 1 = .ok (.invokespecial 1, 3) := by decide +kernel
theorem dJ5_init_4 : decode cJ5_init 4 = .ok (.return_, 1) := by decide +kernel
theorem q135 : (Jvm.Cond.initialized "java/lang/RuntimeException") ∈ lw_all := lw_g (lw_at lw_m1 9 rfl) rfl
theorem q210 : (Jvm.Cond.declares ({ cls := "java/lang/RuntimeException", name := "<init>", desc := "()V" } : Jvm.MethodName)) ∈ lw_tbl := lw_at lw_m1 84 rfl
theorem q211 : (Jvm.Cond.declares ({ cls := "java/lang/RuntimeException", name := "<init>", desc := "(Ljava/lang/String;)V" } : Jvm.MethodName)) ∈ lw_tbl := lw_at lw_m1 85 rfl
theorem q252 : (Jvm.Cond.instanceMethod ({ cls := "java/lang/RuntimeException", name := "<init>", desc := "()V" } : Jvm.MethodName)) ∈ lw_all := lw_g (lw_at lw_m1 126 rfl) rfl
theorem q253 : (Jvm.Cond.code ({ cls := "java/lang/RuntimeException", name := "<init>", desc := "()V" } : Jvm.MethodName) prog_27_method_1_code (1 : Nat) (Option.none : Option Jvm.ClassFile.FieldType)) ∈ lw_all := lw_g (lw_at lw_m1 127 rfl) rfl
theorem q254 : (Jvm.Cond.methodLink "java/lang/RuntimeException" (1 : Nat) ({ cls := "java/lang/Exception", name := "<init>", desc := "()V" } : Jvm.MethodName)) ∈ lw_all := lw_g (lw_at lw_m1 128 rfl) rfl
/-! java/lang/IllegalArgumentException -/
set_option maxRecDepth 100000
def RJ6 : String := "java/lang/IllegalArgumentException"
def TJ6 : u_T := fun k => match k with
  | 0 => ("java/lang/Throwable", "cause", "Ljava/lang/Throwable;", false)
  | 1 => ("java/lang/Throwable", "stackTrace", "[Ljava/lang/StackTraceElement;", false)
  | 2 => ("java/lang/Throwable", "suppressedExceptions", "Ljava/util/List;", false)
  | 3 => ("java/lang/Throwable", "detailMessage", "Ljava/lang/String;", false)
  | 4 => ("java/lang/Throwable", "backtrace", "Ljava/lang/Object;", false)
  | _ => ("java/lang/Throwable", "depth", "I", false)
def tyJ6 : Nat → FieldType := fun k => match k with
  | 0 => .object "java/lang/Throwable"
  | 1 => .array (.object "java/lang/StackTraceElement")
  | 2 => .object "java/util/List"
  | 3 => .object "java/lang/String"
  | 4 => .object "java/lang/Object"
  | _ => .int
abbrev wsJ60 : List Cond := u_ws RJ6 TJ6 6
theorem nmJ6 : ∀ a, a < 6 → ∀ b, b < 6 → a ≠ b → (TJ6 a).2.1 ≠ (TJ6 b).2.1 := by decide +kernel
theorem tyJ6_ok : ∀ k, k < 6 → parseFieldDescriptor (TJ6 k).2.2.1 = some (tyJ6 k) := by decide +kernel
abbrev cJ6_init : ByteArray := prog_21_method_1_code
def yJ6_init : MethodName := ⟨RJ6, "<init>", "()V"⟩
theorem dJ6_init_0 : decode cJ6_init 0 = .ok (.aload_n 0, 1) := by decide +kernel
theorem dJ6_init_1 : decode cJ6_init 1 = .ok (.invokespecial 1, 3) := by decide +kernel
theorem dJ6_init_4 : decode cJ6_init 4 = .ok (.return_, 1) := by decide +kernel
theorem q136 : (Jvm.Cond.initialized "java/lang/IllegalArgumentException") ∈ lw_all := lw_g (lw_at lw_m1 10 rfl) rfl
theorem q208 : (Jvm.Cond.instantiable "java/lang/IllegalArgumentException" (6 : Nat)) ∈ lw_all := lw_g (lw_at lw_m1 82 rfl) rfl
theorem q209 : (Jvm.Cond.castable "java/lang/IllegalArgumentException" "java/lang/IllegalArgumentException") ∈ lw_tbl := lw_at lw_m1 83 rfl
theorem q216 : (Jvm.Cond.selects "java/lang/IllegalArgumentException" ({ cls := "java/lang/Throwable", name := "fillInStackTrace", desc := "(I)Ljava/lang/Throwable;" } : Jvm.MethodName) ({ cls := "java/lang/Throwable", name := "fillInStackTrace", desc := "(I)Ljava/lang/Throwable;" } : Jvm.MethodName)) ∈ lw_all := lw_g (lw_at lw_m1 90 rfl) rfl
theorem q217 : (Jvm.Cond.selects "java/lang/IllegalArgumentException" ({ cls := "java/lang/Throwable", name := "fillInStackTrace", desc := "()Ljava/lang/Throwable;" } : Jvm.MethodName) ({ cls := "java/lang/Throwable", name := "fillInStackTrace", desc := "()Ljava/lang/Throwable;" } : Jvm.MethodName)) ∈ lw_all := lw_g (lw_at lw_m1 91 rfl) rfl
theorem q218 : (Jvm.Cond.lays "java/lang/IllegalArgumentException" "java/lang/Throwable" "cause" "Ljava/lang/Throwable;") ∈ lw_all := lw_g (lw_at lw_m1 92 rfl) rfl
theorem q220 : (Jvm.Cond.lays "java/lang/IllegalArgumentException" "java/lang/Throwable" "stackTrace" "[Ljava/lang/StackTraceElement;") ∈ lw_all := lw_g (lw_at lw_m1 94 rfl) rfl
theorem q222 : (Jvm.Cond.lays "java/lang/IllegalArgumentException" "java/lang/Throwable" "suppressedExceptions" "Ljava/util/List;") ∈ lw_all := lw_g (lw_at lw_m1 96 rfl) rfl
theorem q224 : (Jvm.Cond.lays "java/lang/IllegalArgumentException" "java/lang/Throwable" "detailMessage" "Ljava/lang/String;") ∈ lw_all := lw_g (lw_at lw_m1 98 rfl) rfl
theorem q226 : (Jvm.Cond.lays "java/lang/IllegalArgumentException" "java/lang/Throwable" "backtrace" "Ljava/lang/Object;") ∈ lw_all := lw_g (lw_at lw_m1 100 rfl) rfl
theorem q249 : (Jvm.Cond.instanceMethod ({ cls := "java/lang/IllegalArgumentException", name := "<init>", desc := "()V" } : Jvm.MethodName)) ∈ lw_all := lw_g (lw_at lw_m1 123 rfl) rfl
theorem q250 : (Jvm.Cond.code ({ cls := "java/lang/IllegalArgumentException", name := "<init>", desc := "()V" } : Jvm.MethodName) prog_21_method_1_code (1 : Nat) (Option.none : Option Jvm.ClassFile.FieldType)) ∈ lw_all := lw_g (lw_at lw_m1 124 rfl) rfl
theorem q251 : (Jvm.Cond.methodLink "java/lang/IllegalArgumentException" (1 : Nat) ({ cls := "java/lang/RuntimeException", name := "<init>", desc := "()V" } : Jvm.MethodName)) ∈ lw_all := lw_g (lw_at lw_m1 125 rfl) rfl
theorem q266 : (Jvm.Cond.lays "java/lang/IllegalArgumentException" "java/lang/Throwable" "depth" "I") ∈ lw_all := lw_g (lw_at lw_m1 140 rfl) rfl
theorem q269 : (Jvm.Cond.superclass "java/lang/IllegalArgumentException" "java/lang/RuntimeException") ∈ lw_all := lw_g (lw_at lw_m1 143 rfl) rfl
theorem q600 : (Jvm.Cond.selects "java/lang/IllegalArgumentException" ({ cls := "java/lang/Object", name := "getClass", desc := "()Ljava/lang/Class;" } : Jvm.MethodName) ({ cls := "java/lang/Object", name := "getClass", desc := "()Ljava/lang/Class;" } : Jvm.MethodName)) ∈ lw_all := lw_g (lw_at lw_m2 234 rfl) rfl
theorem q2471 : (Jvm.Cond.castable "java/lang/IllegalArgumentException" "java/lang/Object") ∈ lw_tbl := lw_at lw_m10 185 rfl
theorem in_J6 : ∀ w ∈ wsJ60, w ∈ lw_all := lw_in wsJ60 [218, 220, 222, 224, 226, 266] (by decide +kernel) (by decide +kernel)
/-! java/lang/IllegalStateException -/
set_option maxRecDepth 100000
def RJ16 : String := "java/lang/IllegalStateException"
def TJ16 : u_T := fun k => match k with
  | 0 => ("java/lang/Throwable", "cause", "Ljava/lang/Throwable;", false)
  | 1 => ("java/lang/Throwable", "stackTrace", "[Ljava/lang/StackTraceElement;", false)
  | 2 => ("java/lang/Throwable", "suppressedExceptions", "Ljava/util/List;", false)
  | 3 => ("java/lang/Throwable", "detailMessage", "Ljava/lang/String;", false)
  | 4 => ("java/lang/Throwable", "backtrace", "Ljava/lang/Object;", false)
  | _ => ("java/lang/Throwable", "depth", "I", false)
def tyJ16 : Nat → FieldType := fun k => match k with
  | 0 => .object "java/lang/Throwable"
  | 1 => .array (.object "java/lang/StackTraceElement")
  | 2 => .object "java/util/List"
  | 3 => .object "java/lang/String"
  | 4 => .object "java/lang/Object"
  | _ => .int
abbrev wsJ160 : List Cond := u_ws RJ16 TJ16 6
theorem nmJ16 : ∀ a, a < 6 → ∀ b, b < 6 → a ≠ b → (TJ16 a).2.1 ≠ (TJ16 b).2.1 := by decide +kernel
theorem tyJ16_ok : ∀ k, k < 6 → parseFieldDescriptor (TJ16 k).2.2.1 = some (tyJ16 k) := by decide +kernel
abbrev cJ16_init : ByteArray := prog_22_method_1_code
def yJ16_init : MethodName := ⟨RJ16, "<init>", "()V"⟩
theorem dJ16_init_0 : decode cJ16_init 0 = .ok (.aload_n 0, 1) := by decide +kernel
theorem dJ16_init_1 : decode cJ16_init 1 = .ok (.invokespecial 1, 3) := by decide +kernel
theorem dJ16_init_4 : decode cJ16_init 4 = .ok (.return_, 1) := by decide +kernel
theorem q155 : (Jvm.Cond.initialized "java/lang/IllegalStateException") ∈ lw_all := lw_g (lw_at lw_m1 29 rfl) rfl
theorem q240 : (Jvm.Cond.selects "java/lang/IllegalStateException" ({ cls := "java/lang/Throwable", name := "fillInStackTrace", desc := "()Ljava/lang/Throwable;" } : Jvm.MethodName) ({ cls := "java/lang/Throwable", name := "fillInStackTrace", desc := "()Ljava/lang/Throwable;" } : Jvm.MethodName)) ∈ lw_all := lw_g (lw_at lw_m1 114 rfl) rfl
theorem q601 : (Jvm.Cond.selects "java/lang/IllegalStateException" ({ cls := "java/lang/Object", name := "getClass", desc := "()Ljava/lang/Class;" } : Jvm.MethodName) ({ cls := "java/lang/Object", name := "getClass", desc := "()Ljava/lang/Class;" } : Jvm.MethodName)) ∈ lw_all := lw_g (lw_at lw_m2 235 rfl) rfl
theorem q982 : (Jvm.Cond.instantiable "java/lang/IllegalStateException" (6 : Nat)) ∈ lw_all := lw_g (lw_at lw_m4 136 rfl) rfl
theorem q983 : (Jvm.Cond.castable "java/lang/IllegalStateException" "java/lang/IllegalStateException") ∈ lw_tbl := lw_at lw_m4 137 rfl
theorem q984 : (Jvm.Cond.selects "java/lang/IllegalStateException" ({ cls := "java/lang/Throwable", name := "fillInStackTrace", desc := "(I)Ljava/lang/Throwable;" } : Jvm.MethodName) ({ cls := "java/lang/Throwable", name := "fillInStackTrace", desc := "(I)Ljava/lang/Throwable;" } : Jvm.MethodName)) ∈ lw_all := lw_g (lw_at lw_m4 138 rfl) rfl
theorem q985 : (Jvm.Cond.lays "java/lang/IllegalStateException" "java/lang/Throwable" "cause" "Ljava/lang/Throwable;") ∈ lw_all := lw_g (lw_at lw_m4 139 rfl) rfl
theorem q986 : (Jvm.Cond.lays "java/lang/IllegalStateException" "java/lang/Throwable" "stackTrace" "[Ljava/lang/StackTraceElement;") ∈ lw_all := lw_g (lw_at lw_m4 140 rfl) rfl
theorem q987 : (Jvm.Cond.lays "java/lang/IllegalStateException" "java/lang/Throwable" "suppressedExceptions" "Ljava/util/List;") ∈ lw_all := lw_g (lw_at lw_m4 141 rfl) rfl
theorem q988 : (Jvm.Cond.lays "java/lang/IllegalStateException" "java/lang/Throwable" "detailMessage" "Ljava/lang/String;") ∈ lw_all := lw_g (lw_at lw_m4 142 rfl) rfl
theorem q989 : (Jvm.Cond.lays "java/lang/IllegalStateException" "java/lang/Throwable" "backtrace" "Ljava/lang/Object;") ∈ lw_all := lw_g (lw_at lw_m4 143 rfl) rfl
theorem q991 : (Jvm.Cond.instanceMethod ({ cls := "java/lang/IllegalStateException", name := "<init>", desc := "()V" } : Jvm.MethodName)) ∈ lw_all := lw_g (lw_at lw_m4 145 rfl) rfl
theorem q992 : (Jvm.Cond.code ({ cls := "java/lang/IllegalStateException", name := "<init>", desc := "()V" } : Jvm.MethodName) prog_22_method_1_code (1 : Nat) (Option.none : Option Jvm.ClassFile.FieldType)) ∈ lw_all := lw_g (lw_at lw_m4 146 rfl) rfl
theorem q993 : (Jvm.Cond.methodLink "java/lang/IllegalStateException" (1 : Nat) ({ cls := "java/lang/RuntimeException", name := "<init>", desc := "()V" } : Jvm.MethodName)) ∈ lw_all := lw_g (lw_at lw_m4 147 rfl) rfl
theorem q994 : (Jvm.Cond.lays "java/lang/IllegalStateException" "java/lang/Throwable" "depth" "I") ∈ lw_all := lw_g (lw_at lw_m4 148 rfl) rfl
theorem q995 : (Jvm.Cond.superclass "java/lang/IllegalStateException" "java/lang/RuntimeException") ∈ lw_all := lw_g (lw_at lw_m4 149 rfl) rfl
theorem q2476 : (Jvm.Cond.castable "java/lang/IllegalStateException" "java/lang/Object") ∈ lw_tbl := lw_at lw_m10 190 rfl
theorem in_J16 : ∀ w ∈ wsJ160, w ∈ lw_all := lw_in wsJ160 [985, 986, 987, 988, 989, 994] (by decide +kernel) (by decide +kernel)
/-! java/util/NoSuchElementException -/
set_option maxRecDepth 100000
def RJ17 : String := "java/util/NoSuchElementException"
def TJ17 : u_T := fun k => match k with
  | 0 => ("java/lang/Throwable", "cause", "Ljava/lang/Throwable;", false)
  | 1 => ("java/lang/Throwable", "stackTrace", "[Ljava/lang/StackTraceElement;", false)
  | 2 => ("java/lang/Throwable", "suppressedExceptions", "Ljava/util/List;", false)
  | 3 => ("java/lang/Throwable", "detailMessage", "Ljava/lang/String;", false)
  | 4 => ("java/lang/Throwable", "backtrace", "Ljava/lang/Object;", false)
  | _ => ("java/lang/Throwable", "depth", "I", false)
def tyJ17 : Nat → FieldType := fun k => match k with
  | 0 => .object "java/lang/Throwable"
  | 1 => .array (.object "java/lang/StackTraceElement")
  | 2 => .object "java/util/List"
  | 3 => .object "java/lang/String"
  | 4 => .object "java/lang/Object"
  | _ => .int
abbrev wsJ170 : List Cond := u_ws RJ17 TJ17 6
theorem nmJ17 : ∀ a, a < 6 → ∀ b, b < 6 → a ≠ b → (TJ17 a).2.1 ≠ (TJ17 b).2.1 := by decide +kernel
theorem tyJ17_ok : ∀ k, k < 6 → parseFieldDescriptor (TJ17 k).2.2.1 = some (tyJ17 k) := by decide +kernel
abbrev cJ17_init : ByteArray := prog_41_method_1_code
def yJ17_init : MethodName := ⟨RJ17, "<init>", "()V"⟩
theorem dJ17_init_0 : decode cJ17_init 0 = .ok (.aload_n 0, 1) := by decide +kernel
theorem dJ17_init_1 : decode cJ17_init 1 = .ok (.invokespecial 1, 3) := by decide +kernel
theorem dJ17_init_4 : decode cJ17_init 4 = .ok (.return_, 1) := by decide +kernel
theorem q157 : (Jvm.Cond.initialized "java/util/NoSuchElementException") ∈ lw_all := lw_g (lw_at lw_m1 31 rfl) rfl
theorem q241 : (Jvm.Cond.selects "java/util/NoSuchElementException" ({ cls := "java/lang/Throwable", name := "fillInStackTrace", desc := "()Ljava/lang/Throwable;" } : Jvm.MethodName) ({ cls := "java/lang/Throwable", name := "fillInStackTrace", desc := "()Ljava/lang/Throwable;" } : Jvm.MethodName)) ∈ lw_all := lw_g (lw_at lw_m1 115 rfl) rfl
theorem q602 : (Jvm.Cond.selects "java/util/NoSuchElementException" ({ cls := "java/lang/Object", name := "getClass", desc := "()Ljava/lang/Class;" } : Jvm.MethodName) ({ cls := "java/lang/Object", name := "getClass", desc := "()Ljava/lang/Class;" } : Jvm.MethodName)) ∈ lw_all := lw_g (lw_at lw_m2 236 rfl) rfl
theorem q1031 : (Jvm.Cond.instantiable "java/util/NoSuchElementException" (6 : Nat)) ∈ lw_all := lw_g (lw_at lw_m4 185 rfl) rfl
theorem q1032 : (Jvm.Cond.castable "java/util/NoSuchElementException" "java/util/NoSuchElementException") ∈ lw_tbl := lw_at lw_m4 186 rfl
theorem q1033 : (Jvm.Cond.selects "java/util/NoSuchElementException" ({ cls := "java/lang/Throwable", name := "fillInStackTrace", desc := "(I)Ljava/lang/Throwable;" } : Jvm.MethodName) ({ cls := "java/lang/Throwable", name := "fillInStackTrace", desc := "(I)Ljava/lang/Throwable;" } : Jvm.MethodName)) ∈ lw_all := lw_g (lw_at lw_m4 187 rfl) rfl
theorem q1034 : (Jvm.Cond.lays "java/util/NoSuchElementException" "java/lang/Throwable" "cause" "Ljava/lang/Throwable;") ∈ lw_all := lw_g (lw_at lw_m4 188 rfl) rfl
theorem q1035 : (Jvm.Cond.lays "java/util/NoSuchElementException" "java/lang/Throwable" "stackTrace" "[Ljava/lang/StackTraceElement;") ∈ lw_all := lw_g (lw_at lw_m4 189 rfl) rfl
theorem q1036 : (Jvm.Cond.lays "java/util/NoSuchElementException" "java/lang/Throwable" "suppressedExceptions" "Ljava/util/List;") ∈ lw_all := lw_g (lw_at lw_m4 190 rfl) rfl
theorem q1037 : (Jvm.Cond.lays "java/util/NoSuchElementException" "java/lang/Throwable" "detailMessage" "Ljava/lang/String;") ∈ lw_all := lw_g (lw_at lw_m4 191 rfl) rfl
theorem q1038 : (Jvm.Cond.lays "java/util/NoSuchElementException" "java/lang/Throwable" "backtrace" "Ljava/lang/Object;") ∈ lw_all := lw_g (lw_at lw_m4 192 rfl) rfl
theorem q1040 : (Jvm.Cond.instanceMethod ({ cls := "java/util/NoSuchElementException", name := "<init>", desc := "()V" } : Jvm.MethodName)) ∈ lw_all := lw_g (lw_at lw_m4 194 rfl) rfl
theorem q1041 : (Jvm.Cond.code ({ cls := "java/util/NoSuchElementException", name := "<init>", desc := "()V" } : Jvm.MethodName) prog_41_method_1_code (1 : Nat) (Option.none : Option Jvm.ClassFile.FieldType)) ∈ lw_all := lw_g (lw_at lw_m4 195 rfl) rfl
theorem q1042 : (Jvm.Cond.methodLink "java/util/NoSuchElementException" (1 : Nat) ({ cls := "java/lang/RuntimeException", name := "<init>", desc := "()V" } : Jvm.MethodName)) ∈ lw_all := lw_g (lw_at lw_m4 196 rfl) rfl
theorem q1043 : (Jvm.Cond.lays "java/util/NoSuchElementException" "java/lang/Throwable" "depth" "I") ∈ lw_all := lw_g (lw_at lw_m4 197 rfl) rfl
theorem q1044 : (Jvm.Cond.superclass "java/util/NoSuchElementException" "java/lang/RuntimeException") ∈ lw_all := lw_g (lw_at lw_m4 198 rfl) rfl
theorem q2477 : (Jvm.Cond.castable "java/util/NoSuchElementException" "java/lang/Object") ∈ lw_tbl := lw_at lw_m10 191 rfl
theorem in_J17 : ∀ w ∈ wsJ170, w ∈ lw_all := lw_in wsJ170 [1034, 1035, 1036, 1037, 1038, 1043] (by decide +kernel) (by decide +kernel)
/-! java/lang/Object -/
set_option maxRecDepth 100000
def RJ20 : String := "java/lang/Object"
abbrev cJ20_init : ByteArray := object_method_1_code
def yJ20_init : MethodName := ⟨RJ20, "<init>", "()V"⟩
theorem dJ20_init_0 : decode cJ20_init 0 = .ok (.return_, 1) := by decide +kernel
theorem q166 : (Jvm.Cond.instanceMethod ({ cls := "java/lang/Object", name := "<init>", desc := "()V" } : Jvm.MethodName)) ∈ lw_all := lw_g (lw_at lw_m1 40 rfl) rfl
theorem q167 : (Jvm.Cond.code ({ cls := "java/lang/Object", name := "<init>", desc := "()V" } : Jvm.MethodName) object_method_1_code (1 : Nat) (Option.none : Option Jvm.ClassFile.FieldType)) ∈ lw_all := lw_g (lw_at lw_m1 41 rfl) rfl
theorem q587 : (Jvm.Cond.instanceMethod ({ cls := "java/lang/Object", name := "getClass", desc := "()Ljava/lang/Class;" } : Jvm.MethodName)) ∈ lw_all := lw_g (lw_at lw_m2 221 rfl) rfl
theorem q588 : (Jvm.Cond.sameMethod "java/lang/Object" "java/lang/Object" "getClass" "()Ljava/lang/Class;") ∈ lw_all := lw_g (lw_at lw_m2 222 rfl) rfl
theorem q607 : (Jvm.Cond.native ({ cls := "java/lang/Object", name := "getClass", desc := "()Ljava/lang/Class;" } : Jvm.MethodName)) ∈ lw_all := lw_g (lw_at lw_m3 1 rfl) rfl
theorem q2482 : (Jvm.Cond.declares ({ cls := "java/lang/Object", name := "getClass", desc := "()Ljava/lang/Class;" } : Jvm.MethodName)) ∈ lw_tbl := lw_at lw_m10 196 rfl
theorem q2494 : (Jvm.Cond.instantiable "java/lang/Object" (0 : Nat)) ∈ lw_all := lw_g (lw_at lw_m10 208 rfl) rfl
/-! java/util/AbstractSet -/
set_option maxRecDepth 100000
def RJ12 : String := "java/util/AbstractSet"
abbrev cJ12_init : ByteArray := prog_33_method_1_code
def yJ12_init : MethodName := ⟨RJ12, "<init>", "()V"⟩
theorem dJ12_init_0 : decode cJ12_init 0 = .ok (.aload_n 0, 1) := by decide +kernel
theorem dJ12_init_1 : decode cJ12_init 1 = .ok (.invokespecial 1, 3) := by decide +kernel
theorem dJ12_init_4 : decode cJ12_init 4 = .ok (.return_, 1) := by decide +kernel
theorem q149 : (Jvm.Cond.initialized "java/util/AbstractSet") ∈ lw_all := lw_g (lw_at lw_m1 23 rfl) rfl
theorem q862 : (Jvm.Cond.instanceMethod ({ cls := "java/util/AbstractSet", name := "<init>", desc := "()V" } : Jvm.MethodName)) ∈ lw_all := lw_g (lw_at lw_m4 16 rfl) rfl
theorem q863 : (Jvm.Cond.code ({ cls := "java/util/AbstractSet", name := "<init>", desc := "()V" } : Jvm.MethodName) prog_33_method_1_code (1 : Nat) (Option.none : Option Jvm.ClassFile.FieldType)) ∈ lw_all := lw_g (lw_at lw_m4 17 rfl) rfl
theorem q864 : (Jvm.Cond.methodLink "java/util/AbstractSet" (1 : Nat) ({ cls := "java/util/AbstractCollection", name := "<init>", desc := "()V" } : Jvm.MethodName)) ∈ lw_all := lw_g (lw_at lw_m4 18 rfl) rfl
/-! java/util/AbstractMap -/
set_option maxRecDepth 100000
def RJ14 : String := "java/util/AbstractMap"
abbrev cJ14_init : ByteArray := prog_31_method_1_code
def yJ14_init : MethodName := ⟨RJ14, "<init>", "()V"⟩
theorem dJ14_init_0 : decode cJ14_init 0 = .ok (.aload_n 0, 1) := by decide +kernel
theorem dJ14_init_1 : decode cJ14_init 1 = .ok (.invokespecial 1, 3) := by decide +kernel
theorem dJ14_init_4 : decode cJ14_init 4 = .ok (.return_, 1) := by decide +kernel
theorem q151 : (Jvm.Cond.initialized "java/util/AbstractMap") ∈ lw_all := lw_g (lw_at lw_m1 25 rfl) rfl
theorem q832 : (Jvm.Cond.instanceMethod ({ cls := "java/util/AbstractMap", name := "<init>", desc := "()V" } : Jvm.MethodName)) ∈ lw_all := lw_g (lw_at lw_m3 226 rfl) rfl
theorem q833 : (Jvm.Cond.code ({ cls := "java/util/AbstractMap", name := "<init>", desc := "()V" } : Jvm.MethodName) prog_31_method_1_code (1 : Nat) (Option.none : Option Jvm.ClassFile.FieldType)) ∈ lw_all := lw_g (lw_at lw_m3 227 rfl) rfl
theorem q834 : (Jvm.Cond.methodLink "java/util/AbstractMap" (1 : Nat) ({ cls := "java/lang/Object", name := "<init>", desc := "()V" } : Jvm.MethodName)) ∈ lw_all := lw_g (lw_at lw_m3 228 rfl) rfl
theorem q854 : (Jvm.Cond.soleField "java/util/AbstractMap" "keySet") ∈ lw_all := lw_g (lw_at lw_m4 8 rfl) rfl
theorem q856 : (Jvm.Cond.soleField "java/util/AbstractMap" "values") ∈ lw_all := lw_g (lw_at lw_m4 10 rfl) rfl
/-! java/util/AbstractQueue -/
set_option maxRecDepth 100000
def RJ1 : String := "java/util/AbstractQueue"
abbrev cJ1_init : ByteArray := prog_32_method_1_code
def yJ1_init : MethodName := ⟨RJ1, "<init>", "()V"⟩
theorem dJ1_init_0 : decode cJ1_init 0 = .ok (.aload_n 0, 1) := by decide +kernel
theorem dJ1_init_1 : decode cJ1_init 1 = .ok (.invokespecial 1, 3) := by decide +kernel
theorem dJ1_init_4 : decode cJ1_init 4 = .ok (.return_, 1) := by decide +kernel
theorem q131 : (Jvm.Cond.initialized "java/util/AbstractQueue") ∈ lw_all := lw_g (lw_at lw_m1 5 rfl) rfl
theorem q201 : (Jvm.Cond.instanceMethod ({ cls := "java/util/AbstractQueue", name := "<init>", desc := "()V" } : Jvm.MethodName)) ∈ lw_all := lw_g (lw_at lw_m1 75 rfl) rfl
theorem q202 : (Jvm.Cond.code ({ cls := "java/util/AbstractQueue", name := "<init>", desc := "()V" } : Jvm.MethodName) prog_32_method_1_code (1 : Nat) (Option.none : Option Jvm.ClassFile.FieldType)) ∈ lw_all := lw_g (lw_at lw_m1 76 rfl) rfl
theorem q203 : (Jvm.Cond.methodLink "java/util/AbstractQueue" (1 : Nat) ({ cls := "java/util/AbstractCollection", name := "<init>", desc := "()V" } : Jvm.MethodName)) ∈ lw_all := lw_g (lw_at lw_m1 77 rfl) rfl
