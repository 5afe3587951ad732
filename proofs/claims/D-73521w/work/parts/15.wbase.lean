set_option maxRecDepth 100000
def tt_KW (dA : Nat → ClassId) (U : State) : Prop := tt_KN U ∧ va_Fw "TallTowers$Picks" ⟨"java/util/Comparator", "compare", "(Ljava/lang/Object;Ljava/lang/Object;)I"⟩ ⟨"TallTowers$Picks", "compare", "(Ljava/lang/Object;Ljava/lang/Object;)I"⟩ U ∧ lam_Rd lam_x1 252 93 lam_s1 (dA 10) (.makes (dA 10)) ⟨"TallTowers$Spreading", "goes", "(LTallTowers$Harm;JLTallTowers$Flow;)V"⟩ U ∧ lam_Rd lam_x2 268 100 lam_s2 (dA 11) (.makes (dA 11)) ⟨"TallTowers$Spreading", "goes", "(LTallTowers$Harm;JLTallTowers$Flow;)V"⟩ U ∧ lam_Rd lam_x3 284 101 lam_s3 (dA 12) (.makes (dA 12)) ⟨"TallTowers$Spreading", "goes", "(LTallTowers$Harm;JLTallTowers$Flow;)V"⟩ U ∧ lam_Rd lam_x4 300 102 lam_s4 (dA 13) (.makes (dA 13)) ⟨"TallTowers$Spreading", "goes", "(LTallTowers$Harm;JLTallTowers$Flow;)V"⟩ U
theorem lam_dc4 : decode lam_b4 0 = .ok (.aload_n 0, 1) ∧ decode lam_b4 1 = .ok (.getfield 15, 3) ∧ decode lam_b4 4 = .ok (.aload_n 1, 1) ∧ decode lam_b4 5 = .ok (.lload_n 2, 1) ∧ decode lam_b4 6 = .ok (.aload 4, 2) ∧ decode lam_b4 8 = .ok (.invokevirtual 22, 3) ∧ decode lam_b4 11 = .ok (.return_, 1) := by decide +kernel
theorem lam_shp4 : lam_shp lam_s4 ⟨"TallTowers$Spreading", "goes", "(LTallTowers$Harm;JLTallTowers$Flow;)V"⟩ ⟨"TallTowers$World", "byLevel", "(LTallTowers$Harm;JLTallTowers$Flow;)V"⟩ none := ⟨rfl, rfl, by decide +kernel, rfl, by decide +kernel⟩
theorem lam_dc3 : decode lam_b3 0 = .ok (.aload_n 0, 1) ∧ decode lam_b3 1 = .ok (.getfield 15, 3) ∧ decode lam_b3 4 = .ok (.aload_n 1, 1) ∧ decode lam_b3 5 = .ok (.lload_n 2, 1) ∧ decode lam_b3 6 = .ok (.aload 4, 2) ∧ decode lam_b3 8 = .ok (.invokevirtual 22, 3) ∧ decode lam_b3 11 = .ok (.return_, 1) := by decide +kernel
theorem lam_shp3 : lam_shp lam_s3 ⟨"TallTowers$Spreading", "goes", "(LTallTowers$Harm;JLTallTowers$Flow;)V"⟩ ⟨"TallTowers$World", "toTheFull", "(LTallTowers$Harm;JLTallTowers$Flow;)V"⟩ none := ⟨rfl, rfl, by decide +kernel, rfl, by decide +kernel⟩
theorem lam_dc2 : decode lam_b2 0 = .ok (.aload_n 0, 1) ∧ decode lam_b2 1 = .ok (.getfield 15, 3) ∧ decode lam_b2 4 = .ok (.aload_n 1, 1) ∧ decode lam_b2 5 = .ok (.lload_n 2, 1) ∧ decode lam_b2 6 = .ok (.aload 4, 2) ∧ decode lam_b2 8 = .ok (.invokevirtual 22, 3) ∧ decode lam_b2 11 = .ok (.return_, 1) := by decide +kernel
theorem lam_shp2 : lam_shp lam_s2 ⟨"TallTowers$Spreading", "goes", "(LTallTowers$Harm;JLTallTowers$Flow;)V"⟩ ⟨"TallTowers$World", "bySizes", "(LTallTowers$Harm;JLTallTowers$Flow;)V"⟩ none := ⟨rfl, rfl, by decide +kernel, rfl, by decide +kernel⟩
theorem lam_dc1 : decode lam_b1 0 = .ok (.aload_n 0, 1) ∧ decode lam_b1 1 = .ok (.getfield 15, 3) ∧ decode lam_b1 4 = .ok (.aload_n 1, 1) ∧ decode lam_b1 5 = .ok (.lload_n 2, 1) ∧ decode lam_b1 6 = .ok (.aload 4, 2) ∧ decode lam_b1 8 = .ok (.invokevirtual 22, 3) ∧ decode lam_b1 11 = .ok (.return_, 1) := by decide +kernel
theorem lam_shp1 : lam_shp lam_s1 ⟨"TallTowers$Spreading", "goes", "(LTallTowers$Harm;JLTallTowers$Flow;)V"⟩ ⟨"TallTowers$World", "byTime", "(LTallTowers$Harm;JLTallTowers$Flow;)V"⟩ none := ⟨rfl, rfl, by decide +kernel, rfl, by decide +kernel⟩
def lvH (b : Bool) (i : Nat) : Prop := i < 24 ∨ (i = 24 ∧ b = true)
def lvF (i : Nat) : Prop := i = 25 ∨ i = 26
def lvA (b : Bool) (i : Nat) : Prop := lvH b i ∨ lvF i
def EW (dA : Nat → ClassId) : tt_Et := fun lc kd i fI fL fR => match kd with
  | 0 => .inr (0, [.ref (lc 1 0), .ref (lc 6 0), .ref (lc 21 0), .ref (lc 23 0), .ref (lc 24 0), .ref (lc 25 0), .ref (lc 26 0), .ref (lc 27 0), .ref (lc 28 0), .ref (lc 29 0), .ref (lc 30 0), .ref (lc 31 0), .ref (lc 33 0), .ref (lc 34 0), .ref (lc 14 25), .ref (lc 14 26), .ref (lc 36 0), .int (fI 17), .int (fI 18), .int (fI 19), .int (fI 20), .int (fI 21), .int (fI 22), .int (fI 23)])
  | 1 => .inl (dA 2, 40, .inr (.inr (.inr (.inr (fun j => some (lc 2 j))))))
  | 2 => .inr (1, [.ref (lc 3 i), .ref (lc 4 i), .ref (lc 5 i), .int (nI i), .int (fI 4), .int (fI 5), .int (fI 6), .int (fI 7), .int (fI 8), .long (fL 9), .int (fI 10)])
  | 3 => .inl (dA 0, 4, .inl fI)
  | 4 => .inl (dA 0, 4, .inl fI)
  | 5 => .inl (dA 1, 4, .inr (.inl fL))
  | 6 => .inl (dA 3, 24, .inr (.inr (.inr (.inr (fun j => some (lc 7 j))))))
  | 7 => .inr (2, [.ref (lc 8 i), .ref (lc 9 i), .ref (lc 10 i), .ref (lc 11 i), .ref (lc 12 i), .ref (lc 13 i), .int (fI 6), .int (fI 7), .int (fI 8), .int (fI 9), .long (fL 10), .int (fI 11)])
  | 8 => .inl (dA 1, 10, .inr (.inl fL))
  | 9 => .inl (dA 1, 7, .inr (.inl fL))
  | 10 => .inl (dA 1, 40, .inr (.inl fL))
  | 11 => .inl (dA 1, 40, .inr (.inl fL))
  | 12 => .inl (dA 1, 40, .inr (.inl fL))
  | 13 => .inl (dA 1, 160, .inr (.inl fL))
  | 14 => .inr (3, [.ref (lc 8 i), .ref (lc 9 i), .ref (lc 10 i), .ref (lc 11 i), .ref (lc 12 i), .ref (lc 13 i)])
  | 21 => .inl (dA 4, 12, .inr (.inr (.inr (.inr (fun j => some (lc 22 j))))))
  | 22 => .inl (dA 0, 6, .inl fI)
  | 23 => .inl (dA 0, 12, .inl fI)
  | 24 => .inl (dA 0, 10, .inl fI)
  | 25 => .inl (dA 1, 10, .inr (.inl fL))
  | 26 => .inl (dA 1, 12, .inr (.inl fL))
  | 27 => .inl (dA 1, 12, .inr (.inl fL))
  | 28 => .inl (dA 1, 40, .inr (.inl fL))
  | 29 => .inl (dA 1, 40, .inr (.inl fL))
  | 30 => .inl (dA 1, 40, .inr (.inl fL))
  | 31 => .inl (dA 5, 12, .inr (.inr (.inr (.inr (fun j => some (lc 32 j))))))
  | 32 => .inr (4, [.int (nI i), .long (fL 1), .int (fI 2)])
  | 33 => .inr (5, [.int (fI 0)])
  | 34 => .inr (6, [.ref (lc 35 0), .int (fI 1), .ref (lc 33 0), .int (fI 3)])
  | 35 => .inl (dA 6, 12, .inr (.inr (.inr (.inr (fun j => (fR j).map (lc 32))))))
  | 36 => .inl (dA 7, 4, .inr (.inr (.inr (.inr (fun j => some (lc 37 j))))))
  | 37 => .inr (7, [.ref (lc 38 i)])
  | 38 => .inl (dA (10 + i), 1, .inr (.inr (.inr (.inr (fun _ => some (lc 0 0))))))
  | _ => .inl (dA 0, 0, .inl fI)
def lvW (b : Bool) (_ : tt_St) (kd i : Nat) : Prop := match kd with
  | 0 => i = 0
  | 1 => i = 0
  | 2 => i < 40
  | 3 => i < 40
  | 4 => i < 40
  | 5 => i < 40
  | 6 => i = 0
  | 7 => lvH b i
  | 8 => lvA b i
  | 9 => lvA b i
  | 10 => lvA b i
  | 11 => lvA b i
  | 12 => lvA b i
  | 13 => lvA b i
  | 14 => lvF i
  | 21 => i = 0
  | 22 => i < 12
  | 23 => i = 0
  | 24 => i = 0
  | 25 => i = 0
  | 26 => i = 0
  | 27 => i = 0
  | 28 => i = 0
  | 29 => i = 0
  | 30 => i = 0
  | 31 => i = 0
  | 32 => i < 12
  | 33 => i = 0
  | 34 => i = 0
  | 35 => i = 0
  | 36 => i = 0
  | 37 => i < 4
  | 38 => i < 4
  | _ => False
def clW : List vw_C := [(RX2, TX2, 24), (RX6, TX6, 11), (RX7, TX7, 12), (RX5, TX5, 6), (RX8, TX8, 3), (RX3, TX3, 1), (RJ2, TJ2, 4), (RX9, TX9, 1)]
def tysW (dA : Nat → ClassId) : List (ClassId × FieldType) := [(dA 0, .int), (dA 1, .long), (dA 2, .object "TallTowers$Layer"), (dA 3, .object "TallTowers$Harm"), (dA 4, .array .int), (dA 5, .object "TallTowers$Tower"), (dA 6, .object "java/lang/Object"), (dA 7, .object "TallTowers$Spread")]
def XW (l : Launch) (D : va_G) (dA : Nat → ClassId) (A : Nat → Prop) (b : Bool) : tt_X tt_St := (l, D, clW, tysW dA, mkE (EW dA), lvW b, A, tt_KW dA)
theorem plX2 : plainName RX2 = true := by decide
theorem plX6 : plainName RX6 = true := by decide
theorem plX4 : plainName RX4 = true := by decide
theorem plX5 : plainName RX5 = true := by decide
theorem plX7 : plainName RX7 = true := by decide
theorem plX3 : plainName RX3 = true := by decide
theorem plX8 : plainName RX8 = true := by decide
theorem plX9 : plainName RX9 = true := by decide
theorem plJ2 : plainName RJ2 = true := by decide
theorem plX1 : plainName RX1 = true := by decide
theorem plJ0 : plainName RJ0 = true := by decide
theorem plJ10 : plainName RJ10 = true := by decide
theorem plJ11 : plainName RJ11 = true := by decide
theorem lw_U {own : String} {idx : Nat} {C owner : String} {x y : MethodName} {b : ByteArray} {L : Nat} {r : Option FieldType} (h1 : Cond.methodLink own idx x ∈ lw_all) (h2 : Cond.sameMethod x.cls owner x.name x.desc ∈ lw_all) (h3 : Cond.selects C x y ∈ lw_all) (h4 : Cond.instanceMethod y ∈ lw_all) (h5 : Cond.initialized y.cls ∈ lw_all) (h6 : Cond.code y b L r ∈ lw_all) : GoodIn lw_all (va_wsU own idx C owner x y (ws_ y b L r)) := by
  refine lw_app ?_ (lw_meth h6)
  intro w hw
  simp only [List.mem_cons, List.not_mem_nil, or_false] at hw
  rcases hw with e | e | e | e | e <;> rw [e] <;> assumption
theorem lw_SU {own : String} {idx : Nat} {y : MethodName} {b : ByteArray} {L : Nat} {r : Option FieldType} (h1 : Cond.methodLink own idx y ∈ lw_all) (h2 : Cond.sameMethod y.cls y.cls y.name y.desc ∈ lw_all) (h3 : Cond.superclass own y.cls ∈ lw_all) (h4 : Cond.instanceMethod y ∈ lw_all) (h5 : Cond.initialized y.cls ∈ lw_all) (h6 : Cond.code y b L r ∈ lw_all) : GoodIn lw_all (va_wsSU own idx y (ws_ y b L r)) := by
  refine lw_app ?_ (lw_meth h6)
  intro w hw
  simp only [List.mem_cons, List.not_mem_nil, or_false] at hw
  rcases hw with e | e | e | e | e <;> rw [e] <;> assumption
theorem lw_F {own : String} {idx : Nat} {C : String} {x y : MethodName} {b : ByteArray} {L : Nat} {r : Option FieldType} (h1 : Cond.methodLink own idx x ∈ lw_all) (h3 : Cond.selects C x y ∈ lw_all) (h4 : Cond.instanceMethod y ∈ lw_all) (h5 : Cond.initialized y.cls ∈ lw_all) (h6 : Cond.code y b L r ∈ lw_all) : GoodIn lw_all (va_wsF own idx C x y (ws_ y b L r)) := by
  refine lw_app ?_ (lw_meth h6)
  intro w hw
  simp only [List.mem_cons, List.not_mem_nil, or_false] at hw
  rcases hw with e | e | e | e <;> rw [e] <;> assumption
section WB
variable {l : Launch} {D : va_G} {dA : Nat → ClassId} {A : Nat → Prop} {b : Bool} {lc : Nat → Nat → Nat} {s : tt_St} {cc : ByteArray} {Y : tt_Y} {Q : tt_Fin} {pc : Nat} {lv : List (Nat × Value)} {rest : List Value} {ck cn i : Nat}
theorem eW : xE (XW l D dA A b) = mkE (EW dA) := rfl
theorem tt_KW.warm {s U : State} (hW : s.WarmedH U.vm) (h : tt_KW dA s) : tt_KW dA U := ⟨tt_KN.warm hW h.1, va_Fw.moved ⟨by decide, by decide⟩ hW.alike h.2.1, h.2.2.1.warm hW ⟨by decide, by decide⟩, h.2.2.2.1.warm hW ⟨by decide, by decide⟩, h.2.2.2.2.1.warm hW ⟨by decide, by decide⟩, h.2.2.2.2.2.warm hW ⟨by decide, by decide⟩⟩
theorem tt_KW.calling {U : State} {g : JFrame} {mk : MethodId} {a : Array Value} (h : tt_KW dA U) : tt_KW dA (U.calling g mk a) := tt_KW.warm (s := U) (State.WarmedH.refl U) h
theorem kokW : tt_Kok (XW l D dA A b) := ⟨fun _ _ hW _ h => tt_KW.warm hW h, fun U _ _ _ h => tt_KW.calling h⟩
theorem kfW : ∀ U, xK (XW l D dA A b) U → va_Fw "TallTowers$Picks" ⟨"java/util/Comparator", "compare", "(Ljava/lang/Object;Ljava/lang/Object;)I"⟩ ⟨"TallTowers$Picks", "compare", "(Ljava/lang/Object;Ljava/lang/Object;)I"⟩ U := fun _ h => h.2.1
theorem krW_0 : ∀ U, xK (XW l D dA A b) U → lam_Rd lam_x1 252 93 lam_s1 (dA 10) (.makes (dA 10)) ⟨"TallTowers$Spreading", "goes", "(LTallTowers$Harm;JLTallTowers$Flow;)V"⟩ U := fun _ h => h.2.2.1
theorem krW_1 : ∀ U, xK (XW l D dA A b) U → lam_Rd lam_x2 268 100 lam_s2 (dA 11) (.makes (dA 11)) ⟨"TallTowers$Spreading", "goes", "(LTallTowers$Harm;JLTallTowers$Flow;)V"⟩ U := fun _ h => h.2.2.2.1
theorem krW_2 : ∀ U, xK (XW l D dA A b) U → lam_Rd lam_x3 284 101 lam_s3 (dA 12) (.makes (dA 12)) ⟨"TallTowers$Spreading", "goes", "(LTallTowers$Harm;JLTallTowers$Flow;)V"⟩ U := fun _ h => h.2.2.2.2.1
theorem krW_3 : ∀ U, xK (XW l D dA A b) U → lam_Rd lam_x4 300 102 lam_s4 (dA 13) (.makes (dA 13)) ⟨"TallTowers$Spreading", "goes", "(LTallTowers$Harm;JLTallTowers$Flow;)V"⟩ U := fun _ h => h.2.2.2.2.2
theorem oW_38 : tt_ent (XW l D dA A b) lc s 38 i = .inl (dA (10 + i), 1, .inr (.inr (.inr (.inr (fun _ => some (lc 0 0)))))) := rfl
theorem knW : ∀ U, xK (XW l D dA A b) U → tt_KN U := fun _ h => h.1
theorem lvW_0 : xV (XW l D dA A b) s 0 0 := rfl
theorem oW_0 : tt_ent (XW l D dA A b) lc s 0 0 = .inr (0, [.ref (lc 1 0), .ref (lc 6 0), .ref (lc 21 0), .ref (lc 23 0), .ref (lc 24 0), .ref (lc 25 0), .ref (lc 26 0), .ref (lc 27 0), .ref (lc 28 0), .ref (lc 29 0), .ref (lc 30 0), .ref (lc 31 0), .ref (lc 33 0), .ref (lc 34 0), .ref (lc 14 25), .ref (lc 14 26), .ref (lc 36 0), .int (rdI s 0 0 17), .int (rdI s 0 0 18), .int (rdI s 0 0 19), .int (rdI s 0 0 20), .int (rdI s 0 0 21), .int (rdI s 0 0 22), .int (rdI s 0 0 23)]) := rfl
theorem uW_0_17 (s : tt_St) (x : Int32) : tt_ent (XW l D dA A b) lc (wrI s 0 0 17 x) 0 0 = .inr (0, ([.ref (lc 1 0), .ref (lc 6 0), .ref (lc 21 0), .ref (lc 23 0), .ref (lc 24 0), .ref (lc 25 0), .ref (lc 26 0), .ref (lc 27 0), .ref (lc 28 0), .ref (lc 29 0), .ref (lc 30 0), .ref (lc 31 0), .ref (lc 33 0), .ref (lc 34 0), .ref (lc 14 25), .ref (lc 14 26), .ref (lc 36 0), .int (rdI s 0 0 17), .int (rdI s 0 0 18), .int (rdI s 0 0 19), .int (rdI s 0 0 20), .int (rdI s 0 0 21), .int (rdI s 0 0 22), .int (rdI s 0 0 23)] : List Value).set 17 (.int x)) := by
  rw [oW_0]
  simp [rdI_wrI, rdI_wrL, rdL_wrI]
theorem uW_0_18 (s : tt_St) (x : Int32) : tt_ent (XW l D dA A b) lc (wrI s 0 0 18 x) 0 0 = .inr (0, ([.ref (lc 1 0), .ref (lc 6 0), .ref (lc 21 0), .ref (lc 23 0), .ref (lc 24 0), .ref (lc 25 0), .ref (lc 26 0), .ref (lc 27 0), .ref (lc 28 0), .ref (lc 29 0), .ref (lc 30 0), .ref (lc 31 0), .ref (lc 33 0), .ref (lc 34 0), .ref (lc 14 25), .ref (lc 14 26), .ref (lc 36 0), .int (rdI s 0 0 17), .int (rdI s 0 0 18), .int (rdI s 0 0 19), .int (rdI s 0 0 20), .int (rdI s 0 0 21), .int (rdI s 0 0 22), .int (rdI s 0 0 23)] : List Value).set 18 (.int x)) := by
  rw [oW_0]
  simp [rdI_wrI, rdI_wrL, rdL_wrI]
theorem uW_0_19 (s : tt_St) (x : Int32) : tt_ent (XW l D dA A b) lc (wrI s 0 0 19 x) 0 0 = .inr (0, ([.ref (lc 1 0), .ref (lc 6 0), .ref (lc 21 0), .ref (lc 23 0), .ref (lc 24 0), .ref (lc 25 0), .ref (lc 26 0), .ref (lc 27 0), .ref (lc 28 0), .ref (lc 29 0), .ref (lc 30 0), .ref (lc 31 0), .ref (lc 33 0), .ref (lc 34 0), .ref (lc 14 25), .ref (lc 14 26), .ref (lc 36 0), .int (rdI s 0 0 17), .int (rdI s 0 0 18), .int (rdI s 0 0 19), .int (rdI s 0 0 20), .int (rdI s 0 0 21), .int (rdI s 0 0 22), .int (rdI s 0 0 23)] : List Value).set 19 (.int x)) := by
  rw [oW_0]
  simp [rdI_wrI, rdI_wrL, rdL_wrI]
theorem uW_0_20 (s : tt_St) (x : Int32) : tt_ent (XW l D dA A b) lc (wrI s 0 0 20 x) 0 0 = .inr (0, ([.ref (lc 1 0), .ref (lc 6 0), .ref (lc 21 0), .ref (lc 23 0), .ref (lc 24 0), .ref (lc 25 0), .ref (lc 26 0), .ref (lc 27 0), .ref (lc 28 0), .ref (lc 29 0), .ref (lc 30 0), .ref (lc 31 0), .ref (lc 33 0), .ref (lc 34 0), .ref (lc 14 25), .ref (lc 14 26), .ref (lc 36 0), .int (rdI s 0 0 17), .int (rdI s 0 0 18), .int (rdI s 0 0 19), .int (rdI s 0 0 20), .int (rdI s 0 0 21), .int (rdI s 0 0 22), .int (rdI s 0 0 23)] : List Value).set 20 (.int x)) := by
  rw [oW_0]
  simp [rdI_wrI, rdI_wrL, rdL_wrI]
theorem uW_0_21 (s : tt_St) (x : Int32) : tt_ent (XW l D dA A b) lc (wrI s 0 0 21 x) 0 0 = .inr (0, ([.ref (lc 1 0), .ref (lc 6 0), .ref (lc 21 0), .ref (lc 23 0), .ref (lc 24 0), .ref (lc 25 0), .ref (lc 26 0), .ref (lc 27 0), .ref (lc 28 0), .ref (lc 29 0), .ref (lc 30 0), .ref (lc 31 0), .ref (lc 33 0), .ref (lc 34 0), .ref (lc 14 25), .ref (lc 14 26), .ref (lc 36 0), .int (rdI s 0 0 17), .int (rdI s 0 0 18), .int (rdI s 0 0 19), .int (rdI s 0 0 20), .int (rdI s 0 0 21), .int (rdI s 0 0 22), .int (rdI s 0 0 23)] : List Value).set 21 (.int x)) := by
  rw [oW_0]
  simp [rdI_wrI, rdI_wrL, rdL_wrI]
theorem uW_0_22 (s : tt_St) (x : Int32) : tt_ent (XW l D dA A b) lc (wrI s 0 0 22 x) 0 0 = .inr (0, ([.ref (lc 1 0), .ref (lc 6 0), .ref (lc 21 0), .ref (lc 23 0), .ref (lc 24 0), .ref (lc 25 0), .ref (lc 26 0), .ref (lc 27 0), .ref (lc 28 0), .ref (lc 29 0), .ref (lc 30 0), .ref (lc 31 0), .ref (lc 33 0), .ref (lc 34 0), .ref (lc 14 25), .ref (lc 14 26), .ref (lc 36 0), .int (rdI s 0 0 17), .int (rdI s 0 0 18), .int (rdI s 0 0 19), .int (rdI s 0 0 20), .int (rdI s 0 0 21), .int (rdI s 0 0 22), .int (rdI s 0 0 23)] : List Value).set 22 (.int x)) := by
  rw [oW_0]
  simp [rdI_wrI, rdI_wrL, rdL_wrI]
theorem uW_0_23 (s : tt_St) (x : Int32) : tt_ent (XW l D dA A b) lc (wrI s 0 0 23 x) 0 0 = .inr (0, ([.ref (lc 1 0), .ref (lc 6 0), .ref (lc 21 0), .ref (lc 23 0), .ref (lc 24 0), .ref (lc 25 0), .ref (lc 26 0), .ref (lc 27 0), .ref (lc 28 0), .ref (lc 29 0), .ref (lc 30 0), .ref (lc 31 0), .ref (lc 33 0), .ref (lc 34 0), .ref (lc 14 25), .ref (lc 14 26), .ref (lc 36 0), .int (rdI s 0 0 17), .int (rdI s 0 0 18), .int (rdI s 0 0 19), .int (rdI s 0 0 20), .int (rdI s 0 0 21), .int (rdI s 0 0 22), .int (rdI s 0 0 23)] : List Value).set 23 (.int x)) := by
  rw [oW_0]
  simp [rdI_wrI, rdI_wrL, rdL_wrI]
theorem lvW_2 (hv : i < 40) : xV (XW l D dA A b) s 2 i := hv
theorem oW_2 : tt_ent (XW l D dA A b) lc s 2 i = .inr (1, [.ref (lc 3 i), .ref (lc 4 i), .ref (lc 5 i), .int (nI i), .int (rdI s 2 i 4), .int (rdI s 2 i 5), .int (rdI s 2 i 6), .int (rdI s 2 i 7), .int (rdI s 2 i 8), .long (rdL s 2 i 9), .int (rdI s 2 i 10)]) := rfl
theorem uW_2_4 (s : tt_St) (i : Nat) (x : Int32) : tt_ent (XW l D dA A b) lc (wrI s 2 i 4 x) 2 i = .inr (1, ([.ref (lc 3 i), .ref (lc 4 i), .ref (lc 5 i), .int (nI i), .int (rdI s 2 i 4), .int (rdI s 2 i 5), .int (rdI s 2 i 6), .int (rdI s 2 i 7), .int (rdI s 2 i 8), .long (rdL s 2 i 9), .int (rdI s 2 i 10)] : List Value).set 4 (.int x)) := by
  rw [oW_2]
  simp [rdI_wrI, rdI_wrL, rdL_wrI]
theorem uW_2_5 (s : tt_St) (i : Nat) (x : Int32) : tt_ent (XW l D dA A b) lc (wrI s 2 i 5 x) 2 i = .inr (1, ([.ref (lc 3 i), .ref (lc 4 i), .ref (lc 5 i), .int (nI i), .int (rdI s 2 i 4), .int (rdI s 2 i 5), .int (rdI s 2 i 6), .int (rdI s 2 i 7), .int (rdI s 2 i 8), .long (rdL s 2 i 9), .int (rdI s 2 i 10)] : List Value).set 5 (.int x)) := by
  rw [oW_2]
  simp [rdI_wrI, rdI_wrL, rdL_wrI]
theorem uW_2_6 (s : tt_St) (i : Nat) (x : Int32) : tt_ent (XW l D dA A b) lc (wrI s 2 i 6 x) 2 i = .inr (1, ([.ref (lc 3 i), .ref (lc 4 i), .ref (lc 5 i), .int (nI i), .int (rdI s 2 i 4), .int (rdI s 2 i 5), .int (rdI s 2 i 6), .int (rdI s 2 i 7), .int (rdI s 2 i 8), .long (rdL s 2 i 9), .int (rdI s 2 i 10)] : List Value).set 6 (.int x)) := by
  rw [oW_2]
  simp [rdI_wrI, rdI_wrL, rdL_wrI]
theorem uW_2_7 (s : tt_St) (i : Nat) (x : Int32) : tt_ent (XW l D dA A b) lc (wrI s 2 i 7 x) 2 i = .inr (1, ([.ref (lc 3 i), .ref (lc 4 i), .ref (lc 5 i), .int (nI i), .int (rdI s 2 i 4), .int (rdI s 2 i 5), .int (rdI s 2 i 6), .int (rdI s 2 i 7), .int (rdI s 2 i 8), .long (rdL s 2 i 9), .int (rdI s 2 i 10)] : List Value).set 7 (.int x)) := by
  rw [oW_2]
  simp [rdI_wrI, rdI_wrL, rdL_wrI]
theorem uW_2_8 (s : tt_St) (i : Nat) (x : Int32) : tt_ent (XW l D dA A b) lc (wrI s 2 i 8 x) 2 i = .inr (1, ([.ref (lc 3 i), .ref (lc 4 i), .ref (lc 5 i), .int (nI i), .int (rdI s 2 i 4), .int (rdI s 2 i 5), .int (rdI s 2 i 6), .int (rdI s 2 i 7), .int (rdI s 2 i 8), .long (rdL s 2 i 9), .int (rdI s 2 i 10)] : List Value).set 8 (.int x)) := by
  rw [oW_2]
  simp [rdI_wrI, rdI_wrL, rdL_wrI]
theorem uW_2_9 (s : tt_St) (i : Nat) (x : Int64) : tt_ent (XW l D dA A b) lc (wrL s 2 i 9 x) 2 i = .inr (1, ([.ref (lc 3 i), .ref (lc 4 i), .ref (lc 5 i), .int (nI i), .int (rdI s 2 i 4), .int (rdI s 2 i 5), .int (rdI s 2 i 6), .int (rdI s 2 i 7), .int (rdI s 2 i 8), .long (rdL s 2 i 9), .int (rdI s 2 i 10)] : List Value).set 9 (.long x)) := by
  rw [oW_2]
  simp [rdL_wrL, rdI_wrL, rdL_wrI]
theorem uW_2_10 (s : tt_St) (i : Nat) (x : Int32) : tt_ent (XW l D dA A b) lc (wrI s 2 i 10 x) 2 i = .inr (1, ([.ref (lc 3 i), .ref (lc 4 i), .ref (lc 5 i), .int (nI i), .int (rdI s 2 i 4), .int (rdI s 2 i 5), .int (rdI s 2 i 6), .int (rdI s 2 i 7), .int (rdI s 2 i 8), .long (rdL s 2 i 9), .int (rdI s 2 i 10)] : List Value).set 10 (.int x)) := by
  rw [oW_2]
  simp [rdI_wrI, rdI_wrL, rdL_wrI]
theorem lvW_7 (hv : lvH b i) : xV (XW l D dA A b) s 7 i := hv
theorem oW_7 : tt_ent (XW l D dA A b) lc s 7 i = .inr (2, [.ref (lc 8 i), .ref (lc 9 i), .ref (lc 10 i), .ref (lc 11 i), .ref (lc 12 i), .ref (lc 13 i), .int (rdI s 7 i 6), .int (rdI s 7 i 7), .int (rdI s 7 i 8), .int (rdI s 7 i 9), .long (rdL s 7 i 10), .int (rdI s 7 i 11)]) := rfl
theorem uW_7_6 (s : tt_St) (i : Nat) (x : Int32) : tt_ent (XW l D dA A b) lc (wrI s 7 i 6 x) 7 i = .inr (2, ([.ref (lc 8 i), .ref (lc 9 i), .ref (lc 10 i), .ref (lc 11 i), .ref (lc 12 i), .ref (lc 13 i), .int (rdI s 7 i 6), .int (rdI s 7 i 7), .int (rdI s 7 i 8), .int (rdI s 7 i 9), .long (rdL s 7 i 10), .int (rdI s 7 i 11)] : List Value).set 6 (.int x)) := by
  rw [oW_7]
  simp [rdI_wrI, rdI_wrL, rdL_wrI]
theorem uW_7_7 (s : tt_St) (i : Nat) (x : Int32) : tt_ent (XW l D dA A b) lc (wrI s 7 i 7 x) 7 i = .inr (2, ([.ref (lc 8 i), .ref (lc 9 i), .ref (lc 10 i), .ref (lc 11 i), .ref (lc 12 i), .ref (lc 13 i), .int (rdI s 7 i 6), .int (rdI s 7 i 7), .int (rdI s 7 i 8), .int (rdI s 7 i 9), .long (rdL s 7 i 10), .int (rdI s 7 i 11)] : List Value).set 7 (.int x)) := by
  rw [oW_7]
  simp [rdI_wrI, rdI_wrL, rdL_wrI]
theorem uW_7_8 (s : tt_St) (i : Nat) (x : Int32) : tt_ent (XW l D dA A b) lc (wrI s 7 i 8 x) 7 i = .inr (2, ([.ref (lc 8 i), .ref (lc 9 i), .ref (lc 10 i), .ref (lc 11 i), .ref (lc 12 i), .ref (lc 13 i), .int (rdI s 7 i 6), .int (rdI s 7 i 7), .int (rdI s 7 i 8), .int (rdI s 7 i 9), .long (rdL s 7 i 10), .int (rdI s 7 i 11)] : List Value).set 8 (.int x)) := by
  rw [oW_7]
  simp [rdI_wrI, rdI_wrL, rdL_wrI]
theorem uW_7_9 (s : tt_St) (i : Nat) (x : Int32) : tt_ent (XW l D dA A b) lc (wrI s 7 i 9 x) 7 i = .inr (2, ([.ref (lc 8 i), .ref (lc 9 i), .ref (lc 10 i), .ref (lc 11 i), .ref (lc 12 i), .ref (lc 13 i), .int (rdI s 7 i 6), .int (rdI s 7 i 7), .int (rdI s 7 i 8), .int (rdI s 7 i 9), .long (rdL s 7 i 10), .int (rdI s 7 i 11)] : List Value).set 9 (.int x)) := by
  rw [oW_7]
  simp [rdI_wrI, rdI_wrL, rdL_wrI]
theorem uW_7_10 (s : tt_St) (i : Nat) (x : Int64) : tt_ent (XW l D dA A b) lc (wrL s 7 i 10 x) 7 i = .inr (2, ([.ref (lc 8 i), .ref (lc 9 i), .ref (lc 10 i), .ref (lc 11 i), .ref (lc 12 i), .ref (lc 13 i), .int (rdI s 7 i 6), .int (rdI s 7 i 7), .int (rdI s 7 i 8), .int (rdI s 7 i 9), .long (rdL s 7 i 10), .int (rdI s 7 i 11)] : List Value).set 10 (.long x)) := by
  rw [oW_7]
  simp [rdL_wrL, rdI_wrL, rdL_wrI]
theorem uW_7_11 (s : tt_St) (i : Nat) (x : Int32) : tt_ent (XW l D dA A b) lc (wrI s 7 i 11 x) 7 i = .inr (2, ([.ref (lc 8 i), .ref (lc 9 i), .ref (lc 10 i), .ref (lc 11 i), .ref (lc 12 i), .ref (lc 13 i), .int (rdI s 7 i 6), .int (rdI s 7 i 7), .int (rdI s 7 i 8), .int (rdI s 7 i 9), .long (rdL s 7 i 10), .int (rdI s 7 i 11)] : List Value).set 11 (.int x)) := by
  rw [oW_7]
  simp [rdI_wrI, rdI_wrL, rdL_wrI]
theorem lvW_14 (hv : lvF i) : xV (XW l D dA A b) s 14 i := hv
theorem oW_14 : tt_ent (XW l D dA A b) lc s 14 i = .inr (3, [.ref (lc 8 i), .ref (lc 9 i), .ref (lc 10 i), .ref (lc 11 i), .ref (lc 12 i), .ref (lc 13 i)]) := rfl
theorem lvW_32 (hv : i < 12) : xV (XW l D dA A b) s 32 i := hv
theorem oW_32 : tt_ent (XW l D dA A b) lc s 32 i = .inr (4, [.int (nI i), .long (rdL s 32 i 1), .int (rdI s 32 i 2)]) := rfl
theorem uW_32_1 (s : tt_St) (i : Nat) (x : Int64) : tt_ent (XW l D dA A b) lc (wrL s 32 i 1 x) 32 i = .inr (4, ([.int (nI i), .long (rdL s 32 i 1), .int (rdI s 32 i 2)] : List Value).set 1 (.long x)) := by
  rw [oW_32]
  simp [rdL_wrL, rdI_wrL, rdL_wrI]
theorem uW_32_2 (s : tt_St) (i : Nat) (x : Int32) : tt_ent (XW l D dA A b) lc (wrI s 32 i 2 x) 32 i = .inr (4, ([.int (nI i), .long (rdL s 32 i 1), .int (rdI s 32 i 2)] : List Value).set 2 (.int x)) := by
  rw [oW_32]
  simp [rdI_wrI, rdI_wrL, rdL_wrI]
theorem lvW_33 : xV (XW l D dA A b) s 33 0 := rfl
theorem oW_33 : tt_ent (XW l D dA A b) lc s 33 0 = .inr (5, [.int (rdI s 33 0 0)]) := rfl
theorem uW_33_0 (s : tt_St) (x : Int32) : tt_ent (XW l D dA A b) lc (wrI s 33 0 0 x) 33 0 = .inr (5, ([.int (rdI s 33 0 0)] : List Value).set 0 (.int x)) := by
  rw [oW_33]
  simp [rdI_wrI, rdI_wrL, rdL_wrI]
theorem lvW_34 : xV (XW l D dA A b) s 34 0 := rfl
theorem oW_34 : tt_ent (XW l D dA A b) lc s 34 0 = .inr (6, [.ref (lc 35 0), .int (rdI s 34 0 1), .ref (lc 33 0), .int (rdI s 34 0 3)]) := rfl
theorem uW_34_1 (s : tt_St) (x : Int32) : tt_ent (XW l D dA A b) lc (wrI s 34 0 1 x) 34 0 = .inr (6, ([.ref (lc 35 0), .int (rdI s 34 0 1), .ref (lc 33 0), .int (rdI s 34 0 3)] : List Value).set 1 (.int x)) := by
  rw [oW_34]
  simp [rdI_wrI, rdI_wrL, rdL_wrI]
theorem uW_34_3 (s : tt_St) (x : Int32) : tt_ent (XW l D dA A b) lc (wrI s 34 0 3 x) 34 0 = .inr (6, ([.ref (lc 35 0), .int (rdI s 34 0 1), .ref (lc 33 0), .int (rdI s 34 0 3)] : List Value).set 3 (.int x)) := by
  rw [oW_34]
  simp [rdI_wrI, rdI_wrL, rdL_wrI]
theorem lvW_37 (hv : i < 4) : xV (XW l D dA A b) s 37 i := hv
theorem oW_37 : tt_ent (XW l D dA A b) lc s 37 i = .inr (7, [.ref (lc 38 i)]) := rfl
theorem lvW_1 : xV (XW l D dA A b) s 1 0 := rfl
theorem aW_1 : tt_ent (XW l D dA A b) lc s 1 0 = .inl (dA 2, 40, .inr (.inr (.inr (.inr (fun j => some (lc 2 j)))))) := rfl
theorem lW_1 {j : Int32} (g : inB j 40 = true) (d : decode cc pc = .ok (.aaload, 1)) (kk : tt_V (XW l D dA A b) cc Y Q (pc + 1) lv (.ref (lc 2 j.toNatClampNeg) :: rest) lc s ck cn) : tt_V (XW l D dA A b) cc Y Q pc lv (.int j :: .ref (lc 1 0) :: rest) lc s ck cn := v_aald (t := 2) lvW_1 aW_1 rfl rfl g d kk
theorem nW_1 (d : decode cc pc = .ok (.arraylength, 1)) (kk : tt_V (XW l D dA A b) cc Y Q (pc + 1) lv (.int 40 :: rest) lc s ck cn) : tt_V (XW l D dA A b) cc Y Q pc lv (.ref (lc 1 0) :: rest) lc s ck cn := v_alen (t := 2) lvW_1 aW_1 rfl rfl d kk
theorem lvW_3 (hv : i < 40) : xV (XW l D dA A b) s 3 i := hv
theorem aW_3 : tt_ent (XW l D dA A b) lc s 3 i = .inl (dA 0, 4, .inl (rdI s 3 i)) := rfl
theorem lW_3 {j : Int32} (hv : i < 40) (g : inB j 4 = true) (d : decode cc pc = .ok (.iaload, 1)) (kk : tt_V (XW l D dA A b) cc Y Q (pc + 1) lv (.int (rdI s 3 i j.toNatClampNeg) :: rest) lc s ck cn) : tt_V (XW l D dA A b) cc Y Q pc lv (.int j :: .ref (lc 3 i) :: rest) lc s ck cn := v_iald (t := 0) (lvW_3 hv) aW_3 rfl g d kk
theorem sW_3 {j : Int32} {x : Int32} (hv : i < 40) (g : inB j 4 = true) (d : decode cc pc = .ok (.iastore, 1)) (kk : tt_V (XW l D dA A b) cc Y Q (pc + 1) lv rest lc (wrI s 3 i j.toNatClampNeg x) ck cn) : tt_V (XW l D dA A b) cc Y Q pc lv (.int x :: .int j :: .ref (lc 3 i) :: rest) lc s ck cn := v_iast (t := 0) (lvW_3 hv) aW_3 (by rw [aW_3, tt_updI]) (fun _ _ h => tt_ent_wrI eW h) (fun _ _ h => h) rfl g d kk
theorem nW_3 (hv : i < 40) (d : decode cc pc = .ok (.arraylength, 1)) (kk : tt_V (XW l D dA A b) cc Y Q (pc + 1) lv (.int 4 :: rest) lc s ck cn) : tt_V (XW l D dA A b) cc Y Q pc lv (.ref (lc 3 i) :: rest) lc s ck cn := v_alen (t := 0) (lvW_3 hv) aW_3 rfl rfl d kk
theorem lvW_4 (hv : i < 40) : xV (XW l D dA A b) s 4 i := hv
theorem aW_4 : tt_ent (XW l D dA A b) lc s 4 i = .inl (dA 0, 4, .inl (rdI s 4 i)) := rfl
theorem lW_4 {j : Int32} (hv : i < 40) (g : inB j 4 = true) (d : decode cc pc = .ok (.iaload, 1)) (kk : tt_V (XW l D dA A b) cc Y Q (pc + 1) lv (.int (rdI s 4 i j.toNatClampNeg) :: rest) lc s ck cn) : tt_V (XW l D dA A b) cc Y Q pc lv (.int j :: .ref (lc 4 i) :: rest) lc s ck cn := v_iald (t := 0) (lvW_4 hv) aW_4 rfl g d kk
theorem sW_4 {j : Int32} {x : Int32} (hv : i < 40) (g : inB j 4 = true) (d : decode cc pc = .ok (.iastore, 1)) (kk : tt_V (XW l D dA A b) cc Y Q (pc + 1) lv rest lc (wrI s 4 i j.toNatClampNeg x) ck cn) : tt_V (XW l D dA A b) cc Y Q pc lv (.int x :: .int j :: .ref (lc 4 i) :: rest) lc s ck cn := v_iast (t := 0) (lvW_4 hv) aW_4 (by rw [aW_4, tt_updI]) (fun _ _ h => tt_ent_wrI eW h) (fun _ _ h => h) rfl g d kk
theorem nW_4 (hv : i < 40) (d : decode cc pc = .ok (.arraylength, 1)) (kk : tt_V (XW l D dA A b) cc Y Q (pc + 1) lv (.int 4 :: rest) lc s ck cn) : tt_V (XW l D dA A b) cc Y Q pc lv (.ref (lc 4 i) :: rest) lc s ck cn := v_alen (t := 0) (lvW_4 hv) aW_4 rfl rfl d kk
theorem lvW_5 (hv : i < 40) : xV (XW l D dA A b) s 5 i := hv
theorem aW_5 : tt_ent (XW l D dA A b) lc s 5 i = .inl (dA 1, 4, .inr (.inl (rdL s 5 i))) := rfl
theorem lW_5 {j : Int32} (hv : i < 40) (g : inB j 4 = true) (d : decode cc pc = .ok (.laload, 1)) (kk : tt_V (XW l D dA A b) cc Y Q (pc + 1) lv (.long (rdL s 5 i j.toNatClampNeg) :: rest) lc s ck cn) : tt_V (XW l D dA A b) cc Y Q pc lv (.int j :: .ref (lc 5 i) :: rest) lc s ck cn := v_lald (t := 1) (lvW_5 hv) aW_5 rfl g d kk
theorem sW_5 {j : Int32} {x : Int64} (hv : i < 40) (g : inB j 4 = true) (d : decode cc pc = .ok (.lastore, 1)) (kk : tt_V (XW l D dA A b) cc Y Q (pc + 1) lv rest lc (wrL s 5 i j.toNatClampNeg x) ck cn) : tt_V (XW l D dA A b) cc Y Q pc lv (.long x :: .int j :: .ref (lc 5 i) :: rest) lc s ck cn := v_last (t := 1) (lvW_5 hv) aW_5 (by rw [aW_5, tt_updL]) (fun _ _ h => tt_ent_wrL eW h) (fun _ _ h => h) rfl g d kk
theorem nW_5 (hv : i < 40) (d : decode cc pc = .ok (.arraylength, 1)) (kk : tt_V (XW l D dA A b) cc Y Q (pc + 1) lv (.int 4 :: rest) lc s ck cn) : tt_V (XW l D dA A b) cc Y Q pc lv (.ref (lc 5 i) :: rest) lc s ck cn := v_alen (t := 1) (lvW_5 hv) aW_5 rfl rfl d kk
theorem lvW_6 : xV (XW l D dA A b) s 6 0 := rfl
theorem aW_6 : tt_ent (XW l D dA A b) lc s 6 0 = .inl (dA 3, 24, .inr (.inr (.inr (.inr (fun j => some (lc 7 j)))))) := rfl
theorem lW_6 {j : Int32} (g : inB j 24 = true) (d : decode cc pc = .ok (.aaload, 1)) (kk : tt_V (XW l D dA A b) cc Y Q (pc + 1) lv (.ref (lc 7 j.toNatClampNeg) :: rest) lc s ck cn) : tt_V (XW l D dA A b) cc Y Q pc lv (.int j :: .ref (lc 6 0) :: rest) lc s ck cn := v_aald (t := 3) lvW_6 aW_6 rfl rfl g d kk
theorem nW_6 (d : decode cc pc = .ok (.arraylength, 1)) (kk : tt_V (XW l D dA A b) cc Y Q (pc + 1) lv (.int 24 :: rest) lc s ck cn) : tt_V (XW l D dA A b) cc Y Q pc lv (.ref (lc 6 0) :: rest) lc s ck cn := v_alen (t := 3) lvW_6 aW_6 rfl rfl d kk
theorem lvW_8 (hv : lvA b i) : xV (XW l D dA A b) s 8 i := hv
theorem aW_8 : tt_ent (XW l D dA A b) lc s 8 i = .inl (dA 1, 10, .inr (.inl (rdL s 8 i))) := rfl
theorem lW_8 {j : Int32} (hv : lvA b i) (g : inB j 10 = true) (d : decode cc pc = .ok (.laload, 1)) (kk : tt_V (XW l D dA A b) cc Y Q (pc + 1) lv (.long (rdL s 8 i j.toNatClampNeg) :: rest) lc s ck cn) : tt_V (XW l D dA A b) cc Y Q pc lv (.int j :: .ref (lc 8 i) :: rest) lc s ck cn := v_lald (t := 1) (lvW_8 hv) aW_8 rfl g d kk
theorem sW_8 {j : Int32} {x : Int64} (hv : lvA b i) (g : inB j 10 = true) (d : decode cc pc = .ok (.lastore, 1)) (kk : tt_V (XW l D dA A b) cc Y Q (pc + 1) lv rest lc (wrL s 8 i j.toNatClampNeg x) ck cn) : tt_V (XW l D dA A b) cc Y Q pc lv (.long x :: .int j :: .ref (lc 8 i) :: rest) lc s ck cn := v_last (t := 1) (lvW_8 hv) aW_8 (by rw [aW_8, tt_updL]) (fun _ _ h => tt_ent_wrL eW h) (fun _ _ h => h) rfl g d kk
theorem nW_8 (hv : lvA b i) (d : decode cc pc = .ok (.arraylength, 1)) (kk : tt_V (XW l D dA A b) cc Y Q (pc + 1) lv (.int 10 :: rest) lc s ck cn) : tt_V (XW l D dA A b) cc Y Q pc lv (.ref (lc 8 i) :: rest) lc s ck cn := v_alen (t := 1) (lvW_8 hv) aW_8 rfl rfl d kk
theorem lvW_9 (hv : lvA b i) : xV (XW l D dA A b) s 9 i := hv
theorem aW_9 : tt_ent (XW l D dA A b) lc s 9 i = .inl (dA 1, 7, .inr (.inl (rdL s 9 i))) := rfl
theorem lW_9 {j : Int32} (hv : lvA b i) (g : inB j 7 = true) (d : decode cc pc = .ok (.laload, 1)) (kk : tt_V (XW l D dA A b) cc Y Q (pc + 1) lv (.long (rdL s 9 i j.toNatClampNeg) :: rest) lc s ck cn) : tt_V (XW l D dA A b) cc Y Q pc lv (.int j :: .ref (lc 9 i) :: rest) lc s ck cn := v_lald (t := 1) (lvW_9 hv) aW_9 rfl g d kk
theorem sW_9 {j : Int32} {x : Int64} (hv : lvA b i) (g : inB j 7 = true) (d : decode cc pc = .ok (.lastore, 1)) (kk : tt_V (XW l D dA A b) cc Y Q (pc + 1) lv rest lc (wrL s 9 i j.toNatClampNeg x) ck cn) : tt_V (XW l D dA A b) cc Y Q pc lv (.long x :: .int j :: .ref (lc 9 i) :: rest) lc s ck cn := v_last (t := 1) (lvW_9 hv) aW_9 (by rw [aW_9, tt_updL]) (fun _ _ h => tt_ent_wrL eW h) (fun _ _ h => h) rfl g d kk
theorem nW_9 (hv : lvA b i) (d : decode cc pc = .ok (.arraylength, 1)) (kk : tt_V (XW l D dA A b) cc Y Q (pc + 1) lv (.int 7 :: rest) lc s ck cn) : tt_V (XW l D dA A b) cc Y Q pc lv (.ref (lc 9 i) :: rest) lc s ck cn := v_alen (t := 1) (lvW_9 hv) aW_9 rfl rfl d kk
theorem lvW_10 (hv : lvA b i) : xV (XW l D dA A b) s 10 i := hv
theorem aW_10 : tt_ent (XW l D dA A b) lc s 10 i = .inl (dA 1, 40, .inr (.inl (rdL s 10 i))) := rfl
theorem lW_10 {j : Int32} (hv : lvA b i) (g : inB j 40 = true) (d : decode cc pc = .ok (.laload, 1)) (kk : tt_V (XW l D dA A b) cc Y Q (pc + 1) lv (.long (rdL s 10 i j.toNatClampNeg) :: rest) lc s ck cn) : tt_V (XW l D dA A b) cc Y Q pc lv (.int j :: .ref (lc 10 i) :: rest) lc s ck cn := v_lald (t := 1) (lvW_10 hv) aW_10 rfl g d kk
theorem sW_10 {j : Int32} {x : Int64} (hv : lvA b i) (g : inB j 40 = true) (d : decode cc pc = .ok (.lastore, 1)) (kk : tt_V (XW l D dA A b) cc Y Q (pc + 1) lv rest lc (wrL s 10 i j.toNatClampNeg x) ck cn) : tt_V (XW l D dA A b) cc Y Q pc lv (.long x :: .int j :: .ref (lc 10 i) :: rest) lc s ck cn := v_last (t := 1) (lvW_10 hv) aW_10 (by rw [aW_10, tt_updL]) (fun _ _ h => tt_ent_wrL eW h) (fun _ _ h => h) rfl g d kk
theorem nW_10 (hv : lvA b i) (d : decode cc pc = .ok (.arraylength, 1)) (kk : tt_V (XW l D dA A b) cc Y Q (pc + 1) lv (.int 40 :: rest) lc s ck cn) : tt_V (XW l D dA A b) cc Y Q pc lv (.ref (lc 10 i) :: rest) lc s ck cn := v_alen (t := 1) (lvW_10 hv) aW_10 rfl rfl d kk
theorem lvW_11 (hv : lvA b i) : xV (XW l D dA A b) s 11 i := hv
theorem aW_11 : tt_ent (XW l D dA A b) lc s 11 i = .inl (dA 1, 40, .inr (.inl (rdL s 11 i))) := rfl
theorem lW_11 {j : Int32} (hv : lvA b i) (g : inB j 40 = true) (d : decode cc pc = .ok (.laload, 1)) (kk : tt_V (XW l D dA A b) cc Y Q (pc + 1) lv (.long (rdL s 11 i j.toNatClampNeg) :: rest) lc s ck cn) : tt_V (XW l D dA A b) cc Y Q pc lv (.int j :: .ref (lc 11 i) :: rest) lc s ck cn := v_lald (t := 1) (lvW_11 hv) aW_11 rfl g d kk
theorem sW_11 {j : Int32} {x : Int64} (hv : lvA b i) (g : inB j 40 = true) (d : decode cc pc = .ok (.lastore, 1)) (kk : tt_V (XW l D dA A b) cc Y Q (pc + 1) lv rest lc (wrL s 11 i j.toNatClampNeg x) ck cn) : tt_V (XW l D dA A b) cc Y Q pc lv (.long x :: .int j :: .ref (lc 11 i) :: rest) lc s ck cn := v_last (t := 1) (lvW_11 hv) aW_11 (by rw [aW_11, tt_updL]) (fun _ _ h => tt_ent_wrL eW h) (fun _ _ h => h) rfl g d kk
theorem nW_11 (hv : lvA b i) (d : decode cc pc = .ok (.arraylength, 1)) (kk : tt_V (XW l D dA A b) cc Y Q (pc + 1) lv (.int 40 :: rest) lc s ck cn) : tt_V (XW l D dA A b) cc Y Q pc lv (.ref (lc 11 i) :: rest) lc s ck cn := v_alen (t := 1) (lvW_11 hv) aW_11 rfl rfl d kk
theorem lvW_12 (hv : lvA b i) : xV (XW l D dA A b) s 12 i := hv
theorem aW_12 : tt_ent (XW l D dA A b) lc s 12 i = .inl (dA 1, 40, .inr (.inl (rdL s 12 i))) := rfl
theorem lW_12 {j : Int32} (hv : lvA b i) (g : inB j 40 = true) (d : decode cc pc = .ok (.laload, 1)) (kk : tt_V (XW l D dA A b) cc Y Q (pc + 1) lv (.long (rdL s 12 i j.toNatClampNeg) :: rest) lc s ck cn) : tt_V (XW l D dA A b) cc Y Q pc lv (.int j :: .ref (lc 12 i) :: rest) lc s ck cn := v_lald (t := 1) (lvW_12 hv) aW_12 rfl g d kk
theorem sW_12 {j : Int32} {x : Int64} (hv : lvA b i) (g : inB j 40 = true) (d : decode cc pc = .ok (.lastore, 1)) (kk : tt_V (XW l D dA A b) cc Y Q (pc + 1) lv rest lc (wrL s 12 i j.toNatClampNeg x) ck cn) : tt_V (XW l D dA A b) cc Y Q pc lv (.long x :: .int j :: .ref (lc 12 i) :: rest) lc s ck cn := v_last (t := 1) (lvW_12 hv) aW_12 (by rw [aW_12, tt_updL]) (fun _ _ h => tt_ent_wrL eW h) (fun _ _ h => h) rfl g d kk
theorem nW_12 (hv : lvA b i) (d : decode cc pc = .ok (.arraylength, 1)) (kk : tt_V (XW l D dA A b) cc Y Q (pc + 1) lv (.int 40 :: rest) lc s ck cn) : tt_V (XW l D dA A b) cc Y Q pc lv (.ref (lc 12 i) :: rest) lc s ck cn := v_alen (t := 1) (lvW_12 hv) aW_12 rfl rfl d kk
theorem lvW_13 (hv : lvA b i) : xV (XW l D dA A b) s 13 i := hv
theorem aW_13 : tt_ent (XW l D dA A b) lc s 13 i = .inl (dA 1, 160, .inr (.inl (rdL s 13 i))) := rfl
theorem lW_13 {j : Int32} (hv : lvA b i) (g : inB j 160 = true) (d : decode cc pc = .ok (.laload, 1)) (kk : tt_V (XW l D dA A b) cc Y Q (pc + 1) lv (.long (rdL s 13 i j.toNatClampNeg) :: rest) lc s ck cn) : tt_V (XW l D dA A b) cc Y Q pc lv (.int j :: .ref (lc 13 i) :: rest) lc s ck cn := v_lald (t := 1) (lvW_13 hv) aW_13 rfl g d kk
theorem sW_13 {j : Int32} {x : Int64} (hv : lvA b i) (g : inB j 160 = true) (d : decode cc pc = .ok (.lastore, 1)) (kk : tt_V (XW l D dA A b) cc Y Q (pc + 1) lv rest lc (wrL s 13 i j.toNatClampNeg x) ck cn) : tt_V (XW l D dA A b) cc Y Q pc lv (.long x :: .int j :: .ref (lc 13 i) :: rest) lc s ck cn := v_last (t := 1) (lvW_13 hv) aW_13 (by rw [aW_13, tt_updL]) (fun _ _ h => tt_ent_wrL eW h) (fun _ _ h => h) rfl g d kk
theorem nW_13 (hv : lvA b i) (d : decode cc pc = .ok (.arraylength, 1)) (kk : tt_V (XW l D dA A b) cc Y Q (pc + 1) lv (.int 160 :: rest) lc s ck cn) : tt_V (XW l D dA A b) cc Y Q pc lv (.ref (lc 13 i) :: rest) lc s ck cn := v_alen (t := 1) (lvW_13 hv) aW_13 rfl rfl d kk
theorem lvW_21 : xV (XW l D dA A b) s 21 0 := rfl
theorem aW_21 : tt_ent (XW l D dA A b) lc s 21 0 = .inl (dA 4, 12, .inr (.inr (.inr (.inr (fun j => some (lc 22 j)))))) := rfl
theorem lW_21 {j : Int32} (g : inB j 12 = true) (d : decode cc pc = .ok (.aaload, 1)) (kk : tt_V (XW l D dA A b) cc Y Q (pc + 1) lv (.ref (lc 22 j.toNatClampNeg) :: rest) lc s ck cn) : tt_V (XW l D dA A b) cc Y Q pc lv (.int j :: .ref (lc 21 0) :: rest) lc s ck cn := v_aald (t := 4) lvW_21 aW_21 rfl rfl g d kk
theorem nW_21 (d : decode cc pc = .ok (.arraylength, 1)) (kk : tt_V (XW l D dA A b) cc Y Q (pc + 1) lv (.int 12 :: rest) lc s ck cn) : tt_V (XW l D dA A b) cc Y Q pc lv (.ref (lc 21 0) :: rest) lc s ck cn := v_alen (t := 4) lvW_21 aW_21 rfl rfl d kk
theorem lvW_22 (hv : i < 12) : xV (XW l D dA A b) s 22 i := hv
theorem aW_22 : tt_ent (XW l D dA A b) lc s 22 i = .inl (dA 0, 6, .inl (rdI s 22 i)) := rfl
theorem lW_22 {j : Int32} (hv : i < 12) (g : inB j 6 = true) (d : decode cc pc = .ok (.iaload, 1)) (kk : tt_V (XW l D dA A b) cc Y Q (pc + 1) lv (.int (rdI s 22 i j.toNatClampNeg) :: rest) lc s ck cn) : tt_V (XW l D dA A b) cc Y Q pc lv (.int j :: .ref (lc 22 i) :: rest) lc s ck cn := v_iald (t := 0) (lvW_22 hv) aW_22 rfl g d kk
theorem sW_22 {j : Int32} {x : Int32} (hv : i < 12) (g : inB j 6 = true) (d : decode cc pc = .ok (.iastore, 1)) (kk : tt_V (XW l D dA A b) cc Y Q (pc + 1) lv rest lc (wrI s 22 i j.toNatClampNeg x) ck cn) : tt_V (XW l D dA A b) cc Y Q pc lv (.int x :: .int j :: .ref (lc 22 i) :: rest) lc s ck cn := v_iast (t := 0) (lvW_22 hv) aW_22 (by rw [aW_22, tt_updI]) (fun _ _ h => tt_ent_wrI eW h) (fun _ _ h => h) rfl g d kk
theorem nW_22 (hv : i < 12) (d : decode cc pc = .ok (.arraylength, 1)) (kk : tt_V (XW l D dA A b) cc Y Q (pc + 1) lv (.int 6 :: rest) lc s ck cn) : tt_V (XW l D dA A b) cc Y Q pc lv (.ref (lc 22 i) :: rest) lc s ck cn := v_alen (t := 0) (lvW_22 hv) aW_22 rfl rfl d kk
theorem lvW_23 : xV (XW l D dA A b) s 23 0 := rfl
theorem aW_23 : tt_ent (XW l D dA A b) lc s 23 0 = .inl (dA 0, 12, .inl (rdI s 23 0)) := rfl
theorem lW_23 {j : Int32} (g : inB j 12 = true) (d : decode cc pc = .ok (.iaload, 1)) (kk : tt_V (XW l D dA A b) cc Y Q (pc + 1) lv (.int (rdI s 23 0 j.toNatClampNeg) :: rest) lc s ck cn) : tt_V (XW l D dA A b) cc Y Q pc lv (.int j :: .ref (lc 23 0) :: rest) lc s ck cn := v_iald (t := 0) lvW_23 aW_23 rfl g d kk
theorem sW_23 {j : Int32} {x : Int32} (g : inB j 12 = true) (d : decode cc pc = .ok (.iastore, 1)) (kk : tt_V (XW l D dA A b) cc Y Q (pc + 1) lv rest lc (wrI s 23 0 j.toNatClampNeg x) ck cn) : tt_V (XW l D dA A b) cc Y Q pc lv (.int x :: .int j :: .ref (lc 23 0) :: rest) lc s ck cn := v_iast (t := 0) lvW_23 aW_23 (by rw [aW_23, tt_updI]) (fun _ _ h => tt_ent_wrI eW h) (fun _ _ h => h) rfl g d kk
theorem nW_23 (d : decode cc pc = .ok (.arraylength, 1)) (kk : tt_V (XW l D dA A b) cc Y Q (pc + 1) lv (.int 12 :: rest) lc s ck cn) : tt_V (XW l D dA A b) cc Y Q pc lv (.ref (lc 23 0) :: rest) lc s ck cn := v_alen (t := 0) lvW_23 aW_23 rfl rfl d kk
theorem lvW_24 : xV (XW l D dA A b) s 24 0 := rfl
theorem aW_24 : tt_ent (XW l D dA A b) lc s 24 0 = .inl (dA 0, 10, .inl (rdI s 24 0)) := rfl
theorem lW_24 {j : Int32} (g : inB j 10 = true) (d : decode cc pc = .ok (.iaload, 1)) (kk : tt_V (XW l D dA A b) cc Y Q (pc + 1) lv (.int (rdI s 24 0 j.toNatClampNeg) :: rest) lc s ck cn) : tt_V (XW l D dA A b) cc Y Q pc lv (.int j :: .ref (lc 24 0) :: rest) lc s ck cn := v_iald (t := 0) lvW_24 aW_24 rfl g d kk
theorem sW_24 {j : Int32} {x : Int32} (g : inB j 10 = true) (d : decode cc pc = .ok (.iastore, 1)) (kk : tt_V (XW l D dA A b) cc Y Q (pc + 1) lv rest lc (wrI s 24 0 j.toNatClampNeg x) ck cn) : tt_V (XW l D dA A b) cc Y Q pc lv (.int x :: .int j :: .ref (lc 24 0) :: rest) lc s ck cn := v_iast (t := 0) lvW_24 aW_24 (by rw [aW_24, tt_updI]) (fun _ _ h => tt_ent_wrI eW h) (fun _ _ h => h) rfl g d kk
theorem nW_24 (d : decode cc pc = .ok (.arraylength, 1)) (kk : tt_V (XW l D dA A b) cc Y Q (pc + 1) lv (.int 10 :: rest) lc s ck cn) : tt_V (XW l D dA A b) cc Y Q pc lv (.ref (lc 24 0) :: rest) lc s ck cn := v_alen (t := 0) lvW_24 aW_24 rfl rfl d kk
theorem lvW_25 : xV (XW l D dA A b) s 25 0 := rfl
theorem aW_25 : tt_ent (XW l D dA A b) lc s 25 0 = .inl (dA 1, 10, .inr (.inl (rdL s 25 0))) := rfl
theorem lW_25 {j : Int32} (g : inB j 10 = true) (d : decode cc pc = .ok (.laload, 1)) (kk : tt_V (XW l D dA A b) cc Y Q (pc + 1) lv (.long (rdL s 25 0 j.toNatClampNeg) :: rest) lc s ck cn) : tt_V (XW l D dA A b) cc Y Q pc lv (.int j :: .ref (lc 25 0) :: rest) lc s ck cn := v_lald (t := 1) lvW_25 aW_25 rfl g d kk
theorem sW_25 {j : Int32} {x : Int64} (g : inB j 10 = true) (d : decode cc pc = .ok (.lastore, 1)) (kk : tt_V (XW l D dA A b) cc Y Q (pc + 1) lv rest lc (wrL s 25 0 j.toNatClampNeg x) ck cn) : tt_V (XW l D dA A b) cc Y Q pc lv (.long x :: .int j :: .ref (lc 25 0) :: rest) lc s ck cn := v_last (t := 1) lvW_25 aW_25 (by rw [aW_25, tt_updL]) (fun _ _ h => tt_ent_wrL eW h) (fun _ _ h => h) rfl g d kk
theorem nW_25 (d : decode cc pc = .ok (.arraylength, 1)) (kk : tt_V (XW l D dA A b) cc Y Q (pc + 1) lv (.int 10 :: rest) lc s ck cn) : tt_V (XW l D dA A b) cc Y Q pc lv (.ref (lc 25 0) :: rest) lc s ck cn := v_alen (t := 1) lvW_25 aW_25 rfl rfl d kk
theorem lvW_26 : xV (XW l D dA A b) s 26 0 := rfl
theorem aW_26 : tt_ent (XW l D dA A b) lc s 26 0 = .inl (dA 1, 12, .inr (.inl (rdL s 26 0))) := rfl
theorem lW_26 {j : Int32} (g : inB j 12 = true) (d : decode cc pc = .ok (.laload, 1)) (kk : tt_V (XW l D dA A b) cc Y Q (pc + 1) lv (.long (rdL s 26 0 j.toNatClampNeg) :: rest) lc s ck cn) : tt_V (XW l D dA A b) cc Y Q pc lv (.int j :: .ref (lc 26 0) :: rest) lc s ck cn := v_lald (t := 1) lvW_26 aW_26 rfl g d kk
theorem sW_26 {j : Int32} {x : Int64} (g : inB j 12 = true) (d : decode cc pc = .ok (.lastore, 1)) (kk : tt_V (XW l D dA A b) cc Y Q (pc + 1) lv rest lc (wrL s 26 0 j.toNatClampNeg x) ck cn) : tt_V (XW l D dA A b) cc Y Q pc lv (.long x :: .int j :: .ref (lc 26 0) :: rest) lc s ck cn := v_last (t := 1) lvW_26 aW_26 (by rw [aW_26, tt_updL]) (fun _ _ h => tt_ent_wrL eW h) (fun _ _ h => h) rfl g d kk
theorem nW_26 (d : decode cc pc = .ok (.arraylength, 1)) (kk : tt_V (XW l D dA A b) cc Y Q (pc + 1) lv (.int 12 :: rest) lc s ck cn) : tt_V (XW l D dA A b) cc Y Q pc lv (.ref (lc 26 0) :: rest) lc s ck cn := v_alen (t := 1) lvW_26 aW_26 rfl rfl d kk
theorem lvW_27 : xV (XW l D dA A b) s 27 0 := rfl
theorem aW_27 : tt_ent (XW l D dA A b) lc s 27 0 = .inl (dA 1, 12, .inr (.inl (rdL s 27 0))) := rfl
theorem lW_27 {j : Int32} (g : inB j 12 = true) (d : decode cc pc = .ok (.laload, 1)) (kk : tt_V (XW l D dA A b) cc Y Q (pc + 1) lv (.long (rdL s 27 0 j.toNatClampNeg) :: rest) lc s ck cn) : tt_V (XW l D dA A b) cc Y Q pc lv (.int j :: .ref (lc 27 0) :: rest) lc s ck cn := v_lald (t := 1) lvW_27 aW_27 rfl g d kk
theorem sW_27 {j : Int32} {x : Int64} (g : inB j 12 = true) (d : decode cc pc = .ok (.lastore, 1)) (kk : tt_V (XW l D dA A b) cc Y Q (pc + 1) lv rest lc (wrL s 27 0 j.toNatClampNeg x) ck cn) : tt_V (XW l D dA A b) cc Y Q pc lv (.long x :: .int j :: .ref (lc 27 0) :: rest) lc s ck cn := v_last (t := 1) lvW_27 aW_27 (by rw [aW_27, tt_updL]) (fun _ _ h => tt_ent_wrL eW h) (fun _ _ h => h) rfl g d kk
theorem nW_27 (d : decode cc pc = .ok (.arraylength, 1)) (kk : tt_V (XW l D dA A b) cc Y Q (pc + 1) lv (.int 12 :: rest) lc s ck cn) : tt_V (XW l D dA A b) cc Y Q pc lv (.ref (lc 27 0) :: rest) lc s ck cn := v_alen (t := 1) lvW_27 aW_27 rfl rfl d kk
theorem lvW_28 : xV (XW l D dA A b) s 28 0 := rfl
theorem aW_28 : tt_ent (XW l D dA A b) lc s 28 0 = .inl (dA 1, 40, .inr (.inl (rdL s 28 0))) := rfl
theorem lW_28 {j : Int32} (g : inB j 40 = true) (d : decode cc pc = .ok (.laload, 1)) (kk : tt_V (XW l D dA A b) cc Y Q (pc + 1) lv (.long (rdL s 28 0 j.toNatClampNeg) :: rest) lc s ck cn) : tt_V (XW l D dA A b) cc Y Q pc lv (.int j :: .ref (lc 28 0) :: rest) lc s ck cn := v_lald (t := 1) lvW_28 aW_28 rfl g d kk
theorem sW_28 {j : Int32} {x : Int64} (g : inB j 40 = true) (d : decode cc pc = .ok (.lastore, 1)) (kk : tt_V (XW l D dA A b) cc Y Q (pc + 1) lv rest lc (wrL s 28 0 j.toNatClampNeg x) ck cn) : tt_V (XW l D dA A b) cc Y Q pc lv (.long x :: .int j :: .ref (lc 28 0) :: rest) lc s ck cn := v_last (t := 1) lvW_28 aW_28 (by rw [aW_28, tt_updL]) (fun _ _ h => tt_ent_wrL eW h) (fun _ _ h => h) rfl g d kk
theorem nW_28 (d : decode cc pc = .ok (.arraylength, 1)) (kk : tt_V (XW l D dA A b) cc Y Q (pc + 1) lv (.int 40 :: rest) lc s ck cn) : tt_V (XW l D dA A b) cc Y Q pc lv (.ref (lc 28 0) :: rest) lc s ck cn := v_alen (t := 1) lvW_28 aW_28 rfl rfl d kk
theorem lvW_29 : xV (XW l D dA A b) s 29 0 := rfl
theorem aW_29 : tt_ent (XW l D dA A b) lc s 29 0 = .inl (dA 1, 40, .inr (.inl (rdL s 29 0))) := rfl
theorem lW_29 {j : Int32} (g : inB j 40 = true) (d : decode cc pc = .ok (.laload, 1)) (kk : tt_V (XW l D dA A b) cc Y Q (pc + 1) lv (.long (rdL s 29 0 j.toNatClampNeg) :: rest) lc s ck cn) : tt_V (XW l D dA A b) cc Y Q pc lv (.int j :: .ref (lc 29 0) :: rest) lc s ck cn := v_lald (t := 1) lvW_29 aW_29 rfl g d kk
theorem sW_29 {j : Int32} {x : Int64} (g : inB j 40 = true) (d : decode cc pc = .ok (.lastore, 1)) (kk : tt_V (XW l D dA A b) cc Y Q (pc + 1) lv rest lc (wrL s 29 0 j.toNatClampNeg x) ck cn) : tt_V (XW l D dA A b) cc Y Q pc lv (.long x :: .int j :: .ref (lc 29 0) :: rest) lc s ck cn := v_last (t := 1) lvW_29 aW_29 (by rw [aW_29, tt_updL]) (fun _ _ h => tt_ent_wrL eW h) (fun _ _ h => h) rfl g d kk
theorem nW_29 (d : decode cc pc = .ok (.arraylength, 1)) (kk : tt_V (XW l D dA A b) cc Y Q (pc + 1) lv (.int 40 :: rest) lc s ck cn) : tt_V (XW l D dA A b) cc Y Q pc lv (.ref (lc 29 0) :: rest) lc s ck cn := v_alen (t := 1) lvW_29 aW_29 rfl rfl d kk
theorem lvW_30 : xV (XW l D dA A b) s 30 0 := rfl
theorem aW_30 : tt_ent (XW l D dA A b) lc s 30 0 = .inl (dA 1, 40, .inr (.inl (rdL s 30 0))) := rfl
theorem lW_30 {j : Int32} (g : inB j 40 = true) (d : decode cc pc = .ok (.laload, 1)) (kk : tt_V (XW l D dA A b) cc Y Q (pc + 1) lv (.long (rdL s 30 0 j.toNatClampNeg) :: rest) lc s ck cn) : tt_V (XW l D dA A b) cc Y Q pc lv (.int j :: .ref (lc 30 0) :: rest) lc s ck cn := v_lald (t := 1) lvW_30 aW_30 rfl g d kk
theorem sW_30 {j : Int32} {x : Int64} (g : inB j 40 = true) (d : decode cc pc = .ok (.lastore, 1)) (kk : tt_V (XW l D dA A b) cc Y Q (pc + 1) lv rest lc (wrL s 30 0 j.toNatClampNeg x) ck cn) : tt_V (XW l D dA A b) cc Y Q pc lv (.long x :: .int j :: .ref (lc 30 0) :: rest) lc s ck cn := v_last (t := 1) lvW_30 aW_30 (by rw [aW_30, tt_updL]) (fun _ _ h => tt_ent_wrL eW h) (fun _ _ h => h) rfl g d kk
theorem nW_30 (d : decode cc pc = .ok (.arraylength, 1)) (kk : tt_V (XW l D dA A b) cc Y Q (pc + 1) lv (.int 40 :: rest) lc s ck cn) : tt_V (XW l D dA A b) cc Y Q pc lv (.ref (lc 30 0) :: rest) lc s ck cn := v_alen (t := 1) lvW_30 aW_30 rfl rfl d kk
theorem lvW_31 : xV (XW l D dA A b) s 31 0 := rfl
theorem aW_31 : tt_ent (XW l D dA A b) lc s 31 0 = .inl (dA 5, 12, .inr (.inr (.inr (.inr (fun j => some (lc 32 j)))))) := rfl
theorem lW_31 {j : Int32} (g : inB j 12 = true) (d : decode cc pc = .ok (.aaload, 1)) (kk : tt_V (XW l D dA A b) cc Y Q (pc + 1) lv (.ref (lc 32 j.toNatClampNeg) :: rest) lc s ck cn) : tt_V (XW l D dA A b) cc Y Q pc lv (.int j :: .ref (lc 31 0) :: rest) lc s ck cn := v_aald (t := 5) lvW_31 aW_31 rfl rfl g d kk
theorem nW_31 (d : decode cc pc = .ok (.arraylength, 1)) (kk : tt_V (XW l D dA A b) cc Y Q (pc + 1) lv (.int 12 :: rest) lc s ck cn) : tt_V (XW l D dA A b) cc Y Q pc lv (.ref (lc 31 0) :: rest) lc s ck cn := v_alen (t := 5) lvW_31 aW_31 rfl rfl d kk
theorem lvW_35 : xV (XW l D dA A b) s 35 0 := rfl
theorem aW_35 : tt_ent (XW l D dA A b) lc s 35 0 = .inl (dA 6, 12, .inr (.inr (.inr (.inr (fun j => (rdR s 35 0 j).map (lc 32)))))) := rfl
theorem lW_35 {j : Int32} {t : Nat} (g : inB j 12 = true) (e : rdR s 35 0 j.toNatClampNeg = some t) (d : decode cc pc = .ok (.aaload, 1)) (kk : tt_V (XW l D dA A b) cc Y Q (pc + 1) lv (.ref (lc 32 t) :: rest) lc s ck cn) : tt_V (XW l D dA A b) cc Y Q pc lv (.int j :: .ref (lc 35 0) :: rest) lc s ck cn := v_aald (t := 6) lvW_35 aW_35 rfl rfl g d (by rw [e]; exact kk)
theorem lW_35n {j : Int32} (g : inB j 12 = true) (e : rdR s 35 0 j.toNatClampNeg = none) (d : decode cc pc = .ok (.aaload, 1)) (kk : tt_V (XW l D dA A b) cc Y Q (pc + 1) lv (.null :: rest) lc s ck cn) : tt_V (XW l D dA A b) cc Y Q pc lv (.int j :: .ref (lc 35 0) :: rest) lc s ck cn := v_aald (t := 6) lvW_35 aW_35 rfl rfl g d (by rw [e]; exact kk)
theorem uW_35 (s : tt_St) (j : Nat) (v : Option Nat) : tt_ent (XW l D dA A b) lc (wrR s 35 0 j v) 35 0 = .inl (dA 6, 12, .inr (.inr (.inr (.inr (va_up (fun j => (rdR s 35 0 j).map (lc 32)) j (v.map (lc 32))))))) := by
  rw [aW_35]
  congr 7
  funext c
  rw [rdR_wrR]
  unfold va_up
  by_cases h : c = j
  · rw [if_pos ⟨rfl, rfl, h⟩, if_pos h]
  · rw [if_neg (fun q => h q.2.2), if_neg h]
theorem sW_35n {j : Int32} (g : inB j 12 = true) (d : decode cc pc = .ok (.aastore, 1)) (kk : tt_V (XW l D dA A b) cc Y Q (pc + 1) lv rest lc (wrR s 35 0 j.toNatClampNeg none) ck cn) : tt_V (XW l D dA A b) cc Y Q pc lv (.null :: .int j :: .ref (lc 35 0) :: rest) lc s ck cn := v_aastN (t := 6) (C := "java/lang/Object") lvW_35 aW_35 (uW_35 ..) (fun _ _ h => tt_ent_wrR eW h) (fun _ _ h => h) rfl g d kk
theorem sW_35 {j : Int32} {t : Nat} (ht : t < 12) (g : inB j 12 = true) (d : decode cc pc = .ok (.aastore, 1)) (kk : tt_V (XW l D dA A b) cc Y Q (pc + 1) lv rest lc (wrR s 35 0 j.toNatClampNeg (some t)) ck cn) : tt_V (XW l D dA A b) cc Y Q pc lv (.ref (lc 32 t) :: .int j :: .ref (lc 35 0) :: rest) lc s ck cn := v_aast (t := 6) (kv := 32) (iv := t) lvW_35 aW_35 (uW_35 ..) (fun _ _ h => tt_ent_wrR eW h) (fun _ _ h => h) rfl (lvW_32 ht) oW_32 rfl (.inr ⟨knW, q2463⟩) g d kk
theorem nW_35 (d : decode cc pc = .ok (.arraylength, 1)) (kk : tt_V (XW l D dA A b) cc Y Q (pc + 1) lv (.int 12 :: rest) lc s ck cn) : tt_V (XW l D dA A b) cc Y Q pc lv (.ref (lc 35 0) :: rest) lc s ck cn := v_alen (t := 6) lvW_35 aW_35 rfl rfl d kk
theorem lvW_36 : xV (XW l D dA A b) s 36 0 := rfl
theorem aW_36 : tt_ent (XW l D dA A b) lc s 36 0 = .inl (dA 7, 4, .inr (.inr (.inr (.inr (fun j => some (lc 37 j)))))) := rfl
theorem lW_36 {j : Int32} (g : inB j 4 = true) (d : decode cc pc = .ok (.aaload, 1)) (kk : tt_V (XW l D dA A b) cc Y Q (pc + 1) lv (.ref (lc 37 j.toNatClampNeg) :: rest) lc s ck cn) : tt_V (XW l D dA A b) cc Y Q pc lv (.int j :: .ref (lc 36 0) :: rest) lc s ck cn := v_aald (t := 7) lvW_36 aW_36 rfl rfl g d kk
theorem nW_36 (d : decode cc pc = .ok (.arraylength, 1)) (kk : tt_V (XW l D dA A b) cc Y Q (pc + 1) lv (.int 4 :: rest) lc s ck cn) : tt_V (XW l D dA A b) cc Y Q pc lv (.ref (lc 36 0) :: rest) lc s ck cn := v_alen (t := 7) lvW_36 aW_36 rfl rfl d kk
theorem lvW_38 (hv : i < 4) : xV (XW l D dA A b) s 38 i := hv
end WB
